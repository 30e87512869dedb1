set_option maxRecDepth 100000
abbrev cX1_init : ByteArray := prog_1_method_10_code
def yX1_init : MethodName := ⟨RX1, "<init>", "()V"⟩
def dkwX1_init_2 : List UInt8 := [181, 0, 61, 177]
abbrev dktX1_init_2 : List UInt8 := dkwX1_init_2 ++ []
def dkwX1_init_1 : List UInt8 := [181, 0, 44, 42, 187, 0, 48, 89, 183, 0, 50, 181, 0, 51, 42, 18, 55, 181, 0, 57, 42, 2]
abbrev dktX1_init_1 : List UInt8 := dkwX1_init_1 ++ dktX1_init_2
def dkwX1_init_0 : List UInt8 := [42, 183, 0, 31, 42, 187, 0, 34, 89, 183, 0, 36, 181, 0, 37, 42, 187, 0, 41, 89, 183, 0, 43]
abbrev dktX1_init_0 : List UInt8 := dkwX1_init_0 ++ dktX1_init_1
theorem dksX1_init_0 : cX1_init.data.toList.drop 0 = dktX1_init_0 := by decide +kernel
theorem dksX1_init_1 : cX1_init.data.toList.drop 23 = dktX1_init_1 := dk_seg dksX1_init_0 23 rfl rfl
theorem dksX1_init_2 : cX1_init.data.toList.drop 45 = dktX1_init_2 := dk_seg dksX1_init_1 22 rfl rfl
theorem dX1_init_0 : decode cX1_init 0 = .ok (.aload_n 0, 1) := dk_42 (dk_at dksX1_init_0 0 rfl rfl)
theorem dX1_init_1 : decode cX1_init 1 = .ok (.invokespecial 31, 3) := dk_183 0 31 (dk_at dksX1_init_0 1 rfl rfl)
theorem dX1_init_4 : decode cX1_init 4 = .ok (.aload_n 0, 1) := dk_42 (dk_at dksX1_init_0 4 rfl rfl)
theorem dX1_init_5 : decode cX1_init 5 = .ok (.new 34, 3) := dk_187 0 34 (dk_at dksX1_init_0 5 rfl rfl)
theorem dX1_init_8 : decode cX1_init 8 = .ok (.dup, 1) := dk_89 (dk_at dksX1_init_0 8 rfl rfl)
theorem dX1_init_9 : decode cX1_init 9 = .ok (.invokespecial 36, 3) := dk_183 0 36 (dk_at dksX1_init_0 9 rfl rfl)
theorem dX1_init_12 : decode cX1_init 12 = .ok (.putfield 37, 3) := dk_181 0 37 (dk_at dksX1_init_0 12 rfl rfl)
theorem dX1_init_15 : decode cX1_init 15 = .ok (.aload_n 0, 1) := dk_42 (dk_at dksX1_init_0 15 rfl rfl)
theorem dX1_init_16 : decode cX1_init 16 = .ok (.new 41, 3) := dk_187 0 41 (dk_at dksX1_init_0 16 rfl rfl)
theorem dX1_init_19 : decode cX1_init 19 = .ok (.dup, 1) := dk_89 (dk_at dksX1_init_0 19 rfl rfl)
theorem dX1_init_20 : decode cX1_init 20 = .ok (.invokespecial 43, 3) := dk_183 0 43 (dk_at dksX1_init_0 20 rfl rfl)
theorem dX1_init_23 : decode cX1_init 23 = .ok (.putfield 44, 3) := dk_181 0 44 (dk_at dksX1_init_1 0 rfl rfl)
theorem dX1_init_26 : decode cX1_init 26 = .ok (.aload_n 0, 1) := dk_42 (dk_at dksX1_init_1 3 rfl rfl)
theorem dX1_init_27 : decode cX1_init 27 = .ok (.new 48, 3) := dk_187 0 48 (dk_at dksX1_init_1 4 rfl rfl)
theorem dX1_init_30 : decode cX1_init 30 = .ok (.dup, 1) := dk_89 (dk_at dksX1_init_1 7 rfl rfl)
theorem dX1_init_31 : decode cX1_init 31 = .ok (.invokespecial 50, 3) := dk_183 0 50 (dk_at dksX1_init_1 8 rfl rfl)
theorem dX1_init_34 : decode cX1_init 34 = .ok (.putfield 51, 3) := dk_181 0 51 (dk_at dksX1_init_1 11 rfl rfl)
theorem dX1_init_37 : decode cX1_init 37 = .ok (.aload_n 0, 1) := dk_42 (dk_at dksX1_init_1 14 rfl rfl)
theorem dX1_init_38 : decode cX1_init 38 = .ok (.ldc 55, 2) := dk_18 55 (dk_at dksX1_init_1 15 rfl rfl)
theorem dX1_init_40 : decode cX1_init 40 = .ok (.putfield 57, 3) := dk_181 0 57 (dk_at dksX1_init_1 17 rfl rfl)
theorem dX1_init_43 : decode cX1_init 43 = .ok (.aload_n 0, 1) := dk_42 (dk_at dksX1_init_1 20 rfl rfl)
theorem dX1_init_44 : decode cX1_init 44 = .ok (.iconst (-1), 1) := dk_2 (dk_at dksX1_init_1 21 rfl rfl)
theorem dX1_init_45 : decode cX1_init 45 = .ok (.putfield 61, 3) := dk_181 0 61 (dk_at dksX1_init_2 0 rfl rfl)
theorem dX1_init_48 : decode cX1_init 48 = .ok (.return_, 1) := dk_177 (dk_at dksX1_init_2 3 rfl rfl)
abbrev cX1_year : ByteArray := prog_1_method_21_code
def yX1_year : MethodName := ⟨RX1, "year", "()I"⟩
def dkwX1_year_0 : List UInt8 := [42, 178, 0, 162, 182, 0, 144, 172]
abbrev dktX1_year_0 : List UInt8 := dkwX1_year_0 ++ []
theorem dksX1_year_0 : cX1_year.data.toList.drop 0 = dktX1_year_0 := by decide +kernel
theorem dX1_year_0 : decode cX1_year 0 = .ok (.aload_n 0, 1) := dk_42 (dk_at dksX1_year_0 0 rfl rfl)
theorem dX1_year_1 : decode cX1_year 1 = .ok (.getstatic 162, 3) := dk_178 0 162 (dk_at dksX1_year_0 1 rfl rfl)
theorem dX1_year_4 : decode cX1_year 4 = .ok (.invokevirtual 144, 3) := dk_182 0 144 (dk_at dksX1_year_0 4 rfl rfl)
theorem dX1_year_7 : decode cX1_year 7 = .ok (.ireturn, 1) := dk_172 (dk_at dksX1_year_0 7 rfl rfl)
abbrev cX1_done : ByteArray := prog_1_method_13_code
def yX1_done : MethodName := ⟨RX1, "done", "(LMasterPrices$Order;)I"⟩
def dkwX1_done_1 : List UInt8 := [172, 78, 42, 45, 181, 0, 135, 187, 0, 139, 89, 183, 0, 141, 191]
abbrev dktX1_done_1 : List UInt8 := dkwX1_done_1 ++ []
def dkwX1_done_0 : List UInt8 := [187, 0, 34, 89, 42, 180, 0, 37, 183, 0, 126, 77, 43, 44, 184, 0, 129, 62, 42, 44, 182, 0, 132, 29]
abbrev dktX1_done_0 : List UInt8 := dkwX1_done_0 ++ dktX1_done_1
theorem dksX1_done_0 : cX1_done.data.toList.drop 0 = dktX1_done_0 := by decide +kernel
theorem dksX1_done_1 : cX1_done.data.toList.drop 24 = dktX1_done_1 := dk_seg dksX1_done_0 24 rfl rfl
theorem dX1_done_0 : decode cX1_done 0 = .ok (.new 34, 3) := dk_187 0 34 (dk_at dksX1_done_0 0 rfl rfl)
theorem dX1_done_3 : decode cX1_done 3 = .ok (.dup, 1) := dk_89 (dk_at dksX1_done_0 3 rfl rfl)
theorem dX1_done_4 : decode cX1_done 4 = .ok (.aload_n 0, 1) := dk_42 (dk_at dksX1_done_0 4 rfl rfl)
theorem dX1_done_5 : decode cX1_done 5 = .ok (.getfield 37, 3) := dk_180 0 37 (dk_at dksX1_done_0 5 rfl rfl)
theorem dX1_done_8 : decode cX1_done 8 = .ok (.invokespecial 126, 3) := dk_183 0 126 (dk_at dksX1_done_0 8 rfl rfl)
theorem dX1_done_11 : decode cX1_done 11 = .ok (.astore_n 2, 1) := dk_77 (dk_at dksX1_done_0 11 rfl rfl)
theorem dX1_done_12 : decode cX1_done 12 = .ok (.aload_n 1, 1) := dk_43 (dk_at dksX1_done_0 12 rfl rfl)
theorem dX1_done_13 : decode cX1_done 13 = .ok (.aload_n 2, 1) := dk_44 (dk_at dksX1_done_0 13 rfl rfl)
theorem dX1_done_14 : decode cX1_done 14 = .ok (.invokestatic 129, 3) := dk_184 0 129 (dk_at dksX1_done_0 14 rfl rfl)
theorem dX1_done_17 : decode cX1_done 17 = .ok (.istore_n 3, 1) := dk_62 (dk_at dksX1_done_0 17 rfl rfl)
theorem dX1_done_18 : decode cX1_done 18 = .ok (.aload_n 0, 1) := dk_42 (dk_at dksX1_done_0 18 rfl rfl)
theorem dX1_done_19 : decode cX1_done 19 = .ok (.aload_n 2, 1) := dk_44 (dk_at dksX1_done_0 19 rfl rfl)
theorem dX1_done_20 : decode cX1_done 20 = .ok (.invokevirtual 132, 3) := dk_182 0 132 (dk_at dksX1_done_0 20 rfl rfl)
theorem dX1_done_23 : decode cX1_done 23 = .ok (.iload_n 3, 1) := dk_29 (dk_at dksX1_done_0 23 rfl rfl)
theorem dX1_done_24 : decode cX1_done 24 = .ok (.ireturn, 1) := dk_172 (dk_at dksX1_done_1 0 rfl rfl)
theorem dX1_done_25 : decode cX1_done 25 = .ok (.astore_n 3, 1) := dk_78 (dk_at dksX1_done_1 1 rfl rfl)
theorem dX1_done_26 : decode cX1_done 26 = .ok (.aload_n 0, 1) := dk_42 (dk_at dksX1_done_1 2 rfl rfl)
theorem dX1_done_27 : decode cX1_done 27 = .ok (.aload_n 3, 1) := dk_45 (dk_at dksX1_done_1 3 rfl rfl)
theorem dX1_done_28 : decode cX1_done 28 = .ok (.putfield 135, 3) := dk_181 0 135 (dk_at dksX1_done_1 4 rfl rfl)
theorem dX1_done_31 : decode cX1_done 31 = .ok (.new 139, 3) := dk_187 0 139 (dk_at dksX1_done_1 7 rfl rfl)
theorem dX1_done_34 : decode cX1_done 34 = .ok (.dup, 1) := dk_89 (dk_at dksX1_done_1 10 rfl rfl)
theorem dX1_done_35 : decode cX1_done 35 = .ok (.invokespecial 141, 3) := dk_183 0 141 (dk_at dksX1_done_1 11 rfl rfl)
theorem dX1_done_38 : decode cX1_done 38 = .ok (.athrow, 1) := dk_191 (dk_at dksX1_done_1 14 rfl rfl)
abbrev cX1_does : ByteArray := prog_1_method_12_code
def yX1_does : MethodName := ⟨RX1, "does", "(LMasterPrices$Order;LMasterPrices$Town;)I"⟩
def dkwX1_does_4 : List UInt8 := [44, 180, 0, 115, 182, 0, 116, 172, 42, 192, 0, 120, 43, 182, 0, 122, 172]
abbrev dktX1_does_4 : List UInt8 := dkwX1_does_4 ++ []
def dkwX1_does_3 : List UInt8 := [180, 0, 99, 44, 180, 0, 106, 182, 0, 109, 172, 42, 193, 0, 113, 153, 0, 17, 42, 192, 0, 113, 77, 43]
abbrev dktX1_does_3 : List UInt8 := dkwX1_does_3 ++ dktX1_does_4
def dkwX1_does_2 : List UInt8 := [153, 0, 18, 43, 44, 180, 0, 96, 44, 180, 0, 99, 182, 0, 102, 167, 0, 19, 43, 44, 180, 0, 96, 44]
abbrev dktX1_does_2 : List UInt8 := dkwX1_does_2 ++ dktX1_does_3
def dkwX1_does_1 : List UInt8 := [167, 0, 7, 43, 182, 0, 88, 172, 42, 193, 0, 91, 153, 0, 47, 42, 192, 0, 91, 77, 44, 180, 0, 93]
abbrev dktX1_does_1 : List UInt8 := dkwX1_does_1 ++ dktX1_does_2
def dkwX1_does_0 : List UInt8 := [42, 193, 0, 79, 153, 0, 27, 42, 192, 0, 79, 77, 44, 180, 0, 81, 153, 0, 10, 43, 182, 0, 85]
abbrev dktX1_does_0 : List UInt8 := dkwX1_does_0 ++ dktX1_does_1
theorem dksX1_does_0 : cX1_does.data.toList.drop 0 = dktX1_does_0 := by decide +kernel
theorem dksX1_does_1 : cX1_does.data.toList.drop 23 = dktX1_does_1 := dk_seg dksX1_does_0 23 rfl rfl
theorem dksX1_does_2 : cX1_does.data.toList.drop 47 = dktX1_does_2 := dk_seg dksX1_does_1 24 rfl rfl
theorem dksX1_does_3 : cX1_does.data.toList.drop 71 = dktX1_does_3 := dk_seg dksX1_does_2 24 rfl rfl
theorem dksX1_does_4 : cX1_does.data.toList.drop 95 = dktX1_does_4 := dk_seg dksX1_does_3 24 rfl rfl
theorem dX1_does_0 : decode cX1_does 0 = .ok (.aload_n 0, 1) := dk_42 (dk_at dksX1_does_0 0 rfl rfl)
theorem dX1_does_1 : decode cX1_does 1 = .ok (.instanceof 79, 3) := dk_193 0 79 (dk_at dksX1_does_0 1 rfl rfl)
theorem dX1_does_4 : decode cX1_does 4 = .ok (.ifCond .eq 27, 3) := dk_153 0 27 (dk_at dksX1_does_0 4 rfl rfl)
theorem dX1_does_7 : decode cX1_does 7 = .ok (.aload_n 0, 1) := dk_42 (dk_at dksX1_does_0 7 rfl rfl)
theorem dX1_does_8 : decode cX1_does 8 = .ok (.checkcast 79, 3) := dk_192 0 79 (dk_at dksX1_does_0 8 rfl rfl)
theorem dX1_does_11 : decode cX1_does 11 = .ok (.astore_n 2, 1) := dk_77 (dk_at dksX1_does_0 11 rfl rfl)
theorem dX1_does_12 : decode cX1_does 12 = .ok (.aload_n 2, 1) := dk_44 (dk_at dksX1_does_0 12 rfl rfl)
theorem dX1_does_13 : decode cX1_does 13 = .ok (.getfield 81, 3) := dk_180 0 81 (dk_at dksX1_does_0 13 rfl rfl)
theorem dX1_does_16 : decode cX1_does 16 = .ok (.ifCond .eq 10, 3) := dk_153 0 10 (dk_at dksX1_does_0 16 rfl rfl)
theorem dX1_does_19 : decode cX1_does 19 = .ok (.aload_n 1, 1) := dk_43 (dk_at dksX1_does_0 19 rfl rfl)
theorem dX1_does_20 : decode cX1_does 20 = .ok (.invokevirtual 85, 3) := dk_182 0 85 (dk_at dksX1_does_0 20 rfl rfl)
theorem dX1_does_23 : decode cX1_does 23 = .ok (.goto 7, 3) := dk_167 0 7 (dk_at dksX1_does_1 0 rfl rfl)
theorem dX1_does_26 : decode cX1_does 26 = .ok (.aload_n 1, 1) := dk_43 (dk_at dksX1_does_1 3 rfl rfl)
theorem dX1_does_27 : decode cX1_does 27 = .ok (.invokevirtual 88, 3) := dk_182 0 88 (dk_at dksX1_does_1 4 rfl rfl)
theorem dX1_does_30 : decode cX1_does 30 = .ok (.ireturn, 1) := dk_172 (dk_at dksX1_does_1 7 rfl rfl)
theorem dX1_does_31 : decode cX1_does 31 = .ok (.aload_n 0, 1) := dk_42 (dk_at dksX1_does_1 8 rfl rfl)
theorem dX1_does_32 : decode cX1_does 32 = .ok (.instanceof 91, 3) := dk_193 0 91 (dk_at dksX1_does_1 9 rfl rfl)
theorem dX1_does_35 : decode cX1_does 35 = .ok (.ifCond .eq 47, 3) := dk_153 0 47 (dk_at dksX1_does_1 12 rfl rfl)
theorem dX1_does_38 : decode cX1_does 38 = .ok (.aload_n 0, 1) := dk_42 (dk_at dksX1_does_1 15 rfl rfl)
theorem dX1_does_39 : decode cX1_does 39 = .ok (.checkcast 91, 3) := dk_192 0 91 (dk_at dksX1_does_1 16 rfl rfl)
theorem dX1_does_42 : decode cX1_does 42 = .ok (.astore_n 2, 1) := dk_77 (dk_at dksX1_does_1 19 rfl rfl)
theorem dX1_does_43 : decode cX1_does 43 = .ok (.aload_n 2, 1) := dk_44 (dk_at dksX1_does_1 20 rfl rfl)
theorem dX1_does_44 : decode cX1_does 44 = .ok (.getfield 93, 3) := dk_180 0 93 (dk_at dksX1_does_1 21 rfl rfl)
theorem dX1_does_47 : decode cX1_does 47 = .ok (.ifCond .eq 18, 3) := dk_153 0 18 (dk_at dksX1_does_2 0 rfl rfl)
theorem dX1_does_50 : decode cX1_does 50 = .ok (.aload_n 1, 1) := dk_43 (dk_at dksX1_does_2 3 rfl rfl)
theorem dX1_does_51 : decode cX1_does 51 = .ok (.aload_n 2, 1) := dk_44 (dk_at dksX1_does_2 4 rfl rfl)
theorem dX1_does_52 : decode cX1_does 52 = .ok (.getfield 96, 3) := dk_180 0 96 (dk_at dksX1_does_2 5 rfl rfl)
theorem dX1_does_55 : decode cX1_does 55 = .ok (.aload_n 2, 1) := dk_44 (dk_at dksX1_does_2 8 rfl rfl)
theorem dX1_does_56 : decode cX1_does 56 = .ok (.getfield 99, 3) := dk_180 0 99 (dk_at dksX1_does_2 9 rfl rfl)
theorem dX1_does_59 : decode cX1_does 59 = .ok (.invokevirtual 102, 3) := dk_182 0 102 (dk_at dksX1_does_2 12 rfl rfl)
theorem dX1_does_62 : decode cX1_does 62 = .ok (.goto 19, 3) := dk_167 0 19 (dk_at dksX1_does_2 15 rfl rfl)
theorem dX1_does_65 : decode cX1_does 65 = .ok (.aload_n 1, 1) := dk_43 (dk_at dksX1_does_2 18 rfl rfl)
theorem dX1_does_66 : decode cX1_does 66 = .ok (.aload_n 2, 1) := dk_44 (dk_at dksX1_does_2 19 rfl rfl)
theorem dX1_does_67 : decode cX1_does 67 = .ok (.getfield 96, 3) := dk_180 0 96 (dk_at dksX1_does_2 20 rfl rfl)
theorem dX1_does_70 : decode cX1_does 70 = .ok (.aload_n 2, 1) := dk_44 (dk_at dksX1_does_2 23 rfl rfl)
theorem dX1_does_71 : decode cX1_does 71 = .ok (.getfield 99, 3) := dk_180 0 99 (dk_at dksX1_does_3 0 rfl rfl)
theorem dX1_does_74 : decode cX1_does 74 = .ok (.aload_n 2, 1) := dk_44 (dk_at dksX1_does_3 3 rfl rfl)
theorem dX1_does_75 : decode cX1_does 75 = .ok (.getfield 106, 3) := dk_180 0 106 (dk_at dksX1_does_3 4 rfl rfl)
theorem dX1_does_78 : decode cX1_does 78 = .ok (.invokevirtual 109, 3) := dk_182 0 109 (dk_at dksX1_does_3 7 rfl rfl)
theorem dX1_does_81 : decode cX1_does 81 = .ok (.ireturn, 1) := dk_172 (dk_at dksX1_does_3 10 rfl rfl)
theorem dX1_does_82 : decode cX1_does 82 = .ok (.aload_n 0, 1) := dk_42 (dk_at dksX1_does_3 11 rfl rfl)
theorem dX1_does_83 : decode cX1_does 83 = .ok (.instanceof 113, 3) := dk_193 0 113 (dk_at dksX1_does_3 12 rfl rfl)
theorem dX1_does_86 : decode cX1_does 86 = .ok (.ifCond .eq 17, 3) := dk_153 0 17 (dk_at dksX1_does_3 15 rfl rfl)
theorem dX1_does_89 : decode cX1_does 89 = .ok (.aload_n 0, 1) := dk_42 (dk_at dksX1_does_3 18 rfl rfl)
theorem dX1_does_90 : decode cX1_does 90 = .ok (.checkcast 113, 3) := dk_192 0 113 (dk_at dksX1_does_3 19 rfl rfl)
theorem dX1_does_93 : decode cX1_does 93 = .ok (.astore_n 2, 1) := dk_77 (dk_at dksX1_does_3 22 rfl rfl)
theorem dX1_does_94 : decode cX1_does 94 = .ok (.aload_n 1, 1) := dk_43 (dk_at dksX1_does_3 23 rfl rfl)
theorem dX1_does_95 : decode cX1_does 95 = .ok (.aload_n 2, 1) := dk_44 (dk_at dksX1_does_4 0 rfl rfl)
theorem dX1_does_96 : decode cX1_does 96 = .ok (.getfield 115, 3) := dk_180 0 115 (dk_at dksX1_does_4 1 rfl rfl)
theorem dX1_does_99 : decode cX1_does 99 = .ok (.invokevirtual 116, 3) := dk_182 0 116 (dk_at dksX1_does_4 4 rfl rfl)
theorem dX1_does_102 : decode cX1_does 102 = .ok (.ireturn, 1) := dk_172 (dk_at dksX1_does_4 7 rfl rfl)
theorem dX1_does_103 : decode cX1_does 103 = .ok (.aload_n 0, 1) := dk_42 (dk_at dksX1_does_4 8 rfl rfl)
theorem dX1_does_104 : decode cX1_does 104 = .ok (.checkcast 120, 3) := dk_192 0 120 (dk_at dksX1_does_4 9 rfl rfl)
theorem dX1_does_107 : decode cX1_does 107 = .ok (.aload_n 1, 1) := dk_43 (dk_at dksX1_does_4 12 rfl rfl)
theorem dX1_does_108 : decode cX1_does 108 = .ok (.invokevirtual 122, 3) := dk_182 0 122 (dk_at dksX1_does_4 13 rfl rfl)
theorem dX1_does_111 : decode cX1_does 111 = .ok (.ireturn, 1) := dk_172 (dk_at dksX1_does_4 16 rfl rfl)
abbrev cX1_check : ByteArray := prog_1_method_9_code
def yX1_check : MethodName := ⟨RX1, "check", "(ZII)V"⟩
def dkwX1_check_0 : List UInt8 := [26, 154, 0, 13, 187, 0, 26, 89, 27, 28, 183, 0, 28, 191, 177]
abbrev dktX1_check_0 : List UInt8 := dkwX1_check_0 ++ []
theorem dksX1_check_0 : cX1_check.data.toList.drop 0 = dktX1_check_0 := by decide +kernel
theorem dX1_check_0 : decode cX1_check 0 = .ok (.iload_n 0, 1) := dk_26 (dk_at dksX1_check_0 0 rfl rfl)
theorem dX1_check_1 : decode cX1_check 1 = .ok (.ifCond .ne 13, 3) := dk_154 0 13 (dk_at dksX1_check_0 1 rfl rfl)
theorem dX1_check_4 : decode cX1_check 4 = .ok (.new 26, 3) := dk_187 0 26 (dk_at dksX1_check_0 4 rfl rfl)
theorem dX1_check_7 : decode cX1_check 7 = .ok (.dup, 1) := dk_89 (dk_at dksX1_check_0 7 rfl rfl)
theorem dX1_check_8 : decode cX1_check 8 = .ok (.iload_n 1, 1) := dk_27 (dk_at dksX1_check_0 8 rfl rfl)
theorem dX1_check_9 : decode cX1_check 9 = .ok (.iload_n 2, 1) := dk_28 (dk_at dksX1_check_0 9 rfl rfl)
theorem dX1_check_10 : decode cX1_check 10 = .ok (.invokespecial 28, 3) := dk_183 0 28 (dk_at dksX1_check_0 10 rfl rfl)
theorem dX1_check_13 : decode cX1_check 13 = .ok (.athrow, 1) := dk_191 (dk_at dksX1_check_0 13 rfl rfl)
theorem dX1_check_14 : decode cX1_check 14 = .ok (.return_, 1) := dk_177 (dk_at dksX1_check_0 14 rfl rfl)
abbrev cX1_isBetween : ByteArray := prog_1_method_1_code
def yX1_isBetween : MethodName := ⟨RX1, "isBetween", "(III)Z"⟩
def dkwX1_isBetween_0 : List UInt8 := [27, 26, 163, 0, 12, 26, 28, 163, 0, 7, 4, 167, 0, 4, 3, 172]
abbrev dktX1_isBetween_0 : List UInt8 := dkwX1_isBetween_0 ++ []
theorem dksX1_isBetween_0 : cX1_isBetween.data.toList.drop 0 = dktX1_isBetween_0 := by decide +kernel
theorem dX1_isBetween_0 : decode cX1_isBetween 0 = .ok (.iload_n 1, 1) := dk_27 (dk_at dksX1_isBetween_0 0 rfl rfl)
theorem dX1_isBetween_1 : decode cX1_isBetween 1 = .ok (.iload_n 0, 1) := dk_26 (dk_at dksX1_isBetween_0 1 rfl rfl)
theorem dX1_isBetween_2 : decode cX1_isBetween 2 = .ok (.if_icmp .gt 12, 3) := dk_163 0 12 (dk_at dksX1_isBetween_0 2 rfl rfl)
theorem dX1_isBetween_5 : decode cX1_isBetween 5 = .ok (.iload_n 0, 1) := dk_26 (dk_at dksX1_isBetween_0 5 rfl rfl)
theorem dX1_isBetween_6 : decode cX1_isBetween 6 = .ok (.iload_n 2, 1) := dk_28 (dk_at dksX1_isBetween_0 6 rfl rfl)
theorem dX1_isBetween_7 : decode cX1_isBetween 7 = .ok (.if_icmp .gt 7, 3) := dk_163 0 7 (dk_at dksX1_isBetween_0 7 rfl rfl)
theorem dX1_isBetween_10 : decode cX1_isBetween 10 = .ok (.iconst 1, 1) := dk_4 (dk_at dksX1_isBetween_0 10 rfl rfl)
theorem dX1_isBetween_11 : decode cX1_isBetween 11 = .ok (.goto 4, 3) := dk_167 0 4 (dk_at dksX1_isBetween_0 11 rfl rfl)
theorem dX1_isBetween_14 : decode cX1_isBetween 14 = .ok (.iconst 0, 1) := dk_3 (dk_at dksX1_isBetween_0 14 rfl rfl)
theorem dX1_isBetween_15 : decode cX1_isBetween 15 = .ok (.ireturn, 1) := dk_172 (dk_at dksX1_isBetween_0 15 rfl rfl)
abbrev cX1_remember : ByteArray := prog_1_method_11_code
def yX1_remember : MethodName := ⟨RX1, "remember", "(LMasterPrices$Town;)V"⟩
def dkwX1_remember_1 : List UInt8 := [42, 180, 0, 44, 42, 180, 0, 37, 185, 0, 75, 2, 0, 42, 43, 181, 0, 37, 177]
abbrev dktX1_remember_1 : List UInt8 := dkwX1_remember_1 ++ []
def dkwX1_remember_0 : List UInt8 := [42, 180, 0, 44, 185, 0, 65, 1, 0, 16, 8, 160, 0, 13, 42, 180, 0, 44, 185, 0, 71, 1, 0, 87]
abbrev dktX1_remember_0 : List UInt8 := dkwX1_remember_0 ++ dktX1_remember_1
theorem dksX1_remember_0 : cX1_remember.data.toList.drop 0 = dktX1_remember_0 := by decide +kernel
theorem dksX1_remember_1 : cX1_remember.data.toList.drop 24 = dktX1_remember_1 := dk_seg dksX1_remember_0 24 rfl rfl
theorem dX1_remember_0 : decode cX1_remember 0 = .ok (.aload_n 0, 1) := dk_42 (dk_at dksX1_remember_0 0 rfl rfl)
theorem dX1_remember_1 : decode cX1_remember 1 = .ok (.getfield 44, 3) := dk_180 0 44 (dk_at dksX1_remember_0 1 rfl rfl)
theorem dX1_remember_4 : decode cX1_remember 4 = .ok (.invokeinterface 65 1, 5) := by decide +kernel
theorem dX1_remember_9 : decode cX1_remember 9 = .ok (.bipush 8, 2) := dk_16 8 (dk_at dksX1_remember_0 9 rfl rfl)
theorem dX1_remember_11 : decode cX1_remember 11 = .ok (.if_icmp .ne 13, 3) := dk_160 0 13 (dk_at dksX1_remember_0 11 rfl rfl)
theorem dX1_remember_14 : decode cX1_remember 14 = .ok (.aload_n 0, 1) := dk_42 (dk_at dksX1_remember_0 14 rfl rfl)
theorem dX1_remember_15 : decode cX1_remember 15 = .ok (.getfield 44, 3) := dk_180 0 44 (dk_at dksX1_remember_0 15 rfl rfl)
theorem dX1_remember_18 : decode cX1_remember 18 = .ok (.invokeinterface 71 1, 5) := by decide +kernel
theorem dX1_remember_23 : decode cX1_remember 23 = .ok (.pop, 1) := dk_87 (dk_at dksX1_remember_0 23 rfl rfl)
theorem dX1_remember_24 : decode cX1_remember 24 = .ok (.aload_n 0, 1) := dk_42 (dk_at dksX1_remember_1 0 rfl rfl)
theorem dX1_remember_25 : decode cX1_remember 25 = .ok (.getfield 44, 3) := dk_180 0 44 (dk_at dksX1_remember_1 1 rfl rfl)
theorem dX1_remember_28 : decode cX1_remember 28 = .ok (.aload_n 0, 1) := dk_42 (dk_at dksX1_remember_1 4 rfl rfl)
theorem dX1_remember_29 : decode cX1_remember 29 = .ok (.getfield 37, 3) := dk_180 0 37 (dk_at dksX1_remember_1 5 rfl rfl)
theorem dX1_remember_32 : decode cX1_remember 32 = .ok (.invokeinterface 75 2, 5) := by decide +kernel
theorem dX1_remember_37 : decode cX1_remember 37 = .ok (.aload_n 0, 1) := dk_42 (dk_at dksX1_remember_1 13 rfl rfl)
theorem dX1_remember_38 : decode cX1_remember 38 = .ok (.aload_n 1, 1) := dk_43 (dk_at dksX1_remember_1 14 rfl rfl)
theorem dX1_remember_39 : decode cX1_remember 39 = .ok (.putfield 37, 3) := dk_181 0 37 (dk_at dksX1_remember_1 15 rfl rfl)
theorem dX1_remember_42 : decode cX1_remember 42 = .ok (.return_, 1) := dk_177 (dk_at dksX1_remember_1 18 rfl rfl)
abbrev cX1_most : ByteArray := prog_1_method_35_code
def yX1_most : MethodName := ⟨RX1, "most", "()I"⟩
def dkwX1_most_0 : List UInt8 := [42, 180, 0, 37, 182, 1, 3, 172]
abbrev dktX1_most_0 : List UInt8 := dkwX1_most_0 ++ []
theorem dksX1_most_0 : cX1_most.data.toList.drop 0 = dktX1_most_0 := by decide +kernel
theorem dX1_most_0 : decode cX1_most 0 = .ok (.aload_n 0, 1) := dk_42 (dk_at dksX1_most_0 0 rfl rfl)
theorem dX1_most_1 : decode cX1_most 1 = .ok (.getfield 37, 3) := dk_180 0 37 (dk_at dksX1_most_0 1 rfl rfl)
theorem dX1_most_4 : decode cX1_most 4 = .ok (.invokevirtual 259, 3) := dk_182 1 3 (dk_at dksX1_most_0 4 rfl rfl)
theorem dX1_most_7 : decode cX1_most 7 = .ok (.ireturn, 1) := dk_172 (dk_at dksX1_most_0 7 rfl rfl)
abbrev cX1_pairing : ByteArray := prog_1_method_46_code
def yX1_pairing : MethodName := ⟨RX1, "pairing", "()I"⟩
def dkwX1_pairing_0 : List UInt8 := [42, 187, 0, 198, 89, 42, 180, 0, 37, 183, 0, 200, 182, 1, 98, 182, 1, 94, 172]
abbrev dktX1_pairing_0 : List UInt8 := dkwX1_pairing_0 ++ []
theorem dksX1_pairing_0 : cX1_pairing.data.toList.drop 0 = dktX1_pairing_0 := by decide +kernel
theorem dX1_pairing_0 : decode cX1_pairing 0 = .ok (.aload_n 0, 1) := dk_42 (dk_at dksX1_pairing_0 0 rfl rfl)
theorem dX1_pairing_1 : decode cX1_pairing 1 = .ok (.new 198, 3) := dk_187 0 198 (dk_at dksX1_pairing_0 1 rfl rfl)
theorem dX1_pairing_4 : decode cX1_pairing 4 = .ok (.dup, 1) := dk_89 (dk_at dksX1_pairing_0 4 rfl rfl)
theorem dX1_pairing_5 : decode cX1_pairing 5 = .ok (.aload_n 0, 1) := dk_42 (dk_at dksX1_pairing_0 5 rfl rfl)
theorem dX1_pairing_6 : decode cX1_pairing 6 = .ok (.getfield 37, 3) := dk_180 0 37 (dk_at dksX1_pairing_0 6 rfl rfl)
theorem dX1_pairing_9 : decode cX1_pairing 9 = .ok (.invokespecial 200, 3) := dk_183 0 200 (dk_at dksX1_pairing_0 9 rfl rfl)
theorem dX1_pairing_12 : decode cX1_pairing 12 = .ok (.invokevirtual 354, 3) := dk_182 1 98 (dk_at dksX1_pairing_0 12 rfl rfl)
theorem dX1_pairing_15 : decode cX1_pairing 15 = .ok (.invokevirtual 350, 3) := dk_182 1 94 (dk_at dksX1_pairing_0 15 rfl rfl)
theorem dX1_pairing_18 : decode cX1_pairing 18 = .ok (.ireturn, 1) := dk_172 (dk_at dksX1_pairing_0 18 rfl rfl)
abbrev cX1_writes : ByteArray := prog_1_method_44_code
def yX1_writes : MethodName := ⟨RX1, "writes", "(Ljava/lang/CharSequence;)I"⟩
def dkwX1_writes_0 : List UInt8 := [42, 43, 181, 0, 57, 42, 180, 0, 57, 185, 1, 88, 1, 0, 172]
abbrev dktX1_writes_0 : List UInt8 := dkwX1_writes_0 ++ []
theorem dksX1_writes_0 : cX1_writes.data.toList.drop 0 = dktX1_writes_0 := by decide +kernel
theorem dX1_writes_0 : decode cX1_writes 0 = .ok (.aload_n 0, 1) := dk_42 (dk_at dksX1_writes_0 0 rfl rfl)
theorem dX1_writes_1 : decode cX1_writes 1 = .ok (.aload_n 1, 1) := dk_43 (dk_at dksX1_writes_0 1 rfl rfl)
theorem dX1_writes_2 : decode cX1_writes 2 = .ok (.putfield 57, 3) := dk_181 0 57 (dk_at dksX1_writes_0 2 rfl rfl)
theorem dX1_writes_5 : decode cX1_writes 5 = .ok (.aload_n 0, 1) := dk_42 (dk_at dksX1_writes_0 5 rfl rfl)
theorem dX1_writes_6 : decode cX1_writes 6 = .ok (.getfield 57, 3) := dk_180 0 57 (dk_at dksX1_writes_0 6 rfl rfl)
theorem dX1_writes_9 : decode cX1_writes 9 = .ok (.invokeinterface 344 1, 5) := by decide +kernel
theorem dX1_writes_14 : decode cX1_writes 14 = .ok (.ireturn, 1) := dk_172 (dk_at dksX1_writes_0 14 rfl rfl)
abbrev cX1_isBalanced : ByteArray := prog_1_method_51_code
def yX1_isBalanced : MethodName := ⟨RX1, "isBalanced", "()Z"⟩
def dkwX1_isBalanced_0 : List UInt8 := [42, 180, 0, 37, 182, 1, 139, 172]
abbrev dktX1_isBalanced_0 : List UInt8 := dkwX1_isBalanced_0 ++ []
theorem dksX1_isBalanced_0 : cX1_isBalanced.data.toList.drop 0 = dktX1_isBalanced_0 := by decide +kernel
theorem dX1_isBalanced_0 : decode cX1_isBalanced 0 = .ok (.aload_n 0, 1) := dk_42 (dk_at dksX1_isBalanced_0 0 rfl rfl)
theorem dX1_isBalanced_1 : decode cX1_isBalanced 1 = .ok (.getfield 37, 3) := dk_180 0 37 (dk_at dksX1_isBalanced_0 1 rfl rfl)
theorem dX1_isBalanced_4 : decode cX1_isBalanced 4 = .ok (.invokevirtual 395, 3) := dk_182 1 139 (dk_at dksX1_isBalanced_0 4 rfl rfl)
theorem dX1_isBalanced_7 : decode cX1_isBalanced 7 = .ok (.ireturn, 1) := dk_172 (dk_at dksX1_isBalanced_0 7 rfl rfl)
abbrev cX1_save : ByteArray := prog_1_method_53_code
def yX1_save : MethodName := ⟨RX1, "save", "()I"⟩
def dkwX1_save_0 : List UInt8 := [42, 42, 180, 0, 37, 181, 1, 148, 42, 180, 0, 37, 182, 1, 115, 172]
abbrev dktX1_save_0 : List UInt8 := dkwX1_save_0 ++ []
theorem dksX1_save_0 : cX1_save.data.toList.drop 0 = dktX1_save_0 := by decide +kernel
theorem dX1_save_0 : decode cX1_save 0 = .ok (.aload_n 0, 1) := dk_42 (dk_at dksX1_save_0 0 rfl rfl)
theorem dX1_save_1 : decode cX1_save 1 = .ok (.aload_n 0, 1) := dk_42 (dk_at dksX1_save_0 1 rfl rfl)
theorem dX1_save_2 : decode cX1_save 2 = .ok (.getfield 37, 3) := dk_180 0 37 (dk_at dksX1_save_0 2 rfl rfl)
theorem dX1_save_5 : decode cX1_save 5 = .ok (.putfield 404, 3) := dk_181 1 148 (dk_at dksX1_save_0 5 rfl rfl)
theorem dX1_save_8 : decode cX1_save 8 = .ok (.aload_n 0, 1) := dk_42 (dk_at dksX1_save_0 8 rfl rfl)
theorem dX1_save_9 : decode cX1_save 9 = .ok (.getfield 37, 3) := dk_180 0 37 (dk_at dksX1_save_0 9 rfl rfl)
theorem dX1_save_12 : decode cX1_save 12 = .ok (.invokevirtual 371, 3) := dk_182 1 115 (dk_at dksX1_save_0 12 rfl rfl)
theorem dX1_save_15 : decode cX1_save 15 = .ok (.ireturn, 1) := dk_172 (dk_at dksX1_save_0 15 rfl rfl)
abbrev cX1_apprentice : ByteArray := prog_1_method_14_code
def yX1_apprentice : MethodName := ⟨RX1, "apprentice", "()I"⟩
def dkwX1_apprentice_0 : List UInt8 := [42, 187, 0, 79, 89, 3, 183, 0, 142, 182, 0, 144, 172]
abbrev dktX1_apprentice_0 : List UInt8 := dkwX1_apprentice_0 ++ []
theorem dksX1_apprentice_0 : cX1_apprentice.data.toList.drop 0 = dktX1_apprentice_0 := by decide +kernel
theorem dX1_apprentice_0 : decode cX1_apprentice 0 = .ok (.aload_n 0, 1) := dk_42 (dk_at dksX1_apprentice_0 0 rfl rfl)
theorem dX1_apprentice_1 : decode cX1_apprentice 1 = .ok (.new 79, 3) := dk_187 0 79 (dk_at dksX1_apprentice_0 1 rfl rfl)
theorem dX1_apprentice_4 : decode cX1_apprentice 4 = .ok (.dup, 1) := dk_89 (dk_at dksX1_apprentice_0 4 rfl rfl)
theorem dX1_apprentice_5 : decode cX1_apprentice 5 = .ok (.iconst 0, 1) := dk_3 (dk_at dksX1_apprentice_0 5 rfl rfl)
theorem dX1_apprentice_6 : decode cX1_apprentice 6 = .ok (.invokespecial 142, 3) := dk_183 0 142 (dk_at dksX1_apprentice_0 6 rfl rfl)
theorem dX1_apprentice_9 : decode cX1_apprentice 9 = .ok (.invokevirtual 144, 3) := dk_182 0 144 (dk_at dksX1_apprentice_0 9 rfl rfl)
theorem dX1_apprentice_12 : decode cX1_apprentice 12 = .ok (.ireturn, 1) := dk_172 (dk_at dksX1_apprentice_0 12 rfl rfl)
abbrev cX1_master : ByteArray := prog_1_method_15_code
def yX1_master : MethodName := ⟨RX1, "master", "()I"⟩
def dkwX1_master_0 : List UInt8 := [42, 187, 0, 79, 89, 4, 183, 0, 142, 182, 0, 144, 172]
abbrev dktX1_master_0 : List UInt8 := dkwX1_master_0 ++ []
theorem dksX1_master_0 : cX1_master.data.toList.drop 0 = dktX1_master_0 := by decide +kernel
theorem dX1_master_0 : decode cX1_master 0 = .ok (.aload_n 0, 1) := dk_42 (dk_at dksX1_master_0 0 rfl rfl)
theorem dX1_master_1 : decode cX1_master 1 = .ok (.new 79, 3) := dk_187 0 79 (dk_at dksX1_master_0 1 rfl rfl)
theorem dX1_master_4 : decode cX1_master 4 = .ok (.dup, 1) := dk_89 (dk_at dksX1_master_0 4 rfl rfl)
theorem dX1_master_5 : decode cX1_master 5 = .ok (.iconst 1, 1) := dk_4 (dk_at dksX1_master_0 5 rfl rfl)
theorem dX1_master_6 : decode cX1_master 6 = .ok (.invokespecial 142, 3) := dk_183 0 142 (dk_at dksX1_master_0 6 rfl rfl)
theorem dX1_master_9 : decode cX1_master 9 = .ok (.invokevirtual 144, 3) := dk_182 0 144 (dk_at dksX1_master_0 9 rfl rfl)
theorem dX1_master_12 : decode cX1_master 12 = .ok (.ireturn, 1) := dk_172 (dk_at dksX1_master_0 12 rfl rfl)
abbrev cX1_cost : ByteArray := prog_1_method_16_code
def yX1_cost : MethodName := ⟨RX1, "cost", "(III)I"⟩
def dkwX1_cost_0 : List UInt8 := [42, 187, 0, 91, 89, 27, 28, 29, 183, 0, 148, 182, 0, 144, 172]
abbrev dktX1_cost_0 : List UInt8 := dkwX1_cost_0 ++ []
theorem dksX1_cost_0 : cX1_cost.data.toList.drop 0 = dktX1_cost_0 := by decide +kernel
theorem dX1_cost_0 : decode cX1_cost 0 = .ok (.aload_n 0, 1) := dk_42 (dk_at dksX1_cost_0 0 rfl rfl)
theorem dX1_cost_1 : decode cX1_cost 1 = .ok (.new 91, 3) := dk_187 0 91 (dk_at dksX1_cost_0 1 rfl rfl)
theorem dX1_cost_4 : decode cX1_cost 4 = .ok (.dup, 1) := dk_89 (dk_at dksX1_cost_0 4 rfl rfl)
theorem dX1_cost_5 : decode cX1_cost 5 = .ok (.iload_n 1, 1) := dk_27 (dk_at dksX1_cost_0 5 rfl rfl)
theorem dX1_cost_6 : decode cX1_cost 6 = .ok (.iload_n 2, 1) := dk_28 (dk_at dksX1_cost_0 6 rfl rfl)
theorem dX1_cost_7 : decode cX1_cost 7 = .ok (.iload_n 3, 1) := dk_29 (dk_at dksX1_cost_0 7 rfl rfl)
theorem dX1_cost_8 : decode cX1_cost 8 = .ok (.invokespecial 148, 3) := dk_183 0 148 (dk_at dksX1_cost_0 8 rfl rfl)
theorem dX1_cost_11 : decode cX1_cost 11 = .ok (.invokevirtual 144, 3) := dk_182 0 144 (dk_at dksX1_cost_0 11 rfl rfl)
theorem dX1_cost_14 : decode cX1_cost 14 = .ok (.ireturn, 1) := dk_172 (dk_at dksX1_cost_0 14 rfl rfl)
abbrev cX1_bar : ByteArray := prog_1_method_17_code
def yX1_bar : MethodName := ⟨RX1, "bar", "(II)I"⟩
def dkwX1_bar_0 : List UInt8 := [42, 187, 0, 91, 89, 27, 28, 183, 0, 151, 182, 0, 144, 172]
abbrev dktX1_bar_0 : List UInt8 := dkwX1_bar_0 ++ []
theorem dksX1_bar_0 : cX1_bar.data.toList.drop 0 = dktX1_bar_0 := by decide +kernel
theorem dX1_bar_0 : decode cX1_bar 0 = .ok (.aload_n 0, 1) := dk_42 (dk_at dksX1_bar_0 0 rfl rfl)
theorem dX1_bar_1 : decode cX1_bar 1 = .ok (.new 91, 3) := dk_187 0 91 (dk_at dksX1_bar_0 1 rfl rfl)
theorem dX1_bar_4 : decode cX1_bar 4 = .ok (.dup, 1) := dk_89 (dk_at dksX1_bar_0 4 rfl rfl)
theorem dX1_bar_5 : decode cX1_bar 5 = .ok (.iload_n 1, 1) := dk_27 (dk_at dksX1_bar_0 5 rfl rfl)
theorem dX1_bar_6 : decode cX1_bar 6 = .ok (.iload_n 2, 1) := dk_28 (dk_at dksX1_bar_0 6 rfl rfl)
theorem dX1_bar_7 : decode cX1_bar 7 = .ok (.invokespecial 151, 3) := dk_183 0 151 (dk_at dksX1_bar_0 7 rfl rfl)
theorem dX1_bar_10 : decode cX1_bar 10 = .ok (.invokevirtual 144, 3) := dk_182 0 144 (dk_at dksX1_bar_0 10 rfl rfl)
theorem dX1_bar_13 : decode cX1_bar 13 = .ok (.ireturn, 1) := dk_172 (dk_at dksX1_bar_0 13 rfl rfl)
abbrev cX1_bid : ByteArray := prog_1_method_18_code
def yX1_bid : MethodName := ⟨RX1, "bid", "()I"⟩
def dkwX1_bid_0 : List UInt8 := [42, 178, 0, 152, 182, 0, 144, 172]
abbrev dktX1_bid_0 : List UInt8 := dkwX1_bid_0 ++ []
theorem dksX1_bid_0 : cX1_bid.data.toList.drop 0 = dktX1_bid_0 := by decide +kernel
theorem dX1_bid_0 : decode cX1_bid 0 = .ok (.aload_n 0, 1) := dk_42 (dk_at dksX1_bid_0 0 rfl rfl)
theorem dX1_bid_1 : decode cX1_bid 1 = .ok (.getstatic 152, 3) := dk_178 0 152 (dk_at dksX1_bid_0 1 rfl rfl)
theorem dX1_bid_4 : decode cX1_bid 4 = .ok (.invokevirtual 144, 3) := dk_182 0 144 (dk_at dksX1_bid_0 4 rfl rfl)
theorem dX1_bid_7 : decode cX1_bid 7 = .ok (.ireturn, 1) := dk_172 (dk_at dksX1_bid_0 7 rfl rfl)
abbrev cX1_settle : ByteArray := prog_1_method_19_code
def yX1_settle : MethodName := ⟨RX1, "settle", "()I"⟩
def dkwX1_settle_0 : List UInt8 := [42, 178, 0, 156, 182, 0, 144, 172]
abbrev dktX1_settle_0 : List UInt8 := dkwX1_settle_0 ++ []
theorem dksX1_settle_0 : cX1_settle.data.toList.drop 0 = dktX1_settle_0 := by decide +kernel
theorem dX1_settle_0 : decode cX1_settle 0 = .ok (.aload_n 0, 1) := dk_42 (dk_at dksX1_settle_0 0 rfl rfl)
theorem dX1_settle_1 : decode cX1_settle 1 = .ok (.getstatic 156, 3) := dk_178 0 156 (dk_at dksX1_settle_0 1 rfl rfl)
theorem dX1_settle_4 : decode cX1_settle 4 = .ok (.invokevirtual 144, 3) := dk_182 0 144 (dk_at dksX1_settle_0 4 rfl rfl)
theorem dX1_settle_7 : decode cX1_settle 7 = .ok (.ireturn, 1) := dk_172 (dk_at dksX1_settle_0 7 rfl rfl)
abbrev cX1_leave : ByteArray := prog_1_method_20_code
def yX1_leave : MethodName := ⟨RX1, "leave", "(I)I"⟩
def dkwX1_leave_0 : List UInt8 := [42, 187, 0, 113, 89, 27, 183, 0, 159, 182, 0, 144, 172]
abbrev dktX1_leave_0 : List UInt8 := dkwX1_leave_0 ++ []
theorem dksX1_leave_0 : cX1_leave.data.toList.drop 0 = dktX1_leave_0 := by decide +kernel
theorem dX1_leave_0 : decode cX1_leave 0 = .ok (.aload_n 0, 1) := dk_42 (dk_at dksX1_leave_0 0 rfl rfl)
theorem dX1_leave_1 : decode cX1_leave 1 = .ok (.new 113, 3) := dk_187 0 113 (dk_at dksX1_leave_0 1 rfl rfl)
theorem dX1_leave_4 : decode cX1_leave 4 = .ok (.dup, 1) := dk_89 (dk_at dksX1_leave_0 4 rfl rfl)
theorem dX1_leave_5 : decode cX1_leave 5 = .ok (.iload_n 1, 1) := dk_27 (dk_at dksX1_leave_0 5 rfl rfl)
theorem dX1_leave_6 : decode cX1_leave 6 = .ok (.invokespecial 159, 3) := dk_183 0 159 (dk_at dksX1_leave_0 6 rfl rfl)
theorem dX1_leave_9 : decode cX1_leave 9 = .ok (.invokevirtual 144, 3) := dk_182 0 144 (dk_at dksX1_leave_0 9 rfl rfl)
theorem dX1_leave_12 : decode cX1_leave 12 = .ok (.ireturn, 1) := dk_172 (dk_at dksX1_leave_0 12 rfl rfl)
abbrev cX1_costOf : ByteArray := prog_1_method_25_code
def yX1_costOf : MethodName := ⟨RX1, "costOf", "(II)I"⟩
def dkwX1_costOf_0 : List UInt8 := [42, 27, 28, 182, 0, 184, 42, 180, 0, 37, 180, 0, 187, 27, 50, 28, 46, 172]
abbrev dktX1_costOf_0 : List UInt8 := dkwX1_costOf_0 ++ []
theorem dksX1_costOf_0 : cX1_costOf.data.toList.drop 0 = dktX1_costOf_0 := by decide +kernel
theorem dX1_costOf_0 : decode cX1_costOf 0 = .ok (.aload_n 0, 1) := dk_42 (dk_at dksX1_costOf_0 0 rfl rfl)
theorem dX1_costOf_1 : decode cX1_costOf 1 = .ok (.iload_n 1, 1) := dk_27 (dk_at dksX1_costOf_0 1 rfl rfl)
theorem dX1_costOf_2 : decode cX1_costOf 2 = .ok (.iload_n 2, 1) := dk_28 (dk_at dksX1_costOf_0 2 rfl rfl)
theorem dX1_costOf_3 : decode cX1_costOf 3 = .ok (.invokevirtual 184, 3) := dk_182 0 184 (dk_at dksX1_costOf_0 3 rfl rfl)
theorem dX1_costOf_6 : decode cX1_costOf 6 = .ok (.aload_n 0, 1) := dk_42 (dk_at dksX1_costOf_0 6 rfl rfl)
theorem dX1_costOf_7 : decode cX1_costOf 7 = .ok (.getfield 37, 3) := dk_180 0 37 (dk_at dksX1_costOf_0 7 rfl rfl)
theorem dX1_costOf_10 : decode cX1_costOf 10 = .ok (.getfield 187, 3) := dk_180 0 187 (dk_at dksX1_costOf_0 10 rfl rfl)
theorem dX1_costOf_13 : decode cX1_costOf 13 = .ok (.iload_n 1, 1) := dk_27 (dk_at dksX1_costOf_0 13 rfl rfl)
theorem dX1_costOf_14 : decode cX1_costOf 14 = .ok (.aaload, 1) := dk_50 (dk_at dksX1_costOf_0 14 rfl rfl)
theorem dX1_costOf_15 : decode cX1_costOf 15 = .ok (.iload_n 2, 1) := dk_28 (dk_at dksX1_costOf_0 15 rfl rfl)
theorem dX1_costOf_16 : decode cX1_costOf 16 = .ok (.iaload, 1) := dk_46 (dk_at dksX1_costOf_0 16 rfl rfl)
theorem dX1_costOf_17 : decode cX1_costOf 17 = .ok (.ireturn, 1) := dk_172 (dk_at dksX1_costOf_0 17 rfl rfl)
abbrev cX1_requireBoth : ByteArray := prog_1_method_24_code
def yX1_requireBoth : MethodName := ⟨RX1, "requireBoth", "(II)V"⟩
def dkwX1_requireBoth_0 : List UInt8 := [42, 27, 182, 0, 178, 42, 28, 182, 0, 181, 177]
abbrev dktX1_requireBoth_0 : List UInt8 := dkwX1_requireBoth_0 ++ []
theorem dksX1_requireBoth_0 : cX1_requireBoth.data.toList.drop 0 = dktX1_requireBoth_0 := by decide +kernel
theorem dX1_requireBoth_0 : decode cX1_requireBoth 0 = .ok (.aload_n 0, 1) := dk_42 (dk_at dksX1_requireBoth_0 0 rfl rfl)
theorem dX1_requireBoth_1 : decode cX1_requireBoth 1 = .ok (.iload_n 1, 1) := dk_27 (dk_at dksX1_requireBoth_0 1 rfl rfl)
theorem dX1_requireBoth_2 : decode cX1_requireBoth 2 = .ok (.invokevirtual 178, 3) := dk_182 0 178 (dk_at dksX1_requireBoth_0 2 rfl rfl)
theorem dX1_requireBoth_5 : decode cX1_requireBoth 5 = .ok (.aload_n 0, 1) := dk_42 (dk_at dksX1_requireBoth_0 5 rfl rfl)
theorem dX1_requireBoth_6 : decode cX1_requireBoth 6 = .ok (.iload_n 2, 1) := dk_28 (dk_at dksX1_requireBoth_0 6 rfl rfl)
theorem dX1_requireBoth_7 : decode cX1_requireBoth 7 = .ok (.invokevirtual 181, 3) := dk_182 0 181 (dk_at dksX1_requireBoth_0 7 rfl rfl)
theorem dX1_requireBoth_10 : decode cX1_requireBoth 10 = .ok (.return_, 1) := dk_177 (dk_at dksX1_requireBoth_0 10 rfl rfl)
abbrev cX1_requireApprentice : ByteArray := prog_1_method_22_code
def yX1_requireApprentice : MethodName := ⟨RX1, "requireApprentice", "(I)V"⟩
def dkwX1_requireApprentice_0 : List UInt8 := [27, 3, 42, 180, 0, 37, 180, 0, 165, 4, 100, 184, 0, 168, 184, 0, 172, 177]
abbrev dktX1_requireApprentice_0 : List UInt8 := dkwX1_requireApprentice_0 ++ []
theorem dksX1_requireApprentice_0 : cX1_requireApprentice.data.toList.drop 0 = dktX1_requireApprentice_0 := by decide +kernel
theorem dX1_requireApprentice_0 : decode cX1_requireApprentice 0 = .ok (.iload_n 1, 1) := dk_27 (dk_at dksX1_requireApprentice_0 0 rfl rfl)
theorem dX1_requireApprentice_1 : decode cX1_requireApprentice 1 = .ok (.iconst 0, 1) := dk_3 (dk_at dksX1_requireApprentice_0 1 rfl rfl)
theorem dX1_requireApprentice_2 : decode cX1_requireApprentice 2 = .ok (.aload_n 0, 1) := dk_42 (dk_at dksX1_requireApprentice_0 2 rfl rfl)
theorem dX1_requireApprentice_3 : decode cX1_requireApprentice 3 = .ok (.getfield 37, 3) := dk_180 0 37 (dk_at dksX1_requireApprentice_0 3 rfl rfl)
theorem dX1_requireApprentice_6 : decode cX1_requireApprentice 6 = .ok (.getfield 165, 3) := dk_180 0 165 (dk_at dksX1_requireApprentice_0 6 rfl rfl)
theorem dX1_requireApprentice_9 : decode cX1_requireApprentice 9 = .ok (.iconst 1, 1) := dk_4 (dk_at dksX1_requireApprentice_0 9 rfl rfl)
theorem dX1_requireApprentice_10 : decode cX1_requireApprentice 10 = .ok (.isub, 1) := dk_100 (dk_at dksX1_requireApprentice_0 10 rfl rfl)
theorem dX1_requireApprentice_11 : decode cX1_requireApprentice 11 = .ok (.invokestatic 168, 3) := dk_184 0 168 (dk_at dksX1_requireApprentice_0 11 rfl rfl)
theorem dX1_requireApprentice_14 : decode cX1_requireApprentice 14 = .ok (.invokestatic 172, 3) := dk_184 0 172 (dk_at dksX1_requireApprentice_0 14 rfl rfl)
theorem dX1_requireApprentice_17 : decode cX1_requireApprentice 17 = .ok (.return_, 1) := dk_177 (dk_at dksX1_requireApprentice_0 17 rfl rfl)
abbrev cX1_requireIndex : ByteArray := prog_1_method_2_code
def yX1_requireIndex : MethodName := ⟨RX1, "requireIndex", "(Z)V"⟩
def dkwX1_requireIndex_0 : List UInt8 := [26, 154, 0, 11, 187, 0, 1, 89, 183, 0, 3, 191, 177]
abbrev dktX1_requireIndex_0 : List UInt8 := dkwX1_requireIndex_0 ++ []
theorem dksX1_requireIndex_0 : cX1_requireIndex.data.toList.drop 0 = dktX1_requireIndex_0 := by decide +kernel
theorem dX1_requireIndex_0 : decode cX1_requireIndex 0 = .ok (.iload_n 0, 1) := dk_26 (dk_at dksX1_requireIndex_0 0 rfl rfl)
theorem dX1_requireIndex_1 : decode cX1_requireIndex 1 = .ok (.ifCond .ne 11, 3) := dk_154 0 11 (dk_at dksX1_requireIndex_0 1 rfl rfl)
theorem dX1_requireIndex_4 : decode cX1_requireIndex 4 = .ok (.new 1, 3) := dk_187 0 1 (dk_at dksX1_requireIndex_0 4 rfl rfl)
theorem dX1_requireIndex_7 : decode cX1_requireIndex 7 = .ok (.dup, 1) := dk_89 (dk_at dksX1_requireIndex_0 7 rfl rfl)
theorem dX1_requireIndex_8 : decode cX1_requireIndex 8 = .ok (.invokespecial 3, 3) := dk_183 0 3 (dk_at dksX1_requireIndex_0 8 rfl rfl)
theorem dX1_requireIndex_11 : decode cX1_requireIndex 11 = .ok (.athrow, 1) := dk_191 (dk_at dksX1_requireIndex_0 11 rfl rfl)
theorem dX1_requireIndex_12 : decode cX1_requireIndex 12 = .ok (.return_, 1) := dk_177 (dk_at dksX1_requireIndex_0 12 rfl rfl)
abbrev cX1_requireMaster : ByteArray := prog_1_method_23_code
def yX1_requireMaster : MethodName := ⟨RX1, "requireMaster", "(I)V"⟩
def dkwX1_requireMaster_0 : List UInt8 := [27, 3, 42, 180, 0, 37, 180, 0, 175, 4, 100, 184, 0, 168, 184, 0, 172, 177]
abbrev dktX1_requireMaster_0 : List UInt8 := dkwX1_requireMaster_0 ++ []
theorem dksX1_requireMaster_0 : cX1_requireMaster.data.toList.drop 0 = dktX1_requireMaster_0 := by decide +kernel
theorem dX1_requireMaster_0 : decode cX1_requireMaster 0 = .ok (.iload_n 1, 1) := dk_27 (dk_at dksX1_requireMaster_0 0 rfl rfl)
theorem dX1_requireMaster_1 : decode cX1_requireMaster 1 = .ok (.iconst 0, 1) := dk_3 (dk_at dksX1_requireMaster_0 1 rfl rfl)
theorem dX1_requireMaster_2 : decode cX1_requireMaster 2 = .ok (.aload_n 0, 1) := dk_42 (dk_at dksX1_requireMaster_0 2 rfl rfl)
theorem dX1_requireMaster_3 : decode cX1_requireMaster 3 = .ok (.getfield 37, 3) := dk_180 0 37 (dk_at dksX1_requireMaster_0 3 rfl rfl)
theorem dX1_requireMaster_6 : decode cX1_requireMaster 6 = .ok (.getfield 175, 3) := dk_180 0 175 (dk_at dksX1_requireMaster_0 6 rfl rfl)
theorem dX1_requireMaster_9 : decode cX1_requireMaster 9 = .ok (.iconst 1, 1) := dk_4 (dk_at dksX1_requireMaster_0 9 rfl rfl)
theorem dX1_requireMaster_10 : decode cX1_requireMaster 10 = .ok (.isub, 1) := dk_100 (dk_at dksX1_requireMaster_0 10 rfl rfl)
theorem dX1_requireMaster_11 : decode cX1_requireMaster 11 = .ok (.invokestatic 168, 3) := dk_184 0 168 (dk_at dksX1_requireMaster_0 11 rfl rfl)
theorem dX1_requireMaster_14 : decode cX1_requireMaster 14 = .ok (.invokestatic 172, 3) := dk_184 0 172 (dk_at dksX1_requireMaster_0 14 rfl rfl)
theorem dX1_requireMaster_17 : decode cX1_requireMaster 17 = .ok (.return_, 1) := dk_177 (dk_at dksX1_requireMaster_0 17 rfl rfl)
abbrev cX1_burden : ByteArray := prog_1_method_26_code
def yX1_burden : MethodName := ⟨RX1, "burden", "(II)I"⟩
def dkwX1_burden_1 : List UInt8 := [182, 0, 195, 172]
abbrev dktX1_burden_1 : List UInt8 := dkwX1_burden_1 ++ []
def dkwX1_burden_0 : List UInt8 := [42, 27, 28, 182, 0, 184, 42, 180, 0, 37, 27, 28, 182, 0, 191, 184, 0, 21, 42, 180, 0, 37, 27, 28]
abbrev dktX1_burden_0 : List UInt8 := dkwX1_burden_0 ++ dktX1_burden_1
theorem dksX1_burden_0 : cX1_burden.data.toList.drop 0 = dktX1_burden_0 := by decide +kernel
theorem dksX1_burden_1 : cX1_burden.data.toList.drop 24 = dktX1_burden_1 := dk_seg dksX1_burden_0 24 rfl rfl
theorem dX1_burden_0 : decode cX1_burden 0 = .ok (.aload_n 0, 1) := dk_42 (dk_at dksX1_burden_0 0 rfl rfl)
theorem dX1_burden_1 : decode cX1_burden 1 = .ok (.iload_n 1, 1) := dk_27 (dk_at dksX1_burden_0 1 rfl rfl)
theorem dX1_burden_2 : decode cX1_burden 2 = .ok (.iload_n 2, 1) := dk_28 (dk_at dksX1_burden_0 2 rfl rfl)
theorem dX1_burden_3 : decode cX1_burden 3 = .ok (.invokevirtual 184, 3) := dk_182 0 184 (dk_at dksX1_burden_0 3 rfl rfl)
theorem dX1_burden_6 : decode cX1_burden 6 = .ok (.aload_n 0, 1) := dk_42 (dk_at dksX1_burden_0 6 rfl rfl)
theorem dX1_burden_7 : decode cX1_burden 7 = .ok (.getfield 37, 3) := dk_180 0 37 (dk_at dksX1_burden_0 7 rfl rfl)
theorem dX1_burden_10 : decode cX1_burden 10 = .ok (.iload_n 1, 1) := dk_27 (dk_at dksX1_burden_0 10 rfl rfl)
theorem dX1_burden_11 : decode cX1_burden 11 = .ok (.iload_n 2, 1) := dk_28 (dk_at dksX1_burden_0 11 rfl rfl)
theorem dX1_burden_12 : decode cX1_burden 12 = .ok (.invokevirtual 191, 3) := dk_182 0 191 (dk_at dksX1_burden_0 12 rfl rfl)
theorem dX1_burden_15 : decode cX1_burden 15 = .ok (.invokestatic 21, 3) := dk_184 0 21 (dk_at dksX1_burden_0 15 rfl rfl)
theorem dX1_burden_18 : decode cX1_burden 18 = .ok (.aload_n 0, 1) := dk_42 (dk_at dksX1_burden_0 18 rfl rfl)
theorem dX1_burden_19 : decode cX1_burden 19 = .ok (.getfield 37, 3) := dk_180 0 37 (dk_at dksX1_burden_0 19 rfl rfl)
theorem dX1_burden_22 : decode cX1_burden 22 = .ok (.iload_n 1, 1) := dk_27 (dk_at dksX1_burden_0 22 rfl rfl)
theorem dX1_burden_23 : decode cX1_burden 23 = .ok (.iload_n 2, 1) := dk_28 (dk_at dksX1_burden_0 23 rfl rfl)
theorem dX1_burden_24 : decode cX1_burden 24 = .ok (.invokevirtual 195, 3) := dk_182 0 195 (dk_at dksX1_burden_1 0 rfl rfl)
theorem dX1_burden_27 : decode cX1_burden 27 = .ok (.ireturn, 1) := dk_172 (dk_at dksX1_burden_1 3 rfl rfl)
abbrev cX1_requireElement : ByteArray := prog_1_method_5_code
def yX1_requireElement : MethodName := ⟨RX1, "requireElement", "(Z)V"⟩
def dkwX1_requireElement_0 : List UInt8 := [26, 154, 0, 11, 187, 0, 13, 89, 183, 0, 15, 191, 177]
abbrev dktX1_requireElement_0 : List UInt8 := dkwX1_requireElement_0 ++ []
theorem dksX1_requireElement_0 : cX1_requireElement.data.toList.drop 0 = dktX1_requireElement_0 := by decide +kernel
theorem dX1_requireElement_0 : decode cX1_requireElement 0 = .ok (.iload_n 0, 1) := dk_26 (dk_at dksX1_requireElement_0 0 rfl rfl)
theorem dX1_requireElement_1 : decode cX1_requireElement 1 = .ok (.ifCond .ne 11, 3) := dk_154 0 11 (dk_at dksX1_requireElement_0 1 rfl rfl)
theorem dX1_requireElement_4 : decode cX1_requireElement 4 = .ok (.new 13, 3) := dk_187 0 13 (dk_at dksX1_requireElement_0 4 rfl rfl)
theorem dX1_requireElement_7 : decode cX1_requireElement 7 = .ok (.dup, 1) := dk_89 (dk_at dksX1_requireElement_0 7 rfl rfl)
theorem dX1_requireElement_8 : decode cX1_requireElement 8 = .ok (.invokespecial 15, 3) := dk_183 0 15 (dk_at dksX1_requireElement_0 8 rfl rfl)
theorem dX1_requireElement_11 : decode cX1_requireElement 11 = .ok (.athrow, 1) := dk_191 (dk_at dksX1_requireElement_0 11 rfl rfl)
theorem dX1_requireElement_12 : decode cX1_requireElement 12 = .ok (.return_, 1) := dk_177 (dk_at dksX1_requireElement_0 12 rfl rfl)
abbrev cX1_apprenticeOf : ByteArray := prog_1_method_28_code
def yX1_apprenticeOf : MethodName := ⟨RX1, "apprenticeOf", "(II)I"⟩
def dkwX1_apprenticeOf_4 : List UInt8 := [182, 0, 224, 172, 187, 0, 7, 89, 183, 0, 9, 191]
abbrev dktX1_apprenticeOf_4 : List UInt8 := dkwX1_apprenticeOf_4 ++ []
def dkwX1_apprenticeOf_3 : List UInt8 := [182, 0, 215, 172, 42, 180, 0, 37, 27, 182, 0, 218, 172, 42, 180, 0, 37, 27, 182, 0, 221, 172, 42, 27]
abbrev dktX1_apprenticeOf_3 : List UInt8 := dkwX1_apprenticeOf_3 ++ dktX1_apprenticeOf_4
def dkwX1_apprenticeOf_2 : List UInt8 := [42, 180, 0, 37, 180, 0, 209, 27, 46, 172, 42, 180, 0, 37, 27, 182, 0, 212, 172, 42, 180, 0, 37, 27]
abbrev dktX1_apprenticeOf_2 : List UInt8 := dkwX1_apprenticeOf_2 ++ dktX1_apprenticeOf_3
def dkwX1_apprenticeOf_1 : List UInt8 := [170, 0, 0, 0, 0, 90, 0, 0, 0, 0, 0, 0, 0, 5, 0, 0, 0, 38, 0, 0, 0, 48, 0, 0, 0, 57, 0, 0, 0, 66, 0, 0, 0, 75, 0, 0, 0, 84]
abbrev dktX1_apprenticeOf_1 : List UInt8 := dkwX1_apprenticeOf_1 ++ dktX1_apprenticeOf_2
def dkwX1_apprenticeOf_0 : List UInt8 := [42, 27, 182, 0, 178, 28]
abbrev dktX1_apprenticeOf_0 : List UInt8 := dkwX1_apprenticeOf_0 ++ dktX1_apprenticeOf_1
theorem dksX1_apprenticeOf_0 : cX1_apprenticeOf.data.toList.drop 0 = dktX1_apprenticeOf_0 := by decide +kernel
theorem dksX1_apprenticeOf_1 : cX1_apprenticeOf.data.toList.drop 6 = dktX1_apprenticeOf_1 := dk_seg dksX1_apprenticeOf_0 6 rfl rfl
theorem dksX1_apprenticeOf_2 : cX1_apprenticeOf.data.toList.drop 44 = dktX1_apprenticeOf_2 := dk_seg dksX1_apprenticeOf_1 38 rfl rfl
theorem dksX1_apprenticeOf_3 : cX1_apprenticeOf.data.toList.drop 68 = dktX1_apprenticeOf_3 := dk_seg dksX1_apprenticeOf_2 24 rfl rfl
theorem dksX1_apprenticeOf_4 : cX1_apprenticeOf.data.toList.drop 92 = dktX1_apprenticeOf_4 := dk_seg dksX1_apprenticeOf_3 24 rfl rfl
theorem dX1_apprenticeOf_0 : decode cX1_apprenticeOf 0 = .ok (.aload_n 0, 1) := dk_42 (dk_at dksX1_apprenticeOf_0 0 rfl rfl)
theorem dX1_apprenticeOf_1 : decode cX1_apprenticeOf 1 = .ok (.iload_n 1, 1) := dk_27 (dk_at dksX1_apprenticeOf_0 1 rfl rfl)
theorem dX1_apprenticeOf_2 : decode cX1_apprenticeOf 2 = .ok (.invokevirtual 178, 3) := dk_182 0 178 (dk_at dksX1_apprenticeOf_0 2 rfl rfl)
theorem dX1_apprenticeOf_5 : decode cX1_apprenticeOf 5 = .ok (.iload_n 2, 1) := dk_28 (dk_at dksX1_apprenticeOf_0 5 rfl rfl)
theorem dX1_apprenticeOf_6 : decode cX1_apprenticeOf 6 = .ok (.tableswitch 90 0 5 #[38, 48, 57, 66, 75, 84], 38) := by decide +kernel
theorem dX1_apprenticeOf_44 : decode cX1_apprenticeOf 44 = .ok (.aload_n 0, 1) := dk_42 (dk_at dksX1_apprenticeOf_2 0 rfl rfl)
theorem dX1_apprenticeOf_45 : decode cX1_apprenticeOf 45 = .ok (.getfield 37, 3) := dk_180 0 37 (dk_at dksX1_apprenticeOf_2 1 rfl rfl)
theorem dX1_apprenticeOf_48 : decode cX1_apprenticeOf 48 = .ok (.getfield 209, 3) := dk_180 0 209 (dk_at dksX1_apprenticeOf_2 4 rfl rfl)
theorem dX1_apprenticeOf_51 : decode cX1_apprenticeOf 51 = .ok (.iload_n 1, 1) := dk_27 (dk_at dksX1_apprenticeOf_2 7 rfl rfl)
theorem dX1_apprenticeOf_52 : decode cX1_apprenticeOf 52 = .ok (.iaload, 1) := dk_46 (dk_at dksX1_apprenticeOf_2 8 rfl rfl)
theorem dX1_apprenticeOf_53 : decode cX1_apprenticeOf 53 = .ok (.ireturn, 1) := dk_172 (dk_at dksX1_apprenticeOf_2 9 rfl rfl)
theorem dX1_apprenticeOf_54 : decode cX1_apprenticeOf 54 = .ok (.aload_n 0, 1) := dk_42 (dk_at dksX1_apprenticeOf_2 10 rfl rfl)
theorem dX1_apprenticeOf_55 : decode cX1_apprenticeOf 55 = .ok (.getfield 37, 3) := dk_180 0 37 (dk_at dksX1_apprenticeOf_2 11 rfl rfl)
theorem dX1_apprenticeOf_58 : decode cX1_apprenticeOf 58 = .ok (.iload_n 1, 1) := dk_27 (dk_at dksX1_apprenticeOf_2 14 rfl rfl)
theorem dX1_apprenticeOf_59 : decode cX1_apprenticeOf 59 = .ok (.invokevirtual 212, 3) := dk_182 0 212 (dk_at dksX1_apprenticeOf_2 15 rfl rfl)
theorem dX1_apprenticeOf_62 : decode cX1_apprenticeOf 62 = .ok (.ireturn, 1) := dk_172 (dk_at dksX1_apprenticeOf_2 18 rfl rfl)
theorem dX1_apprenticeOf_63 : decode cX1_apprenticeOf 63 = .ok (.aload_n 0, 1) := dk_42 (dk_at dksX1_apprenticeOf_2 19 rfl rfl)
theorem dX1_apprenticeOf_64 : decode cX1_apprenticeOf 64 = .ok (.getfield 37, 3) := dk_180 0 37 (dk_at dksX1_apprenticeOf_2 20 rfl rfl)
theorem dX1_apprenticeOf_67 : decode cX1_apprenticeOf 67 = .ok (.iload_n 1, 1) := dk_27 (dk_at dksX1_apprenticeOf_2 23 rfl rfl)
theorem dX1_apprenticeOf_68 : decode cX1_apprenticeOf 68 = .ok (.invokevirtual 215, 3) := dk_182 0 215 (dk_at dksX1_apprenticeOf_3 0 rfl rfl)
theorem dX1_apprenticeOf_71 : decode cX1_apprenticeOf 71 = .ok (.ireturn, 1) := dk_172 (dk_at dksX1_apprenticeOf_3 3 rfl rfl)
theorem dX1_apprenticeOf_72 : decode cX1_apprenticeOf 72 = .ok (.aload_n 0, 1) := dk_42 (dk_at dksX1_apprenticeOf_3 4 rfl rfl)
theorem dX1_apprenticeOf_73 : decode cX1_apprenticeOf 73 = .ok (.getfield 37, 3) := dk_180 0 37 (dk_at dksX1_apprenticeOf_3 5 rfl rfl)
theorem dX1_apprenticeOf_76 : decode cX1_apprenticeOf 76 = .ok (.iload_n 1, 1) := dk_27 (dk_at dksX1_apprenticeOf_3 8 rfl rfl)
theorem dX1_apprenticeOf_77 : decode cX1_apprenticeOf 77 = .ok (.invokevirtual 218, 3) := dk_182 0 218 (dk_at dksX1_apprenticeOf_3 9 rfl rfl)
theorem dX1_apprenticeOf_80 : decode cX1_apprenticeOf 80 = .ok (.ireturn, 1) := dk_172 (dk_at dksX1_apprenticeOf_3 12 rfl rfl)
theorem dX1_apprenticeOf_81 : decode cX1_apprenticeOf 81 = .ok (.aload_n 0, 1) := dk_42 (dk_at dksX1_apprenticeOf_3 13 rfl rfl)
theorem dX1_apprenticeOf_82 : decode cX1_apprenticeOf 82 = .ok (.getfield 37, 3) := dk_180 0 37 (dk_at dksX1_apprenticeOf_3 14 rfl rfl)
theorem dX1_apprenticeOf_85 : decode cX1_apprenticeOf 85 = .ok (.iload_n 1, 1) := dk_27 (dk_at dksX1_apprenticeOf_3 17 rfl rfl)
theorem dX1_apprenticeOf_86 : decode cX1_apprenticeOf 86 = .ok (.invokevirtual 221, 3) := dk_182 0 221 (dk_at dksX1_apprenticeOf_3 18 rfl rfl)
theorem dX1_apprenticeOf_89 : decode cX1_apprenticeOf 89 = .ok (.ireturn, 1) := dk_172 (dk_at dksX1_apprenticeOf_3 21 rfl rfl)
theorem dX1_apprenticeOf_90 : decode cX1_apprenticeOf 90 = .ok (.aload_n 0, 1) := dk_42 (dk_at dksX1_apprenticeOf_3 22 rfl rfl)
theorem dX1_apprenticeOf_91 : decode cX1_apprenticeOf 91 = .ok (.iload_n 1, 1) := dk_27 (dk_at dksX1_apprenticeOf_3 23 rfl rfl)
theorem dX1_apprenticeOf_92 : decode cX1_apprenticeOf 92 = .ok (.invokevirtual 224, 3) := dk_182 0 224 (dk_at dksX1_apprenticeOf_4 0 rfl rfl)
theorem dX1_apprenticeOf_95 : decode cX1_apprenticeOf 95 = .ok (.ireturn, 1) := dk_172 (dk_at dksX1_apprenticeOf_4 3 rfl rfl)
theorem dX1_apprenticeOf_96 : decode cX1_apprenticeOf 96 = .ok (.new 7, 3) := dk_187 0 7 (dk_at dksX1_apprenticeOf_4 4 rfl rfl)
theorem dX1_apprenticeOf_99 : decode cX1_apprenticeOf 99 = .ok (.dup, 1) := dk_89 (dk_at dksX1_apprenticeOf_4 7 rfl rfl)
theorem dX1_apprenticeOf_100 : decode cX1_apprenticeOf 100 = .ok (.invokespecial 9, 3) := dk_183 0 9 (dk_at dksX1_apprenticeOf_4 8 rfl rfl)
theorem dX1_apprenticeOf_103 : decode cX1_apprenticeOf 103 = .ok (.athrow, 1) := dk_191 (dk_at dksX1_apprenticeOf_4 11 rfl rfl)
abbrev cX1_firstOf : ByteArray := prog_1_method_27_code
def yX1_firstOf : MethodName := ⟨RX1, "firstOf", "(I)I"⟩
def dkwX1_firstOf_1 : List UInt8 := [46, 167, 0, 4, 2, 172]
abbrev dktX1_firstOf_1 : List UInt8 := dkwX1_firstOf_1 ++ []
def dkwX1_firstOf_0 : List UInt8 := [187, 0, 198, 89, 42, 180, 0, 37, 183, 0, 200, 77, 44, 182, 0, 201, 153, 0, 12, 44, 180, 0, 205, 27]
abbrev dktX1_firstOf_0 : List UInt8 := dkwX1_firstOf_0 ++ dktX1_firstOf_1
theorem dksX1_firstOf_0 : cX1_firstOf.data.toList.drop 0 = dktX1_firstOf_0 := by decide +kernel
theorem dksX1_firstOf_1 : cX1_firstOf.data.toList.drop 24 = dktX1_firstOf_1 := dk_seg dksX1_firstOf_0 24 rfl rfl
theorem dX1_firstOf_0 : decode cX1_firstOf 0 = .ok (.new 198, 3) := dk_187 0 198 (dk_at dksX1_firstOf_0 0 rfl rfl)
theorem dX1_firstOf_3 : decode cX1_firstOf 3 = .ok (.dup, 1) := dk_89 (dk_at dksX1_firstOf_0 3 rfl rfl)
theorem dX1_firstOf_4 : decode cX1_firstOf 4 = .ok (.aload_n 0, 1) := dk_42 (dk_at dksX1_firstOf_0 4 rfl rfl)
theorem dX1_firstOf_5 : decode cX1_firstOf 5 = .ok (.getfield 37, 3) := dk_180 0 37 (dk_at dksX1_firstOf_0 5 rfl rfl)
theorem dX1_firstOf_8 : decode cX1_firstOf 8 = .ok (.invokespecial 200, 3) := dk_183 0 200 (dk_at dksX1_firstOf_0 8 rfl rfl)
theorem dX1_firstOf_11 : decode cX1_firstOf 11 = .ok (.astore_n 2, 1) := dk_77 (dk_at dksX1_firstOf_0 11 rfl rfl)
theorem dX1_firstOf_12 : decode cX1_firstOf 12 = .ok (.aload_n 2, 1) := dk_44 (dk_at dksX1_firstOf_0 12 rfl rfl)
theorem dX1_firstOf_13 : decode cX1_firstOf 13 = .ok (.invokevirtual 201, 3) := dk_182 0 201 (dk_at dksX1_firstOf_0 13 rfl rfl)
theorem dX1_firstOf_16 : decode cX1_firstOf 16 = .ok (.ifCond .eq 12, 3) := dk_153 0 12 (dk_at dksX1_firstOf_0 16 rfl rfl)
theorem dX1_firstOf_19 : decode cX1_firstOf 19 = .ok (.aload_n 2, 1) := dk_44 (dk_at dksX1_firstOf_0 19 rfl rfl)
theorem dX1_firstOf_20 : decode cX1_firstOf 20 = .ok (.getfield 205, 3) := dk_180 0 205 (dk_at dksX1_firstOf_0 20 rfl rfl)
theorem dX1_firstOf_23 : decode cX1_firstOf 23 = .ok (.iload_n 1, 1) := dk_27 (dk_at dksX1_firstOf_0 23 rfl rfl)
theorem dX1_firstOf_24 : decode cX1_firstOf 24 = .ok (.iaload, 1) := dk_46 (dk_at dksX1_firstOf_1 0 rfl rfl)
theorem dX1_firstOf_25 : decode cX1_firstOf 25 = .ok (.goto 4, 3) := dk_167 0 4 (dk_at dksX1_firstOf_1 1 rfl rfl)
theorem dX1_firstOf_28 : decode cX1_firstOf 28 = .ok (.iconst (-1), 1) := dk_2 (dk_at dksX1_firstOf_1 4 rfl rfl)
theorem dX1_firstOf_29 : decode cX1_firstOf 29 = .ok (.ireturn, 1) := dk_172 (dk_at dksX1_firstOf_1 5 rfl rfl)
abbrev cX1_masterOf : ByteArray := prog_1_method_29_code
def yX1_masterOf : MethodName := ⟨RX1, "masterOf", "(II)I"⟩
def dkwX1_masterOf_4 : List UInt8 := [187, 0, 7, 89, 183, 0, 9, 191]
abbrev dktX1_masterOf_4 : List UInt8 := dkwX1_masterOf_4 ++ []
def dkwX1_masterOf_3 : List UInt8 := [180, 0, 233, 27, 46, 172, 42, 180, 0, 37, 27, 182, 0, 236, 172, 42, 180, 0, 37, 27, 182, 0, 239, 172]
abbrev dktX1_masterOf_3 : List UInt8 := dkwX1_masterOf_3 ++ dktX1_masterOf_4
def dkwX1_masterOf_2 : List UInt8 := [42, 180, 0, 37, 180, 0, 227, 27, 46, 172, 42, 180, 0, 37, 27, 182, 0, 230, 172, 42, 180, 0, 37]
abbrev dktX1_masterOf_2 : List UInt8 := dkwX1_masterOf_2 ++ dktX1_masterOf_3
def dkwX1_masterOf_1 : List UInt8 := [170, 0, 0, 0, 0, 81, 0, 0, 0, 0, 0, 0, 0, 4, 0, 0, 0, 34, 0, 0, 0, 44, 0, 0, 0, 53, 0, 0, 0, 63, 0, 0, 0, 72]
abbrev dktX1_masterOf_1 : List UInt8 := dkwX1_masterOf_1 ++ dktX1_masterOf_2
def dkwX1_masterOf_0 : List UInt8 := [42, 27, 182, 0, 181, 28]
abbrev dktX1_masterOf_0 : List UInt8 := dkwX1_masterOf_0 ++ dktX1_masterOf_1
theorem dksX1_masterOf_0 : cX1_masterOf.data.toList.drop 0 = dktX1_masterOf_0 := by decide +kernel
theorem dksX1_masterOf_1 : cX1_masterOf.data.toList.drop 6 = dktX1_masterOf_1 := dk_seg dksX1_masterOf_0 6 rfl rfl
theorem dksX1_masterOf_2 : cX1_masterOf.data.toList.drop 40 = dktX1_masterOf_2 := dk_seg dksX1_masterOf_1 34 rfl rfl
theorem dksX1_masterOf_3 : cX1_masterOf.data.toList.drop 63 = dktX1_masterOf_3 := dk_seg dksX1_masterOf_2 23 rfl rfl
theorem dksX1_masterOf_4 : cX1_masterOf.data.toList.drop 87 = dktX1_masterOf_4 := dk_seg dksX1_masterOf_3 24 rfl rfl
theorem dX1_masterOf_0 : decode cX1_masterOf 0 = .ok (.aload_n 0, 1) := dk_42 (dk_at dksX1_masterOf_0 0 rfl rfl)
theorem dX1_masterOf_1 : decode cX1_masterOf 1 = .ok (.iload_n 1, 1) := dk_27 (dk_at dksX1_masterOf_0 1 rfl rfl)
theorem dX1_masterOf_2 : decode cX1_masterOf 2 = .ok (.invokevirtual 181, 3) := dk_182 0 181 (dk_at dksX1_masterOf_0 2 rfl rfl)
theorem dX1_masterOf_5 : decode cX1_masterOf 5 = .ok (.iload_n 2, 1) := dk_28 (dk_at dksX1_masterOf_0 5 rfl rfl)
theorem dX1_masterOf_6 : decode cX1_masterOf 6 = .ok (.tableswitch 81 0 4 #[34, 44, 53, 63, 72], 34) := by decide +kernel
theorem dX1_masterOf_40 : decode cX1_masterOf 40 = .ok (.aload_n 0, 1) := dk_42 (dk_at dksX1_masterOf_2 0 rfl rfl)
theorem dX1_masterOf_41 : decode cX1_masterOf 41 = .ok (.getfield 37, 3) := dk_180 0 37 (dk_at dksX1_masterOf_2 1 rfl rfl)
theorem dX1_masterOf_44 : decode cX1_masterOf 44 = .ok (.getfield 227, 3) := dk_180 0 227 (dk_at dksX1_masterOf_2 4 rfl rfl)
theorem dX1_masterOf_47 : decode cX1_masterOf 47 = .ok (.iload_n 1, 1) := dk_27 (dk_at dksX1_masterOf_2 7 rfl rfl)
theorem dX1_masterOf_48 : decode cX1_masterOf 48 = .ok (.iaload, 1) := dk_46 (dk_at dksX1_masterOf_2 8 rfl rfl)
theorem dX1_masterOf_49 : decode cX1_masterOf 49 = .ok (.ireturn, 1) := dk_172 (dk_at dksX1_masterOf_2 9 rfl rfl)
theorem dX1_masterOf_50 : decode cX1_masterOf 50 = .ok (.aload_n 0, 1) := dk_42 (dk_at dksX1_masterOf_2 10 rfl rfl)
theorem dX1_masterOf_51 : decode cX1_masterOf 51 = .ok (.getfield 37, 3) := dk_180 0 37 (dk_at dksX1_masterOf_2 11 rfl rfl)
theorem dX1_masterOf_54 : decode cX1_masterOf 54 = .ok (.iload_n 1, 1) := dk_27 (dk_at dksX1_masterOf_2 14 rfl rfl)
theorem dX1_masterOf_55 : decode cX1_masterOf 55 = .ok (.invokevirtual 230, 3) := dk_182 0 230 (dk_at dksX1_masterOf_2 15 rfl rfl)
theorem dX1_masterOf_58 : decode cX1_masterOf 58 = .ok (.ireturn, 1) := dk_172 (dk_at dksX1_masterOf_2 18 rfl rfl)
theorem dX1_masterOf_59 : decode cX1_masterOf 59 = .ok (.aload_n 0, 1) := dk_42 (dk_at dksX1_masterOf_2 19 rfl rfl)
theorem dX1_masterOf_60 : decode cX1_masterOf 60 = .ok (.getfield 37, 3) := dk_180 0 37 (dk_at dksX1_masterOf_2 20 rfl rfl)
theorem dX1_masterOf_63 : decode cX1_masterOf 63 = .ok (.getfield 233, 3) := dk_180 0 233 (dk_at dksX1_masterOf_3 0 rfl rfl)
theorem dX1_masterOf_66 : decode cX1_masterOf 66 = .ok (.iload_n 1, 1) := dk_27 (dk_at dksX1_masterOf_3 3 rfl rfl)
theorem dX1_masterOf_67 : decode cX1_masterOf 67 = .ok (.iaload, 1) := dk_46 (dk_at dksX1_masterOf_3 4 rfl rfl)
theorem dX1_masterOf_68 : decode cX1_masterOf 68 = .ok (.ireturn, 1) := dk_172 (dk_at dksX1_masterOf_3 5 rfl rfl)
theorem dX1_masterOf_69 : decode cX1_masterOf 69 = .ok (.aload_n 0, 1) := dk_42 (dk_at dksX1_masterOf_3 6 rfl rfl)
theorem dX1_masterOf_70 : decode cX1_masterOf 70 = .ok (.getfield 37, 3) := dk_180 0 37 (dk_at dksX1_masterOf_3 7 rfl rfl)
theorem dX1_masterOf_73 : decode cX1_masterOf 73 = .ok (.iload_n 1, 1) := dk_27 (dk_at dksX1_masterOf_3 10 rfl rfl)
theorem dX1_masterOf_74 : decode cX1_masterOf 74 = .ok (.invokevirtual 236, 3) := dk_182 0 236 (dk_at dksX1_masterOf_3 11 rfl rfl)
theorem dX1_masterOf_77 : decode cX1_masterOf 77 = .ok (.ireturn, 1) := dk_172 (dk_at dksX1_masterOf_3 14 rfl rfl)
theorem dX1_masterOf_78 : decode cX1_masterOf 78 = .ok (.aload_n 0, 1) := dk_42 (dk_at dksX1_masterOf_3 15 rfl rfl)
theorem dX1_masterOf_79 : decode cX1_masterOf 79 = .ok (.getfield 37, 3) := dk_180 0 37 (dk_at dksX1_masterOf_3 16 rfl rfl)
theorem dX1_masterOf_82 : decode cX1_masterOf 82 = .ok (.iload_n 1, 1) := dk_27 (dk_at dksX1_masterOf_3 19 rfl rfl)
theorem dX1_masterOf_83 : decode cX1_masterOf 83 = .ok (.invokevirtual 239, 3) := dk_182 0 239 (dk_at dksX1_masterOf_3 20 rfl rfl)
theorem dX1_masterOf_86 : decode cX1_masterOf 86 = .ok (.ireturn, 1) := dk_172 (dk_at dksX1_masterOf_3 23 rfl rfl)
theorem dX1_masterOf_87 : decode cX1_masterOf 87 = .ok (.new 7, 3) := dk_187 0 7 (dk_at dksX1_masterOf_4 0 rfl rfl)
theorem dX1_masterOf_90 : decode cX1_masterOf 90 = .ok (.dup, 1) := dk_89 (dk_at dksX1_masterOf_4 3 rfl rfl)
theorem dX1_masterOf_91 : decode cX1_masterOf 91 = .ok (.invokespecial 9, 3) := dk_183 0 9 (dk_at dksX1_masterOf_4 4 rfl rfl)
theorem dX1_masterOf_94 : decode cX1_masterOf 94 = .ok (.athrow, 1) := dk_191 (dk_at dksX1_masterOf_4 7 rfl rfl)
abbrev cX1_served : ByteArray := prog_1_method_30_code
def yX1_served : MethodName := ⟨RX1, "served", "(II)I"⟩
def dkwX1_served_0 : List UInt8 := [42, 27, 28, 182, 0, 184, 42, 180, 0, 37, 180, 0, 242, 27, 50, 28, 46, 172]
abbrev dktX1_served_0 : List UInt8 := dkwX1_served_0 ++ []
theorem dksX1_served_0 : cX1_served.data.toList.drop 0 = dktX1_served_0 := by decide +kernel
theorem dX1_served_0 : decode cX1_served 0 = .ok (.aload_n 0, 1) := dk_42 (dk_at dksX1_served_0 0 rfl rfl)
theorem dX1_served_1 : decode cX1_served 1 = .ok (.iload_n 1, 1) := dk_27 (dk_at dksX1_served_0 1 rfl rfl)
theorem dX1_served_2 : decode cX1_served 2 = .ok (.iload_n 2, 1) := dk_28 (dk_at dksX1_served_0 2 rfl rfl)
theorem dX1_served_3 : decode cX1_served 3 = .ok (.invokevirtual 184, 3) := dk_182 0 184 (dk_at dksX1_served_0 3 rfl rfl)
theorem dX1_served_6 : decode cX1_served 6 = .ok (.aload_n 0, 1) := dk_42 (dk_at dksX1_served_0 6 rfl rfl)
theorem dX1_served_7 : decode cX1_served 7 = .ok (.getfield 37, 3) := dk_180 0 37 (dk_at dksX1_served_0 7 rfl rfl)
theorem dX1_served_10 : decode cX1_served 10 = .ok (.getfield 242, 3) := dk_180 0 242 (dk_at dksX1_served_0 10 rfl rfl)
theorem dX1_served_13 : decode cX1_served 13 = .ok (.iload_n 1, 1) := dk_27 (dk_at dksX1_served_0 13 rfl rfl)
theorem dX1_served_14 : decode cX1_served 14 = .ok (.aaload, 1) := dk_50 (dk_at dksX1_served_0 14 rfl rfl)
theorem dX1_served_15 : decode cX1_served 15 = .ok (.iload_n 2, 1) := dk_28 (dk_at dksX1_served_0 15 rfl rfl)
theorem dX1_served_16 : decode cX1_served 16 = .ok (.iaload, 1) := dk_46 (dk_at dksX1_served_0 16 rfl rfl)
theorem dX1_served_17 : decode cX1_served 17 = .ok (.ireturn, 1) := dk_172 (dk_at dksX1_served_0 17 rfl rfl)
abbrev cX1_least : ByteArray := prog_1_method_31_code
def yX1_least : MethodName := ⟨RX1, "least", "()I"⟩
def dkwX1_least_0 : List UInt8 := [42, 180, 0, 37, 182, 0, 245, 184, 0, 248, 172]
abbrev dktX1_least_0 : List UInt8 := dkwX1_least_0 ++ []
theorem dksX1_least_0 : cX1_least.data.toList.drop 0 = dktX1_least_0 := by decide +kernel
theorem dX1_least_0 : decode cX1_least 0 = .ok (.aload_n 0, 1) := dk_42 (dk_at dksX1_least_0 0 rfl rfl)
theorem dX1_least_1 : decode cX1_least 1 = .ok (.getfield 37, 3) := dk_180 0 37 (dk_at dksX1_least_0 1 rfl rfl)
theorem dX1_least_4 : decode cX1_least 4 = .ok (.invokevirtual 245, 3) := dk_182 0 245 (dk_at dksX1_least_0 4 rfl rfl)
theorem dX1_least_7 : decode cX1_least 7 = .ok (.invokestatic 248, 3) := dk_184 0 248 (dk_at dksX1_least_0 7 rfl rfl)
theorem dX1_least_10 : decode cX1_least 10 = .ok (.ireturn, 1) := dk_172 (dk_at dksX1_least_0 10 rfl rfl)
abbrev cX1_existingCost : ByteArray := prog_1_method_8_code
def yX1_existingCost : MethodName := ⟨RX1, "existingCost", "(I)I"⟩
def dkwX1_existingCost_0 : List UInt8 := [26, 18, 25, 162, 0, 7, 4, 167, 0, 4, 3, 184, 0, 21, 26, 172]
abbrev dktX1_existingCost_0 : List UInt8 := dkwX1_existingCost_0 ++ []
theorem dksX1_existingCost_0 : cX1_existingCost.data.toList.drop 0 = dktX1_existingCost_0 := by decide +kernel
theorem dX1_existingCost_0 : decode cX1_existingCost 0 = .ok (.iload_n 0, 1) := dk_26 (dk_at dksX1_existingCost_0 0 rfl rfl)
theorem dX1_existingCost_1 : decode cX1_existingCost 1 = .ok (.ldc 25, 2) := dk_18 25 (dk_at dksX1_existingCost_0 1 rfl rfl)
theorem dX1_existingCost_3 : decode cX1_existingCost 3 = .ok (.if_icmp .ge 7, 3) := dk_162 0 7 (dk_at dksX1_existingCost_0 3 rfl rfl)
theorem dX1_existingCost_6 : decode cX1_existingCost 6 = .ok (.iconst 1, 1) := dk_4 (dk_at dksX1_existingCost_0 6 rfl rfl)
theorem dX1_existingCost_7 : decode cX1_existingCost 7 = .ok (.goto 4, 3) := dk_167 0 4 (dk_at dksX1_existingCost_0 7 rfl rfl)
theorem dX1_existingCost_10 : decode cX1_existingCost 10 = .ok (.iconst 0, 1) := dk_3 (dk_at dksX1_existingCost_0 10 rfl rfl)
theorem dX1_existingCost_11 : decode cX1_existingCost 11 = .ok (.invokestatic 21, 3) := dk_184 0 21 (dk_at dksX1_existingCost_0 11 rfl rfl)
theorem dX1_existingCost_14 : decode cX1_existingCost 14 = .ok (.iload_n 0, 1) := dk_26 (dk_at dksX1_existingCost_0 14 rfl rfl)
theorem dX1_existingCost_15 : decode cX1_existingCost 15 = .ok (.ireturn, 1) := dk_172 (dk_at dksX1_existingCost_0 15 rfl rfl)
abbrev cX1_leastAgain : ByteArray := prog_1_method_32_code
def yX1_leastAgain : MethodName := ⟨RX1, "leastAgain", "()I"⟩
def dkwX1_leastAgain_0 : List UInt8 := [187, 0, 198, 89, 42, 180, 0, 37, 183, 0, 200, 180, 0, 251, 184, 0, 248, 172]
abbrev dktX1_leastAgain_0 : List UInt8 := dkwX1_leastAgain_0 ++ []
theorem dksX1_leastAgain_0 : cX1_leastAgain.data.toList.drop 0 = dktX1_leastAgain_0 := by decide +kernel
theorem dX1_leastAgain_0 : decode cX1_leastAgain 0 = .ok (.new 198, 3) := dk_187 0 198 (dk_at dksX1_leastAgain_0 0 rfl rfl)
theorem dX1_leastAgain_3 : decode cX1_leastAgain 3 = .ok (.dup, 1) := dk_89 (dk_at dksX1_leastAgain_0 3 rfl rfl)
theorem dX1_leastAgain_4 : decode cX1_leastAgain 4 = .ok (.aload_n 0, 1) := dk_42 (dk_at dksX1_leastAgain_0 4 rfl rfl)
theorem dX1_leastAgain_5 : decode cX1_leastAgain 5 = .ok (.getfield 37, 3) := dk_180 0 37 (dk_at dksX1_leastAgain_0 5 rfl rfl)
theorem dX1_leastAgain_8 : decode cX1_leastAgain 8 = .ok (.invokespecial 200, 3) := dk_183 0 200 (dk_at dksX1_leastAgain_0 8 rfl rfl)
theorem dX1_leastAgain_11 : decode cX1_leastAgain 11 = .ok (.getfield 251, 3) := dk_180 0 251 (dk_at dksX1_leastAgain_0 11 rfl rfl)
theorem dX1_leastAgain_14 : decode cX1_leastAgain 14 = .ok (.invokestatic 248, 3) := dk_184 0 248 (dk_at dksX1_leastAgain_0 14 rfl rfl)
theorem dX1_leastAgain_17 : decode cX1_leastAgain 17 = .ok (.ireturn, 1) := dk_172 (dk_at dksX1_leastAgain_0 17 rfl rfl)
abbrev cX1_with : ByteArray := prog_1_method_33_code
def yX1_with : MethodName := ⟨RX1, "with", "(II)I"⟩
def dkwX1_with_1 : List UInt8 := [28, 96, 46, 184, 0, 248, 172]
abbrev dktX1_with_1 : List UInt8 := dkwX1_with_1 ++ []
def dkwX1_with_0 : List UInt8 := [42, 27, 28, 182, 0, 184, 187, 0, 198, 89, 42, 180, 0, 37, 183, 0, 200, 180, 0, 253, 16, 6, 27, 104]
abbrev dktX1_with_0 : List UInt8 := dkwX1_with_0 ++ dktX1_with_1
theorem dksX1_with_0 : cX1_with.data.toList.drop 0 = dktX1_with_0 := by decide +kernel
theorem dksX1_with_1 : cX1_with.data.toList.drop 24 = dktX1_with_1 := dk_seg dksX1_with_0 24 rfl rfl
theorem dX1_with_0 : decode cX1_with 0 = .ok (.aload_n 0, 1) := dk_42 (dk_at dksX1_with_0 0 rfl rfl)
theorem dX1_with_1 : decode cX1_with 1 = .ok (.iload_n 1, 1) := dk_27 (dk_at dksX1_with_0 1 rfl rfl)
theorem dX1_with_2 : decode cX1_with 2 = .ok (.iload_n 2, 1) := dk_28 (dk_at dksX1_with_0 2 rfl rfl)
theorem dX1_with_3 : decode cX1_with 3 = .ok (.invokevirtual 184, 3) := dk_182 0 184 (dk_at dksX1_with_0 3 rfl rfl)
theorem dX1_with_6 : decode cX1_with 6 = .ok (.new 198, 3) := dk_187 0 198 (dk_at dksX1_with_0 6 rfl rfl)
theorem dX1_with_9 : decode cX1_with 9 = .ok (.dup, 1) := dk_89 (dk_at dksX1_with_0 9 rfl rfl)
theorem dX1_with_10 : decode cX1_with 10 = .ok (.aload_n 0, 1) := dk_42 (dk_at dksX1_with_0 10 rfl rfl)
theorem dX1_with_11 : decode cX1_with 11 = .ok (.getfield 37, 3) := dk_180 0 37 (dk_at dksX1_with_0 11 rfl rfl)
theorem dX1_with_14 : decode cX1_with 14 = .ok (.invokespecial 200, 3) := dk_183 0 200 (dk_at dksX1_with_0 14 rfl rfl)
theorem dX1_with_17 : decode cX1_with 17 = .ok (.getfield 253, 3) := dk_180 0 253 (dk_at dksX1_with_0 17 rfl rfl)
theorem dX1_with_20 : decode cX1_with 20 = .ok (.bipush 6, 2) := dk_16 6 (dk_at dksX1_with_0 20 rfl rfl)
theorem dX1_with_22 : decode cX1_with 22 = .ok (.iload_n 1, 1) := dk_27 (dk_at dksX1_with_0 22 rfl rfl)
theorem dX1_with_23 : decode cX1_with 23 = .ok (.imul, 1) := dk_104 (dk_at dksX1_with_0 23 rfl rfl)
theorem dX1_with_24 : decode cX1_with 24 = .ok (.iload_n 2, 1) := dk_28 (dk_at dksX1_with_1 0 rfl rfl)
theorem dX1_with_25 : decode cX1_with 25 = .ok (.iadd, 1) := dk_96 (dk_at dksX1_with_1 1 rfl rfl)
theorem dX1_with_26 : decode cX1_with 26 = .ok (.iaload, 1) := dk_46 (dk_at dksX1_with_1 2 rfl rfl)
theorem dX1_with_27 : decode cX1_with 27 = .ok (.invokestatic 248, 3) := dk_184 0 248 (dk_at dksX1_with_1 3 rfl rfl)
theorem dX1_with_30 : decode cX1_with 30 = .ok (.ireturn, 1) := dk_172 (dk_at dksX1_with_1 6 rfl rfl)
abbrev cX1_isNeeded : ByteArray := prog_1_method_34_code
def yX1_isNeeded : MethodName := ⟨RX1, "isNeeded", "(II)Z"⟩
def dkwX1_isNeeded_2 : List UInt8 := [167, 0, 4, 3, 172]
abbrev dktX1_isNeeded_2 : List UInt8 := dkwX1_isNeeded_2 ++ []
def dkwX1_isNeeded_1 : List UInt8 := [153, 0, 25, 45, 180, 1, 0, 16, 6, 27, 104, 28, 96, 46, 45, 180, 0, 251, 164, 0, 7, 4]
abbrev dktX1_isNeeded_1 : List UInt8 := dkwX1_isNeeded_1 ++ dktX1_isNeeded_2
def dkwX1_isNeeded_0 : List UInt8 := [42, 27, 28, 182, 0, 184, 187, 0, 198, 89, 42, 180, 0, 37, 183, 0, 200, 78, 45, 182, 0, 201]
abbrev dktX1_isNeeded_0 : List UInt8 := dkwX1_isNeeded_0 ++ dktX1_isNeeded_1
theorem dksX1_isNeeded_0 : cX1_isNeeded.data.toList.drop 0 = dktX1_isNeeded_0 := by decide +kernel
theorem dksX1_isNeeded_1 : cX1_isNeeded.data.toList.drop 22 = dktX1_isNeeded_1 := dk_seg dksX1_isNeeded_0 22 rfl rfl
theorem dksX1_isNeeded_2 : cX1_isNeeded.data.toList.drop 44 = dktX1_isNeeded_2 := dk_seg dksX1_isNeeded_1 22 rfl rfl
theorem dX1_isNeeded_0 : decode cX1_isNeeded 0 = .ok (.aload_n 0, 1) := dk_42 (dk_at dksX1_isNeeded_0 0 rfl rfl)
theorem dX1_isNeeded_1 : decode cX1_isNeeded 1 = .ok (.iload_n 1, 1) := dk_27 (dk_at dksX1_isNeeded_0 1 rfl rfl)
theorem dX1_isNeeded_2 : decode cX1_isNeeded 2 = .ok (.iload_n 2, 1) := dk_28 (dk_at dksX1_isNeeded_0 2 rfl rfl)
theorem dX1_isNeeded_3 : decode cX1_isNeeded 3 = .ok (.invokevirtual 184, 3) := dk_182 0 184 (dk_at dksX1_isNeeded_0 3 rfl rfl)
theorem dX1_isNeeded_6 : decode cX1_isNeeded 6 = .ok (.new 198, 3) := dk_187 0 198 (dk_at dksX1_isNeeded_0 6 rfl rfl)
theorem dX1_isNeeded_9 : decode cX1_isNeeded 9 = .ok (.dup, 1) := dk_89 (dk_at dksX1_isNeeded_0 9 rfl rfl)
theorem dX1_isNeeded_10 : decode cX1_isNeeded 10 = .ok (.aload_n 0, 1) := dk_42 (dk_at dksX1_isNeeded_0 10 rfl rfl)
theorem dX1_isNeeded_11 : decode cX1_isNeeded 11 = .ok (.getfield 37, 3) := dk_180 0 37 (dk_at dksX1_isNeeded_0 11 rfl rfl)
theorem dX1_isNeeded_14 : decode cX1_isNeeded 14 = .ok (.invokespecial 200, 3) := dk_183 0 200 (dk_at dksX1_isNeeded_0 14 rfl rfl)
theorem dX1_isNeeded_17 : decode cX1_isNeeded 17 = .ok (.astore_n 3, 1) := dk_78 (dk_at dksX1_isNeeded_0 17 rfl rfl)
theorem dX1_isNeeded_18 : decode cX1_isNeeded 18 = .ok (.aload_n 3, 1) := dk_45 (dk_at dksX1_isNeeded_0 18 rfl rfl)
theorem dX1_isNeeded_19 : decode cX1_isNeeded 19 = .ok (.invokevirtual 201, 3) := dk_182 0 201 (dk_at dksX1_isNeeded_0 19 rfl rfl)
theorem dX1_isNeeded_22 : decode cX1_isNeeded 22 = .ok (.ifCond .eq 25, 3) := dk_153 0 25 (dk_at dksX1_isNeeded_1 0 rfl rfl)
theorem dX1_isNeeded_25 : decode cX1_isNeeded 25 = .ok (.aload_n 3, 1) := dk_45 (dk_at dksX1_isNeeded_1 3 rfl rfl)
theorem dX1_isNeeded_26 : decode cX1_isNeeded 26 = .ok (.getfield 256, 3) := dk_180 1 0 (dk_at dksX1_isNeeded_1 4 rfl rfl)
theorem dX1_isNeeded_29 : decode cX1_isNeeded 29 = .ok (.bipush 6, 2) := dk_16 6 (dk_at dksX1_isNeeded_1 7 rfl rfl)
theorem dX1_isNeeded_31 : decode cX1_isNeeded 31 = .ok (.iload_n 1, 1) := dk_27 (dk_at dksX1_isNeeded_1 9 rfl rfl)
theorem dX1_isNeeded_32 : decode cX1_isNeeded 32 = .ok (.imul, 1) := dk_104 (dk_at dksX1_isNeeded_1 10 rfl rfl)
theorem dX1_isNeeded_33 : decode cX1_isNeeded 33 = .ok (.iload_n 2, 1) := dk_28 (dk_at dksX1_isNeeded_1 11 rfl rfl)
theorem dX1_isNeeded_34 : decode cX1_isNeeded 34 = .ok (.iadd, 1) := dk_96 (dk_at dksX1_isNeeded_1 12 rfl rfl)
theorem dX1_isNeeded_35 : decode cX1_isNeeded 35 = .ok (.iaload, 1) := dk_46 (dk_at dksX1_isNeeded_1 13 rfl rfl)
theorem dX1_isNeeded_36 : decode cX1_isNeeded 36 = .ok (.aload_n 3, 1) := dk_45 (dk_at dksX1_isNeeded_1 14 rfl rfl)
theorem dX1_isNeeded_37 : decode cX1_isNeeded 37 = .ok (.getfield 251, 3) := dk_180 0 251 (dk_at dksX1_isNeeded_1 15 rfl rfl)
theorem dX1_isNeeded_40 : decode cX1_isNeeded 40 = .ok (.if_icmp .le 7, 3) := dk_164 0 7 (dk_at dksX1_isNeeded_1 18 rfl rfl)
theorem dX1_isNeeded_43 : decode cX1_isNeeded 43 = .ok (.iconst 1, 1) := dk_4 (dk_at dksX1_isNeeded_1 21 rfl rfl)
theorem dX1_isNeeded_44 : decode cX1_isNeeded 44 = .ok (.goto 4, 3) := dk_167 0 4 (dk_at dksX1_isNeeded_2 0 rfl rfl)
theorem dX1_isNeeded_47 : decode cX1_isNeeded 47 = .ok (.iconst 0, 1) := dk_3 (dk_at dksX1_isNeeded_2 3 rfl rfl)
theorem dX1_isNeeded_48 : decode cX1_isNeeded 48 = .ok (.ireturn, 1) := dk_172 (dk_at dksX1_isNeeded_2 4 rfl rfl)
abbrev cX1_wouldBid : ByteArray := prog_1_method_36_code
def yX1_wouldBid : MethodName := ⟨RX1, "wouldBid", "()I"⟩
def dkwX1_wouldBid_0 : List UInt8 := [42, 180, 0, 37, 182, 1, 6, 184, 1, 9, 172]
abbrev dktX1_wouldBid_0 : List UInt8 := dkwX1_wouldBid_0 ++ []
theorem dksX1_wouldBid_0 : cX1_wouldBid.data.toList.drop 0 = dktX1_wouldBid_0 := by decide +kernel
theorem dX1_wouldBid_0 : decode cX1_wouldBid 0 = .ok (.aload_n 0, 1) := dk_42 (dk_at dksX1_wouldBid_0 0 rfl rfl)
theorem dX1_wouldBid_1 : decode cX1_wouldBid 1 = .ok (.getfield 37, 3) := dk_180 0 37 (dk_at dksX1_wouldBid_0 1 rfl rfl)
theorem dX1_wouldBid_4 : decode cX1_wouldBid 4 = .ok (.invokevirtual 262, 3) := dk_182 1 6 (dk_at dksX1_wouldBid_0 4 rfl rfl)
theorem dX1_wouldBid_7 : decode cX1_wouldBid 7 = .ok (.invokestatic 265, 3) := dk_184 1 9 (dk_at dksX1_wouldBid_0 7 rfl rfl)
theorem dX1_wouldBid_10 : decode cX1_wouldBid 10 = .ok (.ireturn, 1) := dk_172 (dk_at dksX1_wouldBid_0 10 rfl rfl)
abbrev cX1_existing : ByteArray := prog_1_method_7_code
def yX1_existing : MethodName := ⟨RX1, "existing", "(I)I"⟩
def dkwX1_existing_0 : List UInt8 := [26, 2, 159, 0, 7, 4, 167, 0, 4, 3, 184, 0, 21, 26, 172]
abbrev dktX1_existing_0 : List UInt8 := dkwX1_existing_0 ++ []
theorem dksX1_existing_0 : cX1_existing.data.toList.drop 0 = dktX1_existing_0 := by decide +kernel
theorem dX1_existing_0 : decode cX1_existing 0 = .ok (.iload_n 0, 1) := dk_26 (dk_at dksX1_existing_0 0 rfl rfl)
theorem dX1_existing_1 : decode cX1_existing 1 = .ok (.iconst (-1), 1) := dk_2 (dk_at dksX1_existing_0 1 rfl rfl)
theorem dX1_existing_2 : decode cX1_existing 2 = .ok (.if_icmp .eq 7, 3) := dk_159 0 7 (dk_at dksX1_existing_0 2 rfl rfl)
theorem dX1_existing_5 : decode cX1_existing 5 = .ok (.iconst 1, 1) := dk_4 (dk_at dksX1_existing_0 5 rfl rfl)
theorem dX1_existing_6 : decode cX1_existing 6 = .ok (.goto 4, 3) := dk_167 0 4 (dk_at dksX1_existing_0 6 rfl rfl)
theorem dX1_existing_9 : decode cX1_existing 9 = .ok (.iconst 0, 1) := dk_3 (dk_at dksX1_existing_0 9 rfl rfl)
theorem dX1_existing_10 : decode cX1_existing 10 = .ok (.invokestatic 21, 3) := dk_184 0 21 (dk_at dksX1_existing_0 10 rfl rfl)
theorem dX1_existing_13 : decode cX1_existing 13 = .ok (.iload_n 0, 1) := dk_26 (dk_at dksX1_existing_0 13 rfl rfl)
theorem dX1_existing_14 : decode cX1_existing 14 = .ok (.ireturn, 1) := dk_172 (dk_at dksX1_existing_0 14 rfl rfl)
abbrev cX1_chain : ByteArray := prog_1_method_37_code
def yX1_chain : MethodName := ⟨RX1, "chain", "(I)I"⟩
def dkwX1_chain_2 : List UInt8 := [182, 1, 25, 172]
abbrev dktX1_chain_2 : List UInt8 := dkwX1_chain_2 ++ []
def dkwX1_chain_1 : List UInt8 := [184, 0, 168, 153, 0, 7, 4, 167, 0, 4, 3, 184, 0, 21, 44, 27, 185, 1, 19, 2, 0, 192, 1, 23]
abbrev dktX1_chain_1 : List UInt8 := dkwX1_chain_1 ++ dktX1_chain_2
def dkwX1_chain_0 : List UInt8 := [42, 180, 0, 37, 182, 1, 12, 77, 44, 198, 0, 23, 27, 3, 44, 185, 1, 16, 1, 0, 4, 100]
abbrev dktX1_chain_0 : List UInt8 := dkwX1_chain_0 ++ dktX1_chain_1
theorem dksX1_chain_0 : cX1_chain.data.toList.drop 0 = dktX1_chain_0 := by decide +kernel
theorem dksX1_chain_1 : cX1_chain.data.toList.drop 22 = dktX1_chain_1 := dk_seg dksX1_chain_0 22 rfl rfl
theorem dksX1_chain_2 : cX1_chain.data.toList.drop 46 = dktX1_chain_2 := dk_seg dksX1_chain_1 24 rfl rfl
theorem dX1_chain_0 : decode cX1_chain 0 = .ok (.aload_n 0, 1) := dk_42 (dk_at dksX1_chain_0 0 rfl rfl)
theorem dX1_chain_1 : decode cX1_chain 1 = .ok (.getfield 37, 3) := dk_180 0 37 (dk_at dksX1_chain_0 1 rfl rfl)
theorem dX1_chain_4 : decode cX1_chain 4 = .ok (.invokevirtual 268, 3) := dk_182 1 12 (dk_at dksX1_chain_0 4 rfl rfl)
theorem dX1_chain_7 : decode cX1_chain 7 = .ok (.astore_n 2, 1) := dk_77 (dk_at dksX1_chain_0 7 rfl rfl)
theorem dX1_chain_8 : decode cX1_chain 8 = .ok (.aload_n 2, 1) := dk_44 (dk_at dksX1_chain_0 8 rfl rfl)
theorem dX1_chain_9 : decode cX1_chain 9 = .ok (.ifnull 23, 3) := dk_198 0 23 (dk_at dksX1_chain_0 9 rfl rfl)
theorem dX1_chain_12 : decode cX1_chain 12 = .ok (.iload_n 1, 1) := dk_27 (dk_at dksX1_chain_0 12 rfl rfl)
theorem dX1_chain_13 : decode cX1_chain 13 = .ok (.iconst 0, 1) := dk_3 (dk_at dksX1_chain_0 13 rfl rfl)
theorem dX1_chain_14 : decode cX1_chain 14 = .ok (.aload_n 2, 1) := dk_44 (dk_at dksX1_chain_0 14 rfl rfl)
theorem dX1_chain_15 : decode cX1_chain 15 = .ok (.invokeinterface 272 1, 5) := by decide +kernel
theorem dX1_chain_20 : decode cX1_chain 20 = .ok (.iconst 1, 1) := dk_4 (dk_at dksX1_chain_0 20 rfl rfl)
theorem dX1_chain_21 : decode cX1_chain 21 = .ok (.isub, 1) := dk_100 (dk_at dksX1_chain_0 21 rfl rfl)
theorem dX1_chain_22 : decode cX1_chain 22 = .ok (.invokestatic 168, 3) := dk_184 0 168 (dk_at dksX1_chain_1 0 rfl rfl)
theorem dX1_chain_25 : decode cX1_chain 25 = .ok (.ifCond .eq 7, 3) := dk_153 0 7 (dk_at dksX1_chain_1 3 rfl rfl)
theorem dX1_chain_28 : decode cX1_chain 28 = .ok (.iconst 1, 1) := dk_4 (dk_at dksX1_chain_1 6 rfl rfl)
theorem dX1_chain_29 : decode cX1_chain 29 = .ok (.goto 4, 3) := dk_167 0 4 (dk_at dksX1_chain_1 7 rfl rfl)
theorem dX1_chain_32 : decode cX1_chain 32 = .ok (.iconst 0, 1) := dk_3 (dk_at dksX1_chain_1 10 rfl rfl)
theorem dX1_chain_33 : decode cX1_chain 33 = .ok (.invokestatic 21, 3) := dk_184 0 21 (dk_at dksX1_chain_1 11 rfl rfl)
theorem dX1_chain_36 : decode cX1_chain 36 = .ok (.aload_n 2, 1) := dk_44 (dk_at dksX1_chain_1 14 rfl rfl)
theorem dX1_chain_37 : decode cX1_chain 37 = .ok (.iload_n 1, 1) := dk_27 (dk_at dksX1_chain_1 15 rfl rfl)
theorem dX1_chain_38 : decode cX1_chain 38 = .ok (.invokeinterface 275 2, 5) := by decide +kernel
theorem dX1_chain_43 : decode cX1_chain 43 = .ok (.checkcast 279, 3) := dk_192 1 23 (dk_at dksX1_chain_1 21 rfl rfl)
theorem dX1_chain_46 : decode cX1_chain 46 = .ok (.invokevirtual 281, 3) := dk_182 1 25 (dk_at dksX1_chain_2 0 rfl rfl)
theorem dX1_chain_49 : decode cX1_chain 49 = .ok (.ireturn, 1) := dk_172 (dk_at dksX1_chain_2 3 rfl rfl)
abbrev cX1_ranked : ByteArray := prog_1_method_38_code
def yX1_ranked : MethodName := ⟨RX1, "ranked", "(II)I"⟩
def dkwX1_ranked_1 : List UInt8 := [182, 1, 37, 184, 1, 9, 172]
abbrev dktX1_ranked_1 : List UInt8 := dkwX1_ranked_1 ++ []
def dkwX1_ranked_0 : List UInt8 := [27, 3, 184, 1, 28, 190, 4, 100, 184, 0, 168, 184, 1, 34, 42, 180, 0, 37, 184, 1, 28, 27, 50, 28]
abbrev dktX1_ranked_0 : List UInt8 := dkwX1_ranked_0 ++ dktX1_ranked_1
theorem dksX1_ranked_0 : cX1_ranked.data.toList.drop 0 = dktX1_ranked_0 := by decide +kernel
theorem dksX1_ranked_1 : cX1_ranked.data.toList.drop 24 = dktX1_ranked_1 := dk_seg dksX1_ranked_0 24 rfl rfl
theorem dX1_ranked_0 : decode cX1_ranked 0 = .ok (.iload_n 1, 1) := dk_27 (dk_at dksX1_ranked_0 0 rfl rfl)
theorem dX1_ranked_1 : decode cX1_ranked 1 = .ok (.iconst 0, 1) := dk_3 (dk_at dksX1_ranked_0 1 rfl rfl)
theorem dX1_ranked_2 : decode cX1_ranked 2 = .ok (.invokestatic 284, 3) := dk_184 1 28 (dk_at dksX1_ranked_0 2 rfl rfl)
theorem dX1_ranked_5 : decode cX1_ranked 5 = .ok (.arraylength, 1) := dk_190 (dk_at dksX1_ranked_0 5 rfl rfl)
theorem dX1_ranked_6 : decode cX1_ranked 6 = .ok (.iconst 1, 1) := dk_4 (dk_at dksX1_ranked_0 6 rfl rfl)
theorem dX1_ranked_7 : decode cX1_ranked 7 = .ok (.isub, 1) := dk_100 (dk_at dksX1_ranked_0 7 rfl rfl)
theorem dX1_ranked_8 : decode cX1_ranked 8 = .ok (.invokestatic 168, 3) := dk_184 0 168 (dk_at dksX1_ranked_0 8 rfl rfl)
theorem dX1_ranked_11 : decode cX1_ranked 11 = .ok (.invokestatic 290, 3) := dk_184 1 34 (dk_at dksX1_ranked_0 11 rfl rfl)
theorem dX1_ranked_14 : decode cX1_ranked 14 = .ok (.aload_n 0, 1) := dk_42 (dk_at dksX1_ranked_0 14 rfl rfl)
theorem dX1_ranked_15 : decode cX1_ranked 15 = .ok (.getfield 37, 3) := dk_180 0 37 (dk_at dksX1_ranked_0 15 rfl rfl)
theorem dX1_ranked_18 : decode cX1_ranked 18 = .ok (.invokestatic 284, 3) := dk_184 1 28 (dk_at dksX1_ranked_0 18 rfl rfl)
theorem dX1_ranked_21 : decode cX1_ranked 21 = .ok (.iload_n 1, 1) := dk_27 (dk_at dksX1_ranked_0 21 rfl rfl)
theorem dX1_ranked_22 : decode cX1_ranked 22 = .ok (.aaload, 1) := dk_50 (dk_at dksX1_ranked_0 22 rfl rfl)
theorem dX1_ranked_23 : decode cX1_ranked 23 = .ok (.iload_n 2, 1) := dk_28 (dk_at dksX1_ranked_0 23 rfl rfl)
theorem dX1_ranked_24 : decode cX1_ranked 24 = .ok (.invokevirtual 293, 3) := dk_182 1 37 (dk_at dksX1_ranked_1 0 rfl rfl)
theorem dX1_ranked_27 : decode cX1_ranked 27 = .ok (.invokestatic 265, 3) := dk_184 1 9 (dk_at dksX1_ranked_1 3 rfl rfl)
theorem dX1_ranked_30 : decode cX1_ranked 30 = .ok (.ireturn, 1) := dk_172 (dk_at dksX1_ranked_1 6 rfl rfl)
abbrev cX1_require : ByteArray := prog_1_method_3_code
def yX1_require : MethodName := ⟨RX1, "require", "(Z)V"⟩
def dkwX1_require_0 : List UInt8 := [26, 154, 0, 11, 187, 0, 7, 89, 183, 0, 9, 191, 177]
abbrev dktX1_require_0 : List UInt8 := dkwX1_require_0 ++ []
theorem dksX1_require_0 : cX1_require.data.toList.drop 0 = dktX1_require_0 := by decide +kernel
theorem dX1_require_0 : decode cX1_require 0 = .ok (.iload_n 0, 1) := dk_26 (dk_at dksX1_require_0 0 rfl rfl)
theorem dX1_require_1 : decode cX1_require 1 = .ok (.ifCond .ne 11, 3) := dk_154 0 11 (dk_at dksX1_require_0 1 rfl rfl)
theorem dX1_require_4 : decode cX1_require 4 = .ok (.new 7, 3) := dk_187 0 7 (dk_at dksX1_require_0 4 rfl rfl)
theorem dX1_require_7 : decode cX1_require 7 = .ok (.dup, 1) := dk_89 (dk_at dksX1_require_0 7 rfl rfl)
theorem dX1_require_8 : decode cX1_require 8 = .ok (.invokespecial 9, 3) := dk_183 0 9 (dk_at dksX1_require_0 8 rfl rfl)
theorem dX1_require_11 : decode cX1_require 11 = .ok (.athrow, 1) := dk_191 (dk_at dksX1_require_0 11 rfl rfl)
theorem dX1_require_12 : decode cX1_require 12 = .ok (.return_, 1) := dk_177 (dk_at dksX1_require_0 12 rfl rfl)
abbrev cX1_feed : ByteArray := prog_1_method_39_code
def yX1_feed : MethodName := ⟨RX1, "feed", "(C)I"⟩
def dkwX1_feed_1 : List UInt8 := [27, 182, 1, 47, 87, 42, 180, 0, 51, 182, 1, 41, 172]
abbrev dktX1_feed_1 : List UInt8 := dkwX1_feed_1 ++ []
def dkwX1_feed_0 : List UInt8 := [42, 180, 0, 51, 182, 1, 41, 16, 60, 162, 0, 7, 4, 167, 0, 4, 3, 184, 1, 44, 42, 180, 0, 51]
abbrev dktX1_feed_0 : List UInt8 := dkwX1_feed_0 ++ dktX1_feed_1
theorem dksX1_feed_0 : cX1_feed.data.toList.drop 0 = dktX1_feed_0 := by decide +kernel
theorem dksX1_feed_1 : cX1_feed.data.toList.drop 24 = dktX1_feed_1 := dk_seg dksX1_feed_0 24 rfl rfl
theorem dX1_feed_0 : decode cX1_feed 0 = .ok (.aload_n 0, 1) := dk_42 (dk_at dksX1_feed_0 0 rfl rfl)
theorem dX1_feed_1 : decode cX1_feed 1 = .ok (.getfield 51, 3) := dk_180 0 51 (dk_at dksX1_feed_0 1 rfl rfl)
theorem dX1_feed_4 : decode cX1_feed 4 = .ok (.invokevirtual 297, 3) := dk_182 1 41 (dk_at dksX1_feed_0 4 rfl rfl)
theorem dX1_feed_7 : decode cX1_feed 7 = .ok (.bipush 60, 2) := dk_16 60 (dk_at dksX1_feed_0 7 rfl rfl)
theorem dX1_feed_9 : decode cX1_feed 9 = .ok (.if_icmp .ge 7, 3) := dk_162 0 7 (dk_at dksX1_feed_0 9 rfl rfl)
theorem dX1_feed_12 : decode cX1_feed 12 = .ok (.iconst 1, 1) := dk_4 (dk_at dksX1_feed_0 12 rfl rfl)
theorem dX1_feed_13 : decode cX1_feed 13 = .ok (.goto 4, 3) := dk_167 0 4 (dk_at dksX1_feed_0 13 rfl rfl)
theorem dX1_feed_16 : decode cX1_feed 16 = .ok (.iconst 0, 1) := dk_3 (dk_at dksX1_feed_0 16 rfl rfl)
theorem dX1_feed_17 : decode cX1_feed 17 = .ok (.invokestatic 300, 3) := dk_184 1 44 (dk_at dksX1_feed_0 17 rfl rfl)
theorem dX1_feed_20 : decode cX1_feed 20 = .ok (.aload_n 0, 1) := dk_42 (dk_at dksX1_feed_0 20 rfl rfl)
theorem dX1_feed_21 : decode cX1_feed 21 = .ok (.getfield 51, 3) := dk_180 0 51 (dk_at dksX1_feed_0 21 rfl rfl)
theorem dX1_feed_24 : decode cX1_feed 24 = .ok (.iload_n 1, 1) := dk_27 (dk_at dksX1_feed_1 0 rfl rfl)
theorem dX1_feed_25 : decode cX1_feed 25 = .ok (.invokevirtual 303, 3) := dk_182 1 47 (dk_at dksX1_feed_1 1 rfl rfl)
theorem dX1_feed_28 : decode cX1_feed 28 = .ok (.pop, 1) := dk_87 (dk_at dksX1_feed_1 4 rfl rfl)
theorem dX1_feed_29 : decode cX1_feed 29 = .ok (.aload_n 0, 1) := dk_42 (dk_at dksX1_feed_1 5 rfl rfl)
theorem dX1_feed_30 : decode cX1_feed 30 = .ok (.getfield 51, 3) := dk_180 0 51 (dk_at dksX1_feed_1 6 rfl rfl)
theorem dX1_feed_33 : decode cX1_feed 33 = .ok (.invokevirtual 297, 3) := dk_182 1 41 (dk_at dksX1_feed_1 9 rfl rfl)
theorem dX1_feed_36 : decode cX1_feed 36 = .ok (.ireturn, 1) := dk_172 (dk_at dksX1_feed_1 12 rfl rfl)
abbrev cX1_requireState : ByteArray := prog_1_method_4_code
def yX1_requireState : MethodName := ⟨RX1, "requireState", "(Z)V"⟩
def dkwX1_requireState_0 : List UInt8 := [26, 154, 0, 11, 187, 0, 10, 89, 183, 0, 12, 191, 177]
abbrev dktX1_requireState_0 : List UInt8 := dkwX1_requireState_0 ++ []
theorem dksX1_requireState_0 : cX1_requireState.data.toList.drop 0 = dktX1_requireState_0 := by decide +kernel
theorem dX1_requireState_0 : decode cX1_requireState 0 = .ok (.iload_n 0, 1) := dk_26 (dk_at dksX1_requireState_0 0 rfl rfl)
theorem dX1_requireState_1 : decode cX1_requireState 1 = .ok (.ifCond .ne 11, 3) := dk_154 0 11 (dk_at dksX1_requireState_0 1 rfl rfl)
theorem dX1_requireState_4 : decode cX1_requireState 4 = .ok (.new 10, 3) := dk_187 0 10 (dk_at dksX1_requireState_0 4 rfl rfl)
theorem dX1_requireState_7 : decode cX1_requireState 7 = .ok (.dup, 1) := dk_89 (dk_at dksX1_requireState_0 7 rfl rfl)
theorem dX1_requireState_8 : decode cX1_requireState 8 = .ok (.invokespecial 12, 3) := dk_183 0 12 (dk_at dksX1_requireState_0 8 rfl rfl)
theorem dX1_requireState_11 : decode cX1_requireState 11 = .ok (.athrow, 1) := dk_191 (dk_at dksX1_requireState_0 11 rfl rfl)
theorem dX1_requireState_12 : decode cX1_requireState 12 = .ok (.return_, 1) := dk_177 (dk_at dksX1_requireState_0 12 rfl rfl)
abbrev cX1_run : ByteArray := prog_1_method_41_code
def yX1_run : MethodName := ⟨RX1, "run", "()I"⟩
def dkwX1_run_3 : List UInt8 := [181, 0, 135, 187, 0, 139, 89, 183, 0, 141, 191, 42, 44, 182, 0, 132, 29, 172]
abbrev dktX1_run_3 : List UInt8 := dkwX1_run_3 ++ []
def dkwX1_run_2 : List UInt8 := [132, 3, 1, 167, 255, 227, 167, 0, 29, 58, 4, 42, 187, 0, 26, 89, 16, 10, 29, 25, 4, 183, 1, 76]
abbrev dktX1_run_2 : List UInt8 := dkwX1_run_2 ++ dktX1_run_3
def dkwX1_run_1 : List UInt8 := [185, 1, 16, 1, 0, 162, 0, 25, 43, 29, 185, 1, 19, 2, 0, 192, 1, 74, 44, 184, 0, 129, 54, 4]
abbrev dktX1_run_1 : List UInt8 := dkwX1_run_1 ++ dktX1_run_2
def dkwX1_run_0 : List UInt8 := [42, 182, 1, 71, 76, 187, 0, 34, 89, 42, 180, 0, 37, 183, 0, 126, 77, 3, 62, 29, 43]
abbrev dktX1_run_0 : List UInt8 := dkwX1_run_0 ++ dktX1_run_1
theorem dksX1_run_0 : cX1_run.data.toList.drop 0 = dktX1_run_0 := by decide +kernel
theorem dksX1_run_1 : cX1_run.data.toList.drop 21 = dktX1_run_1 := dk_seg dksX1_run_0 21 rfl rfl
theorem dksX1_run_2 : cX1_run.data.toList.drop 45 = dktX1_run_2 := dk_seg dksX1_run_1 24 rfl rfl
theorem dksX1_run_3 : cX1_run.data.toList.drop 69 = dktX1_run_3 := dk_seg dksX1_run_2 24 rfl rfl
theorem dX1_run_0 : decode cX1_run 0 = .ok (.aload_n 0, 1) := dk_42 (dk_at dksX1_run_0 0 rfl rfl)
theorem dX1_run_1 : decode cX1_run 1 = .ok (.invokevirtual 327, 3) := dk_182 1 71 (dk_at dksX1_run_0 1 rfl rfl)
theorem dX1_run_4 : decode cX1_run 4 = .ok (.astore_n 1, 1) := dk_76 (dk_at dksX1_run_0 4 rfl rfl)
theorem dX1_run_5 : decode cX1_run 5 = .ok (.new 34, 3) := dk_187 0 34 (dk_at dksX1_run_0 5 rfl rfl)
theorem dX1_run_8 : decode cX1_run 8 = .ok (.dup, 1) := dk_89 (dk_at dksX1_run_0 8 rfl rfl)
theorem dX1_run_9 : decode cX1_run 9 = .ok (.aload_n 0, 1) := dk_42 (dk_at dksX1_run_0 9 rfl rfl)
theorem dX1_run_10 : decode cX1_run 10 = .ok (.getfield 37, 3) := dk_180 0 37 (dk_at dksX1_run_0 10 rfl rfl)
theorem dX1_run_13 : decode cX1_run 13 = .ok (.invokespecial 126, 3) := dk_183 0 126 (dk_at dksX1_run_0 13 rfl rfl)
theorem dX1_run_16 : decode cX1_run 16 = .ok (.astore_n 2, 1) := dk_77 (dk_at dksX1_run_0 16 rfl rfl)
theorem dX1_run_17 : decode cX1_run 17 = .ok (.iconst 0, 1) := dk_3 (dk_at dksX1_run_0 17 rfl rfl)
theorem dX1_run_18 : decode cX1_run 18 = .ok (.istore_n 3, 1) := dk_62 (dk_at dksX1_run_0 18 rfl rfl)
theorem dX1_run_19 : decode cX1_run 19 = .ok (.iload_n 3, 1) := dk_29 (dk_at dksX1_run_0 19 rfl rfl)
theorem dX1_run_20 : decode cX1_run 20 = .ok (.aload_n 1, 1) := dk_43 (dk_at dksX1_run_0 20 rfl rfl)
theorem dX1_run_21 : decode cX1_run 21 = .ok (.invokeinterface 272 1, 5) := by decide +kernel
theorem dX1_run_26 : decode cX1_run 26 = .ok (.if_icmp .ge 25, 3) := dk_162 0 25 (dk_at dksX1_run_1 5 rfl rfl)
theorem dX1_run_29 : decode cX1_run 29 = .ok (.aload_n 1, 1) := dk_43 (dk_at dksX1_run_1 8 rfl rfl)
theorem dX1_run_30 : decode cX1_run 30 = .ok (.iload_n 3, 1) := dk_29 (dk_at dksX1_run_1 9 rfl rfl)
theorem dX1_run_31 : decode cX1_run 31 = .ok (.invokeinterface 275 2, 5) := by decide +kernel
theorem dX1_run_36 : decode cX1_run 36 = .ok (.checkcast 330, 3) := dk_192 1 74 (dk_at dksX1_run_1 15 rfl rfl)
theorem dX1_run_39 : decode cX1_run 39 = .ok (.aload_n 2, 1) := dk_44 (dk_at dksX1_run_1 18 rfl rfl)
theorem dX1_run_40 : decode cX1_run 40 = .ok (.invokestatic 129, 3) := dk_184 0 129 (dk_at dksX1_run_1 19 rfl rfl)
theorem dX1_run_43 : decode cX1_run 43 = .ok (.istore 4, 2) := dk_54 4 (dk_at dksX1_run_1 22 rfl rfl)
theorem dX1_run_45 : decode cX1_run 45 = .ok (.iinc 3 1, 3) := dk_132 3 1 (dk_at dksX1_run_2 0 rfl rfl)
theorem dX1_run_48 : decode cX1_run 48 = .ok (.goto (-29), 3) := dk_167 255 227 (dk_at dksX1_run_2 3 rfl rfl)
theorem dX1_run_51 : decode cX1_run 51 = .ok (.goto 29, 3) := dk_167 0 29 (dk_at dksX1_run_2 6 rfl rfl)
theorem dX1_run_54 : decode cX1_run 54 = .ok (.astore 4, 2) := dk_58 4 (dk_at dksX1_run_2 9 rfl rfl)
theorem dX1_run_56 : decode cX1_run 56 = .ok (.aload_n 0, 1) := dk_42 (dk_at dksX1_run_2 11 rfl rfl)
theorem dX1_run_57 : decode cX1_run 57 = .ok (.new 26, 3) := dk_187 0 26 (dk_at dksX1_run_2 12 rfl rfl)
theorem dX1_run_60 : decode cX1_run 60 = .ok (.dup, 1) := dk_89 (dk_at dksX1_run_2 15 rfl rfl)
theorem dX1_run_61 : decode cX1_run 61 = .ok (.bipush 10, 2) := dk_16 10 (dk_at dksX1_run_2 16 rfl rfl)
theorem dX1_run_63 : decode cX1_run 63 = .ok (.iload_n 3, 1) := dk_29 (dk_at dksX1_run_2 18 rfl rfl)
theorem dX1_run_64 : decode cX1_run 64 = .ok (.aload 4, 2) := dk_25 4 (dk_at dksX1_run_2 19 rfl rfl)
theorem dX1_run_66 : decode cX1_run 66 = .ok (.invokespecial 332, 3) := dk_183 1 76 (dk_at dksX1_run_2 21 rfl rfl)
theorem dX1_run_69 : decode cX1_run 69 = .ok (.putfield 135, 3) := dk_181 0 135 (dk_at dksX1_run_3 0 rfl rfl)
theorem dX1_run_72 : decode cX1_run 72 = .ok (.new 139, 3) := dk_187 0 139 (dk_at dksX1_run_3 3 rfl rfl)
theorem dX1_run_75 : decode cX1_run 75 = .ok (.dup, 1) := dk_89 (dk_at dksX1_run_3 6 rfl rfl)
theorem dX1_run_76 : decode cX1_run 76 = .ok (.invokespecial 141, 3) := dk_183 0 141 (dk_at dksX1_run_3 7 rfl rfl)
theorem dX1_run_79 : decode cX1_run 79 = .ok (.athrow, 1) := dk_191 (dk_at dksX1_run_3 10 rfl rfl)
theorem dX1_run_80 : decode cX1_run 80 = .ok (.aload_n 0, 1) := dk_42 (dk_at dksX1_run_3 11 rfl rfl)
theorem dX1_run_81 : decode cX1_run 81 = .ok (.aload_n 2, 1) := dk_44 (dk_at dksX1_run_3 12 rfl rfl)
theorem dX1_run_82 : decode cX1_run 82 = .ok (.invokevirtual 132, 3) := dk_182 0 132 (dk_at dksX1_run_3 13 rfl rfl)
theorem dX1_run_85 : decode cX1_run 85 = .ok (.iload_n 3, 1) := dk_29 (dk_at dksX1_run_3 16 rfl rfl)
theorem dX1_run_86 : decode cX1_run 86 = .ok (.ireturn, 1) := dk_172 (dk_at dksX1_run_3 17 rfl rfl)
abbrev cX1_readOrders : ByteArray := prog_1_method_40_code
def yX1_readOrders : MethodName := ⟨RX1, "readOrders", "()Ljava/util/List;"⟩
def dkwX1_readOrders_1 : List UInt8 := [182, 1, 63, 176, 77, 42, 44, 180, 1, 68, 181, 0, 61, 187, 0, 7, 89, 183, 0, 9, 191]
abbrev dktX1_readOrders_1 : List UInt8 := dkwX1_readOrders_1 ++ []
def dkwX1_readOrders_0 : List UInt8 := [187, 1, 51, 89, 42, 180, 0, 51, 182, 1, 53, 183, 1, 57, 76, 42, 180, 0, 51, 3, 182, 1, 60, 43]
abbrev dktX1_readOrders_0 : List UInt8 := dkwX1_readOrders_0 ++ dktX1_readOrders_1
theorem dksX1_readOrders_0 : cX1_readOrders.data.toList.drop 0 = dktX1_readOrders_0 := by decide +kernel
theorem dksX1_readOrders_1 : cX1_readOrders.data.toList.drop 24 = dktX1_readOrders_1 := dk_seg dksX1_readOrders_0 24 rfl rfl
theorem dX1_readOrders_0 : decode cX1_readOrders 0 = .ok (.new 307, 3) := dk_187 1 51 (dk_at dksX1_readOrders_0 0 rfl rfl)
theorem dX1_readOrders_3 : decode cX1_readOrders 3 = .ok (.dup, 1) := dk_89 (dk_at dksX1_readOrders_0 3 rfl rfl)
theorem dX1_readOrders_4 : decode cX1_readOrders 4 = .ok (.aload_n 0, 1) := dk_42 (dk_at dksX1_readOrders_0 4 rfl rfl)
theorem dX1_readOrders_5 : decode cX1_readOrders 5 = .ok (.getfield 51, 3) := dk_180 0 51 (dk_at dksX1_readOrders_0 5 rfl rfl)
theorem dX1_readOrders_8 : decode cX1_readOrders 8 = .ok (.invokevirtual 309, 3) := dk_182 1 53 (dk_at dksX1_readOrders_0 8 rfl rfl)
theorem dX1_readOrders_11 : decode cX1_readOrders 11 = .ok (.invokespecial 313, 3) := dk_183 1 57 (dk_at dksX1_readOrders_0 11 rfl rfl)
theorem dX1_readOrders_14 : decode cX1_readOrders 14 = .ok (.astore_n 1, 1) := dk_76 (dk_at dksX1_readOrders_0 14 rfl rfl)
theorem dX1_readOrders_15 : decode cX1_readOrders 15 = .ok (.aload_n 0, 1) := dk_42 (dk_at dksX1_readOrders_0 15 rfl rfl)
theorem dX1_readOrders_16 : decode cX1_readOrders 16 = .ok (.getfield 51, 3) := dk_180 0 51 (dk_at dksX1_readOrders_0 16 rfl rfl)
theorem dX1_readOrders_19 : decode cX1_readOrders 19 = .ok (.iconst 0, 1) := dk_3 (dk_at dksX1_readOrders_0 19 rfl rfl)
theorem dX1_readOrders_20 : decode cX1_readOrders 20 = .ok (.invokevirtual 316, 3) := dk_182 1 60 (dk_at dksX1_readOrders_0 20 rfl rfl)
theorem dX1_readOrders_23 : decode cX1_readOrders 23 = .ok (.aload_n 1, 1) := dk_43 (dk_at dksX1_readOrders_0 23 rfl rfl)
theorem dX1_readOrders_24 : decode cX1_readOrders 24 = .ok (.invokevirtual 319, 3) := dk_182 1 63 (dk_at dksX1_readOrders_1 0 rfl rfl)
theorem dX1_readOrders_27 : decode cX1_readOrders 27 = .ok (.areturn, 1) := dk_176 (dk_at dksX1_readOrders_1 3 rfl rfl)
theorem dX1_readOrders_28 : decode cX1_readOrders 28 = .ok (.astore_n 2, 1) := dk_77 (dk_at dksX1_readOrders_1 4 rfl rfl)
theorem dX1_readOrders_29 : decode cX1_readOrders 29 = .ok (.aload_n 0, 1) := dk_42 (dk_at dksX1_readOrders_1 5 rfl rfl)
theorem dX1_readOrders_30 : decode cX1_readOrders 30 = .ok (.aload_n 2, 1) := dk_44 (dk_at dksX1_readOrders_1 6 rfl rfl)
theorem dX1_readOrders_31 : decode cX1_readOrders 31 = .ok (.getfield 324, 3) := dk_180 1 68 (dk_at dksX1_readOrders_1 7 rfl rfl)
theorem dX1_readOrders_34 : decode cX1_readOrders 34 = .ok (.putfield 61, 3) := dk_181 0 61 (dk_at dksX1_readOrders_1 10 rfl rfl)
theorem dX1_readOrders_37 : decode cX1_readOrders 37 = .ok (.new 7, 3) := dk_187 0 7 (dk_at dksX1_readOrders_1 13 rfl rfl)
theorem dX1_readOrders_40 : decode cX1_readOrders 40 = .ok (.dup, 1) := dk_89 (dk_at dksX1_readOrders_1 16 rfl rfl)
theorem dX1_readOrders_41 : decode cX1_readOrders 41 = .ok (.invokespecial 9, 3) := dk_183 0 9 (dk_at dksX1_readOrders_1 17 rfl rfl)
theorem dX1_readOrders_44 : decode cX1_readOrders 44 = .ok (.athrow, 1) := dk_191 (dk_at dksX1_readOrders_1 20 rfl rfl)
abbrev cX1_faultPosition : ByteArray := prog_1_method_42_code
def yX1_faultPosition : MethodName := ⟨RX1, "faultPosition", "()I"⟩
def dkwX1_faultPosition_0 : List UInt8 := [42, 180, 0, 61, 184, 1, 9, 172]
abbrev dktX1_faultPosition_0 : List UInt8 := dkwX1_faultPosition_0 ++ []
theorem dksX1_faultPosition_0 : cX1_faultPosition.data.toList.drop 0 = dktX1_faultPosition_0 := by decide +kernel
theorem dX1_faultPosition_0 : decode cX1_faultPosition 0 = .ok (.aload_n 0, 1) := dk_42 (dk_at dksX1_faultPosition_0 0 rfl rfl)
theorem dX1_faultPosition_1 : decode cX1_faultPosition 1 = .ok (.getfield 61, 3) := dk_180 0 61 (dk_at dksX1_faultPosition_0 1 rfl rfl)
theorem dX1_faultPosition_4 : decode cX1_faultPosition 4 = .ok (.invokestatic 265, 3) := dk_184 1 9 (dk_at dksX1_faultPosition_0 4 rfl rfl)
theorem dX1_faultPosition_7 : decode cX1_faultPosition 7 = .ok (.ireturn, 1) := dk_172 (dk_at dksX1_faultPosition_0 7 rfl rfl)
abbrev cX1_reason : ByteArray := prog_1_method_43_code
def yX1_reason : MethodName := ⟨RX1, "reason", "(ZZ)I"⟩
def dkwX1_reason_2 : List UInt8 := [153, 0, 10, 45, 180, 1, 82, 167, 0, 7, 45, 180, 1, 85, 172]
abbrev dktX1_reason_2 : List UInt8 := dkwX1_reason_2 ++ []
def dkwX1_reason_1 : List UInt8 := [180, 1, 79, 167, 0, 7, 42, 180, 0, 135, 78, 45, 198, 0, 7, 4, 167, 0, 4, 3, 184, 0, 21, 28]
abbrev dktX1_reason_1 : List UInt8 := dkwX1_reason_1 ++ dktX1_reason_2
def dkwX1_reason_0 : List UInt8 := [42, 180, 0, 135, 198, 0, 7, 4, 167, 0, 4, 3, 184, 0, 21, 27, 153, 0, 13, 42, 180, 0, 135]
abbrev dktX1_reason_0 : List UInt8 := dkwX1_reason_0 ++ dktX1_reason_1
theorem dksX1_reason_0 : cX1_reason.data.toList.drop 0 = dktX1_reason_0 := by decide +kernel
theorem dksX1_reason_1 : cX1_reason.data.toList.drop 23 = dktX1_reason_1 := dk_seg dksX1_reason_0 23 rfl rfl
theorem dksX1_reason_2 : cX1_reason.data.toList.drop 47 = dktX1_reason_2 := dk_seg dksX1_reason_1 24 rfl rfl
theorem dX1_reason_0 : decode cX1_reason 0 = .ok (.aload_n 0, 1) := dk_42 (dk_at dksX1_reason_0 0 rfl rfl)
theorem dX1_reason_1 : decode cX1_reason 1 = .ok (.getfield 135, 3) := dk_180 0 135 (dk_at dksX1_reason_0 1 rfl rfl)
theorem dX1_reason_4 : decode cX1_reason 4 = .ok (.ifnull 7, 3) := dk_198 0 7 (dk_at dksX1_reason_0 4 rfl rfl)
theorem dX1_reason_7 : decode cX1_reason 7 = .ok (.iconst 1, 1) := dk_4 (dk_at dksX1_reason_0 7 rfl rfl)
theorem dX1_reason_8 : decode cX1_reason 8 = .ok (.goto 4, 3) := dk_167 0 4 (dk_at dksX1_reason_0 8 rfl rfl)
theorem dX1_reason_11 : decode cX1_reason 11 = .ok (.iconst 0, 1) := dk_3 (dk_at dksX1_reason_0 11 rfl rfl)
theorem dX1_reason_12 : decode cX1_reason 12 = .ok (.invokestatic 21, 3) := dk_184 0 21 (dk_at dksX1_reason_0 12 rfl rfl)
theorem dX1_reason_15 : decode cX1_reason 15 = .ok (.iload_n 1, 1) := dk_27 (dk_at dksX1_reason_0 15 rfl rfl)
theorem dX1_reason_16 : decode cX1_reason 16 = .ok (.ifCond .eq 13, 3) := dk_153 0 13 (dk_at dksX1_reason_0 16 rfl rfl)
theorem dX1_reason_19 : decode cX1_reason 19 = .ok (.aload_n 0, 1) := dk_42 (dk_at dksX1_reason_0 19 rfl rfl)
theorem dX1_reason_20 : decode cX1_reason 20 = .ok (.getfield 135, 3) := dk_180 0 135 (dk_at dksX1_reason_0 20 rfl rfl)
theorem dX1_reason_23 : decode cX1_reason 23 = .ok (.getfield 335, 3) := dk_180 1 79 (dk_at dksX1_reason_1 0 rfl rfl)
theorem dX1_reason_26 : decode cX1_reason 26 = .ok (.goto 7, 3) := dk_167 0 7 (dk_at dksX1_reason_1 3 rfl rfl)
theorem dX1_reason_29 : decode cX1_reason 29 = .ok (.aload_n 0, 1) := dk_42 (dk_at dksX1_reason_1 6 rfl rfl)
theorem dX1_reason_30 : decode cX1_reason 30 = .ok (.getfield 135, 3) := dk_180 0 135 (dk_at dksX1_reason_1 7 rfl rfl)
theorem dX1_reason_33 : decode cX1_reason 33 = .ok (.astore_n 3, 1) := dk_78 (dk_at dksX1_reason_1 10 rfl rfl)
theorem dX1_reason_34 : decode cX1_reason 34 = .ok (.aload_n 3, 1) := dk_45 (dk_at dksX1_reason_1 11 rfl rfl)
theorem dX1_reason_35 : decode cX1_reason 35 = .ok (.ifnull 7, 3) := dk_198 0 7 (dk_at dksX1_reason_1 12 rfl rfl)
theorem dX1_reason_38 : decode cX1_reason 38 = .ok (.iconst 1, 1) := dk_4 (dk_at dksX1_reason_1 15 rfl rfl)
theorem dX1_reason_39 : decode cX1_reason 39 = .ok (.goto 4, 3) := dk_167 0 4 (dk_at dksX1_reason_1 16 rfl rfl)
theorem dX1_reason_42 : decode cX1_reason 42 = .ok (.iconst 0, 1) := dk_3 (dk_at dksX1_reason_1 19 rfl rfl)
theorem dX1_reason_43 : decode cX1_reason 43 = .ok (.invokestatic 21, 3) := dk_184 0 21 (dk_at dksX1_reason_1 20 rfl rfl)
theorem dX1_reason_46 : decode cX1_reason 46 = .ok (.iload_n 2, 1) := dk_28 (dk_at dksX1_reason_1 23 rfl rfl)
theorem dX1_reason_47 : decode cX1_reason 47 = .ok (.ifCond .eq 10, 3) := dk_153 0 10 (dk_at dksX1_reason_2 0 rfl rfl)
theorem dX1_reason_50 : decode cX1_reason 50 = .ok (.aload_n 3, 1) := dk_45 (dk_at dksX1_reason_2 3 rfl rfl)
theorem dX1_reason_51 : decode cX1_reason 51 = .ok (.getfield 338, 3) := dk_180 1 82 (dk_at dksX1_reason_2 4 rfl rfl)
theorem dX1_reason_54 : decode cX1_reason 54 = .ok (.goto 7, 3) := dk_167 0 7 (dk_at dksX1_reason_2 7 rfl rfl)
theorem dX1_reason_57 : decode cX1_reason 57 = .ok (.aload_n 3, 1) := dk_45 (dk_at dksX1_reason_2 10 rfl rfl)
theorem dX1_reason_58 : decode cX1_reason 58 = .ok (.getfield 341, 3) := dk_180 1 85 (dk_at dksX1_reason_2 11 rfl rfl)
theorem dX1_reason_61 : decode cX1_reason 61 = .ok (.ireturn, 1) := dk_172 (dk_at dksX1_reason_2 14 rfl rfl)
abbrev cX1_line : ByteArray := prog_1_method_45_code
def yX1_line : MethodName := ⟨RX1, "line", "(I)I"⟩
def dkwX1_line_0 : List UInt8 := [42, 27, 182, 0, 178, 42, 42, 180, 0, 37, 27, 182, 1, 91, 182, 1, 94, 172]
abbrev dktX1_line_0 : List UInt8 := dkwX1_line_0 ++ []
theorem dksX1_line_0 : cX1_line.data.toList.drop 0 = dktX1_line_0 := by decide +kernel
theorem dX1_line_0 : decode cX1_line 0 = .ok (.aload_n 0, 1) := dk_42 (dk_at dksX1_line_0 0 rfl rfl)
theorem dX1_line_1 : decode cX1_line 1 = .ok (.iload_n 1, 1) := dk_27 (dk_at dksX1_line_0 1 rfl rfl)
theorem dX1_line_2 : decode cX1_line 2 = .ok (.invokevirtual 178, 3) := dk_182 0 178 (dk_at dksX1_line_0 2 rfl rfl)
theorem dX1_line_5 : decode cX1_line 5 = .ok (.aload_n 0, 1) := dk_42 (dk_at dksX1_line_0 5 rfl rfl)
theorem dX1_line_6 : decode cX1_line 6 = .ok (.aload_n 0, 1) := dk_42 (dk_at dksX1_line_0 6 rfl rfl)
theorem dX1_line_7 : decode cX1_line 7 = .ok (.getfield 37, 3) := dk_180 0 37 (dk_at dksX1_line_0 7 rfl rfl)
theorem dX1_line_10 : decode cX1_line 10 = .ok (.iload_n 1, 1) := dk_27 (dk_at dksX1_line_0 10 rfl rfl)
theorem dX1_line_11 : decode cX1_line 11 = .ok (.invokevirtual 347, 3) := dk_182 1 91 (dk_at dksX1_line_0 11 rfl rfl)
theorem dX1_line_14 : decode cX1_line 14 = .ok (.invokevirtual 350, 3) := dk_182 1 94 (dk_at dksX1_line_0 14 rfl rfl)
theorem dX1_line_17 : decode cX1_line 17 = .ok (.ireturn, 1) := dk_172 (dk_at dksX1_line_0 17 rfl rfl)
abbrev cX1_character : ByteArray := prog_1_method_47_code
def yX1_character : MethodName := ⟨RX1, "character", "(I)C"⟩
def dkwX1_character_1 : List UInt8 := [185, 1, 101, 2, 0, 172]
abbrev dktX1_character_1 : List UInt8 := dkwX1_character_1 ++ []
def dkwX1_character_0 : List UInt8 := [27, 3, 42, 180, 0, 57, 185, 1, 88, 1, 0, 4, 100, 184, 0, 168, 184, 0, 172, 42, 180, 0, 57, 27]
abbrev dktX1_character_0 : List UInt8 := dkwX1_character_0 ++ dktX1_character_1
theorem dksX1_character_0 : cX1_character.data.toList.drop 0 = dktX1_character_0 := by decide +kernel
theorem dksX1_character_1 : cX1_character.data.toList.drop 24 = dktX1_character_1 := dk_seg dksX1_character_0 24 rfl rfl
theorem dX1_character_0 : decode cX1_character 0 = .ok (.iload_n 1, 1) := dk_27 (dk_at dksX1_character_0 0 rfl rfl)
theorem dX1_character_1 : decode cX1_character 1 = .ok (.iconst 0, 1) := dk_3 (dk_at dksX1_character_0 1 rfl rfl)
theorem dX1_character_2 : decode cX1_character 2 = .ok (.aload_n 0, 1) := dk_42 (dk_at dksX1_character_0 2 rfl rfl)
theorem dX1_character_3 : decode cX1_character 3 = .ok (.getfield 57, 3) := dk_180 0 57 (dk_at dksX1_character_0 3 rfl rfl)
theorem dX1_character_6 : decode cX1_character 6 = .ok (.invokeinterface 344 1, 5) := by decide +kernel
theorem dX1_character_11 : decode cX1_character 11 = .ok (.iconst 1, 1) := dk_4 (dk_at dksX1_character_0 11 rfl rfl)
theorem dX1_character_12 : decode cX1_character 12 = .ok (.isub, 1) := dk_100 (dk_at dksX1_character_0 12 rfl rfl)
theorem dX1_character_13 : decode cX1_character 13 = .ok (.invokestatic 168, 3) := dk_184 0 168 (dk_at dksX1_character_0 13 rfl rfl)
theorem dX1_character_16 : decode cX1_character 16 = .ok (.invokestatic 172, 3) := dk_184 0 172 (dk_at dksX1_character_0 16 rfl rfl)
theorem dX1_character_19 : decode cX1_character 19 = .ok (.aload_n 0, 1) := dk_42 (dk_at dksX1_character_0 19 rfl rfl)
theorem dX1_character_20 : decode cX1_character 20 = .ok (.getfield 57, 3) := dk_180 0 57 (dk_at dksX1_character_0 20 rfl rfl)
theorem dX1_character_23 : decode cX1_character 23 = .ok (.iload_n 1, 1) := dk_27 (dk_at dksX1_character_0 23 rfl rfl)
theorem dX1_character_24 : decode cX1_character 24 = .ok (.invokeinterface 357 2, 5) := by decide +kernel
theorem dX1_character_29 : decode cX1_character 29 = .ok (.ireturn, 1) := dk_172 (dk_at dksX1_character_1 5 rfl rfl)
abbrev cX1_meanPrice : ByteArray := prog_1_method_48_code
def yX1_meanPrice : MethodName := ⟨RX1, "meanPrice", "()D"⟩
def dkwX1_meanPrice_1 : List UInt8 := [135, 42, 180, 0, 37, 180, 0, 175, 135, 111, 175]
abbrev dktX1_meanPrice_1 : List UInt8 := dkwX1_meanPrice_1 ++ []
def dkwX1_meanPrice_0 : List UInt8 := [42, 180, 0, 37, 180, 0, 175, 184, 1, 105, 42, 180, 0, 37, 42, 180, 0, 37, 180, 0, 227, 182, 1, 108]
abbrev dktX1_meanPrice_0 : List UInt8 := dkwX1_meanPrice_0 ++ dktX1_meanPrice_1
theorem dksX1_meanPrice_0 : cX1_meanPrice.data.toList.drop 0 = dktX1_meanPrice_0 := by decide +kernel
theorem dksX1_meanPrice_1 : cX1_meanPrice.data.toList.drop 24 = dktX1_meanPrice_1 := dk_seg dksX1_meanPrice_0 24 rfl rfl
theorem dX1_meanPrice_0 : decode cX1_meanPrice 0 = .ok (.aload_n 0, 1) := dk_42 (dk_at dksX1_meanPrice_0 0 rfl rfl)
theorem dX1_meanPrice_1 : decode cX1_meanPrice 1 = .ok (.getfield 37, 3) := dk_180 0 37 (dk_at dksX1_meanPrice_0 1 rfl rfl)
theorem dX1_meanPrice_4 : decode cX1_meanPrice 4 = .ok (.getfield 175, 3) := dk_180 0 175 (dk_at dksX1_meanPrice_0 4 rfl rfl)
theorem dX1_meanPrice_7 : decode cX1_meanPrice 7 = .ok (.invokestatic 361, 3) := dk_184 1 105 (dk_at dksX1_meanPrice_0 7 rfl rfl)
theorem dX1_meanPrice_10 : decode cX1_meanPrice 10 = .ok (.aload_n 0, 1) := dk_42 (dk_at dksX1_meanPrice_0 10 rfl rfl)
theorem dX1_meanPrice_11 : decode cX1_meanPrice 11 = .ok (.getfield 37, 3) := dk_180 0 37 (dk_at dksX1_meanPrice_0 11 rfl rfl)
theorem dX1_meanPrice_14 : decode cX1_meanPrice 14 = .ok (.aload_n 0, 1) := dk_42 (dk_at dksX1_meanPrice_0 14 rfl rfl)
theorem dX1_meanPrice_15 : decode cX1_meanPrice 15 = .ok (.getfield 37, 3) := dk_180 0 37 (dk_at dksX1_meanPrice_0 15 rfl rfl)
theorem dX1_meanPrice_18 : decode cX1_meanPrice 18 = .ok (.getfield 227, 3) := dk_180 0 227 (dk_at dksX1_meanPrice_0 18 rfl rfl)
theorem dX1_meanPrice_21 : decode cX1_meanPrice 21 = .ok (.invokevirtual 364, 3) := dk_182 1 108 (dk_at dksX1_meanPrice_0 21 rfl rfl)
theorem dX1_meanPrice_24 : decode cX1_meanPrice 24 = .ok (.i2d, 1) := dk_135 (dk_at dksX1_meanPrice_1 0 rfl rfl)
theorem dX1_meanPrice_25 : decode cX1_meanPrice 25 = .ok (.aload_n 0, 1) := dk_42 (dk_at dksX1_meanPrice_1 1 rfl rfl)
theorem dX1_meanPrice_26 : decode cX1_meanPrice 26 = .ok (.getfield 37, 3) := dk_180 0 37 (dk_at dksX1_meanPrice_1 2 rfl rfl)
theorem dX1_meanPrice_29 : decode cX1_meanPrice 29 = .ok (.getfield 175, 3) := dk_180 0 175 (dk_at dksX1_meanPrice_1 5 rfl rfl)
theorem dX1_meanPrice_32 : decode cX1_meanPrice 32 = .ok (.i2d, 1) := dk_135 (dk_at dksX1_meanPrice_1 8 rfl rfl)
theorem dX1_meanPrice_33 : decode cX1_meanPrice 33 = .ok (.ddiv, 1) := dk_111 (dk_at dksX1_meanPrice_1 9 rfl rfl)
theorem dX1_meanPrice_34 : decode cX1_meanPrice 34 = .ok (.dreturn, 1) := dk_175 (dk_at dksX1_meanPrice_1 10 rfl rfl)
abbrev cX1_requireSome : ByteArray := prog_1_method_6_code
def yX1_requireSome : MethodName := ⟨RX1, "requireSome", "(I)V"⟩
def dkwX1_requireSome_0 : List UInt8 := [26, 154, 0, 11, 187, 0, 16, 89, 183, 0, 18, 191, 177]
abbrev dktX1_requireSome_0 : List UInt8 := dkwX1_requireSome_0 ++ []
theorem dksX1_requireSome_0 : cX1_requireSome.data.toList.drop 0 = dktX1_requireSome_0 := by decide +kernel
theorem dX1_requireSome_0 : decode cX1_requireSome 0 = .ok (.iload_n 0, 1) := dk_26 (dk_at dksX1_requireSome_0 0 rfl rfl)
theorem dX1_requireSome_1 : decode cX1_requireSome 1 = .ok (.ifCond .ne 11, 3) := dk_154 0 11 (dk_at dksX1_requireSome_0 1 rfl rfl)
theorem dX1_requireSome_4 : decode cX1_requireSome 4 = .ok (.new 16, 3) := dk_187 0 16 (dk_at dksX1_requireSome_0 4 rfl rfl)
theorem dX1_requireSome_7 : decode cX1_requireSome 7 = .ok (.dup, 1) := dk_89 (dk_at dksX1_requireSome_0 7 rfl rfl)
theorem dX1_requireSome_8 : decode cX1_requireSome 8 = .ok (.invokespecial 18, 3) := dk_183 0 18 (dk_at dksX1_requireSome_0 8 rfl rfl)
theorem dX1_requireSome_11 : decode cX1_requireSome 11 = .ok (.athrow, 1) := dk_191 (dk_at dksX1_requireSome_0 11 rfl rfl)
theorem dX1_requireSome_12 : decode cX1_requireSome 12 = .ok (.return_, 1) := dk_177 (dk_at dksX1_requireSome_0 12 rfl rfl)
abbrev cX1_likedShare : ByteArray := prog_1_method_49_code
def yX1_likedShare : MethodName := ⟨RX1, "likedShare", "()F"⟩
def dkwX1_likedShare_1 : List UInt8 := [180, 0, 165, 134, 110, 174]
abbrev dktX1_likedShare_1 : List UInt8 := dkwX1_likedShare_1 ++ []
def dkwX1_likedShare_0 : List UInt8 := [42, 180, 0, 37, 180, 0, 165, 184, 1, 105, 42, 180, 0, 37, 182, 1, 112, 134, 42, 180, 0, 37]
abbrev dktX1_likedShare_0 : List UInt8 := dkwX1_likedShare_0 ++ dktX1_likedShare_1
theorem dksX1_likedShare_0 : cX1_likedShare.data.toList.drop 0 = dktX1_likedShare_0 := by decide +kernel
theorem dksX1_likedShare_1 : cX1_likedShare.data.toList.drop 22 = dktX1_likedShare_1 := dk_seg dksX1_likedShare_0 22 rfl rfl
theorem dX1_likedShare_0 : decode cX1_likedShare 0 = .ok (.aload_n 0, 1) := dk_42 (dk_at dksX1_likedShare_0 0 rfl rfl)
theorem dX1_likedShare_1 : decode cX1_likedShare 1 = .ok (.getfield 37, 3) := dk_180 0 37 (dk_at dksX1_likedShare_0 1 rfl rfl)
theorem dX1_likedShare_4 : decode cX1_likedShare 4 = .ok (.getfield 165, 3) := dk_180 0 165 (dk_at dksX1_likedShare_0 4 rfl rfl)
theorem dX1_likedShare_7 : decode cX1_likedShare 7 = .ok (.invokestatic 361, 3) := dk_184 1 105 (dk_at dksX1_likedShare_0 7 rfl rfl)
theorem dX1_likedShare_10 : decode cX1_likedShare 10 = .ok (.aload_n 0, 1) := dk_42 (dk_at dksX1_likedShare_0 10 rfl rfl)
theorem dX1_likedShare_11 : decode cX1_likedShare 11 = .ok (.getfield 37, 3) := dk_180 0 37 (dk_at dksX1_likedShare_0 11 rfl rfl)
theorem dX1_likedShare_14 : decode cX1_likedShare 14 = .ok (.invokevirtual 368, 3) := dk_182 1 112 (dk_at dksX1_likedShare_0 14 rfl rfl)
theorem dX1_likedShare_17 : decode cX1_likedShare 17 = .ok (.i2f, 1) := dk_134 (dk_at dksX1_likedShare_0 17 rfl rfl)
theorem dX1_likedShare_18 : decode cX1_likedShare 18 = .ok (.aload_n 0, 1) := dk_42 (dk_at dksX1_likedShare_0 18 rfl rfl)
theorem dX1_likedShare_19 : decode cX1_likedShare 19 = .ok (.getfield 37, 3) := dk_180 0 37 (dk_at dksX1_likedShare_0 19 rfl rfl)
theorem dX1_likedShare_22 : decode cX1_likedShare 22 = .ok (.getfield 165, 3) := dk_180 0 165 (dk_at dksX1_likedShare_1 0 rfl rfl)
theorem dX1_likedShare_25 : decode cX1_likedShare 25 = .ok (.i2f, 1) := dk_134 (dk_at dksX1_likedShare_1 3 rfl rfl)
theorem dX1_likedShare_26 : decode cX1_likedShare 26 = .ok (.fdiv, 1) := dk_110 (dk_at dksX1_likedShare_1 4 rfl rfl)
theorem dX1_likedShare_27 : decode cX1_likedShare 27 = .ok (.freturn, 1) := dk_174 (dk_at dksX1_likedShare_1 5 rfl rfl)
abbrev cX1_account : ByteArray := prog_1_method_50_code
def yX1_account : MethodName := ⟨RX1, "account", "(I)I"⟩
def dkwX1_account_7 : List UInt8 := [180, 0, 44, 185, 0, 65, 1, 0, 172, 187, 0, 7, 89, 183, 0, 9, 191]
abbrev dktX1_account_7 : List UInt8 := dkwX1_account_7 ++ []
def dkwX1_account_6 : List UInt8 := [183, 0, 200, 180, 1, 133, 172, 42, 180, 0, 37, 180, 1, 136, 172, 42, 180, 0, 51, 182, 1, 41, 172, 42]
abbrev dktX1_account_6 : List UInt8 := dkwX1_account_6 ++ dktX1_account_7
def dkwX1_account_5 : List UInt8 := [187, 0, 198, 89, 42, 180, 0, 37, 183, 0, 200, 180, 1, 130, 172, 187, 0, 198, 89, 42, 180, 0, 37]
abbrev dktX1_account_5 : List UInt8 := dkwX1_account_5 ++ dktX1_account_6
def dkwX1_account_4 : List UInt8 := [180, 0, 233, 182, 1, 108, 172, 42, 180, 0, 37, 180, 1, 124, 172, 42, 180, 0, 37, 180, 1, 127, 172]
abbrev dktX1_account_4 : List UInt8 := dkwX1_account_4 ++ dktX1_account_5
def dkwX1_account_3 : List UInt8 := [42, 180, 0, 37, 182, 1, 118, 172, 42, 180, 0, 37, 182, 1, 121, 172, 42, 180, 0, 37, 42, 180, 0, 37]
abbrev dktX1_account_3 : List UInt8 := dkwX1_account_3 ++ dktX1_account_4
def dkwX1_account_2 : List UInt8 := [42, 180, 0, 37, 180, 0, 165, 172, 42, 180, 0, 37, 180, 0, 175, 172, 42, 180, 0, 37, 182, 1, 115, 172]
abbrev dktX1_account_2 : List UInt8 := dkwX1_account_2 ++ dktX1_account_3
def dkwX1_account_1 : List UInt8 := [170, 0, 0, 0, 0, 0, 194, 0, 0, 0, 0, 0, 0, 0, 12, 0, 0, 0, 67, 0, 0, 0, 75, 0, 0, 0, 83, 0, 0, 0, 91, 0, 0, 0, 99, 0, 0, 0, 107, 0, 0, 0, 122, 0, 0, 0, 130, 0, 0, 0, 138, 0, 0, 0, 153, 0, 0, 0, 168, 0, 0, 0, 176, 0, 0, 0, 184]
abbrev dktX1_account_1 : List UInt8 := dkwX1_account_1 ++ dktX1_account_2
def dkwX1_account_0 : List UInt8 := [27]
abbrev dktX1_account_0 : List UInt8 := dkwX1_account_0 ++ dktX1_account_1
theorem dksX1_account_0 : cX1_account.data.toList.drop 0 = dktX1_account_0 := by decide +kernel
theorem dksX1_account_1 : cX1_account.data.toList.drop 1 = dktX1_account_1 := dk_seg dksX1_account_0 1 rfl rfl
theorem dksX1_account_2 : cX1_account.data.toList.drop 68 = dktX1_account_2 := dk_seg dksX1_account_1 67 rfl rfl
theorem dksX1_account_3 : cX1_account.data.toList.drop 92 = dktX1_account_3 := dk_seg dksX1_account_2 24 rfl rfl
theorem dksX1_account_4 : cX1_account.data.toList.drop 116 = dktX1_account_4 := dk_seg dksX1_account_3 24 rfl rfl
theorem dksX1_account_5 : cX1_account.data.toList.drop 139 = dktX1_account_5 := dk_seg dksX1_account_4 23 rfl rfl
theorem dksX1_account_6 : cX1_account.data.toList.drop 162 = dktX1_account_6 := dk_seg dksX1_account_5 23 rfl rfl
theorem dksX1_account_7 : cX1_account.data.toList.drop 186 = dktX1_account_7 := dk_seg dksX1_account_6 24 rfl rfl
theorem dX1_account_0 : decode cX1_account 0 = .ok (.iload_n 1, 1) := dk_27 (dk_at dksX1_account_0 0 rfl rfl)
theorem dX1_account_1 : decode cX1_account 1 = .ok (.tableswitch 194 0 12 #[67, 75, 83, 91, 99, 107, 122, 130, 138, 153, 168, 176, 184], 67) := by decide +kernel
theorem dX1_account_68 : decode cX1_account 68 = .ok (.aload_n 0, 1) := dk_42 (dk_at dksX1_account_2 0 rfl rfl)
theorem dX1_account_69 : decode cX1_account 69 = .ok (.getfield 37, 3) := dk_180 0 37 (dk_at dksX1_account_2 1 rfl rfl)
theorem dX1_account_72 : decode cX1_account 72 = .ok (.getfield 165, 3) := dk_180 0 165 (dk_at dksX1_account_2 4 rfl rfl)
theorem dX1_account_75 : decode cX1_account 75 = .ok (.ireturn, 1) := dk_172 (dk_at dksX1_account_2 7 rfl rfl)
theorem dX1_account_76 : decode cX1_account 76 = .ok (.aload_n 0, 1) := dk_42 (dk_at dksX1_account_2 8 rfl rfl)
theorem dX1_account_77 : decode cX1_account 77 = .ok (.getfield 37, 3) := dk_180 0 37 (dk_at dksX1_account_2 9 rfl rfl)
theorem dX1_account_80 : decode cX1_account 80 = .ok (.getfield 175, 3) := dk_180 0 175 (dk_at dksX1_account_2 12 rfl rfl)
theorem dX1_account_83 : decode cX1_account 83 = .ok (.ireturn, 1) := dk_172 (dk_at dksX1_account_2 15 rfl rfl)
theorem dX1_account_84 : decode cX1_account 84 = .ok (.aload_n 0, 1) := dk_42 (dk_at dksX1_account_2 16 rfl rfl)
theorem dX1_account_85 : decode cX1_account 85 = .ok (.getfield 37, 3) := dk_180 0 37 (dk_at dksX1_account_2 17 rfl rfl)
theorem dX1_account_88 : decode cX1_account 88 = .ok (.invokevirtual 371, 3) := dk_182 1 115 (dk_at dksX1_account_2 20 rfl rfl)
theorem dX1_account_91 : decode cX1_account 91 = .ok (.ireturn, 1) := dk_172 (dk_at dksX1_account_2 23 rfl rfl)
theorem dX1_account_92 : decode cX1_account 92 = .ok (.aload_n 0, 1) := dk_42 (dk_at dksX1_account_3 0 rfl rfl)
theorem dX1_account_93 : decode cX1_account 93 = .ok (.getfield 37, 3) := dk_180 0 37 (dk_at dksX1_account_3 1 rfl rfl)
theorem dX1_account_96 : decode cX1_account 96 = .ok (.invokevirtual 374, 3) := dk_182 1 118 (dk_at dksX1_account_3 4 rfl rfl)
theorem dX1_account_99 : decode cX1_account 99 = .ok (.ireturn, 1) := dk_172 (dk_at dksX1_account_3 7 rfl rfl)
theorem dX1_account_100 : decode cX1_account 100 = .ok (.aload_n 0, 1) := dk_42 (dk_at dksX1_account_3 8 rfl rfl)
theorem dX1_account_101 : decode cX1_account 101 = .ok (.getfield 37, 3) := dk_180 0 37 (dk_at dksX1_account_3 9 rfl rfl)
theorem dX1_account_104 : decode cX1_account 104 = .ok (.invokevirtual 377, 3) := dk_182 1 121 (dk_at dksX1_account_3 12 rfl rfl)
theorem dX1_account_107 : decode cX1_account 107 = .ok (.ireturn, 1) := dk_172 (dk_at dksX1_account_3 15 rfl rfl)
theorem dX1_account_108 : decode cX1_account 108 = .ok (.aload_n 0, 1) := dk_42 (dk_at dksX1_account_3 16 rfl rfl)
theorem dX1_account_109 : decode cX1_account 109 = .ok (.getfield 37, 3) := dk_180 0 37 (dk_at dksX1_account_3 17 rfl rfl)
theorem dX1_account_112 : decode cX1_account 112 = .ok (.aload_n 0, 1) := dk_42 (dk_at dksX1_account_3 20 rfl rfl)
theorem dX1_account_113 : decode cX1_account 113 = .ok (.getfield 37, 3) := dk_180 0 37 (dk_at dksX1_account_3 21 rfl rfl)
theorem dX1_account_116 : decode cX1_account 116 = .ok (.getfield 233, 3) := dk_180 0 233 (dk_at dksX1_account_4 0 rfl rfl)
theorem dX1_account_119 : decode cX1_account 119 = .ok (.invokevirtual 364, 3) := dk_182 1 108 (dk_at dksX1_account_4 3 rfl rfl)
theorem dX1_account_122 : decode cX1_account 122 = .ok (.ireturn, 1) := dk_172 (dk_at dksX1_account_4 6 rfl rfl)
theorem dX1_account_123 : decode cX1_account 123 = .ok (.aload_n 0, 1) := dk_42 (dk_at dksX1_account_4 7 rfl rfl)
theorem dX1_account_124 : decode cX1_account 124 = .ok (.getfield 37, 3) := dk_180 0 37 (dk_at dksX1_account_4 8 rfl rfl)
theorem dX1_account_127 : decode cX1_account 127 = .ok (.getfield 380, 3) := dk_180 1 124 (dk_at dksX1_account_4 11 rfl rfl)
theorem dX1_account_130 : decode cX1_account 130 = .ok (.ireturn, 1) := dk_172 (dk_at dksX1_account_4 14 rfl rfl)
theorem dX1_account_131 : decode cX1_account 131 = .ok (.aload_n 0, 1) := dk_42 (dk_at dksX1_account_4 15 rfl rfl)
theorem dX1_account_132 : decode cX1_account 132 = .ok (.getfield 37, 3) := dk_180 0 37 (dk_at dksX1_account_4 16 rfl rfl)
theorem dX1_account_135 : decode cX1_account 135 = .ok (.getfield 383, 3) := dk_180 1 127 (dk_at dksX1_account_4 19 rfl rfl)
theorem dX1_account_138 : decode cX1_account 138 = .ok (.ireturn, 1) := dk_172 (dk_at dksX1_account_4 22 rfl rfl)
theorem dX1_account_139 : decode cX1_account 139 = .ok (.new 198, 3) := dk_187 0 198 (dk_at dksX1_account_5 0 rfl rfl)
theorem dX1_account_142 : decode cX1_account 142 = .ok (.dup, 1) := dk_89 (dk_at dksX1_account_5 3 rfl rfl)
theorem dX1_account_143 : decode cX1_account 143 = .ok (.aload_n 0, 1) := dk_42 (dk_at dksX1_account_5 4 rfl rfl)
theorem dX1_account_144 : decode cX1_account 144 = .ok (.getfield 37, 3) := dk_180 0 37 (dk_at dksX1_account_5 5 rfl rfl)
theorem dX1_account_147 : decode cX1_account 147 = .ok (.invokespecial 200, 3) := dk_183 0 200 (dk_at dksX1_account_5 8 rfl rfl)
theorem dX1_account_150 : decode cX1_account 150 = .ok (.getfield 386, 3) := dk_180 1 130 (dk_at dksX1_account_5 11 rfl rfl)
theorem dX1_account_153 : decode cX1_account 153 = .ok (.ireturn, 1) := dk_172 (dk_at dksX1_account_5 14 rfl rfl)
theorem dX1_account_154 : decode cX1_account 154 = .ok (.new 198, 3) := dk_187 0 198 (dk_at dksX1_account_5 15 rfl rfl)
theorem dX1_account_157 : decode cX1_account 157 = .ok (.dup, 1) := dk_89 (dk_at dksX1_account_5 18 rfl rfl)
theorem dX1_account_158 : decode cX1_account 158 = .ok (.aload_n 0, 1) := dk_42 (dk_at dksX1_account_5 19 rfl rfl)
theorem dX1_account_159 : decode cX1_account 159 = .ok (.getfield 37, 3) := dk_180 0 37 (dk_at dksX1_account_5 20 rfl rfl)
theorem dX1_account_162 : decode cX1_account 162 = .ok (.invokespecial 200, 3) := dk_183 0 200 (dk_at dksX1_account_6 0 rfl rfl)
theorem dX1_account_165 : decode cX1_account 165 = .ok (.getfield 389, 3) := dk_180 1 133 (dk_at dksX1_account_6 3 rfl rfl)
theorem dX1_account_168 : decode cX1_account 168 = .ok (.ireturn, 1) := dk_172 (dk_at dksX1_account_6 6 rfl rfl)
theorem dX1_account_169 : decode cX1_account 169 = .ok (.aload_n 0, 1) := dk_42 (dk_at dksX1_account_6 7 rfl rfl)
theorem dX1_account_170 : decode cX1_account 170 = .ok (.getfield 37, 3) := dk_180 0 37 (dk_at dksX1_account_6 8 rfl rfl)
theorem dX1_account_173 : decode cX1_account 173 = .ok (.getfield 392, 3) := dk_180 1 136 (dk_at dksX1_account_6 11 rfl rfl)
theorem dX1_account_176 : decode cX1_account 176 = .ok (.ireturn, 1) := dk_172 (dk_at dksX1_account_6 14 rfl rfl)
theorem dX1_account_177 : decode cX1_account 177 = .ok (.aload_n 0, 1) := dk_42 (dk_at dksX1_account_6 15 rfl rfl)
theorem dX1_account_178 : decode cX1_account 178 = .ok (.getfield 51, 3) := dk_180 0 51 (dk_at dksX1_account_6 16 rfl rfl)
theorem dX1_account_181 : decode cX1_account 181 = .ok (.invokevirtual 297, 3) := dk_182 1 41 (dk_at dksX1_account_6 19 rfl rfl)
theorem dX1_account_184 : decode cX1_account 184 = .ok (.ireturn, 1) := dk_172 (dk_at dksX1_account_6 22 rfl rfl)
theorem dX1_account_185 : decode cX1_account 185 = .ok (.aload_n 0, 1) := dk_42 (dk_at dksX1_account_6 23 rfl rfl)
theorem dX1_account_186 : decode cX1_account 186 = .ok (.getfield 44, 3) := dk_180 0 44 (dk_at dksX1_account_7 0 rfl rfl)
theorem dX1_account_189 : decode cX1_account 189 = .ok (.invokeinterface 65 1, 5) := by decide +kernel
theorem dX1_account_194 : decode cX1_account 194 = .ok (.ireturn, 1) := dk_172 (dk_at dksX1_account_7 8 rfl rfl)
theorem dX1_account_195 : decode cX1_account 195 = .ok (.new 7, 3) := dk_187 0 7 (dk_at dksX1_account_7 9 rfl rfl)
theorem dX1_account_198 : decode cX1_account 198 = .ok (.dup, 1) := dk_89 (dk_at dksX1_account_7 12 rfl rfl)
theorem dX1_account_199 : decode cX1_account 199 = .ok (.invokespecial 9, 3) := dk_183 0 9 (dk_at dksX1_account_7 13 rfl rfl)
theorem dX1_account_202 : decode cX1_account 202 = .ok (.athrow, 1) := dk_191 (dk_at dksX1_account_7 16 rfl rfl)
abbrev cX1_undo : ByteArray := prog_1_method_52_code
def yX1_undo : MethodName := ⟨RX1, "undo", "()I"⟩
def dkwX1_undo_1 : List UInt8 := [180, 0, 44, 185, 1, 145, 1, 0, 192, 0, 34, 181, 0, 37, 42, 180, 0, 44, 185, 0, 65, 1, 0, 172]
abbrev dktX1_undo_1 : List UInt8 := dkwX1_undo_1 ++ []
def dkwX1_undo_0 : List UInt8 := [42, 180, 0, 44, 185, 1, 142, 1, 0, 154, 0, 7, 4, 167, 0, 4, 3, 184, 1, 44, 42, 42]
abbrev dktX1_undo_0 : List UInt8 := dkwX1_undo_0 ++ dktX1_undo_1
theorem dksX1_undo_0 : cX1_undo.data.toList.drop 0 = dktX1_undo_0 := by decide +kernel
theorem dksX1_undo_1 : cX1_undo.data.toList.drop 22 = dktX1_undo_1 := dk_seg dksX1_undo_0 22 rfl rfl
theorem dX1_undo_0 : decode cX1_undo 0 = .ok (.aload_n 0, 1) := dk_42 (dk_at dksX1_undo_0 0 rfl rfl)
theorem dX1_undo_1 : decode cX1_undo 1 = .ok (.getfield 44, 3) := dk_180 0 44 (dk_at dksX1_undo_0 1 rfl rfl)
theorem dX1_undo_4 : decode cX1_undo 4 = .ok (.invokeinterface 398 1, 5) := by decide +kernel
theorem dX1_undo_9 : decode cX1_undo 9 = .ok (.ifCond .ne 7, 3) := dk_154 0 7 (dk_at dksX1_undo_0 9 rfl rfl)
theorem dX1_undo_12 : decode cX1_undo 12 = .ok (.iconst 1, 1) := dk_4 (dk_at dksX1_undo_0 12 rfl rfl)
theorem dX1_undo_13 : decode cX1_undo 13 = .ok (.goto 4, 3) := dk_167 0 4 (dk_at dksX1_undo_0 13 rfl rfl)
theorem dX1_undo_16 : decode cX1_undo 16 = .ok (.iconst 0, 1) := dk_3 (dk_at dksX1_undo_0 16 rfl rfl)
theorem dX1_undo_17 : decode cX1_undo 17 = .ok (.invokestatic 300, 3) := dk_184 1 44 (dk_at dksX1_undo_0 17 rfl rfl)
theorem dX1_undo_20 : decode cX1_undo 20 = .ok (.aload_n 0, 1) := dk_42 (dk_at dksX1_undo_0 20 rfl rfl)
theorem dX1_undo_21 : decode cX1_undo 21 = .ok (.aload_n 0, 1) := dk_42 (dk_at dksX1_undo_0 21 rfl rfl)
theorem dX1_undo_22 : decode cX1_undo 22 = .ok (.getfield 44, 3) := dk_180 0 44 (dk_at dksX1_undo_1 0 rfl rfl)
theorem dX1_undo_25 : decode cX1_undo 25 = .ok (.invokeinterface 401 1, 5) := by decide +kernel
theorem dX1_undo_30 : decode cX1_undo 30 = .ok (.checkcast 34, 3) := dk_192 0 34 (dk_at dksX1_undo_1 8 rfl rfl)
theorem dX1_undo_33 : decode cX1_undo 33 = .ok (.putfield 37, 3) := dk_181 0 37 (dk_at dksX1_undo_1 11 rfl rfl)
theorem dX1_undo_36 : decode cX1_undo 36 = .ok (.aload_n 0, 1) := dk_42 (dk_at dksX1_undo_1 14 rfl rfl)
theorem dX1_undo_37 : decode cX1_undo 37 = .ok (.getfield 44, 3) := dk_180 0 44 (dk_at dksX1_undo_1 15 rfl rfl)
theorem dX1_undo_40 : decode cX1_undo 40 = .ok (.invokeinterface 65 1, 5) := by decide +kernel
theorem dX1_undo_45 : decode cX1_undo 45 = .ok (.ireturn, 1) := dk_172 (dk_at dksX1_undo_1 23 rfl rfl)
abbrev cX1_restore : ByteArray := prog_1_method_54_code
def yX1_restore : MethodName := ⟨RX1, "restore", "()I"⟩
def dkwX1_restore_1 : List UInt8 := [180, 0, 44, 185, 1, 151, 1, 0, 42, 180, 0, 37, 182, 1, 115, 172]
abbrev dktX1_restore_1 : List UInt8 := dkwX1_restore_1 ++ []
def dkwX1_restore_0 : List UInt8 := [42, 180, 1, 148, 198, 0, 7, 4, 167, 0, 4, 3, 184, 1, 44, 42, 42, 180, 1, 148, 181, 0, 37, 42]
abbrev dktX1_restore_0 : List UInt8 := dkwX1_restore_0 ++ dktX1_restore_1
theorem dksX1_restore_0 : cX1_restore.data.toList.drop 0 = dktX1_restore_0 := by decide +kernel
theorem dksX1_restore_1 : cX1_restore.data.toList.drop 24 = dktX1_restore_1 := dk_seg dksX1_restore_0 24 rfl rfl
theorem dX1_restore_0 : decode cX1_restore 0 = .ok (.aload_n 0, 1) := dk_42 (dk_at dksX1_restore_0 0 rfl rfl)
theorem dX1_restore_1 : decode cX1_restore 1 = .ok (.getfield 404, 3) := dk_180 1 148 (dk_at dksX1_restore_0 1 rfl rfl)
theorem dX1_restore_4 : decode cX1_restore 4 = .ok (.ifnull 7, 3) := dk_198 0 7 (dk_at dksX1_restore_0 4 rfl rfl)
theorem dX1_restore_7 : decode cX1_restore 7 = .ok (.iconst 1, 1) := dk_4 (dk_at dksX1_restore_0 7 rfl rfl)
theorem dX1_restore_8 : decode cX1_restore 8 = .ok (.goto 4, 3) := dk_167 0 4 (dk_at dksX1_restore_0 8 rfl rfl)
theorem dX1_restore_11 : decode cX1_restore 11 = .ok (.iconst 0, 1) := dk_3 (dk_at dksX1_restore_0 11 rfl rfl)
theorem dX1_restore_12 : decode cX1_restore 12 = .ok (.invokestatic 300, 3) := dk_184 1 44 (dk_at dksX1_restore_0 12 rfl rfl)
theorem dX1_restore_15 : decode cX1_restore 15 = .ok (.aload_n 0, 1) := dk_42 (dk_at dksX1_restore_0 15 rfl rfl)
theorem dX1_restore_16 : decode cX1_restore 16 = .ok (.aload_n 0, 1) := dk_42 (dk_at dksX1_restore_0 16 rfl rfl)
theorem dX1_restore_17 : decode cX1_restore 17 = .ok (.getfield 404, 3) := dk_180 1 148 (dk_at dksX1_restore_0 17 rfl rfl)
theorem dX1_restore_20 : decode cX1_restore 20 = .ok (.putfield 37, 3) := dk_181 0 37 (dk_at dksX1_restore_0 20 rfl rfl)
theorem dX1_restore_23 : decode cX1_restore 23 = .ok (.aload_n 0, 1) := dk_42 (dk_at dksX1_restore_0 23 rfl rfl)
theorem dX1_restore_24 : decode cX1_restore 24 = .ok (.getfield 44, 3) := dk_180 0 44 (dk_at dksX1_restore_1 0 rfl rfl)
theorem dX1_restore_27 : decode cX1_restore 27 = .ok (.invokeinterface 407 1, 5) := by decide +kernel
theorem dX1_restore_32 : decode cX1_restore 32 = .ok (.aload_n 0, 1) := dk_42 (dk_at dksX1_restore_1 8 rfl rfl)
theorem dX1_restore_33 : decode cX1_restore 33 = .ok (.getfield 37, 3) := dk_180 0 37 (dk_at dksX1_restore_1 9 rfl rfl)
theorem dX1_restore_36 : decode cX1_restore 36 = .ok (.invokevirtual 371, 3) := dk_182 1 115 (dk_at dksX1_restore_1 12 rfl rfl)
theorem dX1_restore_39 : decode cX1_restore 39 = .ok (.ireturn, 1) := dk_172 (dk_at dksX1_restore_1 15 rfl rfl)
theorem q93 : (Jvm.Cond.initialized "MasterPrices") ∈ lw_all := lw_g (lw_at lw_m1 1 rfl) rfl
theorem q137 : (Jvm.Cond.instantiable "MasterPrices" (7 : Nat)) ∈ lw_all := lw_g (lw_at lw_m1 45 rfl) rfl
theorem q139 : (Jvm.Cond.instanceMethod ({ cls := "MasterPrices", name := "<init>", desc := "()V" } : Jvm.MethodName)) ∈ lw_all := lw_g (lw_at lw_m1 47 rfl) rfl
theorem q140 : (Jvm.Cond.code ({ cls := "MasterPrices", name := "<init>", desc := "()V" } : Jvm.MethodName) prog_1_method_10_code (1 : Nat) (Option.none : Option Jvm.ClassFile.FieldType)) ∈ lw_all := lw_g (lw_at lw_m1 48 rfl) rfl
theorem q141 : (Jvm.Cond.methodLink "MasterPrices" (31 : Nat) ({ cls := "java/lang/Object", name := "<init>", desc := "()V" } : Jvm.MethodName)) ∈ lw_all := lw_g (lw_at lw_m1 49 rfl) rfl
theorem q144 : (Jvm.Cond.classLink "MasterPrices" (34 : Nat) "MasterPrices$Town") ∈ lw_all := lw_g (lw_at lw_m1 52 rfl) rfl
theorem q146 : (Jvm.Cond.methodLink "MasterPrices" (36 : Nat) ({ cls := "MasterPrices$Town", name := "<init>", desc := "()V" } : Jvm.MethodName)) ∈ lw_all := lw_g (lw_at lw_m1 54 rfl) rfl
theorem q155 : (Jvm.Cond.fieldLinkNest "MasterPrices" (187 : Nat) "MasterPrices$Town" "costs" "[[I" "MasterPrices") ∈ lw_tbl := lw_at lw_m1 63 rfl
theorem q157 : (Jvm.Cond.fieldLinkNest "MasterPrices" (242 : Nat) "MasterPrices$Town" "served" "[[I" "MasterPrices") ∈ lw_tbl := lw_at lw_m1 65 rfl
theorem q160 : (Jvm.Cond.fieldLinkNest "MasterPrices" (227 : Nat) "MasterPrices$Town" "prices" "[I" "MasterPrices") ∈ lw_tbl := lw_at lw_m1 68 rfl
theorem q162 : (Jvm.Cond.fieldLinkNest "MasterPrices" (233 : Nat) "MasterPrices$Town" "bids" "[I" "MasterPrices") ∈ lw_tbl := lw_at lw_m1 70 rfl
theorem q164 : (Jvm.Cond.fieldLinkNest "MasterPrices" (209 : Nat) "MasterPrices$Town" "pairs" "[I" "MasterPrices") ∈ lw_tbl := lw_at lw_m1 72 rfl
theorem q168 : (Jvm.Cond.fieldLinkNest "MasterPrices" (165 : Nat) "MasterPrices$Town" "apprentices" "I" "MasterPrices") ∈ lw_tbl := lw_at lw_m1 76 rfl
theorem q171 : (Jvm.Cond.fieldLinkNest "MasterPrices" (175 : Nat) "MasterPrices$Town" "masters" "I" "MasterPrices") ∈ lw_tbl := lw_at lw_m1 79 rfl
theorem q173 : (Jvm.Cond.fieldLinkNest "MasterPrices" (380 : Nat) "MasterPrices$Town" "freed" "I" "MasterPrices") ∈ lw_tbl := lw_at lw_m1 81 rfl
theorem q175 : (Jvm.Cond.fieldLinkNest "MasterPrices" (383 : Nat) "MasterPrices$Town" "years" "I" "MasterPrices") ∈ lw_tbl := lw_at lw_m1 83 rfl
theorem q177 : (Jvm.Cond.fieldLinkNest "MasterPrices" (392 : Nat) "MasterPrices$Town" "settled" "I" "MasterPrices") ∈ lw_tbl := lw_at lw_m1 85 rfl
theorem q200 : (Jvm.Cond.classLink "MasterPrices" (41 : Nat) "java/util/ArrayDeque") ∈ lw_all := lw_g (lw_at lw_m1 108 rfl) rfl
theorem q202 : (Jvm.Cond.methodLink "MasterPrices" (43 : Nat) ({ cls := "java/util/ArrayDeque", name := "<init>", desc := "()V" } : Jvm.MethodName)) ∈ lw_all := lw_g (lw_at lw_m1 110 rfl) rfl
theorem q221 : (Jvm.Cond.classLink "MasterPrices" (48 : Nat) "java/lang/StringBuilder") ∈ lw_all := lw_g (lw_at lw_m1 129 rfl) rfl
theorem q223 : (Jvm.Cond.methodLink "MasterPrices" (50 : Nat) ({ cls := "java/lang/StringBuilder", name := "<init>", desc := "()V" } : Jvm.MethodName)) ∈ lw_all := lw_g (lw_at lw_m1 131 rfl) rfl
theorem q254 : (Jvm.Cond.stringRef "MasterPrices" (55 : Nat) "") ∈ lw_tbl := lw_at lw_m1 162 rfl
theorem q255 : (Jvm.Cond.fieldLink "MasterPrices" (37 : Nat) "MasterPrices" "now" "LMasterPrices$Town;") ∈ lw_all := lw_g (lw_at lw_m1 163 rfl) rfl
theorem q256 : (Jvm.Cond.fieldLink "MasterPrices" (404 : Nat) "MasterPrices" "saved" "LMasterPrices$Town;") ∈ lw_all := lw_g (lw_at lw_m1 164 rfl) rfl
theorem q257 : (Jvm.Cond.fieldLink "MasterPrices" (44 : Nat) "MasterPrices" "earlier" "Ljava/util/Deque;") ∈ lw_all := lw_g (lw_at lw_m1 165 rfl) rfl
theorem q258 : (Jvm.Cond.fieldLink "MasterPrices" (51 : Nat) "MasterPrices" "tape" "Ljava/lang/StringBuilder;") ∈ lw_all := lw_g (lw_at lw_m1 166 rfl) rfl
theorem q259 : (Jvm.Cond.fieldLink "MasterPrices" (57 : Nat) "MasterPrices" "line" "Ljava/lang/CharSequence;") ∈ lw_all := lw_g (lw_at lw_m1 167 rfl) rfl
theorem q260 : (Jvm.Cond.fieldLink "MasterPrices" (61 : Nat) "MasterPrices" "faultPosition" "I") ∈ lw_all := lw_g (lw_at lw_m1 168 rfl) rfl
theorem q261 : (Jvm.Cond.fieldLink "MasterPrices" (135 : Nat) "MasterPrices" "latest" "LMasterPrices$Refused;") ∈ lw_all := lw_g (lw_at lw_m1 169 rfl) rfl
theorem q262 : (Jvm.Cond.lays "MasterPrices" "MasterPrices" "now" "LMasterPrices$Town;") ∈ lw_all := lw_g (lw_at lw_m1 170 rfl) rfl
theorem q263 : (Jvm.Cond.soleField "MasterPrices" "now") ∈ lw_all := lw_g (lw_at lw_m1 171 rfl) rfl
theorem q264 : (Jvm.Cond.lays "MasterPrices" "MasterPrices" "saved" "LMasterPrices$Town;") ∈ lw_all := lw_g (lw_at lw_m1 172 rfl) rfl
theorem q265 : (Jvm.Cond.soleField "MasterPrices" "saved") ∈ lw_all := lw_g (lw_at lw_m1 173 rfl) rfl
theorem q266 : (Jvm.Cond.laysFinal "MasterPrices" "MasterPrices" "earlier" "Ljava/util/Deque;") ∈ lw_all := lw_g (lw_at lw_m1 174 rfl) rfl
theorem q267 : (Jvm.Cond.soleField "MasterPrices" "earlier") ∈ lw_all := lw_g (lw_at lw_m1 175 rfl) rfl
theorem q268 : (Jvm.Cond.laysFinal "MasterPrices" "MasterPrices" "tape" "Ljava/lang/StringBuilder;") ∈ lw_all := lw_g (lw_at lw_m1 176 rfl) rfl
theorem q269 : (Jvm.Cond.soleField "MasterPrices" "tape") ∈ lw_all := lw_g (lw_at lw_m1 177 rfl) rfl
theorem q270 : (Jvm.Cond.lays "MasterPrices" "MasterPrices" "line" "Ljava/lang/CharSequence;") ∈ lw_all := lw_g (lw_at lw_m1 178 rfl) rfl
theorem q271 : (Jvm.Cond.soleField "MasterPrices" "line") ∈ lw_all := lw_g (lw_at lw_m1 179 rfl) rfl
theorem q272 : (Jvm.Cond.lays "MasterPrices" "MasterPrices" "faultPosition" "I") ∈ lw_all := lw_g (lw_at lw_m1 180 rfl) rfl
theorem q273 : (Jvm.Cond.soleField "MasterPrices" "faultPosition") ∈ lw_all := lw_g (lw_at lw_m1 181 rfl) rfl
theorem q274 : (Jvm.Cond.lays "MasterPrices" "MasterPrices" "latest" "LMasterPrices$Refused;") ∈ lw_all := lw_g (lw_at lw_m1 182 rfl) rfl
theorem q275 : (Jvm.Cond.soleField "MasterPrices" "latest") ∈ lw_all := lw_g (lw_at lw_m1 183 rfl) rfl
theorem q276 : (Jvm.Cond.superclass "MasterPrices" "java/lang/Object") ∈ lw_all := lw_g (lw_at lw_m1 184 rfl) rfl
theorem q278 : (Jvm.Cond.instanceMethod ({ cls := "MasterPrices", name := "year", desc := "()I" } : Jvm.MethodName)) ∈ lw_all := lw_g (lw_at lw_m1 186 rfl) rfl
theorem q279 : (Jvm.Cond.selects "MasterPrices" ({ cls := "MasterPrices", name := "year", desc := "()I" } : Jvm.MethodName) ({ cls := "MasterPrices", name := "year", desc := "()I" } : Jvm.MethodName)) ∈ lw_all := lw_g (lw_at lw_m1 187 rfl) rfl
theorem q280 : (Jvm.Cond.code ({ cls := "MasterPrices", name := "year", desc := "()I" } : Jvm.MethodName) prog_1_method_21_code (1 : Nat) (Option.some Jvm.ClassFile.FieldType.int)) ∈ lw_all := lw_g (lw_at lw_m1 188 rfl) rfl
theorem q281 : (Jvm.Cond.fieldLink "MasterPrices" (162 : Nat) "MasterPrices$Plain" "YEAR" "LMasterPrices$Plain;") ∈ lw_all := lw_g (lw_at lw_m1 189 rfl) rfl
theorem q283 : (Jvm.Cond.methodLink "MasterPrices" (144 : Nat) ({ cls := "MasterPrices", name := "done", desc := "(LMasterPrices$Order;)I" } : Jvm.MethodName)) ∈ lw_all := lw_g (lw_at lw_m1 191 rfl) rfl
theorem q284 : (Jvm.Cond.privateMethod ({ cls := "MasterPrices", name := "done", desc := "(LMasterPrices$Order;)I" } : Jvm.MethodName)) ∈ lw_tbl := lw_at lw_m1 192 rfl
theorem q285 : (Jvm.Cond.instanceMethod ({ cls := "MasterPrices", name := "done", desc := "(LMasterPrices$Order;)I" } : Jvm.MethodName)) ∈ lw_all := lw_g (lw_at lw_m1 193 rfl) rfl
theorem q286 : (Jvm.Cond.codeWith ({ cls := "MasterPrices", name := "done", desc := "(LMasterPrices$Order;)I" } : Jvm.MethodName) prog_1_method_13_code (4 : Nat) (Option.some Jvm.ClassFile.FieldType.int) [((12 : Nat), (24 : Nat), (25 : Nat), (26 : Nat))]) ∈ lw_all := lw_g (lw_at lw_m1 194 rfl) rfl
theorem q287 : (Jvm.Cond.classLink "MasterPrices" (26 : Nat) "MasterPrices$Refused") ∈ lw_all := lw_g (lw_at lw_m1 195 rfl) rfl
theorem q288 : (Jvm.Cond.methodLink "MasterPrices" (126 : Nat) ({ cls := "MasterPrices$Town", name := "<init>", desc := "(LMasterPrices$Town;)V" } : Jvm.MethodName)) ∈ lw_all := lw_g (lw_at lw_m1 196 rfl) rfl
theorem q294 : (Jvm.Cond.methodLink "MasterPrices" (129 : Nat) ({ cls := "MasterPrices", name := "does", desc := "(LMasterPrices$Order;LMasterPrices$Town;)I" } : Jvm.MethodName)) ∈ lw_all := lw_g (lw_at lw_m1 202 rfl) rfl
theorem q295 : (Jvm.Cond.static ({ cls := "MasterPrices", name := "does", desc := "(LMasterPrices$Order;LMasterPrices$Town;)I" } : Jvm.MethodName)) ∈ lw_all := lw_g (lw_at lw_m1 203 rfl) rfl
theorem q296 : (Jvm.Cond.code ({ cls := "MasterPrices", name := "does", desc := "(LMasterPrices$Order;LMasterPrices$Town;)I" } : Jvm.MethodName) prog_1_method_12_code (3 : Nat) (Option.some Jvm.ClassFile.FieldType.int)) ∈ lw_all := lw_g (lw_at lw_m1 204 rfl) rfl
theorem q297 : (Jvm.Cond.classLink "MasterPrices" (79 : Nat) "MasterPrices$Coming") ∈ lw_all := lw_g (lw_at lw_m1 205 rfl) rfl
theorem q298 : (Jvm.Cond.methodLink "MasterPrices" (85 : Nat) ({ cls := "MasterPrices$Town", name := "masterComes", desc := "()I" } : Jvm.MethodName)) ∈ lw_all := lw_g (lw_at lw_m1 206 rfl) rfl
theorem q303 : (Jvm.Cond.static ({ cls := "MasterPrices", name := "check", desc := "(ZII)V" } : Jvm.MethodName)) ∈ lw_all := lw_g (lw_at lw_m1 211 rfl) rfl
theorem q304 : (Jvm.Cond.code ({ cls := "MasterPrices", name := "check", desc := "(ZII)V" } : Jvm.MethodName) prog_1_method_9_code (3 : Nat) (Option.none : Option Jvm.ClassFile.FieldType)) ∈ lw_all := lw_g (lw_at lw_m1 212 rfl) rfl
theorem q350 : (Jvm.Cond.methodLink "MasterPrices" (28 : Nat) ({ cls := "MasterPrices$Refused", name := "<init>", desc := "(II)V" } : Jvm.MethodName)) ∈ lw_all := lw_g (lw_at lw_m2 18 rfl) rfl
theorem q361 : (Jvm.Cond.fieldLinkNest "MasterPrices" (341 : Nat) "MasterPrices$Refused" "reason" "I" "MasterPrices") ∈ lw_tbl := lw_at lw_m2 29 rfl
theorem q363 : (Jvm.Cond.fieldLinkNest "MasterPrices" (338 : Nat) "MasterPrices$Refused" "detail" "I" "MasterPrices") ∈ lw_tbl := lw_at lw_m2 31 rfl
theorem q365 : (Jvm.Cond.fieldLinkNest "MasterPrices" (335 : Nat) "MasterPrices$Refused" "behind" "LMasterPrices$Refused;" "MasterPrices") ∈ lw_tbl := lw_at lw_m2 33 rfl
theorem q389 : (Jvm.Cond.methodLink "MasterPrices" (88 : Nat) ({ cls := "MasterPrices$Town", name := "apprenticeComes", desc := "()I" } : Jvm.MethodName)) ∈ lw_all := lw_g (lw_at lw_m2 57 rfl) rfl
theorem q393 : (Jvm.Cond.classLink "MasterPrices" (91 : Nat) "MasterPrices$Telling") ∈ lw_all := lw_g (lw_at lw_m2 61 rfl) rfl
theorem q394 : (Jvm.Cond.methodLink "MasterPrices" (102 : Nat) ({ cls := "MasterPrices$Town", name := "bars", desc := "(II)I" } : Jvm.MethodName)) ∈ lw_all := lw_g (lw_at lw_m2 62 rfl) rfl
theorem q407 : (Jvm.Cond.static ({ cls := "MasterPrices", name := "isBetween", desc := "(III)Z" } : Jvm.MethodName)) ∈ lw_all := lw_g (lw_at lw_m2 75 rfl) rfl
theorem q408 : (Jvm.Cond.code ({ cls := "MasterPrices", name := "isBetween", desc := "(III)Z" } : Jvm.MethodName) prog_1_method_1_code (3 : Nat) (Option.some Jvm.ClassFile.FieldType.boolean)) ∈ lw_all := lw_g (lw_at lw_m2 76 rfl) rfl
theorem q409 : (Jvm.Cond.methodLink "MasterPrices" (109 : Nat) ({ cls := "MasterPrices$Town", name := "tellsCost", desc := "(III)I" } : Jvm.MethodName)) ∈ lw_all := lw_g (lw_at lw_m2 77 rfl) rfl
theorem q413 : (Jvm.Cond.classLink "MasterPrices" (113 : Nat) "MasterPrices$Leaving") ∈ lw_all := lw_g (lw_at lw_m2 81 rfl) rfl
theorem q414 : (Jvm.Cond.methodLink "MasterPrices" (116 : Nat) ({ cls := "MasterPrices$Town", name := "leaves", desc := "(I)I" } : Jvm.MethodName)) ∈ lw_all := lw_g (lw_at lw_m2 82 rfl) rfl
theorem q418 : (Jvm.Cond.classLink "MasterPrices" (120 : Nat) "MasterPrices$Plain") ∈ lw_all := lw_g (lw_at lw_m2 86 rfl) rfl
theorem q419 : (Jvm.Cond.methodLink "MasterPrices" (122 : Nat) ({ cls := "MasterPrices$Plain", name := "does", desc := "(LMasterPrices$Town;)I" } : Jvm.MethodName)) ∈ lw_all := lw_g (lw_at lw_m2 87 rfl) rfl
theorem q505 : (Jvm.Cond.methodLink "MasterPrices" (132 : Nat) ({ cls := "MasterPrices", name := "remember", desc := "(LMasterPrices$Town;)V" } : Jvm.MethodName)) ∈ lw_all := lw_g (lw_at lw_m2 173 rfl) rfl
theorem q506 : (Jvm.Cond.privateMethod ({ cls := "MasterPrices", name := "remember", desc := "(LMasterPrices$Town;)V" } : Jvm.MethodName)) ∈ lw_tbl := lw_at lw_m2 174 rfl
theorem q507 : (Jvm.Cond.instanceMethod ({ cls := "MasterPrices", name := "remember", desc := "(LMasterPrices$Town;)V" } : Jvm.MethodName)) ∈ lw_all := lw_g (lw_at lw_m2 175 rfl) rfl
theorem q508 : (Jvm.Cond.code ({ cls := "MasterPrices", name := "remember", desc := "(LMasterPrices$Town;)V" } : Jvm.MethodName) prog_1_method_11_code (2 : Nat) (Option.none : Option Jvm.ClassFile.FieldType)) ∈ lw_all := lw_g (lw_at lw_m2 176 rfl) rfl
theorem q509 : (Jvm.Cond.interfaceEntry "MasterPrices" (65 : Nat)) ∈ lw_tbl := lw_at lw_m2 177 rfl
theorem q510 : (Jvm.Cond.methodLink "MasterPrices" (65 : Nat) ({ cls := "java/util/Deque", name := "size", desc := "()I" } : Jvm.MethodName)) ∈ lw_all := lw_g (lw_at lw_m2 178 rfl) rfl
theorem q522 : (Jvm.Cond.interfaceEntry "MasterPrices" (71 : Nat)) ∈ lw_tbl := lw_at lw_m2 190 rfl
theorem q523 : (Jvm.Cond.methodLink "MasterPrices" (71 : Nat) ({ cls := "java/util/Deque", name := "removeFirst", desc := "()Ljava/lang/Object;" } : Jvm.MethodName)) ∈ lw_all := lw_g (lw_at lw_m2 191 rfl) rfl
theorem q562 : (Jvm.Cond.interfaceEntry "MasterPrices" (75 : Nat)) ∈ lw_tbl := lw_at lw_m2 230 rfl
theorem q563 : (Jvm.Cond.methodLink "MasterPrices" (75 : Nat) ({ cls := "java/util/Deque", name := "addLast", desc := "(Ljava/lang/Object;)V" } : Jvm.MethodName)) ∈ lw_all := lw_g (lw_at lw_m2 231 rfl) rfl
theorem q611 : (Jvm.Cond.selects "MasterPrices" ({ cls := "java/lang/Object", name := "getClass", desc := "()Ljava/lang/Class;" } : Jvm.MethodName) ({ cls := "java/lang/Object", name := "getClass", desc := "()Ljava/lang/Class;" } : Jvm.MethodName)) ∈ lw_all := lw_g (lw_at lw_m3 39 rfl) rfl
theorem q652 : (Jvm.Cond.classLink "MasterPrices" (139 : Nat) "java/lang/UnsupportedOperationException") ∈ lw_all := lw_g (lw_at lw_m3 80 rfl) rfl
theorem q661 : (Jvm.Cond.methodLink "MasterPrices" (141 : Nat) ({ cls := "java/lang/UnsupportedOperationException", name := "<init>", desc := "()V" } : Jvm.MethodName)) ∈ lw_all := lw_g (lw_at lw_m3 89 rfl) rfl
theorem q668 : (Jvm.Cond.instanceMethod ({ cls := "MasterPrices", name := "most", desc := "()I" } : Jvm.MethodName)) ∈ lw_all := lw_g (lw_at lw_m3 96 rfl) rfl
theorem q669 : (Jvm.Cond.selects "MasterPrices" ({ cls := "MasterPrices", name := "most", desc := "()I" } : Jvm.MethodName) ({ cls := "MasterPrices", name := "most", desc := "()I" } : Jvm.MethodName)) ∈ lw_all := lw_g (lw_at lw_m3 97 rfl) rfl
theorem q670 : (Jvm.Cond.code ({ cls := "MasterPrices", name := "most", desc := "()I" } : Jvm.MethodName) prog_1_method_35_code (1 : Nat) (Option.some Jvm.ClassFile.FieldType.int)) ∈ lw_all := lw_g (lw_at lw_m3 98 rfl) rfl
theorem q671 : (Jvm.Cond.methodLink "MasterPrices" (259 : Nat) ({ cls := "MasterPrices$Town", name := "most", desc := "()I" } : Jvm.MethodName)) ∈ lw_all := lw_g (lw_at lw_m3 99 rfl) rfl
theorem q673 : (Jvm.Cond.instanceMethod ({ cls := "MasterPrices", name := "pairing", desc := "()I" } : Jvm.MethodName)) ∈ lw_all := lw_g (lw_at lw_m3 101 rfl) rfl
theorem q674 : (Jvm.Cond.selects "MasterPrices" ({ cls := "MasterPrices", name := "pairing", desc := "()I" } : Jvm.MethodName) ({ cls := "MasterPrices", name := "pairing", desc := "()I" } : Jvm.MethodName)) ∈ lw_all := lw_g (lw_at lw_m3 102 rfl) rfl
theorem q675 : (Jvm.Cond.code ({ cls := "MasterPrices", name := "pairing", desc := "()I" } : Jvm.MethodName) prog_1_method_46_code (1 : Nat) (Option.some Jvm.ClassFile.FieldType.int)) ∈ lw_all := lw_g (lw_at lw_m3 103 rfl) rfl
theorem q676 : (Jvm.Cond.classLink "MasterPrices" (198 : Nat) "MasterPrices$Known") ∈ lw_all := lw_g (lw_at lw_m3 104 rfl) rfl
theorem q678 : (Jvm.Cond.methodLink "MasterPrices" (200 : Nat) ({ cls := "MasterPrices$Known", name := "<init>", desc := "(LMasterPrices$Town;)V" } : Jvm.MethodName)) ∈ lw_all := lw_g (lw_at lw_m3 106 rfl) rfl
theorem q719 : (Jvm.Cond.fieldLinkNest "MasterPrices" (205 : Nat) "MasterPrices$Known" "first" "[I" "MasterPrices") ∈ lw_tbl := lw_at lw_m3 147 rfl
theorem q721 : (Jvm.Cond.fieldLinkNest "MasterPrices" (253 : Nat) "MasterPrices$Known" "with" "[I" "MasterPrices") ∈ lw_tbl := lw_at lw_m3 149 rfl
theorem q723 : (Jvm.Cond.fieldLinkNest "MasterPrices" (256 : Nat) "MasterPrices$Known" "without" "[I" "MasterPrices") ∈ lw_tbl := lw_at lw_m3 151 rfl
theorem q726 : (Jvm.Cond.fieldLinkNest "MasterPrices" (251 : Nat) "MasterPrices$Known" "least" "I" "MasterPrices") ∈ lw_tbl := lw_at lw_m3 154 rfl
theorem q729 : (Jvm.Cond.fieldLinkNest "MasterPrices" (386 : Nat) "MasterPrices$Known" "many" "I" "MasterPrices") ∈ lw_tbl := lw_at lw_m3 157 rfl
theorem q731 : (Jvm.Cond.fieldLinkNest "MasterPrices" (389 : Nat) "MasterPrices$Known" "manyLeast" "I" "MasterPrices") ∈ lw_tbl := lw_at lw_m3 159 rfl
theorem q747 : (Jvm.Cond.methodLink "MasterPrices" (354 : Nat) ({ cls := "MasterPrices$Known", name := "line", desc := "()Ljava/lang/CharSequence;" } : Jvm.MethodName)) ∈ lw_all := lw_g (lw_at lw_m3 175 rfl) rfl
theorem q919 : (Jvm.Cond.methodLink "MasterPrices" (350 : Nat) ({ cls := "MasterPrices", name := "writes", desc := "(Ljava/lang/CharSequence;)I" } : Jvm.MethodName)) ∈ lw_all := lw_g (lw_at lw_m4 107 rfl) rfl
theorem q920 : (Jvm.Cond.privateMethod ({ cls := "MasterPrices", name := "writes", desc := "(Ljava/lang/CharSequence;)I" } : Jvm.MethodName)) ∈ lw_tbl := lw_at lw_m4 108 rfl
theorem q921 : (Jvm.Cond.instanceMethod ({ cls := "MasterPrices", name := "writes", desc := "(Ljava/lang/CharSequence;)I" } : Jvm.MethodName)) ∈ lw_all := lw_g (lw_at lw_m4 109 rfl) rfl
theorem q922 : (Jvm.Cond.code ({ cls := "MasterPrices", name := "writes", desc := "(Ljava/lang/CharSequence;)I" } : Jvm.MethodName) prog_1_method_44_code (2 : Nat) (Option.some Jvm.ClassFile.FieldType.int)) ∈ lw_all := lw_g (lw_at lw_m4 110 rfl) rfl
theorem q923 : (Jvm.Cond.interfaceEntry "MasterPrices" (344 : Nat)) ∈ lw_tbl := lw_at lw_m4 111 rfl
theorem q924 : (Jvm.Cond.methodLink "MasterPrices" (344 : Nat) ({ cls := "java/lang/CharSequence", name := "length", desc := "()I" } : Jvm.MethodName)) ∈ lw_all := lw_g (lw_at lw_m4 112 rfl) rfl
theorem q941 : (Jvm.Cond.instanceMethod ({ cls := "MasterPrices", name := "isBalanced", desc := "()Z" } : Jvm.MethodName)) ∈ lw_all := lw_g (lw_at lw_m4 129 rfl) rfl
theorem q942 : (Jvm.Cond.selects "MasterPrices" ({ cls := "MasterPrices", name := "isBalanced", desc := "()Z" } : Jvm.MethodName) ({ cls := "MasterPrices", name := "isBalanced", desc := "()Z" } : Jvm.MethodName)) ∈ lw_all := lw_g (lw_at lw_m4 130 rfl) rfl
theorem q943 : (Jvm.Cond.code ({ cls := "MasterPrices", name := "isBalanced", desc := "()Z" } : Jvm.MethodName) prog_1_method_51_code (1 : Nat) (Option.some Jvm.ClassFile.FieldType.boolean)) ∈ lw_all := lw_g (lw_at lw_m4 131 rfl) rfl
theorem q944 : (Jvm.Cond.methodLink "MasterPrices" (395 : Nat) ({ cls := "MasterPrices$Town", name := "isBalanced", desc := "()Z" } : Jvm.MethodName)) ∈ lw_all := lw_g (lw_at lw_m4 132 rfl) rfl
theorem q958 : (Jvm.Cond.instanceMethod ({ cls := "MasterPrices", name := "save", desc := "()I" } : Jvm.MethodName)) ∈ lw_all := lw_g (lw_at lw_m4 146 rfl) rfl
theorem q959 : (Jvm.Cond.selects "MasterPrices" ({ cls := "MasterPrices", name := "save", desc := "()I" } : Jvm.MethodName) ({ cls := "MasterPrices", name := "save", desc := "()I" } : Jvm.MethodName)) ∈ lw_all := lw_g (lw_at lw_m4 147 rfl) rfl
theorem q960 : (Jvm.Cond.code ({ cls := "MasterPrices", name := "save", desc := "()I" } : Jvm.MethodName) prog_1_method_53_code (1 : Nat) (Option.some Jvm.ClassFile.FieldType.int)) ∈ lw_all := lw_g (lw_at lw_m4 148 rfl) rfl
theorem q961 : (Jvm.Cond.methodLink "MasterPrices" (371 : Nat) ({ cls := "MasterPrices$Town", name := "countPairs", desc := "()I" } : Jvm.MethodName)) ∈ lw_all := lw_g (lw_at lw_m4 149 rfl) rfl
theorem q973 : (Jvm.Cond.instanceMethod ({ cls := "MasterPrices", name := "apprentice", desc := "()I" } : Jvm.MethodName)) ∈ lw_all := lw_g (lw_at lw_m4 161 rfl) rfl
theorem q974 : (Jvm.Cond.selects "MasterPrices" ({ cls := "MasterPrices", name := "apprentice", desc := "()I" } : Jvm.MethodName) ({ cls := "MasterPrices", name := "apprentice", desc := "()I" } : Jvm.MethodName)) ∈ lw_all := lw_g (lw_at lw_m4 162 rfl) rfl
theorem q975 : (Jvm.Cond.code ({ cls := "MasterPrices", name := "apprentice", desc := "()I" } : Jvm.MethodName) prog_1_method_14_code (1 : Nat) (Option.some Jvm.ClassFile.FieldType.int)) ∈ lw_all := lw_g (lw_at lw_m4 163 rfl) rfl
theorem q977 : (Jvm.Cond.methodLink "MasterPrices" (142 : Nat) ({ cls := "MasterPrices$Coming", name := "<init>", desc := "(Z)V" } : Jvm.MethodName)) ∈ lw_all := lw_g (lw_at lw_m4 165 rfl) rfl
theorem q982 : (Jvm.Cond.fieldLinkNest "MasterPrices" (81 : Nat) "MasterPrices$Coming" "isMaster" "Z" "MasterPrices") ∈ lw_tbl := lw_at lw_m4 170 rfl
theorem q990 : (Jvm.Cond.instanceMethod ({ cls := "MasterPrices", name := "master", desc := "()I" } : Jvm.MethodName)) ∈ lw_all := lw_g (lw_at lw_m4 178 rfl) rfl
theorem q991 : (Jvm.Cond.selects "MasterPrices" ({ cls := "MasterPrices", name := "master", desc := "()I" } : Jvm.MethodName) ({ cls := "MasterPrices", name := "master", desc := "()I" } : Jvm.MethodName)) ∈ lw_all := lw_g (lw_at lw_m4 179 rfl) rfl
theorem q992 : (Jvm.Cond.code ({ cls := "MasterPrices", name := "master", desc := "()I" } : Jvm.MethodName) prog_1_method_15_code (1 : Nat) (Option.some Jvm.ClassFile.FieldType.int)) ∈ lw_all := lw_g (lw_at lw_m4 180 rfl) rfl
theorem q997 : (Jvm.Cond.instanceMethod ({ cls := "MasterPrices", name := "cost", desc := "(III)I" } : Jvm.MethodName)) ∈ lw_all := lw_g (lw_at lw_m4 185 rfl) rfl
theorem q998 : (Jvm.Cond.selects "MasterPrices" ({ cls := "MasterPrices", name := "cost", desc := "(III)I" } : Jvm.MethodName) ({ cls := "MasterPrices", name := "cost", desc := "(III)I" } : Jvm.MethodName)) ∈ lw_all := lw_g (lw_at lw_m4 186 rfl) rfl
theorem q999 : (Jvm.Cond.code ({ cls := "MasterPrices", name := "cost", desc := "(III)I" } : Jvm.MethodName) prog_1_method_16_code (4 : Nat) (Option.some Jvm.ClassFile.FieldType.int)) ∈ lw_all := lw_g (lw_at lw_m4 187 rfl) rfl
theorem q1001 : (Jvm.Cond.methodLink "MasterPrices" (148 : Nat) ({ cls := "MasterPrices$Telling", name := "<init>", desc := "(III)V" } : Jvm.MethodName)) ∈ lw_all := lw_g (lw_at lw_m4 189 rfl) rfl
theorem q1009 : (Jvm.Cond.fieldLinkNest "MasterPrices" (96 : Nat) "MasterPrices$Telling" "apprentice" "I" "MasterPrices") ∈ lw_tbl := lw_at lw_m4 197 rfl
theorem q1011 : (Jvm.Cond.fieldLinkNest "MasterPrices" (99 : Nat) "MasterPrices$Telling" "master" "I" "MasterPrices") ∈ lw_tbl := lw_at lw_m4 199 rfl
theorem q1013 : (Jvm.Cond.fieldLinkNest "MasterPrices" (106 : Nat) "MasterPrices$Telling" "cost" "I" "MasterPrices") ∈ lw_tbl := lw_at lw_m4 201 rfl
theorem q1015 : (Jvm.Cond.fieldLinkNest "MasterPrices" (93 : Nat) "MasterPrices$Telling" "isBar" "Z" "MasterPrices") ∈ lw_tbl := lw_at lw_m4 203 rfl
theorem q1029 : (Jvm.Cond.instanceMethod ({ cls := "MasterPrices", name := "bar", desc := "(II)I" } : Jvm.MethodName)) ∈ lw_all := lw_g (lw_at lw_m4 217 rfl) rfl
theorem q1030 : (Jvm.Cond.selects "MasterPrices" ({ cls := "MasterPrices", name := "bar", desc := "(II)I" } : Jvm.MethodName) ({ cls := "MasterPrices", name := "bar", desc := "(II)I" } : Jvm.MethodName)) ∈ lw_all := lw_g (lw_at lw_m4 218 rfl) rfl
theorem q1031 : (Jvm.Cond.code ({ cls := "MasterPrices", name := "bar", desc := "(II)I" } : Jvm.MethodName) prog_1_method_17_code (3 : Nat) (Option.some Jvm.ClassFile.FieldType.int)) ∈ lw_all := lw_g (lw_at lw_m4 219 rfl) rfl
theorem q1032 : (Jvm.Cond.methodLink "MasterPrices" (151 : Nat) ({ cls := "MasterPrices$Telling", name := "<init>", desc := "(II)V" } : Jvm.MethodName)) ∈ lw_all := lw_g (lw_at lw_m4 220 rfl) rfl
theorem q1039 : (Jvm.Cond.instanceMethod ({ cls := "MasterPrices", name := "bid", desc := "()I" } : Jvm.MethodName)) ∈ lw_all := lw_g (lw_at lw_m4 227 rfl) rfl
theorem q1040 : (Jvm.Cond.selects "MasterPrices" ({ cls := "MasterPrices", name := "bid", desc := "()I" } : Jvm.MethodName) ({ cls := "MasterPrices", name := "bid", desc := "()I" } : Jvm.MethodName)) ∈ lw_all := lw_g (lw_at lw_m4 228 rfl) rfl
theorem q1041 : (Jvm.Cond.code ({ cls := "MasterPrices", name := "bid", desc := "()I" } : Jvm.MethodName) prog_1_method_18_code (1 : Nat) (Option.some Jvm.ClassFile.FieldType.int)) ∈ lw_all := lw_g (lw_at lw_m4 229 rfl) rfl
theorem q1042 : (Jvm.Cond.fieldLink "MasterPrices" (152 : Nat) "MasterPrices$Plain" "BID" "LMasterPrices$Plain;") ∈ lw_all := lw_g (lw_at lw_m4 230 rfl) rfl
theorem q1048 : (Jvm.Cond.instanceMethod ({ cls := "MasterPrices", name := "settle", desc := "()I" } : Jvm.MethodName)) ∈ lw_all := lw_g (lw_at lw_m4 236 rfl) rfl
theorem q1049 : (Jvm.Cond.selects "MasterPrices" ({ cls := "MasterPrices", name := "settle", desc := "()I" } : Jvm.MethodName) ({ cls := "MasterPrices", name := "settle", desc := "()I" } : Jvm.MethodName)) ∈ lw_all := lw_g (lw_at lw_m4 237 rfl) rfl
theorem q1050 : (Jvm.Cond.code ({ cls := "MasterPrices", name := "settle", desc := "()I" } : Jvm.MethodName) prog_1_method_19_code (1 : Nat) (Option.some Jvm.ClassFile.FieldType.int)) ∈ lw_all := lw_g (lw_at lw_m4 238 rfl) rfl
theorem q1051 : (Jvm.Cond.fieldLink "MasterPrices" (156 : Nat) "MasterPrices$Plain" "SETTLE" "LMasterPrices$Plain;") ∈ lw_all := lw_g (lw_at lw_m4 239 rfl) rfl
theorem q1057 : (Jvm.Cond.instanceMethod ({ cls := "MasterPrices", name := "leave", desc := "(I)I" } : Jvm.MethodName)) ∈ lw_all := lw_g (lw_at lw_m5 5 rfl) rfl
theorem q1058 : (Jvm.Cond.selects "MasterPrices" ({ cls := "MasterPrices", name := "leave", desc := "(I)I" } : Jvm.MethodName) ({ cls := "MasterPrices", name := "leave", desc := "(I)I" } : Jvm.MethodName)) ∈ lw_all := lw_g (lw_at lw_m5 6 rfl) rfl
theorem q1059 : (Jvm.Cond.code ({ cls := "MasterPrices", name := "leave", desc := "(I)I" } : Jvm.MethodName) prog_1_method_20_code (2 : Nat) (Option.some Jvm.ClassFile.FieldType.int)) ∈ lw_all := lw_g (lw_at lw_m5 7 rfl) rfl
theorem q1061 : (Jvm.Cond.methodLink "MasterPrices" (159 : Nat) ({ cls := "MasterPrices$Leaving", name := "<init>", desc := "(I)V" } : Jvm.MethodName)) ∈ lw_all := lw_g (lw_at lw_m5 9 rfl) rfl
theorem q1066 : (Jvm.Cond.fieldLinkNest "MasterPrices" (115 : Nat) "MasterPrices$Leaving" "apprentice" "I" "MasterPrices") ∈ lw_tbl := lw_at lw_m5 14 rfl
theorem q1098 : (Jvm.Cond.instanceMethod ({ cls := "MasterPrices", name := "costOf", desc := "(II)I" } : Jvm.MethodName)) ∈ lw_all := lw_g (lw_at lw_m5 46 rfl) rfl
theorem q1099 : (Jvm.Cond.selects "MasterPrices" ({ cls := "MasterPrices", name := "costOf", desc := "(II)I" } : Jvm.MethodName) ({ cls := "MasterPrices", name := "costOf", desc := "(II)I" } : Jvm.MethodName)) ∈ lw_all := lw_g (lw_at lw_m5 47 rfl) rfl
theorem q1100 : (Jvm.Cond.code ({ cls := "MasterPrices", name := "costOf", desc := "(II)I" } : Jvm.MethodName) prog_1_method_25_code (3 : Nat) (Option.some Jvm.ClassFile.FieldType.int)) ∈ lw_all := lw_g (lw_at lw_m5 48 rfl) rfl
theorem q1101 : (Jvm.Cond.methodLink "MasterPrices" (184 : Nat) ({ cls := "MasterPrices", name := "requireBoth", desc := "(II)V" } : Jvm.MethodName)) ∈ lw_all := lw_g (lw_at lw_m5 49 rfl) rfl
theorem q1102 : (Jvm.Cond.privateMethod ({ cls := "MasterPrices", name := "requireBoth", desc := "(II)V" } : Jvm.MethodName)) ∈ lw_tbl := lw_at lw_m5 50 rfl
theorem q1103 : (Jvm.Cond.instanceMethod ({ cls := "MasterPrices", name := "requireBoth", desc := "(II)V" } : Jvm.MethodName)) ∈ lw_all := lw_g (lw_at lw_m5 51 rfl) rfl
theorem q1104 : (Jvm.Cond.code ({ cls := "MasterPrices", name := "requireBoth", desc := "(II)V" } : Jvm.MethodName) prog_1_method_24_code (3 : Nat) (Option.none : Option Jvm.ClassFile.FieldType)) ∈ lw_all := lw_g (lw_at lw_m5 52 rfl) rfl
theorem q1105 : (Jvm.Cond.methodLink "MasterPrices" (178 : Nat) ({ cls := "MasterPrices", name := "requireApprentice", desc := "(I)V" } : Jvm.MethodName)) ∈ lw_all := lw_g (lw_at lw_m5 53 rfl) rfl
theorem q1106 : (Jvm.Cond.privateMethod ({ cls := "MasterPrices", name := "requireApprentice", desc := "(I)V" } : Jvm.MethodName)) ∈ lw_tbl := lw_at lw_m5 54 rfl
theorem q1107 : (Jvm.Cond.instanceMethod ({ cls := "MasterPrices", name := "requireApprentice", desc := "(I)V" } : Jvm.MethodName)) ∈ lw_all := lw_g (lw_at lw_m5 55 rfl) rfl
theorem q1108 : (Jvm.Cond.code ({ cls := "MasterPrices", name := "requireApprentice", desc := "(I)V" } : Jvm.MethodName) prog_1_method_22_code (2 : Nat) (Option.none : Option Jvm.ClassFile.FieldType)) ∈ lw_all := lw_g (lw_at lw_m5 56 rfl) rfl
theorem q1109 : (Jvm.Cond.methodLink "MasterPrices" (168 : Nat) ({ cls := "MasterPrices", name := "isBetween", desc := "(III)Z" } : Jvm.MethodName)) ∈ lw_all := lw_g (lw_at lw_m5 57 rfl) rfl
theorem q1110 : (Jvm.Cond.methodLink "MasterPrices" (172 : Nat) ({ cls := "MasterPrices", name := "requireIndex", desc := "(Z)V" } : Jvm.MethodName)) ∈ lw_all := lw_g (lw_at lw_m5 58 rfl) rfl
theorem q1111 : (Jvm.Cond.static ({ cls := "MasterPrices", name := "requireIndex", desc := "(Z)V" } : Jvm.MethodName)) ∈ lw_all := lw_g (lw_at lw_m5 59 rfl) rfl
theorem q1112 : (Jvm.Cond.code ({ cls := "MasterPrices", name := "requireIndex", desc := "(Z)V" } : Jvm.MethodName) prog_1_method_2_code (1 : Nat) (Option.none : Option Jvm.ClassFile.FieldType)) ∈ lw_all := lw_g (lw_at lw_m5 60 rfl) rfl
theorem q1113 : (Jvm.Cond.classLink "MasterPrices" (1 : Nat) "java/lang/IndexOutOfBoundsException") ∈ lw_all := lw_g (lw_at lw_m5 61 rfl) rfl
theorem q1122 : (Jvm.Cond.methodLink "MasterPrices" (3 : Nat) ({ cls := "java/lang/IndexOutOfBoundsException", name := "<init>", desc := "()V" } : Jvm.MethodName)) ∈ lw_all := lw_g (lw_at lw_m5 70 rfl) rfl
theorem q1128 : (Jvm.Cond.methodLink "MasterPrices" (181 : Nat) ({ cls := "MasterPrices", name := "requireMaster", desc := "(I)V" } : Jvm.MethodName)) ∈ lw_all := lw_g (lw_at lw_m5 76 rfl) rfl
theorem q1129 : (Jvm.Cond.privateMethod ({ cls := "MasterPrices", name := "requireMaster", desc := "(I)V" } : Jvm.MethodName)) ∈ lw_tbl := lw_at lw_m5 77 rfl
theorem q1130 : (Jvm.Cond.instanceMethod ({ cls := "MasterPrices", name := "requireMaster", desc := "(I)V" } : Jvm.MethodName)) ∈ lw_all := lw_g (lw_at lw_m5 78 rfl) rfl
theorem q1131 : (Jvm.Cond.code ({ cls := "MasterPrices", name := "requireMaster", desc := "(I)V" } : Jvm.MethodName) prog_1_method_23_code (2 : Nat) (Option.none : Option Jvm.ClassFile.FieldType)) ∈ lw_all := lw_g (lw_at lw_m5 79 rfl) rfl
theorem q1137 : (Jvm.Cond.instanceMethod ({ cls := "MasterPrices", name := "burden", desc := "(II)I" } : Jvm.MethodName)) ∈ lw_all := lw_g (lw_at lw_m5 85 rfl) rfl
theorem q1138 : (Jvm.Cond.selects "MasterPrices" ({ cls := "MasterPrices", name := "burden", desc := "(II)I" } : Jvm.MethodName) ({ cls := "MasterPrices", name := "burden", desc := "(II)I" } : Jvm.MethodName)) ∈ lw_all := lw_g (lw_at lw_m5 86 rfl) rfl
theorem q1139 : (Jvm.Cond.code ({ cls := "MasterPrices", name := "burden", desc := "(II)I" } : Jvm.MethodName) prog_1_method_26_code (3 : Nat) (Option.some Jvm.ClassFile.FieldType.int)) ∈ lw_all := lw_g (lw_at lw_m5 87 rfl) rfl
theorem q1140 : (Jvm.Cond.methodLink "MasterPrices" (191 : Nat) ({ cls := "MasterPrices$Town", name := "canBe", desc := "(II)Z" } : Jvm.MethodName)) ∈ lw_all := lw_g (lw_at lw_m5 88 rfl) rfl
theorem q1141 : (Jvm.Cond.methodLink "MasterPrices" (21 : Nat) ({ cls := "MasterPrices", name := "requireElement", desc := "(Z)V" } : Jvm.MethodName)) ∈ lw_all := lw_g (lw_at lw_m5 89 rfl) rfl
theorem q1142 : (Jvm.Cond.static ({ cls := "MasterPrices", name := "requireElement", desc := "(Z)V" } : Jvm.MethodName)) ∈ lw_all := lw_g (lw_at lw_m5 90 rfl) rfl
theorem q1143 : (Jvm.Cond.code ({ cls := "MasterPrices", name := "requireElement", desc := "(Z)V" } : Jvm.MethodName) prog_1_method_5_code (1 : Nat) (Option.none : Option Jvm.ClassFile.FieldType)) ∈ lw_all := lw_g (lw_at lw_m5 91 rfl) rfl
theorem q1144 : (Jvm.Cond.classLink "MasterPrices" (13 : Nat) "java/util/NoSuchElementException") ∈ lw_all := lw_g (lw_at lw_m5 92 rfl) rfl
theorem q1145 : (Jvm.Cond.methodLink "MasterPrices" (15 : Nat) ({ cls := "java/util/NoSuchElementException", name := "<init>", desc := "()V" } : Jvm.MethodName)) ∈ lw_all := lw_g (lw_at lw_m5 93 rfl) rfl
theorem q1146 : (Jvm.Cond.methodLink "MasterPrices" (195 : Nat) ({ cls := "MasterPrices$Town", name := "burden", desc := "(II)I" } : Jvm.MethodName)) ∈ lw_all := lw_g (lw_at lw_m5 94 rfl) rfl
theorem q1152 : (Jvm.Cond.instanceMethod ({ cls := "MasterPrices", name := "apprenticeOf", desc := "(II)I" } : Jvm.MethodName)) ∈ lw_all := lw_g (lw_at lw_m5 100 rfl) rfl
theorem q1153 : (Jvm.Cond.selects "MasterPrices" ({ cls := "MasterPrices", name := "apprenticeOf", desc := "(II)I" } : Jvm.MethodName) ({ cls := "MasterPrices", name := "apprenticeOf", desc := "(II)I" } : Jvm.MethodName)) ∈ lw_all := lw_g (lw_at lw_m5 101 rfl) rfl
theorem q1154 : (Jvm.Cond.code ({ cls := "MasterPrices", name := "apprenticeOf", desc := "(II)I" } : Jvm.MethodName) prog_1_method_28_code (3 : Nat) (Option.some Jvm.ClassFile.FieldType.int)) ∈ lw_all := lw_g (lw_at lw_m5 102 rfl) rfl
theorem q1155 : (Jvm.Cond.methodLink "MasterPrices" (212 : Nat) ({ cls := "MasterPrices$Town", name := "likes", desc := "(I)I" } : Jvm.MethodName)) ∈ lw_all := lw_g (lw_at lw_m5 103 rfl) rfl
theorem q1156 : (Jvm.Cond.methodLink "MasterPrices" (215 : Nat) ({ cls := "MasterPrices$Town", name := "moves", desc := "(I)I" } : Jvm.MethodName)) ∈ lw_all := lw_g (lw_at lw_m5 104 rfl) rfl
theorem q1157 : (Jvm.Cond.methodLink "MasterPrices" (218 : Nat) ({ cls := "MasterPrices$Town", name := "yearsOf", desc := "(I)I" } : Jvm.MethodName)) ∈ lw_all := lw_g (lw_at lw_m5 105 rfl) rfl
theorem q1164 : (Jvm.Cond.methodLink "MasterPrices" (221 : Nat) ({ cls := "MasterPrices$Town", name := "countMastersOf", desc := "(I)I" } : Jvm.MethodName)) ∈ lw_all := lw_g (lw_at lw_m5 112 rfl) rfl
theorem q1171 : (Jvm.Cond.methodLink "MasterPrices" (224 : Nat) ({ cls := "MasterPrices", name := "firstOf", desc := "(I)I" } : Jvm.MethodName)) ∈ lw_all := lw_g (lw_at lw_m5 119 rfl) rfl
theorem q1172 : (Jvm.Cond.privateMethod ({ cls := "MasterPrices", name := "firstOf", desc := "(I)I" } : Jvm.MethodName)) ∈ lw_tbl := lw_at lw_m5 120 rfl
theorem q1173 : (Jvm.Cond.instanceMethod ({ cls := "MasterPrices", name := "firstOf", desc := "(I)I" } : Jvm.MethodName)) ∈ lw_all := lw_g (lw_at lw_m5 121 rfl) rfl
theorem q1174 : (Jvm.Cond.code ({ cls := "MasterPrices", name := "firstOf", desc := "(I)I" } : Jvm.MethodName) prog_1_method_27_code (3 : Nat) (Option.some Jvm.ClassFile.FieldType.int)) ∈ lw_all := lw_g (lw_at lw_m5 122 rfl) rfl
theorem q1175 : (Jvm.Cond.methodLink "MasterPrices" (201 : Nat) ({ cls := "MasterPrices$Known", name := "isThere", desc := "()Z" } : Jvm.MethodName)) ∈ lw_all := lw_g (lw_at lw_m5 123 rfl) rfl
theorem q1176 : (Jvm.Cond.classLink "MasterPrices" (7 : Nat) "java/lang/IllegalArgumentException") ∈ lw_all := lw_g (lw_at lw_m5 124 rfl) rfl
theorem q1185 : (Jvm.Cond.methodLink "MasterPrices" (9 : Nat) ({ cls := "java/lang/IllegalArgumentException", name := "<init>", desc := "()V" } : Jvm.MethodName)) ∈ lw_all := lw_g (lw_at lw_m5 133 rfl) rfl
theorem q1195 : (Jvm.Cond.instanceMethod ({ cls := "MasterPrices", name := "masterOf", desc := "(II)I" } : Jvm.MethodName)) ∈ lw_all := lw_g (lw_at lw_m5 143 rfl) rfl
theorem q1196 : (Jvm.Cond.selects "MasterPrices" ({ cls := "MasterPrices", name := "masterOf", desc := "(II)I" } : Jvm.MethodName) ({ cls := "MasterPrices", name := "masterOf", desc := "(II)I" } : Jvm.MethodName)) ∈ lw_all := lw_g (lw_at lw_m5 144 rfl) rfl
theorem q1197 : (Jvm.Cond.code ({ cls := "MasterPrices", name := "masterOf", desc := "(II)I" } : Jvm.MethodName) prog_1_method_29_code (3 : Nat) (Option.some Jvm.ClassFile.FieldType.int)) ∈ lw_all := lw_g (lw_at lw_m5 145 rfl) rfl
theorem q1198 : (Jvm.Cond.methodLink "MasterPrices" (230 : Nat) ({ cls := "MasterPrices$Town", name := "apprenticeAt", desc := "(I)I" } : Jvm.MethodName)) ∈ lw_all := lw_g (lw_at lw_m5 146 rfl) rfl
theorem q1199 : (Jvm.Cond.methodLink "MasterPrices" (236 : Nat) ({ cls := "MasterPrices$Town", name := "yearsAt", desc := "(I)I" } : Jvm.MethodName)) ∈ lw_all := lw_g (lw_at lw_m5 147 rfl) rfl
theorem q1206 : (Jvm.Cond.methodLink "MasterPrices" (239 : Nat) ({ cls := "MasterPrices$Town", name := "countLiking", desc := "(I)I" } : Jvm.MethodName)) ∈ lw_all := lw_g (lw_at lw_m5 154 rfl) rfl
theorem q1214 : (Jvm.Cond.instanceMethod ({ cls := "MasterPrices", name := "served", desc := "(II)I" } : Jvm.MethodName)) ∈ lw_all := lw_g (lw_at lw_m5 162 rfl) rfl
theorem q1215 : (Jvm.Cond.selects "MasterPrices" ({ cls := "MasterPrices", name := "served", desc := "(II)I" } : Jvm.MethodName) ({ cls := "MasterPrices", name := "served", desc := "(II)I" } : Jvm.MethodName)) ∈ lw_all := lw_g (lw_at lw_m5 163 rfl) rfl
theorem q1216 : (Jvm.Cond.code ({ cls := "MasterPrices", name := "served", desc := "(II)I" } : Jvm.MethodName) prog_1_method_30_code (3 : Nat) (Option.some Jvm.ClassFile.FieldType.int)) ∈ lw_all := lw_g (lw_at lw_m5 164 rfl) rfl
theorem q1221 : (Jvm.Cond.instanceMethod ({ cls := "MasterPrices", name := "least", desc := "()I" } : Jvm.MethodName)) ∈ lw_all := lw_g (lw_at lw_m5 169 rfl) rfl
theorem q1222 : (Jvm.Cond.selects "MasterPrices" ({ cls := "MasterPrices", name := "least", desc := "()I" } : Jvm.MethodName) ({ cls := "MasterPrices", name := "least", desc := "()I" } : Jvm.MethodName)) ∈ lw_all := lw_g (lw_at lw_m5 170 rfl) rfl
theorem q1223 : (Jvm.Cond.code ({ cls := "MasterPrices", name := "least", desc := "()I" } : Jvm.MethodName) prog_1_method_31_code (1 : Nat) (Option.some Jvm.ClassFile.FieldType.int)) ∈ lw_all := lw_g (lw_at lw_m5 171 rfl) rfl
theorem q1224 : (Jvm.Cond.methodLink "MasterPrices" (245 : Nat) ({ cls := "MasterPrices$Town", name := "least", desc := "()I" } : Jvm.MethodName)) ∈ lw_all := lw_g (lw_at lw_m5 172 rfl) rfl
theorem q1225 : (Jvm.Cond.methodLink "MasterPrices" (248 : Nat) ({ cls := "MasterPrices", name := "existingCost", desc := "(I)I" } : Jvm.MethodName)) ∈ lw_all := lw_g (lw_at lw_m5 173 rfl) rfl
theorem q1226 : (Jvm.Cond.static ({ cls := "MasterPrices", name := "existingCost", desc := "(I)I" } : Jvm.MethodName)) ∈ lw_all := lw_g (lw_at lw_m5 174 rfl) rfl
theorem q1227 : (Jvm.Cond.code ({ cls := "MasterPrices", name := "existingCost", desc := "(I)I" } : Jvm.MethodName) prog_1_method_8_code (1 : Nat) (Option.some Jvm.ClassFile.FieldType.int)) ∈ lw_all := lw_g (lw_at lw_m5 175 rfl) rfl
theorem q1228 : (Jvm.Cond.constant "MasterPrices" (25 : Nat) (1000000 : Int32)) ∈ lw_all := lw_g (lw_at lw_m5 176 rfl) rfl
theorem q1233 : (Jvm.Cond.instanceMethod ({ cls := "MasterPrices", name := "leastAgain", desc := "()I" } : Jvm.MethodName)) ∈ lw_all := lw_g (lw_at lw_m5 181 rfl) rfl
theorem q1234 : (Jvm.Cond.selects "MasterPrices" ({ cls := "MasterPrices", name := "leastAgain", desc := "()I" } : Jvm.MethodName) ({ cls := "MasterPrices", name := "leastAgain", desc := "()I" } : Jvm.MethodName)) ∈ lw_all := lw_g (lw_at lw_m5 182 rfl) rfl
theorem q1235 : (Jvm.Cond.code ({ cls := "MasterPrices", name := "leastAgain", desc := "()I" } : Jvm.MethodName) prog_1_method_32_code (1 : Nat) (Option.some Jvm.ClassFile.FieldType.int)) ∈ lw_all := lw_g (lw_at lw_m5 183 rfl) rfl
theorem q1240 : (Jvm.Cond.instanceMethod ({ cls := "MasterPrices", name := "with", desc := "(II)I" } : Jvm.MethodName)) ∈ lw_all := lw_g (lw_at lw_m5 188 rfl) rfl
theorem q1241 : (Jvm.Cond.selects "MasterPrices" ({ cls := "MasterPrices", name := "with", desc := "(II)I" } : Jvm.MethodName) ({ cls := "MasterPrices", name := "with", desc := "(II)I" } : Jvm.MethodName)) ∈ lw_all := lw_g (lw_at lw_m5 189 rfl) rfl
theorem q1242 : (Jvm.Cond.code ({ cls := "MasterPrices", name := "with", desc := "(II)I" } : Jvm.MethodName) prog_1_method_33_code (3 : Nat) (Option.some Jvm.ClassFile.FieldType.int)) ∈ lw_all := lw_g (lw_at lw_m5 190 rfl) rfl
theorem q1247 : (Jvm.Cond.instanceMethod ({ cls := "MasterPrices", name := "isNeeded", desc := "(II)Z" } : Jvm.MethodName)) ∈ lw_all := lw_g (lw_at lw_m5 195 rfl) rfl
theorem q1248 : (Jvm.Cond.selects "MasterPrices" ({ cls := "MasterPrices", name := "isNeeded", desc := "(II)Z" } : Jvm.MethodName) ({ cls := "MasterPrices", name := "isNeeded", desc := "(II)Z" } : Jvm.MethodName)) ∈ lw_all := lw_g (lw_at lw_m5 196 rfl) rfl
theorem q1249 : (Jvm.Cond.code ({ cls := "MasterPrices", name := "isNeeded", desc := "(II)Z" } : Jvm.MethodName) prog_1_method_34_code (4 : Nat) (Option.some Jvm.ClassFile.FieldType.boolean)) ∈ lw_all := lw_g (lw_at lw_m5 197 rfl) rfl
theorem q1254 : (Jvm.Cond.instanceMethod ({ cls := "MasterPrices", name := "wouldBid", desc := "()I" } : Jvm.MethodName)) ∈ lw_all := lw_g (lw_at lw_m5 202 rfl) rfl
theorem q1255 : (Jvm.Cond.selects "MasterPrices" ({ cls := "MasterPrices", name := "wouldBid", desc := "()I" } : Jvm.MethodName) ({ cls := "MasterPrices", name := "wouldBid", desc := "()I" } : Jvm.MethodName)) ∈ lw_all := lw_g (lw_at lw_m5 203 rfl) rfl
theorem q1256 : (Jvm.Cond.code ({ cls := "MasterPrices", name := "wouldBid", desc := "()I" } : Jvm.MethodName) prog_1_method_36_code (1 : Nat) (Option.some Jvm.ClassFile.FieldType.int)) ∈ lw_all := lw_g (lw_at lw_m5 204 rfl) rfl
theorem q1257 : (Jvm.Cond.methodLink "MasterPrices" (262 : Nat) ({ cls := "MasterPrices$Town", name := "wouldBid", desc := "()I" } : Jvm.MethodName)) ∈ lw_all := lw_g (lw_at lw_m5 205 rfl) rfl
theorem q1261 : (Jvm.Cond.methodLink "MasterPrices" (265 : Nat) ({ cls := "MasterPrices", name := "existing", desc := "(I)I" } : Jvm.MethodName)) ∈ lw_all := lw_g (lw_at lw_m5 209 rfl) rfl
theorem q1262 : (Jvm.Cond.static ({ cls := "MasterPrices", name := "existing", desc := "(I)I" } : Jvm.MethodName)) ∈ lw_all := lw_g (lw_at lw_m5 210 rfl) rfl
theorem q1263 : (Jvm.Cond.code ({ cls := "MasterPrices", name := "existing", desc := "(I)I" } : Jvm.MethodName) prog_1_method_7_code (1 : Nat) (Option.some Jvm.ClassFile.FieldType.int)) ∈ lw_all := lw_g (lw_at lw_m5 211 rfl) rfl
theorem q1268 : (Jvm.Cond.instanceMethod ({ cls := "MasterPrices", name := "chain", desc := "(I)I" } : Jvm.MethodName)) ∈ lw_all := lw_g (lw_at lw_m5 216 rfl) rfl
theorem q1269 : (Jvm.Cond.selects "MasterPrices" ({ cls := "MasterPrices", name := "chain", desc := "(I)I" } : Jvm.MethodName) ({ cls := "MasterPrices", name := "chain", desc := "(I)I" } : Jvm.MethodName)) ∈ lw_all := lw_g (lw_at lw_m5 217 rfl) rfl
theorem q1270 : (Jvm.Cond.code ({ cls := "MasterPrices", name := "chain", desc := "(I)I" } : Jvm.MethodName) prog_1_method_37_code (3 : Nat) (Option.some Jvm.ClassFile.FieldType.int)) ∈ lw_all := lw_g (lw_at lw_m5 218 rfl) rfl
theorem q1271 : (Jvm.Cond.methodLink "MasterPrices" (268 : Nat) ({ cls := "MasterPrices$Town", name := "chain", desc := "()Ljava/util/List;" } : Jvm.MethodName)) ∈ lw_all := lw_g (lw_at lw_m5 219 rfl) rfl
theorem q1348 : (Jvm.Cond.interfaceEntry "MasterPrices" (272 : Nat)) ∈ lw_tbl := lw_at lw_m6 56 rfl
theorem q1349 : (Jvm.Cond.methodLink "MasterPrices" (272 : Nat) ({ cls := "java/util/List", name := "size", desc := "()I" } : Jvm.MethodName)) ∈ lw_all := lw_g (lw_at lw_m6 57 rfl) rfl
theorem q1357 : (Jvm.Cond.interfaceEntry "MasterPrices" (275 : Nat)) ∈ lw_tbl := lw_at lw_m6 65 rfl
theorem q1358 : (Jvm.Cond.methodLink "MasterPrices" (275 : Nat) ({ cls := "java/util/List", name := "get", desc := "(I)Ljava/lang/Object;" } : Jvm.MethodName)) ∈ lw_all := lw_g (lw_at lw_m6 66 rfl) rfl
theorem q1374 : (Jvm.Cond.classLink "MasterPrices" (279 : Nat) "java/lang/Integer") ∈ lw_all := lw_g (lw_at lw_m6 82 rfl) rfl
theorem q1375 : (Jvm.Cond.methodLink "MasterPrices" (281 : Nat) ({ cls := "java/lang/Integer", name := "intValue", desc := "()I" } : Jvm.MethodName)) ∈ lw_all := lw_g (lw_at lw_m6 83 rfl) rfl
theorem q1383 : (Jvm.Cond.instanceMethod ({ cls := "MasterPrices", name := "ranked", desc := "(II)I" } : Jvm.MethodName)) ∈ lw_all := lw_g (lw_at lw_m6 91 rfl) rfl
theorem q1384 : (Jvm.Cond.selects "MasterPrices" ({ cls := "MasterPrices", name := "ranked", desc := "(II)I" } : Jvm.MethodName) ({ cls := "MasterPrices", name := "ranked", desc := "(II)I" } : Jvm.MethodName)) ∈ lw_all := lw_g (lw_at lw_m6 92 rfl) rfl
theorem q1385 : (Jvm.Cond.code ({ cls := "MasterPrices", name := "ranked", desc := "(II)I" } : Jvm.MethodName) prog_1_method_38_code (3 : Nat) (Option.some Jvm.ClassFile.FieldType.int)) ∈ lw_all := lw_g (lw_at lw_m6 93 rfl) rfl
theorem q1386 : (Jvm.Cond.methodLink "MasterPrices" (284 : Nat) ({ cls := "MasterPrices$Kind", name := "values", desc := "()[LMasterPrices$Kind;" } : Jvm.MethodName)) ∈ lw_all := lw_g (lw_at lw_m6 94 rfl) rfl
theorem q1397 : (Jvm.Cond.methodLink "MasterPrices" (290 : Nat) ({ cls := "MasterPrices", name := "require", desc := "(Z)V" } : Jvm.MethodName)) ∈ lw_all := lw_g (lw_at lw_m6 105 rfl) rfl
theorem q1398 : (Jvm.Cond.static ({ cls := "MasterPrices", name := "require", desc := "(Z)V" } : Jvm.MethodName)) ∈ lw_all := lw_g (lw_at lw_m6 106 rfl) rfl
theorem q1399 : (Jvm.Cond.code ({ cls := "MasterPrices", name := "require", desc := "(Z)V" } : Jvm.MethodName) prog_1_method_3_code (1 : Nat) (Option.none : Option Jvm.ClassFile.FieldType)) ∈ lw_all := lw_g (lw_at lw_m6 107 rfl) rfl
theorem q1400 : (Jvm.Cond.methodLink "MasterPrices" (293 : Nat) ({ cls := "MasterPrices$Town", name := "ranked", desc := "(LMasterPrices$Kind;I)I" } : Jvm.MethodName)) ∈ lw_all := lw_g (lw_at lw_m6 108 rfl) rfl
theorem q1424 : (Jvm.Cond.instanceMethod ({ cls := "MasterPrices", name := "feed", desc := "(C)I" } : Jvm.MethodName)) ∈ lw_all := lw_g (lw_at lw_m6 132 rfl) rfl
theorem q1425 : (Jvm.Cond.selects "MasterPrices" ({ cls := "MasterPrices", name := "feed", desc := "(C)I" } : Jvm.MethodName) ({ cls := "MasterPrices", name := "feed", desc := "(C)I" } : Jvm.MethodName)) ∈ lw_all := lw_g (lw_at lw_m6 133 rfl) rfl
theorem q1426 : (Jvm.Cond.code ({ cls := "MasterPrices", name := "feed", desc := "(C)I" } : Jvm.MethodName) prog_1_method_39_code (2 : Nat) (Option.some Jvm.ClassFile.FieldType.int)) ∈ lw_all := lw_g (lw_at lw_m6 134 rfl) rfl
theorem q1427 : (Jvm.Cond.methodLink "MasterPrices" (297 : Nat) ({ cls := "java/lang/StringBuilder", name := "length", desc := "()I" } : Jvm.MethodName)) ∈ lw_all := lw_g (lw_at lw_m6 135 rfl) rfl
theorem q1428 : (Jvm.Cond.methodLink "MasterPrices" (300 : Nat) ({ cls := "MasterPrices", name := "requireState", desc := "(Z)V" } : Jvm.MethodName)) ∈ lw_all := lw_g (lw_at lw_m6 136 rfl) rfl
theorem q1429 : (Jvm.Cond.static ({ cls := "MasterPrices", name := "requireState", desc := "(Z)V" } : Jvm.MethodName)) ∈ lw_all := lw_g (lw_at lw_m6 137 rfl) rfl
theorem q1430 : (Jvm.Cond.code ({ cls := "MasterPrices", name := "requireState", desc := "(Z)V" } : Jvm.MethodName) prog_1_method_4_code (1 : Nat) (Option.none : Option Jvm.ClassFile.FieldType)) ∈ lw_all := lw_g (lw_at lw_m6 138 rfl) rfl
theorem q1431 : (Jvm.Cond.classLink "MasterPrices" (10 : Nat) "java/lang/IllegalStateException") ∈ lw_all := lw_g (lw_at lw_m6 139 rfl) rfl
theorem q1432 : (Jvm.Cond.methodLink "MasterPrices" (12 : Nat) ({ cls := "java/lang/IllegalStateException", name := "<init>", desc := "()V" } : Jvm.MethodName)) ∈ lw_all := lw_g (lw_at lw_m6 140 rfl) rfl
theorem q1436 : (Jvm.Cond.methodLink "MasterPrices" (303 : Nat) ({ cls := "java/lang/StringBuilder", name := "append", desc := "(C)Ljava/lang/StringBuilder;" } : Jvm.MethodName)) ∈ lw_all := lw_g (lw_at lw_m6 144 rfl) rfl
theorem q1441 : (Jvm.Cond.instanceMethod ({ cls := "MasterPrices", name := "run", desc := "()I" } : Jvm.MethodName)) ∈ lw_all := lw_g (lw_at lw_m6 149 rfl) rfl
theorem q1442 : (Jvm.Cond.selects "MasterPrices" ({ cls := "MasterPrices", name := "run", desc := "()I" } : Jvm.MethodName) ({ cls := "MasterPrices", name := "run", desc := "()I" } : Jvm.MethodName)) ∈ lw_all := lw_g (lw_at lw_m6 150 rfl) rfl
theorem q1443 : (Jvm.Cond.codeWith ({ cls := "MasterPrices", name := "run", desc := "()I" } : Jvm.MethodName) prog_1_method_41_code (5 : Nat) (Option.some Jvm.ClassFile.FieldType.int) [((19 : Nat), (51 : Nat), (54 : Nat), (26 : Nat))]) ∈ lw_all := lw_g (lw_at lw_m6 151 rfl) rfl
theorem q1444 : (Jvm.Cond.methodLink "MasterPrices" (327 : Nat) ({ cls := "MasterPrices", name := "readOrders", desc := "()Ljava/util/List;" } : Jvm.MethodName)) ∈ lw_all := lw_g (lw_at lw_m6 152 rfl) rfl
theorem q1445 : (Jvm.Cond.privateMethod ({ cls := "MasterPrices", name := "readOrders", desc := "()Ljava/util/List;" } : Jvm.MethodName)) ∈ lw_tbl := lw_at lw_m6 153 rfl
theorem q1446 : (Jvm.Cond.instanceMethod ({ cls := "MasterPrices", name := "readOrders", desc := "()Ljava/util/List;" } : Jvm.MethodName)) ∈ lw_all := lw_g (lw_at lw_m6 154 rfl) rfl
theorem q1447 : (Jvm.Cond.codeWith ({ cls := "MasterPrices", name := "readOrders", desc := "()Ljava/util/List;" } : Jvm.MethodName) prog_1_method_40_code (3 : Nat) (Option.some (Jvm.ClassFile.FieldType.object "java/util/List")) [((23 : Nat), (27 : Nat), (28 : Nat), (322 : Nat))]) ∈ lw_all := lw_g (lw_at lw_m6 155 rfl) rfl
theorem q1448 : (Jvm.Cond.classLink "MasterPrices" (322 : Nat) "MasterPrices$TextException") ∈ lw_all := lw_g (lw_at lw_m6 156 rfl) rfl
theorem q1449 : (Jvm.Cond.classLink "MasterPrices" (307 : Nat) "MasterPrices$Reader") ∈ lw_all := lw_g (lw_at lw_m6 157 rfl) rfl
theorem q1451 : (Jvm.Cond.methodLink "MasterPrices" (309 : Nat) ({ cls := "java/lang/StringBuilder", name := "toString", desc := "()Ljava/lang/String;" } : Jvm.MethodName)) ∈ lw_all := lw_g (lw_at lw_m6 159 rfl) rfl
theorem q1510 : (Jvm.Cond.methodLink "MasterPrices" (313 : Nat) ({ cls := "MasterPrices$Reader", name := "<init>", desc := "(Ljava/lang/String;)V" } : Jvm.MethodName)) ∈ lw_all := lw_g (lw_at lw_m6 218 rfl) rfl
theorem q1521 : (Jvm.Cond.methodLink "MasterPrices" (316 : Nat) ({ cls := "java/lang/StringBuilder", name := "setLength", desc := "(I)V" } : Jvm.MethodName)) ∈ lw_all := lw_g (lw_at lw_m6 229 rfl) rfl
theorem q1573 : (Jvm.Cond.methodLink "MasterPrices" (319 : Nat) ({ cls := "MasterPrices$Reader", name := "whole", desc := "()Ljava/util/List;" } : Jvm.MethodName)) ∈ lw_all := lw_g (lw_at lw_m7 41 rfl) rfl
theorem q1636 : (Jvm.Cond.fieldLinkNest "MasterPrices" (324 : Nat) "MasterPrices$TextException" "position" "I" "MasterPrices") ∈ lw_tbl := lw_at lw_m7 104 rfl
theorem q1676 : (Jvm.Cond.classLink "MasterPrices" (330 : Nat) "MasterPrices$Order") ∈ lw_all := lw_g (lw_at lw_m7 144 rfl) rfl
theorem q1677 : (Jvm.Cond.methodLink "MasterPrices" (332 : Nat) ({ cls := "MasterPrices$Refused", name := "<init>", desc := "(IILMasterPrices$Refused;)V" } : Jvm.MethodName)) ∈ lw_all := lw_g (lw_at lw_m7 145 rfl) rfl
theorem q1682 : (Jvm.Cond.instanceMethod ({ cls := "MasterPrices", name := "faultPosition", desc := "()I" } : Jvm.MethodName)) ∈ lw_all := lw_g (lw_at lw_m7 150 rfl) rfl
theorem q1683 : (Jvm.Cond.selects "MasterPrices" ({ cls := "MasterPrices", name := "faultPosition", desc := "()I" } : Jvm.MethodName) ({ cls := "MasterPrices", name := "faultPosition", desc := "()I" } : Jvm.MethodName)) ∈ lw_all := lw_g (lw_at lw_m7 151 rfl) rfl
theorem q1684 : (Jvm.Cond.code ({ cls := "MasterPrices", name := "faultPosition", desc := "()I" } : Jvm.MethodName) prog_1_method_42_code (1 : Nat) (Option.some Jvm.ClassFile.FieldType.int)) ∈ lw_all := lw_g (lw_at lw_m7 152 rfl) rfl
theorem q1689 : (Jvm.Cond.instanceMethod ({ cls := "MasterPrices", name := "reason", desc := "(ZZ)I" } : Jvm.MethodName)) ∈ lw_all := lw_g (lw_at lw_m7 157 rfl) rfl
theorem q1690 : (Jvm.Cond.selects "MasterPrices" ({ cls := "MasterPrices", name := "reason", desc := "(ZZ)I" } : Jvm.MethodName) ({ cls := "MasterPrices", name := "reason", desc := "(ZZ)I" } : Jvm.MethodName)) ∈ lw_all := lw_g (lw_at lw_m7 158 rfl) rfl
theorem q1691 : (Jvm.Cond.code ({ cls := "MasterPrices", name := "reason", desc := "(ZZ)I" } : Jvm.MethodName) prog_1_method_43_code (4 : Nat) (Option.some Jvm.ClassFile.FieldType.int)) ∈ lw_all := lw_g (lw_at lw_m7 159 rfl) rfl
theorem q1696 : (Jvm.Cond.instanceMethod ({ cls := "MasterPrices", name := "line", desc := "(I)I" } : Jvm.MethodName)) ∈ lw_all := lw_g (lw_at lw_m7 164 rfl) rfl
theorem q1697 : (Jvm.Cond.selects "MasterPrices" ({ cls := "MasterPrices", name := "line", desc := "(I)I" } : Jvm.MethodName) ({ cls := "MasterPrices", name := "line", desc := "(I)I" } : Jvm.MethodName)) ∈ lw_all := lw_g (lw_at lw_m7 165 rfl) rfl
theorem q1698 : (Jvm.Cond.code ({ cls := "MasterPrices", name := "line", desc := "(I)I" } : Jvm.MethodName) prog_1_method_45_code (2 : Nat) (Option.some Jvm.ClassFile.FieldType.int)) ∈ lw_all := lw_g (lw_at lw_m7 166 rfl) rfl
theorem q1699 : (Jvm.Cond.methodLink "MasterPrices" (347 : Nat) ({ cls := "MasterPrices$Town", name := "line", desc := "(I)Ljava/lang/CharSequence;" } : Jvm.MethodName)) ∈ lw_all := lw_g (lw_at lw_m7 167 rfl) rfl
theorem q1730 : (Jvm.Cond.instanceMethod ({ cls := "MasterPrices", name := "character", desc := "(I)C" } : Jvm.MethodName)) ∈ lw_all := lw_g (lw_at lw_m7 198 rfl) rfl
theorem q1731 : (Jvm.Cond.selects "MasterPrices" ({ cls := "MasterPrices", name := "character", desc := "(I)C" } : Jvm.MethodName) ({ cls := "MasterPrices", name := "character", desc := "(I)C" } : Jvm.MethodName)) ∈ lw_all := lw_g (lw_at lw_m7 199 rfl) rfl
theorem q1732 : (Jvm.Cond.code ({ cls := "MasterPrices", name := "character", desc := "(I)C" } : Jvm.MethodName) prog_1_method_47_code (2 : Nat) (Option.some Jvm.ClassFile.FieldType.char)) ∈ lw_all := lw_g (lw_at lw_m7 200 rfl) rfl
theorem q1733 : (Jvm.Cond.interfaceEntry "MasterPrices" (357 : Nat)) ∈ lw_tbl := lw_at lw_m7 201 rfl
theorem q1734 : (Jvm.Cond.methodLink "MasterPrices" (357 : Nat) ({ cls := "java/lang/CharSequence", name := "charAt", desc := "(I)C" } : Jvm.MethodName)) ∈ lw_all := lw_g (lw_at lw_m7 202 rfl) rfl
theorem q1769 : (Jvm.Cond.instanceMethod ({ cls := "MasterPrices", name := "meanPrice", desc := "()D" } : Jvm.MethodName)) ∈ lw_all := lw_g (lw_at lw_m7 237 rfl) rfl
theorem q1770 : (Jvm.Cond.selects "MasterPrices" ({ cls := "MasterPrices", name := "meanPrice", desc := "()D" } : Jvm.MethodName) ({ cls := "MasterPrices", name := "meanPrice", desc := "()D" } : Jvm.MethodName)) ∈ lw_all := lw_g (lw_at lw_m7 238 rfl) rfl
theorem q1771 : (Jvm.Cond.code ({ cls := "MasterPrices", name := "meanPrice", desc := "()D" } : Jvm.MethodName) prog_1_method_48_code (1 : Nat) (Option.some Jvm.ClassFile.FieldType.double)) ∈ lw_all := lw_g (lw_at lw_m7 239 rfl) rfl
theorem q1772 : (Jvm.Cond.methodLink "MasterPrices" (361 : Nat) ({ cls := "MasterPrices", name := "requireSome", desc := "(I)V" } : Jvm.MethodName)) ∈ lw_all := lw_g (lw_at lw_m8 0 rfl) rfl
theorem q1773 : (Jvm.Cond.static ({ cls := "MasterPrices", name := "requireSome", desc := "(I)V" } : Jvm.MethodName)) ∈ lw_all := lw_g (lw_at lw_m8 1 rfl) rfl
theorem q1774 : (Jvm.Cond.code ({ cls := "MasterPrices", name := "requireSome", desc := "(I)V" } : Jvm.MethodName) prog_1_method_6_code (1 : Nat) (Option.none : Option Jvm.ClassFile.FieldType)) ∈ lw_all := lw_g (lw_at lw_m8 2 rfl) rfl
theorem q1775 : (Jvm.Cond.classLink "MasterPrices" (16 : Nat) "java/lang/ArithmeticException") ∈ lw_all := lw_g (lw_at lw_m8 3 rfl) rfl
theorem q1776 : (Jvm.Cond.methodLink "MasterPrices" (18 : Nat) ({ cls := "java/lang/ArithmeticException", name := "<init>", desc := "()V" } : Jvm.MethodName)) ∈ lw_all := lw_g (lw_at lw_m8 4 rfl) rfl
theorem q1780 : (Jvm.Cond.methodLink "MasterPrices" (364 : Nat) ({ cls := "MasterPrices$Town", name := "sumOf", desc := "([I)I" } : Jvm.MethodName)) ∈ lw_all := lw_g (lw_at lw_m8 8 rfl) rfl
theorem q1788 : (Jvm.Cond.instanceMethod ({ cls := "MasterPrices", name := "likedShare", desc := "()F" } : Jvm.MethodName)) ∈ lw_all := lw_g (lw_at lw_m8 16 rfl) rfl
theorem q1789 : (Jvm.Cond.selects "MasterPrices" ({ cls := "MasterPrices", name := "likedShare", desc := "()F" } : Jvm.MethodName) ({ cls := "MasterPrices", name := "likedShare", desc := "()F" } : Jvm.MethodName)) ∈ lw_all := lw_g (lw_at lw_m8 17 rfl) rfl
theorem q1790 : (Jvm.Cond.code ({ cls := "MasterPrices", name := "likedShare", desc := "()F" } : Jvm.MethodName) prog_1_method_49_code (1 : Nat) (Option.some Jvm.ClassFile.FieldType.float)) ∈ lw_all := lw_g (lw_at lw_m8 18 rfl) rfl
theorem q1791 : (Jvm.Cond.methodLink "MasterPrices" (368 : Nat) ({ cls := "MasterPrices$Town", name := "countLiked", desc := "()I" } : Jvm.MethodName)) ∈ lw_all := lw_g (lw_at lw_m8 19 rfl) rfl
theorem q1799 : (Jvm.Cond.instanceMethod ({ cls := "MasterPrices", name := "account", desc := "(I)I" } : Jvm.MethodName)) ∈ lw_all := lw_g (lw_at lw_m8 27 rfl) rfl
theorem q1800 : (Jvm.Cond.selects "MasterPrices" ({ cls := "MasterPrices", name := "account", desc := "(I)I" } : Jvm.MethodName) ({ cls := "MasterPrices", name := "account", desc := "(I)I" } : Jvm.MethodName)) ∈ lw_all := lw_g (lw_at lw_m8 28 rfl) rfl
theorem q1801 : (Jvm.Cond.code ({ cls := "MasterPrices", name := "account", desc := "(I)I" } : Jvm.MethodName) prog_1_method_50_code (2 : Nat) (Option.some Jvm.ClassFile.FieldType.int)) ∈ lw_all := lw_g (lw_at lw_m8 29 rfl) rfl
theorem q1802 : (Jvm.Cond.methodLink "MasterPrices" (374 : Nat) ({ cls := "MasterPrices$Town", name := "costOfPairs", desc := "()I" } : Jvm.MethodName)) ∈ lw_all := lw_g (lw_at lw_m8 30 rfl) rfl
theorem q1803 : (Jvm.Cond.methodLink "MasterPrices" (377 : Nat) ({ cls := "MasterPrices$Town", name := "countBarred", desc := "()I" } : Jvm.MethodName)) ∈ lw_all := lw_g (lw_at lw_m8 31 rfl) rfl
theorem q1814 : (Jvm.Cond.instanceMethod ({ cls := "MasterPrices", name := "undo", desc := "()I" } : Jvm.MethodName)) ∈ lw_all := lw_g (lw_at lw_m8 42 rfl) rfl
theorem q1815 : (Jvm.Cond.selects "MasterPrices" ({ cls := "MasterPrices", name := "undo", desc := "()I" } : Jvm.MethodName) ({ cls := "MasterPrices", name := "undo", desc := "()I" } : Jvm.MethodName)) ∈ lw_all := lw_g (lw_at lw_m8 43 rfl) rfl
theorem q1816 : (Jvm.Cond.code ({ cls := "MasterPrices", name := "undo", desc := "()I" } : Jvm.MethodName) prog_1_method_52_code (1 : Nat) (Option.some Jvm.ClassFile.FieldType.int)) ∈ lw_all := lw_g (lw_at lw_m8 44 rfl) rfl
theorem q1817 : (Jvm.Cond.interfaceEntry "MasterPrices" (398 : Nat)) ∈ lw_tbl := lw_at lw_m8 45 rfl
theorem q1825 : (Jvm.Cond.interfaceEntry "MasterPrices" (401 : Nat)) ∈ lw_tbl := lw_at lw_m8 53 rfl
theorem q1826 : (Jvm.Cond.methodLink "MasterPrices" (401 : Nat) ({ cls := "java/util/Deque", name := "removeLast", desc := "()Ljava/lang/Object;" } : Jvm.MethodName)) ∈ lw_all := lw_g (lw_at lw_m8 54 rfl) rfl
theorem q1845 : (Jvm.Cond.instanceMethod ({ cls := "MasterPrices", name := "restore", desc := "()I" } : Jvm.MethodName)) ∈ lw_all := lw_g (lw_at lw_m8 73 rfl) rfl
theorem q1846 : (Jvm.Cond.selects "MasterPrices" ({ cls := "MasterPrices", name := "restore", desc := "()I" } : Jvm.MethodName) ({ cls := "MasterPrices", name := "restore", desc := "()I" } : Jvm.MethodName)) ∈ lw_all := lw_g (lw_at lw_m8 74 rfl) rfl
theorem q1847 : (Jvm.Cond.code ({ cls := "MasterPrices", name := "restore", desc := "()I" } : Jvm.MethodName) prog_1_method_54_code (1 : Nat) (Option.some Jvm.ClassFile.FieldType.int)) ∈ lw_all := lw_g (lw_at lw_m8 75 rfl) rfl
theorem q1848 : (Jvm.Cond.interfaceEntry "MasterPrices" (407 : Nat)) ∈ lw_tbl := lw_at lw_m8 76 rfl
theorem q2324 : (Jvm.Cond.castable "MasterPrices" "java/lang/Object") ∈ lw_tbl := lw_at lw_m10 72 rfl
abbrev cX0_apprentice : ByteArray := method_3_code
def yX0_apprentice : MethodName := ⟨RX0, "apprentice", "(LMasterPrices;[J)I"⟩
def dkwX0_apprentice_0 : List UInt8 := [43, 3, 42, 182, 0, 7, 133, 80, 167, 0, 6, 77, 4, 172, 3, 172]
abbrev dktX0_apprentice_0 : List UInt8 := dkwX0_apprentice_0 ++ []
theorem dksX0_apprentice_0 : cX0_apprentice.data.toList.drop 0 = dktX0_apprentice_0 := by decide +kernel
theorem dX0_apprentice_0 : decode cX0_apprentice 0 = .ok (.aload_n 1, 1) := dk_43 (dk_at dksX0_apprentice_0 0 rfl rfl)
theorem dX0_apprentice_1 : decode cX0_apprentice 1 = .ok (.iconst 0, 1) := dk_3 (dk_at dksX0_apprentice_0 1 rfl rfl)
theorem dX0_apprentice_2 : decode cX0_apprentice 2 = .ok (.aload_n 0, 1) := dk_42 (dk_at dksX0_apprentice_0 2 rfl rfl)
theorem dX0_apprentice_3 : decode cX0_apprentice 3 = .ok (.invokevirtual 7, 3) := dk_182 0 7 (dk_at dksX0_apprentice_0 3 rfl rfl)
theorem dX0_apprentice_6 : decode cX0_apprentice 6 = .ok (.i2l, 1) := dk_133 (dk_at dksX0_apprentice_0 6 rfl rfl)
theorem dX0_apprentice_7 : decode cX0_apprentice 7 = .ok (.lastore, 1) := dk_80 (dk_at dksX0_apprentice_0 7 rfl rfl)
theorem dX0_apprentice_8 : decode cX0_apprentice 8 = .ok (.goto 6, 3) := dk_167 0 6 (dk_at dksX0_apprentice_0 8 rfl rfl)
theorem dX0_apprentice_11 : decode cX0_apprentice 11 = .ok (.astore_n 2, 1) := dk_77 (dk_at dksX0_apprentice_0 11 rfl rfl)
theorem dX0_apprentice_12 : decode cX0_apprentice 12 = .ok (.iconst 1, 1) := dk_4 (dk_at dksX0_apprentice_0 12 rfl rfl)
theorem dX0_apprentice_13 : decode cX0_apprentice 13 = .ok (.ireturn, 1) := dk_172 (dk_at dksX0_apprentice_0 13 rfl rfl)
theorem dX0_apprentice_14 : decode cX0_apprentice 14 = .ok (.iconst 0, 1) := dk_3 (dk_at dksX0_apprentice_0 14 rfl rfl)
theorem dX0_apprentice_15 : decode cX0_apprentice 15 = .ok (.ireturn, 1) := dk_172 (dk_at dksX0_apprentice_0 15 rfl rfl)
abbrev cX0_master : ByteArray := method_4_code
def yX0_master : MethodName := ⟨RX0, "master", "(LMasterPrices;[J)I"⟩
def dkwX0_master_0 : List UInt8 := [43, 3, 42, 182, 0, 15, 133, 80, 167, 0, 6, 77, 4, 172, 3, 172]
abbrev dktX0_master_0 : List UInt8 := dkwX0_master_0 ++ []
theorem dksX0_master_0 : cX0_master.data.toList.drop 0 = dktX0_master_0 := by decide +kernel
theorem dX0_master_0 : decode cX0_master 0 = .ok (.aload_n 1, 1) := dk_43 (dk_at dksX0_master_0 0 rfl rfl)
theorem dX0_master_1 : decode cX0_master 1 = .ok (.iconst 0, 1) := dk_3 (dk_at dksX0_master_0 1 rfl rfl)
theorem dX0_master_2 : decode cX0_master 2 = .ok (.aload_n 0, 1) := dk_42 (dk_at dksX0_master_0 2 rfl rfl)
theorem dX0_master_3 : decode cX0_master 3 = .ok (.invokevirtual 15, 3) := dk_182 0 15 (dk_at dksX0_master_0 3 rfl rfl)
theorem dX0_master_6 : decode cX0_master 6 = .ok (.i2l, 1) := dk_133 (dk_at dksX0_master_0 6 rfl rfl)
theorem dX0_master_7 : decode cX0_master 7 = .ok (.lastore, 1) := dk_80 (dk_at dksX0_master_0 7 rfl rfl)
theorem dX0_master_8 : decode cX0_master 8 = .ok (.goto 6, 3) := dk_167 0 6 (dk_at dksX0_master_0 8 rfl rfl)
theorem dX0_master_11 : decode cX0_master 11 = .ok (.astore_n 2, 1) := dk_77 (dk_at dksX0_master_0 11 rfl rfl)
theorem dX0_master_12 : decode cX0_master 12 = .ok (.iconst 1, 1) := dk_4 (dk_at dksX0_master_0 12 rfl rfl)
theorem dX0_master_13 : decode cX0_master 13 = .ok (.ireturn, 1) := dk_172 (dk_at dksX0_master_0 13 rfl rfl)
theorem dX0_master_14 : decode cX0_master 14 = .ok (.iconst 0, 1) := dk_3 (dk_at dksX0_master_0 14 rfl rfl)
theorem dX0_master_15 : decode cX0_master 15 = .ok (.ireturn, 1) := dk_172 (dk_at dksX0_master_0 15 rfl rfl)
abbrev cX0_cost : ByteArray := method_5_code
def yX0_cost : MethodName := ⟨RX0, "cost", "(LMasterPrices;III[J)I"⟩
def dkwX0_cost_0 : List UInt8 := [25, 4, 3, 42, 27, 28, 29, 182, 0, 18, 133, 80, 167, 0, 7, 58, 5, 4, 172, 3, 172]
abbrev dktX0_cost_0 : List UInt8 := dkwX0_cost_0 ++ []
theorem dksX0_cost_0 : cX0_cost.data.toList.drop 0 = dktX0_cost_0 := by decide +kernel
theorem dX0_cost_0 : decode cX0_cost 0 = .ok (.aload 4, 2) := dk_25 4 (dk_at dksX0_cost_0 0 rfl rfl)
theorem dX0_cost_2 : decode cX0_cost 2 = .ok (.iconst 0, 1) := dk_3 (dk_at dksX0_cost_0 2 rfl rfl)
theorem dX0_cost_3 : decode cX0_cost 3 = .ok (.aload_n 0, 1) := dk_42 (dk_at dksX0_cost_0 3 rfl rfl)
theorem dX0_cost_4 : decode cX0_cost 4 = .ok (.iload_n 1, 1) := dk_27 (dk_at dksX0_cost_0 4 rfl rfl)
theorem dX0_cost_5 : decode cX0_cost 5 = .ok (.iload_n 2, 1) := dk_28 (dk_at dksX0_cost_0 5 rfl rfl)
theorem dX0_cost_6 : decode cX0_cost 6 = .ok (.iload_n 3, 1) := dk_29 (dk_at dksX0_cost_0 6 rfl rfl)
theorem dX0_cost_7 : decode cX0_cost 7 = .ok (.invokevirtual 18, 3) := dk_182 0 18 (dk_at dksX0_cost_0 7 rfl rfl)
theorem dX0_cost_10 : decode cX0_cost 10 = .ok (.i2l, 1) := dk_133 (dk_at dksX0_cost_0 10 rfl rfl)
theorem dX0_cost_11 : decode cX0_cost 11 = .ok (.lastore, 1) := dk_80 (dk_at dksX0_cost_0 11 rfl rfl)
theorem dX0_cost_12 : decode cX0_cost 12 = .ok (.goto 7, 3) := dk_167 0 7 (dk_at dksX0_cost_0 12 rfl rfl)
theorem dX0_cost_15 : decode cX0_cost 15 = .ok (.astore 5, 2) := dk_58 5 (dk_at dksX0_cost_0 15 rfl rfl)
theorem dX0_cost_17 : decode cX0_cost 17 = .ok (.iconst 1, 1) := dk_4 (dk_at dksX0_cost_0 17 rfl rfl)
theorem dX0_cost_18 : decode cX0_cost 18 = .ok (.ireturn, 1) := dk_172 (dk_at dksX0_cost_0 18 rfl rfl)
theorem dX0_cost_19 : decode cX0_cost 19 = .ok (.iconst 0, 1) := dk_3 (dk_at dksX0_cost_0 19 rfl rfl)
theorem dX0_cost_20 : decode cX0_cost 20 = .ok (.ireturn, 1) := dk_172 (dk_at dksX0_cost_0 20 rfl rfl)
abbrev cX0_bar : ByteArray := method_6_code
def yX0_bar : MethodName := ⟨RX0, "bar", "(LMasterPrices;II[J)I"⟩
def dkwX0_bar_0 : List UInt8 := [45, 3, 42, 27, 28, 182, 0, 22, 133, 80, 167, 0, 7, 58, 4, 4, 172, 3, 172]
abbrev dktX0_bar_0 : List UInt8 := dkwX0_bar_0 ++ []
theorem dksX0_bar_0 : cX0_bar.data.toList.drop 0 = dktX0_bar_0 := by decide +kernel
theorem dX0_bar_0 : decode cX0_bar 0 = .ok (.aload_n 3, 1) := dk_45 (dk_at dksX0_bar_0 0 rfl rfl)
theorem dX0_bar_1 : decode cX0_bar 1 = .ok (.iconst 0, 1) := dk_3 (dk_at dksX0_bar_0 1 rfl rfl)
theorem dX0_bar_2 : decode cX0_bar 2 = .ok (.aload_n 0, 1) := dk_42 (dk_at dksX0_bar_0 2 rfl rfl)
theorem dX0_bar_3 : decode cX0_bar 3 = .ok (.iload_n 1, 1) := dk_27 (dk_at dksX0_bar_0 3 rfl rfl)
theorem dX0_bar_4 : decode cX0_bar 4 = .ok (.iload_n 2, 1) := dk_28 (dk_at dksX0_bar_0 4 rfl rfl)
theorem dX0_bar_5 : decode cX0_bar 5 = .ok (.invokevirtual 22, 3) := dk_182 0 22 (dk_at dksX0_bar_0 5 rfl rfl)
theorem dX0_bar_8 : decode cX0_bar 8 = .ok (.i2l, 1) := dk_133 (dk_at dksX0_bar_0 8 rfl rfl)
theorem dX0_bar_9 : decode cX0_bar 9 = .ok (.lastore, 1) := dk_80 (dk_at dksX0_bar_0 9 rfl rfl)
theorem dX0_bar_10 : decode cX0_bar 10 = .ok (.goto 7, 3) := dk_167 0 7 (dk_at dksX0_bar_0 10 rfl rfl)
theorem dX0_bar_13 : decode cX0_bar 13 = .ok (.astore 4, 2) := dk_58 4 (dk_at dksX0_bar_0 13 rfl rfl)
theorem dX0_bar_15 : decode cX0_bar 15 = .ok (.iconst 1, 1) := dk_4 (dk_at dksX0_bar_0 15 rfl rfl)
theorem dX0_bar_16 : decode cX0_bar 16 = .ok (.ireturn, 1) := dk_172 (dk_at dksX0_bar_0 16 rfl rfl)
theorem dX0_bar_17 : decode cX0_bar 17 = .ok (.iconst 0, 1) := dk_3 (dk_at dksX0_bar_0 17 rfl rfl)
theorem dX0_bar_18 : decode cX0_bar 18 = .ok (.ireturn, 1) := dk_172 (dk_at dksX0_bar_0 18 rfl rfl)
abbrev cX0_bid : ByteArray := method_7_code
def yX0_bid : MethodName := ⟨RX0, "bid", "(LMasterPrices;[J)I"⟩
def dkwX0_bid_0 : List UInt8 := [43, 3, 42, 182, 0, 26, 133, 80, 167, 0, 6, 77, 4, 172, 3, 172]
abbrev dktX0_bid_0 : List UInt8 := dkwX0_bid_0 ++ []
theorem dksX0_bid_0 : cX0_bid.data.toList.drop 0 = dktX0_bid_0 := by decide +kernel
theorem dX0_bid_0 : decode cX0_bid 0 = .ok (.aload_n 1, 1) := dk_43 (dk_at dksX0_bid_0 0 rfl rfl)
theorem dX0_bid_1 : decode cX0_bid 1 = .ok (.iconst 0, 1) := dk_3 (dk_at dksX0_bid_0 1 rfl rfl)
theorem dX0_bid_2 : decode cX0_bid 2 = .ok (.aload_n 0, 1) := dk_42 (dk_at dksX0_bid_0 2 rfl rfl)
theorem dX0_bid_3 : decode cX0_bid 3 = .ok (.invokevirtual 26, 3) := dk_182 0 26 (dk_at dksX0_bid_0 3 rfl rfl)
theorem dX0_bid_6 : decode cX0_bid 6 = .ok (.i2l, 1) := dk_133 (dk_at dksX0_bid_0 6 rfl rfl)
theorem dX0_bid_7 : decode cX0_bid 7 = .ok (.lastore, 1) := dk_80 (dk_at dksX0_bid_0 7 rfl rfl)
theorem dX0_bid_8 : decode cX0_bid 8 = .ok (.goto 6, 3) := dk_167 0 6 (dk_at dksX0_bid_0 8 rfl rfl)
theorem dX0_bid_11 : decode cX0_bid 11 = .ok (.astore_n 2, 1) := dk_77 (dk_at dksX0_bid_0 11 rfl rfl)
theorem dX0_bid_12 : decode cX0_bid 12 = .ok (.iconst 1, 1) := dk_4 (dk_at dksX0_bid_0 12 rfl rfl)
theorem dX0_bid_13 : decode cX0_bid 13 = .ok (.ireturn, 1) := dk_172 (dk_at dksX0_bid_0 13 rfl rfl)
theorem dX0_bid_14 : decode cX0_bid 14 = .ok (.iconst 0, 1) := dk_3 (dk_at dksX0_bid_0 14 rfl rfl)
theorem dX0_bid_15 : decode cX0_bid 15 = .ok (.ireturn, 1) := dk_172 (dk_at dksX0_bid_0 15 rfl rfl)
abbrev cX0_settle : ByteArray := method_8_code
def yX0_settle : MethodName := ⟨RX0, "settle", "(LMasterPrices;[J)I"⟩
def dkwX0_settle_0 : List UInt8 := [43, 3, 42, 182, 0, 29, 133, 80, 167, 0, 6, 77, 4, 172, 3, 172]
abbrev dktX0_settle_0 : List UInt8 := dkwX0_settle_0 ++ []
theorem dksX0_settle_0 : cX0_settle.data.toList.drop 0 = dktX0_settle_0 := by decide +kernel
theorem dX0_settle_0 : decode cX0_settle 0 = .ok (.aload_n 1, 1) := dk_43 (dk_at dksX0_settle_0 0 rfl rfl)
theorem dX0_settle_1 : decode cX0_settle 1 = .ok (.iconst 0, 1) := dk_3 (dk_at dksX0_settle_0 1 rfl rfl)
theorem dX0_settle_2 : decode cX0_settle 2 = .ok (.aload_n 0, 1) := dk_42 (dk_at dksX0_settle_0 2 rfl rfl)
theorem dX0_settle_3 : decode cX0_settle 3 = .ok (.invokevirtual 29, 3) := dk_182 0 29 (dk_at dksX0_settle_0 3 rfl rfl)
theorem dX0_settle_6 : decode cX0_settle 6 = .ok (.i2l, 1) := dk_133 (dk_at dksX0_settle_0 6 rfl rfl)
theorem dX0_settle_7 : decode cX0_settle 7 = .ok (.lastore, 1) := dk_80 (dk_at dksX0_settle_0 7 rfl rfl)
theorem dX0_settle_8 : decode cX0_settle 8 = .ok (.goto 6, 3) := dk_167 0 6 (dk_at dksX0_settle_0 8 rfl rfl)
theorem dX0_settle_11 : decode cX0_settle 11 = .ok (.astore_n 2, 1) := dk_77 (dk_at dksX0_settle_0 11 rfl rfl)
theorem dX0_settle_12 : decode cX0_settle 12 = .ok (.iconst 1, 1) := dk_4 (dk_at dksX0_settle_0 12 rfl rfl)
theorem dX0_settle_13 : decode cX0_settle 13 = .ok (.ireturn, 1) := dk_172 (dk_at dksX0_settle_0 13 rfl rfl)
theorem dX0_settle_14 : decode cX0_settle 14 = .ok (.iconst 0, 1) := dk_3 (dk_at dksX0_settle_0 14 rfl rfl)
theorem dX0_settle_15 : decode cX0_settle 15 = .ok (.ireturn, 1) := dk_172 (dk_at dksX0_settle_0 15 rfl rfl)
abbrev cX0_leave : ByteArray := method_9_code
def yX0_leave : MethodName := ⟨RX0, "leave", "(LMasterPrices;I[J)I"⟩
def dkwX0_leave_0 : List UInt8 := [44, 3, 42, 27, 182, 0, 32, 133, 80, 167, 0, 6, 78, 4, 172, 3, 172]
abbrev dktX0_leave_0 : List UInt8 := dkwX0_leave_0 ++ []
theorem dksX0_leave_0 : cX0_leave.data.toList.drop 0 = dktX0_leave_0 := by decide +kernel
theorem dX0_leave_0 : decode cX0_leave 0 = .ok (.aload_n 2, 1) := dk_44 (dk_at dksX0_leave_0 0 rfl rfl)
theorem dX0_leave_1 : decode cX0_leave 1 = .ok (.iconst 0, 1) := dk_3 (dk_at dksX0_leave_0 1 rfl rfl)
theorem dX0_leave_2 : decode cX0_leave 2 = .ok (.aload_n 0, 1) := dk_42 (dk_at dksX0_leave_0 2 rfl rfl)
theorem dX0_leave_3 : decode cX0_leave 3 = .ok (.iload_n 1, 1) := dk_27 (dk_at dksX0_leave_0 3 rfl rfl)
theorem dX0_leave_4 : decode cX0_leave 4 = .ok (.invokevirtual 32, 3) := dk_182 0 32 (dk_at dksX0_leave_0 4 rfl rfl)
theorem dX0_leave_7 : decode cX0_leave 7 = .ok (.i2l, 1) := dk_133 (dk_at dksX0_leave_0 7 rfl rfl)
theorem dX0_leave_8 : decode cX0_leave 8 = .ok (.lastore, 1) := dk_80 (dk_at dksX0_leave_0 8 rfl rfl)
theorem dX0_leave_9 : decode cX0_leave 9 = .ok (.goto 6, 3) := dk_167 0 6 (dk_at dksX0_leave_0 9 rfl rfl)
theorem dX0_leave_12 : decode cX0_leave 12 = .ok (.astore_n 3, 1) := dk_78 (dk_at dksX0_leave_0 12 rfl rfl)
theorem dX0_leave_13 : decode cX0_leave 13 = .ok (.iconst 1, 1) := dk_4 (dk_at dksX0_leave_0 13 rfl rfl)
theorem dX0_leave_14 : decode cX0_leave 14 = .ok (.ireturn, 1) := dk_172 (dk_at dksX0_leave_0 14 rfl rfl)
theorem dX0_leave_15 : decode cX0_leave 15 = .ok (.iconst 0, 1) := dk_3 (dk_at dksX0_leave_0 15 rfl rfl)
theorem dX0_leave_16 : decode cX0_leave 16 = .ok (.ireturn, 1) := dk_172 (dk_at dksX0_leave_0 16 rfl rfl)
abbrev cX0_costOf : ByteArray := method_10_code
def yX0_costOf : MethodName := ⟨RX0, "costOf", "(LMasterPrices;II[J)I"⟩
def dkwX0_costOf_0 : List UInt8 := [45, 3, 42, 27, 28, 182, 0, 36, 133, 80, 167, 0, 7, 58, 4, 4, 172, 3, 172]
abbrev dktX0_costOf_0 : List UInt8 := dkwX0_costOf_0 ++ []
theorem dksX0_costOf_0 : cX0_costOf.data.toList.drop 0 = dktX0_costOf_0 := by decide +kernel
theorem dX0_costOf_0 : decode cX0_costOf 0 = .ok (.aload_n 3, 1) := dk_45 (dk_at dksX0_costOf_0 0 rfl rfl)
theorem dX0_costOf_1 : decode cX0_costOf 1 = .ok (.iconst 0, 1) := dk_3 (dk_at dksX0_costOf_0 1 rfl rfl)
theorem dX0_costOf_2 : decode cX0_costOf 2 = .ok (.aload_n 0, 1) := dk_42 (dk_at dksX0_costOf_0 2 rfl rfl)
theorem dX0_costOf_3 : decode cX0_costOf 3 = .ok (.iload_n 1, 1) := dk_27 (dk_at dksX0_costOf_0 3 rfl rfl)
theorem dX0_costOf_4 : decode cX0_costOf 4 = .ok (.iload_n 2, 1) := dk_28 (dk_at dksX0_costOf_0 4 rfl rfl)
theorem dX0_costOf_5 : decode cX0_costOf 5 = .ok (.invokevirtual 36, 3) := dk_182 0 36 (dk_at dksX0_costOf_0 5 rfl rfl)
theorem dX0_costOf_8 : decode cX0_costOf 8 = .ok (.i2l, 1) := dk_133 (dk_at dksX0_costOf_0 8 rfl rfl)
theorem dX0_costOf_9 : decode cX0_costOf 9 = .ok (.lastore, 1) := dk_80 (dk_at dksX0_costOf_0 9 rfl rfl)
theorem dX0_costOf_10 : decode cX0_costOf 10 = .ok (.goto 7, 3) := dk_167 0 7 (dk_at dksX0_costOf_0 10 rfl rfl)
theorem dX0_costOf_13 : decode cX0_costOf 13 = .ok (.astore 4, 2) := dk_58 4 (dk_at dksX0_costOf_0 13 rfl rfl)
theorem dX0_costOf_15 : decode cX0_costOf 15 = .ok (.iconst 1, 1) := dk_4 (dk_at dksX0_costOf_0 15 rfl rfl)
theorem dX0_costOf_16 : decode cX0_costOf 16 = .ok (.ireturn, 1) := dk_172 (dk_at dksX0_costOf_0 16 rfl rfl)
theorem dX0_costOf_17 : decode cX0_costOf 17 = .ok (.iconst 0, 1) := dk_3 (dk_at dksX0_costOf_0 17 rfl rfl)
theorem dX0_costOf_18 : decode cX0_costOf 18 = .ok (.ireturn, 1) := dk_172 (dk_at dksX0_costOf_0 18 rfl rfl)
abbrev cX0_burden : ByteArray := method_11_code
def yX0_burden : MethodName := ⟨RX0, "burden", "(LMasterPrices;II[J)I"⟩
def dkwX0_burden_0 : List UInt8 := [45, 3, 42, 27, 28, 182, 0, 41, 133, 80, 167, 0, 11, 58, 4, 4, 172, 58, 4, 5, 172, 3, 172]
abbrev dktX0_burden_0 : List UInt8 := dkwX0_burden_0 ++ []
theorem dksX0_burden_0 : cX0_burden.data.toList.drop 0 = dktX0_burden_0 := by decide +kernel
theorem dX0_burden_0 : decode cX0_burden 0 = .ok (.aload_n 3, 1) := dk_45 (dk_at dksX0_burden_0 0 rfl rfl)
theorem dX0_burden_1 : decode cX0_burden 1 = .ok (.iconst 0, 1) := dk_3 (dk_at dksX0_burden_0 1 rfl rfl)
theorem dX0_burden_2 : decode cX0_burden 2 = .ok (.aload_n 0, 1) := dk_42 (dk_at dksX0_burden_0 2 rfl rfl)
theorem dX0_burden_3 : decode cX0_burden 3 = .ok (.iload_n 1, 1) := dk_27 (dk_at dksX0_burden_0 3 rfl rfl)
theorem dX0_burden_4 : decode cX0_burden 4 = .ok (.iload_n 2, 1) := dk_28 (dk_at dksX0_burden_0 4 rfl rfl)
theorem dX0_burden_5 : decode cX0_burden 5 = .ok (.invokevirtual 41, 3) := dk_182 0 41 (dk_at dksX0_burden_0 5 rfl rfl)
theorem dX0_burden_8 : decode cX0_burden 8 = .ok (.i2l, 1) := dk_133 (dk_at dksX0_burden_0 8 rfl rfl)
theorem dX0_burden_9 : decode cX0_burden 9 = .ok (.lastore, 1) := dk_80 (dk_at dksX0_burden_0 9 rfl rfl)
theorem dX0_burden_10 : decode cX0_burden 10 = .ok (.goto 11, 3) := dk_167 0 11 (dk_at dksX0_burden_0 10 rfl rfl)
theorem dX0_burden_13 : decode cX0_burden 13 = .ok (.astore 4, 2) := dk_58 4 (dk_at dksX0_burden_0 13 rfl rfl)
theorem dX0_burden_15 : decode cX0_burden 15 = .ok (.iconst 1, 1) := dk_4 (dk_at dksX0_burden_0 15 rfl rfl)
theorem dX0_burden_16 : decode cX0_burden 16 = .ok (.ireturn, 1) := dk_172 (dk_at dksX0_burden_0 16 rfl rfl)
theorem dX0_burden_17 : decode cX0_burden 17 = .ok (.astore 4, 2) := dk_58 4 (dk_at dksX0_burden_0 17 rfl rfl)
theorem dX0_burden_19 : decode cX0_burden 19 = .ok (.iconst 2, 1) := dk_5 (dk_at dksX0_burden_0 19 rfl rfl)
theorem dX0_burden_20 : decode cX0_burden 20 = .ok (.ireturn, 1) := dk_172 (dk_at dksX0_burden_0 20 rfl rfl)
theorem dX0_burden_21 : decode cX0_burden 21 = .ok (.iconst 0, 1) := dk_3 (dk_at dksX0_burden_0 21 rfl rfl)
theorem dX0_burden_22 : decode cX0_burden 22 = .ok (.ireturn, 1) := dk_172 (dk_at dksX0_burden_0 22 rfl rfl)
abbrev cX0_apprenticeOf : ByteArray := method_12_code
def yX0_apprenticeOf : MethodName := ⟨RX0, "apprenticeOf", "(LMasterPrices;II[J)I"⟩
def dkwX0_apprenticeOf_0 : List UInt8 := [45, 3, 42, 27, 28, 182, 0, 46, 133, 80, 167, 0, 11, 58, 4, 4, 172, 58, 4, 5, 172, 3, 172]
abbrev dktX0_apprenticeOf_0 : List UInt8 := dkwX0_apprenticeOf_0 ++ []
theorem dksX0_apprenticeOf_0 : cX0_apprenticeOf.data.toList.drop 0 = dktX0_apprenticeOf_0 := by decide +kernel
theorem dX0_apprenticeOf_0 : decode cX0_apprenticeOf 0 = .ok (.aload_n 3, 1) := dk_45 (dk_at dksX0_apprenticeOf_0 0 rfl rfl)
theorem dX0_apprenticeOf_1 : decode cX0_apprenticeOf 1 = .ok (.iconst 0, 1) := dk_3 (dk_at dksX0_apprenticeOf_0 1 rfl rfl)
theorem dX0_apprenticeOf_2 : decode cX0_apprenticeOf 2 = .ok (.aload_n 0, 1) := dk_42 (dk_at dksX0_apprenticeOf_0 2 rfl rfl)
theorem dX0_apprenticeOf_3 : decode cX0_apprenticeOf 3 = .ok (.iload_n 1, 1) := dk_27 (dk_at dksX0_apprenticeOf_0 3 rfl rfl)
theorem dX0_apprenticeOf_4 : decode cX0_apprenticeOf 4 = .ok (.iload_n 2, 1) := dk_28 (dk_at dksX0_apprenticeOf_0 4 rfl rfl)
theorem dX0_apprenticeOf_5 : decode cX0_apprenticeOf 5 = .ok (.invokevirtual 46, 3) := dk_182 0 46 (dk_at dksX0_apprenticeOf_0 5 rfl rfl)
theorem dX0_apprenticeOf_8 : decode cX0_apprenticeOf 8 = .ok (.i2l, 1) := dk_133 (dk_at dksX0_apprenticeOf_0 8 rfl rfl)
theorem dX0_apprenticeOf_9 : decode cX0_apprenticeOf 9 = .ok (.lastore, 1) := dk_80 (dk_at dksX0_apprenticeOf_0 9 rfl rfl)
theorem dX0_apprenticeOf_10 : decode cX0_apprenticeOf 10 = .ok (.goto 11, 3) := dk_167 0 11 (dk_at dksX0_apprenticeOf_0 10 rfl rfl)
theorem dX0_apprenticeOf_13 : decode cX0_apprenticeOf 13 = .ok (.astore 4, 2) := dk_58 4 (dk_at dksX0_apprenticeOf_0 13 rfl rfl)
theorem dX0_apprenticeOf_15 : decode cX0_apprenticeOf 15 = .ok (.iconst 1, 1) := dk_4 (dk_at dksX0_apprenticeOf_0 15 rfl rfl)
theorem dX0_apprenticeOf_16 : decode cX0_apprenticeOf 16 = .ok (.ireturn, 1) := dk_172 (dk_at dksX0_apprenticeOf_0 16 rfl rfl)
theorem dX0_apprenticeOf_17 : decode cX0_apprenticeOf 17 = .ok (.astore 4, 2) := dk_58 4 (dk_at dksX0_apprenticeOf_0 17 rfl rfl)
theorem dX0_apprenticeOf_19 : decode cX0_apprenticeOf 19 = .ok (.iconst 2, 1) := dk_5 (dk_at dksX0_apprenticeOf_0 19 rfl rfl)
theorem dX0_apprenticeOf_20 : decode cX0_apprenticeOf 20 = .ok (.ireturn, 1) := dk_172 (dk_at dksX0_apprenticeOf_0 20 rfl rfl)
theorem dX0_apprenticeOf_21 : decode cX0_apprenticeOf 21 = .ok (.iconst 0, 1) := dk_3 (dk_at dksX0_apprenticeOf_0 21 rfl rfl)
theorem dX0_apprenticeOf_22 : decode cX0_apprenticeOf 22 = .ok (.ireturn, 1) := dk_172 (dk_at dksX0_apprenticeOf_0 22 rfl rfl)
abbrev cX0_masterOf : ByteArray := method_13_code
def yX0_masterOf : MethodName := ⟨RX0, "masterOf", "(LMasterPrices;II[J)I"⟩
def dkwX0_masterOf_0 : List UInt8 := [45, 3, 42, 27, 28, 182, 0, 51, 133, 80, 167, 0, 11, 58, 4, 4, 172, 58, 4, 5, 172, 3, 172]
abbrev dktX0_masterOf_0 : List UInt8 := dkwX0_masterOf_0 ++ []
theorem dksX0_masterOf_0 : cX0_masterOf.data.toList.drop 0 = dktX0_masterOf_0 := by decide +kernel
theorem dX0_masterOf_0 : decode cX0_masterOf 0 = .ok (.aload_n 3, 1) := dk_45 (dk_at dksX0_masterOf_0 0 rfl rfl)
theorem dX0_masterOf_1 : decode cX0_masterOf 1 = .ok (.iconst 0, 1) := dk_3 (dk_at dksX0_masterOf_0 1 rfl rfl)
theorem dX0_masterOf_2 : decode cX0_masterOf 2 = .ok (.aload_n 0, 1) := dk_42 (dk_at dksX0_masterOf_0 2 rfl rfl)
theorem dX0_masterOf_3 : decode cX0_masterOf 3 = .ok (.iload_n 1, 1) := dk_27 (dk_at dksX0_masterOf_0 3 rfl rfl)
theorem dX0_masterOf_4 : decode cX0_masterOf 4 = .ok (.iload_n 2, 1) := dk_28 (dk_at dksX0_masterOf_0 4 rfl rfl)
theorem dX0_masterOf_5 : decode cX0_masterOf 5 = .ok (.invokevirtual 51, 3) := dk_182 0 51 (dk_at dksX0_masterOf_0 5 rfl rfl)
theorem dX0_masterOf_8 : decode cX0_masterOf 8 = .ok (.i2l, 1) := dk_133 (dk_at dksX0_masterOf_0 8 rfl rfl)
theorem dX0_masterOf_9 : decode cX0_masterOf 9 = .ok (.lastore, 1) := dk_80 (dk_at dksX0_masterOf_0 9 rfl rfl)
theorem dX0_masterOf_10 : decode cX0_masterOf 10 = .ok (.goto 11, 3) := dk_167 0 11 (dk_at dksX0_masterOf_0 10 rfl rfl)
theorem dX0_masterOf_13 : decode cX0_masterOf 13 = .ok (.astore 4, 2) := dk_58 4 (dk_at dksX0_masterOf_0 13 rfl rfl)
theorem dX0_masterOf_15 : decode cX0_masterOf 15 = .ok (.iconst 1, 1) := dk_4 (dk_at dksX0_masterOf_0 15 rfl rfl)
theorem dX0_masterOf_16 : decode cX0_masterOf 16 = .ok (.ireturn, 1) := dk_172 (dk_at dksX0_masterOf_0 16 rfl rfl)
theorem dX0_masterOf_17 : decode cX0_masterOf 17 = .ok (.astore 4, 2) := dk_58 4 (dk_at dksX0_masterOf_0 17 rfl rfl)
theorem dX0_masterOf_19 : decode cX0_masterOf 19 = .ok (.iconst 2, 1) := dk_5 (dk_at dksX0_masterOf_0 19 rfl rfl)
theorem dX0_masterOf_20 : decode cX0_masterOf 20 = .ok (.ireturn, 1) := dk_172 (dk_at dksX0_masterOf_0 20 rfl rfl)
theorem dX0_masterOf_21 : decode cX0_masterOf 21 = .ok (.iconst 0, 1) := dk_3 (dk_at dksX0_masterOf_0 21 rfl rfl)
theorem dX0_masterOf_22 : decode cX0_masterOf 22 = .ok (.ireturn, 1) := dk_172 (dk_at dksX0_masterOf_0 22 rfl rfl)
abbrev cX0_served : ByteArray := method_14_code
def yX0_served : MethodName := ⟨RX0, "served", "(LMasterPrices;II[J)I"⟩
def dkwX0_served_0 : List UInt8 := [45, 3, 42, 27, 28, 182, 0, 54, 133, 80, 167, 0, 7, 58, 4, 4, 172, 3, 172]
abbrev dktX0_served_0 : List UInt8 := dkwX0_served_0 ++ []
theorem dksX0_served_0 : cX0_served.data.toList.drop 0 = dktX0_served_0 := by decide +kernel
theorem dX0_served_0 : decode cX0_served 0 = .ok (.aload_n 3, 1) := dk_45 (dk_at dksX0_served_0 0 rfl rfl)
theorem dX0_served_1 : decode cX0_served 1 = .ok (.iconst 0, 1) := dk_3 (dk_at dksX0_served_0 1 rfl rfl)
theorem dX0_served_2 : decode cX0_served 2 = .ok (.aload_n 0, 1) := dk_42 (dk_at dksX0_served_0 2 rfl rfl)
theorem dX0_served_3 : decode cX0_served 3 = .ok (.iload_n 1, 1) := dk_27 (dk_at dksX0_served_0 3 rfl rfl)
theorem dX0_served_4 : decode cX0_served 4 = .ok (.iload_n 2, 1) := dk_28 (dk_at dksX0_served_0 4 rfl rfl)
theorem dX0_served_5 : decode cX0_served 5 = .ok (.invokevirtual 54, 3) := dk_182 0 54 (dk_at dksX0_served_0 5 rfl rfl)
theorem dX0_served_8 : decode cX0_served 8 = .ok (.i2l, 1) := dk_133 (dk_at dksX0_served_0 8 rfl rfl)
theorem dX0_served_9 : decode cX0_served 9 = .ok (.lastore, 1) := dk_80 (dk_at dksX0_served_0 9 rfl rfl)
theorem dX0_served_10 : decode cX0_served 10 = .ok (.goto 7, 3) := dk_167 0 7 (dk_at dksX0_served_0 10 rfl rfl)
theorem dX0_served_13 : decode cX0_served 13 = .ok (.astore 4, 2) := dk_58 4 (dk_at dksX0_served_0 13 rfl rfl)
theorem dX0_served_15 : decode cX0_served 15 = .ok (.iconst 1, 1) := dk_4 (dk_at dksX0_served_0 15 rfl rfl)
theorem dX0_served_16 : decode cX0_served 16 = .ok (.ireturn, 1) := dk_172 (dk_at dksX0_served_0 16 rfl rfl)
theorem dX0_served_17 : decode cX0_served 17 = .ok (.iconst 0, 1) := dk_3 (dk_at dksX0_served_0 17 rfl rfl)
theorem dX0_served_18 : decode cX0_served 18 = .ok (.ireturn, 1) := dk_172 (dk_at dksX0_served_0 18 rfl rfl)
abbrev cX0_least : ByteArray := method_15_code
def yX0_least : MethodName := ⟨RX0, "least", "(LMasterPrices;[J)I"⟩
def dkwX0_least_0 : List UInt8 := [43, 3, 42, 182, 0, 57, 133, 80, 167, 0, 6, 77, 4, 172, 3, 172]
abbrev dktX0_least_0 : List UInt8 := dkwX0_least_0 ++ []
theorem dksX0_least_0 : cX0_least.data.toList.drop 0 = dktX0_least_0 := by decide +kernel
theorem dX0_least_0 : decode cX0_least 0 = .ok (.aload_n 1, 1) := dk_43 (dk_at dksX0_least_0 0 rfl rfl)
theorem dX0_least_1 : decode cX0_least 1 = .ok (.iconst 0, 1) := dk_3 (dk_at dksX0_least_0 1 rfl rfl)
theorem dX0_least_2 : decode cX0_least 2 = .ok (.aload_n 0, 1) := dk_42 (dk_at dksX0_least_0 2 rfl rfl)
theorem dX0_least_3 : decode cX0_least 3 = .ok (.invokevirtual 57, 3) := dk_182 0 57 (dk_at dksX0_least_0 3 rfl rfl)
theorem dX0_least_6 : decode cX0_least 6 = .ok (.i2l, 1) := dk_133 (dk_at dksX0_least_0 6 rfl rfl)
theorem dX0_least_7 : decode cX0_least 7 = .ok (.lastore, 1) := dk_80 (dk_at dksX0_least_0 7 rfl rfl)
theorem dX0_least_8 : decode cX0_least 8 = .ok (.goto 6, 3) := dk_167 0 6 (dk_at dksX0_least_0 8 rfl rfl)
theorem dX0_least_11 : decode cX0_least 11 = .ok (.astore_n 2, 1) := dk_77 (dk_at dksX0_least_0 11 rfl rfl)
theorem dX0_least_12 : decode cX0_least 12 = .ok (.iconst 1, 1) := dk_4 (dk_at dksX0_least_0 12 rfl rfl)
theorem dX0_least_13 : decode cX0_least 13 = .ok (.ireturn, 1) := dk_172 (dk_at dksX0_least_0 13 rfl rfl)
theorem dX0_least_14 : decode cX0_least 14 = .ok (.iconst 0, 1) := dk_3 (dk_at dksX0_least_0 14 rfl rfl)
theorem dX0_least_15 : decode cX0_least 15 = .ok (.ireturn, 1) := dk_172 (dk_at dksX0_least_0 15 rfl rfl)
abbrev cX0_leastAgain : ByteArray := method_16_code
def yX0_leastAgain : MethodName := ⟨RX0, "leastAgain", "(LMasterPrices;[J)I"⟩
def dkwX0_leastAgain_0 : List UInt8 := [43, 3, 42, 182, 0, 60, 133, 80, 167, 0, 6, 77, 4, 172, 3, 172]
abbrev dktX0_leastAgain_0 : List UInt8 := dkwX0_leastAgain_0 ++ []
theorem dksX0_leastAgain_0 : cX0_leastAgain.data.toList.drop 0 = dktX0_leastAgain_0 := by decide +kernel
theorem dX0_leastAgain_0 : decode cX0_leastAgain 0 = .ok (.aload_n 1, 1) := dk_43 (dk_at dksX0_leastAgain_0 0 rfl rfl)
theorem dX0_leastAgain_1 : decode cX0_leastAgain 1 = .ok (.iconst 0, 1) := dk_3 (dk_at dksX0_leastAgain_0 1 rfl rfl)
theorem dX0_leastAgain_2 : decode cX0_leastAgain 2 = .ok (.aload_n 0, 1) := dk_42 (dk_at dksX0_leastAgain_0 2 rfl rfl)
theorem dX0_leastAgain_3 : decode cX0_leastAgain 3 = .ok (.invokevirtual 60, 3) := dk_182 0 60 (dk_at dksX0_leastAgain_0 3 rfl rfl)
theorem dX0_leastAgain_6 : decode cX0_leastAgain 6 = .ok (.i2l, 1) := dk_133 (dk_at dksX0_leastAgain_0 6 rfl rfl)
theorem dX0_leastAgain_7 : decode cX0_leastAgain 7 = .ok (.lastore, 1) := dk_80 (dk_at dksX0_leastAgain_0 7 rfl rfl)
theorem dX0_leastAgain_8 : decode cX0_leastAgain 8 = .ok (.goto 6, 3) := dk_167 0 6 (dk_at dksX0_leastAgain_0 8 rfl rfl)
theorem dX0_leastAgain_11 : decode cX0_leastAgain 11 = .ok (.astore_n 2, 1) := dk_77 (dk_at dksX0_leastAgain_0 11 rfl rfl)
theorem dX0_leastAgain_12 : decode cX0_leastAgain 12 = .ok (.iconst 1, 1) := dk_4 (dk_at dksX0_leastAgain_0 12 rfl rfl)
theorem dX0_leastAgain_13 : decode cX0_leastAgain 13 = .ok (.ireturn, 1) := dk_172 (dk_at dksX0_leastAgain_0 13 rfl rfl)
theorem dX0_leastAgain_14 : decode cX0_leastAgain 14 = .ok (.iconst 0, 1) := dk_3 (dk_at dksX0_leastAgain_0 14 rfl rfl)
theorem dX0_leastAgain_15 : decode cX0_leastAgain 15 = .ok (.ireturn, 1) := dk_172 (dk_at dksX0_leastAgain_0 15 rfl rfl)
abbrev cX0_with : ByteArray := method_17_code
def yX0_with : MethodName := ⟨RX0, "with", "(LMasterPrices;II[J)I"⟩
def dkwX0_with_0 : List UInt8 := [45, 3, 42, 27, 28, 182, 0, 63, 133, 80, 167, 0, 11, 58, 4, 4, 172, 58, 4, 5, 172, 3, 172]
abbrev dktX0_with_0 : List UInt8 := dkwX0_with_0 ++ []
theorem dksX0_with_0 : cX0_with.data.toList.drop 0 = dktX0_with_0 := by decide +kernel
theorem dX0_with_0 : decode cX0_with 0 = .ok (.aload_n 3, 1) := dk_45 (dk_at dksX0_with_0 0 rfl rfl)
theorem dX0_with_1 : decode cX0_with 1 = .ok (.iconst 0, 1) := dk_3 (dk_at dksX0_with_0 1 rfl rfl)
theorem dX0_with_2 : decode cX0_with 2 = .ok (.aload_n 0, 1) := dk_42 (dk_at dksX0_with_0 2 rfl rfl)
theorem dX0_with_3 : decode cX0_with 3 = .ok (.iload_n 1, 1) := dk_27 (dk_at dksX0_with_0 3 rfl rfl)
theorem dX0_with_4 : decode cX0_with 4 = .ok (.iload_n 2, 1) := dk_28 (dk_at dksX0_with_0 4 rfl rfl)
theorem dX0_with_5 : decode cX0_with 5 = .ok (.invokevirtual 63, 3) := dk_182 0 63 (dk_at dksX0_with_0 5 rfl rfl)
theorem dX0_with_8 : decode cX0_with 8 = .ok (.i2l, 1) := dk_133 (dk_at dksX0_with_0 8 rfl rfl)
theorem dX0_with_9 : decode cX0_with 9 = .ok (.lastore, 1) := dk_80 (dk_at dksX0_with_0 9 rfl rfl)
theorem dX0_with_10 : decode cX0_with 10 = .ok (.goto 11, 3) := dk_167 0 11 (dk_at dksX0_with_0 10 rfl rfl)
theorem dX0_with_13 : decode cX0_with 13 = .ok (.astore 4, 2) := dk_58 4 (dk_at dksX0_with_0 13 rfl rfl)
theorem dX0_with_15 : decode cX0_with 15 = .ok (.iconst 1, 1) := dk_4 (dk_at dksX0_with_0 15 rfl rfl)
theorem dX0_with_16 : decode cX0_with 16 = .ok (.ireturn, 1) := dk_172 (dk_at dksX0_with_0 16 rfl rfl)
theorem dX0_with_17 : decode cX0_with 17 = .ok (.astore 4, 2) := dk_58 4 (dk_at dksX0_with_0 17 rfl rfl)
theorem dX0_with_19 : decode cX0_with 19 = .ok (.iconst 2, 1) := dk_5 (dk_at dksX0_with_0 19 rfl rfl)
theorem dX0_with_20 : decode cX0_with 20 = .ok (.ireturn, 1) := dk_172 (dk_at dksX0_with_0 20 rfl rfl)
theorem dX0_with_21 : decode cX0_with 21 = .ok (.iconst 0, 1) := dk_3 (dk_at dksX0_with_0 21 rfl rfl)
theorem dX0_with_22 : decode cX0_with 22 = .ok (.ireturn, 1) := dk_172 (dk_at dksX0_with_0 22 rfl rfl)
abbrev cX0_isNeeded : ByteArray := method_18_code
def yX0_isNeeded : MethodName := ⟨RX0, "isNeeded", "(LMasterPrices;II[J)I"⟩
def dkwX0_isNeeded_1 : List UInt8 := [3, 172]
abbrev dktX0_isNeeded_1 : List UInt8 := dkwX0_isNeeded_1 ++ []
def dkwX0_isNeeded_0 : List UInt8 := [45, 3, 42, 27, 28, 182, 0, 66, 153, 0, 7, 10, 167, 0, 4, 9, 80, 167, 0, 7, 58, 4, 4, 172]
abbrev dktX0_isNeeded_0 : List UInt8 := dkwX0_isNeeded_0 ++ dktX0_isNeeded_1
theorem dksX0_isNeeded_0 : cX0_isNeeded.data.toList.drop 0 = dktX0_isNeeded_0 := by decide +kernel
theorem dksX0_isNeeded_1 : cX0_isNeeded.data.toList.drop 24 = dktX0_isNeeded_1 := dk_seg dksX0_isNeeded_0 24 rfl rfl
theorem dX0_isNeeded_0 : decode cX0_isNeeded 0 = .ok (.aload_n 3, 1) := dk_45 (dk_at dksX0_isNeeded_0 0 rfl rfl)
theorem dX0_isNeeded_1 : decode cX0_isNeeded 1 = .ok (.iconst 0, 1) := dk_3 (dk_at dksX0_isNeeded_0 1 rfl rfl)
theorem dX0_isNeeded_2 : decode cX0_isNeeded 2 = .ok (.aload_n 0, 1) := dk_42 (dk_at dksX0_isNeeded_0 2 rfl rfl)
theorem dX0_isNeeded_3 : decode cX0_isNeeded 3 = .ok (.iload_n 1, 1) := dk_27 (dk_at dksX0_isNeeded_0 3 rfl rfl)
theorem dX0_isNeeded_4 : decode cX0_isNeeded 4 = .ok (.iload_n 2, 1) := dk_28 (dk_at dksX0_isNeeded_0 4 rfl rfl)
theorem dX0_isNeeded_5 : decode cX0_isNeeded 5 = .ok (.invokevirtual 66, 3) := dk_182 0 66 (dk_at dksX0_isNeeded_0 5 rfl rfl)
theorem dX0_isNeeded_8 : decode cX0_isNeeded 8 = .ok (.ifCond .eq 7, 3) := dk_153 0 7 (dk_at dksX0_isNeeded_0 8 rfl rfl)
theorem dX0_isNeeded_11 : decode cX0_isNeeded 11 = .ok (.lconst 1, 1) := dk_10 (dk_at dksX0_isNeeded_0 11 rfl rfl)
theorem dX0_isNeeded_12 : decode cX0_isNeeded 12 = .ok (.goto 4, 3) := dk_167 0 4 (dk_at dksX0_isNeeded_0 12 rfl rfl)
theorem dX0_isNeeded_15 : decode cX0_isNeeded 15 = .ok (.lconst 0, 1) := dk_9 (dk_at dksX0_isNeeded_0 15 rfl rfl)
theorem dX0_isNeeded_16 : decode cX0_isNeeded 16 = .ok (.lastore, 1) := dk_80 (dk_at dksX0_isNeeded_0 16 rfl rfl)
theorem dX0_isNeeded_17 : decode cX0_isNeeded 17 = .ok (.goto 7, 3) := dk_167 0 7 (dk_at dksX0_isNeeded_0 17 rfl rfl)
theorem dX0_isNeeded_20 : decode cX0_isNeeded 20 = .ok (.astore 4, 2) := dk_58 4 (dk_at dksX0_isNeeded_0 20 rfl rfl)
theorem dX0_isNeeded_22 : decode cX0_isNeeded 22 = .ok (.iconst 1, 1) := dk_4 (dk_at dksX0_isNeeded_0 22 rfl rfl)
theorem dX0_isNeeded_23 : decode cX0_isNeeded 23 = .ok (.ireturn, 1) := dk_172 (dk_at dksX0_isNeeded_0 23 rfl rfl)
theorem dX0_isNeeded_24 : decode cX0_isNeeded 24 = .ok (.iconst 0, 1) := dk_3 (dk_at dksX0_isNeeded_1 0 rfl rfl)
theorem dX0_isNeeded_25 : decode cX0_isNeeded 25 = .ok (.ireturn, 1) := dk_172 (dk_at dksX0_isNeeded_1 1 rfl rfl)
abbrev cX0_wouldBid : ByteArray := method_19_code
def yX0_wouldBid : MethodName := ⟨RX0, "wouldBid", "(LMasterPrices;[J)I"⟩
def dkwX0_wouldBid_0 : List UInt8 := [43, 3, 42, 182, 0, 70, 133, 80, 167, 0, 6, 77, 4, 172, 3, 172]
abbrev dktX0_wouldBid_0 : List UInt8 := dkwX0_wouldBid_0 ++ []
theorem dksX0_wouldBid_0 : cX0_wouldBid.data.toList.drop 0 = dktX0_wouldBid_0 := by decide +kernel
theorem dX0_wouldBid_0 : decode cX0_wouldBid 0 = .ok (.aload_n 1, 1) := dk_43 (dk_at dksX0_wouldBid_0 0 rfl rfl)
theorem dX0_wouldBid_1 : decode cX0_wouldBid 1 = .ok (.iconst 0, 1) := dk_3 (dk_at dksX0_wouldBid_0 1 rfl rfl)
theorem dX0_wouldBid_2 : decode cX0_wouldBid 2 = .ok (.aload_n 0, 1) := dk_42 (dk_at dksX0_wouldBid_0 2 rfl rfl)
theorem dX0_wouldBid_3 : decode cX0_wouldBid 3 = .ok (.invokevirtual 70, 3) := dk_182 0 70 (dk_at dksX0_wouldBid_0 3 rfl rfl)
theorem dX0_wouldBid_6 : decode cX0_wouldBid 6 = .ok (.i2l, 1) := dk_133 (dk_at dksX0_wouldBid_0 6 rfl rfl)
theorem dX0_wouldBid_7 : decode cX0_wouldBid 7 = .ok (.lastore, 1) := dk_80 (dk_at dksX0_wouldBid_0 7 rfl rfl)
theorem dX0_wouldBid_8 : decode cX0_wouldBid 8 = .ok (.goto 6, 3) := dk_167 0 6 (dk_at dksX0_wouldBid_0 8 rfl rfl)
theorem dX0_wouldBid_11 : decode cX0_wouldBid 11 = .ok (.astore_n 2, 1) := dk_77 (dk_at dksX0_wouldBid_0 11 rfl rfl)
theorem dX0_wouldBid_12 : decode cX0_wouldBid 12 = .ok (.iconst 1, 1) := dk_4 (dk_at dksX0_wouldBid_0 12 rfl rfl)
theorem dX0_wouldBid_13 : decode cX0_wouldBid 13 = .ok (.ireturn, 1) := dk_172 (dk_at dksX0_wouldBid_0 13 rfl rfl)
theorem dX0_wouldBid_14 : decode cX0_wouldBid 14 = .ok (.iconst 0, 1) := dk_3 (dk_at dksX0_wouldBid_0 14 rfl rfl)
theorem dX0_wouldBid_15 : decode cX0_wouldBid 15 = .ok (.ireturn, 1) := dk_172 (dk_at dksX0_wouldBid_0 15 rfl rfl)
abbrev cX0_chain : ByteArray := method_20_code
def yX0_chain : MethodName := ⟨RX0, "chain", "(LMasterPrices;I[J)I"⟩
def dkwX0_chain_0 : List UInt8 := [44, 3, 42, 27, 182, 0, 73, 133, 80, 167, 0, 6, 78, 4, 172, 3, 172]
abbrev dktX0_chain_0 : List UInt8 := dkwX0_chain_0 ++ []
theorem dksX0_chain_0 : cX0_chain.data.toList.drop 0 = dktX0_chain_0 := by decide +kernel
theorem dX0_chain_0 : decode cX0_chain 0 = .ok (.aload_n 2, 1) := dk_44 (dk_at dksX0_chain_0 0 rfl rfl)
theorem dX0_chain_1 : decode cX0_chain 1 = .ok (.iconst 0, 1) := dk_3 (dk_at dksX0_chain_0 1 rfl rfl)
theorem dX0_chain_2 : decode cX0_chain 2 = .ok (.aload_n 0, 1) := dk_42 (dk_at dksX0_chain_0 2 rfl rfl)
theorem dX0_chain_3 : decode cX0_chain 3 = .ok (.iload_n 1, 1) := dk_27 (dk_at dksX0_chain_0 3 rfl rfl)
theorem dX0_chain_4 : decode cX0_chain 4 = .ok (.invokevirtual 73, 3) := dk_182 0 73 (dk_at dksX0_chain_0 4 rfl rfl)
theorem dX0_chain_7 : decode cX0_chain 7 = .ok (.i2l, 1) := dk_133 (dk_at dksX0_chain_0 7 rfl rfl)
theorem dX0_chain_8 : decode cX0_chain 8 = .ok (.lastore, 1) := dk_80 (dk_at dksX0_chain_0 8 rfl rfl)
theorem dX0_chain_9 : decode cX0_chain 9 = .ok (.goto 6, 3) := dk_167 0 6 (dk_at dksX0_chain_0 9 rfl rfl)
theorem dX0_chain_12 : decode cX0_chain 12 = .ok (.astore_n 3, 1) := dk_78 (dk_at dksX0_chain_0 12 rfl rfl)
theorem dX0_chain_13 : decode cX0_chain 13 = .ok (.iconst 1, 1) := dk_4 (dk_at dksX0_chain_0 13 rfl rfl)
theorem dX0_chain_14 : decode cX0_chain 14 = .ok (.ireturn, 1) := dk_172 (dk_at dksX0_chain_0 14 rfl rfl)
theorem dX0_chain_15 : decode cX0_chain 15 = .ok (.iconst 0, 1) := dk_3 (dk_at dksX0_chain_0 15 rfl rfl)
theorem dX0_chain_16 : decode cX0_chain 16 = .ok (.ireturn, 1) := dk_172 (dk_at dksX0_chain_0 16 rfl rfl)
abbrev cX0_ranked : ByteArray := method_21_code
def yX0_ranked : MethodName := ⟨RX0, "ranked", "(LMasterPrices;II[J)I"⟩
def dkwX0_ranked_0 : List UInt8 := [45, 3, 42, 27, 28, 182, 0, 76, 133, 80, 167, 0, 11, 58, 4, 4, 172, 58, 4, 5, 172, 3, 172]
abbrev dktX0_ranked_0 : List UInt8 := dkwX0_ranked_0 ++ []
theorem dksX0_ranked_0 : cX0_ranked.data.toList.drop 0 = dktX0_ranked_0 := by decide +kernel
theorem dX0_ranked_0 : decode cX0_ranked 0 = .ok (.aload_n 3, 1) := dk_45 (dk_at dksX0_ranked_0 0 rfl rfl)
theorem dX0_ranked_1 : decode cX0_ranked 1 = .ok (.iconst 0, 1) := dk_3 (dk_at dksX0_ranked_0 1 rfl rfl)
theorem dX0_ranked_2 : decode cX0_ranked 2 = .ok (.aload_n 0, 1) := dk_42 (dk_at dksX0_ranked_0 2 rfl rfl)
theorem dX0_ranked_3 : decode cX0_ranked 3 = .ok (.iload_n 1, 1) := dk_27 (dk_at dksX0_ranked_0 3 rfl rfl)
theorem dX0_ranked_4 : decode cX0_ranked 4 = .ok (.iload_n 2, 1) := dk_28 (dk_at dksX0_ranked_0 4 rfl rfl)
theorem dX0_ranked_5 : decode cX0_ranked 5 = .ok (.invokevirtual 76, 3) := dk_182 0 76 (dk_at dksX0_ranked_0 5 rfl rfl)
theorem dX0_ranked_8 : decode cX0_ranked 8 = .ok (.i2l, 1) := dk_133 (dk_at dksX0_ranked_0 8 rfl rfl)
theorem dX0_ranked_9 : decode cX0_ranked 9 = .ok (.lastore, 1) := dk_80 (dk_at dksX0_ranked_0 9 rfl rfl)
theorem dX0_ranked_10 : decode cX0_ranked 10 = .ok (.goto 11, 3) := dk_167 0 11 (dk_at dksX0_ranked_0 10 rfl rfl)
theorem dX0_ranked_13 : decode cX0_ranked 13 = .ok (.astore 4, 2) := dk_58 4 (dk_at dksX0_ranked_0 13 rfl rfl)
theorem dX0_ranked_15 : decode cX0_ranked 15 = .ok (.iconst 1, 1) := dk_4 (dk_at dksX0_ranked_0 15 rfl rfl)
theorem dX0_ranked_16 : decode cX0_ranked 16 = .ok (.ireturn, 1) := dk_172 (dk_at dksX0_ranked_0 16 rfl rfl)
theorem dX0_ranked_17 : decode cX0_ranked 17 = .ok (.astore 4, 2) := dk_58 4 (dk_at dksX0_ranked_0 17 rfl rfl)
theorem dX0_ranked_19 : decode cX0_ranked 19 = .ok (.iconst 2, 1) := dk_5 (dk_at dksX0_ranked_0 19 rfl rfl)
theorem dX0_ranked_20 : decode cX0_ranked 20 = .ok (.ireturn, 1) := dk_172 (dk_at dksX0_ranked_0 20 rfl rfl)
theorem dX0_ranked_21 : decode cX0_ranked 21 = .ok (.iconst 0, 1) := dk_3 (dk_at dksX0_ranked_0 21 rfl rfl)
theorem dX0_ranked_22 : decode cX0_ranked 22 = .ok (.ireturn, 1) := dk_172 (dk_at dksX0_ranked_0 22 rfl rfl)
abbrev cX0_feed : ByteArray := method_22_code
def yX0_feed : MethodName := ⟨RX0, "feed", "(LMasterPrices;C[J)I"⟩
def dkwX0_feed_0 : List UInt8 := [44, 3, 42, 27, 182, 0, 79, 133, 80, 167, 0, 6, 78, 4, 172, 3, 172]
abbrev dktX0_feed_0 : List UInt8 := dkwX0_feed_0 ++ []
theorem dksX0_feed_0 : cX0_feed.data.toList.drop 0 = dktX0_feed_0 := by decide +kernel
theorem dX0_feed_0 : decode cX0_feed 0 = .ok (.aload_n 2, 1) := dk_44 (dk_at dksX0_feed_0 0 rfl rfl)
theorem dX0_feed_1 : decode cX0_feed 1 = .ok (.iconst 0, 1) := dk_3 (dk_at dksX0_feed_0 1 rfl rfl)
theorem dX0_feed_2 : decode cX0_feed 2 = .ok (.aload_n 0, 1) := dk_42 (dk_at dksX0_feed_0 2 rfl rfl)
theorem dX0_feed_3 : decode cX0_feed 3 = .ok (.iload_n 1, 1) := dk_27 (dk_at dksX0_feed_0 3 rfl rfl)
theorem dX0_feed_4 : decode cX0_feed 4 = .ok (.invokevirtual 79, 3) := dk_182 0 79 (dk_at dksX0_feed_0 4 rfl rfl)
theorem dX0_feed_7 : decode cX0_feed 7 = .ok (.i2l, 1) := dk_133 (dk_at dksX0_feed_0 7 rfl rfl)
theorem dX0_feed_8 : decode cX0_feed 8 = .ok (.lastore, 1) := dk_80 (dk_at dksX0_feed_0 8 rfl rfl)
theorem dX0_feed_9 : decode cX0_feed 9 = .ok (.goto 6, 3) := dk_167 0 6 (dk_at dksX0_feed_0 9 rfl rfl)
theorem dX0_feed_12 : decode cX0_feed 12 = .ok (.astore_n 3, 1) := dk_78 (dk_at dksX0_feed_0 12 rfl rfl)
theorem dX0_feed_13 : decode cX0_feed 13 = .ok (.iconst 1, 1) := dk_4 (dk_at dksX0_feed_0 13 rfl rfl)
theorem dX0_feed_14 : decode cX0_feed 14 = .ok (.ireturn, 1) := dk_172 (dk_at dksX0_feed_0 14 rfl rfl)
theorem dX0_feed_15 : decode cX0_feed 15 = .ok (.iconst 0, 1) := dk_3 (dk_at dksX0_feed_0 15 rfl rfl)
theorem dX0_feed_16 : decode cX0_feed 16 = .ok (.ireturn, 1) := dk_172 (dk_at dksX0_feed_0 16 rfl rfl)
abbrev cX0_run : ByteArray := method_23_code
def yX0_run : MethodName := ⟨RX0, "run", "(LMasterPrices;[J)I"⟩
def dkwX0_run_0 : List UInt8 := [43, 3, 42, 182, 0, 85, 133, 80, 167, 0, 9, 77, 4, 172, 77, 5, 172, 3, 172]
abbrev dktX0_run_0 : List UInt8 := dkwX0_run_0 ++ []
theorem dksX0_run_0 : cX0_run.data.toList.drop 0 = dktX0_run_0 := by decide +kernel
theorem dX0_run_0 : decode cX0_run 0 = .ok (.aload_n 1, 1) := dk_43 (dk_at dksX0_run_0 0 rfl rfl)
theorem dX0_run_1 : decode cX0_run 1 = .ok (.iconst 0, 1) := dk_3 (dk_at dksX0_run_0 1 rfl rfl)
theorem dX0_run_2 : decode cX0_run 2 = .ok (.aload_n 0, 1) := dk_42 (dk_at dksX0_run_0 2 rfl rfl)
theorem dX0_run_3 : decode cX0_run 3 = .ok (.invokevirtual 85, 3) := dk_182 0 85 (dk_at dksX0_run_0 3 rfl rfl)
theorem dX0_run_6 : decode cX0_run 6 = .ok (.i2l, 1) := dk_133 (dk_at dksX0_run_0 6 rfl rfl)
theorem dX0_run_7 : decode cX0_run 7 = .ok (.lastore, 1) := dk_80 (dk_at dksX0_run_0 7 rfl rfl)
theorem dX0_run_8 : decode cX0_run 8 = .ok (.goto 9, 3) := dk_167 0 9 (dk_at dksX0_run_0 8 rfl rfl)
theorem dX0_run_11 : decode cX0_run 11 = .ok (.astore_n 2, 1) := dk_77 (dk_at dksX0_run_0 11 rfl rfl)
theorem dX0_run_12 : decode cX0_run 12 = .ok (.iconst 1, 1) := dk_4 (dk_at dksX0_run_0 12 rfl rfl)
theorem dX0_run_13 : decode cX0_run 13 = .ok (.ireturn, 1) := dk_172 (dk_at dksX0_run_0 13 rfl rfl)
theorem dX0_run_14 : decode cX0_run 14 = .ok (.astore_n 2, 1) := dk_77 (dk_at dksX0_run_0 14 rfl rfl)
theorem dX0_run_15 : decode cX0_run 15 = .ok (.iconst 2, 1) := dk_5 (dk_at dksX0_run_0 15 rfl rfl)
theorem dX0_run_16 : decode cX0_run 16 = .ok (.ireturn, 1) := dk_172 (dk_at dksX0_run_0 16 rfl rfl)
theorem dX0_run_17 : decode cX0_run 17 = .ok (.iconst 0, 1) := dk_3 (dk_at dksX0_run_0 17 rfl rfl)
theorem dX0_run_18 : decode cX0_run 18 = .ok (.ireturn, 1) := dk_172 (dk_at dksX0_run_0 18 rfl rfl)
abbrev cX0_faultPosition : ByteArray := method_24_code
def yX0_faultPosition : MethodName := ⟨RX0, "faultPosition", "(LMasterPrices;[J)I"⟩
def dkwX0_faultPosition_0 : List UInt8 := [43, 3, 42, 182, 0, 88, 133, 80, 167, 0, 6, 77, 4, 172, 3, 172]
abbrev dktX0_faultPosition_0 : List UInt8 := dkwX0_faultPosition_0 ++ []
theorem dksX0_faultPosition_0 : cX0_faultPosition.data.toList.drop 0 = dktX0_faultPosition_0 := by decide +kernel
theorem dX0_faultPosition_0 : decode cX0_faultPosition 0 = .ok (.aload_n 1, 1) := dk_43 (dk_at dksX0_faultPosition_0 0 rfl rfl)
theorem dX0_faultPosition_1 : decode cX0_faultPosition 1 = .ok (.iconst 0, 1) := dk_3 (dk_at dksX0_faultPosition_0 1 rfl rfl)
theorem dX0_faultPosition_2 : decode cX0_faultPosition 2 = .ok (.aload_n 0, 1) := dk_42 (dk_at dksX0_faultPosition_0 2 rfl rfl)
theorem dX0_faultPosition_3 : decode cX0_faultPosition 3 = .ok (.invokevirtual 88, 3) := dk_182 0 88 (dk_at dksX0_faultPosition_0 3 rfl rfl)
theorem dX0_faultPosition_6 : decode cX0_faultPosition 6 = .ok (.i2l, 1) := dk_133 (dk_at dksX0_faultPosition_0 6 rfl rfl)
theorem dX0_faultPosition_7 : decode cX0_faultPosition 7 = .ok (.lastore, 1) := dk_80 (dk_at dksX0_faultPosition_0 7 rfl rfl)
theorem dX0_faultPosition_8 : decode cX0_faultPosition 8 = .ok (.goto 6, 3) := dk_167 0 6 (dk_at dksX0_faultPosition_0 8 rfl rfl)
theorem dX0_faultPosition_11 : decode cX0_faultPosition 11 = .ok (.astore_n 2, 1) := dk_77 (dk_at dksX0_faultPosition_0 11 rfl rfl)
theorem dX0_faultPosition_12 : decode cX0_faultPosition 12 = .ok (.iconst 1, 1) := dk_4 (dk_at dksX0_faultPosition_0 12 rfl rfl)
theorem dX0_faultPosition_13 : decode cX0_faultPosition 13 = .ok (.ireturn, 1) := dk_172 (dk_at dksX0_faultPosition_0 13 rfl rfl)
theorem dX0_faultPosition_14 : decode cX0_faultPosition 14 = .ok (.iconst 0, 1) := dk_3 (dk_at dksX0_faultPosition_0 14 rfl rfl)
theorem dX0_faultPosition_15 : decode cX0_faultPosition 15 = .ok (.ireturn, 1) := dk_172 (dk_at dksX0_faultPosition_0 15 rfl rfl)
abbrev cX0_reason : ByteArray := method_25_code
def yX0_reason : MethodName := ⟨RX0, "reason", "(LMasterPrices;ZZ[J)I"⟩
def dkwX0_reason_0 : List UInt8 := [45, 3, 42, 27, 28, 182, 0, 91, 133, 80, 167, 0, 7, 58, 4, 4, 172, 3, 172]
abbrev dktX0_reason_0 : List UInt8 := dkwX0_reason_0 ++ []
theorem dksX0_reason_0 : cX0_reason.data.toList.drop 0 = dktX0_reason_0 := by decide +kernel
theorem dX0_reason_0 : decode cX0_reason 0 = .ok (.aload_n 3, 1) := dk_45 (dk_at dksX0_reason_0 0 rfl rfl)
theorem dX0_reason_1 : decode cX0_reason 1 = .ok (.iconst 0, 1) := dk_3 (dk_at dksX0_reason_0 1 rfl rfl)
theorem dX0_reason_2 : decode cX0_reason 2 = .ok (.aload_n 0, 1) := dk_42 (dk_at dksX0_reason_0 2 rfl rfl)
theorem dX0_reason_3 : decode cX0_reason 3 = .ok (.iload_n 1, 1) := dk_27 (dk_at dksX0_reason_0 3 rfl rfl)
theorem dX0_reason_4 : decode cX0_reason 4 = .ok (.iload_n 2, 1) := dk_28 (dk_at dksX0_reason_0 4 rfl rfl)
theorem dX0_reason_5 : decode cX0_reason 5 = .ok (.invokevirtual 91, 3) := dk_182 0 91 (dk_at dksX0_reason_0 5 rfl rfl)
theorem dX0_reason_8 : decode cX0_reason 8 = .ok (.i2l, 1) := dk_133 (dk_at dksX0_reason_0 8 rfl rfl)
theorem dX0_reason_9 : decode cX0_reason 9 = .ok (.lastore, 1) := dk_80 (dk_at dksX0_reason_0 9 rfl rfl)
theorem dX0_reason_10 : decode cX0_reason 10 = .ok (.goto 7, 3) := dk_167 0 7 (dk_at dksX0_reason_0 10 rfl rfl)
theorem dX0_reason_13 : decode cX0_reason 13 = .ok (.astore 4, 2) := dk_58 4 (dk_at dksX0_reason_0 13 rfl rfl)
theorem dX0_reason_15 : decode cX0_reason 15 = .ok (.iconst 1, 1) := dk_4 (dk_at dksX0_reason_0 15 rfl rfl)
theorem dX0_reason_16 : decode cX0_reason 16 = .ok (.ireturn, 1) := dk_172 (dk_at dksX0_reason_0 16 rfl rfl)
theorem dX0_reason_17 : decode cX0_reason 17 = .ok (.iconst 0, 1) := dk_3 (dk_at dksX0_reason_0 17 rfl rfl)
theorem dX0_reason_18 : decode cX0_reason 18 = .ok (.ireturn, 1) := dk_172 (dk_at dksX0_reason_0 18 rfl rfl)
abbrev cX0_line : ByteArray := method_26_code
def yX0_line : MethodName := ⟨RX0, "line", "(LMasterPrices;I[J)I"⟩
def dkwX0_line_0 : List UInt8 := [44, 3, 42, 27, 182, 0, 95, 133, 80, 167, 0, 6, 78, 4, 172, 3, 172]
abbrev dktX0_line_0 : List UInt8 := dkwX0_line_0 ++ []
theorem dksX0_line_0 : cX0_line.data.toList.drop 0 = dktX0_line_0 := by decide +kernel
theorem dX0_line_0 : decode cX0_line 0 = .ok (.aload_n 2, 1) := dk_44 (dk_at dksX0_line_0 0 rfl rfl)
theorem dX0_line_1 : decode cX0_line 1 = .ok (.iconst 0, 1) := dk_3 (dk_at dksX0_line_0 1 rfl rfl)
theorem dX0_line_2 : decode cX0_line 2 = .ok (.aload_n 0, 1) := dk_42 (dk_at dksX0_line_0 2 rfl rfl)
theorem dX0_line_3 : decode cX0_line 3 = .ok (.iload_n 1, 1) := dk_27 (dk_at dksX0_line_0 3 rfl rfl)
theorem dX0_line_4 : decode cX0_line 4 = .ok (.invokevirtual 95, 3) := dk_182 0 95 (dk_at dksX0_line_0 4 rfl rfl)
theorem dX0_line_7 : decode cX0_line 7 = .ok (.i2l, 1) := dk_133 (dk_at dksX0_line_0 7 rfl rfl)
theorem dX0_line_8 : decode cX0_line 8 = .ok (.lastore, 1) := dk_80 (dk_at dksX0_line_0 8 rfl rfl)
theorem dX0_line_9 : decode cX0_line 9 = .ok (.goto 6, 3) := dk_167 0 6 (dk_at dksX0_line_0 9 rfl rfl)
theorem dX0_line_12 : decode cX0_line 12 = .ok (.astore_n 3, 1) := dk_78 (dk_at dksX0_line_0 12 rfl rfl)
theorem dX0_line_13 : decode cX0_line 13 = .ok (.iconst 1, 1) := dk_4 (dk_at dksX0_line_0 13 rfl rfl)
theorem dX0_line_14 : decode cX0_line 14 = .ok (.ireturn, 1) := dk_172 (dk_at dksX0_line_0 14 rfl rfl)
theorem dX0_line_15 : decode cX0_line 15 = .ok (.iconst 0, 1) := dk_3 (dk_at dksX0_line_0 15 rfl rfl)
theorem dX0_line_16 : decode cX0_line 16 = .ok (.ireturn, 1) := dk_172 (dk_at dksX0_line_0 16 rfl rfl)
abbrev cX0_character : ByteArray := method_27_code
def yX0_character : MethodName := ⟨RX0, "character", "(LMasterPrices;I[J)I"⟩
def dkwX0_character_0 : List UInt8 := [44, 3, 42, 27, 182, 0, 98, 133, 80, 167, 0, 6, 78, 4, 172, 3, 172]
abbrev dktX0_character_0 : List UInt8 := dkwX0_character_0 ++ []
theorem dksX0_character_0 : cX0_character.data.toList.drop 0 = dktX0_character_0 := by decide +kernel
theorem dX0_character_0 : decode cX0_character 0 = .ok (.aload_n 2, 1) := dk_44 (dk_at dksX0_character_0 0 rfl rfl)
theorem dX0_character_1 : decode cX0_character 1 = .ok (.iconst 0, 1) := dk_3 (dk_at dksX0_character_0 1 rfl rfl)
theorem dX0_character_2 : decode cX0_character 2 = .ok (.aload_n 0, 1) := dk_42 (dk_at dksX0_character_0 2 rfl rfl)
theorem dX0_character_3 : decode cX0_character 3 = .ok (.iload_n 1, 1) := dk_27 (dk_at dksX0_character_0 3 rfl rfl)
theorem dX0_character_4 : decode cX0_character 4 = .ok (.invokevirtual 98, 3) := dk_182 0 98 (dk_at dksX0_character_0 4 rfl rfl)
theorem dX0_character_7 : decode cX0_character 7 = .ok (.i2l, 1) := dk_133 (dk_at dksX0_character_0 7 rfl rfl)
theorem dX0_character_8 : decode cX0_character 8 = .ok (.lastore, 1) := dk_80 (dk_at dksX0_character_0 8 rfl rfl)
theorem dX0_character_9 : decode cX0_character 9 = .ok (.goto 6, 3) := dk_167 0 6 (dk_at dksX0_character_0 9 rfl rfl)
theorem dX0_character_12 : decode cX0_character 12 = .ok (.astore_n 3, 1) := dk_78 (dk_at dksX0_character_0 12 rfl rfl)
theorem dX0_character_13 : decode cX0_character 13 = .ok (.iconst 1, 1) := dk_4 (dk_at dksX0_character_0 13 rfl rfl)
theorem dX0_character_14 : decode cX0_character 14 = .ok (.ireturn, 1) := dk_172 (dk_at dksX0_character_0 14 rfl rfl)
theorem dX0_character_15 : decode cX0_character 15 = .ok (.iconst 0, 1) := dk_3 (dk_at dksX0_character_0 15 rfl rfl)
theorem dX0_character_16 : decode cX0_character 16 = .ok (.ireturn, 1) := dk_172 (dk_at dksX0_character_0 16 rfl rfl)
abbrev cX0_meanPrice : ByteArray := method_28_code
def yX0_meanPrice : MethodName := ⟨RX0, "meanPrice", "(LMasterPrices;[D)I"⟩
def dkwX0_meanPrice_0 : List UInt8 := [43, 3, 42, 182, 0, 102, 82, 167, 0, 6, 77, 4, 172, 3, 172]
abbrev dktX0_meanPrice_0 : List UInt8 := dkwX0_meanPrice_0 ++ []
theorem dksX0_meanPrice_0 : cX0_meanPrice.data.toList.drop 0 = dktX0_meanPrice_0 := by decide +kernel
theorem dX0_meanPrice_0 : decode cX0_meanPrice 0 = .ok (.aload_n 1, 1) := dk_43 (dk_at dksX0_meanPrice_0 0 rfl rfl)
theorem dX0_meanPrice_1 : decode cX0_meanPrice 1 = .ok (.iconst 0, 1) := dk_3 (dk_at dksX0_meanPrice_0 1 rfl rfl)
theorem dX0_meanPrice_2 : decode cX0_meanPrice 2 = .ok (.aload_n 0, 1) := dk_42 (dk_at dksX0_meanPrice_0 2 rfl rfl)
theorem dX0_meanPrice_3 : decode cX0_meanPrice 3 = .ok (.invokevirtual 102, 3) := dk_182 0 102 (dk_at dksX0_meanPrice_0 3 rfl rfl)
theorem dX0_meanPrice_6 : decode cX0_meanPrice 6 = .ok (.dastore, 1) := dk_82 (dk_at dksX0_meanPrice_0 6 rfl rfl)
theorem dX0_meanPrice_7 : decode cX0_meanPrice 7 = .ok (.goto 6, 3) := dk_167 0 6 (dk_at dksX0_meanPrice_0 7 rfl rfl)
theorem dX0_meanPrice_10 : decode cX0_meanPrice 10 = .ok (.astore_n 2, 1) := dk_77 (dk_at dksX0_meanPrice_0 10 rfl rfl)
theorem dX0_meanPrice_11 : decode cX0_meanPrice 11 = .ok (.iconst 1, 1) := dk_4 (dk_at dksX0_meanPrice_0 11 rfl rfl)
theorem dX0_meanPrice_12 : decode cX0_meanPrice 12 = .ok (.ireturn, 1) := dk_172 (dk_at dksX0_meanPrice_0 12 rfl rfl)
theorem dX0_meanPrice_13 : decode cX0_meanPrice 13 = .ok (.iconst 0, 1) := dk_3 (dk_at dksX0_meanPrice_0 13 rfl rfl)
theorem dX0_meanPrice_14 : decode cX0_meanPrice 14 = .ok (.ireturn, 1) := dk_172 (dk_at dksX0_meanPrice_0 14 rfl rfl)
abbrev cX0_likedShare : ByteArray := method_29_code
def yX0_likedShare : MethodName := ⟨RX0, "likedShare", "(LMasterPrices;[D)I"⟩
def dkwX0_likedShare_0 : List UInt8 := [43, 3, 42, 182, 0, 108, 141, 82, 167, 0, 6, 77, 4, 172, 3, 172]
abbrev dktX0_likedShare_0 : List UInt8 := dkwX0_likedShare_0 ++ []
theorem dksX0_likedShare_0 : cX0_likedShare.data.toList.drop 0 = dktX0_likedShare_0 := by decide +kernel
theorem dX0_likedShare_0 : decode cX0_likedShare 0 = .ok (.aload_n 1, 1) := dk_43 (dk_at dksX0_likedShare_0 0 rfl rfl)
theorem dX0_likedShare_1 : decode cX0_likedShare 1 = .ok (.iconst 0, 1) := dk_3 (dk_at dksX0_likedShare_0 1 rfl rfl)
theorem dX0_likedShare_2 : decode cX0_likedShare 2 = .ok (.aload_n 0, 1) := dk_42 (dk_at dksX0_likedShare_0 2 rfl rfl)
theorem dX0_likedShare_3 : decode cX0_likedShare 3 = .ok (.invokevirtual 108, 3) := dk_182 0 108 (dk_at dksX0_likedShare_0 3 rfl rfl)
theorem dX0_likedShare_6 : decode cX0_likedShare 6 = .ok (.f2d, 1) := dk_141 (dk_at dksX0_likedShare_0 6 rfl rfl)
theorem dX0_likedShare_7 : decode cX0_likedShare 7 = .ok (.dastore, 1) := dk_82 (dk_at dksX0_likedShare_0 7 rfl rfl)
theorem dX0_likedShare_8 : decode cX0_likedShare 8 = .ok (.goto 6, 3) := dk_167 0 6 (dk_at dksX0_likedShare_0 8 rfl rfl)
theorem dX0_likedShare_11 : decode cX0_likedShare 11 = .ok (.astore_n 2, 1) := dk_77 (dk_at dksX0_likedShare_0 11 rfl rfl)
theorem dX0_likedShare_12 : decode cX0_likedShare 12 = .ok (.iconst 1, 1) := dk_4 (dk_at dksX0_likedShare_0 12 rfl rfl)
theorem dX0_likedShare_13 : decode cX0_likedShare 13 = .ok (.ireturn, 1) := dk_172 (dk_at dksX0_likedShare_0 13 rfl rfl)
theorem dX0_likedShare_14 : decode cX0_likedShare 14 = .ok (.iconst 0, 1) := dk_3 (dk_at dksX0_likedShare_0 14 rfl rfl)
theorem dX0_likedShare_15 : decode cX0_likedShare 15 = .ok (.ireturn, 1) := dk_172 (dk_at dksX0_likedShare_0 15 rfl rfl)
abbrev cX0_account : ByteArray := method_30_code
def yX0_account : MethodName := ⟨RX0, "account", "(LMasterPrices;I[J)I"⟩
def dkwX0_account_0 : List UInt8 := [44, 3, 42, 27, 182, 0, 112, 133, 80, 167, 0, 6, 78, 4, 172, 3, 172]
abbrev dktX0_account_0 : List UInt8 := dkwX0_account_0 ++ []
theorem dksX0_account_0 : cX0_account.data.toList.drop 0 = dktX0_account_0 := by decide +kernel
theorem dX0_account_0 : decode cX0_account 0 = .ok (.aload_n 2, 1) := dk_44 (dk_at dksX0_account_0 0 rfl rfl)
theorem dX0_account_1 : decode cX0_account 1 = .ok (.iconst 0, 1) := dk_3 (dk_at dksX0_account_0 1 rfl rfl)
theorem dX0_account_2 : decode cX0_account 2 = .ok (.aload_n 0, 1) := dk_42 (dk_at dksX0_account_0 2 rfl rfl)
theorem dX0_account_3 : decode cX0_account 3 = .ok (.iload_n 1, 1) := dk_27 (dk_at dksX0_account_0 3 rfl rfl)
theorem dX0_account_4 : decode cX0_account 4 = .ok (.invokevirtual 112, 3) := dk_182 0 112 (dk_at dksX0_account_0 4 rfl rfl)
theorem dX0_account_7 : decode cX0_account 7 = .ok (.i2l, 1) := dk_133 (dk_at dksX0_account_0 7 rfl rfl)
theorem dX0_account_8 : decode cX0_account 8 = .ok (.lastore, 1) := dk_80 (dk_at dksX0_account_0 8 rfl rfl)
theorem dX0_account_9 : decode cX0_account 9 = .ok (.goto 6, 3) := dk_167 0 6 (dk_at dksX0_account_0 9 rfl rfl)
theorem dX0_account_12 : decode cX0_account 12 = .ok (.astore_n 3, 1) := dk_78 (dk_at dksX0_account_0 12 rfl rfl)
theorem dX0_account_13 : decode cX0_account 13 = .ok (.iconst 1, 1) := dk_4 (dk_at dksX0_account_0 13 rfl rfl)
theorem dX0_account_14 : decode cX0_account 14 = .ok (.ireturn, 1) := dk_172 (dk_at dksX0_account_0 14 rfl rfl)
theorem dX0_account_15 : decode cX0_account 15 = .ok (.iconst 0, 1) := dk_3 (dk_at dksX0_account_0 15 rfl rfl)
theorem dX0_account_16 : decode cX0_account 16 = .ok (.ireturn, 1) := dk_172 (dk_at dksX0_account_0 16 rfl rfl)
abbrev cX0_undo : ByteArray := method_31_code
def yX0_undo : MethodName := ⟨RX0, "undo", "(LMasterPrices;[J)I"⟩
def dkwX0_undo_0 : List UInt8 := [43, 3, 42, 182, 0, 115, 133, 80, 167, 0, 6, 77, 4, 172, 3, 172]
abbrev dktX0_undo_0 : List UInt8 := dkwX0_undo_0 ++ []
theorem dksX0_undo_0 : cX0_undo.data.toList.drop 0 = dktX0_undo_0 := by decide +kernel
theorem dX0_undo_0 : decode cX0_undo 0 = .ok (.aload_n 1, 1) := dk_43 (dk_at dksX0_undo_0 0 rfl rfl)
theorem dX0_undo_1 : decode cX0_undo 1 = .ok (.iconst 0, 1) := dk_3 (dk_at dksX0_undo_0 1 rfl rfl)
theorem dX0_undo_2 : decode cX0_undo 2 = .ok (.aload_n 0, 1) := dk_42 (dk_at dksX0_undo_0 2 rfl rfl)
theorem dX0_undo_3 : decode cX0_undo 3 = .ok (.invokevirtual 115, 3) := dk_182 0 115 (dk_at dksX0_undo_0 3 rfl rfl)
theorem dX0_undo_6 : decode cX0_undo 6 = .ok (.i2l, 1) := dk_133 (dk_at dksX0_undo_0 6 rfl rfl)
theorem dX0_undo_7 : decode cX0_undo 7 = .ok (.lastore, 1) := dk_80 (dk_at dksX0_undo_0 7 rfl rfl)
theorem dX0_undo_8 : decode cX0_undo 8 = .ok (.goto 6, 3) := dk_167 0 6 (dk_at dksX0_undo_0 8 rfl rfl)
theorem dX0_undo_11 : decode cX0_undo 11 = .ok (.astore_n 2, 1) := dk_77 (dk_at dksX0_undo_0 11 rfl rfl)
theorem dX0_undo_12 : decode cX0_undo 12 = .ok (.iconst 1, 1) := dk_4 (dk_at dksX0_undo_0 12 rfl rfl)
theorem dX0_undo_13 : decode cX0_undo 13 = .ok (.ireturn, 1) := dk_172 (dk_at dksX0_undo_0 13 rfl rfl)
theorem dX0_undo_14 : decode cX0_undo 14 = .ok (.iconst 0, 1) := dk_3 (dk_at dksX0_undo_0 14 rfl rfl)
theorem dX0_undo_15 : decode cX0_undo 15 = .ok (.ireturn, 1) := dk_172 (dk_at dksX0_undo_0 15 rfl rfl)
abbrev cX0_restore : ByteArray := method_32_code
def yX0_restore : MethodName := ⟨RX0, "restore", "(LMasterPrices;[J)I"⟩
def dkwX0_restore_0 : List UInt8 := [43, 3, 42, 182, 0, 118, 133, 80, 167, 0, 6, 77, 4, 172, 3, 172]
abbrev dktX0_restore_0 : List UInt8 := dkwX0_restore_0 ++ []
theorem dksX0_restore_0 : cX0_restore.data.toList.drop 0 = dktX0_restore_0 := by decide +kernel
theorem dX0_restore_0 : decode cX0_restore 0 = .ok (.aload_n 1, 1) := dk_43 (dk_at dksX0_restore_0 0 rfl rfl)
theorem dX0_restore_1 : decode cX0_restore 1 = .ok (.iconst 0, 1) := dk_3 (dk_at dksX0_restore_0 1 rfl rfl)
theorem dX0_restore_2 : decode cX0_restore 2 = .ok (.aload_n 0, 1) := dk_42 (dk_at dksX0_restore_0 2 rfl rfl)
theorem dX0_restore_3 : decode cX0_restore 3 = .ok (.invokevirtual 118, 3) := dk_182 0 118 (dk_at dksX0_restore_0 3 rfl rfl)
theorem dX0_restore_6 : decode cX0_restore 6 = .ok (.i2l, 1) := dk_133 (dk_at dksX0_restore_0 6 rfl rfl)
theorem dX0_restore_7 : decode cX0_restore 7 = .ok (.lastore, 1) := dk_80 (dk_at dksX0_restore_0 7 rfl rfl)
theorem dX0_restore_8 : decode cX0_restore 8 = .ok (.goto 6, 3) := dk_167 0 6 (dk_at dksX0_restore_0 8 rfl rfl)
theorem dX0_restore_11 : decode cX0_restore 11 = .ok (.astore_n 2, 1) := dk_77 (dk_at dksX0_restore_0 11 rfl rfl)
theorem dX0_restore_12 : decode cX0_restore 12 = .ok (.iconst 1, 1) := dk_4 (dk_at dksX0_restore_0 12 rfl rfl)
theorem dX0_restore_13 : decode cX0_restore 13 = .ok (.ireturn, 1) := dk_172 (dk_at dksX0_restore_0 13 rfl rfl)
theorem dX0_restore_14 : decode cX0_restore 14 = .ok (.iconst 0, 1) := dk_3 (dk_at dksX0_restore_0 14 rfl rfl)
theorem dX0_restore_15 : decode cX0_restore 15 = .ok (.ireturn, 1) := dk_172 (dk_at dksX0_restore_0 15 rfl rfl)
theorem q92 : (Jvm.Cond.initialized "MasterPricesLaw") ∈ lw_all := lw_g (lw_at lw_m1 0 rfl) rfl
theorem q136 : (Jvm.Cond.classLink "MasterPricesLaw" (8 : Nat) "MasterPrices") ∈ lw_all := lw_g (lw_at lw_m1 44 rfl) rfl
theorem q138 : (Jvm.Cond.methodLink "MasterPricesLaw" (121 : Nat) ({ cls := "MasterPrices", name := "<init>", desc := "()V" } : Jvm.MethodName)) ∈ lw_all := lw_g (lw_at lw_m1 46 rfl) rfl
theorem q277 : (Jvm.Cond.methodLink "MasterPricesLaw" (155 : Nat) ({ cls := "MasterPrices", name := "year", desc := "()I" } : Jvm.MethodName)) ∈ lw_all := lw_g (lw_at lw_m1 185 rfl) rfl
theorem q667 : (Jvm.Cond.methodLink "MasterPricesLaw" (186 : Nat) ({ cls := "MasterPrices", name := "most", desc := "()I" } : Jvm.MethodName)) ∈ lw_all := lw_g (lw_at lw_m3 95 rfl) rfl
theorem q672 : (Jvm.Cond.methodLink "MasterPricesLaw" (216 : Nat) ({ cls := "MasterPrices", name := "pairing", desc := "()I" } : Jvm.MethodName)) ∈ lw_all := lw_g (lw_at lw_m3 100 rfl) rfl
theorem q940 : (Jvm.Cond.methodLink "MasterPricesLaw" (233 : Nat) ({ cls := "MasterPrices", name := "isBalanced", desc := "()Z" } : Jvm.MethodName)) ∈ lw_all := lw_g (lw_at lw_m4 128 rfl) rfl
theorem q957 : (Jvm.Cond.methodLink "MasterPricesLaw" (241 : Nat) ({ cls := "MasterPrices", name := "save", desc := "()I" } : Jvm.MethodName)) ∈ lw_all := lw_g (lw_at lw_m4 145 rfl) rfl
theorem q968 : (Jvm.Cond.methodLink "MasterPricesLaw" (125 : Nat) ({ cls := "MasterPricesLaw", name := "apprentice", desc := "(LMasterPrices;[J)I" } : Jvm.MethodName)) ∈ lw_all := lw_g (lw_at lw_m4 156 rfl) rfl
theorem q969 : (Jvm.Cond.static ({ cls := "MasterPricesLaw", name := "apprentice", desc := "(LMasterPrices;[J)I" } : Jvm.MethodName)) ∈ lw_all := lw_g (lw_at lw_m4 157 rfl) rfl
theorem q970 : (Jvm.Cond.codeWith ({ cls := "MasterPricesLaw", name := "apprentice", desc := "(LMasterPrices;[J)I" } : Jvm.MethodName) method_3_code (3 : Nat) (Option.some Jvm.ClassFile.FieldType.int) [((0 : Nat), (8 : Nat), (11 : Nat), (13 : Nat))]) ∈ lw_all := lw_g (lw_at lw_m4 158 rfl) rfl
theorem q971 : (Jvm.Cond.classLink "MasterPricesLaw" (13 : Nat) "java/lang/UnsupportedOperationException") ∈ lw_all := lw_g (lw_at lw_m4 159 rfl) rfl
theorem q972 : (Jvm.Cond.methodLink "MasterPricesLaw" (7 : Nat) ({ cls := "MasterPrices", name := "apprentice", desc := "()I" } : Jvm.MethodName)) ∈ lw_all := lw_g (lw_at lw_m4 160 rfl) rfl
theorem q986 : (Jvm.Cond.methodLink "MasterPricesLaw" (134 : Nat) ({ cls := "MasterPricesLaw", name := "master", desc := "(LMasterPrices;[J)I" } : Jvm.MethodName)) ∈ lw_all := lw_g (lw_at lw_m4 174 rfl) rfl
theorem q987 : (Jvm.Cond.static ({ cls := "MasterPricesLaw", name := "master", desc := "(LMasterPrices;[J)I" } : Jvm.MethodName)) ∈ lw_all := lw_g (lw_at lw_m4 175 rfl) rfl
theorem q988 : (Jvm.Cond.codeWith ({ cls := "MasterPricesLaw", name := "master", desc := "(LMasterPrices;[J)I" } : Jvm.MethodName) method_4_code (3 : Nat) (Option.some Jvm.ClassFile.FieldType.int) [((0 : Nat), (8 : Nat), (11 : Nat), (13 : Nat))]) ∈ lw_all := lw_g (lw_at lw_m4 176 rfl) rfl
theorem q989 : (Jvm.Cond.methodLink "MasterPricesLaw" (15 : Nat) ({ cls := "MasterPrices", name := "master", desc := "()I" } : Jvm.MethodName)) ∈ lw_all := lw_g (lw_at lw_m4 177 rfl) rfl
theorem q993 : (Jvm.Cond.methodLink "MasterPricesLaw" (137 : Nat) ({ cls := "MasterPricesLaw", name := "cost", desc := "(LMasterPrices;III[J)I" } : Jvm.MethodName)) ∈ lw_all := lw_g (lw_at lw_m4 181 rfl) rfl
theorem q994 : (Jvm.Cond.static ({ cls := "MasterPricesLaw", name := "cost", desc := "(LMasterPrices;III[J)I" } : Jvm.MethodName)) ∈ lw_all := lw_g (lw_at lw_m4 182 rfl) rfl
theorem q995 : (Jvm.Cond.codeWith ({ cls := "MasterPricesLaw", name := "cost", desc := "(LMasterPrices;III[J)I" } : Jvm.MethodName) method_5_code (6 : Nat) (Option.some Jvm.ClassFile.FieldType.int) [((0 : Nat), (12 : Nat), (15 : Nat), (13 : Nat))]) ∈ lw_all := lw_g (lw_at lw_m4 183 rfl) rfl
theorem q996 : (Jvm.Cond.methodLink "MasterPricesLaw" (18 : Nat) ({ cls := "MasterPrices", name := "cost", desc := "(III)I" } : Jvm.MethodName)) ∈ lw_all := lw_g (lw_at lw_m4 184 rfl) rfl
theorem q1025 : (Jvm.Cond.methodLink "MasterPricesLaw" (141 : Nat) ({ cls := "MasterPricesLaw", name := "bar", desc := "(LMasterPrices;II[J)I" } : Jvm.MethodName)) ∈ lw_all := lw_g (lw_at lw_m4 213 rfl) rfl
theorem q1026 : (Jvm.Cond.static ({ cls := "MasterPricesLaw", name := "bar", desc := "(LMasterPrices;II[J)I" } : Jvm.MethodName)) ∈ lw_all := lw_g (lw_at lw_m4 214 rfl) rfl
theorem q1027 : (Jvm.Cond.codeWith ({ cls := "MasterPricesLaw", name := "bar", desc := "(LMasterPrices;II[J)I" } : Jvm.MethodName) method_6_code (5 : Nat) (Option.some Jvm.ClassFile.FieldType.int) [((0 : Nat), (10 : Nat), (13 : Nat), (13 : Nat))]) ∈ lw_all := lw_g (lw_at lw_m4 215 rfl) rfl
theorem q1028 : (Jvm.Cond.methodLink "MasterPricesLaw" (22 : Nat) ({ cls := "MasterPrices", name := "bar", desc := "(II)I" } : Jvm.MethodName)) ∈ lw_all := lw_g (lw_at lw_m4 216 rfl) rfl
theorem q1035 : (Jvm.Cond.methodLink "MasterPricesLaw" (145 : Nat) ({ cls := "MasterPricesLaw", name := "bid", desc := "(LMasterPrices;[J)I" } : Jvm.MethodName)) ∈ lw_all := lw_g (lw_at lw_m4 223 rfl) rfl
theorem q1036 : (Jvm.Cond.static ({ cls := "MasterPricesLaw", name := "bid", desc := "(LMasterPrices;[J)I" } : Jvm.MethodName)) ∈ lw_all := lw_g (lw_at lw_m4 224 rfl) rfl
theorem q1037 : (Jvm.Cond.codeWith ({ cls := "MasterPricesLaw", name := "bid", desc := "(LMasterPrices;[J)I" } : Jvm.MethodName) method_7_code (3 : Nat) (Option.some Jvm.ClassFile.FieldType.int) [((0 : Nat), (8 : Nat), (11 : Nat), (13 : Nat))]) ∈ lw_all := lw_g (lw_at lw_m4 225 rfl) rfl
theorem q1038 : (Jvm.Cond.methodLink "MasterPricesLaw" (26 : Nat) ({ cls := "MasterPrices", name := "bid", desc := "()I" } : Jvm.MethodName)) ∈ lw_all := lw_g (lw_at lw_m4 226 rfl) rfl
theorem q1044 : (Jvm.Cond.methodLink "MasterPricesLaw" (148 : Nat) ({ cls := "MasterPricesLaw", name := "settle", desc := "(LMasterPrices;[J)I" } : Jvm.MethodName)) ∈ lw_all := lw_g (lw_at lw_m4 232 rfl) rfl
theorem q1045 : (Jvm.Cond.static ({ cls := "MasterPricesLaw", name := "settle", desc := "(LMasterPrices;[J)I" } : Jvm.MethodName)) ∈ lw_all := lw_g (lw_at lw_m4 233 rfl) rfl
theorem q1046 : (Jvm.Cond.codeWith ({ cls := "MasterPricesLaw", name := "settle", desc := "(LMasterPrices;[J)I" } : Jvm.MethodName) method_8_code (3 : Nat) (Option.some Jvm.ClassFile.FieldType.int) [((0 : Nat), (8 : Nat), (11 : Nat), (13 : Nat))]) ∈ lw_all := lw_g (lw_at lw_m4 234 rfl) rfl
theorem q1047 : (Jvm.Cond.methodLink "MasterPricesLaw" (29 : Nat) ({ cls := "MasterPrices", name := "settle", desc := "()I" } : Jvm.MethodName)) ∈ lw_all := lw_g (lw_at lw_m4 235 rfl) rfl
theorem q1053 : (Jvm.Cond.methodLink "MasterPricesLaw" (151 : Nat) ({ cls := "MasterPricesLaw", name := "leave", desc := "(LMasterPrices;I[J)I" } : Jvm.MethodName)) ∈ lw_all := lw_g (lw_at lw_m5 1 rfl) rfl
theorem q1054 : (Jvm.Cond.static ({ cls := "MasterPricesLaw", name := "leave", desc := "(LMasterPrices;I[J)I" } : Jvm.MethodName)) ∈ lw_all := lw_g (lw_at lw_m5 2 rfl) rfl
theorem q1055 : (Jvm.Cond.codeWith ({ cls := "MasterPricesLaw", name := "leave", desc := "(LMasterPrices;I[J)I" } : Jvm.MethodName) method_9_code (4 : Nat) (Option.some Jvm.ClassFile.FieldType.int) [((0 : Nat), (9 : Nat), (12 : Nat), (13 : Nat))]) ∈ lw_all := lw_g (lw_at lw_m5 3 rfl) rfl
theorem q1056 : (Jvm.Cond.methodLink "MasterPricesLaw" (32 : Nat) ({ cls := "MasterPrices", name := "leave", desc := "(I)I" } : Jvm.MethodName)) ∈ lw_all := lw_g (lw_at lw_m5 4 rfl) rfl
theorem q1070 : (Jvm.Cond.methodLink "MasterPricesLaw" (159 : Nat) ({ cls := "MasterPricesLaw", name := "costOf", desc := "(LMasterPrices;II[J)I" } : Jvm.MethodName)) ∈ lw_all := lw_g (lw_at lw_m5 18 rfl) rfl
theorem q1071 : (Jvm.Cond.static ({ cls := "MasterPricesLaw", name := "costOf", desc := "(LMasterPrices;II[J)I" } : Jvm.MethodName)) ∈ lw_all := lw_g (lw_at lw_m5 19 rfl) rfl
theorem q1072 : (Jvm.Cond.codeWith ({ cls := "MasterPricesLaw", name := "costOf", desc := "(LMasterPrices;II[J)I" } : Jvm.MethodName) method_10_code (5 : Nat) (Option.some Jvm.ClassFile.FieldType.int) [((0 : Nat), (10 : Nat), (13 : Nat), (39 : Nat))]) ∈ lw_all := lw_g (lw_at lw_m5 20 rfl) rfl
theorem q1073 : (Jvm.Cond.classLink "MasterPricesLaw" (39 : Nat) "java/lang/IndexOutOfBoundsException") ∈ lw_all := lw_g (lw_at lw_m5 21 rfl) rfl
theorem q1097 : (Jvm.Cond.methodLink "MasterPricesLaw" (36 : Nat) ({ cls := "MasterPrices", name := "costOf", desc := "(II)I" } : Jvm.MethodName)) ∈ lw_all := lw_g (lw_at lw_m5 45 rfl) rfl
theorem q1132 : (Jvm.Cond.methodLink "MasterPricesLaw" (162 : Nat) ({ cls := "MasterPricesLaw", name := "burden", desc := "(LMasterPrices;II[J)I" } : Jvm.MethodName)) ∈ lw_all := lw_g (lw_at lw_m5 80 rfl) rfl
theorem q1133 : (Jvm.Cond.static ({ cls := "MasterPricesLaw", name := "burden", desc := "(LMasterPrices;II[J)I" } : Jvm.MethodName)) ∈ lw_all := lw_g (lw_at lw_m5 81 rfl) rfl
theorem q1134 : (Jvm.Cond.codeWith ({ cls := "MasterPricesLaw", name := "burden", desc := "(LMasterPrices;II[J)I" } : Jvm.MethodName) method_11_code (5 : Nat) (Option.some Jvm.ClassFile.FieldType.int) [((0 : Nat), (10 : Nat), (13 : Nat), (39 : Nat)), ((0 : Nat), (10 : Nat), (17 : Nat), (44 : Nat))]) ∈ lw_all := lw_g (lw_at lw_m5 82 rfl) rfl
theorem q1135 : (Jvm.Cond.classLink "MasterPricesLaw" (44 : Nat) "java/util/NoSuchElementException") ∈ lw_all := lw_g (lw_at lw_m5 83 rfl) rfl
theorem q1136 : (Jvm.Cond.methodLink "MasterPricesLaw" (41 : Nat) ({ cls := "MasterPrices", name := "burden", desc := "(II)I" } : Jvm.MethodName)) ∈ lw_all := lw_g (lw_at lw_m5 84 rfl) rfl
theorem q1147 : (Jvm.Cond.methodLink "MasterPricesLaw" (165 : Nat) ({ cls := "MasterPricesLaw", name := "apprenticeOf", desc := "(LMasterPrices;II[J)I" } : Jvm.MethodName)) ∈ lw_all := lw_g (lw_at lw_m5 95 rfl) rfl
theorem q1148 : (Jvm.Cond.static ({ cls := "MasterPricesLaw", name := "apprenticeOf", desc := "(LMasterPrices;II[J)I" } : Jvm.MethodName)) ∈ lw_all := lw_g (lw_at lw_m5 96 rfl) rfl
theorem q1149 : (Jvm.Cond.codeWith ({ cls := "MasterPricesLaw", name := "apprenticeOf", desc := "(LMasterPrices;II[J)I" } : Jvm.MethodName) method_12_code (5 : Nat) (Option.some Jvm.ClassFile.FieldType.int) [((0 : Nat), (10 : Nat), (13 : Nat), (39 : Nat)), ((0 : Nat), (10 : Nat), (17 : Nat), (49 : Nat))]) ∈ lw_all := lw_g (lw_at lw_m5 97 rfl) rfl
theorem q1150 : (Jvm.Cond.classLink "MasterPricesLaw" (49 : Nat) "java/lang/IllegalArgumentException") ∈ lw_all := lw_g (lw_at lw_m5 98 rfl) rfl
theorem q1151 : (Jvm.Cond.methodLink "MasterPricesLaw" (46 : Nat) ({ cls := "MasterPrices", name := "apprenticeOf", desc := "(II)I" } : Jvm.MethodName)) ∈ lw_all := lw_g (lw_at lw_m5 99 rfl) rfl
theorem q1191 : (Jvm.Cond.methodLink "MasterPricesLaw" (168 : Nat) ({ cls := "MasterPricesLaw", name := "masterOf", desc := "(LMasterPrices;II[J)I" } : Jvm.MethodName)) ∈ lw_all := lw_g (lw_at lw_m5 139 rfl) rfl
theorem q1192 : (Jvm.Cond.static ({ cls := "MasterPricesLaw", name := "masterOf", desc := "(LMasterPrices;II[J)I" } : Jvm.MethodName)) ∈ lw_all := lw_g (lw_at lw_m5 140 rfl) rfl
theorem q1193 : (Jvm.Cond.codeWith ({ cls := "MasterPricesLaw", name := "masterOf", desc := "(LMasterPrices;II[J)I" } : Jvm.MethodName) method_13_code (5 : Nat) (Option.some Jvm.ClassFile.FieldType.int) [((0 : Nat), (10 : Nat), (13 : Nat), (39 : Nat)), ((0 : Nat), (10 : Nat), (17 : Nat), (49 : Nat))]) ∈ lw_all := lw_g (lw_at lw_m5 141 rfl) rfl
theorem q1194 : (Jvm.Cond.methodLink "MasterPricesLaw" (51 : Nat) ({ cls := "MasterPrices", name := "masterOf", desc := "(II)I" } : Jvm.MethodName)) ∈ lw_all := lw_g (lw_at lw_m5 142 rfl) rfl
theorem q1210 : (Jvm.Cond.methodLink "MasterPricesLaw" (171 : Nat) ({ cls := "MasterPricesLaw", name := "served", desc := "(LMasterPrices;II[J)I" } : Jvm.MethodName)) ∈ lw_all := lw_g (lw_at lw_m5 158 rfl) rfl
theorem q1211 : (Jvm.Cond.static ({ cls := "MasterPricesLaw", name := "served", desc := "(LMasterPrices;II[J)I" } : Jvm.MethodName)) ∈ lw_all := lw_g (lw_at lw_m5 159 rfl) rfl
theorem q1212 : (Jvm.Cond.codeWith ({ cls := "MasterPricesLaw", name := "served", desc := "(LMasterPrices;II[J)I" } : Jvm.MethodName) method_14_code (5 : Nat) (Option.some Jvm.ClassFile.FieldType.int) [((0 : Nat), (10 : Nat), (13 : Nat), (39 : Nat))]) ∈ lw_all := lw_g (lw_at lw_m5 160 rfl) rfl
theorem q1213 : (Jvm.Cond.methodLink "MasterPricesLaw" (54 : Nat) ({ cls := "MasterPrices", name := "served", desc := "(II)I" } : Jvm.MethodName)) ∈ lw_all := lw_g (lw_at lw_m5 161 rfl) rfl
theorem q1217 : (Jvm.Cond.methodLink "MasterPricesLaw" (174 : Nat) ({ cls := "MasterPricesLaw", name := "least", desc := "(LMasterPrices;[J)I" } : Jvm.MethodName)) ∈ lw_all := lw_g (lw_at lw_m5 165 rfl) rfl
theorem q1218 : (Jvm.Cond.static ({ cls := "MasterPricesLaw", name := "least", desc := "(LMasterPrices;[J)I" } : Jvm.MethodName)) ∈ lw_all := lw_g (lw_at lw_m5 166 rfl) rfl
theorem q1219 : (Jvm.Cond.codeWith ({ cls := "MasterPricesLaw", name := "least", desc := "(LMasterPrices;[J)I" } : Jvm.MethodName) method_15_code (3 : Nat) (Option.some Jvm.ClassFile.FieldType.int) [((0 : Nat), (8 : Nat), (11 : Nat), (44 : Nat))]) ∈ lw_all := lw_g (lw_at lw_m5 167 rfl) rfl
theorem q1220 : (Jvm.Cond.methodLink "MasterPricesLaw" (57 : Nat) ({ cls := "MasterPrices", name := "least", desc := "()I" } : Jvm.MethodName)) ∈ lw_all := lw_g (lw_at lw_m5 168 rfl) rfl
theorem q1229 : (Jvm.Cond.methodLink "MasterPricesLaw" (177 : Nat) ({ cls := "MasterPricesLaw", name := "leastAgain", desc := "(LMasterPrices;[J)I" } : Jvm.MethodName)) ∈ lw_all := lw_g (lw_at lw_m5 177 rfl) rfl
theorem q1230 : (Jvm.Cond.static ({ cls := "MasterPricesLaw", name := "leastAgain", desc := "(LMasterPrices;[J)I" } : Jvm.MethodName)) ∈ lw_all := lw_g (lw_at lw_m5 178 rfl) rfl
theorem q1231 : (Jvm.Cond.codeWith ({ cls := "MasterPricesLaw", name := "leastAgain", desc := "(LMasterPrices;[J)I" } : Jvm.MethodName) method_16_code (3 : Nat) (Option.some Jvm.ClassFile.FieldType.int) [((0 : Nat), (8 : Nat), (11 : Nat), (44 : Nat))]) ∈ lw_all := lw_g (lw_at lw_m5 179 rfl) rfl
theorem q1232 : (Jvm.Cond.methodLink "MasterPricesLaw" (60 : Nat) ({ cls := "MasterPrices", name := "leastAgain", desc := "()I" } : Jvm.MethodName)) ∈ lw_all := lw_g (lw_at lw_m5 180 rfl) rfl
theorem q1236 : (Jvm.Cond.methodLink "MasterPricesLaw" (180 : Nat) ({ cls := "MasterPricesLaw", name := "with", desc := "(LMasterPrices;II[J)I" } : Jvm.MethodName)) ∈ lw_all := lw_g (lw_at lw_m5 184 rfl) rfl
theorem q1237 : (Jvm.Cond.static ({ cls := "MasterPricesLaw", name := "with", desc := "(LMasterPrices;II[J)I" } : Jvm.MethodName)) ∈ lw_all := lw_g (lw_at lw_m5 185 rfl) rfl
theorem q1238 : (Jvm.Cond.codeWith ({ cls := "MasterPricesLaw", name := "with", desc := "(LMasterPrices;II[J)I" } : Jvm.MethodName) method_17_code (5 : Nat) (Option.some Jvm.ClassFile.FieldType.int) [((0 : Nat), (10 : Nat), (13 : Nat), (39 : Nat)), ((0 : Nat), (10 : Nat), (17 : Nat), (44 : Nat))]) ∈ lw_all := lw_g (lw_at lw_m5 186 rfl) rfl
theorem q1239 : (Jvm.Cond.methodLink "MasterPricesLaw" (63 : Nat) ({ cls := "MasterPrices", name := "with", desc := "(II)I" } : Jvm.MethodName)) ∈ lw_all := lw_g (lw_at lw_m5 187 rfl) rfl
theorem q1243 : (Jvm.Cond.methodLink "MasterPricesLaw" (183 : Nat) ({ cls := "MasterPricesLaw", name := "isNeeded", desc := "(LMasterPrices;II[J)I" } : Jvm.MethodName)) ∈ lw_all := lw_g (lw_at lw_m5 191 rfl) rfl
theorem q1244 : (Jvm.Cond.static ({ cls := "MasterPricesLaw", name := "isNeeded", desc := "(LMasterPrices;II[J)I" } : Jvm.MethodName)) ∈ lw_all := lw_g (lw_at lw_m5 192 rfl) rfl
theorem q1245 : (Jvm.Cond.codeWith ({ cls := "MasterPricesLaw", name := "isNeeded", desc := "(LMasterPrices;II[J)I" } : Jvm.MethodName) method_18_code (5 : Nat) (Option.some Jvm.ClassFile.FieldType.int) [((0 : Nat), (17 : Nat), (20 : Nat), (39 : Nat))]) ∈ lw_all := lw_g (lw_at lw_m5 193 rfl) rfl
theorem q1246 : (Jvm.Cond.methodLink "MasterPricesLaw" (66 : Nat) ({ cls := "MasterPrices", name := "isNeeded", desc := "(II)Z" } : Jvm.MethodName)) ∈ lw_all := lw_g (lw_at lw_m5 194 rfl) rfl
theorem q1250 : (Jvm.Cond.methodLink "MasterPricesLaw" (190 : Nat) ({ cls := "MasterPricesLaw", name := "wouldBid", desc := "(LMasterPrices;[J)I" } : Jvm.MethodName)) ∈ lw_all := lw_g (lw_at lw_m5 198 rfl) rfl
theorem q1251 : (Jvm.Cond.static ({ cls := "MasterPricesLaw", name := "wouldBid", desc := "(LMasterPrices;[J)I" } : Jvm.MethodName)) ∈ lw_all := lw_g (lw_at lw_m5 199 rfl) rfl
theorem q1252 : (Jvm.Cond.codeWith ({ cls := "MasterPricesLaw", name := "wouldBid", desc := "(LMasterPrices;[J)I" } : Jvm.MethodName) method_19_code (3 : Nat) (Option.some Jvm.ClassFile.FieldType.int) [((0 : Nat), (8 : Nat), (11 : Nat), (44 : Nat))]) ∈ lw_all := lw_g (lw_at lw_m5 200 rfl) rfl
theorem q1253 : (Jvm.Cond.methodLink "MasterPricesLaw" (70 : Nat) ({ cls := "MasterPrices", name := "wouldBid", desc := "()I" } : Jvm.MethodName)) ∈ lw_all := lw_g (lw_at lw_m5 201 rfl) rfl
theorem q1264 : (Jvm.Cond.methodLink "MasterPricesLaw" (193 : Nat) ({ cls := "MasterPricesLaw", name := "chain", desc := "(LMasterPrices;I[J)I" } : Jvm.MethodName)) ∈ lw_all := lw_g (lw_at lw_m5 212 rfl) rfl
theorem q1265 : (Jvm.Cond.static ({ cls := "MasterPricesLaw", name := "chain", desc := "(LMasterPrices;I[J)I" } : Jvm.MethodName)) ∈ lw_all := lw_g (lw_at lw_m5 213 rfl) rfl
theorem q1266 : (Jvm.Cond.codeWith ({ cls := "MasterPricesLaw", name := "chain", desc := "(LMasterPrices;I[J)I" } : Jvm.MethodName) method_20_code (4 : Nat) (Option.some Jvm.ClassFile.FieldType.int) [((0 : Nat), (9 : Nat), (12 : Nat), (44 : Nat))]) ∈ lw_all := lw_g (lw_at lw_m5 214 rfl) rfl
theorem q1267 : (Jvm.Cond.methodLink "MasterPricesLaw" (73 : Nat) ({ cls := "MasterPrices", name := "chain", desc := "(I)I" } : Jvm.MethodName)) ∈ lw_all := lw_g (lw_at lw_m5 215 rfl) rfl
theorem q1379 : (Jvm.Cond.methodLink "MasterPricesLaw" (196 : Nat) ({ cls := "MasterPricesLaw", name := "ranked", desc := "(LMasterPrices;II[J)I" } : Jvm.MethodName)) ∈ lw_all := lw_g (lw_at lw_m6 87 rfl) rfl
theorem q1380 : (Jvm.Cond.static ({ cls := "MasterPricesLaw", name := "ranked", desc := "(LMasterPrices;II[J)I" } : Jvm.MethodName)) ∈ lw_all := lw_g (lw_at lw_m6 88 rfl) rfl
theorem q1381 : (Jvm.Cond.codeWith ({ cls := "MasterPricesLaw", name := "ranked", desc := "(LMasterPrices;II[J)I" } : Jvm.MethodName) method_21_code (5 : Nat) (Option.some Jvm.ClassFile.FieldType.int) [((0 : Nat), (10 : Nat), (13 : Nat), (49 : Nat)), ((0 : Nat), (10 : Nat), (17 : Nat), (44 : Nat))]) ∈ lw_all := lw_g (lw_at lw_m6 89 rfl) rfl
theorem q1382 : (Jvm.Cond.methodLink "MasterPricesLaw" (76 : Nat) ({ cls := "MasterPrices", name := "ranked", desc := "(II)I" } : Jvm.MethodName)) ∈ lw_all := lw_g (lw_at lw_m6 90 rfl) rfl
theorem q1419 : (Jvm.Cond.methodLink "MasterPricesLaw" (199 : Nat) ({ cls := "MasterPricesLaw", name := "feed", desc := "(LMasterPrices;C[J)I" } : Jvm.MethodName)) ∈ lw_all := lw_g (lw_at lw_m6 127 rfl) rfl
theorem q1420 : (Jvm.Cond.static ({ cls := "MasterPricesLaw", name := "feed", desc := "(LMasterPrices;C[J)I" } : Jvm.MethodName)) ∈ lw_all := lw_g (lw_at lw_m6 128 rfl) rfl
theorem q1421 : (Jvm.Cond.codeWith ({ cls := "MasterPricesLaw", name := "feed", desc := "(LMasterPrices;C[J)I" } : Jvm.MethodName) method_22_code (4 : Nat) (Option.some Jvm.ClassFile.FieldType.int) [((0 : Nat), (9 : Nat), (12 : Nat), (83 : Nat))]) ∈ lw_all := lw_g (lw_at lw_m6 129 rfl) rfl
theorem q1422 : (Jvm.Cond.classLink "MasterPricesLaw" (83 : Nat) "java/lang/IllegalStateException") ∈ lw_all := lw_g (lw_at lw_m6 130 rfl) rfl
theorem q1423 : (Jvm.Cond.methodLink "MasterPricesLaw" (79 : Nat) ({ cls := "MasterPrices", name := "feed", desc := "(C)I" } : Jvm.MethodName)) ∈ lw_all := lw_g (lw_at lw_m6 131 rfl) rfl
theorem q1437 : (Jvm.Cond.methodLink "MasterPricesLaw" (203 : Nat) ({ cls := "MasterPricesLaw", name := "run", desc := "(LMasterPrices;[J)I" } : Jvm.MethodName)) ∈ lw_all := lw_g (lw_at lw_m6 145 rfl) rfl
theorem q1438 : (Jvm.Cond.static ({ cls := "MasterPricesLaw", name := "run", desc := "(LMasterPrices;[J)I" } : Jvm.MethodName)) ∈ lw_all := lw_g (lw_at lw_m6 146 rfl) rfl
theorem q1439 : (Jvm.Cond.codeWith ({ cls := "MasterPricesLaw", name := "run", desc := "(LMasterPrices;[J)I" } : Jvm.MethodName) method_23_code (3 : Nat) (Option.some Jvm.ClassFile.FieldType.int) [((0 : Nat), (8 : Nat), (11 : Nat), (49 : Nat)), ((0 : Nat), (8 : Nat), (14 : Nat), (13 : Nat))]) ∈ lw_all := lw_g (lw_at lw_m6 147 rfl) rfl
theorem q1440 : (Jvm.Cond.methodLink "MasterPricesLaw" (85 : Nat) ({ cls := "MasterPrices", name := "run", desc := "()I" } : Jvm.MethodName)) ∈ lw_all := lw_g (lw_at lw_m6 148 rfl) rfl
theorem q1678 : (Jvm.Cond.methodLink "MasterPricesLaw" (206 : Nat) ({ cls := "MasterPricesLaw", name := "faultPosition", desc := "(LMasterPrices;[J)I" } : Jvm.MethodName)) ∈ lw_all := lw_g (lw_at lw_m7 146 rfl) rfl
theorem q1679 : (Jvm.Cond.static ({ cls := "MasterPricesLaw", name := "faultPosition", desc := "(LMasterPrices;[J)I" } : Jvm.MethodName)) ∈ lw_all := lw_g (lw_at lw_m7 147 rfl) rfl
theorem q1680 : (Jvm.Cond.codeWith ({ cls := "MasterPricesLaw", name := "faultPosition", desc := "(LMasterPrices;[J)I" } : Jvm.MethodName) method_24_code (3 : Nat) (Option.some Jvm.ClassFile.FieldType.int) [((0 : Nat), (8 : Nat), (11 : Nat), (44 : Nat))]) ∈ lw_all := lw_g (lw_at lw_m7 148 rfl) rfl
theorem q1681 : (Jvm.Cond.methodLink "MasterPricesLaw" (88 : Nat) ({ cls := "MasterPrices", name := "faultPosition", desc := "()I" } : Jvm.MethodName)) ∈ lw_all := lw_g (lw_at lw_m7 149 rfl) rfl
theorem q1685 : (Jvm.Cond.methodLink "MasterPricesLaw" (209 : Nat) ({ cls := "MasterPricesLaw", name := "reason", desc := "(LMasterPrices;ZZ[J)I" } : Jvm.MethodName)) ∈ lw_all := lw_g (lw_at lw_m7 153 rfl) rfl
theorem q1686 : (Jvm.Cond.static ({ cls := "MasterPricesLaw", name := "reason", desc := "(LMasterPrices;ZZ[J)I" } : Jvm.MethodName)) ∈ lw_all := lw_g (lw_at lw_m7 154 rfl) rfl
theorem q1687 : (Jvm.Cond.codeWith ({ cls := "MasterPricesLaw", name := "reason", desc := "(LMasterPrices;ZZ[J)I" } : Jvm.MethodName) method_25_code (5 : Nat) (Option.some Jvm.ClassFile.FieldType.int) [((0 : Nat), (10 : Nat), (13 : Nat), (44 : Nat))]) ∈ lw_all := lw_g (lw_at lw_m7 155 rfl) rfl
theorem q1688 : (Jvm.Cond.methodLink "MasterPricesLaw" (91 : Nat) ({ cls := "MasterPrices", name := "reason", desc := "(ZZ)I" } : Jvm.MethodName)) ∈ lw_all := lw_g (lw_at lw_m7 156 rfl) rfl
theorem q1692 : (Jvm.Cond.methodLink "MasterPricesLaw" (213 : Nat) ({ cls := "MasterPricesLaw", name := "line", desc := "(LMasterPrices;I[J)I" } : Jvm.MethodName)) ∈ lw_all := lw_g (lw_at lw_m7 160 rfl) rfl
theorem q1693 : (Jvm.Cond.static ({ cls := "MasterPricesLaw", name := "line", desc := "(LMasterPrices;I[J)I" } : Jvm.MethodName)) ∈ lw_all := lw_g (lw_at lw_m7 161 rfl) rfl
theorem q1694 : (Jvm.Cond.codeWith ({ cls := "MasterPricesLaw", name := "line", desc := "(LMasterPrices;I[J)I" } : Jvm.MethodName) method_26_code (4 : Nat) (Option.some Jvm.ClassFile.FieldType.int) [((0 : Nat), (9 : Nat), (12 : Nat), (39 : Nat))]) ∈ lw_all := lw_g (lw_at lw_m7 162 rfl) rfl
theorem q1695 : (Jvm.Cond.methodLink "MasterPricesLaw" (95 : Nat) ({ cls := "MasterPrices", name := "line", desc := "(I)I" } : Jvm.MethodName)) ∈ lw_all := lw_g (lw_at lw_m7 163 rfl) rfl
theorem q1726 : (Jvm.Cond.methodLink "MasterPricesLaw" (220 : Nat) ({ cls := "MasterPricesLaw", name := "character", desc := "(LMasterPrices;I[J)I" } : Jvm.MethodName)) ∈ lw_all := lw_g (lw_at lw_m7 194 rfl) rfl
theorem q1727 : (Jvm.Cond.static ({ cls := "MasterPricesLaw", name := "character", desc := "(LMasterPrices;I[J)I" } : Jvm.MethodName)) ∈ lw_all := lw_g (lw_at lw_m7 195 rfl) rfl
theorem q1728 : (Jvm.Cond.codeWith ({ cls := "MasterPricesLaw", name := "character", desc := "(LMasterPrices;I[J)I" } : Jvm.MethodName) method_27_code (4 : Nat) (Option.some Jvm.ClassFile.FieldType.int) [((0 : Nat), (9 : Nat), (12 : Nat), (39 : Nat))]) ∈ lw_all := lw_g (lw_at lw_m7 196 rfl) rfl
theorem q1729 : (Jvm.Cond.methodLink "MasterPricesLaw" (98 : Nat) ({ cls := "MasterPrices", name := "character", desc := "(I)C" } : Jvm.MethodName)) ∈ lw_all := lw_g (lw_at lw_m7 197 rfl) rfl
theorem q1751 : (Jvm.Cond.methodLink "MasterPricesLaw" (223 : Nat) ({ cls := "MasterPricesLaw", name := "meanPrice", desc := "(LMasterPrices;[D)I" } : Jvm.MethodName)) ∈ lw_all := lw_g (lw_at lw_m7 219 rfl) rfl
theorem q1752 : (Jvm.Cond.static ({ cls := "MasterPricesLaw", name := "meanPrice", desc := "(LMasterPrices;[D)I" } : Jvm.MethodName)) ∈ lw_all := lw_g (lw_at lw_m7 220 rfl) rfl
theorem q1753 : (Jvm.Cond.codeWith ({ cls := "MasterPricesLaw", name := "meanPrice", desc := "(LMasterPrices;[D)I" } : Jvm.MethodName) method_28_code (3 : Nat) (Option.some Jvm.ClassFile.FieldType.int) [((0 : Nat), (7 : Nat), (10 : Nat), (106 : Nat))]) ∈ lw_all := lw_g (lw_at lw_m7 221 rfl) rfl
theorem q1754 : (Jvm.Cond.classLink "MasterPricesLaw" (106 : Nat) "java/lang/ArithmeticException") ∈ lw_all := lw_g (lw_at lw_m7 222 rfl) rfl
theorem q1768 : (Jvm.Cond.methodLink "MasterPricesLaw" (102 : Nat) ({ cls := "MasterPrices", name := "meanPrice", desc := "()D" } : Jvm.MethodName)) ∈ lw_all := lw_g (lw_at lw_m7 236 rfl) rfl
theorem q1784 : (Jvm.Cond.methodLink "MasterPricesLaw" (227 : Nat) ({ cls := "MasterPricesLaw", name := "likedShare", desc := "(LMasterPrices;[D)I" } : Jvm.MethodName)) ∈ lw_all := lw_g (lw_at lw_m8 12 rfl) rfl
theorem q1785 : (Jvm.Cond.static ({ cls := "MasterPricesLaw", name := "likedShare", desc := "(LMasterPrices;[D)I" } : Jvm.MethodName)) ∈ lw_all := lw_g (lw_at lw_m8 13 rfl) rfl
theorem q1786 : (Jvm.Cond.codeWith ({ cls := "MasterPricesLaw", name := "likedShare", desc := "(LMasterPrices;[D)I" } : Jvm.MethodName) method_29_code (3 : Nat) (Option.some Jvm.ClassFile.FieldType.int) [((0 : Nat), (8 : Nat), (11 : Nat), (106 : Nat))]) ∈ lw_all := lw_g (lw_at lw_m8 14 rfl) rfl
theorem q1787 : (Jvm.Cond.methodLink "MasterPricesLaw" (108 : Nat) ({ cls := "MasterPrices", name := "likedShare", desc := "()F" } : Jvm.MethodName)) ∈ lw_all := lw_g (lw_at lw_m8 15 rfl) rfl
theorem q1795 : (Jvm.Cond.methodLink "MasterPricesLaw" (230 : Nat) ({ cls := "MasterPricesLaw", name := "account", desc := "(LMasterPrices;I[J)I" } : Jvm.MethodName)) ∈ lw_all := lw_g (lw_at lw_m8 23 rfl) rfl
theorem q1796 : (Jvm.Cond.static ({ cls := "MasterPricesLaw", name := "account", desc := "(LMasterPrices;I[J)I" } : Jvm.MethodName)) ∈ lw_all := lw_g (lw_at lw_m8 24 rfl) rfl
theorem q1797 : (Jvm.Cond.codeWith ({ cls := "MasterPricesLaw", name := "account", desc := "(LMasterPrices;I[J)I" } : Jvm.MethodName) method_30_code (4 : Nat) (Option.some Jvm.ClassFile.FieldType.int) [((0 : Nat), (9 : Nat), (12 : Nat), (49 : Nat))]) ∈ lw_all := lw_g (lw_at lw_m8 25 rfl) rfl
theorem q1798 : (Jvm.Cond.methodLink "MasterPricesLaw" (112 : Nat) ({ cls := "MasterPrices", name := "account", desc := "(I)I" } : Jvm.MethodName)) ∈ lw_all := lw_g (lw_at lw_m8 26 rfl) rfl
theorem q1810 : (Jvm.Cond.methodLink "MasterPricesLaw" (238 : Nat) ({ cls := "MasterPricesLaw", name := "undo", desc := "(LMasterPrices;[J)I" } : Jvm.MethodName)) ∈ lw_all := lw_g (lw_at lw_m8 38 rfl) rfl
theorem q1811 : (Jvm.Cond.static ({ cls := "MasterPricesLaw", name := "undo", desc := "(LMasterPrices;[J)I" } : Jvm.MethodName)) ∈ lw_all := lw_g (lw_at lw_m8 39 rfl) rfl
theorem q1812 : (Jvm.Cond.codeWith ({ cls := "MasterPricesLaw", name := "undo", desc := "(LMasterPrices;[J)I" } : Jvm.MethodName) method_31_code (3 : Nat) (Option.some Jvm.ClassFile.FieldType.int) [((0 : Nat), (8 : Nat), (11 : Nat), (83 : Nat))]) ∈ lw_all := lw_g (lw_at lw_m8 40 rfl) rfl
theorem q1813 : (Jvm.Cond.methodLink "MasterPricesLaw" (115 : Nat) ({ cls := "MasterPrices", name := "undo", desc := "()I" } : Jvm.MethodName)) ∈ lw_all := lw_g (lw_at lw_m8 41 rfl) rfl
theorem q1841 : (Jvm.Cond.methodLink "MasterPricesLaw" (245 : Nat) ({ cls := "MasterPricesLaw", name := "restore", desc := "(LMasterPrices;[J)I" } : Jvm.MethodName)) ∈ lw_all := lw_g (lw_at lw_m8 69 rfl) rfl
theorem q1842 : (Jvm.Cond.static ({ cls := "MasterPricesLaw", name := "restore", desc := "(LMasterPrices;[J)I" } : Jvm.MethodName)) ∈ lw_all := lw_g (lw_at lw_m8 70 rfl) rfl
theorem q1843 : (Jvm.Cond.codeWith ({ cls := "MasterPricesLaw", name := "restore", desc := "(LMasterPrices;[J)I" } : Jvm.MethodName) method_32_code (3 : Nat) (Option.some Jvm.ClassFile.FieldType.int) [((0 : Nat), (8 : Nat), (11 : Nat), (83 : Nat))]) ∈ lw_all := lw_g (lw_at lw_m8 71 rfl) rfl
theorem q1844 : (Jvm.Cond.methodLink "MasterPricesLaw" (118 : Nat) ({ cls := "MasterPrices", name := "restore", desc := "()I" } : Jvm.MethodName)) ∈ lw_all := lw_g (lw_at lw_m8 72 rfl) rfl
theorem q1859 : (Jvm.Cond.classLink "MasterPricesLaw" (122 : Nat) "MasterPricesModel") ∈ lw_all := lw_g (lw_at lw_m8 87 rfl) rfl
theorem q1861 : (Jvm.Cond.methodLink "MasterPricesLaw" (124 : Nat) ({ cls := "MasterPricesModel", name := "<init>", desc := "()V" } : Jvm.MethodName)) ∈ lw_all := lw_g (lw_at lw_m8 89 rfl) rfl
theorem q1936 : (Jvm.Cond.methodLink "MasterPricesLaw" (131 : Nat) ({ cls := "MasterPricesModel", name := "thrown", desc := "()I" } : Jvm.MethodName)) ∈ lw_all := lw_g (lw_at lw_m8 164 rfl) rfl
theorem q1940 : (Jvm.Cond.methodLink "MasterPricesLaw" (212 : Nat) ({ cls := "MasterPricesModel", name := "reason", desc := "(ZZ)I" } : Jvm.MethodName)) ∈ lw_all := lw_g (lw_at lw_m8 168 rfl) rfl
theorem q1948 : (Jvm.Cond.methodLink "MasterPricesLaw" (130 : Nat) ({ cls := "MasterPricesModel", name := "apprentice", desc := "()I" } : Jvm.MethodName)) ∈ lw_all := lw_g (lw_at lw_m8 176 rfl) rfl
theorem q1976 : (Jvm.Cond.methodLink "MasterPricesLaw" (136 : Nat) ({ cls := "MasterPricesModel", name := "master", desc := "()I" } : Jvm.MethodName)) ∈ lw_all := lw_g (lw_at lw_m8 204 rfl) rfl
theorem q1980 : (Jvm.Cond.methodLink "MasterPricesLaw" (140 : Nat) ({ cls := "MasterPricesModel", name := "cost", desc := "(III)I" } : Jvm.MethodName)) ∈ lw_all := lw_g (lw_at lw_m8 208 rfl) rfl
theorem q2007 : (Jvm.Cond.methodLink "MasterPricesLaw" (144 : Nat) ({ cls := "MasterPricesModel", name := "bar", desc := "(II)I" } : Jvm.MethodName)) ∈ lw_all := lw_g (lw_at lw_m8 235 rfl) rfl
theorem q2019 : (Jvm.Cond.methodLink "MasterPricesLaw" (147 : Nat) ({ cls := "MasterPricesModel", name := "bid", desc := "()I" } : Jvm.MethodName)) ∈ lw_all := lw_g (lw_at lw_m9 7 rfl) rfl
theorem q2056 : (Jvm.Cond.methodLink "MasterPricesLaw" (150 : Nat) ({ cls := "MasterPricesModel", name := "settle", desc := "()I" } : Jvm.MethodName)) ∈ lw_all := lw_g (lw_at lw_m9 44 rfl) rfl
theorem q2096 : (Jvm.Cond.methodLink "MasterPricesLaw" (154 : Nat) ({ cls := "MasterPricesModel", name := "leave", desc := "(I)I" } : Jvm.MethodName)) ∈ lw_all := lw_g (lw_at lw_m9 84 rfl) rfl
theorem q2104 : (Jvm.Cond.methodLink "MasterPricesLaw" (158 : Nat) ({ cls := "MasterPricesModel", name := "year", desc := "()I" } : Jvm.MethodName)) ∈ lw_all := lw_g (lw_at lw_m9 92 rfl) rfl
theorem q2116 : (Jvm.Cond.methodLink "MasterPricesLaw" (161 : Nat) ({ cls := "MasterPricesModel", name := "costOf", desc := "(II)I" } : Jvm.MethodName)) ∈ lw_all := lw_g (lw_at lw_m9 104 rfl) rfl
theorem q2124 : (Jvm.Cond.methodLink "MasterPricesLaw" (164 : Nat) ({ cls := "MasterPricesModel", name := "burden", desc := "(II)I" } : Jvm.MethodName)) ∈ lw_all := lw_g (lw_at lw_m9 112 rfl) rfl
theorem q2128 : (Jvm.Cond.methodLink "MasterPricesLaw" (167 : Nat) ({ cls := "MasterPricesModel", name := "apprenticeOf", desc := "(II)I" } : Jvm.MethodName)) ∈ lw_all := lw_g (lw_at lw_m9 116 rfl) rfl
theorem q2144 : (Jvm.Cond.methodLink "MasterPricesLaw" (170 : Nat) ({ cls := "MasterPricesModel", name := "masterOf", desc := "(II)I" } : Jvm.MethodName)) ∈ lw_all := lw_g (lw_at lw_m9 132 rfl) rfl
theorem q2152 : (Jvm.Cond.methodLink "MasterPricesLaw" (173 : Nat) ({ cls := "MasterPricesModel", name := "served", desc := "(II)I" } : Jvm.MethodName)) ∈ lw_all := lw_g (lw_at lw_m9 140 rfl) rfl
theorem q2156 : (Jvm.Cond.methodLink "MasterPricesLaw" (176 : Nat) ({ cls := "MasterPricesModel", name := "least", desc := "()I" } : Jvm.MethodName)) ∈ lw_all := lw_g (lw_at lw_m9 144 rfl) rfl
theorem q2160 : (Jvm.Cond.methodLink "MasterPricesLaw" (179 : Nat) ({ cls := "MasterPricesModel", name := "leastAgain", desc := "()I" } : Jvm.MethodName)) ∈ lw_all := lw_g (lw_at lw_m9 148 rfl) rfl
theorem q2165 : (Jvm.Cond.methodLink "MasterPricesLaw" (182 : Nat) ({ cls := "MasterPricesModel", name := "with", desc := "(II)I" } : Jvm.MethodName)) ∈ lw_all := lw_g (lw_at lw_m9 153 rfl) rfl
theorem q2169 : (Jvm.Cond.methodLink "MasterPricesLaw" (185 : Nat) ({ cls := "MasterPricesModel", name := "isNeeded", desc := "(II)Z" } : Jvm.MethodName)) ∈ lw_all := lw_g (lw_at lw_m9 157 rfl) rfl
theorem q2173 : (Jvm.Cond.methodLink "MasterPricesLaw" (189 : Nat) ({ cls := "MasterPricesModel", name := "most", desc := "()I" } : Jvm.MethodName)) ∈ lw_all := lw_g (lw_at lw_m9 161 rfl) rfl
theorem q2177 : (Jvm.Cond.methodLink "MasterPricesLaw" (192 : Nat) ({ cls := "MasterPricesModel", name := "wouldBid", desc := "()I" } : Jvm.MethodName)) ∈ lw_all := lw_g (lw_at lw_m9 165 rfl) rfl
theorem q2181 : (Jvm.Cond.methodLink "MasterPricesLaw" (195 : Nat) ({ cls := "MasterPricesModel", name := "chain", desc := "(I)I" } : Jvm.MethodName)) ∈ lw_all := lw_g (lw_at lw_m9 169 rfl) rfl
theorem q2185 : (Jvm.Cond.methodLink "MasterPricesLaw" (198 : Nat) ({ cls := "MasterPricesModel", name := "ranked", desc := "(II)I" } : Jvm.MethodName)) ∈ lw_all := lw_g (lw_at lw_m9 173 rfl) rfl
theorem q2194 : (Jvm.Cond.methodLink "MasterPricesLaw" (202 : Nat) ({ cls := "MasterPricesModel", name := "feed", desc := "(C)I" } : Jvm.MethodName)) ∈ lw_all := lw_g (lw_at lw_m9 182 rfl) rfl
theorem q2198 : (Jvm.Cond.methodLink "MasterPricesLaw" (205 : Nat) ({ cls := "MasterPricesModel", name := "run", desc := "()I" } : Jvm.MethodName)) ∈ lw_all := lw_g (lw_at lw_m9 186 rfl) rfl
theorem q2234 : (Jvm.Cond.methodLink "MasterPricesLaw" (208 : Nat) ({ cls := "MasterPricesModel", name := "faultPosition", desc := "()I" } : Jvm.MethodName)) ∈ lw_all := lw_g (lw_at lw_m9 222 rfl) rfl
theorem q2238 : (Jvm.Cond.methodLink "MasterPricesLaw" (215 : Nat) ({ cls := "MasterPricesModel", name := "line", desc := "(I)I" } : Jvm.MethodName)) ∈ lw_all := lw_g (lw_at lw_m9 226 rfl) rfl
theorem q2250 : (Jvm.Cond.methodLink "MasterPricesLaw" (219 : Nat) ({ cls := "MasterPricesModel", name := "pairing", desc := "()I" } : Jvm.MethodName)) ∈ lw_all := lw_g (lw_at lw_m9 238 rfl) rfl
theorem q2254 : (Jvm.Cond.methodLink "MasterPricesLaw" (222 : Nat) ({ cls := "MasterPricesModel", name := "character", desc := "(I)C" } : Jvm.MethodName)) ∈ lw_all := lw_g (lw_at lw_m10 2 rfl) rfl
theorem q2258 : (Jvm.Cond.methodLink "MasterPricesLaw" (226 : Nat) ({ cls := "MasterPricesModel", name := "meanPrice", desc := "()D" } : Jvm.MethodName)) ∈ lw_all := lw_g (lw_at lw_m10 6 rfl) rfl
theorem q2262 : (Jvm.Cond.methodLink "MasterPricesLaw" (229 : Nat) ({ cls := "MasterPricesModel", name := "likedShare", desc := "()F" } : Jvm.MethodName)) ∈ lw_all := lw_g (lw_at lw_m10 10 rfl) rfl
theorem q2266 : (Jvm.Cond.methodLink "MasterPricesLaw" (232 : Nat) ({ cls := "MasterPricesModel", name := "account", desc := "(I)I" } : Jvm.MethodName)) ∈ lw_all := lw_g (lw_at lw_m10 14 rfl) rfl
theorem q2278 : (Jvm.Cond.methodLink "MasterPricesLaw" (237 : Nat) ({ cls := "MasterPricesModel", name := "isBalanced", desc := "()Z" } : Jvm.MethodName)) ∈ lw_all := lw_g (lw_at lw_m10 26 rfl) rfl
theorem q2282 : (Jvm.Cond.methodLink "MasterPricesLaw" (240 : Nat) ({ cls := "MasterPricesModel", name := "undo", desc := "()I" } : Jvm.MethodName)) ∈ lw_all := lw_g (lw_at lw_m10 30 rfl) rfl
theorem q2286 : (Jvm.Cond.methodLink "MasterPricesLaw" (244 : Nat) ({ cls := "MasterPricesModel", name := "save", desc := "()I" } : Jvm.MethodName)) ∈ lw_all := lw_g (lw_at lw_m10 34 rfl) rfl
theorem q2290 : (Jvm.Cond.methodLink "MasterPricesLaw" (247 : Nat) ({ cls := "MasterPricesModel", name := "restore", desc := "()I" } : Jvm.MethodName)) ∈ lw_all := lw_g (lw_at lw_m10 38 rfl) rfl
abbrev cX4_init : ByteArray := prog_2_method_1_code
def yX4_init : MethodName := ⟨RX4, "<init>", "(Z)V"⟩
def dkwX4_init_0 : List UInt8 := [42, 183, 0, 1, 42, 27, 181, 0, 7, 177]
abbrev dktX4_init_0 : List UInt8 := dkwX4_init_0 ++ []
theorem dksX4_init_0 : cX4_init.data.toList.drop 0 = dktX4_init_0 := by decide +kernel
theorem dX4_init_0 : decode cX4_init 0 = .ok (.aload_n 0, 1) := dk_42 (dk_at dksX4_init_0 0 rfl rfl)
theorem dX4_init_1 : decode cX4_init 1 = .ok (.invokespecial 1, 3) := dk_183 0 1 (dk_at dksX4_init_0 1 rfl rfl)
theorem dX4_init_4 : decode cX4_init 4 = .ok (.aload_n 0, 1) := dk_42 (dk_at dksX4_init_0 4 rfl rfl)
theorem dX4_init_5 : decode cX4_init 5 = .ok (.iload_n 1, 1) := dk_27 (dk_at dksX4_init_0 5 rfl rfl)
theorem dX4_init_6 : decode cX4_init 6 = .ok (.putfield 7, 3) := dk_181 0 7 (dk_at dksX4_init_0 6 rfl rfl)
theorem dX4_init_9 : decode cX4_init 9 = .ok (.return_, 1) := dk_177 (dk_at dksX4_init_0 9 rfl rfl)
theorem q102 : (Jvm.Cond.initialized "MasterPrices$Coming") ∈ lw_all := lw_g (lw_at lw_m1 10 rfl) rfl
theorem q612 : (Jvm.Cond.selects "MasterPrices$Coming" ({ cls := "java/lang/Object", name := "getClass", desc := "()Ljava/lang/Class;" } : Jvm.MethodName) ({ cls := "java/lang/Object", name := "getClass", desc := "()Ljava/lang/Class;" } : Jvm.MethodName)) ∈ lw_all := lw_g (lw_at lw_m3 40 rfl) rfl
theorem q976 : (Jvm.Cond.instantiable "MasterPrices$Coming" (1 : Nat)) ∈ lw_all := lw_g (lw_at lw_m4 164 rfl) rfl
theorem q978 : (Jvm.Cond.instanceMethod ({ cls := "MasterPrices$Coming", name := "<init>", desc := "(Z)V" } : Jvm.MethodName)) ∈ lw_all := lw_g (lw_at lw_m4 166 rfl) rfl
theorem q979 : (Jvm.Cond.code ({ cls := "MasterPrices$Coming", name := "<init>", desc := "(Z)V" } : Jvm.MethodName) prog_2_method_1_code (2 : Nat) (Option.none : Option Jvm.ClassFile.FieldType)) ∈ lw_all := lw_g (lw_at lw_m4 167 rfl) rfl
theorem q980 : (Jvm.Cond.methodLink "MasterPrices$Coming" (1 : Nat) ({ cls := "java/lang/Object", name := "<init>", desc := "()V" } : Jvm.MethodName)) ∈ lw_all := lw_g (lw_at lw_m4 168 rfl) rfl
theorem q981 : (Jvm.Cond.fieldLink "MasterPrices$Coming" (7 : Nat) "MasterPrices$Coming" "isMaster" "Z") ∈ lw_all := lw_g (lw_at lw_m4 169 rfl) rfl
theorem q983 : (Jvm.Cond.laysFinal "MasterPrices$Coming" "MasterPrices$Coming" "isMaster" "Z") ∈ lw_all := lw_g (lw_at lw_m4 171 rfl) rfl
theorem q984 : (Jvm.Cond.soleField "MasterPrices$Coming" "isMaster") ∈ lw_all := lw_g (lw_at lw_m4 172 rfl) rfl
theorem q985 : (Jvm.Cond.superclass "MasterPrices$Coming" "java/lang/Object") ∈ lw_all := lw_g (lw_at lw_m4 173 rfl) rfl
theorem q2317 : (Jvm.Cond.castable "MasterPrices$Coming" "MasterPrices$Order") ∈ lw_tbl := lw_at lw_m10 65 rfl
theorem q2329 : (Jvm.Cond.castable "MasterPrices$Coming" "java/lang/Object") ∈ lw_tbl := lw_at lw_m10 77 rfl
abbrev cX5_init : ByteArray := prog_16_method_1_code
def yX5_init : MethodName := ⟨RX5, "<init>", "(II)V"⟩
def dkwX5_init_0 : List UInt8 := [42, 27, 28, 1, 183, 0, 1, 177]
abbrev dktX5_init_0 : List UInt8 := dkwX5_init_0 ++ []
theorem dksX5_init_0 : cX5_init.data.toList.drop 0 = dktX5_init_0 := by decide +kernel
theorem dX5_init_0 : decode cX5_init 0 = .ok (.aload_n 0, 1) := dk_42 (dk_at dksX5_init_0 0 rfl rfl)
theorem dX5_init_1 : decode cX5_init 1 = .ok (.iload_n 1, 1) := dk_27 (dk_at dksX5_init_0 1 rfl rfl)
theorem dX5_init_2 : decode cX5_init 2 = .ok (.iload_n 2, 1) := dk_28 (dk_at dksX5_init_0 2 rfl rfl)
theorem dX5_init_3 : decode cX5_init 3 = .ok (.aconst_null, 1) := dk_1 (dk_at dksX5_init_0 3 rfl rfl)
theorem dX5_init_4 : decode cX5_init 4 = .ok (.invokespecial 1, 3) := dk_183 0 1 (dk_at dksX5_init_0 4 rfl rfl)
theorem dX5_init_7 : decode cX5_init 7 = .ok (.return_, 1) := dk_177 (dk_at dksX5_init_0 7 rfl rfl)
abbrev cX5_init_2 : ByteArray := prog_16_method_2_code
def yX5_init_2 : MethodName := ⟨RX5, "<init>", "(IILMasterPrices$Refused;)V"⟩
def dkwX5_init_2_0 : List UInt8 := [42, 183, 0, 7, 42, 27, 181, 0, 12, 42, 28, 181, 0, 16, 42, 45, 181, 0, 19, 177]
abbrev dktX5_init_2_0 : List UInt8 := dkwX5_init_2_0 ++ []
theorem dksX5_init_2_0 : cX5_init_2.data.toList.drop 0 = dktX5_init_2_0 := by decide +kernel
theorem dX5_init_2_0 : decode cX5_init_2 0 = .ok (.aload_n 0, 1) := dk_42 (dk_at dksX5_init_2_0 0 rfl rfl)
theorem dX5_init_2_1 : decode cX5_init_2 1 = .ok (.invokespecial 7, 3) := dk_183 0 7 (dk_at dksX5_init_2_0 1 rfl rfl)
theorem dX5_init_2_4 : decode cX5_init_2 4 = .ok (.aload_n 0, 1) := dk_42 (dk_at dksX5_init_2_0 4 rfl rfl)
theorem dX5_init_2_5 : decode cX5_init_2 5 = .ok (.iload_n 1, 1) := dk_27 (dk_at dksX5_init_2_0 5 rfl rfl)
theorem dX5_init_2_6 : decode cX5_init_2 6 = .ok (.putfield 12, 3) := dk_181 0 12 (dk_at dksX5_init_2_0 6 rfl rfl)
theorem dX5_init_2_9 : decode cX5_init_2 9 = .ok (.aload_n 0, 1) := dk_42 (dk_at dksX5_init_2_0 9 rfl rfl)
theorem dX5_init_2_10 : decode cX5_init_2 10 = .ok (.iload_n 2, 1) := dk_28 (dk_at dksX5_init_2_0 10 rfl rfl)
theorem dX5_init_2_11 : decode cX5_init_2 11 = .ok (.putfield 16, 3) := dk_181 0 16 (dk_at dksX5_init_2_0 11 rfl rfl)
theorem dX5_init_2_14 : decode cX5_init_2 14 = .ok (.aload_n 0, 1) := dk_42 (dk_at dksX5_init_2_0 14 rfl rfl)
theorem dX5_init_2_15 : decode cX5_init_2 15 = .ok (.aload_n 3, 1) := dk_45 (dk_at dksX5_init_2_0 15 rfl rfl)
theorem dX5_init_2_16 : decode cX5_init_2 16 = .ok (.putfield 19, 3) := dk_181 0 19 (dk_at dksX5_init_2_0 16 rfl rfl)
theorem dX5_init_2_19 : decode cX5_init_2 19 = .ok (.return_, 1) := dk_177 (dk_at dksX5_init_2_0 19 rfl rfl)
theorem q106 : (Jvm.Cond.initialized "MasterPrices$Refused") ∈ lw_all := lw_g (lw_at lw_m1 14 rfl) rfl
theorem q305 : (Jvm.Cond.instantiable "MasterPrices$Refused" (9 : Nat)) ∈ lw_all := lw_g (lw_at lw_m1 213 rfl) rfl
theorem q306 : (Jvm.Cond.castable "MasterPrices$Refused" "MasterPrices$Refused") ∈ lw_tbl := lw_at lw_m1 214 rfl
theorem q311 : (Jvm.Cond.selects "MasterPrices$Refused" ({ cls := "java/lang/Throwable", name := "fillInStackTrace", desc := "(I)Ljava/lang/Throwable;" } : Jvm.MethodName) ({ cls := "java/lang/Throwable", name := "fillInStackTrace", desc := "(I)Ljava/lang/Throwable;" } : Jvm.MethodName)) ∈ lw_all := lw_g (lw_at lw_m1 219 rfl) rfl
theorem q312 : (Jvm.Cond.selects "MasterPrices$Refused" ({ cls := "java/lang/Throwable", name := "fillInStackTrace", desc := "()Ljava/lang/Throwable;" } : Jvm.MethodName) ({ cls := "java/lang/Throwable", name := "fillInStackTrace", desc := "()Ljava/lang/Throwable;" } : Jvm.MethodName)) ∈ lw_all := lw_g (lw_at lw_m1 220 rfl) rfl
theorem q313 : (Jvm.Cond.lays "MasterPrices$Refused" "java/lang/Throwable" "cause" "Ljava/lang/Throwable;") ∈ lw_all := lw_g (lw_at lw_m1 221 rfl) rfl
theorem q315 : (Jvm.Cond.lays "MasterPrices$Refused" "java/lang/Throwable" "stackTrace" "[Ljava/lang/StackTraceElement;") ∈ lw_all := lw_g (lw_at lw_m1 223 rfl) rfl
theorem q317 : (Jvm.Cond.lays "MasterPrices$Refused" "java/lang/Throwable" "suppressedExceptions" "Ljava/util/List;") ∈ lw_all := lw_g (lw_at lw_m1 225 rfl) rfl
theorem q319 : (Jvm.Cond.lays "MasterPrices$Refused" "java/lang/Throwable" "detailMessage" "Ljava/lang/String;") ∈ lw_all := lw_g (lw_at lw_m1 227 rfl) rfl
theorem q321 : (Jvm.Cond.lays "MasterPrices$Refused" "java/lang/Throwable" "backtrace" "Ljava/lang/Object;") ∈ lw_all := lw_g (lw_at lw_m1 229 rfl) rfl
theorem q351 : (Jvm.Cond.instanceMethod ({ cls := "MasterPrices$Refused", name := "<init>", desc := "(II)V" } : Jvm.MethodName)) ∈ lw_all := lw_g (lw_at lw_m2 19 rfl) rfl
theorem q352 : (Jvm.Cond.code ({ cls := "MasterPrices$Refused", name := "<init>", desc := "(II)V" } : Jvm.MethodName) prog_16_method_1_code (3 : Nat) (Option.none : Option Jvm.ClassFile.FieldType)) ∈ lw_all := lw_g (lw_at lw_m2 20 rfl) rfl
theorem q353 : (Jvm.Cond.methodLink "MasterPrices$Refused" (1 : Nat) ({ cls := "MasterPrices$Refused", name := "<init>", desc := "(IILMasterPrices$Refused;)V" } : Jvm.MethodName)) ∈ lw_all := lw_g (lw_at lw_m2 21 rfl) rfl
theorem q354 : (Jvm.Cond.instanceMethod ({ cls := "MasterPrices$Refused", name := "<init>", desc := "(IILMasterPrices$Refused;)V" } : Jvm.MethodName)) ∈ lw_all := lw_g (lw_at lw_m2 22 rfl) rfl
theorem q355 : (Jvm.Cond.code ({ cls := "MasterPrices$Refused", name := "<init>", desc := "(IILMasterPrices$Refused;)V" } : Jvm.MethodName) prog_16_method_2_code (4 : Nat) (Option.none : Option Jvm.ClassFile.FieldType)) ∈ lw_all := lw_g (lw_at lw_m2 23 rfl) rfl
theorem q356 : (Jvm.Cond.methodLink "MasterPrices$Refused" (7 : Nat) ({ cls := "java/lang/Exception", name := "<init>", desc := "()V" } : Jvm.MethodName)) ∈ lw_all := lw_g (lw_at lw_m2 24 rfl) rfl
theorem q360 : (Jvm.Cond.fieldLink "MasterPrices$Refused" (12 : Nat) "MasterPrices$Refused" "reason" "I") ∈ lw_all := lw_g (lw_at lw_m2 28 rfl) rfl
theorem q362 : (Jvm.Cond.fieldLink "MasterPrices$Refused" (16 : Nat) "MasterPrices$Refused" "detail" "I") ∈ lw_all := lw_g (lw_at lw_m2 30 rfl) rfl
theorem q364 : (Jvm.Cond.fieldLink "MasterPrices$Refused" (19 : Nat) "MasterPrices$Refused" "behind" "LMasterPrices$Refused;") ∈ lw_all := lw_g (lw_at lw_m2 32 rfl) rfl
theorem q371 : (Jvm.Cond.laysFinal "MasterPrices$Refused" "MasterPrices$Refused" "reason" "I") ∈ lw_all := lw_g (lw_at lw_m2 39 rfl) rfl
theorem q372 : (Jvm.Cond.soleField "MasterPrices$Refused" "reason") ∈ lw_all := lw_g (lw_at lw_m2 40 rfl) rfl
theorem q373 : (Jvm.Cond.laysFinal "MasterPrices$Refused" "MasterPrices$Refused" "detail" "I") ∈ lw_all := lw_g (lw_at lw_m2 41 rfl) rfl
theorem q374 : (Jvm.Cond.soleField "MasterPrices$Refused" "detail") ∈ lw_all := lw_g (lw_at lw_m2 42 rfl) rfl
theorem q375 : (Jvm.Cond.laysFinal "MasterPrices$Refused" "MasterPrices$Refused" "behind" "LMasterPrices$Refused;") ∈ lw_all := lw_g (lw_at lw_m2 43 rfl) rfl
theorem q376 : (Jvm.Cond.soleField "MasterPrices$Refused" "behind") ∈ lw_all := lw_g (lw_at lw_m2 44 rfl) rfl
theorem q381 : (Jvm.Cond.lays "MasterPrices$Refused" "java/lang/Throwable" "depth" "I") ∈ lw_all := lw_g (lw_at lw_m2 49 rfl) rfl
theorem q384 : (Jvm.Cond.superclass "MasterPrices$Refused" "java/lang/Exception") ∈ lw_all := lw_g (lw_at lw_m2 52 rfl) rfl
theorem q622 : (Jvm.Cond.selects "MasterPrices$Refused" ({ cls := "java/lang/Object", name := "getClass", desc := "()Ljava/lang/Class;" } : Jvm.MethodName) ({ cls := "java/lang/Object", name := "getClass", desc := "()Ljava/lang/Class;" } : Jvm.MethodName)) ∈ lw_all := lw_g (lw_at lw_m3 50 rfl) rfl
theorem q2330 : (Jvm.Cond.castable "MasterPrices$Refused" "java/lang/Object") ∈ lw_tbl := lw_at lw_m10 78 rfl
abbrev cX6_init : ByteArray := prog_17_method_2_code
def yX6_init : MethodName := ⟨RX6, "<init>", "(III)V"⟩
def dkwX6_init_0 : List UInt8 := [42, 27, 28, 29, 3, 183, 0, 1, 177]
abbrev dktX6_init_0 : List UInt8 := dkwX6_init_0 ++ []
theorem dksX6_init_0 : cX6_init.data.toList.drop 0 = dktX6_init_0 := by decide +kernel
theorem dX6_init_0 : decode cX6_init 0 = .ok (.aload_n 0, 1) := dk_42 (dk_at dksX6_init_0 0 rfl rfl)
theorem dX6_init_1 : decode cX6_init 1 = .ok (.iload_n 1, 1) := dk_27 (dk_at dksX6_init_0 1 rfl rfl)
theorem dX6_init_2 : decode cX6_init 2 = .ok (.iload_n 2, 1) := dk_28 (dk_at dksX6_init_0 2 rfl rfl)
theorem dX6_init_3 : decode cX6_init 3 = .ok (.iload_n 3, 1) := dk_29 (dk_at dksX6_init_0 3 rfl rfl)
theorem dX6_init_4 : decode cX6_init 4 = .ok (.iconst 0, 1) := dk_3 (dk_at dksX6_init_0 4 rfl rfl)
theorem dX6_init_5 : decode cX6_init 5 = .ok (.invokespecial 1, 3) := dk_183 0 1 (dk_at dksX6_init_0 5 rfl rfl)
theorem dX6_init_8 : decode cX6_init 8 = .ok (.return_, 1) := dk_177 (dk_at dksX6_init_0 8 rfl rfl)
abbrev cX6_init_2 : ByteArray := prog_17_method_3_code
def yX6_init_2 : MethodName := ⟨RX6, "<init>", "(IIIZ)V"⟩
def dkwX6_init_2_1 : List UInt8 := [181, 0, 22, 177]
abbrev dktX6_init_2_1 : List UInt8 := dkwX6_init_2_1 ++ []
def dkwX6_init_2_0 : List UInt8 := [42, 183, 0, 7, 42, 27, 181, 0, 12, 42, 28, 181, 0, 16, 42, 29, 181, 0, 19, 42, 21, 4]
abbrev dktX6_init_2_0 : List UInt8 := dkwX6_init_2_0 ++ dktX6_init_2_1
theorem dksX6_init_2_0 : cX6_init_2.data.toList.drop 0 = dktX6_init_2_0 := by decide +kernel
theorem dksX6_init_2_1 : cX6_init_2.data.toList.drop 22 = dktX6_init_2_1 := dk_seg dksX6_init_2_0 22 rfl rfl
theorem dX6_init_2_0 : decode cX6_init_2 0 = .ok (.aload_n 0, 1) := dk_42 (dk_at dksX6_init_2_0 0 rfl rfl)
theorem dX6_init_2_1 : decode cX6_init_2 1 = .ok (.invokespecial 7, 3) := dk_183 0 7 (dk_at dksX6_init_2_0 1 rfl rfl)
theorem dX6_init_2_4 : decode cX6_init_2 4 = .ok (.aload_n 0, 1) := dk_42 (dk_at dksX6_init_2_0 4 rfl rfl)
theorem dX6_init_2_5 : decode cX6_init_2 5 = .ok (.iload_n 1, 1) := dk_27 (dk_at dksX6_init_2_0 5 rfl rfl)
theorem dX6_init_2_6 : decode cX6_init_2 6 = .ok (.putfield 12, 3) := dk_181 0 12 (dk_at dksX6_init_2_0 6 rfl rfl)
theorem dX6_init_2_9 : decode cX6_init_2 9 = .ok (.aload_n 0, 1) := dk_42 (dk_at dksX6_init_2_0 9 rfl rfl)
theorem dX6_init_2_10 : decode cX6_init_2 10 = .ok (.iload_n 2, 1) := dk_28 (dk_at dksX6_init_2_0 10 rfl rfl)
theorem dX6_init_2_11 : decode cX6_init_2 11 = .ok (.putfield 16, 3) := dk_181 0 16 (dk_at dksX6_init_2_0 11 rfl rfl)
theorem dX6_init_2_14 : decode cX6_init_2 14 = .ok (.aload_n 0, 1) := dk_42 (dk_at dksX6_init_2_0 14 rfl rfl)
theorem dX6_init_2_15 : decode cX6_init_2 15 = .ok (.iload_n 3, 1) := dk_29 (dk_at dksX6_init_2_0 15 rfl rfl)
theorem dX6_init_2_16 : decode cX6_init_2 16 = .ok (.putfield 19, 3) := dk_181 0 19 (dk_at dksX6_init_2_0 16 rfl rfl)
theorem dX6_init_2_19 : decode cX6_init_2 19 = .ok (.aload_n 0, 1) := dk_42 (dk_at dksX6_init_2_0 19 rfl rfl)
theorem dX6_init_2_20 : decode cX6_init_2 20 = .ok (.iload 4, 2) := dk_21 4 (dk_at dksX6_init_2_0 20 rfl rfl)
theorem dX6_init_2_22 : decode cX6_init_2 22 = .ok (.putfield 22, 3) := dk_181 0 22 (dk_at dksX6_init_2_1 0 rfl rfl)
theorem dX6_init_2_25 : decode cX6_init_2 25 = .ok (.return_, 1) := dk_177 (dk_at dksX6_init_2_1 3 rfl rfl)
abbrev cX6_init_3 : ByteArray := prog_17_method_1_code
def yX6_init_3 : MethodName := ⟨RX6, "<init>", "(II)V"⟩
def dkwX6_init_3_0 : List UInt8 := [42, 27, 28, 3, 4, 183, 0, 1, 177]
abbrev dktX6_init_3_0 : List UInt8 := dkwX6_init_3_0 ++ []
theorem dksX6_init_3_0 : cX6_init_3.data.toList.drop 0 = dktX6_init_3_0 := by decide +kernel
theorem dX6_init_3_0 : decode cX6_init_3 0 = .ok (.aload_n 0, 1) := dk_42 (dk_at dksX6_init_3_0 0 rfl rfl)
theorem dX6_init_3_1 : decode cX6_init_3 1 = .ok (.iload_n 1, 1) := dk_27 (dk_at dksX6_init_3_0 1 rfl rfl)
theorem dX6_init_3_2 : decode cX6_init_3 2 = .ok (.iload_n 2, 1) := dk_28 (dk_at dksX6_init_3_0 2 rfl rfl)
theorem dX6_init_3_3 : decode cX6_init_3 3 = .ok (.iconst 0, 1) := dk_3 (dk_at dksX6_init_3_0 3 rfl rfl)
theorem dX6_init_3_4 : decode cX6_init_3 4 = .ok (.iconst 1, 1) := dk_4 (dk_at dksX6_init_3_0 4 rfl rfl)
theorem dX6_init_3_5 : decode cX6_init_3 5 = .ok (.invokespecial 1, 3) := dk_183 0 1 (dk_at dksX6_init_3_0 5 rfl rfl)
theorem dX6_init_3_8 : decode cX6_init_3 8 = .ok (.return_, 1) := dk_177 (dk_at dksX6_init_3_0 8 rfl rfl)
theorem q113 : (Jvm.Cond.initialized "MasterPrices$Telling") ∈ lw_all := lw_g (lw_at lw_m1 21 rfl) rfl
theorem q623 : (Jvm.Cond.selects "MasterPrices$Telling" ({ cls := "java/lang/Object", name := "getClass", desc := "()Ljava/lang/Class;" } : Jvm.MethodName) ({ cls := "java/lang/Object", name := "getClass", desc := "()Ljava/lang/Class;" } : Jvm.MethodName)) ∈ lw_all := lw_g (lw_at lw_m3 51 rfl) rfl
theorem q1000 : (Jvm.Cond.instantiable "MasterPrices$Telling" (4 : Nat)) ∈ lw_all := lw_g (lw_at lw_m4 188 rfl) rfl
theorem q1002 : (Jvm.Cond.instanceMethod ({ cls := "MasterPrices$Telling", name := "<init>", desc := "(III)V" } : Jvm.MethodName)) ∈ lw_all := lw_g (lw_at lw_m4 190 rfl) rfl
theorem q1003 : (Jvm.Cond.code ({ cls := "MasterPrices$Telling", name := "<init>", desc := "(III)V" } : Jvm.MethodName) prog_17_method_2_code (4 : Nat) (Option.none : Option Jvm.ClassFile.FieldType)) ∈ lw_all := lw_g (lw_at lw_m4 191 rfl) rfl
theorem q1004 : (Jvm.Cond.methodLink "MasterPrices$Telling" (1 : Nat) ({ cls := "MasterPrices$Telling", name := "<init>", desc := "(IIIZ)V" } : Jvm.MethodName)) ∈ lw_all := lw_g (lw_at lw_m4 192 rfl) rfl
theorem q1005 : (Jvm.Cond.instanceMethod ({ cls := "MasterPrices$Telling", name := "<init>", desc := "(IIIZ)V" } : Jvm.MethodName)) ∈ lw_all := lw_g (lw_at lw_m4 193 rfl) rfl
theorem q1006 : (Jvm.Cond.code ({ cls := "MasterPrices$Telling", name := "<init>", desc := "(IIIZ)V" } : Jvm.MethodName) prog_17_method_3_code (5 : Nat) (Option.none : Option Jvm.ClassFile.FieldType)) ∈ lw_all := lw_g (lw_at lw_m4 194 rfl) rfl
theorem q1007 : (Jvm.Cond.methodLink "MasterPrices$Telling" (7 : Nat) ({ cls := "java/lang/Object", name := "<init>", desc := "()V" } : Jvm.MethodName)) ∈ lw_all := lw_g (lw_at lw_m4 195 rfl) rfl
theorem q1008 : (Jvm.Cond.fieldLink "MasterPrices$Telling" (12 : Nat) "MasterPrices$Telling" "apprentice" "I") ∈ lw_all := lw_g (lw_at lw_m4 196 rfl) rfl
theorem q1010 : (Jvm.Cond.fieldLink "MasterPrices$Telling" (16 : Nat) "MasterPrices$Telling" "master" "I") ∈ lw_all := lw_g (lw_at lw_m4 198 rfl) rfl
theorem q1012 : (Jvm.Cond.fieldLink "MasterPrices$Telling" (19 : Nat) "MasterPrices$Telling" "cost" "I") ∈ lw_all := lw_g (lw_at lw_m4 200 rfl) rfl
theorem q1014 : (Jvm.Cond.fieldLink "MasterPrices$Telling" (22 : Nat) "MasterPrices$Telling" "isBar" "Z") ∈ lw_all := lw_g (lw_at lw_m4 202 rfl) rfl
theorem q1016 : (Jvm.Cond.laysFinal "MasterPrices$Telling" "MasterPrices$Telling" "apprentice" "I") ∈ lw_all := lw_g (lw_at lw_m4 204 rfl) rfl
theorem q1017 : (Jvm.Cond.soleField "MasterPrices$Telling" "apprentice") ∈ lw_all := lw_g (lw_at lw_m4 205 rfl) rfl
theorem q1018 : (Jvm.Cond.laysFinal "MasterPrices$Telling" "MasterPrices$Telling" "master" "I") ∈ lw_all := lw_g (lw_at lw_m4 206 rfl) rfl
theorem q1019 : (Jvm.Cond.soleField "MasterPrices$Telling" "master") ∈ lw_all := lw_g (lw_at lw_m4 207 rfl) rfl
theorem q1020 : (Jvm.Cond.laysFinal "MasterPrices$Telling" "MasterPrices$Telling" "cost" "I") ∈ lw_all := lw_g (lw_at lw_m4 208 rfl) rfl
theorem q1021 : (Jvm.Cond.soleField "MasterPrices$Telling" "cost") ∈ lw_all := lw_g (lw_at lw_m4 209 rfl) rfl
theorem q1022 : (Jvm.Cond.laysFinal "MasterPrices$Telling" "MasterPrices$Telling" "isBar" "Z") ∈ lw_all := lw_g (lw_at lw_m4 210 rfl) rfl
theorem q1023 : (Jvm.Cond.soleField "MasterPrices$Telling" "isBar") ∈ lw_all := lw_g (lw_at lw_m4 211 rfl) rfl
theorem q1024 : (Jvm.Cond.superclass "MasterPrices$Telling" "java/lang/Object") ∈ lw_all := lw_g (lw_at lw_m4 212 rfl) rfl
theorem q1033 : (Jvm.Cond.instanceMethod ({ cls := "MasterPrices$Telling", name := "<init>", desc := "(II)V" } : Jvm.MethodName)) ∈ lw_all := lw_g (lw_at lw_m4 221 rfl) rfl
theorem q1034 : (Jvm.Cond.code ({ cls := "MasterPrices$Telling", name := "<init>", desc := "(II)V" } : Jvm.MethodName) prog_17_method_1_code (3 : Nat) (Option.none : Option Jvm.ClassFile.FieldType)) ∈ lw_all := lw_g (lw_at lw_m4 222 rfl) rfl
theorem q2322 : (Jvm.Cond.castable "MasterPrices$Telling" "MasterPrices$Order") ∈ lw_tbl := lw_at lw_m10 70 rfl
theorem q2334 : (Jvm.Cond.castable "MasterPrices$Telling" "java/lang/Object") ∈ lw_tbl := lw_at lw_m10 82 rfl
abbrev cX7_init : ByteArray := prog_8_method_1_code
def yX7_init : MethodName := ⟨RX7, "<init>", "(I)V"⟩
def dkwX7_init_0 : List UInt8 := [42, 183, 0, 1, 42, 27, 181, 0, 7, 177]
abbrev dktX7_init_0 : List UInt8 := dkwX7_init_0 ++ []
theorem dksX7_init_0 : cX7_init.data.toList.drop 0 = dktX7_init_0 := by decide +kernel
theorem dX7_init_0 : decode cX7_init 0 = .ok (.aload_n 0, 1) := dk_42 (dk_at dksX7_init_0 0 rfl rfl)
theorem dX7_init_1 : decode cX7_init 1 = .ok (.invokespecial 1, 3) := dk_183 0 1 (dk_at dksX7_init_0 1 rfl rfl)
theorem dX7_init_4 : decode cX7_init 4 = .ok (.aload_n 0, 1) := dk_42 (dk_at dksX7_init_0 4 rfl rfl)
theorem dX7_init_5 : decode cX7_init 5 = .ok (.iload_n 1, 1) := dk_27 (dk_at dksX7_init_0 5 rfl rfl)
theorem dX7_init_6 : decode cX7_init 6 = .ok (.putfield 7, 3) := dk_181 0 7 (dk_at dksX7_init_0 6 rfl rfl)
theorem dX7_init_9 : decode cX7_init 9 = .ok (.return_, 1) := dk_177 (dk_at dksX7_init_0 9 rfl rfl)
theorem q116 : (Jvm.Cond.initialized "MasterPrices$Leaving") ∈ lw_all := lw_g (lw_at lw_m1 24 rfl) rfl
theorem q617 : (Jvm.Cond.selects "MasterPrices$Leaving" ({ cls := "java/lang/Object", name := "getClass", desc := "()Ljava/lang/Class;" } : Jvm.MethodName) ({ cls := "java/lang/Object", name := "getClass", desc := "()Ljava/lang/Class;" } : Jvm.MethodName)) ∈ lw_all := lw_g (lw_at lw_m3 45 rfl) rfl
theorem q1060 : (Jvm.Cond.instantiable "MasterPrices$Leaving" (1 : Nat)) ∈ lw_all := lw_g (lw_at lw_m5 8 rfl) rfl
theorem q1062 : (Jvm.Cond.instanceMethod ({ cls := "MasterPrices$Leaving", name := "<init>", desc := "(I)V" } : Jvm.MethodName)) ∈ lw_all := lw_g (lw_at lw_m5 10 rfl) rfl
theorem q1063 : (Jvm.Cond.code ({ cls := "MasterPrices$Leaving", name := "<init>", desc := "(I)V" } : Jvm.MethodName) prog_8_method_1_code (2 : Nat) (Option.none : Option Jvm.ClassFile.FieldType)) ∈ lw_all := lw_g (lw_at lw_m5 11 rfl) rfl
theorem q1064 : (Jvm.Cond.methodLink "MasterPrices$Leaving" (1 : Nat) ({ cls := "java/lang/Object", name := "<init>", desc := "()V" } : Jvm.MethodName)) ∈ lw_all := lw_g (lw_at lw_m5 12 rfl) rfl
theorem q1065 : (Jvm.Cond.fieldLink "MasterPrices$Leaving" (7 : Nat) "MasterPrices$Leaving" "apprentice" "I") ∈ lw_all := lw_g (lw_at lw_m5 13 rfl) rfl
theorem q1067 : (Jvm.Cond.laysFinal "MasterPrices$Leaving" "MasterPrices$Leaving" "apprentice" "I") ∈ lw_all := lw_g (lw_at lw_m5 15 rfl) rfl
theorem q1068 : (Jvm.Cond.soleField "MasterPrices$Leaving" "apprentice") ∈ lw_all := lw_g (lw_at lw_m5 16 rfl) rfl
theorem q1069 : (Jvm.Cond.superclass "MasterPrices$Leaving" "java/lang/Object") ∈ lw_all := lw_g (lw_at lw_m5 17 rfl) rfl
theorem q2318 : (Jvm.Cond.castable "MasterPrices$Leaving" "MasterPrices$Order") ∈ lw_tbl := lw_at lw_m10 66 rfl
theorem q2337 : (Jvm.Cond.castable "MasterPrices$Leaving" "java/lang/Object") ∈ lw_tbl := lw_at lw_m10 85 rfl
abbrev cX8_init : ByteArray := prog_7_method_1_code
def yX8_init : MethodName := ⟨RX8, "<init>", "(LMasterPrices$Town;)V"⟩
def dkwX8_init_3 : List UInt8 := [167, 255, 231, 187, 0, 32, 89, 43, 42, 186, 0, 34, 0, 0, 183, 0, 37, 3, 3, 3, 182, 0, 40, 177]
abbrev dktX8_init_3 : List UInt8 := dkwX8_init_3 ++ []
def dkwX8_init_2 : List UInt8 := [162, 0, 25, 42, 180, 0, 15, 28, 18, 21, 79, 42, 180, 0, 18, 28, 18, 21, 79, 132, 2, 1]
abbrev dktX8_init_2 : List UInt8 := dkwX8_init_2 ++ dktX8_init_3
def dkwX8_init_1 : List UInt8 := [188, 10, 181, 0, 18, 42, 18, 21, 181, 0, 22, 42, 43, 180, 0, 26, 181, 0, 31, 3, 61, 28, 16, 36]
abbrev dktX8_init_1 : List UInt8 := dkwX8_init_1 ++ dktX8_init_2
def dkwX8_init_0 : List UInt8 := [42, 183, 0, 3, 42, 16, 6, 188, 10, 181, 0, 9, 42, 16, 36, 188, 10, 181, 0, 15, 42, 16, 36]
abbrev dktX8_init_0 : List UInt8 := dkwX8_init_0 ++ dktX8_init_1
theorem dksX8_init_0 : cX8_init.data.toList.drop 0 = dktX8_init_0 := by decide +kernel
theorem dksX8_init_1 : cX8_init.data.toList.drop 23 = dktX8_init_1 := dk_seg dksX8_init_0 23 rfl rfl
theorem dksX8_init_2 : cX8_init.data.toList.drop 47 = dktX8_init_2 := dk_seg dksX8_init_1 24 rfl rfl
theorem dksX8_init_3 : cX8_init.data.toList.drop 69 = dktX8_init_3 := dk_seg dksX8_init_2 22 rfl rfl
theorem dX8_init_0 : decode cX8_init 0 = .ok (.aload_n 0, 1) := dk_42 (dk_at dksX8_init_0 0 rfl rfl)
theorem dX8_init_1 : decode cX8_init 1 = .ok (.invokespecial 3, 3) := dk_183 0 3 (dk_at dksX8_init_0 1 rfl rfl)
theorem dX8_init_4 : decode cX8_init 4 = .ok (.aload_n 0, 1) := dk_42 (dk_at dksX8_init_0 4 rfl rfl)
theorem dX8_init_5 : decode cX8_init 5 = .ok (.bipush 6, 2) := dk_16 6 (dk_at dksX8_init_0 5 rfl rfl)
theorem dX8_init_7 : decode cX8_init 7 = .ok (.newarray .int, 2) := dk_188_10 (dk_at dksX8_init_0 7 rfl rfl)
theorem dX8_init_9 : decode cX8_init 9 = .ok (.putfield 9, 3) := dk_181 0 9 (dk_at dksX8_init_0 9 rfl rfl)
theorem dX8_init_12 : decode cX8_init 12 = .ok (.aload_n 0, 1) := dk_42 (dk_at dksX8_init_0 12 rfl rfl)
theorem dX8_init_13 : decode cX8_init 13 = .ok (.bipush 36, 2) := dk_16 36 (dk_at dksX8_init_0 13 rfl rfl)
theorem dX8_init_15 : decode cX8_init 15 = .ok (.newarray .int, 2) := dk_188_10 (dk_at dksX8_init_0 15 rfl rfl)
theorem dX8_init_17 : decode cX8_init 17 = .ok (.putfield 15, 3) := dk_181 0 15 (dk_at dksX8_init_0 17 rfl rfl)
theorem dX8_init_20 : decode cX8_init 20 = .ok (.aload_n 0, 1) := dk_42 (dk_at dksX8_init_0 20 rfl rfl)
theorem dX8_init_21 : decode cX8_init 21 = .ok (.bipush 36, 2) := dk_16 36 (dk_at dksX8_init_0 21 rfl rfl)
theorem dX8_init_23 : decode cX8_init 23 = .ok (.newarray .int, 2) := dk_188_10 (dk_at dksX8_init_1 0 rfl rfl)
theorem dX8_init_25 : decode cX8_init 25 = .ok (.putfield 18, 3) := dk_181 0 18 (dk_at dksX8_init_1 2 rfl rfl)
theorem dX8_init_28 : decode cX8_init 28 = .ok (.aload_n 0, 1) := dk_42 (dk_at dksX8_init_1 5 rfl rfl)
theorem dX8_init_29 : decode cX8_init 29 = .ok (.ldc 21, 2) := dk_18 21 (dk_at dksX8_init_1 6 rfl rfl)
theorem dX8_init_31 : decode cX8_init 31 = .ok (.putfield 22, 3) := dk_181 0 22 (dk_at dksX8_init_1 8 rfl rfl)
theorem dX8_init_34 : decode cX8_init 34 = .ok (.aload_n 0, 1) := dk_42 (dk_at dksX8_init_1 11 rfl rfl)
theorem dX8_init_35 : decode cX8_init 35 = .ok (.aload_n 1, 1) := dk_43 (dk_at dksX8_init_1 12 rfl rfl)
theorem dX8_init_36 : decode cX8_init 36 = .ok (.getfield 26, 3) := dk_180 0 26 (dk_at dksX8_init_1 13 rfl rfl)
theorem dX8_init_39 : decode cX8_init 39 = .ok (.putfield 31, 3) := dk_181 0 31 (dk_at dksX8_init_1 16 rfl rfl)
theorem dX8_init_42 : decode cX8_init 42 = .ok (.iconst 0, 1) := dk_3 (dk_at dksX8_init_1 19 rfl rfl)
theorem dX8_init_43 : decode cX8_init 43 = .ok (.istore_n 2, 1) := dk_61 (dk_at dksX8_init_1 20 rfl rfl)
theorem dX8_init_44 : decode cX8_init 44 = .ok (.iload_n 2, 1) := dk_28 (dk_at dksX8_init_1 21 rfl rfl)
theorem dX8_init_45 : decode cX8_init 45 = .ok (.bipush 36, 2) := dk_16 36 (dk_at dksX8_init_1 22 rfl rfl)
theorem dX8_init_47 : decode cX8_init 47 = .ok (.if_icmp .ge 25, 3) := dk_162 0 25 (dk_at dksX8_init_2 0 rfl rfl)
theorem dX8_init_50 : decode cX8_init 50 = .ok (.aload_n 0, 1) := dk_42 (dk_at dksX8_init_2 3 rfl rfl)
theorem dX8_init_51 : decode cX8_init 51 = .ok (.getfield 15, 3) := dk_180 0 15 (dk_at dksX8_init_2 4 rfl rfl)
theorem dX8_init_54 : decode cX8_init 54 = .ok (.iload_n 2, 1) := dk_28 (dk_at dksX8_init_2 7 rfl rfl)
theorem dX8_init_55 : decode cX8_init 55 = .ok (.ldc 21, 2) := dk_18 21 (dk_at dksX8_init_2 8 rfl rfl)
theorem dX8_init_57 : decode cX8_init 57 = .ok (.iastore, 1) := dk_79 (dk_at dksX8_init_2 10 rfl rfl)
theorem dX8_init_58 : decode cX8_init 58 = .ok (.aload_n 0, 1) := dk_42 (dk_at dksX8_init_2 11 rfl rfl)
theorem dX8_init_59 : decode cX8_init 59 = .ok (.getfield 18, 3) := dk_180 0 18 (dk_at dksX8_init_2 12 rfl rfl)
theorem dX8_init_62 : decode cX8_init 62 = .ok (.iload_n 2, 1) := dk_28 (dk_at dksX8_init_2 15 rfl rfl)
theorem dX8_init_63 : decode cX8_init 63 = .ok (.ldc 21, 2) := dk_18 21 (dk_at dksX8_init_2 16 rfl rfl)
theorem dX8_init_65 : decode cX8_init 65 = .ok (.iastore, 1) := dk_79 (dk_at dksX8_init_2 18 rfl rfl)
theorem dX8_init_66 : decode cX8_init 66 = .ok (.iinc 2 1, 3) := dk_132 2 1 (dk_at dksX8_init_2 19 rfl rfl)
theorem dX8_init_69 : decode cX8_init 69 = .ok (.goto (-25), 3) := dk_167 255 231 (dk_at dksX8_init_3 0 rfl rfl)
theorem dX8_init_72 : decode cX8_init 72 = .ok (.new 32, 3) := dk_187 0 32 (dk_at dksX8_init_3 3 rfl rfl)
theorem dX8_init_75 : decode cX8_init 75 = .ok (.dup, 1) := dk_89 (dk_at dksX8_init_3 6 rfl rfl)
theorem dX8_init_76 : decode cX8_init 76 = .ok (.aload_n 1, 1) := dk_43 (dk_at dksX8_init_3 7 rfl rfl)
theorem dX8_init_77 : decode cX8_init 77 = .ok (.aload_n 0, 1) := dk_42 (dk_at dksX8_init_3 8 rfl rfl)
theorem dX8_init_78 : decode cX8_init 78 = .ok (.invokedynamic 34, 5) := by decide +kernel
theorem dX8_init_83 : decode cX8_init 83 = .ok (.invokespecial 37, 3) := dk_183 0 37 (dk_at dksX8_init_3 14 rfl rfl)
theorem dX8_init_86 : decode cX8_init 86 = .ok (.iconst 0, 1) := dk_3 (dk_at dksX8_init_3 17 rfl rfl)
theorem dX8_init_87 : decode cX8_init 87 = .ok (.iconst 0, 1) := dk_3 (dk_at dksX8_init_3 18 rfl rfl)
theorem dX8_init_88 : decode cX8_init 88 = .ok (.iconst 0, 1) := dk_3 (dk_at dksX8_init_3 19 rfl rfl)
theorem dX8_init_89 : decode cX8_init 89 = .ok (.invokevirtual 40, 3) := dk_182 0 40 (dk_at dksX8_init_3 20 rfl rfl)
theorem dX8_init_92 : decode cX8_init 92 = .ok (.return_, 1) := dk_177 (dk_at dksX8_init_3 23 rfl rfl)
abbrev cX8_lambda_new_0 : ByteArray := prog_7_method_5_code
def yX8_lambda_new_0 : MethodName := ⟨RX8, "lambda$new$0", "([II)V"⟩
def dkwX8_lambda_new_0_0 : List UInt8 := [42, 43, 28, 182, 0, 85, 177]
abbrev dktX8_lambda_new_0_0 : List UInt8 := dkwX8_lambda_new_0_0 ++ []
theorem dksX8_lambda_new_0_0 : cX8_lambda_new_0.data.toList.drop 0 = dktX8_lambda_new_0_0 := by decide +kernel
theorem dX8_lambda_new_0_0 : decode cX8_lambda_new_0 0 = .ok (.aload_n 0, 1) := dk_42 (dk_at dksX8_lambda_new_0_0 0 rfl rfl)
theorem dX8_lambda_new_0_1 : decode cX8_lambda_new_0 1 = .ok (.aload_n 1, 1) := dk_43 (dk_at dksX8_lambda_new_0_0 1 rfl rfl)
theorem dX8_lambda_new_0_2 : decode cX8_lambda_new_0 2 = .ok (.iload_n 2, 1) := dk_28 (dk_at dksX8_lambda_new_0_0 2 rfl rfl)
theorem dX8_lambda_new_0_3 : decode cX8_lambda_new_0 3 = .ok (.invokevirtual 85, 3) := dk_182 0 85 (dk_at dksX8_lambda_new_0_0 3 rfl rfl)
theorem dX8_lambda_new_0_6 : decode cX8_lambda_new_0 6 = .ok (.return_, 1) := dk_177 (dk_at dksX8_lambda_new_0_0 6 rfl rfl)
abbrev cX8_counts : ByteArray := prog_7_method_2_code
def yX8_counts : MethodName := ⟨RX8, "counts", "([II)V"⟩
def dkwX8_counts_6 : List UInt8 := [29, 46, 28, 184, 0, 56, 79, 132, 3, 1, 167, 255, 176, 177]
abbrev dktX8_counts_6 : List UInt8 := dkwX8_counts_6 ++ []
def dkwX8_counts_5 : List UInt8 := [29, 42, 180, 0, 15, 29, 46, 28, 184, 0, 56, 79, 167, 0, 19, 42, 180, 0, 18, 29, 42, 180, 0, 18]
abbrev dktX8_counts_5 : List UInt8 := dkwX8_counts_5 ++ dktX8_counts_6
def dkwX8_counts_4 : List UInt8 := [46, 29, 16, 6, 112, 160, 0, 7, 4, 167, 0, 4, 3, 54, 4, 21, 4, 153, 0, 22, 42, 180, 0, 15]
abbrev dktX8_counts_4 : List UInt8 := dkwX8_counts_4 ++ dktX8_counts_5
def dkwX8_counts_3 : List UInt8 := [3, 62, 29, 16, 36, 162, 0, 80, 29, 16, 6, 108, 42, 180, 0, 31, 162, 0, 20, 43, 29, 16, 6, 108]
abbrev dktX8_counts_3 : List UInt8 := dkwX8_counts_3 ++ dktX8_counts_4
def dkwX8_counts_2 : List UInt8 := [42, 180, 0, 22, 162, 0, 20, 42, 28, 181, 0, 22, 43, 3, 42, 180, 0, 9, 3, 16, 6, 184, 0, 50]
abbrev dktX8_counts_2 : List UInt8 := dkwX8_counts_2 ++ dktX8_counts_3
def dkwX8_counts_1 : List UInt8 := [42, 180, 0, 22, 160, 0, 12, 42, 180, 0, 47, 4, 96, 167, 0, 7, 42, 180, 0, 47, 181, 0, 47, 28]
abbrev dktX8_counts_1 : List UInt8 := dkwX8_counts_1 ++ dktX8_counts_2
def dkwX8_counts_0 : List UInt8 := [42, 89, 180, 0, 44, 4, 96, 181, 0, 44, 42, 28, 42, 180, 0, 22, 162, 0, 7, 4, 167, 0, 24, 28]
abbrev dktX8_counts_0 : List UInt8 := dkwX8_counts_0 ++ dktX8_counts_1
theorem dksX8_counts_0 : cX8_counts.data.toList.drop 0 = dktX8_counts_0 := by decide +kernel
theorem dksX8_counts_1 : cX8_counts.data.toList.drop 24 = dktX8_counts_1 := dk_seg dksX8_counts_0 24 rfl rfl
theorem dksX8_counts_2 : cX8_counts.data.toList.drop 48 = dktX8_counts_2 := dk_seg dksX8_counts_1 24 rfl rfl
theorem dksX8_counts_3 : cX8_counts.data.toList.drop 72 = dktX8_counts_3 := dk_seg dksX8_counts_2 24 rfl rfl
theorem dksX8_counts_4 : cX8_counts.data.toList.drop 96 = dktX8_counts_4 := dk_seg dksX8_counts_3 24 rfl rfl
theorem dksX8_counts_5 : cX8_counts.data.toList.drop 120 = dktX8_counts_5 := dk_seg dksX8_counts_4 24 rfl rfl
theorem dksX8_counts_6 : cX8_counts.data.toList.drop 144 = dktX8_counts_6 := dk_seg dksX8_counts_5 24 rfl rfl
theorem dX8_counts_0 : decode cX8_counts 0 = .ok (.aload_n 0, 1) := dk_42 (dk_at dksX8_counts_0 0 rfl rfl)
theorem dX8_counts_1 : decode cX8_counts 1 = .ok (.dup, 1) := dk_89 (dk_at dksX8_counts_0 1 rfl rfl)
theorem dX8_counts_2 : decode cX8_counts 2 = .ok (.getfield 44, 3) := dk_180 0 44 (dk_at dksX8_counts_0 2 rfl rfl)
theorem dX8_counts_5 : decode cX8_counts 5 = .ok (.iconst 1, 1) := dk_4 (dk_at dksX8_counts_0 5 rfl rfl)
theorem dX8_counts_6 : decode cX8_counts 6 = .ok (.iadd, 1) := dk_96 (dk_at dksX8_counts_0 6 rfl rfl)
theorem dX8_counts_7 : decode cX8_counts 7 = .ok (.putfield 44, 3) := dk_181 0 44 (dk_at dksX8_counts_0 7 rfl rfl)
theorem dX8_counts_10 : decode cX8_counts 10 = .ok (.aload_n 0, 1) := dk_42 (dk_at dksX8_counts_0 10 rfl rfl)
theorem dX8_counts_11 : decode cX8_counts 11 = .ok (.iload_n 2, 1) := dk_28 (dk_at dksX8_counts_0 11 rfl rfl)
theorem dX8_counts_12 : decode cX8_counts 12 = .ok (.aload_n 0, 1) := dk_42 (dk_at dksX8_counts_0 12 rfl rfl)
theorem dX8_counts_13 : decode cX8_counts 13 = .ok (.getfield 22, 3) := dk_180 0 22 (dk_at dksX8_counts_0 13 rfl rfl)
theorem dX8_counts_16 : decode cX8_counts 16 = .ok (.if_icmp .ge 7, 3) := dk_162 0 7 (dk_at dksX8_counts_0 16 rfl rfl)
theorem dX8_counts_19 : decode cX8_counts 19 = .ok (.iconst 1, 1) := dk_4 (dk_at dksX8_counts_0 19 rfl rfl)
theorem dX8_counts_20 : decode cX8_counts 20 = .ok (.goto 24, 3) := dk_167 0 24 (dk_at dksX8_counts_0 20 rfl rfl)
theorem dX8_counts_23 : decode cX8_counts 23 = .ok (.iload_n 2, 1) := dk_28 (dk_at dksX8_counts_0 23 rfl rfl)
theorem dX8_counts_24 : decode cX8_counts 24 = .ok (.aload_n 0, 1) := dk_42 (dk_at dksX8_counts_1 0 rfl rfl)
theorem dX8_counts_25 : decode cX8_counts 25 = .ok (.getfield 22, 3) := dk_180 0 22 (dk_at dksX8_counts_1 1 rfl rfl)
theorem dX8_counts_28 : decode cX8_counts 28 = .ok (.if_icmp .ne 12, 3) := dk_160 0 12 (dk_at dksX8_counts_1 4 rfl rfl)
theorem dX8_counts_31 : decode cX8_counts 31 = .ok (.aload_n 0, 1) := dk_42 (dk_at dksX8_counts_1 7 rfl rfl)
theorem dX8_counts_32 : decode cX8_counts 32 = .ok (.getfield 47, 3) := dk_180 0 47 (dk_at dksX8_counts_1 8 rfl rfl)
theorem dX8_counts_35 : decode cX8_counts 35 = .ok (.iconst 1, 1) := dk_4 (dk_at dksX8_counts_1 11 rfl rfl)
theorem dX8_counts_36 : decode cX8_counts 36 = .ok (.iadd, 1) := dk_96 (dk_at dksX8_counts_1 12 rfl rfl)
theorem dX8_counts_37 : decode cX8_counts 37 = .ok (.goto 7, 3) := dk_167 0 7 (dk_at dksX8_counts_1 13 rfl rfl)
theorem dX8_counts_40 : decode cX8_counts 40 = .ok (.aload_n 0, 1) := dk_42 (dk_at dksX8_counts_1 16 rfl rfl)
theorem dX8_counts_41 : decode cX8_counts 41 = .ok (.getfield 47, 3) := dk_180 0 47 (dk_at dksX8_counts_1 17 rfl rfl)
theorem dX8_counts_44 : decode cX8_counts 44 = .ok (.putfield 47, 3) := dk_181 0 47 (dk_at dksX8_counts_1 20 rfl rfl)
theorem dX8_counts_47 : decode cX8_counts 47 = .ok (.iload_n 2, 1) := dk_28 (dk_at dksX8_counts_1 23 rfl rfl)
theorem dX8_counts_48 : decode cX8_counts 48 = .ok (.aload_n 0, 1) := dk_42 (dk_at dksX8_counts_2 0 rfl rfl)
theorem dX8_counts_49 : decode cX8_counts 49 = .ok (.getfield 22, 3) := dk_180 0 22 (dk_at dksX8_counts_2 1 rfl rfl)
theorem dX8_counts_52 : decode cX8_counts 52 = .ok (.if_icmp .ge 20, 3) := dk_162 0 20 (dk_at dksX8_counts_2 4 rfl rfl)
theorem dX8_counts_55 : decode cX8_counts 55 = .ok (.aload_n 0, 1) := dk_42 (dk_at dksX8_counts_2 7 rfl rfl)
theorem dX8_counts_56 : decode cX8_counts 56 = .ok (.iload_n 2, 1) := dk_28 (dk_at dksX8_counts_2 8 rfl rfl)
theorem dX8_counts_57 : decode cX8_counts 57 = .ok (.putfield 22, 3) := dk_181 0 22 (dk_at dksX8_counts_2 9 rfl rfl)
theorem dX8_counts_60 : decode cX8_counts 60 = .ok (.aload_n 1, 1) := dk_43 (dk_at dksX8_counts_2 12 rfl rfl)
theorem dX8_counts_61 : decode cX8_counts 61 = .ok (.iconst 0, 1) := dk_3 (dk_at dksX8_counts_2 13 rfl rfl)
theorem dX8_counts_62 : decode cX8_counts 62 = .ok (.aload_n 0, 1) := dk_42 (dk_at dksX8_counts_2 14 rfl rfl)
theorem dX8_counts_63 : decode cX8_counts 63 = .ok (.getfield 9, 3) := dk_180 0 9 (dk_at dksX8_counts_2 15 rfl rfl)
theorem dX8_counts_66 : decode cX8_counts 66 = .ok (.iconst 0, 1) := dk_3 (dk_at dksX8_counts_2 18 rfl rfl)
theorem dX8_counts_67 : decode cX8_counts 67 = .ok (.bipush 6, 2) := dk_16 6 (dk_at dksX8_counts_2 19 rfl rfl)
theorem dX8_counts_69 : decode cX8_counts 69 = .ok (.invokestatic 50, 3) := dk_184 0 50 (dk_at dksX8_counts_2 21 rfl rfl)
theorem dX8_counts_72 : decode cX8_counts 72 = .ok (.iconst 0, 1) := dk_3 (dk_at dksX8_counts_3 0 rfl rfl)
theorem dX8_counts_73 : decode cX8_counts 73 = .ok (.istore_n 3, 1) := dk_62 (dk_at dksX8_counts_3 1 rfl rfl)
theorem dX8_counts_74 : decode cX8_counts 74 = .ok (.iload_n 3, 1) := dk_29 (dk_at dksX8_counts_3 2 rfl rfl)
theorem dX8_counts_75 : decode cX8_counts 75 = .ok (.bipush 36, 2) := dk_16 36 (dk_at dksX8_counts_3 3 rfl rfl)
theorem dX8_counts_77 : decode cX8_counts 77 = .ok (.if_icmp .ge 80, 3) := dk_162 0 80 (dk_at dksX8_counts_3 5 rfl rfl)
theorem dX8_counts_80 : decode cX8_counts 80 = .ok (.iload_n 3, 1) := dk_29 (dk_at dksX8_counts_3 8 rfl rfl)
theorem dX8_counts_81 : decode cX8_counts 81 = .ok (.bipush 6, 2) := dk_16 6 (dk_at dksX8_counts_3 9 rfl rfl)
theorem dX8_counts_83 : decode cX8_counts 83 = .ok (.idiv, 1) := dk_108 (dk_at dksX8_counts_3 11 rfl rfl)
theorem dX8_counts_84 : decode cX8_counts 84 = .ok (.aload_n 0, 1) := dk_42 (dk_at dksX8_counts_3 12 rfl rfl)
theorem dX8_counts_85 : decode cX8_counts 85 = .ok (.getfield 31, 3) := dk_180 0 31 (dk_at dksX8_counts_3 13 rfl rfl)
theorem dX8_counts_88 : decode cX8_counts 88 = .ok (.if_icmp .ge 20, 3) := dk_162 0 20 (dk_at dksX8_counts_3 16 rfl rfl)
theorem dX8_counts_91 : decode cX8_counts 91 = .ok (.aload_n 1, 1) := dk_43 (dk_at dksX8_counts_3 19 rfl rfl)
theorem dX8_counts_92 : decode cX8_counts 92 = .ok (.iload_n 3, 1) := dk_29 (dk_at dksX8_counts_3 20 rfl rfl)
theorem dX8_counts_93 : decode cX8_counts 93 = .ok (.bipush 6, 2) := dk_16 6 (dk_at dksX8_counts_3 21 rfl rfl)
theorem dX8_counts_95 : decode cX8_counts 95 = .ok (.idiv, 1) := dk_108 (dk_at dksX8_counts_3 23 rfl rfl)
theorem dX8_counts_96 : decode cX8_counts 96 = .ok (.iaload, 1) := dk_46 (dk_at dksX8_counts_4 0 rfl rfl)
theorem dX8_counts_97 : decode cX8_counts 97 = .ok (.iload_n 3, 1) := dk_29 (dk_at dksX8_counts_4 1 rfl rfl)
theorem dX8_counts_98 : decode cX8_counts 98 = .ok (.bipush 6, 2) := dk_16 6 (dk_at dksX8_counts_4 2 rfl rfl)
theorem dX8_counts_100 : decode cX8_counts 100 = .ok (.irem, 1) := dk_112 (dk_at dksX8_counts_4 4 rfl rfl)
theorem dX8_counts_101 : decode cX8_counts 101 = .ok (.if_icmp .ne 7, 3) := dk_160 0 7 (dk_at dksX8_counts_4 5 rfl rfl)
theorem dX8_counts_104 : decode cX8_counts 104 = .ok (.iconst 1, 1) := dk_4 (dk_at dksX8_counts_4 8 rfl rfl)
theorem dX8_counts_105 : decode cX8_counts 105 = .ok (.goto 4, 3) := dk_167 0 4 (dk_at dksX8_counts_4 9 rfl rfl)
theorem dX8_counts_108 : decode cX8_counts 108 = .ok (.iconst 0, 1) := dk_3 (dk_at dksX8_counts_4 12 rfl rfl)
theorem dX8_counts_109 : decode cX8_counts 109 = .ok (.istore 4, 2) := dk_54 4 (dk_at dksX8_counts_4 13 rfl rfl)
theorem dX8_counts_111 : decode cX8_counts 111 = .ok (.iload 4, 2) := dk_21 4 (dk_at dksX8_counts_4 15 rfl rfl)
theorem dX8_counts_113 : decode cX8_counts 113 = .ok (.ifCond .eq 22, 3) := dk_153 0 22 (dk_at dksX8_counts_4 17 rfl rfl)
theorem dX8_counts_116 : decode cX8_counts 116 = .ok (.aload_n 0, 1) := dk_42 (dk_at dksX8_counts_4 20 rfl rfl)
theorem dX8_counts_117 : decode cX8_counts 117 = .ok (.getfield 15, 3) := dk_180 0 15 (dk_at dksX8_counts_4 21 rfl rfl)
theorem dX8_counts_120 : decode cX8_counts 120 = .ok (.iload_n 3, 1) := dk_29 (dk_at dksX8_counts_5 0 rfl rfl)
theorem dX8_counts_121 : decode cX8_counts 121 = .ok (.aload_n 0, 1) := dk_42 (dk_at dksX8_counts_5 1 rfl rfl)
theorem dX8_counts_122 : decode cX8_counts 122 = .ok (.getfield 15, 3) := dk_180 0 15 (dk_at dksX8_counts_5 2 rfl rfl)
theorem dX8_counts_125 : decode cX8_counts 125 = .ok (.iload_n 3, 1) := dk_29 (dk_at dksX8_counts_5 5 rfl rfl)
theorem dX8_counts_126 : decode cX8_counts 126 = .ok (.iaload, 1) := dk_46 (dk_at dksX8_counts_5 6 rfl rfl)
theorem dX8_counts_127 : decode cX8_counts 127 = .ok (.iload_n 2, 1) := dk_28 (dk_at dksX8_counts_5 7 rfl rfl)
theorem dX8_counts_128 : decode cX8_counts 128 = .ok (.invokestatic 56, 3) := dk_184 0 56 (dk_at dksX8_counts_5 8 rfl rfl)
theorem dX8_counts_131 : decode cX8_counts 131 = .ok (.iastore, 1) := dk_79 (dk_at dksX8_counts_5 11 rfl rfl)
theorem dX8_counts_132 : decode cX8_counts 132 = .ok (.goto 19, 3) := dk_167 0 19 (dk_at dksX8_counts_5 12 rfl rfl)
theorem dX8_counts_135 : decode cX8_counts 135 = .ok (.aload_n 0, 1) := dk_42 (dk_at dksX8_counts_5 15 rfl rfl)
theorem dX8_counts_136 : decode cX8_counts 136 = .ok (.getfield 18, 3) := dk_180 0 18 (dk_at dksX8_counts_5 16 rfl rfl)
theorem dX8_counts_139 : decode cX8_counts 139 = .ok (.iload_n 3, 1) := dk_29 (dk_at dksX8_counts_5 19 rfl rfl)
theorem dX8_counts_140 : decode cX8_counts 140 = .ok (.aload_n 0, 1) := dk_42 (dk_at dksX8_counts_5 20 rfl rfl)
theorem dX8_counts_141 : decode cX8_counts 141 = .ok (.getfield 18, 3) := dk_180 0 18 (dk_at dksX8_counts_5 21 rfl rfl)
theorem dX8_counts_144 : decode cX8_counts 144 = .ok (.iload_n 3, 1) := dk_29 (dk_at dksX8_counts_6 0 rfl rfl)
theorem dX8_counts_145 : decode cX8_counts 145 = .ok (.iaload, 1) := dk_46 (dk_at dksX8_counts_6 1 rfl rfl)
theorem dX8_counts_146 : decode cX8_counts 146 = .ok (.iload_n 2, 1) := dk_28 (dk_at dksX8_counts_6 2 rfl rfl)
theorem dX8_counts_147 : decode cX8_counts 147 = .ok (.invokestatic 56, 3) := dk_184 0 56 (dk_at dksX8_counts_6 3 rfl rfl)
theorem dX8_counts_150 : decode cX8_counts 150 = .ok (.iastore, 1) := dk_79 (dk_at dksX8_counts_6 6 rfl rfl)
theorem dX8_counts_151 : decode cX8_counts 151 = .ok (.iinc 3 1, 3) := dk_132 3 1 (dk_at dksX8_counts_6 7 rfl rfl)
theorem dX8_counts_154 : decode cX8_counts 154 = .ok (.goto (-80), 3) := dk_167 255 176 (dk_at dksX8_counts_6 10 rfl rfl)
theorem dX8_counts_157 : decode cX8_counts 157 = .ok (.return_, 1) := dk_177 (dk_at dksX8_counts_6 13 rfl rfl)
abbrev cX8_line : ByteArray := prog_7_method_4_code
def yX8_line : MethodName := ⟨RX8, "line", "()Ljava/lang/CharSequence;"⟩
def dkwX8_line_3 : List UInt8 := [167, 0, 5, 18, 83, 176]
abbrev dktX8_line_3 : List UInt8 := dkwX8_line_3 ++ []
def dkwX8_line_2 : List UInt8 := [167, 255, 220, 42, 182, 0, 76, 153, 0, 19, 43, 16, 61, 182, 0, 80, 42, 180, 0, 22, 182, 0, 73]
abbrev dktX8_line_2 : List UInt8 := dkwX8_line_2 ++ dktX8_line_3
def dkwX8_line_1 : List UInt8 := [18, 65, 167, 0, 5, 18, 67, 182, 0, 69, 42, 180, 0, 9, 28, 46, 182, 0, 73, 87, 132, 2, 1]
abbrev dktX8_line_1 : List UInt8 := dkwX8_line_1 ++ dktX8_line_2
def dkwX8_line_0 : List UInt8 := [187, 0, 62, 89, 183, 0, 64, 76, 3, 61, 28, 42, 180, 0, 31, 162, 0, 34, 43, 28, 154, 0, 8]
abbrev dktX8_line_0 : List UInt8 := dkwX8_line_0 ++ dktX8_line_1
theorem dksX8_line_0 : cX8_line.data.toList.drop 0 = dktX8_line_0 := by decide +kernel
theorem dksX8_line_1 : cX8_line.data.toList.drop 23 = dktX8_line_1 := dk_seg dksX8_line_0 23 rfl rfl
theorem dksX8_line_2 : cX8_line.data.toList.drop 46 = dktX8_line_2 := dk_seg dksX8_line_1 23 rfl rfl
theorem dksX8_line_3 : cX8_line.data.toList.drop 69 = dktX8_line_3 := dk_seg dksX8_line_2 23 rfl rfl
theorem dX8_line_0 : decode cX8_line 0 = .ok (.new 62, 3) := dk_187 0 62 (dk_at dksX8_line_0 0 rfl rfl)
theorem dX8_line_3 : decode cX8_line 3 = .ok (.dup, 1) := dk_89 (dk_at dksX8_line_0 3 rfl rfl)
theorem dX8_line_4 : decode cX8_line 4 = .ok (.invokespecial 64, 3) := dk_183 0 64 (dk_at dksX8_line_0 4 rfl rfl)
theorem dX8_line_7 : decode cX8_line 7 = .ok (.astore_n 1, 1) := dk_76 (dk_at dksX8_line_0 7 rfl rfl)
theorem dX8_line_8 : decode cX8_line 8 = .ok (.iconst 0, 1) := dk_3 (dk_at dksX8_line_0 8 rfl rfl)
theorem dX8_line_9 : decode cX8_line 9 = .ok (.istore_n 2, 1) := dk_61 (dk_at dksX8_line_0 9 rfl rfl)
theorem dX8_line_10 : decode cX8_line 10 = .ok (.iload_n 2, 1) := dk_28 (dk_at dksX8_line_0 10 rfl rfl)
theorem dX8_line_11 : decode cX8_line 11 = .ok (.aload_n 0, 1) := dk_42 (dk_at dksX8_line_0 11 rfl rfl)
theorem dX8_line_12 : decode cX8_line 12 = .ok (.getfield 31, 3) := dk_180 0 31 (dk_at dksX8_line_0 12 rfl rfl)
theorem dX8_line_15 : decode cX8_line 15 = .ok (.if_icmp .ge 34, 3) := dk_162 0 34 (dk_at dksX8_line_0 15 rfl rfl)
theorem dX8_line_18 : decode cX8_line 18 = .ok (.aload_n 1, 1) := dk_43 (dk_at dksX8_line_0 18 rfl rfl)
theorem dX8_line_19 : decode cX8_line 19 = .ok (.iload_n 2, 1) := dk_28 (dk_at dksX8_line_0 19 rfl rfl)
theorem dX8_line_20 : decode cX8_line 20 = .ok (.ifCond .ne 8, 3) := dk_154 0 8 (dk_at dksX8_line_0 20 rfl rfl)
theorem dX8_line_23 : decode cX8_line 23 = .ok (.ldc 65, 2) := dk_18 65 (dk_at dksX8_line_1 0 rfl rfl)
theorem dX8_line_25 : decode cX8_line 25 = .ok (.goto 5, 3) := dk_167 0 5 (dk_at dksX8_line_1 2 rfl rfl)
theorem dX8_line_28 : decode cX8_line 28 = .ok (.ldc 67, 2) := dk_18 67 (dk_at dksX8_line_1 5 rfl rfl)
theorem dX8_line_30 : decode cX8_line 30 = .ok (.invokevirtual 69, 3) := dk_182 0 69 (dk_at dksX8_line_1 7 rfl rfl)
theorem dX8_line_33 : decode cX8_line 33 = .ok (.aload_n 0, 1) := dk_42 (dk_at dksX8_line_1 10 rfl rfl)
theorem dX8_line_34 : decode cX8_line 34 = .ok (.getfield 9, 3) := dk_180 0 9 (dk_at dksX8_line_1 11 rfl rfl)
theorem dX8_line_37 : decode cX8_line 37 = .ok (.iload_n 2, 1) := dk_28 (dk_at dksX8_line_1 14 rfl rfl)
theorem dX8_line_38 : decode cX8_line 38 = .ok (.iaload, 1) := dk_46 (dk_at dksX8_line_1 15 rfl rfl)
theorem dX8_line_39 : decode cX8_line 39 = .ok (.invokevirtual 73, 3) := dk_182 0 73 (dk_at dksX8_line_1 16 rfl rfl)
theorem dX8_line_42 : decode cX8_line 42 = .ok (.pop, 1) := dk_87 (dk_at dksX8_line_1 19 rfl rfl)
theorem dX8_line_43 : decode cX8_line 43 = .ok (.iinc 2 1, 3) := dk_132 2 1 (dk_at dksX8_line_1 20 rfl rfl)
theorem dX8_line_46 : decode cX8_line 46 = .ok (.goto (-36), 3) := dk_167 255 220 (dk_at dksX8_line_2 0 rfl rfl)
theorem dX8_line_49 : decode cX8_line 49 = .ok (.aload_n 0, 1) := dk_42 (dk_at dksX8_line_2 3 rfl rfl)
theorem dX8_line_50 : decode cX8_line 50 = .ok (.invokevirtual 76, 3) := dk_182 0 76 (dk_at dksX8_line_2 4 rfl rfl)
theorem dX8_line_53 : decode cX8_line 53 = .ok (.ifCond .eq 19, 3) := dk_153 0 19 (dk_at dksX8_line_2 7 rfl rfl)
theorem dX8_line_56 : decode cX8_line 56 = .ok (.aload_n 1, 1) := dk_43 (dk_at dksX8_line_2 10 rfl rfl)
theorem dX8_line_57 : decode cX8_line 57 = .ok (.bipush 61, 2) := dk_16 61 (dk_at dksX8_line_2 11 rfl rfl)
theorem dX8_line_59 : decode cX8_line 59 = .ok (.invokevirtual 80, 3) := dk_182 0 80 (dk_at dksX8_line_2 13 rfl rfl)
theorem dX8_line_62 : decode cX8_line 62 = .ok (.aload_n 0, 1) := dk_42 (dk_at dksX8_line_2 16 rfl rfl)
theorem dX8_line_63 : decode cX8_line 63 = .ok (.getfield 22, 3) := dk_180 0 22 (dk_at dksX8_line_2 17 rfl rfl)
theorem dX8_line_66 : decode cX8_line 66 = .ok (.invokevirtual 73, 3) := dk_182 0 73 (dk_at dksX8_line_2 20 rfl rfl)
theorem dX8_line_69 : decode cX8_line 69 = .ok (.goto 5, 3) := dk_167 0 5 (dk_at dksX8_line_3 0 rfl rfl)
theorem dX8_line_72 : decode cX8_line 72 = .ok (.ldc 83, 2) := dk_18 83 (dk_at dksX8_line_3 3 rfl rfl)
theorem dX8_line_74 : decode cX8_line 74 = .ok (.areturn, 1) := dk_176 (dk_at dksX8_line_3 5 rfl rfl)
abbrev cX8_isThere : ByteArray := prog_7_method_3_code
def yX8_isThere : MethodName := ⟨RX8, "isThere", "()Z"⟩
def dkwX8_isThere_0 : List UInt8 := [42, 180, 0, 44, 158, 0, 7, 4, 167, 0, 4, 3, 172]
abbrev dktX8_isThere_0 : List UInt8 := dkwX8_isThere_0 ++ []
theorem dksX8_isThere_0 : cX8_isThere.data.toList.drop 0 = dktX8_isThere_0 := by decide +kernel
theorem dX8_isThere_0 : decode cX8_isThere 0 = .ok (.aload_n 0, 1) := dk_42 (dk_at dksX8_isThere_0 0 rfl rfl)
theorem dX8_isThere_1 : decode cX8_isThere 1 = .ok (.getfield 44, 3) := dk_180 0 44 (dk_at dksX8_isThere_0 1 rfl rfl)
theorem dX8_isThere_4 : decode cX8_isThere 4 = .ok (.ifCond .le 7, 3) := dk_158 0 7 (dk_at dksX8_isThere_0 4 rfl rfl)
theorem dX8_isThere_7 : decode cX8_isThere 7 = .ok (.iconst 1, 1) := dk_4 (dk_at dksX8_isThere_0 7 rfl rfl)
theorem dX8_isThere_8 : decode cX8_isThere 8 = .ok (.goto 4, 3) := dk_167 0 4 (dk_at dksX8_isThere_0 8 rfl rfl)
theorem dX8_isThere_11 : decode cX8_isThere 11 = .ok (.iconst 0, 1) := dk_3 (dk_at dksX8_isThere_0 11 rfl rfl)
theorem dX8_isThere_12 : decode cX8_isThere 12 = .ok (.ireturn, 1) := dk_172 (dk_at dksX8_isThere_0 12 rfl rfl)
theorem q119 : (Jvm.Cond.initialized "MasterPrices$Known") ∈ lw_all := lw_g (lw_at lw_m1 27 rfl) rfl
theorem q165 : (Jvm.Cond.fieldLinkNest "MasterPrices$Known" (26 : Nat) "MasterPrices$Town" "apprentices" "I" "MasterPrices") ∈ lw_tbl := lw_at lw_m1 73 rfl
theorem q616 : (Jvm.Cond.selects "MasterPrices$Known" ({ cls := "java/lang/Object", name := "getClass", desc := "()Ljava/lang/Class;" } : Jvm.MethodName) ({ cls := "java/lang/Object", name := "getClass", desc := "()Ljava/lang/Class;" } : Jvm.MethodName)) ∈ lw_all := lw_g (lw_at lw_m3 44 rfl) rfl
theorem q677 : (Jvm.Cond.instantiable "MasterPrices$Known" (7 : Nat)) ∈ lw_all := lw_g (lw_at lw_m3 105 rfl) rfl
theorem q679 : (Jvm.Cond.instanceMethod ({ cls := "MasterPrices$Known", name := "<init>", desc := "(LMasterPrices$Town;)V" } : Jvm.MethodName)) ∈ lw_all := lw_g (lw_at lw_m3 107 rfl) rfl
theorem q680 : (Jvm.Cond.code ({ cls := "MasterPrices$Known", name := "<init>", desc := "(LMasterPrices$Town;)V" } : Jvm.MethodName) prog_7_method_1_code (3 : Nat) (Option.none : Option Jvm.ClassFile.FieldType)) ∈ lw_all := lw_g (lw_at lw_m3 108 rfl) rfl
theorem q681 : (Jvm.Cond.methodLink "MasterPrices$Known" (3 : Nat) ({ cls := "java/lang/Object", name := "<init>", desc := "()V" } : Jvm.MethodName)) ∈ lw_all := lw_g (lw_at lw_m3 109 rfl) rfl
theorem q682 : (Jvm.Cond.constant "MasterPrices$Known" (21 : Nat) (1000000 : Int32)) ∈ lw_all := lw_g (lw_at lw_m3 110 rfl) rfl
theorem q683 : (Jvm.Cond.classLink "MasterPrices$Known" (32 : Nat) "MasterPrices$Trial") ∈ lw_all := lw_g (lw_at lw_m3 111 rfl) rfl
theorem q685 : (Jvm.Cond.privateMethod ({ cls := "MasterPrices$Known", name := "lambda$new$0", desc := "([II)V" } : Jvm.MethodName)) ∈ lw_tbl := lw_at lw_m3 113 rfl
theorem q686 : (Jvm.Cond.instanceMethod ({ cls := "MasterPrices$Known", name := "lambda$new$0", desc := "([II)V" } : Jvm.MethodName)) ∈ lw_all := lw_g (lw_at lw_m3 114 rfl) rfl
theorem q687 : (Jvm.Cond.code ({ cls := "MasterPrices$Known", name := "lambda$new$0", desc := "([II)V" } : Jvm.MethodName) prog_7_method_5_code (3 : Nat) (Option.none : Option Jvm.ClassFile.FieldType)) ∈ lw_all := lw_g (lw_at lw_m3 115 rfl) rfl
theorem q688 : (Jvm.Cond.methodLink "MasterPrices$Known" (85 : Nat) ({ cls := "MasterPrices$Known", name := "counts", desc := "([II)V" } : Jvm.MethodName)) ∈ lw_all := lw_g (lw_at lw_m3 116 rfl) rfl
theorem q689 : (Jvm.Cond.privateMethod ({ cls := "MasterPrices$Known", name := "counts", desc := "([II)V" } : Jvm.MethodName)) ∈ lw_tbl := lw_at lw_m3 117 rfl
theorem q690 : (Jvm.Cond.instanceMethod ({ cls := "MasterPrices$Known", name := "counts", desc := "([II)V" } : Jvm.MethodName)) ∈ lw_all := lw_g (lw_at lw_m3 118 rfl) rfl
theorem q691 : (Jvm.Cond.code ({ cls := "MasterPrices$Known", name := "counts", desc := "([II)V" } : Jvm.MethodName) prog_7_method_2_code (5 : Nat) (Option.none : Option Jvm.ClassFile.FieldType)) ∈ lw_all := lw_g (lw_at lw_m3 119 rfl) rfl
theorem q692 : (Jvm.Cond.methodLink "MasterPrices$Known" (50 : Nat) ({ cls := "java/lang/System", name := "arraycopy", desc := "(Ljava/lang/Object;ILjava/lang/Object;II)V" } : Jvm.MethodName)) ∈ lw_all := lw_g (lw_at lw_m3 120 rfl) rfl
theorem q693 : (Jvm.Cond.methodLink "MasterPrices$Known" (56 : Nat) ({ cls := "java/lang/Math", name := "min", desc := "(II)I" } : Jvm.MethodName)) ∈ lw_all := lw_g (lw_at lw_m3 121 rfl) rfl
theorem q694 : (Jvm.Cond.methodLink "MasterPrices$Known" (37 : Nat) ({ cls := "MasterPrices$Trial", name := "<init>", desc := "(LMasterPrices$Town;LMasterPrices$WithPairing;)V" } : Jvm.MethodName)) ∈ lw_all := lw_g (lw_at lw_m3 122 rfl) rfl
theorem q708 : (Jvm.Cond.methodLink "MasterPrices$Known" (40 : Nat) ({ cls := "MasterPrices$Trial", name := "tries", desc := "(III)V" } : Jvm.MethodName)) ∈ lw_all := lw_g (lw_at lw_m3 136 rfl) rfl
theorem q718 : (Jvm.Cond.fieldLink "MasterPrices$Known" (9 : Nat) "MasterPrices$Known" "first" "[I") ∈ lw_all := lw_g (lw_at lw_m3 146 rfl) rfl
theorem q720 : (Jvm.Cond.fieldLink "MasterPrices$Known" (15 : Nat) "MasterPrices$Known" "with" "[I") ∈ lw_all := lw_g (lw_at lw_m3 148 rfl) rfl
theorem q722 : (Jvm.Cond.fieldLink "MasterPrices$Known" (18 : Nat) "MasterPrices$Known" "without" "[I") ∈ lw_all := lw_g (lw_at lw_m3 150 rfl) rfl
theorem q724 : (Jvm.Cond.fieldLink "MasterPrices$Known" (31 : Nat) "MasterPrices$Known" "apprentices" "I") ∈ lw_all := lw_g (lw_at lw_m3 152 rfl) rfl
theorem q725 : (Jvm.Cond.fieldLink "MasterPrices$Known" (22 : Nat) "MasterPrices$Known" "least" "I") ∈ lw_all := lw_g (lw_at lw_m3 153 rfl) rfl
theorem q728 : (Jvm.Cond.fieldLink "MasterPrices$Known" (44 : Nat) "MasterPrices$Known" "many" "I") ∈ lw_all := lw_g (lw_at lw_m3 156 rfl) rfl
theorem q730 : (Jvm.Cond.fieldLink "MasterPrices$Known" (47 : Nat) "MasterPrices$Known" "manyLeast" "I") ∈ lw_all := lw_g (lw_at lw_m3 158 rfl) rfl
theorem q732 : (Jvm.Cond.laysFinal "MasterPrices$Known" "MasterPrices$Known" "first" "[I") ∈ lw_all := lw_g (lw_at lw_m3 160 rfl) rfl
theorem q733 : (Jvm.Cond.soleField "MasterPrices$Known" "first") ∈ lw_all := lw_g (lw_at lw_m3 161 rfl) rfl
theorem q734 : (Jvm.Cond.laysFinal "MasterPrices$Known" "MasterPrices$Known" "with" "[I") ∈ lw_all := lw_g (lw_at lw_m3 162 rfl) rfl
theorem q735 : (Jvm.Cond.soleField "MasterPrices$Known" "with") ∈ lw_all := lw_g (lw_at lw_m3 163 rfl) rfl
theorem q736 : (Jvm.Cond.laysFinal "MasterPrices$Known" "MasterPrices$Known" "without" "[I") ∈ lw_all := lw_g (lw_at lw_m3 164 rfl) rfl
theorem q737 : (Jvm.Cond.soleField "MasterPrices$Known" "without") ∈ lw_all := lw_g (lw_at lw_m3 165 rfl) rfl
theorem q738 : (Jvm.Cond.laysFinal "MasterPrices$Known" "MasterPrices$Known" "apprentices" "I") ∈ lw_all := lw_g (lw_at lw_m3 166 rfl) rfl
theorem q739 : (Jvm.Cond.soleField "MasterPrices$Known" "apprentices") ∈ lw_all := lw_g (lw_at lw_m3 167 rfl) rfl
theorem q740 : (Jvm.Cond.lays "MasterPrices$Known" "MasterPrices$Known" "least" "I") ∈ lw_all := lw_g (lw_at lw_m3 168 rfl) rfl
theorem q741 : (Jvm.Cond.soleField "MasterPrices$Known" "least") ∈ lw_all := lw_g (lw_at lw_m3 169 rfl) rfl
theorem q742 : (Jvm.Cond.lays "MasterPrices$Known" "MasterPrices$Known" "many" "I") ∈ lw_all := lw_g (lw_at lw_m3 170 rfl) rfl
theorem q743 : (Jvm.Cond.soleField "MasterPrices$Known" "many") ∈ lw_all := lw_g (lw_at lw_m3 171 rfl) rfl
theorem q744 : (Jvm.Cond.lays "MasterPrices$Known" "MasterPrices$Known" "manyLeast" "I") ∈ lw_all := lw_g (lw_at lw_m3 172 rfl) rfl
theorem q745 : (Jvm.Cond.soleField "MasterPrices$Known" "manyLeast") ∈ lw_all := lw_g (lw_at lw_m3 173 rfl) rfl
theorem q746 : (Jvm.Cond.superclass "MasterPrices$Known" "java/lang/Object") ∈ lw_all := lw_g (lw_at lw_m3 174 rfl) rfl
theorem q748 : (Jvm.Cond.instanceMethod ({ cls := "MasterPrices$Known", name := "line", desc := "()Ljava/lang/CharSequence;" } : Jvm.MethodName)) ∈ lw_all := lw_g (lw_at lw_m3 176 rfl) rfl
theorem q749 : (Jvm.Cond.selects "MasterPrices$Known" ({ cls := "MasterPrices$Known", name := "line", desc := "()Ljava/lang/CharSequence;" } : Jvm.MethodName) ({ cls := "MasterPrices$Known", name := "line", desc := "()Ljava/lang/CharSequence;" } : Jvm.MethodName)) ∈ lw_all := lw_g (lw_at lw_m3 177 rfl) rfl
theorem q750 : (Jvm.Cond.code ({ cls := "MasterPrices$Known", name := "line", desc := "()Ljava/lang/CharSequence;" } : Jvm.MethodName) prog_7_method_4_code (3 : Nat) (Option.some (Jvm.ClassFile.FieldType.object "java/lang/CharSequence"))) ∈ lw_all := lw_g (lw_at lw_m3 178 rfl) rfl
theorem q751 : (Jvm.Cond.classLink "MasterPrices$Known" (62 : Nat) "java/lang/StringBuilder") ∈ lw_all := lw_g (lw_at lw_m3 179 rfl) rfl
theorem q752 : (Jvm.Cond.methodLink "MasterPrices$Known" (64 : Nat) ({ cls := "java/lang/StringBuilder", name := "<init>", desc := "()V" } : Jvm.MethodName)) ∈ lw_all := lw_g (lw_at lw_m3 180 rfl) rfl
theorem q753 : (Jvm.Cond.stringRef "MasterPrices$Known" (65 : Nat) "") ∈ lw_tbl := lw_at lw_m3 181 rfl
theorem q754 : (Jvm.Cond.stringRef "MasterPrices$Known" (67 : Nat) " ") ∈ lw_tbl := lw_at lw_m3 182 rfl
theorem q755 : (Jvm.Cond.methodLink "MasterPrices$Known" (69 : Nat) ({ cls := "java/lang/StringBuilder", name := "append", desc := "(Ljava/lang/String;)Ljava/lang/StringBuilder;" } : Jvm.MethodName)) ∈ lw_all := lw_g (lw_at lw_m3 183 rfl) rfl
theorem q867 : (Jvm.Cond.methodLink "MasterPrices$Known" (73 : Nat) ({ cls := "java/lang/StringBuilder", name := "append", desc := "(I)Ljava/lang/StringBuilder;" } : Jvm.MethodName)) ∈ lw_all := lw_g (lw_at lw_m4 55 rfl) rfl
theorem q892 : (Jvm.Cond.methodLink "MasterPrices$Known" (76 : Nat) ({ cls := "MasterPrices$Known", name := "isThere", desc := "()Z" } : Jvm.MethodName)) ∈ lw_all := lw_g (lw_at lw_m4 80 rfl) rfl
theorem q893 : (Jvm.Cond.instanceMethod ({ cls := "MasterPrices$Known", name := "isThere", desc := "()Z" } : Jvm.MethodName)) ∈ lw_all := lw_g (lw_at lw_m4 81 rfl) rfl
theorem q894 : (Jvm.Cond.selects "MasterPrices$Known" ({ cls := "MasterPrices$Known", name := "isThere", desc := "()Z" } : Jvm.MethodName) ({ cls := "MasterPrices$Known", name := "isThere", desc := "()Z" } : Jvm.MethodName)) ∈ lw_all := lw_g (lw_at lw_m4 82 rfl) rfl
theorem q895 : (Jvm.Cond.code ({ cls := "MasterPrices$Known", name := "isThere", desc := "()Z" } : Jvm.MethodName) prog_7_method_3_code (1 : Nat) (Option.some Jvm.ClassFile.FieldType.boolean)) ∈ lw_all := lw_g (lw_at lw_m4 83 rfl) rfl
theorem q896 : (Jvm.Cond.methodLink "MasterPrices$Known" (80 : Nat) ({ cls := "java/lang/StringBuilder", name := "append", desc := "(C)Ljava/lang/StringBuilder;" } : Jvm.MethodName)) ∈ lw_all := lw_g (lw_at lw_m4 84 rfl) rfl
theorem q918 : (Jvm.Cond.stringRef "MasterPrices$Known" (83 : Nat) ".") ∈ lw_tbl := lw_at lw_m4 106 rfl
theorem q2341 : (Jvm.Cond.castable "MasterPrices$Known" "java/lang/Object") ∈ lw_tbl := lw_at lw_m10 89 rfl
abbrev cX9_init : ByteArray := prog_20_method_1_code
def yX9_init : MethodName := ⟨RX9, "<init>", "(LMasterPrices$Town;LMasterPrices$WithPairing;)V"⟩
def dkwX9_init_0 : List UInt8 := [42, 183, 0, 3, 42, 16, 6, 188, 10, 181, 0, 9, 42, 43, 181, 0, 15, 42, 44, 181, 0, 19, 177]
abbrev dktX9_init_0 : List UInt8 := dkwX9_init_0 ++ []
theorem dksX9_init_0 : cX9_init.data.toList.drop 0 = dktX9_init_0 := by decide +kernel
theorem dX9_init_0 : decode cX9_init 0 = .ok (.aload_n 0, 1) := dk_42 (dk_at dksX9_init_0 0 rfl rfl)
theorem dX9_init_1 : decode cX9_init 1 = .ok (.invokespecial 3, 3) := dk_183 0 3 (dk_at dksX9_init_0 1 rfl rfl)
theorem dX9_init_4 : decode cX9_init 4 = .ok (.aload_n 0, 1) := dk_42 (dk_at dksX9_init_0 4 rfl rfl)
theorem dX9_init_5 : decode cX9_init 5 = .ok (.bipush 6, 2) := dk_16 6 (dk_at dksX9_init_0 5 rfl rfl)
theorem dX9_init_7 : decode cX9_init 7 = .ok (.newarray .int, 2) := dk_188_10 (dk_at dksX9_init_0 7 rfl rfl)
theorem dX9_init_9 : decode cX9_init 9 = .ok (.putfield 9, 3) := dk_181 0 9 (dk_at dksX9_init_0 9 rfl rfl)
theorem dX9_init_12 : decode cX9_init 12 = .ok (.aload_n 0, 1) := dk_42 (dk_at dksX9_init_0 12 rfl rfl)
theorem dX9_init_13 : decode cX9_init 13 = .ok (.aload_n 1, 1) := dk_43 (dk_at dksX9_init_0 13 rfl rfl)
theorem dX9_init_14 : decode cX9_init 14 = .ok (.putfield 15, 3) := dk_181 0 15 (dk_at dksX9_init_0 14 rfl rfl)
theorem dX9_init_17 : decode cX9_init 17 = .ok (.aload_n 0, 1) := dk_42 (dk_at dksX9_init_0 17 rfl rfl)
theorem dX9_init_18 : decode cX9_init 18 = .ok (.aload_n 2, 1) := dk_44 (dk_at dksX9_init_0 18 rfl rfl)
theorem dX9_init_19 : decode cX9_init 19 = .ok (.putfield 19, 3) := dk_181 0 19 (dk_at dksX9_init_0 19 rfl rfl)
theorem dX9_init_22 : decode cX9_init 22 = .ok (.return_, 1) := dk_177 (dk_at dksX9_init_0 22 rfl rfl)
abbrev cX9_tries : ByteArray := prog_20_method_2_code
def yX9_tries : MethodName := ⟨RX9, "tries", "(III)V"⟩
def dkwX9_tries_4 : List UInt8 := [21, 4, 46, 96, 182, 0, 45, 132, 4, 1, 167, 255, 184, 177]
abbrev dktX9_tries_4 : List UInt8 := dkwX9_tries_4 ++ []
def dkwX9_tries_3 : List UInt8 := [21, 4, 79, 42, 27, 4, 96, 28, 4, 21, 4, 120, 128, 29, 42, 180, 0, 15, 180, 0, 41, 27, 50]
abbrev dktX9_tries_3 : List UInt8 := dkwX9_tries_3 ++ dktX9_tries_4
def dkwX9_tries_2 : List UInt8 := [122, 4, 126, 154, 0, 51, 42, 180, 0, 15, 27, 21, 4, 182, 0, 37, 153, 0, 38, 42, 180, 0, 9, 27]
abbrev dktX9_tries_2 : List UInt8 := dkwX9_tries_2 ++ dktX9_tries_3
def dkwX9_tries_1 : List UInt8 := [185, 0, 29, 3, 0, 177, 3, 54, 4, 21, 4, 42, 180, 0, 15, 180, 0, 35, 162, 0, 66, 28, 21, 4]
abbrev dktX9_tries_1 : List UInt8 := dkwX9_tries_1 ++ dktX9_tries_2
def dkwX9_tries_0 : List UInt8 := [27, 42, 180, 0, 15, 180, 0, 23, 160, 0, 18, 42, 180, 0, 19, 42, 180, 0, 9, 29]
abbrev dktX9_tries_0 : List UInt8 := dkwX9_tries_0 ++ dktX9_tries_1
theorem dksX9_tries_0 : cX9_tries.data.toList.drop 0 = dktX9_tries_0 := by decide +kernel
theorem dksX9_tries_1 : cX9_tries.data.toList.drop 20 = dktX9_tries_1 := dk_seg dksX9_tries_0 20 rfl rfl
theorem dksX9_tries_2 : cX9_tries.data.toList.drop 44 = dktX9_tries_2 := dk_seg dksX9_tries_1 24 rfl rfl
theorem dksX9_tries_3 : cX9_tries.data.toList.drop 68 = dktX9_tries_3 := dk_seg dksX9_tries_2 24 rfl rfl
theorem dksX9_tries_4 : cX9_tries.data.toList.drop 91 = dktX9_tries_4 := dk_seg dksX9_tries_3 23 rfl rfl
theorem dX9_tries_0 : decode cX9_tries 0 = .ok (.iload_n 1, 1) := dk_27 (dk_at dksX9_tries_0 0 rfl rfl)
theorem dX9_tries_1 : decode cX9_tries 1 = .ok (.aload_n 0, 1) := dk_42 (dk_at dksX9_tries_0 1 rfl rfl)
theorem dX9_tries_2 : decode cX9_tries 2 = .ok (.getfield 15, 3) := dk_180 0 15 (dk_at dksX9_tries_0 2 rfl rfl)
theorem dX9_tries_5 : decode cX9_tries 5 = .ok (.getfield 23, 3) := dk_180 0 23 (dk_at dksX9_tries_0 5 rfl rfl)
theorem dX9_tries_8 : decode cX9_tries 8 = .ok (.if_icmp .ne 18, 3) := dk_160 0 18 (dk_at dksX9_tries_0 8 rfl rfl)
theorem dX9_tries_11 : decode cX9_tries 11 = .ok (.aload_n 0, 1) := dk_42 (dk_at dksX9_tries_0 11 rfl rfl)
theorem dX9_tries_12 : decode cX9_tries 12 = .ok (.getfield 19, 3) := dk_180 0 19 (dk_at dksX9_tries_0 12 rfl rfl)
theorem dX9_tries_15 : decode cX9_tries 15 = .ok (.aload_n 0, 1) := dk_42 (dk_at dksX9_tries_0 15 rfl rfl)
theorem dX9_tries_16 : decode cX9_tries 16 = .ok (.getfield 9, 3) := dk_180 0 9 (dk_at dksX9_tries_0 16 rfl rfl)
theorem dX9_tries_19 : decode cX9_tries 19 = .ok (.iload_n 3, 1) := dk_29 (dk_at dksX9_tries_0 19 rfl rfl)
theorem dX9_tries_20 : decode cX9_tries 20 = .ok (.invokeinterface 29 3, 5) := by decide +kernel
theorem dX9_tries_25 : decode cX9_tries 25 = .ok (.return_, 1) := dk_177 (dk_at dksX9_tries_1 5 rfl rfl)
theorem dX9_tries_26 : decode cX9_tries 26 = .ok (.iconst 0, 1) := dk_3 (dk_at dksX9_tries_1 6 rfl rfl)
theorem dX9_tries_27 : decode cX9_tries 27 = .ok (.istore 4, 2) := dk_54 4 (dk_at dksX9_tries_1 7 rfl rfl)
theorem dX9_tries_29 : decode cX9_tries 29 = .ok (.iload 4, 2) := dk_21 4 (dk_at dksX9_tries_1 9 rfl rfl)
theorem dX9_tries_31 : decode cX9_tries 31 = .ok (.aload_n 0, 1) := dk_42 (dk_at dksX9_tries_1 11 rfl rfl)
theorem dX9_tries_32 : decode cX9_tries 32 = .ok (.getfield 15, 3) := dk_180 0 15 (dk_at dksX9_tries_1 12 rfl rfl)
theorem dX9_tries_35 : decode cX9_tries 35 = .ok (.getfield 35, 3) := dk_180 0 35 (dk_at dksX9_tries_1 15 rfl rfl)
theorem dX9_tries_38 : decode cX9_tries 38 = .ok (.if_icmp .ge 66, 3) := dk_162 0 66 (dk_at dksX9_tries_1 18 rfl rfl)
theorem dX9_tries_41 : decode cX9_tries 41 = .ok (.iload_n 2, 1) := dk_28 (dk_at dksX9_tries_1 21 rfl rfl)
theorem dX9_tries_42 : decode cX9_tries 42 = .ok (.iload 4, 2) := dk_21 4 (dk_at dksX9_tries_1 22 rfl rfl)
theorem dX9_tries_44 : decode cX9_tries 44 = .ok (.ishr, 1) := dk_122 (dk_at dksX9_tries_2 0 rfl rfl)
theorem dX9_tries_45 : decode cX9_tries 45 = .ok (.iconst 1, 1) := dk_4 (dk_at dksX9_tries_2 1 rfl rfl)
theorem dX9_tries_46 : decode cX9_tries 46 = .ok (.iand, 1) := dk_126 (dk_at dksX9_tries_2 2 rfl rfl)
theorem dX9_tries_47 : decode cX9_tries 47 = .ok (.ifCond .ne 51, 3) := dk_154 0 51 (dk_at dksX9_tries_2 3 rfl rfl)
theorem dX9_tries_50 : decode cX9_tries 50 = .ok (.aload_n 0, 1) := dk_42 (dk_at dksX9_tries_2 6 rfl rfl)
theorem dX9_tries_51 : decode cX9_tries 51 = .ok (.getfield 15, 3) := dk_180 0 15 (dk_at dksX9_tries_2 7 rfl rfl)
theorem dX9_tries_54 : decode cX9_tries 54 = .ok (.iload_n 1, 1) := dk_27 (dk_at dksX9_tries_2 10 rfl rfl)
theorem dX9_tries_55 : decode cX9_tries 55 = .ok (.iload 4, 2) := dk_21 4 (dk_at dksX9_tries_2 11 rfl rfl)
theorem dX9_tries_57 : decode cX9_tries 57 = .ok (.invokevirtual 37, 3) := dk_182 0 37 (dk_at dksX9_tries_2 13 rfl rfl)
theorem dX9_tries_60 : decode cX9_tries 60 = .ok (.ifCond .eq 38, 3) := dk_153 0 38 (dk_at dksX9_tries_2 16 rfl rfl)
theorem dX9_tries_63 : decode cX9_tries 63 = .ok (.aload_n 0, 1) := dk_42 (dk_at dksX9_tries_2 19 rfl rfl)
theorem dX9_tries_64 : decode cX9_tries 64 = .ok (.getfield 9, 3) := dk_180 0 9 (dk_at dksX9_tries_2 20 rfl rfl)
theorem dX9_tries_67 : decode cX9_tries 67 = .ok (.iload_n 1, 1) := dk_27 (dk_at dksX9_tries_2 23 rfl rfl)
theorem dX9_tries_68 : decode cX9_tries 68 = .ok (.iload 4, 2) := dk_21 4 (dk_at dksX9_tries_3 0 rfl rfl)
theorem dX9_tries_70 : decode cX9_tries 70 = .ok (.iastore, 1) := dk_79 (dk_at dksX9_tries_3 2 rfl rfl)
theorem dX9_tries_71 : decode cX9_tries 71 = .ok (.aload_n 0, 1) := dk_42 (dk_at dksX9_tries_3 3 rfl rfl)
theorem dX9_tries_72 : decode cX9_tries 72 = .ok (.iload_n 1, 1) := dk_27 (dk_at dksX9_tries_3 4 rfl rfl)
theorem dX9_tries_73 : decode cX9_tries 73 = .ok (.iconst 1, 1) := dk_4 (dk_at dksX9_tries_3 5 rfl rfl)
theorem dX9_tries_74 : decode cX9_tries 74 = .ok (.iadd, 1) := dk_96 (dk_at dksX9_tries_3 6 rfl rfl)
theorem dX9_tries_75 : decode cX9_tries 75 = .ok (.iload_n 2, 1) := dk_28 (dk_at dksX9_tries_3 7 rfl rfl)
theorem dX9_tries_76 : decode cX9_tries 76 = .ok (.iconst 1, 1) := dk_4 (dk_at dksX9_tries_3 8 rfl rfl)
theorem dX9_tries_77 : decode cX9_tries 77 = .ok (.iload 4, 2) := dk_21 4 (dk_at dksX9_tries_3 9 rfl rfl)
theorem dX9_tries_79 : decode cX9_tries 79 = .ok (.ishl, 1) := dk_120 (dk_at dksX9_tries_3 11 rfl rfl)
theorem dX9_tries_80 : decode cX9_tries 80 = .ok (.ior, 1) := dk_128 (dk_at dksX9_tries_3 12 rfl rfl)
theorem dX9_tries_81 : decode cX9_tries 81 = .ok (.iload_n 3, 1) := dk_29 (dk_at dksX9_tries_3 13 rfl rfl)
theorem dX9_tries_82 : decode cX9_tries 82 = .ok (.aload_n 0, 1) := dk_42 (dk_at dksX9_tries_3 14 rfl rfl)
theorem dX9_tries_83 : decode cX9_tries 83 = .ok (.getfield 15, 3) := dk_180 0 15 (dk_at dksX9_tries_3 15 rfl rfl)
theorem dX9_tries_86 : decode cX9_tries 86 = .ok (.getfield 41, 3) := dk_180 0 41 (dk_at dksX9_tries_3 18 rfl rfl)
theorem dX9_tries_89 : decode cX9_tries 89 = .ok (.iload_n 1, 1) := dk_27 (dk_at dksX9_tries_3 21 rfl rfl)
theorem dX9_tries_90 : decode cX9_tries 90 = .ok (.aaload, 1) := dk_50 (dk_at dksX9_tries_3 22 rfl rfl)
theorem dX9_tries_91 : decode cX9_tries 91 = .ok (.iload 4, 2) := dk_21 4 (dk_at dksX9_tries_4 0 rfl rfl)
theorem dX9_tries_93 : decode cX9_tries 93 = .ok (.iaload, 1) := dk_46 (dk_at dksX9_tries_4 2 rfl rfl)
theorem dX9_tries_94 : decode cX9_tries 94 = .ok (.iadd, 1) := dk_96 (dk_at dksX9_tries_4 3 rfl rfl)
theorem dX9_tries_95 : decode cX9_tries 95 = .ok (.invokevirtual 45, 3) := dk_182 0 45 (dk_at dksX9_tries_4 4 rfl rfl)
theorem dX9_tries_98 : decode cX9_tries 98 = .ok (.iinc 4 1, 3) := dk_132 4 1 (dk_at dksX9_tries_4 7 rfl rfl)
theorem dX9_tries_101 : decode cX9_tries 101 = .ok (.goto (-72), 3) := dk_167 255 184 (dk_at dksX9_tries_4 10 rfl rfl)
theorem dX9_tries_104 : decode cX9_tries 104 = .ok (.return_, 1) := dk_177 (dk_at dksX9_tries_4 13 rfl rfl)
theorem q120 : (Jvm.Cond.initialized "MasterPrices$Trial") ∈ lw_all := lw_g (lw_at lw_m1 28 rfl) rfl
theorem q154 : (Jvm.Cond.fieldLinkNest "MasterPrices$Trial" (41 : Nat) "MasterPrices$Town" "costs" "[[I" "MasterPrices") ∈ lw_tbl := lw_at lw_m1 62 rfl
theorem q166 : (Jvm.Cond.fieldLinkNest "MasterPrices$Trial" (23 : Nat) "MasterPrices$Town" "apprentices" "I" "MasterPrices") ∈ lw_tbl := lw_at lw_m1 74 rfl
theorem q169 : (Jvm.Cond.fieldLinkNest "MasterPrices$Trial" (35 : Nat) "MasterPrices$Town" "masters" "I" "MasterPrices") ∈ lw_tbl := lw_at lw_m1 77 rfl
theorem q626 : (Jvm.Cond.selects "MasterPrices$Trial" ({ cls := "java/lang/Object", name := "getClass", desc := "()Ljava/lang/Class;" } : Jvm.MethodName) ({ cls := "java/lang/Object", name := "getClass", desc := "()Ljava/lang/Class;" } : Jvm.MethodName)) ∈ lw_all := lw_g (lw_at lw_m3 54 rfl) rfl
theorem q684 : (Jvm.Cond.instantiable "MasterPrices$Trial" (3 : Nat)) ∈ lw_all := lw_g (lw_at lw_m3 112 rfl) rfl
theorem q695 : (Jvm.Cond.instanceMethod ({ cls := "MasterPrices$Trial", name := "<init>", desc := "(LMasterPrices$Town;LMasterPrices$WithPairing;)V" } : Jvm.MethodName)) ∈ lw_all := lw_g (lw_at lw_m3 123 rfl) rfl
theorem q696 : (Jvm.Cond.code ({ cls := "MasterPrices$Trial", name := "<init>", desc := "(LMasterPrices$Town;LMasterPrices$WithPairing;)V" } : Jvm.MethodName) prog_20_method_1_code (3 : Nat) (Option.none : Option Jvm.ClassFile.FieldType)) ∈ lw_all := lw_g (lw_at lw_m3 124 rfl) rfl
theorem q697 : (Jvm.Cond.methodLink "MasterPrices$Trial" (3 : Nat) ({ cls := "java/lang/Object", name := "<init>", desc := "()V" } : Jvm.MethodName)) ∈ lw_all := lw_g (lw_at lw_m3 125 rfl) rfl
theorem q698 : (Jvm.Cond.fieldLink "MasterPrices$Trial" (15 : Nat) "MasterPrices$Trial" "town" "LMasterPrices$Town;") ∈ lw_all := lw_g (lw_at lw_m3 126 rfl) rfl
theorem q699 : (Jvm.Cond.fieldLink "MasterPrices$Trial" (9 : Nat) "MasterPrices$Trial" "masters" "[I") ∈ lw_all := lw_g (lw_at lw_m3 127 rfl) rfl
theorem q700 : (Jvm.Cond.fieldLink "MasterPrices$Trial" (19 : Nat) "MasterPrices$Trial" "each" "LMasterPrices$WithPairing;") ∈ lw_all := lw_g (lw_at lw_m3 128 rfl) rfl
theorem q701 : (Jvm.Cond.laysFinal "MasterPrices$Trial" "MasterPrices$Trial" "town" "LMasterPrices$Town;") ∈ lw_all := lw_g (lw_at lw_m3 129 rfl) rfl
theorem q702 : (Jvm.Cond.soleField "MasterPrices$Trial" "town") ∈ lw_all := lw_g (lw_at lw_m3 130 rfl) rfl
theorem q703 : (Jvm.Cond.laysFinal "MasterPrices$Trial" "MasterPrices$Trial" "masters" "[I") ∈ lw_all := lw_g (lw_at lw_m3 131 rfl) rfl
theorem q704 : (Jvm.Cond.soleField "MasterPrices$Trial" "masters") ∈ lw_all := lw_g (lw_at lw_m3 132 rfl) rfl
theorem q705 : (Jvm.Cond.laysFinal "MasterPrices$Trial" "MasterPrices$Trial" "each" "LMasterPrices$WithPairing;") ∈ lw_all := lw_g (lw_at lw_m3 133 rfl) rfl
theorem q706 : (Jvm.Cond.soleField "MasterPrices$Trial" "each") ∈ lw_all := lw_g (lw_at lw_m3 134 rfl) rfl
theorem q707 : (Jvm.Cond.superclass "MasterPrices$Trial" "java/lang/Object") ∈ lw_all := lw_g (lw_at lw_m3 135 rfl) rfl
theorem q709 : (Jvm.Cond.instanceMethod ({ cls := "MasterPrices$Trial", name := "tries", desc := "(III)V" } : Jvm.MethodName)) ∈ lw_all := lw_g (lw_at lw_m3 137 rfl) rfl
theorem q710 : (Jvm.Cond.selects "MasterPrices$Trial" ({ cls := "MasterPrices$Trial", name := "tries", desc := "(III)V" } : Jvm.MethodName) ({ cls := "MasterPrices$Trial", name := "tries", desc := "(III)V" } : Jvm.MethodName)) ∈ lw_all := lw_g (lw_at lw_m3 138 rfl) rfl
theorem q711 : (Jvm.Cond.code ({ cls := "MasterPrices$Trial", name := "tries", desc := "(III)V" } : Jvm.MethodName) prog_20_method_2_code (5 : Nat) (Option.none : Option Jvm.ClassFile.FieldType)) ∈ lw_all := lw_g (lw_at lw_m3 139 rfl) rfl
theorem q712 : (Jvm.Cond.interfaceEntry "MasterPrices$Trial" (29 : Nat)) ∈ lw_tbl := lw_at lw_m3 140 rfl
theorem q713 : (Jvm.Cond.methodLink "MasterPrices$Trial" (29 : Nat) ({ cls := "MasterPrices$WithPairing", name := "with", desc := "([II)V" } : Jvm.MethodName)) ∈ lw_all := lw_g (lw_at lw_m3 141 rfl) rfl
theorem q716 : (Jvm.Cond.methodLink "MasterPrices$Trial" (37 : Nat) ({ cls := "MasterPrices$Town", name := "canBe", desc := "(II)Z" } : Jvm.MethodName)) ∈ lw_all := lw_g (lw_at lw_m3 144 rfl) rfl
theorem q717 : (Jvm.Cond.methodLink "MasterPrices$Trial" (45 : Nat) ({ cls := "MasterPrices$Trial", name := "tries", desc := "(III)V" } : Jvm.MethodName)) ∈ lw_all := lw_g (lw_at lw_m3 145 rfl) rfl
theorem q2342 : (Jvm.Cond.castable "MasterPrices$Trial" "java/lang/Object") ∈ lw_tbl := lw_at lw_m10 90 rfl
abbrev cX10_values : ByteArray := prog_3_method_1_code
def yX10_values : MethodName := ⟨RX10, "values", "()[LMasterPrices$Kind;"⟩
def dkwX10_values_0 : List UInt8 := [178, 0, 13, 182, 0, 17, 192, 0, 18, 176]
abbrev dktX10_values_0 : List UInt8 := dkwX10_values_0 ++ []
theorem dksX10_values_0 : cX10_values.data.toList.drop 0 = dktX10_values_0 := by decide +kernel
theorem dX10_values_0 : decode cX10_values 0 = .ok (.getstatic 13, 3) := dk_178 0 13 (dk_at dksX10_values_0 0 rfl rfl)
theorem dX10_values_3 : decode cX10_values 3 = .ok (.invokevirtual 17, 3) := dk_182 0 17 (dk_at dksX10_values_0 3 rfl rfl)
theorem dX10_values_6 : decode cX10_values 6 = .ok (.checkcast 18, 3) := dk_192 0 18 (dk_at dksX10_values_0 6 rfl rfl)
theorem dX10_values_9 : decode cX10_values 9 = .ok (.areturn, 1) := dk_176 (dk_at dksX10_values_0 9 rfl rfl)
theorem q130 : (Jvm.Cond.initialized "MasterPrices$Kind") ∈ lw_all := lw_g (lw_at lw_m1 38 rfl) rfl
theorem q1387 : (Jvm.Cond.static ({ cls := "MasterPrices$Kind", name := "values", desc := "()[LMasterPrices$Kind;" } : Jvm.MethodName)) ∈ lw_all := lw_g (lw_at lw_m6 95 rfl) rfl
theorem q1388 : (Jvm.Cond.code ({ cls := "MasterPrices$Kind", name := "values", desc := "()[LMasterPrices$Kind;" } : Jvm.MethodName) prog_3_method_1_code (0 : Nat) (Option.some (Jvm.ClassFile.FieldType.array (Jvm.ClassFile.FieldType.object "MasterPrices$Kind")))) ∈ lw_all := lw_g (lw_at lw_m6 96 rfl) rfl
theorem q1389 : (Jvm.Cond.fieldLink "MasterPrices$Kind" (13 : Nat) "MasterPrices$Kind" "$VALUES" "[LMasterPrices$Kind;") ∈ lw_all := lw_g (lw_at lw_m6 97 rfl) rfl
theorem q1390 : (Jvm.Cond.laysStatic "MasterPrices$Kind" "$VALUES" "[LMasterPrices$Kind;") ∈ lw_tbl := lw_at lw_m6 98 rfl
theorem q1391 : (Jvm.Cond.methodLink "MasterPrices$Kind" (17 : Nat) ({ cls := "[LMasterPrices$Kind;", name := "clone", desc := "()Ljava/lang/Object;" } : Jvm.MethodName)) ∈ lw_all := lw_g (lw_at lw_m6 99 rfl) rfl
theorem q1396 : (Jvm.Cond.classLink "MasterPrices$Kind" (18 : Nat) "[LMasterPrices$Kind;") ∈ lw_all := lw_g (lw_at lw_m6 104 rfl) rfl
theorem q1405 : (Jvm.Cond.declares ({ cls := "MasterPrices$Kind", name := "worth", desc := "(LMasterPrices$Town;I)I" } : Jvm.MethodName)) ∈ lw_tbl := lw_at lw_m6 113 rfl
theorem q1406 : (Jvm.Cond.sameMethod "MasterPrices$Kind" "MasterPrices$Kind" "worth" "(LMasterPrices$Town;I)I") ∈ lw_all := lw_g (lw_at lw_m6 114 rfl) rfl
theorem q2323 : (Jvm.Cond.castable "MasterPrices$Kind" "java/lang/Object") ∈ lw_tbl := lw_at lw_m10 71 rfl
theorem q2371 : (Jvm.Cond.laysStatic "MasterPrices$Kind" "PRICE" "LMasterPrices$Kind;") ∈ lw_tbl := lw_at lw_m10 119 rfl
theorem q2372 : (Jvm.Cond.laysStatic "MasterPrices$Kind" "YEARS" "LMasterPrices$Kind;") ∈ lw_tbl := lw_at lw_m10 120 rfl
theorem q2373 : (Jvm.Cond.laysStatic "MasterPrices$Kind" "COST" "LMasterPrices$Kind;") ∈ lw_tbl := lw_at lw_m10 121 rfl
abbrev cX11_init : ByteArray := prog_15_method_1_code
def yX11_init : MethodName := ⟨RX11, "<init>", "(Ljava/lang/String;)V"⟩
def dkwX11_init_0 : List UInt8 := [42, 183, 0, 1, 42, 43, 181, 0, 7, 177]
abbrev dktX11_init_0 : List UInt8 := dkwX11_init_0 ++ []
theorem dksX11_init_0 : cX11_init.data.toList.drop 0 = dktX11_init_0 := by decide +kernel
theorem dX11_init_0 : decode cX11_init 0 = .ok (.aload_n 0, 1) := dk_42 (dk_at dksX11_init_0 0 rfl rfl)
theorem dX11_init_1 : decode cX11_init 1 = .ok (.invokespecial 1, 3) := dk_183 0 1 (dk_at dksX11_init_0 1 rfl rfl)
theorem dX11_init_4 : decode cX11_init 4 = .ok (.aload_n 0, 1) := dk_42 (dk_at dksX11_init_0 4 rfl rfl)
theorem dX11_init_5 : decode cX11_init 5 = .ok (.aload_n 1, 1) := dk_43 (dk_at dksX11_init_0 5 rfl rfl)
theorem dX11_init_6 : decode cX11_init 6 = .ok (.putfield 7, 3) := dk_181 0 7 (dk_at dksX11_init_0 6 rfl rfl)
theorem dX11_init_9 : decode cX11_init 9 = .ok (.return_, 1) := dk_177 (dk_at dksX11_init_0 9 rfl rfl)
abbrev cX11_whole : ByteArray := prog_15_method_12_code
def yX11_whole : MethodName := ⟨RX11, "whole", "()Ljava/util/List;"⟩
def dkwX11_whole_2 : List UInt8 := [167, 0, 4, 3, 182, 0, 40, 43, 176]
abbrev dktX11_whole_2 : List UInt8 := dkwX11_whole_2 ++ []
def dkwX11_whole_1 : List UInt8 := [182, 0, 36, 154, 255, 239, 42, 42, 180, 0, 13, 42, 180, 0, 7, 182, 0, 17, 160, 0, 7, 4]
abbrev dktX11_whole_1 : List UInt8 := dkwX11_whole_1 ++ dktX11_whole_2
def dkwX11_whole_0 : List UInt8 := [187, 0, 113, 89, 183, 0, 115, 76, 43, 42, 182, 0, 116, 185, 0, 119, 2, 0, 87, 42, 16, 59]
abbrev dktX11_whole_0 : List UInt8 := dkwX11_whole_0 ++ dktX11_whole_1
theorem dksX11_whole_0 : cX11_whole.data.toList.drop 0 = dktX11_whole_0 := by decide +kernel
theorem dksX11_whole_1 : cX11_whole.data.toList.drop 22 = dktX11_whole_1 := dk_seg dksX11_whole_0 22 rfl rfl
theorem dksX11_whole_2 : cX11_whole.data.toList.drop 44 = dktX11_whole_2 := dk_seg dksX11_whole_1 22 rfl rfl
theorem dX11_whole_0 : decode cX11_whole 0 = .ok (.new 113, 3) := dk_187 0 113 (dk_at dksX11_whole_0 0 rfl rfl)
theorem dX11_whole_3 : decode cX11_whole 3 = .ok (.dup, 1) := dk_89 (dk_at dksX11_whole_0 3 rfl rfl)
theorem dX11_whole_4 : decode cX11_whole 4 = .ok (.invokespecial 115, 3) := dk_183 0 115 (dk_at dksX11_whole_0 4 rfl rfl)
theorem dX11_whole_7 : decode cX11_whole 7 = .ok (.astore_n 1, 1) := dk_76 (dk_at dksX11_whole_0 7 rfl rfl)
theorem dX11_whole_8 : decode cX11_whole 8 = .ok (.aload_n 1, 1) := dk_43 (dk_at dksX11_whole_0 8 rfl rfl)
theorem dX11_whole_9 : decode cX11_whole 9 = .ok (.aload_n 0, 1) := dk_42 (dk_at dksX11_whole_0 9 rfl rfl)
theorem dX11_whole_10 : decode cX11_whole 10 = .ok (.invokevirtual 116, 3) := dk_182 0 116 (dk_at dksX11_whole_0 10 rfl rfl)
theorem dX11_whole_13 : decode cX11_whole 13 = .ok (.invokeinterface 119 2, 5) := by decide +kernel
theorem dX11_whole_18 : decode cX11_whole 18 = .ok (.pop, 1) := dk_87 (dk_at dksX11_whole_0 18 rfl rfl)
theorem dX11_whole_19 : decode cX11_whole 19 = .ok (.aload_n 0, 1) := dk_42 (dk_at dksX11_whole_0 19 rfl rfl)
theorem dX11_whole_20 : decode cX11_whole 20 = .ok (.bipush 59, 2) := dk_16 59 (dk_at dksX11_whole_0 20 rfl rfl)
theorem dX11_whole_22 : decode cX11_whole 22 = .ok (.invokevirtual 36, 3) := dk_182 0 36 (dk_at dksX11_whole_1 0 rfl rfl)
theorem dX11_whole_25 : decode cX11_whole 25 = .ok (.ifCond .ne (-17), 3) := dk_154 255 239 (dk_at dksX11_whole_1 3 rfl rfl)
theorem dX11_whole_28 : decode cX11_whole 28 = .ok (.aload_n 0, 1) := dk_42 (dk_at dksX11_whole_1 6 rfl rfl)
theorem dX11_whole_29 : decode cX11_whole 29 = .ok (.aload_n 0, 1) := dk_42 (dk_at dksX11_whole_1 7 rfl rfl)
theorem dX11_whole_30 : decode cX11_whole 30 = .ok (.getfield 13, 3) := dk_180 0 13 (dk_at dksX11_whole_1 8 rfl rfl)
theorem dX11_whole_33 : decode cX11_whole 33 = .ok (.aload_n 0, 1) := dk_42 (dk_at dksX11_whole_1 11 rfl rfl)
theorem dX11_whole_34 : decode cX11_whole 34 = .ok (.getfield 7, 3) := dk_180 0 7 (dk_at dksX11_whole_1 12 rfl rfl)
theorem dX11_whole_37 : decode cX11_whole 37 = .ok (.invokevirtual 17, 3) := dk_182 0 17 (dk_at dksX11_whole_1 15 rfl rfl)
theorem dX11_whole_40 : decode cX11_whole 40 = .ok (.if_icmp .ne 7, 3) := dk_160 0 7 (dk_at dksX11_whole_1 18 rfl rfl)
theorem dX11_whole_43 : decode cX11_whole 43 = .ok (.iconst 1, 1) := dk_4 (dk_at dksX11_whole_1 21 rfl rfl)
theorem dX11_whole_44 : decode cX11_whole 44 = .ok (.goto 4, 3) := dk_167 0 4 (dk_at dksX11_whole_2 0 rfl rfl)
theorem dX11_whole_47 : decode cX11_whole 47 = .ok (.iconst 0, 1) := dk_3 (dk_at dksX11_whole_2 3 rfl rfl)
theorem dX11_whole_48 : decode cX11_whole 48 = .ok (.invokevirtual 40, 3) := dk_182 0 40 (dk_at dksX11_whole_2 4 rfl rfl)
theorem dX11_whole_51 : decode cX11_whole 51 = .ok (.aload_n 1, 1) := dk_43 (dk_at dksX11_whole_2 7 rfl rfl)
theorem dX11_whole_52 : decode cX11_whole 52 = .ok (.areturn, 1) := dk_176 (dk_at dksX11_whole_2 8 rfl rfl)
abbrev cX11_order : ByteArray := prog_15_method_11_code
def yX11_order : MethodName := ⟨RX11, "order", "()LMasterPrices$Order;"⟩
def dkwX11_order_5 : List UInt8 := [18, 108, 178, 0, 110, 182, 0, 62, 176]
abbrev dktX11_order_5 : List UInt8 := dkwX11_order_5 ++ []
def dkwX11_order_4 : List UInt8 := [16, 108, 182, 0, 36, 153, 0, 17, 187, 0, 103, 89, 42, 18, 105, 182, 0, 48, 183, 0, 107, 176, 42]
abbrev dktX11_order_4 : List UInt8 := dkwX11_order_4 ++ dktX11_order_5
def dkwX11_order_3 : List UInt8 := [182, 0, 95, 176, 42, 16, 115, 182, 0, 36, 153, 0, 13, 42, 18, 98, 178, 0, 100, 182, 0, 62, 176, 42]
abbrev dktX11_order_3 : List UInt8 := dkwX11_order_3 ++ dktX11_order_4
def dkwX11_order_2 : List UInt8 := [42, 16, 99, 182, 0, 36, 153, 0, 8, 42, 182, 0, 91, 176, 42, 16, 98, 182, 0, 36, 153, 0, 8, 42]
abbrev dktX11_order_2 : List UInt8 := dkwX11_order_2 ++ dktX11_order_3
def dkwX11_order_1 : List UInt8 := [42, 16, 109, 182, 0, 36, 153, 0, 18, 42, 18, 89, 187, 0, 85, 89, 4, 183, 0, 87, 182, 0, 62, 176]
abbrev dktX11_order_1 : List UInt8 := dkwX11_order_1 ++ dktX11_order_2
def dkwX11_order_0 : List UInt8 := [42, 16, 97, 182, 0, 36, 153, 0, 18, 42, 18, 83, 187, 0, 85, 89, 3, 183, 0, 87, 182, 0, 62, 176]
abbrev dktX11_order_0 : List UInt8 := dkwX11_order_0 ++ dktX11_order_1
theorem dksX11_order_0 : cX11_order.data.toList.drop 0 = dktX11_order_0 := by decide +kernel
theorem dksX11_order_1 : cX11_order.data.toList.drop 24 = dktX11_order_1 := dk_seg dksX11_order_0 24 rfl rfl
theorem dksX11_order_2 : cX11_order.data.toList.drop 48 = dktX11_order_2 := dk_seg dksX11_order_1 24 rfl rfl
theorem dksX11_order_3 : cX11_order.data.toList.drop 72 = dktX11_order_3 := dk_seg dksX11_order_2 24 rfl rfl
theorem dksX11_order_4 : cX11_order.data.toList.drop 96 = dktX11_order_4 := dk_seg dksX11_order_3 24 rfl rfl
theorem dksX11_order_5 : cX11_order.data.toList.drop 119 = dktX11_order_5 := dk_seg dksX11_order_4 23 rfl rfl
theorem dX11_order_0 : decode cX11_order 0 = .ok (.aload_n 0, 1) := dk_42 (dk_at dksX11_order_0 0 rfl rfl)
theorem dX11_order_1 : decode cX11_order 1 = .ok (.bipush 97, 2) := dk_16 97 (dk_at dksX11_order_0 1 rfl rfl)
theorem dX11_order_3 : decode cX11_order 3 = .ok (.invokevirtual 36, 3) := dk_182 0 36 (dk_at dksX11_order_0 3 rfl rfl)
theorem dX11_order_6 : decode cX11_order 6 = .ok (.ifCond .eq 18, 3) := dk_153 0 18 (dk_at dksX11_order_0 6 rfl rfl)
theorem dX11_order_9 : decode cX11_order 9 = .ok (.aload_n 0, 1) := dk_42 (dk_at dksX11_order_0 9 rfl rfl)
theorem dX11_order_10 : decode cX11_order 10 = .ok (.ldc 83, 2) := dk_18 83 (dk_at dksX11_order_0 10 rfl rfl)
theorem dX11_order_12 : decode cX11_order 12 = .ok (.new 85, 3) := dk_187 0 85 (dk_at dksX11_order_0 12 rfl rfl)
theorem dX11_order_15 : decode cX11_order 15 = .ok (.dup, 1) := dk_89 (dk_at dksX11_order_0 15 rfl rfl)
theorem dX11_order_16 : decode cX11_order 16 = .ok (.iconst 0, 1) := dk_3 (dk_at dksX11_order_0 16 rfl rfl)
theorem dX11_order_17 : decode cX11_order 17 = .ok (.invokespecial 87, 3) := dk_183 0 87 (dk_at dksX11_order_0 17 rfl rfl)
theorem dX11_order_20 : decode cX11_order 20 = .ok (.invokevirtual 62, 3) := dk_182 0 62 (dk_at dksX11_order_0 20 rfl rfl)
theorem dX11_order_23 : decode cX11_order 23 = .ok (.areturn, 1) := dk_176 (dk_at dksX11_order_0 23 rfl rfl)
theorem dX11_order_24 : decode cX11_order 24 = .ok (.aload_n 0, 1) := dk_42 (dk_at dksX11_order_1 0 rfl rfl)
theorem dX11_order_25 : decode cX11_order 25 = .ok (.bipush 109, 2) := dk_16 109 (dk_at dksX11_order_1 1 rfl rfl)
theorem dX11_order_27 : decode cX11_order 27 = .ok (.invokevirtual 36, 3) := dk_182 0 36 (dk_at dksX11_order_1 3 rfl rfl)
theorem dX11_order_30 : decode cX11_order 30 = .ok (.ifCond .eq 18, 3) := dk_153 0 18 (dk_at dksX11_order_1 6 rfl rfl)
theorem dX11_order_33 : decode cX11_order 33 = .ok (.aload_n 0, 1) := dk_42 (dk_at dksX11_order_1 9 rfl rfl)
theorem dX11_order_34 : decode cX11_order 34 = .ok (.ldc 89, 2) := dk_18 89 (dk_at dksX11_order_1 10 rfl rfl)
theorem dX11_order_36 : decode cX11_order 36 = .ok (.new 85, 3) := dk_187 0 85 (dk_at dksX11_order_1 12 rfl rfl)
theorem dX11_order_39 : decode cX11_order 39 = .ok (.dup, 1) := dk_89 (dk_at dksX11_order_1 15 rfl rfl)
theorem dX11_order_40 : decode cX11_order 40 = .ok (.iconst 1, 1) := dk_4 (dk_at dksX11_order_1 16 rfl rfl)
theorem dX11_order_41 : decode cX11_order 41 = .ok (.invokespecial 87, 3) := dk_183 0 87 (dk_at dksX11_order_1 17 rfl rfl)
theorem dX11_order_44 : decode cX11_order 44 = .ok (.invokevirtual 62, 3) := dk_182 0 62 (dk_at dksX11_order_1 20 rfl rfl)
theorem dX11_order_47 : decode cX11_order 47 = .ok (.areturn, 1) := dk_176 (dk_at dksX11_order_1 23 rfl rfl)
theorem dX11_order_48 : decode cX11_order 48 = .ok (.aload_n 0, 1) := dk_42 (dk_at dksX11_order_2 0 rfl rfl)
theorem dX11_order_49 : decode cX11_order 49 = .ok (.bipush 99, 2) := dk_16 99 (dk_at dksX11_order_2 1 rfl rfl)
theorem dX11_order_51 : decode cX11_order 51 = .ok (.invokevirtual 36, 3) := dk_182 0 36 (dk_at dksX11_order_2 3 rfl rfl)
theorem dX11_order_54 : decode cX11_order 54 = .ok (.ifCond .eq 8, 3) := dk_153 0 8 (dk_at dksX11_order_2 6 rfl rfl)
theorem dX11_order_57 : decode cX11_order 57 = .ok (.aload_n 0, 1) := dk_42 (dk_at dksX11_order_2 9 rfl rfl)
theorem dX11_order_58 : decode cX11_order 58 = .ok (.invokevirtual 91, 3) := dk_182 0 91 (dk_at dksX11_order_2 10 rfl rfl)
theorem dX11_order_61 : decode cX11_order 61 = .ok (.areturn, 1) := dk_176 (dk_at dksX11_order_2 13 rfl rfl)
theorem dX11_order_62 : decode cX11_order 62 = .ok (.aload_n 0, 1) := dk_42 (dk_at dksX11_order_2 14 rfl rfl)
theorem dX11_order_63 : decode cX11_order 63 = .ok (.bipush 98, 2) := dk_16 98 (dk_at dksX11_order_2 15 rfl rfl)
theorem dX11_order_65 : decode cX11_order 65 = .ok (.invokevirtual 36, 3) := dk_182 0 36 (dk_at dksX11_order_2 17 rfl rfl)
theorem dX11_order_68 : decode cX11_order 68 = .ok (.ifCond .eq 8, 3) := dk_153 0 8 (dk_at dksX11_order_2 20 rfl rfl)
theorem dX11_order_71 : decode cX11_order 71 = .ok (.aload_n 0, 1) := dk_42 (dk_at dksX11_order_2 23 rfl rfl)
theorem dX11_order_72 : decode cX11_order 72 = .ok (.invokevirtual 95, 3) := dk_182 0 95 (dk_at dksX11_order_3 0 rfl rfl)
theorem dX11_order_75 : decode cX11_order 75 = .ok (.areturn, 1) := dk_176 (dk_at dksX11_order_3 3 rfl rfl)
theorem dX11_order_76 : decode cX11_order 76 = .ok (.aload_n 0, 1) := dk_42 (dk_at dksX11_order_3 4 rfl rfl)
theorem dX11_order_77 : decode cX11_order 77 = .ok (.bipush 115, 2) := dk_16 115 (dk_at dksX11_order_3 5 rfl rfl)
theorem dX11_order_79 : decode cX11_order 79 = .ok (.invokevirtual 36, 3) := dk_182 0 36 (dk_at dksX11_order_3 7 rfl rfl)
theorem dX11_order_82 : decode cX11_order 82 = .ok (.ifCond .eq 13, 3) := dk_153 0 13 (dk_at dksX11_order_3 10 rfl rfl)
theorem dX11_order_85 : decode cX11_order 85 = .ok (.aload_n 0, 1) := dk_42 (dk_at dksX11_order_3 13 rfl rfl)
theorem dX11_order_86 : decode cX11_order 86 = .ok (.ldc 98, 2) := dk_18 98 (dk_at dksX11_order_3 14 rfl rfl)
theorem dX11_order_88 : decode cX11_order 88 = .ok (.getstatic 100, 3) := dk_178 0 100 (dk_at dksX11_order_3 16 rfl rfl)
theorem dX11_order_91 : decode cX11_order 91 = .ok (.invokevirtual 62, 3) := dk_182 0 62 (dk_at dksX11_order_3 19 rfl rfl)
theorem dX11_order_94 : decode cX11_order 94 = .ok (.areturn, 1) := dk_176 (dk_at dksX11_order_3 22 rfl rfl)
theorem dX11_order_95 : decode cX11_order 95 = .ok (.aload_n 0, 1) := dk_42 (dk_at dksX11_order_3 23 rfl rfl)
theorem dX11_order_96 : decode cX11_order 96 = .ok (.bipush 108, 2) := dk_16 108 (dk_at dksX11_order_4 0 rfl rfl)
theorem dX11_order_98 : decode cX11_order 98 = .ok (.invokevirtual 36, 3) := dk_182 0 36 (dk_at dksX11_order_4 2 rfl rfl)
theorem dX11_order_101 : decode cX11_order 101 = .ok (.ifCond .eq 17, 3) := dk_153 0 17 (dk_at dksX11_order_4 5 rfl rfl)
theorem dX11_order_104 : decode cX11_order 104 = .ok (.new 103, 3) := dk_187 0 103 (dk_at dksX11_order_4 8 rfl rfl)
theorem dX11_order_107 : decode cX11_order 107 = .ok (.dup, 1) := dk_89 (dk_at dksX11_order_4 11 rfl rfl)
theorem dX11_order_108 : decode cX11_order 108 = .ok (.aload_n 0, 1) := dk_42 (dk_at dksX11_order_4 12 rfl rfl)
theorem dX11_order_109 : decode cX11_order 109 = .ok (.ldc 105, 2) := dk_18 105 (dk_at dksX11_order_4 13 rfl rfl)
theorem dX11_order_111 : decode cX11_order 111 = .ok (.invokevirtual 48, 3) := dk_182 0 48 (dk_at dksX11_order_4 15 rfl rfl)
theorem dX11_order_114 : decode cX11_order 114 = .ok (.invokespecial 107, 3) := dk_183 0 107 (dk_at dksX11_order_4 18 rfl rfl)
theorem dX11_order_117 : decode cX11_order 117 = .ok (.areturn, 1) := dk_176 (dk_at dksX11_order_4 21 rfl rfl)
theorem dX11_order_118 : decode cX11_order 118 = .ok (.aload_n 0, 1) := dk_42 (dk_at dksX11_order_4 22 rfl rfl)
theorem dX11_order_119 : decode cX11_order 119 = .ok (.ldc 108, 2) := dk_18 108 (dk_at dksX11_order_5 0 rfl rfl)
theorem dX11_order_121 : decode cX11_order 121 = .ok (.getstatic 110, 3) := dk_178 0 110 (dk_at dksX11_order_5 2 rfl rfl)
theorem dX11_order_124 : decode cX11_order 124 = .ok (.invokevirtual 62, 3) := dk_182 0 62 (dk_at dksX11_order_5 5 rfl rfl)
theorem dX11_order_127 : decode cX11_order 127 = .ok (.areturn, 1) := dk_176 (dk_at dksX11_order_5 8 rfl rfl)
abbrev cX11_passes : ByteArray := prog_15_method_3_code
def yX11_passes : MethodName := ⟨RX11, "passes", "(C)Z"⟩
def dkwX11_passes_1 : List UInt8 := [181, 0, 13, 28, 172]
abbrev dktX11_passes_1 : List UInt8 := dkwX11_passes_1 ++ []
def dkwX11_passes_0 : List UInt8 := [42, 27, 27, 182, 0, 27, 61, 42, 89, 180, 0, 13, 28, 153, 0, 7, 4, 167, 0, 4, 3, 96]
abbrev dktX11_passes_0 : List UInt8 := dkwX11_passes_0 ++ dktX11_passes_1
theorem dksX11_passes_0 : cX11_passes.data.toList.drop 0 = dktX11_passes_0 := by decide +kernel
theorem dksX11_passes_1 : cX11_passes.data.toList.drop 22 = dktX11_passes_1 := dk_seg dksX11_passes_0 22 rfl rfl
theorem dX11_passes_0 : decode cX11_passes 0 = .ok (.aload_n 0, 1) := dk_42 (dk_at dksX11_passes_0 0 rfl rfl)
theorem dX11_passes_1 : decode cX11_passes 1 = .ok (.iload_n 1, 1) := dk_27 (dk_at dksX11_passes_0 1 rfl rfl)
theorem dX11_passes_2 : decode cX11_passes 2 = .ok (.iload_n 1, 1) := dk_27 (dk_at dksX11_passes_0 2 rfl rfl)
theorem dX11_passes_3 : decode cX11_passes 3 = .ok (.invokevirtual 27, 3) := dk_182 0 27 (dk_at dksX11_passes_0 3 rfl rfl)
theorem dX11_passes_6 : decode cX11_passes 6 = .ok (.istore_n 2, 1) := dk_61 (dk_at dksX11_passes_0 6 rfl rfl)
theorem dX11_passes_7 : decode cX11_passes 7 = .ok (.aload_n 0, 1) := dk_42 (dk_at dksX11_passes_0 7 rfl rfl)
theorem dX11_passes_8 : decode cX11_passes 8 = .ok (.dup, 1) := dk_89 (dk_at dksX11_passes_0 8 rfl rfl)
theorem dX11_passes_9 : decode cX11_passes 9 = .ok (.getfield 13, 3) := dk_180 0 13 (dk_at dksX11_passes_0 9 rfl rfl)
theorem dX11_passes_12 : decode cX11_passes 12 = .ok (.iload_n 2, 1) := dk_28 (dk_at dksX11_passes_0 12 rfl rfl)
theorem dX11_passes_13 : decode cX11_passes 13 = .ok (.ifCond .eq 7, 3) := dk_153 0 7 (dk_at dksX11_passes_0 13 rfl rfl)
theorem dX11_passes_16 : decode cX11_passes 16 = .ok (.iconst 1, 1) := dk_4 (dk_at dksX11_passes_0 16 rfl rfl)
theorem dX11_passes_17 : decode cX11_passes 17 = .ok (.goto 4, 3) := dk_167 0 4 (dk_at dksX11_passes_0 17 rfl rfl)
theorem dX11_passes_20 : decode cX11_passes 20 = .ok (.iconst 0, 1) := dk_3 (dk_at dksX11_passes_0 20 rfl rfl)
theorem dX11_passes_21 : decode cX11_passes 21 = .ok (.iadd, 1) := dk_96 (dk_at dksX11_passes_0 21 rfl rfl)
theorem dX11_passes_22 : decode cX11_passes 22 = .ok (.putfield 13, 3) := dk_181 0 13 (dk_at dksX11_passes_1 0 rfl rfl)
theorem dX11_passes_25 : decode cX11_passes 25 = .ok (.iload_n 2, 1) := dk_28 (dk_at dksX11_passes_1 3 rfl rfl)
theorem dX11_passes_26 : decode cX11_passes 26 = .ok (.ireturn, 1) := dk_172 (dk_at dksX11_passes_1 4 rfl rfl)
abbrev cX11_isNext : ByteArray := prog_15_method_2_code
def yX11_isNext : MethodName := ⟨RX11, "isNext", "(CC)Z"⟩
def dkwX11_isNext_2 : List UInt8 := [167, 0, 4, 3, 172]
abbrev dktX11_isNext_2 : List UInt8 := dkwX11_isNext_2 ++ []
def dkwX11_isNext_1 : List UInt8 := [182, 0, 23, 163, 0, 22, 42, 180, 0, 7, 42, 180, 0, 13, 182, 0, 23, 28, 163, 0, 7, 4]
abbrev dktX11_isNext_1 : List UInt8 := dkwX11_isNext_1 ++ dktX11_isNext_2
def dkwX11_isNext_0 : List UInt8 := [42, 180, 0, 13, 42, 180, 0, 7, 182, 0, 17, 162, 0, 37, 27, 42, 180, 0, 7, 42, 180, 0, 13]
abbrev dktX11_isNext_0 : List UInt8 := dkwX11_isNext_0 ++ dktX11_isNext_1
theorem dksX11_isNext_0 : cX11_isNext.data.toList.drop 0 = dktX11_isNext_0 := by decide +kernel
theorem dksX11_isNext_1 : cX11_isNext.data.toList.drop 23 = dktX11_isNext_1 := dk_seg dksX11_isNext_0 23 rfl rfl
theorem dksX11_isNext_2 : cX11_isNext.data.toList.drop 45 = dktX11_isNext_2 := dk_seg dksX11_isNext_1 22 rfl rfl
theorem dX11_isNext_0 : decode cX11_isNext 0 = .ok (.aload_n 0, 1) := dk_42 (dk_at dksX11_isNext_0 0 rfl rfl)
theorem dX11_isNext_1 : decode cX11_isNext 1 = .ok (.getfield 13, 3) := dk_180 0 13 (dk_at dksX11_isNext_0 1 rfl rfl)
theorem dX11_isNext_4 : decode cX11_isNext 4 = .ok (.aload_n 0, 1) := dk_42 (dk_at dksX11_isNext_0 4 rfl rfl)
theorem dX11_isNext_5 : decode cX11_isNext 5 = .ok (.getfield 7, 3) := dk_180 0 7 (dk_at dksX11_isNext_0 5 rfl rfl)
theorem dX11_isNext_8 : decode cX11_isNext 8 = .ok (.invokevirtual 17, 3) := dk_182 0 17 (dk_at dksX11_isNext_0 8 rfl rfl)
theorem dX11_isNext_11 : decode cX11_isNext 11 = .ok (.if_icmp .ge 37, 3) := dk_162 0 37 (dk_at dksX11_isNext_0 11 rfl rfl)
theorem dX11_isNext_14 : decode cX11_isNext 14 = .ok (.iload_n 1, 1) := dk_27 (dk_at dksX11_isNext_0 14 rfl rfl)
theorem dX11_isNext_15 : decode cX11_isNext 15 = .ok (.aload_n 0, 1) := dk_42 (dk_at dksX11_isNext_0 15 rfl rfl)
theorem dX11_isNext_16 : decode cX11_isNext 16 = .ok (.getfield 7, 3) := dk_180 0 7 (dk_at dksX11_isNext_0 16 rfl rfl)
theorem dX11_isNext_19 : decode cX11_isNext 19 = .ok (.aload_n 0, 1) := dk_42 (dk_at dksX11_isNext_0 19 rfl rfl)
theorem dX11_isNext_20 : decode cX11_isNext 20 = .ok (.getfield 13, 3) := dk_180 0 13 (dk_at dksX11_isNext_0 20 rfl rfl)
theorem dX11_isNext_23 : decode cX11_isNext 23 = .ok (.invokevirtual 23, 3) := dk_182 0 23 (dk_at dksX11_isNext_1 0 rfl rfl)
theorem dX11_isNext_26 : decode cX11_isNext 26 = .ok (.if_icmp .gt 22, 3) := dk_163 0 22 (dk_at dksX11_isNext_1 3 rfl rfl)
theorem dX11_isNext_29 : decode cX11_isNext 29 = .ok (.aload_n 0, 1) := dk_42 (dk_at dksX11_isNext_1 6 rfl rfl)
theorem dX11_isNext_30 : decode cX11_isNext 30 = .ok (.getfield 7, 3) := dk_180 0 7 (dk_at dksX11_isNext_1 7 rfl rfl)
theorem dX11_isNext_33 : decode cX11_isNext 33 = .ok (.aload_n 0, 1) := dk_42 (dk_at dksX11_isNext_1 10 rfl rfl)
theorem dX11_isNext_34 : decode cX11_isNext 34 = .ok (.getfield 13, 3) := dk_180 0 13 (dk_at dksX11_isNext_1 11 rfl rfl)
theorem dX11_isNext_37 : decode cX11_isNext 37 = .ok (.invokevirtual 23, 3) := dk_182 0 23 (dk_at dksX11_isNext_1 14 rfl rfl)
theorem dX11_isNext_40 : decode cX11_isNext 40 = .ok (.iload_n 2, 1) := dk_28 (dk_at dksX11_isNext_1 17 rfl rfl)
theorem dX11_isNext_41 : decode cX11_isNext 41 = .ok (.if_icmp .gt 7, 3) := dk_163 0 7 (dk_at dksX11_isNext_1 18 rfl rfl)
theorem dX11_isNext_44 : decode cX11_isNext 44 = .ok (.iconst 1, 1) := dk_4 (dk_at dksX11_isNext_1 21 rfl rfl)
theorem dX11_isNext_45 : decode cX11_isNext 45 = .ok (.goto 4, 3) := dk_167 0 4 (dk_at dksX11_isNext_2 0 rfl rfl)
theorem dX11_isNext_48 : decode cX11_isNext 48 = .ok (.iconst 0, 1) := dk_3 (dk_at dksX11_isNext_2 3 rfl rfl)
theorem dX11_isNext_49 : decode cX11_isNext 49 = .ok (.ireturn, 1) := dk_172 (dk_at dksX11_isNext_2 4 rfl rfl)
abbrev cX11_behind : ByteArray := prog_15_method_8_code
def yX11_behind : MethodName := ⟨RX11, "behind", "(Ljava/lang/String;LMasterPrices$Order;)LMasterPrices$Order;"⟩
def dkwX11_behind_0 : List UInt8 := [42, 43, 182, 0, 44, 44, 176]
abbrev dktX11_behind_0 : List UInt8 := dkwX11_behind_0 ++ []
theorem dksX11_behind_0 : cX11_behind.data.toList.drop 0 = dktX11_behind_0 := by decide +kernel
theorem dX11_behind_0 : decode cX11_behind 0 = .ok (.aload_n 0, 1) := dk_42 (dk_at dksX11_behind_0 0 rfl rfl)
theorem dX11_behind_1 : decode cX11_behind 1 = .ok (.aload_n 1, 1) := dk_43 (dk_at dksX11_behind_0 1 rfl rfl)
theorem dX11_behind_2 : decode cX11_behind 2 = .ok (.invokevirtual 44, 3) := dk_182 0 44 (dk_at dksX11_behind_0 2 rfl rfl)
theorem dX11_behind_5 : decode cX11_behind 5 = .ok (.aload_n 2, 1) := dk_44 (dk_at dksX11_behind_0 5 rfl rfl)
theorem dX11_behind_6 : decode cX11_behind 6 = .ok (.areturn, 1) := dk_176 (dk_at dksX11_behind_0 6 rfl rfl)
abbrev cX11_word : ByteArray := prog_15_method_5_code
def yX11_word : MethodName := ⟨RX11, "word", "(Ljava/lang/String;)V"⟩
def dkwX11_word_1 : List UInt8 := [132, 2, 1, 167, 255, 232, 177]
abbrev dktX11_word_1 : List UInt8 := dkwX11_word_1 ++ []
def dkwX11_word_0 : List UInt8 := [3, 61, 28, 43, 182, 0, 17, 162, 0, 22, 42, 42, 43, 28, 182, 0, 23, 182, 0, 36, 182, 0, 40]
abbrev dktX11_word_0 : List UInt8 := dkwX11_word_0 ++ dktX11_word_1
theorem dksX11_word_0 : cX11_word.data.toList.drop 0 = dktX11_word_0 := by decide +kernel
theorem dksX11_word_1 : cX11_word.data.toList.drop 23 = dktX11_word_1 := dk_seg dksX11_word_0 23 rfl rfl
theorem dX11_word_0 : decode cX11_word 0 = .ok (.iconst 0, 1) := dk_3 (dk_at dksX11_word_0 0 rfl rfl)
theorem dX11_word_1 : decode cX11_word 1 = .ok (.istore_n 2, 1) := dk_61 (dk_at dksX11_word_0 1 rfl rfl)
theorem dX11_word_2 : decode cX11_word 2 = .ok (.iload_n 2, 1) := dk_28 (dk_at dksX11_word_0 2 rfl rfl)
theorem dX11_word_3 : decode cX11_word 3 = .ok (.aload_n 1, 1) := dk_43 (dk_at dksX11_word_0 3 rfl rfl)
theorem dX11_word_4 : decode cX11_word 4 = .ok (.invokevirtual 17, 3) := dk_182 0 17 (dk_at dksX11_word_0 4 rfl rfl)
theorem dX11_word_7 : decode cX11_word 7 = .ok (.if_icmp .ge 22, 3) := dk_162 0 22 (dk_at dksX11_word_0 7 rfl rfl)
theorem dX11_word_10 : decode cX11_word 10 = .ok (.aload_n 0, 1) := dk_42 (dk_at dksX11_word_0 10 rfl rfl)
theorem dX11_word_11 : decode cX11_word 11 = .ok (.aload_n 0, 1) := dk_42 (dk_at dksX11_word_0 11 rfl rfl)
theorem dX11_word_12 : decode cX11_word 12 = .ok (.aload_n 1, 1) := dk_43 (dk_at dksX11_word_0 12 rfl rfl)
theorem dX11_word_13 : decode cX11_word 13 = .ok (.iload_n 2, 1) := dk_28 (dk_at dksX11_word_0 13 rfl rfl)
theorem dX11_word_14 : decode cX11_word 14 = .ok (.invokevirtual 23, 3) := dk_182 0 23 (dk_at dksX11_word_0 14 rfl rfl)
theorem dX11_word_17 : decode cX11_word 17 = .ok (.invokevirtual 36, 3) := dk_182 0 36 (dk_at dksX11_word_0 17 rfl rfl)
theorem dX11_word_20 : decode cX11_word 20 = .ok (.invokevirtual 40, 3) := dk_182 0 40 (dk_at dksX11_word_0 20 rfl rfl)
theorem dX11_word_23 : decode cX11_word 23 = .ok (.iinc 2 1, 3) := dk_132 2 1 (dk_at dksX11_word_1 0 rfl rfl)
theorem dX11_word_26 : decode cX11_word 26 = .ok (.goto (-24), 3) := dk_167 255 232 (dk_at dksX11_word_1 3 rfl rfl)
theorem dX11_word_29 : decode cX11_word 29 = .ok (.return_, 1) := dk_177 (dk_at dksX11_word_1 6 rfl rfl)
abbrev cX11_expect : ByteArray := prog_15_method_4_code
def yX11_expect : MethodName := ⟨RX11, "expect", "(Z)V"⟩
def dkwX11_expect_0 : List UInt8 := [27, 154, 0, 15, 187, 0, 31, 89, 42, 180, 0, 13, 183, 0, 33, 191, 177]
abbrev dktX11_expect_0 : List UInt8 := dkwX11_expect_0 ++ []
theorem dksX11_expect_0 : cX11_expect.data.toList.drop 0 = dktX11_expect_0 := by decide +kernel
theorem dX11_expect_0 : decode cX11_expect 0 = .ok (.iload_n 1, 1) := dk_27 (dk_at dksX11_expect_0 0 rfl rfl)
theorem dX11_expect_1 : decode cX11_expect 1 = .ok (.ifCond .ne 15, 3) := dk_154 0 15 (dk_at dksX11_expect_0 1 rfl rfl)
theorem dX11_expect_4 : decode cX11_expect 4 = .ok (.new 31, 3) := dk_187 0 31 (dk_at dksX11_expect_0 4 rfl rfl)
theorem dX11_expect_7 : decode cX11_expect 7 = .ok (.dup, 1) := dk_89 (dk_at dksX11_expect_0 7 rfl rfl)
theorem dX11_expect_8 : decode cX11_expect 8 = .ok (.aload_n 0, 1) := dk_42 (dk_at dksX11_expect_0 8 rfl rfl)
theorem dX11_expect_9 : decode cX11_expect 9 = .ok (.getfield 13, 3) := dk_180 0 13 (dk_at dksX11_expect_0 9 rfl rfl)
theorem dX11_expect_12 : decode cX11_expect 12 = .ok (.invokespecial 33, 3) := dk_183 0 33 (dk_at dksX11_expect_0 12 rfl rfl)
theorem dX11_expect_15 : decode cX11_expect 15 = .ok (.athrow, 1) := dk_191 (dk_at dksX11_expect_0 15 rfl rfl)
theorem dX11_expect_16 : decode cX11_expect 16 = .ok (.return_, 1) := dk_177 (dk_at dksX11_expect_0 16 rfl rfl)
abbrev cX11_costing : ByteArray := prog_15_method_10_code
def yX11_costing : MethodName := ⟨RX11, "costing", "()LMasterPrices$Order;"⟩
def dkwX11_costing_1 : List UInt8 := [182, 0, 77, 183, 0, 80, 176]
abbrev dktX11_costing_1 : List UInt8 := dkwX11_costing_1 ++ []
def dkwX11_costing_0 : List UInt8 := [42, 18, 73, 182, 0, 48, 60, 42, 18, 52, 182, 0, 48, 61, 187, 0, 68, 89, 27, 28, 42, 18, 75]
abbrev dktX11_costing_0 : List UInt8 := dkwX11_costing_0 ++ dktX11_costing_1
theorem dksX11_costing_0 : cX11_costing.data.toList.drop 0 = dktX11_costing_0 := by decide +kernel
theorem dksX11_costing_1 : cX11_costing.data.toList.drop 23 = dktX11_costing_1 := dk_seg dksX11_costing_0 23 rfl rfl
theorem dX11_costing_0 : decode cX11_costing 0 = .ok (.aload_n 0, 1) := dk_42 (dk_at dksX11_costing_0 0 rfl rfl)
theorem dX11_costing_1 : decode cX11_costing 1 = .ok (.ldc 73, 2) := dk_18 73 (dk_at dksX11_costing_0 1 rfl rfl)
theorem dX11_costing_3 : decode cX11_costing 3 = .ok (.invokevirtual 48, 3) := dk_182 0 48 (dk_at dksX11_costing_0 3 rfl rfl)
theorem dX11_costing_6 : decode cX11_costing 6 = .ok (.istore_n 1, 1) := dk_60 (dk_at dksX11_costing_0 6 rfl rfl)
theorem dX11_costing_7 : decode cX11_costing 7 = .ok (.aload_n 0, 1) := dk_42 (dk_at dksX11_costing_0 7 rfl rfl)
theorem dX11_costing_8 : decode cX11_costing 8 = .ok (.ldc 52, 2) := dk_18 52 (dk_at dksX11_costing_0 8 rfl rfl)
theorem dX11_costing_10 : decode cX11_costing 10 = .ok (.invokevirtual 48, 3) := dk_182 0 48 (dk_at dksX11_costing_0 10 rfl rfl)
theorem dX11_costing_13 : decode cX11_costing 13 = .ok (.istore_n 2, 1) := dk_61 (dk_at dksX11_costing_0 13 rfl rfl)
theorem dX11_costing_14 : decode cX11_costing 14 = .ok (.new 68, 3) := dk_187 0 68 (dk_at dksX11_costing_0 14 rfl rfl)
theorem dX11_costing_17 : decode cX11_costing 17 = .ok (.dup, 1) := dk_89 (dk_at dksX11_costing_0 17 rfl rfl)
theorem dX11_costing_18 : decode cX11_costing 18 = .ok (.iload_n 1, 1) := dk_27 (dk_at dksX11_costing_0 18 rfl rfl)
theorem dX11_costing_19 : decode cX11_costing 19 = .ok (.iload_n 2, 1) := dk_28 (dk_at dksX11_costing_0 19 rfl rfl)
theorem dX11_costing_20 : decode cX11_costing 20 = .ok (.aload_n 0, 1) := dk_42 (dk_at dksX11_costing_0 20 rfl rfl)
theorem dX11_costing_21 : decode cX11_costing 21 = .ok (.ldc 75, 2) := dk_18 75 (dk_at dksX11_costing_0 21 rfl rfl)
theorem dX11_costing_23 : decode cX11_costing 23 = .ok (.invokevirtual 77, 3) := dk_182 0 77 (dk_at dksX11_costing_1 0 rfl rfl)
theorem dX11_costing_26 : decode cX11_costing 26 = .ok (.invokespecial 80, 3) := dk_183 0 80 (dk_at dksX11_costing_1 3 rfl rfl)
theorem dX11_costing_29 : decode cX11_costing 29 = .ok (.areturn, 1) := dk_176 (dk_at dksX11_costing_1 6 rfl rfl)
abbrev cX11_digitBehind : ByteArray := prog_15_method_6_code
def yX11_digitBehind : MethodName := ⟨RX11, "digitBehind", "(Ljava/lang/String;)I"⟩
def dkwX11_digitBehind_1 : List UInt8 := [181, 0, 13, 42, 180, 0, 7, 42, 180, 0, 13, 4, 100, 182, 0, 23, 16, 48, 100, 172]
abbrev dktX11_digitBehind_1 : List UInt8 := dkwX11_digitBehind_1 ++ []
def dkwX11_digitBehind_0 : List UInt8 := [42, 43, 182, 0, 44, 42, 42, 16, 48, 16, 57, 182, 0, 27, 182, 0, 40, 42, 89, 180, 0, 13, 4, 96]
abbrev dktX11_digitBehind_0 : List UInt8 := dkwX11_digitBehind_0 ++ dktX11_digitBehind_1
theorem dksX11_digitBehind_0 : cX11_digitBehind.data.toList.drop 0 = dktX11_digitBehind_0 := by decide +kernel
theorem dksX11_digitBehind_1 : cX11_digitBehind.data.toList.drop 24 = dktX11_digitBehind_1 := dk_seg dksX11_digitBehind_0 24 rfl rfl
theorem dX11_digitBehind_0 : decode cX11_digitBehind 0 = .ok (.aload_n 0, 1) := dk_42 (dk_at dksX11_digitBehind_0 0 rfl rfl)
theorem dX11_digitBehind_1 : decode cX11_digitBehind 1 = .ok (.aload_n 1, 1) := dk_43 (dk_at dksX11_digitBehind_0 1 rfl rfl)
theorem dX11_digitBehind_2 : decode cX11_digitBehind 2 = .ok (.invokevirtual 44, 3) := dk_182 0 44 (dk_at dksX11_digitBehind_0 2 rfl rfl)
theorem dX11_digitBehind_5 : decode cX11_digitBehind 5 = .ok (.aload_n 0, 1) := dk_42 (dk_at dksX11_digitBehind_0 5 rfl rfl)
theorem dX11_digitBehind_6 : decode cX11_digitBehind 6 = .ok (.aload_n 0, 1) := dk_42 (dk_at dksX11_digitBehind_0 6 rfl rfl)
theorem dX11_digitBehind_7 : decode cX11_digitBehind 7 = .ok (.bipush 48, 2) := dk_16 48 (dk_at dksX11_digitBehind_0 7 rfl rfl)
theorem dX11_digitBehind_9 : decode cX11_digitBehind 9 = .ok (.bipush 57, 2) := dk_16 57 (dk_at dksX11_digitBehind_0 9 rfl rfl)
theorem dX11_digitBehind_11 : decode cX11_digitBehind 11 = .ok (.invokevirtual 27, 3) := dk_182 0 27 (dk_at dksX11_digitBehind_0 11 rfl rfl)
theorem dX11_digitBehind_14 : decode cX11_digitBehind 14 = .ok (.invokevirtual 40, 3) := dk_182 0 40 (dk_at dksX11_digitBehind_0 14 rfl rfl)
theorem dX11_digitBehind_17 : decode cX11_digitBehind 17 = .ok (.aload_n 0, 1) := dk_42 (dk_at dksX11_digitBehind_0 17 rfl rfl)
theorem dX11_digitBehind_18 : decode cX11_digitBehind 18 = .ok (.dup, 1) := dk_89 (dk_at dksX11_digitBehind_0 18 rfl rfl)
theorem dX11_digitBehind_19 : decode cX11_digitBehind 19 = .ok (.getfield 13, 3) := dk_180 0 13 (dk_at dksX11_digitBehind_0 19 rfl rfl)
theorem dX11_digitBehind_22 : decode cX11_digitBehind 22 = .ok (.iconst 1, 1) := dk_4 (dk_at dksX11_digitBehind_0 22 rfl rfl)
theorem dX11_digitBehind_23 : decode cX11_digitBehind 23 = .ok (.iadd, 1) := dk_96 (dk_at dksX11_digitBehind_0 23 rfl rfl)
theorem dX11_digitBehind_24 : decode cX11_digitBehind 24 = .ok (.putfield 13, 3) := dk_181 0 13 (dk_at dksX11_digitBehind_1 0 rfl rfl)
theorem dX11_digitBehind_27 : decode cX11_digitBehind 27 = .ok (.aload_n 0, 1) := dk_42 (dk_at dksX11_digitBehind_1 3 rfl rfl)
theorem dX11_digitBehind_28 : decode cX11_digitBehind 28 = .ok (.getfield 7, 3) := dk_180 0 7 (dk_at dksX11_digitBehind_1 4 rfl rfl)
theorem dX11_digitBehind_31 : decode cX11_digitBehind 31 = .ok (.aload_n 0, 1) := dk_42 (dk_at dksX11_digitBehind_1 7 rfl rfl)
theorem dX11_digitBehind_32 : decode cX11_digitBehind 32 = .ok (.getfield 13, 3) := dk_180 0 13 (dk_at dksX11_digitBehind_1 8 rfl rfl)
theorem dX11_digitBehind_35 : decode cX11_digitBehind 35 = .ok (.iconst 1, 1) := dk_4 (dk_at dksX11_digitBehind_1 11 rfl rfl)
theorem dX11_digitBehind_36 : decode cX11_digitBehind 36 = .ok (.isub, 1) := dk_100 (dk_at dksX11_digitBehind_1 12 rfl rfl)
theorem dX11_digitBehind_37 : decode cX11_digitBehind 37 = .ok (.invokevirtual 23, 3) := dk_182 0 23 (dk_at dksX11_digitBehind_1 13 rfl rfl)
theorem dX11_digitBehind_40 : decode cX11_digitBehind 40 = .ok (.bipush 48, 2) := dk_16 48 (dk_at dksX11_digitBehind_1 16 rfl rfl)
theorem dX11_digitBehind_42 : decode cX11_digitBehind 42 = .ok (.isub, 1) := dk_100 (dk_at dksX11_digitBehind_1 18 rfl rfl)
theorem dX11_digitBehind_43 : decode cX11_digitBehind 43 = .ok (.ireturn, 1) := dk_172 (dk_at dksX11_digitBehind_1 19 rfl rfl)
abbrev cX11_numberBehind : ByteArray := prog_15_method_7_code
def yX11_numberBehind : MethodName := ⟨RX11, "numberBehind", "(Ljava/lang/String;)I"⟩
def dkwX11_numberBehind_1 : List UInt8 := [182, 0, 48, 96, 167, 0, 4, 28, 172]
abbrev dktX11_numberBehind_1 : List UInt8 := dkwX11_numberBehind_1 ++ []
def dkwX11_numberBehind_0 : List UInt8 := [42, 43, 182, 0, 48, 61, 42, 16, 48, 16, 57, 182, 0, 27, 153, 0, 17, 16, 10, 28, 104, 42, 18, 52]
abbrev dktX11_numberBehind_0 : List UInt8 := dkwX11_numberBehind_0 ++ dktX11_numberBehind_1
theorem dksX11_numberBehind_0 : cX11_numberBehind.data.toList.drop 0 = dktX11_numberBehind_0 := by decide +kernel
theorem dksX11_numberBehind_1 : cX11_numberBehind.data.toList.drop 24 = dktX11_numberBehind_1 := dk_seg dksX11_numberBehind_0 24 rfl rfl
theorem dX11_numberBehind_0 : decode cX11_numberBehind 0 = .ok (.aload_n 0, 1) := dk_42 (dk_at dksX11_numberBehind_0 0 rfl rfl)
theorem dX11_numberBehind_1 : decode cX11_numberBehind 1 = .ok (.aload_n 1, 1) := dk_43 (dk_at dksX11_numberBehind_0 1 rfl rfl)
theorem dX11_numberBehind_2 : decode cX11_numberBehind 2 = .ok (.invokevirtual 48, 3) := dk_182 0 48 (dk_at dksX11_numberBehind_0 2 rfl rfl)
theorem dX11_numberBehind_5 : decode cX11_numberBehind 5 = .ok (.istore_n 2, 1) := dk_61 (dk_at dksX11_numberBehind_0 5 rfl rfl)
theorem dX11_numberBehind_6 : decode cX11_numberBehind 6 = .ok (.aload_n 0, 1) := dk_42 (dk_at dksX11_numberBehind_0 6 rfl rfl)
theorem dX11_numberBehind_7 : decode cX11_numberBehind 7 = .ok (.bipush 48, 2) := dk_16 48 (dk_at dksX11_numberBehind_0 7 rfl rfl)
theorem dX11_numberBehind_9 : decode cX11_numberBehind 9 = .ok (.bipush 57, 2) := dk_16 57 (dk_at dksX11_numberBehind_0 9 rfl rfl)
theorem dX11_numberBehind_11 : decode cX11_numberBehind 11 = .ok (.invokevirtual 27, 3) := dk_182 0 27 (dk_at dksX11_numberBehind_0 11 rfl rfl)
theorem dX11_numberBehind_14 : decode cX11_numberBehind 14 = .ok (.ifCond .eq 17, 3) := dk_153 0 17 (dk_at dksX11_numberBehind_0 14 rfl rfl)
theorem dX11_numberBehind_17 : decode cX11_numberBehind 17 = .ok (.bipush 10, 2) := dk_16 10 (dk_at dksX11_numberBehind_0 17 rfl rfl)
theorem dX11_numberBehind_19 : decode cX11_numberBehind 19 = .ok (.iload_n 2, 1) := dk_28 (dk_at dksX11_numberBehind_0 19 rfl rfl)
theorem dX11_numberBehind_20 : decode cX11_numberBehind 20 = .ok (.imul, 1) := dk_104 (dk_at dksX11_numberBehind_0 20 rfl rfl)
theorem dX11_numberBehind_21 : decode cX11_numberBehind 21 = .ok (.aload_n 0, 1) := dk_42 (dk_at dksX11_numberBehind_0 21 rfl rfl)
theorem dX11_numberBehind_22 : decode cX11_numberBehind 22 = .ok (.ldc 52, 2) := dk_18 52 (dk_at dksX11_numberBehind_0 22 rfl rfl)
theorem dX11_numberBehind_24 : decode cX11_numberBehind 24 = .ok (.invokevirtual 48, 3) := dk_182 0 48 (dk_at dksX11_numberBehind_1 0 rfl rfl)
theorem dX11_numberBehind_27 : decode cX11_numberBehind 27 = .ok (.iadd, 1) := dk_96 (dk_at dksX11_numberBehind_1 3 rfl rfl)
theorem dX11_numberBehind_28 : decode cX11_numberBehind 28 = .ok (.goto 4, 3) := dk_167 0 4 (dk_at dksX11_numberBehind_1 4 rfl rfl)
theorem dX11_numberBehind_31 : decode cX11_numberBehind 31 = .ok (.iload_n 2, 1) := dk_28 (dk_at dksX11_numberBehind_1 7 rfl rfl)
theorem dX11_numberBehind_32 : decode cX11_numberBehind 32 = .ok (.ireturn, 1) := dk_172 (dk_at dksX11_numberBehind_1 8 rfl rfl)
abbrev cX11_withB : ByteArray := prog_15_method_9_code
def yX11_withB : MethodName := ⟨RX11, "withB", "()LMasterPrices$Order;"⟩
def dkwX11_withB_1 : List UInt8 := [182, 0, 48, 60, 187, 0, 68, 89, 27, 42, 18, 52, 182, 0, 48, 183, 0, 70, 176]
abbrev dktX11_withB_1 : List UInt8 := dkwX11_withB_1 ++ []
def dkwX11_withB_0 : List UInt8 := [42, 16, 105, 182, 0, 36, 153, 0, 13, 42, 18, 54, 178, 0, 56, 182, 0, 62, 176, 42, 18, 66]
abbrev dktX11_withB_0 : List UInt8 := dkwX11_withB_0 ++ dktX11_withB_1
theorem dksX11_withB_0 : cX11_withB.data.toList.drop 0 = dktX11_withB_0 := by decide +kernel
theorem dksX11_withB_1 : cX11_withB.data.toList.drop 22 = dktX11_withB_1 := dk_seg dksX11_withB_0 22 rfl rfl
theorem dX11_withB_0 : decode cX11_withB 0 = .ok (.aload_n 0, 1) := dk_42 (dk_at dksX11_withB_0 0 rfl rfl)
theorem dX11_withB_1 : decode cX11_withB 1 = .ok (.bipush 105, 2) := dk_16 105 (dk_at dksX11_withB_0 1 rfl rfl)
theorem dX11_withB_3 : decode cX11_withB 3 = .ok (.invokevirtual 36, 3) := dk_182 0 36 (dk_at dksX11_withB_0 3 rfl rfl)
theorem dX11_withB_6 : decode cX11_withB 6 = .ok (.ifCond .eq 13, 3) := dk_153 0 13 (dk_at dksX11_withB_0 6 rfl rfl)
theorem dX11_withB_9 : decode cX11_withB 9 = .ok (.aload_n 0, 1) := dk_42 (dk_at dksX11_withB_0 9 rfl rfl)
theorem dX11_withB_10 : decode cX11_withB 10 = .ok (.ldc 54, 2) := dk_18 54 (dk_at dksX11_withB_0 10 rfl rfl)
theorem dX11_withB_12 : decode cX11_withB 12 = .ok (.getstatic 56, 3) := dk_178 0 56 (dk_at dksX11_withB_0 12 rfl rfl)
theorem dX11_withB_15 : decode cX11_withB 15 = .ok (.invokevirtual 62, 3) := dk_182 0 62 (dk_at dksX11_withB_0 15 rfl rfl)
theorem dX11_withB_18 : decode cX11_withB 18 = .ok (.areturn, 1) := dk_176 (dk_at dksX11_withB_0 18 rfl rfl)
theorem dX11_withB_19 : decode cX11_withB 19 = .ok (.aload_n 0, 1) := dk_42 (dk_at dksX11_withB_0 19 rfl rfl)
theorem dX11_withB_20 : decode cX11_withB 20 = .ok (.ldc 66, 2) := dk_18 66 (dk_at dksX11_withB_0 20 rfl rfl)
theorem dX11_withB_22 : decode cX11_withB 22 = .ok (.invokevirtual 48, 3) := dk_182 0 48 (dk_at dksX11_withB_1 0 rfl rfl)
theorem dX11_withB_25 : decode cX11_withB 25 = .ok (.istore_n 1, 1) := dk_60 (dk_at dksX11_withB_1 3 rfl rfl)
theorem dX11_withB_26 : decode cX11_withB 26 = .ok (.new 68, 3) := dk_187 0 68 (dk_at dksX11_withB_1 4 rfl rfl)
theorem dX11_withB_29 : decode cX11_withB 29 = .ok (.dup, 1) := dk_89 (dk_at dksX11_withB_1 7 rfl rfl)
theorem dX11_withB_30 : decode cX11_withB 30 = .ok (.iload_n 1, 1) := dk_27 (dk_at dksX11_withB_1 8 rfl rfl)
theorem dX11_withB_31 : decode cX11_withB 31 = .ok (.aload_n 0, 1) := dk_42 (dk_at dksX11_withB_1 9 rfl rfl)
theorem dX11_withB_32 : decode cX11_withB 32 = .ok (.ldc 52, 2) := dk_18 52 (dk_at dksX11_withB_1 10 rfl rfl)
theorem dX11_withB_34 : decode cX11_withB 34 = .ok (.invokevirtual 48, 3) := dk_182 0 48 (dk_at dksX11_withB_1 12 rfl rfl)
theorem dX11_withB_37 : decode cX11_withB 37 = .ok (.invokespecial 70, 3) := dk_183 0 70 (dk_at dksX11_withB_1 15 rfl rfl)
theorem dX11_withB_40 : decode cX11_withB 40 = .ok (.areturn, 1) := dk_176 (dk_at dksX11_withB_1 18 rfl rfl)
theorem q132 : (Jvm.Cond.initialized "MasterPrices$Reader") ∈ lw_all := lw_g (lw_at lw_m1 40 rfl) rfl
theorem q621 : (Jvm.Cond.selects "MasterPrices$Reader" ({ cls := "java/lang/Object", name := "getClass", desc := "()Ljava/lang/Class;" } : Jvm.MethodName) ({ cls := "java/lang/Object", name := "getClass", desc := "()Ljava/lang/Class;" } : Jvm.MethodName)) ∈ lw_all := lw_g (lw_at lw_m3 49 rfl) rfl
theorem q1450 : (Jvm.Cond.instantiable "MasterPrices$Reader" (2 : Nat)) ∈ lw_all := lw_g (lw_at lw_m6 158 rfl) rfl
theorem q1511 : (Jvm.Cond.instanceMethod ({ cls := "MasterPrices$Reader", name := "<init>", desc := "(Ljava/lang/String;)V" } : Jvm.MethodName)) ∈ lw_all := lw_g (lw_at lw_m6 219 rfl) rfl
theorem q1512 : (Jvm.Cond.code ({ cls := "MasterPrices$Reader", name := "<init>", desc := "(Ljava/lang/String;)V" } : Jvm.MethodName) prog_15_method_1_code (2 : Nat) (Option.none : Option Jvm.ClassFile.FieldType)) ∈ lw_all := lw_g (lw_at lw_m6 220 rfl) rfl
theorem q1513 : (Jvm.Cond.methodLink "MasterPrices$Reader" (1 : Nat) ({ cls := "java/lang/Object", name := "<init>", desc := "()V" } : Jvm.MethodName)) ∈ lw_all := lw_g (lw_at lw_m6 221 rfl) rfl
theorem q1514 : (Jvm.Cond.fieldLink "MasterPrices$Reader" (7 : Nat) "MasterPrices$Reader" "text" "Ljava/lang/String;") ∈ lw_all := lw_g (lw_at lw_m6 222 rfl) rfl
theorem q1515 : (Jvm.Cond.fieldLink "MasterPrices$Reader" (13 : Nat) "MasterPrices$Reader" "at" "I") ∈ lw_all := lw_g (lw_at lw_m6 223 rfl) rfl
theorem q1516 : (Jvm.Cond.laysFinal "MasterPrices$Reader" "MasterPrices$Reader" "text" "Ljava/lang/String;") ∈ lw_all := lw_g (lw_at lw_m6 224 rfl) rfl
theorem q1517 : (Jvm.Cond.soleField "MasterPrices$Reader" "text") ∈ lw_all := lw_g (lw_at lw_m6 225 rfl) rfl
theorem q1518 : (Jvm.Cond.lays "MasterPrices$Reader" "MasterPrices$Reader" "at" "I") ∈ lw_all := lw_g (lw_at lw_m6 226 rfl) rfl
theorem q1519 : (Jvm.Cond.soleField "MasterPrices$Reader" "at") ∈ lw_all := lw_g (lw_at lw_m6 227 rfl) rfl
theorem q1520 : (Jvm.Cond.superclass "MasterPrices$Reader" "java/lang/Object") ∈ lw_all := lw_g (lw_at lw_m6 228 rfl) rfl
theorem q1574 : (Jvm.Cond.instanceMethod ({ cls := "MasterPrices$Reader", name := "whole", desc := "()Ljava/util/List;" } : Jvm.MethodName)) ∈ lw_all := lw_g (lw_at lw_m7 42 rfl) rfl
theorem q1575 : (Jvm.Cond.selects "MasterPrices$Reader" ({ cls := "MasterPrices$Reader", name := "whole", desc := "()Ljava/util/List;" } : Jvm.MethodName) ({ cls := "MasterPrices$Reader", name := "whole", desc := "()Ljava/util/List;" } : Jvm.MethodName)) ∈ lw_all := lw_g (lw_at lw_m7 43 rfl) rfl
theorem q1576 : (Jvm.Cond.code ({ cls := "MasterPrices$Reader", name := "whole", desc := "()Ljava/util/List;" } : Jvm.MethodName) prog_15_method_12_code (2 : Nat) (Option.some (Jvm.ClassFile.FieldType.object "java/util/List"))) ∈ lw_all := lw_g (lw_at lw_m7 44 rfl) rfl
theorem q1577 : (Jvm.Cond.classLink "MasterPrices$Reader" (113 : Nat) "java/util/ArrayList") ∈ lw_all := lw_g (lw_at lw_m7 45 rfl) rfl
theorem q1578 : (Jvm.Cond.methodLink "MasterPrices$Reader" (115 : Nat) ({ cls := "java/util/ArrayList", name := "<init>", desc := "()V" } : Jvm.MethodName)) ∈ lw_all := lw_g (lw_at lw_m7 46 rfl) rfl
theorem q1579 : (Jvm.Cond.methodLink "MasterPrices$Reader" (116 : Nat) ({ cls := "MasterPrices$Reader", name := "order", desc := "()LMasterPrices$Order;" } : Jvm.MethodName)) ∈ lw_all := lw_g (lw_at lw_m7 47 rfl) rfl
theorem q1580 : (Jvm.Cond.privateMethod ({ cls := "MasterPrices$Reader", name := "order", desc := "()LMasterPrices$Order;" } : Jvm.MethodName)) ∈ lw_tbl := lw_at lw_m7 48 rfl
theorem q1581 : (Jvm.Cond.instanceMethod ({ cls := "MasterPrices$Reader", name := "order", desc := "()LMasterPrices$Order;" } : Jvm.MethodName)) ∈ lw_all := lw_g (lw_at lw_m7 49 rfl) rfl
theorem q1582 : (Jvm.Cond.code ({ cls := "MasterPrices$Reader", name := "order", desc := "()LMasterPrices$Order;" } : Jvm.MethodName) prog_15_method_11_code (1 : Nat) (Option.some (Jvm.ClassFile.FieldType.object "MasterPrices$Order"))) ∈ lw_all := lw_g (lw_at lw_m7 50 rfl) rfl
theorem q1583 : (Jvm.Cond.methodLink "MasterPrices$Reader" (36 : Nat) ({ cls := "MasterPrices$Reader", name := "passes", desc := "(C)Z" } : Jvm.MethodName)) ∈ lw_all := lw_g (lw_at lw_m7 51 rfl) rfl
theorem q1584 : (Jvm.Cond.privateMethod ({ cls := "MasterPrices$Reader", name := "passes", desc := "(C)Z" } : Jvm.MethodName)) ∈ lw_tbl := lw_at lw_m7 52 rfl
theorem q1585 : (Jvm.Cond.instanceMethod ({ cls := "MasterPrices$Reader", name := "passes", desc := "(C)Z" } : Jvm.MethodName)) ∈ lw_all := lw_g (lw_at lw_m7 53 rfl) rfl
theorem q1586 : (Jvm.Cond.code ({ cls := "MasterPrices$Reader", name := "passes", desc := "(C)Z" } : Jvm.MethodName) prog_15_method_3_code (3 : Nat) (Option.some Jvm.ClassFile.FieldType.boolean)) ∈ lw_all := lw_g (lw_at lw_m7 54 rfl) rfl
theorem q1587 : (Jvm.Cond.methodLink "MasterPrices$Reader" (27 : Nat) ({ cls := "MasterPrices$Reader", name := "isNext", desc := "(CC)Z" } : Jvm.MethodName)) ∈ lw_all := lw_g (lw_at lw_m7 55 rfl) rfl
theorem q1588 : (Jvm.Cond.privateMethod ({ cls := "MasterPrices$Reader", name := "isNext", desc := "(CC)Z" } : Jvm.MethodName)) ∈ lw_tbl := lw_at lw_m7 56 rfl
theorem q1589 : (Jvm.Cond.instanceMethod ({ cls := "MasterPrices$Reader", name := "isNext", desc := "(CC)Z" } : Jvm.MethodName)) ∈ lw_all := lw_g (lw_at lw_m7 57 rfl) rfl
theorem q1590 : (Jvm.Cond.code ({ cls := "MasterPrices$Reader", name := "isNext", desc := "(CC)Z" } : Jvm.MethodName) prog_15_method_2_code (3 : Nat) (Option.some Jvm.ClassFile.FieldType.boolean)) ∈ lw_all := lw_g (lw_at lw_m7 58 rfl) rfl
theorem q1591 : (Jvm.Cond.methodLink "MasterPrices$Reader" (17 : Nat) ({ cls := "java/lang/String", name := "length", desc := "()I" } : Jvm.MethodName)) ∈ lw_all := lw_g (lw_at lw_m7 59 rfl) rfl
theorem q1592 : (Jvm.Cond.methodLink "MasterPrices$Reader" (23 : Nat) ({ cls := "java/lang/String", name := "charAt", desc := "(I)C" } : Jvm.MethodName)) ∈ lw_all := lw_g (lw_at lw_m7 60 rfl) rfl
theorem q1607 : (Jvm.Cond.stringRef "MasterPrices$Reader" (83 : Nat) "pprentice") ∈ lw_tbl := lw_at lw_m7 75 rfl
theorem q1608 : (Jvm.Cond.classLink "MasterPrices$Reader" (85 : Nat) "MasterPrices$Coming") ∈ lw_all := lw_g (lw_at lw_m7 76 rfl) rfl
theorem q1609 : (Jvm.Cond.methodLink "MasterPrices$Reader" (87 : Nat) ({ cls := "MasterPrices$Coming", name := "<init>", desc := "(Z)V" } : Jvm.MethodName)) ∈ lw_all := lw_g (lw_at lw_m7 77 rfl) rfl
theorem q1610 : (Jvm.Cond.methodLink "MasterPrices$Reader" (62 : Nat) ({ cls := "MasterPrices$Reader", name := "behind", desc := "(Ljava/lang/String;LMasterPrices$Order;)LMasterPrices$Order;" } : Jvm.MethodName)) ∈ lw_all := lw_g (lw_at lw_m7 78 rfl) rfl
theorem q1611 : (Jvm.Cond.privateMethod ({ cls := "MasterPrices$Reader", name := "behind", desc := "(Ljava/lang/String;LMasterPrices$Order;)LMasterPrices$Order;" } : Jvm.MethodName)) ∈ lw_tbl := lw_at lw_m7 79 rfl
theorem q1612 : (Jvm.Cond.instanceMethod ({ cls := "MasterPrices$Reader", name := "behind", desc := "(Ljava/lang/String;LMasterPrices$Order;)LMasterPrices$Order;" } : Jvm.MethodName)) ∈ lw_all := lw_g (lw_at lw_m7 80 rfl) rfl
theorem q1613 : (Jvm.Cond.code ({ cls := "MasterPrices$Reader", name := "behind", desc := "(Ljava/lang/String;LMasterPrices$Order;)LMasterPrices$Order;" } : Jvm.MethodName) prog_15_method_8_code (3 : Nat) (Option.some (Jvm.ClassFile.FieldType.object "MasterPrices$Order"))) ∈ lw_all := lw_g (lw_at lw_m7 81 rfl) rfl
theorem q1614 : (Jvm.Cond.methodLink "MasterPrices$Reader" (44 : Nat) ({ cls := "MasterPrices$Reader", name := "word", desc := "(Ljava/lang/String;)V" } : Jvm.MethodName)) ∈ lw_all := lw_g (lw_at lw_m7 82 rfl) rfl
theorem q1615 : (Jvm.Cond.privateMethod ({ cls := "MasterPrices$Reader", name := "word", desc := "(Ljava/lang/String;)V" } : Jvm.MethodName)) ∈ lw_tbl := lw_at lw_m7 83 rfl
theorem q1616 : (Jvm.Cond.instanceMethod ({ cls := "MasterPrices$Reader", name := "word", desc := "(Ljava/lang/String;)V" } : Jvm.MethodName)) ∈ lw_all := lw_g (lw_at lw_m7 84 rfl) rfl
theorem q1617 : (Jvm.Cond.code ({ cls := "MasterPrices$Reader", name := "word", desc := "(Ljava/lang/String;)V" } : Jvm.MethodName) prog_15_method_5_code (3 : Nat) (Option.none : Option Jvm.ClassFile.FieldType)) ∈ lw_all := lw_g (lw_at lw_m7 85 rfl) rfl
theorem q1618 : (Jvm.Cond.methodLink "MasterPrices$Reader" (40 : Nat) ({ cls := "MasterPrices$Reader", name := "expect", desc := "(Z)V" } : Jvm.MethodName)) ∈ lw_all := lw_g (lw_at lw_m7 86 rfl) rfl
theorem q1619 : (Jvm.Cond.privateMethod ({ cls := "MasterPrices$Reader", name := "expect", desc := "(Z)V" } : Jvm.MethodName)) ∈ lw_tbl := lw_at lw_m7 87 rfl
theorem q1620 : (Jvm.Cond.instanceMethod ({ cls := "MasterPrices$Reader", name := "expect", desc := "(Z)V" } : Jvm.MethodName)) ∈ lw_all := lw_g (lw_at lw_m7 88 rfl) rfl
theorem q1621 : (Jvm.Cond.code ({ cls := "MasterPrices$Reader", name := "expect", desc := "(Z)V" } : Jvm.MethodName) prog_15_method_4_code (2 : Nat) (Option.none : Option Jvm.ClassFile.FieldType)) ∈ lw_all := lw_g (lw_at lw_m7 89 rfl) rfl
theorem q1622 : (Jvm.Cond.classLink "MasterPrices$Reader" (31 : Nat) "MasterPrices$TextException") ∈ lw_all := lw_g (lw_at lw_m7 90 rfl) rfl
theorem q1631 : (Jvm.Cond.methodLink "MasterPrices$Reader" (33 : Nat) ({ cls := "MasterPrices$TextException", name := "<init>", desc := "(I)V" } : Jvm.MethodName)) ∈ lw_all := lw_g (lw_at lw_m7 99 rfl) rfl
theorem q1641 : (Jvm.Cond.stringRef "MasterPrices$Reader" (89 : Nat) "aster") ∈ lw_tbl := lw_at lw_m7 109 rfl
theorem q1642 : (Jvm.Cond.methodLink "MasterPrices$Reader" (91 : Nat) ({ cls := "MasterPrices$Reader", name := "costing", desc := "()LMasterPrices$Order;" } : Jvm.MethodName)) ∈ lw_all := lw_g (lw_at lw_m7 110 rfl) rfl
theorem q1643 : (Jvm.Cond.privateMethod ({ cls := "MasterPrices$Reader", name := "costing", desc := "()LMasterPrices$Order;" } : Jvm.MethodName)) ∈ lw_tbl := lw_at lw_m7 111 rfl
theorem q1644 : (Jvm.Cond.instanceMethod ({ cls := "MasterPrices$Reader", name := "costing", desc := "()LMasterPrices$Order;" } : Jvm.MethodName)) ∈ lw_all := lw_g (lw_at lw_m7 112 rfl) rfl
theorem q1645 : (Jvm.Cond.code ({ cls := "MasterPrices$Reader", name := "costing", desc := "()LMasterPrices$Order;" } : Jvm.MethodName) prog_15_method_10_code (3 : Nat) (Option.some (Jvm.ClassFile.FieldType.object "MasterPrices$Order"))) ∈ lw_all := lw_g (lw_at lw_m7 113 rfl) rfl
theorem q1646 : (Jvm.Cond.stringRef "MasterPrices$Reader" (73 : Nat) "ost ") ∈ lw_tbl := lw_at lw_m7 114 rfl
theorem q1647 : (Jvm.Cond.methodLink "MasterPrices$Reader" (48 : Nat) ({ cls := "MasterPrices$Reader", name := "digitBehind", desc := "(Ljava/lang/String;)I" } : Jvm.MethodName)) ∈ lw_all := lw_g (lw_at lw_m7 115 rfl) rfl
theorem q1648 : (Jvm.Cond.privateMethod ({ cls := "MasterPrices$Reader", name := "digitBehind", desc := "(Ljava/lang/String;)I" } : Jvm.MethodName)) ∈ lw_tbl := lw_at lw_m7 116 rfl
theorem q1649 : (Jvm.Cond.instanceMethod ({ cls := "MasterPrices$Reader", name := "digitBehind", desc := "(Ljava/lang/String;)I" } : Jvm.MethodName)) ∈ lw_all := lw_g (lw_at lw_m7 117 rfl) rfl
theorem q1650 : (Jvm.Cond.code ({ cls := "MasterPrices$Reader", name := "digitBehind", desc := "(Ljava/lang/String;)I" } : Jvm.MethodName) prog_15_method_6_code (2 : Nat) (Option.some Jvm.ClassFile.FieldType.int)) ∈ lw_all := lw_g (lw_at lw_m7 118 rfl) rfl
theorem q1651 : (Jvm.Cond.stringRef "MasterPrices$Reader" (52 : Nat) "") ∈ lw_tbl := lw_at lw_m7 119 rfl
theorem q1652 : (Jvm.Cond.classLink "MasterPrices$Reader" (68 : Nat) "MasterPrices$Telling") ∈ lw_all := lw_g (lw_at lw_m7 120 rfl) rfl
theorem q1653 : (Jvm.Cond.stringRef "MasterPrices$Reader" (75 : Nat) "=") ∈ lw_tbl := lw_at lw_m7 121 rfl
theorem q1654 : (Jvm.Cond.methodLink "MasterPrices$Reader" (77 : Nat) ({ cls := "MasterPrices$Reader", name := "numberBehind", desc := "(Ljava/lang/String;)I" } : Jvm.MethodName)) ∈ lw_all := lw_g (lw_at lw_m7 122 rfl) rfl
theorem q1655 : (Jvm.Cond.privateMethod ({ cls := "MasterPrices$Reader", name := "numberBehind", desc := "(Ljava/lang/String;)I" } : Jvm.MethodName)) ∈ lw_tbl := lw_at lw_m7 123 rfl
theorem q1656 : (Jvm.Cond.instanceMethod ({ cls := "MasterPrices$Reader", name := "numberBehind", desc := "(Ljava/lang/String;)I" } : Jvm.MethodName)) ∈ lw_all := lw_g (lw_at lw_m7 124 rfl) rfl
theorem q1657 : (Jvm.Cond.code ({ cls := "MasterPrices$Reader", name := "numberBehind", desc := "(Ljava/lang/String;)I" } : Jvm.MethodName) prog_15_method_7_code (3 : Nat) (Option.some Jvm.ClassFile.FieldType.int)) ∈ lw_all := lw_g (lw_at lw_m7 125 rfl) rfl
theorem q1658 : (Jvm.Cond.methodLink "MasterPrices$Reader" (80 : Nat) ({ cls := "MasterPrices$Telling", name := "<init>", desc := "(III)V" } : Jvm.MethodName)) ∈ lw_all := lw_g (lw_at lw_m7 126 rfl) rfl
theorem q1659 : (Jvm.Cond.methodLink "MasterPrices$Reader" (95 : Nat) ({ cls := "MasterPrices$Reader", name := "withB", desc := "()LMasterPrices$Order;" } : Jvm.MethodName)) ∈ lw_all := lw_g (lw_at lw_m7 127 rfl) rfl
theorem q1660 : (Jvm.Cond.privateMethod ({ cls := "MasterPrices$Reader", name := "withB", desc := "()LMasterPrices$Order;" } : Jvm.MethodName)) ∈ lw_tbl := lw_at lw_m7 128 rfl
theorem q1661 : (Jvm.Cond.instanceMethod ({ cls := "MasterPrices$Reader", name := "withB", desc := "()LMasterPrices$Order;" } : Jvm.MethodName)) ∈ lw_all := lw_g (lw_at lw_m7 129 rfl) rfl
theorem q1662 : (Jvm.Cond.code ({ cls := "MasterPrices$Reader", name := "withB", desc := "()LMasterPrices$Order;" } : Jvm.MethodName) prog_15_method_9_code (2 : Nat) (Option.some (Jvm.ClassFile.FieldType.object "MasterPrices$Order"))) ∈ lw_all := lw_g (lw_at lw_m7 130 rfl) rfl
theorem q1663 : (Jvm.Cond.stringRef "MasterPrices$Reader" (54 : Nat) "d") ∈ lw_tbl := lw_at lw_m7 131 rfl
theorem q1664 : (Jvm.Cond.fieldLink "MasterPrices$Reader" (56 : Nat) "MasterPrices$Plain" "BID" "LMasterPrices$Plain;") ∈ lw_all := lw_g (lw_at lw_m7 132 rfl) rfl
theorem q1665 : (Jvm.Cond.stringRef "MasterPrices$Reader" (66 : Nat) "ar ") ∈ lw_tbl := lw_at lw_m7 133 rfl
theorem q1666 : (Jvm.Cond.methodLink "MasterPrices$Reader" (70 : Nat) ({ cls := "MasterPrices$Telling", name := "<init>", desc := "(II)V" } : Jvm.MethodName)) ∈ lw_all := lw_g (lw_at lw_m7 134 rfl) rfl
theorem q1667 : (Jvm.Cond.stringRef "MasterPrices$Reader" (98 : Nat) "ettle") ∈ lw_tbl := lw_at lw_m7 135 rfl
theorem q1668 : (Jvm.Cond.fieldLink "MasterPrices$Reader" (100 : Nat) "MasterPrices$Plain" "SETTLE" "LMasterPrices$Plain;") ∈ lw_all := lw_g (lw_at lw_m7 136 rfl) rfl
theorem q1669 : (Jvm.Cond.classLink "MasterPrices$Reader" (103 : Nat) "MasterPrices$Leaving") ∈ lw_all := lw_g (lw_at lw_m7 137 rfl) rfl
theorem q1670 : (Jvm.Cond.stringRef "MasterPrices$Reader" (105 : Nat) "eave ") ∈ lw_tbl := lw_at lw_m7 138 rfl
theorem q1671 : (Jvm.Cond.methodLink "MasterPrices$Reader" (107 : Nat) ({ cls := "MasterPrices$Leaving", name := "<init>", desc := "(I)V" } : Jvm.MethodName)) ∈ lw_all := lw_g (lw_at lw_m7 139 rfl) rfl
theorem q1672 : (Jvm.Cond.stringRef "MasterPrices$Reader" (108 : Nat) "year") ∈ lw_tbl := lw_at lw_m7 140 rfl
theorem q1673 : (Jvm.Cond.fieldLink "MasterPrices$Reader" (110 : Nat) "MasterPrices$Plain" "YEAR" "LMasterPrices$Plain;") ∈ lw_all := lw_g (lw_at lw_m7 141 rfl) rfl
theorem q1674 : (Jvm.Cond.interfaceEntry "MasterPrices$Reader" (119 : Nat)) ∈ lw_tbl := lw_at lw_m7 142 rfl
theorem q1675 : (Jvm.Cond.methodLink "MasterPrices$Reader" (119 : Nat) ({ cls := "java/util/List", name := "add", desc := "(Ljava/lang/Object;)Z" } : Jvm.MethodName)) ∈ lw_all := lw_g (lw_at lw_m7 143 rfl) rfl
theorem q2349 : (Jvm.Cond.castable "MasterPrices$Reader" "java/lang/Object") ∈ lw_tbl := lw_at lw_m10 97 rfl
abbrev cX12_init : ByteArray := prog_18_method_1_code
def yX12_init : MethodName := ⟨RX12, "<init>", "(I)V"⟩
def dkwX12_init_0 : List UInt8 := [42, 183, 0, 1, 42, 27, 181, 0, 7, 177]
abbrev dktX12_init_0 : List UInt8 := dkwX12_init_0 ++ []
theorem dksX12_init_0 : cX12_init.data.toList.drop 0 = dktX12_init_0 := by decide +kernel
theorem dX12_init_0 : decode cX12_init 0 = .ok (.aload_n 0, 1) := dk_42 (dk_at dksX12_init_0 0 rfl rfl)
theorem dX12_init_1 : decode cX12_init 1 = .ok (.invokespecial 1, 3) := dk_183 0 1 (dk_at dksX12_init_0 1 rfl rfl)
theorem dX12_init_4 : decode cX12_init 4 = .ok (.aload_n 0, 1) := dk_42 (dk_at dksX12_init_0 4 rfl rfl)
theorem dX12_init_5 : decode cX12_init 5 = .ok (.iload_n 1, 1) := dk_27 (dk_at dksX12_init_0 5 rfl rfl)
theorem dX12_init_6 : decode cX12_init 6 = .ok (.putfield 7, 3) := dk_181 0 7 (dk_at dksX12_init_0 6 rfl rfl)
theorem dX12_init_9 : decode cX12_init 9 = .ok (.return_, 1) := dk_177 (dk_at dksX12_init_0 9 rfl rfl)
theorem q134 : (Jvm.Cond.initialized "MasterPrices$TextException") ∈ lw_all := lw_g (lw_at lw_m1 42 rfl) rfl
theorem q335 : (Jvm.Cond.selects "MasterPrices$TextException" ({ cls := "java/lang/Throwable", name := "fillInStackTrace", desc := "()Ljava/lang/Throwable;" } : Jvm.MethodName) ({ cls := "java/lang/Throwable", name := "fillInStackTrace", desc := "()Ljava/lang/Throwable;" } : Jvm.MethodName)) ∈ lw_all := lw_g (lw_at lw_m2 3 rfl) rfl
theorem q624 : (Jvm.Cond.selects "MasterPrices$TextException" ({ cls := "java/lang/Object", name := "getClass", desc := "()Ljava/lang/Class;" } : Jvm.MethodName) ({ cls := "java/lang/Object", name := "getClass", desc := "()Ljava/lang/Class;" } : Jvm.MethodName)) ∈ lw_all := lw_g (lw_at lw_m3 52 rfl) rfl
theorem q1623 : (Jvm.Cond.instantiable "MasterPrices$TextException" (7 : Nat)) ∈ lw_all := lw_g (lw_at lw_m7 91 rfl) rfl
theorem q1624 : (Jvm.Cond.castable "MasterPrices$TextException" "MasterPrices$TextException") ∈ lw_tbl := lw_at lw_m7 92 rfl
theorem q1625 : (Jvm.Cond.selects "MasterPrices$TextException" ({ cls := "java/lang/Throwable", name := "fillInStackTrace", desc := "(I)Ljava/lang/Throwable;" } : Jvm.MethodName) ({ cls := "java/lang/Throwable", name := "fillInStackTrace", desc := "(I)Ljava/lang/Throwable;" } : Jvm.MethodName)) ∈ lw_all := lw_g (lw_at lw_m7 93 rfl) rfl
theorem q1626 : (Jvm.Cond.lays "MasterPrices$TextException" "java/lang/Throwable" "cause" "Ljava/lang/Throwable;") ∈ lw_all := lw_g (lw_at lw_m7 94 rfl) rfl
theorem q1627 : (Jvm.Cond.lays "MasterPrices$TextException" "java/lang/Throwable" "stackTrace" "[Ljava/lang/StackTraceElement;") ∈ lw_all := lw_g (lw_at lw_m7 95 rfl) rfl
theorem q1628 : (Jvm.Cond.lays "MasterPrices$TextException" "java/lang/Throwable" "suppressedExceptions" "Ljava/util/List;") ∈ lw_all := lw_g (lw_at lw_m7 96 rfl) rfl
theorem q1629 : (Jvm.Cond.lays "MasterPrices$TextException" "java/lang/Throwable" "detailMessage" "Ljava/lang/String;") ∈ lw_all := lw_g (lw_at lw_m7 97 rfl) rfl
theorem q1630 : (Jvm.Cond.lays "MasterPrices$TextException" "java/lang/Throwable" "backtrace" "Ljava/lang/Object;") ∈ lw_all := lw_g (lw_at lw_m7 98 rfl) rfl
theorem q1632 : (Jvm.Cond.instanceMethod ({ cls := "MasterPrices$TextException", name := "<init>", desc := "(I)V" } : Jvm.MethodName)) ∈ lw_all := lw_g (lw_at lw_m7 100 rfl) rfl
theorem q1633 : (Jvm.Cond.code ({ cls := "MasterPrices$TextException", name := "<init>", desc := "(I)V" } : Jvm.MethodName) prog_18_method_1_code (2 : Nat) (Option.none : Option Jvm.ClassFile.FieldType)) ∈ lw_all := lw_g (lw_at lw_m7 101 rfl) rfl
theorem q1634 : (Jvm.Cond.methodLink "MasterPrices$TextException" (1 : Nat) ({ cls := "java/lang/Exception", name := "<init>", desc := "()V" } : Jvm.MethodName)) ∈ lw_all := lw_g (lw_at lw_m7 102 rfl) rfl
theorem q1635 : (Jvm.Cond.fieldLink "MasterPrices$TextException" (7 : Nat) "MasterPrices$TextException" "position" "I") ∈ lw_all := lw_g (lw_at lw_m7 103 rfl) rfl
theorem q1637 : (Jvm.Cond.laysFinal "MasterPrices$TextException" "MasterPrices$TextException" "position" "I") ∈ lw_all := lw_g (lw_at lw_m7 105 rfl) rfl
theorem q1638 : (Jvm.Cond.soleField "MasterPrices$TextException" "position") ∈ lw_all := lw_g (lw_at lw_m7 106 rfl) rfl
theorem q1639 : (Jvm.Cond.lays "MasterPrices$TextException" "java/lang/Throwable" "depth" "I") ∈ lw_all := lw_g (lw_at lw_m7 107 rfl) rfl
theorem q1640 : (Jvm.Cond.superclass "MasterPrices$TextException" "java/lang/Exception") ∈ lw_all := lw_g (lw_at lw_m7 108 rfl) rfl
theorem q2352 : (Jvm.Cond.castable "MasterPrices$TextException" "java/lang/Object") ∈ lw_tbl := lw_at lw_m10 100 rfl
abbrev cX13_worth : ByteArray := prog_6_method_2_code
def yX13_worth : MethodName := ⟨RX13, "worth", "(LMasterPrices$Town;I)I"⟩
def dkwX13_worth_1 : List UInt8 := [116, 172]
abbrev dktX13_worth_1 : List UInt8 := dkwX13_worth_1 ++ []
def dkwX13_worth_0 : List UInt8 := [43, 28, 182, 0, 9, 62, 29, 2, 160, 0, 8, 18, 15, 167, 0, 12, 43, 180, 0, 16, 29, 50, 28, 46]
abbrev dktX13_worth_0 : List UInt8 := dkwX13_worth_0 ++ dktX13_worth_1
theorem dksX13_worth_0 : cX13_worth.data.toList.drop 0 = dktX13_worth_0 := by decide +kernel
theorem dksX13_worth_1 : cX13_worth.data.toList.drop 24 = dktX13_worth_1 := dk_seg dksX13_worth_0 24 rfl rfl
theorem dX13_worth_0 : decode cX13_worth 0 = .ok (.aload_n 1, 1) := dk_43 (dk_at dksX13_worth_0 0 rfl rfl)
theorem dX13_worth_1 : decode cX13_worth 1 = .ok (.iload_n 2, 1) := dk_28 (dk_at dksX13_worth_0 1 rfl rfl)
theorem dX13_worth_2 : decode cX13_worth 2 = .ok (.invokevirtual 9, 3) := dk_182 0 9 (dk_at dksX13_worth_0 2 rfl rfl)
theorem dX13_worth_5 : decode cX13_worth 5 = .ok (.istore_n 3, 1) := dk_62 (dk_at dksX13_worth_0 5 rfl rfl)
theorem dX13_worth_6 : decode cX13_worth 6 = .ok (.iload_n 3, 1) := dk_29 (dk_at dksX13_worth_0 6 rfl rfl)
theorem dX13_worth_7 : decode cX13_worth 7 = .ok (.iconst (-1), 1) := dk_2 (dk_at dksX13_worth_0 7 rfl rfl)
theorem dX13_worth_8 : decode cX13_worth 8 = .ok (.if_icmp .ne 8, 3) := dk_160 0 8 (dk_at dksX13_worth_0 8 rfl rfl)
theorem dX13_worth_11 : decode cX13_worth 11 = .ok (.ldc 15, 2) := dk_18 15 (dk_at dksX13_worth_0 11 rfl rfl)
theorem dX13_worth_13 : decode cX13_worth 13 = .ok (.goto 12, 3) := dk_167 0 12 (dk_at dksX13_worth_0 13 rfl rfl)
theorem dX13_worth_16 : decode cX13_worth 16 = .ok (.aload_n 1, 1) := dk_43 (dk_at dksX13_worth_0 16 rfl rfl)
theorem dX13_worth_17 : decode cX13_worth 17 = .ok (.getfield 16, 3) := dk_180 0 16 (dk_at dksX13_worth_0 17 rfl rfl)
theorem dX13_worth_20 : decode cX13_worth 20 = .ok (.iload_n 3, 1) := dk_29 (dk_at dksX13_worth_0 20 rfl rfl)
theorem dX13_worth_21 : decode cX13_worth 21 = .ok (.aaload, 1) := dk_50 (dk_at dksX13_worth_0 21 rfl rfl)
theorem dX13_worth_22 : decode cX13_worth 22 = .ok (.iload_n 2, 1) := dk_28 (dk_at dksX13_worth_0 22 rfl rfl)
theorem dX13_worth_23 : decode cX13_worth 23 = .ok (.iaload, 1) := dk_46 (dk_at dksX13_worth_0 23 rfl rfl)
theorem dX13_worth_24 : decode cX13_worth 24 = .ok (.ineg, 1) := dk_116 (dk_at dksX13_worth_1 0 rfl rfl)
theorem dX13_worth_25 : decode cX13_worth 25 = .ok (.ireturn, 1) := dk_172 (dk_at dksX13_worth_1 1 rfl rfl)
theorem q153 : (Jvm.Cond.fieldLinkNest "MasterPrices$Kind$3" (16 : Nat) "MasterPrices$Town" "costs" "[[I" "MasterPrices") ∈ lw_tbl := lw_at lw_m1 61 rfl
theorem q615 : (Jvm.Cond.selects "MasterPrices$Kind$3" ({ cls := "java/lang/Object", name := "getClass", desc := "()Ljava/lang/Class;" } : Jvm.MethodName) ({ cls := "java/lang/Object", name := "getClass", desc := "()Ljava/lang/Class;" } : Jvm.MethodName)) ∈ lw_all := lw_g (lw_at lw_m3 43 rfl) rfl
theorem q1414 : (Jvm.Cond.selects "MasterPrices$Kind$3" ({ cls := "MasterPrices$Kind", name := "worth", desc := "(LMasterPrices$Town;I)I" } : Jvm.MethodName) ({ cls := "MasterPrices$Kind$3", name := "worth", desc := "(LMasterPrices$Town;I)I" } : Jvm.MethodName)) ∈ lw_all := lw_g (lw_at lw_m6 122 rfl) rfl
theorem q1415 : (Jvm.Cond.instanceMethod ({ cls := "MasterPrices$Kind$3", name := "worth", desc := "(LMasterPrices$Town;I)I" } : Jvm.MethodName)) ∈ lw_all := lw_g (lw_at lw_m6 123 rfl) rfl
theorem q1416 : (Jvm.Cond.code ({ cls := "MasterPrices$Kind$3", name := "worth", desc := "(LMasterPrices$Town;I)I" } : Jvm.MethodName) prog_6_method_2_code (4 : Nat) (Option.some Jvm.ClassFile.FieldType.int)) ∈ lw_all := lw_g (lw_at lw_m6 124 rfl) rfl
theorem q1417 : (Jvm.Cond.methodLink "MasterPrices$Kind$3" (9 : Nat) ({ cls := "MasterPrices$Town", name := "apprenticeAt", desc := "(I)I" } : Jvm.MethodName)) ∈ lw_all := lw_g (lw_at lw_m6 125 rfl) rfl
theorem q1418 : (Jvm.Cond.constant "MasterPrices$Kind$3" (15 : Nat) (-1000000 : Int32)) ∈ lw_all := lw_g (lw_at lw_m6 126 rfl) rfl
theorem q2348 : (Jvm.Cond.castable "MasterPrices$Kind$3" "java/lang/Object") ∈ lw_tbl := lw_at lw_m10 96 rfl
theorem q2357 : (Jvm.Cond.castable "MasterPrices$Kind$3" "MasterPrices$Kind") ∈ lw_tbl := lw_at lw_m10 105 rfl
abbrev cX14_worth : ByteArray := prog_4_method_2_code
def yX14_worth : MethodName := ⟨RX14, "worth", "(LMasterPrices$Town;I)I"⟩
def dkwX14_worth_0 : List UInt8 := [43, 180, 0, 7, 28, 46, 172]
abbrev dktX14_worth_0 : List UInt8 := dkwX14_worth_0 ++ []
theorem dksX14_worth_0 : cX14_worth.data.toList.drop 0 = dktX14_worth_0 := by decide +kernel
theorem dX14_worth_0 : decode cX14_worth 0 = .ok (.aload_n 1, 1) := dk_43 (dk_at dksX14_worth_0 0 rfl rfl)
theorem dX14_worth_1 : decode cX14_worth 1 = .ok (.getfield 7, 3) := dk_180 0 7 (dk_at dksX14_worth_0 1 rfl rfl)
theorem dX14_worth_4 : decode cX14_worth 4 = .ok (.iload_n 2, 1) := dk_28 (dk_at dksX14_worth_0 4 rfl rfl)
theorem dX14_worth_5 : decode cX14_worth 5 = .ok (.iaload, 1) := dk_46 (dk_at dksX14_worth_0 5 rfl rfl)
theorem dX14_worth_6 : decode cX14_worth 6 = .ok (.ireturn, 1) := dk_172 (dk_at dksX14_worth_0 6 rfl rfl)
theorem q159 : (Jvm.Cond.fieldLinkNest "MasterPrices$Kind$1" (7 : Nat) "MasterPrices$Town" "prices" "[I" "MasterPrices") ∈ lw_tbl := lw_at lw_m1 67 rfl
theorem q613 : (Jvm.Cond.selects "MasterPrices$Kind$1" ({ cls := "java/lang/Object", name := "getClass", desc := "()Ljava/lang/Class;" } : Jvm.MethodName) ({ cls := "java/lang/Object", name := "getClass", desc := "()Ljava/lang/Class;" } : Jvm.MethodName)) ∈ lw_all := lw_g (lw_at lw_m3 41 rfl) rfl
theorem q1407 : (Jvm.Cond.selects "MasterPrices$Kind$1" ({ cls := "MasterPrices$Kind", name := "worth", desc := "(LMasterPrices$Town;I)I" } : Jvm.MethodName) ({ cls := "MasterPrices$Kind$1", name := "worth", desc := "(LMasterPrices$Town;I)I" } : Jvm.MethodName)) ∈ lw_all := lw_g (lw_at lw_m6 115 rfl) rfl
theorem q1408 : (Jvm.Cond.instanceMethod ({ cls := "MasterPrices$Kind$1", name := "worth", desc := "(LMasterPrices$Town;I)I" } : Jvm.MethodName)) ∈ lw_all := lw_g (lw_at lw_m6 116 rfl) rfl
theorem q1409 : (Jvm.Cond.code ({ cls := "MasterPrices$Kind$1", name := "worth", desc := "(LMasterPrices$Town;I)I" } : Jvm.MethodName) prog_4_method_2_code (3 : Nat) (Option.some Jvm.ClassFile.FieldType.int)) ∈ lw_all := lw_g (lw_at lw_m6 117 rfl) rfl
theorem q2346 : (Jvm.Cond.castable "MasterPrices$Kind$1" "java/lang/Object") ∈ lw_tbl := lw_at lw_m10 94 rfl
theorem q2355 : (Jvm.Cond.castable "MasterPrices$Kind$1" "MasterPrices$Kind") ∈ lw_tbl := lw_at lw_m10 103 rfl
abbrev cX15_does : ByteArray := prog_12_method_2_code
def yX15_does : MethodName := ⟨RX15, "does", "(LMasterPrices$Town;)I"⟩
theorem dX15_does_0 : decode cX15_does 0 = .ok (.aload_n 1, 1) := by decide +kernel
theorem dX15_does_1 : decode cX15_does 1 = .ok (.invokevirtual 7, 3) := by decide +kernel
theorem dX15_does_4 : decode cX15_does 4 = .ok (.ireturn, 1) := by decide +kernel
theorem q422 : (Jvm.Cond.selects "MasterPrices$Plain$1" ({ cls := "MasterPrices$Plain", name := "does", desc := "(LMasterPrices$Town;)I" } : Jvm.MethodName) ({ cls := "MasterPrices$Plain$1", name := "does", desc := "(LMasterPrices$Town;)I" } : Jvm.MethodName)) ∈ lw_all := lw_g (lw_at lw_m2 90 rfl) rfl
theorem q423 : (Jvm.Cond.instanceMethod ({ cls := "MasterPrices$Plain$1", name := "does", desc := "(LMasterPrices$Town;)I" } : Jvm.MethodName)) ∈ lw_all := lw_g (lw_at lw_m2 91 rfl) rfl
theorem q424 : (Jvm.Cond.code ({ cls := "MasterPrices$Plain$1", name := "does", desc := "(LMasterPrices$Town;)I" } : Jvm.MethodName) prog_12_method_2_code (2 : Nat) (Option.some Jvm.ClassFile.FieldType.int)) ∈ lw_all := lw_g (lw_at lw_m2 92 rfl) rfl
theorem q425 : (Jvm.Cond.methodLink "MasterPrices$Plain$1" (7 : Nat) ({ cls := "MasterPrices$Town", name := "bidsOnce", desc := "()I" } : Jvm.MethodName)) ∈ lw_all := lw_g (lw_at lw_m2 93 rfl) rfl
theorem q618 : (Jvm.Cond.selects "MasterPrices$Plain$1" ({ cls := "java/lang/Object", name := "getClass", desc := "()Ljava/lang/Class;" } : Jvm.MethodName) ({ cls := "java/lang/Object", name := "getClass", desc := "()Ljava/lang/Class;" } : Jvm.MethodName)) ∈ lw_all := lw_g (lw_at lw_m3 46 rfl) rfl
theorem q2314 : (Jvm.Cond.castable "MasterPrices$Plain$1" "MasterPrices$Plain") ∈ lw_tbl := lw_at lw_m10 62 rfl
theorem q2319 : (Jvm.Cond.castable "MasterPrices$Plain$1" "MasterPrices$Order") ∈ lw_tbl := lw_at lw_m10 67 rfl
theorem q2335 : (Jvm.Cond.castable "MasterPrices$Plain$1" "java/lang/Object") ∈ lw_tbl := lw_at lw_m10 83 rfl
abbrev cX16_does : ByteArray := prog_13_method_2_code
def yX16_does : MethodName := ⟨RX16, "does", "(LMasterPrices$Town;)I"⟩
theorem dX16_does_0 : decode cX16_does 0 = .ok (.aload_n 1, 1) := by decide +kernel
theorem dX16_does_1 : decode cX16_does 1 = .ok (.invokevirtual 7, 3) := by decide +kernel
theorem dX16_does_4 : decode cX16_does 4 = .ok (.ireturn, 1) := by decide +kernel
theorem q461 : (Jvm.Cond.selects "MasterPrices$Plain$2" ({ cls := "MasterPrices$Plain", name := "does", desc := "(LMasterPrices$Town;)I" } : Jvm.MethodName) ({ cls := "MasterPrices$Plain$2", name := "does", desc := "(LMasterPrices$Town;)I" } : Jvm.MethodName)) ∈ lw_all := lw_g (lw_at lw_m2 129 rfl) rfl
theorem q462 : (Jvm.Cond.instanceMethod ({ cls := "MasterPrices$Plain$2", name := "does", desc := "(LMasterPrices$Town;)I" } : Jvm.MethodName)) ∈ lw_all := lw_g (lw_at lw_m2 130 rfl) rfl
theorem q463 : (Jvm.Cond.code ({ cls := "MasterPrices$Plain$2", name := "does", desc := "(LMasterPrices$Town;)I" } : Jvm.MethodName) prog_13_method_2_code (2 : Nat) (Option.some Jvm.ClassFile.FieldType.int)) ∈ lw_all := lw_g (lw_at lw_m2 131 rfl) rfl
theorem q464 : (Jvm.Cond.methodLink "MasterPrices$Plain$2" (7 : Nat) ({ cls := "MasterPrices$Town", name := "settles", desc := "()I" } : Jvm.MethodName)) ∈ lw_all := lw_g (lw_at lw_m2 132 rfl) rfl
theorem q619 : (Jvm.Cond.selects "MasterPrices$Plain$2" ({ cls := "java/lang/Object", name := "getClass", desc := "()Ljava/lang/Class;" } : Jvm.MethodName) ({ cls := "java/lang/Object", name := "getClass", desc := "()Ljava/lang/Class;" } : Jvm.MethodName)) ∈ lw_all := lw_g (lw_at lw_m3 47 rfl) rfl
theorem q2315 : (Jvm.Cond.castable "MasterPrices$Plain$2" "MasterPrices$Plain") ∈ lw_tbl := lw_at lw_m10 63 rfl
theorem q2320 : (Jvm.Cond.castable "MasterPrices$Plain$2" "MasterPrices$Order") ∈ lw_tbl := lw_at lw_m10 68 rfl
theorem q2336 : (Jvm.Cond.castable "MasterPrices$Plain$2" "java/lang/Object") ∈ lw_tbl := lw_at lw_m10 84 rfl
abbrev cX17_does : ByteArray := prog_14_method_2_code
def yX17_does : MethodName := ⟨RX17, "does", "(LMasterPrices$Town;)I"⟩
theorem dX17_does_0 : decode cX17_does 0 = .ok (.aload_n 1, 1) := by decide +kernel
theorem dX17_does_1 : decode cX17_does 1 = .ok (.invokevirtual 7, 3) := by decide +kernel
theorem dX17_does_4 : decode cX17_does 4 = .ok (.ireturn, 1) := by decide +kernel
theorem q480 : (Jvm.Cond.selects "MasterPrices$Plain$3" ({ cls := "MasterPrices$Plain", name := "does", desc := "(LMasterPrices$Town;)I" } : Jvm.MethodName) ({ cls := "MasterPrices$Plain$3", name := "does", desc := "(LMasterPrices$Town;)I" } : Jvm.MethodName)) ∈ lw_all := lw_g (lw_at lw_m2 148 rfl) rfl
theorem q481 : (Jvm.Cond.instanceMethod ({ cls := "MasterPrices$Plain$3", name := "does", desc := "(LMasterPrices$Town;)I" } : Jvm.MethodName)) ∈ lw_all := lw_g (lw_at lw_m2 149 rfl) rfl
theorem q482 : (Jvm.Cond.code ({ cls := "MasterPrices$Plain$3", name := "does", desc := "(LMasterPrices$Town;)I" } : Jvm.MethodName) prog_14_method_2_code (2 : Nat) (Option.some Jvm.ClassFile.FieldType.int)) ∈ lw_all := lw_g (lw_at lw_m2 150 rfl) rfl
theorem q483 : (Jvm.Cond.methodLink "MasterPrices$Plain$3" (7 : Nat) ({ cls := "MasterPrices$Town", name := "goesBy", desc := "()I" } : Jvm.MethodName)) ∈ lw_all := lw_g (lw_at lw_m2 151 rfl) rfl
theorem q620 : (Jvm.Cond.selects "MasterPrices$Plain$3" ({ cls := "java/lang/Object", name := "getClass", desc := "()Ljava/lang/Class;" } : Jvm.MethodName) ({ cls := "java/lang/Object", name := "getClass", desc := "()Ljava/lang/Class;" } : Jvm.MethodName)) ∈ lw_all := lw_g (lw_at lw_m3 48 rfl) rfl
theorem q2316 : (Jvm.Cond.castable "MasterPrices$Plain$3" "MasterPrices$Plain") ∈ lw_tbl := lw_at lw_m10 64 rfl
theorem q2321 : (Jvm.Cond.castable "MasterPrices$Plain$3" "MasterPrices$Order") ∈ lw_tbl := lw_at lw_m10 69 rfl
theorem q2338 : (Jvm.Cond.castable "MasterPrices$Plain$3" "java/lang/Object") ∈ lw_tbl := lw_at lw_m10 86 rfl
abbrev cX18_worth : ByteArray := prog_5_method_2_code
def yX18_worth : MethodName := ⟨RX18, "worth", "(LMasterPrices$Town;I)I"⟩
def dkwX18_worth_0 : List UInt8 := [43, 28, 182, 0, 7, 172]
abbrev dktX18_worth_0 : List UInt8 := dkwX18_worth_0 ++ []
theorem dksX18_worth_0 : cX18_worth.data.toList.drop 0 = dktX18_worth_0 := by decide +kernel
theorem dX18_worth_0 : decode cX18_worth 0 = .ok (.aload_n 1, 1) := dk_43 (dk_at dksX18_worth_0 0 rfl rfl)
theorem dX18_worth_1 : decode cX18_worth 1 = .ok (.iload_n 2, 1) := dk_28 (dk_at dksX18_worth_0 1 rfl rfl)
theorem dX18_worth_2 : decode cX18_worth 2 = .ok (.invokevirtual 7, 3) := dk_182 0 7 (dk_at dksX18_worth_0 2 rfl rfl)
theorem dX18_worth_5 : decode cX18_worth 5 = .ok (.ireturn, 1) := dk_172 (dk_at dksX18_worth_0 5 rfl rfl)
theorem q614 : (Jvm.Cond.selects "MasterPrices$Kind$2" ({ cls := "java/lang/Object", name := "getClass", desc := "()Ljava/lang/Class;" } : Jvm.MethodName) ({ cls := "java/lang/Object", name := "getClass", desc := "()Ljava/lang/Class;" } : Jvm.MethodName)) ∈ lw_all := lw_g (lw_at lw_m3 42 rfl) rfl
theorem q1410 : (Jvm.Cond.selects "MasterPrices$Kind$2" ({ cls := "MasterPrices$Kind", name := "worth", desc := "(LMasterPrices$Town;I)I" } : Jvm.MethodName) ({ cls := "MasterPrices$Kind$2", name := "worth", desc := "(LMasterPrices$Town;I)I" } : Jvm.MethodName)) ∈ lw_all := lw_g (lw_at lw_m6 118 rfl) rfl
theorem q1411 : (Jvm.Cond.instanceMethod ({ cls := "MasterPrices$Kind$2", name := "worth", desc := "(LMasterPrices$Town;I)I" } : Jvm.MethodName)) ∈ lw_all := lw_g (lw_at lw_m6 119 rfl) rfl
theorem q1412 : (Jvm.Cond.code ({ cls := "MasterPrices$Kind$2", name := "worth", desc := "(LMasterPrices$Town;I)I" } : Jvm.MethodName) prog_5_method_2_code (3 : Nat) (Option.some Jvm.ClassFile.FieldType.int)) ∈ lw_all := lw_g (lw_at lw_m6 120 rfl) rfl
theorem q1413 : (Jvm.Cond.methodLink "MasterPrices$Kind$2" (7 : Nat) ({ cls := "MasterPrices$Town", name := "yearsAt", desc := "(I)I" } : Jvm.MethodName)) ∈ lw_all := lw_g (lw_at lw_m6 121 rfl) rfl
theorem q2347 : (Jvm.Cond.castable "MasterPrices$Kind$2" "java/lang/Object") ∈ lw_tbl := lw_at lw_m10 95 rfl
theorem q2356 : (Jvm.Cond.castable "MasterPrices$Kind$2" "MasterPrices$Kind") ∈ lw_tbl := lw_at lw_m10 104 rfl
