set_option maxRecDepth 100000
abbrev cX2_init : ByteArray := prog_19_method_1_code
def yX2_init : MethodName := ⟨RX2, "<init>", "()V"⟩
def dkwX2_init_4 : List UInt8 := [132, 1, 1, 167, 255, 216, 177]
abbrev dktX2_init_4 : List UInt8 := dkwX2_init_4 ++ []
def dkwX2_init_3 : List UInt8 := [28, 16, 6, 162, 0, 19, 42, 180, 0, 11, 27, 50, 28, 16, 30, 79, 132, 2, 1, 167, 255, 237]
abbrev dktX2_init_3 : List UInt8 := dkwX2_init_3 ++ dktX2_init_4
def dkwX2_init_2 : List UInt8 := [16, 6, 188, 10, 181, 0, 26, 3, 60, 27, 16, 6, 162, 0, 40, 42, 180, 0, 26, 27, 2, 79, 3, 61]
abbrev dktX2_init_2 : List UInt8 := dkwX2_init_2 ++ dktX2_init_3
def dkwX2_init_1 : List UInt8 := [197, 0, 9, 2, 181, 0, 16, 42, 16, 6, 188, 10, 181, 0, 19, 42, 16, 6, 188, 10, 181, 0, 23, 42]
abbrev dktX2_init_1 : List UInt8 := dkwX2_init_1 ++ dktX2_init_2
def dkwX2_init_0 : List UInt8 := [42, 183, 0, 3, 42, 16, 6, 16, 6, 197, 0, 9, 2, 181, 0, 11, 42, 16, 6, 16, 6]
abbrev dktX2_init_0 : List UInt8 := dkwX2_init_0 ++ dktX2_init_1
theorem dksX2_init_0 : cX2_init.data.toList.drop 0 = dktX2_init_0 := by decide +kernel
theorem dksX2_init_1 : cX2_init.data.toList.drop 21 = dktX2_init_1 := dk_seg dksX2_init_0 21 rfl rfl
theorem dksX2_init_2 : cX2_init.data.toList.drop 45 = dktX2_init_2 := dk_seg dksX2_init_1 24 rfl rfl
theorem dksX2_init_3 : cX2_init.data.toList.drop 69 = dktX2_init_3 := dk_seg dksX2_init_2 24 rfl rfl
theorem dksX2_init_4 : cX2_init.data.toList.drop 91 = dktX2_init_4 := dk_seg dksX2_init_3 22 rfl rfl
theorem dX2_init_0 : decode cX2_init 0 = .ok (.aload_n 0, 1) := dk_42 (dk_at dksX2_init_0 0 rfl rfl)
theorem dX2_init_1 : decode cX2_init 1 = .ok (.invokespecial 3, 3) := dk_183 0 3 (dk_at dksX2_init_0 1 rfl rfl)
theorem dX2_init_4 : decode cX2_init 4 = .ok (.aload_n 0, 1) := dk_42 (dk_at dksX2_init_0 4 rfl rfl)
theorem dX2_init_5 : decode cX2_init 5 = .ok (.bipush 6, 2) := dk_16 6 (dk_at dksX2_init_0 5 rfl rfl)
theorem dX2_init_7 : decode cX2_init 7 = .ok (.bipush 6, 2) := dk_16 6 (dk_at dksX2_init_0 7 rfl rfl)
theorem dX2_init_9 : decode cX2_init 9 = .ok (.multianewarray 9 2, 4) := by decide +kernel
theorem dX2_init_13 : decode cX2_init 13 = .ok (.putfield 11, 3) := dk_181 0 11 (dk_at dksX2_init_0 13 rfl rfl)
theorem dX2_init_16 : decode cX2_init 16 = .ok (.aload_n 0, 1) := dk_42 (dk_at dksX2_init_0 16 rfl rfl)
theorem dX2_init_17 : decode cX2_init 17 = .ok (.bipush 6, 2) := dk_16 6 (dk_at dksX2_init_0 17 rfl rfl)
theorem dX2_init_19 : decode cX2_init 19 = .ok (.bipush 6, 2) := dk_16 6 (dk_at dksX2_init_0 19 rfl rfl)
theorem dX2_init_21 : decode cX2_init 21 = .ok (.multianewarray 9 2, 4) := by decide +kernel
theorem dX2_init_25 : decode cX2_init 25 = .ok (.putfield 16, 3) := dk_181 0 16 (dk_at dksX2_init_1 4 rfl rfl)
theorem dX2_init_28 : decode cX2_init 28 = .ok (.aload_n 0, 1) := dk_42 (dk_at dksX2_init_1 7 rfl rfl)
theorem dX2_init_29 : decode cX2_init 29 = .ok (.bipush 6, 2) := dk_16 6 (dk_at dksX2_init_1 8 rfl rfl)
theorem dX2_init_31 : decode cX2_init 31 = .ok (.newarray .int, 2) := dk_188_10 (dk_at dksX2_init_1 10 rfl rfl)
theorem dX2_init_33 : decode cX2_init 33 = .ok (.putfield 19, 3) := dk_181 0 19 (dk_at dksX2_init_1 12 rfl rfl)
theorem dX2_init_36 : decode cX2_init 36 = .ok (.aload_n 0, 1) := dk_42 (dk_at dksX2_init_1 15 rfl rfl)
theorem dX2_init_37 : decode cX2_init 37 = .ok (.bipush 6, 2) := dk_16 6 (dk_at dksX2_init_1 16 rfl rfl)
theorem dX2_init_39 : decode cX2_init 39 = .ok (.newarray .int, 2) := dk_188_10 (dk_at dksX2_init_1 18 rfl rfl)
theorem dX2_init_41 : decode cX2_init 41 = .ok (.putfield 23, 3) := dk_181 0 23 (dk_at dksX2_init_1 20 rfl rfl)
theorem dX2_init_44 : decode cX2_init 44 = .ok (.aload_n 0, 1) := dk_42 (dk_at dksX2_init_1 23 rfl rfl)
theorem dX2_init_45 : decode cX2_init 45 = .ok (.bipush 6, 2) := dk_16 6 (dk_at dksX2_init_2 0 rfl rfl)
theorem dX2_init_47 : decode cX2_init 47 = .ok (.newarray .int, 2) := dk_188_10 (dk_at dksX2_init_2 2 rfl rfl)
theorem dX2_init_49 : decode cX2_init 49 = .ok (.putfield 26, 3) := dk_181 0 26 (dk_at dksX2_init_2 4 rfl rfl)
theorem dX2_init_52 : decode cX2_init 52 = .ok (.iconst 0, 1) := dk_3 (dk_at dksX2_init_2 7 rfl rfl)
theorem dX2_init_53 : decode cX2_init 53 = .ok (.istore_n 1, 1) := dk_60 (dk_at dksX2_init_2 8 rfl rfl)
theorem dX2_init_54 : decode cX2_init 54 = .ok (.iload_n 1, 1) := dk_27 (dk_at dksX2_init_2 9 rfl rfl)
theorem dX2_init_55 : decode cX2_init 55 = .ok (.bipush 6, 2) := dk_16 6 (dk_at dksX2_init_2 10 rfl rfl)
theorem dX2_init_57 : decode cX2_init 57 = .ok (.if_icmp .ge 40, 3) := dk_162 0 40 (dk_at dksX2_init_2 12 rfl rfl)
theorem dX2_init_60 : decode cX2_init 60 = .ok (.aload_n 0, 1) := dk_42 (dk_at dksX2_init_2 15 rfl rfl)
theorem dX2_init_61 : decode cX2_init 61 = .ok (.getfield 26, 3) := dk_180 0 26 (dk_at dksX2_init_2 16 rfl rfl)
theorem dX2_init_64 : decode cX2_init 64 = .ok (.iload_n 1, 1) := dk_27 (dk_at dksX2_init_2 19 rfl rfl)
theorem dX2_init_65 : decode cX2_init 65 = .ok (.iconst (-1), 1) := dk_2 (dk_at dksX2_init_2 20 rfl rfl)
theorem dX2_init_66 : decode cX2_init 66 = .ok (.iastore, 1) := dk_79 (dk_at dksX2_init_2 21 rfl rfl)
theorem dX2_init_67 : decode cX2_init 67 = .ok (.iconst 0, 1) := dk_3 (dk_at dksX2_init_2 22 rfl rfl)
theorem dX2_init_68 : decode cX2_init 68 = .ok (.istore_n 2, 1) := dk_61 (dk_at dksX2_init_2 23 rfl rfl)
theorem dX2_init_69 : decode cX2_init 69 = .ok (.iload_n 2, 1) := dk_28 (dk_at dksX2_init_3 0 rfl rfl)
theorem dX2_init_70 : decode cX2_init 70 = .ok (.bipush 6, 2) := dk_16 6 (dk_at dksX2_init_3 1 rfl rfl)
theorem dX2_init_72 : decode cX2_init 72 = .ok (.if_icmp .ge 19, 3) := dk_162 0 19 (dk_at dksX2_init_3 3 rfl rfl)
theorem dX2_init_75 : decode cX2_init 75 = .ok (.aload_n 0, 1) := dk_42 (dk_at dksX2_init_3 6 rfl rfl)
theorem dX2_init_76 : decode cX2_init 76 = .ok (.getfield 11, 3) := dk_180 0 11 (dk_at dksX2_init_3 7 rfl rfl)
theorem dX2_init_79 : decode cX2_init 79 = .ok (.iload_n 1, 1) := dk_27 (dk_at dksX2_init_3 10 rfl rfl)
theorem dX2_init_80 : decode cX2_init 80 = .ok (.aaload, 1) := dk_50 (dk_at dksX2_init_3 11 rfl rfl)
theorem dX2_init_81 : decode cX2_init 81 = .ok (.iload_n 2, 1) := dk_28 (dk_at dksX2_init_3 12 rfl rfl)
theorem dX2_init_82 : decode cX2_init 82 = .ok (.bipush 30, 2) := dk_16 30 (dk_at dksX2_init_3 13 rfl rfl)
theorem dX2_init_84 : decode cX2_init 84 = .ok (.iastore, 1) := dk_79 (dk_at dksX2_init_3 15 rfl rfl)
theorem dX2_init_85 : decode cX2_init 85 = .ok (.iinc 2 1, 3) := dk_132 2 1 (dk_at dksX2_init_3 16 rfl rfl)
theorem dX2_init_88 : decode cX2_init 88 = .ok (.goto (-19), 3) := dk_167 255 237 (dk_at dksX2_init_3 19 rfl rfl)
theorem dX2_init_91 : decode cX2_init 91 = .ok (.iinc 1 1, 3) := dk_132 1 1 (dk_at dksX2_init_4 0 rfl rfl)
theorem dX2_init_94 : decode cX2_init 94 = .ok (.goto (-40), 3) := dk_167 255 216 (dk_at dksX2_init_4 3 rfl rfl)
theorem dX2_init_97 : decode cX2_init 97 = .ok (.return_, 1) := dk_177 (dk_at dksX2_init_4 6 rfl rfl)
abbrev cX2_init_2 : ByteArray := prog_19_method_2_code
def yX2_init_2 : MethodName := ⟨RX2, "<init>", "(LMasterPrices$Town;)V"⟩
def dkwX2_init_2_8 : List UInt8 := [181, 0, 48, 177]
abbrev dktX2_init_2_8 : List UInt8 := dkwX2_init_2_8 ++ []
def dkwX2_init_2_7 : List UInt8 := [181, 0, 39, 42, 43, 180, 0, 42, 181, 0, 42, 42, 43, 180, 0, 45, 181, 0, 45, 42, 43, 180, 0, 48]
abbrev dktX2_init_2_7 : List UInt8 := dkwX2_init_2_7 ++ dktX2_init_2_8
def dkwX2_init_2_6 : List UInt8 := [180, 0, 26, 3, 16, 6, 184, 0, 29, 42, 43, 180, 0, 35, 181, 0, 35, 42, 43, 180, 0, 39]
abbrev dktX2_init_2_6 : List UInt8 := dkwX2_init_2_6 ++ dktX2_init_2_7
def dkwX2_init_2_5 : List UInt8 := [184, 0, 29, 43, 180, 0, 23, 3, 42, 180, 0, 23, 3, 16, 6, 184, 0, 29, 43, 180, 0, 26, 3, 42]
abbrev dktX2_init_2_5 : List UInt8 := dkwX2_init_2_5 ++ dktX2_init_2_6
def dkwX2_init_2_4 : List UInt8 := [3, 16, 6, 184, 0, 29, 132, 2, 1, 167, 255, 209, 43, 180, 0, 19, 3, 42, 180, 0, 19, 3, 16, 6]
abbrev dktX2_init_2_4 : List UInt8 := dkwX2_init_2_4 ++ dktX2_init_2_5
def dkwX2_init_2_3 : List UInt8 := [180, 0, 11, 28, 50, 3, 16, 6, 184, 0, 29, 43, 180, 0, 16, 28, 50, 3, 42, 180, 0, 16, 28, 50]
abbrev dktX2_init_2_3 : List UInt8 := dkwX2_init_2_3 ++ dktX2_init_2_4
def dkwX2_init_2_2 : List UInt8 := [16, 6, 188, 10, 181, 0, 26, 3, 61, 28, 16, 6, 162, 0, 47, 43, 180, 0, 11, 28, 50, 3, 42]
abbrev dktX2_init_2_2 : List UInt8 := dkwX2_init_2_2 ++ dktX2_init_2_3
def dkwX2_init_2_1 : List UInt8 := [197, 0, 9, 2, 181, 0, 16, 42, 16, 6, 188, 10, 181, 0, 19, 42, 16, 6, 188, 10, 181, 0, 23, 42]
abbrev dktX2_init_2_1 : List UInt8 := dkwX2_init_2_1 ++ dktX2_init_2_2
def dkwX2_init_2_0 : List UInt8 := [42, 183, 0, 3, 42, 16, 6, 16, 6, 197, 0, 9, 2, 181, 0, 11, 42, 16, 6, 16, 6]
abbrev dktX2_init_2_0 : List UInt8 := dkwX2_init_2_0 ++ dktX2_init_2_1
theorem dksX2_init_2_0 : cX2_init_2.data.toList.drop 0 = dktX2_init_2_0 := by decide +kernel
theorem dksX2_init_2_1 : cX2_init_2.data.toList.drop 21 = dktX2_init_2_1 := dk_seg dksX2_init_2_0 21 rfl rfl
theorem dksX2_init_2_2 : cX2_init_2.data.toList.drop 45 = dktX2_init_2_2 := dk_seg dksX2_init_2_1 24 rfl rfl
theorem dksX2_init_2_3 : cX2_init_2.data.toList.drop 68 = dktX2_init_2_3 := dk_seg dksX2_init_2_2 23 rfl rfl
theorem dksX2_init_2_4 : cX2_init_2.data.toList.drop 92 = dktX2_init_2_4 := dk_seg dksX2_init_2_3 24 rfl rfl
theorem dksX2_init_2_5 : cX2_init_2.data.toList.drop 116 = dktX2_init_2_5 := dk_seg dksX2_init_2_4 24 rfl rfl
theorem dksX2_init_2_6 : cX2_init_2.data.toList.drop 140 = dktX2_init_2_6 := dk_seg dksX2_init_2_5 24 rfl rfl
theorem dksX2_init_2_7 : cX2_init_2.data.toList.drop 162 = dktX2_init_2_7 := dk_seg dksX2_init_2_6 22 rfl rfl
theorem dksX2_init_2_8 : cX2_init_2.data.toList.drop 186 = dktX2_init_2_8 := dk_seg dksX2_init_2_7 24 rfl rfl
theorem dX2_init_2_0 : decode cX2_init_2 0 = .ok (.aload_n 0, 1) := dk_42 (dk_at dksX2_init_2_0 0 rfl rfl)
theorem dX2_init_2_1 : decode cX2_init_2 1 = .ok (.invokespecial 3, 3) := dk_183 0 3 (dk_at dksX2_init_2_0 1 rfl rfl)
theorem dX2_init_2_4 : decode cX2_init_2 4 = .ok (.aload_n 0, 1) := dk_42 (dk_at dksX2_init_2_0 4 rfl rfl)
theorem dX2_init_2_5 : decode cX2_init_2 5 = .ok (.bipush 6, 2) := dk_16 6 (dk_at dksX2_init_2_0 5 rfl rfl)
theorem dX2_init_2_7 : decode cX2_init_2 7 = .ok (.bipush 6, 2) := dk_16 6 (dk_at dksX2_init_2_0 7 rfl rfl)
theorem dX2_init_2_9 : decode cX2_init_2 9 = .ok (.multianewarray 9 2, 4) := by decide +kernel
theorem dX2_init_2_13 : decode cX2_init_2 13 = .ok (.putfield 11, 3) := dk_181 0 11 (dk_at dksX2_init_2_0 13 rfl rfl)
theorem dX2_init_2_16 : decode cX2_init_2 16 = .ok (.aload_n 0, 1) := dk_42 (dk_at dksX2_init_2_0 16 rfl rfl)
theorem dX2_init_2_17 : decode cX2_init_2 17 = .ok (.bipush 6, 2) := dk_16 6 (dk_at dksX2_init_2_0 17 rfl rfl)
theorem dX2_init_2_19 : decode cX2_init_2 19 = .ok (.bipush 6, 2) := dk_16 6 (dk_at dksX2_init_2_0 19 rfl rfl)
theorem dX2_init_2_21 : decode cX2_init_2 21 = .ok (.multianewarray 9 2, 4) := by decide +kernel
theorem dX2_init_2_25 : decode cX2_init_2 25 = .ok (.putfield 16, 3) := dk_181 0 16 (dk_at dksX2_init_2_1 4 rfl rfl)
theorem dX2_init_2_28 : decode cX2_init_2 28 = .ok (.aload_n 0, 1) := dk_42 (dk_at dksX2_init_2_1 7 rfl rfl)
theorem dX2_init_2_29 : decode cX2_init_2 29 = .ok (.bipush 6, 2) := dk_16 6 (dk_at dksX2_init_2_1 8 rfl rfl)
theorem dX2_init_2_31 : decode cX2_init_2 31 = .ok (.newarray .int, 2) := dk_188_10 (dk_at dksX2_init_2_1 10 rfl rfl)
theorem dX2_init_2_33 : decode cX2_init_2 33 = .ok (.putfield 19, 3) := dk_181 0 19 (dk_at dksX2_init_2_1 12 rfl rfl)
theorem dX2_init_2_36 : decode cX2_init_2 36 = .ok (.aload_n 0, 1) := dk_42 (dk_at dksX2_init_2_1 15 rfl rfl)
theorem dX2_init_2_37 : decode cX2_init_2 37 = .ok (.bipush 6, 2) := dk_16 6 (dk_at dksX2_init_2_1 16 rfl rfl)
theorem dX2_init_2_39 : decode cX2_init_2 39 = .ok (.newarray .int, 2) := dk_188_10 (dk_at dksX2_init_2_1 18 rfl rfl)
theorem dX2_init_2_41 : decode cX2_init_2 41 = .ok (.putfield 23, 3) := dk_181 0 23 (dk_at dksX2_init_2_1 20 rfl rfl)
theorem dX2_init_2_44 : decode cX2_init_2 44 = .ok (.aload_n 0, 1) := dk_42 (dk_at dksX2_init_2_1 23 rfl rfl)
theorem dX2_init_2_45 : decode cX2_init_2 45 = .ok (.bipush 6, 2) := dk_16 6 (dk_at dksX2_init_2_2 0 rfl rfl)
theorem dX2_init_2_47 : decode cX2_init_2 47 = .ok (.newarray .int, 2) := dk_188_10 (dk_at dksX2_init_2_2 2 rfl rfl)
theorem dX2_init_2_49 : decode cX2_init_2 49 = .ok (.putfield 26, 3) := dk_181 0 26 (dk_at dksX2_init_2_2 4 rfl rfl)
theorem dX2_init_2_52 : decode cX2_init_2 52 = .ok (.iconst 0, 1) := dk_3 (dk_at dksX2_init_2_2 7 rfl rfl)
theorem dX2_init_2_53 : decode cX2_init_2 53 = .ok (.istore_n 2, 1) := dk_61 (dk_at dksX2_init_2_2 8 rfl rfl)
theorem dX2_init_2_54 : decode cX2_init_2 54 = .ok (.iload_n 2, 1) := dk_28 (dk_at dksX2_init_2_2 9 rfl rfl)
theorem dX2_init_2_55 : decode cX2_init_2 55 = .ok (.bipush 6, 2) := dk_16 6 (dk_at dksX2_init_2_2 10 rfl rfl)
theorem dX2_init_2_57 : decode cX2_init_2 57 = .ok (.if_icmp .ge 47, 3) := dk_162 0 47 (dk_at dksX2_init_2_2 12 rfl rfl)
theorem dX2_init_2_60 : decode cX2_init_2 60 = .ok (.aload_n 1, 1) := dk_43 (dk_at dksX2_init_2_2 15 rfl rfl)
theorem dX2_init_2_61 : decode cX2_init_2 61 = .ok (.getfield 11, 3) := dk_180 0 11 (dk_at dksX2_init_2_2 16 rfl rfl)
theorem dX2_init_2_64 : decode cX2_init_2 64 = .ok (.iload_n 2, 1) := dk_28 (dk_at dksX2_init_2_2 19 rfl rfl)
theorem dX2_init_2_65 : decode cX2_init_2 65 = .ok (.aaload, 1) := dk_50 (dk_at dksX2_init_2_2 20 rfl rfl)
theorem dX2_init_2_66 : decode cX2_init_2 66 = .ok (.iconst 0, 1) := dk_3 (dk_at dksX2_init_2_2 21 rfl rfl)
theorem dX2_init_2_67 : decode cX2_init_2 67 = .ok (.aload_n 0, 1) := dk_42 (dk_at dksX2_init_2_2 22 rfl rfl)
theorem dX2_init_2_68 : decode cX2_init_2 68 = .ok (.getfield 11, 3) := dk_180 0 11 (dk_at dksX2_init_2_3 0 rfl rfl)
theorem dX2_init_2_71 : decode cX2_init_2 71 = .ok (.iload_n 2, 1) := dk_28 (dk_at dksX2_init_2_3 3 rfl rfl)
theorem dX2_init_2_72 : decode cX2_init_2 72 = .ok (.aaload, 1) := dk_50 (dk_at dksX2_init_2_3 4 rfl rfl)
theorem dX2_init_2_73 : decode cX2_init_2 73 = .ok (.iconst 0, 1) := dk_3 (dk_at dksX2_init_2_3 5 rfl rfl)
theorem dX2_init_2_74 : decode cX2_init_2 74 = .ok (.bipush 6, 2) := dk_16 6 (dk_at dksX2_init_2_3 6 rfl rfl)
theorem dX2_init_2_76 : decode cX2_init_2 76 = .ok (.invokestatic 29, 3) := dk_184 0 29 (dk_at dksX2_init_2_3 8 rfl rfl)
theorem dX2_init_2_79 : decode cX2_init_2 79 = .ok (.aload_n 1, 1) := dk_43 (dk_at dksX2_init_2_3 11 rfl rfl)
theorem dX2_init_2_80 : decode cX2_init_2 80 = .ok (.getfield 16, 3) := dk_180 0 16 (dk_at dksX2_init_2_3 12 rfl rfl)
theorem dX2_init_2_83 : decode cX2_init_2 83 = .ok (.iload_n 2, 1) := dk_28 (dk_at dksX2_init_2_3 15 rfl rfl)
theorem dX2_init_2_84 : decode cX2_init_2 84 = .ok (.aaload, 1) := dk_50 (dk_at dksX2_init_2_3 16 rfl rfl)
theorem dX2_init_2_85 : decode cX2_init_2 85 = .ok (.iconst 0, 1) := dk_3 (dk_at dksX2_init_2_3 17 rfl rfl)
theorem dX2_init_2_86 : decode cX2_init_2 86 = .ok (.aload_n 0, 1) := dk_42 (dk_at dksX2_init_2_3 18 rfl rfl)
theorem dX2_init_2_87 : decode cX2_init_2 87 = .ok (.getfield 16, 3) := dk_180 0 16 (dk_at dksX2_init_2_3 19 rfl rfl)
theorem dX2_init_2_90 : decode cX2_init_2 90 = .ok (.iload_n 2, 1) := dk_28 (dk_at dksX2_init_2_3 22 rfl rfl)
theorem dX2_init_2_91 : decode cX2_init_2 91 = .ok (.aaload, 1) := dk_50 (dk_at dksX2_init_2_3 23 rfl rfl)
theorem dX2_init_2_92 : decode cX2_init_2 92 = .ok (.iconst 0, 1) := dk_3 (dk_at dksX2_init_2_4 0 rfl rfl)
theorem dX2_init_2_93 : decode cX2_init_2 93 = .ok (.bipush 6, 2) := dk_16 6 (dk_at dksX2_init_2_4 1 rfl rfl)
theorem dX2_init_2_95 : decode cX2_init_2 95 = .ok (.invokestatic 29, 3) := dk_184 0 29 (dk_at dksX2_init_2_4 3 rfl rfl)
theorem dX2_init_2_98 : decode cX2_init_2 98 = .ok (.iinc 2 1, 3) := dk_132 2 1 (dk_at dksX2_init_2_4 6 rfl rfl)
theorem dX2_init_2_101 : decode cX2_init_2 101 = .ok (.goto (-47), 3) := dk_167 255 209 (dk_at dksX2_init_2_4 9 rfl rfl)
theorem dX2_init_2_104 : decode cX2_init_2 104 = .ok (.aload_n 1, 1) := dk_43 (dk_at dksX2_init_2_4 12 rfl rfl)
theorem dX2_init_2_105 : decode cX2_init_2 105 = .ok (.getfield 19, 3) := dk_180 0 19 (dk_at dksX2_init_2_4 13 rfl rfl)
theorem dX2_init_2_108 : decode cX2_init_2 108 = .ok (.iconst 0, 1) := dk_3 (dk_at dksX2_init_2_4 16 rfl rfl)
theorem dX2_init_2_109 : decode cX2_init_2 109 = .ok (.aload_n 0, 1) := dk_42 (dk_at dksX2_init_2_4 17 rfl rfl)
theorem dX2_init_2_110 : decode cX2_init_2 110 = .ok (.getfield 19, 3) := dk_180 0 19 (dk_at dksX2_init_2_4 18 rfl rfl)
theorem dX2_init_2_113 : decode cX2_init_2 113 = .ok (.iconst 0, 1) := dk_3 (dk_at dksX2_init_2_4 21 rfl rfl)
theorem dX2_init_2_114 : decode cX2_init_2 114 = .ok (.bipush 6, 2) := dk_16 6 (dk_at dksX2_init_2_4 22 rfl rfl)
theorem dX2_init_2_116 : decode cX2_init_2 116 = .ok (.invokestatic 29, 3) := dk_184 0 29 (dk_at dksX2_init_2_5 0 rfl rfl)
theorem dX2_init_2_119 : decode cX2_init_2 119 = .ok (.aload_n 1, 1) := dk_43 (dk_at dksX2_init_2_5 3 rfl rfl)
theorem dX2_init_2_120 : decode cX2_init_2 120 = .ok (.getfield 23, 3) := dk_180 0 23 (dk_at dksX2_init_2_5 4 rfl rfl)
theorem dX2_init_2_123 : decode cX2_init_2 123 = .ok (.iconst 0, 1) := dk_3 (dk_at dksX2_init_2_5 7 rfl rfl)
theorem dX2_init_2_124 : decode cX2_init_2 124 = .ok (.aload_n 0, 1) := dk_42 (dk_at dksX2_init_2_5 8 rfl rfl)
theorem dX2_init_2_125 : decode cX2_init_2 125 = .ok (.getfield 23, 3) := dk_180 0 23 (dk_at dksX2_init_2_5 9 rfl rfl)
theorem dX2_init_2_128 : decode cX2_init_2 128 = .ok (.iconst 0, 1) := dk_3 (dk_at dksX2_init_2_5 12 rfl rfl)
theorem dX2_init_2_129 : decode cX2_init_2 129 = .ok (.bipush 6, 2) := dk_16 6 (dk_at dksX2_init_2_5 13 rfl rfl)
theorem dX2_init_2_131 : decode cX2_init_2 131 = .ok (.invokestatic 29, 3) := dk_184 0 29 (dk_at dksX2_init_2_5 15 rfl rfl)
theorem dX2_init_2_134 : decode cX2_init_2 134 = .ok (.aload_n 1, 1) := dk_43 (dk_at dksX2_init_2_5 18 rfl rfl)
theorem dX2_init_2_135 : decode cX2_init_2 135 = .ok (.getfield 26, 3) := dk_180 0 26 (dk_at dksX2_init_2_5 19 rfl rfl)
theorem dX2_init_2_138 : decode cX2_init_2 138 = .ok (.iconst 0, 1) := dk_3 (dk_at dksX2_init_2_5 22 rfl rfl)
theorem dX2_init_2_139 : decode cX2_init_2 139 = .ok (.aload_n 0, 1) := dk_42 (dk_at dksX2_init_2_5 23 rfl rfl)
theorem dX2_init_2_140 : decode cX2_init_2 140 = .ok (.getfield 26, 3) := dk_180 0 26 (dk_at dksX2_init_2_6 0 rfl rfl)
theorem dX2_init_2_143 : decode cX2_init_2 143 = .ok (.iconst 0, 1) := dk_3 (dk_at dksX2_init_2_6 3 rfl rfl)
theorem dX2_init_2_144 : decode cX2_init_2 144 = .ok (.bipush 6, 2) := dk_16 6 (dk_at dksX2_init_2_6 4 rfl rfl)
theorem dX2_init_2_146 : decode cX2_init_2 146 = .ok (.invokestatic 29, 3) := dk_184 0 29 (dk_at dksX2_init_2_6 6 rfl rfl)
theorem dX2_init_2_149 : decode cX2_init_2 149 = .ok (.aload_n 0, 1) := dk_42 (dk_at dksX2_init_2_6 9 rfl rfl)
theorem dX2_init_2_150 : decode cX2_init_2 150 = .ok (.aload_n 1, 1) := dk_43 (dk_at dksX2_init_2_6 10 rfl rfl)
theorem dX2_init_2_151 : decode cX2_init_2 151 = .ok (.getfield 35, 3) := dk_180 0 35 (dk_at dksX2_init_2_6 11 rfl rfl)
theorem dX2_init_2_154 : decode cX2_init_2 154 = .ok (.putfield 35, 3) := dk_181 0 35 (dk_at dksX2_init_2_6 14 rfl rfl)
theorem dX2_init_2_157 : decode cX2_init_2 157 = .ok (.aload_n 0, 1) := dk_42 (dk_at dksX2_init_2_6 17 rfl rfl)
theorem dX2_init_2_158 : decode cX2_init_2 158 = .ok (.aload_n 1, 1) := dk_43 (dk_at dksX2_init_2_6 18 rfl rfl)
theorem dX2_init_2_159 : decode cX2_init_2 159 = .ok (.getfield 39, 3) := dk_180 0 39 (dk_at dksX2_init_2_6 19 rfl rfl)
theorem dX2_init_2_162 : decode cX2_init_2 162 = .ok (.putfield 39, 3) := dk_181 0 39 (dk_at dksX2_init_2_7 0 rfl rfl)
theorem dX2_init_2_165 : decode cX2_init_2 165 = .ok (.aload_n 0, 1) := dk_42 (dk_at dksX2_init_2_7 3 rfl rfl)
theorem dX2_init_2_166 : decode cX2_init_2 166 = .ok (.aload_n 1, 1) := dk_43 (dk_at dksX2_init_2_7 4 rfl rfl)
theorem dX2_init_2_167 : decode cX2_init_2 167 = .ok (.getfield 42, 3) := dk_180 0 42 (dk_at dksX2_init_2_7 5 rfl rfl)
theorem dX2_init_2_170 : decode cX2_init_2 170 = .ok (.putfield 42, 3) := dk_181 0 42 (dk_at dksX2_init_2_7 8 rfl rfl)
theorem dX2_init_2_173 : decode cX2_init_2 173 = .ok (.aload_n 0, 1) := dk_42 (dk_at dksX2_init_2_7 11 rfl rfl)
theorem dX2_init_2_174 : decode cX2_init_2 174 = .ok (.aload_n 1, 1) := dk_43 (dk_at dksX2_init_2_7 12 rfl rfl)
theorem dX2_init_2_175 : decode cX2_init_2 175 = .ok (.getfield 45, 3) := dk_180 0 45 (dk_at dksX2_init_2_7 13 rfl rfl)
theorem dX2_init_2_178 : decode cX2_init_2 178 = .ok (.putfield 45, 3) := dk_181 0 45 (dk_at dksX2_init_2_7 16 rfl rfl)
theorem dX2_init_2_181 : decode cX2_init_2 181 = .ok (.aload_n 0, 1) := dk_42 (dk_at dksX2_init_2_7 19 rfl rfl)
theorem dX2_init_2_182 : decode cX2_init_2 182 = .ok (.aload_n 1, 1) := dk_43 (dk_at dksX2_init_2_7 20 rfl rfl)
theorem dX2_init_2_183 : decode cX2_init_2 183 = .ok (.getfield 48, 3) := dk_180 0 48 (dk_at dksX2_init_2_7 21 rfl rfl)
theorem dX2_init_2_186 : decode cX2_init_2 186 = .ok (.putfield 48, 3) := dk_181 0 48 (dk_at dksX2_init_2_8 0 rfl rfl)
theorem dX2_init_2_189 : decode cX2_init_2 189 = .ok (.return_, 1) := dk_177 (dk_at dksX2_init_2_8 3 rfl rfl)
abbrev cX2_masterComes : ByteArray := prog_19_method_21_code
def yX2_masterComes : MethodName := ⟨RX2, "masterComes", "()I"⟩
def dkwX2_masterComes_1 : List UInt8 := [180, 0, 39, 4, 96, 181, 0, 39, 42, 182, 0, 89, 42, 180, 0, 39, 4, 100, 172]
abbrev dktX2_masterComes_1 : List UInt8 := dkwX2_masterComes_1 ++ []
def dkwX2_masterComes_0 : List UInt8 := [42, 180, 0, 39, 16, 6, 162, 0, 7, 4, 167, 0, 4, 3, 4, 16, 6, 184, 0, 85, 42, 89]
abbrev dktX2_masterComes_0 : List UInt8 := dkwX2_masterComes_0 ++ dktX2_masterComes_1
theorem dksX2_masterComes_0 : cX2_masterComes.data.toList.drop 0 = dktX2_masterComes_0 := by decide +kernel
theorem dksX2_masterComes_1 : cX2_masterComes.data.toList.drop 22 = dktX2_masterComes_1 := dk_seg dksX2_masterComes_0 22 rfl rfl
theorem dX2_masterComes_0 : decode cX2_masterComes 0 = .ok (.aload_n 0, 1) := dk_42 (dk_at dksX2_masterComes_0 0 rfl rfl)
theorem dX2_masterComes_1 : decode cX2_masterComes 1 = .ok (.getfield 39, 3) := dk_180 0 39 (dk_at dksX2_masterComes_0 1 rfl rfl)
theorem dX2_masterComes_4 : decode cX2_masterComes 4 = .ok (.bipush 6, 2) := dk_16 6 (dk_at dksX2_masterComes_0 4 rfl rfl)
theorem dX2_masterComes_6 : decode cX2_masterComes 6 = .ok (.if_icmp .ge 7, 3) := dk_162 0 7 (dk_at dksX2_masterComes_0 6 rfl rfl)
theorem dX2_masterComes_9 : decode cX2_masterComes 9 = .ok (.iconst 1, 1) := dk_4 (dk_at dksX2_masterComes_0 9 rfl rfl)
theorem dX2_masterComes_10 : decode cX2_masterComes 10 = .ok (.goto 4, 3) := dk_167 0 4 (dk_at dksX2_masterComes_0 10 rfl rfl)
theorem dX2_masterComes_13 : decode cX2_masterComes 13 = .ok (.iconst 0, 1) := dk_3 (dk_at dksX2_masterComes_0 13 rfl rfl)
theorem dX2_masterComes_14 : decode cX2_masterComes 14 = .ok (.iconst 1, 1) := dk_4 (dk_at dksX2_masterComes_0 14 rfl rfl)
theorem dX2_masterComes_15 : decode cX2_masterComes 15 = .ok (.bipush 6, 2) := dk_16 6 (dk_at dksX2_masterComes_0 15 rfl rfl)
theorem dX2_masterComes_17 : decode cX2_masterComes 17 = .ok (.invokestatic 85, 3) := dk_184 0 85 (dk_at dksX2_masterComes_0 17 rfl rfl)
theorem dX2_masterComes_20 : decode cX2_masterComes 20 = .ok (.aload_n 0, 1) := dk_42 (dk_at dksX2_masterComes_0 20 rfl rfl)
theorem dX2_masterComes_21 : decode cX2_masterComes 21 = .ok (.dup, 1) := dk_89 (dk_at dksX2_masterComes_0 21 rfl rfl)
theorem dX2_masterComes_22 : decode cX2_masterComes 22 = .ok (.getfield 39, 3) := dk_180 0 39 (dk_at dksX2_masterComes_1 0 rfl rfl)
theorem dX2_masterComes_25 : decode cX2_masterComes 25 = .ok (.iconst 1, 1) := dk_4 (dk_at dksX2_masterComes_1 3 rfl rfl)
theorem dX2_masterComes_26 : decode cX2_masterComes 26 = .ok (.iadd, 1) := dk_96 (dk_at dksX2_masterComes_1 4 rfl rfl)
theorem dX2_masterComes_27 : decode cX2_masterComes 27 = .ok (.putfield 39, 3) := dk_181 0 39 (dk_at dksX2_masterComes_1 5 rfl rfl)
theorem dX2_masterComes_30 : decode cX2_masterComes 30 = .ok (.aload_n 0, 1) := dk_42 (dk_at dksX2_masterComes_1 8 rfl rfl)
theorem dX2_masterComes_31 : decode cX2_masterComes 31 = .ok (.invokevirtual 89, 3) := dk_182 0 89 (dk_at dksX2_masterComes_1 9 rfl rfl)
theorem dX2_masterComes_34 : decode cX2_masterComes 34 = .ok (.aload_n 0, 1) := dk_42 (dk_at dksX2_masterComes_1 12 rfl rfl)
theorem dX2_masterComes_35 : decode cX2_masterComes 35 = .ok (.getfield 39, 3) := dk_180 0 39 (dk_at dksX2_masterComes_1 13 rfl rfl)
theorem dX2_masterComes_38 : decode cX2_masterComes 38 = .ok (.iconst 1, 1) := dk_4 (dk_at dksX2_masterComes_1 16 rfl rfl)
theorem dX2_masterComes_39 : decode cX2_masterComes 39 = .ok (.isub, 1) := dk_100 (dk_at dksX2_masterComes_1 17 rfl rfl)
theorem dX2_masterComes_40 : decode cX2_masterComes 40 = .ok (.ireturn, 1) := dk_172 (dk_at dksX2_masterComes_1 18 rfl rfl)
abbrev cX2_beginsAnew : ByteArray := prog_19_method_19_code
def yX2_beginsAnew : MethodName := ⟨RX2, "beginsAnew", "()V"⟩
def dkwX2_beginsAnew_1 : List UInt8 := [132, 1, 1, 167, 255, 233, 177]
abbrev dktX2_beginsAnew_1 : List UInt8 := dkwX2_beginsAnew_1 ++ []
def dkwX2_beginsAnew_0 : List UInt8 := [3, 60, 27, 16, 6, 162, 0, 23, 42, 180, 0, 26, 27, 2, 79, 42, 180, 0, 19, 27, 3, 79]
abbrev dktX2_beginsAnew_0 : List UInt8 := dkwX2_beginsAnew_0 ++ dktX2_beginsAnew_1
theorem dksX2_beginsAnew_0 : cX2_beginsAnew.data.toList.drop 0 = dktX2_beginsAnew_0 := by decide +kernel
theorem dksX2_beginsAnew_1 : cX2_beginsAnew.data.toList.drop 22 = dktX2_beginsAnew_1 := dk_seg dksX2_beginsAnew_0 22 rfl rfl
theorem dX2_beginsAnew_0 : decode cX2_beginsAnew 0 = .ok (.iconst 0, 1) := dk_3 (dk_at dksX2_beginsAnew_0 0 rfl rfl)
theorem dX2_beginsAnew_1 : decode cX2_beginsAnew 1 = .ok (.istore_n 1, 1) := dk_60 (dk_at dksX2_beginsAnew_0 1 rfl rfl)
theorem dX2_beginsAnew_2 : decode cX2_beginsAnew 2 = .ok (.iload_n 1, 1) := dk_27 (dk_at dksX2_beginsAnew_0 2 rfl rfl)
theorem dX2_beginsAnew_3 : decode cX2_beginsAnew 3 = .ok (.bipush 6, 2) := dk_16 6 (dk_at dksX2_beginsAnew_0 3 rfl rfl)
theorem dX2_beginsAnew_5 : decode cX2_beginsAnew 5 = .ok (.if_icmp .ge 23, 3) := dk_162 0 23 (dk_at dksX2_beginsAnew_0 5 rfl rfl)
theorem dX2_beginsAnew_8 : decode cX2_beginsAnew 8 = .ok (.aload_n 0, 1) := dk_42 (dk_at dksX2_beginsAnew_0 8 rfl rfl)
theorem dX2_beginsAnew_9 : decode cX2_beginsAnew 9 = .ok (.getfield 26, 3) := dk_180 0 26 (dk_at dksX2_beginsAnew_0 9 rfl rfl)
theorem dX2_beginsAnew_12 : decode cX2_beginsAnew 12 = .ok (.iload_n 1, 1) := dk_27 (dk_at dksX2_beginsAnew_0 12 rfl rfl)
theorem dX2_beginsAnew_13 : decode cX2_beginsAnew 13 = .ok (.iconst (-1), 1) := dk_2 (dk_at dksX2_beginsAnew_0 13 rfl rfl)
theorem dX2_beginsAnew_14 : decode cX2_beginsAnew 14 = .ok (.iastore, 1) := dk_79 (dk_at dksX2_beginsAnew_0 14 rfl rfl)
theorem dX2_beginsAnew_15 : decode cX2_beginsAnew 15 = .ok (.aload_n 0, 1) := dk_42 (dk_at dksX2_beginsAnew_0 15 rfl rfl)
theorem dX2_beginsAnew_16 : decode cX2_beginsAnew 16 = .ok (.getfield 19, 3) := dk_180 0 19 (dk_at dksX2_beginsAnew_0 16 rfl rfl)
theorem dX2_beginsAnew_19 : decode cX2_beginsAnew 19 = .ok (.iload_n 1, 1) := dk_27 (dk_at dksX2_beginsAnew_0 19 rfl rfl)
theorem dX2_beginsAnew_20 : decode cX2_beginsAnew 20 = .ok (.iconst 0, 1) := dk_3 (dk_at dksX2_beginsAnew_0 20 rfl rfl)
theorem dX2_beginsAnew_21 : decode cX2_beginsAnew 21 = .ok (.iastore, 1) := dk_79 (dk_at dksX2_beginsAnew_0 21 rfl rfl)
theorem dX2_beginsAnew_22 : decode cX2_beginsAnew 22 = .ok (.iinc 1 1, 3) := dk_132 1 1 (dk_at dksX2_beginsAnew_1 0 rfl rfl)
theorem dX2_beginsAnew_25 : decode cX2_beginsAnew 25 = .ok (.goto (-23), 3) := dk_167 255 233 (dk_at dksX2_beginsAnew_1 3 rfl rfl)
theorem dX2_beginsAnew_28 : decode cX2_beginsAnew 28 = .ok (.return_, 1) := dk_177 (dk_at dksX2_beginsAnew_1 6 rfl rfl)
abbrev cX2_apprenticeComes : ByteArray := prog_19_method_20_code
def yX2_apprenticeComes : MethodName := ⟨RX2, "apprenticeComes", "()I"⟩
def dkwX2_apprenticeComes_1 : List UInt8 := [180, 0, 35, 4, 96, 181, 0, 35, 42, 182, 0, 89, 42, 180, 0, 35, 4, 100, 172]
abbrev dktX2_apprenticeComes_1 : List UInt8 := dkwX2_apprenticeComes_1 ++ []
def dkwX2_apprenticeComes_0 : List UInt8 := [42, 180, 0, 35, 16, 6, 162, 0, 7, 4, 167, 0, 4, 3, 4, 16, 6, 184, 0, 85, 42, 89]
abbrev dktX2_apprenticeComes_0 : List UInt8 := dkwX2_apprenticeComes_0 ++ dktX2_apprenticeComes_1
theorem dksX2_apprenticeComes_0 : cX2_apprenticeComes.data.toList.drop 0 = dktX2_apprenticeComes_0 := by decide +kernel
theorem dksX2_apprenticeComes_1 : cX2_apprenticeComes.data.toList.drop 22 = dktX2_apprenticeComes_1 := dk_seg dksX2_apprenticeComes_0 22 rfl rfl
theorem dX2_apprenticeComes_0 : decode cX2_apprenticeComes 0 = .ok (.aload_n 0, 1) := dk_42 (dk_at dksX2_apprenticeComes_0 0 rfl rfl)
theorem dX2_apprenticeComes_1 : decode cX2_apprenticeComes 1 = .ok (.getfield 35, 3) := dk_180 0 35 (dk_at dksX2_apprenticeComes_0 1 rfl rfl)
theorem dX2_apprenticeComes_4 : decode cX2_apprenticeComes 4 = .ok (.bipush 6, 2) := dk_16 6 (dk_at dksX2_apprenticeComes_0 4 rfl rfl)
theorem dX2_apprenticeComes_6 : decode cX2_apprenticeComes 6 = .ok (.if_icmp .ge 7, 3) := dk_162 0 7 (dk_at dksX2_apprenticeComes_0 6 rfl rfl)
theorem dX2_apprenticeComes_9 : decode cX2_apprenticeComes 9 = .ok (.iconst 1, 1) := dk_4 (dk_at dksX2_apprenticeComes_0 9 rfl rfl)
theorem dX2_apprenticeComes_10 : decode cX2_apprenticeComes 10 = .ok (.goto 4, 3) := dk_167 0 4 (dk_at dksX2_apprenticeComes_0 10 rfl rfl)
theorem dX2_apprenticeComes_13 : decode cX2_apprenticeComes 13 = .ok (.iconst 0, 1) := dk_3 (dk_at dksX2_apprenticeComes_0 13 rfl rfl)
theorem dX2_apprenticeComes_14 : decode cX2_apprenticeComes 14 = .ok (.iconst 1, 1) := dk_4 (dk_at dksX2_apprenticeComes_0 14 rfl rfl)
theorem dX2_apprenticeComes_15 : decode cX2_apprenticeComes 15 = .ok (.bipush 6, 2) := dk_16 6 (dk_at dksX2_apprenticeComes_0 15 rfl rfl)
theorem dX2_apprenticeComes_17 : decode cX2_apprenticeComes 17 = .ok (.invokestatic 85, 3) := dk_184 0 85 (dk_at dksX2_apprenticeComes_0 17 rfl rfl)
theorem dX2_apprenticeComes_20 : decode cX2_apprenticeComes 20 = .ok (.aload_n 0, 1) := dk_42 (dk_at dksX2_apprenticeComes_0 20 rfl rfl)
theorem dX2_apprenticeComes_21 : decode cX2_apprenticeComes 21 = .ok (.dup, 1) := dk_89 (dk_at dksX2_apprenticeComes_0 21 rfl rfl)
theorem dX2_apprenticeComes_22 : decode cX2_apprenticeComes 22 = .ok (.getfield 35, 3) := dk_180 0 35 (dk_at dksX2_apprenticeComes_1 0 rfl rfl)
theorem dX2_apprenticeComes_25 : decode cX2_apprenticeComes 25 = .ok (.iconst 1, 1) := dk_4 (dk_at dksX2_apprenticeComes_1 3 rfl rfl)
theorem dX2_apprenticeComes_26 : decode cX2_apprenticeComes 26 = .ok (.iadd, 1) := dk_96 (dk_at dksX2_apprenticeComes_1 4 rfl rfl)
theorem dX2_apprenticeComes_27 : decode cX2_apprenticeComes 27 = .ok (.putfield 35, 3) := dk_181 0 35 (dk_at dksX2_apprenticeComes_1 5 rfl rfl)
theorem dX2_apprenticeComes_30 : decode cX2_apprenticeComes 30 = .ok (.aload_n 0, 1) := dk_42 (dk_at dksX2_apprenticeComes_1 8 rfl rfl)
theorem dX2_apprenticeComes_31 : decode cX2_apprenticeComes 31 = .ok (.invokevirtual 89, 3) := dk_182 0 89 (dk_at dksX2_apprenticeComes_1 9 rfl rfl)
theorem dX2_apprenticeComes_34 : decode cX2_apprenticeComes 34 = .ok (.aload_n 0, 1) := dk_42 (dk_at dksX2_apprenticeComes_1 12 rfl rfl)
theorem dX2_apprenticeComes_35 : decode cX2_apprenticeComes 35 = .ok (.getfield 35, 3) := dk_180 0 35 (dk_at dksX2_apprenticeComes_1 13 rfl rfl)
theorem dX2_apprenticeComes_38 : decode cX2_apprenticeComes 38 = .ok (.iconst 1, 1) := dk_4 (dk_at dksX2_apprenticeComes_1 16 rfl rfl)
theorem dX2_apprenticeComes_39 : decode cX2_apprenticeComes 39 = .ok (.isub, 1) := dk_100 (dk_at dksX2_apprenticeComes_1 17 rfl rfl)
theorem dX2_apprenticeComes_40 : decode cX2_apprenticeComes 40 = .ok (.ireturn, 1) := dk_172 (dk_at dksX2_apprenticeComes_1 18 rfl rfl)
abbrev cX2_bars : ByteArray := prog_19_method_25_code
def yX2_bars : MethodName := ⟨RX2, "bars", "(II)I"⟩
def dkwX2_bars_2 : List UInt8 := [27, 46, 28, 160, 0, 7, 2, 167, 0, 9, 42, 180, 0, 26, 27, 46, 79, 29, 172]
abbrev dktX2_bars_2 : List UInt8 := dkwX2_bars_2 ++ []
def dkwX2_bars_1 : List UInt8 := [3, 7, 27, 184, 0, 85, 42, 180, 0, 11, 27, 50, 28, 2, 79, 42, 180, 0, 26, 27, 42, 180, 0, 26]
abbrev dktX2_bars_1 : List UInt8 := dkwX2_bars_1 ++ dktX2_bars_2
def dkwX2_bars_0 : List UInt8 := [42, 27, 28, 182, 0, 100, 42, 180, 0, 11, 27, 50, 28, 46, 62, 29, 2, 159, 0, 7, 4, 167, 0, 4]
abbrev dktX2_bars_0 : List UInt8 := dkwX2_bars_0 ++ dktX2_bars_1
theorem dksX2_bars_0 : cX2_bars.data.toList.drop 0 = dktX2_bars_0 := by decide +kernel
theorem dksX2_bars_1 : cX2_bars.data.toList.drop 24 = dktX2_bars_1 := dk_seg dksX2_bars_0 24 rfl rfl
theorem dksX2_bars_2 : cX2_bars.data.toList.drop 48 = dktX2_bars_2 := dk_seg dksX2_bars_1 24 rfl rfl
theorem dX2_bars_0 : decode cX2_bars 0 = .ok (.aload_n 0, 1) := dk_42 (dk_at dksX2_bars_0 0 rfl rfl)
theorem dX2_bars_1 : decode cX2_bars 1 = .ok (.iload_n 1, 1) := dk_27 (dk_at dksX2_bars_0 1 rfl rfl)
theorem dX2_bars_2 : decode cX2_bars 2 = .ok (.iload_n 2, 1) := dk_28 (dk_at dksX2_bars_0 2 rfl rfl)
theorem dX2_bars_3 : decode cX2_bars 3 = .ok (.invokevirtual 100, 3) := dk_182 0 100 (dk_at dksX2_bars_0 3 rfl rfl)
theorem dX2_bars_6 : decode cX2_bars 6 = .ok (.aload_n 0, 1) := dk_42 (dk_at dksX2_bars_0 6 rfl rfl)
theorem dX2_bars_7 : decode cX2_bars 7 = .ok (.getfield 11, 3) := dk_180 0 11 (dk_at dksX2_bars_0 7 rfl rfl)
theorem dX2_bars_10 : decode cX2_bars 10 = .ok (.iload_n 1, 1) := dk_27 (dk_at dksX2_bars_0 10 rfl rfl)
theorem dX2_bars_11 : decode cX2_bars 11 = .ok (.aaload, 1) := dk_50 (dk_at dksX2_bars_0 11 rfl rfl)
theorem dX2_bars_12 : decode cX2_bars 12 = .ok (.iload_n 2, 1) := dk_28 (dk_at dksX2_bars_0 12 rfl rfl)
theorem dX2_bars_13 : decode cX2_bars 13 = .ok (.iaload, 1) := dk_46 (dk_at dksX2_bars_0 13 rfl rfl)
theorem dX2_bars_14 : decode cX2_bars 14 = .ok (.istore_n 3, 1) := dk_62 (dk_at dksX2_bars_0 14 rfl rfl)
theorem dX2_bars_15 : decode cX2_bars 15 = .ok (.iload_n 3, 1) := dk_29 (dk_at dksX2_bars_0 15 rfl rfl)
theorem dX2_bars_16 : decode cX2_bars 16 = .ok (.iconst (-1), 1) := dk_2 (dk_at dksX2_bars_0 16 rfl rfl)
theorem dX2_bars_17 : decode cX2_bars 17 = .ok (.if_icmp .eq 7, 3) := dk_159 0 7 (dk_at dksX2_bars_0 17 rfl rfl)
theorem dX2_bars_20 : decode cX2_bars 20 = .ok (.iconst 1, 1) := dk_4 (dk_at dksX2_bars_0 20 rfl rfl)
theorem dX2_bars_21 : decode cX2_bars 21 = .ok (.goto 4, 3) := dk_167 0 4 (dk_at dksX2_bars_0 21 rfl rfl)
theorem dX2_bars_24 : decode cX2_bars 24 = .ok (.iconst 0, 1) := dk_3 (dk_at dksX2_bars_1 0 rfl rfl)
theorem dX2_bars_25 : decode cX2_bars 25 = .ok (.iconst 4, 1) := dk_7 (dk_at dksX2_bars_1 1 rfl rfl)
theorem dX2_bars_26 : decode cX2_bars 26 = .ok (.iload_n 1, 1) := dk_27 (dk_at dksX2_bars_1 2 rfl rfl)
theorem dX2_bars_27 : decode cX2_bars 27 = .ok (.invokestatic 85, 3) := dk_184 0 85 (dk_at dksX2_bars_1 3 rfl rfl)
theorem dX2_bars_30 : decode cX2_bars 30 = .ok (.aload_n 0, 1) := dk_42 (dk_at dksX2_bars_1 6 rfl rfl)
theorem dX2_bars_31 : decode cX2_bars 31 = .ok (.getfield 11, 3) := dk_180 0 11 (dk_at dksX2_bars_1 7 rfl rfl)
theorem dX2_bars_34 : decode cX2_bars 34 = .ok (.iload_n 1, 1) := dk_27 (dk_at dksX2_bars_1 10 rfl rfl)
theorem dX2_bars_35 : decode cX2_bars 35 = .ok (.aaload, 1) := dk_50 (dk_at dksX2_bars_1 11 rfl rfl)
theorem dX2_bars_36 : decode cX2_bars 36 = .ok (.iload_n 2, 1) := dk_28 (dk_at dksX2_bars_1 12 rfl rfl)
theorem dX2_bars_37 : decode cX2_bars 37 = .ok (.iconst (-1), 1) := dk_2 (dk_at dksX2_bars_1 13 rfl rfl)
theorem dX2_bars_38 : decode cX2_bars 38 = .ok (.iastore, 1) := dk_79 (dk_at dksX2_bars_1 14 rfl rfl)
theorem dX2_bars_39 : decode cX2_bars 39 = .ok (.aload_n 0, 1) := dk_42 (dk_at dksX2_bars_1 15 rfl rfl)
theorem dX2_bars_40 : decode cX2_bars 40 = .ok (.getfield 26, 3) := dk_180 0 26 (dk_at dksX2_bars_1 16 rfl rfl)
theorem dX2_bars_43 : decode cX2_bars 43 = .ok (.iload_n 1, 1) := dk_27 (dk_at dksX2_bars_1 19 rfl rfl)
theorem dX2_bars_44 : decode cX2_bars 44 = .ok (.aload_n 0, 1) := dk_42 (dk_at dksX2_bars_1 20 rfl rfl)
theorem dX2_bars_45 : decode cX2_bars 45 = .ok (.getfield 26, 3) := dk_180 0 26 (dk_at dksX2_bars_1 21 rfl rfl)
theorem dX2_bars_48 : decode cX2_bars 48 = .ok (.iload_n 1, 1) := dk_27 (dk_at dksX2_bars_2 0 rfl rfl)
theorem dX2_bars_49 : decode cX2_bars 49 = .ok (.iaload, 1) := dk_46 (dk_at dksX2_bars_2 1 rfl rfl)
theorem dX2_bars_50 : decode cX2_bars 50 = .ok (.iload_n 2, 1) := dk_28 (dk_at dksX2_bars_2 2 rfl rfl)
theorem dX2_bars_51 : decode cX2_bars 51 = .ok (.if_icmp .ne 7, 3) := dk_160 0 7 (dk_at dksX2_bars_2 3 rfl rfl)
theorem dX2_bars_54 : decode cX2_bars 54 = .ok (.iconst (-1), 1) := dk_2 (dk_at dksX2_bars_2 6 rfl rfl)
theorem dX2_bars_55 : decode cX2_bars 55 = .ok (.goto 9, 3) := dk_167 0 9 (dk_at dksX2_bars_2 7 rfl rfl)
theorem dX2_bars_58 : decode cX2_bars 58 = .ok (.aload_n 0, 1) := dk_42 (dk_at dksX2_bars_2 10 rfl rfl)
theorem dX2_bars_59 : decode cX2_bars 59 = .ok (.getfield 26, 3) := dk_180 0 26 (dk_at dksX2_bars_2 11 rfl rfl)
theorem dX2_bars_62 : decode cX2_bars 62 = .ok (.iload_n 1, 1) := dk_27 (dk_at dksX2_bars_2 14 rfl rfl)
theorem dX2_bars_63 : decode cX2_bars 63 = .ok (.iaload, 1) := dk_46 (dk_at dksX2_bars_2 15 rfl rfl)
theorem dX2_bars_64 : decode cX2_bars 64 = .ok (.iastore, 1) := dk_79 (dk_at dksX2_bars_2 16 rfl rfl)
theorem dX2_bars_65 : decode cX2_bars 65 = .ok (.iload_n 3, 1) := dk_29 (dk_at dksX2_bars_2 17 rfl rfl)
theorem dX2_bars_66 : decode cX2_bars 66 = .ok (.ireturn, 1) := dk_172 (dk_at dksX2_bars_2 18 rfl rfl)
abbrev cX2_checkBoth : ByteArray := prog_19_method_23_code
def yX2_checkBoth : MethodName := ⟨RX2, "checkBoth", "(II)V"⟩
def dkwX2_checkBoth_0 : List UInt8 := [42, 27, 182, 0, 96, 28, 3, 42, 180, 0, 39, 4, 100, 184, 0, 92, 5, 28, 184, 0, 85, 177]
abbrev dktX2_checkBoth_0 : List UInt8 := dkwX2_checkBoth_0 ++ []
theorem dksX2_checkBoth_0 : cX2_checkBoth.data.toList.drop 0 = dktX2_checkBoth_0 := by decide +kernel
theorem dX2_checkBoth_0 : decode cX2_checkBoth 0 = .ok (.aload_n 0, 1) := dk_42 (dk_at dksX2_checkBoth_0 0 rfl rfl)
theorem dX2_checkBoth_1 : decode cX2_checkBoth 1 = .ok (.iload_n 1, 1) := dk_27 (dk_at dksX2_checkBoth_0 1 rfl rfl)
theorem dX2_checkBoth_2 : decode cX2_checkBoth 2 = .ok (.invokevirtual 96, 3) := dk_182 0 96 (dk_at dksX2_checkBoth_0 2 rfl rfl)
theorem dX2_checkBoth_5 : decode cX2_checkBoth 5 = .ok (.iload_n 2, 1) := dk_28 (dk_at dksX2_checkBoth_0 5 rfl rfl)
theorem dX2_checkBoth_6 : decode cX2_checkBoth 6 = .ok (.iconst 0, 1) := dk_3 (dk_at dksX2_checkBoth_0 6 rfl rfl)
theorem dX2_checkBoth_7 : decode cX2_checkBoth 7 = .ok (.aload_n 0, 1) := dk_42 (dk_at dksX2_checkBoth_0 7 rfl rfl)
theorem dX2_checkBoth_8 : decode cX2_checkBoth 8 = .ok (.getfield 39, 3) := dk_180 0 39 (dk_at dksX2_checkBoth_0 8 rfl rfl)
theorem dX2_checkBoth_11 : decode cX2_checkBoth 11 = .ok (.iconst 1, 1) := dk_4 (dk_at dksX2_checkBoth_0 11 rfl rfl)
theorem dX2_checkBoth_12 : decode cX2_checkBoth 12 = .ok (.isub, 1) := dk_100 (dk_at dksX2_checkBoth_0 12 rfl rfl)
theorem dX2_checkBoth_13 : decode cX2_checkBoth 13 = .ok (.invokestatic 92, 3) := dk_184 0 92 (dk_at dksX2_checkBoth_0 13 rfl rfl)
theorem dX2_checkBoth_16 : decode cX2_checkBoth 16 = .ok (.iconst 2, 1) := dk_5 (dk_at dksX2_checkBoth_0 16 rfl rfl)
theorem dX2_checkBoth_17 : decode cX2_checkBoth 17 = .ok (.iload_n 2, 1) := dk_28 (dk_at dksX2_checkBoth_0 17 rfl rfl)
theorem dX2_checkBoth_18 : decode cX2_checkBoth 18 = .ok (.invokestatic 85, 3) := dk_184 0 85 (dk_at dksX2_checkBoth_0 18 rfl rfl)
theorem dX2_checkBoth_21 : decode cX2_checkBoth 21 = .ok (.return_, 1) := dk_177 (dk_at dksX2_checkBoth_0 21 rfl rfl)
abbrev cX2_checkApprentice : ByteArray := prog_19_method_22_code
def yX2_checkApprentice : MethodName := ⟨RX2, "checkApprentice", "(I)V"⟩
def dkwX2_checkApprentice_0 : List UInt8 := [27, 3, 42, 180, 0, 35, 4, 100, 184, 0, 92, 5, 27, 184, 0, 85, 177]
abbrev dktX2_checkApprentice_0 : List UInt8 := dkwX2_checkApprentice_0 ++ []
theorem dksX2_checkApprentice_0 : cX2_checkApprentice.data.toList.drop 0 = dktX2_checkApprentice_0 := by decide +kernel
theorem dX2_checkApprentice_0 : decode cX2_checkApprentice 0 = .ok (.iload_n 1, 1) := dk_27 (dk_at dksX2_checkApprentice_0 0 rfl rfl)
theorem dX2_checkApprentice_1 : decode cX2_checkApprentice 1 = .ok (.iconst 0, 1) := dk_3 (dk_at dksX2_checkApprentice_0 1 rfl rfl)
theorem dX2_checkApprentice_2 : decode cX2_checkApprentice 2 = .ok (.aload_n 0, 1) := dk_42 (dk_at dksX2_checkApprentice_0 2 rfl rfl)
theorem dX2_checkApprentice_3 : decode cX2_checkApprentice 3 = .ok (.getfield 35, 3) := dk_180 0 35 (dk_at dksX2_checkApprentice_0 3 rfl rfl)
theorem dX2_checkApprentice_6 : decode cX2_checkApprentice 6 = .ok (.iconst 1, 1) := dk_4 (dk_at dksX2_checkApprentice_0 6 rfl rfl)
theorem dX2_checkApprentice_7 : decode cX2_checkApprentice 7 = .ok (.isub, 1) := dk_100 (dk_at dksX2_checkApprentice_0 7 rfl rfl)
theorem dX2_checkApprentice_8 : decode cX2_checkApprentice 8 = .ok (.invokestatic 92, 3) := dk_184 0 92 (dk_at dksX2_checkApprentice_0 8 rfl rfl)
theorem dX2_checkApprentice_11 : decode cX2_checkApprentice 11 = .ok (.iconst 2, 1) := dk_5 (dk_at dksX2_checkApprentice_0 11 rfl rfl)
theorem dX2_checkApprentice_12 : decode cX2_checkApprentice 12 = .ok (.iload_n 1, 1) := dk_27 (dk_at dksX2_checkApprentice_0 12 rfl rfl)
theorem dX2_checkApprentice_13 : decode cX2_checkApprentice 13 = .ok (.invokestatic 85, 3) := dk_184 0 85 (dk_at dksX2_checkApprentice_0 13 rfl rfl)
theorem dX2_checkApprentice_16 : decode cX2_checkApprentice 16 = .ok (.return_, 1) := dk_177 (dk_at dksX2_checkApprentice_0 16 rfl rfl)
abbrev cX2_tellsCost : ByteArray := prog_19_method_24_code
def yX2_tellsCost : MethodName := ⟨RX2, "tellsCost", "(III)I"⟩
def dkwX2_tellsCost_2 : List UInt8 := [27, 50, 28, 29, 79, 21, 4, 172]
abbrev dktX2_tellsCost_2 : List UInt8 := dkwX2_tellsCost_2 ++ []
def dkwX2_tellsCost_1 : List UInt8 := [28, 46, 54, 4, 29, 21, 4, 159, 0, 7, 4, 167, 0, 4, 3, 7, 29, 184, 0, 85, 42, 180, 0, 11]
abbrev dktX2_tellsCost_1 : List UInt8 := dkwX2_tellsCost_1 ++ dktX2_tellsCost_2
def dkwX2_tellsCost_0 : List UInt8 := [42, 27, 28, 182, 0, 100, 29, 3, 16, 60, 184, 0, 92, 6, 29, 184, 0, 85, 42, 180, 0, 11, 27, 50]
abbrev dktX2_tellsCost_0 : List UInt8 := dkwX2_tellsCost_0 ++ dktX2_tellsCost_1
theorem dksX2_tellsCost_0 : cX2_tellsCost.data.toList.drop 0 = dktX2_tellsCost_0 := by decide +kernel
theorem dksX2_tellsCost_1 : cX2_tellsCost.data.toList.drop 24 = dktX2_tellsCost_1 := dk_seg dksX2_tellsCost_0 24 rfl rfl
theorem dksX2_tellsCost_2 : cX2_tellsCost.data.toList.drop 48 = dktX2_tellsCost_2 := dk_seg dksX2_tellsCost_1 24 rfl rfl
theorem dX2_tellsCost_0 : decode cX2_tellsCost 0 = .ok (.aload_n 0, 1) := dk_42 (dk_at dksX2_tellsCost_0 0 rfl rfl)
theorem dX2_tellsCost_1 : decode cX2_tellsCost 1 = .ok (.iload_n 1, 1) := dk_27 (dk_at dksX2_tellsCost_0 1 rfl rfl)
theorem dX2_tellsCost_2 : decode cX2_tellsCost 2 = .ok (.iload_n 2, 1) := dk_28 (dk_at dksX2_tellsCost_0 2 rfl rfl)
theorem dX2_tellsCost_3 : decode cX2_tellsCost 3 = .ok (.invokevirtual 100, 3) := dk_182 0 100 (dk_at dksX2_tellsCost_0 3 rfl rfl)
theorem dX2_tellsCost_6 : decode cX2_tellsCost 6 = .ok (.iload_n 3, 1) := dk_29 (dk_at dksX2_tellsCost_0 6 rfl rfl)
theorem dX2_tellsCost_7 : decode cX2_tellsCost 7 = .ok (.iconst 0, 1) := dk_3 (dk_at dksX2_tellsCost_0 7 rfl rfl)
theorem dX2_tellsCost_8 : decode cX2_tellsCost 8 = .ok (.bipush 60, 2) := dk_16 60 (dk_at dksX2_tellsCost_0 8 rfl rfl)
theorem dX2_tellsCost_10 : decode cX2_tellsCost 10 = .ok (.invokestatic 92, 3) := dk_184 0 92 (dk_at dksX2_tellsCost_0 10 rfl rfl)
theorem dX2_tellsCost_13 : decode cX2_tellsCost 13 = .ok (.iconst 3, 1) := dk_6 (dk_at dksX2_tellsCost_0 13 rfl rfl)
theorem dX2_tellsCost_14 : decode cX2_tellsCost 14 = .ok (.iload_n 3, 1) := dk_29 (dk_at dksX2_tellsCost_0 14 rfl rfl)
theorem dX2_tellsCost_15 : decode cX2_tellsCost 15 = .ok (.invokestatic 85, 3) := dk_184 0 85 (dk_at dksX2_tellsCost_0 15 rfl rfl)
theorem dX2_tellsCost_18 : decode cX2_tellsCost 18 = .ok (.aload_n 0, 1) := dk_42 (dk_at dksX2_tellsCost_0 18 rfl rfl)
theorem dX2_tellsCost_19 : decode cX2_tellsCost 19 = .ok (.getfield 11, 3) := dk_180 0 11 (dk_at dksX2_tellsCost_0 19 rfl rfl)
theorem dX2_tellsCost_22 : decode cX2_tellsCost 22 = .ok (.iload_n 1, 1) := dk_27 (dk_at dksX2_tellsCost_0 22 rfl rfl)
theorem dX2_tellsCost_23 : decode cX2_tellsCost 23 = .ok (.aaload, 1) := dk_50 (dk_at dksX2_tellsCost_0 23 rfl rfl)
theorem dX2_tellsCost_24 : decode cX2_tellsCost 24 = .ok (.iload_n 2, 1) := dk_28 (dk_at dksX2_tellsCost_1 0 rfl rfl)
theorem dX2_tellsCost_25 : decode cX2_tellsCost 25 = .ok (.iaload, 1) := dk_46 (dk_at dksX2_tellsCost_1 1 rfl rfl)
theorem dX2_tellsCost_26 : decode cX2_tellsCost 26 = .ok (.istore 4, 2) := dk_54 4 (dk_at dksX2_tellsCost_1 2 rfl rfl)
theorem dX2_tellsCost_28 : decode cX2_tellsCost 28 = .ok (.iload_n 3, 1) := dk_29 (dk_at dksX2_tellsCost_1 4 rfl rfl)
theorem dX2_tellsCost_29 : decode cX2_tellsCost 29 = .ok (.iload 4, 2) := dk_21 4 (dk_at dksX2_tellsCost_1 5 rfl rfl)
theorem dX2_tellsCost_31 : decode cX2_tellsCost 31 = .ok (.if_icmp .eq 7, 3) := dk_159 0 7 (dk_at dksX2_tellsCost_1 7 rfl rfl)
theorem dX2_tellsCost_34 : decode cX2_tellsCost 34 = .ok (.iconst 1, 1) := dk_4 (dk_at dksX2_tellsCost_1 10 rfl rfl)
theorem dX2_tellsCost_35 : decode cX2_tellsCost 35 = .ok (.goto 4, 3) := dk_167 0 4 (dk_at dksX2_tellsCost_1 11 rfl rfl)
theorem dX2_tellsCost_38 : decode cX2_tellsCost 38 = .ok (.iconst 0, 1) := dk_3 (dk_at dksX2_tellsCost_1 14 rfl rfl)
theorem dX2_tellsCost_39 : decode cX2_tellsCost 39 = .ok (.iconst 4, 1) := dk_7 (dk_at dksX2_tellsCost_1 15 rfl rfl)
theorem dX2_tellsCost_40 : decode cX2_tellsCost 40 = .ok (.iload_n 3, 1) := dk_29 (dk_at dksX2_tellsCost_1 16 rfl rfl)
theorem dX2_tellsCost_41 : decode cX2_tellsCost 41 = .ok (.invokestatic 85, 3) := dk_184 0 85 (dk_at dksX2_tellsCost_1 17 rfl rfl)
theorem dX2_tellsCost_44 : decode cX2_tellsCost 44 = .ok (.aload_n 0, 1) := dk_42 (dk_at dksX2_tellsCost_1 20 rfl rfl)
theorem dX2_tellsCost_45 : decode cX2_tellsCost 45 = .ok (.getfield 11, 3) := dk_180 0 11 (dk_at dksX2_tellsCost_1 21 rfl rfl)
theorem dX2_tellsCost_48 : decode cX2_tellsCost 48 = .ok (.iload_n 1, 1) := dk_27 (dk_at dksX2_tellsCost_2 0 rfl rfl)
theorem dX2_tellsCost_49 : decode cX2_tellsCost 49 = .ok (.aaload, 1) := dk_50 (dk_at dksX2_tellsCost_2 1 rfl rfl)
theorem dX2_tellsCost_50 : decode cX2_tellsCost 50 = .ok (.iload_n 2, 1) := dk_28 (dk_at dksX2_tellsCost_2 2 rfl rfl)
theorem dX2_tellsCost_51 : decode cX2_tellsCost 51 = .ok (.iload_n 3, 1) := dk_29 (dk_at dksX2_tellsCost_2 3 rfl rfl)
theorem dX2_tellsCost_52 : decode cX2_tellsCost 52 = .ok (.iastore, 1) := dk_79 (dk_at dksX2_tellsCost_2 4 rfl rfl)
theorem dX2_tellsCost_53 : decode cX2_tellsCost 53 = .ok (.iload 4, 2) := dk_21 4 (dk_at dksX2_tellsCost_2 5 rfl rfl)
theorem dX2_tellsCost_55 : decode cX2_tellsCost 55 = .ok (.ireturn, 1) := dk_172 (dk_at dksX2_tellsCost_2 7 rfl rfl)
abbrev cX2_leaves : ByteArray := prog_19_method_30_code
def yX2_leaves : MethodName := ⟨RX2, "leaves", "(I)I"⟩
def dkwX2_leaves_1 : List UInt8 := [27, 184, 0, 85, 42, 180, 0, 26, 27, 2, 79, 28, 172]
abbrev dktX2_leaves_1 : List UInt8 := dkwX2_leaves_1 ++ []
def dkwX2_leaves_0 : List UInt8 := [42, 27, 182, 0, 96, 42, 180, 0, 26, 27, 46, 61, 28, 2, 159, 0, 7, 4, 167, 0, 4, 3, 16, 9]
abbrev dktX2_leaves_0 : List UInt8 := dkwX2_leaves_0 ++ dktX2_leaves_1
theorem dksX2_leaves_0 : cX2_leaves.data.toList.drop 0 = dktX2_leaves_0 := by decide +kernel
theorem dksX2_leaves_1 : cX2_leaves.data.toList.drop 24 = dktX2_leaves_1 := dk_seg dksX2_leaves_0 24 rfl rfl
theorem dX2_leaves_0 : decode cX2_leaves 0 = .ok (.aload_n 0, 1) := dk_42 (dk_at dksX2_leaves_0 0 rfl rfl)
theorem dX2_leaves_1 : decode cX2_leaves 1 = .ok (.iload_n 1, 1) := dk_27 (dk_at dksX2_leaves_0 1 rfl rfl)
theorem dX2_leaves_2 : decode cX2_leaves 2 = .ok (.invokevirtual 96, 3) := dk_182 0 96 (dk_at dksX2_leaves_0 2 rfl rfl)
theorem dX2_leaves_5 : decode cX2_leaves 5 = .ok (.aload_n 0, 1) := dk_42 (dk_at dksX2_leaves_0 5 rfl rfl)
theorem dX2_leaves_6 : decode cX2_leaves 6 = .ok (.getfield 26, 3) := dk_180 0 26 (dk_at dksX2_leaves_0 6 rfl rfl)
theorem dX2_leaves_9 : decode cX2_leaves 9 = .ok (.iload_n 1, 1) := dk_27 (dk_at dksX2_leaves_0 9 rfl rfl)
theorem dX2_leaves_10 : decode cX2_leaves 10 = .ok (.iaload, 1) := dk_46 (dk_at dksX2_leaves_0 10 rfl rfl)
theorem dX2_leaves_11 : decode cX2_leaves 11 = .ok (.istore_n 2, 1) := dk_61 (dk_at dksX2_leaves_0 11 rfl rfl)
theorem dX2_leaves_12 : decode cX2_leaves 12 = .ok (.iload_n 2, 1) := dk_28 (dk_at dksX2_leaves_0 12 rfl rfl)
theorem dX2_leaves_13 : decode cX2_leaves 13 = .ok (.iconst (-1), 1) := dk_2 (dk_at dksX2_leaves_0 13 rfl rfl)
theorem dX2_leaves_14 : decode cX2_leaves 14 = .ok (.if_icmp .eq 7, 3) := dk_159 0 7 (dk_at dksX2_leaves_0 14 rfl rfl)
theorem dX2_leaves_17 : decode cX2_leaves 17 = .ok (.iconst 1, 1) := dk_4 (dk_at dksX2_leaves_0 17 rfl rfl)
theorem dX2_leaves_18 : decode cX2_leaves 18 = .ok (.goto 4, 3) := dk_167 0 4 (dk_at dksX2_leaves_0 18 rfl rfl)
theorem dX2_leaves_21 : decode cX2_leaves 21 = .ok (.iconst 0, 1) := dk_3 (dk_at dksX2_leaves_0 21 rfl rfl)
theorem dX2_leaves_22 : decode cX2_leaves 22 = .ok (.bipush 9, 2) := dk_16 9 (dk_at dksX2_leaves_0 22 rfl rfl)
theorem dX2_leaves_24 : decode cX2_leaves 24 = .ok (.iload_n 1, 1) := dk_27 (dk_at dksX2_leaves_1 0 rfl rfl)
theorem dX2_leaves_25 : decode cX2_leaves 25 = .ok (.invokestatic 85, 3) := dk_184 0 85 (dk_at dksX2_leaves_1 1 rfl rfl)
theorem dX2_leaves_28 : decode cX2_leaves 28 = .ok (.aload_n 0, 1) := dk_42 (dk_at dksX2_leaves_1 4 rfl rfl)
theorem dX2_leaves_29 : decode cX2_leaves 29 = .ok (.getfield 26, 3) := dk_180 0 26 (dk_at dksX2_leaves_1 5 rfl rfl)
theorem dX2_leaves_32 : decode cX2_leaves 32 = .ok (.iload_n 1, 1) := dk_27 (dk_at dksX2_leaves_1 8 rfl rfl)
theorem dX2_leaves_33 : decode cX2_leaves 33 = .ok (.iconst (-1), 1) := dk_2 (dk_at dksX2_leaves_1 9 rfl rfl)
theorem dX2_leaves_34 : decode cX2_leaves 34 = .ok (.iastore, 1) := dk_79 (dk_at dksX2_leaves_1 10 rfl rfl)
theorem dX2_leaves_35 : decode cX2_leaves 35 = .ok (.iload_n 2, 1) := dk_28 (dk_at dksX2_leaves_1 11 rfl rfl)
theorem dX2_leaves_36 : decode cX2_leaves 36 = .ok (.ireturn, 1) := dk_172 (dk_at dksX2_leaves_1 12 rfl rfl)
abbrev cX2_bidsOnce : ByteArray := prog_19_method_27_code
def yX2_bidsOnce : MethodName := ⟨RX2, "bidsOnce", "()I"⟩
def dkwX2_bidsOnce_3 : List UInt8 := [42, 180, 0, 19, 28, 46, 184, 0, 85, 42, 182, 0, 114, 172]
abbrev dktX2_bidsOnce_3 : List UInt8 := dkwX2_bidsOnce_3 ++ []
def dkwX2_bidsOnce_2 : List UInt8 := [180, 0, 19, 28, 46, 42, 27, 182, 0, 108, 96, 17, 39, 15, 163, 0, 7, 4, 167, 0, 4, 3, 16, 7]
abbrev dktX2_bidsOnce_2 : List UInt8 := dkwX2_bidsOnce_2 ++ dktX2_bidsOnce_3
def dkwX2_bidsOnce_1 : List UInt8 := [27, 182, 0, 81, 61, 28, 2, 159, 0, 7, 4, 167, 0, 4, 3, 16, 6, 27, 184, 0, 85, 42]
abbrev dktX2_bidsOnce_1 : List UInt8 := dkwX2_bidsOnce_1 ++ dktX2_bidsOnce_2
def dkwX2_bidsOnce_0 : List UInt8 := [42, 182, 0, 104, 60, 27, 2, 159, 0, 7, 4, 167, 0, 4, 3, 8, 42, 180, 0, 35, 184, 0, 85, 42]
abbrev dktX2_bidsOnce_0 : List UInt8 := dkwX2_bidsOnce_0 ++ dktX2_bidsOnce_1
theorem dksX2_bidsOnce_0 : cX2_bidsOnce.data.toList.drop 0 = dktX2_bidsOnce_0 := by decide +kernel
theorem dksX2_bidsOnce_1 : cX2_bidsOnce.data.toList.drop 24 = dktX2_bidsOnce_1 := dk_seg dksX2_bidsOnce_0 24 rfl rfl
theorem dksX2_bidsOnce_2 : cX2_bidsOnce.data.toList.drop 46 = dktX2_bidsOnce_2 := dk_seg dksX2_bidsOnce_1 22 rfl rfl
theorem dksX2_bidsOnce_3 : cX2_bidsOnce.data.toList.drop 70 = dktX2_bidsOnce_3 := dk_seg dksX2_bidsOnce_2 24 rfl rfl
theorem dX2_bidsOnce_0 : decode cX2_bidsOnce 0 = .ok (.aload_n 0, 1) := dk_42 (dk_at dksX2_bidsOnce_0 0 rfl rfl)
theorem dX2_bidsOnce_1 : decode cX2_bidsOnce 1 = .ok (.invokevirtual 104, 3) := dk_182 0 104 (dk_at dksX2_bidsOnce_0 1 rfl rfl)
theorem dX2_bidsOnce_4 : decode cX2_bidsOnce 4 = .ok (.istore_n 1, 1) := dk_60 (dk_at dksX2_bidsOnce_0 4 rfl rfl)
theorem dX2_bidsOnce_5 : decode cX2_bidsOnce 5 = .ok (.iload_n 1, 1) := dk_27 (dk_at dksX2_bidsOnce_0 5 rfl rfl)
theorem dX2_bidsOnce_6 : decode cX2_bidsOnce 6 = .ok (.iconst (-1), 1) := dk_2 (dk_at dksX2_bidsOnce_0 6 rfl rfl)
theorem dX2_bidsOnce_7 : decode cX2_bidsOnce 7 = .ok (.if_icmp .eq 7, 3) := dk_159 0 7 (dk_at dksX2_bidsOnce_0 7 rfl rfl)
theorem dX2_bidsOnce_10 : decode cX2_bidsOnce 10 = .ok (.iconst 1, 1) := dk_4 (dk_at dksX2_bidsOnce_0 10 rfl rfl)
theorem dX2_bidsOnce_11 : decode cX2_bidsOnce 11 = .ok (.goto 4, 3) := dk_167 0 4 (dk_at dksX2_bidsOnce_0 11 rfl rfl)
theorem dX2_bidsOnce_14 : decode cX2_bidsOnce 14 = .ok (.iconst 0, 1) := dk_3 (dk_at dksX2_bidsOnce_0 14 rfl rfl)
theorem dX2_bidsOnce_15 : decode cX2_bidsOnce 15 = .ok (.iconst 5, 1) := dk_8 (dk_at dksX2_bidsOnce_0 15 rfl rfl)
theorem dX2_bidsOnce_16 : decode cX2_bidsOnce 16 = .ok (.aload_n 0, 1) := dk_42 (dk_at dksX2_bidsOnce_0 16 rfl rfl)
theorem dX2_bidsOnce_17 : decode cX2_bidsOnce 17 = .ok (.getfield 35, 3) := dk_180 0 35 (dk_at dksX2_bidsOnce_0 17 rfl rfl)
theorem dX2_bidsOnce_20 : decode cX2_bidsOnce 20 = .ok (.invokestatic 85, 3) := dk_184 0 85 (dk_at dksX2_bidsOnce_0 20 rfl rfl)
theorem dX2_bidsOnce_23 : decode cX2_bidsOnce 23 = .ok (.aload_n 0, 1) := dk_42 (dk_at dksX2_bidsOnce_0 23 rfl rfl)
theorem dX2_bidsOnce_24 : decode cX2_bidsOnce 24 = .ok (.iload_n 1, 1) := dk_27 (dk_at dksX2_bidsOnce_1 0 rfl rfl)
theorem dX2_bidsOnce_25 : decode cX2_bidsOnce 25 = .ok (.invokevirtual 81, 3) := dk_182 0 81 (dk_at dksX2_bidsOnce_1 1 rfl rfl)
theorem dX2_bidsOnce_28 : decode cX2_bidsOnce 28 = .ok (.istore_n 2, 1) := dk_61 (dk_at dksX2_bidsOnce_1 4 rfl rfl)
theorem dX2_bidsOnce_29 : decode cX2_bidsOnce 29 = .ok (.iload_n 2, 1) := dk_28 (dk_at dksX2_bidsOnce_1 5 rfl rfl)
theorem dX2_bidsOnce_30 : decode cX2_bidsOnce 30 = .ok (.iconst (-1), 1) := dk_2 (dk_at dksX2_bidsOnce_1 6 rfl rfl)
theorem dX2_bidsOnce_31 : decode cX2_bidsOnce 31 = .ok (.if_icmp .eq 7, 3) := dk_159 0 7 (dk_at dksX2_bidsOnce_1 7 rfl rfl)
theorem dX2_bidsOnce_34 : decode cX2_bidsOnce 34 = .ok (.iconst 1, 1) := dk_4 (dk_at dksX2_bidsOnce_1 10 rfl rfl)
theorem dX2_bidsOnce_35 : decode cX2_bidsOnce 35 = .ok (.goto 4, 3) := dk_167 0 4 (dk_at dksX2_bidsOnce_1 11 rfl rfl)
theorem dX2_bidsOnce_38 : decode cX2_bidsOnce 38 = .ok (.iconst 0, 1) := dk_3 (dk_at dksX2_bidsOnce_1 14 rfl rfl)
theorem dX2_bidsOnce_39 : decode cX2_bidsOnce 39 = .ok (.bipush 6, 2) := dk_16 6 (dk_at dksX2_bidsOnce_1 15 rfl rfl)
theorem dX2_bidsOnce_41 : decode cX2_bidsOnce 41 = .ok (.iload_n 1, 1) := dk_27 (dk_at dksX2_bidsOnce_1 17 rfl rfl)
theorem dX2_bidsOnce_42 : decode cX2_bidsOnce 42 = .ok (.invokestatic 85, 3) := dk_184 0 85 (dk_at dksX2_bidsOnce_1 18 rfl rfl)
theorem dX2_bidsOnce_45 : decode cX2_bidsOnce 45 = .ok (.aload_n 0, 1) := dk_42 (dk_at dksX2_bidsOnce_1 21 rfl rfl)
theorem dX2_bidsOnce_46 : decode cX2_bidsOnce 46 = .ok (.getfield 19, 3) := dk_180 0 19 (dk_at dksX2_bidsOnce_2 0 rfl rfl)
theorem dX2_bidsOnce_49 : decode cX2_bidsOnce 49 = .ok (.iload_n 2, 1) := dk_28 (dk_at dksX2_bidsOnce_2 3 rfl rfl)
theorem dX2_bidsOnce_50 : decode cX2_bidsOnce 50 = .ok (.iaload, 1) := dk_46 (dk_at dksX2_bidsOnce_2 4 rfl rfl)
theorem dX2_bidsOnce_51 : decode cX2_bidsOnce 51 = .ok (.aload_n 0, 1) := dk_42 (dk_at dksX2_bidsOnce_2 5 rfl rfl)
theorem dX2_bidsOnce_52 : decode cX2_bidsOnce 52 = .ok (.iload_n 1, 1) := dk_27 (dk_at dksX2_bidsOnce_2 6 rfl rfl)
theorem dX2_bidsOnce_53 : decode cX2_bidsOnce 53 = .ok (.invokevirtual 108, 3) := dk_182 0 108 (dk_at dksX2_bidsOnce_2 7 rfl rfl)
theorem dX2_bidsOnce_56 : decode cX2_bidsOnce 56 = .ok (.iadd, 1) := dk_96 (dk_at dksX2_bidsOnce_2 10 rfl rfl)
theorem dX2_bidsOnce_57 : decode cX2_bidsOnce 57 = .ok (.sipush 9999, 3) := dk_17 39 15 (dk_at dksX2_bidsOnce_2 11 rfl rfl)
theorem dX2_bidsOnce_60 : decode cX2_bidsOnce 60 = .ok (.if_icmp .gt 7, 3) := dk_163 0 7 (dk_at dksX2_bidsOnce_2 14 rfl rfl)
theorem dX2_bidsOnce_63 : decode cX2_bidsOnce 63 = .ok (.iconst 1, 1) := dk_4 (dk_at dksX2_bidsOnce_2 17 rfl rfl)
theorem dX2_bidsOnce_64 : decode cX2_bidsOnce 64 = .ok (.goto 4, 3) := dk_167 0 4 (dk_at dksX2_bidsOnce_2 18 rfl rfl)
theorem dX2_bidsOnce_67 : decode cX2_bidsOnce 67 = .ok (.iconst 0, 1) := dk_3 (dk_at dksX2_bidsOnce_2 21 rfl rfl)
theorem dX2_bidsOnce_68 : decode cX2_bidsOnce 68 = .ok (.bipush 7, 2) := dk_16 7 (dk_at dksX2_bidsOnce_2 22 rfl rfl)
theorem dX2_bidsOnce_70 : decode cX2_bidsOnce 70 = .ok (.aload_n 0, 1) := dk_42 (dk_at dksX2_bidsOnce_3 0 rfl rfl)
theorem dX2_bidsOnce_71 : decode cX2_bidsOnce 71 = .ok (.getfield 19, 3) := dk_180 0 19 (dk_at dksX2_bidsOnce_3 1 rfl rfl)
theorem dX2_bidsOnce_74 : decode cX2_bidsOnce 74 = .ok (.iload_n 2, 1) := dk_28 (dk_at dksX2_bidsOnce_3 4 rfl rfl)
theorem dX2_bidsOnce_75 : decode cX2_bidsOnce 75 = .ok (.iaload, 1) := dk_46 (dk_at dksX2_bidsOnce_3 5 rfl rfl)
theorem dX2_bidsOnce_76 : decode cX2_bidsOnce 76 = .ok (.invokestatic 85, 3) := dk_184 0 85 (dk_at dksX2_bidsOnce_3 6 rfl rfl)
theorem dX2_bidsOnce_79 : decode cX2_bidsOnce 79 = .ok (.aload_n 0, 1) := dk_42 (dk_at dksX2_bidsOnce_3 9 rfl rfl)
theorem dX2_bidsOnce_80 : decode cX2_bidsOnce 80 = .ok (.invokevirtual 114, 3) := dk_182 0 114 (dk_at dksX2_bidsOnce_3 10 rfl rfl)
theorem dX2_bidsOnce_83 : decode cX2_bidsOnce 83 = .ok (.ireturn, 1) := dk_172 (dk_at dksX2_bidsOnce_3 13 rfl rfl)
abbrev cX2_lowestFree : ByteArray := prog_19_method_5_code
def yX2_lowestFree : MethodName := ⟨RX2, "lowestFree", "()I"⟩
def dkwX2_lowestFree_1 : List UInt8 := [132, 1, 1, 167, 255, 233, 2, 172]
abbrev dktX2_lowestFree_1 : List UInt8 := dkwX2_lowestFree_1 ++ []
def dkwX2_lowestFree_0 : List UInt8 := [3, 60, 27, 42, 180, 0, 35, 162, 0, 21, 42, 180, 0, 26, 27, 46, 2, 160, 0, 5, 27, 172]
abbrev dktX2_lowestFree_0 : List UInt8 := dkwX2_lowestFree_0 ++ dktX2_lowestFree_1
theorem dksX2_lowestFree_0 : cX2_lowestFree.data.toList.drop 0 = dktX2_lowestFree_0 := by decide +kernel
theorem dksX2_lowestFree_1 : cX2_lowestFree.data.toList.drop 22 = dktX2_lowestFree_1 := dk_seg dksX2_lowestFree_0 22 rfl rfl
theorem dX2_lowestFree_0 : decode cX2_lowestFree 0 = .ok (.iconst 0, 1) := dk_3 (dk_at dksX2_lowestFree_0 0 rfl rfl)
theorem dX2_lowestFree_1 : decode cX2_lowestFree 1 = .ok (.istore_n 1, 1) := dk_60 (dk_at dksX2_lowestFree_0 1 rfl rfl)
theorem dX2_lowestFree_2 : decode cX2_lowestFree 2 = .ok (.iload_n 1, 1) := dk_27 (dk_at dksX2_lowestFree_0 2 rfl rfl)
theorem dX2_lowestFree_3 : decode cX2_lowestFree 3 = .ok (.aload_n 0, 1) := dk_42 (dk_at dksX2_lowestFree_0 3 rfl rfl)
theorem dX2_lowestFree_4 : decode cX2_lowestFree 4 = .ok (.getfield 35, 3) := dk_180 0 35 (dk_at dksX2_lowestFree_0 4 rfl rfl)
theorem dX2_lowestFree_7 : decode cX2_lowestFree 7 = .ok (.if_icmp .ge 21, 3) := dk_162 0 21 (dk_at dksX2_lowestFree_0 7 rfl rfl)
theorem dX2_lowestFree_10 : decode cX2_lowestFree 10 = .ok (.aload_n 0, 1) := dk_42 (dk_at dksX2_lowestFree_0 10 rfl rfl)
theorem dX2_lowestFree_11 : decode cX2_lowestFree 11 = .ok (.getfield 26, 3) := dk_180 0 26 (dk_at dksX2_lowestFree_0 11 rfl rfl)
theorem dX2_lowestFree_14 : decode cX2_lowestFree 14 = .ok (.iload_n 1, 1) := dk_27 (dk_at dksX2_lowestFree_0 14 rfl rfl)
theorem dX2_lowestFree_15 : decode cX2_lowestFree 15 = .ok (.iaload, 1) := dk_46 (dk_at dksX2_lowestFree_0 15 rfl rfl)
theorem dX2_lowestFree_16 : decode cX2_lowestFree 16 = .ok (.iconst (-1), 1) := dk_2 (dk_at dksX2_lowestFree_0 16 rfl rfl)
theorem dX2_lowestFree_17 : decode cX2_lowestFree 17 = .ok (.if_icmp .ne 5, 3) := dk_160 0 5 (dk_at dksX2_lowestFree_0 17 rfl rfl)
theorem dX2_lowestFree_20 : decode cX2_lowestFree 20 = .ok (.iload_n 1, 1) := dk_27 (dk_at dksX2_lowestFree_0 20 rfl rfl)
theorem dX2_lowestFree_21 : decode cX2_lowestFree 21 = .ok (.ireturn, 1) := dk_172 (dk_at dksX2_lowestFree_0 21 rfl rfl)
theorem dX2_lowestFree_22 : decode cX2_lowestFree 22 = .ok (.iinc 1 1, 3) := dk_132 1 1 (dk_at dksX2_lowestFree_1 0 rfl rfl)
theorem dX2_lowestFree_25 : decode cX2_lowestFree 25 = .ok (.goto (-23), 3) := dk_167 255 233 (dk_at dksX2_lowestFree_1 3 rfl rfl)
theorem dX2_lowestFree_28 : decode cX2_lowestFree 28 = .ok (.iconst (-1), 1) := dk_2 (dk_at dksX2_lowestFree_1 6 rfl rfl)
theorem dX2_lowestFree_29 : decode cX2_lowestFree 29 = .ok (.ireturn, 1) := dk_172 (dk_at dksX2_lowestFree_1 7 rfl rfl)
abbrev cX2_likes : ByteArray := prog_19_method_15_code
def yX2_likes : MethodName := ⟨RX2, "likes", "(I)I"⟩
def dkwX2_likes_0 : List UInt8 := [42, 27, 2, 182, 0, 78, 172]
abbrev dktX2_likes_0 : List UInt8 := dkwX2_likes_0 ++ []
theorem dksX2_likes_0 : cX2_likes.data.toList.drop 0 = dktX2_likes_0 := by decide +kernel
theorem dX2_likes_0 : decode cX2_likes 0 = .ok (.aload_n 0, 1) := dk_42 (dk_at dksX2_likes_0 0 rfl rfl)
theorem dX2_likes_1 : decode cX2_likes 1 = .ok (.iload_n 1, 1) := dk_27 (dk_at dksX2_likes_0 1 rfl rfl)
theorem dX2_likes_2 : decode cX2_likes 2 = .ok (.iconst (-1), 1) := dk_2 (dk_at dksX2_likes_0 2 rfl rfl)
theorem dX2_likes_3 : decode cX2_likes 3 = .ok (.invokevirtual 78, 3) := dk_182 0 78 (dk_at dksX2_likes_0 3 rfl rfl)
theorem dX2_likes_6 : decode cX2_likes 6 = .ok (.ireturn, 1) := dk_172 (dk_at dksX2_likes_0 6 rfl rfl)
abbrev cX2_liked : ByteArray := prog_19_method_14_code
def yX2_liked : MethodName := ⟨RX2, "liked", "(II)I"⟩
def dkwX2_liked_3 : List UInt8 := [132, 4, 1, 167, 255, 188, 29, 172]
abbrev dktX2_liked_3 : List UInt8 := dkwX2_liked_3 ++ []
def dkwX2_liked_2 : List UInt8 := [27, 21, 4, 182, 0, 75, 42, 27, 29, 182, 0, 75, 162, 0, 8, 21, 4, 167, 0, 4, 29, 62]
abbrev dktX2_liked_2 : List UInt8 := dkwX2_liked_2 ++ dktX2_liked_3
def dkwX2_liked_1 : List UInt8 := [182, 0, 71, 153, 0, 7, 4, 167, 0, 4, 3, 54, 5, 21, 5, 153, 0, 29, 29, 2, 159, 0, 19, 42]
abbrev dktX2_liked_1 : List UInt8 := dkwX2_liked_1 ++ dktX2_liked_2
def dkwX2_liked_0 : List UInt8 := [2, 62, 3, 54, 4, 21, 4, 42, 180, 0, 39, 162, 0, 65, 21, 4, 28, 159, 0, 17, 42, 27, 21, 4]
abbrev dktX2_liked_0 : List UInt8 := dkwX2_liked_0 ++ dktX2_liked_1
theorem dksX2_liked_0 : cX2_liked.data.toList.drop 0 = dktX2_liked_0 := by decide +kernel
theorem dksX2_liked_1 : cX2_liked.data.toList.drop 24 = dktX2_liked_1 := dk_seg dksX2_liked_0 24 rfl rfl
theorem dksX2_liked_2 : cX2_liked.data.toList.drop 48 = dktX2_liked_2 := dk_seg dksX2_liked_1 24 rfl rfl
theorem dksX2_liked_3 : cX2_liked.data.toList.drop 70 = dktX2_liked_3 := dk_seg dksX2_liked_2 22 rfl rfl
theorem dX2_liked_0 : decode cX2_liked 0 = .ok (.iconst (-1), 1) := dk_2 (dk_at dksX2_liked_0 0 rfl rfl)
theorem dX2_liked_1 : decode cX2_liked 1 = .ok (.istore_n 3, 1) := dk_62 (dk_at dksX2_liked_0 1 rfl rfl)
theorem dX2_liked_2 : decode cX2_liked 2 = .ok (.iconst 0, 1) := dk_3 (dk_at dksX2_liked_0 2 rfl rfl)
theorem dX2_liked_3 : decode cX2_liked 3 = .ok (.istore 4, 2) := dk_54 4 (dk_at dksX2_liked_0 3 rfl rfl)
theorem dX2_liked_5 : decode cX2_liked 5 = .ok (.iload 4, 2) := dk_21 4 (dk_at dksX2_liked_0 5 rfl rfl)
theorem dX2_liked_7 : decode cX2_liked 7 = .ok (.aload_n 0, 1) := dk_42 (dk_at dksX2_liked_0 7 rfl rfl)
theorem dX2_liked_8 : decode cX2_liked 8 = .ok (.getfield 39, 3) := dk_180 0 39 (dk_at dksX2_liked_0 8 rfl rfl)
theorem dX2_liked_11 : decode cX2_liked 11 = .ok (.if_icmp .ge 65, 3) := dk_162 0 65 (dk_at dksX2_liked_0 11 rfl rfl)
theorem dX2_liked_14 : decode cX2_liked 14 = .ok (.iload 4, 2) := dk_21 4 (dk_at dksX2_liked_0 14 rfl rfl)
theorem dX2_liked_16 : decode cX2_liked 16 = .ok (.iload_n 2, 1) := dk_28 (dk_at dksX2_liked_0 16 rfl rfl)
theorem dX2_liked_17 : decode cX2_liked 17 = .ok (.if_icmp .eq 17, 3) := dk_159 0 17 (dk_at dksX2_liked_0 17 rfl rfl)
theorem dX2_liked_20 : decode cX2_liked 20 = .ok (.aload_n 0, 1) := dk_42 (dk_at dksX2_liked_0 20 rfl rfl)
theorem dX2_liked_21 : decode cX2_liked 21 = .ok (.iload_n 1, 1) := dk_27 (dk_at dksX2_liked_0 21 rfl rfl)
theorem dX2_liked_22 : decode cX2_liked 22 = .ok (.iload 4, 2) := dk_21 4 (dk_at dksX2_liked_0 22 rfl rfl)
theorem dX2_liked_24 : decode cX2_liked 24 = .ok (.invokevirtual 71, 3) := dk_182 0 71 (dk_at dksX2_liked_1 0 rfl rfl)
theorem dX2_liked_27 : decode cX2_liked 27 = .ok (.ifCond .eq 7, 3) := dk_153 0 7 (dk_at dksX2_liked_1 3 rfl rfl)
theorem dX2_liked_30 : decode cX2_liked 30 = .ok (.iconst 1, 1) := dk_4 (dk_at dksX2_liked_1 6 rfl rfl)
theorem dX2_liked_31 : decode cX2_liked 31 = .ok (.goto 4, 3) := dk_167 0 4 (dk_at dksX2_liked_1 7 rfl rfl)
theorem dX2_liked_34 : decode cX2_liked 34 = .ok (.iconst 0, 1) := dk_3 (dk_at dksX2_liked_1 10 rfl rfl)
theorem dX2_liked_35 : decode cX2_liked 35 = .ok (.istore 5, 2) := dk_54 5 (dk_at dksX2_liked_1 11 rfl rfl)
theorem dX2_liked_37 : decode cX2_liked 37 = .ok (.iload 5, 2) := dk_21 5 (dk_at dksX2_liked_1 13 rfl rfl)
theorem dX2_liked_39 : decode cX2_liked 39 = .ok (.ifCond .eq 29, 3) := dk_153 0 29 (dk_at dksX2_liked_1 15 rfl rfl)
theorem dX2_liked_42 : decode cX2_liked 42 = .ok (.iload_n 3, 1) := dk_29 (dk_at dksX2_liked_1 18 rfl rfl)
theorem dX2_liked_43 : decode cX2_liked 43 = .ok (.iconst (-1), 1) := dk_2 (dk_at dksX2_liked_1 19 rfl rfl)
theorem dX2_liked_44 : decode cX2_liked 44 = .ok (.if_icmp .eq 19, 3) := dk_159 0 19 (dk_at dksX2_liked_1 20 rfl rfl)
theorem dX2_liked_47 : decode cX2_liked 47 = .ok (.aload_n 0, 1) := dk_42 (dk_at dksX2_liked_1 23 rfl rfl)
theorem dX2_liked_48 : decode cX2_liked 48 = .ok (.iload_n 1, 1) := dk_27 (dk_at dksX2_liked_2 0 rfl rfl)
theorem dX2_liked_49 : decode cX2_liked 49 = .ok (.iload 4, 2) := dk_21 4 (dk_at dksX2_liked_2 1 rfl rfl)
theorem dX2_liked_51 : decode cX2_liked 51 = .ok (.invokevirtual 75, 3) := dk_182 0 75 (dk_at dksX2_liked_2 3 rfl rfl)
theorem dX2_liked_54 : decode cX2_liked 54 = .ok (.aload_n 0, 1) := dk_42 (dk_at dksX2_liked_2 6 rfl rfl)
theorem dX2_liked_55 : decode cX2_liked 55 = .ok (.iload_n 1, 1) := dk_27 (dk_at dksX2_liked_2 7 rfl rfl)
theorem dX2_liked_56 : decode cX2_liked 56 = .ok (.iload_n 3, 1) := dk_29 (dk_at dksX2_liked_2 8 rfl rfl)
theorem dX2_liked_57 : decode cX2_liked 57 = .ok (.invokevirtual 75, 3) := dk_182 0 75 (dk_at dksX2_liked_2 9 rfl rfl)
theorem dX2_liked_60 : decode cX2_liked 60 = .ok (.if_icmp .ge 8, 3) := dk_162 0 8 (dk_at dksX2_liked_2 12 rfl rfl)
theorem dX2_liked_63 : decode cX2_liked 63 = .ok (.iload 4, 2) := dk_21 4 (dk_at dksX2_liked_2 15 rfl rfl)
theorem dX2_liked_65 : decode cX2_liked 65 = .ok (.goto 4, 3) := dk_167 0 4 (dk_at dksX2_liked_2 17 rfl rfl)
theorem dX2_liked_68 : decode cX2_liked 68 = .ok (.iload_n 3, 1) := dk_29 (dk_at dksX2_liked_2 20 rfl rfl)
theorem dX2_liked_69 : decode cX2_liked 69 = .ok (.istore_n 3, 1) := dk_62 (dk_at dksX2_liked_2 21 rfl rfl)
theorem dX2_liked_70 : decode cX2_liked 70 = .ok (.iinc 4 1, 3) := dk_132 4 1 (dk_at dksX2_liked_3 0 rfl rfl)
theorem dX2_liked_73 : decode cX2_liked 73 = .ok (.goto (-68), 3) := dk_167 255 188 (dk_at dksX2_liked_3 3 rfl rfl)
theorem dX2_liked_76 : decode cX2_liked 76 = .ok (.iload_n 3, 1) := dk_29 (dk_at dksX2_liked_3 6 rfl rfl)
theorem dX2_liked_77 : decode cX2_liked 77 = .ok (.ireturn, 1) := dk_172 (dk_at dksX2_liked_3 7 rfl rfl)
abbrev cX2_canBe : ByteArray := prog_19_method_3_code
def yX2_canBe : MethodName := ⟨RX2, "canBe", "(II)Z"⟩
def dkwX2_canBe_0 : List UInt8 := [42, 180, 0, 11, 27, 50, 28, 46, 2, 159, 0, 7, 4, 167, 0, 4, 3, 172]
abbrev dktX2_canBe_0 : List UInt8 := dkwX2_canBe_0 ++ []
theorem dksX2_canBe_0 : cX2_canBe.data.toList.drop 0 = dktX2_canBe_0 := by decide +kernel
theorem dX2_canBe_0 : decode cX2_canBe 0 = .ok (.aload_n 0, 1) := dk_42 (dk_at dksX2_canBe_0 0 rfl rfl)
theorem dX2_canBe_1 : decode cX2_canBe 1 = .ok (.getfield 11, 3) := dk_180 0 11 (dk_at dksX2_canBe_0 1 rfl rfl)
theorem dX2_canBe_4 : decode cX2_canBe 4 = .ok (.iload_n 1, 1) := dk_27 (dk_at dksX2_canBe_0 4 rfl rfl)
theorem dX2_canBe_5 : decode cX2_canBe 5 = .ok (.aaload, 1) := dk_50 (dk_at dksX2_canBe_0 5 rfl rfl)
theorem dX2_canBe_6 : decode cX2_canBe 6 = .ok (.iload_n 2, 1) := dk_28 (dk_at dksX2_canBe_0 6 rfl rfl)
theorem dX2_canBe_7 : decode cX2_canBe 7 = .ok (.iaload, 1) := dk_46 (dk_at dksX2_canBe_0 7 rfl rfl)
theorem dX2_canBe_8 : decode cX2_canBe 8 = .ok (.iconst (-1), 1) := dk_2 (dk_at dksX2_canBe_0 8 rfl rfl)
theorem dX2_canBe_9 : decode cX2_canBe 9 = .ok (.if_icmp .eq 7, 3) := dk_159 0 7 (dk_at dksX2_canBe_0 9 rfl rfl)
theorem dX2_canBe_12 : decode cX2_canBe 12 = .ok (.iconst 1, 1) := dk_4 (dk_at dksX2_canBe_0 12 rfl rfl)
theorem dX2_canBe_13 : decode cX2_canBe 13 = .ok (.goto 4, 3) := dk_167 0 4 (dk_at dksX2_canBe_0 13 rfl rfl)
theorem dX2_canBe_16 : decode cX2_canBe 16 = .ok (.iconst 0, 1) := dk_3 (dk_at dksX2_canBe_0 16 rfl rfl)
theorem dX2_canBe_17 : decode cX2_canBe 17 = .ok (.ireturn, 1) := dk_172 (dk_at dksX2_canBe_0 17 rfl rfl)
abbrev cX2_burden : ByteArray := prog_19_method_13_code
def yX2_burden : MethodName := ⟨RX2, "burden", "(II)I"⟩
def dkwX2_burden_0 : List UInt8 := [42, 180, 0, 11, 27, 50, 28, 46, 42, 180, 0, 35, 4, 96, 104, 42, 180, 0, 19, 28, 46, 96, 172]
abbrev dktX2_burden_0 : List UInt8 := dkwX2_burden_0 ++ []
theorem dksX2_burden_0 : cX2_burden.data.toList.drop 0 = dktX2_burden_0 := by decide +kernel
theorem dX2_burden_0 : decode cX2_burden 0 = .ok (.aload_n 0, 1) := dk_42 (dk_at dksX2_burden_0 0 rfl rfl)
theorem dX2_burden_1 : decode cX2_burden 1 = .ok (.getfield 11, 3) := dk_180 0 11 (dk_at dksX2_burden_0 1 rfl rfl)
theorem dX2_burden_4 : decode cX2_burden 4 = .ok (.iload_n 1, 1) := dk_27 (dk_at dksX2_burden_0 4 rfl rfl)
theorem dX2_burden_5 : decode cX2_burden 5 = .ok (.aaload, 1) := dk_50 (dk_at dksX2_burden_0 5 rfl rfl)
theorem dX2_burden_6 : decode cX2_burden 6 = .ok (.iload_n 2, 1) := dk_28 (dk_at dksX2_burden_0 6 rfl rfl)
theorem dX2_burden_7 : decode cX2_burden 7 = .ok (.iaload, 1) := dk_46 (dk_at dksX2_burden_0 7 rfl rfl)
theorem dX2_burden_8 : decode cX2_burden 8 = .ok (.aload_n 0, 1) := dk_42 (dk_at dksX2_burden_0 8 rfl rfl)
theorem dX2_burden_9 : decode cX2_burden 9 = .ok (.getfield 35, 3) := dk_180 0 35 (dk_at dksX2_burden_0 9 rfl rfl)
theorem dX2_burden_12 : decode cX2_burden 12 = .ok (.iconst 1, 1) := dk_4 (dk_at dksX2_burden_0 12 rfl rfl)
theorem dX2_burden_13 : decode cX2_burden 13 = .ok (.iadd, 1) := dk_96 (dk_at dksX2_burden_0 13 rfl rfl)
theorem dX2_burden_14 : decode cX2_burden 14 = .ok (.imul, 1) := dk_104 (dk_at dksX2_burden_0 14 rfl rfl)
theorem dX2_burden_15 : decode cX2_burden 15 = .ok (.aload_n 0, 1) := dk_42 (dk_at dksX2_burden_0 15 rfl rfl)
theorem dX2_burden_16 : decode cX2_burden 16 = .ok (.getfield 19, 3) := dk_180 0 19 (dk_at dksX2_burden_0 16 rfl rfl)
theorem dX2_burden_19 : decode cX2_burden 19 = .ok (.iload_n 2, 1) := dk_28 (dk_at dksX2_burden_0 19 rfl rfl)
theorem dX2_burden_20 : decode cX2_burden 20 = .ok (.iaload, 1) := dk_46 (dk_at dksX2_burden_0 20 rfl rfl)
theorem dX2_burden_21 : decode cX2_burden 21 = .ok (.iadd, 1) := dk_96 (dk_at dksX2_burden_0 21 rfl rfl)
theorem dX2_burden_22 : decode cX2_burden 22 = .ok (.ireturn, 1) := dk_172 (dk_at dksX2_burden_0 22 rfl rfl)
abbrev cX2_moves : ByteArray := prog_19_method_16_code
def yX2_moves : MethodName := ⟨RX2, "moves", "(I)I"⟩
def dkwX2_moves_1 : List UInt8 := [160, 0, 8, 16, 100, 167, 0, 18, 42, 27, 29, 182, 0, 75, 42, 27, 28, 182, 0, 75, 100, 4, 96, 172]
abbrev dktX2_moves_1 : List UInt8 := dkwX2_moves_1 ++ []
def dkwX2_moves_0 : List UInt8 := [42, 27, 182, 0, 81, 61, 28, 2, 160, 0, 5, 3, 172, 42, 27, 28, 182, 0, 78, 62, 29, 2]
abbrev dktX2_moves_0 : List UInt8 := dkwX2_moves_0 ++ dktX2_moves_1
theorem dksX2_moves_0 : cX2_moves.data.toList.drop 0 = dktX2_moves_0 := by decide +kernel
theorem dksX2_moves_1 : cX2_moves.data.toList.drop 22 = dktX2_moves_1 := dk_seg dksX2_moves_0 22 rfl rfl
theorem dX2_moves_0 : decode cX2_moves 0 = .ok (.aload_n 0, 1) := dk_42 (dk_at dksX2_moves_0 0 rfl rfl)
theorem dX2_moves_1 : decode cX2_moves 1 = .ok (.iload_n 1, 1) := dk_27 (dk_at dksX2_moves_0 1 rfl rfl)
theorem dX2_moves_2 : decode cX2_moves 2 = .ok (.invokevirtual 81, 3) := dk_182 0 81 (dk_at dksX2_moves_0 2 rfl rfl)
theorem dX2_moves_5 : decode cX2_moves 5 = .ok (.istore_n 2, 1) := dk_61 (dk_at dksX2_moves_0 5 rfl rfl)
theorem dX2_moves_6 : decode cX2_moves 6 = .ok (.iload_n 2, 1) := dk_28 (dk_at dksX2_moves_0 6 rfl rfl)
theorem dX2_moves_7 : decode cX2_moves 7 = .ok (.iconst (-1), 1) := dk_2 (dk_at dksX2_moves_0 7 rfl rfl)
theorem dX2_moves_8 : decode cX2_moves 8 = .ok (.if_icmp .ne 5, 3) := dk_160 0 5 (dk_at dksX2_moves_0 8 rfl rfl)
theorem dX2_moves_11 : decode cX2_moves 11 = .ok (.iconst 0, 1) := dk_3 (dk_at dksX2_moves_0 11 rfl rfl)
theorem dX2_moves_12 : decode cX2_moves 12 = .ok (.ireturn, 1) := dk_172 (dk_at dksX2_moves_0 12 rfl rfl)
theorem dX2_moves_13 : decode cX2_moves 13 = .ok (.aload_n 0, 1) := dk_42 (dk_at dksX2_moves_0 13 rfl rfl)
theorem dX2_moves_14 : decode cX2_moves 14 = .ok (.iload_n 1, 1) := dk_27 (dk_at dksX2_moves_0 14 rfl rfl)
theorem dX2_moves_15 : decode cX2_moves 15 = .ok (.iload_n 2, 1) := dk_28 (dk_at dksX2_moves_0 15 rfl rfl)
theorem dX2_moves_16 : decode cX2_moves 16 = .ok (.invokevirtual 78, 3) := dk_182 0 78 (dk_at dksX2_moves_0 16 rfl rfl)
theorem dX2_moves_19 : decode cX2_moves 19 = .ok (.istore_n 3, 1) := dk_62 (dk_at dksX2_moves_0 19 rfl rfl)
theorem dX2_moves_20 : decode cX2_moves 20 = .ok (.iload_n 3, 1) := dk_29 (dk_at dksX2_moves_0 20 rfl rfl)
theorem dX2_moves_21 : decode cX2_moves 21 = .ok (.iconst (-1), 1) := dk_2 (dk_at dksX2_moves_0 21 rfl rfl)
theorem dX2_moves_22 : decode cX2_moves 22 = .ok (.if_icmp .ne 8, 3) := dk_160 0 8 (dk_at dksX2_moves_1 0 rfl rfl)
theorem dX2_moves_25 : decode cX2_moves 25 = .ok (.bipush 100, 2) := dk_16 100 (dk_at dksX2_moves_1 3 rfl rfl)
theorem dX2_moves_27 : decode cX2_moves 27 = .ok (.goto 18, 3) := dk_167 0 18 (dk_at dksX2_moves_1 5 rfl rfl)
theorem dX2_moves_30 : decode cX2_moves 30 = .ok (.aload_n 0, 1) := dk_42 (dk_at dksX2_moves_1 8 rfl rfl)
theorem dX2_moves_31 : decode cX2_moves 31 = .ok (.iload_n 1, 1) := dk_27 (dk_at dksX2_moves_1 9 rfl rfl)
theorem dX2_moves_32 : decode cX2_moves 32 = .ok (.iload_n 3, 1) := dk_29 (dk_at dksX2_moves_1 10 rfl rfl)
theorem dX2_moves_33 : decode cX2_moves 33 = .ok (.invokevirtual 75, 3) := dk_182 0 75 (dk_at dksX2_moves_1 11 rfl rfl)
theorem dX2_moves_36 : decode cX2_moves 36 = .ok (.aload_n 0, 1) := dk_42 (dk_at dksX2_moves_1 14 rfl rfl)
theorem dX2_moves_37 : decode cX2_moves 37 = .ok (.iload_n 1, 1) := dk_27 (dk_at dksX2_moves_1 15 rfl rfl)
theorem dX2_moves_38 : decode cX2_moves 38 = .ok (.iload_n 2, 1) := dk_28 (dk_at dksX2_moves_1 16 rfl rfl)
theorem dX2_moves_39 : decode cX2_moves 39 = .ok (.invokevirtual 75, 3) := dk_182 0 75 (dk_at dksX2_moves_1 17 rfl rfl)
theorem dX2_moves_42 : decode cX2_moves 42 = .ok (.isub, 1) := dk_100 (dk_at dksX2_moves_1 20 rfl rfl)
theorem dX2_moves_43 : decode cX2_moves 43 = .ok (.iconst 1, 1) := dk_4 (dk_at dksX2_moves_1 21 rfl rfl)
theorem dX2_moves_44 : decode cX2_moves 44 = .ok (.iadd, 1) := dk_96 (dk_at dksX2_moves_1 22 rfl rfl)
theorem dX2_moves_45 : decode cX2_moves 45 = .ok (.ireturn, 1) := dk_172 (dk_at dksX2_moves_1 23 rfl rfl)
abbrev cX2_bidsIfCan : ByteArray := prog_19_method_26_code
def yX2_bidsIfCan : MethodName := ⟨RX2, "bidsIfCan", "()I"⟩
def dkwX2_bidsIfCan_4 : List UInt8 := [42, 180, 0, 23, 28, 92, 46, 4, 96, 79, 28, 172]
abbrev dktX2_bidsIfCan_4 : List UInt8 := dkwX2_bidsIfCan_4 ++ []
def dkwX2_bidsIfCan_3 : List UInt8 := [42, 180, 0, 26, 29, 2, 79, 42, 89, 180, 0, 42, 4, 96, 181, 0, 42, 42, 180, 0, 26, 27, 28, 79]
abbrev dktX2_bidsIfCan_3 : List UInt8 := dkwX2_bidsIfCan_3 ++ dktX2_bidsIfCan_4
def dkwX2_bidsIfCan_2 : List UInt8 := [180, 0, 19, 28, 92, 46, 42, 27, 182, 0, 108, 96, 79, 42, 28, 182, 0, 111, 62, 29, 2, 159, 0, 20]
abbrev dktX2_bidsIfCan_2 : List UInt8 := dkwX2_bidsIfCan_2 ++ dktX2_bidsIfCan_3
def dkwX2_bidsIfCan_1 : List UInt8 := [159, 0, 21, 42, 180, 0, 19, 28, 46, 42, 27, 182, 0, 108, 96, 17, 39, 15, 164, 0, 5, 2, 172, 42]
abbrev dktX2_bidsIfCan_1 : List UInt8 := dkwX2_bidsIfCan_1 ++ dktX2_bidsIfCan_2
def dkwX2_bidsIfCan_0 : List UInt8 := [42, 182, 0, 104, 60, 27, 2, 160, 0, 7, 2, 167, 0, 8, 42, 27, 182, 0, 81, 61, 28, 2]
abbrev dktX2_bidsIfCan_0 : List UInt8 := dkwX2_bidsIfCan_0 ++ dktX2_bidsIfCan_1
theorem dksX2_bidsIfCan_0 : cX2_bidsIfCan.data.toList.drop 0 = dktX2_bidsIfCan_0 := by decide +kernel
theorem dksX2_bidsIfCan_1 : cX2_bidsIfCan.data.toList.drop 22 = dktX2_bidsIfCan_1 := dk_seg dksX2_bidsIfCan_0 22 rfl rfl
theorem dksX2_bidsIfCan_2 : cX2_bidsIfCan.data.toList.drop 46 = dktX2_bidsIfCan_2 := dk_seg dksX2_bidsIfCan_1 24 rfl rfl
theorem dksX2_bidsIfCan_3 : cX2_bidsIfCan.data.toList.drop 70 = dktX2_bidsIfCan_3 := dk_seg dksX2_bidsIfCan_2 24 rfl rfl
theorem dksX2_bidsIfCan_4 : cX2_bidsIfCan.data.toList.drop 94 = dktX2_bidsIfCan_4 := dk_seg dksX2_bidsIfCan_3 24 rfl rfl
theorem dX2_bidsIfCan_0 : decode cX2_bidsIfCan 0 = .ok (.aload_n 0, 1) := dk_42 (dk_at dksX2_bidsIfCan_0 0 rfl rfl)
theorem dX2_bidsIfCan_1 : decode cX2_bidsIfCan 1 = .ok (.invokevirtual 104, 3) := dk_182 0 104 (dk_at dksX2_bidsIfCan_0 1 rfl rfl)
theorem dX2_bidsIfCan_4 : decode cX2_bidsIfCan 4 = .ok (.istore_n 1, 1) := dk_60 (dk_at dksX2_bidsIfCan_0 4 rfl rfl)
theorem dX2_bidsIfCan_5 : decode cX2_bidsIfCan 5 = .ok (.iload_n 1, 1) := dk_27 (dk_at dksX2_bidsIfCan_0 5 rfl rfl)
theorem dX2_bidsIfCan_6 : decode cX2_bidsIfCan 6 = .ok (.iconst (-1), 1) := dk_2 (dk_at dksX2_bidsIfCan_0 6 rfl rfl)
theorem dX2_bidsIfCan_7 : decode cX2_bidsIfCan 7 = .ok (.if_icmp .ne 7, 3) := dk_160 0 7 (dk_at dksX2_bidsIfCan_0 7 rfl rfl)
theorem dX2_bidsIfCan_10 : decode cX2_bidsIfCan 10 = .ok (.iconst (-1), 1) := dk_2 (dk_at dksX2_bidsIfCan_0 10 rfl rfl)
theorem dX2_bidsIfCan_11 : decode cX2_bidsIfCan 11 = .ok (.goto 8, 3) := dk_167 0 8 (dk_at dksX2_bidsIfCan_0 11 rfl rfl)
theorem dX2_bidsIfCan_14 : decode cX2_bidsIfCan 14 = .ok (.aload_n 0, 1) := dk_42 (dk_at dksX2_bidsIfCan_0 14 rfl rfl)
theorem dX2_bidsIfCan_15 : decode cX2_bidsIfCan 15 = .ok (.iload_n 1, 1) := dk_27 (dk_at dksX2_bidsIfCan_0 15 rfl rfl)
theorem dX2_bidsIfCan_16 : decode cX2_bidsIfCan 16 = .ok (.invokevirtual 81, 3) := dk_182 0 81 (dk_at dksX2_bidsIfCan_0 16 rfl rfl)
theorem dX2_bidsIfCan_19 : decode cX2_bidsIfCan 19 = .ok (.istore_n 2, 1) := dk_61 (dk_at dksX2_bidsIfCan_0 19 rfl rfl)
theorem dX2_bidsIfCan_20 : decode cX2_bidsIfCan 20 = .ok (.iload_n 2, 1) := dk_28 (dk_at dksX2_bidsIfCan_0 20 rfl rfl)
theorem dX2_bidsIfCan_21 : decode cX2_bidsIfCan 21 = .ok (.iconst (-1), 1) := dk_2 (dk_at dksX2_bidsIfCan_0 21 rfl rfl)
theorem dX2_bidsIfCan_22 : decode cX2_bidsIfCan 22 = .ok (.if_icmp .eq 21, 3) := dk_159 0 21 (dk_at dksX2_bidsIfCan_1 0 rfl rfl)
theorem dX2_bidsIfCan_25 : decode cX2_bidsIfCan 25 = .ok (.aload_n 0, 1) := dk_42 (dk_at dksX2_bidsIfCan_1 3 rfl rfl)
theorem dX2_bidsIfCan_26 : decode cX2_bidsIfCan 26 = .ok (.getfield 19, 3) := dk_180 0 19 (dk_at dksX2_bidsIfCan_1 4 rfl rfl)
theorem dX2_bidsIfCan_29 : decode cX2_bidsIfCan 29 = .ok (.iload_n 2, 1) := dk_28 (dk_at dksX2_bidsIfCan_1 7 rfl rfl)
theorem dX2_bidsIfCan_30 : decode cX2_bidsIfCan 30 = .ok (.iaload, 1) := dk_46 (dk_at dksX2_bidsIfCan_1 8 rfl rfl)
theorem dX2_bidsIfCan_31 : decode cX2_bidsIfCan 31 = .ok (.aload_n 0, 1) := dk_42 (dk_at dksX2_bidsIfCan_1 9 rfl rfl)
theorem dX2_bidsIfCan_32 : decode cX2_bidsIfCan 32 = .ok (.iload_n 1, 1) := dk_27 (dk_at dksX2_bidsIfCan_1 10 rfl rfl)
theorem dX2_bidsIfCan_33 : decode cX2_bidsIfCan 33 = .ok (.invokevirtual 108, 3) := dk_182 0 108 (dk_at dksX2_bidsIfCan_1 11 rfl rfl)
theorem dX2_bidsIfCan_36 : decode cX2_bidsIfCan 36 = .ok (.iadd, 1) := dk_96 (dk_at dksX2_bidsIfCan_1 14 rfl rfl)
theorem dX2_bidsIfCan_37 : decode cX2_bidsIfCan 37 = .ok (.sipush 9999, 3) := dk_17 39 15 (dk_at dksX2_bidsIfCan_1 15 rfl rfl)
theorem dX2_bidsIfCan_40 : decode cX2_bidsIfCan 40 = .ok (.if_icmp .le 5, 3) := dk_164 0 5 (dk_at dksX2_bidsIfCan_1 18 rfl rfl)
theorem dX2_bidsIfCan_43 : decode cX2_bidsIfCan 43 = .ok (.iconst (-1), 1) := dk_2 (dk_at dksX2_bidsIfCan_1 21 rfl rfl)
theorem dX2_bidsIfCan_44 : decode cX2_bidsIfCan 44 = .ok (.ireturn, 1) := dk_172 (dk_at dksX2_bidsIfCan_1 22 rfl rfl)
theorem dX2_bidsIfCan_45 : decode cX2_bidsIfCan 45 = .ok (.aload_n 0, 1) := dk_42 (dk_at dksX2_bidsIfCan_1 23 rfl rfl)
theorem dX2_bidsIfCan_46 : decode cX2_bidsIfCan 46 = .ok (.getfield 19, 3) := dk_180 0 19 (dk_at dksX2_bidsIfCan_2 0 rfl rfl)
theorem dX2_bidsIfCan_49 : decode cX2_bidsIfCan 49 = .ok (.iload_n 2, 1) := dk_28 (dk_at dksX2_bidsIfCan_2 3 rfl rfl)
theorem dX2_bidsIfCan_50 : decode cX2_bidsIfCan 50 = .ok (.dup2, 1) := dk_92 (dk_at dksX2_bidsIfCan_2 4 rfl rfl)
theorem dX2_bidsIfCan_51 : decode cX2_bidsIfCan 51 = .ok (.iaload, 1) := dk_46 (dk_at dksX2_bidsIfCan_2 5 rfl rfl)
theorem dX2_bidsIfCan_52 : decode cX2_bidsIfCan 52 = .ok (.aload_n 0, 1) := dk_42 (dk_at dksX2_bidsIfCan_2 6 rfl rfl)
theorem dX2_bidsIfCan_53 : decode cX2_bidsIfCan 53 = .ok (.iload_n 1, 1) := dk_27 (dk_at dksX2_bidsIfCan_2 7 rfl rfl)
theorem dX2_bidsIfCan_54 : decode cX2_bidsIfCan 54 = .ok (.invokevirtual 108, 3) := dk_182 0 108 (dk_at dksX2_bidsIfCan_2 8 rfl rfl)
theorem dX2_bidsIfCan_57 : decode cX2_bidsIfCan 57 = .ok (.iadd, 1) := dk_96 (dk_at dksX2_bidsIfCan_2 11 rfl rfl)
theorem dX2_bidsIfCan_58 : decode cX2_bidsIfCan 58 = .ok (.iastore, 1) := dk_79 (dk_at dksX2_bidsIfCan_2 12 rfl rfl)
theorem dX2_bidsIfCan_59 : decode cX2_bidsIfCan 59 = .ok (.aload_n 0, 1) := dk_42 (dk_at dksX2_bidsIfCan_2 13 rfl rfl)
theorem dX2_bidsIfCan_60 : decode cX2_bidsIfCan 60 = .ok (.iload_n 2, 1) := dk_28 (dk_at dksX2_bidsIfCan_2 14 rfl rfl)
theorem dX2_bidsIfCan_61 : decode cX2_bidsIfCan 61 = .ok (.invokevirtual 111, 3) := dk_182 0 111 (dk_at dksX2_bidsIfCan_2 15 rfl rfl)
theorem dX2_bidsIfCan_64 : decode cX2_bidsIfCan 64 = .ok (.istore_n 3, 1) := dk_62 (dk_at dksX2_bidsIfCan_2 18 rfl rfl)
theorem dX2_bidsIfCan_65 : decode cX2_bidsIfCan 65 = .ok (.iload_n 3, 1) := dk_29 (dk_at dksX2_bidsIfCan_2 19 rfl rfl)
theorem dX2_bidsIfCan_66 : decode cX2_bidsIfCan 66 = .ok (.iconst (-1), 1) := dk_2 (dk_at dksX2_bidsIfCan_2 20 rfl rfl)
theorem dX2_bidsIfCan_67 : decode cX2_bidsIfCan 67 = .ok (.if_icmp .eq 20, 3) := dk_159 0 20 (dk_at dksX2_bidsIfCan_2 21 rfl rfl)
theorem dX2_bidsIfCan_70 : decode cX2_bidsIfCan 70 = .ok (.aload_n 0, 1) := dk_42 (dk_at dksX2_bidsIfCan_3 0 rfl rfl)
theorem dX2_bidsIfCan_71 : decode cX2_bidsIfCan 71 = .ok (.getfield 26, 3) := dk_180 0 26 (dk_at dksX2_bidsIfCan_3 1 rfl rfl)
theorem dX2_bidsIfCan_74 : decode cX2_bidsIfCan 74 = .ok (.iload_n 3, 1) := dk_29 (dk_at dksX2_bidsIfCan_3 4 rfl rfl)
theorem dX2_bidsIfCan_75 : decode cX2_bidsIfCan 75 = .ok (.iconst (-1), 1) := dk_2 (dk_at dksX2_bidsIfCan_3 5 rfl rfl)
theorem dX2_bidsIfCan_76 : decode cX2_bidsIfCan 76 = .ok (.iastore, 1) := dk_79 (dk_at dksX2_bidsIfCan_3 6 rfl rfl)
theorem dX2_bidsIfCan_77 : decode cX2_bidsIfCan 77 = .ok (.aload_n 0, 1) := dk_42 (dk_at dksX2_bidsIfCan_3 7 rfl rfl)
theorem dX2_bidsIfCan_78 : decode cX2_bidsIfCan 78 = .ok (.dup, 1) := dk_89 (dk_at dksX2_bidsIfCan_3 8 rfl rfl)
theorem dX2_bidsIfCan_79 : decode cX2_bidsIfCan 79 = .ok (.getfield 42, 3) := dk_180 0 42 (dk_at dksX2_bidsIfCan_3 9 rfl rfl)
theorem dX2_bidsIfCan_82 : decode cX2_bidsIfCan 82 = .ok (.iconst 1, 1) := dk_4 (dk_at dksX2_bidsIfCan_3 12 rfl rfl)
theorem dX2_bidsIfCan_83 : decode cX2_bidsIfCan 83 = .ok (.iadd, 1) := dk_96 (dk_at dksX2_bidsIfCan_3 13 rfl rfl)
theorem dX2_bidsIfCan_84 : decode cX2_bidsIfCan 84 = .ok (.putfield 42, 3) := dk_181 0 42 (dk_at dksX2_bidsIfCan_3 14 rfl rfl)
theorem dX2_bidsIfCan_87 : decode cX2_bidsIfCan 87 = .ok (.aload_n 0, 1) := dk_42 (dk_at dksX2_bidsIfCan_3 17 rfl rfl)
theorem dX2_bidsIfCan_88 : decode cX2_bidsIfCan 88 = .ok (.getfield 26, 3) := dk_180 0 26 (dk_at dksX2_bidsIfCan_3 18 rfl rfl)
theorem dX2_bidsIfCan_91 : decode cX2_bidsIfCan 91 = .ok (.iload_n 1, 1) := dk_27 (dk_at dksX2_bidsIfCan_3 21 rfl rfl)
theorem dX2_bidsIfCan_92 : decode cX2_bidsIfCan 92 = .ok (.iload_n 2, 1) := dk_28 (dk_at dksX2_bidsIfCan_3 22 rfl rfl)
theorem dX2_bidsIfCan_93 : decode cX2_bidsIfCan 93 = .ok (.iastore, 1) := dk_79 (dk_at dksX2_bidsIfCan_3 23 rfl rfl)
theorem dX2_bidsIfCan_94 : decode cX2_bidsIfCan 94 = .ok (.aload_n 0, 1) := dk_42 (dk_at dksX2_bidsIfCan_4 0 rfl rfl)
theorem dX2_bidsIfCan_95 : decode cX2_bidsIfCan 95 = .ok (.getfield 23, 3) := dk_180 0 23 (dk_at dksX2_bidsIfCan_4 1 rfl rfl)
theorem dX2_bidsIfCan_98 : decode cX2_bidsIfCan 98 = .ok (.iload_n 2, 1) := dk_28 (dk_at dksX2_bidsIfCan_4 4 rfl rfl)
theorem dX2_bidsIfCan_99 : decode cX2_bidsIfCan 99 = .ok (.dup2, 1) := dk_92 (dk_at dksX2_bidsIfCan_4 5 rfl rfl)
theorem dX2_bidsIfCan_100 : decode cX2_bidsIfCan 100 = .ok (.iaload, 1) := dk_46 (dk_at dksX2_bidsIfCan_4 6 rfl rfl)
theorem dX2_bidsIfCan_101 : decode cX2_bidsIfCan 101 = .ok (.iconst 1, 1) := dk_4 (dk_at dksX2_bidsIfCan_4 7 rfl rfl)
theorem dX2_bidsIfCan_102 : decode cX2_bidsIfCan 102 = .ok (.iadd, 1) := dk_96 (dk_at dksX2_bidsIfCan_4 8 rfl rfl)
theorem dX2_bidsIfCan_103 : decode cX2_bidsIfCan 103 = .ok (.iastore, 1) := dk_79 (dk_at dksX2_bidsIfCan_4 9 rfl rfl)
theorem dX2_bidsIfCan_104 : decode cX2_bidsIfCan 104 = .ok (.iload_n 2, 1) := dk_28 (dk_at dksX2_bidsIfCan_4 10 rfl rfl)
theorem dX2_bidsIfCan_105 : decode cX2_bidsIfCan 105 = .ok (.ireturn, 1) := dk_172 (dk_at dksX2_bidsIfCan_4 11 rfl rfl)
abbrev cX2_apprenticeAt : ByteArray := prog_19_method_4_code
def yX2_apprenticeAt : MethodName := ⟨RX2, "apprenticeAt", "(I)I"⟩
def dkwX2_apprenticeAt_1 : List UInt8 := [132, 2, 1, 167, 255, 233, 2, 172]
abbrev dktX2_apprenticeAt_1 : List UInt8 := dkwX2_apprenticeAt_1 ++ []
def dkwX2_apprenticeAt_0 : List UInt8 := [3, 61, 28, 42, 180, 0, 35, 162, 0, 21, 42, 180, 0, 26, 28, 46, 27, 160, 0, 5, 28, 172]
abbrev dktX2_apprenticeAt_0 : List UInt8 := dkwX2_apprenticeAt_0 ++ dktX2_apprenticeAt_1
theorem dksX2_apprenticeAt_0 : cX2_apprenticeAt.data.toList.drop 0 = dktX2_apprenticeAt_0 := by decide +kernel
theorem dksX2_apprenticeAt_1 : cX2_apprenticeAt.data.toList.drop 22 = dktX2_apprenticeAt_1 := dk_seg dksX2_apprenticeAt_0 22 rfl rfl
theorem dX2_apprenticeAt_0 : decode cX2_apprenticeAt 0 = .ok (.iconst 0, 1) := dk_3 (dk_at dksX2_apprenticeAt_0 0 rfl rfl)
theorem dX2_apprenticeAt_1 : decode cX2_apprenticeAt 1 = .ok (.istore_n 2, 1) := dk_61 (dk_at dksX2_apprenticeAt_0 1 rfl rfl)
theorem dX2_apprenticeAt_2 : decode cX2_apprenticeAt 2 = .ok (.iload_n 2, 1) := dk_28 (dk_at dksX2_apprenticeAt_0 2 rfl rfl)
theorem dX2_apprenticeAt_3 : decode cX2_apprenticeAt 3 = .ok (.aload_n 0, 1) := dk_42 (dk_at dksX2_apprenticeAt_0 3 rfl rfl)
theorem dX2_apprenticeAt_4 : decode cX2_apprenticeAt 4 = .ok (.getfield 35, 3) := dk_180 0 35 (dk_at dksX2_apprenticeAt_0 4 rfl rfl)
theorem dX2_apprenticeAt_7 : decode cX2_apprenticeAt 7 = .ok (.if_icmp .ge 21, 3) := dk_162 0 21 (dk_at dksX2_apprenticeAt_0 7 rfl rfl)
theorem dX2_apprenticeAt_10 : decode cX2_apprenticeAt 10 = .ok (.aload_n 0, 1) := dk_42 (dk_at dksX2_apprenticeAt_0 10 rfl rfl)
theorem dX2_apprenticeAt_11 : decode cX2_apprenticeAt 11 = .ok (.getfield 26, 3) := dk_180 0 26 (dk_at dksX2_apprenticeAt_0 11 rfl rfl)
theorem dX2_apprenticeAt_14 : decode cX2_apprenticeAt 14 = .ok (.iload_n 2, 1) := dk_28 (dk_at dksX2_apprenticeAt_0 14 rfl rfl)
theorem dX2_apprenticeAt_15 : decode cX2_apprenticeAt 15 = .ok (.iaload, 1) := dk_46 (dk_at dksX2_apprenticeAt_0 15 rfl rfl)
theorem dX2_apprenticeAt_16 : decode cX2_apprenticeAt 16 = .ok (.iload_n 1, 1) := dk_27 (dk_at dksX2_apprenticeAt_0 16 rfl rfl)
theorem dX2_apprenticeAt_17 : decode cX2_apprenticeAt 17 = .ok (.if_icmp .ne 5, 3) := dk_160 0 5 (dk_at dksX2_apprenticeAt_0 17 rfl rfl)
theorem dX2_apprenticeAt_20 : decode cX2_apprenticeAt 20 = .ok (.iload_n 2, 1) := dk_28 (dk_at dksX2_apprenticeAt_0 20 rfl rfl)
theorem dX2_apprenticeAt_21 : decode cX2_apprenticeAt 21 = .ok (.ireturn, 1) := dk_172 (dk_at dksX2_apprenticeAt_0 21 rfl rfl)
theorem dX2_apprenticeAt_22 : decode cX2_apprenticeAt 22 = .ok (.iinc 2 1, 3) := dk_132 2 1 (dk_at dksX2_apprenticeAt_1 0 rfl rfl)
theorem dX2_apprenticeAt_25 : decode cX2_apprenticeAt 25 = .ok (.goto (-23), 3) := dk_167 255 233 (dk_at dksX2_apprenticeAt_1 3 rfl rfl)
theorem dX2_apprenticeAt_28 : decode cX2_apprenticeAt 28 = .ok (.iconst (-1), 1) := dk_2 (dk_at dksX2_apprenticeAt_1 6 rfl rfl)
theorem dX2_apprenticeAt_29 : decode cX2_apprenticeAt 29 = .ok (.ireturn, 1) := dk_172 (dk_at dksX2_apprenticeAt_1 7 rfl rfl)
abbrev cX2_settles : ByteArray := prog_19_method_29_code
def yX2_settles : MethodName := ⟨RX2, "settles", "()I"⟩
def dkwX2_settles_1 : List UInt8 := [42, 182, 0, 89, 42, 89, 180, 0, 48, 4, 96, 181, 0, 48, 42, 182, 0, 120, 172]
abbrev dktX2_settles_1 : List UInt8 := dkwX2_settles_1 ++ []
def dkwX2_settles_0 : List UInt8 := [42, 182, 0, 117, 60, 27, 42, 180, 0, 35, 160, 0, 7, 4, 167, 0, 4, 3, 16, 8, 27, 184, 0, 85]
abbrev dktX2_settles_0 : List UInt8 := dkwX2_settles_0 ++ dktX2_settles_1
theorem dksX2_settles_0 : cX2_settles.data.toList.drop 0 = dktX2_settles_0 := by decide +kernel
theorem dksX2_settles_1 : cX2_settles.data.toList.drop 24 = dktX2_settles_1 := dk_seg dksX2_settles_0 24 rfl rfl
theorem dX2_settles_0 : decode cX2_settles 0 = .ok (.aload_n 0, 1) := dk_42 (dk_at dksX2_settles_0 0 rfl rfl)
theorem dX2_settles_1 : decode cX2_settles 1 = .ok (.invokevirtual 117, 3) := dk_182 0 117 (dk_at dksX2_settles_0 1 rfl rfl)
theorem dX2_settles_4 : decode cX2_settles 4 = .ok (.istore_n 1, 1) := dk_60 (dk_at dksX2_settles_0 4 rfl rfl)
theorem dX2_settles_5 : decode cX2_settles 5 = .ok (.iload_n 1, 1) := dk_27 (dk_at dksX2_settles_0 5 rfl rfl)
theorem dX2_settles_6 : decode cX2_settles 6 = .ok (.aload_n 0, 1) := dk_42 (dk_at dksX2_settles_0 6 rfl rfl)
theorem dX2_settles_7 : decode cX2_settles 7 = .ok (.getfield 35, 3) := dk_180 0 35 (dk_at dksX2_settles_0 7 rfl rfl)
theorem dX2_settles_10 : decode cX2_settles 10 = .ok (.if_icmp .ne 7, 3) := dk_160 0 7 (dk_at dksX2_settles_0 10 rfl rfl)
theorem dX2_settles_13 : decode cX2_settles 13 = .ok (.iconst 1, 1) := dk_4 (dk_at dksX2_settles_0 13 rfl rfl)
theorem dX2_settles_14 : decode cX2_settles 14 = .ok (.goto 4, 3) := dk_167 0 4 (dk_at dksX2_settles_0 14 rfl rfl)
theorem dX2_settles_17 : decode cX2_settles 17 = .ok (.iconst 0, 1) := dk_3 (dk_at dksX2_settles_0 17 rfl rfl)
theorem dX2_settles_18 : decode cX2_settles 18 = .ok (.bipush 8, 2) := dk_16 8 (dk_at dksX2_settles_0 18 rfl rfl)
theorem dX2_settles_20 : decode cX2_settles 20 = .ok (.iload_n 1, 1) := dk_27 (dk_at dksX2_settles_0 20 rfl rfl)
theorem dX2_settles_21 : decode cX2_settles 21 = .ok (.invokestatic 85, 3) := dk_184 0 85 (dk_at dksX2_settles_0 21 rfl rfl)
theorem dX2_settles_24 : decode cX2_settles 24 = .ok (.aload_n 0, 1) := dk_42 (dk_at dksX2_settles_1 0 rfl rfl)
theorem dX2_settles_25 : decode cX2_settles 25 = .ok (.invokevirtual 89, 3) := dk_182 0 89 (dk_at dksX2_settles_1 1 rfl rfl)
theorem dX2_settles_28 : decode cX2_settles 28 = .ok (.aload_n 0, 1) := dk_42 (dk_at dksX2_settles_1 4 rfl rfl)
theorem dX2_settles_29 : decode cX2_settles 29 = .ok (.dup, 1) := dk_89 (dk_at dksX2_settles_1 5 rfl rfl)
theorem dX2_settles_30 : decode cX2_settles 30 = .ok (.getfield 48, 3) := dk_180 0 48 (dk_at dksX2_settles_1 6 rfl rfl)
theorem dX2_settles_33 : decode cX2_settles 33 = .ok (.iconst 1, 1) := dk_4 (dk_at dksX2_settles_1 9 rfl rfl)
theorem dX2_settles_34 : decode cX2_settles 34 = .ok (.iadd, 1) := dk_96 (dk_at dksX2_settles_1 10 rfl rfl)
theorem dX2_settles_35 : decode cX2_settles 35 = .ok (.putfield 48, 3) := dk_181 0 48 (dk_at dksX2_settles_1 11 rfl rfl)
theorem dX2_settles_38 : decode cX2_settles 38 = .ok (.aload_n 0, 1) := dk_42 (dk_at dksX2_settles_1 14 rfl rfl)
theorem dX2_settles_39 : decode cX2_settles 39 = .ok (.invokevirtual 120, 3) := dk_182 0 120 (dk_at dksX2_settles_1 15 rfl rfl)
theorem dX2_settles_42 : decode cX2_settles 42 = .ok (.ireturn, 1) := dk_172 (dk_at dksX2_settles_1 18 rfl rfl)
abbrev cX2_most : ByteArray := prog_19_method_36_code
def yX2_most : MethodName := ⟨RX2, "most", "()I"⟩
def dkwX2_most_2 : List UInt8 := [153, 0, 7, 4, 167, 0, 4, 3, 96, 61, 132, 3, 1, 167, 255, 224, 28, 172]
abbrev dktX2_most_2 : List UInt8 := dkwX2_most_2 ++ []
def dkwX2_most_1 : List UInt8 := [61, 3, 62, 29, 42, 180, 0, 35, 162, 0, 30, 28, 42, 29, 43, 16, 6, 188, 4, 182, 0, 154]
abbrev dktX2_most_1 : List UInt8 := dkwX2_most_1 ++ dktX2_most_2
def dkwX2_most_0 : List UInt8 := [16, 6, 188, 10, 76, 3, 61, 28, 16, 6, 162, 0, 13, 43, 28, 2, 79, 132, 2, 1, 167, 255, 243, 3]
abbrev dktX2_most_0 : List UInt8 := dkwX2_most_0 ++ dktX2_most_1
theorem dksX2_most_0 : cX2_most.data.toList.drop 0 = dktX2_most_0 := by decide +kernel
theorem dksX2_most_1 : cX2_most.data.toList.drop 24 = dktX2_most_1 := dk_seg dksX2_most_0 24 rfl rfl
theorem dksX2_most_2 : cX2_most.data.toList.drop 46 = dktX2_most_2 := dk_seg dksX2_most_1 22 rfl rfl
theorem dX2_most_0 : decode cX2_most 0 = .ok (.bipush 6, 2) := dk_16 6 (dk_at dksX2_most_0 0 rfl rfl)
theorem dX2_most_2 : decode cX2_most 2 = .ok (.newarray .int, 2) := dk_188_10 (dk_at dksX2_most_0 2 rfl rfl)
theorem dX2_most_4 : decode cX2_most 4 = .ok (.astore_n 1, 1) := dk_76 (dk_at dksX2_most_0 4 rfl rfl)
theorem dX2_most_5 : decode cX2_most 5 = .ok (.iconst 0, 1) := dk_3 (dk_at dksX2_most_0 5 rfl rfl)
theorem dX2_most_6 : decode cX2_most 6 = .ok (.istore_n 2, 1) := dk_61 (dk_at dksX2_most_0 6 rfl rfl)
theorem dX2_most_7 : decode cX2_most 7 = .ok (.iload_n 2, 1) := dk_28 (dk_at dksX2_most_0 7 rfl rfl)
theorem dX2_most_8 : decode cX2_most 8 = .ok (.bipush 6, 2) := dk_16 6 (dk_at dksX2_most_0 8 rfl rfl)
theorem dX2_most_10 : decode cX2_most 10 = .ok (.if_icmp .ge 13, 3) := dk_162 0 13 (dk_at dksX2_most_0 10 rfl rfl)
theorem dX2_most_13 : decode cX2_most 13 = .ok (.aload_n 1, 1) := dk_43 (dk_at dksX2_most_0 13 rfl rfl)
theorem dX2_most_14 : decode cX2_most 14 = .ok (.iload_n 2, 1) := dk_28 (dk_at dksX2_most_0 14 rfl rfl)
theorem dX2_most_15 : decode cX2_most 15 = .ok (.iconst (-1), 1) := dk_2 (dk_at dksX2_most_0 15 rfl rfl)
theorem dX2_most_16 : decode cX2_most 16 = .ok (.iastore, 1) := dk_79 (dk_at dksX2_most_0 16 rfl rfl)
theorem dX2_most_17 : decode cX2_most 17 = .ok (.iinc 2 1, 3) := dk_132 2 1 (dk_at dksX2_most_0 17 rfl rfl)
theorem dX2_most_20 : decode cX2_most 20 = .ok (.goto (-13), 3) := dk_167 255 243 (dk_at dksX2_most_0 20 rfl rfl)
theorem dX2_most_23 : decode cX2_most 23 = .ok (.iconst 0, 1) := dk_3 (dk_at dksX2_most_0 23 rfl rfl)
theorem dX2_most_24 : decode cX2_most 24 = .ok (.istore_n 2, 1) := dk_61 (dk_at dksX2_most_1 0 rfl rfl)
theorem dX2_most_25 : decode cX2_most 25 = .ok (.iconst 0, 1) := dk_3 (dk_at dksX2_most_1 1 rfl rfl)
theorem dX2_most_26 : decode cX2_most 26 = .ok (.istore_n 3, 1) := dk_62 (dk_at dksX2_most_1 2 rfl rfl)
theorem dX2_most_27 : decode cX2_most 27 = .ok (.iload_n 3, 1) := dk_29 (dk_at dksX2_most_1 3 rfl rfl)
theorem dX2_most_28 : decode cX2_most 28 = .ok (.aload_n 0, 1) := dk_42 (dk_at dksX2_most_1 4 rfl rfl)
theorem dX2_most_29 : decode cX2_most 29 = .ok (.getfield 35, 3) := dk_180 0 35 (dk_at dksX2_most_1 5 rfl rfl)
theorem dX2_most_32 : decode cX2_most 32 = .ok (.if_icmp .ge 30, 3) := dk_162 0 30 (dk_at dksX2_most_1 8 rfl rfl)
theorem dX2_most_35 : decode cX2_most 35 = .ok (.iload_n 2, 1) := dk_28 (dk_at dksX2_most_1 11 rfl rfl)
theorem dX2_most_36 : decode cX2_most 36 = .ok (.aload_n 0, 1) := dk_42 (dk_at dksX2_most_1 12 rfl rfl)
theorem dX2_most_37 : decode cX2_most 37 = .ok (.iload_n 3, 1) := dk_29 (dk_at dksX2_most_1 13 rfl rfl)
theorem dX2_most_38 : decode cX2_most 38 = .ok (.aload_n 1, 1) := dk_43 (dk_at dksX2_most_1 14 rfl rfl)
theorem dX2_most_39 : decode cX2_most 39 = .ok (.bipush 6, 2) := dk_16 6 (dk_at dksX2_most_1 15 rfl rfl)
theorem dX2_most_41 : decode cX2_most 41 = .ok (.newarray .boolean, 2) := dk_188_4 (dk_at dksX2_most_1 17 rfl rfl)
theorem dX2_most_43 : decode cX2_most 43 = .ok (.invokevirtual 154, 3) := dk_182 0 154 (dk_at dksX2_most_1 19 rfl rfl)
theorem dX2_most_46 : decode cX2_most 46 = .ok (.ifCond .eq 7, 3) := dk_153 0 7 (dk_at dksX2_most_2 0 rfl rfl)
theorem dX2_most_49 : decode cX2_most 49 = .ok (.iconst 1, 1) := dk_4 (dk_at dksX2_most_2 3 rfl rfl)
theorem dX2_most_50 : decode cX2_most 50 = .ok (.goto 4, 3) := dk_167 0 4 (dk_at dksX2_most_2 4 rfl rfl)
theorem dX2_most_53 : decode cX2_most 53 = .ok (.iconst 0, 1) := dk_3 (dk_at dksX2_most_2 7 rfl rfl)
theorem dX2_most_54 : decode cX2_most 54 = .ok (.iadd, 1) := dk_96 (dk_at dksX2_most_2 8 rfl rfl)
theorem dX2_most_55 : decode cX2_most 55 = .ok (.istore_n 2, 1) := dk_61 (dk_at dksX2_most_2 9 rfl rfl)
theorem dX2_most_56 : decode cX2_most 56 = .ok (.iinc 3 1, 3) := dk_132 3 1 (dk_at dksX2_most_2 10 rfl rfl)
theorem dX2_most_59 : decode cX2_most 59 = .ok (.goto (-32), 3) := dk_167 255 224 (dk_at dksX2_most_2 13 rfl rfl)
theorem dX2_most_62 : decode cX2_most 62 = .ok (.iload_n 2, 1) := dk_28 (dk_at dksX2_most_2 16 rfl rfl)
theorem dX2_most_63 : decode cX2_most 63 = .ok (.ireturn, 1) := dk_172 (dk_at dksX2_most_2 17 rfl rfl)
abbrev cX2_finds : ByteArray := prog_19_method_37_code
def yX2_finds : MethodName := ⟨RX2, "finds", "(I[I[Z)Z"⟩
def dkwX2_finds_2 : List UInt8 := [44, 45, 182, 0, 154, 153, 0, 10, 44, 21, 4, 27, 79, 4, 172, 132, 4, 1, 167, 255, 194, 3, 172]
abbrev dktX2_finds_2 : List UInt8 := dkwX2_finds_2 ++ []
def dkwX2_finds_1 : List UInt8 := [21, 4, 51, 154, 0, 36, 45, 21, 4, 4, 84, 44, 21, 4, 46, 2, 159, 0, 16, 42, 44, 21, 4, 46]
abbrev dktX2_finds_1 : List UInt8 := dkwX2_finds_1 ++ dktX2_finds_2
def dkwX2_finds_0 : List UInt8 := [3, 54, 4, 21, 4, 42, 180, 0, 39, 162, 0, 59, 42, 27, 21, 4, 182, 0, 71, 153, 0, 43, 45]
abbrev dktX2_finds_0 : List UInt8 := dkwX2_finds_0 ++ dktX2_finds_1
theorem dksX2_finds_0 : cX2_finds.data.toList.drop 0 = dktX2_finds_0 := by decide +kernel
theorem dksX2_finds_1 : cX2_finds.data.toList.drop 23 = dktX2_finds_1 := dk_seg dksX2_finds_0 23 rfl rfl
theorem dksX2_finds_2 : cX2_finds.data.toList.drop 47 = dktX2_finds_2 := dk_seg dksX2_finds_1 24 rfl rfl
theorem dX2_finds_0 : decode cX2_finds 0 = .ok (.iconst 0, 1) := dk_3 (dk_at dksX2_finds_0 0 rfl rfl)
theorem dX2_finds_1 : decode cX2_finds 1 = .ok (.istore 4, 2) := dk_54 4 (dk_at dksX2_finds_0 1 rfl rfl)
theorem dX2_finds_3 : decode cX2_finds 3 = .ok (.iload 4, 2) := dk_21 4 (dk_at dksX2_finds_0 3 rfl rfl)
theorem dX2_finds_5 : decode cX2_finds 5 = .ok (.aload_n 0, 1) := dk_42 (dk_at dksX2_finds_0 5 rfl rfl)
theorem dX2_finds_6 : decode cX2_finds 6 = .ok (.getfield 39, 3) := dk_180 0 39 (dk_at dksX2_finds_0 6 rfl rfl)
theorem dX2_finds_9 : decode cX2_finds 9 = .ok (.if_icmp .ge 59, 3) := dk_162 0 59 (dk_at dksX2_finds_0 9 rfl rfl)
theorem dX2_finds_12 : decode cX2_finds 12 = .ok (.aload_n 0, 1) := dk_42 (dk_at dksX2_finds_0 12 rfl rfl)
theorem dX2_finds_13 : decode cX2_finds 13 = .ok (.iload_n 1, 1) := dk_27 (dk_at dksX2_finds_0 13 rfl rfl)
theorem dX2_finds_14 : decode cX2_finds 14 = .ok (.iload 4, 2) := dk_21 4 (dk_at dksX2_finds_0 14 rfl rfl)
theorem dX2_finds_16 : decode cX2_finds 16 = .ok (.invokevirtual 71, 3) := dk_182 0 71 (dk_at dksX2_finds_0 16 rfl rfl)
theorem dX2_finds_19 : decode cX2_finds 19 = .ok (.ifCond .eq 43, 3) := dk_153 0 43 (dk_at dksX2_finds_0 19 rfl rfl)
theorem dX2_finds_22 : decode cX2_finds 22 = .ok (.aload_n 3, 1) := dk_45 (dk_at dksX2_finds_0 22 rfl rfl)
theorem dX2_finds_23 : decode cX2_finds 23 = .ok (.iload 4, 2) := dk_21 4 (dk_at dksX2_finds_1 0 rfl rfl)
theorem dX2_finds_25 : decode cX2_finds 25 = .ok (.baload, 1) := dk_51 (dk_at dksX2_finds_1 2 rfl rfl)
theorem dX2_finds_26 : decode cX2_finds 26 = .ok (.ifCond .ne 36, 3) := dk_154 0 36 (dk_at dksX2_finds_1 3 rfl rfl)
theorem dX2_finds_29 : decode cX2_finds 29 = .ok (.aload_n 3, 1) := dk_45 (dk_at dksX2_finds_1 6 rfl rfl)
theorem dX2_finds_30 : decode cX2_finds 30 = .ok (.iload 4, 2) := dk_21 4 (dk_at dksX2_finds_1 7 rfl rfl)
theorem dX2_finds_32 : decode cX2_finds 32 = .ok (.iconst 1, 1) := dk_4 (dk_at dksX2_finds_1 9 rfl rfl)
theorem dX2_finds_33 : decode cX2_finds 33 = .ok (.bastore, 1) := dk_84 (dk_at dksX2_finds_1 10 rfl rfl)
theorem dX2_finds_34 : decode cX2_finds 34 = .ok (.aload_n 2, 1) := dk_44 (dk_at dksX2_finds_1 11 rfl rfl)
theorem dX2_finds_35 : decode cX2_finds 35 = .ok (.iload 4, 2) := dk_21 4 (dk_at dksX2_finds_1 12 rfl rfl)
theorem dX2_finds_37 : decode cX2_finds 37 = .ok (.iaload, 1) := dk_46 (dk_at dksX2_finds_1 14 rfl rfl)
theorem dX2_finds_38 : decode cX2_finds 38 = .ok (.iconst (-1), 1) := dk_2 (dk_at dksX2_finds_1 15 rfl rfl)
theorem dX2_finds_39 : decode cX2_finds 39 = .ok (.if_icmp .eq 16, 3) := dk_159 0 16 (dk_at dksX2_finds_1 16 rfl rfl)
theorem dX2_finds_42 : decode cX2_finds 42 = .ok (.aload_n 0, 1) := dk_42 (dk_at dksX2_finds_1 19 rfl rfl)
theorem dX2_finds_43 : decode cX2_finds 43 = .ok (.aload_n 2, 1) := dk_44 (dk_at dksX2_finds_1 20 rfl rfl)
theorem dX2_finds_44 : decode cX2_finds 44 = .ok (.iload 4, 2) := dk_21 4 (dk_at dksX2_finds_1 21 rfl rfl)
theorem dX2_finds_46 : decode cX2_finds 46 = .ok (.iaload, 1) := dk_46 (dk_at dksX2_finds_1 23 rfl rfl)
theorem dX2_finds_47 : decode cX2_finds 47 = .ok (.aload_n 2, 1) := dk_44 (dk_at dksX2_finds_2 0 rfl rfl)
theorem dX2_finds_48 : decode cX2_finds 48 = .ok (.aload_n 3, 1) := dk_45 (dk_at dksX2_finds_2 1 rfl rfl)
theorem dX2_finds_49 : decode cX2_finds 49 = .ok (.invokevirtual 154, 3) := dk_182 0 154 (dk_at dksX2_finds_2 2 rfl rfl)
theorem dX2_finds_52 : decode cX2_finds 52 = .ok (.ifCond .eq 10, 3) := dk_153 0 10 (dk_at dksX2_finds_2 5 rfl rfl)
theorem dX2_finds_55 : decode cX2_finds 55 = .ok (.aload_n 2, 1) := dk_44 (dk_at dksX2_finds_2 8 rfl rfl)
theorem dX2_finds_56 : decode cX2_finds 56 = .ok (.iload 4, 2) := dk_21 4 (dk_at dksX2_finds_2 9 rfl rfl)
theorem dX2_finds_58 : decode cX2_finds 58 = .ok (.iload_n 1, 1) := dk_27 (dk_at dksX2_finds_2 11 rfl rfl)
theorem dX2_finds_59 : decode cX2_finds 59 = .ok (.iastore, 1) := dk_79 (dk_at dksX2_finds_2 12 rfl rfl)
theorem dX2_finds_60 : decode cX2_finds 60 = .ok (.iconst 1, 1) := dk_4 (dk_at dksX2_finds_2 13 rfl rfl)
theorem dX2_finds_61 : decode cX2_finds 61 = .ok (.ireturn, 1) := dk_172 (dk_at dksX2_finds_2 14 rfl rfl)
theorem dX2_finds_62 : decode cX2_finds 62 = .ok (.iinc 4 1, 3) := dk_132 4 1 (dk_at dksX2_finds_2 15 rfl rfl)
theorem dX2_finds_65 : decode cX2_finds 65 = .ok (.goto (-62), 3) := dk_167 255 194 (dk_at dksX2_finds_2 18 rfl rfl)
theorem dX2_finds_68 : decode cX2_finds 68 = .ok (.iconst 0, 1) := dk_3 (dk_at dksX2_finds_2 21 rfl rfl)
theorem dX2_finds_69 : decode cX2_finds 69 = .ok (.ireturn, 1) := dk_172 (dk_at dksX2_finds_2 22 rfl rfl)
abbrev cX2_bidsOn : ByteArray := prog_19_method_28_code
def yX2_bidsOn : MethodName := ⟨RX2, "bidsOn", "()I"⟩
def dkwX2_bidsOn_1 : List UInt8 := [167, 255, 235, 27, 172]
abbrev dktX2_bidsOn_1 : List UInt8 := dkwX2_bidsOn_1 ++ []
def dkwX2_bidsOn_0 : List UInt8 := [3, 60, 42, 182, 0, 104, 2, 159, 0, 19, 42, 182, 0, 114, 2, 160, 0, 5, 2, 172, 132, 1, 1]
abbrev dktX2_bidsOn_0 : List UInt8 := dkwX2_bidsOn_0 ++ dktX2_bidsOn_1
theorem dksX2_bidsOn_0 : cX2_bidsOn.data.toList.drop 0 = dktX2_bidsOn_0 := by decide +kernel
theorem dksX2_bidsOn_1 : cX2_bidsOn.data.toList.drop 23 = dktX2_bidsOn_1 := dk_seg dksX2_bidsOn_0 23 rfl rfl
theorem dX2_bidsOn_0 : decode cX2_bidsOn 0 = .ok (.iconst 0, 1) := dk_3 (dk_at dksX2_bidsOn_0 0 rfl rfl)
theorem dX2_bidsOn_1 : decode cX2_bidsOn 1 = .ok (.istore_n 1, 1) := dk_60 (dk_at dksX2_bidsOn_0 1 rfl rfl)
theorem dX2_bidsOn_2 : decode cX2_bidsOn 2 = .ok (.aload_n 0, 1) := dk_42 (dk_at dksX2_bidsOn_0 2 rfl rfl)
theorem dX2_bidsOn_3 : decode cX2_bidsOn 3 = .ok (.invokevirtual 104, 3) := dk_182 0 104 (dk_at dksX2_bidsOn_0 3 rfl rfl)
theorem dX2_bidsOn_6 : decode cX2_bidsOn 6 = .ok (.iconst (-1), 1) := dk_2 (dk_at dksX2_bidsOn_0 6 rfl rfl)
theorem dX2_bidsOn_7 : decode cX2_bidsOn 7 = .ok (.if_icmp .eq 19, 3) := dk_159 0 19 (dk_at dksX2_bidsOn_0 7 rfl rfl)
theorem dX2_bidsOn_10 : decode cX2_bidsOn 10 = .ok (.aload_n 0, 1) := dk_42 (dk_at dksX2_bidsOn_0 10 rfl rfl)
theorem dX2_bidsOn_11 : decode cX2_bidsOn 11 = .ok (.invokevirtual 114, 3) := dk_182 0 114 (dk_at dksX2_bidsOn_0 11 rfl rfl)
theorem dX2_bidsOn_14 : decode cX2_bidsOn 14 = .ok (.iconst (-1), 1) := dk_2 (dk_at dksX2_bidsOn_0 14 rfl rfl)
theorem dX2_bidsOn_15 : decode cX2_bidsOn 15 = .ok (.if_icmp .ne 5, 3) := dk_160 0 5 (dk_at dksX2_bidsOn_0 15 rfl rfl)
theorem dX2_bidsOn_18 : decode cX2_bidsOn 18 = .ok (.iconst (-1), 1) := dk_2 (dk_at dksX2_bidsOn_0 18 rfl rfl)
theorem dX2_bidsOn_19 : decode cX2_bidsOn 19 = .ok (.ireturn, 1) := dk_172 (dk_at dksX2_bidsOn_0 19 rfl rfl)
theorem dX2_bidsOn_20 : decode cX2_bidsOn 20 = .ok (.iinc 1 1, 3) := dk_132 1 1 (dk_at dksX2_bidsOn_0 20 rfl rfl)
theorem dX2_bidsOn_23 : decode cX2_bidsOn 23 = .ok (.goto (-21), 3) := dk_167 255 235 (dk_at dksX2_bidsOn_1 0 rfl rfl)
theorem dX2_bidsOn_26 : decode cX2_bidsOn 26 = .ok (.iload_n 1, 1) := dk_27 (dk_at dksX2_bidsOn_1 3 rfl rfl)
theorem dX2_bidsOn_27 : decode cX2_bidsOn 27 = .ok (.ireturn, 1) := dk_172 (dk_at dksX2_bidsOn_1 4 rfl rfl)
abbrev cX2_goesBy : ByteArray := prog_19_method_31_code
def yX2_goesBy : MethodName := ⟨RX2, "goesBy", "()I"⟩
def dkwX2_goesBy_4 : List UInt8 := [132, 2, 1, 167, 255, 235, 42, 89, 180, 0, 45, 4, 96, 181, 0, 45, 27, 172]
abbrev dktX2_goesBy_4 : List UInt8 := dkwX2_goesBy_4 ++ []
def dkwX2_goesBy_3 : List UInt8 := [167, 255, 192, 3, 61, 28, 42, 180, 0, 39, 162, 0, 19, 42, 180, 0, 19, 28, 92, 46, 5, 108, 79]
abbrev dktX2_goesBy_3 : List UInt8 := dkwX2_goesBy_3 ++ dktX2_goesBy_4
def dkwX2_goesBy_2 : List UInt8 := [180, 0, 11, 28, 50, 29, 46, 4, 100, 184, 0, 126, 79, 42, 180, 0, 26, 28, 2, 79, 132, 2, 1]
abbrev dktX2_goesBy_2 : List UInt8 := dkwX2_goesBy_2 ++ dktX2_goesBy_3
def dkwX2_goesBy_1 : List UInt8 := [159, 0, 44, 42, 180, 0, 16, 28, 50, 29, 92, 46, 4, 96, 79, 42, 180, 0, 11, 28, 50, 29, 3, 42]
abbrev dktX2_goesBy_1 : List UInt8 := dkwX2_goesBy_1 ++ dktX2_goesBy_2
def dkwX2_goesBy_0 : List UInt8 := [42, 182, 0, 123, 60, 3, 61, 28, 42, 180, 0, 35, 162, 0, 62, 42, 180, 0, 26, 28, 46, 62, 29, 2]
abbrev dktX2_goesBy_0 : List UInt8 := dkwX2_goesBy_0 ++ dktX2_goesBy_1
theorem dksX2_goesBy_0 : cX2_goesBy.data.toList.drop 0 = dktX2_goesBy_0 := by decide +kernel
theorem dksX2_goesBy_1 : cX2_goesBy.data.toList.drop 24 = dktX2_goesBy_1 := dk_seg dksX2_goesBy_0 24 rfl rfl
theorem dksX2_goesBy_2 : cX2_goesBy.data.toList.drop 48 = dktX2_goesBy_2 := dk_seg dksX2_goesBy_1 24 rfl rfl
theorem dksX2_goesBy_3 : cX2_goesBy.data.toList.drop 71 = dktX2_goesBy_3 := dk_seg dksX2_goesBy_2 23 rfl rfl
theorem dksX2_goesBy_4 : cX2_goesBy.data.toList.drop 94 = dktX2_goesBy_4 := dk_seg dksX2_goesBy_3 23 rfl rfl
theorem dX2_goesBy_0 : decode cX2_goesBy 0 = .ok (.aload_n 0, 1) := dk_42 (dk_at dksX2_goesBy_0 0 rfl rfl)
theorem dX2_goesBy_1 : decode cX2_goesBy 1 = .ok (.invokevirtual 123, 3) := dk_182 0 123 (dk_at dksX2_goesBy_0 1 rfl rfl)
theorem dX2_goesBy_4 : decode cX2_goesBy 4 = .ok (.istore_n 1, 1) := dk_60 (dk_at dksX2_goesBy_0 4 rfl rfl)
theorem dX2_goesBy_5 : decode cX2_goesBy 5 = .ok (.iconst 0, 1) := dk_3 (dk_at dksX2_goesBy_0 5 rfl rfl)
theorem dX2_goesBy_6 : decode cX2_goesBy 6 = .ok (.istore_n 2, 1) := dk_61 (dk_at dksX2_goesBy_0 6 rfl rfl)
theorem dX2_goesBy_7 : decode cX2_goesBy 7 = .ok (.iload_n 2, 1) := dk_28 (dk_at dksX2_goesBy_0 7 rfl rfl)
theorem dX2_goesBy_8 : decode cX2_goesBy 8 = .ok (.aload_n 0, 1) := dk_42 (dk_at dksX2_goesBy_0 8 rfl rfl)
theorem dX2_goesBy_9 : decode cX2_goesBy 9 = .ok (.getfield 35, 3) := dk_180 0 35 (dk_at dksX2_goesBy_0 9 rfl rfl)
theorem dX2_goesBy_12 : decode cX2_goesBy 12 = .ok (.if_icmp .ge 62, 3) := dk_162 0 62 (dk_at dksX2_goesBy_0 12 rfl rfl)
theorem dX2_goesBy_15 : decode cX2_goesBy 15 = .ok (.aload_n 0, 1) := dk_42 (dk_at dksX2_goesBy_0 15 rfl rfl)
theorem dX2_goesBy_16 : decode cX2_goesBy 16 = .ok (.getfield 26, 3) := dk_180 0 26 (dk_at dksX2_goesBy_0 16 rfl rfl)
theorem dX2_goesBy_19 : decode cX2_goesBy 19 = .ok (.iload_n 2, 1) := dk_28 (dk_at dksX2_goesBy_0 19 rfl rfl)
theorem dX2_goesBy_20 : decode cX2_goesBy 20 = .ok (.iaload, 1) := dk_46 (dk_at dksX2_goesBy_0 20 rfl rfl)
theorem dX2_goesBy_21 : decode cX2_goesBy 21 = .ok (.istore_n 3, 1) := dk_62 (dk_at dksX2_goesBy_0 21 rfl rfl)
theorem dX2_goesBy_22 : decode cX2_goesBy 22 = .ok (.iload_n 3, 1) := dk_29 (dk_at dksX2_goesBy_0 22 rfl rfl)
theorem dX2_goesBy_23 : decode cX2_goesBy 23 = .ok (.iconst (-1), 1) := dk_2 (dk_at dksX2_goesBy_0 23 rfl rfl)
theorem dX2_goesBy_24 : decode cX2_goesBy 24 = .ok (.if_icmp .eq 44, 3) := dk_159 0 44 (dk_at dksX2_goesBy_1 0 rfl rfl)
theorem dX2_goesBy_27 : decode cX2_goesBy 27 = .ok (.aload_n 0, 1) := dk_42 (dk_at dksX2_goesBy_1 3 rfl rfl)
theorem dX2_goesBy_28 : decode cX2_goesBy 28 = .ok (.getfield 16, 3) := dk_180 0 16 (dk_at dksX2_goesBy_1 4 rfl rfl)
theorem dX2_goesBy_31 : decode cX2_goesBy 31 = .ok (.iload_n 2, 1) := dk_28 (dk_at dksX2_goesBy_1 7 rfl rfl)
theorem dX2_goesBy_32 : decode cX2_goesBy 32 = .ok (.aaload, 1) := dk_50 (dk_at dksX2_goesBy_1 8 rfl rfl)
theorem dX2_goesBy_33 : decode cX2_goesBy 33 = .ok (.iload_n 3, 1) := dk_29 (dk_at dksX2_goesBy_1 9 rfl rfl)
theorem dX2_goesBy_34 : decode cX2_goesBy 34 = .ok (.dup2, 1) := dk_92 (dk_at dksX2_goesBy_1 10 rfl rfl)
theorem dX2_goesBy_35 : decode cX2_goesBy 35 = .ok (.iaload, 1) := dk_46 (dk_at dksX2_goesBy_1 11 rfl rfl)
theorem dX2_goesBy_36 : decode cX2_goesBy 36 = .ok (.iconst 1, 1) := dk_4 (dk_at dksX2_goesBy_1 12 rfl rfl)
theorem dX2_goesBy_37 : decode cX2_goesBy 37 = .ok (.iadd, 1) := dk_96 (dk_at dksX2_goesBy_1 13 rfl rfl)
theorem dX2_goesBy_38 : decode cX2_goesBy 38 = .ok (.iastore, 1) := dk_79 (dk_at dksX2_goesBy_1 14 rfl rfl)
theorem dX2_goesBy_39 : decode cX2_goesBy 39 = .ok (.aload_n 0, 1) := dk_42 (dk_at dksX2_goesBy_1 15 rfl rfl)
theorem dX2_goesBy_40 : decode cX2_goesBy 40 = .ok (.getfield 11, 3) := dk_180 0 11 (dk_at dksX2_goesBy_1 16 rfl rfl)
theorem dX2_goesBy_43 : decode cX2_goesBy 43 = .ok (.iload_n 2, 1) := dk_28 (dk_at dksX2_goesBy_1 19 rfl rfl)
theorem dX2_goesBy_44 : decode cX2_goesBy 44 = .ok (.aaload, 1) := dk_50 (dk_at dksX2_goesBy_1 20 rfl rfl)
theorem dX2_goesBy_45 : decode cX2_goesBy 45 = .ok (.iload_n 3, 1) := dk_29 (dk_at dksX2_goesBy_1 21 rfl rfl)
theorem dX2_goesBy_46 : decode cX2_goesBy 46 = .ok (.iconst 0, 1) := dk_3 (dk_at dksX2_goesBy_1 22 rfl rfl)
theorem dX2_goesBy_47 : decode cX2_goesBy 47 = .ok (.aload_n 0, 1) := dk_42 (dk_at dksX2_goesBy_1 23 rfl rfl)
theorem dX2_goesBy_48 : decode cX2_goesBy 48 = .ok (.getfield 11, 3) := dk_180 0 11 (dk_at dksX2_goesBy_2 0 rfl rfl)
theorem dX2_goesBy_51 : decode cX2_goesBy 51 = .ok (.iload_n 2, 1) := dk_28 (dk_at dksX2_goesBy_2 3 rfl rfl)
theorem dX2_goesBy_52 : decode cX2_goesBy 52 = .ok (.aaload, 1) := dk_50 (dk_at dksX2_goesBy_2 4 rfl rfl)
theorem dX2_goesBy_53 : decode cX2_goesBy 53 = .ok (.iload_n 3, 1) := dk_29 (dk_at dksX2_goesBy_2 5 rfl rfl)
theorem dX2_goesBy_54 : decode cX2_goesBy 54 = .ok (.iaload, 1) := dk_46 (dk_at dksX2_goesBy_2 6 rfl rfl)
theorem dX2_goesBy_55 : decode cX2_goesBy 55 = .ok (.iconst 1, 1) := dk_4 (dk_at dksX2_goesBy_2 7 rfl rfl)
theorem dX2_goesBy_56 : decode cX2_goesBy 56 = .ok (.isub, 1) := dk_100 (dk_at dksX2_goesBy_2 8 rfl rfl)
theorem dX2_goesBy_57 : decode cX2_goesBy 57 = .ok (.invokestatic 126, 3) := dk_184 0 126 (dk_at dksX2_goesBy_2 9 rfl rfl)
theorem dX2_goesBy_60 : decode cX2_goesBy 60 = .ok (.iastore, 1) := dk_79 (dk_at dksX2_goesBy_2 12 rfl rfl)
theorem dX2_goesBy_61 : decode cX2_goesBy 61 = .ok (.aload_n 0, 1) := dk_42 (dk_at dksX2_goesBy_2 13 rfl rfl)
theorem dX2_goesBy_62 : decode cX2_goesBy 62 = .ok (.getfield 26, 3) := dk_180 0 26 (dk_at dksX2_goesBy_2 14 rfl rfl)
theorem dX2_goesBy_65 : decode cX2_goesBy 65 = .ok (.iload_n 2, 1) := dk_28 (dk_at dksX2_goesBy_2 17 rfl rfl)
theorem dX2_goesBy_66 : decode cX2_goesBy 66 = .ok (.iconst (-1), 1) := dk_2 (dk_at dksX2_goesBy_2 18 rfl rfl)
theorem dX2_goesBy_67 : decode cX2_goesBy 67 = .ok (.iastore, 1) := dk_79 (dk_at dksX2_goesBy_2 19 rfl rfl)
theorem dX2_goesBy_68 : decode cX2_goesBy 68 = .ok (.iinc 2 1, 3) := dk_132 2 1 (dk_at dksX2_goesBy_2 20 rfl rfl)
theorem dX2_goesBy_71 : decode cX2_goesBy 71 = .ok (.goto (-64), 3) := dk_167 255 192 (dk_at dksX2_goesBy_3 0 rfl rfl)
theorem dX2_goesBy_74 : decode cX2_goesBy 74 = .ok (.iconst 0, 1) := dk_3 (dk_at dksX2_goesBy_3 3 rfl rfl)
theorem dX2_goesBy_75 : decode cX2_goesBy 75 = .ok (.istore_n 2, 1) := dk_61 (dk_at dksX2_goesBy_3 4 rfl rfl)
theorem dX2_goesBy_76 : decode cX2_goesBy 76 = .ok (.iload_n 2, 1) := dk_28 (dk_at dksX2_goesBy_3 5 rfl rfl)
theorem dX2_goesBy_77 : decode cX2_goesBy 77 = .ok (.aload_n 0, 1) := dk_42 (dk_at dksX2_goesBy_3 6 rfl rfl)
theorem dX2_goesBy_78 : decode cX2_goesBy 78 = .ok (.getfield 39, 3) := dk_180 0 39 (dk_at dksX2_goesBy_3 7 rfl rfl)
theorem dX2_goesBy_81 : decode cX2_goesBy 81 = .ok (.if_icmp .ge 19, 3) := dk_162 0 19 (dk_at dksX2_goesBy_3 10 rfl rfl)
theorem dX2_goesBy_84 : decode cX2_goesBy 84 = .ok (.aload_n 0, 1) := dk_42 (dk_at dksX2_goesBy_3 13 rfl rfl)
theorem dX2_goesBy_85 : decode cX2_goesBy 85 = .ok (.getfield 19, 3) := dk_180 0 19 (dk_at dksX2_goesBy_3 14 rfl rfl)
theorem dX2_goesBy_88 : decode cX2_goesBy 88 = .ok (.iload_n 2, 1) := dk_28 (dk_at dksX2_goesBy_3 17 rfl rfl)
theorem dX2_goesBy_89 : decode cX2_goesBy 89 = .ok (.dup2, 1) := dk_92 (dk_at dksX2_goesBy_3 18 rfl rfl)
theorem dX2_goesBy_90 : decode cX2_goesBy 90 = .ok (.iaload, 1) := dk_46 (dk_at dksX2_goesBy_3 19 rfl rfl)
theorem dX2_goesBy_91 : decode cX2_goesBy 91 = .ok (.iconst 2, 1) := dk_5 (dk_at dksX2_goesBy_3 20 rfl rfl)
theorem dX2_goesBy_92 : decode cX2_goesBy 92 = .ok (.idiv, 1) := dk_108 (dk_at dksX2_goesBy_3 21 rfl rfl)
theorem dX2_goesBy_93 : decode cX2_goesBy 93 = .ok (.iastore, 1) := dk_79 (dk_at dksX2_goesBy_3 22 rfl rfl)
theorem dX2_goesBy_94 : decode cX2_goesBy 94 = .ok (.iinc 2 1, 3) := dk_132 2 1 (dk_at dksX2_goesBy_4 0 rfl rfl)
theorem dX2_goesBy_97 : decode cX2_goesBy 97 = .ok (.goto (-21), 3) := dk_167 255 235 (dk_at dksX2_goesBy_4 3 rfl rfl)
theorem dX2_goesBy_100 : decode cX2_goesBy 100 = .ok (.aload_n 0, 1) := dk_42 (dk_at dksX2_goesBy_4 6 rfl rfl)
theorem dX2_goesBy_101 : decode cX2_goesBy 101 = .ok (.dup, 1) := dk_89 (dk_at dksX2_goesBy_4 7 rfl rfl)
theorem dX2_goesBy_102 : decode cX2_goesBy 102 = .ok (.getfield 45, 3) := dk_180 0 45 (dk_at dksX2_goesBy_4 8 rfl rfl)
theorem dX2_goesBy_105 : decode cX2_goesBy 105 = .ok (.iconst 1, 1) := dk_4 (dk_at dksX2_goesBy_4 11 rfl rfl)
theorem dX2_goesBy_106 : decode cX2_goesBy 106 = .ok (.iadd, 1) := dk_96 (dk_at dksX2_goesBy_4 12 rfl rfl)
theorem dX2_goesBy_107 : decode cX2_goesBy 107 = .ok (.putfield 45, 3) := dk_181 0 45 (dk_at dksX2_goesBy_4 13 rfl rfl)
theorem dX2_goesBy_110 : decode cX2_goesBy 110 = .ok (.iload_n 1, 1) := dk_27 (dk_at dksX2_goesBy_4 16 rfl rfl)
theorem dX2_goesBy_111 : decode cX2_goesBy 111 = .ok (.ireturn, 1) := dk_172 (dk_at dksX2_goesBy_4 17 rfl rfl)
abbrev cX2_costOfPairs : ByteArray := prog_19_method_8_code
def yX2_costOfPairs : MethodName := ⟨RX2, "costOfPairs", "()I"⟩
def dkwX2_costOfPairs_0 : List UInt8 := [42, 42, 186, 0, 64, 0, 0, 182, 0, 60, 172]
abbrev dktX2_costOfPairs_0 : List UInt8 := dkwX2_costOfPairs_0 ++ []
theorem dksX2_costOfPairs_0 : cX2_costOfPairs.data.toList.drop 0 = dktX2_costOfPairs_0 := by decide +kernel
theorem dX2_costOfPairs_0 : decode cX2_costOfPairs 0 = .ok (.aload_n 0, 1) := dk_42 (dk_at dksX2_costOfPairs_0 0 rfl rfl)
theorem dX2_costOfPairs_1 : decode cX2_costOfPairs 1 = .ok (.aload_n 0, 1) := dk_42 (dk_at dksX2_costOfPairs_0 1 rfl rfl)
theorem dX2_costOfPairs_2 : decode cX2_costOfPairs 2 = .ok (.invokedynamic 64, 5) := by decide +kernel
theorem dX2_costOfPairs_7 : decode cX2_costOfPairs 7 = .ok (.invokevirtual 60, 3) := dk_182 0 60 (dk_at dksX2_costOfPairs_0 7 rfl rfl)
theorem dX2_costOfPairs_10 : decode cX2_costOfPairs 10 = .ok (.ireturn, 1) := dk_172 (dk_at dksX2_costOfPairs_0 10 rfl rfl)
abbrev cX2_lambda_costOfPairs_1 : ByteArray := prog_19_method_46_code
def yX2_lambda_costOfPairs_1 : MethodName := ⟨RX2, "lambda$costOfPairs$1", "(II)I"⟩
def dkwX2_lambda_costOfPairs_1_0 : List UInt8 := [42, 180, 0, 26, 27, 46, 28, 160, 0, 14, 42, 180, 0, 11, 27, 50, 28, 46, 167, 0, 4, 3, 172]
abbrev dktX2_lambda_costOfPairs_1_0 : List UInt8 := dkwX2_lambda_costOfPairs_1_0 ++ []
theorem dksX2_lambda_costOfPairs_1_0 : cX2_lambda_costOfPairs_1.data.toList.drop 0 = dktX2_lambda_costOfPairs_1_0 := by decide +kernel
theorem dX2_lambda_costOfPairs_1_0 : decode cX2_lambda_costOfPairs_1 0 = .ok (.aload_n 0, 1) := dk_42 (dk_at dksX2_lambda_costOfPairs_1_0 0 rfl rfl)
theorem dX2_lambda_costOfPairs_1_1 : decode cX2_lambda_costOfPairs_1 1 = .ok (.getfield 26, 3) := dk_180 0 26 (dk_at dksX2_lambda_costOfPairs_1_0 1 rfl rfl)
theorem dX2_lambda_costOfPairs_1_4 : decode cX2_lambda_costOfPairs_1 4 = .ok (.iload_n 1, 1) := dk_27 (dk_at dksX2_lambda_costOfPairs_1_0 4 rfl rfl)
theorem dX2_lambda_costOfPairs_1_5 : decode cX2_lambda_costOfPairs_1 5 = .ok (.iaload, 1) := dk_46 (dk_at dksX2_lambda_costOfPairs_1_0 5 rfl rfl)
theorem dX2_lambda_costOfPairs_1_6 : decode cX2_lambda_costOfPairs_1 6 = .ok (.iload_n 2, 1) := dk_28 (dk_at dksX2_lambda_costOfPairs_1_0 6 rfl rfl)
theorem dX2_lambda_costOfPairs_1_7 : decode cX2_lambda_costOfPairs_1 7 = .ok (.if_icmp .ne 14, 3) := dk_160 0 14 (dk_at dksX2_lambda_costOfPairs_1_0 7 rfl rfl)
theorem dX2_lambda_costOfPairs_1_10 : decode cX2_lambda_costOfPairs_1 10 = .ok (.aload_n 0, 1) := dk_42 (dk_at dksX2_lambda_costOfPairs_1_0 10 rfl rfl)
theorem dX2_lambda_costOfPairs_1_11 : decode cX2_lambda_costOfPairs_1 11 = .ok (.getfield 11, 3) := dk_180 0 11 (dk_at dksX2_lambda_costOfPairs_1_0 11 rfl rfl)
theorem dX2_lambda_costOfPairs_1_14 : decode cX2_lambda_costOfPairs_1 14 = .ok (.iload_n 1, 1) := dk_27 (dk_at dksX2_lambda_costOfPairs_1_0 14 rfl rfl)
theorem dX2_lambda_costOfPairs_1_15 : decode cX2_lambda_costOfPairs_1 15 = .ok (.aaload, 1) := dk_50 (dk_at dksX2_lambda_costOfPairs_1_0 15 rfl rfl)
theorem dX2_lambda_costOfPairs_1_16 : decode cX2_lambda_costOfPairs_1 16 = .ok (.iload_n 2, 1) := dk_28 (dk_at dksX2_lambda_costOfPairs_1_0 16 rfl rfl)
theorem dX2_lambda_costOfPairs_1_17 : decode cX2_lambda_costOfPairs_1 17 = .ok (.iaload, 1) := dk_46 (dk_at dksX2_lambda_costOfPairs_1_0 17 rfl rfl)
theorem dX2_lambda_costOfPairs_1_18 : decode cX2_lambda_costOfPairs_1 18 = .ok (.goto 4, 3) := dk_167 0 4 (dk_at dksX2_lambda_costOfPairs_1_0 18 rfl rfl)
theorem dX2_lambda_costOfPairs_1_21 : decode cX2_lambda_costOfPairs_1 21 = .ok (.iconst 0, 1) := dk_3 (dk_at dksX2_lambda_costOfPairs_1_0 21 rfl rfl)
theorem dX2_lambda_costOfPairs_1_22 : decode cX2_lambda_costOfPairs_1 22 = .ok (.ireturn, 1) := dk_172 (dk_at dksX2_lambda_costOfPairs_1_0 22 rfl rfl)
abbrev cX2_sum : ByteArray := prog_19_method_6_code
def yX2_sum : MethodName := ⟨RX2, "sum", "(LMasterPrices$OfPair;)I"⟩
def dkwX2_sum_2 : List UInt8 := [28, 172]
abbrev dktX2_sum_2 : List UInt8 := dkwX2_sum_2 ++ []
def dkwX2_sum_1 : List UInt8 := [28, 43, 29, 21, 4, 185, 0, 51, 3, 0, 96, 61, 132, 4, 1, 167, 255, 232, 132, 3, 1, 167, 255, 215]
abbrev dktX2_sum_1 : List UInt8 := dkwX2_sum_1 ++ dktX2_sum_2
def dkwX2_sum_0 : List UInt8 := [3, 61, 3, 62, 29, 42, 180, 0, 35, 162, 0, 39, 3, 54, 4, 21, 4, 42, 180, 0, 39, 162, 0, 21]
abbrev dktX2_sum_0 : List UInt8 := dkwX2_sum_0 ++ dktX2_sum_1
theorem dksX2_sum_0 : cX2_sum.data.toList.drop 0 = dktX2_sum_0 := by decide +kernel
theorem dksX2_sum_1 : cX2_sum.data.toList.drop 24 = dktX2_sum_1 := dk_seg dksX2_sum_0 24 rfl rfl
theorem dksX2_sum_2 : cX2_sum.data.toList.drop 48 = dktX2_sum_2 := dk_seg dksX2_sum_1 24 rfl rfl
theorem dX2_sum_0 : decode cX2_sum 0 = .ok (.iconst 0, 1) := dk_3 (dk_at dksX2_sum_0 0 rfl rfl)
theorem dX2_sum_1 : decode cX2_sum 1 = .ok (.istore_n 2, 1) := dk_61 (dk_at dksX2_sum_0 1 rfl rfl)
theorem dX2_sum_2 : decode cX2_sum 2 = .ok (.iconst 0, 1) := dk_3 (dk_at dksX2_sum_0 2 rfl rfl)
theorem dX2_sum_3 : decode cX2_sum 3 = .ok (.istore_n 3, 1) := dk_62 (dk_at dksX2_sum_0 3 rfl rfl)
theorem dX2_sum_4 : decode cX2_sum 4 = .ok (.iload_n 3, 1) := dk_29 (dk_at dksX2_sum_0 4 rfl rfl)
theorem dX2_sum_5 : decode cX2_sum 5 = .ok (.aload_n 0, 1) := dk_42 (dk_at dksX2_sum_0 5 rfl rfl)
theorem dX2_sum_6 : decode cX2_sum 6 = .ok (.getfield 35, 3) := dk_180 0 35 (dk_at dksX2_sum_0 6 rfl rfl)
theorem dX2_sum_9 : decode cX2_sum 9 = .ok (.if_icmp .ge 39, 3) := dk_162 0 39 (dk_at dksX2_sum_0 9 rfl rfl)
theorem dX2_sum_12 : decode cX2_sum 12 = .ok (.iconst 0, 1) := dk_3 (dk_at dksX2_sum_0 12 rfl rfl)
theorem dX2_sum_13 : decode cX2_sum 13 = .ok (.istore 4, 2) := dk_54 4 (dk_at dksX2_sum_0 13 rfl rfl)
theorem dX2_sum_15 : decode cX2_sum 15 = .ok (.iload 4, 2) := dk_21 4 (dk_at dksX2_sum_0 15 rfl rfl)
theorem dX2_sum_17 : decode cX2_sum 17 = .ok (.aload_n 0, 1) := dk_42 (dk_at dksX2_sum_0 17 rfl rfl)
theorem dX2_sum_18 : decode cX2_sum 18 = .ok (.getfield 39, 3) := dk_180 0 39 (dk_at dksX2_sum_0 18 rfl rfl)
theorem dX2_sum_21 : decode cX2_sum 21 = .ok (.if_icmp .ge 21, 3) := dk_162 0 21 (dk_at dksX2_sum_0 21 rfl rfl)
theorem dX2_sum_24 : decode cX2_sum 24 = .ok (.iload_n 2, 1) := dk_28 (dk_at dksX2_sum_1 0 rfl rfl)
theorem dX2_sum_25 : decode cX2_sum 25 = .ok (.aload_n 1, 1) := dk_43 (dk_at dksX2_sum_1 1 rfl rfl)
theorem dX2_sum_26 : decode cX2_sum 26 = .ok (.iload_n 3, 1) := dk_29 (dk_at dksX2_sum_1 2 rfl rfl)
theorem dX2_sum_27 : decode cX2_sum 27 = .ok (.iload 4, 2) := dk_21 4 (dk_at dksX2_sum_1 3 rfl rfl)
theorem dX2_sum_29 : decode cX2_sum 29 = .ok (.invokeinterface 51 3, 5) := by decide +kernel
theorem dX2_sum_34 : decode cX2_sum 34 = .ok (.iadd, 1) := dk_96 (dk_at dksX2_sum_1 10 rfl rfl)
theorem dX2_sum_35 : decode cX2_sum 35 = .ok (.istore_n 2, 1) := dk_61 (dk_at dksX2_sum_1 11 rfl rfl)
theorem dX2_sum_36 : decode cX2_sum 36 = .ok (.iinc 4 1, 3) := dk_132 4 1 (dk_at dksX2_sum_1 12 rfl rfl)
theorem dX2_sum_39 : decode cX2_sum 39 = .ok (.goto (-24), 3) := dk_167 255 232 (dk_at dksX2_sum_1 15 rfl rfl)
theorem dX2_sum_42 : decode cX2_sum 42 = .ok (.iinc 3 1, 3) := dk_132 3 1 (dk_at dksX2_sum_1 18 rfl rfl)
theorem dX2_sum_45 : decode cX2_sum 45 = .ok (.goto (-41), 3) := dk_167 255 215 (dk_at dksX2_sum_1 21 rfl rfl)
theorem dX2_sum_48 : decode cX2_sum 48 = .ok (.iload_n 2, 1) := dk_28 (dk_at dksX2_sum_2 0 rfl rfl)
theorem dX2_sum_49 : decode cX2_sum 49 = .ok (.ireturn, 1) := dk_172 (dk_at dksX2_sum_2 1 rfl rfl)
abbrev cX2_isBalanced : ByteArray := prog_19_method_39_code
def yX2_isBalanced : MethodName := ⟨RX2, "isBalanced", "()Z"⟩
def dkwX2_isBalanced_4 : List UInt8 := [132, 3, 1, 167, 255, 187, 28, 172]
abbrev dktX2_isBalanced_4 : List UInt8 := dkwX2_isBalanced_4 ++ []
def dkwX2_isBalanced_3 : List UInt8 := [167, 0, 4, 3, 126, 61, 27, 21, 4, 2, 160, 0, 7, 3, 167, 0, 7, 4, 21, 4, 120, 128, 60]
abbrev dktX2_isBalanced_3 : List UInt8 := dkwX2_isBalanced_3 ++ dktX2_isBalanced_4
def dkwX2_isBalanced_2 : List UInt8 := [159, 0, 22, 27, 21, 4, 122, 4, 126, 154, 0, 17, 42, 29, 21, 4, 182, 0, 71, 153, 0, 7, 4]
abbrev dktX2_isBalanced_2 : List UInt8 := dkwX2_isBalanced_2 ++ dktX2_isBalanced_3
def dkwX2_isBalanced_1 : List UInt8 := [3, 61, 3, 62, 29, 42, 180, 0, 35, 162, 0, 67, 42, 180, 0, 26, 29, 46, 54, 4, 28, 21, 4, 2]
abbrev dktX2_isBalanced_1 : List UInt8 := dkwX2_isBalanced_1 ++ dktX2_isBalanced_2
def dkwX2_isBalanced_0 : List UInt8 := [3, 60, 42, 182, 0, 164, 187, 0, 167, 89, 42, 183, 0, 169, 180, 0, 170, 160, 0, 7, 4, 167, 0, 4]
abbrev dktX2_isBalanced_0 : List UInt8 := dkwX2_isBalanced_0 ++ dktX2_isBalanced_1
theorem dksX2_isBalanced_0 : cX2_isBalanced.data.toList.drop 0 = dktX2_isBalanced_0 := by decide +kernel
theorem dksX2_isBalanced_1 : cX2_isBalanced.data.toList.drop 24 = dktX2_isBalanced_1 := dk_seg dksX2_isBalanced_0 24 rfl rfl
theorem dksX2_isBalanced_2 : cX2_isBalanced.data.toList.drop 48 = dktX2_isBalanced_2 := dk_seg dksX2_isBalanced_1 24 rfl rfl
theorem dksX2_isBalanced_3 : cX2_isBalanced.data.toList.drop 71 = dktX2_isBalanced_3 := dk_seg dksX2_isBalanced_2 23 rfl rfl
theorem dksX2_isBalanced_4 : cX2_isBalanced.data.toList.drop 94 = dktX2_isBalanced_4 := dk_seg dksX2_isBalanced_3 23 rfl rfl
theorem dX2_isBalanced_0 : decode cX2_isBalanced 0 = .ok (.iconst 0, 1) := dk_3 (dk_at dksX2_isBalanced_0 0 rfl rfl)
theorem dX2_isBalanced_1 : decode cX2_isBalanced 1 = .ok (.istore_n 1, 1) := dk_60 (dk_at dksX2_isBalanced_0 1 rfl rfl)
theorem dX2_isBalanced_2 : decode cX2_isBalanced 2 = .ok (.aload_n 0, 1) := dk_42 (dk_at dksX2_isBalanced_0 2 rfl rfl)
theorem dX2_isBalanced_3 : decode cX2_isBalanced 3 = .ok (.invokevirtual 164, 3) := dk_182 0 164 (dk_at dksX2_isBalanced_0 3 rfl rfl)
theorem dX2_isBalanced_6 : decode cX2_isBalanced 6 = .ok (.new 167, 3) := dk_187 0 167 (dk_at dksX2_isBalanced_0 6 rfl rfl)
theorem dX2_isBalanced_9 : decode cX2_isBalanced 9 = .ok (.dup, 1) := dk_89 (dk_at dksX2_isBalanced_0 9 rfl rfl)
theorem dX2_isBalanced_10 : decode cX2_isBalanced 10 = .ok (.aload_n 0, 1) := dk_42 (dk_at dksX2_isBalanced_0 10 rfl rfl)
theorem dX2_isBalanced_11 : decode cX2_isBalanced 11 = .ok (.invokespecial 169, 3) := dk_183 0 169 (dk_at dksX2_isBalanced_0 11 rfl rfl)
theorem dX2_isBalanced_14 : decode cX2_isBalanced 14 = .ok (.getfield 170, 3) := dk_180 0 170 (dk_at dksX2_isBalanced_0 14 rfl rfl)
theorem dX2_isBalanced_17 : decode cX2_isBalanced 17 = .ok (.if_icmp .ne 7, 3) := dk_160 0 7 (dk_at dksX2_isBalanced_0 17 rfl rfl)
theorem dX2_isBalanced_20 : decode cX2_isBalanced 20 = .ok (.iconst 1, 1) := dk_4 (dk_at dksX2_isBalanced_0 20 rfl rfl)
theorem dX2_isBalanced_21 : decode cX2_isBalanced 21 = .ok (.goto 4, 3) := dk_167 0 4 (dk_at dksX2_isBalanced_0 21 rfl rfl)
theorem dX2_isBalanced_24 : decode cX2_isBalanced 24 = .ok (.iconst 0, 1) := dk_3 (dk_at dksX2_isBalanced_1 0 rfl rfl)
theorem dX2_isBalanced_25 : decode cX2_isBalanced 25 = .ok (.istore_n 2, 1) := dk_61 (dk_at dksX2_isBalanced_1 1 rfl rfl)
theorem dX2_isBalanced_26 : decode cX2_isBalanced 26 = .ok (.iconst 0, 1) := dk_3 (dk_at dksX2_isBalanced_1 2 rfl rfl)
theorem dX2_isBalanced_27 : decode cX2_isBalanced 27 = .ok (.istore_n 3, 1) := dk_62 (dk_at dksX2_isBalanced_1 3 rfl rfl)
theorem dX2_isBalanced_28 : decode cX2_isBalanced 28 = .ok (.iload_n 3, 1) := dk_29 (dk_at dksX2_isBalanced_1 4 rfl rfl)
theorem dX2_isBalanced_29 : decode cX2_isBalanced 29 = .ok (.aload_n 0, 1) := dk_42 (dk_at dksX2_isBalanced_1 5 rfl rfl)
theorem dX2_isBalanced_30 : decode cX2_isBalanced 30 = .ok (.getfield 35, 3) := dk_180 0 35 (dk_at dksX2_isBalanced_1 6 rfl rfl)
theorem dX2_isBalanced_33 : decode cX2_isBalanced 33 = .ok (.if_icmp .ge 67, 3) := dk_162 0 67 (dk_at dksX2_isBalanced_1 9 rfl rfl)
theorem dX2_isBalanced_36 : decode cX2_isBalanced 36 = .ok (.aload_n 0, 1) := dk_42 (dk_at dksX2_isBalanced_1 12 rfl rfl)
theorem dX2_isBalanced_37 : decode cX2_isBalanced 37 = .ok (.getfield 26, 3) := dk_180 0 26 (dk_at dksX2_isBalanced_1 13 rfl rfl)
theorem dX2_isBalanced_40 : decode cX2_isBalanced 40 = .ok (.iload_n 3, 1) := dk_29 (dk_at dksX2_isBalanced_1 16 rfl rfl)
theorem dX2_isBalanced_41 : decode cX2_isBalanced 41 = .ok (.iaload, 1) := dk_46 (dk_at dksX2_isBalanced_1 17 rfl rfl)
theorem dX2_isBalanced_42 : decode cX2_isBalanced 42 = .ok (.istore 4, 2) := dk_54 4 (dk_at dksX2_isBalanced_1 18 rfl rfl)
theorem dX2_isBalanced_44 : decode cX2_isBalanced 44 = .ok (.iload_n 2, 1) := dk_28 (dk_at dksX2_isBalanced_1 20 rfl rfl)
theorem dX2_isBalanced_45 : decode cX2_isBalanced 45 = .ok (.iload 4, 2) := dk_21 4 (dk_at dksX2_isBalanced_1 21 rfl rfl)
theorem dX2_isBalanced_47 : decode cX2_isBalanced 47 = .ok (.iconst (-1), 1) := dk_2 (dk_at dksX2_isBalanced_1 23 rfl rfl)
theorem dX2_isBalanced_48 : decode cX2_isBalanced 48 = .ok (.if_icmp .eq 22, 3) := dk_159 0 22 (dk_at dksX2_isBalanced_2 0 rfl rfl)
theorem dX2_isBalanced_51 : decode cX2_isBalanced 51 = .ok (.iload_n 1, 1) := dk_27 (dk_at dksX2_isBalanced_2 3 rfl rfl)
theorem dX2_isBalanced_52 : decode cX2_isBalanced 52 = .ok (.iload 4, 2) := dk_21 4 (dk_at dksX2_isBalanced_2 4 rfl rfl)
theorem dX2_isBalanced_54 : decode cX2_isBalanced 54 = .ok (.ishr, 1) := dk_122 (dk_at dksX2_isBalanced_2 6 rfl rfl)
theorem dX2_isBalanced_55 : decode cX2_isBalanced 55 = .ok (.iconst 1, 1) := dk_4 (dk_at dksX2_isBalanced_2 7 rfl rfl)
theorem dX2_isBalanced_56 : decode cX2_isBalanced 56 = .ok (.iand, 1) := dk_126 (dk_at dksX2_isBalanced_2 8 rfl rfl)
theorem dX2_isBalanced_57 : decode cX2_isBalanced 57 = .ok (.ifCond .ne 17, 3) := dk_154 0 17 (dk_at dksX2_isBalanced_2 9 rfl rfl)
theorem dX2_isBalanced_60 : decode cX2_isBalanced 60 = .ok (.aload_n 0, 1) := dk_42 (dk_at dksX2_isBalanced_2 12 rfl rfl)
theorem dX2_isBalanced_61 : decode cX2_isBalanced 61 = .ok (.iload_n 3, 1) := dk_29 (dk_at dksX2_isBalanced_2 13 rfl rfl)
theorem dX2_isBalanced_62 : decode cX2_isBalanced 62 = .ok (.iload 4, 2) := dk_21 4 (dk_at dksX2_isBalanced_2 14 rfl rfl)
theorem dX2_isBalanced_64 : decode cX2_isBalanced 64 = .ok (.invokevirtual 71, 3) := dk_182 0 71 (dk_at dksX2_isBalanced_2 16 rfl rfl)
theorem dX2_isBalanced_67 : decode cX2_isBalanced 67 = .ok (.ifCond .eq 7, 3) := dk_153 0 7 (dk_at dksX2_isBalanced_2 19 rfl rfl)
theorem dX2_isBalanced_70 : decode cX2_isBalanced 70 = .ok (.iconst 1, 1) := dk_4 (dk_at dksX2_isBalanced_2 22 rfl rfl)
theorem dX2_isBalanced_71 : decode cX2_isBalanced 71 = .ok (.goto 4, 3) := dk_167 0 4 (dk_at dksX2_isBalanced_3 0 rfl rfl)
theorem dX2_isBalanced_74 : decode cX2_isBalanced 74 = .ok (.iconst 0, 1) := dk_3 (dk_at dksX2_isBalanced_3 3 rfl rfl)
theorem dX2_isBalanced_75 : decode cX2_isBalanced 75 = .ok (.iand, 1) := dk_126 (dk_at dksX2_isBalanced_3 4 rfl rfl)
theorem dX2_isBalanced_76 : decode cX2_isBalanced 76 = .ok (.istore_n 2, 1) := dk_61 (dk_at dksX2_isBalanced_3 5 rfl rfl)
theorem dX2_isBalanced_77 : decode cX2_isBalanced 77 = .ok (.iload_n 1, 1) := dk_27 (dk_at dksX2_isBalanced_3 6 rfl rfl)
theorem dX2_isBalanced_78 : decode cX2_isBalanced 78 = .ok (.iload 4, 2) := dk_21 4 (dk_at dksX2_isBalanced_3 7 rfl rfl)
theorem dX2_isBalanced_80 : decode cX2_isBalanced 80 = .ok (.iconst (-1), 1) := dk_2 (dk_at dksX2_isBalanced_3 9 rfl rfl)
theorem dX2_isBalanced_81 : decode cX2_isBalanced 81 = .ok (.if_icmp .ne 7, 3) := dk_160 0 7 (dk_at dksX2_isBalanced_3 10 rfl rfl)
theorem dX2_isBalanced_84 : decode cX2_isBalanced 84 = .ok (.iconst 0, 1) := dk_3 (dk_at dksX2_isBalanced_3 13 rfl rfl)
theorem dX2_isBalanced_85 : decode cX2_isBalanced 85 = .ok (.goto 7, 3) := dk_167 0 7 (dk_at dksX2_isBalanced_3 14 rfl rfl)
theorem dX2_isBalanced_88 : decode cX2_isBalanced 88 = .ok (.iconst 1, 1) := dk_4 (dk_at dksX2_isBalanced_3 17 rfl rfl)
theorem dX2_isBalanced_89 : decode cX2_isBalanced 89 = .ok (.iload 4, 2) := dk_21 4 (dk_at dksX2_isBalanced_3 18 rfl rfl)
theorem dX2_isBalanced_91 : decode cX2_isBalanced 91 = .ok (.ishl, 1) := dk_120 (dk_at dksX2_isBalanced_3 20 rfl rfl)
theorem dX2_isBalanced_92 : decode cX2_isBalanced 92 = .ok (.ior, 1) := dk_128 (dk_at dksX2_isBalanced_3 21 rfl rfl)
theorem dX2_isBalanced_93 : decode cX2_isBalanced 93 = .ok (.istore_n 1, 1) := dk_60 (dk_at dksX2_isBalanced_3 22 rfl rfl)
theorem dX2_isBalanced_94 : decode cX2_isBalanced 94 = .ok (.iinc 3 1, 3) := dk_132 3 1 (dk_at dksX2_isBalanced_4 0 rfl rfl)
theorem dX2_isBalanced_97 : decode cX2_isBalanced 97 = .ok (.goto (-69), 3) := dk_167 255 187 (dk_at dksX2_isBalanced_4 3 rfl rfl)
theorem dX2_isBalanced_100 : decode cX2_isBalanced 100 = .ok (.iload_n 2, 1) := dk_28 (dk_at dksX2_isBalanced_4 6 rfl rfl)
theorem dX2_isBalanced_101 : decode cX2_isBalanced 101 = .ok (.ireturn, 1) := dk_172 (dk_at dksX2_isBalanced_4 7 rfl rfl)
abbrev cX2_least : ByteArray := prog_19_method_32_code
def yX2_least : MethodName := ⟨RX2, "least", "()I"⟩
def dkwX2_least_1 : List UInt8 := [182, 0, 89, 43, 182, 0, 120, 61, 43, 182, 0, 123, 172]
abbrev dktX2_least_1 : List UInt8 := dkwX2_least_1 ++ []
def dkwX2_least_0 : List UInt8 := [187, 0, 12, 89, 42, 183, 0, 131, 76, 43, 182, 0, 117, 42, 180, 0, 35, 162, 0, 6, 18, 134, 172, 43]
abbrev dktX2_least_0 : List UInt8 := dkwX2_least_0 ++ dktX2_least_1
theorem dksX2_least_0 : cX2_least.data.toList.drop 0 = dktX2_least_0 := by decide +kernel
theorem dksX2_least_1 : cX2_least.data.toList.drop 24 = dktX2_least_1 := dk_seg dksX2_least_0 24 rfl rfl
theorem dX2_least_0 : decode cX2_least 0 = .ok (.new 12, 3) := dk_187 0 12 (dk_at dksX2_least_0 0 rfl rfl)
theorem dX2_least_3 : decode cX2_least 3 = .ok (.dup, 1) := dk_89 (dk_at dksX2_least_0 3 rfl rfl)
theorem dX2_least_4 : decode cX2_least 4 = .ok (.aload_n 0, 1) := dk_42 (dk_at dksX2_least_0 4 rfl rfl)
theorem dX2_least_5 : decode cX2_least 5 = .ok (.invokespecial 131, 3) := dk_183 0 131 (dk_at dksX2_least_0 5 rfl rfl)
theorem dX2_least_8 : decode cX2_least 8 = .ok (.astore_n 1, 1) := dk_76 (dk_at dksX2_least_0 8 rfl rfl)
theorem dX2_least_9 : decode cX2_least 9 = .ok (.aload_n 1, 1) := dk_43 (dk_at dksX2_least_0 9 rfl rfl)
theorem dX2_least_10 : decode cX2_least 10 = .ok (.invokevirtual 117, 3) := dk_182 0 117 (dk_at dksX2_least_0 10 rfl rfl)
theorem dX2_least_13 : decode cX2_least 13 = .ok (.aload_n 0, 1) := dk_42 (dk_at dksX2_least_0 13 rfl rfl)
theorem dX2_least_14 : decode cX2_least 14 = .ok (.getfield 35, 3) := dk_180 0 35 (dk_at dksX2_least_0 14 rfl rfl)
theorem dX2_least_17 : decode cX2_least 17 = .ok (.if_icmp .ge 6, 3) := dk_162 0 6 (dk_at dksX2_least_0 17 rfl rfl)
theorem dX2_least_20 : decode cX2_least 20 = .ok (.ldc 134, 2) := dk_18 134 (dk_at dksX2_least_0 20 rfl rfl)
theorem dX2_least_22 : decode cX2_least 22 = .ok (.ireturn, 1) := dk_172 (dk_at dksX2_least_0 22 rfl rfl)
theorem dX2_least_23 : decode cX2_least 23 = .ok (.aload_n 1, 1) := dk_43 (dk_at dksX2_least_0 23 rfl rfl)
theorem dX2_least_24 : decode cX2_least 24 = .ok (.invokevirtual 89, 3) := dk_182 0 89 (dk_at dksX2_least_1 0 rfl rfl)
theorem dX2_least_27 : decode cX2_least 27 = .ok (.aload_n 1, 1) := dk_43 (dk_at dksX2_least_1 3 rfl rfl)
theorem dX2_least_28 : decode cX2_least 28 = .ok (.invokevirtual 120, 3) := dk_182 0 120 (dk_at dksX2_least_1 4 rfl rfl)
theorem dX2_least_31 : decode cX2_least 31 = .ok (.istore_n 2, 1) := dk_61 (dk_at dksX2_least_1 7 rfl rfl)
theorem dX2_least_32 : decode cX2_least 32 = .ok (.aload_n 1, 1) := dk_43 (dk_at dksX2_least_1 8 rfl rfl)
theorem dX2_least_33 : decode cX2_least 33 = .ok (.invokevirtual 123, 3) := dk_182 0 123 (dk_at dksX2_least_1 9 rfl rfl)
theorem dX2_least_36 : decode cX2_least 36 = .ok (.ireturn, 1) := dk_172 (dk_at dksX2_least_1 12 rfl rfl)
abbrev cX2_countPairs : ByteArray := prog_19_method_7_code
def yX2_countPairs : MethodName := ⟨RX2, "countPairs", "()I"⟩
def dkwX2_countPairs_0 : List UInt8 := [42, 42, 186, 0, 57, 0, 0, 182, 0, 60, 172]
abbrev dktX2_countPairs_0 : List UInt8 := dkwX2_countPairs_0 ++ []
theorem dksX2_countPairs_0 : cX2_countPairs.data.toList.drop 0 = dktX2_countPairs_0 := by decide +kernel
theorem dX2_countPairs_0 : decode cX2_countPairs 0 = .ok (.aload_n 0, 1) := dk_42 (dk_at dksX2_countPairs_0 0 rfl rfl)
theorem dX2_countPairs_1 : decode cX2_countPairs 1 = .ok (.aload_n 0, 1) := dk_42 (dk_at dksX2_countPairs_0 1 rfl rfl)
theorem dX2_countPairs_2 : decode cX2_countPairs 2 = .ok (.invokedynamic 57, 5) := by decide +kernel
theorem dX2_countPairs_7 : decode cX2_countPairs 7 = .ok (.invokevirtual 60, 3) := dk_182 0 60 (dk_at dksX2_countPairs_0 7 rfl rfl)
theorem dX2_countPairs_10 : decode cX2_countPairs 10 = .ok (.ireturn, 1) := dk_172 (dk_at dksX2_countPairs_0 10 rfl rfl)
abbrev cX2_lambda_countPairs_0 : ByteArray := prog_19_method_47_code
def yX2_lambda_countPairs_0 : MethodName := ⟨RX2, "lambda$countPairs$0", "(II)I"⟩
def dkwX2_lambda_countPairs_0_0 : List UInt8 := [42, 180, 0, 26, 27, 46, 28, 160, 0, 7, 4, 167, 0, 4, 3, 172]
abbrev dktX2_lambda_countPairs_0_0 : List UInt8 := dkwX2_lambda_countPairs_0_0 ++ []
theorem dksX2_lambda_countPairs_0_0 : cX2_lambda_countPairs_0.data.toList.drop 0 = dktX2_lambda_countPairs_0_0 := by decide +kernel
theorem dX2_lambda_countPairs_0_0 : decode cX2_lambda_countPairs_0 0 = .ok (.aload_n 0, 1) := dk_42 (dk_at dksX2_lambda_countPairs_0_0 0 rfl rfl)
theorem dX2_lambda_countPairs_0_1 : decode cX2_lambda_countPairs_0 1 = .ok (.getfield 26, 3) := dk_180 0 26 (dk_at dksX2_lambda_countPairs_0_0 1 rfl rfl)
theorem dX2_lambda_countPairs_0_4 : decode cX2_lambda_countPairs_0 4 = .ok (.iload_n 1, 1) := dk_27 (dk_at dksX2_lambda_countPairs_0_0 4 rfl rfl)
theorem dX2_lambda_countPairs_0_5 : decode cX2_lambda_countPairs_0 5 = .ok (.iaload, 1) := dk_46 (dk_at dksX2_lambda_countPairs_0_0 5 rfl rfl)
theorem dX2_lambda_countPairs_0_6 : decode cX2_lambda_countPairs_0 6 = .ok (.iload_n 2, 1) := dk_28 (dk_at dksX2_lambda_countPairs_0_0 6 rfl rfl)
theorem dX2_lambda_countPairs_0_7 : decode cX2_lambda_countPairs_0 7 = .ok (.if_icmp .ne 7, 3) := dk_160 0 7 (dk_at dksX2_lambda_countPairs_0_0 7 rfl rfl)
theorem dX2_lambda_countPairs_0_10 : decode cX2_lambda_countPairs_0 10 = .ok (.iconst 1, 1) := dk_4 (dk_at dksX2_lambda_countPairs_0_0 10 rfl rfl)
theorem dX2_lambda_countPairs_0_11 : decode cX2_lambda_countPairs_0 11 = .ok (.goto 4, 3) := dk_167 0 4 (dk_at dksX2_lambda_countPairs_0_0 11 rfl rfl)
theorem dX2_lambda_countPairs_0_14 : decode cX2_lambda_countPairs_0 14 = .ok (.iconst 0, 1) := dk_3 (dk_at dksX2_lambda_countPairs_0_0 14 rfl rfl)
theorem dX2_lambda_countPairs_0_15 : decode cX2_lambda_countPairs_0 15 = .ok (.ireturn, 1) := dk_172 (dk_at dksX2_lambda_countPairs_0_0 15 rfl rfl)
abbrev cX2_yearsOf : ByteArray := prog_19_method_11_code
def yX2_yearsOf : MethodName := ⟨RX2, "yearsOf", "(I)I"⟩
def dkwX2_yearsOf_0 : List UInt8 := [42, 42, 27, 186, 0, 69, 0, 0, 182, 0, 60, 172]
abbrev dktX2_yearsOf_0 : List UInt8 := dkwX2_yearsOf_0 ++ []
theorem dksX2_yearsOf_0 : cX2_yearsOf.data.toList.drop 0 = dktX2_yearsOf_0 := by decide +kernel
theorem dX2_yearsOf_0 : decode cX2_yearsOf 0 = .ok (.aload_n 0, 1) := dk_42 (dk_at dksX2_yearsOf_0 0 rfl rfl)
theorem dX2_yearsOf_1 : decode cX2_yearsOf 1 = .ok (.aload_n 0, 1) := dk_42 (dk_at dksX2_yearsOf_0 1 rfl rfl)
theorem dX2_yearsOf_2 : decode cX2_yearsOf 2 = .ok (.iload_n 1, 1) := dk_27 (dk_at dksX2_yearsOf_0 2 rfl rfl)
theorem dX2_yearsOf_3 : decode cX2_yearsOf 3 = .ok (.invokedynamic 69, 5) := by decide +kernel
theorem dX2_yearsOf_8 : decode cX2_yearsOf 8 = .ok (.invokevirtual 60, 3) := dk_182 0 60 (dk_at dksX2_yearsOf_0 8 rfl rfl)
theorem dX2_yearsOf_11 : decode cX2_yearsOf 11 = .ok (.ireturn, 1) := dk_172 (dk_at dksX2_yearsOf_0 11 rfl rfl)
abbrev cX2_lambda_yearsOf_4 : ByteArray := prog_19_method_43_code
def yX2_lambda_yearsOf_4 : MethodName := ⟨RX2, "lambda$yearsOf$4", "(III)I"⟩
def dkwX2_lambda_yearsOf_4_0 : List UInt8 := [28, 27, 160, 0, 14, 42, 180, 0, 16, 28, 50, 29, 46, 167, 0, 4, 3, 172]
abbrev dktX2_lambda_yearsOf_4_0 : List UInt8 := dkwX2_lambda_yearsOf_4_0 ++ []
theorem dksX2_lambda_yearsOf_4_0 : cX2_lambda_yearsOf_4.data.toList.drop 0 = dktX2_lambda_yearsOf_4_0 := by decide +kernel
theorem dX2_lambda_yearsOf_4_0 : decode cX2_lambda_yearsOf_4 0 = .ok (.iload_n 2, 1) := dk_28 (dk_at dksX2_lambda_yearsOf_4_0 0 rfl rfl)
theorem dX2_lambda_yearsOf_4_1 : decode cX2_lambda_yearsOf_4 1 = .ok (.iload_n 1, 1) := dk_27 (dk_at dksX2_lambda_yearsOf_4_0 1 rfl rfl)
theorem dX2_lambda_yearsOf_4_2 : decode cX2_lambda_yearsOf_4 2 = .ok (.if_icmp .ne 14, 3) := dk_160 0 14 (dk_at dksX2_lambda_yearsOf_4_0 2 rfl rfl)
theorem dX2_lambda_yearsOf_4_5 : decode cX2_lambda_yearsOf_4 5 = .ok (.aload_n 0, 1) := dk_42 (dk_at dksX2_lambda_yearsOf_4_0 5 rfl rfl)
theorem dX2_lambda_yearsOf_4_6 : decode cX2_lambda_yearsOf_4 6 = .ok (.getfield 16, 3) := dk_180 0 16 (dk_at dksX2_lambda_yearsOf_4_0 6 rfl rfl)
theorem dX2_lambda_yearsOf_4_9 : decode cX2_lambda_yearsOf_4 9 = .ok (.iload_n 2, 1) := dk_28 (dk_at dksX2_lambda_yearsOf_4_0 9 rfl rfl)
theorem dX2_lambda_yearsOf_4_10 : decode cX2_lambda_yearsOf_4 10 = .ok (.aaload, 1) := dk_50 (dk_at dksX2_lambda_yearsOf_4_0 10 rfl rfl)
theorem dX2_lambda_yearsOf_4_11 : decode cX2_lambda_yearsOf_4 11 = .ok (.iload_n 3, 1) := dk_29 (dk_at dksX2_lambda_yearsOf_4_0 11 rfl rfl)
theorem dX2_lambda_yearsOf_4_12 : decode cX2_lambda_yearsOf_4 12 = .ok (.iaload, 1) := dk_46 (dk_at dksX2_lambda_yearsOf_4_0 12 rfl rfl)
theorem dX2_lambda_yearsOf_4_13 : decode cX2_lambda_yearsOf_4 13 = .ok (.goto 4, 3) := dk_167 0 4 (dk_at dksX2_lambda_yearsOf_4_0 13 rfl rfl)
theorem dX2_lambda_yearsOf_4_16 : decode cX2_lambda_yearsOf_4 16 = .ok (.iconst 0, 1) := dk_3 (dk_at dksX2_lambda_yearsOf_4_0 16 rfl rfl)
theorem dX2_lambda_yearsOf_4_17 : decode cX2_lambda_yearsOf_4 17 = .ok (.ireturn, 1) := dk_172 (dk_at dksX2_lambda_yearsOf_4_0 17 rfl rfl)
abbrev cX2_countMastersOf : ByteArray := prog_19_method_12_code
def yX2_countMastersOf : MethodName := ⟨RX2, "countMastersOf", "(I)I"⟩
def dkwX2_countMastersOf_0 : List UInt8 := [42, 42, 27, 186, 0, 70, 0, 0, 182, 0, 60, 172]
abbrev dktX2_countMastersOf_0 : List UInt8 := dkwX2_countMastersOf_0 ++ []
theorem dksX2_countMastersOf_0 : cX2_countMastersOf.data.toList.drop 0 = dktX2_countMastersOf_0 := by decide +kernel
theorem dX2_countMastersOf_0 : decode cX2_countMastersOf 0 = .ok (.aload_n 0, 1) := dk_42 (dk_at dksX2_countMastersOf_0 0 rfl rfl)
theorem dX2_countMastersOf_1 : decode cX2_countMastersOf 1 = .ok (.aload_n 0, 1) := dk_42 (dk_at dksX2_countMastersOf_0 1 rfl rfl)
theorem dX2_countMastersOf_2 : decode cX2_countMastersOf 2 = .ok (.iload_n 1, 1) := dk_27 (dk_at dksX2_countMastersOf_0 2 rfl rfl)
theorem dX2_countMastersOf_3 : decode cX2_countMastersOf 3 = .ok (.invokedynamic 70, 5) := by decide +kernel
theorem dX2_countMastersOf_8 : decode cX2_countMastersOf 8 = .ok (.invokevirtual 60, 3) := dk_182 0 60 (dk_at dksX2_countMastersOf_0 8 rfl rfl)
theorem dX2_countMastersOf_11 : decode cX2_countMastersOf 11 = .ok (.ireturn, 1) := dk_172 (dk_at dksX2_countMastersOf_0 11 rfl rfl)
abbrev cX2_lambda_countMastersOf_5 : ByteArray := prog_19_method_42_code
def yX2_lambda_countMastersOf_5 : MethodName := ⟨RX2, "lambda$countMastersOf$5", "(III)I"⟩
def dkwX2_lambda_countMastersOf_5_0 : List UInt8 := [28, 27, 160, 0, 16, 42, 28, 29, 182, 0, 71, 153, 0, 7, 4, 167, 0, 4, 3, 172]
abbrev dktX2_lambda_countMastersOf_5_0 : List UInt8 := dkwX2_lambda_countMastersOf_5_0 ++ []
theorem dksX2_lambda_countMastersOf_5_0 : cX2_lambda_countMastersOf_5.data.toList.drop 0 = dktX2_lambda_countMastersOf_5_0 := by decide +kernel
theorem dX2_lambda_countMastersOf_5_0 : decode cX2_lambda_countMastersOf_5 0 = .ok (.iload_n 2, 1) := dk_28 (dk_at dksX2_lambda_countMastersOf_5_0 0 rfl rfl)
theorem dX2_lambda_countMastersOf_5_1 : decode cX2_lambda_countMastersOf_5 1 = .ok (.iload_n 1, 1) := dk_27 (dk_at dksX2_lambda_countMastersOf_5_0 1 rfl rfl)
theorem dX2_lambda_countMastersOf_5_2 : decode cX2_lambda_countMastersOf_5 2 = .ok (.if_icmp .ne 16, 3) := dk_160 0 16 (dk_at dksX2_lambda_countMastersOf_5_0 2 rfl rfl)
theorem dX2_lambda_countMastersOf_5_5 : decode cX2_lambda_countMastersOf_5 5 = .ok (.aload_n 0, 1) := dk_42 (dk_at dksX2_lambda_countMastersOf_5_0 5 rfl rfl)
theorem dX2_lambda_countMastersOf_5_6 : decode cX2_lambda_countMastersOf_5 6 = .ok (.iload_n 2, 1) := dk_28 (dk_at dksX2_lambda_countMastersOf_5_0 6 rfl rfl)
theorem dX2_lambda_countMastersOf_5_7 : decode cX2_lambda_countMastersOf_5 7 = .ok (.iload_n 3, 1) := dk_29 (dk_at dksX2_lambda_countMastersOf_5_0 7 rfl rfl)
theorem dX2_lambda_countMastersOf_5_8 : decode cX2_lambda_countMastersOf_5 8 = .ok (.invokevirtual 71, 3) := dk_182 0 71 (dk_at dksX2_lambda_countMastersOf_5_0 8 rfl rfl)
theorem dX2_lambda_countMastersOf_5_11 : decode cX2_lambda_countMastersOf_5 11 = .ok (.ifCond .eq 7, 3) := dk_153 0 7 (dk_at dksX2_lambda_countMastersOf_5_0 11 rfl rfl)
theorem dX2_lambda_countMastersOf_5_14 : decode cX2_lambda_countMastersOf_5 14 = .ok (.iconst 1, 1) := dk_4 (dk_at dksX2_lambda_countMastersOf_5_0 14 rfl rfl)
theorem dX2_lambda_countMastersOf_5_15 : decode cX2_lambda_countMastersOf_5 15 = .ok (.goto 4, 3) := dk_167 0 4 (dk_at dksX2_lambda_countMastersOf_5_0 15 rfl rfl)
theorem dX2_lambda_countMastersOf_5_18 : decode cX2_lambda_countMastersOf_5 18 = .ok (.iconst 0, 1) := dk_3 (dk_at dksX2_lambda_countMastersOf_5_0 18 rfl rfl)
theorem dX2_lambda_countMastersOf_5_19 : decode cX2_lambda_countMastersOf_5 19 = .ok (.ireturn, 1) := dk_172 (dk_at dksX2_lambda_countMastersOf_5_0 19 rfl rfl)
abbrev cX2_yearsAt : ByteArray := prog_19_method_10_code
def yX2_yearsAt : MethodName := ⟨RX2, "yearsAt", "(I)I"⟩
def dkwX2_yearsAt_0 : List UInt8 := [42, 42, 27, 186, 0, 66, 0, 0, 182, 0, 60, 172]
abbrev dktX2_yearsAt_0 : List UInt8 := dkwX2_yearsAt_0 ++ []
theorem dksX2_yearsAt_0 : cX2_yearsAt.data.toList.drop 0 = dktX2_yearsAt_0 := by decide +kernel
theorem dX2_yearsAt_0 : decode cX2_yearsAt 0 = .ok (.aload_n 0, 1) := dk_42 (dk_at dksX2_yearsAt_0 0 rfl rfl)
theorem dX2_yearsAt_1 : decode cX2_yearsAt 1 = .ok (.aload_n 0, 1) := dk_42 (dk_at dksX2_yearsAt_0 1 rfl rfl)
theorem dX2_yearsAt_2 : decode cX2_yearsAt 2 = .ok (.iload_n 1, 1) := dk_27 (dk_at dksX2_yearsAt_0 2 rfl rfl)
theorem dX2_yearsAt_3 : decode cX2_yearsAt 3 = .ok (.invokedynamic 66, 5) := by decide +kernel
theorem dX2_yearsAt_8 : decode cX2_yearsAt 8 = .ok (.invokevirtual 60, 3) := dk_182 0 60 (dk_at dksX2_yearsAt_0 8 rfl rfl)
theorem dX2_yearsAt_11 : decode cX2_yearsAt 11 = .ok (.ireturn, 1) := dk_172 (dk_at dksX2_yearsAt_0 11 rfl rfl)
abbrev cX2_lambda_yearsAt_3 : ByteArray := prog_19_method_44_code
def yX2_lambda_yearsAt_3 : MethodName := ⟨RX2, "lambda$yearsAt$3", "(III)I"⟩
def dkwX2_lambda_yearsAt_3_0 : List UInt8 := [29, 27, 160, 0, 14, 42, 180, 0, 16, 28, 50, 29, 46, 167, 0, 4, 3, 172]
abbrev dktX2_lambda_yearsAt_3_0 : List UInt8 := dkwX2_lambda_yearsAt_3_0 ++ []
theorem dksX2_lambda_yearsAt_3_0 : cX2_lambda_yearsAt_3.data.toList.drop 0 = dktX2_lambda_yearsAt_3_0 := by decide +kernel
theorem dX2_lambda_yearsAt_3_0 : decode cX2_lambda_yearsAt_3 0 = .ok (.iload_n 3, 1) := dk_29 (dk_at dksX2_lambda_yearsAt_3_0 0 rfl rfl)
theorem dX2_lambda_yearsAt_3_1 : decode cX2_lambda_yearsAt_3 1 = .ok (.iload_n 1, 1) := dk_27 (dk_at dksX2_lambda_yearsAt_3_0 1 rfl rfl)
theorem dX2_lambda_yearsAt_3_2 : decode cX2_lambda_yearsAt_3 2 = .ok (.if_icmp .ne 14, 3) := dk_160 0 14 (dk_at dksX2_lambda_yearsAt_3_0 2 rfl rfl)
theorem dX2_lambda_yearsAt_3_5 : decode cX2_lambda_yearsAt_3 5 = .ok (.aload_n 0, 1) := dk_42 (dk_at dksX2_lambda_yearsAt_3_0 5 rfl rfl)
theorem dX2_lambda_yearsAt_3_6 : decode cX2_lambda_yearsAt_3 6 = .ok (.getfield 16, 3) := dk_180 0 16 (dk_at dksX2_lambda_yearsAt_3_0 6 rfl rfl)
theorem dX2_lambda_yearsAt_3_9 : decode cX2_lambda_yearsAt_3 9 = .ok (.iload_n 2, 1) := dk_28 (dk_at dksX2_lambda_yearsAt_3_0 9 rfl rfl)
theorem dX2_lambda_yearsAt_3_10 : decode cX2_lambda_yearsAt_3 10 = .ok (.aaload, 1) := dk_50 (dk_at dksX2_lambda_yearsAt_3_0 10 rfl rfl)
theorem dX2_lambda_yearsAt_3_11 : decode cX2_lambda_yearsAt_3 11 = .ok (.iload_n 3, 1) := dk_29 (dk_at dksX2_lambda_yearsAt_3_0 11 rfl rfl)
theorem dX2_lambda_yearsAt_3_12 : decode cX2_lambda_yearsAt_3 12 = .ok (.iaload, 1) := dk_46 (dk_at dksX2_lambda_yearsAt_3_0 12 rfl rfl)
theorem dX2_lambda_yearsAt_3_13 : decode cX2_lambda_yearsAt_3 13 = .ok (.goto 4, 3) := dk_167 0 4 (dk_at dksX2_lambda_yearsAt_3_0 13 rfl rfl)
theorem dX2_lambda_yearsAt_3_16 : decode cX2_lambda_yearsAt_3 16 = .ok (.iconst 0, 1) := dk_3 (dk_at dksX2_lambda_yearsAt_3_0 16 rfl rfl)
theorem dX2_lambda_yearsAt_3_17 : decode cX2_lambda_yearsAt_3 17 = .ok (.ireturn, 1) := dk_172 (dk_at dksX2_lambda_yearsAt_3_0 17 rfl rfl)
abbrev cX2_countLiking : ByteArray := prog_19_method_17_code
def yX2_countLiking : MethodName := ⟨RX2, "countLiking", "(I)I"⟩
def dkwX2_countLiking_1 : List UInt8 := [167, 0, 4, 3, 96, 61, 132, 3, 1, 167, 255, 228, 28, 172]
abbrev dktX2_countLiking_1 : List UInt8 := dkwX2_countLiking_1 ++ []
def dkwX2_countLiking_0 : List UInt8 := [3, 61, 3, 62, 29, 42, 180, 0, 35, 162, 0, 26, 28, 42, 29, 182, 0, 81, 27, 160, 0, 7, 4]
abbrev dktX2_countLiking_0 : List UInt8 := dkwX2_countLiking_0 ++ dktX2_countLiking_1
theorem dksX2_countLiking_0 : cX2_countLiking.data.toList.drop 0 = dktX2_countLiking_0 := by decide +kernel
theorem dksX2_countLiking_1 : cX2_countLiking.data.toList.drop 23 = dktX2_countLiking_1 := dk_seg dksX2_countLiking_0 23 rfl rfl
theorem dX2_countLiking_0 : decode cX2_countLiking 0 = .ok (.iconst 0, 1) := dk_3 (dk_at dksX2_countLiking_0 0 rfl rfl)
theorem dX2_countLiking_1 : decode cX2_countLiking 1 = .ok (.istore_n 2, 1) := dk_61 (dk_at dksX2_countLiking_0 1 rfl rfl)
theorem dX2_countLiking_2 : decode cX2_countLiking 2 = .ok (.iconst 0, 1) := dk_3 (dk_at dksX2_countLiking_0 2 rfl rfl)
theorem dX2_countLiking_3 : decode cX2_countLiking 3 = .ok (.istore_n 3, 1) := dk_62 (dk_at dksX2_countLiking_0 3 rfl rfl)
theorem dX2_countLiking_4 : decode cX2_countLiking 4 = .ok (.iload_n 3, 1) := dk_29 (dk_at dksX2_countLiking_0 4 rfl rfl)
theorem dX2_countLiking_5 : decode cX2_countLiking 5 = .ok (.aload_n 0, 1) := dk_42 (dk_at dksX2_countLiking_0 5 rfl rfl)
theorem dX2_countLiking_6 : decode cX2_countLiking 6 = .ok (.getfield 35, 3) := dk_180 0 35 (dk_at dksX2_countLiking_0 6 rfl rfl)
theorem dX2_countLiking_9 : decode cX2_countLiking 9 = .ok (.if_icmp .ge 26, 3) := dk_162 0 26 (dk_at dksX2_countLiking_0 9 rfl rfl)
theorem dX2_countLiking_12 : decode cX2_countLiking 12 = .ok (.iload_n 2, 1) := dk_28 (dk_at dksX2_countLiking_0 12 rfl rfl)
theorem dX2_countLiking_13 : decode cX2_countLiking 13 = .ok (.aload_n 0, 1) := dk_42 (dk_at dksX2_countLiking_0 13 rfl rfl)
theorem dX2_countLiking_14 : decode cX2_countLiking 14 = .ok (.iload_n 3, 1) := dk_29 (dk_at dksX2_countLiking_0 14 rfl rfl)
theorem dX2_countLiking_15 : decode cX2_countLiking 15 = .ok (.invokevirtual 81, 3) := dk_182 0 81 (dk_at dksX2_countLiking_0 15 rfl rfl)
theorem dX2_countLiking_18 : decode cX2_countLiking 18 = .ok (.iload_n 1, 1) := dk_27 (dk_at dksX2_countLiking_0 18 rfl rfl)
theorem dX2_countLiking_19 : decode cX2_countLiking 19 = .ok (.if_icmp .ne 7, 3) := dk_160 0 7 (dk_at dksX2_countLiking_0 19 rfl rfl)
theorem dX2_countLiking_22 : decode cX2_countLiking 22 = .ok (.iconst 1, 1) := dk_4 (dk_at dksX2_countLiking_0 22 rfl rfl)
theorem dX2_countLiking_23 : decode cX2_countLiking 23 = .ok (.goto 4, 3) := dk_167 0 4 (dk_at dksX2_countLiking_1 0 rfl rfl)
theorem dX2_countLiking_26 : decode cX2_countLiking 26 = .ok (.iconst 0, 1) := dk_3 (dk_at dksX2_countLiking_1 3 rfl rfl)
theorem dX2_countLiking_27 : decode cX2_countLiking 27 = .ok (.iadd, 1) := dk_96 (dk_at dksX2_countLiking_1 4 rfl rfl)
theorem dX2_countLiking_28 : decode cX2_countLiking 28 = .ok (.istore_n 2, 1) := dk_61 (dk_at dksX2_countLiking_1 5 rfl rfl)
theorem dX2_countLiking_29 : decode cX2_countLiking 29 = .ok (.iinc 3 1, 3) := dk_132 3 1 (dk_at dksX2_countLiking_1 6 rfl rfl)
theorem dX2_countLiking_32 : decode cX2_countLiking 32 = .ok (.goto (-28), 3) := dk_167 255 228 (dk_at dksX2_countLiking_1 9 rfl rfl)
theorem dX2_countLiking_35 : decode cX2_countLiking 35 = .ok (.iload_n 2, 1) := dk_28 (dk_at dksX2_countLiking_1 12 rfl rfl)
theorem dX2_countLiking_36 : decode cX2_countLiking 36 = .ok (.ireturn, 1) := dk_172 (dk_at dksX2_countLiking_1 13 rfl rfl)
abbrev cX2_wouldBid : ByteArray := prog_19_method_33_code
def yX2_wouldBid : MethodName := ⟨RX2, "wouldBid", "()I"⟩
def dkwX2_wouldBid_0 : List UInt8 := [187, 0, 12, 89, 42, 183, 0, 131, 182, 0, 120, 172]
abbrev dktX2_wouldBid_0 : List UInt8 := dkwX2_wouldBid_0 ++ []
theorem dksX2_wouldBid_0 : cX2_wouldBid.data.toList.drop 0 = dktX2_wouldBid_0 := by decide +kernel
theorem dX2_wouldBid_0 : decode cX2_wouldBid 0 = .ok (.new 12, 3) := dk_187 0 12 (dk_at dksX2_wouldBid_0 0 rfl rfl)
theorem dX2_wouldBid_3 : decode cX2_wouldBid 3 = .ok (.dup, 1) := dk_89 (dk_at dksX2_wouldBid_0 3 rfl rfl)
theorem dX2_wouldBid_4 : decode cX2_wouldBid 4 = .ok (.aload_n 0, 1) := dk_42 (dk_at dksX2_wouldBid_0 4 rfl rfl)
theorem dX2_wouldBid_5 : decode cX2_wouldBid 5 = .ok (.invokespecial 131, 3) := dk_183 0 131 (dk_at dksX2_wouldBid_0 5 rfl rfl)
theorem dX2_wouldBid_8 : decode cX2_wouldBid 8 = .ok (.invokevirtual 120, 3) := dk_182 0 120 (dk_at dksX2_wouldBid_0 8 rfl rfl)
theorem dX2_wouldBid_11 : decode cX2_wouldBid 11 = .ok (.ireturn, 1) := dk_172 (dk_at dksX2_wouldBid_0 11 rfl rfl)
abbrev cX2_chain : ByteArray := prog_19_method_34_code
def yX2_chain : MethodName := ⟨RX2, "chain", "()Ljava/util/List;"⟩
def dkwX2_chain_2 : List UInt8 := [182, 0, 111, 54, 4, 44, 29, 182, 0, 150, 154, 0, 5, 1, 176, 21, 4, 62, 167, 255, 212, 43, 176]
abbrev dktX2_chain_2 : List UInt8 := dkwX2_chain_2 ++ []
def dkwX2_chain_1 : List UInt8 := [159, 0, 45, 43, 29, 184, 0, 138, 185, 0, 144, 2, 0, 87, 44, 3, 44, 29, 182, 0, 81, 184, 0, 126]
abbrev dktX2_chain_1 : List UInt8 := dkwX2_chain_1 ++ dktX2_chain_2
def dkwX2_chain_0 : List UInt8 := [187, 0, 135, 89, 183, 0, 137, 76, 187, 0, 12, 89, 42, 183, 0, 131, 77, 44, 182, 0, 104, 62, 29, 2]
abbrev dktX2_chain_0 : List UInt8 := dkwX2_chain_0 ++ dktX2_chain_1
theorem dksX2_chain_0 : cX2_chain.data.toList.drop 0 = dktX2_chain_0 := by decide +kernel
theorem dksX2_chain_1 : cX2_chain.data.toList.drop 24 = dktX2_chain_1 := dk_seg dksX2_chain_0 24 rfl rfl
theorem dksX2_chain_2 : cX2_chain.data.toList.drop 48 = dktX2_chain_2 := dk_seg dksX2_chain_1 24 rfl rfl
theorem dX2_chain_0 : decode cX2_chain 0 = .ok (.new 135, 3) := dk_187 0 135 (dk_at dksX2_chain_0 0 rfl rfl)
theorem dX2_chain_3 : decode cX2_chain 3 = .ok (.dup, 1) := dk_89 (dk_at dksX2_chain_0 3 rfl rfl)
theorem dX2_chain_4 : decode cX2_chain 4 = .ok (.invokespecial 137, 3) := dk_183 0 137 (dk_at dksX2_chain_0 4 rfl rfl)
theorem dX2_chain_7 : decode cX2_chain 7 = .ok (.astore_n 1, 1) := dk_76 (dk_at dksX2_chain_0 7 rfl rfl)
theorem dX2_chain_8 : decode cX2_chain 8 = .ok (.new 12, 3) := dk_187 0 12 (dk_at dksX2_chain_0 8 rfl rfl)
theorem dX2_chain_11 : decode cX2_chain 11 = .ok (.dup, 1) := dk_89 (dk_at dksX2_chain_0 11 rfl rfl)
theorem dX2_chain_12 : decode cX2_chain 12 = .ok (.aload_n 0, 1) := dk_42 (dk_at dksX2_chain_0 12 rfl rfl)
theorem dX2_chain_13 : decode cX2_chain 13 = .ok (.invokespecial 131, 3) := dk_183 0 131 (dk_at dksX2_chain_0 13 rfl rfl)
theorem dX2_chain_16 : decode cX2_chain 16 = .ok (.astore_n 2, 1) := dk_77 (dk_at dksX2_chain_0 16 rfl rfl)
theorem dX2_chain_17 : decode cX2_chain 17 = .ok (.aload_n 2, 1) := dk_44 (dk_at dksX2_chain_0 17 rfl rfl)
theorem dX2_chain_18 : decode cX2_chain 18 = .ok (.invokevirtual 104, 3) := dk_182 0 104 (dk_at dksX2_chain_0 18 rfl rfl)
theorem dX2_chain_21 : decode cX2_chain 21 = .ok (.istore_n 3, 1) := dk_62 (dk_at dksX2_chain_0 21 rfl rfl)
theorem dX2_chain_22 : decode cX2_chain 22 = .ok (.iload_n 3, 1) := dk_29 (dk_at dksX2_chain_0 22 rfl rfl)
theorem dX2_chain_23 : decode cX2_chain 23 = .ok (.iconst (-1), 1) := dk_2 (dk_at dksX2_chain_0 23 rfl rfl)
theorem dX2_chain_24 : decode cX2_chain 24 = .ok (.if_icmp .eq 45, 3) := dk_159 0 45 (dk_at dksX2_chain_1 0 rfl rfl)
theorem dX2_chain_27 : decode cX2_chain 27 = .ok (.aload_n 1, 1) := dk_43 (dk_at dksX2_chain_1 3 rfl rfl)
theorem dX2_chain_28 : decode cX2_chain 28 = .ok (.iload_n 3, 1) := dk_29 (dk_at dksX2_chain_1 4 rfl rfl)
theorem dX2_chain_29 : decode cX2_chain 29 = .ok (.invokestatic 138, 3) := dk_184 0 138 (dk_at dksX2_chain_1 5 rfl rfl)
theorem dX2_chain_32 : decode cX2_chain 32 = .ok (.invokeinterface 144 2, 5) := by decide +kernel
theorem dX2_chain_37 : decode cX2_chain 37 = .ok (.pop, 1) := dk_87 (dk_at dksX2_chain_1 13 rfl rfl)
theorem dX2_chain_38 : decode cX2_chain 38 = .ok (.aload_n 2, 1) := dk_44 (dk_at dksX2_chain_1 14 rfl rfl)
theorem dX2_chain_39 : decode cX2_chain 39 = .ok (.iconst 0, 1) := dk_3 (dk_at dksX2_chain_1 15 rfl rfl)
theorem dX2_chain_40 : decode cX2_chain 40 = .ok (.aload_n 2, 1) := dk_44 (dk_at dksX2_chain_1 16 rfl rfl)
theorem dX2_chain_41 : decode cX2_chain 41 = .ok (.iload_n 3, 1) := dk_29 (dk_at dksX2_chain_1 17 rfl rfl)
theorem dX2_chain_42 : decode cX2_chain 42 = .ok (.invokevirtual 81, 3) := dk_182 0 81 (dk_at dksX2_chain_1 18 rfl rfl)
theorem dX2_chain_45 : decode cX2_chain 45 = .ok (.invokestatic 126, 3) := dk_184 0 126 (dk_at dksX2_chain_1 21 rfl rfl)
theorem dX2_chain_48 : decode cX2_chain 48 = .ok (.invokevirtual 111, 3) := dk_182 0 111 (dk_at dksX2_chain_2 0 rfl rfl)
theorem dX2_chain_51 : decode cX2_chain 51 = .ok (.istore 4, 2) := dk_54 4 (dk_at dksX2_chain_2 3 rfl rfl)
theorem dX2_chain_53 : decode cX2_chain 53 = .ok (.aload_n 2, 1) := dk_44 (dk_at dksX2_chain_2 5 rfl rfl)
theorem dX2_chain_54 : decode cX2_chain 54 = .ok (.iload_n 3, 1) := dk_29 (dk_at dksX2_chain_2 6 rfl rfl)
theorem dX2_chain_55 : decode cX2_chain 55 = .ok (.invokevirtual 150, 3) := dk_182 0 150 (dk_at dksX2_chain_2 7 rfl rfl)
theorem dX2_chain_58 : decode cX2_chain 58 = .ok (.ifCond .ne 5, 3) := dk_154 0 5 (dk_at dksX2_chain_2 10 rfl rfl)
theorem dX2_chain_61 : decode cX2_chain 61 = .ok (.aconst_null, 1) := dk_1 (dk_at dksX2_chain_2 13 rfl rfl)
theorem dX2_chain_62 : decode cX2_chain 62 = .ok (.areturn, 1) := dk_176 (dk_at dksX2_chain_2 14 rfl rfl)
theorem dX2_chain_63 : decode cX2_chain 63 = .ok (.iload 4, 2) := dk_21 4 (dk_at dksX2_chain_2 15 rfl rfl)
theorem dX2_chain_65 : decode cX2_chain 65 = .ok (.istore_n 3, 1) := dk_62 (dk_at dksX2_chain_2 17 rfl rfl)
theorem dX2_chain_66 : decode cX2_chain 66 = .ok (.goto (-44), 3) := dk_167 255 212 (dk_at dksX2_chain_2 18 rfl rfl)
theorem dX2_chain_69 : decode cX2_chain 69 = .ok (.aload_n 1, 1) := dk_43 (dk_at dksX2_chain_2 21 rfl rfl)
theorem dX2_chain_70 : decode cX2_chain 70 = .ok (.areturn, 1) := dk_176 (dk_at dksX2_chain_2 22 rfl rfl)
abbrev cX2_bidsFor : ByteArray := prog_19_method_35_code
def yX2_bidsFor : MethodName := ⟨RX2, "bidsFor", "(I)Z"⟩
def dkwX2_bidsFor_3 : List UInt8 := [172]
abbrev dktX2_bidsFor_3 : List UInt8 := dkwX2_bidsFor_3 ++ []
def dkwX2_bidsFor_2 : List UInt8 := [182, 0, 111, 62, 29, 2, 159, 0, 10, 42, 180, 0, 26, 29, 2, 79, 42, 180, 0, 26, 27, 28, 79, 4]
abbrev dktX2_bidsFor_2 : List UInt8 := dkwX2_bidsFor_2 ++ dktX2_bidsFor_3
def dkwX2_bidsFor_1 : List UInt8 := [17, 39, 15, 164, 0, 5, 3, 172, 42, 180, 0, 19, 28, 92, 46, 42, 27, 182, 0, 108, 96, 79, 42, 28]
abbrev dktX2_bidsFor_1 : List UInt8 := dkwX2_bidsFor_1 ++ dktX2_bidsFor_2
def dkwX2_bidsFor_0 : List UInt8 := [42, 27, 182, 0, 81, 61, 28, 2, 159, 0, 21, 42, 180, 0, 19, 28, 46, 42, 27, 182, 0, 108, 96]
abbrev dktX2_bidsFor_0 : List UInt8 := dkwX2_bidsFor_0 ++ dktX2_bidsFor_1
theorem dksX2_bidsFor_0 : cX2_bidsFor.data.toList.drop 0 = dktX2_bidsFor_0 := by decide +kernel
theorem dksX2_bidsFor_1 : cX2_bidsFor.data.toList.drop 23 = dktX2_bidsFor_1 := dk_seg dksX2_bidsFor_0 23 rfl rfl
theorem dksX2_bidsFor_2 : cX2_bidsFor.data.toList.drop 47 = dktX2_bidsFor_2 := dk_seg dksX2_bidsFor_1 24 rfl rfl
theorem dksX2_bidsFor_3 : cX2_bidsFor.data.toList.drop 71 = dktX2_bidsFor_3 := dk_seg dksX2_bidsFor_2 24 rfl rfl
theorem dX2_bidsFor_0 : decode cX2_bidsFor 0 = .ok (.aload_n 0, 1) := dk_42 (dk_at dksX2_bidsFor_0 0 rfl rfl)
theorem dX2_bidsFor_1 : decode cX2_bidsFor 1 = .ok (.iload_n 1, 1) := dk_27 (dk_at dksX2_bidsFor_0 1 rfl rfl)
theorem dX2_bidsFor_2 : decode cX2_bidsFor 2 = .ok (.invokevirtual 81, 3) := dk_182 0 81 (dk_at dksX2_bidsFor_0 2 rfl rfl)
theorem dX2_bidsFor_5 : decode cX2_bidsFor 5 = .ok (.istore_n 2, 1) := dk_61 (dk_at dksX2_bidsFor_0 5 rfl rfl)
theorem dX2_bidsFor_6 : decode cX2_bidsFor 6 = .ok (.iload_n 2, 1) := dk_28 (dk_at dksX2_bidsFor_0 6 rfl rfl)
theorem dX2_bidsFor_7 : decode cX2_bidsFor 7 = .ok (.iconst (-1), 1) := dk_2 (dk_at dksX2_bidsFor_0 7 rfl rfl)
theorem dX2_bidsFor_8 : decode cX2_bidsFor 8 = .ok (.if_icmp .eq 21, 3) := dk_159 0 21 (dk_at dksX2_bidsFor_0 8 rfl rfl)
theorem dX2_bidsFor_11 : decode cX2_bidsFor 11 = .ok (.aload_n 0, 1) := dk_42 (dk_at dksX2_bidsFor_0 11 rfl rfl)
theorem dX2_bidsFor_12 : decode cX2_bidsFor 12 = .ok (.getfield 19, 3) := dk_180 0 19 (dk_at dksX2_bidsFor_0 12 rfl rfl)
theorem dX2_bidsFor_15 : decode cX2_bidsFor 15 = .ok (.iload_n 2, 1) := dk_28 (dk_at dksX2_bidsFor_0 15 rfl rfl)
theorem dX2_bidsFor_16 : decode cX2_bidsFor 16 = .ok (.iaload, 1) := dk_46 (dk_at dksX2_bidsFor_0 16 rfl rfl)
theorem dX2_bidsFor_17 : decode cX2_bidsFor 17 = .ok (.aload_n 0, 1) := dk_42 (dk_at dksX2_bidsFor_0 17 rfl rfl)
theorem dX2_bidsFor_18 : decode cX2_bidsFor 18 = .ok (.iload_n 1, 1) := dk_27 (dk_at dksX2_bidsFor_0 18 rfl rfl)
theorem dX2_bidsFor_19 : decode cX2_bidsFor 19 = .ok (.invokevirtual 108, 3) := dk_182 0 108 (dk_at dksX2_bidsFor_0 19 rfl rfl)
theorem dX2_bidsFor_22 : decode cX2_bidsFor 22 = .ok (.iadd, 1) := dk_96 (dk_at dksX2_bidsFor_0 22 rfl rfl)
theorem dX2_bidsFor_23 : decode cX2_bidsFor 23 = .ok (.sipush 9999, 3) := dk_17 39 15 (dk_at dksX2_bidsFor_1 0 rfl rfl)
theorem dX2_bidsFor_26 : decode cX2_bidsFor 26 = .ok (.if_icmp .le 5, 3) := dk_164 0 5 (dk_at dksX2_bidsFor_1 3 rfl rfl)
theorem dX2_bidsFor_29 : decode cX2_bidsFor 29 = .ok (.iconst 0, 1) := dk_3 (dk_at dksX2_bidsFor_1 6 rfl rfl)
theorem dX2_bidsFor_30 : decode cX2_bidsFor 30 = .ok (.ireturn, 1) := dk_172 (dk_at dksX2_bidsFor_1 7 rfl rfl)
theorem dX2_bidsFor_31 : decode cX2_bidsFor 31 = .ok (.aload_n 0, 1) := dk_42 (dk_at dksX2_bidsFor_1 8 rfl rfl)
theorem dX2_bidsFor_32 : decode cX2_bidsFor 32 = .ok (.getfield 19, 3) := dk_180 0 19 (dk_at dksX2_bidsFor_1 9 rfl rfl)
theorem dX2_bidsFor_35 : decode cX2_bidsFor 35 = .ok (.iload_n 2, 1) := dk_28 (dk_at dksX2_bidsFor_1 12 rfl rfl)
theorem dX2_bidsFor_36 : decode cX2_bidsFor 36 = .ok (.dup2, 1) := dk_92 (dk_at dksX2_bidsFor_1 13 rfl rfl)
theorem dX2_bidsFor_37 : decode cX2_bidsFor 37 = .ok (.iaload, 1) := dk_46 (dk_at dksX2_bidsFor_1 14 rfl rfl)
theorem dX2_bidsFor_38 : decode cX2_bidsFor 38 = .ok (.aload_n 0, 1) := dk_42 (dk_at dksX2_bidsFor_1 15 rfl rfl)
theorem dX2_bidsFor_39 : decode cX2_bidsFor 39 = .ok (.iload_n 1, 1) := dk_27 (dk_at dksX2_bidsFor_1 16 rfl rfl)
theorem dX2_bidsFor_40 : decode cX2_bidsFor 40 = .ok (.invokevirtual 108, 3) := dk_182 0 108 (dk_at dksX2_bidsFor_1 17 rfl rfl)
theorem dX2_bidsFor_43 : decode cX2_bidsFor 43 = .ok (.iadd, 1) := dk_96 (dk_at dksX2_bidsFor_1 20 rfl rfl)
theorem dX2_bidsFor_44 : decode cX2_bidsFor 44 = .ok (.iastore, 1) := dk_79 (dk_at dksX2_bidsFor_1 21 rfl rfl)
theorem dX2_bidsFor_45 : decode cX2_bidsFor 45 = .ok (.aload_n 0, 1) := dk_42 (dk_at dksX2_bidsFor_1 22 rfl rfl)
theorem dX2_bidsFor_46 : decode cX2_bidsFor 46 = .ok (.iload_n 2, 1) := dk_28 (dk_at dksX2_bidsFor_1 23 rfl rfl)
theorem dX2_bidsFor_47 : decode cX2_bidsFor 47 = .ok (.invokevirtual 111, 3) := dk_182 0 111 (dk_at dksX2_bidsFor_2 0 rfl rfl)
theorem dX2_bidsFor_50 : decode cX2_bidsFor 50 = .ok (.istore_n 3, 1) := dk_62 (dk_at dksX2_bidsFor_2 3 rfl rfl)
theorem dX2_bidsFor_51 : decode cX2_bidsFor 51 = .ok (.iload_n 3, 1) := dk_29 (dk_at dksX2_bidsFor_2 4 rfl rfl)
theorem dX2_bidsFor_52 : decode cX2_bidsFor 52 = .ok (.iconst (-1), 1) := dk_2 (dk_at dksX2_bidsFor_2 5 rfl rfl)
theorem dX2_bidsFor_53 : decode cX2_bidsFor 53 = .ok (.if_icmp .eq 10, 3) := dk_159 0 10 (dk_at dksX2_bidsFor_2 6 rfl rfl)
theorem dX2_bidsFor_56 : decode cX2_bidsFor 56 = .ok (.aload_n 0, 1) := dk_42 (dk_at dksX2_bidsFor_2 9 rfl rfl)
theorem dX2_bidsFor_57 : decode cX2_bidsFor 57 = .ok (.getfield 26, 3) := dk_180 0 26 (dk_at dksX2_bidsFor_2 10 rfl rfl)
theorem dX2_bidsFor_60 : decode cX2_bidsFor 60 = .ok (.iload_n 3, 1) := dk_29 (dk_at dksX2_bidsFor_2 13 rfl rfl)
theorem dX2_bidsFor_61 : decode cX2_bidsFor 61 = .ok (.iconst (-1), 1) := dk_2 (dk_at dksX2_bidsFor_2 14 rfl rfl)
theorem dX2_bidsFor_62 : decode cX2_bidsFor 62 = .ok (.iastore, 1) := dk_79 (dk_at dksX2_bidsFor_2 15 rfl rfl)
theorem dX2_bidsFor_63 : decode cX2_bidsFor 63 = .ok (.aload_n 0, 1) := dk_42 (dk_at dksX2_bidsFor_2 16 rfl rfl)
theorem dX2_bidsFor_64 : decode cX2_bidsFor 64 = .ok (.getfield 26, 3) := dk_180 0 26 (dk_at dksX2_bidsFor_2 17 rfl rfl)
theorem dX2_bidsFor_67 : decode cX2_bidsFor 67 = .ok (.iload_n 1, 1) := dk_27 (dk_at dksX2_bidsFor_2 20 rfl rfl)
theorem dX2_bidsFor_68 : decode cX2_bidsFor 68 = .ok (.iload_n 2, 1) := dk_28 (dk_at dksX2_bidsFor_2 21 rfl rfl)
theorem dX2_bidsFor_69 : decode cX2_bidsFor 69 = .ok (.iastore, 1) := dk_79 (dk_at dksX2_bidsFor_2 22 rfl rfl)
theorem dX2_bidsFor_70 : decode cX2_bidsFor 70 = .ok (.iconst 1, 1) := dk_4 (dk_at dksX2_bidsFor_2 23 rfl rfl)
theorem dX2_bidsFor_71 : decode cX2_bidsFor 71 = .ok (.ireturn, 1) := dk_172 (dk_at dksX2_bidsFor_3 0 rfl rfl)
abbrev cX2_ranked : ByteArray := prog_19_method_38_code
def yX2_ranked : MethodName := ⟨RX2, "ranked", "(LMasterPrices$Kind;I)I"⟩
def dkwX2_ranked_3 : List UInt8 := [132, 5, 1, 167, 255, 202, 21, 4, 28, 160, 0, 5, 29, 172, 132, 3, 1, 167, 255, 174, 2, 172]
abbrev dktX2_ranked_3 : List UInt8 := dkwX2_ranked_3 ++ []
def dkwX2_ranked_2 : List UInt8 := [157, 0, 14, 21, 6, 154, 0, 13, 21, 5, 29, 162, 0, 7, 4, 167, 0, 4, 3, 96, 54, 4]
abbrev dktX2_ranked_2 : List UInt8 := dkwX2_ranked_2 ++ dktX2_ranked_3
def dkwX2_ranked_1 : List UInt8 := [162, 0, 51, 43, 42, 21, 5, 182, 0, 158, 43, 42, 29, 182, 0, 158, 100, 54, 6, 21, 4, 21, 6]
abbrev dktX2_ranked_1 : List UInt8 := dkwX2_ranked_1 ++ dktX2_ranked_2
def dkwX2_ranked_0 : List UInt8 := [3, 62, 29, 42, 180, 0, 39, 162, 0, 80, 3, 54, 4, 3, 54, 5, 21, 5, 42, 180, 0, 39]
abbrev dktX2_ranked_0 : List UInt8 := dkwX2_ranked_0 ++ dktX2_ranked_1
theorem dksX2_ranked_0 : cX2_ranked.data.toList.drop 0 = dktX2_ranked_0 := by decide +kernel
theorem dksX2_ranked_1 : cX2_ranked.data.toList.drop 22 = dktX2_ranked_1 := dk_seg dksX2_ranked_0 22 rfl rfl
theorem dksX2_ranked_2 : cX2_ranked.data.toList.drop 45 = dktX2_ranked_2 := dk_seg dksX2_ranked_1 23 rfl rfl
theorem dksX2_ranked_3 : cX2_ranked.data.toList.drop 67 = dktX2_ranked_3 := dk_seg dksX2_ranked_2 22 rfl rfl
theorem dX2_ranked_0 : decode cX2_ranked 0 = .ok (.iconst 0, 1) := dk_3 (dk_at dksX2_ranked_0 0 rfl rfl)
theorem dX2_ranked_1 : decode cX2_ranked 1 = .ok (.istore_n 3, 1) := dk_62 (dk_at dksX2_ranked_0 1 rfl rfl)
theorem dX2_ranked_2 : decode cX2_ranked 2 = .ok (.iload_n 3, 1) := dk_29 (dk_at dksX2_ranked_0 2 rfl rfl)
theorem dX2_ranked_3 : decode cX2_ranked 3 = .ok (.aload_n 0, 1) := dk_42 (dk_at dksX2_ranked_0 3 rfl rfl)
theorem dX2_ranked_4 : decode cX2_ranked 4 = .ok (.getfield 39, 3) := dk_180 0 39 (dk_at dksX2_ranked_0 4 rfl rfl)
theorem dX2_ranked_7 : decode cX2_ranked 7 = .ok (.if_icmp .ge 80, 3) := dk_162 0 80 (dk_at dksX2_ranked_0 7 rfl rfl)
theorem dX2_ranked_10 : decode cX2_ranked 10 = .ok (.iconst 0, 1) := dk_3 (dk_at dksX2_ranked_0 10 rfl rfl)
theorem dX2_ranked_11 : decode cX2_ranked 11 = .ok (.istore 4, 2) := dk_54 4 (dk_at dksX2_ranked_0 11 rfl rfl)
theorem dX2_ranked_13 : decode cX2_ranked 13 = .ok (.iconst 0, 1) := dk_3 (dk_at dksX2_ranked_0 13 rfl rfl)
theorem dX2_ranked_14 : decode cX2_ranked 14 = .ok (.istore 5, 2) := dk_54 5 (dk_at dksX2_ranked_0 14 rfl rfl)
theorem dX2_ranked_16 : decode cX2_ranked 16 = .ok (.iload 5, 2) := dk_21 5 (dk_at dksX2_ranked_0 16 rfl rfl)
theorem dX2_ranked_18 : decode cX2_ranked 18 = .ok (.aload_n 0, 1) := dk_42 (dk_at dksX2_ranked_0 18 rfl rfl)
theorem dX2_ranked_19 : decode cX2_ranked 19 = .ok (.getfield 39, 3) := dk_180 0 39 (dk_at dksX2_ranked_0 19 rfl rfl)
theorem dX2_ranked_22 : decode cX2_ranked 22 = .ok (.if_icmp .ge 51, 3) := dk_162 0 51 (dk_at dksX2_ranked_1 0 rfl rfl)
theorem dX2_ranked_25 : decode cX2_ranked 25 = .ok (.aload_n 1, 1) := dk_43 (dk_at dksX2_ranked_1 3 rfl rfl)
theorem dX2_ranked_26 : decode cX2_ranked 26 = .ok (.aload_n 0, 1) := dk_42 (dk_at dksX2_ranked_1 4 rfl rfl)
theorem dX2_ranked_27 : decode cX2_ranked 27 = .ok (.iload 5, 2) := dk_21 5 (dk_at dksX2_ranked_1 5 rfl rfl)
theorem dX2_ranked_29 : decode cX2_ranked 29 = .ok (.invokevirtual 158, 3) := dk_182 0 158 (dk_at dksX2_ranked_1 7 rfl rfl)
theorem dX2_ranked_32 : decode cX2_ranked 32 = .ok (.aload_n 1, 1) := dk_43 (dk_at dksX2_ranked_1 10 rfl rfl)
theorem dX2_ranked_33 : decode cX2_ranked 33 = .ok (.aload_n 0, 1) := dk_42 (dk_at dksX2_ranked_1 11 rfl rfl)
theorem dX2_ranked_34 : decode cX2_ranked 34 = .ok (.iload_n 3, 1) := dk_29 (dk_at dksX2_ranked_1 12 rfl rfl)
theorem dX2_ranked_35 : decode cX2_ranked 35 = .ok (.invokevirtual 158, 3) := dk_182 0 158 (dk_at dksX2_ranked_1 13 rfl rfl)
theorem dX2_ranked_38 : decode cX2_ranked 38 = .ok (.isub, 1) := dk_100 (dk_at dksX2_ranked_1 16 rfl rfl)
theorem dX2_ranked_39 : decode cX2_ranked 39 = .ok (.istore 6, 2) := dk_54 6 (dk_at dksX2_ranked_1 17 rfl rfl)
theorem dX2_ranked_41 : decode cX2_ranked 41 = .ok (.iload 4, 2) := dk_21 4 (dk_at dksX2_ranked_1 19 rfl rfl)
theorem dX2_ranked_43 : decode cX2_ranked 43 = .ok (.iload 6, 2) := dk_21 6 (dk_at dksX2_ranked_1 21 rfl rfl)
theorem dX2_ranked_45 : decode cX2_ranked 45 = .ok (.ifCond .gt 14, 3) := dk_157 0 14 (dk_at dksX2_ranked_2 0 rfl rfl)
theorem dX2_ranked_48 : decode cX2_ranked 48 = .ok (.iload 6, 2) := dk_21 6 (dk_at dksX2_ranked_2 3 rfl rfl)
theorem dX2_ranked_50 : decode cX2_ranked 50 = .ok (.ifCond .ne 13, 3) := dk_154 0 13 (dk_at dksX2_ranked_2 5 rfl rfl)
theorem dX2_ranked_53 : decode cX2_ranked 53 = .ok (.iload 5, 2) := dk_21 5 (dk_at dksX2_ranked_2 8 rfl rfl)
theorem dX2_ranked_55 : decode cX2_ranked 55 = .ok (.iload_n 3, 1) := dk_29 (dk_at dksX2_ranked_2 10 rfl rfl)
theorem dX2_ranked_56 : decode cX2_ranked 56 = .ok (.if_icmp .ge 7, 3) := dk_162 0 7 (dk_at dksX2_ranked_2 11 rfl rfl)
theorem dX2_ranked_59 : decode cX2_ranked 59 = .ok (.iconst 1, 1) := dk_4 (dk_at dksX2_ranked_2 14 rfl rfl)
theorem dX2_ranked_60 : decode cX2_ranked 60 = .ok (.goto 4, 3) := dk_167 0 4 (dk_at dksX2_ranked_2 15 rfl rfl)
theorem dX2_ranked_63 : decode cX2_ranked 63 = .ok (.iconst 0, 1) := dk_3 (dk_at dksX2_ranked_2 18 rfl rfl)
theorem dX2_ranked_64 : decode cX2_ranked 64 = .ok (.iadd, 1) := dk_96 (dk_at dksX2_ranked_2 19 rfl rfl)
theorem dX2_ranked_65 : decode cX2_ranked 65 = .ok (.istore 4, 2) := dk_54 4 (dk_at dksX2_ranked_2 20 rfl rfl)
theorem dX2_ranked_67 : decode cX2_ranked 67 = .ok (.iinc 5 1, 3) := dk_132 5 1 (dk_at dksX2_ranked_3 0 rfl rfl)
theorem dX2_ranked_70 : decode cX2_ranked 70 = .ok (.goto (-54), 3) := dk_167 255 202 (dk_at dksX2_ranked_3 3 rfl rfl)
theorem dX2_ranked_73 : decode cX2_ranked 73 = .ok (.iload 4, 2) := dk_21 4 (dk_at dksX2_ranked_3 6 rfl rfl)
theorem dX2_ranked_75 : decode cX2_ranked 75 = .ok (.iload_n 2, 1) := dk_28 (dk_at dksX2_ranked_3 8 rfl rfl)
theorem dX2_ranked_76 : decode cX2_ranked 76 = .ok (.if_icmp .ne 5, 3) := dk_160 0 5 (dk_at dksX2_ranked_3 9 rfl rfl)
theorem dX2_ranked_79 : decode cX2_ranked 79 = .ok (.iload_n 3, 1) := dk_29 (dk_at dksX2_ranked_3 12 rfl rfl)
theorem dX2_ranked_80 : decode cX2_ranked 80 = .ok (.ireturn, 1) := dk_172 (dk_at dksX2_ranked_3 13 rfl rfl)
theorem dX2_ranked_81 : decode cX2_ranked 81 = .ok (.iinc 3 1, 3) := dk_132 3 1 (dk_at dksX2_ranked_3 14 rfl rfl)
theorem dX2_ranked_84 : decode cX2_ranked 84 = .ok (.goto (-82), 3) := dk_167 255 174 (dk_at dksX2_ranked_3 17 rfl rfl)
theorem dX2_ranked_87 : decode cX2_ranked 87 = .ok (.iconst (-1), 1) := dk_2 (dk_at dksX2_ranked_3 20 rfl rfl)
theorem dX2_ranked_88 : decode cX2_ranked 88 = .ok (.ireturn, 1) := dk_172 (dk_at dksX2_ranked_3 21 rfl rfl)
abbrev cX2_line : ByteArray := prog_19_method_40_code
def yX2_line : MethodName := ⟨RX2, "line", "(I)Ljava/lang/CharSequence;"⟩
def dkwX2_line_4 : List UInt8 := [182, 0, 186, 87, 132, 3, 1, 167, 255, 177, 44, 176]
abbrev dktX2_line_4 : List UInt8 := dkwX2_line_4 ++ []
def dkwX2_line_3 : List UInt8 := [182, 0, 186, 87, 44, 42, 180, 0, 26, 27, 46, 29, 160, 0, 8, 18, 196, 167, 0, 5, 18, 182]
abbrev dktX2_line_3 : List UInt8 := dkwX2_line_3 ++ dktX2_line_4
def dkwX2_line_2 : List UInt8 := [27, 29, 182, 0, 71, 153, 0, 17, 42, 180, 0, 11, 27, 50, 29, 46, 184, 0, 189, 167, 0, 5, 18, 194]
abbrev dktX2_line_2 : List UInt8 := dkwX2_line_2 ++ dktX2_line_3
def dkwX2_line_1 : List UInt8 := [180, 0, 39, 162, 0, 77, 44, 29, 154, 0, 8, 18, 182, 167, 0, 5, 18, 184, 182, 0, 186, 87, 44, 42]
abbrev dktX2_line_1 : List UInt8 := dkwX2_line_1 ++ dktX2_line_2
def dkwX2_line_0 : List UInt8 := [187, 0, 172, 89, 183, 0, 174, 77, 44, 27, 182, 0, 175, 16, 58, 182, 0, 179, 87, 3, 62, 29, 42]
abbrev dktX2_line_0 : List UInt8 := dkwX2_line_0 ++ dktX2_line_1
theorem dksX2_line_0 : cX2_line.data.toList.drop 0 = dktX2_line_0 := by decide +kernel
theorem dksX2_line_1 : cX2_line.data.toList.drop 23 = dktX2_line_1 := dk_seg dksX2_line_0 23 rfl rfl
theorem dksX2_line_2 : cX2_line.data.toList.drop 47 = dktX2_line_2 := dk_seg dksX2_line_1 24 rfl rfl
theorem dksX2_line_3 : cX2_line.data.toList.drop 71 = dktX2_line_3 := dk_seg dksX2_line_2 24 rfl rfl
theorem dksX2_line_4 : cX2_line.data.toList.drop 93 = dktX2_line_4 := dk_seg dksX2_line_3 22 rfl rfl
theorem dX2_line_0 : decode cX2_line 0 = .ok (.new 172, 3) := dk_187 0 172 (dk_at dksX2_line_0 0 rfl rfl)
theorem dX2_line_3 : decode cX2_line 3 = .ok (.dup, 1) := dk_89 (dk_at dksX2_line_0 3 rfl rfl)
theorem dX2_line_4 : decode cX2_line 4 = .ok (.invokespecial 174, 3) := dk_183 0 174 (dk_at dksX2_line_0 4 rfl rfl)
theorem dX2_line_7 : decode cX2_line 7 = .ok (.astore_n 2, 1) := dk_77 (dk_at dksX2_line_0 7 rfl rfl)
theorem dX2_line_8 : decode cX2_line 8 = .ok (.aload_n 2, 1) := dk_44 (dk_at dksX2_line_0 8 rfl rfl)
theorem dX2_line_9 : decode cX2_line 9 = .ok (.iload_n 1, 1) := dk_27 (dk_at dksX2_line_0 9 rfl rfl)
theorem dX2_line_10 : decode cX2_line 10 = .ok (.invokevirtual 175, 3) := dk_182 0 175 (dk_at dksX2_line_0 10 rfl rfl)
theorem dX2_line_13 : decode cX2_line 13 = .ok (.bipush 58, 2) := dk_16 58 (dk_at dksX2_line_0 13 rfl rfl)
theorem dX2_line_15 : decode cX2_line 15 = .ok (.invokevirtual 179, 3) := dk_182 0 179 (dk_at dksX2_line_0 15 rfl rfl)
theorem dX2_line_18 : decode cX2_line 18 = .ok (.pop, 1) := dk_87 (dk_at dksX2_line_0 18 rfl rfl)
theorem dX2_line_19 : decode cX2_line 19 = .ok (.iconst 0, 1) := dk_3 (dk_at dksX2_line_0 19 rfl rfl)
theorem dX2_line_20 : decode cX2_line 20 = .ok (.istore_n 3, 1) := dk_62 (dk_at dksX2_line_0 20 rfl rfl)
theorem dX2_line_21 : decode cX2_line 21 = .ok (.iload_n 3, 1) := dk_29 (dk_at dksX2_line_0 21 rfl rfl)
theorem dX2_line_22 : decode cX2_line 22 = .ok (.aload_n 0, 1) := dk_42 (dk_at dksX2_line_0 22 rfl rfl)
theorem dX2_line_23 : decode cX2_line 23 = .ok (.getfield 39, 3) := dk_180 0 39 (dk_at dksX2_line_1 0 rfl rfl)
theorem dX2_line_26 : decode cX2_line 26 = .ok (.if_icmp .ge 77, 3) := dk_162 0 77 (dk_at dksX2_line_1 3 rfl rfl)
theorem dX2_line_29 : decode cX2_line 29 = .ok (.aload_n 2, 1) := dk_44 (dk_at dksX2_line_1 6 rfl rfl)
theorem dX2_line_30 : decode cX2_line 30 = .ok (.iload_n 3, 1) := dk_29 (dk_at dksX2_line_1 7 rfl rfl)
theorem dX2_line_31 : decode cX2_line 31 = .ok (.ifCond .ne 8, 3) := dk_154 0 8 (dk_at dksX2_line_1 8 rfl rfl)
theorem dX2_line_34 : decode cX2_line 34 = .ok (.ldc 182, 2) := dk_18 182 (dk_at dksX2_line_1 11 rfl rfl)
theorem dX2_line_36 : decode cX2_line 36 = .ok (.goto 5, 3) := dk_167 0 5 (dk_at dksX2_line_1 13 rfl rfl)
theorem dX2_line_39 : decode cX2_line 39 = .ok (.ldc 184, 2) := dk_18 184 (dk_at dksX2_line_1 16 rfl rfl)
theorem dX2_line_41 : decode cX2_line 41 = .ok (.invokevirtual 186, 3) := dk_182 0 186 (dk_at dksX2_line_1 18 rfl rfl)
theorem dX2_line_44 : decode cX2_line 44 = .ok (.pop, 1) := dk_87 (dk_at dksX2_line_1 21 rfl rfl)
theorem dX2_line_45 : decode cX2_line 45 = .ok (.aload_n 2, 1) := dk_44 (dk_at dksX2_line_1 22 rfl rfl)
theorem dX2_line_46 : decode cX2_line 46 = .ok (.aload_n 0, 1) := dk_42 (dk_at dksX2_line_1 23 rfl rfl)
theorem dX2_line_47 : decode cX2_line 47 = .ok (.iload_n 1, 1) := dk_27 (dk_at dksX2_line_2 0 rfl rfl)
theorem dX2_line_48 : decode cX2_line 48 = .ok (.iload_n 3, 1) := dk_29 (dk_at dksX2_line_2 1 rfl rfl)
theorem dX2_line_49 : decode cX2_line 49 = .ok (.invokevirtual 71, 3) := dk_182 0 71 (dk_at dksX2_line_2 2 rfl rfl)
theorem dX2_line_52 : decode cX2_line 52 = .ok (.ifCond .eq 17, 3) := dk_153 0 17 (dk_at dksX2_line_2 5 rfl rfl)
theorem dX2_line_55 : decode cX2_line 55 = .ok (.aload_n 0, 1) := dk_42 (dk_at dksX2_line_2 8 rfl rfl)
theorem dX2_line_56 : decode cX2_line 56 = .ok (.getfield 11, 3) := dk_180 0 11 (dk_at dksX2_line_2 9 rfl rfl)
theorem dX2_line_59 : decode cX2_line 59 = .ok (.iload_n 1, 1) := dk_27 (dk_at dksX2_line_2 12 rfl rfl)
theorem dX2_line_60 : decode cX2_line 60 = .ok (.aaload, 1) := dk_50 (dk_at dksX2_line_2 13 rfl rfl)
theorem dX2_line_61 : decode cX2_line 61 = .ok (.iload_n 3, 1) := dk_29 (dk_at dksX2_line_2 14 rfl rfl)
theorem dX2_line_62 : decode cX2_line 62 = .ok (.iaload, 1) := dk_46 (dk_at dksX2_line_2 15 rfl rfl)
theorem dX2_line_63 : decode cX2_line 63 = .ok (.invokestatic 189, 3) := dk_184 0 189 (dk_at dksX2_line_2 16 rfl rfl)
theorem dX2_line_66 : decode cX2_line 66 = .ok (.goto 5, 3) := dk_167 0 5 (dk_at dksX2_line_2 19 rfl rfl)
theorem dX2_line_69 : decode cX2_line 69 = .ok (.ldc 194, 2) := dk_18 194 (dk_at dksX2_line_2 22 rfl rfl)
theorem dX2_line_71 : decode cX2_line 71 = .ok (.invokevirtual 186, 3) := dk_182 0 186 (dk_at dksX2_line_3 0 rfl rfl)
theorem dX2_line_74 : decode cX2_line 74 = .ok (.pop, 1) := dk_87 (dk_at dksX2_line_3 3 rfl rfl)
theorem dX2_line_75 : decode cX2_line 75 = .ok (.aload_n 2, 1) := dk_44 (dk_at dksX2_line_3 4 rfl rfl)
theorem dX2_line_76 : decode cX2_line 76 = .ok (.aload_n 0, 1) := dk_42 (dk_at dksX2_line_3 5 rfl rfl)
theorem dX2_line_77 : decode cX2_line 77 = .ok (.getfield 26, 3) := dk_180 0 26 (dk_at dksX2_line_3 6 rfl rfl)
theorem dX2_line_80 : decode cX2_line 80 = .ok (.iload_n 1, 1) := dk_27 (dk_at dksX2_line_3 9 rfl rfl)
theorem dX2_line_81 : decode cX2_line 81 = .ok (.iaload, 1) := dk_46 (dk_at dksX2_line_3 10 rfl rfl)
theorem dX2_line_82 : decode cX2_line 82 = .ok (.iload_n 3, 1) := dk_29 (dk_at dksX2_line_3 11 rfl rfl)
theorem dX2_line_83 : decode cX2_line 83 = .ok (.if_icmp .ne 8, 3) := dk_160 0 8 (dk_at dksX2_line_3 12 rfl rfl)
theorem dX2_line_86 : decode cX2_line 86 = .ok (.ldc 196, 2) := dk_18 196 (dk_at dksX2_line_3 15 rfl rfl)
theorem dX2_line_88 : decode cX2_line 88 = .ok (.goto 5, 3) := dk_167 0 5 (dk_at dksX2_line_3 17 rfl rfl)
theorem dX2_line_91 : decode cX2_line 91 = .ok (.ldc 182, 2) := dk_18 182 (dk_at dksX2_line_3 20 rfl rfl)
theorem dX2_line_93 : decode cX2_line 93 = .ok (.invokevirtual 186, 3) := dk_182 0 186 (dk_at dksX2_line_4 0 rfl rfl)
theorem dX2_line_96 : decode cX2_line 96 = .ok (.pop, 1) := dk_87 (dk_at dksX2_line_4 3 rfl rfl)
theorem dX2_line_97 : decode cX2_line 97 = .ok (.iinc 3 1, 3) := dk_132 3 1 (dk_at dksX2_line_4 4 rfl rfl)
theorem dX2_line_100 : decode cX2_line 100 = .ok (.goto (-79), 3) := dk_167 255 177 (dk_at dksX2_line_4 7 rfl rfl)
theorem dX2_line_103 : decode cX2_line 103 = .ok (.aload_n 2, 1) := dk_44 (dk_at dksX2_line_4 10 rfl rfl)
theorem dX2_line_104 : decode cX2_line 104 = .ok (.areturn, 1) := dk_176 (dk_at dksX2_line_4 11 rfl rfl)
abbrev cX2_sumOf : ByteArray := prog_19_method_41_code
def yX2_sumOf : MethodName := ⟨RX2, "sumOf", "([I)I"⟩
def dkwX2_sumOf_1 : List UInt8 := [28, 172]
abbrev dktX2_sumOf_1 : List UInt8 := dkwX2_sumOf_1 ++ []
def dkwX2_sumOf_0 : List UInt8 := [3, 61, 3, 62, 29, 42, 180, 0, 39, 162, 0, 15, 28, 43, 29, 46, 96, 61, 132, 3, 1, 167, 255, 239]
abbrev dktX2_sumOf_0 : List UInt8 := dkwX2_sumOf_0 ++ dktX2_sumOf_1
theorem dksX2_sumOf_0 : cX2_sumOf.data.toList.drop 0 = dktX2_sumOf_0 := by decide +kernel
theorem dksX2_sumOf_1 : cX2_sumOf.data.toList.drop 24 = dktX2_sumOf_1 := dk_seg dksX2_sumOf_0 24 rfl rfl
theorem dX2_sumOf_0 : decode cX2_sumOf 0 = .ok (.iconst 0, 1) := dk_3 (dk_at dksX2_sumOf_0 0 rfl rfl)
theorem dX2_sumOf_1 : decode cX2_sumOf 1 = .ok (.istore_n 2, 1) := dk_61 (dk_at dksX2_sumOf_0 1 rfl rfl)
theorem dX2_sumOf_2 : decode cX2_sumOf 2 = .ok (.iconst 0, 1) := dk_3 (dk_at dksX2_sumOf_0 2 rfl rfl)
theorem dX2_sumOf_3 : decode cX2_sumOf 3 = .ok (.istore_n 3, 1) := dk_62 (dk_at dksX2_sumOf_0 3 rfl rfl)
theorem dX2_sumOf_4 : decode cX2_sumOf 4 = .ok (.iload_n 3, 1) := dk_29 (dk_at dksX2_sumOf_0 4 rfl rfl)
theorem dX2_sumOf_5 : decode cX2_sumOf 5 = .ok (.aload_n 0, 1) := dk_42 (dk_at dksX2_sumOf_0 5 rfl rfl)
theorem dX2_sumOf_6 : decode cX2_sumOf 6 = .ok (.getfield 39, 3) := dk_180 0 39 (dk_at dksX2_sumOf_0 6 rfl rfl)
theorem dX2_sumOf_9 : decode cX2_sumOf 9 = .ok (.if_icmp .ge 15, 3) := dk_162 0 15 (dk_at dksX2_sumOf_0 9 rfl rfl)
theorem dX2_sumOf_12 : decode cX2_sumOf 12 = .ok (.iload_n 2, 1) := dk_28 (dk_at dksX2_sumOf_0 12 rfl rfl)
theorem dX2_sumOf_13 : decode cX2_sumOf 13 = .ok (.aload_n 1, 1) := dk_43 (dk_at dksX2_sumOf_0 13 rfl rfl)
theorem dX2_sumOf_14 : decode cX2_sumOf 14 = .ok (.iload_n 3, 1) := dk_29 (dk_at dksX2_sumOf_0 14 rfl rfl)
theorem dX2_sumOf_15 : decode cX2_sumOf 15 = .ok (.iaload, 1) := dk_46 (dk_at dksX2_sumOf_0 15 rfl rfl)
theorem dX2_sumOf_16 : decode cX2_sumOf 16 = .ok (.iadd, 1) := dk_96 (dk_at dksX2_sumOf_0 16 rfl rfl)
theorem dX2_sumOf_17 : decode cX2_sumOf 17 = .ok (.istore_n 2, 1) := dk_61 (dk_at dksX2_sumOf_0 17 rfl rfl)
theorem dX2_sumOf_18 : decode cX2_sumOf 18 = .ok (.iinc 3 1, 3) := dk_132 3 1 (dk_at dksX2_sumOf_0 18 rfl rfl)
theorem dX2_sumOf_21 : decode cX2_sumOf 21 = .ok (.goto (-17), 3) := dk_167 255 239 (dk_at dksX2_sumOf_0 21 rfl rfl)
theorem dX2_sumOf_24 : decode cX2_sumOf 24 = .ok (.iload_n 2, 1) := dk_28 (dk_at dksX2_sumOf_1 0 rfl rfl)
theorem dX2_sumOf_25 : decode cX2_sumOf 25 = .ok (.ireturn, 1) := dk_172 (dk_at dksX2_sumOf_1 1 rfl rfl)
abbrev cX2_countLiked : ByteArray := prog_19_method_18_code
def yX2_countLiked : MethodName := ⟨RX2, "countLiked", "()I"⟩
def dkwX2_countLiked_2 : List UInt8 := [167, 255, 213, 27, 172]
abbrev dktX2_countLiked_2 : List UInt8 := dkwX2_countLiked_2 ++ []
def dkwX2_countLiked_1 : List UInt8 := [180, 0, 26, 28, 46, 42, 28, 182, 0, 81, 160, 0, 7, 4, 167, 0, 4, 3, 96, 60, 132, 2, 1]
abbrev dktX2_countLiked_1 : List UInt8 := dkwX2_countLiked_1 ++ dktX2_countLiked_2
def dkwX2_countLiked_0 : List UInt8 := [3, 60, 3, 61, 28, 42, 180, 0, 35, 162, 0, 41, 27, 42, 180, 0, 26, 28, 46, 2, 159, 0, 21, 42]
abbrev dktX2_countLiked_0 : List UInt8 := dkwX2_countLiked_0 ++ dktX2_countLiked_1
theorem dksX2_countLiked_0 : cX2_countLiked.data.toList.drop 0 = dktX2_countLiked_0 := by decide +kernel
theorem dksX2_countLiked_1 : cX2_countLiked.data.toList.drop 24 = dktX2_countLiked_1 := dk_seg dksX2_countLiked_0 24 rfl rfl
theorem dksX2_countLiked_2 : cX2_countLiked.data.toList.drop 47 = dktX2_countLiked_2 := dk_seg dksX2_countLiked_1 23 rfl rfl
theorem dX2_countLiked_0 : decode cX2_countLiked 0 = .ok (.iconst 0, 1) := dk_3 (dk_at dksX2_countLiked_0 0 rfl rfl)
theorem dX2_countLiked_1 : decode cX2_countLiked 1 = .ok (.istore_n 1, 1) := dk_60 (dk_at dksX2_countLiked_0 1 rfl rfl)
theorem dX2_countLiked_2 : decode cX2_countLiked 2 = .ok (.iconst 0, 1) := dk_3 (dk_at dksX2_countLiked_0 2 rfl rfl)
theorem dX2_countLiked_3 : decode cX2_countLiked 3 = .ok (.istore_n 2, 1) := dk_61 (dk_at dksX2_countLiked_0 3 rfl rfl)
theorem dX2_countLiked_4 : decode cX2_countLiked 4 = .ok (.iload_n 2, 1) := dk_28 (dk_at dksX2_countLiked_0 4 rfl rfl)
theorem dX2_countLiked_5 : decode cX2_countLiked 5 = .ok (.aload_n 0, 1) := dk_42 (dk_at dksX2_countLiked_0 5 rfl rfl)
theorem dX2_countLiked_6 : decode cX2_countLiked 6 = .ok (.getfield 35, 3) := dk_180 0 35 (dk_at dksX2_countLiked_0 6 rfl rfl)
theorem dX2_countLiked_9 : decode cX2_countLiked 9 = .ok (.if_icmp .ge 41, 3) := dk_162 0 41 (dk_at dksX2_countLiked_0 9 rfl rfl)
theorem dX2_countLiked_12 : decode cX2_countLiked 12 = .ok (.iload_n 1, 1) := dk_27 (dk_at dksX2_countLiked_0 12 rfl rfl)
theorem dX2_countLiked_13 : decode cX2_countLiked 13 = .ok (.aload_n 0, 1) := dk_42 (dk_at dksX2_countLiked_0 13 rfl rfl)
theorem dX2_countLiked_14 : decode cX2_countLiked 14 = .ok (.getfield 26, 3) := dk_180 0 26 (dk_at dksX2_countLiked_0 14 rfl rfl)
theorem dX2_countLiked_17 : decode cX2_countLiked 17 = .ok (.iload_n 2, 1) := dk_28 (dk_at dksX2_countLiked_0 17 rfl rfl)
theorem dX2_countLiked_18 : decode cX2_countLiked 18 = .ok (.iaload, 1) := dk_46 (dk_at dksX2_countLiked_0 18 rfl rfl)
theorem dX2_countLiked_19 : decode cX2_countLiked 19 = .ok (.iconst (-1), 1) := dk_2 (dk_at dksX2_countLiked_0 19 rfl rfl)
theorem dX2_countLiked_20 : decode cX2_countLiked 20 = .ok (.if_icmp .eq 21, 3) := dk_159 0 21 (dk_at dksX2_countLiked_0 20 rfl rfl)
theorem dX2_countLiked_23 : decode cX2_countLiked 23 = .ok (.aload_n 0, 1) := dk_42 (dk_at dksX2_countLiked_0 23 rfl rfl)
theorem dX2_countLiked_24 : decode cX2_countLiked 24 = .ok (.getfield 26, 3) := dk_180 0 26 (dk_at dksX2_countLiked_1 0 rfl rfl)
theorem dX2_countLiked_27 : decode cX2_countLiked 27 = .ok (.iload_n 2, 1) := dk_28 (dk_at dksX2_countLiked_1 3 rfl rfl)
theorem dX2_countLiked_28 : decode cX2_countLiked 28 = .ok (.iaload, 1) := dk_46 (dk_at dksX2_countLiked_1 4 rfl rfl)
theorem dX2_countLiked_29 : decode cX2_countLiked 29 = .ok (.aload_n 0, 1) := dk_42 (dk_at dksX2_countLiked_1 5 rfl rfl)
theorem dX2_countLiked_30 : decode cX2_countLiked 30 = .ok (.iload_n 2, 1) := dk_28 (dk_at dksX2_countLiked_1 6 rfl rfl)
theorem dX2_countLiked_31 : decode cX2_countLiked 31 = .ok (.invokevirtual 81, 3) := dk_182 0 81 (dk_at dksX2_countLiked_1 7 rfl rfl)
theorem dX2_countLiked_34 : decode cX2_countLiked 34 = .ok (.if_icmp .ne 7, 3) := dk_160 0 7 (dk_at dksX2_countLiked_1 10 rfl rfl)
theorem dX2_countLiked_37 : decode cX2_countLiked 37 = .ok (.iconst 1, 1) := dk_4 (dk_at dksX2_countLiked_1 13 rfl rfl)
theorem dX2_countLiked_38 : decode cX2_countLiked 38 = .ok (.goto 4, 3) := dk_167 0 4 (dk_at dksX2_countLiked_1 14 rfl rfl)
theorem dX2_countLiked_41 : decode cX2_countLiked 41 = .ok (.iconst 0, 1) := dk_3 (dk_at dksX2_countLiked_1 17 rfl rfl)
theorem dX2_countLiked_42 : decode cX2_countLiked 42 = .ok (.iadd, 1) := dk_96 (dk_at dksX2_countLiked_1 18 rfl rfl)
theorem dX2_countLiked_43 : decode cX2_countLiked 43 = .ok (.istore_n 1, 1) := dk_60 (dk_at dksX2_countLiked_1 19 rfl rfl)
theorem dX2_countLiked_44 : decode cX2_countLiked 44 = .ok (.iinc 2 1, 3) := dk_132 2 1 (dk_at dksX2_countLiked_1 20 rfl rfl)
theorem dX2_countLiked_47 : decode cX2_countLiked 47 = .ok (.goto (-43), 3) := dk_167 255 213 (dk_at dksX2_countLiked_2 0 rfl rfl)
theorem dX2_countLiked_50 : decode cX2_countLiked 50 = .ok (.iload_n 1, 1) := dk_27 (dk_at dksX2_countLiked_2 3 rfl rfl)
theorem dX2_countLiked_51 : decode cX2_countLiked 51 = .ok (.ireturn, 1) := dk_172 (dk_at dksX2_countLiked_2 4 rfl rfl)
abbrev cX2_countBarred : ByteArray := prog_19_method_9_code
def yX2_countBarred : MethodName := ⟨RX2, "countBarred", "()I"⟩
def dkwX2_countBarred_0 : List UInt8 := [42, 42, 186, 0, 65, 0, 0, 182, 0, 60, 172]
abbrev dktX2_countBarred_0 : List UInt8 := dkwX2_countBarred_0 ++ []
theorem dksX2_countBarred_0 : cX2_countBarred.data.toList.drop 0 = dktX2_countBarred_0 := by decide +kernel
theorem dX2_countBarred_0 : decode cX2_countBarred 0 = .ok (.aload_n 0, 1) := dk_42 (dk_at dksX2_countBarred_0 0 rfl rfl)
theorem dX2_countBarred_1 : decode cX2_countBarred 1 = .ok (.aload_n 0, 1) := dk_42 (dk_at dksX2_countBarred_0 1 rfl rfl)
theorem dX2_countBarred_2 : decode cX2_countBarred 2 = .ok (.invokedynamic 65, 5) := by decide +kernel
theorem dX2_countBarred_7 : decode cX2_countBarred 7 = .ok (.invokevirtual 60, 3) := dk_182 0 60 (dk_at dksX2_countBarred_0 7 rfl rfl)
theorem dX2_countBarred_10 : decode cX2_countBarred 10 = .ok (.ireturn, 1) := dk_172 (dk_at dksX2_countBarred_0 10 rfl rfl)
abbrev cX2_lambda_countBarred_2 : ByteArray := prog_19_method_45_code
def yX2_lambda_countBarred_2 : MethodName := ⟨RX2, "lambda$countBarred$2", "(II)I"⟩
def dkwX2_lambda_countBarred_2_0 : List UInt8 := [42, 27, 28, 182, 0, 71, 153, 0, 7, 3, 167, 0, 4, 4, 172]
abbrev dktX2_lambda_countBarred_2_0 : List UInt8 := dkwX2_lambda_countBarred_2_0 ++ []
theorem dksX2_lambda_countBarred_2_0 : cX2_lambda_countBarred_2.data.toList.drop 0 = dktX2_lambda_countBarred_2_0 := by decide +kernel
theorem dX2_lambda_countBarred_2_0 : decode cX2_lambda_countBarred_2 0 = .ok (.aload_n 0, 1) := dk_42 (dk_at dksX2_lambda_countBarred_2_0 0 rfl rfl)
theorem dX2_lambda_countBarred_2_1 : decode cX2_lambda_countBarred_2 1 = .ok (.iload_n 1, 1) := dk_27 (dk_at dksX2_lambda_countBarred_2_0 1 rfl rfl)
theorem dX2_lambda_countBarred_2_2 : decode cX2_lambda_countBarred_2 2 = .ok (.iload_n 2, 1) := dk_28 (dk_at dksX2_lambda_countBarred_2_0 2 rfl rfl)
theorem dX2_lambda_countBarred_2_3 : decode cX2_lambda_countBarred_2 3 = .ok (.invokevirtual 71, 3) := dk_182 0 71 (dk_at dksX2_lambda_countBarred_2_0 3 rfl rfl)
theorem dX2_lambda_countBarred_2_6 : decode cX2_lambda_countBarred_2 6 = .ok (.ifCond .eq 7, 3) := dk_153 0 7 (dk_at dksX2_lambda_countBarred_2_0 6 rfl rfl)
theorem dX2_lambda_countBarred_2_9 : decode cX2_lambda_countBarred_2 9 = .ok (.iconst 0, 1) := dk_3 (dk_at dksX2_lambda_countBarred_2_0 9 rfl rfl)
theorem dX2_lambda_countBarred_2_10 : decode cX2_lambda_countBarred_2 10 = .ok (.goto 4, 3) := dk_167 0 4 (dk_at dksX2_lambda_countBarred_2_0 10 rfl rfl)
theorem dX2_lambda_countBarred_2_13 : decode cX2_lambda_countBarred_2 13 = .ok (.iconst 1, 1) := dk_4 (dk_at dksX2_lambda_countBarred_2_0 13 rfl rfl)
theorem dX2_lambda_countBarred_2_14 : decode cX2_lambda_countBarred_2 14 = .ok (.ireturn, 1) := dk_172 (dk_at dksX2_lambda_countBarred_2_0 14 rfl rfl)
theorem q94 : (Jvm.Cond.initialized "MasterPrices$Town") ∈ lw_all := lw_g (lw_at lw_m1 2 rfl) rfl
theorem q145 : (Jvm.Cond.instantiable "MasterPrices$Town" (10 : Nat)) ∈ lw_all := lw_g (lw_at lw_m1 53 rfl) rfl
theorem q147 : (Jvm.Cond.instanceMethod ({ cls := "MasterPrices$Town", name := "<init>", desc := "()V" } : Jvm.MethodName)) ∈ lw_all := lw_g (lw_at lw_m1 55 rfl) rfl
theorem q148 : (Jvm.Cond.code ({ cls := "MasterPrices$Town", name := "<init>", desc := "()V" } : Jvm.MethodName) prog_19_method_1_code (3 : Nat) (Option.none : Option Jvm.ClassFile.FieldType)) ∈ lw_all := lw_g (lw_at lw_m1 56 rfl) rfl
theorem q149 : (Jvm.Cond.methodLink "MasterPrices$Town" (3 : Nat) ({ cls := "java/lang/Object", name := "<init>", desc := "()V" } : Jvm.MethodName)) ∈ lw_all := lw_g (lw_at lw_m1 57 rfl) rfl
theorem q150 : (Jvm.Cond.classLink "MasterPrices$Town" (9 : Nat) "[[I") ∈ lw_all := lw_g (lw_at lw_m1 58 rfl) rfl
theorem q152 : (Jvm.Cond.fieldLink "MasterPrices$Town" (11 : Nat) "MasterPrices$Town" "costs" "[[I") ∈ lw_all := lw_g (lw_at lw_m1 60 rfl) rfl
theorem q156 : (Jvm.Cond.fieldLink "MasterPrices$Town" (16 : Nat) "MasterPrices$Town" "served" "[[I") ∈ lw_all := lw_g (lw_at lw_m1 64 rfl) rfl
theorem q158 : (Jvm.Cond.fieldLink "MasterPrices$Town" (19 : Nat) "MasterPrices$Town" "prices" "[I") ∈ lw_all := lw_g (lw_at lw_m1 66 rfl) rfl
theorem q161 : (Jvm.Cond.fieldLink "MasterPrices$Town" (23 : Nat) "MasterPrices$Town" "bids" "[I") ∈ lw_all := lw_g (lw_at lw_m1 69 rfl) rfl
theorem q163 : (Jvm.Cond.fieldLink "MasterPrices$Town" (26 : Nat) "MasterPrices$Town" "pairs" "[I") ∈ lw_all := lw_g (lw_at lw_m1 71 rfl) rfl
theorem q167 : (Jvm.Cond.fieldLink "MasterPrices$Town" (35 : Nat) "MasterPrices$Town" "apprentices" "I") ∈ lw_all := lw_g (lw_at lw_m1 75 rfl) rfl
theorem q170 : (Jvm.Cond.fieldLink "MasterPrices$Town" (39 : Nat) "MasterPrices$Town" "masters" "I") ∈ lw_all := lw_g (lw_at lw_m1 78 rfl) rfl
theorem q172 : (Jvm.Cond.fieldLink "MasterPrices$Town" (42 : Nat) "MasterPrices$Town" "freed" "I") ∈ lw_all := lw_g (lw_at lw_m1 80 rfl) rfl
theorem q174 : (Jvm.Cond.fieldLink "MasterPrices$Town" (45 : Nat) "MasterPrices$Town" "years" "I") ∈ lw_all := lw_g (lw_at lw_m1 82 rfl) rfl
theorem q176 : (Jvm.Cond.fieldLink "MasterPrices$Town" (48 : Nat) "MasterPrices$Town" "settled" "I") ∈ lw_all := lw_g (lw_at lw_m1 84 rfl) rfl
theorem q178 : (Jvm.Cond.laysFinal "MasterPrices$Town" "MasterPrices$Town" "costs" "[[I") ∈ lw_all := lw_g (lw_at lw_m1 86 rfl) rfl
theorem q179 : (Jvm.Cond.soleField "MasterPrices$Town" "costs") ∈ lw_all := lw_g (lw_at lw_m1 87 rfl) rfl
theorem q180 : (Jvm.Cond.laysFinal "MasterPrices$Town" "MasterPrices$Town" "served" "[[I") ∈ lw_all := lw_g (lw_at lw_m1 88 rfl) rfl
theorem q181 : (Jvm.Cond.soleField "MasterPrices$Town" "served") ∈ lw_all := lw_g (lw_at lw_m1 89 rfl) rfl
theorem q182 : (Jvm.Cond.laysFinal "MasterPrices$Town" "MasterPrices$Town" "prices" "[I") ∈ lw_all := lw_g (lw_at lw_m1 90 rfl) rfl
theorem q183 : (Jvm.Cond.soleField "MasterPrices$Town" "prices") ∈ lw_all := lw_g (lw_at lw_m1 91 rfl) rfl
theorem q184 : (Jvm.Cond.laysFinal "MasterPrices$Town" "MasterPrices$Town" "bids" "[I") ∈ lw_all := lw_g (lw_at lw_m1 92 rfl) rfl
theorem q185 : (Jvm.Cond.soleField "MasterPrices$Town" "bids") ∈ lw_all := lw_g (lw_at lw_m1 93 rfl) rfl
theorem q186 : (Jvm.Cond.laysFinal "MasterPrices$Town" "MasterPrices$Town" "pairs" "[I") ∈ lw_all := lw_g (lw_at lw_m1 94 rfl) rfl
theorem q187 : (Jvm.Cond.soleField "MasterPrices$Town" "pairs") ∈ lw_all := lw_g (lw_at lw_m1 95 rfl) rfl
theorem q188 : (Jvm.Cond.lays "MasterPrices$Town" "MasterPrices$Town" "apprentices" "I") ∈ lw_all := lw_g (lw_at lw_m1 96 rfl) rfl
theorem q189 : (Jvm.Cond.soleField "MasterPrices$Town" "apprentices") ∈ lw_all := lw_g (lw_at lw_m1 97 rfl) rfl
theorem q190 : (Jvm.Cond.lays "MasterPrices$Town" "MasterPrices$Town" "masters" "I") ∈ lw_all := lw_g (lw_at lw_m1 98 rfl) rfl
theorem q191 : (Jvm.Cond.soleField "MasterPrices$Town" "masters") ∈ lw_all := lw_g (lw_at lw_m1 99 rfl) rfl
theorem q192 : (Jvm.Cond.lays "MasterPrices$Town" "MasterPrices$Town" "freed" "I") ∈ lw_all := lw_g (lw_at lw_m1 100 rfl) rfl
theorem q193 : (Jvm.Cond.soleField "MasterPrices$Town" "freed") ∈ lw_all := lw_g (lw_at lw_m1 101 rfl) rfl
theorem q194 : (Jvm.Cond.lays "MasterPrices$Town" "MasterPrices$Town" "years" "I") ∈ lw_all := lw_g (lw_at lw_m1 102 rfl) rfl
theorem q195 : (Jvm.Cond.soleField "MasterPrices$Town" "years") ∈ lw_all := lw_g (lw_at lw_m1 103 rfl) rfl
theorem q196 : (Jvm.Cond.lays "MasterPrices$Town" "MasterPrices$Town" "settled" "I") ∈ lw_all := lw_g (lw_at lw_m1 104 rfl) rfl
theorem q197 : (Jvm.Cond.soleField "MasterPrices$Town" "settled") ∈ lw_all := lw_g (lw_at lw_m1 105 rfl) rfl
theorem q198 : (Jvm.Cond.superclass "MasterPrices$Town" "java/lang/Object") ∈ lw_all := lw_g (lw_at lw_m1 106 rfl) rfl
theorem q289 : (Jvm.Cond.instanceMethod ({ cls := "MasterPrices$Town", name := "<init>", desc := "(LMasterPrices$Town;)V" } : Jvm.MethodName)) ∈ lw_all := lw_g (lw_at lw_m1 197 rfl) rfl
theorem q290 : (Jvm.Cond.code ({ cls := "MasterPrices$Town", name := "<init>", desc := "(LMasterPrices$Town;)V" } : Jvm.MethodName) prog_19_method_2_code (3 : Nat) (Option.none : Option Jvm.ClassFile.FieldType)) ∈ lw_all := lw_g (lw_at lw_m1 198 rfl) rfl
theorem q291 : (Jvm.Cond.methodLink "MasterPrices$Town" (29 : Nat) ({ cls := "java/lang/System", name := "arraycopy", desc := "(Ljava/lang/Object;ILjava/lang/Object;II)V" } : Jvm.MethodName)) ∈ lw_all := lw_g (lw_at lw_m1 199 rfl) rfl
theorem q299 : (Jvm.Cond.instanceMethod ({ cls := "MasterPrices$Town", name := "masterComes", desc := "()I" } : Jvm.MethodName)) ∈ lw_all := lw_g (lw_at lw_m1 207 rfl) rfl
theorem q300 : (Jvm.Cond.selects "MasterPrices$Town" ({ cls := "MasterPrices$Town", name := "masterComes", desc := "()I" } : Jvm.MethodName) ({ cls := "MasterPrices$Town", name := "masterComes", desc := "()I" } : Jvm.MethodName)) ∈ lw_all := lw_g (lw_at lw_m1 208 rfl) rfl
theorem q301 : (Jvm.Cond.code ({ cls := "MasterPrices$Town", name := "masterComes", desc := "()I" } : Jvm.MethodName) prog_19_method_21_code (1 : Nat) (Option.some Jvm.ClassFile.FieldType.int)) ∈ lw_all := lw_g (lw_at lw_m1 209 rfl) rfl
theorem q302 : (Jvm.Cond.methodLinkNest "MasterPrices$Town" (85 : Nat) ({ cls := "MasterPrices", name := "check", desc := "(ZII)V" } : Jvm.MethodName) "MasterPrices") ∈ lw_tbl := lw_at lw_m1 210 rfl
theorem q385 : (Jvm.Cond.methodLink "MasterPrices$Town" (89 : Nat) ({ cls := "MasterPrices$Town", name := "beginsAnew", desc := "()V" } : Jvm.MethodName)) ∈ lw_all := lw_g (lw_at lw_m2 53 rfl) rfl
theorem q386 : (Jvm.Cond.privateMethod ({ cls := "MasterPrices$Town", name := "beginsAnew", desc := "()V" } : Jvm.MethodName)) ∈ lw_tbl := lw_at lw_m2 54 rfl
theorem q387 : (Jvm.Cond.instanceMethod ({ cls := "MasterPrices$Town", name := "beginsAnew", desc := "()V" } : Jvm.MethodName)) ∈ lw_all := lw_g (lw_at lw_m2 55 rfl) rfl
theorem q388 : (Jvm.Cond.code ({ cls := "MasterPrices$Town", name := "beginsAnew", desc := "()V" } : Jvm.MethodName) prog_19_method_19_code (2 : Nat) (Option.none : Option Jvm.ClassFile.FieldType)) ∈ lw_all := lw_g (lw_at lw_m2 56 rfl) rfl
theorem q390 : (Jvm.Cond.instanceMethod ({ cls := "MasterPrices$Town", name := "apprenticeComes", desc := "()I" } : Jvm.MethodName)) ∈ lw_all := lw_g (lw_at lw_m2 58 rfl) rfl
theorem q391 : (Jvm.Cond.selects "MasterPrices$Town" ({ cls := "MasterPrices$Town", name := "apprenticeComes", desc := "()I" } : Jvm.MethodName) ({ cls := "MasterPrices$Town", name := "apprenticeComes", desc := "()I" } : Jvm.MethodName)) ∈ lw_all := lw_g (lw_at lw_m2 59 rfl) rfl
theorem q392 : (Jvm.Cond.code ({ cls := "MasterPrices$Town", name := "apprenticeComes", desc := "()I" } : Jvm.MethodName) prog_19_method_20_code (1 : Nat) (Option.some Jvm.ClassFile.FieldType.int)) ∈ lw_all := lw_g (lw_at lw_m2 60 rfl) rfl
theorem q395 : (Jvm.Cond.instanceMethod ({ cls := "MasterPrices$Town", name := "bars", desc := "(II)I" } : Jvm.MethodName)) ∈ lw_all := lw_g (lw_at lw_m2 63 rfl) rfl
theorem q396 : (Jvm.Cond.selects "MasterPrices$Town" ({ cls := "MasterPrices$Town", name := "bars", desc := "(II)I" } : Jvm.MethodName) ({ cls := "MasterPrices$Town", name := "bars", desc := "(II)I" } : Jvm.MethodName)) ∈ lw_all := lw_g (lw_at lw_m2 64 rfl) rfl
theorem q397 : (Jvm.Cond.code ({ cls := "MasterPrices$Town", name := "bars", desc := "(II)I" } : Jvm.MethodName) prog_19_method_25_code (4 : Nat) (Option.some Jvm.ClassFile.FieldType.int)) ∈ lw_all := lw_g (lw_at lw_m2 65 rfl) rfl
theorem q398 : (Jvm.Cond.methodLink "MasterPrices$Town" (100 : Nat) ({ cls := "MasterPrices$Town", name := "checkBoth", desc := "(II)V" } : Jvm.MethodName)) ∈ lw_all := lw_g (lw_at lw_m2 66 rfl) rfl
theorem q399 : (Jvm.Cond.privateMethod ({ cls := "MasterPrices$Town", name := "checkBoth", desc := "(II)V" } : Jvm.MethodName)) ∈ lw_tbl := lw_at lw_m2 67 rfl
theorem q400 : (Jvm.Cond.instanceMethod ({ cls := "MasterPrices$Town", name := "checkBoth", desc := "(II)V" } : Jvm.MethodName)) ∈ lw_all := lw_g (lw_at lw_m2 68 rfl) rfl
theorem q401 : (Jvm.Cond.code ({ cls := "MasterPrices$Town", name := "checkBoth", desc := "(II)V" } : Jvm.MethodName) prog_19_method_23_code (3 : Nat) (Option.none : Option Jvm.ClassFile.FieldType)) ∈ lw_all := lw_g (lw_at lw_m2 69 rfl) rfl
theorem q402 : (Jvm.Cond.methodLink "MasterPrices$Town" (96 : Nat) ({ cls := "MasterPrices$Town", name := "checkApprentice", desc := "(I)V" } : Jvm.MethodName)) ∈ lw_all := lw_g (lw_at lw_m2 70 rfl) rfl
theorem q403 : (Jvm.Cond.privateMethod ({ cls := "MasterPrices$Town", name := "checkApprentice", desc := "(I)V" } : Jvm.MethodName)) ∈ lw_tbl := lw_at lw_m2 71 rfl
theorem q404 : (Jvm.Cond.instanceMethod ({ cls := "MasterPrices$Town", name := "checkApprentice", desc := "(I)V" } : Jvm.MethodName)) ∈ lw_all := lw_g (lw_at lw_m2 72 rfl) rfl
theorem q405 : (Jvm.Cond.code ({ cls := "MasterPrices$Town", name := "checkApprentice", desc := "(I)V" } : Jvm.MethodName) prog_19_method_22_code (2 : Nat) (Option.none : Option Jvm.ClassFile.FieldType)) ∈ lw_all := lw_g (lw_at lw_m2 73 rfl) rfl
theorem q406 : (Jvm.Cond.methodLinkNest "MasterPrices$Town" (92 : Nat) ({ cls := "MasterPrices", name := "isBetween", desc := "(III)Z" } : Jvm.MethodName) "MasterPrices") ∈ lw_tbl := lw_at lw_m2 74 rfl
theorem q410 : (Jvm.Cond.instanceMethod ({ cls := "MasterPrices$Town", name := "tellsCost", desc := "(III)I" } : Jvm.MethodName)) ∈ lw_all := lw_g (lw_at lw_m2 78 rfl) rfl
theorem q411 : (Jvm.Cond.selects "MasterPrices$Town" ({ cls := "MasterPrices$Town", name := "tellsCost", desc := "(III)I" } : Jvm.MethodName) ({ cls := "MasterPrices$Town", name := "tellsCost", desc := "(III)I" } : Jvm.MethodName)) ∈ lw_all := lw_g (lw_at lw_m2 79 rfl) rfl
theorem q412 : (Jvm.Cond.code ({ cls := "MasterPrices$Town", name := "tellsCost", desc := "(III)I" } : Jvm.MethodName) prog_19_method_24_code (5 : Nat) (Option.some Jvm.ClassFile.FieldType.int)) ∈ lw_all := lw_g (lw_at lw_m2 80 rfl) rfl
theorem q415 : (Jvm.Cond.instanceMethod ({ cls := "MasterPrices$Town", name := "leaves", desc := "(I)I" } : Jvm.MethodName)) ∈ lw_all := lw_g (lw_at lw_m2 83 rfl) rfl
theorem q416 : (Jvm.Cond.selects "MasterPrices$Town" ({ cls := "MasterPrices$Town", name := "leaves", desc := "(I)I" } : Jvm.MethodName) ({ cls := "MasterPrices$Town", name := "leaves", desc := "(I)I" } : Jvm.MethodName)) ∈ lw_all := lw_g (lw_at lw_m2 84 rfl) rfl
theorem q417 : (Jvm.Cond.code ({ cls := "MasterPrices$Town", name := "leaves", desc := "(I)I" } : Jvm.MethodName) prog_19_method_30_code (3 : Nat) (Option.some Jvm.ClassFile.FieldType.int)) ∈ lw_all := lw_g (lw_at lw_m2 85 rfl) rfl
theorem q426 : (Jvm.Cond.instanceMethod ({ cls := "MasterPrices$Town", name := "bidsOnce", desc := "()I" } : Jvm.MethodName)) ∈ lw_all := lw_g (lw_at lw_m2 94 rfl) rfl
theorem q427 : (Jvm.Cond.selects "MasterPrices$Town" ({ cls := "MasterPrices$Town", name := "bidsOnce", desc := "()I" } : Jvm.MethodName) ({ cls := "MasterPrices$Town", name := "bidsOnce", desc := "()I" } : Jvm.MethodName)) ∈ lw_all := lw_g (lw_at lw_m2 95 rfl) rfl
theorem q428 : (Jvm.Cond.code ({ cls := "MasterPrices$Town", name := "bidsOnce", desc := "()I" } : Jvm.MethodName) prog_19_method_27_code (3 : Nat) (Option.some Jvm.ClassFile.FieldType.int)) ∈ lw_all := lw_g (lw_at lw_m2 96 rfl) rfl
theorem q429 : (Jvm.Cond.methodLink "MasterPrices$Town" (104 : Nat) ({ cls := "MasterPrices$Town", name := "lowestFree", desc := "()I" } : Jvm.MethodName)) ∈ lw_all := lw_g (lw_at lw_m2 97 rfl) rfl
theorem q430 : (Jvm.Cond.instanceMethod ({ cls := "MasterPrices$Town", name := "lowestFree", desc := "()I" } : Jvm.MethodName)) ∈ lw_all := lw_g (lw_at lw_m2 98 rfl) rfl
theorem q431 : (Jvm.Cond.selects "MasterPrices$Town" ({ cls := "MasterPrices$Town", name := "lowestFree", desc := "()I" } : Jvm.MethodName) ({ cls := "MasterPrices$Town", name := "lowestFree", desc := "()I" } : Jvm.MethodName)) ∈ lw_all := lw_g (lw_at lw_m2 99 rfl) rfl
theorem q432 : (Jvm.Cond.code ({ cls := "MasterPrices$Town", name := "lowestFree", desc := "()I" } : Jvm.MethodName) prog_19_method_5_code (2 : Nat) (Option.some Jvm.ClassFile.FieldType.int)) ∈ lw_all := lw_g (lw_at lw_m2 100 rfl) rfl
theorem q433 : (Jvm.Cond.methodLink "MasterPrices$Town" (81 : Nat) ({ cls := "MasterPrices$Town", name := "likes", desc := "(I)I" } : Jvm.MethodName)) ∈ lw_all := lw_g (lw_at lw_m2 101 rfl) rfl
theorem q434 : (Jvm.Cond.instanceMethod ({ cls := "MasterPrices$Town", name := "likes", desc := "(I)I" } : Jvm.MethodName)) ∈ lw_all := lw_g (lw_at lw_m2 102 rfl) rfl
theorem q435 : (Jvm.Cond.selects "MasterPrices$Town" ({ cls := "MasterPrices$Town", name := "likes", desc := "(I)I" } : Jvm.MethodName) ({ cls := "MasterPrices$Town", name := "likes", desc := "(I)I" } : Jvm.MethodName)) ∈ lw_all := lw_g (lw_at lw_m2 103 rfl) rfl
theorem q436 : (Jvm.Cond.code ({ cls := "MasterPrices$Town", name := "likes", desc := "(I)I" } : Jvm.MethodName) prog_19_method_15_code (2 : Nat) (Option.some Jvm.ClassFile.FieldType.int)) ∈ lw_all := lw_g (lw_at lw_m2 104 rfl) rfl
theorem q437 : (Jvm.Cond.methodLink "MasterPrices$Town" (78 : Nat) ({ cls := "MasterPrices$Town", name := "liked", desc := "(II)I" } : Jvm.MethodName)) ∈ lw_all := lw_g (lw_at lw_m2 105 rfl) rfl
theorem q438 : (Jvm.Cond.privateMethod ({ cls := "MasterPrices$Town", name := "liked", desc := "(II)I" } : Jvm.MethodName)) ∈ lw_tbl := lw_at lw_m2 106 rfl
theorem q439 : (Jvm.Cond.instanceMethod ({ cls := "MasterPrices$Town", name := "liked", desc := "(II)I" } : Jvm.MethodName)) ∈ lw_all := lw_g (lw_at lw_m2 107 rfl) rfl
theorem q440 : (Jvm.Cond.code ({ cls := "MasterPrices$Town", name := "liked", desc := "(II)I" } : Jvm.MethodName) prog_19_method_14_code (6 : Nat) (Option.some Jvm.ClassFile.FieldType.int)) ∈ lw_all := lw_g (lw_at lw_m2 108 rfl) rfl
theorem q441 : (Jvm.Cond.methodLink "MasterPrices$Town" (71 : Nat) ({ cls := "MasterPrices$Town", name := "canBe", desc := "(II)Z" } : Jvm.MethodName)) ∈ lw_all := lw_g (lw_at lw_m2 109 rfl) rfl
theorem q442 : (Jvm.Cond.instanceMethod ({ cls := "MasterPrices$Town", name := "canBe", desc := "(II)Z" } : Jvm.MethodName)) ∈ lw_all := lw_g (lw_at lw_m2 110 rfl) rfl
theorem q443 : (Jvm.Cond.selects "MasterPrices$Town" ({ cls := "MasterPrices$Town", name := "canBe", desc := "(II)Z" } : Jvm.MethodName) ({ cls := "MasterPrices$Town", name := "canBe", desc := "(II)Z" } : Jvm.MethodName)) ∈ lw_all := lw_g (lw_at lw_m2 111 rfl) rfl
theorem q444 : (Jvm.Cond.code ({ cls := "MasterPrices$Town", name := "canBe", desc := "(II)Z" } : Jvm.MethodName) prog_19_method_3_code (3 : Nat) (Option.some Jvm.ClassFile.FieldType.boolean)) ∈ lw_all := lw_g (lw_at lw_m2 112 rfl) rfl
theorem q445 : (Jvm.Cond.methodLink "MasterPrices$Town" (75 : Nat) ({ cls := "MasterPrices$Town", name := "burden", desc := "(II)I" } : Jvm.MethodName)) ∈ lw_all := lw_g (lw_at lw_m2 113 rfl) rfl
theorem q446 : (Jvm.Cond.instanceMethod ({ cls := "MasterPrices$Town", name := "burden", desc := "(II)I" } : Jvm.MethodName)) ∈ lw_all := lw_g (lw_at lw_m2 114 rfl) rfl
theorem q447 : (Jvm.Cond.selects "MasterPrices$Town" ({ cls := "MasterPrices$Town", name := "burden", desc := "(II)I" } : Jvm.MethodName) ({ cls := "MasterPrices$Town", name := "burden", desc := "(II)I" } : Jvm.MethodName)) ∈ lw_all := lw_g (lw_at lw_m2 115 rfl) rfl
theorem q448 : (Jvm.Cond.code ({ cls := "MasterPrices$Town", name := "burden", desc := "(II)I" } : Jvm.MethodName) prog_19_method_13_code (3 : Nat) (Option.some Jvm.ClassFile.FieldType.int)) ∈ lw_all := lw_g (lw_at lw_m2 116 rfl) rfl
theorem q449 : (Jvm.Cond.methodLink "MasterPrices$Town" (108 : Nat) ({ cls := "MasterPrices$Town", name := "moves", desc := "(I)I" } : Jvm.MethodName)) ∈ lw_all := lw_g (lw_at lw_m2 117 rfl) rfl
theorem q450 : (Jvm.Cond.instanceMethod ({ cls := "MasterPrices$Town", name := "moves", desc := "(I)I" } : Jvm.MethodName)) ∈ lw_all := lw_g (lw_at lw_m2 118 rfl) rfl
theorem q451 : (Jvm.Cond.selects "MasterPrices$Town" ({ cls := "MasterPrices$Town", name := "moves", desc := "(I)I" } : Jvm.MethodName) ({ cls := "MasterPrices$Town", name := "moves", desc := "(I)I" } : Jvm.MethodName)) ∈ lw_all := lw_g (lw_at lw_m2 119 rfl) rfl
theorem q452 : (Jvm.Cond.code ({ cls := "MasterPrices$Town", name := "moves", desc := "(I)I" } : Jvm.MethodName) prog_19_method_16_code (4 : Nat) (Option.some Jvm.ClassFile.FieldType.int)) ∈ lw_all := lw_g (lw_at lw_m2 120 rfl) rfl
theorem q453 : (Jvm.Cond.methodLink "MasterPrices$Town" (114 : Nat) ({ cls := "MasterPrices$Town", name := "bidsIfCan", desc := "()I" } : Jvm.MethodName)) ∈ lw_all := lw_g (lw_at lw_m2 121 rfl) rfl
theorem q454 : (Jvm.Cond.privateMethod ({ cls := "MasterPrices$Town", name := "bidsIfCan", desc := "()I" } : Jvm.MethodName)) ∈ lw_tbl := lw_at lw_m2 122 rfl
theorem q455 : (Jvm.Cond.instanceMethod ({ cls := "MasterPrices$Town", name := "bidsIfCan", desc := "()I" } : Jvm.MethodName)) ∈ lw_all := lw_g (lw_at lw_m2 123 rfl) rfl
theorem q456 : (Jvm.Cond.code ({ cls := "MasterPrices$Town", name := "bidsIfCan", desc := "()I" } : Jvm.MethodName) prog_19_method_26_code (4 : Nat) (Option.some Jvm.ClassFile.FieldType.int)) ∈ lw_all := lw_g (lw_at lw_m2 124 rfl) rfl
theorem q457 : (Jvm.Cond.methodLink "MasterPrices$Town" (111 : Nat) ({ cls := "MasterPrices$Town", name := "apprenticeAt", desc := "(I)I" } : Jvm.MethodName)) ∈ lw_all := lw_g (lw_at lw_m2 125 rfl) rfl
theorem q458 : (Jvm.Cond.instanceMethod ({ cls := "MasterPrices$Town", name := "apprenticeAt", desc := "(I)I" } : Jvm.MethodName)) ∈ lw_all := lw_g (lw_at lw_m2 126 rfl) rfl
theorem q459 : (Jvm.Cond.selects "MasterPrices$Town" ({ cls := "MasterPrices$Town", name := "apprenticeAt", desc := "(I)I" } : Jvm.MethodName) ({ cls := "MasterPrices$Town", name := "apprenticeAt", desc := "(I)I" } : Jvm.MethodName)) ∈ lw_all := lw_g (lw_at lw_m2 127 rfl) rfl
theorem q460 : (Jvm.Cond.code ({ cls := "MasterPrices$Town", name := "apprenticeAt", desc := "(I)I" } : Jvm.MethodName) prog_19_method_4_code (3 : Nat) (Option.some Jvm.ClassFile.FieldType.int)) ∈ lw_all := lw_g (lw_at lw_m2 128 rfl) rfl
theorem q465 : (Jvm.Cond.instanceMethod ({ cls := "MasterPrices$Town", name := "settles", desc := "()I" } : Jvm.MethodName)) ∈ lw_all := lw_g (lw_at lw_m2 133 rfl) rfl
theorem q466 : (Jvm.Cond.selects "MasterPrices$Town" ({ cls := "MasterPrices$Town", name := "settles", desc := "()I" } : Jvm.MethodName) ({ cls := "MasterPrices$Town", name := "settles", desc := "()I" } : Jvm.MethodName)) ∈ lw_all := lw_g (lw_at lw_m2 134 rfl) rfl
theorem q467 : (Jvm.Cond.code ({ cls := "MasterPrices$Town", name := "settles", desc := "()I" } : Jvm.MethodName) prog_19_method_29_code (2 : Nat) (Option.some Jvm.ClassFile.FieldType.int)) ∈ lw_all := lw_g (lw_at lw_m2 135 rfl) rfl
theorem q468 : (Jvm.Cond.methodLink "MasterPrices$Town" (117 : Nat) ({ cls := "MasterPrices$Town", name := "most", desc := "()I" } : Jvm.MethodName)) ∈ lw_all := lw_g (lw_at lw_m2 136 rfl) rfl
theorem q469 : (Jvm.Cond.instanceMethod ({ cls := "MasterPrices$Town", name := "most", desc := "()I" } : Jvm.MethodName)) ∈ lw_all := lw_g (lw_at lw_m2 137 rfl) rfl
theorem q470 : (Jvm.Cond.selects "MasterPrices$Town" ({ cls := "MasterPrices$Town", name := "most", desc := "()I" } : Jvm.MethodName) ({ cls := "MasterPrices$Town", name := "most", desc := "()I" } : Jvm.MethodName)) ∈ lw_all := lw_g (lw_at lw_m2 138 rfl) rfl
theorem q471 : (Jvm.Cond.code ({ cls := "MasterPrices$Town", name := "most", desc := "()I" } : Jvm.MethodName) prog_19_method_36_code (4 : Nat) (Option.some Jvm.ClassFile.FieldType.int)) ∈ lw_all := lw_g (lw_at lw_m2 139 rfl) rfl
theorem q472 : (Jvm.Cond.methodLink "MasterPrices$Town" (154 : Nat) ({ cls := "MasterPrices$Town", name := "finds", desc := "(I[I[Z)Z" } : Jvm.MethodName)) ∈ lw_all := lw_g (lw_at lw_m2 140 rfl) rfl
theorem q473 : (Jvm.Cond.privateMethod ({ cls := "MasterPrices$Town", name := "finds", desc := "(I[I[Z)Z" } : Jvm.MethodName)) ∈ lw_tbl := lw_at lw_m2 141 rfl
theorem q474 : (Jvm.Cond.instanceMethod ({ cls := "MasterPrices$Town", name := "finds", desc := "(I[I[Z)Z" } : Jvm.MethodName)) ∈ lw_all := lw_g (lw_at lw_m2 142 rfl) rfl
theorem q475 : (Jvm.Cond.code ({ cls := "MasterPrices$Town", name := "finds", desc := "(I[I[Z)Z" } : Jvm.MethodName) prog_19_method_37_code (5 : Nat) (Option.some Jvm.ClassFile.FieldType.boolean)) ∈ lw_all := lw_g (lw_at lw_m2 143 rfl) rfl
theorem q476 : (Jvm.Cond.methodLink "MasterPrices$Town" (120 : Nat) ({ cls := "MasterPrices$Town", name := "bidsOn", desc := "()I" } : Jvm.MethodName)) ∈ lw_all := lw_g (lw_at lw_m2 144 rfl) rfl
theorem q477 : (Jvm.Cond.privateMethod ({ cls := "MasterPrices$Town", name := "bidsOn", desc := "()I" } : Jvm.MethodName)) ∈ lw_tbl := lw_at lw_m2 145 rfl
theorem q478 : (Jvm.Cond.instanceMethod ({ cls := "MasterPrices$Town", name := "bidsOn", desc := "()I" } : Jvm.MethodName)) ∈ lw_all := lw_g (lw_at lw_m2 146 rfl) rfl
theorem q479 : (Jvm.Cond.code ({ cls := "MasterPrices$Town", name := "bidsOn", desc := "()I" } : Jvm.MethodName) prog_19_method_28_code (2 : Nat) (Option.some Jvm.ClassFile.FieldType.int)) ∈ lw_all := lw_g (lw_at lw_m2 147 rfl) rfl
theorem q484 : (Jvm.Cond.instanceMethod ({ cls := "MasterPrices$Town", name := "goesBy", desc := "()I" } : Jvm.MethodName)) ∈ lw_all := lw_g (lw_at lw_m2 152 rfl) rfl
theorem q485 : (Jvm.Cond.selects "MasterPrices$Town" ({ cls := "MasterPrices$Town", name := "goesBy", desc := "()I" } : Jvm.MethodName) ({ cls := "MasterPrices$Town", name := "goesBy", desc := "()I" } : Jvm.MethodName)) ∈ lw_all := lw_g (lw_at lw_m2 153 rfl) rfl
theorem q486 : (Jvm.Cond.code ({ cls := "MasterPrices$Town", name := "goesBy", desc := "()I" } : Jvm.MethodName) prog_19_method_31_code (4 : Nat) (Option.some Jvm.ClassFile.FieldType.int)) ∈ lw_all := lw_g (lw_at lw_m2 154 rfl) rfl
theorem q487 : (Jvm.Cond.methodLink "MasterPrices$Town" (123 : Nat) ({ cls := "MasterPrices$Town", name := "costOfPairs", desc := "()I" } : Jvm.MethodName)) ∈ lw_all := lw_g (lw_at lw_m2 155 rfl) rfl
theorem q488 : (Jvm.Cond.instanceMethod ({ cls := "MasterPrices$Town", name := "costOfPairs", desc := "()I" } : Jvm.MethodName)) ∈ lw_all := lw_g (lw_at lw_m2 156 rfl) rfl
theorem q489 : (Jvm.Cond.selects "MasterPrices$Town" ({ cls := "MasterPrices$Town", name := "costOfPairs", desc := "()I" } : Jvm.MethodName) ({ cls := "MasterPrices$Town", name := "costOfPairs", desc := "()I" } : Jvm.MethodName)) ∈ lw_all := lw_g (lw_at lw_m2 157 rfl) rfl
theorem q490 : (Jvm.Cond.code ({ cls := "MasterPrices$Town", name := "costOfPairs", desc := "()I" } : Jvm.MethodName) prog_19_method_8_code (1 : Nat) (Option.some Jvm.ClassFile.FieldType.int)) ∈ lw_all := lw_g (lw_at lw_m2 158 rfl) rfl
theorem q491 : (Jvm.Cond.privateMethod ({ cls := "MasterPrices$Town", name := "lambda$costOfPairs$1", desc := "(II)I" } : Jvm.MethodName)) ∈ lw_tbl := lw_at lw_m2 159 rfl
theorem q492 : (Jvm.Cond.instanceMethod ({ cls := "MasterPrices$Town", name := "lambda$costOfPairs$1", desc := "(II)I" } : Jvm.MethodName)) ∈ lw_all := lw_g (lw_at lw_m2 160 rfl) rfl
theorem q493 : (Jvm.Cond.code ({ cls := "MasterPrices$Town", name := "lambda$costOfPairs$1", desc := "(II)I" } : Jvm.MethodName) prog_19_method_46_code (3 : Nat) (Option.some Jvm.ClassFile.FieldType.int)) ∈ lw_all := lw_g (lw_at lw_m2 161 rfl) rfl
theorem q494 : (Jvm.Cond.methodLink "MasterPrices$Town" (60 : Nat) ({ cls := "MasterPrices$Town", name := "sum", desc := "(LMasterPrices$OfPair;)I" } : Jvm.MethodName)) ∈ lw_all := lw_g (lw_at lw_m2 162 rfl) rfl
theorem q495 : (Jvm.Cond.instanceMethod ({ cls := "MasterPrices$Town", name := "sum", desc := "(LMasterPrices$OfPair;)I" } : Jvm.MethodName)) ∈ lw_all := lw_g (lw_at lw_m2 163 rfl) rfl
theorem q496 : (Jvm.Cond.selects "MasterPrices$Town" ({ cls := "MasterPrices$Town", name := "sum", desc := "(LMasterPrices$OfPair;)I" } : Jvm.MethodName) ({ cls := "MasterPrices$Town", name := "sum", desc := "(LMasterPrices$OfPair;)I" } : Jvm.MethodName)) ∈ lw_all := lw_g (lw_at lw_m2 164 rfl) rfl
theorem q497 : (Jvm.Cond.code ({ cls := "MasterPrices$Town", name := "sum", desc := "(LMasterPrices$OfPair;)I" } : Jvm.MethodName) prog_19_method_6_code (5 : Nat) (Option.some Jvm.ClassFile.FieldType.int)) ∈ lw_all := lw_g (lw_at lw_m2 165 rfl) rfl
theorem q498 : (Jvm.Cond.interfaceEntry "MasterPrices$Town" (51 : Nat)) ∈ lw_tbl := lw_at lw_m2 166 rfl
theorem q499 : (Jvm.Cond.methodLink "MasterPrices$Town" (51 : Nat) ({ cls := "MasterPrices$OfPair", name := "of", desc := "(II)I" } : Jvm.MethodName)) ∈ lw_all := lw_g (lw_at lw_m2 167 rfl) rfl
theorem q502 : (Jvm.Cond.methodLink "MasterPrices$Town" (126 : Nat) ({ cls := "java/lang/Math", name := "max", desc := "(II)I" } : Jvm.MethodName)) ∈ lw_all := lw_g (lw_at lw_m2 170 rfl) rfl
theorem q625 : (Jvm.Cond.selects "MasterPrices$Town" ({ cls := "java/lang/Object", name := "getClass", desc := "()Ljava/lang/Class;" } : Jvm.MethodName) ({ cls := "java/lang/Object", name := "getClass", desc := "()Ljava/lang/Class;" } : Jvm.MethodName)) ∈ lw_all := lw_g (lw_at lw_m3 53 rfl) rfl
theorem q727 : (Jvm.Cond.fieldLinkNest "MasterPrices$Town" (170 : Nat) "MasterPrices$Known" "least" "I" "MasterPrices") ∈ lw_tbl := lw_at lw_m3 155 rfl
theorem q945 : (Jvm.Cond.instanceMethod ({ cls := "MasterPrices$Town", name := "isBalanced", desc := "()Z" } : Jvm.MethodName)) ∈ lw_all := lw_g (lw_at lw_m4 133 rfl) rfl
theorem q946 : (Jvm.Cond.selects "MasterPrices$Town" ({ cls := "MasterPrices$Town", name := "isBalanced", desc := "()Z" } : Jvm.MethodName) ({ cls := "MasterPrices$Town", name := "isBalanced", desc := "()Z" } : Jvm.MethodName)) ∈ lw_all := lw_g (lw_at lw_m4 134 rfl) rfl
theorem q947 : (Jvm.Cond.code ({ cls := "MasterPrices$Town", name := "isBalanced", desc := "()Z" } : Jvm.MethodName) prog_19_method_39_code (5 : Nat) (Option.some Jvm.ClassFile.FieldType.boolean)) ∈ lw_all := lw_g (lw_at lw_m4 135 rfl) rfl
theorem q948 : (Jvm.Cond.methodLink "MasterPrices$Town" (164 : Nat) ({ cls := "MasterPrices$Town", name := "least", desc := "()I" } : Jvm.MethodName)) ∈ lw_all := lw_g (lw_at lw_m4 136 rfl) rfl
theorem q949 : (Jvm.Cond.instanceMethod ({ cls := "MasterPrices$Town", name := "least", desc := "()I" } : Jvm.MethodName)) ∈ lw_all := lw_g (lw_at lw_m4 137 rfl) rfl
theorem q950 : (Jvm.Cond.selects "MasterPrices$Town" ({ cls := "MasterPrices$Town", name := "least", desc := "()I" } : Jvm.MethodName) ({ cls := "MasterPrices$Town", name := "least", desc := "()I" } : Jvm.MethodName)) ∈ lw_all := lw_g (lw_at lw_m4 138 rfl) rfl
theorem q951 : (Jvm.Cond.code ({ cls := "MasterPrices$Town", name := "least", desc := "()I" } : Jvm.MethodName) prog_19_method_32_code (3 : Nat) (Option.some Jvm.ClassFile.FieldType.int)) ∈ lw_all := lw_g (lw_at lw_m4 139 rfl) rfl
theorem q952 : (Jvm.Cond.classLink "MasterPrices$Town" (12 : Nat) "MasterPrices$Town") ∈ lw_all := lw_g (lw_at lw_m4 140 rfl) rfl
theorem q953 : (Jvm.Cond.methodLink "MasterPrices$Town" (131 : Nat) ({ cls := "MasterPrices$Town", name := "<init>", desc := "(LMasterPrices$Town;)V" } : Jvm.MethodName)) ∈ lw_all := lw_g (lw_at lw_m4 141 rfl) rfl
theorem q954 : (Jvm.Cond.constant "MasterPrices$Town" (134 : Nat) (1000000 : Int32)) ∈ lw_all := lw_g (lw_at lw_m4 142 rfl) rfl
theorem q955 : (Jvm.Cond.classLink "MasterPrices$Town" (167 : Nat) "MasterPrices$Known") ∈ lw_all := lw_g (lw_at lw_m4 143 rfl) rfl
theorem q956 : (Jvm.Cond.methodLink "MasterPrices$Town" (169 : Nat) ({ cls := "MasterPrices$Known", name := "<init>", desc := "(LMasterPrices$Town;)V" } : Jvm.MethodName)) ∈ lw_all := lw_g (lw_at lw_m4 144 rfl) rfl
theorem q962 : (Jvm.Cond.instanceMethod ({ cls := "MasterPrices$Town", name := "countPairs", desc := "()I" } : Jvm.MethodName)) ∈ lw_all := lw_g (lw_at lw_m4 150 rfl) rfl
theorem q963 : (Jvm.Cond.selects "MasterPrices$Town" ({ cls := "MasterPrices$Town", name := "countPairs", desc := "()I" } : Jvm.MethodName) ({ cls := "MasterPrices$Town", name := "countPairs", desc := "()I" } : Jvm.MethodName)) ∈ lw_all := lw_g (lw_at lw_m4 151 rfl) rfl
theorem q964 : (Jvm.Cond.code ({ cls := "MasterPrices$Town", name := "countPairs", desc := "()I" } : Jvm.MethodName) prog_19_method_7_code (1 : Nat) (Option.some Jvm.ClassFile.FieldType.int)) ∈ lw_all := lw_g (lw_at lw_m4 152 rfl) rfl
theorem q965 : (Jvm.Cond.privateMethod ({ cls := "MasterPrices$Town", name := "lambda$countPairs$0", desc := "(II)I" } : Jvm.MethodName)) ∈ lw_tbl := lw_at lw_m4 153 rfl
theorem q966 : (Jvm.Cond.instanceMethod ({ cls := "MasterPrices$Town", name := "lambda$countPairs$0", desc := "(II)I" } : Jvm.MethodName)) ∈ lw_all := lw_g (lw_at lw_m4 154 rfl) rfl
theorem q967 : (Jvm.Cond.code ({ cls := "MasterPrices$Town", name := "lambda$countPairs$0", desc := "(II)I" } : Jvm.MethodName) prog_19_method_47_code (3 : Nat) (Option.some Jvm.ClassFile.FieldType.int)) ∈ lw_all := lw_g (lw_at lw_m4 155 rfl) rfl
theorem q1158 : (Jvm.Cond.instanceMethod ({ cls := "MasterPrices$Town", name := "yearsOf", desc := "(I)I" } : Jvm.MethodName)) ∈ lw_all := lw_g (lw_at lw_m5 106 rfl) rfl
theorem q1159 : (Jvm.Cond.selects "MasterPrices$Town" ({ cls := "MasterPrices$Town", name := "yearsOf", desc := "(I)I" } : Jvm.MethodName) ({ cls := "MasterPrices$Town", name := "yearsOf", desc := "(I)I" } : Jvm.MethodName)) ∈ lw_all := lw_g (lw_at lw_m5 107 rfl) rfl
theorem q1160 : (Jvm.Cond.code ({ cls := "MasterPrices$Town", name := "yearsOf", desc := "(I)I" } : Jvm.MethodName) prog_19_method_11_code (2 : Nat) (Option.some Jvm.ClassFile.FieldType.int)) ∈ lw_all := lw_g (lw_at lw_m5 108 rfl) rfl
theorem q1161 : (Jvm.Cond.privateMethod ({ cls := "MasterPrices$Town", name := "lambda$yearsOf$4", desc := "(III)I" } : Jvm.MethodName)) ∈ lw_tbl := lw_at lw_m5 109 rfl
theorem q1162 : (Jvm.Cond.instanceMethod ({ cls := "MasterPrices$Town", name := "lambda$yearsOf$4", desc := "(III)I" } : Jvm.MethodName)) ∈ lw_all := lw_g (lw_at lw_m5 110 rfl) rfl
theorem q1163 : (Jvm.Cond.code ({ cls := "MasterPrices$Town", name := "lambda$yearsOf$4", desc := "(III)I" } : Jvm.MethodName) prog_19_method_43_code (4 : Nat) (Option.some Jvm.ClassFile.FieldType.int)) ∈ lw_all := lw_g (lw_at lw_m5 111 rfl) rfl
theorem q1165 : (Jvm.Cond.instanceMethod ({ cls := "MasterPrices$Town", name := "countMastersOf", desc := "(I)I" } : Jvm.MethodName)) ∈ lw_all := lw_g (lw_at lw_m5 113 rfl) rfl
theorem q1166 : (Jvm.Cond.selects "MasterPrices$Town" ({ cls := "MasterPrices$Town", name := "countMastersOf", desc := "(I)I" } : Jvm.MethodName) ({ cls := "MasterPrices$Town", name := "countMastersOf", desc := "(I)I" } : Jvm.MethodName)) ∈ lw_all := lw_g (lw_at lw_m5 114 rfl) rfl
theorem q1167 : (Jvm.Cond.code ({ cls := "MasterPrices$Town", name := "countMastersOf", desc := "(I)I" } : Jvm.MethodName) prog_19_method_12_code (2 : Nat) (Option.some Jvm.ClassFile.FieldType.int)) ∈ lw_all := lw_g (lw_at lw_m5 115 rfl) rfl
theorem q1168 : (Jvm.Cond.privateMethod ({ cls := "MasterPrices$Town", name := "lambda$countMastersOf$5", desc := "(III)I" } : Jvm.MethodName)) ∈ lw_tbl := lw_at lw_m5 116 rfl
theorem q1169 : (Jvm.Cond.instanceMethod ({ cls := "MasterPrices$Town", name := "lambda$countMastersOf$5", desc := "(III)I" } : Jvm.MethodName)) ∈ lw_all := lw_g (lw_at lw_m5 117 rfl) rfl
theorem q1170 : (Jvm.Cond.code ({ cls := "MasterPrices$Town", name := "lambda$countMastersOf$5", desc := "(III)I" } : Jvm.MethodName) prog_19_method_42_code (4 : Nat) (Option.some Jvm.ClassFile.FieldType.int)) ∈ lw_all := lw_g (lw_at lw_m5 118 rfl) rfl
theorem q1200 : (Jvm.Cond.instanceMethod ({ cls := "MasterPrices$Town", name := "yearsAt", desc := "(I)I" } : Jvm.MethodName)) ∈ lw_all := lw_g (lw_at lw_m5 148 rfl) rfl
theorem q1201 : (Jvm.Cond.selects "MasterPrices$Town" ({ cls := "MasterPrices$Town", name := "yearsAt", desc := "(I)I" } : Jvm.MethodName) ({ cls := "MasterPrices$Town", name := "yearsAt", desc := "(I)I" } : Jvm.MethodName)) ∈ lw_all := lw_g (lw_at lw_m5 149 rfl) rfl
theorem q1202 : (Jvm.Cond.code ({ cls := "MasterPrices$Town", name := "yearsAt", desc := "(I)I" } : Jvm.MethodName) prog_19_method_10_code (2 : Nat) (Option.some Jvm.ClassFile.FieldType.int)) ∈ lw_all := lw_g (lw_at lw_m5 150 rfl) rfl
theorem q1203 : (Jvm.Cond.privateMethod ({ cls := "MasterPrices$Town", name := "lambda$yearsAt$3", desc := "(III)I" } : Jvm.MethodName)) ∈ lw_tbl := lw_at lw_m5 151 rfl
theorem q1204 : (Jvm.Cond.instanceMethod ({ cls := "MasterPrices$Town", name := "lambda$yearsAt$3", desc := "(III)I" } : Jvm.MethodName)) ∈ lw_all := lw_g (lw_at lw_m5 152 rfl) rfl
theorem q1205 : (Jvm.Cond.code ({ cls := "MasterPrices$Town", name := "lambda$yearsAt$3", desc := "(III)I" } : Jvm.MethodName) prog_19_method_44_code (4 : Nat) (Option.some Jvm.ClassFile.FieldType.int)) ∈ lw_all := lw_g (lw_at lw_m5 153 rfl) rfl
theorem q1207 : (Jvm.Cond.instanceMethod ({ cls := "MasterPrices$Town", name := "countLiking", desc := "(I)I" } : Jvm.MethodName)) ∈ lw_all := lw_g (lw_at lw_m5 155 rfl) rfl
theorem q1208 : (Jvm.Cond.selects "MasterPrices$Town" ({ cls := "MasterPrices$Town", name := "countLiking", desc := "(I)I" } : Jvm.MethodName) ({ cls := "MasterPrices$Town", name := "countLiking", desc := "(I)I" } : Jvm.MethodName)) ∈ lw_all := lw_g (lw_at lw_m5 156 rfl) rfl
theorem q1209 : (Jvm.Cond.code ({ cls := "MasterPrices$Town", name := "countLiking", desc := "(I)I" } : Jvm.MethodName) prog_19_method_17_code (4 : Nat) (Option.some Jvm.ClassFile.FieldType.int)) ∈ lw_all := lw_g (lw_at lw_m5 157 rfl) rfl
theorem q1258 : (Jvm.Cond.instanceMethod ({ cls := "MasterPrices$Town", name := "wouldBid", desc := "()I" } : Jvm.MethodName)) ∈ lw_all := lw_g (lw_at lw_m5 206 rfl) rfl
theorem q1259 : (Jvm.Cond.selects "MasterPrices$Town" ({ cls := "MasterPrices$Town", name := "wouldBid", desc := "()I" } : Jvm.MethodName) ({ cls := "MasterPrices$Town", name := "wouldBid", desc := "()I" } : Jvm.MethodName)) ∈ lw_all := lw_g (lw_at lw_m5 207 rfl) rfl
theorem q1260 : (Jvm.Cond.code ({ cls := "MasterPrices$Town", name := "wouldBid", desc := "()I" } : Jvm.MethodName) prog_19_method_33_code (1 : Nat) (Option.some Jvm.ClassFile.FieldType.int)) ∈ lw_all := lw_g (lw_at lw_m5 208 rfl) rfl
theorem q1272 : (Jvm.Cond.instanceMethod ({ cls := "MasterPrices$Town", name := "chain", desc := "()Ljava/util/List;" } : Jvm.MethodName)) ∈ lw_all := lw_g (lw_at lw_m5 220 rfl) rfl
theorem q1273 : (Jvm.Cond.selects "MasterPrices$Town" ({ cls := "MasterPrices$Town", name := "chain", desc := "()Ljava/util/List;" } : Jvm.MethodName) ({ cls := "MasterPrices$Town", name := "chain", desc := "()Ljava/util/List;" } : Jvm.MethodName)) ∈ lw_all := lw_g (lw_at lw_m5 221 rfl) rfl
theorem q1274 : (Jvm.Cond.code ({ cls := "MasterPrices$Town", name := "chain", desc := "()Ljava/util/List;" } : Jvm.MethodName) prog_19_method_34_code (5 : Nat) (Option.some (Jvm.ClassFile.FieldType.object "java/util/List"))) ∈ lw_all := lw_g (lw_at lw_m5 222 rfl) rfl
theorem q1275 : (Jvm.Cond.classLink "MasterPrices$Town" (135 : Nat) "java/util/ArrayList") ∈ lw_all := lw_g (lw_at lw_m5 223 rfl) rfl
theorem q1277 : (Jvm.Cond.methodLink "MasterPrices$Town" (137 : Nat) ({ cls := "java/util/ArrayList", name := "<init>", desc := "()V" } : Jvm.MethodName)) ∈ lw_all := lw_g (lw_at lw_m5 225 rfl) rfl
theorem q1298 : (Jvm.Cond.methodLink "MasterPrices$Town" (138 : Nat) ({ cls := "java/lang/Integer", name := "valueOf", desc := "(I)Ljava/lang/Integer;" } : Jvm.MethodName)) ∈ lw_all := lw_g (lw_at lw_m6 6 rfl) rfl
theorem q1318 : (Jvm.Cond.interfaceEntry "MasterPrices$Town" (144 : Nat)) ∈ lw_tbl := lw_at lw_m6 26 rfl
theorem q1319 : (Jvm.Cond.methodLink "MasterPrices$Town" (144 : Nat) ({ cls := "java/util/List", name := "add", desc := "(Ljava/lang/Object;)Z" } : Jvm.MethodName)) ∈ lw_all := lw_g (lw_at lw_m6 27 rfl) rfl
theorem q1344 : (Jvm.Cond.methodLink "MasterPrices$Town" (150 : Nat) ({ cls := "MasterPrices$Town", name := "bidsFor", desc := "(I)Z" } : Jvm.MethodName)) ∈ lw_all := lw_g (lw_at lw_m6 52 rfl) rfl
theorem q1345 : (Jvm.Cond.privateMethod ({ cls := "MasterPrices$Town", name := "bidsFor", desc := "(I)Z" } : Jvm.MethodName)) ∈ lw_tbl := lw_at lw_m6 53 rfl
theorem q1346 : (Jvm.Cond.instanceMethod ({ cls := "MasterPrices$Town", name := "bidsFor", desc := "(I)Z" } : Jvm.MethodName)) ∈ lw_all := lw_g (lw_at lw_m6 54 rfl) rfl
theorem q1347 : (Jvm.Cond.code ({ cls := "MasterPrices$Town", name := "bidsFor", desc := "(I)Z" } : Jvm.MethodName) prog_19_method_35_code (4 : Nat) (Option.some Jvm.ClassFile.FieldType.boolean)) ∈ lw_all := lw_g (lw_at lw_m6 55 rfl) rfl
theorem q1401 : (Jvm.Cond.instanceMethod ({ cls := "MasterPrices$Town", name := "ranked", desc := "(LMasterPrices$Kind;I)I" } : Jvm.MethodName)) ∈ lw_all := lw_g (lw_at lw_m6 109 rfl) rfl
theorem q1402 : (Jvm.Cond.selects "MasterPrices$Town" ({ cls := "MasterPrices$Town", name := "ranked", desc := "(LMasterPrices$Kind;I)I" } : Jvm.MethodName) ({ cls := "MasterPrices$Town", name := "ranked", desc := "(LMasterPrices$Kind;I)I" } : Jvm.MethodName)) ∈ lw_all := lw_g (lw_at lw_m6 110 rfl) rfl
theorem q1403 : (Jvm.Cond.code ({ cls := "MasterPrices$Town", name := "ranked", desc := "(LMasterPrices$Kind;I)I" } : Jvm.MethodName) prog_19_method_38_code (7 : Nat) (Option.some Jvm.ClassFile.FieldType.int)) ∈ lw_all := lw_g (lw_at lw_m6 111 rfl) rfl
theorem q1404 : (Jvm.Cond.methodLink "MasterPrices$Town" (158 : Nat) ({ cls := "MasterPrices$Kind", name := "worth", desc := "(LMasterPrices$Town;I)I" } : Jvm.MethodName)) ∈ lw_all := lw_g (lw_at lw_m6 112 rfl) rfl
theorem q1700 : (Jvm.Cond.instanceMethod ({ cls := "MasterPrices$Town", name := "line", desc := "(I)Ljava/lang/CharSequence;" } : Jvm.MethodName)) ∈ lw_all := lw_g (lw_at lw_m7 168 rfl) rfl
theorem q1701 : (Jvm.Cond.selects "MasterPrices$Town" ({ cls := "MasterPrices$Town", name := "line", desc := "(I)Ljava/lang/CharSequence;" } : Jvm.MethodName) ({ cls := "MasterPrices$Town", name := "line", desc := "(I)Ljava/lang/CharSequence;" } : Jvm.MethodName)) ∈ lw_all := lw_g (lw_at lw_m7 169 rfl) rfl
theorem q1702 : (Jvm.Cond.code ({ cls := "MasterPrices$Town", name := "line", desc := "(I)Ljava/lang/CharSequence;" } : Jvm.MethodName) prog_19_method_40_code (4 : Nat) (Option.some (Jvm.ClassFile.FieldType.object "java/lang/CharSequence"))) ∈ lw_all := lw_g (lw_at lw_m7 170 rfl) rfl
theorem q1703 : (Jvm.Cond.classLink "MasterPrices$Town" (172 : Nat) "java/lang/StringBuilder") ∈ lw_all := lw_g (lw_at lw_m7 171 rfl) rfl
theorem q1704 : (Jvm.Cond.methodLink "MasterPrices$Town" (174 : Nat) ({ cls := "java/lang/StringBuilder", name := "<init>", desc := "()V" } : Jvm.MethodName)) ∈ lw_all := lw_g (lw_at lw_m7 172 rfl) rfl
theorem q1705 : (Jvm.Cond.methodLink "MasterPrices$Town" (175 : Nat) ({ cls := "java/lang/StringBuilder", name := "append", desc := "(I)Ljava/lang/StringBuilder;" } : Jvm.MethodName)) ∈ lw_all := lw_g (lw_at lw_m7 173 rfl) rfl
theorem q1706 : (Jvm.Cond.methodLink "MasterPrices$Town" (179 : Nat) ({ cls := "java/lang/StringBuilder", name := "append", desc := "(C)Ljava/lang/StringBuilder;" } : Jvm.MethodName)) ∈ lw_all := lw_g (lw_at lw_m7 174 rfl) rfl
theorem q1707 : (Jvm.Cond.stringRef "MasterPrices$Town" (182 : Nat) "") ∈ lw_tbl := lw_at lw_m7 175 rfl
theorem q1708 : (Jvm.Cond.stringRef "MasterPrices$Town" (184 : Nat) " ") ∈ lw_tbl := lw_at lw_m7 176 rfl
theorem q1709 : (Jvm.Cond.methodLink "MasterPrices$Town" (186 : Nat) ({ cls := "java/lang/StringBuilder", name := "append", desc := "(Ljava/lang/String;)Ljava/lang/StringBuilder;" } : Jvm.MethodName)) ∈ lw_all := lw_g (lw_at lw_m7 177 rfl) rfl
theorem q1710 : (Jvm.Cond.methodLink "MasterPrices$Town" (189 : Nat) ({ cls := "java/lang/String", name := "valueOf", desc := "(I)Ljava/lang/String;" } : Jvm.MethodName)) ∈ lw_all := lw_g (lw_at lw_m7 178 rfl) rfl
theorem q1724 : (Jvm.Cond.stringRef "MasterPrices$Town" (194 : Nat) "-") ∈ lw_tbl := lw_at lw_m7 192 rfl
theorem q1725 : (Jvm.Cond.stringRef "MasterPrices$Town" (196 : Nat) "*") ∈ lw_tbl := lw_at lw_m7 193 rfl
theorem q1781 : (Jvm.Cond.instanceMethod ({ cls := "MasterPrices$Town", name := "sumOf", desc := "([I)I" } : Jvm.MethodName)) ∈ lw_all := lw_g (lw_at lw_m8 9 rfl) rfl
theorem q1782 : (Jvm.Cond.selects "MasterPrices$Town" ({ cls := "MasterPrices$Town", name := "sumOf", desc := "([I)I" } : Jvm.MethodName) ({ cls := "MasterPrices$Town", name := "sumOf", desc := "([I)I" } : Jvm.MethodName)) ∈ lw_all := lw_g (lw_at lw_m8 10 rfl) rfl
theorem q1783 : (Jvm.Cond.code ({ cls := "MasterPrices$Town", name := "sumOf", desc := "([I)I" } : Jvm.MethodName) prog_19_method_41_code (4 : Nat) (Option.some Jvm.ClassFile.FieldType.int)) ∈ lw_all := lw_g (lw_at lw_m8 11 rfl) rfl
theorem q1792 : (Jvm.Cond.instanceMethod ({ cls := "MasterPrices$Town", name := "countLiked", desc := "()I" } : Jvm.MethodName)) ∈ lw_all := lw_g (lw_at lw_m8 20 rfl) rfl
theorem q1793 : (Jvm.Cond.selects "MasterPrices$Town" ({ cls := "MasterPrices$Town", name := "countLiked", desc := "()I" } : Jvm.MethodName) ({ cls := "MasterPrices$Town", name := "countLiked", desc := "()I" } : Jvm.MethodName)) ∈ lw_all := lw_g (lw_at lw_m8 21 rfl) rfl
theorem q1794 : (Jvm.Cond.code ({ cls := "MasterPrices$Town", name := "countLiked", desc := "()I" } : Jvm.MethodName) prog_19_method_18_code (3 : Nat) (Option.some Jvm.ClassFile.FieldType.int)) ∈ lw_all := lw_g (lw_at lw_m8 22 rfl) rfl
theorem q1804 : (Jvm.Cond.instanceMethod ({ cls := "MasterPrices$Town", name := "countBarred", desc := "()I" } : Jvm.MethodName)) ∈ lw_all := lw_g (lw_at lw_m8 32 rfl) rfl
theorem q1805 : (Jvm.Cond.selects "MasterPrices$Town" ({ cls := "MasterPrices$Town", name := "countBarred", desc := "()I" } : Jvm.MethodName) ({ cls := "MasterPrices$Town", name := "countBarred", desc := "()I" } : Jvm.MethodName)) ∈ lw_all := lw_g (lw_at lw_m8 33 rfl) rfl
theorem q1806 : (Jvm.Cond.code ({ cls := "MasterPrices$Town", name := "countBarred", desc := "()I" } : Jvm.MethodName) prog_19_method_9_code (1 : Nat) (Option.some Jvm.ClassFile.FieldType.int)) ∈ lw_all := lw_g (lw_at lw_m8 34 rfl) rfl
theorem q1807 : (Jvm.Cond.privateMethod ({ cls := "MasterPrices$Town", name := "lambda$countBarred$2", desc := "(II)I" } : Jvm.MethodName)) ∈ lw_tbl := lw_at lw_m8 35 rfl
theorem q1808 : (Jvm.Cond.instanceMethod ({ cls := "MasterPrices$Town", name := "lambda$countBarred$2", desc := "(II)I" } : Jvm.MethodName)) ∈ lw_all := lw_g (lw_at lw_m8 36 rfl) rfl
theorem q1809 : (Jvm.Cond.code ({ cls := "MasterPrices$Town", name := "lambda$countBarred$2", desc := "(II)I" } : Jvm.MethodName) prog_19_method_45_code (3 : Nat) (Option.some Jvm.ClassFile.FieldType.int)) ∈ lw_all := lw_g (lw_at lw_m8 37 rfl) rfl
theorem q2325 : (Jvm.Cond.castable "MasterPrices$Town" "java/lang/Object") ∈ lw_tbl := lw_at lw_m10 73 rfl
