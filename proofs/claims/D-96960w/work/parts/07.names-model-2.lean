set_option maxRecDepth 100000
abbrev cX21_halves : ByteArray := prog_33_method_55_code
def yX21_halves : MethodName := ⟨RX21, "halves", "(II)V"⟩
def dkwX21_halves_0 : List UInt8 := [42, 27, 28, 42, 27, 28, 182, 0, 209, 42, 27, 28, 182, 0, 209, 5, 108, 100, 182, 0, 169, 177]
abbrev dktX21_halves_0 : List UInt8 := dkwX21_halves_0 ++ []
theorem dksX21_halves_0 : cX21_halves.data.toList.drop 0 = dktX21_halves_0 := by decide +kernel
theorem dX21_halves_0 : decode cX21_halves 0 = .ok (.aload_n 0, 1) := dk_42 (dk_at dksX21_halves_0 0 rfl rfl)
theorem dX21_halves_1 : decode cX21_halves 1 = .ok (.iload_n 1, 1) := dk_27 (dk_at dksX21_halves_0 1 rfl rfl)
theorem dX21_halves_2 : decode cX21_halves 2 = .ok (.iload_n 2, 1) := dk_28 (dk_at dksX21_halves_0 2 rfl rfl)
theorem dX21_halves_3 : decode cX21_halves 3 = .ok (.aload_n 0, 1) := dk_42 (dk_at dksX21_halves_0 3 rfl rfl)
theorem dX21_halves_4 : decode cX21_halves 4 = .ok (.iload_n 1, 1) := dk_27 (dk_at dksX21_halves_0 4 rfl rfl)
theorem dX21_halves_5 : decode cX21_halves 5 = .ok (.iload_n 2, 1) := dk_28 (dk_at dksX21_halves_0 5 rfl rfl)
theorem dX21_halves_6 : decode cX21_halves 6 = .ok (.invokevirtual 209, 3) := dk_182 0 209 (dk_at dksX21_halves_0 6 rfl rfl)
theorem dX21_halves_9 : decode cX21_halves 9 = .ok (.aload_n 0, 1) := dk_42 (dk_at dksX21_halves_0 9 rfl rfl)
theorem dX21_halves_10 : decode cX21_halves 10 = .ok (.iload_n 1, 1) := dk_27 (dk_at dksX21_halves_0 10 rfl rfl)
theorem dX21_halves_11 : decode cX21_halves 11 = .ok (.iload_n 2, 1) := dk_28 (dk_at dksX21_halves_0 11 rfl rfl)
theorem dX21_halves_12 : decode cX21_halves 12 = .ok (.invokevirtual 209, 3) := dk_182 0 209 (dk_at dksX21_halves_0 12 rfl rfl)
theorem dX21_halves_15 : decode cX21_halves 15 = .ok (.iconst 2, 1) := dk_5 (dk_at dksX21_halves_0 15 rfl rfl)
theorem dX21_halves_16 : decode cX21_halves 16 = .ok (.idiv, 1) := dk_108 (dk_at dksX21_halves_0 16 rfl rfl)
theorem dX21_halves_17 : decode cX21_halves 17 = .ok (.isub, 1) := dk_100 (dk_at dksX21_halves_0 17 rfl rfl)
theorem dX21_halves_18 : decode cX21_halves 18 = .ok (.invokevirtual 169, 3) := dk_182 0 169 (dk_at dksX21_halves_0 18 rfl rfl)
theorem dX21_halves_21 : decode cX21_halves 21 = .ok (.return_, 1) := dk_177 (dk_at dksX21_halves_0 21 rfl rfl)
abbrev cX21_best : ByteArray := prog_33_method_62_code
def yX21_best : MethodName := ⟨RX21, "best", "(II)I"⟩
def dkwX21_best_1 : List UInt8 := [28, 154, 0, 11, 17, 3, 232, 29, 96, 167, 0, 7, 42, 180, 1, 10, 172]
abbrev dktX21_best_1 : List UInt8 := dkwX21_best_1 ++ []
def dkwX21_best_0 : List UInt8 := [27, 4, 5, 184, 0, 69, 153, 0, 10, 28, 184, 1, 1, 154, 0, 5, 2, 172, 42, 27, 182, 1, 22, 62]
abbrev dktX21_best_0 : List UInt8 := dkwX21_best_0 ++ dktX21_best_1
theorem dksX21_best_0 : cX21_best.data.toList.drop 0 = dktX21_best_0 := by decide +kernel
theorem dksX21_best_1 : cX21_best.data.toList.drop 24 = dktX21_best_1 := dk_seg dksX21_best_0 24 rfl rfl
theorem dX21_best_0 : decode cX21_best 0 = .ok (.iload_n 1, 1) := dk_27 (dk_at dksX21_best_0 0 rfl rfl)
theorem dX21_best_1 : decode cX21_best 1 = .ok (.iconst 1, 1) := dk_4 (dk_at dksX21_best_0 1 rfl rfl)
theorem dX21_best_2 : decode cX21_best 2 = .ok (.iconst 2, 1) := dk_5 (dk_at dksX21_best_0 2 rfl rfl)
theorem dX21_best_3 : decode cX21_best 3 = .ok (.invokestatic 69, 3) := dk_184 0 69 (dk_at dksX21_best_0 3 rfl rfl)
theorem dX21_best_6 : decode cX21_best 6 = .ok (.ifCond .eq 10, 3) := dk_153 0 10 (dk_at dksX21_best_0 6 rfl rfl)
theorem dX21_best_9 : decode cX21_best 9 = .ok (.iload_n 2, 1) := dk_28 (dk_at dksX21_best_0 9 rfl rfl)
theorem dX21_best_10 : decode cX21_best 10 = .ok (.invokestatic 257, 3) := dk_184 1 1 (dk_at dksX21_best_0 10 rfl rfl)
theorem dX21_best_13 : decode cX21_best 13 = .ok (.ifCond .ne 5, 3) := dk_154 0 5 (dk_at dksX21_best_0 13 rfl rfl)
theorem dX21_best_16 : decode cX21_best 16 = .ok (.iconst (-1), 1) := dk_2 (dk_at dksX21_best_0 16 rfl rfl)
theorem dX21_best_17 : decode cX21_best 17 = .ok (.ireturn, 1) := dk_172 (dk_at dksX21_best_0 17 rfl rfl)
theorem dX21_best_18 : decode cX21_best 18 = .ok (.aload_n 0, 1) := dk_42 (dk_at dksX21_best_0 18 rfl rfl)
theorem dX21_best_19 : decode cX21_best 19 = .ok (.iload_n 1, 1) := dk_27 (dk_at dksX21_best_0 19 rfl rfl)
theorem dX21_best_20 : decode cX21_best 20 = .ok (.invokevirtual 278, 3) := dk_182 1 22 (dk_at dksX21_best_0 20 rfl rfl)
theorem dX21_best_23 : decode cX21_best 23 = .ok (.istore_n 3, 1) := dk_62 (dk_at dksX21_best_0 23 rfl rfl)
theorem dX21_best_24 : decode cX21_best 24 = .ok (.iload_n 2, 1) := dk_28 (dk_at dksX21_best_1 0 rfl rfl)
theorem dX21_best_25 : decode cX21_best 25 = .ok (.ifCond .ne 11, 3) := dk_154 0 11 (dk_at dksX21_best_1 1 rfl rfl)
theorem dX21_best_28 : decode cX21_best 28 = .ok (.sipush 1000, 3) := dk_17 3 232 (dk_at dksX21_best_1 4 rfl rfl)
theorem dX21_best_31 : decode cX21_best 31 = .ok (.iload_n 3, 1) := dk_29 (dk_at dksX21_best_1 7 rfl rfl)
theorem dX21_best_32 : decode cX21_best 32 = .ok (.iadd, 1) := dk_96 (dk_at dksX21_best_1 8 rfl rfl)
theorem dX21_best_33 : decode cX21_best 33 = .ok (.goto 7, 3) := dk_167 0 7 (dk_at dksX21_best_1 9 rfl rfl)
theorem dX21_best_36 : decode cX21_best 36 = .ok (.aload_n 0, 1) := dk_42 (dk_at dksX21_best_1 12 rfl rfl)
theorem dX21_best_37 : decode cX21_best 37 = .ok (.getfield 266, 3) := dk_180 1 10 (dk_at dksX21_best_1 13 rfl rfl)
theorem dX21_best_40 : decode cX21_best 40 = .ok (.ireturn, 1) := dk_172 (dk_at dksX21_best_1 16 rfl rfl)
abbrev cX21_bestOf : ByteArray := prog_33_method_61_code
def yX21_bestOf : MethodName := ⟨RX21, "bestOf", "(I)I"⟩
def dkwX21_bestOf_6 : List UInt8 := [181, 1, 10, 132, 5, 1, 167, 255, 162, 42, 3, 181, 0, 73, 132, 3, 1, 167, 255, 111, 28, 172]
abbrev dktX21_bestOf_6 : List UInt8 := dkwX21_bestOf_6 ++ []
def dkwX21_bestOf_5 : List UInt8 := [42, 182, 1, 19, 21, 4, 100, 21, 6, 100, 54, 7, 21, 7, 28, 164, 0, 11, 21, 7, 61, 42, 29]
abbrev dktX21_bestOf_5 : List UInt8 := dkwX21_bestOf_5 ++ dktX21_bestOf_6
def dkwX21_bestOf_4 : List UInt8 := [42, 17, 0, 188, 181, 0, 73, 27, 5, 160, 0, 12, 42, 21, 5, 182, 1, 16, 167, 0, 4, 3, 54, 6]
abbrev dktX21_bestOf_4 : List UInt8 := dkwX21_bestOf_4 ++ dktX21_bestOf_5
def dkwX21_bestOf_3 : List UInt8 := [167, 0, 74, 42, 21, 5, 182, 1, 13, 154, 0, 6, 167, 0, 62, 42, 16, 94, 17, 0, 188, 182, 0, 196]
abbrev dktX21_bestOf_3 : List UInt8 := dkwX21_bestOf_3 ++ dktX21_bestOf_4
def dkwX21_bestOf_2 : List UInt8 := [54, 4, 3, 54, 5, 21, 5, 16, 49, 162, 0, 93, 27, 4, 160, 0, 11, 21, 5, 158, 0, 18]
abbrev dktX21_bestOf_2 : List UInt8 := dkwX21_bestOf_2 ++ dktX21_bestOf_3
def dkwX21_bestOf_1 : List UInt8 := [154, 0, 6, 167, 0, 128, 42, 3, 16, 94, 182, 0, 196, 42, 16, 94, 181, 0, 73, 42, 29, 182, 1, 16]
abbrev dktX21_bestOf_1 : List UInt8 := dkwX21_bestOf_1 ++ dktX21_bestOf_2
def dkwX21_bestOf_0 : List UInt8 := [17, 252, 24, 61, 42, 3, 181, 1, 10, 3, 62, 29, 16, 49, 162, 0, 145, 42, 29, 182, 1, 13]
abbrev dktX21_bestOf_0 : List UInt8 := dkwX21_bestOf_0 ++ dktX21_bestOf_1
theorem dksX21_bestOf_0 : cX21_bestOf.data.toList.drop 0 = dktX21_bestOf_0 := by decide +kernel
theorem dksX21_bestOf_1 : cX21_bestOf.data.toList.drop 22 = dktX21_bestOf_1 := dk_seg dksX21_bestOf_0 22 rfl rfl
theorem dksX21_bestOf_2 : cX21_bestOf.data.toList.drop 46 = dktX21_bestOf_2 := dk_seg dksX21_bestOf_1 24 rfl rfl
theorem dksX21_bestOf_3 : cX21_bestOf.data.toList.drop 68 = dktX21_bestOf_3 := dk_seg dksX21_bestOf_2 22 rfl rfl
theorem dksX21_bestOf_4 : cX21_bestOf.data.toList.drop 92 = dktX21_bestOf_4 := dk_seg dksX21_bestOf_3 24 rfl rfl
theorem dksX21_bestOf_5 : cX21_bestOf.data.toList.drop 116 = dktX21_bestOf_5 := dk_seg dksX21_bestOf_4 24 rfl rfl
theorem dksX21_bestOf_6 : cX21_bestOf.data.toList.drop 139 = dktX21_bestOf_6 := dk_seg dksX21_bestOf_5 23 rfl rfl
theorem dX21_bestOf_0 : decode cX21_bestOf 0 = .ok (.sipush (-1000), 3) := dk_17 252 24 (dk_at dksX21_bestOf_0 0 rfl rfl)
theorem dX21_bestOf_3 : decode cX21_bestOf 3 = .ok (.istore_n 2, 1) := dk_61 (dk_at dksX21_bestOf_0 3 rfl rfl)
theorem dX21_bestOf_4 : decode cX21_bestOf 4 = .ok (.aload_n 0, 1) := dk_42 (dk_at dksX21_bestOf_0 4 rfl rfl)
theorem dX21_bestOf_5 : decode cX21_bestOf 5 = .ok (.iconst 0, 1) := dk_3 (dk_at dksX21_bestOf_0 5 rfl rfl)
theorem dX21_bestOf_6 : decode cX21_bestOf 6 = .ok (.putfield 266, 3) := dk_181 1 10 (dk_at dksX21_bestOf_0 6 rfl rfl)
theorem dX21_bestOf_9 : decode cX21_bestOf 9 = .ok (.iconst 0, 1) := dk_3 (dk_at dksX21_bestOf_0 9 rfl rfl)
theorem dX21_bestOf_10 : decode cX21_bestOf 10 = .ok (.istore_n 3, 1) := dk_62 (dk_at dksX21_bestOf_0 10 rfl rfl)
theorem dX21_bestOf_11 : decode cX21_bestOf 11 = .ok (.iload_n 3, 1) := dk_29 (dk_at dksX21_bestOf_0 11 rfl rfl)
theorem dX21_bestOf_12 : decode cX21_bestOf 12 = .ok (.bipush 49, 2) := dk_16 49 (dk_at dksX21_bestOf_0 12 rfl rfl)
theorem dX21_bestOf_14 : decode cX21_bestOf 14 = .ok (.if_icmp .ge 145, 3) := dk_162 0 145 (dk_at dksX21_bestOf_0 14 rfl rfl)
theorem dX21_bestOf_17 : decode cX21_bestOf 17 = .ok (.aload_n 0, 1) := dk_42 (dk_at dksX21_bestOf_0 17 rfl rfl)
theorem dX21_bestOf_18 : decode cX21_bestOf 18 = .ok (.iload_n 3, 1) := dk_29 (dk_at dksX21_bestOf_0 18 rfl rfl)
theorem dX21_bestOf_19 : decode cX21_bestOf 19 = .ok (.invokevirtual 269, 3) := dk_182 1 13 (dk_at dksX21_bestOf_0 19 rfl rfl)
theorem dX21_bestOf_22 : decode cX21_bestOf 22 = .ok (.ifCond .ne 6, 3) := dk_154 0 6 (dk_at dksX21_bestOf_1 0 rfl rfl)
theorem dX21_bestOf_25 : decode cX21_bestOf 25 = .ok (.goto 128, 3) := dk_167 0 128 (dk_at dksX21_bestOf_1 3 rfl rfl)
theorem dX21_bestOf_28 : decode cX21_bestOf 28 = .ok (.aload_n 0, 1) := dk_42 (dk_at dksX21_bestOf_1 6 rfl rfl)
theorem dX21_bestOf_29 : decode cX21_bestOf 29 = .ok (.iconst 0, 1) := dk_3 (dk_at dksX21_bestOf_1 7 rfl rfl)
theorem dX21_bestOf_30 : decode cX21_bestOf 30 = .ok (.bipush 94, 2) := dk_16 94 (dk_at dksX21_bestOf_1 8 rfl rfl)
theorem dX21_bestOf_32 : decode cX21_bestOf 32 = .ok (.invokevirtual 196, 3) := dk_182 0 196 (dk_at dksX21_bestOf_1 10 rfl rfl)
theorem dX21_bestOf_35 : decode cX21_bestOf 35 = .ok (.aload_n 0, 1) := dk_42 (dk_at dksX21_bestOf_1 13 rfl rfl)
theorem dX21_bestOf_36 : decode cX21_bestOf 36 = .ok (.bipush 94, 2) := dk_16 94 (dk_at dksX21_bestOf_1 14 rfl rfl)
theorem dX21_bestOf_38 : decode cX21_bestOf 38 = .ok (.putfield 73, 3) := dk_181 0 73 (dk_at dksX21_bestOf_1 16 rfl rfl)
theorem dX21_bestOf_41 : decode cX21_bestOf 41 = .ok (.aload_n 0, 1) := dk_42 (dk_at dksX21_bestOf_1 19 rfl rfl)
theorem dX21_bestOf_42 : decode cX21_bestOf 42 = .ok (.iload_n 3, 1) := dk_29 (dk_at dksX21_bestOf_1 20 rfl rfl)
theorem dX21_bestOf_43 : decode cX21_bestOf 43 = .ok (.invokevirtual 272, 3) := dk_182 1 16 (dk_at dksX21_bestOf_1 21 rfl rfl)
theorem dX21_bestOf_46 : decode cX21_bestOf 46 = .ok (.istore 4, 2) := dk_54 4 (dk_at dksX21_bestOf_2 0 rfl rfl)
theorem dX21_bestOf_48 : decode cX21_bestOf 48 = .ok (.iconst 0, 1) := dk_3 (dk_at dksX21_bestOf_2 2 rfl rfl)
theorem dX21_bestOf_49 : decode cX21_bestOf 49 = .ok (.istore 5, 2) := dk_54 5 (dk_at dksX21_bestOf_2 3 rfl rfl)
theorem dX21_bestOf_51 : decode cX21_bestOf 51 = .ok (.iload 5, 2) := dk_21 5 (dk_at dksX21_bestOf_2 5 rfl rfl)
theorem dX21_bestOf_53 : decode cX21_bestOf 53 = .ok (.bipush 49, 2) := dk_16 49 (dk_at dksX21_bestOf_2 7 rfl rfl)
theorem dX21_bestOf_55 : decode cX21_bestOf 55 = .ok (.if_icmp .ge 93, 3) := dk_162 0 93 (dk_at dksX21_bestOf_2 9 rfl rfl)
theorem dX21_bestOf_58 : decode cX21_bestOf 58 = .ok (.iload_n 1, 1) := dk_27 (dk_at dksX21_bestOf_2 12 rfl rfl)
theorem dX21_bestOf_59 : decode cX21_bestOf 59 = .ok (.iconst 1, 1) := dk_4 (dk_at dksX21_bestOf_2 13 rfl rfl)
theorem dX21_bestOf_60 : decode cX21_bestOf 60 = .ok (.if_icmp .ne 11, 3) := dk_160 0 11 (dk_at dksX21_bestOf_2 14 rfl rfl)
theorem dX21_bestOf_63 : decode cX21_bestOf 63 = .ok (.iload 5, 2) := dk_21 5 (dk_at dksX21_bestOf_2 17 rfl rfl)
theorem dX21_bestOf_65 : decode cX21_bestOf 65 = .ok (.ifCond .le 18, 3) := dk_158 0 18 (dk_at dksX21_bestOf_2 19 rfl rfl)
theorem dX21_bestOf_68 : decode cX21_bestOf 68 = .ok (.goto 74, 3) := dk_167 0 74 (dk_at dksX21_bestOf_3 0 rfl rfl)
theorem dX21_bestOf_71 : decode cX21_bestOf 71 = .ok (.aload_n 0, 1) := dk_42 (dk_at dksX21_bestOf_3 3 rfl rfl)
theorem dX21_bestOf_72 : decode cX21_bestOf 72 = .ok (.iload 5, 2) := dk_21 5 (dk_at dksX21_bestOf_3 4 rfl rfl)
theorem dX21_bestOf_74 : decode cX21_bestOf 74 = .ok (.invokevirtual 269, 3) := dk_182 1 13 (dk_at dksX21_bestOf_3 6 rfl rfl)
theorem dX21_bestOf_77 : decode cX21_bestOf 77 = .ok (.ifCond .ne 6, 3) := dk_154 0 6 (dk_at dksX21_bestOf_3 9 rfl rfl)
theorem dX21_bestOf_80 : decode cX21_bestOf 80 = .ok (.goto 62, 3) := dk_167 0 62 (dk_at dksX21_bestOf_3 12 rfl rfl)
theorem dX21_bestOf_83 : decode cX21_bestOf 83 = .ok (.aload_n 0, 1) := dk_42 (dk_at dksX21_bestOf_3 15 rfl rfl)
theorem dX21_bestOf_84 : decode cX21_bestOf 84 = .ok (.bipush 94, 2) := dk_16 94 (dk_at dksX21_bestOf_3 16 rfl rfl)
theorem dX21_bestOf_86 : decode cX21_bestOf 86 = .ok (.sipush 188, 3) := dk_17 0 188 (dk_at dksX21_bestOf_3 18 rfl rfl)
theorem dX21_bestOf_89 : decode cX21_bestOf 89 = .ok (.invokevirtual 196, 3) := dk_182 0 196 (dk_at dksX21_bestOf_3 21 rfl rfl)
theorem dX21_bestOf_92 : decode cX21_bestOf 92 = .ok (.aload_n 0, 1) := dk_42 (dk_at dksX21_bestOf_4 0 rfl rfl)
theorem dX21_bestOf_93 : decode cX21_bestOf 93 = .ok (.sipush 188, 3) := dk_17 0 188 (dk_at dksX21_bestOf_4 1 rfl rfl)
theorem dX21_bestOf_96 : decode cX21_bestOf 96 = .ok (.putfield 73, 3) := dk_181 0 73 (dk_at dksX21_bestOf_4 4 rfl rfl)
theorem dX21_bestOf_99 : decode cX21_bestOf 99 = .ok (.iload_n 1, 1) := dk_27 (dk_at dksX21_bestOf_4 7 rfl rfl)
theorem dX21_bestOf_100 : decode cX21_bestOf 100 = .ok (.iconst 2, 1) := dk_5 (dk_at dksX21_bestOf_4 8 rfl rfl)
theorem dX21_bestOf_101 : decode cX21_bestOf 101 = .ok (.if_icmp .ne 12, 3) := dk_160 0 12 (dk_at dksX21_bestOf_4 9 rfl rfl)
theorem dX21_bestOf_104 : decode cX21_bestOf 104 = .ok (.aload_n 0, 1) := dk_42 (dk_at dksX21_bestOf_4 12 rfl rfl)
theorem dX21_bestOf_105 : decode cX21_bestOf 105 = .ok (.iload 5, 2) := dk_21 5 (dk_at dksX21_bestOf_4 13 rfl rfl)
theorem dX21_bestOf_107 : decode cX21_bestOf 107 = .ok (.invokevirtual 272, 3) := dk_182 1 16 (dk_at dksX21_bestOf_4 15 rfl rfl)
theorem dX21_bestOf_110 : decode cX21_bestOf 110 = .ok (.goto 4, 3) := dk_167 0 4 (dk_at dksX21_bestOf_4 18 rfl rfl)
theorem dX21_bestOf_113 : decode cX21_bestOf 113 = .ok (.iconst 0, 1) := dk_3 (dk_at dksX21_bestOf_4 21 rfl rfl)
theorem dX21_bestOf_114 : decode cX21_bestOf 114 = .ok (.istore 6, 2) := dk_54 6 (dk_at dksX21_bestOf_4 22 rfl rfl)
theorem dX21_bestOf_116 : decode cX21_bestOf 116 = .ok (.aload_n 0, 1) := dk_42 (dk_at dksX21_bestOf_5 0 rfl rfl)
theorem dX21_bestOf_117 : decode cX21_bestOf 117 = .ok (.invokevirtual 275, 3) := dk_182 1 19 (dk_at dksX21_bestOf_5 1 rfl rfl)
theorem dX21_bestOf_120 : decode cX21_bestOf 120 = .ok (.iload 4, 2) := dk_21 4 (dk_at dksX21_bestOf_5 4 rfl rfl)
theorem dX21_bestOf_122 : decode cX21_bestOf 122 = .ok (.isub, 1) := dk_100 (dk_at dksX21_bestOf_5 6 rfl rfl)
theorem dX21_bestOf_123 : decode cX21_bestOf 123 = .ok (.iload 6, 2) := dk_21 6 (dk_at dksX21_bestOf_5 7 rfl rfl)
theorem dX21_bestOf_125 : decode cX21_bestOf 125 = .ok (.isub, 1) := dk_100 (dk_at dksX21_bestOf_5 9 rfl rfl)
theorem dX21_bestOf_126 : decode cX21_bestOf 126 = .ok (.istore 7, 2) := dk_54 7 (dk_at dksX21_bestOf_5 10 rfl rfl)
theorem dX21_bestOf_128 : decode cX21_bestOf 128 = .ok (.iload 7, 2) := dk_21 7 (dk_at dksX21_bestOf_5 12 rfl rfl)
theorem dX21_bestOf_130 : decode cX21_bestOf 130 = .ok (.iload_n 2, 1) := dk_28 (dk_at dksX21_bestOf_5 14 rfl rfl)
theorem dX21_bestOf_131 : decode cX21_bestOf 131 = .ok (.if_icmp .le 11, 3) := dk_164 0 11 (dk_at dksX21_bestOf_5 15 rfl rfl)
theorem dX21_bestOf_134 : decode cX21_bestOf 134 = .ok (.iload 7, 2) := dk_21 7 (dk_at dksX21_bestOf_5 18 rfl rfl)
theorem dX21_bestOf_136 : decode cX21_bestOf 136 = .ok (.istore_n 2, 1) := dk_61 (dk_at dksX21_bestOf_5 20 rfl rfl)
theorem dX21_bestOf_137 : decode cX21_bestOf 137 = .ok (.aload_n 0, 1) := dk_42 (dk_at dksX21_bestOf_5 21 rfl rfl)
theorem dX21_bestOf_138 : decode cX21_bestOf 138 = .ok (.iload_n 3, 1) := dk_29 (dk_at dksX21_bestOf_5 22 rfl rfl)
theorem dX21_bestOf_139 : decode cX21_bestOf 139 = .ok (.putfield 266, 3) := dk_181 1 10 (dk_at dksX21_bestOf_6 0 rfl rfl)
theorem dX21_bestOf_142 : decode cX21_bestOf 142 = .ok (.iinc 5 1, 3) := dk_132 5 1 (dk_at dksX21_bestOf_6 3 rfl rfl)
theorem dX21_bestOf_145 : decode cX21_bestOf 145 = .ok (.goto (-94), 3) := dk_167 255 162 (dk_at dksX21_bestOf_6 6 rfl rfl)
theorem dX21_bestOf_148 : decode cX21_bestOf 148 = .ok (.aload_n 0, 1) := dk_42 (dk_at dksX21_bestOf_6 9 rfl rfl)
theorem dX21_bestOf_149 : decode cX21_bestOf 149 = .ok (.iconst 0, 1) := dk_3 (dk_at dksX21_bestOf_6 10 rfl rfl)
theorem dX21_bestOf_150 : decode cX21_bestOf 150 = .ok (.putfield 73, 3) := dk_181 0 73 (dk_at dksX21_bestOf_6 11 rfl rfl)
theorem dX21_bestOf_153 : decode cX21_bestOf 153 = .ok (.iinc 3 1, 3) := dk_132 3 1 (dk_at dksX21_bestOf_6 14 rfl rfl)
theorem dX21_bestOf_156 : decode cX21_bestOf 156 = .ok (.goto (-145), 3) := dk_167 255 111 (dk_at dksX21_bestOf_6 17 rfl rfl)
theorem dX21_bestOf_159 : decode cX21_bestOf 159 = .ok (.iload_n 2, 1) := dk_28 (dk_at dksX21_bestOf_6 20 rfl rfl)
theorem dX21_bestOf_160 : decode cX21_bestOf 160 = .ok (.ireturn, 1) := dk_172 (dk_at dksX21_bestOf_6 21 rfl rfl)
abbrev cX21_isChoice : ByteArray := prog_33_method_58_code
def yX21_isChoice : MethodName := ⟨RX21, "isChoice", "(I)Z"⟩
def dkwX21_isChoice_1 : List UInt8 := [16, 8, 112, 42, 180, 0, 7, 3, 46, 162, 0, 7, 4, 167, 0, 4, 3, 172]
abbrev dktX21_isChoice_1 : List UInt8 := dkwX21_isChoice_1 ++ []
def dkwX21_isChoice_0 : List UInt8 := [27, 153, 0, 35, 27, 158, 0, 35, 42, 27, 4, 100, 16, 8, 108, 182, 0, 254, 153, 0, 22, 27, 4, 100]
abbrev dktX21_isChoice_0 : List UInt8 := dkwX21_isChoice_0 ++ dktX21_isChoice_1
theorem dksX21_isChoice_0 : cX21_isChoice.data.toList.drop 0 = dktX21_isChoice_0 := by decide +kernel
theorem dksX21_isChoice_1 : cX21_isChoice.data.toList.drop 24 = dktX21_isChoice_1 := dk_seg dksX21_isChoice_0 24 rfl rfl
theorem dX21_isChoice_0 : decode cX21_isChoice 0 = .ok (.iload_n 1, 1) := dk_27 (dk_at dksX21_isChoice_0 0 rfl rfl)
theorem dX21_isChoice_1 : decode cX21_isChoice 1 = .ok (.ifCond .eq 35, 3) := dk_153 0 35 (dk_at dksX21_isChoice_0 1 rfl rfl)
theorem dX21_isChoice_4 : decode cX21_isChoice 4 = .ok (.iload_n 1, 1) := dk_27 (dk_at dksX21_isChoice_0 4 rfl rfl)
theorem dX21_isChoice_5 : decode cX21_isChoice 5 = .ok (.ifCond .le 35, 3) := dk_158 0 35 (dk_at dksX21_isChoice_0 5 rfl rfl)
theorem dX21_isChoice_8 : decode cX21_isChoice 8 = .ok (.aload_n 0, 1) := dk_42 (dk_at dksX21_isChoice_0 8 rfl rfl)
theorem dX21_isChoice_9 : decode cX21_isChoice 9 = .ok (.iload_n 1, 1) := dk_27 (dk_at dksX21_isChoice_0 9 rfl rfl)
theorem dX21_isChoice_10 : decode cX21_isChoice 10 = .ok (.iconst 1, 1) := dk_4 (dk_at dksX21_isChoice_0 10 rfl rfl)
theorem dX21_isChoice_11 : decode cX21_isChoice 11 = .ok (.isub, 1) := dk_100 (dk_at dksX21_isChoice_0 11 rfl rfl)
theorem dX21_isChoice_12 : decode cX21_isChoice 12 = .ok (.bipush 8, 2) := dk_16 8 (dk_at dksX21_isChoice_0 12 rfl rfl)
theorem dX21_isChoice_14 : decode cX21_isChoice 14 = .ok (.idiv, 1) := dk_108 (dk_at dksX21_isChoice_0 14 rfl rfl)
theorem dX21_isChoice_15 : decode cX21_isChoice 15 = .ok (.invokevirtual 254, 3) := dk_182 0 254 (dk_at dksX21_isChoice_0 15 rfl rfl)
theorem dX21_isChoice_18 : decode cX21_isChoice 18 = .ok (.ifCond .eq 22, 3) := dk_153 0 22 (dk_at dksX21_isChoice_0 18 rfl rfl)
theorem dX21_isChoice_21 : decode cX21_isChoice 21 = .ok (.iload_n 1, 1) := dk_27 (dk_at dksX21_isChoice_0 21 rfl rfl)
theorem dX21_isChoice_22 : decode cX21_isChoice 22 = .ok (.iconst 1, 1) := dk_4 (dk_at dksX21_isChoice_0 22 rfl rfl)
theorem dX21_isChoice_23 : decode cX21_isChoice 23 = .ok (.isub, 1) := dk_100 (dk_at dksX21_isChoice_0 23 rfl rfl)
theorem dX21_isChoice_24 : decode cX21_isChoice 24 = .ok (.bipush 8, 2) := dk_16 8 (dk_at dksX21_isChoice_1 0 rfl rfl)
theorem dX21_isChoice_26 : decode cX21_isChoice 26 = .ok (.irem, 1) := dk_112 (dk_at dksX21_isChoice_1 2 rfl rfl)
theorem dX21_isChoice_27 : decode cX21_isChoice 27 = .ok (.aload_n 0, 1) := dk_42 (dk_at dksX21_isChoice_1 3 rfl rfl)
theorem dX21_isChoice_28 : decode cX21_isChoice 28 = .ok (.getfield 7, 3) := dk_180 0 7 (dk_at dksX21_isChoice_1 4 rfl rfl)
theorem dX21_isChoice_31 : decode cX21_isChoice 31 = .ok (.iconst 0, 1) := dk_3 (dk_at dksX21_isChoice_1 7 rfl rfl)
theorem dX21_isChoice_32 : decode cX21_isChoice 32 = .ok (.iaload, 1) := dk_46 (dk_at dksX21_isChoice_1 8 rfl rfl)
theorem dX21_isChoice_33 : decode cX21_isChoice 33 = .ok (.if_icmp .ge 7, 3) := dk_162 0 7 (dk_at dksX21_isChoice_1 9 rfl rfl)
theorem dX21_isChoice_36 : decode cX21_isChoice 36 = .ok (.iconst 1, 1) := dk_4 (dk_at dksX21_isChoice_1 12 rfl rfl)
theorem dX21_isChoice_37 : decode cX21_isChoice 37 = .ok (.goto 4, 3) := dk_167 0 4 (dk_at dksX21_isChoice_1 13 rfl rfl)
theorem dX21_isChoice_40 : decode cX21_isChoice 40 = .ok (.iconst 0, 1) := dk_3 (dk_at dksX21_isChoice_1 16 rfl rfl)
theorem dX21_isChoice_41 : decode cX21_isChoice 41 = .ok (.ireturn, 1) := dk_172 (dk_at dksX21_isChoice_1 17 rfl rfl)
abbrev cX21_choose : ByteArray := prog_33_method_59_code
def yX21_choose : MethodName := ⟨RX21, "choose", "(I)I"⟩
def dkwX21_choose_1 : List UInt8 := [180, 0, 22, 5, 27, 4, 100, 16, 8, 108, 104, 4, 96, 46, 61, 42, 182, 0, 239, 28, 172]
abbrev dktX21_choose_1 : List UInt8 := dkwX21_choose_1 ++ []
def dkwX21_choose_0 : List UInt8 := [3, 61, 27, 158, 0, 35, 42, 27, 4, 100, 16, 8, 108, 27, 4, 100, 16, 8, 112, 182, 1, 7, 42]
abbrev dktX21_choose_0 : List UInt8 := dkwX21_choose_0 ++ dktX21_choose_1
theorem dksX21_choose_0 : cX21_choose.data.toList.drop 0 = dktX21_choose_0 := by decide +kernel
theorem dksX21_choose_1 : cX21_choose.data.toList.drop 23 = dktX21_choose_1 := dk_seg dksX21_choose_0 23 rfl rfl
theorem dX21_choose_0 : decode cX21_choose 0 = .ok (.iconst 0, 1) := dk_3 (dk_at dksX21_choose_0 0 rfl rfl)
theorem dX21_choose_1 : decode cX21_choose 1 = .ok (.istore_n 2, 1) := dk_61 (dk_at dksX21_choose_0 1 rfl rfl)
theorem dX21_choose_2 : decode cX21_choose 2 = .ok (.iload_n 1, 1) := dk_27 (dk_at dksX21_choose_0 2 rfl rfl)
theorem dX21_choose_3 : decode cX21_choose 3 = .ok (.ifCond .le 35, 3) := dk_158 0 35 (dk_at dksX21_choose_0 3 rfl rfl)
theorem dX21_choose_6 : decode cX21_choose 6 = .ok (.aload_n 0, 1) := dk_42 (dk_at dksX21_choose_0 6 rfl rfl)
theorem dX21_choose_7 : decode cX21_choose 7 = .ok (.iload_n 1, 1) := dk_27 (dk_at dksX21_choose_0 7 rfl rfl)
theorem dX21_choose_8 : decode cX21_choose 8 = .ok (.iconst 1, 1) := dk_4 (dk_at dksX21_choose_0 8 rfl rfl)
theorem dX21_choose_9 : decode cX21_choose 9 = .ok (.isub, 1) := dk_100 (dk_at dksX21_choose_0 9 rfl rfl)
theorem dX21_choose_10 : decode cX21_choose 10 = .ok (.bipush 8, 2) := dk_16 8 (dk_at dksX21_choose_0 10 rfl rfl)
theorem dX21_choose_12 : decode cX21_choose 12 = .ok (.idiv, 1) := dk_108 (dk_at dksX21_choose_0 12 rfl rfl)
theorem dX21_choose_13 : decode cX21_choose 13 = .ok (.iload_n 1, 1) := dk_27 (dk_at dksX21_choose_0 13 rfl rfl)
theorem dX21_choose_14 : decode cX21_choose 14 = .ok (.iconst 1, 1) := dk_4 (dk_at dksX21_choose_0 14 rfl rfl)
theorem dX21_choose_15 : decode cX21_choose 15 = .ok (.isub, 1) := dk_100 (dk_at dksX21_choose_0 15 rfl rfl)
theorem dX21_choose_16 : decode cX21_choose 16 = .ok (.bipush 8, 2) := dk_16 8 (dk_at dksX21_choose_0 16 rfl rfl)
theorem dX21_choose_18 : decode cX21_choose 18 = .ok (.irem, 1) := dk_112 (dk_at dksX21_choose_0 18 rfl rfl)
theorem dX21_choose_19 : decode cX21_choose 19 = .ok (.invokevirtual 263, 3) := dk_182 1 7 (dk_at dksX21_choose_0 19 rfl rfl)
theorem dX21_choose_22 : decode cX21_choose 22 = .ok (.aload_n 0, 1) := dk_42 (dk_at dksX21_choose_0 22 rfl rfl)
theorem dX21_choose_23 : decode cX21_choose 23 = .ok (.getfield 22, 3) := dk_180 0 22 (dk_at dksX21_choose_1 0 rfl rfl)
theorem dX21_choose_26 : decode cX21_choose 26 = .ok (.iconst 2, 1) := dk_5 (dk_at dksX21_choose_1 3 rfl rfl)
theorem dX21_choose_27 : decode cX21_choose 27 = .ok (.iload_n 1, 1) := dk_27 (dk_at dksX21_choose_1 4 rfl rfl)
theorem dX21_choose_28 : decode cX21_choose 28 = .ok (.iconst 1, 1) := dk_4 (dk_at dksX21_choose_1 5 rfl rfl)
theorem dX21_choose_29 : decode cX21_choose 29 = .ok (.isub, 1) := dk_100 (dk_at dksX21_choose_1 6 rfl rfl)
theorem dX21_choose_30 : decode cX21_choose 30 = .ok (.bipush 8, 2) := dk_16 8 (dk_at dksX21_choose_1 7 rfl rfl)
theorem dX21_choose_32 : decode cX21_choose 32 = .ok (.idiv, 1) := dk_108 (dk_at dksX21_choose_1 9 rfl rfl)
theorem dX21_choose_33 : decode cX21_choose 33 = .ok (.imul, 1) := dk_104 (dk_at dksX21_choose_1 10 rfl rfl)
theorem dX21_choose_34 : decode cX21_choose 34 = .ok (.iconst 1, 1) := dk_4 (dk_at dksX21_choose_1 11 rfl rfl)
theorem dX21_choose_35 : decode cX21_choose 35 = .ok (.iadd, 1) := dk_96 (dk_at dksX21_choose_1 12 rfl rfl)
theorem dX21_choose_36 : decode cX21_choose 36 = .ok (.iaload, 1) := dk_46 (dk_at dksX21_choose_1 13 rfl rfl)
theorem dX21_choose_37 : decode cX21_choose 37 = .ok (.istore_n 2, 1) := dk_61 (dk_at dksX21_choose_1 14 rfl rfl)
theorem dX21_choose_38 : decode cX21_choose 38 = .ok (.aload_n 0, 1) := dk_42 (dk_at dksX21_choose_1 15 rfl rfl)
theorem dX21_choose_39 : decode cX21_choose 39 = .ok (.invokevirtual 239, 3) := dk_182 0 239 (dk_at dksX21_choose_1 16 rfl rfl)
theorem dX21_choose_42 : decode cX21_choose 42 = .ok (.iload_n 2, 1) := dk_28 (dk_at dksX21_choose_1 19 rfl rfl)
theorem dX21_choose_43 : decode cX21_choose 43 = .ok (.ireturn, 1) := dk_172 (dk_at dksX21_choose_1 20 rfl rfl)
abbrev cX21_behind : ByteArray := prog_33_method_60_code
def yX21_behind : MethodName := ⟨RX21, "behind", "()I"⟩
def dkwX21_behind_1 : List UInt8 := [182, 0, 248, 172]
abbrev dktX21_behind_1 : List UInt8 := dkwX21_behind_1 ++ []
def dkwX21_behind_0 : List UInt8 := [3, 60, 27, 42, 180, 0, 13, 6, 46, 162, 0, 13, 42, 182, 0, 239, 132, 1, 1, 167, 255, 239, 42]
abbrev dktX21_behind_0 : List UInt8 := dkwX21_behind_0 ++ dktX21_behind_1
theorem dksX21_behind_0 : cX21_behind.data.toList.drop 0 = dktX21_behind_0 := by decide +kernel
theorem dksX21_behind_1 : cX21_behind.data.toList.drop 23 = dktX21_behind_1 := dk_seg dksX21_behind_0 23 rfl rfl
theorem dX21_behind_0 : decode cX21_behind 0 = .ok (.iconst 0, 1) := dk_3 (dk_at dksX21_behind_0 0 rfl rfl)
theorem dX21_behind_1 : decode cX21_behind 1 = .ok (.istore_n 1, 1) := dk_60 (dk_at dksX21_behind_0 1 rfl rfl)
theorem dX21_behind_2 : decode cX21_behind 2 = .ok (.iload_n 1, 1) := dk_27 (dk_at dksX21_behind_0 2 rfl rfl)
theorem dX21_behind_3 : decode cX21_behind 3 = .ok (.aload_n 0, 1) := dk_42 (dk_at dksX21_behind_0 3 rfl rfl)
theorem dX21_behind_4 : decode cX21_behind 4 = .ok (.getfield 13, 3) := dk_180 0 13 (dk_at dksX21_behind_0 4 rfl rfl)
theorem dX21_behind_7 : decode cX21_behind 7 = .ok (.iconst 3, 1) := dk_6 (dk_at dksX21_behind_0 7 rfl rfl)
theorem dX21_behind_8 : decode cX21_behind 8 = .ok (.iaload, 1) := dk_46 (dk_at dksX21_behind_0 8 rfl rfl)
theorem dX21_behind_9 : decode cX21_behind 9 = .ok (.if_icmp .ge 13, 3) := dk_162 0 13 (dk_at dksX21_behind_0 9 rfl rfl)
theorem dX21_behind_12 : decode cX21_behind 12 = .ok (.aload_n 0, 1) := dk_42 (dk_at dksX21_behind_0 12 rfl rfl)
theorem dX21_behind_13 : decode cX21_behind 13 = .ok (.invokevirtual 239, 3) := dk_182 0 239 (dk_at dksX21_behind_0 13 rfl rfl)
theorem dX21_behind_16 : decode cX21_behind 16 = .ok (.iinc 1 1, 3) := dk_132 1 1 (dk_at dksX21_behind_0 16 rfl rfl)
theorem dX21_behind_19 : decode cX21_behind 19 = .ok (.goto (-17), 3) := dk_167 255 239 (dk_at dksX21_behind_0 19 rfl rfl)
theorem dX21_behind_22 : decode cX21_behind 22 = .ok (.aload_n 0, 1) := dk_42 (dk_at dksX21_behind_0 22 rfl rfl)
theorem dX21_behind_23 : decode cX21_behind 23 = .ok (.invokevirtual 248, 3) := dk_182 0 248 (dk_at dksX21_behind_1 0 rfl rfl)
theorem dX21_behind_26 : decode cX21_behind 26 = .ok (.ireturn, 1) := dk_172 (dk_at dksX21_behind_1 3 rfl rfl)
abbrev cX21_weigh : ByteArray := prog_33_method_63_code
def yX21_weigh : MethodName := ⟨RX21, "weigh", "(II)I"⟩
def dkwX21_weigh_1 : List UInt8 := [46, 62, 42, 180, 0, 25, 27, 28, 79, 29, 172]
abbrev dktX21_weigh_1 : List UInt8 := dkwX21_weigh_1 ++ []
def dkwX21_weigh_0 : List UInt8 := [27, 184, 0, 206, 153, 0, 13, 28, 3, 16, 9, 184, 0, 69, 154, 0, 5, 2, 172, 42, 180, 0, 25, 27]
abbrev dktX21_weigh_0 : List UInt8 := dkwX21_weigh_0 ++ dktX21_weigh_1
theorem dksX21_weigh_0 : cX21_weigh.data.toList.drop 0 = dktX21_weigh_0 := by decide +kernel
theorem dksX21_weigh_1 : cX21_weigh.data.toList.drop 24 = dktX21_weigh_1 := dk_seg dksX21_weigh_0 24 rfl rfl
theorem dX21_weigh_0 : decode cX21_weigh 0 = .ok (.iload_n 1, 1) := dk_27 (dk_at dksX21_weigh_0 0 rfl rfl)
theorem dX21_weigh_1 : decode cX21_weigh 1 = .ok (.invokestatic 206, 3) := dk_184 0 206 (dk_at dksX21_weigh_0 1 rfl rfl)
theorem dX21_weigh_4 : decode cX21_weigh 4 = .ok (.ifCond .eq 13, 3) := dk_153 0 13 (dk_at dksX21_weigh_0 4 rfl rfl)
theorem dX21_weigh_7 : decode cX21_weigh 7 = .ok (.iload_n 2, 1) := dk_28 (dk_at dksX21_weigh_0 7 rfl rfl)
theorem dX21_weigh_8 : decode cX21_weigh 8 = .ok (.iconst 0, 1) := dk_3 (dk_at dksX21_weigh_0 8 rfl rfl)
theorem dX21_weigh_9 : decode cX21_weigh 9 = .ok (.bipush 9, 2) := dk_16 9 (dk_at dksX21_weigh_0 9 rfl rfl)
theorem dX21_weigh_11 : decode cX21_weigh 11 = .ok (.invokestatic 69, 3) := dk_184 0 69 (dk_at dksX21_weigh_0 11 rfl rfl)
theorem dX21_weigh_14 : decode cX21_weigh 14 = .ok (.ifCond .ne 5, 3) := dk_154 0 5 (dk_at dksX21_weigh_0 14 rfl rfl)
theorem dX21_weigh_17 : decode cX21_weigh 17 = .ok (.iconst (-1), 1) := dk_2 (dk_at dksX21_weigh_0 17 rfl rfl)
theorem dX21_weigh_18 : decode cX21_weigh 18 = .ok (.ireturn, 1) := dk_172 (dk_at dksX21_weigh_0 18 rfl rfl)
theorem dX21_weigh_19 : decode cX21_weigh 19 = .ok (.aload_n 0, 1) := dk_42 (dk_at dksX21_weigh_0 19 rfl rfl)
theorem dX21_weigh_20 : decode cX21_weigh 20 = .ok (.getfield 25, 3) := dk_180 0 25 (dk_at dksX21_weigh_0 20 rfl rfl)
theorem dX21_weigh_23 : decode cX21_weigh 23 = .ok (.iload_n 1, 1) := dk_27 (dk_at dksX21_weigh_0 23 rfl rfl)
theorem dX21_weigh_24 : decode cX21_weigh 24 = .ok (.iaload, 1) := dk_46 (dk_at dksX21_weigh_1 0 rfl rfl)
theorem dX21_weigh_25 : decode cX21_weigh 25 = .ok (.istore_n 3, 1) := dk_62 (dk_at dksX21_weigh_1 1 rfl rfl)
theorem dX21_weigh_26 : decode cX21_weigh 26 = .ok (.aload_n 0, 1) := dk_42 (dk_at dksX21_weigh_1 2 rfl rfl)
theorem dX21_weigh_27 : decode cX21_weigh 27 = .ok (.getfield 25, 3) := dk_180 0 25 (dk_at dksX21_weigh_1 3 rfl rfl)
theorem dX21_weigh_30 : decode cX21_weigh 30 = .ok (.iload_n 1, 1) := dk_27 (dk_at dksX21_weigh_1 6 rfl rfl)
theorem dX21_weigh_31 : decode cX21_weigh 31 = .ok (.iload_n 2, 1) := dk_28 (dk_at dksX21_weigh_1 7 rfl rfl)
theorem dX21_weigh_32 : decode cX21_weigh 32 = .ok (.iastore, 1) := dk_79 (dk_at dksX21_weigh_1 8 rfl rfl)
theorem dX21_weigh_33 : decode cX21_weigh 33 = .ok (.iload_n 3, 1) := dk_29 (dk_at dksX21_weigh_1 9 rfl rfl)
theorem dX21_weigh_34 : decode cX21_weigh 34 = .ok (.ireturn, 1) := dk_172 (dk_at dksX21_weigh_1 10 rfl rfl)
abbrev cX21_look : ByteArray := prog_33_method_64_code
def yX21_look : MethodName := ⟨RX21, "look", "(IZ)I"⟩
def dkwX21_look_2 : List UInt8 := [153, 0, 7, 4, 167, 0, 4, 3, 79, 42, 89, 180, 0, 200, 4, 96, 181, 0, 200, 42, 180, 0, 200, 172]
abbrev dktX21_look_2 : List UInt8 := dkwX21_look_2 ++ []
def dkwX21_look_1 : List UInt8 := [180, 0, 28, 5, 42, 180, 0, 200, 104, 27, 79, 42, 180, 0, 28, 5, 42, 180, 0, 200, 104, 4, 96, 28]
abbrev dktX21_look_1 : List UInt8 := dkwX21_look_1 ++ dktX21_look_2
def dkwX21_look_0 : List UInt8 := [27, 184, 0, 206, 154, 0, 5, 2, 172, 42, 180, 0, 200, 16, 8, 160, 0, 6, 16, 254, 172, 42]
abbrev dktX21_look_0 : List UInt8 := dkwX21_look_0 ++ dktX21_look_1
theorem dksX21_look_0 : cX21_look.data.toList.drop 0 = dktX21_look_0 := by decide +kernel
theorem dksX21_look_1 : cX21_look.data.toList.drop 22 = dktX21_look_1 := dk_seg dksX21_look_0 22 rfl rfl
theorem dksX21_look_2 : cX21_look.data.toList.drop 46 = dktX21_look_2 := dk_seg dksX21_look_1 24 rfl rfl
theorem dX21_look_0 : decode cX21_look 0 = .ok (.iload_n 1, 1) := dk_27 (dk_at dksX21_look_0 0 rfl rfl)
theorem dX21_look_1 : decode cX21_look 1 = .ok (.invokestatic 206, 3) := dk_184 0 206 (dk_at dksX21_look_0 1 rfl rfl)
theorem dX21_look_4 : decode cX21_look 4 = .ok (.ifCond .ne 5, 3) := dk_154 0 5 (dk_at dksX21_look_0 4 rfl rfl)
theorem dX21_look_7 : decode cX21_look 7 = .ok (.iconst (-1), 1) := dk_2 (dk_at dksX21_look_0 7 rfl rfl)
theorem dX21_look_8 : decode cX21_look 8 = .ok (.ireturn, 1) := dk_172 (dk_at dksX21_look_0 8 rfl rfl)
theorem dX21_look_9 : decode cX21_look 9 = .ok (.aload_n 0, 1) := dk_42 (dk_at dksX21_look_0 9 rfl rfl)
theorem dX21_look_10 : decode cX21_look 10 = .ok (.getfield 200, 3) := dk_180 0 200 (dk_at dksX21_look_0 10 rfl rfl)
theorem dX21_look_13 : decode cX21_look 13 = .ok (.bipush 8, 2) := dk_16 8 (dk_at dksX21_look_0 13 rfl rfl)
theorem dX21_look_15 : decode cX21_look 15 = .ok (.if_icmp .ne 6, 3) := dk_160 0 6 (dk_at dksX21_look_0 15 rfl rfl)
theorem dX21_look_18 : decode cX21_look 18 = .ok (.bipush (-2), 2) := dk_16 254 (dk_at dksX21_look_0 18 rfl rfl)
theorem dX21_look_20 : decode cX21_look 20 = .ok (.ireturn, 1) := dk_172 (dk_at dksX21_look_0 20 rfl rfl)
theorem dX21_look_21 : decode cX21_look 21 = .ok (.aload_n 0, 1) := dk_42 (dk_at dksX21_look_0 21 rfl rfl)
theorem dX21_look_22 : decode cX21_look 22 = .ok (.getfield 28, 3) := dk_180 0 28 (dk_at dksX21_look_1 0 rfl rfl)
theorem dX21_look_25 : decode cX21_look 25 = .ok (.iconst 2, 1) := dk_5 (dk_at dksX21_look_1 3 rfl rfl)
theorem dX21_look_26 : decode cX21_look 26 = .ok (.aload_n 0, 1) := dk_42 (dk_at dksX21_look_1 4 rfl rfl)
theorem dX21_look_27 : decode cX21_look 27 = .ok (.getfield 200, 3) := dk_180 0 200 (dk_at dksX21_look_1 5 rfl rfl)
theorem dX21_look_30 : decode cX21_look 30 = .ok (.imul, 1) := dk_104 (dk_at dksX21_look_1 8 rfl rfl)
theorem dX21_look_31 : decode cX21_look 31 = .ok (.iload_n 1, 1) := dk_27 (dk_at dksX21_look_1 9 rfl rfl)
theorem dX21_look_32 : decode cX21_look 32 = .ok (.iastore, 1) := dk_79 (dk_at dksX21_look_1 10 rfl rfl)
theorem dX21_look_33 : decode cX21_look 33 = .ok (.aload_n 0, 1) := dk_42 (dk_at dksX21_look_1 11 rfl rfl)
theorem dX21_look_34 : decode cX21_look 34 = .ok (.getfield 28, 3) := dk_180 0 28 (dk_at dksX21_look_1 12 rfl rfl)
theorem dX21_look_37 : decode cX21_look 37 = .ok (.iconst 2, 1) := dk_5 (dk_at dksX21_look_1 15 rfl rfl)
theorem dX21_look_38 : decode cX21_look 38 = .ok (.aload_n 0, 1) := dk_42 (dk_at dksX21_look_1 16 rfl rfl)
theorem dX21_look_39 : decode cX21_look 39 = .ok (.getfield 200, 3) := dk_180 0 200 (dk_at dksX21_look_1 17 rfl rfl)
theorem dX21_look_42 : decode cX21_look 42 = .ok (.imul, 1) := dk_104 (dk_at dksX21_look_1 20 rfl rfl)
theorem dX21_look_43 : decode cX21_look 43 = .ok (.iconst 1, 1) := dk_4 (dk_at dksX21_look_1 21 rfl rfl)
theorem dX21_look_44 : decode cX21_look 44 = .ok (.iadd, 1) := dk_96 (dk_at dksX21_look_1 22 rfl rfl)
theorem dX21_look_45 : decode cX21_look 45 = .ok (.iload_n 2, 1) := dk_28 (dk_at dksX21_look_1 23 rfl rfl)
theorem dX21_look_46 : decode cX21_look 46 = .ok (.ifCond .eq 7, 3) := dk_153 0 7 (dk_at dksX21_look_2 0 rfl rfl)
theorem dX21_look_49 : decode cX21_look 49 = .ok (.iconst 1, 1) := dk_4 (dk_at dksX21_look_2 3 rfl rfl)
theorem dX21_look_50 : decode cX21_look 50 = .ok (.goto 4, 3) := dk_167 0 4 (dk_at dksX21_look_2 4 rfl rfl)
theorem dX21_look_53 : decode cX21_look 53 = .ok (.iconst 0, 1) := dk_3 (dk_at dksX21_look_2 7 rfl rfl)
theorem dX21_look_54 : decode cX21_look 54 = .ok (.iastore, 1) := dk_79 (dk_at dksX21_look_2 8 rfl rfl)
theorem dX21_look_55 : decode cX21_look 55 = .ok (.aload_n 0, 1) := dk_42 (dk_at dksX21_look_2 9 rfl rfl)
theorem dX21_look_56 : decode cX21_look 56 = .ok (.dup, 1) := dk_89 (dk_at dksX21_look_2 10 rfl rfl)
theorem dX21_look_57 : decode cX21_look 57 = .ok (.getfield 200, 3) := dk_180 0 200 (dk_at dksX21_look_2 11 rfl rfl)
theorem dX21_look_60 : decode cX21_look 60 = .ok (.iconst 1, 1) := dk_4 (dk_at dksX21_look_2 14 rfl rfl)
theorem dX21_look_61 : decode cX21_look 61 = .ok (.iadd, 1) := dk_96 (dk_at dksX21_look_2 15 rfl rfl)
theorem dX21_look_62 : decode cX21_look 62 = .ok (.putfield 200, 3) := dk_181 0 200 (dk_at dksX21_look_2 16 rfl rfl)
theorem dX21_look_65 : decode cX21_look 65 = .ok (.aload_n 0, 1) := dk_42 (dk_at dksX21_look_2 19 rfl rfl)
theorem dX21_look_66 : decode cX21_look 66 = .ok (.getfield 200, 3) := dk_180 0 200 (dk_at dksX21_look_2 20 rfl rfl)
theorem dX21_look_69 : decode cX21_look 69 = .ok (.ireturn, 1) := dk_172 (dk_at dksX21_look_2 23 rfl rfl)
abbrev cX21_forget : ByteArray := prog_33_method_65_code
def yX21_forget : MethodName := ⟨RX21, "forget", "()I"⟩
def dkwX21_forget_0 : List UInt8 := [42, 180, 0, 200, 60, 42, 3, 181, 0, 200, 27, 172]
abbrev dktX21_forget_0 : List UInt8 := dkwX21_forget_0 ++ []
theorem dksX21_forget_0 : cX21_forget.data.toList.drop 0 = dktX21_forget_0 := by decide +kernel
theorem dX21_forget_0 : decode cX21_forget 0 = .ok (.aload_n 0, 1) := dk_42 (dk_at dksX21_forget_0 0 rfl rfl)
theorem dX21_forget_1 : decode cX21_forget 1 = .ok (.getfield 200, 3) := dk_180 0 200 (dk_at dksX21_forget_0 1 rfl rfl)
theorem dX21_forget_4 : decode cX21_forget 4 = .ok (.istore_n 1, 1) := dk_60 (dk_at dksX21_forget_0 4 rfl rfl)
theorem dX21_forget_5 : decode cX21_forget 5 = .ok (.aload_n 0, 1) := dk_42 (dk_at dksX21_forget_0 5 rfl rfl)
theorem dX21_forget_6 : decode cX21_forget 6 = .ok (.iconst 0, 1) := dk_3 (dk_at dksX21_forget_0 6 rfl rfl)
theorem dX21_forget_7 : decode cX21_forget 7 = .ok (.putfield 200, 3) := dk_181 0 200 (dk_at dksX21_forget_0 7 rfl rfl)
theorem dX21_forget_10 : decode cX21_forget 10 = .ok (.iload_n 1, 1) := dk_27 (dk_at dksX21_forget_0 10 rfl rfl)
theorem dX21_forget_11 : decode cX21_forget 11 = .ok (.ireturn, 1) := dk_172 (dk_at dksX21_forget_0 11 rfl rfl)
abbrev cX21_from : ByteArray := prog_33_method_69_code
def yX21_from : MethodName := ⟨RX21, "from", "(II)J"⟩
def dkwX21_from_3 : List UInt8 := [167, 255, 234, 28, 154, 0, 8, 22, 5, 167, 0, 4, 33, 22, 7, 109, 173]
abbrev dktX21_from_3 : List UInt8 := dkwX21_from_3 ++ []
def dkwX21_from_2 : List UInt8 := [22, 9, 9, 148, 153, 0, 21, 22, 7, 22, 9, 113, 55, 11, 22, 9, 55, 7, 22, 11, 55, 9]
abbrev dktX21_from_2 : List UInt8 := dkwX21_from_2 ++ dktX21_from_3
def dkwX21_from_1 : List UInt8 := [9, 148, 154, 0, 7, 20, 1, 37, 173, 42, 27, 182, 1, 29, 55, 5, 22, 5, 55, 7, 33, 55, 9]
abbrev dktX21_from_1 : List UInt8 := dkwX21_from_1 ++ dktX21_from_2
def dkwX21_from_0 : List UInt8 := [27, 184, 0, 206, 153, 0, 10, 28, 184, 1, 1, 154, 0, 7, 20, 0, 115, 173, 42, 182, 1, 33, 66, 33]
abbrev dktX21_from_0 : List UInt8 := dkwX21_from_0 ++ dktX21_from_1
theorem dksX21_from_0 : cX21_from.data.toList.drop 0 = dktX21_from_0 := by decide +kernel
theorem dksX21_from_1 : cX21_from.data.toList.drop 24 = dktX21_from_1 := dk_seg dksX21_from_0 24 rfl rfl
theorem dksX21_from_2 : cX21_from.data.toList.drop 47 = dktX21_from_2 := dk_seg dksX21_from_1 23 rfl rfl
theorem dksX21_from_3 : cX21_from.data.toList.drop 69 = dktX21_from_3 := dk_seg dksX21_from_2 22 rfl rfl
theorem dX21_from_0 : decode cX21_from 0 = .ok (.iload_n 1, 1) := dk_27 (dk_at dksX21_from_0 0 rfl rfl)
theorem dX21_from_1 : decode cX21_from 1 = .ok (.invokestatic 206, 3) := dk_184 0 206 (dk_at dksX21_from_0 1 rfl rfl)
theorem dX21_from_4 : decode cX21_from 4 = .ok (.ifCond .eq 10, 3) := dk_153 0 10 (dk_at dksX21_from_0 4 rfl rfl)
theorem dX21_from_7 : decode cX21_from 7 = .ok (.iload_n 2, 1) := dk_28 (dk_at dksX21_from_0 7 rfl rfl)
theorem dX21_from_8 : decode cX21_from 8 = .ok (.invokestatic 257, 3) := dk_184 1 1 (dk_at dksX21_from_0 8 rfl rfl)
theorem dX21_from_11 : decode cX21_from 11 = .ok (.ifCond .ne 7, 3) := dk_154 0 7 (dk_at dksX21_from_0 11 rfl rfl)
theorem dX21_from_14 : decode cX21_from 14 = .ok (.ldc2_w 115, 3) := dk_20 0 115 (dk_at dksX21_from_0 14 rfl rfl)
theorem dX21_from_17 : decode cX21_from 17 = .ok (.lreturn, 1) := dk_173 (dk_at dksX21_from_0 17 rfl rfl)
theorem dX21_from_18 : decode cX21_from 18 = .ok (.aload_n 0, 1) := dk_42 (dk_at dksX21_from_0 18 rfl rfl)
theorem dX21_from_19 : decode cX21_from 19 = .ok (.invokevirtual 289, 3) := dk_182 1 33 (dk_at dksX21_from_0 19 rfl rfl)
theorem dX21_from_22 : decode cX21_from 22 = .ok (.lstore_n 3, 1) := dk_66 (dk_at dksX21_from_0 22 rfl rfl)
theorem dX21_from_23 : decode cX21_from 23 = .ok (.lload_n 3, 1) := dk_33 (dk_at dksX21_from_0 23 rfl rfl)
theorem dX21_from_24 : decode cX21_from 24 = .ok (.lconst 0, 1) := dk_9 (dk_at dksX21_from_1 0 rfl rfl)
theorem dX21_from_25 : decode cX21_from 25 = .ok (.lcmp, 1) := dk_148 (dk_at dksX21_from_1 1 rfl rfl)
theorem dX21_from_26 : decode cX21_from 26 = .ok (.ifCond .ne 7, 3) := dk_154 0 7 (dk_at dksX21_from_1 2 rfl rfl)
theorem dX21_from_29 : decode cX21_from 29 = .ok (.ldc2_w 293, 3) := dk_20 1 37 (dk_at dksX21_from_1 5 rfl rfl)
theorem dX21_from_32 : decode cX21_from 32 = .ok (.lreturn, 1) := dk_173 (dk_at dksX21_from_1 8 rfl rfl)
theorem dX21_from_33 : decode cX21_from 33 = .ok (.aload_n 0, 1) := dk_42 (dk_at dksX21_from_1 9 rfl rfl)
theorem dX21_from_34 : decode cX21_from 34 = .ok (.iload_n 1, 1) := dk_27 (dk_at dksX21_from_1 10 rfl rfl)
theorem dX21_from_35 : decode cX21_from 35 = .ok (.invokevirtual 285, 3) := dk_182 1 29 (dk_at dksX21_from_1 11 rfl rfl)
theorem dX21_from_38 : decode cX21_from 38 = .ok (.lstore 5, 2) := dk_55 5 (dk_at dksX21_from_1 14 rfl rfl)
theorem dX21_from_40 : decode cX21_from 40 = .ok (.lload 5, 2) := dk_22 5 (dk_at dksX21_from_1 16 rfl rfl)
theorem dX21_from_42 : decode cX21_from 42 = .ok (.lstore 7, 2) := dk_55 7 (dk_at dksX21_from_1 18 rfl rfl)
theorem dX21_from_44 : decode cX21_from 44 = .ok (.lload_n 3, 1) := dk_33 (dk_at dksX21_from_1 20 rfl rfl)
theorem dX21_from_45 : decode cX21_from 45 = .ok (.lstore 9, 2) := dk_55 9 (dk_at dksX21_from_1 21 rfl rfl)
theorem dX21_from_47 : decode cX21_from 47 = .ok (.lload 9, 2) := dk_22 9 (dk_at dksX21_from_2 0 rfl rfl)
theorem dX21_from_49 : decode cX21_from 49 = .ok (.lconst 0, 1) := dk_9 (dk_at dksX21_from_2 2 rfl rfl)
theorem dX21_from_50 : decode cX21_from 50 = .ok (.lcmp, 1) := dk_148 (dk_at dksX21_from_2 3 rfl rfl)
theorem dX21_from_51 : decode cX21_from 51 = .ok (.ifCond .eq 21, 3) := dk_153 0 21 (dk_at dksX21_from_2 4 rfl rfl)
theorem dX21_from_54 : decode cX21_from 54 = .ok (.lload 7, 2) := dk_22 7 (dk_at dksX21_from_2 7 rfl rfl)
theorem dX21_from_56 : decode cX21_from 56 = .ok (.lload 9, 2) := dk_22 9 (dk_at dksX21_from_2 9 rfl rfl)
theorem dX21_from_58 : decode cX21_from 58 = .ok (.lrem, 1) := dk_113 (dk_at dksX21_from_2 11 rfl rfl)
theorem dX21_from_59 : decode cX21_from 59 = .ok (.lstore 11, 2) := dk_55 11 (dk_at dksX21_from_2 12 rfl rfl)
theorem dX21_from_61 : decode cX21_from 61 = .ok (.lload 9, 2) := dk_22 9 (dk_at dksX21_from_2 14 rfl rfl)
theorem dX21_from_63 : decode cX21_from 63 = .ok (.lstore 7, 2) := dk_55 7 (dk_at dksX21_from_2 16 rfl rfl)
theorem dX21_from_65 : decode cX21_from 65 = .ok (.lload 11, 2) := dk_22 11 (dk_at dksX21_from_2 18 rfl rfl)
theorem dX21_from_67 : decode cX21_from 67 = .ok (.lstore 9, 2) := dk_55 9 (dk_at dksX21_from_2 20 rfl rfl)
theorem dX21_from_69 : decode cX21_from 69 = .ok (.goto (-22), 3) := dk_167 255 234 (dk_at dksX21_from_3 0 rfl rfl)
theorem dX21_from_72 : decode cX21_from 72 = .ok (.iload_n 2, 1) := dk_28 (dk_at dksX21_from_3 3 rfl rfl)
theorem dX21_from_73 : decode cX21_from 73 = .ok (.ifCond .ne 8, 3) := dk_154 0 8 (dk_at dksX21_from_3 4 rfl rfl)
theorem dX21_from_76 : decode cX21_from 76 = .ok (.lload 5, 2) := dk_22 5 (dk_at dksX21_from_3 7 rfl rfl)
theorem dX21_from_78 : decode cX21_from 78 = .ok (.goto 4, 3) := dk_167 0 4 (dk_at dksX21_from_3 9 rfl rfl)
theorem dX21_from_81 : decode cX21_from 81 = .ok (.lload_n 3, 1) := dk_33 (dk_at dksX21_from_3 12 rfl rfl)
theorem dX21_from_82 : decode cX21_from 82 = .ok (.lload 7, 2) := dk_22 7 (dk_at dksX21_from_3 13 rfl rfl)
theorem dX21_from_84 : decode cX21_from 84 = .ok (.ldiv, 1) := dk_109 (dk_at dksX21_from_3 15 rfl rfl)
theorem dX21_from_85 : decode cX21_from 85 = .ok (.lreturn, 1) := dk_173 (dk_at dksX21_from_3 16 rfl rfl)
abbrev cX21_weightsInAll : ByteArray := prog_33_method_68_code
def yX21_weightsInAll : MethodName := ⟨RX21, "weightsInAll", "()J"⟩
def dkwX21_weightsInAll_0 : List UInt8 := [42, 3, 182, 1, 29, 42, 4, 182, 1, 29, 97, 42, 5, 182, 1, 29, 97, 42, 6, 182, 1, 29, 97, 173]
abbrev dktX21_weightsInAll_0 : List UInt8 := dkwX21_weightsInAll_0 ++ []
theorem dksX21_weightsInAll_0 : cX21_weightsInAll.data.toList.drop 0 = dktX21_weightsInAll_0 := by decide +kernel
theorem dX21_weightsInAll_0 : decode cX21_weightsInAll 0 = .ok (.aload_n 0, 1) := dk_42 (dk_at dksX21_weightsInAll_0 0 rfl rfl)
theorem dX21_weightsInAll_1 : decode cX21_weightsInAll 1 = .ok (.iconst 0, 1) := dk_3 (dk_at dksX21_weightsInAll_0 1 rfl rfl)
theorem dX21_weightsInAll_2 : decode cX21_weightsInAll 2 = .ok (.invokevirtual 285, 3) := dk_182 1 29 (dk_at dksX21_weightsInAll_0 2 rfl rfl)
theorem dX21_weightsInAll_5 : decode cX21_weightsInAll 5 = .ok (.aload_n 0, 1) := dk_42 (dk_at dksX21_weightsInAll_0 5 rfl rfl)
theorem dX21_weightsInAll_6 : decode cX21_weightsInAll 6 = .ok (.iconst 1, 1) := dk_4 (dk_at dksX21_weightsInAll_0 6 rfl rfl)
theorem dX21_weightsInAll_7 : decode cX21_weightsInAll 7 = .ok (.invokevirtual 285, 3) := dk_182 1 29 (dk_at dksX21_weightsInAll_0 7 rfl rfl)
theorem dX21_weightsInAll_10 : decode cX21_weightsInAll 10 = .ok (.ladd, 1) := dk_97 (dk_at dksX21_weightsInAll_0 10 rfl rfl)
theorem dX21_weightsInAll_11 : decode cX21_weightsInAll 11 = .ok (.aload_n 0, 1) := dk_42 (dk_at dksX21_weightsInAll_0 11 rfl rfl)
theorem dX21_weightsInAll_12 : decode cX21_weightsInAll 12 = .ok (.iconst 2, 1) := dk_5 (dk_at dksX21_weightsInAll_0 12 rfl rfl)
theorem dX21_weightsInAll_13 : decode cX21_weightsInAll 13 = .ok (.invokevirtual 285, 3) := dk_182 1 29 (dk_at dksX21_weightsInAll_0 13 rfl rfl)
theorem dX21_weightsInAll_16 : decode cX21_weightsInAll 16 = .ok (.ladd, 1) := dk_97 (dk_at dksX21_weightsInAll_0 16 rfl rfl)
theorem dX21_weightsInAll_17 : decode cX21_weightsInAll 17 = .ok (.aload_n 0, 1) := dk_42 (dk_at dksX21_weightsInAll_0 17 rfl rfl)
theorem dX21_weightsInAll_18 : decode cX21_weightsInAll 18 = .ok (.iconst 3, 1) := dk_6 (dk_at dksX21_weightsInAll_0 18 rfl rfl)
theorem dX21_weightsInAll_19 : decode cX21_weightsInAll 19 = .ok (.invokevirtual 285, 3) := dk_182 1 29 (dk_at dksX21_weightsInAll_0 19 rfl rfl)
theorem dX21_weightsInAll_22 : decode cX21_weightsInAll 22 = .ok (.ladd, 1) := dk_97 (dk_at dksX21_weightsInAll_0 22 rfl rfl)
theorem dX21_weightsInAll_23 : decode cX21_weightsInAll 23 = .ok (.lreturn, 1) := dk_173 (dk_at dksX21_weightsInAll_0 23 rfl rfl)
abbrev cX21_weightOf : ByteArray := prog_33_method_67_code
def yX21_weightOf : MethodName := ⟨RX21, "weightOf", "(I)J"⟩
def dkwX21_weightOf_2 : List UInt8 := [167, 0, 4, 3, 182, 1, 25, 133, 105, 65, 132, 4, 1, 167, 255, 206, 32, 173]
abbrev dktX21_weightOf_2 : List UInt8 := dkwX21_weightOf_2 ++ []
def dkwX21_weightOf_1 : List UInt8 := [180, 0, 28, 5, 21, 4, 104, 46, 42, 180, 0, 28, 5, 21, 4, 104, 4, 96, 46, 4, 160, 0, 7, 4]
abbrev dktX21_weightOf_1 : List UInt8 := dkwX21_weightOf_1 ++ dktX21_weightOf_2
def dkwX21_weightOf_0 : List UInt8 := [42, 180, 0, 25, 27, 46, 133, 65, 3, 54, 4, 21, 4, 42, 180, 0, 200, 162, 0, 47, 32, 42, 27, 42]
abbrev dktX21_weightOf_0 : List UInt8 := dkwX21_weightOf_0 ++ dktX21_weightOf_1
theorem dksX21_weightOf_0 : cX21_weightOf.data.toList.drop 0 = dktX21_weightOf_0 := by decide +kernel
theorem dksX21_weightOf_1 : cX21_weightOf.data.toList.drop 24 = dktX21_weightOf_1 := dk_seg dksX21_weightOf_0 24 rfl rfl
theorem dksX21_weightOf_2 : cX21_weightOf.data.toList.drop 48 = dktX21_weightOf_2 := dk_seg dksX21_weightOf_1 24 rfl rfl
theorem dX21_weightOf_0 : decode cX21_weightOf 0 = .ok (.aload_n 0, 1) := dk_42 (dk_at dksX21_weightOf_0 0 rfl rfl)
theorem dX21_weightOf_1 : decode cX21_weightOf 1 = .ok (.getfield 25, 3) := dk_180 0 25 (dk_at dksX21_weightOf_0 1 rfl rfl)
theorem dX21_weightOf_4 : decode cX21_weightOf 4 = .ok (.iload_n 1, 1) := dk_27 (dk_at dksX21_weightOf_0 4 rfl rfl)
theorem dX21_weightOf_5 : decode cX21_weightOf 5 = .ok (.iaload, 1) := dk_46 (dk_at dksX21_weightOf_0 5 rfl rfl)
theorem dX21_weightOf_6 : decode cX21_weightOf 6 = .ok (.i2l, 1) := dk_133 (dk_at dksX21_weightOf_0 6 rfl rfl)
theorem dX21_weightOf_7 : decode cX21_weightOf 7 = .ok (.lstore_n 2, 1) := dk_65 (dk_at dksX21_weightOf_0 7 rfl rfl)
theorem dX21_weightOf_8 : decode cX21_weightOf 8 = .ok (.iconst 0, 1) := dk_3 (dk_at dksX21_weightOf_0 8 rfl rfl)
theorem dX21_weightOf_9 : decode cX21_weightOf 9 = .ok (.istore 4, 2) := dk_54 4 (dk_at dksX21_weightOf_0 9 rfl rfl)
theorem dX21_weightOf_11 : decode cX21_weightOf 11 = .ok (.iload 4, 2) := dk_21 4 (dk_at dksX21_weightOf_0 11 rfl rfl)
theorem dX21_weightOf_13 : decode cX21_weightOf 13 = .ok (.aload_n 0, 1) := dk_42 (dk_at dksX21_weightOf_0 13 rfl rfl)
theorem dX21_weightOf_14 : decode cX21_weightOf 14 = .ok (.getfield 200, 3) := dk_180 0 200 (dk_at dksX21_weightOf_0 14 rfl rfl)
theorem dX21_weightOf_17 : decode cX21_weightOf 17 = .ok (.if_icmp .ge 47, 3) := dk_162 0 47 (dk_at dksX21_weightOf_0 17 rfl rfl)
theorem dX21_weightOf_20 : decode cX21_weightOf 20 = .ok (.lload_n 2, 1) := dk_32 (dk_at dksX21_weightOf_0 20 rfl rfl)
theorem dX21_weightOf_21 : decode cX21_weightOf 21 = .ok (.aload_n 0, 1) := dk_42 (dk_at dksX21_weightOf_0 21 rfl rfl)
theorem dX21_weightOf_22 : decode cX21_weightOf 22 = .ok (.iload_n 1, 1) := dk_27 (dk_at dksX21_weightOf_0 22 rfl rfl)
theorem dX21_weightOf_23 : decode cX21_weightOf 23 = .ok (.aload_n 0, 1) := dk_42 (dk_at dksX21_weightOf_0 23 rfl rfl)
theorem dX21_weightOf_24 : decode cX21_weightOf 24 = .ok (.getfield 28, 3) := dk_180 0 28 (dk_at dksX21_weightOf_1 0 rfl rfl)
theorem dX21_weightOf_27 : decode cX21_weightOf 27 = .ok (.iconst 2, 1) := dk_5 (dk_at dksX21_weightOf_1 3 rfl rfl)
theorem dX21_weightOf_28 : decode cX21_weightOf 28 = .ok (.iload 4, 2) := dk_21 4 (dk_at dksX21_weightOf_1 4 rfl rfl)
theorem dX21_weightOf_30 : decode cX21_weightOf 30 = .ok (.imul, 1) := dk_104 (dk_at dksX21_weightOf_1 6 rfl rfl)
theorem dX21_weightOf_31 : decode cX21_weightOf 31 = .ok (.iaload, 1) := dk_46 (dk_at dksX21_weightOf_1 7 rfl rfl)
theorem dX21_weightOf_32 : decode cX21_weightOf 32 = .ok (.aload_n 0, 1) := dk_42 (dk_at dksX21_weightOf_1 8 rfl rfl)
theorem dX21_weightOf_33 : decode cX21_weightOf 33 = .ok (.getfield 28, 3) := dk_180 0 28 (dk_at dksX21_weightOf_1 9 rfl rfl)
theorem dX21_weightOf_36 : decode cX21_weightOf 36 = .ok (.iconst 2, 1) := dk_5 (dk_at dksX21_weightOf_1 12 rfl rfl)
theorem dX21_weightOf_37 : decode cX21_weightOf 37 = .ok (.iload 4, 2) := dk_21 4 (dk_at dksX21_weightOf_1 13 rfl rfl)
theorem dX21_weightOf_39 : decode cX21_weightOf 39 = .ok (.imul, 1) := dk_104 (dk_at dksX21_weightOf_1 15 rfl rfl)
theorem dX21_weightOf_40 : decode cX21_weightOf 40 = .ok (.iconst 1, 1) := dk_4 (dk_at dksX21_weightOf_1 16 rfl rfl)
theorem dX21_weightOf_41 : decode cX21_weightOf 41 = .ok (.iadd, 1) := dk_96 (dk_at dksX21_weightOf_1 17 rfl rfl)
theorem dX21_weightOf_42 : decode cX21_weightOf 42 = .ok (.iaload, 1) := dk_46 (dk_at dksX21_weightOf_1 18 rfl rfl)
theorem dX21_weightOf_43 : decode cX21_weightOf 43 = .ok (.iconst 1, 1) := dk_4 (dk_at dksX21_weightOf_1 19 rfl rfl)
theorem dX21_weightOf_44 : decode cX21_weightOf 44 = .ok (.if_icmp .ne 7, 3) := dk_160 0 7 (dk_at dksX21_weightOf_1 20 rfl rfl)
theorem dX21_weightOf_47 : decode cX21_weightOf 47 = .ok (.iconst 1, 1) := dk_4 (dk_at dksX21_weightOf_1 23 rfl rfl)
theorem dX21_weightOf_48 : decode cX21_weightOf 48 = .ok (.goto 4, 3) := dk_167 0 4 (dk_at dksX21_weightOf_2 0 rfl rfl)
theorem dX21_weightOf_51 : decode cX21_weightOf 51 = .ok (.iconst 0, 1) := dk_3 (dk_at dksX21_weightOf_2 3 rfl rfl)
theorem dX21_weightOf_52 : decode cX21_weightOf 52 = .ok (.invokevirtual 281, 3) := dk_182 1 25 (dk_at dksX21_weightOf_2 4 rfl rfl)
theorem dX21_weightOf_55 : decode cX21_weightOf 55 = .ok (.i2l, 1) := dk_133 (dk_at dksX21_weightOf_2 7 rfl rfl)
theorem dX21_weightOf_56 : decode cX21_weightOf 56 = .ok (.lmul, 1) := dk_105 (dk_at dksX21_weightOf_2 8 rfl rfl)
theorem dX21_weightOf_57 : decode cX21_weightOf 57 = .ok (.lstore_n 2, 1) := dk_65 (dk_at dksX21_weightOf_2 9 rfl rfl)
theorem dX21_weightOf_58 : decode cX21_weightOf 58 = .ok (.iinc 4 1, 3) := dk_132 4 1 (dk_at dksX21_weightOf_2 10 rfl rfl)
theorem dX21_weightOf_61 : decode cX21_weightOf 61 = .ok (.goto (-50), 3) := dk_167 255 206 (dk_at dksX21_weightOf_2 13 rfl rfl)
theorem dX21_weightOf_64 : decode cX21_weightOf 64 = .ok (.lload_n 2, 1) := dk_32 (dk_at dksX21_weightOf_2 16 rfl rfl)
theorem dX21_weightOf_65 : decode cX21_weightOf 65 = .ok (.lreturn, 1) := dk_173 (dk_at dksX21_weightOf_2 17 rfl rfl)
abbrev cX21_oftenIf : ByteArray := prog_33_method_66_code
def yX21_oftenIf : MethodName := ⟨RX21, "oftenIf", "(IIZ)I"⟩
def dkwX21_oftenIf_1 : List UInt8 := [153, 0, 8, 21, 4, 167, 0, 8, 16, 12, 21, 4, 100, 172]
abbrev dktX21_oftenIf_1 : List UInt8 := dkwX21_oftenIf_1 ++ []
def dkwX21_oftenIf_0 : List UInt8 := [27, 28, 160, 0, 12, 42, 180, 0, 13, 4, 46, 167, 0, 9, 42, 180, 0, 13, 5, 46, 54, 4, 29]
abbrev dktX21_oftenIf_0 : List UInt8 := dkwX21_oftenIf_0 ++ dktX21_oftenIf_1
theorem dksX21_oftenIf_0 : cX21_oftenIf.data.toList.drop 0 = dktX21_oftenIf_0 := by decide +kernel
theorem dksX21_oftenIf_1 : cX21_oftenIf.data.toList.drop 23 = dktX21_oftenIf_1 := dk_seg dksX21_oftenIf_0 23 rfl rfl
theorem dX21_oftenIf_0 : decode cX21_oftenIf 0 = .ok (.iload_n 1, 1) := dk_27 (dk_at dksX21_oftenIf_0 0 rfl rfl)
theorem dX21_oftenIf_1 : decode cX21_oftenIf 1 = .ok (.iload_n 2, 1) := dk_28 (dk_at dksX21_oftenIf_0 1 rfl rfl)
theorem dX21_oftenIf_2 : decode cX21_oftenIf 2 = .ok (.if_icmp .ne 12, 3) := dk_160 0 12 (dk_at dksX21_oftenIf_0 2 rfl rfl)
theorem dX21_oftenIf_5 : decode cX21_oftenIf 5 = .ok (.aload_n 0, 1) := dk_42 (dk_at dksX21_oftenIf_0 5 rfl rfl)
theorem dX21_oftenIf_6 : decode cX21_oftenIf 6 = .ok (.getfield 13, 3) := dk_180 0 13 (dk_at dksX21_oftenIf_0 6 rfl rfl)
theorem dX21_oftenIf_9 : decode cX21_oftenIf 9 = .ok (.iconst 1, 1) := dk_4 (dk_at dksX21_oftenIf_0 9 rfl rfl)
theorem dX21_oftenIf_10 : decode cX21_oftenIf 10 = .ok (.iaload, 1) := dk_46 (dk_at dksX21_oftenIf_0 10 rfl rfl)
theorem dX21_oftenIf_11 : decode cX21_oftenIf 11 = .ok (.goto 9, 3) := dk_167 0 9 (dk_at dksX21_oftenIf_0 11 rfl rfl)
theorem dX21_oftenIf_14 : decode cX21_oftenIf 14 = .ok (.aload_n 0, 1) := dk_42 (dk_at dksX21_oftenIf_0 14 rfl rfl)
theorem dX21_oftenIf_15 : decode cX21_oftenIf 15 = .ok (.getfield 13, 3) := dk_180 0 13 (dk_at dksX21_oftenIf_0 15 rfl rfl)
theorem dX21_oftenIf_18 : decode cX21_oftenIf 18 = .ok (.iconst 2, 1) := dk_5 (dk_at dksX21_oftenIf_0 18 rfl rfl)
theorem dX21_oftenIf_19 : decode cX21_oftenIf 19 = .ok (.iaload, 1) := dk_46 (dk_at dksX21_oftenIf_0 19 rfl rfl)
theorem dX21_oftenIf_20 : decode cX21_oftenIf 20 = .ok (.istore 4, 2) := dk_54 4 (dk_at dksX21_oftenIf_0 20 rfl rfl)
theorem dX21_oftenIf_22 : decode cX21_oftenIf 22 = .ok (.iload_n 3, 1) := dk_29 (dk_at dksX21_oftenIf_0 22 rfl rfl)
theorem dX21_oftenIf_23 : decode cX21_oftenIf 23 = .ok (.ifCond .eq 8, 3) := dk_153 0 8 (dk_at dksX21_oftenIf_1 0 rfl rfl)
theorem dX21_oftenIf_26 : decode cX21_oftenIf 26 = .ok (.iload 4, 2) := dk_21 4 (dk_at dksX21_oftenIf_1 3 rfl rfl)
theorem dX21_oftenIf_28 : decode cX21_oftenIf 28 = .ok (.goto 8, 3) := dk_167 0 8 (dk_at dksX21_oftenIf_1 5 rfl rfl)
theorem dX21_oftenIf_31 : decode cX21_oftenIf 31 = .ok (.bipush 12, 2) := dk_16 12 (dk_at dksX21_oftenIf_1 8 rfl rfl)
theorem dX21_oftenIf_33 : decode cX21_oftenIf 33 = .ok (.iload 4, 2) := dk_21 4 (dk_at dksX21_oftenIf_1 10 rfl rfl)
theorem dX21_oftenIf_35 : decode cX21_oftenIf 35 = .ok (.isub, 1) := dk_100 (dk_at dksX21_oftenIf_1 12 rfl rfl)
theorem dX21_oftenIf_36 : decode cX21_oftenIf 36 = .ok (.ireturn, 1) := dk_172 (dk_at dksX21_oftenIf_1 13 rfl rfl)
abbrev cX21_next : ByteArray := prog_33_method_71_code
def yX21_next : MethodName := ⟨RX21, "next", "()I"⟩
def dkwX21_next_2 : List UInt8 := [158, 0, 9, 22, 5, 65, 21, 4, 60, 132, 4, 1, 167, 255, 217, 27, 172]
abbrev dktX21_next_2 : List UInt8 := dkwX21_next_2 ++ []
def dkwX21_next_1 : List UInt8 := [162, 0, 39, 42, 21, 4, 4, 182, 1, 39, 42, 21, 4, 3, 182, 1, 39, 97, 55, 5, 22, 5, 32, 148]
abbrev dktX21_next_1 : List UInt8 := dkwX21_next_1 ++ dktX21_next_2
def dkwX21_next_0 : List UInt8 := [42, 182, 1, 33, 9, 148, 154, 0, 6, 16, 253, 172, 3, 60, 20, 0, 115, 65, 3, 54, 4, 21, 4, 7]
abbrev dktX21_next_0 : List UInt8 := dkwX21_next_0 ++ dktX21_next_1
theorem dksX21_next_0 : cX21_next.data.toList.drop 0 = dktX21_next_0 := by decide +kernel
theorem dksX21_next_1 : cX21_next.data.toList.drop 24 = dktX21_next_1 := dk_seg dksX21_next_0 24 rfl rfl
theorem dksX21_next_2 : cX21_next.data.toList.drop 48 = dktX21_next_2 := dk_seg dksX21_next_1 24 rfl rfl
theorem dX21_next_0 : decode cX21_next 0 = .ok (.aload_n 0, 1) := dk_42 (dk_at dksX21_next_0 0 rfl rfl)
theorem dX21_next_1 : decode cX21_next 1 = .ok (.invokevirtual 289, 3) := dk_182 1 33 (dk_at dksX21_next_0 1 rfl rfl)
theorem dX21_next_4 : decode cX21_next 4 = .ok (.lconst 0, 1) := dk_9 (dk_at dksX21_next_0 4 rfl rfl)
theorem dX21_next_5 : decode cX21_next 5 = .ok (.lcmp, 1) := dk_148 (dk_at dksX21_next_0 5 rfl rfl)
theorem dX21_next_6 : decode cX21_next 6 = .ok (.ifCond .ne 6, 3) := dk_154 0 6 (dk_at dksX21_next_0 6 rfl rfl)
theorem dX21_next_9 : decode cX21_next 9 = .ok (.bipush (-3), 2) := dk_16 253 (dk_at dksX21_next_0 9 rfl rfl)
theorem dX21_next_11 : decode cX21_next 11 = .ok (.ireturn, 1) := dk_172 (dk_at dksX21_next_0 11 rfl rfl)
theorem dX21_next_12 : decode cX21_next 12 = .ok (.iconst 0, 1) := dk_3 (dk_at dksX21_next_0 12 rfl rfl)
theorem dX21_next_13 : decode cX21_next 13 = .ok (.istore_n 1, 1) := dk_60 (dk_at dksX21_next_0 13 rfl rfl)
theorem dX21_next_14 : decode cX21_next 14 = .ok (.ldc2_w 115, 3) := dk_20 0 115 (dk_at dksX21_next_0 14 rfl rfl)
theorem dX21_next_17 : decode cX21_next 17 = .ok (.lstore_n 2, 1) := dk_65 (dk_at dksX21_next_0 17 rfl rfl)
theorem dX21_next_18 : decode cX21_next 18 = .ok (.iconst 0, 1) := dk_3 (dk_at dksX21_next_0 18 rfl rfl)
theorem dX21_next_19 : decode cX21_next 19 = .ok (.istore 4, 2) := dk_54 4 (dk_at dksX21_next_0 19 rfl rfl)
theorem dX21_next_21 : decode cX21_next 21 = .ok (.iload 4, 2) := dk_21 4 (dk_at dksX21_next_0 21 rfl rfl)
theorem dX21_next_23 : decode cX21_next 23 = .ok (.iconst 4, 1) := dk_7 (dk_at dksX21_next_0 23 rfl rfl)
theorem dX21_next_24 : decode cX21_next 24 = .ok (.if_icmp .ge 39, 3) := dk_162 0 39 (dk_at dksX21_next_1 0 rfl rfl)
theorem dX21_next_27 : decode cX21_next 27 = .ok (.aload_n 0, 1) := dk_42 (dk_at dksX21_next_1 3 rfl rfl)
theorem dX21_next_28 : decode cX21_next 28 = .ok (.iload 4, 2) := dk_21 4 (dk_at dksX21_next_1 4 rfl rfl)
theorem dX21_next_30 : decode cX21_next 30 = .ok (.iconst 1, 1) := dk_4 (dk_at dksX21_next_1 6 rfl rfl)
theorem dX21_next_31 : decode cX21_next 31 = .ok (.invokevirtual 295, 3) := dk_182 1 39 (dk_at dksX21_next_1 7 rfl rfl)
theorem dX21_next_34 : decode cX21_next 34 = .ok (.aload_n 0, 1) := dk_42 (dk_at dksX21_next_1 10 rfl rfl)
theorem dX21_next_35 : decode cX21_next 35 = .ok (.iload 4, 2) := dk_21 4 (dk_at dksX21_next_1 11 rfl rfl)
theorem dX21_next_37 : decode cX21_next 37 = .ok (.iconst 0, 1) := dk_3 (dk_at dksX21_next_1 13 rfl rfl)
theorem dX21_next_38 : decode cX21_next 38 = .ok (.invokevirtual 295, 3) := dk_182 1 39 (dk_at dksX21_next_1 14 rfl rfl)
theorem dX21_next_41 : decode cX21_next 41 = .ok (.ladd, 1) := dk_97 (dk_at dksX21_next_1 17 rfl rfl)
theorem dX21_next_42 : decode cX21_next 42 = .ok (.lstore 5, 2) := dk_55 5 (dk_at dksX21_next_1 18 rfl rfl)
theorem dX21_next_44 : decode cX21_next 44 = .ok (.lload 5, 2) := dk_22 5 (dk_at dksX21_next_1 20 rfl rfl)
theorem dX21_next_46 : decode cX21_next 46 = .ok (.lload_n 2, 1) := dk_32 (dk_at dksX21_next_1 22 rfl rfl)
theorem dX21_next_47 : decode cX21_next 47 = .ok (.lcmp, 1) := dk_148 (dk_at dksX21_next_1 23 rfl rfl)
theorem dX21_next_48 : decode cX21_next 48 = .ok (.ifCond .le 9, 3) := dk_158 0 9 (dk_at dksX21_next_2 0 rfl rfl)
theorem dX21_next_51 : decode cX21_next 51 = .ok (.lload 5, 2) := dk_22 5 (dk_at dksX21_next_2 3 rfl rfl)
theorem dX21_next_53 : decode cX21_next 53 = .ok (.lstore_n 2, 1) := dk_65 (dk_at dksX21_next_2 5 rfl rfl)
theorem dX21_next_54 : decode cX21_next 54 = .ok (.iload 4, 2) := dk_21 4 (dk_at dksX21_next_2 6 rfl rfl)
theorem dX21_next_56 : decode cX21_next 56 = .ok (.istore_n 1, 1) := dk_60 (dk_at dksX21_next_2 8 rfl rfl)
theorem dX21_next_57 : decode cX21_next 57 = .ok (.iinc 4 1, 3) := dk_132 4 1 (dk_at dksX21_next_2 9 rfl rfl)
theorem dX21_next_60 : decode cX21_next 60 = .ok (.goto (-39), 3) := dk_167 255 217 (dk_at dksX21_next_2 12 rfl rfl)
theorem dX21_next_63 : decode cX21_next 63 = .ok (.iload_n 1, 1) := dk_27 (dk_at dksX21_next_2 15 rfl rfl)
theorem dX21_next_64 : decode cX21_next 64 = .ok (.ireturn, 1) := dk_172 (dk_at dksX21_next_2 16 rfl rfl)
abbrev cX21_mostBy : ByteArray := prog_33_method_70_code
def yX21_mostBy : MethodName := ⟨RX21, "mostBy", "(IZ)J"⟩
def dkwX21_mostBy_2 : List UInt8 := [167, 255, 215, 33, 173]
abbrev dktX21_mostBy_2 : List UInt8 := dkwX21_mostBy_2 ++ []
def dkwX21_mostBy_1 : List UInt8 := [182, 1, 25, 133, 105, 55, 6, 22, 6, 33, 148, 158, 0, 8, 22, 6, 167, 0, 4, 33, 66, 132, 5, 1]
abbrev dktX21_mostBy_1 : List UInt8 := dkwX21_mostBy_1 ++ dktX21_mostBy_2
def dkwX21_mostBy_0 : List UInt8 := [9, 66, 3, 54, 5, 21, 5, 7, 162, 0, 41, 42, 21, 5, 182, 1, 29, 42, 21, 5, 27, 28]
abbrev dktX21_mostBy_0 : List UInt8 := dkwX21_mostBy_0 ++ dktX21_mostBy_1
theorem dksX21_mostBy_0 : cX21_mostBy.data.toList.drop 0 = dktX21_mostBy_0 := by decide +kernel
theorem dksX21_mostBy_1 : cX21_mostBy.data.toList.drop 22 = dktX21_mostBy_1 := dk_seg dksX21_mostBy_0 22 rfl rfl
theorem dksX21_mostBy_2 : cX21_mostBy.data.toList.drop 46 = dktX21_mostBy_2 := dk_seg dksX21_mostBy_1 24 rfl rfl
theorem dX21_mostBy_0 : decode cX21_mostBy 0 = .ok (.lconst 0, 1) := dk_9 (dk_at dksX21_mostBy_0 0 rfl rfl)
theorem dX21_mostBy_1 : decode cX21_mostBy 1 = .ok (.lstore_n 3, 1) := dk_66 (dk_at dksX21_mostBy_0 1 rfl rfl)
theorem dX21_mostBy_2 : decode cX21_mostBy 2 = .ok (.iconst 0, 1) := dk_3 (dk_at dksX21_mostBy_0 2 rfl rfl)
theorem dX21_mostBy_3 : decode cX21_mostBy 3 = .ok (.istore 5, 2) := dk_54 5 (dk_at dksX21_mostBy_0 3 rfl rfl)
theorem dX21_mostBy_5 : decode cX21_mostBy 5 = .ok (.iload 5, 2) := dk_21 5 (dk_at dksX21_mostBy_0 5 rfl rfl)
theorem dX21_mostBy_7 : decode cX21_mostBy 7 = .ok (.iconst 4, 1) := dk_7 (dk_at dksX21_mostBy_0 7 rfl rfl)
theorem dX21_mostBy_8 : decode cX21_mostBy 8 = .ok (.if_icmp .ge 41, 3) := dk_162 0 41 (dk_at dksX21_mostBy_0 8 rfl rfl)
theorem dX21_mostBy_11 : decode cX21_mostBy 11 = .ok (.aload_n 0, 1) := dk_42 (dk_at dksX21_mostBy_0 11 rfl rfl)
theorem dX21_mostBy_12 : decode cX21_mostBy 12 = .ok (.iload 5, 2) := dk_21 5 (dk_at dksX21_mostBy_0 12 rfl rfl)
theorem dX21_mostBy_14 : decode cX21_mostBy 14 = .ok (.invokevirtual 285, 3) := dk_182 1 29 (dk_at dksX21_mostBy_0 14 rfl rfl)
theorem dX21_mostBy_17 : decode cX21_mostBy 17 = .ok (.aload_n 0, 1) := dk_42 (dk_at dksX21_mostBy_0 17 rfl rfl)
theorem dX21_mostBy_18 : decode cX21_mostBy 18 = .ok (.iload 5, 2) := dk_21 5 (dk_at dksX21_mostBy_0 18 rfl rfl)
theorem dX21_mostBy_20 : decode cX21_mostBy 20 = .ok (.iload_n 1, 1) := dk_27 (dk_at dksX21_mostBy_0 20 rfl rfl)
theorem dX21_mostBy_21 : decode cX21_mostBy 21 = .ok (.iload_n 2, 1) := dk_28 (dk_at dksX21_mostBy_0 21 rfl rfl)
theorem dX21_mostBy_22 : decode cX21_mostBy 22 = .ok (.invokevirtual 281, 3) := dk_182 1 25 (dk_at dksX21_mostBy_1 0 rfl rfl)
theorem dX21_mostBy_25 : decode cX21_mostBy 25 = .ok (.i2l, 1) := dk_133 (dk_at dksX21_mostBy_1 3 rfl rfl)
theorem dX21_mostBy_26 : decode cX21_mostBy 26 = .ok (.lmul, 1) := dk_105 (dk_at dksX21_mostBy_1 4 rfl rfl)
theorem dX21_mostBy_27 : decode cX21_mostBy 27 = .ok (.lstore 6, 2) := dk_55 6 (dk_at dksX21_mostBy_1 5 rfl rfl)
theorem dX21_mostBy_29 : decode cX21_mostBy 29 = .ok (.lload 6, 2) := dk_22 6 (dk_at dksX21_mostBy_1 7 rfl rfl)
theorem dX21_mostBy_31 : decode cX21_mostBy 31 = .ok (.lload_n 3, 1) := dk_33 (dk_at dksX21_mostBy_1 9 rfl rfl)
theorem dX21_mostBy_32 : decode cX21_mostBy 32 = .ok (.lcmp, 1) := dk_148 (dk_at dksX21_mostBy_1 10 rfl rfl)
theorem dX21_mostBy_33 : decode cX21_mostBy 33 = .ok (.ifCond .le 8, 3) := dk_158 0 8 (dk_at dksX21_mostBy_1 11 rfl rfl)
theorem dX21_mostBy_36 : decode cX21_mostBy 36 = .ok (.lload 6, 2) := dk_22 6 (dk_at dksX21_mostBy_1 14 rfl rfl)
theorem dX21_mostBy_38 : decode cX21_mostBy 38 = .ok (.goto 4, 3) := dk_167 0 4 (dk_at dksX21_mostBy_1 16 rfl rfl)
theorem dX21_mostBy_41 : decode cX21_mostBy 41 = .ok (.lload_n 3, 1) := dk_33 (dk_at dksX21_mostBy_1 19 rfl rfl)
theorem dX21_mostBy_42 : decode cX21_mostBy 42 = .ok (.lstore_n 3, 1) := dk_66 (dk_at dksX21_mostBy_1 20 rfl rfl)
theorem dX21_mostBy_43 : decode cX21_mostBy 43 = .ok (.iinc 5 1, 3) := dk_132 5 1 (dk_at dksX21_mostBy_1 21 rfl rfl)
theorem dX21_mostBy_46 : decode cX21_mostBy 46 = .ok (.goto (-41), 3) := dk_167 255 215 (dk_at dksX21_mostBy_2 0 rfl rfl)
theorem dX21_mostBy_49 : decode cX21_mostBy 49 = .ok (.lload_n 3, 1) := dk_33 (dk_at dksX21_mostBy_2 3 rfl rfl)
theorem dX21_mostBy_50 : decode cX21_mostBy 50 = .ok (.lreturn, 1) := dk_173 (dk_at dksX21_mostBy_2 4 rfl rfl)
abbrev cX21_seed : ByteArray := prog_33_method_72_code
def yX21_seed : MethodName := ⟨RX21, "seed", "(I)I"⟩
def dkwX21_seed_0 : List UInt8 := [42, 180, 0, 31, 61, 42, 27, 181, 0, 31, 28, 172]
abbrev dktX21_seed_0 : List UInt8 := dkwX21_seed_0 ++ []
theorem dksX21_seed_0 : cX21_seed.data.toList.drop 0 = dktX21_seed_0 := by decide +kernel
theorem dX21_seed_0 : decode cX21_seed 0 = .ok (.aload_n 0, 1) := dk_42 (dk_at dksX21_seed_0 0 rfl rfl)
theorem dX21_seed_1 : decode cX21_seed 1 = .ok (.getfield 31, 3) := dk_180 0 31 (dk_at dksX21_seed_0 1 rfl rfl)
theorem dX21_seed_4 : decode cX21_seed 4 = .ok (.istore_n 2, 1) := dk_61 (dk_at dksX21_seed_0 4 rfl rfl)
theorem dX21_seed_5 : decode cX21_seed 5 = .ok (.aload_n 0, 1) := dk_42 (dk_at dksX21_seed_0 5 rfl rfl)
theorem dX21_seed_6 : decode cX21_seed 6 = .ok (.iload_n 1, 1) := dk_27 (dk_at dksX21_seed_0 6 rfl rfl)
theorem dX21_seed_7 : decode cX21_seed 7 = .ok (.putfield 31, 3) := dk_181 0 31 (dk_at dksX21_seed_0 7 rfl rfl)
theorem dX21_seed_10 : decode cX21_seed 10 = .ok (.iload_n 2, 1) := dk_28 (dk_at dksX21_seed_0 10 rfl rfl)
theorem dX21_seed_11 : decode cX21_seed 11 = .ok (.ireturn, 1) := dk_172 (dk_at dksX21_seed_0 11 rfl rfl)
abbrev cX21_blow : ByteArray := prog_33_method_73_code
def yX21_blow : MethodName := ⟨RX21, "blow", "()I"⟩
def dkwX21_blow_1 : List UInt8 := [112, 60, 42, 27, 3, 42, 27, 3, 182, 0, 222, 4, 96, 17, 3, 231, 184, 0, 231, 182, 0, 183, 27, 172]
abbrev dktX21_blow_1 : List UInt8 := dkwX21_blow_1 ++ []
def dkwX21_blow_0 : List UInt8 := [42, 42, 180, 0, 31, 19, 1, 43, 104, 17, 48, 57, 96, 181, 0, 31, 42, 180, 0, 31, 16, 16, 124, 7]
abbrev dktX21_blow_0 : List UInt8 := dkwX21_blow_0 ++ dktX21_blow_1
theorem dksX21_blow_0 : cX21_blow.data.toList.drop 0 = dktX21_blow_0 := by decide +kernel
theorem dksX21_blow_1 : cX21_blow.data.toList.drop 24 = dktX21_blow_1 := dk_seg dksX21_blow_0 24 rfl rfl
theorem dX21_blow_0 : decode cX21_blow 0 = .ok (.aload_n 0, 1) := dk_42 (dk_at dksX21_blow_0 0 rfl rfl)
theorem dX21_blow_1 : decode cX21_blow 1 = .ok (.aload_n 0, 1) := dk_42 (dk_at dksX21_blow_0 1 rfl rfl)
theorem dX21_blow_2 : decode cX21_blow 2 = .ok (.getfield 31, 3) := dk_180 0 31 (dk_at dksX21_blow_0 2 rfl rfl)
theorem dX21_blow_5 : decode cX21_blow 5 = .ok (.ldc_w 299, 3) := dk_19 1 43 (dk_at dksX21_blow_0 5 rfl rfl)
theorem dX21_blow_8 : decode cX21_blow 8 = .ok (.imul, 1) := dk_104 (dk_at dksX21_blow_0 8 rfl rfl)
theorem dX21_blow_9 : decode cX21_blow 9 = .ok (.sipush 12345, 3) := dk_17 48 57 (dk_at dksX21_blow_0 9 rfl rfl)
theorem dX21_blow_12 : decode cX21_blow 12 = .ok (.iadd, 1) := dk_96 (dk_at dksX21_blow_0 12 rfl rfl)
theorem dX21_blow_13 : decode cX21_blow 13 = .ok (.putfield 31, 3) := dk_181 0 31 (dk_at dksX21_blow_0 13 rfl rfl)
theorem dX21_blow_16 : decode cX21_blow 16 = .ok (.aload_n 0, 1) := dk_42 (dk_at dksX21_blow_0 16 rfl rfl)
theorem dX21_blow_17 : decode cX21_blow 17 = .ok (.getfield 31, 3) := dk_180 0 31 (dk_at dksX21_blow_0 17 rfl rfl)
theorem dX21_blow_20 : decode cX21_blow 20 = .ok (.bipush 16, 2) := dk_16 16 (dk_at dksX21_blow_0 20 rfl rfl)
theorem dX21_blow_22 : decode cX21_blow 22 = .ok (.iushr, 1) := dk_124 (dk_at dksX21_blow_0 22 rfl rfl)
theorem dX21_blow_23 : decode cX21_blow 23 = .ok (.iconst 4, 1) := dk_7 (dk_at dksX21_blow_0 23 rfl rfl)
theorem dX21_blow_24 : decode cX21_blow 24 = .ok (.irem, 1) := dk_112 (dk_at dksX21_blow_1 0 rfl rfl)
theorem dX21_blow_25 : decode cX21_blow 25 = .ok (.istore_n 1, 1) := dk_60 (dk_at dksX21_blow_1 1 rfl rfl)
theorem dX21_blow_26 : decode cX21_blow 26 = .ok (.aload_n 0, 1) := dk_42 (dk_at dksX21_blow_1 2 rfl rfl)
theorem dX21_blow_27 : decode cX21_blow 27 = .ok (.iload_n 1, 1) := dk_27 (dk_at dksX21_blow_1 3 rfl rfl)
theorem dX21_blow_28 : decode cX21_blow 28 = .ok (.iconst 0, 1) := dk_3 (dk_at dksX21_blow_1 4 rfl rfl)
theorem dX21_blow_29 : decode cX21_blow 29 = .ok (.aload_n 0, 1) := dk_42 (dk_at dksX21_blow_1 5 rfl rfl)
theorem dX21_blow_30 : decode cX21_blow 30 = .ok (.iload_n 1, 1) := dk_27 (dk_at dksX21_blow_1 6 rfl rfl)
theorem dX21_blow_31 : decode cX21_blow 31 = .ok (.iconst 0, 1) := dk_3 (dk_at dksX21_blow_1 7 rfl rfl)
theorem dX21_blow_32 : decode cX21_blow 32 = .ok (.invokevirtual 222, 3) := dk_182 0 222 (dk_at dksX21_blow_1 8 rfl rfl)
theorem dX21_blow_35 : decode cX21_blow 35 = .ok (.iconst 1, 1) := dk_4 (dk_at dksX21_blow_1 11 rfl rfl)
theorem dX21_blow_36 : decode cX21_blow 36 = .ok (.iadd, 1) := dk_96 (dk_at dksX21_blow_1 12 rfl rfl)
theorem dX21_blow_37 : decode cX21_blow 37 = .ok (.sipush 999, 3) := dk_17 3 231 (dk_at dksX21_blow_1 13 rfl rfl)
theorem dX21_blow_40 : decode cX21_blow 40 = .ok (.invokestatic 231, 3) := dk_184 0 231 (dk_at dksX21_blow_1 16 rfl rfl)
theorem dX21_blow_43 : decode cX21_blow 43 = .ok (.invokevirtual 183, 3) := dk_182 0 183 (dk_at dksX21_blow_1 19 rfl rfl)
theorem dX21_blow_46 : decode cX21_blow 46 = .ok (.iload_n 1, 1) := dk_27 (dk_at dksX21_blow_1 22 rfl rfl)
theorem dX21_blow_47 : decode cX21_blow 47 = .ok (.ireturn, 1) := dk_172 (dk_at dksX21_blow_1 23 rfl rfl)
abbrev cX21_prove : ByteArray := prog_33_method_75_code
def yX21_prove : MethodName := ⟨RX21, "prove", "()I"⟩
def dkwX21_prove_2 : List UInt8 := [167, 255, 232, 132, 1, 1, 167, 255, 216, 42, 180, 0, 203, 172]
abbrev dktX21_prove_2 : List UInt8 := dkwX21_prove_2 ++ []
def dkwX21_prove_1 : List UInt8 := [162, 0, 25, 42, 180, 0, 38, 6, 27, 104, 28, 96, 42, 27, 28, 182, 1, 44, 79, 132, 2, 1]
abbrev dktX21_prove_1 : List UInt8 := dkwX21_prove_1 ++ dktX21_prove_2
def dkwX21_prove_0 : List UInt8 := [42, 42, 180, 0, 7, 3, 46, 181, 0, 203, 3, 60, 27, 42, 180, 0, 203, 162, 0, 38, 3, 61, 28, 6]
abbrev dktX21_prove_0 : List UInt8 := dkwX21_prove_0 ++ dktX21_prove_1
theorem dksX21_prove_0 : cX21_prove.data.toList.drop 0 = dktX21_prove_0 := by decide +kernel
theorem dksX21_prove_1 : cX21_prove.data.toList.drop 24 = dktX21_prove_1 := dk_seg dksX21_prove_0 24 rfl rfl
theorem dksX21_prove_2 : cX21_prove.data.toList.drop 46 = dktX21_prove_2 := dk_seg dksX21_prove_1 22 rfl rfl
theorem dX21_prove_0 : decode cX21_prove 0 = .ok (.aload_n 0, 1) := dk_42 (dk_at dksX21_prove_0 0 rfl rfl)
theorem dX21_prove_1 : decode cX21_prove 1 = .ok (.aload_n 0, 1) := dk_42 (dk_at dksX21_prove_0 1 rfl rfl)
theorem dX21_prove_2 : decode cX21_prove 2 = .ok (.getfield 7, 3) := dk_180 0 7 (dk_at dksX21_prove_0 2 rfl rfl)
theorem dX21_prove_5 : decode cX21_prove 5 = .ok (.iconst 0, 1) := dk_3 (dk_at dksX21_prove_0 5 rfl rfl)
theorem dX21_prove_6 : decode cX21_prove 6 = .ok (.iaload, 1) := dk_46 (dk_at dksX21_prove_0 6 rfl rfl)
theorem dX21_prove_7 : decode cX21_prove 7 = .ok (.putfield 203, 3) := dk_181 0 203 (dk_at dksX21_prove_0 7 rfl rfl)
theorem dX21_prove_10 : decode cX21_prove 10 = .ok (.iconst 0, 1) := dk_3 (dk_at dksX21_prove_0 10 rfl rfl)
theorem dX21_prove_11 : decode cX21_prove 11 = .ok (.istore_n 1, 1) := dk_60 (dk_at dksX21_prove_0 11 rfl rfl)
theorem dX21_prove_12 : decode cX21_prove 12 = .ok (.iload_n 1, 1) := dk_27 (dk_at dksX21_prove_0 12 rfl rfl)
theorem dX21_prove_13 : decode cX21_prove 13 = .ok (.aload_n 0, 1) := dk_42 (dk_at dksX21_prove_0 13 rfl rfl)
theorem dX21_prove_14 : decode cX21_prove 14 = .ok (.getfield 203, 3) := dk_180 0 203 (dk_at dksX21_prove_0 14 rfl rfl)
theorem dX21_prove_17 : decode cX21_prove 17 = .ok (.if_icmp .ge 38, 3) := dk_162 0 38 (dk_at dksX21_prove_0 17 rfl rfl)
theorem dX21_prove_20 : decode cX21_prove 20 = .ok (.iconst 0, 1) := dk_3 (dk_at dksX21_prove_0 20 rfl rfl)
theorem dX21_prove_21 : decode cX21_prove 21 = .ok (.istore_n 2, 1) := dk_61 (dk_at dksX21_prove_0 21 rfl rfl)
theorem dX21_prove_22 : decode cX21_prove 22 = .ok (.iload_n 2, 1) := dk_28 (dk_at dksX21_prove_0 22 rfl rfl)
theorem dX21_prove_23 : decode cX21_prove 23 = .ok (.iconst 3, 1) := dk_6 (dk_at dksX21_prove_0 23 rfl rfl)
theorem dX21_prove_24 : decode cX21_prove 24 = .ok (.if_icmp .ge 25, 3) := dk_162 0 25 (dk_at dksX21_prove_1 0 rfl rfl)
theorem dX21_prove_27 : decode cX21_prove 27 = .ok (.aload_n 0, 1) := dk_42 (dk_at dksX21_prove_1 3 rfl rfl)
theorem dX21_prove_28 : decode cX21_prove 28 = .ok (.getfield 38, 3) := dk_180 0 38 (dk_at dksX21_prove_1 4 rfl rfl)
theorem dX21_prove_31 : decode cX21_prove 31 = .ok (.iconst 3, 1) := dk_6 (dk_at dksX21_prove_1 7 rfl rfl)
theorem dX21_prove_32 : decode cX21_prove 32 = .ok (.iload_n 1, 1) := dk_27 (dk_at dksX21_prove_1 8 rfl rfl)
theorem dX21_prove_33 : decode cX21_prove 33 = .ok (.imul, 1) := dk_104 (dk_at dksX21_prove_1 9 rfl rfl)
theorem dX21_prove_34 : decode cX21_prove 34 = .ok (.iload_n 2, 1) := dk_28 (dk_at dksX21_prove_1 10 rfl rfl)
theorem dX21_prove_35 : decode cX21_prove 35 = .ok (.iadd, 1) := dk_96 (dk_at dksX21_prove_1 11 rfl rfl)
theorem dX21_prove_36 : decode cX21_prove 36 = .ok (.aload_n 0, 1) := dk_42 (dk_at dksX21_prove_1 12 rfl rfl)
theorem dX21_prove_37 : decode cX21_prove 37 = .ok (.iload_n 1, 1) := dk_27 (dk_at dksX21_prove_1 13 rfl rfl)
theorem dX21_prove_38 : decode cX21_prove 38 = .ok (.iload_n 2, 1) := dk_28 (dk_at dksX21_prove_1 14 rfl rfl)
theorem dX21_prove_39 : decode cX21_prove 39 = .ok (.invokevirtual 300, 3) := dk_182 1 44 (dk_at dksX21_prove_1 15 rfl rfl)
theorem dX21_prove_42 : decode cX21_prove 42 = .ok (.iastore, 1) := dk_79 (dk_at dksX21_prove_1 18 rfl rfl)
theorem dX21_prove_43 : decode cX21_prove 43 = .ok (.iinc 2 1, 3) := dk_132 2 1 (dk_at dksX21_prove_1 19 rfl rfl)
theorem dX21_prove_46 : decode cX21_prove 46 = .ok (.goto (-24), 3) := dk_167 255 232 (dk_at dksX21_prove_2 0 rfl rfl)
theorem dX21_prove_49 : decode cX21_prove 49 = .ok (.iinc 1 1, 3) := dk_132 1 1 (dk_at dksX21_prove_2 3 rfl rfl)
theorem dX21_prove_52 : decode cX21_prove 52 = .ok (.goto (-40), 3) := dk_167 255 216 (dk_at dksX21_prove_2 6 rfl rfl)
theorem dX21_prove_55 : decode cX21_prove 55 = .ok (.aload_n 0, 1) := dk_42 (dk_at dksX21_prove_2 9 rfl rfl)
theorem dX21_prove_56 : decode cX21_prove 56 = .ok (.getfield 203, 3) := dk_180 0 203 (dk_at dksX21_prove_2 10 rfl rfl)
theorem dX21_prove_59 : decode cX21_prove 59 = .ok (.ireturn, 1) := dk_172 (dk_at dksX21_prove_2 13 rfl rfl)
abbrev cX21_mustBe : ByteArray := prog_33_method_74_code
def yX21_mustBe : MethodName := ⟨RX21, "mustBe", "(II)I"⟩
def dkwX21_mustBe_1 : List UInt8 := [167, 0, 8, 42, 27, 182, 0, 219, 172]
abbrev dktX21_mustBe_1 : List UInt8 := dkwX21_mustBe_1 ++ []
def dkwX21_mustBe_0 : List UInt8 := [28, 154, 0, 11, 42, 27, 182, 0, 242, 167, 0, 23, 28, 4, 160, 0, 13, 42, 27, 16, 9, 182, 0, 209]
abbrev dktX21_mustBe_0 : List UInt8 := dkwX21_mustBe_0 ++ dktX21_mustBe_1
theorem dksX21_mustBe_0 : cX21_mustBe.data.toList.drop 0 = dktX21_mustBe_0 := by decide +kernel
theorem dksX21_mustBe_1 : cX21_mustBe.data.toList.drop 24 = dktX21_mustBe_1 := dk_seg dksX21_mustBe_0 24 rfl rfl
theorem dX21_mustBe_0 : decode cX21_mustBe 0 = .ok (.iload_n 2, 1) := dk_28 (dk_at dksX21_mustBe_0 0 rfl rfl)
theorem dX21_mustBe_1 : decode cX21_mustBe 1 = .ok (.ifCond .ne 11, 3) := dk_154 0 11 (dk_at dksX21_mustBe_0 1 rfl rfl)
theorem dX21_mustBe_4 : decode cX21_mustBe 4 = .ok (.aload_n 0, 1) := dk_42 (dk_at dksX21_mustBe_0 4 rfl rfl)
theorem dX21_mustBe_5 : decode cX21_mustBe 5 = .ok (.iload_n 1, 1) := dk_27 (dk_at dksX21_mustBe_0 5 rfl rfl)
theorem dX21_mustBe_6 : decode cX21_mustBe 6 = .ok (.invokevirtual 242, 3) := dk_182 0 242 (dk_at dksX21_mustBe_0 6 rfl rfl)
theorem dX21_mustBe_9 : decode cX21_mustBe 9 = .ok (.goto 23, 3) := dk_167 0 23 (dk_at dksX21_mustBe_0 9 rfl rfl)
theorem dX21_mustBe_12 : decode cX21_mustBe 12 = .ok (.iload_n 2, 1) := dk_28 (dk_at dksX21_mustBe_0 12 rfl rfl)
theorem dX21_mustBe_13 : decode cX21_mustBe 13 = .ok (.iconst 1, 1) := dk_4 (dk_at dksX21_mustBe_0 13 rfl rfl)
theorem dX21_mustBe_14 : decode cX21_mustBe 14 = .ok (.if_icmp .ne 13, 3) := dk_160 0 13 (dk_at dksX21_mustBe_0 14 rfl rfl)
theorem dX21_mustBe_17 : decode cX21_mustBe 17 = .ok (.aload_n 0, 1) := dk_42 (dk_at dksX21_mustBe_0 17 rfl rfl)
theorem dX21_mustBe_18 : decode cX21_mustBe 18 = .ok (.iload_n 1, 1) := dk_27 (dk_at dksX21_mustBe_0 18 rfl rfl)
theorem dX21_mustBe_19 : decode cX21_mustBe 19 = .ok (.bipush 9, 2) := dk_16 9 (dk_at dksX21_mustBe_0 19 rfl rfl)
theorem dX21_mustBe_21 : decode cX21_mustBe 21 = .ok (.invokevirtual 209, 3) := dk_182 0 209 (dk_at dksX21_mustBe_0 21 rfl rfl)
theorem dX21_mustBe_24 : decode cX21_mustBe 24 = .ok (.goto 8, 3) := dk_167 0 8 (dk_at dksX21_mustBe_1 0 rfl rfl)
theorem dX21_mustBe_27 : decode cX21_mustBe 27 = .ok (.aload_n 0, 1) := dk_42 (dk_at dksX21_mustBe_1 3 rfl rfl)
theorem dX21_mustBe_28 : decode cX21_mustBe 28 = .ok (.iload_n 1, 1) := dk_27 (dk_at dksX21_mustBe_1 4 rfl rfl)
theorem dX21_mustBe_29 : decode cX21_mustBe 29 = .ok (.invokevirtual 219, 3) := dk_182 0 219 (dk_at dksX21_mustBe_1 5 rfl rfl)
theorem dX21_mustBe_32 : decode cX21_mustBe 32 = .ok (.ireturn, 1) := dk_172 (dk_at dksX21_mustBe_1 8 rfl rfl)
abbrev cX21_row : ByteArray := prog_33_method_77_code
def yX21_row : MethodName := ⟨RX21, "row", "(II)I"⟩
def dkwX21_row_1 : List UInt8 := [172]
abbrev dktX21_row_1 : List UInt8 := dkwX21_row_1 ++ []
def dkwX21_row_0 : List UInt8 := [42, 27, 28, 182, 1, 47, 153, 0, 16, 42, 180, 0, 38, 6, 27, 104, 28, 96, 46, 167, 0, 5, 16, 247]
abbrev dktX21_row_0 : List UInt8 := dkwX21_row_0 ++ dktX21_row_1
theorem dksX21_row_0 : cX21_row.data.toList.drop 0 = dktX21_row_0 := by decide +kernel
theorem dksX21_row_1 : cX21_row.data.toList.drop 24 = dktX21_row_1 := dk_seg dksX21_row_0 24 rfl rfl
theorem dX21_row_0 : decode cX21_row 0 = .ok (.aload_n 0, 1) := dk_42 (dk_at dksX21_row_0 0 rfl rfl)
theorem dX21_row_1 : decode cX21_row 1 = .ok (.iload_n 1, 1) := dk_27 (dk_at dksX21_row_0 1 rfl rfl)
theorem dX21_row_2 : decode cX21_row 2 = .ok (.iload_n 2, 1) := dk_28 (dk_at dksX21_row_0 2 rfl rfl)
theorem dX21_row_3 : decode cX21_row 3 = .ok (.invokevirtual 303, 3) := dk_182 1 47 (dk_at dksX21_row_0 3 rfl rfl)
theorem dX21_row_6 : decode cX21_row 6 = .ok (.ifCond .eq 16, 3) := dk_153 0 16 (dk_at dksX21_row_0 6 rfl rfl)
theorem dX21_row_9 : decode cX21_row 9 = .ok (.aload_n 0, 1) := dk_42 (dk_at dksX21_row_0 9 rfl rfl)
theorem dX21_row_10 : decode cX21_row 10 = .ok (.getfield 38, 3) := dk_180 0 38 (dk_at dksX21_row_0 10 rfl rfl)
theorem dX21_row_13 : decode cX21_row 13 = .ok (.iconst 3, 1) := dk_6 (dk_at dksX21_row_0 13 rfl rfl)
theorem dX21_row_14 : decode cX21_row 14 = .ok (.iload_n 1, 1) := dk_27 (dk_at dksX21_row_0 14 rfl rfl)
theorem dX21_row_15 : decode cX21_row 15 = .ok (.imul, 1) := dk_104 (dk_at dksX21_row_0 15 rfl rfl)
theorem dX21_row_16 : decode cX21_row 16 = .ok (.iload_n 2, 1) := dk_28 (dk_at dksX21_row_0 16 rfl rfl)
theorem dX21_row_17 : decode cX21_row 17 = .ok (.iadd, 1) := dk_96 (dk_at dksX21_row_0 17 rfl rfl)
theorem dX21_row_18 : decode cX21_row 18 = .ok (.iaload, 1) := dk_46 (dk_at dksX21_row_0 18 rfl rfl)
theorem dX21_row_19 : decode cX21_row 19 = .ok (.goto 5, 3) := dk_167 0 5 (dk_at dksX21_row_0 19 rfl rfl)
theorem dX21_row_22 : decode cX21_row 22 = .ok (.bipush (-9), 2) := dk_16 247 (dk_at dksX21_row_0 22 rfl rfl)
theorem dX21_row_24 : decode cX21_row 24 = .ok (.ireturn, 1) := dk_172 (dk_at dksX21_row_1 0 rfl rfl)
abbrev cX21_isRow : ByteArray := prog_33_method_76_code
def yX21_isRow : MethodName := ⟨RX21, "isRow", "(II)Z"⟩
def dkwX21_isRow_1 : List UInt8 := [167, 0, 4, 3, 172]
abbrev dktX21_isRow_1 : List UInt8 := dkwX21_isRow_1 ++ []
def dkwX21_isRow_0 : List UInt8 := [27, 3, 42, 180, 0, 203, 4, 100, 184, 0, 69, 153, 0, 16, 28, 3, 5, 184, 0, 69, 153, 0, 7, 4]
abbrev dktX21_isRow_0 : List UInt8 := dkwX21_isRow_0 ++ dktX21_isRow_1
theorem dksX21_isRow_0 : cX21_isRow.data.toList.drop 0 = dktX21_isRow_0 := by decide +kernel
theorem dksX21_isRow_1 : cX21_isRow.data.toList.drop 24 = dktX21_isRow_1 := dk_seg dksX21_isRow_0 24 rfl rfl
theorem dX21_isRow_0 : decode cX21_isRow 0 = .ok (.iload_n 1, 1) := dk_27 (dk_at dksX21_isRow_0 0 rfl rfl)
theorem dX21_isRow_1 : decode cX21_isRow 1 = .ok (.iconst 0, 1) := dk_3 (dk_at dksX21_isRow_0 1 rfl rfl)
theorem dX21_isRow_2 : decode cX21_isRow 2 = .ok (.aload_n 0, 1) := dk_42 (dk_at dksX21_isRow_0 2 rfl rfl)
theorem dX21_isRow_3 : decode cX21_isRow 3 = .ok (.getfield 203, 3) := dk_180 0 203 (dk_at dksX21_isRow_0 3 rfl rfl)
theorem dX21_isRow_6 : decode cX21_isRow 6 = .ok (.iconst 1, 1) := dk_4 (dk_at dksX21_isRow_0 6 rfl rfl)
theorem dX21_isRow_7 : decode cX21_isRow 7 = .ok (.isub, 1) := dk_100 (dk_at dksX21_isRow_0 7 rfl rfl)
theorem dX21_isRow_8 : decode cX21_isRow 8 = .ok (.invokestatic 69, 3) := dk_184 0 69 (dk_at dksX21_isRow_0 8 rfl rfl)
theorem dX21_isRow_11 : decode cX21_isRow 11 = .ok (.ifCond .eq 16, 3) := dk_153 0 16 (dk_at dksX21_isRow_0 11 rfl rfl)
theorem dX21_isRow_14 : decode cX21_isRow 14 = .ok (.iload_n 2, 1) := dk_28 (dk_at dksX21_isRow_0 14 rfl rfl)
theorem dX21_isRow_15 : decode cX21_isRow 15 = .ok (.iconst 0, 1) := dk_3 (dk_at dksX21_isRow_0 15 rfl rfl)
theorem dX21_isRow_16 : decode cX21_isRow 16 = .ok (.iconst 2, 1) := dk_5 (dk_at dksX21_isRow_0 16 rfl rfl)
theorem dX21_isRow_17 : decode cX21_isRow 17 = .ok (.invokestatic 69, 3) := dk_184 0 69 (dk_at dksX21_isRow_0 17 rfl rfl)
theorem dX21_isRow_20 : decode cX21_isRow 20 = .ok (.ifCond .eq 7, 3) := dk_153 0 7 (dk_at dksX21_isRow_0 20 rfl rfl)
theorem dX21_isRow_23 : decode cX21_isRow 23 = .ok (.iconst 1, 1) := dk_4 (dk_at dksX21_isRow_0 23 rfl rfl)
theorem dX21_isRow_24 : decode cX21_isRow 24 = .ok (.goto 4, 3) := dk_167 0 4 (dk_at dksX21_isRow_1 0 rfl rfl)
theorem dX21_isRow_27 : decode cX21_isRow 27 = .ok (.iconst 0, 1) := dk_3 (dk_at dksX21_isRow_1 3 rfl rfl)
theorem dX21_isRow_28 : decode cX21_isRow 28 = .ok (.ireturn, 1) := dk_172 (dk_at dksX21_isRow_1 4 rfl rfl)
abbrev cX21_alterRow : ByteArray := prog_33_method_78_code
def yX21_alterRow : MethodName := ⟨RX21, "alterRow", "(III)I"⟩
def dkwX21_alterRow_1 : List UInt8 := [42, 180, 0, 38, 6, 27, 104, 28, 96, 29, 79, 21, 4, 172]
abbrev dktX21_alterRow_1 : List UInt8 := dkwX21_alterRow_1 ++ []
def dkwX21_alterRow_0 : List UInt8 := [42, 27, 28, 182, 1, 47, 154, 0, 6, 16, 247, 172, 42, 180, 0, 38, 6, 27, 104, 28, 96, 46, 54, 4]
abbrev dktX21_alterRow_0 : List UInt8 := dkwX21_alterRow_0 ++ dktX21_alterRow_1
theorem dksX21_alterRow_0 : cX21_alterRow.data.toList.drop 0 = dktX21_alterRow_0 := by decide +kernel
theorem dksX21_alterRow_1 : cX21_alterRow.data.toList.drop 24 = dktX21_alterRow_1 := dk_seg dksX21_alterRow_0 24 rfl rfl
theorem dX21_alterRow_0 : decode cX21_alterRow 0 = .ok (.aload_n 0, 1) := dk_42 (dk_at dksX21_alterRow_0 0 rfl rfl)
theorem dX21_alterRow_1 : decode cX21_alterRow 1 = .ok (.iload_n 1, 1) := dk_27 (dk_at dksX21_alterRow_0 1 rfl rfl)
theorem dX21_alterRow_2 : decode cX21_alterRow 2 = .ok (.iload_n 2, 1) := dk_28 (dk_at dksX21_alterRow_0 2 rfl rfl)
theorem dX21_alterRow_3 : decode cX21_alterRow 3 = .ok (.invokevirtual 303, 3) := dk_182 1 47 (dk_at dksX21_alterRow_0 3 rfl rfl)
theorem dX21_alterRow_6 : decode cX21_alterRow 6 = .ok (.ifCond .ne 6, 3) := dk_154 0 6 (dk_at dksX21_alterRow_0 6 rfl rfl)
theorem dX21_alterRow_9 : decode cX21_alterRow 9 = .ok (.bipush (-9), 2) := dk_16 247 (dk_at dksX21_alterRow_0 9 rfl rfl)
theorem dX21_alterRow_11 : decode cX21_alterRow 11 = .ok (.ireturn, 1) := dk_172 (dk_at dksX21_alterRow_0 11 rfl rfl)
theorem dX21_alterRow_12 : decode cX21_alterRow 12 = .ok (.aload_n 0, 1) := dk_42 (dk_at dksX21_alterRow_0 12 rfl rfl)
theorem dX21_alterRow_13 : decode cX21_alterRow 13 = .ok (.getfield 38, 3) := dk_180 0 38 (dk_at dksX21_alterRow_0 13 rfl rfl)
theorem dX21_alterRow_16 : decode cX21_alterRow 16 = .ok (.iconst 3, 1) := dk_6 (dk_at dksX21_alterRow_0 16 rfl rfl)
theorem dX21_alterRow_17 : decode cX21_alterRow 17 = .ok (.iload_n 1, 1) := dk_27 (dk_at dksX21_alterRow_0 17 rfl rfl)
theorem dX21_alterRow_18 : decode cX21_alterRow 18 = .ok (.imul, 1) := dk_104 (dk_at dksX21_alterRow_0 18 rfl rfl)
theorem dX21_alterRow_19 : decode cX21_alterRow 19 = .ok (.iload_n 2, 1) := dk_28 (dk_at dksX21_alterRow_0 19 rfl rfl)
theorem dX21_alterRow_20 : decode cX21_alterRow 20 = .ok (.iadd, 1) := dk_96 (dk_at dksX21_alterRow_0 20 rfl rfl)
theorem dX21_alterRow_21 : decode cX21_alterRow 21 = .ok (.iaload, 1) := dk_46 (dk_at dksX21_alterRow_0 21 rfl rfl)
theorem dX21_alterRow_22 : decode cX21_alterRow 22 = .ok (.istore 4, 2) := dk_54 4 (dk_at dksX21_alterRow_0 22 rfl rfl)
theorem dX21_alterRow_24 : decode cX21_alterRow 24 = .ok (.aload_n 0, 1) := dk_42 (dk_at dksX21_alterRow_1 0 rfl rfl)
theorem dX21_alterRow_25 : decode cX21_alterRow 25 = .ok (.getfield 38, 3) := dk_180 0 38 (dk_at dksX21_alterRow_1 1 rfl rfl)
theorem dX21_alterRow_28 : decode cX21_alterRow 28 = .ok (.iconst 3, 1) := dk_6 (dk_at dksX21_alterRow_1 4 rfl rfl)
theorem dX21_alterRow_29 : decode cX21_alterRow 29 = .ok (.iload_n 1, 1) := dk_27 (dk_at dksX21_alterRow_1 5 rfl rfl)
theorem dX21_alterRow_30 : decode cX21_alterRow 30 = .ok (.imul, 1) := dk_104 (dk_at dksX21_alterRow_1 6 rfl rfl)
theorem dX21_alterRow_31 : decode cX21_alterRow 31 = .ok (.iload_n 2, 1) := dk_28 (dk_at dksX21_alterRow_1 7 rfl rfl)
theorem dX21_alterRow_32 : decode cX21_alterRow 32 = .ok (.iadd, 1) := dk_96 (dk_at dksX21_alterRow_1 8 rfl rfl)
theorem dX21_alterRow_33 : decode cX21_alterRow 33 = .ok (.iload_n 3, 1) := dk_29 (dk_at dksX21_alterRow_1 9 rfl rfl)
theorem dX21_alterRow_34 : decode cX21_alterRow 34 = .ok (.iastore, 1) := dk_79 (dk_at dksX21_alterRow_1 10 rfl rfl)
theorem dX21_alterRow_35 : decode cX21_alterRow 35 = .ok (.iload 4, 2) := dk_21 4 (dk_at dksX21_alterRow_1 11 rfl rfl)
theorem dX21_alterRow_37 : decode cX21_alterRow 37 = .ok (.ireturn, 1) := dk_172 (dk_at dksX21_alterRow_1 13 rfl rfl)
abbrev cX21_judge : ByteArray := prog_33_method_79_code
def yX21_judge : MethodName := ⟨RX21, "judge", "()I"⟩
def dkwX21_judge_4 : List UInt8 := [17, 0, 222, 167, 0, 4, 3, 172]
abbrev dktX21_judge_4 : List UInt8 := dkwX21_judge_4 ++ []
def dkwX21_judge_3 : List UInt8 := [27, 4, 96, 172, 132, 1, 1, 167, 255, 179, 42, 180, 0, 203, 42, 180, 0, 7, 3, 46, 162, 0, 9]
abbrev dktX21_judge_3 : List UInt8 := dkwX21_judge_3 ++ dktX21_judge_4
def dkwX21_judge_2 : List UInt8 := [27, 29, 182, 1, 44, 160, 0, 7, 4, 167, 0, 4, 3, 61, 132, 3, 1, 167, 255, 219, 28, 154, 0, 7]
abbrev dktX21_judge_2 : List UInt8 := dkwX21_judge_2 ++ dktX21_judge_3
def dkwX21_judge_1 : List UInt8 := [3, 61, 3, 62, 29, 6, 162, 0, 38, 28, 153, 0, 34, 42, 180, 0, 38, 6, 27, 104, 29, 96, 46, 42]
abbrev dktX21_judge_1 : List UInt8 := dkwX21_judge_1 ++ dktX21_judge_2
def dkwX21_judge_0 : List UInt8 := [3, 60, 27, 42, 180, 0, 203, 162, 0, 75, 27, 42, 180, 0, 7, 3, 46, 162, 0, 7, 4, 167, 0, 4]
abbrev dktX21_judge_0 : List UInt8 := dkwX21_judge_0 ++ dktX21_judge_1
theorem dksX21_judge_0 : cX21_judge.data.toList.drop 0 = dktX21_judge_0 := by decide +kernel
theorem dksX21_judge_1 : cX21_judge.data.toList.drop 24 = dktX21_judge_1 := dk_seg dksX21_judge_0 24 rfl rfl
theorem dksX21_judge_2 : cX21_judge.data.toList.drop 48 = dktX21_judge_2 := dk_seg dksX21_judge_1 24 rfl rfl
theorem dksX21_judge_3 : cX21_judge.data.toList.drop 72 = dktX21_judge_3 := dk_seg dksX21_judge_2 24 rfl rfl
theorem dksX21_judge_4 : cX21_judge.data.toList.drop 95 = dktX21_judge_4 := dk_seg dksX21_judge_3 23 rfl rfl
theorem dX21_judge_0 : decode cX21_judge 0 = .ok (.iconst 0, 1) := dk_3 (dk_at dksX21_judge_0 0 rfl rfl)
theorem dX21_judge_1 : decode cX21_judge 1 = .ok (.istore_n 1, 1) := dk_60 (dk_at dksX21_judge_0 1 rfl rfl)
theorem dX21_judge_2 : decode cX21_judge 2 = .ok (.iload_n 1, 1) := dk_27 (dk_at dksX21_judge_0 2 rfl rfl)
theorem dX21_judge_3 : decode cX21_judge 3 = .ok (.aload_n 0, 1) := dk_42 (dk_at dksX21_judge_0 3 rfl rfl)
theorem dX21_judge_4 : decode cX21_judge 4 = .ok (.getfield 203, 3) := dk_180 0 203 (dk_at dksX21_judge_0 4 rfl rfl)
theorem dX21_judge_7 : decode cX21_judge 7 = .ok (.if_icmp .ge 75, 3) := dk_162 0 75 (dk_at dksX21_judge_0 7 rfl rfl)
theorem dX21_judge_10 : decode cX21_judge 10 = .ok (.iload_n 1, 1) := dk_27 (dk_at dksX21_judge_0 10 rfl rfl)
theorem dX21_judge_11 : decode cX21_judge 11 = .ok (.aload_n 0, 1) := dk_42 (dk_at dksX21_judge_0 11 rfl rfl)
theorem dX21_judge_12 : decode cX21_judge 12 = .ok (.getfield 7, 3) := dk_180 0 7 (dk_at dksX21_judge_0 12 rfl rfl)
theorem dX21_judge_15 : decode cX21_judge 15 = .ok (.iconst 0, 1) := dk_3 (dk_at dksX21_judge_0 15 rfl rfl)
theorem dX21_judge_16 : decode cX21_judge 16 = .ok (.iaload, 1) := dk_46 (dk_at dksX21_judge_0 16 rfl rfl)
theorem dX21_judge_17 : decode cX21_judge 17 = .ok (.if_icmp .ge 7, 3) := dk_162 0 7 (dk_at dksX21_judge_0 17 rfl rfl)
theorem dX21_judge_20 : decode cX21_judge 20 = .ok (.iconst 1, 1) := dk_4 (dk_at dksX21_judge_0 20 rfl rfl)
theorem dX21_judge_21 : decode cX21_judge 21 = .ok (.goto 4, 3) := dk_167 0 4 (dk_at dksX21_judge_0 21 rfl rfl)
theorem dX21_judge_24 : decode cX21_judge 24 = .ok (.iconst 0, 1) := dk_3 (dk_at dksX21_judge_1 0 rfl rfl)
theorem dX21_judge_25 : decode cX21_judge 25 = .ok (.istore_n 2, 1) := dk_61 (dk_at dksX21_judge_1 1 rfl rfl)
theorem dX21_judge_26 : decode cX21_judge 26 = .ok (.iconst 0, 1) := dk_3 (dk_at dksX21_judge_1 2 rfl rfl)
theorem dX21_judge_27 : decode cX21_judge 27 = .ok (.istore_n 3, 1) := dk_62 (dk_at dksX21_judge_1 3 rfl rfl)
theorem dX21_judge_28 : decode cX21_judge 28 = .ok (.iload_n 3, 1) := dk_29 (dk_at dksX21_judge_1 4 rfl rfl)
theorem dX21_judge_29 : decode cX21_judge 29 = .ok (.iconst 3, 1) := dk_6 (dk_at dksX21_judge_1 5 rfl rfl)
theorem dX21_judge_30 : decode cX21_judge 30 = .ok (.if_icmp .ge 38, 3) := dk_162 0 38 (dk_at dksX21_judge_1 6 rfl rfl)
theorem dX21_judge_33 : decode cX21_judge 33 = .ok (.iload_n 2, 1) := dk_28 (dk_at dksX21_judge_1 9 rfl rfl)
theorem dX21_judge_34 : decode cX21_judge 34 = .ok (.ifCond .eq 34, 3) := dk_153 0 34 (dk_at dksX21_judge_1 10 rfl rfl)
theorem dX21_judge_37 : decode cX21_judge 37 = .ok (.aload_n 0, 1) := dk_42 (dk_at dksX21_judge_1 13 rfl rfl)
theorem dX21_judge_38 : decode cX21_judge 38 = .ok (.getfield 38, 3) := dk_180 0 38 (dk_at dksX21_judge_1 14 rfl rfl)
theorem dX21_judge_41 : decode cX21_judge 41 = .ok (.iconst 3, 1) := dk_6 (dk_at dksX21_judge_1 17 rfl rfl)
theorem dX21_judge_42 : decode cX21_judge 42 = .ok (.iload_n 1, 1) := dk_27 (dk_at dksX21_judge_1 18 rfl rfl)
theorem dX21_judge_43 : decode cX21_judge 43 = .ok (.imul, 1) := dk_104 (dk_at dksX21_judge_1 19 rfl rfl)
theorem dX21_judge_44 : decode cX21_judge 44 = .ok (.iload_n 3, 1) := dk_29 (dk_at dksX21_judge_1 20 rfl rfl)
theorem dX21_judge_45 : decode cX21_judge 45 = .ok (.iadd, 1) := dk_96 (dk_at dksX21_judge_1 21 rfl rfl)
theorem dX21_judge_46 : decode cX21_judge 46 = .ok (.iaload, 1) := dk_46 (dk_at dksX21_judge_1 22 rfl rfl)
theorem dX21_judge_47 : decode cX21_judge 47 = .ok (.aload_n 0, 1) := dk_42 (dk_at dksX21_judge_1 23 rfl rfl)
theorem dX21_judge_48 : decode cX21_judge 48 = .ok (.iload_n 1, 1) := dk_27 (dk_at dksX21_judge_2 0 rfl rfl)
theorem dX21_judge_49 : decode cX21_judge 49 = .ok (.iload_n 3, 1) := dk_29 (dk_at dksX21_judge_2 1 rfl rfl)
theorem dX21_judge_50 : decode cX21_judge 50 = .ok (.invokevirtual 300, 3) := dk_182 1 44 (dk_at dksX21_judge_2 2 rfl rfl)
theorem dX21_judge_53 : decode cX21_judge 53 = .ok (.if_icmp .ne 7, 3) := dk_160 0 7 (dk_at dksX21_judge_2 5 rfl rfl)
theorem dX21_judge_56 : decode cX21_judge 56 = .ok (.iconst 1, 1) := dk_4 (dk_at dksX21_judge_2 8 rfl rfl)
theorem dX21_judge_57 : decode cX21_judge 57 = .ok (.goto 4, 3) := dk_167 0 4 (dk_at dksX21_judge_2 9 rfl rfl)
theorem dX21_judge_60 : decode cX21_judge 60 = .ok (.iconst 0, 1) := dk_3 (dk_at dksX21_judge_2 12 rfl rfl)
theorem dX21_judge_61 : decode cX21_judge 61 = .ok (.istore_n 2, 1) := dk_61 (dk_at dksX21_judge_2 13 rfl rfl)
theorem dX21_judge_62 : decode cX21_judge 62 = .ok (.iinc 3 1, 3) := dk_132 3 1 (dk_at dksX21_judge_2 14 rfl rfl)
theorem dX21_judge_65 : decode cX21_judge 65 = .ok (.goto (-37), 3) := dk_167 255 219 (dk_at dksX21_judge_2 17 rfl rfl)
theorem dX21_judge_68 : decode cX21_judge 68 = .ok (.iload_n 2, 1) := dk_28 (dk_at dksX21_judge_2 20 rfl rfl)
theorem dX21_judge_69 : decode cX21_judge 69 = .ok (.ifCond .ne 7, 3) := dk_154 0 7 (dk_at dksX21_judge_2 21 rfl rfl)
theorem dX21_judge_72 : decode cX21_judge 72 = .ok (.iload_n 1, 1) := dk_27 (dk_at dksX21_judge_3 0 rfl rfl)
theorem dX21_judge_73 : decode cX21_judge 73 = .ok (.iconst 1, 1) := dk_4 (dk_at dksX21_judge_3 1 rfl rfl)
theorem dX21_judge_74 : decode cX21_judge 74 = .ok (.iadd, 1) := dk_96 (dk_at dksX21_judge_3 2 rfl rfl)
theorem dX21_judge_75 : decode cX21_judge 75 = .ok (.ireturn, 1) := dk_172 (dk_at dksX21_judge_3 3 rfl rfl)
theorem dX21_judge_76 : decode cX21_judge 76 = .ok (.iinc 1 1, 3) := dk_132 1 1 (dk_at dksX21_judge_3 4 rfl rfl)
theorem dX21_judge_79 : decode cX21_judge 79 = .ok (.goto (-77), 3) := dk_167 255 179 (dk_at dksX21_judge_3 7 rfl rfl)
theorem dX21_judge_82 : decode cX21_judge 82 = .ok (.aload_n 0, 1) := dk_42 (dk_at dksX21_judge_3 10 rfl rfl)
theorem dX21_judge_83 : decode cX21_judge 83 = .ok (.getfield 203, 3) := dk_180 0 203 (dk_at dksX21_judge_3 11 rfl rfl)
theorem dX21_judge_86 : decode cX21_judge 86 = .ok (.aload_n 0, 1) := dk_42 (dk_at dksX21_judge_3 14 rfl rfl)
theorem dX21_judge_87 : decode cX21_judge 87 = .ok (.getfield 7, 3) := dk_180 0 7 (dk_at dksX21_judge_3 15 rfl rfl)
theorem dX21_judge_90 : decode cX21_judge 90 = .ok (.iconst 0, 1) := dk_3 (dk_at dksX21_judge_3 18 rfl rfl)
theorem dX21_judge_91 : decode cX21_judge 91 = .ok (.iaload, 1) := dk_46 (dk_at dksX21_judge_3 19 rfl rfl)
theorem dX21_judge_92 : decode cX21_judge 92 = .ok (.if_icmp .ge 9, 3) := dk_162 0 9 (dk_at dksX21_judge_3 20 rfl rfl)
theorem dX21_judge_95 : decode cX21_judge 95 = .ok (.sipush 222, 3) := dk_17 0 222 (dk_at dksX21_judge_4 0 rfl rfl)
theorem dX21_judge_98 : decode cX21_judge 98 = .ok (.goto 4, 3) := dk_167 0 4 (dk_at dksX21_judge_4 3 rfl rfl)
theorem dX21_judge_101 : decode cX21_judge 101 = .ok (.iconst 0, 1) := dk_3 (dk_at dksX21_judge_4 6 rfl rfl)
theorem dX21_judge_102 : decode cX21_judge 102 = .ok (.ireturn, 1) := dk_172 (dk_at dksX21_judge_4 7 rfl rfl)
abbrev cX21_soils : ByteArray := prog_33_method_80_code
def yX21_soils : MethodName := ⟨RX21, "soils", "(IIII)I"⟩
def dkwX21_soils_6 : List UInt8 := [167, 255, 193, 21, 4, 172]
abbrev dktX21_soils_6 : List UInt8 := dkwX21_soils_6 ++ []
def dkwX21_soils_5 : List UInt8 := [22, 7, 20, 1, 57, 148, 158, 0, 8, 16, 9, 167, 0, 6, 22, 7, 136, 182, 0, 169, 132, 6, 1]
abbrev dktX21_soils_5 : List UInt8 := dkwX21_soils_5 ++ dktX21_soils_6
def dkwX21_soils_4 : List UInt8 := [21, 6, 96, 47, 55, 7, 42, 29, 21, 6, 96, 5, 22, 7, 9, 148, 156, 0, 7, 3, 167, 0, 20]
abbrev dktX21_soils_4 : List UInt8 := dkwX21_soils_4 ++ dktX21_soils_5
def dkwX21_soils_3 : List UInt8 := [16, 244, 172, 3, 54, 6, 21, 6, 21, 4, 162, 0, 62, 42, 180, 0, 47, 16, 40, 27, 104, 28, 96]
abbrev dktX21_soils_3 : List UInt8 := dkwX21_soils_3 ++ dktX21_soils_4
def dkwX21_soils_2 : List UInt8 := [153, 0, 6, 21, 5, 172, 28, 155, 0, 16, 28, 42, 180, 0, 44, 27, 46, 21, 4, 100, 164, 0, 6]
abbrev dktX21_soils_2 : List UInt8 := dkwX21_soils_2 ++ dktX21_soils_3
def dkwX21_soils_1 : List UInt8 := [3, 46, 21, 4, 100, 184, 0, 69, 154, 0, 5, 2, 172, 42, 27, 5, 182, 1, 54, 54, 5, 21, 5]
abbrev dktX21_soils_1 : List UInt8 := dkwX21_soils_1 ++ dktX21_soils_2
def dkwX21_soils_0 : List UInt8 := [27, 184, 1, 51, 153, 0, 31, 21, 4, 3, 16, 8, 184, 0, 69, 153, 0, 20, 29, 3, 42, 180, 0, 7]
abbrev dktX21_soils_0 : List UInt8 := dkwX21_soils_0 ++ dktX21_soils_1
theorem dksX21_soils_0 : cX21_soils.data.toList.drop 0 = dktX21_soils_0 := by decide +kernel
theorem dksX21_soils_1 : cX21_soils.data.toList.drop 24 = dktX21_soils_1 := dk_seg dksX21_soils_0 24 rfl rfl
theorem dksX21_soils_2 : cX21_soils.data.toList.drop 47 = dktX21_soils_2 := dk_seg dksX21_soils_1 23 rfl rfl
theorem dksX21_soils_3 : cX21_soils.data.toList.drop 70 = dktX21_soils_3 := dk_seg dksX21_soils_2 23 rfl rfl
theorem dksX21_soils_4 : cX21_soils.data.toList.drop 93 = dktX21_soils_4 := dk_seg dksX21_soils_3 23 rfl rfl
theorem dksX21_soils_5 : cX21_soils.data.toList.drop 116 = dktX21_soils_5 := dk_seg dksX21_soils_4 23 rfl rfl
theorem dksX21_soils_6 : cX21_soils.data.toList.drop 139 = dktX21_soils_6 := dk_seg dksX21_soils_5 23 rfl rfl
theorem dX21_soils_0 : decode cX21_soils 0 = .ok (.iload_n 1, 1) := dk_27 (dk_at dksX21_soils_0 0 rfl rfl)
theorem dX21_soils_1 : decode cX21_soils 1 = .ok (.invokestatic 307, 3) := dk_184 1 51 (dk_at dksX21_soils_0 1 rfl rfl)
theorem dX21_soils_4 : decode cX21_soils 4 = .ok (.ifCond .eq 31, 3) := dk_153 0 31 (dk_at dksX21_soils_0 4 rfl rfl)
theorem dX21_soils_7 : decode cX21_soils 7 = .ok (.iload 4, 2) := dk_21 4 (dk_at dksX21_soils_0 7 rfl rfl)
theorem dX21_soils_9 : decode cX21_soils 9 = .ok (.iconst 0, 1) := dk_3 (dk_at dksX21_soils_0 9 rfl rfl)
theorem dX21_soils_10 : decode cX21_soils 10 = .ok (.bipush 8, 2) := dk_16 8 (dk_at dksX21_soils_0 10 rfl rfl)
theorem dX21_soils_12 : decode cX21_soils 12 = .ok (.invokestatic 69, 3) := dk_184 0 69 (dk_at dksX21_soils_0 12 rfl rfl)
theorem dX21_soils_15 : decode cX21_soils 15 = .ok (.ifCond .eq 20, 3) := dk_153 0 20 (dk_at dksX21_soils_0 15 rfl rfl)
theorem dX21_soils_18 : decode cX21_soils 18 = .ok (.iload_n 3, 1) := dk_29 (dk_at dksX21_soils_0 18 rfl rfl)
theorem dX21_soils_19 : decode cX21_soils 19 = .ok (.iconst 0, 1) := dk_3 (dk_at dksX21_soils_0 19 rfl rfl)
theorem dX21_soils_20 : decode cX21_soils 20 = .ok (.aload_n 0, 1) := dk_42 (dk_at dksX21_soils_0 20 rfl rfl)
theorem dX21_soils_21 : decode cX21_soils 21 = .ok (.getfield 7, 3) := dk_180 0 7 (dk_at dksX21_soils_0 21 rfl rfl)
theorem dX21_soils_24 : decode cX21_soils 24 = .ok (.iconst 0, 1) := dk_3 (dk_at dksX21_soils_1 0 rfl rfl)
theorem dX21_soils_25 : decode cX21_soils 25 = .ok (.iaload, 1) := dk_46 (dk_at dksX21_soils_1 1 rfl rfl)
theorem dX21_soils_26 : decode cX21_soils 26 = .ok (.iload 4, 2) := dk_21 4 (dk_at dksX21_soils_1 2 rfl rfl)
theorem dX21_soils_28 : decode cX21_soils 28 = .ok (.isub, 1) := dk_100 (dk_at dksX21_soils_1 4 rfl rfl)
theorem dX21_soils_29 : decode cX21_soils 29 = .ok (.invokestatic 69, 3) := dk_184 0 69 (dk_at dksX21_soils_1 5 rfl rfl)
theorem dX21_soils_32 : decode cX21_soils 32 = .ok (.ifCond .ne 5, 3) := dk_154 0 5 (dk_at dksX21_soils_1 8 rfl rfl)
theorem dX21_soils_35 : decode cX21_soils 35 = .ok (.iconst (-1), 1) := dk_2 (dk_at dksX21_soils_1 11 rfl rfl)
theorem dX21_soils_36 : decode cX21_soils 36 = .ok (.ireturn, 1) := dk_172 (dk_at dksX21_soils_1 12 rfl rfl)
theorem dX21_soils_37 : decode cX21_soils 37 = .ok (.aload_n 0, 1) := dk_42 (dk_at dksX21_soils_1 13 rfl rfl)
theorem dX21_soils_38 : decode cX21_soils 38 = .ok (.iload_n 1, 1) := dk_27 (dk_at dksX21_soils_1 14 rfl rfl)
theorem dX21_soils_39 : decode cX21_soils 39 = .ok (.iconst 2, 1) := dk_5 (dk_at dksX21_soils_1 15 rfl rfl)
theorem dX21_soils_40 : decode cX21_soils 40 = .ok (.invokevirtual 310, 3) := dk_182 1 54 (dk_at dksX21_soils_1 16 rfl rfl)
theorem dX21_soils_43 : decode cX21_soils 43 = .ok (.istore 5, 2) := dk_54 5 (dk_at dksX21_soils_1 19 rfl rfl)
theorem dX21_soils_45 : decode cX21_soils 45 = .ok (.iload 5, 2) := dk_21 5 (dk_at dksX21_soils_1 21 rfl rfl)
theorem dX21_soils_47 : decode cX21_soils 47 = .ok (.ifCond .eq 6, 3) := dk_153 0 6 (dk_at dksX21_soils_2 0 rfl rfl)
theorem dX21_soils_50 : decode cX21_soils 50 = .ok (.iload 5, 2) := dk_21 5 (dk_at dksX21_soils_2 3 rfl rfl)
theorem dX21_soils_52 : decode cX21_soils 52 = .ok (.ireturn, 1) := dk_172 (dk_at dksX21_soils_2 5 rfl rfl)
theorem dX21_soils_53 : decode cX21_soils 53 = .ok (.iload_n 2, 1) := dk_28 (dk_at dksX21_soils_2 6 rfl rfl)
theorem dX21_soils_54 : decode cX21_soils 54 = .ok (.ifCond .lt 16, 3) := dk_155 0 16 (dk_at dksX21_soils_2 7 rfl rfl)
theorem dX21_soils_57 : decode cX21_soils 57 = .ok (.iload_n 2, 1) := dk_28 (dk_at dksX21_soils_2 10 rfl rfl)
theorem dX21_soils_58 : decode cX21_soils 58 = .ok (.aload_n 0, 1) := dk_42 (dk_at dksX21_soils_2 11 rfl rfl)
theorem dX21_soils_59 : decode cX21_soils 59 = .ok (.getfield 44, 3) := dk_180 0 44 (dk_at dksX21_soils_2 12 rfl rfl)
theorem dX21_soils_62 : decode cX21_soils 62 = .ok (.iload_n 1, 1) := dk_27 (dk_at dksX21_soils_2 15 rfl rfl)
theorem dX21_soils_63 : decode cX21_soils 63 = .ok (.iaload, 1) := dk_46 (dk_at dksX21_soils_2 16 rfl rfl)
theorem dX21_soils_64 : decode cX21_soils 64 = .ok (.iload 4, 2) := dk_21 4 (dk_at dksX21_soils_2 17 rfl rfl)
theorem dX21_soils_66 : decode cX21_soils 66 = .ok (.isub, 1) := dk_100 (dk_at dksX21_soils_2 19 rfl rfl)
theorem dX21_soils_67 : decode cX21_soils 67 = .ok (.if_icmp .le 6, 3) := dk_164 0 6 (dk_at dksX21_soils_2 20 rfl rfl)
theorem dX21_soils_70 : decode cX21_soils 70 = .ok (.bipush (-12), 2) := dk_16 244 (dk_at dksX21_soils_3 0 rfl rfl)
theorem dX21_soils_72 : decode cX21_soils 72 = .ok (.ireturn, 1) := dk_172 (dk_at dksX21_soils_3 2 rfl rfl)
theorem dX21_soils_73 : decode cX21_soils 73 = .ok (.iconst 0, 1) := dk_3 (dk_at dksX21_soils_3 3 rfl rfl)
theorem dX21_soils_74 : decode cX21_soils 74 = .ok (.istore 6, 2) := dk_54 6 (dk_at dksX21_soils_3 4 rfl rfl)
theorem dX21_soils_76 : decode cX21_soils 76 = .ok (.iload 6, 2) := dk_21 6 (dk_at dksX21_soils_3 6 rfl rfl)
theorem dX21_soils_78 : decode cX21_soils 78 = .ok (.iload 4, 2) := dk_21 4 (dk_at dksX21_soils_3 8 rfl rfl)
theorem dX21_soils_80 : decode cX21_soils 80 = .ok (.if_icmp .ge 62, 3) := dk_162 0 62 (dk_at dksX21_soils_3 10 rfl rfl)
theorem dX21_soils_83 : decode cX21_soils 83 = .ok (.aload_n 0, 1) := dk_42 (dk_at dksX21_soils_3 13 rfl rfl)
theorem dX21_soils_84 : decode cX21_soils 84 = .ok (.getfield 47, 3) := dk_180 0 47 (dk_at dksX21_soils_3 14 rfl rfl)
theorem dX21_soils_87 : decode cX21_soils 87 = .ok (.bipush 40, 2) := dk_16 40 (dk_at dksX21_soils_3 17 rfl rfl)
theorem dX21_soils_89 : decode cX21_soils 89 = .ok (.iload_n 1, 1) := dk_27 (dk_at dksX21_soils_3 19 rfl rfl)
theorem dX21_soils_90 : decode cX21_soils 90 = .ok (.imul, 1) := dk_104 (dk_at dksX21_soils_3 20 rfl rfl)
theorem dX21_soils_91 : decode cX21_soils 91 = .ok (.iload_n 2, 1) := dk_28 (dk_at dksX21_soils_3 21 rfl rfl)
theorem dX21_soils_92 : decode cX21_soils 92 = .ok (.iadd, 1) := dk_96 (dk_at dksX21_soils_3 22 rfl rfl)
theorem dX21_soils_93 : decode cX21_soils 93 = .ok (.iload 6, 2) := dk_21 6 (dk_at dksX21_soils_4 0 rfl rfl)
theorem dX21_soils_95 : decode cX21_soils 95 = .ok (.iadd, 1) := dk_96 (dk_at dksX21_soils_4 2 rfl rfl)
theorem dX21_soils_96 : decode cX21_soils 96 = .ok (.laload, 1) := dk_47 (dk_at dksX21_soils_4 3 rfl rfl)
theorem dX21_soils_97 : decode cX21_soils 97 = .ok (.lstore 7, 2) := dk_55 7 (dk_at dksX21_soils_4 4 rfl rfl)
theorem dX21_soils_99 : decode cX21_soils 99 = .ok (.aload_n 0, 1) := dk_42 (dk_at dksX21_soils_4 6 rfl rfl)
theorem dX21_soils_100 : decode cX21_soils 100 = .ok (.iload_n 3, 1) := dk_29 (dk_at dksX21_soils_4 7 rfl rfl)
theorem dX21_soils_101 : decode cX21_soils 101 = .ok (.iload 6, 2) := dk_21 6 (dk_at dksX21_soils_4 8 rfl rfl)
theorem dX21_soils_103 : decode cX21_soils 103 = .ok (.iadd, 1) := dk_96 (dk_at dksX21_soils_4 10 rfl rfl)
theorem dX21_soils_104 : decode cX21_soils 104 = .ok (.iconst 2, 1) := dk_5 (dk_at dksX21_soils_4 11 rfl rfl)
theorem dX21_soils_105 : decode cX21_soils 105 = .ok (.lload 7, 2) := dk_22 7 (dk_at dksX21_soils_4 12 rfl rfl)
theorem dX21_soils_107 : decode cX21_soils 107 = .ok (.lconst 0, 1) := dk_9 (dk_at dksX21_soils_4 14 rfl rfl)
theorem dX21_soils_108 : decode cX21_soils 108 = .ok (.lcmp, 1) := dk_148 (dk_at dksX21_soils_4 15 rfl rfl)
theorem dX21_soils_109 : decode cX21_soils 109 = .ok (.ifCond .ge 7, 3) := dk_156 0 7 (dk_at dksX21_soils_4 16 rfl rfl)
theorem dX21_soils_112 : decode cX21_soils 112 = .ok (.iconst 0, 1) := dk_3 (dk_at dksX21_soils_4 19 rfl rfl)
theorem dX21_soils_113 : decode cX21_soils 113 = .ok (.goto 20, 3) := dk_167 0 20 (dk_at dksX21_soils_4 20 rfl rfl)
theorem dX21_soils_116 : decode cX21_soils 116 = .ok (.lload 7, 2) := dk_22 7 (dk_at dksX21_soils_5 0 rfl rfl)
theorem dX21_soils_118 : decode cX21_soils 118 = .ok (.ldc2_w 313, 3) := dk_20 1 57 (dk_at dksX21_soils_5 2 rfl rfl)
theorem dX21_soils_121 : decode cX21_soils 121 = .ok (.lcmp, 1) := dk_148 (dk_at dksX21_soils_5 5 rfl rfl)
theorem dX21_soils_122 : decode cX21_soils 122 = .ok (.ifCond .le 8, 3) := dk_158 0 8 (dk_at dksX21_soils_5 6 rfl rfl)
theorem dX21_soils_125 : decode cX21_soils 125 = .ok (.bipush 9, 2) := dk_16 9 (dk_at dksX21_soils_5 9 rfl rfl)
theorem dX21_soils_127 : decode cX21_soils 127 = .ok (.goto 6, 3) := dk_167 0 6 (dk_at dksX21_soils_5 11 rfl rfl)
theorem dX21_soils_130 : decode cX21_soils 130 = .ok (.lload 7, 2) := dk_22 7 (dk_at dksX21_soils_5 14 rfl rfl)
theorem dX21_soils_132 : decode cX21_soils 132 = .ok (.l2i, 1) := dk_136 (dk_at dksX21_soils_5 16 rfl rfl)
theorem dX21_soils_133 : decode cX21_soils 133 = .ok (.invokevirtual 169, 3) := dk_182 0 169 (dk_at dksX21_soils_5 17 rfl rfl)
theorem dX21_soils_136 : decode cX21_soils 136 = .ok (.iinc 6 1, 3) := dk_132 6 1 (dk_at dksX21_soils_5 20 rfl rfl)
theorem dX21_soils_139 : decode cX21_soils 139 = .ok (.goto (-63), 3) := dk_167 255 193 (dk_at dksX21_soils_6 0 rfl rfl)
theorem dX21_soils_142 : decode cX21_soils 142 = .ok (.iload 4, 2) := dk_21 4 (dk_at dksX21_soils_6 3 rfl rfl)
theorem dX21_soils_144 : decode cX21_soils 144 = .ok (.ireturn, 1) := dk_172 (dk_at dksX21_soils_6 5 rfl rfl)
abbrev cX21_isShelf : ByteArray := prog_33_method_81_code
def yX21_isShelf : MethodName := ⟨RX21, "isShelf", "(I)Z"⟩
def dkwX21_isShelf_0 : List UInt8 := [26, 3, 6, 184, 0, 69, 172]
abbrev dktX21_isShelf_0 : List UInt8 := dkwX21_isShelf_0 ++ []
theorem dksX21_isShelf_0 : cX21_isShelf.data.toList.drop 0 = dktX21_isShelf_0 := by decide +kernel
theorem dX21_isShelf_0 : decode cX21_isShelf 0 = .ok (.iload_n 0, 1) := dk_26 (dk_at dksX21_isShelf_0 0 rfl rfl)
theorem dX21_isShelf_1 : decode cX21_isShelf 1 = .ok (.iconst 0, 1) := dk_3 (dk_at dksX21_isShelf_0 1 rfl rfl)
theorem dX21_isShelf_2 : decode cX21_isShelf 2 = .ok (.iconst 3, 1) := dk_6 (dk_at dksX21_isShelf_0 2 rfl rfl)
theorem dX21_isShelf_3 : decode cX21_isShelf 3 = .ok (.invokestatic 69, 3) := dk_184 0 69 (dk_at dksX21_isShelf_0 3 rfl rfl)
theorem dX21_isShelf_6 : decode cX21_isShelf 6 = .ok (.ireturn, 1) := dk_172 (dk_at dksX21_isShelf_0 6 rfl rfl)
abbrev cX21_lacksSort : ByteArray := prog_33_method_84_code
def yX21_lacksSort : MethodName := ⟨RX21, "lacksSort", "(II)I"⟩
def dkwX21_lacksSort_1 : List UInt8 := [16, 243, 167, 0, 4, 3, 172]
abbrev dktX21_lacksSort_1 : List UInt8 := dkwX21_lacksSort_1 ++ []
def dkwX21_lacksSort_0 : List UInt8 := [42, 180, 0, 41, 27, 46, 156, 0, 8, 16, 245, 167, 0, 19, 42, 180, 0, 41, 27, 46, 28, 159, 0, 8]
abbrev dktX21_lacksSort_0 : List UInt8 := dkwX21_lacksSort_0 ++ dktX21_lacksSort_1
theorem dksX21_lacksSort_0 : cX21_lacksSort.data.toList.drop 0 = dktX21_lacksSort_0 := by decide +kernel
theorem dksX21_lacksSort_1 : cX21_lacksSort.data.toList.drop 24 = dktX21_lacksSort_1 := dk_seg dksX21_lacksSort_0 24 rfl rfl
theorem dX21_lacksSort_0 : decode cX21_lacksSort 0 = .ok (.aload_n 0, 1) := dk_42 (dk_at dksX21_lacksSort_0 0 rfl rfl)
theorem dX21_lacksSort_1 : decode cX21_lacksSort 1 = .ok (.getfield 41, 3) := dk_180 0 41 (dk_at dksX21_lacksSort_0 1 rfl rfl)
theorem dX21_lacksSort_4 : decode cX21_lacksSort 4 = .ok (.iload_n 1, 1) := dk_27 (dk_at dksX21_lacksSort_0 4 rfl rfl)
theorem dX21_lacksSort_5 : decode cX21_lacksSort 5 = .ok (.iaload, 1) := dk_46 (dk_at dksX21_lacksSort_0 5 rfl rfl)
theorem dX21_lacksSort_6 : decode cX21_lacksSort 6 = .ok (.ifCond .ge 8, 3) := dk_156 0 8 (dk_at dksX21_lacksSort_0 6 rfl rfl)
theorem dX21_lacksSort_9 : decode cX21_lacksSort 9 = .ok (.bipush (-11), 2) := dk_16 245 (dk_at dksX21_lacksSort_0 9 rfl rfl)
theorem dX21_lacksSort_11 : decode cX21_lacksSort 11 = .ok (.goto 19, 3) := dk_167 0 19 (dk_at dksX21_lacksSort_0 11 rfl rfl)
theorem dX21_lacksSort_14 : decode cX21_lacksSort 14 = .ok (.aload_n 0, 1) := dk_42 (dk_at dksX21_lacksSort_0 14 rfl rfl)
theorem dX21_lacksSort_15 : decode cX21_lacksSort 15 = .ok (.getfield 41, 3) := dk_180 0 41 (dk_at dksX21_lacksSort_0 15 rfl rfl)
theorem dX21_lacksSort_18 : decode cX21_lacksSort 18 = .ok (.iload_n 1, 1) := dk_27 (dk_at dksX21_lacksSort_0 18 rfl rfl)
theorem dX21_lacksSort_19 : decode cX21_lacksSort 19 = .ok (.iaload, 1) := dk_46 (dk_at dksX21_lacksSort_0 19 rfl rfl)
theorem dX21_lacksSort_20 : decode cX21_lacksSort 20 = .ok (.iload_n 2, 1) := dk_28 (dk_at dksX21_lacksSort_0 20 rfl rfl)
theorem dX21_lacksSort_21 : decode cX21_lacksSort 21 = .ok (.if_icmp .eq 8, 3) := dk_159 0 8 (dk_at dksX21_lacksSort_0 21 rfl rfl)
theorem dX21_lacksSort_24 : decode cX21_lacksSort 24 = .ok (.bipush (-13), 2) := dk_16 243 (dk_at dksX21_lacksSort_1 0 rfl rfl)
theorem dX21_lacksSort_26 : decode cX21_lacksSort 26 = .ok (.goto 4, 3) := dk_167 0 4 (dk_at dksX21_lacksSort_1 2 rfl rfl)
theorem dX21_lacksSort_29 : decode cX21_lacksSort 29 = .ok (.iconst 0, 1) := dk_3 (dk_at dksX21_lacksSort_1 5 rfl rfl)
theorem dX21_lacksSort_30 : decode cX21_lacksSort 30 = .ok (.ireturn, 1) := dk_172 (dk_at dksX21_lacksSort_1 6 rfl rfl)
abbrev cX21_sheet : ByteArray := prog_33_method_82_code
def yX21_sheet : MethodName := ⟨RX21, "sheet", "(III)I"⟩
def dkwX21_sheet_3 : List UInt8 := [42, 180, 0, 47, 16, 40, 27, 104, 21, 4, 96, 9, 80, 132, 4, 1, 167, 255, 233, 4, 172]
abbrev dktX21_sheet_3 : List UInt8 := dkwX21_sheet_3 ++ []
def dkwX21_sheet_2 : List UInt8 := [180, 0, 44, 27, 28, 156, 0, 7, 3, 167, 0, 4, 29, 79, 3, 54, 4, 21, 4, 16, 40, 162, 0, 22]
abbrev dktX21_sheet_2 : List UInt8 := dkwX21_sheet_2 ++ dktX21_sheet_3
def dkwX21_sheet_1 : List UInt8 := [164, 0, 5, 2, 172, 28, 155, 0, 10, 29, 156, 0, 6, 16, 242, 172, 42, 180, 0, 41, 27, 28, 79, 42]
abbrev dktX21_sheet_1 : List UInt8 := dkwX21_sheet_1 ++ dktX21_sheet_2
def dkwX21_sheet_0 : List UInt8 := [27, 184, 1, 51, 153, 0, 22, 28, 2, 6, 184, 0, 69, 153, 0, 13, 28, 155, 0, 11, 29, 16, 40]
abbrev dktX21_sheet_0 : List UInt8 := dkwX21_sheet_0 ++ dktX21_sheet_1
theorem dksX21_sheet_0 : cX21_sheet.data.toList.drop 0 = dktX21_sheet_0 := by decide +kernel
theorem dksX21_sheet_1 : cX21_sheet.data.toList.drop 23 = dktX21_sheet_1 := dk_seg dksX21_sheet_0 23 rfl rfl
theorem dksX21_sheet_2 : cX21_sheet.data.toList.drop 47 = dktX21_sheet_2 := dk_seg dksX21_sheet_1 24 rfl rfl
theorem dksX21_sheet_3 : cX21_sheet.data.toList.drop 71 = dktX21_sheet_3 := dk_seg dksX21_sheet_2 24 rfl rfl
theorem dX21_sheet_0 : decode cX21_sheet 0 = .ok (.iload_n 1, 1) := dk_27 (dk_at dksX21_sheet_0 0 rfl rfl)
theorem dX21_sheet_1 : decode cX21_sheet 1 = .ok (.invokestatic 307, 3) := dk_184 1 51 (dk_at dksX21_sheet_0 1 rfl rfl)
theorem dX21_sheet_4 : decode cX21_sheet 4 = .ok (.ifCond .eq 22, 3) := dk_153 0 22 (dk_at dksX21_sheet_0 4 rfl rfl)
theorem dX21_sheet_7 : decode cX21_sheet 7 = .ok (.iload_n 2, 1) := dk_28 (dk_at dksX21_sheet_0 7 rfl rfl)
theorem dX21_sheet_8 : decode cX21_sheet 8 = .ok (.iconst (-1), 1) := dk_2 (dk_at dksX21_sheet_0 8 rfl rfl)
theorem dX21_sheet_9 : decode cX21_sheet 9 = .ok (.iconst 3, 1) := dk_6 (dk_at dksX21_sheet_0 9 rfl rfl)
theorem dX21_sheet_10 : decode cX21_sheet 10 = .ok (.invokestatic 69, 3) := dk_184 0 69 (dk_at dksX21_sheet_0 10 rfl rfl)
theorem dX21_sheet_13 : decode cX21_sheet 13 = .ok (.ifCond .eq 13, 3) := dk_153 0 13 (dk_at dksX21_sheet_0 13 rfl rfl)
theorem dX21_sheet_16 : decode cX21_sheet 16 = .ok (.iload_n 2, 1) := dk_28 (dk_at dksX21_sheet_0 16 rfl rfl)
theorem dX21_sheet_17 : decode cX21_sheet 17 = .ok (.ifCond .lt 11, 3) := dk_155 0 11 (dk_at dksX21_sheet_0 17 rfl rfl)
theorem dX21_sheet_20 : decode cX21_sheet 20 = .ok (.iload_n 3, 1) := dk_29 (dk_at dksX21_sheet_0 20 rfl rfl)
theorem dX21_sheet_21 : decode cX21_sheet 21 = .ok (.bipush 40, 2) := dk_16 40 (dk_at dksX21_sheet_0 21 rfl rfl)
theorem dX21_sheet_23 : decode cX21_sheet 23 = .ok (.if_icmp .le 5, 3) := dk_164 0 5 (dk_at dksX21_sheet_1 0 rfl rfl)
theorem dX21_sheet_26 : decode cX21_sheet 26 = .ok (.iconst (-1), 1) := dk_2 (dk_at dksX21_sheet_1 3 rfl rfl)
theorem dX21_sheet_27 : decode cX21_sheet 27 = .ok (.ireturn, 1) := dk_172 (dk_at dksX21_sheet_1 4 rfl rfl)
theorem dX21_sheet_28 : decode cX21_sheet 28 = .ok (.iload_n 2, 1) := dk_28 (dk_at dksX21_sheet_1 5 rfl rfl)
theorem dX21_sheet_29 : decode cX21_sheet 29 = .ok (.ifCond .lt 10, 3) := dk_155 0 10 (dk_at dksX21_sheet_1 6 rfl rfl)
theorem dX21_sheet_32 : decode cX21_sheet 32 = .ok (.iload_n 3, 1) := dk_29 (dk_at dksX21_sheet_1 9 rfl rfl)
theorem dX21_sheet_33 : decode cX21_sheet 33 = .ok (.ifCond .ge 6, 3) := dk_156 0 6 (dk_at dksX21_sheet_1 10 rfl rfl)
theorem dX21_sheet_36 : decode cX21_sheet 36 = .ok (.bipush (-14), 2) := dk_16 242 (dk_at dksX21_sheet_1 13 rfl rfl)
theorem dX21_sheet_38 : decode cX21_sheet 38 = .ok (.ireturn, 1) := dk_172 (dk_at dksX21_sheet_1 15 rfl rfl)
theorem dX21_sheet_39 : decode cX21_sheet 39 = .ok (.aload_n 0, 1) := dk_42 (dk_at dksX21_sheet_1 16 rfl rfl)
theorem dX21_sheet_40 : decode cX21_sheet 40 = .ok (.getfield 41, 3) := dk_180 0 41 (dk_at dksX21_sheet_1 17 rfl rfl)
theorem dX21_sheet_43 : decode cX21_sheet 43 = .ok (.iload_n 1, 1) := dk_27 (dk_at dksX21_sheet_1 20 rfl rfl)
theorem dX21_sheet_44 : decode cX21_sheet 44 = .ok (.iload_n 2, 1) := dk_28 (dk_at dksX21_sheet_1 21 rfl rfl)
theorem dX21_sheet_45 : decode cX21_sheet 45 = .ok (.iastore, 1) := dk_79 (dk_at dksX21_sheet_1 22 rfl rfl)
theorem dX21_sheet_46 : decode cX21_sheet 46 = .ok (.aload_n 0, 1) := dk_42 (dk_at dksX21_sheet_1 23 rfl rfl)
theorem dX21_sheet_47 : decode cX21_sheet 47 = .ok (.getfield 44, 3) := dk_180 0 44 (dk_at dksX21_sheet_2 0 rfl rfl)
theorem dX21_sheet_50 : decode cX21_sheet 50 = .ok (.iload_n 1, 1) := dk_27 (dk_at dksX21_sheet_2 3 rfl rfl)
theorem dX21_sheet_51 : decode cX21_sheet 51 = .ok (.iload_n 2, 1) := dk_28 (dk_at dksX21_sheet_2 4 rfl rfl)
theorem dX21_sheet_52 : decode cX21_sheet 52 = .ok (.ifCond .ge 7, 3) := dk_156 0 7 (dk_at dksX21_sheet_2 5 rfl rfl)
theorem dX21_sheet_55 : decode cX21_sheet 55 = .ok (.iconst 0, 1) := dk_3 (dk_at dksX21_sheet_2 8 rfl rfl)
theorem dX21_sheet_56 : decode cX21_sheet 56 = .ok (.goto 4, 3) := dk_167 0 4 (dk_at dksX21_sheet_2 9 rfl rfl)
theorem dX21_sheet_59 : decode cX21_sheet 59 = .ok (.iload_n 3, 1) := dk_29 (dk_at dksX21_sheet_2 12 rfl rfl)
theorem dX21_sheet_60 : decode cX21_sheet 60 = .ok (.iastore, 1) := dk_79 (dk_at dksX21_sheet_2 13 rfl rfl)
theorem dX21_sheet_61 : decode cX21_sheet 61 = .ok (.iconst 0, 1) := dk_3 (dk_at dksX21_sheet_2 14 rfl rfl)
theorem dX21_sheet_62 : decode cX21_sheet 62 = .ok (.istore 4, 2) := dk_54 4 (dk_at dksX21_sheet_2 15 rfl rfl)
theorem dX21_sheet_64 : decode cX21_sheet 64 = .ok (.iload 4, 2) := dk_21 4 (dk_at dksX21_sheet_2 17 rfl rfl)
theorem dX21_sheet_66 : decode cX21_sheet 66 = .ok (.bipush 40, 2) := dk_16 40 (dk_at dksX21_sheet_2 19 rfl rfl)
theorem dX21_sheet_68 : decode cX21_sheet 68 = .ok (.if_icmp .ge 22, 3) := dk_162 0 22 (dk_at dksX21_sheet_2 21 rfl rfl)
theorem dX21_sheet_71 : decode cX21_sheet 71 = .ok (.aload_n 0, 1) := dk_42 (dk_at dksX21_sheet_3 0 rfl rfl)
theorem dX21_sheet_72 : decode cX21_sheet 72 = .ok (.getfield 47, 3) := dk_180 0 47 (dk_at dksX21_sheet_3 1 rfl rfl)
theorem dX21_sheet_75 : decode cX21_sheet 75 = .ok (.bipush 40, 2) := dk_16 40 (dk_at dksX21_sheet_3 4 rfl rfl)
theorem dX21_sheet_77 : decode cX21_sheet 77 = .ok (.iload_n 1, 1) := dk_27 (dk_at dksX21_sheet_3 6 rfl rfl)
theorem dX21_sheet_78 : decode cX21_sheet 78 = .ok (.imul, 1) := dk_104 (dk_at dksX21_sheet_3 7 rfl rfl)
theorem dX21_sheet_79 : decode cX21_sheet 79 = .ok (.iload 4, 2) := dk_21 4 (dk_at dksX21_sheet_3 8 rfl rfl)
theorem dX21_sheet_81 : decode cX21_sheet 81 = .ok (.iadd, 1) := dk_96 (dk_at dksX21_sheet_3 10 rfl rfl)
theorem dX21_sheet_82 : decode cX21_sheet 82 = .ok (.lconst 0, 1) := dk_9 (dk_at dksX21_sheet_3 11 rfl rfl)
theorem dX21_sheet_83 : decode cX21_sheet 83 = .ok (.lastore, 1) := dk_80 (dk_at dksX21_sheet_3 12 rfl rfl)
theorem dX21_sheet_84 : decode cX21_sheet 84 = .ok (.iinc 4 1, 3) := dk_132 4 1 (dk_at dksX21_sheet_3 13 rfl rfl)
theorem dX21_sheet_87 : decode cX21_sheet 87 = .ok (.goto (-23), 3) := dk_167 255 233 (dk_at dksX21_sheet_3 16 rfl rfl)
theorem dX21_sheet_90 : decode cX21_sheet 90 = .ok (.iconst 1, 1) := dk_4 (dk_at dksX21_sheet_3 19 rfl rfl)
theorem dX21_sheet_91 : decode cX21_sheet 91 = .ok (.ireturn, 1) := dk_172 (dk_at dksX21_sheet_3 20 rfl rfl)
abbrev cX21_put : ByteArray := prog_33_method_83_code
def yX21_put : MethodName := ⟨RX21, "put", "(III)I"⟩
def dkwX21_put_3 : List UInt8 := [160, 0, 9, 29, 147, 133, 167, 0, 5, 29, 133, 80, 4, 172]
abbrev dktX21_put_3 : List UInt8 := dkwX21_put_3 ++ []
def dkwX21_put_2 : List UInt8 := [28, 96, 42, 180, 0, 41, 27, 46, 154, 0, 9, 29, 145, 133, 167, 0, 21, 42, 180, 0, 41, 27, 46, 4]
abbrev dktX21_put_2 : List UInt8 := dkwX21_put_2 ++ dktX21_put_3
def dkwX21_put_1 : List UInt8 := [180, 0, 44, 27, 46, 4, 100, 184, 0, 69, 154, 0, 6, 16, 244, 172, 42, 180, 0, 47, 16, 40, 27, 104]
abbrev dktX21_put_1 : List UInt8 := dkwX21_put_1 ++ dktX21_put_2
def dkwX21_put_0 : List UInt8 := [27, 184, 1, 51, 154, 0, 5, 2, 172, 42, 180, 0, 41, 27, 46, 156, 0, 6, 16, 245, 172, 28, 3, 42]
abbrev dktX21_put_0 : List UInt8 := dkwX21_put_0 ++ dktX21_put_1
theorem dksX21_put_0 : cX21_put.data.toList.drop 0 = dktX21_put_0 := by decide +kernel
theorem dksX21_put_1 : cX21_put.data.toList.drop 24 = dktX21_put_1 := dk_seg dksX21_put_0 24 rfl rfl
theorem dksX21_put_2 : cX21_put.data.toList.drop 48 = dktX21_put_2 := dk_seg dksX21_put_1 24 rfl rfl
theorem dksX21_put_3 : cX21_put.data.toList.drop 72 = dktX21_put_3 := dk_seg dksX21_put_2 24 rfl rfl
theorem dX21_put_0 : decode cX21_put 0 = .ok (.iload_n 1, 1) := dk_27 (dk_at dksX21_put_0 0 rfl rfl)
theorem dX21_put_1 : decode cX21_put 1 = .ok (.invokestatic 307, 3) := dk_184 1 51 (dk_at dksX21_put_0 1 rfl rfl)
theorem dX21_put_4 : decode cX21_put 4 = .ok (.ifCond .ne 5, 3) := dk_154 0 5 (dk_at dksX21_put_0 4 rfl rfl)
theorem dX21_put_7 : decode cX21_put 7 = .ok (.iconst (-1), 1) := dk_2 (dk_at dksX21_put_0 7 rfl rfl)
theorem dX21_put_8 : decode cX21_put 8 = .ok (.ireturn, 1) := dk_172 (dk_at dksX21_put_0 8 rfl rfl)
theorem dX21_put_9 : decode cX21_put 9 = .ok (.aload_n 0, 1) := dk_42 (dk_at dksX21_put_0 9 rfl rfl)
theorem dX21_put_10 : decode cX21_put 10 = .ok (.getfield 41, 3) := dk_180 0 41 (dk_at dksX21_put_0 10 rfl rfl)
theorem dX21_put_13 : decode cX21_put 13 = .ok (.iload_n 1, 1) := dk_27 (dk_at dksX21_put_0 13 rfl rfl)
theorem dX21_put_14 : decode cX21_put 14 = .ok (.iaload, 1) := dk_46 (dk_at dksX21_put_0 14 rfl rfl)
theorem dX21_put_15 : decode cX21_put 15 = .ok (.ifCond .ge 6, 3) := dk_156 0 6 (dk_at dksX21_put_0 15 rfl rfl)
theorem dX21_put_18 : decode cX21_put 18 = .ok (.bipush (-11), 2) := dk_16 245 (dk_at dksX21_put_0 18 rfl rfl)
theorem dX21_put_20 : decode cX21_put 20 = .ok (.ireturn, 1) := dk_172 (dk_at dksX21_put_0 20 rfl rfl)
theorem dX21_put_21 : decode cX21_put 21 = .ok (.iload_n 2, 1) := dk_28 (dk_at dksX21_put_0 21 rfl rfl)
theorem dX21_put_22 : decode cX21_put 22 = .ok (.iconst 0, 1) := dk_3 (dk_at dksX21_put_0 22 rfl rfl)
theorem dX21_put_23 : decode cX21_put 23 = .ok (.aload_n 0, 1) := dk_42 (dk_at dksX21_put_0 23 rfl rfl)
theorem dX21_put_24 : decode cX21_put 24 = .ok (.getfield 44, 3) := dk_180 0 44 (dk_at dksX21_put_1 0 rfl rfl)
theorem dX21_put_27 : decode cX21_put 27 = .ok (.iload_n 1, 1) := dk_27 (dk_at dksX21_put_1 3 rfl rfl)
theorem dX21_put_28 : decode cX21_put 28 = .ok (.iaload, 1) := dk_46 (dk_at dksX21_put_1 4 rfl rfl)
theorem dX21_put_29 : decode cX21_put 29 = .ok (.iconst 1, 1) := dk_4 (dk_at dksX21_put_1 5 rfl rfl)
theorem dX21_put_30 : decode cX21_put 30 = .ok (.isub, 1) := dk_100 (dk_at dksX21_put_1 6 rfl rfl)
theorem dX21_put_31 : decode cX21_put 31 = .ok (.invokestatic 69, 3) := dk_184 0 69 (dk_at dksX21_put_1 7 rfl rfl)
theorem dX21_put_34 : decode cX21_put 34 = .ok (.ifCond .ne 6, 3) := dk_154 0 6 (dk_at dksX21_put_1 10 rfl rfl)
theorem dX21_put_37 : decode cX21_put 37 = .ok (.bipush (-12), 2) := dk_16 244 (dk_at dksX21_put_1 13 rfl rfl)
theorem dX21_put_39 : decode cX21_put 39 = .ok (.ireturn, 1) := dk_172 (dk_at dksX21_put_1 15 rfl rfl)
theorem dX21_put_40 : decode cX21_put 40 = .ok (.aload_n 0, 1) := dk_42 (dk_at dksX21_put_1 16 rfl rfl)
theorem dX21_put_41 : decode cX21_put 41 = .ok (.getfield 47, 3) := dk_180 0 47 (dk_at dksX21_put_1 17 rfl rfl)
theorem dX21_put_44 : decode cX21_put 44 = .ok (.bipush 40, 2) := dk_16 40 (dk_at dksX21_put_1 20 rfl rfl)
theorem dX21_put_46 : decode cX21_put 46 = .ok (.iload_n 1, 1) := dk_27 (dk_at dksX21_put_1 22 rfl rfl)
theorem dX21_put_47 : decode cX21_put 47 = .ok (.imul, 1) := dk_104 (dk_at dksX21_put_1 23 rfl rfl)
theorem dX21_put_48 : decode cX21_put 48 = .ok (.iload_n 2, 1) := dk_28 (dk_at dksX21_put_2 0 rfl rfl)
theorem dX21_put_49 : decode cX21_put 49 = .ok (.iadd, 1) := dk_96 (dk_at dksX21_put_2 1 rfl rfl)
theorem dX21_put_50 : decode cX21_put 50 = .ok (.aload_n 0, 1) := dk_42 (dk_at dksX21_put_2 2 rfl rfl)
theorem dX21_put_51 : decode cX21_put 51 = .ok (.getfield 41, 3) := dk_180 0 41 (dk_at dksX21_put_2 3 rfl rfl)
theorem dX21_put_54 : decode cX21_put 54 = .ok (.iload_n 1, 1) := dk_27 (dk_at dksX21_put_2 6 rfl rfl)
theorem dX21_put_55 : decode cX21_put 55 = .ok (.iaload, 1) := dk_46 (dk_at dksX21_put_2 7 rfl rfl)
theorem dX21_put_56 : decode cX21_put 56 = .ok (.ifCond .ne 9, 3) := dk_154 0 9 (dk_at dksX21_put_2 8 rfl rfl)
theorem dX21_put_59 : decode cX21_put 59 = .ok (.iload_n 3, 1) := dk_29 (dk_at dksX21_put_2 11 rfl rfl)
theorem dX21_put_60 : decode cX21_put 60 = .ok (.i2b, 1) := dk_145 (dk_at dksX21_put_2 12 rfl rfl)
theorem dX21_put_61 : decode cX21_put 61 = .ok (.i2l, 1) := dk_133 (dk_at dksX21_put_2 13 rfl rfl)
theorem dX21_put_62 : decode cX21_put 62 = .ok (.goto 21, 3) := dk_167 0 21 (dk_at dksX21_put_2 14 rfl rfl)
theorem dX21_put_65 : decode cX21_put 65 = .ok (.aload_n 0, 1) := dk_42 (dk_at dksX21_put_2 17 rfl rfl)
theorem dX21_put_66 : decode cX21_put 66 = .ok (.getfield 41, 3) := dk_180 0 41 (dk_at dksX21_put_2 18 rfl rfl)
theorem dX21_put_69 : decode cX21_put 69 = .ok (.iload_n 1, 1) := dk_27 (dk_at dksX21_put_2 21 rfl rfl)
theorem dX21_put_70 : decode cX21_put 70 = .ok (.iaload, 1) := dk_46 (dk_at dksX21_put_2 22 rfl rfl)
theorem dX21_put_71 : decode cX21_put 71 = .ok (.iconst 1, 1) := dk_4 (dk_at dksX21_put_2 23 rfl rfl)
theorem dX21_put_72 : decode cX21_put 72 = .ok (.if_icmp .ne 9, 3) := dk_160 0 9 (dk_at dksX21_put_3 0 rfl rfl)
theorem dX21_put_75 : decode cX21_put 75 = .ok (.iload_n 3, 1) := dk_29 (dk_at dksX21_put_3 3 rfl rfl)
theorem dX21_put_76 : decode cX21_put 76 = .ok (.i2s, 1) := dk_147 (dk_at dksX21_put_3 4 rfl rfl)
theorem dX21_put_77 : decode cX21_put 77 = .ok (.i2l, 1) := dk_133 (dk_at dksX21_put_3 5 rfl rfl)
theorem dX21_put_78 : decode cX21_put 78 = .ok (.goto 5, 3) := dk_167 0 5 (dk_at dksX21_put_3 6 rfl rfl)
theorem dX21_put_81 : decode cX21_put 81 = .ok (.iload_n 3, 1) := dk_29 (dk_at dksX21_put_3 9 rfl rfl)
theorem dX21_put_82 : decode cX21_put 82 = .ok (.i2l, 1) := dk_133 (dk_at dksX21_put_3 10 rfl rfl)
theorem dX21_put_83 : decode cX21_put 83 = .ok (.lastore, 1) := dk_80 (dk_at dksX21_put_3 11 rfl rfl)
theorem dX21_put_84 : decode cX21_put 84 = .ok (.iconst 1, 1) := dk_4 (dk_at dksX21_put_3 12 rfl rfl)
theorem dX21_put_85 : decode cX21_put 85 = .ok (.ireturn, 1) := dk_172 (dk_at dksX21_put_3 13 rfl rfl)
abbrev cX21_item : ByteArray := prog_33_method_85_code
def yX21_item : MethodName := ⟨RX21, "item", "(III)I"⟩
def dkwX21_item_2 : List UInt8 := [153, 0, 18, 42, 180, 0, 47, 16, 40, 27, 104, 29, 96, 47, 136, 167, 0, 5, 16, 244, 172]
abbrev dktX21_item_2 : List UInt8 := dkwX21_item_2 ++ []
def dkwX21_item_1 : List UInt8 := [54, 4, 21, 4, 153, 0, 6, 21, 4, 172, 29, 3, 42, 180, 0, 44, 27, 46, 4, 100, 184, 0, 69]
abbrev dktX21_item_1 : List UInt8 := dkwX21_item_1 ++ dktX21_item_2
def dkwX21_item_0 : List UInt8 := [27, 184, 1, 51, 153, 0, 12, 28, 3, 6, 184, 0, 69, 154, 0, 5, 2, 172, 42, 27, 28, 182, 1, 54]
abbrev dktX21_item_0 : List UInt8 := dkwX21_item_0 ++ dktX21_item_1
theorem dksX21_item_0 : cX21_item.data.toList.drop 0 = dktX21_item_0 := by decide +kernel
theorem dksX21_item_1 : cX21_item.data.toList.drop 24 = dktX21_item_1 := dk_seg dksX21_item_0 24 rfl rfl
theorem dksX21_item_2 : cX21_item.data.toList.drop 47 = dktX21_item_2 := dk_seg dksX21_item_1 23 rfl rfl
theorem dX21_item_0 : decode cX21_item 0 = .ok (.iload_n 1, 1) := dk_27 (dk_at dksX21_item_0 0 rfl rfl)
theorem dX21_item_1 : decode cX21_item 1 = .ok (.invokestatic 307, 3) := dk_184 1 51 (dk_at dksX21_item_0 1 rfl rfl)
theorem dX21_item_4 : decode cX21_item 4 = .ok (.ifCond .eq 12, 3) := dk_153 0 12 (dk_at dksX21_item_0 4 rfl rfl)
theorem dX21_item_7 : decode cX21_item 7 = .ok (.iload_n 2, 1) := dk_28 (dk_at dksX21_item_0 7 rfl rfl)
theorem dX21_item_8 : decode cX21_item 8 = .ok (.iconst 0, 1) := dk_3 (dk_at dksX21_item_0 8 rfl rfl)
theorem dX21_item_9 : decode cX21_item 9 = .ok (.iconst 3, 1) := dk_6 (dk_at dksX21_item_0 9 rfl rfl)
theorem dX21_item_10 : decode cX21_item 10 = .ok (.invokestatic 69, 3) := dk_184 0 69 (dk_at dksX21_item_0 10 rfl rfl)
theorem dX21_item_13 : decode cX21_item 13 = .ok (.ifCond .ne 5, 3) := dk_154 0 5 (dk_at dksX21_item_0 13 rfl rfl)
theorem dX21_item_16 : decode cX21_item 16 = .ok (.iconst (-1), 1) := dk_2 (dk_at dksX21_item_0 16 rfl rfl)
theorem dX21_item_17 : decode cX21_item 17 = .ok (.ireturn, 1) := dk_172 (dk_at dksX21_item_0 17 rfl rfl)
theorem dX21_item_18 : decode cX21_item 18 = .ok (.aload_n 0, 1) := dk_42 (dk_at dksX21_item_0 18 rfl rfl)
theorem dX21_item_19 : decode cX21_item 19 = .ok (.iload_n 1, 1) := dk_27 (dk_at dksX21_item_0 19 rfl rfl)
theorem dX21_item_20 : decode cX21_item 20 = .ok (.iload_n 2, 1) := dk_28 (dk_at dksX21_item_0 20 rfl rfl)
theorem dX21_item_21 : decode cX21_item 21 = .ok (.invokevirtual 310, 3) := dk_182 1 54 (dk_at dksX21_item_0 21 rfl rfl)
theorem dX21_item_24 : decode cX21_item 24 = .ok (.istore 4, 2) := dk_54 4 (dk_at dksX21_item_1 0 rfl rfl)
theorem dX21_item_26 : decode cX21_item 26 = .ok (.iload 4, 2) := dk_21 4 (dk_at dksX21_item_1 2 rfl rfl)
theorem dX21_item_28 : decode cX21_item 28 = .ok (.ifCond .eq 6, 3) := dk_153 0 6 (dk_at dksX21_item_1 4 rfl rfl)
theorem dX21_item_31 : decode cX21_item 31 = .ok (.iload 4, 2) := dk_21 4 (dk_at dksX21_item_1 7 rfl rfl)
theorem dX21_item_33 : decode cX21_item 33 = .ok (.ireturn, 1) := dk_172 (dk_at dksX21_item_1 9 rfl rfl)
theorem dX21_item_34 : decode cX21_item 34 = .ok (.iload_n 3, 1) := dk_29 (dk_at dksX21_item_1 10 rfl rfl)
theorem dX21_item_35 : decode cX21_item 35 = .ok (.iconst 0, 1) := dk_3 (dk_at dksX21_item_1 11 rfl rfl)
theorem dX21_item_36 : decode cX21_item 36 = .ok (.aload_n 0, 1) := dk_42 (dk_at dksX21_item_1 12 rfl rfl)
theorem dX21_item_37 : decode cX21_item 37 = .ok (.getfield 44, 3) := dk_180 0 44 (dk_at dksX21_item_1 13 rfl rfl)
theorem dX21_item_40 : decode cX21_item 40 = .ok (.iload_n 1, 1) := dk_27 (dk_at dksX21_item_1 16 rfl rfl)
theorem dX21_item_41 : decode cX21_item 41 = .ok (.iaload, 1) := dk_46 (dk_at dksX21_item_1 17 rfl rfl)
theorem dX21_item_42 : decode cX21_item 42 = .ok (.iconst 1, 1) := dk_4 (dk_at dksX21_item_1 18 rfl rfl)
theorem dX21_item_43 : decode cX21_item 43 = .ok (.isub, 1) := dk_100 (dk_at dksX21_item_1 19 rfl rfl)
theorem dX21_item_44 : decode cX21_item 44 = .ok (.invokestatic 69, 3) := dk_184 0 69 (dk_at dksX21_item_1 20 rfl rfl)
theorem dX21_item_47 : decode cX21_item 47 = .ok (.ifCond .eq 18, 3) := dk_153 0 18 (dk_at dksX21_item_2 0 rfl rfl)
theorem dX21_item_50 : decode cX21_item 50 = .ok (.aload_n 0, 1) := dk_42 (dk_at dksX21_item_2 3 rfl rfl)
theorem dX21_item_51 : decode cX21_item 51 = .ok (.getfield 47, 3) := dk_180 0 47 (dk_at dksX21_item_2 4 rfl rfl)
theorem dX21_item_54 : decode cX21_item 54 = .ok (.bipush 40, 2) := dk_16 40 (dk_at dksX21_item_2 7 rfl rfl)
theorem dX21_item_56 : decode cX21_item 56 = .ok (.iload_n 1, 1) := dk_27 (dk_at dksX21_item_2 9 rfl rfl)
theorem dX21_item_57 : decode cX21_item 57 = .ok (.imul, 1) := dk_104 (dk_at dksX21_item_2 10 rfl rfl)
theorem dX21_item_58 : decode cX21_item 58 = .ok (.iload_n 3, 1) := dk_29 (dk_at dksX21_item_2 11 rfl rfl)
theorem dX21_item_59 : decode cX21_item 59 = .ok (.iadd, 1) := dk_96 (dk_at dksX21_item_2 12 rfl rfl)
theorem dX21_item_60 : decode cX21_item 60 = .ok (.laload, 1) := dk_47 (dk_at dksX21_item_2 13 rfl rfl)
theorem dX21_item_61 : decode cX21_item 61 = .ok (.l2i, 1) := dk_136 (dk_at dksX21_item_2 14 rfl rfl)
theorem dX21_item_62 : decode cX21_item 62 = .ok (.goto 5, 3) := dk_167 0 5 (dk_at dksX21_item_2 15 rfl rfl)
theorem dX21_item_65 : decode cX21_item 65 = .ok (.bipush (-12), 2) := dk_16 244 (dk_at dksX21_item_2 18 rfl rfl)
theorem dX21_item_67 : decode cX21_item 67 = .ok (.ireturn, 1) := dk_172 (dk_at dksX21_item_2 20 rfl rfl)
abbrev cX21_shelf : ByteArray := prog_33_method_87_code
def yX21_shelf : MethodName := ⟨RX21, "shelf", "(III)I"⟩
def dkwX21_shelf_3 : List UInt8 := [180, 0, 57, 27, 28, 4, 160, 0, 12, 42, 180, 0, 44, 29, 46, 167, 0, 4, 3, 79, 4, 172]
abbrev dktX21_shelf_3 : List UInt8 := dkwX21_shelf_3 ++ []
def dkwX21_shelf_2 : List UInt8 := [42, 180, 0, 54, 27, 28, 4, 160, 0, 12, 42, 180, 0, 41, 29, 46, 167, 0, 4, 29, 79, 42]
abbrev dktX21_shelf_2 : List UInt8 := dkwX21_shelf_2 ++ dktX21_shelf_3
def dkwX21_shelf_1 : List UInt8 := [5, 159, 0, 17, 28, 4, 160, 0, 16, 42, 180, 0, 41, 29, 46, 156, 0, 7, 2, 167, 0, 4, 28, 79]
abbrev dktX21_shelf_1 : List UInt8 := dkwX21_shelf_1 ++ dktX21_shelf_2
def dkwX21_shelf_0 : List UInt8 := [27, 184, 1, 51, 153, 0, 12, 42, 28, 29, 182, 1, 59, 154, 0, 5, 2, 172, 42, 180, 0, 51, 27, 28]
abbrev dktX21_shelf_0 : List UInt8 := dkwX21_shelf_0 ++ dktX21_shelf_1
theorem dksX21_shelf_0 : cX21_shelf.data.toList.drop 0 = dktX21_shelf_0 := by decide +kernel
theorem dksX21_shelf_1 : cX21_shelf.data.toList.drop 24 = dktX21_shelf_1 := dk_seg dksX21_shelf_0 24 rfl rfl
theorem dksX21_shelf_2 : cX21_shelf.data.toList.drop 48 = dktX21_shelf_2 := dk_seg dksX21_shelf_1 24 rfl rfl
theorem dksX21_shelf_3 : cX21_shelf.data.toList.drop 70 = dktX21_shelf_3 := dk_seg dksX21_shelf_2 22 rfl rfl
theorem dX21_shelf_0 : decode cX21_shelf 0 = .ok (.iload_n 1, 1) := dk_27 (dk_at dksX21_shelf_0 0 rfl rfl)
theorem dX21_shelf_1 : decode cX21_shelf 1 = .ok (.invokestatic 307, 3) := dk_184 1 51 (dk_at dksX21_shelf_0 1 rfl rfl)
theorem dX21_shelf_4 : decode cX21_shelf 4 = .ok (.ifCond .eq 12, 3) := dk_153 0 12 (dk_at dksX21_shelf_0 4 rfl rfl)
theorem dX21_shelf_7 : decode cX21_shelf 7 = .ok (.aload_n 0, 1) := dk_42 (dk_at dksX21_shelf_0 7 rfl rfl)
theorem dX21_shelf_8 : decode cX21_shelf 8 = .ok (.iload_n 2, 1) := dk_28 (dk_at dksX21_shelf_0 8 rfl rfl)
theorem dX21_shelf_9 : decode cX21_shelf 9 = .ok (.iload_n 3, 1) := dk_29 (dk_at dksX21_shelf_0 9 rfl rfl)
theorem dX21_shelf_10 : decode cX21_shelf 10 = .ok (.invokevirtual 315, 3) := dk_182 1 59 (dk_at dksX21_shelf_0 10 rfl rfl)
theorem dX21_shelf_13 : decode cX21_shelf 13 = .ok (.ifCond .ne 5, 3) := dk_154 0 5 (dk_at dksX21_shelf_0 13 rfl rfl)
theorem dX21_shelf_16 : decode cX21_shelf 16 = .ok (.iconst (-1), 1) := dk_2 (dk_at dksX21_shelf_0 16 rfl rfl)
theorem dX21_shelf_17 : decode cX21_shelf 17 = .ok (.ireturn, 1) := dk_172 (dk_at dksX21_shelf_0 17 rfl rfl)
theorem dX21_shelf_18 : decode cX21_shelf 18 = .ok (.aload_n 0, 1) := dk_42 (dk_at dksX21_shelf_0 18 rfl rfl)
theorem dX21_shelf_19 : decode cX21_shelf 19 = .ok (.getfield 51, 3) := dk_180 0 51 (dk_at dksX21_shelf_0 19 rfl rfl)
theorem dX21_shelf_22 : decode cX21_shelf 22 = .ok (.iload_n 1, 1) := dk_27 (dk_at dksX21_shelf_0 22 rfl rfl)
theorem dX21_shelf_23 : decode cX21_shelf 23 = .ok (.iload_n 2, 1) := dk_28 (dk_at dksX21_shelf_0 23 rfl rfl)
theorem dX21_shelf_24 : decode cX21_shelf 24 = .ok (.iconst 2, 1) := dk_5 (dk_at dksX21_shelf_1 0 rfl rfl)
theorem dX21_shelf_25 : decode cX21_shelf 25 = .ok (.if_icmp .eq 17, 3) := dk_159 0 17 (dk_at dksX21_shelf_1 1 rfl rfl)
theorem dX21_shelf_28 : decode cX21_shelf 28 = .ok (.iload_n 2, 1) := dk_28 (dk_at dksX21_shelf_1 4 rfl rfl)
theorem dX21_shelf_29 : decode cX21_shelf 29 = .ok (.iconst 1, 1) := dk_4 (dk_at dksX21_shelf_1 5 rfl rfl)
theorem dX21_shelf_30 : decode cX21_shelf 30 = .ok (.if_icmp .ne 16, 3) := dk_160 0 16 (dk_at dksX21_shelf_1 6 rfl rfl)
theorem dX21_shelf_33 : decode cX21_shelf 33 = .ok (.aload_n 0, 1) := dk_42 (dk_at dksX21_shelf_1 9 rfl rfl)
theorem dX21_shelf_34 : decode cX21_shelf 34 = .ok (.getfield 41, 3) := dk_180 0 41 (dk_at dksX21_shelf_1 10 rfl rfl)
theorem dX21_shelf_37 : decode cX21_shelf 37 = .ok (.iload_n 3, 1) := dk_29 (dk_at dksX21_shelf_1 13 rfl rfl)
theorem dX21_shelf_38 : decode cX21_shelf 38 = .ok (.iaload, 1) := dk_46 (dk_at dksX21_shelf_1 14 rfl rfl)
theorem dX21_shelf_39 : decode cX21_shelf 39 = .ok (.ifCond .ge 7, 3) := dk_156 0 7 (dk_at dksX21_shelf_1 15 rfl rfl)
theorem dX21_shelf_42 : decode cX21_shelf 42 = .ok (.iconst (-1), 1) := dk_2 (dk_at dksX21_shelf_1 18 rfl rfl)
theorem dX21_shelf_43 : decode cX21_shelf 43 = .ok (.goto 4, 3) := dk_167 0 4 (dk_at dksX21_shelf_1 19 rfl rfl)
theorem dX21_shelf_46 : decode cX21_shelf 46 = .ok (.iload_n 2, 1) := dk_28 (dk_at dksX21_shelf_1 22 rfl rfl)
theorem dX21_shelf_47 : decode cX21_shelf 47 = .ok (.iastore, 1) := dk_79 (dk_at dksX21_shelf_1 23 rfl rfl)
theorem dX21_shelf_48 : decode cX21_shelf 48 = .ok (.aload_n 0, 1) := dk_42 (dk_at dksX21_shelf_2 0 rfl rfl)
theorem dX21_shelf_49 : decode cX21_shelf 49 = .ok (.getfield 54, 3) := dk_180 0 54 (dk_at dksX21_shelf_2 1 rfl rfl)
theorem dX21_shelf_52 : decode cX21_shelf 52 = .ok (.iload_n 1, 1) := dk_27 (dk_at dksX21_shelf_2 4 rfl rfl)
theorem dX21_shelf_53 : decode cX21_shelf 53 = .ok (.iload_n 2, 1) := dk_28 (dk_at dksX21_shelf_2 5 rfl rfl)
theorem dX21_shelf_54 : decode cX21_shelf 54 = .ok (.iconst 1, 1) := dk_4 (dk_at dksX21_shelf_2 6 rfl rfl)
theorem dX21_shelf_55 : decode cX21_shelf 55 = .ok (.if_icmp .ne 12, 3) := dk_160 0 12 (dk_at dksX21_shelf_2 7 rfl rfl)
theorem dX21_shelf_58 : decode cX21_shelf 58 = .ok (.aload_n 0, 1) := dk_42 (dk_at dksX21_shelf_2 10 rfl rfl)
theorem dX21_shelf_59 : decode cX21_shelf 59 = .ok (.getfield 41, 3) := dk_180 0 41 (dk_at dksX21_shelf_2 11 rfl rfl)
theorem dX21_shelf_62 : decode cX21_shelf 62 = .ok (.iload_n 3, 1) := dk_29 (dk_at dksX21_shelf_2 14 rfl rfl)
theorem dX21_shelf_63 : decode cX21_shelf 63 = .ok (.iaload, 1) := dk_46 (dk_at dksX21_shelf_2 15 rfl rfl)
theorem dX21_shelf_64 : decode cX21_shelf 64 = .ok (.goto 4, 3) := dk_167 0 4 (dk_at dksX21_shelf_2 16 rfl rfl)
theorem dX21_shelf_67 : decode cX21_shelf 67 = .ok (.iload_n 3, 1) := dk_29 (dk_at dksX21_shelf_2 19 rfl rfl)
theorem dX21_shelf_68 : decode cX21_shelf 68 = .ok (.iastore, 1) := dk_79 (dk_at dksX21_shelf_2 20 rfl rfl)
theorem dX21_shelf_69 : decode cX21_shelf 69 = .ok (.aload_n 0, 1) := dk_42 (dk_at dksX21_shelf_2 21 rfl rfl)
theorem dX21_shelf_70 : decode cX21_shelf 70 = .ok (.getfield 57, 3) := dk_180 0 57 (dk_at dksX21_shelf_3 0 rfl rfl)
theorem dX21_shelf_73 : decode cX21_shelf 73 = .ok (.iload_n 1, 1) := dk_27 (dk_at dksX21_shelf_3 3 rfl rfl)
theorem dX21_shelf_74 : decode cX21_shelf 74 = .ok (.iload_n 2, 1) := dk_28 (dk_at dksX21_shelf_3 4 rfl rfl)
theorem dX21_shelf_75 : decode cX21_shelf 75 = .ok (.iconst 1, 1) := dk_4 (dk_at dksX21_shelf_3 5 rfl rfl)
theorem dX21_shelf_76 : decode cX21_shelf 76 = .ok (.if_icmp .ne 12, 3) := dk_160 0 12 (dk_at dksX21_shelf_3 6 rfl rfl)
theorem dX21_shelf_79 : decode cX21_shelf 79 = .ok (.aload_n 0, 1) := dk_42 (dk_at dksX21_shelf_3 9 rfl rfl)
theorem dX21_shelf_80 : decode cX21_shelf 80 = .ok (.getfield 44, 3) := dk_180 0 44 (dk_at dksX21_shelf_3 10 rfl rfl)
theorem dX21_shelf_83 : decode cX21_shelf 83 = .ok (.iload_n 3, 1) := dk_29 (dk_at dksX21_shelf_3 13 rfl rfl)
theorem dX21_shelf_84 : decode cX21_shelf 84 = .ok (.iaload, 1) := dk_46 (dk_at dksX21_shelf_3 14 rfl rfl)
theorem dX21_shelf_85 : decode cX21_shelf 85 = .ok (.goto 4, 3) := dk_167 0 4 (dk_at dksX21_shelf_3 15 rfl rfl)
theorem dX21_shelf_88 : decode cX21_shelf 88 = .ok (.iconst 0, 1) := dk_3 (dk_at dksX21_shelf_3 18 rfl rfl)
theorem dX21_shelf_89 : decode cX21_shelf 89 = .ok (.iastore, 1) := dk_79 (dk_at dksX21_shelf_3 19 rfl rfl)
theorem dX21_shelf_90 : decode cX21_shelf 90 = .ok (.iconst 1, 1) := dk_4 (dk_at dksX21_shelf_3 20 rfl rfl)
theorem dX21_shelf_91 : decode cX21_shelf 91 = .ok (.ireturn, 1) := dk_172 (dk_at dksX21_shelf_3 21 rfl rfl)
abbrev cX21_isHeld : ByteArray := prog_33_method_86_code
def yX21_isHeld : MethodName := ⟨RX21, "isHeld", "(II)Z"⟩
def dkwX21_isHeld_1 : List UInt8 := [27, 5, 160, 0, 7, 4, 167, 0, 4, 3, 172]
abbrev dktX21_isHeld_1 : List UInt8 := dkwX21_isHeld_1 ++ []
def dkwX21_isHeld_0 : List UInt8 := [27, 154, 0, 11, 42, 28, 182, 0, 254, 167, 0, 25, 27, 4, 160, 0, 10, 28, 184, 1, 51, 167, 0, 13]
abbrev dktX21_isHeld_0 : List UInt8 := dkwX21_isHeld_0 ++ dktX21_isHeld_1
theorem dksX21_isHeld_0 : cX21_isHeld.data.toList.drop 0 = dktX21_isHeld_0 := by decide +kernel
theorem dksX21_isHeld_1 : cX21_isHeld.data.toList.drop 24 = dktX21_isHeld_1 := dk_seg dksX21_isHeld_0 24 rfl rfl
theorem dX21_isHeld_0 : decode cX21_isHeld 0 = .ok (.iload_n 1, 1) := dk_27 (dk_at dksX21_isHeld_0 0 rfl rfl)
theorem dX21_isHeld_1 : decode cX21_isHeld 1 = .ok (.ifCond .ne 11, 3) := dk_154 0 11 (dk_at dksX21_isHeld_0 1 rfl rfl)
theorem dX21_isHeld_4 : decode cX21_isHeld 4 = .ok (.aload_n 0, 1) := dk_42 (dk_at dksX21_isHeld_0 4 rfl rfl)
theorem dX21_isHeld_5 : decode cX21_isHeld 5 = .ok (.iload_n 2, 1) := dk_28 (dk_at dksX21_isHeld_0 5 rfl rfl)
theorem dX21_isHeld_6 : decode cX21_isHeld 6 = .ok (.invokevirtual 254, 3) := dk_182 0 254 (dk_at dksX21_isHeld_0 6 rfl rfl)
theorem dX21_isHeld_9 : decode cX21_isHeld 9 = .ok (.goto 25, 3) := dk_167 0 25 (dk_at dksX21_isHeld_0 9 rfl rfl)
theorem dX21_isHeld_12 : decode cX21_isHeld 12 = .ok (.iload_n 1, 1) := dk_27 (dk_at dksX21_isHeld_0 12 rfl rfl)
theorem dX21_isHeld_13 : decode cX21_isHeld 13 = .ok (.iconst 1, 1) := dk_4 (dk_at dksX21_isHeld_0 13 rfl rfl)
theorem dX21_isHeld_14 : decode cX21_isHeld 14 = .ok (.if_icmp .ne 10, 3) := dk_160 0 10 (dk_at dksX21_isHeld_0 14 rfl rfl)
theorem dX21_isHeld_17 : decode cX21_isHeld 17 = .ok (.iload_n 2, 1) := dk_28 (dk_at dksX21_isHeld_0 17 rfl rfl)
theorem dX21_isHeld_18 : decode cX21_isHeld 18 = .ok (.invokestatic 307, 3) := dk_184 1 51 (dk_at dksX21_isHeld_0 18 rfl rfl)
theorem dX21_isHeld_21 : decode cX21_isHeld 21 = .ok (.goto 13, 3) := dk_167 0 13 (dk_at dksX21_isHeld_0 21 rfl rfl)
theorem dX21_isHeld_24 : decode cX21_isHeld 24 = .ok (.iload_n 1, 1) := dk_27 (dk_at dksX21_isHeld_1 0 rfl rfl)
theorem dX21_isHeld_25 : decode cX21_isHeld 25 = .ok (.iconst 2, 1) := dk_5 (dk_at dksX21_isHeld_1 1 rfl rfl)
theorem dX21_isHeld_26 : decode cX21_isHeld 26 = .ok (.if_icmp .ne 7, 3) := dk_160 0 7 (dk_at dksX21_isHeld_1 2 rfl rfl)
theorem dX21_isHeld_29 : decode cX21_isHeld 29 = .ok (.iconst 1, 1) := dk_4 (dk_at dksX21_isHeld_1 5 rfl rfl)
theorem dX21_isHeld_30 : decode cX21_isHeld 30 = .ok (.goto 4, 3) := dk_167 0 4 (dk_at dksX21_isHeld_1 6 rfl rfl)
theorem dX21_isHeld_33 : decode cX21_isHeld 33 = .ok (.iconst 0, 1) := dk_3 (dk_at dksX21_isHeld_1 9 rfl rfl)
theorem dX21_isHeld_34 : decode cX21_isHeld 34 = .ok (.ireturn, 1) := dk_172 (dk_at dksX21_isHeld_1 10 rfl rfl)
abbrev cX21_taken : ByteArray := prog_33_method_90_code
def yX21_taken : MethodName := ⟨RX21, "taken", "(II)I"⟩
def dkwX21_taken_4 : List UInt8 := [16, 243, 172]
abbrev dktX21_taken_4 : List UInt8 := dkwX21_taken_4 ++ []
def dkwX21_taken_3 : List UInt8 := [172, 28, 16, 10, 162, 0, 20, 29, 28, 184, 1, 65, 153, 0, 12, 42, 180, 0, 54, 27, 46, 167, 0, 5]
abbrev dktX21_taken_3 : List UInt8 := dkwX21_taken_3 ++ dktX21_taken_4
def dkwX21_taken_2 : List UInt8 := [28, 16, 10, 42, 180, 0, 54, 27, 46, 96, 160, 0, 12, 42, 180, 0, 57, 27, 46, 167, 0, 5, 16, 243]
abbrev dktX21_taken_2 : List UInt8 := dkwX21_taken_2 ++ dktX21_taken_3
def dkwX21_taken_1 : List UInt8 := [154, 0, 5, 2, 172, 42, 27, 182, 1, 62, 62, 29, 156, 0, 6, 16, 245, 172, 29, 16, 9, 160, 0, 28]
abbrev dktX21_taken_1 : List UInt8 := dkwX21_taken_1 ++ dktX21_taken_2
def dkwX21_taken_0 : List UInt8 := [27, 184, 1, 51, 153, 0, 23, 28, 3, 8, 184, 0, 69, 154, 0, 16, 28, 16, 10, 16, 13, 184, 0, 69]
abbrev dktX21_taken_0 : List UInt8 := dkwX21_taken_0 ++ dktX21_taken_1
theorem dksX21_taken_0 : cX21_taken.data.toList.drop 0 = dktX21_taken_0 := by decide +kernel
theorem dksX21_taken_1 : cX21_taken.data.toList.drop 24 = dktX21_taken_1 := dk_seg dksX21_taken_0 24 rfl rfl
theorem dksX21_taken_2 : cX21_taken.data.toList.drop 48 = dktX21_taken_2 := dk_seg dksX21_taken_1 24 rfl rfl
theorem dksX21_taken_3 : cX21_taken.data.toList.drop 72 = dktX21_taken_3 := dk_seg dksX21_taken_2 24 rfl rfl
theorem dksX21_taken_4 : cX21_taken.data.toList.drop 96 = dktX21_taken_4 := dk_seg dksX21_taken_3 24 rfl rfl
theorem dX21_taken_0 : decode cX21_taken 0 = .ok (.iload_n 1, 1) := dk_27 (dk_at dksX21_taken_0 0 rfl rfl)
theorem dX21_taken_1 : decode cX21_taken 1 = .ok (.invokestatic 307, 3) := dk_184 1 51 (dk_at dksX21_taken_0 1 rfl rfl)
theorem dX21_taken_4 : decode cX21_taken 4 = .ok (.ifCond .eq 23, 3) := dk_153 0 23 (dk_at dksX21_taken_0 4 rfl rfl)
theorem dX21_taken_7 : decode cX21_taken 7 = .ok (.iload_n 2, 1) := dk_28 (dk_at dksX21_taken_0 7 rfl rfl)
theorem dX21_taken_8 : decode cX21_taken 8 = .ok (.iconst 0, 1) := dk_3 (dk_at dksX21_taken_0 8 rfl rfl)
theorem dX21_taken_9 : decode cX21_taken 9 = .ok (.iconst 5, 1) := dk_8 (dk_at dksX21_taken_0 9 rfl rfl)
theorem dX21_taken_10 : decode cX21_taken 10 = .ok (.invokestatic 69, 3) := dk_184 0 69 (dk_at dksX21_taken_0 10 rfl rfl)
theorem dX21_taken_13 : decode cX21_taken 13 = .ok (.ifCond .ne 16, 3) := dk_154 0 16 (dk_at dksX21_taken_0 13 rfl rfl)
theorem dX21_taken_16 : decode cX21_taken 16 = .ok (.iload_n 2, 1) := dk_28 (dk_at dksX21_taken_0 16 rfl rfl)
theorem dX21_taken_17 : decode cX21_taken 17 = .ok (.bipush 10, 2) := dk_16 10 (dk_at dksX21_taken_0 17 rfl rfl)
theorem dX21_taken_19 : decode cX21_taken 19 = .ok (.bipush 13, 2) := dk_16 13 (dk_at dksX21_taken_0 19 rfl rfl)
theorem dX21_taken_21 : decode cX21_taken 21 = .ok (.invokestatic 69, 3) := dk_184 0 69 (dk_at dksX21_taken_0 21 rfl rfl)
theorem dX21_taken_24 : decode cX21_taken 24 = .ok (.ifCond .ne 5, 3) := dk_154 0 5 (dk_at dksX21_taken_1 0 rfl rfl)
theorem dX21_taken_27 : decode cX21_taken 27 = .ok (.iconst (-1), 1) := dk_2 (dk_at dksX21_taken_1 3 rfl rfl)
theorem dX21_taken_28 : decode cX21_taken 28 = .ok (.ireturn, 1) := dk_172 (dk_at dksX21_taken_1 4 rfl rfl)
theorem dX21_taken_29 : decode cX21_taken 29 = .ok (.aload_n 0, 1) := dk_42 (dk_at dksX21_taken_1 5 rfl rfl)
theorem dX21_taken_30 : decode cX21_taken 30 = .ok (.iload_n 1, 1) := dk_27 (dk_at dksX21_taken_1 6 rfl rfl)
theorem dX21_taken_31 : decode cX21_taken 31 = .ok (.invokevirtual 318, 3) := dk_182 1 62 (dk_at dksX21_taken_1 7 rfl rfl)
theorem dX21_taken_34 : decode cX21_taken 34 = .ok (.istore_n 3, 1) := dk_62 (dk_at dksX21_taken_1 10 rfl rfl)
theorem dX21_taken_35 : decode cX21_taken 35 = .ok (.iload_n 3, 1) := dk_29 (dk_at dksX21_taken_1 11 rfl rfl)
theorem dX21_taken_36 : decode cX21_taken 36 = .ok (.ifCond .ge 6, 3) := dk_156 0 6 (dk_at dksX21_taken_1 12 rfl rfl)
theorem dX21_taken_39 : decode cX21_taken 39 = .ok (.bipush (-11), 2) := dk_16 245 (dk_at dksX21_taken_1 15 rfl rfl)
theorem dX21_taken_41 : decode cX21_taken 41 = .ok (.ireturn, 1) := dk_172 (dk_at dksX21_taken_1 17 rfl rfl)
theorem dX21_taken_42 : decode cX21_taken 42 = .ok (.iload_n 3, 1) := dk_29 (dk_at dksX21_taken_1 18 rfl rfl)
theorem dX21_taken_43 : decode cX21_taken 43 = .ok (.bipush 9, 2) := dk_16 9 (dk_at dksX21_taken_1 19 rfl rfl)
theorem dX21_taken_45 : decode cX21_taken 45 = .ok (.if_icmp .ne 28, 3) := dk_160 0 28 (dk_at dksX21_taken_1 21 rfl rfl)
theorem dX21_taken_48 : decode cX21_taken 48 = .ok (.iload_n 2, 1) := dk_28 (dk_at dksX21_taken_2 0 rfl rfl)
theorem dX21_taken_49 : decode cX21_taken 49 = .ok (.bipush 10, 2) := dk_16 10 (dk_at dksX21_taken_2 1 rfl rfl)
theorem dX21_taken_51 : decode cX21_taken 51 = .ok (.aload_n 0, 1) := dk_42 (dk_at dksX21_taken_2 3 rfl rfl)
theorem dX21_taken_52 : decode cX21_taken 52 = .ok (.getfield 54, 3) := dk_180 0 54 (dk_at dksX21_taken_2 4 rfl rfl)
theorem dX21_taken_55 : decode cX21_taken 55 = .ok (.iload_n 1, 1) := dk_27 (dk_at dksX21_taken_2 7 rfl rfl)
theorem dX21_taken_56 : decode cX21_taken 56 = .ok (.iaload, 1) := dk_46 (dk_at dksX21_taken_2 8 rfl rfl)
theorem dX21_taken_57 : decode cX21_taken 57 = .ok (.iadd, 1) := dk_96 (dk_at dksX21_taken_2 9 rfl rfl)
theorem dX21_taken_58 : decode cX21_taken 58 = .ok (.if_icmp .ne 12, 3) := dk_160 0 12 (dk_at dksX21_taken_2 10 rfl rfl)
theorem dX21_taken_61 : decode cX21_taken 61 = .ok (.aload_n 0, 1) := dk_42 (dk_at dksX21_taken_2 13 rfl rfl)
theorem dX21_taken_62 : decode cX21_taken 62 = .ok (.getfield 57, 3) := dk_180 0 57 (dk_at dksX21_taken_2 14 rfl rfl)
theorem dX21_taken_65 : decode cX21_taken 65 = .ok (.iload_n 1, 1) := dk_27 (dk_at dksX21_taken_2 17 rfl rfl)
theorem dX21_taken_66 : decode cX21_taken 66 = .ok (.iaload, 1) := dk_46 (dk_at dksX21_taken_2 18 rfl rfl)
theorem dX21_taken_67 : decode cX21_taken 67 = .ok (.goto 5, 3) := dk_167 0 5 (dk_at dksX21_taken_2 19 rfl rfl)
theorem dX21_taken_70 : decode cX21_taken 70 = .ok (.bipush (-13), 2) := dk_16 243 (dk_at dksX21_taken_2 22 rfl rfl)
theorem dX21_taken_72 : decode cX21_taken 72 = .ok (.ireturn, 1) := dk_172 (dk_at dksX21_taken_3 0 rfl rfl)
theorem dX21_taken_73 : decode cX21_taken 73 = .ok (.iload_n 2, 1) := dk_28 (dk_at dksX21_taken_3 1 rfl rfl)
theorem dX21_taken_74 : decode cX21_taken 74 = .ok (.bipush 10, 2) := dk_16 10 (dk_at dksX21_taken_3 2 rfl rfl)
theorem dX21_taken_76 : decode cX21_taken 76 = .ok (.if_icmp .ge 20, 3) := dk_162 0 20 (dk_at dksX21_taken_3 4 rfl rfl)
theorem dX21_taken_79 : decode cX21_taken 79 = .ok (.iload_n 3, 1) := dk_29 (dk_at dksX21_taken_3 7 rfl rfl)
theorem dX21_taken_80 : decode cX21_taken 80 = .ok (.iload_n 2, 1) := dk_28 (dk_at dksX21_taken_3 8 rfl rfl)
theorem dX21_taken_81 : decode cX21_taken 81 = .ok (.invokestatic 321, 3) := dk_184 1 65 (dk_at dksX21_taken_3 9 rfl rfl)
theorem dX21_taken_84 : decode cX21_taken 84 = .ok (.ifCond .eq 12, 3) := dk_153 0 12 (dk_at dksX21_taken_3 12 rfl rfl)
theorem dX21_taken_87 : decode cX21_taken 87 = .ok (.aload_n 0, 1) := dk_42 (dk_at dksX21_taken_3 15 rfl rfl)
theorem dX21_taken_88 : decode cX21_taken 88 = .ok (.getfield 54, 3) := dk_180 0 54 (dk_at dksX21_taken_3 16 rfl rfl)
theorem dX21_taken_91 : decode cX21_taken 91 = .ok (.iload_n 1, 1) := dk_27 (dk_at dksX21_taken_3 19 rfl rfl)
theorem dX21_taken_92 : decode cX21_taken 92 = .ok (.iaload, 1) := dk_46 (dk_at dksX21_taken_3 20 rfl rfl)
theorem dX21_taken_93 : decode cX21_taken 93 = .ok (.goto 5, 3) := dk_167 0 5 (dk_at dksX21_taken_3 21 rfl rfl)
theorem dX21_taken_96 : decode cX21_taken 96 = .ok (.bipush (-13), 2) := dk_16 243 (dk_at dksX21_taken_4 0 rfl rfl)
theorem dX21_taken_98 : decode cX21_taken 98 = .ok (.ireturn, 1) := dk_172 (dk_at dksX21_taken_4 2 rfl rfl)
abbrev cX21_kindOn : ByteArray := prog_33_method_88_code
def yX21_kindOn : MethodName := ⟨RX21, "kindOn", "(I)I"⟩
def dkwX21_kindOn_2 : List UInt8 := [46, 104, 46, 167, 0, 4, 2, 172]
abbrev dktX21_kindOn_2 : List UInt8 := dkwX21_kindOn_2 ++ []
def dkwX21_kindOn_1 : List UInt8 := [172, 42, 42, 180, 0, 54, 27, 46, 182, 0, 254, 153, 0, 19, 42, 180, 0, 22, 5, 42, 180, 0, 54, 27]
abbrev dktX21_kindOn_1 : List UInt8 := dkwX21_kindOn_1 ++ dktX21_kindOn_2
def dkwX21_kindOn_0 : List UInt8 := [42, 180, 0, 51, 27, 46, 153, 0, 19, 42, 180, 0, 51, 27, 46, 156, 0, 7, 2, 167, 0, 5, 16, 9]
abbrev dktX21_kindOn_0 : List UInt8 := dkwX21_kindOn_0 ++ dktX21_kindOn_1
theorem dksX21_kindOn_0 : cX21_kindOn.data.toList.drop 0 = dktX21_kindOn_0 := by decide +kernel
theorem dksX21_kindOn_1 : cX21_kindOn.data.toList.drop 24 = dktX21_kindOn_1 := dk_seg dksX21_kindOn_0 24 rfl rfl
theorem dksX21_kindOn_2 : cX21_kindOn.data.toList.drop 48 = dktX21_kindOn_2 := dk_seg dksX21_kindOn_1 24 rfl rfl
theorem dX21_kindOn_0 : decode cX21_kindOn 0 = .ok (.aload_n 0, 1) := dk_42 (dk_at dksX21_kindOn_0 0 rfl rfl)
theorem dX21_kindOn_1 : decode cX21_kindOn 1 = .ok (.getfield 51, 3) := dk_180 0 51 (dk_at dksX21_kindOn_0 1 rfl rfl)
theorem dX21_kindOn_4 : decode cX21_kindOn 4 = .ok (.iload_n 1, 1) := dk_27 (dk_at dksX21_kindOn_0 4 rfl rfl)
theorem dX21_kindOn_5 : decode cX21_kindOn 5 = .ok (.iaload, 1) := dk_46 (dk_at dksX21_kindOn_0 5 rfl rfl)
theorem dX21_kindOn_6 : decode cX21_kindOn 6 = .ok (.ifCond .eq 19, 3) := dk_153 0 19 (dk_at dksX21_kindOn_0 6 rfl rfl)
theorem dX21_kindOn_9 : decode cX21_kindOn 9 = .ok (.aload_n 0, 1) := dk_42 (dk_at dksX21_kindOn_0 9 rfl rfl)
theorem dX21_kindOn_10 : decode cX21_kindOn 10 = .ok (.getfield 51, 3) := dk_180 0 51 (dk_at dksX21_kindOn_0 10 rfl rfl)
theorem dX21_kindOn_13 : decode cX21_kindOn 13 = .ok (.iload_n 1, 1) := dk_27 (dk_at dksX21_kindOn_0 13 rfl rfl)
theorem dX21_kindOn_14 : decode cX21_kindOn 14 = .ok (.iaload, 1) := dk_46 (dk_at dksX21_kindOn_0 14 rfl rfl)
theorem dX21_kindOn_15 : decode cX21_kindOn 15 = .ok (.ifCond .ge 7, 3) := dk_156 0 7 (dk_at dksX21_kindOn_0 15 rfl rfl)
theorem dX21_kindOn_18 : decode cX21_kindOn 18 = .ok (.iconst (-1), 1) := dk_2 (dk_at dksX21_kindOn_0 18 rfl rfl)
theorem dX21_kindOn_19 : decode cX21_kindOn 19 = .ok (.goto 5, 3) := dk_167 0 5 (dk_at dksX21_kindOn_0 19 rfl rfl)
theorem dX21_kindOn_22 : decode cX21_kindOn 22 = .ok (.bipush 9, 2) := dk_16 9 (dk_at dksX21_kindOn_0 22 rfl rfl)
theorem dX21_kindOn_24 : decode cX21_kindOn 24 = .ok (.ireturn, 1) := dk_172 (dk_at dksX21_kindOn_1 0 rfl rfl)
theorem dX21_kindOn_25 : decode cX21_kindOn 25 = .ok (.aload_n 0, 1) := dk_42 (dk_at dksX21_kindOn_1 1 rfl rfl)
theorem dX21_kindOn_26 : decode cX21_kindOn 26 = .ok (.aload_n 0, 1) := dk_42 (dk_at dksX21_kindOn_1 2 rfl rfl)
theorem dX21_kindOn_27 : decode cX21_kindOn 27 = .ok (.getfield 54, 3) := dk_180 0 54 (dk_at dksX21_kindOn_1 3 rfl rfl)
theorem dX21_kindOn_30 : decode cX21_kindOn 30 = .ok (.iload_n 1, 1) := dk_27 (dk_at dksX21_kindOn_1 6 rfl rfl)
theorem dX21_kindOn_31 : decode cX21_kindOn 31 = .ok (.iaload, 1) := dk_46 (dk_at dksX21_kindOn_1 7 rfl rfl)
theorem dX21_kindOn_32 : decode cX21_kindOn 32 = .ok (.invokevirtual 254, 3) := dk_182 0 254 (dk_at dksX21_kindOn_1 8 rfl rfl)
theorem dX21_kindOn_35 : decode cX21_kindOn 35 = .ok (.ifCond .eq 19, 3) := dk_153 0 19 (dk_at dksX21_kindOn_1 11 rfl rfl)
theorem dX21_kindOn_38 : decode cX21_kindOn 38 = .ok (.aload_n 0, 1) := dk_42 (dk_at dksX21_kindOn_1 14 rfl rfl)
theorem dX21_kindOn_39 : decode cX21_kindOn 39 = .ok (.getfield 22, 3) := dk_180 0 22 (dk_at dksX21_kindOn_1 15 rfl rfl)
theorem dX21_kindOn_42 : decode cX21_kindOn 42 = .ok (.iconst 2, 1) := dk_5 (dk_at dksX21_kindOn_1 18 rfl rfl)
theorem dX21_kindOn_43 : decode cX21_kindOn 43 = .ok (.aload_n 0, 1) := dk_42 (dk_at dksX21_kindOn_1 19 rfl rfl)
theorem dX21_kindOn_44 : decode cX21_kindOn 44 = .ok (.getfield 54, 3) := dk_180 0 54 (dk_at dksX21_kindOn_1 20 rfl rfl)
theorem dX21_kindOn_47 : decode cX21_kindOn 47 = .ok (.iload_n 1, 1) := dk_27 (dk_at dksX21_kindOn_1 23 rfl rfl)
theorem dX21_kindOn_48 : decode cX21_kindOn 48 = .ok (.iaload, 1) := dk_46 (dk_at dksX21_kindOn_2 0 rfl rfl)
theorem dX21_kindOn_49 : decode cX21_kindOn 49 = .ok (.imul, 1) := dk_104 (dk_at dksX21_kindOn_2 1 rfl rfl)
theorem dX21_kindOn_50 : decode cX21_kindOn 50 = .ok (.iaload, 1) := dk_46 (dk_at dksX21_kindOn_2 2 rfl rfl)
theorem dX21_kindOn_51 : decode cX21_kindOn 51 = .ok (.goto 4, 3) := dk_167 0 4 (dk_at dksX21_kindOn_2 3 rfl rfl)
theorem dX21_kindOn_54 : decode cX21_kindOn 54 = .ok (.iconst (-1), 1) := dk_2 (dk_at dksX21_kindOn_2 6 rfl rfl)
theorem dX21_kindOn_55 : decode cX21_kindOn 55 = .ok (.ireturn, 1) := dk_172 (dk_at dksX21_kindOn_2 7 rfl rfl)
abbrev cX21_isUnder : ByteArray := prog_33_method_89_code
def yX21_isUnder : MethodName := ⟨RX21, "isUnder", "(II)Z"⟩
def dkwX21_isUnder_1 : List UInt8 := [26, 6, 159, 0, 8, 26, 8, 160, 0, 7, 4, 167, 0, 4, 3, 172]
abbrev dktX21_isUnder_1 : List UInt8 := dkwX21_isUnder_1 ++ []
def dkwX21_isUnder_0 : List UInt8 := [27, 153, 0, 33, 27, 26, 159, 0, 28, 27, 4, 160, 0, 8, 26, 7, 159, 0, 18, 27, 5, 160, 0, 17]
abbrev dktX21_isUnder_0 : List UInt8 := dkwX21_isUnder_0 ++ dktX21_isUnder_1
theorem dksX21_isUnder_0 : cX21_isUnder.data.toList.drop 0 = dktX21_isUnder_0 := by decide +kernel
theorem dksX21_isUnder_1 : cX21_isUnder.data.toList.drop 24 = dktX21_isUnder_1 := dk_seg dksX21_isUnder_0 24 rfl rfl
theorem dX21_isUnder_0 : decode cX21_isUnder 0 = .ok (.iload_n 1, 1) := dk_27 (dk_at dksX21_isUnder_0 0 rfl rfl)
theorem dX21_isUnder_1 : decode cX21_isUnder 1 = .ok (.ifCond .eq 33, 3) := dk_153 0 33 (dk_at dksX21_isUnder_0 1 rfl rfl)
theorem dX21_isUnder_4 : decode cX21_isUnder 4 = .ok (.iload_n 1, 1) := dk_27 (dk_at dksX21_isUnder_0 4 rfl rfl)
theorem dX21_isUnder_5 : decode cX21_isUnder 5 = .ok (.iload_n 0, 1) := dk_26 (dk_at dksX21_isUnder_0 5 rfl rfl)
theorem dX21_isUnder_6 : decode cX21_isUnder 6 = .ok (.if_icmp .eq 28, 3) := dk_159 0 28 (dk_at dksX21_isUnder_0 6 rfl rfl)
theorem dX21_isUnder_9 : decode cX21_isUnder 9 = .ok (.iload_n 1, 1) := dk_27 (dk_at dksX21_isUnder_0 9 rfl rfl)
theorem dX21_isUnder_10 : decode cX21_isUnder 10 = .ok (.iconst 1, 1) := dk_4 (dk_at dksX21_isUnder_0 10 rfl rfl)
theorem dX21_isUnder_11 : decode cX21_isUnder 11 = .ok (.if_icmp .ne 8, 3) := dk_160 0 8 (dk_at dksX21_isUnder_0 11 rfl rfl)
theorem dX21_isUnder_14 : decode cX21_isUnder 14 = .ok (.iload_n 0, 1) := dk_26 (dk_at dksX21_isUnder_0 14 rfl rfl)
theorem dX21_isUnder_15 : decode cX21_isUnder 15 = .ok (.iconst 4, 1) := dk_7 (dk_at dksX21_isUnder_0 15 rfl rfl)
theorem dX21_isUnder_16 : decode cX21_isUnder 16 = .ok (.if_icmp .eq 18, 3) := dk_159 0 18 (dk_at dksX21_isUnder_0 16 rfl rfl)
theorem dX21_isUnder_19 : decode cX21_isUnder 19 = .ok (.iload_n 1, 1) := dk_27 (dk_at dksX21_isUnder_0 19 rfl rfl)
theorem dX21_isUnder_20 : decode cX21_isUnder 20 = .ok (.iconst 2, 1) := dk_5 (dk_at dksX21_isUnder_0 20 rfl rfl)
theorem dX21_isUnder_21 : decode cX21_isUnder 21 = .ok (.if_icmp .ne 17, 3) := dk_160 0 17 (dk_at dksX21_isUnder_0 21 rfl rfl)
theorem dX21_isUnder_24 : decode cX21_isUnder 24 = .ok (.iload_n 0, 1) := dk_26 (dk_at dksX21_isUnder_1 0 rfl rfl)
theorem dX21_isUnder_25 : decode cX21_isUnder 25 = .ok (.iconst 3, 1) := dk_6 (dk_at dksX21_isUnder_1 1 rfl rfl)
theorem dX21_isUnder_26 : decode cX21_isUnder 26 = .ok (.if_icmp .eq 8, 3) := dk_159 0 8 (dk_at dksX21_isUnder_1 2 rfl rfl)
theorem dX21_isUnder_29 : decode cX21_isUnder 29 = .ok (.iload_n 0, 1) := dk_26 (dk_at dksX21_isUnder_1 5 rfl rfl)
theorem dX21_isUnder_30 : decode cX21_isUnder 30 = .ok (.iconst 5, 1) := dk_8 (dk_at dksX21_isUnder_1 6 rfl rfl)
theorem dX21_isUnder_31 : decode cX21_isUnder 31 = .ok (.if_icmp .ne 7, 3) := dk_160 0 7 (dk_at dksX21_isUnder_1 7 rfl rfl)
theorem dX21_isUnder_34 : decode cX21_isUnder 34 = .ok (.iconst 1, 1) := dk_4 (dk_at dksX21_isUnder_1 10 rfl rfl)
theorem dX21_isUnder_35 : decode cX21_isUnder 35 = .ok (.goto 4, 3) := dk_167 0 4 (dk_at dksX21_isUnder_1 11 rfl rfl)
theorem dX21_isUnder_38 : decode cX21_isUnder 38 = .ok (.iconst 0, 1) := dk_3 (dk_at dksX21_isUnder_1 14 rfl rfl)
theorem dX21_isUnder_39 : decode cX21_isUnder 39 = .ok (.ireturn, 1) := dk_172 (dk_at dksX21_isUnder_1 15 rfl rfl)
abbrev cX21_act : ByteArray := prog_33_method_103_code
def yX21_act : MethodName := ⟨RX21, "act", "(III)I"⟩
def dkwX21_act_6 : List UInt8 := [172]
abbrev dktX21_act_6 : List UInt8 := dkwX21_act_6 ++ []
def dkwX21_act_5 : List UInt8 := [167, 0, 8, 42, 29, 182, 1, 116, 54, 5, 42, 180, 1, 98, 153, 0, 8, 16, 241, 167, 0, 5, 21, 5]
abbrev dktX21_act_5 : List UInt8 := dkwX21_act_5 ++ dktX21_act_6
def dkwX21_act_4 : List UInt8 := [4, 160, 0, 11, 42, 29, 182, 1, 104, 167, 0, 21, 28, 5, 160, 0, 11, 42, 29, 182, 1, 110]
abbrev dktX21_act_4 : List UInt8 := dkwX21_act_4 ++ dktX21_act_5
def dkwX21_act_3 : List UInt8 := [4, 96, 46, 181, 1, 92, 42, 3, 181, 1, 98, 28, 154, 0, 11, 42, 29, 182, 1, 86, 167, 0, 34, 28]
abbrev dktX21_act_3 : List UInt8 := dkwX21_act_3 ++ dktX21_act_4
def dkwX21_act_2 : List UInt8 := [181, 1, 80, 42, 42, 180, 0, 54, 27, 46, 181, 1, 74, 42, 42, 180, 0, 22, 5, 42, 180, 1, 74, 104]
abbrev dktX21_act_2 : List UInt8 := dkwX21_act_2 ++ dktX21_act_3
def dkwX21_act_1 : List UInt8 := [3, 6, 184, 0, 69, 153, 0, 13, 21, 4, 4, 8, 184, 0, 69, 154, 0, 5, 3, 172, 42, 21, 4]
abbrev dktX21_act_1 : List UInt8 := dkwX21_act_1 ++ dktX21_act_2
def dkwX21_act_0 : List UInt8 := [42, 3, 181, 1, 68, 27, 184, 1, 51, 153, 0, 11, 42, 27, 182, 1, 62, 167, 0, 4, 2, 54, 4, 28]
abbrev dktX21_act_0 : List UInt8 := dkwX21_act_0 ++ dktX21_act_1
theorem dksX21_act_0 : cX21_act.data.toList.drop 0 = dktX21_act_0 := by decide +kernel
theorem dksX21_act_1 : cX21_act.data.toList.drop 24 = dktX21_act_1 := dk_seg dksX21_act_0 24 rfl rfl
theorem dksX21_act_2 : cX21_act.data.toList.drop 47 = dktX21_act_2 := dk_seg dksX21_act_1 23 rfl rfl
theorem dksX21_act_3 : cX21_act.data.toList.drop 71 = dktX21_act_3 := dk_seg dksX21_act_2 24 rfl rfl
theorem dksX21_act_4 : cX21_act.data.toList.drop 95 = dktX21_act_4 := dk_seg dksX21_act_3 24 rfl rfl
theorem dksX21_act_5 : cX21_act.data.toList.drop 117 = dktX21_act_5 := dk_seg dksX21_act_4 22 rfl rfl
theorem dksX21_act_6 : cX21_act.data.toList.drop 141 = dktX21_act_6 := dk_seg dksX21_act_5 24 rfl rfl
theorem dX21_act_0 : decode cX21_act 0 = .ok (.aload_n 0, 1) := dk_42 (dk_at dksX21_act_0 0 rfl rfl)
theorem dX21_act_1 : decode cX21_act 1 = .ok (.iconst 0, 1) := dk_3 (dk_at dksX21_act_0 1 rfl rfl)
theorem dX21_act_2 : decode cX21_act 2 = .ok (.putfield 324, 3) := dk_181 1 68 (dk_at dksX21_act_0 2 rfl rfl)
theorem dX21_act_5 : decode cX21_act 5 = .ok (.iload_n 1, 1) := dk_27 (dk_at dksX21_act_0 5 rfl rfl)
theorem dX21_act_6 : decode cX21_act 6 = .ok (.invokestatic 307, 3) := dk_184 1 51 (dk_at dksX21_act_0 6 rfl rfl)
theorem dX21_act_9 : decode cX21_act 9 = .ok (.ifCond .eq 11, 3) := dk_153 0 11 (dk_at dksX21_act_0 9 rfl rfl)
theorem dX21_act_12 : decode cX21_act 12 = .ok (.aload_n 0, 1) := dk_42 (dk_at dksX21_act_0 12 rfl rfl)
theorem dX21_act_13 : decode cX21_act 13 = .ok (.iload_n 1, 1) := dk_27 (dk_at dksX21_act_0 13 rfl rfl)
theorem dX21_act_14 : decode cX21_act 14 = .ok (.invokevirtual 318, 3) := dk_182 1 62 (dk_at dksX21_act_0 14 rfl rfl)
theorem dX21_act_17 : decode cX21_act 17 = .ok (.goto 4, 3) := dk_167 0 4 (dk_at dksX21_act_0 17 rfl rfl)
theorem dX21_act_20 : decode cX21_act 20 = .ok (.iconst (-1), 1) := dk_2 (dk_at dksX21_act_0 20 rfl rfl)
theorem dX21_act_21 : decode cX21_act 21 = .ok (.istore 4, 2) := dk_54 4 (dk_at dksX21_act_0 21 rfl rfl)
theorem dX21_act_23 : decode cX21_act 23 = .ok (.iload_n 2, 1) := dk_28 (dk_at dksX21_act_0 23 rfl rfl)
theorem dX21_act_24 : decode cX21_act 24 = .ok (.iconst 0, 1) := dk_3 (dk_at dksX21_act_1 0 rfl rfl)
theorem dX21_act_25 : decode cX21_act 25 = .ok (.iconst 3, 1) := dk_6 (dk_at dksX21_act_1 1 rfl rfl)
theorem dX21_act_26 : decode cX21_act 26 = .ok (.invokestatic 69, 3) := dk_184 0 69 (dk_at dksX21_act_1 2 rfl rfl)
theorem dX21_act_29 : decode cX21_act 29 = .ok (.ifCond .eq 13, 3) := dk_153 0 13 (dk_at dksX21_act_1 5 rfl rfl)
theorem dX21_act_32 : decode cX21_act 32 = .ok (.iload 4, 2) := dk_21 4 (dk_at dksX21_act_1 8 rfl rfl)
theorem dX21_act_34 : decode cX21_act 34 = .ok (.iconst 1, 1) := dk_4 (dk_at dksX21_act_1 10 rfl rfl)
theorem dX21_act_35 : decode cX21_act 35 = .ok (.iconst 5, 1) := dk_8 (dk_at dksX21_act_1 11 rfl rfl)
theorem dX21_act_36 : decode cX21_act 36 = .ok (.invokestatic 69, 3) := dk_184 0 69 (dk_at dksX21_act_1 12 rfl rfl)
theorem dX21_act_39 : decode cX21_act 39 = .ok (.ifCond .ne 5, 3) := dk_154 0 5 (dk_at dksX21_act_1 15 rfl rfl)
theorem dX21_act_42 : decode cX21_act 42 = .ok (.iconst 0, 1) := dk_3 (dk_at dksX21_act_1 18 rfl rfl)
theorem dX21_act_43 : decode cX21_act 43 = .ok (.ireturn, 1) := dk_172 (dk_at dksX21_act_1 19 rfl rfl)
theorem dX21_act_44 : decode cX21_act 44 = .ok (.aload_n 0, 1) := dk_42 (dk_at dksX21_act_1 20 rfl rfl)
theorem dX21_act_45 : decode cX21_act 45 = .ok (.iload 4, 2) := dk_21 4 (dk_at dksX21_act_1 21 rfl rfl)
theorem dX21_act_47 : decode cX21_act 47 = .ok (.putfield 336, 3) := dk_181 1 80 (dk_at dksX21_act_2 0 rfl rfl)
theorem dX21_act_50 : decode cX21_act 50 = .ok (.aload_n 0, 1) := dk_42 (dk_at dksX21_act_2 3 rfl rfl)
theorem dX21_act_51 : decode cX21_act 51 = .ok (.aload_n 0, 1) := dk_42 (dk_at dksX21_act_2 4 rfl rfl)
theorem dX21_act_52 : decode cX21_act 52 = .ok (.getfield 54, 3) := dk_180 0 54 (dk_at dksX21_act_2 5 rfl rfl)
theorem dX21_act_55 : decode cX21_act 55 = .ok (.iload_n 1, 1) := dk_27 (dk_at dksX21_act_2 8 rfl rfl)
theorem dX21_act_56 : decode cX21_act 56 = .ok (.iaload, 1) := dk_46 (dk_at dksX21_act_2 9 rfl rfl)
theorem dX21_act_57 : decode cX21_act 57 = .ok (.putfield 330, 3) := dk_181 1 74 (dk_at dksX21_act_2 10 rfl rfl)
theorem dX21_act_60 : decode cX21_act 60 = .ok (.aload_n 0, 1) := dk_42 (dk_at dksX21_act_2 13 rfl rfl)
theorem dX21_act_61 : decode cX21_act 61 = .ok (.aload_n 0, 1) := dk_42 (dk_at dksX21_act_2 14 rfl rfl)
theorem dX21_act_62 : decode cX21_act 62 = .ok (.getfield 22, 3) := dk_180 0 22 (dk_at dksX21_act_2 15 rfl rfl)
theorem dX21_act_65 : decode cX21_act 65 = .ok (.iconst 2, 1) := dk_5 (dk_at dksX21_act_2 18 rfl rfl)
theorem dX21_act_66 : decode cX21_act 66 = .ok (.aload_n 0, 1) := dk_42 (dk_at dksX21_act_2 19 rfl rfl)
theorem dX21_act_67 : decode cX21_act 67 = .ok (.getfield 330, 3) := dk_180 1 74 (dk_at dksX21_act_2 20 rfl rfl)
theorem dX21_act_70 : decode cX21_act 70 = .ok (.imul, 1) := dk_104 (dk_at dksX21_act_2 23 rfl rfl)
theorem dX21_act_71 : decode cX21_act 71 = .ok (.iconst 1, 1) := dk_4 (dk_at dksX21_act_3 0 rfl rfl)
theorem dX21_act_72 : decode cX21_act 72 = .ok (.iadd, 1) := dk_96 (dk_at dksX21_act_3 1 rfl rfl)
theorem dX21_act_73 : decode cX21_act 73 = .ok (.iaload, 1) := dk_46 (dk_at dksX21_act_3 2 rfl rfl)
theorem dX21_act_74 : decode cX21_act 74 = .ok (.putfield 348, 3) := dk_181 1 92 (dk_at dksX21_act_3 3 rfl rfl)
theorem dX21_act_77 : decode cX21_act 77 = .ok (.aload_n 0, 1) := dk_42 (dk_at dksX21_act_3 6 rfl rfl)
theorem dX21_act_78 : decode cX21_act 78 = .ok (.iconst 0, 1) := dk_3 (dk_at dksX21_act_3 7 rfl rfl)
theorem dX21_act_79 : decode cX21_act 79 = .ok (.putfield 354, 3) := dk_181 1 98 (dk_at dksX21_act_3 8 rfl rfl)
theorem dX21_act_82 : decode cX21_act 82 = .ok (.iload_n 2, 1) := dk_28 (dk_at dksX21_act_3 11 rfl rfl)
theorem dX21_act_83 : decode cX21_act 83 = .ok (.ifCond .ne 11, 3) := dk_154 0 11 (dk_at dksX21_act_3 12 rfl rfl)
theorem dX21_act_86 : decode cX21_act 86 = .ok (.aload_n 0, 1) := dk_42 (dk_at dksX21_act_3 15 rfl rfl)
theorem dX21_act_87 : decode cX21_act 87 = .ok (.iload_n 3, 1) := dk_29 (dk_at dksX21_act_3 16 rfl rfl)
theorem dX21_act_88 : decode cX21_act 88 = .ok (.invokevirtual 342, 3) := dk_182 1 86 (dk_at dksX21_act_3 17 rfl rfl)
theorem dX21_act_91 : decode cX21_act 91 = .ok (.goto 34, 3) := dk_167 0 34 (dk_at dksX21_act_3 20 rfl rfl)
theorem dX21_act_94 : decode cX21_act 94 = .ok (.iload_n 2, 1) := dk_28 (dk_at dksX21_act_3 23 rfl rfl)
theorem dX21_act_95 : decode cX21_act 95 = .ok (.iconst 1, 1) := dk_4 (dk_at dksX21_act_4 0 rfl rfl)
theorem dX21_act_96 : decode cX21_act 96 = .ok (.if_icmp .ne 11, 3) := dk_160 0 11 (dk_at dksX21_act_4 1 rfl rfl)
theorem dX21_act_99 : decode cX21_act 99 = .ok (.aload_n 0, 1) := dk_42 (dk_at dksX21_act_4 4 rfl rfl)
theorem dX21_act_100 : decode cX21_act 100 = .ok (.iload_n 3, 1) := dk_29 (dk_at dksX21_act_4 5 rfl rfl)
theorem dX21_act_101 : decode cX21_act 101 = .ok (.invokevirtual 360, 3) := dk_182 1 104 (dk_at dksX21_act_4 6 rfl rfl)
theorem dX21_act_104 : decode cX21_act 104 = .ok (.goto 21, 3) := dk_167 0 21 (dk_at dksX21_act_4 9 rfl rfl)
theorem dX21_act_107 : decode cX21_act 107 = .ok (.iload_n 2, 1) := dk_28 (dk_at dksX21_act_4 12 rfl rfl)
theorem dX21_act_108 : decode cX21_act 108 = .ok (.iconst 2, 1) := dk_5 (dk_at dksX21_act_4 13 rfl rfl)
theorem dX21_act_109 : decode cX21_act 109 = .ok (.if_icmp .ne 11, 3) := dk_160 0 11 (dk_at dksX21_act_4 14 rfl rfl)
theorem dX21_act_112 : decode cX21_act 112 = .ok (.aload_n 0, 1) := dk_42 (dk_at dksX21_act_4 17 rfl rfl)
theorem dX21_act_113 : decode cX21_act 113 = .ok (.iload_n 3, 1) := dk_29 (dk_at dksX21_act_4 18 rfl rfl)
theorem dX21_act_114 : decode cX21_act 114 = .ok (.invokevirtual 366, 3) := dk_182 1 110 (dk_at dksX21_act_4 19 rfl rfl)
theorem dX21_act_117 : decode cX21_act 117 = .ok (.goto 8, 3) := dk_167 0 8 (dk_at dksX21_act_5 0 rfl rfl)
theorem dX21_act_120 : decode cX21_act 120 = .ok (.aload_n 0, 1) := dk_42 (dk_at dksX21_act_5 3 rfl rfl)
theorem dX21_act_121 : decode cX21_act 121 = .ok (.iload_n 3, 1) := dk_29 (dk_at dksX21_act_5 4 rfl rfl)
theorem dX21_act_122 : decode cX21_act 122 = .ok (.invokevirtual 372, 3) := dk_182 1 116 (dk_at dksX21_act_5 5 rfl rfl)
theorem dX21_act_125 : decode cX21_act 125 = .ok (.istore 5, 2) := dk_54 5 (dk_at dksX21_act_5 8 rfl rfl)
theorem dX21_act_127 : decode cX21_act 127 = .ok (.aload_n 0, 1) := dk_42 (dk_at dksX21_act_5 10 rfl rfl)
theorem dX21_act_128 : decode cX21_act 128 = .ok (.getfield 354, 3) := dk_180 1 98 (dk_at dksX21_act_5 11 rfl rfl)
theorem dX21_act_131 : decode cX21_act 131 = .ok (.ifCond .eq 8, 3) := dk_153 0 8 (dk_at dksX21_act_5 14 rfl rfl)
theorem dX21_act_134 : decode cX21_act 134 = .ok (.bipush (-15), 2) := dk_16 241 (dk_at dksX21_act_5 17 rfl rfl)
theorem dX21_act_136 : decode cX21_act 136 = .ok (.goto 5, 3) := dk_167 0 5 (dk_at dksX21_act_5 19 rfl rfl)
theorem dX21_act_139 : decode cX21_act 139 = .ok (.iload 5, 2) := dk_21 5 (dk_at dksX21_act_5 22 rfl rfl)
theorem dX21_act_141 : decode cX21_act 141 = .ok (.ireturn, 1) := dk_172 (dk_at dksX21_act_6 0 rfl rfl)
abbrev cX21_eatsIt : ByteArray := prog_33_method_94_code
def yX21_eatsIt : MethodName := ⟨RX21, "eatsIt", "(I)I"⟩
def dkwX21_eatsIt_3 : List UInt8 := [16, 50, 182, 1, 71, 3, 42, 27, 182, 1, 77, 100, 172, 42, 27, 182, 1, 77, 172]
abbrev dktX21_eatsIt_3 : List UInt8 := dkwX21_eatsIt_3 ++ []
def dkwX21_eatsIt_2 : List UInt8 := [42, 27, 182, 1, 83, 172, 42, 16, 41, 182, 1, 71, 42, 27, 182, 1, 83, 42, 180, 1, 74, 100, 172, 42]
abbrev dktX21_eatsIt_2 : List UInt8 := dkwX21_eatsIt_2 ++ dktX21_eatsIt_3
def dkwX21_eatsIt_1 : List UInt8 := [170, 0, 0, 0, 0, 0, 0, 69, 0, 0, 0, 2, 0, 0, 0, 5, 0, 0, 0, 32, 0, 0, 0, 38, 0, 0, 0, 55, 0, 0, 0, 32]
abbrev dktX21_eatsIt_1 : List UInt8 := dkwX21_eatsIt_1 ++ dktX21_eatsIt_2
def dkwX21_eatsIt_0 : List UInt8 := [42, 180, 1, 80]
abbrev dktX21_eatsIt_0 : List UInt8 := dkwX21_eatsIt_0 ++ dktX21_eatsIt_1
theorem dksX21_eatsIt_0 : cX21_eatsIt.data.toList.drop 0 = dktX21_eatsIt_0 := by decide +kernel
theorem dksX21_eatsIt_1 : cX21_eatsIt.data.toList.drop 4 = dktX21_eatsIt_1 := dk_seg dksX21_eatsIt_0 4 rfl rfl
theorem dksX21_eatsIt_2 : cX21_eatsIt.data.toList.drop 36 = dktX21_eatsIt_2 := dk_seg dksX21_eatsIt_1 32 rfl rfl
theorem dksX21_eatsIt_3 : cX21_eatsIt.data.toList.drop 60 = dktX21_eatsIt_3 := dk_seg dksX21_eatsIt_2 24 rfl rfl
theorem dX21_eatsIt_0 : decode cX21_eatsIt 0 = .ok (.aload_n 0, 1) := dk_42 (dk_at dksX21_eatsIt_0 0 rfl rfl)
theorem dX21_eatsIt_1 : decode cX21_eatsIt 1 = .ok (.getfield 336, 3) := dk_180 1 80 (dk_at dksX21_eatsIt_0 1 rfl rfl)
theorem dX21_eatsIt_4 : decode cX21_eatsIt 4 = .ok (.tableswitch 69 2 5 #[32, 38, 55, 32], 32) := by decide +kernel
theorem dX21_eatsIt_36 : decode cX21_eatsIt 36 = .ok (.aload_n 0, 1) := dk_42 (dk_at dksX21_eatsIt_2 0 rfl rfl)
theorem dX21_eatsIt_37 : decode cX21_eatsIt 37 = .ok (.iload_n 1, 1) := dk_27 (dk_at dksX21_eatsIt_2 1 rfl rfl)
theorem dX21_eatsIt_38 : decode cX21_eatsIt 38 = .ok (.invokevirtual 339, 3) := dk_182 1 83 (dk_at dksX21_eatsIt_2 2 rfl rfl)
theorem dX21_eatsIt_41 : decode cX21_eatsIt 41 = .ok (.ireturn, 1) := dk_172 (dk_at dksX21_eatsIt_2 5 rfl rfl)
theorem dX21_eatsIt_42 : decode cX21_eatsIt 42 = .ok (.aload_n 0, 1) := dk_42 (dk_at dksX21_eatsIt_2 6 rfl rfl)
theorem dX21_eatsIt_43 : decode cX21_eatsIt 43 = .ok (.bipush 41, 2) := dk_16 41 (dk_at dksX21_eatsIt_2 7 rfl rfl)
theorem dX21_eatsIt_45 : decode cX21_eatsIt 45 = .ok (.invokevirtual 327, 3) := dk_182 1 71 (dk_at dksX21_eatsIt_2 9 rfl rfl)
theorem dX21_eatsIt_48 : decode cX21_eatsIt 48 = .ok (.aload_n 0, 1) := dk_42 (dk_at dksX21_eatsIt_2 12 rfl rfl)
theorem dX21_eatsIt_49 : decode cX21_eatsIt 49 = .ok (.iload_n 1, 1) := dk_27 (dk_at dksX21_eatsIt_2 13 rfl rfl)
theorem dX21_eatsIt_50 : decode cX21_eatsIt 50 = .ok (.invokevirtual 339, 3) := dk_182 1 83 (dk_at dksX21_eatsIt_2 14 rfl rfl)
theorem dX21_eatsIt_53 : decode cX21_eatsIt 53 = .ok (.aload_n 0, 1) := dk_42 (dk_at dksX21_eatsIt_2 17 rfl rfl)
theorem dX21_eatsIt_54 : decode cX21_eatsIt 54 = .ok (.getfield 330, 3) := dk_180 1 74 (dk_at dksX21_eatsIt_2 18 rfl rfl)
theorem dX21_eatsIt_57 : decode cX21_eatsIt 57 = .ok (.isub, 1) := dk_100 (dk_at dksX21_eatsIt_2 21 rfl rfl)
theorem dX21_eatsIt_58 : decode cX21_eatsIt 58 = .ok (.ireturn, 1) := dk_172 (dk_at dksX21_eatsIt_2 22 rfl rfl)
theorem dX21_eatsIt_59 : decode cX21_eatsIt 59 = .ok (.aload_n 0, 1) := dk_42 (dk_at dksX21_eatsIt_2 23 rfl rfl)
theorem dX21_eatsIt_60 : decode cX21_eatsIt 60 = .ok (.bipush 50, 2) := dk_16 50 (dk_at dksX21_eatsIt_3 0 rfl rfl)
theorem dX21_eatsIt_62 : decode cX21_eatsIt 62 = .ok (.invokevirtual 327, 3) := dk_182 1 71 (dk_at dksX21_eatsIt_3 2 rfl rfl)
theorem dX21_eatsIt_65 : decode cX21_eatsIt 65 = .ok (.iconst 0, 1) := dk_3 (dk_at dksX21_eatsIt_3 5 rfl rfl)
theorem dX21_eatsIt_66 : decode cX21_eatsIt 66 = .ok (.aload_n 0, 1) := dk_42 (dk_at dksX21_eatsIt_3 6 rfl rfl)
theorem dX21_eatsIt_67 : decode cX21_eatsIt 67 = .ok (.iload_n 1, 1) := dk_27 (dk_at dksX21_eatsIt_3 7 rfl rfl)
theorem dX21_eatsIt_68 : decode cX21_eatsIt 68 = .ok (.invokevirtual 333, 3) := dk_182 1 77 (dk_at dksX21_eatsIt_3 8 rfl rfl)
theorem dX21_eatsIt_71 : decode cX21_eatsIt 71 = .ok (.isub, 1) := dk_100 (dk_at dksX21_eatsIt_3 11 rfl rfl)
theorem dX21_eatsIt_72 : decode cX21_eatsIt 72 = .ok (.ireturn, 1) := dk_172 (dk_at dksX21_eatsIt_3 12 rfl rfl)
theorem dX21_eatsIt_73 : decode cX21_eatsIt 73 = .ok (.aload_n 0, 1) := dk_42 (dk_at dksX21_eatsIt_3 13 rfl rfl)
theorem dX21_eatsIt_74 : decode cX21_eatsIt 74 = .ok (.iload_n 1, 1) := dk_27 (dk_at dksX21_eatsIt_3 14 rfl rfl)
theorem dX21_eatsIt_75 : decode cX21_eatsIt 75 = .ok (.invokevirtual 333, 3) := dk_182 1 77 (dk_at dksX21_eatsIt_3 15 rfl rfl)
theorem dX21_eatsIt_78 : decode cX21_eatsIt 78 = .ok (.ireturn, 1) := dk_172 (dk_at dksX21_eatsIt_3 18 rfl rfl)
abbrev cX21_shakeEats : ByteArray := prog_33_method_93_code
def yX21_shakeEats : MethodName := ⟨RX21, "shakeEats", "(I)I"⟩
def dkwX21_shakeEats_0 : List UInt8 := [42, 16, 30, 182, 1, 71, 42, 27, 182, 1, 77, 6, 104, 172]
abbrev dktX21_shakeEats_0 : List UInt8 := dkwX21_shakeEats_0 ++ []
theorem dksX21_shakeEats_0 : cX21_shakeEats.data.toList.drop 0 = dktX21_shakeEats_0 := by decide +kernel
theorem dX21_shakeEats_0 : decode cX21_shakeEats 0 = .ok (.aload_n 0, 1) := dk_42 (dk_at dksX21_shakeEats_0 0 rfl rfl)
theorem dX21_shakeEats_1 : decode cX21_shakeEats 1 = .ok (.bipush 30, 2) := dk_16 30 (dk_at dksX21_shakeEats_0 1 rfl rfl)
theorem dX21_shakeEats_3 : decode cX21_shakeEats 3 = .ok (.invokevirtual 327, 3) := dk_182 1 71 (dk_at dksX21_shakeEats_0 3 rfl rfl)
theorem dX21_shakeEats_6 : decode cX21_shakeEats 6 = .ok (.aload_n 0, 1) := dk_42 (dk_at dksX21_shakeEats_0 6 rfl rfl)
theorem dX21_shakeEats_7 : decode cX21_shakeEats 7 = .ok (.iload_n 1, 1) := dk_27 (dk_at dksX21_shakeEats_0 7 rfl rfl)
theorem dX21_shakeEats_8 : decode cX21_shakeEats 8 = .ok (.invokevirtual 333, 3) := dk_182 1 77 (dk_at dksX21_shakeEats_0 8 rfl rfl)
theorem dX21_shakeEats_11 : decode cX21_shakeEats 11 = .ok (.iconst 3, 1) := dk_6 (dk_at dksX21_shakeEats_0 11 rfl rfl)
theorem dX21_shakeEats_12 : decode cX21_shakeEats 12 = .ok (.imul, 1) := dk_104 (dk_at dksX21_shakeEats_0 12 rfl rfl)
theorem dX21_shakeEats_13 : decode cX21_shakeEats 13 = .ok (.ireturn, 1) := dk_172 (dk_at dksX21_shakeEats_0 13 rfl rfl)
abbrev cX21_ran : ByteArray := prog_33_method_91_code
def yX21_ran : MethodName := ⟨RX21, "ran", "(I)V"⟩
def dkwX21_ran_1 : List UInt8 := [4, 96, 181, 1, 68, 177]
abbrev dktX21_ran_1 : List UInt8 := dkwX21_ran_1 ++ []
def dkwX21_ran_0 : List UInt8 := [42, 180, 1, 68, 16, 30, 162, 0, 23, 42, 180, 0, 60, 42, 180, 1, 68, 27, 79, 42, 89, 180, 1, 68]
abbrev dktX21_ran_0 : List UInt8 := dkwX21_ran_0 ++ dktX21_ran_1
theorem dksX21_ran_0 : cX21_ran.data.toList.drop 0 = dktX21_ran_0 := by decide +kernel
theorem dksX21_ran_1 : cX21_ran.data.toList.drop 24 = dktX21_ran_1 := dk_seg dksX21_ran_0 24 rfl rfl
theorem dX21_ran_0 : decode cX21_ran 0 = .ok (.aload_n 0, 1) := dk_42 (dk_at dksX21_ran_0 0 rfl rfl)
theorem dX21_ran_1 : decode cX21_ran 1 = .ok (.getfield 324, 3) := dk_180 1 68 (dk_at dksX21_ran_0 1 rfl rfl)
theorem dX21_ran_4 : decode cX21_ran 4 = .ok (.bipush 30, 2) := dk_16 30 (dk_at dksX21_ran_0 4 rfl rfl)
theorem dX21_ran_6 : decode cX21_ran 6 = .ok (.if_icmp .ge 23, 3) := dk_162 0 23 (dk_at dksX21_ran_0 6 rfl rfl)
theorem dX21_ran_9 : decode cX21_ran 9 = .ok (.aload_n 0, 1) := dk_42 (dk_at dksX21_ran_0 9 rfl rfl)
theorem dX21_ran_10 : decode cX21_ran 10 = .ok (.getfield 60, 3) := dk_180 0 60 (dk_at dksX21_ran_0 10 rfl rfl)
theorem dX21_ran_13 : decode cX21_ran 13 = .ok (.aload_n 0, 1) := dk_42 (dk_at dksX21_ran_0 13 rfl rfl)
theorem dX21_ran_14 : decode cX21_ran 14 = .ok (.getfield 324, 3) := dk_180 1 68 (dk_at dksX21_ran_0 14 rfl rfl)
theorem dX21_ran_17 : decode cX21_ran 17 = .ok (.iload_n 1, 1) := dk_27 (dk_at dksX21_ran_0 17 rfl rfl)
theorem dX21_ran_18 : decode cX21_ran 18 = .ok (.iastore, 1) := dk_79 (dk_at dksX21_ran_0 18 rfl rfl)
theorem dX21_ran_19 : decode cX21_ran 19 = .ok (.aload_n 0, 1) := dk_42 (dk_at dksX21_ran_0 19 rfl rfl)
theorem dX21_ran_20 : decode cX21_ran 20 = .ok (.dup, 1) := dk_89 (dk_at dksX21_ran_0 20 rfl rfl)
theorem dX21_ran_21 : decode cX21_ran 21 = .ok (.getfield 324, 3) := dk_180 1 68 (dk_at dksX21_ran_0 21 rfl rfl)
theorem dX21_ran_24 : decode cX21_ran 24 = .ok (.iconst 1, 1) := dk_4 (dk_at dksX21_ran_1 0 rfl rfl)
theorem dX21_ran_25 : decode cX21_ran 25 = .ok (.iadd, 1) := dk_96 (dk_at dksX21_ran_1 1 rfl rfl)
theorem dX21_ran_26 : decode cX21_ran 26 = .ok (.putfield 324, 3) := dk_181 1 68 (dk_at dksX21_ran_1 2 rfl rfl)
theorem dX21_ran_29 : decode cX21_ran 29 = .ok (.return_, 1) := dk_177 (dk_at dksX21_ran_1 5 rfl rfl)
abbrev cX21_plainEats : ByteArray := prog_33_method_92_code
def yX21_plainEats : MethodName := ⟨RX21, "plainEats", "(I)I"⟩
def dkwX21_plainEats_0 : List UInt8 := [42, 16, 10, 182, 1, 71, 27, 42, 180, 1, 74, 96, 172]
abbrev dktX21_plainEats_0 : List UInt8 := dkwX21_plainEats_0 ++ []
theorem dksX21_plainEats_0 : cX21_plainEats.data.toList.drop 0 = dktX21_plainEats_0 := by decide +kernel
theorem dX21_plainEats_0 : decode cX21_plainEats 0 = .ok (.aload_n 0, 1) := dk_42 (dk_at dksX21_plainEats_0 0 rfl rfl)
theorem dX21_plainEats_1 : decode cX21_plainEats 1 = .ok (.bipush 10, 2) := dk_16 10 (dk_at dksX21_plainEats_0 1 rfl rfl)
theorem dX21_plainEats_3 : decode cX21_plainEats 3 = .ok (.invokevirtual 327, 3) := dk_182 1 71 (dk_at dksX21_plainEats_0 3 rfl rfl)
theorem dX21_plainEats_6 : decode cX21_plainEats 6 = .ok (.iload_n 1, 1) := dk_27 (dk_at dksX21_plainEats_0 6 rfl rfl)
theorem dX21_plainEats_7 : decode cX21_plainEats 7 = .ok (.aload_n 0, 1) := dk_42 (dk_at dksX21_plainEats_0 7 rfl rfl)
theorem dX21_plainEats_8 : decode cX21_plainEats 8 = .ok (.getfield 330, 3) := dk_180 1 74 (dk_at dksX21_plainEats_0 8 rfl rfl)
theorem dX21_plainEats_11 : decode cX21_plainEats 11 = .ok (.iadd, 1) := dk_96 (dk_at dksX21_plainEats_0 11 rfl rfl)
theorem dX21_plainEats_12 : decode cX21_plainEats 12 = .ok (.ireturn, 1) := dk_172 (dk_at dksX21_plainEats_0 12 rfl rfl)
abbrev cX21_laysIt : ByteArray := prog_33_method_97_code
def yX21_laysIt : MethodName := ⟨RX21, "laysIt", "(I)I"⟩
def dkwX21_laysIt_2 : List UInt8 := [42, 27, 182, 1, 89, 172]
abbrev dktX21_laysIt_2 : List UInt8 := dkwX21_laysIt_2 ++ []
def dkwX21_laysIt_1 : List UInt8 := [180, 1, 74, 182, 1, 86, 96, 172, 42, 180, 1, 80, 4, 160, 0, 11, 42, 27, 182, 1, 95, 167, 0, 8]
abbrev dktX21_laysIt_1 : List UInt8 := dkwX21_laysIt_1 ++ dktX21_laysIt_2
def dkwX21_laysIt_0 : List UInt8 := [42, 180, 1, 80, 7, 160, 0, 26, 42, 16, 51, 182, 1, 71, 42, 27, 182, 1, 95, 61, 28, 42, 42]
abbrev dktX21_laysIt_0 : List UInt8 := dkwX21_laysIt_0 ++ dktX21_laysIt_1
theorem dksX21_laysIt_0 : cX21_laysIt.data.toList.drop 0 = dktX21_laysIt_0 := by decide +kernel
theorem dksX21_laysIt_1 : cX21_laysIt.data.toList.drop 23 = dktX21_laysIt_1 := dk_seg dksX21_laysIt_0 23 rfl rfl
theorem dksX21_laysIt_2 : cX21_laysIt.data.toList.drop 47 = dktX21_laysIt_2 := dk_seg dksX21_laysIt_1 24 rfl rfl
theorem dX21_laysIt_0 : decode cX21_laysIt 0 = .ok (.aload_n 0, 1) := dk_42 (dk_at dksX21_laysIt_0 0 rfl rfl)
theorem dX21_laysIt_1 : decode cX21_laysIt 1 = .ok (.getfield 336, 3) := dk_180 1 80 (dk_at dksX21_laysIt_0 1 rfl rfl)
theorem dX21_laysIt_4 : decode cX21_laysIt 4 = .ok (.iconst 4, 1) := dk_7 (dk_at dksX21_laysIt_0 4 rfl rfl)
theorem dX21_laysIt_5 : decode cX21_laysIt 5 = .ok (.if_icmp .ne 26, 3) := dk_160 0 26 (dk_at dksX21_laysIt_0 5 rfl rfl)
theorem dX21_laysIt_8 : decode cX21_laysIt 8 = .ok (.aload_n 0, 1) := dk_42 (dk_at dksX21_laysIt_0 8 rfl rfl)
theorem dX21_laysIt_9 : decode cX21_laysIt 9 = .ok (.bipush 51, 2) := dk_16 51 (dk_at dksX21_laysIt_0 9 rfl rfl)
theorem dX21_laysIt_11 : decode cX21_laysIt 11 = .ok (.invokevirtual 327, 3) := dk_182 1 71 (dk_at dksX21_laysIt_0 11 rfl rfl)
theorem dX21_laysIt_14 : decode cX21_laysIt 14 = .ok (.aload_n 0, 1) := dk_42 (dk_at dksX21_laysIt_0 14 rfl rfl)
theorem dX21_laysIt_15 : decode cX21_laysIt 15 = .ok (.iload_n 1, 1) := dk_27 (dk_at dksX21_laysIt_0 15 rfl rfl)
theorem dX21_laysIt_16 : decode cX21_laysIt 16 = .ok (.invokevirtual 351, 3) := dk_182 1 95 (dk_at dksX21_laysIt_0 16 rfl rfl)
theorem dX21_laysIt_19 : decode cX21_laysIt 19 = .ok (.istore_n 2, 1) := dk_61 (dk_at dksX21_laysIt_0 19 rfl rfl)
theorem dX21_laysIt_20 : decode cX21_laysIt 20 = .ok (.iload_n 2, 1) := dk_28 (dk_at dksX21_laysIt_0 20 rfl rfl)
theorem dX21_laysIt_21 : decode cX21_laysIt 21 = .ok (.aload_n 0, 1) := dk_42 (dk_at dksX21_laysIt_0 21 rfl rfl)
theorem dX21_laysIt_22 : decode cX21_laysIt 22 = .ok (.aload_n 0, 1) := dk_42 (dk_at dksX21_laysIt_0 22 rfl rfl)
theorem dX21_laysIt_23 : decode cX21_laysIt 23 = .ok (.getfield 330, 3) := dk_180 1 74 (dk_at dksX21_laysIt_1 0 rfl rfl)
theorem dX21_laysIt_26 : decode cX21_laysIt 26 = .ok (.invokevirtual 342, 3) := dk_182 1 86 (dk_at dksX21_laysIt_1 3 rfl rfl)
theorem dX21_laysIt_29 : decode cX21_laysIt 29 = .ok (.iadd, 1) := dk_96 (dk_at dksX21_laysIt_1 6 rfl rfl)
theorem dX21_laysIt_30 : decode cX21_laysIt 30 = .ok (.ireturn, 1) := dk_172 (dk_at dksX21_laysIt_1 7 rfl rfl)
theorem dX21_laysIt_31 : decode cX21_laysIt 31 = .ok (.aload_n 0, 1) := dk_42 (dk_at dksX21_laysIt_1 8 rfl rfl)
theorem dX21_laysIt_32 : decode cX21_laysIt 32 = .ok (.getfield 336, 3) := dk_180 1 80 (dk_at dksX21_laysIt_1 9 rfl rfl)
theorem dX21_laysIt_35 : decode cX21_laysIt 35 = .ok (.iconst 1, 1) := dk_4 (dk_at dksX21_laysIt_1 12 rfl rfl)
theorem dX21_laysIt_36 : decode cX21_laysIt 36 = .ok (.if_icmp .ne 11, 3) := dk_160 0 11 (dk_at dksX21_laysIt_1 13 rfl rfl)
theorem dX21_laysIt_39 : decode cX21_laysIt 39 = .ok (.aload_n 0, 1) := dk_42 (dk_at dksX21_laysIt_1 16 rfl rfl)
theorem dX21_laysIt_40 : decode cX21_laysIt 40 = .ok (.iload_n 1, 1) := dk_27 (dk_at dksX21_laysIt_1 17 rfl rfl)
theorem dX21_laysIt_41 : decode cX21_laysIt 41 = .ok (.invokevirtual 351, 3) := dk_182 1 95 (dk_at dksX21_laysIt_1 18 rfl rfl)
theorem dX21_laysIt_44 : decode cX21_laysIt 44 = .ok (.goto 8, 3) := dk_167 0 8 (dk_at dksX21_laysIt_1 21 rfl rfl)
theorem dX21_laysIt_47 : decode cX21_laysIt 47 = .ok (.aload_n 0, 1) := dk_42 (dk_at dksX21_laysIt_2 0 rfl rfl)
theorem dX21_laysIt_48 : decode cX21_laysIt 48 = .ok (.iload_n 1, 1) := dk_27 (dk_at dksX21_laysIt_2 1 rfl rfl)
theorem dX21_laysIt_49 : decode cX21_laysIt 49 = .ok (.invokevirtual 345, 3) := dk_182 1 89 (dk_at dksX21_laysIt_2 2 rfl rfl)
theorem dX21_laysIt_52 : decode cX21_laysIt 52 = .ok (.ireturn, 1) := dk_172 (dk_at dksX21_laysIt_2 5 rfl rfl)
abbrev cX21_coldLays : ByteArray := prog_33_method_96_code
def yX21_coldLays : MethodName := ⟨RX21, "coldLays", "(I)I"⟩
def dkwX21_coldLays_0 : List UInt8 := [42, 16, 20, 182, 1, 71, 42, 27, 182, 1, 89, 42, 180, 1, 92, 100, 172]
abbrev dktX21_coldLays_0 : List UInt8 := dkwX21_coldLays_0 ++ []
theorem dksX21_coldLays_0 : cX21_coldLays.data.toList.drop 0 = dktX21_coldLays_0 := by decide +kernel
theorem dX21_coldLays_0 : decode cX21_coldLays 0 = .ok (.aload_n 0, 1) := dk_42 (dk_at dksX21_coldLays_0 0 rfl rfl)
theorem dX21_coldLays_1 : decode cX21_coldLays 1 = .ok (.bipush 20, 2) := dk_16 20 (dk_at dksX21_coldLays_0 1 rfl rfl)
theorem dX21_coldLays_3 : decode cX21_coldLays 3 = .ok (.invokevirtual 327, 3) := dk_182 1 71 (dk_at dksX21_coldLays_0 3 rfl rfl)
theorem dX21_coldLays_6 : decode cX21_coldLays 6 = .ok (.aload_n 0, 1) := dk_42 (dk_at dksX21_coldLays_0 6 rfl rfl)
theorem dX21_coldLays_7 : decode cX21_coldLays 7 = .ok (.iload_n 1, 1) := dk_27 (dk_at dksX21_coldLays_0 7 rfl rfl)
theorem dX21_coldLays_8 : decode cX21_coldLays 8 = .ok (.invokevirtual 345, 3) := dk_182 1 89 (dk_at dksX21_coldLays_0 8 rfl rfl)
theorem dX21_coldLays_11 : decode cX21_coldLays 11 = .ok (.aload_n 0, 1) := dk_42 (dk_at dksX21_coldLays_0 11 rfl rfl)
theorem dX21_coldLays_12 : decode cX21_coldLays 12 = .ok (.getfield 348, 3) := dk_180 1 92 (dk_at dksX21_coldLays_0 12 rfl rfl)
theorem dX21_coldLays_15 : decode cX21_coldLays 15 = .ok (.isub, 1) := dk_100 (dk_at dksX21_coldLays_0 15 rfl rfl)
theorem dX21_coldLays_16 : decode cX21_coldLays 16 = .ok (.ireturn, 1) := dk_172 (dk_at dksX21_coldLays_0 16 rfl rfl)
abbrev cX21_plainLays : ByteArray := prog_33_method_95_code
def yX21_plainLays : MethodName := ⟨RX21, "plainLays", "(I)I"⟩
def dkwX21_plainLays_0 : List UInt8 := [42, 16, 11, 182, 1, 71, 42, 27, 182, 1, 86, 5, 104, 172]
abbrev dktX21_plainLays_0 : List UInt8 := dkwX21_plainLays_0 ++ []
theorem dksX21_plainLays_0 : cX21_plainLays.data.toList.drop 0 = dktX21_plainLays_0 := by decide +kernel
theorem dX21_plainLays_0 : decode cX21_plainLays 0 = .ok (.aload_n 0, 1) := dk_42 (dk_at dksX21_plainLays_0 0 rfl rfl)
theorem dX21_plainLays_1 : decode cX21_plainLays 1 = .ok (.bipush 11, 2) := dk_16 11 (dk_at dksX21_plainLays_0 1 rfl rfl)
theorem dX21_plainLays_3 : decode cX21_plainLays 3 = .ok (.invokevirtual 327, 3) := dk_182 1 71 (dk_at dksX21_plainLays_0 3 rfl rfl)
theorem dX21_plainLays_6 : decode cX21_plainLays 6 = .ok (.aload_n 0, 1) := dk_42 (dk_at dksX21_plainLays_0 6 rfl rfl)
theorem dX21_plainLays_7 : decode cX21_plainLays 7 = .ok (.iload_n 1, 1) := dk_27 (dk_at dksX21_plainLays_0 7 rfl rfl)
theorem dX21_plainLays_8 : decode cX21_plainLays 8 = .ok (.invokevirtual 342, 3) := dk_182 1 86 (dk_at dksX21_plainLays_0 8 rfl rfl)
theorem dX21_plainLays_11 : decode cX21_plainLays 11 = .ok (.iconst 2, 1) := dk_5 (dk_at dksX21_plainLays_0 11 rfl rfl)
theorem dX21_plainLays_12 : decode cX21_plainLays 12 = .ok (.imul, 1) := dk_104 (dk_at dksX21_plainLays_0 12 rfl rfl)
theorem dX21_plainLays_13 : decode cX21_plainLays 13 = .ok (.ireturn, 1) := dk_172 (dk_at dksX21_plainLays_0 13 rfl rfl)
abbrev cX21_sharesIt : ByteArray := prog_33_method_99_code
def yX21_sharesIt : MethodName := ⟨RX21, "sharesIt", "(I)I"⟩
def dkwX21_sharesIt_2 : List UInt8 := [153, 0, 7, 3, 167, 0, 13, 28, 42, 42, 180, 1, 92, 182, 1, 86, 96, 172, 42, 27, 182, 1, 101, 172]
abbrev dktX21_sharesIt_2 : List UInt8 := dkwX21_sharesIt_2 ++ []
def dkwX21_sharesIt_1 : List UInt8 := [42, 180, 1, 80, 8, 160, 0, 37, 42, 16, 61, 182, 1, 71, 42, 27, 182, 1, 101, 61, 42, 180, 1, 98]
abbrev dktX21_sharesIt_1 : List UInt8 := dkwX21_sharesIt_1 ++ dktX21_sharesIt_2
def dkwX21_sharesIt_0 : List UInt8 := [42, 180, 1, 80, 6, 160, 0, 19, 42, 16, 40, 182, 1, 71, 42, 27, 5, 96, 182, 1, 101, 4, 130, 172]
abbrev dktX21_sharesIt_0 : List UInt8 := dkwX21_sharesIt_0 ++ dktX21_sharesIt_1
theorem dksX21_sharesIt_0 : cX21_sharesIt.data.toList.drop 0 = dktX21_sharesIt_0 := by decide +kernel
theorem dksX21_sharesIt_1 : cX21_sharesIt.data.toList.drop 24 = dktX21_sharesIt_1 := dk_seg dksX21_sharesIt_0 24 rfl rfl
theorem dksX21_sharesIt_2 : cX21_sharesIt.data.toList.drop 48 = dktX21_sharesIt_2 := dk_seg dksX21_sharesIt_1 24 rfl rfl
theorem dX21_sharesIt_0 : decode cX21_sharesIt 0 = .ok (.aload_n 0, 1) := dk_42 (dk_at dksX21_sharesIt_0 0 rfl rfl)
theorem dX21_sharesIt_1 : decode cX21_sharesIt 1 = .ok (.getfield 336, 3) := dk_180 1 80 (dk_at dksX21_sharesIt_0 1 rfl rfl)
theorem dX21_sharesIt_4 : decode cX21_sharesIt 4 = .ok (.iconst 3, 1) := dk_6 (dk_at dksX21_sharesIt_0 4 rfl rfl)
theorem dX21_sharesIt_5 : decode cX21_sharesIt 5 = .ok (.if_icmp .ne 19, 3) := dk_160 0 19 (dk_at dksX21_sharesIt_0 5 rfl rfl)
theorem dX21_sharesIt_8 : decode cX21_sharesIt 8 = .ok (.aload_n 0, 1) := dk_42 (dk_at dksX21_sharesIt_0 8 rfl rfl)
theorem dX21_sharesIt_9 : decode cX21_sharesIt 9 = .ok (.bipush 40, 2) := dk_16 40 (dk_at dksX21_sharesIt_0 9 rfl rfl)
theorem dX21_sharesIt_11 : decode cX21_sharesIt 11 = .ok (.invokevirtual 327, 3) := dk_182 1 71 (dk_at dksX21_sharesIt_0 11 rfl rfl)
theorem dX21_sharesIt_14 : decode cX21_sharesIt 14 = .ok (.aload_n 0, 1) := dk_42 (dk_at dksX21_sharesIt_0 14 rfl rfl)
theorem dX21_sharesIt_15 : decode cX21_sharesIt 15 = .ok (.iload_n 1, 1) := dk_27 (dk_at dksX21_sharesIt_0 15 rfl rfl)
theorem dX21_sharesIt_16 : decode cX21_sharesIt 16 = .ok (.iconst 2, 1) := dk_5 (dk_at dksX21_sharesIt_0 16 rfl rfl)
theorem dX21_sharesIt_17 : decode cX21_sharesIt 17 = .ok (.iadd, 1) := dk_96 (dk_at dksX21_sharesIt_0 17 rfl rfl)
theorem dX21_sharesIt_18 : decode cX21_sharesIt 18 = .ok (.invokevirtual 357, 3) := dk_182 1 101 (dk_at dksX21_sharesIt_0 18 rfl rfl)
theorem dX21_sharesIt_21 : decode cX21_sharesIt 21 = .ok (.iconst 1, 1) := dk_4 (dk_at dksX21_sharesIt_0 21 rfl rfl)
theorem dX21_sharesIt_22 : decode cX21_sharesIt 22 = .ok (.ixor, 1) := dk_130 (dk_at dksX21_sharesIt_0 22 rfl rfl)
theorem dX21_sharesIt_23 : decode cX21_sharesIt 23 = .ok (.ireturn, 1) := dk_172 (dk_at dksX21_sharesIt_0 23 rfl rfl)
theorem dX21_sharesIt_24 : decode cX21_sharesIt 24 = .ok (.aload_n 0, 1) := dk_42 (dk_at dksX21_sharesIt_1 0 rfl rfl)
theorem dX21_sharesIt_25 : decode cX21_sharesIt 25 = .ok (.getfield 336, 3) := dk_180 1 80 (dk_at dksX21_sharesIt_1 1 rfl rfl)
theorem dX21_sharesIt_28 : decode cX21_sharesIt 28 = .ok (.iconst 5, 1) := dk_8 (dk_at dksX21_sharesIt_1 4 rfl rfl)
theorem dX21_sharesIt_29 : decode cX21_sharesIt 29 = .ok (.if_icmp .ne 37, 3) := dk_160 0 37 (dk_at dksX21_sharesIt_1 5 rfl rfl)
theorem dX21_sharesIt_32 : decode cX21_sharesIt 32 = .ok (.aload_n 0, 1) := dk_42 (dk_at dksX21_sharesIt_1 8 rfl rfl)
theorem dX21_sharesIt_33 : decode cX21_sharesIt 33 = .ok (.bipush 61, 2) := dk_16 61 (dk_at dksX21_sharesIt_1 9 rfl rfl)
theorem dX21_sharesIt_35 : decode cX21_sharesIt 35 = .ok (.invokevirtual 327, 3) := dk_182 1 71 (dk_at dksX21_sharesIt_1 11 rfl rfl)
theorem dX21_sharesIt_38 : decode cX21_sharesIt 38 = .ok (.aload_n 0, 1) := dk_42 (dk_at dksX21_sharesIt_1 14 rfl rfl)
theorem dX21_sharesIt_39 : decode cX21_sharesIt 39 = .ok (.iload_n 1, 1) := dk_27 (dk_at dksX21_sharesIt_1 15 rfl rfl)
theorem dX21_sharesIt_40 : decode cX21_sharesIt 40 = .ok (.invokevirtual 357, 3) := dk_182 1 101 (dk_at dksX21_sharesIt_1 16 rfl rfl)
theorem dX21_sharesIt_43 : decode cX21_sharesIt 43 = .ok (.istore_n 2, 1) := dk_61 (dk_at dksX21_sharesIt_1 19 rfl rfl)
theorem dX21_sharesIt_44 : decode cX21_sharesIt 44 = .ok (.aload_n 0, 1) := dk_42 (dk_at dksX21_sharesIt_1 20 rfl rfl)
theorem dX21_sharesIt_45 : decode cX21_sharesIt 45 = .ok (.getfield 354, 3) := dk_180 1 98 (dk_at dksX21_sharesIt_1 21 rfl rfl)
theorem dX21_sharesIt_48 : decode cX21_sharesIt 48 = .ok (.ifCond .eq 7, 3) := dk_153 0 7 (dk_at dksX21_sharesIt_2 0 rfl rfl)
theorem dX21_sharesIt_51 : decode cX21_sharesIt 51 = .ok (.iconst 0, 1) := dk_3 (dk_at dksX21_sharesIt_2 3 rfl rfl)
theorem dX21_sharesIt_52 : decode cX21_sharesIt 52 = .ok (.goto 13, 3) := dk_167 0 13 (dk_at dksX21_sharesIt_2 4 rfl rfl)
theorem dX21_sharesIt_55 : decode cX21_sharesIt 55 = .ok (.iload_n 2, 1) := dk_28 (dk_at dksX21_sharesIt_2 7 rfl rfl)
theorem dX21_sharesIt_56 : decode cX21_sharesIt 56 = .ok (.aload_n 0, 1) := dk_42 (dk_at dksX21_sharesIt_2 8 rfl rfl)
theorem dX21_sharesIt_57 : decode cX21_sharesIt 57 = .ok (.aload_n 0, 1) := dk_42 (dk_at dksX21_sharesIt_2 9 rfl rfl)
theorem dX21_sharesIt_58 : decode cX21_sharesIt 58 = .ok (.getfield 348, 3) := dk_180 1 92 (dk_at dksX21_sharesIt_2 10 rfl rfl)
theorem dX21_sharesIt_61 : decode cX21_sharesIt 61 = .ok (.invokevirtual 342, 3) := dk_182 1 86 (dk_at dksX21_sharesIt_2 13 rfl rfl)
theorem dX21_sharesIt_64 : decode cX21_sharesIt 64 = .ok (.iadd, 1) := dk_96 (dk_at dksX21_sharesIt_2 16 rfl rfl)
theorem dX21_sharesIt_65 : decode cX21_sharesIt 65 = .ok (.ireturn, 1) := dk_172 (dk_at dksX21_sharesIt_2 17 rfl rfl)
theorem dX21_sharesIt_66 : decode cX21_sharesIt 66 = .ok (.aload_n 0, 1) := dk_42 (dk_at dksX21_sharesIt_2 18 rfl rfl)
theorem dX21_sharesIt_67 : decode cX21_sharesIt 67 = .ok (.iload_n 1, 1) := dk_27 (dk_at dksX21_sharesIt_2 19 rfl rfl)
theorem dX21_sharesIt_68 : decode cX21_sharesIt 68 = .ok (.invokevirtual 357, 3) := dk_182 1 101 (dk_at dksX21_sharesIt_2 20 rfl rfl)
theorem dX21_sharesIt_71 : decode cX21_sharesIt 71 = .ok (.ireturn, 1) := dk_172 (dk_at dksX21_sharesIt_2 23 rfl rfl)
abbrev cX21_plainShares : ByteArray := prog_33_method_98_code
def yX21_plainShares : MethodName := ⟨RX21, "plainShares", "(I)I"⟩
def dkwX21_plainShares_1 : List UInt8 := [27, 42, 180, 1, 92, 42, 180, 1, 74, 100, 108, 172]
abbrev dktX21_plainShares_1 : List UInt8 := dkwX21_plainShares_1 ++ []
def dkwX21_plainShares_0 : List UInt8 := [42, 16, 12, 182, 1, 71, 42, 180, 1, 92, 42, 180, 1, 74, 160, 0, 10, 42, 4, 181, 1, 98, 3, 172]
abbrev dktX21_plainShares_0 : List UInt8 := dkwX21_plainShares_0 ++ dktX21_plainShares_1
theorem dksX21_plainShares_0 : cX21_plainShares.data.toList.drop 0 = dktX21_plainShares_0 := by decide +kernel
theorem dksX21_plainShares_1 : cX21_plainShares.data.toList.drop 24 = dktX21_plainShares_1 := dk_seg dksX21_plainShares_0 24 rfl rfl
theorem dX21_plainShares_0 : decode cX21_plainShares 0 = .ok (.aload_n 0, 1) := dk_42 (dk_at dksX21_plainShares_0 0 rfl rfl)
theorem dX21_plainShares_1 : decode cX21_plainShares 1 = .ok (.bipush 12, 2) := dk_16 12 (dk_at dksX21_plainShares_0 1 rfl rfl)
theorem dX21_plainShares_3 : decode cX21_plainShares 3 = .ok (.invokevirtual 327, 3) := dk_182 1 71 (dk_at dksX21_plainShares_0 3 rfl rfl)
theorem dX21_plainShares_6 : decode cX21_plainShares 6 = .ok (.aload_n 0, 1) := dk_42 (dk_at dksX21_plainShares_0 6 rfl rfl)
theorem dX21_plainShares_7 : decode cX21_plainShares 7 = .ok (.getfield 348, 3) := dk_180 1 92 (dk_at dksX21_plainShares_0 7 rfl rfl)
theorem dX21_plainShares_10 : decode cX21_plainShares 10 = .ok (.aload_n 0, 1) := dk_42 (dk_at dksX21_plainShares_0 10 rfl rfl)
theorem dX21_plainShares_11 : decode cX21_plainShares 11 = .ok (.getfield 330, 3) := dk_180 1 74 (dk_at dksX21_plainShares_0 11 rfl rfl)
theorem dX21_plainShares_14 : decode cX21_plainShares 14 = .ok (.if_icmp .ne 10, 3) := dk_160 0 10 (dk_at dksX21_plainShares_0 14 rfl rfl)
theorem dX21_plainShares_17 : decode cX21_plainShares 17 = .ok (.aload_n 0, 1) := dk_42 (dk_at dksX21_plainShares_0 17 rfl rfl)
theorem dX21_plainShares_18 : decode cX21_plainShares 18 = .ok (.iconst 1, 1) := dk_4 (dk_at dksX21_plainShares_0 18 rfl rfl)
theorem dX21_plainShares_19 : decode cX21_plainShares 19 = .ok (.putfield 354, 3) := dk_181 1 98 (dk_at dksX21_plainShares_0 19 rfl rfl)
theorem dX21_plainShares_22 : decode cX21_plainShares 22 = .ok (.iconst 0, 1) := dk_3 (dk_at dksX21_plainShares_0 22 rfl rfl)
theorem dX21_plainShares_23 : decode cX21_plainShares 23 = .ok (.ireturn, 1) := dk_172 (dk_at dksX21_plainShares_0 23 rfl rfl)
theorem dX21_plainShares_24 : decode cX21_plainShares 24 = .ok (.iload_n 1, 1) := dk_27 (dk_at dksX21_plainShares_1 0 rfl rfl)
theorem dX21_plainShares_25 : decode cX21_plainShares 25 = .ok (.aload_n 0, 1) := dk_42 (dk_at dksX21_plainShares_1 1 rfl rfl)
theorem dX21_plainShares_26 : decode cX21_plainShares 26 = .ok (.getfield 348, 3) := dk_180 1 92 (dk_at dksX21_plainShares_1 2 rfl rfl)
theorem dX21_plainShares_29 : decode cX21_plainShares 29 = .ok (.aload_n 0, 1) := dk_42 (dk_at dksX21_plainShares_1 5 rfl rfl)
theorem dX21_plainShares_30 : decode cX21_plainShares 30 = .ok (.getfield 330, 3) := dk_180 1 74 (dk_at dksX21_plainShares_1 6 rfl rfl)
theorem dX21_plainShares_33 : decode cX21_plainShares 33 = .ok (.isub, 1) := dk_100 (dk_at dksX21_plainShares_1 9 rfl rfl)
theorem dX21_plainShares_34 : decode cX21_plainShares 34 = .ok (.idiv, 1) := dk_108 (dk_at dksX21_plainShares_1 10 rfl rfl)
theorem dX21_plainShares_35 : decode cX21_plainShares 35 = .ok (.ireturn, 1) := dk_172 (dk_at dksX21_plainShares_1 11 rfl rfl)
abbrev cX21_tellsIt : ByteArray := prog_33_method_102_code
def yX21_tellsIt : MethodName := ⟨RX21, "tellsIt", "(I)I"⟩
def dkwX21_tellsIt_2 : List UInt8 := [27, 182, 1, 107, 172]
abbrev dktX21_tellsIt_2 : List UInt8 := dkwX21_tellsIt_2 ++ []
def dkwX21_tellsIt_1 : List UInt8 := [180, 1, 80, 5, 159, 0, 11, 42, 180, 1, 80, 6, 160, 0, 11, 42, 27, 182, 1, 113, 167, 0, 8, 42]
abbrev dktX21_tellsIt_1 : List UInt8 := dkwX21_tellsIt_1 ++ dktX21_tellsIt_2
def dkwX21_tellsIt_0 : List UInt8 := [42, 180, 1, 80, 8, 160, 0, 17, 42, 16, 60, 182, 1, 71, 42, 27, 182, 1, 113, 5, 104, 172, 42]
abbrev dktX21_tellsIt_0 : List UInt8 := dkwX21_tellsIt_0 ++ dktX21_tellsIt_1
theorem dksX21_tellsIt_0 : cX21_tellsIt.data.toList.drop 0 = dktX21_tellsIt_0 := by decide +kernel
theorem dksX21_tellsIt_1 : cX21_tellsIt.data.toList.drop 23 = dktX21_tellsIt_1 := dk_seg dksX21_tellsIt_0 23 rfl rfl
theorem dksX21_tellsIt_2 : cX21_tellsIt.data.toList.drop 47 = dktX21_tellsIt_2 := dk_seg dksX21_tellsIt_1 24 rfl rfl
theorem dX21_tellsIt_0 : decode cX21_tellsIt 0 = .ok (.aload_n 0, 1) := dk_42 (dk_at dksX21_tellsIt_0 0 rfl rfl)
theorem dX21_tellsIt_1 : decode cX21_tellsIt 1 = .ok (.getfield 336, 3) := dk_180 1 80 (dk_at dksX21_tellsIt_0 1 rfl rfl)
theorem dX21_tellsIt_4 : decode cX21_tellsIt 4 = .ok (.iconst 5, 1) := dk_8 (dk_at dksX21_tellsIt_0 4 rfl rfl)
theorem dX21_tellsIt_5 : decode cX21_tellsIt 5 = .ok (.if_icmp .ne 17, 3) := dk_160 0 17 (dk_at dksX21_tellsIt_0 5 rfl rfl)
theorem dX21_tellsIt_8 : decode cX21_tellsIt 8 = .ok (.aload_n 0, 1) := dk_42 (dk_at dksX21_tellsIt_0 8 rfl rfl)
theorem dX21_tellsIt_9 : decode cX21_tellsIt 9 = .ok (.bipush 60, 2) := dk_16 60 (dk_at dksX21_tellsIt_0 9 rfl rfl)
theorem dX21_tellsIt_11 : decode cX21_tellsIt 11 = .ok (.invokevirtual 327, 3) := dk_182 1 71 (dk_at dksX21_tellsIt_0 11 rfl rfl)
theorem dX21_tellsIt_14 : decode cX21_tellsIt 14 = .ok (.aload_n 0, 1) := dk_42 (dk_at dksX21_tellsIt_0 14 rfl rfl)
theorem dX21_tellsIt_15 : decode cX21_tellsIt 15 = .ok (.iload_n 1, 1) := dk_27 (dk_at dksX21_tellsIt_0 15 rfl rfl)
theorem dX21_tellsIt_16 : decode cX21_tellsIt 16 = .ok (.invokevirtual 369, 3) := dk_182 1 113 (dk_at dksX21_tellsIt_0 16 rfl rfl)
theorem dX21_tellsIt_19 : decode cX21_tellsIt 19 = .ok (.iconst 2, 1) := dk_5 (dk_at dksX21_tellsIt_0 19 rfl rfl)
theorem dX21_tellsIt_20 : decode cX21_tellsIt 20 = .ok (.imul, 1) := dk_104 (dk_at dksX21_tellsIt_0 20 rfl rfl)
theorem dX21_tellsIt_21 : decode cX21_tellsIt 21 = .ok (.ireturn, 1) := dk_172 (dk_at dksX21_tellsIt_0 21 rfl rfl)
theorem dX21_tellsIt_22 : decode cX21_tellsIt 22 = .ok (.aload_n 0, 1) := dk_42 (dk_at dksX21_tellsIt_0 22 rfl rfl)
theorem dX21_tellsIt_23 : decode cX21_tellsIt 23 = .ok (.getfield 336, 3) := dk_180 1 80 (dk_at dksX21_tellsIt_1 0 rfl rfl)
theorem dX21_tellsIt_26 : decode cX21_tellsIt 26 = .ok (.iconst 2, 1) := dk_5 (dk_at dksX21_tellsIt_1 3 rfl rfl)
theorem dX21_tellsIt_27 : decode cX21_tellsIt 27 = .ok (.if_icmp .eq 11, 3) := dk_159 0 11 (dk_at dksX21_tellsIt_1 4 rfl rfl)
theorem dX21_tellsIt_30 : decode cX21_tellsIt 30 = .ok (.aload_n 0, 1) := dk_42 (dk_at dksX21_tellsIt_1 7 rfl rfl)
theorem dX21_tellsIt_31 : decode cX21_tellsIt 31 = .ok (.getfield 336, 3) := dk_180 1 80 (dk_at dksX21_tellsIt_1 8 rfl rfl)
theorem dX21_tellsIt_34 : decode cX21_tellsIt 34 = .ok (.iconst 3, 1) := dk_6 (dk_at dksX21_tellsIt_1 11 rfl rfl)
theorem dX21_tellsIt_35 : decode cX21_tellsIt 35 = .ok (.if_icmp .ne 11, 3) := dk_160 0 11 (dk_at dksX21_tellsIt_1 12 rfl rfl)
theorem dX21_tellsIt_38 : decode cX21_tellsIt 38 = .ok (.aload_n 0, 1) := dk_42 (dk_at dksX21_tellsIt_1 15 rfl rfl)
theorem dX21_tellsIt_39 : decode cX21_tellsIt 39 = .ok (.iload_n 1, 1) := dk_27 (dk_at dksX21_tellsIt_1 16 rfl rfl)
theorem dX21_tellsIt_40 : decode cX21_tellsIt 40 = .ok (.invokevirtual 369, 3) := dk_182 1 113 (dk_at dksX21_tellsIt_1 17 rfl rfl)
theorem dX21_tellsIt_43 : decode cX21_tellsIt 43 = .ok (.goto 8, 3) := dk_167 0 8 (dk_at dksX21_tellsIt_1 20 rfl rfl)
theorem dX21_tellsIt_46 : decode cX21_tellsIt 46 = .ok (.aload_n 0, 1) := dk_42 (dk_at dksX21_tellsIt_1 23 rfl rfl)
theorem dX21_tellsIt_47 : decode cX21_tellsIt 47 = .ok (.iload_n 1, 1) := dk_27 (dk_at dksX21_tellsIt_2 0 rfl rfl)
theorem dX21_tellsIt_48 : decode cX21_tellsIt 48 = .ok (.invokevirtual 363, 3) := dk_182 1 107 (dk_at dksX21_tellsIt_2 1 rfl rfl)
theorem dX21_tellsIt_51 : decode cX21_tellsIt 51 = .ok (.ireturn, 1) := dk_172 (dk_at dksX21_tellsIt_2 4 rfl rfl)
abbrev cX21_shakeTells : ByteArray := prog_33_method_101_code
def yX21_shakeTells : MethodName := ⟨RX21, "shakeTells", "(I)I"⟩
def dkwX21_shakeTells_0 : List UInt8 := [42, 16, 31, 182, 1, 71, 42, 27, 182, 1, 107, 61, 28, 42, 42, 180, 1, 74, 182, 1, 110, 96, 172]
abbrev dktX21_shakeTells_0 : List UInt8 := dkwX21_shakeTells_0 ++ []
theorem dksX21_shakeTells_0 : cX21_shakeTells.data.toList.drop 0 = dktX21_shakeTells_0 := by decide +kernel
theorem dX21_shakeTells_0 : decode cX21_shakeTells 0 = .ok (.aload_n 0, 1) := dk_42 (dk_at dksX21_shakeTells_0 0 rfl rfl)
theorem dX21_shakeTells_1 : decode cX21_shakeTells 1 = .ok (.bipush 31, 2) := dk_16 31 (dk_at dksX21_shakeTells_0 1 rfl rfl)
theorem dX21_shakeTells_3 : decode cX21_shakeTells 3 = .ok (.invokevirtual 327, 3) := dk_182 1 71 (dk_at dksX21_shakeTells_0 3 rfl rfl)
theorem dX21_shakeTells_6 : decode cX21_shakeTells 6 = .ok (.aload_n 0, 1) := dk_42 (dk_at dksX21_shakeTells_0 6 rfl rfl)
theorem dX21_shakeTells_7 : decode cX21_shakeTells 7 = .ok (.iload_n 1, 1) := dk_27 (dk_at dksX21_shakeTells_0 7 rfl rfl)
theorem dX21_shakeTells_8 : decode cX21_shakeTells 8 = .ok (.invokevirtual 363, 3) := dk_182 1 107 (dk_at dksX21_shakeTells_0 8 rfl rfl)
theorem dX21_shakeTells_11 : decode cX21_shakeTells 11 = .ok (.istore_n 2, 1) := dk_61 (dk_at dksX21_shakeTells_0 11 rfl rfl)
theorem dX21_shakeTells_12 : decode cX21_shakeTells 12 = .ok (.iload_n 2, 1) := dk_28 (dk_at dksX21_shakeTells_0 12 rfl rfl)
theorem dX21_shakeTells_13 : decode cX21_shakeTells 13 = .ok (.aload_n 0, 1) := dk_42 (dk_at dksX21_shakeTells_0 13 rfl rfl)
theorem dX21_shakeTells_14 : decode cX21_shakeTells 14 = .ok (.aload_n 0, 1) := dk_42 (dk_at dksX21_shakeTells_0 14 rfl rfl)
theorem dX21_shakeTells_15 : decode cX21_shakeTells 15 = .ok (.getfield 330, 3) := dk_180 1 74 (dk_at dksX21_shakeTells_0 15 rfl rfl)
theorem dX21_shakeTells_18 : decode cX21_shakeTells 18 = .ok (.invokevirtual 366, 3) := dk_182 1 110 (dk_at dksX21_shakeTells_0 18 rfl rfl)
theorem dX21_shakeTells_21 : decode cX21_shakeTells 21 = .ok (.iadd, 1) := dk_96 (dk_at dksX21_shakeTells_0 21 rfl rfl)
theorem dX21_shakeTells_22 : decode cX21_shakeTells 22 = .ok (.ireturn, 1) := dk_172 (dk_at dksX21_shakeTells_0 22 rfl rfl)
abbrev cX21_plainTells : ByteArray := prog_33_method_100_code
def yX21_plainTells : MethodName := ⟨RX21, "plainTells", "(I)I"⟩
def dkwX21_plainTells_0 : List UInt8 := [42, 16, 13, 182, 1, 71, 42, 27, 182, 1, 104, 42, 180, 1, 92, 130, 172]
abbrev dktX21_plainTells_0 : List UInt8 := dkwX21_plainTells_0 ++ []
theorem dksX21_plainTells_0 : cX21_plainTells.data.toList.drop 0 = dktX21_plainTells_0 := by decide +kernel
theorem dX21_plainTells_0 : decode cX21_plainTells 0 = .ok (.aload_n 0, 1) := dk_42 (dk_at dksX21_plainTells_0 0 rfl rfl)
theorem dX21_plainTells_1 : decode cX21_plainTells 1 = .ok (.bipush 13, 2) := dk_16 13 (dk_at dksX21_plainTells_0 1 rfl rfl)
theorem dX21_plainTells_3 : decode cX21_plainTells 3 = .ok (.invokevirtual 327, 3) := dk_182 1 71 (dk_at dksX21_plainTells_0 3 rfl rfl)
theorem dX21_plainTells_6 : decode cX21_plainTells 6 = .ok (.aload_n 0, 1) := dk_42 (dk_at dksX21_plainTells_0 6 rfl rfl)
theorem dX21_plainTells_7 : decode cX21_plainTells 7 = .ok (.iload_n 1, 1) := dk_27 (dk_at dksX21_plainTells_0 7 rfl rfl)
theorem dX21_plainTells_8 : decode cX21_plainTells 8 = .ok (.invokevirtual 360, 3) := dk_182 1 104 (dk_at dksX21_plainTells_0 8 rfl rfl)
theorem dX21_plainTells_11 : decode cX21_plainTells 11 = .ok (.aload_n 0, 1) := dk_42 (dk_at dksX21_plainTells_0 11 rfl rfl)
theorem dX21_plainTells_12 : decode cX21_plainTells 12 = .ok (.getfield 348, 3) := dk_180 1 92 (dk_at dksX21_plainTells_0 12 rfl rfl)
theorem dX21_plainTells_15 : decode cX21_plainTells 15 = .ok (.ixor, 1) := dk_130 (dk_at dksX21_plainTells_0 15 rfl rfl)
theorem dX21_plainTells_16 : decode cX21_plainTells 16 = .ok (.ireturn, 1) := dk_172 (dk_at dksX21_plainTells_0 16 rfl rfl)
abbrev cX21_trace : ByteArray := prog_33_method_104_code
def yX21_trace : MethodName := ⟨RX21, "trace", "(I)I"⟩
def dkwX21_trace_1 : List UInt8 := [16, 253, 172]
abbrev dktX21_trace_1 : List UInt8 := dkwX21_trace_1 ++ []
def dkwX21_trace_0 : List UInt8 := [27, 3, 42, 180, 1, 68, 4, 100, 184, 0, 69, 153, 0, 12, 42, 180, 0, 60, 27, 46, 167, 0, 5]
abbrev dktX21_trace_0 : List UInt8 := dkwX21_trace_0 ++ dktX21_trace_1
theorem dksX21_trace_0 : cX21_trace.data.toList.drop 0 = dktX21_trace_0 := by decide +kernel
theorem dksX21_trace_1 : cX21_trace.data.toList.drop 23 = dktX21_trace_1 := dk_seg dksX21_trace_0 23 rfl rfl
theorem dX21_trace_0 : decode cX21_trace 0 = .ok (.iload_n 1, 1) := dk_27 (dk_at dksX21_trace_0 0 rfl rfl)
theorem dX21_trace_1 : decode cX21_trace 1 = .ok (.iconst 0, 1) := dk_3 (dk_at dksX21_trace_0 1 rfl rfl)
theorem dX21_trace_2 : decode cX21_trace 2 = .ok (.aload_n 0, 1) := dk_42 (dk_at dksX21_trace_0 2 rfl rfl)
theorem dX21_trace_3 : decode cX21_trace 3 = .ok (.getfield 324, 3) := dk_180 1 68 (dk_at dksX21_trace_0 3 rfl rfl)
theorem dX21_trace_6 : decode cX21_trace 6 = .ok (.iconst 1, 1) := dk_4 (dk_at dksX21_trace_0 6 rfl rfl)
theorem dX21_trace_7 : decode cX21_trace 7 = .ok (.isub, 1) := dk_100 (dk_at dksX21_trace_0 7 rfl rfl)
theorem dX21_trace_8 : decode cX21_trace 8 = .ok (.invokestatic 69, 3) := dk_184 0 69 (dk_at dksX21_trace_0 8 rfl rfl)
theorem dX21_trace_11 : decode cX21_trace 11 = .ok (.ifCond .eq 12, 3) := dk_153 0 12 (dk_at dksX21_trace_0 11 rfl rfl)
theorem dX21_trace_14 : decode cX21_trace 14 = .ok (.aload_n 0, 1) := dk_42 (dk_at dksX21_trace_0 14 rfl rfl)
theorem dX21_trace_15 : decode cX21_trace 15 = .ok (.getfield 60, 3) := dk_180 0 60 (dk_at dksX21_trace_0 15 rfl rfl)
theorem dX21_trace_18 : decode cX21_trace 18 = .ok (.iload_n 1, 1) := dk_27 (dk_at dksX21_trace_0 18 rfl rfl)
theorem dX21_trace_19 : decode cX21_trace 19 = .ok (.iaload, 1) := dk_46 (dk_at dksX21_trace_0 19 rfl rfl)
theorem dX21_trace_20 : decode cX21_trace 20 = .ok (.goto 5, 3) := dk_167 0 5 (dk_at dksX21_trace_0 20 rfl rfl)
theorem dX21_trace_23 : decode cX21_trace 23 = .ok (.bipush (-3), 2) := dk_16 253 (dk_at dksX21_trace_1 0 rfl rfl)
theorem dX21_trace_25 : decode cX21_trace 25 = .ok (.ireturn, 1) := dk_172 (dk_at dksX21_trace_1 2 rfl rfl)
abbrev cX21_many : ByteArray := prog_33_method_105_code
def yX21_many : MethodName := ⟨RX21, "many", "(I)I"⟩
def dkwX21_many_4 : List UInt8 := [5, 182, 0, 222, 96, 42, 6, 5, 182, 0, 222, 96, 172, 2, 172]
abbrev dktX21_many_4 : List UInt8 := dkwX21_many_4 ++ []
def dkwX21_many_3 : List UInt8 := [180, 0, 79, 172, 42, 180, 1, 68, 172, 42, 3, 5, 182, 0, 222, 42, 4, 5, 182, 0, 222, 96, 42, 5]
abbrev dktX21_many_3 : List UInt8 := dkwX21_many_3 ++ dktX21_many_4
def dkwX21_many_2 : List UInt8 := [42, 180, 0, 7, 3, 46, 172, 42, 180, 0, 76, 172, 42, 180, 0, 200, 172, 42, 180, 0, 203, 172, 42]
abbrev dktX21_many_2 : List UInt8 := dkwX21_many_2 ++ dktX21_many_3
def dkwX21_many_1 : List UInt8 := [170, 0, 0, 0, 0, 0, 103, 0, 0, 0, 0, 0, 0, 0, 6, 0, 0, 0, 43, 0, 0, 0, 50, 0, 0, 0, 55, 0, 0, 0, 60, 0, 0, 0, 65, 0, 0, 0, 70, 0, 0, 0, 75]
abbrev dktX21_many_1 : List UInt8 := dkwX21_many_1 ++ dktX21_many_2
def dkwX21_many_0 : List UInt8 := [27]
abbrev dktX21_many_0 : List UInt8 := dkwX21_many_0 ++ dktX21_many_1
theorem dksX21_many_0 : cX21_many.data.toList.drop 0 = dktX21_many_0 := by decide +kernel
theorem dksX21_many_1 : cX21_many.data.toList.drop 1 = dktX21_many_1 := dk_seg dksX21_many_0 1 rfl rfl
theorem dksX21_many_2 : cX21_many.data.toList.drop 44 = dktX21_many_2 := dk_seg dksX21_many_1 43 rfl rfl
theorem dksX21_many_3 : cX21_many.data.toList.drop 67 = dktX21_many_3 := dk_seg dksX21_many_2 23 rfl rfl
theorem dksX21_many_4 : cX21_many.data.toList.drop 91 = dktX21_many_4 := dk_seg dksX21_many_3 24 rfl rfl
theorem dX21_many_0 : decode cX21_many 0 = .ok (.iload_n 1, 1) := dk_27 (dk_at dksX21_many_0 0 rfl rfl)
theorem dX21_many_1 : decode cX21_many 1 = .ok (.tableswitch 103 0 6 #[43, 50, 55, 60, 65, 70, 75], 43) := by decide +kernel
theorem dX21_many_44 : decode cX21_many 44 = .ok (.aload_n 0, 1) := dk_42 (dk_at dksX21_many_2 0 rfl rfl)
theorem dX21_many_45 : decode cX21_many 45 = .ok (.getfield 7, 3) := dk_180 0 7 (dk_at dksX21_many_2 1 rfl rfl)
theorem dX21_many_48 : decode cX21_many 48 = .ok (.iconst 0, 1) := dk_3 (dk_at dksX21_many_2 4 rfl rfl)
theorem dX21_many_49 : decode cX21_many 49 = .ok (.iaload, 1) := dk_46 (dk_at dksX21_many_2 5 rfl rfl)
theorem dX21_many_50 : decode cX21_many 50 = .ok (.ireturn, 1) := dk_172 (dk_at dksX21_many_2 6 rfl rfl)
theorem dX21_many_51 : decode cX21_many 51 = .ok (.aload_n 0, 1) := dk_42 (dk_at dksX21_many_2 7 rfl rfl)
theorem dX21_many_52 : decode cX21_many 52 = .ok (.getfield 76, 3) := dk_180 0 76 (dk_at dksX21_many_2 8 rfl rfl)
theorem dX21_many_55 : decode cX21_many 55 = .ok (.ireturn, 1) := dk_172 (dk_at dksX21_many_2 11 rfl rfl)
theorem dX21_many_56 : decode cX21_many 56 = .ok (.aload_n 0, 1) := dk_42 (dk_at dksX21_many_2 12 rfl rfl)
theorem dX21_many_57 : decode cX21_many 57 = .ok (.getfield 200, 3) := dk_180 0 200 (dk_at dksX21_many_2 13 rfl rfl)
theorem dX21_many_60 : decode cX21_many 60 = .ok (.ireturn, 1) := dk_172 (dk_at dksX21_many_2 16 rfl rfl)
theorem dX21_many_61 : decode cX21_many 61 = .ok (.aload_n 0, 1) := dk_42 (dk_at dksX21_many_2 17 rfl rfl)
theorem dX21_many_62 : decode cX21_many 62 = .ok (.getfield 203, 3) := dk_180 0 203 (dk_at dksX21_many_2 18 rfl rfl)
theorem dX21_many_65 : decode cX21_many 65 = .ok (.ireturn, 1) := dk_172 (dk_at dksX21_many_2 21 rfl rfl)
theorem dX21_many_66 : decode cX21_many 66 = .ok (.aload_n 0, 1) := dk_42 (dk_at dksX21_many_2 22 rfl rfl)
theorem dX21_many_67 : decode cX21_many 67 = .ok (.getfield 79, 3) := dk_180 0 79 (dk_at dksX21_many_3 0 rfl rfl)
theorem dX21_many_70 : decode cX21_many 70 = .ok (.ireturn, 1) := dk_172 (dk_at dksX21_many_3 3 rfl rfl)
theorem dX21_many_71 : decode cX21_many 71 = .ok (.aload_n 0, 1) := dk_42 (dk_at dksX21_many_3 4 rfl rfl)
theorem dX21_many_72 : decode cX21_many 72 = .ok (.getfield 324, 3) := dk_180 1 68 (dk_at dksX21_many_3 5 rfl rfl)
theorem dX21_many_75 : decode cX21_many 75 = .ok (.ireturn, 1) := dk_172 (dk_at dksX21_many_3 8 rfl rfl)
theorem dX21_many_76 : decode cX21_many 76 = .ok (.aload_n 0, 1) := dk_42 (dk_at dksX21_many_3 9 rfl rfl)
theorem dX21_many_77 : decode cX21_many 77 = .ok (.iconst 0, 1) := dk_3 (dk_at dksX21_many_3 10 rfl rfl)
theorem dX21_many_78 : decode cX21_many 78 = .ok (.iconst 2, 1) := dk_5 (dk_at dksX21_many_3 11 rfl rfl)
theorem dX21_many_79 : decode cX21_many 79 = .ok (.invokevirtual 222, 3) := dk_182 0 222 (dk_at dksX21_many_3 12 rfl rfl)
theorem dX21_many_82 : decode cX21_many 82 = .ok (.aload_n 0, 1) := dk_42 (dk_at dksX21_many_3 15 rfl rfl)
theorem dX21_many_83 : decode cX21_many 83 = .ok (.iconst 1, 1) := dk_4 (dk_at dksX21_many_3 16 rfl rfl)
theorem dX21_many_84 : decode cX21_many 84 = .ok (.iconst 2, 1) := dk_5 (dk_at dksX21_many_3 17 rfl rfl)
theorem dX21_many_85 : decode cX21_many 85 = .ok (.invokevirtual 222, 3) := dk_182 0 222 (dk_at dksX21_many_3 18 rfl rfl)
theorem dX21_many_88 : decode cX21_many 88 = .ok (.iadd, 1) := dk_96 (dk_at dksX21_many_3 21 rfl rfl)
theorem dX21_many_89 : decode cX21_many 89 = .ok (.aload_n 0, 1) := dk_42 (dk_at dksX21_many_3 22 rfl rfl)
theorem dX21_many_90 : decode cX21_many 90 = .ok (.iconst 2, 1) := dk_5 (dk_at dksX21_many_3 23 rfl rfl)
theorem dX21_many_91 : decode cX21_many 91 = .ok (.iconst 2, 1) := dk_5 (dk_at dksX21_many_4 0 rfl rfl)
theorem dX21_many_92 : decode cX21_many 92 = .ok (.invokevirtual 222, 3) := dk_182 0 222 (dk_at dksX21_many_4 1 rfl rfl)
theorem dX21_many_95 : decode cX21_many 95 = .ok (.iadd, 1) := dk_96 (dk_at dksX21_many_4 4 rfl rfl)
theorem dX21_many_96 : decode cX21_many 96 = .ok (.aload_n 0, 1) := dk_42 (dk_at dksX21_many_4 5 rfl rfl)
theorem dX21_many_97 : decode cX21_many 97 = .ok (.iconst 3, 1) := dk_6 (dk_at dksX21_many_4 6 rfl rfl)
theorem dX21_many_98 : decode cX21_many 98 = .ok (.iconst 2, 1) := dk_5 (dk_at dksX21_many_4 7 rfl rfl)
theorem dX21_many_99 : decode cX21_many 99 = .ok (.invokevirtual 222, 3) := dk_182 0 222 (dk_at dksX21_many_4 8 rfl rfl)
theorem dX21_many_102 : decode cX21_many 102 = .ok (.iadd, 1) := dk_96 (dk_at dksX21_many_4 11 rfl rfl)
theorem dX21_many_103 : decode cX21_many 103 = .ok (.ireturn, 1) := dk_172 (dk_at dksX21_many_4 12 rfl rfl)
theorem dX21_many_104 : decode cX21_many 104 = .ok (.iconst (-1), 1) := dk_2 (dk_at dksX21_many_4 13 rfl rfl)
theorem dX21_many_105 : decode cX21_many 105 = .ok (.ireturn, 1) := dk_172 (dk_at dksX21_many_4 14 rfl rfl)
abbrev cX21_keep : ByteArray := prog_33_method_108_code
def yX21_keep : MethodName := ⟨RX21, "keep", "()I"⟩
def dkwX21_keep_0 : List UInt8 := [42, 4, 182, 1, 126, 42, 4, 181, 1, 130, 4, 172]
abbrev dktX21_keep_0 : List UInt8 := dkwX21_keep_0 ++ []
theorem dksX21_keep_0 : cX21_keep.data.toList.drop 0 = dktX21_keep_0 := by decide +kernel
theorem dX21_keep_0 : decode cX21_keep 0 = .ok (.aload_n 0, 1) := dk_42 (dk_at dksX21_keep_0 0 rfl rfl)
theorem dX21_keep_1 : decode cX21_keep 1 = .ok (.iconst 1, 1) := dk_4 (dk_at dksX21_keep_0 1 rfl rfl)
theorem dX21_keep_2 : decode cX21_keep 2 = .ok (.invokevirtual 382, 3) := dk_182 1 126 (dk_at dksX21_keep_0 2 rfl rfl)
theorem dX21_keep_5 : decode cX21_keep 5 = .ok (.aload_n 0, 1) := dk_42 (dk_at dksX21_keep_0 5 rfl rfl)
theorem dX21_keep_6 : decode cX21_keep 6 = .ok (.iconst 1, 1) := dk_4 (dk_at dksX21_keep_0 6 rfl rfl)
theorem dX21_keep_7 : decode cX21_keep 7 = .ok (.putfield 386, 3) := dk_181 1 130 (dk_at dksX21_keep_0 7 rfl rfl)
theorem dX21_keep_10 : decode cX21_keep 10 = .ok (.iconst 1, 1) := dk_4 (dk_at dksX21_keep_0 10 rfl rfl)
theorem dX21_keep_11 : decode cX21_keep 11 = .ok (.ireturn, 1) := dk_172 (dk_at dksX21_keep_0 11 rfl rfl)
abbrev cX21_moveAll : ByteArray := prog_33_method_107_code
def yX21_moveAll : MethodName := ⟨RX21, "moveAll", "(Z)V"⟩
def dkwX21_moveAll_4 : List UInt8 := [182, 1, 122, 42, 42, 180, 0, 28, 16, 16, 27, 182, 1, 122, 177]
abbrev dktX21_moveAll_4 : List UInt8 := dkwX21_moveAll_4 ++ []
def dkwX21_moveAll_3 : List UInt8 := [16, 12, 27, 182, 1, 122, 42, 42, 180, 0, 22, 16, 12, 27, 182, 1, 122, 42, 42, 180, 0, 25, 7, 27]
abbrev dktX21_moveAll_3 : List UInt8 := dkwX21_moveAll_3 ++ dktX21_moveAll_4
def dkwX21_moveAll_2 : List UInt8 := [180, 0, 7, 16, 94, 27, 182, 1, 122, 42, 42, 180, 0, 13, 7, 27, 182, 1, 122, 42, 42, 180, 0, 19]
abbrev dktX21_moveAll_2 : List UInt8 := dkwX21_moveAll_2 ++ dktX21_moveAll_3
def dkwX21_moveAll_1 : List UInt8 := [79, 42, 180, 0, 66, 5, 42, 180, 0, 31, 79, 42, 42, 180, 0, 66, 6, 27, 182, 1, 122, 42, 42]
abbrev dktX21_moveAll_1 : List UInt8 := dkwX21_moveAll_1 ++ dktX21_moveAll_2
def dkwX21_moveAll_0 : List UInt8 := [42, 3, 181, 1, 119, 42, 180, 0, 66, 3, 42, 180, 0, 76, 79, 42, 180, 0, 66, 4, 42, 180, 0, 200]
abbrev dktX21_moveAll_0 : List UInt8 := dkwX21_moveAll_0 ++ dktX21_moveAll_1
theorem dksX21_moveAll_0 : cX21_moveAll.data.toList.drop 0 = dktX21_moveAll_0 := by decide +kernel
theorem dksX21_moveAll_1 : cX21_moveAll.data.toList.drop 24 = dktX21_moveAll_1 := dk_seg dksX21_moveAll_0 24 rfl rfl
theorem dksX21_moveAll_2 : cX21_moveAll.data.toList.drop 47 = dktX21_moveAll_2 := dk_seg dksX21_moveAll_1 23 rfl rfl
theorem dksX21_moveAll_3 : cX21_moveAll.data.toList.drop 71 = dktX21_moveAll_3 := dk_seg dksX21_moveAll_2 24 rfl rfl
theorem dksX21_moveAll_4 : cX21_moveAll.data.toList.drop 95 = dktX21_moveAll_4 := dk_seg dksX21_moveAll_3 24 rfl rfl
theorem dX21_moveAll_0 : decode cX21_moveAll 0 = .ok (.aload_n 0, 1) := dk_42 (dk_at dksX21_moveAll_0 0 rfl rfl)
theorem dX21_moveAll_1 : decode cX21_moveAll 1 = .ok (.iconst 0, 1) := dk_3 (dk_at dksX21_moveAll_0 1 rfl rfl)
theorem dX21_moveAll_2 : decode cX21_moveAll 2 = .ok (.putfield 375, 3) := dk_181 1 119 (dk_at dksX21_moveAll_0 2 rfl rfl)
theorem dX21_moveAll_5 : decode cX21_moveAll 5 = .ok (.aload_n 0, 1) := dk_42 (dk_at dksX21_moveAll_0 5 rfl rfl)
theorem dX21_moveAll_6 : decode cX21_moveAll 6 = .ok (.getfield 66, 3) := dk_180 0 66 (dk_at dksX21_moveAll_0 6 rfl rfl)
theorem dX21_moveAll_9 : decode cX21_moveAll 9 = .ok (.iconst 0, 1) := dk_3 (dk_at dksX21_moveAll_0 9 rfl rfl)
theorem dX21_moveAll_10 : decode cX21_moveAll 10 = .ok (.aload_n 0, 1) := dk_42 (dk_at dksX21_moveAll_0 10 rfl rfl)
theorem dX21_moveAll_11 : decode cX21_moveAll 11 = .ok (.getfield 76, 3) := dk_180 0 76 (dk_at dksX21_moveAll_0 11 rfl rfl)
theorem dX21_moveAll_14 : decode cX21_moveAll 14 = .ok (.iastore, 1) := dk_79 (dk_at dksX21_moveAll_0 14 rfl rfl)
theorem dX21_moveAll_15 : decode cX21_moveAll 15 = .ok (.aload_n 0, 1) := dk_42 (dk_at dksX21_moveAll_0 15 rfl rfl)
theorem dX21_moveAll_16 : decode cX21_moveAll 16 = .ok (.getfield 66, 3) := dk_180 0 66 (dk_at dksX21_moveAll_0 16 rfl rfl)
theorem dX21_moveAll_19 : decode cX21_moveAll 19 = .ok (.iconst 1, 1) := dk_4 (dk_at dksX21_moveAll_0 19 rfl rfl)
theorem dX21_moveAll_20 : decode cX21_moveAll 20 = .ok (.aload_n 0, 1) := dk_42 (dk_at dksX21_moveAll_0 20 rfl rfl)
theorem dX21_moveAll_21 : decode cX21_moveAll 21 = .ok (.getfield 200, 3) := dk_180 0 200 (dk_at dksX21_moveAll_0 21 rfl rfl)
theorem dX21_moveAll_24 : decode cX21_moveAll 24 = .ok (.iastore, 1) := dk_79 (dk_at dksX21_moveAll_1 0 rfl rfl)
theorem dX21_moveAll_25 : decode cX21_moveAll 25 = .ok (.aload_n 0, 1) := dk_42 (dk_at dksX21_moveAll_1 1 rfl rfl)
theorem dX21_moveAll_26 : decode cX21_moveAll 26 = .ok (.getfield 66, 3) := dk_180 0 66 (dk_at dksX21_moveAll_1 2 rfl rfl)
theorem dX21_moveAll_29 : decode cX21_moveAll 29 = .ok (.iconst 2, 1) := dk_5 (dk_at dksX21_moveAll_1 5 rfl rfl)
theorem dX21_moveAll_30 : decode cX21_moveAll 30 = .ok (.aload_n 0, 1) := dk_42 (dk_at dksX21_moveAll_1 6 rfl rfl)
theorem dX21_moveAll_31 : decode cX21_moveAll 31 = .ok (.getfield 31, 3) := dk_180 0 31 (dk_at dksX21_moveAll_1 7 rfl rfl)
theorem dX21_moveAll_34 : decode cX21_moveAll 34 = .ok (.iastore, 1) := dk_79 (dk_at dksX21_moveAll_1 10 rfl rfl)
theorem dX21_moveAll_35 : decode cX21_moveAll 35 = .ok (.aload_n 0, 1) := dk_42 (dk_at dksX21_moveAll_1 11 rfl rfl)
theorem dX21_moveAll_36 : decode cX21_moveAll 36 = .ok (.aload_n 0, 1) := dk_42 (dk_at dksX21_moveAll_1 12 rfl rfl)
theorem dX21_moveAll_37 : decode cX21_moveAll 37 = .ok (.getfield 66, 3) := dk_180 0 66 (dk_at dksX21_moveAll_1 13 rfl rfl)
theorem dX21_moveAll_40 : decode cX21_moveAll 40 = .ok (.iconst 3, 1) := dk_6 (dk_at dksX21_moveAll_1 16 rfl rfl)
theorem dX21_moveAll_41 : decode cX21_moveAll 41 = .ok (.iload_n 1, 1) := dk_27 (dk_at dksX21_moveAll_1 17 rfl rfl)
theorem dX21_moveAll_42 : decode cX21_moveAll 42 = .ok (.invokevirtual 378, 3) := dk_182 1 122 (dk_at dksX21_moveAll_1 18 rfl rfl)
theorem dX21_moveAll_45 : decode cX21_moveAll 45 = .ok (.aload_n 0, 1) := dk_42 (dk_at dksX21_moveAll_1 21 rfl rfl)
theorem dX21_moveAll_46 : decode cX21_moveAll 46 = .ok (.aload_n 0, 1) := dk_42 (dk_at dksX21_moveAll_1 22 rfl rfl)
theorem dX21_moveAll_47 : decode cX21_moveAll 47 = .ok (.getfield 7, 3) := dk_180 0 7 (dk_at dksX21_moveAll_2 0 rfl rfl)
theorem dX21_moveAll_50 : decode cX21_moveAll 50 = .ok (.bipush 94, 2) := dk_16 94 (dk_at dksX21_moveAll_2 3 rfl rfl)
theorem dX21_moveAll_52 : decode cX21_moveAll 52 = .ok (.iload_n 1, 1) := dk_27 (dk_at dksX21_moveAll_2 5 rfl rfl)
theorem dX21_moveAll_53 : decode cX21_moveAll 53 = .ok (.invokevirtual 378, 3) := dk_182 1 122 (dk_at dksX21_moveAll_2 6 rfl rfl)
theorem dX21_moveAll_56 : decode cX21_moveAll 56 = .ok (.aload_n 0, 1) := dk_42 (dk_at dksX21_moveAll_2 9 rfl rfl)
theorem dX21_moveAll_57 : decode cX21_moveAll 57 = .ok (.aload_n 0, 1) := dk_42 (dk_at dksX21_moveAll_2 10 rfl rfl)
theorem dX21_moveAll_58 : decode cX21_moveAll 58 = .ok (.getfield 13, 3) := dk_180 0 13 (dk_at dksX21_moveAll_2 11 rfl rfl)
theorem dX21_moveAll_61 : decode cX21_moveAll 61 = .ok (.iconst 4, 1) := dk_7 (dk_at dksX21_moveAll_2 14 rfl rfl)
theorem dX21_moveAll_62 : decode cX21_moveAll 62 = .ok (.iload_n 1, 1) := dk_27 (dk_at dksX21_moveAll_2 15 rfl rfl)
theorem dX21_moveAll_63 : decode cX21_moveAll 63 = .ok (.invokevirtual 378, 3) := dk_182 1 122 (dk_at dksX21_moveAll_2 16 rfl rfl)
theorem dX21_moveAll_66 : decode cX21_moveAll 66 = .ok (.aload_n 0, 1) := dk_42 (dk_at dksX21_moveAll_2 19 rfl rfl)
theorem dX21_moveAll_67 : decode cX21_moveAll 67 = .ok (.aload_n 0, 1) := dk_42 (dk_at dksX21_moveAll_2 20 rfl rfl)
theorem dX21_moveAll_68 : decode cX21_moveAll 68 = .ok (.getfield 19, 3) := dk_180 0 19 (dk_at dksX21_moveAll_2 21 rfl rfl)
theorem dX21_moveAll_71 : decode cX21_moveAll 71 = .ok (.bipush 12, 2) := dk_16 12 (dk_at dksX21_moveAll_3 0 rfl rfl)
theorem dX21_moveAll_73 : decode cX21_moveAll 73 = .ok (.iload_n 1, 1) := dk_27 (dk_at dksX21_moveAll_3 2 rfl rfl)
theorem dX21_moveAll_74 : decode cX21_moveAll 74 = .ok (.invokevirtual 378, 3) := dk_182 1 122 (dk_at dksX21_moveAll_3 3 rfl rfl)
theorem dX21_moveAll_77 : decode cX21_moveAll 77 = .ok (.aload_n 0, 1) := dk_42 (dk_at dksX21_moveAll_3 6 rfl rfl)
theorem dX21_moveAll_78 : decode cX21_moveAll 78 = .ok (.aload_n 0, 1) := dk_42 (dk_at dksX21_moveAll_3 7 rfl rfl)
theorem dX21_moveAll_79 : decode cX21_moveAll 79 = .ok (.getfield 22, 3) := dk_180 0 22 (dk_at dksX21_moveAll_3 8 rfl rfl)
theorem dX21_moveAll_82 : decode cX21_moveAll 82 = .ok (.bipush 12, 2) := dk_16 12 (dk_at dksX21_moveAll_3 11 rfl rfl)
theorem dX21_moveAll_84 : decode cX21_moveAll 84 = .ok (.iload_n 1, 1) := dk_27 (dk_at dksX21_moveAll_3 13 rfl rfl)
theorem dX21_moveAll_85 : decode cX21_moveAll 85 = .ok (.invokevirtual 378, 3) := dk_182 1 122 (dk_at dksX21_moveAll_3 14 rfl rfl)
theorem dX21_moveAll_88 : decode cX21_moveAll 88 = .ok (.aload_n 0, 1) := dk_42 (dk_at dksX21_moveAll_3 17 rfl rfl)
theorem dX21_moveAll_89 : decode cX21_moveAll 89 = .ok (.aload_n 0, 1) := dk_42 (dk_at dksX21_moveAll_3 18 rfl rfl)
theorem dX21_moveAll_90 : decode cX21_moveAll 90 = .ok (.getfield 25, 3) := dk_180 0 25 (dk_at dksX21_moveAll_3 19 rfl rfl)
theorem dX21_moveAll_93 : decode cX21_moveAll 93 = .ok (.iconst 4, 1) := dk_7 (dk_at dksX21_moveAll_3 22 rfl rfl)
theorem dX21_moveAll_94 : decode cX21_moveAll 94 = .ok (.iload_n 1, 1) := dk_27 (dk_at dksX21_moveAll_3 23 rfl rfl)
theorem dX21_moveAll_95 : decode cX21_moveAll 95 = .ok (.invokevirtual 378, 3) := dk_182 1 122 (dk_at dksX21_moveAll_4 0 rfl rfl)
theorem dX21_moveAll_98 : decode cX21_moveAll 98 = .ok (.aload_n 0, 1) := dk_42 (dk_at dksX21_moveAll_4 3 rfl rfl)
theorem dX21_moveAll_99 : decode cX21_moveAll 99 = .ok (.aload_n 0, 1) := dk_42 (dk_at dksX21_moveAll_4 4 rfl rfl)
theorem dX21_moveAll_100 : decode cX21_moveAll 100 = .ok (.getfield 28, 3) := dk_180 0 28 (dk_at dksX21_moveAll_4 5 rfl rfl)
theorem dX21_moveAll_103 : decode cX21_moveAll 103 = .ok (.bipush 16, 2) := dk_16 16 (dk_at dksX21_moveAll_4 8 rfl rfl)
theorem dX21_moveAll_105 : decode cX21_moveAll 105 = .ok (.iload_n 1, 1) := dk_27 (dk_at dksX21_moveAll_4 10 rfl rfl)
theorem dX21_moveAll_106 : decode cX21_moveAll 106 = .ok (.invokevirtual 378, 3) := dk_182 1 122 (dk_at dksX21_moveAll_4 11 rfl rfl)
theorem dX21_moveAll_109 : decode cX21_moveAll 109 = .ok (.return_, 1) := dk_177 (dk_at dksX21_moveAll_4 14 rfl rfl)
abbrev cX21_moveRow : ByteArray := prog_33_method_106_code
def yX21_moveRow : MethodName := ⟨RX21, "moveRow", "([IIZ)V"⟩
def dkwX21_moveRow_2 : List UInt8 := [96, 181, 1, 119, 132, 4, 1, 167, 255, 204, 177]
abbrev dktX21_moveRow_2 : List UInt8 := dkwX21_moveRow_2 ++ []
def dkwX21_moveRow_1 : List UInt8 := [46, 79, 167, 0, 16, 43, 21, 4, 42, 180, 0, 63, 42, 180, 1, 119, 46, 79, 42, 89, 180, 1, 119, 4]
abbrev dktX21_moveRow_1 : List UInt8 := dkwX21_moveRow_1 ++ dktX21_moveRow_2
def dkwX21_moveRow_0 : List UInt8 := [3, 54, 4, 21, 4, 28, 162, 0, 52, 29, 153, 0, 19, 42, 180, 0, 63, 42, 180, 1, 119, 43, 21, 4]
abbrev dktX21_moveRow_0 : List UInt8 := dkwX21_moveRow_0 ++ dktX21_moveRow_1
theorem dksX21_moveRow_0 : cX21_moveRow.data.toList.drop 0 = dktX21_moveRow_0 := by decide +kernel
theorem dksX21_moveRow_1 : cX21_moveRow.data.toList.drop 24 = dktX21_moveRow_1 := dk_seg dksX21_moveRow_0 24 rfl rfl
theorem dksX21_moveRow_2 : cX21_moveRow.data.toList.drop 48 = dktX21_moveRow_2 := dk_seg dksX21_moveRow_1 24 rfl rfl
theorem dX21_moveRow_0 : decode cX21_moveRow 0 = .ok (.iconst 0, 1) := dk_3 (dk_at dksX21_moveRow_0 0 rfl rfl)
theorem dX21_moveRow_1 : decode cX21_moveRow 1 = .ok (.istore 4, 2) := dk_54 4 (dk_at dksX21_moveRow_0 1 rfl rfl)
theorem dX21_moveRow_3 : decode cX21_moveRow 3 = .ok (.iload 4, 2) := dk_21 4 (dk_at dksX21_moveRow_0 3 rfl rfl)
theorem dX21_moveRow_5 : decode cX21_moveRow 5 = .ok (.iload_n 2, 1) := dk_28 (dk_at dksX21_moveRow_0 5 rfl rfl)
theorem dX21_moveRow_6 : decode cX21_moveRow 6 = .ok (.if_icmp .ge 52, 3) := dk_162 0 52 (dk_at dksX21_moveRow_0 6 rfl rfl)
theorem dX21_moveRow_9 : decode cX21_moveRow 9 = .ok (.iload_n 3, 1) := dk_29 (dk_at dksX21_moveRow_0 9 rfl rfl)
theorem dX21_moveRow_10 : decode cX21_moveRow 10 = .ok (.ifCond .eq 19, 3) := dk_153 0 19 (dk_at dksX21_moveRow_0 10 rfl rfl)
theorem dX21_moveRow_13 : decode cX21_moveRow 13 = .ok (.aload_n 0, 1) := dk_42 (dk_at dksX21_moveRow_0 13 rfl rfl)
theorem dX21_moveRow_14 : decode cX21_moveRow 14 = .ok (.getfield 63, 3) := dk_180 0 63 (dk_at dksX21_moveRow_0 14 rfl rfl)
theorem dX21_moveRow_17 : decode cX21_moveRow 17 = .ok (.aload_n 0, 1) := dk_42 (dk_at dksX21_moveRow_0 17 rfl rfl)
theorem dX21_moveRow_18 : decode cX21_moveRow 18 = .ok (.getfield 375, 3) := dk_180 1 119 (dk_at dksX21_moveRow_0 18 rfl rfl)
theorem dX21_moveRow_21 : decode cX21_moveRow 21 = .ok (.aload_n 1, 1) := dk_43 (dk_at dksX21_moveRow_0 21 rfl rfl)
theorem dX21_moveRow_22 : decode cX21_moveRow 22 = .ok (.iload 4, 2) := dk_21 4 (dk_at dksX21_moveRow_0 22 rfl rfl)
theorem dX21_moveRow_24 : decode cX21_moveRow 24 = .ok (.iaload, 1) := dk_46 (dk_at dksX21_moveRow_1 0 rfl rfl)
theorem dX21_moveRow_25 : decode cX21_moveRow 25 = .ok (.iastore, 1) := dk_79 (dk_at dksX21_moveRow_1 1 rfl rfl)
theorem dX21_moveRow_26 : decode cX21_moveRow 26 = .ok (.goto 16, 3) := dk_167 0 16 (dk_at dksX21_moveRow_1 2 rfl rfl)
theorem dX21_moveRow_29 : decode cX21_moveRow 29 = .ok (.aload_n 1, 1) := dk_43 (dk_at dksX21_moveRow_1 5 rfl rfl)
theorem dX21_moveRow_30 : decode cX21_moveRow 30 = .ok (.iload 4, 2) := dk_21 4 (dk_at dksX21_moveRow_1 6 rfl rfl)
theorem dX21_moveRow_32 : decode cX21_moveRow 32 = .ok (.aload_n 0, 1) := dk_42 (dk_at dksX21_moveRow_1 8 rfl rfl)
theorem dX21_moveRow_33 : decode cX21_moveRow 33 = .ok (.getfield 63, 3) := dk_180 0 63 (dk_at dksX21_moveRow_1 9 rfl rfl)
theorem dX21_moveRow_36 : decode cX21_moveRow 36 = .ok (.aload_n 0, 1) := dk_42 (dk_at dksX21_moveRow_1 12 rfl rfl)
theorem dX21_moveRow_37 : decode cX21_moveRow 37 = .ok (.getfield 375, 3) := dk_180 1 119 (dk_at dksX21_moveRow_1 13 rfl rfl)
theorem dX21_moveRow_40 : decode cX21_moveRow 40 = .ok (.iaload, 1) := dk_46 (dk_at dksX21_moveRow_1 16 rfl rfl)
theorem dX21_moveRow_41 : decode cX21_moveRow 41 = .ok (.iastore, 1) := dk_79 (dk_at dksX21_moveRow_1 17 rfl rfl)
theorem dX21_moveRow_42 : decode cX21_moveRow 42 = .ok (.aload_n 0, 1) := dk_42 (dk_at dksX21_moveRow_1 18 rfl rfl)
theorem dX21_moveRow_43 : decode cX21_moveRow 43 = .ok (.dup, 1) := dk_89 (dk_at dksX21_moveRow_1 19 rfl rfl)
theorem dX21_moveRow_44 : decode cX21_moveRow 44 = .ok (.getfield 375, 3) := dk_180 1 119 (dk_at dksX21_moveRow_1 20 rfl rfl)
theorem dX21_moveRow_47 : decode cX21_moveRow 47 = .ok (.iconst 1, 1) := dk_4 (dk_at dksX21_moveRow_1 23 rfl rfl)
theorem dX21_moveRow_48 : decode cX21_moveRow 48 = .ok (.iadd, 1) := dk_96 (dk_at dksX21_moveRow_2 0 rfl rfl)
theorem dX21_moveRow_49 : decode cX21_moveRow 49 = .ok (.putfield 375, 3) := dk_181 1 119 (dk_at dksX21_moveRow_2 1 rfl rfl)
theorem dX21_moveRow_52 : decode cX21_moveRow 52 = .ok (.iinc 4 1, 3) := dk_132 4 1 (dk_at dksX21_moveRow_2 4 rfl rfl)
theorem dX21_moveRow_55 : decode cX21_moveRow 55 = .ok (.goto (-52), 3) := dk_167 255 204 (dk_at dksX21_moveRow_2 7 rfl rfl)
theorem dX21_moveRow_58 : decode cX21_moveRow 58 = .ok (.return_, 1) := dk_177 (dk_at dksX21_moveRow_2 10 rfl rfl)
abbrev cX21_again : ByteArray := prog_33_method_109_code
def yX21_again : MethodName := ⟨RX21, "again", "()I"⟩
def dkwX21_again_2 : List UInt8 := [180, 0, 7, 3, 46, 172]
abbrev dktX21_again_2 : List UInt8 := dkwX21_again_2 ++ []
def dkwX21_again_1 : List UInt8 := [181, 0, 76, 42, 42, 180, 0, 66, 4, 46, 181, 0, 200, 42, 42, 180, 0, 66, 5, 46, 181, 0, 31, 42]
abbrev dktX21_again_1 : List UInt8 := dkwX21_again_1 ++ dktX21_again_2
def dkwX21_again_0 : List UInt8 := [42, 180, 1, 130, 154, 0, 6, 16, 253, 172, 42, 3, 182, 1, 126, 42, 42, 180, 0, 66, 3, 46]
abbrev dktX21_again_0 : List UInt8 := dkwX21_again_0 ++ dktX21_again_1
theorem dksX21_again_0 : cX21_again.data.toList.drop 0 = dktX21_again_0 := by decide +kernel
theorem dksX21_again_1 : cX21_again.data.toList.drop 22 = dktX21_again_1 := dk_seg dksX21_again_0 22 rfl rfl
theorem dksX21_again_2 : cX21_again.data.toList.drop 46 = dktX21_again_2 := dk_seg dksX21_again_1 24 rfl rfl
theorem dX21_again_0 : decode cX21_again 0 = .ok (.aload_n 0, 1) := dk_42 (dk_at dksX21_again_0 0 rfl rfl)
theorem dX21_again_1 : decode cX21_again 1 = .ok (.getfield 386, 3) := dk_180 1 130 (dk_at dksX21_again_0 1 rfl rfl)
theorem dX21_again_4 : decode cX21_again 4 = .ok (.ifCond .ne 6, 3) := dk_154 0 6 (dk_at dksX21_again_0 4 rfl rfl)
theorem dX21_again_7 : decode cX21_again 7 = .ok (.bipush (-3), 2) := dk_16 253 (dk_at dksX21_again_0 7 rfl rfl)
theorem dX21_again_9 : decode cX21_again 9 = .ok (.ireturn, 1) := dk_172 (dk_at dksX21_again_0 9 rfl rfl)
theorem dX21_again_10 : decode cX21_again 10 = .ok (.aload_n 0, 1) := dk_42 (dk_at dksX21_again_0 10 rfl rfl)
theorem dX21_again_11 : decode cX21_again 11 = .ok (.iconst 0, 1) := dk_3 (dk_at dksX21_again_0 11 rfl rfl)
theorem dX21_again_12 : decode cX21_again 12 = .ok (.invokevirtual 382, 3) := dk_182 1 126 (dk_at dksX21_again_0 12 rfl rfl)
theorem dX21_again_15 : decode cX21_again 15 = .ok (.aload_n 0, 1) := dk_42 (dk_at dksX21_again_0 15 rfl rfl)
theorem dX21_again_16 : decode cX21_again 16 = .ok (.aload_n 0, 1) := dk_42 (dk_at dksX21_again_0 16 rfl rfl)
theorem dX21_again_17 : decode cX21_again 17 = .ok (.getfield 66, 3) := dk_180 0 66 (dk_at dksX21_again_0 17 rfl rfl)
theorem dX21_again_20 : decode cX21_again 20 = .ok (.iconst 0, 1) := dk_3 (dk_at dksX21_again_0 20 rfl rfl)
theorem dX21_again_21 : decode cX21_again 21 = .ok (.iaload, 1) := dk_46 (dk_at dksX21_again_0 21 rfl rfl)
theorem dX21_again_22 : decode cX21_again 22 = .ok (.putfield 76, 3) := dk_181 0 76 (dk_at dksX21_again_1 0 rfl rfl)
theorem dX21_again_25 : decode cX21_again 25 = .ok (.aload_n 0, 1) := dk_42 (dk_at dksX21_again_1 3 rfl rfl)
theorem dX21_again_26 : decode cX21_again 26 = .ok (.aload_n 0, 1) := dk_42 (dk_at dksX21_again_1 4 rfl rfl)
theorem dX21_again_27 : decode cX21_again 27 = .ok (.getfield 66, 3) := dk_180 0 66 (dk_at dksX21_again_1 5 rfl rfl)
theorem dX21_again_30 : decode cX21_again 30 = .ok (.iconst 1, 1) := dk_4 (dk_at dksX21_again_1 8 rfl rfl)
theorem dX21_again_31 : decode cX21_again 31 = .ok (.iaload, 1) := dk_46 (dk_at dksX21_again_1 9 rfl rfl)
theorem dX21_again_32 : decode cX21_again 32 = .ok (.putfield 200, 3) := dk_181 0 200 (dk_at dksX21_again_1 10 rfl rfl)
theorem dX21_again_35 : decode cX21_again 35 = .ok (.aload_n 0, 1) := dk_42 (dk_at dksX21_again_1 13 rfl rfl)
theorem dX21_again_36 : decode cX21_again 36 = .ok (.aload_n 0, 1) := dk_42 (dk_at dksX21_again_1 14 rfl rfl)
theorem dX21_again_37 : decode cX21_again 37 = .ok (.getfield 66, 3) := dk_180 0 66 (dk_at dksX21_again_1 15 rfl rfl)
theorem dX21_again_40 : decode cX21_again 40 = .ok (.iconst 2, 1) := dk_5 (dk_at dksX21_again_1 18 rfl rfl)
theorem dX21_again_41 : decode cX21_again 41 = .ok (.iaload, 1) := dk_46 (dk_at dksX21_again_1 19 rfl rfl)
theorem dX21_again_42 : decode cX21_again 42 = .ok (.putfield 31, 3) := dk_181 0 31 (dk_at dksX21_again_1 20 rfl rfl)
theorem dX21_again_45 : decode cX21_again 45 = .ok (.aload_n 0, 1) := dk_42 (dk_at dksX21_again_1 23 rfl rfl)
theorem dX21_again_46 : decode cX21_again 46 = .ok (.getfield 7, 3) := dk_180 0 7 (dk_at dksX21_again_2 0 rfl rfl)
theorem dX21_again_49 : decode cX21_again 49 = .ok (.iconst 0, 1) := dk_3 (dk_at dksX21_again_2 3 rfl rfl)
theorem dX21_again_50 : decode cX21_again 50 = .ok (.iaload, 1) := dk_46 (dk_at dksX21_again_2 4 rfl rfl)
theorem dX21_again_51 : decode cX21_again 51 = .ok (.ireturn, 1) := dk_172 (dk_at dksX21_again_2 5 rfl rfl)
theorem q127 : (Jvm.Cond.initialized "CoatHolesModel") ∈ lw_all := lw_g (lw_at lw_m1 25 rfl) rfl
theorem q1568 : (Jvm.Cond.instantiable "CoatHolesModel" (39 : Nat)) ∈ lw_all := lw_g (lw_at lw_m7 26 rfl) rfl
theorem q1570 : (Jvm.Cond.instanceMethod ({ cls := "CoatHolesModel", name := "<init>", desc := "()V" } : Jvm.MethodName)) ∈ lw_all := lw_g (lw_at lw_m7 28 rfl) rfl
theorem q1571 : (Jvm.Cond.code ({ cls := "CoatHolesModel", name := "<init>", desc := "()V" } : Jvm.MethodName) prog_33_method_1_code (1 : Nat) (Option.none : Option Jvm.ClassFile.FieldType)) ∈ lw_all := lw_g (lw_at lw_m7 29 rfl) rfl
theorem q1572 : (Jvm.Cond.methodLink "CoatHolesModel" (1 : Nat) ({ cls := "java/lang/Object", name := "<init>", desc := "()V" } : Jvm.MethodName)) ∈ lw_all := lw_g (lw_at lw_m7 30 rfl) rfl
theorem q1573 : (Jvm.Cond.fieldLink "CoatHolesModel" (7 : Nat) "CoatHolesModel" "row" "[I") ∈ lw_all := lw_g (lw_at lw_m7 31 rfl) rfl
theorem q1574 : (Jvm.Cond.fieldLink "CoatHolesModel" (73 : Nat) "CoatHolesModel" "at" "I") ∈ lw_all := lw_g (lw_at lw_m7 32 rfl) rfl
theorem q1575 : (Jvm.Cond.fieldLink "CoatHolesModel" (13 : Nat) "CoatHolesModel" "laws" "[I") ∈ lw_all := lw_g (lw_at lw_m7 33 rfl) rfl
theorem q1576 : (Jvm.Cond.fieldLink "CoatHolesModel" (16 : Nat) "CoatHolesModel" "mostOf" "[I") ∈ lw_all := lw_g (lw_at lw_m7 34 rfl) rfl
theorem q1577 : (Jvm.Cond.fieldLink "CoatHolesModel" (19 : Nat) "CoatHolesModel" "warm" "[I") ∈ lw_all := lw_g (lw_at lw_m7 35 rfl) rfl
theorem q1578 : (Jvm.Cond.fieldLink "CoatHolesModel" (76 : Nat) "CoatHolesModel" "doings" "I") ∈ lw_all := lw_g (lw_at lw_m7 36 rfl) rfl
theorem q1579 : (Jvm.Cond.fieldLink "CoatHolesModel" (22 : Nat) "CoatHolesModel" "doing" "[I") ∈ lw_all := lw_g (lw_at lw_m7 37 rfl) rfl
theorem q1580 : (Jvm.Cond.fieldLink "CoatHolesModel" (25 : Nat) "CoatHolesModel" "weights" "[I") ∈ lw_all := lw_g (lw_at lw_m7 38 rfl) rfl
theorem q1581 : (Jvm.Cond.fieldLink "CoatHolesModel" (200 : Nat) "CoatHolesModel" "looks" "I") ∈ lw_all := lw_g (lw_at lw_m7 39 rfl) rfl
theorem q1582 : (Jvm.Cond.fieldLink "CoatHolesModel" (28 : Nat) "CoatHolesModel" "look" "[I") ∈ lw_all := lw_g (lw_at lw_m7 40 rfl) rfl
theorem q1583 : (Jvm.Cond.fieldLink "CoatHolesModel" (31 : Nat) "CoatHolesModel" "z" "I") ∈ lw_all := lw_g (lw_at lw_m7 41 rfl) rfl
theorem q1584 : (Jvm.Cond.fieldLink "CoatHolesModel" (35 : Nat) "CoatHolesModel" "tape" "[I") ∈ lw_all := lw_g (lw_at lw_m7 42 rfl) rfl
theorem q1585 : (Jvm.Cond.fieldLink "CoatHolesModel" (79 : Nat) "CoatHolesModel" "tapeMany" "I") ∈ lw_all := lw_g (lw_at lw_m7 43 rfl) rfl
theorem q1586 : (Jvm.Cond.fieldLink "CoatHolesModel" (101 : Nat) "CoatHolesModel" "sort" "I") ∈ lw_all := lw_g (lw_at lw_m7 44 rfl) rfl
theorem q1587 : (Jvm.Cond.fieldLink "CoatHolesModel" (87 : Nat) "CoatHolesModel" "begins" "I") ∈ lw_all := lw_g (lw_at lw_m7 45 rfl) rfl
theorem q1588 : (Jvm.Cond.fieldLink "CoatHolesModel" (84 : Nat) "CoatHolesModel" "tokenEnds" "I") ∈ lw_all := lw_g (lw_at lw_m7 46 rfl) rfl
theorem q1589 : (Jvm.Cond.fieldLink "CoatHolesModel" (104 : Nat) "CoatHolesModel" "word" "J") ∈ lw_all := lw_g (lw_at lw_m7 47 rfl) rfl
theorem q1590 : (Jvm.Cond.fieldLink "CoatHolesModel" (108 : Nat) "CoatHolesModel" "value" "I") ∈ lw_all := lw_g (lw_at lw_m7 48 rfl) rfl
theorem q1591 : (Jvm.Cond.fieldLink "CoatHolesModel" (133 : Nat) "CoatHolesModel" "good" "Z") ∈ lw_all := lw_g (lw_at lw_m7 49 rfl) rfl
theorem q1592 : (Jvm.Cond.fieldLink "CoatHolesModel" (190 : Nat) "CoatHolesModel" "freshLay" "I") ∈ lw_all := lw_g (lw_at lw_m7 50 rfl) rfl
theorem q1593 : (Jvm.Cond.fieldLink "CoatHolesModel" (266 : Nat) "CoatHolesModel" "bestChoice" "I") ∈ lw_all := lw_g (lw_at lw_m7 51 rfl) rfl
theorem q1594 : (Jvm.Cond.fieldLink "CoatHolesModel" (38 : Nat) "CoatHolesModel" "rows" "[I") ∈ lw_all := lw_g (lw_at lw_m7 52 rfl) rfl
theorem q1595 : (Jvm.Cond.fieldLink "CoatHolesModel" (203 : Nat) "CoatHolesModel" "rowMany" "I") ∈ lw_all := lw_g (lw_at lw_m7 53 rfl) rfl
theorem q1596 : (Jvm.Cond.fieldLink "CoatHolesModel" (41 : Nat) "CoatHolesModel" "sorts" "[I") ∈ lw_all := lw_g (lw_at lw_m7 54 rfl) rfl
theorem q1597 : (Jvm.Cond.fieldLink "CoatHolesModel" (44 : Nat) "CoatHolesModel" "sizes" "[I") ∈ lw_all := lw_g (lw_at lw_m7 55 rfl) rfl
theorem q1598 : (Jvm.Cond.fieldLink "CoatHolesModel" (47 : Nat) "CoatHolesModel" "sheets" "[J") ∈ lw_all := lw_g (lw_at lw_m7 56 rfl) rfl
theorem q1599 : (Jvm.Cond.fieldLink "CoatHolesModel" (51 : Nat) "CoatHolesModel" "held" "[I") ∈ lw_all := lw_g (lw_at lw_m7 57 rfl) rfl
theorem q1600 : (Jvm.Cond.fieldLink "CoatHolesModel" (54 : Nat) "CoatHolesModel" "heldNumber" "[I") ∈ lw_all := lw_g (lw_at lw_m7 58 rfl) rfl
theorem q1601 : (Jvm.Cond.fieldLink "CoatHolesModel" (57 : Nat) "CoatHolesModel" "heldSize" "[I") ∈ lw_all := lw_g (lw_at lw_m7 59 rfl) rfl
theorem q1602 : (Jvm.Cond.fieldLink "CoatHolesModel" (336 : Nat) "CoatHolesModel" "kind" "I") ∈ lw_all := lw_g (lw_at lw_m7 60 rfl) rfl
theorem q1603 : (Jvm.Cond.fieldLink "CoatHolesModel" (330 : Nat) "CoatHolesModel" "number" "I") ∈ lw_all := lw_g (lw_at lw_m7 61 rfl) rfl
theorem q1604 : (Jvm.Cond.fieldLink "CoatHolesModel" (348 : Nat) "CoatHolesModel" "own" "I") ∈ lw_all := lw_g (lw_at lw_m7 62 rfl) rfl
theorem q1605 : (Jvm.Cond.fieldLink "CoatHolesModel" (60 : Nat) "CoatHolesModel" "traced" "[I") ∈ lw_all := lw_g (lw_at lw_m7 63 rfl) rfl
theorem q1606 : (Jvm.Cond.fieldLink "CoatHolesModel" (324 : Nat) "CoatHolesModel" "bodies" "I") ∈ lw_all := lw_g (lw_at lw_m7 64 rfl) rfl
theorem q1607 : (Jvm.Cond.fieldLink "CoatHolesModel" (354 : Nat) "CoatHolesModel" "isParted" "Z") ∈ lw_all := lw_g (lw_at lw_m7 65 rfl) rfl
theorem q1608 : (Jvm.Cond.fieldLink "CoatHolesModel" (386 : Nat) "CoatHolesModel" "isKept" "Z") ∈ lw_all := lw_g (lw_at lw_m7 66 rfl) rfl
theorem q1609 : (Jvm.Cond.fieldLink "CoatHolesModel" (63 : Nat) "CoatHolesModel" "keptRow" "[I") ∈ lw_all := lw_g (lw_at lw_m7 67 rfl) rfl
theorem q1610 : (Jvm.Cond.fieldLink "CoatHolesModel" (375 : Nat) "CoatHolesModel" "movedTo" "I") ∈ lw_all := lw_g (lw_at lw_m7 68 rfl) rfl
theorem q1611 : (Jvm.Cond.fieldLink "CoatHolesModel" (66 : Nat) "CoatHolesModel" "single" "[I") ∈ lw_all := lw_g (lw_at lw_m7 69 rfl) rfl
theorem q1612 : (Jvm.Cond.laysFinal "CoatHolesModel" "CoatHolesModel" "row" "[I") ∈ lw_all := lw_g (lw_at lw_m7 70 rfl) rfl
theorem q1613 : (Jvm.Cond.soleField "CoatHolesModel" "row") ∈ lw_all := lw_g (lw_at lw_m7 71 rfl) rfl
theorem q1614 : (Jvm.Cond.lays "CoatHolesModel" "CoatHolesModel" "at" "I") ∈ lw_all := lw_g (lw_at lw_m7 72 rfl) rfl
theorem q1615 : (Jvm.Cond.soleField "CoatHolesModel" "at") ∈ lw_all := lw_g (lw_at lw_m7 73 rfl) rfl
theorem q1616 : (Jvm.Cond.laysFinal "CoatHolesModel" "CoatHolesModel" "laws" "[I") ∈ lw_all := lw_g (lw_at lw_m7 74 rfl) rfl
theorem q1617 : (Jvm.Cond.soleField "CoatHolesModel" "laws") ∈ lw_all := lw_g (lw_at lw_m7 75 rfl) rfl
theorem q1618 : (Jvm.Cond.laysFinal "CoatHolesModel" "CoatHolesModel" "mostOf" "[I") ∈ lw_all := lw_g (lw_at lw_m7 76 rfl) rfl
theorem q1619 : (Jvm.Cond.soleField "CoatHolesModel" "mostOf") ∈ lw_all := lw_g (lw_at lw_m7 77 rfl) rfl
theorem q1620 : (Jvm.Cond.laysFinal "CoatHolesModel" "CoatHolesModel" "warm" "[I") ∈ lw_all := lw_g (lw_at lw_m7 78 rfl) rfl
theorem q1621 : (Jvm.Cond.soleField "CoatHolesModel" "warm") ∈ lw_all := lw_g (lw_at lw_m7 79 rfl) rfl
theorem q1622 : (Jvm.Cond.lays "CoatHolesModel" "CoatHolesModel" "doings" "I") ∈ lw_all := lw_g (lw_at lw_m7 80 rfl) rfl
theorem q1623 : (Jvm.Cond.soleField "CoatHolesModel" "doings") ∈ lw_all := lw_g (lw_at lw_m7 81 rfl) rfl
theorem q1624 : (Jvm.Cond.laysFinal "CoatHolesModel" "CoatHolesModel" "doing" "[I") ∈ lw_all := lw_g (lw_at lw_m7 82 rfl) rfl
theorem q1625 : (Jvm.Cond.soleField "CoatHolesModel" "doing") ∈ lw_all := lw_g (lw_at lw_m7 83 rfl) rfl
theorem q1626 : (Jvm.Cond.laysFinal "CoatHolesModel" "CoatHolesModel" "weights" "[I") ∈ lw_all := lw_g (lw_at lw_m7 84 rfl) rfl
theorem q1627 : (Jvm.Cond.soleField "CoatHolesModel" "weights") ∈ lw_all := lw_g (lw_at lw_m7 85 rfl) rfl
theorem q1628 : (Jvm.Cond.lays "CoatHolesModel" "CoatHolesModel" "looks" "I") ∈ lw_all := lw_g (lw_at lw_m7 86 rfl) rfl
theorem q1629 : (Jvm.Cond.soleField "CoatHolesModel" "looks") ∈ lw_all := lw_g (lw_at lw_m7 87 rfl) rfl
theorem q1630 : (Jvm.Cond.laysFinal "CoatHolesModel" "CoatHolesModel" "look" "[I") ∈ lw_all := lw_g (lw_at lw_m7 88 rfl) rfl
theorem q1631 : (Jvm.Cond.soleField "CoatHolesModel" "look") ∈ lw_all := lw_g (lw_at lw_m7 89 rfl) rfl
theorem q1632 : (Jvm.Cond.lays "CoatHolesModel" "CoatHolesModel" "z" "I") ∈ lw_all := lw_g (lw_at lw_m7 90 rfl) rfl
theorem q1633 : (Jvm.Cond.soleField "CoatHolesModel" "z") ∈ lw_all := lw_g (lw_at lw_m7 91 rfl) rfl
theorem q1634 : (Jvm.Cond.laysFinal "CoatHolesModel" "CoatHolesModel" "tape" "[I") ∈ lw_all := lw_g (lw_at lw_m7 92 rfl) rfl
theorem q1635 : (Jvm.Cond.soleField "CoatHolesModel" "tape") ∈ lw_all := lw_g (lw_at lw_m7 93 rfl) rfl
theorem q1636 : (Jvm.Cond.lays "CoatHolesModel" "CoatHolesModel" "tapeMany" "I") ∈ lw_all := lw_g (lw_at lw_m7 94 rfl) rfl
theorem q1637 : (Jvm.Cond.soleField "CoatHolesModel" "tapeMany") ∈ lw_all := lw_g (lw_at lw_m7 95 rfl) rfl
theorem q1638 : (Jvm.Cond.lays "CoatHolesModel" "CoatHolesModel" "sort" "I") ∈ lw_all := lw_g (lw_at lw_m7 96 rfl) rfl
theorem q1639 : (Jvm.Cond.soleField "CoatHolesModel" "sort") ∈ lw_all := lw_g (lw_at lw_m7 97 rfl) rfl
theorem q1640 : (Jvm.Cond.lays "CoatHolesModel" "CoatHolesModel" "begins" "I") ∈ lw_all := lw_g (lw_at lw_m7 98 rfl) rfl
theorem q1641 : (Jvm.Cond.soleField "CoatHolesModel" "begins") ∈ lw_all := lw_g (lw_at lw_m7 99 rfl) rfl
theorem q1642 : (Jvm.Cond.lays "CoatHolesModel" "CoatHolesModel" "tokenEnds" "I") ∈ lw_all := lw_g (lw_at lw_m7 100 rfl) rfl
theorem q1643 : (Jvm.Cond.soleField "CoatHolesModel" "tokenEnds") ∈ lw_all := lw_g (lw_at lw_m7 101 rfl) rfl
theorem q1644 : (Jvm.Cond.lays "CoatHolesModel" "CoatHolesModel" "word" "J") ∈ lw_all := lw_g (lw_at lw_m7 102 rfl) rfl
theorem q1645 : (Jvm.Cond.soleField "CoatHolesModel" "word") ∈ lw_all := lw_g (lw_at lw_m7 103 rfl) rfl
theorem q1646 : (Jvm.Cond.lays "CoatHolesModel" "CoatHolesModel" "value" "I") ∈ lw_all := lw_g (lw_at lw_m7 104 rfl) rfl
theorem q1647 : (Jvm.Cond.soleField "CoatHolesModel" "value") ∈ lw_all := lw_g (lw_at lw_m7 105 rfl) rfl
theorem q1648 : (Jvm.Cond.lays "CoatHolesModel" "CoatHolesModel" "good" "Z") ∈ lw_all := lw_g (lw_at lw_m7 106 rfl) rfl
theorem q1649 : (Jvm.Cond.soleField "CoatHolesModel" "good") ∈ lw_all := lw_g (lw_at lw_m7 107 rfl) rfl
theorem q1650 : (Jvm.Cond.lays "CoatHolesModel" "CoatHolesModel" "freshLay" "I") ∈ lw_all := lw_g (lw_at lw_m7 108 rfl) rfl
theorem q1651 : (Jvm.Cond.soleField "CoatHolesModel" "freshLay") ∈ lw_all := lw_g (lw_at lw_m7 109 rfl) rfl
theorem q1652 : (Jvm.Cond.lays "CoatHolesModel" "CoatHolesModel" "bestChoice" "I") ∈ lw_all := lw_g (lw_at lw_m7 110 rfl) rfl
theorem q1653 : (Jvm.Cond.soleField "CoatHolesModel" "bestChoice") ∈ lw_all := lw_g (lw_at lw_m7 111 rfl) rfl
theorem q1654 : (Jvm.Cond.laysFinal "CoatHolesModel" "CoatHolesModel" "rows" "[I") ∈ lw_all := lw_g (lw_at lw_m7 112 rfl) rfl
theorem q1655 : (Jvm.Cond.soleField "CoatHolesModel" "rows") ∈ lw_all := lw_g (lw_at lw_m7 113 rfl) rfl
theorem q1656 : (Jvm.Cond.lays "CoatHolesModel" "CoatHolesModel" "rowMany" "I") ∈ lw_all := lw_g (lw_at lw_m7 114 rfl) rfl
theorem q1657 : (Jvm.Cond.soleField "CoatHolesModel" "rowMany") ∈ lw_all := lw_g (lw_at lw_m7 115 rfl) rfl
theorem q1658 : (Jvm.Cond.laysFinal "CoatHolesModel" "CoatHolesModel" "sorts" "[I") ∈ lw_all := lw_g (lw_at lw_m7 116 rfl) rfl
theorem q1659 : (Jvm.Cond.soleField "CoatHolesModel" "sorts") ∈ lw_all := lw_g (lw_at lw_m7 117 rfl) rfl
theorem q1660 : (Jvm.Cond.laysFinal "CoatHolesModel" "CoatHolesModel" "sizes" "[I") ∈ lw_all := lw_g (lw_at lw_m7 118 rfl) rfl
theorem q1661 : (Jvm.Cond.soleField "CoatHolesModel" "sizes") ∈ lw_all := lw_g (lw_at lw_m7 119 rfl) rfl
theorem q1662 : (Jvm.Cond.laysFinal "CoatHolesModel" "CoatHolesModel" "sheets" "[J") ∈ lw_all := lw_g (lw_at lw_m7 120 rfl) rfl
theorem q1663 : (Jvm.Cond.soleField "CoatHolesModel" "sheets") ∈ lw_all := lw_g (lw_at lw_m7 121 rfl) rfl
theorem q1664 : (Jvm.Cond.laysFinal "CoatHolesModel" "CoatHolesModel" "held" "[I") ∈ lw_all := lw_g (lw_at lw_m7 122 rfl) rfl
theorem q1665 : (Jvm.Cond.soleField "CoatHolesModel" "held") ∈ lw_all := lw_g (lw_at lw_m7 123 rfl) rfl
theorem q1666 : (Jvm.Cond.laysFinal "CoatHolesModel" "CoatHolesModel" "heldNumber" "[I") ∈ lw_all := lw_g (lw_at lw_m7 124 rfl) rfl
theorem q1667 : (Jvm.Cond.soleField "CoatHolesModel" "heldNumber") ∈ lw_all := lw_g (lw_at lw_m7 125 rfl) rfl
theorem q1668 : (Jvm.Cond.laysFinal "CoatHolesModel" "CoatHolesModel" "heldSize" "[I") ∈ lw_all := lw_g (lw_at lw_m7 126 rfl) rfl
theorem q1669 : (Jvm.Cond.soleField "CoatHolesModel" "heldSize") ∈ lw_all := lw_g (lw_at lw_m7 127 rfl) rfl
theorem q1670 : (Jvm.Cond.lays "CoatHolesModel" "CoatHolesModel" "kind" "I") ∈ lw_all := lw_g (lw_at lw_m7 128 rfl) rfl
theorem q1671 : (Jvm.Cond.soleField "CoatHolesModel" "kind") ∈ lw_all := lw_g (lw_at lw_m7 129 rfl) rfl
theorem q1672 : (Jvm.Cond.lays "CoatHolesModel" "CoatHolesModel" "number" "I") ∈ lw_all := lw_g (lw_at lw_m7 130 rfl) rfl
theorem q1673 : (Jvm.Cond.soleField "CoatHolesModel" "number") ∈ lw_all := lw_g (lw_at lw_m7 131 rfl) rfl
theorem q1674 : (Jvm.Cond.lays "CoatHolesModel" "CoatHolesModel" "own" "I") ∈ lw_all := lw_g (lw_at lw_m7 132 rfl) rfl
theorem q1675 : (Jvm.Cond.soleField "CoatHolesModel" "own") ∈ lw_all := lw_g (lw_at lw_m7 133 rfl) rfl
theorem q1676 : (Jvm.Cond.laysFinal "CoatHolesModel" "CoatHolesModel" "traced" "[I") ∈ lw_all := lw_g (lw_at lw_m7 134 rfl) rfl
theorem q1677 : (Jvm.Cond.soleField "CoatHolesModel" "traced") ∈ lw_all := lw_g (lw_at lw_m7 135 rfl) rfl
theorem q1678 : (Jvm.Cond.lays "CoatHolesModel" "CoatHolesModel" "bodies" "I") ∈ lw_all := lw_g (lw_at lw_m7 136 rfl) rfl
theorem q1679 : (Jvm.Cond.soleField "CoatHolesModel" "bodies") ∈ lw_all := lw_g (lw_at lw_m7 137 rfl) rfl
theorem q1680 : (Jvm.Cond.lays "CoatHolesModel" "CoatHolesModel" "isParted" "Z") ∈ lw_all := lw_g (lw_at lw_m7 138 rfl) rfl
theorem q1681 : (Jvm.Cond.soleField "CoatHolesModel" "isParted") ∈ lw_all := lw_g (lw_at lw_m7 139 rfl) rfl
theorem q1682 : (Jvm.Cond.lays "CoatHolesModel" "CoatHolesModel" "isKept" "Z") ∈ lw_all := lw_g (lw_at lw_m7 140 rfl) rfl
theorem q1683 : (Jvm.Cond.soleField "CoatHolesModel" "isKept") ∈ lw_all := lw_g (lw_at lw_m7 141 rfl) rfl
theorem q1684 : (Jvm.Cond.laysFinal "CoatHolesModel" "CoatHolesModel" "keptRow" "[I") ∈ lw_all := lw_g (lw_at lw_m7 142 rfl) rfl
theorem q1685 : (Jvm.Cond.soleField "CoatHolesModel" "keptRow") ∈ lw_all := lw_g (lw_at lw_m7 143 rfl) rfl
theorem q1686 : (Jvm.Cond.lays "CoatHolesModel" "CoatHolesModel" "movedTo" "I") ∈ lw_all := lw_g (lw_at lw_m7 144 rfl) rfl
theorem q1687 : (Jvm.Cond.soleField "CoatHolesModel" "movedTo") ∈ lw_all := lw_g (lw_at lw_m7 145 rfl) rfl
theorem q1688 : (Jvm.Cond.laysFinal "CoatHolesModel" "CoatHolesModel" "single" "[I") ∈ lw_all := lw_g (lw_at lw_m7 146 rfl) rfl
theorem q1689 : (Jvm.Cond.soleField "CoatHolesModel" "single") ∈ lw_all := lw_g (lw_at lw_m7 147 rfl) rfl
theorem q1690 : (Jvm.Cond.superclass "CoatHolesModel" "java/lang/Object") ∈ lw_all := lw_g (lw_at lw_m7 148 rfl) rfl
theorem q1692 : (Jvm.Cond.instanceMethod ({ cls := "CoatHolesModel", name := "feed", desc := "(JI)I" } : Jvm.MethodName)) ∈ lw_all := lw_g (lw_at lw_m7 150 rfl) rfl
theorem q1693 : (Jvm.Cond.selects "CoatHolesModel" ({ cls := "CoatHolesModel", name := "feed", desc := "(JI)I" } : Jvm.MethodName) ({ cls := "CoatHolesModel", name := "feed", desc := "(JI)I" } : Jvm.MethodName)) ∈ lw_all := lw_g (lw_at lw_m7 151 rfl) rfl
theorem q1694 : (Jvm.Cond.code ({ cls := "CoatHolesModel", name := "feed", desc := "(JI)I" } : Jvm.MethodName) prog_33_method_12_code (5 : Nat) (Option.some Jvm.ClassFile.FieldType.int)) ∈ lw_all := lw_g (lw_at lw_m7 152 rfl) rfl
theorem q1695 : (Jvm.Cond.methodLink "CoatHolesModel" (69 : Nat) ({ cls := "CoatHolesModel", name := "in", desc := "(III)Z" } : Jvm.MethodName)) ∈ lw_all := lw_g (lw_at lw_m7 153 rfl) rfl
theorem q1696 : (Jvm.Cond.static ({ cls := "CoatHolesModel", name := "in", desc := "(III)Z" } : Jvm.MethodName)) ∈ lw_all := lw_g (lw_at lw_m7 154 rfl) rfl
theorem q1697 : (Jvm.Cond.code ({ cls := "CoatHolesModel", name := "in", desc := "(III)Z" } : Jvm.MethodName) prog_33_method_2_code (3 : Nat) (Option.some Jvm.ClassFile.FieldType.boolean)) ∈ lw_all := lw_g (lw_at lw_m7 155 rfl) rfl
theorem q1698 : (Jvm.Cond.constantLong "CoatHolesModel" (82 : Nat) (255 : Int64)) ∈ lw_all := lw_g (lw_at lw_m7 156 rfl) rfl
theorem q1700 : (Jvm.Cond.instanceMethod ({ cls := "CoatHolesModel", name := "cupboard", desc := "()I" } : Jvm.MethodName)) ∈ lw_all := lw_g (lw_at lw_m7 158 rfl) rfl
theorem q1701 : (Jvm.Cond.selects "CoatHolesModel" ({ cls := "CoatHolesModel", name := "cupboard", desc := "()I" } : Jvm.MethodName) ({ cls := "CoatHolesModel", name := "cupboard", desc := "()I" } : Jvm.MethodName)) ∈ lw_all := lw_g (lw_at lw_m7 159 rfl) rfl
theorem q1702 : (Jvm.Cond.code ({ cls := "CoatHolesModel", name := "cupboard", desc := "()I" } : Jvm.MethodName) prog_33_method_27_code (2 : Nat) (Option.some Jvm.ClassFile.FieldType.int)) ∈ lw_all := lw_g (lw_at lw_m7 160 rfl) rfl
theorem q1703 : (Jvm.Cond.methodLink "CoatHolesModel" (137 : Nat) ({ cls := "CoatHolesModel", name := "advance", desc := "()V" } : Jvm.MethodName)) ∈ lw_all := lw_g (lw_at lw_m7 161 rfl) rfl
theorem q1704 : (Jvm.Cond.privateMethod ({ cls := "CoatHolesModel", name := "advance", desc := "()V" } : Jvm.MethodName)) ∈ lw_tbl := lw_at lw_m7 162 rfl
theorem q1705 : (Jvm.Cond.instanceMethod ({ cls := "CoatHolesModel", name := "advance", desc := "()V" } : Jvm.MethodName)) ∈ lw_all := lw_g (lw_at lw_m7 163 rfl) rfl
theorem q1706 : (Jvm.Cond.code ({ cls := "CoatHolesModel", name := "advance", desc := "()V" } : Jvm.MethodName) prog_33_method_16_code (2 : Nat) (Option.none : Option Jvm.ClassFile.FieldType)) ∈ lw_all := lw_g (lw_at lw_m7 164 rfl) rfl
theorem q1707 : (Jvm.Cond.methodLink "CoatHolesModel" (90 : Nat) ({ cls := "CoatHolesModel", name := "byteAt", desc := "(I)I" } : Jvm.MethodName)) ∈ lw_all := lw_g (lw_at lw_m7 165 rfl) rfl
theorem q1708 : (Jvm.Cond.privateMethod ({ cls := "CoatHolesModel", name := "byteAt", desc := "(I)I" } : Jvm.MethodName)) ∈ lw_tbl := lw_at lw_m7 166 rfl
theorem q1709 : (Jvm.Cond.instanceMethod ({ cls := "CoatHolesModel", name := "byteAt", desc := "(I)I" } : Jvm.MethodName)) ∈ lw_all := lw_g (lw_at lw_m7 167 rfl) rfl
theorem q1710 : (Jvm.Cond.code ({ cls := "CoatHolesModel", name := "byteAt", desc := "(I)I" } : Jvm.MethodName) prog_33_method_13_code (2 : Nat) (Option.some Jvm.ClassFile.FieldType.int)) ∈ lw_all := lw_g (lw_at lw_m7 168 rfl) rfl
theorem q1711 : (Jvm.Cond.methodLink "CoatHolesModel" (94 : Nat) ({ cls := "CoatHolesModel", name := "isLetter", desc := "(I)Z" } : Jvm.MethodName)) ∈ lw_all := lw_g (lw_at lw_m7 169 rfl) rfl
theorem q1712 : (Jvm.Cond.static ({ cls := "CoatHolesModel", name := "isLetter", desc := "(I)Z" } : Jvm.MethodName)) ∈ lw_all := lw_g (lw_at lw_m7 170 rfl) rfl
theorem q1713 : (Jvm.Cond.code ({ cls := "CoatHolesModel", name := "isLetter", desc := "(I)Z" } : Jvm.MethodName) prog_33_method_14_code (1 : Nat) (Option.some Jvm.ClassFile.FieldType.boolean)) ∈ lw_all := lw_g (lw_at lw_m7 171 rfl) rfl
theorem q1714 : (Jvm.Cond.methodLink "CoatHolesModel" (98 : Nat) ({ cls := "CoatHolesModel", name := "isDigit", desc := "(I)Z" } : Jvm.MethodName)) ∈ lw_all := lw_g (lw_at lw_m7 172 rfl) rfl
theorem q1715 : (Jvm.Cond.static ({ cls := "CoatHolesModel", name := "isDigit", desc := "(I)Z" } : Jvm.MethodName)) ∈ lw_all := lw_g (lw_at lw_m7 173 rfl) rfl
theorem q1716 : (Jvm.Cond.code ({ cls := "CoatHolesModel", name := "isDigit", desc := "(I)Z" } : Jvm.MethodName) prog_33_method_15_code (1 : Nat) (Option.some Jvm.ClassFile.FieldType.boolean)) ∈ lw_all := lw_g (lw_at lw_m7 174 rfl) rfl
theorem q1717 : (Jvm.Cond.constantLong "CoatHolesModel" (111 : Nat) (27 : Int64)) ∈ lw_all := lw_g (lw_at lw_m7 175 rfl) rfl
theorem q1718 : (Jvm.Cond.constantLong "CoatHolesModel" (113 : Nat) (96 : Int64)) ∈ lw_all := lw_g (lw_at lw_m7 176 rfl) rfl
theorem q1719 : (Jvm.Cond.constantLong "CoatHolesModel" (115 : Nat) (-1 : Int64)) ∈ lw_all := lw_g (lw_at lw_m7 177 rfl) rfl
theorem q1720 : (Jvm.Cond.methodLink "CoatHolesModel" (193 : Nat) ({ cls := "CoatHolesModel", name := "wantClause", desc := "()V" } : Jvm.MethodName)) ∈ lw_all := lw_g (lw_at lw_m7 178 rfl) rfl
theorem q1721 : (Jvm.Cond.privateMethod ({ cls := "CoatHolesModel", name := "wantClause", desc := "()V" } : Jvm.MethodName)) ∈ lw_tbl := lw_at lw_m7 179 rfl
theorem q1722 : (Jvm.Cond.instanceMethod ({ cls := "CoatHolesModel", name := "wantClause", desc := "()V" } : Jvm.MethodName)) ∈ lw_all := lw_g (lw_at lw_m7 180 rfl) rfl
theorem q1723 : (Jvm.Cond.code ({ cls := "CoatHolesModel", name := "wantClause", desc := "()V" } : Jvm.MethodName) prog_33_method_25_code (3 : Nat) (Option.none : Option Jvm.ClassFile.FieldType)) ∈ lw_all := lw_g (lw_at lw_m7 181 rfl) rfl
theorem q1724 : (Jvm.Cond.methodLink "CoatHolesModel" (173 : Nat) ({ cls := "CoatHolesModel", name := "stuffHere", desc := "()I" } : Jvm.MethodName)) ∈ lw_all := lw_g (lw_at lw_m7 182 rfl) rfl
theorem q1725 : (Jvm.Cond.privateMethod ({ cls := "CoatHolesModel", name := "stuffHere", desc := "()I" } : Jvm.MethodName)) ∈ lw_tbl := lw_at lw_m7 183 rfl
theorem q1726 : (Jvm.Cond.instanceMethod ({ cls := "CoatHolesModel", name := "stuffHere", desc := "()I" } : Jvm.MethodName)) ∈ lw_all := lw_g (lw_at lw_m7 184 rfl) rfl
theorem q1727 : (Jvm.Cond.code ({ cls := "CoatHolesModel", name := "stuffHere", desc := "()I" } : Jvm.MethodName) prog_33_method_19_code (1 : Nat) (Option.some Jvm.ClassFile.FieldType.int)) ∈ lw_all := lw_g (lw_at lw_m7 185 rfl) rfl
theorem q1728 : (Jvm.Cond.constantLong "CoatHolesModel" (117 : Nat) (380873 : Int64)) ∈ lw_all := lw_g (lw_at lw_m7 186 rfl) rfl
theorem q1729 : (Jvm.Cond.methodLink "CoatHolesModel" (119 : Nat) ({ cls := "CoatHolesModel", name := "isWord", desc := "(J)Z" } : Jvm.MethodName)) ∈ lw_all := lw_g (lw_at lw_m7 187 rfl) rfl
theorem q1730 : (Jvm.Cond.privateMethod ({ cls := "CoatHolesModel", name := "isWord", desc := "(J)Z" } : Jvm.MethodName)) ∈ lw_tbl := lw_at lw_m7 188 rfl
theorem q1731 : (Jvm.Cond.instanceMethod ({ cls := "CoatHolesModel", name := "isWord", desc := "(J)Z" } : Jvm.MethodName)) ∈ lw_all := lw_g (lw_at lw_m7 189 rfl) rfl
theorem q1732 : (Jvm.Cond.code ({ cls := "CoatHolesModel", name := "isWord", desc := "(J)Z" } : Jvm.MethodName) prog_33_method_17_code (3 : Nat) (Option.some Jvm.ClassFile.FieldType.boolean)) ∈ lw_all := lw_g (lw_at lw_m7 190 rfl) rfl
theorem q1733 : (Jvm.Cond.constantLong "CoatHolesModel" (123 : Nat) (464061 : Int64)) ∈ lw_all := lw_g (lw_at lw_m7 191 rfl) rfl
theorem q1734 : (Jvm.Cond.constantLong "CoatHolesModel" (125 : Nat) (32045620874 : Int64)) ∈ lw_all := lw_g (lw_at lw_m7 192 rfl) rfl
theorem q1735 : (Jvm.Cond.constantLong "CoatHolesModel" (127 : Nat) (122087 : Int64)) ∈ lw_all := lw_g (lw_at lw_m7 193 rfl) rfl
theorem q1736 : (Jvm.Cond.constantLong "CoatHolesModel" (129 : Nat) (51426995 : Int64)) ∈ lw_all := lw_g (lw_at lw_m7 194 rfl) rfl
theorem q1737 : (Jvm.Cond.constantLong "CoatHolesModel" (131 : Nat) (4959 : Int64)) ∈ lw_all := lw_g (lw_at lw_m7 195 rfl) rfl
theorem q1738 : (Jvm.Cond.methodLink "CoatHolesModel" (177 : Nat) ({ cls := "CoatHolesModel", name := "wantThing", desc := "(I)V" } : Jvm.MethodName)) ∈ lw_all := lw_g (lw_at lw_m7 196 rfl) rfl
theorem q1739 : (Jvm.Cond.privateMethod ({ cls := "CoatHolesModel", name := "wantThing", desc := "(I)V" } : Jvm.MethodName)) ∈ lw_tbl := lw_at lw_m7 197 rfl
theorem q1740 : (Jvm.Cond.instanceMethod ({ cls := "CoatHolesModel", name := "wantThing", desc := "(I)V" } : Jvm.MethodName)) ∈ lw_all := lw_g (lw_at lw_m7 198 rfl) rfl
theorem q1741 : (Jvm.Cond.code ({ cls := "CoatHolesModel", name := "wantThing", desc := "(I)V" } : Jvm.MethodName) prog_33_method_24_code (7 : Nat) (Option.none : Option Jvm.ClassFile.FieldType)) ∈ lw_all := lw_g (lw_at lw_m7 199 rfl) rfl
theorem q1742 : (Jvm.Cond.constantLong "CoatHolesModel" (146 : Nat) (257 : Int64)) ∈ lw_all := lw_g (lw_at lw_m7 200 rfl) rfl
theorem q1743 : (Jvm.Cond.methodLink "CoatHolesModel" (148 : Nat) ({ cls := "CoatHolesModel", name := "wantWord", desc := "(J)V" } : Jvm.MethodName)) ∈ lw_all := lw_g (lw_at lw_m7 201 rfl) rfl
theorem q1744 : (Jvm.Cond.privateMethod ({ cls := "CoatHolesModel", name := "wantWord", desc := "(J)V" } : Jvm.MethodName)) ∈ lw_tbl := lw_at lw_m7 202 rfl
theorem q1745 : (Jvm.Cond.instanceMethod ({ cls := "CoatHolesModel", name := "wantWord", desc := "(J)V" } : Jvm.MethodName)) ∈ lw_all := lw_g (lw_at lw_m7 203 rfl) rfl
theorem q1746 : (Jvm.Cond.code ({ cls := "CoatHolesModel", name := "wantWord", desc := "(J)V" } : Jvm.MethodName) prog_33_method_21_code (3 : Nat) (Option.none : Option Jvm.ClassFile.FieldType)) ∈ lw_all := lw_g (lw_at lw_m7 204 rfl) rfl
theorem q1747 : (Jvm.Cond.methodLink "CoatHolesModel" (140 : Nat) ({ cls := "CoatHolesModel", name := "wantNumber", desc := "(I)I" } : Jvm.MethodName)) ∈ lw_all := lw_g (lw_at lw_m7 205 rfl) rfl
theorem q1748 : (Jvm.Cond.privateMethod ({ cls := "CoatHolesModel", name := "wantNumber", desc := "(I)I" } : Jvm.MethodName)) ∈ lw_tbl := lw_at lw_m7 206 rfl
theorem q1749 : (Jvm.Cond.instanceMethod ({ cls := "CoatHolesModel", name := "wantNumber", desc := "(I)I" } : Jvm.MethodName)) ∈ lw_all := lw_g (lw_at lw_m7 207 rfl) rfl
theorem q1750 : (Jvm.Cond.code ({ cls := "CoatHolesModel", name := "wantNumber", desc := "(I)I" } : Jvm.MethodName) prog_33_method_20_code (3 : Nat) (Option.some Jvm.ClassFile.FieldType.int)) ∈ lw_all := lw_g (lw_at lw_m7 208 rfl) rfl
theorem q1751 : (Jvm.Cond.constantLong "CoatHolesModel" (152 : Nat) (385167 : Int64)) ∈ lw_all := lw_g (lw_at lw_m7 209 rfl) rfl
theorem q1752 : (Jvm.Cond.methodLink "CoatHolesModel" (154 : Nat) ({ cls := "CoatHolesModel", name := "mayNumber", desc := "(JI)I" } : Jvm.MethodName)) ∈ lw_all := lw_g (lw_at lw_m7 210 rfl) rfl
theorem q1753 : (Jvm.Cond.privateMethod ({ cls := "CoatHolesModel", name := "mayNumber", desc := "(JI)I" } : Jvm.MethodName)) ∈ lw_tbl := lw_at lw_m7 211 rfl
theorem q1754 : (Jvm.Cond.instanceMethod ({ cls := "CoatHolesModel", name := "mayNumber", desc := "(JI)I" } : Jvm.MethodName)) ∈ lw_all := lw_g (lw_at lw_m7 212 rfl) rfl
theorem q1755 : (Jvm.Cond.code ({ cls := "CoatHolesModel", name := "mayNumber", desc := "(JI)I" } : Jvm.MethodName) prog_33_method_22_code (4 : Nat) (Option.some Jvm.ClassFile.FieldType.int)) ∈ lw_all := lw_g (lw_at lw_m7 213 rfl) rfl
theorem q1756 : (Jvm.Cond.constantLong "CoatHolesModel" (158 : Nat) (12532058 : Int64)) ∈ lw_all := lw_g (lw_at lw_m7 214 rfl) rfl
theorem q1757 : (Jvm.Cond.constantLong "CoatHolesModel" (160 : Nat) (103726 : Int64)) ∈ lw_all := lw_g (lw_at lw_m7 215 rfl) rfl
theorem q1758 : (Jvm.Cond.methodLink "CoatHolesModel" (162 : Nat) ({ cls := "CoatHolesModel", name := "wantEnd", desc := "()V" } : Jvm.MethodName)) ∈ lw_all := lw_g (lw_at lw_m7 216 rfl) rfl
theorem q1759 : (Jvm.Cond.privateMethod ({ cls := "CoatHolesModel", name := "wantEnd", desc := "()V" } : Jvm.MethodName)) ∈ lw_tbl := lw_at lw_m7 217 rfl
theorem q1760 : (Jvm.Cond.instanceMethod ({ cls := "CoatHolesModel", name := "wantEnd", desc := "()V" } : Jvm.MethodName)) ∈ lw_all := lw_g (lw_at lw_m7 218 rfl) rfl
theorem q1761 : (Jvm.Cond.code ({ cls := "CoatHolesModel", name := "wantEnd", desc := "()V" } : Jvm.MethodName) prog_33_method_23_code (1 : Nat) (Option.none : Option Jvm.ClassFile.FieldType)) ∈ lw_all := lw_g (lw_at lw_m7 219 rfl) rfl
theorem q1762 : (Jvm.Cond.methodLink "CoatHolesModel" (143 : Nat) ({ cls := "CoatHolesModel", name := "isMark", desc := "(I)Z" } : Jvm.MethodName)) ∈ lw_all := lw_g (lw_at lw_m7 220 rfl) rfl
theorem q1763 : (Jvm.Cond.privateMethod ({ cls := "CoatHolesModel", name := "isMark", desc := "(I)Z" } : Jvm.MethodName)) ∈ lw_tbl := lw_at lw_m7 221 rfl
theorem q1764 : (Jvm.Cond.instanceMethod ({ cls := "CoatHolesModel", name := "isMark", desc := "(I)Z" } : Jvm.MethodName)) ∈ lw_all := lw_g (lw_at lw_m7 222 rfl) rfl
theorem q1765 : (Jvm.Cond.code ({ cls := "CoatHolesModel", name := "isMark", desc := "(I)Z" } : Jvm.MethodName) prog_33_method_18_code (2 : Nat) (Option.some Jvm.ClassFile.FieldType.boolean)) ∈ lw_all := lw_g (lw_at lw_m7 223 rfl) rfl
theorem q1766 : (Jvm.Cond.methodLink "CoatHolesModel" (165 : Nat) ({ cls := "CoatHolesModel", name := "lay", desc := "(IIII)V" } : Jvm.MethodName)) ∈ lw_all := lw_g (lw_at lw_m7 224 rfl) rfl
theorem q1767 : (Jvm.Cond.privateMethod ({ cls := "CoatHolesModel", name := "lay", desc := "(IIII)V" } : Jvm.MethodName)) ∈ lw_tbl := lw_at lw_m7 225 rfl
theorem q1768 : (Jvm.Cond.instanceMethod ({ cls := "CoatHolesModel", name := "lay", desc := "(IIII)V" } : Jvm.MethodName)) ∈ lw_all := lw_g (lw_at lw_m7 226 rfl) rfl
theorem q1769 : (Jvm.Cond.code ({ cls := "CoatHolesModel", name := "lay", desc := "(IIII)V" } : Jvm.MethodName) prog_33_method_28_code (7 : Nat) (Option.none : Option Jvm.ClassFile.FieldType)) ∈ lw_all := lw_g (lw_at lw_m7 227 rfl) rfl
theorem q1770 : (Jvm.Cond.methodLink "CoatHolesModel" (169 : Nat) ({ cls := "CoatHolesModel", name := "becomes", desc := "(III)V" } : Jvm.MethodName)) ∈ lw_all := lw_g (lw_at lw_m7 228 rfl) rfl
theorem q1771 : (Jvm.Cond.privateMethod ({ cls := "CoatHolesModel", name := "becomes", desc := "(III)V" } : Jvm.MethodName)) ∈ lw_tbl := lw_at lw_m7 229 rfl
theorem q1772 : (Jvm.Cond.instanceMethod ({ cls := "CoatHolesModel", name := "becomes", desc := "(III)V" } : Jvm.MethodName)) ∈ lw_all := lw_g (lw_at lw_m7 230 rfl) rfl
theorem q1773 : (Jvm.Cond.code ({ cls := "CoatHolesModel", name := "becomes", desc := "(III)V" } : Jvm.MethodName) prog_33_method_9_code (4 : Nat) (Option.none : Option Jvm.ClassFile.FieldType)) ∈ lw_all := lw_g (lw_at lw_m7 231 rfl) rfl
theorem q1774 : (Jvm.Cond.constantLong "CoatHolesModel" (181 : Nat) (92652031 : Int64)) ∈ lw_all := lw_g (lw_at lw_m7 232 rfl) rfl
theorem q1775 : (Jvm.Cond.methodLink "CoatHolesModel" (183 : Nat) ({ cls := "CoatHolesModel", name := "placeBecomes", desc := "(III)V" } : Jvm.MethodName)) ∈ lw_all := lw_g (lw_at lw_m7 233 rfl) rfl
theorem q1776 : (Jvm.Cond.privateMethod ({ cls := "CoatHolesModel", name := "placeBecomes", desc := "(III)V" } : Jvm.MethodName)) ∈ lw_tbl := lw_at lw_m7 234 rfl
theorem q1777 : (Jvm.Cond.instanceMethod ({ cls := "CoatHolesModel", name := "placeBecomes", desc := "(III)V" } : Jvm.MethodName)) ∈ lw_all := lw_g (lw_at lw_m7 235 rfl) rfl
theorem q1778 : (Jvm.Cond.code ({ cls := "CoatHolesModel", name := "placeBecomes", desc := "(III)V" } : Jvm.MethodName) prog_33_method_11_code (4 : Nat) (Option.none : Option Jvm.ClassFile.FieldType)) ∈ lw_all := lw_g (lw_at lw_m7 236 rfl) rfl
theorem q1779 : (Jvm.Cond.constantLong "CoatHolesModel" (186 : Nat) (60268 : Int64)) ∈ lw_all := lw_g (lw_at lw_m7 237 rfl) rfl
theorem q1780 : (Jvm.Cond.constantLong "CoatHolesModel" (188 : Nat) (8800 : Int64)) ∈ lw_all := lw_g (lw_at lw_m7 238 rfl) rfl
theorem q1781 : (Jvm.Cond.methodLink "CoatHolesModel" (196 : Nat) ({ cls := "CoatHolesModel", name := "copies", desc := "(II)V" } : Jvm.MethodName)) ∈ lw_all := lw_g (lw_at lw_m7 239 rfl) rfl
theorem q1782 : (Jvm.Cond.privateMethod ({ cls := "CoatHolesModel", name := "copies", desc := "(II)V" } : Jvm.MethodName)) ∈ lw_tbl := lw_at lw_m8 0 rfl
theorem q1783 : (Jvm.Cond.instanceMethod ({ cls := "CoatHolesModel", name := "copies", desc := "(II)V" } : Jvm.MethodName)) ∈ lw_all := lw_g (lw_at lw_m8 1 rfl) rfl
theorem q1784 : (Jvm.Cond.code ({ cls := "CoatHolesModel", name := "copies", desc := "(II)V" } : Jvm.MethodName) prog_33_method_26_code (4 : Nat) (Option.none : Option Jvm.ClassFile.FieldType)) ∈ lw_all := lw_g (lw_at lw_m8 2 rfl) rfl
theorem q1786 : (Jvm.Cond.instanceMethod ({ cls := "CoatHolesModel", name := "thing", desc := "(IIII)I" } : Jvm.MethodName)) ∈ lw_all := lw_g (lw_at lw_m8 4 rfl) rfl
theorem q1787 : (Jvm.Cond.selects "CoatHolesModel" ({ cls := "CoatHolesModel", name := "thing", desc := "(IIII)I" } : Jvm.MethodName) ({ cls := "CoatHolesModel", name := "thing", desc := "(IIII)I" } : Jvm.MethodName)) ∈ lw_all := lw_g (lw_at lw_m8 5 rfl) rfl
theorem q1788 : (Jvm.Cond.code ({ cls := "CoatHolesModel", name := "thing", desc := "(IIII)I" } : Jvm.MethodName) prog_33_method_29_code (5 : Nat) (Option.some Jvm.ClassFile.FieldType.int)) ∈ lw_all := lw_g (lw_at lw_m8 6 rfl) rfl
theorem q1789 : (Jvm.Cond.methodLink "CoatHolesModel" (206 : Nat) ({ cls := "CoatHolesModel", name := "isPlace", desc := "(I)Z" } : Jvm.MethodName)) ∈ lw_all := lw_g (lw_at lw_m8 7 rfl) rfl
theorem q1790 : (Jvm.Cond.static ({ cls := "CoatHolesModel", name := "isPlace", desc := "(I)Z" } : Jvm.MethodName)) ∈ lw_all := lw_g (lw_at lw_m8 8 rfl) rfl
theorem q1791 : (Jvm.Cond.code ({ cls := "CoatHolesModel", name := "isPlace", desc := "(I)Z" } : Jvm.MethodName) prog_33_method_3_code (1 : Nat) (Option.some Jvm.ClassFile.FieldType.boolean)) ∈ lw_all := lw_g (lw_at lw_m8 9 rfl) rfl
theorem q1793 : (Jvm.Cond.instanceMethod ({ cls := "CoatHolesModel", name := "thingOf", desc := "(II)I" } : Jvm.MethodName)) ∈ lw_all := lw_g (lw_at lw_m8 11 rfl) rfl
theorem q1794 : (Jvm.Cond.selects "CoatHolesModel" ({ cls := "CoatHolesModel", name := "thingOf", desc := "(II)I" } : Jvm.MethodName) ({ cls := "CoatHolesModel", name := "thingOf", desc := "(II)I" } : Jvm.MethodName)) ∈ lw_all := lw_g (lw_at lw_m8 12 rfl) rfl
theorem q1795 : (Jvm.Cond.code ({ cls := "CoatHolesModel", name := "thingOf", desc := "(II)I" } : Jvm.MethodName) prog_33_method_32_code (3 : Nat) (Option.some Jvm.ClassFile.FieldType.int)) ∈ lw_all := lw_g (lw_at lw_m8 13 rfl) rfl
theorem q1796 : (Jvm.Cond.methodLink "CoatHolesModel" (216 : Nat) ({ cls := "CoatHolesModel", name := "isThing", desc := "(I)Z" } : Jvm.MethodName)) ∈ lw_all := lw_g (lw_at lw_m8 14 rfl) rfl
theorem q1797 : (Jvm.Cond.privateMethod ({ cls := "CoatHolesModel", name := "isThing", desc := "(I)Z" } : Jvm.MethodName)) ∈ lw_tbl := lw_at lw_m8 15 rfl
theorem q1798 : (Jvm.Cond.instanceMethod ({ cls := "CoatHolesModel", name := "isThing", desc := "(I)Z" } : Jvm.MethodName)) ∈ lw_all := lw_g (lw_at lw_m8 16 rfl) rfl
theorem q1799 : (Jvm.Cond.code ({ cls := "CoatHolesModel", name := "isThing", desc := "(I)Z" } : Jvm.MethodName) prog_33_method_4_code (2 : Nat) (Option.some Jvm.ClassFile.FieldType.boolean)) ∈ lw_all := lw_g (lw_at lw_m8 17 rfl) rfl
theorem q1800 : (Jvm.Cond.methodLink "CoatHolesModel" (213 : Nat) ({ cls := "CoatHolesModel", name := "tasteOf", desc := "(I)I" } : Jvm.MethodName)) ∈ lw_all := lw_g (lw_at lw_m8 18 rfl) rfl
theorem q1801 : (Jvm.Cond.privateMethod ({ cls := "CoatHolesModel", name := "tasteOf", desc := "(I)I" } : Jvm.MethodName)) ∈ lw_tbl := lw_at lw_m8 19 rfl
theorem q1802 : (Jvm.Cond.instanceMethod ({ cls := "CoatHolesModel", name := "tasteOf", desc := "(I)I" } : Jvm.MethodName)) ∈ lw_all := lw_g (lw_at lw_m8 20 rfl) rfl
theorem q1803 : (Jvm.Cond.code ({ cls := "CoatHolesModel", name := "tasteOf", desc := "(I)I" } : Jvm.MethodName) prog_33_method_30_code (3 : Nat) (Option.some Jvm.ClassFile.FieldType.int)) ∈ lw_all := lw_g (lw_at lw_m8 21 rfl) rfl
theorem q1804 : (Jvm.Cond.methodLink "CoatHolesModel" (209 : Nat) ({ cls := "CoatHolesModel", name := "its", desc := "(II)I" } : Jvm.MethodName)) ∈ lw_all := lw_g (lw_at lw_m8 22 rfl) rfl
theorem q1805 : (Jvm.Cond.privateMethod ({ cls := "CoatHolesModel", name := "its", desc := "(II)I" } : Jvm.MethodName)) ∈ lw_tbl := lw_at lw_m8 23 rfl
theorem q1806 : (Jvm.Cond.instanceMethod ({ cls := "CoatHolesModel", name := "its", desc := "(II)I" } : Jvm.MethodName)) ∈ lw_all := lw_g (lw_at lw_m8 24 rfl) rfl
theorem q1807 : (Jvm.Cond.code ({ cls := "CoatHolesModel", name := "its", desc := "(II)I" } : Jvm.MethodName) prog_33_method_8_code (3 : Nat) (Option.some Jvm.ClassFile.FieldType.int)) ∈ lw_all := lw_g (lw_at lw_m8 25 rfl) rfl
theorem q1808 : (Jvm.Cond.methodLink "CoatHolesModel" (219 : Nat) ({ cls := "CoatHolesModel", name := "likingOf", desc := "(I)I" } : Jvm.MethodName)) ∈ lw_all := lw_g (lw_at lw_m8 26 rfl) rfl
theorem q1809 : (Jvm.Cond.privateMethod ({ cls := "CoatHolesModel", name := "likingOf", desc := "(I)I" } : Jvm.MethodName)) ∈ lw_tbl := lw_at lw_m8 27 rfl
theorem q1810 : (Jvm.Cond.instanceMethod ({ cls := "CoatHolesModel", name := "likingOf", desc := "(I)I" } : Jvm.MethodName)) ∈ lw_all := lw_g (lw_at lw_m8 28 rfl) rfl
theorem q1811 : (Jvm.Cond.code ({ cls := "CoatHolesModel", name := "likingOf", desc := "(I)I" } : Jvm.MethodName) prog_33_method_31_code (3 : Nat) (Option.some Jvm.ClassFile.FieldType.int)) ∈ lw_all := lw_g (lw_at lw_m8 29 rfl) rfl
theorem q1813 : (Jvm.Cond.instanceMethod ({ cls := "CoatHolesModel", name := "lives", desc := "(III)I" } : Jvm.MethodName)) ∈ lw_all := lw_g (lw_at lw_m8 31 rfl) rfl
theorem q1814 : (Jvm.Cond.selects "CoatHolesModel" ({ cls := "CoatHolesModel", name := "lives", desc := "(III)I" } : Jvm.MethodName) ({ cls := "CoatHolesModel", name := "lives", desc := "(III)I" } : Jvm.MethodName)) ∈ lw_all := lw_g (lw_at lw_m8 32 rfl) rfl
theorem q1815 : (Jvm.Cond.code ({ cls := "CoatHolesModel", name := "lives", desc := "(III)I" } : Jvm.MethodName) prog_33_method_33_code (5 : Nat) (Option.some Jvm.ClassFile.FieldType.int)) ∈ lw_all := lw_g (lw_at lw_m8 33 rfl) rfl
theorem q1817 : (Jvm.Cond.instanceMethod ({ cls := "CoatHolesModel", name := "bag", desc := "(IZ)I" } : Jvm.MethodName)) ∈ lw_all := lw_g (lw_at lw_m8 35 rfl) rfl
theorem q1818 : (Jvm.Cond.selects "CoatHolesModel" ({ cls := "CoatHolesModel", name := "bag", desc := "(IZ)I" } : Jvm.MethodName) ({ cls := "CoatHolesModel", name := "bag", desc := "(IZ)I" } : Jvm.MethodName)) ∈ lw_all := lw_g (lw_at lw_m8 36 rfl) rfl
theorem q1819 : (Jvm.Cond.code ({ cls := "CoatHolesModel", name := "bag", desc := "(IZ)I" } : Jvm.MethodName) prog_33_method_34_code (3 : Nat) (Option.some Jvm.ClassFile.FieldType.int)) ∈ lw_all := lw_g (lw_at lw_m8 37 rfl) rfl
theorem q1821 : (Jvm.Cond.instanceMethod ({ cls := "CoatHolesModel", name := "move", desc := "(II)I" } : Jvm.MethodName)) ∈ lw_all := lw_g (lw_at lw_m8 39 rfl) rfl
theorem q1822 : (Jvm.Cond.selects "CoatHolesModel" ({ cls := "CoatHolesModel", name := "move", desc := "(II)I" } : Jvm.MethodName) ({ cls := "CoatHolesModel", name := "move", desc := "(II)I" } : Jvm.MethodName)) ∈ lw_all := lw_g (lw_at lw_m8 40 rfl) rfl
theorem q1823 : (Jvm.Cond.code ({ cls := "CoatHolesModel", name := "move", desc := "(II)I" } : Jvm.MethodName) prog_33_method_35_code (4 : Nat) (Option.some Jvm.ClassFile.FieldType.int)) ∈ lw_all := lw_g (lw_at lw_m8 41 rfl) rfl
theorem q1825 : (Jvm.Cond.instanceMethod ({ cls := "CoatHolesModel", name := "fliers", desc := "(II)I" } : Jvm.MethodName)) ∈ lw_all := lw_g (lw_at lw_m8 43 rfl) rfl
theorem q1826 : (Jvm.Cond.selects "CoatHolesModel" ({ cls := "CoatHolesModel", name := "fliers", desc := "(II)I" } : Jvm.MethodName) ({ cls := "CoatHolesModel", name := "fliers", desc := "(II)I" } : Jvm.MethodName)) ∈ lw_all := lw_g (lw_at lw_m8 44 rfl) rfl
theorem q1827 : (Jvm.Cond.code ({ cls := "CoatHolesModel", name := "fliers", desc := "(II)I" } : Jvm.MethodName) prog_33_method_36_code (4 : Nat) (Option.some Jvm.ClassFile.FieldType.int)) ∈ lw_all := lw_g (lw_at lw_m8 45 rfl) rfl
theorem q1828 : (Jvm.Cond.methodLink "CoatHolesModel" (222 : Nat) ({ cls := "CoatHolesModel", name := "ofPlace", desc := "(II)I" } : Jvm.MethodName)) ∈ lw_all := lw_g (lw_at lw_m8 46 rfl) rfl
theorem q1829 : (Jvm.Cond.privateMethod ({ cls := "CoatHolesModel", name := "ofPlace", desc := "(II)I" } : Jvm.MethodName)) ∈ lw_tbl := lw_at lw_m8 47 rfl
theorem q1830 : (Jvm.Cond.instanceMethod ({ cls := "CoatHolesModel", name := "ofPlace", desc := "(II)I" } : Jvm.MethodName)) ∈ lw_all := lw_g (lw_at lw_m8 48 rfl) rfl
theorem q1831 : (Jvm.Cond.code ({ cls := "CoatHolesModel", name := "ofPlace", desc := "(II)I" } : Jvm.MethodName) prog_33_method_10_code (3 : Nat) (Option.some Jvm.ClassFile.FieldType.int)) ∈ lw_all := lw_g (lw_at lw_m8 49 rfl) rfl
theorem q1833 : (Jvm.Cond.instanceMethod ({ cls := "CoatHolesModel", name := "card", desc := "(IZ)I" } : Jvm.MethodName)) ∈ lw_all := lw_g (lw_at lw_m8 51 rfl) rfl
theorem q1834 : (Jvm.Cond.selects "CoatHolesModel" ({ cls := "CoatHolesModel", name := "card", desc := "(IZ)I" } : Jvm.MethodName) ({ cls := "CoatHolesModel", name := "card", desc := "(IZ)I" } : Jvm.MethodName)) ∈ lw_all := lw_g (lw_at lw_m8 52 rfl) rfl
theorem q1835 : (Jvm.Cond.code ({ cls := "CoatHolesModel", name := "card", desc := "(IZ)I" } : Jvm.MethodName) prog_33_method_37_code (3 : Nat) (Option.some Jvm.ClassFile.FieldType.int)) ∈ lw_all := lw_g (lw_at lw_m8 53 rfl) rfl
theorem q1837 : (Jvm.Cond.instanceMethod ({ cls := "CoatHolesModel", name := "placeOf", desc := "(II)I" } : Jvm.MethodName)) ∈ lw_all := lw_g (lw_at lw_m8 55 rfl) rfl
theorem q1838 : (Jvm.Cond.selects "CoatHolesModel" ({ cls := "CoatHolesModel", name := "placeOf", desc := "(II)I" } : Jvm.MethodName) ({ cls := "CoatHolesModel", name := "placeOf", desc := "(II)I" } : Jvm.MethodName)) ∈ lw_all := lw_g (lw_at lw_m8 56 rfl) rfl
theorem q1839 : (Jvm.Cond.code ({ cls := "CoatHolesModel", name := "placeOf", desc := "(II)I" } : Jvm.MethodName) prog_33_method_39_code (3 : Nat) (Option.some Jvm.ClassFile.FieldType.int)) ∈ lw_all := lw_g (lw_at lw_m8 57 rfl) rfl
theorem q1840 : (Jvm.Cond.methodLink "CoatHolesModel" (225 : Nat) ({ cls := "CoatHolesModel", name := "thingsOn", desc := "(I)I" } : Jvm.MethodName)) ∈ lw_all := lw_g (lw_at lw_m8 58 rfl) rfl
theorem q1841 : (Jvm.Cond.privateMethod ({ cls := "CoatHolesModel", name := "thingsOn", desc := "(I)I" } : Jvm.MethodName)) ∈ lw_tbl := lw_at lw_m8 59 rfl
theorem q1842 : (Jvm.Cond.instanceMethod ({ cls := "CoatHolesModel", name := "thingsOn", desc := "(I)I" } : Jvm.MethodName)) ∈ lw_all := lw_g (lw_at lw_m8 60 rfl) rfl
theorem q1843 : (Jvm.Cond.code ({ cls := "CoatHolesModel", name := "thingsOn", desc := "(I)I" } : Jvm.MethodName) prog_33_method_38_code (4 : Nat) (Option.some Jvm.ClassFile.FieldType.int)) ∈ lw_all := lw_g (lw_at lw_m8 61 rfl) rfl
theorem q1845 : (Jvm.Cond.instanceMethod ({ cls := "CoatHolesModel", name := "set", desc := "(II)I" } : Jvm.MethodName)) ∈ lw_all := lw_g (lw_at lw_m8 63 rfl) rfl
theorem q1846 : (Jvm.Cond.selects "CoatHolesModel" ({ cls := "CoatHolesModel", name := "set", desc := "(II)I" } : Jvm.MethodName) ({ cls := "CoatHolesModel", name := "set", desc := "(II)I" } : Jvm.MethodName)) ∈ lw_all := lw_g (lw_at lw_m8 64 rfl) rfl
theorem q1847 : (Jvm.Cond.code ({ cls := "CoatHolesModel", name := "set", desc := "(II)I" } : Jvm.MethodName) prog_33_method_40_code (5 : Nat) (Option.some Jvm.ClassFile.FieldType.int)) ∈ lw_all := lw_g (lw_at lw_m8 65 rfl) rfl
theorem q1849 : (Jvm.Cond.instanceMethod ({ cls := "CoatHolesModel", name := "warm", desc := "(II)I" } : Jvm.MethodName)) ∈ lw_all := lw_g (lw_at lw_m8 67 rfl) rfl
theorem q1850 : (Jvm.Cond.selects "CoatHolesModel" ({ cls := "CoatHolesModel", name := "warm", desc := "(II)I" } : Jvm.MethodName) ({ cls := "CoatHolesModel", name := "warm", desc := "(II)I" } : Jvm.MethodName)) ∈ lw_all := lw_g (lw_at lw_m8 68 rfl) rfl
theorem q1851 : (Jvm.Cond.code ({ cls := "CoatHolesModel", name := "warm", desc := "(II)I" } : Jvm.MethodName) prog_33_method_41_code (4 : Nat) (Option.some Jvm.ClassFile.FieldType.int)) ∈ lw_all := lw_g (lw_at lw_m8 69 rfl) rfl
theorem q1853 : (Jvm.Cond.instanceMethod ({ cls := "CoatHolesModel", name := "week", desc := "(I)I" } : Jvm.MethodName)) ∈ lw_all := lw_g (lw_at lw_m8 71 rfl) rfl
theorem q1854 : (Jvm.Cond.selects "CoatHolesModel" ({ cls := "CoatHolesModel", name := "week", desc := "(I)I" } : Jvm.MethodName) ({ cls := "CoatHolesModel", name := "week", desc := "(I)I" } : Jvm.MethodName)) ∈ lw_all := lw_g (lw_at lw_m8 72 rfl) rfl
theorem q1855 : (Jvm.Cond.code ({ cls := "CoatHolesModel", name := "week", desc := "(I)I" } : Jvm.MethodName) prog_33_method_46_code (3 : Nat) (Option.some Jvm.ClassFile.FieldType.int)) ∈ lw_all := lw_g (lw_at lw_m8 73 rfl) rfl
theorem q1856 : (Jvm.Cond.methodLink "CoatHolesModel" (239 : Nat) ({ cls := "CoatHolesModel", name := "weekGoes", desc := "()V" } : Jvm.MethodName)) ∈ lw_all := lw_g (lw_at lw_m8 74 rfl) rfl
theorem q1857 : (Jvm.Cond.privateMethod ({ cls := "CoatHolesModel", name := "weekGoes", desc := "()V" } : Jvm.MethodName)) ∈ lw_tbl := lw_at lw_m8 75 rfl
theorem q1858 : (Jvm.Cond.instanceMethod ({ cls := "CoatHolesModel", name := "weekGoes", desc := "()V" } : Jvm.MethodName)) ∈ lw_all := lw_g (lw_at lw_m8 76 rfl) rfl
theorem q1859 : (Jvm.Cond.code ({ cls := "CoatHolesModel", name := "weekGoes", desc := "()V" } : Jvm.MethodName) prog_33_method_45_code (3 : Nat) (Option.none : Option Jvm.ClassFile.FieldType)) ∈ lw_all := lw_g (lw_at lw_m8 77 rfl) rfl
theorem q1860 : (Jvm.Cond.methodLink "CoatHolesModel" (233 : Nat) ({ cls := "CoatHolesModel", name := "placeGoes", desc := "(I)V" } : Jvm.MethodName)) ∈ lw_all := lw_g (lw_at lw_m8 78 rfl) rfl
theorem q1861 : (Jvm.Cond.privateMethod ({ cls := "CoatHolesModel", name := "placeGoes", desc := "(I)V" } : Jvm.MethodName)) ∈ lw_tbl := lw_at lw_m8 79 rfl
theorem q1862 : (Jvm.Cond.instanceMethod ({ cls := "CoatHolesModel", name := "placeGoes", desc := "(I)V" } : Jvm.MethodName)) ∈ lw_all := lw_g (lw_at lw_m8 80 rfl) rfl
theorem q1863 : (Jvm.Cond.code ({ cls := "CoatHolesModel", name := "placeGoes", desc := "(I)V" } : Jvm.MethodName) prog_33_method_43_code (5 : Nat) (Option.none : Option Jvm.ClassFile.FieldType)) ∈ lw_all := lw_g (lw_at lw_m8 81 rfl) rfl
theorem q1864 : (Jvm.Cond.methodLink "CoatHolesModel" (228 : Nat) ({ cls := "CoatHolesModel", name := "likedIn", desc := "(I)I" } : Jvm.MethodName)) ∈ lw_all := lw_g (lw_at lw_m8 82 rfl) rfl
theorem q1865 : (Jvm.Cond.privateMethod ({ cls := "CoatHolesModel", name := "likedIn", desc := "(I)I" } : Jvm.MethodName)) ∈ lw_tbl := lw_at lw_m8 83 rfl
theorem q1866 : (Jvm.Cond.instanceMethod ({ cls := "CoatHolesModel", name := "likedIn", desc := "(I)I" } : Jvm.MethodName)) ∈ lw_all := lw_g (lw_at lw_m8 84 rfl) rfl
theorem q1867 : (Jvm.Cond.code ({ cls := "CoatHolesModel", name := "likedIn", desc := "(I)I" } : Jvm.MethodName) prog_33_method_42_code (6 : Nat) (Option.some Jvm.ClassFile.FieldType.int)) ∈ lw_all := lw_g (lw_at lw_m8 85 rfl) rfl
theorem q1868 : (Jvm.Cond.methodLink "CoatHolesModel" (231 : Nat) ({ cls := "CoatHolesModel", name := "held", desc := "(II)I" } : Jvm.MethodName)) ∈ lw_all := lw_g (lw_at lw_m8 86 rfl) rfl
theorem q1869 : (Jvm.Cond.static ({ cls := "CoatHolesModel", name := "held", desc := "(II)I" } : Jvm.MethodName)) ∈ lw_all := lw_g (lw_at lw_m8 87 rfl) rfl
theorem q1870 : (Jvm.Cond.code ({ cls := "CoatHolesModel", name := "held", desc := "(II)I" } : Jvm.MethodName) prog_33_method_7_code (2 : Nat) (Option.some Jvm.ClassFile.FieldType.int)) ∈ lw_all := lw_g (lw_at lw_m8 88 rfl) rfl
theorem q1871 : (Jvm.Cond.methodLink "CoatHolesModel" (236 : Nat) ({ cls := "CoatHolesModel", name := "thingGoes", desc := "(II)V" } : Jvm.MethodName)) ∈ lw_all := lw_g (lw_at lw_m8 89 rfl) rfl
theorem q1872 : (Jvm.Cond.privateMethod ({ cls := "CoatHolesModel", name := "thingGoes", desc := "(II)V" } : Jvm.MethodName)) ∈ lw_tbl := lw_at lw_m8 90 rfl
theorem q1873 : (Jvm.Cond.instanceMethod ({ cls := "CoatHolesModel", name := "thingGoes", desc := "(II)V" } : Jvm.MethodName)) ∈ lw_all := lw_g (lw_at lw_m8 91 rfl) rfl
theorem q1874 : (Jvm.Cond.code ({ cls := "CoatHolesModel", name := "thingGoes", desc := "(II)V" } : Jvm.MethodName) prog_33_method_44_code (6 : Nat) (Option.none : Option Jvm.ClassFile.FieldType)) ∈ lw_all := lw_g (lw_at lw_m8 92 rfl) rfl
theorem q1876 : (Jvm.Cond.instanceMethod ({ cls := "CoatHolesModel", name := "now", desc := "(I)I" } : Jvm.MethodName)) ∈ lw_all := lw_g (lw_at lw_m8 94 rfl) rfl
theorem q1877 : (Jvm.Cond.selects "CoatHolesModel" ({ cls := "CoatHolesModel", name := "now", desc := "(I)I" } : Jvm.MethodName) ({ cls := "CoatHolesModel", name := "now", desc := "(I)I" } : Jvm.MethodName)) ∈ lw_all := lw_g (lw_at lw_m8 95 rfl) rfl
theorem q1878 : (Jvm.Cond.code ({ cls := "CoatHolesModel", name := "now", desc := "(I)I" } : Jvm.MethodName) prog_33_method_51_code (2 : Nat) (Option.some Jvm.ClassFile.FieldType.int)) ∈ lw_all := lw_g (lw_at lw_m8 96 rfl) rfl
theorem q1879 : (Jvm.Cond.methodLink "CoatHolesModel" (245 : Nat) ({ cls := "CoatHolesModel", name := "alive", desc := "()I" } : Jvm.MethodName)) ∈ lw_all := lw_g (lw_at lw_m8 97 rfl) rfl
theorem q1880 : (Jvm.Cond.privateMethod ({ cls := "CoatHolesModel", name := "alive", desc := "()I" } : Jvm.MethodName)) ∈ lw_tbl := lw_at lw_m8 98 rfl
theorem q1881 : (Jvm.Cond.instanceMethod ({ cls := "CoatHolesModel", name := "alive", desc := "()I" } : Jvm.MethodName)) ∈ lw_all := lw_g (lw_at lw_m8 99 rfl) rfl
theorem q1882 : (Jvm.Cond.code ({ cls := "CoatHolesModel", name := "alive", desc := "()I" } : Jvm.MethodName) prog_33_method_48_code (3 : Nat) (Option.some Jvm.ClassFile.FieldType.int)) ∈ lw_all := lw_g (lw_at lw_m8 100 rfl) rfl
theorem q1883 : (Jvm.Cond.methodLink "CoatHolesModel" (242 : Nat) ({ cls := "CoatHolesModel", name := "aliveIn", desc := "(I)I" } : Jvm.MethodName)) ∈ lw_all := lw_g (lw_at lw_m8 101 rfl) rfl
theorem q1884 : (Jvm.Cond.privateMethod ({ cls := "CoatHolesModel", name := "aliveIn", desc := "(I)I" } : Jvm.MethodName)) ∈ lw_tbl := lw_at lw_m8 102 rfl
theorem q1885 : (Jvm.Cond.instanceMethod ({ cls := "CoatHolesModel", name := "aliveIn", desc := "(I)I" } : Jvm.MethodName)) ∈ lw_all := lw_g (lw_at lw_m8 103 rfl) rfl
theorem q1886 : (Jvm.Cond.code ({ cls := "CoatHolesModel", name := "aliveIn", desc := "(I)I" } : Jvm.MethodName) prog_33_method_47_code (2 : Nat) (Option.some Jvm.ClassFile.FieldType.int)) ∈ lw_all := lw_g (lw_at lw_m8 104 rfl) rfl
theorem q1887 : (Jvm.Cond.methodLink "CoatHolesModel" (248 : Nat) ({ cls := "CoatHolesModel", name := "kept", desc := "()I" } : Jvm.MethodName)) ∈ lw_all := lw_g (lw_at lw_m8 105 rfl) rfl
theorem q1888 : (Jvm.Cond.privateMethod ({ cls := "CoatHolesModel", name := "kept", desc := "()I" } : Jvm.MethodName)) ∈ lw_tbl := lw_at lw_m8 106 rfl
theorem q1889 : (Jvm.Cond.instanceMethod ({ cls := "CoatHolesModel", name := "kept", desc := "()I" } : Jvm.MethodName)) ∈ lw_all := lw_g (lw_at lw_m8 107 rfl) rfl
theorem q1890 : (Jvm.Cond.code ({ cls := "CoatHolesModel", name := "kept", desc := "()I" } : Jvm.MethodName) prog_33_method_49_code (4 : Nat) (Option.some Jvm.ClassFile.FieldType.int)) ∈ lw_all := lw_g (lw_at lw_m8 108 rfl) rfl
theorem q1891 : (Jvm.Cond.methodLink "CoatHolesModel" (251 : Nat) ({ cls := "CoatHolesModel", name := "holes", desc := "()I" } : Jvm.MethodName)) ∈ lw_all := lw_g (lw_at lw_m8 109 rfl) rfl
theorem q1892 : (Jvm.Cond.privateMethod ({ cls := "CoatHolesModel", name := "holes", desc := "()I" } : Jvm.MethodName)) ∈ lw_tbl := lw_at lw_m8 110 rfl
theorem q1893 : (Jvm.Cond.instanceMethod ({ cls := "CoatHolesModel", name := "holes", desc := "()I" } : Jvm.MethodName)) ∈ lw_all := lw_g (lw_at lw_m8 111 rfl) rfl
theorem q1894 : (Jvm.Cond.code ({ cls := "CoatHolesModel", name := "holes", desc := "()I" } : Jvm.MethodName) prog_33_method_50_code (3 : Nat) (Option.some Jvm.ClassFile.FieldType.int)) ∈ lw_all := lw_g (lw_at lw_m8 112 rfl) rfl
theorem q1896 : (Jvm.Cond.instanceMethod ({ cls := "CoatHolesModel", name := "over", desc := "()I" } : Jvm.MethodName)) ∈ lw_all := lw_g (lw_at lw_m8 114 rfl) rfl
theorem q1897 : (Jvm.Cond.selects "CoatHolesModel" ({ cls := "CoatHolesModel", name := "over", desc := "()I" } : Jvm.MethodName) ({ cls := "CoatHolesModel", name := "over", desc := "()I" } : Jvm.MethodName)) ∈ lw_all := lw_g (lw_at lw_m8 115 rfl) rfl
theorem q1898 : (Jvm.Cond.code ({ cls := "CoatHolesModel", name := "over", desc := "()I" } : Jvm.MethodName) prog_33_method_52_code (3 : Nat) (Option.some Jvm.ClassFile.FieldType.int)) ∈ lw_all := lw_g (lw_at lw_m8 116 rfl) rfl
theorem q1900 : (Jvm.Cond.instanceMethod ({ cls := "CoatHolesModel", name := "doing", desc := "(II)I" } : Jvm.MethodName)) ∈ lw_all := lw_g (lw_at lw_m8 118 rfl) rfl
theorem q1901 : (Jvm.Cond.selects "CoatHolesModel" ({ cls := "CoatHolesModel", name := "doing", desc := "(II)I" } : Jvm.MethodName) ({ cls := "CoatHolesModel", name := "doing", desc := "(II)I" } : Jvm.MethodName)) ∈ lw_all := lw_g (lw_at lw_m8 119 rfl) rfl
theorem q1902 : (Jvm.Cond.code ({ cls := "CoatHolesModel", name := "doing", desc := "(II)I" } : Jvm.MethodName) prog_33_method_53_code (3 : Nat) (Option.some Jvm.ClassFile.FieldType.int)) ∈ lw_all := lw_g (lw_at lw_m8 120 rfl) rfl
theorem q1904 : (Jvm.Cond.instanceMethod ({ cls := "CoatHolesModel", name := "doingOf", desc := "(II)I" } : Jvm.MethodName)) ∈ lw_all := lw_g (lw_at lw_m8 122 rfl) rfl
theorem q1905 : (Jvm.Cond.selects "CoatHolesModel" ({ cls := "CoatHolesModel", name := "doingOf", desc := "(II)I" } : Jvm.MethodName) ({ cls := "CoatHolesModel", name := "doingOf", desc := "(II)I" } : Jvm.MethodName)) ∈ lw_all := lw_g (lw_at lw_m8 123 rfl) rfl
theorem q1906 : (Jvm.Cond.code ({ cls := "CoatHolesModel", name := "doingOf", desc := "(II)I" } : Jvm.MethodName) prog_33_method_54_code (3 : Nat) (Option.some Jvm.ClassFile.FieldType.int)) ∈ lw_all := lw_g (lw_at lw_m8 124 rfl) rfl
theorem q1907 : (Jvm.Cond.methodLink "CoatHolesModel" (254 : Nat) ({ cls := "CoatHolesModel", name := "isDoing", desc := "(I)Z" } : Jvm.MethodName)) ∈ lw_all := lw_g (lw_at lw_m8 125 rfl) rfl
theorem q1908 : (Jvm.Cond.privateMethod ({ cls := "CoatHolesModel", name := "isDoing", desc := "(I)Z" } : Jvm.MethodName)) ∈ lw_tbl := lw_at lw_m8 126 rfl
theorem q1909 : (Jvm.Cond.instanceMethod ({ cls := "CoatHolesModel", name := "isDoing", desc := "(I)Z" } : Jvm.MethodName)) ∈ lw_all := lw_g (lw_at lw_m8 127 rfl) rfl
theorem q1910 : (Jvm.Cond.code ({ cls := "CoatHolesModel", name := "isDoing", desc := "(I)Z" } : Jvm.MethodName) prog_33_method_5_code (2 : Nat) (Option.some Jvm.ClassFile.FieldType.boolean)) ∈ lw_all := lw_g (lw_at lw_m8 128 rfl) rfl
theorem q1911 : (Jvm.Cond.methodLink "CoatHolesModel" (257 : Nat) ({ cls := "CoatHolesModel", name := "isSide", desc := "(I)Z" } : Jvm.MethodName)) ∈ lw_all := lw_g (lw_at lw_m8 129 rfl) rfl
theorem q1912 : (Jvm.Cond.static ({ cls := "CoatHolesModel", name := "isSide", desc := "(I)Z" } : Jvm.MethodName)) ∈ lw_all := lw_g (lw_at lw_m8 130 rfl) rfl
theorem q1913 : (Jvm.Cond.code ({ cls := "CoatHolesModel", name := "isSide", desc := "(I)Z" } : Jvm.MethodName) prog_33_method_6_code (1 : Nat) (Option.some Jvm.ClassFile.FieldType.boolean)) ∈ lw_all := lw_g (lw_at lw_m8 131 rfl) rfl
theorem q1915 : (Jvm.Cond.instanceMethod ({ cls := "CoatHolesModel", name := "does", desc := "(II)I" } : Jvm.MethodName)) ∈ lw_all := lw_g (lw_at lw_m8 133 rfl) rfl
theorem q1916 : (Jvm.Cond.selects "CoatHolesModel" ({ cls := "CoatHolesModel", name := "does", desc := "(II)I" } : Jvm.MethodName) ({ cls := "CoatHolesModel", name := "does", desc := "(II)I" } : Jvm.MethodName)) ∈ lw_all := lw_g (lw_at lw_m8 134 rfl) rfl
theorem q1917 : (Jvm.Cond.code ({ cls := "CoatHolesModel", name := "does", desc := "(II)I" } : Jvm.MethodName) prog_33_method_57_code (4 : Nat) (Option.some Jvm.ClassFile.FieldType.int)) ∈ lw_all := lw_g (lw_at lw_m8 135 rfl) rfl
theorem q1918 : (Jvm.Cond.methodLink "CoatHolesModel" (263 : Nat) ({ cls := "CoatHolesModel", name := "isDone", desc := "(II)V" } : Jvm.MethodName)) ∈ lw_all := lw_g (lw_at lw_m8 136 rfl) rfl
theorem q1919 : (Jvm.Cond.privateMethod ({ cls := "CoatHolesModel", name := "isDone", desc := "(II)V" } : Jvm.MethodName)) ∈ lw_tbl := lw_at lw_m8 137 rfl
theorem q1920 : (Jvm.Cond.instanceMethod ({ cls := "CoatHolesModel", name := "isDone", desc := "(II)V" } : Jvm.MethodName)) ∈ lw_all := lw_g (lw_at lw_m8 138 rfl) rfl
theorem q1921 : (Jvm.Cond.code ({ cls := "CoatHolesModel", name := "isDone", desc := "(II)V" } : Jvm.MethodName) prog_33_method_56_code (4 : Nat) (Option.none : Option Jvm.ClassFile.FieldType)) ∈ lw_all := lw_g (lw_at lw_m8 139 rfl) rfl
theorem q1922 : (Jvm.Cond.methodLink "CoatHolesModel" (260 : Nat) ({ cls := "CoatHolesModel", name := "halves", desc := "(II)V" } : Jvm.MethodName)) ∈ lw_all := lw_g (lw_at lw_m8 140 rfl) rfl
theorem q1923 : (Jvm.Cond.privateMethod ({ cls := "CoatHolesModel", name := "halves", desc := "(II)V" } : Jvm.MethodName)) ∈ lw_tbl := lw_at lw_m8 141 rfl
theorem q1924 : (Jvm.Cond.instanceMethod ({ cls := "CoatHolesModel", name := "halves", desc := "(II)V" } : Jvm.MethodName)) ∈ lw_all := lw_g (lw_at lw_m8 142 rfl) rfl
theorem q1925 : (Jvm.Cond.code ({ cls := "CoatHolesModel", name := "halves", desc := "(II)V" } : Jvm.MethodName) prog_33_method_55_code (3 : Nat) (Option.none : Option Jvm.ClassFile.FieldType)) ∈ lw_all := lw_g (lw_at lw_m8 143 rfl) rfl
theorem q1927 : (Jvm.Cond.instanceMethod ({ cls := "CoatHolesModel", name := "best", desc := "(II)I" } : Jvm.MethodName)) ∈ lw_all := lw_g (lw_at lw_m8 145 rfl) rfl
theorem q1928 : (Jvm.Cond.selects "CoatHolesModel" ({ cls := "CoatHolesModel", name := "best", desc := "(II)I" } : Jvm.MethodName) ({ cls := "CoatHolesModel", name := "best", desc := "(II)I" } : Jvm.MethodName)) ∈ lw_all := lw_g (lw_at lw_m8 146 rfl) rfl
theorem q1929 : (Jvm.Cond.code ({ cls := "CoatHolesModel", name := "best", desc := "(II)I" } : Jvm.MethodName) prog_33_method_62_code (4 : Nat) (Option.some Jvm.ClassFile.FieldType.int)) ∈ lw_all := lw_g (lw_at lw_m8 147 rfl) rfl
theorem q1930 : (Jvm.Cond.methodLink "CoatHolesModel" (278 : Nat) ({ cls := "CoatHolesModel", name := "bestOf", desc := "(I)I" } : Jvm.MethodName)) ∈ lw_all := lw_g (lw_at lw_m8 148 rfl) rfl
theorem q1931 : (Jvm.Cond.privateMethod ({ cls := "CoatHolesModel", name := "bestOf", desc := "(I)I" } : Jvm.MethodName)) ∈ lw_tbl := lw_at lw_m8 149 rfl
theorem q1932 : (Jvm.Cond.instanceMethod ({ cls := "CoatHolesModel", name := "bestOf", desc := "(I)I" } : Jvm.MethodName)) ∈ lw_all := lw_g (lw_at lw_m8 150 rfl) rfl
theorem q1933 : (Jvm.Cond.code ({ cls := "CoatHolesModel", name := "bestOf", desc := "(I)I" } : Jvm.MethodName) prog_33_method_61_code (8 : Nat) (Option.some Jvm.ClassFile.FieldType.int)) ∈ lw_all := lw_g (lw_at lw_m8 151 rfl) rfl
theorem q1934 : (Jvm.Cond.methodLink "CoatHolesModel" (269 : Nat) ({ cls := "CoatHolesModel", name := "isChoice", desc := "(I)Z" } : Jvm.MethodName)) ∈ lw_all := lw_g (lw_at lw_m8 152 rfl) rfl
theorem q1935 : (Jvm.Cond.privateMethod ({ cls := "CoatHolesModel", name := "isChoice", desc := "(I)Z" } : Jvm.MethodName)) ∈ lw_tbl := lw_at lw_m8 153 rfl
theorem q1936 : (Jvm.Cond.instanceMethod ({ cls := "CoatHolesModel", name := "isChoice", desc := "(I)Z" } : Jvm.MethodName)) ∈ lw_all := lw_g (lw_at lw_m8 154 rfl) rfl
theorem q1937 : (Jvm.Cond.code ({ cls := "CoatHolesModel", name := "isChoice", desc := "(I)Z" } : Jvm.MethodName) prog_33_method_58_code (2 : Nat) (Option.some Jvm.ClassFile.FieldType.boolean)) ∈ lw_all := lw_g (lw_at lw_m8 155 rfl) rfl
theorem q1938 : (Jvm.Cond.methodLink "CoatHolesModel" (272 : Nat) ({ cls := "CoatHolesModel", name := "choose", desc := "(I)I" } : Jvm.MethodName)) ∈ lw_all := lw_g (lw_at lw_m8 156 rfl) rfl
theorem q1939 : (Jvm.Cond.privateMethod ({ cls := "CoatHolesModel", name := "choose", desc := "(I)I" } : Jvm.MethodName)) ∈ lw_tbl := lw_at lw_m8 157 rfl
theorem q1940 : (Jvm.Cond.instanceMethod ({ cls := "CoatHolesModel", name := "choose", desc := "(I)I" } : Jvm.MethodName)) ∈ lw_all := lw_g (lw_at lw_m8 158 rfl) rfl
theorem q1941 : (Jvm.Cond.code ({ cls := "CoatHolesModel", name := "choose", desc := "(I)I" } : Jvm.MethodName) prog_33_method_59_code (3 : Nat) (Option.some Jvm.ClassFile.FieldType.int)) ∈ lw_all := lw_g (lw_at lw_m8 159 rfl) rfl
theorem q1942 : (Jvm.Cond.methodLink "CoatHolesModel" (275 : Nat) ({ cls := "CoatHolesModel", name := "behind", desc := "()I" } : Jvm.MethodName)) ∈ lw_all := lw_g (lw_at lw_m8 160 rfl) rfl
theorem q1943 : (Jvm.Cond.privateMethod ({ cls := "CoatHolesModel", name := "behind", desc := "()I" } : Jvm.MethodName)) ∈ lw_tbl := lw_at lw_m8 161 rfl
theorem q1944 : (Jvm.Cond.instanceMethod ({ cls := "CoatHolesModel", name := "behind", desc := "()I" } : Jvm.MethodName)) ∈ lw_all := lw_g (lw_at lw_m8 162 rfl) rfl
theorem q1945 : (Jvm.Cond.code ({ cls := "CoatHolesModel", name := "behind", desc := "()I" } : Jvm.MethodName) prog_33_method_60_code (2 : Nat) (Option.some Jvm.ClassFile.FieldType.int)) ∈ lw_all := lw_g (lw_at lw_m8 163 rfl) rfl
theorem q1947 : (Jvm.Cond.instanceMethod ({ cls := "CoatHolesModel", name := "weigh", desc := "(II)I" } : Jvm.MethodName)) ∈ lw_all := lw_g (lw_at lw_m8 165 rfl) rfl
theorem q1948 : (Jvm.Cond.selects "CoatHolesModel" ({ cls := "CoatHolesModel", name := "weigh", desc := "(II)I" } : Jvm.MethodName) ({ cls := "CoatHolesModel", name := "weigh", desc := "(II)I" } : Jvm.MethodName)) ∈ lw_all := lw_g (lw_at lw_m8 166 rfl) rfl
theorem q1949 : (Jvm.Cond.code ({ cls := "CoatHolesModel", name := "weigh", desc := "(II)I" } : Jvm.MethodName) prog_33_method_63_code (4 : Nat) (Option.some Jvm.ClassFile.FieldType.int)) ∈ lw_all := lw_g (lw_at lw_m8 167 rfl) rfl
theorem q1951 : (Jvm.Cond.instanceMethod ({ cls := "CoatHolesModel", name := "look", desc := "(IZ)I" } : Jvm.MethodName)) ∈ lw_all := lw_g (lw_at lw_m8 169 rfl) rfl
theorem q1952 : (Jvm.Cond.selects "CoatHolesModel" ({ cls := "CoatHolesModel", name := "look", desc := "(IZ)I" } : Jvm.MethodName) ({ cls := "CoatHolesModel", name := "look", desc := "(IZ)I" } : Jvm.MethodName)) ∈ lw_all := lw_g (lw_at lw_m8 170 rfl) rfl
theorem q1953 : (Jvm.Cond.code ({ cls := "CoatHolesModel", name := "look", desc := "(IZ)I" } : Jvm.MethodName) prog_33_method_64_code (3 : Nat) (Option.some Jvm.ClassFile.FieldType.int)) ∈ lw_all := lw_g (lw_at lw_m8 171 rfl) rfl
theorem q1955 : (Jvm.Cond.instanceMethod ({ cls := "CoatHolesModel", name := "forget", desc := "()I" } : Jvm.MethodName)) ∈ lw_all := lw_g (lw_at lw_m8 173 rfl) rfl
theorem q1956 : (Jvm.Cond.selects "CoatHolesModel" ({ cls := "CoatHolesModel", name := "forget", desc := "()I" } : Jvm.MethodName) ({ cls := "CoatHolesModel", name := "forget", desc := "()I" } : Jvm.MethodName)) ∈ lw_all := lw_g (lw_at lw_m8 174 rfl) rfl
theorem q1957 : (Jvm.Cond.code ({ cls := "CoatHolesModel", name := "forget", desc := "()I" } : Jvm.MethodName) prog_33_method_65_code (2 : Nat) (Option.some Jvm.ClassFile.FieldType.int)) ∈ lw_all := lw_g (lw_at lw_m8 175 rfl) rfl
theorem q1959 : (Jvm.Cond.instanceMethod ({ cls := "CoatHolesModel", name := "from", desc := "(II)J" } : Jvm.MethodName)) ∈ lw_all := lw_g (lw_at lw_m8 177 rfl) rfl
theorem q1960 : (Jvm.Cond.selects "CoatHolesModel" ({ cls := "CoatHolesModel", name := "from", desc := "(II)J" } : Jvm.MethodName) ({ cls := "CoatHolesModel", name := "from", desc := "(II)J" } : Jvm.MethodName)) ∈ lw_all := lw_g (lw_at lw_m8 178 rfl) rfl
theorem q1961 : (Jvm.Cond.code ({ cls := "CoatHolesModel", name := "from", desc := "(II)J" } : Jvm.MethodName) prog_33_method_69_code (13 : Nat) (Option.some Jvm.ClassFile.FieldType.long)) ∈ lw_all := lw_g (lw_at lw_m8 179 rfl) rfl
theorem q1962 : (Jvm.Cond.methodLink "CoatHolesModel" (289 : Nat) ({ cls := "CoatHolesModel", name := "weightsInAll", desc := "()J" } : Jvm.MethodName)) ∈ lw_all := lw_g (lw_at lw_m8 180 rfl) rfl
theorem q1963 : (Jvm.Cond.privateMethod ({ cls := "CoatHolesModel", name := "weightsInAll", desc := "()J" } : Jvm.MethodName)) ∈ lw_tbl := lw_at lw_m8 181 rfl
theorem q1964 : (Jvm.Cond.instanceMethod ({ cls := "CoatHolesModel", name := "weightsInAll", desc := "()J" } : Jvm.MethodName)) ∈ lw_all := lw_g (lw_at lw_m8 182 rfl) rfl
theorem q1965 : (Jvm.Cond.code ({ cls := "CoatHolesModel", name := "weightsInAll", desc := "()J" } : Jvm.MethodName) prog_33_method_68_code (1 : Nat) (Option.some Jvm.ClassFile.FieldType.long)) ∈ lw_all := lw_g (lw_at lw_m8 183 rfl) rfl
theorem q1966 : (Jvm.Cond.methodLink "CoatHolesModel" (285 : Nat) ({ cls := "CoatHolesModel", name := "weightOf", desc := "(I)J" } : Jvm.MethodName)) ∈ lw_all := lw_g (lw_at lw_m8 184 rfl) rfl
theorem q1967 : (Jvm.Cond.privateMethod ({ cls := "CoatHolesModel", name := "weightOf", desc := "(I)J" } : Jvm.MethodName)) ∈ lw_tbl := lw_at lw_m8 185 rfl
theorem q1968 : (Jvm.Cond.instanceMethod ({ cls := "CoatHolesModel", name := "weightOf", desc := "(I)J" } : Jvm.MethodName)) ∈ lw_all := lw_g (lw_at lw_m8 186 rfl) rfl
theorem q1969 : (Jvm.Cond.code ({ cls := "CoatHolesModel", name := "weightOf", desc := "(I)J" } : Jvm.MethodName) prog_33_method_67_code (5 : Nat) (Option.some Jvm.ClassFile.FieldType.long)) ∈ lw_all := lw_g (lw_at lw_m8 187 rfl) rfl
theorem q1970 : (Jvm.Cond.methodLink "CoatHolesModel" (281 : Nat) ({ cls := "CoatHolesModel", name := "oftenIf", desc := "(IIZ)I" } : Jvm.MethodName)) ∈ lw_all := lw_g (lw_at lw_m8 188 rfl) rfl
theorem q1971 : (Jvm.Cond.privateMethod ({ cls := "CoatHolesModel", name := "oftenIf", desc := "(IIZ)I" } : Jvm.MethodName)) ∈ lw_tbl := lw_at lw_m8 189 rfl
theorem q1972 : (Jvm.Cond.instanceMethod ({ cls := "CoatHolesModel", name := "oftenIf", desc := "(IIZ)I" } : Jvm.MethodName)) ∈ lw_all := lw_g (lw_at lw_m8 190 rfl) rfl
theorem q1973 : (Jvm.Cond.code ({ cls := "CoatHolesModel", name := "oftenIf", desc := "(IIZ)I" } : Jvm.MethodName) prog_33_method_66_code (5 : Nat) (Option.some Jvm.ClassFile.FieldType.int)) ∈ lw_all := lw_g (lw_at lw_m8 191 rfl) rfl
theorem q1974 : (Jvm.Cond.constantLong "CoatHolesModel" (293 : Nat) (-3 : Int64)) ∈ lw_all := lw_g (lw_at lw_m8 192 rfl) rfl
theorem q1976 : (Jvm.Cond.instanceMethod ({ cls := "CoatHolesModel", name := "next", desc := "()I" } : Jvm.MethodName)) ∈ lw_all := lw_g (lw_at lw_m8 194 rfl) rfl
theorem q1977 : (Jvm.Cond.selects "CoatHolesModel" ({ cls := "CoatHolesModel", name := "next", desc := "()I" } : Jvm.MethodName) ({ cls := "CoatHolesModel", name := "next", desc := "()I" } : Jvm.MethodName)) ∈ lw_all := lw_g (lw_at lw_m8 195 rfl) rfl
theorem q1978 : (Jvm.Cond.code ({ cls := "CoatHolesModel", name := "next", desc := "()I" } : Jvm.MethodName) prog_33_method_71_code (7 : Nat) (Option.some Jvm.ClassFile.FieldType.int)) ∈ lw_all := lw_g (lw_at lw_m8 196 rfl) rfl
theorem q1979 : (Jvm.Cond.methodLink "CoatHolesModel" (295 : Nat) ({ cls := "CoatHolesModel", name := "mostBy", desc := "(IZ)J" } : Jvm.MethodName)) ∈ lw_all := lw_g (lw_at lw_m8 197 rfl) rfl
theorem q1980 : (Jvm.Cond.privateMethod ({ cls := "CoatHolesModel", name := "mostBy", desc := "(IZ)J" } : Jvm.MethodName)) ∈ lw_tbl := lw_at lw_m8 198 rfl
theorem q1981 : (Jvm.Cond.instanceMethod ({ cls := "CoatHolesModel", name := "mostBy", desc := "(IZ)J" } : Jvm.MethodName)) ∈ lw_all := lw_g (lw_at lw_m8 199 rfl) rfl
theorem q1982 : (Jvm.Cond.code ({ cls := "CoatHolesModel", name := "mostBy", desc := "(IZ)J" } : Jvm.MethodName) prog_33_method_70_code (8 : Nat) (Option.some Jvm.ClassFile.FieldType.long)) ∈ lw_all := lw_g (lw_at lw_m8 200 rfl) rfl
theorem q1984 : (Jvm.Cond.instanceMethod ({ cls := "CoatHolesModel", name := "seed", desc := "(I)I" } : Jvm.MethodName)) ∈ lw_all := lw_g (lw_at lw_m8 202 rfl) rfl
theorem q1985 : (Jvm.Cond.selects "CoatHolesModel" ({ cls := "CoatHolesModel", name := "seed", desc := "(I)I" } : Jvm.MethodName) ({ cls := "CoatHolesModel", name := "seed", desc := "(I)I" } : Jvm.MethodName)) ∈ lw_all := lw_g (lw_at lw_m8 203 rfl) rfl
theorem q1986 : (Jvm.Cond.code ({ cls := "CoatHolesModel", name := "seed", desc := "(I)I" } : Jvm.MethodName) prog_33_method_72_code (3 : Nat) (Option.some Jvm.ClassFile.FieldType.int)) ∈ lw_all := lw_g (lw_at lw_m8 204 rfl) rfl
theorem q1988 : (Jvm.Cond.instanceMethod ({ cls := "CoatHolesModel", name := "blow", desc := "()I" } : Jvm.MethodName)) ∈ lw_all := lw_g (lw_at lw_m8 206 rfl) rfl
theorem q1989 : (Jvm.Cond.selects "CoatHolesModel" ({ cls := "CoatHolesModel", name := "blow", desc := "()I" } : Jvm.MethodName) ({ cls := "CoatHolesModel", name := "blow", desc := "()I" } : Jvm.MethodName)) ∈ lw_all := lw_g (lw_at lw_m8 207 rfl) rfl
theorem q1990 : (Jvm.Cond.code ({ cls := "CoatHolesModel", name := "blow", desc := "()I" } : Jvm.MethodName) prog_33_method_73_code (2 : Nat) (Option.some Jvm.ClassFile.FieldType.int)) ∈ lw_all := lw_g (lw_at lw_m8 208 rfl) rfl
theorem q1991 : (Jvm.Cond.constant "CoatHolesModel" (299 : Nat) (1103515245 : Int32)) ∈ lw_all := lw_g (lw_at lw_m8 209 rfl) rfl
theorem q1993 : (Jvm.Cond.instanceMethod ({ cls := "CoatHolesModel", name := "prove", desc := "()I" } : Jvm.MethodName)) ∈ lw_all := lw_g (lw_at lw_m8 211 rfl) rfl
theorem q1994 : (Jvm.Cond.selects "CoatHolesModel" ({ cls := "CoatHolesModel", name := "prove", desc := "()I" } : Jvm.MethodName) ({ cls := "CoatHolesModel", name := "prove", desc := "()I" } : Jvm.MethodName)) ∈ lw_all := lw_g (lw_at lw_m8 212 rfl) rfl
theorem q1995 : (Jvm.Cond.code ({ cls := "CoatHolesModel", name := "prove", desc := "()I" } : Jvm.MethodName) prog_33_method_75_code (3 : Nat) (Option.some Jvm.ClassFile.FieldType.int)) ∈ lw_all := lw_g (lw_at lw_m8 213 rfl) rfl
theorem q1996 : (Jvm.Cond.methodLink "CoatHolesModel" (300 : Nat) ({ cls := "CoatHolesModel", name := "mustBe", desc := "(II)I" } : Jvm.MethodName)) ∈ lw_all := lw_g (lw_at lw_m8 214 rfl) rfl
theorem q1997 : (Jvm.Cond.privateMethod ({ cls := "CoatHolesModel", name := "mustBe", desc := "(II)I" } : Jvm.MethodName)) ∈ lw_tbl := lw_at lw_m8 215 rfl
theorem q1998 : (Jvm.Cond.instanceMethod ({ cls := "CoatHolesModel", name := "mustBe", desc := "(II)I" } : Jvm.MethodName)) ∈ lw_all := lw_g (lw_at lw_m8 216 rfl) rfl
theorem q1999 : (Jvm.Cond.code ({ cls := "CoatHolesModel", name := "mustBe", desc := "(II)I" } : Jvm.MethodName) prog_33_method_74_code (3 : Nat) (Option.some Jvm.ClassFile.FieldType.int)) ∈ lw_all := lw_g (lw_at lw_m8 217 rfl) rfl
theorem q2001 : (Jvm.Cond.instanceMethod ({ cls := "CoatHolesModel", name := "row", desc := "(II)I" } : Jvm.MethodName)) ∈ lw_all := lw_g (lw_at lw_m8 219 rfl) rfl
theorem q2002 : (Jvm.Cond.selects "CoatHolesModel" ({ cls := "CoatHolesModel", name := "row", desc := "(II)I" } : Jvm.MethodName) ({ cls := "CoatHolesModel", name := "row", desc := "(II)I" } : Jvm.MethodName)) ∈ lw_all := lw_g (lw_at lw_m8 220 rfl) rfl
theorem q2003 : (Jvm.Cond.code ({ cls := "CoatHolesModel", name := "row", desc := "(II)I" } : Jvm.MethodName) prog_33_method_77_code (3 : Nat) (Option.some Jvm.ClassFile.FieldType.int)) ∈ lw_all := lw_g (lw_at lw_m8 221 rfl) rfl
theorem q2004 : (Jvm.Cond.methodLink "CoatHolesModel" (303 : Nat) ({ cls := "CoatHolesModel", name := "isRow", desc := "(II)Z" } : Jvm.MethodName)) ∈ lw_all := lw_g (lw_at lw_m8 222 rfl) rfl
theorem q2005 : (Jvm.Cond.privateMethod ({ cls := "CoatHolesModel", name := "isRow", desc := "(II)Z" } : Jvm.MethodName)) ∈ lw_tbl := lw_at lw_m8 223 rfl
theorem q2006 : (Jvm.Cond.instanceMethod ({ cls := "CoatHolesModel", name := "isRow", desc := "(II)Z" } : Jvm.MethodName)) ∈ lw_all := lw_g (lw_at lw_m8 224 rfl) rfl
theorem q2007 : (Jvm.Cond.code ({ cls := "CoatHolesModel", name := "isRow", desc := "(II)Z" } : Jvm.MethodName) prog_33_method_76_code (3 : Nat) (Option.some Jvm.ClassFile.FieldType.boolean)) ∈ lw_all := lw_g (lw_at lw_m8 225 rfl) rfl
theorem q2009 : (Jvm.Cond.instanceMethod ({ cls := "CoatHolesModel", name := "alterRow", desc := "(III)I" } : Jvm.MethodName)) ∈ lw_all := lw_g (lw_at lw_m8 227 rfl) rfl
theorem q2010 : (Jvm.Cond.selects "CoatHolesModel" ({ cls := "CoatHolesModel", name := "alterRow", desc := "(III)I" } : Jvm.MethodName) ({ cls := "CoatHolesModel", name := "alterRow", desc := "(III)I" } : Jvm.MethodName)) ∈ lw_all := lw_g (lw_at lw_m8 228 rfl) rfl
theorem q2011 : (Jvm.Cond.code ({ cls := "CoatHolesModel", name := "alterRow", desc := "(III)I" } : Jvm.MethodName) prog_33_method_78_code (5 : Nat) (Option.some Jvm.ClassFile.FieldType.int)) ∈ lw_all := lw_g (lw_at lw_m8 229 rfl) rfl
theorem q2013 : (Jvm.Cond.instanceMethod ({ cls := "CoatHolesModel", name := "judge", desc := "()I" } : Jvm.MethodName)) ∈ lw_all := lw_g (lw_at lw_m8 231 rfl) rfl
theorem q2014 : (Jvm.Cond.selects "CoatHolesModel" ({ cls := "CoatHolesModel", name := "judge", desc := "()I" } : Jvm.MethodName) ({ cls := "CoatHolesModel", name := "judge", desc := "()I" } : Jvm.MethodName)) ∈ lw_all := lw_g (lw_at lw_m8 232 rfl) rfl
theorem q2015 : (Jvm.Cond.code ({ cls := "CoatHolesModel", name := "judge", desc := "()I" } : Jvm.MethodName) prog_33_method_79_code (4 : Nat) (Option.some Jvm.ClassFile.FieldType.int)) ∈ lw_all := lw_g (lw_at lw_m8 233 rfl) rfl
theorem q2017 : (Jvm.Cond.instanceMethod ({ cls := "CoatHolesModel", name := "soils", desc := "(IIII)I" } : Jvm.MethodName)) ∈ lw_all := lw_g (lw_at lw_m8 235 rfl) rfl
theorem q2018 : (Jvm.Cond.selects "CoatHolesModel" ({ cls := "CoatHolesModel", name := "soils", desc := "(IIII)I" } : Jvm.MethodName) ({ cls := "CoatHolesModel", name := "soils", desc := "(IIII)I" } : Jvm.MethodName)) ∈ lw_all := lw_g (lw_at lw_m8 236 rfl) rfl
theorem q2019 : (Jvm.Cond.code ({ cls := "CoatHolesModel", name := "soils", desc := "(IIII)I" } : Jvm.MethodName) prog_33_method_80_code (9 : Nat) (Option.some Jvm.ClassFile.FieldType.int)) ∈ lw_all := lw_g (lw_at lw_m8 237 rfl) rfl
theorem q2020 : (Jvm.Cond.methodLink "CoatHolesModel" (307 : Nat) ({ cls := "CoatHolesModel", name := "isShelf", desc := "(I)Z" } : Jvm.MethodName)) ∈ lw_all := lw_g (lw_at lw_m8 238 rfl) rfl
theorem q2021 : (Jvm.Cond.static ({ cls := "CoatHolesModel", name := "isShelf", desc := "(I)Z" } : Jvm.MethodName)) ∈ lw_all := lw_g (lw_at lw_m8 239 rfl) rfl
theorem q2022 : (Jvm.Cond.code ({ cls := "CoatHolesModel", name := "isShelf", desc := "(I)Z" } : Jvm.MethodName) prog_33_method_81_code (1 : Nat) (Option.some Jvm.ClassFile.FieldType.boolean)) ∈ lw_all := lw_g (lw_at lw_m9 0 rfl) rfl
theorem q2023 : (Jvm.Cond.methodLink "CoatHolesModel" (310 : Nat) ({ cls := "CoatHolesModel", name := "lacksSort", desc := "(II)I" } : Jvm.MethodName)) ∈ lw_all := lw_g (lw_at lw_m9 1 rfl) rfl
theorem q2024 : (Jvm.Cond.privateMethod ({ cls := "CoatHolesModel", name := "lacksSort", desc := "(II)I" } : Jvm.MethodName)) ∈ lw_tbl := lw_at lw_m9 2 rfl
theorem q2025 : (Jvm.Cond.instanceMethod ({ cls := "CoatHolesModel", name := "lacksSort", desc := "(II)I" } : Jvm.MethodName)) ∈ lw_all := lw_g (lw_at lw_m9 3 rfl) rfl
theorem q2026 : (Jvm.Cond.code ({ cls := "CoatHolesModel", name := "lacksSort", desc := "(II)I" } : Jvm.MethodName) prog_33_method_84_code (3 : Nat) (Option.some Jvm.ClassFile.FieldType.int)) ∈ lw_all := lw_g (lw_at lw_m9 4 rfl) rfl
theorem q2027 : (Jvm.Cond.constantLong "CoatHolesModel" (313 : Nat) (9 : Int64)) ∈ lw_all := lw_g (lw_at lw_m9 5 rfl) rfl
theorem q2029 : (Jvm.Cond.instanceMethod ({ cls := "CoatHolesModel", name := "sheet", desc := "(III)I" } : Jvm.MethodName)) ∈ lw_all := lw_g (lw_at lw_m9 7 rfl) rfl
theorem q2030 : (Jvm.Cond.selects "CoatHolesModel" ({ cls := "CoatHolesModel", name := "sheet", desc := "(III)I" } : Jvm.MethodName) ({ cls := "CoatHolesModel", name := "sheet", desc := "(III)I" } : Jvm.MethodName)) ∈ lw_all := lw_g (lw_at lw_m9 8 rfl) rfl
theorem q2031 : (Jvm.Cond.code ({ cls := "CoatHolesModel", name := "sheet", desc := "(III)I" } : Jvm.MethodName) prog_33_method_82_code (5 : Nat) (Option.some Jvm.ClassFile.FieldType.int)) ∈ lw_all := lw_g (lw_at lw_m9 9 rfl) rfl
theorem q2033 : (Jvm.Cond.instanceMethod ({ cls := "CoatHolesModel", name := "put", desc := "(III)I" } : Jvm.MethodName)) ∈ lw_all := lw_g (lw_at lw_m9 11 rfl) rfl
theorem q2034 : (Jvm.Cond.selects "CoatHolesModel" ({ cls := "CoatHolesModel", name := "put", desc := "(III)I" } : Jvm.MethodName) ({ cls := "CoatHolesModel", name := "put", desc := "(III)I" } : Jvm.MethodName)) ∈ lw_all := lw_g (lw_at lw_m9 12 rfl) rfl
theorem q2035 : (Jvm.Cond.code ({ cls := "CoatHolesModel", name := "put", desc := "(III)I" } : Jvm.MethodName) prog_33_method_83_code (4 : Nat) (Option.some Jvm.ClassFile.FieldType.int)) ∈ lw_all := lw_g (lw_at lw_m9 13 rfl) rfl
theorem q2037 : (Jvm.Cond.instanceMethod ({ cls := "CoatHolesModel", name := "item", desc := "(III)I" } : Jvm.MethodName)) ∈ lw_all := lw_g (lw_at lw_m9 15 rfl) rfl
theorem q2038 : (Jvm.Cond.selects "CoatHolesModel" ({ cls := "CoatHolesModel", name := "item", desc := "(III)I" } : Jvm.MethodName) ({ cls := "CoatHolesModel", name := "item", desc := "(III)I" } : Jvm.MethodName)) ∈ lw_all := lw_g (lw_at lw_m9 16 rfl) rfl
theorem q2039 : (Jvm.Cond.code ({ cls := "CoatHolesModel", name := "item", desc := "(III)I" } : Jvm.MethodName) prog_33_method_85_code (5 : Nat) (Option.some Jvm.ClassFile.FieldType.int)) ∈ lw_all := lw_g (lw_at lw_m9 17 rfl) rfl
theorem q2041 : (Jvm.Cond.instanceMethod ({ cls := "CoatHolesModel", name := "shelf", desc := "(III)I" } : Jvm.MethodName)) ∈ lw_all := lw_g (lw_at lw_m9 19 rfl) rfl
theorem q2042 : (Jvm.Cond.selects "CoatHolesModel" ({ cls := "CoatHolesModel", name := "shelf", desc := "(III)I" } : Jvm.MethodName) ({ cls := "CoatHolesModel", name := "shelf", desc := "(III)I" } : Jvm.MethodName)) ∈ lw_all := lw_g (lw_at lw_m9 20 rfl) rfl
theorem q2043 : (Jvm.Cond.code ({ cls := "CoatHolesModel", name := "shelf", desc := "(III)I" } : Jvm.MethodName) prog_33_method_87_code (4 : Nat) (Option.some Jvm.ClassFile.FieldType.int)) ∈ lw_all := lw_g (lw_at lw_m9 21 rfl) rfl
theorem q2044 : (Jvm.Cond.methodLink "CoatHolesModel" (315 : Nat) ({ cls := "CoatHolesModel", name := "isHeld", desc := "(II)Z" } : Jvm.MethodName)) ∈ lw_all := lw_g (lw_at lw_m9 22 rfl) rfl
theorem q2045 : (Jvm.Cond.privateMethod ({ cls := "CoatHolesModel", name := "isHeld", desc := "(II)Z" } : Jvm.MethodName)) ∈ lw_tbl := lw_at lw_m9 23 rfl
theorem q2046 : (Jvm.Cond.instanceMethod ({ cls := "CoatHolesModel", name := "isHeld", desc := "(II)Z" } : Jvm.MethodName)) ∈ lw_all := lw_g (lw_at lw_m9 24 rfl) rfl
theorem q2047 : (Jvm.Cond.code ({ cls := "CoatHolesModel", name := "isHeld", desc := "(II)Z" } : Jvm.MethodName) prog_33_method_86_code (3 : Nat) (Option.some Jvm.ClassFile.FieldType.boolean)) ∈ lw_all := lw_g (lw_at lw_m9 25 rfl) rfl
theorem q2049 : (Jvm.Cond.instanceMethod ({ cls := "CoatHolesModel", name := "taken", desc := "(II)I" } : Jvm.MethodName)) ∈ lw_all := lw_g (lw_at lw_m9 27 rfl) rfl
theorem q2050 : (Jvm.Cond.selects "CoatHolesModel" ({ cls := "CoatHolesModel", name := "taken", desc := "(II)I" } : Jvm.MethodName) ({ cls := "CoatHolesModel", name := "taken", desc := "(II)I" } : Jvm.MethodName)) ∈ lw_all := lw_g (lw_at lw_m9 28 rfl) rfl
theorem q2051 : (Jvm.Cond.code ({ cls := "CoatHolesModel", name := "taken", desc := "(II)I" } : Jvm.MethodName) prog_33_method_90_code (4 : Nat) (Option.some Jvm.ClassFile.FieldType.int)) ∈ lw_all := lw_g (lw_at lw_m9 29 rfl) rfl
theorem q2052 : (Jvm.Cond.methodLink "CoatHolesModel" (318 : Nat) ({ cls := "CoatHolesModel", name := "kindOn", desc := "(I)I" } : Jvm.MethodName)) ∈ lw_all := lw_g (lw_at lw_m9 30 rfl) rfl
theorem q2053 : (Jvm.Cond.privateMethod ({ cls := "CoatHolesModel", name := "kindOn", desc := "(I)I" } : Jvm.MethodName)) ∈ lw_tbl := lw_at lw_m9 31 rfl
theorem q2054 : (Jvm.Cond.instanceMethod ({ cls := "CoatHolesModel", name := "kindOn", desc := "(I)I" } : Jvm.MethodName)) ∈ lw_all := lw_g (lw_at lw_m9 32 rfl) rfl
theorem q2055 : (Jvm.Cond.code ({ cls := "CoatHolesModel", name := "kindOn", desc := "(I)I" } : Jvm.MethodName) prog_33_method_88_code (2 : Nat) (Option.some Jvm.ClassFile.FieldType.int)) ∈ lw_all := lw_g (lw_at lw_m9 33 rfl) rfl
theorem q2056 : (Jvm.Cond.methodLink "CoatHolesModel" (321 : Nat) ({ cls := "CoatHolesModel", name := "isUnder", desc := "(II)Z" } : Jvm.MethodName)) ∈ lw_all := lw_g (lw_at lw_m9 34 rfl) rfl
theorem q2057 : (Jvm.Cond.static ({ cls := "CoatHolesModel", name := "isUnder", desc := "(II)Z" } : Jvm.MethodName)) ∈ lw_all := lw_g (lw_at lw_m9 35 rfl) rfl
theorem q2058 : (Jvm.Cond.code ({ cls := "CoatHolesModel", name := "isUnder", desc := "(II)Z" } : Jvm.MethodName) prog_33_method_89_code (2 : Nat) (Option.some Jvm.ClassFile.FieldType.boolean)) ∈ lw_all := lw_g (lw_at lw_m9 36 rfl) rfl
theorem q2060 : (Jvm.Cond.instanceMethod ({ cls := "CoatHolesModel", name := "act", desc := "(III)I" } : Jvm.MethodName)) ∈ lw_all := lw_g (lw_at lw_m9 38 rfl) rfl
theorem q2061 : (Jvm.Cond.selects "CoatHolesModel" ({ cls := "CoatHolesModel", name := "act", desc := "(III)I" } : Jvm.MethodName) ({ cls := "CoatHolesModel", name := "act", desc := "(III)I" } : Jvm.MethodName)) ∈ lw_all := lw_g (lw_at lw_m9 39 rfl) rfl
theorem q2062 : (Jvm.Cond.code ({ cls := "CoatHolesModel", name := "act", desc := "(III)I" } : Jvm.MethodName) prog_33_method_103_code (6 : Nat) (Option.some Jvm.ClassFile.FieldType.int)) ∈ lw_all := lw_g (lw_at lw_m9 40 rfl) rfl
theorem q2063 : (Jvm.Cond.methodLink "CoatHolesModel" (342 : Nat) ({ cls := "CoatHolesModel", name := "eatsIt", desc := "(I)I" } : Jvm.MethodName)) ∈ lw_all := lw_g (lw_at lw_m9 41 rfl) rfl
theorem q2064 : (Jvm.Cond.privateMethod ({ cls := "CoatHolesModel", name := "eatsIt", desc := "(I)I" } : Jvm.MethodName)) ∈ lw_tbl := lw_at lw_m9 42 rfl
theorem q2065 : (Jvm.Cond.instanceMethod ({ cls := "CoatHolesModel", name := "eatsIt", desc := "(I)I" } : Jvm.MethodName)) ∈ lw_all := lw_g (lw_at lw_m9 43 rfl) rfl
theorem q2066 : (Jvm.Cond.code ({ cls := "CoatHolesModel", name := "eatsIt", desc := "(I)I" } : Jvm.MethodName) prog_33_method_94_code (2 : Nat) (Option.some Jvm.ClassFile.FieldType.int)) ∈ lw_all := lw_g (lw_at lw_m9 44 rfl) rfl
theorem q2067 : (Jvm.Cond.methodLink "CoatHolesModel" (339 : Nat) ({ cls := "CoatHolesModel", name := "shakeEats", desc := "(I)I" } : Jvm.MethodName)) ∈ lw_all := lw_g (lw_at lw_m9 45 rfl) rfl
theorem q2068 : (Jvm.Cond.privateMethod ({ cls := "CoatHolesModel", name := "shakeEats", desc := "(I)I" } : Jvm.MethodName)) ∈ lw_tbl := lw_at lw_m9 46 rfl
theorem q2069 : (Jvm.Cond.instanceMethod ({ cls := "CoatHolesModel", name := "shakeEats", desc := "(I)I" } : Jvm.MethodName)) ∈ lw_all := lw_g (lw_at lw_m9 47 rfl) rfl
theorem q2070 : (Jvm.Cond.code ({ cls := "CoatHolesModel", name := "shakeEats", desc := "(I)I" } : Jvm.MethodName) prog_33_method_93_code (2 : Nat) (Option.some Jvm.ClassFile.FieldType.int)) ∈ lw_all := lw_g (lw_at lw_m9 48 rfl) rfl
theorem q2071 : (Jvm.Cond.methodLink "CoatHolesModel" (327 : Nat) ({ cls := "CoatHolesModel", name := "ran", desc := "(I)V" } : Jvm.MethodName)) ∈ lw_all := lw_g (lw_at lw_m9 49 rfl) rfl
theorem q2072 : (Jvm.Cond.privateMethod ({ cls := "CoatHolesModel", name := "ran", desc := "(I)V" } : Jvm.MethodName)) ∈ lw_tbl := lw_at lw_m9 50 rfl
theorem q2073 : (Jvm.Cond.instanceMethod ({ cls := "CoatHolesModel", name := "ran", desc := "(I)V" } : Jvm.MethodName)) ∈ lw_all := lw_g (lw_at lw_m9 51 rfl) rfl
theorem q2074 : (Jvm.Cond.code ({ cls := "CoatHolesModel", name := "ran", desc := "(I)V" } : Jvm.MethodName) prog_33_method_91_code (2 : Nat) (Option.none : Option Jvm.ClassFile.FieldType)) ∈ lw_all := lw_g (lw_at lw_m9 52 rfl) rfl
theorem q2075 : (Jvm.Cond.methodLink "CoatHolesModel" (333 : Nat) ({ cls := "CoatHolesModel", name := "plainEats", desc := "(I)I" } : Jvm.MethodName)) ∈ lw_all := lw_g (lw_at lw_m9 53 rfl) rfl
theorem q2076 : (Jvm.Cond.privateMethod ({ cls := "CoatHolesModel", name := "plainEats", desc := "(I)I" } : Jvm.MethodName)) ∈ lw_tbl := lw_at lw_m9 54 rfl
theorem q2077 : (Jvm.Cond.instanceMethod ({ cls := "CoatHolesModel", name := "plainEats", desc := "(I)I" } : Jvm.MethodName)) ∈ lw_all := lw_g (lw_at lw_m9 55 rfl) rfl
theorem q2078 : (Jvm.Cond.code ({ cls := "CoatHolesModel", name := "plainEats", desc := "(I)I" } : Jvm.MethodName) prog_33_method_92_code (2 : Nat) (Option.some Jvm.ClassFile.FieldType.int)) ∈ lw_all := lw_g (lw_at lw_m9 56 rfl) rfl
theorem q2079 : (Jvm.Cond.methodLink "CoatHolesModel" (360 : Nat) ({ cls := "CoatHolesModel", name := "laysIt", desc := "(I)I" } : Jvm.MethodName)) ∈ lw_all := lw_g (lw_at lw_m9 57 rfl) rfl
theorem q2080 : (Jvm.Cond.privateMethod ({ cls := "CoatHolesModel", name := "laysIt", desc := "(I)I" } : Jvm.MethodName)) ∈ lw_tbl := lw_at lw_m9 58 rfl
theorem q2081 : (Jvm.Cond.instanceMethod ({ cls := "CoatHolesModel", name := "laysIt", desc := "(I)I" } : Jvm.MethodName)) ∈ lw_all := lw_g (lw_at lw_m9 59 rfl) rfl
theorem q2082 : (Jvm.Cond.code ({ cls := "CoatHolesModel", name := "laysIt", desc := "(I)I" } : Jvm.MethodName) prog_33_method_97_code (3 : Nat) (Option.some Jvm.ClassFile.FieldType.int)) ∈ lw_all := lw_g (lw_at lw_m9 60 rfl) rfl
theorem q2083 : (Jvm.Cond.methodLink "CoatHolesModel" (351 : Nat) ({ cls := "CoatHolesModel", name := "coldLays", desc := "(I)I" } : Jvm.MethodName)) ∈ lw_all := lw_g (lw_at lw_m9 61 rfl) rfl
theorem q2084 : (Jvm.Cond.privateMethod ({ cls := "CoatHolesModel", name := "coldLays", desc := "(I)I" } : Jvm.MethodName)) ∈ lw_tbl := lw_at lw_m9 62 rfl
theorem q2085 : (Jvm.Cond.instanceMethod ({ cls := "CoatHolesModel", name := "coldLays", desc := "(I)I" } : Jvm.MethodName)) ∈ lw_all := lw_g (lw_at lw_m9 63 rfl) rfl
theorem q2086 : (Jvm.Cond.code ({ cls := "CoatHolesModel", name := "coldLays", desc := "(I)I" } : Jvm.MethodName) prog_33_method_96_code (2 : Nat) (Option.some Jvm.ClassFile.FieldType.int)) ∈ lw_all := lw_g (lw_at lw_m9 64 rfl) rfl
theorem q2087 : (Jvm.Cond.methodLink "CoatHolesModel" (345 : Nat) ({ cls := "CoatHolesModel", name := "plainLays", desc := "(I)I" } : Jvm.MethodName)) ∈ lw_all := lw_g (lw_at lw_m9 65 rfl) rfl
theorem q2088 : (Jvm.Cond.privateMethod ({ cls := "CoatHolesModel", name := "plainLays", desc := "(I)I" } : Jvm.MethodName)) ∈ lw_tbl := lw_at lw_m9 66 rfl
theorem q2089 : (Jvm.Cond.instanceMethod ({ cls := "CoatHolesModel", name := "plainLays", desc := "(I)I" } : Jvm.MethodName)) ∈ lw_all := lw_g (lw_at lw_m9 67 rfl) rfl
theorem q2090 : (Jvm.Cond.code ({ cls := "CoatHolesModel", name := "plainLays", desc := "(I)I" } : Jvm.MethodName) prog_33_method_95_code (2 : Nat) (Option.some Jvm.ClassFile.FieldType.int)) ∈ lw_all := lw_g (lw_at lw_m9 68 rfl) rfl
theorem q2091 : (Jvm.Cond.methodLink "CoatHolesModel" (366 : Nat) ({ cls := "CoatHolesModel", name := "sharesIt", desc := "(I)I" } : Jvm.MethodName)) ∈ lw_all := lw_g (lw_at lw_m9 69 rfl) rfl
theorem q2092 : (Jvm.Cond.privateMethod ({ cls := "CoatHolesModel", name := "sharesIt", desc := "(I)I" } : Jvm.MethodName)) ∈ lw_tbl := lw_at lw_m9 70 rfl
theorem q2093 : (Jvm.Cond.instanceMethod ({ cls := "CoatHolesModel", name := "sharesIt", desc := "(I)I" } : Jvm.MethodName)) ∈ lw_all := lw_g (lw_at lw_m9 71 rfl) rfl
theorem q2094 : (Jvm.Cond.code ({ cls := "CoatHolesModel", name := "sharesIt", desc := "(I)I" } : Jvm.MethodName) prog_33_method_99_code (3 : Nat) (Option.some Jvm.ClassFile.FieldType.int)) ∈ lw_all := lw_g (lw_at lw_m9 72 rfl) rfl
theorem q2095 : (Jvm.Cond.methodLink "CoatHolesModel" (357 : Nat) ({ cls := "CoatHolesModel", name := "plainShares", desc := "(I)I" } : Jvm.MethodName)) ∈ lw_all := lw_g (lw_at lw_m9 73 rfl) rfl
theorem q2096 : (Jvm.Cond.privateMethod ({ cls := "CoatHolesModel", name := "plainShares", desc := "(I)I" } : Jvm.MethodName)) ∈ lw_tbl := lw_at lw_m9 74 rfl
theorem q2097 : (Jvm.Cond.instanceMethod ({ cls := "CoatHolesModel", name := "plainShares", desc := "(I)I" } : Jvm.MethodName)) ∈ lw_all := lw_g (lw_at lw_m9 75 rfl) rfl
theorem q2098 : (Jvm.Cond.code ({ cls := "CoatHolesModel", name := "plainShares", desc := "(I)I" } : Jvm.MethodName) prog_33_method_98_code (2 : Nat) (Option.some Jvm.ClassFile.FieldType.int)) ∈ lw_all := lw_g (lw_at lw_m9 76 rfl) rfl
theorem q2099 : (Jvm.Cond.methodLink "CoatHolesModel" (372 : Nat) ({ cls := "CoatHolesModel", name := "tellsIt", desc := "(I)I" } : Jvm.MethodName)) ∈ lw_all := lw_g (lw_at lw_m9 77 rfl) rfl
theorem q2100 : (Jvm.Cond.privateMethod ({ cls := "CoatHolesModel", name := "tellsIt", desc := "(I)I" } : Jvm.MethodName)) ∈ lw_tbl := lw_at lw_m9 78 rfl
theorem q2101 : (Jvm.Cond.instanceMethod ({ cls := "CoatHolesModel", name := "tellsIt", desc := "(I)I" } : Jvm.MethodName)) ∈ lw_all := lw_g (lw_at lw_m9 79 rfl) rfl
theorem q2102 : (Jvm.Cond.code ({ cls := "CoatHolesModel", name := "tellsIt", desc := "(I)I" } : Jvm.MethodName) prog_33_method_102_code (2 : Nat) (Option.some Jvm.ClassFile.FieldType.int)) ∈ lw_all := lw_g (lw_at lw_m9 80 rfl) rfl
theorem q2103 : (Jvm.Cond.methodLink "CoatHolesModel" (369 : Nat) ({ cls := "CoatHolesModel", name := "shakeTells", desc := "(I)I" } : Jvm.MethodName)) ∈ lw_all := lw_g (lw_at lw_m9 81 rfl) rfl
theorem q2104 : (Jvm.Cond.privateMethod ({ cls := "CoatHolesModel", name := "shakeTells", desc := "(I)I" } : Jvm.MethodName)) ∈ lw_tbl := lw_at lw_m9 82 rfl
theorem q2105 : (Jvm.Cond.instanceMethod ({ cls := "CoatHolesModel", name := "shakeTells", desc := "(I)I" } : Jvm.MethodName)) ∈ lw_all := lw_g (lw_at lw_m9 83 rfl) rfl
theorem q2106 : (Jvm.Cond.code ({ cls := "CoatHolesModel", name := "shakeTells", desc := "(I)I" } : Jvm.MethodName) prog_33_method_101_code (3 : Nat) (Option.some Jvm.ClassFile.FieldType.int)) ∈ lw_all := lw_g (lw_at lw_m9 84 rfl) rfl
theorem q2107 : (Jvm.Cond.methodLink "CoatHolesModel" (363 : Nat) ({ cls := "CoatHolesModel", name := "plainTells", desc := "(I)I" } : Jvm.MethodName)) ∈ lw_all := lw_g (lw_at lw_m9 85 rfl) rfl
theorem q2108 : (Jvm.Cond.privateMethod ({ cls := "CoatHolesModel", name := "plainTells", desc := "(I)I" } : Jvm.MethodName)) ∈ lw_tbl := lw_at lw_m9 86 rfl
theorem q2109 : (Jvm.Cond.instanceMethod ({ cls := "CoatHolesModel", name := "plainTells", desc := "(I)I" } : Jvm.MethodName)) ∈ lw_all := lw_g (lw_at lw_m9 87 rfl) rfl
theorem q2110 : (Jvm.Cond.code ({ cls := "CoatHolesModel", name := "plainTells", desc := "(I)I" } : Jvm.MethodName) prog_33_method_100_code (2 : Nat) (Option.some Jvm.ClassFile.FieldType.int)) ∈ lw_all := lw_g (lw_at lw_m9 88 rfl) rfl
theorem q2112 : (Jvm.Cond.instanceMethod ({ cls := "CoatHolesModel", name := "trace", desc := "(I)I" } : Jvm.MethodName)) ∈ lw_all := lw_g (lw_at lw_m9 90 rfl) rfl
theorem q2113 : (Jvm.Cond.selects "CoatHolesModel" ({ cls := "CoatHolesModel", name := "trace", desc := "(I)I" } : Jvm.MethodName) ({ cls := "CoatHolesModel", name := "trace", desc := "(I)I" } : Jvm.MethodName)) ∈ lw_all := lw_g (lw_at lw_m9 91 rfl) rfl
theorem q2114 : (Jvm.Cond.code ({ cls := "CoatHolesModel", name := "trace", desc := "(I)I" } : Jvm.MethodName) prog_33_method_104_code (2 : Nat) (Option.some Jvm.ClassFile.FieldType.int)) ∈ lw_all := lw_g (lw_at lw_m9 92 rfl) rfl
theorem q2116 : (Jvm.Cond.instanceMethod ({ cls := "CoatHolesModel", name := "many", desc := "(I)I" } : Jvm.MethodName)) ∈ lw_all := lw_g (lw_at lw_m9 94 rfl) rfl
theorem q2117 : (Jvm.Cond.selects "CoatHolesModel" ({ cls := "CoatHolesModel", name := "many", desc := "(I)I" } : Jvm.MethodName) ({ cls := "CoatHolesModel", name := "many", desc := "(I)I" } : Jvm.MethodName)) ∈ lw_all := lw_g (lw_at lw_m9 95 rfl) rfl
theorem q2118 : (Jvm.Cond.code ({ cls := "CoatHolesModel", name := "many", desc := "(I)I" } : Jvm.MethodName) prog_33_method_105_code (2 : Nat) (Option.some Jvm.ClassFile.FieldType.int)) ∈ lw_all := lw_g (lw_at lw_m9 96 rfl) rfl
theorem q2120 : (Jvm.Cond.instanceMethod ({ cls := "CoatHolesModel", name := "keep", desc := "()I" } : Jvm.MethodName)) ∈ lw_all := lw_g (lw_at lw_m9 98 rfl) rfl
theorem q2121 : (Jvm.Cond.selects "CoatHolesModel" ({ cls := "CoatHolesModel", name := "keep", desc := "()I" } : Jvm.MethodName) ({ cls := "CoatHolesModel", name := "keep", desc := "()I" } : Jvm.MethodName)) ∈ lw_all := lw_g (lw_at lw_m9 99 rfl) rfl
theorem q2122 : (Jvm.Cond.code ({ cls := "CoatHolesModel", name := "keep", desc := "()I" } : Jvm.MethodName) prog_33_method_108_code (1 : Nat) (Option.some Jvm.ClassFile.FieldType.int)) ∈ lw_all := lw_g (lw_at lw_m9 100 rfl) rfl
theorem q2123 : (Jvm.Cond.methodLink "CoatHolesModel" (382 : Nat) ({ cls := "CoatHolesModel", name := "moveAll", desc := "(Z)V" } : Jvm.MethodName)) ∈ lw_all := lw_g (lw_at lw_m9 101 rfl) rfl
theorem q2124 : (Jvm.Cond.privateMethod ({ cls := "CoatHolesModel", name := "moveAll", desc := "(Z)V" } : Jvm.MethodName)) ∈ lw_tbl := lw_at lw_m9 102 rfl
theorem q2125 : (Jvm.Cond.instanceMethod ({ cls := "CoatHolesModel", name := "moveAll", desc := "(Z)V" } : Jvm.MethodName)) ∈ lw_all := lw_g (lw_at lw_m9 103 rfl) rfl
theorem q2126 : (Jvm.Cond.code ({ cls := "CoatHolesModel", name := "moveAll", desc := "(Z)V" } : Jvm.MethodName) prog_33_method_107_code (2 : Nat) (Option.none : Option Jvm.ClassFile.FieldType)) ∈ lw_all := lw_g (lw_at lw_m9 104 rfl) rfl
theorem q2127 : (Jvm.Cond.methodLink "CoatHolesModel" (378 : Nat) ({ cls := "CoatHolesModel", name := "moveRow", desc := "([IIZ)V" } : Jvm.MethodName)) ∈ lw_all := lw_g (lw_at lw_m9 105 rfl) rfl
theorem q2128 : (Jvm.Cond.privateMethod ({ cls := "CoatHolesModel", name := "moveRow", desc := "([IIZ)V" } : Jvm.MethodName)) ∈ lw_tbl := lw_at lw_m9 106 rfl
theorem q2129 : (Jvm.Cond.instanceMethod ({ cls := "CoatHolesModel", name := "moveRow", desc := "([IIZ)V" } : Jvm.MethodName)) ∈ lw_all := lw_g (lw_at lw_m9 107 rfl) rfl
theorem q2130 : (Jvm.Cond.code ({ cls := "CoatHolesModel", name := "moveRow", desc := "([IIZ)V" } : Jvm.MethodName) prog_33_method_106_code (5 : Nat) (Option.none : Option Jvm.ClassFile.FieldType)) ∈ lw_all := lw_g (lw_at lw_m9 108 rfl) rfl
theorem q2132 : (Jvm.Cond.instanceMethod ({ cls := "CoatHolesModel", name := "again", desc := "()I" } : Jvm.MethodName)) ∈ lw_all := lw_g (lw_at lw_m9 110 rfl) rfl
theorem q2133 : (Jvm.Cond.selects "CoatHolesModel" ({ cls := "CoatHolesModel", name := "again", desc := "()I" } : Jvm.MethodName) ({ cls := "CoatHolesModel", name := "again", desc := "()I" } : Jvm.MethodName)) ∈ lw_all := lw_g (lw_at lw_m9 111 rfl) rfl
theorem q2134 : (Jvm.Cond.code ({ cls := "CoatHolesModel", name := "again", desc := "()I" } : Jvm.MethodName) prog_33_method_109_code (1 : Nat) (Option.some Jvm.ClassFile.FieldType.int)) ∈ lw_all := lw_g (lw_at lw_m9 112 rfl) rfl
theorem in_X21 : ∀ w ∈ wsX210, w ∈ lw_all := lw_in wsX210 [1612, 1614, 1616, 1618, 1620, 1622, 1624, 1626, 1628, 1630, 1632, 1634, 1636, 1638, 1640, 1642, 1644, 1646, 1648, 1650, 1652, 1654, 1656, 1658, 1660, 1662, 1664, 1666, 1668, 1670, 1672, 1674, 1676, 1678, 1680, 1682, 1684, 1686, 1688] (by decide +kernel) (by decide +kernel)
