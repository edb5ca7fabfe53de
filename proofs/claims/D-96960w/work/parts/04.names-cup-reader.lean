/-! CoatHoles$Cup -/
set_option maxRecDepth 100000
def RX7 : String := "CoatHoles$Cup"
def TX7 : u_T := fun k => match k with
  | 0 => ("CoatHoles$Cup", "stuffs", "[LCoatHoles$Silk;", true)
  | 1 => ("CoatHoles$Cup", "items", "[LCoatHoles$Item;", true)
  | 2 => ("CoatHoles$Cup", "things", "I", false)
  | 3 => ("CoatHoles$Cup", "doings", "I", false)
  | 4 => ("CoatHoles$Cup", "looks", "I", false)
  | 5 => ("CoatHoles$Cup", "week", "I", false)
  | 6 => ("CoatHoles$Cup", "cards", "I", false)
  | 7 => ("CoatHoles$Cup", "z", "I", false)
  | 8 => ("CoatHoles$Cup", "fliers", "[I", true)
  | 9 => ("CoatHoles$Cup", "caught", "[I", true)
  | 10 => ("CoatHoles$Cup", "weight", "[I", true)
  | 11 => ("CoatHoles$Cup", "law", "[I", true)
  | 12 => ("CoatHoles$Cup", "warm", "[I", true)
  | 13 => ("CoatHoles$Cup", "kind", "[I", true)
  | 14 => ("CoatHoles$Cup", "price", "[I", true)
  | 15 => ("CoatHoles$Cup", "lookAt", "[I", true)
  | _ => ("CoatHoles$Cup", "isSeen", "[Z", true)
def tyX7 : Nat → FieldType := fun k => match k with
  | 0 => .array (.object "CoatHoles$Silk")
  | 1 => .array (.object "CoatHoles$Item")
  | 2 => .int
  | 3 => .int
  | 4 => .int
  | 5 => .int
  | 6 => .int
  | 7 => .int
  | 8 => .array .int
  | 9 => .array .int
  | 10 => .array .int
  | 11 => .array .int
  | 12 => .array .int
  | 13 => .array .int
  | 14 => .array .int
  | 15 => .array .int
  | _ => .array .boolean
abbrev wsX70 : List Cond := u_ws RX7 TX7 17
set_option maxRecDepth 100000 in
theorem nmX7 : ∀ a, a < 17 → ∀ b, b < 17 → a ≠ b → (TX7 a).2.1 ≠ (TX7 b).2.1 := by decide +kernel
set_option maxRecDepth 100000 in
theorem tyX7_ok : ∀ k, k < 17 → parseFieldDescriptor (TX7 k).2.2.1 = some (tyX7 k) := by decide +kernel
abbrev cX7_init : ByteArray := prog_10_method_1_code
def yX7_init : MethodName := ⟨RX7, "<init>", "()V"⟩
def dkwX7_init_13 : List UInt8 := [16, 8, 188, 10, 181, 0, 66, 42, 16, 8, 188, 4, 181, 0, 69, 177]
abbrev dktX7_init_13 : List UInt8 := dkwX7_init_13 ++ []
def dkwX7_init_12 : List UInt8 := [16, 11, 5, 79, 181, 0, 57, 42, 16, 6, 188, 10, 181, 0, 60, 42, 16, 6, 188, 10, 181, 0, 63, 42]
abbrev dktX7_init_12 : List UInt8 := dkwX7_init_12 ++ dktX7_init_13
def dkwX7_init_11 : List UInt8 := [5, 79, 89, 16, 7, 5, 79, 89, 16, 8, 5, 79, 89, 16, 9, 5, 79, 89, 16, 10, 5, 79, 89]
abbrev dktX7_init_11 : List UInt8 := dkwX7_init_11 ++ dktX7_init_12
def dkwX7_init_10 : List UInt8 := [79, 89, 4, 5, 79, 89, 5, 5, 79, 89, 6, 5, 79, 89, 7, 5, 79, 89, 8, 5, 79, 89, 16, 6]
abbrev dktX7_init_10 : List UInt8 := dkwX7_init_10 ++ dktX7_init_11
def dkwX7_init_9 : List UInt8 := [89, 4, 16, 8, 79, 89, 5, 4, 79, 89, 6, 7, 79, 181, 0, 54, 42, 16, 12, 188, 10, 89, 3, 5]
abbrev dktX7_init_9 : List UInt8 := dkwX7_init_9 ++ dktX7_init_10
def dkwX7_init_8 : List UInt8 := [79, 89, 4, 4, 79, 89, 5, 4, 79, 89, 6, 4, 79, 181, 0, 51, 42, 7, 188, 10, 89, 3, 7, 79]
abbrev dktX7_init_8 : List UInt8 := dkwX7_init_8 ++ dktX7_init_9
def dkwX7_init_7 : List UInt8 := [181, 0, 40, 42, 7, 188, 10, 181, 0, 44, 42, 7, 188, 10, 181, 0, 48, 42, 7, 188, 10, 89, 3, 4]
abbrev dktX7_init_7 : List UInt8 := dkwX7_init_7 ++ dktX7_init_8
def dkwX7_init_6 : List UInt8 := [187, 0, 33, 89, 183, 0, 35, 83, 89, 16, 7, 187, 0, 33, 89, 183, 0, 35, 83, 181, 0, 36, 42, 4]
abbrev dktX7_init_6 : List UInt8 := dkwX7_init_6 ++ dktX7_init_7
def dkwX7_init_5 : List UInt8 := [83, 89, 7, 187, 0, 33, 89, 183, 0, 35, 83, 89, 8, 187, 0, 33, 89, 183, 0, 35, 83, 89, 16, 6]
abbrev dktX7_init_5 : List UInt8 := dkwX7_init_5 ++ dktX7_init_6
def dkwX7_init_4 : List UInt8 := [89, 183, 0, 35, 83, 89, 5, 187, 0, 33, 89, 183, 0, 35, 83, 89, 6, 187, 0, 33, 89, 183, 0, 35]
abbrev dktX7_init_4 : List UInt8 := dkwX7_init_4 ++ dktX7_init_5
def dkwX7_init_3 : List UInt8 := [181, 0, 27, 42, 16, 8, 189, 0, 33, 89, 3, 187, 0, 33, 89, 183, 0, 35, 83, 89, 4, 187, 0, 33]
abbrev dktX7_init_3 : List UInt8 := dkwX7_init_3 ++ dktX7_init_4
def dkwX7_init_2 : List UInt8 := [183, 0, 20, 83, 89, 7, 187, 0, 21, 89, 183, 0, 23, 83, 89, 8, 187, 0, 24, 89, 183, 0, 26, 83]
abbrev dktX7_init_2 : List UInt8 := dkwX7_init_2 ++ dktX7_init_3
def dkwX7_init_1 : List UInt8 := [187, 0, 12, 89, 183, 0, 14, 83, 89, 5, 187, 0, 15, 89, 183, 0, 17, 83, 89, 6, 187, 0, 18, 89]
abbrev dktX7_init_1 : List UInt8 := dkwX7_init_1 ++ dktX7_init_2
def dkwX7_init_0 : List UInt8 := [42, 183, 0, 3, 42, 16, 6, 189, 0, 9, 89, 3, 187, 0, 9, 89, 183, 0, 11, 83, 89, 4]
abbrev dktX7_init_0 : List UInt8 := dkwX7_init_0 ++ dktX7_init_1
theorem dksX7_init_0 : cX7_init.data.toList.drop 0 = dktX7_init_0 := by decide +kernel
theorem dksX7_init_1 : cX7_init.data.toList.drop 22 = dktX7_init_1 := dk_seg dksX7_init_0 22 rfl rfl
theorem dksX7_init_2 : cX7_init.data.toList.drop 46 = dktX7_init_2 := dk_seg dksX7_init_1 24 rfl rfl
theorem dksX7_init_3 : cX7_init.data.toList.drop 70 = dktX7_init_3 := dk_seg dksX7_init_2 24 rfl rfl
theorem dksX7_init_4 : cX7_init.data.toList.drop 94 = dktX7_init_4 := dk_seg dksX7_init_3 24 rfl rfl
theorem dksX7_init_5 : cX7_init.data.toList.drop 118 = dktX7_init_5 := dk_seg dksX7_init_4 24 rfl rfl
theorem dksX7_init_6 : cX7_init.data.toList.drop 142 = dktX7_init_6 := dk_seg dksX7_init_5 24 rfl rfl
theorem dksX7_init_7 : cX7_init.data.toList.drop 166 = dktX7_init_7 := dk_seg dksX7_init_6 24 rfl rfl
theorem dksX7_init_8 : cX7_init.data.toList.drop 190 = dktX7_init_8 := dk_seg dksX7_init_7 24 rfl rfl
theorem dksX7_init_9 : cX7_init.data.toList.drop 214 = dktX7_init_9 := dk_seg dksX7_init_8 24 rfl rfl
theorem dksX7_init_10 : cX7_init.data.toList.drop 238 = dktX7_init_10 := dk_seg dksX7_init_9 24 rfl rfl
theorem dksX7_init_11 : cX7_init.data.toList.drop 262 = dktX7_init_11 := dk_seg dksX7_init_10 24 rfl rfl
theorem dksX7_init_12 : cX7_init.data.toList.drop 285 = dktX7_init_12 := dk_seg dksX7_init_11 23 rfl rfl
theorem dksX7_init_13 : cX7_init.data.toList.drop 309 = dktX7_init_13 := dk_seg dksX7_init_12 24 rfl rfl
theorem dX7_init_0 : decode cX7_init 0 = .ok (.aload_n 0, 1) := dk_42 (dk_at dksX7_init_0 0 rfl rfl)
theorem dX7_init_1 : decode cX7_init 1 = .ok (.invokespecial 3, 3) := dk_183 0 3 (dk_at dksX7_init_0 1 rfl rfl)
theorem dX7_init_4 : decode cX7_init 4 = .ok (.aload_n 0, 1) := dk_42 (dk_at dksX7_init_0 4 rfl rfl)
theorem dX7_init_5 : decode cX7_init 5 = .ok (.bipush 6, 2) := dk_16 6 (dk_at dksX7_init_0 5 rfl rfl)
theorem dX7_init_7 : decode cX7_init 7 = .ok (.anewarray 9, 3) := dk_189 0 9 (dk_at dksX7_init_0 7 rfl rfl)
theorem dX7_init_10 : decode cX7_init 10 = .ok (.dup, 1) := dk_89 (dk_at dksX7_init_0 10 rfl rfl)
theorem dX7_init_11 : decode cX7_init 11 = .ok (.iconst 0, 1) := dk_3 (dk_at dksX7_init_0 11 rfl rfl)
theorem dX7_init_12 : decode cX7_init 12 = .ok (.new 9, 3) := dk_187 0 9 (dk_at dksX7_init_0 12 rfl rfl)
theorem dX7_init_15 : decode cX7_init 15 = .ok (.dup, 1) := dk_89 (dk_at dksX7_init_0 15 rfl rfl)
theorem dX7_init_16 : decode cX7_init 16 = .ok (.invokespecial 11, 3) := dk_183 0 11 (dk_at dksX7_init_0 16 rfl rfl)
theorem dX7_init_19 : decode cX7_init 19 = .ok (.aastore, 1) := dk_83 (dk_at dksX7_init_0 19 rfl rfl)
theorem dX7_init_20 : decode cX7_init 20 = .ok (.dup, 1) := dk_89 (dk_at dksX7_init_0 20 rfl rfl)
theorem dX7_init_21 : decode cX7_init 21 = .ok (.iconst 1, 1) := dk_4 (dk_at dksX7_init_0 21 rfl rfl)
theorem dX7_init_22 : decode cX7_init 22 = .ok (.new 12, 3) := dk_187 0 12 (dk_at dksX7_init_1 0 rfl rfl)
theorem dX7_init_25 : decode cX7_init 25 = .ok (.dup, 1) := dk_89 (dk_at dksX7_init_1 3 rfl rfl)
theorem dX7_init_26 : decode cX7_init 26 = .ok (.invokespecial 14, 3) := dk_183 0 14 (dk_at dksX7_init_1 4 rfl rfl)
theorem dX7_init_29 : decode cX7_init 29 = .ok (.aastore, 1) := dk_83 (dk_at dksX7_init_1 7 rfl rfl)
theorem dX7_init_30 : decode cX7_init 30 = .ok (.dup, 1) := dk_89 (dk_at dksX7_init_1 8 rfl rfl)
theorem dX7_init_31 : decode cX7_init 31 = .ok (.iconst 2, 1) := dk_5 (dk_at dksX7_init_1 9 rfl rfl)
theorem dX7_init_32 : decode cX7_init 32 = .ok (.new 15, 3) := dk_187 0 15 (dk_at dksX7_init_1 10 rfl rfl)
theorem dX7_init_35 : decode cX7_init 35 = .ok (.dup, 1) := dk_89 (dk_at dksX7_init_1 13 rfl rfl)
theorem dX7_init_36 : decode cX7_init 36 = .ok (.invokespecial 17, 3) := dk_183 0 17 (dk_at dksX7_init_1 14 rfl rfl)
theorem dX7_init_39 : decode cX7_init 39 = .ok (.aastore, 1) := dk_83 (dk_at dksX7_init_1 17 rfl rfl)
theorem dX7_init_40 : decode cX7_init 40 = .ok (.dup, 1) := dk_89 (dk_at dksX7_init_1 18 rfl rfl)
theorem dX7_init_41 : decode cX7_init 41 = .ok (.iconst 3, 1) := dk_6 (dk_at dksX7_init_1 19 rfl rfl)
theorem dX7_init_42 : decode cX7_init 42 = .ok (.new 18, 3) := dk_187 0 18 (dk_at dksX7_init_1 20 rfl rfl)
theorem dX7_init_45 : decode cX7_init 45 = .ok (.dup, 1) := dk_89 (dk_at dksX7_init_1 23 rfl rfl)
theorem dX7_init_46 : decode cX7_init 46 = .ok (.invokespecial 20, 3) := dk_183 0 20 (dk_at dksX7_init_2 0 rfl rfl)
theorem dX7_init_49 : decode cX7_init 49 = .ok (.aastore, 1) := dk_83 (dk_at dksX7_init_2 3 rfl rfl)
theorem dX7_init_50 : decode cX7_init 50 = .ok (.dup, 1) := dk_89 (dk_at dksX7_init_2 4 rfl rfl)
theorem dX7_init_51 : decode cX7_init 51 = .ok (.iconst 4, 1) := dk_7 (dk_at dksX7_init_2 5 rfl rfl)
theorem dX7_init_52 : decode cX7_init 52 = .ok (.new 21, 3) := dk_187 0 21 (dk_at dksX7_init_2 6 rfl rfl)
theorem dX7_init_55 : decode cX7_init 55 = .ok (.dup, 1) := dk_89 (dk_at dksX7_init_2 9 rfl rfl)
theorem dX7_init_56 : decode cX7_init 56 = .ok (.invokespecial 23, 3) := dk_183 0 23 (dk_at dksX7_init_2 10 rfl rfl)
theorem dX7_init_59 : decode cX7_init 59 = .ok (.aastore, 1) := dk_83 (dk_at dksX7_init_2 13 rfl rfl)
theorem dX7_init_60 : decode cX7_init 60 = .ok (.dup, 1) := dk_89 (dk_at dksX7_init_2 14 rfl rfl)
theorem dX7_init_61 : decode cX7_init 61 = .ok (.iconst 5, 1) := dk_8 (dk_at dksX7_init_2 15 rfl rfl)
theorem dX7_init_62 : decode cX7_init 62 = .ok (.new 24, 3) := dk_187 0 24 (dk_at dksX7_init_2 16 rfl rfl)
theorem dX7_init_65 : decode cX7_init 65 = .ok (.dup, 1) := dk_89 (dk_at dksX7_init_2 19 rfl rfl)
theorem dX7_init_66 : decode cX7_init 66 = .ok (.invokespecial 26, 3) := dk_183 0 26 (dk_at dksX7_init_2 20 rfl rfl)
theorem dX7_init_69 : decode cX7_init 69 = .ok (.aastore, 1) := dk_83 (dk_at dksX7_init_2 23 rfl rfl)
theorem dX7_init_70 : decode cX7_init 70 = .ok (.putfield 27, 3) := dk_181 0 27 (dk_at dksX7_init_3 0 rfl rfl)
theorem dX7_init_73 : decode cX7_init 73 = .ok (.aload_n 0, 1) := dk_42 (dk_at dksX7_init_3 3 rfl rfl)
theorem dX7_init_74 : decode cX7_init 74 = .ok (.bipush 8, 2) := dk_16 8 (dk_at dksX7_init_3 4 rfl rfl)
theorem dX7_init_76 : decode cX7_init 76 = .ok (.anewarray 33, 3) := dk_189 0 33 (dk_at dksX7_init_3 6 rfl rfl)
theorem dX7_init_79 : decode cX7_init 79 = .ok (.dup, 1) := dk_89 (dk_at dksX7_init_3 9 rfl rfl)
theorem dX7_init_80 : decode cX7_init 80 = .ok (.iconst 0, 1) := dk_3 (dk_at dksX7_init_3 10 rfl rfl)
theorem dX7_init_81 : decode cX7_init 81 = .ok (.new 33, 3) := dk_187 0 33 (dk_at dksX7_init_3 11 rfl rfl)
theorem dX7_init_84 : decode cX7_init 84 = .ok (.dup, 1) := dk_89 (dk_at dksX7_init_3 14 rfl rfl)
theorem dX7_init_85 : decode cX7_init 85 = .ok (.invokespecial 35, 3) := dk_183 0 35 (dk_at dksX7_init_3 15 rfl rfl)
theorem dX7_init_88 : decode cX7_init 88 = .ok (.aastore, 1) := dk_83 (dk_at dksX7_init_3 18 rfl rfl)
theorem dX7_init_89 : decode cX7_init 89 = .ok (.dup, 1) := dk_89 (dk_at dksX7_init_3 19 rfl rfl)
theorem dX7_init_90 : decode cX7_init 90 = .ok (.iconst 1, 1) := dk_4 (dk_at dksX7_init_3 20 rfl rfl)
theorem dX7_init_91 : decode cX7_init 91 = .ok (.new 33, 3) := dk_187 0 33 (dk_at dksX7_init_3 21 rfl rfl)
theorem dX7_init_94 : decode cX7_init 94 = .ok (.dup, 1) := dk_89 (dk_at dksX7_init_4 0 rfl rfl)
theorem dX7_init_95 : decode cX7_init 95 = .ok (.invokespecial 35, 3) := dk_183 0 35 (dk_at dksX7_init_4 1 rfl rfl)
theorem dX7_init_98 : decode cX7_init 98 = .ok (.aastore, 1) := dk_83 (dk_at dksX7_init_4 4 rfl rfl)
theorem dX7_init_99 : decode cX7_init 99 = .ok (.dup, 1) := dk_89 (dk_at dksX7_init_4 5 rfl rfl)
theorem dX7_init_100 : decode cX7_init 100 = .ok (.iconst 2, 1) := dk_5 (dk_at dksX7_init_4 6 rfl rfl)
theorem dX7_init_101 : decode cX7_init 101 = .ok (.new 33, 3) := dk_187 0 33 (dk_at dksX7_init_4 7 rfl rfl)
theorem dX7_init_104 : decode cX7_init 104 = .ok (.dup, 1) := dk_89 (dk_at dksX7_init_4 10 rfl rfl)
theorem dX7_init_105 : decode cX7_init 105 = .ok (.invokespecial 35, 3) := dk_183 0 35 (dk_at dksX7_init_4 11 rfl rfl)
theorem dX7_init_108 : decode cX7_init 108 = .ok (.aastore, 1) := dk_83 (dk_at dksX7_init_4 14 rfl rfl)
theorem dX7_init_109 : decode cX7_init 109 = .ok (.dup, 1) := dk_89 (dk_at dksX7_init_4 15 rfl rfl)
theorem dX7_init_110 : decode cX7_init 110 = .ok (.iconst 3, 1) := dk_6 (dk_at dksX7_init_4 16 rfl rfl)
theorem dX7_init_111 : decode cX7_init 111 = .ok (.new 33, 3) := dk_187 0 33 (dk_at dksX7_init_4 17 rfl rfl)
theorem dX7_init_114 : decode cX7_init 114 = .ok (.dup, 1) := dk_89 (dk_at dksX7_init_4 20 rfl rfl)
theorem dX7_init_115 : decode cX7_init 115 = .ok (.invokespecial 35, 3) := dk_183 0 35 (dk_at dksX7_init_4 21 rfl rfl)
theorem dX7_init_118 : decode cX7_init 118 = .ok (.aastore, 1) := dk_83 (dk_at dksX7_init_5 0 rfl rfl)
theorem dX7_init_119 : decode cX7_init 119 = .ok (.dup, 1) := dk_89 (dk_at dksX7_init_5 1 rfl rfl)
theorem dX7_init_120 : decode cX7_init 120 = .ok (.iconst 4, 1) := dk_7 (dk_at dksX7_init_5 2 rfl rfl)
theorem dX7_init_121 : decode cX7_init 121 = .ok (.new 33, 3) := dk_187 0 33 (dk_at dksX7_init_5 3 rfl rfl)
theorem dX7_init_124 : decode cX7_init 124 = .ok (.dup, 1) := dk_89 (dk_at dksX7_init_5 6 rfl rfl)
theorem dX7_init_125 : decode cX7_init 125 = .ok (.invokespecial 35, 3) := dk_183 0 35 (dk_at dksX7_init_5 7 rfl rfl)
theorem dX7_init_128 : decode cX7_init 128 = .ok (.aastore, 1) := dk_83 (dk_at dksX7_init_5 10 rfl rfl)
theorem dX7_init_129 : decode cX7_init 129 = .ok (.dup, 1) := dk_89 (dk_at dksX7_init_5 11 rfl rfl)
theorem dX7_init_130 : decode cX7_init 130 = .ok (.iconst 5, 1) := dk_8 (dk_at dksX7_init_5 12 rfl rfl)
theorem dX7_init_131 : decode cX7_init 131 = .ok (.new 33, 3) := dk_187 0 33 (dk_at dksX7_init_5 13 rfl rfl)
theorem dX7_init_134 : decode cX7_init 134 = .ok (.dup, 1) := dk_89 (dk_at dksX7_init_5 16 rfl rfl)
theorem dX7_init_135 : decode cX7_init 135 = .ok (.invokespecial 35, 3) := dk_183 0 35 (dk_at dksX7_init_5 17 rfl rfl)
theorem dX7_init_138 : decode cX7_init 138 = .ok (.aastore, 1) := dk_83 (dk_at dksX7_init_5 20 rfl rfl)
theorem dX7_init_139 : decode cX7_init 139 = .ok (.dup, 1) := dk_89 (dk_at dksX7_init_5 21 rfl rfl)
theorem dX7_init_140 : decode cX7_init 140 = .ok (.bipush 6, 2) := dk_16 6 (dk_at dksX7_init_5 22 rfl rfl)
theorem dX7_init_142 : decode cX7_init 142 = .ok (.new 33, 3) := dk_187 0 33 (dk_at dksX7_init_6 0 rfl rfl)
theorem dX7_init_145 : decode cX7_init 145 = .ok (.dup, 1) := dk_89 (dk_at dksX7_init_6 3 rfl rfl)
theorem dX7_init_146 : decode cX7_init 146 = .ok (.invokespecial 35, 3) := dk_183 0 35 (dk_at dksX7_init_6 4 rfl rfl)
theorem dX7_init_149 : decode cX7_init 149 = .ok (.aastore, 1) := dk_83 (dk_at dksX7_init_6 7 rfl rfl)
theorem dX7_init_150 : decode cX7_init 150 = .ok (.dup, 1) := dk_89 (dk_at dksX7_init_6 8 rfl rfl)
theorem dX7_init_151 : decode cX7_init 151 = .ok (.bipush 7, 2) := dk_16 7 (dk_at dksX7_init_6 9 rfl rfl)
theorem dX7_init_153 : decode cX7_init 153 = .ok (.new 33, 3) := dk_187 0 33 (dk_at dksX7_init_6 11 rfl rfl)
theorem dX7_init_156 : decode cX7_init 156 = .ok (.dup, 1) := dk_89 (dk_at dksX7_init_6 14 rfl rfl)
theorem dX7_init_157 : decode cX7_init 157 = .ok (.invokespecial 35, 3) := dk_183 0 35 (dk_at dksX7_init_6 15 rfl rfl)
theorem dX7_init_160 : decode cX7_init 160 = .ok (.aastore, 1) := dk_83 (dk_at dksX7_init_6 18 rfl rfl)
theorem dX7_init_161 : decode cX7_init 161 = .ok (.putfield 36, 3) := dk_181 0 36 (dk_at dksX7_init_6 19 rfl rfl)
theorem dX7_init_164 : decode cX7_init 164 = .ok (.aload_n 0, 1) := dk_42 (dk_at dksX7_init_6 22 rfl rfl)
theorem dX7_init_165 : decode cX7_init 165 = .ok (.iconst 1, 1) := dk_4 (dk_at dksX7_init_6 23 rfl rfl)
theorem dX7_init_166 : decode cX7_init 166 = .ok (.putfield 40, 3) := dk_181 0 40 (dk_at dksX7_init_7 0 rfl rfl)
theorem dX7_init_169 : decode cX7_init 169 = .ok (.aload_n 0, 1) := dk_42 (dk_at dksX7_init_7 3 rfl rfl)
theorem dX7_init_170 : decode cX7_init 170 = .ok (.iconst 4, 1) := dk_7 (dk_at dksX7_init_7 4 rfl rfl)
theorem dX7_init_171 : decode cX7_init 171 = .ok (.newarray .int, 2) := dk_188_10 (dk_at dksX7_init_7 5 rfl rfl)
theorem dX7_init_173 : decode cX7_init 173 = .ok (.putfield 44, 3) := dk_181 0 44 (dk_at dksX7_init_7 7 rfl rfl)
theorem dX7_init_176 : decode cX7_init 176 = .ok (.aload_n 0, 1) := dk_42 (dk_at dksX7_init_7 10 rfl rfl)
theorem dX7_init_177 : decode cX7_init 177 = .ok (.iconst 4, 1) := dk_7 (dk_at dksX7_init_7 11 rfl rfl)
theorem dX7_init_178 : decode cX7_init 178 = .ok (.newarray .int, 2) := dk_188_10 (dk_at dksX7_init_7 12 rfl rfl)
theorem dX7_init_180 : decode cX7_init 180 = .ok (.putfield 48, 3) := dk_181 0 48 (dk_at dksX7_init_7 14 rfl rfl)
theorem dX7_init_183 : decode cX7_init 183 = .ok (.aload_n 0, 1) := dk_42 (dk_at dksX7_init_7 17 rfl rfl)
theorem dX7_init_184 : decode cX7_init 184 = .ok (.iconst 4, 1) := dk_7 (dk_at dksX7_init_7 18 rfl rfl)
theorem dX7_init_185 : decode cX7_init 185 = .ok (.newarray .int, 2) := dk_188_10 (dk_at dksX7_init_7 19 rfl rfl)
theorem dX7_init_187 : decode cX7_init 187 = .ok (.dup, 1) := dk_89 (dk_at dksX7_init_7 21 rfl rfl)
theorem dX7_init_188 : decode cX7_init 188 = .ok (.iconst 0, 1) := dk_3 (dk_at dksX7_init_7 22 rfl rfl)
theorem dX7_init_189 : decode cX7_init 189 = .ok (.iconst 1, 1) := dk_4 (dk_at dksX7_init_7 23 rfl rfl)
theorem dX7_init_190 : decode cX7_init 190 = .ok (.iastore, 1) := dk_79 (dk_at dksX7_init_8 0 rfl rfl)
theorem dX7_init_191 : decode cX7_init 191 = .ok (.dup, 1) := dk_89 (dk_at dksX7_init_8 1 rfl rfl)
theorem dX7_init_192 : decode cX7_init 192 = .ok (.iconst 1, 1) := dk_4 (dk_at dksX7_init_8 2 rfl rfl)
theorem dX7_init_193 : decode cX7_init 193 = .ok (.iconst 1, 1) := dk_4 (dk_at dksX7_init_8 3 rfl rfl)
theorem dX7_init_194 : decode cX7_init 194 = .ok (.iastore, 1) := dk_79 (dk_at dksX7_init_8 4 rfl rfl)
theorem dX7_init_195 : decode cX7_init 195 = .ok (.dup, 1) := dk_89 (dk_at dksX7_init_8 5 rfl rfl)
theorem dX7_init_196 : decode cX7_init 196 = .ok (.iconst 2, 1) := dk_5 (dk_at dksX7_init_8 6 rfl rfl)
theorem dX7_init_197 : decode cX7_init 197 = .ok (.iconst 1, 1) := dk_4 (dk_at dksX7_init_8 7 rfl rfl)
theorem dX7_init_198 : decode cX7_init 198 = .ok (.iastore, 1) := dk_79 (dk_at dksX7_init_8 8 rfl rfl)
theorem dX7_init_199 : decode cX7_init 199 = .ok (.dup, 1) := dk_89 (dk_at dksX7_init_8 9 rfl rfl)
theorem dX7_init_200 : decode cX7_init 200 = .ok (.iconst 3, 1) := dk_6 (dk_at dksX7_init_8 10 rfl rfl)
theorem dX7_init_201 : decode cX7_init 201 = .ok (.iconst 1, 1) := dk_4 (dk_at dksX7_init_8 11 rfl rfl)
theorem dX7_init_202 : decode cX7_init 202 = .ok (.iastore, 1) := dk_79 (dk_at dksX7_init_8 12 rfl rfl)
theorem dX7_init_203 : decode cX7_init 203 = .ok (.putfield 51, 3) := dk_181 0 51 (dk_at dksX7_init_8 13 rfl rfl)
theorem dX7_init_206 : decode cX7_init 206 = .ok (.aload_n 0, 1) := dk_42 (dk_at dksX7_init_8 16 rfl rfl)
theorem dX7_init_207 : decode cX7_init 207 = .ok (.iconst 4, 1) := dk_7 (dk_at dksX7_init_8 17 rfl rfl)
theorem dX7_init_208 : decode cX7_init 208 = .ok (.newarray .int, 2) := dk_188_10 (dk_at dksX7_init_8 18 rfl rfl)
theorem dX7_init_210 : decode cX7_init 210 = .ok (.dup, 1) := dk_89 (dk_at dksX7_init_8 20 rfl rfl)
theorem dX7_init_211 : decode cX7_init 211 = .ok (.iconst 0, 1) := dk_3 (dk_at dksX7_init_8 21 rfl rfl)
theorem dX7_init_212 : decode cX7_init 212 = .ok (.iconst 4, 1) := dk_7 (dk_at dksX7_init_8 22 rfl rfl)
theorem dX7_init_213 : decode cX7_init 213 = .ok (.iastore, 1) := dk_79 (dk_at dksX7_init_8 23 rfl rfl)
theorem dX7_init_214 : decode cX7_init 214 = .ok (.dup, 1) := dk_89 (dk_at dksX7_init_9 0 rfl rfl)
theorem dX7_init_215 : decode cX7_init 215 = .ok (.iconst 1, 1) := dk_4 (dk_at dksX7_init_9 1 rfl rfl)
theorem dX7_init_216 : decode cX7_init 216 = .ok (.bipush 8, 2) := dk_16 8 (dk_at dksX7_init_9 2 rfl rfl)
theorem dX7_init_218 : decode cX7_init 218 = .ok (.iastore, 1) := dk_79 (dk_at dksX7_init_9 4 rfl rfl)
theorem dX7_init_219 : decode cX7_init 219 = .ok (.dup, 1) := dk_89 (dk_at dksX7_init_9 5 rfl rfl)
theorem dX7_init_220 : decode cX7_init 220 = .ok (.iconst 2, 1) := dk_5 (dk_at dksX7_init_9 6 rfl rfl)
theorem dX7_init_221 : decode cX7_init 221 = .ok (.iconst 1, 1) := dk_4 (dk_at dksX7_init_9 7 rfl rfl)
theorem dX7_init_222 : decode cX7_init 222 = .ok (.iastore, 1) := dk_79 (dk_at dksX7_init_9 8 rfl rfl)
theorem dX7_init_223 : decode cX7_init 223 = .ok (.dup, 1) := dk_89 (dk_at dksX7_init_9 9 rfl rfl)
theorem dX7_init_224 : decode cX7_init 224 = .ok (.iconst 3, 1) := dk_6 (dk_at dksX7_init_9 10 rfl rfl)
theorem dX7_init_225 : decode cX7_init 225 = .ok (.iconst 4, 1) := dk_7 (dk_at dksX7_init_9 11 rfl rfl)
theorem dX7_init_226 : decode cX7_init 226 = .ok (.iastore, 1) := dk_79 (dk_at dksX7_init_9 12 rfl rfl)
theorem dX7_init_227 : decode cX7_init 227 = .ok (.putfield 54, 3) := dk_181 0 54 (dk_at dksX7_init_9 13 rfl rfl)
theorem dX7_init_230 : decode cX7_init 230 = .ok (.aload_n 0, 1) := dk_42 (dk_at dksX7_init_9 16 rfl rfl)
theorem dX7_init_231 : decode cX7_init 231 = .ok (.bipush 12, 2) := dk_16 12 (dk_at dksX7_init_9 17 rfl rfl)
theorem dX7_init_233 : decode cX7_init 233 = .ok (.newarray .int, 2) := dk_188_10 (dk_at dksX7_init_9 19 rfl rfl)
theorem dX7_init_235 : decode cX7_init 235 = .ok (.dup, 1) := dk_89 (dk_at dksX7_init_9 21 rfl rfl)
theorem dX7_init_236 : decode cX7_init 236 = .ok (.iconst 0, 1) := dk_3 (dk_at dksX7_init_9 22 rfl rfl)
theorem dX7_init_237 : decode cX7_init 237 = .ok (.iconst 2, 1) := dk_5 (dk_at dksX7_init_9 23 rfl rfl)
theorem dX7_init_238 : decode cX7_init 238 = .ok (.iastore, 1) := dk_79 (dk_at dksX7_init_10 0 rfl rfl)
theorem dX7_init_239 : decode cX7_init 239 = .ok (.dup, 1) := dk_89 (dk_at dksX7_init_10 1 rfl rfl)
theorem dX7_init_240 : decode cX7_init 240 = .ok (.iconst 1, 1) := dk_4 (dk_at dksX7_init_10 2 rfl rfl)
theorem dX7_init_241 : decode cX7_init 241 = .ok (.iconst 2, 1) := dk_5 (dk_at dksX7_init_10 3 rfl rfl)
theorem dX7_init_242 : decode cX7_init 242 = .ok (.iastore, 1) := dk_79 (dk_at dksX7_init_10 4 rfl rfl)
theorem dX7_init_243 : decode cX7_init 243 = .ok (.dup, 1) := dk_89 (dk_at dksX7_init_10 5 rfl rfl)
theorem dX7_init_244 : decode cX7_init 244 = .ok (.iconst 2, 1) := dk_5 (dk_at dksX7_init_10 6 rfl rfl)
theorem dX7_init_245 : decode cX7_init 245 = .ok (.iconst 2, 1) := dk_5 (dk_at dksX7_init_10 7 rfl rfl)
theorem dX7_init_246 : decode cX7_init 246 = .ok (.iastore, 1) := dk_79 (dk_at dksX7_init_10 8 rfl rfl)
theorem dX7_init_247 : decode cX7_init 247 = .ok (.dup, 1) := dk_89 (dk_at dksX7_init_10 9 rfl rfl)
theorem dX7_init_248 : decode cX7_init 248 = .ok (.iconst 3, 1) := dk_6 (dk_at dksX7_init_10 10 rfl rfl)
theorem dX7_init_249 : decode cX7_init 249 = .ok (.iconst 2, 1) := dk_5 (dk_at dksX7_init_10 11 rfl rfl)
theorem dX7_init_250 : decode cX7_init 250 = .ok (.iastore, 1) := dk_79 (dk_at dksX7_init_10 12 rfl rfl)
theorem dX7_init_251 : decode cX7_init 251 = .ok (.dup, 1) := dk_89 (dk_at dksX7_init_10 13 rfl rfl)
theorem dX7_init_252 : decode cX7_init 252 = .ok (.iconst 4, 1) := dk_7 (dk_at dksX7_init_10 14 rfl rfl)
theorem dX7_init_253 : decode cX7_init 253 = .ok (.iconst 2, 1) := dk_5 (dk_at dksX7_init_10 15 rfl rfl)
theorem dX7_init_254 : decode cX7_init 254 = .ok (.iastore, 1) := dk_79 (dk_at dksX7_init_10 16 rfl rfl)
theorem dX7_init_255 : decode cX7_init 255 = .ok (.dup, 1) := dk_89 (dk_at dksX7_init_10 17 rfl rfl)
theorem dX7_init_256 : decode cX7_init 256 = .ok (.iconst 5, 1) := dk_8 (dk_at dksX7_init_10 18 rfl rfl)
theorem dX7_init_257 : decode cX7_init 257 = .ok (.iconst 2, 1) := dk_5 (dk_at dksX7_init_10 19 rfl rfl)
theorem dX7_init_258 : decode cX7_init 258 = .ok (.iastore, 1) := dk_79 (dk_at dksX7_init_10 20 rfl rfl)
theorem dX7_init_259 : decode cX7_init 259 = .ok (.dup, 1) := dk_89 (dk_at dksX7_init_10 21 rfl rfl)
theorem dX7_init_260 : decode cX7_init 260 = .ok (.bipush 6, 2) := dk_16 6 (dk_at dksX7_init_10 22 rfl rfl)
theorem dX7_init_262 : decode cX7_init 262 = .ok (.iconst 2, 1) := dk_5 (dk_at dksX7_init_11 0 rfl rfl)
theorem dX7_init_263 : decode cX7_init 263 = .ok (.iastore, 1) := dk_79 (dk_at dksX7_init_11 1 rfl rfl)
theorem dX7_init_264 : decode cX7_init 264 = .ok (.dup, 1) := dk_89 (dk_at dksX7_init_11 2 rfl rfl)
theorem dX7_init_265 : decode cX7_init 265 = .ok (.bipush 7, 2) := dk_16 7 (dk_at dksX7_init_11 3 rfl rfl)
theorem dX7_init_267 : decode cX7_init 267 = .ok (.iconst 2, 1) := dk_5 (dk_at dksX7_init_11 5 rfl rfl)
theorem dX7_init_268 : decode cX7_init 268 = .ok (.iastore, 1) := dk_79 (dk_at dksX7_init_11 6 rfl rfl)
theorem dX7_init_269 : decode cX7_init 269 = .ok (.dup, 1) := dk_89 (dk_at dksX7_init_11 7 rfl rfl)
theorem dX7_init_270 : decode cX7_init 270 = .ok (.bipush 8, 2) := dk_16 8 (dk_at dksX7_init_11 8 rfl rfl)
theorem dX7_init_272 : decode cX7_init 272 = .ok (.iconst 2, 1) := dk_5 (dk_at dksX7_init_11 10 rfl rfl)
theorem dX7_init_273 : decode cX7_init 273 = .ok (.iastore, 1) := dk_79 (dk_at dksX7_init_11 11 rfl rfl)
theorem dX7_init_274 : decode cX7_init 274 = .ok (.dup, 1) := dk_89 (dk_at dksX7_init_11 12 rfl rfl)
theorem dX7_init_275 : decode cX7_init 275 = .ok (.bipush 9, 2) := dk_16 9 (dk_at dksX7_init_11 13 rfl rfl)
theorem dX7_init_277 : decode cX7_init 277 = .ok (.iconst 2, 1) := dk_5 (dk_at dksX7_init_11 15 rfl rfl)
theorem dX7_init_278 : decode cX7_init 278 = .ok (.iastore, 1) := dk_79 (dk_at dksX7_init_11 16 rfl rfl)
theorem dX7_init_279 : decode cX7_init 279 = .ok (.dup, 1) := dk_89 (dk_at dksX7_init_11 17 rfl rfl)
theorem dX7_init_280 : decode cX7_init 280 = .ok (.bipush 10, 2) := dk_16 10 (dk_at dksX7_init_11 18 rfl rfl)
theorem dX7_init_282 : decode cX7_init 282 = .ok (.iconst 2, 1) := dk_5 (dk_at dksX7_init_11 20 rfl rfl)
theorem dX7_init_283 : decode cX7_init 283 = .ok (.iastore, 1) := dk_79 (dk_at dksX7_init_11 21 rfl rfl)
theorem dX7_init_284 : decode cX7_init 284 = .ok (.dup, 1) := dk_89 (dk_at dksX7_init_11 22 rfl rfl)
theorem dX7_init_285 : decode cX7_init 285 = .ok (.bipush 11, 2) := dk_16 11 (dk_at dksX7_init_12 0 rfl rfl)
theorem dX7_init_287 : decode cX7_init 287 = .ok (.iconst 2, 1) := dk_5 (dk_at dksX7_init_12 2 rfl rfl)
theorem dX7_init_288 : decode cX7_init 288 = .ok (.iastore, 1) := dk_79 (dk_at dksX7_init_12 3 rfl rfl)
theorem dX7_init_289 : decode cX7_init 289 = .ok (.putfield 57, 3) := dk_181 0 57 (dk_at dksX7_init_12 4 rfl rfl)
theorem dX7_init_292 : decode cX7_init 292 = .ok (.aload_n 0, 1) := dk_42 (dk_at dksX7_init_12 7 rfl rfl)
theorem dX7_init_293 : decode cX7_init 293 = .ok (.bipush 6, 2) := dk_16 6 (dk_at dksX7_init_12 8 rfl rfl)
theorem dX7_init_295 : decode cX7_init 295 = .ok (.newarray .int, 2) := dk_188_10 (dk_at dksX7_init_12 10 rfl rfl)
theorem dX7_init_297 : decode cX7_init 297 = .ok (.putfield 60, 3) := dk_181 0 60 (dk_at dksX7_init_12 12 rfl rfl)
theorem dX7_init_300 : decode cX7_init 300 = .ok (.aload_n 0, 1) := dk_42 (dk_at dksX7_init_12 15 rfl rfl)
theorem dX7_init_301 : decode cX7_init 301 = .ok (.bipush 6, 2) := dk_16 6 (dk_at dksX7_init_12 16 rfl rfl)
theorem dX7_init_303 : decode cX7_init 303 = .ok (.newarray .int, 2) := dk_188_10 (dk_at dksX7_init_12 18 rfl rfl)
theorem dX7_init_305 : decode cX7_init 305 = .ok (.putfield 63, 3) := dk_181 0 63 (dk_at dksX7_init_12 20 rfl rfl)
theorem dX7_init_308 : decode cX7_init 308 = .ok (.aload_n 0, 1) := dk_42 (dk_at dksX7_init_12 23 rfl rfl)
theorem dX7_init_309 : decode cX7_init 309 = .ok (.bipush 8, 2) := dk_16 8 (dk_at dksX7_init_13 0 rfl rfl)
theorem dX7_init_311 : decode cX7_init 311 = .ok (.newarray .int, 2) := dk_188_10 (dk_at dksX7_init_13 2 rfl rfl)
theorem dX7_init_313 : decode cX7_init 313 = .ok (.putfield 66, 3) := dk_181 0 66 (dk_at dksX7_init_13 4 rfl rfl)
theorem dX7_init_316 : decode cX7_init 316 = .ok (.aload_n 0, 1) := dk_42 (dk_at dksX7_init_13 7 rfl rfl)
theorem dX7_init_317 : decode cX7_init 317 = .ok (.bipush 8, 2) := dk_16 8 (dk_at dksX7_init_13 8 rfl rfl)
theorem dX7_init_319 : decode cX7_init 319 = .ok (.newarray .boolean, 2) := dk_188_4 (dk_at dksX7_init_13 10 rfl rfl)
theorem dX7_init_321 : decode cX7_init 321 = .ok (.putfield 69, 3) := dk_181 0 69 (dk_at dksX7_init_13 12 rfl rfl)
theorem dX7_init_324 : decode cX7_init 324 = .ok (.return_, 1) := dk_177 (dk_at dksX7_init_13 15 rfl rfl)
abbrev cX7_become : ByteArray := prog_10_method_5_code
def yX7_become : MethodName := ⟨RX7, "become", "(LCoatHoles$Cup;)V"⟩
def dkwX7_become_3 : List UInt8 := [180, 0, 66, 184, 0, 95, 43, 180, 0, 69, 3, 42, 180, 0, 69, 3, 16, 8, 184, 0, 73, 177]
abbrev dktX7_become_3 : List UInt8 := dkwX7_become_3 ++ []
def dkwX7_become_2 : List UInt8 := [180, 0, 60, 184, 0, 95, 43, 180, 0, 63, 42, 180, 0, 63, 184, 0, 95, 43, 180, 0, 66, 42]
abbrev dktX7_become_2 : List UInt8 := dkwX7_become_2 ++ dktX7_become_3
def dkwX7_become_1 : List UInt8 := [180, 0, 40, 181, 0, 40, 43, 180, 0, 51, 42, 180, 0, 51, 184, 0, 95, 43, 180, 0, 60, 42]
abbrev dktX7_become_1 : List UInt8 := dkwX7_become_1 ++ dktX7_become_2
def dkwX7_become_0 : List UInt8 := [42, 43, 182, 0, 99, 42, 43, 180, 0, 103, 181, 0, 103, 42, 43, 180, 0, 82, 181, 0, 82, 42, 43]
abbrev dktX7_become_0 : List UInt8 := dkwX7_become_0 ++ dktX7_become_1
theorem dksX7_become_0 : cX7_become.data.toList.drop 0 = dktX7_become_0 := by decide +kernel
theorem dksX7_become_1 : cX7_become.data.toList.drop 23 = dktX7_become_1 := dk_seg dksX7_become_0 23 rfl rfl
theorem dksX7_become_2 : cX7_become.data.toList.drop 45 = dktX7_become_2 := dk_seg dksX7_become_1 22 rfl rfl
theorem dksX7_become_3 : cX7_become.data.toList.drop 67 = dktX7_become_3 := dk_seg dksX7_become_2 22 rfl rfl
theorem dX7_become_0 : decode cX7_become 0 = .ok (.aload_n 0, 1) := dk_42 (dk_at dksX7_become_0 0 rfl rfl)
theorem dX7_become_1 : decode cX7_become 1 = .ok (.aload_n 1, 1) := dk_43 (dk_at dksX7_become_0 1 rfl rfl)
theorem dX7_become_2 : decode cX7_become 2 = .ok (.invokevirtual 99, 3) := dk_182 0 99 (dk_at dksX7_become_0 2 rfl rfl)
theorem dX7_become_5 : decode cX7_become 5 = .ok (.aload_n 0, 1) := dk_42 (dk_at dksX7_become_0 5 rfl rfl)
theorem dX7_become_6 : decode cX7_become 6 = .ok (.aload_n 1, 1) := dk_43 (dk_at dksX7_become_0 6 rfl rfl)
theorem dX7_become_7 : decode cX7_become 7 = .ok (.getfield 103, 3) := dk_180 0 103 (dk_at dksX7_become_0 7 rfl rfl)
theorem dX7_become_10 : decode cX7_become 10 = .ok (.putfield 103, 3) := dk_181 0 103 (dk_at dksX7_become_0 10 rfl rfl)
theorem dX7_become_13 : decode cX7_become 13 = .ok (.aload_n 0, 1) := dk_42 (dk_at dksX7_become_0 13 rfl rfl)
theorem dX7_become_14 : decode cX7_become 14 = .ok (.aload_n 1, 1) := dk_43 (dk_at dksX7_become_0 14 rfl rfl)
theorem dX7_become_15 : decode cX7_become 15 = .ok (.getfield 82, 3) := dk_180 0 82 (dk_at dksX7_become_0 15 rfl rfl)
theorem dX7_become_18 : decode cX7_become 18 = .ok (.putfield 82, 3) := dk_181 0 82 (dk_at dksX7_become_0 18 rfl rfl)
theorem dX7_become_21 : decode cX7_become 21 = .ok (.aload_n 0, 1) := dk_42 (dk_at dksX7_become_0 21 rfl rfl)
theorem dX7_become_22 : decode cX7_become 22 = .ok (.aload_n 1, 1) := dk_43 (dk_at dksX7_become_0 22 rfl rfl)
theorem dX7_become_23 : decode cX7_become 23 = .ok (.getfield 40, 3) := dk_180 0 40 (dk_at dksX7_become_1 0 rfl rfl)
theorem dX7_become_26 : decode cX7_become 26 = .ok (.putfield 40, 3) := dk_181 0 40 (dk_at dksX7_become_1 3 rfl rfl)
theorem dX7_become_29 : decode cX7_become 29 = .ok (.aload_n 1, 1) := dk_43 (dk_at dksX7_become_1 6 rfl rfl)
theorem dX7_become_30 : decode cX7_become 30 = .ok (.getfield 51, 3) := dk_180 0 51 (dk_at dksX7_become_1 7 rfl rfl)
theorem dX7_become_33 : decode cX7_become 33 = .ok (.aload_n 0, 1) := dk_42 (dk_at dksX7_become_1 10 rfl rfl)
theorem dX7_become_34 : decode cX7_become 34 = .ok (.getfield 51, 3) := dk_180 0 51 (dk_at dksX7_become_1 11 rfl rfl)
theorem dX7_become_37 : decode cX7_become 37 = .ok (.invokestatic 95, 3) := dk_184 0 95 (dk_at dksX7_become_1 14 rfl rfl)
theorem dX7_become_40 : decode cX7_become 40 = .ok (.aload_n 1, 1) := dk_43 (dk_at dksX7_become_1 17 rfl rfl)
theorem dX7_become_41 : decode cX7_become 41 = .ok (.getfield 60, 3) := dk_180 0 60 (dk_at dksX7_become_1 18 rfl rfl)
theorem dX7_become_44 : decode cX7_become 44 = .ok (.aload_n 0, 1) := dk_42 (dk_at dksX7_become_1 21 rfl rfl)
theorem dX7_become_45 : decode cX7_become 45 = .ok (.getfield 60, 3) := dk_180 0 60 (dk_at dksX7_become_2 0 rfl rfl)
theorem dX7_become_48 : decode cX7_become 48 = .ok (.invokestatic 95, 3) := dk_184 0 95 (dk_at dksX7_become_2 3 rfl rfl)
theorem dX7_become_51 : decode cX7_become 51 = .ok (.aload_n 1, 1) := dk_43 (dk_at dksX7_become_2 6 rfl rfl)
theorem dX7_become_52 : decode cX7_become 52 = .ok (.getfield 63, 3) := dk_180 0 63 (dk_at dksX7_become_2 7 rfl rfl)
theorem dX7_become_55 : decode cX7_become 55 = .ok (.aload_n 0, 1) := dk_42 (dk_at dksX7_become_2 10 rfl rfl)
theorem dX7_become_56 : decode cX7_become 56 = .ok (.getfield 63, 3) := dk_180 0 63 (dk_at dksX7_become_2 11 rfl rfl)
theorem dX7_become_59 : decode cX7_become 59 = .ok (.invokestatic 95, 3) := dk_184 0 95 (dk_at dksX7_become_2 14 rfl rfl)
theorem dX7_become_62 : decode cX7_become 62 = .ok (.aload_n 1, 1) := dk_43 (dk_at dksX7_become_2 17 rfl rfl)
theorem dX7_become_63 : decode cX7_become 63 = .ok (.getfield 66, 3) := dk_180 0 66 (dk_at dksX7_become_2 18 rfl rfl)
theorem dX7_become_66 : decode cX7_become 66 = .ok (.aload_n 0, 1) := dk_42 (dk_at dksX7_become_2 21 rfl rfl)
theorem dX7_become_67 : decode cX7_become 67 = .ok (.getfield 66, 3) := dk_180 0 66 (dk_at dksX7_become_3 0 rfl rfl)
theorem dX7_become_70 : decode cX7_become 70 = .ok (.invokestatic 95, 3) := dk_184 0 95 (dk_at dksX7_become_3 3 rfl rfl)
theorem dX7_become_73 : decode cX7_become 73 = .ok (.aload_n 1, 1) := dk_43 (dk_at dksX7_become_3 6 rfl rfl)
theorem dX7_become_74 : decode cX7_become 74 = .ok (.getfield 69, 3) := dk_180 0 69 (dk_at dksX7_become_3 7 rfl rfl)
theorem dX7_become_77 : decode cX7_become 77 = .ok (.iconst 0, 1) := dk_3 (dk_at dksX7_become_3 10 rfl rfl)
theorem dX7_become_78 : decode cX7_become 78 = .ok (.aload_n 0, 1) := dk_42 (dk_at dksX7_become_3 11 rfl rfl)
theorem dX7_become_79 : decode cX7_become 79 = .ok (.getfield 69, 3) := dk_180 0 69 (dk_at dksX7_become_3 12 rfl rfl)
theorem dX7_become_82 : decode cX7_become 82 = .ok (.iconst 0, 1) := dk_3 (dk_at dksX7_become_3 15 rfl rfl)
theorem dX7_become_83 : decode cX7_become 83 = .ok (.bipush 8, 2) := dk_16 8 (dk_at dksX7_become_3 16 rfl rfl)
theorem dX7_become_85 : decode cX7_become 85 = .ok (.invokestatic 73, 3) := dk_184 0 73 (dk_at dksX7_become_3 18 rfl rfl)
theorem dX7_become_88 : decode cX7_become 88 = .ok (.return_, 1) := dk_177 (dk_at dksX7_become_3 21 rfl rfl)
abbrev cX7_lies : ByteArray := prog_10_method_4_code
def yX7_lies : MethodName := ⟨RX7, "lies", "(LCoatHoles$Cup;)V"⟩
def dkwX7_lies_4 : List UInt8 := [180, 0, 57, 184, 0, 95, 177]
abbrev dktX7_lies_4 : List UInt8 := dkwX7_lies_4 ++ []
def dkwX7_lies_3 : List UInt8 := [42, 180, 0, 48, 184, 0, 95, 43, 180, 0, 54, 42, 180, 0, 54, 184, 0, 95, 43, 180, 0, 57, 42]
abbrev dktX7_lies_3 : List UInt8 := dkwX7_lies_3 ++ dktX7_lies_4
def dkwX7_lies_2 : List UInt8 := [182, 0, 91, 132, 2, 1, 167, 255, 230, 43, 180, 0, 44, 42, 180, 0, 44, 184, 0, 95, 43, 180, 0, 48]
abbrev dktX7_lies_2 : List UInt8 := dkwX7_lies_2 ++ dktX7_lies_3
def dkwX7_lies_1 : List UInt8 := [3, 61, 28, 42, 180, 0, 79, 162, 0, 24, 42, 180, 0, 36, 28, 50, 43, 180, 0, 36, 28, 50]
abbrev dktX7_lies_1 : List UInt8 := dkwX7_lies_1 ++ dktX7_lies_2
def dkwX7_lies_0 : List UInt8 := [42, 43, 180, 0, 79, 181, 0, 79, 42, 43, 180, 0, 85, 181, 0, 85, 42, 43, 180, 0, 88, 181, 0, 88]
abbrev dktX7_lies_0 : List UInt8 := dkwX7_lies_0 ++ dktX7_lies_1
theorem dksX7_lies_0 : cX7_lies.data.toList.drop 0 = dktX7_lies_0 := by decide +kernel
theorem dksX7_lies_1 : cX7_lies.data.toList.drop 24 = dktX7_lies_1 := dk_seg dksX7_lies_0 24 rfl rfl
theorem dksX7_lies_2 : cX7_lies.data.toList.drop 46 = dktX7_lies_2 := dk_seg dksX7_lies_1 22 rfl rfl
theorem dksX7_lies_3 : cX7_lies.data.toList.drop 70 = dktX7_lies_3 := dk_seg dksX7_lies_2 24 rfl rfl
theorem dksX7_lies_4 : cX7_lies.data.toList.drop 93 = dktX7_lies_4 := dk_seg dksX7_lies_3 23 rfl rfl
theorem dX7_lies_0 : decode cX7_lies 0 = .ok (.aload_n 0, 1) := dk_42 (dk_at dksX7_lies_0 0 rfl rfl)
theorem dX7_lies_1 : decode cX7_lies 1 = .ok (.aload_n 1, 1) := dk_43 (dk_at dksX7_lies_0 1 rfl rfl)
theorem dX7_lies_2 : decode cX7_lies 2 = .ok (.getfield 79, 3) := dk_180 0 79 (dk_at dksX7_lies_0 2 rfl rfl)
theorem dX7_lies_5 : decode cX7_lies 5 = .ok (.putfield 79, 3) := dk_181 0 79 (dk_at dksX7_lies_0 5 rfl rfl)
theorem dX7_lies_8 : decode cX7_lies 8 = .ok (.aload_n 0, 1) := dk_42 (dk_at dksX7_lies_0 8 rfl rfl)
theorem dX7_lies_9 : decode cX7_lies 9 = .ok (.aload_n 1, 1) := dk_43 (dk_at dksX7_lies_0 9 rfl rfl)
theorem dX7_lies_10 : decode cX7_lies 10 = .ok (.getfield 85, 3) := dk_180 0 85 (dk_at dksX7_lies_0 10 rfl rfl)
theorem dX7_lies_13 : decode cX7_lies 13 = .ok (.putfield 85, 3) := dk_181 0 85 (dk_at dksX7_lies_0 13 rfl rfl)
theorem dX7_lies_16 : decode cX7_lies 16 = .ok (.aload_n 0, 1) := dk_42 (dk_at dksX7_lies_0 16 rfl rfl)
theorem dX7_lies_17 : decode cX7_lies 17 = .ok (.aload_n 1, 1) := dk_43 (dk_at dksX7_lies_0 17 rfl rfl)
theorem dX7_lies_18 : decode cX7_lies 18 = .ok (.getfield 88, 3) := dk_180 0 88 (dk_at dksX7_lies_0 18 rfl rfl)
theorem dX7_lies_21 : decode cX7_lies 21 = .ok (.putfield 88, 3) := dk_181 0 88 (dk_at dksX7_lies_0 21 rfl rfl)
theorem dX7_lies_24 : decode cX7_lies 24 = .ok (.iconst 0, 1) := dk_3 (dk_at dksX7_lies_1 0 rfl rfl)
theorem dX7_lies_25 : decode cX7_lies 25 = .ok (.istore_n 2, 1) := dk_61 (dk_at dksX7_lies_1 1 rfl rfl)
theorem dX7_lies_26 : decode cX7_lies 26 = .ok (.iload_n 2, 1) := dk_28 (dk_at dksX7_lies_1 2 rfl rfl)
theorem dX7_lies_27 : decode cX7_lies 27 = .ok (.aload_n 0, 1) := dk_42 (dk_at dksX7_lies_1 3 rfl rfl)
theorem dX7_lies_28 : decode cX7_lies 28 = .ok (.getfield 79, 3) := dk_180 0 79 (dk_at dksX7_lies_1 4 rfl rfl)
theorem dX7_lies_31 : decode cX7_lies 31 = .ok (.if_icmp .ge 24, 3) := dk_162 0 24 (dk_at dksX7_lies_1 7 rfl rfl)
theorem dX7_lies_34 : decode cX7_lies 34 = .ok (.aload_n 0, 1) := dk_42 (dk_at dksX7_lies_1 10 rfl rfl)
theorem dX7_lies_35 : decode cX7_lies 35 = .ok (.getfield 36, 3) := dk_180 0 36 (dk_at dksX7_lies_1 11 rfl rfl)
theorem dX7_lies_38 : decode cX7_lies 38 = .ok (.iload_n 2, 1) := dk_28 (dk_at dksX7_lies_1 14 rfl rfl)
theorem dX7_lies_39 : decode cX7_lies 39 = .ok (.aaload, 1) := dk_50 (dk_at dksX7_lies_1 15 rfl rfl)
theorem dX7_lies_40 : decode cX7_lies 40 = .ok (.aload_n 1, 1) := dk_43 (dk_at dksX7_lies_1 16 rfl rfl)
theorem dX7_lies_41 : decode cX7_lies 41 = .ok (.getfield 36, 3) := dk_180 0 36 (dk_at dksX7_lies_1 17 rfl rfl)
theorem dX7_lies_44 : decode cX7_lies 44 = .ok (.iload_n 2, 1) := dk_28 (dk_at dksX7_lies_1 20 rfl rfl)
theorem dX7_lies_45 : decode cX7_lies 45 = .ok (.aaload, 1) := dk_50 (dk_at dksX7_lies_1 21 rfl rfl)
theorem dX7_lies_46 : decode cX7_lies 46 = .ok (.invokevirtual 91, 3) := dk_182 0 91 (dk_at dksX7_lies_2 0 rfl rfl)
theorem dX7_lies_49 : decode cX7_lies 49 = .ok (.iinc 2 1, 3) := dk_132 2 1 (dk_at dksX7_lies_2 3 rfl rfl)
theorem dX7_lies_52 : decode cX7_lies 52 = .ok (.goto (-26), 3) := dk_167 255 230 (dk_at dksX7_lies_2 6 rfl rfl)
theorem dX7_lies_55 : decode cX7_lies 55 = .ok (.aload_n 1, 1) := dk_43 (dk_at dksX7_lies_2 9 rfl rfl)
theorem dX7_lies_56 : decode cX7_lies 56 = .ok (.getfield 44, 3) := dk_180 0 44 (dk_at dksX7_lies_2 10 rfl rfl)
theorem dX7_lies_59 : decode cX7_lies 59 = .ok (.aload_n 0, 1) := dk_42 (dk_at dksX7_lies_2 13 rfl rfl)
theorem dX7_lies_60 : decode cX7_lies 60 = .ok (.getfield 44, 3) := dk_180 0 44 (dk_at dksX7_lies_2 14 rfl rfl)
theorem dX7_lies_63 : decode cX7_lies 63 = .ok (.invokestatic 95, 3) := dk_184 0 95 (dk_at dksX7_lies_2 17 rfl rfl)
theorem dX7_lies_66 : decode cX7_lies 66 = .ok (.aload_n 1, 1) := dk_43 (dk_at dksX7_lies_2 20 rfl rfl)
theorem dX7_lies_67 : decode cX7_lies 67 = .ok (.getfield 48, 3) := dk_180 0 48 (dk_at dksX7_lies_2 21 rfl rfl)
theorem dX7_lies_70 : decode cX7_lies 70 = .ok (.aload_n 0, 1) := dk_42 (dk_at dksX7_lies_3 0 rfl rfl)
theorem dX7_lies_71 : decode cX7_lies 71 = .ok (.getfield 48, 3) := dk_180 0 48 (dk_at dksX7_lies_3 1 rfl rfl)
theorem dX7_lies_74 : decode cX7_lies 74 = .ok (.invokestatic 95, 3) := dk_184 0 95 (dk_at dksX7_lies_3 4 rfl rfl)
theorem dX7_lies_77 : decode cX7_lies 77 = .ok (.aload_n 1, 1) := dk_43 (dk_at dksX7_lies_3 7 rfl rfl)
theorem dX7_lies_78 : decode cX7_lies 78 = .ok (.getfield 54, 3) := dk_180 0 54 (dk_at dksX7_lies_3 8 rfl rfl)
theorem dX7_lies_81 : decode cX7_lies 81 = .ok (.aload_n 0, 1) := dk_42 (dk_at dksX7_lies_3 11 rfl rfl)
theorem dX7_lies_82 : decode cX7_lies 82 = .ok (.getfield 54, 3) := dk_180 0 54 (dk_at dksX7_lies_3 12 rfl rfl)
theorem dX7_lies_85 : decode cX7_lies 85 = .ok (.invokestatic 95, 3) := dk_184 0 95 (dk_at dksX7_lies_3 15 rfl rfl)
theorem dX7_lies_88 : decode cX7_lies 88 = .ok (.aload_n 1, 1) := dk_43 (dk_at dksX7_lies_3 18 rfl rfl)
theorem dX7_lies_89 : decode cX7_lies 89 = .ok (.getfield 57, 3) := dk_180 0 57 (dk_at dksX7_lies_3 19 rfl rfl)
theorem dX7_lies_92 : decode cX7_lies 92 = .ok (.aload_n 0, 1) := dk_42 (dk_at dksX7_lies_3 22 rfl rfl)
theorem dX7_lies_93 : decode cX7_lies 93 = .ok (.getfield 57, 3) := dk_180 0 57 (dk_at dksX7_lies_4 0 rfl rfl)
theorem dX7_lies_96 : decode cX7_lies 96 = .ok (.invokestatic 95, 3) := dk_184 0 95 (dk_at dksX7_lies_4 3 rfl rfl)
theorem dX7_lies_99 : decode cX7_lies 99 = .ok (.return_, 1) := dk_177 (dk_at dksX7_lies_4 6 rfl rfl)
abbrev cX7_copy : ByteArray := prog_10_method_2_code
def yX7_copy : MethodName := ⟨RX7, "copy", "([I[I)V"⟩
def dkwX7_copy_0 : List UInt8 := [42, 3, 43, 3, 43, 190, 184, 0, 73, 177]
abbrev dktX7_copy_0 : List UInt8 := dkwX7_copy_0 ++ []
theorem dksX7_copy_0 : cX7_copy.data.toList.drop 0 = dktX7_copy_0 := by decide +kernel
theorem dX7_copy_0 : decode cX7_copy 0 = .ok (.aload_n 0, 1) := dk_42 (dk_at dksX7_copy_0 0 rfl rfl)
theorem dX7_copy_1 : decode cX7_copy 1 = .ok (.iconst 0, 1) := dk_3 (dk_at dksX7_copy_0 1 rfl rfl)
theorem dX7_copy_2 : decode cX7_copy 2 = .ok (.aload_n 1, 1) := dk_43 (dk_at dksX7_copy_0 2 rfl rfl)
theorem dX7_copy_3 : decode cX7_copy 3 = .ok (.iconst 0, 1) := dk_3 (dk_at dksX7_copy_0 3 rfl rfl)
theorem dX7_copy_4 : decode cX7_copy 4 = .ok (.aload_n 1, 1) := dk_43 (dk_at dksX7_copy_0 4 rfl rfl)
theorem dX7_copy_5 : decode cX7_copy 5 = .ok (.arraylength, 1) := dk_190 (dk_at dksX7_copy_0 5 rfl rfl)
theorem dX7_copy_6 : decode cX7_copy 6 = .ok (.invokestatic 73, 3) := dk_184 0 73 (dk_at dksX7_copy_0 6 rfl rfl)
theorem dX7_copy_9 : decode cX7_copy 9 = .ok (.return_, 1) := dk_177 (dk_at dksX7_copy_0 9 rfl rfl)
abbrev cX7_begins : ByteArray := prog_10_method_3_code
def yX7_begins : MethodName := ⟨RX7, "begins", "()V"⟩
def dkwX7_begins_1 : List UInt8 := [162, 0, 23, 42, 180, 0, 44, 27, 3, 79, 42, 180, 0, 48, 27, 3, 79, 132, 1, 1, 167, 255, 234, 177]
abbrev dktX7_begins_1 : List UInt8 := dkwX7_begins_1 ++ []
def dkwX7_begins_0 : List UInt8 := [42, 3, 181, 0, 79, 42, 3, 181, 0, 82, 42, 3, 181, 0, 85, 42, 3, 181, 0, 88, 3, 60, 27, 7]
abbrev dktX7_begins_0 : List UInt8 := dkwX7_begins_0 ++ dktX7_begins_1
theorem dksX7_begins_0 : cX7_begins.data.toList.drop 0 = dktX7_begins_0 := by decide +kernel
theorem dksX7_begins_1 : cX7_begins.data.toList.drop 24 = dktX7_begins_1 := dk_seg dksX7_begins_0 24 rfl rfl
theorem dX7_begins_0 : decode cX7_begins 0 = .ok (.aload_n 0, 1) := dk_42 (dk_at dksX7_begins_0 0 rfl rfl)
theorem dX7_begins_1 : decode cX7_begins 1 = .ok (.iconst 0, 1) := dk_3 (dk_at dksX7_begins_0 1 rfl rfl)
theorem dX7_begins_2 : decode cX7_begins 2 = .ok (.putfield 79, 3) := dk_181 0 79 (dk_at dksX7_begins_0 2 rfl rfl)
theorem dX7_begins_5 : decode cX7_begins 5 = .ok (.aload_n 0, 1) := dk_42 (dk_at dksX7_begins_0 5 rfl rfl)
theorem dX7_begins_6 : decode cX7_begins 6 = .ok (.iconst 0, 1) := dk_3 (dk_at dksX7_begins_0 6 rfl rfl)
theorem dX7_begins_7 : decode cX7_begins 7 = .ok (.putfield 82, 3) := dk_181 0 82 (dk_at dksX7_begins_0 7 rfl rfl)
theorem dX7_begins_10 : decode cX7_begins 10 = .ok (.aload_n 0, 1) := dk_42 (dk_at dksX7_begins_0 10 rfl rfl)
theorem dX7_begins_11 : decode cX7_begins 11 = .ok (.iconst 0, 1) := dk_3 (dk_at dksX7_begins_0 11 rfl rfl)
theorem dX7_begins_12 : decode cX7_begins 12 = .ok (.putfield 85, 3) := dk_181 0 85 (dk_at dksX7_begins_0 12 rfl rfl)
theorem dX7_begins_15 : decode cX7_begins 15 = .ok (.aload_n 0, 1) := dk_42 (dk_at dksX7_begins_0 15 rfl rfl)
theorem dX7_begins_16 : decode cX7_begins 16 = .ok (.iconst 0, 1) := dk_3 (dk_at dksX7_begins_0 16 rfl rfl)
theorem dX7_begins_17 : decode cX7_begins 17 = .ok (.putfield 88, 3) := dk_181 0 88 (dk_at dksX7_begins_0 17 rfl rfl)
theorem dX7_begins_20 : decode cX7_begins 20 = .ok (.iconst 0, 1) := dk_3 (dk_at dksX7_begins_0 20 rfl rfl)
theorem dX7_begins_21 : decode cX7_begins 21 = .ok (.istore_n 1, 1) := dk_60 (dk_at dksX7_begins_0 21 rfl rfl)
theorem dX7_begins_22 : decode cX7_begins 22 = .ok (.iload_n 1, 1) := dk_27 (dk_at dksX7_begins_0 22 rfl rfl)
theorem dX7_begins_23 : decode cX7_begins 23 = .ok (.iconst 4, 1) := dk_7 (dk_at dksX7_begins_0 23 rfl rfl)
theorem dX7_begins_24 : decode cX7_begins 24 = .ok (.if_icmp .ge 23, 3) := dk_162 0 23 (dk_at dksX7_begins_1 0 rfl rfl)
theorem dX7_begins_27 : decode cX7_begins 27 = .ok (.aload_n 0, 1) := dk_42 (dk_at dksX7_begins_1 3 rfl rfl)
theorem dX7_begins_28 : decode cX7_begins 28 = .ok (.getfield 44, 3) := dk_180 0 44 (dk_at dksX7_begins_1 4 rfl rfl)
theorem dX7_begins_31 : decode cX7_begins 31 = .ok (.iload_n 1, 1) := dk_27 (dk_at dksX7_begins_1 7 rfl rfl)
theorem dX7_begins_32 : decode cX7_begins 32 = .ok (.iconst 0, 1) := dk_3 (dk_at dksX7_begins_1 8 rfl rfl)
theorem dX7_begins_33 : decode cX7_begins 33 = .ok (.iastore, 1) := dk_79 (dk_at dksX7_begins_1 9 rfl rfl)
theorem dX7_begins_34 : decode cX7_begins 34 = .ok (.aload_n 0, 1) := dk_42 (dk_at dksX7_begins_1 10 rfl rfl)
theorem dX7_begins_35 : decode cX7_begins 35 = .ok (.getfield 48, 3) := dk_180 0 48 (dk_at dksX7_begins_1 11 rfl rfl)
theorem dX7_begins_38 : decode cX7_begins 38 = .ok (.iload_n 1, 1) := dk_27 (dk_at dksX7_begins_1 14 rfl rfl)
theorem dX7_begins_39 : decode cX7_begins 39 = .ok (.iconst 0, 1) := dk_3 (dk_at dksX7_begins_1 15 rfl rfl)
theorem dX7_begins_40 : decode cX7_begins 40 = .ok (.iastore, 1) := dk_79 (dk_at dksX7_begins_1 16 rfl rfl)
theorem dX7_begins_41 : decode cX7_begins 41 = .ok (.iinc 1 1, 3) := dk_132 1 1 (dk_at dksX7_begins_1 17 rfl rfl)
theorem dX7_begins_44 : decode cX7_begins 44 = .ok (.goto (-22), 3) := dk_167 255 234 (dk_at dksX7_begins_1 20 rfl rfl)
theorem dX7_begins_47 : decode cX7_begins 47 = .ok (.return_, 1) := dk_177 (dk_at dksX7_begins_1 23 rfl rfl)
abbrev cX7_add : ByteArray := prog_10_method_6_code
def yX7_add : MethodName := ⟨RX7, "add", "(IIII)I"⟩
def dkwX7_add_1 : List UInt8 := [181, 0, 79, 42, 180, 0, 79, 4, 100, 172]
abbrev dktX7_add_1 : List UInt8 := dkwX7_add_1 ++ []
def dkwX7_add_0 : List UInt8 := [42, 180, 0, 36, 42, 180, 0, 79, 50, 27, 28, 29, 21, 4, 182, 0, 106, 42, 89, 180, 0, 79, 4, 96]
abbrev dktX7_add_0 : List UInt8 := dkwX7_add_0 ++ dktX7_add_1
theorem dksX7_add_0 : cX7_add.data.toList.drop 0 = dktX7_add_0 := by decide +kernel
theorem dksX7_add_1 : cX7_add.data.toList.drop 24 = dktX7_add_1 := dk_seg dksX7_add_0 24 rfl rfl
theorem dX7_add_0 : decode cX7_add 0 = .ok (.aload_n 0, 1) := dk_42 (dk_at dksX7_add_0 0 rfl rfl)
theorem dX7_add_1 : decode cX7_add 1 = .ok (.getfield 36, 3) := dk_180 0 36 (dk_at dksX7_add_0 1 rfl rfl)
theorem dX7_add_4 : decode cX7_add 4 = .ok (.aload_n 0, 1) := dk_42 (dk_at dksX7_add_0 4 rfl rfl)
theorem dX7_add_5 : decode cX7_add 5 = .ok (.getfield 79, 3) := dk_180 0 79 (dk_at dksX7_add_0 5 rfl rfl)
theorem dX7_add_8 : decode cX7_add 8 = .ok (.aaload, 1) := dk_50 (dk_at dksX7_add_0 8 rfl rfl)
theorem dX7_add_9 : decode cX7_add 9 = .ok (.iload_n 1, 1) := dk_27 (dk_at dksX7_add_0 9 rfl rfl)
theorem dX7_add_10 : decode cX7_add 10 = .ok (.iload_n 2, 1) := dk_28 (dk_at dksX7_add_0 10 rfl rfl)
theorem dX7_add_11 : decode cX7_add 11 = .ok (.iload_n 3, 1) := dk_29 (dk_at dksX7_add_0 11 rfl rfl)
theorem dX7_add_12 : decode cX7_add 12 = .ok (.iload 4, 2) := dk_21 4 (dk_at dksX7_add_0 12 rfl rfl)
theorem dX7_add_14 : decode cX7_add 14 = .ok (.invokevirtual 106, 3) := dk_182 0 106 (dk_at dksX7_add_0 14 rfl rfl)
theorem dX7_add_17 : decode cX7_add 17 = .ok (.aload_n 0, 1) := dk_42 (dk_at dksX7_add_0 17 rfl rfl)
theorem dX7_add_18 : decode cX7_add 18 = .ok (.dup, 1) := dk_89 (dk_at dksX7_add_0 18 rfl rfl)
theorem dX7_add_19 : decode cX7_add 19 = .ok (.getfield 79, 3) := dk_180 0 79 (dk_at dksX7_add_0 19 rfl rfl)
theorem dX7_add_22 : decode cX7_add 22 = .ok (.iconst 1, 1) := dk_4 (dk_at dksX7_add_0 22 rfl rfl)
theorem dX7_add_23 : decode cX7_add 23 = .ok (.iadd, 1) := dk_96 (dk_at dksX7_add_0 23 rfl rfl)
theorem dX7_add_24 : decode cX7_add 24 = .ok (.putfield 79, 3) := dk_181 0 79 (dk_at dksX7_add_1 0 rfl rfl)
theorem dX7_add_27 : decode cX7_add 27 = .ok (.aload_n 0, 1) := dk_42 (dk_at dksX7_add_1 3 rfl rfl)
theorem dX7_add_28 : decode cX7_add 28 = .ok (.getfield 79, 3) := dk_180 0 79 (dk_at dksX7_add_1 4 rfl rfl)
theorem dX7_add_31 : decode cX7_add 31 = .ok (.iconst 1, 1) := dk_4 (dk_at dksX7_add_1 7 rfl rfl)
theorem dX7_add_32 : decode cX7_add 32 = .ok (.isub, 1) := dk_100 (dk_at dksX7_add_1 8 rfl rfl)
theorem dX7_add_33 : decode cX7_add 33 = .ok (.ireturn, 1) := dk_172 (dk_at dksX7_add_1 9 rfl rfl)
abbrev cX7_taste : ByteArray := prog_10_method_7_code
def yX7_taste : MethodName := ⟨RX7, "taste", "(I)I"⟩
def dkwX7_taste_1 : List UInt8 := [182, 0, 116, 172]
abbrev dktX7_taste_1 : List UInt8 := dkwX7_taste_1 ++ []
def dkwX7_taste_0 : List UInt8 := [42, 180, 0, 27, 42, 180, 0, 36, 27, 50, 180, 0, 110, 50, 42, 180, 0, 36, 27, 50, 180, 0, 113]
abbrev dktX7_taste_0 : List UInt8 := dkwX7_taste_0 ++ dktX7_taste_1
theorem dksX7_taste_0 : cX7_taste.data.toList.drop 0 = dktX7_taste_0 := by decide +kernel
theorem dksX7_taste_1 : cX7_taste.data.toList.drop 23 = dktX7_taste_1 := dk_seg dksX7_taste_0 23 rfl rfl
theorem dX7_taste_0 : decode cX7_taste 0 = .ok (.aload_n 0, 1) := dk_42 (dk_at dksX7_taste_0 0 rfl rfl)
theorem dX7_taste_1 : decode cX7_taste 1 = .ok (.getfield 27, 3) := dk_180 0 27 (dk_at dksX7_taste_0 1 rfl rfl)
theorem dX7_taste_4 : decode cX7_taste 4 = .ok (.aload_n 0, 1) := dk_42 (dk_at dksX7_taste_0 4 rfl rfl)
theorem dX7_taste_5 : decode cX7_taste 5 = .ok (.getfield 36, 3) := dk_180 0 36 (dk_at dksX7_taste_0 5 rfl rfl)
theorem dX7_taste_8 : decode cX7_taste 8 = .ok (.iload_n 1, 1) := dk_27 (dk_at dksX7_taste_0 8 rfl rfl)
theorem dX7_taste_9 : decode cX7_taste 9 = .ok (.aaload, 1) := dk_50 (dk_at dksX7_taste_0 9 rfl rfl)
theorem dX7_taste_10 : decode cX7_taste 10 = .ok (.getfield 110, 3) := dk_180 0 110 (dk_at dksX7_taste_0 10 rfl rfl)
theorem dX7_taste_13 : decode cX7_taste 13 = .ok (.aaload, 1) := dk_50 (dk_at dksX7_taste_0 13 rfl rfl)
theorem dX7_taste_14 : decode cX7_taste 14 = .ok (.aload_n 0, 1) := dk_42 (dk_at dksX7_taste_0 14 rfl rfl)
theorem dX7_taste_15 : decode cX7_taste 15 = .ok (.getfield 36, 3) := dk_180 0 36 (dk_at dksX7_taste_0 15 rfl rfl)
theorem dX7_taste_18 : decode cX7_taste 18 = .ok (.iload_n 1, 1) := dk_27 (dk_at dksX7_taste_0 18 rfl rfl)
theorem dX7_taste_19 : decode cX7_taste 19 = .ok (.aaload, 1) := dk_50 (dk_at dksX7_taste_0 19 rfl rfl)
theorem dX7_taste_20 : decode cX7_taste 20 = .ok (.getfield 113, 3) := dk_180 0 113 (dk_at dksX7_taste_0 20 rfl rfl)
theorem dX7_taste_23 : decode cX7_taste 23 = .ok (.invokevirtual 116, 3) := dk_182 0 116 (dk_at dksX7_taste_1 0 rfl rfl)
theorem dX7_taste_26 : decode cX7_taste 26 = .ok (.ireturn, 1) := dk_172 (dk_at dksX7_taste_1 3 rfl rfl)
abbrev cX7_liking : ByteArray := prog_10_method_8_code
def yX7_liking : MethodName := ⟨RX7, "liking", "(I)I"⟩
def dkwX7_liking_1 : List UInt8 := [6, 42, 27, 182, 0, 120, 104, 42, 180, 0, 36, 27, 50, 180, 0, 113, 96, 172]
abbrev dktX7_liking_1 : List UInt8 := dkwX7_liking_1 ++ []
def dkwX7_liking_0 : List UInt8 := [42, 27, 182, 0, 120, 153, 0, 15, 42, 180, 0, 36, 27, 50, 180, 0, 121, 153, 0, 7, 3, 167, 0, 20]
abbrev dktX7_liking_0 : List UInt8 := dkwX7_liking_0 ++ dktX7_liking_1
theorem dksX7_liking_0 : cX7_liking.data.toList.drop 0 = dktX7_liking_0 := by decide +kernel
theorem dksX7_liking_1 : cX7_liking.data.toList.drop 24 = dktX7_liking_1 := dk_seg dksX7_liking_0 24 rfl rfl
theorem dX7_liking_0 : decode cX7_liking 0 = .ok (.aload_n 0, 1) := dk_42 (dk_at dksX7_liking_0 0 rfl rfl)
theorem dX7_liking_1 : decode cX7_liking 1 = .ok (.iload_n 1, 1) := dk_27 (dk_at dksX7_liking_0 1 rfl rfl)
theorem dX7_liking_2 : decode cX7_liking 2 = .ok (.invokevirtual 120, 3) := dk_182 0 120 (dk_at dksX7_liking_0 2 rfl rfl)
theorem dX7_liking_5 : decode cX7_liking 5 = .ok (.ifCond .eq 15, 3) := dk_153 0 15 (dk_at dksX7_liking_0 5 rfl rfl)
theorem dX7_liking_8 : decode cX7_liking 8 = .ok (.aload_n 0, 1) := dk_42 (dk_at dksX7_liking_0 8 rfl rfl)
theorem dX7_liking_9 : decode cX7_liking 9 = .ok (.getfield 36, 3) := dk_180 0 36 (dk_at dksX7_liking_0 9 rfl rfl)
theorem dX7_liking_12 : decode cX7_liking 12 = .ok (.iload_n 1, 1) := dk_27 (dk_at dksX7_liking_0 12 rfl rfl)
theorem dX7_liking_13 : decode cX7_liking 13 = .ok (.aaload, 1) := dk_50 (dk_at dksX7_liking_0 13 rfl rfl)
theorem dX7_liking_14 : decode cX7_liking 14 = .ok (.getfield 121, 3) := dk_180 0 121 (dk_at dksX7_liking_0 14 rfl rfl)
theorem dX7_liking_17 : decode cX7_liking 17 = .ok (.ifCond .eq 7, 3) := dk_153 0 7 (dk_at dksX7_liking_0 17 rfl rfl)
theorem dX7_liking_20 : decode cX7_liking 20 = .ok (.iconst 0, 1) := dk_3 (dk_at dksX7_liking_0 20 rfl rfl)
theorem dX7_liking_21 : decode cX7_liking 21 = .ok (.goto 20, 3) := dk_167 0 20 (dk_at dksX7_liking_0 21 rfl rfl)
theorem dX7_liking_24 : decode cX7_liking 24 = .ok (.iconst 3, 1) := dk_6 (dk_at dksX7_liking_1 0 rfl rfl)
theorem dX7_liking_25 : decode cX7_liking 25 = .ok (.aload_n 0, 1) := dk_42 (dk_at dksX7_liking_1 1 rfl rfl)
theorem dX7_liking_26 : decode cX7_liking 26 = .ok (.iload_n 1, 1) := dk_27 (dk_at dksX7_liking_1 2 rfl rfl)
theorem dX7_liking_27 : decode cX7_liking 27 = .ok (.invokevirtual 120, 3) := dk_182 0 120 (dk_at dksX7_liking_1 3 rfl rfl)
theorem dX7_liking_30 : decode cX7_liking 30 = .ok (.imul, 1) := dk_104 (dk_at dksX7_liking_1 6 rfl rfl)
theorem dX7_liking_31 : decode cX7_liking 31 = .ok (.aload_n 0, 1) := dk_42 (dk_at dksX7_liking_1 7 rfl rfl)
theorem dX7_liking_32 : decode cX7_liking 32 = .ok (.getfield 36, 3) := dk_180 0 36 (dk_at dksX7_liking_1 8 rfl rfl)
theorem dX7_liking_35 : decode cX7_liking 35 = .ok (.iload_n 1, 1) := dk_27 (dk_at dksX7_liking_1 11 rfl rfl)
theorem dX7_liking_36 : decode cX7_liking 36 = .ok (.aaload, 1) := dk_50 (dk_at dksX7_liking_1 12 rfl rfl)
theorem dX7_liking_37 : decode cX7_liking 37 = .ok (.getfield 113, 3) := dk_180 0 113 (dk_at dksX7_liking_1 13 rfl rfl)
theorem dX7_liking_40 : decode cX7_liking 40 = .ok (.iadd, 1) := dk_96 (dk_at dksX7_liking_1 16 rfl rfl)
theorem dX7_liking_41 : decode cX7_liking 41 = .ok (.ireturn, 1) := dk_172 (dk_at dksX7_liking_1 17 rfl rfl)
abbrev cX7_goes : ByteArray := prog_10_method_16_code
def yX7_goes : MethodName := ⟨RX7, "goes", "()V"⟩
def dkwX7_goes_2 : List UInt8 := [181, 0, 85, 177]
abbrev dktX7_goes_2 : List UInt8 := dkwX7_goes_2 ++ []
def dkwX7_goes_1 : List UInt8 := [180, 0, 79, 162, 0, 14, 42, 27, 182, 0, 178, 132, 1, 1, 167, 255, 240, 42, 89, 180, 0, 85, 4, 96]
abbrev dktX7_goes_1 : List UInt8 := dkwX7_goes_1 ++ dktX7_goes_2
def dkwX7_goes_0 : List UInt8 := [3, 60, 27, 7, 162, 0, 14, 42, 27, 182, 0, 175, 132, 1, 1, 167, 255, 243, 3, 60, 27, 42]
abbrev dktX7_goes_0 : List UInt8 := dkwX7_goes_0 ++ dktX7_goes_1
theorem dksX7_goes_0 : cX7_goes.data.toList.drop 0 = dktX7_goes_0 := by decide +kernel
theorem dksX7_goes_1 : cX7_goes.data.toList.drop 22 = dktX7_goes_1 := dk_seg dksX7_goes_0 22 rfl rfl
theorem dksX7_goes_2 : cX7_goes.data.toList.drop 46 = dktX7_goes_2 := dk_seg dksX7_goes_1 24 rfl rfl
theorem dX7_goes_0 : decode cX7_goes 0 = .ok (.iconst 0, 1) := dk_3 (dk_at dksX7_goes_0 0 rfl rfl)
theorem dX7_goes_1 : decode cX7_goes 1 = .ok (.istore_n 1, 1) := dk_60 (dk_at dksX7_goes_0 1 rfl rfl)
theorem dX7_goes_2 : decode cX7_goes 2 = .ok (.iload_n 1, 1) := dk_27 (dk_at dksX7_goes_0 2 rfl rfl)
theorem dX7_goes_3 : decode cX7_goes 3 = .ok (.iconst 4, 1) := dk_7 (dk_at dksX7_goes_0 3 rfl rfl)
theorem dX7_goes_4 : decode cX7_goes 4 = .ok (.if_icmp .ge 14, 3) := dk_162 0 14 (dk_at dksX7_goes_0 4 rfl rfl)
theorem dX7_goes_7 : decode cX7_goes 7 = .ok (.aload_n 0, 1) := dk_42 (dk_at dksX7_goes_0 7 rfl rfl)
theorem dX7_goes_8 : decode cX7_goes 8 = .ok (.iload_n 1, 1) := dk_27 (dk_at dksX7_goes_0 8 rfl rfl)
theorem dX7_goes_9 : decode cX7_goes 9 = .ok (.invokevirtual 175, 3) := dk_182 0 175 (dk_at dksX7_goes_0 9 rfl rfl)
theorem dX7_goes_12 : decode cX7_goes 12 = .ok (.iinc 1 1, 3) := dk_132 1 1 (dk_at dksX7_goes_0 12 rfl rfl)
theorem dX7_goes_15 : decode cX7_goes 15 = .ok (.goto (-13), 3) := dk_167 255 243 (dk_at dksX7_goes_0 15 rfl rfl)
theorem dX7_goes_18 : decode cX7_goes 18 = .ok (.iconst 0, 1) := dk_3 (dk_at dksX7_goes_0 18 rfl rfl)
theorem dX7_goes_19 : decode cX7_goes 19 = .ok (.istore_n 1, 1) := dk_60 (dk_at dksX7_goes_0 19 rfl rfl)
theorem dX7_goes_20 : decode cX7_goes 20 = .ok (.iload_n 1, 1) := dk_27 (dk_at dksX7_goes_0 20 rfl rfl)
theorem dX7_goes_21 : decode cX7_goes 21 = .ok (.aload_n 0, 1) := dk_42 (dk_at dksX7_goes_0 21 rfl rfl)
theorem dX7_goes_22 : decode cX7_goes 22 = .ok (.getfield 79, 3) := dk_180 0 79 (dk_at dksX7_goes_1 0 rfl rfl)
theorem dX7_goes_25 : decode cX7_goes 25 = .ok (.if_icmp .ge 14, 3) := dk_162 0 14 (dk_at dksX7_goes_1 3 rfl rfl)
theorem dX7_goes_28 : decode cX7_goes 28 = .ok (.aload_n 0, 1) := dk_42 (dk_at dksX7_goes_1 6 rfl rfl)
theorem dX7_goes_29 : decode cX7_goes 29 = .ok (.iload_n 1, 1) := dk_27 (dk_at dksX7_goes_1 7 rfl rfl)
theorem dX7_goes_30 : decode cX7_goes 30 = .ok (.invokevirtual 178, 3) := dk_182 0 178 (dk_at dksX7_goes_1 8 rfl rfl)
theorem dX7_goes_33 : decode cX7_goes 33 = .ok (.iinc 1 1, 3) := dk_132 1 1 (dk_at dksX7_goes_1 11 rfl rfl)
theorem dX7_goes_36 : decode cX7_goes 36 = .ok (.goto (-16), 3) := dk_167 255 240 (dk_at dksX7_goes_1 14 rfl rfl)
theorem dX7_goes_39 : decode cX7_goes 39 = .ok (.aload_n 0, 1) := dk_42 (dk_at dksX7_goes_1 17 rfl rfl)
theorem dX7_goes_40 : decode cX7_goes 40 = .ok (.dup, 1) := dk_89 (dk_at dksX7_goes_1 18 rfl rfl)
theorem dX7_goes_41 : decode cX7_goes 41 = .ok (.getfield 85, 3) := dk_180 0 85 (dk_at dksX7_goes_1 19 rfl rfl)
theorem dX7_goes_44 : decode cX7_goes 44 = .ok (.iconst 1, 1) := dk_4 (dk_at dksX7_goes_1 22 rfl rfl)
theorem dX7_goes_45 : decode cX7_goes 45 = .ok (.iadd, 1) := dk_96 (dk_at dksX7_goes_1 23 rfl rfl)
theorem dX7_goes_46 : decode cX7_goes 46 = .ok (.putfield 85, 3) := dk_181 0 85 (dk_at dksX7_goes_2 0 rfl rfl)
theorem dX7_goes_49 : decode cX7_goes 49 = .ok (.return_, 1) := dk_177 (dk_at dksX7_goes_2 3 rfl rfl)
abbrev cX7_flies : ByteArray := prog_10_method_13_code
def yX7_flies : MethodName := ⟨RX7, "flies", "(I)V"⟩
def dkwX7_flies_1 : List UInt8 := [27, 92, 46, 28, 96, 79, 42, 180, 0, 44, 27, 92, 46, 28, 100, 79, 42, 27, 182, 0, 155, 177]
abbrev dktX7_flies_1 : List UInt8 := dkwX7_flies_1 ++ []
def dkwX7_flies_0 : List UInt8 := [42, 180, 0, 88, 27, 184, 0, 151, 153, 0, 32, 42, 180, 0, 44, 27, 46, 5, 108, 61, 42, 180, 0, 48]
abbrev dktX7_flies_0 : List UInt8 := dkwX7_flies_0 ++ dktX7_flies_1
theorem dksX7_flies_0 : cX7_flies.data.toList.drop 0 = dktX7_flies_0 := by decide +kernel
theorem dksX7_flies_1 : cX7_flies.data.toList.drop 24 = dktX7_flies_1 := dk_seg dksX7_flies_0 24 rfl rfl
theorem dX7_flies_0 : decode cX7_flies 0 = .ok (.aload_n 0, 1) := dk_42 (dk_at dksX7_flies_0 0 rfl rfl)
theorem dX7_flies_1 : decode cX7_flies 1 = .ok (.getfield 88, 3) := dk_180 0 88 (dk_at dksX7_flies_0 1 rfl rfl)
theorem dX7_flies_4 : decode cX7_flies 4 = .ok (.iload_n 1, 1) := dk_27 (dk_at dksX7_flies_0 4 rfl rfl)
theorem dX7_flies_5 : decode cX7_flies 5 = .ok (.invokestatic 151, 3) := dk_184 0 151 (dk_at dksX7_flies_0 5 rfl rfl)
theorem dX7_flies_8 : decode cX7_flies 8 = .ok (.ifCond .eq 32, 3) := dk_153 0 32 (dk_at dksX7_flies_0 8 rfl rfl)
theorem dX7_flies_11 : decode cX7_flies 11 = .ok (.aload_n 0, 1) := dk_42 (dk_at dksX7_flies_0 11 rfl rfl)
theorem dX7_flies_12 : decode cX7_flies 12 = .ok (.getfield 44, 3) := dk_180 0 44 (dk_at dksX7_flies_0 12 rfl rfl)
theorem dX7_flies_15 : decode cX7_flies 15 = .ok (.iload_n 1, 1) := dk_27 (dk_at dksX7_flies_0 15 rfl rfl)
theorem dX7_flies_16 : decode cX7_flies 16 = .ok (.iaload, 1) := dk_46 (dk_at dksX7_flies_0 16 rfl rfl)
theorem dX7_flies_17 : decode cX7_flies 17 = .ok (.iconst 2, 1) := dk_5 (dk_at dksX7_flies_0 17 rfl rfl)
theorem dX7_flies_18 : decode cX7_flies 18 = .ok (.idiv, 1) := dk_108 (dk_at dksX7_flies_0 18 rfl rfl)
theorem dX7_flies_19 : decode cX7_flies 19 = .ok (.istore_n 2, 1) := dk_61 (dk_at dksX7_flies_0 19 rfl rfl)
theorem dX7_flies_20 : decode cX7_flies 20 = .ok (.aload_n 0, 1) := dk_42 (dk_at dksX7_flies_0 20 rfl rfl)
theorem dX7_flies_21 : decode cX7_flies 21 = .ok (.getfield 48, 3) := dk_180 0 48 (dk_at dksX7_flies_0 21 rfl rfl)
theorem dX7_flies_24 : decode cX7_flies 24 = .ok (.iload_n 1, 1) := dk_27 (dk_at dksX7_flies_1 0 rfl rfl)
theorem dX7_flies_25 : decode cX7_flies 25 = .ok (.dup2, 1) := dk_92 (dk_at dksX7_flies_1 1 rfl rfl)
theorem dX7_flies_26 : decode cX7_flies 26 = .ok (.iaload, 1) := dk_46 (dk_at dksX7_flies_1 2 rfl rfl)
theorem dX7_flies_27 : decode cX7_flies 27 = .ok (.iload_n 2, 1) := dk_28 (dk_at dksX7_flies_1 3 rfl rfl)
theorem dX7_flies_28 : decode cX7_flies 28 = .ok (.iadd, 1) := dk_96 (dk_at dksX7_flies_1 4 rfl rfl)
theorem dX7_flies_29 : decode cX7_flies 29 = .ok (.iastore, 1) := dk_79 (dk_at dksX7_flies_1 5 rfl rfl)
theorem dX7_flies_30 : decode cX7_flies 30 = .ok (.aload_n 0, 1) := dk_42 (dk_at dksX7_flies_1 6 rfl rfl)
theorem dX7_flies_31 : decode cX7_flies 31 = .ok (.getfield 44, 3) := dk_180 0 44 (dk_at dksX7_flies_1 7 rfl rfl)
theorem dX7_flies_34 : decode cX7_flies 34 = .ok (.iload_n 1, 1) := dk_27 (dk_at dksX7_flies_1 10 rfl rfl)
theorem dX7_flies_35 : decode cX7_flies 35 = .ok (.dup2, 1) := dk_92 (dk_at dksX7_flies_1 11 rfl rfl)
theorem dX7_flies_36 : decode cX7_flies 36 = .ok (.iaload, 1) := dk_46 (dk_at dksX7_flies_1 12 rfl rfl)
theorem dX7_flies_37 : decode cX7_flies 37 = .ok (.iload_n 2, 1) := dk_28 (dk_at dksX7_flies_1 13 rfl rfl)
theorem dX7_flies_38 : decode cX7_flies 38 = .ok (.isub, 1) := dk_100 (dk_at dksX7_flies_1 14 rfl rfl)
theorem dX7_flies_39 : decode cX7_flies 39 = .ok (.iastore, 1) := dk_79 (dk_at dksX7_flies_1 15 rfl rfl)
theorem dX7_flies_40 : decode cX7_flies 40 = .ok (.aload_n 0, 1) := dk_42 (dk_at dksX7_flies_1 16 rfl rfl)
theorem dX7_flies_41 : decode cX7_flies 41 = .ok (.iload_n 1, 1) := dk_27 (dk_at dksX7_flies_1 17 rfl rfl)
theorem dX7_flies_42 : decode cX7_flies 42 = .ok (.invokevirtual 155, 3) := dk_182 0 155 (dk_at dksX7_flies_1 18 rfl rfl)
theorem dX7_flies_45 : decode cX7_flies 45 = .ok (.return_, 1) := dk_177 (dk_at dksX7_flies_1 21 rfl rfl)
abbrev cX7_lays : ByteArray := prog_10_method_12_code
def yX7_lays : MethodName := ⟨RX7, "lays", "(I)V"⟩
def dkwX7_lays_4 : List UInt8 := [180, 0, 54, 3, 46, 104, 182, 0, 147, 42, 180, 0, 44, 27, 3, 79, 177]
abbrev dktX7_lays_4 : List UInt8 := dkwX7_lays_4 ++ []
def dkwX7_lays_3 : List UInt8 := [132, 3, 1, 167, 255, 189, 28, 155, 0, 26, 42, 180, 0, 36, 28, 50, 3, 42, 180, 0, 44, 27, 46, 42]
abbrev dktX7_lays_3 : List UInt8 := dkwX7_lays_3 ++ dktX7_lays_4
def dkwX7_lays_2 : List UInt8 := [155, 0, 16, 42, 29, 182, 0, 144, 42, 28, 182, 0, 144, 164, 0, 7, 29, 167, 0, 4, 28, 61]
abbrev dktX7_lays_2 : List UInt8 := dkwX7_lays_2 ++ dktX7_lays_3
def dkwX7_lays_1 : List UInt8 := [160, 0, 15, 42, 29, 182, 0, 144, 158, 0, 7, 4, 167, 0, 4, 3, 54, 4, 21, 4, 153, 0, 24, 28]
abbrev dktX7_lays_1 : List UInt8 := dkwX7_lays_1 ++ dktX7_lays_2
def dkwX7_lays_0 : List UInt8 := [2, 61, 3, 62, 29, 42, 180, 0, 79, 162, 0, 65, 42, 180, 0, 36, 29, 50, 180, 0, 141, 27]
abbrev dktX7_lays_0 : List UInt8 := dkwX7_lays_0 ++ dktX7_lays_1
theorem dksX7_lays_0 : cX7_lays.data.toList.drop 0 = dktX7_lays_0 := by decide +kernel
theorem dksX7_lays_1 : cX7_lays.data.toList.drop 22 = dktX7_lays_1 := dk_seg dksX7_lays_0 22 rfl rfl
theorem dksX7_lays_2 : cX7_lays.data.toList.drop 46 = dktX7_lays_2 := dk_seg dksX7_lays_1 24 rfl rfl
theorem dksX7_lays_3 : cX7_lays.data.toList.drop 68 = dktX7_lays_3 := dk_seg dksX7_lays_2 22 rfl rfl
theorem dksX7_lays_4 : cX7_lays.data.toList.drop 92 = dktX7_lays_4 := dk_seg dksX7_lays_3 24 rfl rfl
theorem dX7_lays_0 : decode cX7_lays 0 = .ok (.iconst (-1), 1) := dk_2 (dk_at dksX7_lays_0 0 rfl rfl)
theorem dX7_lays_1 : decode cX7_lays 1 = .ok (.istore_n 2, 1) := dk_61 (dk_at dksX7_lays_0 1 rfl rfl)
theorem dX7_lays_2 : decode cX7_lays 2 = .ok (.iconst 0, 1) := dk_3 (dk_at dksX7_lays_0 2 rfl rfl)
theorem dX7_lays_3 : decode cX7_lays 3 = .ok (.istore_n 3, 1) := dk_62 (dk_at dksX7_lays_0 3 rfl rfl)
theorem dX7_lays_4 : decode cX7_lays 4 = .ok (.iload_n 3, 1) := dk_29 (dk_at dksX7_lays_0 4 rfl rfl)
theorem dX7_lays_5 : decode cX7_lays 5 = .ok (.aload_n 0, 1) := dk_42 (dk_at dksX7_lays_0 5 rfl rfl)
theorem dX7_lays_6 : decode cX7_lays 6 = .ok (.getfield 79, 3) := dk_180 0 79 (dk_at dksX7_lays_0 6 rfl rfl)
theorem dX7_lays_9 : decode cX7_lays 9 = .ok (.if_icmp .ge 65, 3) := dk_162 0 65 (dk_at dksX7_lays_0 9 rfl rfl)
theorem dX7_lays_12 : decode cX7_lays 12 = .ok (.aload_n 0, 1) := dk_42 (dk_at dksX7_lays_0 12 rfl rfl)
theorem dX7_lays_13 : decode cX7_lays 13 = .ok (.getfield 36, 3) := dk_180 0 36 (dk_at dksX7_lays_0 13 rfl rfl)
theorem dX7_lays_16 : decode cX7_lays 16 = .ok (.iload_n 3, 1) := dk_29 (dk_at dksX7_lays_0 16 rfl rfl)
theorem dX7_lays_17 : decode cX7_lays 17 = .ok (.aaload, 1) := dk_50 (dk_at dksX7_lays_0 17 rfl rfl)
theorem dX7_lays_18 : decode cX7_lays 18 = .ok (.getfield 141, 3) := dk_180 0 141 (dk_at dksX7_lays_0 18 rfl rfl)
theorem dX7_lays_21 : decode cX7_lays 21 = .ok (.iload_n 1, 1) := dk_27 (dk_at dksX7_lays_0 21 rfl rfl)
theorem dX7_lays_22 : decode cX7_lays 22 = .ok (.if_icmp .ne 15, 3) := dk_160 0 15 (dk_at dksX7_lays_1 0 rfl rfl)
theorem dX7_lays_25 : decode cX7_lays 25 = .ok (.aload_n 0, 1) := dk_42 (dk_at dksX7_lays_1 3 rfl rfl)
theorem dX7_lays_26 : decode cX7_lays 26 = .ok (.iload_n 3, 1) := dk_29 (dk_at dksX7_lays_1 4 rfl rfl)
theorem dX7_lays_27 : decode cX7_lays 27 = .ok (.invokevirtual 144, 3) := dk_182 0 144 (dk_at dksX7_lays_1 5 rfl rfl)
theorem dX7_lays_30 : decode cX7_lays 30 = .ok (.ifCond .le 7, 3) := dk_158 0 7 (dk_at dksX7_lays_1 8 rfl rfl)
theorem dX7_lays_33 : decode cX7_lays 33 = .ok (.iconst 1, 1) := dk_4 (dk_at dksX7_lays_1 11 rfl rfl)
theorem dX7_lays_34 : decode cX7_lays 34 = .ok (.goto 4, 3) := dk_167 0 4 (dk_at dksX7_lays_1 12 rfl rfl)
theorem dX7_lays_37 : decode cX7_lays 37 = .ok (.iconst 0, 1) := dk_3 (dk_at dksX7_lays_1 15 rfl rfl)
theorem dX7_lays_38 : decode cX7_lays 38 = .ok (.istore 4, 2) := dk_54 4 (dk_at dksX7_lays_1 16 rfl rfl)
theorem dX7_lays_40 : decode cX7_lays 40 = .ok (.iload 4, 2) := dk_21 4 (dk_at dksX7_lays_1 18 rfl rfl)
theorem dX7_lays_42 : decode cX7_lays 42 = .ok (.ifCond .eq 24, 3) := dk_153 0 24 (dk_at dksX7_lays_1 20 rfl rfl)
theorem dX7_lays_45 : decode cX7_lays 45 = .ok (.iload_n 2, 1) := dk_28 (dk_at dksX7_lays_1 23 rfl rfl)
theorem dX7_lays_46 : decode cX7_lays 46 = .ok (.ifCond .lt 16, 3) := dk_155 0 16 (dk_at dksX7_lays_2 0 rfl rfl)
theorem dX7_lays_49 : decode cX7_lays 49 = .ok (.aload_n 0, 1) := dk_42 (dk_at dksX7_lays_2 3 rfl rfl)
theorem dX7_lays_50 : decode cX7_lays 50 = .ok (.iload_n 3, 1) := dk_29 (dk_at dksX7_lays_2 4 rfl rfl)
theorem dX7_lays_51 : decode cX7_lays 51 = .ok (.invokevirtual 144, 3) := dk_182 0 144 (dk_at dksX7_lays_2 5 rfl rfl)
theorem dX7_lays_54 : decode cX7_lays 54 = .ok (.aload_n 0, 1) := dk_42 (dk_at dksX7_lays_2 8 rfl rfl)
theorem dX7_lays_55 : decode cX7_lays 55 = .ok (.iload_n 2, 1) := dk_28 (dk_at dksX7_lays_2 9 rfl rfl)
theorem dX7_lays_56 : decode cX7_lays 56 = .ok (.invokevirtual 144, 3) := dk_182 0 144 (dk_at dksX7_lays_2 10 rfl rfl)
theorem dX7_lays_59 : decode cX7_lays 59 = .ok (.if_icmp .le 7, 3) := dk_164 0 7 (dk_at dksX7_lays_2 13 rfl rfl)
theorem dX7_lays_62 : decode cX7_lays 62 = .ok (.iload_n 3, 1) := dk_29 (dk_at dksX7_lays_2 16 rfl rfl)
theorem dX7_lays_63 : decode cX7_lays 63 = .ok (.goto 4, 3) := dk_167 0 4 (dk_at dksX7_lays_2 17 rfl rfl)
theorem dX7_lays_66 : decode cX7_lays 66 = .ok (.iload_n 2, 1) := dk_28 (dk_at dksX7_lays_2 20 rfl rfl)
theorem dX7_lays_67 : decode cX7_lays 67 = .ok (.istore_n 2, 1) := dk_61 (dk_at dksX7_lays_2 21 rfl rfl)
theorem dX7_lays_68 : decode cX7_lays 68 = .ok (.iinc 3 1, 3) := dk_132 3 1 (dk_at dksX7_lays_3 0 rfl rfl)
theorem dX7_lays_71 : decode cX7_lays 71 = .ok (.goto (-67), 3) := dk_167 255 189 (dk_at dksX7_lays_3 3 rfl rfl)
theorem dX7_lays_74 : decode cX7_lays 74 = .ok (.iload_n 2, 1) := dk_28 (dk_at dksX7_lays_3 6 rfl rfl)
theorem dX7_lays_75 : decode cX7_lays 75 = .ok (.ifCond .lt 26, 3) := dk_155 0 26 (dk_at dksX7_lays_3 7 rfl rfl)
theorem dX7_lays_78 : decode cX7_lays 78 = .ok (.aload_n 0, 1) := dk_42 (dk_at dksX7_lays_3 10 rfl rfl)
theorem dX7_lays_79 : decode cX7_lays 79 = .ok (.getfield 36, 3) := dk_180 0 36 (dk_at dksX7_lays_3 11 rfl rfl)
theorem dX7_lays_82 : decode cX7_lays 82 = .ok (.iload_n 2, 1) := dk_28 (dk_at dksX7_lays_3 14 rfl rfl)
theorem dX7_lays_83 : decode cX7_lays 83 = .ok (.aaload, 1) := dk_50 (dk_at dksX7_lays_3 15 rfl rfl)
theorem dX7_lays_84 : decode cX7_lays 84 = .ok (.iconst 0, 1) := dk_3 (dk_at dksX7_lays_3 16 rfl rfl)
theorem dX7_lays_85 : decode cX7_lays 85 = .ok (.aload_n 0, 1) := dk_42 (dk_at dksX7_lays_3 17 rfl rfl)
theorem dX7_lays_86 : decode cX7_lays 86 = .ok (.getfield 44, 3) := dk_180 0 44 (dk_at dksX7_lays_3 18 rfl rfl)
theorem dX7_lays_89 : decode cX7_lays 89 = .ok (.iload_n 1, 1) := dk_27 (dk_at dksX7_lays_3 21 rfl rfl)
theorem dX7_lays_90 : decode cX7_lays 90 = .ok (.iaload, 1) := dk_46 (dk_at dksX7_lays_3 22 rfl rfl)
theorem dX7_lays_91 : decode cX7_lays 91 = .ok (.aload_n 0, 1) := dk_42 (dk_at dksX7_lays_3 23 rfl rfl)
theorem dX7_lays_92 : decode cX7_lays 92 = .ok (.getfield 54, 3) := dk_180 0 54 (dk_at dksX7_lays_4 0 rfl rfl)
theorem dX7_lays_95 : decode cX7_lays 95 = .ok (.iconst 0, 1) := dk_3 (dk_at dksX7_lays_4 3 rfl rfl)
theorem dX7_lays_96 : decode cX7_lays 96 = .ok (.iaload, 1) := dk_46 (dk_at dksX7_lays_4 4 rfl rfl)
theorem dX7_lays_97 : decode cX7_lays 97 = .ok (.imul, 1) := dk_104 (dk_at dksX7_lays_4 5 rfl rfl)
theorem dX7_lays_98 : decode cX7_lays 98 = .ok (.invokevirtual 147, 3) := dk_182 0 147 (dk_at dksX7_lays_4 6 rfl rfl)
theorem dX7_lays_101 : decode cX7_lays 101 = .ok (.aload_n 0, 1) := dk_42 (dk_at dksX7_lays_4 9 rfl rfl)
theorem dX7_lays_102 : decode cX7_lays 102 = .ok (.getfield 44, 3) := dk_180 0 44 (dk_at dksX7_lays_4 10 rfl rfl)
theorem dX7_lays_105 : decode cX7_lays 105 = .ok (.iload_n 1, 1) := dk_27 (dk_at dksX7_lays_4 13 rfl rfl)
theorem dX7_lays_106 : decode cX7_lays 106 = .ok (.iconst 0, 1) := dk_3 (dk_at dksX7_lays_4 14 rfl rfl)
theorem dX7_lays_107 : decode cX7_lays 107 = .ok (.iastore, 1) := dk_79 (dk_at dksX7_lays_4 15 rfl rfl)
theorem dX7_lays_108 : decode cX7_lays 108 = .ok (.return_, 1) := dk_177 (dk_at dksX7_lays_4 16 rfl rfl)
abbrev cX7_grows : ByteArray := prog_10_method_15_code
def yX7_grows : MethodName := ⟨RX7, "grows", "(I)V"⟩
def dkwX7_grows_6 : List UInt8 := [3, 79, 42, 44, 3, 4, 182, 0, 171, 177]
abbrev dktX7_grows_6 : List UInt8 := dkwX7_grows_6 ++ []
def dkwX7_grows_5 : List UInt8 := [6, 182, 0, 171, 42, 27, 182, 0, 120, 158, 0, 10, 42, 44, 4, 5, 182, 0, 171, 44, 180, 0, 159, 4]
abbrev dktX7_grows_5 : List UInt8 := dkwX7_grows_5 ++ dktX7_grows_6
def dkwX7_grows_4 : List UInt8 := [184, 0, 165, 79, 44, 180, 0, 159, 6, 3, 79, 29, 154, 0, 9, 44, 3, 182, 0, 168, 177, 42, 44, 5]
abbrev dktX7_grows_4 : List UInt8 := dkwX7_grows_4 ++ dktX7_grows_5
def dkwX7_grows_3 : List UInt8 := [180, 0, 141, 46, 44, 180, 0, 121, 153, 0, 7, 3, 167, 0, 9, 44, 180, 0, 159, 6, 46, 96]
abbrev dktX7_grows_3 : List UInt8 := dkwX7_grows_3 ++ dktX7_grows_4
def dkwX7_grows_2 : List UInt8 := [181, 0, 132, 29, 4, 164, 0, 52, 42, 180, 0, 44, 44, 180, 0, 141, 17, 3, 231, 42, 180, 0, 44, 44]
abbrev dktX7_grows_2 : List UInt8 := dkwX7_grows_2 ++ dktX7_grows_3
def dkwX7_grows_1 : List UInt8 := [4, 46, 5, 44, 180, 0, 159, 5, 46, 104, 96, 42, 27, 182, 0, 120, 104, 7, 108, 96, 184, 0, 165]
abbrev dktX7_grows_1 : List UInt8 := dkwX7_grows_1 ++ dktX7_grows_2
def dkwX7_grows_0 : List UInt8 := [42, 180, 0, 36, 27, 50, 77, 42, 182, 0, 162, 62, 44, 17, 39, 15, 44, 180, 0, 132, 44, 180, 0, 159]
abbrev dktX7_grows_0 : List UInt8 := dkwX7_grows_0 ++ dktX7_grows_1
theorem dksX7_grows_0 : cX7_grows.data.toList.drop 0 = dktX7_grows_0 := by decide +kernel
theorem dksX7_grows_1 : cX7_grows.data.toList.drop 24 = dktX7_grows_1 := dk_seg dksX7_grows_0 24 rfl rfl
theorem dksX7_grows_2 : cX7_grows.data.toList.drop 47 = dktX7_grows_2 := dk_seg dksX7_grows_1 23 rfl rfl
theorem dksX7_grows_3 : cX7_grows.data.toList.drop 71 = dktX7_grows_3 := dk_seg dksX7_grows_2 24 rfl rfl
theorem dksX7_grows_4 : cX7_grows.data.toList.drop 93 = dktX7_grows_4 := dk_seg dksX7_grows_3 22 rfl rfl
theorem dksX7_grows_5 : cX7_grows.data.toList.drop 117 = dktX7_grows_5 := dk_seg dksX7_grows_4 24 rfl rfl
theorem dksX7_grows_6 : cX7_grows.data.toList.drop 141 = dktX7_grows_6 := dk_seg dksX7_grows_5 24 rfl rfl
theorem dX7_grows_0 : decode cX7_grows 0 = .ok (.aload_n 0, 1) := dk_42 (dk_at dksX7_grows_0 0 rfl rfl)
theorem dX7_grows_1 : decode cX7_grows 1 = .ok (.getfield 36, 3) := dk_180 0 36 (dk_at dksX7_grows_0 1 rfl rfl)
theorem dX7_grows_4 : decode cX7_grows 4 = .ok (.iload_n 1, 1) := dk_27 (dk_at dksX7_grows_0 4 rfl rfl)
theorem dX7_grows_5 : decode cX7_grows 5 = .ok (.aaload, 1) := dk_50 (dk_at dksX7_grows_0 5 rfl rfl)
theorem dX7_grows_6 : decode cX7_grows 6 = .ok (.astore_n 2, 1) := dk_77 (dk_at dksX7_grows_0 6 rfl rfl)
theorem dX7_grows_7 : decode cX7_grows 7 = .ok (.aload_n 0, 1) := dk_42 (dk_at dksX7_grows_0 7 rfl rfl)
theorem dX7_grows_8 : decode cX7_grows 8 = .ok (.invokevirtual 162, 3) := dk_182 0 162 (dk_at dksX7_grows_0 8 rfl rfl)
theorem dX7_grows_11 : decode cX7_grows 11 = .ok (.istore_n 3, 1) := dk_62 (dk_at dksX7_grows_0 11 rfl rfl)
theorem dX7_grows_12 : decode cX7_grows 12 = .ok (.aload_n 2, 1) := dk_44 (dk_at dksX7_grows_0 12 rfl rfl)
theorem dX7_grows_13 : decode cX7_grows 13 = .ok (.sipush 9999, 3) := dk_17 39 15 (dk_at dksX7_grows_0 13 rfl rfl)
theorem dX7_grows_16 : decode cX7_grows 16 = .ok (.aload_n 2, 1) := dk_44 (dk_at dksX7_grows_0 16 rfl rfl)
theorem dX7_grows_17 : decode cX7_grows 17 = .ok (.getfield 132, 3) := dk_180 0 132 (dk_at dksX7_grows_0 17 rfl rfl)
theorem dX7_grows_20 : decode cX7_grows 20 = .ok (.aload_n 2, 1) := dk_44 (dk_at dksX7_grows_0 20 rfl rfl)
theorem dX7_grows_21 : decode cX7_grows 21 = .ok (.getfield 159, 3) := dk_180 0 159 (dk_at dksX7_grows_0 21 rfl rfl)
theorem dX7_grows_24 : decode cX7_grows 24 = .ok (.iconst 1, 1) := dk_4 (dk_at dksX7_grows_1 0 rfl rfl)
theorem dX7_grows_25 : decode cX7_grows 25 = .ok (.iaload, 1) := dk_46 (dk_at dksX7_grows_1 1 rfl rfl)
theorem dX7_grows_26 : decode cX7_grows 26 = .ok (.iconst 2, 1) := dk_5 (dk_at dksX7_grows_1 2 rfl rfl)
theorem dX7_grows_27 : decode cX7_grows 27 = .ok (.aload_n 2, 1) := dk_44 (dk_at dksX7_grows_1 3 rfl rfl)
theorem dX7_grows_28 : decode cX7_grows 28 = .ok (.getfield 159, 3) := dk_180 0 159 (dk_at dksX7_grows_1 4 rfl rfl)
theorem dX7_grows_31 : decode cX7_grows 31 = .ok (.iconst 2, 1) := dk_5 (dk_at dksX7_grows_1 7 rfl rfl)
theorem dX7_grows_32 : decode cX7_grows 32 = .ok (.iaload, 1) := dk_46 (dk_at dksX7_grows_1 8 rfl rfl)
theorem dX7_grows_33 : decode cX7_grows 33 = .ok (.imul, 1) := dk_104 (dk_at dksX7_grows_1 9 rfl rfl)
theorem dX7_grows_34 : decode cX7_grows 34 = .ok (.iadd, 1) := dk_96 (dk_at dksX7_grows_1 10 rfl rfl)
theorem dX7_grows_35 : decode cX7_grows 35 = .ok (.aload_n 0, 1) := dk_42 (dk_at dksX7_grows_1 11 rfl rfl)
theorem dX7_grows_36 : decode cX7_grows 36 = .ok (.iload_n 1, 1) := dk_27 (dk_at dksX7_grows_1 12 rfl rfl)
theorem dX7_grows_37 : decode cX7_grows 37 = .ok (.invokevirtual 120, 3) := dk_182 0 120 (dk_at dksX7_grows_1 13 rfl rfl)
theorem dX7_grows_40 : decode cX7_grows 40 = .ok (.imul, 1) := dk_104 (dk_at dksX7_grows_1 16 rfl rfl)
theorem dX7_grows_41 : decode cX7_grows 41 = .ok (.iconst 4, 1) := dk_7 (dk_at dksX7_grows_1 17 rfl rfl)
theorem dX7_grows_42 : decode cX7_grows 42 = .ok (.idiv, 1) := dk_108 (dk_at dksX7_grows_1 18 rfl rfl)
theorem dX7_grows_43 : decode cX7_grows 43 = .ok (.iadd, 1) := dk_96 (dk_at dksX7_grows_1 19 rfl rfl)
theorem dX7_grows_44 : decode cX7_grows 44 = .ok (.invokestatic 165, 3) := dk_184 0 165 (dk_at dksX7_grows_1 20 rfl rfl)
theorem dX7_grows_47 : decode cX7_grows 47 = .ok (.putfield 132, 3) := dk_181 0 132 (dk_at dksX7_grows_2 0 rfl rfl)
theorem dX7_grows_50 : decode cX7_grows 50 = .ok (.iload_n 3, 1) := dk_29 (dk_at dksX7_grows_2 3 rfl rfl)
theorem dX7_grows_51 : decode cX7_grows 51 = .ok (.iconst 1, 1) := dk_4 (dk_at dksX7_grows_2 4 rfl rfl)
theorem dX7_grows_52 : decode cX7_grows 52 = .ok (.if_icmp .le 52, 3) := dk_164 0 52 (dk_at dksX7_grows_2 5 rfl rfl)
theorem dX7_grows_55 : decode cX7_grows 55 = .ok (.aload_n 0, 1) := dk_42 (dk_at dksX7_grows_2 8 rfl rfl)
theorem dX7_grows_56 : decode cX7_grows 56 = .ok (.getfield 44, 3) := dk_180 0 44 (dk_at dksX7_grows_2 9 rfl rfl)
theorem dX7_grows_59 : decode cX7_grows 59 = .ok (.aload_n 2, 1) := dk_44 (dk_at dksX7_grows_2 12 rfl rfl)
theorem dX7_grows_60 : decode cX7_grows 60 = .ok (.getfield 141, 3) := dk_180 0 141 (dk_at dksX7_grows_2 13 rfl rfl)
theorem dX7_grows_63 : decode cX7_grows 63 = .ok (.sipush 999, 3) := dk_17 3 231 (dk_at dksX7_grows_2 16 rfl rfl)
theorem dX7_grows_66 : decode cX7_grows 66 = .ok (.aload_n 0, 1) := dk_42 (dk_at dksX7_grows_2 19 rfl rfl)
theorem dX7_grows_67 : decode cX7_grows 67 = .ok (.getfield 44, 3) := dk_180 0 44 (dk_at dksX7_grows_2 20 rfl rfl)
theorem dX7_grows_70 : decode cX7_grows 70 = .ok (.aload_n 2, 1) := dk_44 (dk_at dksX7_grows_2 23 rfl rfl)
theorem dX7_grows_71 : decode cX7_grows 71 = .ok (.getfield 141, 3) := dk_180 0 141 (dk_at dksX7_grows_3 0 rfl rfl)
theorem dX7_grows_74 : decode cX7_grows 74 = .ok (.iaload, 1) := dk_46 (dk_at dksX7_grows_3 3 rfl rfl)
theorem dX7_grows_75 : decode cX7_grows 75 = .ok (.aload_n 2, 1) := dk_44 (dk_at dksX7_grows_3 4 rfl rfl)
theorem dX7_grows_76 : decode cX7_grows 76 = .ok (.getfield 121, 3) := dk_180 0 121 (dk_at dksX7_grows_3 5 rfl rfl)
theorem dX7_grows_79 : decode cX7_grows 79 = .ok (.ifCond .eq 7, 3) := dk_153 0 7 (dk_at dksX7_grows_3 8 rfl rfl)
theorem dX7_grows_82 : decode cX7_grows 82 = .ok (.iconst 0, 1) := dk_3 (dk_at dksX7_grows_3 11 rfl rfl)
theorem dX7_grows_83 : decode cX7_grows 83 = .ok (.goto 9, 3) := dk_167 0 9 (dk_at dksX7_grows_3 12 rfl rfl)
theorem dX7_grows_86 : decode cX7_grows 86 = .ok (.aload_n 2, 1) := dk_44 (dk_at dksX7_grows_3 15 rfl rfl)
theorem dX7_grows_87 : decode cX7_grows 87 = .ok (.getfield 159, 3) := dk_180 0 159 (dk_at dksX7_grows_3 16 rfl rfl)
theorem dX7_grows_90 : decode cX7_grows 90 = .ok (.iconst 3, 1) := dk_6 (dk_at dksX7_grows_3 19 rfl rfl)
theorem dX7_grows_91 : decode cX7_grows 91 = .ok (.iaload, 1) := dk_46 (dk_at dksX7_grows_3 20 rfl rfl)
theorem dX7_grows_92 : decode cX7_grows 92 = .ok (.iadd, 1) := dk_96 (dk_at dksX7_grows_3 21 rfl rfl)
theorem dX7_grows_93 : decode cX7_grows 93 = .ok (.invokestatic 165, 3) := dk_184 0 165 (dk_at dksX7_grows_4 0 rfl rfl)
theorem dX7_grows_96 : decode cX7_grows 96 = .ok (.iastore, 1) := dk_79 (dk_at dksX7_grows_4 3 rfl rfl)
theorem dX7_grows_97 : decode cX7_grows 97 = .ok (.aload_n 2, 1) := dk_44 (dk_at dksX7_grows_4 4 rfl rfl)
theorem dX7_grows_98 : decode cX7_grows 98 = .ok (.getfield 159, 3) := dk_180 0 159 (dk_at dksX7_grows_4 5 rfl rfl)
theorem dX7_grows_101 : decode cX7_grows 101 = .ok (.iconst 3, 1) := dk_6 (dk_at dksX7_grows_4 8 rfl rfl)
theorem dX7_grows_102 : decode cX7_grows 102 = .ok (.iconst 0, 1) := dk_3 (dk_at dksX7_grows_4 9 rfl rfl)
theorem dX7_grows_103 : decode cX7_grows 103 = .ok (.iastore, 1) := dk_79 (dk_at dksX7_grows_4 10 rfl rfl)
theorem dX7_grows_104 : decode cX7_grows 104 = .ok (.iload_n 3, 1) := dk_29 (dk_at dksX7_grows_4 11 rfl rfl)
theorem dX7_grows_105 : decode cX7_grows 105 = .ok (.ifCond .ne 9, 3) := dk_154 0 9 (dk_at dksX7_grows_4 12 rfl rfl)
theorem dX7_grows_108 : decode cX7_grows 108 = .ok (.aload_n 2, 1) := dk_44 (dk_at dksX7_grows_4 15 rfl rfl)
theorem dX7_grows_109 : decode cX7_grows 109 = .ok (.iconst 0, 1) := dk_3 (dk_at dksX7_grows_4 16 rfl rfl)
theorem dX7_grows_110 : decode cX7_grows 110 = .ok (.invokevirtual 168, 3) := dk_182 0 168 (dk_at dksX7_grows_4 17 rfl rfl)
theorem dX7_grows_113 : decode cX7_grows 113 = .ok (.return_, 1) := dk_177 (dk_at dksX7_grows_4 20 rfl rfl)
theorem dX7_grows_114 : decode cX7_grows 114 = .ok (.aload_n 0, 1) := dk_42 (dk_at dksX7_grows_4 21 rfl rfl)
theorem dX7_grows_115 : decode cX7_grows 115 = .ok (.aload_n 2, 1) := dk_44 (dk_at dksX7_grows_4 22 rfl rfl)
theorem dX7_grows_116 : decode cX7_grows 116 = .ok (.iconst 2, 1) := dk_5 (dk_at dksX7_grows_4 23 rfl rfl)
theorem dX7_grows_117 : decode cX7_grows 117 = .ok (.iconst 3, 1) := dk_6 (dk_at dksX7_grows_5 0 rfl rfl)
theorem dX7_grows_118 : decode cX7_grows 118 = .ok (.invokevirtual 171, 3) := dk_182 0 171 (dk_at dksX7_grows_5 1 rfl rfl)
theorem dX7_grows_121 : decode cX7_grows 121 = .ok (.aload_n 0, 1) := dk_42 (dk_at dksX7_grows_5 4 rfl rfl)
theorem dX7_grows_122 : decode cX7_grows 122 = .ok (.iload_n 1, 1) := dk_27 (dk_at dksX7_grows_5 5 rfl rfl)
theorem dX7_grows_123 : decode cX7_grows 123 = .ok (.invokevirtual 120, 3) := dk_182 0 120 (dk_at dksX7_grows_5 6 rfl rfl)
theorem dX7_grows_126 : decode cX7_grows 126 = .ok (.ifCond .le 10, 3) := dk_158 0 10 (dk_at dksX7_grows_5 9 rfl rfl)
theorem dX7_grows_129 : decode cX7_grows 129 = .ok (.aload_n 0, 1) := dk_42 (dk_at dksX7_grows_5 12 rfl rfl)
theorem dX7_grows_130 : decode cX7_grows 130 = .ok (.aload_n 2, 1) := dk_44 (dk_at dksX7_grows_5 13 rfl rfl)
theorem dX7_grows_131 : decode cX7_grows 131 = .ok (.iconst 1, 1) := dk_4 (dk_at dksX7_grows_5 14 rfl rfl)
theorem dX7_grows_132 : decode cX7_grows 132 = .ok (.iconst 2, 1) := dk_5 (dk_at dksX7_grows_5 15 rfl rfl)
theorem dX7_grows_133 : decode cX7_grows 133 = .ok (.invokevirtual 171, 3) := dk_182 0 171 (dk_at dksX7_grows_5 16 rfl rfl)
theorem dX7_grows_136 : decode cX7_grows 136 = .ok (.aload_n 2, 1) := dk_44 (dk_at dksX7_grows_5 19 rfl rfl)
theorem dX7_grows_137 : decode cX7_grows 137 = .ok (.getfield 159, 3) := dk_180 0 159 (dk_at dksX7_grows_5 20 rfl rfl)
theorem dX7_grows_140 : decode cX7_grows 140 = .ok (.iconst 1, 1) := dk_4 (dk_at dksX7_grows_5 23 rfl rfl)
theorem dX7_grows_141 : decode cX7_grows 141 = .ok (.iconst 0, 1) := dk_3 (dk_at dksX7_grows_6 0 rfl rfl)
theorem dX7_grows_142 : decode cX7_grows 142 = .ok (.iastore, 1) := dk_79 (dk_at dksX7_grows_6 1 rfl rfl)
theorem dX7_grows_143 : decode cX7_grows 143 = .ok (.aload_n 0, 1) := dk_42 (dk_at dksX7_grows_6 2 rfl rfl)
theorem dX7_grows_144 : decode cX7_grows 144 = .ok (.aload_n 2, 1) := dk_44 (dk_at dksX7_grows_6 3 rfl rfl)
theorem dX7_grows_145 : decode cX7_grows 145 = .ok (.iconst 0, 1) := dk_3 (dk_at dksX7_grows_6 4 rfl rfl)
theorem dX7_grows_146 : decode cX7_grows 146 = .ok (.iconst 1, 1) := dk_4 (dk_at dksX7_grows_6 5 rfl rfl)
theorem dX7_grows_147 : decode cX7_grows 147 = .ok (.invokevirtual 171, 3) := dk_182 0 171 (dk_at dksX7_grows_6 6 rfl rfl)
theorem dX7_grows_150 : decode cX7_grows 150 = .ok (.return_, 1) := dk_177 (dk_at dksX7_grows_6 9 rfl rfl)
abbrev cX7_warmth : ByteArray := prog_10_method_9_code
def yX7_warmth : MethodName := ⟨RX7, "warmth", "()I"⟩
def dkwX7_warmth_0 : List UInt8 := [42, 180, 0, 57, 42, 180, 0, 85, 16, 12, 112, 46, 172]
abbrev dktX7_warmth_0 : List UInt8 := dkwX7_warmth_0 ++ []
theorem dksX7_warmth_0 : cX7_warmth.data.toList.drop 0 = dktX7_warmth_0 := by decide +kernel
theorem dX7_warmth_0 : decode cX7_warmth 0 = .ok (.aload_n 0, 1) := dk_42 (dk_at dksX7_warmth_0 0 rfl rfl)
theorem dX7_warmth_1 : decode cX7_warmth 1 = .ok (.getfield 57, 3) := dk_180 0 57 (dk_at dksX7_warmth_0 1 rfl rfl)
theorem dX7_warmth_4 : decode cX7_warmth 4 = .ok (.aload_n 0, 1) := dk_42 (dk_at dksX7_warmth_0 4 rfl rfl)
theorem dX7_warmth_5 : decode cX7_warmth 5 = .ok (.getfield 85, 3) := dk_180 0 85 (dk_at dksX7_warmth_0 5 rfl rfl)
theorem dX7_warmth_8 : decode cX7_warmth 8 = .ok (.bipush 12, 2) := dk_16 12 (dk_at dksX7_warmth_0 8 rfl rfl)
theorem dX7_warmth_10 : decode cX7_warmth 10 = .ok (.irem, 1) := dk_112 (dk_at dksX7_warmth_0 10 rfl rfl)
theorem dX7_warmth_11 : decode cX7_warmth 11 = .ok (.iaload, 1) := dk_46 (dk_at dksX7_warmth_0 11 rfl rfl)
theorem dX7_warmth_12 : decode cX7_warmth 12 = .ok (.ireturn, 1) := dk_172 (dk_at dksX7_warmth_0 12 rfl rfl)
abbrev cX7_turns : ByteArray := prog_10_method_14_code
def yX7_turns : MethodName := ⟨RX7, "turns", "(LCoatHoles$Item;II)V"⟩
def dkwX7_turns_0 : List UInt8 := [43, 29, 43, 180, 0, 159, 28, 46, 182, 0, 147, 43, 180, 0, 159, 28, 3, 79, 177]
abbrev dktX7_turns_0 : List UInt8 := dkwX7_turns_0 ++ []
theorem dksX7_turns_0 : cX7_turns.data.toList.drop 0 = dktX7_turns_0 := by decide +kernel
theorem dX7_turns_0 : decode cX7_turns 0 = .ok (.aload_n 1, 1) := dk_43 (dk_at dksX7_turns_0 0 rfl rfl)
theorem dX7_turns_1 : decode cX7_turns 1 = .ok (.iload_n 3, 1) := dk_29 (dk_at dksX7_turns_0 1 rfl rfl)
theorem dX7_turns_2 : decode cX7_turns 2 = .ok (.aload_n 1, 1) := dk_43 (dk_at dksX7_turns_0 2 rfl rfl)
theorem dX7_turns_3 : decode cX7_turns 3 = .ok (.getfield 159, 3) := dk_180 0 159 (dk_at dksX7_turns_0 3 rfl rfl)
theorem dX7_turns_6 : decode cX7_turns 6 = .ok (.iload_n 2, 1) := dk_28 (dk_at dksX7_turns_0 6 rfl rfl)
theorem dX7_turns_7 : decode cX7_turns 7 = .ok (.iaload, 1) := dk_46 (dk_at dksX7_turns_0 7 rfl rfl)
theorem dX7_turns_8 : decode cX7_turns 8 = .ok (.invokevirtual 147, 3) := dk_182 0 147 (dk_at dksX7_turns_0 8 rfl rfl)
theorem dX7_turns_11 : decode cX7_turns 11 = .ok (.aload_n 1, 1) := dk_43 (dk_at dksX7_turns_0 11 rfl rfl)
theorem dX7_turns_12 : decode cX7_turns 12 = .ok (.getfield 159, 3) := dk_180 0 159 (dk_at dksX7_turns_0 12 rfl rfl)
theorem dX7_turns_15 : decode cX7_turns 15 = .ok (.iload_n 2, 1) := dk_28 (dk_at dksX7_turns_0 15 rfl rfl)
theorem dX7_turns_16 : decode cX7_turns 16 = .ok (.iconst 0, 1) := dk_3 (dk_at dksX7_turns_0 16 rfl rfl)
theorem dX7_turns_17 : decode cX7_turns 17 = .ok (.iastore, 1) := dk_79 (dk_at dksX7_turns_0 17 rfl rfl)
theorem dX7_turns_18 : decode cX7_turns 18 = .ok (.return_, 1) := dk_177 (dk_at dksX7_turns_0 18 rfl rfl)
abbrev cX7_alive : ByteArray := prog_10_method_10_code
def yX7_alive : MethodName := ⟨RX7, "alive", "()I"⟩
def dkwX7_alive_2 : List UInt8 := [132, 2, 1, 167, 255, 239, 27, 172]
abbrev dktX7_alive_2 : List UInt8 := dkwX7_alive_2 ++ []
def dkwX7_alive_1 : List UInt8 := [132, 2, 1, 167, 255, 233, 3, 61, 28, 7, 162, 0, 18, 27, 42, 180, 0, 44, 28, 46, 96, 60]
abbrev dktX7_alive_1 : List UInt8 := dkwX7_alive_1 ++ dktX7_alive_2
def dkwX7_alive_0 : List UInt8 := [3, 60, 3, 61, 28, 42, 180, 0, 79, 162, 0, 21, 27, 42, 180, 0, 36, 28, 50, 182, 0, 125, 96, 60]
abbrev dktX7_alive_0 : List UInt8 := dkwX7_alive_0 ++ dktX7_alive_1
theorem dksX7_alive_0 : cX7_alive.data.toList.drop 0 = dktX7_alive_0 := by decide +kernel
theorem dksX7_alive_1 : cX7_alive.data.toList.drop 24 = dktX7_alive_1 := dk_seg dksX7_alive_0 24 rfl rfl
theorem dksX7_alive_2 : cX7_alive.data.toList.drop 46 = dktX7_alive_2 := dk_seg dksX7_alive_1 22 rfl rfl
theorem dX7_alive_0 : decode cX7_alive 0 = .ok (.iconst 0, 1) := dk_3 (dk_at dksX7_alive_0 0 rfl rfl)
theorem dX7_alive_1 : decode cX7_alive 1 = .ok (.istore_n 1, 1) := dk_60 (dk_at dksX7_alive_0 1 rfl rfl)
theorem dX7_alive_2 : decode cX7_alive 2 = .ok (.iconst 0, 1) := dk_3 (dk_at dksX7_alive_0 2 rfl rfl)
theorem dX7_alive_3 : decode cX7_alive 3 = .ok (.istore_n 2, 1) := dk_61 (dk_at dksX7_alive_0 3 rfl rfl)
theorem dX7_alive_4 : decode cX7_alive 4 = .ok (.iload_n 2, 1) := dk_28 (dk_at dksX7_alive_0 4 rfl rfl)
theorem dX7_alive_5 : decode cX7_alive 5 = .ok (.aload_n 0, 1) := dk_42 (dk_at dksX7_alive_0 5 rfl rfl)
theorem dX7_alive_6 : decode cX7_alive 6 = .ok (.getfield 79, 3) := dk_180 0 79 (dk_at dksX7_alive_0 6 rfl rfl)
theorem dX7_alive_9 : decode cX7_alive 9 = .ok (.if_icmp .ge 21, 3) := dk_162 0 21 (dk_at dksX7_alive_0 9 rfl rfl)
theorem dX7_alive_12 : decode cX7_alive 12 = .ok (.iload_n 1, 1) := dk_27 (dk_at dksX7_alive_0 12 rfl rfl)
theorem dX7_alive_13 : decode cX7_alive 13 = .ok (.aload_n 0, 1) := dk_42 (dk_at dksX7_alive_0 13 rfl rfl)
theorem dX7_alive_14 : decode cX7_alive 14 = .ok (.getfield 36, 3) := dk_180 0 36 (dk_at dksX7_alive_0 14 rfl rfl)
theorem dX7_alive_17 : decode cX7_alive 17 = .ok (.iload_n 2, 1) := dk_28 (dk_at dksX7_alive_0 17 rfl rfl)
theorem dX7_alive_18 : decode cX7_alive 18 = .ok (.aaload, 1) := dk_50 (dk_at dksX7_alive_0 18 rfl rfl)
theorem dX7_alive_19 : decode cX7_alive 19 = .ok (.invokevirtual 125, 3) := dk_182 0 125 (dk_at dksX7_alive_0 19 rfl rfl)
theorem dX7_alive_22 : decode cX7_alive 22 = .ok (.iadd, 1) := dk_96 (dk_at dksX7_alive_0 22 rfl rfl)
theorem dX7_alive_23 : decode cX7_alive 23 = .ok (.istore_n 1, 1) := dk_60 (dk_at dksX7_alive_0 23 rfl rfl)
theorem dX7_alive_24 : decode cX7_alive 24 = .ok (.iinc 2 1, 3) := dk_132 2 1 (dk_at dksX7_alive_1 0 rfl rfl)
theorem dX7_alive_27 : decode cX7_alive 27 = .ok (.goto (-23), 3) := dk_167 255 233 (dk_at dksX7_alive_1 3 rfl rfl)
theorem dX7_alive_30 : decode cX7_alive 30 = .ok (.iconst 0, 1) := dk_3 (dk_at dksX7_alive_1 6 rfl rfl)
theorem dX7_alive_31 : decode cX7_alive 31 = .ok (.istore_n 2, 1) := dk_61 (dk_at dksX7_alive_1 7 rfl rfl)
theorem dX7_alive_32 : decode cX7_alive 32 = .ok (.iload_n 2, 1) := dk_28 (dk_at dksX7_alive_1 8 rfl rfl)
theorem dX7_alive_33 : decode cX7_alive 33 = .ok (.iconst 4, 1) := dk_7 (dk_at dksX7_alive_1 9 rfl rfl)
theorem dX7_alive_34 : decode cX7_alive 34 = .ok (.if_icmp .ge 18, 3) := dk_162 0 18 (dk_at dksX7_alive_1 10 rfl rfl)
theorem dX7_alive_37 : decode cX7_alive 37 = .ok (.iload_n 1, 1) := dk_27 (dk_at dksX7_alive_1 13 rfl rfl)
theorem dX7_alive_38 : decode cX7_alive 38 = .ok (.aload_n 0, 1) := dk_42 (dk_at dksX7_alive_1 14 rfl rfl)
theorem dX7_alive_39 : decode cX7_alive 39 = .ok (.getfield 44, 3) := dk_180 0 44 (dk_at dksX7_alive_1 15 rfl rfl)
theorem dX7_alive_42 : decode cX7_alive 42 = .ok (.iload_n 2, 1) := dk_28 (dk_at dksX7_alive_1 18 rfl rfl)
theorem dX7_alive_43 : decode cX7_alive 43 = .ok (.iaload, 1) := dk_46 (dk_at dksX7_alive_1 19 rfl rfl)
theorem dX7_alive_44 : decode cX7_alive 44 = .ok (.iadd, 1) := dk_96 (dk_at dksX7_alive_1 20 rfl rfl)
theorem dX7_alive_45 : decode cX7_alive 45 = .ok (.istore_n 1, 1) := dk_60 (dk_at dksX7_alive_1 21 rfl rfl)
theorem dX7_alive_46 : decode cX7_alive 46 = .ok (.iinc 2 1, 3) := dk_132 2 1 (dk_at dksX7_alive_2 0 rfl rfl)
theorem dX7_alive_49 : decode cX7_alive 49 = .ok (.goto (-17), 3) := dk_167 255 239 (dk_at dksX7_alive_2 3 rfl rfl)
theorem dX7_alive_52 : decode cX7_alive 52 = .ok (.iload_n 1, 1) := dk_27 (dk_at dksX7_alive_2 6 rfl rfl)
theorem dX7_alive_53 : decode cX7_alive 53 = .ok (.ireturn, 1) := dk_172 (dk_at dksX7_alive_2 7 rfl rfl)
abbrev cX7_kept : ByteArray := prog_10_method_11_code
def yX7_kept : MethodName := ⟨RX7, "kept", "()I"⟩
def dkwX7_kept_1 : List UInt8 := [180, 0, 36, 28, 50, 180, 0, 132, 100, 184, 0, 135, 96, 60, 132, 2, 1, 167, 255, 219, 27, 172]
abbrev dktX7_kept_1 : List UInt8 := dkwX7_kept_1 ++ []
def dkwX7_kept_0 : List UInt8 := [3, 60, 3, 61, 28, 42, 180, 0, 79, 162, 0, 35, 27, 3, 42, 180, 0, 36, 28, 50, 180, 0, 129, 42]
abbrev dktX7_kept_0 : List UInt8 := dkwX7_kept_0 ++ dktX7_kept_1
theorem dksX7_kept_0 : cX7_kept.data.toList.drop 0 = dktX7_kept_0 := by decide +kernel
theorem dksX7_kept_1 : cX7_kept.data.toList.drop 24 = dktX7_kept_1 := dk_seg dksX7_kept_0 24 rfl rfl
theorem dX7_kept_0 : decode cX7_kept 0 = .ok (.iconst 0, 1) := dk_3 (dk_at dksX7_kept_0 0 rfl rfl)
theorem dX7_kept_1 : decode cX7_kept 1 = .ok (.istore_n 1, 1) := dk_60 (dk_at dksX7_kept_0 1 rfl rfl)
theorem dX7_kept_2 : decode cX7_kept 2 = .ok (.iconst 0, 1) := dk_3 (dk_at dksX7_kept_0 2 rfl rfl)
theorem dX7_kept_3 : decode cX7_kept 3 = .ok (.istore_n 2, 1) := dk_61 (dk_at dksX7_kept_0 3 rfl rfl)
theorem dX7_kept_4 : decode cX7_kept 4 = .ok (.iload_n 2, 1) := dk_28 (dk_at dksX7_kept_0 4 rfl rfl)
theorem dX7_kept_5 : decode cX7_kept 5 = .ok (.aload_n 0, 1) := dk_42 (dk_at dksX7_kept_0 5 rfl rfl)
theorem dX7_kept_6 : decode cX7_kept 6 = .ok (.getfield 79, 3) := dk_180 0 79 (dk_at dksX7_kept_0 6 rfl rfl)
theorem dX7_kept_9 : decode cX7_kept 9 = .ok (.if_icmp .ge 35, 3) := dk_162 0 35 (dk_at dksX7_kept_0 9 rfl rfl)
theorem dX7_kept_12 : decode cX7_kept 12 = .ok (.iload_n 1, 1) := dk_27 (dk_at dksX7_kept_0 12 rfl rfl)
theorem dX7_kept_13 : decode cX7_kept 13 = .ok (.iconst 0, 1) := dk_3 (dk_at dksX7_kept_0 13 rfl rfl)
theorem dX7_kept_14 : decode cX7_kept 14 = .ok (.aload_n 0, 1) := dk_42 (dk_at dksX7_kept_0 14 rfl rfl)
theorem dX7_kept_15 : decode cX7_kept 15 = .ok (.getfield 36, 3) := dk_180 0 36 (dk_at dksX7_kept_0 15 rfl rfl)
theorem dX7_kept_18 : decode cX7_kept 18 = .ok (.iload_n 2, 1) := dk_28 (dk_at dksX7_kept_0 18 rfl rfl)
theorem dX7_kept_19 : decode cX7_kept 19 = .ok (.aaload, 1) := dk_50 (dk_at dksX7_kept_0 19 rfl rfl)
theorem dX7_kept_20 : decode cX7_kept 20 = .ok (.getfield 129, 3) := dk_180 0 129 (dk_at dksX7_kept_0 20 rfl rfl)
theorem dX7_kept_23 : decode cX7_kept 23 = .ok (.aload_n 0, 1) := dk_42 (dk_at dksX7_kept_0 23 rfl rfl)
theorem dX7_kept_24 : decode cX7_kept 24 = .ok (.getfield 36, 3) := dk_180 0 36 (dk_at dksX7_kept_1 0 rfl rfl)
theorem dX7_kept_27 : decode cX7_kept 27 = .ok (.iload_n 2, 1) := dk_28 (dk_at dksX7_kept_1 3 rfl rfl)
theorem dX7_kept_28 : decode cX7_kept 28 = .ok (.aaload, 1) := dk_50 (dk_at dksX7_kept_1 4 rfl rfl)
theorem dX7_kept_29 : decode cX7_kept 29 = .ok (.getfield 132, 3) := dk_180 0 132 (dk_at dksX7_kept_1 5 rfl rfl)
theorem dX7_kept_32 : decode cX7_kept 32 = .ok (.isub, 1) := dk_100 (dk_at dksX7_kept_1 8 rfl rfl)
theorem dX7_kept_33 : decode cX7_kept 33 = .ok (.invokestatic 135, 3) := dk_184 0 135 (dk_at dksX7_kept_1 9 rfl rfl)
theorem dX7_kept_36 : decode cX7_kept 36 = .ok (.iadd, 1) := dk_96 (dk_at dksX7_kept_1 12 rfl rfl)
theorem dX7_kept_37 : decode cX7_kept 37 = .ok (.istore_n 1, 1) := dk_60 (dk_at dksX7_kept_1 13 rfl rfl)
theorem dX7_kept_38 : decode cX7_kept 38 = .ok (.iinc 2 1, 3) := dk_132 2 1 (dk_at dksX7_kept_1 14 rfl rfl)
theorem dX7_kept_41 : decode cX7_kept 41 = .ok (.goto (-37), 3) := dk_167 255 219 (dk_at dksX7_kept_1 17 rfl rfl)
theorem dX7_kept_44 : decode cX7_kept 44 = .ok (.iload_n 1, 1) := dk_27 (dk_at dksX7_kept_1 20 rfl rfl)
theorem dX7_kept_45 : decode cX7_kept 45 = .ok (.ireturn, 1) := dk_172 (dk_at dksX7_kept_1 21 rfl rfl)
theorem q110 : (Jvm.Cond.initialized "CoatHoles$Cup") ∈ lw_all := lw_g (lw_at lw_m1 8 rfl) rfl
theorem q218 : (Jvm.Cond.instantiable "CoatHoles$Cup" (17 : Nat)) ∈ lw_all := lw_g (lw_at lw_m1 116 rfl) rfl
theorem q220 : (Jvm.Cond.instanceMethod ({ cls := "CoatHoles$Cup", name := "<init>", desc := "()V" } : Jvm.MethodName)) ∈ lw_all := lw_g (lw_at lw_m1 118 rfl) rfl
theorem q221 : (Jvm.Cond.code ({ cls := "CoatHoles$Cup", name := "<init>", desc := "()V" } : Jvm.MethodName) prog_10_method_1_code (1 : Nat) (Option.none : Option Jvm.ClassFile.FieldType)) ∈ lw_all := lw_g (lw_at lw_m1 119 rfl) rfl
theorem q222 : (Jvm.Cond.methodLink "CoatHoles$Cup" (3 : Nat) ({ cls := "java/lang/Object", name := "<init>", desc := "()V" } : Jvm.MethodName)) ∈ lw_all := lw_g (lw_at lw_m1 120 rfl) rfl
theorem q223 : (Jvm.Cond.classLink "CoatHoles$Cup" (9 : Nat) "CoatHoles$Silk") ∈ lw_all := lw_g (lw_at lw_m1 121 rfl) rfl
theorem q226 : (Jvm.Cond.methodLinkNest "CoatHoles$Cup" (11 : Nat) ({ cls := "CoatHoles$Silk", name := "<init>", desc := "()V" } : Jvm.MethodName) "CoatHoles") ∈ lw_tbl := lw_at lw_m1 124 rfl
theorem q231 : (Jvm.Cond.classLink "CoatHoles$Cup" (12 : Nat) "CoatHoles$Wool") ∈ lw_all := lw_g (lw_at lw_m1 129 rfl) rfl
theorem q233 : (Jvm.Cond.methodLinkNest "CoatHoles$Cup" (14 : Nat) ({ cls := "CoatHoles$Wool", name := "<init>", desc := "()V" } : Jvm.MethodName) "CoatHoles") ∈ lw_tbl := lw_at lw_m1 131 rfl
theorem q238 : (Jvm.Cond.classLink "CoatHoles$Cup" (15 : Nat) "CoatHoles$Cashmere") ∈ lw_all := lw_g (lw_at lw_m1 136 rfl) rfl
theorem q240 : (Jvm.Cond.methodLinkNest "CoatHoles$Cup" (17 : Nat) ({ cls := "CoatHoles$Cashmere", name := "<init>", desc := "()V" } : Jvm.MethodName) "CoatHoles") ∈ lw_tbl := lw_at lw_m1 138 rfl
theorem q245 : (Jvm.Cond.classLink "CoatHoles$Cup" (18 : Nat) "CoatHoles$Felt") ∈ lw_all := lw_g (lw_at lw_m1 143 rfl) rfl
theorem q247 : (Jvm.Cond.methodLinkNest "CoatHoles$Cup" (20 : Nat) ({ cls := "CoatHoles$Felt", name := "<init>", desc := "()V" } : Jvm.MethodName) "CoatHoles") ∈ lw_tbl := lw_at lw_m1 145 rfl
theorem q252 : (Jvm.Cond.classLink "CoatHoles$Cup" (21 : Nat) "CoatHoles$Cotton") ∈ lw_all := lw_g (lw_at lw_m1 150 rfl) rfl
theorem q254 : (Jvm.Cond.methodLinkNest "CoatHoles$Cup" (23 : Nat) ({ cls := "CoatHoles$Cotton", name := "<init>", desc := "()V" } : Jvm.MethodName) "CoatHoles") ∈ lw_tbl := lw_at lw_m1 152 rfl
theorem q259 : (Jvm.Cond.classLink "CoatHoles$Cup" (24 : Nat) "CoatHoles$Fur") ∈ lw_all := lw_g (lw_at lw_m1 157 rfl) rfl
theorem q261 : (Jvm.Cond.methodLinkNest "CoatHoles$Cup" (26 : Nat) ({ cls := "CoatHoles$Fur", name := "<init>", desc := "()V" } : Jvm.MethodName) "CoatHoles") ∈ lw_tbl := lw_at lw_m1 159 rfl
theorem q266 : (Jvm.Cond.classLink "CoatHoles$Cup" (33 : Nat) "CoatHoles$Item") ∈ lw_all := lw_g (lw_at lw_m1 164 rfl) rfl
theorem q269 : (Jvm.Cond.methodLinkNest "CoatHoles$Cup" (35 : Nat) ({ cls := "CoatHoles$Item", name := "<init>", desc := "()V" } : Jvm.MethodName) "CoatHoles") ∈ lw_tbl := lw_at lw_m1 167 rfl
theorem q274 : (Jvm.Cond.fieldLinkNest "CoatHoles$Cup" (110 : Nat) "CoatHoles$Item" "stuff" "I" "CoatHoles") ∈ lw_tbl := lw_at lw_m1 172 rfl
theorem q277 : (Jvm.Cond.fieldLinkNest "CoatHoles$Cup" (141 : Nat) "CoatHoles$Item" "place" "I" "CoatHoles") ∈ lw_tbl := lw_at lw_m1 175 rfl
theorem q281 : (Jvm.Cond.fieldLinkNest "CoatHoles$Cup" (113 : Nat) "CoatHoles$Item" "soil" "I" "CoatHoles") ∈ lw_tbl := lw_at lw_m1 179 rfl
theorem q284 : (Jvm.Cond.fieldLinkNest "CoatHoles$Cup" (129 : Nat) "CoatHoles$Item" "worth" "I" "CoatHoles") ∈ lw_tbl := lw_at lw_m1 182 rfl
theorem q287 : (Jvm.Cond.fieldLinkNest "CoatHoles$Cup" (132 : Nat) "CoatHoles$Item" "holes" "I" "CoatHoles") ∈ lw_tbl := lw_at lw_m1 185 rfl
theorem q290 : (Jvm.Cond.fieldLinkNest "CoatHoles$Cup" (121 : Nat) "CoatHoles$Item" "bagged" "Z" "CoatHoles") ∈ lw_tbl := lw_at lw_m1 188 rfl
theorem q297 : (Jvm.Cond.fieldLinkNest "CoatHoles$Cup" (159 : Nat) "CoatHoles$Item" "lives" "[I" "CoatHoles") ∈ lw_tbl := lw_at lw_m1 195 rfl
theorem q315 : (Jvm.Cond.fieldLink "CoatHoles$Cup" (27 : Nat) "CoatHoles$Cup" "stuffs" "[LCoatHoles$Silk;") ∈ lw_all := lw_g (lw_at lw_m1 213 rfl) rfl
theorem q316 : (Jvm.Cond.fieldLink "CoatHoles$Cup" (36 : Nat) "CoatHoles$Cup" "items" "[LCoatHoles$Item;") ∈ lw_all := lw_g (lw_at lw_m1 214 rfl) rfl
theorem q319 : (Jvm.Cond.fieldLink "CoatHoles$Cup" (79 : Nat) "CoatHoles$Cup" "things" "I") ∈ lw_all := lw_g (lw_at lw_m1 217 rfl) rfl
theorem q322 : (Jvm.Cond.fieldLink "CoatHoles$Cup" (103 : Nat) "CoatHoles$Cup" "doings" "I") ∈ lw_all := lw_g (lw_at lw_m1 220 rfl) rfl
theorem q324 : (Jvm.Cond.fieldLink "CoatHoles$Cup" (82 : Nat) "CoatHoles$Cup" "looks" "I") ∈ lw_all := lw_g (lw_at lw_m1 222 rfl) rfl
theorem q326 : (Jvm.Cond.fieldLink "CoatHoles$Cup" (85 : Nat) "CoatHoles$Cup" "week" "I") ∈ lw_all := lw_g (lw_at lw_m1 224 rfl) rfl
theorem q328 : (Jvm.Cond.fieldLink "CoatHoles$Cup" (88 : Nat) "CoatHoles$Cup" "cards" "I") ∈ lw_all := lw_g (lw_at lw_m1 226 rfl) rfl
theorem q331 : (Jvm.Cond.fieldLink "CoatHoles$Cup" (40 : Nat) "CoatHoles$Cup" "z" "I") ∈ lw_all := lw_g (lw_at lw_m1 229 rfl) rfl
theorem q333 : (Jvm.Cond.fieldLink "CoatHoles$Cup" (44 : Nat) "CoatHoles$Cup" "fliers" "[I") ∈ lw_all := lw_g (lw_at lw_m1 231 rfl) rfl
theorem q336 : (Jvm.Cond.fieldLink "CoatHoles$Cup" (48 : Nat) "CoatHoles$Cup" "caught" "[I") ∈ lw_all := lw_g (lw_at lw_m1 234 rfl) rfl
theorem q338 : (Jvm.Cond.fieldLink "CoatHoles$Cup" (51 : Nat) "CoatHoles$Cup" "weight" "[I") ∈ lw_all := lw_g (lw_at lw_m1 236 rfl) rfl
theorem q340 : (Jvm.Cond.fieldLink "CoatHoles$Cup" (54 : Nat) "CoatHoles$Cup" "law" "[I") ∈ lw_all := lw_g (lw_at lw_m1 238 rfl) rfl
theorem q343 : (Jvm.Cond.fieldLink "CoatHoles$Cup" (57 : Nat) "CoatHoles$Cup" "warm" "[I") ∈ lw_all := lw_g (lw_at lw_m2 1 rfl) rfl
theorem q345 : (Jvm.Cond.fieldLink "CoatHoles$Cup" (60 : Nat) "CoatHoles$Cup" "kind" "[I") ∈ lw_all := lw_g (lw_at lw_m2 3 rfl) rfl
theorem q347 : (Jvm.Cond.fieldLink "CoatHoles$Cup" (63 : Nat) "CoatHoles$Cup" "price" "[I") ∈ lw_all := lw_g (lw_at lw_m2 5 rfl) rfl
theorem q349 : (Jvm.Cond.fieldLink "CoatHoles$Cup" (66 : Nat) "CoatHoles$Cup" "lookAt" "[I") ∈ lw_all := lw_g (lw_at lw_m2 7 rfl) rfl
theorem q351 : (Jvm.Cond.fieldLink "CoatHoles$Cup" (69 : Nat) "CoatHoles$Cup" "isSeen" "[Z") ∈ lw_all := lw_g (lw_at lw_m2 9 rfl) rfl
theorem q353 : (Jvm.Cond.laysFinal "CoatHoles$Cup" "CoatHoles$Cup" "stuffs" "[LCoatHoles$Silk;") ∈ lw_all := lw_g (lw_at lw_m2 11 rfl) rfl
theorem q354 : (Jvm.Cond.soleField "CoatHoles$Cup" "stuffs") ∈ lw_all := lw_g (lw_at lw_m2 12 rfl) rfl
theorem q355 : (Jvm.Cond.laysFinal "CoatHoles$Cup" "CoatHoles$Cup" "items" "[LCoatHoles$Item;") ∈ lw_all := lw_g (lw_at lw_m2 13 rfl) rfl
theorem q356 : (Jvm.Cond.soleField "CoatHoles$Cup" "items") ∈ lw_all := lw_g (lw_at lw_m2 14 rfl) rfl
theorem q357 : (Jvm.Cond.lays "CoatHoles$Cup" "CoatHoles$Cup" "things" "I") ∈ lw_all := lw_g (lw_at lw_m2 15 rfl) rfl
theorem q358 : (Jvm.Cond.soleField "CoatHoles$Cup" "things") ∈ lw_all := lw_g (lw_at lw_m2 16 rfl) rfl
theorem q359 : (Jvm.Cond.lays "CoatHoles$Cup" "CoatHoles$Cup" "doings" "I") ∈ lw_all := lw_g (lw_at lw_m2 17 rfl) rfl
theorem q360 : (Jvm.Cond.soleField "CoatHoles$Cup" "doings") ∈ lw_all := lw_g (lw_at lw_m2 18 rfl) rfl
theorem q361 : (Jvm.Cond.lays "CoatHoles$Cup" "CoatHoles$Cup" "looks" "I") ∈ lw_all := lw_g (lw_at lw_m2 19 rfl) rfl
theorem q362 : (Jvm.Cond.soleField "CoatHoles$Cup" "looks") ∈ lw_all := lw_g (lw_at lw_m2 20 rfl) rfl
theorem q363 : (Jvm.Cond.lays "CoatHoles$Cup" "CoatHoles$Cup" "week" "I") ∈ lw_all := lw_g (lw_at lw_m2 21 rfl) rfl
theorem q364 : (Jvm.Cond.soleField "CoatHoles$Cup" "week") ∈ lw_all := lw_g (lw_at lw_m2 22 rfl) rfl
theorem q365 : (Jvm.Cond.lays "CoatHoles$Cup" "CoatHoles$Cup" "cards" "I") ∈ lw_all := lw_g (lw_at lw_m2 23 rfl) rfl
theorem q366 : (Jvm.Cond.soleField "CoatHoles$Cup" "cards") ∈ lw_all := lw_g (lw_at lw_m2 24 rfl) rfl
theorem q367 : (Jvm.Cond.lays "CoatHoles$Cup" "CoatHoles$Cup" "z" "I") ∈ lw_all := lw_g (lw_at lw_m2 25 rfl) rfl
theorem q368 : (Jvm.Cond.soleField "CoatHoles$Cup" "z") ∈ lw_all := lw_g (lw_at lw_m2 26 rfl) rfl
theorem q369 : (Jvm.Cond.laysFinal "CoatHoles$Cup" "CoatHoles$Cup" "fliers" "[I") ∈ lw_all := lw_g (lw_at lw_m2 27 rfl) rfl
theorem q370 : (Jvm.Cond.soleField "CoatHoles$Cup" "fliers") ∈ lw_all := lw_g (lw_at lw_m2 28 rfl) rfl
theorem q371 : (Jvm.Cond.laysFinal "CoatHoles$Cup" "CoatHoles$Cup" "caught" "[I") ∈ lw_all := lw_g (lw_at lw_m2 29 rfl) rfl
theorem q372 : (Jvm.Cond.soleField "CoatHoles$Cup" "caught") ∈ lw_all := lw_g (lw_at lw_m2 30 rfl) rfl
theorem q373 : (Jvm.Cond.laysFinal "CoatHoles$Cup" "CoatHoles$Cup" "weight" "[I") ∈ lw_all := lw_g (lw_at lw_m2 31 rfl) rfl
theorem q374 : (Jvm.Cond.soleField "CoatHoles$Cup" "weight") ∈ lw_all := lw_g (lw_at lw_m2 32 rfl) rfl
theorem q375 : (Jvm.Cond.laysFinal "CoatHoles$Cup" "CoatHoles$Cup" "law" "[I") ∈ lw_all := lw_g (lw_at lw_m2 33 rfl) rfl
theorem q376 : (Jvm.Cond.soleField "CoatHoles$Cup" "law") ∈ lw_all := lw_g (lw_at lw_m2 34 rfl) rfl
theorem q377 : (Jvm.Cond.laysFinal "CoatHoles$Cup" "CoatHoles$Cup" "warm" "[I") ∈ lw_all := lw_g (lw_at lw_m2 35 rfl) rfl
theorem q378 : (Jvm.Cond.soleField "CoatHoles$Cup" "warm") ∈ lw_all := lw_g (lw_at lw_m2 36 rfl) rfl
theorem q379 : (Jvm.Cond.laysFinal "CoatHoles$Cup" "CoatHoles$Cup" "kind" "[I") ∈ lw_all := lw_g (lw_at lw_m2 37 rfl) rfl
theorem q380 : (Jvm.Cond.soleField "CoatHoles$Cup" "kind") ∈ lw_all := lw_g (lw_at lw_m2 38 rfl) rfl
theorem q381 : (Jvm.Cond.laysFinal "CoatHoles$Cup" "CoatHoles$Cup" "price" "[I") ∈ lw_all := lw_g (lw_at lw_m2 39 rfl) rfl
theorem q382 : (Jvm.Cond.soleField "CoatHoles$Cup" "price") ∈ lw_all := lw_g (lw_at lw_m2 40 rfl) rfl
theorem q383 : (Jvm.Cond.laysFinal "CoatHoles$Cup" "CoatHoles$Cup" "lookAt" "[I") ∈ lw_all := lw_g (lw_at lw_m2 41 rfl) rfl
theorem q384 : (Jvm.Cond.soleField "CoatHoles$Cup" "lookAt") ∈ lw_all := lw_g (lw_at lw_m2 42 rfl) rfl
theorem q385 : (Jvm.Cond.laysFinal "CoatHoles$Cup" "CoatHoles$Cup" "isSeen" "[Z") ∈ lw_all := lw_g (lw_at lw_m2 43 rfl) rfl
theorem q386 : (Jvm.Cond.soleField "CoatHoles$Cup" "isSeen") ∈ lw_all := lw_g (lw_at lw_m2 44 rfl) rfl
theorem q387 : (Jvm.Cond.superclass "CoatHoles$Cup" "java/lang/Object") ∈ lw_all := lw_g (lw_at lw_m2 45 rfl) rfl
theorem q641 : (Jvm.Cond.instanceMethod ({ cls := "CoatHoles$Cup", name := "become", desc := "(LCoatHoles$Cup;)V" } : Jvm.MethodName)) ∈ lw_all := lw_g (lw_at lw_m3 59 rfl) rfl
theorem q642 : (Jvm.Cond.selects "CoatHoles$Cup" ({ cls := "CoatHoles$Cup", name := "become", desc := "(LCoatHoles$Cup;)V" } : Jvm.MethodName) ({ cls := "CoatHoles$Cup", name := "become", desc := "(LCoatHoles$Cup;)V" } : Jvm.MethodName)) ∈ lw_all := lw_g (lw_at lw_m3 60 rfl) rfl
theorem q643 : (Jvm.Cond.code ({ cls := "CoatHoles$Cup", name := "become", desc := "(LCoatHoles$Cup;)V" } : Jvm.MethodName) prog_10_method_5_code (2 : Nat) (Option.none : Option Jvm.ClassFile.FieldType)) ∈ lw_all := lw_g (lw_at lw_m3 61 rfl) rfl
theorem q644 : (Jvm.Cond.methodLink "CoatHoles$Cup" (99 : Nat) ({ cls := "CoatHoles$Cup", name := "lies", desc := "(LCoatHoles$Cup;)V" } : Jvm.MethodName)) ∈ lw_all := lw_g (lw_at lw_m3 62 rfl) rfl
theorem q645 : (Jvm.Cond.instanceMethod ({ cls := "CoatHoles$Cup", name := "lies", desc := "(LCoatHoles$Cup;)V" } : Jvm.MethodName)) ∈ lw_all := lw_g (lw_at lw_m3 63 rfl) rfl
theorem q646 : (Jvm.Cond.selects "CoatHoles$Cup" ({ cls := "CoatHoles$Cup", name := "lies", desc := "(LCoatHoles$Cup;)V" } : Jvm.MethodName) ({ cls := "CoatHoles$Cup", name := "lies", desc := "(LCoatHoles$Cup;)V" } : Jvm.MethodName)) ∈ lw_all := lw_g (lw_at lw_m3 64 rfl) rfl
theorem q647 : (Jvm.Cond.code ({ cls := "CoatHoles$Cup", name := "lies", desc := "(LCoatHoles$Cup;)V" } : Jvm.MethodName) prog_10_method_4_code (3 : Nat) (Option.none : Option Jvm.ClassFile.FieldType)) ∈ lw_all := lw_g (lw_at lw_m3 65 rfl) rfl
theorem q648 : (Jvm.Cond.methodLink "CoatHoles$Cup" (91 : Nat) ({ cls := "CoatHoles$Item", name := "become", desc := "(LCoatHoles$Item;)V" } : Jvm.MethodName)) ∈ lw_all := lw_g (lw_at lw_m3 66 rfl) rfl
theorem q659 : (Jvm.Cond.methodLink "CoatHoles$Cup" (95 : Nat) ({ cls := "CoatHoles$Cup", name := "copy", desc := "([I[I)V" } : Jvm.MethodName)) ∈ lw_all := lw_g (lw_at lw_m3 77 rfl) rfl
theorem q660 : (Jvm.Cond.static ({ cls := "CoatHoles$Cup", name := "copy", desc := "([I[I)V" } : Jvm.MethodName)) ∈ lw_all := lw_g (lw_at lw_m3 78 rfl) rfl
theorem q661 : (Jvm.Cond.code ({ cls := "CoatHoles$Cup", name := "copy", desc := "([I[I)V" } : Jvm.MethodName) prog_10_method_2_code (2 : Nat) (Option.none : Option Jvm.ClassFile.FieldType)) ∈ lw_all := lw_g (lw_at lw_m3 79 rfl) rfl
theorem q662 : (Jvm.Cond.methodLink "CoatHoles$Cup" (73 : Nat) ({ cls := "java/lang/System", name := "arraycopy", desc := "(Ljava/lang/Object;ILjava/lang/Object;II)V" } : Jvm.MethodName)) ∈ lw_all := lw_g (lw_at lw_m3 80 rfl) rfl
theorem q686 : (Jvm.Cond.instanceMethod ({ cls := "CoatHoles$Cup", name := "begins", desc := "()V" } : Jvm.MethodName)) ∈ lw_all := lw_g (lw_at lw_m3 104 rfl) rfl
theorem q687 : (Jvm.Cond.selects "CoatHoles$Cup" ({ cls := "CoatHoles$Cup", name := "begins", desc := "()V" } : Jvm.MethodName) ({ cls := "CoatHoles$Cup", name := "begins", desc := "()V" } : Jvm.MethodName)) ∈ lw_all := lw_g (lw_at lw_m3 105 rfl) rfl
theorem q688 : (Jvm.Cond.code ({ cls := "CoatHoles$Cup", name := "begins", desc := "()V" } : Jvm.MethodName) prog_10_method_3_code (2 : Nat) (Option.none : Option Jvm.ClassFile.FieldType)) ∈ lw_all := lw_g (lw_at lw_m3 106 rfl) rfl
theorem q786 : (Jvm.Cond.instanceMethod ({ cls := "CoatHoles$Cup", name := "add", desc := "(IIII)I" } : Jvm.MethodName)) ∈ lw_all := lw_g (lw_at lw_m3 204 rfl) rfl
theorem q787 : (Jvm.Cond.selects "CoatHoles$Cup" ({ cls := "CoatHoles$Cup", name := "add", desc := "(IIII)I" } : Jvm.MethodName) ({ cls := "CoatHoles$Cup", name := "add", desc := "(IIII)I" } : Jvm.MethodName)) ∈ lw_all := lw_g (lw_at lw_m3 205 rfl) rfl
theorem q788 : (Jvm.Cond.code ({ cls := "CoatHoles$Cup", name := "add", desc := "(IIII)I" } : Jvm.MethodName) prog_10_method_6_code (5 : Nat) (Option.some Jvm.ClassFile.FieldType.int)) ∈ lw_all := lw_g (lw_at lw_m3 206 rfl) rfl
theorem q789 : (Jvm.Cond.methodLink "CoatHoles$Cup" (106 : Nat) ({ cls := "CoatHoles$Item", name := "begins", desc := "(IIII)V" } : Jvm.MethodName)) ∈ lw_all := lw_g (lw_at lw_m3 207 rfl) rfl
theorem q812 : (Jvm.Cond.instanceMethod ({ cls := "CoatHoles$Cup", name := "taste", desc := "(I)I" } : Jvm.MethodName)) ∈ lw_all := lw_g (lw_at lw_m3 230 rfl) rfl
theorem q813 : (Jvm.Cond.selects "CoatHoles$Cup" ({ cls := "CoatHoles$Cup", name := "taste", desc := "(I)I" } : Jvm.MethodName) ({ cls := "CoatHoles$Cup", name := "taste", desc := "(I)I" } : Jvm.MethodName)) ∈ lw_all := lw_g (lw_at lw_m3 231 rfl) rfl
theorem q814 : (Jvm.Cond.code ({ cls := "CoatHoles$Cup", name := "taste", desc := "(I)I" } : Jvm.MethodName) prog_10_method_7_code (2 : Nat) (Option.some Jvm.ClassFile.FieldType.int)) ∈ lw_all := lw_g (lw_at lw_m3 232 rfl) rfl
theorem q815 : (Jvm.Cond.methodLink "CoatHoles$Cup" (116 : Nat) ({ cls := "CoatHoles$Silk", name := "taste", desc := "(I)I" } : Jvm.MethodName)) ∈ lw_all := lw_g (lw_at lw_m3 233 rfl) rfl
theorem q841 : (Jvm.Cond.instanceMethod ({ cls := "CoatHoles$Cup", name := "liking", desc := "(I)I" } : Jvm.MethodName)) ∈ lw_all := lw_g (lw_at lw_m4 19 rfl) rfl
theorem q842 : (Jvm.Cond.selects "CoatHoles$Cup" ({ cls := "CoatHoles$Cup", name := "liking", desc := "(I)I" } : Jvm.MethodName) ({ cls := "CoatHoles$Cup", name := "liking", desc := "(I)I" } : Jvm.MethodName)) ∈ lw_all := lw_g (lw_at lw_m4 20 rfl) rfl
theorem q843 : (Jvm.Cond.code ({ cls := "CoatHoles$Cup", name := "liking", desc := "(I)I" } : Jvm.MethodName) prog_10_method_8_code (2 : Nat) (Option.some Jvm.ClassFile.FieldType.int)) ∈ lw_all := lw_g (lw_at lw_m4 21 rfl) rfl
theorem q844 : (Jvm.Cond.methodLink "CoatHoles$Cup" (120 : Nat) ({ cls := "CoatHoles$Cup", name := "taste", desc := "(I)I" } : Jvm.MethodName)) ∈ lw_all := lw_g (lw_at lw_m4 22 rfl) rfl
theorem q892 : (Jvm.Cond.instanceMethod ({ cls := "CoatHoles$Cup", name := "goes", desc := "()V" } : Jvm.MethodName)) ∈ lw_all := lw_g (lw_at lw_m4 70 rfl) rfl
theorem q893 : (Jvm.Cond.selects "CoatHoles$Cup" ({ cls := "CoatHoles$Cup", name := "goes", desc := "()V" } : Jvm.MethodName) ({ cls := "CoatHoles$Cup", name := "goes", desc := "()V" } : Jvm.MethodName)) ∈ lw_all := lw_g (lw_at lw_m4 71 rfl) rfl
theorem q894 : (Jvm.Cond.code ({ cls := "CoatHoles$Cup", name := "goes", desc := "()V" } : Jvm.MethodName) prog_10_method_16_code (2 : Nat) (Option.none : Option Jvm.ClassFile.FieldType)) ∈ lw_all := lw_g (lw_at lw_m4 72 rfl) rfl
theorem q895 : (Jvm.Cond.methodLink "CoatHoles$Cup" (175 : Nat) ({ cls := "CoatHoles$Cup", name := "flies", desc := "(I)V" } : Jvm.MethodName)) ∈ lw_all := lw_g (lw_at lw_m4 73 rfl) rfl
theorem q896 : (Jvm.Cond.privateMethod ({ cls := "CoatHoles$Cup", name := "flies", desc := "(I)V" } : Jvm.MethodName)) ∈ lw_tbl := lw_at lw_m4 74 rfl
theorem q897 : (Jvm.Cond.instanceMethod ({ cls := "CoatHoles$Cup", name := "flies", desc := "(I)V" } : Jvm.MethodName)) ∈ lw_all := lw_g (lw_at lw_m4 75 rfl) rfl
theorem q898 : (Jvm.Cond.code ({ cls := "CoatHoles$Cup", name := "flies", desc := "(I)V" } : Jvm.MethodName) prog_10_method_13_code (3 : Nat) (Option.none : Option Jvm.ClassFile.FieldType)) ∈ lw_all := lw_g (lw_at lw_m4 76 rfl) rfl
theorem q899 : (Jvm.Cond.methodLinkNest "CoatHoles$Cup" (151 : Nat) ({ cls := "CoatHoles", name := "has", desc := "(II)Z" } : Jvm.MethodName) "CoatHoles") ∈ lw_tbl := lw_at lw_m4 77 rfl
theorem q900 : (Jvm.Cond.methodLink "CoatHoles$Cup" (155 : Nat) ({ cls := "CoatHoles$Cup", name := "lays", desc := "(I)V" } : Jvm.MethodName)) ∈ lw_all := lw_g (lw_at lw_m4 78 rfl) rfl
theorem q901 : (Jvm.Cond.privateMethod ({ cls := "CoatHoles$Cup", name := "lays", desc := "(I)V" } : Jvm.MethodName)) ∈ lw_tbl := lw_at lw_m4 79 rfl
theorem q902 : (Jvm.Cond.instanceMethod ({ cls := "CoatHoles$Cup", name := "lays", desc := "(I)V" } : Jvm.MethodName)) ∈ lw_all := lw_g (lw_at lw_m4 80 rfl) rfl
theorem q903 : (Jvm.Cond.code ({ cls := "CoatHoles$Cup", name := "lays", desc := "(I)V" } : Jvm.MethodName) prog_10_method_12_code (5 : Nat) (Option.none : Option Jvm.ClassFile.FieldType)) ∈ lw_all := lw_g (lw_at lw_m4 81 rfl) rfl
theorem q904 : (Jvm.Cond.methodLink "CoatHoles$Cup" (144 : Nat) ({ cls := "CoatHoles$Cup", name := "liking", desc := "(I)I" } : Jvm.MethodName)) ∈ lw_all := lw_g (lw_at lw_m4 82 rfl) rfl
theorem q905 : (Jvm.Cond.methodLink "CoatHoles$Cup" (147 : Nat) ({ cls := "CoatHoles$Item", name := "comes", desc := "(II)V" } : Jvm.MethodName)) ∈ lw_all := lw_g (lw_at lw_m4 83 rfl) rfl
theorem q912 : (Jvm.Cond.methodLink "CoatHoles$Cup" (178 : Nat) ({ cls := "CoatHoles$Cup", name := "grows", desc := "(I)V" } : Jvm.MethodName)) ∈ lw_all := lw_g (lw_at lw_m4 90 rfl) rfl
theorem q913 : (Jvm.Cond.privateMethod ({ cls := "CoatHoles$Cup", name := "grows", desc := "(I)V" } : Jvm.MethodName)) ∈ lw_tbl := lw_at lw_m4 91 rfl
theorem q914 : (Jvm.Cond.instanceMethod ({ cls := "CoatHoles$Cup", name := "grows", desc := "(I)V" } : Jvm.MethodName)) ∈ lw_all := lw_g (lw_at lw_m4 92 rfl) rfl
theorem q915 : (Jvm.Cond.code ({ cls := "CoatHoles$Cup", name := "grows", desc := "(I)V" } : Jvm.MethodName) prog_10_method_15_code (4 : Nat) (Option.none : Option Jvm.ClassFile.FieldType)) ∈ lw_all := lw_g (lw_at lw_m4 93 rfl) rfl
theorem q916 : (Jvm.Cond.methodLink "CoatHoles$Cup" (162 : Nat) ({ cls := "CoatHoles$Cup", name := "warmth", desc := "()I" } : Jvm.MethodName)) ∈ lw_all := lw_g (lw_at lw_m4 94 rfl) rfl
theorem q917 : (Jvm.Cond.instanceMethod ({ cls := "CoatHoles$Cup", name := "warmth", desc := "()I" } : Jvm.MethodName)) ∈ lw_all := lw_g (lw_at lw_m4 95 rfl) rfl
theorem q918 : (Jvm.Cond.selects "CoatHoles$Cup" ({ cls := "CoatHoles$Cup", name := "warmth", desc := "()I" } : Jvm.MethodName) ({ cls := "CoatHoles$Cup", name := "warmth", desc := "()I" } : Jvm.MethodName)) ∈ lw_all := lw_g (lw_at lw_m4 96 rfl) rfl
theorem q919 : (Jvm.Cond.code ({ cls := "CoatHoles$Cup", name := "warmth", desc := "()I" } : Jvm.MethodName) prog_10_method_9_code (1 : Nat) (Option.some Jvm.ClassFile.FieldType.int)) ∈ lw_all := lw_g (lw_at lw_m4 97 rfl) rfl
theorem q920 : (Jvm.Cond.methodLink "CoatHoles$Cup" (165 : Nat) ({ cls := "java/lang/Math", name := "min", desc := "(II)I" } : Jvm.MethodName)) ∈ lw_all := lw_g (lw_at lw_m4 98 rfl) rfl
theorem q921 : (Jvm.Cond.methodLink "CoatHoles$Cup" (168 : Nat) ({ cls := "CoatHoles$Item", name := "halves", desc := "(I)V" } : Jvm.MethodName)) ∈ lw_all := lw_g (lw_at lw_m4 99 rfl) rfl
theorem q925 : (Jvm.Cond.methodLink "CoatHoles$Cup" (171 : Nat) ({ cls := "CoatHoles$Cup", name := "turns", desc := "(LCoatHoles$Item;II)V" } : Jvm.MethodName)) ∈ lw_all := lw_g (lw_at lw_m4 103 rfl) rfl
theorem q926 : (Jvm.Cond.privateMethod ({ cls := "CoatHoles$Cup", name := "turns", desc := "(LCoatHoles$Item;II)V" } : Jvm.MethodName)) ∈ lw_tbl := lw_at lw_m4 104 rfl
theorem q927 : (Jvm.Cond.instanceMethod ({ cls := "CoatHoles$Cup", name := "turns", desc := "(LCoatHoles$Item;II)V" } : Jvm.MethodName)) ∈ lw_all := lw_g (lw_at lw_m4 105 rfl) rfl
theorem q928 : (Jvm.Cond.code ({ cls := "CoatHoles$Cup", name := "turns", desc := "(LCoatHoles$Item;II)V" } : Jvm.MethodName) prog_10_method_14_code (4 : Nat) (Option.none : Option Jvm.ClassFile.FieldType)) ∈ lw_all := lw_g (lw_at lw_m4 106 rfl) rfl
theorem q935 : (Jvm.Cond.instanceMethod ({ cls := "CoatHoles$Cup", name := "alive", desc := "()I" } : Jvm.MethodName)) ∈ lw_all := lw_g (lw_at lw_m4 113 rfl) rfl
theorem q936 : (Jvm.Cond.selects "CoatHoles$Cup" ({ cls := "CoatHoles$Cup", name := "alive", desc := "()I" } : Jvm.MethodName) ({ cls := "CoatHoles$Cup", name := "alive", desc := "()I" } : Jvm.MethodName)) ∈ lw_all := lw_g (lw_at lw_m4 114 rfl) rfl
theorem q937 : (Jvm.Cond.code ({ cls := "CoatHoles$Cup", name := "alive", desc := "()I" } : Jvm.MethodName) prog_10_method_10_code (3 : Nat) (Option.some Jvm.ClassFile.FieldType.int)) ∈ lw_all := lw_g (lw_at lw_m4 115 rfl) rfl
theorem q938 : (Jvm.Cond.methodLink "CoatHoles$Cup" (125 : Nat) ({ cls := "CoatHoles$Item", name := "alive", desc := "()I" } : Jvm.MethodName)) ∈ lw_all := lw_g (lw_at lw_m4 116 rfl) rfl
theorem q943 : (Jvm.Cond.instanceMethod ({ cls := "CoatHoles$Cup", name := "kept", desc := "()I" } : Jvm.MethodName)) ∈ lw_all := lw_g (lw_at lw_m4 121 rfl) rfl
theorem q944 : (Jvm.Cond.selects "CoatHoles$Cup" ({ cls := "CoatHoles$Cup", name := "kept", desc := "()I" } : Jvm.MethodName) ({ cls := "CoatHoles$Cup", name := "kept", desc := "()I" } : Jvm.MethodName)) ∈ lw_all := lw_g (lw_at lw_m4 122 rfl) rfl
theorem q945 : (Jvm.Cond.code ({ cls := "CoatHoles$Cup", name := "kept", desc := "()I" } : Jvm.MethodName) prog_10_method_11_code (3 : Nat) (Option.some Jvm.ClassFile.FieldType.int)) ∈ lw_all := lw_g (lw_at lw_m4 123 rfl) rfl
theorem q946 : (Jvm.Cond.methodLink "CoatHoles$Cup" (135 : Nat) ({ cls := "java/lang/Math", name := "max", desc := "(II)I" } : Jvm.MethodName)) ∈ lw_all := lw_g (lw_at lw_m4 124 rfl) rfl
theorem in_X7 : ∀ w ∈ wsX70, w ∈ lw_all := lw_in wsX70 [353, 355, 357, 359, 361, 363, 365, 367, 369, 371, 373, 375, 377, 379, 381, 383, 385] (by decide +kernel) (by decide +kernel)

/-! CoatHoles$Reader -/
set_option maxRecDepth 100000
def RX15 : String := "CoatHoles$Reader"
def TX15 : u_T := fun k => match k with
  | 0 => ("CoatHoles$Reader", "stuffs", "[Ljava/lang/String;", true)
  | 1 => ("CoatHoles$Reader", "fault", "LCoatHoles$Fault;", true)
  | 2 => ("CoatHoles$Reader", "c", "LCoatHoles$Cup;", true)
  | 3 => ("CoatHoles$Reader", "text", "[B", false)
  | 4 => ("CoatHoles$Reader", "many", "I", false)
  | 5 => ("CoatHoles$Reader", "from", "I", false)
  | _ => ("CoatHoles$Reader", "to", "I", false)
def tyX15 : Nat → FieldType := fun k => match k with
  | 0 => .array (.object "java/lang/String")
  | 1 => .object "CoatHoles$Fault"
  | 2 => .object "CoatHoles$Cup"
  | 3 => .array .byte
  | 4 => .int
  | 5 => .int
  | _ => .int
abbrev wsX150 : List Cond := u_ws RX15 TX15 7
theorem nmX15 : ∀ a, a < 7 → ∀ b, b < 7 → a ≠ b → (TX15 a).2.1 ≠ (TX15 b).2.1 := by decide +kernel
theorem tyX15_ok : ∀ k, k < 7 → parseFieldDescriptor (TX15 k).2.2.1 = some (tyX15 k) := by decide +kernel
abbrev cX15_init : ByteArray := prog_20_method_1_code
def yX15_init : MethodName := ⟨RX15, "<init>", "(LCoatHoles$Cup;)V"⟩
def dkwX15_init_2 : List UInt8 := [183, 0, 31, 181, 0, 32, 42, 43, 181, 0, 36, 177]
abbrev dktX15_init_2 : List UInt8 := dkwX15_init_2 ++ []
def dkwX15_init_1 : List UInt8 := [83, 89, 6, 18, 17, 83, 89, 7, 18, 19, 83, 89, 8, 18, 21, 83, 181, 0, 23, 42, 187, 0, 29, 89]
abbrev dktX15_init_1 : List UInt8 := dkwX15_init_1 ++ dktX15_init_2
def dkwX15_init_0 : List UInt8 := [42, 183, 0, 3, 42, 16, 6, 189, 0, 9, 89, 3, 18, 11, 83, 89, 4, 18, 13, 83, 89, 5, 18, 15]
abbrev dktX15_init_0 : List UInt8 := dkwX15_init_0 ++ dktX15_init_1
theorem dksX15_init_0 : cX15_init.data.toList.drop 0 = dktX15_init_0 := by decide +kernel
theorem dksX15_init_1 : cX15_init.data.toList.drop 24 = dktX15_init_1 := dk_seg dksX15_init_0 24 rfl rfl
theorem dksX15_init_2 : cX15_init.data.toList.drop 48 = dktX15_init_2 := dk_seg dksX15_init_1 24 rfl rfl
theorem dX15_init_0 : decode cX15_init 0 = .ok (.aload_n 0, 1) := dk_42 (dk_at dksX15_init_0 0 rfl rfl)
theorem dX15_init_1 : decode cX15_init 1 = .ok (.invokespecial 3, 3) := dk_183 0 3 (dk_at dksX15_init_0 1 rfl rfl)
theorem dX15_init_4 : decode cX15_init 4 = .ok (.aload_n 0, 1) := dk_42 (dk_at dksX15_init_0 4 rfl rfl)
theorem dX15_init_5 : decode cX15_init 5 = .ok (.bipush 6, 2) := dk_16 6 (dk_at dksX15_init_0 5 rfl rfl)
theorem dX15_init_7 : decode cX15_init 7 = .ok (.anewarray 9, 3) := dk_189 0 9 (dk_at dksX15_init_0 7 rfl rfl)
theorem dX15_init_10 : decode cX15_init 10 = .ok (.dup, 1) := dk_89 (dk_at dksX15_init_0 10 rfl rfl)
theorem dX15_init_11 : decode cX15_init 11 = .ok (.iconst 0, 1) := dk_3 (dk_at dksX15_init_0 11 rfl rfl)
theorem dX15_init_12 : decode cX15_init 12 = .ok (.ldc 11, 2) := dk_18 11 (dk_at dksX15_init_0 12 rfl rfl)
theorem dX15_init_14 : decode cX15_init 14 = .ok (.aastore, 1) := dk_83 (dk_at dksX15_init_0 14 rfl rfl)
theorem dX15_init_15 : decode cX15_init 15 = .ok (.dup, 1) := dk_89 (dk_at dksX15_init_0 15 rfl rfl)
theorem dX15_init_16 : decode cX15_init 16 = .ok (.iconst 1, 1) := dk_4 (dk_at dksX15_init_0 16 rfl rfl)
theorem dX15_init_17 : decode cX15_init 17 = .ok (.ldc 13, 2) := dk_18 13 (dk_at dksX15_init_0 17 rfl rfl)
theorem dX15_init_19 : decode cX15_init 19 = .ok (.aastore, 1) := dk_83 (dk_at dksX15_init_0 19 rfl rfl)
theorem dX15_init_20 : decode cX15_init 20 = .ok (.dup, 1) := dk_89 (dk_at dksX15_init_0 20 rfl rfl)
theorem dX15_init_21 : decode cX15_init 21 = .ok (.iconst 2, 1) := dk_5 (dk_at dksX15_init_0 21 rfl rfl)
theorem dX15_init_22 : decode cX15_init 22 = .ok (.ldc 15, 2) := dk_18 15 (dk_at dksX15_init_0 22 rfl rfl)
theorem dX15_init_24 : decode cX15_init 24 = .ok (.aastore, 1) := dk_83 (dk_at dksX15_init_1 0 rfl rfl)
theorem dX15_init_25 : decode cX15_init 25 = .ok (.dup, 1) := dk_89 (dk_at dksX15_init_1 1 rfl rfl)
theorem dX15_init_26 : decode cX15_init 26 = .ok (.iconst 3, 1) := dk_6 (dk_at dksX15_init_1 2 rfl rfl)
theorem dX15_init_27 : decode cX15_init 27 = .ok (.ldc 17, 2) := dk_18 17 (dk_at dksX15_init_1 3 rfl rfl)
theorem dX15_init_29 : decode cX15_init 29 = .ok (.aastore, 1) := dk_83 (dk_at dksX15_init_1 5 rfl rfl)
theorem dX15_init_30 : decode cX15_init 30 = .ok (.dup, 1) := dk_89 (dk_at dksX15_init_1 6 rfl rfl)
theorem dX15_init_31 : decode cX15_init 31 = .ok (.iconst 4, 1) := dk_7 (dk_at dksX15_init_1 7 rfl rfl)
theorem dX15_init_32 : decode cX15_init 32 = .ok (.ldc 19, 2) := dk_18 19 (dk_at dksX15_init_1 8 rfl rfl)
theorem dX15_init_34 : decode cX15_init 34 = .ok (.aastore, 1) := dk_83 (dk_at dksX15_init_1 10 rfl rfl)
theorem dX15_init_35 : decode cX15_init 35 = .ok (.dup, 1) := dk_89 (dk_at dksX15_init_1 11 rfl rfl)
theorem dX15_init_36 : decode cX15_init 36 = .ok (.iconst 5, 1) := dk_8 (dk_at dksX15_init_1 12 rfl rfl)
theorem dX15_init_37 : decode cX15_init 37 = .ok (.ldc 21, 2) := dk_18 21 (dk_at dksX15_init_1 13 rfl rfl)
theorem dX15_init_39 : decode cX15_init 39 = .ok (.aastore, 1) := dk_83 (dk_at dksX15_init_1 15 rfl rfl)
theorem dX15_init_40 : decode cX15_init 40 = .ok (.putfield 23, 3) := dk_181 0 23 (dk_at dksX15_init_1 16 rfl rfl)
theorem dX15_init_43 : decode cX15_init 43 = .ok (.aload_n 0, 1) := dk_42 (dk_at dksX15_init_1 19 rfl rfl)
theorem dX15_init_44 : decode cX15_init 44 = .ok (.new 29, 3) := dk_187 0 29 (dk_at dksX15_init_1 20 rfl rfl)
theorem dX15_init_47 : decode cX15_init 47 = .ok (.dup, 1) := dk_89 (dk_at dksX15_init_1 23 rfl rfl)
theorem dX15_init_48 : decode cX15_init 48 = .ok (.invokespecial 31, 3) := dk_183 0 31 (dk_at dksX15_init_2 0 rfl rfl)
theorem dX15_init_51 : decode cX15_init 51 = .ok (.putfield 32, 3) := dk_181 0 32 (dk_at dksX15_init_2 3 rfl rfl)
theorem dX15_init_54 : decode cX15_init 54 = .ok (.aload_n 0, 1) := dk_42 (dk_at dksX15_init_2 6 rfl rfl)
theorem dX15_init_55 : decode cX15_init 55 = .ok (.aload_n 1, 1) := dk_43 (dk_at dksX15_init_2 7 rfl rfl)
theorem dX15_init_56 : decode cX15_init 56 = .ok (.putfield 36, 3) := dk_181 0 36 (dk_at dksX15_init_2 8 rfl rfl)
theorem dX15_init_59 : decode cX15_init 59 = .ok (.return_, 1) := dk_177 (dk_at dksX15_init_2 11 rfl rfl)
abbrev cX15_read : ByteArray := prog_20_method_17_code
def yX15_read : MethodName := ⟨RX15, "read", "([BI)V"⟩
def dkwX15_read_1 : List UInt8 := [42, 182, 0, 164, 167, 255, 241, 177]
abbrev dktX15_read_1 : List UInt8 := dkwX15_read_1 ++ []
def dkwX15_read_0 : List UInt8 := [42, 43, 28, 182, 0, 158, 42, 180, 0, 36, 182, 0, 162, 42, 180, 0, 40, 42, 180, 0, 44, 162, 0, 10]
abbrev dktX15_read_0 : List UInt8 := dkwX15_read_0 ++ dktX15_read_1
theorem dksX15_read_0 : cX15_read.data.toList.drop 0 = dktX15_read_0 := by decide +kernel
theorem dksX15_read_1 : cX15_read.data.toList.drop 24 = dktX15_read_1 := dk_seg dksX15_read_0 24 rfl rfl
theorem dX15_read_0 : decode cX15_read 0 = .ok (.aload_n 0, 1) := dk_42 (dk_at dksX15_read_0 0 rfl rfl)
theorem dX15_read_1 : decode cX15_read 1 = .ok (.aload_n 1, 1) := dk_43 (dk_at dksX15_read_0 1 rfl rfl)
theorem dX15_read_2 : decode cX15_read 2 = .ok (.iload_n 2, 1) := dk_28 (dk_at dksX15_read_0 2 rfl rfl)
theorem dX15_read_3 : decode cX15_read 3 = .ok (.invokevirtual 158, 3) := dk_182 0 158 (dk_at dksX15_read_0 3 rfl rfl)
theorem dX15_read_6 : decode cX15_read 6 = .ok (.aload_n 0, 1) := dk_42 (dk_at dksX15_read_0 6 rfl rfl)
theorem dX15_read_7 : decode cX15_read 7 = .ok (.getfield 36, 3) := dk_180 0 36 (dk_at dksX15_read_0 7 rfl rfl)
theorem dX15_read_10 : decode cX15_read 10 = .ok (.invokevirtual 162, 3) := dk_182 0 162 (dk_at dksX15_read_0 10 rfl rfl)
theorem dX15_read_13 : decode cX15_read 13 = .ok (.aload_n 0, 1) := dk_42 (dk_at dksX15_read_0 13 rfl rfl)
theorem dX15_read_14 : decode cX15_read 14 = .ok (.getfield 40, 3) := dk_180 0 40 (dk_at dksX15_read_0 14 rfl rfl)
theorem dX15_read_17 : decode cX15_read 17 = .ok (.aload_n 0, 1) := dk_42 (dk_at dksX15_read_0 17 rfl rfl)
theorem dX15_read_18 : decode cX15_read 18 = .ok (.getfield 44, 3) := dk_180 0 44 (dk_at dksX15_read_0 18 rfl rfl)
theorem dX15_read_21 : decode cX15_read 21 = .ok (.if_icmp .ge 10, 3) := dk_162 0 10 (dk_at dksX15_read_0 21 rfl rfl)
theorem dX15_read_24 : decode cX15_read 24 = .ok (.aload_n 0, 1) := dk_42 (dk_at dksX15_read_1 0 rfl rfl)
theorem dX15_read_25 : decode cX15_read 25 = .ok (.invokevirtual 164, 3) := dk_182 0 164 (dk_at dksX15_read_1 1 rfl rfl)
theorem dX15_read_28 : decode cX15_read 28 = .ok (.goto (-15), 3) := dk_167 255 241 (dk_at dksX15_read_1 4 rfl rfl)
theorem dX15_read_31 : decode cX15_read 31 = .ok (.return_, 1) := dk_177 (dk_at dksX15_read_1 7 rfl rfl)
abbrev cX15_begins : ByteArray := prog_20_method_12_code
def yX15_begins : MethodName := ⟨RX15, "begins", "([BI)V"⟩
def dkwX15_begins_0 : List UInt8 := [42, 43, 181, 0, 47, 42, 28, 181, 0, 44, 42, 3, 181, 0, 51, 42, 182, 0, 80, 177]
abbrev dktX15_begins_0 : List UInt8 := dkwX15_begins_0 ++ []
theorem dksX15_begins_0 : cX15_begins.data.toList.drop 0 = dktX15_begins_0 := by decide +kernel
theorem dX15_begins_0 : decode cX15_begins 0 = .ok (.aload_n 0, 1) := dk_42 (dk_at dksX15_begins_0 0 rfl rfl)
theorem dX15_begins_1 : decode cX15_begins 1 = .ok (.aload_n 1, 1) := dk_43 (dk_at dksX15_begins_0 1 rfl rfl)
theorem dX15_begins_2 : decode cX15_begins 2 = .ok (.putfield 47, 3) := dk_181 0 47 (dk_at dksX15_begins_0 2 rfl rfl)
theorem dX15_begins_5 : decode cX15_begins 5 = .ok (.aload_n 0, 1) := dk_42 (dk_at dksX15_begins_0 5 rfl rfl)
theorem dX15_begins_6 : decode cX15_begins 6 = .ok (.iload_n 2, 1) := dk_28 (dk_at dksX15_begins_0 6 rfl rfl)
theorem dX15_begins_7 : decode cX15_begins 7 = .ok (.putfield 44, 3) := dk_181 0 44 (dk_at dksX15_begins_0 7 rfl rfl)
theorem dX15_begins_10 : decode cX15_begins 10 = .ok (.aload_n 0, 1) := dk_42 (dk_at dksX15_begins_0 10 rfl rfl)
theorem dX15_begins_11 : decode cX15_begins 11 = .ok (.iconst 0, 1) := dk_3 (dk_at dksX15_begins_0 11 rfl rfl)
theorem dX15_begins_12 : decode cX15_begins 12 = .ok (.putfield 51, 3) := dk_181 0 51 (dk_at dksX15_begins_0 12 rfl rfl)
theorem dX15_begins_15 : decode cX15_begins 15 = .ok (.aload_n 0, 1) := dk_42 (dk_at dksX15_begins_0 15 rfl rfl)
theorem dX15_begins_16 : decode cX15_begins 16 = .ok (.invokevirtual 80, 3) := dk_182 0 80 (dk_at dksX15_begins_0 16 rfl rfl)
theorem dX15_begins_19 : decode cX15_begins 19 = .ok (.return_, 1) := dk_177 (dk_at dksX15_begins_0 19 rfl rfl)
abbrev cX15_next : ByteArray := prog_20_method_5_code
def yX15_next : MethodName := ⟨RX15, "next", "()V"⟩
def dkwX15_next_6 : List UInt8 := [180, 0, 51, 4, 96, 181, 0, 51, 167, 255, 197, 177]
abbrev dktX15_next_6 : List UInt8 := dkwX15_next_6 ++ []
def dkwX15_next_5 : List UInt8 := [154, 0, 22, 28, 153, 0, 31, 42, 180, 0, 47, 42, 180, 0, 51, 51, 184, 0, 62, 153, 0, 16, 42, 89]
abbrev dktX15_next_5 : List UInt8 := dkwX15_next_5 ++ dktX15_next_6
def dkwX15_next_4 : List UInt8 := [180, 0, 44, 162, 0, 54, 27, 153, 0, 18, 42, 180, 0, 47, 42, 180, 0, 51, 51, 184, 0, 58]
abbrev dktX15_next_4 : List UInt8 := dkwX15_next_4 ++ dktX15_next_5
def dkwX15_next_3 : List UInt8 := [181, 0, 51, 42, 182, 0, 54, 184, 0, 58, 60, 42, 182, 0, 54, 184, 0, 62, 61, 42, 180, 0, 51, 42]
abbrev dktX15_next_3 : List UInt8 := dkwX15_next_3 ++ dktX15_next_4
def dkwX15_next_2 : List UInt8 := [180, 0, 40, 42, 180, 0, 44, 162, 0, 12, 42, 180, 0, 40, 4, 96, 167, 0, 7, 42, 180, 0, 40]
abbrev dktX15_next_2 : List UInt8 := dkwX15_next_2 ++ dktX15_next_3
def dkwX15_next_1 : List UInt8 := [180, 0, 40, 51, 16, 32, 160, 0, 16, 42, 89, 180, 0, 40, 4, 96, 181, 0, 40, 167, 255, 221, 42, 42]
abbrev dktX15_next_1 : List UInt8 := dkwX15_next_1 ++ dktX15_next_2
def dkwX15_next_0 : List UInt8 := [42, 42, 180, 0, 51, 181, 0, 40, 42, 180, 0, 40, 42, 180, 0, 44, 162, 0, 30, 42, 180, 0, 47, 42]
abbrev dktX15_next_0 : List UInt8 := dkwX15_next_0 ++ dktX15_next_1
theorem dksX15_next_0 : cX15_next.data.toList.drop 0 = dktX15_next_0 := by decide +kernel
theorem dksX15_next_1 : cX15_next.data.toList.drop 24 = dktX15_next_1 := dk_seg dksX15_next_0 24 rfl rfl
theorem dksX15_next_2 : cX15_next.data.toList.drop 48 = dktX15_next_2 := dk_seg dksX15_next_1 24 rfl rfl
theorem dksX15_next_3 : cX15_next.data.toList.drop 71 = dktX15_next_3 := dk_seg dksX15_next_2 23 rfl rfl
theorem dksX15_next_4 : cX15_next.data.toList.drop 95 = dktX15_next_4 := dk_seg dksX15_next_3 24 rfl rfl
theorem dksX15_next_5 : cX15_next.data.toList.drop 117 = dktX15_next_5 := dk_seg dksX15_next_4 22 rfl rfl
theorem dksX15_next_6 : cX15_next.data.toList.drop 141 = dktX15_next_6 := dk_seg dksX15_next_5 24 rfl rfl
theorem dX15_next_0 : decode cX15_next 0 = .ok (.aload_n 0, 1) := dk_42 (dk_at dksX15_next_0 0 rfl rfl)
theorem dX15_next_1 : decode cX15_next 1 = .ok (.aload_n 0, 1) := dk_42 (dk_at dksX15_next_0 1 rfl rfl)
theorem dX15_next_2 : decode cX15_next 2 = .ok (.getfield 51, 3) := dk_180 0 51 (dk_at dksX15_next_0 2 rfl rfl)
theorem dX15_next_5 : decode cX15_next 5 = .ok (.putfield 40, 3) := dk_181 0 40 (dk_at dksX15_next_0 5 rfl rfl)
theorem dX15_next_8 : decode cX15_next 8 = .ok (.aload_n 0, 1) := dk_42 (dk_at dksX15_next_0 8 rfl rfl)
theorem dX15_next_9 : decode cX15_next 9 = .ok (.getfield 40, 3) := dk_180 0 40 (dk_at dksX15_next_0 9 rfl rfl)
theorem dX15_next_12 : decode cX15_next 12 = .ok (.aload_n 0, 1) := dk_42 (dk_at dksX15_next_0 12 rfl rfl)
theorem dX15_next_13 : decode cX15_next 13 = .ok (.getfield 44, 3) := dk_180 0 44 (dk_at dksX15_next_0 13 rfl rfl)
theorem dX15_next_16 : decode cX15_next 16 = .ok (.if_icmp .ge 30, 3) := dk_162 0 30 (dk_at dksX15_next_0 16 rfl rfl)
theorem dX15_next_19 : decode cX15_next 19 = .ok (.aload_n 0, 1) := dk_42 (dk_at dksX15_next_0 19 rfl rfl)
theorem dX15_next_20 : decode cX15_next 20 = .ok (.getfield 47, 3) := dk_180 0 47 (dk_at dksX15_next_0 20 rfl rfl)
theorem dX15_next_23 : decode cX15_next 23 = .ok (.aload_n 0, 1) := dk_42 (dk_at dksX15_next_0 23 rfl rfl)
theorem dX15_next_24 : decode cX15_next 24 = .ok (.getfield 40, 3) := dk_180 0 40 (dk_at dksX15_next_1 0 rfl rfl)
theorem dX15_next_27 : decode cX15_next 27 = .ok (.baload, 1) := dk_51 (dk_at dksX15_next_1 3 rfl rfl)
theorem dX15_next_28 : decode cX15_next 28 = .ok (.bipush 32, 2) := dk_16 32 (dk_at dksX15_next_1 4 rfl rfl)
theorem dX15_next_30 : decode cX15_next 30 = .ok (.if_icmp .ne 16, 3) := dk_160 0 16 (dk_at dksX15_next_1 6 rfl rfl)
theorem dX15_next_33 : decode cX15_next 33 = .ok (.aload_n 0, 1) := dk_42 (dk_at dksX15_next_1 9 rfl rfl)
theorem dX15_next_34 : decode cX15_next 34 = .ok (.dup, 1) := dk_89 (dk_at dksX15_next_1 10 rfl rfl)
theorem dX15_next_35 : decode cX15_next 35 = .ok (.getfield 40, 3) := dk_180 0 40 (dk_at dksX15_next_1 11 rfl rfl)
theorem dX15_next_38 : decode cX15_next 38 = .ok (.iconst 1, 1) := dk_4 (dk_at dksX15_next_1 14 rfl rfl)
theorem dX15_next_39 : decode cX15_next 39 = .ok (.iadd, 1) := dk_96 (dk_at dksX15_next_1 15 rfl rfl)
theorem dX15_next_40 : decode cX15_next 40 = .ok (.putfield 40, 3) := dk_181 0 40 (dk_at dksX15_next_1 16 rfl rfl)
theorem dX15_next_43 : decode cX15_next 43 = .ok (.goto (-35), 3) := dk_167 255 221 (dk_at dksX15_next_1 19 rfl rfl)
theorem dX15_next_46 : decode cX15_next 46 = .ok (.aload_n 0, 1) := dk_42 (dk_at dksX15_next_1 22 rfl rfl)
theorem dX15_next_47 : decode cX15_next 47 = .ok (.aload_n 0, 1) := dk_42 (dk_at dksX15_next_1 23 rfl rfl)
theorem dX15_next_48 : decode cX15_next 48 = .ok (.getfield 40, 3) := dk_180 0 40 (dk_at dksX15_next_2 0 rfl rfl)
theorem dX15_next_51 : decode cX15_next 51 = .ok (.aload_n 0, 1) := dk_42 (dk_at dksX15_next_2 3 rfl rfl)
theorem dX15_next_52 : decode cX15_next 52 = .ok (.getfield 44, 3) := dk_180 0 44 (dk_at dksX15_next_2 4 rfl rfl)
theorem dX15_next_55 : decode cX15_next 55 = .ok (.if_icmp .ge 12, 3) := dk_162 0 12 (dk_at dksX15_next_2 7 rfl rfl)
theorem dX15_next_58 : decode cX15_next 58 = .ok (.aload_n 0, 1) := dk_42 (dk_at dksX15_next_2 10 rfl rfl)
theorem dX15_next_59 : decode cX15_next 59 = .ok (.getfield 40, 3) := dk_180 0 40 (dk_at dksX15_next_2 11 rfl rfl)
theorem dX15_next_62 : decode cX15_next 62 = .ok (.iconst 1, 1) := dk_4 (dk_at dksX15_next_2 14 rfl rfl)
theorem dX15_next_63 : decode cX15_next 63 = .ok (.iadd, 1) := dk_96 (dk_at dksX15_next_2 15 rfl rfl)
theorem dX15_next_64 : decode cX15_next 64 = .ok (.goto 7, 3) := dk_167 0 7 (dk_at dksX15_next_2 16 rfl rfl)
theorem dX15_next_67 : decode cX15_next 67 = .ok (.aload_n 0, 1) := dk_42 (dk_at dksX15_next_2 19 rfl rfl)
theorem dX15_next_68 : decode cX15_next 68 = .ok (.getfield 40, 3) := dk_180 0 40 (dk_at dksX15_next_2 20 rfl rfl)
theorem dX15_next_71 : decode cX15_next 71 = .ok (.putfield 51, 3) := dk_181 0 51 (dk_at dksX15_next_3 0 rfl rfl)
theorem dX15_next_74 : decode cX15_next 74 = .ok (.aload_n 0, 1) := dk_42 (dk_at dksX15_next_3 3 rfl rfl)
theorem dX15_next_75 : decode cX15_next 75 = .ok (.invokevirtual 54, 3) := dk_182 0 54 (dk_at dksX15_next_3 4 rfl rfl)
theorem dX15_next_78 : decode cX15_next 78 = .ok (.invokestatic 58, 3) := dk_184 0 58 (dk_at dksX15_next_3 7 rfl rfl)
theorem dX15_next_81 : decode cX15_next 81 = .ok (.istore_n 1, 1) := dk_60 (dk_at dksX15_next_3 10 rfl rfl)
theorem dX15_next_82 : decode cX15_next 82 = .ok (.aload_n 0, 1) := dk_42 (dk_at dksX15_next_3 11 rfl rfl)
theorem dX15_next_83 : decode cX15_next 83 = .ok (.invokevirtual 54, 3) := dk_182 0 54 (dk_at dksX15_next_3 12 rfl rfl)
theorem dX15_next_86 : decode cX15_next 86 = .ok (.invokestatic 62, 3) := dk_184 0 62 (dk_at dksX15_next_3 15 rfl rfl)
theorem dX15_next_89 : decode cX15_next 89 = .ok (.istore_n 2, 1) := dk_61 (dk_at dksX15_next_3 18 rfl rfl)
theorem dX15_next_90 : decode cX15_next 90 = .ok (.aload_n 0, 1) := dk_42 (dk_at dksX15_next_3 19 rfl rfl)
theorem dX15_next_91 : decode cX15_next 91 = .ok (.getfield 51, 3) := dk_180 0 51 (dk_at dksX15_next_3 20 rfl rfl)
theorem dX15_next_94 : decode cX15_next 94 = .ok (.aload_n 0, 1) := dk_42 (dk_at dksX15_next_3 23 rfl rfl)
theorem dX15_next_95 : decode cX15_next 95 = .ok (.getfield 44, 3) := dk_180 0 44 (dk_at dksX15_next_4 0 rfl rfl)
theorem dX15_next_98 : decode cX15_next 98 = .ok (.if_icmp .ge 54, 3) := dk_162 0 54 (dk_at dksX15_next_4 3 rfl rfl)
theorem dX15_next_101 : decode cX15_next 101 = .ok (.iload_n 1, 1) := dk_27 (dk_at dksX15_next_4 6 rfl rfl)
theorem dX15_next_102 : decode cX15_next 102 = .ok (.ifCond .eq 18, 3) := dk_153 0 18 (dk_at dksX15_next_4 7 rfl rfl)
theorem dX15_next_105 : decode cX15_next 105 = .ok (.aload_n 0, 1) := dk_42 (dk_at dksX15_next_4 10 rfl rfl)
theorem dX15_next_106 : decode cX15_next 106 = .ok (.getfield 47, 3) := dk_180 0 47 (dk_at dksX15_next_4 11 rfl rfl)
theorem dX15_next_109 : decode cX15_next 109 = .ok (.aload_n 0, 1) := dk_42 (dk_at dksX15_next_4 14 rfl rfl)
theorem dX15_next_110 : decode cX15_next 110 = .ok (.getfield 51, 3) := dk_180 0 51 (dk_at dksX15_next_4 15 rfl rfl)
theorem dX15_next_113 : decode cX15_next 113 = .ok (.baload, 1) := dk_51 (dk_at dksX15_next_4 18 rfl rfl)
theorem dX15_next_114 : decode cX15_next 114 = .ok (.invokestatic 58, 3) := dk_184 0 58 (dk_at dksX15_next_4 19 rfl rfl)
theorem dX15_next_117 : decode cX15_next 117 = .ok (.ifCond .ne 22, 3) := dk_154 0 22 (dk_at dksX15_next_5 0 rfl rfl)
theorem dX15_next_120 : decode cX15_next 120 = .ok (.iload_n 2, 1) := dk_28 (dk_at dksX15_next_5 3 rfl rfl)
theorem dX15_next_121 : decode cX15_next 121 = .ok (.ifCond .eq 31, 3) := dk_153 0 31 (dk_at dksX15_next_5 4 rfl rfl)
theorem dX15_next_124 : decode cX15_next 124 = .ok (.aload_n 0, 1) := dk_42 (dk_at dksX15_next_5 7 rfl rfl)
theorem dX15_next_125 : decode cX15_next 125 = .ok (.getfield 47, 3) := dk_180 0 47 (dk_at dksX15_next_5 8 rfl rfl)
theorem dX15_next_128 : decode cX15_next 128 = .ok (.aload_n 0, 1) := dk_42 (dk_at dksX15_next_5 11 rfl rfl)
theorem dX15_next_129 : decode cX15_next 129 = .ok (.getfield 51, 3) := dk_180 0 51 (dk_at dksX15_next_5 12 rfl rfl)
theorem dX15_next_132 : decode cX15_next 132 = .ok (.baload, 1) := dk_51 (dk_at dksX15_next_5 15 rfl rfl)
theorem dX15_next_133 : decode cX15_next 133 = .ok (.invokestatic 62, 3) := dk_184 0 62 (dk_at dksX15_next_5 16 rfl rfl)
theorem dX15_next_136 : decode cX15_next 136 = .ok (.ifCond .eq 16, 3) := dk_153 0 16 (dk_at dksX15_next_5 19 rfl rfl)
theorem dX15_next_139 : decode cX15_next 139 = .ok (.aload_n 0, 1) := dk_42 (dk_at dksX15_next_5 22 rfl rfl)
theorem dX15_next_140 : decode cX15_next 140 = .ok (.dup, 1) := dk_89 (dk_at dksX15_next_5 23 rfl rfl)
theorem dX15_next_141 : decode cX15_next 141 = .ok (.getfield 51, 3) := dk_180 0 51 (dk_at dksX15_next_6 0 rfl rfl)
theorem dX15_next_144 : decode cX15_next 144 = .ok (.iconst 1, 1) := dk_4 (dk_at dksX15_next_6 3 rfl rfl)
theorem dX15_next_145 : decode cX15_next 145 = .ok (.iadd, 1) := dk_96 (dk_at dksX15_next_6 4 rfl rfl)
theorem dX15_next_146 : decode cX15_next 146 = .ok (.putfield 51, 3) := dk_181 0 51 (dk_at dksX15_next_6 5 rfl rfl)
theorem dX15_next_149 : decode cX15_next 149 = .ok (.goto (-59), 3) := dk_167 255 197 (dk_at dksX15_next_6 8 rfl rfl)
theorem dX15_next_152 : decode cX15_next 152 = .ok (.return_, 1) := dk_177 (dk_at dksX15_next_6 11 rfl rfl)
abbrev cX15_here : ByteArray := prog_20_method_2_code
def yX15_here : MethodName := ⟨RX15, "here", "()I"⟩
def dkwX15_here_1 : List UInt8 := [172]
abbrev dktX15_here_1 : List UInt8 := dkwX15_here_1 ++ []
def dkwX15_here_0 : List UInt8 := [42, 180, 0, 40, 42, 180, 0, 44, 162, 0, 15, 42, 180, 0, 47, 42, 180, 0, 40, 51, 167, 0, 4, 2]
abbrev dktX15_here_0 : List UInt8 := dkwX15_here_0 ++ dktX15_here_1
theorem dksX15_here_0 : cX15_here.data.toList.drop 0 = dktX15_here_0 := by decide +kernel
theorem dksX15_here_1 : cX15_here.data.toList.drop 24 = dktX15_here_1 := dk_seg dksX15_here_0 24 rfl rfl
theorem dX15_here_0 : decode cX15_here 0 = .ok (.aload_n 0, 1) := dk_42 (dk_at dksX15_here_0 0 rfl rfl)
theorem dX15_here_1 : decode cX15_here 1 = .ok (.getfield 40, 3) := dk_180 0 40 (dk_at dksX15_here_0 1 rfl rfl)
theorem dX15_here_4 : decode cX15_here 4 = .ok (.aload_n 0, 1) := dk_42 (dk_at dksX15_here_0 4 rfl rfl)
theorem dX15_here_5 : decode cX15_here 5 = .ok (.getfield 44, 3) := dk_180 0 44 (dk_at dksX15_here_0 5 rfl rfl)
theorem dX15_here_8 : decode cX15_here 8 = .ok (.if_icmp .ge 15, 3) := dk_162 0 15 (dk_at dksX15_here_0 8 rfl rfl)
theorem dX15_here_11 : decode cX15_here 11 = .ok (.aload_n 0, 1) := dk_42 (dk_at dksX15_here_0 11 rfl rfl)
theorem dX15_here_12 : decode cX15_here 12 = .ok (.getfield 47, 3) := dk_180 0 47 (dk_at dksX15_here_0 12 rfl rfl)
theorem dX15_here_15 : decode cX15_here 15 = .ok (.aload_n 0, 1) := dk_42 (dk_at dksX15_here_0 15 rfl rfl)
theorem dX15_here_16 : decode cX15_here 16 = .ok (.getfield 40, 3) := dk_180 0 40 (dk_at dksX15_here_0 16 rfl rfl)
theorem dX15_here_19 : decode cX15_here 19 = .ok (.baload, 1) := dk_51 (dk_at dksX15_here_0 19 rfl rfl)
theorem dX15_here_20 : decode cX15_here 20 = .ok (.goto 4, 3) := dk_167 0 4 (dk_at dksX15_here_0 20 rfl rfl)
theorem dX15_here_23 : decode cX15_here 23 = .ok (.iconst (-1), 1) := dk_2 (dk_at dksX15_here_0 23 rfl rfl)
theorem dX15_here_24 : decode cX15_here 24 = .ok (.ireturn, 1) := dk_172 (dk_at dksX15_here_1 0 rfl rfl)
abbrev cX15_isLetter : ByteArray := prog_20_method_4_code
def yX15_isLetter : MethodName := ⟨RX15, "isLetter", "(I)Z"⟩
def dkwX15_isLetter_0 : List UInt8 := [26, 16, 97, 161, 0, 13, 26, 16, 122, 163, 0, 7, 4, 167, 0, 4, 3, 172]
abbrev dktX15_isLetter_0 : List UInt8 := dkwX15_isLetter_0 ++ []
theorem dksX15_isLetter_0 : cX15_isLetter.data.toList.drop 0 = dktX15_isLetter_0 := by decide +kernel
theorem dX15_isLetter_0 : decode cX15_isLetter 0 = .ok (.iload_n 0, 1) := dk_26 (dk_at dksX15_isLetter_0 0 rfl rfl)
theorem dX15_isLetter_1 : decode cX15_isLetter 1 = .ok (.bipush 97, 2) := dk_16 97 (dk_at dksX15_isLetter_0 1 rfl rfl)
theorem dX15_isLetter_3 : decode cX15_isLetter 3 = .ok (.if_icmp .lt 13, 3) := dk_161 0 13 (dk_at dksX15_isLetter_0 3 rfl rfl)
theorem dX15_isLetter_6 : decode cX15_isLetter 6 = .ok (.iload_n 0, 1) := dk_26 (dk_at dksX15_isLetter_0 6 rfl rfl)
theorem dX15_isLetter_7 : decode cX15_isLetter 7 = .ok (.bipush 122, 2) := dk_16 122 (dk_at dksX15_isLetter_0 7 rfl rfl)
theorem dX15_isLetter_9 : decode cX15_isLetter 9 = .ok (.if_icmp .gt 7, 3) := dk_163 0 7 (dk_at dksX15_isLetter_0 9 rfl rfl)
theorem dX15_isLetter_12 : decode cX15_isLetter 12 = .ok (.iconst 1, 1) := dk_4 (dk_at dksX15_isLetter_0 12 rfl rfl)
theorem dX15_isLetter_13 : decode cX15_isLetter 13 = .ok (.goto 4, 3) := dk_167 0 4 (dk_at dksX15_isLetter_0 13 rfl rfl)
theorem dX15_isLetter_16 : decode cX15_isLetter 16 = .ok (.iconst 0, 1) := dk_3 (dk_at dksX15_isLetter_0 16 rfl rfl)
theorem dX15_isLetter_17 : decode cX15_isLetter 17 = .ok (.ireturn, 1) := dk_172 (dk_at dksX15_isLetter_0 17 rfl rfl)
abbrev cX15_isDigit : ByteArray := prog_20_method_3_code
def yX15_isDigit : MethodName := ⟨RX15, "isDigit", "(I)Z"⟩
def dkwX15_isDigit_0 : List UInt8 := [26, 16, 48, 161, 0, 13, 26, 16, 57, 163, 0, 7, 4, 167, 0, 4, 3, 172]
abbrev dktX15_isDigit_0 : List UInt8 := dkwX15_isDigit_0 ++ []
theorem dksX15_isDigit_0 : cX15_isDigit.data.toList.drop 0 = dktX15_isDigit_0 := by decide +kernel
theorem dX15_isDigit_0 : decode cX15_isDigit 0 = .ok (.iload_n 0, 1) := dk_26 (dk_at dksX15_isDigit_0 0 rfl rfl)
theorem dX15_isDigit_1 : decode cX15_isDigit 1 = .ok (.bipush 48, 2) := dk_16 48 (dk_at dksX15_isDigit_0 1 rfl rfl)
theorem dX15_isDigit_3 : decode cX15_isDigit 3 = .ok (.if_icmp .lt 13, 3) := dk_161 0 13 (dk_at dksX15_isDigit_0 3 rfl rfl)
theorem dX15_isDigit_6 : decode cX15_isDigit 6 = .ok (.iload_n 0, 1) := dk_26 (dk_at dksX15_isDigit_0 6 rfl rfl)
theorem dX15_isDigit_7 : decode cX15_isDigit 7 = .ok (.bipush 57, 2) := dk_16 57 (dk_at dksX15_isDigit_0 7 rfl rfl)
theorem dX15_isDigit_9 : decode cX15_isDigit 9 = .ok (.if_icmp .gt 7, 3) := dk_163 0 7 (dk_at dksX15_isDigit_0 9 rfl rfl)
theorem dX15_isDigit_12 : decode cX15_isDigit 12 = .ok (.iconst 1, 1) := dk_4 (dk_at dksX15_isDigit_0 12 rfl rfl)
theorem dX15_isDigit_13 : decode cX15_isDigit 13 = .ok (.goto 4, 3) := dk_167 0 4 (dk_at dksX15_isDigit_0 13 rfl rfl)
theorem dX15_isDigit_16 : decode cX15_isDigit 16 = .ok (.iconst 0, 1) := dk_3 (dk_at dksX15_isDigit_0 16 rfl rfl)
theorem dX15_isDigit_17 : decode cX15_isDigit 17 = .ok (.ireturn, 1) := dk_172 (dk_at dksX15_isDigit_0 17 rfl rfl)
abbrev cX15_item : ByteArray := prog_20_method_16_code
def yX15_item : MethodName := ⟨RX15, "item", "()V"⟩
def dkwX15_item_5 : List UInt8 := [180, 0, 36, 180, 0, 153, 3, 42, 3, 16, 9, 182, 0, 98, 79, 42, 18, 156, 182, 0, 102, 177]
abbrev dktX15_item_5 : List UInt8 := dkwX15_item_5 ++ []
def dkwX15_item_4 : List UInt8 := [180, 0, 148, 4, 42, 182, 0, 111, 120, 128, 181, 0, 148, 167, 0, 25, 42, 18, 151, 182, 0, 102, 42]
abbrev dktX15_item_4 : List UInt8 := dkwX15_item_4 ++ dktX15_item_5
def dkwX15_item_3 : List UInt8 := [182, 0, 111, 28, 79, 167, 0, 55, 42, 18, 146, 182, 0, 95, 153, 0, 24, 42, 180, 0, 36, 89]
abbrev dktX15_item_3 : List UInt8 := dkwX15_item_3 ++ dktX15_item_4
def dkwX15_item_2 : List UInt8 := [18, 142, 182, 0, 95, 153, 0, 27, 42, 3, 16, 99, 182, 0, 98, 61, 42, 180, 0, 36, 180, 0, 144, 42]
abbrev dktX15_item_2 : List UInt8 := dkwX15_item_2 ++ dktX15_item_3
def dkwX15_item_1 : List UInt8 := [132, 1, 1, 167, 255, 231, 27, 42, 180, 0, 23, 190, 162, 0, 11, 42, 27, 182, 0, 138, 167, 0, 88, 42]
abbrev dktX15_item_1 : List UInt8 := dkwX15_item_1 ++ dktX15_item_2
def dkwX15_item_0 : List UInt8 := [3, 60, 27, 42, 180, 0, 23, 190, 162, 0, 22, 42, 42, 180, 0, 23, 27, 50, 182, 0, 76, 154, 0, 9]
abbrev dktX15_item_0 : List UInt8 := dkwX15_item_0 ++ dktX15_item_1
theorem dksX15_item_0 : cX15_item.data.toList.drop 0 = dktX15_item_0 := by decide +kernel
theorem dksX15_item_1 : cX15_item.data.toList.drop 24 = dktX15_item_1 := dk_seg dksX15_item_0 24 rfl rfl
theorem dksX15_item_2 : cX15_item.data.toList.drop 48 = dktX15_item_2 := dk_seg dksX15_item_1 24 rfl rfl
theorem dksX15_item_3 : cX15_item.data.toList.drop 72 = dktX15_item_3 := dk_seg dksX15_item_2 24 rfl rfl
theorem dksX15_item_4 : cX15_item.data.toList.drop 94 = dktX15_item_4 := dk_seg dksX15_item_3 22 rfl rfl
theorem dksX15_item_5 : cX15_item.data.toList.drop 117 = dktX15_item_5 := dk_seg dksX15_item_4 23 rfl rfl
theorem dX15_item_0 : decode cX15_item 0 = .ok (.iconst 0, 1) := dk_3 (dk_at dksX15_item_0 0 rfl rfl)
theorem dX15_item_1 : decode cX15_item 1 = .ok (.istore_n 1, 1) := dk_60 (dk_at dksX15_item_0 1 rfl rfl)
theorem dX15_item_2 : decode cX15_item 2 = .ok (.iload_n 1, 1) := dk_27 (dk_at dksX15_item_0 2 rfl rfl)
theorem dX15_item_3 : decode cX15_item 3 = .ok (.aload_n 0, 1) := dk_42 (dk_at dksX15_item_0 3 rfl rfl)
theorem dX15_item_4 : decode cX15_item 4 = .ok (.getfield 23, 3) := dk_180 0 23 (dk_at dksX15_item_0 4 rfl rfl)
theorem dX15_item_7 : decode cX15_item 7 = .ok (.arraylength, 1) := dk_190 (dk_at dksX15_item_0 7 rfl rfl)
theorem dX15_item_8 : decode cX15_item 8 = .ok (.if_icmp .ge 22, 3) := dk_162 0 22 (dk_at dksX15_item_0 8 rfl rfl)
theorem dX15_item_11 : decode cX15_item 11 = .ok (.aload_n 0, 1) := dk_42 (dk_at dksX15_item_0 11 rfl rfl)
theorem dX15_item_12 : decode cX15_item 12 = .ok (.aload_n 0, 1) := dk_42 (dk_at dksX15_item_0 12 rfl rfl)
theorem dX15_item_13 : decode cX15_item 13 = .ok (.getfield 23, 3) := dk_180 0 23 (dk_at dksX15_item_0 13 rfl rfl)
theorem dX15_item_16 : decode cX15_item 16 = .ok (.iload_n 1, 1) := dk_27 (dk_at dksX15_item_0 16 rfl rfl)
theorem dX15_item_17 : decode cX15_item 17 = .ok (.aaload, 1) := dk_50 (dk_at dksX15_item_0 17 rfl rfl)
theorem dX15_item_18 : decode cX15_item 18 = .ok (.invokevirtual 76, 3) := dk_182 0 76 (dk_at dksX15_item_0 18 rfl rfl)
theorem dX15_item_21 : decode cX15_item 21 = .ok (.ifCond .ne 9, 3) := dk_154 0 9 (dk_at dksX15_item_0 21 rfl rfl)
theorem dX15_item_24 : decode cX15_item 24 = .ok (.iinc 1 1, 3) := dk_132 1 1 (dk_at dksX15_item_1 0 rfl rfl)
theorem dX15_item_27 : decode cX15_item 27 = .ok (.goto (-25), 3) := dk_167 255 231 (dk_at dksX15_item_1 3 rfl rfl)
theorem dX15_item_30 : decode cX15_item 30 = .ok (.iload_n 1, 1) := dk_27 (dk_at dksX15_item_1 6 rfl rfl)
theorem dX15_item_31 : decode cX15_item 31 = .ok (.aload_n 0, 1) := dk_42 (dk_at dksX15_item_1 7 rfl rfl)
theorem dX15_item_32 : decode cX15_item 32 = .ok (.getfield 23, 3) := dk_180 0 23 (dk_at dksX15_item_1 8 rfl rfl)
theorem dX15_item_35 : decode cX15_item 35 = .ok (.arraylength, 1) := dk_190 (dk_at dksX15_item_1 11 rfl rfl)
theorem dX15_item_36 : decode cX15_item 36 = .ok (.if_icmp .ge 11, 3) := dk_162 0 11 (dk_at dksX15_item_1 12 rfl rfl)
theorem dX15_item_39 : decode cX15_item 39 = .ok (.aload_n 0, 1) := dk_42 (dk_at dksX15_item_1 15 rfl rfl)
theorem dX15_item_40 : decode cX15_item 40 = .ok (.iload_n 1, 1) := dk_27 (dk_at dksX15_item_1 16 rfl rfl)
theorem dX15_item_41 : decode cX15_item 41 = .ok (.invokevirtual 138, 3) := dk_182 0 138 (dk_at dksX15_item_1 17 rfl rfl)
theorem dX15_item_44 : decode cX15_item 44 = .ok (.goto 88, 3) := dk_167 0 88 (dk_at dksX15_item_1 20 rfl rfl)
theorem dX15_item_47 : decode cX15_item 47 = .ok (.aload_n 0, 1) := dk_42 (dk_at dksX15_item_1 23 rfl rfl)
theorem dX15_item_48 : decode cX15_item 48 = .ok (.ldc 142, 2) := dk_18 142 (dk_at dksX15_item_2 0 rfl rfl)
theorem dX15_item_50 : decode cX15_item 50 = .ok (.invokevirtual 95, 3) := dk_182 0 95 (dk_at dksX15_item_2 2 rfl rfl)
theorem dX15_item_53 : decode cX15_item 53 = .ok (.ifCond .eq 27, 3) := dk_153 0 27 (dk_at dksX15_item_2 5 rfl rfl)
theorem dX15_item_56 : decode cX15_item 56 = .ok (.aload_n 0, 1) := dk_42 (dk_at dksX15_item_2 8 rfl rfl)
theorem dX15_item_57 : decode cX15_item 57 = .ok (.iconst 0, 1) := dk_3 (dk_at dksX15_item_2 9 rfl rfl)
theorem dX15_item_58 : decode cX15_item 58 = .ok (.bipush 99, 2) := dk_16 99 (dk_at dksX15_item_2 10 rfl rfl)
theorem dX15_item_60 : decode cX15_item 60 = .ok (.invokevirtual 98, 3) := dk_182 0 98 (dk_at dksX15_item_2 12 rfl rfl)
theorem dX15_item_63 : decode cX15_item 63 = .ok (.istore_n 2, 1) := dk_61 (dk_at dksX15_item_2 15 rfl rfl)
theorem dX15_item_64 : decode cX15_item 64 = .ok (.aload_n 0, 1) := dk_42 (dk_at dksX15_item_2 16 rfl rfl)
theorem dX15_item_65 : decode cX15_item 65 = .ok (.getfield 36, 3) := dk_180 0 36 (dk_at dksX15_item_2 17 rfl rfl)
theorem dX15_item_68 : decode cX15_item 68 = .ok (.getfield 144, 3) := dk_180 0 144 (dk_at dksX15_item_2 20 rfl rfl)
theorem dX15_item_71 : decode cX15_item 71 = .ok (.aload_n 0, 1) := dk_42 (dk_at dksX15_item_2 23 rfl rfl)
theorem dX15_item_72 : decode cX15_item 72 = .ok (.invokevirtual 111, 3) := dk_182 0 111 (dk_at dksX15_item_3 0 rfl rfl)
theorem dX15_item_75 : decode cX15_item 75 = .ok (.iload_n 2, 1) := dk_28 (dk_at dksX15_item_3 3 rfl rfl)
theorem dX15_item_76 : decode cX15_item 76 = .ok (.iastore, 1) := dk_79 (dk_at dksX15_item_3 4 rfl rfl)
theorem dX15_item_77 : decode cX15_item 77 = .ok (.goto 55, 3) := dk_167 0 55 (dk_at dksX15_item_3 5 rfl rfl)
theorem dX15_item_80 : decode cX15_item 80 = .ok (.aload_n 0, 1) := dk_42 (dk_at dksX15_item_3 8 rfl rfl)
theorem dX15_item_81 : decode cX15_item 81 = .ok (.ldc 146, 2) := dk_18 146 (dk_at dksX15_item_3 9 rfl rfl)
theorem dX15_item_83 : decode cX15_item 83 = .ok (.invokevirtual 95, 3) := dk_182 0 95 (dk_at dksX15_item_3 11 rfl rfl)
theorem dX15_item_86 : decode cX15_item 86 = .ok (.ifCond .eq 24, 3) := dk_153 0 24 (dk_at dksX15_item_3 14 rfl rfl)
theorem dX15_item_89 : decode cX15_item 89 = .ok (.aload_n 0, 1) := dk_42 (dk_at dksX15_item_3 17 rfl rfl)
theorem dX15_item_90 : decode cX15_item 90 = .ok (.getfield 36, 3) := dk_180 0 36 (dk_at dksX15_item_3 18 rfl rfl)
theorem dX15_item_93 : decode cX15_item 93 = .ok (.dup, 1) := dk_89 (dk_at dksX15_item_3 21 rfl rfl)
theorem dX15_item_94 : decode cX15_item 94 = .ok (.getfield 148, 3) := dk_180 0 148 (dk_at dksX15_item_4 0 rfl rfl)
theorem dX15_item_97 : decode cX15_item 97 = .ok (.iconst 1, 1) := dk_4 (dk_at dksX15_item_4 3 rfl rfl)
theorem dX15_item_98 : decode cX15_item 98 = .ok (.aload_n 0, 1) := dk_42 (dk_at dksX15_item_4 4 rfl rfl)
theorem dX15_item_99 : decode cX15_item 99 = .ok (.invokevirtual 111, 3) := dk_182 0 111 (dk_at dksX15_item_4 5 rfl rfl)
theorem dX15_item_102 : decode cX15_item 102 = .ok (.ishl, 1) := dk_120 (dk_at dksX15_item_4 8 rfl rfl)
theorem dX15_item_103 : decode cX15_item 103 = .ok (.ior, 1) := dk_128 (dk_at dksX15_item_4 9 rfl rfl)
theorem dX15_item_104 : decode cX15_item 104 = .ok (.putfield 148, 3) := dk_181 0 148 (dk_at dksX15_item_4 10 rfl rfl)
theorem dX15_item_107 : decode cX15_item 107 = .ok (.goto 25, 3) := dk_167 0 25 (dk_at dksX15_item_4 13 rfl rfl)
theorem dX15_item_110 : decode cX15_item 110 = .ok (.aload_n 0, 1) := dk_42 (dk_at dksX15_item_4 16 rfl rfl)
theorem dX15_item_111 : decode cX15_item 111 = .ok (.ldc 151, 2) := dk_18 151 (dk_at dksX15_item_4 17 rfl rfl)
theorem dX15_item_113 : decode cX15_item 113 = .ok (.invokevirtual 102, 3) := dk_182 0 102 (dk_at dksX15_item_4 19 rfl rfl)
theorem dX15_item_116 : decode cX15_item 116 = .ok (.aload_n 0, 1) := dk_42 (dk_at dksX15_item_4 22 rfl rfl)
theorem dX15_item_117 : decode cX15_item 117 = .ok (.getfield 36, 3) := dk_180 0 36 (dk_at dksX15_item_5 0 rfl rfl)
theorem dX15_item_120 : decode cX15_item 120 = .ok (.getfield 153, 3) := dk_180 0 153 (dk_at dksX15_item_5 3 rfl rfl)
theorem dX15_item_123 : decode cX15_item 123 = .ok (.iconst 0, 1) := dk_3 (dk_at dksX15_item_5 6 rfl rfl)
theorem dX15_item_124 : decode cX15_item 124 = .ok (.aload_n 0, 1) := dk_42 (dk_at dksX15_item_5 7 rfl rfl)
theorem dX15_item_125 : decode cX15_item 125 = .ok (.iconst 0, 1) := dk_3 (dk_at dksX15_item_5 8 rfl rfl)
theorem dX15_item_126 : decode cX15_item 126 = .ok (.bipush 9, 2) := dk_16 9 (dk_at dksX15_item_5 9 rfl rfl)
theorem dX15_item_128 : decode cX15_item 128 = .ok (.invokevirtual 98, 3) := dk_182 0 98 (dk_at dksX15_item_5 11 rfl rfl)
theorem dX15_item_131 : decode cX15_item 131 = .ok (.iastore, 1) := dk_79 (dk_at dksX15_item_5 14 rfl rfl)
theorem dX15_item_132 : decode cX15_item 132 = .ok (.aload_n 0, 1) := dk_42 (dk_at dksX15_item_5 15 rfl rfl)
theorem dX15_item_133 : decode cX15_item 133 = .ok (.ldc 156, 2) := dk_18 156 (dk_at dksX15_item_5 16 rfl rfl)
theorem dX15_item_135 : decode cX15_item 135 = .ok (.invokevirtual 102, 3) := dk_182 0 102 (dk_at dksX15_item_5 18 rfl rfl)
theorem dX15_item_138 : decode cX15_item 138 = .ok (.return_, 1) := dk_177 (dk_at dksX15_item_5 21 rfl rfl)
abbrev cX15_isWord : ByteArray := prog_20_method_7_code
def yX15_isWord : MethodName := ⟨RX15, "isWord", "(Ljava/lang/String;)Z"⟩
def dkwX15_isWord_2 : List UInt8 := [29, 182, 0, 72, 160, 0, 7, 4, 167, 0, 4, 3, 61, 132, 3, 1, 167, 255, 216, 28, 172]
abbrev dktX15_isWord_2 : List UInt8 := dkwX15_isWord_2 ++ []
def dkwX15_isWord_1 : List UInt8 := [29, 43, 182, 0, 69, 162, 0, 38, 28, 153, 0, 34, 42, 180, 0, 47, 42, 180, 0, 40, 29, 96, 51, 43]
abbrev dktX15_isWord_1 : List UInt8 := dkwX15_isWord_1 ++ dktX15_isWord_2
def dkwX15_isWord_0 : List UInt8 := [42, 180, 0, 51, 42, 180, 0, 40, 100, 43, 182, 0, 69, 160, 0, 7, 4, 167, 0, 4, 3, 61, 3, 62]
abbrev dktX15_isWord_0 : List UInt8 := dkwX15_isWord_0 ++ dktX15_isWord_1
theorem dksX15_isWord_0 : cX15_isWord.data.toList.drop 0 = dktX15_isWord_0 := by decide +kernel
theorem dksX15_isWord_1 : cX15_isWord.data.toList.drop 24 = dktX15_isWord_1 := dk_seg dksX15_isWord_0 24 rfl rfl
theorem dksX15_isWord_2 : cX15_isWord.data.toList.drop 48 = dktX15_isWord_2 := dk_seg dksX15_isWord_1 24 rfl rfl
theorem dX15_isWord_0 : decode cX15_isWord 0 = .ok (.aload_n 0, 1) := dk_42 (dk_at dksX15_isWord_0 0 rfl rfl)
theorem dX15_isWord_1 : decode cX15_isWord 1 = .ok (.getfield 51, 3) := dk_180 0 51 (dk_at dksX15_isWord_0 1 rfl rfl)
theorem dX15_isWord_4 : decode cX15_isWord 4 = .ok (.aload_n 0, 1) := dk_42 (dk_at dksX15_isWord_0 4 rfl rfl)
theorem dX15_isWord_5 : decode cX15_isWord 5 = .ok (.getfield 40, 3) := dk_180 0 40 (dk_at dksX15_isWord_0 5 rfl rfl)
theorem dX15_isWord_8 : decode cX15_isWord 8 = .ok (.isub, 1) := dk_100 (dk_at dksX15_isWord_0 8 rfl rfl)
theorem dX15_isWord_9 : decode cX15_isWord 9 = .ok (.aload_n 1, 1) := dk_43 (dk_at dksX15_isWord_0 9 rfl rfl)
theorem dX15_isWord_10 : decode cX15_isWord 10 = .ok (.invokevirtual 69, 3) := dk_182 0 69 (dk_at dksX15_isWord_0 10 rfl rfl)
theorem dX15_isWord_13 : decode cX15_isWord 13 = .ok (.if_icmp .ne 7, 3) := dk_160 0 7 (dk_at dksX15_isWord_0 13 rfl rfl)
theorem dX15_isWord_16 : decode cX15_isWord 16 = .ok (.iconst 1, 1) := dk_4 (dk_at dksX15_isWord_0 16 rfl rfl)
theorem dX15_isWord_17 : decode cX15_isWord 17 = .ok (.goto 4, 3) := dk_167 0 4 (dk_at dksX15_isWord_0 17 rfl rfl)
theorem dX15_isWord_20 : decode cX15_isWord 20 = .ok (.iconst 0, 1) := dk_3 (dk_at dksX15_isWord_0 20 rfl rfl)
theorem dX15_isWord_21 : decode cX15_isWord 21 = .ok (.istore_n 2, 1) := dk_61 (dk_at dksX15_isWord_0 21 rfl rfl)
theorem dX15_isWord_22 : decode cX15_isWord 22 = .ok (.iconst 0, 1) := dk_3 (dk_at dksX15_isWord_0 22 rfl rfl)
theorem dX15_isWord_23 : decode cX15_isWord 23 = .ok (.istore_n 3, 1) := dk_62 (dk_at dksX15_isWord_0 23 rfl rfl)
theorem dX15_isWord_24 : decode cX15_isWord 24 = .ok (.iload_n 3, 1) := dk_29 (dk_at dksX15_isWord_1 0 rfl rfl)
theorem dX15_isWord_25 : decode cX15_isWord 25 = .ok (.aload_n 1, 1) := dk_43 (dk_at dksX15_isWord_1 1 rfl rfl)
theorem dX15_isWord_26 : decode cX15_isWord 26 = .ok (.invokevirtual 69, 3) := dk_182 0 69 (dk_at dksX15_isWord_1 2 rfl rfl)
theorem dX15_isWord_29 : decode cX15_isWord 29 = .ok (.if_icmp .ge 38, 3) := dk_162 0 38 (dk_at dksX15_isWord_1 5 rfl rfl)
theorem dX15_isWord_32 : decode cX15_isWord 32 = .ok (.iload_n 2, 1) := dk_28 (dk_at dksX15_isWord_1 8 rfl rfl)
theorem dX15_isWord_33 : decode cX15_isWord 33 = .ok (.ifCond .eq 34, 3) := dk_153 0 34 (dk_at dksX15_isWord_1 9 rfl rfl)
theorem dX15_isWord_36 : decode cX15_isWord 36 = .ok (.aload_n 0, 1) := dk_42 (dk_at dksX15_isWord_1 12 rfl rfl)
theorem dX15_isWord_37 : decode cX15_isWord 37 = .ok (.getfield 47, 3) := dk_180 0 47 (dk_at dksX15_isWord_1 13 rfl rfl)
theorem dX15_isWord_40 : decode cX15_isWord 40 = .ok (.aload_n 0, 1) := dk_42 (dk_at dksX15_isWord_1 16 rfl rfl)
theorem dX15_isWord_41 : decode cX15_isWord 41 = .ok (.getfield 40, 3) := dk_180 0 40 (dk_at dksX15_isWord_1 17 rfl rfl)
theorem dX15_isWord_44 : decode cX15_isWord 44 = .ok (.iload_n 3, 1) := dk_29 (dk_at dksX15_isWord_1 20 rfl rfl)
theorem dX15_isWord_45 : decode cX15_isWord 45 = .ok (.iadd, 1) := dk_96 (dk_at dksX15_isWord_1 21 rfl rfl)
theorem dX15_isWord_46 : decode cX15_isWord 46 = .ok (.baload, 1) := dk_51 (dk_at dksX15_isWord_1 22 rfl rfl)
theorem dX15_isWord_47 : decode cX15_isWord 47 = .ok (.aload_n 1, 1) := dk_43 (dk_at dksX15_isWord_1 23 rfl rfl)
theorem dX15_isWord_48 : decode cX15_isWord 48 = .ok (.iload_n 3, 1) := dk_29 (dk_at dksX15_isWord_2 0 rfl rfl)
theorem dX15_isWord_49 : decode cX15_isWord 49 = .ok (.invokevirtual 72, 3) := dk_182 0 72 (dk_at dksX15_isWord_2 1 rfl rfl)
theorem dX15_isWord_52 : decode cX15_isWord 52 = .ok (.if_icmp .ne 7, 3) := dk_160 0 7 (dk_at dksX15_isWord_2 4 rfl rfl)
theorem dX15_isWord_55 : decode cX15_isWord 55 = .ok (.iconst 1, 1) := dk_4 (dk_at dksX15_isWord_2 7 rfl rfl)
theorem dX15_isWord_56 : decode cX15_isWord 56 = .ok (.goto 4, 3) := dk_167 0 4 (dk_at dksX15_isWord_2 8 rfl rfl)
theorem dX15_isWord_59 : decode cX15_isWord 59 = .ok (.iconst 0, 1) := dk_3 (dk_at dksX15_isWord_2 11 rfl rfl)
theorem dX15_isWord_60 : decode cX15_isWord 60 = .ok (.istore_n 2, 1) := dk_61 (dk_at dksX15_isWord_2 12 rfl rfl)
theorem dX15_isWord_61 : decode cX15_isWord 61 = .ok (.iinc 3 1, 3) := dk_132 3 1 (dk_at dksX15_isWord_2 13 rfl rfl)
theorem dX15_isWord_64 : decode cX15_isWord 64 = .ok (.goto (-40), 3) := dk_167 255 216 (dk_at dksX15_isWord_2 16 rfl rfl)
theorem dX15_isWord_67 : decode cX15_isWord 67 = .ok (.iload_n 2, 1) := dk_28 (dk_at dksX15_isWord_2 19 rfl rfl)
theorem dX15_isWord_68 : decode cX15_isWord 68 = .ok (.ireturn, 1) := dk_172 (dk_at dksX15_isWord_2 20 rfl rfl)
abbrev cX15_thing : ByteArray := prog_20_method_15_code
def yX15_thing : MethodName := ⟨RX15, "thing", "(I)V"⟩
def dkwX15_thing_3 : List UInt8 := [180, 0, 126, 21, 5, 50, 180, 0, 130, 3, 42, 18, 136, 16, 99, 182, 0, 116, 79, 177]
abbrev dktX15_thing_3 : List UInt8 := dkwX15_thing_3 ++ []
def dkwX15_thing_2 : List UInt8 := [182, 0, 116, 54, 4, 42, 180, 0, 36, 27, 28, 29, 21, 4, 182, 0, 122, 54, 5, 42, 180, 0, 36]
abbrev dktX15_thing_2 : List UInt8 := dkwX15_thing_2 ++ dktX15_thing_3
def dkwX15_thing_1 : List UInt8 := [182, 0, 80, 42, 182, 0, 111, 61, 42, 18, 114, 16, 9, 182, 0, 116, 62, 42, 18, 120, 16, 99]
abbrev dktX15_thing_1 : List UInt8 := dkwX15_thing_1 ++ dktX15_thing_2
def dkwX15_thing_0 : List UInt8 := [42, 42, 180, 0, 36, 180, 0, 106, 16, 8, 162, 0, 7, 4, 167, 0, 4, 3, 182, 0, 83, 42]
abbrev dktX15_thing_0 : List UInt8 := dkwX15_thing_0 ++ dktX15_thing_1
theorem dksX15_thing_0 : cX15_thing.data.toList.drop 0 = dktX15_thing_0 := by decide +kernel
theorem dksX15_thing_1 : cX15_thing.data.toList.drop 22 = dktX15_thing_1 := dk_seg dksX15_thing_0 22 rfl rfl
theorem dksX15_thing_2 : cX15_thing.data.toList.drop 44 = dktX15_thing_2 := dk_seg dksX15_thing_1 22 rfl rfl
theorem dksX15_thing_3 : cX15_thing.data.toList.drop 67 = dktX15_thing_3 := dk_seg dksX15_thing_2 23 rfl rfl
theorem dX15_thing_0 : decode cX15_thing 0 = .ok (.aload_n 0, 1) := dk_42 (dk_at dksX15_thing_0 0 rfl rfl)
theorem dX15_thing_1 : decode cX15_thing 1 = .ok (.aload_n 0, 1) := dk_42 (dk_at dksX15_thing_0 1 rfl rfl)
theorem dX15_thing_2 : decode cX15_thing 2 = .ok (.getfield 36, 3) := dk_180 0 36 (dk_at dksX15_thing_0 2 rfl rfl)
theorem dX15_thing_5 : decode cX15_thing 5 = .ok (.getfield 106, 3) := dk_180 0 106 (dk_at dksX15_thing_0 5 rfl rfl)
theorem dX15_thing_8 : decode cX15_thing 8 = .ok (.bipush 8, 2) := dk_16 8 (dk_at dksX15_thing_0 8 rfl rfl)
theorem dX15_thing_10 : decode cX15_thing 10 = .ok (.if_icmp .ge 7, 3) := dk_162 0 7 (dk_at dksX15_thing_0 10 rfl rfl)
theorem dX15_thing_13 : decode cX15_thing 13 = .ok (.iconst 1, 1) := dk_4 (dk_at dksX15_thing_0 13 rfl rfl)
theorem dX15_thing_14 : decode cX15_thing 14 = .ok (.goto 4, 3) := dk_167 0 4 (dk_at dksX15_thing_0 14 rfl rfl)
theorem dX15_thing_17 : decode cX15_thing 17 = .ok (.iconst 0, 1) := dk_3 (dk_at dksX15_thing_0 17 rfl rfl)
theorem dX15_thing_18 : decode cX15_thing 18 = .ok (.invokevirtual 83, 3) := dk_182 0 83 (dk_at dksX15_thing_0 18 rfl rfl)
theorem dX15_thing_21 : decode cX15_thing 21 = .ok (.aload_n 0, 1) := dk_42 (dk_at dksX15_thing_0 21 rfl rfl)
theorem dX15_thing_22 : decode cX15_thing 22 = .ok (.invokevirtual 80, 3) := dk_182 0 80 (dk_at dksX15_thing_1 0 rfl rfl)
theorem dX15_thing_25 : decode cX15_thing 25 = .ok (.aload_n 0, 1) := dk_42 (dk_at dksX15_thing_1 3 rfl rfl)
theorem dX15_thing_26 : decode cX15_thing 26 = .ok (.invokevirtual 111, 3) := dk_182 0 111 (dk_at dksX15_thing_1 4 rfl rfl)
theorem dX15_thing_29 : decode cX15_thing 29 = .ok (.istore_n 2, 1) := dk_61 (dk_at dksX15_thing_1 7 rfl rfl)
theorem dX15_thing_30 : decode cX15_thing 30 = .ok (.aload_n 0, 1) := dk_42 (dk_at dksX15_thing_1 8 rfl rfl)
theorem dX15_thing_31 : decode cX15_thing 31 = .ok (.ldc 114, 2) := dk_18 114 (dk_at dksX15_thing_1 9 rfl rfl)
theorem dX15_thing_33 : decode cX15_thing 33 = .ok (.bipush 9, 2) := dk_16 9 (dk_at dksX15_thing_1 11 rfl rfl)
theorem dX15_thing_35 : decode cX15_thing 35 = .ok (.invokevirtual 116, 3) := dk_182 0 116 (dk_at dksX15_thing_1 13 rfl rfl)
theorem dX15_thing_38 : decode cX15_thing 38 = .ok (.istore_n 3, 1) := dk_62 (dk_at dksX15_thing_1 16 rfl rfl)
theorem dX15_thing_39 : decode cX15_thing 39 = .ok (.aload_n 0, 1) := dk_42 (dk_at dksX15_thing_1 17 rfl rfl)
theorem dX15_thing_40 : decode cX15_thing 40 = .ok (.ldc 120, 2) := dk_18 120 (dk_at dksX15_thing_1 18 rfl rfl)
theorem dX15_thing_42 : decode cX15_thing 42 = .ok (.bipush 99, 2) := dk_16 99 (dk_at dksX15_thing_1 20 rfl rfl)
theorem dX15_thing_44 : decode cX15_thing 44 = .ok (.invokevirtual 116, 3) := dk_182 0 116 (dk_at dksX15_thing_2 0 rfl rfl)
theorem dX15_thing_47 : decode cX15_thing 47 = .ok (.istore 4, 2) := dk_54 4 (dk_at dksX15_thing_2 3 rfl rfl)
theorem dX15_thing_49 : decode cX15_thing 49 = .ok (.aload_n 0, 1) := dk_42 (dk_at dksX15_thing_2 5 rfl rfl)
theorem dX15_thing_50 : decode cX15_thing 50 = .ok (.getfield 36, 3) := dk_180 0 36 (dk_at dksX15_thing_2 6 rfl rfl)
theorem dX15_thing_53 : decode cX15_thing 53 = .ok (.iload_n 1, 1) := dk_27 (dk_at dksX15_thing_2 9 rfl rfl)
theorem dX15_thing_54 : decode cX15_thing 54 = .ok (.iload_n 2, 1) := dk_28 (dk_at dksX15_thing_2 10 rfl rfl)
theorem dX15_thing_55 : decode cX15_thing 55 = .ok (.iload_n 3, 1) := dk_29 (dk_at dksX15_thing_2 11 rfl rfl)
theorem dX15_thing_56 : decode cX15_thing 56 = .ok (.iload 4, 2) := dk_21 4 (dk_at dksX15_thing_2 12 rfl rfl)
theorem dX15_thing_58 : decode cX15_thing 58 = .ok (.invokevirtual 122, 3) := dk_182 0 122 (dk_at dksX15_thing_2 14 rfl rfl)
theorem dX15_thing_61 : decode cX15_thing 61 = .ok (.istore 5, 2) := dk_54 5 (dk_at dksX15_thing_2 17 rfl rfl)
theorem dX15_thing_63 : decode cX15_thing 63 = .ok (.aload_n 0, 1) := dk_42 (dk_at dksX15_thing_2 19 rfl rfl)
theorem dX15_thing_64 : decode cX15_thing 64 = .ok (.getfield 36, 3) := dk_180 0 36 (dk_at dksX15_thing_2 20 rfl rfl)
theorem dX15_thing_67 : decode cX15_thing 67 = .ok (.getfield 126, 3) := dk_180 0 126 (dk_at dksX15_thing_3 0 rfl rfl)
theorem dX15_thing_70 : decode cX15_thing 70 = .ok (.iload 5, 2) := dk_21 5 (dk_at dksX15_thing_3 3 rfl rfl)
theorem dX15_thing_72 : decode cX15_thing 72 = .ok (.aaload, 1) := dk_50 (dk_at dksX15_thing_3 5 rfl rfl)
theorem dX15_thing_73 : decode cX15_thing 73 = .ok (.getfield 130, 3) := dk_180 0 130 (dk_at dksX15_thing_3 6 rfl rfl)
theorem dX15_thing_76 : decode cX15_thing 76 = .ok (.iconst 0, 1) := dk_3 (dk_at dksX15_thing_3 9 rfl rfl)
theorem dX15_thing_77 : decode cX15_thing 77 = .ok (.aload_n 0, 1) := dk_42 (dk_at dksX15_thing_3 10 rfl rfl)
theorem dX15_thing_78 : decode cX15_thing 78 = .ok (.ldc 136, 2) := dk_18 136 (dk_at dksX15_thing_3 11 rfl rfl)
theorem dX15_thing_80 : decode cX15_thing 80 = .ok (.bipush 99, 2) := dk_16 99 (dk_at dksX15_thing_3 13 rfl rfl)
theorem dX15_thing_82 : decode cX15_thing 82 = .ok (.invokevirtual 116, 3) := dk_182 0 116 (dk_at dksX15_thing_3 15 rfl rfl)
theorem dX15_thing_85 : decode cX15_thing 85 = .ok (.iastore, 1) := dk_79 (dk_at dksX15_thing_3 18 rfl rfl)
theorem dX15_thing_86 : decode cX15_thing 86 = .ok (.return_, 1) := dk_177 (dk_at dksX15_thing_3 19 rfl rfl)
abbrev cX15_need : ByteArray := prog_20_method_6_code
def yX15_need : MethodName := ⟨RX15, "need", "(Z)V"⟩
def dkwX15_need_0 : List UInt8 := [27, 154, 0, 15, 42, 180, 0, 32, 42, 180, 0, 40, 182, 0, 65, 191, 177]
abbrev dktX15_need_0 : List UInt8 := dkwX15_need_0 ++ []
theorem dksX15_need_0 : cX15_need.data.toList.drop 0 = dktX15_need_0 := by decide +kernel
theorem dX15_need_0 : decode cX15_need 0 = .ok (.iload_n 1, 1) := dk_27 (dk_at dksX15_need_0 0 rfl rfl)
theorem dX15_need_1 : decode cX15_need 1 = .ok (.ifCond .ne 15, 3) := dk_154 0 15 (dk_at dksX15_need_0 1 rfl rfl)
theorem dX15_need_4 : decode cX15_need 4 = .ok (.aload_n 0, 1) := dk_42 (dk_at dksX15_need_0 4 rfl rfl)
theorem dX15_need_5 : decode cX15_need 5 = .ok (.getfield 32, 3) := dk_180 0 32 (dk_at dksX15_need_0 5 rfl rfl)
theorem dX15_need_8 : decode cX15_need 8 = .ok (.aload_n 0, 1) := dk_42 (dk_at dksX15_need_0 8 rfl rfl)
theorem dX15_need_9 : decode cX15_need 9 = .ok (.getfield 40, 3) := dk_180 0 40 (dk_at dksX15_need_0 9 rfl rfl)
theorem dX15_need_12 : decode cX15_need 12 = .ok (.invokevirtual 65, 3) := dk_182 0 65 (dk_at dksX15_need_0 12 rfl rfl)
theorem dX15_need_15 : decode cX15_need 15 = .ok (.athrow, 1) := dk_191 (dk_at dksX15_need_0 15 rfl rfl)
theorem dX15_need_16 : decode cX15_need 16 = .ok (.return_, 1) := dk_177 (dk_at dksX15_need_0 16 rfl rfl)
abbrev cX15_place : ByteArray := prog_20_method_14_code
def yX15_place : MethodName := ⟨RX15, "place", "()I"⟩
def dkwX15_place_0 : List UInt8 := [42, 18, 101, 182, 0, 102, 42, 3, 6, 182, 0, 98, 172]
abbrev dktX15_place_0 : List UInt8 := dkwX15_place_0 ++ []
theorem dksX15_place_0 : cX15_place.data.toList.drop 0 = dktX15_place_0 := by decide +kernel
theorem dX15_place_0 : decode cX15_place 0 = .ok (.aload_n 0, 1) := dk_42 (dk_at dksX15_place_0 0 rfl rfl)
theorem dX15_place_1 : decode cX15_place 1 = .ok (.ldc 101, 2) := dk_18 101 (dk_at dksX15_place_0 1 rfl rfl)
theorem dX15_place_3 : decode cX15_place 3 = .ok (.invokevirtual 102, 3) := dk_182 0 102 (dk_at dksX15_place_0 3 rfl rfl)
theorem dX15_place_6 : decode cX15_place 6 = .ok (.aload_n 0, 1) := dk_42 (dk_at dksX15_place_0 6 rfl rfl)
theorem dX15_place_7 : decode cX15_place 7 = .ok (.iconst 0, 1) := dk_3 (dk_at dksX15_place_0 7 rfl rfl)
theorem dX15_place_8 : decode cX15_place 8 = .ok (.iconst 3, 1) := dk_6 (dk_at dksX15_place_0 8 rfl rfl)
theorem dX15_place_9 : decode cX15_place 9 = .ok (.invokevirtual 98, 3) := dk_182 0 98 (dk_at dksX15_place_0 9 rfl rfl)
theorem dX15_place_12 : decode cX15_place 12 = .ok (.ireturn, 1) := dk_172 (dk_at dksX15_place_0 12 rfl rfl)
abbrev cX15_must : ByteArray := prog_20_method_9_code
def yX15_must : MethodName := ⟨RX15, "must", "(Ljava/lang/String;)V"⟩
def dkwX15_must_0 : List UInt8 := [42, 42, 43, 182, 0, 76, 182, 0, 83, 42, 182, 0, 80, 177]
abbrev dktX15_must_0 : List UInt8 := dkwX15_must_0 ++ []
theorem dksX15_must_0 : cX15_must.data.toList.drop 0 = dktX15_must_0 := by decide +kernel
theorem dX15_must_0 : decode cX15_must 0 = .ok (.aload_n 0, 1) := dk_42 (dk_at dksX15_must_0 0 rfl rfl)
theorem dX15_must_1 : decode cX15_must 1 = .ok (.aload_n 0, 1) := dk_42 (dk_at dksX15_must_0 1 rfl rfl)
theorem dX15_must_2 : decode cX15_must 2 = .ok (.aload_n 1, 1) := dk_43 (dk_at dksX15_must_0 2 rfl rfl)
theorem dX15_must_3 : decode cX15_must 3 = .ok (.invokevirtual 76, 3) := dk_182 0 76 (dk_at dksX15_must_0 3 rfl rfl)
theorem dX15_must_6 : decode cX15_must 6 = .ok (.invokevirtual 83, 3) := dk_182 0 83 (dk_at dksX15_must_0 6 rfl rfl)
theorem dX15_must_9 : decode cX15_must 9 = .ok (.aload_n 0, 1) := dk_42 (dk_at dksX15_must_0 9 rfl rfl)
theorem dX15_must_10 : decode cX15_must 10 = .ok (.invokevirtual 80, 3) := dk_182 0 80 (dk_at dksX15_must_0 10 rfl rfl)
theorem dX15_must_13 : decode cX15_must 13 = .ok (.return_, 1) := dk_177 (dk_at dksX15_must_0 13 rfl rfl)
abbrev cX15_number : ByteArray := prog_20_method_11_code
def yX15_number : MethodName := ⟨RX15, "number", "(II)I"⟩
def dkwX15_number_0 : List UInt8 := [42, 27, 28, 182, 0, 91, 62, 42, 182, 0, 80, 29, 172]
abbrev dktX15_number_0 : List UInt8 := dkwX15_number_0 ++ []
theorem dksX15_number_0 : cX15_number.data.toList.drop 0 = dktX15_number_0 := by decide +kernel
theorem dX15_number_0 : decode cX15_number 0 = .ok (.aload_n 0, 1) := dk_42 (dk_at dksX15_number_0 0 rfl rfl)
theorem dX15_number_1 : decode cX15_number 1 = .ok (.iload_n 1, 1) := dk_27 (dk_at dksX15_number_0 1 rfl rfl)
theorem dX15_number_2 : decode cX15_number 2 = .ok (.iload_n 2, 1) := dk_28 (dk_at dksX15_number_0 2 rfl rfl)
theorem dX15_number_3 : decode cX15_number 3 = .ok (.invokevirtual 91, 3) := dk_182 0 91 (dk_at dksX15_number_0 3 rfl rfl)
theorem dX15_number_6 : decode cX15_number 6 = .ok (.istore_n 3, 1) := dk_62 (dk_at dksX15_number_0 6 rfl rfl)
theorem dX15_number_7 : decode cX15_number 7 = .ok (.aload_n 0, 1) := dk_42 (dk_at dksX15_number_0 7 rfl rfl)
theorem dX15_number_8 : decode cX15_number 8 = .ok (.invokevirtual 80, 3) := dk_182 0 80 (dk_at dksX15_number_0 8 rfl rfl)
theorem dX15_number_11 : decode cX15_number 11 = .ok (.iload_n 3, 1) := dk_29 (dk_at dksX15_number_0 11 rfl rfl)
theorem dX15_number_12 : decode cX15_number 12 = .ok (.ireturn, 1) := dk_172 (dk_at dksX15_number_0 12 rfl rfl)
abbrev cX15_seen : ByteArray := prog_20_method_10_code
def yX15_seen : MethodName := ⟨RX15, "seen", "(II)I"⟩
def dkwX15_seen_3 : List UInt8 := [167, 255, 228, 42, 29, 27, 28, 184, 0, 87, 182, 0, 83, 29, 172]
abbrev dktX15_seen_3 : List UInt8 := dkwX15_seen_3 ++ []
def dkwX15_seen_2 : List UInt8 := [162, 0, 25, 16, 10, 29, 104, 42, 180, 0, 47, 21, 4, 51, 96, 16, 48, 100, 62, 132, 4, 1]
abbrev dktX15_seen_2 : List UInt8 := dkwX15_seen_2 ++ dktX15_seen_3
def dkwX15_seen_1 : List UInt8 := [4, 167, 0, 4, 3, 182, 0, 83, 3, 62, 42, 180, 0, 40, 54, 4, 21, 4, 42, 180, 0, 51]
abbrev dktX15_seen_1 : List UInt8 := dkwX15_seen_1 ++ dktX15_seen_2
def dkwX15_seen_0 : List UInt8 := [42, 42, 182, 0, 54, 184, 0, 62, 153, 0, 20, 42, 180, 0, 51, 42, 180, 0, 40, 100, 5, 163, 0, 7]
abbrev dktX15_seen_0 : List UInt8 := dkwX15_seen_0 ++ dktX15_seen_1
theorem dksX15_seen_0 : cX15_seen.data.toList.drop 0 = dktX15_seen_0 := by decide +kernel
theorem dksX15_seen_1 : cX15_seen.data.toList.drop 24 = dktX15_seen_1 := dk_seg dksX15_seen_0 24 rfl rfl
theorem dksX15_seen_2 : cX15_seen.data.toList.drop 46 = dktX15_seen_2 := dk_seg dksX15_seen_1 22 rfl rfl
theorem dksX15_seen_3 : cX15_seen.data.toList.drop 68 = dktX15_seen_3 := dk_seg dksX15_seen_2 22 rfl rfl
theorem dX15_seen_0 : decode cX15_seen 0 = .ok (.aload_n 0, 1) := dk_42 (dk_at dksX15_seen_0 0 rfl rfl)
theorem dX15_seen_1 : decode cX15_seen 1 = .ok (.aload_n 0, 1) := dk_42 (dk_at dksX15_seen_0 1 rfl rfl)
theorem dX15_seen_2 : decode cX15_seen 2 = .ok (.invokevirtual 54, 3) := dk_182 0 54 (dk_at dksX15_seen_0 2 rfl rfl)
theorem dX15_seen_5 : decode cX15_seen 5 = .ok (.invokestatic 62, 3) := dk_184 0 62 (dk_at dksX15_seen_0 5 rfl rfl)
theorem dX15_seen_8 : decode cX15_seen 8 = .ok (.ifCond .eq 20, 3) := dk_153 0 20 (dk_at dksX15_seen_0 8 rfl rfl)
theorem dX15_seen_11 : decode cX15_seen 11 = .ok (.aload_n 0, 1) := dk_42 (dk_at dksX15_seen_0 11 rfl rfl)
theorem dX15_seen_12 : decode cX15_seen 12 = .ok (.getfield 51, 3) := dk_180 0 51 (dk_at dksX15_seen_0 12 rfl rfl)
theorem dX15_seen_15 : decode cX15_seen 15 = .ok (.aload_n 0, 1) := dk_42 (dk_at dksX15_seen_0 15 rfl rfl)
theorem dX15_seen_16 : decode cX15_seen 16 = .ok (.getfield 40, 3) := dk_180 0 40 (dk_at dksX15_seen_0 16 rfl rfl)
theorem dX15_seen_19 : decode cX15_seen 19 = .ok (.isub, 1) := dk_100 (dk_at dksX15_seen_0 19 rfl rfl)
theorem dX15_seen_20 : decode cX15_seen 20 = .ok (.iconst 2, 1) := dk_5 (dk_at dksX15_seen_0 20 rfl rfl)
theorem dX15_seen_21 : decode cX15_seen 21 = .ok (.if_icmp .gt 7, 3) := dk_163 0 7 (dk_at dksX15_seen_0 21 rfl rfl)
theorem dX15_seen_24 : decode cX15_seen 24 = .ok (.iconst 1, 1) := dk_4 (dk_at dksX15_seen_1 0 rfl rfl)
theorem dX15_seen_25 : decode cX15_seen 25 = .ok (.goto 4, 3) := dk_167 0 4 (dk_at dksX15_seen_1 1 rfl rfl)
theorem dX15_seen_28 : decode cX15_seen 28 = .ok (.iconst 0, 1) := dk_3 (dk_at dksX15_seen_1 4 rfl rfl)
theorem dX15_seen_29 : decode cX15_seen 29 = .ok (.invokevirtual 83, 3) := dk_182 0 83 (dk_at dksX15_seen_1 5 rfl rfl)
theorem dX15_seen_32 : decode cX15_seen 32 = .ok (.iconst 0, 1) := dk_3 (dk_at dksX15_seen_1 8 rfl rfl)
theorem dX15_seen_33 : decode cX15_seen 33 = .ok (.istore_n 3, 1) := dk_62 (dk_at dksX15_seen_1 9 rfl rfl)
theorem dX15_seen_34 : decode cX15_seen 34 = .ok (.aload_n 0, 1) := dk_42 (dk_at dksX15_seen_1 10 rfl rfl)
theorem dX15_seen_35 : decode cX15_seen 35 = .ok (.getfield 40, 3) := dk_180 0 40 (dk_at dksX15_seen_1 11 rfl rfl)
theorem dX15_seen_38 : decode cX15_seen 38 = .ok (.istore 4, 2) := dk_54 4 (dk_at dksX15_seen_1 14 rfl rfl)
theorem dX15_seen_40 : decode cX15_seen 40 = .ok (.iload 4, 2) := dk_21 4 (dk_at dksX15_seen_1 16 rfl rfl)
theorem dX15_seen_42 : decode cX15_seen 42 = .ok (.aload_n 0, 1) := dk_42 (dk_at dksX15_seen_1 18 rfl rfl)
theorem dX15_seen_43 : decode cX15_seen 43 = .ok (.getfield 51, 3) := dk_180 0 51 (dk_at dksX15_seen_1 19 rfl rfl)
theorem dX15_seen_46 : decode cX15_seen 46 = .ok (.if_icmp .ge 25, 3) := dk_162 0 25 (dk_at dksX15_seen_2 0 rfl rfl)
theorem dX15_seen_49 : decode cX15_seen 49 = .ok (.bipush 10, 2) := dk_16 10 (dk_at dksX15_seen_2 3 rfl rfl)
theorem dX15_seen_51 : decode cX15_seen 51 = .ok (.iload_n 3, 1) := dk_29 (dk_at dksX15_seen_2 5 rfl rfl)
theorem dX15_seen_52 : decode cX15_seen 52 = .ok (.imul, 1) := dk_104 (dk_at dksX15_seen_2 6 rfl rfl)
theorem dX15_seen_53 : decode cX15_seen 53 = .ok (.aload_n 0, 1) := dk_42 (dk_at dksX15_seen_2 7 rfl rfl)
theorem dX15_seen_54 : decode cX15_seen 54 = .ok (.getfield 47, 3) := dk_180 0 47 (dk_at dksX15_seen_2 8 rfl rfl)
theorem dX15_seen_57 : decode cX15_seen 57 = .ok (.iload 4, 2) := dk_21 4 (dk_at dksX15_seen_2 11 rfl rfl)
theorem dX15_seen_59 : decode cX15_seen 59 = .ok (.baload, 1) := dk_51 (dk_at dksX15_seen_2 13 rfl rfl)
theorem dX15_seen_60 : decode cX15_seen 60 = .ok (.iadd, 1) := dk_96 (dk_at dksX15_seen_2 14 rfl rfl)
theorem dX15_seen_61 : decode cX15_seen 61 = .ok (.bipush 48, 2) := dk_16 48 (dk_at dksX15_seen_2 15 rfl rfl)
theorem dX15_seen_63 : decode cX15_seen 63 = .ok (.isub, 1) := dk_100 (dk_at dksX15_seen_2 17 rfl rfl)
theorem dX15_seen_64 : decode cX15_seen 64 = .ok (.istore_n 3, 1) := dk_62 (dk_at dksX15_seen_2 18 rfl rfl)
theorem dX15_seen_65 : decode cX15_seen 65 = .ok (.iinc 4 1, 3) := dk_132 4 1 (dk_at dksX15_seen_2 19 rfl rfl)
theorem dX15_seen_68 : decode cX15_seen 68 = .ok (.goto (-28), 3) := dk_167 255 228 (dk_at dksX15_seen_3 0 rfl rfl)
theorem dX15_seen_71 : decode cX15_seen 71 = .ok (.aload_n 0, 1) := dk_42 (dk_at dksX15_seen_3 3 rfl rfl)
theorem dX15_seen_72 : decode cX15_seen 72 = .ok (.iload_n 3, 1) := dk_29 (dk_at dksX15_seen_3 4 rfl rfl)
theorem dX15_seen_73 : decode cX15_seen 73 = .ok (.iload_n 1, 1) := dk_27 (dk_at dksX15_seen_3 5 rfl rfl)
theorem dX15_seen_74 : decode cX15_seen 74 = .ok (.iload_n 2, 1) := dk_28 (dk_at dksX15_seen_3 6 rfl rfl)
theorem dX15_seen_75 : decode cX15_seen 75 = .ok (.invokestatic 87, 3) := dk_184 0 87 (dk_at dksX15_seen_3 7 rfl rfl)
theorem dX15_seen_78 : decode cX15_seen 78 = .ok (.invokevirtual 83, 3) := dk_182 0 83 (dk_at dksX15_seen_3 10 rfl rfl)
theorem dX15_seen_81 : decode cX15_seen 81 = .ok (.iload_n 3, 1) := dk_29 (dk_at dksX15_seen_3 13 rfl rfl)
theorem dX15_seen_82 : decode cX15_seen 82 = .ok (.ireturn, 1) := dk_172 (dk_at dksX15_seen_3 14 rfl rfl)
abbrev cX15_told : ByteArray := prog_20_method_13_code
def yX15_told : MethodName := ⟨RX15, "told", "(Ljava/lang/String;I)I"⟩
def dkwX15_told_0 : List UInt8 := [42, 43, 182, 0, 95, 153, 0, 12, 42, 3, 28, 182, 0, 98, 167, 0, 4, 3, 172]
abbrev dktX15_told_0 : List UInt8 := dkwX15_told_0 ++ []
theorem dksX15_told_0 : cX15_told.data.toList.drop 0 = dktX15_told_0 := by decide +kernel
theorem dX15_told_0 : decode cX15_told 0 = .ok (.aload_n 0, 1) := dk_42 (dk_at dksX15_told_0 0 rfl rfl)
theorem dX15_told_1 : decode cX15_told 1 = .ok (.aload_n 1, 1) := dk_43 (dk_at dksX15_told_0 1 rfl rfl)
theorem dX15_told_2 : decode cX15_told 2 = .ok (.invokevirtual 95, 3) := dk_182 0 95 (dk_at dksX15_told_0 2 rfl rfl)
theorem dX15_told_5 : decode cX15_told 5 = .ok (.ifCond .eq 12, 3) := dk_153 0 12 (dk_at dksX15_told_0 5 rfl rfl)
theorem dX15_told_8 : decode cX15_told 8 = .ok (.aload_n 0, 1) := dk_42 (dk_at dksX15_told_0 8 rfl rfl)
theorem dX15_told_9 : decode cX15_told 9 = .ok (.iconst 0, 1) := dk_3 (dk_at dksX15_told_0 9 rfl rfl)
theorem dX15_told_10 : decode cX15_told 10 = .ok (.iload_n 2, 1) := dk_28 (dk_at dksX15_told_0 10 rfl rfl)
theorem dX15_told_11 : decode cX15_told 11 = .ok (.invokevirtual 98, 3) := dk_182 0 98 (dk_at dksX15_told_0 11 rfl rfl)
theorem dX15_told_14 : decode cX15_told 14 = .ok (.goto 4, 3) := dk_167 0 4 (dk_at dksX15_told_0 14 rfl rfl)
theorem dX15_told_17 : decode cX15_told 17 = .ok (.iconst 0, 1) := dk_3 (dk_at dksX15_told_0 17 rfl rfl)
theorem dX15_told_18 : decode cX15_told 18 = .ok (.ireturn, 1) := dk_172 (dk_at dksX15_told_0 18 rfl rfl)
abbrev cX15_may : ByteArray := prog_20_method_8_code
def yX15_may : MethodName := ⟨RX15, "may", "(Ljava/lang/String;)Z"⟩
def dkwX15_may_0 : List UInt8 := [42, 43, 182, 0, 76, 154, 0, 5, 3, 172, 42, 182, 0, 80, 4, 172]
abbrev dktX15_may_0 : List UInt8 := dkwX15_may_0 ++ []
theorem dksX15_may_0 : cX15_may.data.toList.drop 0 = dktX15_may_0 := by decide +kernel
theorem dX15_may_0 : decode cX15_may 0 = .ok (.aload_n 0, 1) := dk_42 (dk_at dksX15_may_0 0 rfl rfl)
theorem dX15_may_1 : decode cX15_may 1 = .ok (.aload_n 1, 1) := dk_43 (dk_at dksX15_may_0 1 rfl rfl)
theorem dX15_may_2 : decode cX15_may 2 = .ok (.invokevirtual 76, 3) := dk_182 0 76 (dk_at dksX15_may_0 2 rfl rfl)
theorem dX15_may_5 : decode cX15_may 5 = .ok (.ifCond .ne 5, 3) := dk_154 0 5 (dk_at dksX15_may_0 5 rfl rfl)
theorem dX15_may_8 : decode cX15_may 8 = .ok (.iconst 0, 1) := dk_3 (dk_at dksX15_may_0 8 rfl rfl)
theorem dX15_may_9 : decode cX15_may 9 = .ok (.ireturn, 1) := dk_172 (dk_at dksX15_may_0 9 rfl rfl)
theorem dX15_may_10 : decode cX15_may 10 = .ok (.aload_n 0, 1) := dk_42 (dk_at dksX15_may_0 10 rfl rfl)
theorem dX15_may_11 : decode cX15_may 11 = .ok (.invokevirtual 80, 3) := dk_182 0 80 (dk_at dksX15_may_0 11 rfl rfl)
theorem dX15_may_14 : decode cX15_may 14 = .ok (.iconst 1, 1) := dk_4 (dk_at dksX15_may_0 14 rfl rfl)
theorem dX15_may_15 : decode cX15_may 15 = .ok (.ireturn, 1) := dk_172 (dk_at dksX15_may_0 15 rfl rfl)
theorem q118 : (Jvm.Cond.initialized "CoatHoles$Reader") ∈ lw_all := lw_g (lw_at lw_m1 16 rfl) rfl
theorem q298 : (Jvm.Cond.fieldLinkNest "CoatHoles$Reader" (130 : Nat) "CoatHoles$Item" "lives" "[I" "CoatHoles") ∈ lw_tbl := lw_at lw_m1 196 rfl
theorem q318 : (Jvm.Cond.fieldLinkNest "CoatHoles$Reader" (126 : Nat) "CoatHoles$Cup" "items" "[LCoatHoles$Item;" "CoatHoles") ∈ lw_tbl := lw_at lw_m1 216 rfl
theorem q321 : (Jvm.Cond.fieldLinkNest "CoatHoles$Reader" (106 : Nat) "CoatHoles$Cup" "things" "I" "CoatHoles") ∈ lw_tbl := lw_at lw_m1 219 rfl
theorem q329 : (Jvm.Cond.fieldLinkNest "CoatHoles$Reader" (148 : Nat) "CoatHoles$Cup" "cards" "I" "CoatHoles") ∈ lw_tbl := lw_at lw_m1 227 rfl
theorem q335 : (Jvm.Cond.fieldLinkNest "CoatHoles$Reader" (144 : Nat) "CoatHoles$Cup" "fliers" "[I" "CoatHoles") ∈ lw_tbl := lw_at lw_m1 233 rfl
theorem q341 : (Jvm.Cond.fieldLinkNest "CoatHoles$Reader" (153 : Nat) "CoatHoles$Cup" "law" "[I" "CoatHoles") ∈ lw_tbl := lw_at lw_m1 239 rfl
theorem q391 : (Jvm.Cond.instantiable "CoatHoles$Reader" (7 : Nat)) ∈ lw_all := lw_g (lw_at lw_m2 49 rfl) rfl
theorem q393 : (Jvm.Cond.instanceMethod ({ cls := "CoatHoles$Reader", name := "<init>", desc := "(LCoatHoles$Cup;)V" } : Jvm.MethodName)) ∈ lw_all := lw_g (lw_at lw_m2 51 rfl) rfl
theorem q394 : (Jvm.Cond.code ({ cls := "CoatHoles$Reader", name := "<init>", desc := "(LCoatHoles$Cup;)V" } : Jvm.MethodName) prog_20_method_1_code (2 : Nat) (Option.none : Option Jvm.ClassFile.FieldType)) ∈ lw_all := lw_g (lw_at lw_m2 52 rfl) rfl
theorem q395 : (Jvm.Cond.methodLink "CoatHoles$Reader" (3 : Nat) ({ cls := "java/lang/Object", name := "<init>", desc := "()V" } : Jvm.MethodName)) ∈ lw_all := lw_g (lw_at lw_m2 53 rfl) rfl
theorem q396 : (Jvm.Cond.classLink "CoatHoles$Reader" (9 : Nat) "java/lang/String") ∈ lw_all := lw_g (lw_at lw_m2 54 rfl) rfl
theorem q398 : (Jvm.Cond.stringRef "CoatHoles$Reader" (11 : Nat) "silk") ∈ lw_tbl := lw_at lw_m2 56 rfl
theorem q399 : (Jvm.Cond.stringRef "CoatHoles$Reader" (13 : Nat) "wool") ∈ lw_tbl := lw_at lw_m2 57 rfl
theorem q400 : (Jvm.Cond.stringRef "CoatHoles$Reader" (15 : Nat) "cashmere") ∈ lw_tbl := lw_at lw_m2 58 rfl
theorem q401 : (Jvm.Cond.stringRef "CoatHoles$Reader" (17 : Nat) "felt") ∈ lw_tbl := lw_at lw_m2 59 rfl
theorem q402 : (Jvm.Cond.stringRef "CoatHoles$Reader" (19 : Nat) "cotton") ∈ lw_tbl := lw_at lw_m2 60 rfl
theorem q403 : (Jvm.Cond.stringRef "CoatHoles$Reader" (21 : Nat) "fur") ∈ lw_tbl := lw_at lw_m2 61 rfl
theorem q404 : (Jvm.Cond.classLink "CoatHoles$Reader" (29 : Nat) "CoatHoles$Fault") ∈ lw_all := lw_g (lw_at lw_m2 62 rfl) rfl
theorem q448 : (Jvm.Cond.methodLink "CoatHoles$Reader" (31 : Nat) ({ cls := "CoatHoles$Fault", name := "<init>", desc := "()V" } : Jvm.MethodName)) ∈ lw_all := lw_g (lw_at lw_m2 106 rfl) rfl
theorem q478 : (Jvm.Cond.fieldLink "CoatHoles$Reader" (23 : Nat) "CoatHoles$Reader" "stuffs" "[Ljava/lang/String;") ∈ lw_all := lw_g (lw_at lw_m2 136 rfl) rfl
theorem q479 : (Jvm.Cond.fieldLink "CoatHoles$Reader" (32 : Nat) "CoatHoles$Reader" "fault" "LCoatHoles$Fault;") ∈ lw_all := lw_g (lw_at lw_m2 137 rfl) rfl
theorem q480 : (Jvm.Cond.fieldLink "CoatHoles$Reader" (36 : Nat) "CoatHoles$Reader" "c" "LCoatHoles$Cup;") ∈ lw_all := lw_g (lw_at lw_m2 138 rfl) rfl
theorem q481 : (Jvm.Cond.fieldLink "CoatHoles$Reader" (47 : Nat) "CoatHoles$Reader" "text" "[B") ∈ lw_all := lw_g (lw_at lw_m2 139 rfl) rfl
theorem q482 : (Jvm.Cond.fieldLink "CoatHoles$Reader" (44 : Nat) "CoatHoles$Reader" "many" "I") ∈ lw_all := lw_g (lw_at lw_m2 140 rfl) rfl
theorem q483 : (Jvm.Cond.fieldLink "CoatHoles$Reader" (40 : Nat) "CoatHoles$Reader" "from" "I") ∈ lw_all := lw_g (lw_at lw_m2 141 rfl) rfl
theorem q484 : (Jvm.Cond.fieldLink "CoatHoles$Reader" (51 : Nat) "CoatHoles$Reader" "to" "I") ∈ lw_all := lw_g (lw_at lw_m2 142 rfl) rfl
theorem q485 : (Jvm.Cond.laysFinal "CoatHoles$Reader" "CoatHoles$Reader" "stuffs" "[Ljava/lang/String;") ∈ lw_all := lw_g (lw_at lw_m2 143 rfl) rfl
theorem q486 : (Jvm.Cond.soleField "CoatHoles$Reader" "stuffs") ∈ lw_all := lw_g (lw_at lw_m2 144 rfl) rfl
theorem q487 : (Jvm.Cond.laysFinal "CoatHoles$Reader" "CoatHoles$Reader" "fault" "LCoatHoles$Fault;") ∈ lw_all := lw_g (lw_at lw_m2 145 rfl) rfl
theorem q488 : (Jvm.Cond.soleField "CoatHoles$Reader" "fault") ∈ lw_all := lw_g (lw_at lw_m2 146 rfl) rfl
theorem q489 : (Jvm.Cond.laysFinal "CoatHoles$Reader" "CoatHoles$Reader" "c" "LCoatHoles$Cup;") ∈ lw_all := lw_g (lw_at lw_m2 147 rfl) rfl
theorem q490 : (Jvm.Cond.soleField "CoatHoles$Reader" "c") ∈ lw_all := lw_g (lw_at lw_m2 148 rfl) rfl
theorem q491 : (Jvm.Cond.lays "CoatHoles$Reader" "CoatHoles$Reader" "text" "[B") ∈ lw_all := lw_g (lw_at lw_m2 149 rfl) rfl
theorem q492 : (Jvm.Cond.soleField "CoatHoles$Reader" "text") ∈ lw_all := lw_g (lw_at lw_m2 150 rfl) rfl
theorem q493 : (Jvm.Cond.lays "CoatHoles$Reader" "CoatHoles$Reader" "many" "I") ∈ lw_all := lw_g (lw_at lw_m2 151 rfl) rfl
theorem q494 : (Jvm.Cond.soleField "CoatHoles$Reader" "many") ∈ lw_all := lw_g (lw_at lw_m2 152 rfl) rfl
theorem q495 : (Jvm.Cond.lays "CoatHoles$Reader" "CoatHoles$Reader" "from" "I") ∈ lw_all := lw_g (lw_at lw_m2 153 rfl) rfl
theorem q496 : (Jvm.Cond.soleField "CoatHoles$Reader" "from") ∈ lw_all := lw_g (lw_at lw_m2 154 rfl) rfl
theorem q497 : (Jvm.Cond.lays "CoatHoles$Reader" "CoatHoles$Reader" "to" "I") ∈ lw_all := lw_g (lw_at lw_m2 155 rfl) rfl
theorem q498 : (Jvm.Cond.soleField "CoatHoles$Reader" "to") ∈ lw_all := lw_g (lw_at lw_m2 156 rfl) rfl
theorem q499 : (Jvm.Cond.superclass "CoatHoles$Reader" "java/lang/Object") ∈ lw_all := lw_g (lw_at lw_m2 157 rfl) rfl
theorem q664 : (Jvm.Cond.instanceMethod ({ cls := "CoatHoles$Reader", name := "read", desc := "([BI)V" } : Jvm.MethodName)) ∈ lw_all := lw_g (lw_at lw_m3 82 rfl) rfl
theorem q665 : (Jvm.Cond.selects "CoatHoles$Reader" ({ cls := "CoatHoles$Reader", name := "read", desc := "([BI)V" } : Jvm.MethodName) ({ cls := "CoatHoles$Reader", name := "read", desc := "([BI)V" } : Jvm.MethodName)) ∈ lw_all := lw_g (lw_at lw_m3 83 rfl) rfl
theorem q666 : (Jvm.Cond.code ({ cls := "CoatHoles$Reader", name := "read", desc := "([BI)V" } : Jvm.MethodName) prog_20_method_17_code (3 : Nat) (Option.none : Option Jvm.ClassFile.FieldType)) ∈ lw_all := lw_g (lw_at lw_m3 84 rfl) rfl
theorem q667 : (Jvm.Cond.methodLink "CoatHoles$Reader" (158 : Nat) ({ cls := "CoatHoles$Reader", name := "begins", desc := "([BI)V" } : Jvm.MethodName)) ∈ lw_all := lw_g (lw_at lw_m3 85 rfl) rfl
theorem q668 : (Jvm.Cond.privateMethod ({ cls := "CoatHoles$Reader", name := "begins", desc := "([BI)V" } : Jvm.MethodName)) ∈ lw_tbl := lw_at lw_m3 86 rfl
theorem q669 : (Jvm.Cond.instanceMethod ({ cls := "CoatHoles$Reader", name := "begins", desc := "([BI)V" } : Jvm.MethodName)) ∈ lw_all := lw_g (lw_at lw_m3 87 rfl) rfl
theorem q670 : (Jvm.Cond.code ({ cls := "CoatHoles$Reader", name := "begins", desc := "([BI)V" } : Jvm.MethodName) prog_20_method_12_code (3 : Nat) (Option.none : Option Jvm.ClassFile.FieldType)) ∈ lw_all := lw_g (lw_at lw_m3 88 rfl) rfl
theorem q671 : (Jvm.Cond.methodLink "CoatHoles$Reader" (80 : Nat) ({ cls := "CoatHoles$Reader", name := "next", desc := "()V" } : Jvm.MethodName)) ∈ lw_all := lw_g (lw_at lw_m3 89 rfl) rfl
theorem q672 : (Jvm.Cond.privateMethod ({ cls := "CoatHoles$Reader", name := "next", desc := "()V" } : Jvm.MethodName)) ∈ lw_tbl := lw_at lw_m3 90 rfl
theorem q673 : (Jvm.Cond.instanceMethod ({ cls := "CoatHoles$Reader", name := "next", desc := "()V" } : Jvm.MethodName)) ∈ lw_all := lw_g (lw_at lw_m3 91 rfl) rfl
theorem q674 : (Jvm.Cond.code ({ cls := "CoatHoles$Reader", name := "next", desc := "()V" } : Jvm.MethodName) prog_20_method_5_code (3 : Nat) (Option.none : Option Jvm.ClassFile.FieldType)) ∈ lw_all := lw_g (lw_at lw_m3 92 rfl) rfl
theorem q675 : (Jvm.Cond.methodLink "CoatHoles$Reader" (54 : Nat) ({ cls := "CoatHoles$Reader", name := "here", desc := "()I" } : Jvm.MethodName)) ∈ lw_all := lw_g (lw_at lw_m3 93 rfl) rfl
theorem q676 : (Jvm.Cond.privateMethod ({ cls := "CoatHoles$Reader", name := "here", desc := "()I" } : Jvm.MethodName)) ∈ lw_tbl := lw_at lw_m3 94 rfl
theorem q677 : (Jvm.Cond.instanceMethod ({ cls := "CoatHoles$Reader", name := "here", desc := "()I" } : Jvm.MethodName)) ∈ lw_all := lw_g (lw_at lw_m3 95 rfl) rfl
theorem q678 : (Jvm.Cond.code ({ cls := "CoatHoles$Reader", name := "here", desc := "()I" } : Jvm.MethodName) prog_20_method_2_code (1 : Nat) (Option.some Jvm.ClassFile.FieldType.int)) ∈ lw_all := lw_g (lw_at lw_m3 96 rfl) rfl
theorem q679 : (Jvm.Cond.methodLink "CoatHoles$Reader" (58 : Nat) ({ cls := "CoatHoles$Reader", name := "isLetter", desc := "(I)Z" } : Jvm.MethodName)) ∈ lw_all := lw_g (lw_at lw_m3 97 rfl) rfl
theorem q680 : (Jvm.Cond.static ({ cls := "CoatHoles$Reader", name := "isLetter", desc := "(I)Z" } : Jvm.MethodName)) ∈ lw_all := lw_g (lw_at lw_m3 98 rfl) rfl
theorem q681 : (Jvm.Cond.code ({ cls := "CoatHoles$Reader", name := "isLetter", desc := "(I)Z" } : Jvm.MethodName) prog_20_method_4_code (1 : Nat) (Option.some Jvm.ClassFile.FieldType.boolean)) ∈ lw_all := lw_g (lw_at lw_m3 99 rfl) rfl
theorem q682 : (Jvm.Cond.methodLink "CoatHoles$Reader" (62 : Nat) ({ cls := "CoatHoles$Reader", name := "isDigit", desc := "(I)Z" } : Jvm.MethodName)) ∈ lw_all := lw_g (lw_at lw_m3 100 rfl) rfl
theorem q683 : (Jvm.Cond.static ({ cls := "CoatHoles$Reader", name := "isDigit", desc := "(I)Z" } : Jvm.MethodName)) ∈ lw_all := lw_g (lw_at lw_m3 101 rfl) rfl
theorem q684 : (Jvm.Cond.code ({ cls := "CoatHoles$Reader", name := "isDigit", desc := "(I)Z" } : Jvm.MethodName) prog_20_method_3_code (1 : Nat) (Option.some Jvm.ClassFile.FieldType.boolean)) ∈ lw_all := lw_g (lw_at lw_m3 102 rfl) rfl
theorem q685 : (Jvm.Cond.methodLink "CoatHoles$Reader" (162 : Nat) ({ cls := "CoatHoles$Cup", name := "begins", desc := "()V" } : Jvm.MethodName)) ∈ lw_all := lw_g (lw_at lw_m3 103 rfl) rfl
theorem q689 : (Jvm.Cond.methodLink "CoatHoles$Reader" (164 : Nat) ({ cls := "CoatHoles$Reader", name := "item", desc := "()V" } : Jvm.MethodName)) ∈ lw_all := lw_g (lw_at lw_m3 107 rfl) rfl
theorem q690 : (Jvm.Cond.privateMethod ({ cls := "CoatHoles$Reader", name := "item", desc := "()V" } : Jvm.MethodName)) ∈ lw_tbl := lw_at lw_m3 108 rfl
theorem q691 : (Jvm.Cond.instanceMethod ({ cls := "CoatHoles$Reader", name := "item", desc := "()V" } : Jvm.MethodName)) ∈ lw_all := lw_g (lw_at lw_m3 109 rfl) rfl
theorem q692 : (Jvm.Cond.code ({ cls := "CoatHoles$Reader", name := "item", desc := "()V" } : Jvm.MethodName) prog_20_method_16_code (3 : Nat) (Option.none : Option Jvm.ClassFile.FieldType)) ∈ lw_all := lw_g (lw_at lw_m3 110 rfl) rfl
theorem q693 : (Jvm.Cond.methodLink "CoatHoles$Reader" (76 : Nat) ({ cls := "CoatHoles$Reader", name := "isWord", desc := "(Ljava/lang/String;)Z" } : Jvm.MethodName)) ∈ lw_all := lw_g (lw_at lw_m3 111 rfl) rfl
theorem q694 : (Jvm.Cond.privateMethod ({ cls := "CoatHoles$Reader", name := "isWord", desc := "(Ljava/lang/String;)Z" } : Jvm.MethodName)) ∈ lw_tbl := lw_at lw_m3 112 rfl
theorem q695 : (Jvm.Cond.instanceMethod ({ cls := "CoatHoles$Reader", name := "isWord", desc := "(Ljava/lang/String;)Z" } : Jvm.MethodName)) ∈ lw_all := lw_g (lw_at lw_m3 113 rfl) rfl
theorem q696 : (Jvm.Cond.code ({ cls := "CoatHoles$Reader", name := "isWord", desc := "(Ljava/lang/String;)Z" } : Jvm.MethodName) prog_20_method_7_code (4 : Nat) (Option.some Jvm.ClassFile.FieldType.boolean)) ∈ lw_all := lw_g (lw_at lw_m3 114 rfl) rfl
theorem q697 : (Jvm.Cond.methodLink "CoatHoles$Reader" (69 : Nat) ({ cls := "java/lang/String", name := "length", desc := "()I" } : Jvm.MethodName)) ∈ lw_all := lw_g (lw_at lw_m3 115 rfl) rfl
theorem q707 : (Jvm.Cond.methodLink "CoatHoles$Reader" (72 : Nat) ({ cls := "java/lang/String", name := "charAt", desc := "(I)C" } : Jvm.MethodName)) ∈ lw_all := lw_g (lw_at lw_m3 125 rfl) rfl
theorem q745 : (Jvm.Cond.methodLink "CoatHoles$Reader" (138 : Nat) ({ cls := "CoatHoles$Reader", name := "thing", desc := "(I)V" } : Jvm.MethodName)) ∈ lw_all := lw_g (lw_at lw_m3 163 rfl) rfl
theorem q746 : (Jvm.Cond.privateMethod ({ cls := "CoatHoles$Reader", name := "thing", desc := "(I)V" } : Jvm.MethodName)) ∈ lw_tbl := lw_at lw_m3 164 rfl
theorem q747 : (Jvm.Cond.instanceMethod ({ cls := "CoatHoles$Reader", name := "thing", desc := "(I)V" } : Jvm.MethodName)) ∈ lw_all := lw_g (lw_at lw_m3 165 rfl) rfl
theorem q748 : (Jvm.Cond.code ({ cls := "CoatHoles$Reader", name := "thing", desc := "(I)V" } : Jvm.MethodName) prog_20_method_15_code (6 : Nat) (Option.none : Option Jvm.ClassFile.FieldType)) ∈ lw_all := lw_g (lw_at lw_m3 166 rfl) rfl
theorem q749 : (Jvm.Cond.methodLink "CoatHoles$Reader" (83 : Nat) ({ cls := "CoatHoles$Reader", name := "need", desc := "(Z)V" } : Jvm.MethodName)) ∈ lw_all := lw_g (lw_at lw_m3 167 rfl) rfl
theorem q750 : (Jvm.Cond.privateMethod ({ cls := "CoatHoles$Reader", name := "need", desc := "(Z)V" } : Jvm.MethodName)) ∈ lw_tbl := lw_at lw_m3 168 rfl
theorem q751 : (Jvm.Cond.instanceMethod ({ cls := "CoatHoles$Reader", name := "need", desc := "(Z)V" } : Jvm.MethodName)) ∈ lw_all := lw_g (lw_at lw_m3 169 rfl) rfl
theorem q752 : (Jvm.Cond.code ({ cls := "CoatHoles$Reader", name := "need", desc := "(Z)V" } : Jvm.MethodName) prog_20_method_6_code (2 : Nat) (Option.none : Option Jvm.ClassFile.FieldType)) ∈ lw_all := lw_g (lw_at lw_m3 170 rfl) rfl
theorem q753 : (Jvm.Cond.methodLink "CoatHoles$Reader" (65 : Nat) ({ cls := "CoatHoles$Fault", name := "at", desc := "(I)LCoatHoles$Fault;" } : Jvm.MethodName)) ∈ lw_all := lw_g (lw_at lw_m3 171 rfl) rfl
theorem q757 : (Jvm.Cond.methodLink "CoatHoles$Reader" (111 : Nat) ({ cls := "CoatHoles$Reader", name := "place", desc := "()I" } : Jvm.MethodName)) ∈ lw_all := lw_g (lw_at lw_m3 175 rfl) rfl
theorem q758 : (Jvm.Cond.privateMethod ({ cls := "CoatHoles$Reader", name := "place", desc := "()I" } : Jvm.MethodName)) ∈ lw_tbl := lw_at lw_m3 176 rfl
theorem q759 : (Jvm.Cond.instanceMethod ({ cls := "CoatHoles$Reader", name := "place", desc := "()I" } : Jvm.MethodName)) ∈ lw_all := lw_g (lw_at lw_m3 177 rfl) rfl
theorem q760 : (Jvm.Cond.code ({ cls := "CoatHoles$Reader", name := "place", desc := "()I" } : Jvm.MethodName) prog_20_method_14_code (1 : Nat) (Option.some Jvm.ClassFile.FieldType.int)) ∈ lw_all := lw_g (lw_at lw_m3 178 rfl) rfl
theorem q761 : (Jvm.Cond.stringRef "CoatHoles$Reader" (101 : Nat) "in") ∈ lw_tbl := lw_at lw_m3 179 rfl
theorem q762 : (Jvm.Cond.methodLink "CoatHoles$Reader" (102 : Nat) ({ cls := "CoatHoles$Reader", name := "must", desc := "(Ljava/lang/String;)V" } : Jvm.MethodName)) ∈ lw_all := lw_g (lw_at lw_m3 180 rfl) rfl
theorem q763 : (Jvm.Cond.privateMethod ({ cls := "CoatHoles$Reader", name := "must", desc := "(Ljava/lang/String;)V" } : Jvm.MethodName)) ∈ lw_tbl := lw_at lw_m3 181 rfl
theorem q764 : (Jvm.Cond.instanceMethod ({ cls := "CoatHoles$Reader", name := "must", desc := "(Ljava/lang/String;)V" } : Jvm.MethodName)) ∈ lw_all := lw_g (lw_at lw_m3 182 rfl) rfl
theorem q765 : (Jvm.Cond.code ({ cls := "CoatHoles$Reader", name := "must", desc := "(Ljava/lang/String;)V" } : Jvm.MethodName) prog_20_method_9_code (2 : Nat) (Option.none : Option Jvm.ClassFile.FieldType)) ∈ lw_all := lw_g (lw_at lw_m3 183 rfl) rfl
theorem q766 : (Jvm.Cond.methodLink "CoatHoles$Reader" (98 : Nat) ({ cls := "CoatHoles$Reader", name := "number", desc := "(II)I" } : Jvm.MethodName)) ∈ lw_all := lw_g (lw_at lw_m3 184 rfl) rfl
theorem q767 : (Jvm.Cond.privateMethod ({ cls := "CoatHoles$Reader", name := "number", desc := "(II)I" } : Jvm.MethodName)) ∈ lw_tbl := lw_at lw_m3 185 rfl
theorem q768 : (Jvm.Cond.instanceMethod ({ cls := "CoatHoles$Reader", name := "number", desc := "(II)I" } : Jvm.MethodName)) ∈ lw_all := lw_g (lw_at lw_m3 186 rfl) rfl
theorem q769 : (Jvm.Cond.code ({ cls := "CoatHoles$Reader", name := "number", desc := "(II)I" } : Jvm.MethodName) prog_20_method_11_code (4 : Nat) (Option.some Jvm.ClassFile.FieldType.int)) ∈ lw_all := lw_g (lw_at lw_m3 187 rfl) rfl
theorem q770 : (Jvm.Cond.methodLink "CoatHoles$Reader" (91 : Nat) ({ cls := "CoatHoles$Reader", name := "seen", desc := "(II)I" } : Jvm.MethodName)) ∈ lw_all := lw_g (lw_at lw_m3 188 rfl) rfl
theorem q771 : (Jvm.Cond.privateMethod ({ cls := "CoatHoles$Reader", name := "seen", desc := "(II)I" } : Jvm.MethodName)) ∈ lw_tbl := lw_at lw_m3 189 rfl
theorem q772 : (Jvm.Cond.instanceMethod ({ cls := "CoatHoles$Reader", name := "seen", desc := "(II)I" } : Jvm.MethodName)) ∈ lw_all := lw_g (lw_at lw_m3 190 rfl) rfl
theorem q773 : (Jvm.Cond.code ({ cls := "CoatHoles$Reader", name := "seen", desc := "(II)I" } : Jvm.MethodName) prog_20_method_10_code (5 : Nat) (Option.some Jvm.ClassFile.FieldType.int)) ∈ lw_all := lw_g (lw_at lw_m3 191 rfl) rfl
theorem q774 : (Jvm.Cond.methodLinkNest "CoatHoles$Reader" (87 : Nat) ({ cls := "CoatHoles", name := "in", desc := "(III)Z" } : Jvm.MethodName) "CoatHoles") ∈ lw_tbl := lw_at lw_m3 192 rfl
theorem q775 : (Jvm.Cond.stringRef "CoatHoles$Reader" (114 : Nat) "soil") ∈ lw_tbl := lw_at lw_m3 193 rfl
theorem q776 : (Jvm.Cond.methodLink "CoatHoles$Reader" (116 : Nat) ({ cls := "CoatHoles$Reader", name := "told", desc := "(Ljava/lang/String;I)I" } : Jvm.MethodName)) ∈ lw_all := lw_g (lw_at lw_m3 194 rfl) rfl
theorem q777 : (Jvm.Cond.privateMethod ({ cls := "CoatHoles$Reader", name := "told", desc := "(Ljava/lang/String;I)I" } : Jvm.MethodName)) ∈ lw_tbl := lw_at lw_m3 195 rfl
theorem q778 : (Jvm.Cond.instanceMethod ({ cls := "CoatHoles$Reader", name := "told", desc := "(Ljava/lang/String;I)I" } : Jvm.MethodName)) ∈ lw_all := lw_g (lw_at lw_m3 196 rfl) rfl
theorem q779 : (Jvm.Cond.code ({ cls := "CoatHoles$Reader", name := "told", desc := "(Ljava/lang/String;I)I" } : Jvm.MethodName) prog_20_method_13_code (3 : Nat) (Option.some Jvm.ClassFile.FieldType.int)) ∈ lw_all := lw_g (lw_at lw_m3 197 rfl) rfl
theorem q780 : (Jvm.Cond.methodLink "CoatHoles$Reader" (95 : Nat) ({ cls := "CoatHoles$Reader", name := "may", desc := "(Ljava/lang/String;)Z" } : Jvm.MethodName)) ∈ lw_all := lw_g (lw_at lw_m3 198 rfl) rfl
theorem q781 : (Jvm.Cond.privateMethod ({ cls := "CoatHoles$Reader", name := "may", desc := "(Ljava/lang/String;)Z" } : Jvm.MethodName)) ∈ lw_tbl := lw_at lw_m3 199 rfl
theorem q782 : (Jvm.Cond.instanceMethod ({ cls := "CoatHoles$Reader", name := "may", desc := "(Ljava/lang/String;)Z" } : Jvm.MethodName)) ∈ lw_all := lw_g (lw_at lw_m3 200 rfl) rfl
theorem q783 : (Jvm.Cond.code ({ cls := "CoatHoles$Reader", name := "may", desc := "(Ljava/lang/String;)Z" } : Jvm.MethodName) prog_20_method_8_code (2 : Nat) (Option.some Jvm.ClassFile.FieldType.boolean)) ∈ lw_all := lw_g (lw_at lw_m3 201 rfl) rfl
theorem q784 : (Jvm.Cond.stringRef "CoatHoles$Reader" (120 : Nat) "worth") ∈ lw_tbl := lw_at lw_m3 202 rfl
theorem q785 : (Jvm.Cond.methodLink "CoatHoles$Reader" (122 : Nat) ({ cls := "CoatHoles$Cup", name := "add", desc := "(IIII)I" } : Jvm.MethodName)) ∈ lw_all := lw_g (lw_at lw_m3 203 rfl) rfl
theorem q790 : (Jvm.Cond.stringRef "CoatHoles$Reader" (136 : Nat) "eggs") ∈ lw_tbl := lw_at lw_m3 208 rfl
theorem q791 : (Jvm.Cond.stringRef "CoatHoles$Reader" (142 : Nat) "fliers") ∈ lw_tbl := lw_at lw_m3 209 rfl
theorem q792 : (Jvm.Cond.stringRef "CoatHoles$Reader" (146 : Nat) "card") ∈ lw_tbl := lw_at lw_m3 210 rfl
theorem q793 : (Jvm.Cond.stringRef "CoatHoles$Reader" (151 : Nat) "lay") ∈ lw_tbl := lw_at lw_m3 211 rfl
theorem q794 : (Jvm.Cond.stringRef "CoatHoles$Reader" (156 : Nat) ";") ∈ lw_tbl := lw_at lw_m3 212 rfl
theorem in_X15 : ∀ w ∈ wsX150, w ∈ lw_all := lw_in wsX150 [485, 487, 489, 491, 493, 495, 497] (by decide +kernel) (by decide +kernel)
