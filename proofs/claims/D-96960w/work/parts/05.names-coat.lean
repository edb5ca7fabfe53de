/-! CoatHoles -/
set_option maxRecDepth 100000
def RX0 : String := "CoatHoles"
def TX0 : u_T := fun k => match k with
  | 0 => ("CoatHoles", "natures", "[LCoatHoles$Nature;", true)
  | 1 => ("CoatHoles", "d", "LCoatHoles$Cup;", true)
  | 2 => ("CoatHoles", "kept", "LCoatHoles$Cup;", true)
  | 3 => ("CoatHoles", "draft", "LCoatHoles$Cup;", true)
  | 4 => ("CoatHoles", "tried", "[LCoatHoles$Cup;", true)
  | 5 => ("CoatHoles", "isKept", "Z", false)
  | 6 => ("CoatHoles", "tape", "[B", true)
  | 7 => ("CoatHoles", "taped", "I", false)
  | 8 => ("CoatHoles", "reader", "LCoatHoles$Reader;", true)
  | 9 => ("CoatHoles", "firstChoice", "I", false)
  | 10 => ("CoatHoles", "rows", "[LCoatHoles$Row;", true)
  | 11 => ("CoatHoles", "rowMany", "I", false)
  | 12 => ("CoatHoles", "sheets", "[LCoatHoles$Sheet;", true)
  | 13 => ("CoatHoles", "beyond", "LCoatHoles$Beyond;", true)
  | 14 => ("CoatHoles", "nothing", "LCoatHoles$Nothing;", true)
  | 15 => ("CoatHoles", "traced", "[I", true)
  | 16 => ("CoatHoles", "bodies", "I", false)
  | _ => ("CoatHoles", "shelves", "[LCoatHoles$Shelf;", true)
def tyX0 : Nat → FieldType := fun k => match k with
  | 0 => .array (.object "CoatHoles$Nature")
  | 1 => .object "CoatHoles$Cup"
  | 2 => .object "CoatHoles$Cup"
  | 3 => .object "CoatHoles$Cup"
  | 4 => .array (.object "CoatHoles$Cup")
  | 5 => .boolean
  | 6 => .array .byte
  | 7 => .int
  | 8 => .object "CoatHoles$Reader"
  | 9 => .int
  | 10 => .array (.object "CoatHoles$Row")
  | 11 => .int
  | 12 => .array (.object "CoatHoles$Sheet")
  | 13 => .object "CoatHoles$Beyond"
  | 14 => .object "CoatHoles$Nothing"
  | 15 => .array .int
  | 16 => .int
  | _ => .array (.object "CoatHoles$Shelf")
abbrev wsX00 : List Cond := u_ws RX0 TX0 18
set_option maxRecDepth 100000 in
theorem nmX0 : ∀ a, a < 18 → ∀ b, b < 18 → a ≠ b → (TX0 a).2.1 ≠ (TX0 b).2.1 := by decide +kernel
set_option maxRecDepth 100000 in
theorem tyX0_ok : ∀ k, k < 18 → parseFieldDescriptor (TX0 k).2.2.1 = some (tyX0 k) := by decide +kernel
abbrev cX0_init : ByteArray := prog_1_method_5_code
def yX0_init : MethodName := ⟨RX0, "<init>", "()V"⟩
def dkwX0_init_13 : List UInt8 := [183, 0, 105, 83, 181, 0, 106, 177]
abbrev dktX0_init_13 : List UInt8 := dkwX0_init_13 ++ []
def dkwX0_init_12 : List UInt8 := [187, 0, 103, 89, 183, 0, 105, 83, 89, 5, 187, 0, 103, 89, 183, 0, 105, 83, 89, 6, 187, 0, 103, 89]
abbrev dktX0_init_12 : List UInt8 := dkwX0_init_12 ++ dktX0_init_13
def dkwX0_init_11 : List UInt8 := [188, 10, 181, 0, 99, 42, 7, 189, 0, 103, 89, 3, 187, 0, 103, 89, 183, 0, 105, 83, 89, 4]
abbrev dktX0_init_11 : List UInt8 := dkwX0_init_11 ++ dktX0_init_12
def dkwX0_init_10 : List UInt8 := [187, 0, 85, 89, 183, 0, 87, 181, 0, 88, 42, 187, 0, 92, 89, 183, 0, 94, 181, 0, 95, 42, 16, 30]
abbrev dktX0_init_10 : List UInt8 := dkwX0_init_10 ++ dktX0_init_11
def dkwX0_init_9 : List UInt8 := [5, 187, 0, 78, 89, 183, 0, 80, 83, 89, 6, 187, 0, 78, 89, 183, 0, 80, 83, 181, 0, 81, 42]
abbrev dktX0_init_9 : List UInt8 := dkwX0_init_9 ++ dktX0_init_10
def dkwX0_init_8 : List UInt8 := [189, 0, 78, 89, 3, 187, 0, 78, 89, 183, 0, 80, 83, 89, 4, 187, 0, 78, 89, 183, 0, 80, 83, 89]
abbrev dktX0_init_8 : List UInt8 := dkwX0_init_8 ++ dktX0_init_9
def dkwX0_init_7 : List UInt8 := [89, 42, 180, 0, 52, 183, 0, 65, 181, 0, 68, 42, 16, 8, 189, 0, 72, 181, 0, 74, 42, 7]
abbrev dktX0_init_7 : List UInt8 := dkwX0_init_7 ++ dktX0_init_8
def dkwX0_init_6 : List UInt8 := [187, 0, 42, 89, 183, 0, 44, 83, 181, 0, 55, 42, 17, 0, 200, 188, 8, 181, 0, 59, 42, 187, 0, 63]
abbrev dktX0_init_6 : List UInt8 := dkwX0_init_6 ++ dktX0_init_7
def dkwX0_init_5 : List UInt8 := [83, 89, 4, 187, 0, 42, 89, 183, 0, 44, 83, 89, 5, 187, 0, 42, 89, 183, 0, 44, 83, 89, 6]
abbrev dktX0_init_5 : List UInt8 := dkwX0_init_5 ++ dktX0_init_6
def dkwX0_init_4 : List UInt8 := [187, 0, 42, 89, 183, 0, 44, 181, 0, 52, 42, 7, 189, 0, 42, 89, 3, 187, 0, 42, 89, 183, 0, 44]
abbrev dktX0_init_4 : List UInt8 := dkwX0_init_4 ++ dktX0_init_5
def dkwX0_init_3 : List UInt8 := [42, 187, 0, 42, 89, 183, 0, 44, 181, 0, 45, 42, 187, 0, 42, 89, 183, 0, 44, 181, 0, 49, 42]
abbrev dktX0_init_3 : List UInt8 := dkwX0_init_3 ++ dktX0_init_4
def dkwX0_init_2 : List UInt8 := [7, 187, 0, 32, 89, 42, 183, 0, 34, 83, 89, 8, 187, 0, 35, 89, 42, 183, 0, 37, 83, 181, 0, 38]
abbrev dktX0_init_2 : List UInt8 := dkwX0_init_2 ++ dktX0_init_3
def dkwX0_init_1 : List UInt8 := [83, 89, 5, 187, 0, 26, 89, 42, 183, 0, 28, 83, 89, 6, 187, 0, 29, 89, 42, 183, 0, 31, 83, 89]
abbrev dktX0_init_1 : List UInt8 := dkwX0_init_1 ++ dktX0_init_2
def dkwX0_init_0 : List UInt8 := [42, 183, 0, 13, 42, 16, 6, 189, 0, 19, 89, 3, 1, 83, 89, 4, 187, 0, 21, 89, 42, 183, 0, 23]
abbrev dktX0_init_0 : List UInt8 := dkwX0_init_0 ++ dktX0_init_1
theorem dksX0_init_0 : cX0_init.data.toList.drop 0 = dktX0_init_0 := by decide +kernel
theorem dksX0_init_1 : cX0_init.data.toList.drop 24 = dktX0_init_1 := dk_seg dksX0_init_0 24 rfl rfl
theorem dksX0_init_2 : cX0_init.data.toList.drop 48 = dktX0_init_2 := dk_seg dksX0_init_1 24 rfl rfl
theorem dksX0_init_3 : cX0_init.data.toList.drop 72 = dktX0_init_3 := dk_seg dksX0_init_2 24 rfl rfl
theorem dksX0_init_4 : cX0_init.data.toList.drop 95 = dktX0_init_4 := dk_seg dksX0_init_3 23 rfl rfl
theorem dksX0_init_5 : cX0_init.data.toList.drop 119 = dktX0_init_5 := dk_seg dksX0_init_4 24 rfl rfl
theorem dksX0_init_6 : cX0_init.data.toList.drop 142 = dktX0_init_6 := dk_seg dksX0_init_5 23 rfl rfl
theorem dksX0_init_7 : cX0_init.data.toList.drop 166 = dktX0_init_7 := dk_seg dksX0_init_6 24 rfl rfl
theorem dksX0_init_8 : cX0_init.data.toList.drop 188 = dktX0_init_8 := dk_seg dksX0_init_7 22 rfl rfl
theorem dksX0_init_9 : cX0_init.data.toList.drop 212 = dktX0_init_9 := dk_seg dksX0_init_8 24 rfl rfl
theorem dksX0_init_10 : cX0_init.data.toList.drop 235 = dktX0_init_10 := dk_seg dksX0_init_9 23 rfl rfl
theorem dksX0_init_11 : cX0_init.data.toList.drop 259 = dktX0_init_11 := dk_seg dksX0_init_10 24 rfl rfl
theorem dksX0_init_12 : cX0_init.data.toList.drop 281 = dktX0_init_12 := dk_seg dksX0_init_11 22 rfl rfl
theorem dksX0_init_13 : cX0_init.data.toList.drop 305 = dktX0_init_13 := dk_seg dksX0_init_12 24 rfl rfl
theorem dX0_init_0 : decode cX0_init 0 = .ok (.aload_n 0, 1) := dk_42 (dk_at dksX0_init_0 0 rfl rfl)
theorem dX0_init_1 : decode cX0_init 1 = .ok (.invokespecial 13, 3) := dk_183 0 13 (dk_at dksX0_init_0 1 rfl rfl)
theorem dX0_init_4 : decode cX0_init 4 = .ok (.aload_n 0, 1) := dk_42 (dk_at dksX0_init_0 4 rfl rfl)
theorem dX0_init_5 : decode cX0_init 5 = .ok (.bipush 6, 2) := dk_16 6 (dk_at dksX0_init_0 5 rfl rfl)
theorem dX0_init_7 : decode cX0_init 7 = .ok (.anewarray 19, 3) := dk_189 0 19 (dk_at dksX0_init_0 7 rfl rfl)
theorem dX0_init_10 : decode cX0_init 10 = .ok (.dup, 1) := dk_89 (dk_at dksX0_init_0 10 rfl rfl)
theorem dX0_init_11 : decode cX0_init 11 = .ok (.iconst 0, 1) := dk_3 (dk_at dksX0_init_0 11 rfl rfl)
theorem dX0_init_12 : decode cX0_init 12 = .ok (.aconst_null, 1) := dk_1 (dk_at dksX0_init_0 12 rfl rfl)
theorem dX0_init_13 : decode cX0_init 13 = .ok (.aastore, 1) := dk_83 (dk_at dksX0_init_0 13 rfl rfl)
theorem dX0_init_14 : decode cX0_init 14 = .ok (.dup, 1) := dk_89 (dk_at dksX0_init_0 14 rfl rfl)
theorem dX0_init_15 : decode cX0_init 15 = .ok (.iconst 1, 1) := dk_4 (dk_at dksX0_init_0 15 rfl rfl)
theorem dX0_init_16 : decode cX0_init 16 = .ok (.new 21, 3) := dk_187 0 21 (dk_at dksX0_init_0 16 rfl rfl)
theorem dX0_init_19 : decode cX0_init 19 = .ok (.dup, 1) := dk_89 (dk_at dksX0_init_0 19 rfl rfl)
theorem dX0_init_20 : decode cX0_init 20 = .ok (.aload_n 0, 1) := dk_42 (dk_at dksX0_init_0 20 rfl rfl)
theorem dX0_init_21 : decode cX0_init 21 = .ok (.invokespecial 23, 3) := dk_183 0 23 (dk_at dksX0_init_0 21 rfl rfl)
theorem dX0_init_24 : decode cX0_init 24 = .ok (.aastore, 1) := dk_83 (dk_at dksX0_init_1 0 rfl rfl)
theorem dX0_init_25 : decode cX0_init 25 = .ok (.dup, 1) := dk_89 (dk_at dksX0_init_1 1 rfl rfl)
theorem dX0_init_26 : decode cX0_init 26 = .ok (.iconst 2, 1) := dk_5 (dk_at dksX0_init_1 2 rfl rfl)
theorem dX0_init_27 : decode cX0_init 27 = .ok (.new 26, 3) := dk_187 0 26 (dk_at dksX0_init_1 3 rfl rfl)
theorem dX0_init_30 : decode cX0_init 30 = .ok (.dup, 1) := dk_89 (dk_at dksX0_init_1 6 rfl rfl)
theorem dX0_init_31 : decode cX0_init 31 = .ok (.aload_n 0, 1) := dk_42 (dk_at dksX0_init_1 7 rfl rfl)
theorem dX0_init_32 : decode cX0_init 32 = .ok (.invokespecial 28, 3) := dk_183 0 28 (dk_at dksX0_init_1 8 rfl rfl)
theorem dX0_init_35 : decode cX0_init 35 = .ok (.aastore, 1) := dk_83 (dk_at dksX0_init_1 11 rfl rfl)
theorem dX0_init_36 : decode cX0_init 36 = .ok (.dup, 1) := dk_89 (dk_at dksX0_init_1 12 rfl rfl)
theorem dX0_init_37 : decode cX0_init 37 = .ok (.iconst 3, 1) := dk_6 (dk_at dksX0_init_1 13 rfl rfl)
theorem dX0_init_38 : decode cX0_init 38 = .ok (.new 29, 3) := dk_187 0 29 (dk_at dksX0_init_1 14 rfl rfl)
theorem dX0_init_41 : decode cX0_init 41 = .ok (.dup, 1) := dk_89 (dk_at dksX0_init_1 17 rfl rfl)
theorem dX0_init_42 : decode cX0_init 42 = .ok (.aload_n 0, 1) := dk_42 (dk_at dksX0_init_1 18 rfl rfl)
theorem dX0_init_43 : decode cX0_init 43 = .ok (.invokespecial 31, 3) := dk_183 0 31 (dk_at dksX0_init_1 19 rfl rfl)
theorem dX0_init_46 : decode cX0_init 46 = .ok (.aastore, 1) := dk_83 (dk_at dksX0_init_1 22 rfl rfl)
theorem dX0_init_47 : decode cX0_init 47 = .ok (.dup, 1) := dk_89 (dk_at dksX0_init_1 23 rfl rfl)
theorem dX0_init_48 : decode cX0_init 48 = .ok (.iconst 4, 1) := dk_7 (dk_at dksX0_init_2 0 rfl rfl)
theorem dX0_init_49 : decode cX0_init 49 = .ok (.new 32, 3) := dk_187 0 32 (dk_at dksX0_init_2 1 rfl rfl)
theorem dX0_init_52 : decode cX0_init 52 = .ok (.dup, 1) := dk_89 (dk_at dksX0_init_2 4 rfl rfl)
theorem dX0_init_53 : decode cX0_init 53 = .ok (.aload_n 0, 1) := dk_42 (dk_at dksX0_init_2 5 rfl rfl)
theorem dX0_init_54 : decode cX0_init 54 = .ok (.invokespecial 34, 3) := dk_183 0 34 (dk_at dksX0_init_2 6 rfl rfl)
theorem dX0_init_57 : decode cX0_init 57 = .ok (.aastore, 1) := dk_83 (dk_at dksX0_init_2 9 rfl rfl)
theorem dX0_init_58 : decode cX0_init 58 = .ok (.dup, 1) := dk_89 (dk_at dksX0_init_2 10 rfl rfl)
theorem dX0_init_59 : decode cX0_init 59 = .ok (.iconst 5, 1) := dk_8 (dk_at dksX0_init_2 11 rfl rfl)
theorem dX0_init_60 : decode cX0_init 60 = .ok (.new 35, 3) := dk_187 0 35 (dk_at dksX0_init_2 12 rfl rfl)
theorem dX0_init_63 : decode cX0_init 63 = .ok (.dup, 1) := dk_89 (dk_at dksX0_init_2 15 rfl rfl)
theorem dX0_init_64 : decode cX0_init 64 = .ok (.aload_n 0, 1) := dk_42 (dk_at dksX0_init_2 16 rfl rfl)
theorem dX0_init_65 : decode cX0_init 65 = .ok (.invokespecial 37, 3) := dk_183 0 37 (dk_at dksX0_init_2 17 rfl rfl)
theorem dX0_init_68 : decode cX0_init 68 = .ok (.aastore, 1) := dk_83 (dk_at dksX0_init_2 20 rfl rfl)
theorem dX0_init_69 : decode cX0_init 69 = .ok (.putfield 38, 3) := dk_181 0 38 (dk_at dksX0_init_2 21 rfl rfl)
theorem dX0_init_72 : decode cX0_init 72 = .ok (.aload_n 0, 1) := dk_42 (dk_at dksX0_init_3 0 rfl rfl)
theorem dX0_init_73 : decode cX0_init 73 = .ok (.new 42, 3) := dk_187 0 42 (dk_at dksX0_init_3 1 rfl rfl)
theorem dX0_init_76 : decode cX0_init 76 = .ok (.dup, 1) := dk_89 (dk_at dksX0_init_3 4 rfl rfl)
theorem dX0_init_77 : decode cX0_init 77 = .ok (.invokespecial 44, 3) := dk_183 0 44 (dk_at dksX0_init_3 5 rfl rfl)
theorem dX0_init_80 : decode cX0_init 80 = .ok (.putfield 45, 3) := dk_181 0 45 (dk_at dksX0_init_3 8 rfl rfl)
theorem dX0_init_83 : decode cX0_init 83 = .ok (.aload_n 0, 1) := dk_42 (dk_at dksX0_init_3 11 rfl rfl)
theorem dX0_init_84 : decode cX0_init 84 = .ok (.new 42, 3) := dk_187 0 42 (dk_at dksX0_init_3 12 rfl rfl)
theorem dX0_init_87 : decode cX0_init 87 = .ok (.dup, 1) := dk_89 (dk_at dksX0_init_3 15 rfl rfl)
theorem dX0_init_88 : decode cX0_init 88 = .ok (.invokespecial 44, 3) := dk_183 0 44 (dk_at dksX0_init_3 16 rfl rfl)
theorem dX0_init_91 : decode cX0_init 91 = .ok (.putfield 49, 3) := dk_181 0 49 (dk_at dksX0_init_3 19 rfl rfl)
theorem dX0_init_94 : decode cX0_init 94 = .ok (.aload_n 0, 1) := dk_42 (dk_at dksX0_init_3 22 rfl rfl)
theorem dX0_init_95 : decode cX0_init 95 = .ok (.new 42, 3) := dk_187 0 42 (dk_at dksX0_init_4 0 rfl rfl)
theorem dX0_init_98 : decode cX0_init 98 = .ok (.dup, 1) := dk_89 (dk_at dksX0_init_4 3 rfl rfl)
theorem dX0_init_99 : decode cX0_init 99 = .ok (.invokespecial 44, 3) := dk_183 0 44 (dk_at dksX0_init_4 4 rfl rfl)
theorem dX0_init_102 : decode cX0_init 102 = .ok (.putfield 52, 3) := dk_181 0 52 (dk_at dksX0_init_4 7 rfl rfl)
theorem dX0_init_105 : decode cX0_init 105 = .ok (.aload_n 0, 1) := dk_42 (dk_at dksX0_init_4 10 rfl rfl)
theorem dX0_init_106 : decode cX0_init 106 = .ok (.iconst 4, 1) := dk_7 (dk_at dksX0_init_4 11 rfl rfl)
theorem dX0_init_107 : decode cX0_init 107 = .ok (.anewarray 42, 3) := dk_189 0 42 (dk_at dksX0_init_4 12 rfl rfl)
theorem dX0_init_110 : decode cX0_init 110 = .ok (.dup, 1) := dk_89 (dk_at dksX0_init_4 15 rfl rfl)
theorem dX0_init_111 : decode cX0_init 111 = .ok (.iconst 0, 1) := dk_3 (dk_at dksX0_init_4 16 rfl rfl)
theorem dX0_init_112 : decode cX0_init 112 = .ok (.new 42, 3) := dk_187 0 42 (dk_at dksX0_init_4 17 rfl rfl)
theorem dX0_init_115 : decode cX0_init 115 = .ok (.dup, 1) := dk_89 (dk_at dksX0_init_4 20 rfl rfl)
theorem dX0_init_116 : decode cX0_init 116 = .ok (.invokespecial 44, 3) := dk_183 0 44 (dk_at dksX0_init_4 21 rfl rfl)
theorem dX0_init_119 : decode cX0_init 119 = .ok (.aastore, 1) := dk_83 (dk_at dksX0_init_5 0 rfl rfl)
theorem dX0_init_120 : decode cX0_init 120 = .ok (.dup, 1) := dk_89 (dk_at dksX0_init_5 1 rfl rfl)
theorem dX0_init_121 : decode cX0_init 121 = .ok (.iconst 1, 1) := dk_4 (dk_at dksX0_init_5 2 rfl rfl)
theorem dX0_init_122 : decode cX0_init 122 = .ok (.new 42, 3) := dk_187 0 42 (dk_at dksX0_init_5 3 rfl rfl)
theorem dX0_init_125 : decode cX0_init 125 = .ok (.dup, 1) := dk_89 (dk_at dksX0_init_5 6 rfl rfl)
theorem dX0_init_126 : decode cX0_init 126 = .ok (.invokespecial 44, 3) := dk_183 0 44 (dk_at dksX0_init_5 7 rfl rfl)
theorem dX0_init_129 : decode cX0_init 129 = .ok (.aastore, 1) := dk_83 (dk_at dksX0_init_5 10 rfl rfl)
theorem dX0_init_130 : decode cX0_init 130 = .ok (.dup, 1) := dk_89 (dk_at dksX0_init_5 11 rfl rfl)
theorem dX0_init_131 : decode cX0_init 131 = .ok (.iconst 2, 1) := dk_5 (dk_at dksX0_init_5 12 rfl rfl)
theorem dX0_init_132 : decode cX0_init 132 = .ok (.new 42, 3) := dk_187 0 42 (dk_at dksX0_init_5 13 rfl rfl)
theorem dX0_init_135 : decode cX0_init 135 = .ok (.dup, 1) := dk_89 (dk_at dksX0_init_5 16 rfl rfl)
theorem dX0_init_136 : decode cX0_init 136 = .ok (.invokespecial 44, 3) := dk_183 0 44 (dk_at dksX0_init_5 17 rfl rfl)
theorem dX0_init_139 : decode cX0_init 139 = .ok (.aastore, 1) := dk_83 (dk_at dksX0_init_5 20 rfl rfl)
theorem dX0_init_140 : decode cX0_init 140 = .ok (.dup, 1) := dk_89 (dk_at dksX0_init_5 21 rfl rfl)
theorem dX0_init_141 : decode cX0_init 141 = .ok (.iconst 3, 1) := dk_6 (dk_at dksX0_init_5 22 rfl rfl)
theorem dX0_init_142 : decode cX0_init 142 = .ok (.new 42, 3) := dk_187 0 42 (dk_at dksX0_init_6 0 rfl rfl)
theorem dX0_init_145 : decode cX0_init 145 = .ok (.dup, 1) := dk_89 (dk_at dksX0_init_6 3 rfl rfl)
theorem dX0_init_146 : decode cX0_init 146 = .ok (.invokespecial 44, 3) := dk_183 0 44 (dk_at dksX0_init_6 4 rfl rfl)
theorem dX0_init_149 : decode cX0_init 149 = .ok (.aastore, 1) := dk_83 (dk_at dksX0_init_6 7 rfl rfl)
theorem dX0_init_150 : decode cX0_init 150 = .ok (.putfield 55, 3) := dk_181 0 55 (dk_at dksX0_init_6 8 rfl rfl)
theorem dX0_init_153 : decode cX0_init 153 = .ok (.aload_n 0, 1) := dk_42 (dk_at dksX0_init_6 11 rfl rfl)
theorem dX0_init_154 : decode cX0_init 154 = .ok (.sipush 200, 3) := dk_17 0 200 (dk_at dksX0_init_6 12 rfl rfl)
theorem dX0_init_157 : decode cX0_init 157 = .ok (.newarray .byte, 2) := dk_188_8 (dk_at dksX0_init_6 15 rfl rfl)
theorem dX0_init_159 : decode cX0_init 159 = .ok (.putfield 59, 3) := dk_181 0 59 (dk_at dksX0_init_6 17 rfl rfl)
theorem dX0_init_162 : decode cX0_init 162 = .ok (.aload_n 0, 1) := dk_42 (dk_at dksX0_init_6 20 rfl rfl)
theorem dX0_init_163 : decode cX0_init 163 = .ok (.new 63, 3) := dk_187 0 63 (dk_at dksX0_init_6 21 rfl rfl)
theorem dX0_init_166 : decode cX0_init 166 = .ok (.dup, 1) := dk_89 (dk_at dksX0_init_7 0 rfl rfl)
theorem dX0_init_167 : decode cX0_init 167 = .ok (.aload_n 0, 1) := dk_42 (dk_at dksX0_init_7 1 rfl rfl)
theorem dX0_init_168 : decode cX0_init 168 = .ok (.getfield 52, 3) := dk_180 0 52 (dk_at dksX0_init_7 2 rfl rfl)
theorem dX0_init_171 : decode cX0_init 171 = .ok (.invokespecial 65, 3) := dk_183 0 65 (dk_at dksX0_init_7 5 rfl rfl)
theorem dX0_init_174 : decode cX0_init 174 = .ok (.putfield 68, 3) := dk_181 0 68 (dk_at dksX0_init_7 8 rfl rfl)
theorem dX0_init_177 : decode cX0_init 177 = .ok (.aload_n 0, 1) := dk_42 (dk_at dksX0_init_7 11 rfl rfl)
theorem dX0_init_178 : decode cX0_init 178 = .ok (.bipush 8, 2) := dk_16 8 (dk_at dksX0_init_7 12 rfl rfl)
theorem dX0_init_180 : decode cX0_init 180 = .ok (.anewarray 72, 3) := dk_189 0 72 (dk_at dksX0_init_7 14 rfl rfl)
theorem dX0_init_183 : decode cX0_init 183 = .ok (.putfield 74, 3) := dk_181 0 74 (dk_at dksX0_init_7 17 rfl rfl)
theorem dX0_init_186 : decode cX0_init 186 = .ok (.aload_n 0, 1) := dk_42 (dk_at dksX0_init_7 20 rfl rfl)
theorem dX0_init_187 : decode cX0_init 187 = .ok (.iconst 4, 1) := dk_7 (dk_at dksX0_init_7 21 rfl rfl)
theorem dX0_init_188 : decode cX0_init 188 = .ok (.anewarray 78, 3) := dk_189 0 78 (dk_at dksX0_init_8 0 rfl rfl)
theorem dX0_init_191 : decode cX0_init 191 = .ok (.dup, 1) := dk_89 (dk_at dksX0_init_8 3 rfl rfl)
theorem dX0_init_192 : decode cX0_init 192 = .ok (.iconst 0, 1) := dk_3 (dk_at dksX0_init_8 4 rfl rfl)
theorem dX0_init_193 : decode cX0_init 193 = .ok (.new 78, 3) := dk_187 0 78 (dk_at dksX0_init_8 5 rfl rfl)
theorem dX0_init_196 : decode cX0_init 196 = .ok (.dup, 1) := dk_89 (dk_at dksX0_init_8 8 rfl rfl)
theorem dX0_init_197 : decode cX0_init 197 = .ok (.invokespecial 80, 3) := dk_183 0 80 (dk_at dksX0_init_8 9 rfl rfl)
theorem dX0_init_200 : decode cX0_init 200 = .ok (.aastore, 1) := dk_83 (dk_at dksX0_init_8 12 rfl rfl)
theorem dX0_init_201 : decode cX0_init 201 = .ok (.dup, 1) := dk_89 (dk_at dksX0_init_8 13 rfl rfl)
theorem dX0_init_202 : decode cX0_init 202 = .ok (.iconst 1, 1) := dk_4 (dk_at dksX0_init_8 14 rfl rfl)
theorem dX0_init_203 : decode cX0_init 203 = .ok (.new 78, 3) := dk_187 0 78 (dk_at dksX0_init_8 15 rfl rfl)
theorem dX0_init_206 : decode cX0_init 206 = .ok (.dup, 1) := dk_89 (dk_at dksX0_init_8 18 rfl rfl)
theorem dX0_init_207 : decode cX0_init 207 = .ok (.invokespecial 80, 3) := dk_183 0 80 (dk_at dksX0_init_8 19 rfl rfl)
theorem dX0_init_210 : decode cX0_init 210 = .ok (.aastore, 1) := dk_83 (dk_at dksX0_init_8 22 rfl rfl)
theorem dX0_init_211 : decode cX0_init 211 = .ok (.dup, 1) := dk_89 (dk_at dksX0_init_8 23 rfl rfl)
theorem dX0_init_212 : decode cX0_init 212 = .ok (.iconst 2, 1) := dk_5 (dk_at dksX0_init_9 0 rfl rfl)
theorem dX0_init_213 : decode cX0_init 213 = .ok (.new 78, 3) := dk_187 0 78 (dk_at dksX0_init_9 1 rfl rfl)
theorem dX0_init_216 : decode cX0_init 216 = .ok (.dup, 1) := dk_89 (dk_at dksX0_init_9 4 rfl rfl)
theorem dX0_init_217 : decode cX0_init 217 = .ok (.invokespecial 80, 3) := dk_183 0 80 (dk_at dksX0_init_9 5 rfl rfl)
theorem dX0_init_220 : decode cX0_init 220 = .ok (.aastore, 1) := dk_83 (dk_at dksX0_init_9 8 rfl rfl)
theorem dX0_init_221 : decode cX0_init 221 = .ok (.dup, 1) := dk_89 (dk_at dksX0_init_9 9 rfl rfl)
theorem dX0_init_222 : decode cX0_init 222 = .ok (.iconst 3, 1) := dk_6 (dk_at dksX0_init_9 10 rfl rfl)
theorem dX0_init_223 : decode cX0_init 223 = .ok (.new 78, 3) := dk_187 0 78 (dk_at dksX0_init_9 11 rfl rfl)
theorem dX0_init_226 : decode cX0_init 226 = .ok (.dup, 1) := dk_89 (dk_at dksX0_init_9 14 rfl rfl)
theorem dX0_init_227 : decode cX0_init 227 = .ok (.invokespecial 80, 3) := dk_183 0 80 (dk_at dksX0_init_9 15 rfl rfl)
theorem dX0_init_230 : decode cX0_init 230 = .ok (.aastore, 1) := dk_83 (dk_at dksX0_init_9 18 rfl rfl)
theorem dX0_init_231 : decode cX0_init 231 = .ok (.putfield 81, 3) := dk_181 0 81 (dk_at dksX0_init_9 19 rfl rfl)
theorem dX0_init_234 : decode cX0_init 234 = .ok (.aload_n 0, 1) := dk_42 (dk_at dksX0_init_9 22 rfl rfl)
theorem dX0_init_235 : decode cX0_init 235 = .ok (.new 85, 3) := dk_187 0 85 (dk_at dksX0_init_10 0 rfl rfl)
theorem dX0_init_238 : decode cX0_init 238 = .ok (.dup, 1) := dk_89 (dk_at dksX0_init_10 3 rfl rfl)
theorem dX0_init_239 : decode cX0_init 239 = .ok (.invokespecial 87, 3) := dk_183 0 87 (dk_at dksX0_init_10 4 rfl rfl)
theorem dX0_init_242 : decode cX0_init 242 = .ok (.putfield 88, 3) := dk_181 0 88 (dk_at dksX0_init_10 7 rfl rfl)
theorem dX0_init_245 : decode cX0_init 245 = .ok (.aload_n 0, 1) := dk_42 (dk_at dksX0_init_10 10 rfl rfl)
theorem dX0_init_246 : decode cX0_init 246 = .ok (.new 92, 3) := dk_187 0 92 (dk_at dksX0_init_10 11 rfl rfl)
theorem dX0_init_249 : decode cX0_init 249 = .ok (.dup, 1) := dk_89 (dk_at dksX0_init_10 14 rfl rfl)
theorem dX0_init_250 : decode cX0_init 250 = .ok (.invokespecial 94, 3) := dk_183 0 94 (dk_at dksX0_init_10 15 rfl rfl)
theorem dX0_init_253 : decode cX0_init 253 = .ok (.putfield 95, 3) := dk_181 0 95 (dk_at dksX0_init_10 18 rfl rfl)
theorem dX0_init_256 : decode cX0_init 256 = .ok (.aload_n 0, 1) := dk_42 (dk_at dksX0_init_10 21 rfl rfl)
theorem dX0_init_257 : decode cX0_init 257 = .ok (.bipush 30, 2) := dk_16 30 (dk_at dksX0_init_10 22 rfl rfl)
theorem dX0_init_259 : decode cX0_init 259 = .ok (.newarray .int, 2) := dk_188_10 (dk_at dksX0_init_11 0 rfl rfl)
theorem dX0_init_261 : decode cX0_init 261 = .ok (.putfield 99, 3) := dk_181 0 99 (dk_at dksX0_init_11 2 rfl rfl)
theorem dX0_init_264 : decode cX0_init 264 = .ok (.aload_n 0, 1) := dk_42 (dk_at dksX0_init_11 5 rfl rfl)
theorem dX0_init_265 : decode cX0_init 265 = .ok (.iconst 4, 1) := dk_7 (dk_at dksX0_init_11 6 rfl rfl)
theorem dX0_init_266 : decode cX0_init 266 = .ok (.anewarray 103, 3) := dk_189 0 103 (dk_at dksX0_init_11 7 rfl rfl)
theorem dX0_init_269 : decode cX0_init 269 = .ok (.dup, 1) := dk_89 (dk_at dksX0_init_11 10 rfl rfl)
theorem dX0_init_270 : decode cX0_init 270 = .ok (.iconst 0, 1) := dk_3 (dk_at dksX0_init_11 11 rfl rfl)
theorem dX0_init_271 : decode cX0_init 271 = .ok (.new 103, 3) := dk_187 0 103 (dk_at dksX0_init_11 12 rfl rfl)
theorem dX0_init_274 : decode cX0_init 274 = .ok (.dup, 1) := dk_89 (dk_at dksX0_init_11 15 rfl rfl)
theorem dX0_init_275 : decode cX0_init 275 = .ok (.invokespecial 105, 3) := dk_183 0 105 (dk_at dksX0_init_11 16 rfl rfl)
theorem dX0_init_278 : decode cX0_init 278 = .ok (.aastore, 1) := dk_83 (dk_at dksX0_init_11 19 rfl rfl)
theorem dX0_init_279 : decode cX0_init 279 = .ok (.dup, 1) := dk_89 (dk_at dksX0_init_11 20 rfl rfl)
theorem dX0_init_280 : decode cX0_init 280 = .ok (.iconst 1, 1) := dk_4 (dk_at dksX0_init_11 21 rfl rfl)
theorem dX0_init_281 : decode cX0_init 281 = .ok (.new 103, 3) := dk_187 0 103 (dk_at dksX0_init_12 0 rfl rfl)
theorem dX0_init_284 : decode cX0_init 284 = .ok (.dup, 1) := dk_89 (dk_at dksX0_init_12 3 rfl rfl)
theorem dX0_init_285 : decode cX0_init 285 = .ok (.invokespecial 105, 3) := dk_183 0 105 (dk_at dksX0_init_12 4 rfl rfl)
theorem dX0_init_288 : decode cX0_init 288 = .ok (.aastore, 1) := dk_83 (dk_at dksX0_init_12 7 rfl rfl)
theorem dX0_init_289 : decode cX0_init 289 = .ok (.dup, 1) := dk_89 (dk_at dksX0_init_12 8 rfl rfl)
theorem dX0_init_290 : decode cX0_init 290 = .ok (.iconst 2, 1) := dk_5 (dk_at dksX0_init_12 9 rfl rfl)
theorem dX0_init_291 : decode cX0_init 291 = .ok (.new 103, 3) := dk_187 0 103 (dk_at dksX0_init_12 10 rfl rfl)
theorem dX0_init_294 : decode cX0_init 294 = .ok (.dup, 1) := dk_89 (dk_at dksX0_init_12 13 rfl rfl)
theorem dX0_init_295 : decode cX0_init 295 = .ok (.invokespecial 105, 3) := dk_183 0 105 (dk_at dksX0_init_12 14 rfl rfl)
theorem dX0_init_298 : decode cX0_init 298 = .ok (.aastore, 1) := dk_83 (dk_at dksX0_init_12 17 rfl rfl)
theorem dX0_init_299 : decode cX0_init 299 = .ok (.dup, 1) := dk_89 (dk_at dksX0_init_12 18 rfl rfl)
theorem dX0_init_300 : decode cX0_init 300 = .ok (.iconst 3, 1) := dk_6 (dk_at dksX0_init_12 19 rfl rfl)
theorem dX0_init_301 : decode cX0_init 301 = .ok (.new 103, 3) := dk_187 0 103 (dk_at dksX0_init_12 20 rfl rfl)
theorem dX0_init_304 : decode cX0_init 304 = .ok (.dup, 1) := dk_89 (dk_at dksX0_init_12 23 rfl rfl)
theorem dX0_init_305 : decode cX0_init 305 = .ok (.invokespecial 105, 3) := dk_183 0 105 (dk_at dksX0_init_13 0 rfl rfl)
theorem dX0_init_308 : decode cX0_init 308 = .ok (.aastore, 1) := dk_83 (dk_at dksX0_init_13 3 rfl rfl)
theorem dX0_init_309 : decode cX0_init 309 = .ok (.putfield 106, 3) := dk_181 0 106 (dk_at dksX0_init_13 4 rfl rfl)
theorem dX0_init_312 : decode cX0_init 312 = .ok (.return_, 1) := dk_177 (dk_at dksX0_init_13 7 rfl rfl)
abbrev cX0_feed : ByteArray := prog_1_method_9_code
def yX0_feed : MethodName := ⟨RX0, "feed", "(JI)I"⟩
def dkwX0_feed_3 : List UInt8 := [180, 0, 121, 172]
abbrev dktX0_feed_3 : List UInt8 := dkwX0_feed_3 ++ []
def dkwX0_feed_2 : List UInt8 := [21, 4, 104, 123, 136, 145, 84, 42, 89, 180, 0, 121, 4, 96, 181, 0, 121, 132, 4, 1, 167, 255, 219, 42]
abbrev dktX0_feed_2 : List UInt8 := dkwX0_feed_2 ++ dktX0_feed_3
def dkwX0_feed_1 : List UInt8 := [16, 254, 172, 3, 54, 4, 21, 4, 29, 162, 0, 37, 42, 180, 0, 59, 42, 180, 0, 121, 31, 16, 8]
abbrev dktX0_feed_1 : List UInt8 := dkwX0_feed_1 ++ dktX0_feed_2
def dkwX0_feed_0 : List UInt8 := [29, 4, 16, 8, 184, 0, 114, 154, 0, 5, 2, 172, 42, 180, 0, 121, 29, 96, 17, 0, 200, 164, 0, 6]
abbrev dktX0_feed_0 : List UInt8 := dkwX0_feed_0 ++ dktX0_feed_1
theorem dksX0_feed_0 : cX0_feed.data.toList.drop 0 = dktX0_feed_0 := by decide +kernel
theorem dksX0_feed_1 : cX0_feed.data.toList.drop 24 = dktX0_feed_1 := dk_seg dksX0_feed_0 24 rfl rfl
theorem dksX0_feed_2 : cX0_feed.data.toList.drop 47 = dktX0_feed_2 := dk_seg dksX0_feed_1 23 rfl rfl
theorem dksX0_feed_3 : cX0_feed.data.toList.drop 71 = dktX0_feed_3 := dk_seg dksX0_feed_2 24 rfl rfl
theorem dX0_feed_0 : decode cX0_feed 0 = .ok (.iload_n 3, 1) := dk_29 (dk_at dksX0_feed_0 0 rfl rfl)
theorem dX0_feed_1 : decode cX0_feed 1 = .ok (.iconst 1, 1) := dk_4 (dk_at dksX0_feed_0 1 rfl rfl)
theorem dX0_feed_2 : decode cX0_feed 2 = .ok (.bipush 8, 2) := dk_16 8 (dk_at dksX0_feed_0 2 rfl rfl)
theorem dX0_feed_4 : decode cX0_feed 4 = .ok (.invokestatic 114, 3) := dk_184 0 114 (dk_at dksX0_feed_0 4 rfl rfl)
theorem dX0_feed_7 : decode cX0_feed 7 = .ok (.ifCond .ne 5, 3) := dk_154 0 5 (dk_at dksX0_feed_0 7 rfl rfl)
theorem dX0_feed_10 : decode cX0_feed 10 = .ok (.iconst (-1), 1) := dk_2 (dk_at dksX0_feed_0 10 rfl rfl)
theorem dX0_feed_11 : decode cX0_feed 11 = .ok (.ireturn, 1) := dk_172 (dk_at dksX0_feed_0 11 rfl rfl)
theorem dX0_feed_12 : decode cX0_feed 12 = .ok (.aload_n 0, 1) := dk_42 (dk_at dksX0_feed_0 12 rfl rfl)
theorem dX0_feed_13 : decode cX0_feed 13 = .ok (.getfield 121, 3) := dk_180 0 121 (dk_at dksX0_feed_0 13 rfl rfl)
theorem dX0_feed_16 : decode cX0_feed 16 = .ok (.iload_n 3, 1) := dk_29 (dk_at dksX0_feed_0 16 rfl rfl)
theorem dX0_feed_17 : decode cX0_feed 17 = .ok (.iadd, 1) := dk_96 (dk_at dksX0_feed_0 17 rfl rfl)
theorem dX0_feed_18 : decode cX0_feed 18 = .ok (.sipush 200, 3) := dk_17 0 200 (dk_at dksX0_feed_0 18 rfl rfl)
theorem dX0_feed_21 : decode cX0_feed 21 = .ok (.if_icmp .le 6, 3) := dk_164 0 6 (dk_at dksX0_feed_0 21 rfl rfl)
theorem dX0_feed_24 : decode cX0_feed 24 = .ok (.bipush (-2), 2) := dk_16 254 (dk_at dksX0_feed_1 0 rfl rfl)
theorem dX0_feed_26 : decode cX0_feed 26 = .ok (.ireturn, 1) := dk_172 (dk_at dksX0_feed_1 2 rfl rfl)
theorem dX0_feed_27 : decode cX0_feed 27 = .ok (.iconst 0, 1) := dk_3 (dk_at dksX0_feed_1 3 rfl rfl)
theorem dX0_feed_28 : decode cX0_feed 28 = .ok (.istore 4, 2) := dk_54 4 (dk_at dksX0_feed_1 4 rfl rfl)
theorem dX0_feed_30 : decode cX0_feed 30 = .ok (.iload 4, 2) := dk_21 4 (dk_at dksX0_feed_1 6 rfl rfl)
theorem dX0_feed_32 : decode cX0_feed 32 = .ok (.iload_n 3, 1) := dk_29 (dk_at dksX0_feed_1 8 rfl rfl)
theorem dX0_feed_33 : decode cX0_feed 33 = .ok (.if_icmp .ge 37, 3) := dk_162 0 37 (dk_at dksX0_feed_1 9 rfl rfl)
theorem dX0_feed_36 : decode cX0_feed 36 = .ok (.aload_n 0, 1) := dk_42 (dk_at dksX0_feed_1 12 rfl rfl)
theorem dX0_feed_37 : decode cX0_feed 37 = .ok (.getfield 59, 3) := dk_180 0 59 (dk_at dksX0_feed_1 13 rfl rfl)
theorem dX0_feed_40 : decode cX0_feed 40 = .ok (.aload_n 0, 1) := dk_42 (dk_at dksX0_feed_1 16 rfl rfl)
theorem dX0_feed_41 : decode cX0_feed 41 = .ok (.getfield 121, 3) := dk_180 0 121 (dk_at dksX0_feed_1 17 rfl rfl)
theorem dX0_feed_44 : decode cX0_feed 44 = .ok (.lload_n 1, 1) := dk_31 (dk_at dksX0_feed_1 20 rfl rfl)
theorem dX0_feed_45 : decode cX0_feed 45 = .ok (.bipush 8, 2) := dk_16 8 (dk_at dksX0_feed_1 21 rfl rfl)
theorem dX0_feed_47 : decode cX0_feed 47 = .ok (.iload 4, 2) := dk_21 4 (dk_at dksX0_feed_2 0 rfl rfl)
theorem dX0_feed_49 : decode cX0_feed 49 = .ok (.imul, 1) := dk_104 (dk_at dksX0_feed_2 2 rfl rfl)
theorem dX0_feed_50 : decode cX0_feed 50 = .ok (.lshr, 1) := dk_123 (dk_at dksX0_feed_2 3 rfl rfl)
theorem dX0_feed_51 : decode cX0_feed 51 = .ok (.l2i, 1) := dk_136 (dk_at dksX0_feed_2 4 rfl rfl)
theorem dX0_feed_52 : decode cX0_feed 52 = .ok (.i2b, 1) := dk_145 (dk_at dksX0_feed_2 5 rfl rfl)
theorem dX0_feed_53 : decode cX0_feed 53 = .ok (.bastore, 1) := dk_84 (dk_at dksX0_feed_2 6 rfl rfl)
theorem dX0_feed_54 : decode cX0_feed 54 = .ok (.aload_n 0, 1) := dk_42 (dk_at dksX0_feed_2 7 rfl rfl)
theorem dX0_feed_55 : decode cX0_feed 55 = .ok (.dup, 1) := dk_89 (dk_at dksX0_feed_2 8 rfl rfl)
theorem dX0_feed_56 : decode cX0_feed 56 = .ok (.getfield 121, 3) := dk_180 0 121 (dk_at dksX0_feed_2 9 rfl rfl)
theorem dX0_feed_59 : decode cX0_feed 59 = .ok (.iconst 1, 1) := dk_4 (dk_at dksX0_feed_2 12 rfl rfl)
theorem dX0_feed_60 : decode cX0_feed 60 = .ok (.iadd, 1) := dk_96 (dk_at dksX0_feed_2 13 rfl rfl)
theorem dX0_feed_61 : decode cX0_feed 61 = .ok (.putfield 121, 3) := dk_181 0 121 (dk_at dksX0_feed_2 14 rfl rfl)
theorem dX0_feed_64 : decode cX0_feed 64 = .ok (.iinc 4 1, 3) := dk_132 4 1 (dk_at dksX0_feed_2 17 rfl rfl)
theorem dX0_feed_67 : decode cX0_feed 67 = .ok (.goto (-37), 3) := dk_167 255 219 (dk_at dksX0_feed_2 20 rfl rfl)
theorem dX0_feed_70 : decode cX0_feed 70 = .ok (.aload_n 0, 1) := dk_42 (dk_at dksX0_feed_2 23 rfl rfl)
theorem dX0_feed_71 : decode cX0_feed 71 = .ok (.getfield 121, 3) := dk_180 0 121 (dk_at dksX0_feed_3 0 rfl rfl)
theorem dX0_feed_74 : decode cX0_feed 74 = .ok (.ireturn, 1) := dk_172 (dk_at dksX0_feed_3 3 rfl rfl)
abbrev cX0_in : ByteArray := prog_1_method_1_code
def yX0_in : MethodName := ⟨RX0, "in", "(III)Z"⟩
def dkwX0_in_0 : List UInt8 := [26, 27, 161, 0, 12, 26, 28, 163, 0, 7, 4, 167, 0, 4, 3, 172]
abbrev dktX0_in_0 : List UInt8 := dkwX0_in_0 ++ []
theorem dksX0_in_0 : cX0_in.data.toList.drop 0 = dktX0_in_0 := by decide +kernel
theorem dX0_in_0 : decode cX0_in 0 = .ok (.iload_n 0, 1) := dk_26 (dk_at dksX0_in_0 0 rfl rfl)
theorem dX0_in_1 : decode cX0_in 1 = .ok (.iload_n 1, 1) := dk_27 (dk_at dksX0_in_0 1 rfl rfl)
theorem dX0_in_2 : decode cX0_in 2 = .ok (.if_icmp .lt 12, 3) := dk_161 0 12 (dk_at dksX0_in_0 2 rfl rfl)
theorem dX0_in_5 : decode cX0_in 5 = .ok (.iload_n 0, 1) := dk_26 (dk_at dksX0_in_0 5 rfl rfl)
theorem dX0_in_6 : decode cX0_in 6 = .ok (.iload_n 2, 1) := dk_28 (dk_at dksX0_in_0 6 rfl rfl)
theorem dX0_in_7 : decode cX0_in 7 = .ok (.if_icmp .gt 7, 3) := dk_163 0 7 (dk_at dksX0_in_0 7 rfl rfl)
theorem dX0_in_10 : decode cX0_in 10 = .ok (.iconst 1, 1) := dk_4 (dk_at dksX0_in_0 10 rfl rfl)
theorem dX0_in_11 : decode cX0_in 11 = .ok (.goto 4, 3) := dk_167 0 4 (dk_at dksX0_in_0 11 rfl rfl)
theorem dX0_in_14 : decode cX0_in 14 = .ok (.iconst 0, 1) := dk_3 (dk_at dksX0_in_0 14 rfl rfl)
theorem dX0_in_15 : decode cX0_in 15 = .ok (.ireturn, 1) := dk_172 (dk_at dksX0_in_0 15 rfl rfl)
abbrev cX0_cupboard : ByteArray := prog_1_method_10_code
def yX0_cupboard : MethodName := ⟨RX0, "cupboard", "()I"⟩
def dkwX0_cupboard_2 : List UInt8 := [180, 0, 45, 42, 180, 0, 52, 182, 0, 124, 42, 3, 181, 0, 136, 42, 180, 0, 45, 180, 0, 110, 172]
abbrev dktX0_cupboard_2 : List UInt8 := dkwX0_cupboard_2 ++ []
def dkwX0_cupboard_1 : List UInt8 := [180, 0, 68, 42, 180, 0, 59, 27, 182, 0, 127, 167, 0, 12, 77, 16, 156, 44, 180, 0, 133, 100, 172, 42]
abbrev dktX0_cupboard_1 : List UInt8 := dkwX0_cupboard_1 ++ dktX0_cupboard_2
def dkwX0_cupboard_0 : List UInt8 := [42, 180, 0, 121, 60, 42, 3, 181, 0, 121, 42, 180, 0, 52, 42, 180, 0, 45, 182, 0, 124, 42]
abbrev dktX0_cupboard_0 : List UInt8 := dkwX0_cupboard_0 ++ dktX0_cupboard_1
theorem dksX0_cupboard_0 : cX0_cupboard.data.toList.drop 0 = dktX0_cupboard_0 := by decide +kernel
theorem dksX0_cupboard_1 : cX0_cupboard.data.toList.drop 22 = dktX0_cupboard_1 := dk_seg dksX0_cupboard_0 22 rfl rfl
theorem dksX0_cupboard_2 : cX0_cupboard.data.toList.drop 46 = dktX0_cupboard_2 := dk_seg dksX0_cupboard_1 24 rfl rfl
theorem dX0_cupboard_0 : decode cX0_cupboard 0 = .ok (.aload_n 0, 1) := dk_42 (dk_at dksX0_cupboard_0 0 rfl rfl)
theorem dX0_cupboard_1 : decode cX0_cupboard 1 = .ok (.getfield 121, 3) := dk_180 0 121 (dk_at dksX0_cupboard_0 1 rfl rfl)
theorem dX0_cupboard_4 : decode cX0_cupboard 4 = .ok (.istore_n 1, 1) := dk_60 (dk_at dksX0_cupboard_0 4 rfl rfl)
theorem dX0_cupboard_5 : decode cX0_cupboard 5 = .ok (.aload_n 0, 1) := dk_42 (dk_at dksX0_cupboard_0 5 rfl rfl)
theorem dX0_cupboard_6 : decode cX0_cupboard 6 = .ok (.iconst 0, 1) := dk_3 (dk_at dksX0_cupboard_0 6 rfl rfl)
theorem dX0_cupboard_7 : decode cX0_cupboard 7 = .ok (.putfield 121, 3) := dk_181 0 121 (dk_at dksX0_cupboard_0 7 rfl rfl)
theorem dX0_cupboard_10 : decode cX0_cupboard 10 = .ok (.aload_n 0, 1) := dk_42 (dk_at dksX0_cupboard_0 10 rfl rfl)
theorem dX0_cupboard_11 : decode cX0_cupboard 11 = .ok (.getfield 52, 3) := dk_180 0 52 (dk_at dksX0_cupboard_0 11 rfl rfl)
theorem dX0_cupboard_14 : decode cX0_cupboard 14 = .ok (.aload_n 0, 1) := dk_42 (dk_at dksX0_cupboard_0 14 rfl rfl)
theorem dX0_cupboard_15 : decode cX0_cupboard 15 = .ok (.getfield 45, 3) := dk_180 0 45 (dk_at dksX0_cupboard_0 15 rfl rfl)
theorem dX0_cupboard_18 : decode cX0_cupboard 18 = .ok (.invokevirtual 124, 3) := dk_182 0 124 (dk_at dksX0_cupboard_0 18 rfl rfl)
theorem dX0_cupboard_21 : decode cX0_cupboard 21 = .ok (.aload_n 0, 1) := dk_42 (dk_at dksX0_cupboard_0 21 rfl rfl)
theorem dX0_cupboard_22 : decode cX0_cupboard 22 = .ok (.getfield 68, 3) := dk_180 0 68 (dk_at dksX0_cupboard_1 0 rfl rfl)
theorem dX0_cupboard_25 : decode cX0_cupboard 25 = .ok (.aload_n 0, 1) := dk_42 (dk_at dksX0_cupboard_1 3 rfl rfl)
theorem dX0_cupboard_26 : decode cX0_cupboard 26 = .ok (.getfield 59, 3) := dk_180 0 59 (dk_at dksX0_cupboard_1 4 rfl rfl)
theorem dX0_cupboard_29 : decode cX0_cupboard 29 = .ok (.iload_n 1, 1) := dk_27 (dk_at dksX0_cupboard_1 7 rfl rfl)
theorem dX0_cupboard_30 : decode cX0_cupboard 30 = .ok (.invokevirtual 127, 3) := dk_182 0 127 (dk_at dksX0_cupboard_1 8 rfl rfl)
theorem dX0_cupboard_33 : decode cX0_cupboard 33 = .ok (.goto 12, 3) := dk_167 0 12 (dk_at dksX0_cupboard_1 11 rfl rfl)
theorem dX0_cupboard_36 : decode cX0_cupboard 36 = .ok (.astore_n 2, 1) := dk_77 (dk_at dksX0_cupboard_1 14 rfl rfl)
theorem dX0_cupboard_37 : decode cX0_cupboard 37 = .ok (.bipush (-100), 2) := dk_16 156 (dk_at dksX0_cupboard_1 15 rfl rfl)
theorem dX0_cupboard_39 : decode cX0_cupboard 39 = .ok (.aload_n 2, 1) := dk_44 (dk_at dksX0_cupboard_1 17 rfl rfl)
theorem dX0_cupboard_40 : decode cX0_cupboard 40 = .ok (.getfield 133, 3) := dk_180 0 133 (dk_at dksX0_cupboard_1 18 rfl rfl)
theorem dX0_cupboard_43 : decode cX0_cupboard 43 = .ok (.isub, 1) := dk_100 (dk_at dksX0_cupboard_1 21 rfl rfl)
theorem dX0_cupboard_44 : decode cX0_cupboard 44 = .ok (.ireturn, 1) := dk_172 (dk_at dksX0_cupboard_1 22 rfl rfl)
theorem dX0_cupboard_45 : decode cX0_cupboard 45 = .ok (.aload_n 0, 1) := dk_42 (dk_at dksX0_cupboard_1 23 rfl rfl)
theorem dX0_cupboard_46 : decode cX0_cupboard 46 = .ok (.getfield 45, 3) := dk_180 0 45 (dk_at dksX0_cupboard_2 0 rfl rfl)
theorem dX0_cupboard_49 : decode cX0_cupboard 49 = .ok (.aload_n 0, 1) := dk_42 (dk_at dksX0_cupboard_2 3 rfl rfl)
theorem dX0_cupboard_50 : decode cX0_cupboard 50 = .ok (.getfield 52, 3) := dk_180 0 52 (dk_at dksX0_cupboard_2 4 rfl rfl)
theorem dX0_cupboard_53 : decode cX0_cupboard 53 = .ok (.invokevirtual 124, 3) := dk_182 0 124 (dk_at dksX0_cupboard_2 7 rfl rfl)
theorem dX0_cupboard_56 : decode cX0_cupboard 56 = .ok (.aload_n 0, 1) := dk_42 (dk_at dksX0_cupboard_2 10 rfl rfl)
theorem dX0_cupboard_57 : decode cX0_cupboard 57 = .ok (.iconst 0, 1) := dk_3 (dk_at dksX0_cupboard_2 11 rfl rfl)
theorem dX0_cupboard_58 : decode cX0_cupboard 58 = .ok (.putfield 136, 3) := dk_181 0 136 (dk_at dksX0_cupboard_2 12 rfl rfl)
theorem dX0_cupboard_61 : decode cX0_cupboard 61 = .ok (.aload_n 0, 1) := dk_42 (dk_at dksX0_cupboard_2 15 rfl rfl)
theorem dX0_cupboard_62 : decode cX0_cupboard 62 = .ok (.getfield 45, 3) := dk_180 0 45 (dk_at dksX0_cupboard_2 16 rfl rfl)
theorem dX0_cupboard_65 : decode cX0_cupboard 65 = .ok (.getfield 110, 3) := dk_180 0 110 (dk_at dksX0_cupboard_2 19 rfl rfl)
theorem dX0_cupboard_68 : decode cX0_cupboard 68 = .ok (.ireturn, 1) := dk_172 (dk_at dksX0_cupboard_2 22 rfl rfl)
abbrev cX0_thing : ByteArray := prog_1_method_11_code
def yX0_thing : MethodName := ⟨RX0, "thing", "(IIII)I"⟩
def dkwX0_thing_2 : List UInt8 := [16, 8, 160, 0, 8, 16, 254, 167, 0, 15, 42, 180, 0, 45, 27, 28, 29, 21, 4, 182, 0, 143, 172]
abbrev dktX0_thing_2 : List UInt8 := dkwX0_thing_2 ++ []
def dkwX0_thing_1 : List UInt8 := [153, 0, 14, 21, 4, 3, 16, 99, 184, 0, 114, 154, 0, 5, 2, 172, 42, 180, 0, 45, 180, 0, 110]
abbrev dktX0_thing_1 : List UInt8 := dkwX0_thing_1 ++ dktX0_thing_2
def dkwX0_thing_0 : List UInt8 := [27, 3, 8, 184, 0, 114, 153, 0, 31, 28, 184, 0, 139, 153, 0, 24, 29, 3, 16, 9, 184, 0, 114]
abbrev dktX0_thing_0 : List UInt8 := dkwX0_thing_0 ++ dktX0_thing_1
theorem dksX0_thing_0 : cX0_thing.data.toList.drop 0 = dktX0_thing_0 := by decide +kernel
theorem dksX0_thing_1 : cX0_thing.data.toList.drop 23 = dktX0_thing_1 := dk_seg dksX0_thing_0 23 rfl rfl
theorem dksX0_thing_2 : cX0_thing.data.toList.drop 46 = dktX0_thing_2 := dk_seg dksX0_thing_1 23 rfl rfl
theorem dX0_thing_0 : decode cX0_thing 0 = .ok (.iload_n 1, 1) := dk_27 (dk_at dksX0_thing_0 0 rfl rfl)
theorem dX0_thing_1 : decode cX0_thing 1 = .ok (.iconst 0, 1) := dk_3 (dk_at dksX0_thing_0 1 rfl rfl)
theorem dX0_thing_2 : decode cX0_thing 2 = .ok (.iconst 5, 1) := dk_8 (dk_at dksX0_thing_0 2 rfl rfl)
theorem dX0_thing_3 : decode cX0_thing 3 = .ok (.invokestatic 114, 3) := dk_184 0 114 (dk_at dksX0_thing_0 3 rfl rfl)
theorem dX0_thing_6 : decode cX0_thing 6 = .ok (.ifCond .eq 31, 3) := dk_153 0 31 (dk_at dksX0_thing_0 6 rfl rfl)
theorem dX0_thing_9 : decode cX0_thing 9 = .ok (.iload_n 2, 1) := dk_28 (dk_at dksX0_thing_0 9 rfl rfl)
theorem dX0_thing_10 : decode cX0_thing 10 = .ok (.invokestatic 139, 3) := dk_184 0 139 (dk_at dksX0_thing_0 10 rfl rfl)
theorem dX0_thing_13 : decode cX0_thing 13 = .ok (.ifCond .eq 24, 3) := dk_153 0 24 (dk_at dksX0_thing_0 13 rfl rfl)
theorem dX0_thing_16 : decode cX0_thing 16 = .ok (.iload_n 3, 1) := dk_29 (dk_at dksX0_thing_0 16 rfl rfl)
theorem dX0_thing_17 : decode cX0_thing 17 = .ok (.iconst 0, 1) := dk_3 (dk_at dksX0_thing_0 17 rfl rfl)
theorem dX0_thing_18 : decode cX0_thing 18 = .ok (.bipush 9, 2) := dk_16 9 (dk_at dksX0_thing_0 18 rfl rfl)
theorem dX0_thing_20 : decode cX0_thing 20 = .ok (.invokestatic 114, 3) := dk_184 0 114 (dk_at dksX0_thing_0 20 rfl rfl)
theorem dX0_thing_23 : decode cX0_thing 23 = .ok (.ifCond .eq 14, 3) := dk_153 0 14 (dk_at dksX0_thing_1 0 rfl rfl)
theorem dX0_thing_26 : decode cX0_thing 26 = .ok (.iload 4, 2) := dk_21 4 (dk_at dksX0_thing_1 3 rfl rfl)
theorem dX0_thing_28 : decode cX0_thing 28 = .ok (.iconst 0, 1) := dk_3 (dk_at dksX0_thing_1 5 rfl rfl)
theorem dX0_thing_29 : decode cX0_thing 29 = .ok (.bipush 99, 2) := dk_16 99 (dk_at dksX0_thing_1 6 rfl rfl)
theorem dX0_thing_31 : decode cX0_thing 31 = .ok (.invokestatic 114, 3) := dk_184 0 114 (dk_at dksX0_thing_1 8 rfl rfl)
theorem dX0_thing_34 : decode cX0_thing 34 = .ok (.ifCond .ne 5, 3) := dk_154 0 5 (dk_at dksX0_thing_1 11 rfl rfl)
theorem dX0_thing_37 : decode cX0_thing 37 = .ok (.iconst (-1), 1) := dk_2 (dk_at dksX0_thing_1 14 rfl rfl)
theorem dX0_thing_38 : decode cX0_thing 38 = .ok (.ireturn, 1) := dk_172 (dk_at dksX0_thing_1 15 rfl rfl)
theorem dX0_thing_39 : decode cX0_thing 39 = .ok (.aload_n 0, 1) := dk_42 (dk_at dksX0_thing_1 16 rfl rfl)
theorem dX0_thing_40 : decode cX0_thing 40 = .ok (.getfield 45, 3) := dk_180 0 45 (dk_at dksX0_thing_1 17 rfl rfl)
theorem dX0_thing_43 : decode cX0_thing 43 = .ok (.getfield 110, 3) := dk_180 0 110 (dk_at dksX0_thing_1 20 rfl rfl)
theorem dX0_thing_46 : decode cX0_thing 46 = .ok (.bipush 8, 2) := dk_16 8 (dk_at dksX0_thing_2 0 rfl rfl)
theorem dX0_thing_48 : decode cX0_thing 48 = .ok (.if_icmp .ne 8, 3) := dk_160 0 8 (dk_at dksX0_thing_2 2 rfl rfl)
theorem dX0_thing_51 : decode cX0_thing 51 = .ok (.bipush (-2), 2) := dk_16 254 (dk_at dksX0_thing_2 5 rfl rfl)
theorem dX0_thing_53 : decode cX0_thing 53 = .ok (.goto 15, 3) := dk_167 0 15 (dk_at dksX0_thing_2 7 rfl rfl)
theorem dX0_thing_56 : decode cX0_thing 56 = .ok (.aload_n 0, 1) := dk_42 (dk_at dksX0_thing_2 10 rfl rfl)
theorem dX0_thing_57 : decode cX0_thing 57 = .ok (.getfield 45, 3) := dk_180 0 45 (dk_at dksX0_thing_2 11 rfl rfl)
theorem dX0_thing_60 : decode cX0_thing 60 = .ok (.iload_n 1, 1) := dk_27 (dk_at dksX0_thing_2 14 rfl rfl)
theorem dX0_thing_61 : decode cX0_thing 61 = .ok (.iload_n 2, 1) := dk_28 (dk_at dksX0_thing_2 15 rfl rfl)
theorem dX0_thing_62 : decode cX0_thing 62 = .ok (.iload_n 3, 1) := dk_29 (dk_at dksX0_thing_2 16 rfl rfl)
theorem dX0_thing_63 : decode cX0_thing 63 = .ok (.iload 4, 2) := dk_21 4 (dk_at dksX0_thing_2 17 rfl rfl)
theorem dX0_thing_65 : decode cX0_thing 65 = .ok (.invokevirtual 143, 3) := dk_182 0 143 (dk_at dksX0_thing_2 19 rfl rfl)
theorem dX0_thing_68 : decode cX0_thing 68 = .ok (.ireturn, 1) := dk_172 (dk_at dksX0_thing_2 22 rfl rfl)
abbrev cX0_isPlace : ByteArray := prog_1_method_7_code
def yX0_isPlace : MethodName := ⟨RX0, "isPlace", "(I)Z"⟩
def dkwX0_isPlace_0 : List UInt8 := [26, 3, 6, 184, 0, 114, 172]
abbrev dktX0_isPlace_0 : List UInt8 := dkwX0_isPlace_0 ++ []
theorem dksX0_isPlace_0 : cX0_isPlace.data.toList.drop 0 = dktX0_isPlace_0 := by decide +kernel
theorem dX0_isPlace_0 : decode cX0_isPlace 0 = .ok (.iload_n 0, 1) := dk_26 (dk_at dksX0_isPlace_0 0 rfl rfl)
theorem dX0_isPlace_1 : decode cX0_isPlace 1 = .ok (.iconst 0, 1) := dk_3 (dk_at dksX0_isPlace_0 1 rfl rfl)
theorem dX0_isPlace_2 : decode cX0_isPlace 2 = .ok (.iconst 3, 1) := dk_6 (dk_at dksX0_isPlace_0 2 rfl rfl)
theorem dX0_isPlace_3 : decode cX0_isPlace 3 = .ok (.invokestatic 114, 3) := dk_184 0 114 (dk_at dksX0_isPlace_0 3 rfl rfl)
theorem dX0_isPlace_6 : decode cX0_isPlace 6 = .ok (.ireturn, 1) := dk_172 (dk_at dksX0_isPlace_0 6 rfl rfl)
abbrev cX0_thingOf : ByteArray := prog_1_method_12_code
def yX0_thingOf : MethodName := ⟨RX0, "thingOf", "(II)I"⟩
def dkwX0_thingOf_5 : List UInt8 := [100, 46, 167, 0, 4, 2, 172]
abbrev dktX0_thingOf_5 : List UInt8 := dkwX0_thingOf_5 ++ []
def dkwX0_thingOf_4 : List UInt8 := [180, 0, 45, 27, 182, 0, 177, 172, 28, 8, 16, 8, 184, 0, 114, 153, 0, 14, 45, 180, 0, 180, 28, 8]
abbrev dktX0_thingOf_4 : List UInt8 := dkwX0_thingOf_4 ++ dktX0_thingOf_5
def dkwX0_thingOf_3 : List UInt8 := [153, 0, 7, 4, 167, 0, 4, 3, 172, 45, 180, 0, 170, 172, 42, 180, 0, 45, 27, 182, 0, 173, 172, 42]
abbrev dktX0_thingOf_3 : List UInt8 := dkwX0_thingOf_3 ++ dktX0_thingOf_4
def dkwX0_thingOf_2 : List UInt8 := [45, 180, 0, 154, 172, 45, 180, 0, 159, 172, 45, 180, 0, 160, 172, 45, 180, 0, 163, 172, 45, 180, 0, 166]
abbrev dktX0_thingOf_2 : List UInt8 := dkwX0_thingOf_2 ++ dktX0_thingOf_3
def dkwX0_thingOf_1 : List UInt8 := [170, 0, 0, 0, 0, 0, 119, 0, 0, 0, 0, 0, 0, 0, 11, 0, 0, 0, 63, 0, 0, 0, 68, 0, 0, 0, 73, 0, 0, 0, 78, 0, 0, 0, 83, 0, 0, 0, 119, 0, 0, 0, 119, 0, 0, 0, 119, 0, 0, 0, 119, 0, 0, 0, 96, 0, 0, 0, 101, 0, 0, 0, 110]
abbrev dktX0_thingOf_1 : List UInt8 := dkwX0_thingOf_1 ++ dktX0_thingOf_2
def dkwX0_thingOf_0 : List UInt8 := [42, 27, 182, 0, 147, 154, 0, 5, 2, 172, 42, 180, 0, 45, 180, 0, 150, 27, 50, 78, 28]
abbrev dktX0_thingOf_0 : List UInt8 := dkwX0_thingOf_0 ++ dktX0_thingOf_1
theorem dksX0_thingOf_0 : cX0_thingOf.data.toList.drop 0 = dktX0_thingOf_0 := by decide +kernel
theorem dksX0_thingOf_1 : cX0_thingOf.data.toList.drop 21 = dktX0_thingOf_1 := dk_seg dksX0_thingOf_0 21 rfl rfl
theorem dksX0_thingOf_2 : cX0_thingOf.data.toList.drop 84 = dktX0_thingOf_2 := dk_seg dksX0_thingOf_1 63 rfl rfl
theorem dksX0_thingOf_3 : cX0_thingOf.data.toList.drop 108 = dktX0_thingOf_3 := dk_seg dksX0_thingOf_2 24 rfl rfl
theorem dksX0_thingOf_4 : cX0_thingOf.data.toList.drop 132 = dktX0_thingOf_4 := dk_seg dksX0_thingOf_3 24 rfl rfl
theorem dksX0_thingOf_5 : cX0_thingOf.data.toList.drop 156 = dktX0_thingOf_5 := dk_seg dksX0_thingOf_4 24 rfl rfl
theorem dX0_thingOf_0 : decode cX0_thingOf 0 = .ok (.aload_n 0, 1) := dk_42 (dk_at dksX0_thingOf_0 0 rfl rfl)
theorem dX0_thingOf_1 : decode cX0_thingOf 1 = .ok (.iload_n 1, 1) := dk_27 (dk_at dksX0_thingOf_0 1 rfl rfl)
theorem dX0_thingOf_2 : decode cX0_thingOf 2 = .ok (.invokevirtual 147, 3) := dk_182 0 147 (dk_at dksX0_thingOf_0 2 rfl rfl)
theorem dX0_thingOf_5 : decode cX0_thingOf 5 = .ok (.ifCond .ne 5, 3) := dk_154 0 5 (dk_at dksX0_thingOf_0 5 rfl rfl)
theorem dX0_thingOf_8 : decode cX0_thingOf 8 = .ok (.iconst (-1), 1) := dk_2 (dk_at dksX0_thingOf_0 8 rfl rfl)
theorem dX0_thingOf_9 : decode cX0_thingOf 9 = .ok (.ireturn, 1) := dk_172 (dk_at dksX0_thingOf_0 9 rfl rfl)
theorem dX0_thingOf_10 : decode cX0_thingOf 10 = .ok (.aload_n 0, 1) := dk_42 (dk_at dksX0_thingOf_0 10 rfl rfl)
theorem dX0_thingOf_11 : decode cX0_thingOf 11 = .ok (.getfield 45, 3) := dk_180 0 45 (dk_at dksX0_thingOf_0 11 rfl rfl)
theorem dX0_thingOf_14 : decode cX0_thingOf 14 = .ok (.getfield 150, 3) := dk_180 0 150 (dk_at dksX0_thingOf_0 14 rfl rfl)
theorem dX0_thingOf_17 : decode cX0_thingOf 17 = .ok (.iload_n 1, 1) := dk_27 (dk_at dksX0_thingOf_0 17 rfl rfl)
theorem dX0_thingOf_18 : decode cX0_thingOf 18 = .ok (.aaload, 1) := dk_50 (dk_at dksX0_thingOf_0 18 rfl rfl)
theorem dX0_thingOf_19 : decode cX0_thingOf 19 = .ok (.astore_n 3, 1) := dk_78 (dk_at dksX0_thingOf_0 19 rfl rfl)
theorem dX0_thingOf_20 : decode cX0_thingOf 20 = .ok (.iload_n 2, 1) := dk_28 (dk_at dksX0_thingOf_0 20 rfl rfl)
theorem dX0_thingOf_21 : decode cX0_thingOf 21 = .ok (.tableswitch 119 0 11 #[63, 68, 73, 78, 83, 119, 119, 119, 119, 96, 101, 110], 63) := by decide +kernel
theorem dX0_thingOf_84 : decode cX0_thingOf 84 = .ok (.aload_n 3, 1) := dk_45 (dk_at dksX0_thingOf_2 0 rfl rfl)
theorem dX0_thingOf_85 : decode cX0_thingOf 85 = .ok (.getfield 154, 3) := dk_180 0 154 (dk_at dksX0_thingOf_2 1 rfl rfl)
theorem dX0_thingOf_88 : decode cX0_thingOf 88 = .ok (.ireturn, 1) := dk_172 (dk_at dksX0_thingOf_2 4 rfl rfl)
theorem dX0_thingOf_89 : decode cX0_thingOf 89 = .ok (.aload_n 3, 1) := dk_45 (dk_at dksX0_thingOf_2 5 rfl rfl)
theorem dX0_thingOf_90 : decode cX0_thingOf 90 = .ok (.getfield 159, 3) := dk_180 0 159 (dk_at dksX0_thingOf_2 6 rfl rfl)
theorem dX0_thingOf_93 : decode cX0_thingOf 93 = .ok (.ireturn, 1) := dk_172 (dk_at dksX0_thingOf_2 9 rfl rfl)
theorem dX0_thingOf_94 : decode cX0_thingOf 94 = .ok (.aload_n 3, 1) := dk_45 (dk_at dksX0_thingOf_2 10 rfl rfl)
theorem dX0_thingOf_95 : decode cX0_thingOf 95 = .ok (.getfield 160, 3) := dk_180 0 160 (dk_at dksX0_thingOf_2 11 rfl rfl)
theorem dX0_thingOf_98 : decode cX0_thingOf 98 = .ok (.ireturn, 1) := dk_172 (dk_at dksX0_thingOf_2 14 rfl rfl)
theorem dX0_thingOf_99 : decode cX0_thingOf 99 = .ok (.aload_n 3, 1) := dk_45 (dk_at dksX0_thingOf_2 15 rfl rfl)
theorem dX0_thingOf_100 : decode cX0_thingOf 100 = .ok (.getfield 163, 3) := dk_180 0 163 (dk_at dksX0_thingOf_2 16 rfl rfl)
theorem dX0_thingOf_103 : decode cX0_thingOf 103 = .ok (.ireturn, 1) := dk_172 (dk_at dksX0_thingOf_2 19 rfl rfl)
theorem dX0_thingOf_104 : decode cX0_thingOf 104 = .ok (.aload_n 3, 1) := dk_45 (dk_at dksX0_thingOf_2 20 rfl rfl)
theorem dX0_thingOf_105 : decode cX0_thingOf 105 = .ok (.getfield 166, 3) := dk_180 0 166 (dk_at dksX0_thingOf_2 21 rfl rfl)
theorem dX0_thingOf_108 : decode cX0_thingOf 108 = .ok (.ifCond .eq 7, 3) := dk_153 0 7 (dk_at dksX0_thingOf_3 0 rfl rfl)
theorem dX0_thingOf_111 : decode cX0_thingOf 111 = .ok (.iconst 1, 1) := dk_4 (dk_at dksX0_thingOf_3 3 rfl rfl)
theorem dX0_thingOf_112 : decode cX0_thingOf 112 = .ok (.goto 4, 3) := dk_167 0 4 (dk_at dksX0_thingOf_3 4 rfl rfl)
theorem dX0_thingOf_115 : decode cX0_thingOf 115 = .ok (.iconst 0, 1) := dk_3 (dk_at dksX0_thingOf_3 7 rfl rfl)
theorem dX0_thingOf_116 : decode cX0_thingOf 116 = .ok (.ireturn, 1) := dk_172 (dk_at dksX0_thingOf_3 8 rfl rfl)
theorem dX0_thingOf_117 : decode cX0_thingOf 117 = .ok (.aload_n 3, 1) := dk_45 (dk_at dksX0_thingOf_3 9 rfl rfl)
theorem dX0_thingOf_118 : decode cX0_thingOf 118 = .ok (.getfield 170, 3) := dk_180 0 170 (dk_at dksX0_thingOf_3 10 rfl rfl)
theorem dX0_thingOf_121 : decode cX0_thingOf 121 = .ok (.ireturn, 1) := dk_172 (dk_at dksX0_thingOf_3 13 rfl rfl)
theorem dX0_thingOf_122 : decode cX0_thingOf 122 = .ok (.aload_n 0, 1) := dk_42 (dk_at dksX0_thingOf_3 14 rfl rfl)
theorem dX0_thingOf_123 : decode cX0_thingOf 123 = .ok (.getfield 45, 3) := dk_180 0 45 (dk_at dksX0_thingOf_3 15 rfl rfl)
theorem dX0_thingOf_126 : decode cX0_thingOf 126 = .ok (.iload_n 1, 1) := dk_27 (dk_at dksX0_thingOf_3 18 rfl rfl)
theorem dX0_thingOf_127 : decode cX0_thingOf 127 = .ok (.invokevirtual 173, 3) := dk_182 0 173 (dk_at dksX0_thingOf_3 19 rfl rfl)
theorem dX0_thingOf_130 : decode cX0_thingOf 130 = .ok (.ireturn, 1) := dk_172 (dk_at dksX0_thingOf_3 22 rfl rfl)
theorem dX0_thingOf_131 : decode cX0_thingOf 131 = .ok (.aload_n 0, 1) := dk_42 (dk_at dksX0_thingOf_3 23 rfl rfl)
theorem dX0_thingOf_132 : decode cX0_thingOf 132 = .ok (.getfield 45, 3) := dk_180 0 45 (dk_at dksX0_thingOf_4 0 rfl rfl)
theorem dX0_thingOf_135 : decode cX0_thingOf 135 = .ok (.iload_n 1, 1) := dk_27 (dk_at dksX0_thingOf_4 3 rfl rfl)
theorem dX0_thingOf_136 : decode cX0_thingOf 136 = .ok (.invokevirtual 177, 3) := dk_182 0 177 (dk_at dksX0_thingOf_4 4 rfl rfl)
theorem dX0_thingOf_139 : decode cX0_thingOf 139 = .ok (.ireturn, 1) := dk_172 (dk_at dksX0_thingOf_4 7 rfl rfl)
theorem dX0_thingOf_140 : decode cX0_thingOf 140 = .ok (.iload_n 2, 1) := dk_28 (dk_at dksX0_thingOf_4 8 rfl rfl)
theorem dX0_thingOf_141 : decode cX0_thingOf 141 = .ok (.iconst 5, 1) := dk_8 (dk_at dksX0_thingOf_4 9 rfl rfl)
theorem dX0_thingOf_142 : decode cX0_thingOf 142 = .ok (.bipush 8, 2) := dk_16 8 (dk_at dksX0_thingOf_4 10 rfl rfl)
theorem dX0_thingOf_144 : decode cX0_thingOf 144 = .ok (.invokestatic 114, 3) := dk_184 0 114 (dk_at dksX0_thingOf_4 12 rfl rfl)
theorem dX0_thingOf_147 : decode cX0_thingOf 147 = .ok (.ifCond .eq 14, 3) := dk_153 0 14 (dk_at dksX0_thingOf_4 15 rfl rfl)
theorem dX0_thingOf_150 : decode cX0_thingOf 150 = .ok (.aload_n 3, 1) := dk_45 (dk_at dksX0_thingOf_4 18 rfl rfl)
theorem dX0_thingOf_151 : decode cX0_thingOf 151 = .ok (.getfield 180, 3) := dk_180 0 180 (dk_at dksX0_thingOf_4 19 rfl rfl)
theorem dX0_thingOf_154 : decode cX0_thingOf 154 = .ok (.iload_n 2, 1) := dk_28 (dk_at dksX0_thingOf_4 22 rfl rfl)
theorem dX0_thingOf_155 : decode cX0_thingOf 155 = .ok (.iconst 5, 1) := dk_8 (dk_at dksX0_thingOf_4 23 rfl rfl)
theorem dX0_thingOf_156 : decode cX0_thingOf 156 = .ok (.isub, 1) := dk_100 (dk_at dksX0_thingOf_5 0 rfl rfl)
theorem dX0_thingOf_157 : decode cX0_thingOf 157 = .ok (.iaload, 1) := dk_46 (dk_at dksX0_thingOf_5 1 rfl rfl)
theorem dX0_thingOf_158 : decode cX0_thingOf 158 = .ok (.goto 4, 3) := dk_167 0 4 (dk_at dksX0_thingOf_5 2 rfl rfl)
theorem dX0_thingOf_161 : decode cX0_thingOf 161 = .ok (.iconst (-1), 1) := dk_2 (dk_at dksX0_thingOf_5 5 rfl rfl)
theorem dX0_thingOf_162 : decode cX0_thingOf 162 = .ok (.ireturn, 1) := dk_172 (dk_at dksX0_thingOf_5 6 rfl rfl)
abbrev cX0_isThing : ByteArray := prog_1_method_6_code
def yX0_isThing : MethodName := ⟨RX0, "isThing", "(I)Z"⟩
def dkwX0_isThing_0 : List UInt8 := [27, 3, 42, 180, 0, 45, 180, 0, 110, 4, 100, 184, 0, 114, 172]
abbrev dktX0_isThing_0 : List UInt8 := dkwX0_isThing_0 ++ []
theorem dksX0_isThing_0 : cX0_isThing.data.toList.drop 0 = dktX0_isThing_0 := by decide +kernel
theorem dX0_isThing_0 : decode cX0_isThing 0 = .ok (.iload_n 1, 1) := dk_27 (dk_at dksX0_isThing_0 0 rfl rfl)
theorem dX0_isThing_1 : decode cX0_isThing 1 = .ok (.iconst 0, 1) := dk_3 (dk_at dksX0_isThing_0 1 rfl rfl)
theorem dX0_isThing_2 : decode cX0_isThing 2 = .ok (.aload_n 0, 1) := dk_42 (dk_at dksX0_isThing_0 2 rfl rfl)
theorem dX0_isThing_3 : decode cX0_isThing 3 = .ok (.getfield 45, 3) := dk_180 0 45 (dk_at dksX0_isThing_0 3 rfl rfl)
theorem dX0_isThing_6 : decode cX0_isThing 6 = .ok (.getfield 110, 3) := dk_180 0 110 (dk_at dksX0_isThing_0 6 rfl rfl)
theorem dX0_isThing_9 : decode cX0_isThing 9 = .ok (.iconst 1, 1) := dk_4 (dk_at dksX0_isThing_0 9 rfl rfl)
theorem dX0_isThing_10 : decode cX0_isThing 10 = .ok (.isub, 1) := dk_100 (dk_at dksX0_isThing_0 10 rfl rfl)
theorem dX0_isThing_11 : decode cX0_isThing 11 = .ok (.invokestatic 114, 3) := dk_184 0 114 (dk_at dksX0_isThing_0 11 rfl rfl)
theorem dX0_isThing_14 : decode cX0_isThing 14 = .ok (.ireturn, 1) := dk_172 (dk_at dksX0_isThing_0 14 rfl rfl)
abbrev cX0_lives : ByteArray := prog_1_method_13_code
def yX0_lives : MethodName := ⟨RX0, "lives", "(III)I"⟩
def dkwX0_lives_2 : List UInt8 := [54, 4, 42, 180, 0, 45, 180, 0, 150, 27, 50, 180, 0, 180, 28, 8, 100, 29, 79, 21, 4, 172]
abbrev dktX0_lives_2 : List UInt8 := dkwX0_lives_2 ++ []
def dkwX0_lives_1 : List UInt8 := [184, 0, 114, 154, 0, 5, 2, 172, 42, 180, 0, 45, 180, 0, 150, 27, 50, 180, 0, 180, 28, 8, 100, 46]
abbrev dktX0_lives_1 : List UInt8 := dkwX0_lives_1 ++ dktX0_lives_2
def dkwX0_lives_0 : List UInt8 := [42, 27, 182, 0, 147, 153, 0, 24, 28, 8, 16, 8, 184, 0, 114, 153, 0, 14, 29, 3, 17, 3, 231]
abbrev dktX0_lives_0 : List UInt8 := dkwX0_lives_0 ++ dktX0_lives_1
theorem dksX0_lives_0 : cX0_lives.data.toList.drop 0 = dktX0_lives_0 := by decide +kernel
theorem dksX0_lives_1 : cX0_lives.data.toList.drop 23 = dktX0_lives_1 := dk_seg dksX0_lives_0 23 rfl rfl
theorem dksX0_lives_2 : cX0_lives.data.toList.drop 47 = dktX0_lives_2 := dk_seg dksX0_lives_1 24 rfl rfl
theorem dX0_lives_0 : decode cX0_lives 0 = .ok (.aload_n 0, 1) := dk_42 (dk_at dksX0_lives_0 0 rfl rfl)
theorem dX0_lives_1 : decode cX0_lives 1 = .ok (.iload_n 1, 1) := dk_27 (dk_at dksX0_lives_0 1 rfl rfl)
theorem dX0_lives_2 : decode cX0_lives 2 = .ok (.invokevirtual 147, 3) := dk_182 0 147 (dk_at dksX0_lives_0 2 rfl rfl)
theorem dX0_lives_5 : decode cX0_lives 5 = .ok (.ifCond .eq 24, 3) := dk_153 0 24 (dk_at dksX0_lives_0 5 rfl rfl)
theorem dX0_lives_8 : decode cX0_lives 8 = .ok (.iload_n 2, 1) := dk_28 (dk_at dksX0_lives_0 8 rfl rfl)
theorem dX0_lives_9 : decode cX0_lives 9 = .ok (.iconst 5, 1) := dk_8 (dk_at dksX0_lives_0 9 rfl rfl)
theorem dX0_lives_10 : decode cX0_lives 10 = .ok (.bipush 8, 2) := dk_16 8 (dk_at dksX0_lives_0 10 rfl rfl)
theorem dX0_lives_12 : decode cX0_lives 12 = .ok (.invokestatic 114, 3) := dk_184 0 114 (dk_at dksX0_lives_0 12 rfl rfl)
theorem dX0_lives_15 : decode cX0_lives 15 = .ok (.ifCond .eq 14, 3) := dk_153 0 14 (dk_at dksX0_lives_0 15 rfl rfl)
theorem dX0_lives_18 : decode cX0_lives 18 = .ok (.iload_n 3, 1) := dk_29 (dk_at dksX0_lives_0 18 rfl rfl)
theorem dX0_lives_19 : decode cX0_lives 19 = .ok (.iconst 0, 1) := dk_3 (dk_at dksX0_lives_0 19 rfl rfl)
theorem dX0_lives_20 : decode cX0_lives 20 = .ok (.sipush 999, 3) := dk_17 3 231 (dk_at dksX0_lives_0 20 rfl rfl)
theorem dX0_lives_23 : decode cX0_lives 23 = .ok (.invokestatic 114, 3) := dk_184 0 114 (dk_at dksX0_lives_1 0 rfl rfl)
theorem dX0_lives_26 : decode cX0_lives 26 = .ok (.ifCond .ne 5, 3) := dk_154 0 5 (dk_at dksX0_lives_1 3 rfl rfl)
theorem dX0_lives_29 : decode cX0_lives 29 = .ok (.iconst (-1), 1) := dk_2 (dk_at dksX0_lives_1 6 rfl rfl)
theorem dX0_lives_30 : decode cX0_lives 30 = .ok (.ireturn, 1) := dk_172 (dk_at dksX0_lives_1 7 rfl rfl)
theorem dX0_lives_31 : decode cX0_lives 31 = .ok (.aload_n 0, 1) := dk_42 (dk_at dksX0_lives_1 8 rfl rfl)
theorem dX0_lives_32 : decode cX0_lives 32 = .ok (.getfield 45, 3) := dk_180 0 45 (dk_at dksX0_lives_1 9 rfl rfl)
theorem dX0_lives_35 : decode cX0_lives 35 = .ok (.getfield 150, 3) := dk_180 0 150 (dk_at dksX0_lives_1 12 rfl rfl)
theorem dX0_lives_38 : decode cX0_lives 38 = .ok (.iload_n 1, 1) := dk_27 (dk_at dksX0_lives_1 15 rfl rfl)
theorem dX0_lives_39 : decode cX0_lives 39 = .ok (.aaload, 1) := dk_50 (dk_at dksX0_lives_1 16 rfl rfl)
theorem dX0_lives_40 : decode cX0_lives 40 = .ok (.getfield 180, 3) := dk_180 0 180 (dk_at dksX0_lives_1 17 rfl rfl)
theorem dX0_lives_43 : decode cX0_lives 43 = .ok (.iload_n 2, 1) := dk_28 (dk_at dksX0_lives_1 20 rfl rfl)
theorem dX0_lives_44 : decode cX0_lives 44 = .ok (.iconst 5, 1) := dk_8 (dk_at dksX0_lives_1 21 rfl rfl)
theorem dX0_lives_45 : decode cX0_lives 45 = .ok (.isub, 1) := dk_100 (dk_at dksX0_lives_1 22 rfl rfl)
theorem dX0_lives_46 : decode cX0_lives 46 = .ok (.iaload, 1) := dk_46 (dk_at dksX0_lives_1 23 rfl rfl)
theorem dX0_lives_47 : decode cX0_lives 47 = .ok (.istore 4, 2) := dk_54 4 (dk_at dksX0_lives_2 0 rfl rfl)
theorem dX0_lives_49 : decode cX0_lives 49 = .ok (.aload_n 0, 1) := dk_42 (dk_at dksX0_lives_2 2 rfl rfl)
theorem dX0_lives_50 : decode cX0_lives 50 = .ok (.getfield 45, 3) := dk_180 0 45 (dk_at dksX0_lives_2 3 rfl rfl)
theorem dX0_lives_53 : decode cX0_lives 53 = .ok (.getfield 150, 3) := dk_180 0 150 (dk_at dksX0_lives_2 6 rfl rfl)
theorem dX0_lives_56 : decode cX0_lives 56 = .ok (.iload_n 1, 1) := dk_27 (dk_at dksX0_lives_2 9 rfl rfl)
theorem dX0_lives_57 : decode cX0_lives 57 = .ok (.aaload, 1) := dk_50 (dk_at dksX0_lives_2 10 rfl rfl)
theorem dX0_lives_58 : decode cX0_lives 58 = .ok (.getfield 180, 3) := dk_180 0 180 (dk_at dksX0_lives_2 11 rfl rfl)
theorem dX0_lives_61 : decode cX0_lives 61 = .ok (.iload_n 2, 1) := dk_28 (dk_at dksX0_lives_2 14 rfl rfl)
theorem dX0_lives_62 : decode cX0_lives 62 = .ok (.iconst 5, 1) := dk_8 (dk_at dksX0_lives_2 15 rfl rfl)
theorem dX0_lives_63 : decode cX0_lives 63 = .ok (.isub, 1) := dk_100 (dk_at dksX0_lives_2 16 rfl rfl)
theorem dX0_lives_64 : decode cX0_lives 64 = .ok (.iload_n 3, 1) := dk_29 (dk_at dksX0_lives_2 17 rfl rfl)
theorem dX0_lives_65 : decode cX0_lives 65 = .ok (.iastore, 1) := dk_79 (dk_at dksX0_lives_2 18 rfl rfl)
theorem dX0_lives_66 : decode cX0_lives 66 = .ok (.iload 4, 2) := dk_21 4 (dk_at dksX0_lives_2 19 rfl rfl)
theorem dX0_lives_68 : decode cX0_lives 68 = .ok (.ireturn, 1) := dk_172 (dk_at dksX0_lives_2 21 rfl rfl)
abbrev cX0_bag : ByteArray := prog_1_method_14_code
def yX0_bag : MethodName := ⟨RX0, "bag", "(IZ)I"⟩
def dkwX0_bag_1 : List UInt8 := [180, 0, 45, 180, 0, 150, 27, 50, 28, 181, 0, 166, 29, 28, 160, 0, 7, 3, 167, 0, 4, 4, 172]
abbrev dktX0_bag_1 : List UInt8 := dkwX0_bag_1 ++ []
def dkwX0_bag_0 : List UInt8 := [42, 27, 182, 0, 147, 154, 0, 5, 2, 172, 42, 180, 0, 45, 180, 0, 150, 27, 50, 180, 0, 166, 62, 42]
abbrev dktX0_bag_0 : List UInt8 := dkwX0_bag_0 ++ dktX0_bag_1
theorem dksX0_bag_0 : cX0_bag.data.toList.drop 0 = dktX0_bag_0 := by decide +kernel
theorem dksX0_bag_1 : cX0_bag.data.toList.drop 24 = dktX0_bag_1 := dk_seg dksX0_bag_0 24 rfl rfl
theorem dX0_bag_0 : decode cX0_bag 0 = .ok (.aload_n 0, 1) := dk_42 (dk_at dksX0_bag_0 0 rfl rfl)
theorem dX0_bag_1 : decode cX0_bag 1 = .ok (.iload_n 1, 1) := dk_27 (dk_at dksX0_bag_0 1 rfl rfl)
theorem dX0_bag_2 : decode cX0_bag 2 = .ok (.invokevirtual 147, 3) := dk_182 0 147 (dk_at dksX0_bag_0 2 rfl rfl)
theorem dX0_bag_5 : decode cX0_bag 5 = .ok (.ifCond .ne 5, 3) := dk_154 0 5 (dk_at dksX0_bag_0 5 rfl rfl)
theorem dX0_bag_8 : decode cX0_bag 8 = .ok (.iconst (-1), 1) := dk_2 (dk_at dksX0_bag_0 8 rfl rfl)
theorem dX0_bag_9 : decode cX0_bag 9 = .ok (.ireturn, 1) := dk_172 (dk_at dksX0_bag_0 9 rfl rfl)
theorem dX0_bag_10 : decode cX0_bag 10 = .ok (.aload_n 0, 1) := dk_42 (dk_at dksX0_bag_0 10 rfl rfl)
theorem dX0_bag_11 : decode cX0_bag 11 = .ok (.getfield 45, 3) := dk_180 0 45 (dk_at dksX0_bag_0 11 rfl rfl)
theorem dX0_bag_14 : decode cX0_bag 14 = .ok (.getfield 150, 3) := dk_180 0 150 (dk_at dksX0_bag_0 14 rfl rfl)
theorem dX0_bag_17 : decode cX0_bag 17 = .ok (.iload_n 1, 1) := dk_27 (dk_at dksX0_bag_0 17 rfl rfl)
theorem dX0_bag_18 : decode cX0_bag 18 = .ok (.aaload, 1) := dk_50 (dk_at dksX0_bag_0 18 rfl rfl)
theorem dX0_bag_19 : decode cX0_bag 19 = .ok (.getfield 166, 3) := dk_180 0 166 (dk_at dksX0_bag_0 19 rfl rfl)
theorem dX0_bag_22 : decode cX0_bag 22 = .ok (.istore_n 3, 1) := dk_62 (dk_at dksX0_bag_0 22 rfl rfl)
theorem dX0_bag_23 : decode cX0_bag 23 = .ok (.aload_n 0, 1) := dk_42 (dk_at dksX0_bag_0 23 rfl rfl)
theorem dX0_bag_24 : decode cX0_bag 24 = .ok (.getfield 45, 3) := dk_180 0 45 (dk_at dksX0_bag_1 0 rfl rfl)
theorem dX0_bag_27 : decode cX0_bag 27 = .ok (.getfield 150, 3) := dk_180 0 150 (dk_at dksX0_bag_1 3 rfl rfl)
theorem dX0_bag_30 : decode cX0_bag 30 = .ok (.iload_n 1, 1) := dk_27 (dk_at dksX0_bag_1 6 rfl rfl)
theorem dX0_bag_31 : decode cX0_bag 31 = .ok (.aaload, 1) := dk_50 (dk_at dksX0_bag_1 7 rfl rfl)
theorem dX0_bag_32 : decode cX0_bag 32 = .ok (.iload_n 2, 1) := dk_28 (dk_at dksX0_bag_1 8 rfl rfl)
theorem dX0_bag_33 : decode cX0_bag 33 = .ok (.putfield 166, 3) := dk_181 0 166 (dk_at dksX0_bag_1 9 rfl rfl)
theorem dX0_bag_36 : decode cX0_bag 36 = .ok (.iload_n 3, 1) := dk_29 (dk_at dksX0_bag_1 12 rfl rfl)
theorem dX0_bag_37 : decode cX0_bag 37 = .ok (.iload_n 2, 1) := dk_28 (dk_at dksX0_bag_1 13 rfl rfl)
theorem dX0_bag_38 : decode cX0_bag 38 = .ok (.if_icmp .ne 7, 3) := dk_160 0 7 (dk_at dksX0_bag_1 14 rfl rfl)
theorem dX0_bag_41 : decode cX0_bag 41 = .ok (.iconst 0, 1) := dk_3 (dk_at dksX0_bag_1 17 rfl rfl)
theorem dX0_bag_42 : decode cX0_bag 42 = .ok (.goto 4, 3) := dk_167 0 4 (dk_at dksX0_bag_1 18 rfl rfl)
theorem dX0_bag_45 : decode cX0_bag 45 = .ok (.iconst 1, 1) := dk_4 (dk_at dksX0_bag_1 21 rfl rfl)
theorem dX0_bag_46 : decode cX0_bag 46 = .ok (.ireturn, 1) := dk_172 (dk_at dksX0_bag_1 22 rfl rfl)
abbrev cX0_move : ByteArray := prog_1_method_15_code
def yX0_move : MethodName := ⟨RX0, "move", "(II)I"⟩
def dkwX0_move_1 : List UInt8 := [27, 50, 180, 0, 159, 62, 42, 180, 0, 45, 180, 0, 150, 27, 50, 28, 181, 0, 159, 29, 172]
abbrev dktX0_move_1 : List UInt8 := dkwX0_move_1 ++ []
def dkwX0_move_0 : List UInt8 := [42, 27, 182, 0, 147, 153, 0, 10, 28, 184, 0, 139, 154, 0, 5, 2, 172, 42, 180, 0, 45, 180, 0, 150]
abbrev dktX0_move_0 : List UInt8 := dkwX0_move_0 ++ dktX0_move_1
theorem dksX0_move_0 : cX0_move.data.toList.drop 0 = dktX0_move_0 := by decide +kernel
theorem dksX0_move_1 : cX0_move.data.toList.drop 24 = dktX0_move_1 := dk_seg dksX0_move_0 24 rfl rfl
theorem dX0_move_0 : decode cX0_move 0 = .ok (.aload_n 0, 1) := dk_42 (dk_at dksX0_move_0 0 rfl rfl)
theorem dX0_move_1 : decode cX0_move 1 = .ok (.iload_n 1, 1) := dk_27 (dk_at dksX0_move_0 1 rfl rfl)
theorem dX0_move_2 : decode cX0_move 2 = .ok (.invokevirtual 147, 3) := dk_182 0 147 (dk_at dksX0_move_0 2 rfl rfl)
theorem dX0_move_5 : decode cX0_move 5 = .ok (.ifCond .eq 10, 3) := dk_153 0 10 (dk_at dksX0_move_0 5 rfl rfl)
theorem dX0_move_8 : decode cX0_move 8 = .ok (.iload_n 2, 1) := dk_28 (dk_at dksX0_move_0 8 rfl rfl)
theorem dX0_move_9 : decode cX0_move 9 = .ok (.invokestatic 139, 3) := dk_184 0 139 (dk_at dksX0_move_0 9 rfl rfl)
theorem dX0_move_12 : decode cX0_move 12 = .ok (.ifCond .ne 5, 3) := dk_154 0 5 (dk_at dksX0_move_0 12 rfl rfl)
theorem dX0_move_15 : decode cX0_move 15 = .ok (.iconst (-1), 1) := dk_2 (dk_at dksX0_move_0 15 rfl rfl)
theorem dX0_move_16 : decode cX0_move 16 = .ok (.ireturn, 1) := dk_172 (dk_at dksX0_move_0 16 rfl rfl)
theorem dX0_move_17 : decode cX0_move 17 = .ok (.aload_n 0, 1) := dk_42 (dk_at dksX0_move_0 17 rfl rfl)
theorem dX0_move_18 : decode cX0_move 18 = .ok (.getfield 45, 3) := dk_180 0 45 (dk_at dksX0_move_0 18 rfl rfl)
theorem dX0_move_21 : decode cX0_move 21 = .ok (.getfield 150, 3) := dk_180 0 150 (dk_at dksX0_move_0 21 rfl rfl)
theorem dX0_move_24 : decode cX0_move 24 = .ok (.iload_n 1, 1) := dk_27 (dk_at dksX0_move_1 0 rfl rfl)
theorem dX0_move_25 : decode cX0_move 25 = .ok (.aaload, 1) := dk_50 (dk_at dksX0_move_1 1 rfl rfl)
theorem dX0_move_26 : decode cX0_move 26 = .ok (.getfield 159, 3) := dk_180 0 159 (dk_at dksX0_move_1 2 rfl rfl)
theorem dX0_move_29 : decode cX0_move 29 = .ok (.istore_n 3, 1) := dk_62 (dk_at dksX0_move_1 5 rfl rfl)
theorem dX0_move_30 : decode cX0_move 30 = .ok (.aload_n 0, 1) := dk_42 (dk_at dksX0_move_1 6 rfl rfl)
theorem dX0_move_31 : decode cX0_move 31 = .ok (.getfield 45, 3) := dk_180 0 45 (dk_at dksX0_move_1 7 rfl rfl)
theorem dX0_move_34 : decode cX0_move 34 = .ok (.getfield 150, 3) := dk_180 0 150 (dk_at dksX0_move_1 10 rfl rfl)
theorem dX0_move_37 : decode cX0_move 37 = .ok (.iload_n 1, 1) := dk_27 (dk_at dksX0_move_1 13 rfl rfl)
theorem dX0_move_38 : decode cX0_move 38 = .ok (.aaload, 1) := dk_50 (dk_at dksX0_move_1 14 rfl rfl)
theorem dX0_move_39 : decode cX0_move 39 = .ok (.iload_n 2, 1) := dk_28 (dk_at dksX0_move_1 15 rfl rfl)
theorem dX0_move_40 : decode cX0_move 40 = .ok (.putfield 159, 3) := dk_181 0 159 (dk_at dksX0_move_1 16 rfl rfl)
theorem dX0_move_43 : decode cX0_move 43 = .ok (.iload_n 3, 1) := dk_29 (dk_at dksX0_move_1 19 rfl rfl)
theorem dX0_move_44 : decode cX0_move 44 = .ok (.ireturn, 1) := dk_172 (dk_at dksX0_move_1 20 rfl rfl)
abbrev cX0_fliers : ByteArray := prog_1_method_16_code
def yX0_fliers : MethodName := ⟨RX0, "fliers", "(II)I"⟩
def dkwX0_fliers_1 : List UInt8 := [180, 0, 183, 27, 46, 62, 42, 180, 0, 45, 180, 0, 183, 27, 28, 79, 29, 172]
abbrev dktX0_fliers_1 : List UInt8 := dkwX0_fliers_1 ++ []
def dkwX0_fliers_0 : List UInt8 := [27, 184, 0, 139, 153, 0, 14, 28, 3, 17, 3, 231, 184, 0, 114, 154, 0, 5, 2, 172, 42, 180, 0, 45]
abbrev dktX0_fliers_0 : List UInt8 := dkwX0_fliers_0 ++ dktX0_fliers_1
theorem dksX0_fliers_0 : cX0_fliers.data.toList.drop 0 = dktX0_fliers_0 := by decide +kernel
theorem dksX0_fliers_1 : cX0_fliers.data.toList.drop 24 = dktX0_fliers_1 := dk_seg dksX0_fliers_0 24 rfl rfl
theorem dX0_fliers_0 : decode cX0_fliers 0 = .ok (.iload_n 1, 1) := dk_27 (dk_at dksX0_fliers_0 0 rfl rfl)
theorem dX0_fliers_1 : decode cX0_fliers 1 = .ok (.invokestatic 139, 3) := dk_184 0 139 (dk_at dksX0_fliers_0 1 rfl rfl)
theorem dX0_fliers_4 : decode cX0_fliers 4 = .ok (.ifCond .eq 14, 3) := dk_153 0 14 (dk_at dksX0_fliers_0 4 rfl rfl)
theorem dX0_fliers_7 : decode cX0_fliers 7 = .ok (.iload_n 2, 1) := dk_28 (dk_at dksX0_fliers_0 7 rfl rfl)
theorem dX0_fliers_8 : decode cX0_fliers 8 = .ok (.iconst 0, 1) := dk_3 (dk_at dksX0_fliers_0 8 rfl rfl)
theorem dX0_fliers_9 : decode cX0_fliers 9 = .ok (.sipush 999, 3) := dk_17 3 231 (dk_at dksX0_fliers_0 9 rfl rfl)
theorem dX0_fliers_12 : decode cX0_fliers 12 = .ok (.invokestatic 114, 3) := dk_184 0 114 (dk_at dksX0_fliers_0 12 rfl rfl)
theorem dX0_fliers_15 : decode cX0_fliers 15 = .ok (.ifCond .ne 5, 3) := dk_154 0 5 (dk_at dksX0_fliers_0 15 rfl rfl)
theorem dX0_fliers_18 : decode cX0_fliers 18 = .ok (.iconst (-1), 1) := dk_2 (dk_at dksX0_fliers_0 18 rfl rfl)
theorem dX0_fliers_19 : decode cX0_fliers 19 = .ok (.ireturn, 1) := dk_172 (dk_at dksX0_fliers_0 19 rfl rfl)
theorem dX0_fliers_20 : decode cX0_fliers 20 = .ok (.aload_n 0, 1) := dk_42 (dk_at dksX0_fliers_0 20 rfl rfl)
theorem dX0_fliers_21 : decode cX0_fliers 21 = .ok (.getfield 45, 3) := dk_180 0 45 (dk_at dksX0_fliers_0 21 rfl rfl)
theorem dX0_fliers_24 : decode cX0_fliers 24 = .ok (.getfield 183, 3) := dk_180 0 183 (dk_at dksX0_fliers_1 0 rfl rfl)
theorem dX0_fliers_27 : decode cX0_fliers 27 = .ok (.iload_n 1, 1) := dk_27 (dk_at dksX0_fliers_1 3 rfl rfl)
theorem dX0_fliers_28 : decode cX0_fliers 28 = .ok (.iaload, 1) := dk_46 (dk_at dksX0_fliers_1 4 rfl rfl)
theorem dX0_fliers_29 : decode cX0_fliers 29 = .ok (.istore_n 3, 1) := dk_62 (dk_at dksX0_fliers_1 5 rfl rfl)
theorem dX0_fliers_30 : decode cX0_fliers 30 = .ok (.aload_n 0, 1) := dk_42 (dk_at dksX0_fliers_1 6 rfl rfl)
theorem dX0_fliers_31 : decode cX0_fliers 31 = .ok (.getfield 45, 3) := dk_180 0 45 (dk_at dksX0_fliers_1 7 rfl rfl)
theorem dX0_fliers_34 : decode cX0_fliers 34 = .ok (.getfield 183, 3) := dk_180 0 183 (dk_at dksX0_fliers_1 10 rfl rfl)
theorem dX0_fliers_37 : decode cX0_fliers 37 = .ok (.iload_n 1, 1) := dk_27 (dk_at dksX0_fliers_1 13 rfl rfl)
theorem dX0_fliers_38 : decode cX0_fliers 38 = .ok (.iload_n 2, 1) := dk_28 (dk_at dksX0_fliers_1 14 rfl rfl)
theorem dX0_fliers_39 : decode cX0_fliers 39 = .ok (.iastore, 1) := dk_79 (dk_at dksX0_fliers_1 15 rfl rfl)
theorem dX0_fliers_40 : decode cX0_fliers 40 = .ok (.iload_n 3, 1) := dk_29 (dk_at dksX0_fliers_1 16 rfl rfl)
theorem dX0_fliers_41 : decode cX0_fliers 41 = .ok (.ireturn, 1) := dk_172 (dk_at dksX0_fliers_1 17 rfl rfl)
abbrev cX0_card : ByteArray := prog_1_method_17_code
def yX0_card : MethodName := ⟨RX0, "card", "(IZ)I"⟩
def dkwX0_card_3 : List UInt8 := [4, 172]
abbrev dktX0_card_3 : List UInt8 := dkwX0_card_3 ++ []
def dkwX0_card_2 : List UInt8 := [180, 0, 45, 180, 0, 186, 4, 27, 120, 2, 130, 126, 181, 0, 186, 29, 28, 160, 0, 7, 3, 167, 0, 4]
abbrev dktX0_card_2 : List UInt8 := dkwX0_card_2 ++ dktX0_card_3
def dkwX0_card_1 : List UInt8 := [180, 0, 45, 28, 153, 0, 17, 42, 180, 0, 45, 180, 0, 186, 4, 27, 120, 128, 167, 0, 16, 42]
abbrev dktX0_card_1 : List UInt8 := dkwX0_card_1 ++ dktX0_card_2
def dkwX0_card_0 : List UInt8 := [27, 184, 0, 139, 154, 0, 5, 2, 172, 42, 180, 0, 45, 180, 0, 186, 27, 184, 0, 189, 62, 42]
abbrev dktX0_card_0 : List UInt8 := dkwX0_card_0 ++ dktX0_card_1
theorem dksX0_card_0 : cX0_card.data.toList.drop 0 = dktX0_card_0 := by decide +kernel
theorem dksX0_card_1 : cX0_card.data.toList.drop 22 = dktX0_card_1 := dk_seg dksX0_card_0 22 rfl rfl
theorem dksX0_card_2 : cX0_card.data.toList.drop 44 = dktX0_card_2 := dk_seg dksX0_card_1 22 rfl rfl
theorem dksX0_card_3 : cX0_card.data.toList.drop 68 = dktX0_card_3 := dk_seg dksX0_card_2 24 rfl rfl
theorem dX0_card_0 : decode cX0_card 0 = .ok (.iload_n 1, 1) := dk_27 (dk_at dksX0_card_0 0 rfl rfl)
theorem dX0_card_1 : decode cX0_card 1 = .ok (.invokestatic 139, 3) := dk_184 0 139 (dk_at dksX0_card_0 1 rfl rfl)
theorem dX0_card_4 : decode cX0_card 4 = .ok (.ifCond .ne 5, 3) := dk_154 0 5 (dk_at dksX0_card_0 4 rfl rfl)
theorem dX0_card_7 : decode cX0_card 7 = .ok (.iconst (-1), 1) := dk_2 (dk_at dksX0_card_0 7 rfl rfl)
theorem dX0_card_8 : decode cX0_card 8 = .ok (.ireturn, 1) := dk_172 (dk_at dksX0_card_0 8 rfl rfl)
theorem dX0_card_9 : decode cX0_card 9 = .ok (.aload_n 0, 1) := dk_42 (dk_at dksX0_card_0 9 rfl rfl)
theorem dX0_card_10 : decode cX0_card 10 = .ok (.getfield 45, 3) := dk_180 0 45 (dk_at dksX0_card_0 10 rfl rfl)
theorem dX0_card_13 : decode cX0_card 13 = .ok (.getfield 186, 3) := dk_180 0 186 (dk_at dksX0_card_0 13 rfl rfl)
theorem dX0_card_16 : decode cX0_card 16 = .ok (.iload_n 1, 1) := dk_27 (dk_at dksX0_card_0 16 rfl rfl)
theorem dX0_card_17 : decode cX0_card 17 = .ok (.invokestatic 189, 3) := dk_184 0 189 (dk_at dksX0_card_0 17 rfl rfl)
theorem dX0_card_20 : decode cX0_card 20 = .ok (.istore_n 3, 1) := dk_62 (dk_at dksX0_card_0 20 rfl rfl)
theorem dX0_card_21 : decode cX0_card 21 = .ok (.aload_n 0, 1) := dk_42 (dk_at dksX0_card_0 21 rfl rfl)
theorem dX0_card_22 : decode cX0_card 22 = .ok (.getfield 45, 3) := dk_180 0 45 (dk_at dksX0_card_1 0 rfl rfl)
theorem dX0_card_25 : decode cX0_card 25 = .ok (.iload_n 2, 1) := dk_28 (dk_at dksX0_card_1 3 rfl rfl)
theorem dX0_card_26 : decode cX0_card 26 = .ok (.ifCond .eq 17, 3) := dk_153 0 17 (dk_at dksX0_card_1 4 rfl rfl)
theorem dX0_card_29 : decode cX0_card 29 = .ok (.aload_n 0, 1) := dk_42 (dk_at dksX0_card_1 7 rfl rfl)
theorem dX0_card_30 : decode cX0_card 30 = .ok (.getfield 45, 3) := dk_180 0 45 (dk_at dksX0_card_1 8 rfl rfl)
theorem dX0_card_33 : decode cX0_card 33 = .ok (.getfield 186, 3) := dk_180 0 186 (dk_at dksX0_card_1 11 rfl rfl)
theorem dX0_card_36 : decode cX0_card 36 = .ok (.iconst 1, 1) := dk_4 (dk_at dksX0_card_1 14 rfl rfl)
theorem dX0_card_37 : decode cX0_card 37 = .ok (.iload_n 1, 1) := dk_27 (dk_at dksX0_card_1 15 rfl rfl)
theorem dX0_card_38 : decode cX0_card 38 = .ok (.ishl, 1) := dk_120 (dk_at dksX0_card_1 16 rfl rfl)
theorem dX0_card_39 : decode cX0_card 39 = .ok (.ior, 1) := dk_128 (dk_at dksX0_card_1 17 rfl rfl)
theorem dX0_card_40 : decode cX0_card 40 = .ok (.goto 16, 3) := dk_167 0 16 (dk_at dksX0_card_1 18 rfl rfl)
theorem dX0_card_43 : decode cX0_card 43 = .ok (.aload_n 0, 1) := dk_42 (dk_at dksX0_card_1 21 rfl rfl)
theorem dX0_card_44 : decode cX0_card 44 = .ok (.getfield 45, 3) := dk_180 0 45 (dk_at dksX0_card_2 0 rfl rfl)
theorem dX0_card_47 : decode cX0_card 47 = .ok (.getfield 186, 3) := dk_180 0 186 (dk_at dksX0_card_2 3 rfl rfl)
theorem dX0_card_50 : decode cX0_card 50 = .ok (.iconst 1, 1) := dk_4 (dk_at dksX0_card_2 6 rfl rfl)
theorem dX0_card_51 : decode cX0_card 51 = .ok (.iload_n 1, 1) := dk_27 (dk_at dksX0_card_2 7 rfl rfl)
theorem dX0_card_52 : decode cX0_card 52 = .ok (.ishl, 1) := dk_120 (dk_at dksX0_card_2 8 rfl rfl)
theorem dX0_card_53 : decode cX0_card 53 = .ok (.iconst (-1), 1) := dk_2 (dk_at dksX0_card_2 9 rfl rfl)
theorem dX0_card_54 : decode cX0_card 54 = .ok (.ixor, 1) := dk_130 (dk_at dksX0_card_2 10 rfl rfl)
theorem dX0_card_55 : decode cX0_card 55 = .ok (.iand, 1) := dk_126 (dk_at dksX0_card_2 11 rfl rfl)
theorem dX0_card_56 : decode cX0_card 56 = .ok (.putfield 186, 3) := dk_181 0 186 (dk_at dksX0_card_2 12 rfl rfl)
theorem dX0_card_59 : decode cX0_card 59 = .ok (.iload_n 3, 1) := dk_29 (dk_at dksX0_card_2 15 rfl rfl)
theorem dX0_card_60 : decode cX0_card 60 = .ok (.iload_n 2, 1) := dk_28 (dk_at dksX0_card_2 16 rfl rfl)
theorem dX0_card_61 : decode cX0_card 61 = .ok (.if_icmp .ne 7, 3) := dk_160 0 7 (dk_at dksX0_card_2 17 rfl rfl)
theorem dX0_card_64 : decode cX0_card 64 = .ok (.iconst 0, 1) := dk_3 (dk_at dksX0_card_2 20 rfl rfl)
theorem dX0_card_65 : decode cX0_card 65 = .ok (.goto 4, 3) := dk_167 0 4 (dk_at dksX0_card_2 21 rfl rfl)
theorem dX0_card_68 : decode cX0_card 68 = .ok (.iconst 1, 1) := dk_4 (dk_at dksX0_card_3 0 rfl rfl)
theorem dX0_card_69 : decode cX0_card 69 = .ok (.ireturn, 1) := dk_172 (dk_at dksX0_card_3 1 rfl rfl)
abbrev cX0_has : ByteArray := prog_1_method_2_code
def yX0_has : MethodName := ⟨RX0, "has", "(II)Z"⟩
def dkwX0_has_0 : List UInt8 := [26, 27, 122, 4, 126, 4, 160, 0, 7, 4, 167, 0, 4, 3, 172]
abbrev dktX0_has_0 : List UInt8 := dkwX0_has_0 ++ []
theorem dksX0_has_0 : cX0_has.data.toList.drop 0 = dktX0_has_0 := by decide +kernel
theorem dX0_has_0 : decode cX0_has 0 = .ok (.iload_n 0, 1) := dk_26 (dk_at dksX0_has_0 0 rfl rfl)
theorem dX0_has_1 : decode cX0_has 1 = .ok (.iload_n 1, 1) := dk_27 (dk_at dksX0_has_0 1 rfl rfl)
theorem dX0_has_2 : decode cX0_has 2 = .ok (.ishr, 1) := dk_122 (dk_at dksX0_has_0 2 rfl rfl)
theorem dX0_has_3 : decode cX0_has 3 = .ok (.iconst 1, 1) := dk_4 (dk_at dksX0_has_0 3 rfl rfl)
theorem dX0_has_4 : decode cX0_has 4 = .ok (.iand, 1) := dk_126 (dk_at dksX0_has_0 4 rfl rfl)
theorem dX0_has_5 : decode cX0_has 5 = .ok (.iconst 1, 1) := dk_4 (dk_at dksX0_has_0 5 rfl rfl)
theorem dX0_has_6 : decode cX0_has 6 = .ok (.if_icmp .ne 7, 3) := dk_160 0 7 (dk_at dksX0_has_0 6 rfl rfl)
theorem dX0_has_9 : decode cX0_has 9 = .ok (.iconst 1, 1) := dk_4 (dk_at dksX0_has_0 9 rfl rfl)
theorem dX0_has_10 : decode cX0_has 10 = .ok (.goto 4, 3) := dk_167 0 4 (dk_at dksX0_has_0 10 rfl rfl)
theorem dX0_has_13 : decode cX0_has 13 = .ok (.iconst 0, 1) := dk_3 (dk_at dksX0_has_0 13 rfl rfl)
theorem dX0_has_14 : decode cX0_has 14 = .ok (.ireturn, 1) := dk_172 (dk_at dksX0_has_0 14 rfl rfl)
abbrev cX0_placeOf : ByteArray := prog_1_method_19_code
def yX0_placeOf : MethodName := ⟨RX0, "placeOf", "(II)I"⟩
def dkwX0_placeOf_4 : List UInt8 := [180, 0, 45, 180, 0, 199, 27, 46, 172, 2, 172]
abbrev dktX0_placeOf_4 : List UInt8 := dkwX0_placeOf_4 ++ []
def dkwX0_placeOf_3 : List UInt8 := [4, 167, 0, 4, 3, 172, 42, 180, 0, 45, 180, 0, 193, 27, 46, 172, 42, 27, 182, 0, 196, 172, 42]
abbrev dktX0_placeOf_3 : List UInt8 := dkwX0_placeOf_3 ++ dktX0_placeOf_4
def dkwX0_placeOf_2 : List UInt8 := [42, 180, 0, 45, 180, 0, 183, 27, 46, 172, 42, 180, 0, 45, 180, 0, 186, 27, 184, 0, 189, 153, 0, 7]
abbrev dktX0_placeOf_2 : List UInt8 := dkwX0_placeOf_2 ++ dktX0_placeOf_3
def dkwX0_placeOf_1 : List UInt8 := [170, 0, 0, 0, 0, 90, 0, 0, 0, 0, 0, 0, 0, 4, 0, 0, 0, 34, 0, 0, 0, 44, 0, 0, 0, 64, 0, 0, 0, 74, 0, 0, 0, 80]
abbrev dktX0_placeOf_1 : List UInt8 := dkwX0_placeOf_1 ++ dktX0_placeOf_2
def dkwX0_placeOf_0 : List UInt8 := [27, 184, 0, 139, 154, 0, 5, 2, 172, 28]
abbrev dktX0_placeOf_0 : List UInt8 := dkwX0_placeOf_0 ++ dktX0_placeOf_1
theorem dksX0_placeOf_0 : cX0_placeOf.data.toList.drop 0 = dktX0_placeOf_0 := by decide +kernel
theorem dksX0_placeOf_1 : cX0_placeOf.data.toList.drop 10 = dktX0_placeOf_1 := dk_seg dksX0_placeOf_0 10 rfl rfl
theorem dksX0_placeOf_2 : cX0_placeOf.data.toList.drop 44 = dktX0_placeOf_2 := dk_seg dksX0_placeOf_1 34 rfl rfl
theorem dksX0_placeOf_3 : cX0_placeOf.data.toList.drop 68 = dktX0_placeOf_3 := dk_seg dksX0_placeOf_2 24 rfl rfl
theorem dksX0_placeOf_4 : cX0_placeOf.data.toList.drop 91 = dktX0_placeOf_4 := dk_seg dksX0_placeOf_3 23 rfl rfl
theorem dX0_placeOf_0 : decode cX0_placeOf 0 = .ok (.iload_n 1, 1) := dk_27 (dk_at dksX0_placeOf_0 0 rfl rfl)
theorem dX0_placeOf_1 : decode cX0_placeOf 1 = .ok (.invokestatic 139, 3) := dk_184 0 139 (dk_at dksX0_placeOf_0 1 rfl rfl)
theorem dX0_placeOf_4 : decode cX0_placeOf 4 = .ok (.ifCond .ne 5, 3) := dk_154 0 5 (dk_at dksX0_placeOf_0 4 rfl rfl)
theorem dX0_placeOf_7 : decode cX0_placeOf 7 = .ok (.iconst (-1), 1) := dk_2 (dk_at dksX0_placeOf_0 7 rfl rfl)
theorem dX0_placeOf_8 : decode cX0_placeOf 8 = .ok (.ireturn, 1) := dk_172 (dk_at dksX0_placeOf_0 8 rfl rfl)
theorem dX0_placeOf_9 : decode cX0_placeOf 9 = .ok (.iload_n 2, 1) := dk_28 (dk_at dksX0_placeOf_0 9 rfl rfl)
theorem dX0_placeOf_10 : decode cX0_placeOf 10 = .ok (.tableswitch 90 0 4 #[34, 44, 64, 74, 80], 34) := by decide +kernel
theorem dX0_placeOf_44 : decode cX0_placeOf 44 = .ok (.aload_n 0, 1) := dk_42 (dk_at dksX0_placeOf_2 0 rfl rfl)
theorem dX0_placeOf_45 : decode cX0_placeOf 45 = .ok (.getfield 45, 3) := dk_180 0 45 (dk_at dksX0_placeOf_2 1 rfl rfl)
theorem dX0_placeOf_48 : decode cX0_placeOf 48 = .ok (.getfield 183, 3) := dk_180 0 183 (dk_at dksX0_placeOf_2 4 rfl rfl)
theorem dX0_placeOf_51 : decode cX0_placeOf 51 = .ok (.iload_n 1, 1) := dk_27 (dk_at dksX0_placeOf_2 7 rfl rfl)
theorem dX0_placeOf_52 : decode cX0_placeOf 52 = .ok (.iaload, 1) := dk_46 (dk_at dksX0_placeOf_2 8 rfl rfl)
theorem dX0_placeOf_53 : decode cX0_placeOf 53 = .ok (.ireturn, 1) := dk_172 (dk_at dksX0_placeOf_2 9 rfl rfl)
theorem dX0_placeOf_54 : decode cX0_placeOf 54 = .ok (.aload_n 0, 1) := dk_42 (dk_at dksX0_placeOf_2 10 rfl rfl)
theorem dX0_placeOf_55 : decode cX0_placeOf 55 = .ok (.getfield 45, 3) := dk_180 0 45 (dk_at dksX0_placeOf_2 11 rfl rfl)
theorem dX0_placeOf_58 : decode cX0_placeOf 58 = .ok (.getfield 186, 3) := dk_180 0 186 (dk_at dksX0_placeOf_2 14 rfl rfl)
theorem dX0_placeOf_61 : decode cX0_placeOf 61 = .ok (.iload_n 1, 1) := dk_27 (dk_at dksX0_placeOf_2 17 rfl rfl)
theorem dX0_placeOf_62 : decode cX0_placeOf 62 = .ok (.invokestatic 189, 3) := dk_184 0 189 (dk_at dksX0_placeOf_2 18 rfl rfl)
theorem dX0_placeOf_65 : decode cX0_placeOf 65 = .ok (.ifCond .eq 7, 3) := dk_153 0 7 (dk_at dksX0_placeOf_2 21 rfl rfl)
theorem dX0_placeOf_68 : decode cX0_placeOf 68 = .ok (.iconst 1, 1) := dk_4 (dk_at dksX0_placeOf_3 0 rfl rfl)
theorem dX0_placeOf_69 : decode cX0_placeOf 69 = .ok (.goto 4, 3) := dk_167 0 4 (dk_at dksX0_placeOf_3 1 rfl rfl)
theorem dX0_placeOf_72 : decode cX0_placeOf 72 = .ok (.iconst 0, 1) := dk_3 (dk_at dksX0_placeOf_3 4 rfl rfl)
theorem dX0_placeOf_73 : decode cX0_placeOf 73 = .ok (.ireturn, 1) := dk_172 (dk_at dksX0_placeOf_3 5 rfl rfl)
theorem dX0_placeOf_74 : decode cX0_placeOf 74 = .ok (.aload_n 0, 1) := dk_42 (dk_at dksX0_placeOf_3 6 rfl rfl)
theorem dX0_placeOf_75 : decode cX0_placeOf 75 = .ok (.getfield 45, 3) := dk_180 0 45 (dk_at dksX0_placeOf_3 7 rfl rfl)
theorem dX0_placeOf_78 : decode cX0_placeOf 78 = .ok (.getfield 193, 3) := dk_180 0 193 (dk_at dksX0_placeOf_3 10 rfl rfl)
theorem dX0_placeOf_81 : decode cX0_placeOf 81 = .ok (.iload_n 1, 1) := dk_27 (dk_at dksX0_placeOf_3 13 rfl rfl)
theorem dX0_placeOf_82 : decode cX0_placeOf 82 = .ok (.iaload, 1) := dk_46 (dk_at dksX0_placeOf_3 14 rfl rfl)
theorem dX0_placeOf_83 : decode cX0_placeOf 83 = .ok (.ireturn, 1) := dk_172 (dk_at dksX0_placeOf_3 15 rfl rfl)
theorem dX0_placeOf_84 : decode cX0_placeOf 84 = .ok (.aload_n 0, 1) := dk_42 (dk_at dksX0_placeOf_3 16 rfl rfl)
theorem dX0_placeOf_85 : decode cX0_placeOf 85 = .ok (.iload_n 1, 1) := dk_27 (dk_at dksX0_placeOf_3 17 rfl rfl)
theorem dX0_placeOf_86 : decode cX0_placeOf 86 = .ok (.invokevirtual 196, 3) := dk_182 0 196 (dk_at dksX0_placeOf_3 18 rfl rfl)
theorem dX0_placeOf_89 : decode cX0_placeOf 89 = .ok (.ireturn, 1) := dk_172 (dk_at dksX0_placeOf_3 21 rfl rfl)
theorem dX0_placeOf_90 : decode cX0_placeOf 90 = .ok (.aload_n 0, 1) := dk_42 (dk_at dksX0_placeOf_3 22 rfl rfl)
theorem dX0_placeOf_91 : decode cX0_placeOf 91 = .ok (.getfield 45, 3) := dk_180 0 45 (dk_at dksX0_placeOf_4 0 rfl rfl)
theorem dX0_placeOf_94 : decode cX0_placeOf 94 = .ok (.getfield 199, 3) := dk_180 0 199 (dk_at dksX0_placeOf_4 3 rfl rfl)
theorem dX0_placeOf_97 : decode cX0_placeOf 97 = .ok (.iload_n 1, 1) := dk_27 (dk_at dksX0_placeOf_4 6 rfl rfl)
theorem dX0_placeOf_98 : decode cX0_placeOf 98 = .ok (.iaload, 1) := dk_46 (dk_at dksX0_placeOf_4 7 rfl rfl)
theorem dX0_placeOf_99 : decode cX0_placeOf 99 = .ok (.ireturn, 1) := dk_172 (dk_at dksX0_placeOf_4 8 rfl rfl)
theorem dX0_placeOf_100 : decode cX0_placeOf 100 = .ok (.iconst (-1), 1) := dk_2 (dk_at dksX0_placeOf_4 9 rfl rfl)
theorem dX0_placeOf_101 : decode cX0_placeOf 101 = .ok (.ireturn, 1) := dk_172 (dk_at dksX0_placeOf_4 10 rfl rfl)
abbrev cX0_thingsOn : ByteArray := prog_1_method_18_code
def yX0_thingsOn : MethodName := ⟨RX0, "thingsOn", "(I)I"⟩
def dkwX0_thingsOn_2 : List UInt8 := [172]
abbrev dktX0_thingsOn_2 : List UInt8 := dkwX0_thingsOn_2 ++ []
def dkwX0_thingsOn_1 : List UInt8 := [50, 180, 0, 159, 27, 160, 0, 9, 4, 29, 120, 167, 0, 4, 3, 128, 61, 132, 3, 1, 167, 255, 216, 28]
abbrev dktX0_thingsOn_1 : List UInt8 := dkwX0_thingsOn_1 ++ dktX0_thingsOn_2
def dkwX0_thingsOn_0 : List UInt8 := [3, 61, 3, 62, 29, 42, 180, 0, 45, 180, 0, 110, 162, 0, 35, 28, 42, 180, 0, 45, 180, 0, 150, 29]
abbrev dktX0_thingsOn_0 : List UInt8 := dkwX0_thingsOn_0 ++ dktX0_thingsOn_1
theorem dksX0_thingsOn_0 : cX0_thingsOn.data.toList.drop 0 = dktX0_thingsOn_0 := by decide +kernel
theorem dksX0_thingsOn_1 : cX0_thingsOn.data.toList.drop 24 = dktX0_thingsOn_1 := dk_seg dksX0_thingsOn_0 24 rfl rfl
theorem dksX0_thingsOn_2 : cX0_thingsOn.data.toList.drop 48 = dktX0_thingsOn_2 := dk_seg dksX0_thingsOn_1 24 rfl rfl
theorem dX0_thingsOn_0 : decode cX0_thingsOn 0 = .ok (.iconst 0, 1) := dk_3 (dk_at dksX0_thingsOn_0 0 rfl rfl)
theorem dX0_thingsOn_1 : decode cX0_thingsOn 1 = .ok (.istore_n 2, 1) := dk_61 (dk_at dksX0_thingsOn_0 1 rfl rfl)
theorem dX0_thingsOn_2 : decode cX0_thingsOn 2 = .ok (.iconst 0, 1) := dk_3 (dk_at dksX0_thingsOn_0 2 rfl rfl)
theorem dX0_thingsOn_3 : decode cX0_thingsOn 3 = .ok (.istore_n 3, 1) := dk_62 (dk_at dksX0_thingsOn_0 3 rfl rfl)
theorem dX0_thingsOn_4 : decode cX0_thingsOn 4 = .ok (.iload_n 3, 1) := dk_29 (dk_at dksX0_thingsOn_0 4 rfl rfl)
theorem dX0_thingsOn_5 : decode cX0_thingsOn 5 = .ok (.aload_n 0, 1) := dk_42 (dk_at dksX0_thingsOn_0 5 rfl rfl)
theorem dX0_thingsOn_6 : decode cX0_thingsOn 6 = .ok (.getfield 45, 3) := dk_180 0 45 (dk_at dksX0_thingsOn_0 6 rfl rfl)
theorem dX0_thingsOn_9 : decode cX0_thingsOn 9 = .ok (.getfield 110, 3) := dk_180 0 110 (dk_at dksX0_thingsOn_0 9 rfl rfl)
theorem dX0_thingsOn_12 : decode cX0_thingsOn 12 = .ok (.if_icmp .ge 35, 3) := dk_162 0 35 (dk_at dksX0_thingsOn_0 12 rfl rfl)
theorem dX0_thingsOn_15 : decode cX0_thingsOn 15 = .ok (.iload_n 2, 1) := dk_28 (dk_at dksX0_thingsOn_0 15 rfl rfl)
theorem dX0_thingsOn_16 : decode cX0_thingsOn 16 = .ok (.aload_n 0, 1) := dk_42 (dk_at dksX0_thingsOn_0 16 rfl rfl)
theorem dX0_thingsOn_17 : decode cX0_thingsOn 17 = .ok (.getfield 45, 3) := dk_180 0 45 (dk_at dksX0_thingsOn_0 17 rfl rfl)
theorem dX0_thingsOn_20 : decode cX0_thingsOn 20 = .ok (.getfield 150, 3) := dk_180 0 150 (dk_at dksX0_thingsOn_0 20 rfl rfl)
theorem dX0_thingsOn_23 : decode cX0_thingsOn 23 = .ok (.iload_n 3, 1) := dk_29 (dk_at dksX0_thingsOn_0 23 rfl rfl)
theorem dX0_thingsOn_24 : decode cX0_thingsOn 24 = .ok (.aaload, 1) := dk_50 (dk_at dksX0_thingsOn_1 0 rfl rfl)
theorem dX0_thingsOn_25 : decode cX0_thingsOn 25 = .ok (.getfield 159, 3) := dk_180 0 159 (dk_at dksX0_thingsOn_1 1 rfl rfl)
theorem dX0_thingsOn_28 : decode cX0_thingsOn 28 = .ok (.iload_n 1, 1) := dk_27 (dk_at dksX0_thingsOn_1 4 rfl rfl)
theorem dX0_thingsOn_29 : decode cX0_thingsOn 29 = .ok (.if_icmp .ne 9, 3) := dk_160 0 9 (dk_at dksX0_thingsOn_1 5 rfl rfl)
theorem dX0_thingsOn_32 : decode cX0_thingsOn 32 = .ok (.iconst 1, 1) := dk_4 (dk_at dksX0_thingsOn_1 8 rfl rfl)
theorem dX0_thingsOn_33 : decode cX0_thingsOn 33 = .ok (.iload_n 3, 1) := dk_29 (dk_at dksX0_thingsOn_1 9 rfl rfl)
theorem dX0_thingsOn_34 : decode cX0_thingsOn 34 = .ok (.ishl, 1) := dk_120 (dk_at dksX0_thingsOn_1 10 rfl rfl)
theorem dX0_thingsOn_35 : decode cX0_thingsOn 35 = .ok (.goto 4, 3) := dk_167 0 4 (dk_at dksX0_thingsOn_1 11 rfl rfl)
theorem dX0_thingsOn_38 : decode cX0_thingsOn 38 = .ok (.iconst 0, 1) := dk_3 (dk_at dksX0_thingsOn_1 14 rfl rfl)
theorem dX0_thingsOn_39 : decode cX0_thingsOn 39 = .ok (.ior, 1) := dk_128 (dk_at dksX0_thingsOn_1 15 rfl rfl)
theorem dX0_thingsOn_40 : decode cX0_thingsOn 40 = .ok (.istore_n 2, 1) := dk_61 (dk_at dksX0_thingsOn_1 16 rfl rfl)
theorem dX0_thingsOn_41 : decode cX0_thingsOn 41 = .ok (.iinc 3 1, 3) := dk_132 3 1 (dk_at dksX0_thingsOn_1 17 rfl rfl)
theorem dX0_thingsOn_44 : decode cX0_thingsOn 44 = .ok (.goto (-40), 3) := dk_167 255 216 (dk_at dksX0_thingsOn_1 20 rfl rfl)
theorem dX0_thingsOn_47 : decode cX0_thingsOn 47 = .ok (.iload_n 2, 1) := dk_28 (dk_at dksX0_thingsOn_1 23 rfl rfl)
theorem dX0_thingsOn_48 : decode cX0_thingsOn 48 = .ok (.ireturn, 1) := dk_172 (dk_at dksX0_thingsOn_2 0 rfl rfl)
abbrev cX0_set : ByteArray := prog_1_method_21_code
def yX0_set : MethodName := ⟨RX0, "set", "(II)I"⟩
def dkwX0_set_1 : List UInt8 := [180, 0, 45, 180, 0, 205, 27, 46, 62, 42, 180, 0, 45, 180, 0, 205, 27, 28, 79, 29, 172]
abbrev dktX0_set_1 : List UInt8 := dkwX0_set_1 ++ []
def dkwX0_set_0 : List UInt8 := [27, 3, 6, 184, 0, 114, 153, 0, 15, 28, 3, 27, 184, 0, 202, 184, 0, 114, 154, 0, 5, 2, 172, 42]
abbrev dktX0_set_0 : List UInt8 := dkwX0_set_0 ++ dktX0_set_1
theorem dksX0_set_0 : cX0_set.data.toList.drop 0 = dktX0_set_0 := by decide +kernel
theorem dksX0_set_1 : cX0_set.data.toList.drop 24 = dktX0_set_1 := dk_seg dksX0_set_0 24 rfl rfl
theorem dX0_set_0 : decode cX0_set 0 = .ok (.iload_n 1, 1) := dk_27 (dk_at dksX0_set_0 0 rfl rfl)
theorem dX0_set_1 : decode cX0_set 1 = .ok (.iconst 0, 1) := dk_3 (dk_at dksX0_set_0 1 rfl rfl)
theorem dX0_set_2 : decode cX0_set 2 = .ok (.iconst 3, 1) := dk_6 (dk_at dksX0_set_0 2 rfl rfl)
theorem dX0_set_3 : decode cX0_set 3 = .ok (.invokestatic 114, 3) := dk_184 0 114 (dk_at dksX0_set_0 3 rfl rfl)
theorem dX0_set_6 : decode cX0_set 6 = .ok (.ifCond .eq 15, 3) := dk_153 0 15 (dk_at dksX0_set_0 6 rfl rfl)
theorem dX0_set_9 : decode cX0_set 9 = .ok (.iload_n 2, 1) := dk_28 (dk_at dksX0_set_0 9 rfl rfl)
theorem dX0_set_10 : decode cX0_set 10 = .ok (.iconst 0, 1) := dk_3 (dk_at dksX0_set_0 10 rfl rfl)
theorem dX0_set_11 : decode cX0_set 11 = .ok (.iload_n 1, 1) := dk_27 (dk_at dksX0_set_0 11 rfl rfl)
theorem dX0_set_12 : decode cX0_set 12 = .ok (.invokestatic 202, 3) := dk_184 0 202 (dk_at dksX0_set_0 12 rfl rfl)
theorem dX0_set_15 : decode cX0_set 15 = .ok (.invokestatic 114, 3) := dk_184 0 114 (dk_at dksX0_set_0 15 rfl rfl)
theorem dX0_set_18 : decode cX0_set 18 = .ok (.ifCond .ne 5, 3) := dk_154 0 5 (dk_at dksX0_set_0 18 rfl rfl)
theorem dX0_set_21 : decode cX0_set 21 = .ok (.iconst (-1), 1) := dk_2 (dk_at dksX0_set_0 21 rfl rfl)
theorem dX0_set_22 : decode cX0_set 22 = .ok (.ireturn, 1) := dk_172 (dk_at dksX0_set_0 22 rfl rfl)
theorem dX0_set_23 : decode cX0_set 23 = .ok (.aload_n 0, 1) := dk_42 (dk_at dksX0_set_0 23 rfl rfl)
theorem dX0_set_24 : decode cX0_set 24 = .ok (.getfield 45, 3) := dk_180 0 45 (dk_at dksX0_set_1 0 rfl rfl)
theorem dX0_set_27 : decode cX0_set 27 = .ok (.getfield 205, 3) := dk_180 0 205 (dk_at dksX0_set_1 3 rfl rfl)
theorem dX0_set_30 : decode cX0_set 30 = .ok (.iload_n 1, 1) := dk_27 (dk_at dksX0_set_1 6 rfl rfl)
theorem dX0_set_31 : decode cX0_set 31 = .ok (.iaload, 1) := dk_46 (dk_at dksX0_set_1 7 rfl rfl)
theorem dX0_set_32 : decode cX0_set 32 = .ok (.istore_n 3, 1) := dk_62 (dk_at dksX0_set_1 8 rfl rfl)
theorem dX0_set_33 : decode cX0_set 33 = .ok (.aload_n 0, 1) := dk_42 (dk_at dksX0_set_1 9 rfl rfl)
theorem dX0_set_34 : decode cX0_set 34 = .ok (.getfield 45, 3) := dk_180 0 45 (dk_at dksX0_set_1 10 rfl rfl)
theorem dX0_set_37 : decode cX0_set 37 = .ok (.getfield 205, 3) := dk_180 0 205 (dk_at dksX0_set_1 13 rfl rfl)
theorem dX0_set_40 : decode cX0_set 40 = .ok (.iload_n 1, 1) := dk_27 (dk_at dksX0_set_1 16 rfl rfl)
theorem dX0_set_41 : decode cX0_set 41 = .ok (.iload_n 2, 1) := dk_28 (dk_at dksX0_set_1 17 rfl rfl)
theorem dX0_set_42 : decode cX0_set 42 = .ok (.iastore, 1) := dk_79 (dk_at dksX0_set_1 18 rfl rfl)
theorem dX0_set_43 : decode cX0_set 43 = .ok (.iload_n 3, 1) := dk_29 (dk_at dksX0_set_1 19 rfl rfl)
theorem dX0_set_44 : decode cX0_set 44 = .ok (.ireturn, 1) := dk_172 (dk_at dksX0_set_1 20 rfl rfl)
abbrev cX0_mostOf : ByteArray := prog_1_method_20_code
def yX0_mostOf : MethodName := ⟨RX0, "mostOf", "(I)I"⟩
def dkwX0_mostOf_0 : List UInt8 := [26, 154, 0, 8, 16, 9, 167, 0, 15, 26, 6, 160, 0, 8, 16, 8, 167, 0, 5, 16, 12, 172]
abbrev dktX0_mostOf_0 : List UInt8 := dkwX0_mostOf_0 ++ []
theorem dksX0_mostOf_0 : cX0_mostOf.data.toList.drop 0 = dktX0_mostOf_0 := by decide +kernel
theorem dX0_mostOf_0 : decode cX0_mostOf 0 = .ok (.iload_n 0, 1) := dk_26 (dk_at dksX0_mostOf_0 0 rfl rfl)
theorem dX0_mostOf_1 : decode cX0_mostOf 1 = .ok (.ifCond .ne 8, 3) := dk_154 0 8 (dk_at dksX0_mostOf_0 1 rfl rfl)
theorem dX0_mostOf_4 : decode cX0_mostOf 4 = .ok (.bipush 9, 2) := dk_16 9 (dk_at dksX0_mostOf_0 4 rfl rfl)
theorem dX0_mostOf_6 : decode cX0_mostOf 6 = .ok (.goto 15, 3) := dk_167 0 15 (dk_at dksX0_mostOf_0 6 rfl rfl)
theorem dX0_mostOf_9 : decode cX0_mostOf 9 = .ok (.iload_n 0, 1) := dk_26 (dk_at dksX0_mostOf_0 9 rfl rfl)
theorem dX0_mostOf_10 : decode cX0_mostOf 10 = .ok (.iconst 3, 1) := dk_6 (dk_at dksX0_mostOf_0 10 rfl rfl)
theorem dX0_mostOf_11 : decode cX0_mostOf 11 = .ok (.if_icmp .ne 8, 3) := dk_160 0 8 (dk_at dksX0_mostOf_0 11 rfl rfl)
theorem dX0_mostOf_14 : decode cX0_mostOf 14 = .ok (.bipush 8, 2) := dk_16 8 (dk_at dksX0_mostOf_0 14 rfl rfl)
theorem dX0_mostOf_16 : decode cX0_mostOf 16 = .ok (.goto 5, 3) := dk_167 0 5 (dk_at dksX0_mostOf_0 16 rfl rfl)
theorem dX0_mostOf_19 : decode cX0_mostOf 19 = .ok (.bipush 12, 2) := dk_16 12 (dk_at dksX0_mostOf_0 19 rfl rfl)
theorem dX0_mostOf_21 : decode cX0_mostOf 21 = .ok (.ireturn, 1) := dk_172 (dk_at dksX0_mostOf_0 21 rfl rfl)
abbrev cX0_warm : ByteArray := prog_1_method_22_code
def yX0_warm : MethodName := ⟨RX0, "warm", "(II)I"⟩
def dkwX0_warm_1 : List UInt8 := [180, 0, 45, 180, 0, 208, 27, 46, 62, 42, 180, 0, 45, 180, 0, 208, 27, 28, 79, 29, 172]
abbrev dktX0_warm_1 : List UInt8 := dkwX0_warm_1 ++ []
def dkwX0_warm_0 : List UInt8 := [27, 3, 16, 11, 184, 0, 114, 153, 0, 12, 28, 3, 6, 184, 0, 114, 154, 0, 5, 2, 172, 42]
abbrev dktX0_warm_0 : List UInt8 := dkwX0_warm_0 ++ dktX0_warm_1
theorem dksX0_warm_0 : cX0_warm.data.toList.drop 0 = dktX0_warm_0 := by decide +kernel
theorem dksX0_warm_1 : cX0_warm.data.toList.drop 22 = dktX0_warm_1 := dk_seg dksX0_warm_0 22 rfl rfl
theorem dX0_warm_0 : decode cX0_warm 0 = .ok (.iload_n 1, 1) := dk_27 (dk_at dksX0_warm_0 0 rfl rfl)
theorem dX0_warm_1 : decode cX0_warm 1 = .ok (.iconst 0, 1) := dk_3 (dk_at dksX0_warm_0 1 rfl rfl)
theorem dX0_warm_2 : decode cX0_warm 2 = .ok (.bipush 11, 2) := dk_16 11 (dk_at dksX0_warm_0 2 rfl rfl)
theorem dX0_warm_4 : decode cX0_warm 4 = .ok (.invokestatic 114, 3) := dk_184 0 114 (dk_at dksX0_warm_0 4 rfl rfl)
theorem dX0_warm_7 : decode cX0_warm 7 = .ok (.ifCond .eq 12, 3) := dk_153 0 12 (dk_at dksX0_warm_0 7 rfl rfl)
theorem dX0_warm_10 : decode cX0_warm 10 = .ok (.iload_n 2, 1) := dk_28 (dk_at dksX0_warm_0 10 rfl rfl)
theorem dX0_warm_11 : decode cX0_warm 11 = .ok (.iconst 0, 1) := dk_3 (dk_at dksX0_warm_0 11 rfl rfl)
theorem dX0_warm_12 : decode cX0_warm 12 = .ok (.iconst 3, 1) := dk_6 (dk_at dksX0_warm_0 12 rfl rfl)
theorem dX0_warm_13 : decode cX0_warm 13 = .ok (.invokestatic 114, 3) := dk_184 0 114 (dk_at dksX0_warm_0 13 rfl rfl)
theorem dX0_warm_16 : decode cX0_warm 16 = .ok (.ifCond .ne 5, 3) := dk_154 0 5 (dk_at dksX0_warm_0 16 rfl rfl)
theorem dX0_warm_19 : decode cX0_warm 19 = .ok (.iconst (-1), 1) := dk_2 (dk_at dksX0_warm_0 19 rfl rfl)
theorem dX0_warm_20 : decode cX0_warm 20 = .ok (.ireturn, 1) := dk_172 (dk_at dksX0_warm_0 20 rfl rfl)
theorem dX0_warm_21 : decode cX0_warm 21 = .ok (.aload_n 0, 1) := dk_42 (dk_at dksX0_warm_0 21 rfl rfl)
theorem dX0_warm_22 : decode cX0_warm 22 = .ok (.getfield 45, 3) := dk_180 0 45 (dk_at dksX0_warm_1 0 rfl rfl)
theorem dX0_warm_25 : decode cX0_warm 25 = .ok (.getfield 208, 3) := dk_180 0 208 (dk_at dksX0_warm_1 3 rfl rfl)
theorem dX0_warm_28 : decode cX0_warm 28 = .ok (.iload_n 1, 1) := dk_27 (dk_at dksX0_warm_1 6 rfl rfl)
theorem dX0_warm_29 : decode cX0_warm 29 = .ok (.iaload, 1) := dk_46 (dk_at dksX0_warm_1 7 rfl rfl)
theorem dX0_warm_30 : decode cX0_warm 30 = .ok (.istore_n 3, 1) := dk_62 (dk_at dksX0_warm_1 8 rfl rfl)
theorem dX0_warm_31 : decode cX0_warm 31 = .ok (.aload_n 0, 1) := dk_42 (dk_at dksX0_warm_1 9 rfl rfl)
theorem dX0_warm_32 : decode cX0_warm 32 = .ok (.getfield 45, 3) := dk_180 0 45 (dk_at dksX0_warm_1 10 rfl rfl)
theorem dX0_warm_35 : decode cX0_warm 35 = .ok (.getfield 208, 3) := dk_180 0 208 (dk_at dksX0_warm_1 13 rfl rfl)
theorem dX0_warm_38 : decode cX0_warm 38 = .ok (.iload_n 1, 1) := dk_27 (dk_at dksX0_warm_1 16 rfl rfl)
theorem dX0_warm_39 : decode cX0_warm 39 = .ok (.iload_n 2, 1) := dk_28 (dk_at dksX0_warm_1 17 rfl rfl)
theorem dX0_warm_40 : decode cX0_warm 40 = .ok (.iastore, 1) := dk_79 (dk_at dksX0_warm_1 18 rfl rfl)
theorem dX0_warm_41 : decode cX0_warm 41 = .ok (.iload_n 3, 1) := dk_29 (dk_at dksX0_warm_1 19 rfl rfl)
theorem dX0_warm_42 : decode cX0_warm 42 = .ok (.ireturn, 1) := dk_172 (dk_at dksX0_warm_1 20 rfl rfl)
abbrev cX0_week : ByteArray := prog_1_method_23_code
def yX0_week : MethodName := ⟨RX0, "week", "(I)I"⟩
def dkwX0_week_2 : List UInt8 := [167, 255, 241, 42, 180, 0, 45, 180, 0, 211, 172]
abbrev dktX0_week_2 : List UInt8 := dkwX0_week_2 ++ []
def dkwX0_week_1 : List UInt8 := [164, 0, 6, 16, 252, 172, 3, 61, 28, 27, 162, 0, 16, 42, 180, 0, 45, 182, 0, 214, 132, 2, 1]
abbrev dktX0_week_1 : List UInt8 := dkwX0_week_1 ++ dktX0_week_2
def dkwX0_week_0 : List UInt8 := [27, 3, 16, 52, 184, 0, 114, 154, 0, 5, 2, 172, 42, 180, 0, 45, 180, 0, 211, 27, 96, 17, 3, 231]
abbrev dktX0_week_0 : List UInt8 := dkwX0_week_0 ++ dktX0_week_1
theorem dksX0_week_0 : cX0_week.data.toList.drop 0 = dktX0_week_0 := by decide +kernel
theorem dksX0_week_1 : cX0_week.data.toList.drop 24 = dktX0_week_1 := dk_seg dksX0_week_0 24 rfl rfl
theorem dksX0_week_2 : cX0_week.data.toList.drop 47 = dktX0_week_2 := dk_seg dksX0_week_1 23 rfl rfl
theorem dX0_week_0 : decode cX0_week 0 = .ok (.iload_n 1, 1) := dk_27 (dk_at dksX0_week_0 0 rfl rfl)
theorem dX0_week_1 : decode cX0_week 1 = .ok (.iconst 0, 1) := dk_3 (dk_at dksX0_week_0 1 rfl rfl)
theorem dX0_week_2 : decode cX0_week 2 = .ok (.bipush 52, 2) := dk_16 52 (dk_at dksX0_week_0 2 rfl rfl)
theorem dX0_week_4 : decode cX0_week 4 = .ok (.invokestatic 114, 3) := dk_184 0 114 (dk_at dksX0_week_0 4 rfl rfl)
theorem dX0_week_7 : decode cX0_week 7 = .ok (.ifCond .ne 5, 3) := dk_154 0 5 (dk_at dksX0_week_0 7 rfl rfl)
theorem dX0_week_10 : decode cX0_week 10 = .ok (.iconst (-1), 1) := dk_2 (dk_at dksX0_week_0 10 rfl rfl)
theorem dX0_week_11 : decode cX0_week 11 = .ok (.ireturn, 1) := dk_172 (dk_at dksX0_week_0 11 rfl rfl)
theorem dX0_week_12 : decode cX0_week 12 = .ok (.aload_n 0, 1) := dk_42 (dk_at dksX0_week_0 12 rfl rfl)
theorem dX0_week_13 : decode cX0_week 13 = .ok (.getfield 45, 3) := dk_180 0 45 (dk_at dksX0_week_0 13 rfl rfl)
theorem dX0_week_16 : decode cX0_week 16 = .ok (.getfield 211, 3) := dk_180 0 211 (dk_at dksX0_week_0 16 rfl rfl)
theorem dX0_week_19 : decode cX0_week 19 = .ok (.iload_n 1, 1) := dk_27 (dk_at dksX0_week_0 19 rfl rfl)
theorem dX0_week_20 : decode cX0_week 20 = .ok (.iadd, 1) := dk_96 (dk_at dksX0_week_0 20 rfl rfl)
theorem dX0_week_21 : decode cX0_week 21 = .ok (.sipush 999, 3) := dk_17 3 231 (dk_at dksX0_week_0 21 rfl rfl)
theorem dX0_week_24 : decode cX0_week 24 = .ok (.if_icmp .le 6, 3) := dk_164 0 6 (dk_at dksX0_week_1 0 rfl rfl)
theorem dX0_week_27 : decode cX0_week 27 = .ok (.bipush (-4), 2) := dk_16 252 (dk_at dksX0_week_1 3 rfl rfl)
theorem dX0_week_29 : decode cX0_week 29 = .ok (.ireturn, 1) := dk_172 (dk_at dksX0_week_1 5 rfl rfl)
theorem dX0_week_30 : decode cX0_week 30 = .ok (.iconst 0, 1) := dk_3 (dk_at dksX0_week_1 6 rfl rfl)
theorem dX0_week_31 : decode cX0_week 31 = .ok (.istore_n 2, 1) := dk_61 (dk_at dksX0_week_1 7 rfl rfl)
theorem dX0_week_32 : decode cX0_week 32 = .ok (.iload_n 2, 1) := dk_28 (dk_at dksX0_week_1 8 rfl rfl)
theorem dX0_week_33 : decode cX0_week 33 = .ok (.iload_n 1, 1) := dk_27 (dk_at dksX0_week_1 9 rfl rfl)
theorem dX0_week_34 : decode cX0_week 34 = .ok (.if_icmp .ge 16, 3) := dk_162 0 16 (dk_at dksX0_week_1 10 rfl rfl)
theorem dX0_week_37 : decode cX0_week 37 = .ok (.aload_n 0, 1) := dk_42 (dk_at dksX0_week_1 13 rfl rfl)
theorem dX0_week_38 : decode cX0_week 38 = .ok (.getfield 45, 3) := dk_180 0 45 (dk_at dksX0_week_1 14 rfl rfl)
theorem dX0_week_41 : decode cX0_week 41 = .ok (.invokevirtual 214, 3) := dk_182 0 214 (dk_at dksX0_week_1 17 rfl rfl)
theorem dX0_week_44 : decode cX0_week 44 = .ok (.iinc 2 1, 3) := dk_132 2 1 (dk_at dksX0_week_1 20 rfl rfl)
theorem dX0_week_47 : decode cX0_week 47 = .ok (.goto (-15), 3) := dk_167 255 241 (dk_at dksX0_week_2 0 rfl rfl)
theorem dX0_week_50 : decode cX0_week 50 = .ok (.aload_n 0, 1) := dk_42 (dk_at dksX0_week_2 3 rfl rfl)
theorem dX0_week_51 : decode cX0_week 51 = .ok (.getfield 45, 3) := dk_180 0 45 (dk_at dksX0_week_2 4 rfl rfl)
theorem dX0_week_54 : decode cX0_week 54 = .ok (.getfield 211, 3) := dk_180 0 211 (dk_at dksX0_week_2 7 rfl rfl)
theorem dX0_week_57 : decode cX0_week 57 = .ok (.ireturn, 1) := dk_172 (dk_at dksX0_week_2 10 rfl rfl)
abbrev cX0_now : ByteArray := prog_1_method_25_code
def yX0_now : MethodName := ⟨RX0, "now", "(I)I"⟩
def dkwX0_now_3 : List UInt8 := [42, 180, 0, 45, 182, 0, 224, 172, 42, 182, 0, 226, 172, 2, 172]
abbrev dktX0_now_3 : List UInt8 := dkwX0_now_3 ++ []
def dkwX0_now_2 : List UInt8 := [42, 180, 0, 45, 180, 0, 211, 172, 42, 180, 0, 45, 182, 0, 217, 172, 42, 180, 0, 45, 182, 0, 221, 172]
abbrev dktX0_now_2 : List UInt8 := dkwX0_now_2 ++ dktX0_now_3
def dkwX0_now_1 : List UInt8 := [170, 0, 0, 0, 0, 0, 72, 0, 0, 0, 0, 0, 0, 0, 4, 0, 0, 0, 35, 0, 0, 0, 43, 0, 0, 0, 51, 0, 0, 0, 59, 0, 0, 0, 67]
abbrev dktX0_now_1 : List UInt8 := dkwX0_now_1 ++ dktX0_now_2
def dkwX0_now_0 : List UInt8 := [27]
abbrev dktX0_now_0 : List UInt8 := dkwX0_now_0 ++ dktX0_now_1
theorem dksX0_now_0 : cX0_now.data.toList.drop 0 = dktX0_now_0 := by decide +kernel
theorem dksX0_now_1 : cX0_now.data.toList.drop 1 = dktX0_now_1 := dk_seg dksX0_now_0 1 rfl rfl
theorem dksX0_now_2 : cX0_now.data.toList.drop 36 = dktX0_now_2 := dk_seg dksX0_now_1 35 rfl rfl
theorem dksX0_now_3 : cX0_now.data.toList.drop 60 = dktX0_now_3 := dk_seg dksX0_now_2 24 rfl rfl
theorem dX0_now_0 : decode cX0_now 0 = .ok (.iload_n 1, 1) := dk_27 (dk_at dksX0_now_0 0 rfl rfl)
theorem dX0_now_1 : decode cX0_now 1 = .ok (.tableswitch 72 0 4 #[35, 43, 51, 59, 67], 35) := by decide +kernel
theorem dX0_now_36 : decode cX0_now 36 = .ok (.aload_n 0, 1) := dk_42 (dk_at dksX0_now_2 0 rfl rfl)
theorem dX0_now_37 : decode cX0_now 37 = .ok (.getfield 45, 3) := dk_180 0 45 (dk_at dksX0_now_2 1 rfl rfl)
theorem dX0_now_40 : decode cX0_now 40 = .ok (.getfield 211, 3) := dk_180 0 211 (dk_at dksX0_now_2 4 rfl rfl)
theorem dX0_now_43 : decode cX0_now 43 = .ok (.ireturn, 1) := dk_172 (dk_at dksX0_now_2 7 rfl rfl)
theorem dX0_now_44 : decode cX0_now 44 = .ok (.aload_n 0, 1) := dk_42 (dk_at dksX0_now_2 8 rfl rfl)
theorem dX0_now_45 : decode cX0_now 45 = .ok (.getfield 45, 3) := dk_180 0 45 (dk_at dksX0_now_2 9 rfl rfl)
theorem dX0_now_48 : decode cX0_now 48 = .ok (.invokevirtual 217, 3) := dk_182 0 217 (dk_at dksX0_now_2 12 rfl rfl)
theorem dX0_now_51 : decode cX0_now 51 = .ok (.ireturn, 1) := dk_172 (dk_at dksX0_now_2 15 rfl rfl)
theorem dX0_now_52 : decode cX0_now 52 = .ok (.aload_n 0, 1) := dk_42 (dk_at dksX0_now_2 16 rfl rfl)
theorem dX0_now_53 : decode cX0_now 53 = .ok (.getfield 45, 3) := dk_180 0 45 (dk_at dksX0_now_2 17 rfl rfl)
theorem dX0_now_56 : decode cX0_now 56 = .ok (.invokevirtual 221, 3) := dk_182 0 221 (dk_at dksX0_now_2 20 rfl rfl)
theorem dX0_now_59 : decode cX0_now 59 = .ok (.ireturn, 1) := dk_172 (dk_at dksX0_now_2 23 rfl rfl)
theorem dX0_now_60 : decode cX0_now 60 = .ok (.aload_n 0, 1) := dk_42 (dk_at dksX0_now_3 0 rfl rfl)
theorem dX0_now_61 : decode cX0_now 61 = .ok (.getfield 45, 3) := dk_180 0 45 (dk_at dksX0_now_3 1 rfl rfl)
theorem dX0_now_64 : decode cX0_now 64 = .ok (.invokevirtual 224, 3) := dk_182 0 224 (dk_at dksX0_now_3 4 rfl rfl)
theorem dX0_now_67 : decode cX0_now 67 = .ok (.ireturn, 1) := dk_172 (dk_at dksX0_now_3 7 rfl rfl)
theorem dX0_now_68 : decode cX0_now 68 = .ok (.aload_n 0, 1) := dk_42 (dk_at dksX0_now_3 8 rfl rfl)
theorem dX0_now_69 : decode cX0_now 69 = .ok (.invokevirtual 226, 3) := dk_182 0 226 (dk_at dksX0_now_3 9 rfl rfl)
theorem dX0_now_72 : decode cX0_now 72 = .ok (.ireturn, 1) := dk_172 (dk_at dksX0_now_3 12 rfl rfl)
theorem dX0_now_73 : decode cX0_now 73 = .ok (.iconst (-1), 1) := dk_2 (dk_at dksX0_now_3 13 rfl rfl)
theorem dX0_now_74 : decode cX0_now 74 = .ok (.ireturn, 1) := dk_172 (dk_at dksX0_now_3 14 rfl rfl)
abbrev cX0_holesAll : ByteArray := prog_1_method_24_code
def yX0_holesAll : MethodName := ⟨RX0, "holesAll", "()I"⟩
def dkwX0_holesAll_1 : List UInt8 := [50, 180, 0, 170, 96, 60, 132, 2, 1, 167, 255, 227, 27, 172]
abbrev dktX0_holesAll_1 : List UInt8 := dkwX0_holesAll_1 ++ []
def dkwX0_holesAll_0 : List UInt8 := [3, 60, 3, 61, 28, 42, 180, 0, 45, 180, 0, 110, 162, 0, 24, 27, 42, 180, 0, 45, 180, 0, 150, 28]
abbrev dktX0_holesAll_0 : List UInt8 := dkwX0_holesAll_0 ++ dktX0_holesAll_1
theorem dksX0_holesAll_0 : cX0_holesAll.data.toList.drop 0 = dktX0_holesAll_0 := by decide +kernel
theorem dksX0_holesAll_1 : cX0_holesAll.data.toList.drop 24 = dktX0_holesAll_1 := dk_seg dksX0_holesAll_0 24 rfl rfl
theorem dX0_holesAll_0 : decode cX0_holesAll 0 = .ok (.iconst 0, 1) := dk_3 (dk_at dksX0_holesAll_0 0 rfl rfl)
theorem dX0_holesAll_1 : decode cX0_holesAll 1 = .ok (.istore_n 1, 1) := dk_60 (dk_at dksX0_holesAll_0 1 rfl rfl)
theorem dX0_holesAll_2 : decode cX0_holesAll 2 = .ok (.iconst 0, 1) := dk_3 (dk_at dksX0_holesAll_0 2 rfl rfl)
theorem dX0_holesAll_3 : decode cX0_holesAll 3 = .ok (.istore_n 2, 1) := dk_61 (dk_at dksX0_holesAll_0 3 rfl rfl)
theorem dX0_holesAll_4 : decode cX0_holesAll 4 = .ok (.iload_n 2, 1) := dk_28 (dk_at dksX0_holesAll_0 4 rfl rfl)
theorem dX0_holesAll_5 : decode cX0_holesAll 5 = .ok (.aload_n 0, 1) := dk_42 (dk_at dksX0_holesAll_0 5 rfl rfl)
theorem dX0_holesAll_6 : decode cX0_holesAll 6 = .ok (.getfield 45, 3) := dk_180 0 45 (dk_at dksX0_holesAll_0 6 rfl rfl)
theorem dX0_holesAll_9 : decode cX0_holesAll 9 = .ok (.getfield 110, 3) := dk_180 0 110 (dk_at dksX0_holesAll_0 9 rfl rfl)
theorem dX0_holesAll_12 : decode cX0_holesAll 12 = .ok (.if_icmp .ge 24, 3) := dk_162 0 24 (dk_at dksX0_holesAll_0 12 rfl rfl)
theorem dX0_holesAll_15 : decode cX0_holesAll 15 = .ok (.iload_n 1, 1) := dk_27 (dk_at dksX0_holesAll_0 15 rfl rfl)
theorem dX0_holesAll_16 : decode cX0_holesAll 16 = .ok (.aload_n 0, 1) := dk_42 (dk_at dksX0_holesAll_0 16 rfl rfl)
theorem dX0_holesAll_17 : decode cX0_holesAll 17 = .ok (.getfield 45, 3) := dk_180 0 45 (dk_at dksX0_holesAll_0 17 rfl rfl)
theorem dX0_holesAll_20 : decode cX0_holesAll 20 = .ok (.getfield 150, 3) := dk_180 0 150 (dk_at dksX0_holesAll_0 20 rfl rfl)
theorem dX0_holesAll_23 : decode cX0_holesAll 23 = .ok (.iload_n 2, 1) := dk_28 (dk_at dksX0_holesAll_0 23 rfl rfl)
theorem dX0_holesAll_24 : decode cX0_holesAll 24 = .ok (.aaload, 1) := dk_50 (dk_at dksX0_holesAll_1 0 rfl rfl)
theorem dX0_holesAll_25 : decode cX0_holesAll 25 = .ok (.getfield 170, 3) := dk_180 0 170 (dk_at dksX0_holesAll_1 1 rfl rfl)
theorem dX0_holesAll_28 : decode cX0_holesAll 28 = .ok (.iadd, 1) := dk_96 (dk_at dksX0_holesAll_1 4 rfl rfl)
theorem dX0_holesAll_29 : decode cX0_holesAll 29 = .ok (.istore_n 1, 1) := dk_60 (dk_at dksX0_holesAll_1 5 rfl rfl)
theorem dX0_holesAll_30 : decode cX0_holesAll 30 = .ok (.iinc 2 1, 3) := dk_132 2 1 (dk_at dksX0_holesAll_1 6 rfl rfl)
theorem dX0_holesAll_33 : decode cX0_holesAll 33 = .ok (.goto (-29), 3) := dk_167 255 227 (dk_at dksX0_holesAll_1 9 rfl rfl)
theorem dX0_holesAll_36 : decode cX0_holesAll 36 = .ok (.iload_n 1, 1) := dk_27 (dk_at dksX0_holesAll_1 12 rfl rfl)
theorem dX0_holesAll_37 : decode cX0_holesAll 37 = .ok (.ireturn, 1) := dk_172 (dk_at dksX0_holesAll_1 13 rfl rfl)
abbrev cX0_over : ByteArray := prog_1_method_26_code
def yX0_over : MethodName := ⟨RX0, "over", "()I"⟩
def dkwX0_over_1 : List UInt8 := [182, 0, 221, 154, 0, 5, 28, 172, 43, 182, 0, 214, 132, 2, 1, 167, 255, 234, 16, 253, 172]
abbrev dktX0_over_1 : List UInt8 := dkwX0_over_1 ++ []
def dkwX0_over_0 : List UInt8 := [42, 180, 0, 55, 3, 50, 76, 43, 42, 180, 0, 45, 182, 0, 229, 3, 61, 28, 16, 60, 163, 0, 22, 43]
abbrev dktX0_over_0 : List UInt8 := dkwX0_over_0 ++ dktX0_over_1
theorem dksX0_over_0 : cX0_over.data.toList.drop 0 = dktX0_over_0 := by decide +kernel
theorem dksX0_over_1 : cX0_over.data.toList.drop 24 = dktX0_over_1 := dk_seg dksX0_over_0 24 rfl rfl
theorem dX0_over_0 : decode cX0_over 0 = .ok (.aload_n 0, 1) := dk_42 (dk_at dksX0_over_0 0 rfl rfl)
theorem dX0_over_1 : decode cX0_over 1 = .ok (.getfield 55, 3) := dk_180 0 55 (dk_at dksX0_over_0 1 rfl rfl)
theorem dX0_over_4 : decode cX0_over 4 = .ok (.iconst 0, 1) := dk_3 (dk_at dksX0_over_0 4 rfl rfl)
theorem dX0_over_5 : decode cX0_over 5 = .ok (.aaload, 1) := dk_50 (dk_at dksX0_over_0 5 rfl rfl)
theorem dX0_over_6 : decode cX0_over 6 = .ok (.astore_n 1, 1) := dk_76 (dk_at dksX0_over_0 6 rfl rfl)
theorem dX0_over_7 : decode cX0_over 7 = .ok (.aload_n 1, 1) := dk_43 (dk_at dksX0_over_0 7 rfl rfl)
theorem dX0_over_8 : decode cX0_over 8 = .ok (.aload_n 0, 1) := dk_42 (dk_at dksX0_over_0 8 rfl rfl)
theorem dX0_over_9 : decode cX0_over 9 = .ok (.getfield 45, 3) := dk_180 0 45 (dk_at dksX0_over_0 9 rfl rfl)
theorem dX0_over_12 : decode cX0_over 12 = .ok (.invokevirtual 229, 3) := dk_182 0 229 (dk_at dksX0_over_0 12 rfl rfl)
theorem dX0_over_15 : decode cX0_over 15 = .ok (.iconst 0, 1) := dk_3 (dk_at dksX0_over_0 15 rfl rfl)
theorem dX0_over_16 : decode cX0_over 16 = .ok (.istore_n 2, 1) := dk_61 (dk_at dksX0_over_0 16 rfl rfl)
theorem dX0_over_17 : decode cX0_over 17 = .ok (.iload_n 2, 1) := dk_28 (dk_at dksX0_over_0 17 rfl rfl)
theorem dX0_over_18 : decode cX0_over 18 = .ok (.bipush 60, 2) := dk_16 60 (dk_at dksX0_over_0 18 rfl rfl)
theorem dX0_over_20 : decode cX0_over 20 = .ok (.if_icmp .gt 22, 3) := dk_163 0 22 (dk_at dksX0_over_0 20 rfl rfl)
theorem dX0_over_23 : decode cX0_over 23 = .ok (.aload_n 1, 1) := dk_43 (dk_at dksX0_over_0 23 rfl rfl)
theorem dX0_over_24 : decode cX0_over 24 = .ok (.invokevirtual 221, 3) := dk_182 0 221 (dk_at dksX0_over_1 0 rfl rfl)
theorem dX0_over_27 : decode cX0_over 27 = .ok (.ifCond .ne 5, 3) := dk_154 0 5 (dk_at dksX0_over_1 3 rfl rfl)
theorem dX0_over_30 : decode cX0_over 30 = .ok (.iload_n 2, 1) := dk_28 (dk_at dksX0_over_1 6 rfl rfl)
theorem dX0_over_31 : decode cX0_over 31 = .ok (.ireturn, 1) := dk_172 (dk_at dksX0_over_1 7 rfl rfl)
theorem dX0_over_32 : decode cX0_over 32 = .ok (.aload_n 1, 1) := dk_43 (dk_at dksX0_over_1 8 rfl rfl)
theorem dX0_over_33 : decode cX0_over 33 = .ok (.invokevirtual 214, 3) := dk_182 0 214 (dk_at dksX0_over_1 9 rfl rfl)
theorem dX0_over_36 : decode cX0_over 36 = .ok (.iinc 2 1, 3) := dk_132 2 1 (dk_at dksX0_over_1 12 rfl rfl)
theorem dX0_over_39 : decode cX0_over 39 = .ok (.goto (-22), 3) := dk_167 255 234 (dk_at dksX0_over_1 15 rfl rfl)
theorem dX0_over_42 : decode cX0_over 42 = .ok (.bipush (-3), 2) := dk_16 253 (dk_at dksX0_over_1 18 rfl rfl)
theorem dX0_over_44 : decode cX0_over 44 = .ok (.ireturn, 1) := dk_172 (dk_at dksX0_over_1 20 rfl rfl)
abbrev cX0_doing : ByteArray := prog_1_method_27_code
def yX0_doing : MethodName := ⟨RX0, "doing", "(II)I"⟩
def dkwX0_doing_3 : List UInt8 := [42, 180, 0, 45, 89, 180, 0, 118, 4, 96, 181, 0, 118, 42, 180, 0, 45, 180, 0, 118, 4, 100, 172]
abbrev dktX0_doing_3 : List UInt8 := dkwX0_doing_3 ++ []
def dkwX0_doing_2 : List UInt8 := [180, 0, 45, 180, 0, 118, 27, 79, 42, 180, 0, 45, 180, 0, 235, 42, 180, 0, 45, 180, 0, 118, 28, 79]
abbrev dktX0_doing_2 : List UInt8 := dkwX0_doing_2 ++ dktX0_doing_3
def dkwX0_doing_1 : List UInt8 := [180, 0, 45, 180, 0, 118, 16, 6, 160, 0, 6, 16, 254, 172, 42, 180, 0, 45, 180, 0, 232, 42]
abbrev dktX0_doing_1 : List UInt8 := dkwX0_doing_1 ++ dktX0_doing_2
def dkwX0_doing_0 : List UInt8 := [27, 4, 8, 184, 0, 114, 153, 0, 13, 28, 3, 16, 20, 184, 0, 114, 154, 0, 5, 2, 172, 42]
abbrev dktX0_doing_0 : List UInt8 := dkwX0_doing_0 ++ dktX0_doing_1
theorem dksX0_doing_0 : cX0_doing.data.toList.drop 0 = dktX0_doing_0 := by decide +kernel
theorem dksX0_doing_1 : cX0_doing.data.toList.drop 22 = dktX0_doing_1 := dk_seg dksX0_doing_0 22 rfl rfl
theorem dksX0_doing_2 : cX0_doing.data.toList.drop 44 = dktX0_doing_2 := dk_seg dksX0_doing_1 22 rfl rfl
theorem dksX0_doing_3 : cX0_doing.data.toList.drop 68 = dktX0_doing_3 := dk_seg dksX0_doing_2 24 rfl rfl
theorem dX0_doing_0 : decode cX0_doing 0 = .ok (.iload_n 1, 1) := dk_27 (dk_at dksX0_doing_0 0 rfl rfl)
theorem dX0_doing_1 : decode cX0_doing 1 = .ok (.iconst 1, 1) := dk_4 (dk_at dksX0_doing_0 1 rfl rfl)
theorem dX0_doing_2 : decode cX0_doing 2 = .ok (.iconst 5, 1) := dk_8 (dk_at dksX0_doing_0 2 rfl rfl)
theorem dX0_doing_3 : decode cX0_doing 3 = .ok (.invokestatic 114, 3) := dk_184 0 114 (dk_at dksX0_doing_0 3 rfl rfl)
theorem dX0_doing_6 : decode cX0_doing 6 = .ok (.ifCond .eq 13, 3) := dk_153 0 13 (dk_at dksX0_doing_0 6 rfl rfl)
theorem dX0_doing_9 : decode cX0_doing 9 = .ok (.iload_n 2, 1) := dk_28 (dk_at dksX0_doing_0 9 rfl rfl)
theorem dX0_doing_10 : decode cX0_doing 10 = .ok (.iconst 0, 1) := dk_3 (dk_at dksX0_doing_0 10 rfl rfl)
theorem dX0_doing_11 : decode cX0_doing 11 = .ok (.bipush 20, 2) := dk_16 20 (dk_at dksX0_doing_0 11 rfl rfl)
theorem dX0_doing_13 : decode cX0_doing 13 = .ok (.invokestatic 114, 3) := dk_184 0 114 (dk_at dksX0_doing_0 13 rfl rfl)
theorem dX0_doing_16 : decode cX0_doing 16 = .ok (.ifCond .ne 5, 3) := dk_154 0 5 (dk_at dksX0_doing_0 16 rfl rfl)
theorem dX0_doing_19 : decode cX0_doing 19 = .ok (.iconst (-1), 1) := dk_2 (dk_at dksX0_doing_0 19 rfl rfl)
theorem dX0_doing_20 : decode cX0_doing 20 = .ok (.ireturn, 1) := dk_172 (dk_at dksX0_doing_0 20 rfl rfl)
theorem dX0_doing_21 : decode cX0_doing 21 = .ok (.aload_n 0, 1) := dk_42 (dk_at dksX0_doing_0 21 rfl rfl)
theorem dX0_doing_22 : decode cX0_doing 22 = .ok (.getfield 45, 3) := dk_180 0 45 (dk_at dksX0_doing_1 0 rfl rfl)
theorem dX0_doing_25 : decode cX0_doing 25 = .ok (.getfield 118, 3) := dk_180 0 118 (dk_at dksX0_doing_1 3 rfl rfl)
theorem dX0_doing_28 : decode cX0_doing 28 = .ok (.bipush 6, 2) := dk_16 6 (dk_at dksX0_doing_1 6 rfl rfl)
theorem dX0_doing_30 : decode cX0_doing 30 = .ok (.if_icmp .ne 6, 3) := dk_160 0 6 (dk_at dksX0_doing_1 8 rfl rfl)
theorem dX0_doing_33 : decode cX0_doing 33 = .ok (.bipush (-2), 2) := dk_16 254 (dk_at dksX0_doing_1 11 rfl rfl)
theorem dX0_doing_35 : decode cX0_doing 35 = .ok (.ireturn, 1) := dk_172 (dk_at dksX0_doing_1 13 rfl rfl)
theorem dX0_doing_36 : decode cX0_doing 36 = .ok (.aload_n 0, 1) := dk_42 (dk_at dksX0_doing_1 14 rfl rfl)
theorem dX0_doing_37 : decode cX0_doing 37 = .ok (.getfield 45, 3) := dk_180 0 45 (dk_at dksX0_doing_1 15 rfl rfl)
theorem dX0_doing_40 : decode cX0_doing 40 = .ok (.getfield 232, 3) := dk_180 0 232 (dk_at dksX0_doing_1 18 rfl rfl)
theorem dX0_doing_43 : decode cX0_doing 43 = .ok (.aload_n 0, 1) := dk_42 (dk_at dksX0_doing_1 21 rfl rfl)
theorem dX0_doing_44 : decode cX0_doing 44 = .ok (.getfield 45, 3) := dk_180 0 45 (dk_at dksX0_doing_2 0 rfl rfl)
theorem dX0_doing_47 : decode cX0_doing 47 = .ok (.getfield 118, 3) := dk_180 0 118 (dk_at dksX0_doing_2 3 rfl rfl)
theorem dX0_doing_50 : decode cX0_doing 50 = .ok (.iload_n 1, 1) := dk_27 (dk_at dksX0_doing_2 6 rfl rfl)
theorem dX0_doing_51 : decode cX0_doing 51 = .ok (.iastore, 1) := dk_79 (dk_at dksX0_doing_2 7 rfl rfl)
theorem dX0_doing_52 : decode cX0_doing 52 = .ok (.aload_n 0, 1) := dk_42 (dk_at dksX0_doing_2 8 rfl rfl)
theorem dX0_doing_53 : decode cX0_doing 53 = .ok (.getfield 45, 3) := dk_180 0 45 (dk_at dksX0_doing_2 9 rfl rfl)
theorem dX0_doing_56 : decode cX0_doing 56 = .ok (.getfield 235, 3) := dk_180 0 235 (dk_at dksX0_doing_2 12 rfl rfl)
theorem dX0_doing_59 : decode cX0_doing 59 = .ok (.aload_n 0, 1) := dk_42 (dk_at dksX0_doing_2 15 rfl rfl)
theorem dX0_doing_60 : decode cX0_doing 60 = .ok (.getfield 45, 3) := dk_180 0 45 (dk_at dksX0_doing_2 16 rfl rfl)
theorem dX0_doing_63 : decode cX0_doing 63 = .ok (.getfield 118, 3) := dk_180 0 118 (dk_at dksX0_doing_2 19 rfl rfl)
theorem dX0_doing_66 : decode cX0_doing 66 = .ok (.iload_n 2, 1) := dk_28 (dk_at dksX0_doing_2 22 rfl rfl)
theorem dX0_doing_67 : decode cX0_doing 67 = .ok (.iastore, 1) := dk_79 (dk_at dksX0_doing_2 23 rfl rfl)
theorem dX0_doing_68 : decode cX0_doing 68 = .ok (.aload_n 0, 1) := dk_42 (dk_at dksX0_doing_3 0 rfl rfl)
theorem dX0_doing_69 : decode cX0_doing 69 = .ok (.getfield 45, 3) := dk_180 0 45 (dk_at dksX0_doing_3 1 rfl rfl)
theorem dX0_doing_72 : decode cX0_doing 72 = .ok (.dup, 1) := dk_89 (dk_at dksX0_doing_3 4 rfl rfl)
theorem dX0_doing_73 : decode cX0_doing 73 = .ok (.getfield 118, 3) := dk_180 0 118 (dk_at dksX0_doing_3 5 rfl rfl)
theorem dX0_doing_76 : decode cX0_doing 76 = .ok (.iconst 1, 1) := dk_4 (dk_at dksX0_doing_3 8 rfl rfl)
theorem dX0_doing_77 : decode cX0_doing 77 = .ok (.iadd, 1) := dk_96 (dk_at dksX0_doing_3 9 rfl rfl)
theorem dX0_doing_78 : decode cX0_doing 78 = .ok (.putfield 118, 3) := dk_181 0 118 (dk_at dksX0_doing_3 10 rfl rfl)
theorem dX0_doing_81 : decode cX0_doing 81 = .ok (.aload_n 0, 1) := dk_42 (dk_at dksX0_doing_3 13 rfl rfl)
theorem dX0_doing_82 : decode cX0_doing 82 = .ok (.getfield 45, 3) := dk_180 0 45 (dk_at dksX0_doing_3 14 rfl rfl)
theorem dX0_doing_85 : decode cX0_doing 85 = .ok (.getfield 118, 3) := dk_180 0 118 (dk_at dksX0_doing_3 17 rfl rfl)
theorem dX0_doing_88 : decode cX0_doing 88 = .ok (.iconst 1, 1) := dk_4 (dk_at dksX0_doing_3 20 rfl rfl)
theorem dX0_doing_89 : decode cX0_doing 89 = .ok (.isub, 1) := dk_100 (dk_at dksX0_doing_3 21 rfl rfl)
theorem dX0_doing_90 : decode cX0_doing 90 = .ok (.ireturn, 1) := dk_172 (dk_at dksX0_doing_3 22 rfl rfl)
abbrev cX0_doingOf : ByteArray := prog_1_method_28_code
def yX0_doingOf : MethodName := ⟨RX0, "doingOf", "(II)I"⟩
def dkwX0_doingOf_1 : List UInt8 := [46, 167, 0, 21, 28, 4, 160, 0, 15, 42, 180, 0, 45, 180, 0, 235, 27, 46, 167, 0, 4, 2, 172]
abbrev dktX0_doingOf_1 : List UInt8 := dkwX0_doingOf_1 ++ []
def dkwX0_doingOf_0 : List UInt8 := [42, 27, 182, 0, 238, 154, 0, 7, 2, 167, 0, 37, 28, 154, 0, 15, 42, 180, 0, 45, 180, 0, 232, 27]
abbrev dktX0_doingOf_0 : List UInt8 := dkwX0_doingOf_0 ++ dktX0_doingOf_1
theorem dksX0_doingOf_0 : cX0_doingOf.data.toList.drop 0 = dktX0_doingOf_0 := by decide +kernel
theorem dksX0_doingOf_1 : cX0_doingOf.data.toList.drop 24 = dktX0_doingOf_1 := dk_seg dksX0_doingOf_0 24 rfl rfl
theorem dX0_doingOf_0 : decode cX0_doingOf 0 = .ok (.aload_n 0, 1) := dk_42 (dk_at dksX0_doingOf_0 0 rfl rfl)
theorem dX0_doingOf_1 : decode cX0_doingOf 1 = .ok (.iload_n 1, 1) := dk_27 (dk_at dksX0_doingOf_0 1 rfl rfl)
theorem dX0_doingOf_2 : decode cX0_doingOf 2 = .ok (.invokevirtual 238, 3) := dk_182 0 238 (dk_at dksX0_doingOf_0 2 rfl rfl)
theorem dX0_doingOf_5 : decode cX0_doingOf 5 = .ok (.ifCond .ne 7, 3) := dk_154 0 7 (dk_at dksX0_doingOf_0 5 rfl rfl)
theorem dX0_doingOf_8 : decode cX0_doingOf 8 = .ok (.iconst (-1), 1) := dk_2 (dk_at dksX0_doingOf_0 8 rfl rfl)
theorem dX0_doingOf_9 : decode cX0_doingOf 9 = .ok (.goto 37, 3) := dk_167 0 37 (dk_at dksX0_doingOf_0 9 rfl rfl)
theorem dX0_doingOf_12 : decode cX0_doingOf 12 = .ok (.iload_n 2, 1) := dk_28 (dk_at dksX0_doingOf_0 12 rfl rfl)
theorem dX0_doingOf_13 : decode cX0_doingOf 13 = .ok (.ifCond .ne 15, 3) := dk_154 0 15 (dk_at dksX0_doingOf_0 13 rfl rfl)
theorem dX0_doingOf_16 : decode cX0_doingOf 16 = .ok (.aload_n 0, 1) := dk_42 (dk_at dksX0_doingOf_0 16 rfl rfl)
theorem dX0_doingOf_17 : decode cX0_doingOf 17 = .ok (.getfield 45, 3) := dk_180 0 45 (dk_at dksX0_doingOf_0 17 rfl rfl)
theorem dX0_doingOf_20 : decode cX0_doingOf 20 = .ok (.getfield 232, 3) := dk_180 0 232 (dk_at dksX0_doingOf_0 20 rfl rfl)
theorem dX0_doingOf_23 : decode cX0_doingOf 23 = .ok (.iload_n 1, 1) := dk_27 (dk_at dksX0_doingOf_0 23 rfl rfl)
theorem dX0_doingOf_24 : decode cX0_doingOf 24 = .ok (.iaload, 1) := dk_46 (dk_at dksX0_doingOf_1 0 rfl rfl)
theorem dX0_doingOf_25 : decode cX0_doingOf 25 = .ok (.goto 21, 3) := dk_167 0 21 (dk_at dksX0_doingOf_1 1 rfl rfl)
theorem dX0_doingOf_28 : decode cX0_doingOf 28 = .ok (.iload_n 2, 1) := dk_28 (dk_at dksX0_doingOf_1 4 rfl rfl)
theorem dX0_doingOf_29 : decode cX0_doingOf 29 = .ok (.iconst 1, 1) := dk_4 (dk_at dksX0_doingOf_1 5 rfl rfl)
theorem dX0_doingOf_30 : decode cX0_doingOf 30 = .ok (.if_icmp .ne 15, 3) := dk_160 0 15 (dk_at dksX0_doingOf_1 6 rfl rfl)
theorem dX0_doingOf_33 : decode cX0_doingOf 33 = .ok (.aload_n 0, 1) := dk_42 (dk_at dksX0_doingOf_1 9 rfl rfl)
theorem dX0_doingOf_34 : decode cX0_doingOf 34 = .ok (.getfield 45, 3) := dk_180 0 45 (dk_at dksX0_doingOf_1 10 rfl rfl)
theorem dX0_doingOf_37 : decode cX0_doingOf 37 = .ok (.getfield 235, 3) := dk_180 0 235 (dk_at dksX0_doingOf_1 13 rfl rfl)
theorem dX0_doingOf_40 : decode cX0_doingOf 40 = .ok (.iload_n 1, 1) := dk_27 (dk_at dksX0_doingOf_1 16 rfl rfl)
theorem dX0_doingOf_41 : decode cX0_doingOf 41 = .ok (.iaload, 1) := dk_46 (dk_at dksX0_doingOf_1 17 rfl rfl)
theorem dX0_doingOf_42 : decode cX0_doingOf 42 = .ok (.goto 4, 3) := dk_167 0 4 (dk_at dksX0_doingOf_1 18 rfl rfl)
theorem dX0_doingOf_45 : decode cX0_doingOf 45 = .ok (.iconst (-1), 1) := dk_2 (dk_at dksX0_doingOf_1 21 rfl rfl)
theorem dX0_doingOf_46 : decode cX0_doingOf 46 = .ok (.ireturn, 1) := dk_172 (dk_at dksX0_doingOf_1 22 rfl rfl)
abbrev cX0_isDoing : ByteArray := prog_1_method_8_code
def yX0_isDoing : MethodName := ⟨RX0, "isDoing", "(I)Z"⟩
def dkwX0_isDoing_0 : List UInt8 := [27, 3, 42, 180, 0, 45, 180, 0, 118, 4, 100, 184, 0, 114, 172]
abbrev dktX0_isDoing_0 : List UInt8 := dkwX0_isDoing_0 ++ []
theorem dksX0_isDoing_0 : cX0_isDoing.data.toList.drop 0 = dktX0_isDoing_0 := by decide +kernel
theorem dX0_isDoing_0 : decode cX0_isDoing 0 = .ok (.iload_n 1, 1) := dk_27 (dk_at dksX0_isDoing_0 0 rfl rfl)
theorem dX0_isDoing_1 : decode cX0_isDoing 1 = .ok (.iconst 0, 1) := dk_3 (dk_at dksX0_isDoing_0 1 rfl rfl)
theorem dX0_isDoing_2 : decode cX0_isDoing 2 = .ok (.aload_n 0, 1) := dk_42 (dk_at dksX0_isDoing_0 2 rfl rfl)
theorem dX0_isDoing_3 : decode cX0_isDoing 3 = .ok (.getfield 45, 3) := dk_180 0 45 (dk_at dksX0_isDoing_0 3 rfl rfl)
theorem dX0_isDoing_6 : decode cX0_isDoing 6 = .ok (.getfield 118, 3) := dk_180 0 118 (dk_at dksX0_isDoing_0 6 rfl rfl)
theorem dX0_isDoing_9 : decode cX0_isDoing 9 = .ok (.iconst 1, 1) := dk_4 (dk_at dksX0_isDoing_0 9 rfl rfl)
theorem dX0_isDoing_10 : decode cX0_isDoing 10 = .ok (.isub, 1) := dk_100 (dk_at dksX0_isDoing_0 10 rfl rfl)
theorem dX0_isDoing_11 : decode cX0_isDoing 11 = .ok (.invokestatic 114, 3) := dk_184 0 114 (dk_at dksX0_isDoing_0 11 rfl rfl)
theorem dX0_isDoing_14 : decode cX0_isDoing 14 = .ok (.ireturn, 1) := dk_172 (dk_at dksX0_isDoing_0 14 rfl rfl)
abbrev cX0_does : ByteArray := prog_1_method_29_code
def yX0_does : MethodName := ⟨RX0, "does", "(II)I"⟩
def dkwX0_does_2 : List UInt8 := [180, 0, 150, 28, 50, 182, 0, 241, 29, 42, 180, 0, 45, 182, 0, 221, 100, 172]
abbrev dktX0_does_2 : List UInt8 := dkwX0_does_2 ++ []
def dkwX0_does_1 : List UInt8 := [182, 0, 221, 62, 42, 180, 0, 38, 42, 180, 0, 45, 180, 0, 232, 27, 46, 50, 42, 180, 0, 45]
abbrev dktX0_does_1 : List UInt8 := dkwX0_does_1 ++ dktX0_does_2
def dkwX0_does_0 : List UInt8 := [42, 27, 182, 0, 238, 153, 0, 11, 42, 28, 182, 0, 147, 154, 0, 5, 2, 172, 42, 180, 0, 45]
abbrev dktX0_does_0 : List UInt8 := dkwX0_does_0 ++ dktX0_does_1
theorem dksX0_does_0 : cX0_does.data.toList.drop 0 = dktX0_does_0 := by decide +kernel
theorem dksX0_does_1 : cX0_does.data.toList.drop 22 = dktX0_does_1 := dk_seg dksX0_does_0 22 rfl rfl
theorem dksX0_does_2 : cX0_does.data.toList.drop 44 = dktX0_does_2 := dk_seg dksX0_does_1 22 rfl rfl
theorem dX0_does_0 : decode cX0_does 0 = .ok (.aload_n 0, 1) := dk_42 (dk_at dksX0_does_0 0 rfl rfl)
theorem dX0_does_1 : decode cX0_does 1 = .ok (.iload_n 1, 1) := dk_27 (dk_at dksX0_does_0 1 rfl rfl)
theorem dX0_does_2 : decode cX0_does 2 = .ok (.invokevirtual 238, 3) := dk_182 0 238 (dk_at dksX0_does_0 2 rfl rfl)
theorem dX0_does_5 : decode cX0_does 5 = .ok (.ifCond .eq 11, 3) := dk_153 0 11 (dk_at dksX0_does_0 5 rfl rfl)
theorem dX0_does_8 : decode cX0_does 8 = .ok (.aload_n 0, 1) := dk_42 (dk_at dksX0_does_0 8 rfl rfl)
theorem dX0_does_9 : decode cX0_does 9 = .ok (.iload_n 2, 1) := dk_28 (dk_at dksX0_does_0 9 rfl rfl)
theorem dX0_does_10 : decode cX0_does 10 = .ok (.invokevirtual 147, 3) := dk_182 0 147 (dk_at dksX0_does_0 10 rfl rfl)
theorem dX0_does_13 : decode cX0_does 13 = .ok (.ifCond .ne 5, 3) := dk_154 0 5 (dk_at dksX0_does_0 13 rfl rfl)
theorem dX0_does_16 : decode cX0_does 16 = .ok (.iconst (-1), 1) := dk_2 (dk_at dksX0_does_0 16 rfl rfl)
theorem dX0_does_17 : decode cX0_does 17 = .ok (.ireturn, 1) := dk_172 (dk_at dksX0_does_0 17 rfl rfl)
theorem dX0_does_18 : decode cX0_does 18 = .ok (.aload_n 0, 1) := dk_42 (dk_at dksX0_does_0 18 rfl rfl)
theorem dX0_does_19 : decode cX0_does 19 = .ok (.getfield 45, 3) := dk_180 0 45 (dk_at dksX0_does_0 19 rfl rfl)
theorem dX0_does_22 : decode cX0_does 22 = .ok (.invokevirtual 221, 3) := dk_182 0 221 (dk_at dksX0_does_1 0 rfl rfl)
theorem dX0_does_25 : decode cX0_does 25 = .ok (.istore_n 3, 1) := dk_62 (dk_at dksX0_does_1 3 rfl rfl)
theorem dX0_does_26 : decode cX0_does 26 = .ok (.aload_n 0, 1) := dk_42 (dk_at dksX0_does_1 4 rfl rfl)
theorem dX0_does_27 : decode cX0_does 27 = .ok (.getfield 38, 3) := dk_180 0 38 (dk_at dksX0_does_1 5 rfl rfl)
theorem dX0_does_30 : decode cX0_does 30 = .ok (.aload_n 0, 1) := dk_42 (dk_at dksX0_does_1 8 rfl rfl)
theorem dX0_does_31 : decode cX0_does 31 = .ok (.getfield 45, 3) := dk_180 0 45 (dk_at dksX0_does_1 9 rfl rfl)
theorem dX0_does_34 : decode cX0_does 34 = .ok (.getfield 232, 3) := dk_180 0 232 (dk_at dksX0_does_1 12 rfl rfl)
theorem dX0_does_37 : decode cX0_does 37 = .ok (.iload_n 1, 1) := dk_27 (dk_at dksX0_does_1 15 rfl rfl)
theorem dX0_does_38 : decode cX0_does 38 = .ok (.iaload, 1) := dk_46 (dk_at dksX0_does_1 16 rfl rfl)
theorem dX0_does_39 : decode cX0_does 39 = .ok (.aaload, 1) := dk_50 (dk_at dksX0_does_1 17 rfl rfl)
theorem dX0_does_40 : decode cX0_does 40 = .ok (.aload_n 0, 1) := dk_42 (dk_at dksX0_does_1 18 rfl rfl)
theorem dX0_does_41 : decode cX0_does 41 = .ok (.getfield 45, 3) := dk_180 0 45 (dk_at dksX0_does_1 19 rfl rfl)
theorem dX0_does_44 : decode cX0_does 44 = .ok (.getfield 150, 3) := dk_180 0 150 (dk_at dksX0_does_2 0 rfl rfl)
theorem dX0_does_47 : decode cX0_does 47 = .ok (.iload_n 2, 1) := dk_28 (dk_at dksX0_does_2 3 rfl rfl)
theorem dX0_does_48 : decode cX0_does 48 = .ok (.aaload, 1) := dk_50 (dk_at dksX0_does_2 4 rfl rfl)
theorem dX0_does_49 : decode cX0_does 49 = .ok (.invokevirtual 241, 3) := dk_182 0 241 (dk_at dksX0_does_2 5 rfl rfl)
theorem dX0_does_52 : decode cX0_does 52 = .ok (.iload_n 3, 1) := dk_29 (dk_at dksX0_does_2 8 rfl rfl)
theorem dX0_does_53 : decode cX0_does 53 = .ok (.aload_n 0, 1) := dk_42 (dk_at dksX0_does_2 9 rfl rfl)
theorem dX0_does_54 : decode cX0_does 54 = .ok (.getfield 45, 3) := dk_180 0 45 (dk_at dksX0_does_2 10 rfl rfl)
theorem dX0_does_57 : decode cX0_does 57 = .ok (.invokevirtual 221, 3) := dk_182 0 221 (dk_at dksX0_does_2 13 rfl rfl)
theorem dX0_does_60 : decode cX0_does 60 = .ok (.isub, 1) := dk_100 (dk_at dksX0_does_2 16 rfl rfl)
theorem dX0_does_61 : decode cX0_does 61 = .ok (.ireturn, 1) := dk_172 (dk_at dksX0_does_2 17 rfl rfl)
abbrev cX0_best : ByteArray := prog_1_method_33_code
def yX0_best : MethodName := ⟨RX0, "best", "(II)I"⟩
def dkwX0_best_2 : List UInt8 := [96, 167, 0, 7, 42, 180, 0, 255, 172]
abbrev dktX0_best_2 : List UInt8 := dkwX0_best_2 ++ []
def dkwX0_best_1 : List UInt8 := [3, 50, 42, 180, 0, 45, 182, 0, 229, 42, 3, 27, 182, 0, 251, 62, 28, 154, 0, 11, 29, 17, 3, 232]
abbrev dktX0_best_1 : List UInt8 := dkwX0_best_1 ++ dktX0_best_2
def dkwX0_best_0 : List UInt8 := [27, 4, 5, 184, 0, 114, 153, 0, 12, 28, 3, 4, 184, 0, 114, 154, 0, 5, 2, 172, 42, 180, 0, 55]
abbrev dktX0_best_0 : List UInt8 := dkwX0_best_0 ++ dktX0_best_1
theorem dksX0_best_0 : cX0_best.data.toList.drop 0 = dktX0_best_0 := by decide +kernel
theorem dksX0_best_1 : cX0_best.data.toList.drop 24 = dktX0_best_1 := dk_seg dksX0_best_0 24 rfl rfl
theorem dksX0_best_2 : cX0_best.data.toList.drop 48 = dktX0_best_2 := dk_seg dksX0_best_1 24 rfl rfl
theorem dX0_best_0 : decode cX0_best 0 = .ok (.iload_n 1, 1) := dk_27 (dk_at dksX0_best_0 0 rfl rfl)
theorem dX0_best_1 : decode cX0_best 1 = .ok (.iconst 1, 1) := dk_4 (dk_at dksX0_best_0 1 rfl rfl)
theorem dX0_best_2 : decode cX0_best 2 = .ok (.iconst 2, 1) := dk_5 (dk_at dksX0_best_0 2 rfl rfl)
theorem dX0_best_3 : decode cX0_best 3 = .ok (.invokestatic 114, 3) := dk_184 0 114 (dk_at dksX0_best_0 3 rfl rfl)
theorem dX0_best_6 : decode cX0_best 6 = .ok (.ifCond .eq 12, 3) := dk_153 0 12 (dk_at dksX0_best_0 6 rfl rfl)
theorem dX0_best_9 : decode cX0_best 9 = .ok (.iload_n 2, 1) := dk_28 (dk_at dksX0_best_0 9 rfl rfl)
theorem dX0_best_10 : decode cX0_best 10 = .ok (.iconst 0, 1) := dk_3 (dk_at dksX0_best_0 10 rfl rfl)
theorem dX0_best_11 : decode cX0_best 11 = .ok (.iconst 1, 1) := dk_4 (dk_at dksX0_best_0 11 rfl rfl)
theorem dX0_best_12 : decode cX0_best 12 = .ok (.invokestatic 114, 3) := dk_184 0 114 (dk_at dksX0_best_0 12 rfl rfl)
theorem dX0_best_15 : decode cX0_best 15 = .ok (.ifCond .ne 5, 3) := dk_154 0 5 (dk_at dksX0_best_0 15 rfl rfl)
theorem dX0_best_18 : decode cX0_best 18 = .ok (.iconst (-1), 1) := dk_2 (dk_at dksX0_best_0 18 rfl rfl)
theorem dX0_best_19 : decode cX0_best 19 = .ok (.ireturn, 1) := dk_172 (dk_at dksX0_best_0 19 rfl rfl)
theorem dX0_best_20 : decode cX0_best 20 = .ok (.aload_n 0, 1) := dk_42 (dk_at dksX0_best_0 20 rfl rfl)
theorem dX0_best_21 : decode cX0_best 21 = .ok (.getfield 55, 3) := dk_180 0 55 (dk_at dksX0_best_0 21 rfl rfl)
theorem dX0_best_24 : decode cX0_best 24 = .ok (.iconst 0, 1) := dk_3 (dk_at dksX0_best_1 0 rfl rfl)
theorem dX0_best_25 : decode cX0_best 25 = .ok (.aaload, 1) := dk_50 (dk_at dksX0_best_1 1 rfl rfl)
theorem dX0_best_26 : decode cX0_best 26 = .ok (.aload_n 0, 1) := dk_42 (dk_at dksX0_best_1 2 rfl rfl)
theorem dX0_best_27 : decode cX0_best 27 = .ok (.getfield 45, 3) := dk_180 0 45 (dk_at dksX0_best_1 3 rfl rfl)
theorem dX0_best_30 : decode cX0_best 30 = .ok (.invokevirtual 229, 3) := dk_182 0 229 (dk_at dksX0_best_1 6 rfl rfl)
theorem dX0_best_33 : decode cX0_best 33 = .ok (.aload_n 0, 1) := dk_42 (dk_at dksX0_best_1 9 rfl rfl)
theorem dX0_best_34 : decode cX0_best 34 = .ok (.iconst 0, 1) := dk_3 (dk_at dksX0_best_1 10 rfl rfl)
theorem dX0_best_35 : decode cX0_best 35 = .ok (.iload_n 1, 1) := dk_27 (dk_at dksX0_best_1 11 rfl rfl)
theorem dX0_best_36 : decode cX0_best 36 = .ok (.invokevirtual 251, 3) := dk_182 0 251 (dk_at dksX0_best_1 12 rfl rfl)
theorem dX0_best_39 : decode cX0_best 39 = .ok (.istore_n 3, 1) := dk_62 (dk_at dksX0_best_1 15 rfl rfl)
theorem dX0_best_40 : decode cX0_best 40 = .ok (.iload_n 2, 1) := dk_28 (dk_at dksX0_best_1 16 rfl rfl)
theorem dX0_best_41 : decode cX0_best 41 = .ok (.ifCond .ne 11, 3) := dk_154 0 11 (dk_at dksX0_best_1 17 rfl rfl)
theorem dX0_best_44 : decode cX0_best 44 = .ok (.iload_n 3, 1) := dk_29 (dk_at dksX0_best_1 20 rfl rfl)
theorem dX0_best_45 : decode cX0_best 45 = .ok (.sipush 1000, 3) := dk_17 3 232 (dk_at dksX0_best_1 21 rfl rfl)
theorem dX0_best_48 : decode cX0_best 48 = .ok (.iadd, 1) := dk_96 (dk_at dksX0_best_2 0 rfl rfl)
theorem dX0_best_49 : decode cX0_best 49 = .ok (.goto 7, 3) := dk_167 0 7 (dk_at dksX0_best_2 1 rfl rfl)
theorem dX0_best_52 : decode cX0_best 52 = .ok (.aload_n 0, 1) := dk_42 (dk_at dksX0_best_2 4 rfl rfl)
theorem dX0_best_53 : decode cX0_best 53 = .ok (.getfield 255, 3) := dk_180 0 255 (dk_at dksX0_best_2 5 rfl rfl)
theorem dX0_best_56 : decode cX0_best 56 = .ok (.ireturn, 1) := dk_172 (dk_at dksX0_best_2 8 rfl rfl)
abbrev cX0_mostBy : ByteArray := prog_1_method_32_code
def yX0_mostBy : MethodName := ⟨RX0, "mostBy", "(II)I"⟩
def dkwX0_mostBy_7 : List UInt8 := [21, 4, 181, 0, 255, 29, 172]
abbrev dktX0_mostBy_7 : List UInt8 := dkwX0_mostBy_7 ++ []
def dkwX0_mostBy_6 : List UInt8 := [155, 0, 9, 21, 6, 29, 164, 0, 10, 21, 6, 62, 21, 5, 54, 4, 132, 5, 1, 167, 255, 154, 42]
abbrev dktX0_mostBy_6 : List UInt8 := dkwX0_mostBy_6 ++ dktX0_mostBy_7
def dkwX0_mostBy_5 : List UInt8 := [3, 167, 0, 18, 42, 180, 0, 45, 180, 0, 235, 21, 5, 4, 100, 16, 8, 108, 46, 100, 54, 6, 21, 4]
abbrev dktX0_mostBy_5 : List UInt8 := dkwX0_mostBy_5 ++ dktX0_mostBy_6
def dkwX0_mostBy_4 : List UInt8 := [27, 4, 96, 50, 21, 5, 182, 0, 248, 42, 27, 4, 96, 28, 4, 100, 182, 0, 251, 21, 5, 154, 0, 7]
abbrev dktX0_mostBy_4 : List UInt8 := dkwX0_mostBy_4 ++ dktX0_mostBy_5
def dkwX0_mostBy_3 : List UInt8 := [104, 163, 0, 93, 42, 21, 5, 182, 0, 245, 153, 0, 78, 42, 42, 180, 0, 55, 27, 50, 42, 180, 0, 55]
abbrev dktX0_mostBy_3 : List UInt8 := dkwX0_mostBy_3 ++ dktX0_mostBy_4
def dkwX0_mostBy_2 : List UInt8 := [45, 182, 0, 224, 172, 3, 62, 2, 54, 4, 3, 54, 5, 21, 5, 16, 8, 42, 180, 0, 45, 180, 0, 118]
abbrev dktX0_mostBy_2 : List UInt8 := dkwX0_mostBy_2 ++ dktX0_mostBy_3
def dkwX0_mostBy_1 : List UInt8 := [21, 4, 42, 180, 0, 45, 180, 0, 205, 6, 46, 162, 0, 13, 45, 182, 0, 214, 132, 4, 1, 167, 255, 235]
abbrev dktX0_mostBy_1 : List UInt8 := dkwX0_mostBy_1 ++ dktX0_mostBy_2
def dkwX0_mostBy_0 : List UInt8 := [28, 154, 0, 52, 42, 180, 0, 55, 6, 50, 78, 45, 42, 180, 0, 55, 27, 50, 182, 0, 229, 3, 54, 4]
abbrev dktX0_mostBy_0 : List UInt8 := dkwX0_mostBy_0 ++ dktX0_mostBy_1
theorem dksX0_mostBy_0 : cX0_mostBy.data.toList.drop 0 = dktX0_mostBy_0 := by decide +kernel
theorem dksX0_mostBy_1 : cX0_mostBy.data.toList.drop 24 = dktX0_mostBy_1 := dk_seg dksX0_mostBy_0 24 rfl rfl
theorem dksX0_mostBy_2 : cX0_mostBy.data.toList.drop 48 = dktX0_mostBy_2 := dk_seg dksX0_mostBy_1 24 rfl rfl
theorem dksX0_mostBy_3 : cX0_mostBy.data.toList.drop 72 = dktX0_mostBy_3 := dk_seg dksX0_mostBy_2 24 rfl rfl
theorem dksX0_mostBy_4 : cX0_mostBy.data.toList.drop 96 = dktX0_mostBy_4 := dk_seg dksX0_mostBy_3 24 rfl rfl
theorem dksX0_mostBy_5 : cX0_mostBy.data.toList.drop 120 = dktX0_mostBy_5 := dk_seg dksX0_mostBy_4 24 rfl rfl
theorem dksX0_mostBy_6 : cX0_mostBy.data.toList.drop 144 = dktX0_mostBy_6 := dk_seg dksX0_mostBy_5 24 rfl rfl
theorem dksX0_mostBy_7 : cX0_mostBy.data.toList.drop 167 = dktX0_mostBy_7 := dk_seg dksX0_mostBy_6 23 rfl rfl
theorem dX0_mostBy_0 : decode cX0_mostBy 0 = .ok (.iload_n 2, 1) := dk_28 (dk_at dksX0_mostBy_0 0 rfl rfl)
theorem dX0_mostBy_1 : decode cX0_mostBy 1 = .ok (.ifCond .ne 52, 3) := dk_154 0 52 (dk_at dksX0_mostBy_0 1 rfl rfl)
theorem dX0_mostBy_4 : decode cX0_mostBy 4 = .ok (.aload_n 0, 1) := dk_42 (dk_at dksX0_mostBy_0 4 rfl rfl)
theorem dX0_mostBy_5 : decode cX0_mostBy 5 = .ok (.getfield 55, 3) := dk_180 0 55 (dk_at dksX0_mostBy_0 5 rfl rfl)
theorem dX0_mostBy_8 : decode cX0_mostBy 8 = .ok (.iconst 3, 1) := dk_6 (dk_at dksX0_mostBy_0 8 rfl rfl)
theorem dX0_mostBy_9 : decode cX0_mostBy 9 = .ok (.aaload, 1) := dk_50 (dk_at dksX0_mostBy_0 9 rfl rfl)
theorem dX0_mostBy_10 : decode cX0_mostBy 10 = .ok (.astore_n 3, 1) := dk_78 (dk_at dksX0_mostBy_0 10 rfl rfl)
theorem dX0_mostBy_11 : decode cX0_mostBy 11 = .ok (.aload_n 3, 1) := dk_45 (dk_at dksX0_mostBy_0 11 rfl rfl)
theorem dX0_mostBy_12 : decode cX0_mostBy 12 = .ok (.aload_n 0, 1) := dk_42 (dk_at dksX0_mostBy_0 12 rfl rfl)
theorem dX0_mostBy_13 : decode cX0_mostBy 13 = .ok (.getfield 55, 3) := dk_180 0 55 (dk_at dksX0_mostBy_0 13 rfl rfl)
theorem dX0_mostBy_16 : decode cX0_mostBy 16 = .ok (.iload_n 1, 1) := dk_27 (dk_at dksX0_mostBy_0 16 rfl rfl)
theorem dX0_mostBy_17 : decode cX0_mostBy 17 = .ok (.aaload, 1) := dk_50 (dk_at dksX0_mostBy_0 17 rfl rfl)
theorem dX0_mostBy_18 : decode cX0_mostBy 18 = .ok (.invokevirtual 229, 3) := dk_182 0 229 (dk_at dksX0_mostBy_0 18 rfl rfl)
theorem dX0_mostBy_21 : decode cX0_mostBy 21 = .ok (.iconst 0, 1) := dk_3 (dk_at dksX0_mostBy_0 21 rfl rfl)
theorem dX0_mostBy_22 : decode cX0_mostBy 22 = .ok (.istore 4, 2) := dk_54 4 (dk_at dksX0_mostBy_0 22 rfl rfl)
theorem dX0_mostBy_24 : decode cX0_mostBy 24 = .ok (.iload 4, 2) := dk_21 4 (dk_at dksX0_mostBy_1 0 rfl rfl)
theorem dX0_mostBy_26 : decode cX0_mostBy 26 = .ok (.aload_n 0, 1) := dk_42 (dk_at dksX0_mostBy_1 2 rfl rfl)
theorem dX0_mostBy_27 : decode cX0_mostBy 27 = .ok (.getfield 45, 3) := dk_180 0 45 (dk_at dksX0_mostBy_1 3 rfl rfl)
theorem dX0_mostBy_30 : decode cX0_mostBy 30 = .ok (.getfield 205, 3) := dk_180 0 205 (dk_at dksX0_mostBy_1 6 rfl rfl)
theorem dX0_mostBy_33 : decode cX0_mostBy 33 = .ok (.iconst 3, 1) := dk_6 (dk_at dksX0_mostBy_1 9 rfl rfl)
theorem dX0_mostBy_34 : decode cX0_mostBy 34 = .ok (.iaload, 1) := dk_46 (dk_at dksX0_mostBy_1 10 rfl rfl)
theorem dX0_mostBy_35 : decode cX0_mostBy 35 = .ok (.if_icmp .ge 13, 3) := dk_162 0 13 (dk_at dksX0_mostBy_1 11 rfl rfl)
theorem dX0_mostBy_38 : decode cX0_mostBy 38 = .ok (.aload_n 3, 1) := dk_45 (dk_at dksX0_mostBy_1 14 rfl rfl)
theorem dX0_mostBy_39 : decode cX0_mostBy 39 = .ok (.invokevirtual 214, 3) := dk_182 0 214 (dk_at dksX0_mostBy_1 15 rfl rfl)
theorem dX0_mostBy_42 : decode cX0_mostBy 42 = .ok (.iinc 4 1, 3) := dk_132 4 1 (dk_at dksX0_mostBy_1 18 rfl rfl)
theorem dX0_mostBy_45 : decode cX0_mostBy 45 = .ok (.goto (-21), 3) := dk_167 255 235 (dk_at dksX0_mostBy_1 21 rfl rfl)
theorem dX0_mostBy_48 : decode cX0_mostBy 48 = .ok (.aload_n 3, 1) := dk_45 (dk_at dksX0_mostBy_2 0 rfl rfl)
theorem dX0_mostBy_49 : decode cX0_mostBy 49 = .ok (.invokevirtual 224, 3) := dk_182 0 224 (dk_at dksX0_mostBy_2 1 rfl rfl)
theorem dX0_mostBy_52 : decode cX0_mostBy 52 = .ok (.ireturn, 1) := dk_172 (dk_at dksX0_mostBy_2 4 rfl rfl)
theorem dX0_mostBy_53 : decode cX0_mostBy 53 = .ok (.iconst 0, 1) := dk_3 (dk_at dksX0_mostBy_2 5 rfl rfl)
theorem dX0_mostBy_54 : decode cX0_mostBy 54 = .ok (.istore_n 3, 1) := dk_62 (dk_at dksX0_mostBy_2 6 rfl rfl)
theorem dX0_mostBy_55 : decode cX0_mostBy 55 = .ok (.iconst (-1), 1) := dk_2 (dk_at dksX0_mostBy_2 7 rfl rfl)
theorem dX0_mostBy_56 : decode cX0_mostBy 56 = .ok (.istore 4, 2) := dk_54 4 (dk_at dksX0_mostBy_2 8 rfl rfl)
theorem dX0_mostBy_58 : decode cX0_mostBy 58 = .ok (.iconst 0, 1) := dk_3 (dk_at dksX0_mostBy_2 10 rfl rfl)
theorem dX0_mostBy_59 : decode cX0_mostBy 59 = .ok (.istore 5, 2) := dk_54 5 (dk_at dksX0_mostBy_2 11 rfl rfl)
theorem dX0_mostBy_61 : decode cX0_mostBy 61 = .ok (.iload 5, 2) := dk_21 5 (dk_at dksX0_mostBy_2 13 rfl rfl)
theorem dX0_mostBy_63 : decode cX0_mostBy 63 = .ok (.bipush 8, 2) := dk_16 8 (dk_at dksX0_mostBy_2 15 rfl rfl)
theorem dX0_mostBy_65 : decode cX0_mostBy 65 = .ok (.aload_n 0, 1) := dk_42 (dk_at dksX0_mostBy_2 17 rfl rfl)
theorem dX0_mostBy_66 : decode cX0_mostBy 66 = .ok (.getfield 45, 3) := dk_180 0 45 (dk_at dksX0_mostBy_2 18 rfl rfl)
theorem dX0_mostBy_69 : decode cX0_mostBy 69 = .ok (.getfield 118, 3) := dk_180 0 118 (dk_at dksX0_mostBy_2 21 rfl rfl)
theorem dX0_mostBy_72 : decode cX0_mostBy 72 = .ok (.imul, 1) := dk_104 (dk_at dksX0_mostBy_3 0 rfl rfl)
theorem dX0_mostBy_73 : decode cX0_mostBy 73 = .ok (.if_icmp .gt 93, 3) := dk_163 0 93 (dk_at dksX0_mostBy_3 1 rfl rfl)
theorem dX0_mostBy_76 : decode cX0_mostBy 76 = .ok (.aload_n 0, 1) := dk_42 (dk_at dksX0_mostBy_3 4 rfl rfl)
theorem dX0_mostBy_77 : decode cX0_mostBy 77 = .ok (.iload 5, 2) := dk_21 5 (dk_at dksX0_mostBy_3 5 rfl rfl)
theorem dX0_mostBy_79 : decode cX0_mostBy 79 = .ok (.invokevirtual 245, 3) := dk_182 0 245 (dk_at dksX0_mostBy_3 7 rfl rfl)
theorem dX0_mostBy_82 : decode cX0_mostBy 82 = .ok (.ifCond .eq 78, 3) := dk_153 0 78 (dk_at dksX0_mostBy_3 10 rfl rfl)
theorem dX0_mostBy_85 : decode cX0_mostBy 85 = .ok (.aload_n 0, 1) := dk_42 (dk_at dksX0_mostBy_3 13 rfl rfl)
theorem dX0_mostBy_86 : decode cX0_mostBy 86 = .ok (.aload_n 0, 1) := dk_42 (dk_at dksX0_mostBy_3 14 rfl rfl)
theorem dX0_mostBy_87 : decode cX0_mostBy 87 = .ok (.getfield 55, 3) := dk_180 0 55 (dk_at dksX0_mostBy_3 15 rfl rfl)
theorem dX0_mostBy_90 : decode cX0_mostBy 90 = .ok (.iload_n 1, 1) := dk_27 (dk_at dksX0_mostBy_3 18 rfl rfl)
theorem dX0_mostBy_91 : decode cX0_mostBy 91 = .ok (.aaload, 1) := dk_50 (dk_at dksX0_mostBy_3 19 rfl rfl)
theorem dX0_mostBy_92 : decode cX0_mostBy 92 = .ok (.aload_n 0, 1) := dk_42 (dk_at dksX0_mostBy_3 20 rfl rfl)
theorem dX0_mostBy_93 : decode cX0_mostBy 93 = .ok (.getfield 55, 3) := dk_180 0 55 (dk_at dksX0_mostBy_3 21 rfl rfl)
theorem dX0_mostBy_96 : decode cX0_mostBy 96 = .ok (.iload_n 1, 1) := dk_27 (dk_at dksX0_mostBy_4 0 rfl rfl)
theorem dX0_mostBy_97 : decode cX0_mostBy 97 = .ok (.iconst 1, 1) := dk_4 (dk_at dksX0_mostBy_4 1 rfl rfl)
theorem dX0_mostBy_98 : decode cX0_mostBy 98 = .ok (.iadd, 1) := dk_96 (dk_at dksX0_mostBy_4 2 rfl rfl)
theorem dX0_mostBy_99 : decode cX0_mostBy 99 = .ok (.aaload, 1) := dk_50 (dk_at dksX0_mostBy_4 3 rfl rfl)
theorem dX0_mostBy_100 : decode cX0_mostBy 100 = .ok (.iload 5, 2) := dk_21 5 (dk_at dksX0_mostBy_4 4 rfl rfl)
theorem dX0_mostBy_102 : decode cX0_mostBy 102 = .ok (.invokevirtual 248, 3) := dk_182 0 248 (dk_at dksX0_mostBy_4 6 rfl rfl)
theorem dX0_mostBy_105 : decode cX0_mostBy 105 = .ok (.aload_n 0, 1) := dk_42 (dk_at dksX0_mostBy_4 9 rfl rfl)
theorem dX0_mostBy_106 : decode cX0_mostBy 106 = .ok (.iload_n 1, 1) := dk_27 (dk_at dksX0_mostBy_4 10 rfl rfl)
theorem dX0_mostBy_107 : decode cX0_mostBy 107 = .ok (.iconst 1, 1) := dk_4 (dk_at dksX0_mostBy_4 11 rfl rfl)
theorem dX0_mostBy_108 : decode cX0_mostBy 108 = .ok (.iadd, 1) := dk_96 (dk_at dksX0_mostBy_4 12 rfl rfl)
theorem dX0_mostBy_109 : decode cX0_mostBy 109 = .ok (.iload_n 2, 1) := dk_28 (dk_at dksX0_mostBy_4 13 rfl rfl)
theorem dX0_mostBy_110 : decode cX0_mostBy 110 = .ok (.iconst 1, 1) := dk_4 (dk_at dksX0_mostBy_4 14 rfl rfl)
theorem dX0_mostBy_111 : decode cX0_mostBy 111 = .ok (.isub, 1) := dk_100 (dk_at dksX0_mostBy_4 15 rfl rfl)
theorem dX0_mostBy_112 : decode cX0_mostBy 112 = .ok (.invokevirtual 251, 3) := dk_182 0 251 (dk_at dksX0_mostBy_4 16 rfl rfl)
theorem dX0_mostBy_115 : decode cX0_mostBy 115 = .ok (.iload 5, 2) := dk_21 5 (dk_at dksX0_mostBy_4 19 rfl rfl)
theorem dX0_mostBy_117 : decode cX0_mostBy 117 = .ok (.ifCond .ne 7, 3) := dk_154 0 7 (dk_at dksX0_mostBy_4 21 rfl rfl)
theorem dX0_mostBy_120 : decode cX0_mostBy 120 = .ok (.iconst 0, 1) := dk_3 (dk_at dksX0_mostBy_5 0 rfl rfl)
theorem dX0_mostBy_121 : decode cX0_mostBy 121 = .ok (.goto 18, 3) := dk_167 0 18 (dk_at dksX0_mostBy_5 1 rfl rfl)
theorem dX0_mostBy_124 : decode cX0_mostBy 124 = .ok (.aload_n 0, 1) := dk_42 (dk_at dksX0_mostBy_5 4 rfl rfl)
theorem dX0_mostBy_125 : decode cX0_mostBy 125 = .ok (.getfield 45, 3) := dk_180 0 45 (dk_at dksX0_mostBy_5 5 rfl rfl)
theorem dX0_mostBy_128 : decode cX0_mostBy 128 = .ok (.getfield 235, 3) := dk_180 0 235 (dk_at dksX0_mostBy_5 8 rfl rfl)
theorem dX0_mostBy_131 : decode cX0_mostBy 131 = .ok (.iload 5, 2) := dk_21 5 (dk_at dksX0_mostBy_5 11 rfl rfl)
theorem dX0_mostBy_133 : decode cX0_mostBy 133 = .ok (.iconst 1, 1) := dk_4 (dk_at dksX0_mostBy_5 13 rfl rfl)
theorem dX0_mostBy_134 : decode cX0_mostBy 134 = .ok (.isub, 1) := dk_100 (dk_at dksX0_mostBy_5 14 rfl rfl)
theorem dX0_mostBy_135 : decode cX0_mostBy 135 = .ok (.bipush 8, 2) := dk_16 8 (dk_at dksX0_mostBy_5 15 rfl rfl)
theorem dX0_mostBy_137 : decode cX0_mostBy 137 = .ok (.idiv, 1) := dk_108 (dk_at dksX0_mostBy_5 17 rfl rfl)
theorem dX0_mostBy_138 : decode cX0_mostBy 138 = .ok (.iaload, 1) := dk_46 (dk_at dksX0_mostBy_5 18 rfl rfl)
theorem dX0_mostBy_139 : decode cX0_mostBy 139 = .ok (.isub, 1) := dk_100 (dk_at dksX0_mostBy_5 19 rfl rfl)
theorem dX0_mostBy_140 : decode cX0_mostBy 140 = .ok (.istore 6, 2) := dk_54 6 (dk_at dksX0_mostBy_5 20 rfl rfl)
theorem dX0_mostBy_142 : decode cX0_mostBy 142 = .ok (.iload 4, 2) := dk_21 4 (dk_at dksX0_mostBy_5 22 rfl rfl)
theorem dX0_mostBy_144 : decode cX0_mostBy 144 = .ok (.ifCond .lt 9, 3) := dk_155 0 9 (dk_at dksX0_mostBy_6 0 rfl rfl)
theorem dX0_mostBy_147 : decode cX0_mostBy 147 = .ok (.iload 6, 2) := dk_21 6 (dk_at dksX0_mostBy_6 3 rfl rfl)
theorem dX0_mostBy_149 : decode cX0_mostBy 149 = .ok (.iload_n 3, 1) := dk_29 (dk_at dksX0_mostBy_6 5 rfl rfl)
theorem dX0_mostBy_150 : decode cX0_mostBy 150 = .ok (.if_icmp .le 10, 3) := dk_164 0 10 (dk_at dksX0_mostBy_6 6 rfl rfl)
theorem dX0_mostBy_153 : decode cX0_mostBy 153 = .ok (.iload 6, 2) := dk_21 6 (dk_at dksX0_mostBy_6 9 rfl rfl)
theorem dX0_mostBy_155 : decode cX0_mostBy 155 = .ok (.istore_n 3, 1) := dk_62 (dk_at dksX0_mostBy_6 11 rfl rfl)
theorem dX0_mostBy_156 : decode cX0_mostBy 156 = .ok (.iload 5, 2) := dk_21 5 (dk_at dksX0_mostBy_6 12 rfl rfl)
theorem dX0_mostBy_158 : decode cX0_mostBy 158 = .ok (.istore 4, 2) := dk_54 4 (dk_at dksX0_mostBy_6 14 rfl rfl)
theorem dX0_mostBy_160 : decode cX0_mostBy 160 = .ok (.iinc 5 1, 3) := dk_132 5 1 (dk_at dksX0_mostBy_6 16 rfl rfl)
theorem dX0_mostBy_163 : decode cX0_mostBy 163 = .ok (.goto (-102), 3) := dk_167 255 154 (dk_at dksX0_mostBy_6 19 rfl rfl)
theorem dX0_mostBy_166 : decode cX0_mostBy 166 = .ok (.aload_n 0, 1) := dk_42 (dk_at dksX0_mostBy_6 22 rfl rfl)
theorem dX0_mostBy_167 : decode cX0_mostBy 167 = .ok (.iload 4, 2) := dk_21 4 (dk_at dksX0_mostBy_7 0 rfl rfl)
theorem dX0_mostBy_169 : decode cX0_mostBy 169 = .ok (.putfield 255, 3) := dk_181 0 255 (dk_at dksX0_mostBy_7 2 rfl rfl)
theorem dX0_mostBy_172 : decode cX0_mostBy 172 = .ok (.iload_n 3, 1) := dk_29 (dk_at dksX0_mostBy_7 5 rfl rfl)
theorem dX0_mostBy_173 : decode cX0_mostBy 173 = .ok (.ireturn, 1) := dk_172 (dk_at dksX0_mostBy_7 6 rfl rfl)
abbrev cX0_isChoice : ByteArray := prog_1_method_31_code
def yX0_isChoice : MethodName := ⟨RX0, "isChoice", "(I)Z"⟩
def dkwX0_isChoice_1 : List UInt8 := [182, 0, 147, 153, 0, 7, 4, 167, 0, 4, 3, 172]
abbrev dktX0_isChoice_1 : List UInt8 := dkwX0_isChoice_1 ++ []
def dkwX0_isChoice_0 : List UInt8 := [27, 153, 0, 29, 42, 27, 4, 100, 16, 8, 108, 182, 0, 238, 153, 0, 20, 42, 27, 4, 100, 16, 8, 112]
abbrev dktX0_isChoice_0 : List UInt8 := dkwX0_isChoice_0 ++ dktX0_isChoice_1
theorem dksX0_isChoice_0 : cX0_isChoice.data.toList.drop 0 = dktX0_isChoice_0 := by decide +kernel
theorem dksX0_isChoice_1 : cX0_isChoice.data.toList.drop 24 = dktX0_isChoice_1 := dk_seg dksX0_isChoice_0 24 rfl rfl
theorem dX0_isChoice_0 : decode cX0_isChoice 0 = .ok (.iload_n 1, 1) := dk_27 (dk_at dksX0_isChoice_0 0 rfl rfl)
theorem dX0_isChoice_1 : decode cX0_isChoice 1 = .ok (.ifCond .eq 29, 3) := dk_153 0 29 (dk_at dksX0_isChoice_0 1 rfl rfl)
theorem dX0_isChoice_4 : decode cX0_isChoice 4 = .ok (.aload_n 0, 1) := dk_42 (dk_at dksX0_isChoice_0 4 rfl rfl)
theorem dX0_isChoice_5 : decode cX0_isChoice 5 = .ok (.iload_n 1, 1) := dk_27 (dk_at dksX0_isChoice_0 5 rfl rfl)
theorem dX0_isChoice_6 : decode cX0_isChoice 6 = .ok (.iconst 1, 1) := dk_4 (dk_at dksX0_isChoice_0 6 rfl rfl)
theorem dX0_isChoice_7 : decode cX0_isChoice 7 = .ok (.isub, 1) := dk_100 (dk_at dksX0_isChoice_0 7 rfl rfl)
theorem dX0_isChoice_8 : decode cX0_isChoice 8 = .ok (.bipush 8, 2) := dk_16 8 (dk_at dksX0_isChoice_0 8 rfl rfl)
theorem dX0_isChoice_10 : decode cX0_isChoice 10 = .ok (.idiv, 1) := dk_108 (dk_at dksX0_isChoice_0 10 rfl rfl)
theorem dX0_isChoice_11 : decode cX0_isChoice 11 = .ok (.invokevirtual 238, 3) := dk_182 0 238 (dk_at dksX0_isChoice_0 11 rfl rfl)
theorem dX0_isChoice_14 : decode cX0_isChoice 14 = .ok (.ifCond .eq 20, 3) := dk_153 0 20 (dk_at dksX0_isChoice_0 14 rfl rfl)
theorem dX0_isChoice_17 : decode cX0_isChoice 17 = .ok (.aload_n 0, 1) := dk_42 (dk_at dksX0_isChoice_0 17 rfl rfl)
theorem dX0_isChoice_18 : decode cX0_isChoice 18 = .ok (.iload_n 1, 1) := dk_27 (dk_at dksX0_isChoice_0 18 rfl rfl)
theorem dX0_isChoice_19 : decode cX0_isChoice 19 = .ok (.iconst 1, 1) := dk_4 (dk_at dksX0_isChoice_0 19 rfl rfl)
theorem dX0_isChoice_20 : decode cX0_isChoice 20 = .ok (.isub, 1) := dk_100 (dk_at dksX0_isChoice_0 20 rfl rfl)
theorem dX0_isChoice_21 : decode cX0_isChoice 21 = .ok (.bipush 8, 2) := dk_16 8 (dk_at dksX0_isChoice_0 21 rfl rfl)
theorem dX0_isChoice_23 : decode cX0_isChoice 23 = .ok (.irem, 1) := dk_112 (dk_at dksX0_isChoice_0 23 rfl rfl)
theorem dX0_isChoice_24 : decode cX0_isChoice 24 = .ok (.invokevirtual 147, 3) := dk_182 0 147 (dk_at dksX0_isChoice_1 0 rfl rfl)
theorem dX0_isChoice_27 : decode cX0_isChoice 27 = .ok (.ifCond .eq 7, 3) := dk_153 0 7 (dk_at dksX0_isChoice_1 3 rfl rfl)
theorem dX0_isChoice_30 : decode cX0_isChoice 30 = .ok (.iconst 1, 1) := dk_4 (dk_at dksX0_isChoice_1 6 rfl rfl)
theorem dX0_isChoice_31 : decode cX0_isChoice 31 = .ok (.goto 4, 3) := dk_167 0 4 (dk_at dksX0_isChoice_1 7 rfl rfl)
theorem dX0_isChoice_34 : decode cX0_isChoice 34 = .ok (.iconst 0, 1) := dk_3 (dk_at dksX0_isChoice_1 10 rfl rfl)
theorem dX0_isChoice_35 : decode cX0_isChoice 35 = .ok (.ireturn, 1) := dk_172 (dk_at dksX0_isChoice_1 11 rfl rfl)
abbrev cX0_goes : ByteArray := prog_1_method_30_code
def yX0_goes : MethodName := ⟨RX0, "goes", "(LCoatHoles$Cup;LCoatHoles$Cup;I)V"⟩
def dkwX0_goes_1 : List UInt8 := [16, 8, 108, 46, 50, 44, 180, 0, 150, 29, 4, 100, 16, 8, 112, 50, 182, 0, 241, 44, 182, 0, 214, 177]
abbrev dktX0_goes_1 : List UInt8 := dkwX0_goes_1 ++ []
def dkwX0_goes_0 : List UInt8 := [44, 43, 182, 0, 229, 29, 158, 0, 36, 42, 180, 0, 38, 42, 180, 0, 45, 180, 0, 232, 29, 4, 100]
abbrev dktX0_goes_0 : List UInt8 := dkwX0_goes_0 ++ dktX0_goes_1
theorem dksX0_goes_0 : cX0_goes.data.toList.drop 0 = dktX0_goes_0 := by decide +kernel
theorem dksX0_goes_1 : cX0_goes.data.toList.drop 23 = dktX0_goes_1 := dk_seg dksX0_goes_0 23 rfl rfl
theorem dX0_goes_0 : decode cX0_goes 0 = .ok (.aload_n 2, 1) := dk_44 (dk_at dksX0_goes_0 0 rfl rfl)
theorem dX0_goes_1 : decode cX0_goes 1 = .ok (.aload_n 1, 1) := dk_43 (dk_at dksX0_goes_0 1 rfl rfl)
theorem dX0_goes_2 : decode cX0_goes 2 = .ok (.invokevirtual 229, 3) := dk_182 0 229 (dk_at dksX0_goes_0 2 rfl rfl)
theorem dX0_goes_5 : decode cX0_goes 5 = .ok (.iload_n 3, 1) := dk_29 (dk_at dksX0_goes_0 5 rfl rfl)
theorem dX0_goes_6 : decode cX0_goes 6 = .ok (.ifCond .le 36, 3) := dk_158 0 36 (dk_at dksX0_goes_0 6 rfl rfl)
theorem dX0_goes_9 : decode cX0_goes 9 = .ok (.aload_n 0, 1) := dk_42 (dk_at dksX0_goes_0 9 rfl rfl)
theorem dX0_goes_10 : decode cX0_goes 10 = .ok (.getfield 38, 3) := dk_180 0 38 (dk_at dksX0_goes_0 10 rfl rfl)
theorem dX0_goes_13 : decode cX0_goes 13 = .ok (.aload_n 0, 1) := dk_42 (dk_at dksX0_goes_0 13 rfl rfl)
theorem dX0_goes_14 : decode cX0_goes 14 = .ok (.getfield 45, 3) := dk_180 0 45 (dk_at dksX0_goes_0 14 rfl rfl)
theorem dX0_goes_17 : decode cX0_goes 17 = .ok (.getfield 232, 3) := dk_180 0 232 (dk_at dksX0_goes_0 17 rfl rfl)
theorem dX0_goes_20 : decode cX0_goes 20 = .ok (.iload_n 3, 1) := dk_29 (dk_at dksX0_goes_0 20 rfl rfl)
theorem dX0_goes_21 : decode cX0_goes 21 = .ok (.iconst 1, 1) := dk_4 (dk_at dksX0_goes_0 21 rfl rfl)
theorem dX0_goes_22 : decode cX0_goes 22 = .ok (.isub, 1) := dk_100 (dk_at dksX0_goes_0 22 rfl rfl)
theorem dX0_goes_23 : decode cX0_goes 23 = .ok (.bipush 8, 2) := dk_16 8 (dk_at dksX0_goes_1 0 rfl rfl)
theorem dX0_goes_25 : decode cX0_goes 25 = .ok (.idiv, 1) := dk_108 (dk_at dksX0_goes_1 2 rfl rfl)
theorem dX0_goes_26 : decode cX0_goes 26 = .ok (.iaload, 1) := dk_46 (dk_at dksX0_goes_1 3 rfl rfl)
theorem dX0_goes_27 : decode cX0_goes 27 = .ok (.aaload, 1) := dk_50 (dk_at dksX0_goes_1 4 rfl rfl)
theorem dX0_goes_28 : decode cX0_goes 28 = .ok (.aload_n 2, 1) := dk_44 (dk_at dksX0_goes_1 5 rfl rfl)
theorem dX0_goes_29 : decode cX0_goes 29 = .ok (.getfield 150, 3) := dk_180 0 150 (dk_at dksX0_goes_1 6 rfl rfl)
theorem dX0_goes_32 : decode cX0_goes 32 = .ok (.iload_n 3, 1) := dk_29 (dk_at dksX0_goes_1 9 rfl rfl)
theorem dX0_goes_33 : decode cX0_goes 33 = .ok (.iconst 1, 1) := dk_4 (dk_at dksX0_goes_1 10 rfl rfl)
theorem dX0_goes_34 : decode cX0_goes 34 = .ok (.isub, 1) := dk_100 (dk_at dksX0_goes_1 11 rfl rfl)
theorem dX0_goes_35 : decode cX0_goes 35 = .ok (.bipush 8, 2) := dk_16 8 (dk_at dksX0_goes_1 12 rfl rfl)
theorem dX0_goes_37 : decode cX0_goes 37 = .ok (.irem, 1) := dk_112 (dk_at dksX0_goes_1 14 rfl rfl)
theorem dX0_goes_38 : decode cX0_goes 38 = .ok (.aaload, 1) := dk_50 (dk_at dksX0_goes_1 15 rfl rfl)
theorem dX0_goes_39 : decode cX0_goes 39 = .ok (.invokevirtual 241, 3) := dk_182 0 241 (dk_at dksX0_goes_1 16 rfl rfl)
theorem dX0_goes_42 : decode cX0_goes 42 = .ok (.aload_n 2, 1) := dk_44 (dk_at dksX0_goes_1 19 rfl rfl)
theorem dX0_goes_43 : decode cX0_goes 43 = .ok (.invokevirtual 214, 3) := dk_182 0 214 (dk_at dksX0_goes_1 20 rfl rfl)
theorem dX0_goes_46 : decode cX0_goes 46 = .ok (.return_, 1) := dk_177 (dk_at dksX0_goes_1 23 rfl rfl)
abbrev cX0_weigh : ByteArray := prog_1_method_34_code
def yX0_weigh : MethodName := ⟨RX0, "weigh", "(II)I"⟩
def dkwX0_weigh_1 : List UInt8 := [180, 0, 199, 27, 46, 62, 42, 180, 0, 45, 180, 0, 199, 27, 28, 79, 29, 172]
abbrev dktX0_weigh_1 : List UInt8 := dkwX0_weigh_1 ++ []
def dkwX0_weigh_0 : List UInt8 := [27, 184, 0, 139, 153, 0, 13, 28, 3, 16, 9, 184, 0, 114, 154, 0, 5, 2, 172, 42, 180, 0, 45]
abbrev dktX0_weigh_0 : List UInt8 := dkwX0_weigh_0 ++ dktX0_weigh_1
theorem dksX0_weigh_0 : cX0_weigh.data.toList.drop 0 = dktX0_weigh_0 := by decide +kernel
theorem dksX0_weigh_1 : cX0_weigh.data.toList.drop 23 = dktX0_weigh_1 := dk_seg dksX0_weigh_0 23 rfl rfl
theorem dX0_weigh_0 : decode cX0_weigh 0 = .ok (.iload_n 1, 1) := dk_27 (dk_at dksX0_weigh_0 0 rfl rfl)
theorem dX0_weigh_1 : decode cX0_weigh 1 = .ok (.invokestatic 139, 3) := dk_184 0 139 (dk_at dksX0_weigh_0 1 rfl rfl)
theorem dX0_weigh_4 : decode cX0_weigh 4 = .ok (.ifCond .eq 13, 3) := dk_153 0 13 (dk_at dksX0_weigh_0 4 rfl rfl)
theorem dX0_weigh_7 : decode cX0_weigh 7 = .ok (.iload_n 2, 1) := dk_28 (dk_at dksX0_weigh_0 7 rfl rfl)
theorem dX0_weigh_8 : decode cX0_weigh 8 = .ok (.iconst 0, 1) := dk_3 (dk_at dksX0_weigh_0 8 rfl rfl)
theorem dX0_weigh_9 : decode cX0_weigh 9 = .ok (.bipush 9, 2) := dk_16 9 (dk_at dksX0_weigh_0 9 rfl rfl)
theorem dX0_weigh_11 : decode cX0_weigh 11 = .ok (.invokestatic 114, 3) := dk_184 0 114 (dk_at dksX0_weigh_0 11 rfl rfl)
theorem dX0_weigh_14 : decode cX0_weigh 14 = .ok (.ifCond .ne 5, 3) := dk_154 0 5 (dk_at dksX0_weigh_0 14 rfl rfl)
theorem dX0_weigh_17 : decode cX0_weigh 17 = .ok (.iconst (-1), 1) := dk_2 (dk_at dksX0_weigh_0 17 rfl rfl)
theorem dX0_weigh_18 : decode cX0_weigh 18 = .ok (.ireturn, 1) := dk_172 (dk_at dksX0_weigh_0 18 rfl rfl)
theorem dX0_weigh_19 : decode cX0_weigh 19 = .ok (.aload_n 0, 1) := dk_42 (dk_at dksX0_weigh_0 19 rfl rfl)
theorem dX0_weigh_20 : decode cX0_weigh 20 = .ok (.getfield 45, 3) := dk_180 0 45 (dk_at dksX0_weigh_0 20 rfl rfl)
theorem dX0_weigh_23 : decode cX0_weigh 23 = .ok (.getfield 199, 3) := dk_180 0 199 (dk_at dksX0_weigh_1 0 rfl rfl)
theorem dX0_weigh_26 : decode cX0_weigh 26 = .ok (.iload_n 1, 1) := dk_27 (dk_at dksX0_weigh_1 3 rfl rfl)
theorem dX0_weigh_27 : decode cX0_weigh 27 = .ok (.iaload, 1) := dk_46 (dk_at dksX0_weigh_1 4 rfl rfl)
theorem dX0_weigh_28 : decode cX0_weigh 28 = .ok (.istore_n 3, 1) := dk_62 (dk_at dksX0_weigh_1 5 rfl rfl)
theorem dX0_weigh_29 : decode cX0_weigh 29 = .ok (.aload_n 0, 1) := dk_42 (dk_at dksX0_weigh_1 6 rfl rfl)
theorem dX0_weigh_30 : decode cX0_weigh 30 = .ok (.getfield 45, 3) := dk_180 0 45 (dk_at dksX0_weigh_1 7 rfl rfl)
theorem dX0_weigh_33 : decode cX0_weigh 33 = .ok (.getfield 199, 3) := dk_180 0 199 (dk_at dksX0_weigh_1 10 rfl rfl)
theorem dX0_weigh_36 : decode cX0_weigh 36 = .ok (.iload_n 1, 1) := dk_27 (dk_at dksX0_weigh_1 13 rfl rfl)
theorem dX0_weigh_37 : decode cX0_weigh 37 = .ok (.iload_n 2, 1) := dk_28 (dk_at dksX0_weigh_1 14 rfl rfl)
theorem dX0_weigh_38 : decode cX0_weigh 38 = .ok (.iastore, 1) := dk_79 (dk_at dksX0_weigh_1 15 rfl rfl)
theorem dX0_weigh_39 : decode cX0_weigh 39 = .ok (.iload_n 3, 1) := dk_29 (dk_at dksX0_weigh_1 16 rfl rfl)
theorem dX0_weigh_40 : decode cX0_weigh 40 = .ok (.ireturn, 1) := dk_172 (dk_at dksX0_weigh_1 17 rfl rfl)
abbrev cX0_look : ByteArray := prog_1_method_35_code
def yX0_look : MethodName := ⟨RX0, "look", "(IZ)I"⟩
def dkwX0_look_3 : List UInt8 := [180, 0, 45, 180, 1, 2, 172]
abbrev dktX0_look_3 : List UInt8 := dkwX0_look_3 ++ []
def dkwX0_look_2 : List UInt8 := [180, 0, 45, 180, 1, 2, 28, 84, 42, 180, 0, 45, 89, 180, 1, 2, 4, 96, 181, 1, 2, 42]
abbrev dktX0_look_2 : List UInt8 := dkwX0_look_2 ++ dktX0_look_3
def dkwX0_look_1 : List UInt8 := [42, 180, 0, 45, 180, 1, 5, 42, 180, 0, 45, 180, 1, 2, 27, 79, 42, 180, 0, 45, 180, 1, 8, 42]
abbrev dktX0_look_1 : List UInt8 := dkwX0_look_1 ++ dktX0_look_2
def dkwX0_look_0 : List UInt8 := [27, 184, 0, 139, 154, 0, 5, 2, 172, 42, 180, 0, 45, 180, 1, 2, 16, 8, 160, 0, 6, 16, 254, 172]
abbrev dktX0_look_0 : List UInt8 := dkwX0_look_0 ++ dktX0_look_1
theorem dksX0_look_0 : cX0_look.data.toList.drop 0 = dktX0_look_0 := by decide +kernel
theorem dksX0_look_1 : cX0_look.data.toList.drop 24 = dktX0_look_1 := dk_seg dksX0_look_0 24 rfl rfl
theorem dksX0_look_2 : cX0_look.data.toList.drop 48 = dktX0_look_2 := dk_seg dksX0_look_1 24 rfl rfl
theorem dksX0_look_3 : cX0_look.data.toList.drop 70 = dktX0_look_3 := dk_seg dksX0_look_2 22 rfl rfl
theorem dX0_look_0 : decode cX0_look 0 = .ok (.iload_n 1, 1) := dk_27 (dk_at dksX0_look_0 0 rfl rfl)
theorem dX0_look_1 : decode cX0_look 1 = .ok (.invokestatic 139, 3) := dk_184 0 139 (dk_at dksX0_look_0 1 rfl rfl)
theorem dX0_look_4 : decode cX0_look 4 = .ok (.ifCond .ne 5, 3) := dk_154 0 5 (dk_at dksX0_look_0 4 rfl rfl)
theorem dX0_look_7 : decode cX0_look 7 = .ok (.iconst (-1), 1) := dk_2 (dk_at dksX0_look_0 7 rfl rfl)
theorem dX0_look_8 : decode cX0_look 8 = .ok (.ireturn, 1) := dk_172 (dk_at dksX0_look_0 8 rfl rfl)
theorem dX0_look_9 : decode cX0_look 9 = .ok (.aload_n 0, 1) := dk_42 (dk_at dksX0_look_0 9 rfl rfl)
theorem dX0_look_10 : decode cX0_look 10 = .ok (.getfield 45, 3) := dk_180 0 45 (dk_at dksX0_look_0 10 rfl rfl)
theorem dX0_look_13 : decode cX0_look 13 = .ok (.getfield 258, 3) := dk_180 1 2 (dk_at dksX0_look_0 13 rfl rfl)
theorem dX0_look_16 : decode cX0_look 16 = .ok (.bipush 8, 2) := dk_16 8 (dk_at dksX0_look_0 16 rfl rfl)
theorem dX0_look_18 : decode cX0_look 18 = .ok (.if_icmp .ne 6, 3) := dk_160 0 6 (dk_at dksX0_look_0 18 rfl rfl)
theorem dX0_look_21 : decode cX0_look 21 = .ok (.bipush (-2), 2) := dk_16 254 (dk_at dksX0_look_0 21 rfl rfl)
theorem dX0_look_23 : decode cX0_look 23 = .ok (.ireturn, 1) := dk_172 (dk_at dksX0_look_0 23 rfl rfl)
theorem dX0_look_24 : decode cX0_look 24 = .ok (.aload_n 0, 1) := dk_42 (dk_at dksX0_look_1 0 rfl rfl)
theorem dX0_look_25 : decode cX0_look 25 = .ok (.getfield 45, 3) := dk_180 0 45 (dk_at dksX0_look_1 1 rfl rfl)
theorem dX0_look_28 : decode cX0_look 28 = .ok (.getfield 261, 3) := dk_180 1 5 (dk_at dksX0_look_1 4 rfl rfl)
theorem dX0_look_31 : decode cX0_look 31 = .ok (.aload_n 0, 1) := dk_42 (dk_at dksX0_look_1 7 rfl rfl)
theorem dX0_look_32 : decode cX0_look 32 = .ok (.getfield 45, 3) := dk_180 0 45 (dk_at dksX0_look_1 8 rfl rfl)
theorem dX0_look_35 : decode cX0_look 35 = .ok (.getfield 258, 3) := dk_180 1 2 (dk_at dksX0_look_1 11 rfl rfl)
theorem dX0_look_38 : decode cX0_look 38 = .ok (.iload_n 1, 1) := dk_27 (dk_at dksX0_look_1 14 rfl rfl)
theorem dX0_look_39 : decode cX0_look 39 = .ok (.iastore, 1) := dk_79 (dk_at dksX0_look_1 15 rfl rfl)
theorem dX0_look_40 : decode cX0_look 40 = .ok (.aload_n 0, 1) := dk_42 (dk_at dksX0_look_1 16 rfl rfl)
theorem dX0_look_41 : decode cX0_look 41 = .ok (.getfield 45, 3) := dk_180 0 45 (dk_at dksX0_look_1 17 rfl rfl)
theorem dX0_look_44 : decode cX0_look 44 = .ok (.getfield 264, 3) := dk_180 1 8 (dk_at dksX0_look_1 20 rfl rfl)
theorem dX0_look_47 : decode cX0_look 47 = .ok (.aload_n 0, 1) := dk_42 (dk_at dksX0_look_1 23 rfl rfl)
theorem dX0_look_48 : decode cX0_look 48 = .ok (.getfield 45, 3) := dk_180 0 45 (dk_at dksX0_look_2 0 rfl rfl)
theorem dX0_look_51 : decode cX0_look 51 = .ok (.getfield 258, 3) := dk_180 1 2 (dk_at dksX0_look_2 3 rfl rfl)
theorem dX0_look_54 : decode cX0_look 54 = .ok (.iload_n 2, 1) := dk_28 (dk_at dksX0_look_2 6 rfl rfl)
theorem dX0_look_55 : decode cX0_look 55 = .ok (.bastore, 1) := dk_84 (dk_at dksX0_look_2 7 rfl rfl)
theorem dX0_look_56 : decode cX0_look 56 = .ok (.aload_n 0, 1) := dk_42 (dk_at dksX0_look_2 8 rfl rfl)
theorem dX0_look_57 : decode cX0_look 57 = .ok (.getfield 45, 3) := dk_180 0 45 (dk_at dksX0_look_2 9 rfl rfl)
theorem dX0_look_60 : decode cX0_look 60 = .ok (.dup, 1) := dk_89 (dk_at dksX0_look_2 12 rfl rfl)
theorem dX0_look_61 : decode cX0_look 61 = .ok (.getfield 258, 3) := dk_180 1 2 (dk_at dksX0_look_2 13 rfl rfl)
theorem dX0_look_64 : decode cX0_look 64 = .ok (.iconst 1, 1) := dk_4 (dk_at dksX0_look_2 16 rfl rfl)
theorem dX0_look_65 : decode cX0_look 65 = .ok (.iadd, 1) := dk_96 (dk_at dksX0_look_2 17 rfl rfl)
theorem dX0_look_66 : decode cX0_look 66 = .ok (.putfield 258, 3) := dk_181 1 2 (dk_at dksX0_look_2 18 rfl rfl)
theorem dX0_look_69 : decode cX0_look 69 = .ok (.aload_n 0, 1) := dk_42 (dk_at dksX0_look_2 21 rfl rfl)
theorem dX0_look_70 : decode cX0_look 70 = .ok (.getfield 45, 3) := dk_180 0 45 (dk_at dksX0_look_3 0 rfl rfl)
theorem dX0_look_73 : decode cX0_look 73 = .ok (.getfield 258, 3) := dk_180 1 2 (dk_at dksX0_look_3 3 rfl rfl)
theorem dX0_look_76 : decode cX0_look 76 = .ok (.ireturn, 1) := dk_172 (dk_at dksX0_look_3 6 rfl rfl)
abbrev cX0_forget : ByteArray := prog_1_method_36_code
def yX0_forget : MethodName := ⟨RX0, "forget", "()I"⟩
def dkwX0_forget_0 : List UInt8 := [42, 180, 0, 45, 180, 1, 2, 60, 42, 180, 0, 45, 3, 181, 1, 2, 27, 172]
abbrev dktX0_forget_0 : List UInt8 := dkwX0_forget_0 ++ []
theorem dksX0_forget_0 : cX0_forget.data.toList.drop 0 = dktX0_forget_0 := by decide +kernel
theorem dX0_forget_0 : decode cX0_forget 0 = .ok (.aload_n 0, 1) := dk_42 (dk_at dksX0_forget_0 0 rfl rfl)
theorem dX0_forget_1 : decode cX0_forget 1 = .ok (.getfield 45, 3) := dk_180 0 45 (dk_at dksX0_forget_0 1 rfl rfl)
theorem dX0_forget_4 : decode cX0_forget 4 = .ok (.getfield 258, 3) := dk_180 1 2 (dk_at dksX0_forget_0 4 rfl rfl)
theorem dX0_forget_7 : decode cX0_forget 7 = .ok (.istore_n 1, 1) := dk_60 (dk_at dksX0_forget_0 7 rfl rfl)
theorem dX0_forget_8 : decode cX0_forget 8 = .ok (.aload_n 0, 1) := dk_42 (dk_at dksX0_forget_0 8 rfl rfl)
theorem dX0_forget_9 : decode cX0_forget 9 = .ok (.getfield 45, 3) := dk_180 0 45 (dk_at dksX0_forget_0 9 rfl rfl)
theorem dX0_forget_12 : decode cX0_forget 12 = .ok (.iconst 0, 1) := dk_3 (dk_at dksX0_forget_0 12 rfl rfl)
theorem dX0_forget_13 : decode cX0_forget 13 = .ok (.putfield 258, 3) := dk_181 1 2 (dk_at dksX0_forget_0 13 rfl rfl)
theorem dX0_forget_16 : decode cX0_forget 16 = .ok (.iload_n 1, 1) := dk_27 (dk_at dksX0_forget_0 16 rfl rfl)
theorem dX0_forget_17 : decode cX0_forget 17 = .ok (.ireturn, 1) := dk_172 (dk_at dksX0_forget_0 17 rfl rfl)
abbrev cX0_from : ByteArray := prog_1_method_40_code
def yX0_from : MethodName := ⟨RX0, "from", "(II)J"⟩
def dkwX0_from_1 : List UInt8 := [66, 33, 9, 148, 154, 0, 9, 20, 1, 26, 167, 0, 13, 42, 27, 182, 1, 16, 33, 28, 184, 1, 28, 173]
abbrev dktX0_from_1 : List UInt8 := dkwX0_from_1 ++ []
def dkwX0_from_0 : List UInt8 := [27, 184, 0, 139, 153, 0, 12, 28, 3, 4, 184, 0, 114, 154, 0, 7, 20, 1, 20, 173, 42, 182, 1, 22]
abbrev dktX0_from_0 : List UInt8 := dkwX0_from_0 ++ dktX0_from_1
theorem dksX0_from_0 : cX0_from.data.toList.drop 0 = dktX0_from_0 := by decide +kernel
theorem dksX0_from_1 : cX0_from.data.toList.drop 24 = dktX0_from_1 := dk_seg dksX0_from_0 24 rfl rfl
theorem dX0_from_0 : decode cX0_from 0 = .ok (.iload_n 1, 1) := dk_27 (dk_at dksX0_from_0 0 rfl rfl)
theorem dX0_from_1 : decode cX0_from 1 = .ok (.invokestatic 139, 3) := dk_184 0 139 (dk_at dksX0_from_0 1 rfl rfl)
theorem dX0_from_4 : decode cX0_from 4 = .ok (.ifCond .eq 12, 3) := dk_153 0 12 (dk_at dksX0_from_0 4 rfl rfl)
theorem dX0_from_7 : decode cX0_from 7 = .ok (.iload_n 2, 1) := dk_28 (dk_at dksX0_from_0 7 rfl rfl)
theorem dX0_from_8 : decode cX0_from 8 = .ok (.iconst 0, 1) := dk_3 (dk_at dksX0_from_0 8 rfl rfl)
theorem dX0_from_9 : decode cX0_from 9 = .ok (.iconst 1, 1) := dk_4 (dk_at dksX0_from_0 9 rfl rfl)
theorem dX0_from_10 : decode cX0_from 10 = .ok (.invokestatic 114, 3) := dk_184 0 114 (dk_at dksX0_from_0 10 rfl rfl)
theorem dX0_from_13 : decode cX0_from 13 = .ok (.ifCond .ne 7, 3) := dk_154 0 7 (dk_at dksX0_from_0 13 rfl rfl)
theorem dX0_from_16 : decode cX0_from 16 = .ok (.ldc2_w 276, 3) := dk_20 1 20 (dk_at dksX0_from_0 16 rfl rfl)
theorem dX0_from_19 : decode cX0_from 19 = .ok (.lreturn, 1) := dk_173 (dk_at dksX0_from_0 19 rfl rfl)
theorem dX0_from_20 : decode cX0_from 20 = .ok (.aload_n 0, 1) := dk_42 (dk_at dksX0_from_0 20 rfl rfl)
theorem dX0_from_21 : decode cX0_from 21 = .ok (.invokevirtual 278, 3) := dk_182 1 22 (dk_at dksX0_from_0 21 rfl rfl)
theorem dX0_from_24 : decode cX0_from 24 = .ok (.lstore_n 3, 1) := dk_66 (dk_at dksX0_from_1 0 rfl rfl)
theorem dX0_from_25 : decode cX0_from 25 = .ok (.lload_n 3, 1) := dk_33 (dk_at dksX0_from_1 1 rfl rfl)
theorem dX0_from_26 : decode cX0_from 26 = .ok (.lconst 0, 1) := dk_9 (dk_at dksX0_from_1 2 rfl rfl)
theorem dX0_from_27 : decode cX0_from 27 = .ok (.lcmp, 1) := dk_148 (dk_at dksX0_from_1 3 rfl rfl)
theorem dX0_from_28 : decode cX0_from 28 = .ok (.ifCond .ne 9, 3) := dk_154 0 9 (dk_at dksX0_from_1 4 rfl rfl)
theorem dX0_from_31 : decode cX0_from 31 = .ok (.ldc2_w 282, 3) := dk_20 1 26 (dk_at dksX0_from_1 7 rfl rfl)
theorem dX0_from_34 : decode cX0_from 34 = .ok (.goto 13, 3) := dk_167 0 13 (dk_at dksX0_from_1 10 rfl rfl)
theorem dX0_from_37 : decode cX0_from 37 = .ok (.aload_n 0, 1) := dk_42 (dk_at dksX0_from_1 13 rfl rfl)
theorem dX0_from_38 : decode cX0_from 38 = .ok (.iload_n 1, 1) := dk_27 (dk_at dksX0_from_1 14 rfl rfl)
theorem dX0_from_39 : decode cX0_from 39 = .ok (.invokevirtual 272, 3) := dk_182 1 16 (dk_at dksX0_from_1 15 rfl rfl)
theorem dX0_from_42 : decode cX0_from 42 = .ok (.lload_n 3, 1) := dk_33 (dk_at dksX0_from_1 18 rfl rfl)
theorem dX0_from_43 : decode cX0_from 43 = .ok (.iload_n 2, 1) := dk_28 (dk_at dksX0_from_1 19 rfl rfl)
theorem dX0_from_44 : decode cX0_from 44 = .ok (.invokestatic 284, 3) := dk_184 1 28 (dk_at dksX0_from_1 20 rfl rfl)
theorem dX0_from_47 : decode cX0_from 47 = .ok (.lreturn, 1) := dk_173 (dk_at dksX0_from_1 23 rfl rfl)
abbrev cX0_waysAll : ByteArray := prog_1_method_39_code
def yX0_waysAll : MethodName := ⟨RX0, "waysAll", "()J"⟩
def dkwX0_waysAll_1 : List UInt8 := [173]
abbrev dktX0_waysAll_1 : List UInt8 := dkwX0_waysAll_1 ++ []
def dkwX0_waysAll_0 : List UInt8 := [9, 64, 3, 62, 29, 7, 162, 0, 17, 31, 42, 29, 182, 1, 16, 97, 64, 132, 3, 1, 167, 255, 240, 31]
abbrev dktX0_waysAll_0 : List UInt8 := dkwX0_waysAll_0 ++ dktX0_waysAll_1
theorem dksX0_waysAll_0 : cX0_waysAll.data.toList.drop 0 = dktX0_waysAll_0 := by decide +kernel
theorem dksX0_waysAll_1 : cX0_waysAll.data.toList.drop 24 = dktX0_waysAll_1 := dk_seg dksX0_waysAll_0 24 rfl rfl
theorem dX0_waysAll_0 : decode cX0_waysAll 0 = .ok (.lconst 0, 1) := dk_9 (dk_at dksX0_waysAll_0 0 rfl rfl)
theorem dX0_waysAll_1 : decode cX0_waysAll 1 = .ok (.lstore_n 1, 1) := dk_64 (dk_at dksX0_waysAll_0 1 rfl rfl)
theorem dX0_waysAll_2 : decode cX0_waysAll 2 = .ok (.iconst 0, 1) := dk_3 (dk_at dksX0_waysAll_0 2 rfl rfl)
theorem dX0_waysAll_3 : decode cX0_waysAll 3 = .ok (.istore_n 3, 1) := dk_62 (dk_at dksX0_waysAll_0 3 rfl rfl)
theorem dX0_waysAll_4 : decode cX0_waysAll 4 = .ok (.iload_n 3, 1) := dk_29 (dk_at dksX0_waysAll_0 4 rfl rfl)
theorem dX0_waysAll_5 : decode cX0_waysAll 5 = .ok (.iconst 4, 1) := dk_7 (dk_at dksX0_waysAll_0 5 rfl rfl)
theorem dX0_waysAll_6 : decode cX0_waysAll 6 = .ok (.if_icmp .ge 17, 3) := dk_162 0 17 (dk_at dksX0_waysAll_0 6 rfl rfl)
theorem dX0_waysAll_9 : decode cX0_waysAll 9 = .ok (.lload_n 1, 1) := dk_31 (dk_at dksX0_waysAll_0 9 rfl rfl)
theorem dX0_waysAll_10 : decode cX0_waysAll 10 = .ok (.aload_n 0, 1) := dk_42 (dk_at dksX0_waysAll_0 10 rfl rfl)
theorem dX0_waysAll_11 : decode cX0_waysAll 11 = .ok (.iload_n 3, 1) := dk_29 (dk_at dksX0_waysAll_0 11 rfl rfl)
theorem dX0_waysAll_12 : decode cX0_waysAll 12 = .ok (.invokevirtual 272, 3) := dk_182 1 16 (dk_at dksX0_waysAll_0 12 rfl rfl)
theorem dX0_waysAll_15 : decode cX0_waysAll 15 = .ok (.ladd, 1) := dk_97 (dk_at dksX0_waysAll_0 15 rfl rfl)
theorem dX0_waysAll_16 : decode cX0_waysAll 16 = .ok (.lstore_n 1, 1) := dk_64 (dk_at dksX0_waysAll_0 16 rfl rfl)
theorem dX0_waysAll_17 : decode cX0_waysAll 17 = .ok (.iinc 3 1, 3) := dk_132 3 1 (dk_at dksX0_waysAll_0 17 rfl rfl)
theorem dX0_waysAll_20 : decode cX0_waysAll 20 = .ok (.goto (-16), 3) := dk_167 255 240 (dk_at dksX0_waysAll_0 20 rfl rfl)
theorem dX0_waysAll_23 : decode cX0_waysAll 23 = .ok (.lload_n 1, 1) := dk_31 (dk_at dksX0_waysAll_0 23 rfl rfl)
theorem dX0_waysAll_24 : decode cX0_waysAll 24 = .ok (.lreturn, 1) := dk_173 (dk_at dksX0_waysAll_1 0 rfl rfl)
abbrev cX0_waysFrom : ByteArray := prog_1_method_38_code
def yX0_waysFrom : MethodName := ⟨RX0, "waysFrom", "(I)J"⟩
def dkwX0_waysFrom_2 : List UInt8 := [51, 27, 182, 1, 12, 105, 65, 132, 4, 1, 167, 255, 213, 32, 173]
abbrev dktX0_waysFrom_2 : List UInt8 := dkwX0_waysFrom_2 ++ []
def dkwX0_waysFrom_1 : List UInt8 := [162, 0, 37, 32, 42, 42, 180, 0, 45, 180, 1, 5, 21, 4, 46, 42, 180, 0, 45, 180, 1, 8, 21, 4]
abbrev dktX0_waysFrom_1 : List UInt8 := dkwX0_waysFrom_1 ++ dktX0_waysFrom_2
def dkwX0_waysFrom_0 : List UInt8 := [42, 180, 0, 45, 180, 0, 199, 27, 46, 133, 65, 3, 54, 4, 21, 4, 42, 180, 0, 45, 180, 1, 2]
abbrev dktX0_waysFrom_0 : List UInt8 := dkwX0_waysFrom_0 ++ dktX0_waysFrom_1
theorem dksX0_waysFrom_0 : cX0_waysFrom.data.toList.drop 0 = dktX0_waysFrom_0 := by decide +kernel
theorem dksX0_waysFrom_1 : cX0_waysFrom.data.toList.drop 23 = dktX0_waysFrom_1 := dk_seg dksX0_waysFrom_0 23 rfl rfl
theorem dksX0_waysFrom_2 : cX0_waysFrom.data.toList.drop 47 = dktX0_waysFrom_2 := dk_seg dksX0_waysFrom_1 24 rfl rfl
theorem dX0_waysFrom_0 : decode cX0_waysFrom 0 = .ok (.aload_n 0, 1) := dk_42 (dk_at dksX0_waysFrom_0 0 rfl rfl)
theorem dX0_waysFrom_1 : decode cX0_waysFrom 1 = .ok (.getfield 45, 3) := dk_180 0 45 (dk_at dksX0_waysFrom_0 1 rfl rfl)
theorem dX0_waysFrom_4 : decode cX0_waysFrom 4 = .ok (.getfield 199, 3) := dk_180 0 199 (dk_at dksX0_waysFrom_0 4 rfl rfl)
theorem dX0_waysFrom_7 : decode cX0_waysFrom 7 = .ok (.iload_n 1, 1) := dk_27 (dk_at dksX0_waysFrom_0 7 rfl rfl)
theorem dX0_waysFrom_8 : decode cX0_waysFrom 8 = .ok (.iaload, 1) := dk_46 (dk_at dksX0_waysFrom_0 8 rfl rfl)
theorem dX0_waysFrom_9 : decode cX0_waysFrom 9 = .ok (.i2l, 1) := dk_133 (dk_at dksX0_waysFrom_0 9 rfl rfl)
theorem dX0_waysFrom_10 : decode cX0_waysFrom 10 = .ok (.lstore_n 2, 1) := dk_65 (dk_at dksX0_waysFrom_0 10 rfl rfl)
theorem dX0_waysFrom_11 : decode cX0_waysFrom 11 = .ok (.iconst 0, 1) := dk_3 (dk_at dksX0_waysFrom_0 11 rfl rfl)
theorem dX0_waysFrom_12 : decode cX0_waysFrom 12 = .ok (.istore 4, 2) := dk_54 4 (dk_at dksX0_waysFrom_0 12 rfl rfl)
theorem dX0_waysFrom_14 : decode cX0_waysFrom 14 = .ok (.iload 4, 2) := dk_21 4 (dk_at dksX0_waysFrom_0 14 rfl rfl)
theorem dX0_waysFrom_16 : decode cX0_waysFrom 16 = .ok (.aload_n 0, 1) := dk_42 (dk_at dksX0_waysFrom_0 16 rfl rfl)
theorem dX0_waysFrom_17 : decode cX0_waysFrom 17 = .ok (.getfield 45, 3) := dk_180 0 45 (dk_at dksX0_waysFrom_0 17 rfl rfl)
theorem dX0_waysFrom_20 : decode cX0_waysFrom 20 = .ok (.getfield 258, 3) := dk_180 1 2 (dk_at dksX0_waysFrom_0 20 rfl rfl)
theorem dX0_waysFrom_23 : decode cX0_waysFrom 23 = .ok (.if_icmp .ge 37, 3) := dk_162 0 37 (dk_at dksX0_waysFrom_1 0 rfl rfl)
theorem dX0_waysFrom_26 : decode cX0_waysFrom 26 = .ok (.lload_n 2, 1) := dk_32 (dk_at dksX0_waysFrom_1 3 rfl rfl)
theorem dX0_waysFrom_27 : decode cX0_waysFrom 27 = .ok (.aload_n 0, 1) := dk_42 (dk_at dksX0_waysFrom_1 4 rfl rfl)
theorem dX0_waysFrom_28 : decode cX0_waysFrom 28 = .ok (.aload_n 0, 1) := dk_42 (dk_at dksX0_waysFrom_1 5 rfl rfl)
theorem dX0_waysFrom_29 : decode cX0_waysFrom 29 = .ok (.getfield 45, 3) := dk_180 0 45 (dk_at dksX0_waysFrom_1 6 rfl rfl)
theorem dX0_waysFrom_32 : decode cX0_waysFrom 32 = .ok (.getfield 261, 3) := dk_180 1 5 (dk_at dksX0_waysFrom_1 9 rfl rfl)
theorem dX0_waysFrom_35 : decode cX0_waysFrom 35 = .ok (.iload 4, 2) := dk_21 4 (dk_at dksX0_waysFrom_1 12 rfl rfl)
theorem dX0_waysFrom_37 : decode cX0_waysFrom 37 = .ok (.iaload, 1) := dk_46 (dk_at dksX0_waysFrom_1 14 rfl rfl)
theorem dX0_waysFrom_38 : decode cX0_waysFrom 38 = .ok (.aload_n 0, 1) := dk_42 (dk_at dksX0_waysFrom_1 15 rfl rfl)
theorem dX0_waysFrom_39 : decode cX0_waysFrom 39 = .ok (.getfield 45, 3) := dk_180 0 45 (dk_at dksX0_waysFrom_1 16 rfl rfl)
theorem dX0_waysFrom_42 : decode cX0_waysFrom 42 = .ok (.getfield 264, 3) := dk_180 1 8 (dk_at dksX0_waysFrom_1 19 rfl rfl)
theorem dX0_waysFrom_45 : decode cX0_waysFrom 45 = .ok (.iload 4, 2) := dk_21 4 (dk_at dksX0_waysFrom_1 22 rfl rfl)
theorem dX0_waysFrom_47 : decode cX0_waysFrom 47 = .ok (.baload, 1) := dk_51 (dk_at dksX0_waysFrom_2 0 rfl rfl)
theorem dX0_waysFrom_48 : decode cX0_waysFrom 48 = .ok (.iload_n 1, 1) := dk_27 (dk_at dksX0_waysFrom_2 1 rfl rfl)
theorem dX0_waysFrom_49 : decode cX0_waysFrom 49 = .ok (.invokevirtual 268, 3) := dk_182 1 12 (dk_at dksX0_waysFrom_2 2 rfl rfl)
theorem dX0_waysFrom_52 : decode cX0_waysFrom 52 = .ok (.lmul, 1) := dk_105 (dk_at dksX0_waysFrom_2 5 rfl rfl)
theorem dX0_waysFrom_53 : decode cX0_waysFrom 53 = .ok (.lstore_n 2, 1) := dk_65 (dk_at dksX0_waysFrom_2 6 rfl rfl)
theorem dX0_waysFrom_54 : decode cX0_waysFrom 54 = .ok (.iinc 4 1, 3) := dk_132 4 1 (dk_at dksX0_waysFrom_2 7 rfl rfl)
theorem dX0_waysFrom_57 : decode cX0_waysFrom 57 = .ok (.goto (-43), 3) := dk_167 255 213 (dk_at dksX0_waysFrom_2 10 rfl rfl)
theorem dX0_waysFrom_60 : decode cX0_waysFrom 60 = .ok (.lload_n 2, 1) := dk_32 (dk_at dksX0_waysFrom_2 13 rfl rfl)
theorem dX0_waysFrom_61 : decode cX0_waysFrom 61 = .ok (.lreturn, 1) := dk_173 (dk_at dksX0_waysFrom_2 14 rfl rfl)
abbrev cX0_oddsOf : ByteArray := prog_1_method_37_code
def yX0_oddsOf : MethodName := ⟨RX0, "oddsOf", "(IZI)J"⟩
def dkwX0_oddsOf_1 : List UInt8 := [21, 4, 133, 167, 0, 9, 16, 12, 21, 4, 100, 133, 173]
abbrev dktX0_oddsOf_1 : List UInt8 := dkwX0_oddsOf_1 ++ []
def dkwX0_oddsOf_0 : List UInt8 := [42, 180, 0, 45, 180, 0, 205, 27, 29, 160, 0, 7, 4, 167, 0, 4, 5, 46, 54, 4, 28, 153, 0, 9]
abbrev dktX0_oddsOf_0 : List UInt8 := dkwX0_oddsOf_0 ++ dktX0_oddsOf_1
theorem dksX0_oddsOf_0 : cX0_oddsOf.data.toList.drop 0 = dktX0_oddsOf_0 := by decide +kernel
theorem dksX0_oddsOf_1 : cX0_oddsOf.data.toList.drop 24 = dktX0_oddsOf_1 := dk_seg dksX0_oddsOf_0 24 rfl rfl
theorem dX0_oddsOf_0 : decode cX0_oddsOf 0 = .ok (.aload_n 0, 1) := dk_42 (dk_at dksX0_oddsOf_0 0 rfl rfl)
theorem dX0_oddsOf_1 : decode cX0_oddsOf 1 = .ok (.getfield 45, 3) := dk_180 0 45 (dk_at dksX0_oddsOf_0 1 rfl rfl)
theorem dX0_oddsOf_4 : decode cX0_oddsOf 4 = .ok (.getfield 205, 3) := dk_180 0 205 (dk_at dksX0_oddsOf_0 4 rfl rfl)
theorem dX0_oddsOf_7 : decode cX0_oddsOf 7 = .ok (.iload_n 1, 1) := dk_27 (dk_at dksX0_oddsOf_0 7 rfl rfl)
theorem dX0_oddsOf_8 : decode cX0_oddsOf 8 = .ok (.iload_n 3, 1) := dk_29 (dk_at dksX0_oddsOf_0 8 rfl rfl)
theorem dX0_oddsOf_9 : decode cX0_oddsOf 9 = .ok (.if_icmp .ne 7, 3) := dk_160 0 7 (dk_at dksX0_oddsOf_0 9 rfl rfl)
theorem dX0_oddsOf_12 : decode cX0_oddsOf 12 = .ok (.iconst 1, 1) := dk_4 (dk_at dksX0_oddsOf_0 12 rfl rfl)
theorem dX0_oddsOf_13 : decode cX0_oddsOf 13 = .ok (.goto 4, 3) := dk_167 0 4 (dk_at dksX0_oddsOf_0 13 rfl rfl)
theorem dX0_oddsOf_16 : decode cX0_oddsOf 16 = .ok (.iconst 2, 1) := dk_5 (dk_at dksX0_oddsOf_0 16 rfl rfl)
theorem dX0_oddsOf_17 : decode cX0_oddsOf 17 = .ok (.iaload, 1) := dk_46 (dk_at dksX0_oddsOf_0 17 rfl rfl)
theorem dX0_oddsOf_18 : decode cX0_oddsOf 18 = .ok (.istore 4, 2) := dk_54 4 (dk_at dksX0_oddsOf_0 18 rfl rfl)
theorem dX0_oddsOf_20 : decode cX0_oddsOf 20 = .ok (.iload_n 2, 1) := dk_28 (dk_at dksX0_oddsOf_0 20 rfl rfl)
theorem dX0_oddsOf_21 : decode cX0_oddsOf 21 = .ok (.ifCond .eq 9, 3) := dk_153 0 9 (dk_at dksX0_oddsOf_0 21 rfl rfl)
theorem dX0_oddsOf_24 : decode cX0_oddsOf 24 = .ok (.iload 4, 2) := dk_21 4 (dk_at dksX0_oddsOf_1 0 rfl rfl)
theorem dX0_oddsOf_26 : decode cX0_oddsOf 26 = .ok (.i2l, 1) := dk_133 (dk_at dksX0_oddsOf_1 2 rfl rfl)
theorem dX0_oddsOf_27 : decode cX0_oddsOf 27 = .ok (.goto 9, 3) := dk_167 0 9 (dk_at dksX0_oddsOf_1 3 rfl rfl)
theorem dX0_oddsOf_30 : decode cX0_oddsOf 30 = .ok (.bipush 12, 2) := dk_16 12 (dk_at dksX0_oddsOf_1 6 rfl rfl)
theorem dX0_oddsOf_32 : decode cX0_oddsOf 32 = .ok (.iload 4, 2) := dk_21 4 (dk_at dksX0_oddsOf_1 8 rfl rfl)
theorem dX0_oddsOf_34 : decode cX0_oddsOf 34 = .ok (.isub, 1) := dk_100 (dk_at dksX0_oddsOf_1 10 rfl rfl)
theorem dX0_oddsOf_35 : decode cX0_oddsOf 35 = .ok (.i2l, 1) := dk_133 (dk_at dksX0_oddsOf_1 11 rfl rfl)
theorem dX0_oddsOf_36 : decode cX0_oddsOf 36 = .ok (.lreturn, 1) := dk_173 (dk_at dksX0_oddsOf_1 12 rfl rfl)
abbrev cX0_partOf : ByteArray := prog_1_method_4_code
def yX0_partOf : MethodName := ⟨RX0, "partOf", "(JJI)J"⟩
def dkwX0_partOf_0 : List UInt8 := [30, 32, 184, 0, 7, 55, 5, 21, 4, 154, 0, 10, 30, 22, 5, 109, 167, 0, 7, 32, 22, 5, 109, 173]
abbrev dktX0_partOf_0 : List UInt8 := dkwX0_partOf_0 ++ []
theorem dksX0_partOf_0 : cX0_partOf.data.toList.drop 0 = dktX0_partOf_0 := by decide +kernel
theorem dX0_partOf_0 : decode cX0_partOf 0 = .ok (.lload_n 0, 1) := dk_30 (dk_at dksX0_partOf_0 0 rfl rfl)
theorem dX0_partOf_1 : decode cX0_partOf 1 = .ok (.lload_n 2, 1) := dk_32 (dk_at dksX0_partOf_0 1 rfl rfl)
theorem dX0_partOf_2 : decode cX0_partOf 2 = .ok (.invokestatic 7, 3) := dk_184 0 7 (dk_at dksX0_partOf_0 2 rfl rfl)
theorem dX0_partOf_5 : decode cX0_partOf 5 = .ok (.lstore 5, 2) := dk_55 5 (dk_at dksX0_partOf_0 5 rfl rfl)
theorem dX0_partOf_7 : decode cX0_partOf 7 = .ok (.iload 4, 2) := dk_21 4 (dk_at dksX0_partOf_0 7 rfl rfl)
theorem dX0_partOf_9 : decode cX0_partOf 9 = .ok (.ifCond .ne 10, 3) := dk_154 0 10 (dk_at dksX0_partOf_0 9 rfl rfl)
theorem dX0_partOf_12 : decode cX0_partOf 12 = .ok (.lload_n 0, 1) := dk_30 (dk_at dksX0_partOf_0 12 rfl rfl)
theorem dX0_partOf_13 : decode cX0_partOf 13 = .ok (.lload 5, 2) := dk_22 5 (dk_at dksX0_partOf_0 13 rfl rfl)
theorem dX0_partOf_15 : decode cX0_partOf 15 = .ok (.ldiv, 1) := dk_109 (dk_at dksX0_partOf_0 15 rfl rfl)
theorem dX0_partOf_16 : decode cX0_partOf 16 = .ok (.goto 7, 3) := dk_167 0 7 (dk_at dksX0_partOf_0 16 rfl rfl)
theorem dX0_partOf_19 : decode cX0_partOf 19 = .ok (.lload_n 2, 1) := dk_32 (dk_at dksX0_partOf_0 19 rfl rfl)
theorem dX0_partOf_20 : decode cX0_partOf 20 = .ok (.lload 5, 2) := dk_22 5 (dk_at dksX0_partOf_0 20 rfl rfl)
theorem dX0_partOf_22 : decode cX0_partOf 22 = .ok (.ldiv, 1) := dk_109 (dk_at dksX0_partOf_0 22 rfl rfl)
theorem dX0_partOf_23 : decode cX0_partOf 23 = .ok (.lreturn, 1) := dk_173 (dk_at dksX0_partOf_0 23 rfl rfl)
abbrev cX0_common : ByteArray := prog_1_method_3_code
def yX0_common : MethodName := ⟨RX0, "common", "(JJ)J"⟩
def dkwX0_common_1 : List UInt8 := [55, 8, 22, 6, 55, 4, 22, 8, 55, 6, 167, 255, 234, 22, 4, 173]
abbrev dktX0_common_1 : List UInt8 := dkwX0_common_1 ++ []
def dkwX0_common_0 : List UInt8 := [30, 184, 0, 1, 55, 4, 32, 184, 0, 1, 55, 6, 22, 6, 9, 148, 153, 0, 21, 22, 4, 22, 6, 113]
abbrev dktX0_common_0 : List UInt8 := dkwX0_common_0 ++ dktX0_common_1
theorem dksX0_common_0 : cX0_common.data.toList.drop 0 = dktX0_common_0 := by decide +kernel
theorem dksX0_common_1 : cX0_common.data.toList.drop 24 = dktX0_common_1 := dk_seg dksX0_common_0 24 rfl rfl
theorem dX0_common_0 : decode cX0_common 0 = .ok (.lload_n 0, 1) := dk_30 (dk_at dksX0_common_0 0 rfl rfl)
theorem dX0_common_1 : decode cX0_common 1 = .ok (.invokestatic 1, 3) := dk_184 0 1 (dk_at dksX0_common_0 1 rfl rfl)
theorem dX0_common_4 : decode cX0_common 4 = .ok (.lstore 4, 2) := dk_55 4 (dk_at dksX0_common_0 4 rfl rfl)
theorem dX0_common_6 : decode cX0_common 6 = .ok (.lload_n 2, 1) := dk_32 (dk_at dksX0_common_0 6 rfl rfl)
theorem dX0_common_7 : decode cX0_common 7 = .ok (.invokestatic 1, 3) := dk_184 0 1 (dk_at dksX0_common_0 7 rfl rfl)
theorem dX0_common_10 : decode cX0_common 10 = .ok (.lstore 6, 2) := dk_55 6 (dk_at dksX0_common_0 10 rfl rfl)
theorem dX0_common_12 : decode cX0_common 12 = .ok (.lload 6, 2) := dk_22 6 (dk_at dksX0_common_0 12 rfl rfl)
theorem dX0_common_14 : decode cX0_common 14 = .ok (.lconst 0, 1) := dk_9 (dk_at dksX0_common_0 14 rfl rfl)
theorem dX0_common_15 : decode cX0_common 15 = .ok (.lcmp, 1) := dk_148 (dk_at dksX0_common_0 15 rfl rfl)
theorem dX0_common_16 : decode cX0_common 16 = .ok (.ifCond .eq 21, 3) := dk_153 0 21 (dk_at dksX0_common_0 16 rfl rfl)
theorem dX0_common_19 : decode cX0_common 19 = .ok (.lload 4, 2) := dk_22 4 (dk_at dksX0_common_0 19 rfl rfl)
theorem dX0_common_21 : decode cX0_common 21 = .ok (.lload 6, 2) := dk_22 6 (dk_at dksX0_common_0 21 rfl rfl)
theorem dX0_common_23 : decode cX0_common 23 = .ok (.lrem, 1) := dk_113 (dk_at dksX0_common_0 23 rfl rfl)
theorem dX0_common_24 : decode cX0_common 24 = .ok (.lstore 8, 2) := dk_55 8 (dk_at dksX0_common_1 0 rfl rfl)
theorem dX0_common_26 : decode cX0_common 26 = .ok (.lload 6, 2) := dk_22 6 (dk_at dksX0_common_1 2 rfl rfl)
theorem dX0_common_28 : decode cX0_common 28 = .ok (.lstore 4, 2) := dk_55 4 (dk_at dksX0_common_1 4 rfl rfl)
theorem dX0_common_30 : decode cX0_common 30 = .ok (.lload 8, 2) := dk_22 8 (dk_at dksX0_common_1 6 rfl rfl)
theorem dX0_common_32 : decode cX0_common 32 = .ok (.lstore 6, 2) := dk_55 6 (dk_at dksX0_common_1 8 rfl rfl)
theorem dX0_common_34 : decode cX0_common 34 = .ok (.goto (-22), 3) := dk_167 255 234 (dk_at dksX0_common_1 10 rfl rfl)
theorem dX0_common_37 : decode cX0_common 37 = .ok (.lload 4, 2) := dk_22 4 (dk_at dksX0_common_1 13 rfl rfl)
theorem dX0_common_39 : decode cX0_common 39 = .ok (.lreturn, 1) := dk_173 (dk_at dksX0_common_1 15 rfl rfl)
abbrev cX0_next : ByteArray := prog_1_method_42_code
def yX0_next : MethodName := ⟨RX0, "next", "()I"⟩
def dkwX0_next_2 : List UInt8 := [27, 172]
abbrev dktX0_next_2 : List UInt8 := dkwX0_next_2 ++ []
def dkwX0_next_1 : List UInt8 := [182, 1, 35, 42, 27, 182, 1, 35, 148, 158, 0, 7, 28, 167, 0, 4, 27, 60, 132, 2, 1, 167, 255, 228]
abbrev dktX0_next_1 : List UInt8 := dkwX0_next_1 ++ dktX0_next_2
def dkwX0_next_0 : List UInt8 := [42, 182, 1, 22, 9, 148, 154, 0, 6, 16, 253, 172, 3, 60, 4, 61, 28, 7, 162, 0, 29, 42, 28]
abbrev dktX0_next_0 : List UInt8 := dkwX0_next_0 ++ dktX0_next_1
theorem dksX0_next_0 : cX0_next.data.toList.drop 0 = dktX0_next_0 := by decide +kernel
theorem dksX0_next_1 : cX0_next.data.toList.drop 23 = dktX0_next_1 := dk_seg dksX0_next_0 23 rfl rfl
theorem dksX0_next_2 : cX0_next.data.toList.drop 47 = dktX0_next_2 := dk_seg dksX0_next_1 24 rfl rfl
theorem dX0_next_0 : decode cX0_next 0 = .ok (.aload_n 0, 1) := dk_42 (dk_at dksX0_next_0 0 rfl rfl)
theorem dX0_next_1 : decode cX0_next 1 = .ok (.invokevirtual 278, 3) := dk_182 1 22 (dk_at dksX0_next_0 1 rfl rfl)
theorem dX0_next_4 : decode cX0_next 4 = .ok (.lconst 0, 1) := dk_9 (dk_at dksX0_next_0 4 rfl rfl)
theorem dX0_next_5 : decode cX0_next 5 = .ok (.lcmp, 1) := dk_148 (dk_at dksX0_next_0 5 rfl rfl)
theorem dX0_next_6 : decode cX0_next 6 = .ok (.ifCond .ne 6, 3) := dk_154 0 6 (dk_at dksX0_next_0 6 rfl rfl)
theorem dX0_next_9 : decode cX0_next 9 = .ok (.bipush (-3), 2) := dk_16 253 (dk_at dksX0_next_0 9 rfl rfl)
theorem dX0_next_11 : decode cX0_next 11 = .ok (.ireturn, 1) := dk_172 (dk_at dksX0_next_0 11 rfl rfl)
theorem dX0_next_12 : decode cX0_next 12 = .ok (.iconst 0, 1) := dk_3 (dk_at dksX0_next_0 12 rfl rfl)
theorem dX0_next_13 : decode cX0_next 13 = .ok (.istore_n 1, 1) := dk_60 (dk_at dksX0_next_0 13 rfl rfl)
theorem dX0_next_14 : decode cX0_next 14 = .ok (.iconst 1, 1) := dk_4 (dk_at dksX0_next_0 14 rfl rfl)
theorem dX0_next_15 : decode cX0_next 15 = .ok (.istore_n 2, 1) := dk_61 (dk_at dksX0_next_0 15 rfl rfl)
theorem dX0_next_16 : decode cX0_next 16 = .ok (.iload_n 2, 1) := dk_28 (dk_at dksX0_next_0 16 rfl rfl)
theorem dX0_next_17 : decode cX0_next 17 = .ok (.iconst 4, 1) := dk_7 (dk_at dksX0_next_0 17 rfl rfl)
theorem dX0_next_18 : decode cX0_next 18 = .ok (.if_icmp .ge 29, 3) := dk_162 0 29 (dk_at dksX0_next_0 18 rfl rfl)
theorem dX0_next_21 : decode cX0_next 21 = .ok (.aload_n 0, 1) := dk_42 (dk_at dksX0_next_0 21 rfl rfl)
theorem dX0_next_22 : decode cX0_next 22 = .ok (.iload_n 2, 1) := dk_28 (dk_at dksX0_next_0 22 rfl rfl)
theorem dX0_next_23 : decode cX0_next 23 = .ok (.invokevirtual 291, 3) := dk_182 1 35 (dk_at dksX0_next_1 0 rfl rfl)
theorem dX0_next_26 : decode cX0_next 26 = .ok (.aload_n 0, 1) := dk_42 (dk_at dksX0_next_1 3 rfl rfl)
theorem dX0_next_27 : decode cX0_next 27 = .ok (.iload_n 1, 1) := dk_27 (dk_at dksX0_next_1 4 rfl rfl)
theorem dX0_next_28 : decode cX0_next 28 = .ok (.invokevirtual 291, 3) := dk_182 1 35 (dk_at dksX0_next_1 5 rfl rfl)
theorem dX0_next_31 : decode cX0_next 31 = .ok (.lcmp, 1) := dk_148 (dk_at dksX0_next_1 8 rfl rfl)
theorem dX0_next_32 : decode cX0_next 32 = .ok (.ifCond .le 7, 3) := dk_158 0 7 (dk_at dksX0_next_1 9 rfl rfl)
theorem dX0_next_35 : decode cX0_next 35 = .ok (.iload_n 2, 1) := dk_28 (dk_at dksX0_next_1 12 rfl rfl)
theorem dX0_next_36 : decode cX0_next 36 = .ok (.goto 4, 3) := dk_167 0 4 (dk_at dksX0_next_1 13 rfl rfl)
theorem dX0_next_39 : decode cX0_next 39 = .ok (.iload_n 1, 1) := dk_27 (dk_at dksX0_next_1 16 rfl rfl)
theorem dX0_next_40 : decode cX0_next 40 = .ok (.istore_n 1, 1) := dk_60 (dk_at dksX0_next_1 17 rfl rfl)
theorem dX0_next_41 : decode cX0_next 41 = .ok (.iinc 2 1, 3) := dk_132 2 1 (dk_at dksX0_next_1 18 rfl rfl)
theorem dX0_next_44 : decode cX0_next 44 = .ok (.goto (-28), 3) := dk_167 255 228 (dk_at dksX0_next_1 21 rfl rfl)
theorem dX0_next_47 : decode cX0_next 47 = .ok (.iload_n 1, 1) := dk_27 (dk_at dksX0_next_2 0 rfl rfl)
theorem dX0_next_48 : decode cX0_next 48 = .ok (.ireturn, 1) := dk_172 (dk_at dksX0_next_2 1 rfl rfl)
abbrev cX0_toldBy : ByteArray := prog_1_method_41_code
def yX0_toldBy : MethodName := ⟨RX0, "toldBy", "(I)J"⟩
def dkwX0_toldBy_2 : List UInt8 := [182, 1, 12, 105, 184, 1, 32, 55, 4, 132, 6, 1, 167, 255, 205, 32, 22, 4, 97, 173]
abbrev dktX0_toldBy_2 : List UInt8 := dkwX0_toldBy_2 ++ []
def dkwX0_toldBy_1 : List UInt8 := [21, 6, 182, 1, 12, 105, 184, 1, 32, 65, 22, 4, 42, 21, 6, 182, 1, 16, 42, 27, 3, 21, 6]
abbrev dktX0_toldBy_1 : List UInt8 := dkwX0_toldBy_1 ++ dktX0_toldBy_2
def dkwX0_toldBy_0 : List UInt8 := [9, 65, 9, 55, 4, 3, 54, 6, 21, 6, 7, 162, 0, 51, 32, 42, 21, 6, 182, 1, 16, 42, 27, 4]
abbrev dktX0_toldBy_0 : List UInt8 := dkwX0_toldBy_0 ++ dktX0_toldBy_1
theorem dksX0_toldBy_0 : cX0_toldBy.data.toList.drop 0 = dktX0_toldBy_0 := by decide +kernel
theorem dksX0_toldBy_1 : cX0_toldBy.data.toList.drop 24 = dktX0_toldBy_1 := dk_seg dksX0_toldBy_0 24 rfl rfl
theorem dksX0_toldBy_2 : cX0_toldBy.data.toList.drop 47 = dktX0_toldBy_2 := dk_seg dksX0_toldBy_1 23 rfl rfl
theorem dX0_toldBy_0 : decode cX0_toldBy 0 = .ok (.lconst 0, 1) := dk_9 (dk_at dksX0_toldBy_0 0 rfl rfl)
theorem dX0_toldBy_1 : decode cX0_toldBy 1 = .ok (.lstore_n 2, 1) := dk_65 (dk_at dksX0_toldBy_0 1 rfl rfl)
theorem dX0_toldBy_2 : decode cX0_toldBy 2 = .ok (.lconst 0, 1) := dk_9 (dk_at dksX0_toldBy_0 2 rfl rfl)
theorem dX0_toldBy_3 : decode cX0_toldBy 3 = .ok (.lstore 4, 2) := dk_55 4 (dk_at dksX0_toldBy_0 3 rfl rfl)
theorem dX0_toldBy_5 : decode cX0_toldBy 5 = .ok (.iconst 0, 1) := dk_3 (dk_at dksX0_toldBy_0 5 rfl rfl)
theorem dX0_toldBy_6 : decode cX0_toldBy 6 = .ok (.istore 6, 2) := dk_54 6 (dk_at dksX0_toldBy_0 6 rfl rfl)
theorem dX0_toldBy_8 : decode cX0_toldBy 8 = .ok (.iload 6, 2) := dk_21 6 (dk_at dksX0_toldBy_0 8 rfl rfl)
theorem dX0_toldBy_10 : decode cX0_toldBy 10 = .ok (.iconst 4, 1) := dk_7 (dk_at dksX0_toldBy_0 10 rfl rfl)
theorem dX0_toldBy_11 : decode cX0_toldBy 11 = .ok (.if_icmp .ge 51, 3) := dk_162 0 51 (dk_at dksX0_toldBy_0 11 rfl rfl)
theorem dX0_toldBy_14 : decode cX0_toldBy 14 = .ok (.lload_n 2, 1) := dk_32 (dk_at dksX0_toldBy_0 14 rfl rfl)
theorem dX0_toldBy_15 : decode cX0_toldBy 15 = .ok (.aload_n 0, 1) := dk_42 (dk_at dksX0_toldBy_0 15 rfl rfl)
theorem dX0_toldBy_16 : decode cX0_toldBy 16 = .ok (.iload 6, 2) := dk_21 6 (dk_at dksX0_toldBy_0 16 rfl rfl)
theorem dX0_toldBy_18 : decode cX0_toldBy 18 = .ok (.invokevirtual 272, 3) := dk_182 1 16 (dk_at dksX0_toldBy_0 18 rfl rfl)
theorem dX0_toldBy_21 : decode cX0_toldBy 21 = .ok (.aload_n 0, 1) := dk_42 (dk_at dksX0_toldBy_0 21 rfl rfl)
theorem dX0_toldBy_22 : decode cX0_toldBy 22 = .ok (.iload_n 1, 1) := dk_27 (dk_at dksX0_toldBy_0 22 rfl rfl)
theorem dX0_toldBy_23 : decode cX0_toldBy 23 = .ok (.iconst 1, 1) := dk_4 (dk_at dksX0_toldBy_0 23 rfl rfl)
theorem dX0_toldBy_24 : decode cX0_toldBy 24 = .ok (.iload 6, 2) := dk_21 6 (dk_at dksX0_toldBy_1 0 rfl rfl)
theorem dX0_toldBy_26 : decode cX0_toldBy 26 = .ok (.invokevirtual 268, 3) := dk_182 1 12 (dk_at dksX0_toldBy_1 2 rfl rfl)
theorem dX0_toldBy_29 : decode cX0_toldBy 29 = .ok (.lmul, 1) := dk_105 (dk_at dksX0_toldBy_1 5 rfl rfl)
theorem dX0_toldBy_30 : decode cX0_toldBy 30 = .ok (.invokestatic 288, 3) := dk_184 1 32 (dk_at dksX0_toldBy_1 6 rfl rfl)
theorem dX0_toldBy_33 : decode cX0_toldBy 33 = .ok (.lstore_n 2, 1) := dk_65 (dk_at dksX0_toldBy_1 9 rfl rfl)
theorem dX0_toldBy_34 : decode cX0_toldBy 34 = .ok (.lload 4, 2) := dk_22 4 (dk_at dksX0_toldBy_1 10 rfl rfl)
theorem dX0_toldBy_36 : decode cX0_toldBy 36 = .ok (.aload_n 0, 1) := dk_42 (dk_at dksX0_toldBy_1 12 rfl rfl)
theorem dX0_toldBy_37 : decode cX0_toldBy 37 = .ok (.iload 6, 2) := dk_21 6 (dk_at dksX0_toldBy_1 13 rfl rfl)
theorem dX0_toldBy_39 : decode cX0_toldBy 39 = .ok (.invokevirtual 272, 3) := dk_182 1 16 (dk_at dksX0_toldBy_1 15 rfl rfl)
theorem dX0_toldBy_42 : decode cX0_toldBy 42 = .ok (.aload_n 0, 1) := dk_42 (dk_at dksX0_toldBy_1 18 rfl rfl)
theorem dX0_toldBy_43 : decode cX0_toldBy 43 = .ok (.iload_n 1, 1) := dk_27 (dk_at dksX0_toldBy_1 19 rfl rfl)
theorem dX0_toldBy_44 : decode cX0_toldBy 44 = .ok (.iconst 0, 1) := dk_3 (dk_at dksX0_toldBy_1 20 rfl rfl)
theorem dX0_toldBy_45 : decode cX0_toldBy 45 = .ok (.iload 6, 2) := dk_21 6 (dk_at dksX0_toldBy_1 21 rfl rfl)
theorem dX0_toldBy_47 : decode cX0_toldBy 47 = .ok (.invokevirtual 268, 3) := dk_182 1 12 (dk_at dksX0_toldBy_2 0 rfl rfl)
theorem dX0_toldBy_50 : decode cX0_toldBy 50 = .ok (.lmul, 1) := dk_105 (dk_at dksX0_toldBy_2 3 rfl rfl)
theorem dX0_toldBy_51 : decode cX0_toldBy 51 = .ok (.invokestatic 288, 3) := dk_184 1 32 (dk_at dksX0_toldBy_2 4 rfl rfl)
theorem dX0_toldBy_54 : decode cX0_toldBy 54 = .ok (.lstore 4, 2) := dk_55 4 (dk_at dksX0_toldBy_2 7 rfl rfl)
theorem dX0_toldBy_56 : decode cX0_toldBy 56 = .ok (.iinc 6 1, 3) := dk_132 6 1 (dk_at dksX0_toldBy_2 9 rfl rfl)
theorem dX0_toldBy_59 : decode cX0_toldBy 59 = .ok (.goto (-51), 3) := dk_167 255 205 (dk_at dksX0_toldBy_2 12 rfl rfl)
theorem dX0_toldBy_62 : decode cX0_toldBy 62 = .ok (.lload_n 2, 1) := dk_32 (dk_at dksX0_toldBy_2 15 rfl rfl)
theorem dX0_toldBy_63 : decode cX0_toldBy 63 = .ok (.lload 4, 2) := dk_22 4 (dk_at dksX0_toldBy_2 16 rfl rfl)
theorem dX0_toldBy_65 : decode cX0_toldBy 65 = .ok (.ladd, 1) := dk_97 (dk_at dksX0_toldBy_2 18 rfl rfl)
theorem dX0_toldBy_66 : decode cX0_toldBy 66 = .ok (.lreturn, 1) := dk_173 (dk_at dksX0_toldBy_2 19 rfl rfl)
abbrev cX0_seed : ByteArray := prog_1_method_43_code
def yX0_seed : MethodName := ⟨RX0, "seed", "(I)I"⟩
def dkwX0_seed_0 : List UInt8 := [42, 180, 0, 45, 180, 1, 38, 61, 42, 180, 0, 45, 27, 181, 1, 38, 28, 172]
abbrev dktX0_seed_0 : List UInt8 := dkwX0_seed_0 ++ []
theorem dksX0_seed_0 : cX0_seed.data.toList.drop 0 = dktX0_seed_0 := by decide +kernel
theorem dX0_seed_0 : decode cX0_seed 0 = .ok (.aload_n 0, 1) := dk_42 (dk_at dksX0_seed_0 0 rfl rfl)
theorem dX0_seed_1 : decode cX0_seed 1 = .ok (.getfield 45, 3) := dk_180 0 45 (dk_at dksX0_seed_0 1 rfl rfl)
theorem dX0_seed_4 : decode cX0_seed 4 = .ok (.getfield 294, 3) := dk_180 1 38 (dk_at dksX0_seed_0 4 rfl rfl)
theorem dX0_seed_7 : decode cX0_seed 7 = .ok (.istore_n 2, 1) := dk_61 (dk_at dksX0_seed_0 7 rfl rfl)
theorem dX0_seed_8 : decode cX0_seed 8 = .ok (.aload_n 0, 1) := dk_42 (dk_at dksX0_seed_0 8 rfl rfl)
theorem dX0_seed_9 : decode cX0_seed 9 = .ok (.getfield 45, 3) := dk_180 0 45 (dk_at dksX0_seed_0 9 rfl rfl)
theorem dX0_seed_12 : decode cX0_seed 12 = .ok (.iload_n 1, 1) := dk_27 (dk_at dksX0_seed_0 12 rfl rfl)
theorem dX0_seed_13 : decode cX0_seed 13 = .ok (.putfield 294, 3) := dk_181 1 38 (dk_at dksX0_seed_0 13 rfl rfl)
theorem dX0_seed_16 : decode cX0_seed 16 = .ok (.iload_n 2, 1) := dk_28 (dk_at dksX0_seed_0 16 rfl rfl)
theorem dX0_seed_17 : decode cX0_seed 17 = .ok (.ireturn, 1) := dk_172 (dk_at dksX0_seed_0 17 rfl rfl)
abbrev cX0_blow : ByteArray := prog_1_method_44_code
def yX0_blow : MethodName := ⟨RX0, "blow", "()I"⟩
def dkwX0_blow_2 : List UInt8 := [180, 0, 45, 180, 0, 183, 27, 46, 4, 96, 184, 1, 42, 79, 27, 172]
abbrev dktX0_blow_2 : List UInt8 := dkwX0_blow_2 ++ []
def dkwX0_blow_1 : List UInt8 := [180, 0, 45, 180, 1, 38, 16, 16, 124, 7, 112, 60, 42, 180, 0, 45, 180, 0, 183, 27, 17, 3, 231, 42]
abbrev dktX0_blow_1 : List UInt8 := dkwX0_blow_1 ++ dktX0_blow_2
def dkwX0_blow_0 : List UInt8 := [42, 180, 0, 45, 42, 180, 0, 45, 180, 1, 38, 19, 1, 41, 104, 17, 48, 57, 96, 181, 1, 38, 42]
abbrev dktX0_blow_0 : List UInt8 := dkwX0_blow_0 ++ dktX0_blow_1
theorem dksX0_blow_0 : cX0_blow.data.toList.drop 0 = dktX0_blow_0 := by decide +kernel
theorem dksX0_blow_1 : cX0_blow.data.toList.drop 23 = dktX0_blow_1 := dk_seg dksX0_blow_0 23 rfl rfl
theorem dksX0_blow_2 : cX0_blow.data.toList.drop 47 = dktX0_blow_2 := dk_seg dksX0_blow_1 24 rfl rfl
theorem dX0_blow_0 : decode cX0_blow 0 = .ok (.aload_n 0, 1) := dk_42 (dk_at dksX0_blow_0 0 rfl rfl)
theorem dX0_blow_1 : decode cX0_blow 1 = .ok (.getfield 45, 3) := dk_180 0 45 (dk_at dksX0_blow_0 1 rfl rfl)
theorem dX0_blow_4 : decode cX0_blow 4 = .ok (.aload_n 0, 1) := dk_42 (dk_at dksX0_blow_0 4 rfl rfl)
theorem dX0_blow_5 : decode cX0_blow 5 = .ok (.getfield 45, 3) := dk_180 0 45 (dk_at dksX0_blow_0 5 rfl rfl)
theorem dX0_blow_8 : decode cX0_blow 8 = .ok (.getfield 294, 3) := dk_180 1 38 (dk_at dksX0_blow_0 8 rfl rfl)
theorem dX0_blow_11 : decode cX0_blow 11 = .ok (.ldc_w 297, 3) := dk_19 1 41 (dk_at dksX0_blow_0 11 rfl rfl)
theorem dX0_blow_14 : decode cX0_blow 14 = .ok (.imul, 1) := dk_104 (dk_at dksX0_blow_0 14 rfl rfl)
theorem dX0_blow_15 : decode cX0_blow 15 = .ok (.sipush 12345, 3) := dk_17 48 57 (dk_at dksX0_blow_0 15 rfl rfl)
theorem dX0_blow_18 : decode cX0_blow 18 = .ok (.iadd, 1) := dk_96 (dk_at dksX0_blow_0 18 rfl rfl)
theorem dX0_blow_19 : decode cX0_blow 19 = .ok (.putfield 294, 3) := dk_181 1 38 (dk_at dksX0_blow_0 19 rfl rfl)
theorem dX0_blow_22 : decode cX0_blow 22 = .ok (.aload_n 0, 1) := dk_42 (dk_at dksX0_blow_0 22 rfl rfl)
theorem dX0_blow_23 : decode cX0_blow 23 = .ok (.getfield 45, 3) := dk_180 0 45 (dk_at dksX0_blow_1 0 rfl rfl)
theorem dX0_blow_26 : decode cX0_blow 26 = .ok (.getfield 294, 3) := dk_180 1 38 (dk_at dksX0_blow_1 3 rfl rfl)
theorem dX0_blow_29 : decode cX0_blow 29 = .ok (.bipush 16, 2) := dk_16 16 (dk_at dksX0_blow_1 6 rfl rfl)
theorem dX0_blow_31 : decode cX0_blow 31 = .ok (.iushr, 1) := dk_124 (dk_at dksX0_blow_1 8 rfl rfl)
theorem dX0_blow_32 : decode cX0_blow 32 = .ok (.iconst 4, 1) := dk_7 (dk_at dksX0_blow_1 9 rfl rfl)
theorem dX0_blow_33 : decode cX0_blow 33 = .ok (.irem, 1) := dk_112 (dk_at dksX0_blow_1 10 rfl rfl)
theorem dX0_blow_34 : decode cX0_blow 34 = .ok (.istore_n 1, 1) := dk_60 (dk_at dksX0_blow_1 11 rfl rfl)
theorem dX0_blow_35 : decode cX0_blow 35 = .ok (.aload_n 0, 1) := dk_42 (dk_at dksX0_blow_1 12 rfl rfl)
theorem dX0_blow_36 : decode cX0_blow 36 = .ok (.getfield 45, 3) := dk_180 0 45 (dk_at dksX0_blow_1 13 rfl rfl)
theorem dX0_blow_39 : decode cX0_blow 39 = .ok (.getfield 183, 3) := dk_180 0 183 (dk_at dksX0_blow_1 16 rfl rfl)
theorem dX0_blow_42 : decode cX0_blow 42 = .ok (.iload_n 1, 1) := dk_27 (dk_at dksX0_blow_1 19 rfl rfl)
theorem dX0_blow_43 : decode cX0_blow 43 = .ok (.sipush 999, 3) := dk_17 3 231 (dk_at dksX0_blow_1 20 rfl rfl)
theorem dX0_blow_46 : decode cX0_blow 46 = .ok (.aload_n 0, 1) := dk_42 (dk_at dksX0_blow_1 23 rfl rfl)
theorem dX0_blow_47 : decode cX0_blow 47 = .ok (.getfield 45, 3) := dk_180 0 45 (dk_at dksX0_blow_2 0 rfl rfl)
theorem dX0_blow_50 : decode cX0_blow 50 = .ok (.getfield 183, 3) := dk_180 0 183 (dk_at dksX0_blow_2 3 rfl rfl)
theorem dX0_blow_53 : decode cX0_blow 53 = .ok (.iload_n 1, 1) := dk_27 (dk_at dksX0_blow_2 6 rfl rfl)
theorem dX0_blow_54 : decode cX0_blow 54 = .ok (.iaload, 1) := dk_46 (dk_at dksX0_blow_2 7 rfl rfl)
theorem dX0_blow_55 : decode cX0_blow 55 = .ok (.iconst 1, 1) := dk_4 (dk_at dksX0_blow_2 8 rfl rfl)
theorem dX0_blow_56 : decode cX0_blow 56 = .ok (.iadd, 1) := dk_96 (dk_at dksX0_blow_2 9 rfl rfl)
theorem dX0_blow_57 : decode cX0_blow 57 = .ok (.invokestatic 298, 3) := dk_184 1 42 (dk_at dksX0_blow_2 10 rfl rfl)
theorem dX0_blow_60 : decode cX0_blow 60 = .ok (.iastore, 1) := dk_79 (dk_at dksX0_blow_2 13 rfl rfl)
theorem dX0_blow_61 : decode cX0_blow 61 = .ok (.iload_n 1, 1) := dk_27 (dk_at dksX0_blow_2 14 rfl rfl)
theorem dX0_blow_62 : decode cX0_blow 62 = .ok (.ireturn, 1) := dk_172 (dk_at dksX0_blow_2 15 rfl rfl)
abbrev cX0_row : ByteArray := prog_1_method_47_code
def yX0_row : MethodName := ⟨RX0, "row", "(II)I"⟩
def dkwX0_row_1 : List UInt8 := [16, 247, 172]
abbrev dktX0_row_1 : List UInt8 := dkwX0_row_1 ++ []
def dkwX0_row_0 : List UInt8 := [42, 27, 28, 182, 1, 46, 153, 0, 17, 42, 180, 0, 74, 27, 50, 180, 1, 49, 28, 46, 167, 0, 5]
abbrev dktX0_row_0 : List UInt8 := dkwX0_row_0 ++ dktX0_row_1
theorem dksX0_row_0 : cX0_row.data.toList.drop 0 = dktX0_row_0 := by decide +kernel
theorem dksX0_row_1 : cX0_row.data.toList.drop 23 = dktX0_row_1 := dk_seg dksX0_row_0 23 rfl rfl
theorem dX0_row_0 : decode cX0_row 0 = .ok (.aload_n 0, 1) := dk_42 (dk_at dksX0_row_0 0 rfl rfl)
theorem dX0_row_1 : decode cX0_row 1 = .ok (.iload_n 1, 1) := dk_27 (dk_at dksX0_row_0 1 rfl rfl)
theorem dX0_row_2 : decode cX0_row 2 = .ok (.iload_n 2, 1) := dk_28 (dk_at dksX0_row_0 2 rfl rfl)
theorem dX0_row_3 : decode cX0_row 3 = .ok (.invokevirtual 302, 3) := dk_182 1 46 (dk_at dksX0_row_0 3 rfl rfl)
theorem dX0_row_6 : decode cX0_row 6 = .ok (.ifCond .eq 17, 3) := dk_153 0 17 (dk_at dksX0_row_0 6 rfl rfl)
theorem dX0_row_9 : decode cX0_row 9 = .ok (.aload_n 0, 1) := dk_42 (dk_at dksX0_row_0 9 rfl rfl)
theorem dX0_row_10 : decode cX0_row 10 = .ok (.getfield 74, 3) := dk_180 0 74 (dk_at dksX0_row_0 10 rfl rfl)
theorem dX0_row_13 : decode cX0_row 13 = .ok (.iload_n 1, 1) := dk_27 (dk_at dksX0_row_0 13 rfl rfl)
theorem dX0_row_14 : decode cX0_row 14 = .ok (.aaload, 1) := dk_50 (dk_at dksX0_row_0 14 rfl rfl)
theorem dX0_row_15 : decode cX0_row 15 = .ok (.getfield 305, 3) := dk_180 1 49 (dk_at dksX0_row_0 15 rfl rfl)
theorem dX0_row_18 : decode cX0_row 18 = .ok (.iload_n 2, 1) := dk_28 (dk_at dksX0_row_0 18 rfl rfl)
theorem dX0_row_19 : decode cX0_row 19 = .ok (.iaload, 1) := dk_46 (dk_at dksX0_row_0 19 rfl rfl)
theorem dX0_row_20 : decode cX0_row 20 = .ok (.goto 5, 3) := dk_167 0 5 (dk_at dksX0_row_0 20 rfl rfl)
theorem dX0_row_23 : decode cX0_row 23 = .ok (.bipush (-9), 2) := dk_16 247 (dk_at dksX0_row_1 0 rfl rfl)
theorem dX0_row_25 : decode cX0_row 25 = .ok (.ireturn, 1) := dk_172 (dk_at dksX0_row_1 2 rfl rfl)
abbrev cX0_isCell : ByteArray := prog_1_method_46_code
def yX0_isCell : MethodName := ⟨RX0, "isCell", "(II)Z"⟩
def dkwX0_isCell_1 : List UInt8 := [167, 0, 4, 3, 172]
abbrev dktX0_isCell_1 : List UInt8 := dkwX0_isCell_1 ++ []
def dkwX0_isCell_0 : List UInt8 := [27, 3, 42, 180, 0, 136, 4, 100, 184, 0, 114, 153, 0, 16, 28, 3, 5, 184, 0, 114, 153, 0, 7, 4]
abbrev dktX0_isCell_0 : List UInt8 := dkwX0_isCell_0 ++ dktX0_isCell_1
theorem dksX0_isCell_0 : cX0_isCell.data.toList.drop 0 = dktX0_isCell_0 := by decide +kernel
theorem dksX0_isCell_1 : cX0_isCell.data.toList.drop 24 = dktX0_isCell_1 := dk_seg dksX0_isCell_0 24 rfl rfl
theorem dX0_isCell_0 : decode cX0_isCell 0 = .ok (.iload_n 1, 1) := dk_27 (dk_at dksX0_isCell_0 0 rfl rfl)
theorem dX0_isCell_1 : decode cX0_isCell 1 = .ok (.iconst 0, 1) := dk_3 (dk_at dksX0_isCell_0 1 rfl rfl)
theorem dX0_isCell_2 : decode cX0_isCell 2 = .ok (.aload_n 0, 1) := dk_42 (dk_at dksX0_isCell_0 2 rfl rfl)
theorem dX0_isCell_3 : decode cX0_isCell 3 = .ok (.getfield 136, 3) := dk_180 0 136 (dk_at dksX0_isCell_0 3 rfl rfl)
theorem dX0_isCell_6 : decode cX0_isCell 6 = .ok (.iconst 1, 1) := dk_4 (dk_at dksX0_isCell_0 6 rfl rfl)
theorem dX0_isCell_7 : decode cX0_isCell 7 = .ok (.isub, 1) := dk_100 (dk_at dksX0_isCell_0 7 rfl rfl)
theorem dX0_isCell_8 : decode cX0_isCell 8 = .ok (.invokestatic 114, 3) := dk_184 0 114 (dk_at dksX0_isCell_0 8 rfl rfl)
theorem dX0_isCell_11 : decode cX0_isCell 11 = .ok (.ifCond .eq 16, 3) := dk_153 0 16 (dk_at dksX0_isCell_0 11 rfl rfl)
theorem dX0_isCell_14 : decode cX0_isCell 14 = .ok (.iload_n 2, 1) := dk_28 (dk_at dksX0_isCell_0 14 rfl rfl)
theorem dX0_isCell_15 : decode cX0_isCell 15 = .ok (.iconst 0, 1) := dk_3 (dk_at dksX0_isCell_0 15 rfl rfl)
theorem dX0_isCell_16 : decode cX0_isCell 16 = .ok (.iconst 2, 1) := dk_5 (dk_at dksX0_isCell_0 16 rfl rfl)
theorem dX0_isCell_17 : decode cX0_isCell 17 = .ok (.invokestatic 114, 3) := dk_184 0 114 (dk_at dksX0_isCell_0 17 rfl rfl)
theorem dX0_isCell_20 : decode cX0_isCell 20 = .ok (.ifCond .eq 7, 3) := dk_153 0 7 (dk_at dksX0_isCell_0 20 rfl rfl)
theorem dX0_isCell_23 : decode cX0_isCell 23 = .ok (.iconst 1, 1) := dk_4 (dk_at dksX0_isCell_0 23 rfl rfl)
theorem dX0_isCell_24 : decode cX0_isCell 24 = .ok (.goto 4, 3) := dk_167 0 4 (dk_at dksX0_isCell_1 0 rfl rfl)
theorem dX0_isCell_27 : decode cX0_isCell 27 = .ok (.iconst 0, 1) := dk_3 (dk_at dksX0_isCell_1 3 rfl rfl)
theorem dX0_isCell_28 : decode cX0_isCell 28 = .ok (.ireturn, 1) := dk_172 (dk_at dksX0_isCell_1 4 rfl rfl)
abbrev cX0_alterRow : ByteArray := prog_1_method_48_code
def yX0_alterRow : MethodName := ⟨RX0, "alterRow", "(III)I"⟩
def dkwX0_alterRow_1 : List UInt8 := [54, 4, 42, 180, 0, 74, 27, 50, 180, 1, 49, 28, 29, 79, 21, 4, 172]
abbrev dktX0_alterRow_1 : List UInt8 := dkwX0_alterRow_1 ++ []
def dkwX0_alterRow_0 : List UInt8 := [42, 27, 28, 182, 1, 46, 154, 0, 6, 16, 247, 172, 42, 180, 0, 74, 27, 50, 180, 1, 49, 28, 46]
abbrev dktX0_alterRow_0 : List UInt8 := dkwX0_alterRow_0 ++ dktX0_alterRow_1
theorem dksX0_alterRow_0 : cX0_alterRow.data.toList.drop 0 = dktX0_alterRow_0 := by decide +kernel
theorem dksX0_alterRow_1 : cX0_alterRow.data.toList.drop 23 = dktX0_alterRow_1 := dk_seg dksX0_alterRow_0 23 rfl rfl
theorem dX0_alterRow_0 : decode cX0_alterRow 0 = .ok (.aload_n 0, 1) := dk_42 (dk_at dksX0_alterRow_0 0 rfl rfl)
theorem dX0_alterRow_1 : decode cX0_alterRow 1 = .ok (.iload_n 1, 1) := dk_27 (dk_at dksX0_alterRow_0 1 rfl rfl)
theorem dX0_alterRow_2 : decode cX0_alterRow 2 = .ok (.iload_n 2, 1) := dk_28 (dk_at dksX0_alterRow_0 2 rfl rfl)
theorem dX0_alterRow_3 : decode cX0_alterRow 3 = .ok (.invokevirtual 302, 3) := dk_182 1 46 (dk_at dksX0_alterRow_0 3 rfl rfl)
theorem dX0_alterRow_6 : decode cX0_alterRow 6 = .ok (.ifCond .ne 6, 3) := dk_154 0 6 (dk_at dksX0_alterRow_0 6 rfl rfl)
theorem dX0_alterRow_9 : decode cX0_alterRow 9 = .ok (.bipush (-9), 2) := dk_16 247 (dk_at dksX0_alterRow_0 9 rfl rfl)
theorem dX0_alterRow_11 : decode cX0_alterRow 11 = .ok (.ireturn, 1) := dk_172 (dk_at dksX0_alterRow_0 11 rfl rfl)
theorem dX0_alterRow_12 : decode cX0_alterRow 12 = .ok (.aload_n 0, 1) := dk_42 (dk_at dksX0_alterRow_0 12 rfl rfl)
theorem dX0_alterRow_13 : decode cX0_alterRow 13 = .ok (.getfield 74, 3) := dk_180 0 74 (dk_at dksX0_alterRow_0 13 rfl rfl)
theorem dX0_alterRow_16 : decode cX0_alterRow 16 = .ok (.iload_n 1, 1) := dk_27 (dk_at dksX0_alterRow_0 16 rfl rfl)
theorem dX0_alterRow_17 : decode cX0_alterRow 17 = .ok (.aaload, 1) := dk_50 (dk_at dksX0_alterRow_0 17 rfl rfl)
theorem dX0_alterRow_18 : decode cX0_alterRow 18 = .ok (.getfield 305, 3) := dk_180 1 49 (dk_at dksX0_alterRow_0 18 rfl rfl)
theorem dX0_alterRow_21 : decode cX0_alterRow 21 = .ok (.iload_n 2, 1) := dk_28 (dk_at dksX0_alterRow_0 21 rfl rfl)
theorem dX0_alterRow_22 : decode cX0_alterRow 22 = .ok (.iaload, 1) := dk_46 (dk_at dksX0_alterRow_0 22 rfl rfl)
theorem dX0_alterRow_23 : decode cX0_alterRow 23 = .ok (.istore 4, 2) := dk_54 4 (dk_at dksX0_alterRow_1 0 rfl rfl)
theorem dX0_alterRow_25 : decode cX0_alterRow 25 = .ok (.aload_n 0, 1) := dk_42 (dk_at dksX0_alterRow_1 2 rfl rfl)
theorem dX0_alterRow_26 : decode cX0_alterRow 26 = .ok (.getfield 74, 3) := dk_180 0 74 (dk_at dksX0_alterRow_1 3 rfl rfl)
theorem dX0_alterRow_29 : decode cX0_alterRow 29 = .ok (.iload_n 1, 1) := dk_27 (dk_at dksX0_alterRow_1 6 rfl rfl)
theorem dX0_alterRow_30 : decode cX0_alterRow 30 = .ok (.aaload, 1) := dk_50 (dk_at dksX0_alterRow_1 7 rfl rfl)
theorem dX0_alterRow_31 : decode cX0_alterRow 31 = .ok (.getfield 305, 3) := dk_180 1 49 (dk_at dksX0_alterRow_1 8 rfl rfl)
theorem dX0_alterRow_34 : decode cX0_alterRow 34 = .ok (.iload_n 2, 1) := dk_28 (dk_at dksX0_alterRow_1 11 rfl rfl)
theorem dX0_alterRow_35 : decode cX0_alterRow 35 = .ok (.iload_n 3, 1) := dk_29 (dk_at dksX0_alterRow_1 12 rfl rfl)
theorem dX0_alterRow_36 : decode cX0_alterRow 36 = .ok (.iastore, 1) := dk_79 (dk_at dksX0_alterRow_1 13 rfl rfl)
theorem dX0_alterRow_37 : decode cX0_alterRow 37 = .ok (.iload 4, 2) := dk_21 4 (dk_at dksX0_alterRow_1 14 rfl rfl)
theorem dX0_alterRow_39 : decode cX0_alterRow 39 = .ok (.ireturn, 1) := dk_172 (dk_at dksX0_alterRow_1 16 rfl rfl)
abbrev cX0_prove : ByteArray := prog_1_method_49_code
def yX0_prove : MethodName := ⟨RX0, "prove", "()I"⟩
def dkwX0_prove_3 : List UInt8 := [180, 0, 45, 180, 0, 110, 181, 0, 136, 42, 180, 0, 136, 172]
abbrev dktX0_prove_3 : List UInt8 := dkwX0_prove_3 ++ []
def dkwX0_prove_2 : List UInt8 := [180, 0, 170, 79, 44, 5, 42, 180, 0, 45, 27, 182, 0, 177, 79, 132, 1, 1, 167, 255, 192, 42, 42]
abbrev dktX0_prove_2 : List UInt8 := dkwX0_prove_2 ++ dktX0_prove_3
def dkwX0_prove_1 : List UInt8 := [42, 180, 0, 45, 180, 0, 150, 27, 50, 182, 1, 56, 79, 44, 4, 42, 180, 0, 45, 180, 0, 150, 27, 50]
abbrev dktX0_prove_1 : List UInt8 := dkwX0_prove_1 ++ dktX0_prove_2
def dkwX0_prove_0 : List UInt8 := [3, 60, 27, 42, 180, 0, 45, 180, 0, 110, 162, 0, 59, 42, 27, 182, 1, 52, 180, 1, 49, 77, 44, 3]
abbrev dktX0_prove_0 : List UInt8 := dkwX0_prove_0 ++ dktX0_prove_1
theorem dksX0_prove_0 : cX0_prove.data.toList.drop 0 = dktX0_prove_0 := by decide +kernel
theorem dksX0_prove_1 : cX0_prove.data.toList.drop 24 = dktX0_prove_1 := dk_seg dksX0_prove_0 24 rfl rfl
theorem dksX0_prove_2 : cX0_prove.data.toList.drop 48 = dktX0_prove_2 := dk_seg dksX0_prove_1 24 rfl rfl
theorem dksX0_prove_3 : cX0_prove.data.toList.drop 71 = dktX0_prove_3 := dk_seg dksX0_prove_2 23 rfl rfl
theorem dX0_prove_0 : decode cX0_prove 0 = .ok (.iconst 0, 1) := dk_3 (dk_at dksX0_prove_0 0 rfl rfl)
theorem dX0_prove_1 : decode cX0_prove 1 = .ok (.istore_n 1, 1) := dk_60 (dk_at dksX0_prove_0 1 rfl rfl)
theorem dX0_prove_2 : decode cX0_prove 2 = .ok (.iload_n 1, 1) := dk_27 (dk_at dksX0_prove_0 2 rfl rfl)
theorem dX0_prove_3 : decode cX0_prove 3 = .ok (.aload_n 0, 1) := dk_42 (dk_at dksX0_prove_0 3 rfl rfl)
theorem dX0_prove_4 : decode cX0_prove 4 = .ok (.getfield 45, 3) := dk_180 0 45 (dk_at dksX0_prove_0 4 rfl rfl)
theorem dX0_prove_7 : decode cX0_prove 7 = .ok (.getfield 110, 3) := dk_180 0 110 (dk_at dksX0_prove_0 7 rfl rfl)
theorem dX0_prove_10 : decode cX0_prove 10 = .ok (.if_icmp .ge 59, 3) := dk_162 0 59 (dk_at dksX0_prove_0 10 rfl rfl)
theorem dX0_prove_13 : decode cX0_prove 13 = .ok (.aload_n 0, 1) := dk_42 (dk_at dksX0_prove_0 13 rfl rfl)
theorem dX0_prove_14 : decode cX0_prove 14 = .ok (.iload_n 1, 1) := dk_27 (dk_at dksX0_prove_0 14 rfl rfl)
theorem dX0_prove_15 : decode cX0_prove 15 = .ok (.invokevirtual 308, 3) := dk_182 1 52 (dk_at dksX0_prove_0 15 rfl rfl)
theorem dX0_prove_18 : decode cX0_prove 18 = .ok (.getfield 305, 3) := dk_180 1 49 (dk_at dksX0_prove_0 18 rfl rfl)
theorem dX0_prove_21 : decode cX0_prove 21 = .ok (.astore_n 2, 1) := dk_77 (dk_at dksX0_prove_0 21 rfl rfl)
theorem dX0_prove_22 : decode cX0_prove 22 = .ok (.aload_n 2, 1) := dk_44 (dk_at dksX0_prove_0 22 rfl rfl)
theorem dX0_prove_23 : decode cX0_prove 23 = .ok (.iconst 0, 1) := dk_3 (dk_at dksX0_prove_0 23 rfl rfl)
theorem dX0_prove_24 : decode cX0_prove 24 = .ok (.aload_n 0, 1) := dk_42 (dk_at dksX0_prove_1 0 rfl rfl)
theorem dX0_prove_25 : decode cX0_prove 25 = .ok (.getfield 45, 3) := dk_180 0 45 (dk_at dksX0_prove_1 1 rfl rfl)
theorem dX0_prove_28 : decode cX0_prove 28 = .ok (.getfield 150, 3) := dk_180 0 150 (dk_at dksX0_prove_1 4 rfl rfl)
theorem dX0_prove_31 : decode cX0_prove 31 = .ok (.iload_n 1, 1) := dk_27 (dk_at dksX0_prove_1 7 rfl rfl)
theorem dX0_prove_32 : decode cX0_prove 32 = .ok (.aaload, 1) := dk_50 (dk_at dksX0_prove_1 8 rfl rfl)
theorem dX0_prove_33 : decode cX0_prove 33 = .ok (.invokevirtual 312, 3) := dk_182 1 56 (dk_at dksX0_prove_1 9 rfl rfl)
theorem dX0_prove_36 : decode cX0_prove 36 = .ok (.iastore, 1) := dk_79 (dk_at dksX0_prove_1 12 rfl rfl)
theorem dX0_prove_37 : decode cX0_prove 37 = .ok (.aload_n 2, 1) := dk_44 (dk_at dksX0_prove_1 13 rfl rfl)
theorem dX0_prove_38 : decode cX0_prove 38 = .ok (.iconst 1, 1) := dk_4 (dk_at dksX0_prove_1 14 rfl rfl)
theorem dX0_prove_39 : decode cX0_prove 39 = .ok (.aload_n 0, 1) := dk_42 (dk_at dksX0_prove_1 15 rfl rfl)
theorem dX0_prove_40 : decode cX0_prove 40 = .ok (.getfield 45, 3) := dk_180 0 45 (dk_at dksX0_prove_1 16 rfl rfl)
theorem dX0_prove_43 : decode cX0_prove 43 = .ok (.getfield 150, 3) := dk_180 0 150 (dk_at dksX0_prove_1 19 rfl rfl)
theorem dX0_prove_46 : decode cX0_prove 46 = .ok (.iload_n 1, 1) := dk_27 (dk_at dksX0_prove_1 22 rfl rfl)
theorem dX0_prove_47 : decode cX0_prove 47 = .ok (.aaload, 1) := dk_50 (dk_at dksX0_prove_1 23 rfl rfl)
theorem dX0_prove_48 : decode cX0_prove 48 = .ok (.getfield 170, 3) := dk_180 0 170 (dk_at dksX0_prove_2 0 rfl rfl)
theorem dX0_prove_51 : decode cX0_prove 51 = .ok (.iastore, 1) := dk_79 (dk_at dksX0_prove_2 3 rfl rfl)
theorem dX0_prove_52 : decode cX0_prove 52 = .ok (.aload_n 2, 1) := dk_44 (dk_at dksX0_prove_2 4 rfl rfl)
theorem dX0_prove_53 : decode cX0_prove 53 = .ok (.iconst 2, 1) := dk_5 (dk_at dksX0_prove_2 5 rfl rfl)
theorem dX0_prove_54 : decode cX0_prove 54 = .ok (.aload_n 0, 1) := dk_42 (dk_at dksX0_prove_2 6 rfl rfl)
theorem dX0_prove_55 : decode cX0_prove 55 = .ok (.getfield 45, 3) := dk_180 0 45 (dk_at dksX0_prove_2 7 rfl rfl)
theorem dX0_prove_58 : decode cX0_prove 58 = .ok (.iload_n 1, 1) := dk_27 (dk_at dksX0_prove_2 10 rfl rfl)
theorem dX0_prove_59 : decode cX0_prove 59 = .ok (.invokevirtual 177, 3) := dk_182 0 177 (dk_at dksX0_prove_2 11 rfl rfl)
theorem dX0_prove_62 : decode cX0_prove 62 = .ok (.iastore, 1) := dk_79 (dk_at dksX0_prove_2 14 rfl rfl)
theorem dX0_prove_63 : decode cX0_prove 63 = .ok (.iinc 1 1, 3) := dk_132 1 1 (dk_at dksX0_prove_2 15 rfl rfl)
theorem dX0_prove_66 : decode cX0_prove 66 = .ok (.goto (-64), 3) := dk_167 255 192 (dk_at dksX0_prove_2 18 rfl rfl)
theorem dX0_prove_69 : decode cX0_prove 69 = .ok (.aload_n 0, 1) := dk_42 (dk_at dksX0_prove_2 21 rfl rfl)
theorem dX0_prove_70 : decode cX0_prove 70 = .ok (.aload_n 0, 1) := dk_42 (dk_at dksX0_prove_2 22 rfl rfl)
theorem dX0_prove_71 : decode cX0_prove 71 = .ok (.getfield 45, 3) := dk_180 0 45 (dk_at dksX0_prove_3 0 rfl rfl)
theorem dX0_prove_74 : decode cX0_prove 74 = .ok (.getfield 110, 3) := dk_180 0 110 (dk_at dksX0_prove_3 3 rfl rfl)
theorem dX0_prove_77 : decode cX0_prove 77 = .ok (.putfield 136, 3) := dk_181 0 136 (dk_at dksX0_prove_3 6 rfl rfl)
theorem dX0_prove_80 : decode cX0_prove 80 = .ok (.aload_n 0, 1) := dk_42 (dk_at dksX0_prove_3 9 rfl rfl)
theorem dX0_prove_81 : decode cX0_prove 81 = .ok (.getfield 136, 3) := dk_180 0 136 (dk_at dksX0_prove_3 10 rfl rfl)
theorem dX0_prove_84 : decode cX0_prove 84 = .ok (.ireturn, 1) := dk_172 (dk_at dksX0_prove_3 13 rfl rfl)
abbrev cX0_rowAt : ByteArray := prog_1_method_45_code
def yX0_rowAt : MethodName := ⟨RX0, "rowAt", "(I)LCoatHoles$Row;"⟩
def dkwX0_rowAt_1 : List UInt8 := [180, 0, 74, 27, 50, 176]
abbrev dktX0_rowAt_1 : List UInt8 := dkwX0_rowAt_1 ++ []
def dkwX0_rowAt_0 : List UInt8 := [42, 180, 0, 74, 27, 50, 199, 0, 16, 42, 180, 0, 74, 27, 187, 0, 72, 89, 183, 1, 45, 83, 42]
abbrev dktX0_rowAt_0 : List UInt8 := dkwX0_rowAt_0 ++ dktX0_rowAt_1
theorem dksX0_rowAt_0 : cX0_rowAt.data.toList.drop 0 = dktX0_rowAt_0 := by decide +kernel
theorem dksX0_rowAt_1 : cX0_rowAt.data.toList.drop 23 = dktX0_rowAt_1 := dk_seg dksX0_rowAt_0 23 rfl rfl
theorem dX0_rowAt_0 : decode cX0_rowAt 0 = .ok (.aload_n 0, 1) := dk_42 (dk_at dksX0_rowAt_0 0 rfl rfl)
theorem dX0_rowAt_1 : decode cX0_rowAt 1 = .ok (.getfield 74, 3) := dk_180 0 74 (dk_at dksX0_rowAt_0 1 rfl rfl)
theorem dX0_rowAt_4 : decode cX0_rowAt 4 = .ok (.iload_n 1, 1) := dk_27 (dk_at dksX0_rowAt_0 4 rfl rfl)
theorem dX0_rowAt_5 : decode cX0_rowAt 5 = .ok (.aaload, 1) := dk_50 (dk_at dksX0_rowAt_0 5 rfl rfl)
theorem dX0_rowAt_6 : decode cX0_rowAt 6 = .ok (.ifnonnull 16, 3) := dk_199 0 16 (dk_at dksX0_rowAt_0 6 rfl rfl)
theorem dX0_rowAt_9 : decode cX0_rowAt 9 = .ok (.aload_n 0, 1) := dk_42 (dk_at dksX0_rowAt_0 9 rfl rfl)
theorem dX0_rowAt_10 : decode cX0_rowAt 10 = .ok (.getfield 74, 3) := dk_180 0 74 (dk_at dksX0_rowAt_0 10 rfl rfl)
theorem dX0_rowAt_13 : decode cX0_rowAt 13 = .ok (.iload_n 1, 1) := dk_27 (dk_at dksX0_rowAt_0 13 rfl rfl)
theorem dX0_rowAt_14 : decode cX0_rowAt 14 = .ok (.new 72, 3) := dk_187 0 72 (dk_at dksX0_rowAt_0 14 rfl rfl)
theorem dX0_rowAt_17 : decode cX0_rowAt 17 = .ok (.dup, 1) := dk_89 (dk_at dksX0_rowAt_0 17 rfl rfl)
theorem dX0_rowAt_18 : decode cX0_rowAt 18 = .ok (.invokespecial 301, 3) := dk_183 1 45 (dk_at dksX0_rowAt_0 18 rfl rfl)
theorem dX0_rowAt_21 : decode cX0_rowAt 21 = .ok (.aastore, 1) := dk_83 (dk_at dksX0_rowAt_0 21 rfl rfl)
theorem dX0_rowAt_22 : decode cX0_rowAt 22 = .ok (.aload_n 0, 1) := dk_42 (dk_at dksX0_rowAt_0 22 rfl rfl)
theorem dX0_rowAt_23 : decode cX0_rowAt 23 = .ok (.getfield 74, 3) := dk_180 0 74 (dk_at dksX0_rowAt_1 0 rfl rfl)
theorem dX0_rowAt_26 : decode cX0_rowAt 26 = .ok (.iload_n 1, 1) := dk_27 (dk_at dksX0_rowAt_1 3 rfl rfl)
theorem dX0_rowAt_27 : decode cX0_rowAt 27 = .ok (.aaload, 1) := dk_50 (dk_at dksX0_rowAt_1 4 rfl rfl)
theorem dX0_rowAt_28 : decode cX0_rowAt 28 = .ok (.areturn, 1) := dk_176 (dk_at dksX0_rowAt_1 5 rfl rfl)
abbrev cX0_judge : ByteArray := prog_1_method_50_code
def yX0_judge : MethodName := ⟨RX0, "judge", "()I"⟩
def dkwX0_judge_4 : List UInt8 := [42, 180, 0, 45, 180, 0, 110, 162, 0, 9, 17, 0, 222, 167, 0, 4, 3, 172]
abbrev dktX0_judge_4 : List UInt8 := dkwX0_judge_4 ++ []
def dkwX0_judge_3 : List UInt8 := [180, 0, 45, 27, 182, 0, 177, 159, 0, 7, 27, 4, 96, 172, 132, 1, 1, 167, 255, 173, 42, 180, 0, 136]
abbrev dktX0_judge_3 : List UInt8 := dkwX0_judge_3 ++ dktX0_judge_4
def dkwX0_judge_2 : List UInt8 := [44, 4, 46, 42, 180, 0, 45, 180, 0, 150, 27, 50, 180, 0, 170, 160, 0, 17, 44, 5, 46, 42]
abbrev dktX0_judge_2 : List UInt8 := dkwX0_judge_2 ++ dktX0_judge_3
def dkwX0_judge_1 : List UInt8 := [182, 0, 147, 153, 0, 53, 44, 3, 46, 42, 180, 0, 45, 180, 0, 150, 27, 50, 182, 1, 56, 160, 0, 35]
abbrev dktX0_judge_1 : List UInt8 := dkwX0_judge_1 ++ dktX0_judge_2
def dkwX0_judge_0 : List UInt8 := [3, 60, 27, 42, 180, 0, 136, 162, 0, 81, 42, 180, 0, 74, 27, 50, 180, 1, 49, 77, 42, 27]
abbrev dktX0_judge_0 : List UInt8 := dkwX0_judge_0 ++ dktX0_judge_1
theorem dksX0_judge_0 : cX0_judge.data.toList.drop 0 = dktX0_judge_0 := by decide +kernel
theorem dksX0_judge_1 : cX0_judge.data.toList.drop 22 = dktX0_judge_1 := dk_seg dksX0_judge_0 22 rfl rfl
theorem dksX0_judge_2 : cX0_judge.data.toList.drop 46 = dktX0_judge_2 := dk_seg dksX0_judge_1 24 rfl rfl
theorem dksX0_judge_3 : cX0_judge.data.toList.drop 68 = dktX0_judge_3 := dk_seg dksX0_judge_2 22 rfl rfl
theorem dksX0_judge_4 : cX0_judge.data.toList.drop 92 = dktX0_judge_4 := dk_seg dksX0_judge_3 24 rfl rfl
theorem dX0_judge_0 : decode cX0_judge 0 = .ok (.iconst 0, 1) := dk_3 (dk_at dksX0_judge_0 0 rfl rfl)
theorem dX0_judge_1 : decode cX0_judge 1 = .ok (.istore_n 1, 1) := dk_60 (dk_at dksX0_judge_0 1 rfl rfl)
theorem dX0_judge_2 : decode cX0_judge 2 = .ok (.iload_n 1, 1) := dk_27 (dk_at dksX0_judge_0 2 rfl rfl)
theorem dX0_judge_3 : decode cX0_judge 3 = .ok (.aload_n 0, 1) := dk_42 (dk_at dksX0_judge_0 3 rfl rfl)
theorem dX0_judge_4 : decode cX0_judge 4 = .ok (.getfield 136, 3) := dk_180 0 136 (dk_at dksX0_judge_0 4 rfl rfl)
theorem dX0_judge_7 : decode cX0_judge 7 = .ok (.if_icmp .ge 81, 3) := dk_162 0 81 (dk_at dksX0_judge_0 7 rfl rfl)
theorem dX0_judge_10 : decode cX0_judge 10 = .ok (.aload_n 0, 1) := dk_42 (dk_at dksX0_judge_0 10 rfl rfl)
theorem dX0_judge_11 : decode cX0_judge 11 = .ok (.getfield 74, 3) := dk_180 0 74 (dk_at dksX0_judge_0 11 rfl rfl)
theorem dX0_judge_14 : decode cX0_judge 14 = .ok (.iload_n 1, 1) := dk_27 (dk_at dksX0_judge_0 14 rfl rfl)
theorem dX0_judge_15 : decode cX0_judge 15 = .ok (.aaload, 1) := dk_50 (dk_at dksX0_judge_0 15 rfl rfl)
theorem dX0_judge_16 : decode cX0_judge 16 = .ok (.getfield 305, 3) := dk_180 1 49 (dk_at dksX0_judge_0 16 rfl rfl)
theorem dX0_judge_19 : decode cX0_judge 19 = .ok (.astore_n 2, 1) := dk_77 (dk_at dksX0_judge_0 19 rfl rfl)
theorem dX0_judge_20 : decode cX0_judge 20 = .ok (.aload_n 0, 1) := dk_42 (dk_at dksX0_judge_0 20 rfl rfl)
theorem dX0_judge_21 : decode cX0_judge 21 = .ok (.iload_n 1, 1) := dk_27 (dk_at dksX0_judge_0 21 rfl rfl)
theorem dX0_judge_22 : decode cX0_judge 22 = .ok (.invokevirtual 147, 3) := dk_182 0 147 (dk_at dksX0_judge_1 0 rfl rfl)
theorem dX0_judge_25 : decode cX0_judge 25 = .ok (.ifCond .eq 53, 3) := dk_153 0 53 (dk_at dksX0_judge_1 3 rfl rfl)
theorem dX0_judge_28 : decode cX0_judge 28 = .ok (.aload_n 2, 1) := dk_44 (dk_at dksX0_judge_1 6 rfl rfl)
theorem dX0_judge_29 : decode cX0_judge 29 = .ok (.iconst 0, 1) := dk_3 (dk_at dksX0_judge_1 7 rfl rfl)
theorem dX0_judge_30 : decode cX0_judge 30 = .ok (.iaload, 1) := dk_46 (dk_at dksX0_judge_1 8 rfl rfl)
theorem dX0_judge_31 : decode cX0_judge 31 = .ok (.aload_n 0, 1) := dk_42 (dk_at dksX0_judge_1 9 rfl rfl)
theorem dX0_judge_32 : decode cX0_judge 32 = .ok (.getfield 45, 3) := dk_180 0 45 (dk_at dksX0_judge_1 10 rfl rfl)
theorem dX0_judge_35 : decode cX0_judge 35 = .ok (.getfield 150, 3) := dk_180 0 150 (dk_at dksX0_judge_1 13 rfl rfl)
theorem dX0_judge_38 : decode cX0_judge 38 = .ok (.iload_n 1, 1) := dk_27 (dk_at dksX0_judge_1 16 rfl rfl)
theorem dX0_judge_39 : decode cX0_judge 39 = .ok (.aaload, 1) := dk_50 (dk_at dksX0_judge_1 17 rfl rfl)
theorem dX0_judge_40 : decode cX0_judge 40 = .ok (.invokevirtual 312, 3) := dk_182 1 56 (dk_at dksX0_judge_1 18 rfl rfl)
theorem dX0_judge_43 : decode cX0_judge 43 = .ok (.if_icmp .ne 35, 3) := dk_160 0 35 (dk_at dksX0_judge_1 21 rfl rfl)
theorem dX0_judge_46 : decode cX0_judge 46 = .ok (.aload_n 2, 1) := dk_44 (dk_at dksX0_judge_2 0 rfl rfl)
theorem dX0_judge_47 : decode cX0_judge 47 = .ok (.iconst 1, 1) := dk_4 (dk_at dksX0_judge_2 1 rfl rfl)
theorem dX0_judge_48 : decode cX0_judge 48 = .ok (.iaload, 1) := dk_46 (dk_at dksX0_judge_2 2 rfl rfl)
theorem dX0_judge_49 : decode cX0_judge 49 = .ok (.aload_n 0, 1) := dk_42 (dk_at dksX0_judge_2 3 rfl rfl)
theorem dX0_judge_50 : decode cX0_judge 50 = .ok (.getfield 45, 3) := dk_180 0 45 (dk_at dksX0_judge_2 4 rfl rfl)
theorem dX0_judge_53 : decode cX0_judge 53 = .ok (.getfield 150, 3) := dk_180 0 150 (dk_at dksX0_judge_2 7 rfl rfl)
theorem dX0_judge_56 : decode cX0_judge 56 = .ok (.iload_n 1, 1) := dk_27 (dk_at dksX0_judge_2 10 rfl rfl)
theorem dX0_judge_57 : decode cX0_judge 57 = .ok (.aaload, 1) := dk_50 (dk_at dksX0_judge_2 11 rfl rfl)
theorem dX0_judge_58 : decode cX0_judge 58 = .ok (.getfield 170, 3) := dk_180 0 170 (dk_at dksX0_judge_2 12 rfl rfl)
theorem dX0_judge_61 : decode cX0_judge 61 = .ok (.if_icmp .ne 17, 3) := dk_160 0 17 (dk_at dksX0_judge_2 15 rfl rfl)
theorem dX0_judge_64 : decode cX0_judge 64 = .ok (.aload_n 2, 1) := dk_44 (dk_at dksX0_judge_2 18 rfl rfl)
theorem dX0_judge_65 : decode cX0_judge 65 = .ok (.iconst 2, 1) := dk_5 (dk_at dksX0_judge_2 19 rfl rfl)
theorem dX0_judge_66 : decode cX0_judge 66 = .ok (.iaload, 1) := dk_46 (dk_at dksX0_judge_2 20 rfl rfl)
theorem dX0_judge_67 : decode cX0_judge 67 = .ok (.aload_n 0, 1) := dk_42 (dk_at dksX0_judge_2 21 rfl rfl)
theorem dX0_judge_68 : decode cX0_judge 68 = .ok (.getfield 45, 3) := dk_180 0 45 (dk_at dksX0_judge_3 0 rfl rfl)
theorem dX0_judge_71 : decode cX0_judge 71 = .ok (.iload_n 1, 1) := dk_27 (dk_at dksX0_judge_3 3 rfl rfl)
theorem dX0_judge_72 : decode cX0_judge 72 = .ok (.invokevirtual 177, 3) := dk_182 0 177 (dk_at dksX0_judge_3 4 rfl rfl)
theorem dX0_judge_75 : decode cX0_judge 75 = .ok (.if_icmp .eq 7, 3) := dk_159 0 7 (dk_at dksX0_judge_3 7 rfl rfl)
theorem dX0_judge_78 : decode cX0_judge 78 = .ok (.iload_n 1, 1) := dk_27 (dk_at dksX0_judge_3 10 rfl rfl)
theorem dX0_judge_79 : decode cX0_judge 79 = .ok (.iconst 1, 1) := dk_4 (dk_at dksX0_judge_3 11 rfl rfl)
theorem dX0_judge_80 : decode cX0_judge 80 = .ok (.iadd, 1) := dk_96 (dk_at dksX0_judge_3 12 rfl rfl)
theorem dX0_judge_81 : decode cX0_judge 81 = .ok (.ireturn, 1) := dk_172 (dk_at dksX0_judge_3 13 rfl rfl)
theorem dX0_judge_82 : decode cX0_judge 82 = .ok (.iinc 1 1, 3) := dk_132 1 1 (dk_at dksX0_judge_3 14 rfl rfl)
theorem dX0_judge_85 : decode cX0_judge 85 = .ok (.goto (-83), 3) := dk_167 255 173 (dk_at dksX0_judge_3 17 rfl rfl)
theorem dX0_judge_88 : decode cX0_judge 88 = .ok (.aload_n 0, 1) := dk_42 (dk_at dksX0_judge_3 20 rfl rfl)
theorem dX0_judge_89 : decode cX0_judge 89 = .ok (.getfield 136, 3) := dk_180 0 136 (dk_at dksX0_judge_3 21 rfl rfl)
theorem dX0_judge_92 : decode cX0_judge 92 = .ok (.aload_n 0, 1) := dk_42 (dk_at dksX0_judge_4 0 rfl rfl)
theorem dX0_judge_93 : decode cX0_judge 93 = .ok (.getfield 45, 3) := dk_180 0 45 (dk_at dksX0_judge_4 1 rfl rfl)
theorem dX0_judge_96 : decode cX0_judge 96 = .ok (.getfield 110, 3) := dk_180 0 110 (dk_at dksX0_judge_4 4 rfl rfl)
theorem dX0_judge_99 : decode cX0_judge 99 = .ok (.if_icmp .ge 9, 3) := dk_162 0 9 (dk_at dksX0_judge_4 7 rfl rfl)
theorem dX0_judge_102 : decode cX0_judge 102 = .ok (.sipush 222, 3) := dk_17 0 222 (dk_at dksX0_judge_4 10 rfl rfl)
theorem dX0_judge_105 : decode cX0_judge 105 = .ok (.goto 4, 3) := dk_167 0 4 (dk_at dksX0_judge_4 13 rfl rfl)
theorem dX0_judge_108 : decode cX0_judge 108 = .ok (.iconst 0, 1) := dk_3 (dk_at dksX0_judge_4 16 rfl rfl)
theorem dX0_judge_109 : decode cX0_judge 109 = .ok (.ireturn, 1) := dk_172 (dk_at dksX0_judge_4 17 rfl rfl)
abbrev cX0_soils : ByteArray := prog_1_method_53_code
def yX0_soils : MethodName := ⟨RX0, "soils", "(IIII)I"⟩
def dkwX0_soils_3 : List UInt8 := [58, 5, 16, 243, 172, 58, 5, 16, 244, 172]
abbrev dktX0_soils_3 : List UInt8 := dkwX0_soils_3 ++ []
def dkwX0_soils_2 : List UInt8 := [182, 1, 67, 182, 1, 71, 184, 1, 75, 28, 29, 21, 4, 182, 1, 79, 21, 4, 172, 58, 5, 16, 245, 172]
abbrev dktX0_soils_2 : List UInt8 := dkwX0_soils_2 ++ dktX0_soils_3
def dkwX0_soils_1 : List UInt8 := [180, 0, 45, 180, 0, 110, 21, 4, 100, 164, 0, 5, 2, 172, 42, 42, 42, 180, 0, 81, 27, 50]
abbrev dktX0_soils_1 : List UInt8 := dkwX0_soils_1 ++ dktX0_soils_2
def dkwX0_soils_0 : List UInt8 := [27, 184, 1, 64, 153, 0, 32, 21, 4, 3, 16, 8, 184, 0, 114, 153, 0, 21, 29, 155, 0, 17, 29, 42]
abbrev dktX0_soils_0 : List UInt8 := dkwX0_soils_0 ++ dktX0_soils_1
theorem dksX0_soils_0 : cX0_soils.data.toList.drop 0 = dktX0_soils_0 := by decide +kernel
theorem dksX0_soils_1 : cX0_soils.data.toList.drop 24 = dktX0_soils_1 := dk_seg dksX0_soils_0 24 rfl rfl
theorem dksX0_soils_2 : cX0_soils.data.toList.drop 46 = dktX0_soils_2 := dk_seg dksX0_soils_1 22 rfl rfl
theorem dksX0_soils_3 : cX0_soils.data.toList.drop 70 = dktX0_soils_3 := dk_seg dksX0_soils_2 24 rfl rfl
theorem dX0_soils_0 : decode cX0_soils 0 = .ok (.iload_n 1, 1) := dk_27 (dk_at dksX0_soils_0 0 rfl rfl)
theorem dX0_soils_1 : decode cX0_soils 1 = .ok (.invokestatic 320, 3) := dk_184 1 64 (dk_at dksX0_soils_0 1 rfl rfl)
theorem dX0_soils_4 : decode cX0_soils 4 = .ok (.ifCond .eq 32, 3) := dk_153 0 32 (dk_at dksX0_soils_0 4 rfl rfl)
theorem dX0_soils_7 : decode cX0_soils 7 = .ok (.iload 4, 2) := dk_21 4 (dk_at dksX0_soils_0 7 rfl rfl)
theorem dX0_soils_9 : decode cX0_soils 9 = .ok (.iconst 0, 1) := dk_3 (dk_at dksX0_soils_0 9 rfl rfl)
theorem dX0_soils_10 : decode cX0_soils 10 = .ok (.bipush 8, 2) := dk_16 8 (dk_at dksX0_soils_0 10 rfl rfl)
theorem dX0_soils_12 : decode cX0_soils 12 = .ok (.invokestatic 114, 3) := dk_184 0 114 (dk_at dksX0_soils_0 12 rfl rfl)
theorem dX0_soils_15 : decode cX0_soils 15 = .ok (.ifCond .eq 21, 3) := dk_153 0 21 (dk_at dksX0_soils_0 15 rfl rfl)
theorem dX0_soils_18 : decode cX0_soils 18 = .ok (.iload_n 3, 1) := dk_29 (dk_at dksX0_soils_0 18 rfl rfl)
theorem dX0_soils_19 : decode cX0_soils 19 = .ok (.ifCond .lt 17, 3) := dk_155 0 17 (dk_at dksX0_soils_0 19 rfl rfl)
theorem dX0_soils_22 : decode cX0_soils 22 = .ok (.iload_n 3, 1) := dk_29 (dk_at dksX0_soils_0 22 rfl rfl)
theorem dX0_soils_23 : decode cX0_soils 23 = .ok (.aload_n 0, 1) := dk_42 (dk_at dksX0_soils_0 23 rfl rfl)
theorem dX0_soils_24 : decode cX0_soils 24 = .ok (.getfield 45, 3) := dk_180 0 45 (dk_at dksX0_soils_1 0 rfl rfl)
theorem dX0_soils_27 : decode cX0_soils 27 = .ok (.getfield 110, 3) := dk_180 0 110 (dk_at dksX0_soils_1 3 rfl rfl)
theorem dX0_soils_30 : decode cX0_soils 30 = .ok (.iload 4, 2) := dk_21 4 (dk_at dksX0_soils_1 6 rfl rfl)
theorem dX0_soils_32 : decode cX0_soils 32 = .ok (.isub, 1) := dk_100 (dk_at dksX0_soils_1 8 rfl rfl)
theorem dX0_soils_33 : decode cX0_soils 33 = .ok (.if_icmp .le 5, 3) := dk_164 0 5 (dk_at dksX0_soils_1 9 rfl rfl)
theorem dX0_soils_36 : decode cX0_soils 36 = .ok (.iconst (-1), 1) := dk_2 (dk_at dksX0_soils_1 12 rfl rfl)
theorem dX0_soils_37 : decode cX0_soils 37 = .ok (.ireturn, 1) := dk_172 (dk_at dksX0_soils_1 13 rfl rfl)
theorem dX0_soils_38 : decode cX0_soils 38 = .ok (.aload_n 0, 1) := dk_42 (dk_at dksX0_soils_1 14 rfl rfl)
theorem dX0_soils_39 : decode cX0_soils 39 = .ok (.aload_n 0, 1) := dk_42 (dk_at dksX0_soils_1 15 rfl rfl)
theorem dX0_soils_40 : decode cX0_soils 40 = .ok (.aload_n 0, 1) := dk_42 (dk_at dksX0_soils_1 16 rfl rfl)
theorem dX0_soils_41 : decode cX0_soils 41 = .ok (.getfield 81, 3) := dk_180 0 81 (dk_at dksX0_soils_1 17 rfl rfl)
theorem dX0_soils_44 : decode cX0_soils 44 = .ok (.iload_n 1, 1) := dk_27 (dk_at dksX0_soils_1 20 rfl rfl)
theorem dX0_soils_45 : decode cX0_soils 45 = .ok (.aaload, 1) := dk_50 (dk_at dksX0_soils_1 21 rfl rfl)
theorem dX0_soils_46 : decode cX0_soils 46 = .ok (.invokevirtual 323, 3) := dk_182 1 67 (dk_at dksX0_soils_2 0 rfl rfl)
theorem dX0_soils_49 : decode cX0_soils 49 = .ok (.invokevirtual 327, 3) := dk_182 1 71 (dk_at dksX0_soils_2 3 rfl rfl)
theorem dX0_soils_52 : decode cX0_soils 52 = .ok (.invokestatic 331, 3) := dk_184 1 75 (dk_at dksX0_soils_2 6 rfl rfl)
theorem dX0_soils_55 : decode cX0_soils 55 = .ok (.iload_n 2, 1) := dk_28 (dk_at dksX0_soils_2 9 rfl rfl)
theorem dX0_soils_56 : decode cX0_soils 56 = .ok (.iload_n 3, 1) := dk_29 (dk_at dksX0_soils_2 10 rfl rfl)
theorem dX0_soils_57 : decode cX0_soils 57 = .ok (.iload 4, 2) := dk_21 4 (dk_at dksX0_soils_2 11 rfl rfl)
theorem dX0_soils_59 : decode cX0_soils 59 = .ok (.invokevirtual 335, 3) := dk_182 1 79 (dk_at dksX0_soils_2 13 rfl rfl)
theorem dX0_soils_62 : decode cX0_soils 62 = .ok (.iload 4, 2) := dk_21 4 (dk_at dksX0_soils_2 16 rfl rfl)
theorem dX0_soils_64 : decode cX0_soils 64 = .ok (.ireturn, 1) := dk_172 (dk_at dksX0_soils_2 18 rfl rfl)
theorem dX0_soils_65 : decode cX0_soils 65 = .ok (.astore 5, 2) := dk_58 5 (dk_at dksX0_soils_2 19 rfl rfl)
theorem dX0_soils_67 : decode cX0_soils 67 = .ok (.bipush (-11), 2) := dk_16 245 (dk_at dksX0_soils_2 21 rfl rfl)
theorem dX0_soils_69 : decode cX0_soils 69 = .ok (.ireturn, 1) := dk_172 (dk_at dksX0_soils_2 23 rfl rfl)
theorem dX0_soils_70 : decode cX0_soils 70 = .ok (.astore 5, 2) := dk_58 5 (dk_at dksX0_soils_3 0 rfl rfl)
theorem dX0_soils_72 : decode cX0_soils 72 = .ok (.bipush (-13), 2) := dk_16 243 (dk_at dksX0_soils_3 2 rfl rfl)
theorem dX0_soils_74 : decode cX0_soils 74 = .ok (.ireturn, 1) := dk_172 (dk_at dksX0_soils_3 4 rfl rfl)
theorem dX0_soils_75 : decode cX0_soils 75 = .ok (.astore 5, 2) := dk_58 5 (dk_at dksX0_soils_3 5 rfl rfl)
theorem dX0_soils_77 : decode cX0_soils 77 = .ok (.bipush (-12), 2) := dk_16 244 (dk_at dksX0_soils_3 7 rfl rfl)
theorem dX0_soils_79 : decode cX0_soils 79 = .ok (.ireturn, 1) := dk_172 (dk_at dksX0_soils_3 9 rfl rfl)
abbrev cX0_isSheet : ByteArray := prog_1_method_54_code
def yX0_isSheet : MethodName := ⟨RX0, "isSheet", "(I)Z"⟩
def dkwX0_isSheet_0 : List UInt8 := [26, 3, 6, 184, 0, 114, 172]
abbrev dktX0_isSheet_0 : List UInt8 := dkwX0_isSheet_0 ++ []
theorem dksX0_isSheet_0 : cX0_isSheet.data.toList.drop 0 = dktX0_isSheet_0 := by decide +kernel
theorem dX0_isSheet_0 : decode cX0_isSheet 0 = .ok (.iload_n 0, 1) := dk_26 (dk_at dksX0_isSheet_0 0 rfl rfl)
theorem dX0_isSheet_1 : decode cX0_isSheet 1 = .ok (.iconst 0, 1) := dk_3 (dk_at dksX0_isSheet_0 1 rfl rfl)
theorem dX0_isSheet_2 : decode cX0_isSheet 2 = .ok (.iconst 3, 1) := dk_6 (dk_at dksX0_isSheet_0 2 rfl rfl)
theorem dX0_isSheet_3 : decode cX0_isSheet 3 = .ok (.invokestatic 114, 3) := dk_184 0 114 (dk_at dksX0_isSheet_0 3 rfl rfl)
theorem dX0_isSheet_6 : decode cX0_isSheet 6 = .ok (.ireturn, 1) := dk_172 (dk_at dksX0_isSheet_0 6 rfl rfl)
abbrev cX0_there : ByteArray := prog_1_method_57_code
def yX0_there : MethodName := ⟨RX0, "there", "(Ljava/lang/Object;)Ljava/lang/Object;"⟩
def dkwX0_there_0 : List UInt8 := [43, 199, 0, 8, 42, 180, 0, 95, 191, 43, 176]
abbrev dktX0_there_0 : List UInt8 := dkwX0_there_0 ++ []
theorem dksX0_there_0 : cX0_there.data.toList.drop 0 = dktX0_there_0 := by decide +kernel
theorem dX0_there_0 : decode cX0_there 0 = .ok (.aload_n 1, 1) := dk_43 (dk_at dksX0_there_0 0 rfl rfl)
theorem dX0_there_1 : decode cX0_there 1 = .ok (.ifnonnull 8, 3) := dk_199 0 8 (dk_at dksX0_there_0 1 rfl rfl)
theorem dX0_there_4 : decode cX0_there 4 = .ok (.aload_n 0, 1) := dk_42 (dk_at dksX0_there_0 4 rfl rfl)
theorem dX0_there_5 : decode cX0_there 5 = .ok (.getfield 95, 3) := dk_180 0 95 (dk_at dksX0_there_0 5 rfl rfl)
theorem dX0_there_8 : decode cX0_there 8 = .ok (.athrow, 1) := dk_191 (dk_at dksX0_there_0 8 rfl rfl)
theorem dX0_there_9 : decode cX0_there 9 = .ok (.aload_n 1, 1) := dk_43 (dk_at dksX0_there_0 9 rfl rfl)
theorem dX0_there_10 : decode cX0_there 10 = .ok (.areturn, 1) := dk_176 (dk_at dksX0_there_0 10 rfl rfl)
abbrev cX0_ints : ByteArray := prog_1_method_51_code
def yX0_ints : MethodName := ⟨RX0, "ints", "(Ljava/lang/Object;)[I"⟩
theorem dX0_ints_0 : decode cX0_ints 0 = .ok (.aload_n 0, 1) := by decide +kernel
theorem dX0_ints_1 : decode cX0_ints 1 = .ok (.checkcast 313, 3) := by decide +kernel
theorem dX0_ints_4 : decode cX0_ints 4 = .ok (.areturn, 1) := by decide +kernel
abbrev cX0_soilsOf : ByteArray := prog_1_method_52_code
def yX0_soilsOf : MethodName := ⟨RX0, "soilsOf", "([IIII)V"⟩
def dkwX0_soilsOf_2 : List UInt8 := [21, 5, 96, 46, 184, 1, 42, 184, 1, 62, 181, 0, 160, 132, 5, 1, 167, 255, 216, 177]
abbrev dktX0_soilsOf_2 : List UInt8 := dkwX0_soilsOf_2 ++ []
def dkwX0_soilsOf_1 : List UInt8 := [21, 5, 21, 4, 162, 0, 39, 42, 180, 0, 45, 180, 0, 150, 29, 21, 5, 96, 50, 3, 16, 9, 43, 28]
abbrev dktX0_soilsOf_1 : List UInt8 := dkwX0_soilsOf_1 ++ dktX0_soilsOf_2
def dkwX0_soilsOf_0 : List UInt8 := [42, 28, 43, 190, 4, 96, 182, 1, 58, 42, 21, 4, 43, 190, 28, 100, 4, 96, 182, 1, 58, 3, 54, 5]
abbrev dktX0_soilsOf_0 : List UInt8 := dkwX0_soilsOf_0 ++ dktX0_soilsOf_1
theorem dksX0_soilsOf_0 : cX0_soilsOf.data.toList.drop 0 = dktX0_soilsOf_0 := by decide +kernel
theorem dksX0_soilsOf_1 : cX0_soilsOf.data.toList.drop 24 = dktX0_soilsOf_1 := dk_seg dksX0_soilsOf_0 24 rfl rfl
theorem dksX0_soilsOf_2 : cX0_soilsOf.data.toList.drop 48 = dktX0_soilsOf_2 := dk_seg dksX0_soilsOf_1 24 rfl rfl
theorem dX0_soilsOf_0 : decode cX0_soilsOf 0 = .ok (.aload_n 0, 1) := dk_42 (dk_at dksX0_soilsOf_0 0 rfl rfl)
theorem dX0_soilsOf_1 : decode cX0_soilsOf 1 = .ok (.iload_n 2, 1) := dk_28 (dk_at dksX0_soilsOf_0 1 rfl rfl)
theorem dX0_soilsOf_2 : decode cX0_soilsOf 2 = .ok (.aload_n 1, 1) := dk_43 (dk_at dksX0_soilsOf_0 2 rfl rfl)
theorem dX0_soilsOf_3 : decode cX0_soilsOf 3 = .ok (.arraylength, 1) := dk_190 (dk_at dksX0_soilsOf_0 3 rfl rfl)
theorem dX0_soilsOf_4 : decode cX0_soilsOf 4 = .ok (.iconst 1, 1) := dk_4 (dk_at dksX0_soilsOf_0 4 rfl rfl)
theorem dX0_soilsOf_5 : decode cX0_soilsOf 5 = .ok (.iadd, 1) := dk_96 (dk_at dksX0_soilsOf_0 5 rfl rfl)
theorem dX0_soilsOf_6 : decode cX0_soilsOf 6 = .ok (.invokevirtual 314, 3) := dk_182 1 58 (dk_at dksX0_soilsOf_0 6 rfl rfl)
theorem dX0_soilsOf_9 : decode cX0_soilsOf 9 = .ok (.aload_n 0, 1) := dk_42 (dk_at dksX0_soilsOf_0 9 rfl rfl)
theorem dX0_soilsOf_10 : decode cX0_soilsOf 10 = .ok (.iload 4, 2) := dk_21 4 (dk_at dksX0_soilsOf_0 10 rfl rfl)
theorem dX0_soilsOf_12 : decode cX0_soilsOf 12 = .ok (.aload_n 1, 1) := dk_43 (dk_at dksX0_soilsOf_0 12 rfl rfl)
theorem dX0_soilsOf_13 : decode cX0_soilsOf 13 = .ok (.arraylength, 1) := dk_190 (dk_at dksX0_soilsOf_0 13 rfl rfl)
theorem dX0_soilsOf_14 : decode cX0_soilsOf 14 = .ok (.iload_n 2, 1) := dk_28 (dk_at dksX0_soilsOf_0 14 rfl rfl)
theorem dX0_soilsOf_15 : decode cX0_soilsOf 15 = .ok (.isub, 1) := dk_100 (dk_at dksX0_soilsOf_0 15 rfl rfl)
theorem dX0_soilsOf_16 : decode cX0_soilsOf 16 = .ok (.iconst 1, 1) := dk_4 (dk_at dksX0_soilsOf_0 16 rfl rfl)
theorem dX0_soilsOf_17 : decode cX0_soilsOf 17 = .ok (.iadd, 1) := dk_96 (dk_at dksX0_soilsOf_0 17 rfl rfl)
theorem dX0_soilsOf_18 : decode cX0_soilsOf 18 = .ok (.invokevirtual 314, 3) := dk_182 1 58 (dk_at dksX0_soilsOf_0 18 rfl rfl)
theorem dX0_soilsOf_21 : decode cX0_soilsOf 21 = .ok (.iconst 0, 1) := dk_3 (dk_at dksX0_soilsOf_0 21 rfl rfl)
theorem dX0_soilsOf_22 : decode cX0_soilsOf 22 = .ok (.istore 5, 2) := dk_54 5 (dk_at dksX0_soilsOf_0 22 rfl rfl)
theorem dX0_soilsOf_24 : decode cX0_soilsOf 24 = .ok (.iload 5, 2) := dk_21 5 (dk_at dksX0_soilsOf_1 0 rfl rfl)
theorem dX0_soilsOf_26 : decode cX0_soilsOf 26 = .ok (.iload 4, 2) := dk_21 4 (dk_at dksX0_soilsOf_1 2 rfl rfl)
theorem dX0_soilsOf_28 : decode cX0_soilsOf 28 = .ok (.if_icmp .ge 39, 3) := dk_162 0 39 (dk_at dksX0_soilsOf_1 4 rfl rfl)
theorem dX0_soilsOf_31 : decode cX0_soilsOf 31 = .ok (.aload_n 0, 1) := dk_42 (dk_at dksX0_soilsOf_1 7 rfl rfl)
theorem dX0_soilsOf_32 : decode cX0_soilsOf 32 = .ok (.getfield 45, 3) := dk_180 0 45 (dk_at dksX0_soilsOf_1 8 rfl rfl)
theorem dX0_soilsOf_35 : decode cX0_soilsOf 35 = .ok (.getfield 150, 3) := dk_180 0 150 (dk_at dksX0_soilsOf_1 11 rfl rfl)
theorem dX0_soilsOf_38 : decode cX0_soilsOf 38 = .ok (.iload_n 3, 1) := dk_29 (dk_at dksX0_soilsOf_1 14 rfl rfl)
theorem dX0_soilsOf_39 : decode cX0_soilsOf 39 = .ok (.iload 5, 2) := dk_21 5 (dk_at dksX0_soilsOf_1 15 rfl rfl)
theorem dX0_soilsOf_41 : decode cX0_soilsOf 41 = .ok (.iadd, 1) := dk_96 (dk_at dksX0_soilsOf_1 17 rfl rfl)
theorem dX0_soilsOf_42 : decode cX0_soilsOf 42 = .ok (.aaload, 1) := dk_50 (dk_at dksX0_soilsOf_1 18 rfl rfl)
theorem dX0_soilsOf_43 : decode cX0_soilsOf 43 = .ok (.iconst 0, 1) := dk_3 (dk_at dksX0_soilsOf_1 19 rfl rfl)
theorem dX0_soilsOf_44 : decode cX0_soilsOf 44 = .ok (.bipush 9, 2) := dk_16 9 (dk_at dksX0_soilsOf_1 20 rfl rfl)
theorem dX0_soilsOf_46 : decode cX0_soilsOf 46 = .ok (.aload_n 1, 1) := dk_43 (dk_at dksX0_soilsOf_1 22 rfl rfl)
theorem dX0_soilsOf_47 : decode cX0_soilsOf 47 = .ok (.iload_n 2, 1) := dk_28 (dk_at dksX0_soilsOf_1 23 rfl rfl)
theorem dX0_soilsOf_48 : decode cX0_soilsOf 48 = .ok (.iload 5, 2) := dk_21 5 (dk_at dksX0_soilsOf_2 0 rfl rfl)
theorem dX0_soilsOf_50 : decode cX0_soilsOf 50 = .ok (.iadd, 1) := dk_96 (dk_at dksX0_soilsOf_2 2 rfl rfl)
theorem dX0_soilsOf_51 : decode cX0_soilsOf 51 = .ok (.iaload, 1) := dk_46 (dk_at dksX0_soilsOf_2 3 rfl rfl)
theorem dX0_soilsOf_52 : decode cX0_soilsOf 52 = .ok (.invokestatic 298, 3) := dk_184 1 42 (dk_at dksX0_soilsOf_2 4 rfl rfl)
theorem dX0_soilsOf_55 : decode cX0_soilsOf 55 = .ok (.invokestatic 318, 3) := dk_184 1 62 (dk_at dksX0_soilsOf_2 7 rfl rfl)
theorem dX0_soilsOf_58 : decode cX0_soilsOf 58 = .ok (.putfield 160, 3) := dk_181 0 160 (dk_at dksX0_soilsOf_2 10 rfl rfl)
theorem dX0_soilsOf_61 : decode cX0_soilsOf 61 = .ok (.iinc 5 1, 3) := dk_132 5 1 (dk_at dksX0_soilsOf_2 13 rfl rfl)
theorem dX0_soilsOf_64 : decode cX0_soilsOf 64 = .ok (.goto (-40), 3) := dk_167 255 216 (dk_at dksX0_soilsOf_2 16 rfl rfl)
theorem dX0_soilsOf_67 : decode cX0_soilsOf 67 = .ok (.return_, 1) := dk_177 (dk_at dksX0_soilsOf_2 19 rfl rfl)
abbrev cX0_within : ByteArray := prog_1_method_56_code
def yX0_within : MethodName := ⟨RX0, "within", "(II)V"⟩
def dkwX0_within_0 : List UInt8 := [27, 155, 0, 8, 27, 28, 161, 0, 8, 42, 180, 0, 88, 191, 177]
abbrev dktX0_within_0 : List UInt8 := dkwX0_within_0 ++ []
theorem dksX0_within_0 : cX0_within.data.toList.drop 0 = dktX0_within_0 := by decide +kernel
theorem dX0_within_0 : decode cX0_within 0 = .ok (.iload_n 1, 1) := dk_27 (dk_at dksX0_within_0 0 rfl rfl)
theorem dX0_within_1 : decode cX0_within 1 = .ok (.ifCond .lt 8, 3) := dk_155 0 8 (dk_at dksX0_within_0 1 rfl rfl)
theorem dX0_within_4 : decode cX0_within 4 = .ok (.iload_n 1, 1) := dk_27 (dk_at dksX0_within_0 4 rfl rfl)
theorem dX0_within_5 : decode cX0_within 5 = .ok (.iload_n 2, 1) := dk_28 (dk_at dksX0_within_0 5 rfl rfl)
theorem dX0_within_6 : decode cX0_within 6 = .ok (.if_icmp .lt 8, 3) := dk_161 0 8 (dk_at dksX0_within_0 6 rfl rfl)
theorem dX0_within_9 : decode cX0_within 9 = .ok (.aload_n 0, 1) := dk_42 (dk_at dksX0_within_0 9 rfl rfl)
theorem dX0_within_10 : decode cX0_within 10 = .ok (.getfield 88, 3) := dk_180 0 88 (dk_at dksX0_within_0 10 rfl rfl)
theorem dX0_within_13 : decode cX0_within 13 = .ok (.athrow, 1) := dk_191 (dk_at dksX0_within_0 13 rfl rfl)
theorem dX0_within_14 : decode cX0_within 14 = .ok (.return_, 1) := dk_177 (dk_at dksX0_within_0 14 rfl rfl)
abbrev cX0_sheet : ByteArray := prog_1_method_58_code
def yX0_sheet : MethodName := ⟨RX0, "sheet", "(III)I"⟩
def dkwX0_sheet_1 : List UInt8 := [164, 0, 5, 2, 172, 42, 180, 0, 81, 27, 50, 28, 29, 182, 1, 90, 4, 172, 58, 4, 16, 242, 172]
abbrev dktX0_sheet_1 : List UInt8 := dkwX0_sheet_1 ++ []
def dkwX0_sheet_0 : List UInt8 := [27, 184, 1, 64, 153, 0, 22, 28, 2, 6, 184, 0, 114, 153, 0, 13, 28, 155, 0, 11, 29, 16, 40]
abbrev dktX0_sheet_0 : List UInt8 := dkwX0_sheet_0 ++ dktX0_sheet_1
theorem dksX0_sheet_0 : cX0_sheet.data.toList.drop 0 = dktX0_sheet_0 := by decide +kernel
theorem dksX0_sheet_1 : cX0_sheet.data.toList.drop 23 = dktX0_sheet_1 := dk_seg dksX0_sheet_0 23 rfl rfl
theorem dX0_sheet_0 : decode cX0_sheet 0 = .ok (.iload_n 1, 1) := dk_27 (dk_at dksX0_sheet_0 0 rfl rfl)
theorem dX0_sheet_1 : decode cX0_sheet 1 = .ok (.invokestatic 320, 3) := dk_184 1 64 (dk_at dksX0_sheet_0 1 rfl rfl)
theorem dX0_sheet_4 : decode cX0_sheet 4 = .ok (.ifCond .eq 22, 3) := dk_153 0 22 (dk_at dksX0_sheet_0 4 rfl rfl)
theorem dX0_sheet_7 : decode cX0_sheet 7 = .ok (.iload_n 2, 1) := dk_28 (dk_at dksX0_sheet_0 7 rfl rfl)
theorem dX0_sheet_8 : decode cX0_sheet 8 = .ok (.iconst (-1), 1) := dk_2 (dk_at dksX0_sheet_0 8 rfl rfl)
theorem dX0_sheet_9 : decode cX0_sheet 9 = .ok (.iconst 3, 1) := dk_6 (dk_at dksX0_sheet_0 9 rfl rfl)
theorem dX0_sheet_10 : decode cX0_sheet 10 = .ok (.invokestatic 114, 3) := dk_184 0 114 (dk_at dksX0_sheet_0 10 rfl rfl)
theorem dX0_sheet_13 : decode cX0_sheet 13 = .ok (.ifCond .eq 13, 3) := dk_153 0 13 (dk_at dksX0_sheet_0 13 rfl rfl)
theorem dX0_sheet_16 : decode cX0_sheet 16 = .ok (.iload_n 2, 1) := dk_28 (dk_at dksX0_sheet_0 16 rfl rfl)
theorem dX0_sheet_17 : decode cX0_sheet 17 = .ok (.ifCond .lt 11, 3) := dk_155 0 11 (dk_at dksX0_sheet_0 17 rfl rfl)
theorem dX0_sheet_20 : decode cX0_sheet 20 = .ok (.iload_n 3, 1) := dk_29 (dk_at dksX0_sheet_0 20 rfl rfl)
theorem dX0_sheet_21 : decode cX0_sheet 21 = .ok (.bipush 40, 2) := dk_16 40 (dk_at dksX0_sheet_0 21 rfl rfl)
theorem dX0_sheet_23 : decode cX0_sheet 23 = .ok (.if_icmp .le 5, 3) := dk_164 0 5 (dk_at dksX0_sheet_1 0 rfl rfl)
theorem dX0_sheet_26 : decode cX0_sheet 26 = .ok (.iconst (-1), 1) := dk_2 (dk_at dksX0_sheet_1 3 rfl rfl)
theorem dX0_sheet_27 : decode cX0_sheet 27 = .ok (.ireturn, 1) := dk_172 (dk_at dksX0_sheet_1 4 rfl rfl)
theorem dX0_sheet_28 : decode cX0_sheet 28 = .ok (.aload_n 0, 1) := dk_42 (dk_at dksX0_sheet_1 5 rfl rfl)
theorem dX0_sheet_29 : decode cX0_sheet 29 = .ok (.getfield 81, 3) := dk_180 0 81 (dk_at dksX0_sheet_1 6 rfl rfl)
theorem dX0_sheet_32 : decode cX0_sheet 32 = .ok (.iload_n 1, 1) := dk_27 (dk_at dksX0_sheet_1 9 rfl rfl)
theorem dX0_sheet_33 : decode cX0_sheet 33 = .ok (.aaload, 1) := dk_50 (dk_at dksX0_sheet_1 10 rfl rfl)
theorem dX0_sheet_34 : decode cX0_sheet 34 = .ok (.iload_n 2, 1) := dk_28 (dk_at dksX0_sheet_1 11 rfl rfl)
theorem dX0_sheet_35 : decode cX0_sheet 35 = .ok (.iload_n 3, 1) := dk_29 (dk_at dksX0_sheet_1 12 rfl rfl)
theorem dX0_sheet_36 : decode cX0_sheet 36 = .ok (.invokevirtual 346, 3) := dk_182 1 90 (dk_at dksX0_sheet_1 13 rfl rfl)
theorem dX0_sheet_39 : decode cX0_sheet 39 = .ok (.iconst 1, 1) := dk_4 (dk_at dksX0_sheet_1 16 rfl rfl)
theorem dX0_sheet_40 : decode cX0_sheet 40 = .ok (.ireturn, 1) := dk_172 (dk_at dksX0_sheet_1 17 rfl rfl)
theorem dX0_sheet_41 : decode cX0_sheet 41 = .ok (.astore 4, 2) := dk_58 4 (dk_at dksX0_sheet_1 18 rfl rfl)
theorem dX0_sheet_43 : decode cX0_sheet 43 = .ok (.bipush (-14), 2) := dk_16 242 (dk_at dksX0_sheet_1 20 rfl rfl)
theorem dX0_sheet_45 : decode cX0_sheet 45 = .ok (.ireturn, 1) := dk_172 (dk_at dksX0_sheet_1 22 rfl rfl)
abbrev cX0_put : ByteArray := prog_1_method_60_code
def yX0_put : MethodName := ⟨RX0, "put", "(III)I"⟩
def dkwX0_put_1 : List UInt8 := [29, 182, 1, 99, 4, 172, 58, 4, 16, 245, 172, 58, 4, 16, 244, 172]
abbrev dktX0_put_1 : List UInt8 := dkwX0_put_1 ++ []
def dkwX0_put_0 : List UInt8 := [27, 184, 1, 64, 154, 0, 5, 2, 172, 42, 42, 42, 180, 0, 81, 27, 50, 182, 1, 67, 182, 1, 71, 28]
abbrev dktX0_put_0 : List UInt8 := dkwX0_put_0 ++ dktX0_put_1
theorem dksX0_put_0 : cX0_put.data.toList.drop 0 = dktX0_put_0 := by decide +kernel
theorem dksX0_put_1 : cX0_put.data.toList.drop 24 = dktX0_put_1 := dk_seg dksX0_put_0 24 rfl rfl
theorem dX0_put_0 : decode cX0_put 0 = .ok (.iload_n 1, 1) := dk_27 (dk_at dksX0_put_0 0 rfl rfl)
theorem dX0_put_1 : decode cX0_put 1 = .ok (.invokestatic 320, 3) := dk_184 1 64 (dk_at dksX0_put_0 1 rfl rfl)
theorem dX0_put_4 : decode cX0_put 4 = .ok (.ifCond .ne 5, 3) := dk_154 0 5 (dk_at dksX0_put_0 4 rfl rfl)
theorem dX0_put_7 : decode cX0_put 7 = .ok (.iconst (-1), 1) := dk_2 (dk_at dksX0_put_0 7 rfl rfl)
theorem dX0_put_8 : decode cX0_put 8 = .ok (.ireturn, 1) := dk_172 (dk_at dksX0_put_0 8 rfl rfl)
theorem dX0_put_9 : decode cX0_put 9 = .ok (.aload_n 0, 1) := dk_42 (dk_at dksX0_put_0 9 rfl rfl)
theorem dX0_put_10 : decode cX0_put 10 = .ok (.aload_n 0, 1) := dk_42 (dk_at dksX0_put_0 10 rfl rfl)
theorem dX0_put_11 : decode cX0_put 11 = .ok (.aload_n 0, 1) := dk_42 (dk_at dksX0_put_0 11 rfl rfl)
theorem dX0_put_12 : decode cX0_put 12 = .ok (.getfield 81, 3) := dk_180 0 81 (dk_at dksX0_put_0 12 rfl rfl)
theorem dX0_put_15 : decode cX0_put 15 = .ok (.iload_n 1, 1) := dk_27 (dk_at dksX0_put_0 15 rfl rfl)
theorem dX0_put_16 : decode cX0_put 16 = .ok (.aaload, 1) := dk_50 (dk_at dksX0_put_0 16 rfl rfl)
theorem dX0_put_17 : decode cX0_put 17 = .ok (.invokevirtual 323, 3) := dk_182 1 67 (dk_at dksX0_put_0 17 rfl rfl)
theorem dX0_put_20 : decode cX0_put 20 = .ok (.invokevirtual 327, 3) := dk_182 1 71 (dk_at dksX0_put_0 20 rfl rfl)
theorem dX0_put_23 : decode cX0_put 23 = .ok (.iload_n 2, 1) := dk_28 (dk_at dksX0_put_0 23 rfl rfl)
theorem dX0_put_24 : decode cX0_put 24 = .ok (.iload_n 3, 1) := dk_29 (dk_at dksX0_put_1 0 rfl rfl)
theorem dX0_put_25 : decode cX0_put 25 = .ok (.invokevirtual 355, 3) := dk_182 1 99 (dk_at dksX0_put_1 1 rfl rfl)
theorem dX0_put_28 : decode cX0_put 28 = .ok (.iconst 1, 1) := dk_4 (dk_at dksX0_put_1 4 rfl rfl)
theorem dX0_put_29 : decode cX0_put 29 = .ok (.ireturn, 1) := dk_172 (dk_at dksX0_put_1 5 rfl rfl)
theorem dX0_put_30 : decode cX0_put 30 = .ok (.astore 4, 2) := dk_58 4 (dk_at dksX0_put_1 6 rfl rfl)
theorem dX0_put_32 : decode cX0_put 32 = .ok (.bipush (-11), 2) := dk_16 245 (dk_at dksX0_put_1 8 rfl rfl)
theorem dX0_put_34 : decode cX0_put 34 = .ok (.ireturn, 1) := dk_172 (dk_at dksX0_put_1 10 rfl rfl)
theorem dX0_put_35 : decode cX0_put 35 = .ok (.astore 4, 2) := dk_58 4 (dk_at dksX0_put_1 11 rfl rfl)
theorem dX0_put_37 : decode cX0_put 37 = .ok (.bipush (-12), 2) := dk_16 244 (dk_at dksX0_put_1 13 rfl rfl)
theorem dX0_put_39 : decode cX0_put 39 = .ok (.ireturn, 1) := dk_172 (dk_at dksX0_put_1 15 rfl rfl)
abbrev cX0_set_2 : ByteArray := prog_1_method_59_code
def yX0_set_2 : MethodName := ⟨RX0, "set", "(Ljava/lang/Object;II)V"⟩
def dkwX0_set_2_3 : List UInt8 := [177]
abbrev dktX0_set_2_3 : List UInt8 := dkwX0_set_2_3 ++ []
def dkwX0_set_2_2 : List UInt8 := [193, 1, 88, 153, 0, 14, 43, 192, 1, 88, 28, 29, 133, 80, 167, 0, 10, 43, 192, 1, 57, 28, 29, 79]
abbrev dktX0_set_2_2 : List UInt8 := dkwX0_set_2_2 ++ dktX0_set_2_3
def dkwX0_set_2_1 : List UInt8 := [167, 0, 46, 43, 193, 1, 86, 153, 0, 14, 43, 192, 1, 86, 28, 29, 147, 86, 167, 0, 28, 43]
abbrev dktX0_set_2_1 : List UInt8 := dkwX0_set_2_1 ++ dktX0_set_2_2
def dkwX0_set_2_0 : List UInt8 := [42, 28, 43, 184, 1, 95, 182, 1, 58, 43, 193, 1, 85, 153, 0, 14, 43, 192, 1, 85, 28, 29, 145, 84]
abbrev dktX0_set_2_0 : List UInt8 := dkwX0_set_2_0 ++ dktX0_set_2_1
theorem dksX0_set_2_0 : cX0_set_2.data.toList.drop 0 = dktX0_set_2_0 := by decide +kernel
theorem dksX0_set_2_1 : cX0_set_2.data.toList.drop 24 = dktX0_set_2_1 := dk_seg dksX0_set_2_0 24 rfl rfl
theorem dksX0_set_2_2 : cX0_set_2.data.toList.drop 46 = dktX0_set_2_2 := dk_seg dksX0_set_2_1 22 rfl rfl
theorem dksX0_set_2_3 : cX0_set_2.data.toList.drop 70 = dktX0_set_2_3 := dk_seg dksX0_set_2_2 24 rfl rfl
theorem dX0_set_2_0 : decode cX0_set_2 0 = .ok (.aload_n 0, 1) := dk_42 (dk_at dksX0_set_2_0 0 rfl rfl)
theorem dX0_set_2_1 : decode cX0_set_2 1 = .ok (.iload_n 2, 1) := dk_28 (dk_at dksX0_set_2_0 1 rfl rfl)
theorem dX0_set_2_2 : decode cX0_set_2 2 = .ok (.aload_n 1, 1) := dk_43 (dk_at dksX0_set_2_0 2 rfl rfl)
theorem dX0_set_2_3 : decode cX0_set_2 3 = .ok (.invokestatic 351, 3) := dk_184 1 95 (dk_at dksX0_set_2_0 3 rfl rfl)
theorem dX0_set_2_6 : decode cX0_set_2 6 = .ok (.invokevirtual 314, 3) := dk_182 1 58 (dk_at dksX0_set_2_0 6 rfl rfl)
theorem dX0_set_2_9 : decode cX0_set_2 9 = .ok (.aload_n 1, 1) := dk_43 (dk_at dksX0_set_2_0 9 rfl rfl)
theorem dX0_set_2_10 : decode cX0_set_2 10 = .ok (.instanceof 341, 3) := dk_193 1 85 (dk_at dksX0_set_2_0 10 rfl rfl)
theorem dX0_set_2_13 : decode cX0_set_2 13 = .ok (.ifCond .eq 14, 3) := dk_153 0 14 (dk_at dksX0_set_2_0 13 rfl rfl)
theorem dX0_set_2_16 : decode cX0_set_2 16 = .ok (.aload_n 1, 1) := dk_43 (dk_at dksX0_set_2_0 16 rfl rfl)
theorem dX0_set_2_17 : decode cX0_set_2 17 = .ok (.checkcast 341, 3) := dk_192 1 85 (dk_at dksX0_set_2_0 17 rfl rfl)
theorem dX0_set_2_20 : decode cX0_set_2 20 = .ok (.iload_n 2, 1) := dk_28 (dk_at dksX0_set_2_0 20 rfl rfl)
theorem dX0_set_2_21 : decode cX0_set_2 21 = .ok (.iload_n 3, 1) := dk_29 (dk_at dksX0_set_2_0 21 rfl rfl)
theorem dX0_set_2_22 : decode cX0_set_2 22 = .ok (.i2b, 1) := dk_145 (dk_at dksX0_set_2_0 22 rfl rfl)
theorem dX0_set_2_23 : decode cX0_set_2 23 = .ok (.bastore, 1) := dk_84 (dk_at dksX0_set_2_0 23 rfl rfl)
theorem dX0_set_2_24 : decode cX0_set_2 24 = .ok (.goto 46, 3) := dk_167 0 46 (dk_at dksX0_set_2_1 0 rfl rfl)
theorem dX0_set_2_27 : decode cX0_set_2 27 = .ok (.aload_n 1, 1) := dk_43 (dk_at dksX0_set_2_1 3 rfl rfl)
theorem dX0_set_2_28 : decode cX0_set_2 28 = .ok (.instanceof 342, 3) := dk_193 1 86 (dk_at dksX0_set_2_1 4 rfl rfl)
theorem dX0_set_2_31 : decode cX0_set_2 31 = .ok (.ifCond .eq 14, 3) := dk_153 0 14 (dk_at dksX0_set_2_1 7 rfl rfl)
theorem dX0_set_2_34 : decode cX0_set_2 34 = .ok (.aload_n 1, 1) := dk_43 (dk_at dksX0_set_2_1 10 rfl rfl)
theorem dX0_set_2_35 : decode cX0_set_2 35 = .ok (.checkcast 342, 3) := dk_192 1 86 (dk_at dksX0_set_2_1 11 rfl rfl)
theorem dX0_set_2_38 : decode cX0_set_2 38 = .ok (.iload_n 2, 1) := dk_28 (dk_at dksX0_set_2_1 14 rfl rfl)
theorem dX0_set_2_39 : decode cX0_set_2 39 = .ok (.iload_n 3, 1) := dk_29 (dk_at dksX0_set_2_1 15 rfl rfl)
theorem dX0_set_2_40 : decode cX0_set_2 40 = .ok (.i2s, 1) := dk_147 (dk_at dksX0_set_2_1 16 rfl rfl)
theorem dX0_set_2_41 : decode cX0_set_2 41 = .ok (.sastore, 1) := dk_86 (dk_at dksX0_set_2_1 17 rfl rfl)
theorem dX0_set_2_42 : decode cX0_set_2 42 = .ok (.goto 28, 3) := dk_167 0 28 (dk_at dksX0_set_2_1 18 rfl rfl)
theorem dX0_set_2_45 : decode cX0_set_2 45 = .ok (.aload_n 1, 1) := dk_43 (dk_at dksX0_set_2_1 21 rfl rfl)
theorem dX0_set_2_46 : decode cX0_set_2 46 = .ok (.instanceof 344, 3) := dk_193 1 88 (dk_at dksX0_set_2_2 0 rfl rfl)
theorem dX0_set_2_49 : decode cX0_set_2 49 = .ok (.ifCond .eq 14, 3) := dk_153 0 14 (dk_at dksX0_set_2_2 3 rfl rfl)
theorem dX0_set_2_52 : decode cX0_set_2 52 = .ok (.aload_n 1, 1) := dk_43 (dk_at dksX0_set_2_2 6 rfl rfl)
theorem dX0_set_2_53 : decode cX0_set_2 53 = .ok (.checkcast 344, 3) := dk_192 1 88 (dk_at dksX0_set_2_2 7 rfl rfl)
theorem dX0_set_2_56 : decode cX0_set_2 56 = .ok (.iload_n 2, 1) := dk_28 (dk_at dksX0_set_2_2 10 rfl rfl)
theorem dX0_set_2_57 : decode cX0_set_2 57 = .ok (.iload_n 3, 1) := dk_29 (dk_at dksX0_set_2_2 11 rfl rfl)
theorem dX0_set_2_58 : decode cX0_set_2 58 = .ok (.i2l, 1) := dk_133 (dk_at dksX0_set_2_2 12 rfl rfl)
theorem dX0_set_2_59 : decode cX0_set_2 59 = .ok (.lastore, 1) := dk_80 (dk_at dksX0_set_2_2 13 rfl rfl)
theorem dX0_set_2_60 : decode cX0_set_2 60 = .ok (.goto 10, 3) := dk_167 0 10 (dk_at dksX0_set_2_2 14 rfl rfl)
theorem dX0_set_2_63 : decode cX0_set_2 63 = .ok (.aload_n 1, 1) := dk_43 (dk_at dksX0_set_2_2 17 rfl rfl)
theorem dX0_set_2_64 : decode cX0_set_2 64 = .ok (.checkcast 313, 3) := dk_192 1 57 (dk_at dksX0_set_2_2 18 rfl rfl)
theorem dX0_set_2_67 : decode cX0_set_2 67 = .ok (.iload_n 2, 1) := dk_28 (dk_at dksX0_set_2_2 21 rfl rfl)
theorem dX0_set_2_68 : decode cX0_set_2 68 = .ok (.iload_n 3, 1) := dk_29 (dk_at dksX0_set_2_2 22 rfl rfl)
theorem dX0_set_2_69 : decode cX0_set_2 69 = .ok (.iastore, 1) := dk_79 (dk_at dksX0_set_2_2 23 rfl rfl)
theorem dX0_set_2_70 : decode cX0_set_2 70 = .ok (.return_, 1) := dk_177 (dk_at dksX0_set_2_3 0 rfl rfl)
abbrev cX0_lengthOf : ByteArray := prog_1_method_55_code
def yX0_lengthOf : MethodName := ⟨RX0, "lengthOf", "(Ljava/lang/Object;)I"⟩
def dkwX0_lengthOf_1 : List UInt8 := [190, 172, 42, 193, 1, 88, 153, 0, 11, 42, 192, 1, 88, 190, 167, 0, 8, 42, 192, 1, 57, 190, 172]
abbrev dktX0_lengthOf_1 : List UInt8 := dkwX0_lengthOf_1 ++ []
def dkwX0_lengthOf_0 : List UInt8 := [42, 193, 1, 85, 153, 0, 9, 42, 192, 1, 85, 190, 172, 42, 193, 1, 86, 153, 0, 9, 42, 192, 1, 86]
abbrev dktX0_lengthOf_0 : List UInt8 := dkwX0_lengthOf_0 ++ dktX0_lengthOf_1
theorem dksX0_lengthOf_0 : cX0_lengthOf.data.toList.drop 0 = dktX0_lengthOf_0 := by decide +kernel
theorem dksX0_lengthOf_1 : cX0_lengthOf.data.toList.drop 24 = dktX0_lengthOf_1 := dk_seg dksX0_lengthOf_0 24 rfl rfl
theorem dX0_lengthOf_0 : decode cX0_lengthOf 0 = .ok (.aload_n 0, 1) := dk_42 (dk_at dksX0_lengthOf_0 0 rfl rfl)
theorem dX0_lengthOf_1 : decode cX0_lengthOf 1 = .ok (.instanceof 341, 3) := dk_193 1 85 (dk_at dksX0_lengthOf_0 1 rfl rfl)
theorem dX0_lengthOf_4 : decode cX0_lengthOf 4 = .ok (.ifCond .eq 9, 3) := dk_153 0 9 (dk_at dksX0_lengthOf_0 4 rfl rfl)
theorem dX0_lengthOf_7 : decode cX0_lengthOf 7 = .ok (.aload_n 0, 1) := dk_42 (dk_at dksX0_lengthOf_0 7 rfl rfl)
theorem dX0_lengthOf_8 : decode cX0_lengthOf 8 = .ok (.checkcast 341, 3) := dk_192 1 85 (dk_at dksX0_lengthOf_0 8 rfl rfl)
theorem dX0_lengthOf_11 : decode cX0_lengthOf 11 = .ok (.arraylength, 1) := dk_190 (dk_at dksX0_lengthOf_0 11 rfl rfl)
theorem dX0_lengthOf_12 : decode cX0_lengthOf 12 = .ok (.ireturn, 1) := dk_172 (dk_at dksX0_lengthOf_0 12 rfl rfl)
theorem dX0_lengthOf_13 : decode cX0_lengthOf 13 = .ok (.aload_n 0, 1) := dk_42 (dk_at dksX0_lengthOf_0 13 rfl rfl)
theorem dX0_lengthOf_14 : decode cX0_lengthOf 14 = .ok (.instanceof 342, 3) := dk_193 1 86 (dk_at dksX0_lengthOf_0 14 rfl rfl)
theorem dX0_lengthOf_17 : decode cX0_lengthOf 17 = .ok (.ifCond .eq 9, 3) := dk_153 0 9 (dk_at dksX0_lengthOf_0 17 rfl rfl)
theorem dX0_lengthOf_20 : decode cX0_lengthOf 20 = .ok (.aload_n 0, 1) := dk_42 (dk_at dksX0_lengthOf_0 20 rfl rfl)
theorem dX0_lengthOf_21 : decode cX0_lengthOf 21 = .ok (.checkcast 342, 3) := dk_192 1 86 (dk_at dksX0_lengthOf_0 21 rfl rfl)
theorem dX0_lengthOf_24 : decode cX0_lengthOf 24 = .ok (.arraylength, 1) := dk_190 (dk_at dksX0_lengthOf_1 0 rfl rfl)
theorem dX0_lengthOf_25 : decode cX0_lengthOf 25 = .ok (.ireturn, 1) := dk_172 (dk_at dksX0_lengthOf_1 1 rfl rfl)
theorem dX0_lengthOf_26 : decode cX0_lengthOf 26 = .ok (.aload_n 0, 1) := dk_42 (dk_at dksX0_lengthOf_1 2 rfl rfl)
theorem dX0_lengthOf_27 : decode cX0_lengthOf 27 = .ok (.instanceof 344, 3) := dk_193 1 88 (dk_at dksX0_lengthOf_1 3 rfl rfl)
theorem dX0_lengthOf_30 : decode cX0_lengthOf 30 = .ok (.ifCond .eq 11, 3) := dk_153 0 11 (dk_at dksX0_lengthOf_1 6 rfl rfl)
theorem dX0_lengthOf_33 : decode cX0_lengthOf 33 = .ok (.aload_n 0, 1) := dk_42 (dk_at dksX0_lengthOf_1 9 rfl rfl)
theorem dX0_lengthOf_34 : decode cX0_lengthOf 34 = .ok (.checkcast 344, 3) := dk_192 1 88 (dk_at dksX0_lengthOf_1 10 rfl rfl)
theorem dX0_lengthOf_37 : decode cX0_lengthOf 37 = .ok (.arraylength, 1) := dk_190 (dk_at dksX0_lengthOf_1 13 rfl rfl)
theorem dX0_lengthOf_38 : decode cX0_lengthOf 38 = .ok (.goto 8, 3) := dk_167 0 8 (dk_at dksX0_lengthOf_1 14 rfl rfl)
theorem dX0_lengthOf_41 : decode cX0_lengthOf 41 = .ok (.aload_n 0, 1) := dk_42 (dk_at dksX0_lengthOf_1 17 rfl rfl)
theorem dX0_lengthOf_42 : decode cX0_lengthOf 42 = .ok (.checkcast 313, 3) := dk_192 1 57 (dk_at dksX0_lengthOf_1 18 rfl rfl)
theorem dX0_lengthOf_45 : decode cX0_lengthOf 45 = .ok (.arraylength, 1) := dk_190 (dk_at dksX0_lengthOf_1 21 rfl rfl)
theorem dX0_lengthOf_46 : decode cX0_lengthOf 46 = .ok (.ireturn, 1) := dk_172 (dk_at dksX0_lengthOf_1 22 rfl rfl)
abbrev cX0_item : ByteArray := prog_1_method_66_code
def yX0_item : MethodName := ⟨RX0, "item", "(III)I"⟩
def dkwX0_item_2 : List UInt8 := [58, 4, 16, 244, 172]
abbrev dktX0_item_2 : List UInt8 := dkwX0_item_2 ++ []
def dkwX0_item_1 : List UInt8 := [27, 50, 182, 1, 67, 182, 1, 71, 28, 29, 182, 1, 119, 172, 58, 4, 16, 245, 172, 58, 4, 16, 243, 172]
abbrev dktX0_item_1 : List UInt8 := dkwX0_item_1 ++ dktX0_item_2
def dkwX0_item_0 : List UInt8 := [27, 184, 1, 64, 153, 0, 12, 28, 3, 6, 184, 0, 114, 154, 0, 5, 2, 172, 42, 42, 42, 180, 0, 81]
abbrev dktX0_item_0 : List UInt8 := dkwX0_item_0 ++ dktX0_item_1
theorem dksX0_item_0 : cX0_item.data.toList.drop 0 = dktX0_item_0 := by decide +kernel
theorem dksX0_item_1 : cX0_item.data.toList.drop 24 = dktX0_item_1 := dk_seg dksX0_item_0 24 rfl rfl
theorem dksX0_item_2 : cX0_item.data.toList.drop 48 = dktX0_item_2 := dk_seg dksX0_item_1 24 rfl rfl
theorem dX0_item_0 : decode cX0_item 0 = .ok (.iload_n 1, 1) := dk_27 (dk_at dksX0_item_0 0 rfl rfl)
theorem dX0_item_1 : decode cX0_item 1 = .ok (.invokestatic 320, 3) := dk_184 1 64 (dk_at dksX0_item_0 1 rfl rfl)
theorem dX0_item_4 : decode cX0_item 4 = .ok (.ifCond .eq 12, 3) := dk_153 0 12 (dk_at dksX0_item_0 4 rfl rfl)
theorem dX0_item_7 : decode cX0_item 7 = .ok (.iload_n 2, 1) := dk_28 (dk_at dksX0_item_0 7 rfl rfl)
theorem dX0_item_8 : decode cX0_item 8 = .ok (.iconst 0, 1) := dk_3 (dk_at dksX0_item_0 8 rfl rfl)
theorem dX0_item_9 : decode cX0_item 9 = .ok (.iconst 3, 1) := dk_6 (dk_at dksX0_item_0 9 rfl rfl)
theorem dX0_item_10 : decode cX0_item 10 = .ok (.invokestatic 114, 3) := dk_184 0 114 (dk_at dksX0_item_0 10 rfl rfl)
theorem dX0_item_13 : decode cX0_item 13 = .ok (.ifCond .ne 5, 3) := dk_154 0 5 (dk_at dksX0_item_0 13 rfl rfl)
theorem dX0_item_16 : decode cX0_item 16 = .ok (.iconst (-1), 1) := dk_2 (dk_at dksX0_item_0 16 rfl rfl)
theorem dX0_item_17 : decode cX0_item 17 = .ok (.ireturn, 1) := dk_172 (dk_at dksX0_item_0 17 rfl rfl)
theorem dX0_item_18 : decode cX0_item 18 = .ok (.aload_n 0, 1) := dk_42 (dk_at dksX0_item_0 18 rfl rfl)
theorem dX0_item_19 : decode cX0_item 19 = .ok (.aload_n 0, 1) := dk_42 (dk_at dksX0_item_0 19 rfl rfl)
theorem dX0_item_20 : decode cX0_item 20 = .ok (.aload_n 0, 1) := dk_42 (dk_at dksX0_item_0 20 rfl rfl)
theorem dX0_item_21 : decode cX0_item 21 = .ok (.getfield 81, 3) := dk_180 0 81 (dk_at dksX0_item_0 21 rfl rfl)
theorem dX0_item_24 : decode cX0_item 24 = .ok (.iload_n 1, 1) := dk_27 (dk_at dksX0_item_1 0 rfl rfl)
theorem dX0_item_25 : decode cX0_item 25 = .ok (.aaload, 1) := dk_50 (dk_at dksX0_item_1 1 rfl rfl)
theorem dX0_item_26 : decode cX0_item 26 = .ok (.invokevirtual 323, 3) := dk_182 1 67 (dk_at dksX0_item_1 2 rfl rfl)
theorem dX0_item_29 : decode cX0_item 29 = .ok (.invokevirtual 327, 3) := dk_182 1 71 (dk_at dksX0_item_1 5 rfl rfl)
theorem dX0_item_32 : decode cX0_item 32 = .ok (.iload_n 2, 1) := dk_28 (dk_at dksX0_item_1 8 rfl rfl)
theorem dX0_item_33 : decode cX0_item 33 = .ok (.iload_n 3, 1) := dk_29 (dk_at dksX0_item_1 9 rfl rfl)
theorem dX0_item_34 : decode cX0_item 34 = .ok (.invokevirtual 375, 3) := dk_182 1 119 (dk_at dksX0_item_1 10 rfl rfl)
theorem dX0_item_37 : decode cX0_item 37 = .ok (.ireturn, 1) := dk_172 (dk_at dksX0_item_1 13 rfl rfl)
theorem dX0_item_38 : decode cX0_item 38 = .ok (.astore 4, 2) := dk_58 4 (dk_at dksX0_item_1 14 rfl rfl)
theorem dX0_item_40 : decode cX0_item 40 = .ok (.bipush (-11), 2) := dk_16 245 (dk_at dksX0_item_1 16 rfl rfl)
theorem dX0_item_42 : decode cX0_item 42 = .ok (.ireturn, 1) := dk_172 (dk_at dksX0_item_1 18 rfl rfl)
theorem dX0_item_43 : decode cX0_item 43 = .ok (.astore 4, 2) := dk_58 4 (dk_at dksX0_item_1 19 rfl rfl)
theorem dX0_item_45 : decode cX0_item 45 = .ok (.bipush (-13), 2) := dk_16 243 (dk_at dksX0_item_1 21 rfl rfl)
theorem dX0_item_47 : decode cX0_item 47 = .ok (.ireturn, 1) := dk_172 (dk_at dksX0_item_1 23 rfl rfl)
theorem dX0_item_48 : decode cX0_item 48 = .ok (.astore 4, 2) := dk_58 4 (dk_at dksX0_item_2 0 rfl rfl)
theorem dX0_item_50 : decode cX0_item 50 = .ok (.bipush (-12), 2) := dk_16 244 (dk_at dksX0_item_2 2 rfl rfl)
theorem dX0_item_52 : decode cX0_item 52 = .ok (.ireturn, 1) := dk_172 (dk_at dksX0_item_2 4 rfl rfl)
abbrev cX0_itemOf : ByteArray := prog_1_method_65_code
def yX0_itemOf : MethodName := ⟨RX0, "itemOf", "(Ljava/lang/Object;II)I"⟩
def dkwX0_itemOf_3 : List UInt8 := [192, 1, 57, 29, 182, 1, 111, 172, 42, 43, 192, 1, 88, 29, 182, 1, 115, 172]
abbrev dktX0_itemOf_3 : List UInt8 := dkwX0_itemOf_3 ++ []
def dkwX0_itemOf_2 : List UInt8 := [42, 43, 192, 1, 85, 29, 182, 1, 103, 172, 42, 43, 192, 1, 86, 29, 182, 1, 107, 172, 42, 43]
abbrev dktX0_itemOf_2 : List UInt8 := dkwX0_itemOf_2 ++ dktX0_itemOf_3
def dkwX0_itemOf_1 : List UInt8 := [170, 0, 0, 0, 0, 0, 57, 0, 0, 0, 0, 0, 0, 0, 2, 0, 0, 0, 27, 0, 0, 0, 37, 0, 0, 0, 47]
abbrev dktX0_itemOf_1 : List UInt8 := dkwX0_itemOf_1 ++ dktX0_itemOf_2
def dkwX0_itemOf_0 : List UInt8 := [28]
abbrev dktX0_itemOf_0 : List UInt8 := dkwX0_itemOf_0 ++ dktX0_itemOf_1
theorem dksX0_itemOf_0 : cX0_itemOf.data.toList.drop 0 = dktX0_itemOf_0 := by decide +kernel
theorem dksX0_itemOf_1 : cX0_itemOf.data.toList.drop 1 = dktX0_itemOf_1 := dk_seg dksX0_itemOf_0 1 rfl rfl
theorem dksX0_itemOf_2 : cX0_itemOf.data.toList.drop 28 = dktX0_itemOf_2 := dk_seg dksX0_itemOf_1 27 rfl rfl
theorem dksX0_itemOf_3 : cX0_itemOf.data.toList.drop 50 = dktX0_itemOf_3 := dk_seg dksX0_itemOf_2 22 rfl rfl
theorem dX0_itemOf_0 : decode cX0_itemOf 0 = .ok (.iload_n 2, 1) := dk_28 (dk_at dksX0_itemOf_0 0 rfl rfl)
theorem dX0_itemOf_1 : decode cX0_itemOf 1 = .ok (.tableswitch 57 0 2 #[27, 37, 47], 27) := by decide +kernel
theorem dX0_itemOf_28 : decode cX0_itemOf 28 = .ok (.aload_n 0, 1) := dk_42 (dk_at dksX0_itemOf_2 0 rfl rfl)
theorem dX0_itemOf_29 : decode cX0_itemOf 29 = .ok (.aload_n 1, 1) := dk_43 (dk_at dksX0_itemOf_2 1 rfl rfl)
theorem dX0_itemOf_30 : decode cX0_itemOf 30 = .ok (.checkcast 341, 3) := dk_192 1 85 (dk_at dksX0_itemOf_2 2 rfl rfl)
theorem dX0_itemOf_33 : decode cX0_itemOf 33 = .ok (.iload_n 3, 1) := dk_29 (dk_at dksX0_itemOf_2 5 rfl rfl)
theorem dX0_itemOf_34 : decode cX0_itemOf 34 = .ok (.invokevirtual 359, 3) := dk_182 1 103 (dk_at dksX0_itemOf_2 6 rfl rfl)
theorem dX0_itemOf_37 : decode cX0_itemOf 37 = .ok (.ireturn, 1) := dk_172 (dk_at dksX0_itemOf_2 9 rfl rfl)
theorem dX0_itemOf_38 : decode cX0_itemOf 38 = .ok (.aload_n 0, 1) := dk_42 (dk_at dksX0_itemOf_2 10 rfl rfl)
theorem dX0_itemOf_39 : decode cX0_itemOf 39 = .ok (.aload_n 1, 1) := dk_43 (dk_at dksX0_itemOf_2 11 rfl rfl)
theorem dX0_itemOf_40 : decode cX0_itemOf 40 = .ok (.checkcast 342, 3) := dk_192 1 86 (dk_at dksX0_itemOf_2 12 rfl rfl)
theorem dX0_itemOf_43 : decode cX0_itemOf 43 = .ok (.iload_n 3, 1) := dk_29 (dk_at dksX0_itemOf_2 15 rfl rfl)
theorem dX0_itemOf_44 : decode cX0_itemOf 44 = .ok (.invokevirtual 363, 3) := dk_182 1 107 (dk_at dksX0_itemOf_2 16 rfl rfl)
theorem dX0_itemOf_47 : decode cX0_itemOf 47 = .ok (.ireturn, 1) := dk_172 (dk_at dksX0_itemOf_2 19 rfl rfl)
theorem dX0_itemOf_48 : decode cX0_itemOf 48 = .ok (.aload_n 0, 1) := dk_42 (dk_at dksX0_itemOf_2 20 rfl rfl)
theorem dX0_itemOf_49 : decode cX0_itemOf 49 = .ok (.aload_n 1, 1) := dk_43 (dk_at dksX0_itemOf_2 21 rfl rfl)
theorem dX0_itemOf_50 : decode cX0_itemOf 50 = .ok (.checkcast 313, 3) := dk_192 1 57 (dk_at dksX0_itemOf_3 0 rfl rfl)
theorem dX0_itemOf_53 : decode cX0_itemOf 53 = .ok (.iload_n 3, 1) := dk_29 (dk_at dksX0_itemOf_3 3 rfl rfl)
theorem dX0_itemOf_54 : decode cX0_itemOf 54 = .ok (.invokevirtual 367, 3) := dk_182 1 111 (dk_at dksX0_itemOf_3 4 rfl rfl)
theorem dX0_itemOf_57 : decode cX0_itemOf 57 = .ok (.ireturn, 1) := dk_172 (dk_at dksX0_itemOf_3 7 rfl rfl)
theorem dX0_itemOf_58 : decode cX0_itemOf 58 = .ok (.aload_n 0, 1) := dk_42 (dk_at dksX0_itemOf_3 8 rfl rfl)
theorem dX0_itemOf_59 : decode cX0_itemOf 59 = .ok (.aload_n 1, 1) := dk_43 (dk_at dksX0_itemOf_3 9 rfl rfl)
theorem dX0_itemOf_60 : decode cX0_itemOf 60 = .ok (.checkcast 344, 3) := dk_192 1 88 (dk_at dksX0_itemOf_3 10 rfl rfl)
theorem dX0_itemOf_63 : decode cX0_itemOf 63 = .ok (.iload_n 3, 1) := dk_29 (dk_at dksX0_itemOf_3 13 rfl rfl)
theorem dX0_itemOf_64 : decode cX0_itemOf 64 = .ok (.invokevirtual 371, 3) := dk_182 1 115 (dk_at dksX0_itemOf_3 14 rfl rfl)
theorem dX0_itemOf_67 : decode cX0_itemOf 67 = .ok (.ireturn, 1) := dk_172 (dk_at dksX0_itemOf_3 17 rfl rfl)
abbrev cX0_byteAt : ByteArray := prog_1_method_61_code
def yX0_byteAt : MethodName := ⟨RX0, "byteAt", "([BI)I"⟩
def dkwX0_byteAt_0 : List UInt8 := [42, 28, 43, 190, 182, 1, 58, 43, 28, 51, 172]
abbrev dktX0_byteAt_0 : List UInt8 := dkwX0_byteAt_0 ++ []
theorem dksX0_byteAt_0 : cX0_byteAt.data.toList.drop 0 = dktX0_byteAt_0 := by decide +kernel
theorem dX0_byteAt_0 : decode cX0_byteAt 0 = .ok (.aload_n 0, 1) := dk_42 (dk_at dksX0_byteAt_0 0 rfl rfl)
theorem dX0_byteAt_1 : decode cX0_byteAt 1 = .ok (.iload_n 2, 1) := dk_28 (dk_at dksX0_byteAt_0 1 rfl rfl)
theorem dX0_byteAt_2 : decode cX0_byteAt 2 = .ok (.aload_n 1, 1) := dk_43 (dk_at dksX0_byteAt_0 2 rfl rfl)
theorem dX0_byteAt_3 : decode cX0_byteAt 3 = .ok (.arraylength, 1) := dk_190 (dk_at dksX0_byteAt_0 3 rfl rfl)
theorem dX0_byteAt_4 : decode cX0_byteAt 4 = .ok (.invokevirtual 314, 3) := dk_182 1 58 (dk_at dksX0_byteAt_0 4 rfl rfl)
theorem dX0_byteAt_7 : decode cX0_byteAt 7 = .ok (.aload_n 1, 1) := dk_43 (dk_at dksX0_byteAt_0 7 rfl rfl)
theorem dX0_byteAt_8 : decode cX0_byteAt 8 = .ok (.iload_n 2, 1) := dk_28 (dk_at dksX0_byteAt_0 8 rfl rfl)
theorem dX0_byteAt_9 : decode cX0_byteAt 9 = .ok (.baload, 1) := dk_51 (dk_at dksX0_byteAt_0 9 rfl rfl)
theorem dX0_byteAt_10 : decode cX0_byteAt 10 = .ok (.ireturn, 1) := dk_172 (dk_at dksX0_byteAt_0 10 rfl rfl)
abbrev cX0_shortAt : ByteArray := prog_1_method_62_code
def yX0_shortAt : MethodName := ⟨RX0, "shortAt", "([SI)I"⟩
def dkwX0_shortAt_0 : List UInt8 := [42, 28, 43, 190, 182, 1, 58, 43, 28, 53, 172]
abbrev dktX0_shortAt_0 : List UInt8 := dkwX0_shortAt_0 ++ []
theorem dksX0_shortAt_0 : cX0_shortAt.data.toList.drop 0 = dktX0_shortAt_0 := by decide +kernel
theorem dX0_shortAt_0 : decode cX0_shortAt 0 = .ok (.aload_n 0, 1) := dk_42 (dk_at dksX0_shortAt_0 0 rfl rfl)
theorem dX0_shortAt_1 : decode cX0_shortAt 1 = .ok (.iload_n 2, 1) := dk_28 (dk_at dksX0_shortAt_0 1 rfl rfl)
theorem dX0_shortAt_2 : decode cX0_shortAt 2 = .ok (.aload_n 1, 1) := dk_43 (dk_at dksX0_shortAt_0 2 rfl rfl)
theorem dX0_shortAt_3 : decode cX0_shortAt 3 = .ok (.arraylength, 1) := dk_190 (dk_at dksX0_shortAt_0 3 rfl rfl)
theorem dX0_shortAt_4 : decode cX0_shortAt 4 = .ok (.invokevirtual 314, 3) := dk_182 1 58 (dk_at dksX0_shortAt_0 4 rfl rfl)
theorem dX0_shortAt_7 : decode cX0_shortAt 7 = .ok (.aload_n 1, 1) := dk_43 (dk_at dksX0_shortAt_0 7 rfl rfl)
theorem dX0_shortAt_8 : decode cX0_shortAt 8 = .ok (.iload_n 2, 1) := dk_28 (dk_at dksX0_shortAt_0 8 rfl rfl)
theorem dX0_shortAt_9 : decode cX0_shortAt 9 = .ok (.saload, 1) := dk_53 (dk_at dksX0_shortAt_0 9 rfl rfl)
theorem dX0_shortAt_10 : decode cX0_shortAt 10 = .ok (.ireturn, 1) := dk_172 (dk_at dksX0_shortAt_0 10 rfl rfl)
abbrev cX0_intAt : ByteArray := prog_1_method_63_code
def yX0_intAt : MethodName := ⟨RX0, "intAt", "([II)I"⟩
def dkwX0_intAt_0 : List UInt8 := [42, 28, 43, 190, 182, 1, 58, 43, 28, 46, 172]
abbrev dktX0_intAt_0 : List UInt8 := dkwX0_intAt_0 ++ []
theorem dksX0_intAt_0 : cX0_intAt.data.toList.drop 0 = dktX0_intAt_0 := by decide +kernel
theorem dX0_intAt_0 : decode cX0_intAt 0 = .ok (.aload_n 0, 1) := dk_42 (dk_at dksX0_intAt_0 0 rfl rfl)
theorem dX0_intAt_1 : decode cX0_intAt 1 = .ok (.iload_n 2, 1) := dk_28 (dk_at dksX0_intAt_0 1 rfl rfl)
theorem dX0_intAt_2 : decode cX0_intAt 2 = .ok (.aload_n 1, 1) := dk_43 (dk_at dksX0_intAt_0 2 rfl rfl)
theorem dX0_intAt_3 : decode cX0_intAt 3 = .ok (.arraylength, 1) := dk_190 (dk_at dksX0_intAt_0 3 rfl rfl)
theorem dX0_intAt_4 : decode cX0_intAt 4 = .ok (.invokevirtual 314, 3) := dk_182 1 58 (dk_at dksX0_intAt_0 4 rfl rfl)
theorem dX0_intAt_7 : decode cX0_intAt 7 = .ok (.aload_n 1, 1) := dk_43 (dk_at dksX0_intAt_0 7 rfl rfl)
theorem dX0_intAt_8 : decode cX0_intAt 8 = .ok (.iload_n 2, 1) := dk_28 (dk_at dksX0_intAt_0 8 rfl rfl)
theorem dX0_intAt_9 : decode cX0_intAt 9 = .ok (.iaload, 1) := dk_46 (dk_at dksX0_intAt_0 9 rfl rfl)
theorem dX0_intAt_10 : decode cX0_intAt 10 = .ok (.ireturn, 1) := dk_172 (dk_at dksX0_intAt_0 10 rfl rfl)
abbrev cX0_longAt : ByteArray := prog_1_method_64_code
def yX0_longAt : MethodName := ⟨RX0, "longAt", "([JI)I"⟩
def dkwX0_longAt_0 : List UInt8 := [42, 28, 43, 190, 182, 1, 58, 43, 28, 47, 136, 172]
abbrev dktX0_longAt_0 : List UInt8 := dkwX0_longAt_0 ++ []
theorem dksX0_longAt_0 : cX0_longAt.data.toList.drop 0 = dktX0_longAt_0 := by decide +kernel
theorem dX0_longAt_0 : decode cX0_longAt 0 = .ok (.aload_n 0, 1) := dk_42 (dk_at dksX0_longAt_0 0 rfl rfl)
theorem dX0_longAt_1 : decode cX0_longAt 1 = .ok (.iload_n 2, 1) := dk_28 (dk_at dksX0_longAt_0 1 rfl rfl)
theorem dX0_longAt_2 : decode cX0_longAt 2 = .ok (.aload_n 1, 1) := dk_43 (dk_at dksX0_longAt_0 2 rfl rfl)
theorem dX0_longAt_3 : decode cX0_longAt 3 = .ok (.arraylength, 1) := dk_190 (dk_at dksX0_longAt_0 3 rfl rfl)
theorem dX0_longAt_4 : decode cX0_longAt 4 = .ok (.invokevirtual 314, 3) := dk_182 1 58 (dk_at dksX0_longAt_0 4 rfl rfl)
theorem dX0_longAt_7 : decode cX0_longAt 7 = .ok (.aload_n 1, 1) := dk_43 (dk_at dksX0_longAt_0 7 rfl rfl)
theorem dX0_longAt_8 : decode cX0_longAt 8 = .ok (.iload_n 2, 1) := dk_28 (dk_at dksX0_longAt_0 8 rfl rfl)
theorem dX0_longAt_9 : decode cX0_longAt 9 = .ok (.laload, 1) := dk_47 (dk_at dksX0_longAt_0 9 rfl rfl)
theorem dX0_longAt_10 : decode cX0_longAt 10 = .ok (.l2i, 1) := dk_136 (dk_at dksX0_longAt_0 10 rfl rfl)
theorem dX0_longAt_11 : decode cX0_longAt 11 = .ok (.ireturn, 1) := dk_172 (dk_at dksX0_longAt_0 11 rfl rfl)
abbrev cX0_shelf : ByteArray := prog_1_method_70_code
def yX0_shelf : MethodName := ⟨RX0, "shelf", "(III)I"⟩
def dkwX0_shelf_4 : List UInt8 := [181, 1, 136, 4, 172]
abbrev dktX0_shelf_4 : List UInt8 := dkwX0_shelf_4 ++ []
def dkwX0_shelf_3 : List UInt8 := [42, 180, 0, 106, 27, 50, 28, 4, 160, 0, 15, 42, 180, 0, 81, 29, 50, 182, 1, 67, 167, 0, 4, 1]
abbrev dktX0_shelf_3 : List UInt8 := dkwX0_shelf_3 ++ dktX0_shelf_4
def dkwX0_shelf_2 : List UInt8 := [27, 50, 28, 181, 1, 126, 42, 180, 0, 106, 27, 50, 28, 154, 0, 7, 29, 167, 0, 4, 3, 181, 1, 129]
abbrev dktX0_shelf_2 : List UInt8 := dkwX0_shelf_2 ++ dktX0_shelf_3
def dkwX0_shelf_1 : List UInt8 := [182, 0, 238, 153, 0, 15, 28, 4, 160, 0, 12, 29, 184, 1, 64, 154, 0, 5, 2, 172, 42, 180, 0, 106]
abbrev dktX0_shelf_1 : List UInt8 := dkwX0_shelf_1 ++ dktX0_shelf_2
def dkwX0_shelf_0 : List UInt8 := [27, 184, 1, 139, 153, 0, 36, 28, 3, 5, 184, 0, 114, 153, 0, 27, 28, 154, 0, 11, 42, 29]
abbrev dktX0_shelf_0 : List UInt8 := dkwX0_shelf_0 ++ dktX0_shelf_1
theorem dksX0_shelf_0 : cX0_shelf.data.toList.drop 0 = dktX0_shelf_0 := by decide +kernel
theorem dksX0_shelf_1 : cX0_shelf.data.toList.drop 22 = dktX0_shelf_1 := dk_seg dksX0_shelf_0 22 rfl rfl
theorem dksX0_shelf_2 : cX0_shelf.data.toList.drop 46 = dktX0_shelf_2 := dk_seg dksX0_shelf_1 24 rfl rfl
theorem dksX0_shelf_3 : cX0_shelf.data.toList.drop 70 = dktX0_shelf_3 := dk_seg dksX0_shelf_2 24 rfl rfl
theorem dksX0_shelf_4 : cX0_shelf.data.toList.drop 94 = dktX0_shelf_4 := dk_seg dksX0_shelf_3 24 rfl rfl
theorem dX0_shelf_0 : decode cX0_shelf 0 = .ok (.iload_n 1, 1) := dk_27 (dk_at dksX0_shelf_0 0 rfl rfl)
theorem dX0_shelf_1 : decode cX0_shelf 1 = .ok (.invokestatic 395, 3) := dk_184 1 139 (dk_at dksX0_shelf_0 1 rfl rfl)
theorem dX0_shelf_4 : decode cX0_shelf 4 = .ok (.ifCond .eq 36, 3) := dk_153 0 36 (dk_at dksX0_shelf_0 4 rfl rfl)
theorem dX0_shelf_7 : decode cX0_shelf 7 = .ok (.iload_n 2, 1) := dk_28 (dk_at dksX0_shelf_0 7 rfl rfl)
theorem dX0_shelf_8 : decode cX0_shelf 8 = .ok (.iconst 0, 1) := dk_3 (dk_at dksX0_shelf_0 8 rfl rfl)
theorem dX0_shelf_9 : decode cX0_shelf 9 = .ok (.iconst 2, 1) := dk_5 (dk_at dksX0_shelf_0 9 rfl rfl)
theorem dX0_shelf_10 : decode cX0_shelf 10 = .ok (.invokestatic 114, 3) := dk_184 0 114 (dk_at dksX0_shelf_0 10 rfl rfl)
theorem dX0_shelf_13 : decode cX0_shelf 13 = .ok (.ifCond .eq 27, 3) := dk_153 0 27 (dk_at dksX0_shelf_0 13 rfl rfl)
theorem dX0_shelf_16 : decode cX0_shelf 16 = .ok (.iload_n 2, 1) := dk_28 (dk_at dksX0_shelf_0 16 rfl rfl)
theorem dX0_shelf_17 : decode cX0_shelf 17 = .ok (.ifCond .ne 11, 3) := dk_154 0 11 (dk_at dksX0_shelf_0 17 rfl rfl)
theorem dX0_shelf_20 : decode cX0_shelf 20 = .ok (.aload_n 0, 1) := dk_42 (dk_at dksX0_shelf_0 20 rfl rfl)
theorem dX0_shelf_21 : decode cX0_shelf 21 = .ok (.iload_n 3, 1) := dk_29 (dk_at dksX0_shelf_0 21 rfl rfl)
theorem dX0_shelf_22 : decode cX0_shelf 22 = .ok (.invokevirtual 238, 3) := dk_182 0 238 (dk_at dksX0_shelf_1 0 rfl rfl)
theorem dX0_shelf_25 : decode cX0_shelf 25 = .ok (.ifCond .eq 15, 3) := dk_153 0 15 (dk_at dksX0_shelf_1 3 rfl rfl)
theorem dX0_shelf_28 : decode cX0_shelf 28 = .ok (.iload_n 2, 1) := dk_28 (dk_at dksX0_shelf_1 6 rfl rfl)
theorem dX0_shelf_29 : decode cX0_shelf 29 = .ok (.iconst 1, 1) := dk_4 (dk_at dksX0_shelf_1 7 rfl rfl)
theorem dX0_shelf_30 : decode cX0_shelf 30 = .ok (.if_icmp .ne 12, 3) := dk_160 0 12 (dk_at dksX0_shelf_1 8 rfl rfl)
theorem dX0_shelf_33 : decode cX0_shelf 33 = .ok (.iload_n 3, 1) := dk_29 (dk_at dksX0_shelf_1 11 rfl rfl)
theorem dX0_shelf_34 : decode cX0_shelf 34 = .ok (.invokestatic 320, 3) := dk_184 1 64 (dk_at dksX0_shelf_1 12 rfl rfl)
theorem dX0_shelf_37 : decode cX0_shelf 37 = .ok (.ifCond .ne 5, 3) := dk_154 0 5 (dk_at dksX0_shelf_1 15 rfl rfl)
theorem dX0_shelf_40 : decode cX0_shelf 40 = .ok (.iconst (-1), 1) := dk_2 (dk_at dksX0_shelf_1 18 rfl rfl)
theorem dX0_shelf_41 : decode cX0_shelf 41 = .ok (.ireturn, 1) := dk_172 (dk_at dksX0_shelf_1 19 rfl rfl)
theorem dX0_shelf_42 : decode cX0_shelf 42 = .ok (.aload_n 0, 1) := dk_42 (dk_at dksX0_shelf_1 20 rfl rfl)
theorem dX0_shelf_43 : decode cX0_shelf 43 = .ok (.getfield 106, 3) := dk_180 0 106 (dk_at dksX0_shelf_1 21 rfl rfl)
theorem dX0_shelf_46 : decode cX0_shelf 46 = .ok (.iload_n 1, 1) := dk_27 (dk_at dksX0_shelf_2 0 rfl rfl)
theorem dX0_shelf_47 : decode cX0_shelf 47 = .ok (.aaload, 1) := dk_50 (dk_at dksX0_shelf_2 1 rfl rfl)
theorem dX0_shelf_48 : decode cX0_shelf 48 = .ok (.iload_n 2, 1) := dk_28 (dk_at dksX0_shelf_2 2 rfl rfl)
theorem dX0_shelf_49 : decode cX0_shelf 49 = .ok (.putfield 382, 3) := dk_181 1 126 (dk_at dksX0_shelf_2 3 rfl rfl)
theorem dX0_shelf_52 : decode cX0_shelf 52 = .ok (.aload_n 0, 1) := dk_42 (dk_at dksX0_shelf_2 6 rfl rfl)
theorem dX0_shelf_53 : decode cX0_shelf 53 = .ok (.getfield 106, 3) := dk_180 0 106 (dk_at dksX0_shelf_2 7 rfl rfl)
theorem dX0_shelf_56 : decode cX0_shelf 56 = .ok (.iload_n 1, 1) := dk_27 (dk_at dksX0_shelf_2 10 rfl rfl)
theorem dX0_shelf_57 : decode cX0_shelf 57 = .ok (.aaload, 1) := dk_50 (dk_at dksX0_shelf_2 11 rfl rfl)
theorem dX0_shelf_58 : decode cX0_shelf 58 = .ok (.iload_n 2, 1) := dk_28 (dk_at dksX0_shelf_2 12 rfl rfl)
theorem dX0_shelf_59 : decode cX0_shelf 59 = .ok (.ifCond .ne 7, 3) := dk_154 0 7 (dk_at dksX0_shelf_2 13 rfl rfl)
theorem dX0_shelf_62 : decode cX0_shelf 62 = .ok (.iload_n 3, 1) := dk_29 (dk_at dksX0_shelf_2 16 rfl rfl)
theorem dX0_shelf_63 : decode cX0_shelf 63 = .ok (.goto 4, 3) := dk_167 0 4 (dk_at dksX0_shelf_2 17 rfl rfl)
theorem dX0_shelf_66 : decode cX0_shelf 66 = .ok (.iconst 0, 1) := dk_3 (dk_at dksX0_shelf_2 20 rfl rfl)
theorem dX0_shelf_67 : decode cX0_shelf 67 = .ok (.putfield 385, 3) := dk_181 1 129 (dk_at dksX0_shelf_2 21 rfl rfl)
theorem dX0_shelf_70 : decode cX0_shelf 70 = .ok (.aload_n 0, 1) := dk_42 (dk_at dksX0_shelf_3 0 rfl rfl)
theorem dX0_shelf_71 : decode cX0_shelf 71 = .ok (.getfield 106, 3) := dk_180 0 106 (dk_at dksX0_shelf_3 1 rfl rfl)
theorem dX0_shelf_74 : decode cX0_shelf 74 = .ok (.iload_n 1, 1) := dk_27 (dk_at dksX0_shelf_3 4 rfl rfl)
theorem dX0_shelf_75 : decode cX0_shelf 75 = .ok (.aaload, 1) := dk_50 (dk_at dksX0_shelf_3 5 rfl rfl)
theorem dX0_shelf_76 : decode cX0_shelf 76 = .ok (.iload_n 2, 1) := dk_28 (dk_at dksX0_shelf_3 6 rfl rfl)
theorem dX0_shelf_77 : decode cX0_shelf 77 = .ok (.iconst 1, 1) := dk_4 (dk_at dksX0_shelf_3 7 rfl rfl)
theorem dX0_shelf_78 : decode cX0_shelf 78 = .ok (.if_icmp .ne 15, 3) := dk_160 0 15 (dk_at dksX0_shelf_3 8 rfl rfl)
theorem dX0_shelf_81 : decode cX0_shelf 81 = .ok (.aload_n 0, 1) := dk_42 (dk_at dksX0_shelf_3 11 rfl rfl)
theorem dX0_shelf_82 : decode cX0_shelf 82 = .ok (.getfield 81, 3) := dk_180 0 81 (dk_at dksX0_shelf_3 12 rfl rfl)
theorem dX0_shelf_85 : decode cX0_shelf 85 = .ok (.iload_n 3, 1) := dk_29 (dk_at dksX0_shelf_3 15 rfl rfl)
theorem dX0_shelf_86 : decode cX0_shelf 86 = .ok (.aaload, 1) := dk_50 (dk_at dksX0_shelf_3 16 rfl rfl)
theorem dX0_shelf_87 : decode cX0_shelf 87 = .ok (.invokevirtual 323, 3) := dk_182 1 67 (dk_at dksX0_shelf_3 17 rfl rfl)
theorem dX0_shelf_90 : decode cX0_shelf 90 = .ok (.goto 4, 3) := dk_167 0 4 (dk_at dksX0_shelf_3 20 rfl rfl)
theorem dX0_shelf_93 : decode cX0_shelf 93 = .ok (.aconst_null, 1) := dk_1 (dk_at dksX0_shelf_3 23 rfl rfl)
theorem dX0_shelf_94 : decode cX0_shelf 94 = .ok (.putfield 392, 3) := dk_181 1 136 (dk_at dksX0_shelf_4 0 rfl rfl)
theorem dX0_shelf_97 : decode cX0_shelf 97 = .ok (.iconst 1, 1) := dk_4 (dk_at dksX0_shelf_4 3 rfl rfl)
theorem dX0_shelf_98 : decode cX0_shelf 98 = .ok (.ireturn, 1) := dk_172 (dk_at dksX0_shelf_4 4 rfl rfl)
abbrev cX0_isShelf : ByteArray := prog_1_method_68_code
def yX0_isShelf : MethodName := ⟨RX0, "isShelf", "(I)Z"⟩
def dkwX0_isShelf_0 : List UInt8 := [26, 3, 6, 184, 0, 114, 172]
abbrev dktX0_isShelf_0 : List UInt8 := dkwX0_isShelf_0 ++ []
theorem dksX0_isShelf_0 : cX0_isShelf.data.toList.drop 0 = dktX0_isShelf_0 := by decide +kernel
theorem dX0_isShelf_0 : decode cX0_isShelf 0 = .ok (.iload_n 0, 1) := dk_26 (dk_at dksX0_isShelf_0 0 rfl rfl)
theorem dX0_isShelf_1 : decode cX0_isShelf 1 = .ok (.iconst 0, 1) := dk_3 (dk_at dksX0_isShelf_0 1 rfl rfl)
theorem dX0_isShelf_2 : decode cX0_isShelf 2 = .ok (.iconst 3, 1) := dk_6 (dk_at dksX0_isShelf_0 2 rfl rfl)
theorem dX0_isShelf_3 : decode cX0_isShelf 3 = .ok (.invokestatic 114, 3) := dk_184 0 114 (dk_at dksX0_isShelf_0 3 rfl rfl)
theorem dX0_isShelf_6 : decode cX0_isShelf 6 = .ok (.ireturn, 1) := dk_172 (dk_at dksX0_isShelf_0 6 rfl rfl)
abbrev cX0_taken : ByteArray := prog_1_method_73_code
def yX0_taken : MethodName := ⟨RX0, "taken", "(II)I"⟩
def dkwX0_taken_2 : List UInt8 := [78, 16, 245, 172, 78, 16, 243, 172]
abbrev dktX0_taken_2 : List UInt8 := dkwX0_taken_2 ++ []
def dkwX0_taken_1 : List UInt8 := [154, 0, 5, 2, 172, 42, 42, 42, 180, 0, 106, 27, 50, 182, 1, 166, 182, 1, 71, 28, 184, 1, 170, 172]
abbrev dktX0_taken_1 : List UInt8 := dkwX0_taken_1 ++ dktX0_taken_2
def dkwX0_taken_0 : List UInt8 := [27, 184, 1, 139, 153, 0, 23, 28, 3, 8, 184, 0, 114, 154, 0, 16, 28, 16, 10, 16, 13, 184, 0, 114]
abbrev dktX0_taken_0 : List UInt8 := dkwX0_taken_0 ++ dktX0_taken_1
theorem dksX0_taken_0 : cX0_taken.data.toList.drop 0 = dktX0_taken_0 := by decide +kernel
theorem dksX0_taken_1 : cX0_taken.data.toList.drop 24 = dktX0_taken_1 := dk_seg dksX0_taken_0 24 rfl rfl
theorem dksX0_taken_2 : cX0_taken.data.toList.drop 48 = dktX0_taken_2 := dk_seg dksX0_taken_1 24 rfl rfl
theorem dX0_taken_0 : decode cX0_taken 0 = .ok (.iload_n 1, 1) := dk_27 (dk_at dksX0_taken_0 0 rfl rfl)
theorem dX0_taken_1 : decode cX0_taken 1 = .ok (.invokestatic 395, 3) := dk_184 1 139 (dk_at dksX0_taken_0 1 rfl rfl)
theorem dX0_taken_4 : decode cX0_taken 4 = .ok (.ifCond .eq 23, 3) := dk_153 0 23 (dk_at dksX0_taken_0 4 rfl rfl)
theorem dX0_taken_7 : decode cX0_taken 7 = .ok (.iload_n 2, 1) := dk_28 (dk_at dksX0_taken_0 7 rfl rfl)
theorem dX0_taken_8 : decode cX0_taken 8 = .ok (.iconst 0, 1) := dk_3 (dk_at dksX0_taken_0 8 rfl rfl)
theorem dX0_taken_9 : decode cX0_taken 9 = .ok (.iconst 5, 1) := dk_8 (dk_at dksX0_taken_0 9 rfl rfl)
theorem dX0_taken_10 : decode cX0_taken 10 = .ok (.invokestatic 114, 3) := dk_184 0 114 (dk_at dksX0_taken_0 10 rfl rfl)
theorem dX0_taken_13 : decode cX0_taken 13 = .ok (.ifCond .ne 16, 3) := dk_154 0 16 (dk_at dksX0_taken_0 13 rfl rfl)
theorem dX0_taken_16 : decode cX0_taken 16 = .ok (.iload_n 2, 1) := dk_28 (dk_at dksX0_taken_0 16 rfl rfl)
theorem dX0_taken_17 : decode cX0_taken 17 = .ok (.bipush 10, 2) := dk_16 10 (dk_at dksX0_taken_0 17 rfl rfl)
theorem dX0_taken_19 : decode cX0_taken 19 = .ok (.bipush 13, 2) := dk_16 13 (dk_at dksX0_taken_0 19 rfl rfl)
theorem dX0_taken_21 : decode cX0_taken 21 = .ok (.invokestatic 114, 3) := dk_184 0 114 (dk_at dksX0_taken_0 21 rfl rfl)
theorem dX0_taken_24 : decode cX0_taken 24 = .ok (.ifCond .ne 5, 3) := dk_154 0 5 (dk_at dksX0_taken_1 0 rfl rfl)
theorem dX0_taken_27 : decode cX0_taken 27 = .ok (.iconst (-1), 1) := dk_2 (dk_at dksX0_taken_1 3 rfl rfl)
theorem dX0_taken_28 : decode cX0_taken 28 = .ok (.ireturn, 1) := dk_172 (dk_at dksX0_taken_1 4 rfl rfl)
theorem dX0_taken_29 : decode cX0_taken 29 = .ok (.aload_n 0, 1) := dk_42 (dk_at dksX0_taken_1 5 rfl rfl)
theorem dX0_taken_30 : decode cX0_taken 30 = .ok (.aload_n 0, 1) := dk_42 (dk_at dksX0_taken_1 6 rfl rfl)
theorem dX0_taken_31 : decode cX0_taken 31 = .ok (.aload_n 0, 1) := dk_42 (dk_at dksX0_taken_1 7 rfl rfl)
theorem dX0_taken_32 : decode cX0_taken 32 = .ok (.getfield 106, 3) := dk_180 0 106 (dk_at dksX0_taken_1 8 rfl rfl)
theorem dX0_taken_35 : decode cX0_taken 35 = .ok (.iload_n 1, 1) := dk_27 (dk_at dksX0_taken_1 11 rfl rfl)
theorem dX0_taken_36 : decode cX0_taken 36 = .ok (.aaload, 1) := dk_50 (dk_at dksX0_taken_1 12 rfl rfl)
theorem dX0_taken_37 : decode cX0_taken 37 = .ok (.invokevirtual 422, 3) := dk_182 1 166 (dk_at dksX0_taken_1 13 rfl rfl)
theorem dX0_taken_40 : decode cX0_taken 40 = .ok (.invokevirtual 327, 3) := dk_182 1 71 (dk_at dksX0_taken_1 16 rfl rfl)
theorem dX0_taken_43 : decode cX0_taken 43 = .ok (.iload_n 2, 1) := dk_28 (dk_at dksX0_taken_1 19 rfl rfl)
theorem dX0_taken_44 : decode cX0_taken 44 = .ok (.invokestatic 426, 3) := dk_184 1 170 (dk_at dksX0_taken_1 20 rfl rfl)
theorem dX0_taken_47 : decode cX0_taken 47 = .ok (.ireturn, 1) := dk_172 (dk_at dksX0_taken_1 23 rfl rfl)
theorem dX0_taken_48 : decode cX0_taken 48 = .ok (.astore_n 3, 1) := dk_78 (dk_at dksX0_taken_2 0 rfl rfl)
theorem dX0_taken_49 : decode cX0_taken 49 = .ok (.bipush (-11), 2) := dk_16 245 (dk_at dksX0_taken_2 1 rfl rfl)
theorem dX0_taken_51 : decode cX0_taken 51 = .ok (.ireturn, 1) := dk_172 (dk_at dksX0_taken_2 3 rfl rfl)
theorem dX0_taken_52 : decode cX0_taken 52 = .ok (.astore_n 3, 1) := dk_78 (dk_at dksX0_taken_2 4 rfl rfl)
theorem dX0_taken_53 : decode cX0_taken 53 = .ok (.bipush (-13), 2) := dk_16 243 (dk_at dksX0_taken_2 5 rfl rfl)
theorem dX0_taken_55 : decode cX0_taken 55 = .ok (.ireturn, 1) := dk_172 (dk_at dksX0_taken_2 7 rfl rfl)
abbrev cX0_heldOf : ByteArray := prog_1_method_69_code
def yX0_heldOf : MethodName := ⟨RX0, "heldOf", "(LCoatHoles$Shelf;)Ljava/lang/Object;"⟩
def dkwX0_heldOf_4 : List UInt8 := [167, 0, 4, 1, 176, 43, 180, 1, 136, 176, 1, 176]
abbrev dktX0_heldOf_4 : List UInt8 := dkwX0_heldOf_4 ++ []
def dkwX0_heldOf_3 : List UInt8 := [180, 1, 129, 46, 50, 43, 180, 1, 129, 42, 180, 0, 45, 180, 0, 235, 43, 180, 1, 129, 46, 182, 1, 132]
abbrev dktX0_heldOf_3 : List UInt8 := dkwX0_heldOf_3 ++ dktX0_heldOf_4
def dkwX0_heldOf_2 : List UInt8 := [42, 43, 180, 1, 129, 182, 0, 238, 153, 0, 42, 42, 180, 0, 38, 42, 180, 0, 45, 180, 0, 232, 43]
abbrev dktX0_heldOf_2 : List UInt8 := dkwX0_heldOf_2 ++ dktX0_heldOf_3
def dkwX0_heldOf_1 : List UInt8 := [171, 0, 0, 0, 0, 0, 0, 85, 0, 0, 0, 2, 0, 0, 0, 0, 0, 0, 0, 28, 0, 0, 0, 1, 0, 0, 0, 80]
abbrev dktX0_heldOf_1 : List UInt8 := dkwX0_heldOf_1 ++ dktX0_heldOf_2
def dkwX0_heldOf_0 : List UInt8 := [43, 180, 1, 126]
abbrev dktX0_heldOf_0 : List UInt8 := dkwX0_heldOf_0 ++ dktX0_heldOf_1
theorem dksX0_heldOf_0 : cX0_heldOf.data.toList.drop 0 = dktX0_heldOf_0 := by decide +kernel
theorem dksX0_heldOf_1 : cX0_heldOf.data.toList.drop 4 = dktX0_heldOf_1 := dk_seg dksX0_heldOf_0 4 rfl rfl
theorem dksX0_heldOf_2 : cX0_heldOf.data.toList.drop 32 = dktX0_heldOf_2 := dk_seg dksX0_heldOf_1 28 rfl rfl
theorem dksX0_heldOf_3 : cX0_heldOf.data.toList.drop 55 = dktX0_heldOf_3 := dk_seg dksX0_heldOf_2 23 rfl rfl
theorem dksX0_heldOf_4 : cX0_heldOf.data.toList.drop 79 = dktX0_heldOf_4 := dk_seg dksX0_heldOf_3 24 rfl rfl
theorem dX0_heldOf_0 : decode cX0_heldOf 0 = .ok (.aload_n 1, 1) := dk_43 (dk_at dksX0_heldOf_0 0 rfl rfl)
theorem dX0_heldOf_1 : decode cX0_heldOf 1 = .ok (.getfield 382, 3) := dk_180 1 126 (dk_at dksX0_heldOf_0 1 rfl rfl)
theorem dX0_heldOf_4 : decode cX0_heldOf 4 = .ok (.lookupswitch 85 #[(0, 28), (1, 80)], 28) := by decide +kernel
theorem dX0_heldOf_32 : decode cX0_heldOf 32 = .ok (.aload_n 0, 1) := dk_42 (dk_at dksX0_heldOf_2 0 rfl rfl)
theorem dX0_heldOf_33 : decode cX0_heldOf 33 = .ok (.aload_n 1, 1) := dk_43 (dk_at dksX0_heldOf_2 1 rfl rfl)
theorem dX0_heldOf_34 : decode cX0_heldOf 34 = .ok (.getfield 385, 3) := dk_180 1 129 (dk_at dksX0_heldOf_2 2 rfl rfl)
theorem dX0_heldOf_37 : decode cX0_heldOf 37 = .ok (.invokevirtual 238, 3) := dk_182 0 238 (dk_at dksX0_heldOf_2 5 rfl rfl)
theorem dX0_heldOf_40 : decode cX0_heldOf 40 = .ok (.ifCond .eq 42, 3) := dk_153 0 42 (dk_at dksX0_heldOf_2 8 rfl rfl)
theorem dX0_heldOf_43 : decode cX0_heldOf 43 = .ok (.aload_n 0, 1) := dk_42 (dk_at dksX0_heldOf_2 11 rfl rfl)
theorem dX0_heldOf_44 : decode cX0_heldOf 44 = .ok (.getfield 38, 3) := dk_180 0 38 (dk_at dksX0_heldOf_2 12 rfl rfl)
theorem dX0_heldOf_47 : decode cX0_heldOf 47 = .ok (.aload_n 0, 1) := dk_42 (dk_at dksX0_heldOf_2 15 rfl rfl)
theorem dX0_heldOf_48 : decode cX0_heldOf 48 = .ok (.getfield 45, 3) := dk_180 0 45 (dk_at dksX0_heldOf_2 16 rfl rfl)
theorem dX0_heldOf_51 : decode cX0_heldOf 51 = .ok (.getfield 232, 3) := dk_180 0 232 (dk_at dksX0_heldOf_2 19 rfl rfl)
theorem dX0_heldOf_54 : decode cX0_heldOf 54 = .ok (.aload_n 1, 1) := dk_43 (dk_at dksX0_heldOf_2 22 rfl rfl)
theorem dX0_heldOf_55 : decode cX0_heldOf 55 = .ok (.getfield 385, 3) := dk_180 1 129 (dk_at dksX0_heldOf_3 0 rfl rfl)
theorem dX0_heldOf_58 : decode cX0_heldOf 58 = .ok (.iaload, 1) := dk_46 (dk_at dksX0_heldOf_3 3 rfl rfl)
theorem dX0_heldOf_59 : decode cX0_heldOf 59 = .ok (.aaload, 1) := dk_50 (dk_at dksX0_heldOf_3 4 rfl rfl)
theorem dX0_heldOf_60 : decode cX0_heldOf 60 = .ok (.aload_n 1, 1) := dk_43 (dk_at dksX0_heldOf_3 5 rfl rfl)
theorem dX0_heldOf_61 : decode cX0_heldOf 61 = .ok (.getfield 385, 3) := dk_180 1 129 (dk_at dksX0_heldOf_3 6 rfl rfl)
theorem dX0_heldOf_64 : decode cX0_heldOf 64 = .ok (.aload_n 0, 1) := dk_42 (dk_at dksX0_heldOf_3 9 rfl rfl)
theorem dX0_heldOf_65 : decode cX0_heldOf 65 = .ok (.getfield 45, 3) := dk_180 0 45 (dk_at dksX0_heldOf_3 10 rfl rfl)
theorem dX0_heldOf_68 : decode cX0_heldOf 68 = .ok (.getfield 235, 3) := dk_180 0 235 (dk_at dksX0_heldOf_3 13 rfl rfl)
theorem dX0_heldOf_71 : decode cX0_heldOf 71 = .ok (.aload_n 1, 1) := dk_43 (dk_at dksX0_heldOf_3 16 rfl rfl)
theorem dX0_heldOf_72 : decode cX0_heldOf 72 = .ok (.getfield 385, 3) := dk_180 1 129 (dk_at dksX0_heldOf_3 17 rfl rfl)
theorem dX0_heldOf_75 : decode cX0_heldOf 75 = .ok (.iaload, 1) := dk_46 (dk_at dksX0_heldOf_3 20 rfl rfl)
theorem dX0_heldOf_76 : decode cX0_heldOf 76 = .ok (.invokevirtual 388, 3) := dk_182 1 132 (dk_at dksX0_heldOf_3 21 rfl rfl)
theorem dX0_heldOf_79 : decode cX0_heldOf 79 = .ok (.goto 4, 3) := dk_167 0 4 (dk_at dksX0_heldOf_4 0 rfl rfl)
theorem dX0_heldOf_82 : decode cX0_heldOf 82 = .ok (.aconst_null, 1) := dk_1 (dk_at dksX0_heldOf_4 3 rfl rfl)
theorem dX0_heldOf_83 : decode cX0_heldOf 83 = .ok (.areturn, 1) := dk_176 (dk_at dksX0_heldOf_4 4 rfl rfl)
theorem dX0_heldOf_84 : decode cX0_heldOf 84 = .ok (.aload_n 1, 1) := dk_43 (dk_at dksX0_heldOf_4 5 rfl rfl)
theorem dX0_heldOf_85 : decode cX0_heldOf 85 = .ok (.getfield 392, 3) := dk_180 1 136 (dk_at dksX0_heldOf_4 6 rfl rfl)
theorem dX0_heldOf_88 : decode cX0_heldOf 88 = .ok (.areturn, 1) := dk_176 (dk_at dksX0_heldOf_4 9 rfl rfl)
theorem dX0_heldOf_89 : decode cX0_heldOf 89 = .ok (.aconst_null, 1) := dk_1 (dk_at dksX0_heldOf_4 10 rfl rfl)
theorem dX0_heldOf_90 : decode cX0_heldOf 90 = .ok (.areturn, 1) := dk_176 (dk_at dksX0_heldOf_4 11 rfl rfl)
abbrev cX0_castTo : ByteArray := prog_1_method_72_code
def yX0_castTo : MethodName := ⟨RX0, "castTo", "(Ljava/lang/Object;I)I"⟩
def dkwX0_castTo_4 : List UInt8 := [42, 27, 184, 1, 162, 172]
abbrev dktX0_castTo_4 : List UInt8 := dkwX0_castTo_4 ++ []
def dkwX0_castTo_3 : List UInt8 := [42, 192, 1, 153, 182, 1, 155, 172, 42, 192, 1, 156, 182, 1, 158, 172, 42, 192, 1, 159, 182, 1, 161, 172]
abbrev dktX0_castTo_3 : List UInt8 := dkwX0_castTo_3 ++ dktX0_castTo_4
def dkwX0_castTo_2 : List UInt8 := [42, 192, 1, 142, 182, 1, 144, 172, 42, 192, 1, 147, 182, 1, 149, 172, 42, 192, 1, 150, 182, 1, 152, 172]
abbrev dktX0_castTo_2 : List UInt8 := dkwX0_castTo_2 ++ dktX0_castTo_3
def dkwX0_castTo_1 : List UInt8 := [170, 0, 0, 0, 0, 0, 87, 0, 0, 0, 0, 0, 0, 0, 5, 0, 0, 0, 39, 0, 0, 0, 47, 0, 0, 0, 55, 0, 0, 0, 63, 0, 0, 0, 71, 0, 0, 0, 79]
abbrev dktX0_castTo_1 : List UInt8 := dkwX0_castTo_1 ++ dktX0_castTo_2
def dkwX0_castTo_0 : List UInt8 := [27]
abbrev dktX0_castTo_0 : List UInt8 := dkwX0_castTo_0 ++ dktX0_castTo_1
theorem dksX0_castTo_0 : cX0_castTo.data.toList.drop 0 = dktX0_castTo_0 := by decide +kernel
theorem dksX0_castTo_1 : cX0_castTo.data.toList.drop 1 = dktX0_castTo_1 := dk_seg dksX0_castTo_0 1 rfl rfl
theorem dksX0_castTo_2 : cX0_castTo.data.toList.drop 40 = dktX0_castTo_2 := dk_seg dksX0_castTo_1 39 rfl rfl
theorem dksX0_castTo_3 : cX0_castTo.data.toList.drop 64 = dktX0_castTo_3 := dk_seg dksX0_castTo_2 24 rfl rfl
theorem dksX0_castTo_4 : cX0_castTo.data.toList.drop 88 = dktX0_castTo_4 := dk_seg dksX0_castTo_3 24 rfl rfl
theorem dX0_castTo_0 : decode cX0_castTo 0 = .ok (.iload_n 1, 1) := dk_27 (dk_at dksX0_castTo_0 0 rfl rfl)
theorem dX0_castTo_1 : decode cX0_castTo 1 = .ok (.tableswitch 87 0 5 #[39, 47, 55, 63, 71, 79], 39) := by decide +kernel
theorem dX0_castTo_40 : decode cX0_castTo 40 = .ok (.aload_n 0, 1) := dk_42 (dk_at dksX0_castTo_2 0 rfl rfl)
theorem dX0_castTo_41 : decode cX0_castTo 41 = .ok (.checkcast 398, 3) := dk_192 1 142 (dk_at dksX0_castTo_2 1 rfl rfl)
theorem dX0_castTo_44 : decode cX0_castTo 44 = .ok (.invokevirtual 400, 3) := dk_182 1 144 (dk_at dksX0_castTo_2 4 rfl rfl)
theorem dX0_castTo_47 : decode cX0_castTo 47 = .ok (.ireturn, 1) := dk_172 (dk_at dksX0_castTo_2 7 rfl rfl)
theorem dX0_castTo_48 : decode cX0_castTo 48 = .ok (.aload_n 0, 1) := dk_42 (dk_at dksX0_castTo_2 8 rfl rfl)
theorem dX0_castTo_49 : decode cX0_castTo 49 = .ok (.checkcast 403, 3) := dk_192 1 147 (dk_at dksX0_castTo_2 9 rfl rfl)
theorem dX0_castTo_52 : decode cX0_castTo 52 = .ok (.invokevirtual 405, 3) := dk_182 1 149 (dk_at dksX0_castTo_2 12 rfl rfl)
theorem dX0_castTo_55 : decode cX0_castTo 55 = .ok (.ireturn, 1) := dk_172 (dk_at dksX0_castTo_2 15 rfl rfl)
theorem dX0_castTo_56 : decode cX0_castTo 56 = .ok (.aload_n 0, 1) := dk_42 (dk_at dksX0_castTo_2 16 rfl rfl)
theorem dX0_castTo_57 : decode cX0_castTo 57 = .ok (.checkcast 406, 3) := dk_192 1 150 (dk_at dksX0_castTo_2 17 rfl rfl)
theorem dX0_castTo_60 : decode cX0_castTo 60 = .ok (.invokevirtual 408, 3) := dk_182 1 152 (dk_at dksX0_castTo_2 20 rfl rfl)
theorem dX0_castTo_63 : decode cX0_castTo 63 = .ok (.ireturn, 1) := dk_172 (dk_at dksX0_castTo_2 23 rfl rfl)
theorem dX0_castTo_64 : decode cX0_castTo 64 = .ok (.aload_n 0, 1) := dk_42 (dk_at dksX0_castTo_3 0 rfl rfl)
theorem dX0_castTo_65 : decode cX0_castTo 65 = .ok (.checkcast 409, 3) := dk_192 1 153 (dk_at dksX0_castTo_3 1 rfl rfl)
theorem dX0_castTo_68 : decode cX0_castTo 68 = .ok (.invokevirtual 411, 3) := dk_182 1 155 (dk_at dksX0_castTo_3 4 rfl rfl)
theorem dX0_castTo_71 : decode cX0_castTo 71 = .ok (.ireturn, 1) := dk_172 (dk_at dksX0_castTo_3 7 rfl rfl)
theorem dX0_castTo_72 : decode cX0_castTo 72 = .ok (.aload_n 0, 1) := dk_42 (dk_at dksX0_castTo_3 8 rfl rfl)
theorem dX0_castTo_73 : decode cX0_castTo 73 = .ok (.checkcast 412, 3) := dk_192 1 156 (dk_at dksX0_castTo_3 9 rfl rfl)
theorem dX0_castTo_76 : decode cX0_castTo 76 = .ok (.invokevirtual 414, 3) := dk_182 1 158 (dk_at dksX0_castTo_3 12 rfl rfl)
theorem dX0_castTo_79 : decode cX0_castTo 79 = .ok (.ireturn, 1) := dk_172 (dk_at dksX0_castTo_3 15 rfl rfl)
theorem dX0_castTo_80 : decode cX0_castTo 80 = .ok (.aload_n 0, 1) := dk_42 (dk_at dksX0_castTo_3 16 rfl rfl)
theorem dX0_castTo_81 : decode cX0_castTo 81 = .ok (.checkcast 415, 3) := dk_192 1 159 (dk_at dksX0_castTo_3 17 rfl rfl)
theorem dX0_castTo_84 : decode cX0_castTo 84 = .ok (.invokevirtual 417, 3) := dk_182 1 161 (dk_at dksX0_castTo_3 20 rfl rfl)
theorem dX0_castTo_87 : decode cX0_castTo 87 = .ok (.ireturn, 1) := dk_172 (dk_at dksX0_castTo_3 23 rfl rfl)
theorem dX0_castTo_88 : decode cX0_castTo 88 = .ok (.aload_n 0, 1) := dk_42 (dk_at dksX0_castTo_4 0 rfl rfl)
theorem dX0_castTo_89 : decode cX0_castTo 89 = .ok (.iload_n 1, 1) := dk_27 (dk_at dksX0_castTo_4 1 rfl rfl)
theorem dX0_castTo_90 : decode cX0_castTo 90 = .ok (.invokestatic 418, 3) := dk_184 1 162 (dk_at dksX0_castTo_4 2 rfl rfl)
theorem dX0_castTo_93 : decode cX0_castTo 93 = .ok (.ireturn, 1) := dk_172 (dk_at dksX0_castTo_4 5 rfl rfl)
abbrev cX0_rowAs : ByteArray := prog_1_method_71_code
def yX0_rowAs : MethodName := ⟨RX0, "rowAs", "(Ljava/lang/Object;I)I"⟩
def dkwX0_rowAs_2 : List UInt8 := [42, 192, 1, 85, 190, 172, 42, 192, 1, 86, 190, 172, 42, 192, 1, 57, 190, 172, 42, 192, 1, 88, 190, 172]
abbrev dktX0_rowAs_2 : List UInt8 := dkwX0_rowAs_2 ++ []
def dkwX0_rowAs_1 : List UInt8 := [170, 0, 0, 0, 0, 0, 45, 0, 0, 0, 10, 0, 0, 0, 12, 0, 0, 0, 27, 0, 0, 0, 33, 0, 0, 0, 39]
abbrev dktX0_rowAs_1 : List UInt8 := dkwX0_rowAs_1 ++ dktX0_rowAs_2
def dkwX0_rowAs_0 : List UInt8 := [27]
abbrev dktX0_rowAs_0 : List UInt8 := dkwX0_rowAs_0 ++ dktX0_rowAs_1
theorem dksX0_rowAs_0 : cX0_rowAs.data.toList.drop 0 = dktX0_rowAs_0 := by decide +kernel
theorem dksX0_rowAs_1 : cX0_rowAs.data.toList.drop 1 = dktX0_rowAs_1 := dk_seg dksX0_rowAs_0 1 rfl rfl
theorem dksX0_rowAs_2 : cX0_rowAs.data.toList.drop 28 = dktX0_rowAs_2 := dk_seg dksX0_rowAs_1 27 rfl rfl
theorem dX0_rowAs_0 : decode cX0_rowAs 0 = .ok (.iload_n 1, 1) := dk_27 (dk_at dksX0_rowAs_0 0 rfl rfl)
theorem dX0_rowAs_1 : decode cX0_rowAs 1 = .ok (.tableswitch 45 10 12 #[27, 33, 39], 27) := by decide +kernel
theorem dX0_rowAs_28 : decode cX0_rowAs 28 = .ok (.aload_n 0, 1) := dk_42 (dk_at dksX0_rowAs_2 0 rfl rfl)
theorem dX0_rowAs_29 : decode cX0_rowAs 29 = .ok (.checkcast 341, 3) := dk_192 1 85 (dk_at dksX0_rowAs_2 1 rfl rfl)
theorem dX0_rowAs_32 : decode cX0_rowAs 32 = .ok (.arraylength, 1) := dk_190 (dk_at dksX0_rowAs_2 4 rfl rfl)
theorem dX0_rowAs_33 : decode cX0_rowAs 33 = .ok (.ireturn, 1) := dk_172 (dk_at dksX0_rowAs_2 5 rfl rfl)
theorem dX0_rowAs_34 : decode cX0_rowAs 34 = .ok (.aload_n 0, 1) := dk_42 (dk_at dksX0_rowAs_2 6 rfl rfl)
theorem dX0_rowAs_35 : decode cX0_rowAs 35 = .ok (.checkcast 342, 3) := dk_192 1 86 (dk_at dksX0_rowAs_2 7 rfl rfl)
theorem dX0_rowAs_38 : decode cX0_rowAs 38 = .ok (.arraylength, 1) := dk_190 (dk_at dksX0_rowAs_2 10 rfl rfl)
theorem dX0_rowAs_39 : decode cX0_rowAs 39 = .ok (.ireturn, 1) := dk_172 (dk_at dksX0_rowAs_2 11 rfl rfl)
theorem dX0_rowAs_40 : decode cX0_rowAs 40 = .ok (.aload_n 0, 1) := dk_42 (dk_at dksX0_rowAs_2 12 rfl rfl)
theorem dX0_rowAs_41 : decode cX0_rowAs 41 = .ok (.checkcast 313, 3) := dk_192 1 57 (dk_at dksX0_rowAs_2 13 rfl rfl)
theorem dX0_rowAs_44 : decode cX0_rowAs 44 = .ok (.arraylength, 1) := dk_190 (dk_at dksX0_rowAs_2 16 rfl rfl)
theorem dX0_rowAs_45 : decode cX0_rowAs 45 = .ok (.ireturn, 1) := dk_172 (dk_at dksX0_rowAs_2 17 rfl rfl)
theorem dX0_rowAs_46 : decode cX0_rowAs 46 = .ok (.aload_n 0, 1) := dk_42 (dk_at dksX0_rowAs_2 18 rfl rfl)
theorem dX0_rowAs_47 : decode cX0_rowAs 47 = .ok (.checkcast 344, 3) := dk_192 1 88 (dk_at dksX0_rowAs_2 19 rfl rfl)
theorem dX0_rowAs_50 : decode cX0_rowAs 50 = .ok (.arraylength, 1) := dk_190 (dk_at dksX0_rowAs_2 22 rfl rfl)
theorem dX0_rowAs_51 : decode cX0_rowAs 51 = .ok (.ireturn, 1) := dk_172 (dk_at dksX0_rowAs_2 23 rfl rfl)
abbrev cX0_act : ByteArray := prog_1_method_75_code
def yX0_act : MethodName := ⟨RX0, "act", "(III)I"⟩
def dkwX0_act_2 : List UInt8 := [192, 1, 174, 28, 29, 184, 1, 187, 172, 58, 5, 16, 241, 172]
abbrev dktX0_act_2 : List UInt8 := dkwX0_act_2 ++ []
def dkwX0_act_1 : List UInt8 := [42, 180, 0, 106, 27, 50, 182, 1, 166, 58, 4, 25, 4, 193, 1, 174, 154, 0, 5, 3, 172, 25, 4]
abbrev dktX0_act_1 : List UInt8 := dkwX0_act_1 ++ dktX0_act_2
def dkwX0_act_0 : List UInt8 := [42, 3, 181, 1, 123, 27, 184, 1, 139, 153, 0, 12, 28, 3, 6, 184, 0, 114, 154, 0, 5, 3, 172, 42]
abbrev dktX0_act_0 : List UInt8 := dkwX0_act_0 ++ dktX0_act_1
theorem dksX0_act_0 : cX0_act.data.toList.drop 0 = dktX0_act_0 := by decide +kernel
theorem dksX0_act_1 : cX0_act.data.toList.drop 24 = dktX0_act_1 := dk_seg dksX0_act_0 24 rfl rfl
theorem dksX0_act_2 : cX0_act.data.toList.drop 47 = dktX0_act_2 := dk_seg dksX0_act_1 23 rfl rfl
theorem dX0_act_0 : decode cX0_act 0 = .ok (.aload_n 0, 1) := dk_42 (dk_at dksX0_act_0 0 rfl rfl)
theorem dX0_act_1 : decode cX0_act 1 = .ok (.iconst 0, 1) := dk_3 (dk_at dksX0_act_0 1 rfl rfl)
theorem dX0_act_2 : decode cX0_act 2 = .ok (.putfield 379, 3) := dk_181 1 123 (dk_at dksX0_act_0 2 rfl rfl)
theorem dX0_act_5 : decode cX0_act 5 = .ok (.iload_n 1, 1) := dk_27 (dk_at dksX0_act_0 5 rfl rfl)
theorem dX0_act_6 : decode cX0_act 6 = .ok (.invokestatic 395, 3) := dk_184 1 139 (dk_at dksX0_act_0 6 rfl rfl)
theorem dX0_act_9 : decode cX0_act 9 = .ok (.ifCond .eq 12, 3) := dk_153 0 12 (dk_at dksX0_act_0 9 rfl rfl)
theorem dX0_act_12 : decode cX0_act 12 = .ok (.iload_n 2, 1) := dk_28 (dk_at dksX0_act_0 12 rfl rfl)
theorem dX0_act_13 : decode cX0_act 13 = .ok (.iconst 0, 1) := dk_3 (dk_at dksX0_act_0 13 rfl rfl)
theorem dX0_act_14 : decode cX0_act 14 = .ok (.iconst 3, 1) := dk_6 (dk_at dksX0_act_0 14 rfl rfl)
theorem dX0_act_15 : decode cX0_act 15 = .ok (.invokestatic 114, 3) := dk_184 0 114 (dk_at dksX0_act_0 15 rfl rfl)
theorem dX0_act_18 : decode cX0_act 18 = .ok (.ifCond .ne 5, 3) := dk_154 0 5 (dk_at dksX0_act_0 18 rfl rfl)
theorem dX0_act_21 : decode cX0_act 21 = .ok (.iconst 0, 1) := dk_3 (dk_at dksX0_act_0 21 rfl rfl)
theorem dX0_act_22 : decode cX0_act 22 = .ok (.ireturn, 1) := dk_172 (dk_at dksX0_act_0 22 rfl rfl)
theorem dX0_act_23 : decode cX0_act 23 = .ok (.aload_n 0, 1) := dk_42 (dk_at dksX0_act_0 23 rfl rfl)
theorem dX0_act_24 : decode cX0_act 24 = .ok (.aload_n 0, 1) := dk_42 (dk_at dksX0_act_1 0 rfl rfl)
theorem dX0_act_25 : decode cX0_act 25 = .ok (.getfield 106, 3) := dk_180 0 106 (dk_at dksX0_act_1 1 rfl rfl)
theorem dX0_act_28 : decode cX0_act 28 = .ok (.iload_n 1, 1) := dk_27 (dk_at dksX0_act_1 4 rfl rfl)
theorem dX0_act_29 : decode cX0_act 29 = .ok (.aaload, 1) := dk_50 (dk_at dksX0_act_1 5 rfl rfl)
theorem dX0_act_30 : decode cX0_act 30 = .ok (.invokevirtual 422, 3) := dk_182 1 166 (dk_at dksX0_act_1 6 rfl rfl)
theorem dX0_act_33 : decode cX0_act 33 = .ok (.astore 4, 2) := dk_58 4 (dk_at dksX0_act_1 9 rfl rfl)
theorem dX0_act_35 : decode cX0_act 35 = .ok (.aload 4, 2) := dk_25 4 (dk_at dksX0_act_1 11 rfl rfl)
theorem dX0_act_37 : decode cX0_act 37 = .ok (.instanceof 430, 3) := dk_193 1 174 (dk_at dksX0_act_1 13 rfl rfl)
theorem dX0_act_40 : decode cX0_act 40 = .ok (.ifCond .ne 5, 3) := dk_154 0 5 (dk_at dksX0_act_1 16 rfl rfl)
theorem dX0_act_43 : decode cX0_act 43 = .ok (.iconst 0, 1) := dk_3 (dk_at dksX0_act_1 19 rfl rfl)
theorem dX0_act_44 : decode cX0_act 44 = .ok (.ireturn, 1) := dk_172 (dk_at dksX0_act_1 20 rfl rfl)
theorem dX0_act_45 : decode cX0_act 45 = .ok (.aload 4, 2) := dk_25 4 (dk_at dksX0_act_1 21 rfl rfl)
theorem dX0_act_47 : decode cX0_act 47 = .ok (.checkcast 430, 3) := dk_192 1 174 (dk_at dksX0_act_2 0 rfl rfl)
theorem dX0_act_50 : decode cX0_act 50 = .ok (.iload_n 2, 1) := dk_28 (dk_at dksX0_act_2 3 rfl rfl)
theorem dX0_act_51 : decode cX0_act 51 = .ok (.iload_n 3, 1) := dk_29 (dk_at dksX0_act_2 4 rfl rfl)
theorem dX0_act_52 : decode cX0_act 52 = .ok (.invokestatic 443, 3) := dk_184 1 187 (dk_at dksX0_act_2 5 rfl rfl)
theorem dX0_act_55 : decode cX0_act 55 = .ok (.ireturn, 1) := dk_172 (dk_at dksX0_act_2 8 rfl rfl)
theorem dX0_act_56 : decode cX0_act 56 = .ok (.astore 5, 2) := dk_58 5 (dk_at dksX0_act_2 9 rfl rfl)
theorem dX0_act_58 : decode cX0_act 58 = .ok (.bipush (-15), 2) := dk_16 241 (dk_at dksX0_act_2 11 rfl rfl)
theorem dX0_act_60 : decode cX0_act 60 = .ok (.ireturn, 1) := dk_172 (dk_at dksX0_act_2 13 rfl rfl)
abbrev cX0_acted : ByteArray := prog_1_method_74_code
def yX0_acted : MethodName := ⟨RX0, "acted", "(LCoatHoles$Tells;II)I"⟩
def dkwX0_acted_3 : List UInt8 := [42, 28, 185, 1, 184, 2, 0, 172]
abbrev dktX0_acted_3 : List UInt8 := dkwX0_acted_3 ++ []
def dkwX0_acted_2 : List UInt8 := [42, 28, 185, 1, 173, 2, 0, 172, 42, 28, 185, 1, 178, 2, 0, 172, 42, 28, 185, 1, 181, 2, 0, 172]
abbrev dktX0_acted_2 : List UInt8 := dkwX0_acted_2 ++ dktX0_acted_3
def dkwX0_acted_1 : List UInt8 := [170, 0, 0, 0, 0, 0, 51, 0, 0, 0, 0, 0, 0, 0, 2, 0, 0, 0, 27, 0, 0, 0, 35, 0, 0, 0, 43]
abbrev dktX0_acted_1 : List UInt8 := dkwX0_acted_1 ++ dktX0_acted_2
def dkwX0_acted_0 : List UInt8 := [27]
abbrev dktX0_acted_0 : List UInt8 := dkwX0_acted_0 ++ dktX0_acted_1
theorem dksX0_acted_0 : cX0_acted.data.toList.drop 0 = dktX0_acted_0 := by decide +kernel
theorem dksX0_acted_1 : cX0_acted.data.toList.drop 1 = dktX0_acted_1 := dk_seg dksX0_acted_0 1 rfl rfl
theorem dksX0_acted_2 : cX0_acted.data.toList.drop 28 = dktX0_acted_2 := dk_seg dksX0_acted_1 27 rfl rfl
theorem dksX0_acted_3 : cX0_acted.data.toList.drop 52 = dktX0_acted_3 := dk_seg dksX0_acted_2 24 rfl rfl
theorem dX0_acted_0 : decode cX0_acted 0 = .ok (.iload_n 1, 1) := dk_27 (dk_at dksX0_acted_0 0 rfl rfl)
theorem dX0_acted_1 : decode cX0_acted 1 = .ok (.tableswitch 51 0 2 #[27, 35, 43], 27) := by decide +kernel
theorem dX0_acted_28 : decode cX0_acted 28 = .ok (.aload_n 0, 1) := dk_42 (dk_at dksX0_acted_2 0 rfl rfl)
theorem dX0_acted_29 : decode cX0_acted 29 = .ok (.iload_n 2, 1) := dk_28 (dk_at dksX0_acted_2 1 rfl rfl)
theorem dX0_acted_30 : decode cX0_acted 30 = .ok (.invokeinterface 429 2, 5) := by decide +kernel
theorem dX0_acted_35 : decode cX0_acted 35 = .ok (.ireturn, 1) := dk_172 (dk_at dksX0_acted_2 7 rfl rfl)
theorem dX0_acted_36 : decode cX0_acted 36 = .ok (.aload_n 0, 1) := dk_42 (dk_at dksX0_acted_2 8 rfl rfl)
theorem dX0_acted_37 : decode cX0_acted 37 = .ok (.iload_n 2, 1) := dk_28 (dk_at dksX0_acted_2 9 rfl rfl)
theorem dX0_acted_38 : decode cX0_acted 38 = .ok (.invokeinterface 434 2, 5) := by decide +kernel
theorem dX0_acted_43 : decode cX0_acted 43 = .ok (.ireturn, 1) := dk_172 (dk_at dksX0_acted_2 15 rfl rfl)
theorem dX0_acted_44 : decode cX0_acted 44 = .ok (.aload_n 0, 1) := dk_42 (dk_at dksX0_acted_2 16 rfl rfl)
theorem dX0_acted_45 : decode cX0_acted 45 = .ok (.iload_n 2, 1) := dk_28 (dk_at dksX0_acted_2 17 rfl rfl)
theorem dX0_acted_46 : decode cX0_acted 46 = .ok (.invokeinterface 437 2, 5) := by decide +kernel
theorem dX0_acted_51 : decode cX0_acted 51 = .ok (.ireturn, 1) := dk_172 (dk_at dksX0_acted_2 23 rfl rfl)
theorem dX0_acted_52 : decode cX0_acted 52 = .ok (.aload_n 0, 1) := dk_42 (dk_at dksX0_acted_3 0 rfl rfl)
theorem dX0_acted_53 : decode cX0_acted 53 = .ok (.iload_n 2, 1) := dk_28 (dk_at dksX0_acted_3 1 rfl rfl)
theorem dX0_acted_54 : decode cX0_acted 54 = .ok (.invokeinterface 440 2, 5) := by decide +kernel
theorem dX0_acted_59 : decode cX0_acted 59 = .ok (.ireturn, 1) := dk_172 (dk_at dksX0_acted_3 7 rfl rfl)
abbrev cX0_ran : ByteArray := prog_1_method_67_code
def yX0_ran : MethodName := ⟨RX0, "ran", "(I)V"⟩
def dkwX0_ran_1 : List UInt8 := [4, 96, 181, 1, 123, 177]
abbrev dktX0_ran_1 : List UInt8 := dkwX0_ran_1 ++ []
def dkwX0_ran_0 : List UInt8 := [42, 180, 1, 123, 16, 30, 162, 0, 13, 42, 180, 0, 99, 42, 180, 1, 123, 27, 79, 42, 89, 180, 1, 123]
abbrev dktX0_ran_0 : List UInt8 := dkwX0_ran_0 ++ dktX0_ran_1
theorem dksX0_ran_0 : cX0_ran.data.toList.drop 0 = dktX0_ran_0 := by decide +kernel
theorem dksX0_ran_1 : cX0_ran.data.toList.drop 24 = dktX0_ran_1 := dk_seg dksX0_ran_0 24 rfl rfl
theorem dX0_ran_0 : decode cX0_ran 0 = .ok (.aload_n 0, 1) := dk_42 (dk_at dksX0_ran_0 0 rfl rfl)
theorem dX0_ran_1 : decode cX0_ran 1 = .ok (.getfield 379, 3) := dk_180 1 123 (dk_at dksX0_ran_0 1 rfl rfl)
theorem dX0_ran_4 : decode cX0_ran 4 = .ok (.bipush 30, 2) := dk_16 30 (dk_at dksX0_ran_0 4 rfl rfl)
theorem dX0_ran_6 : decode cX0_ran 6 = .ok (.if_icmp .ge 13, 3) := dk_162 0 13 (dk_at dksX0_ran_0 6 rfl rfl)
theorem dX0_ran_9 : decode cX0_ran 9 = .ok (.aload_n 0, 1) := dk_42 (dk_at dksX0_ran_0 9 rfl rfl)
theorem dX0_ran_10 : decode cX0_ran 10 = .ok (.getfield 99, 3) := dk_180 0 99 (dk_at dksX0_ran_0 10 rfl rfl)
theorem dX0_ran_13 : decode cX0_ran 13 = .ok (.aload_n 0, 1) := dk_42 (dk_at dksX0_ran_0 13 rfl rfl)
theorem dX0_ran_14 : decode cX0_ran 14 = .ok (.getfield 379, 3) := dk_180 1 123 (dk_at dksX0_ran_0 14 rfl rfl)
theorem dX0_ran_17 : decode cX0_ran 17 = .ok (.iload_n 1, 1) := dk_27 (dk_at dksX0_ran_0 17 rfl rfl)
theorem dX0_ran_18 : decode cX0_ran 18 = .ok (.iastore, 1) := dk_79 (dk_at dksX0_ran_0 18 rfl rfl)
theorem dX0_ran_19 : decode cX0_ran 19 = .ok (.aload_n 0, 1) := dk_42 (dk_at dksX0_ran_0 19 rfl rfl)
theorem dX0_ran_20 : decode cX0_ran 20 = .ok (.dup, 1) := dk_89 (dk_at dksX0_ran_0 20 rfl rfl)
theorem dX0_ran_21 : decode cX0_ran 21 = .ok (.getfield 379, 3) := dk_180 1 123 (dk_at dksX0_ran_0 21 rfl rfl)
theorem dX0_ran_24 : decode cX0_ran 24 = .ok (.iconst 1, 1) := dk_4 (dk_at dksX0_ran_1 0 rfl rfl)
theorem dX0_ran_25 : decode cX0_ran 25 = .ok (.iadd, 1) := dk_96 (dk_at dksX0_ran_1 1 rfl rfl)
theorem dX0_ran_26 : decode cX0_ran 26 = .ok (.putfield 379, 3) := dk_181 1 123 (dk_at dksX0_ran_1 2 rfl rfl)
theorem dX0_ran_29 : decode cX0_ran 29 = .ok (.return_, 1) := dk_177 (dk_at dksX0_ran_1 5 rfl rfl)
abbrev cX0_trace : ByteArray := prog_1_method_76_code
def yX0_trace : MethodName := ⟨RX0, "trace", "(I)I"⟩
def dkwX0_trace_1 : List UInt8 := [167, 0, 5, 16, 253, 172]
abbrev dktX0_trace_1 : List UInt8 := dkwX0_trace_1 ++ []
def dkwX0_trace_0 : List UInt8 := [27, 155, 0, 25, 27, 42, 180, 1, 123, 16, 30, 184, 1, 42, 162, 0, 12, 42, 180, 0, 99, 27, 46]
abbrev dktX0_trace_0 : List UInt8 := dkwX0_trace_0 ++ dktX0_trace_1
theorem dksX0_trace_0 : cX0_trace.data.toList.drop 0 = dktX0_trace_0 := by decide +kernel
theorem dksX0_trace_1 : cX0_trace.data.toList.drop 23 = dktX0_trace_1 := dk_seg dksX0_trace_0 23 rfl rfl
theorem dX0_trace_0 : decode cX0_trace 0 = .ok (.iload_n 1, 1) := dk_27 (dk_at dksX0_trace_0 0 rfl rfl)
theorem dX0_trace_1 : decode cX0_trace 1 = .ok (.ifCond .lt 25, 3) := dk_155 0 25 (dk_at dksX0_trace_0 1 rfl rfl)
theorem dX0_trace_4 : decode cX0_trace 4 = .ok (.iload_n 1, 1) := dk_27 (dk_at dksX0_trace_0 4 rfl rfl)
theorem dX0_trace_5 : decode cX0_trace 5 = .ok (.aload_n 0, 1) := dk_42 (dk_at dksX0_trace_0 5 rfl rfl)
theorem dX0_trace_6 : decode cX0_trace 6 = .ok (.getfield 379, 3) := dk_180 1 123 (dk_at dksX0_trace_0 6 rfl rfl)
theorem dX0_trace_9 : decode cX0_trace 9 = .ok (.bipush 30, 2) := dk_16 30 (dk_at dksX0_trace_0 9 rfl rfl)
theorem dX0_trace_11 : decode cX0_trace 11 = .ok (.invokestatic 298, 3) := dk_184 1 42 (dk_at dksX0_trace_0 11 rfl rfl)
theorem dX0_trace_14 : decode cX0_trace 14 = .ok (.if_icmp .ge 12, 3) := dk_162 0 12 (dk_at dksX0_trace_0 14 rfl rfl)
theorem dX0_trace_17 : decode cX0_trace 17 = .ok (.aload_n 0, 1) := dk_42 (dk_at dksX0_trace_0 17 rfl rfl)
theorem dX0_trace_18 : decode cX0_trace 18 = .ok (.getfield 99, 3) := dk_180 0 99 (dk_at dksX0_trace_0 18 rfl rfl)
theorem dX0_trace_21 : decode cX0_trace 21 = .ok (.iload_n 1, 1) := dk_27 (dk_at dksX0_trace_0 21 rfl rfl)
theorem dX0_trace_22 : decode cX0_trace 22 = .ok (.iaload, 1) := dk_46 (dk_at dksX0_trace_0 22 rfl rfl)
theorem dX0_trace_23 : decode cX0_trace 23 = .ok (.goto 5, 3) := dk_167 0 5 (dk_at dksX0_trace_1 0 rfl rfl)
theorem dX0_trace_26 : decode cX0_trace 26 = .ok (.bipush (-3), 2) := dk_16 253 (dk_at dksX0_trace_1 3 rfl rfl)
theorem dX0_trace_28 : decode cX0_trace 28 = .ok (.ireturn, 1) := dk_172 (dk_at dksX0_trace_1 5 rfl rfl)
abbrev cX0_many : ByteArray := prog_1_method_78_code
def yX0_many : MethodName := ⟨RX0, "many", "(I)I"⟩
def dkwX0_many_4 : List UInt8 := [172, 2, 172]
abbrev dktX0_many_4 : List UInt8 := dkwX0_many_4 ++ []
def dkwX0_many_3 : List UInt8 := [42, 180, 0, 136, 172, 42, 180, 0, 121, 172, 42, 180, 1, 123, 16, 30, 184, 1, 42, 172, 42, 182, 1, 193]
abbrev dktX0_many_3 : List UInt8 := dkwX0_many_3 ++ dktX0_many_4
def dkwX0_many_2 : List UInt8 := [42, 180, 0, 45, 180, 0, 110, 172, 42, 180, 0, 45, 180, 0, 118, 172, 42, 180, 0, 45, 180, 1, 2, 172]
abbrev dktX0_many_2 : List UInt8 := dkwX0_many_2 ++ dktX0_many_3
def dkwX0_many_1 : List UInt8 := [170, 0, 0, 0, 0, 0, 92, 0, 0, 0, 0, 0, 0, 0, 6, 0, 0, 0, 43, 0, 0, 0, 51, 0, 0, 0, 59, 0, 0, 0, 67, 0, 0, 0, 72, 0, 0, 0, 77, 0, 0, 0, 87]
abbrev dktX0_many_1 : List UInt8 := dkwX0_many_1 ++ dktX0_many_2
def dkwX0_many_0 : List UInt8 := [27]
abbrev dktX0_many_0 : List UInt8 := dkwX0_many_0 ++ dktX0_many_1
theorem dksX0_many_0 : cX0_many.data.toList.drop 0 = dktX0_many_0 := by decide +kernel
theorem dksX0_many_1 : cX0_many.data.toList.drop 1 = dktX0_many_1 := dk_seg dksX0_many_0 1 rfl rfl
theorem dksX0_many_2 : cX0_many.data.toList.drop 44 = dktX0_many_2 := dk_seg dksX0_many_1 43 rfl rfl
theorem dksX0_many_3 : cX0_many.data.toList.drop 68 = dktX0_many_3 := dk_seg dksX0_many_2 24 rfl rfl
theorem dksX0_many_4 : cX0_many.data.toList.drop 92 = dktX0_many_4 := dk_seg dksX0_many_3 24 rfl rfl
theorem dX0_many_0 : decode cX0_many 0 = .ok (.iload_n 1, 1) := dk_27 (dk_at dksX0_many_0 0 rfl rfl)
theorem dX0_many_1 : decode cX0_many 1 = .ok (.tableswitch 92 0 6 #[43, 51, 59, 67, 72, 77, 87], 43) := by decide +kernel
theorem dX0_many_44 : decode cX0_many 44 = .ok (.aload_n 0, 1) := dk_42 (dk_at dksX0_many_2 0 rfl rfl)
theorem dX0_many_45 : decode cX0_many 45 = .ok (.getfield 45, 3) := dk_180 0 45 (dk_at dksX0_many_2 1 rfl rfl)
theorem dX0_many_48 : decode cX0_many 48 = .ok (.getfield 110, 3) := dk_180 0 110 (dk_at dksX0_many_2 4 rfl rfl)
theorem dX0_many_51 : decode cX0_many 51 = .ok (.ireturn, 1) := dk_172 (dk_at dksX0_many_2 7 rfl rfl)
theorem dX0_many_52 : decode cX0_many 52 = .ok (.aload_n 0, 1) := dk_42 (dk_at dksX0_many_2 8 rfl rfl)
theorem dX0_many_53 : decode cX0_many 53 = .ok (.getfield 45, 3) := dk_180 0 45 (dk_at dksX0_many_2 9 rfl rfl)
theorem dX0_many_56 : decode cX0_many 56 = .ok (.getfield 118, 3) := dk_180 0 118 (dk_at dksX0_many_2 12 rfl rfl)
theorem dX0_many_59 : decode cX0_many 59 = .ok (.ireturn, 1) := dk_172 (dk_at dksX0_many_2 15 rfl rfl)
theorem dX0_many_60 : decode cX0_many 60 = .ok (.aload_n 0, 1) := dk_42 (dk_at dksX0_many_2 16 rfl rfl)
theorem dX0_many_61 : decode cX0_many 61 = .ok (.getfield 45, 3) := dk_180 0 45 (dk_at dksX0_many_2 17 rfl rfl)
theorem dX0_many_64 : decode cX0_many 64 = .ok (.getfield 258, 3) := dk_180 1 2 (dk_at dksX0_many_2 20 rfl rfl)
theorem dX0_many_67 : decode cX0_many 67 = .ok (.ireturn, 1) := dk_172 (dk_at dksX0_many_2 23 rfl rfl)
theorem dX0_many_68 : decode cX0_many 68 = .ok (.aload_n 0, 1) := dk_42 (dk_at dksX0_many_3 0 rfl rfl)
theorem dX0_many_69 : decode cX0_many 69 = .ok (.getfield 136, 3) := dk_180 0 136 (dk_at dksX0_many_3 1 rfl rfl)
theorem dX0_many_72 : decode cX0_many 72 = .ok (.ireturn, 1) := dk_172 (dk_at dksX0_many_3 4 rfl rfl)
theorem dX0_many_73 : decode cX0_many 73 = .ok (.aload_n 0, 1) := dk_42 (dk_at dksX0_many_3 5 rfl rfl)
theorem dX0_many_74 : decode cX0_many 74 = .ok (.getfield 121, 3) := dk_180 0 121 (dk_at dksX0_many_3 6 rfl rfl)
theorem dX0_many_77 : decode cX0_many 77 = .ok (.ireturn, 1) := dk_172 (dk_at dksX0_many_3 9 rfl rfl)
theorem dX0_many_78 : decode cX0_many 78 = .ok (.aload_n 0, 1) := dk_42 (dk_at dksX0_many_3 10 rfl rfl)
theorem dX0_many_79 : decode cX0_many 79 = .ok (.getfield 379, 3) := dk_180 1 123 (dk_at dksX0_many_3 11 rfl rfl)
theorem dX0_many_82 : decode cX0_many 82 = .ok (.bipush 30, 2) := dk_16 30 (dk_at dksX0_many_3 14 rfl rfl)
theorem dX0_many_84 : decode cX0_many 84 = .ok (.invokestatic 298, 3) := dk_184 1 42 (dk_at dksX0_many_3 16 rfl rfl)
theorem dX0_many_87 : decode cX0_many 87 = .ok (.ireturn, 1) := dk_172 (dk_at dksX0_many_3 19 rfl rfl)
theorem dX0_many_88 : decode cX0_many 88 = .ok (.aload_n 0, 1) := dk_42 (dk_at dksX0_many_3 20 rfl rfl)
theorem dX0_many_89 : decode cX0_many 89 = .ok (.invokevirtual 449, 3) := dk_182 1 193 (dk_at dksX0_many_3 21 rfl rfl)
theorem dX0_many_92 : decode cX0_many 92 = .ok (.ireturn, 1) := dk_172 (dk_at dksX0_many_4 0 rfl rfl)
theorem dX0_many_93 : decode cX0_many 93 = .ok (.iconst (-1), 1) := dk_2 (dk_at dksX0_many_4 1 rfl rfl)
theorem dX0_many_94 : decode cX0_many 94 = .ok (.ireturn, 1) := dk_172 (dk_at dksX0_many_4 2 rfl rfl)
abbrev cX0_caughtAll : ByteArray := prog_1_method_77_code
def yX0_caughtAll : MethodName := ⟨RX0, "caughtAll", "()I"⟩
def dkwX0_caughtAll_1 : List UInt8 := [167, 255, 236, 27, 172]
abbrev dktX0_caughtAll_1 : List UInt8 := dkwX0_caughtAll_1 ++ []
def dkwX0_caughtAll_0 : List UInt8 := [3, 60, 3, 61, 28, 7, 162, 0, 21, 27, 42, 180, 0, 45, 180, 0, 193, 28, 46, 96, 60, 132, 2, 1]
abbrev dktX0_caughtAll_0 : List UInt8 := dkwX0_caughtAll_0 ++ dktX0_caughtAll_1
theorem dksX0_caughtAll_0 : cX0_caughtAll.data.toList.drop 0 = dktX0_caughtAll_0 := by decide +kernel
theorem dksX0_caughtAll_1 : cX0_caughtAll.data.toList.drop 24 = dktX0_caughtAll_1 := dk_seg dksX0_caughtAll_0 24 rfl rfl
theorem dX0_caughtAll_0 : decode cX0_caughtAll 0 = .ok (.iconst 0, 1) := dk_3 (dk_at dksX0_caughtAll_0 0 rfl rfl)
theorem dX0_caughtAll_1 : decode cX0_caughtAll 1 = .ok (.istore_n 1, 1) := dk_60 (dk_at dksX0_caughtAll_0 1 rfl rfl)
theorem dX0_caughtAll_2 : decode cX0_caughtAll 2 = .ok (.iconst 0, 1) := dk_3 (dk_at dksX0_caughtAll_0 2 rfl rfl)
theorem dX0_caughtAll_3 : decode cX0_caughtAll 3 = .ok (.istore_n 2, 1) := dk_61 (dk_at dksX0_caughtAll_0 3 rfl rfl)
theorem dX0_caughtAll_4 : decode cX0_caughtAll 4 = .ok (.iload_n 2, 1) := dk_28 (dk_at dksX0_caughtAll_0 4 rfl rfl)
theorem dX0_caughtAll_5 : decode cX0_caughtAll 5 = .ok (.iconst 4, 1) := dk_7 (dk_at dksX0_caughtAll_0 5 rfl rfl)
theorem dX0_caughtAll_6 : decode cX0_caughtAll 6 = .ok (.if_icmp .ge 21, 3) := dk_162 0 21 (dk_at dksX0_caughtAll_0 6 rfl rfl)
theorem dX0_caughtAll_9 : decode cX0_caughtAll 9 = .ok (.iload_n 1, 1) := dk_27 (dk_at dksX0_caughtAll_0 9 rfl rfl)
theorem dX0_caughtAll_10 : decode cX0_caughtAll 10 = .ok (.aload_n 0, 1) := dk_42 (dk_at dksX0_caughtAll_0 10 rfl rfl)
theorem dX0_caughtAll_11 : decode cX0_caughtAll 11 = .ok (.getfield 45, 3) := dk_180 0 45 (dk_at dksX0_caughtAll_0 11 rfl rfl)
theorem dX0_caughtAll_14 : decode cX0_caughtAll 14 = .ok (.getfield 193, 3) := dk_180 0 193 (dk_at dksX0_caughtAll_0 14 rfl rfl)
theorem dX0_caughtAll_17 : decode cX0_caughtAll 17 = .ok (.iload_n 2, 1) := dk_28 (dk_at dksX0_caughtAll_0 17 rfl rfl)
theorem dX0_caughtAll_18 : decode cX0_caughtAll 18 = .ok (.iaload, 1) := dk_46 (dk_at dksX0_caughtAll_0 18 rfl rfl)
theorem dX0_caughtAll_19 : decode cX0_caughtAll 19 = .ok (.iadd, 1) := dk_96 (dk_at dksX0_caughtAll_0 19 rfl rfl)
theorem dX0_caughtAll_20 : decode cX0_caughtAll 20 = .ok (.istore_n 1, 1) := dk_60 (dk_at dksX0_caughtAll_0 20 rfl rfl)
theorem dX0_caughtAll_21 : decode cX0_caughtAll 21 = .ok (.iinc 2 1, 3) := dk_132 2 1 (dk_at dksX0_caughtAll_0 21 rfl rfl)
theorem dX0_caughtAll_24 : decode cX0_caughtAll 24 = .ok (.goto (-20), 3) := dk_167 255 236 (dk_at dksX0_caughtAll_1 0 rfl rfl)
theorem dX0_caughtAll_27 : decode cX0_caughtAll 27 = .ok (.iload_n 1, 1) := dk_27 (dk_at dksX0_caughtAll_1 3 rfl rfl)
theorem dX0_caughtAll_28 : decode cX0_caughtAll 28 = .ok (.ireturn, 1) := dk_172 (dk_at dksX0_caughtAll_1 4 rfl rfl)
abbrev cX0_keep : ByteArray := prog_1_method_79_code
def yX0_keep : MethodName := ⟨RX0, "keep", "()I"⟩
def dkwX0_keep_0 : List UInt8 := [42, 180, 0, 49, 42, 180, 0, 45, 182, 0, 124, 42, 4, 181, 1, 196, 4, 172]
abbrev dktX0_keep_0 : List UInt8 := dkwX0_keep_0 ++ []
theorem dksX0_keep_0 : cX0_keep.data.toList.drop 0 = dktX0_keep_0 := by decide +kernel
theorem dX0_keep_0 : decode cX0_keep 0 = .ok (.aload_n 0, 1) := dk_42 (dk_at dksX0_keep_0 0 rfl rfl)
theorem dX0_keep_1 : decode cX0_keep 1 = .ok (.getfield 49, 3) := dk_180 0 49 (dk_at dksX0_keep_0 1 rfl rfl)
theorem dX0_keep_4 : decode cX0_keep 4 = .ok (.aload_n 0, 1) := dk_42 (dk_at dksX0_keep_0 4 rfl rfl)
theorem dX0_keep_5 : decode cX0_keep 5 = .ok (.getfield 45, 3) := dk_180 0 45 (dk_at dksX0_keep_0 5 rfl rfl)
theorem dX0_keep_8 : decode cX0_keep 8 = .ok (.invokevirtual 124, 3) := dk_182 0 124 (dk_at dksX0_keep_0 8 rfl rfl)
theorem dX0_keep_11 : decode cX0_keep 11 = .ok (.aload_n 0, 1) := dk_42 (dk_at dksX0_keep_0 11 rfl rfl)
theorem dX0_keep_12 : decode cX0_keep 12 = .ok (.iconst 1, 1) := dk_4 (dk_at dksX0_keep_0 12 rfl rfl)
theorem dX0_keep_13 : decode cX0_keep 13 = .ok (.putfield 452, 3) := dk_181 1 196 (dk_at dksX0_keep_0 13 rfl rfl)
theorem dX0_keep_16 : decode cX0_keep 16 = .ok (.iconst 1, 1) := dk_4 (dk_at dksX0_keep_0 16 rfl rfl)
theorem dX0_keep_17 : decode cX0_keep 17 = .ok (.ireturn, 1) := dk_172 (dk_at dksX0_keep_0 17 rfl rfl)
abbrev cX0_again : ByteArray := prog_1_method_80_code
def yX0_again : MethodName := ⟨RX0, "again", "()I"⟩
def dkwX0_again_1 : List UInt8 := [180, 0, 45, 180, 0, 110, 172]
abbrev dktX0_again_1 : List UInt8 := dkwX0_again_1 ++ []
def dkwX0_again_0 : List UInt8 := [42, 180, 1, 196, 154, 0, 6, 16, 253, 172, 42, 180, 0, 45, 42, 180, 0, 49, 182, 0, 124, 42]
abbrev dktX0_again_0 : List UInt8 := dkwX0_again_0 ++ dktX0_again_1
theorem dksX0_again_0 : cX0_again.data.toList.drop 0 = dktX0_again_0 := by decide +kernel
theorem dksX0_again_1 : cX0_again.data.toList.drop 22 = dktX0_again_1 := dk_seg dksX0_again_0 22 rfl rfl
theorem dX0_again_0 : decode cX0_again 0 = .ok (.aload_n 0, 1) := dk_42 (dk_at dksX0_again_0 0 rfl rfl)
theorem dX0_again_1 : decode cX0_again 1 = .ok (.getfield 452, 3) := dk_180 1 196 (dk_at dksX0_again_0 1 rfl rfl)
theorem dX0_again_4 : decode cX0_again 4 = .ok (.ifCond .ne 6, 3) := dk_154 0 6 (dk_at dksX0_again_0 4 rfl rfl)
theorem dX0_again_7 : decode cX0_again 7 = .ok (.bipush (-3), 2) := dk_16 253 (dk_at dksX0_again_0 7 rfl rfl)
theorem dX0_again_9 : decode cX0_again 9 = .ok (.ireturn, 1) := dk_172 (dk_at dksX0_again_0 9 rfl rfl)
theorem dX0_again_10 : decode cX0_again 10 = .ok (.aload_n 0, 1) := dk_42 (dk_at dksX0_again_0 10 rfl rfl)
theorem dX0_again_11 : decode cX0_again 11 = .ok (.getfield 45, 3) := dk_180 0 45 (dk_at dksX0_again_0 11 rfl rfl)
theorem dX0_again_14 : decode cX0_again 14 = .ok (.aload_n 0, 1) := dk_42 (dk_at dksX0_again_0 14 rfl rfl)
theorem dX0_again_15 : decode cX0_again 15 = .ok (.getfield 49, 3) := dk_180 0 49 (dk_at dksX0_again_0 15 rfl rfl)
theorem dX0_again_18 : decode cX0_again 18 = .ok (.invokevirtual 124, 3) := dk_182 0 124 (dk_at dksX0_again_0 18 rfl rfl)
theorem dX0_again_21 : decode cX0_again 21 = .ok (.aload_n 0, 1) := dk_42 (dk_at dksX0_again_0 21 rfl rfl)
theorem dX0_again_22 : decode cX0_again 22 = .ok (.getfield 45, 3) := dk_180 0 45 (dk_at dksX0_again_1 0 rfl rfl)
theorem dX0_again_25 : decode cX0_again 25 = .ok (.getfield 110, 3) := dk_180 0 110 (dk_at dksX0_again_1 3 rfl rfl)
theorem dX0_again_28 : decode cX0_again 28 = .ok (.ireturn, 1) := dk_172 (dk_at dksX0_again_1 6 rfl rfl)
theorem q103 : (Jvm.Cond.initialized "CoatHoles") ∈ lw_all := lw_g (lw_at lw_m1 1 rfl) rfl
theorem q145 : (Jvm.Cond.instantiable "CoatHoles" (18 : Nat)) ∈ lw_all := lw_g (lw_at lw_m1 43 rfl) rfl
theorem q147 : (Jvm.Cond.instanceMethod ({ cls := "CoatHoles", name := "<init>", desc := "()V" } : Jvm.MethodName)) ∈ lw_all := lw_g (lw_at lw_m1 45 rfl) rfl
theorem q148 : (Jvm.Cond.code ({ cls := "CoatHoles", name := "<init>", desc := "()V" } : Jvm.MethodName) prog_1_method_5_code (1 : Nat) (Option.none : Option Jvm.ClassFile.FieldType)) ∈ lw_all := lw_g (lw_at lw_m1 46 rfl) rfl
theorem q149 : (Jvm.Cond.methodLink "CoatHoles" (13 : Nat) ({ cls := "java/lang/Object", name := "<init>", desc := "()V" } : Jvm.MethodName)) ∈ lw_all := lw_g (lw_at lw_m1 47 rfl) rfl
theorem q152 : (Jvm.Cond.classLink "CoatHoles" (19 : Nat) "CoatHoles$Nature") ∈ lw_all := lw_g (lw_at lw_m1 50 rfl) rfl
theorem q154 : (Jvm.Cond.classLink "CoatHoles" (21 : Nat) "CoatHoles$Cold") ∈ lw_all := lw_g (lw_at lw_m1 52 rfl) rfl
theorem q156 : (Jvm.Cond.methodLinkNest "CoatHoles" (23 : Nat) ({ cls := "CoatHoles$Cold", name := "<init>", desc := "(LCoatHoles;)V" } : Jvm.MethodName) "CoatHoles") ∈ lw_tbl := lw_at lw_m1 54 rfl
theorem q170 : (Jvm.Cond.classLink "CoatHoles" (26 : Nat) "CoatHoles$Shake") ∈ lw_all := lw_g (lw_at lw_m1 68 rfl) rfl
theorem q172 : (Jvm.Cond.methodLinkNest "CoatHoles" (28 : Nat) ({ cls := "CoatHoles$Shake", name := "<init>", desc := "(LCoatHoles;)V" } : Jvm.MethodName) "CoatHoles") ∈ lw_tbl := lw_at lw_m1 70 rfl
theorem q181 : (Jvm.Cond.classLink "CoatHoles" (29 : Nat) "CoatHoles$Wash") ∈ lw_all := lw_g (lw_at lw_m1 79 rfl) rfl
theorem q183 : (Jvm.Cond.methodLinkNest "CoatHoles" (31 : Nat) ({ cls := "CoatHoles$Wash", name := "<init>", desc := "(LCoatHoles;)V" } : Jvm.MethodName) "CoatHoles") ∈ lw_tbl := lw_at lw_m1 81 rfl
theorem q193 : (Jvm.Cond.classLink "CoatHoles" (32 : Nat) "CoatHoles$Heat") ∈ lw_all := lw_g (lw_at lw_m1 91 rfl) rfl
theorem q195 : (Jvm.Cond.methodLinkNest "CoatHoles" (34 : Nat) ({ cls := "CoatHoles$Heat", name := "<init>", desc := "(LCoatHoles;)V" } : Jvm.MethodName) "CoatHoles") ∈ lw_tbl := lw_at lw_m1 93 rfl
theorem q205 : (Jvm.Cond.classLink "CoatHoles" (35 : Nat) "CoatHoles$Beat") ∈ lw_all := lw_g (lw_at lw_m1 103 rfl) rfl
theorem q207 : (Jvm.Cond.methodLinkNest "CoatHoles" (37 : Nat) ({ cls := "CoatHoles$Beat", name := "<init>", desc := "(LCoatHoles;)V" } : Jvm.MethodName) "CoatHoles") ∈ lw_tbl := lw_at lw_m1 105 rfl
theorem q217 : (Jvm.Cond.classLink "CoatHoles" (42 : Nat) "CoatHoles$Cup") ∈ lw_all := lw_g (lw_at lw_m1 115 rfl) rfl
theorem q219 : (Jvm.Cond.methodLinkNest "CoatHoles" (44 : Nat) ({ cls := "CoatHoles$Cup", name := "<init>", desc := "()V" } : Jvm.MethodName) "CoatHoles") ∈ lw_tbl := lw_at lw_m1 117 rfl
theorem q275 : (Jvm.Cond.fieldLinkNest "CoatHoles" (154 : Nat) "CoatHoles$Item" "stuff" "I" "CoatHoles") ∈ lw_tbl := lw_at lw_m1 173 rfl
theorem q278 : (Jvm.Cond.fieldLinkNest "CoatHoles" (159 : Nat) "CoatHoles$Item" "place" "I" "CoatHoles") ∈ lw_tbl := lw_at lw_m1 176 rfl
theorem q282 : (Jvm.Cond.fieldLinkNest "CoatHoles" (160 : Nat) "CoatHoles$Item" "soil" "I" "CoatHoles") ∈ lw_tbl := lw_at lw_m1 180 rfl
theorem q285 : (Jvm.Cond.fieldLinkNest "CoatHoles" (163 : Nat) "CoatHoles$Item" "worth" "I" "CoatHoles") ∈ lw_tbl := lw_at lw_m1 183 rfl
theorem q288 : (Jvm.Cond.fieldLinkNest "CoatHoles" (170 : Nat) "CoatHoles$Item" "holes" "I" "CoatHoles") ∈ lw_tbl := lw_at lw_m1 186 rfl
theorem q291 : (Jvm.Cond.fieldLinkNest "CoatHoles" (166 : Nat) "CoatHoles$Item" "bagged" "Z" "CoatHoles") ∈ lw_tbl := lw_at lw_m1 189 rfl
theorem q296 : (Jvm.Cond.fieldLinkNest "CoatHoles" (180 : Nat) "CoatHoles$Item" "lives" "[I" "CoatHoles") ∈ lw_tbl := lw_at lw_m1 194 rfl
theorem q317 : (Jvm.Cond.fieldLinkNest "CoatHoles" (150 : Nat) "CoatHoles$Cup" "items" "[LCoatHoles$Item;" "CoatHoles") ∈ lw_tbl := lw_at lw_m1 215 rfl
theorem q320 : (Jvm.Cond.fieldLinkNest "CoatHoles" (110 : Nat) "CoatHoles$Cup" "things" "I" "CoatHoles") ∈ lw_tbl := lw_at lw_m1 218 rfl
theorem q323 : (Jvm.Cond.fieldLinkNest "CoatHoles" (118 : Nat) "CoatHoles$Cup" "doings" "I" "CoatHoles") ∈ lw_tbl := lw_at lw_m1 221 rfl
theorem q325 : (Jvm.Cond.fieldLinkNest "CoatHoles" (258 : Nat) "CoatHoles$Cup" "looks" "I" "CoatHoles") ∈ lw_tbl := lw_at lw_m1 223 rfl
theorem q327 : (Jvm.Cond.fieldLinkNest "CoatHoles" (211 : Nat) "CoatHoles$Cup" "week" "I" "CoatHoles") ∈ lw_tbl := lw_at lw_m1 225 rfl
theorem q330 : (Jvm.Cond.fieldLinkNest "CoatHoles" (186 : Nat) "CoatHoles$Cup" "cards" "I" "CoatHoles") ∈ lw_tbl := lw_at lw_m1 228 rfl
theorem q332 : (Jvm.Cond.fieldLinkNest "CoatHoles" (294 : Nat) "CoatHoles$Cup" "z" "I" "CoatHoles") ∈ lw_tbl := lw_at lw_m1 230 rfl
theorem q334 : (Jvm.Cond.fieldLinkNest "CoatHoles" (183 : Nat) "CoatHoles$Cup" "fliers" "[I" "CoatHoles") ∈ lw_tbl := lw_at lw_m1 232 rfl
theorem q337 : (Jvm.Cond.fieldLinkNest "CoatHoles" (193 : Nat) "CoatHoles$Cup" "caught" "[I" "CoatHoles") ∈ lw_tbl := lw_at lw_m1 235 rfl
theorem q339 : (Jvm.Cond.fieldLinkNest "CoatHoles" (199 : Nat) "CoatHoles$Cup" "weight" "[I" "CoatHoles") ∈ lw_tbl := lw_at lw_m1 237 rfl
theorem q342 : (Jvm.Cond.fieldLinkNest "CoatHoles" (205 : Nat) "CoatHoles$Cup" "law" "[I" "CoatHoles") ∈ lw_tbl := lw_at lw_m2 0 rfl
theorem q344 : (Jvm.Cond.fieldLinkNest "CoatHoles" (208 : Nat) "CoatHoles$Cup" "warm" "[I" "CoatHoles") ∈ lw_tbl := lw_at lw_m2 2 rfl
theorem q346 : (Jvm.Cond.fieldLinkNest "CoatHoles" (232 : Nat) "CoatHoles$Cup" "kind" "[I" "CoatHoles") ∈ lw_tbl := lw_at lw_m2 4 rfl
theorem q348 : (Jvm.Cond.fieldLinkNest "CoatHoles" (235 : Nat) "CoatHoles$Cup" "price" "[I" "CoatHoles") ∈ lw_tbl := lw_at lw_m2 6 rfl
theorem q350 : (Jvm.Cond.fieldLinkNest "CoatHoles" (261 : Nat) "CoatHoles$Cup" "lookAt" "[I" "CoatHoles") ∈ lw_tbl := lw_at lw_m2 8 rfl
theorem q352 : (Jvm.Cond.fieldLinkNest "CoatHoles" (264 : Nat) "CoatHoles$Cup" "isSeen" "[Z" "CoatHoles") ∈ lw_tbl := lw_at lw_m2 10 rfl
theorem q390 : (Jvm.Cond.classLink "CoatHoles" (63 : Nat) "CoatHoles$Reader") ∈ lw_all := lw_g (lw_at lw_m2 48 rfl) rfl
theorem q392 : (Jvm.Cond.methodLink "CoatHoles" (65 : Nat) ({ cls := "CoatHoles$Reader", name := "<init>", desc := "(LCoatHoles$Cup;)V" } : Jvm.MethodName)) ∈ lw_all := lw_g (lw_at lw_m2 50 rfl) rfl
theorem q461 : (Jvm.Cond.fieldLinkNest "CoatHoles" (133 : Nat) "CoatHoles$Fault" "place" "I" "CoatHoles") ∈ lw_tbl := lw_at lw_m2 119 rfl
theorem q500 : (Jvm.Cond.classLink "CoatHoles" (72 : Nat) "CoatHoles$Row") ∈ lw_all := lw_g (lw_at lw_m2 158 rfl) rfl
theorem q502 : (Jvm.Cond.classLink "CoatHoles" (78 : Nat) "CoatHoles$Sheet") ∈ lw_all := lw_g (lw_at lw_m2 160 rfl) rfl
theorem q505 : (Jvm.Cond.methodLinkNest "CoatHoles" (80 : Nat) ({ cls := "CoatHoles$Sheet", name := "<init>", desc := "()V" } : Jvm.MethodName) "CoatHoles") ∈ lw_tbl := lw_at lw_m2 163 rfl
theorem q525 : (Jvm.Cond.classLink "CoatHoles" (85 : Nat) "CoatHoles$Beyond") ∈ lw_all := lw_g (lw_at lw_m2 183 rfl) rfl
theorem q534 : (Jvm.Cond.methodLink "CoatHoles" (87 : Nat) ({ cls := "CoatHoles$Beyond", name := "<init>", desc := "()V" } : Jvm.MethodName)) ∈ lw_all := lw_g (lw_at lw_m2 192 rfl) rfl
theorem q540 : (Jvm.Cond.classLink "CoatHoles" (92 : Nat) "CoatHoles$Nothing") ∈ lw_all := lw_g (lw_at lw_m2 198 rfl) rfl
theorem q549 : (Jvm.Cond.methodLink "CoatHoles" (94 : Nat) ({ cls := "CoatHoles$Nothing", name := "<init>", desc := "()V" } : Jvm.MethodName)) ∈ lw_all := lw_g (lw_at lw_m2 207 rfl) rfl
theorem q555 : (Jvm.Cond.classLink "CoatHoles" (103 : Nat) "CoatHoles$Shelf") ∈ lw_all := lw_g (lw_at lw_m2 213 rfl) rfl
theorem q558 : (Jvm.Cond.methodLinkNest "CoatHoles" (105 : Nat) ({ cls := "CoatHoles$Shelf", name := "<init>", desc := "()V" } : Jvm.MethodName) "CoatHoles") ∈ lw_tbl := lw_at lw_m2 216 rfl
theorem q563 : (Jvm.Cond.fieldLinkNest "CoatHoles" (382 : Nat) "CoatHoles$Shelf" "what" "I" "CoatHoles") ∈ lw_tbl := lw_at lw_m2 221 rfl
theorem q564 : (Jvm.Cond.fieldLinkNest "CoatHoles" (385 : Nat) "CoatHoles$Shelf" "number" "I" "CoatHoles") ∈ lw_tbl := lw_at lw_m2 222 rfl
theorem q565 : (Jvm.Cond.fieldLinkNest "CoatHoles" (392 : Nat) "CoatHoles$Shelf" "row" "Ljava/lang/Object;" "CoatHoles") ∈ lw_tbl := lw_at lw_m2 223 rfl
theorem q573 : (Jvm.Cond.fieldLink "CoatHoles" (38 : Nat) "CoatHoles" "natures" "[LCoatHoles$Nature;") ∈ lw_all := lw_g (lw_at lw_m2 231 rfl) rfl
theorem q574 : (Jvm.Cond.fieldLink "CoatHoles" (45 : Nat) "CoatHoles" "d" "LCoatHoles$Cup;") ∈ lw_all := lw_g (lw_at lw_m2 232 rfl) rfl
theorem q575 : (Jvm.Cond.fieldLink "CoatHoles" (49 : Nat) "CoatHoles" "kept" "LCoatHoles$Cup;") ∈ lw_all := lw_g (lw_at lw_m2 233 rfl) rfl
theorem q576 : (Jvm.Cond.fieldLink "CoatHoles" (52 : Nat) "CoatHoles" "draft" "LCoatHoles$Cup;") ∈ lw_all := lw_g (lw_at lw_m2 234 rfl) rfl
theorem q577 : (Jvm.Cond.fieldLink "CoatHoles" (55 : Nat) "CoatHoles" "tried" "[LCoatHoles$Cup;") ∈ lw_all := lw_g (lw_at lw_m2 235 rfl) rfl
theorem q578 : (Jvm.Cond.fieldLink "CoatHoles" (452 : Nat) "CoatHoles" "isKept" "Z") ∈ lw_all := lw_g (lw_at lw_m2 236 rfl) rfl
theorem q579 : (Jvm.Cond.fieldLink "CoatHoles" (59 : Nat) "CoatHoles" "tape" "[B") ∈ lw_all := lw_g (lw_at lw_m2 237 rfl) rfl
theorem q580 : (Jvm.Cond.fieldLink "CoatHoles" (121 : Nat) "CoatHoles" "taped" "I") ∈ lw_all := lw_g (lw_at lw_m2 238 rfl) rfl
theorem q581 : (Jvm.Cond.fieldLink "CoatHoles" (68 : Nat) "CoatHoles" "reader" "LCoatHoles$Reader;") ∈ lw_all := lw_g (lw_at lw_m2 239 rfl) rfl
theorem q582 : (Jvm.Cond.fieldLink "CoatHoles" (255 : Nat) "CoatHoles" "firstChoice" "I") ∈ lw_all := lw_g (lw_at lw_m3 0 rfl) rfl
theorem q583 : (Jvm.Cond.fieldLink "CoatHoles" (74 : Nat) "CoatHoles" "rows" "[LCoatHoles$Row;") ∈ lw_all := lw_g (lw_at lw_m3 1 rfl) rfl
theorem q584 : (Jvm.Cond.fieldLink "CoatHoles" (136 : Nat) "CoatHoles" "rowMany" "I") ∈ lw_all := lw_g (lw_at lw_m3 2 rfl) rfl
theorem q585 : (Jvm.Cond.fieldLink "CoatHoles" (81 : Nat) "CoatHoles" "sheets" "[LCoatHoles$Sheet;") ∈ lw_all := lw_g (lw_at lw_m3 3 rfl) rfl
theorem q586 : (Jvm.Cond.fieldLink "CoatHoles" (88 : Nat) "CoatHoles" "beyond" "LCoatHoles$Beyond;") ∈ lw_all := lw_g (lw_at lw_m3 4 rfl) rfl
theorem q587 : (Jvm.Cond.fieldLink "CoatHoles" (95 : Nat) "CoatHoles" "nothing" "LCoatHoles$Nothing;") ∈ lw_all := lw_g (lw_at lw_m3 5 rfl) rfl
theorem q588 : (Jvm.Cond.fieldLink "CoatHoles" (99 : Nat) "CoatHoles" "traced" "[I") ∈ lw_all := lw_g (lw_at lw_m3 6 rfl) rfl
theorem q589 : (Jvm.Cond.fieldLink "CoatHoles" (379 : Nat) "CoatHoles" "bodies" "I") ∈ lw_all := lw_g (lw_at lw_m3 7 rfl) rfl
theorem q590 : (Jvm.Cond.fieldLink "CoatHoles" (106 : Nat) "CoatHoles" "shelves" "[LCoatHoles$Shelf;") ∈ lw_all := lw_g (lw_at lw_m3 8 rfl) rfl
theorem q591 : (Jvm.Cond.laysFinal "CoatHoles" "CoatHoles" "natures" "[LCoatHoles$Nature;") ∈ lw_all := lw_g (lw_at lw_m3 9 rfl) rfl
theorem q592 : (Jvm.Cond.soleField "CoatHoles" "natures") ∈ lw_all := lw_g (lw_at lw_m3 10 rfl) rfl
theorem q593 : (Jvm.Cond.laysFinal "CoatHoles" "CoatHoles" "d" "LCoatHoles$Cup;") ∈ lw_all := lw_g (lw_at lw_m3 11 rfl) rfl
theorem q594 : (Jvm.Cond.soleField "CoatHoles" "d") ∈ lw_all := lw_g (lw_at lw_m3 12 rfl) rfl
theorem q595 : (Jvm.Cond.laysFinal "CoatHoles" "CoatHoles" "kept" "LCoatHoles$Cup;") ∈ lw_all := lw_g (lw_at lw_m3 13 rfl) rfl
theorem q596 : (Jvm.Cond.soleField "CoatHoles" "kept") ∈ lw_all := lw_g (lw_at lw_m3 14 rfl) rfl
theorem q597 : (Jvm.Cond.laysFinal "CoatHoles" "CoatHoles" "draft" "LCoatHoles$Cup;") ∈ lw_all := lw_g (lw_at lw_m3 15 rfl) rfl
theorem q598 : (Jvm.Cond.soleField "CoatHoles" "draft") ∈ lw_all := lw_g (lw_at lw_m3 16 rfl) rfl
theorem q599 : (Jvm.Cond.laysFinal "CoatHoles" "CoatHoles" "tried" "[LCoatHoles$Cup;") ∈ lw_all := lw_g (lw_at lw_m3 17 rfl) rfl
theorem q600 : (Jvm.Cond.soleField "CoatHoles" "tried") ∈ lw_all := lw_g (lw_at lw_m3 18 rfl) rfl
theorem q601 : (Jvm.Cond.lays "CoatHoles" "CoatHoles" "isKept" "Z") ∈ lw_all := lw_g (lw_at lw_m3 19 rfl) rfl
theorem q602 : (Jvm.Cond.soleField "CoatHoles" "isKept") ∈ lw_all := lw_g (lw_at lw_m3 20 rfl) rfl
theorem q603 : (Jvm.Cond.laysFinal "CoatHoles" "CoatHoles" "tape" "[B") ∈ lw_all := lw_g (lw_at lw_m3 21 rfl) rfl
theorem q604 : (Jvm.Cond.soleField "CoatHoles" "tape") ∈ lw_all := lw_g (lw_at lw_m3 22 rfl) rfl
theorem q605 : (Jvm.Cond.lays "CoatHoles" "CoatHoles" "taped" "I") ∈ lw_all := lw_g (lw_at lw_m3 23 rfl) rfl
theorem q606 : (Jvm.Cond.soleField "CoatHoles" "taped") ∈ lw_all := lw_g (lw_at lw_m3 24 rfl) rfl
theorem q607 : (Jvm.Cond.laysFinal "CoatHoles" "CoatHoles" "reader" "LCoatHoles$Reader;") ∈ lw_all := lw_g (lw_at lw_m3 25 rfl) rfl
theorem q608 : (Jvm.Cond.soleField "CoatHoles" "reader") ∈ lw_all := lw_g (lw_at lw_m3 26 rfl) rfl
theorem q609 : (Jvm.Cond.lays "CoatHoles" "CoatHoles" "firstChoice" "I") ∈ lw_all := lw_g (lw_at lw_m3 27 rfl) rfl
theorem q610 : (Jvm.Cond.soleField "CoatHoles" "firstChoice") ∈ lw_all := lw_g (lw_at lw_m3 28 rfl) rfl
theorem q611 : (Jvm.Cond.laysFinal "CoatHoles" "CoatHoles" "rows" "[LCoatHoles$Row;") ∈ lw_all := lw_g (lw_at lw_m3 29 rfl) rfl
theorem q612 : (Jvm.Cond.soleField "CoatHoles" "rows") ∈ lw_all := lw_g (lw_at lw_m3 30 rfl) rfl
theorem q613 : (Jvm.Cond.lays "CoatHoles" "CoatHoles" "rowMany" "I") ∈ lw_all := lw_g (lw_at lw_m3 31 rfl) rfl
theorem q614 : (Jvm.Cond.soleField "CoatHoles" "rowMany") ∈ lw_all := lw_g (lw_at lw_m3 32 rfl) rfl
theorem q615 : (Jvm.Cond.laysFinal "CoatHoles" "CoatHoles" "sheets" "[LCoatHoles$Sheet;") ∈ lw_all := lw_g (lw_at lw_m3 33 rfl) rfl
theorem q616 : (Jvm.Cond.soleField "CoatHoles" "sheets") ∈ lw_all := lw_g (lw_at lw_m3 34 rfl) rfl
theorem q617 : (Jvm.Cond.laysFinal "CoatHoles" "CoatHoles" "beyond" "LCoatHoles$Beyond;") ∈ lw_all := lw_g (lw_at lw_m3 35 rfl) rfl
theorem q618 : (Jvm.Cond.soleField "CoatHoles" "beyond") ∈ lw_all := lw_g (lw_at lw_m3 36 rfl) rfl
theorem q619 : (Jvm.Cond.laysFinal "CoatHoles" "CoatHoles" "nothing" "LCoatHoles$Nothing;") ∈ lw_all := lw_g (lw_at lw_m3 37 rfl) rfl
theorem q620 : (Jvm.Cond.soleField "CoatHoles" "nothing") ∈ lw_all := lw_g (lw_at lw_m3 38 rfl) rfl
theorem q621 : (Jvm.Cond.laysFinal "CoatHoles" "CoatHoles" "traced" "[I") ∈ lw_all := lw_g (lw_at lw_m3 39 rfl) rfl
theorem q622 : (Jvm.Cond.soleField "CoatHoles" "traced") ∈ lw_all := lw_g (lw_at lw_m3 40 rfl) rfl
theorem q623 : (Jvm.Cond.lays "CoatHoles" "CoatHoles" "bodies" "I") ∈ lw_all := lw_g (lw_at lw_m3 41 rfl) rfl
theorem q624 : (Jvm.Cond.soleField "CoatHoles" "bodies") ∈ lw_all := lw_g (lw_at lw_m3 42 rfl) rfl
theorem q625 : (Jvm.Cond.laysFinal "CoatHoles" "CoatHoles" "shelves" "[LCoatHoles$Shelf;") ∈ lw_all := lw_g (lw_at lw_m3 43 rfl) rfl
theorem q626 : (Jvm.Cond.soleField "CoatHoles" "shelves") ∈ lw_all := lw_g (lw_at lw_m3 44 rfl) rfl
theorem q627 : (Jvm.Cond.superclass "CoatHoles" "java/lang/Object") ∈ lw_all := lw_g (lw_at lw_m3 45 rfl) rfl
theorem q629 : (Jvm.Cond.instanceMethod ({ cls := "CoatHoles", name := "feed", desc := "(JI)I" } : Jvm.MethodName)) ∈ lw_all := lw_g (lw_at lw_m3 47 rfl) rfl
theorem q630 : (Jvm.Cond.selects "CoatHoles" ({ cls := "CoatHoles", name := "feed", desc := "(JI)I" } : Jvm.MethodName) ({ cls := "CoatHoles", name := "feed", desc := "(JI)I" } : Jvm.MethodName)) ∈ lw_all := lw_g (lw_at lw_m3 48 rfl) rfl
theorem q631 : (Jvm.Cond.code ({ cls := "CoatHoles", name := "feed", desc := "(JI)I" } : Jvm.MethodName) prog_1_method_9_code (5 : Nat) (Option.some Jvm.ClassFile.FieldType.int)) ∈ lw_all := lw_g (lw_at lw_m3 49 rfl) rfl
theorem q632 : (Jvm.Cond.methodLink "CoatHoles" (114 : Nat) ({ cls := "CoatHoles", name := "in", desc := "(III)Z" } : Jvm.MethodName)) ∈ lw_all := lw_g (lw_at lw_m3 50 rfl) rfl
theorem q633 : (Jvm.Cond.static ({ cls := "CoatHoles", name := "in", desc := "(III)Z" } : Jvm.MethodName)) ∈ lw_all := lw_g (lw_at lw_m3 51 rfl) rfl
theorem q634 : (Jvm.Cond.code ({ cls := "CoatHoles", name := "in", desc := "(III)Z" } : Jvm.MethodName) prog_1_method_1_code (3 : Nat) (Option.some Jvm.ClassFile.FieldType.boolean)) ∈ lw_all := lw_g (lw_at lw_m3 52 rfl) rfl
theorem q636 : (Jvm.Cond.instanceMethod ({ cls := "CoatHoles", name := "cupboard", desc := "()I" } : Jvm.MethodName)) ∈ lw_all := lw_g (lw_at lw_m3 54 rfl) rfl
theorem q637 : (Jvm.Cond.selects "CoatHoles" ({ cls := "CoatHoles", name := "cupboard", desc := "()I" } : Jvm.MethodName) ({ cls := "CoatHoles", name := "cupboard", desc := "()I" } : Jvm.MethodName)) ∈ lw_all := lw_g (lw_at lw_m3 55 rfl) rfl
theorem q638 : (Jvm.Cond.codeWith ({ cls := "CoatHoles", name := "cupboard", desc := "()I" } : Jvm.MethodName) prog_1_method_10_code (3 : Nat) (Option.some Jvm.ClassFile.FieldType.int) [((21 : Nat), (33 : Nat), (36 : Nat), (131 : Nat))]) ∈ lw_all := lw_g (lw_at lw_m3 56 rfl) rfl
theorem q639 : (Jvm.Cond.classLink "CoatHoles" (131 : Nat) "CoatHoles$Fault") ∈ lw_all := lw_g (lw_at lw_m3 57 rfl) rfl
theorem q640 : (Jvm.Cond.methodLink "CoatHoles" (124 : Nat) ({ cls := "CoatHoles$Cup", name := "become", desc := "(LCoatHoles$Cup;)V" } : Jvm.MethodName)) ∈ lw_all := lw_g (lw_at lw_m3 58 rfl) rfl
theorem q663 : (Jvm.Cond.methodLink "CoatHoles" (127 : Nat) ({ cls := "CoatHoles$Reader", name := "read", desc := "([BI)V" } : Jvm.MethodName)) ∈ lw_all := lw_g (lw_at lw_m3 81 rfl) rfl
theorem q796 : (Jvm.Cond.instanceMethod ({ cls := "CoatHoles", name := "thing", desc := "(IIII)I" } : Jvm.MethodName)) ∈ lw_all := lw_g (lw_at lw_m3 214 rfl) rfl
theorem q797 : (Jvm.Cond.selects "CoatHoles" ({ cls := "CoatHoles", name := "thing", desc := "(IIII)I" } : Jvm.MethodName) ({ cls := "CoatHoles", name := "thing", desc := "(IIII)I" } : Jvm.MethodName)) ∈ lw_all := lw_g (lw_at lw_m3 215 rfl) rfl
theorem q798 : (Jvm.Cond.code ({ cls := "CoatHoles", name := "thing", desc := "(IIII)I" } : Jvm.MethodName) prog_1_method_11_code (5 : Nat) (Option.some Jvm.ClassFile.FieldType.int)) ∈ lw_all := lw_g (lw_at lw_m3 216 rfl) rfl
theorem q799 : (Jvm.Cond.methodLink "CoatHoles" (139 : Nat) ({ cls := "CoatHoles", name := "isPlace", desc := "(I)Z" } : Jvm.MethodName)) ∈ lw_all := lw_g (lw_at lw_m3 217 rfl) rfl
theorem q800 : (Jvm.Cond.static ({ cls := "CoatHoles", name := "isPlace", desc := "(I)Z" } : Jvm.MethodName)) ∈ lw_all := lw_g (lw_at lw_m3 218 rfl) rfl
theorem q801 : (Jvm.Cond.code ({ cls := "CoatHoles", name := "isPlace", desc := "(I)Z" } : Jvm.MethodName) prog_1_method_7_code (1 : Nat) (Option.some Jvm.ClassFile.FieldType.boolean)) ∈ lw_all := lw_g (lw_at lw_m3 219 rfl) rfl
theorem q802 : (Jvm.Cond.methodLink "CoatHoles" (143 : Nat) ({ cls := "CoatHoles$Cup", name := "add", desc := "(IIII)I" } : Jvm.MethodName)) ∈ lw_all := lw_g (lw_at lw_m3 220 rfl) rfl
theorem q804 : (Jvm.Cond.instanceMethod ({ cls := "CoatHoles", name := "thingOf", desc := "(II)I" } : Jvm.MethodName)) ∈ lw_all := lw_g (lw_at lw_m3 222 rfl) rfl
theorem q805 : (Jvm.Cond.selects "CoatHoles" ({ cls := "CoatHoles", name := "thingOf", desc := "(II)I" } : Jvm.MethodName) ({ cls := "CoatHoles", name := "thingOf", desc := "(II)I" } : Jvm.MethodName)) ∈ lw_all := lw_g (lw_at lw_m3 223 rfl) rfl
theorem q806 : (Jvm.Cond.code ({ cls := "CoatHoles", name := "thingOf", desc := "(II)I" } : Jvm.MethodName) prog_1_method_12_code (4 : Nat) (Option.some Jvm.ClassFile.FieldType.int)) ∈ lw_all := lw_g (lw_at lw_m3 224 rfl) rfl
theorem q807 : (Jvm.Cond.methodLink "CoatHoles" (147 : Nat) ({ cls := "CoatHoles", name := "isThing", desc := "(I)Z" } : Jvm.MethodName)) ∈ lw_all := lw_g (lw_at lw_m3 225 rfl) rfl
theorem q808 : (Jvm.Cond.privateMethod ({ cls := "CoatHoles", name := "isThing", desc := "(I)Z" } : Jvm.MethodName)) ∈ lw_tbl := lw_at lw_m3 226 rfl
theorem q809 : (Jvm.Cond.instanceMethod ({ cls := "CoatHoles", name := "isThing", desc := "(I)Z" } : Jvm.MethodName)) ∈ lw_all := lw_g (lw_at lw_m3 227 rfl) rfl
theorem q810 : (Jvm.Cond.code ({ cls := "CoatHoles", name := "isThing", desc := "(I)Z" } : Jvm.MethodName) prog_1_method_6_code (2 : Nat) (Option.some Jvm.ClassFile.FieldType.boolean)) ∈ lw_all := lw_g (lw_at lw_m3 228 rfl) rfl
theorem q811 : (Jvm.Cond.methodLink "CoatHoles" (173 : Nat) ({ cls := "CoatHoles$Cup", name := "taste", desc := "(I)I" } : Jvm.MethodName)) ∈ lw_all := lw_g (lw_at lw_m3 229 rfl) rfl
theorem q840 : (Jvm.Cond.methodLink "CoatHoles" (177 : Nat) ({ cls := "CoatHoles$Cup", name := "liking", desc := "(I)I" } : Jvm.MethodName)) ∈ lw_all := lw_g (lw_at lw_m4 18 rfl) rfl
theorem q846 : (Jvm.Cond.instanceMethod ({ cls := "CoatHoles", name := "lives", desc := "(III)I" } : Jvm.MethodName)) ∈ lw_all := lw_g (lw_at lw_m4 24 rfl) rfl
theorem q847 : (Jvm.Cond.selects "CoatHoles" ({ cls := "CoatHoles", name := "lives", desc := "(III)I" } : Jvm.MethodName) ({ cls := "CoatHoles", name := "lives", desc := "(III)I" } : Jvm.MethodName)) ∈ lw_all := lw_g (lw_at lw_m4 25 rfl) rfl
theorem q848 : (Jvm.Cond.code ({ cls := "CoatHoles", name := "lives", desc := "(III)I" } : Jvm.MethodName) prog_1_method_13_code (5 : Nat) (Option.some Jvm.ClassFile.FieldType.int)) ∈ lw_all := lw_g (lw_at lw_m4 26 rfl) rfl
theorem q850 : (Jvm.Cond.instanceMethod ({ cls := "CoatHoles", name := "bag", desc := "(IZ)I" } : Jvm.MethodName)) ∈ lw_all := lw_g (lw_at lw_m4 28 rfl) rfl
theorem q851 : (Jvm.Cond.selects "CoatHoles" ({ cls := "CoatHoles", name := "bag", desc := "(IZ)I" } : Jvm.MethodName) ({ cls := "CoatHoles", name := "bag", desc := "(IZ)I" } : Jvm.MethodName)) ∈ lw_all := lw_g (lw_at lw_m4 29 rfl) rfl
theorem q852 : (Jvm.Cond.code ({ cls := "CoatHoles", name := "bag", desc := "(IZ)I" } : Jvm.MethodName) prog_1_method_14_code (4 : Nat) (Option.some Jvm.ClassFile.FieldType.int)) ∈ lw_all := lw_g (lw_at lw_m4 30 rfl) rfl
theorem q854 : (Jvm.Cond.instanceMethod ({ cls := "CoatHoles", name := "move", desc := "(II)I" } : Jvm.MethodName)) ∈ lw_all := lw_g (lw_at lw_m4 32 rfl) rfl
theorem q855 : (Jvm.Cond.selects "CoatHoles" ({ cls := "CoatHoles", name := "move", desc := "(II)I" } : Jvm.MethodName) ({ cls := "CoatHoles", name := "move", desc := "(II)I" } : Jvm.MethodName)) ∈ lw_all := lw_g (lw_at lw_m4 33 rfl) rfl
theorem q856 : (Jvm.Cond.code ({ cls := "CoatHoles", name := "move", desc := "(II)I" } : Jvm.MethodName) prog_1_method_15_code (4 : Nat) (Option.some Jvm.ClassFile.FieldType.int)) ∈ lw_all := lw_g (lw_at lw_m4 34 rfl) rfl
theorem q858 : (Jvm.Cond.instanceMethod ({ cls := "CoatHoles", name := "fliers", desc := "(II)I" } : Jvm.MethodName)) ∈ lw_all := lw_g (lw_at lw_m4 36 rfl) rfl
theorem q859 : (Jvm.Cond.selects "CoatHoles" ({ cls := "CoatHoles", name := "fliers", desc := "(II)I" } : Jvm.MethodName) ({ cls := "CoatHoles", name := "fliers", desc := "(II)I" } : Jvm.MethodName)) ∈ lw_all := lw_g (lw_at lw_m4 37 rfl) rfl
theorem q860 : (Jvm.Cond.code ({ cls := "CoatHoles", name := "fliers", desc := "(II)I" } : Jvm.MethodName) prog_1_method_16_code (4 : Nat) (Option.some Jvm.ClassFile.FieldType.int)) ∈ lw_all := lw_g (lw_at lw_m4 38 rfl) rfl
theorem q862 : (Jvm.Cond.instanceMethod ({ cls := "CoatHoles", name := "card", desc := "(IZ)I" } : Jvm.MethodName)) ∈ lw_all := lw_g (lw_at lw_m4 40 rfl) rfl
theorem q863 : (Jvm.Cond.selects "CoatHoles" ({ cls := "CoatHoles", name := "card", desc := "(IZ)I" } : Jvm.MethodName) ({ cls := "CoatHoles", name := "card", desc := "(IZ)I" } : Jvm.MethodName)) ∈ lw_all := lw_g (lw_at lw_m4 41 rfl) rfl
theorem q864 : (Jvm.Cond.code ({ cls := "CoatHoles", name := "card", desc := "(IZ)I" } : Jvm.MethodName) prog_1_method_17_code (4 : Nat) (Option.some Jvm.ClassFile.FieldType.int)) ∈ lw_all := lw_g (lw_at lw_m4 42 rfl) rfl
theorem q865 : (Jvm.Cond.methodLink "CoatHoles" (189 : Nat) ({ cls := "CoatHoles", name := "has", desc := "(II)Z" } : Jvm.MethodName)) ∈ lw_all := lw_g (lw_at lw_m4 43 rfl) rfl
theorem q866 : (Jvm.Cond.static ({ cls := "CoatHoles", name := "has", desc := "(II)Z" } : Jvm.MethodName)) ∈ lw_all := lw_g (lw_at lw_m4 44 rfl) rfl
theorem q867 : (Jvm.Cond.code ({ cls := "CoatHoles", name := "has", desc := "(II)Z" } : Jvm.MethodName) prog_1_method_2_code (2 : Nat) (Option.some Jvm.ClassFile.FieldType.boolean)) ∈ lw_all := lw_g (lw_at lw_m4 45 rfl) rfl
theorem q869 : (Jvm.Cond.instanceMethod ({ cls := "CoatHoles", name := "placeOf", desc := "(II)I" } : Jvm.MethodName)) ∈ lw_all := lw_g (lw_at lw_m4 47 rfl) rfl
theorem q870 : (Jvm.Cond.selects "CoatHoles" ({ cls := "CoatHoles", name := "placeOf", desc := "(II)I" } : Jvm.MethodName) ({ cls := "CoatHoles", name := "placeOf", desc := "(II)I" } : Jvm.MethodName)) ∈ lw_all := lw_g (lw_at lw_m4 48 rfl) rfl
theorem q871 : (Jvm.Cond.code ({ cls := "CoatHoles", name := "placeOf", desc := "(II)I" } : Jvm.MethodName) prog_1_method_19_code (3 : Nat) (Option.some Jvm.ClassFile.FieldType.int)) ∈ lw_all := lw_g (lw_at lw_m4 49 rfl) rfl
theorem q872 : (Jvm.Cond.methodLink "CoatHoles" (196 : Nat) ({ cls := "CoatHoles", name := "thingsOn", desc := "(I)I" } : Jvm.MethodName)) ∈ lw_all := lw_g (lw_at lw_m4 50 rfl) rfl
theorem q873 : (Jvm.Cond.privateMethod ({ cls := "CoatHoles", name := "thingsOn", desc := "(I)I" } : Jvm.MethodName)) ∈ lw_tbl := lw_at lw_m4 51 rfl
theorem q874 : (Jvm.Cond.instanceMethod ({ cls := "CoatHoles", name := "thingsOn", desc := "(I)I" } : Jvm.MethodName)) ∈ lw_all := lw_g (lw_at lw_m4 52 rfl) rfl
theorem q875 : (Jvm.Cond.code ({ cls := "CoatHoles", name := "thingsOn", desc := "(I)I" } : Jvm.MethodName) prog_1_method_18_code (4 : Nat) (Option.some Jvm.ClassFile.FieldType.int)) ∈ lw_all := lw_g (lw_at lw_m4 53 rfl) rfl
theorem q877 : (Jvm.Cond.instanceMethod ({ cls := "CoatHoles", name := "set", desc := "(II)I" } : Jvm.MethodName)) ∈ lw_all := lw_g (lw_at lw_m4 55 rfl) rfl
theorem q878 : (Jvm.Cond.selects "CoatHoles" ({ cls := "CoatHoles", name := "set", desc := "(II)I" } : Jvm.MethodName) ({ cls := "CoatHoles", name := "set", desc := "(II)I" } : Jvm.MethodName)) ∈ lw_all := lw_g (lw_at lw_m4 56 rfl) rfl
theorem q879 : (Jvm.Cond.code ({ cls := "CoatHoles", name := "set", desc := "(II)I" } : Jvm.MethodName) prog_1_method_21_code (4 : Nat) (Option.some Jvm.ClassFile.FieldType.int)) ∈ lw_all := lw_g (lw_at lw_m4 57 rfl) rfl
theorem q880 : (Jvm.Cond.methodLink "CoatHoles" (202 : Nat) ({ cls := "CoatHoles", name := "mostOf", desc := "(I)I" } : Jvm.MethodName)) ∈ lw_all := lw_g (lw_at lw_m4 58 rfl) rfl
theorem q881 : (Jvm.Cond.static ({ cls := "CoatHoles", name := "mostOf", desc := "(I)I" } : Jvm.MethodName)) ∈ lw_all := lw_g (lw_at lw_m4 59 rfl) rfl
theorem q882 : (Jvm.Cond.code ({ cls := "CoatHoles", name := "mostOf", desc := "(I)I" } : Jvm.MethodName) prog_1_method_20_code (1 : Nat) (Option.some Jvm.ClassFile.FieldType.int)) ∈ lw_all := lw_g (lw_at lw_m4 60 rfl) rfl
theorem q884 : (Jvm.Cond.instanceMethod ({ cls := "CoatHoles", name := "warm", desc := "(II)I" } : Jvm.MethodName)) ∈ lw_all := lw_g (lw_at lw_m4 62 rfl) rfl
theorem q885 : (Jvm.Cond.selects "CoatHoles" ({ cls := "CoatHoles", name := "warm", desc := "(II)I" } : Jvm.MethodName) ({ cls := "CoatHoles", name := "warm", desc := "(II)I" } : Jvm.MethodName)) ∈ lw_all := lw_g (lw_at lw_m4 63 rfl) rfl
theorem q886 : (Jvm.Cond.code ({ cls := "CoatHoles", name := "warm", desc := "(II)I" } : Jvm.MethodName) prog_1_method_22_code (4 : Nat) (Option.some Jvm.ClassFile.FieldType.int)) ∈ lw_all := lw_g (lw_at lw_m4 64 rfl) rfl
theorem q888 : (Jvm.Cond.instanceMethod ({ cls := "CoatHoles", name := "week", desc := "(I)I" } : Jvm.MethodName)) ∈ lw_all := lw_g (lw_at lw_m4 66 rfl) rfl
theorem q889 : (Jvm.Cond.selects "CoatHoles" ({ cls := "CoatHoles", name := "week", desc := "(I)I" } : Jvm.MethodName) ({ cls := "CoatHoles", name := "week", desc := "(I)I" } : Jvm.MethodName)) ∈ lw_all := lw_g (lw_at lw_m4 67 rfl) rfl
theorem q890 : (Jvm.Cond.code ({ cls := "CoatHoles", name := "week", desc := "(I)I" } : Jvm.MethodName) prog_1_method_23_code (3 : Nat) (Option.some Jvm.ClassFile.FieldType.int)) ∈ lw_all := lw_g (lw_at lw_m4 68 rfl) rfl
theorem q891 : (Jvm.Cond.methodLink "CoatHoles" (214 : Nat) ({ cls := "CoatHoles$Cup", name := "goes", desc := "()V" } : Jvm.MethodName)) ∈ lw_all := lw_g (lw_at lw_m4 69 rfl) rfl
theorem q930 : (Jvm.Cond.instanceMethod ({ cls := "CoatHoles", name := "now", desc := "(I)I" } : Jvm.MethodName)) ∈ lw_all := lw_g (lw_at lw_m4 108 rfl) rfl
theorem q931 : (Jvm.Cond.selects "CoatHoles" ({ cls := "CoatHoles", name := "now", desc := "(I)I" } : Jvm.MethodName) ({ cls := "CoatHoles", name := "now", desc := "(I)I" } : Jvm.MethodName)) ∈ lw_all := lw_g (lw_at lw_m4 109 rfl) rfl
theorem q932 : (Jvm.Cond.code ({ cls := "CoatHoles", name := "now", desc := "(I)I" } : Jvm.MethodName) prog_1_method_25_code (2 : Nat) (Option.some Jvm.ClassFile.FieldType.int)) ∈ lw_all := lw_g (lw_at lw_m4 110 rfl) rfl
theorem q933 : (Jvm.Cond.methodLink "CoatHoles" (217 : Nat) ({ cls := "CoatHoles$Cup", name := "warmth", desc := "()I" } : Jvm.MethodName)) ∈ lw_all := lw_g (lw_at lw_m4 111 rfl) rfl
theorem q934 : (Jvm.Cond.methodLink "CoatHoles" (221 : Nat) ({ cls := "CoatHoles$Cup", name := "alive", desc := "()I" } : Jvm.MethodName)) ∈ lw_all := lw_g (lw_at lw_m4 112 rfl) rfl
theorem q942 : (Jvm.Cond.methodLink "CoatHoles" (224 : Nat) ({ cls := "CoatHoles$Cup", name := "kept", desc := "()I" } : Jvm.MethodName)) ∈ lw_all := lw_g (lw_at lw_m4 120 rfl) rfl
theorem q949 : (Jvm.Cond.methodLink "CoatHoles" (226 : Nat) ({ cls := "CoatHoles", name := "holesAll", desc := "()I" } : Jvm.MethodName)) ∈ lw_all := lw_g (lw_at lw_m4 127 rfl) rfl
theorem q950 : (Jvm.Cond.privateMethod ({ cls := "CoatHoles", name := "holesAll", desc := "()I" } : Jvm.MethodName)) ∈ lw_tbl := lw_at lw_m4 128 rfl
theorem q951 : (Jvm.Cond.instanceMethod ({ cls := "CoatHoles", name := "holesAll", desc := "()I" } : Jvm.MethodName)) ∈ lw_all := lw_g (lw_at lw_m4 129 rfl) rfl
theorem q952 : (Jvm.Cond.code ({ cls := "CoatHoles", name := "holesAll", desc := "()I" } : Jvm.MethodName) prog_1_method_24_code (3 : Nat) (Option.some Jvm.ClassFile.FieldType.int)) ∈ lw_all := lw_g (lw_at lw_m4 130 rfl) rfl
theorem q954 : (Jvm.Cond.instanceMethod ({ cls := "CoatHoles", name := "over", desc := "()I" } : Jvm.MethodName)) ∈ lw_all := lw_g (lw_at lw_m4 132 rfl) rfl
theorem q955 : (Jvm.Cond.selects "CoatHoles" ({ cls := "CoatHoles", name := "over", desc := "()I" } : Jvm.MethodName) ({ cls := "CoatHoles", name := "over", desc := "()I" } : Jvm.MethodName)) ∈ lw_all := lw_g (lw_at lw_m4 133 rfl) rfl
theorem q956 : (Jvm.Cond.code ({ cls := "CoatHoles", name := "over", desc := "()I" } : Jvm.MethodName) prog_1_method_26_code (3 : Nat) (Option.some Jvm.ClassFile.FieldType.int)) ∈ lw_all := lw_g (lw_at lw_m4 134 rfl) rfl
theorem q957 : (Jvm.Cond.methodLink "CoatHoles" (229 : Nat) ({ cls := "CoatHoles$Cup", name := "lies", desc := "(LCoatHoles$Cup;)V" } : Jvm.MethodName)) ∈ lw_all := lw_g (lw_at lw_m4 135 rfl) rfl
theorem q959 : (Jvm.Cond.instanceMethod ({ cls := "CoatHoles", name := "doing", desc := "(II)I" } : Jvm.MethodName)) ∈ lw_all := lw_g (lw_at lw_m4 137 rfl) rfl
theorem q960 : (Jvm.Cond.selects "CoatHoles" ({ cls := "CoatHoles", name := "doing", desc := "(II)I" } : Jvm.MethodName) ({ cls := "CoatHoles", name := "doing", desc := "(II)I" } : Jvm.MethodName)) ∈ lw_all := lw_g (lw_at lw_m4 138 rfl) rfl
theorem q961 : (Jvm.Cond.code ({ cls := "CoatHoles", name := "doing", desc := "(II)I" } : Jvm.MethodName) prog_1_method_27_code (3 : Nat) (Option.some Jvm.ClassFile.FieldType.int)) ∈ lw_all := lw_g (lw_at lw_m4 139 rfl) rfl
theorem q963 : (Jvm.Cond.instanceMethod ({ cls := "CoatHoles", name := "doingOf", desc := "(II)I" } : Jvm.MethodName)) ∈ lw_all := lw_g (lw_at lw_m4 141 rfl) rfl
theorem q964 : (Jvm.Cond.selects "CoatHoles" ({ cls := "CoatHoles", name := "doingOf", desc := "(II)I" } : Jvm.MethodName) ({ cls := "CoatHoles", name := "doingOf", desc := "(II)I" } : Jvm.MethodName)) ∈ lw_all := lw_g (lw_at lw_m4 142 rfl) rfl
theorem q965 : (Jvm.Cond.code ({ cls := "CoatHoles", name := "doingOf", desc := "(II)I" } : Jvm.MethodName) prog_1_method_28_code (3 : Nat) (Option.some Jvm.ClassFile.FieldType.int)) ∈ lw_all := lw_g (lw_at lw_m4 143 rfl) rfl
theorem q966 : (Jvm.Cond.methodLink "CoatHoles" (238 : Nat) ({ cls := "CoatHoles", name := "isDoing", desc := "(I)Z" } : Jvm.MethodName)) ∈ lw_all := lw_g (lw_at lw_m4 144 rfl) rfl
theorem q967 : (Jvm.Cond.privateMethod ({ cls := "CoatHoles", name := "isDoing", desc := "(I)Z" } : Jvm.MethodName)) ∈ lw_tbl := lw_at lw_m4 145 rfl
theorem q968 : (Jvm.Cond.instanceMethod ({ cls := "CoatHoles", name := "isDoing", desc := "(I)Z" } : Jvm.MethodName)) ∈ lw_all := lw_g (lw_at lw_m4 146 rfl) rfl
theorem q969 : (Jvm.Cond.code ({ cls := "CoatHoles", name := "isDoing", desc := "(I)Z" } : Jvm.MethodName) prog_1_method_8_code (2 : Nat) (Option.some Jvm.ClassFile.FieldType.boolean)) ∈ lw_all := lw_g (lw_at lw_m4 147 rfl) rfl
theorem q971 : (Jvm.Cond.instanceMethod ({ cls := "CoatHoles", name := "does", desc := "(II)I" } : Jvm.MethodName)) ∈ lw_all := lw_g (lw_at lw_m4 149 rfl) rfl
theorem q972 : (Jvm.Cond.selects "CoatHoles" ({ cls := "CoatHoles", name := "does", desc := "(II)I" } : Jvm.MethodName) ({ cls := "CoatHoles", name := "does", desc := "(II)I" } : Jvm.MethodName)) ∈ lw_all := lw_g (lw_at lw_m4 150 rfl) rfl
theorem q973 : (Jvm.Cond.code ({ cls := "CoatHoles", name := "does", desc := "(II)I" } : Jvm.MethodName) prog_1_method_29_code (4 : Nat) (Option.some Jvm.ClassFile.FieldType.int)) ∈ lw_all := lw_g (lw_at lw_m4 151 rfl) rfl
theorem q974 : (Jvm.Cond.methodLink "CoatHoles" (241 : Nat) ({ cls := "CoatHoles$Nature", name := "does", desc := "(LCoatHoles$Item;)V" } : Jvm.MethodName)) ∈ lw_all := lw_g (lw_at lw_m4 152 rfl) rfl
theorem q998 : (Jvm.Cond.instanceMethod ({ cls := "CoatHoles", name := "best", desc := "(II)I" } : Jvm.MethodName)) ∈ lw_all := lw_g (lw_at lw_m4 176 rfl) rfl
theorem q999 : (Jvm.Cond.selects "CoatHoles" ({ cls := "CoatHoles", name := "best", desc := "(II)I" } : Jvm.MethodName) ({ cls := "CoatHoles", name := "best", desc := "(II)I" } : Jvm.MethodName)) ∈ lw_all := lw_g (lw_at lw_m4 177 rfl) rfl
theorem q1000 : (Jvm.Cond.code ({ cls := "CoatHoles", name := "best", desc := "(II)I" } : Jvm.MethodName) prog_1_method_33_code (4 : Nat) (Option.some Jvm.ClassFile.FieldType.int)) ∈ lw_all := lw_g (lw_at lw_m4 178 rfl) rfl
theorem q1001 : (Jvm.Cond.methodLink "CoatHoles" (251 : Nat) ({ cls := "CoatHoles", name := "mostBy", desc := "(II)I" } : Jvm.MethodName)) ∈ lw_all := lw_g (lw_at lw_m4 179 rfl) rfl
theorem q1002 : (Jvm.Cond.privateMethod ({ cls := "CoatHoles", name := "mostBy", desc := "(II)I" } : Jvm.MethodName)) ∈ lw_tbl := lw_at lw_m4 180 rfl
theorem q1003 : (Jvm.Cond.instanceMethod ({ cls := "CoatHoles", name := "mostBy", desc := "(II)I" } : Jvm.MethodName)) ∈ lw_all := lw_g (lw_at lw_m4 181 rfl) rfl
theorem q1004 : (Jvm.Cond.code ({ cls := "CoatHoles", name := "mostBy", desc := "(II)I" } : Jvm.MethodName) prog_1_method_32_code (7 : Nat) (Option.some Jvm.ClassFile.FieldType.int)) ∈ lw_all := lw_g (lw_at lw_m4 182 rfl) rfl
theorem q1005 : (Jvm.Cond.methodLink "CoatHoles" (245 : Nat) ({ cls := "CoatHoles", name := "isChoice", desc := "(I)Z" } : Jvm.MethodName)) ∈ lw_all := lw_g (lw_at lw_m4 183 rfl) rfl
theorem q1006 : (Jvm.Cond.privateMethod ({ cls := "CoatHoles", name := "isChoice", desc := "(I)Z" } : Jvm.MethodName)) ∈ lw_tbl := lw_at lw_m4 184 rfl
theorem q1007 : (Jvm.Cond.instanceMethod ({ cls := "CoatHoles", name := "isChoice", desc := "(I)Z" } : Jvm.MethodName)) ∈ lw_all := lw_g (lw_at lw_m4 185 rfl) rfl
theorem q1008 : (Jvm.Cond.code ({ cls := "CoatHoles", name := "isChoice", desc := "(I)Z" } : Jvm.MethodName) prog_1_method_31_code (2 : Nat) (Option.some Jvm.ClassFile.FieldType.boolean)) ∈ lw_all := lw_g (lw_at lw_m4 186 rfl) rfl
theorem q1009 : (Jvm.Cond.methodLink "CoatHoles" (248 : Nat) ({ cls := "CoatHoles", name := "goes", desc := "(LCoatHoles$Cup;LCoatHoles$Cup;I)V" } : Jvm.MethodName)) ∈ lw_all := lw_g (lw_at lw_m4 187 rfl) rfl
theorem q1010 : (Jvm.Cond.privateMethod ({ cls := "CoatHoles", name := "goes", desc := "(LCoatHoles$Cup;LCoatHoles$Cup;I)V" } : Jvm.MethodName)) ∈ lw_tbl := lw_at lw_m4 188 rfl
theorem q1011 : (Jvm.Cond.instanceMethod ({ cls := "CoatHoles", name := "goes", desc := "(LCoatHoles$Cup;LCoatHoles$Cup;I)V" } : Jvm.MethodName)) ∈ lw_all := lw_g (lw_at lw_m4 189 rfl) rfl
theorem q1012 : (Jvm.Cond.code ({ cls := "CoatHoles", name := "goes", desc := "(LCoatHoles$Cup;LCoatHoles$Cup;I)V" } : Jvm.MethodName) prog_1_method_30_code (4 : Nat) (Option.none : Option Jvm.ClassFile.FieldType)) ∈ lw_all := lw_g (lw_at lw_m4 190 rfl) rfl
theorem q1014 : (Jvm.Cond.instanceMethod ({ cls := "CoatHoles", name := "weigh", desc := "(II)I" } : Jvm.MethodName)) ∈ lw_all := lw_g (lw_at lw_m4 192 rfl) rfl
theorem q1015 : (Jvm.Cond.selects "CoatHoles" ({ cls := "CoatHoles", name := "weigh", desc := "(II)I" } : Jvm.MethodName) ({ cls := "CoatHoles", name := "weigh", desc := "(II)I" } : Jvm.MethodName)) ∈ lw_all := lw_g (lw_at lw_m4 193 rfl) rfl
theorem q1016 : (Jvm.Cond.code ({ cls := "CoatHoles", name := "weigh", desc := "(II)I" } : Jvm.MethodName) prog_1_method_34_code (4 : Nat) (Option.some Jvm.ClassFile.FieldType.int)) ∈ lw_all := lw_g (lw_at lw_m4 194 rfl) rfl
theorem q1018 : (Jvm.Cond.instanceMethod ({ cls := "CoatHoles", name := "look", desc := "(IZ)I" } : Jvm.MethodName)) ∈ lw_all := lw_g (lw_at lw_m4 196 rfl) rfl
theorem q1019 : (Jvm.Cond.selects "CoatHoles" ({ cls := "CoatHoles", name := "look", desc := "(IZ)I" } : Jvm.MethodName) ({ cls := "CoatHoles", name := "look", desc := "(IZ)I" } : Jvm.MethodName)) ∈ lw_all := lw_g (lw_at lw_m4 197 rfl) rfl
theorem q1020 : (Jvm.Cond.code ({ cls := "CoatHoles", name := "look", desc := "(IZ)I" } : Jvm.MethodName) prog_1_method_35_code (3 : Nat) (Option.some Jvm.ClassFile.FieldType.int)) ∈ lw_all := lw_g (lw_at lw_m4 198 rfl) rfl
theorem q1022 : (Jvm.Cond.instanceMethod ({ cls := "CoatHoles", name := "forget", desc := "()I" } : Jvm.MethodName)) ∈ lw_all := lw_g (lw_at lw_m4 200 rfl) rfl
theorem q1023 : (Jvm.Cond.selects "CoatHoles" ({ cls := "CoatHoles", name := "forget", desc := "()I" } : Jvm.MethodName) ({ cls := "CoatHoles", name := "forget", desc := "()I" } : Jvm.MethodName)) ∈ lw_all := lw_g (lw_at lw_m4 201 rfl) rfl
theorem q1024 : (Jvm.Cond.code ({ cls := "CoatHoles", name := "forget", desc := "()I" } : Jvm.MethodName) prog_1_method_36_code (2 : Nat) (Option.some Jvm.ClassFile.FieldType.int)) ∈ lw_all := lw_g (lw_at lw_m4 202 rfl) rfl
theorem q1026 : (Jvm.Cond.instanceMethod ({ cls := "CoatHoles", name := "from", desc := "(II)J" } : Jvm.MethodName)) ∈ lw_all := lw_g (lw_at lw_m4 204 rfl) rfl
theorem q1027 : (Jvm.Cond.selects "CoatHoles" ({ cls := "CoatHoles", name := "from", desc := "(II)J" } : Jvm.MethodName) ({ cls := "CoatHoles", name := "from", desc := "(II)J" } : Jvm.MethodName)) ∈ lw_all := lw_g (lw_at lw_m4 205 rfl) rfl
theorem q1028 : (Jvm.Cond.code ({ cls := "CoatHoles", name := "from", desc := "(II)J" } : Jvm.MethodName) prog_1_method_40_code (5 : Nat) (Option.some Jvm.ClassFile.FieldType.long)) ∈ lw_all := lw_g (lw_at lw_m4 206 rfl) rfl
theorem q1029 : (Jvm.Cond.constantLong "CoatHoles" (276 : Nat) (-1 : Int64)) ∈ lw_all := lw_g (lw_at lw_m4 207 rfl) rfl
theorem q1030 : (Jvm.Cond.methodLink "CoatHoles" (278 : Nat) ({ cls := "CoatHoles", name := "waysAll", desc := "()J" } : Jvm.MethodName)) ∈ lw_all := lw_g (lw_at lw_m4 208 rfl) rfl
theorem q1031 : (Jvm.Cond.privateMethod ({ cls := "CoatHoles", name := "waysAll", desc := "()J" } : Jvm.MethodName)) ∈ lw_tbl := lw_at lw_m4 209 rfl
theorem q1032 : (Jvm.Cond.instanceMethod ({ cls := "CoatHoles", name := "waysAll", desc := "()J" } : Jvm.MethodName)) ∈ lw_all := lw_g (lw_at lw_m4 210 rfl) rfl
theorem q1033 : (Jvm.Cond.code ({ cls := "CoatHoles", name := "waysAll", desc := "()J" } : Jvm.MethodName) prog_1_method_39_code (4 : Nat) (Option.some Jvm.ClassFile.FieldType.long)) ∈ lw_all := lw_g (lw_at lw_m4 211 rfl) rfl
theorem q1034 : (Jvm.Cond.methodLink "CoatHoles" (272 : Nat) ({ cls := "CoatHoles", name := "waysFrom", desc := "(I)J" } : Jvm.MethodName)) ∈ lw_all := lw_g (lw_at lw_m4 212 rfl) rfl
theorem q1035 : (Jvm.Cond.privateMethod ({ cls := "CoatHoles", name := "waysFrom", desc := "(I)J" } : Jvm.MethodName)) ∈ lw_tbl := lw_at lw_m4 213 rfl
theorem q1036 : (Jvm.Cond.instanceMethod ({ cls := "CoatHoles", name := "waysFrom", desc := "(I)J" } : Jvm.MethodName)) ∈ lw_all := lw_g (lw_at lw_m4 214 rfl) rfl
theorem q1037 : (Jvm.Cond.code ({ cls := "CoatHoles", name := "waysFrom", desc := "(I)J" } : Jvm.MethodName) prog_1_method_38_code (5 : Nat) (Option.some Jvm.ClassFile.FieldType.long)) ∈ lw_all := lw_g (lw_at lw_m4 215 rfl) rfl
theorem q1038 : (Jvm.Cond.methodLink "CoatHoles" (268 : Nat) ({ cls := "CoatHoles", name := "oddsOf", desc := "(IZI)J" } : Jvm.MethodName)) ∈ lw_all := lw_g (lw_at lw_m4 216 rfl) rfl
theorem q1039 : (Jvm.Cond.privateMethod ({ cls := "CoatHoles", name := "oddsOf", desc := "(IZI)J" } : Jvm.MethodName)) ∈ lw_tbl := lw_at lw_m4 217 rfl
theorem q1040 : (Jvm.Cond.instanceMethod ({ cls := "CoatHoles", name := "oddsOf", desc := "(IZI)J" } : Jvm.MethodName)) ∈ lw_all := lw_g (lw_at lw_m4 218 rfl) rfl
theorem q1041 : (Jvm.Cond.code ({ cls := "CoatHoles", name := "oddsOf", desc := "(IZI)J" } : Jvm.MethodName) prog_1_method_37_code (5 : Nat) (Option.some Jvm.ClassFile.FieldType.long)) ∈ lw_all := lw_g (lw_at lw_m4 219 rfl) rfl
theorem q1042 : (Jvm.Cond.constantLong "CoatHoles" (282 : Nat) (-3 : Int64)) ∈ lw_all := lw_g (lw_at lw_m4 220 rfl) rfl
theorem q1043 : (Jvm.Cond.methodLink "CoatHoles" (284 : Nat) ({ cls := "CoatHoles", name := "partOf", desc := "(JJI)J" } : Jvm.MethodName)) ∈ lw_all := lw_g (lw_at lw_m4 221 rfl) rfl
theorem q1044 : (Jvm.Cond.static ({ cls := "CoatHoles", name := "partOf", desc := "(JJI)J" } : Jvm.MethodName)) ∈ lw_all := lw_g (lw_at lw_m4 222 rfl) rfl
theorem q1045 : (Jvm.Cond.code ({ cls := "CoatHoles", name := "partOf", desc := "(JJI)J" } : Jvm.MethodName) prog_1_method_4_code (7 : Nat) (Option.some Jvm.ClassFile.FieldType.long)) ∈ lw_all := lw_g (lw_at lw_m4 223 rfl) rfl
theorem q1046 : (Jvm.Cond.methodLink "CoatHoles" (7 : Nat) ({ cls := "CoatHoles", name := "common", desc := "(JJ)J" } : Jvm.MethodName)) ∈ lw_all := lw_g (lw_at lw_m4 224 rfl) rfl
theorem q1047 : (Jvm.Cond.static ({ cls := "CoatHoles", name := "common", desc := "(JJ)J" } : Jvm.MethodName)) ∈ lw_all := lw_g (lw_at lw_m4 225 rfl) rfl
theorem q1048 : (Jvm.Cond.code ({ cls := "CoatHoles", name := "common", desc := "(JJ)J" } : Jvm.MethodName) prog_1_method_3_code (10 : Nat) (Option.some Jvm.ClassFile.FieldType.long)) ∈ lw_all := lw_g (lw_at lw_m4 226 rfl) rfl
theorem q1049 : (Jvm.Cond.methodLink "CoatHoles" (1 : Nat) ({ cls := "java/lang/Math", name := "abs", desc := "(J)J" } : Jvm.MethodName)) ∈ lw_all := lw_g (lw_at lw_m4 227 rfl) rfl
theorem q1053 : (Jvm.Cond.instanceMethod ({ cls := "CoatHoles", name := "next", desc := "()I" } : Jvm.MethodName)) ∈ lw_all := lw_g (lw_at lw_m4 231 rfl) rfl
theorem q1054 : (Jvm.Cond.selects "CoatHoles" ({ cls := "CoatHoles", name := "next", desc := "()I" } : Jvm.MethodName) ({ cls := "CoatHoles", name := "next", desc := "()I" } : Jvm.MethodName)) ∈ lw_all := lw_g (lw_at lw_m4 232 rfl) rfl
theorem q1055 : (Jvm.Cond.code ({ cls := "CoatHoles", name := "next", desc := "()I" } : Jvm.MethodName) prog_1_method_42_code (3 : Nat) (Option.some Jvm.ClassFile.FieldType.int)) ∈ lw_all := lw_g (lw_at lw_m4 233 rfl) rfl
theorem q1056 : (Jvm.Cond.methodLink "CoatHoles" (291 : Nat) ({ cls := "CoatHoles", name := "toldBy", desc := "(I)J" } : Jvm.MethodName)) ∈ lw_all := lw_g (lw_at lw_m4 234 rfl) rfl
theorem q1057 : (Jvm.Cond.privateMethod ({ cls := "CoatHoles", name := "toldBy", desc := "(I)J" } : Jvm.MethodName)) ∈ lw_tbl := lw_at lw_m4 235 rfl
theorem q1058 : (Jvm.Cond.instanceMethod ({ cls := "CoatHoles", name := "toldBy", desc := "(I)J" } : Jvm.MethodName)) ∈ lw_all := lw_g (lw_at lw_m4 236 rfl) rfl
theorem q1059 : (Jvm.Cond.code ({ cls := "CoatHoles", name := "toldBy", desc := "(I)J" } : Jvm.MethodName) prog_1_method_41_code (7 : Nat) (Option.some Jvm.ClassFile.FieldType.long)) ∈ lw_all := lw_g (lw_at lw_m4 237 rfl) rfl
theorem q1060 : (Jvm.Cond.methodLink "CoatHoles" (288 : Nat) ({ cls := "java/lang/Math", name := "max", desc := "(JJ)J" } : Jvm.MethodName)) ∈ lw_all := lw_g (lw_at lw_m4 238 rfl) rfl
theorem q1064 : (Jvm.Cond.instanceMethod ({ cls := "CoatHoles", name := "seed", desc := "(I)I" } : Jvm.MethodName)) ∈ lw_all := lw_g (lw_at lw_m5 2 rfl) rfl
theorem q1065 : (Jvm.Cond.selects "CoatHoles" ({ cls := "CoatHoles", name := "seed", desc := "(I)I" } : Jvm.MethodName) ({ cls := "CoatHoles", name := "seed", desc := "(I)I" } : Jvm.MethodName)) ∈ lw_all := lw_g (lw_at lw_m5 3 rfl) rfl
theorem q1066 : (Jvm.Cond.code ({ cls := "CoatHoles", name := "seed", desc := "(I)I" } : Jvm.MethodName) prog_1_method_43_code (3 : Nat) (Option.some Jvm.ClassFile.FieldType.int)) ∈ lw_all := lw_g (lw_at lw_m5 4 rfl) rfl
theorem q1068 : (Jvm.Cond.instanceMethod ({ cls := "CoatHoles", name := "blow", desc := "()I" } : Jvm.MethodName)) ∈ lw_all := lw_g (lw_at lw_m5 6 rfl) rfl
theorem q1069 : (Jvm.Cond.selects "CoatHoles" ({ cls := "CoatHoles", name := "blow", desc := "()I" } : Jvm.MethodName) ({ cls := "CoatHoles", name := "blow", desc := "()I" } : Jvm.MethodName)) ∈ lw_all := lw_g (lw_at lw_m5 7 rfl) rfl
theorem q1070 : (Jvm.Cond.code ({ cls := "CoatHoles", name := "blow", desc := "()I" } : Jvm.MethodName) prog_1_method_44_code (2 : Nat) (Option.some Jvm.ClassFile.FieldType.int)) ∈ lw_all := lw_g (lw_at lw_m5 8 rfl) rfl
theorem q1071 : (Jvm.Cond.constant "CoatHoles" (297 : Nat) (1103515245 : Int32)) ∈ lw_all := lw_g (lw_at lw_m5 9 rfl) rfl
theorem q1072 : (Jvm.Cond.methodLink "CoatHoles" (298 : Nat) ({ cls := "java/lang/Math", name := "min", desc := "(II)I" } : Jvm.MethodName)) ∈ lw_all := lw_g (lw_at lw_m5 10 rfl) rfl
theorem q1074 : (Jvm.Cond.instanceMethod ({ cls := "CoatHoles", name := "row", desc := "(II)I" } : Jvm.MethodName)) ∈ lw_all := lw_g (lw_at lw_m5 12 rfl) rfl
theorem q1075 : (Jvm.Cond.selects "CoatHoles" ({ cls := "CoatHoles", name := "row", desc := "(II)I" } : Jvm.MethodName) ({ cls := "CoatHoles", name := "row", desc := "(II)I" } : Jvm.MethodName)) ∈ lw_all := lw_g (lw_at lw_m5 13 rfl) rfl
theorem q1076 : (Jvm.Cond.code ({ cls := "CoatHoles", name := "row", desc := "(II)I" } : Jvm.MethodName) prog_1_method_47_code (3 : Nat) (Option.some Jvm.ClassFile.FieldType.int)) ∈ lw_all := lw_g (lw_at lw_m5 14 rfl) rfl
theorem q1077 : (Jvm.Cond.methodLink "CoatHoles" (302 : Nat) ({ cls := "CoatHoles", name := "isCell", desc := "(II)Z" } : Jvm.MethodName)) ∈ lw_all := lw_g (lw_at lw_m5 15 rfl) rfl
theorem q1078 : (Jvm.Cond.privateMethod ({ cls := "CoatHoles", name := "isCell", desc := "(II)Z" } : Jvm.MethodName)) ∈ lw_tbl := lw_at lw_m5 16 rfl
theorem q1079 : (Jvm.Cond.instanceMethod ({ cls := "CoatHoles", name := "isCell", desc := "(II)Z" } : Jvm.MethodName)) ∈ lw_all := lw_g (lw_at lw_m5 17 rfl) rfl
theorem q1080 : (Jvm.Cond.code ({ cls := "CoatHoles", name := "isCell", desc := "(II)Z" } : Jvm.MethodName) prog_1_method_46_code (3 : Nat) (Option.some Jvm.ClassFile.FieldType.boolean)) ∈ lw_all := lw_g (lw_at lw_m5 18 rfl) rfl
theorem q1082 : (Jvm.Cond.instanceMethod ({ cls := "CoatHoles", name := "alterRow", desc := "(III)I" } : Jvm.MethodName)) ∈ lw_all := lw_g (lw_at lw_m5 20 rfl) rfl
theorem q1083 : (Jvm.Cond.selects "CoatHoles" ({ cls := "CoatHoles", name := "alterRow", desc := "(III)I" } : Jvm.MethodName) ({ cls := "CoatHoles", name := "alterRow", desc := "(III)I" } : Jvm.MethodName)) ∈ lw_all := lw_g (lw_at lw_m5 21 rfl) rfl
theorem q1084 : (Jvm.Cond.code ({ cls := "CoatHoles", name := "alterRow", desc := "(III)I" } : Jvm.MethodName) prog_1_method_48_code (5 : Nat) (Option.some Jvm.ClassFile.FieldType.int)) ∈ lw_all := lw_g (lw_at lw_m5 22 rfl) rfl
theorem q1086 : (Jvm.Cond.instanceMethod ({ cls := "CoatHoles", name := "prove", desc := "()I" } : Jvm.MethodName)) ∈ lw_all := lw_g (lw_at lw_m5 24 rfl) rfl
theorem q1087 : (Jvm.Cond.selects "CoatHoles" ({ cls := "CoatHoles", name := "prove", desc := "()I" } : Jvm.MethodName) ({ cls := "CoatHoles", name := "prove", desc := "()I" } : Jvm.MethodName)) ∈ lw_all := lw_g (lw_at lw_m5 25 rfl) rfl
theorem q1088 : (Jvm.Cond.code ({ cls := "CoatHoles", name := "prove", desc := "()I" } : Jvm.MethodName) prog_1_method_49_code (3 : Nat) (Option.some Jvm.ClassFile.FieldType.int)) ∈ lw_all := lw_g (lw_at lw_m5 26 rfl) rfl
theorem q1089 : (Jvm.Cond.methodLink "CoatHoles" (308 : Nat) ({ cls := "CoatHoles", name := "rowAt", desc := "(I)LCoatHoles$Row;" } : Jvm.MethodName)) ∈ lw_all := lw_g (lw_at lw_m5 27 rfl) rfl
theorem q1090 : (Jvm.Cond.privateMethod ({ cls := "CoatHoles", name := "rowAt", desc := "(I)LCoatHoles$Row;" } : Jvm.MethodName)) ∈ lw_tbl := lw_at lw_m5 28 rfl
theorem q1091 : (Jvm.Cond.instanceMethod ({ cls := "CoatHoles", name := "rowAt", desc := "(I)LCoatHoles$Row;" } : Jvm.MethodName)) ∈ lw_all := lw_g (lw_at lw_m5 29 rfl) rfl
theorem q1092 : (Jvm.Cond.code ({ cls := "CoatHoles", name := "rowAt", desc := "(I)LCoatHoles$Row;" } : Jvm.MethodName) prog_1_method_45_code (2 : Nat) (Option.some (Jvm.ClassFile.FieldType.object "CoatHoles$Row"))) ∈ lw_all := lw_g (lw_at lw_m5 30 rfl) rfl
theorem q1094 : (Jvm.Cond.methodLinkNest "CoatHoles" (301 : Nat) ({ cls := "CoatHoles$Row", name := "<init>", desc := "()V" } : Jvm.MethodName) "CoatHoles") ∈ lw_tbl := lw_at lw_m5 32 rfl
theorem q1099 : (Jvm.Cond.fieldLinkNest "CoatHoles" (305 : Nat) "CoatHoles$Row" "told" "[I" "CoatHoles") ∈ lw_tbl := lw_at lw_m5 37 rfl
theorem q1103 : (Jvm.Cond.methodLink "CoatHoles" (312 : Nat) ({ cls := "CoatHoles$Item", name := "alive", desc := "()I" } : Jvm.MethodName)) ∈ lw_all := lw_g (lw_at lw_m5 41 rfl) rfl
theorem q1105 : (Jvm.Cond.instanceMethod ({ cls := "CoatHoles", name := "judge", desc := "()I" } : Jvm.MethodName)) ∈ lw_all := lw_g (lw_at lw_m5 43 rfl) rfl
theorem q1106 : (Jvm.Cond.selects "CoatHoles" ({ cls := "CoatHoles", name := "judge", desc := "()I" } : Jvm.MethodName) ({ cls := "CoatHoles", name := "judge", desc := "()I" } : Jvm.MethodName)) ∈ lw_all := lw_g (lw_at lw_m5 44 rfl) rfl
theorem q1107 : (Jvm.Cond.code ({ cls := "CoatHoles", name := "judge", desc := "()I" } : Jvm.MethodName) prog_1_method_50_code (3 : Nat) (Option.some Jvm.ClassFile.FieldType.int)) ∈ lw_all := lw_g (lw_at lw_m5 45 rfl) rfl
theorem q1109 : (Jvm.Cond.instanceMethod ({ cls := "CoatHoles", name := "soils", desc := "(IIII)I" } : Jvm.MethodName)) ∈ lw_all := lw_g (lw_at lw_m5 47 rfl) rfl
theorem q1110 : (Jvm.Cond.selects "CoatHoles" ({ cls := "CoatHoles", name := "soils", desc := "(IIII)I" } : Jvm.MethodName) ({ cls := "CoatHoles", name := "soils", desc := "(IIII)I" } : Jvm.MethodName)) ∈ lw_all := lw_g (lw_at lw_m5 48 rfl) rfl
theorem q1111 : (Jvm.Cond.codeWith ({ cls := "CoatHoles", name := "soils", desc := "(IIII)I" } : Jvm.MethodName) prog_1_method_53_code (6 : Nat) (Option.some Jvm.ClassFile.FieldType.int) [((38 : Nat), (64 : Nat), (65 : Nat), (92 : Nat)), ((38 : Nat), (64 : Nat), (70 : Nat), (339 : Nat)), ((38 : Nat), (64 : Nat), (75 : Nat), (85 : Nat))]) ∈ lw_all := lw_g (lw_at lw_m5 49 rfl) rfl
theorem q1112 : (Jvm.Cond.classLink "CoatHoles" (339 : Nat) "java/lang/ClassCastException") ∈ lw_all := lw_g (lw_at lw_m5 50 rfl) rfl
theorem q1139 : (Jvm.Cond.methodLink "CoatHoles" (320 : Nat) ({ cls := "CoatHoles", name := "isSheet", desc := "(I)Z" } : Jvm.MethodName)) ∈ lw_all := lw_g (lw_at lw_m5 77 rfl) rfl
theorem q1140 : (Jvm.Cond.static ({ cls := "CoatHoles", name := "isSheet", desc := "(I)Z" } : Jvm.MethodName)) ∈ lw_all := lw_g (lw_at lw_m5 78 rfl) rfl
theorem q1141 : (Jvm.Cond.code ({ cls := "CoatHoles", name := "isSheet", desc := "(I)Z" } : Jvm.MethodName) prog_1_method_54_code (1 : Nat) (Option.some Jvm.ClassFile.FieldType.boolean)) ∈ lw_all := lw_g (lw_at lw_m5 79 rfl) rfl
theorem q1142 : (Jvm.Cond.methodLink "CoatHoles" (323 : Nat) ({ cls := "CoatHoles$Sheet", name := "row", desc := "()Ljava/lang/Object;" } : Jvm.MethodName)) ∈ lw_all := lw_g (lw_at lw_m5 80 rfl) rfl
theorem q1146 : (Jvm.Cond.methodLink "CoatHoles" (327 : Nat) ({ cls := "CoatHoles", name := "there", desc := "(Ljava/lang/Object;)Ljava/lang/Object;" } : Jvm.MethodName)) ∈ lw_all := lw_g (lw_at lw_m5 84 rfl) rfl
theorem q1147 : (Jvm.Cond.privateMethod ({ cls := "CoatHoles", name := "there", desc := "(Ljava/lang/Object;)Ljava/lang/Object;" } : Jvm.MethodName)) ∈ lw_tbl := lw_at lw_m5 85 rfl
theorem q1148 : (Jvm.Cond.instanceMethod ({ cls := "CoatHoles", name := "there", desc := "(Ljava/lang/Object;)Ljava/lang/Object;" } : Jvm.MethodName)) ∈ lw_all := lw_g (lw_at lw_m5 86 rfl) rfl
theorem q1149 : (Jvm.Cond.code ({ cls := "CoatHoles", name := "there", desc := "(Ljava/lang/Object;)Ljava/lang/Object;" } : Jvm.MethodName) prog_1_method_57_code (2 : Nat) (Option.some (Jvm.ClassFile.FieldType.object "java/lang/Object"))) ∈ lw_all := lw_g (lw_at lw_m5 87 rfl) rfl
theorem q1150 : (Jvm.Cond.methodLink "CoatHoles" (331 : Nat) ({ cls := "CoatHoles", name := "ints", desc := "(Ljava/lang/Object;)[I" } : Jvm.MethodName)) ∈ lw_all := lw_g (lw_at lw_m5 88 rfl) rfl
theorem q1151 : (Jvm.Cond.static ({ cls := "CoatHoles", name := "ints", desc := "(Ljava/lang/Object;)[I" } : Jvm.MethodName)) ∈ lw_all := lw_g (lw_at lw_m5 89 rfl) rfl
theorem q1152 : (Jvm.Cond.code ({ cls := "CoatHoles", name := "ints", desc := "(Ljava/lang/Object;)[I" } : Jvm.MethodName) prog_1_method_51_code (1 : Nat) (Option.some (Jvm.ClassFile.FieldType.array Jvm.ClassFile.FieldType.int))) ∈ lw_all := lw_g (lw_at lw_m5 90 rfl) rfl
theorem q1153 : (Jvm.Cond.classLink "CoatHoles" (313 : Nat) "[I") ∈ lw_all := lw_g (lw_at lw_m5 91 rfl) rfl
theorem q1154 : (Jvm.Cond.methodLink "CoatHoles" (335 : Nat) ({ cls := "CoatHoles", name := "soilsOf", desc := "([IIII)V" } : Jvm.MethodName)) ∈ lw_all := lw_g (lw_at lw_m5 92 rfl) rfl
theorem q1155 : (Jvm.Cond.privateMethod ({ cls := "CoatHoles", name := "soilsOf", desc := "([IIII)V" } : Jvm.MethodName)) ∈ lw_tbl := lw_at lw_m5 93 rfl
theorem q1156 : (Jvm.Cond.instanceMethod ({ cls := "CoatHoles", name := "soilsOf", desc := "([IIII)V" } : Jvm.MethodName)) ∈ lw_all := lw_g (lw_at lw_m5 94 rfl) rfl
theorem q1157 : (Jvm.Cond.code ({ cls := "CoatHoles", name := "soilsOf", desc := "([IIII)V" } : Jvm.MethodName) prog_1_method_52_code (6 : Nat) (Option.none : Option Jvm.ClassFile.FieldType)) ∈ lw_all := lw_g (lw_at lw_m5 95 rfl) rfl
theorem q1158 : (Jvm.Cond.methodLink "CoatHoles" (314 : Nat) ({ cls := "CoatHoles", name := "within", desc := "(II)V" } : Jvm.MethodName)) ∈ lw_all := lw_g (lw_at lw_m5 96 rfl) rfl
theorem q1159 : (Jvm.Cond.privateMethod ({ cls := "CoatHoles", name := "within", desc := "(II)V" } : Jvm.MethodName)) ∈ lw_tbl := lw_at lw_m5 97 rfl
theorem q1160 : (Jvm.Cond.instanceMethod ({ cls := "CoatHoles", name := "within", desc := "(II)V" } : Jvm.MethodName)) ∈ lw_all := lw_g (lw_at lw_m5 98 rfl) rfl
theorem q1161 : (Jvm.Cond.code ({ cls := "CoatHoles", name := "within", desc := "(II)V" } : Jvm.MethodName) prog_1_method_56_code (3 : Nat) (Option.none : Option Jvm.ClassFile.FieldType)) ∈ lw_all := lw_g (lw_at lw_m5 99 rfl) rfl
theorem q1162 : (Jvm.Cond.methodLink "CoatHoles" (318 : Nat) ({ cls := "java/lang/Math", name := "max", desc := "(II)I" } : Jvm.MethodName)) ∈ lw_all := lw_g (lw_at lw_m5 100 rfl) rfl
theorem q1164 : (Jvm.Cond.instanceMethod ({ cls := "CoatHoles", name := "sheet", desc := "(III)I" } : Jvm.MethodName)) ∈ lw_all := lw_g (lw_at lw_m5 102 rfl) rfl
theorem q1165 : (Jvm.Cond.selects "CoatHoles" ({ cls := "CoatHoles", name := "sheet", desc := "(III)I" } : Jvm.MethodName) ({ cls := "CoatHoles", name := "sheet", desc := "(III)I" } : Jvm.MethodName)) ∈ lw_all := lw_g (lw_at lw_m5 103 rfl) rfl
theorem q1166 : (Jvm.Cond.codeWith ({ cls := "CoatHoles", name := "sheet", desc := "(III)I" } : Jvm.MethodName) prog_1_method_58_code (5 : Nat) (Option.some Jvm.ClassFile.FieldType.int) [((28 : Nat), (40 : Nat), (41 : Nat), (349 : Nat))]) ∈ lw_all := lw_g (lw_at lw_m5 104 rfl) rfl
theorem q1167 : (Jvm.Cond.classLink "CoatHoles" (349 : Nat) "java/lang/NegativeArraySizeException") ∈ lw_all := lw_g (lw_at lw_m5 105 rfl) rfl
theorem q1181 : (Jvm.Cond.methodLink "CoatHoles" (346 : Nat) ({ cls := "CoatHoles$Sheet", name := "becomes", desc := "(II)V" } : Jvm.MethodName)) ∈ lw_all := lw_g (lw_at lw_m5 119 rfl) rfl
theorem q1188 : (Jvm.Cond.instanceMethod ({ cls := "CoatHoles", name := "put", desc := "(III)I" } : Jvm.MethodName)) ∈ lw_all := lw_g (lw_at lw_m5 126 rfl) rfl
theorem q1189 : (Jvm.Cond.selects "CoatHoles" ({ cls := "CoatHoles", name := "put", desc := "(III)I" } : Jvm.MethodName) ({ cls := "CoatHoles", name := "put", desc := "(III)I" } : Jvm.MethodName)) ∈ lw_all := lw_g (lw_at lw_m5 127 rfl) rfl
theorem q1190 : (Jvm.Cond.codeWith ({ cls := "CoatHoles", name := "put", desc := "(III)I" } : Jvm.MethodName) prog_1_method_60_code (5 : Nat) (Option.some Jvm.ClassFile.FieldType.int) [((9 : Nat), (29 : Nat), (30 : Nat), (92 : Nat)), ((9 : Nat), (29 : Nat), (35 : Nat), (85 : Nat))]) ∈ lw_all := lw_g (lw_at lw_m5 128 rfl) rfl
theorem q1191 : (Jvm.Cond.methodLink "CoatHoles" (355 : Nat) ({ cls := "CoatHoles", name := "set", desc := "(Ljava/lang/Object;II)V" } : Jvm.MethodName)) ∈ lw_all := lw_g (lw_at lw_m5 129 rfl) rfl
theorem q1192 : (Jvm.Cond.privateMethod ({ cls := "CoatHoles", name := "set", desc := "(Ljava/lang/Object;II)V" } : Jvm.MethodName)) ∈ lw_tbl := lw_at lw_m5 130 rfl
theorem q1193 : (Jvm.Cond.instanceMethod ({ cls := "CoatHoles", name := "set", desc := "(Ljava/lang/Object;II)V" } : Jvm.MethodName)) ∈ lw_all := lw_g (lw_at lw_m5 131 rfl) rfl
theorem q1194 : (Jvm.Cond.code ({ cls := "CoatHoles", name := "set", desc := "(Ljava/lang/Object;II)V" } : Jvm.MethodName) prog_1_method_59_code (4 : Nat) (Option.none : Option Jvm.ClassFile.FieldType)) ∈ lw_all := lw_g (lw_at lw_m5 132 rfl) rfl
theorem q1195 : (Jvm.Cond.methodLink "CoatHoles" (351 : Nat) ({ cls := "CoatHoles", name := "lengthOf", desc := "(Ljava/lang/Object;)I" } : Jvm.MethodName)) ∈ lw_all := lw_g (lw_at lw_m5 133 rfl) rfl
theorem q1196 : (Jvm.Cond.static ({ cls := "CoatHoles", name := "lengthOf", desc := "(Ljava/lang/Object;)I" } : Jvm.MethodName)) ∈ lw_all := lw_g (lw_at lw_m5 134 rfl) rfl
theorem q1197 : (Jvm.Cond.code ({ cls := "CoatHoles", name := "lengthOf", desc := "(Ljava/lang/Object;)I" } : Jvm.MethodName) prog_1_method_55_code (1 : Nat) (Option.some Jvm.ClassFile.FieldType.int)) ∈ lw_all := lw_g (lw_at lw_m5 135 rfl) rfl
theorem q1198 : (Jvm.Cond.classLink "CoatHoles" (341 : Nat) "[B") ∈ lw_all := lw_g (lw_at lw_m5 136 rfl) rfl
theorem q1199 : (Jvm.Cond.classLink "CoatHoles" (342 : Nat) "[S") ∈ lw_all := lw_g (lw_at lw_m5 137 rfl) rfl
theorem q1200 : (Jvm.Cond.classLink "CoatHoles" (344 : Nat) "[J") ∈ lw_all := lw_g (lw_at lw_m5 138 rfl) rfl
theorem q1202 : (Jvm.Cond.instanceMethod ({ cls := "CoatHoles", name := "item", desc := "(III)I" } : Jvm.MethodName)) ∈ lw_all := lw_g (lw_at lw_m5 140 rfl) rfl
theorem q1203 : (Jvm.Cond.selects "CoatHoles" ({ cls := "CoatHoles", name := "item", desc := "(III)I" } : Jvm.MethodName) ({ cls := "CoatHoles", name := "item", desc := "(III)I" } : Jvm.MethodName)) ∈ lw_all := lw_g (lw_at lw_m5 141 rfl) rfl
theorem q1204 : (Jvm.Cond.codeWith ({ cls := "CoatHoles", name := "item", desc := "(III)I" } : Jvm.MethodName) prog_1_method_66_code (5 : Nat) (Option.some Jvm.ClassFile.FieldType.int) [((18 : Nat), (37 : Nat), (38 : Nat), (92 : Nat)), ((18 : Nat), (37 : Nat), (43 : Nat), (339 : Nat)), ((18 : Nat), (37 : Nat), (48 : Nat), (85 : Nat))]) ∈ lw_all := lw_g (lw_at lw_m5 142 rfl) rfl
theorem q1205 : (Jvm.Cond.methodLink "CoatHoles" (375 : Nat) ({ cls := "CoatHoles", name := "itemOf", desc := "(Ljava/lang/Object;II)I" } : Jvm.MethodName)) ∈ lw_all := lw_g (lw_at lw_m5 143 rfl) rfl
theorem q1206 : (Jvm.Cond.privateMethod ({ cls := "CoatHoles", name := "itemOf", desc := "(Ljava/lang/Object;II)I" } : Jvm.MethodName)) ∈ lw_tbl := lw_at lw_m5 144 rfl
theorem q1207 : (Jvm.Cond.instanceMethod ({ cls := "CoatHoles", name := "itemOf", desc := "(Ljava/lang/Object;II)I" } : Jvm.MethodName)) ∈ lw_all := lw_g (lw_at lw_m5 145 rfl) rfl
theorem q1208 : (Jvm.Cond.code ({ cls := "CoatHoles", name := "itemOf", desc := "(Ljava/lang/Object;II)I" } : Jvm.MethodName) prog_1_method_65_code (4 : Nat) (Option.some Jvm.ClassFile.FieldType.int)) ∈ lw_all := lw_g (lw_at lw_m5 146 rfl) rfl
theorem q1209 : (Jvm.Cond.methodLink "CoatHoles" (359 : Nat) ({ cls := "CoatHoles", name := "byteAt", desc := "([BI)I" } : Jvm.MethodName)) ∈ lw_all := lw_g (lw_at lw_m5 147 rfl) rfl
theorem q1210 : (Jvm.Cond.privateMethod ({ cls := "CoatHoles", name := "byteAt", desc := "([BI)I" } : Jvm.MethodName)) ∈ lw_tbl := lw_at lw_m5 148 rfl
theorem q1211 : (Jvm.Cond.instanceMethod ({ cls := "CoatHoles", name := "byteAt", desc := "([BI)I" } : Jvm.MethodName)) ∈ lw_all := lw_g (lw_at lw_m5 149 rfl) rfl
theorem q1212 : (Jvm.Cond.code ({ cls := "CoatHoles", name := "byteAt", desc := "([BI)I" } : Jvm.MethodName) prog_1_method_61_code (3 : Nat) (Option.some Jvm.ClassFile.FieldType.int)) ∈ lw_all := lw_g (lw_at lw_m5 150 rfl) rfl
theorem q1213 : (Jvm.Cond.methodLink "CoatHoles" (363 : Nat) ({ cls := "CoatHoles", name := "shortAt", desc := "([SI)I" } : Jvm.MethodName)) ∈ lw_all := lw_g (lw_at lw_m5 151 rfl) rfl
theorem q1214 : (Jvm.Cond.privateMethod ({ cls := "CoatHoles", name := "shortAt", desc := "([SI)I" } : Jvm.MethodName)) ∈ lw_tbl := lw_at lw_m5 152 rfl
theorem q1215 : (Jvm.Cond.instanceMethod ({ cls := "CoatHoles", name := "shortAt", desc := "([SI)I" } : Jvm.MethodName)) ∈ lw_all := lw_g (lw_at lw_m5 153 rfl) rfl
theorem q1216 : (Jvm.Cond.code ({ cls := "CoatHoles", name := "shortAt", desc := "([SI)I" } : Jvm.MethodName) prog_1_method_62_code (3 : Nat) (Option.some Jvm.ClassFile.FieldType.int)) ∈ lw_all := lw_g (lw_at lw_m5 154 rfl) rfl
theorem q1217 : (Jvm.Cond.methodLink "CoatHoles" (367 : Nat) ({ cls := "CoatHoles", name := "intAt", desc := "([II)I" } : Jvm.MethodName)) ∈ lw_all := lw_g (lw_at lw_m5 155 rfl) rfl
theorem q1218 : (Jvm.Cond.privateMethod ({ cls := "CoatHoles", name := "intAt", desc := "([II)I" } : Jvm.MethodName)) ∈ lw_tbl := lw_at lw_m5 156 rfl
theorem q1219 : (Jvm.Cond.instanceMethod ({ cls := "CoatHoles", name := "intAt", desc := "([II)I" } : Jvm.MethodName)) ∈ lw_all := lw_g (lw_at lw_m5 157 rfl) rfl
theorem q1220 : (Jvm.Cond.code ({ cls := "CoatHoles", name := "intAt", desc := "([II)I" } : Jvm.MethodName) prog_1_method_63_code (3 : Nat) (Option.some Jvm.ClassFile.FieldType.int)) ∈ lw_all := lw_g (lw_at lw_m5 158 rfl) rfl
theorem q1221 : (Jvm.Cond.methodLink "CoatHoles" (371 : Nat) ({ cls := "CoatHoles", name := "longAt", desc := "([JI)I" } : Jvm.MethodName)) ∈ lw_all := lw_g (lw_at lw_m5 159 rfl) rfl
theorem q1222 : (Jvm.Cond.privateMethod ({ cls := "CoatHoles", name := "longAt", desc := "([JI)I" } : Jvm.MethodName)) ∈ lw_tbl := lw_at lw_m5 160 rfl
theorem q1223 : (Jvm.Cond.instanceMethod ({ cls := "CoatHoles", name := "longAt", desc := "([JI)I" } : Jvm.MethodName)) ∈ lw_all := lw_g (lw_at lw_m5 161 rfl) rfl
theorem q1224 : (Jvm.Cond.code ({ cls := "CoatHoles", name := "longAt", desc := "([JI)I" } : Jvm.MethodName) prog_1_method_64_code (3 : Nat) (Option.some Jvm.ClassFile.FieldType.int)) ∈ lw_all := lw_g (lw_at lw_m5 162 rfl) rfl
theorem q1226 : (Jvm.Cond.instanceMethod ({ cls := "CoatHoles", name := "shelf", desc := "(III)I" } : Jvm.MethodName)) ∈ lw_all := lw_g (lw_at lw_m5 164 rfl) rfl
theorem q1227 : (Jvm.Cond.selects "CoatHoles" ({ cls := "CoatHoles", name := "shelf", desc := "(III)I" } : Jvm.MethodName) ({ cls := "CoatHoles", name := "shelf", desc := "(III)I" } : Jvm.MethodName)) ∈ lw_all := lw_g (lw_at lw_m5 165 rfl) rfl
theorem q1228 : (Jvm.Cond.code ({ cls := "CoatHoles", name := "shelf", desc := "(III)I" } : Jvm.MethodName) prog_1_method_70_code (4 : Nat) (Option.some Jvm.ClassFile.FieldType.int)) ∈ lw_all := lw_g (lw_at lw_m5 166 rfl) rfl
theorem q1229 : (Jvm.Cond.methodLink "CoatHoles" (395 : Nat) ({ cls := "CoatHoles", name := "isShelf", desc := "(I)Z" } : Jvm.MethodName)) ∈ lw_all := lw_g (lw_at lw_m5 167 rfl) rfl
theorem q1230 : (Jvm.Cond.static ({ cls := "CoatHoles", name := "isShelf", desc := "(I)Z" } : Jvm.MethodName)) ∈ lw_all := lw_g (lw_at lw_m5 168 rfl) rfl
theorem q1231 : (Jvm.Cond.code ({ cls := "CoatHoles", name := "isShelf", desc := "(I)Z" } : Jvm.MethodName) prog_1_method_68_code (1 : Nat) (Option.some Jvm.ClassFile.FieldType.boolean)) ∈ lw_all := lw_g (lw_at lw_m5 169 rfl) rfl
theorem q1233 : (Jvm.Cond.instanceMethod ({ cls := "CoatHoles", name := "taken", desc := "(II)I" } : Jvm.MethodName)) ∈ lw_all := lw_g (lw_at lw_m5 171 rfl) rfl
theorem q1234 : (Jvm.Cond.selects "CoatHoles" ({ cls := "CoatHoles", name := "taken", desc := "(II)I" } : Jvm.MethodName) ({ cls := "CoatHoles", name := "taken", desc := "(II)I" } : Jvm.MethodName)) ∈ lw_all := lw_g (lw_at lw_m5 172 rfl) rfl
theorem q1235 : (Jvm.Cond.codeWith ({ cls := "CoatHoles", name := "taken", desc := "(II)I" } : Jvm.MethodName) prog_1_method_73_code (4 : Nat) (Option.some Jvm.ClassFile.FieldType.int) [((29 : Nat), (47 : Nat), (48 : Nat), (92 : Nat)), ((29 : Nat), (47 : Nat), (52 : Nat), (339 : Nat))]) ∈ lw_all := lw_g (lw_at lw_m5 173 rfl) rfl
theorem q1236 : (Jvm.Cond.methodLink "CoatHoles" (422 : Nat) ({ cls := "CoatHoles", name := "heldOf", desc := "(LCoatHoles$Shelf;)Ljava/lang/Object;" } : Jvm.MethodName)) ∈ lw_all := lw_g (lw_at lw_m5 174 rfl) rfl
theorem q1237 : (Jvm.Cond.privateMethod ({ cls := "CoatHoles", name := "heldOf", desc := "(LCoatHoles$Shelf;)Ljava/lang/Object;" } : Jvm.MethodName)) ∈ lw_tbl := lw_at lw_m5 175 rfl
theorem q1238 : (Jvm.Cond.instanceMethod ({ cls := "CoatHoles", name := "heldOf", desc := "(LCoatHoles$Shelf;)Ljava/lang/Object;" } : Jvm.MethodName)) ∈ lw_all := lw_g (lw_at lw_m5 176 rfl) rfl
theorem q1239 : (Jvm.Cond.code ({ cls := "CoatHoles", name := "heldOf", desc := "(LCoatHoles$Shelf;)Ljava/lang/Object;" } : Jvm.MethodName) prog_1_method_69_code (2 : Nat) (Option.some (Jvm.ClassFile.FieldType.object "java/lang/Object"))) ∈ lw_all := lw_g (lw_at lw_m5 177 rfl) rfl
theorem q1240 : (Jvm.Cond.methodLink "CoatHoles" (388 : Nat) ({ cls := "CoatHoles$Nature", name := "thing", desc := "(II)LCoatHoles$Tells;" } : Jvm.MethodName)) ∈ lw_all := lw_g (lw_at lw_m5 178 rfl) rfl
theorem q1345 : (Jvm.Cond.methodLink "CoatHoles" (426 : Nat) ({ cls := "CoatHoles", name := "castTo", desc := "(Ljava/lang/Object;I)I" } : Jvm.MethodName)) ∈ lw_all := lw_g (lw_at lw_m6 43 rfl) rfl
theorem q1346 : (Jvm.Cond.static ({ cls := "CoatHoles", name := "castTo", desc := "(Ljava/lang/Object;I)I" } : Jvm.MethodName)) ∈ lw_all := lw_g (lw_at lw_m6 44 rfl) rfl
theorem q1347 : (Jvm.Cond.code ({ cls := "CoatHoles", name := "castTo", desc := "(Ljava/lang/Object;I)I" } : Jvm.MethodName) prog_1_method_72_code (2 : Nat) (Option.some Jvm.ClassFile.FieldType.int)) ∈ lw_all := lw_g (lw_at lw_m6 45 rfl) rfl
theorem q1348 : (Jvm.Cond.classLink "CoatHoles" (398 : Nat) "CoatHoles$AnyDoing") ∈ lw_all := lw_g (lw_at lw_m6 46 rfl) rfl
theorem q1349 : (Jvm.Cond.methodLink "CoatHoles" (400 : Nat) ({ cls := "CoatHoles$AnyDoing", name := "its", desc := "()I" } : Jvm.MethodName)) ∈ lw_all := lw_g (lw_at lw_m6 47 rfl) rfl
theorem q1358 : (Jvm.Cond.classLink "CoatHoles" (403 : Nat) "CoatHoles$ColdDoing") ∈ lw_all := lw_g (lw_at lw_m6 56 rfl) rfl
theorem q1359 : (Jvm.Cond.methodLink "CoatHoles" (405 : Nat) ({ cls := "CoatHoles$ColdDoing", name := "its", desc := "()I" } : Jvm.MethodName)) ∈ lw_all := lw_g (lw_at lw_m6 57 rfl) rfl
theorem q1364 : (Jvm.Cond.classLink "CoatHoles" (406 : Nat) "CoatHoles$ShakeDoing") ∈ lw_all := lw_g (lw_at lw_m6 62 rfl) rfl
theorem q1365 : (Jvm.Cond.methodLink "CoatHoles" (408 : Nat) ({ cls := "CoatHoles$ShakeDoing", name := "its", desc := "()I" } : Jvm.MethodName)) ∈ lw_all := lw_g (lw_at lw_m6 63 rfl) rfl
theorem q1370 : (Jvm.Cond.classLink "CoatHoles" (409 : Nat) "CoatHoles$WashDoing") ∈ lw_all := lw_g (lw_at lw_m6 68 rfl) rfl
theorem q1371 : (Jvm.Cond.methodLink "CoatHoles" (411 : Nat) ({ cls := "CoatHoles$WashDoing", name := "its", desc := "()I" } : Jvm.MethodName)) ∈ lw_all := lw_g (lw_at lw_m6 69 rfl) rfl
theorem q1374 : (Jvm.Cond.classLink "CoatHoles" (412 : Nat) "CoatHoles$HeatDoing") ∈ lw_all := lw_g (lw_at lw_m6 72 rfl) rfl
theorem q1375 : (Jvm.Cond.methodLink "CoatHoles" (414 : Nat) ({ cls := "CoatHoles$HeatDoing", name := "its", desc := "()I" } : Jvm.MethodName)) ∈ lw_all := lw_g (lw_at lw_m6 73 rfl) rfl
theorem q1378 : (Jvm.Cond.classLink "CoatHoles" (415 : Nat) "CoatHoles$BeatDoing") ∈ lw_all := lw_g (lw_at lw_m6 76 rfl) rfl
theorem q1379 : (Jvm.Cond.methodLink "CoatHoles" (417 : Nat) ({ cls := "CoatHoles$BeatDoing", name := "its", desc := "()I" } : Jvm.MethodName)) ∈ lw_all := lw_g (lw_at lw_m6 77 rfl) rfl
theorem q1382 : (Jvm.Cond.methodLink "CoatHoles" (418 : Nat) ({ cls := "CoatHoles", name := "rowAs", desc := "(Ljava/lang/Object;I)I" } : Jvm.MethodName)) ∈ lw_all := lw_g (lw_at lw_m6 80 rfl) rfl
theorem q1383 : (Jvm.Cond.static ({ cls := "CoatHoles", name := "rowAs", desc := "(Ljava/lang/Object;I)I" } : Jvm.MethodName)) ∈ lw_all := lw_g (lw_at lw_m6 81 rfl) rfl
theorem q1384 : (Jvm.Cond.code ({ cls := "CoatHoles", name := "rowAs", desc := "(Ljava/lang/Object;I)I" } : Jvm.MethodName) prog_1_method_71_code (2 : Nat) (Option.some Jvm.ClassFile.FieldType.int)) ∈ lw_all := lw_g (lw_at lw_m6 82 rfl) rfl
theorem q1386 : (Jvm.Cond.instanceMethod ({ cls := "CoatHoles", name := "act", desc := "(III)I" } : Jvm.MethodName)) ∈ lw_all := lw_g (lw_at lw_m6 84 rfl) rfl
theorem q1387 : (Jvm.Cond.selects "CoatHoles" ({ cls := "CoatHoles", name := "act", desc := "(III)I" } : Jvm.MethodName) ({ cls := "CoatHoles", name := "act", desc := "(III)I" } : Jvm.MethodName)) ∈ lw_all := lw_g (lw_at lw_m6 85 rfl) rfl
theorem q1388 : (Jvm.Cond.codeWith ({ cls := "CoatHoles", name := "act", desc := "(III)I" } : Jvm.MethodName) prog_1_method_75_code (6 : Nat) (Option.some Jvm.ClassFile.FieldType.int) [((45 : Nat), (55 : Nat), (56 : Nat), (447 : Nat))]) ∈ lw_all := lw_g (lw_at lw_m6 86 rfl) rfl
theorem q1389 : (Jvm.Cond.classLink "CoatHoles" (447 : Nat) "java/lang/ArithmeticException") ∈ lw_all := lw_g (lw_at lw_m6 87 rfl) rfl
theorem q1403 : (Jvm.Cond.classLink "CoatHoles" (430 : Nat) "CoatHoles$Tells") ∈ lw_all := lw_g (lw_at lw_m6 101 rfl) rfl
theorem q1404 : (Jvm.Cond.methodLink "CoatHoles" (443 : Nat) ({ cls := "CoatHoles", name := "acted", desc := "(LCoatHoles$Tells;II)I" } : Jvm.MethodName)) ∈ lw_all := lw_g (lw_at lw_m6 102 rfl) rfl
theorem q1405 : (Jvm.Cond.static ({ cls := "CoatHoles", name := "acted", desc := "(LCoatHoles$Tells;II)I" } : Jvm.MethodName)) ∈ lw_all := lw_g (lw_at lw_m6 103 rfl) rfl
theorem q1406 : (Jvm.Cond.code ({ cls := "CoatHoles", name := "acted", desc := "(LCoatHoles$Tells;II)I" } : Jvm.MethodName) prog_1_method_74_code (3 : Nat) (Option.some Jvm.ClassFile.FieldType.int)) ∈ lw_all := lw_g (lw_at lw_m6 104 rfl) rfl
theorem q1407 : (Jvm.Cond.interfaceEntry "CoatHoles" (429 : Nat)) ∈ lw_tbl := lw_at lw_m6 105 rfl
theorem q1417 : (Jvm.Cond.privateMethod ({ cls := "CoatHoles", name := "ran", desc := "(I)V" } : Jvm.MethodName)) ∈ lw_tbl := lw_at lw_m6 115 rfl
theorem q1418 : (Jvm.Cond.instanceMethod ({ cls := "CoatHoles", name := "ran", desc := "(I)V" } : Jvm.MethodName)) ∈ lw_all := lw_g (lw_at lw_m6 116 rfl) rfl
theorem q1419 : (Jvm.Cond.code ({ cls := "CoatHoles", name := "ran", desc := "(I)V" } : Jvm.MethodName) prog_1_method_67_code (2 : Nat) (Option.none : Option Jvm.ClassFile.FieldType)) ∈ lw_all := lw_g (lw_at lw_m6 117 rfl) rfl
theorem q1449 : (Jvm.Cond.interfaceEntry "CoatHoles" (434 : Nat)) ∈ lw_tbl := lw_at lw_m6 147 rfl
theorem q1486 : (Jvm.Cond.interfaceEntry "CoatHoles" (437 : Nat)) ∈ lw_tbl := lw_at lw_m6 184 rfl
theorem q1517 : (Jvm.Cond.interfaceEntry "CoatHoles" (440 : Nat)) ∈ lw_tbl := lw_at lw_m6 215 rfl
theorem q1518 : (Jvm.Cond.methodLink "CoatHoles" (440 : Nat) ({ cls := "CoatHoles$Tells", name := "tells", desc := "(I)I" } : Jvm.MethodName)) ∈ lw_all := lw_g (lw_at lw_m6 216 rfl) rfl
theorem q1548 : (Jvm.Cond.instanceMethod ({ cls := "CoatHoles", name := "trace", desc := "(I)I" } : Jvm.MethodName)) ∈ lw_all := lw_g (lw_at lw_m7 6 rfl) rfl
theorem q1549 : (Jvm.Cond.selects "CoatHoles" ({ cls := "CoatHoles", name := "trace", desc := "(I)I" } : Jvm.MethodName) ({ cls := "CoatHoles", name := "trace", desc := "(I)I" } : Jvm.MethodName)) ∈ lw_all := lw_g (lw_at lw_m7 7 rfl) rfl
theorem q1550 : (Jvm.Cond.code ({ cls := "CoatHoles", name := "trace", desc := "(I)I" } : Jvm.MethodName) prog_1_method_76_code (2 : Nat) (Option.some Jvm.ClassFile.FieldType.int)) ∈ lw_all := lw_g (lw_at lw_m7 8 rfl) rfl
theorem q1552 : (Jvm.Cond.instanceMethod ({ cls := "CoatHoles", name := "many", desc := "(I)I" } : Jvm.MethodName)) ∈ lw_all := lw_g (lw_at lw_m7 10 rfl) rfl
theorem q1553 : (Jvm.Cond.selects "CoatHoles" ({ cls := "CoatHoles", name := "many", desc := "(I)I" } : Jvm.MethodName) ({ cls := "CoatHoles", name := "many", desc := "(I)I" } : Jvm.MethodName)) ∈ lw_all := lw_g (lw_at lw_m7 11 rfl) rfl
theorem q1554 : (Jvm.Cond.code ({ cls := "CoatHoles", name := "many", desc := "(I)I" } : Jvm.MethodName) prog_1_method_78_code (2 : Nat) (Option.some Jvm.ClassFile.FieldType.int)) ∈ lw_all := lw_g (lw_at lw_m7 12 rfl) rfl
theorem q1555 : (Jvm.Cond.methodLink "CoatHoles" (449 : Nat) ({ cls := "CoatHoles", name := "caughtAll", desc := "()I" } : Jvm.MethodName)) ∈ lw_all := lw_g (lw_at lw_m7 13 rfl) rfl
theorem q1556 : (Jvm.Cond.privateMethod ({ cls := "CoatHoles", name := "caughtAll", desc := "()I" } : Jvm.MethodName)) ∈ lw_tbl := lw_at lw_m7 14 rfl
theorem q1557 : (Jvm.Cond.instanceMethod ({ cls := "CoatHoles", name := "caughtAll", desc := "()I" } : Jvm.MethodName)) ∈ lw_all := lw_g (lw_at lw_m7 15 rfl) rfl
theorem q1558 : (Jvm.Cond.code ({ cls := "CoatHoles", name := "caughtAll", desc := "()I" } : Jvm.MethodName) prog_1_method_77_code (3 : Nat) (Option.some Jvm.ClassFile.FieldType.int)) ∈ lw_all := lw_g (lw_at lw_m7 16 rfl) rfl
theorem q1560 : (Jvm.Cond.instanceMethod ({ cls := "CoatHoles", name := "keep", desc := "()I" } : Jvm.MethodName)) ∈ lw_all := lw_g (lw_at lw_m7 18 rfl) rfl
theorem q1561 : (Jvm.Cond.selects "CoatHoles" ({ cls := "CoatHoles", name := "keep", desc := "()I" } : Jvm.MethodName) ({ cls := "CoatHoles", name := "keep", desc := "()I" } : Jvm.MethodName)) ∈ lw_all := lw_g (lw_at lw_m7 19 rfl) rfl
theorem q1562 : (Jvm.Cond.code ({ cls := "CoatHoles", name := "keep", desc := "()I" } : Jvm.MethodName) prog_1_method_79_code (1 : Nat) (Option.some Jvm.ClassFile.FieldType.int)) ∈ lw_all := lw_g (lw_at lw_m7 20 rfl) rfl
theorem q1564 : (Jvm.Cond.instanceMethod ({ cls := "CoatHoles", name := "again", desc := "()I" } : Jvm.MethodName)) ∈ lw_all := lw_g (lw_at lw_m7 22 rfl) rfl
theorem q1565 : (Jvm.Cond.selects "CoatHoles" ({ cls := "CoatHoles", name := "again", desc := "()I" } : Jvm.MethodName) ({ cls := "CoatHoles", name := "again", desc := "()I" } : Jvm.MethodName)) ∈ lw_all := lw_g (lw_at lw_m7 23 rfl) rfl
theorem q1566 : (Jvm.Cond.code ({ cls := "CoatHoles", name := "again", desc := "()I" } : Jvm.MethodName) prog_1_method_80_code (1 : Nat) (Option.some Jvm.ClassFile.FieldType.int)) ∈ lw_all := lw_g (lw_at lw_m7 24 rfl) rfl
theorem in_X0 : ∀ w ∈ wsX00, w ∈ lw_all := lw_in wsX00 [591, 593, 595, 597, 599, 601, 603, 605, 607, 609, 611, 613, 615, 617, 619, 621, 623, 625] (by decide +kernel) (by decide +kernel)
