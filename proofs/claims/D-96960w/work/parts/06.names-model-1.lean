/-! CoatHolesModel -/
set_option maxRecDepth 100000
def RX21 : String := "CoatHolesModel"
def TX21 : u_T := fun k => match k with
  | 0 => ("CoatHolesModel", "row", "[I", true)
  | 1 => ("CoatHolesModel", "at", "I", false)
  | 2 => ("CoatHolesModel", "laws", "[I", true)
  | 3 => ("CoatHolesModel", "mostOf", "[I", true)
  | 4 => ("CoatHolesModel", "warm", "[I", true)
  | 5 => ("CoatHolesModel", "doings", "I", false)
  | 6 => ("CoatHolesModel", "doing", "[I", true)
  | 7 => ("CoatHolesModel", "weights", "[I", true)
  | 8 => ("CoatHolesModel", "looks", "I", false)
  | 9 => ("CoatHolesModel", "look", "[I", true)
  | 10 => ("CoatHolesModel", "z", "I", false)
  | 11 => ("CoatHolesModel", "tape", "[I", true)
  | 12 => ("CoatHolesModel", "tapeMany", "I", false)
  | 13 => ("CoatHolesModel", "sort", "I", false)
  | 14 => ("CoatHolesModel", "begins", "I", false)
  | 15 => ("CoatHolesModel", "tokenEnds", "I", false)
  | 16 => ("CoatHolesModel", "word", "J", false)
  | 17 => ("CoatHolesModel", "value", "I", false)
  | 18 => ("CoatHolesModel", "good", "Z", false)
  | 19 => ("CoatHolesModel", "freshLay", "I", false)
  | 20 => ("CoatHolesModel", "bestChoice", "I", false)
  | 21 => ("CoatHolesModel", "rows", "[I", true)
  | 22 => ("CoatHolesModel", "rowMany", "I", false)
  | 23 => ("CoatHolesModel", "sorts", "[I", true)
  | 24 => ("CoatHolesModel", "sizes", "[I", true)
  | 25 => ("CoatHolesModel", "sheets", "[J", true)
  | 26 => ("CoatHolesModel", "held", "[I", true)
  | 27 => ("CoatHolesModel", "heldNumber", "[I", true)
  | 28 => ("CoatHolesModel", "heldSize", "[I", true)
  | 29 => ("CoatHolesModel", "kind", "I", false)
  | 30 => ("CoatHolesModel", "number", "I", false)
  | 31 => ("CoatHolesModel", "own", "I", false)
  | 32 => ("CoatHolesModel", "traced", "[I", true)
  | 33 => ("CoatHolesModel", "bodies", "I", false)
  | 34 => ("CoatHolesModel", "isParted", "Z", false)
  | 35 => ("CoatHolesModel", "isKept", "Z", false)
  | 36 => ("CoatHolesModel", "keptRow", "[I", true)
  | 37 => ("CoatHolesModel", "movedTo", "I", false)
  | _ => ("CoatHolesModel", "single", "[I", true)
def tyX21 : Nat → FieldType := fun k => match k with
  | 0 => .array .int
  | 1 => .int
  | 2 => .array .int
  | 3 => .array .int
  | 4 => .array .int
  | 5 => .int
  | 6 => .array .int
  | 7 => .array .int
  | 8 => .int
  | 9 => .array .int
  | 10 => .int
  | 11 => .array .int
  | 12 => .int
  | 13 => .int
  | 14 => .int
  | 15 => .int
  | 16 => .long
  | 17 => .int
  | 18 => .boolean
  | 19 => .int
  | 20 => .int
  | 21 => .array .int
  | 22 => .int
  | 23 => .array .int
  | 24 => .array .int
  | 25 => .array .long
  | 26 => .array .int
  | 27 => .array .int
  | 28 => .array .int
  | 29 => .int
  | 30 => .int
  | 31 => .int
  | 32 => .array .int
  | 33 => .int
  | 34 => .boolean
  | 35 => .boolean
  | 36 => .array .int
  | 37 => .int
  | _ => .array .int
abbrev wsX210 : List Cond := u_ws RX21 TX21 39
set_option maxRecDepth 100000 in
theorem nmX21 : ∀ a, a < 39 → ∀ b, b < 39 → a ≠ b → (TX21 a).2.1 ≠ (TX21 b).2.1 := by decide +kernel
set_option maxRecDepth 100000 in
theorem tyX21_ok : ∀ k, k < 39 → parseFieldDescriptor (TX21 k).2.2.1 = some (tyX21 k) := by decide +kernel
abbrev cX21_init : ByteArray := prog_33_method_1_code
def yX21_init : MethodName := ⟨RX21, "<init>", "()V"⟩
def dkwX21_init_12 : List UInt8 := [181, 0, 66, 177]
abbrev dktX21_init_12 : List UInt8 := dkwX21_init_12 ++ []
def dkwX21_init_11 : List UInt8 := [181, 0, 57, 42, 16, 30, 188, 10, 181, 0, 60, 42, 17, 0, 160, 188, 10, 181, 0, 63, 42, 6, 188, 10]
abbrev dktX21_init_11 : List UInt8 := dkwX21_init_11 ++ dktX21_init_12
def dkwX21_init_10 : List UInt8 := [2, 79, 89, 5, 2, 79, 89, 6, 2, 79, 181, 0, 51, 42, 7, 188, 10, 181, 0, 54, 42, 7, 188, 10]
abbrev dktX21_init_10 : List UInt8 := dkwX21_init_10 ++ dktX21_init_11
def dkwX21_init_9 : List UInt8 := [188, 10, 181, 0, 44, 42, 17, 0, 160, 188, 11, 181, 0, 47, 42, 7, 188, 10, 89, 3, 2, 79, 89, 4]
abbrev dktX21_init_9 : List UInt8 := dkwX21_init_9 ++ dktX21_init_10
def dkwX21_init_8 : List UInt8 := [188, 10, 89, 3, 2, 79, 89, 4, 2, 79, 89, 5, 2, 79, 89, 6, 2, 79, 181, 0, 41, 42, 7]
abbrev dktX21_init_8 : List UInt8 := dkwX21_init_8 ++ dktX21_init_9
def dkwX21_init_7 : List UInt8 := [4, 181, 0, 31, 42, 17, 0, 200, 188, 10, 181, 0, 35, 42, 16, 24, 188, 10, 181, 0, 38, 42, 7]
abbrev dktX21_init_7 : List UInt8 := dkwX21_init_7 ++ dktX21_init_8
def dkwX21_init_6 : List UInt8 := [89, 4, 4, 79, 89, 5, 4, 79, 89, 6, 4, 79, 181, 0, 25, 42, 16, 16, 188, 10, 181, 0, 28, 42]
abbrev dktX21_init_6 : List UInt8 := dkwX21_init_6 ++ dktX21_init_7
def dkwX21_init_5 : List UInt8 := [89, 16, 11, 5, 79, 181, 0, 19, 42, 16, 12, 188, 10, 181, 0, 22, 42, 7, 188, 10, 89, 3, 4, 79]
abbrev dktX21_init_5 : List UInt8 := dkwX21_init_5 ++ dktX21_init_6
def dkwX21_init_4 : List UInt8 := [16, 6, 5, 79, 89, 16, 7, 5, 79, 89, 16, 8, 5, 79, 89, 16, 9, 5, 79, 89, 16, 10, 5, 79]
abbrev dktX21_init_4 : List UInt8 := dkwX21_init_4 ++ dktX21_init_5
def dkwX21_init_3 : List UInt8 := [5, 79, 89, 4, 5, 79, 89, 5, 5, 79, 89, 6, 5, 79, 89, 7, 5, 79, 89, 8, 5, 79, 89]
abbrev dktX21_init_3 : List UInt8 := dkwX21_init_3 ++ dktX21_init_4
def dkwX21_init_2 : List UInt8 := [4, 16, 12, 79, 89, 5, 16, 12, 79, 89, 6, 16, 8, 79, 181, 0, 16, 42, 16, 12, 188, 10, 89, 3]
abbrev dktX21_init_2 : List UInt8 := dkwX21_init_2 ++ dktX21_init_3
def dkwX21_init_1 : List UInt8 := [16, 8, 79, 89, 5, 4, 79, 89, 6, 7, 79, 181, 0, 13, 42, 7, 188, 10, 89, 3, 16, 9, 79, 89]
abbrev dktX21_init_1 : List UInt8 := dkwX21_init_1 ++ dktX21_init_2
def dkwX21_init_0 : List UInt8 := [42, 183, 0, 1, 42, 17, 1, 26, 188, 10, 181, 0, 7, 42, 7, 188, 10, 89, 3, 7, 79, 89, 4]
abbrev dktX21_init_0 : List UInt8 := dkwX21_init_0 ++ dktX21_init_1
theorem dksX21_init_0 : cX21_init.data.toList.drop 0 = dktX21_init_0 := by decide +kernel
theorem dksX21_init_1 : cX21_init.data.toList.drop 23 = dktX21_init_1 := dk_seg dksX21_init_0 23 rfl rfl
theorem dksX21_init_2 : cX21_init.data.toList.drop 47 = dktX21_init_2 := dk_seg dksX21_init_1 24 rfl rfl
theorem dksX21_init_3 : cX21_init.data.toList.drop 71 = dktX21_init_3 := dk_seg dksX21_init_2 24 rfl rfl
theorem dksX21_init_4 : cX21_init.data.toList.drop 94 = dktX21_init_4 := dk_seg dksX21_init_3 23 rfl rfl
theorem dksX21_init_5 : cX21_init.data.toList.drop 118 = dktX21_init_5 := dk_seg dksX21_init_4 24 rfl rfl
theorem dksX21_init_6 : cX21_init.data.toList.drop 142 = dktX21_init_6 := dk_seg dksX21_init_5 24 rfl rfl
theorem dksX21_init_7 : cX21_init.data.toList.drop 166 = dktX21_init_7 := dk_seg dksX21_init_6 24 rfl rfl
theorem dksX21_init_8 : cX21_init.data.toList.drop 189 = dktX21_init_8 := dk_seg dksX21_init_7 23 rfl rfl
theorem dksX21_init_9 : cX21_init.data.toList.drop 212 = dktX21_init_9 := dk_seg dksX21_init_8 23 rfl rfl
theorem dksX21_init_10 : cX21_init.data.toList.drop 236 = dktX21_init_10 := dk_seg dksX21_init_9 24 rfl rfl
theorem dksX21_init_11 : cX21_init.data.toList.drop 260 = dktX21_init_11 := dk_seg dksX21_init_10 24 rfl rfl
theorem dksX21_init_12 : cX21_init.data.toList.drop 284 = dktX21_init_12 := dk_seg dksX21_init_11 24 rfl rfl
theorem dX21_init_0 : decode cX21_init 0 = .ok (.aload_n 0, 1) := dk_42 (dk_at dksX21_init_0 0 rfl rfl)
theorem dX21_init_1 : decode cX21_init 1 = .ok (.invokespecial 1, 3) := dk_183 0 1 (dk_at dksX21_init_0 1 rfl rfl)
theorem dX21_init_4 : decode cX21_init 4 = .ok (.aload_n 0, 1) := dk_42 (dk_at dksX21_init_0 4 rfl rfl)
theorem dX21_init_5 : decode cX21_init 5 = .ok (.sipush 282, 3) := dk_17 1 26 (dk_at dksX21_init_0 5 rfl rfl)
theorem dX21_init_8 : decode cX21_init 8 = .ok (.newarray .int, 2) := dk_188_10 (dk_at dksX21_init_0 8 rfl rfl)
theorem dX21_init_10 : decode cX21_init 10 = .ok (.putfield 7, 3) := dk_181 0 7 (dk_at dksX21_init_0 10 rfl rfl)
theorem dX21_init_13 : decode cX21_init 13 = .ok (.aload_n 0, 1) := dk_42 (dk_at dksX21_init_0 13 rfl rfl)
theorem dX21_init_14 : decode cX21_init 14 = .ok (.iconst 4, 1) := dk_7 (dk_at dksX21_init_0 14 rfl rfl)
theorem dX21_init_15 : decode cX21_init 15 = .ok (.newarray .int, 2) := dk_188_10 (dk_at dksX21_init_0 15 rfl rfl)
theorem dX21_init_17 : decode cX21_init 17 = .ok (.dup, 1) := dk_89 (dk_at dksX21_init_0 17 rfl rfl)
theorem dX21_init_18 : decode cX21_init 18 = .ok (.iconst 0, 1) := dk_3 (dk_at dksX21_init_0 18 rfl rfl)
theorem dX21_init_19 : decode cX21_init 19 = .ok (.iconst 4, 1) := dk_7 (dk_at dksX21_init_0 19 rfl rfl)
theorem dX21_init_20 : decode cX21_init 20 = .ok (.iastore, 1) := dk_79 (dk_at dksX21_init_0 20 rfl rfl)
theorem dX21_init_21 : decode cX21_init 21 = .ok (.dup, 1) := dk_89 (dk_at dksX21_init_0 21 rfl rfl)
theorem dX21_init_22 : decode cX21_init 22 = .ok (.iconst 1, 1) := dk_4 (dk_at dksX21_init_0 22 rfl rfl)
theorem dX21_init_23 : decode cX21_init 23 = .ok (.bipush 8, 2) := dk_16 8 (dk_at dksX21_init_1 0 rfl rfl)
theorem dX21_init_25 : decode cX21_init 25 = .ok (.iastore, 1) := dk_79 (dk_at dksX21_init_1 2 rfl rfl)
theorem dX21_init_26 : decode cX21_init 26 = .ok (.dup, 1) := dk_89 (dk_at dksX21_init_1 3 rfl rfl)
theorem dX21_init_27 : decode cX21_init 27 = .ok (.iconst 2, 1) := dk_5 (dk_at dksX21_init_1 4 rfl rfl)
theorem dX21_init_28 : decode cX21_init 28 = .ok (.iconst 1, 1) := dk_4 (dk_at dksX21_init_1 5 rfl rfl)
theorem dX21_init_29 : decode cX21_init 29 = .ok (.iastore, 1) := dk_79 (dk_at dksX21_init_1 6 rfl rfl)
theorem dX21_init_30 : decode cX21_init 30 = .ok (.dup, 1) := dk_89 (dk_at dksX21_init_1 7 rfl rfl)
theorem dX21_init_31 : decode cX21_init 31 = .ok (.iconst 3, 1) := dk_6 (dk_at dksX21_init_1 8 rfl rfl)
theorem dX21_init_32 : decode cX21_init 32 = .ok (.iconst 4, 1) := dk_7 (dk_at dksX21_init_1 9 rfl rfl)
theorem dX21_init_33 : decode cX21_init 33 = .ok (.iastore, 1) := dk_79 (dk_at dksX21_init_1 10 rfl rfl)
theorem dX21_init_34 : decode cX21_init 34 = .ok (.putfield 13, 3) := dk_181 0 13 (dk_at dksX21_init_1 11 rfl rfl)
theorem dX21_init_37 : decode cX21_init 37 = .ok (.aload_n 0, 1) := dk_42 (dk_at dksX21_init_1 14 rfl rfl)
theorem dX21_init_38 : decode cX21_init 38 = .ok (.iconst 4, 1) := dk_7 (dk_at dksX21_init_1 15 rfl rfl)
theorem dX21_init_39 : decode cX21_init 39 = .ok (.newarray .int, 2) := dk_188_10 (dk_at dksX21_init_1 16 rfl rfl)
theorem dX21_init_41 : decode cX21_init 41 = .ok (.dup, 1) := dk_89 (dk_at dksX21_init_1 18 rfl rfl)
theorem dX21_init_42 : decode cX21_init 42 = .ok (.iconst 0, 1) := dk_3 (dk_at dksX21_init_1 19 rfl rfl)
theorem dX21_init_43 : decode cX21_init 43 = .ok (.bipush 9, 2) := dk_16 9 (dk_at dksX21_init_1 20 rfl rfl)
theorem dX21_init_45 : decode cX21_init 45 = .ok (.iastore, 1) := dk_79 (dk_at dksX21_init_1 22 rfl rfl)
theorem dX21_init_46 : decode cX21_init 46 = .ok (.dup, 1) := dk_89 (dk_at dksX21_init_1 23 rfl rfl)
theorem dX21_init_47 : decode cX21_init 47 = .ok (.iconst 1, 1) := dk_4 (dk_at dksX21_init_2 0 rfl rfl)
theorem dX21_init_48 : decode cX21_init 48 = .ok (.bipush 12, 2) := dk_16 12 (dk_at dksX21_init_2 1 rfl rfl)
theorem dX21_init_50 : decode cX21_init 50 = .ok (.iastore, 1) := dk_79 (dk_at dksX21_init_2 3 rfl rfl)
theorem dX21_init_51 : decode cX21_init 51 = .ok (.dup, 1) := dk_89 (dk_at dksX21_init_2 4 rfl rfl)
theorem dX21_init_52 : decode cX21_init 52 = .ok (.iconst 2, 1) := dk_5 (dk_at dksX21_init_2 5 rfl rfl)
theorem dX21_init_53 : decode cX21_init 53 = .ok (.bipush 12, 2) := dk_16 12 (dk_at dksX21_init_2 6 rfl rfl)
theorem dX21_init_55 : decode cX21_init 55 = .ok (.iastore, 1) := dk_79 (dk_at dksX21_init_2 8 rfl rfl)
theorem dX21_init_56 : decode cX21_init 56 = .ok (.dup, 1) := dk_89 (dk_at dksX21_init_2 9 rfl rfl)
theorem dX21_init_57 : decode cX21_init 57 = .ok (.iconst 3, 1) := dk_6 (dk_at dksX21_init_2 10 rfl rfl)
theorem dX21_init_58 : decode cX21_init 58 = .ok (.bipush 8, 2) := dk_16 8 (dk_at dksX21_init_2 11 rfl rfl)
theorem dX21_init_60 : decode cX21_init 60 = .ok (.iastore, 1) := dk_79 (dk_at dksX21_init_2 13 rfl rfl)
theorem dX21_init_61 : decode cX21_init 61 = .ok (.putfield 16, 3) := dk_181 0 16 (dk_at dksX21_init_2 14 rfl rfl)
theorem dX21_init_64 : decode cX21_init 64 = .ok (.aload_n 0, 1) := dk_42 (dk_at dksX21_init_2 17 rfl rfl)
theorem dX21_init_65 : decode cX21_init 65 = .ok (.bipush 12, 2) := dk_16 12 (dk_at dksX21_init_2 18 rfl rfl)
theorem dX21_init_67 : decode cX21_init 67 = .ok (.newarray .int, 2) := dk_188_10 (dk_at dksX21_init_2 20 rfl rfl)
theorem dX21_init_69 : decode cX21_init 69 = .ok (.dup, 1) := dk_89 (dk_at dksX21_init_2 22 rfl rfl)
theorem dX21_init_70 : decode cX21_init 70 = .ok (.iconst 0, 1) := dk_3 (dk_at dksX21_init_2 23 rfl rfl)
theorem dX21_init_71 : decode cX21_init 71 = .ok (.iconst 2, 1) := dk_5 (dk_at dksX21_init_3 0 rfl rfl)
theorem dX21_init_72 : decode cX21_init 72 = .ok (.iastore, 1) := dk_79 (dk_at dksX21_init_3 1 rfl rfl)
theorem dX21_init_73 : decode cX21_init 73 = .ok (.dup, 1) := dk_89 (dk_at dksX21_init_3 2 rfl rfl)
theorem dX21_init_74 : decode cX21_init 74 = .ok (.iconst 1, 1) := dk_4 (dk_at dksX21_init_3 3 rfl rfl)
theorem dX21_init_75 : decode cX21_init 75 = .ok (.iconst 2, 1) := dk_5 (dk_at dksX21_init_3 4 rfl rfl)
theorem dX21_init_76 : decode cX21_init 76 = .ok (.iastore, 1) := dk_79 (dk_at dksX21_init_3 5 rfl rfl)
theorem dX21_init_77 : decode cX21_init 77 = .ok (.dup, 1) := dk_89 (dk_at dksX21_init_3 6 rfl rfl)
theorem dX21_init_78 : decode cX21_init 78 = .ok (.iconst 2, 1) := dk_5 (dk_at dksX21_init_3 7 rfl rfl)
theorem dX21_init_79 : decode cX21_init 79 = .ok (.iconst 2, 1) := dk_5 (dk_at dksX21_init_3 8 rfl rfl)
theorem dX21_init_80 : decode cX21_init 80 = .ok (.iastore, 1) := dk_79 (dk_at dksX21_init_3 9 rfl rfl)
theorem dX21_init_81 : decode cX21_init 81 = .ok (.dup, 1) := dk_89 (dk_at dksX21_init_3 10 rfl rfl)
theorem dX21_init_82 : decode cX21_init 82 = .ok (.iconst 3, 1) := dk_6 (dk_at dksX21_init_3 11 rfl rfl)
theorem dX21_init_83 : decode cX21_init 83 = .ok (.iconst 2, 1) := dk_5 (dk_at dksX21_init_3 12 rfl rfl)
theorem dX21_init_84 : decode cX21_init 84 = .ok (.iastore, 1) := dk_79 (dk_at dksX21_init_3 13 rfl rfl)
theorem dX21_init_85 : decode cX21_init 85 = .ok (.dup, 1) := dk_89 (dk_at dksX21_init_3 14 rfl rfl)
theorem dX21_init_86 : decode cX21_init 86 = .ok (.iconst 4, 1) := dk_7 (dk_at dksX21_init_3 15 rfl rfl)
theorem dX21_init_87 : decode cX21_init 87 = .ok (.iconst 2, 1) := dk_5 (dk_at dksX21_init_3 16 rfl rfl)
theorem dX21_init_88 : decode cX21_init 88 = .ok (.iastore, 1) := dk_79 (dk_at dksX21_init_3 17 rfl rfl)
theorem dX21_init_89 : decode cX21_init 89 = .ok (.dup, 1) := dk_89 (dk_at dksX21_init_3 18 rfl rfl)
theorem dX21_init_90 : decode cX21_init 90 = .ok (.iconst 5, 1) := dk_8 (dk_at dksX21_init_3 19 rfl rfl)
theorem dX21_init_91 : decode cX21_init 91 = .ok (.iconst 2, 1) := dk_5 (dk_at dksX21_init_3 20 rfl rfl)
theorem dX21_init_92 : decode cX21_init 92 = .ok (.iastore, 1) := dk_79 (dk_at dksX21_init_3 21 rfl rfl)
theorem dX21_init_93 : decode cX21_init 93 = .ok (.dup, 1) := dk_89 (dk_at dksX21_init_3 22 rfl rfl)
theorem dX21_init_94 : decode cX21_init 94 = .ok (.bipush 6, 2) := dk_16 6 (dk_at dksX21_init_4 0 rfl rfl)
theorem dX21_init_96 : decode cX21_init 96 = .ok (.iconst 2, 1) := dk_5 (dk_at dksX21_init_4 2 rfl rfl)
theorem dX21_init_97 : decode cX21_init 97 = .ok (.iastore, 1) := dk_79 (dk_at dksX21_init_4 3 rfl rfl)
theorem dX21_init_98 : decode cX21_init 98 = .ok (.dup, 1) := dk_89 (dk_at dksX21_init_4 4 rfl rfl)
theorem dX21_init_99 : decode cX21_init 99 = .ok (.bipush 7, 2) := dk_16 7 (dk_at dksX21_init_4 5 rfl rfl)
theorem dX21_init_101 : decode cX21_init 101 = .ok (.iconst 2, 1) := dk_5 (dk_at dksX21_init_4 7 rfl rfl)
theorem dX21_init_102 : decode cX21_init 102 = .ok (.iastore, 1) := dk_79 (dk_at dksX21_init_4 8 rfl rfl)
theorem dX21_init_103 : decode cX21_init 103 = .ok (.dup, 1) := dk_89 (dk_at dksX21_init_4 9 rfl rfl)
theorem dX21_init_104 : decode cX21_init 104 = .ok (.bipush 8, 2) := dk_16 8 (dk_at dksX21_init_4 10 rfl rfl)
theorem dX21_init_106 : decode cX21_init 106 = .ok (.iconst 2, 1) := dk_5 (dk_at dksX21_init_4 12 rfl rfl)
theorem dX21_init_107 : decode cX21_init 107 = .ok (.iastore, 1) := dk_79 (dk_at dksX21_init_4 13 rfl rfl)
theorem dX21_init_108 : decode cX21_init 108 = .ok (.dup, 1) := dk_89 (dk_at dksX21_init_4 14 rfl rfl)
theorem dX21_init_109 : decode cX21_init 109 = .ok (.bipush 9, 2) := dk_16 9 (dk_at dksX21_init_4 15 rfl rfl)
theorem dX21_init_111 : decode cX21_init 111 = .ok (.iconst 2, 1) := dk_5 (dk_at dksX21_init_4 17 rfl rfl)
theorem dX21_init_112 : decode cX21_init 112 = .ok (.iastore, 1) := dk_79 (dk_at dksX21_init_4 18 rfl rfl)
theorem dX21_init_113 : decode cX21_init 113 = .ok (.dup, 1) := dk_89 (dk_at dksX21_init_4 19 rfl rfl)
theorem dX21_init_114 : decode cX21_init 114 = .ok (.bipush 10, 2) := dk_16 10 (dk_at dksX21_init_4 20 rfl rfl)
theorem dX21_init_116 : decode cX21_init 116 = .ok (.iconst 2, 1) := dk_5 (dk_at dksX21_init_4 22 rfl rfl)
theorem dX21_init_117 : decode cX21_init 117 = .ok (.iastore, 1) := dk_79 (dk_at dksX21_init_4 23 rfl rfl)
theorem dX21_init_118 : decode cX21_init 118 = .ok (.dup, 1) := dk_89 (dk_at dksX21_init_5 0 rfl rfl)
theorem dX21_init_119 : decode cX21_init 119 = .ok (.bipush 11, 2) := dk_16 11 (dk_at dksX21_init_5 1 rfl rfl)
theorem dX21_init_121 : decode cX21_init 121 = .ok (.iconst 2, 1) := dk_5 (dk_at dksX21_init_5 3 rfl rfl)
theorem dX21_init_122 : decode cX21_init 122 = .ok (.iastore, 1) := dk_79 (dk_at dksX21_init_5 4 rfl rfl)
theorem dX21_init_123 : decode cX21_init 123 = .ok (.putfield 19, 3) := dk_181 0 19 (dk_at dksX21_init_5 5 rfl rfl)
theorem dX21_init_126 : decode cX21_init 126 = .ok (.aload_n 0, 1) := dk_42 (dk_at dksX21_init_5 8 rfl rfl)
theorem dX21_init_127 : decode cX21_init 127 = .ok (.bipush 12, 2) := dk_16 12 (dk_at dksX21_init_5 9 rfl rfl)
theorem dX21_init_129 : decode cX21_init 129 = .ok (.newarray .int, 2) := dk_188_10 (dk_at dksX21_init_5 11 rfl rfl)
theorem dX21_init_131 : decode cX21_init 131 = .ok (.putfield 22, 3) := dk_181 0 22 (dk_at dksX21_init_5 13 rfl rfl)
theorem dX21_init_134 : decode cX21_init 134 = .ok (.aload_n 0, 1) := dk_42 (dk_at dksX21_init_5 16 rfl rfl)
theorem dX21_init_135 : decode cX21_init 135 = .ok (.iconst 4, 1) := dk_7 (dk_at dksX21_init_5 17 rfl rfl)
theorem dX21_init_136 : decode cX21_init 136 = .ok (.newarray .int, 2) := dk_188_10 (dk_at dksX21_init_5 18 rfl rfl)
theorem dX21_init_138 : decode cX21_init 138 = .ok (.dup, 1) := dk_89 (dk_at dksX21_init_5 20 rfl rfl)
theorem dX21_init_139 : decode cX21_init 139 = .ok (.iconst 0, 1) := dk_3 (dk_at dksX21_init_5 21 rfl rfl)
theorem dX21_init_140 : decode cX21_init 140 = .ok (.iconst 1, 1) := dk_4 (dk_at dksX21_init_5 22 rfl rfl)
theorem dX21_init_141 : decode cX21_init 141 = .ok (.iastore, 1) := dk_79 (dk_at dksX21_init_5 23 rfl rfl)
theorem dX21_init_142 : decode cX21_init 142 = .ok (.dup, 1) := dk_89 (dk_at dksX21_init_6 0 rfl rfl)
theorem dX21_init_143 : decode cX21_init 143 = .ok (.iconst 1, 1) := dk_4 (dk_at dksX21_init_6 1 rfl rfl)
theorem dX21_init_144 : decode cX21_init 144 = .ok (.iconst 1, 1) := dk_4 (dk_at dksX21_init_6 2 rfl rfl)
theorem dX21_init_145 : decode cX21_init 145 = .ok (.iastore, 1) := dk_79 (dk_at dksX21_init_6 3 rfl rfl)
theorem dX21_init_146 : decode cX21_init 146 = .ok (.dup, 1) := dk_89 (dk_at dksX21_init_6 4 rfl rfl)
theorem dX21_init_147 : decode cX21_init 147 = .ok (.iconst 2, 1) := dk_5 (dk_at dksX21_init_6 5 rfl rfl)
theorem dX21_init_148 : decode cX21_init 148 = .ok (.iconst 1, 1) := dk_4 (dk_at dksX21_init_6 6 rfl rfl)
theorem dX21_init_149 : decode cX21_init 149 = .ok (.iastore, 1) := dk_79 (dk_at dksX21_init_6 7 rfl rfl)
theorem dX21_init_150 : decode cX21_init 150 = .ok (.dup, 1) := dk_89 (dk_at dksX21_init_6 8 rfl rfl)
theorem dX21_init_151 : decode cX21_init 151 = .ok (.iconst 3, 1) := dk_6 (dk_at dksX21_init_6 9 rfl rfl)
theorem dX21_init_152 : decode cX21_init 152 = .ok (.iconst 1, 1) := dk_4 (dk_at dksX21_init_6 10 rfl rfl)
theorem dX21_init_153 : decode cX21_init 153 = .ok (.iastore, 1) := dk_79 (dk_at dksX21_init_6 11 rfl rfl)
theorem dX21_init_154 : decode cX21_init 154 = .ok (.putfield 25, 3) := dk_181 0 25 (dk_at dksX21_init_6 12 rfl rfl)
theorem dX21_init_157 : decode cX21_init 157 = .ok (.aload_n 0, 1) := dk_42 (dk_at dksX21_init_6 15 rfl rfl)
theorem dX21_init_158 : decode cX21_init 158 = .ok (.bipush 16, 2) := dk_16 16 (dk_at dksX21_init_6 16 rfl rfl)
theorem dX21_init_160 : decode cX21_init 160 = .ok (.newarray .int, 2) := dk_188_10 (dk_at dksX21_init_6 18 rfl rfl)
theorem dX21_init_162 : decode cX21_init 162 = .ok (.putfield 28, 3) := dk_181 0 28 (dk_at dksX21_init_6 20 rfl rfl)
theorem dX21_init_165 : decode cX21_init 165 = .ok (.aload_n 0, 1) := dk_42 (dk_at dksX21_init_6 23 rfl rfl)
theorem dX21_init_166 : decode cX21_init 166 = .ok (.iconst 1, 1) := dk_4 (dk_at dksX21_init_7 0 rfl rfl)
theorem dX21_init_167 : decode cX21_init 167 = .ok (.putfield 31, 3) := dk_181 0 31 (dk_at dksX21_init_7 1 rfl rfl)
theorem dX21_init_170 : decode cX21_init 170 = .ok (.aload_n 0, 1) := dk_42 (dk_at dksX21_init_7 4 rfl rfl)
theorem dX21_init_171 : decode cX21_init 171 = .ok (.sipush 200, 3) := dk_17 0 200 (dk_at dksX21_init_7 5 rfl rfl)
theorem dX21_init_174 : decode cX21_init 174 = .ok (.newarray .int, 2) := dk_188_10 (dk_at dksX21_init_7 8 rfl rfl)
theorem dX21_init_176 : decode cX21_init 176 = .ok (.putfield 35, 3) := dk_181 0 35 (dk_at dksX21_init_7 10 rfl rfl)
theorem dX21_init_179 : decode cX21_init 179 = .ok (.aload_n 0, 1) := dk_42 (dk_at dksX21_init_7 13 rfl rfl)
theorem dX21_init_180 : decode cX21_init 180 = .ok (.bipush 24, 2) := dk_16 24 (dk_at dksX21_init_7 14 rfl rfl)
theorem dX21_init_182 : decode cX21_init 182 = .ok (.newarray .int, 2) := dk_188_10 (dk_at dksX21_init_7 16 rfl rfl)
theorem dX21_init_184 : decode cX21_init 184 = .ok (.putfield 38, 3) := dk_181 0 38 (dk_at dksX21_init_7 18 rfl rfl)
theorem dX21_init_187 : decode cX21_init 187 = .ok (.aload_n 0, 1) := dk_42 (dk_at dksX21_init_7 21 rfl rfl)
theorem dX21_init_188 : decode cX21_init 188 = .ok (.iconst 4, 1) := dk_7 (dk_at dksX21_init_7 22 rfl rfl)
theorem dX21_init_189 : decode cX21_init 189 = .ok (.newarray .int, 2) := dk_188_10 (dk_at dksX21_init_8 0 rfl rfl)
theorem dX21_init_191 : decode cX21_init 191 = .ok (.dup, 1) := dk_89 (dk_at dksX21_init_8 2 rfl rfl)
theorem dX21_init_192 : decode cX21_init 192 = .ok (.iconst 0, 1) := dk_3 (dk_at dksX21_init_8 3 rfl rfl)
theorem dX21_init_193 : decode cX21_init 193 = .ok (.iconst (-1), 1) := dk_2 (dk_at dksX21_init_8 4 rfl rfl)
theorem dX21_init_194 : decode cX21_init 194 = .ok (.iastore, 1) := dk_79 (dk_at dksX21_init_8 5 rfl rfl)
theorem dX21_init_195 : decode cX21_init 195 = .ok (.dup, 1) := dk_89 (dk_at dksX21_init_8 6 rfl rfl)
theorem dX21_init_196 : decode cX21_init 196 = .ok (.iconst 1, 1) := dk_4 (dk_at dksX21_init_8 7 rfl rfl)
theorem dX21_init_197 : decode cX21_init 197 = .ok (.iconst (-1), 1) := dk_2 (dk_at dksX21_init_8 8 rfl rfl)
theorem dX21_init_198 : decode cX21_init 198 = .ok (.iastore, 1) := dk_79 (dk_at dksX21_init_8 9 rfl rfl)
theorem dX21_init_199 : decode cX21_init 199 = .ok (.dup, 1) := dk_89 (dk_at dksX21_init_8 10 rfl rfl)
theorem dX21_init_200 : decode cX21_init 200 = .ok (.iconst 2, 1) := dk_5 (dk_at dksX21_init_8 11 rfl rfl)
theorem dX21_init_201 : decode cX21_init 201 = .ok (.iconst (-1), 1) := dk_2 (dk_at dksX21_init_8 12 rfl rfl)
theorem dX21_init_202 : decode cX21_init 202 = .ok (.iastore, 1) := dk_79 (dk_at dksX21_init_8 13 rfl rfl)
theorem dX21_init_203 : decode cX21_init 203 = .ok (.dup, 1) := dk_89 (dk_at dksX21_init_8 14 rfl rfl)
theorem dX21_init_204 : decode cX21_init 204 = .ok (.iconst 3, 1) := dk_6 (dk_at dksX21_init_8 15 rfl rfl)
theorem dX21_init_205 : decode cX21_init 205 = .ok (.iconst (-1), 1) := dk_2 (dk_at dksX21_init_8 16 rfl rfl)
theorem dX21_init_206 : decode cX21_init 206 = .ok (.iastore, 1) := dk_79 (dk_at dksX21_init_8 17 rfl rfl)
theorem dX21_init_207 : decode cX21_init 207 = .ok (.putfield 41, 3) := dk_181 0 41 (dk_at dksX21_init_8 18 rfl rfl)
theorem dX21_init_210 : decode cX21_init 210 = .ok (.aload_n 0, 1) := dk_42 (dk_at dksX21_init_8 21 rfl rfl)
theorem dX21_init_211 : decode cX21_init 211 = .ok (.iconst 4, 1) := dk_7 (dk_at dksX21_init_8 22 rfl rfl)
theorem dX21_init_212 : decode cX21_init 212 = .ok (.newarray .int, 2) := dk_188_10 (dk_at dksX21_init_9 0 rfl rfl)
theorem dX21_init_214 : decode cX21_init 214 = .ok (.putfield 44, 3) := dk_181 0 44 (dk_at dksX21_init_9 2 rfl rfl)
theorem dX21_init_217 : decode cX21_init 217 = .ok (.aload_n 0, 1) := dk_42 (dk_at dksX21_init_9 5 rfl rfl)
theorem dX21_init_218 : decode cX21_init 218 = .ok (.sipush 160, 3) := dk_17 0 160 (dk_at dksX21_init_9 6 rfl rfl)
theorem dX21_init_221 : decode cX21_init 221 = .ok (.newarray .long, 2) := dk_188_11 (dk_at dksX21_init_9 9 rfl rfl)
theorem dX21_init_223 : decode cX21_init 223 = .ok (.putfield 47, 3) := dk_181 0 47 (dk_at dksX21_init_9 11 rfl rfl)
theorem dX21_init_226 : decode cX21_init 226 = .ok (.aload_n 0, 1) := dk_42 (dk_at dksX21_init_9 14 rfl rfl)
theorem dX21_init_227 : decode cX21_init 227 = .ok (.iconst 4, 1) := dk_7 (dk_at dksX21_init_9 15 rfl rfl)
theorem dX21_init_228 : decode cX21_init 228 = .ok (.newarray .int, 2) := dk_188_10 (dk_at dksX21_init_9 16 rfl rfl)
theorem dX21_init_230 : decode cX21_init 230 = .ok (.dup, 1) := dk_89 (dk_at dksX21_init_9 18 rfl rfl)
theorem dX21_init_231 : decode cX21_init 231 = .ok (.iconst 0, 1) := dk_3 (dk_at dksX21_init_9 19 rfl rfl)
theorem dX21_init_232 : decode cX21_init 232 = .ok (.iconst (-1), 1) := dk_2 (dk_at dksX21_init_9 20 rfl rfl)
theorem dX21_init_233 : decode cX21_init 233 = .ok (.iastore, 1) := dk_79 (dk_at dksX21_init_9 21 rfl rfl)
theorem dX21_init_234 : decode cX21_init 234 = .ok (.dup, 1) := dk_89 (dk_at dksX21_init_9 22 rfl rfl)
theorem dX21_init_235 : decode cX21_init 235 = .ok (.iconst 1, 1) := dk_4 (dk_at dksX21_init_9 23 rfl rfl)
theorem dX21_init_236 : decode cX21_init 236 = .ok (.iconst (-1), 1) := dk_2 (dk_at dksX21_init_10 0 rfl rfl)
theorem dX21_init_237 : decode cX21_init 237 = .ok (.iastore, 1) := dk_79 (dk_at dksX21_init_10 1 rfl rfl)
theorem dX21_init_238 : decode cX21_init 238 = .ok (.dup, 1) := dk_89 (dk_at dksX21_init_10 2 rfl rfl)
theorem dX21_init_239 : decode cX21_init 239 = .ok (.iconst 2, 1) := dk_5 (dk_at dksX21_init_10 3 rfl rfl)
theorem dX21_init_240 : decode cX21_init 240 = .ok (.iconst (-1), 1) := dk_2 (dk_at dksX21_init_10 4 rfl rfl)
theorem dX21_init_241 : decode cX21_init 241 = .ok (.iastore, 1) := dk_79 (dk_at dksX21_init_10 5 rfl rfl)
theorem dX21_init_242 : decode cX21_init 242 = .ok (.dup, 1) := dk_89 (dk_at dksX21_init_10 6 rfl rfl)
theorem dX21_init_243 : decode cX21_init 243 = .ok (.iconst 3, 1) := dk_6 (dk_at dksX21_init_10 7 rfl rfl)
theorem dX21_init_244 : decode cX21_init 244 = .ok (.iconst (-1), 1) := dk_2 (dk_at dksX21_init_10 8 rfl rfl)
theorem dX21_init_245 : decode cX21_init 245 = .ok (.iastore, 1) := dk_79 (dk_at dksX21_init_10 9 rfl rfl)
theorem dX21_init_246 : decode cX21_init 246 = .ok (.putfield 51, 3) := dk_181 0 51 (dk_at dksX21_init_10 10 rfl rfl)
theorem dX21_init_249 : decode cX21_init 249 = .ok (.aload_n 0, 1) := dk_42 (dk_at dksX21_init_10 13 rfl rfl)
theorem dX21_init_250 : decode cX21_init 250 = .ok (.iconst 4, 1) := dk_7 (dk_at dksX21_init_10 14 rfl rfl)
theorem dX21_init_251 : decode cX21_init 251 = .ok (.newarray .int, 2) := dk_188_10 (dk_at dksX21_init_10 15 rfl rfl)
theorem dX21_init_253 : decode cX21_init 253 = .ok (.putfield 54, 3) := dk_181 0 54 (dk_at dksX21_init_10 17 rfl rfl)
theorem dX21_init_256 : decode cX21_init 256 = .ok (.aload_n 0, 1) := dk_42 (dk_at dksX21_init_10 20 rfl rfl)
theorem dX21_init_257 : decode cX21_init 257 = .ok (.iconst 4, 1) := dk_7 (dk_at dksX21_init_10 21 rfl rfl)
theorem dX21_init_258 : decode cX21_init 258 = .ok (.newarray .int, 2) := dk_188_10 (dk_at dksX21_init_10 22 rfl rfl)
theorem dX21_init_260 : decode cX21_init 260 = .ok (.putfield 57, 3) := dk_181 0 57 (dk_at dksX21_init_11 0 rfl rfl)
theorem dX21_init_263 : decode cX21_init 263 = .ok (.aload_n 0, 1) := dk_42 (dk_at dksX21_init_11 3 rfl rfl)
theorem dX21_init_264 : decode cX21_init 264 = .ok (.bipush 30, 2) := dk_16 30 (dk_at dksX21_init_11 4 rfl rfl)
theorem dX21_init_266 : decode cX21_init 266 = .ok (.newarray .int, 2) := dk_188_10 (dk_at dksX21_init_11 6 rfl rfl)
theorem dX21_init_268 : decode cX21_init 268 = .ok (.putfield 60, 3) := dk_181 0 60 (dk_at dksX21_init_11 8 rfl rfl)
theorem dX21_init_271 : decode cX21_init 271 = .ok (.aload_n 0, 1) := dk_42 (dk_at dksX21_init_11 11 rfl rfl)
theorem dX21_init_272 : decode cX21_init 272 = .ok (.sipush 160, 3) := dk_17 0 160 (dk_at dksX21_init_11 12 rfl rfl)
theorem dX21_init_275 : decode cX21_init 275 = .ok (.newarray .int, 2) := dk_188_10 (dk_at dksX21_init_11 15 rfl rfl)
theorem dX21_init_277 : decode cX21_init 277 = .ok (.putfield 63, 3) := dk_181 0 63 (dk_at dksX21_init_11 17 rfl rfl)
theorem dX21_init_280 : decode cX21_init 280 = .ok (.aload_n 0, 1) := dk_42 (dk_at dksX21_init_11 20 rfl rfl)
theorem dX21_init_281 : decode cX21_init 281 = .ok (.iconst 3, 1) := dk_6 (dk_at dksX21_init_11 21 rfl rfl)
theorem dX21_init_282 : decode cX21_init 282 = .ok (.newarray .int, 2) := dk_188_10 (dk_at dksX21_init_11 22 rfl rfl)
theorem dX21_init_284 : decode cX21_init 284 = .ok (.putfield 66, 3) := dk_181 0 66 (dk_at dksX21_init_12 0 rfl rfl)
theorem dX21_init_287 : decode cX21_init 287 = .ok (.return_, 1) := dk_177 (dk_at dksX21_init_12 3 rfl rfl)
abbrev cX21_feed : ByteArray := prog_33_method_12_code
def yX21_feed : MethodName := ⟨RX21, "feed", "(JI)I"⟩
def dkwX21_feed_3 : List UInt8 := [167, 255, 216, 42, 180, 0, 79, 172]
abbrev dktX21_feed_3 : List UInt8 := dkwX21_feed_3 ++ []
def dkwX21_feed_2 : List UInt8 := [21, 4, 104, 123, 20, 0, 82, 127, 136, 79, 42, 89, 180, 0, 79, 4, 96, 181, 0, 79, 132, 4, 1]
abbrev dktX21_feed_2 : List UInt8 := dkwX21_feed_2 ++ dktX21_feed_3
def dkwX21_feed_1 : List UInt8 := [16, 254, 172, 3, 54, 4, 21, 4, 29, 162, 0, 40, 42, 180, 0, 35, 42, 180, 0, 79, 31, 16, 8]
abbrev dktX21_feed_1 : List UInt8 := dkwX21_feed_1 ++ dktX21_feed_2
def dkwX21_feed_0 : List UInt8 := [29, 4, 16, 8, 184, 0, 69, 154, 0, 5, 2, 172, 42, 180, 0, 79, 29, 96, 17, 0, 200, 164, 0, 6]
abbrev dktX21_feed_0 : List UInt8 := dkwX21_feed_0 ++ dktX21_feed_1
theorem dksX21_feed_0 : cX21_feed.data.toList.drop 0 = dktX21_feed_0 := by decide +kernel
theorem dksX21_feed_1 : cX21_feed.data.toList.drop 24 = dktX21_feed_1 := dk_seg dksX21_feed_0 24 rfl rfl
theorem dksX21_feed_2 : cX21_feed.data.toList.drop 47 = dktX21_feed_2 := dk_seg dksX21_feed_1 23 rfl rfl
theorem dksX21_feed_3 : cX21_feed.data.toList.drop 70 = dktX21_feed_3 := dk_seg dksX21_feed_2 23 rfl rfl
theorem dX21_feed_0 : decode cX21_feed 0 = .ok (.iload_n 3, 1) := dk_29 (dk_at dksX21_feed_0 0 rfl rfl)
theorem dX21_feed_1 : decode cX21_feed 1 = .ok (.iconst 1, 1) := dk_4 (dk_at dksX21_feed_0 1 rfl rfl)
theorem dX21_feed_2 : decode cX21_feed 2 = .ok (.bipush 8, 2) := dk_16 8 (dk_at dksX21_feed_0 2 rfl rfl)
theorem dX21_feed_4 : decode cX21_feed 4 = .ok (.invokestatic 69, 3) := dk_184 0 69 (dk_at dksX21_feed_0 4 rfl rfl)
theorem dX21_feed_7 : decode cX21_feed 7 = .ok (.ifCond .ne 5, 3) := dk_154 0 5 (dk_at dksX21_feed_0 7 rfl rfl)
theorem dX21_feed_10 : decode cX21_feed 10 = .ok (.iconst (-1), 1) := dk_2 (dk_at dksX21_feed_0 10 rfl rfl)
theorem dX21_feed_11 : decode cX21_feed 11 = .ok (.ireturn, 1) := dk_172 (dk_at dksX21_feed_0 11 rfl rfl)
theorem dX21_feed_12 : decode cX21_feed 12 = .ok (.aload_n 0, 1) := dk_42 (dk_at dksX21_feed_0 12 rfl rfl)
theorem dX21_feed_13 : decode cX21_feed 13 = .ok (.getfield 79, 3) := dk_180 0 79 (dk_at dksX21_feed_0 13 rfl rfl)
theorem dX21_feed_16 : decode cX21_feed 16 = .ok (.iload_n 3, 1) := dk_29 (dk_at dksX21_feed_0 16 rfl rfl)
theorem dX21_feed_17 : decode cX21_feed 17 = .ok (.iadd, 1) := dk_96 (dk_at dksX21_feed_0 17 rfl rfl)
theorem dX21_feed_18 : decode cX21_feed 18 = .ok (.sipush 200, 3) := dk_17 0 200 (dk_at dksX21_feed_0 18 rfl rfl)
theorem dX21_feed_21 : decode cX21_feed 21 = .ok (.if_icmp .le 6, 3) := dk_164 0 6 (dk_at dksX21_feed_0 21 rfl rfl)
theorem dX21_feed_24 : decode cX21_feed 24 = .ok (.bipush (-2), 2) := dk_16 254 (dk_at dksX21_feed_1 0 rfl rfl)
theorem dX21_feed_26 : decode cX21_feed 26 = .ok (.ireturn, 1) := dk_172 (dk_at dksX21_feed_1 2 rfl rfl)
theorem dX21_feed_27 : decode cX21_feed 27 = .ok (.iconst 0, 1) := dk_3 (dk_at dksX21_feed_1 3 rfl rfl)
theorem dX21_feed_28 : decode cX21_feed 28 = .ok (.istore 4, 2) := dk_54 4 (dk_at dksX21_feed_1 4 rfl rfl)
theorem dX21_feed_30 : decode cX21_feed 30 = .ok (.iload 4, 2) := dk_21 4 (dk_at dksX21_feed_1 6 rfl rfl)
theorem dX21_feed_32 : decode cX21_feed 32 = .ok (.iload_n 3, 1) := dk_29 (dk_at dksX21_feed_1 8 rfl rfl)
theorem dX21_feed_33 : decode cX21_feed 33 = .ok (.if_icmp .ge 40, 3) := dk_162 0 40 (dk_at dksX21_feed_1 9 rfl rfl)
theorem dX21_feed_36 : decode cX21_feed 36 = .ok (.aload_n 0, 1) := dk_42 (dk_at dksX21_feed_1 12 rfl rfl)
theorem dX21_feed_37 : decode cX21_feed 37 = .ok (.getfield 35, 3) := dk_180 0 35 (dk_at dksX21_feed_1 13 rfl rfl)
theorem dX21_feed_40 : decode cX21_feed 40 = .ok (.aload_n 0, 1) := dk_42 (dk_at dksX21_feed_1 16 rfl rfl)
theorem dX21_feed_41 : decode cX21_feed 41 = .ok (.getfield 79, 3) := dk_180 0 79 (dk_at dksX21_feed_1 17 rfl rfl)
theorem dX21_feed_44 : decode cX21_feed 44 = .ok (.lload_n 1, 1) := dk_31 (dk_at dksX21_feed_1 20 rfl rfl)
theorem dX21_feed_45 : decode cX21_feed 45 = .ok (.bipush 8, 2) := dk_16 8 (dk_at dksX21_feed_1 21 rfl rfl)
theorem dX21_feed_47 : decode cX21_feed 47 = .ok (.iload 4, 2) := dk_21 4 (dk_at dksX21_feed_2 0 rfl rfl)
theorem dX21_feed_49 : decode cX21_feed 49 = .ok (.imul, 1) := dk_104 (dk_at dksX21_feed_2 2 rfl rfl)
theorem dX21_feed_50 : decode cX21_feed 50 = .ok (.lshr, 1) := dk_123 (dk_at dksX21_feed_2 3 rfl rfl)
theorem dX21_feed_51 : decode cX21_feed 51 = .ok (.ldc2_w 82, 3) := dk_20 0 82 (dk_at dksX21_feed_2 4 rfl rfl)
theorem dX21_feed_54 : decode cX21_feed 54 = .ok (.land, 1) := dk_127 (dk_at dksX21_feed_2 7 rfl rfl)
theorem dX21_feed_55 : decode cX21_feed 55 = .ok (.l2i, 1) := dk_136 (dk_at dksX21_feed_2 8 rfl rfl)
theorem dX21_feed_56 : decode cX21_feed 56 = .ok (.iastore, 1) := dk_79 (dk_at dksX21_feed_2 9 rfl rfl)
theorem dX21_feed_57 : decode cX21_feed 57 = .ok (.aload_n 0, 1) := dk_42 (dk_at dksX21_feed_2 10 rfl rfl)
theorem dX21_feed_58 : decode cX21_feed 58 = .ok (.dup, 1) := dk_89 (dk_at dksX21_feed_2 11 rfl rfl)
theorem dX21_feed_59 : decode cX21_feed 59 = .ok (.getfield 79, 3) := dk_180 0 79 (dk_at dksX21_feed_2 12 rfl rfl)
theorem dX21_feed_62 : decode cX21_feed 62 = .ok (.iconst 1, 1) := dk_4 (dk_at dksX21_feed_2 15 rfl rfl)
theorem dX21_feed_63 : decode cX21_feed 63 = .ok (.iadd, 1) := dk_96 (dk_at dksX21_feed_2 16 rfl rfl)
theorem dX21_feed_64 : decode cX21_feed 64 = .ok (.putfield 79, 3) := dk_181 0 79 (dk_at dksX21_feed_2 17 rfl rfl)
theorem dX21_feed_67 : decode cX21_feed 67 = .ok (.iinc 4 1, 3) := dk_132 4 1 (dk_at dksX21_feed_2 20 rfl rfl)
theorem dX21_feed_70 : decode cX21_feed 70 = .ok (.goto (-40), 3) := dk_167 255 216 (dk_at dksX21_feed_3 0 rfl rfl)
theorem dX21_feed_73 : decode cX21_feed 73 = .ok (.aload_n 0, 1) := dk_42 (dk_at dksX21_feed_3 3 rfl rfl)
theorem dX21_feed_74 : decode cX21_feed 74 = .ok (.getfield 79, 3) := dk_180 0 79 (dk_at dksX21_feed_3 4 rfl rfl)
theorem dX21_feed_77 : decode cX21_feed 77 = .ok (.ireturn, 1) := dk_172 (dk_at dksX21_feed_3 7 rfl rfl)
abbrev cX21_in : ByteArray := prog_33_method_2_code
def yX21_in : MethodName := ⟨RX21, "in", "(III)Z"⟩
def dkwX21_in_0 : List UInt8 := [26, 27, 161, 0, 12, 26, 28, 163, 0, 7, 4, 167, 0, 4, 3, 172]
abbrev dktX21_in_0 : List UInt8 := dkwX21_in_0 ++ []
theorem dksX21_in_0 : cX21_in.data.toList.drop 0 = dktX21_in_0 := by decide +kernel
theorem dX21_in_0 : decode cX21_in 0 = .ok (.iload_n 0, 1) := dk_26 (dk_at dksX21_in_0 0 rfl rfl)
theorem dX21_in_1 : decode cX21_in 1 = .ok (.iload_n 1, 1) := dk_27 (dk_at dksX21_in_0 1 rfl rfl)
theorem dX21_in_2 : decode cX21_in 2 = .ok (.if_icmp .lt 12, 3) := dk_161 0 12 (dk_at dksX21_in_0 2 rfl rfl)
theorem dX21_in_5 : decode cX21_in 5 = .ok (.iload_n 0, 1) := dk_26 (dk_at dksX21_in_0 5 rfl rfl)
theorem dX21_in_6 : decode cX21_in 6 = .ok (.iload_n 2, 1) := dk_28 (dk_at dksX21_in_0 6 rfl rfl)
theorem dX21_in_7 : decode cX21_in 7 = .ok (.if_icmp .gt 7, 3) := dk_163 0 7 (dk_at dksX21_in_0 7 rfl rfl)
theorem dX21_in_10 : decode cX21_in 10 = .ok (.iconst 1, 1) := dk_4 (dk_at dksX21_in_0 10 rfl rfl)
theorem dX21_in_11 : decode cX21_in 11 = .ok (.goto 4, 3) := dk_167 0 4 (dk_at dksX21_in_0 11 rfl rfl)
theorem dX21_in_14 : decode cX21_in 14 = .ok (.iconst 0, 1) := dk_3 (dk_at dksX21_in_0 14 rfl rfl)
theorem dX21_in_15 : decode cX21_in 15 = .ok (.ireturn, 1) := dk_172 (dk_at dksX21_in_0 15 rfl rfl)
abbrev cX21_cupboard : ByteArray := prog_33_method_27_code
def yX21_cupboard : MethodName := ⟨RX21, "cupboard", "()I"⟩
def dkwX21_cupboard_5 : List UInt8 := [79, 42, 3, 181, 0, 200, 42, 3, 181, 0, 203, 42, 180, 0, 7, 3, 46, 172]
abbrev dktX21_cupboard_5 : List UInt8 := dkwX21_cupboard_5 ++ []
def dkwX21_cupboard_4 : List UInt8 := [16, 156, 42, 180, 0, 87, 100, 172, 42, 16, 94, 3, 182, 0, 196, 42, 180, 0, 13, 3, 42, 180, 0, 190]
abbrev dktX21_cupboard_4 : List UInt8 := dkwX21_cupboard_4 ++ dktX21_cupboard_5
def dkwX21_cupboard_3 : List UInt8 := [42, 182, 0, 193, 167, 255, 238, 42, 3, 181, 0, 73, 42, 3, 181, 0, 79, 42, 180, 0, 133, 154, 0, 11]
abbrev dktX21_cupboard_3 : List UInt8 := dkwX21_cupboard_3 ++ dktX21_cupboard_4
def dkwX21_cupboard_2 : List UInt8 := [132, 1, 1, 167, 255, 235, 42, 182, 0, 137, 42, 180, 0, 133, 153, 0, 17, 42, 180, 0, 101, 153, 0, 10]
abbrev dktX21_cupboard_2 : List UInt8 := dkwX21_cupboard_2 ++ dktX21_cupboard_3
def dkwX21_cupboard_1 : List UInt8 := [181, 0, 73, 3, 60, 27, 16, 94, 162, 0, 21, 42, 180, 0, 7, 42, 180, 0, 73, 27, 96, 3, 79]
abbrev dktX21_cupboard_1 : List UInt8 := dkwX21_cupboard_1 ++ dktX21_cupboard_2
def dkwX21_cupboard_0 : List UInt8 := [42, 3, 181, 0, 84, 42, 4, 181, 0, 133, 42, 42, 180, 0, 13, 3, 46, 181, 0, 190, 42, 16, 94]
abbrev dktX21_cupboard_0 : List UInt8 := dkwX21_cupboard_0 ++ dktX21_cupboard_1
theorem dksX21_cupboard_0 : cX21_cupboard.data.toList.drop 0 = dktX21_cupboard_0 := by decide +kernel
theorem dksX21_cupboard_1 : cX21_cupboard.data.toList.drop 23 = dktX21_cupboard_1 := dk_seg dksX21_cupboard_0 23 rfl rfl
theorem dksX21_cupboard_2 : cX21_cupboard.data.toList.drop 46 = dktX21_cupboard_2 := dk_seg dksX21_cupboard_1 23 rfl rfl
theorem dksX21_cupboard_3 : cX21_cupboard.data.toList.drop 70 = dktX21_cupboard_3 := dk_seg dksX21_cupboard_2 24 rfl rfl
theorem dksX21_cupboard_4 : cX21_cupboard.data.toList.drop 94 = dktX21_cupboard_4 := dk_seg dksX21_cupboard_3 24 rfl rfl
theorem dksX21_cupboard_5 : cX21_cupboard.data.toList.drop 118 = dktX21_cupboard_5 := dk_seg dksX21_cupboard_4 24 rfl rfl
theorem dX21_cupboard_0 : decode cX21_cupboard 0 = .ok (.aload_n 0, 1) := dk_42 (dk_at dksX21_cupboard_0 0 rfl rfl)
theorem dX21_cupboard_1 : decode cX21_cupboard 1 = .ok (.iconst 0, 1) := dk_3 (dk_at dksX21_cupboard_0 1 rfl rfl)
theorem dX21_cupboard_2 : decode cX21_cupboard 2 = .ok (.putfield 84, 3) := dk_181 0 84 (dk_at dksX21_cupboard_0 2 rfl rfl)
theorem dX21_cupboard_5 : decode cX21_cupboard 5 = .ok (.aload_n 0, 1) := dk_42 (dk_at dksX21_cupboard_0 5 rfl rfl)
theorem dX21_cupboard_6 : decode cX21_cupboard 6 = .ok (.iconst 1, 1) := dk_4 (dk_at dksX21_cupboard_0 6 rfl rfl)
theorem dX21_cupboard_7 : decode cX21_cupboard 7 = .ok (.putfield 133, 3) := dk_181 0 133 (dk_at dksX21_cupboard_0 7 rfl rfl)
theorem dX21_cupboard_10 : decode cX21_cupboard 10 = .ok (.aload_n 0, 1) := dk_42 (dk_at dksX21_cupboard_0 10 rfl rfl)
theorem dX21_cupboard_11 : decode cX21_cupboard 11 = .ok (.aload_n 0, 1) := dk_42 (dk_at dksX21_cupboard_0 11 rfl rfl)
theorem dX21_cupboard_12 : decode cX21_cupboard 12 = .ok (.getfield 13, 3) := dk_180 0 13 (dk_at dksX21_cupboard_0 12 rfl rfl)
theorem dX21_cupboard_15 : decode cX21_cupboard 15 = .ok (.iconst 0, 1) := dk_3 (dk_at dksX21_cupboard_0 15 rfl rfl)
theorem dX21_cupboard_16 : decode cX21_cupboard 16 = .ok (.iaload, 1) := dk_46 (dk_at dksX21_cupboard_0 16 rfl rfl)
theorem dX21_cupboard_17 : decode cX21_cupboard 17 = .ok (.putfield 190, 3) := dk_181 0 190 (dk_at dksX21_cupboard_0 17 rfl rfl)
theorem dX21_cupboard_20 : decode cX21_cupboard 20 = .ok (.aload_n 0, 1) := dk_42 (dk_at dksX21_cupboard_0 20 rfl rfl)
theorem dX21_cupboard_21 : decode cX21_cupboard 21 = .ok (.bipush 94, 2) := dk_16 94 (dk_at dksX21_cupboard_0 21 rfl rfl)
theorem dX21_cupboard_23 : decode cX21_cupboard 23 = .ok (.putfield 73, 3) := dk_181 0 73 (dk_at dksX21_cupboard_1 0 rfl rfl)
theorem dX21_cupboard_26 : decode cX21_cupboard 26 = .ok (.iconst 0, 1) := dk_3 (dk_at dksX21_cupboard_1 3 rfl rfl)
theorem dX21_cupboard_27 : decode cX21_cupboard 27 = .ok (.istore_n 1, 1) := dk_60 (dk_at dksX21_cupboard_1 4 rfl rfl)
theorem dX21_cupboard_28 : decode cX21_cupboard 28 = .ok (.iload_n 1, 1) := dk_27 (dk_at dksX21_cupboard_1 5 rfl rfl)
theorem dX21_cupboard_29 : decode cX21_cupboard 29 = .ok (.bipush 94, 2) := dk_16 94 (dk_at dksX21_cupboard_1 6 rfl rfl)
theorem dX21_cupboard_31 : decode cX21_cupboard 31 = .ok (.if_icmp .ge 21, 3) := dk_162 0 21 (dk_at dksX21_cupboard_1 8 rfl rfl)
theorem dX21_cupboard_34 : decode cX21_cupboard 34 = .ok (.aload_n 0, 1) := dk_42 (dk_at dksX21_cupboard_1 11 rfl rfl)
theorem dX21_cupboard_35 : decode cX21_cupboard 35 = .ok (.getfield 7, 3) := dk_180 0 7 (dk_at dksX21_cupboard_1 12 rfl rfl)
theorem dX21_cupboard_38 : decode cX21_cupboard 38 = .ok (.aload_n 0, 1) := dk_42 (dk_at dksX21_cupboard_1 15 rfl rfl)
theorem dX21_cupboard_39 : decode cX21_cupboard 39 = .ok (.getfield 73, 3) := dk_180 0 73 (dk_at dksX21_cupboard_1 16 rfl rfl)
theorem dX21_cupboard_42 : decode cX21_cupboard 42 = .ok (.iload_n 1, 1) := dk_27 (dk_at dksX21_cupboard_1 19 rfl rfl)
theorem dX21_cupboard_43 : decode cX21_cupboard 43 = .ok (.iadd, 1) := dk_96 (dk_at dksX21_cupboard_1 20 rfl rfl)
theorem dX21_cupboard_44 : decode cX21_cupboard 44 = .ok (.iconst 0, 1) := dk_3 (dk_at dksX21_cupboard_1 21 rfl rfl)
theorem dX21_cupboard_45 : decode cX21_cupboard 45 = .ok (.iastore, 1) := dk_79 (dk_at dksX21_cupboard_1 22 rfl rfl)
theorem dX21_cupboard_46 : decode cX21_cupboard 46 = .ok (.iinc 1 1, 3) := dk_132 1 1 (dk_at dksX21_cupboard_2 0 rfl rfl)
theorem dX21_cupboard_49 : decode cX21_cupboard 49 = .ok (.goto (-21), 3) := dk_167 255 235 (dk_at dksX21_cupboard_2 3 rfl rfl)
theorem dX21_cupboard_52 : decode cX21_cupboard 52 = .ok (.aload_n 0, 1) := dk_42 (dk_at dksX21_cupboard_2 6 rfl rfl)
theorem dX21_cupboard_53 : decode cX21_cupboard 53 = .ok (.invokevirtual 137, 3) := dk_182 0 137 (dk_at dksX21_cupboard_2 7 rfl rfl)
theorem dX21_cupboard_56 : decode cX21_cupboard 56 = .ok (.aload_n 0, 1) := dk_42 (dk_at dksX21_cupboard_2 10 rfl rfl)
theorem dX21_cupboard_57 : decode cX21_cupboard 57 = .ok (.getfield 133, 3) := dk_180 0 133 (dk_at dksX21_cupboard_2 11 rfl rfl)
theorem dX21_cupboard_60 : decode cX21_cupboard 60 = .ok (.ifCond .eq 17, 3) := dk_153 0 17 (dk_at dksX21_cupboard_2 14 rfl rfl)
theorem dX21_cupboard_63 : decode cX21_cupboard 63 = .ok (.aload_n 0, 1) := dk_42 (dk_at dksX21_cupboard_2 17 rfl rfl)
theorem dX21_cupboard_64 : decode cX21_cupboard 64 = .ok (.getfield 101, 3) := dk_180 0 101 (dk_at dksX21_cupboard_2 18 rfl rfl)
theorem dX21_cupboard_67 : decode cX21_cupboard 67 = .ok (.ifCond .eq 10, 3) := dk_153 0 10 (dk_at dksX21_cupboard_2 21 rfl rfl)
theorem dX21_cupboard_70 : decode cX21_cupboard 70 = .ok (.aload_n 0, 1) := dk_42 (dk_at dksX21_cupboard_3 0 rfl rfl)
theorem dX21_cupboard_71 : decode cX21_cupboard 71 = .ok (.invokevirtual 193, 3) := dk_182 0 193 (dk_at dksX21_cupboard_3 1 rfl rfl)
theorem dX21_cupboard_74 : decode cX21_cupboard 74 = .ok (.goto (-18), 3) := dk_167 255 238 (dk_at dksX21_cupboard_3 4 rfl rfl)
theorem dX21_cupboard_77 : decode cX21_cupboard 77 = .ok (.aload_n 0, 1) := dk_42 (dk_at dksX21_cupboard_3 7 rfl rfl)
theorem dX21_cupboard_78 : decode cX21_cupboard 78 = .ok (.iconst 0, 1) := dk_3 (dk_at dksX21_cupboard_3 8 rfl rfl)
theorem dX21_cupboard_79 : decode cX21_cupboard 79 = .ok (.putfield 73, 3) := dk_181 0 73 (dk_at dksX21_cupboard_3 9 rfl rfl)
theorem dX21_cupboard_82 : decode cX21_cupboard 82 = .ok (.aload_n 0, 1) := dk_42 (dk_at dksX21_cupboard_3 12 rfl rfl)
theorem dX21_cupboard_83 : decode cX21_cupboard 83 = .ok (.iconst 0, 1) := dk_3 (dk_at dksX21_cupboard_3 13 rfl rfl)
theorem dX21_cupboard_84 : decode cX21_cupboard 84 = .ok (.putfield 79, 3) := dk_181 0 79 (dk_at dksX21_cupboard_3 14 rfl rfl)
theorem dX21_cupboard_87 : decode cX21_cupboard 87 = .ok (.aload_n 0, 1) := dk_42 (dk_at dksX21_cupboard_3 17 rfl rfl)
theorem dX21_cupboard_88 : decode cX21_cupboard 88 = .ok (.getfield 133, 3) := dk_180 0 133 (dk_at dksX21_cupboard_3 18 rfl rfl)
theorem dX21_cupboard_91 : decode cX21_cupboard 91 = .ok (.ifCond .ne 11, 3) := dk_154 0 11 (dk_at dksX21_cupboard_3 21 rfl rfl)
theorem dX21_cupboard_94 : decode cX21_cupboard 94 = .ok (.bipush (-100), 2) := dk_16 156 (dk_at dksX21_cupboard_4 0 rfl rfl)
theorem dX21_cupboard_96 : decode cX21_cupboard 96 = .ok (.aload_n 0, 1) := dk_42 (dk_at dksX21_cupboard_4 2 rfl rfl)
theorem dX21_cupboard_97 : decode cX21_cupboard 97 = .ok (.getfield 87, 3) := dk_180 0 87 (dk_at dksX21_cupboard_4 3 rfl rfl)
theorem dX21_cupboard_100 : decode cX21_cupboard 100 = .ok (.isub, 1) := dk_100 (dk_at dksX21_cupboard_4 6 rfl rfl)
theorem dX21_cupboard_101 : decode cX21_cupboard 101 = .ok (.ireturn, 1) := dk_172 (dk_at dksX21_cupboard_4 7 rfl rfl)
theorem dX21_cupboard_102 : decode cX21_cupboard 102 = .ok (.aload_n 0, 1) := dk_42 (dk_at dksX21_cupboard_4 8 rfl rfl)
theorem dX21_cupboard_103 : decode cX21_cupboard 103 = .ok (.bipush 94, 2) := dk_16 94 (dk_at dksX21_cupboard_4 9 rfl rfl)
theorem dX21_cupboard_105 : decode cX21_cupboard 105 = .ok (.iconst 0, 1) := dk_3 (dk_at dksX21_cupboard_4 11 rfl rfl)
theorem dX21_cupboard_106 : decode cX21_cupboard 106 = .ok (.invokevirtual 196, 3) := dk_182 0 196 (dk_at dksX21_cupboard_4 12 rfl rfl)
theorem dX21_cupboard_109 : decode cX21_cupboard 109 = .ok (.aload_n 0, 1) := dk_42 (dk_at dksX21_cupboard_4 15 rfl rfl)
theorem dX21_cupboard_110 : decode cX21_cupboard 110 = .ok (.getfield 13, 3) := dk_180 0 13 (dk_at dksX21_cupboard_4 16 rfl rfl)
theorem dX21_cupboard_113 : decode cX21_cupboard 113 = .ok (.iconst 0, 1) := dk_3 (dk_at dksX21_cupboard_4 19 rfl rfl)
theorem dX21_cupboard_114 : decode cX21_cupboard 114 = .ok (.aload_n 0, 1) := dk_42 (dk_at dksX21_cupboard_4 20 rfl rfl)
theorem dX21_cupboard_115 : decode cX21_cupboard 115 = .ok (.getfield 190, 3) := dk_180 0 190 (dk_at dksX21_cupboard_4 21 rfl rfl)
theorem dX21_cupboard_118 : decode cX21_cupboard 118 = .ok (.iastore, 1) := dk_79 (dk_at dksX21_cupboard_5 0 rfl rfl)
theorem dX21_cupboard_119 : decode cX21_cupboard 119 = .ok (.aload_n 0, 1) := dk_42 (dk_at dksX21_cupboard_5 1 rfl rfl)
theorem dX21_cupboard_120 : decode cX21_cupboard 120 = .ok (.iconst 0, 1) := dk_3 (dk_at dksX21_cupboard_5 2 rfl rfl)
theorem dX21_cupboard_121 : decode cX21_cupboard 121 = .ok (.putfield 200, 3) := dk_181 0 200 (dk_at dksX21_cupboard_5 3 rfl rfl)
theorem dX21_cupboard_124 : decode cX21_cupboard 124 = .ok (.aload_n 0, 1) := dk_42 (dk_at dksX21_cupboard_5 6 rfl rfl)
theorem dX21_cupboard_125 : decode cX21_cupboard 125 = .ok (.iconst 0, 1) := dk_3 (dk_at dksX21_cupboard_5 7 rfl rfl)
theorem dX21_cupboard_126 : decode cX21_cupboard 126 = .ok (.putfield 203, 3) := dk_181 0 203 (dk_at dksX21_cupboard_5 8 rfl rfl)
theorem dX21_cupboard_129 : decode cX21_cupboard 129 = .ok (.aload_n 0, 1) := dk_42 (dk_at dksX21_cupboard_5 11 rfl rfl)
theorem dX21_cupboard_130 : decode cX21_cupboard 130 = .ok (.getfield 7, 3) := dk_180 0 7 (dk_at dksX21_cupboard_5 12 rfl rfl)
theorem dX21_cupboard_133 : decode cX21_cupboard 133 = .ok (.iconst 0, 1) := dk_3 (dk_at dksX21_cupboard_5 15 rfl rfl)
theorem dX21_cupboard_134 : decode cX21_cupboard 134 = .ok (.iaload, 1) := dk_46 (dk_at dksX21_cupboard_5 16 rfl rfl)
theorem dX21_cupboard_135 : decode cX21_cupboard 135 = .ok (.ireturn, 1) := dk_172 (dk_at dksX21_cupboard_5 17 rfl rfl)
abbrev cX21_advance : ByteArray := prog_33_method_16_code
def yX21_advance : MethodName := ⟨RX21, "advance", "()V"⟩
def dkwX21_advance_12 : List UInt8 := [167, 255, 184, 177]
abbrev dktX21_advance_12 : List UInt8 := dkwX21_advance_12 ++ []
def dkwX21_advance_11 : List UInt8 := [182, 0, 90, 96, 16, 48, 100, 167, 0, 4, 2, 181, 0, 108, 42, 89, 180, 0, 84, 4, 96, 181, 0, 84]
abbrev dktX21_advance_11 : List UInt8 := dkwX21_advance_11 ++ dktX21_advance_12
def dkwX21_advance_10 : List UInt8 := [180, 0, 84, 42, 180, 0, 87, 100, 5, 162, 0, 25, 16, 10, 42, 180, 0, 108, 104, 42, 42, 180, 0, 84]
abbrev dktX21_advance_10 : List UInt8 := dkwX21_advance_10 ++ dktX21_advance_11
def dkwX21_advance_9 : List UInt8 := [180, 0, 101, 5, 160, 0, 70, 42, 42, 180, 0, 84, 182, 0, 90, 184, 0, 98, 153, 0, 56, 42, 42]
abbrev dktX21_advance_9 : List UInt8 := dkwX21_advance_9 ++ dktX21_advance_10
def dkwX21_advance_8 : List UInt8 := [167, 0, 6, 20, 0, 115, 181, 0, 104, 42, 89, 180, 0, 84, 4, 96, 181, 0, 84, 167, 255, 178, 42]
abbrev dktX21_advance_8 : List UInt8 := dkwX21_advance_8 ++ dktX21_advance_9
def dkwX21_advance_7 : List UInt8 := [20, 0, 111, 42, 180, 0, 104, 105, 42, 42, 180, 0, 84, 182, 0, 90, 133, 97, 20, 0, 113, 101]
abbrev dktX21_advance_7 : List UInt8 := dkwX21_advance_7 ++ dktX21_advance_8
def dkwX21_advance_6 : List UInt8 := [182, 0, 90, 184, 0, 94, 153, 0, 62, 42, 42, 180, 0, 84, 42, 180, 0, 87, 100, 16, 8, 162, 0, 28]
abbrev dktX21_advance_6 : List UInt8 := dkwX21_advance_6 ++ dktX21_advance_7
def dkwX21_advance_5 : List UInt8 := [89, 180, 0, 84, 4, 96, 181, 0, 84, 42, 180, 0, 101, 4, 160, 0, 76, 42, 42, 180, 0, 84]
abbrev dktX21_advance_5 : List UInt8 := dkwX21_advance_5 ++ dktX21_advance_6
def dkwX21_advance_4 : List UInt8 := [180, 0, 101, 5, 160, 0, 7, 3, 167, 0, 4, 27, 181, 0, 108, 42, 180, 0, 101, 6, 160, 0, 13, 42]
abbrev dktX21_advance_4 : List UInt8 := dkwX21_advance_4 ++ dktX21_advance_5
def dkwX21_advance_3 : List UInt8 := [27, 184, 0, 98, 153, 0, 7, 5, 167, 0, 4, 6, 181, 0, 101, 42, 9, 181, 0, 104, 42, 42]
abbrev dktX21_advance_3 : List UInt8 := dkwX21_advance_3 ++ dktX21_advance_4
def dkwX21_advance_2 : List UInt8 := [182, 0, 90, 60, 42, 27, 156, 0, 7, 3, 167, 0, 26, 27, 184, 0, 94, 153, 0, 7, 4, 167, 0, 15]
abbrev dktX21_advance_2 : List UInt8 := dkwX21_advance_2 ++ dktX21_advance_3
def dkwX21_advance_1 : List UInt8 := [180, 0, 87, 4, 96, 181, 0, 87, 167, 255, 233, 42, 42, 180, 0, 87, 181, 0, 84, 42, 42, 180, 0, 87]
abbrev dktX21_advance_1 : List UInt8 := dkwX21_advance_1 ++ dktX21_advance_2
def dkwX21_advance_0 : List UInt8 := [42, 42, 180, 0, 84, 181, 0, 87, 42, 42, 180, 0, 87, 182, 0, 90, 16, 32, 160, 0, 16, 42, 89]
abbrev dktX21_advance_0 : List UInt8 := dkwX21_advance_0 ++ dktX21_advance_1
theorem dksX21_advance_0 : cX21_advance.data.toList.drop 0 = dktX21_advance_0 := by decide +kernel
theorem dksX21_advance_1 : cX21_advance.data.toList.drop 23 = dktX21_advance_1 := dk_seg dksX21_advance_0 23 rfl rfl
theorem dksX21_advance_2 : cX21_advance.data.toList.drop 47 = dktX21_advance_2 := dk_seg dksX21_advance_1 24 rfl rfl
theorem dksX21_advance_3 : cX21_advance.data.toList.drop 71 = dktX21_advance_3 := dk_seg dksX21_advance_2 24 rfl rfl
theorem dksX21_advance_4 : cX21_advance.data.toList.drop 93 = dktX21_advance_4 := dk_seg dksX21_advance_3 22 rfl rfl
theorem dksX21_advance_5 : cX21_advance.data.toList.drop 117 = dktX21_advance_5 := dk_seg dksX21_advance_4 24 rfl rfl
theorem dksX21_advance_6 : cX21_advance.data.toList.drop 139 = dktX21_advance_6 := dk_seg dksX21_advance_5 22 rfl rfl
theorem dksX21_advance_7 : cX21_advance.data.toList.drop 163 = dktX21_advance_7 := dk_seg dksX21_advance_6 24 rfl rfl
theorem dksX21_advance_8 : cX21_advance.data.toList.drop 185 = dktX21_advance_8 := dk_seg dksX21_advance_7 22 rfl rfl
theorem dksX21_advance_9 : cX21_advance.data.toList.drop 208 = dktX21_advance_9 := dk_seg dksX21_advance_8 23 rfl rfl
theorem dksX21_advance_10 : cX21_advance.data.toList.drop 231 = dktX21_advance_10 := dk_seg dksX21_advance_9 23 rfl rfl
theorem dksX21_advance_11 : cX21_advance.data.toList.drop 255 = dktX21_advance_11 := dk_seg dksX21_advance_10 24 rfl rfl
theorem dksX21_advance_12 : cX21_advance.data.toList.drop 279 = dktX21_advance_12 := dk_seg dksX21_advance_11 24 rfl rfl
theorem dX21_advance_0 : decode cX21_advance 0 = .ok (.aload_n 0, 1) := dk_42 (dk_at dksX21_advance_0 0 rfl rfl)
theorem dX21_advance_1 : decode cX21_advance 1 = .ok (.aload_n 0, 1) := dk_42 (dk_at dksX21_advance_0 1 rfl rfl)
theorem dX21_advance_2 : decode cX21_advance 2 = .ok (.getfield 84, 3) := dk_180 0 84 (dk_at dksX21_advance_0 2 rfl rfl)
theorem dX21_advance_5 : decode cX21_advance 5 = .ok (.putfield 87, 3) := dk_181 0 87 (dk_at dksX21_advance_0 5 rfl rfl)
theorem dX21_advance_8 : decode cX21_advance 8 = .ok (.aload_n 0, 1) := dk_42 (dk_at dksX21_advance_0 8 rfl rfl)
theorem dX21_advance_9 : decode cX21_advance 9 = .ok (.aload_n 0, 1) := dk_42 (dk_at dksX21_advance_0 9 rfl rfl)
theorem dX21_advance_10 : decode cX21_advance 10 = .ok (.getfield 87, 3) := dk_180 0 87 (dk_at dksX21_advance_0 10 rfl rfl)
theorem dX21_advance_13 : decode cX21_advance 13 = .ok (.invokevirtual 90, 3) := dk_182 0 90 (dk_at dksX21_advance_0 13 rfl rfl)
theorem dX21_advance_16 : decode cX21_advance 16 = .ok (.bipush 32, 2) := dk_16 32 (dk_at dksX21_advance_0 16 rfl rfl)
theorem dX21_advance_18 : decode cX21_advance 18 = .ok (.if_icmp .ne 16, 3) := dk_160 0 16 (dk_at dksX21_advance_0 18 rfl rfl)
theorem dX21_advance_21 : decode cX21_advance 21 = .ok (.aload_n 0, 1) := dk_42 (dk_at dksX21_advance_0 21 rfl rfl)
theorem dX21_advance_22 : decode cX21_advance 22 = .ok (.dup, 1) := dk_89 (dk_at dksX21_advance_0 22 rfl rfl)
theorem dX21_advance_23 : decode cX21_advance 23 = .ok (.getfield 87, 3) := dk_180 0 87 (dk_at dksX21_advance_1 0 rfl rfl)
theorem dX21_advance_26 : decode cX21_advance 26 = .ok (.iconst 1, 1) := dk_4 (dk_at dksX21_advance_1 3 rfl rfl)
theorem dX21_advance_27 : decode cX21_advance 27 = .ok (.iadd, 1) := dk_96 (dk_at dksX21_advance_1 4 rfl rfl)
theorem dX21_advance_28 : decode cX21_advance 28 = .ok (.putfield 87, 3) := dk_181 0 87 (dk_at dksX21_advance_1 5 rfl rfl)
theorem dX21_advance_31 : decode cX21_advance 31 = .ok (.goto (-23), 3) := dk_167 255 233 (dk_at dksX21_advance_1 8 rfl rfl)
theorem dX21_advance_34 : decode cX21_advance 34 = .ok (.aload_n 0, 1) := dk_42 (dk_at dksX21_advance_1 11 rfl rfl)
theorem dX21_advance_35 : decode cX21_advance 35 = .ok (.aload_n 0, 1) := dk_42 (dk_at dksX21_advance_1 12 rfl rfl)
theorem dX21_advance_36 : decode cX21_advance 36 = .ok (.getfield 87, 3) := dk_180 0 87 (dk_at dksX21_advance_1 13 rfl rfl)
theorem dX21_advance_39 : decode cX21_advance 39 = .ok (.putfield 84, 3) := dk_181 0 84 (dk_at dksX21_advance_1 16 rfl rfl)
theorem dX21_advance_42 : decode cX21_advance 42 = .ok (.aload_n 0, 1) := dk_42 (dk_at dksX21_advance_1 19 rfl rfl)
theorem dX21_advance_43 : decode cX21_advance 43 = .ok (.aload_n 0, 1) := dk_42 (dk_at dksX21_advance_1 20 rfl rfl)
theorem dX21_advance_44 : decode cX21_advance 44 = .ok (.getfield 87, 3) := dk_180 0 87 (dk_at dksX21_advance_1 21 rfl rfl)
theorem dX21_advance_47 : decode cX21_advance 47 = .ok (.invokevirtual 90, 3) := dk_182 0 90 (dk_at dksX21_advance_2 0 rfl rfl)
theorem dX21_advance_50 : decode cX21_advance 50 = .ok (.istore_n 1, 1) := dk_60 (dk_at dksX21_advance_2 3 rfl rfl)
theorem dX21_advance_51 : decode cX21_advance 51 = .ok (.aload_n 0, 1) := dk_42 (dk_at dksX21_advance_2 4 rfl rfl)
theorem dX21_advance_52 : decode cX21_advance 52 = .ok (.iload_n 1, 1) := dk_27 (dk_at dksX21_advance_2 5 rfl rfl)
theorem dX21_advance_53 : decode cX21_advance 53 = .ok (.ifCond .ge 7, 3) := dk_156 0 7 (dk_at dksX21_advance_2 6 rfl rfl)
theorem dX21_advance_56 : decode cX21_advance 56 = .ok (.iconst 0, 1) := dk_3 (dk_at dksX21_advance_2 9 rfl rfl)
theorem dX21_advance_57 : decode cX21_advance 57 = .ok (.goto 26, 3) := dk_167 0 26 (dk_at dksX21_advance_2 10 rfl rfl)
theorem dX21_advance_60 : decode cX21_advance 60 = .ok (.iload_n 1, 1) := dk_27 (dk_at dksX21_advance_2 13 rfl rfl)
theorem dX21_advance_61 : decode cX21_advance 61 = .ok (.invokestatic 94, 3) := dk_184 0 94 (dk_at dksX21_advance_2 14 rfl rfl)
theorem dX21_advance_64 : decode cX21_advance 64 = .ok (.ifCond .eq 7, 3) := dk_153 0 7 (dk_at dksX21_advance_2 17 rfl rfl)
theorem dX21_advance_67 : decode cX21_advance 67 = .ok (.iconst 1, 1) := dk_4 (dk_at dksX21_advance_2 20 rfl rfl)
theorem dX21_advance_68 : decode cX21_advance 68 = .ok (.goto 15, 3) := dk_167 0 15 (dk_at dksX21_advance_2 21 rfl rfl)
theorem dX21_advance_71 : decode cX21_advance 71 = .ok (.iload_n 1, 1) := dk_27 (dk_at dksX21_advance_3 0 rfl rfl)
theorem dX21_advance_72 : decode cX21_advance 72 = .ok (.invokestatic 98, 3) := dk_184 0 98 (dk_at dksX21_advance_3 1 rfl rfl)
theorem dX21_advance_75 : decode cX21_advance 75 = .ok (.ifCond .eq 7, 3) := dk_153 0 7 (dk_at dksX21_advance_3 4 rfl rfl)
theorem dX21_advance_78 : decode cX21_advance 78 = .ok (.iconst 2, 1) := dk_5 (dk_at dksX21_advance_3 7 rfl rfl)
theorem dX21_advance_79 : decode cX21_advance 79 = .ok (.goto 4, 3) := dk_167 0 4 (dk_at dksX21_advance_3 8 rfl rfl)
theorem dX21_advance_82 : decode cX21_advance 82 = .ok (.iconst 3, 1) := dk_6 (dk_at dksX21_advance_3 11 rfl rfl)
theorem dX21_advance_83 : decode cX21_advance 83 = .ok (.putfield 101, 3) := dk_181 0 101 (dk_at dksX21_advance_3 12 rfl rfl)
theorem dX21_advance_86 : decode cX21_advance 86 = .ok (.aload_n 0, 1) := dk_42 (dk_at dksX21_advance_3 15 rfl rfl)
theorem dX21_advance_87 : decode cX21_advance 87 = .ok (.lconst 0, 1) := dk_9 (dk_at dksX21_advance_3 16 rfl rfl)
theorem dX21_advance_88 : decode cX21_advance 88 = .ok (.putfield 104, 3) := dk_181 0 104 (dk_at dksX21_advance_3 17 rfl rfl)
theorem dX21_advance_91 : decode cX21_advance 91 = .ok (.aload_n 0, 1) := dk_42 (dk_at dksX21_advance_3 20 rfl rfl)
theorem dX21_advance_92 : decode cX21_advance 92 = .ok (.aload_n 0, 1) := dk_42 (dk_at dksX21_advance_3 21 rfl rfl)
theorem dX21_advance_93 : decode cX21_advance 93 = .ok (.getfield 101, 3) := dk_180 0 101 (dk_at dksX21_advance_4 0 rfl rfl)
theorem dX21_advance_96 : decode cX21_advance 96 = .ok (.iconst 2, 1) := dk_5 (dk_at dksX21_advance_4 3 rfl rfl)
theorem dX21_advance_97 : decode cX21_advance 97 = .ok (.if_icmp .ne 7, 3) := dk_160 0 7 (dk_at dksX21_advance_4 4 rfl rfl)
theorem dX21_advance_100 : decode cX21_advance 100 = .ok (.iconst 0, 1) := dk_3 (dk_at dksX21_advance_4 7 rfl rfl)
theorem dX21_advance_101 : decode cX21_advance 101 = .ok (.goto 4, 3) := dk_167 0 4 (dk_at dksX21_advance_4 8 rfl rfl)
theorem dX21_advance_104 : decode cX21_advance 104 = .ok (.iload_n 1, 1) := dk_27 (dk_at dksX21_advance_4 11 rfl rfl)
theorem dX21_advance_105 : decode cX21_advance 105 = .ok (.putfield 108, 3) := dk_181 0 108 (dk_at dksX21_advance_4 12 rfl rfl)
theorem dX21_advance_108 : decode cX21_advance 108 = .ok (.aload_n 0, 1) := dk_42 (dk_at dksX21_advance_4 15 rfl rfl)
theorem dX21_advance_109 : decode cX21_advance 109 = .ok (.getfield 101, 3) := dk_180 0 101 (dk_at dksX21_advance_4 16 rfl rfl)
theorem dX21_advance_112 : decode cX21_advance 112 = .ok (.iconst 3, 1) := dk_6 (dk_at dksX21_advance_4 19 rfl rfl)
theorem dX21_advance_113 : decode cX21_advance 113 = .ok (.if_icmp .ne 13, 3) := dk_160 0 13 (dk_at dksX21_advance_4 20 rfl rfl)
theorem dX21_advance_116 : decode cX21_advance 116 = .ok (.aload_n 0, 1) := dk_42 (dk_at dksX21_advance_4 23 rfl rfl)
theorem dX21_advance_117 : decode cX21_advance 117 = .ok (.dup, 1) := dk_89 (dk_at dksX21_advance_5 0 rfl rfl)
theorem dX21_advance_118 : decode cX21_advance 118 = .ok (.getfield 84, 3) := dk_180 0 84 (dk_at dksX21_advance_5 1 rfl rfl)
theorem dX21_advance_121 : decode cX21_advance 121 = .ok (.iconst 1, 1) := dk_4 (dk_at dksX21_advance_5 4 rfl rfl)
theorem dX21_advance_122 : decode cX21_advance 122 = .ok (.iadd, 1) := dk_96 (dk_at dksX21_advance_5 5 rfl rfl)
theorem dX21_advance_123 : decode cX21_advance 123 = .ok (.putfield 84, 3) := dk_181 0 84 (dk_at dksX21_advance_5 6 rfl rfl)
theorem dX21_advance_126 : decode cX21_advance 126 = .ok (.aload_n 0, 1) := dk_42 (dk_at dksX21_advance_5 9 rfl rfl)
theorem dX21_advance_127 : decode cX21_advance 127 = .ok (.getfield 101, 3) := dk_180 0 101 (dk_at dksX21_advance_5 10 rfl rfl)
theorem dX21_advance_130 : decode cX21_advance 130 = .ok (.iconst 1, 1) := dk_4 (dk_at dksX21_advance_5 13 rfl rfl)
theorem dX21_advance_131 : decode cX21_advance 131 = .ok (.if_icmp .ne 76, 3) := dk_160 0 76 (dk_at dksX21_advance_5 14 rfl rfl)
theorem dX21_advance_134 : decode cX21_advance 134 = .ok (.aload_n 0, 1) := dk_42 (dk_at dksX21_advance_5 17 rfl rfl)
theorem dX21_advance_135 : decode cX21_advance 135 = .ok (.aload_n 0, 1) := dk_42 (dk_at dksX21_advance_5 18 rfl rfl)
theorem dX21_advance_136 : decode cX21_advance 136 = .ok (.getfield 84, 3) := dk_180 0 84 (dk_at dksX21_advance_5 19 rfl rfl)
theorem dX21_advance_139 : decode cX21_advance 139 = .ok (.invokevirtual 90, 3) := dk_182 0 90 (dk_at dksX21_advance_6 0 rfl rfl)
theorem dX21_advance_142 : decode cX21_advance 142 = .ok (.invokestatic 94, 3) := dk_184 0 94 (dk_at dksX21_advance_6 3 rfl rfl)
theorem dX21_advance_145 : decode cX21_advance 145 = .ok (.ifCond .eq 62, 3) := dk_153 0 62 (dk_at dksX21_advance_6 6 rfl rfl)
theorem dX21_advance_148 : decode cX21_advance 148 = .ok (.aload_n 0, 1) := dk_42 (dk_at dksX21_advance_6 9 rfl rfl)
theorem dX21_advance_149 : decode cX21_advance 149 = .ok (.aload_n 0, 1) := dk_42 (dk_at dksX21_advance_6 10 rfl rfl)
theorem dX21_advance_150 : decode cX21_advance 150 = .ok (.getfield 84, 3) := dk_180 0 84 (dk_at dksX21_advance_6 11 rfl rfl)
theorem dX21_advance_153 : decode cX21_advance 153 = .ok (.aload_n 0, 1) := dk_42 (dk_at dksX21_advance_6 14 rfl rfl)
theorem dX21_advance_154 : decode cX21_advance 154 = .ok (.getfield 87, 3) := dk_180 0 87 (dk_at dksX21_advance_6 15 rfl rfl)
theorem dX21_advance_157 : decode cX21_advance 157 = .ok (.isub, 1) := dk_100 (dk_at dksX21_advance_6 18 rfl rfl)
theorem dX21_advance_158 : decode cX21_advance 158 = .ok (.bipush 8, 2) := dk_16 8 (dk_at dksX21_advance_6 19 rfl rfl)
theorem dX21_advance_160 : decode cX21_advance 160 = .ok (.if_icmp .ge 28, 3) := dk_162 0 28 (dk_at dksX21_advance_6 21 rfl rfl)
theorem dX21_advance_163 : decode cX21_advance 163 = .ok (.ldc2_w 111, 3) := dk_20 0 111 (dk_at dksX21_advance_7 0 rfl rfl)
theorem dX21_advance_166 : decode cX21_advance 166 = .ok (.aload_n 0, 1) := dk_42 (dk_at dksX21_advance_7 3 rfl rfl)
theorem dX21_advance_167 : decode cX21_advance 167 = .ok (.getfield 104, 3) := dk_180 0 104 (dk_at dksX21_advance_7 4 rfl rfl)
theorem dX21_advance_170 : decode cX21_advance 170 = .ok (.lmul, 1) := dk_105 (dk_at dksX21_advance_7 7 rfl rfl)
theorem dX21_advance_171 : decode cX21_advance 171 = .ok (.aload_n 0, 1) := dk_42 (dk_at dksX21_advance_7 8 rfl rfl)
theorem dX21_advance_172 : decode cX21_advance 172 = .ok (.aload_n 0, 1) := dk_42 (dk_at dksX21_advance_7 9 rfl rfl)
theorem dX21_advance_173 : decode cX21_advance 173 = .ok (.getfield 84, 3) := dk_180 0 84 (dk_at dksX21_advance_7 10 rfl rfl)
theorem dX21_advance_176 : decode cX21_advance 176 = .ok (.invokevirtual 90, 3) := dk_182 0 90 (dk_at dksX21_advance_7 13 rfl rfl)
theorem dX21_advance_179 : decode cX21_advance 179 = .ok (.i2l, 1) := dk_133 (dk_at dksX21_advance_7 16 rfl rfl)
theorem dX21_advance_180 : decode cX21_advance 180 = .ok (.ladd, 1) := dk_97 (dk_at dksX21_advance_7 17 rfl rfl)
theorem dX21_advance_181 : decode cX21_advance 181 = .ok (.ldc2_w 113, 3) := dk_20 0 113 (dk_at dksX21_advance_7 18 rfl rfl)
theorem dX21_advance_184 : decode cX21_advance 184 = .ok (.lsub, 1) := dk_101 (dk_at dksX21_advance_7 21 rfl rfl)
theorem dX21_advance_185 : decode cX21_advance 185 = .ok (.goto 6, 3) := dk_167 0 6 (dk_at dksX21_advance_8 0 rfl rfl)
theorem dX21_advance_188 : decode cX21_advance 188 = .ok (.ldc2_w 115, 3) := dk_20 0 115 (dk_at dksX21_advance_8 3 rfl rfl)
theorem dX21_advance_191 : decode cX21_advance 191 = .ok (.putfield 104, 3) := dk_181 0 104 (dk_at dksX21_advance_8 6 rfl rfl)
theorem dX21_advance_194 : decode cX21_advance 194 = .ok (.aload_n 0, 1) := dk_42 (dk_at dksX21_advance_8 9 rfl rfl)
theorem dX21_advance_195 : decode cX21_advance 195 = .ok (.dup, 1) := dk_89 (dk_at dksX21_advance_8 10 rfl rfl)
theorem dX21_advance_196 : decode cX21_advance 196 = .ok (.getfield 84, 3) := dk_180 0 84 (dk_at dksX21_advance_8 11 rfl rfl)
theorem dX21_advance_199 : decode cX21_advance 199 = .ok (.iconst 1, 1) := dk_4 (dk_at dksX21_advance_8 14 rfl rfl)
theorem dX21_advance_200 : decode cX21_advance 200 = .ok (.iadd, 1) := dk_96 (dk_at dksX21_advance_8 15 rfl rfl)
theorem dX21_advance_201 : decode cX21_advance 201 = .ok (.putfield 84, 3) := dk_181 0 84 (dk_at dksX21_advance_8 16 rfl rfl)
theorem dX21_advance_204 : decode cX21_advance 204 = .ok (.goto (-78), 3) := dk_167 255 178 (dk_at dksX21_advance_8 19 rfl rfl)
theorem dX21_advance_207 : decode cX21_advance 207 = .ok (.aload_n 0, 1) := dk_42 (dk_at dksX21_advance_8 22 rfl rfl)
theorem dX21_advance_208 : decode cX21_advance 208 = .ok (.getfield 101, 3) := dk_180 0 101 (dk_at dksX21_advance_9 0 rfl rfl)
theorem dX21_advance_211 : decode cX21_advance 211 = .ok (.iconst 2, 1) := dk_5 (dk_at dksX21_advance_9 3 rfl rfl)
theorem dX21_advance_212 : decode cX21_advance 212 = .ok (.if_icmp .ne 70, 3) := dk_160 0 70 (dk_at dksX21_advance_9 4 rfl rfl)
theorem dX21_advance_215 : decode cX21_advance 215 = .ok (.aload_n 0, 1) := dk_42 (dk_at dksX21_advance_9 7 rfl rfl)
theorem dX21_advance_216 : decode cX21_advance 216 = .ok (.aload_n 0, 1) := dk_42 (dk_at dksX21_advance_9 8 rfl rfl)
theorem dX21_advance_217 : decode cX21_advance 217 = .ok (.getfield 84, 3) := dk_180 0 84 (dk_at dksX21_advance_9 9 rfl rfl)
theorem dX21_advance_220 : decode cX21_advance 220 = .ok (.invokevirtual 90, 3) := dk_182 0 90 (dk_at dksX21_advance_9 12 rfl rfl)
theorem dX21_advance_223 : decode cX21_advance 223 = .ok (.invokestatic 98, 3) := dk_184 0 98 (dk_at dksX21_advance_9 15 rfl rfl)
theorem dX21_advance_226 : decode cX21_advance 226 = .ok (.ifCond .eq 56, 3) := dk_153 0 56 (dk_at dksX21_advance_9 18 rfl rfl)
theorem dX21_advance_229 : decode cX21_advance 229 = .ok (.aload_n 0, 1) := dk_42 (dk_at dksX21_advance_9 21 rfl rfl)
theorem dX21_advance_230 : decode cX21_advance 230 = .ok (.aload_n 0, 1) := dk_42 (dk_at dksX21_advance_9 22 rfl rfl)
theorem dX21_advance_231 : decode cX21_advance 231 = .ok (.getfield 84, 3) := dk_180 0 84 (dk_at dksX21_advance_10 0 rfl rfl)
theorem dX21_advance_234 : decode cX21_advance 234 = .ok (.aload_n 0, 1) := dk_42 (dk_at dksX21_advance_10 3 rfl rfl)
theorem dX21_advance_235 : decode cX21_advance 235 = .ok (.getfield 87, 3) := dk_180 0 87 (dk_at dksX21_advance_10 4 rfl rfl)
theorem dX21_advance_238 : decode cX21_advance 238 = .ok (.isub, 1) := dk_100 (dk_at dksX21_advance_10 7 rfl rfl)
theorem dX21_advance_239 : decode cX21_advance 239 = .ok (.iconst 2, 1) := dk_5 (dk_at dksX21_advance_10 8 rfl rfl)
theorem dX21_advance_240 : decode cX21_advance 240 = .ok (.if_icmp .ge 25, 3) := dk_162 0 25 (dk_at dksX21_advance_10 9 rfl rfl)
theorem dX21_advance_243 : decode cX21_advance 243 = .ok (.bipush 10, 2) := dk_16 10 (dk_at dksX21_advance_10 12 rfl rfl)
theorem dX21_advance_245 : decode cX21_advance 245 = .ok (.aload_n 0, 1) := dk_42 (dk_at dksX21_advance_10 14 rfl rfl)
theorem dX21_advance_246 : decode cX21_advance 246 = .ok (.getfield 108, 3) := dk_180 0 108 (dk_at dksX21_advance_10 15 rfl rfl)
theorem dX21_advance_249 : decode cX21_advance 249 = .ok (.imul, 1) := dk_104 (dk_at dksX21_advance_10 18 rfl rfl)
theorem dX21_advance_250 : decode cX21_advance 250 = .ok (.aload_n 0, 1) := dk_42 (dk_at dksX21_advance_10 19 rfl rfl)
theorem dX21_advance_251 : decode cX21_advance 251 = .ok (.aload_n 0, 1) := dk_42 (dk_at dksX21_advance_10 20 rfl rfl)
theorem dX21_advance_252 : decode cX21_advance 252 = .ok (.getfield 84, 3) := dk_180 0 84 (dk_at dksX21_advance_10 21 rfl rfl)
theorem dX21_advance_255 : decode cX21_advance 255 = .ok (.invokevirtual 90, 3) := dk_182 0 90 (dk_at dksX21_advance_11 0 rfl rfl)
theorem dX21_advance_258 : decode cX21_advance 258 = .ok (.iadd, 1) := dk_96 (dk_at dksX21_advance_11 3 rfl rfl)
theorem dX21_advance_259 : decode cX21_advance 259 = .ok (.bipush 48, 2) := dk_16 48 (dk_at dksX21_advance_11 4 rfl rfl)
theorem dX21_advance_261 : decode cX21_advance 261 = .ok (.isub, 1) := dk_100 (dk_at dksX21_advance_11 6 rfl rfl)
theorem dX21_advance_262 : decode cX21_advance 262 = .ok (.goto 4, 3) := dk_167 0 4 (dk_at dksX21_advance_11 7 rfl rfl)
theorem dX21_advance_265 : decode cX21_advance 265 = .ok (.iconst (-1), 1) := dk_2 (dk_at dksX21_advance_11 10 rfl rfl)
theorem dX21_advance_266 : decode cX21_advance 266 = .ok (.putfield 108, 3) := dk_181 0 108 (dk_at dksX21_advance_11 11 rfl rfl)
theorem dX21_advance_269 : decode cX21_advance 269 = .ok (.aload_n 0, 1) := dk_42 (dk_at dksX21_advance_11 14 rfl rfl)
theorem dX21_advance_270 : decode cX21_advance 270 = .ok (.dup, 1) := dk_89 (dk_at dksX21_advance_11 15 rfl rfl)
theorem dX21_advance_271 : decode cX21_advance 271 = .ok (.getfield 84, 3) := dk_180 0 84 (dk_at dksX21_advance_11 16 rfl rfl)
theorem dX21_advance_274 : decode cX21_advance 274 = .ok (.iconst 1, 1) := dk_4 (dk_at dksX21_advance_11 19 rfl rfl)
theorem dX21_advance_275 : decode cX21_advance 275 = .ok (.iadd, 1) := dk_96 (dk_at dksX21_advance_11 20 rfl rfl)
theorem dX21_advance_276 : decode cX21_advance 276 = .ok (.putfield 84, 3) := dk_181 0 84 (dk_at dksX21_advance_11 21 rfl rfl)
theorem dX21_advance_279 : decode cX21_advance 279 = .ok (.goto (-72), 3) := dk_167 255 184 (dk_at dksX21_advance_12 0 rfl rfl)
theorem dX21_advance_282 : decode cX21_advance 282 = .ok (.return_, 1) := dk_177 (dk_at dksX21_advance_12 3 rfl rfl)
abbrev cX21_byteAt : ByteArray := prog_33_method_13_code
def yX21_byteAt : MethodName := ⟨RX21, "byteAt", "(I)I"⟩
def dkwX21_byteAt_0 : List UInt8 := [27, 42, 180, 0, 79, 162, 0, 12, 42, 180, 0, 35, 27, 46, 167, 0, 4, 2, 172]
abbrev dktX21_byteAt_0 : List UInt8 := dkwX21_byteAt_0 ++ []
theorem dksX21_byteAt_0 : cX21_byteAt.data.toList.drop 0 = dktX21_byteAt_0 := by decide +kernel
theorem dX21_byteAt_0 : decode cX21_byteAt 0 = .ok (.iload_n 1, 1) := dk_27 (dk_at dksX21_byteAt_0 0 rfl rfl)
theorem dX21_byteAt_1 : decode cX21_byteAt 1 = .ok (.aload_n 0, 1) := dk_42 (dk_at dksX21_byteAt_0 1 rfl rfl)
theorem dX21_byteAt_2 : decode cX21_byteAt 2 = .ok (.getfield 79, 3) := dk_180 0 79 (dk_at dksX21_byteAt_0 2 rfl rfl)
theorem dX21_byteAt_5 : decode cX21_byteAt 5 = .ok (.if_icmp .ge 12, 3) := dk_162 0 12 (dk_at dksX21_byteAt_0 5 rfl rfl)
theorem dX21_byteAt_8 : decode cX21_byteAt 8 = .ok (.aload_n 0, 1) := dk_42 (dk_at dksX21_byteAt_0 8 rfl rfl)
theorem dX21_byteAt_9 : decode cX21_byteAt 9 = .ok (.getfield 35, 3) := dk_180 0 35 (dk_at dksX21_byteAt_0 9 rfl rfl)
theorem dX21_byteAt_12 : decode cX21_byteAt 12 = .ok (.iload_n 1, 1) := dk_27 (dk_at dksX21_byteAt_0 12 rfl rfl)
theorem dX21_byteAt_13 : decode cX21_byteAt 13 = .ok (.iaload, 1) := dk_46 (dk_at dksX21_byteAt_0 13 rfl rfl)
theorem dX21_byteAt_14 : decode cX21_byteAt 14 = .ok (.goto 4, 3) := dk_167 0 4 (dk_at dksX21_byteAt_0 14 rfl rfl)
theorem dX21_byteAt_17 : decode cX21_byteAt 17 = .ok (.iconst (-1), 1) := dk_2 (dk_at dksX21_byteAt_0 17 rfl rfl)
theorem dX21_byteAt_18 : decode cX21_byteAt 18 = .ok (.ireturn, 1) := dk_172 (dk_at dksX21_byteAt_0 18 rfl rfl)
abbrev cX21_isLetter : ByteArray := prog_33_method_14_code
def yX21_isLetter : MethodName := ⟨RX21, "isLetter", "(I)Z"⟩
def dkwX21_isLetter_0 : List UInt8 := [26, 16, 97, 16, 122, 184, 0, 69, 172]
abbrev dktX21_isLetter_0 : List UInt8 := dkwX21_isLetter_0 ++ []
theorem dksX21_isLetter_0 : cX21_isLetter.data.toList.drop 0 = dktX21_isLetter_0 := by decide +kernel
theorem dX21_isLetter_0 : decode cX21_isLetter 0 = .ok (.iload_n 0, 1) := dk_26 (dk_at dksX21_isLetter_0 0 rfl rfl)
theorem dX21_isLetter_1 : decode cX21_isLetter 1 = .ok (.bipush 97, 2) := dk_16 97 (dk_at dksX21_isLetter_0 1 rfl rfl)
theorem dX21_isLetter_3 : decode cX21_isLetter 3 = .ok (.bipush 122, 2) := dk_16 122 (dk_at dksX21_isLetter_0 3 rfl rfl)
theorem dX21_isLetter_5 : decode cX21_isLetter 5 = .ok (.invokestatic 69, 3) := dk_184 0 69 (dk_at dksX21_isLetter_0 5 rfl rfl)
theorem dX21_isLetter_8 : decode cX21_isLetter 8 = .ok (.ireturn, 1) := dk_172 (dk_at dksX21_isLetter_0 8 rfl rfl)
abbrev cX21_isDigit : ByteArray := prog_33_method_15_code
def yX21_isDigit : MethodName := ⟨RX21, "isDigit", "(I)Z"⟩
def dkwX21_isDigit_0 : List UInt8 := [26, 16, 48, 16, 57, 184, 0, 69, 172]
abbrev dktX21_isDigit_0 : List UInt8 := dkwX21_isDigit_0 ++ []
theorem dksX21_isDigit_0 : cX21_isDigit.data.toList.drop 0 = dktX21_isDigit_0 := by decide +kernel
theorem dX21_isDigit_0 : decode cX21_isDigit 0 = .ok (.iload_n 0, 1) := dk_26 (dk_at dksX21_isDigit_0 0 rfl rfl)
theorem dX21_isDigit_1 : decode cX21_isDigit 1 = .ok (.bipush 48, 2) := dk_16 48 (dk_at dksX21_isDigit_0 1 rfl rfl)
theorem dX21_isDigit_3 : decode cX21_isDigit 3 = .ok (.bipush 57, 2) := dk_16 57 (dk_at dksX21_isDigit_0 3 rfl rfl)
theorem dX21_isDigit_5 : decode cX21_isDigit 5 = .ok (.invokestatic 69, 3) := dk_184 0 69 (dk_at dksX21_isDigit_0 5 rfl rfl)
theorem dX21_isDigit_8 : decode cX21_isDigit 8 = .ok (.ireturn, 1) := dk_172 (dk_at dksX21_isDigit_0 8 rfl rfl)
abbrev cX21_wantClause : ByteArray := prog_33_method_25_code
def yX21_wantClause : MethodName := ⟨RX21, "wantClause", "()V"⟩
def dkwX21_wantClause_6 : List UInt8 := [181, 0, 190, 42, 182, 0, 162, 167, 0, 8, 42, 3, 181, 0, 133, 177]
abbrev dktX21_wantClause_6 : List UInt8 := dkwX21_wantClause_6 ++ []
def dkwX21_wantClause_5 : List UInt8 := [167, 0, 39, 42, 20, 0, 188, 182, 0, 119, 153, 0, 24, 42, 182, 0, 137, 42, 42, 16, 9, 182, 0, 140]
abbrev dktX21_wantClause_5 : List UInt8 := dkwX21_wantClause_5 ++ dktX21_wantClause_6
def dkwX21_wantClause_4 : List UInt8 := [42, 6, 182, 0, 140, 60, 42, 182, 0, 162, 42, 180, 0, 133, 153, 0, 10, 42, 27, 4, 4, 182, 0, 183]
abbrev dktX21_wantClause_4 : List UInt8 := dkwX21_wantClause_4 ++ dktX21_wantClause_5
def dkwX21_wantClause_3 : List UInt8 := [167, 0, 87, 42, 20, 0, 186, 182, 0, 119, 153, 0, 41, 42, 182, 0, 137, 42, 20, 0, 146, 182, 0, 148]
abbrev dktX21_wantClause_3 : List UInt8 := dkwX21_wantClause_3 ++ dktX21_wantClause_4
def dkwX21_wantClause_2 : List UInt8 := [42, 6, 182, 0, 140, 61, 42, 182, 0, 162, 42, 180, 0, 133, 153, 0, 10, 42, 28, 3, 27, 182, 0, 183]
abbrev dktX21_wantClause_2 : List UInt8 := dkwX21_wantClause_2 ++ dktX21_wantClause_3
def dkwX21_wantClause_1 : List UInt8 := [182, 0, 119, 153, 0, 48, 42, 182, 0, 137, 42, 16, 99, 182, 0, 140, 60, 42, 20, 0, 146, 182, 0, 148]
abbrev dktX21_wantClause_1 : List UInt8 := dkwX21_wantClause_1 ++ dktX21_wantClause_2
def dkwX21_wantClause_0 : List UInt8 := [42, 182, 0, 173, 155, 0, 14, 42, 42, 182, 0, 173, 182, 0, 177, 167, 0, 142, 42, 20, 0, 181]
abbrev dktX21_wantClause_0 : List UInt8 := dkwX21_wantClause_0 ++ dktX21_wantClause_1
theorem dksX21_wantClause_0 : cX21_wantClause.data.toList.drop 0 = dktX21_wantClause_0 := by decide +kernel
theorem dksX21_wantClause_1 : cX21_wantClause.data.toList.drop 22 = dktX21_wantClause_1 := dk_seg dksX21_wantClause_0 22 rfl rfl
theorem dksX21_wantClause_2 : cX21_wantClause.data.toList.drop 46 = dktX21_wantClause_2 := dk_seg dksX21_wantClause_1 24 rfl rfl
theorem dksX21_wantClause_3 : cX21_wantClause.data.toList.drop 70 = dktX21_wantClause_3 := dk_seg dksX21_wantClause_2 24 rfl rfl
theorem dksX21_wantClause_4 : cX21_wantClause.data.toList.drop 94 = dktX21_wantClause_4 := dk_seg dksX21_wantClause_3 24 rfl rfl
theorem dksX21_wantClause_5 : cX21_wantClause.data.toList.drop 118 = dktX21_wantClause_5 := dk_seg dksX21_wantClause_4 24 rfl rfl
theorem dksX21_wantClause_6 : cX21_wantClause.data.toList.drop 142 = dktX21_wantClause_6 := dk_seg dksX21_wantClause_5 24 rfl rfl
theorem dX21_wantClause_0 : decode cX21_wantClause 0 = .ok (.aload_n 0, 1) := dk_42 (dk_at dksX21_wantClause_0 0 rfl rfl)
theorem dX21_wantClause_1 : decode cX21_wantClause 1 = .ok (.invokevirtual 173, 3) := dk_182 0 173 (dk_at dksX21_wantClause_0 1 rfl rfl)
theorem dX21_wantClause_4 : decode cX21_wantClause 4 = .ok (.ifCond .lt 14, 3) := dk_155 0 14 (dk_at dksX21_wantClause_0 4 rfl rfl)
theorem dX21_wantClause_7 : decode cX21_wantClause 7 = .ok (.aload_n 0, 1) := dk_42 (dk_at dksX21_wantClause_0 7 rfl rfl)
theorem dX21_wantClause_8 : decode cX21_wantClause 8 = .ok (.aload_n 0, 1) := dk_42 (dk_at dksX21_wantClause_0 8 rfl rfl)
theorem dX21_wantClause_9 : decode cX21_wantClause 9 = .ok (.invokevirtual 173, 3) := dk_182 0 173 (dk_at dksX21_wantClause_0 9 rfl rfl)
theorem dX21_wantClause_12 : decode cX21_wantClause 12 = .ok (.invokevirtual 177, 3) := dk_182 0 177 (dk_at dksX21_wantClause_0 12 rfl rfl)
theorem dX21_wantClause_15 : decode cX21_wantClause 15 = .ok (.goto 142, 3) := dk_167 0 142 (dk_at dksX21_wantClause_0 15 rfl rfl)
theorem dX21_wantClause_18 : decode cX21_wantClause 18 = .ok (.aload_n 0, 1) := dk_42 (dk_at dksX21_wantClause_0 18 rfl rfl)
theorem dX21_wantClause_19 : decode cX21_wantClause 19 = .ok (.ldc2_w 181, 3) := dk_20 0 181 (dk_at dksX21_wantClause_0 19 rfl rfl)
theorem dX21_wantClause_22 : decode cX21_wantClause 22 = .ok (.invokevirtual 119, 3) := dk_182 0 119 (dk_at dksX21_wantClause_1 0 rfl rfl)
theorem dX21_wantClause_25 : decode cX21_wantClause 25 = .ok (.ifCond .eq 48, 3) := dk_153 0 48 (dk_at dksX21_wantClause_1 3 rfl rfl)
theorem dX21_wantClause_28 : decode cX21_wantClause 28 = .ok (.aload_n 0, 1) := dk_42 (dk_at dksX21_wantClause_1 6 rfl rfl)
theorem dX21_wantClause_29 : decode cX21_wantClause 29 = .ok (.invokevirtual 137, 3) := dk_182 0 137 (dk_at dksX21_wantClause_1 7 rfl rfl)
theorem dX21_wantClause_32 : decode cX21_wantClause 32 = .ok (.aload_n 0, 1) := dk_42 (dk_at dksX21_wantClause_1 10 rfl rfl)
theorem dX21_wantClause_33 : decode cX21_wantClause 33 = .ok (.bipush 99, 2) := dk_16 99 (dk_at dksX21_wantClause_1 11 rfl rfl)
theorem dX21_wantClause_35 : decode cX21_wantClause 35 = .ok (.invokevirtual 140, 3) := dk_182 0 140 (dk_at dksX21_wantClause_1 13 rfl rfl)
theorem dX21_wantClause_38 : decode cX21_wantClause 38 = .ok (.istore_n 1, 1) := dk_60 (dk_at dksX21_wantClause_1 16 rfl rfl)
theorem dX21_wantClause_39 : decode cX21_wantClause 39 = .ok (.aload_n 0, 1) := dk_42 (dk_at dksX21_wantClause_1 17 rfl rfl)
theorem dX21_wantClause_40 : decode cX21_wantClause 40 = .ok (.ldc2_w 146, 3) := dk_20 0 146 (dk_at dksX21_wantClause_1 18 rfl rfl)
theorem dX21_wantClause_43 : decode cX21_wantClause 43 = .ok (.invokevirtual 148, 3) := dk_182 0 148 (dk_at dksX21_wantClause_1 21 rfl rfl)
theorem dX21_wantClause_46 : decode cX21_wantClause 46 = .ok (.aload_n 0, 1) := dk_42 (dk_at dksX21_wantClause_2 0 rfl rfl)
theorem dX21_wantClause_47 : decode cX21_wantClause 47 = .ok (.iconst 3, 1) := dk_6 (dk_at dksX21_wantClause_2 1 rfl rfl)
theorem dX21_wantClause_48 : decode cX21_wantClause 48 = .ok (.invokevirtual 140, 3) := dk_182 0 140 (dk_at dksX21_wantClause_2 2 rfl rfl)
theorem dX21_wantClause_51 : decode cX21_wantClause 51 = .ok (.istore_n 2, 1) := dk_61 (dk_at dksX21_wantClause_2 5 rfl rfl)
theorem dX21_wantClause_52 : decode cX21_wantClause 52 = .ok (.aload_n 0, 1) := dk_42 (dk_at dksX21_wantClause_2 6 rfl rfl)
theorem dX21_wantClause_53 : decode cX21_wantClause 53 = .ok (.invokevirtual 162, 3) := dk_182 0 162 (dk_at dksX21_wantClause_2 7 rfl rfl)
theorem dX21_wantClause_56 : decode cX21_wantClause 56 = .ok (.aload_n 0, 1) := dk_42 (dk_at dksX21_wantClause_2 10 rfl rfl)
theorem dX21_wantClause_57 : decode cX21_wantClause 57 = .ok (.getfield 133, 3) := dk_180 0 133 (dk_at dksX21_wantClause_2 11 rfl rfl)
theorem dX21_wantClause_60 : decode cX21_wantClause 60 = .ok (.ifCond .eq 10, 3) := dk_153 0 10 (dk_at dksX21_wantClause_2 14 rfl rfl)
theorem dX21_wantClause_63 : decode cX21_wantClause 63 = .ok (.aload_n 0, 1) := dk_42 (dk_at dksX21_wantClause_2 17 rfl rfl)
theorem dX21_wantClause_64 : decode cX21_wantClause 64 = .ok (.iload_n 2, 1) := dk_28 (dk_at dksX21_wantClause_2 18 rfl rfl)
theorem dX21_wantClause_65 : decode cX21_wantClause 65 = .ok (.iconst 0, 1) := dk_3 (dk_at dksX21_wantClause_2 19 rfl rfl)
theorem dX21_wantClause_66 : decode cX21_wantClause 66 = .ok (.iload_n 1, 1) := dk_27 (dk_at dksX21_wantClause_2 20 rfl rfl)
theorem dX21_wantClause_67 : decode cX21_wantClause 67 = .ok (.invokevirtual 183, 3) := dk_182 0 183 (dk_at dksX21_wantClause_2 21 rfl rfl)
theorem dX21_wantClause_70 : decode cX21_wantClause 70 = .ok (.goto 87, 3) := dk_167 0 87 (dk_at dksX21_wantClause_3 0 rfl rfl)
theorem dX21_wantClause_73 : decode cX21_wantClause 73 = .ok (.aload_n 0, 1) := dk_42 (dk_at dksX21_wantClause_3 3 rfl rfl)
theorem dX21_wantClause_74 : decode cX21_wantClause 74 = .ok (.ldc2_w 186, 3) := dk_20 0 186 (dk_at dksX21_wantClause_3 4 rfl rfl)
theorem dX21_wantClause_77 : decode cX21_wantClause 77 = .ok (.invokevirtual 119, 3) := dk_182 0 119 (dk_at dksX21_wantClause_3 7 rfl rfl)
theorem dX21_wantClause_80 : decode cX21_wantClause 80 = .ok (.ifCond .eq 41, 3) := dk_153 0 41 (dk_at dksX21_wantClause_3 10 rfl rfl)
theorem dX21_wantClause_83 : decode cX21_wantClause 83 = .ok (.aload_n 0, 1) := dk_42 (dk_at dksX21_wantClause_3 13 rfl rfl)
theorem dX21_wantClause_84 : decode cX21_wantClause 84 = .ok (.invokevirtual 137, 3) := dk_182 0 137 (dk_at dksX21_wantClause_3 14 rfl rfl)
theorem dX21_wantClause_87 : decode cX21_wantClause 87 = .ok (.aload_n 0, 1) := dk_42 (dk_at dksX21_wantClause_3 17 rfl rfl)
theorem dX21_wantClause_88 : decode cX21_wantClause 88 = .ok (.ldc2_w 146, 3) := dk_20 0 146 (dk_at dksX21_wantClause_3 18 rfl rfl)
theorem dX21_wantClause_91 : decode cX21_wantClause 91 = .ok (.invokevirtual 148, 3) := dk_182 0 148 (dk_at dksX21_wantClause_3 21 rfl rfl)
theorem dX21_wantClause_94 : decode cX21_wantClause 94 = .ok (.aload_n 0, 1) := dk_42 (dk_at dksX21_wantClause_4 0 rfl rfl)
theorem dX21_wantClause_95 : decode cX21_wantClause 95 = .ok (.iconst 3, 1) := dk_6 (dk_at dksX21_wantClause_4 1 rfl rfl)
theorem dX21_wantClause_96 : decode cX21_wantClause 96 = .ok (.invokevirtual 140, 3) := dk_182 0 140 (dk_at dksX21_wantClause_4 2 rfl rfl)
theorem dX21_wantClause_99 : decode cX21_wantClause 99 = .ok (.istore_n 1, 1) := dk_60 (dk_at dksX21_wantClause_4 5 rfl rfl)
theorem dX21_wantClause_100 : decode cX21_wantClause 100 = .ok (.aload_n 0, 1) := dk_42 (dk_at dksX21_wantClause_4 6 rfl rfl)
theorem dX21_wantClause_101 : decode cX21_wantClause 101 = .ok (.invokevirtual 162, 3) := dk_182 0 162 (dk_at dksX21_wantClause_4 7 rfl rfl)
theorem dX21_wantClause_104 : decode cX21_wantClause 104 = .ok (.aload_n 0, 1) := dk_42 (dk_at dksX21_wantClause_4 10 rfl rfl)
theorem dX21_wantClause_105 : decode cX21_wantClause 105 = .ok (.getfield 133, 3) := dk_180 0 133 (dk_at dksX21_wantClause_4 11 rfl rfl)
theorem dX21_wantClause_108 : decode cX21_wantClause 108 = .ok (.ifCond .eq 10, 3) := dk_153 0 10 (dk_at dksX21_wantClause_4 14 rfl rfl)
theorem dX21_wantClause_111 : decode cX21_wantClause 111 = .ok (.aload_n 0, 1) := dk_42 (dk_at dksX21_wantClause_4 17 rfl rfl)
theorem dX21_wantClause_112 : decode cX21_wantClause 112 = .ok (.iload_n 1, 1) := dk_27 (dk_at dksX21_wantClause_4 18 rfl rfl)
theorem dX21_wantClause_113 : decode cX21_wantClause 113 = .ok (.iconst 1, 1) := dk_4 (dk_at dksX21_wantClause_4 19 rfl rfl)
theorem dX21_wantClause_114 : decode cX21_wantClause 114 = .ok (.iconst 1, 1) := dk_4 (dk_at dksX21_wantClause_4 20 rfl rfl)
theorem dX21_wantClause_115 : decode cX21_wantClause 115 = .ok (.invokevirtual 183, 3) := dk_182 0 183 (dk_at dksX21_wantClause_4 21 rfl rfl)
theorem dX21_wantClause_118 : decode cX21_wantClause 118 = .ok (.goto 39, 3) := dk_167 0 39 (dk_at dksX21_wantClause_5 0 rfl rfl)
theorem dX21_wantClause_121 : decode cX21_wantClause 121 = .ok (.aload_n 0, 1) := dk_42 (dk_at dksX21_wantClause_5 3 rfl rfl)
theorem dX21_wantClause_122 : decode cX21_wantClause 122 = .ok (.ldc2_w 188, 3) := dk_20 0 188 (dk_at dksX21_wantClause_5 4 rfl rfl)
theorem dX21_wantClause_125 : decode cX21_wantClause 125 = .ok (.invokevirtual 119, 3) := dk_182 0 119 (dk_at dksX21_wantClause_5 7 rfl rfl)
theorem dX21_wantClause_128 : decode cX21_wantClause 128 = .ok (.ifCond .eq 24, 3) := dk_153 0 24 (dk_at dksX21_wantClause_5 10 rfl rfl)
theorem dX21_wantClause_131 : decode cX21_wantClause 131 = .ok (.aload_n 0, 1) := dk_42 (dk_at dksX21_wantClause_5 13 rfl rfl)
theorem dX21_wantClause_132 : decode cX21_wantClause 132 = .ok (.invokevirtual 137, 3) := dk_182 0 137 (dk_at dksX21_wantClause_5 14 rfl rfl)
theorem dX21_wantClause_135 : decode cX21_wantClause 135 = .ok (.aload_n 0, 1) := dk_42 (dk_at dksX21_wantClause_5 17 rfl rfl)
theorem dX21_wantClause_136 : decode cX21_wantClause 136 = .ok (.aload_n 0, 1) := dk_42 (dk_at dksX21_wantClause_5 18 rfl rfl)
theorem dX21_wantClause_137 : decode cX21_wantClause 137 = .ok (.bipush 9, 2) := dk_16 9 (dk_at dksX21_wantClause_5 19 rfl rfl)
theorem dX21_wantClause_139 : decode cX21_wantClause 139 = .ok (.invokevirtual 140, 3) := dk_182 0 140 (dk_at dksX21_wantClause_5 21 rfl rfl)
theorem dX21_wantClause_142 : decode cX21_wantClause 142 = .ok (.putfield 190, 3) := dk_181 0 190 (dk_at dksX21_wantClause_6 0 rfl rfl)
theorem dX21_wantClause_145 : decode cX21_wantClause 145 = .ok (.aload_n 0, 1) := dk_42 (dk_at dksX21_wantClause_6 3 rfl rfl)
theorem dX21_wantClause_146 : decode cX21_wantClause 146 = .ok (.invokevirtual 162, 3) := dk_182 0 162 (dk_at dksX21_wantClause_6 4 rfl rfl)
theorem dX21_wantClause_149 : decode cX21_wantClause 149 = .ok (.goto 8, 3) := dk_167 0 8 (dk_at dksX21_wantClause_6 7 rfl rfl)
theorem dX21_wantClause_152 : decode cX21_wantClause 152 = .ok (.aload_n 0, 1) := dk_42 (dk_at dksX21_wantClause_6 10 rfl rfl)
theorem dX21_wantClause_153 : decode cX21_wantClause 153 = .ok (.iconst 0, 1) := dk_3 (dk_at dksX21_wantClause_6 11 rfl rfl)
theorem dX21_wantClause_154 : decode cX21_wantClause 154 = .ok (.putfield 133, 3) := dk_181 0 133 (dk_at dksX21_wantClause_6 12 rfl rfl)
theorem dX21_wantClause_157 : decode cX21_wantClause 157 = .ok (.return_, 1) := dk_177 (dk_at dksX21_wantClause_6 15 rfl rfl)
abbrev cX21_stuffHere : ByteArray := prog_33_method_19_code
def yX21_stuffHere : MethodName := ⟨RX21, "stuffHere", "()I"⟩
def dkwX21_stuffHere_3 : List UInt8 := [42, 20, 0, 131, 182, 0, 119, 153, 0, 7, 8, 167, 0, 4, 2, 172]
abbrev dktX21_stuffHere_3 : List UInt8 := dkwX21_stuffHere_3 ++ []
def dkwX21_stuffHere_2 : List UInt8 := [182, 0, 119, 153, 0, 7, 6, 167, 0, 32, 42, 20, 0, 129, 182, 0, 119, 153, 0, 7, 7, 167, 0, 18]
abbrev dktX21_stuffHere_2 : List UInt8 := dkwX21_stuffHere_2 ++ dktX21_stuffHere_3
def dkwX21_stuffHere_1 : List UInt8 := [4, 167, 0, 60, 42, 20, 0, 125, 182, 0, 119, 153, 0, 7, 5, 167, 0, 46, 42, 20, 0, 127]
abbrev dktX21_stuffHere_1 : List UInt8 := dkwX21_stuffHere_1 ++ dktX21_stuffHere_2
def dkwX21_stuffHere_0 : List UInt8 := [42, 20, 0, 117, 182, 0, 119, 153, 0, 7, 3, 167, 0, 74, 42, 20, 0, 123, 182, 0, 119, 153, 0, 7]
abbrev dktX21_stuffHere_0 : List UInt8 := dkwX21_stuffHere_0 ++ dktX21_stuffHere_1
theorem dksX21_stuffHere_0 : cX21_stuffHere.data.toList.drop 0 = dktX21_stuffHere_0 := by decide +kernel
theorem dksX21_stuffHere_1 : cX21_stuffHere.data.toList.drop 24 = dktX21_stuffHere_1 := dk_seg dksX21_stuffHere_0 24 rfl rfl
theorem dksX21_stuffHere_2 : cX21_stuffHere.data.toList.drop 46 = dktX21_stuffHere_2 := dk_seg dksX21_stuffHere_1 22 rfl rfl
theorem dksX21_stuffHere_3 : cX21_stuffHere.data.toList.drop 70 = dktX21_stuffHere_3 := dk_seg dksX21_stuffHere_2 24 rfl rfl
theorem dX21_stuffHere_0 : decode cX21_stuffHere 0 = .ok (.aload_n 0, 1) := dk_42 (dk_at dksX21_stuffHere_0 0 rfl rfl)
theorem dX21_stuffHere_1 : decode cX21_stuffHere 1 = .ok (.ldc2_w 117, 3) := dk_20 0 117 (dk_at dksX21_stuffHere_0 1 rfl rfl)
theorem dX21_stuffHere_4 : decode cX21_stuffHere 4 = .ok (.invokevirtual 119, 3) := dk_182 0 119 (dk_at dksX21_stuffHere_0 4 rfl rfl)
theorem dX21_stuffHere_7 : decode cX21_stuffHere 7 = .ok (.ifCond .eq 7, 3) := dk_153 0 7 (dk_at dksX21_stuffHere_0 7 rfl rfl)
theorem dX21_stuffHere_10 : decode cX21_stuffHere 10 = .ok (.iconst 0, 1) := dk_3 (dk_at dksX21_stuffHere_0 10 rfl rfl)
theorem dX21_stuffHere_11 : decode cX21_stuffHere 11 = .ok (.goto 74, 3) := dk_167 0 74 (dk_at dksX21_stuffHere_0 11 rfl rfl)
theorem dX21_stuffHere_14 : decode cX21_stuffHere 14 = .ok (.aload_n 0, 1) := dk_42 (dk_at dksX21_stuffHere_0 14 rfl rfl)
theorem dX21_stuffHere_15 : decode cX21_stuffHere 15 = .ok (.ldc2_w 123, 3) := dk_20 0 123 (dk_at dksX21_stuffHere_0 15 rfl rfl)
theorem dX21_stuffHere_18 : decode cX21_stuffHere 18 = .ok (.invokevirtual 119, 3) := dk_182 0 119 (dk_at dksX21_stuffHere_0 18 rfl rfl)
theorem dX21_stuffHere_21 : decode cX21_stuffHere 21 = .ok (.ifCond .eq 7, 3) := dk_153 0 7 (dk_at dksX21_stuffHere_0 21 rfl rfl)
theorem dX21_stuffHere_24 : decode cX21_stuffHere 24 = .ok (.iconst 1, 1) := dk_4 (dk_at dksX21_stuffHere_1 0 rfl rfl)
theorem dX21_stuffHere_25 : decode cX21_stuffHere 25 = .ok (.goto 60, 3) := dk_167 0 60 (dk_at dksX21_stuffHere_1 1 rfl rfl)
theorem dX21_stuffHere_28 : decode cX21_stuffHere 28 = .ok (.aload_n 0, 1) := dk_42 (dk_at dksX21_stuffHere_1 4 rfl rfl)
theorem dX21_stuffHere_29 : decode cX21_stuffHere 29 = .ok (.ldc2_w 125, 3) := dk_20 0 125 (dk_at dksX21_stuffHere_1 5 rfl rfl)
theorem dX21_stuffHere_32 : decode cX21_stuffHere 32 = .ok (.invokevirtual 119, 3) := dk_182 0 119 (dk_at dksX21_stuffHere_1 8 rfl rfl)
theorem dX21_stuffHere_35 : decode cX21_stuffHere 35 = .ok (.ifCond .eq 7, 3) := dk_153 0 7 (dk_at dksX21_stuffHere_1 11 rfl rfl)
theorem dX21_stuffHere_38 : decode cX21_stuffHere 38 = .ok (.iconst 2, 1) := dk_5 (dk_at dksX21_stuffHere_1 14 rfl rfl)
theorem dX21_stuffHere_39 : decode cX21_stuffHere 39 = .ok (.goto 46, 3) := dk_167 0 46 (dk_at dksX21_stuffHere_1 15 rfl rfl)
theorem dX21_stuffHere_42 : decode cX21_stuffHere 42 = .ok (.aload_n 0, 1) := dk_42 (dk_at dksX21_stuffHere_1 18 rfl rfl)
theorem dX21_stuffHere_43 : decode cX21_stuffHere 43 = .ok (.ldc2_w 127, 3) := dk_20 0 127 (dk_at dksX21_stuffHere_1 19 rfl rfl)
theorem dX21_stuffHere_46 : decode cX21_stuffHere 46 = .ok (.invokevirtual 119, 3) := dk_182 0 119 (dk_at dksX21_stuffHere_2 0 rfl rfl)
theorem dX21_stuffHere_49 : decode cX21_stuffHere 49 = .ok (.ifCond .eq 7, 3) := dk_153 0 7 (dk_at dksX21_stuffHere_2 3 rfl rfl)
theorem dX21_stuffHere_52 : decode cX21_stuffHere 52 = .ok (.iconst 3, 1) := dk_6 (dk_at dksX21_stuffHere_2 6 rfl rfl)
theorem dX21_stuffHere_53 : decode cX21_stuffHere 53 = .ok (.goto 32, 3) := dk_167 0 32 (dk_at dksX21_stuffHere_2 7 rfl rfl)
theorem dX21_stuffHere_56 : decode cX21_stuffHere 56 = .ok (.aload_n 0, 1) := dk_42 (dk_at dksX21_stuffHere_2 10 rfl rfl)
theorem dX21_stuffHere_57 : decode cX21_stuffHere 57 = .ok (.ldc2_w 129, 3) := dk_20 0 129 (dk_at dksX21_stuffHere_2 11 rfl rfl)
theorem dX21_stuffHere_60 : decode cX21_stuffHere 60 = .ok (.invokevirtual 119, 3) := dk_182 0 119 (dk_at dksX21_stuffHere_2 14 rfl rfl)
theorem dX21_stuffHere_63 : decode cX21_stuffHere 63 = .ok (.ifCond .eq 7, 3) := dk_153 0 7 (dk_at dksX21_stuffHere_2 17 rfl rfl)
theorem dX21_stuffHere_66 : decode cX21_stuffHere 66 = .ok (.iconst 4, 1) := dk_7 (dk_at dksX21_stuffHere_2 20 rfl rfl)
theorem dX21_stuffHere_67 : decode cX21_stuffHere 67 = .ok (.goto 18, 3) := dk_167 0 18 (dk_at dksX21_stuffHere_2 21 rfl rfl)
theorem dX21_stuffHere_70 : decode cX21_stuffHere 70 = .ok (.aload_n 0, 1) := dk_42 (dk_at dksX21_stuffHere_3 0 rfl rfl)
theorem dX21_stuffHere_71 : decode cX21_stuffHere 71 = .ok (.ldc2_w 131, 3) := dk_20 0 131 (dk_at dksX21_stuffHere_3 1 rfl rfl)
theorem dX21_stuffHere_74 : decode cX21_stuffHere 74 = .ok (.invokevirtual 119, 3) := dk_182 0 119 (dk_at dksX21_stuffHere_3 4 rfl rfl)
theorem dX21_stuffHere_77 : decode cX21_stuffHere 77 = .ok (.ifCond .eq 7, 3) := dk_153 0 7 (dk_at dksX21_stuffHere_3 7 rfl rfl)
theorem dX21_stuffHere_80 : decode cX21_stuffHere 80 = .ok (.iconst 5, 1) := dk_8 (dk_at dksX21_stuffHere_3 10 rfl rfl)
theorem dX21_stuffHere_81 : decode cX21_stuffHere 81 = .ok (.goto 4, 3) := dk_167 0 4 (dk_at dksX21_stuffHere_3 11 rfl rfl)
theorem dX21_stuffHere_84 : decode cX21_stuffHere 84 = .ok (.iconst (-1), 1) := dk_2 (dk_at dksX21_stuffHere_3 14 rfl rfl)
theorem dX21_stuffHere_85 : decode cX21_stuffHere 85 = .ok (.ireturn, 1) := dk_172 (dk_at dksX21_stuffHere_3 15 rfl rfl)
abbrev cX21_isWord : ByteArray := prog_33_method_17_code
def yX21_isWord : MethodName := ⟨RX21, "isWord", "(J)Z"⟩
def dkwX21_isWord_0 : List UInt8 := [42, 180, 0, 101, 4, 160, 0, 16, 42, 180, 0, 104, 31, 148, 154, 0, 7, 4, 167, 0, 4, 3, 172]
abbrev dktX21_isWord_0 : List UInt8 := dkwX21_isWord_0 ++ []
theorem dksX21_isWord_0 : cX21_isWord.data.toList.drop 0 = dktX21_isWord_0 := by decide +kernel
theorem dX21_isWord_0 : decode cX21_isWord 0 = .ok (.aload_n 0, 1) := dk_42 (dk_at dksX21_isWord_0 0 rfl rfl)
theorem dX21_isWord_1 : decode cX21_isWord 1 = .ok (.getfield 101, 3) := dk_180 0 101 (dk_at dksX21_isWord_0 1 rfl rfl)
theorem dX21_isWord_4 : decode cX21_isWord 4 = .ok (.iconst 1, 1) := dk_4 (dk_at dksX21_isWord_0 4 rfl rfl)
theorem dX21_isWord_5 : decode cX21_isWord 5 = .ok (.if_icmp .ne 16, 3) := dk_160 0 16 (dk_at dksX21_isWord_0 5 rfl rfl)
theorem dX21_isWord_8 : decode cX21_isWord 8 = .ok (.aload_n 0, 1) := dk_42 (dk_at dksX21_isWord_0 8 rfl rfl)
theorem dX21_isWord_9 : decode cX21_isWord 9 = .ok (.getfield 104, 3) := dk_180 0 104 (dk_at dksX21_isWord_0 9 rfl rfl)
theorem dX21_isWord_12 : decode cX21_isWord 12 = .ok (.lload_n 1, 1) := dk_31 (dk_at dksX21_isWord_0 12 rfl rfl)
theorem dX21_isWord_13 : decode cX21_isWord 13 = .ok (.lcmp, 1) := dk_148 (dk_at dksX21_isWord_0 13 rfl rfl)
theorem dX21_isWord_14 : decode cX21_isWord 14 = .ok (.ifCond .ne 7, 3) := dk_154 0 7 (dk_at dksX21_isWord_0 14 rfl rfl)
theorem dX21_isWord_17 : decode cX21_isWord 17 = .ok (.iconst 1, 1) := dk_4 (dk_at dksX21_isWord_0 17 rfl rfl)
theorem dX21_isWord_18 : decode cX21_isWord 18 = .ok (.goto 4, 3) := dk_167 0 4 (dk_at dksX21_isWord_0 18 rfl rfl)
theorem dX21_isWord_21 : decode cX21_isWord 21 = .ok (.iconst 0, 1) := dk_3 (dk_at dksX21_isWord_0 21 rfl rfl)
theorem dX21_isWord_22 : decode cX21_isWord 22 = .ok (.ireturn, 1) := dk_172 (dk_at dksX21_isWord_0 22 rfl rfl)
abbrev cX21_wantThing : ByteArray := prog_33_method_24_code
def yX21_wantThing : MethodName := ⟨RX21, "wantThing", "(I)V"⟩
def dkwX21_wantThing_4 : List UInt8 := [42, 27, 29, 21, 4, 21, 5, 182, 0, 165, 42, 28, 8, 21, 6, 182, 0, 169, 177]
abbrev dktX21_wantThing_4 : List UInt8 := dkwX21_wantThing_4 ++ []
def dkwX21_wantThing_3 : List UInt8 := [54, 5, 42, 20, 0, 160, 16, 99, 182, 0, 154, 54, 6, 42, 182, 0, 162, 42, 180, 0, 133, 153, 0, 21]
abbrev dktX21_wantThing_3 : List UInt8 := dkwX21_wantThing_3 ++ dktX21_wantThing_4
def dkwX21_wantThing_2 : List UInt8 := [182, 0, 140, 62, 42, 20, 0, 152, 16, 9, 182, 0, 154, 54, 4, 42, 20, 0, 158, 16, 99, 182, 0, 154]
abbrev dktX21_wantThing_2 : List UInt8 := dkwX21_wantThing_2 ++ dktX21_wantThing_3
def dkwX21_wantThing_1 : List UInt8 := [181, 0, 133, 42, 180, 0, 133, 153, 0, 7, 42, 182, 0, 137, 42, 20, 0, 146, 182, 0, 148, 42, 6]
abbrev dktX21_wantThing_1 : List UInt8 := dkwX21_wantThing_1 ++ dktX21_wantThing_2
def dkwX21_wantThing_0 : List UInt8 := [42, 180, 0, 7, 42, 180, 0, 73, 3, 96, 46, 61, 42, 28, 16, 8, 162, 0, 7, 4, 167, 0, 4, 3]
abbrev dktX21_wantThing_0 : List UInt8 := dkwX21_wantThing_0 ++ dktX21_wantThing_1
theorem dksX21_wantThing_0 : cX21_wantThing.data.toList.drop 0 = dktX21_wantThing_0 := by decide +kernel
theorem dksX21_wantThing_1 : cX21_wantThing.data.toList.drop 24 = dktX21_wantThing_1 := dk_seg dksX21_wantThing_0 24 rfl rfl
theorem dksX21_wantThing_2 : cX21_wantThing.data.toList.drop 47 = dktX21_wantThing_2 := dk_seg dksX21_wantThing_1 23 rfl rfl
theorem dksX21_wantThing_3 : cX21_wantThing.data.toList.drop 71 = dktX21_wantThing_3 := dk_seg dksX21_wantThing_2 24 rfl rfl
theorem dksX21_wantThing_4 : cX21_wantThing.data.toList.drop 95 = dktX21_wantThing_4 := dk_seg dksX21_wantThing_3 24 rfl rfl
theorem dX21_wantThing_0 : decode cX21_wantThing 0 = .ok (.aload_n 0, 1) := dk_42 (dk_at dksX21_wantThing_0 0 rfl rfl)
theorem dX21_wantThing_1 : decode cX21_wantThing 1 = .ok (.getfield 7, 3) := dk_180 0 7 (dk_at dksX21_wantThing_0 1 rfl rfl)
theorem dX21_wantThing_4 : decode cX21_wantThing 4 = .ok (.aload_n 0, 1) := dk_42 (dk_at dksX21_wantThing_0 4 rfl rfl)
theorem dX21_wantThing_5 : decode cX21_wantThing 5 = .ok (.getfield 73, 3) := dk_180 0 73 (dk_at dksX21_wantThing_0 5 rfl rfl)
theorem dX21_wantThing_8 : decode cX21_wantThing 8 = .ok (.iconst 0, 1) := dk_3 (dk_at dksX21_wantThing_0 8 rfl rfl)
theorem dX21_wantThing_9 : decode cX21_wantThing 9 = .ok (.iadd, 1) := dk_96 (dk_at dksX21_wantThing_0 9 rfl rfl)
theorem dX21_wantThing_10 : decode cX21_wantThing 10 = .ok (.iaload, 1) := dk_46 (dk_at dksX21_wantThing_0 10 rfl rfl)
theorem dX21_wantThing_11 : decode cX21_wantThing 11 = .ok (.istore_n 2, 1) := dk_61 (dk_at dksX21_wantThing_0 11 rfl rfl)
theorem dX21_wantThing_12 : decode cX21_wantThing 12 = .ok (.aload_n 0, 1) := dk_42 (dk_at dksX21_wantThing_0 12 rfl rfl)
theorem dX21_wantThing_13 : decode cX21_wantThing 13 = .ok (.iload_n 2, 1) := dk_28 (dk_at dksX21_wantThing_0 13 rfl rfl)
theorem dX21_wantThing_14 : decode cX21_wantThing 14 = .ok (.bipush 8, 2) := dk_16 8 (dk_at dksX21_wantThing_0 14 rfl rfl)
theorem dX21_wantThing_16 : decode cX21_wantThing 16 = .ok (.if_icmp .ge 7, 3) := dk_162 0 7 (dk_at dksX21_wantThing_0 16 rfl rfl)
theorem dX21_wantThing_19 : decode cX21_wantThing 19 = .ok (.iconst 1, 1) := dk_4 (dk_at dksX21_wantThing_0 19 rfl rfl)
theorem dX21_wantThing_20 : decode cX21_wantThing 20 = .ok (.goto 4, 3) := dk_167 0 4 (dk_at dksX21_wantThing_0 20 rfl rfl)
theorem dX21_wantThing_23 : decode cX21_wantThing 23 = .ok (.iconst 0, 1) := dk_3 (dk_at dksX21_wantThing_0 23 rfl rfl)
theorem dX21_wantThing_24 : decode cX21_wantThing 24 = .ok (.putfield 133, 3) := dk_181 0 133 (dk_at dksX21_wantThing_1 0 rfl rfl)
theorem dX21_wantThing_27 : decode cX21_wantThing 27 = .ok (.aload_n 0, 1) := dk_42 (dk_at dksX21_wantThing_1 3 rfl rfl)
theorem dX21_wantThing_28 : decode cX21_wantThing 28 = .ok (.getfield 133, 3) := dk_180 0 133 (dk_at dksX21_wantThing_1 4 rfl rfl)
theorem dX21_wantThing_31 : decode cX21_wantThing 31 = .ok (.ifCond .eq 7, 3) := dk_153 0 7 (dk_at dksX21_wantThing_1 7 rfl rfl)
theorem dX21_wantThing_34 : decode cX21_wantThing 34 = .ok (.aload_n 0, 1) := dk_42 (dk_at dksX21_wantThing_1 10 rfl rfl)
theorem dX21_wantThing_35 : decode cX21_wantThing 35 = .ok (.invokevirtual 137, 3) := dk_182 0 137 (dk_at dksX21_wantThing_1 11 rfl rfl)
theorem dX21_wantThing_38 : decode cX21_wantThing 38 = .ok (.aload_n 0, 1) := dk_42 (dk_at dksX21_wantThing_1 14 rfl rfl)
theorem dX21_wantThing_39 : decode cX21_wantThing 39 = .ok (.ldc2_w 146, 3) := dk_20 0 146 (dk_at dksX21_wantThing_1 15 rfl rfl)
theorem dX21_wantThing_42 : decode cX21_wantThing 42 = .ok (.invokevirtual 148, 3) := dk_182 0 148 (dk_at dksX21_wantThing_1 18 rfl rfl)
theorem dX21_wantThing_45 : decode cX21_wantThing 45 = .ok (.aload_n 0, 1) := dk_42 (dk_at dksX21_wantThing_1 21 rfl rfl)
theorem dX21_wantThing_46 : decode cX21_wantThing 46 = .ok (.iconst 3, 1) := dk_6 (dk_at dksX21_wantThing_1 22 rfl rfl)
theorem dX21_wantThing_47 : decode cX21_wantThing 47 = .ok (.invokevirtual 140, 3) := dk_182 0 140 (dk_at dksX21_wantThing_2 0 rfl rfl)
theorem dX21_wantThing_50 : decode cX21_wantThing 50 = .ok (.istore_n 3, 1) := dk_62 (dk_at dksX21_wantThing_2 3 rfl rfl)
theorem dX21_wantThing_51 : decode cX21_wantThing 51 = .ok (.aload_n 0, 1) := dk_42 (dk_at dksX21_wantThing_2 4 rfl rfl)
theorem dX21_wantThing_52 : decode cX21_wantThing 52 = .ok (.ldc2_w 152, 3) := dk_20 0 152 (dk_at dksX21_wantThing_2 5 rfl rfl)
theorem dX21_wantThing_55 : decode cX21_wantThing 55 = .ok (.bipush 9, 2) := dk_16 9 (dk_at dksX21_wantThing_2 8 rfl rfl)
theorem dX21_wantThing_57 : decode cX21_wantThing 57 = .ok (.invokevirtual 154, 3) := dk_182 0 154 (dk_at dksX21_wantThing_2 10 rfl rfl)
theorem dX21_wantThing_60 : decode cX21_wantThing 60 = .ok (.istore 4, 2) := dk_54 4 (dk_at dksX21_wantThing_2 13 rfl rfl)
theorem dX21_wantThing_62 : decode cX21_wantThing 62 = .ok (.aload_n 0, 1) := dk_42 (dk_at dksX21_wantThing_2 15 rfl rfl)
theorem dX21_wantThing_63 : decode cX21_wantThing 63 = .ok (.ldc2_w 158, 3) := dk_20 0 158 (dk_at dksX21_wantThing_2 16 rfl rfl)
theorem dX21_wantThing_66 : decode cX21_wantThing 66 = .ok (.bipush 99, 2) := dk_16 99 (dk_at dksX21_wantThing_2 19 rfl rfl)
theorem dX21_wantThing_68 : decode cX21_wantThing 68 = .ok (.invokevirtual 154, 3) := dk_182 0 154 (dk_at dksX21_wantThing_2 21 rfl rfl)
theorem dX21_wantThing_71 : decode cX21_wantThing 71 = .ok (.istore 5, 2) := dk_54 5 (dk_at dksX21_wantThing_3 0 rfl rfl)
theorem dX21_wantThing_73 : decode cX21_wantThing 73 = .ok (.aload_n 0, 1) := dk_42 (dk_at dksX21_wantThing_3 2 rfl rfl)
theorem dX21_wantThing_74 : decode cX21_wantThing 74 = .ok (.ldc2_w 160, 3) := dk_20 0 160 (dk_at dksX21_wantThing_3 3 rfl rfl)
theorem dX21_wantThing_77 : decode cX21_wantThing 77 = .ok (.bipush 99, 2) := dk_16 99 (dk_at dksX21_wantThing_3 6 rfl rfl)
theorem dX21_wantThing_79 : decode cX21_wantThing 79 = .ok (.invokevirtual 154, 3) := dk_182 0 154 (dk_at dksX21_wantThing_3 8 rfl rfl)
theorem dX21_wantThing_82 : decode cX21_wantThing 82 = .ok (.istore 6, 2) := dk_54 6 (dk_at dksX21_wantThing_3 11 rfl rfl)
theorem dX21_wantThing_84 : decode cX21_wantThing 84 = .ok (.aload_n 0, 1) := dk_42 (dk_at dksX21_wantThing_3 13 rfl rfl)
theorem dX21_wantThing_85 : decode cX21_wantThing 85 = .ok (.invokevirtual 162, 3) := dk_182 0 162 (dk_at dksX21_wantThing_3 14 rfl rfl)
theorem dX21_wantThing_88 : decode cX21_wantThing 88 = .ok (.aload_n 0, 1) := dk_42 (dk_at dksX21_wantThing_3 17 rfl rfl)
theorem dX21_wantThing_89 : decode cX21_wantThing 89 = .ok (.getfield 133, 3) := dk_180 0 133 (dk_at dksX21_wantThing_3 18 rfl rfl)
theorem dX21_wantThing_92 : decode cX21_wantThing 92 = .ok (.ifCond .eq 21, 3) := dk_153 0 21 (dk_at dksX21_wantThing_3 21 rfl rfl)
theorem dX21_wantThing_95 : decode cX21_wantThing 95 = .ok (.aload_n 0, 1) := dk_42 (dk_at dksX21_wantThing_4 0 rfl rfl)
theorem dX21_wantThing_96 : decode cX21_wantThing 96 = .ok (.iload_n 1, 1) := dk_27 (dk_at dksX21_wantThing_4 1 rfl rfl)
theorem dX21_wantThing_97 : decode cX21_wantThing 97 = .ok (.iload_n 3, 1) := dk_29 (dk_at dksX21_wantThing_4 2 rfl rfl)
theorem dX21_wantThing_98 : decode cX21_wantThing 98 = .ok (.iload 4, 2) := dk_21 4 (dk_at dksX21_wantThing_4 3 rfl rfl)
theorem dX21_wantThing_100 : decode cX21_wantThing 100 = .ok (.iload 5, 2) := dk_21 5 (dk_at dksX21_wantThing_4 5 rfl rfl)
theorem dX21_wantThing_102 : decode cX21_wantThing 102 = .ok (.invokevirtual 165, 3) := dk_182 0 165 (dk_at dksX21_wantThing_4 7 rfl rfl)
theorem dX21_wantThing_105 : decode cX21_wantThing 105 = .ok (.aload_n 0, 1) := dk_42 (dk_at dksX21_wantThing_4 10 rfl rfl)
theorem dX21_wantThing_106 : decode cX21_wantThing 106 = .ok (.iload_n 2, 1) := dk_28 (dk_at dksX21_wantThing_4 11 rfl rfl)
theorem dX21_wantThing_107 : decode cX21_wantThing 107 = .ok (.iconst 5, 1) := dk_8 (dk_at dksX21_wantThing_4 12 rfl rfl)
theorem dX21_wantThing_108 : decode cX21_wantThing 108 = .ok (.iload 6, 2) := dk_21 6 (dk_at dksX21_wantThing_4 13 rfl rfl)
theorem dX21_wantThing_110 : decode cX21_wantThing 110 = .ok (.invokevirtual 169, 3) := dk_182 0 169 (dk_at dksX21_wantThing_4 15 rfl rfl)
theorem dX21_wantThing_113 : decode cX21_wantThing 113 = .ok (.return_, 1) := dk_177 (dk_at dksX21_wantThing_4 18 rfl rfl)
abbrev cX21_wantWord : ByteArray := prog_33_method_21_code
def yX21_wantWord : MethodName := ⟨RX21, "wantWord", "(J)V"⟩
def dkwX21_wantWord_1 : List UInt8 := [42, 180, 0, 133, 153, 0, 7, 42, 182, 0, 137, 177]
abbrev dktX21_wantWord_1 : List UInt8 := dkwX21_wantWord_1 ++ []
def dkwX21_wantWord_0 : List UInt8 := [42, 42, 180, 0, 133, 153, 0, 15, 42, 31, 182, 0, 119, 153, 0, 7, 4, 167, 0, 4, 3, 181, 0, 133]
abbrev dktX21_wantWord_0 : List UInt8 := dkwX21_wantWord_0 ++ dktX21_wantWord_1
theorem dksX21_wantWord_0 : cX21_wantWord.data.toList.drop 0 = dktX21_wantWord_0 := by decide +kernel
theorem dksX21_wantWord_1 : cX21_wantWord.data.toList.drop 24 = dktX21_wantWord_1 := dk_seg dksX21_wantWord_0 24 rfl rfl
theorem dX21_wantWord_0 : decode cX21_wantWord 0 = .ok (.aload_n 0, 1) := dk_42 (dk_at dksX21_wantWord_0 0 rfl rfl)
theorem dX21_wantWord_1 : decode cX21_wantWord 1 = .ok (.aload_n 0, 1) := dk_42 (dk_at dksX21_wantWord_0 1 rfl rfl)
theorem dX21_wantWord_2 : decode cX21_wantWord 2 = .ok (.getfield 133, 3) := dk_180 0 133 (dk_at dksX21_wantWord_0 2 rfl rfl)
theorem dX21_wantWord_5 : decode cX21_wantWord 5 = .ok (.ifCond .eq 15, 3) := dk_153 0 15 (dk_at dksX21_wantWord_0 5 rfl rfl)
theorem dX21_wantWord_8 : decode cX21_wantWord 8 = .ok (.aload_n 0, 1) := dk_42 (dk_at dksX21_wantWord_0 8 rfl rfl)
theorem dX21_wantWord_9 : decode cX21_wantWord 9 = .ok (.lload_n 1, 1) := dk_31 (dk_at dksX21_wantWord_0 9 rfl rfl)
theorem dX21_wantWord_10 : decode cX21_wantWord 10 = .ok (.invokevirtual 119, 3) := dk_182 0 119 (dk_at dksX21_wantWord_0 10 rfl rfl)
theorem dX21_wantWord_13 : decode cX21_wantWord 13 = .ok (.ifCond .eq 7, 3) := dk_153 0 7 (dk_at dksX21_wantWord_0 13 rfl rfl)
theorem dX21_wantWord_16 : decode cX21_wantWord 16 = .ok (.iconst 1, 1) := dk_4 (dk_at dksX21_wantWord_0 16 rfl rfl)
theorem dX21_wantWord_17 : decode cX21_wantWord 17 = .ok (.goto 4, 3) := dk_167 0 4 (dk_at dksX21_wantWord_0 17 rfl rfl)
theorem dX21_wantWord_20 : decode cX21_wantWord 20 = .ok (.iconst 0, 1) := dk_3 (dk_at dksX21_wantWord_0 20 rfl rfl)
theorem dX21_wantWord_21 : decode cX21_wantWord 21 = .ok (.putfield 133, 3) := dk_181 0 133 (dk_at dksX21_wantWord_0 21 rfl rfl)
theorem dX21_wantWord_24 : decode cX21_wantWord 24 = .ok (.aload_n 0, 1) := dk_42 (dk_at dksX21_wantWord_1 0 rfl rfl)
theorem dX21_wantWord_25 : decode cX21_wantWord 25 = .ok (.getfield 133, 3) := dk_180 0 133 (dk_at dksX21_wantWord_1 1 rfl rfl)
theorem dX21_wantWord_28 : decode cX21_wantWord 28 = .ok (.ifCond .eq 7, 3) := dk_153 0 7 (dk_at dksX21_wantWord_1 4 rfl rfl)
theorem dX21_wantWord_31 : decode cX21_wantWord 31 = .ok (.aload_n 0, 1) := dk_42 (dk_at dksX21_wantWord_1 7 rfl rfl)
theorem dX21_wantWord_32 : decode cX21_wantWord 32 = .ok (.invokevirtual 137, 3) := dk_182 0 137 (dk_at dksX21_wantWord_1 8 rfl rfl)
theorem dX21_wantWord_35 : decode cX21_wantWord 35 = .ok (.return_, 1) := dk_177 (dk_at dksX21_wantWord_1 11 rfl rfl)
abbrev cX21_wantNumber : ByteArray := prog_33_method_20_code
def yX21_wantNumber : MethodName := ⟨RX21, "wantNumber", "(I)I"⟩
def dkwX21_wantNumber_2 : List UInt8 := [182, 0, 137, 28, 172]
abbrev dktX21_wantNumber_2 : List UInt8 := dkwX21_wantNumber_2 ++ []
def dkwX21_wantNumber_1 : List UInt8 := [184, 0, 69, 153, 0, 7, 4, 167, 0, 4, 3, 181, 0, 133, 42, 180, 0, 133, 153, 0, 7, 42]
abbrev dktX21_wantNumber_1 : List UInt8 := dkwX21_wantNumber_1 ++ dktX21_wantNumber_2
def dkwX21_wantNumber_0 : List UInt8 := [42, 180, 0, 108, 61, 42, 42, 180, 0, 133, 153, 0, 24, 42, 180, 0, 101, 5, 160, 0, 16, 28, 3, 27]
abbrev dktX21_wantNumber_0 : List UInt8 := dkwX21_wantNumber_0 ++ dktX21_wantNumber_1
theorem dksX21_wantNumber_0 : cX21_wantNumber.data.toList.drop 0 = dktX21_wantNumber_0 := by decide +kernel
theorem dksX21_wantNumber_1 : cX21_wantNumber.data.toList.drop 24 = dktX21_wantNumber_1 := dk_seg dksX21_wantNumber_0 24 rfl rfl
theorem dksX21_wantNumber_2 : cX21_wantNumber.data.toList.drop 46 = dktX21_wantNumber_2 := dk_seg dksX21_wantNumber_1 22 rfl rfl
theorem dX21_wantNumber_0 : decode cX21_wantNumber 0 = .ok (.aload_n 0, 1) := dk_42 (dk_at dksX21_wantNumber_0 0 rfl rfl)
theorem dX21_wantNumber_1 : decode cX21_wantNumber 1 = .ok (.getfield 108, 3) := dk_180 0 108 (dk_at dksX21_wantNumber_0 1 rfl rfl)
theorem dX21_wantNumber_4 : decode cX21_wantNumber 4 = .ok (.istore_n 2, 1) := dk_61 (dk_at dksX21_wantNumber_0 4 rfl rfl)
theorem dX21_wantNumber_5 : decode cX21_wantNumber 5 = .ok (.aload_n 0, 1) := dk_42 (dk_at dksX21_wantNumber_0 5 rfl rfl)
theorem dX21_wantNumber_6 : decode cX21_wantNumber 6 = .ok (.aload_n 0, 1) := dk_42 (dk_at dksX21_wantNumber_0 6 rfl rfl)
theorem dX21_wantNumber_7 : decode cX21_wantNumber 7 = .ok (.getfield 133, 3) := dk_180 0 133 (dk_at dksX21_wantNumber_0 7 rfl rfl)
theorem dX21_wantNumber_10 : decode cX21_wantNumber 10 = .ok (.ifCond .eq 24, 3) := dk_153 0 24 (dk_at dksX21_wantNumber_0 10 rfl rfl)
theorem dX21_wantNumber_13 : decode cX21_wantNumber 13 = .ok (.aload_n 0, 1) := dk_42 (dk_at dksX21_wantNumber_0 13 rfl rfl)
theorem dX21_wantNumber_14 : decode cX21_wantNumber 14 = .ok (.getfield 101, 3) := dk_180 0 101 (dk_at dksX21_wantNumber_0 14 rfl rfl)
theorem dX21_wantNumber_17 : decode cX21_wantNumber 17 = .ok (.iconst 2, 1) := dk_5 (dk_at dksX21_wantNumber_0 17 rfl rfl)
theorem dX21_wantNumber_18 : decode cX21_wantNumber 18 = .ok (.if_icmp .ne 16, 3) := dk_160 0 16 (dk_at dksX21_wantNumber_0 18 rfl rfl)
theorem dX21_wantNumber_21 : decode cX21_wantNumber 21 = .ok (.iload_n 2, 1) := dk_28 (dk_at dksX21_wantNumber_0 21 rfl rfl)
theorem dX21_wantNumber_22 : decode cX21_wantNumber 22 = .ok (.iconst 0, 1) := dk_3 (dk_at dksX21_wantNumber_0 22 rfl rfl)
theorem dX21_wantNumber_23 : decode cX21_wantNumber 23 = .ok (.iload_n 1, 1) := dk_27 (dk_at dksX21_wantNumber_0 23 rfl rfl)
theorem dX21_wantNumber_24 : decode cX21_wantNumber 24 = .ok (.invokestatic 69, 3) := dk_184 0 69 (dk_at dksX21_wantNumber_1 0 rfl rfl)
theorem dX21_wantNumber_27 : decode cX21_wantNumber 27 = .ok (.ifCond .eq 7, 3) := dk_153 0 7 (dk_at dksX21_wantNumber_1 3 rfl rfl)
theorem dX21_wantNumber_30 : decode cX21_wantNumber 30 = .ok (.iconst 1, 1) := dk_4 (dk_at dksX21_wantNumber_1 6 rfl rfl)
theorem dX21_wantNumber_31 : decode cX21_wantNumber 31 = .ok (.goto 4, 3) := dk_167 0 4 (dk_at dksX21_wantNumber_1 7 rfl rfl)
theorem dX21_wantNumber_34 : decode cX21_wantNumber 34 = .ok (.iconst 0, 1) := dk_3 (dk_at dksX21_wantNumber_1 10 rfl rfl)
theorem dX21_wantNumber_35 : decode cX21_wantNumber 35 = .ok (.putfield 133, 3) := dk_181 0 133 (dk_at dksX21_wantNumber_1 11 rfl rfl)
theorem dX21_wantNumber_38 : decode cX21_wantNumber 38 = .ok (.aload_n 0, 1) := dk_42 (dk_at dksX21_wantNumber_1 14 rfl rfl)
theorem dX21_wantNumber_39 : decode cX21_wantNumber 39 = .ok (.getfield 133, 3) := dk_180 0 133 (dk_at dksX21_wantNumber_1 15 rfl rfl)
theorem dX21_wantNumber_42 : decode cX21_wantNumber 42 = .ok (.ifCond .eq 7, 3) := dk_153 0 7 (dk_at dksX21_wantNumber_1 18 rfl rfl)
theorem dX21_wantNumber_45 : decode cX21_wantNumber 45 = .ok (.aload_n 0, 1) := dk_42 (dk_at dksX21_wantNumber_1 21 rfl rfl)
theorem dX21_wantNumber_46 : decode cX21_wantNumber 46 = .ok (.invokevirtual 137, 3) := dk_182 0 137 (dk_at dksX21_wantNumber_2 0 rfl rfl)
theorem dX21_wantNumber_49 : decode cX21_wantNumber 49 = .ok (.iload_n 2, 1) := dk_28 (dk_at dksX21_wantNumber_2 3 rfl rfl)
theorem dX21_wantNumber_50 : decode cX21_wantNumber 50 = .ok (.ireturn, 1) := dk_172 (dk_at dksX21_wantNumber_2 4 rfl rfl)
abbrev cX21_mayNumber : ByteArray := prog_33_method_22_code
def yX21_mayNumber : MethodName := ⟨RX21, "mayNumber", "(JI)I"⟩
def dkwX21_mayNumber_1 : List UInt8 := [182, 0, 140, 172]
abbrev dktX21_mayNumber_1 : List UInt8 := dkwX21_mayNumber_1 ++ []
def dkwX21_mayNumber_0 : List UInt8 := [42, 180, 0, 133, 153, 0, 11, 42, 31, 182, 0, 119, 154, 0, 5, 3, 172, 42, 182, 0, 137, 42, 29]
abbrev dktX21_mayNumber_0 : List UInt8 := dkwX21_mayNumber_0 ++ dktX21_mayNumber_1
theorem dksX21_mayNumber_0 : cX21_mayNumber.data.toList.drop 0 = dktX21_mayNumber_0 := by decide +kernel
theorem dksX21_mayNumber_1 : cX21_mayNumber.data.toList.drop 23 = dktX21_mayNumber_1 := dk_seg dksX21_mayNumber_0 23 rfl rfl
theorem dX21_mayNumber_0 : decode cX21_mayNumber 0 = .ok (.aload_n 0, 1) := dk_42 (dk_at dksX21_mayNumber_0 0 rfl rfl)
theorem dX21_mayNumber_1 : decode cX21_mayNumber 1 = .ok (.getfield 133, 3) := dk_180 0 133 (dk_at dksX21_mayNumber_0 1 rfl rfl)
theorem dX21_mayNumber_4 : decode cX21_mayNumber 4 = .ok (.ifCond .eq 11, 3) := dk_153 0 11 (dk_at dksX21_mayNumber_0 4 rfl rfl)
theorem dX21_mayNumber_7 : decode cX21_mayNumber 7 = .ok (.aload_n 0, 1) := dk_42 (dk_at dksX21_mayNumber_0 7 rfl rfl)
theorem dX21_mayNumber_8 : decode cX21_mayNumber 8 = .ok (.lload_n 1, 1) := dk_31 (dk_at dksX21_mayNumber_0 8 rfl rfl)
theorem dX21_mayNumber_9 : decode cX21_mayNumber 9 = .ok (.invokevirtual 119, 3) := dk_182 0 119 (dk_at dksX21_mayNumber_0 9 rfl rfl)
theorem dX21_mayNumber_12 : decode cX21_mayNumber 12 = .ok (.ifCond .ne 5, 3) := dk_154 0 5 (dk_at dksX21_mayNumber_0 12 rfl rfl)
theorem dX21_mayNumber_15 : decode cX21_mayNumber 15 = .ok (.iconst 0, 1) := dk_3 (dk_at dksX21_mayNumber_0 15 rfl rfl)
theorem dX21_mayNumber_16 : decode cX21_mayNumber 16 = .ok (.ireturn, 1) := dk_172 (dk_at dksX21_mayNumber_0 16 rfl rfl)
theorem dX21_mayNumber_17 : decode cX21_mayNumber 17 = .ok (.aload_n 0, 1) := dk_42 (dk_at dksX21_mayNumber_0 17 rfl rfl)
theorem dX21_mayNumber_18 : decode cX21_mayNumber 18 = .ok (.invokevirtual 137, 3) := dk_182 0 137 (dk_at dksX21_mayNumber_0 18 rfl rfl)
theorem dX21_mayNumber_21 : decode cX21_mayNumber 21 = .ok (.aload_n 0, 1) := dk_42 (dk_at dksX21_mayNumber_0 21 rfl rfl)
theorem dX21_mayNumber_22 : decode cX21_mayNumber 22 = .ok (.iload_n 3, 1) := dk_29 (dk_at dksX21_mayNumber_0 22 rfl rfl)
theorem dX21_mayNumber_23 : decode cX21_mayNumber 23 = .ok (.invokevirtual 140, 3) := dk_182 0 140 (dk_at dksX21_mayNumber_1 0 rfl rfl)
theorem dX21_mayNumber_26 : decode cX21_mayNumber 26 = .ok (.ireturn, 1) := dk_172 (dk_at dksX21_mayNumber_1 3 rfl rfl)
abbrev cX21_wantEnd : ByteArray := prog_33_method_23_code
def yX21_wantEnd : MethodName := ⟨RX21, "wantEnd", "()V"⟩
def dkwX21_wantEnd_1 : List UInt8 := [181, 0, 133, 42, 180, 0, 133, 153, 0, 7, 42, 182, 0, 137, 177]
abbrev dktX21_wantEnd_1 : List UInt8 := dkwX21_wantEnd_1 ++ []
def dkwX21_wantEnd_0 : List UInt8 := [42, 42, 180, 0, 133, 153, 0, 16, 42, 16, 59, 182, 0, 143, 153, 0, 7, 4, 167, 0, 4, 3]
abbrev dktX21_wantEnd_0 : List UInt8 := dkwX21_wantEnd_0 ++ dktX21_wantEnd_1
theorem dksX21_wantEnd_0 : cX21_wantEnd.data.toList.drop 0 = dktX21_wantEnd_0 := by decide +kernel
theorem dksX21_wantEnd_1 : cX21_wantEnd.data.toList.drop 22 = dktX21_wantEnd_1 := dk_seg dksX21_wantEnd_0 22 rfl rfl
theorem dX21_wantEnd_0 : decode cX21_wantEnd 0 = .ok (.aload_n 0, 1) := dk_42 (dk_at dksX21_wantEnd_0 0 rfl rfl)
theorem dX21_wantEnd_1 : decode cX21_wantEnd 1 = .ok (.aload_n 0, 1) := dk_42 (dk_at dksX21_wantEnd_0 1 rfl rfl)
theorem dX21_wantEnd_2 : decode cX21_wantEnd 2 = .ok (.getfield 133, 3) := dk_180 0 133 (dk_at dksX21_wantEnd_0 2 rfl rfl)
theorem dX21_wantEnd_5 : decode cX21_wantEnd 5 = .ok (.ifCond .eq 16, 3) := dk_153 0 16 (dk_at dksX21_wantEnd_0 5 rfl rfl)
theorem dX21_wantEnd_8 : decode cX21_wantEnd 8 = .ok (.aload_n 0, 1) := dk_42 (dk_at dksX21_wantEnd_0 8 rfl rfl)
theorem dX21_wantEnd_9 : decode cX21_wantEnd 9 = .ok (.bipush 59, 2) := dk_16 59 (dk_at dksX21_wantEnd_0 9 rfl rfl)
theorem dX21_wantEnd_11 : decode cX21_wantEnd 11 = .ok (.invokevirtual 143, 3) := dk_182 0 143 (dk_at dksX21_wantEnd_0 11 rfl rfl)
theorem dX21_wantEnd_14 : decode cX21_wantEnd 14 = .ok (.ifCond .eq 7, 3) := dk_153 0 7 (dk_at dksX21_wantEnd_0 14 rfl rfl)
theorem dX21_wantEnd_17 : decode cX21_wantEnd 17 = .ok (.iconst 1, 1) := dk_4 (dk_at dksX21_wantEnd_0 17 rfl rfl)
theorem dX21_wantEnd_18 : decode cX21_wantEnd 18 = .ok (.goto 4, 3) := dk_167 0 4 (dk_at dksX21_wantEnd_0 18 rfl rfl)
theorem dX21_wantEnd_21 : decode cX21_wantEnd 21 = .ok (.iconst 0, 1) := dk_3 (dk_at dksX21_wantEnd_0 21 rfl rfl)
theorem dX21_wantEnd_22 : decode cX21_wantEnd 22 = .ok (.putfield 133, 3) := dk_181 0 133 (dk_at dksX21_wantEnd_1 0 rfl rfl)
theorem dX21_wantEnd_25 : decode cX21_wantEnd 25 = .ok (.aload_n 0, 1) := dk_42 (dk_at dksX21_wantEnd_1 3 rfl rfl)
theorem dX21_wantEnd_26 : decode cX21_wantEnd 26 = .ok (.getfield 133, 3) := dk_180 0 133 (dk_at dksX21_wantEnd_1 4 rfl rfl)
theorem dX21_wantEnd_29 : decode cX21_wantEnd 29 = .ok (.ifCond .eq 7, 3) := dk_153 0 7 (dk_at dksX21_wantEnd_1 7 rfl rfl)
theorem dX21_wantEnd_32 : decode cX21_wantEnd 32 = .ok (.aload_n 0, 1) := dk_42 (dk_at dksX21_wantEnd_1 10 rfl rfl)
theorem dX21_wantEnd_33 : decode cX21_wantEnd 33 = .ok (.invokevirtual 137, 3) := dk_182 0 137 (dk_at dksX21_wantEnd_1 11 rfl rfl)
theorem dX21_wantEnd_36 : decode cX21_wantEnd 36 = .ok (.return_, 1) := dk_177 (dk_at dksX21_wantEnd_1 14 rfl rfl)
abbrev cX21_isMark : ByteArray := prog_33_method_18_code
def yX21_isMark : MethodName := ⟨RX21, "isMark", "(I)Z"⟩
def dkwX21_isMark_0 : List UInt8 := [42, 180, 0, 101, 6, 160, 0, 15, 42, 180, 0, 108, 27, 160, 0, 7, 4, 167, 0, 4, 3, 172]
abbrev dktX21_isMark_0 : List UInt8 := dkwX21_isMark_0 ++ []
theorem dksX21_isMark_0 : cX21_isMark.data.toList.drop 0 = dktX21_isMark_0 := by decide +kernel
theorem dX21_isMark_0 : decode cX21_isMark 0 = .ok (.aload_n 0, 1) := dk_42 (dk_at dksX21_isMark_0 0 rfl rfl)
theorem dX21_isMark_1 : decode cX21_isMark 1 = .ok (.getfield 101, 3) := dk_180 0 101 (dk_at dksX21_isMark_0 1 rfl rfl)
theorem dX21_isMark_4 : decode cX21_isMark 4 = .ok (.iconst 3, 1) := dk_6 (dk_at dksX21_isMark_0 4 rfl rfl)
theorem dX21_isMark_5 : decode cX21_isMark 5 = .ok (.if_icmp .ne 15, 3) := dk_160 0 15 (dk_at dksX21_isMark_0 5 rfl rfl)
theorem dX21_isMark_8 : decode cX21_isMark 8 = .ok (.aload_n 0, 1) := dk_42 (dk_at dksX21_isMark_0 8 rfl rfl)
theorem dX21_isMark_9 : decode cX21_isMark 9 = .ok (.getfield 108, 3) := dk_180 0 108 (dk_at dksX21_isMark_0 9 rfl rfl)
theorem dX21_isMark_12 : decode cX21_isMark 12 = .ok (.iload_n 1, 1) := dk_27 (dk_at dksX21_isMark_0 12 rfl rfl)
theorem dX21_isMark_13 : decode cX21_isMark 13 = .ok (.if_icmp .ne 7, 3) := dk_160 0 7 (dk_at dksX21_isMark_0 13 rfl rfl)
theorem dX21_isMark_16 : decode cX21_isMark 16 = .ok (.iconst 1, 1) := dk_4 (dk_at dksX21_isMark_0 16 rfl rfl)
theorem dX21_isMark_17 : decode cX21_isMark 17 = .ok (.goto 4, 3) := dk_167 0 4 (dk_at dksX21_isMark_0 17 rfl rfl)
theorem dX21_isMark_20 : decode cX21_isMark 20 = .ok (.iconst 0, 1) := dk_3 (dk_at dksX21_isMark_0 20 rfl rfl)
theorem dX21_isMark_21 : decode cX21_isMark 21 = .ok (.ireturn, 1) := dk_172 (dk_at dksX21_isMark_0 21 rfl rfl)
abbrev cX21_lay : ByteArray := prog_33_method_28_code
def yX21_lay : MethodName := ⟨RX21, "lay", "(IIII)V"⟩
def dkwX21_lay_3 : List UInt8 := [42, 180, 0, 7, 42, 180, 0, 73, 3, 96, 92, 46, 4, 96, 79, 177]
abbrev dktX21_lay_3 : List UInt8 := dkwX21_lay_3 ++ []
def dkwX21_lay_2 : List UInt8 := [21, 5, 4, 28, 182, 0, 169, 42, 21, 5, 5, 29, 182, 0, 169, 42, 21, 5, 6, 21, 4, 182, 0, 169]
abbrev dktX21_lay_2 : List UInt8 := dkwX21_lay_2 ++ dktX21_lay_3
def dkwX21_lay_1 : List UInt8 := [21, 5, 21, 6, 3, 182, 0, 169, 132, 6, 1, 167, 255, 237, 42, 21, 5, 3, 27, 182, 0, 169, 42]
abbrev dktX21_lay_1 : List UInt8 := dkwX21_lay_1 ++ dktX21_lay_2
def dkwX21_lay_0 : List UInt8 := [42, 180, 0, 7, 42, 180, 0, 73, 3, 96, 46, 54, 5, 3, 54, 6, 21, 6, 16, 10, 162, 0, 18, 42]
abbrev dktX21_lay_0 : List UInt8 := dkwX21_lay_0 ++ dktX21_lay_1
theorem dksX21_lay_0 : cX21_lay.data.toList.drop 0 = dktX21_lay_0 := by decide +kernel
theorem dksX21_lay_1 : cX21_lay.data.toList.drop 24 = dktX21_lay_1 := dk_seg dksX21_lay_0 24 rfl rfl
theorem dksX21_lay_2 : cX21_lay.data.toList.drop 47 = dktX21_lay_2 := dk_seg dksX21_lay_1 23 rfl rfl
theorem dksX21_lay_3 : cX21_lay.data.toList.drop 71 = dktX21_lay_3 := dk_seg dksX21_lay_2 24 rfl rfl
theorem dX21_lay_0 : decode cX21_lay 0 = .ok (.aload_n 0, 1) := dk_42 (dk_at dksX21_lay_0 0 rfl rfl)
theorem dX21_lay_1 : decode cX21_lay 1 = .ok (.getfield 7, 3) := dk_180 0 7 (dk_at dksX21_lay_0 1 rfl rfl)
theorem dX21_lay_4 : decode cX21_lay 4 = .ok (.aload_n 0, 1) := dk_42 (dk_at dksX21_lay_0 4 rfl rfl)
theorem dX21_lay_5 : decode cX21_lay 5 = .ok (.getfield 73, 3) := dk_180 0 73 (dk_at dksX21_lay_0 5 rfl rfl)
theorem dX21_lay_8 : decode cX21_lay 8 = .ok (.iconst 0, 1) := dk_3 (dk_at dksX21_lay_0 8 rfl rfl)
theorem dX21_lay_9 : decode cX21_lay 9 = .ok (.iadd, 1) := dk_96 (dk_at dksX21_lay_0 9 rfl rfl)
theorem dX21_lay_10 : decode cX21_lay 10 = .ok (.iaload, 1) := dk_46 (dk_at dksX21_lay_0 10 rfl rfl)
theorem dX21_lay_11 : decode cX21_lay 11 = .ok (.istore 5, 2) := dk_54 5 (dk_at dksX21_lay_0 11 rfl rfl)
theorem dX21_lay_13 : decode cX21_lay 13 = .ok (.iconst 0, 1) := dk_3 (dk_at dksX21_lay_0 13 rfl rfl)
theorem dX21_lay_14 : decode cX21_lay 14 = .ok (.istore 6, 2) := dk_54 6 (dk_at dksX21_lay_0 14 rfl rfl)
theorem dX21_lay_16 : decode cX21_lay 16 = .ok (.iload 6, 2) := dk_21 6 (dk_at dksX21_lay_0 16 rfl rfl)
theorem dX21_lay_18 : decode cX21_lay 18 = .ok (.bipush 10, 2) := dk_16 10 (dk_at dksX21_lay_0 18 rfl rfl)
theorem dX21_lay_20 : decode cX21_lay 20 = .ok (.if_icmp .ge 18, 3) := dk_162 0 18 (dk_at dksX21_lay_0 20 rfl rfl)
theorem dX21_lay_23 : decode cX21_lay 23 = .ok (.aload_n 0, 1) := dk_42 (dk_at dksX21_lay_0 23 rfl rfl)
theorem dX21_lay_24 : decode cX21_lay 24 = .ok (.iload 5, 2) := dk_21 5 (dk_at dksX21_lay_1 0 rfl rfl)
theorem dX21_lay_26 : decode cX21_lay 26 = .ok (.iload 6, 2) := dk_21 6 (dk_at dksX21_lay_1 2 rfl rfl)
theorem dX21_lay_28 : decode cX21_lay 28 = .ok (.iconst 0, 1) := dk_3 (dk_at dksX21_lay_1 4 rfl rfl)
theorem dX21_lay_29 : decode cX21_lay 29 = .ok (.invokevirtual 169, 3) := dk_182 0 169 (dk_at dksX21_lay_1 5 rfl rfl)
theorem dX21_lay_32 : decode cX21_lay 32 = .ok (.iinc 6 1, 3) := dk_132 6 1 (dk_at dksX21_lay_1 8 rfl rfl)
theorem dX21_lay_35 : decode cX21_lay 35 = .ok (.goto (-19), 3) := dk_167 255 237 (dk_at dksX21_lay_1 11 rfl rfl)
theorem dX21_lay_38 : decode cX21_lay 38 = .ok (.aload_n 0, 1) := dk_42 (dk_at dksX21_lay_1 14 rfl rfl)
theorem dX21_lay_39 : decode cX21_lay 39 = .ok (.iload 5, 2) := dk_21 5 (dk_at dksX21_lay_1 15 rfl rfl)
theorem dX21_lay_41 : decode cX21_lay 41 = .ok (.iconst 0, 1) := dk_3 (dk_at dksX21_lay_1 17 rfl rfl)
theorem dX21_lay_42 : decode cX21_lay 42 = .ok (.iload_n 1, 1) := dk_27 (dk_at dksX21_lay_1 18 rfl rfl)
theorem dX21_lay_43 : decode cX21_lay 43 = .ok (.invokevirtual 169, 3) := dk_182 0 169 (dk_at dksX21_lay_1 19 rfl rfl)
theorem dX21_lay_46 : decode cX21_lay 46 = .ok (.aload_n 0, 1) := dk_42 (dk_at dksX21_lay_1 22 rfl rfl)
theorem dX21_lay_47 : decode cX21_lay 47 = .ok (.iload 5, 2) := dk_21 5 (dk_at dksX21_lay_2 0 rfl rfl)
theorem dX21_lay_49 : decode cX21_lay 49 = .ok (.iconst 1, 1) := dk_4 (dk_at dksX21_lay_2 2 rfl rfl)
theorem dX21_lay_50 : decode cX21_lay 50 = .ok (.iload_n 2, 1) := dk_28 (dk_at dksX21_lay_2 3 rfl rfl)
theorem dX21_lay_51 : decode cX21_lay 51 = .ok (.invokevirtual 169, 3) := dk_182 0 169 (dk_at dksX21_lay_2 4 rfl rfl)
theorem dX21_lay_54 : decode cX21_lay 54 = .ok (.aload_n 0, 1) := dk_42 (dk_at dksX21_lay_2 7 rfl rfl)
theorem dX21_lay_55 : decode cX21_lay 55 = .ok (.iload 5, 2) := dk_21 5 (dk_at dksX21_lay_2 8 rfl rfl)
theorem dX21_lay_57 : decode cX21_lay 57 = .ok (.iconst 2, 1) := dk_5 (dk_at dksX21_lay_2 10 rfl rfl)
theorem dX21_lay_58 : decode cX21_lay 58 = .ok (.iload_n 3, 1) := dk_29 (dk_at dksX21_lay_2 11 rfl rfl)
theorem dX21_lay_59 : decode cX21_lay 59 = .ok (.invokevirtual 169, 3) := dk_182 0 169 (dk_at dksX21_lay_2 12 rfl rfl)
theorem dX21_lay_62 : decode cX21_lay 62 = .ok (.aload_n 0, 1) := dk_42 (dk_at dksX21_lay_2 15 rfl rfl)
theorem dX21_lay_63 : decode cX21_lay 63 = .ok (.iload 5, 2) := dk_21 5 (dk_at dksX21_lay_2 16 rfl rfl)
theorem dX21_lay_65 : decode cX21_lay 65 = .ok (.iconst 3, 1) := dk_6 (dk_at dksX21_lay_2 18 rfl rfl)
theorem dX21_lay_66 : decode cX21_lay 66 = .ok (.iload 4, 2) := dk_21 4 (dk_at dksX21_lay_2 19 rfl rfl)
theorem dX21_lay_68 : decode cX21_lay 68 = .ok (.invokevirtual 169, 3) := dk_182 0 169 (dk_at dksX21_lay_2 21 rfl rfl)
theorem dX21_lay_71 : decode cX21_lay 71 = .ok (.aload_n 0, 1) := dk_42 (dk_at dksX21_lay_3 0 rfl rfl)
theorem dX21_lay_72 : decode cX21_lay 72 = .ok (.getfield 7, 3) := dk_180 0 7 (dk_at dksX21_lay_3 1 rfl rfl)
theorem dX21_lay_75 : decode cX21_lay 75 = .ok (.aload_n 0, 1) := dk_42 (dk_at dksX21_lay_3 4 rfl rfl)
theorem dX21_lay_76 : decode cX21_lay 76 = .ok (.getfield 73, 3) := dk_180 0 73 (dk_at dksX21_lay_3 5 rfl rfl)
theorem dX21_lay_79 : decode cX21_lay 79 = .ok (.iconst 0, 1) := dk_3 (dk_at dksX21_lay_3 8 rfl rfl)
theorem dX21_lay_80 : decode cX21_lay 80 = .ok (.iadd, 1) := dk_96 (dk_at dksX21_lay_3 9 rfl rfl)
theorem dX21_lay_81 : decode cX21_lay 81 = .ok (.dup2, 1) := dk_92 (dk_at dksX21_lay_3 10 rfl rfl)
theorem dX21_lay_82 : decode cX21_lay 82 = .ok (.iaload, 1) := dk_46 (dk_at dksX21_lay_3 11 rfl rfl)
theorem dX21_lay_83 : decode cX21_lay 83 = .ok (.iconst 1, 1) := dk_4 (dk_at dksX21_lay_3 12 rfl rfl)
theorem dX21_lay_84 : decode cX21_lay 84 = .ok (.iadd, 1) := dk_96 (dk_at dksX21_lay_3 13 rfl rfl)
theorem dX21_lay_85 : decode cX21_lay 85 = .ok (.iastore, 1) := dk_79 (dk_at dksX21_lay_3 14 rfl rfl)
theorem dX21_lay_86 : decode cX21_lay 86 = .ok (.return_, 1) := dk_177 (dk_at dksX21_lay_3 15 rfl rfl)
abbrev cX21_becomes : ByteArray := prog_33_method_9_code
def yX21_becomes : MethodName := ⟨RX21, "becomes", "(III)V"⟩
def dkwX21_becomes_0 : List UInt8 := [42, 180, 0, 7, 42, 180, 0, 73, 16, 14, 96, 16, 10, 27, 104, 96, 28, 96, 29, 79, 177]
abbrev dktX21_becomes_0 : List UInt8 := dkwX21_becomes_0 ++ []
theorem dksX21_becomes_0 : cX21_becomes.data.toList.drop 0 = dktX21_becomes_0 := by decide +kernel
theorem dX21_becomes_0 : decode cX21_becomes 0 = .ok (.aload_n 0, 1) := dk_42 (dk_at dksX21_becomes_0 0 rfl rfl)
theorem dX21_becomes_1 : decode cX21_becomes 1 = .ok (.getfield 7, 3) := dk_180 0 7 (dk_at dksX21_becomes_0 1 rfl rfl)
theorem dX21_becomes_4 : decode cX21_becomes 4 = .ok (.aload_n 0, 1) := dk_42 (dk_at dksX21_becomes_0 4 rfl rfl)
theorem dX21_becomes_5 : decode cX21_becomes 5 = .ok (.getfield 73, 3) := dk_180 0 73 (dk_at dksX21_becomes_0 5 rfl rfl)
theorem dX21_becomes_8 : decode cX21_becomes 8 = .ok (.bipush 14, 2) := dk_16 14 (dk_at dksX21_becomes_0 8 rfl rfl)
theorem dX21_becomes_10 : decode cX21_becomes 10 = .ok (.iadd, 1) := dk_96 (dk_at dksX21_becomes_0 10 rfl rfl)
theorem dX21_becomes_11 : decode cX21_becomes 11 = .ok (.bipush 10, 2) := dk_16 10 (dk_at dksX21_becomes_0 11 rfl rfl)
theorem dX21_becomes_13 : decode cX21_becomes 13 = .ok (.iload_n 1, 1) := dk_27 (dk_at dksX21_becomes_0 13 rfl rfl)
theorem dX21_becomes_14 : decode cX21_becomes 14 = .ok (.imul, 1) := dk_104 (dk_at dksX21_becomes_0 14 rfl rfl)
theorem dX21_becomes_15 : decode cX21_becomes 15 = .ok (.iadd, 1) := dk_96 (dk_at dksX21_becomes_0 15 rfl rfl)
theorem dX21_becomes_16 : decode cX21_becomes 16 = .ok (.iload_n 2, 1) := dk_28 (dk_at dksX21_becomes_0 16 rfl rfl)
theorem dX21_becomes_17 : decode cX21_becomes 17 = .ok (.iadd, 1) := dk_96 (dk_at dksX21_becomes_0 17 rfl rfl)
theorem dX21_becomes_18 : decode cX21_becomes 18 = .ok (.iload_n 3, 1) := dk_29 (dk_at dksX21_becomes_0 18 rfl rfl)
theorem dX21_becomes_19 : decode cX21_becomes 19 = .ok (.iastore, 1) := dk_79 (dk_at dksX21_becomes_0 19 rfl rfl)
theorem dX21_becomes_20 : decode cX21_becomes 20 = .ok (.return_, 1) := dk_177 (dk_at dksX21_becomes_0 20 rfl rfl)
abbrev cX21_placeBecomes : ByteArray := prog_33_method_11_code
def yX21_placeBecomes : MethodName := ⟨RX21, "placeBecomes", "(III)V"⟩
def dkwX21_placeBecomes_0 : List UInt8 := [42, 180, 0, 7, 42, 180, 0, 73, 5, 96, 6, 27, 104, 96, 28, 96, 29, 79, 177]
abbrev dktX21_placeBecomes_0 : List UInt8 := dkwX21_placeBecomes_0 ++ []
theorem dksX21_placeBecomes_0 : cX21_placeBecomes.data.toList.drop 0 = dktX21_placeBecomes_0 := by decide +kernel
theorem dX21_placeBecomes_0 : decode cX21_placeBecomes 0 = .ok (.aload_n 0, 1) := dk_42 (dk_at dksX21_placeBecomes_0 0 rfl rfl)
theorem dX21_placeBecomes_1 : decode cX21_placeBecomes 1 = .ok (.getfield 7, 3) := dk_180 0 7 (dk_at dksX21_placeBecomes_0 1 rfl rfl)
theorem dX21_placeBecomes_4 : decode cX21_placeBecomes 4 = .ok (.aload_n 0, 1) := dk_42 (dk_at dksX21_placeBecomes_0 4 rfl rfl)
theorem dX21_placeBecomes_5 : decode cX21_placeBecomes 5 = .ok (.getfield 73, 3) := dk_180 0 73 (dk_at dksX21_placeBecomes_0 5 rfl rfl)
theorem dX21_placeBecomes_8 : decode cX21_placeBecomes 8 = .ok (.iconst 2, 1) := dk_5 (dk_at dksX21_placeBecomes_0 8 rfl rfl)
theorem dX21_placeBecomes_9 : decode cX21_placeBecomes 9 = .ok (.iadd, 1) := dk_96 (dk_at dksX21_placeBecomes_0 9 rfl rfl)
theorem dX21_placeBecomes_10 : decode cX21_placeBecomes 10 = .ok (.iconst 3, 1) := dk_6 (dk_at dksX21_placeBecomes_0 10 rfl rfl)
theorem dX21_placeBecomes_11 : decode cX21_placeBecomes 11 = .ok (.iload_n 1, 1) := dk_27 (dk_at dksX21_placeBecomes_0 11 rfl rfl)
theorem dX21_placeBecomes_12 : decode cX21_placeBecomes 12 = .ok (.imul, 1) := dk_104 (dk_at dksX21_placeBecomes_0 12 rfl rfl)
theorem dX21_placeBecomes_13 : decode cX21_placeBecomes 13 = .ok (.iadd, 1) := dk_96 (dk_at dksX21_placeBecomes_0 13 rfl rfl)
theorem dX21_placeBecomes_14 : decode cX21_placeBecomes 14 = .ok (.iload_n 2, 1) := dk_28 (dk_at dksX21_placeBecomes_0 14 rfl rfl)
theorem dX21_placeBecomes_15 : decode cX21_placeBecomes 15 = .ok (.iadd, 1) := dk_96 (dk_at dksX21_placeBecomes_0 15 rfl rfl)
theorem dX21_placeBecomes_16 : decode cX21_placeBecomes 16 = .ok (.iload_n 3, 1) := dk_29 (dk_at dksX21_placeBecomes_0 16 rfl rfl)
theorem dX21_placeBecomes_17 : decode cX21_placeBecomes 17 = .ok (.iastore, 1) := dk_79 (dk_at dksX21_placeBecomes_0 17 rfl rfl)
theorem dX21_placeBecomes_18 : decode cX21_placeBecomes 18 = .ok (.return_, 1) := dk_177 (dk_at dksX21_placeBecomes_0 18 rfl rfl)
abbrev cX21_copies : ByteArray := prog_33_method_26_code
def yX21_copies : MethodName := ⟨RX21, "copies", "(II)V"⟩
def dkwX21_copies_1 : List UInt8 := [132, 3, 1, 167, 255, 231, 177]
abbrev dktX21_copies_1 : List UInt8 := dkwX21_copies_1 ++ []
def dkwX21_copies_0 : List UInt8 := [3, 62, 29, 16, 94, 162, 0, 25, 42, 180, 0, 7, 28, 29, 96, 42, 180, 0, 7, 27, 29, 96, 46, 79]
abbrev dktX21_copies_0 : List UInt8 := dkwX21_copies_0 ++ dktX21_copies_1
theorem dksX21_copies_0 : cX21_copies.data.toList.drop 0 = dktX21_copies_0 := by decide +kernel
theorem dksX21_copies_1 : cX21_copies.data.toList.drop 24 = dktX21_copies_1 := dk_seg dksX21_copies_0 24 rfl rfl
theorem dX21_copies_0 : decode cX21_copies 0 = .ok (.iconst 0, 1) := dk_3 (dk_at dksX21_copies_0 0 rfl rfl)
theorem dX21_copies_1 : decode cX21_copies 1 = .ok (.istore_n 3, 1) := dk_62 (dk_at dksX21_copies_0 1 rfl rfl)
theorem dX21_copies_2 : decode cX21_copies 2 = .ok (.iload_n 3, 1) := dk_29 (dk_at dksX21_copies_0 2 rfl rfl)
theorem dX21_copies_3 : decode cX21_copies 3 = .ok (.bipush 94, 2) := dk_16 94 (dk_at dksX21_copies_0 3 rfl rfl)
theorem dX21_copies_5 : decode cX21_copies 5 = .ok (.if_icmp .ge 25, 3) := dk_162 0 25 (dk_at dksX21_copies_0 5 rfl rfl)
theorem dX21_copies_8 : decode cX21_copies 8 = .ok (.aload_n 0, 1) := dk_42 (dk_at dksX21_copies_0 8 rfl rfl)
theorem dX21_copies_9 : decode cX21_copies 9 = .ok (.getfield 7, 3) := dk_180 0 7 (dk_at dksX21_copies_0 9 rfl rfl)
theorem dX21_copies_12 : decode cX21_copies 12 = .ok (.iload_n 2, 1) := dk_28 (dk_at dksX21_copies_0 12 rfl rfl)
theorem dX21_copies_13 : decode cX21_copies 13 = .ok (.iload_n 3, 1) := dk_29 (dk_at dksX21_copies_0 13 rfl rfl)
theorem dX21_copies_14 : decode cX21_copies 14 = .ok (.iadd, 1) := dk_96 (dk_at dksX21_copies_0 14 rfl rfl)
theorem dX21_copies_15 : decode cX21_copies 15 = .ok (.aload_n 0, 1) := dk_42 (dk_at dksX21_copies_0 15 rfl rfl)
theorem dX21_copies_16 : decode cX21_copies 16 = .ok (.getfield 7, 3) := dk_180 0 7 (dk_at dksX21_copies_0 16 rfl rfl)
theorem dX21_copies_19 : decode cX21_copies 19 = .ok (.iload_n 1, 1) := dk_27 (dk_at dksX21_copies_0 19 rfl rfl)
theorem dX21_copies_20 : decode cX21_copies 20 = .ok (.iload_n 3, 1) := dk_29 (dk_at dksX21_copies_0 20 rfl rfl)
theorem dX21_copies_21 : decode cX21_copies 21 = .ok (.iadd, 1) := dk_96 (dk_at dksX21_copies_0 21 rfl rfl)
theorem dX21_copies_22 : decode cX21_copies 22 = .ok (.iaload, 1) := dk_46 (dk_at dksX21_copies_0 22 rfl rfl)
theorem dX21_copies_23 : decode cX21_copies 23 = .ok (.iastore, 1) := dk_79 (dk_at dksX21_copies_0 23 rfl rfl)
theorem dX21_copies_24 : decode cX21_copies 24 = .ok (.iinc 3 1, 3) := dk_132 3 1 (dk_at dksX21_copies_1 0 rfl rfl)
theorem dX21_copies_27 : decode cX21_copies 27 = .ok (.goto (-25), 3) := dk_167 255 231 (dk_at dksX21_copies_1 3 rfl rfl)
theorem dX21_copies_30 : decode cX21_copies 30 = .ok (.return_, 1) := dk_177 (dk_at dksX21_copies_1 6 rfl rfl)
abbrev cX21_thing : ByteArray := prog_33_method_29_code
def yX21_thing : MethodName := ⟨RX21, "thing", "(IIII)I"⟩
def dkwX21_thing_2 : List UInt8 := [160, 0, 6, 16, 254, 172, 42, 27, 28, 29, 21, 4, 182, 0, 165, 42, 180, 0, 7, 3, 46, 4, 100, 172]
abbrev dktX21_thing_2 : List UInt8 := dkwX21_thing_2 ++ []
def dkwX21_thing_1 : List UInt8 := [153, 0, 14, 21, 4, 3, 16, 99, 184, 0, 69, 154, 0, 5, 2, 172, 42, 180, 0, 7, 3, 46, 16, 8]
abbrev dktX21_thing_1 : List UInt8 := dkwX21_thing_1 ++ dktX21_thing_2
def dkwX21_thing_0 : List UInt8 := [27, 3, 8, 184, 0, 69, 153, 0, 31, 28, 184, 0, 206, 153, 0, 24, 29, 3, 16, 9, 184, 0, 69]
abbrev dktX21_thing_0 : List UInt8 := dkwX21_thing_0 ++ dktX21_thing_1
theorem dksX21_thing_0 : cX21_thing.data.toList.drop 0 = dktX21_thing_0 := by decide +kernel
theorem dksX21_thing_1 : cX21_thing.data.toList.drop 23 = dktX21_thing_1 := dk_seg dksX21_thing_0 23 rfl rfl
theorem dksX21_thing_2 : cX21_thing.data.toList.drop 47 = dktX21_thing_2 := dk_seg dksX21_thing_1 24 rfl rfl
theorem dX21_thing_0 : decode cX21_thing 0 = .ok (.iload_n 1, 1) := dk_27 (dk_at dksX21_thing_0 0 rfl rfl)
theorem dX21_thing_1 : decode cX21_thing 1 = .ok (.iconst 0, 1) := dk_3 (dk_at dksX21_thing_0 1 rfl rfl)
theorem dX21_thing_2 : decode cX21_thing 2 = .ok (.iconst 5, 1) := dk_8 (dk_at dksX21_thing_0 2 rfl rfl)
theorem dX21_thing_3 : decode cX21_thing 3 = .ok (.invokestatic 69, 3) := dk_184 0 69 (dk_at dksX21_thing_0 3 rfl rfl)
theorem dX21_thing_6 : decode cX21_thing 6 = .ok (.ifCond .eq 31, 3) := dk_153 0 31 (dk_at dksX21_thing_0 6 rfl rfl)
theorem dX21_thing_9 : decode cX21_thing 9 = .ok (.iload_n 2, 1) := dk_28 (dk_at dksX21_thing_0 9 rfl rfl)
theorem dX21_thing_10 : decode cX21_thing 10 = .ok (.invokestatic 206, 3) := dk_184 0 206 (dk_at dksX21_thing_0 10 rfl rfl)
theorem dX21_thing_13 : decode cX21_thing 13 = .ok (.ifCond .eq 24, 3) := dk_153 0 24 (dk_at dksX21_thing_0 13 rfl rfl)
theorem dX21_thing_16 : decode cX21_thing 16 = .ok (.iload_n 3, 1) := dk_29 (dk_at dksX21_thing_0 16 rfl rfl)
theorem dX21_thing_17 : decode cX21_thing 17 = .ok (.iconst 0, 1) := dk_3 (dk_at dksX21_thing_0 17 rfl rfl)
theorem dX21_thing_18 : decode cX21_thing 18 = .ok (.bipush 9, 2) := dk_16 9 (dk_at dksX21_thing_0 18 rfl rfl)
theorem dX21_thing_20 : decode cX21_thing 20 = .ok (.invokestatic 69, 3) := dk_184 0 69 (dk_at dksX21_thing_0 20 rfl rfl)
theorem dX21_thing_23 : decode cX21_thing 23 = .ok (.ifCond .eq 14, 3) := dk_153 0 14 (dk_at dksX21_thing_1 0 rfl rfl)
theorem dX21_thing_26 : decode cX21_thing 26 = .ok (.iload 4, 2) := dk_21 4 (dk_at dksX21_thing_1 3 rfl rfl)
theorem dX21_thing_28 : decode cX21_thing 28 = .ok (.iconst 0, 1) := dk_3 (dk_at dksX21_thing_1 5 rfl rfl)
theorem dX21_thing_29 : decode cX21_thing 29 = .ok (.bipush 99, 2) := dk_16 99 (dk_at dksX21_thing_1 6 rfl rfl)
theorem dX21_thing_31 : decode cX21_thing 31 = .ok (.invokestatic 69, 3) := dk_184 0 69 (dk_at dksX21_thing_1 8 rfl rfl)
theorem dX21_thing_34 : decode cX21_thing 34 = .ok (.ifCond .ne 5, 3) := dk_154 0 5 (dk_at dksX21_thing_1 11 rfl rfl)
theorem dX21_thing_37 : decode cX21_thing 37 = .ok (.iconst (-1), 1) := dk_2 (dk_at dksX21_thing_1 14 rfl rfl)
theorem dX21_thing_38 : decode cX21_thing 38 = .ok (.ireturn, 1) := dk_172 (dk_at dksX21_thing_1 15 rfl rfl)
theorem dX21_thing_39 : decode cX21_thing 39 = .ok (.aload_n 0, 1) := dk_42 (dk_at dksX21_thing_1 16 rfl rfl)
theorem dX21_thing_40 : decode cX21_thing 40 = .ok (.getfield 7, 3) := dk_180 0 7 (dk_at dksX21_thing_1 17 rfl rfl)
theorem dX21_thing_43 : decode cX21_thing 43 = .ok (.iconst 0, 1) := dk_3 (dk_at dksX21_thing_1 20 rfl rfl)
theorem dX21_thing_44 : decode cX21_thing 44 = .ok (.iaload, 1) := dk_46 (dk_at dksX21_thing_1 21 rfl rfl)
theorem dX21_thing_45 : decode cX21_thing 45 = .ok (.bipush 8, 2) := dk_16 8 (dk_at dksX21_thing_1 22 rfl rfl)
theorem dX21_thing_47 : decode cX21_thing 47 = .ok (.if_icmp .ne 6, 3) := dk_160 0 6 (dk_at dksX21_thing_2 0 rfl rfl)
theorem dX21_thing_50 : decode cX21_thing 50 = .ok (.bipush (-2), 2) := dk_16 254 (dk_at dksX21_thing_2 3 rfl rfl)
theorem dX21_thing_52 : decode cX21_thing 52 = .ok (.ireturn, 1) := dk_172 (dk_at dksX21_thing_2 5 rfl rfl)
theorem dX21_thing_53 : decode cX21_thing 53 = .ok (.aload_n 0, 1) := dk_42 (dk_at dksX21_thing_2 6 rfl rfl)
theorem dX21_thing_54 : decode cX21_thing 54 = .ok (.iload_n 1, 1) := dk_27 (dk_at dksX21_thing_2 7 rfl rfl)
theorem dX21_thing_55 : decode cX21_thing 55 = .ok (.iload_n 2, 1) := dk_28 (dk_at dksX21_thing_2 8 rfl rfl)
theorem dX21_thing_56 : decode cX21_thing 56 = .ok (.iload_n 3, 1) := dk_29 (dk_at dksX21_thing_2 9 rfl rfl)
theorem dX21_thing_57 : decode cX21_thing 57 = .ok (.iload 4, 2) := dk_21 4 (dk_at dksX21_thing_2 10 rfl rfl)
theorem dX21_thing_59 : decode cX21_thing 59 = .ok (.invokevirtual 165, 3) := dk_182 0 165 (dk_at dksX21_thing_2 12 rfl rfl)
theorem dX21_thing_62 : decode cX21_thing 62 = .ok (.aload_n 0, 1) := dk_42 (dk_at dksX21_thing_2 15 rfl rfl)
theorem dX21_thing_63 : decode cX21_thing 63 = .ok (.getfield 7, 3) := dk_180 0 7 (dk_at dksX21_thing_2 16 rfl rfl)
theorem dX21_thing_66 : decode cX21_thing 66 = .ok (.iconst 0, 1) := dk_3 (dk_at dksX21_thing_2 19 rfl rfl)
theorem dX21_thing_67 : decode cX21_thing 67 = .ok (.iaload, 1) := dk_46 (dk_at dksX21_thing_2 20 rfl rfl)
theorem dX21_thing_68 : decode cX21_thing 68 = .ok (.iconst 1, 1) := dk_4 (dk_at dksX21_thing_2 21 rfl rfl)
theorem dX21_thing_69 : decode cX21_thing 69 = .ok (.isub, 1) := dk_100 (dk_at dksX21_thing_2 22 rfl rfl)
theorem dX21_thing_70 : decode cX21_thing 70 = .ok (.ireturn, 1) := dk_172 (dk_at dksX21_thing_2 23 rfl rfl)
abbrev cX21_isPlace : ByteArray := prog_33_method_3_code
def yX21_isPlace : MethodName := ⟨RX21, "isPlace", "(I)Z"⟩
def dkwX21_isPlace_0 : List UInt8 := [26, 3, 6, 184, 0, 69, 172]
abbrev dktX21_isPlace_0 : List UInt8 := dkwX21_isPlace_0 ++ []
theorem dksX21_isPlace_0 : cX21_isPlace.data.toList.drop 0 = dktX21_isPlace_0 := by decide +kernel
theorem dX21_isPlace_0 : decode cX21_isPlace 0 = .ok (.iload_n 0, 1) := dk_26 (dk_at dksX21_isPlace_0 0 rfl rfl)
theorem dX21_isPlace_1 : decode cX21_isPlace 1 = .ok (.iconst 0, 1) := dk_3 (dk_at dksX21_isPlace_0 1 rfl rfl)
theorem dX21_isPlace_2 : decode cX21_isPlace 2 = .ok (.iconst 3, 1) := dk_6 (dk_at dksX21_isPlace_0 2 rfl rfl)
theorem dX21_isPlace_3 : decode cX21_isPlace 3 = .ok (.invokestatic 69, 3) := dk_184 0 69 (dk_at dksX21_isPlace_0 3 rfl rfl)
theorem dX21_isPlace_6 : decode cX21_isPlace 6 = .ok (.ireturn, 1) := dk_172 (dk_at dksX21_isPlace_0 6 rfl rfl)
abbrev cX21_thingOf : ByteArray := prog_33_method_32_code
def yX21_thingOf : MethodName := ⟨RX21, "thingOf", "(II)I"⟩
def dkwX21_thingOf_2 : List UInt8 := [167, 0, 9, 42, 27, 28, 182, 0, 209, 172]
abbrev dktX21_thingOf_2 : List UInt8 := dkwX21_thingOf_2 ++ []
def dkwX21_thingOf_1 : List UInt8 := [160, 0, 11, 42, 27, 182, 0, 213, 167, 0, 23, 28, 16, 11, 160, 0, 11, 42, 27, 182, 0, 219]
abbrev dktX21_thingOf_1 : List UInt8 := dkwX21_thingOf_1 ++ dktX21_thingOf_2
def dkwX21_thingOf_0 : List UInt8 := [42, 27, 182, 0, 216, 153, 0, 13, 28, 3, 16, 11, 184, 0, 69, 154, 0, 5, 2, 172, 28, 16, 10]
abbrev dktX21_thingOf_0 : List UInt8 := dkwX21_thingOf_0 ++ dktX21_thingOf_1
theorem dksX21_thingOf_0 : cX21_thingOf.data.toList.drop 0 = dktX21_thingOf_0 := by decide +kernel
theorem dksX21_thingOf_1 : cX21_thingOf.data.toList.drop 23 = dktX21_thingOf_1 := dk_seg dksX21_thingOf_0 23 rfl rfl
theorem dksX21_thingOf_2 : cX21_thingOf.data.toList.drop 45 = dktX21_thingOf_2 := dk_seg dksX21_thingOf_1 22 rfl rfl
theorem dX21_thingOf_0 : decode cX21_thingOf 0 = .ok (.aload_n 0, 1) := dk_42 (dk_at dksX21_thingOf_0 0 rfl rfl)
theorem dX21_thingOf_1 : decode cX21_thingOf 1 = .ok (.iload_n 1, 1) := dk_27 (dk_at dksX21_thingOf_0 1 rfl rfl)
theorem dX21_thingOf_2 : decode cX21_thingOf 2 = .ok (.invokevirtual 216, 3) := dk_182 0 216 (dk_at dksX21_thingOf_0 2 rfl rfl)
theorem dX21_thingOf_5 : decode cX21_thingOf 5 = .ok (.ifCond .eq 13, 3) := dk_153 0 13 (dk_at dksX21_thingOf_0 5 rfl rfl)
theorem dX21_thingOf_8 : decode cX21_thingOf 8 = .ok (.iload_n 2, 1) := dk_28 (dk_at dksX21_thingOf_0 8 rfl rfl)
theorem dX21_thingOf_9 : decode cX21_thingOf 9 = .ok (.iconst 0, 1) := dk_3 (dk_at dksX21_thingOf_0 9 rfl rfl)
theorem dX21_thingOf_10 : decode cX21_thingOf 10 = .ok (.bipush 11, 2) := dk_16 11 (dk_at dksX21_thingOf_0 10 rfl rfl)
theorem dX21_thingOf_12 : decode cX21_thingOf 12 = .ok (.invokestatic 69, 3) := dk_184 0 69 (dk_at dksX21_thingOf_0 12 rfl rfl)
theorem dX21_thingOf_15 : decode cX21_thingOf 15 = .ok (.ifCond .ne 5, 3) := dk_154 0 5 (dk_at dksX21_thingOf_0 15 rfl rfl)
theorem dX21_thingOf_18 : decode cX21_thingOf 18 = .ok (.iconst (-1), 1) := dk_2 (dk_at dksX21_thingOf_0 18 rfl rfl)
theorem dX21_thingOf_19 : decode cX21_thingOf 19 = .ok (.ireturn, 1) := dk_172 (dk_at dksX21_thingOf_0 19 rfl rfl)
theorem dX21_thingOf_20 : decode cX21_thingOf 20 = .ok (.iload_n 2, 1) := dk_28 (dk_at dksX21_thingOf_0 20 rfl rfl)
theorem dX21_thingOf_21 : decode cX21_thingOf 21 = .ok (.bipush 10, 2) := dk_16 10 (dk_at dksX21_thingOf_0 21 rfl rfl)
theorem dX21_thingOf_23 : decode cX21_thingOf 23 = .ok (.if_icmp .ne 11, 3) := dk_160 0 11 (dk_at dksX21_thingOf_1 0 rfl rfl)
theorem dX21_thingOf_26 : decode cX21_thingOf 26 = .ok (.aload_n 0, 1) := dk_42 (dk_at dksX21_thingOf_1 3 rfl rfl)
theorem dX21_thingOf_27 : decode cX21_thingOf 27 = .ok (.iload_n 1, 1) := dk_27 (dk_at dksX21_thingOf_1 4 rfl rfl)
theorem dX21_thingOf_28 : decode cX21_thingOf 28 = .ok (.invokevirtual 213, 3) := dk_182 0 213 (dk_at dksX21_thingOf_1 5 rfl rfl)
theorem dX21_thingOf_31 : decode cX21_thingOf 31 = .ok (.goto 23, 3) := dk_167 0 23 (dk_at dksX21_thingOf_1 8 rfl rfl)
theorem dX21_thingOf_34 : decode cX21_thingOf 34 = .ok (.iload_n 2, 1) := dk_28 (dk_at dksX21_thingOf_1 11 rfl rfl)
theorem dX21_thingOf_35 : decode cX21_thingOf 35 = .ok (.bipush 11, 2) := dk_16 11 (dk_at dksX21_thingOf_1 12 rfl rfl)
theorem dX21_thingOf_37 : decode cX21_thingOf 37 = .ok (.if_icmp .ne 11, 3) := dk_160 0 11 (dk_at dksX21_thingOf_1 14 rfl rfl)
theorem dX21_thingOf_40 : decode cX21_thingOf 40 = .ok (.aload_n 0, 1) := dk_42 (dk_at dksX21_thingOf_1 17 rfl rfl)
theorem dX21_thingOf_41 : decode cX21_thingOf 41 = .ok (.iload_n 1, 1) := dk_27 (dk_at dksX21_thingOf_1 18 rfl rfl)
theorem dX21_thingOf_42 : decode cX21_thingOf 42 = .ok (.invokevirtual 219, 3) := dk_182 0 219 (dk_at dksX21_thingOf_1 19 rfl rfl)
theorem dX21_thingOf_45 : decode cX21_thingOf 45 = .ok (.goto 9, 3) := dk_167 0 9 (dk_at dksX21_thingOf_2 0 rfl rfl)
theorem dX21_thingOf_48 : decode cX21_thingOf 48 = .ok (.aload_n 0, 1) := dk_42 (dk_at dksX21_thingOf_2 3 rfl rfl)
theorem dX21_thingOf_49 : decode cX21_thingOf 49 = .ok (.iload_n 1, 1) := dk_27 (dk_at dksX21_thingOf_2 4 rfl rfl)
theorem dX21_thingOf_50 : decode cX21_thingOf 50 = .ok (.iload_n 2, 1) := dk_28 (dk_at dksX21_thingOf_2 5 rfl rfl)
theorem dX21_thingOf_51 : decode cX21_thingOf 51 = .ok (.invokevirtual 209, 3) := dk_182 0 209 (dk_at dksX21_thingOf_2 6 rfl rfl)
theorem dX21_thingOf_54 : decode cX21_thingOf 54 = .ok (.ireturn, 1) := dk_172 (dk_at dksX21_thingOf_2 9 rfl rfl)
abbrev cX21_isThing : ByteArray := prog_33_method_4_code
def yX21_isThing : MethodName := ⟨RX21, "isThing", "(I)Z"⟩
def dkwX21_isThing_0 : List UInt8 := [27, 3, 42, 180, 0, 7, 42, 180, 0, 73, 3, 96, 46, 4, 100, 184, 0, 69, 172]
abbrev dktX21_isThing_0 : List UInt8 := dkwX21_isThing_0 ++ []
theorem dksX21_isThing_0 : cX21_isThing.data.toList.drop 0 = dktX21_isThing_0 := by decide +kernel
theorem dX21_isThing_0 : decode cX21_isThing 0 = .ok (.iload_n 1, 1) := dk_27 (dk_at dksX21_isThing_0 0 rfl rfl)
theorem dX21_isThing_1 : decode cX21_isThing 1 = .ok (.iconst 0, 1) := dk_3 (dk_at dksX21_isThing_0 1 rfl rfl)
theorem dX21_isThing_2 : decode cX21_isThing 2 = .ok (.aload_n 0, 1) := dk_42 (dk_at dksX21_isThing_0 2 rfl rfl)
theorem dX21_isThing_3 : decode cX21_isThing 3 = .ok (.getfield 7, 3) := dk_180 0 7 (dk_at dksX21_isThing_0 3 rfl rfl)
theorem dX21_isThing_6 : decode cX21_isThing 6 = .ok (.aload_n 0, 1) := dk_42 (dk_at dksX21_isThing_0 6 rfl rfl)
theorem dX21_isThing_7 : decode cX21_isThing 7 = .ok (.getfield 73, 3) := dk_180 0 73 (dk_at dksX21_isThing_0 7 rfl rfl)
theorem dX21_isThing_10 : decode cX21_isThing 10 = .ok (.iconst 0, 1) := dk_3 (dk_at dksX21_isThing_0 10 rfl rfl)
theorem dX21_isThing_11 : decode cX21_isThing 11 = .ok (.iadd, 1) := dk_96 (dk_at dksX21_isThing_0 11 rfl rfl)
theorem dX21_isThing_12 : decode cX21_isThing 12 = .ok (.iaload, 1) := dk_46 (dk_at dksX21_isThing_0 12 rfl rfl)
theorem dX21_isThing_13 : decode cX21_isThing 13 = .ok (.iconst 1, 1) := dk_4 (dk_at dksX21_isThing_0 13 rfl rfl)
theorem dX21_isThing_14 : decode cX21_isThing 14 = .ok (.isub, 1) := dk_100 (dk_at dksX21_isThing_0 14 rfl rfl)
theorem dX21_isThing_15 : decode cX21_isThing 15 = .ok (.invokestatic 69, 3) := dk_184 0 69 (dk_at dksX21_isThing_0 15 rfl rfl)
theorem dX21_isThing_18 : decode cX21_isThing 18 = .ok (.ireturn, 1) := dk_172 (dk_at dksX21_isThing_0 18 rfl rfl)
abbrev cX21_tasteOf : ByteArray := prog_33_method_30_code
def yX21_tasteOf : MethodName := ⟨RX21, "tasteOf", "(I)I"⟩
def dkwX21_tasteOf_3 : List UInt8 := [172]
abbrev dktX21_tasteOf_3 : List UInt8 := dkwX21_tasteOf_3 ++ []
def dkwX21_tasteOf_2 : List UInt8 := [5, 172, 6, 172, 4, 172, 28, 8, 161, 0, 7, 4, 167, 0, 4, 3, 172, 6, 28, 6, 108, 96, 172, 3]
abbrev dktX21_tasteOf_2 : List UInt8 := dkwX21_tasteOf_2 ++ dktX21_tasteOf_3
def dkwX21_tasteOf_1 : List UInt8 := [170, 0, 0, 0, 0, 0, 58, 0, 0, 0, 1, 0, 0, 0, 5, 0, 0, 0, 35, 0, 0, 0, 37, 0, 0, 0, 39, 0, 0, 0, 41, 0, 0, 0, 52]
abbrev dktX21_tasteOf_1 : List UInt8 := dkwX21_tasteOf_1 ++ dktX21_tasteOf_2
def dkwX21_tasteOf_0 : List UInt8 := [42, 27, 5, 182, 0, 209, 61, 42, 27, 3, 182, 0, 209]
abbrev dktX21_tasteOf_0 : List UInt8 := dkwX21_tasteOf_0 ++ dktX21_tasteOf_1
theorem dksX21_tasteOf_0 : cX21_tasteOf.data.toList.drop 0 = dktX21_tasteOf_0 := by decide +kernel
theorem dksX21_tasteOf_1 : cX21_tasteOf.data.toList.drop 13 = dktX21_tasteOf_1 := dk_seg dksX21_tasteOf_0 13 rfl rfl
theorem dksX21_tasteOf_2 : cX21_tasteOf.data.toList.drop 48 = dktX21_tasteOf_2 := dk_seg dksX21_tasteOf_1 35 rfl rfl
theorem dksX21_tasteOf_3 : cX21_tasteOf.data.toList.drop 72 = dktX21_tasteOf_3 := dk_seg dksX21_tasteOf_2 24 rfl rfl
theorem dX21_tasteOf_0 : decode cX21_tasteOf 0 = .ok (.aload_n 0, 1) := dk_42 (dk_at dksX21_tasteOf_0 0 rfl rfl)
theorem dX21_tasteOf_1 : decode cX21_tasteOf 1 = .ok (.iload_n 1, 1) := dk_27 (dk_at dksX21_tasteOf_0 1 rfl rfl)
theorem dX21_tasteOf_2 : decode cX21_tasteOf 2 = .ok (.iconst 2, 1) := dk_5 (dk_at dksX21_tasteOf_0 2 rfl rfl)
theorem dX21_tasteOf_3 : decode cX21_tasteOf 3 = .ok (.invokevirtual 209, 3) := dk_182 0 209 (dk_at dksX21_tasteOf_0 3 rfl rfl)
theorem dX21_tasteOf_6 : decode cX21_tasteOf 6 = .ok (.istore_n 2, 1) := dk_61 (dk_at dksX21_tasteOf_0 6 rfl rfl)
theorem dX21_tasteOf_7 : decode cX21_tasteOf 7 = .ok (.aload_n 0, 1) := dk_42 (dk_at dksX21_tasteOf_0 7 rfl rfl)
theorem dX21_tasteOf_8 : decode cX21_tasteOf 8 = .ok (.iload_n 1, 1) := dk_27 (dk_at dksX21_tasteOf_0 8 rfl rfl)
theorem dX21_tasteOf_9 : decode cX21_tasteOf 9 = .ok (.iconst 0, 1) := dk_3 (dk_at dksX21_tasteOf_0 9 rfl rfl)
theorem dX21_tasteOf_10 : decode cX21_tasteOf 10 = .ok (.invokevirtual 209, 3) := dk_182 0 209 (dk_at dksX21_tasteOf_0 10 rfl rfl)
theorem dX21_tasteOf_13 : decode cX21_tasteOf 13 = .ok (.tableswitch 58 1 5 #[35, 37, 39, 41, 52], 35) := by decide +kernel
theorem dX21_tasteOf_48 : decode cX21_tasteOf 48 = .ok (.iconst 2, 1) := dk_5 (dk_at dksX21_tasteOf_2 0 rfl rfl)
theorem dX21_tasteOf_49 : decode cX21_tasteOf 49 = .ok (.ireturn, 1) := dk_172 (dk_at dksX21_tasteOf_2 1 rfl rfl)
theorem dX21_tasteOf_50 : decode cX21_tasteOf 50 = .ok (.iconst 3, 1) := dk_6 (dk_at dksX21_tasteOf_2 2 rfl rfl)
theorem dX21_tasteOf_51 : decode cX21_tasteOf 51 = .ok (.ireturn, 1) := dk_172 (dk_at dksX21_tasteOf_2 3 rfl rfl)
theorem dX21_tasteOf_52 : decode cX21_tasteOf 52 = .ok (.iconst 1, 1) := dk_4 (dk_at dksX21_tasteOf_2 4 rfl rfl)
theorem dX21_tasteOf_53 : decode cX21_tasteOf 53 = .ok (.ireturn, 1) := dk_172 (dk_at dksX21_tasteOf_2 5 rfl rfl)
theorem dX21_tasteOf_54 : decode cX21_tasteOf 54 = .ok (.iload_n 2, 1) := dk_28 (dk_at dksX21_tasteOf_2 6 rfl rfl)
theorem dX21_tasteOf_55 : decode cX21_tasteOf 55 = .ok (.iconst 5, 1) := dk_8 (dk_at dksX21_tasteOf_2 7 rfl rfl)
theorem dX21_tasteOf_56 : decode cX21_tasteOf 56 = .ok (.if_icmp .lt 7, 3) := dk_161 0 7 (dk_at dksX21_tasteOf_2 8 rfl rfl)
theorem dX21_tasteOf_59 : decode cX21_tasteOf 59 = .ok (.iconst 1, 1) := dk_4 (dk_at dksX21_tasteOf_2 11 rfl rfl)
theorem dX21_tasteOf_60 : decode cX21_tasteOf 60 = .ok (.goto 4, 3) := dk_167 0 4 (dk_at dksX21_tasteOf_2 12 rfl rfl)
theorem dX21_tasteOf_63 : decode cX21_tasteOf 63 = .ok (.iconst 0, 1) := dk_3 (dk_at dksX21_tasteOf_2 15 rfl rfl)
theorem dX21_tasteOf_64 : decode cX21_tasteOf 64 = .ok (.ireturn, 1) := dk_172 (dk_at dksX21_tasteOf_2 16 rfl rfl)
theorem dX21_tasteOf_65 : decode cX21_tasteOf 65 = .ok (.iconst 3, 1) := dk_6 (dk_at dksX21_tasteOf_2 17 rfl rfl)
theorem dX21_tasteOf_66 : decode cX21_tasteOf 66 = .ok (.iload_n 2, 1) := dk_28 (dk_at dksX21_tasteOf_2 18 rfl rfl)
theorem dX21_tasteOf_67 : decode cX21_tasteOf 67 = .ok (.iconst 3, 1) := dk_6 (dk_at dksX21_tasteOf_2 19 rfl rfl)
theorem dX21_tasteOf_68 : decode cX21_tasteOf 68 = .ok (.idiv, 1) := dk_108 (dk_at dksX21_tasteOf_2 20 rfl rfl)
theorem dX21_tasteOf_69 : decode cX21_tasteOf 69 = .ok (.iadd, 1) := dk_96 (dk_at dksX21_tasteOf_2 21 rfl rfl)
theorem dX21_tasteOf_70 : decode cX21_tasteOf 70 = .ok (.ireturn, 1) := dk_172 (dk_at dksX21_tasteOf_2 22 rfl rfl)
theorem dX21_tasteOf_71 : decode cX21_tasteOf 71 = .ok (.iconst 0, 1) := dk_3 (dk_at dksX21_tasteOf_2 23 rfl rfl)
theorem dX21_tasteOf_72 : decode cX21_tasteOf 72 = .ok (.ireturn, 1) := dk_172 (dk_at dksX21_tasteOf_3 0 rfl rfl)
abbrev cX21_its : ByteArray := prog_33_method_8_code
def yX21_its : MethodName := ⟨RX21, "its", "(II)I"⟩
def dkwX21_its_0 : List UInt8 := [42, 180, 0, 7, 42, 180, 0, 73, 16, 14, 96, 16, 10, 27, 104, 96, 28, 96, 46, 172]
abbrev dktX21_its_0 : List UInt8 := dkwX21_its_0 ++ []
theorem dksX21_its_0 : cX21_its.data.toList.drop 0 = dktX21_its_0 := by decide +kernel
theorem dX21_its_0 : decode cX21_its 0 = .ok (.aload_n 0, 1) := dk_42 (dk_at dksX21_its_0 0 rfl rfl)
theorem dX21_its_1 : decode cX21_its 1 = .ok (.getfield 7, 3) := dk_180 0 7 (dk_at dksX21_its_0 1 rfl rfl)
theorem dX21_its_4 : decode cX21_its 4 = .ok (.aload_n 0, 1) := dk_42 (dk_at dksX21_its_0 4 rfl rfl)
theorem dX21_its_5 : decode cX21_its 5 = .ok (.getfield 73, 3) := dk_180 0 73 (dk_at dksX21_its_0 5 rfl rfl)
theorem dX21_its_8 : decode cX21_its 8 = .ok (.bipush 14, 2) := dk_16 14 (dk_at dksX21_its_0 8 rfl rfl)
theorem dX21_its_10 : decode cX21_its 10 = .ok (.iadd, 1) := dk_96 (dk_at dksX21_its_0 10 rfl rfl)
theorem dX21_its_11 : decode cX21_its 11 = .ok (.bipush 10, 2) := dk_16 10 (dk_at dksX21_its_0 11 rfl rfl)
theorem dX21_its_13 : decode cX21_its 13 = .ok (.iload_n 1, 1) := dk_27 (dk_at dksX21_its_0 13 rfl rfl)
theorem dX21_its_14 : decode cX21_its 14 = .ok (.imul, 1) := dk_104 (dk_at dksX21_its_0 14 rfl rfl)
theorem dX21_its_15 : decode cX21_its 15 = .ok (.iadd, 1) := dk_96 (dk_at dksX21_its_0 15 rfl rfl)
theorem dX21_its_16 : decode cX21_its 16 = .ok (.iload_n 2, 1) := dk_28 (dk_at dksX21_its_0 16 rfl rfl)
theorem dX21_its_17 : decode cX21_its 17 = .ok (.iadd, 1) := dk_96 (dk_at dksX21_its_0 17 rfl rfl)
theorem dX21_its_18 : decode cX21_its 18 = .ok (.iaload, 1) := dk_46 (dk_at dksX21_its_0 18 rfl rfl)
theorem dX21_its_19 : decode cX21_its 19 = .ok (.ireturn, 1) := dk_172 (dk_at dksX21_its_0 19 rfl rfl)
abbrev cX21_likingOf : ByteArray := prog_33_method_31_code
def yX21_likingOf : MethodName := ⟨RX21, "likingOf", "(I)I"⟩
def dkwX21_likingOf_1 : List UInt8 := [6, 28, 104, 42, 27, 5, 182, 0, 209, 96, 172]
abbrev dktX21_likingOf_1 : List UInt8 := dkwX21_likingOf_1 ++ []
def dkwX21_likingOf_0 : List UInt8 := [42, 27, 182, 0, 213, 61, 28, 153, 0, 13, 42, 27, 7, 182, 0, 209, 4, 160, 0, 7, 3, 167, 0, 13]
abbrev dktX21_likingOf_0 : List UInt8 := dkwX21_likingOf_0 ++ dktX21_likingOf_1
theorem dksX21_likingOf_0 : cX21_likingOf.data.toList.drop 0 = dktX21_likingOf_0 := by decide +kernel
theorem dksX21_likingOf_1 : cX21_likingOf.data.toList.drop 24 = dktX21_likingOf_1 := dk_seg dksX21_likingOf_0 24 rfl rfl
theorem dX21_likingOf_0 : decode cX21_likingOf 0 = .ok (.aload_n 0, 1) := dk_42 (dk_at dksX21_likingOf_0 0 rfl rfl)
theorem dX21_likingOf_1 : decode cX21_likingOf 1 = .ok (.iload_n 1, 1) := dk_27 (dk_at dksX21_likingOf_0 1 rfl rfl)
theorem dX21_likingOf_2 : decode cX21_likingOf 2 = .ok (.invokevirtual 213, 3) := dk_182 0 213 (dk_at dksX21_likingOf_0 2 rfl rfl)
theorem dX21_likingOf_5 : decode cX21_likingOf 5 = .ok (.istore_n 2, 1) := dk_61 (dk_at dksX21_likingOf_0 5 rfl rfl)
theorem dX21_likingOf_6 : decode cX21_likingOf 6 = .ok (.iload_n 2, 1) := dk_28 (dk_at dksX21_likingOf_0 6 rfl rfl)
theorem dX21_likingOf_7 : decode cX21_likingOf 7 = .ok (.ifCond .eq 13, 3) := dk_153 0 13 (dk_at dksX21_likingOf_0 7 rfl rfl)
theorem dX21_likingOf_10 : decode cX21_likingOf 10 = .ok (.aload_n 0, 1) := dk_42 (dk_at dksX21_likingOf_0 10 rfl rfl)
theorem dX21_likingOf_11 : decode cX21_likingOf 11 = .ok (.iload_n 1, 1) := dk_27 (dk_at dksX21_likingOf_0 11 rfl rfl)
theorem dX21_likingOf_12 : decode cX21_likingOf 12 = .ok (.iconst 4, 1) := dk_7 (dk_at dksX21_likingOf_0 12 rfl rfl)
theorem dX21_likingOf_13 : decode cX21_likingOf 13 = .ok (.invokevirtual 209, 3) := dk_182 0 209 (dk_at dksX21_likingOf_0 13 rfl rfl)
theorem dX21_likingOf_16 : decode cX21_likingOf 16 = .ok (.iconst 1, 1) := dk_4 (dk_at dksX21_likingOf_0 16 rfl rfl)
theorem dX21_likingOf_17 : decode cX21_likingOf 17 = .ok (.if_icmp .ne 7, 3) := dk_160 0 7 (dk_at dksX21_likingOf_0 17 rfl rfl)
theorem dX21_likingOf_20 : decode cX21_likingOf 20 = .ok (.iconst 0, 1) := dk_3 (dk_at dksX21_likingOf_0 20 rfl rfl)
theorem dX21_likingOf_21 : decode cX21_likingOf 21 = .ok (.goto 13, 3) := dk_167 0 13 (dk_at dksX21_likingOf_0 21 rfl rfl)
theorem dX21_likingOf_24 : decode cX21_likingOf 24 = .ok (.iconst 3, 1) := dk_6 (dk_at dksX21_likingOf_1 0 rfl rfl)
theorem dX21_likingOf_25 : decode cX21_likingOf 25 = .ok (.iload_n 2, 1) := dk_28 (dk_at dksX21_likingOf_1 1 rfl rfl)
theorem dX21_likingOf_26 : decode cX21_likingOf 26 = .ok (.imul, 1) := dk_104 (dk_at dksX21_likingOf_1 2 rfl rfl)
theorem dX21_likingOf_27 : decode cX21_likingOf 27 = .ok (.aload_n 0, 1) := dk_42 (dk_at dksX21_likingOf_1 3 rfl rfl)
theorem dX21_likingOf_28 : decode cX21_likingOf 28 = .ok (.iload_n 1, 1) := dk_27 (dk_at dksX21_likingOf_1 4 rfl rfl)
theorem dX21_likingOf_29 : decode cX21_likingOf 29 = .ok (.iconst 2, 1) := dk_5 (dk_at dksX21_likingOf_1 5 rfl rfl)
theorem dX21_likingOf_30 : decode cX21_likingOf 30 = .ok (.invokevirtual 209, 3) := dk_182 0 209 (dk_at dksX21_likingOf_1 6 rfl rfl)
theorem dX21_likingOf_33 : decode cX21_likingOf 33 = .ok (.iadd, 1) := dk_96 (dk_at dksX21_likingOf_1 9 rfl rfl)
theorem dX21_likingOf_34 : decode cX21_likingOf 34 = .ok (.ireturn, 1) := dk_172 (dk_at dksX21_likingOf_1 10 rfl rfl)
abbrev cX21_lives : ByteArray := prog_33_method_33_code
def yX21_lives : MethodName := ⟨RX21, "lives", "(III)I"⟩
def dkwX21_lives_2 : List UInt8 := [21, 4, 172]
abbrev dktX21_lives_2 : List UInt8 := dkwX21_lives_2 ++ []
def dkwX21_lives_1 : List UInt8 := [184, 0, 69, 154, 0, 5, 2, 172, 42, 27, 28, 182, 0, 209, 54, 4, 42, 27, 28, 29, 182, 0, 169]
abbrev dktX21_lives_1 : List UInt8 := dkwX21_lives_1 ++ dktX21_lives_2
def dkwX21_lives_0 : List UInt8 := [42, 27, 182, 0, 216, 153, 0, 24, 28, 8, 16, 8, 184, 0, 69, 153, 0, 14, 29, 3, 17, 3, 231]
abbrev dktX21_lives_0 : List UInt8 := dkwX21_lives_0 ++ dktX21_lives_1
theorem dksX21_lives_0 : cX21_lives.data.toList.drop 0 = dktX21_lives_0 := by decide +kernel
theorem dksX21_lives_1 : cX21_lives.data.toList.drop 23 = dktX21_lives_1 := dk_seg dksX21_lives_0 23 rfl rfl
theorem dksX21_lives_2 : cX21_lives.data.toList.drop 46 = dktX21_lives_2 := dk_seg dksX21_lives_1 23 rfl rfl
theorem dX21_lives_0 : decode cX21_lives 0 = .ok (.aload_n 0, 1) := dk_42 (dk_at dksX21_lives_0 0 rfl rfl)
theorem dX21_lives_1 : decode cX21_lives 1 = .ok (.iload_n 1, 1) := dk_27 (dk_at dksX21_lives_0 1 rfl rfl)
theorem dX21_lives_2 : decode cX21_lives 2 = .ok (.invokevirtual 216, 3) := dk_182 0 216 (dk_at dksX21_lives_0 2 rfl rfl)
theorem dX21_lives_5 : decode cX21_lives 5 = .ok (.ifCond .eq 24, 3) := dk_153 0 24 (dk_at dksX21_lives_0 5 rfl rfl)
theorem dX21_lives_8 : decode cX21_lives 8 = .ok (.iload_n 2, 1) := dk_28 (dk_at dksX21_lives_0 8 rfl rfl)
theorem dX21_lives_9 : decode cX21_lives 9 = .ok (.iconst 5, 1) := dk_8 (dk_at dksX21_lives_0 9 rfl rfl)
theorem dX21_lives_10 : decode cX21_lives 10 = .ok (.bipush 8, 2) := dk_16 8 (dk_at dksX21_lives_0 10 rfl rfl)
theorem dX21_lives_12 : decode cX21_lives 12 = .ok (.invokestatic 69, 3) := dk_184 0 69 (dk_at dksX21_lives_0 12 rfl rfl)
theorem dX21_lives_15 : decode cX21_lives 15 = .ok (.ifCond .eq 14, 3) := dk_153 0 14 (dk_at dksX21_lives_0 15 rfl rfl)
theorem dX21_lives_18 : decode cX21_lives 18 = .ok (.iload_n 3, 1) := dk_29 (dk_at dksX21_lives_0 18 rfl rfl)
theorem dX21_lives_19 : decode cX21_lives 19 = .ok (.iconst 0, 1) := dk_3 (dk_at dksX21_lives_0 19 rfl rfl)
theorem dX21_lives_20 : decode cX21_lives 20 = .ok (.sipush 999, 3) := dk_17 3 231 (dk_at dksX21_lives_0 20 rfl rfl)
theorem dX21_lives_23 : decode cX21_lives 23 = .ok (.invokestatic 69, 3) := dk_184 0 69 (dk_at dksX21_lives_1 0 rfl rfl)
theorem dX21_lives_26 : decode cX21_lives 26 = .ok (.ifCond .ne 5, 3) := dk_154 0 5 (dk_at dksX21_lives_1 3 rfl rfl)
theorem dX21_lives_29 : decode cX21_lives 29 = .ok (.iconst (-1), 1) := dk_2 (dk_at dksX21_lives_1 6 rfl rfl)
theorem dX21_lives_30 : decode cX21_lives 30 = .ok (.ireturn, 1) := dk_172 (dk_at dksX21_lives_1 7 rfl rfl)
theorem dX21_lives_31 : decode cX21_lives 31 = .ok (.aload_n 0, 1) := dk_42 (dk_at dksX21_lives_1 8 rfl rfl)
theorem dX21_lives_32 : decode cX21_lives 32 = .ok (.iload_n 1, 1) := dk_27 (dk_at dksX21_lives_1 9 rfl rfl)
theorem dX21_lives_33 : decode cX21_lives 33 = .ok (.iload_n 2, 1) := dk_28 (dk_at dksX21_lives_1 10 rfl rfl)
theorem dX21_lives_34 : decode cX21_lives 34 = .ok (.invokevirtual 209, 3) := dk_182 0 209 (dk_at dksX21_lives_1 11 rfl rfl)
theorem dX21_lives_37 : decode cX21_lives 37 = .ok (.istore 4, 2) := dk_54 4 (dk_at dksX21_lives_1 14 rfl rfl)
theorem dX21_lives_39 : decode cX21_lives 39 = .ok (.aload_n 0, 1) := dk_42 (dk_at dksX21_lives_1 16 rfl rfl)
theorem dX21_lives_40 : decode cX21_lives 40 = .ok (.iload_n 1, 1) := dk_27 (dk_at dksX21_lives_1 17 rfl rfl)
theorem dX21_lives_41 : decode cX21_lives 41 = .ok (.iload_n 2, 1) := dk_28 (dk_at dksX21_lives_1 18 rfl rfl)
theorem dX21_lives_42 : decode cX21_lives 42 = .ok (.iload_n 3, 1) := dk_29 (dk_at dksX21_lives_1 19 rfl rfl)
theorem dX21_lives_43 : decode cX21_lives 43 = .ok (.invokevirtual 169, 3) := dk_182 0 169 (dk_at dksX21_lives_1 20 rfl rfl)
theorem dX21_lives_46 : decode cX21_lives 46 = .ok (.iload 4, 2) := dk_21 4 (dk_at dksX21_lives_2 0 rfl rfl)
theorem dX21_lives_48 : decode cX21_lives 48 = .ok (.ireturn, 1) := dk_172 (dk_at dksX21_lives_2 2 rfl rfl)
abbrev cX21_bag : ByteArray := prog_33_method_34_code
def yX21_bag : MethodName := ⟨RX21, "bag", "(IZ)I"⟩
def dkwX21_bag_1 : List UInt8 := [3, 28, 160, 0, 5, 3, 172, 42, 27, 7, 28, 153, 0, 7, 4, 167, 0, 4, 3, 182, 0, 169, 4, 172]
abbrev dktX21_bag_1 : List UInt8 := dkwX21_bag_1 ++ []
def dkwX21_bag_0 : List UInt8 := [42, 27, 182, 0, 216, 154, 0, 5, 2, 172, 42, 27, 7, 182, 0, 209, 4, 160, 0, 7, 4, 167, 0, 4]
abbrev dktX21_bag_0 : List UInt8 := dkwX21_bag_0 ++ dktX21_bag_1
theorem dksX21_bag_0 : cX21_bag.data.toList.drop 0 = dktX21_bag_0 := by decide +kernel
theorem dksX21_bag_1 : cX21_bag.data.toList.drop 24 = dktX21_bag_1 := dk_seg dksX21_bag_0 24 rfl rfl
theorem dX21_bag_0 : decode cX21_bag 0 = .ok (.aload_n 0, 1) := dk_42 (dk_at dksX21_bag_0 0 rfl rfl)
theorem dX21_bag_1 : decode cX21_bag 1 = .ok (.iload_n 1, 1) := dk_27 (dk_at dksX21_bag_0 1 rfl rfl)
theorem dX21_bag_2 : decode cX21_bag 2 = .ok (.invokevirtual 216, 3) := dk_182 0 216 (dk_at dksX21_bag_0 2 rfl rfl)
theorem dX21_bag_5 : decode cX21_bag 5 = .ok (.ifCond .ne 5, 3) := dk_154 0 5 (dk_at dksX21_bag_0 5 rfl rfl)
theorem dX21_bag_8 : decode cX21_bag 8 = .ok (.iconst (-1), 1) := dk_2 (dk_at dksX21_bag_0 8 rfl rfl)
theorem dX21_bag_9 : decode cX21_bag 9 = .ok (.ireturn, 1) := dk_172 (dk_at dksX21_bag_0 9 rfl rfl)
theorem dX21_bag_10 : decode cX21_bag 10 = .ok (.aload_n 0, 1) := dk_42 (dk_at dksX21_bag_0 10 rfl rfl)
theorem dX21_bag_11 : decode cX21_bag 11 = .ok (.iload_n 1, 1) := dk_27 (dk_at dksX21_bag_0 11 rfl rfl)
theorem dX21_bag_12 : decode cX21_bag 12 = .ok (.iconst 4, 1) := dk_7 (dk_at dksX21_bag_0 12 rfl rfl)
theorem dX21_bag_13 : decode cX21_bag 13 = .ok (.invokevirtual 209, 3) := dk_182 0 209 (dk_at dksX21_bag_0 13 rfl rfl)
theorem dX21_bag_16 : decode cX21_bag 16 = .ok (.iconst 1, 1) := dk_4 (dk_at dksX21_bag_0 16 rfl rfl)
theorem dX21_bag_17 : decode cX21_bag 17 = .ok (.if_icmp .ne 7, 3) := dk_160 0 7 (dk_at dksX21_bag_0 17 rfl rfl)
theorem dX21_bag_20 : decode cX21_bag 20 = .ok (.iconst 1, 1) := dk_4 (dk_at dksX21_bag_0 20 rfl rfl)
theorem dX21_bag_21 : decode cX21_bag 21 = .ok (.goto 4, 3) := dk_167 0 4 (dk_at dksX21_bag_0 21 rfl rfl)
theorem dX21_bag_24 : decode cX21_bag 24 = .ok (.iconst 0, 1) := dk_3 (dk_at dksX21_bag_1 0 rfl rfl)
theorem dX21_bag_25 : decode cX21_bag 25 = .ok (.iload_n 2, 1) := dk_28 (dk_at dksX21_bag_1 1 rfl rfl)
theorem dX21_bag_26 : decode cX21_bag 26 = .ok (.if_icmp .ne 5, 3) := dk_160 0 5 (dk_at dksX21_bag_1 2 rfl rfl)
theorem dX21_bag_29 : decode cX21_bag 29 = .ok (.iconst 0, 1) := dk_3 (dk_at dksX21_bag_1 5 rfl rfl)
theorem dX21_bag_30 : decode cX21_bag 30 = .ok (.ireturn, 1) := dk_172 (dk_at dksX21_bag_1 6 rfl rfl)
theorem dX21_bag_31 : decode cX21_bag 31 = .ok (.aload_n 0, 1) := dk_42 (dk_at dksX21_bag_1 7 rfl rfl)
theorem dX21_bag_32 : decode cX21_bag 32 = .ok (.iload_n 1, 1) := dk_27 (dk_at dksX21_bag_1 8 rfl rfl)
theorem dX21_bag_33 : decode cX21_bag 33 = .ok (.iconst 4, 1) := dk_7 (dk_at dksX21_bag_1 9 rfl rfl)
theorem dX21_bag_34 : decode cX21_bag 34 = .ok (.iload_n 2, 1) := dk_28 (dk_at dksX21_bag_1 10 rfl rfl)
theorem dX21_bag_35 : decode cX21_bag 35 = .ok (.ifCond .eq 7, 3) := dk_153 0 7 (dk_at dksX21_bag_1 11 rfl rfl)
theorem dX21_bag_38 : decode cX21_bag 38 = .ok (.iconst 1, 1) := dk_4 (dk_at dksX21_bag_1 14 rfl rfl)
theorem dX21_bag_39 : decode cX21_bag 39 = .ok (.goto 4, 3) := dk_167 0 4 (dk_at dksX21_bag_1 15 rfl rfl)
theorem dX21_bag_42 : decode cX21_bag 42 = .ok (.iconst 0, 1) := dk_3 (dk_at dksX21_bag_1 18 rfl rfl)
theorem dX21_bag_43 : decode cX21_bag 43 = .ok (.invokevirtual 169, 3) := dk_182 0 169 (dk_at dksX21_bag_1 19 rfl rfl)
theorem dX21_bag_46 : decode cX21_bag 46 = .ok (.iconst 1, 1) := dk_4 (dk_at dksX21_bag_1 22 rfl rfl)
theorem dX21_bag_47 : decode cX21_bag 47 = .ok (.ireturn, 1) := dk_172 (dk_at dksX21_bag_1 23 rfl rfl)
abbrev cX21_move : ByteArray := prog_33_method_35_code
def yX21_move : MethodName := ⟨RX21, "move", "(II)I"⟩
def dkwX21_move_1 : List UInt8 := [42, 27, 4, 28, 182, 0, 169, 29, 172]
abbrev dktX21_move_1 : List UInt8 := dkwX21_move_1 ++ []
def dkwX21_move_0 : List UInt8 := [42, 27, 182, 0, 216, 153, 0, 10, 28, 184, 0, 206, 154, 0, 5, 2, 172, 42, 27, 4, 182, 0, 209, 62]
abbrev dktX21_move_0 : List UInt8 := dkwX21_move_0 ++ dktX21_move_1
theorem dksX21_move_0 : cX21_move.data.toList.drop 0 = dktX21_move_0 := by decide +kernel
theorem dksX21_move_1 : cX21_move.data.toList.drop 24 = dktX21_move_1 := dk_seg dksX21_move_0 24 rfl rfl
theorem dX21_move_0 : decode cX21_move 0 = .ok (.aload_n 0, 1) := dk_42 (dk_at dksX21_move_0 0 rfl rfl)
theorem dX21_move_1 : decode cX21_move 1 = .ok (.iload_n 1, 1) := dk_27 (dk_at dksX21_move_0 1 rfl rfl)
theorem dX21_move_2 : decode cX21_move 2 = .ok (.invokevirtual 216, 3) := dk_182 0 216 (dk_at dksX21_move_0 2 rfl rfl)
theorem dX21_move_5 : decode cX21_move 5 = .ok (.ifCond .eq 10, 3) := dk_153 0 10 (dk_at dksX21_move_0 5 rfl rfl)
theorem dX21_move_8 : decode cX21_move 8 = .ok (.iload_n 2, 1) := dk_28 (dk_at dksX21_move_0 8 rfl rfl)
theorem dX21_move_9 : decode cX21_move 9 = .ok (.invokestatic 206, 3) := dk_184 0 206 (dk_at dksX21_move_0 9 rfl rfl)
theorem dX21_move_12 : decode cX21_move 12 = .ok (.ifCond .ne 5, 3) := dk_154 0 5 (dk_at dksX21_move_0 12 rfl rfl)
theorem dX21_move_15 : decode cX21_move 15 = .ok (.iconst (-1), 1) := dk_2 (dk_at dksX21_move_0 15 rfl rfl)
theorem dX21_move_16 : decode cX21_move 16 = .ok (.ireturn, 1) := dk_172 (dk_at dksX21_move_0 16 rfl rfl)
theorem dX21_move_17 : decode cX21_move 17 = .ok (.aload_n 0, 1) := dk_42 (dk_at dksX21_move_0 17 rfl rfl)
theorem dX21_move_18 : decode cX21_move 18 = .ok (.iload_n 1, 1) := dk_27 (dk_at dksX21_move_0 18 rfl rfl)
theorem dX21_move_19 : decode cX21_move 19 = .ok (.iconst 1, 1) := dk_4 (dk_at dksX21_move_0 19 rfl rfl)
theorem dX21_move_20 : decode cX21_move 20 = .ok (.invokevirtual 209, 3) := dk_182 0 209 (dk_at dksX21_move_0 20 rfl rfl)
theorem dX21_move_23 : decode cX21_move 23 = .ok (.istore_n 3, 1) := dk_62 (dk_at dksX21_move_0 23 rfl rfl)
theorem dX21_move_24 : decode cX21_move 24 = .ok (.aload_n 0, 1) := dk_42 (dk_at dksX21_move_1 0 rfl rfl)
theorem dX21_move_25 : decode cX21_move 25 = .ok (.iload_n 1, 1) := dk_27 (dk_at dksX21_move_1 1 rfl rfl)
theorem dX21_move_26 : decode cX21_move 26 = .ok (.iconst 1, 1) := dk_4 (dk_at dksX21_move_1 2 rfl rfl)
theorem dX21_move_27 : decode cX21_move 27 = .ok (.iload_n 2, 1) := dk_28 (dk_at dksX21_move_1 3 rfl rfl)
theorem dX21_move_28 : decode cX21_move 28 = .ok (.invokevirtual 169, 3) := dk_182 0 169 (dk_at dksX21_move_1 4 rfl rfl)
theorem dX21_move_31 : decode cX21_move 31 = .ok (.iload_n 3, 1) := dk_29 (dk_at dksX21_move_1 7 rfl rfl)
theorem dX21_move_32 : decode cX21_move 32 = .ok (.ireturn, 1) := dk_172 (dk_at dksX21_move_1 8 rfl rfl)
abbrev cX21_fliers : ByteArray := prog_33_method_36_code
def yX21_fliers : MethodName := ⟨RX21, "fliers", "(II)I"⟩
def dkwX21_fliers_1 : List UInt8 := [182, 0, 222, 62, 42, 27, 3, 28, 182, 0, 183, 29, 172]
abbrev dktX21_fliers_1 : List UInt8 := dkwX21_fliers_1 ++ []
def dkwX21_fliers_0 : List UInt8 := [27, 184, 0, 206, 153, 0, 14, 28, 3, 17, 3, 231, 184, 0, 69, 154, 0, 5, 2, 172, 42, 27, 3]
abbrev dktX21_fliers_0 : List UInt8 := dkwX21_fliers_0 ++ dktX21_fliers_1
theorem dksX21_fliers_0 : cX21_fliers.data.toList.drop 0 = dktX21_fliers_0 := by decide +kernel
theorem dksX21_fliers_1 : cX21_fliers.data.toList.drop 23 = dktX21_fliers_1 := dk_seg dksX21_fliers_0 23 rfl rfl
theorem dX21_fliers_0 : decode cX21_fliers 0 = .ok (.iload_n 1, 1) := dk_27 (dk_at dksX21_fliers_0 0 rfl rfl)
theorem dX21_fliers_1 : decode cX21_fliers 1 = .ok (.invokestatic 206, 3) := dk_184 0 206 (dk_at dksX21_fliers_0 1 rfl rfl)
theorem dX21_fliers_4 : decode cX21_fliers 4 = .ok (.ifCond .eq 14, 3) := dk_153 0 14 (dk_at dksX21_fliers_0 4 rfl rfl)
theorem dX21_fliers_7 : decode cX21_fliers 7 = .ok (.iload_n 2, 1) := dk_28 (dk_at dksX21_fliers_0 7 rfl rfl)
theorem dX21_fliers_8 : decode cX21_fliers 8 = .ok (.iconst 0, 1) := dk_3 (dk_at dksX21_fliers_0 8 rfl rfl)
theorem dX21_fliers_9 : decode cX21_fliers 9 = .ok (.sipush 999, 3) := dk_17 3 231 (dk_at dksX21_fliers_0 9 rfl rfl)
theorem dX21_fliers_12 : decode cX21_fliers 12 = .ok (.invokestatic 69, 3) := dk_184 0 69 (dk_at dksX21_fliers_0 12 rfl rfl)
theorem dX21_fliers_15 : decode cX21_fliers 15 = .ok (.ifCond .ne 5, 3) := dk_154 0 5 (dk_at dksX21_fliers_0 15 rfl rfl)
theorem dX21_fliers_18 : decode cX21_fliers 18 = .ok (.iconst (-1), 1) := dk_2 (dk_at dksX21_fliers_0 18 rfl rfl)
theorem dX21_fliers_19 : decode cX21_fliers 19 = .ok (.ireturn, 1) := dk_172 (dk_at dksX21_fliers_0 19 rfl rfl)
theorem dX21_fliers_20 : decode cX21_fliers 20 = .ok (.aload_n 0, 1) := dk_42 (dk_at dksX21_fliers_0 20 rfl rfl)
theorem dX21_fliers_21 : decode cX21_fliers 21 = .ok (.iload_n 1, 1) := dk_27 (dk_at dksX21_fliers_0 21 rfl rfl)
theorem dX21_fliers_22 : decode cX21_fliers 22 = .ok (.iconst 0, 1) := dk_3 (dk_at dksX21_fliers_0 22 rfl rfl)
theorem dX21_fliers_23 : decode cX21_fliers 23 = .ok (.invokevirtual 222, 3) := dk_182 0 222 (dk_at dksX21_fliers_1 0 rfl rfl)
theorem dX21_fliers_26 : decode cX21_fliers 26 = .ok (.istore_n 3, 1) := dk_62 (dk_at dksX21_fliers_1 3 rfl rfl)
theorem dX21_fliers_27 : decode cX21_fliers 27 = .ok (.aload_n 0, 1) := dk_42 (dk_at dksX21_fliers_1 4 rfl rfl)
theorem dX21_fliers_28 : decode cX21_fliers 28 = .ok (.iload_n 1, 1) := dk_27 (dk_at dksX21_fliers_1 5 rfl rfl)
theorem dX21_fliers_29 : decode cX21_fliers 29 = .ok (.iconst 0, 1) := dk_3 (dk_at dksX21_fliers_1 6 rfl rfl)
theorem dX21_fliers_30 : decode cX21_fliers 30 = .ok (.iload_n 2, 1) := dk_28 (dk_at dksX21_fliers_1 7 rfl rfl)
theorem dX21_fliers_31 : decode cX21_fliers 31 = .ok (.invokevirtual 183, 3) := dk_182 0 183 (dk_at dksX21_fliers_1 8 rfl rfl)
theorem dX21_fliers_34 : decode cX21_fliers 34 = .ok (.iload_n 3, 1) := dk_29 (dk_at dksX21_fliers_1 11 rfl rfl)
theorem dX21_fliers_35 : decode cX21_fliers 35 = .ok (.ireturn, 1) := dk_172 (dk_at dksX21_fliers_1 12 rfl rfl)
abbrev cX21_ofPlace : ByteArray := prog_33_method_10_code
def yX21_ofPlace : MethodName := ⟨RX21, "ofPlace", "(II)I"⟩
def dkwX21_ofPlace_0 : List UInt8 := [42, 180, 0, 7, 42, 180, 0, 73, 5, 96, 6, 27, 104, 96, 28, 96, 46, 172]
abbrev dktX21_ofPlace_0 : List UInt8 := dkwX21_ofPlace_0 ++ []
theorem dksX21_ofPlace_0 : cX21_ofPlace.data.toList.drop 0 = dktX21_ofPlace_0 := by decide +kernel
theorem dX21_ofPlace_0 : decode cX21_ofPlace 0 = .ok (.aload_n 0, 1) := dk_42 (dk_at dksX21_ofPlace_0 0 rfl rfl)
theorem dX21_ofPlace_1 : decode cX21_ofPlace 1 = .ok (.getfield 7, 3) := dk_180 0 7 (dk_at dksX21_ofPlace_0 1 rfl rfl)
theorem dX21_ofPlace_4 : decode cX21_ofPlace 4 = .ok (.aload_n 0, 1) := dk_42 (dk_at dksX21_ofPlace_0 4 rfl rfl)
theorem dX21_ofPlace_5 : decode cX21_ofPlace 5 = .ok (.getfield 73, 3) := dk_180 0 73 (dk_at dksX21_ofPlace_0 5 rfl rfl)
theorem dX21_ofPlace_8 : decode cX21_ofPlace 8 = .ok (.iconst 2, 1) := dk_5 (dk_at dksX21_ofPlace_0 8 rfl rfl)
theorem dX21_ofPlace_9 : decode cX21_ofPlace 9 = .ok (.iadd, 1) := dk_96 (dk_at dksX21_ofPlace_0 9 rfl rfl)
theorem dX21_ofPlace_10 : decode cX21_ofPlace 10 = .ok (.iconst 3, 1) := dk_6 (dk_at dksX21_ofPlace_0 10 rfl rfl)
theorem dX21_ofPlace_11 : decode cX21_ofPlace 11 = .ok (.iload_n 1, 1) := dk_27 (dk_at dksX21_ofPlace_0 11 rfl rfl)
theorem dX21_ofPlace_12 : decode cX21_ofPlace 12 = .ok (.imul, 1) := dk_104 (dk_at dksX21_ofPlace_0 12 rfl rfl)
theorem dX21_ofPlace_13 : decode cX21_ofPlace 13 = .ok (.iadd, 1) := dk_96 (dk_at dksX21_ofPlace_0 13 rfl rfl)
theorem dX21_ofPlace_14 : decode cX21_ofPlace 14 = .ok (.iload_n 2, 1) := dk_28 (dk_at dksX21_ofPlace_0 14 rfl rfl)
theorem dX21_ofPlace_15 : decode cX21_ofPlace 15 = .ok (.iadd, 1) := dk_96 (dk_at dksX21_ofPlace_0 15 rfl rfl)
theorem dX21_ofPlace_16 : decode cX21_ofPlace 16 = .ok (.iaload, 1) := dk_46 (dk_at dksX21_ofPlace_0 16 rfl rfl)
theorem dX21_ofPlace_17 : decode cX21_ofPlace 17 = .ok (.ireturn, 1) := dk_172 (dk_at dksX21_ofPlace_0 17 rfl rfl)
abbrev cX21_card : ByteArray := prog_33_method_37_code
def yX21_card : MethodName := ⟨RX21, "card", "(IZ)I"⟩
def dkwX21_card_1 : List UInt8 := [28, 160, 0, 5, 3, 172, 42, 27, 4, 28, 153, 0, 7, 4, 167, 0, 4, 3, 182, 0, 183, 4, 172]
abbrev dktX21_card_1 : List UInt8 := dkwX21_card_1 ++ []
def dkwX21_card_0 : List UInt8 := [27, 184, 0, 206, 154, 0, 5, 2, 172, 42, 27, 4, 182, 0, 222, 4, 160, 0, 7, 4, 167, 0, 4, 3]
abbrev dktX21_card_0 : List UInt8 := dkwX21_card_0 ++ dktX21_card_1
theorem dksX21_card_0 : cX21_card.data.toList.drop 0 = dktX21_card_0 := by decide +kernel
theorem dksX21_card_1 : cX21_card.data.toList.drop 24 = dktX21_card_1 := dk_seg dksX21_card_0 24 rfl rfl
theorem dX21_card_0 : decode cX21_card 0 = .ok (.iload_n 1, 1) := dk_27 (dk_at dksX21_card_0 0 rfl rfl)
theorem dX21_card_1 : decode cX21_card 1 = .ok (.invokestatic 206, 3) := dk_184 0 206 (dk_at dksX21_card_0 1 rfl rfl)
theorem dX21_card_4 : decode cX21_card 4 = .ok (.ifCond .ne 5, 3) := dk_154 0 5 (dk_at dksX21_card_0 4 rfl rfl)
theorem dX21_card_7 : decode cX21_card 7 = .ok (.iconst (-1), 1) := dk_2 (dk_at dksX21_card_0 7 rfl rfl)
theorem dX21_card_8 : decode cX21_card 8 = .ok (.ireturn, 1) := dk_172 (dk_at dksX21_card_0 8 rfl rfl)
theorem dX21_card_9 : decode cX21_card 9 = .ok (.aload_n 0, 1) := dk_42 (dk_at dksX21_card_0 9 rfl rfl)
theorem dX21_card_10 : decode cX21_card 10 = .ok (.iload_n 1, 1) := dk_27 (dk_at dksX21_card_0 10 rfl rfl)
theorem dX21_card_11 : decode cX21_card 11 = .ok (.iconst 1, 1) := dk_4 (dk_at dksX21_card_0 11 rfl rfl)
theorem dX21_card_12 : decode cX21_card 12 = .ok (.invokevirtual 222, 3) := dk_182 0 222 (dk_at dksX21_card_0 12 rfl rfl)
theorem dX21_card_15 : decode cX21_card 15 = .ok (.iconst 1, 1) := dk_4 (dk_at dksX21_card_0 15 rfl rfl)
theorem dX21_card_16 : decode cX21_card 16 = .ok (.if_icmp .ne 7, 3) := dk_160 0 7 (dk_at dksX21_card_0 16 rfl rfl)
theorem dX21_card_19 : decode cX21_card 19 = .ok (.iconst 1, 1) := dk_4 (dk_at dksX21_card_0 19 rfl rfl)
theorem dX21_card_20 : decode cX21_card 20 = .ok (.goto 4, 3) := dk_167 0 4 (dk_at dksX21_card_0 20 rfl rfl)
theorem dX21_card_23 : decode cX21_card 23 = .ok (.iconst 0, 1) := dk_3 (dk_at dksX21_card_0 23 rfl rfl)
theorem dX21_card_24 : decode cX21_card 24 = .ok (.iload_n 2, 1) := dk_28 (dk_at dksX21_card_1 0 rfl rfl)
theorem dX21_card_25 : decode cX21_card 25 = .ok (.if_icmp .ne 5, 3) := dk_160 0 5 (dk_at dksX21_card_1 1 rfl rfl)
theorem dX21_card_28 : decode cX21_card 28 = .ok (.iconst 0, 1) := dk_3 (dk_at dksX21_card_1 4 rfl rfl)
theorem dX21_card_29 : decode cX21_card 29 = .ok (.ireturn, 1) := dk_172 (dk_at dksX21_card_1 5 rfl rfl)
theorem dX21_card_30 : decode cX21_card 30 = .ok (.aload_n 0, 1) := dk_42 (dk_at dksX21_card_1 6 rfl rfl)
theorem dX21_card_31 : decode cX21_card 31 = .ok (.iload_n 1, 1) := dk_27 (dk_at dksX21_card_1 7 rfl rfl)
theorem dX21_card_32 : decode cX21_card 32 = .ok (.iconst 1, 1) := dk_4 (dk_at dksX21_card_1 8 rfl rfl)
theorem dX21_card_33 : decode cX21_card 33 = .ok (.iload_n 2, 1) := dk_28 (dk_at dksX21_card_1 9 rfl rfl)
theorem dX21_card_34 : decode cX21_card 34 = .ok (.ifCond .eq 7, 3) := dk_153 0 7 (dk_at dksX21_card_1 10 rfl rfl)
theorem dX21_card_37 : decode cX21_card 37 = .ok (.iconst 1, 1) := dk_4 (dk_at dksX21_card_1 13 rfl rfl)
theorem dX21_card_38 : decode cX21_card 38 = .ok (.goto 4, 3) := dk_167 0 4 (dk_at dksX21_card_1 14 rfl rfl)
theorem dX21_card_41 : decode cX21_card 41 = .ok (.iconst 0, 1) := dk_3 (dk_at dksX21_card_1 17 rfl rfl)
theorem dX21_card_42 : decode cX21_card 42 = .ok (.invokevirtual 183, 3) := dk_182 0 183 (dk_at dksX21_card_1 18 rfl rfl)
theorem dX21_card_45 : decode cX21_card 45 = .ok (.iconst 1, 1) := dk_4 (dk_at dksX21_card_1 21 rfl rfl)
theorem dX21_card_46 : decode cX21_card 46 = .ok (.ireturn, 1) := dk_172 (dk_at dksX21_card_1 22 rfl rfl)
abbrev cX21_placeOf : ByteArray := prog_33_method_39_code
def yX21_placeOf : MethodName := ⟨RX21, "placeOf", "(II)I"⟩
def dkwX21_placeOf_2 : List UInt8 := [180, 0, 25, 27, 46, 172]
abbrev dktX21_placeOf_2 : List UInt8 := dkwX21_placeOf_2 ++ []
def dkwX21_placeOf_1 : List UInt8 := [27, 28, 182, 0, 222, 167, 0, 22, 28, 6, 160, 0, 11, 42, 27, 182, 0, 225, 167, 0, 9, 42]
abbrev dktX21_placeOf_1 : List UInt8 := dkwX21_placeOf_1 ++ dktX21_placeOf_2
def dkwX21_placeOf_0 : List UInt8 := [27, 184, 0, 206, 153, 0, 12, 28, 3, 7, 184, 0, 69, 154, 0, 5, 2, 172, 28, 6, 162, 0, 12, 42]
abbrev dktX21_placeOf_0 : List UInt8 := dkwX21_placeOf_0 ++ dktX21_placeOf_1
theorem dksX21_placeOf_0 : cX21_placeOf.data.toList.drop 0 = dktX21_placeOf_0 := by decide +kernel
theorem dksX21_placeOf_1 : cX21_placeOf.data.toList.drop 24 = dktX21_placeOf_1 := dk_seg dksX21_placeOf_0 24 rfl rfl
theorem dksX21_placeOf_2 : cX21_placeOf.data.toList.drop 46 = dktX21_placeOf_2 := dk_seg dksX21_placeOf_1 22 rfl rfl
theorem dX21_placeOf_0 : decode cX21_placeOf 0 = .ok (.iload_n 1, 1) := dk_27 (dk_at dksX21_placeOf_0 0 rfl rfl)
theorem dX21_placeOf_1 : decode cX21_placeOf 1 = .ok (.invokestatic 206, 3) := dk_184 0 206 (dk_at dksX21_placeOf_0 1 rfl rfl)
theorem dX21_placeOf_4 : decode cX21_placeOf 4 = .ok (.ifCond .eq 12, 3) := dk_153 0 12 (dk_at dksX21_placeOf_0 4 rfl rfl)
theorem dX21_placeOf_7 : decode cX21_placeOf 7 = .ok (.iload_n 2, 1) := dk_28 (dk_at dksX21_placeOf_0 7 rfl rfl)
theorem dX21_placeOf_8 : decode cX21_placeOf 8 = .ok (.iconst 0, 1) := dk_3 (dk_at dksX21_placeOf_0 8 rfl rfl)
theorem dX21_placeOf_9 : decode cX21_placeOf 9 = .ok (.iconst 4, 1) := dk_7 (dk_at dksX21_placeOf_0 9 rfl rfl)
theorem dX21_placeOf_10 : decode cX21_placeOf 10 = .ok (.invokestatic 69, 3) := dk_184 0 69 (dk_at dksX21_placeOf_0 10 rfl rfl)
theorem dX21_placeOf_13 : decode cX21_placeOf 13 = .ok (.ifCond .ne 5, 3) := dk_154 0 5 (dk_at dksX21_placeOf_0 13 rfl rfl)
theorem dX21_placeOf_16 : decode cX21_placeOf 16 = .ok (.iconst (-1), 1) := dk_2 (dk_at dksX21_placeOf_0 16 rfl rfl)
theorem dX21_placeOf_17 : decode cX21_placeOf 17 = .ok (.ireturn, 1) := dk_172 (dk_at dksX21_placeOf_0 17 rfl rfl)
theorem dX21_placeOf_18 : decode cX21_placeOf 18 = .ok (.iload_n 2, 1) := dk_28 (dk_at dksX21_placeOf_0 18 rfl rfl)
theorem dX21_placeOf_19 : decode cX21_placeOf 19 = .ok (.iconst 3, 1) := dk_6 (dk_at dksX21_placeOf_0 19 rfl rfl)
theorem dX21_placeOf_20 : decode cX21_placeOf 20 = .ok (.if_icmp .ge 12, 3) := dk_162 0 12 (dk_at dksX21_placeOf_0 20 rfl rfl)
theorem dX21_placeOf_23 : decode cX21_placeOf 23 = .ok (.aload_n 0, 1) := dk_42 (dk_at dksX21_placeOf_0 23 rfl rfl)
theorem dX21_placeOf_24 : decode cX21_placeOf 24 = .ok (.iload_n 1, 1) := dk_27 (dk_at dksX21_placeOf_1 0 rfl rfl)
theorem dX21_placeOf_25 : decode cX21_placeOf 25 = .ok (.iload_n 2, 1) := dk_28 (dk_at dksX21_placeOf_1 1 rfl rfl)
theorem dX21_placeOf_26 : decode cX21_placeOf 26 = .ok (.invokevirtual 222, 3) := dk_182 0 222 (dk_at dksX21_placeOf_1 2 rfl rfl)
theorem dX21_placeOf_29 : decode cX21_placeOf 29 = .ok (.goto 22, 3) := dk_167 0 22 (dk_at dksX21_placeOf_1 5 rfl rfl)
theorem dX21_placeOf_32 : decode cX21_placeOf 32 = .ok (.iload_n 2, 1) := dk_28 (dk_at dksX21_placeOf_1 8 rfl rfl)
theorem dX21_placeOf_33 : decode cX21_placeOf 33 = .ok (.iconst 3, 1) := dk_6 (dk_at dksX21_placeOf_1 9 rfl rfl)
theorem dX21_placeOf_34 : decode cX21_placeOf 34 = .ok (.if_icmp .ne 11, 3) := dk_160 0 11 (dk_at dksX21_placeOf_1 10 rfl rfl)
theorem dX21_placeOf_37 : decode cX21_placeOf 37 = .ok (.aload_n 0, 1) := dk_42 (dk_at dksX21_placeOf_1 13 rfl rfl)
theorem dX21_placeOf_38 : decode cX21_placeOf 38 = .ok (.iload_n 1, 1) := dk_27 (dk_at dksX21_placeOf_1 14 rfl rfl)
theorem dX21_placeOf_39 : decode cX21_placeOf 39 = .ok (.invokevirtual 225, 3) := dk_182 0 225 (dk_at dksX21_placeOf_1 15 rfl rfl)
theorem dX21_placeOf_42 : decode cX21_placeOf 42 = .ok (.goto 9, 3) := dk_167 0 9 (dk_at dksX21_placeOf_1 18 rfl rfl)
theorem dX21_placeOf_45 : decode cX21_placeOf 45 = .ok (.aload_n 0, 1) := dk_42 (dk_at dksX21_placeOf_1 21 rfl rfl)
theorem dX21_placeOf_46 : decode cX21_placeOf 46 = .ok (.getfield 25, 3) := dk_180 0 25 (dk_at dksX21_placeOf_2 0 rfl rfl)
theorem dX21_placeOf_49 : decode cX21_placeOf 49 = .ok (.iload_n 1, 1) := dk_27 (dk_at dksX21_placeOf_2 3 rfl rfl)
theorem dX21_placeOf_50 : decode cX21_placeOf 50 = .ok (.iaload, 1) := dk_46 (dk_at dksX21_placeOf_2 4 rfl rfl)
theorem dX21_placeOf_51 : decode cX21_placeOf 51 = .ok (.ireturn, 1) := dk_172 (dk_at dksX21_placeOf_2 5 rfl rfl)
abbrev cX21_thingsOn : ByteArray := prog_33_method_38_code
def yX21_thingsOn : MethodName := ⟨RX21, "thingsOn", "(I)I"⟩
def dkwX21_thingsOn_1 : List UInt8 := [182, 0, 209, 27, 160, 0, 9, 4, 29, 120, 167, 0, 4, 3, 128, 61, 132, 3, 1, 167, 255, 218, 28, 172]
abbrev dktX21_thingsOn_1 : List UInt8 := dkwX21_thingsOn_1 ++ []
def dkwX21_thingsOn_0 : List UInt8 := [3, 61, 3, 62, 29, 42, 180, 0, 7, 42, 180, 0, 73, 3, 96, 46, 162, 0, 29, 28, 42, 29, 4]
abbrev dktX21_thingsOn_0 : List UInt8 := dkwX21_thingsOn_0 ++ dktX21_thingsOn_1
theorem dksX21_thingsOn_0 : cX21_thingsOn.data.toList.drop 0 = dktX21_thingsOn_0 := by decide +kernel
theorem dksX21_thingsOn_1 : cX21_thingsOn.data.toList.drop 23 = dktX21_thingsOn_1 := dk_seg dksX21_thingsOn_0 23 rfl rfl
theorem dX21_thingsOn_0 : decode cX21_thingsOn 0 = .ok (.iconst 0, 1) := dk_3 (dk_at dksX21_thingsOn_0 0 rfl rfl)
theorem dX21_thingsOn_1 : decode cX21_thingsOn 1 = .ok (.istore_n 2, 1) := dk_61 (dk_at dksX21_thingsOn_0 1 rfl rfl)
theorem dX21_thingsOn_2 : decode cX21_thingsOn 2 = .ok (.iconst 0, 1) := dk_3 (dk_at dksX21_thingsOn_0 2 rfl rfl)
theorem dX21_thingsOn_3 : decode cX21_thingsOn 3 = .ok (.istore_n 3, 1) := dk_62 (dk_at dksX21_thingsOn_0 3 rfl rfl)
theorem dX21_thingsOn_4 : decode cX21_thingsOn 4 = .ok (.iload_n 3, 1) := dk_29 (dk_at dksX21_thingsOn_0 4 rfl rfl)
theorem dX21_thingsOn_5 : decode cX21_thingsOn 5 = .ok (.aload_n 0, 1) := dk_42 (dk_at dksX21_thingsOn_0 5 rfl rfl)
theorem dX21_thingsOn_6 : decode cX21_thingsOn 6 = .ok (.getfield 7, 3) := dk_180 0 7 (dk_at dksX21_thingsOn_0 6 rfl rfl)
theorem dX21_thingsOn_9 : decode cX21_thingsOn 9 = .ok (.aload_n 0, 1) := dk_42 (dk_at dksX21_thingsOn_0 9 rfl rfl)
theorem dX21_thingsOn_10 : decode cX21_thingsOn 10 = .ok (.getfield 73, 3) := dk_180 0 73 (dk_at dksX21_thingsOn_0 10 rfl rfl)
theorem dX21_thingsOn_13 : decode cX21_thingsOn 13 = .ok (.iconst 0, 1) := dk_3 (dk_at dksX21_thingsOn_0 13 rfl rfl)
theorem dX21_thingsOn_14 : decode cX21_thingsOn 14 = .ok (.iadd, 1) := dk_96 (dk_at dksX21_thingsOn_0 14 rfl rfl)
theorem dX21_thingsOn_15 : decode cX21_thingsOn 15 = .ok (.iaload, 1) := dk_46 (dk_at dksX21_thingsOn_0 15 rfl rfl)
theorem dX21_thingsOn_16 : decode cX21_thingsOn 16 = .ok (.if_icmp .ge 29, 3) := dk_162 0 29 (dk_at dksX21_thingsOn_0 16 rfl rfl)
theorem dX21_thingsOn_19 : decode cX21_thingsOn 19 = .ok (.iload_n 2, 1) := dk_28 (dk_at dksX21_thingsOn_0 19 rfl rfl)
theorem dX21_thingsOn_20 : decode cX21_thingsOn 20 = .ok (.aload_n 0, 1) := dk_42 (dk_at dksX21_thingsOn_0 20 rfl rfl)
theorem dX21_thingsOn_21 : decode cX21_thingsOn 21 = .ok (.iload_n 3, 1) := dk_29 (dk_at dksX21_thingsOn_0 21 rfl rfl)
theorem dX21_thingsOn_22 : decode cX21_thingsOn 22 = .ok (.iconst 1, 1) := dk_4 (dk_at dksX21_thingsOn_0 22 rfl rfl)
theorem dX21_thingsOn_23 : decode cX21_thingsOn 23 = .ok (.invokevirtual 209, 3) := dk_182 0 209 (dk_at dksX21_thingsOn_1 0 rfl rfl)
theorem dX21_thingsOn_26 : decode cX21_thingsOn 26 = .ok (.iload_n 1, 1) := dk_27 (dk_at dksX21_thingsOn_1 3 rfl rfl)
theorem dX21_thingsOn_27 : decode cX21_thingsOn 27 = .ok (.if_icmp .ne 9, 3) := dk_160 0 9 (dk_at dksX21_thingsOn_1 4 rfl rfl)
theorem dX21_thingsOn_30 : decode cX21_thingsOn 30 = .ok (.iconst 1, 1) := dk_4 (dk_at dksX21_thingsOn_1 7 rfl rfl)
theorem dX21_thingsOn_31 : decode cX21_thingsOn 31 = .ok (.iload_n 3, 1) := dk_29 (dk_at dksX21_thingsOn_1 8 rfl rfl)
theorem dX21_thingsOn_32 : decode cX21_thingsOn 32 = .ok (.ishl, 1) := dk_120 (dk_at dksX21_thingsOn_1 9 rfl rfl)
theorem dX21_thingsOn_33 : decode cX21_thingsOn 33 = .ok (.goto 4, 3) := dk_167 0 4 (dk_at dksX21_thingsOn_1 10 rfl rfl)
theorem dX21_thingsOn_36 : decode cX21_thingsOn 36 = .ok (.iconst 0, 1) := dk_3 (dk_at dksX21_thingsOn_1 13 rfl rfl)
theorem dX21_thingsOn_37 : decode cX21_thingsOn 37 = .ok (.ior, 1) := dk_128 (dk_at dksX21_thingsOn_1 14 rfl rfl)
theorem dX21_thingsOn_38 : decode cX21_thingsOn 38 = .ok (.istore_n 2, 1) := dk_61 (dk_at dksX21_thingsOn_1 15 rfl rfl)
theorem dX21_thingsOn_39 : decode cX21_thingsOn 39 = .ok (.iinc 3 1, 3) := dk_132 3 1 (dk_at dksX21_thingsOn_1 16 rfl rfl)
theorem dX21_thingsOn_42 : decode cX21_thingsOn 42 = .ok (.goto (-38), 3) := dk_167 255 218 (dk_at dksX21_thingsOn_1 19 rfl rfl)
theorem dX21_thingsOn_45 : decode cX21_thingsOn 45 = .ok (.iload_n 2, 1) := dk_28 (dk_at dksX21_thingsOn_1 22 rfl rfl)
theorem dX21_thingsOn_46 : decode cX21_thingsOn 46 = .ok (.ireturn, 1) := dk_172 (dk_at dksX21_thingsOn_1 23 rfl rfl)
abbrev cX21_set : ByteArray := prog_33_method_40_code
def yX21_set : MethodName := ⟨RX21, "set", "(II)I"⟩
def dkwX21_set_2 : List UInt8 := [180, 0, 13, 27, 28, 79, 21, 4, 172]
abbrev dktX21_set_2 : List UInt8 := dkwX21_set_2 ++ []
def dkwX21_set_1 : List UInt8 := [180, 0, 16, 29, 46, 184, 0, 69, 154, 0, 5, 2, 172, 42, 180, 0, 13, 27, 46, 54, 4, 42]
abbrev dktX21_set_1 : List UInt8 := dkwX21_set_1 ++ dktX21_set_2
def dkwX21_set_0 : List UInt8 := [27, 3, 6, 184, 0, 69, 153, 0, 7, 27, 167, 0, 4, 3, 62, 29, 27, 160, 0, 17, 28, 3, 42]
abbrev dktX21_set_0 : List UInt8 := dkwX21_set_0 ++ dktX21_set_1
theorem dksX21_set_0 : cX21_set.data.toList.drop 0 = dktX21_set_0 := by decide +kernel
theorem dksX21_set_1 : cX21_set.data.toList.drop 23 = dktX21_set_1 := dk_seg dksX21_set_0 23 rfl rfl
theorem dksX21_set_2 : cX21_set.data.toList.drop 45 = dktX21_set_2 := dk_seg dksX21_set_1 22 rfl rfl
theorem dX21_set_0 : decode cX21_set 0 = .ok (.iload_n 1, 1) := dk_27 (dk_at dksX21_set_0 0 rfl rfl)
theorem dX21_set_1 : decode cX21_set 1 = .ok (.iconst 0, 1) := dk_3 (dk_at dksX21_set_0 1 rfl rfl)
theorem dX21_set_2 : decode cX21_set 2 = .ok (.iconst 3, 1) := dk_6 (dk_at dksX21_set_0 2 rfl rfl)
theorem dX21_set_3 : decode cX21_set 3 = .ok (.invokestatic 69, 3) := dk_184 0 69 (dk_at dksX21_set_0 3 rfl rfl)
theorem dX21_set_6 : decode cX21_set 6 = .ok (.ifCond .eq 7, 3) := dk_153 0 7 (dk_at dksX21_set_0 6 rfl rfl)
theorem dX21_set_9 : decode cX21_set 9 = .ok (.iload_n 1, 1) := dk_27 (dk_at dksX21_set_0 9 rfl rfl)
theorem dX21_set_10 : decode cX21_set 10 = .ok (.goto 4, 3) := dk_167 0 4 (dk_at dksX21_set_0 10 rfl rfl)
theorem dX21_set_13 : decode cX21_set 13 = .ok (.iconst 0, 1) := dk_3 (dk_at dksX21_set_0 13 rfl rfl)
theorem dX21_set_14 : decode cX21_set 14 = .ok (.istore_n 3, 1) := dk_62 (dk_at dksX21_set_0 14 rfl rfl)
theorem dX21_set_15 : decode cX21_set 15 = .ok (.iload_n 3, 1) := dk_29 (dk_at dksX21_set_0 15 rfl rfl)
theorem dX21_set_16 : decode cX21_set 16 = .ok (.iload_n 1, 1) := dk_27 (dk_at dksX21_set_0 16 rfl rfl)
theorem dX21_set_17 : decode cX21_set 17 = .ok (.if_icmp .ne 17, 3) := dk_160 0 17 (dk_at dksX21_set_0 17 rfl rfl)
theorem dX21_set_20 : decode cX21_set 20 = .ok (.iload_n 2, 1) := dk_28 (dk_at dksX21_set_0 20 rfl rfl)
theorem dX21_set_21 : decode cX21_set 21 = .ok (.iconst 0, 1) := dk_3 (dk_at dksX21_set_0 21 rfl rfl)
theorem dX21_set_22 : decode cX21_set 22 = .ok (.aload_n 0, 1) := dk_42 (dk_at dksX21_set_0 22 rfl rfl)
theorem dX21_set_23 : decode cX21_set 23 = .ok (.getfield 16, 3) := dk_180 0 16 (dk_at dksX21_set_1 0 rfl rfl)
theorem dX21_set_26 : decode cX21_set 26 = .ok (.iload_n 3, 1) := dk_29 (dk_at dksX21_set_1 3 rfl rfl)
theorem dX21_set_27 : decode cX21_set 27 = .ok (.iaload, 1) := dk_46 (dk_at dksX21_set_1 4 rfl rfl)
theorem dX21_set_28 : decode cX21_set 28 = .ok (.invokestatic 69, 3) := dk_184 0 69 (dk_at dksX21_set_1 5 rfl rfl)
theorem dX21_set_31 : decode cX21_set 31 = .ok (.ifCond .ne 5, 3) := dk_154 0 5 (dk_at dksX21_set_1 8 rfl rfl)
theorem dX21_set_34 : decode cX21_set 34 = .ok (.iconst (-1), 1) := dk_2 (dk_at dksX21_set_1 11 rfl rfl)
theorem dX21_set_35 : decode cX21_set 35 = .ok (.ireturn, 1) := dk_172 (dk_at dksX21_set_1 12 rfl rfl)
theorem dX21_set_36 : decode cX21_set 36 = .ok (.aload_n 0, 1) := dk_42 (dk_at dksX21_set_1 13 rfl rfl)
theorem dX21_set_37 : decode cX21_set 37 = .ok (.getfield 13, 3) := dk_180 0 13 (dk_at dksX21_set_1 14 rfl rfl)
theorem dX21_set_40 : decode cX21_set 40 = .ok (.iload_n 1, 1) := dk_27 (dk_at dksX21_set_1 17 rfl rfl)
theorem dX21_set_41 : decode cX21_set 41 = .ok (.iaload, 1) := dk_46 (dk_at dksX21_set_1 18 rfl rfl)
theorem dX21_set_42 : decode cX21_set 42 = .ok (.istore 4, 2) := dk_54 4 (dk_at dksX21_set_1 19 rfl rfl)
theorem dX21_set_44 : decode cX21_set 44 = .ok (.aload_n 0, 1) := dk_42 (dk_at dksX21_set_1 21 rfl rfl)
theorem dX21_set_45 : decode cX21_set 45 = .ok (.getfield 13, 3) := dk_180 0 13 (dk_at dksX21_set_2 0 rfl rfl)
theorem dX21_set_48 : decode cX21_set 48 = .ok (.iload_n 1, 1) := dk_27 (dk_at dksX21_set_2 3 rfl rfl)
theorem dX21_set_49 : decode cX21_set 49 = .ok (.iload_n 2, 1) := dk_28 (dk_at dksX21_set_2 4 rfl rfl)
theorem dX21_set_50 : decode cX21_set 50 = .ok (.iastore, 1) := dk_79 (dk_at dksX21_set_2 5 rfl rfl)
theorem dX21_set_51 : decode cX21_set 51 = .ok (.iload 4, 2) := dk_21 4 (dk_at dksX21_set_2 6 rfl rfl)
theorem dX21_set_53 : decode cX21_set 53 = .ok (.ireturn, 1) := dk_172 (dk_at dksX21_set_2 8 rfl rfl)
abbrev cX21_warm : ByteArray := prog_33_method_41_code
def yX21_warm : MethodName := ⟨RX21, "warm", "(II)I"⟩
def dkwX21_warm_1 : List UInt8 := [180, 0, 19, 27, 46, 62, 42, 180, 0, 19, 27, 28, 79, 29, 172]
abbrev dktX21_warm_1 : List UInt8 := dkwX21_warm_1 ++ []
def dkwX21_warm_0 : List UInt8 := [27, 3, 16, 11, 184, 0, 69, 153, 0, 12, 28, 3, 6, 184, 0, 69, 154, 0, 5, 2, 172, 42]
abbrev dktX21_warm_0 : List UInt8 := dkwX21_warm_0 ++ dktX21_warm_1
theorem dksX21_warm_0 : cX21_warm.data.toList.drop 0 = dktX21_warm_0 := by decide +kernel
theorem dksX21_warm_1 : cX21_warm.data.toList.drop 22 = dktX21_warm_1 := dk_seg dksX21_warm_0 22 rfl rfl
theorem dX21_warm_0 : decode cX21_warm 0 = .ok (.iload_n 1, 1) := dk_27 (dk_at dksX21_warm_0 0 rfl rfl)
theorem dX21_warm_1 : decode cX21_warm 1 = .ok (.iconst 0, 1) := dk_3 (dk_at dksX21_warm_0 1 rfl rfl)
theorem dX21_warm_2 : decode cX21_warm 2 = .ok (.bipush 11, 2) := dk_16 11 (dk_at dksX21_warm_0 2 rfl rfl)
theorem dX21_warm_4 : decode cX21_warm 4 = .ok (.invokestatic 69, 3) := dk_184 0 69 (dk_at dksX21_warm_0 4 rfl rfl)
theorem dX21_warm_7 : decode cX21_warm 7 = .ok (.ifCond .eq 12, 3) := dk_153 0 12 (dk_at dksX21_warm_0 7 rfl rfl)
theorem dX21_warm_10 : decode cX21_warm 10 = .ok (.iload_n 2, 1) := dk_28 (dk_at dksX21_warm_0 10 rfl rfl)
theorem dX21_warm_11 : decode cX21_warm 11 = .ok (.iconst 0, 1) := dk_3 (dk_at dksX21_warm_0 11 rfl rfl)
theorem dX21_warm_12 : decode cX21_warm 12 = .ok (.iconst 3, 1) := dk_6 (dk_at dksX21_warm_0 12 rfl rfl)
theorem dX21_warm_13 : decode cX21_warm 13 = .ok (.invokestatic 69, 3) := dk_184 0 69 (dk_at dksX21_warm_0 13 rfl rfl)
theorem dX21_warm_16 : decode cX21_warm 16 = .ok (.ifCond .ne 5, 3) := dk_154 0 5 (dk_at dksX21_warm_0 16 rfl rfl)
theorem dX21_warm_19 : decode cX21_warm 19 = .ok (.iconst (-1), 1) := dk_2 (dk_at dksX21_warm_0 19 rfl rfl)
theorem dX21_warm_20 : decode cX21_warm 20 = .ok (.ireturn, 1) := dk_172 (dk_at dksX21_warm_0 20 rfl rfl)
theorem dX21_warm_21 : decode cX21_warm 21 = .ok (.aload_n 0, 1) := dk_42 (dk_at dksX21_warm_0 21 rfl rfl)
theorem dX21_warm_22 : decode cX21_warm 22 = .ok (.getfield 19, 3) := dk_180 0 19 (dk_at dksX21_warm_1 0 rfl rfl)
theorem dX21_warm_25 : decode cX21_warm 25 = .ok (.iload_n 1, 1) := dk_27 (dk_at dksX21_warm_1 3 rfl rfl)
theorem dX21_warm_26 : decode cX21_warm 26 = .ok (.iaload, 1) := dk_46 (dk_at dksX21_warm_1 4 rfl rfl)
theorem dX21_warm_27 : decode cX21_warm 27 = .ok (.istore_n 3, 1) := dk_62 (dk_at dksX21_warm_1 5 rfl rfl)
theorem dX21_warm_28 : decode cX21_warm 28 = .ok (.aload_n 0, 1) := dk_42 (dk_at dksX21_warm_1 6 rfl rfl)
theorem dX21_warm_29 : decode cX21_warm 29 = .ok (.getfield 19, 3) := dk_180 0 19 (dk_at dksX21_warm_1 7 rfl rfl)
theorem dX21_warm_32 : decode cX21_warm 32 = .ok (.iload_n 1, 1) := dk_27 (dk_at dksX21_warm_1 10 rfl rfl)
theorem dX21_warm_33 : decode cX21_warm 33 = .ok (.iload_n 2, 1) := dk_28 (dk_at dksX21_warm_1 11 rfl rfl)
theorem dX21_warm_34 : decode cX21_warm 34 = .ok (.iastore, 1) := dk_79 (dk_at dksX21_warm_1 12 rfl rfl)
theorem dX21_warm_35 : decode cX21_warm 35 = .ok (.iload_n 3, 1) := dk_29 (dk_at dksX21_warm_1 13 rfl rfl)
theorem dX21_warm_36 : decode cX21_warm 36 = .ok (.ireturn, 1) := dk_172 (dk_at dksX21_warm_1 14 rfl rfl)
abbrev cX21_week : ByteArray := prog_33_method_46_code
def yX21_week : MethodName := ⟨RX21, "week", "(I)I"⟩
def dkwX21_week_2 : List UInt8 := [180, 0, 7, 4, 46, 172]
abbrev dktX21_week_2 : List UInt8 := dkwX21_week_2 ++ []
def dkwX21_week_1 : List UInt8 := [164, 0, 6, 16, 252, 172, 3, 61, 28, 27, 162, 0, 13, 42, 182, 0, 239, 132, 2, 1, 167, 255, 244, 42]
abbrev dktX21_week_1 : List UInt8 := dkwX21_week_1 ++ dktX21_week_2
def dkwX21_week_0 : List UInt8 := [27, 3, 16, 52, 184, 0, 69, 154, 0, 5, 2, 172, 42, 180, 0, 7, 4, 46, 27, 96, 17, 3, 231]
abbrev dktX21_week_0 : List UInt8 := dkwX21_week_0 ++ dktX21_week_1
theorem dksX21_week_0 : cX21_week.data.toList.drop 0 = dktX21_week_0 := by decide +kernel
theorem dksX21_week_1 : cX21_week.data.toList.drop 23 = dktX21_week_1 := dk_seg dksX21_week_0 23 rfl rfl
theorem dksX21_week_2 : cX21_week.data.toList.drop 47 = dktX21_week_2 := dk_seg dksX21_week_1 24 rfl rfl
theorem dX21_week_0 : decode cX21_week 0 = .ok (.iload_n 1, 1) := dk_27 (dk_at dksX21_week_0 0 rfl rfl)
theorem dX21_week_1 : decode cX21_week 1 = .ok (.iconst 0, 1) := dk_3 (dk_at dksX21_week_0 1 rfl rfl)
theorem dX21_week_2 : decode cX21_week 2 = .ok (.bipush 52, 2) := dk_16 52 (dk_at dksX21_week_0 2 rfl rfl)
theorem dX21_week_4 : decode cX21_week 4 = .ok (.invokestatic 69, 3) := dk_184 0 69 (dk_at dksX21_week_0 4 rfl rfl)
theorem dX21_week_7 : decode cX21_week 7 = .ok (.ifCond .ne 5, 3) := dk_154 0 5 (dk_at dksX21_week_0 7 rfl rfl)
theorem dX21_week_10 : decode cX21_week 10 = .ok (.iconst (-1), 1) := dk_2 (dk_at dksX21_week_0 10 rfl rfl)
theorem dX21_week_11 : decode cX21_week 11 = .ok (.ireturn, 1) := dk_172 (dk_at dksX21_week_0 11 rfl rfl)
theorem dX21_week_12 : decode cX21_week 12 = .ok (.aload_n 0, 1) := dk_42 (dk_at dksX21_week_0 12 rfl rfl)
theorem dX21_week_13 : decode cX21_week 13 = .ok (.getfield 7, 3) := dk_180 0 7 (dk_at dksX21_week_0 13 rfl rfl)
theorem dX21_week_16 : decode cX21_week 16 = .ok (.iconst 1, 1) := dk_4 (dk_at dksX21_week_0 16 rfl rfl)
theorem dX21_week_17 : decode cX21_week 17 = .ok (.iaload, 1) := dk_46 (dk_at dksX21_week_0 17 rfl rfl)
theorem dX21_week_18 : decode cX21_week 18 = .ok (.iload_n 1, 1) := dk_27 (dk_at dksX21_week_0 18 rfl rfl)
theorem dX21_week_19 : decode cX21_week 19 = .ok (.iadd, 1) := dk_96 (dk_at dksX21_week_0 19 rfl rfl)
theorem dX21_week_20 : decode cX21_week 20 = .ok (.sipush 999, 3) := dk_17 3 231 (dk_at dksX21_week_0 20 rfl rfl)
theorem dX21_week_23 : decode cX21_week 23 = .ok (.if_icmp .le 6, 3) := dk_164 0 6 (dk_at dksX21_week_1 0 rfl rfl)
theorem dX21_week_26 : decode cX21_week 26 = .ok (.bipush (-4), 2) := dk_16 252 (dk_at dksX21_week_1 3 rfl rfl)
theorem dX21_week_28 : decode cX21_week 28 = .ok (.ireturn, 1) := dk_172 (dk_at dksX21_week_1 5 rfl rfl)
theorem dX21_week_29 : decode cX21_week 29 = .ok (.iconst 0, 1) := dk_3 (dk_at dksX21_week_1 6 rfl rfl)
theorem dX21_week_30 : decode cX21_week 30 = .ok (.istore_n 2, 1) := dk_61 (dk_at dksX21_week_1 7 rfl rfl)
theorem dX21_week_31 : decode cX21_week 31 = .ok (.iload_n 2, 1) := dk_28 (dk_at dksX21_week_1 8 rfl rfl)
theorem dX21_week_32 : decode cX21_week 32 = .ok (.iload_n 1, 1) := dk_27 (dk_at dksX21_week_1 9 rfl rfl)
theorem dX21_week_33 : decode cX21_week 33 = .ok (.if_icmp .ge 13, 3) := dk_162 0 13 (dk_at dksX21_week_1 10 rfl rfl)
theorem dX21_week_36 : decode cX21_week 36 = .ok (.aload_n 0, 1) := dk_42 (dk_at dksX21_week_1 13 rfl rfl)
theorem dX21_week_37 : decode cX21_week 37 = .ok (.invokevirtual 239, 3) := dk_182 0 239 (dk_at dksX21_week_1 14 rfl rfl)
theorem dX21_week_40 : decode cX21_week 40 = .ok (.iinc 2 1, 3) := dk_132 2 1 (dk_at dksX21_week_1 17 rfl rfl)
theorem dX21_week_43 : decode cX21_week 43 = .ok (.goto (-12), 3) := dk_167 255 244 (dk_at dksX21_week_1 20 rfl rfl)
theorem dX21_week_46 : decode cX21_week 46 = .ok (.aload_n 0, 1) := dk_42 (dk_at dksX21_week_1 23 rfl rfl)
theorem dX21_week_47 : decode cX21_week 47 = .ok (.getfield 7, 3) := dk_180 0 7 (dk_at dksX21_week_2 0 rfl rfl)
theorem dX21_week_50 : decode cX21_week 50 = .ok (.iconst 1, 1) := dk_4 (dk_at dksX21_week_2 3 rfl rfl)
theorem dX21_week_51 : decode cX21_week 51 = .ok (.iaload, 1) := dk_46 (dk_at dksX21_week_2 4 rfl rfl)
theorem dX21_week_52 : decode cX21_week 52 = .ok (.ireturn, 1) := dk_172 (dk_at dksX21_week_2 5 rfl rfl)
abbrev cX21_weekGoes : ByteArray := prog_33_method_45_code
def yX21_weekGoes : MethodName := ⟨RX21, "weekGoes", "()V"⟩
def dkwX21_weekGoes_3 : List UInt8 := [180, 0, 7, 42, 180, 0, 73, 4, 96, 92, 46, 4, 96, 79, 177]
abbrev dktX21_weekGoes_3 : List UInt8 := dkwX21_weekGoes_3 ++ []
def dkwX21_weekGoes_2 : List UInt8 := [180, 0, 73, 3, 96, 46, 162, 0, 15, 42, 28, 27, 182, 0, 236, 132, 2, 1, 167, 255, 232, 42]
abbrev dktX21_weekGoes_2 : List UInt8 := dkwX21_weekGoes_2 ++ dktX21_weekGoes_3
def dkwX21_weekGoes_1 : List UInt8 := [180, 0, 7, 42, 180, 0, 73, 4, 96, 46, 16, 12, 112, 46, 60, 3, 61, 28, 42, 180, 0, 7, 42]
abbrev dktX21_weekGoes_1 : List UInt8 := dkwX21_weekGoes_1 ++ dktX21_weekGoes_2
def dkwX21_weekGoes_0 : List UInt8 := [3, 60, 27, 7, 162, 0, 14, 42, 27, 182, 0, 233, 132, 1, 1, 167, 255, 243, 42, 180, 0, 19, 42]
abbrev dktX21_weekGoes_0 : List UInt8 := dkwX21_weekGoes_0 ++ dktX21_weekGoes_1
theorem dksX21_weekGoes_0 : cX21_weekGoes.data.toList.drop 0 = dktX21_weekGoes_0 := by decide +kernel
theorem dksX21_weekGoes_1 : cX21_weekGoes.data.toList.drop 23 = dktX21_weekGoes_1 := dk_seg dksX21_weekGoes_0 23 rfl rfl
theorem dksX21_weekGoes_2 : cX21_weekGoes.data.toList.drop 46 = dktX21_weekGoes_2 := dk_seg dksX21_weekGoes_1 23 rfl rfl
theorem dksX21_weekGoes_3 : cX21_weekGoes.data.toList.drop 68 = dktX21_weekGoes_3 := dk_seg dksX21_weekGoes_2 22 rfl rfl
theorem dX21_weekGoes_0 : decode cX21_weekGoes 0 = .ok (.iconst 0, 1) := dk_3 (dk_at dksX21_weekGoes_0 0 rfl rfl)
theorem dX21_weekGoes_1 : decode cX21_weekGoes 1 = .ok (.istore_n 1, 1) := dk_60 (dk_at dksX21_weekGoes_0 1 rfl rfl)
theorem dX21_weekGoes_2 : decode cX21_weekGoes 2 = .ok (.iload_n 1, 1) := dk_27 (dk_at dksX21_weekGoes_0 2 rfl rfl)
theorem dX21_weekGoes_3 : decode cX21_weekGoes 3 = .ok (.iconst 4, 1) := dk_7 (dk_at dksX21_weekGoes_0 3 rfl rfl)
theorem dX21_weekGoes_4 : decode cX21_weekGoes 4 = .ok (.if_icmp .ge 14, 3) := dk_162 0 14 (dk_at dksX21_weekGoes_0 4 rfl rfl)
theorem dX21_weekGoes_7 : decode cX21_weekGoes 7 = .ok (.aload_n 0, 1) := dk_42 (dk_at dksX21_weekGoes_0 7 rfl rfl)
theorem dX21_weekGoes_8 : decode cX21_weekGoes 8 = .ok (.iload_n 1, 1) := dk_27 (dk_at dksX21_weekGoes_0 8 rfl rfl)
theorem dX21_weekGoes_9 : decode cX21_weekGoes 9 = .ok (.invokevirtual 233, 3) := dk_182 0 233 (dk_at dksX21_weekGoes_0 9 rfl rfl)
theorem dX21_weekGoes_12 : decode cX21_weekGoes 12 = .ok (.iinc 1 1, 3) := dk_132 1 1 (dk_at dksX21_weekGoes_0 12 rfl rfl)
theorem dX21_weekGoes_15 : decode cX21_weekGoes 15 = .ok (.goto (-13), 3) := dk_167 255 243 (dk_at dksX21_weekGoes_0 15 rfl rfl)
theorem dX21_weekGoes_18 : decode cX21_weekGoes 18 = .ok (.aload_n 0, 1) := dk_42 (dk_at dksX21_weekGoes_0 18 rfl rfl)
theorem dX21_weekGoes_19 : decode cX21_weekGoes 19 = .ok (.getfield 19, 3) := dk_180 0 19 (dk_at dksX21_weekGoes_0 19 rfl rfl)
theorem dX21_weekGoes_22 : decode cX21_weekGoes 22 = .ok (.aload_n 0, 1) := dk_42 (dk_at dksX21_weekGoes_0 22 rfl rfl)
theorem dX21_weekGoes_23 : decode cX21_weekGoes 23 = .ok (.getfield 7, 3) := dk_180 0 7 (dk_at dksX21_weekGoes_1 0 rfl rfl)
theorem dX21_weekGoes_26 : decode cX21_weekGoes 26 = .ok (.aload_n 0, 1) := dk_42 (dk_at dksX21_weekGoes_1 3 rfl rfl)
theorem dX21_weekGoes_27 : decode cX21_weekGoes 27 = .ok (.getfield 73, 3) := dk_180 0 73 (dk_at dksX21_weekGoes_1 4 rfl rfl)
theorem dX21_weekGoes_30 : decode cX21_weekGoes 30 = .ok (.iconst 1, 1) := dk_4 (dk_at dksX21_weekGoes_1 7 rfl rfl)
theorem dX21_weekGoes_31 : decode cX21_weekGoes 31 = .ok (.iadd, 1) := dk_96 (dk_at dksX21_weekGoes_1 8 rfl rfl)
theorem dX21_weekGoes_32 : decode cX21_weekGoes 32 = .ok (.iaload, 1) := dk_46 (dk_at dksX21_weekGoes_1 9 rfl rfl)
theorem dX21_weekGoes_33 : decode cX21_weekGoes 33 = .ok (.bipush 12, 2) := dk_16 12 (dk_at dksX21_weekGoes_1 10 rfl rfl)
theorem dX21_weekGoes_35 : decode cX21_weekGoes 35 = .ok (.irem, 1) := dk_112 (dk_at dksX21_weekGoes_1 12 rfl rfl)
theorem dX21_weekGoes_36 : decode cX21_weekGoes 36 = .ok (.iaload, 1) := dk_46 (dk_at dksX21_weekGoes_1 13 rfl rfl)
theorem dX21_weekGoes_37 : decode cX21_weekGoes 37 = .ok (.istore_n 1, 1) := dk_60 (dk_at dksX21_weekGoes_1 14 rfl rfl)
theorem dX21_weekGoes_38 : decode cX21_weekGoes 38 = .ok (.iconst 0, 1) := dk_3 (dk_at dksX21_weekGoes_1 15 rfl rfl)
theorem dX21_weekGoes_39 : decode cX21_weekGoes 39 = .ok (.istore_n 2, 1) := dk_61 (dk_at dksX21_weekGoes_1 16 rfl rfl)
theorem dX21_weekGoes_40 : decode cX21_weekGoes 40 = .ok (.iload_n 2, 1) := dk_28 (dk_at dksX21_weekGoes_1 17 rfl rfl)
theorem dX21_weekGoes_41 : decode cX21_weekGoes 41 = .ok (.aload_n 0, 1) := dk_42 (dk_at dksX21_weekGoes_1 18 rfl rfl)
theorem dX21_weekGoes_42 : decode cX21_weekGoes 42 = .ok (.getfield 7, 3) := dk_180 0 7 (dk_at dksX21_weekGoes_1 19 rfl rfl)
theorem dX21_weekGoes_45 : decode cX21_weekGoes 45 = .ok (.aload_n 0, 1) := dk_42 (dk_at dksX21_weekGoes_1 22 rfl rfl)
theorem dX21_weekGoes_46 : decode cX21_weekGoes 46 = .ok (.getfield 73, 3) := dk_180 0 73 (dk_at dksX21_weekGoes_2 0 rfl rfl)
theorem dX21_weekGoes_49 : decode cX21_weekGoes 49 = .ok (.iconst 0, 1) := dk_3 (dk_at dksX21_weekGoes_2 3 rfl rfl)
theorem dX21_weekGoes_50 : decode cX21_weekGoes 50 = .ok (.iadd, 1) := dk_96 (dk_at dksX21_weekGoes_2 4 rfl rfl)
theorem dX21_weekGoes_51 : decode cX21_weekGoes 51 = .ok (.iaload, 1) := dk_46 (dk_at dksX21_weekGoes_2 5 rfl rfl)
theorem dX21_weekGoes_52 : decode cX21_weekGoes 52 = .ok (.if_icmp .ge 15, 3) := dk_162 0 15 (dk_at dksX21_weekGoes_2 6 rfl rfl)
theorem dX21_weekGoes_55 : decode cX21_weekGoes 55 = .ok (.aload_n 0, 1) := dk_42 (dk_at dksX21_weekGoes_2 9 rfl rfl)
theorem dX21_weekGoes_56 : decode cX21_weekGoes 56 = .ok (.iload_n 2, 1) := dk_28 (dk_at dksX21_weekGoes_2 10 rfl rfl)
theorem dX21_weekGoes_57 : decode cX21_weekGoes 57 = .ok (.iload_n 1, 1) := dk_27 (dk_at dksX21_weekGoes_2 11 rfl rfl)
theorem dX21_weekGoes_58 : decode cX21_weekGoes 58 = .ok (.invokevirtual 236, 3) := dk_182 0 236 (dk_at dksX21_weekGoes_2 12 rfl rfl)
theorem dX21_weekGoes_61 : decode cX21_weekGoes 61 = .ok (.iinc 2 1, 3) := dk_132 2 1 (dk_at dksX21_weekGoes_2 15 rfl rfl)
theorem dX21_weekGoes_64 : decode cX21_weekGoes 64 = .ok (.goto (-24), 3) := dk_167 255 232 (dk_at dksX21_weekGoes_2 18 rfl rfl)
theorem dX21_weekGoes_67 : decode cX21_weekGoes 67 = .ok (.aload_n 0, 1) := dk_42 (dk_at dksX21_weekGoes_2 21 rfl rfl)
theorem dX21_weekGoes_68 : decode cX21_weekGoes 68 = .ok (.getfield 7, 3) := dk_180 0 7 (dk_at dksX21_weekGoes_3 0 rfl rfl)
theorem dX21_weekGoes_71 : decode cX21_weekGoes 71 = .ok (.aload_n 0, 1) := dk_42 (dk_at dksX21_weekGoes_3 3 rfl rfl)
theorem dX21_weekGoes_72 : decode cX21_weekGoes 72 = .ok (.getfield 73, 3) := dk_180 0 73 (dk_at dksX21_weekGoes_3 4 rfl rfl)
theorem dX21_weekGoes_75 : decode cX21_weekGoes 75 = .ok (.iconst 1, 1) := dk_4 (dk_at dksX21_weekGoes_3 7 rfl rfl)
theorem dX21_weekGoes_76 : decode cX21_weekGoes 76 = .ok (.iadd, 1) := dk_96 (dk_at dksX21_weekGoes_3 8 rfl rfl)
theorem dX21_weekGoes_77 : decode cX21_weekGoes 77 = .ok (.dup2, 1) := dk_92 (dk_at dksX21_weekGoes_3 9 rfl rfl)
theorem dX21_weekGoes_78 : decode cX21_weekGoes 78 = .ok (.iaload, 1) := dk_46 (dk_at dksX21_weekGoes_3 10 rfl rfl)
theorem dX21_weekGoes_79 : decode cX21_weekGoes 79 = .ok (.iconst 1, 1) := dk_4 (dk_at dksX21_weekGoes_3 11 rfl rfl)
theorem dX21_weekGoes_80 : decode cX21_weekGoes 80 = .ok (.iadd, 1) := dk_96 (dk_at dksX21_weekGoes_3 12 rfl rfl)
theorem dX21_weekGoes_81 : decode cX21_weekGoes 81 = .ok (.iastore, 1) := dk_79 (dk_at dksX21_weekGoes_3 13 rfl rfl)
theorem dX21_weekGoes_82 : decode cX21_weekGoes 82 = .ok (.return_, 1) := dk_177 (dk_at dksX21_weekGoes_3 14 rfl rfl)
abbrev cX21_placeGoes : ByteArray := prog_33_method_43_code
def yX21_placeGoes : MethodName := ⟨RX21, "placeGoes", "(I)V"⟩
def dkwX21_placeGoes_3 : List UInt8 := [46, 104, 96, 17, 3, 231, 184, 0, 231, 182, 0, 169, 42, 27, 3, 3, 182, 0, 183, 177]
abbrev dktX21_placeGoes_3 : List UInt8 := dkwX21_placeGoes_3 ++ []
def dkwX21_placeGoes_2 : List UInt8 := [54, 4, 21, 4, 155, 0, 32, 42, 21, 4, 8, 42, 21, 4, 8, 182, 0, 209, 28, 42, 180, 0, 13, 3]
abbrev dktX21_placeGoes_2 : List UInt8 := dkwX21_placeGoes_2 ++ dktX21_placeGoes_3
def dkwX21_placeGoes_1 : List UInt8 := [62, 42, 27, 5, 42, 27, 5, 182, 0, 222, 29, 96, 182, 0, 183, 28, 29, 100, 61, 42, 27, 182, 0, 228]
abbrev dktX21_placeGoes_1 : List UInt8 := dkwX21_placeGoes_1 ++ dktX21_placeGoes_2
def dkwX21_placeGoes_0 : List UInt8 := [42, 27, 3, 182, 0, 222, 61, 42, 27, 4, 182, 0, 222, 4, 160, 0, 9, 28, 5, 108, 167, 0, 4, 3]
abbrev dktX21_placeGoes_0 : List UInt8 := dkwX21_placeGoes_0 ++ dktX21_placeGoes_1
theorem dksX21_placeGoes_0 : cX21_placeGoes.data.toList.drop 0 = dktX21_placeGoes_0 := by decide +kernel
theorem dksX21_placeGoes_1 : cX21_placeGoes.data.toList.drop 24 = dktX21_placeGoes_1 := dk_seg dksX21_placeGoes_0 24 rfl rfl
theorem dksX21_placeGoes_2 : cX21_placeGoes.data.toList.drop 48 = dktX21_placeGoes_2 := dk_seg dksX21_placeGoes_1 24 rfl rfl
theorem dksX21_placeGoes_3 : cX21_placeGoes.data.toList.drop 72 = dktX21_placeGoes_3 := dk_seg dksX21_placeGoes_2 24 rfl rfl
theorem dX21_placeGoes_0 : decode cX21_placeGoes 0 = .ok (.aload_n 0, 1) := dk_42 (dk_at dksX21_placeGoes_0 0 rfl rfl)
theorem dX21_placeGoes_1 : decode cX21_placeGoes 1 = .ok (.iload_n 1, 1) := dk_27 (dk_at dksX21_placeGoes_0 1 rfl rfl)
theorem dX21_placeGoes_2 : decode cX21_placeGoes 2 = .ok (.iconst 0, 1) := dk_3 (dk_at dksX21_placeGoes_0 2 rfl rfl)
theorem dX21_placeGoes_3 : decode cX21_placeGoes 3 = .ok (.invokevirtual 222, 3) := dk_182 0 222 (dk_at dksX21_placeGoes_0 3 rfl rfl)
theorem dX21_placeGoes_6 : decode cX21_placeGoes 6 = .ok (.istore_n 2, 1) := dk_61 (dk_at dksX21_placeGoes_0 6 rfl rfl)
theorem dX21_placeGoes_7 : decode cX21_placeGoes 7 = .ok (.aload_n 0, 1) := dk_42 (dk_at dksX21_placeGoes_0 7 rfl rfl)
theorem dX21_placeGoes_8 : decode cX21_placeGoes 8 = .ok (.iload_n 1, 1) := dk_27 (dk_at dksX21_placeGoes_0 8 rfl rfl)
theorem dX21_placeGoes_9 : decode cX21_placeGoes 9 = .ok (.iconst 1, 1) := dk_4 (dk_at dksX21_placeGoes_0 9 rfl rfl)
theorem dX21_placeGoes_10 : decode cX21_placeGoes 10 = .ok (.invokevirtual 222, 3) := dk_182 0 222 (dk_at dksX21_placeGoes_0 10 rfl rfl)
theorem dX21_placeGoes_13 : decode cX21_placeGoes 13 = .ok (.iconst 1, 1) := dk_4 (dk_at dksX21_placeGoes_0 13 rfl rfl)
theorem dX21_placeGoes_14 : decode cX21_placeGoes 14 = .ok (.if_icmp .ne 9, 3) := dk_160 0 9 (dk_at dksX21_placeGoes_0 14 rfl rfl)
theorem dX21_placeGoes_17 : decode cX21_placeGoes 17 = .ok (.iload_n 2, 1) := dk_28 (dk_at dksX21_placeGoes_0 17 rfl rfl)
theorem dX21_placeGoes_18 : decode cX21_placeGoes 18 = .ok (.iconst 2, 1) := dk_5 (dk_at dksX21_placeGoes_0 18 rfl rfl)
theorem dX21_placeGoes_19 : decode cX21_placeGoes 19 = .ok (.idiv, 1) := dk_108 (dk_at dksX21_placeGoes_0 19 rfl rfl)
theorem dX21_placeGoes_20 : decode cX21_placeGoes 20 = .ok (.goto 4, 3) := dk_167 0 4 (dk_at dksX21_placeGoes_0 20 rfl rfl)
theorem dX21_placeGoes_23 : decode cX21_placeGoes 23 = .ok (.iconst 0, 1) := dk_3 (dk_at dksX21_placeGoes_0 23 rfl rfl)
theorem dX21_placeGoes_24 : decode cX21_placeGoes 24 = .ok (.istore_n 3, 1) := dk_62 (dk_at dksX21_placeGoes_1 0 rfl rfl)
theorem dX21_placeGoes_25 : decode cX21_placeGoes 25 = .ok (.aload_n 0, 1) := dk_42 (dk_at dksX21_placeGoes_1 1 rfl rfl)
theorem dX21_placeGoes_26 : decode cX21_placeGoes 26 = .ok (.iload_n 1, 1) := dk_27 (dk_at dksX21_placeGoes_1 2 rfl rfl)
theorem dX21_placeGoes_27 : decode cX21_placeGoes 27 = .ok (.iconst 2, 1) := dk_5 (dk_at dksX21_placeGoes_1 3 rfl rfl)
theorem dX21_placeGoes_28 : decode cX21_placeGoes 28 = .ok (.aload_n 0, 1) := dk_42 (dk_at dksX21_placeGoes_1 4 rfl rfl)
theorem dX21_placeGoes_29 : decode cX21_placeGoes 29 = .ok (.iload_n 1, 1) := dk_27 (dk_at dksX21_placeGoes_1 5 rfl rfl)
theorem dX21_placeGoes_30 : decode cX21_placeGoes 30 = .ok (.iconst 2, 1) := dk_5 (dk_at dksX21_placeGoes_1 6 rfl rfl)
theorem dX21_placeGoes_31 : decode cX21_placeGoes 31 = .ok (.invokevirtual 222, 3) := dk_182 0 222 (dk_at dksX21_placeGoes_1 7 rfl rfl)
theorem dX21_placeGoes_34 : decode cX21_placeGoes 34 = .ok (.iload_n 3, 1) := dk_29 (dk_at dksX21_placeGoes_1 10 rfl rfl)
theorem dX21_placeGoes_35 : decode cX21_placeGoes 35 = .ok (.iadd, 1) := dk_96 (dk_at dksX21_placeGoes_1 11 rfl rfl)
theorem dX21_placeGoes_36 : decode cX21_placeGoes 36 = .ok (.invokevirtual 183, 3) := dk_182 0 183 (dk_at dksX21_placeGoes_1 12 rfl rfl)
theorem dX21_placeGoes_39 : decode cX21_placeGoes 39 = .ok (.iload_n 2, 1) := dk_28 (dk_at dksX21_placeGoes_1 15 rfl rfl)
theorem dX21_placeGoes_40 : decode cX21_placeGoes 40 = .ok (.iload_n 3, 1) := dk_29 (dk_at dksX21_placeGoes_1 16 rfl rfl)
theorem dX21_placeGoes_41 : decode cX21_placeGoes 41 = .ok (.isub, 1) := dk_100 (dk_at dksX21_placeGoes_1 17 rfl rfl)
theorem dX21_placeGoes_42 : decode cX21_placeGoes 42 = .ok (.istore_n 2, 1) := dk_61 (dk_at dksX21_placeGoes_1 18 rfl rfl)
theorem dX21_placeGoes_43 : decode cX21_placeGoes 43 = .ok (.aload_n 0, 1) := dk_42 (dk_at dksX21_placeGoes_1 19 rfl rfl)
theorem dX21_placeGoes_44 : decode cX21_placeGoes 44 = .ok (.iload_n 1, 1) := dk_27 (dk_at dksX21_placeGoes_1 20 rfl rfl)
theorem dX21_placeGoes_45 : decode cX21_placeGoes 45 = .ok (.invokevirtual 228, 3) := dk_182 0 228 (dk_at dksX21_placeGoes_1 21 rfl rfl)
theorem dX21_placeGoes_48 : decode cX21_placeGoes 48 = .ok (.istore 4, 2) := dk_54 4 (dk_at dksX21_placeGoes_2 0 rfl rfl)
theorem dX21_placeGoes_50 : decode cX21_placeGoes 50 = .ok (.iload 4, 2) := dk_21 4 (dk_at dksX21_placeGoes_2 2 rfl rfl)
theorem dX21_placeGoes_52 : decode cX21_placeGoes 52 = .ok (.ifCond .lt 32, 3) := dk_155 0 32 (dk_at dksX21_placeGoes_2 4 rfl rfl)
theorem dX21_placeGoes_55 : decode cX21_placeGoes 55 = .ok (.aload_n 0, 1) := dk_42 (dk_at dksX21_placeGoes_2 7 rfl rfl)
theorem dX21_placeGoes_56 : decode cX21_placeGoes 56 = .ok (.iload 4, 2) := dk_21 4 (dk_at dksX21_placeGoes_2 8 rfl rfl)
theorem dX21_placeGoes_58 : decode cX21_placeGoes 58 = .ok (.iconst 5, 1) := dk_8 (dk_at dksX21_placeGoes_2 10 rfl rfl)
theorem dX21_placeGoes_59 : decode cX21_placeGoes 59 = .ok (.aload_n 0, 1) := dk_42 (dk_at dksX21_placeGoes_2 11 rfl rfl)
theorem dX21_placeGoes_60 : decode cX21_placeGoes 60 = .ok (.iload 4, 2) := dk_21 4 (dk_at dksX21_placeGoes_2 12 rfl rfl)
theorem dX21_placeGoes_62 : decode cX21_placeGoes 62 = .ok (.iconst 5, 1) := dk_8 (dk_at dksX21_placeGoes_2 14 rfl rfl)
theorem dX21_placeGoes_63 : decode cX21_placeGoes 63 = .ok (.invokevirtual 209, 3) := dk_182 0 209 (dk_at dksX21_placeGoes_2 15 rfl rfl)
theorem dX21_placeGoes_66 : decode cX21_placeGoes 66 = .ok (.iload_n 2, 1) := dk_28 (dk_at dksX21_placeGoes_2 18 rfl rfl)
theorem dX21_placeGoes_67 : decode cX21_placeGoes 67 = .ok (.aload_n 0, 1) := dk_42 (dk_at dksX21_placeGoes_2 19 rfl rfl)
theorem dX21_placeGoes_68 : decode cX21_placeGoes 68 = .ok (.getfield 13, 3) := dk_180 0 13 (dk_at dksX21_placeGoes_2 20 rfl rfl)
theorem dX21_placeGoes_71 : decode cX21_placeGoes 71 = .ok (.iconst 0, 1) := dk_3 (dk_at dksX21_placeGoes_2 23 rfl rfl)
theorem dX21_placeGoes_72 : decode cX21_placeGoes 72 = .ok (.iaload, 1) := dk_46 (dk_at dksX21_placeGoes_3 0 rfl rfl)
theorem dX21_placeGoes_73 : decode cX21_placeGoes 73 = .ok (.imul, 1) := dk_104 (dk_at dksX21_placeGoes_3 1 rfl rfl)
theorem dX21_placeGoes_74 : decode cX21_placeGoes 74 = .ok (.iadd, 1) := dk_96 (dk_at dksX21_placeGoes_3 2 rfl rfl)
theorem dX21_placeGoes_75 : decode cX21_placeGoes 75 = .ok (.sipush 999, 3) := dk_17 3 231 (dk_at dksX21_placeGoes_3 3 rfl rfl)
theorem dX21_placeGoes_78 : decode cX21_placeGoes 78 = .ok (.invokestatic 231, 3) := dk_184 0 231 (dk_at dksX21_placeGoes_3 6 rfl rfl)
theorem dX21_placeGoes_81 : decode cX21_placeGoes 81 = .ok (.invokevirtual 169, 3) := dk_182 0 169 (dk_at dksX21_placeGoes_3 9 rfl rfl)
theorem dX21_placeGoes_84 : decode cX21_placeGoes 84 = .ok (.aload_n 0, 1) := dk_42 (dk_at dksX21_placeGoes_3 12 rfl rfl)
theorem dX21_placeGoes_85 : decode cX21_placeGoes 85 = .ok (.iload_n 1, 1) := dk_27 (dk_at dksX21_placeGoes_3 13 rfl rfl)
theorem dX21_placeGoes_86 : decode cX21_placeGoes 86 = .ok (.iconst 0, 1) := dk_3 (dk_at dksX21_placeGoes_3 14 rfl rfl)
theorem dX21_placeGoes_87 : decode cX21_placeGoes 87 = .ok (.iconst 0, 1) := dk_3 (dk_at dksX21_placeGoes_3 15 rfl rfl)
theorem dX21_placeGoes_88 : decode cX21_placeGoes 88 = .ok (.invokevirtual 183, 3) := dk_182 0 183 (dk_at dksX21_placeGoes_3 16 rfl rfl)
theorem dX21_placeGoes_91 : decode cX21_placeGoes 91 = .ok (.return_, 1) := dk_177 (dk_at dksX21_placeGoes_3 19 rfl rfl)
abbrev cX21_likedIn : ByteArray := prog_33_method_42_code
def yX21_likedIn : MethodName := ⟨RX21, "likedIn", "(I)I"⟩
def dkwX21_likedIn_2 : List UInt8 := [29, 164, 0, 9, 21, 5, 62, 21, 4, 61, 132, 4, 1, 167, 255, 202, 28, 172]
abbrev dktX21_likedIn_2 : List UInt8 := dkwX21_likedIn_2 ++ []
def dkwX21_likedIn_1 : List UInt8 := [21, 4, 4, 182, 0, 209, 27, 160, 0, 12, 42, 21, 4, 182, 0, 219, 167, 0, 4, 3, 54, 5, 21, 5]
abbrev dktX21_likedIn_1 : List UInt8 := dkwX21_likedIn_1 ++ dktX21_likedIn_2
def dkwX21_likedIn_0 : List UInt8 := [2, 61, 3, 62, 3, 54, 4, 21, 4, 42, 180, 0, 7, 42, 180, 0, 73, 3, 96, 46, 162, 0, 44, 42]
abbrev dktX21_likedIn_0 : List UInt8 := dkwX21_likedIn_0 ++ dktX21_likedIn_1
theorem dksX21_likedIn_0 : cX21_likedIn.data.toList.drop 0 = dktX21_likedIn_0 := by decide +kernel
theorem dksX21_likedIn_1 : cX21_likedIn.data.toList.drop 24 = dktX21_likedIn_1 := dk_seg dksX21_likedIn_0 24 rfl rfl
theorem dksX21_likedIn_2 : cX21_likedIn.data.toList.drop 48 = dktX21_likedIn_2 := dk_seg dksX21_likedIn_1 24 rfl rfl
theorem dX21_likedIn_0 : decode cX21_likedIn 0 = .ok (.iconst (-1), 1) := dk_2 (dk_at dksX21_likedIn_0 0 rfl rfl)
theorem dX21_likedIn_1 : decode cX21_likedIn 1 = .ok (.istore_n 2, 1) := dk_61 (dk_at dksX21_likedIn_0 1 rfl rfl)
theorem dX21_likedIn_2 : decode cX21_likedIn 2 = .ok (.iconst 0, 1) := dk_3 (dk_at dksX21_likedIn_0 2 rfl rfl)
theorem dX21_likedIn_3 : decode cX21_likedIn 3 = .ok (.istore_n 3, 1) := dk_62 (dk_at dksX21_likedIn_0 3 rfl rfl)
theorem dX21_likedIn_4 : decode cX21_likedIn 4 = .ok (.iconst 0, 1) := dk_3 (dk_at dksX21_likedIn_0 4 rfl rfl)
theorem dX21_likedIn_5 : decode cX21_likedIn 5 = .ok (.istore 4, 2) := dk_54 4 (dk_at dksX21_likedIn_0 5 rfl rfl)
theorem dX21_likedIn_7 : decode cX21_likedIn 7 = .ok (.iload 4, 2) := dk_21 4 (dk_at dksX21_likedIn_0 7 rfl rfl)
theorem dX21_likedIn_9 : decode cX21_likedIn 9 = .ok (.aload_n 0, 1) := dk_42 (dk_at dksX21_likedIn_0 9 rfl rfl)
theorem dX21_likedIn_10 : decode cX21_likedIn 10 = .ok (.getfield 7, 3) := dk_180 0 7 (dk_at dksX21_likedIn_0 10 rfl rfl)
theorem dX21_likedIn_13 : decode cX21_likedIn 13 = .ok (.aload_n 0, 1) := dk_42 (dk_at dksX21_likedIn_0 13 rfl rfl)
theorem dX21_likedIn_14 : decode cX21_likedIn 14 = .ok (.getfield 73, 3) := dk_180 0 73 (dk_at dksX21_likedIn_0 14 rfl rfl)
theorem dX21_likedIn_17 : decode cX21_likedIn 17 = .ok (.iconst 0, 1) := dk_3 (dk_at dksX21_likedIn_0 17 rfl rfl)
theorem dX21_likedIn_18 : decode cX21_likedIn 18 = .ok (.iadd, 1) := dk_96 (dk_at dksX21_likedIn_0 18 rfl rfl)
theorem dX21_likedIn_19 : decode cX21_likedIn 19 = .ok (.iaload, 1) := dk_46 (dk_at dksX21_likedIn_0 19 rfl rfl)
theorem dX21_likedIn_20 : decode cX21_likedIn 20 = .ok (.if_icmp .ge 44, 3) := dk_162 0 44 (dk_at dksX21_likedIn_0 20 rfl rfl)
theorem dX21_likedIn_23 : decode cX21_likedIn 23 = .ok (.aload_n 0, 1) := dk_42 (dk_at dksX21_likedIn_0 23 rfl rfl)
theorem dX21_likedIn_24 : decode cX21_likedIn 24 = .ok (.iload 4, 2) := dk_21 4 (dk_at dksX21_likedIn_1 0 rfl rfl)
theorem dX21_likedIn_26 : decode cX21_likedIn 26 = .ok (.iconst 1, 1) := dk_4 (dk_at dksX21_likedIn_1 2 rfl rfl)
theorem dX21_likedIn_27 : decode cX21_likedIn 27 = .ok (.invokevirtual 209, 3) := dk_182 0 209 (dk_at dksX21_likedIn_1 3 rfl rfl)
theorem dX21_likedIn_30 : decode cX21_likedIn 30 = .ok (.iload_n 1, 1) := dk_27 (dk_at dksX21_likedIn_1 6 rfl rfl)
theorem dX21_likedIn_31 : decode cX21_likedIn 31 = .ok (.if_icmp .ne 12, 3) := dk_160 0 12 (dk_at dksX21_likedIn_1 7 rfl rfl)
theorem dX21_likedIn_34 : decode cX21_likedIn 34 = .ok (.aload_n 0, 1) := dk_42 (dk_at dksX21_likedIn_1 10 rfl rfl)
theorem dX21_likedIn_35 : decode cX21_likedIn 35 = .ok (.iload 4, 2) := dk_21 4 (dk_at dksX21_likedIn_1 11 rfl rfl)
theorem dX21_likedIn_37 : decode cX21_likedIn 37 = .ok (.invokevirtual 219, 3) := dk_182 0 219 (dk_at dksX21_likedIn_1 13 rfl rfl)
theorem dX21_likedIn_40 : decode cX21_likedIn 40 = .ok (.goto 4, 3) := dk_167 0 4 (dk_at dksX21_likedIn_1 16 rfl rfl)
theorem dX21_likedIn_43 : decode cX21_likedIn 43 = .ok (.iconst 0, 1) := dk_3 (dk_at dksX21_likedIn_1 19 rfl rfl)
theorem dX21_likedIn_44 : decode cX21_likedIn 44 = .ok (.istore 5, 2) := dk_54 5 (dk_at dksX21_likedIn_1 20 rfl rfl)
theorem dX21_likedIn_46 : decode cX21_likedIn 46 = .ok (.iload 5, 2) := dk_21 5 (dk_at dksX21_likedIn_1 22 rfl rfl)
theorem dX21_likedIn_48 : decode cX21_likedIn 48 = .ok (.iload_n 3, 1) := dk_29 (dk_at dksX21_likedIn_2 0 rfl rfl)
theorem dX21_likedIn_49 : decode cX21_likedIn 49 = .ok (.if_icmp .le 9, 3) := dk_164 0 9 (dk_at dksX21_likedIn_2 1 rfl rfl)
theorem dX21_likedIn_52 : decode cX21_likedIn 52 = .ok (.iload 5, 2) := dk_21 5 (dk_at dksX21_likedIn_2 4 rfl rfl)
theorem dX21_likedIn_54 : decode cX21_likedIn 54 = .ok (.istore_n 3, 1) := dk_62 (dk_at dksX21_likedIn_2 6 rfl rfl)
theorem dX21_likedIn_55 : decode cX21_likedIn 55 = .ok (.iload 4, 2) := dk_21 4 (dk_at dksX21_likedIn_2 7 rfl rfl)
theorem dX21_likedIn_57 : decode cX21_likedIn 57 = .ok (.istore_n 2, 1) := dk_61 (dk_at dksX21_likedIn_2 9 rfl rfl)
theorem dX21_likedIn_58 : decode cX21_likedIn 58 = .ok (.iinc 4 1, 3) := dk_132 4 1 (dk_at dksX21_likedIn_2 10 rfl rfl)
theorem dX21_likedIn_61 : decode cX21_likedIn 61 = .ok (.goto (-54), 3) := dk_167 255 202 (dk_at dksX21_likedIn_2 13 rfl rfl)
theorem dX21_likedIn_64 : decode cX21_likedIn 64 = .ok (.iload_n 2, 1) := dk_28 (dk_at dksX21_likedIn_2 16 rfl rfl)
theorem dX21_likedIn_65 : decode cX21_likedIn 65 = .ok (.ireturn, 1) := dk_172 (dk_at dksX21_likedIn_2 17 rfl rfl)
abbrev cX21_held : ByteArray := prog_33_method_7_code
def yX21_held : MethodName := ⟨RX21, "held", "(II)I"⟩
def dkwX21_held_0 : List UInt8 := [26, 27, 164, 0, 7, 27, 167, 0, 4, 26, 172]
abbrev dktX21_held_0 : List UInt8 := dkwX21_held_0 ++ []
theorem dksX21_held_0 : cX21_held.data.toList.drop 0 = dktX21_held_0 := by decide +kernel
theorem dX21_held_0 : decode cX21_held 0 = .ok (.iload_n 0, 1) := dk_26 (dk_at dksX21_held_0 0 rfl rfl)
theorem dX21_held_1 : decode cX21_held 1 = .ok (.iload_n 1, 1) := dk_27 (dk_at dksX21_held_0 1 rfl rfl)
theorem dX21_held_2 : decode cX21_held 2 = .ok (.if_icmp .le 7, 3) := dk_164 0 7 (dk_at dksX21_held_0 2 rfl rfl)
theorem dX21_held_5 : decode cX21_held 5 = .ok (.iload_n 1, 1) := dk_27 (dk_at dksX21_held_0 5 rfl rfl)
theorem dX21_held_6 : decode cX21_held 6 = .ok (.goto 4, 3) := dk_167 0 4 (dk_at dksX21_held_0 6 rfl rfl)
theorem dX21_held_9 : decode cX21_held 9 = .ok (.iload_n 0, 1) := dk_26 (dk_at dksX21_held_0 9 rfl rfl)
theorem dX21_held_10 : decode cX21_held 10 = .ok (.ireturn, 1) := dk_172 (dk_at dksX21_held_0 10 rfl rfl)
abbrev cX21_thingGoes : ByteArray := prog_33_method_44_code
def yX21_thingGoes : MethodName := ⟨RX21, "thingGoes", "(II)V"⟩
def dkwX21_thingGoes_9 : List UInt8 := [182, 0, 169, 177]
abbrev dktX21_thingGoes_9 : List UInt8 := dkwX21_thingGoes_9 ++ []
def dkwX21_thingGoes_8 : List UInt8 := [182, 0, 169, 167, 0, 24, 42, 27, 8, 42, 27, 8, 182, 0, 209, 42, 27, 8, 182, 0, 209, 5, 108, 100]
abbrev dktX21_thingGoes_8 : List UInt8 := dkwX21_thingGoes_8 ++ dktX21_thingGoes_9
def dkwX21_thingGoes_7 : List UInt8 := [167, 0, 4, 3, 182, 0, 169, 42, 27, 16, 6, 42, 27, 8, 182, 0, 209, 182, 0, 169, 42, 27, 8, 3]
abbrev dktX21_thingGoes_7 : List UInt8 := dkwX21_thingGoes_7 ++ dktX21_thingGoes_8
def dkwX21_thingGoes_6 : List UInt8 := [17, 3, 231, 184, 0, 231, 182, 0, 169, 42, 27, 16, 7, 29, 158, 0, 13, 42, 27, 16, 6, 182, 0, 209]
abbrev dktX21_thingGoes_6 : List UInt8 := dkwX21_thingGoes_6 ++ dktX21_thingGoes_7
def dkwX21_thingGoes_5 : List UInt8 := [161, 0, 76, 42, 27, 16, 8, 42, 27, 16, 8, 182, 0, 209, 42, 27, 16, 7, 182, 0, 209, 96]
abbrev dktX21_thingGoes_5 : List UInt8 := dkwX21_thingGoes_5 ++ dktX21_thingGoes_6
def dkwX21_thingGoes_4 : List UInt8 := [21, 5, 96, 17, 3, 231, 184, 0, 231, 182, 0, 183, 42, 27, 16, 8, 3, 182, 0, 169, 28, 4]
abbrev dktX21_thingGoes_4 : List UInt8 := dkwX21_thingGoes_4 ++ dktX21_thingGoes_5
def dkwX21_thingGoes_3 : List UInt8 := [167, 0, 10, 42, 27, 16, 8, 182, 0, 209, 54, 5, 42, 21, 4, 3, 42, 21, 4, 3, 182, 0, 222]
abbrev dktX21_thingGoes_3 : List UInt8 := dkwX21_thingGoes_3 ++ dktX21_thingGoes_4
def dkwX21_thingGoes_2 : List UInt8 := [28, 5, 161, 0, 65, 42, 27, 4, 182, 0, 209, 54, 4, 42, 27, 7, 182, 0, 209, 4, 160, 0, 7, 3]
abbrev dktX21_thingGoes_2 : List UInt8 := dkwX21_thingGoes_2 ++ dktX21_thingGoes_3
def dkwX21_thingGoes_1 : List UInt8 := [5, 42, 27, 16, 7, 182, 0, 209, 104, 96, 29, 104, 7, 108, 96, 17, 39, 15, 184, 0, 231, 182, 0, 169]
abbrev dktX21_thingGoes_1 : List UInt8 := dkwX21_thingGoes_1 ++ dktX21_thingGoes_2
def dkwX21_thingGoes_0 : List UInt8 := [42, 27, 182, 0, 213, 62, 42, 27, 16, 9, 42, 27, 16, 9, 182, 0, 209, 42, 27, 16, 6, 182, 0, 209]
abbrev dktX21_thingGoes_0 : List UInt8 := dkwX21_thingGoes_0 ++ dktX21_thingGoes_1
theorem dksX21_thingGoes_0 : cX21_thingGoes.data.toList.drop 0 = dktX21_thingGoes_0 := by decide +kernel
theorem dksX21_thingGoes_1 : cX21_thingGoes.data.toList.drop 24 = dktX21_thingGoes_1 := dk_seg dksX21_thingGoes_0 24 rfl rfl
theorem dksX21_thingGoes_2 : cX21_thingGoes.data.toList.drop 48 = dktX21_thingGoes_2 := dk_seg dksX21_thingGoes_1 24 rfl rfl
theorem dksX21_thingGoes_3 : cX21_thingGoes.data.toList.drop 72 = dktX21_thingGoes_3 := dk_seg dksX21_thingGoes_2 24 rfl rfl
theorem dksX21_thingGoes_4 : cX21_thingGoes.data.toList.drop 95 = dktX21_thingGoes_4 := dk_seg dksX21_thingGoes_3 23 rfl rfl
theorem dksX21_thingGoes_5 : cX21_thingGoes.data.toList.drop 117 = dktX21_thingGoes_5 := dk_seg dksX21_thingGoes_4 22 rfl rfl
theorem dksX21_thingGoes_6 : cX21_thingGoes.data.toList.drop 139 = dktX21_thingGoes_6 := dk_seg dksX21_thingGoes_5 22 rfl rfl
theorem dksX21_thingGoes_7 : cX21_thingGoes.data.toList.drop 163 = dktX21_thingGoes_7 := dk_seg dksX21_thingGoes_6 24 rfl rfl
theorem dksX21_thingGoes_8 : cX21_thingGoes.data.toList.drop 187 = dktX21_thingGoes_8 := dk_seg dksX21_thingGoes_7 24 rfl rfl
theorem dksX21_thingGoes_9 : cX21_thingGoes.data.toList.drop 211 = dktX21_thingGoes_9 := dk_seg dksX21_thingGoes_8 24 rfl rfl
theorem dX21_thingGoes_0 : decode cX21_thingGoes 0 = .ok (.aload_n 0, 1) := dk_42 (dk_at dksX21_thingGoes_0 0 rfl rfl)
theorem dX21_thingGoes_1 : decode cX21_thingGoes 1 = .ok (.iload_n 1, 1) := dk_27 (dk_at dksX21_thingGoes_0 1 rfl rfl)
theorem dX21_thingGoes_2 : decode cX21_thingGoes 2 = .ok (.invokevirtual 213, 3) := dk_182 0 213 (dk_at dksX21_thingGoes_0 2 rfl rfl)
theorem dX21_thingGoes_5 : decode cX21_thingGoes 5 = .ok (.istore_n 3, 1) := dk_62 (dk_at dksX21_thingGoes_0 5 rfl rfl)
theorem dX21_thingGoes_6 : decode cX21_thingGoes 6 = .ok (.aload_n 0, 1) := dk_42 (dk_at dksX21_thingGoes_0 6 rfl rfl)
theorem dX21_thingGoes_7 : decode cX21_thingGoes 7 = .ok (.iload_n 1, 1) := dk_27 (dk_at dksX21_thingGoes_0 7 rfl rfl)
theorem dX21_thingGoes_8 : decode cX21_thingGoes 8 = .ok (.bipush 9, 2) := dk_16 9 (dk_at dksX21_thingGoes_0 8 rfl rfl)
theorem dX21_thingGoes_10 : decode cX21_thingGoes 10 = .ok (.aload_n 0, 1) := dk_42 (dk_at dksX21_thingGoes_0 10 rfl rfl)
theorem dX21_thingGoes_11 : decode cX21_thingGoes 11 = .ok (.iload_n 1, 1) := dk_27 (dk_at dksX21_thingGoes_0 11 rfl rfl)
theorem dX21_thingGoes_12 : decode cX21_thingGoes 12 = .ok (.bipush 9, 2) := dk_16 9 (dk_at dksX21_thingGoes_0 12 rfl rfl)
theorem dX21_thingGoes_14 : decode cX21_thingGoes 14 = .ok (.invokevirtual 209, 3) := dk_182 0 209 (dk_at dksX21_thingGoes_0 14 rfl rfl)
theorem dX21_thingGoes_17 : decode cX21_thingGoes 17 = .ok (.aload_n 0, 1) := dk_42 (dk_at dksX21_thingGoes_0 17 rfl rfl)
theorem dX21_thingGoes_18 : decode cX21_thingGoes 18 = .ok (.iload_n 1, 1) := dk_27 (dk_at dksX21_thingGoes_0 18 rfl rfl)
theorem dX21_thingGoes_19 : decode cX21_thingGoes 19 = .ok (.bipush 6, 2) := dk_16 6 (dk_at dksX21_thingGoes_0 19 rfl rfl)
theorem dX21_thingGoes_21 : decode cX21_thingGoes 21 = .ok (.invokevirtual 209, 3) := dk_182 0 209 (dk_at dksX21_thingGoes_0 21 rfl rfl)
theorem dX21_thingGoes_24 : decode cX21_thingGoes 24 = .ok (.iconst 2, 1) := dk_5 (dk_at dksX21_thingGoes_1 0 rfl rfl)
theorem dX21_thingGoes_25 : decode cX21_thingGoes 25 = .ok (.aload_n 0, 1) := dk_42 (dk_at dksX21_thingGoes_1 1 rfl rfl)
theorem dX21_thingGoes_26 : decode cX21_thingGoes 26 = .ok (.iload_n 1, 1) := dk_27 (dk_at dksX21_thingGoes_1 2 rfl rfl)
theorem dX21_thingGoes_27 : decode cX21_thingGoes 27 = .ok (.bipush 7, 2) := dk_16 7 (dk_at dksX21_thingGoes_1 3 rfl rfl)
theorem dX21_thingGoes_29 : decode cX21_thingGoes 29 = .ok (.invokevirtual 209, 3) := dk_182 0 209 (dk_at dksX21_thingGoes_1 5 rfl rfl)
theorem dX21_thingGoes_32 : decode cX21_thingGoes 32 = .ok (.imul, 1) := dk_104 (dk_at dksX21_thingGoes_1 8 rfl rfl)
theorem dX21_thingGoes_33 : decode cX21_thingGoes 33 = .ok (.iadd, 1) := dk_96 (dk_at dksX21_thingGoes_1 9 rfl rfl)
theorem dX21_thingGoes_34 : decode cX21_thingGoes 34 = .ok (.iload_n 3, 1) := dk_29 (dk_at dksX21_thingGoes_1 10 rfl rfl)
theorem dX21_thingGoes_35 : decode cX21_thingGoes 35 = .ok (.imul, 1) := dk_104 (dk_at dksX21_thingGoes_1 11 rfl rfl)
theorem dX21_thingGoes_36 : decode cX21_thingGoes 36 = .ok (.iconst 4, 1) := dk_7 (dk_at dksX21_thingGoes_1 12 rfl rfl)
theorem dX21_thingGoes_37 : decode cX21_thingGoes 37 = .ok (.idiv, 1) := dk_108 (dk_at dksX21_thingGoes_1 13 rfl rfl)
theorem dX21_thingGoes_38 : decode cX21_thingGoes 38 = .ok (.iadd, 1) := dk_96 (dk_at dksX21_thingGoes_1 14 rfl rfl)
theorem dX21_thingGoes_39 : decode cX21_thingGoes 39 = .ok (.sipush 9999, 3) := dk_17 39 15 (dk_at dksX21_thingGoes_1 15 rfl rfl)
theorem dX21_thingGoes_42 : decode cX21_thingGoes 42 = .ok (.invokestatic 231, 3) := dk_184 0 231 (dk_at dksX21_thingGoes_1 18 rfl rfl)
theorem dX21_thingGoes_45 : decode cX21_thingGoes 45 = .ok (.invokevirtual 169, 3) := dk_182 0 169 (dk_at dksX21_thingGoes_1 21 rfl rfl)
theorem dX21_thingGoes_48 : decode cX21_thingGoes 48 = .ok (.iload_n 2, 1) := dk_28 (dk_at dksX21_thingGoes_2 0 rfl rfl)
theorem dX21_thingGoes_49 : decode cX21_thingGoes 49 = .ok (.iconst 2, 1) := dk_5 (dk_at dksX21_thingGoes_2 1 rfl rfl)
theorem dX21_thingGoes_50 : decode cX21_thingGoes 50 = .ok (.if_icmp .lt 65, 3) := dk_161 0 65 (dk_at dksX21_thingGoes_2 2 rfl rfl)
theorem dX21_thingGoes_53 : decode cX21_thingGoes 53 = .ok (.aload_n 0, 1) := dk_42 (dk_at dksX21_thingGoes_2 5 rfl rfl)
theorem dX21_thingGoes_54 : decode cX21_thingGoes 54 = .ok (.iload_n 1, 1) := dk_27 (dk_at dksX21_thingGoes_2 6 rfl rfl)
theorem dX21_thingGoes_55 : decode cX21_thingGoes 55 = .ok (.iconst 1, 1) := dk_4 (dk_at dksX21_thingGoes_2 7 rfl rfl)
theorem dX21_thingGoes_56 : decode cX21_thingGoes 56 = .ok (.invokevirtual 209, 3) := dk_182 0 209 (dk_at dksX21_thingGoes_2 8 rfl rfl)
theorem dX21_thingGoes_59 : decode cX21_thingGoes 59 = .ok (.istore 4, 2) := dk_54 4 (dk_at dksX21_thingGoes_2 11 rfl rfl)
theorem dX21_thingGoes_61 : decode cX21_thingGoes 61 = .ok (.aload_n 0, 1) := dk_42 (dk_at dksX21_thingGoes_2 13 rfl rfl)
theorem dX21_thingGoes_62 : decode cX21_thingGoes 62 = .ok (.iload_n 1, 1) := dk_27 (dk_at dksX21_thingGoes_2 14 rfl rfl)
theorem dX21_thingGoes_63 : decode cX21_thingGoes 63 = .ok (.iconst 4, 1) := dk_7 (dk_at dksX21_thingGoes_2 15 rfl rfl)
theorem dX21_thingGoes_64 : decode cX21_thingGoes 64 = .ok (.invokevirtual 209, 3) := dk_182 0 209 (dk_at dksX21_thingGoes_2 16 rfl rfl)
theorem dX21_thingGoes_67 : decode cX21_thingGoes 67 = .ok (.iconst 1, 1) := dk_4 (dk_at dksX21_thingGoes_2 19 rfl rfl)
theorem dX21_thingGoes_68 : decode cX21_thingGoes 68 = .ok (.if_icmp .ne 7, 3) := dk_160 0 7 (dk_at dksX21_thingGoes_2 20 rfl rfl)
theorem dX21_thingGoes_71 : decode cX21_thingGoes 71 = .ok (.iconst 0, 1) := dk_3 (dk_at dksX21_thingGoes_2 23 rfl rfl)
theorem dX21_thingGoes_72 : decode cX21_thingGoes 72 = .ok (.goto 10, 3) := dk_167 0 10 (dk_at dksX21_thingGoes_3 0 rfl rfl)
theorem dX21_thingGoes_75 : decode cX21_thingGoes 75 = .ok (.aload_n 0, 1) := dk_42 (dk_at dksX21_thingGoes_3 3 rfl rfl)
theorem dX21_thingGoes_76 : decode cX21_thingGoes 76 = .ok (.iload_n 1, 1) := dk_27 (dk_at dksX21_thingGoes_3 4 rfl rfl)
theorem dX21_thingGoes_77 : decode cX21_thingGoes 77 = .ok (.bipush 8, 2) := dk_16 8 (dk_at dksX21_thingGoes_3 5 rfl rfl)
theorem dX21_thingGoes_79 : decode cX21_thingGoes 79 = .ok (.invokevirtual 209, 3) := dk_182 0 209 (dk_at dksX21_thingGoes_3 7 rfl rfl)
theorem dX21_thingGoes_82 : decode cX21_thingGoes 82 = .ok (.istore 5, 2) := dk_54 5 (dk_at dksX21_thingGoes_3 10 rfl rfl)
theorem dX21_thingGoes_84 : decode cX21_thingGoes 84 = .ok (.aload_n 0, 1) := dk_42 (dk_at dksX21_thingGoes_3 12 rfl rfl)
theorem dX21_thingGoes_85 : decode cX21_thingGoes 85 = .ok (.iload 4, 2) := dk_21 4 (dk_at dksX21_thingGoes_3 13 rfl rfl)
theorem dX21_thingGoes_87 : decode cX21_thingGoes 87 = .ok (.iconst 0, 1) := dk_3 (dk_at dksX21_thingGoes_3 15 rfl rfl)
theorem dX21_thingGoes_88 : decode cX21_thingGoes 88 = .ok (.aload_n 0, 1) := dk_42 (dk_at dksX21_thingGoes_3 16 rfl rfl)
theorem dX21_thingGoes_89 : decode cX21_thingGoes 89 = .ok (.iload 4, 2) := dk_21 4 (dk_at dksX21_thingGoes_3 17 rfl rfl)
theorem dX21_thingGoes_91 : decode cX21_thingGoes 91 = .ok (.iconst 0, 1) := dk_3 (dk_at dksX21_thingGoes_3 19 rfl rfl)
theorem dX21_thingGoes_92 : decode cX21_thingGoes 92 = .ok (.invokevirtual 222, 3) := dk_182 0 222 (dk_at dksX21_thingGoes_3 20 rfl rfl)
theorem dX21_thingGoes_95 : decode cX21_thingGoes 95 = .ok (.iload 5, 2) := dk_21 5 (dk_at dksX21_thingGoes_4 0 rfl rfl)
theorem dX21_thingGoes_97 : decode cX21_thingGoes 97 = .ok (.iadd, 1) := dk_96 (dk_at dksX21_thingGoes_4 2 rfl rfl)
theorem dX21_thingGoes_98 : decode cX21_thingGoes 98 = .ok (.sipush 999, 3) := dk_17 3 231 (dk_at dksX21_thingGoes_4 3 rfl rfl)
theorem dX21_thingGoes_101 : decode cX21_thingGoes 101 = .ok (.invokestatic 231, 3) := dk_184 0 231 (dk_at dksX21_thingGoes_4 6 rfl rfl)
theorem dX21_thingGoes_104 : decode cX21_thingGoes 104 = .ok (.invokevirtual 183, 3) := dk_182 0 183 (dk_at dksX21_thingGoes_4 9 rfl rfl)
theorem dX21_thingGoes_107 : decode cX21_thingGoes 107 = .ok (.aload_n 0, 1) := dk_42 (dk_at dksX21_thingGoes_4 12 rfl rfl)
theorem dX21_thingGoes_108 : decode cX21_thingGoes 108 = .ok (.iload_n 1, 1) := dk_27 (dk_at dksX21_thingGoes_4 13 rfl rfl)
theorem dX21_thingGoes_109 : decode cX21_thingGoes 109 = .ok (.bipush 8, 2) := dk_16 8 (dk_at dksX21_thingGoes_4 14 rfl rfl)
theorem dX21_thingGoes_111 : decode cX21_thingGoes 111 = .ok (.iconst 0, 1) := dk_3 (dk_at dksX21_thingGoes_4 16 rfl rfl)
theorem dX21_thingGoes_112 : decode cX21_thingGoes 112 = .ok (.invokevirtual 169, 3) := dk_182 0 169 (dk_at dksX21_thingGoes_4 17 rfl rfl)
theorem dX21_thingGoes_115 : decode cX21_thingGoes 115 = .ok (.iload_n 2, 1) := dk_28 (dk_at dksX21_thingGoes_4 20 rfl rfl)
theorem dX21_thingGoes_116 : decode cX21_thingGoes 116 = .ok (.iconst 1, 1) := dk_4 (dk_at dksX21_thingGoes_4 21 rfl rfl)
theorem dX21_thingGoes_117 : decode cX21_thingGoes 117 = .ok (.if_icmp .lt 76, 3) := dk_161 0 76 (dk_at dksX21_thingGoes_5 0 rfl rfl)
theorem dX21_thingGoes_120 : decode cX21_thingGoes 120 = .ok (.aload_n 0, 1) := dk_42 (dk_at dksX21_thingGoes_5 3 rfl rfl)
theorem dX21_thingGoes_121 : decode cX21_thingGoes 121 = .ok (.iload_n 1, 1) := dk_27 (dk_at dksX21_thingGoes_5 4 rfl rfl)
theorem dX21_thingGoes_122 : decode cX21_thingGoes 122 = .ok (.bipush 8, 2) := dk_16 8 (dk_at dksX21_thingGoes_5 5 rfl rfl)
theorem dX21_thingGoes_124 : decode cX21_thingGoes 124 = .ok (.aload_n 0, 1) := dk_42 (dk_at dksX21_thingGoes_5 7 rfl rfl)
theorem dX21_thingGoes_125 : decode cX21_thingGoes 125 = .ok (.iload_n 1, 1) := dk_27 (dk_at dksX21_thingGoes_5 8 rfl rfl)
theorem dX21_thingGoes_126 : decode cX21_thingGoes 126 = .ok (.bipush 8, 2) := dk_16 8 (dk_at dksX21_thingGoes_5 9 rfl rfl)
theorem dX21_thingGoes_128 : decode cX21_thingGoes 128 = .ok (.invokevirtual 209, 3) := dk_182 0 209 (dk_at dksX21_thingGoes_5 11 rfl rfl)
theorem dX21_thingGoes_131 : decode cX21_thingGoes 131 = .ok (.aload_n 0, 1) := dk_42 (dk_at dksX21_thingGoes_5 14 rfl rfl)
theorem dX21_thingGoes_132 : decode cX21_thingGoes 132 = .ok (.iload_n 1, 1) := dk_27 (dk_at dksX21_thingGoes_5 15 rfl rfl)
theorem dX21_thingGoes_133 : decode cX21_thingGoes 133 = .ok (.bipush 7, 2) := dk_16 7 (dk_at dksX21_thingGoes_5 16 rfl rfl)
theorem dX21_thingGoes_135 : decode cX21_thingGoes 135 = .ok (.invokevirtual 209, 3) := dk_182 0 209 (dk_at dksX21_thingGoes_5 18 rfl rfl)
theorem dX21_thingGoes_138 : decode cX21_thingGoes 138 = .ok (.iadd, 1) := dk_96 (dk_at dksX21_thingGoes_5 21 rfl rfl)
theorem dX21_thingGoes_139 : decode cX21_thingGoes 139 = .ok (.sipush 999, 3) := dk_17 3 231 (dk_at dksX21_thingGoes_6 0 rfl rfl)
theorem dX21_thingGoes_142 : decode cX21_thingGoes 142 = .ok (.invokestatic 231, 3) := dk_184 0 231 (dk_at dksX21_thingGoes_6 3 rfl rfl)
theorem dX21_thingGoes_145 : decode cX21_thingGoes 145 = .ok (.invokevirtual 169, 3) := dk_182 0 169 (dk_at dksX21_thingGoes_6 6 rfl rfl)
theorem dX21_thingGoes_148 : decode cX21_thingGoes 148 = .ok (.aload_n 0, 1) := dk_42 (dk_at dksX21_thingGoes_6 9 rfl rfl)
theorem dX21_thingGoes_149 : decode cX21_thingGoes 149 = .ok (.iload_n 1, 1) := dk_27 (dk_at dksX21_thingGoes_6 10 rfl rfl)
theorem dX21_thingGoes_150 : decode cX21_thingGoes 150 = .ok (.bipush 7, 2) := dk_16 7 (dk_at dksX21_thingGoes_6 11 rfl rfl)
theorem dX21_thingGoes_152 : decode cX21_thingGoes 152 = .ok (.iload_n 3, 1) := dk_29 (dk_at dksX21_thingGoes_6 13 rfl rfl)
theorem dX21_thingGoes_153 : decode cX21_thingGoes 153 = .ok (.ifCond .le 13, 3) := dk_158 0 13 (dk_at dksX21_thingGoes_6 14 rfl rfl)
theorem dX21_thingGoes_156 : decode cX21_thingGoes 156 = .ok (.aload_n 0, 1) := dk_42 (dk_at dksX21_thingGoes_6 17 rfl rfl)
theorem dX21_thingGoes_157 : decode cX21_thingGoes 157 = .ok (.iload_n 1, 1) := dk_27 (dk_at dksX21_thingGoes_6 18 rfl rfl)
theorem dX21_thingGoes_158 : decode cX21_thingGoes 158 = .ok (.bipush 6, 2) := dk_16 6 (dk_at dksX21_thingGoes_6 19 rfl rfl)
theorem dX21_thingGoes_160 : decode cX21_thingGoes 160 = .ok (.invokevirtual 209, 3) := dk_182 0 209 (dk_at dksX21_thingGoes_6 21 rfl rfl)
theorem dX21_thingGoes_163 : decode cX21_thingGoes 163 = .ok (.goto 4, 3) := dk_167 0 4 (dk_at dksX21_thingGoes_7 0 rfl rfl)
theorem dX21_thingGoes_166 : decode cX21_thingGoes 166 = .ok (.iconst 0, 1) := dk_3 (dk_at dksX21_thingGoes_7 3 rfl rfl)
theorem dX21_thingGoes_167 : decode cX21_thingGoes 167 = .ok (.invokevirtual 169, 3) := dk_182 0 169 (dk_at dksX21_thingGoes_7 4 rfl rfl)
theorem dX21_thingGoes_170 : decode cX21_thingGoes 170 = .ok (.aload_n 0, 1) := dk_42 (dk_at dksX21_thingGoes_7 7 rfl rfl)
theorem dX21_thingGoes_171 : decode cX21_thingGoes 171 = .ok (.iload_n 1, 1) := dk_27 (dk_at dksX21_thingGoes_7 8 rfl rfl)
theorem dX21_thingGoes_172 : decode cX21_thingGoes 172 = .ok (.bipush 6, 2) := dk_16 6 (dk_at dksX21_thingGoes_7 9 rfl rfl)
theorem dX21_thingGoes_174 : decode cX21_thingGoes 174 = .ok (.aload_n 0, 1) := dk_42 (dk_at dksX21_thingGoes_7 11 rfl rfl)
theorem dX21_thingGoes_175 : decode cX21_thingGoes 175 = .ok (.iload_n 1, 1) := dk_27 (dk_at dksX21_thingGoes_7 12 rfl rfl)
theorem dX21_thingGoes_176 : decode cX21_thingGoes 176 = .ok (.iconst 5, 1) := dk_8 (dk_at dksX21_thingGoes_7 13 rfl rfl)
theorem dX21_thingGoes_177 : decode cX21_thingGoes 177 = .ok (.invokevirtual 209, 3) := dk_182 0 209 (dk_at dksX21_thingGoes_7 14 rfl rfl)
theorem dX21_thingGoes_180 : decode cX21_thingGoes 180 = .ok (.invokevirtual 169, 3) := dk_182 0 169 (dk_at dksX21_thingGoes_7 17 rfl rfl)
theorem dX21_thingGoes_183 : decode cX21_thingGoes 183 = .ok (.aload_n 0, 1) := dk_42 (dk_at dksX21_thingGoes_7 20 rfl rfl)
theorem dX21_thingGoes_184 : decode cX21_thingGoes 184 = .ok (.iload_n 1, 1) := dk_27 (dk_at dksX21_thingGoes_7 21 rfl rfl)
theorem dX21_thingGoes_185 : decode cX21_thingGoes 185 = .ok (.iconst 5, 1) := dk_8 (dk_at dksX21_thingGoes_7 22 rfl rfl)
theorem dX21_thingGoes_186 : decode cX21_thingGoes 186 = .ok (.iconst 0, 1) := dk_3 (dk_at dksX21_thingGoes_7 23 rfl rfl)
theorem dX21_thingGoes_187 : decode cX21_thingGoes 187 = .ok (.invokevirtual 169, 3) := dk_182 0 169 (dk_at dksX21_thingGoes_8 0 rfl rfl)
theorem dX21_thingGoes_190 : decode cX21_thingGoes 190 = .ok (.goto 24, 3) := dk_167 0 24 (dk_at dksX21_thingGoes_8 3 rfl rfl)
theorem dX21_thingGoes_193 : decode cX21_thingGoes 193 = .ok (.aload_n 0, 1) := dk_42 (dk_at dksX21_thingGoes_8 6 rfl rfl)
theorem dX21_thingGoes_194 : decode cX21_thingGoes 194 = .ok (.iload_n 1, 1) := dk_27 (dk_at dksX21_thingGoes_8 7 rfl rfl)
theorem dX21_thingGoes_195 : decode cX21_thingGoes 195 = .ok (.iconst 5, 1) := dk_8 (dk_at dksX21_thingGoes_8 8 rfl rfl)
theorem dX21_thingGoes_196 : decode cX21_thingGoes 196 = .ok (.aload_n 0, 1) := dk_42 (dk_at dksX21_thingGoes_8 9 rfl rfl)
theorem dX21_thingGoes_197 : decode cX21_thingGoes 197 = .ok (.iload_n 1, 1) := dk_27 (dk_at dksX21_thingGoes_8 10 rfl rfl)
theorem dX21_thingGoes_198 : decode cX21_thingGoes 198 = .ok (.iconst 5, 1) := dk_8 (dk_at dksX21_thingGoes_8 11 rfl rfl)
theorem dX21_thingGoes_199 : decode cX21_thingGoes 199 = .ok (.invokevirtual 209, 3) := dk_182 0 209 (dk_at dksX21_thingGoes_8 12 rfl rfl)
theorem dX21_thingGoes_202 : decode cX21_thingGoes 202 = .ok (.aload_n 0, 1) := dk_42 (dk_at dksX21_thingGoes_8 15 rfl rfl)
theorem dX21_thingGoes_203 : decode cX21_thingGoes 203 = .ok (.iload_n 1, 1) := dk_27 (dk_at dksX21_thingGoes_8 16 rfl rfl)
theorem dX21_thingGoes_204 : decode cX21_thingGoes 204 = .ok (.iconst 5, 1) := dk_8 (dk_at dksX21_thingGoes_8 17 rfl rfl)
theorem dX21_thingGoes_205 : decode cX21_thingGoes 205 = .ok (.invokevirtual 209, 3) := dk_182 0 209 (dk_at dksX21_thingGoes_8 18 rfl rfl)
theorem dX21_thingGoes_208 : decode cX21_thingGoes 208 = .ok (.iconst 2, 1) := dk_5 (dk_at dksX21_thingGoes_8 21 rfl rfl)
theorem dX21_thingGoes_209 : decode cX21_thingGoes 209 = .ok (.idiv, 1) := dk_108 (dk_at dksX21_thingGoes_8 22 rfl rfl)
theorem dX21_thingGoes_210 : decode cX21_thingGoes 210 = .ok (.isub, 1) := dk_100 (dk_at dksX21_thingGoes_8 23 rfl rfl)
theorem dX21_thingGoes_211 : decode cX21_thingGoes 211 = .ok (.invokevirtual 169, 3) := dk_182 0 169 (dk_at dksX21_thingGoes_9 0 rfl rfl)
theorem dX21_thingGoes_214 : decode cX21_thingGoes 214 = .ok (.return_, 1) := dk_177 (dk_at dksX21_thingGoes_9 3 rfl rfl)
abbrev cX21_now : ByteArray := prog_33_method_51_code
def yX21_now : MethodName := ⟨RX21, "now", "(I)I"⟩
def dkwX21_now_3 : List UInt8 := [182, 0, 245, 172, 42, 182, 0, 248, 172, 42, 182, 0, 251, 172, 2, 172]
abbrev dktX21_now_3 : List UInt8 := dkwX21_now_3 ++ []
def dkwX21_now_2 : List UInt8 := [42, 180, 0, 7, 4, 46, 172, 42, 180, 0, 19, 42, 180, 0, 7, 4, 46, 16, 12, 112, 46, 172, 42]
abbrev dktX21_now_2 : List UInt8 := dkwX21_now_2 ++ dktX21_now_3
def dkwX21_now_1 : List UInt8 := [170, 0, 0, 0, 0, 0, 72, 0, 0, 0, 0, 0, 0, 0, 4, 0, 0, 0, 35, 0, 0, 0, 42, 0, 0, 0, 57, 0, 0, 0, 62, 0, 0, 0, 67]
abbrev dktX21_now_1 : List UInt8 := dkwX21_now_1 ++ dktX21_now_2
def dkwX21_now_0 : List UInt8 := [27]
abbrev dktX21_now_0 : List UInt8 := dkwX21_now_0 ++ dktX21_now_1
theorem dksX21_now_0 : cX21_now.data.toList.drop 0 = dktX21_now_0 := by decide +kernel
theorem dksX21_now_1 : cX21_now.data.toList.drop 1 = dktX21_now_1 := dk_seg dksX21_now_0 1 rfl rfl
theorem dksX21_now_2 : cX21_now.data.toList.drop 36 = dktX21_now_2 := dk_seg dksX21_now_1 35 rfl rfl
theorem dksX21_now_3 : cX21_now.data.toList.drop 59 = dktX21_now_3 := dk_seg dksX21_now_2 23 rfl rfl
theorem dX21_now_0 : decode cX21_now 0 = .ok (.iload_n 1, 1) := dk_27 (dk_at dksX21_now_0 0 rfl rfl)
theorem dX21_now_1 : decode cX21_now 1 = .ok (.tableswitch 72 0 4 #[35, 42, 57, 62, 67], 35) := by decide +kernel
theorem dX21_now_36 : decode cX21_now 36 = .ok (.aload_n 0, 1) := dk_42 (dk_at dksX21_now_2 0 rfl rfl)
theorem dX21_now_37 : decode cX21_now 37 = .ok (.getfield 7, 3) := dk_180 0 7 (dk_at dksX21_now_2 1 rfl rfl)
theorem dX21_now_40 : decode cX21_now 40 = .ok (.iconst 1, 1) := dk_4 (dk_at dksX21_now_2 4 rfl rfl)
theorem dX21_now_41 : decode cX21_now 41 = .ok (.iaload, 1) := dk_46 (dk_at dksX21_now_2 5 rfl rfl)
theorem dX21_now_42 : decode cX21_now 42 = .ok (.ireturn, 1) := dk_172 (dk_at dksX21_now_2 6 rfl rfl)
theorem dX21_now_43 : decode cX21_now 43 = .ok (.aload_n 0, 1) := dk_42 (dk_at dksX21_now_2 7 rfl rfl)
theorem dX21_now_44 : decode cX21_now 44 = .ok (.getfield 19, 3) := dk_180 0 19 (dk_at dksX21_now_2 8 rfl rfl)
theorem dX21_now_47 : decode cX21_now 47 = .ok (.aload_n 0, 1) := dk_42 (dk_at dksX21_now_2 11 rfl rfl)
theorem dX21_now_48 : decode cX21_now 48 = .ok (.getfield 7, 3) := dk_180 0 7 (dk_at dksX21_now_2 12 rfl rfl)
theorem dX21_now_51 : decode cX21_now 51 = .ok (.iconst 1, 1) := dk_4 (dk_at dksX21_now_2 15 rfl rfl)
theorem dX21_now_52 : decode cX21_now 52 = .ok (.iaload, 1) := dk_46 (dk_at dksX21_now_2 16 rfl rfl)
theorem dX21_now_53 : decode cX21_now 53 = .ok (.bipush 12, 2) := dk_16 12 (dk_at dksX21_now_2 17 rfl rfl)
theorem dX21_now_55 : decode cX21_now 55 = .ok (.irem, 1) := dk_112 (dk_at dksX21_now_2 19 rfl rfl)
theorem dX21_now_56 : decode cX21_now 56 = .ok (.iaload, 1) := dk_46 (dk_at dksX21_now_2 20 rfl rfl)
theorem dX21_now_57 : decode cX21_now 57 = .ok (.ireturn, 1) := dk_172 (dk_at dksX21_now_2 21 rfl rfl)
theorem dX21_now_58 : decode cX21_now 58 = .ok (.aload_n 0, 1) := dk_42 (dk_at dksX21_now_2 22 rfl rfl)
theorem dX21_now_59 : decode cX21_now 59 = .ok (.invokevirtual 245, 3) := dk_182 0 245 (dk_at dksX21_now_3 0 rfl rfl)
theorem dX21_now_62 : decode cX21_now 62 = .ok (.ireturn, 1) := dk_172 (dk_at dksX21_now_3 3 rfl rfl)
theorem dX21_now_63 : decode cX21_now 63 = .ok (.aload_n 0, 1) := dk_42 (dk_at dksX21_now_3 4 rfl rfl)
theorem dX21_now_64 : decode cX21_now 64 = .ok (.invokevirtual 248, 3) := dk_182 0 248 (dk_at dksX21_now_3 5 rfl rfl)
theorem dX21_now_67 : decode cX21_now 67 = .ok (.ireturn, 1) := dk_172 (dk_at dksX21_now_3 8 rfl rfl)
theorem dX21_now_68 : decode cX21_now 68 = .ok (.aload_n 0, 1) := dk_42 (dk_at dksX21_now_3 9 rfl rfl)
theorem dX21_now_69 : decode cX21_now 69 = .ok (.invokevirtual 251, 3) := dk_182 0 251 (dk_at dksX21_now_3 10 rfl rfl)
theorem dX21_now_72 : decode cX21_now 72 = .ok (.ireturn, 1) := dk_172 (dk_at dksX21_now_3 13 rfl rfl)
theorem dX21_now_73 : decode cX21_now 73 = .ok (.iconst (-1), 1) := dk_2 (dk_at dksX21_now_3 14 rfl rfl)
theorem dX21_now_74 : decode cX21_now 74 = .ok (.ireturn, 1) := dk_172 (dk_at dksX21_now_3 15 rfl rfl)
abbrev cX21_alive : ByteArray := prog_33_method_48_code
def yX21_alive : MethodName := ⟨RX21, "alive", "()I"⟩
def dkwX21_alive_2 : List UInt8 := [60, 132, 2, 1, 167, 255, 230, 27, 172]
abbrev dktX21_alive_2 : List UInt8 := dkwX21_alive_2 ++ []
def dkwX21_alive_1 : List UInt8 := [3, 61, 28, 42, 180, 0, 7, 42, 180, 0, 73, 3, 96, 46, 162, 0, 17, 27, 42, 28, 182, 0, 242, 96]
abbrev dktX21_alive_1 : List UInt8 := dkwX21_alive_1 ++ dktX21_alive_2
def dkwX21_alive_0 : List UInt8 := [3, 60, 3, 61, 28, 7, 162, 0, 18, 27, 42, 28, 3, 182, 0, 222, 96, 60, 132, 2, 1, 167, 255, 239]
abbrev dktX21_alive_0 : List UInt8 := dkwX21_alive_0 ++ dktX21_alive_1
theorem dksX21_alive_0 : cX21_alive.data.toList.drop 0 = dktX21_alive_0 := by decide +kernel
theorem dksX21_alive_1 : cX21_alive.data.toList.drop 24 = dktX21_alive_1 := dk_seg dksX21_alive_0 24 rfl rfl
theorem dksX21_alive_2 : cX21_alive.data.toList.drop 48 = dktX21_alive_2 := dk_seg dksX21_alive_1 24 rfl rfl
theorem dX21_alive_0 : decode cX21_alive 0 = .ok (.iconst 0, 1) := dk_3 (dk_at dksX21_alive_0 0 rfl rfl)
theorem dX21_alive_1 : decode cX21_alive 1 = .ok (.istore_n 1, 1) := dk_60 (dk_at dksX21_alive_0 1 rfl rfl)
theorem dX21_alive_2 : decode cX21_alive 2 = .ok (.iconst 0, 1) := dk_3 (dk_at dksX21_alive_0 2 rfl rfl)
theorem dX21_alive_3 : decode cX21_alive 3 = .ok (.istore_n 2, 1) := dk_61 (dk_at dksX21_alive_0 3 rfl rfl)
theorem dX21_alive_4 : decode cX21_alive 4 = .ok (.iload_n 2, 1) := dk_28 (dk_at dksX21_alive_0 4 rfl rfl)
theorem dX21_alive_5 : decode cX21_alive 5 = .ok (.iconst 4, 1) := dk_7 (dk_at dksX21_alive_0 5 rfl rfl)
theorem dX21_alive_6 : decode cX21_alive 6 = .ok (.if_icmp .ge 18, 3) := dk_162 0 18 (dk_at dksX21_alive_0 6 rfl rfl)
theorem dX21_alive_9 : decode cX21_alive 9 = .ok (.iload_n 1, 1) := dk_27 (dk_at dksX21_alive_0 9 rfl rfl)
theorem dX21_alive_10 : decode cX21_alive 10 = .ok (.aload_n 0, 1) := dk_42 (dk_at dksX21_alive_0 10 rfl rfl)
theorem dX21_alive_11 : decode cX21_alive 11 = .ok (.iload_n 2, 1) := dk_28 (dk_at dksX21_alive_0 11 rfl rfl)
theorem dX21_alive_12 : decode cX21_alive 12 = .ok (.iconst 0, 1) := dk_3 (dk_at dksX21_alive_0 12 rfl rfl)
theorem dX21_alive_13 : decode cX21_alive 13 = .ok (.invokevirtual 222, 3) := dk_182 0 222 (dk_at dksX21_alive_0 13 rfl rfl)
theorem dX21_alive_16 : decode cX21_alive 16 = .ok (.iadd, 1) := dk_96 (dk_at dksX21_alive_0 16 rfl rfl)
theorem dX21_alive_17 : decode cX21_alive 17 = .ok (.istore_n 1, 1) := dk_60 (dk_at dksX21_alive_0 17 rfl rfl)
theorem dX21_alive_18 : decode cX21_alive 18 = .ok (.iinc 2 1, 3) := dk_132 2 1 (dk_at dksX21_alive_0 18 rfl rfl)
theorem dX21_alive_21 : decode cX21_alive 21 = .ok (.goto (-17), 3) := dk_167 255 239 (dk_at dksX21_alive_0 21 rfl rfl)
theorem dX21_alive_24 : decode cX21_alive 24 = .ok (.iconst 0, 1) := dk_3 (dk_at dksX21_alive_1 0 rfl rfl)
theorem dX21_alive_25 : decode cX21_alive 25 = .ok (.istore_n 2, 1) := dk_61 (dk_at dksX21_alive_1 1 rfl rfl)
theorem dX21_alive_26 : decode cX21_alive 26 = .ok (.iload_n 2, 1) := dk_28 (dk_at dksX21_alive_1 2 rfl rfl)
theorem dX21_alive_27 : decode cX21_alive 27 = .ok (.aload_n 0, 1) := dk_42 (dk_at dksX21_alive_1 3 rfl rfl)
theorem dX21_alive_28 : decode cX21_alive 28 = .ok (.getfield 7, 3) := dk_180 0 7 (dk_at dksX21_alive_1 4 rfl rfl)
theorem dX21_alive_31 : decode cX21_alive 31 = .ok (.aload_n 0, 1) := dk_42 (dk_at dksX21_alive_1 7 rfl rfl)
theorem dX21_alive_32 : decode cX21_alive 32 = .ok (.getfield 73, 3) := dk_180 0 73 (dk_at dksX21_alive_1 8 rfl rfl)
theorem dX21_alive_35 : decode cX21_alive 35 = .ok (.iconst 0, 1) := dk_3 (dk_at dksX21_alive_1 11 rfl rfl)
theorem dX21_alive_36 : decode cX21_alive 36 = .ok (.iadd, 1) := dk_96 (dk_at dksX21_alive_1 12 rfl rfl)
theorem dX21_alive_37 : decode cX21_alive 37 = .ok (.iaload, 1) := dk_46 (dk_at dksX21_alive_1 13 rfl rfl)
theorem dX21_alive_38 : decode cX21_alive 38 = .ok (.if_icmp .ge 17, 3) := dk_162 0 17 (dk_at dksX21_alive_1 14 rfl rfl)
theorem dX21_alive_41 : decode cX21_alive 41 = .ok (.iload_n 1, 1) := dk_27 (dk_at dksX21_alive_1 17 rfl rfl)
theorem dX21_alive_42 : decode cX21_alive 42 = .ok (.aload_n 0, 1) := dk_42 (dk_at dksX21_alive_1 18 rfl rfl)
theorem dX21_alive_43 : decode cX21_alive 43 = .ok (.iload_n 2, 1) := dk_28 (dk_at dksX21_alive_1 19 rfl rfl)
theorem dX21_alive_44 : decode cX21_alive 44 = .ok (.invokevirtual 242, 3) := dk_182 0 242 (dk_at dksX21_alive_1 20 rfl rfl)
theorem dX21_alive_47 : decode cX21_alive 47 = .ok (.iadd, 1) := dk_96 (dk_at dksX21_alive_1 23 rfl rfl)
theorem dX21_alive_48 : decode cX21_alive 48 = .ok (.istore_n 1, 1) := dk_60 (dk_at dksX21_alive_2 0 rfl rfl)
theorem dX21_alive_49 : decode cX21_alive 49 = .ok (.iinc 2 1, 3) := dk_132 2 1 (dk_at dksX21_alive_2 1 rfl rfl)
theorem dX21_alive_52 : decode cX21_alive 52 = .ok (.goto (-26), 3) := dk_167 255 230 (dk_at dksX21_alive_2 4 rfl rfl)
theorem dX21_alive_55 : decode cX21_alive 55 = .ok (.iload_n 1, 1) := dk_27 (dk_at dksX21_alive_2 7 rfl rfl)
theorem dX21_alive_56 : decode cX21_alive 56 = .ok (.ireturn, 1) := dk_172 (dk_at dksX21_alive_2 8 rfl rfl)
abbrev cX21_aliveIn : ByteArray := prog_33_method_47_code
def yX21_aliveIn : MethodName := ⟨RX21, "aliveIn", "(I)I"⟩
def dkwX21_aliveIn_1 : List UInt8 := [16, 8, 182, 0, 209, 96, 172]
abbrev dktX21_aliveIn_1 : List UInt8 := dkwX21_aliveIn_1 ++ []
def dkwX21_aliveIn_0 : List UInt8 := [42, 27, 8, 182, 0, 209, 42, 27, 16, 6, 182, 0, 209, 96, 42, 27, 16, 7, 182, 0, 209, 96, 42, 27]
abbrev dktX21_aliveIn_0 : List UInt8 := dkwX21_aliveIn_0 ++ dktX21_aliveIn_1
theorem dksX21_aliveIn_0 : cX21_aliveIn.data.toList.drop 0 = dktX21_aliveIn_0 := by decide +kernel
theorem dksX21_aliveIn_1 : cX21_aliveIn.data.toList.drop 24 = dktX21_aliveIn_1 := dk_seg dksX21_aliveIn_0 24 rfl rfl
theorem dX21_aliveIn_0 : decode cX21_aliveIn 0 = .ok (.aload_n 0, 1) := dk_42 (dk_at dksX21_aliveIn_0 0 rfl rfl)
theorem dX21_aliveIn_1 : decode cX21_aliveIn 1 = .ok (.iload_n 1, 1) := dk_27 (dk_at dksX21_aliveIn_0 1 rfl rfl)
theorem dX21_aliveIn_2 : decode cX21_aliveIn 2 = .ok (.iconst 5, 1) := dk_8 (dk_at dksX21_aliveIn_0 2 rfl rfl)
theorem dX21_aliveIn_3 : decode cX21_aliveIn 3 = .ok (.invokevirtual 209, 3) := dk_182 0 209 (dk_at dksX21_aliveIn_0 3 rfl rfl)
theorem dX21_aliveIn_6 : decode cX21_aliveIn 6 = .ok (.aload_n 0, 1) := dk_42 (dk_at dksX21_aliveIn_0 6 rfl rfl)
theorem dX21_aliveIn_7 : decode cX21_aliveIn 7 = .ok (.iload_n 1, 1) := dk_27 (dk_at dksX21_aliveIn_0 7 rfl rfl)
theorem dX21_aliveIn_8 : decode cX21_aliveIn 8 = .ok (.bipush 6, 2) := dk_16 6 (dk_at dksX21_aliveIn_0 8 rfl rfl)
theorem dX21_aliveIn_10 : decode cX21_aliveIn 10 = .ok (.invokevirtual 209, 3) := dk_182 0 209 (dk_at dksX21_aliveIn_0 10 rfl rfl)
theorem dX21_aliveIn_13 : decode cX21_aliveIn 13 = .ok (.iadd, 1) := dk_96 (dk_at dksX21_aliveIn_0 13 rfl rfl)
theorem dX21_aliveIn_14 : decode cX21_aliveIn 14 = .ok (.aload_n 0, 1) := dk_42 (dk_at dksX21_aliveIn_0 14 rfl rfl)
theorem dX21_aliveIn_15 : decode cX21_aliveIn 15 = .ok (.iload_n 1, 1) := dk_27 (dk_at dksX21_aliveIn_0 15 rfl rfl)
theorem dX21_aliveIn_16 : decode cX21_aliveIn 16 = .ok (.bipush 7, 2) := dk_16 7 (dk_at dksX21_aliveIn_0 16 rfl rfl)
theorem dX21_aliveIn_18 : decode cX21_aliveIn 18 = .ok (.invokevirtual 209, 3) := dk_182 0 209 (dk_at dksX21_aliveIn_0 18 rfl rfl)
theorem dX21_aliveIn_21 : decode cX21_aliveIn 21 = .ok (.iadd, 1) := dk_96 (dk_at dksX21_aliveIn_0 21 rfl rfl)
theorem dX21_aliveIn_22 : decode cX21_aliveIn 22 = .ok (.aload_n 0, 1) := dk_42 (dk_at dksX21_aliveIn_0 22 rfl rfl)
theorem dX21_aliveIn_23 : decode cX21_aliveIn 23 = .ok (.iload_n 1, 1) := dk_27 (dk_at dksX21_aliveIn_0 23 rfl rfl)
theorem dX21_aliveIn_24 : decode cX21_aliveIn 24 = .ok (.bipush 8, 2) := dk_16 8 (dk_at dksX21_aliveIn_1 0 rfl rfl)
theorem dX21_aliveIn_26 : decode cX21_aliveIn 26 = .ok (.invokevirtual 209, 3) := dk_182 0 209 (dk_at dksX21_aliveIn_1 2 rfl rfl)
theorem dX21_aliveIn_29 : decode cX21_aliveIn 29 = .ok (.iadd, 1) := dk_96 (dk_at dksX21_aliveIn_1 5 rfl rfl)
theorem dX21_aliveIn_30 : decode cX21_aliveIn 30 = .ok (.ireturn, 1) := dk_172 (dk_at dksX21_aliveIn_1 6 rfl rfl)
abbrev cX21_kept : ByteArray := prog_33_method_49_code
def yX21_kept : MethodName := ⟨RX21, "kept", "()I"⟩
def dkwX21_kept_2 : List UInt8 := [132, 2, 1, 167, 255, 211, 27, 172]
abbrev dktX21_kept_2 : List UInt8 := dkwX21_kept_2 ++ []
def dkwX21_kept_1 : List UInt8 := [182, 0, 209, 42, 28, 16, 9, 182, 0, 209, 100, 62, 27, 29, 158, 0, 7, 29, 167, 0, 4, 3, 96, 60]
abbrev dktX21_kept_1 : List UInt8 := dkwX21_kept_1 ++ dktX21_kept_2
def dkwX21_kept_0 : List UInt8 := [3, 60, 3, 61, 28, 42, 180, 0, 7, 42, 180, 0, 73, 3, 96, 46, 162, 0, 36, 42, 28, 6]
abbrev dktX21_kept_0 : List UInt8 := dkwX21_kept_0 ++ dktX21_kept_1
theorem dksX21_kept_0 : cX21_kept.data.toList.drop 0 = dktX21_kept_0 := by decide +kernel
theorem dksX21_kept_1 : cX21_kept.data.toList.drop 22 = dktX21_kept_1 := dk_seg dksX21_kept_0 22 rfl rfl
theorem dksX21_kept_2 : cX21_kept.data.toList.drop 46 = dktX21_kept_2 := dk_seg dksX21_kept_1 24 rfl rfl
theorem dX21_kept_0 : decode cX21_kept 0 = .ok (.iconst 0, 1) := dk_3 (dk_at dksX21_kept_0 0 rfl rfl)
theorem dX21_kept_1 : decode cX21_kept 1 = .ok (.istore_n 1, 1) := dk_60 (dk_at dksX21_kept_0 1 rfl rfl)
theorem dX21_kept_2 : decode cX21_kept 2 = .ok (.iconst 0, 1) := dk_3 (dk_at dksX21_kept_0 2 rfl rfl)
theorem dX21_kept_3 : decode cX21_kept 3 = .ok (.istore_n 2, 1) := dk_61 (dk_at dksX21_kept_0 3 rfl rfl)
theorem dX21_kept_4 : decode cX21_kept 4 = .ok (.iload_n 2, 1) := dk_28 (dk_at dksX21_kept_0 4 rfl rfl)
theorem dX21_kept_5 : decode cX21_kept 5 = .ok (.aload_n 0, 1) := dk_42 (dk_at dksX21_kept_0 5 rfl rfl)
theorem dX21_kept_6 : decode cX21_kept 6 = .ok (.getfield 7, 3) := dk_180 0 7 (dk_at dksX21_kept_0 6 rfl rfl)
theorem dX21_kept_9 : decode cX21_kept 9 = .ok (.aload_n 0, 1) := dk_42 (dk_at dksX21_kept_0 9 rfl rfl)
theorem dX21_kept_10 : decode cX21_kept 10 = .ok (.getfield 73, 3) := dk_180 0 73 (dk_at dksX21_kept_0 10 rfl rfl)
theorem dX21_kept_13 : decode cX21_kept 13 = .ok (.iconst 0, 1) := dk_3 (dk_at dksX21_kept_0 13 rfl rfl)
theorem dX21_kept_14 : decode cX21_kept 14 = .ok (.iadd, 1) := dk_96 (dk_at dksX21_kept_0 14 rfl rfl)
theorem dX21_kept_15 : decode cX21_kept 15 = .ok (.iaload, 1) := dk_46 (dk_at dksX21_kept_0 15 rfl rfl)
theorem dX21_kept_16 : decode cX21_kept 16 = .ok (.if_icmp .ge 36, 3) := dk_162 0 36 (dk_at dksX21_kept_0 16 rfl rfl)
theorem dX21_kept_19 : decode cX21_kept 19 = .ok (.aload_n 0, 1) := dk_42 (dk_at dksX21_kept_0 19 rfl rfl)
theorem dX21_kept_20 : decode cX21_kept 20 = .ok (.iload_n 2, 1) := dk_28 (dk_at dksX21_kept_0 20 rfl rfl)
theorem dX21_kept_21 : decode cX21_kept 21 = .ok (.iconst 3, 1) := dk_6 (dk_at dksX21_kept_0 21 rfl rfl)
theorem dX21_kept_22 : decode cX21_kept 22 = .ok (.invokevirtual 209, 3) := dk_182 0 209 (dk_at dksX21_kept_1 0 rfl rfl)
theorem dX21_kept_25 : decode cX21_kept 25 = .ok (.aload_n 0, 1) := dk_42 (dk_at dksX21_kept_1 3 rfl rfl)
theorem dX21_kept_26 : decode cX21_kept 26 = .ok (.iload_n 2, 1) := dk_28 (dk_at dksX21_kept_1 4 rfl rfl)
theorem dX21_kept_27 : decode cX21_kept 27 = .ok (.bipush 9, 2) := dk_16 9 (dk_at dksX21_kept_1 5 rfl rfl)
theorem dX21_kept_29 : decode cX21_kept 29 = .ok (.invokevirtual 209, 3) := dk_182 0 209 (dk_at dksX21_kept_1 7 rfl rfl)
theorem dX21_kept_32 : decode cX21_kept 32 = .ok (.isub, 1) := dk_100 (dk_at dksX21_kept_1 10 rfl rfl)
theorem dX21_kept_33 : decode cX21_kept 33 = .ok (.istore_n 3, 1) := dk_62 (dk_at dksX21_kept_1 11 rfl rfl)
theorem dX21_kept_34 : decode cX21_kept 34 = .ok (.iload_n 1, 1) := dk_27 (dk_at dksX21_kept_1 12 rfl rfl)
theorem dX21_kept_35 : decode cX21_kept 35 = .ok (.iload_n 3, 1) := dk_29 (dk_at dksX21_kept_1 13 rfl rfl)
theorem dX21_kept_36 : decode cX21_kept 36 = .ok (.ifCond .le 7, 3) := dk_158 0 7 (dk_at dksX21_kept_1 14 rfl rfl)
theorem dX21_kept_39 : decode cX21_kept 39 = .ok (.iload_n 3, 1) := dk_29 (dk_at dksX21_kept_1 17 rfl rfl)
theorem dX21_kept_40 : decode cX21_kept 40 = .ok (.goto 4, 3) := dk_167 0 4 (dk_at dksX21_kept_1 18 rfl rfl)
theorem dX21_kept_43 : decode cX21_kept 43 = .ok (.iconst 0, 1) := dk_3 (dk_at dksX21_kept_1 21 rfl rfl)
theorem dX21_kept_44 : decode cX21_kept 44 = .ok (.iadd, 1) := dk_96 (dk_at dksX21_kept_1 22 rfl rfl)
theorem dX21_kept_45 : decode cX21_kept 45 = .ok (.istore_n 1, 1) := dk_60 (dk_at dksX21_kept_1 23 rfl rfl)
theorem dX21_kept_46 : decode cX21_kept 46 = .ok (.iinc 2 1, 3) := dk_132 2 1 (dk_at dksX21_kept_2 0 rfl rfl)
theorem dX21_kept_49 : decode cX21_kept 49 = .ok (.goto (-45), 3) := dk_167 255 211 (dk_at dksX21_kept_2 3 rfl rfl)
theorem dX21_kept_52 : decode cX21_kept 52 = .ok (.iload_n 1, 1) := dk_27 (dk_at dksX21_kept_2 6 rfl rfl)
theorem dX21_kept_53 : decode cX21_kept 53 = .ok (.ireturn, 1) := dk_172 (dk_at dksX21_kept_2 7 rfl rfl)
abbrev cX21_holes : ByteArray := prog_33_method_50_code
def yX21_holes : MethodName := ⟨RX21, "holes", "()I"⟩
def dkwX21_holes_1 : List UInt8 := [182, 0, 209, 96, 60, 132, 2, 1, 167, 255, 228, 27, 172]
abbrev dktX21_holes_1 : List UInt8 := dkwX21_holes_1 ++ []
def dkwX21_holes_0 : List UInt8 := [3, 60, 3, 61, 28, 42, 180, 0, 7, 42, 180, 0, 73, 3, 96, 46, 162, 0, 19, 27, 42, 28, 16, 9]
abbrev dktX21_holes_0 : List UInt8 := dkwX21_holes_0 ++ dktX21_holes_1
theorem dksX21_holes_0 : cX21_holes.data.toList.drop 0 = dktX21_holes_0 := by decide +kernel
theorem dksX21_holes_1 : cX21_holes.data.toList.drop 24 = dktX21_holes_1 := dk_seg dksX21_holes_0 24 rfl rfl
theorem dX21_holes_0 : decode cX21_holes 0 = .ok (.iconst 0, 1) := dk_3 (dk_at dksX21_holes_0 0 rfl rfl)
theorem dX21_holes_1 : decode cX21_holes 1 = .ok (.istore_n 1, 1) := dk_60 (dk_at dksX21_holes_0 1 rfl rfl)
theorem dX21_holes_2 : decode cX21_holes 2 = .ok (.iconst 0, 1) := dk_3 (dk_at dksX21_holes_0 2 rfl rfl)
theorem dX21_holes_3 : decode cX21_holes 3 = .ok (.istore_n 2, 1) := dk_61 (dk_at dksX21_holes_0 3 rfl rfl)
theorem dX21_holes_4 : decode cX21_holes 4 = .ok (.iload_n 2, 1) := dk_28 (dk_at dksX21_holes_0 4 rfl rfl)
theorem dX21_holes_5 : decode cX21_holes 5 = .ok (.aload_n 0, 1) := dk_42 (dk_at dksX21_holes_0 5 rfl rfl)
theorem dX21_holes_6 : decode cX21_holes 6 = .ok (.getfield 7, 3) := dk_180 0 7 (dk_at dksX21_holes_0 6 rfl rfl)
theorem dX21_holes_9 : decode cX21_holes 9 = .ok (.aload_n 0, 1) := dk_42 (dk_at dksX21_holes_0 9 rfl rfl)
theorem dX21_holes_10 : decode cX21_holes 10 = .ok (.getfield 73, 3) := dk_180 0 73 (dk_at dksX21_holes_0 10 rfl rfl)
theorem dX21_holes_13 : decode cX21_holes 13 = .ok (.iconst 0, 1) := dk_3 (dk_at dksX21_holes_0 13 rfl rfl)
theorem dX21_holes_14 : decode cX21_holes 14 = .ok (.iadd, 1) := dk_96 (dk_at dksX21_holes_0 14 rfl rfl)
theorem dX21_holes_15 : decode cX21_holes 15 = .ok (.iaload, 1) := dk_46 (dk_at dksX21_holes_0 15 rfl rfl)
theorem dX21_holes_16 : decode cX21_holes 16 = .ok (.if_icmp .ge 19, 3) := dk_162 0 19 (dk_at dksX21_holes_0 16 rfl rfl)
theorem dX21_holes_19 : decode cX21_holes 19 = .ok (.iload_n 1, 1) := dk_27 (dk_at dksX21_holes_0 19 rfl rfl)
theorem dX21_holes_20 : decode cX21_holes 20 = .ok (.aload_n 0, 1) := dk_42 (dk_at dksX21_holes_0 20 rfl rfl)
theorem dX21_holes_21 : decode cX21_holes 21 = .ok (.iload_n 2, 1) := dk_28 (dk_at dksX21_holes_0 21 rfl rfl)
theorem dX21_holes_22 : decode cX21_holes 22 = .ok (.bipush 9, 2) := dk_16 9 (dk_at dksX21_holes_0 22 rfl rfl)
theorem dX21_holes_24 : decode cX21_holes 24 = .ok (.invokevirtual 209, 3) := dk_182 0 209 (dk_at dksX21_holes_1 0 rfl rfl)
theorem dX21_holes_27 : decode cX21_holes 27 = .ok (.iadd, 1) := dk_96 (dk_at dksX21_holes_1 3 rfl rfl)
theorem dX21_holes_28 : decode cX21_holes 28 = .ok (.istore_n 1, 1) := dk_60 (dk_at dksX21_holes_1 4 rfl rfl)
theorem dX21_holes_29 : decode cX21_holes 29 = .ok (.iinc 2 1, 3) := dk_132 2 1 (dk_at dksX21_holes_1 5 rfl rfl)
theorem dX21_holes_32 : decode cX21_holes 32 = .ok (.goto (-28), 3) := dk_167 255 228 (dk_at dksX21_holes_1 8 rfl rfl)
theorem dX21_holes_35 : decode cX21_holes 35 = .ok (.iload_n 1, 1) := dk_27 (dk_at dksX21_holes_1 11 rfl rfl)
theorem dX21_holes_36 : decode cX21_holes 36 = .ok (.ireturn, 1) := dk_172 (dk_at dksX21_holes_1 12 rfl rfl)
abbrev cX21_over : ByteArray := prog_33_method_52_code
def yX21_over : MethodName := ⟨RX21, "over", "()I"⟩
def dkwX21_over_2 : List UInt8 := [16, 253, 167, 0, 4, 27, 61, 42, 3, 181, 0, 73, 28, 172]
abbrev dktX21_over_2 : List UInt8 := dkwX21_over_2 ++ []
def dkwX21_over_1 : List UInt8 := [182, 0, 245, 158, 0, 13, 42, 182, 0, 239, 132, 1, 1, 167, 255, 236, 42, 182, 0, 245, 158, 0, 8]
abbrev dktX21_over_1 : List UInt8 := dkwX21_over_1 ++ dktX21_over_2
def dkwX21_over_0 : List UInt8 := [42, 3, 16, 94, 182, 0, 196, 42, 16, 94, 181, 0, 73, 3, 60, 27, 16, 60, 162, 0, 20, 42]
abbrev dktX21_over_0 : List UInt8 := dkwX21_over_0 ++ dktX21_over_1
theorem dksX21_over_0 : cX21_over.data.toList.drop 0 = dktX21_over_0 := by decide +kernel
theorem dksX21_over_1 : cX21_over.data.toList.drop 22 = dktX21_over_1 := dk_seg dksX21_over_0 22 rfl rfl
theorem dksX21_over_2 : cX21_over.data.toList.drop 45 = dktX21_over_2 := dk_seg dksX21_over_1 23 rfl rfl
theorem dX21_over_0 : decode cX21_over 0 = .ok (.aload_n 0, 1) := dk_42 (dk_at dksX21_over_0 0 rfl rfl)
theorem dX21_over_1 : decode cX21_over 1 = .ok (.iconst 0, 1) := dk_3 (dk_at dksX21_over_0 1 rfl rfl)
theorem dX21_over_2 : decode cX21_over 2 = .ok (.bipush 94, 2) := dk_16 94 (dk_at dksX21_over_0 2 rfl rfl)
theorem dX21_over_4 : decode cX21_over 4 = .ok (.invokevirtual 196, 3) := dk_182 0 196 (dk_at dksX21_over_0 4 rfl rfl)
theorem dX21_over_7 : decode cX21_over 7 = .ok (.aload_n 0, 1) := dk_42 (dk_at dksX21_over_0 7 rfl rfl)
theorem dX21_over_8 : decode cX21_over 8 = .ok (.bipush 94, 2) := dk_16 94 (dk_at dksX21_over_0 8 rfl rfl)
theorem dX21_over_10 : decode cX21_over 10 = .ok (.putfield 73, 3) := dk_181 0 73 (dk_at dksX21_over_0 10 rfl rfl)
theorem dX21_over_13 : decode cX21_over 13 = .ok (.iconst 0, 1) := dk_3 (dk_at dksX21_over_0 13 rfl rfl)
theorem dX21_over_14 : decode cX21_over 14 = .ok (.istore_n 1, 1) := dk_60 (dk_at dksX21_over_0 14 rfl rfl)
theorem dX21_over_15 : decode cX21_over 15 = .ok (.iload_n 1, 1) := dk_27 (dk_at dksX21_over_0 15 rfl rfl)
theorem dX21_over_16 : decode cX21_over 16 = .ok (.bipush 60, 2) := dk_16 60 (dk_at dksX21_over_0 16 rfl rfl)
theorem dX21_over_18 : decode cX21_over 18 = .ok (.if_icmp .ge 20, 3) := dk_162 0 20 (dk_at dksX21_over_0 18 rfl rfl)
theorem dX21_over_21 : decode cX21_over 21 = .ok (.aload_n 0, 1) := dk_42 (dk_at dksX21_over_0 21 rfl rfl)
theorem dX21_over_22 : decode cX21_over 22 = .ok (.invokevirtual 245, 3) := dk_182 0 245 (dk_at dksX21_over_1 0 rfl rfl)
theorem dX21_over_25 : decode cX21_over 25 = .ok (.ifCond .le 13, 3) := dk_158 0 13 (dk_at dksX21_over_1 3 rfl rfl)
theorem dX21_over_28 : decode cX21_over 28 = .ok (.aload_n 0, 1) := dk_42 (dk_at dksX21_over_1 6 rfl rfl)
theorem dX21_over_29 : decode cX21_over 29 = .ok (.invokevirtual 239, 3) := dk_182 0 239 (dk_at dksX21_over_1 7 rfl rfl)
theorem dX21_over_32 : decode cX21_over 32 = .ok (.iinc 1 1, 3) := dk_132 1 1 (dk_at dksX21_over_1 10 rfl rfl)
theorem dX21_over_35 : decode cX21_over 35 = .ok (.goto (-20), 3) := dk_167 255 236 (dk_at dksX21_over_1 13 rfl rfl)
theorem dX21_over_38 : decode cX21_over 38 = .ok (.aload_n 0, 1) := dk_42 (dk_at dksX21_over_1 16 rfl rfl)
theorem dX21_over_39 : decode cX21_over 39 = .ok (.invokevirtual 245, 3) := dk_182 0 245 (dk_at dksX21_over_1 17 rfl rfl)
theorem dX21_over_42 : decode cX21_over 42 = .ok (.ifCond .le 8, 3) := dk_158 0 8 (dk_at dksX21_over_1 20 rfl rfl)
theorem dX21_over_45 : decode cX21_over 45 = .ok (.bipush (-3), 2) := dk_16 253 (dk_at dksX21_over_2 0 rfl rfl)
theorem dX21_over_47 : decode cX21_over 47 = .ok (.goto 4, 3) := dk_167 0 4 (dk_at dksX21_over_2 2 rfl rfl)
theorem dX21_over_50 : decode cX21_over 50 = .ok (.iload_n 1, 1) := dk_27 (dk_at dksX21_over_2 5 rfl rfl)
theorem dX21_over_51 : decode cX21_over 51 = .ok (.istore_n 2, 1) := dk_61 (dk_at dksX21_over_2 6 rfl rfl)
theorem dX21_over_52 : decode cX21_over 52 = .ok (.aload_n 0, 1) := dk_42 (dk_at dksX21_over_2 7 rfl rfl)
theorem dX21_over_53 : decode cX21_over 53 = .ok (.iconst 0, 1) := dk_3 (dk_at dksX21_over_2 8 rfl rfl)
theorem dX21_over_54 : decode cX21_over 54 = .ok (.putfield 73, 3) := dk_181 0 73 (dk_at dksX21_over_2 9 rfl rfl)
theorem dX21_over_57 : decode cX21_over 57 = .ok (.iload_n 2, 1) := dk_28 (dk_at dksX21_over_2 12 rfl rfl)
theorem dX21_over_58 : decode cX21_over 58 = .ok (.ireturn, 1) := dk_172 (dk_at dksX21_over_2 13 rfl rfl)
abbrev cX21_doing : ByteArray := prog_33_method_53_code
def yX21_doing : MethodName := ⟨RX21, "doing", "(II)I"⟩
def dkwX21_doing_3 : List UInt8 := [180, 0, 76, 4, 100, 172]
abbrev dktX21_doing_3 : List UInt8 := dkwX21_doing_3 ++ []
def dkwX21_doing_2 : List UInt8 := [180, 0, 22, 5, 42, 180, 0, 76, 104, 4, 96, 28, 79, 42, 89, 180, 0, 76, 4, 96, 181, 0, 76, 42]
abbrev dktX21_doing_2 : List UInt8 := dkwX21_doing_2 ++ dktX21_doing_3
def dkwX21_doing_1 : List UInt8 := [180, 0, 76, 16, 6, 160, 0, 6, 16, 254, 172, 42, 180, 0, 22, 5, 42, 180, 0, 76, 104, 27, 79, 42]
abbrev dktX21_doing_1 : List UInt8 := dkwX21_doing_1 ++ dktX21_doing_2
def dkwX21_doing_0 : List UInt8 := [27, 4, 8, 184, 0, 69, 153, 0, 13, 28, 3, 16, 20, 184, 0, 69, 154, 0, 5, 2, 172, 42]
abbrev dktX21_doing_0 : List UInt8 := dkwX21_doing_0 ++ dktX21_doing_1
theorem dksX21_doing_0 : cX21_doing.data.toList.drop 0 = dktX21_doing_0 := by decide +kernel
theorem dksX21_doing_1 : cX21_doing.data.toList.drop 22 = dktX21_doing_1 := dk_seg dksX21_doing_0 22 rfl rfl
theorem dksX21_doing_2 : cX21_doing.data.toList.drop 46 = dktX21_doing_2 := dk_seg dksX21_doing_1 24 rfl rfl
theorem dksX21_doing_3 : cX21_doing.data.toList.drop 70 = dktX21_doing_3 := dk_seg dksX21_doing_2 24 rfl rfl
theorem dX21_doing_0 : decode cX21_doing 0 = .ok (.iload_n 1, 1) := dk_27 (dk_at dksX21_doing_0 0 rfl rfl)
theorem dX21_doing_1 : decode cX21_doing 1 = .ok (.iconst 1, 1) := dk_4 (dk_at dksX21_doing_0 1 rfl rfl)
theorem dX21_doing_2 : decode cX21_doing 2 = .ok (.iconst 5, 1) := dk_8 (dk_at dksX21_doing_0 2 rfl rfl)
theorem dX21_doing_3 : decode cX21_doing 3 = .ok (.invokestatic 69, 3) := dk_184 0 69 (dk_at dksX21_doing_0 3 rfl rfl)
theorem dX21_doing_6 : decode cX21_doing 6 = .ok (.ifCond .eq 13, 3) := dk_153 0 13 (dk_at dksX21_doing_0 6 rfl rfl)
theorem dX21_doing_9 : decode cX21_doing 9 = .ok (.iload_n 2, 1) := dk_28 (dk_at dksX21_doing_0 9 rfl rfl)
theorem dX21_doing_10 : decode cX21_doing 10 = .ok (.iconst 0, 1) := dk_3 (dk_at dksX21_doing_0 10 rfl rfl)
theorem dX21_doing_11 : decode cX21_doing 11 = .ok (.bipush 20, 2) := dk_16 20 (dk_at dksX21_doing_0 11 rfl rfl)
theorem dX21_doing_13 : decode cX21_doing 13 = .ok (.invokestatic 69, 3) := dk_184 0 69 (dk_at dksX21_doing_0 13 rfl rfl)
theorem dX21_doing_16 : decode cX21_doing 16 = .ok (.ifCond .ne 5, 3) := dk_154 0 5 (dk_at dksX21_doing_0 16 rfl rfl)
theorem dX21_doing_19 : decode cX21_doing 19 = .ok (.iconst (-1), 1) := dk_2 (dk_at dksX21_doing_0 19 rfl rfl)
theorem dX21_doing_20 : decode cX21_doing 20 = .ok (.ireturn, 1) := dk_172 (dk_at dksX21_doing_0 20 rfl rfl)
theorem dX21_doing_21 : decode cX21_doing 21 = .ok (.aload_n 0, 1) := dk_42 (dk_at dksX21_doing_0 21 rfl rfl)
theorem dX21_doing_22 : decode cX21_doing 22 = .ok (.getfield 76, 3) := dk_180 0 76 (dk_at dksX21_doing_1 0 rfl rfl)
theorem dX21_doing_25 : decode cX21_doing 25 = .ok (.bipush 6, 2) := dk_16 6 (dk_at dksX21_doing_1 3 rfl rfl)
theorem dX21_doing_27 : decode cX21_doing 27 = .ok (.if_icmp .ne 6, 3) := dk_160 0 6 (dk_at dksX21_doing_1 5 rfl rfl)
theorem dX21_doing_30 : decode cX21_doing 30 = .ok (.bipush (-2), 2) := dk_16 254 (dk_at dksX21_doing_1 8 rfl rfl)
theorem dX21_doing_32 : decode cX21_doing 32 = .ok (.ireturn, 1) := dk_172 (dk_at dksX21_doing_1 10 rfl rfl)
theorem dX21_doing_33 : decode cX21_doing 33 = .ok (.aload_n 0, 1) := dk_42 (dk_at dksX21_doing_1 11 rfl rfl)
theorem dX21_doing_34 : decode cX21_doing 34 = .ok (.getfield 22, 3) := dk_180 0 22 (dk_at dksX21_doing_1 12 rfl rfl)
theorem dX21_doing_37 : decode cX21_doing 37 = .ok (.iconst 2, 1) := dk_5 (dk_at dksX21_doing_1 15 rfl rfl)
theorem dX21_doing_38 : decode cX21_doing 38 = .ok (.aload_n 0, 1) := dk_42 (dk_at dksX21_doing_1 16 rfl rfl)
theorem dX21_doing_39 : decode cX21_doing 39 = .ok (.getfield 76, 3) := dk_180 0 76 (dk_at dksX21_doing_1 17 rfl rfl)
theorem dX21_doing_42 : decode cX21_doing 42 = .ok (.imul, 1) := dk_104 (dk_at dksX21_doing_1 20 rfl rfl)
theorem dX21_doing_43 : decode cX21_doing 43 = .ok (.iload_n 1, 1) := dk_27 (dk_at dksX21_doing_1 21 rfl rfl)
theorem dX21_doing_44 : decode cX21_doing 44 = .ok (.iastore, 1) := dk_79 (dk_at dksX21_doing_1 22 rfl rfl)
theorem dX21_doing_45 : decode cX21_doing 45 = .ok (.aload_n 0, 1) := dk_42 (dk_at dksX21_doing_1 23 rfl rfl)
theorem dX21_doing_46 : decode cX21_doing 46 = .ok (.getfield 22, 3) := dk_180 0 22 (dk_at dksX21_doing_2 0 rfl rfl)
theorem dX21_doing_49 : decode cX21_doing 49 = .ok (.iconst 2, 1) := dk_5 (dk_at dksX21_doing_2 3 rfl rfl)
theorem dX21_doing_50 : decode cX21_doing 50 = .ok (.aload_n 0, 1) := dk_42 (dk_at dksX21_doing_2 4 rfl rfl)
theorem dX21_doing_51 : decode cX21_doing 51 = .ok (.getfield 76, 3) := dk_180 0 76 (dk_at dksX21_doing_2 5 rfl rfl)
theorem dX21_doing_54 : decode cX21_doing 54 = .ok (.imul, 1) := dk_104 (dk_at dksX21_doing_2 8 rfl rfl)
theorem dX21_doing_55 : decode cX21_doing 55 = .ok (.iconst 1, 1) := dk_4 (dk_at dksX21_doing_2 9 rfl rfl)
theorem dX21_doing_56 : decode cX21_doing 56 = .ok (.iadd, 1) := dk_96 (dk_at dksX21_doing_2 10 rfl rfl)
theorem dX21_doing_57 : decode cX21_doing 57 = .ok (.iload_n 2, 1) := dk_28 (dk_at dksX21_doing_2 11 rfl rfl)
theorem dX21_doing_58 : decode cX21_doing 58 = .ok (.iastore, 1) := dk_79 (dk_at dksX21_doing_2 12 rfl rfl)
theorem dX21_doing_59 : decode cX21_doing 59 = .ok (.aload_n 0, 1) := dk_42 (dk_at dksX21_doing_2 13 rfl rfl)
theorem dX21_doing_60 : decode cX21_doing 60 = .ok (.dup, 1) := dk_89 (dk_at dksX21_doing_2 14 rfl rfl)
theorem dX21_doing_61 : decode cX21_doing 61 = .ok (.getfield 76, 3) := dk_180 0 76 (dk_at dksX21_doing_2 15 rfl rfl)
theorem dX21_doing_64 : decode cX21_doing 64 = .ok (.iconst 1, 1) := dk_4 (dk_at dksX21_doing_2 18 rfl rfl)
theorem dX21_doing_65 : decode cX21_doing 65 = .ok (.iadd, 1) := dk_96 (dk_at dksX21_doing_2 19 rfl rfl)
theorem dX21_doing_66 : decode cX21_doing 66 = .ok (.putfield 76, 3) := dk_181 0 76 (dk_at dksX21_doing_2 20 rfl rfl)
theorem dX21_doing_69 : decode cX21_doing 69 = .ok (.aload_n 0, 1) := dk_42 (dk_at dksX21_doing_2 23 rfl rfl)
theorem dX21_doing_70 : decode cX21_doing 70 = .ok (.getfield 76, 3) := dk_180 0 76 (dk_at dksX21_doing_3 0 rfl rfl)
theorem dX21_doing_73 : decode cX21_doing 73 = .ok (.iconst 1, 1) := dk_4 (dk_at dksX21_doing_3 3 rfl rfl)
theorem dX21_doing_74 : decode cX21_doing 74 = .ok (.isub, 1) := dk_100 (dk_at dksX21_doing_3 4 rfl rfl)
theorem dX21_doing_75 : decode cX21_doing 75 = .ok (.ireturn, 1) := dk_172 (dk_at dksX21_doing_3 5 rfl rfl)
abbrev cX21_doingOf : ByteArray := prog_33_method_54_code
def yX21_doingOf : MethodName := ⟨RX21, "doingOf", "(II)I"⟩
def dkwX21_doingOf_1 : List UInt8 := [46, 167, 0, 4, 2, 172]
abbrev dktX21_doingOf_1 : List UInt8 := dkwX21_doingOf_1 ++ []
def dkwX21_doingOf_0 : List UInt8 := [42, 27, 182, 0, 254, 153, 0, 23, 28, 184, 1, 1, 153, 0, 16, 42, 180, 0, 22, 5, 27, 104, 28, 96]
abbrev dktX21_doingOf_0 : List UInt8 := dkwX21_doingOf_0 ++ dktX21_doingOf_1
theorem dksX21_doingOf_0 : cX21_doingOf.data.toList.drop 0 = dktX21_doingOf_0 := by decide +kernel
theorem dksX21_doingOf_1 : cX21_doingOf.data.toList.drop 24 = dktX21_doingOf_1 := dk_seg dksX21_doingOf_0 24 rfl rfl
theorem dX21_doingOf_0 : decode cX21_doingOf 0 = .ok (.aload_n 0, 1) := dk_42 (dk_at dksX21_doingOf_0 0 rfl rfl)
theorem dX21_doingOf_1 : decode cX21_doingOf 1 = .ok (.iload_n 1, 1) := dk_27 (dk_at dksX21_doingOf_0 1 rfl rfl)
theorem dX21_doingOf_2 : decode cX21_doingOf 2 = .ok (.invokevirtual 254, 3) := dk_182 0 254 (dk_at dksX21_doingOf_0 2 rfl rfl)
theorem dX21_doingOf_5 : decode cX21_doingOf 5 = .ok (.ifCond .eq 23, 3) := dk_153 0 23 (dk_at dksX21_doingOf_0 5 rfl rfl)
theorem dX21_doingOf_8 : decode cX21_doingOf 8 = .ok (.iload_n 2, 1) := dk_28 (dk_at dksX21_doingOf_0 8 rfl rfl)
theorem dX21_doingOf_9 : decode cX21_doingOf 9 = .ok (.invokestatic 257, 3) := dk_184 1 1 (dk_at dksX21_doingOf_0 9 rfl rfl)
theorem dX21_doingOf_12 : decode cX21_doingOf 12 = .ok (.ifCond .eq 16, 3) := dk_153 0 16 (dk_at dksX21_doingOf_0 12 rfl rfl)
theorem dX21_doingOf_15 : decode cX21_doingOf 15 = .ok (.aload_n 0, 1) := dk_42 (dk_at dksX21_doingOf_0 15 rfl rfl)
theorem dX21_doingOf_16 : decode cX21_doingOf 16 = .ok (.getfield 22, 3) := dk_180 0 22 (dk_at dksX21_doingOf_0 16 rfl rfl)
theorem dX21_doingOf_19 : decode cX21_doingOf 19 = .ok (.iconst 2, 1) := dk_5 (dk_at dksX21_doingOf_0 19 rfl rfl)
theorem dX21_doingOf_20 : decode cX21_doingOf 20 = .ok (.iload_n 1, 1) := dk_27 (dk_at dksX21_doingOf_0 20 rfl rfl)
theorem dX21_doingOf_21 : decode cX21_doingOf 21 = .ok (.imul, 1) := dk_104 (dk_at dksX21_doingOf_0 21 rfl rfl)
theorem dX21_doingOf_22 : decode cX21_doingOf 22 = .ok (.iload_n 2, 1) := dk_28 (dk_at dksX21_doingOf_0 22 rfl rfl)
theorem dX21_doingOf_23 : decode cX21_doingOf 23 = .ok (.iadd, 1) := dk_96 (dk_at dksX21_doingOf_0 23 rfl rfl)
theorem dX21_doingOf_24 : decode cX21_doingOf 24 = .ok (.iaload, 1) := dk_46 (dk_at dksX21_doingOf_1 0 rfl rfl)
theorem dX21_doingOf_25 : decode cX21_doingOf 25 = .ok (.goto 4, 3) := dk_167 0 4 (dk_at dksX21_doingOf_1 1 rfl rfl)
theorem dX21_doingOf_28 : decode cX21_doingOf 28 = .ok (.iconst (-1), 1) := dk_2 (dk_at dksX21_doingOf_1 4 rfl rfl)
theorem dX21_doingOf_29 : decode cX21_doingOf 29 = .ok (.ireturn, 1) := dk_172 (dk_at dksX21_doingOf_1 5 rfl rfl)
abbrev cX21_isDoing : ByteArray := prog_33_method_5_code
def yX21_isDoing : MethodName := ⟨RX21, "isDoing", "(I)Z"⟩
def dkwX21_isDoing_0 : List UInt8 := [27, 3, 42, 180, 0, 76, 4, 100, 184, 0, 69, 172]
abbrev dktX21_isDoing_0 : List UInt8 := dkwX21_isDoing_0 ++ []
theorem dksX21_isDoing_0 : cX21_isDoing.data.toList.drop 0 = dktX21_isDoing_0 := by decide +kernel
theorem dX21_isDoing_0 : decode cX21_isDoing 0 = .ok (.iload_n 1, 1) := dk_27 (dk_at dksX21_isDoing_0 0 rfl rfl)
theorem dX21_isDoing_1 : decode cX21_isDoing 1 = .ok (.iconst 0, 1) := dk_3 (dk_at dksX21_isDoing_0 1 rfl rfl)
theorem dX21_isDoing_2 : decode cX21_isDoing 2 = .ok (.aload_n 0, 1) := dk_42 (dk_at dksX21_isDoing_0 2 rfl rfl)
theorem dX21_isDoing_3 : decode cX21_isDoing 3 = .ok (.getfield 76, 3) := dk_180 0 76 (dk_at dksX21_isDoing_0 3 rfl rfl)
theorem dX21_isDoing_6 : decode cX21_isDoing 6 = .ok (.iconst 1, 1) := dk_4 (dk_at dksX21_isDoing_0 6 rfl rfl)
theorem dX21_isDoing_7 : decode cX21_isDoing 7 = .ok (.isub, 1) := dk_100 (dk_at dksX21_isDoing_0 7 rfl rfl)
theorem dX21_isDoing_8 : decode cX21_isDoing 8 = .ok (.invokestatic 69, 3) := dk_184 0 69 (dk_at dksX21_isDoing_0 8 rfl rfl)
theorem dX21_isDoing_11 : decode cX21_isDoing 11 = .ok (.ireturn, 1) := dk_172 (dk_at dksX21_isDoing_0 11 rfl rfl)
abbrev cX21_isSide : ByteArray := prog_33_method_6_code
def yX21_isSide : MethodName := ⟨RX21, "isSide", "(I)Z"⟩
def dkwX21_isSide_0 : List UInt8 := [26, 3, 4, 184, 0, 69, 172]
abbrev dktX21_isSide_0 : List UInt8 := dkwX21_isSide_0 ++ []
theorem dksX21_isSide_0 : cX21_isSide.data.toList.drop 0 = dktX21_isSide_0 := by decide +kernel
theorem dX21_isSide_0 : decode cX21_isSide 0 = .ok (.iload_n 0, 1) := dk_26 (dk_at dksX21_isSide_0 0 rfl rfl)
theorem dX21_isSide_1 : decode cX21_isSide 1 = .ok (.iconst 0, 1) := dk_3 (dk_at dksX21_isSide_0 1 rfl rfl)
theorem dX21_isSide_2 : decode cX21_isSide 2 = .ok (.iconst 1, 1) := dk_4 (dk_at dksX21_isSide_0 2 rfl rfl)
theorem dX21_isSide_3 : decode cX21_isSide 3 = .ok (.invokestatic 69, 3) := dk_184 0 69 (dk_at dksX21_isSide_0 3 rfl rfl)
theorem dX21_isSide_6 : decode cX21_isSide 6 = .ok (.ireturn, 1) := dk_172 (dk_at dksX21_isSide_0 6 rfl rfl)
abbrev cX21_does : ByteArray := prog_33_method_57_code
def yX21_does : MethodName := ⟨RX21, "does", "(II)I"⟩
def dkwX21_does_1 : List UInt8 := [42, 27, 28, 182, 1, 7, 29, 42, 28, 182, 0, 242, 100, 172]
abbrev dktX21_does_1 : List UInt8 := dkwX21_does_1 ++ []
def dkwX21_does_0 : List UInt8 := [42, 27, 182, 0, 254, 153, 0, 11, 42, 28, 182, 0, 216, 154, 0, 5, 2, 172, 42, 28, 182, 0, 242, 62]
abbrev dktX21_does_0 : List UInt8 := dkwX21_does_0 ++ dktX21_does_1
theorem dksX21_does_0 : cX21_does.data.toList.drop 0 = dktX21_does_0 := by decide +kernel
theorem dksX21_does_1 : cX21_does.data.toList.drop 24 = dktX21_does_1 := dk_seg dksX21_does_0 24 rfl rfl
theorem dX21_does_0 : decode cX21_does 0 = .ok (.aload_n 0, 1) := dk_42 (dk_at dksX21_does_0 0 rfl rfl)
theorem dX21_does_1 : decode cX21_does 1 = .ok (.iload_n 1, 1) := dk_27 (dk_at dksX21_does_0 1 rfl rfl)
theorem dX21_does_2 : decode cX21_does 2 = .ok (.invokevirtual 254, 3) := dk_182 0 254 (dk_at dksX21_does_0 2 rfl rfl)
theorem dX21_does_5 : decode cX21_does 5 = .ok (.ifCond .eq 11, 3) := dk_153 0 11 (dk_at dksX21_does_0 5 rfl rfl)
theorem dX21_does_8 : decode cX21_does 8 = .ok (.aload_n 0, 1) := dk_42 (dk_at dksX21_does_0 8 rfl rfl)
theorem dX21_does_9 : decode cX21_does 9 = .ok (.iload_n 2, 1) := dk_28 (dk_at dksX21_does_0 9 rfl rfl)
theorem dX21_does_10 : decode cX21_does 10 = .ok (.invokevirtual 216, 3) := dk_182 0 216 (dk_at dksX21_does_0 10 rfl rfl)
theorem dX21_does_13 : decode cX21_does 13 = .ok (.ifCond .ne 5, 3) := dk_154 0 5 (dk_at dksX21_does_0 13 rfl rfl)
theorem dX21_does_16 : decode cX21_does 16 = .ok (.iconst (-1), 1) := dk_2 (dk_at dksX21_does_0 16 rfl rfl)
theorem dX21_does_17 : decode cX21_does 17 = .ok (.ireturn, 1) := dk_172 (dk_at dksX21_does_0 17 rfl rfl)
theorem dX21_does_18 : decode cX21_does 18 = .ok (.aload_n 0, 1) := dk_42 (dk_at dksX21_does_0 18 rfl rfl)
theorem dX21_does_19 : decode cX21_does 19 = .ok (.iload_n 2, 1) := dk_28 (dk_at dksX21_does_0 19 rfl rfl)
theorem dX21_does_20 : decode cX21_does 20 = .ok (.invokevirtual 242, 3) := dk_182 0 242 (dk_at dksX21_does_0 20 rfl rfl)
theorem dX21_does_23 : decode cX21_does 23 = .ok (.istore_n 3, 1) := dk_62 (dk_at dksX21_does_0 23 rfl rfl)
theorem dX21_does_24 : decode cX21_does 24 = .ok (.aload_n 0, 1) := dk_42 (dk_at dksX21_does_1 0 rfl rfl)
theorem dX21_does_25 : decode cX21_does 25 = .ok (.iload_n 1, 1) := dk_27 (dk_at dksX21_does_1 1 rfl rfl)
theorem dX21_does_26 : decode cX21_does 26 = .ok (.iload_n 2, 1) := dk_28 (dk_at dksX21_does_1 2 rfl rfl)
theorem dX21_does_27 : decode cX21_does 27 = .ok (.invokevirtual 263, 3) := dk_182 1 7 (dk_at dksX21_does_1 3 rfl rfl)
theorem dX21_does_30 : decode cX21_does 30 = .ok (.iload_n 3, 1) := dk_29 (dk_at dksX21_does_1 6 rfl rfl)
theorem dX21_does_31 : decode cX21_does 31 = .ok (.aload_n 0, 1) := dk_42 (dk_at dksX21_does_1 7 rfl rfl)
theorem dX21_does_32 : decode cX21_does 32 = .ok (.iload_n 2, 1) := dk_28 (dk_at dksX21_does_1 8 rfl rfl)
theorem dX21_does_33 : decode cX21_does 33 = .ok (.invokevirtual 242, 3) := dk_182 0 242 (dk_at dksX21_does_1 9 rfl rfl)
theorem dX21_does_36 : decode cX21_does 36 = .ok (.isub, 1) := dk_100 (dk_at dksX21_does_1 12 rfl rfl)
theorem dX21_does_37 : decode cX21_does 37 = .ok (.ireturn, 1) := dk_172 (dk_at dksX21_does_1 13 rfl rfl)
abbrev cX21_isDone : ByteArray := prog_33_method_56_code
def yX21_isDone : MethodName := ⟨RX21, "isDone", "(II)V"⟩
def dkwX21_isDone_4 : List UInt8 := [29, 6, 160, 0, 17, 42, 28, 8, 3, 182, 0, 169, 42, 28, 5, 3, 182, 0, 169, 177]
abbrev dktX21_isDone_4 : List UInt8 := dkwX21_isDone_4 ++ []
def dkwX21_isDone_3 : List UInt8 := [28, 16, 6, 182, 1, 4, 29, 8, 160, 0, 16, 42, 28, 8, 182, 1, 4, 42, 28, 16, 6, 182, 1, 4]
abbrev dktX21_isDone_3 : List UInt8 := dkwX21_isDone_3 ++ dktX21_isDone_4
def dkwX21_isDone_2 : List UInt8 := [182, 1, 4, 29, 7, 160, 0, 11, 42, 28, 16, 7, 3, 182, 0, 169, 177, 42, 28, 8, 182, 1, 4, 42]
abbrev dktX21_isDone_2 : List UInt8 := dkwX21_isDone_2 ++ dktX21_isDone_3
def dkwX21_isDone_1 : List UInt8 := [182, 0, 169, 42, 28, 16, 6, 3, 182, 0, 169, 42, 28, 16, 7, 182, 1, 4, 42, 28, 16, 8]
abbrev dktX21_isDone_1 : List UInt8 := dkwX21_isDone_1 ++ dktX21_isDone_2
def dkwX21_isDone_0 : List UInt8 := [42, 180, 0, 22, 5, 27, 104, 46, 62, 29, 4, 159, 0, 8, 29, 7, 160, 0, 46, 42, 28, 8, 3]
abbrev dktX21_isDone_0 : List UInt8 := dkwX21_isDone_0 ++ dktX21_isDone_1
theorem dksX21_isDone_0 : cX21_isDone.data.toList.drop 0 = dktX21_isDone_0 := by decide +kernel
theorem dksX21_isDone_1 : cX21_isDone.data.toList.drop 23 = dktX21_isDone_1 := dk_seg dksX21_isDone_0 23 rfl rfl
theorem dksX21_isDone_2 : cX21_isDone.data.toList.drop 45 = dktX21_isDone_2 := dk_seg dksX21_isDone_1 22 rfl rfl
theorem dksX21_isDone_3 : cX21_isDone.data.toList.drop 69 = dktX21_isDone_3 := dk_seg dksX21_isDone_2 24 rfl rfl
theorem dksX21_isDone_4 : cX21_isDone.data.toList.drop 93 = dktX21_isDone_4 := dk_seg dksX21_isDone_3 24 rfl rfl
theorem dX21_isDone_0 : decode cX21_isDone 0 = .ok (.aload_n 0, 1) := dk_42 (dk_at dksX21_isDone_0 0 rfl rfl)
theorem dX21_isDone_1 : decode cX21_isDone 1 = .ok (.getfield 22, 3) := dk_180 0 22 (dk_at dksX21_isDone_0 1 rfl rfl)
theorem dX21_isDone_4 : decode cX21_isDone 4 = .ok (.iconst 2, 1) := dk_5 (dk_at dksX21_isDone_0 4 rfl rfl)
theorem dX21_isDone_5 : decode cX21_isDone 5 = .ok (.iload_n 1, 1) := dk_27 (dk_at dksX21_isDone_0 5 rfl rfl)
theorem dX21_isDone_6 : decode cX21_isDone 6 = .ok (.imul, 1) := dk_104 (dk_at dksX21_isDone_0 6 rfl rfl)
theorem dX21_isDone_7 : decode cX21_isDone 7 = .ok (.iaload, 1) := dk_46 (dk_at dksX21_isDone_0 7 rfl rfl)
theorem dX21_isDone_8 : decode cX21_isDone 8 = .ok (.istore_n 3, 1) := dk_62 (dk_at dksX21_isDone_0 8 rfl rfl)
theorem dX21_isDone_9 : decode cX21_isDone 9 = .ok (.iload_n 3, 1) := dk_29 (dk_at dksX21_isDone_0 9 rfl rfl)
theorem dX21_isDone_10 : decode cX21_isDone 10 = .ok (.iconst 1, 1) := dk_4 (dk_at dksX21_isDone_0 10 rfl rfl)
theorem dX21_isDone_11 : decode cX21_isDone 11 = .ok (.if_icmp .eq 8, 3) := dk_159 0 8 (dk_at dksX21_isDone_0 11 rfl rfl)
theorem dX21_isDone_14 : decode cX21_isDone 14 = .ok (.iload_n 3, 1) := dk_29 (dk_at dksX21_isDone_0 14 rfl rfl)
theorem dX21_isDone_15 : decode cX21_isDone 15 = .ok (.iconst 4, 1) := dk_7 (dk_at dksX21_isDone_0 15 rfl rfl)
theorem dX21_isDone_16 : decode cX21_isDone 16 = .ok (.if_icmp .ne 46, 3) := dk_160 0 46 (dk_at dksX21_isDone_0 16 rfl rfl)
theorem dX21_isDone_19 : decode cX21_isDone 19 = .ok (.aload_n 0, 1) := dk_42 (dk_at dksX21_isDone_0 19 rfl rfl)
theorem dX21_isDone_20 : decode cX21_isDone 20 = .ok (.iload_n 2, 1) := dk_28 (dk_at dksX21_isDone_0 20 rfl rfl)
theorem dX21_isDone_21 : decode cX21_isDone 21 = .ok (.iconst 5, 1) := dk_8 (dk_at dksX21_isDone_0 21 rfl rfl)
theorem dX21_isDone_22 : decode cX21_isDone 22 = .ok (.iconst 0, 1) := dk_3 (dk_at dksX21_isDone_0 22 rfl rfl)
theorem dX21_isDone_23 : decode cX21_isDone 23 = .ok (.invokevirtual 169, 3) := dk_182 0 169 (dk_at dksX21_isDone_1 0 rfl rfl)
theorem dX21_isDone_26 : decode cX21_isDone 26 = .ok (.aload_n 0, 1) := dk_42 (dk_at dksX21_isDone_1 3 rfl rfl)
theorem dX21_isDone_27 : decode cX21_isDone 27 = .ok (.iload_n 2, 1) := dk_28 (dk_at dksX21_isDone_1 4 rfl rfl)
theorem dX21_isDone_28 : decode cX21_isDone 28 = .ok (.bipush 6, 2) := dk_16 6 (dk_at dksX21_isDone_1 5 rfl rfl)
theorem dX21_isDone_30 : decode cX21_isDone 30 = .ok (.iconst 0, 1) := dk_3 (dk_at dksX21_isDone_1 7 rfl rfl)
theorem dX21_isDone_31 : decode cX21_isDone 31 = .ok (.invokevirtual 169, 3) := dk_182 0 169 (dk_at dksX21_isDone_1 8 rfl rfl)
theorem dX21_isDone_34 : decode cX21_isDone 34 = .ok (.aload_n 0, 1) := dk_42 (dk_at dksX21_isDone_1 11 rfl rfl)
theorem dX21_isDone_35 : decode cX21_isDone 35 = .ok (.iload_n 2, 1) := dk_28 (dk_at dksX21_isDone_1 12 rfl rfl)
theorem dX21_isDone_36 : decode cX21_isDone 36 = .ok (.bipush 7, 2) := dk_16 7 (dk_at dksX21_isDone_1 13 rfl rfl)
theorem dX21_isDone_38 : decode cX21_isDone 38 = .ok (.invokevirtual 260, 3) := dk_182 1 4 (dk_at dksX21_isDone_1 15 rfl rfl)
theorem dX21_isDone_41 : decode cX21_isDone 41 = .ok (.aload_n 0, 1) := dk_42 (dk_at dksX21_isDone_1 18 rfl rfl)
theorem dX21_isDone_42 : decode cX21_isDone 42 = .ok (.iload_n 2, 1) := dk_28 (dk_at dksX21_isDone_1 19 rfl rfl)
theorem dX21_isDone_43 : decode cX21_isDone 43 = .ok (.bipush 8, 2) := dk_16 8 (dk_at dksX21_isDone_1 20 rfl rfl)
theorem dX21_isDone_45 : decode cX21_isDone 45 = .ok (.invokevirtual 260, 3) := dk_182 1 4 (dk_at dksX21_isDone_2 0 rfl rfl)
theorem dX21_isDone_48 : decode cX21_isDone 48 = .ok (.iload_n 3, 1) := dk_29 (dk_at dksX21_isDone_2 3 rfl rfl)
theorem dX21_isDone_49 : decode cX21_isDone 49 = .ok (.iconst 4, 1) := dk_7 (dk_at dksX21_isDone_2 4 rfl rfl)
theorem dX21_isDone_50 : decode cX21_isDone 50 = .ok (.if_icmp .ne 11, 3) := dk_160 0 11 (dk_at dksX21_isDone_2 5 rfl rfl)
theorem dX21_isDone_53 : decode cX21_isDone 53 = .ok (.aload_n 0, 1) := dk_42 (dk_at dksX21_isDone_2 8 rfl rfl)
theorem dX21_isDone_54 : decode cX21_isDone 54 = .ok (.iload_n 2, 1) := dk_28 (dk_at dksX21_isDone_2 9 rfl rfl)
theorem dX21_isDone_55 : decode cX21_isDone 55 = .ok (.bipush 7, 2) := dk_16 7 (dk_at dksX21_isDone_2 10 rfl rfl)
theorem dX21_isDone_57 : decode cX21_isDone 57 = .ok (.iconst 0, 1) := dk_3 (dk_at dksX21_isDone_2 12 rfl rfl)
theorem dX21_isDone_58 : decode cX21_isDone 58 = .ok (.invokevirtual 169, 3) := dk_182 0 169 (dk_at dksX21_isDone_2 13 rfl rfl)
theorem dX21_isDone_61 : decode cX21_isDone 61 = .ok (.return_, 1) := dk_177 (dk_at dksX21_isDone_2 16 rfl rfl)
theorem dX21_isDone_62 : decode cX21_isDone 62 = .ok (.aload_n 0, 1) := dk_42 (dk_at dksX21_isDone_2 17 rfl rfl)
theorem dX21_isDone_63 : decode cX21_isDone 63 = .ok (.iload_n 2, 1) := dk_28 (dk_at dksX21_isDone_2 18 rfl rfl)
theorem dX21_isDone_64 : decode cX21_isDone 64 = .ok (.iconst 5, 1) := dk_8 (dk_at dksX21_isDone_2 19 rfl rfl)
theorem dX21_isDone_65 : decode cX21_isDone 65 = .ok (.invokevirtual 260, 3) := dk_182 1 4 (dk_at dksX21_isDone_2 20 rfl rfl)
theorem dX21_isDone_68 : decode cX21_isDone 68 = .ok (.aload_n 0, 1) := dk_42 (dk_at dksX21_isDone_2 23 rfl rfl)
theorem dX21_isDone_69 : decode cX21_isDone 69 = .ok (.iload_n 2, 1) := dk_28 (dk_at dksX21_isDone_3 0 rfl rfl)
theorem dX21_isDone_70 : decode cX21_isDone 70 = .ok (.bipush 6, 2) := dk_16 6 (dk_at dksX21_isDone_3 1 rfl rfl)
theorem dX21_isDone_72 : decode cX21_isDone 72 = .ok (.invokevirtual 260, 3) := dk_182 1 4 (dk_at dksX21_isDone_3 3 rfl rfl)
theorem dX21_isDone_75 : decode cX21_isDone 75 = .ok (.iload_n 3, 1) := dk_29 (dk_at dksX21_isDone_3 6 rfl rfl)
theorem dX21_isDone_76 : decode cX21_isDone 76 = .ok (.iconst 5, 1) := dk_8 (dk_at dksX21_isDone_3 7 rfl rfl)
theorem dX21_isDone_77 : decode cX21_isDone 77 = .ok (.if_icmp .ne 16, 3) := dk_160 0 16 (dk_at dksX21_isDone_3 8 rfl rfl)
theorem dX21_isDone_80 : decode cX21_isDone 80 = .ok (.aload_n 0, 1) := dk_42 (dk_at dksX21_isDone_3 11 rfl rfl)
theorem dX21_isDone_81 : decode cX21_isDone 81 = .ok (.iload_n 2, 1) := dk_28 (dk_at dksX21_isDone_3 12 rfl rfl)
theorem dX21_isDone_82 : decode cX21_isDone 82 = .ok (.iconst 5, 1) := dk_8 (dk_at dksX21_isDone_3 13 rfl rfl)
theorem dX21_isDone_83 : decode cX21_isDone 83 = .ok (.invokevirtual 260, 3) := dk_182 1 4 (dk_at dksX21_isDone_3 14 rfl rfl)
theorem dX21_isDone_86 : decode cX21_isDone 86 = .ok (.aload_n 0, 1) := dk_42 (dk_at dksX21_isDone_3 17 rfl rfl)
theorem dX21_isDone_87 : decode cX21_isDone 87 = .ok (.iload_n 2, 1) := dk_28 (dk_at dksX21_isDone_3 18 rfl rfl)
theorem dX21_isDone_88 : decode cX21_isDone 88 = .ok (.bipush 6, 2) := dk_16 6 (dk_at dksX21_isDone_3 19 rfl rfl)
theorem dX21_isDone_90 : decode cX21_isDone 90 = .ok (.invokevirtual 260, 3) := dk_182 1 4 (dk_at dksX21_isDone_3 21 rfl rfl)
theorem dX21_isDone_93 : decode cX21_isDone 93 = .ok (.iload_n 3, 1) := dk_29 (dk_at dksX21_isDone_4 0 rfl rfl)
theorem dX21_isDone_94 : decode cX21_isDone 94 = .ok (.iconst 3, 1) := dk_6 (dk_at dksX21_isDone_4 1 rfl rfl)
theorem dX21_isDone_95 : decode cX21_isDone 95 = .ok (.if_icmp .ne 17, 3) := dk_160 0 17 (dk_at dksX21_isDone_4 2 rfl rfl)
theorem dX21_isDone_98 : decode cX21_isDone 98 = .ok (.aload_n 0, 1) := dk_42 (dk_at dksX21_isDone_4 5 rfl rfl)
theorem dX21_isDone_99 : decode cX21_isDone 99 = .ok (.iload_n 2, 1) := dk_28 (dk_at dksX21_isDone_4 6 rfl rfl)
theorem dX21_isDone_100 : decode cX21_isDone 100 = .ok (.iconst 5, 1) := dk_8 (dk_at dksX21_isDone_4 7 rfl rfl)
theorem dX21_isDone_101 : decode cX21_isDone 101 = .ok (.iconst 0, 1) := dk_3 (dk_at dksX21_isDone_4 8 rfl rfl)
theorem dX21_isDone_102 : decode cX21_isDone 102 = .ok (.invokevirtual 169, 3) := dk_182 0 169 (dk_at dksX21_isDone_4 9 rfl rfl)
theorem dX21_isDone_105 : decode cX21_isDone 105 = .ok (.aload_n 0, 1) := dk_42 (dk_at dksX21_isDone_4 12 rfl rfl)
theorem dX21_isDone_106 : decode cX21_isDone 106 = .ok (.iload_n 2, 1) := dk_28 (dk_at dksX21_isDone_4 13 rfl rfl)
theorem dX21_isDone_107 : decode cX21_isDone 107 = .ok (.iconst 2, 1) := dk_5 (dk_at dksX21_isDone_4 14 rfl rfl)
theorem dX21_isDone_108 : decode cX21_isDone 108 = .ok (.iconst 0, 1) := dk_3 (dk_at dksX21_isDone_4 15 rfl rfl)
theorem dX21_isDone_109 : decode cX21_isDone 109 = .ok (.invokevirtual 169, 3) := dk_182 0 169 (dk_at dksX21_isDone_4 16 rfl rfl)
theorem dX21_isDone_112 : decode cX21_isDone 112 = .ok (.return_, 1) := dk_177 (dk_at dksX21_isDone_4 19 rfl rfl)
