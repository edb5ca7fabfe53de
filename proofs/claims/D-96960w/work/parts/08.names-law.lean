/-! the law's own entry -/
set_option maxRecDepth 100000
abbrev cL_law : ByteArray := code
def dkwL_law_58 : List UInt8 := [182, 0, 183, 44, 182, 0, 186, 159, 0, 5, 3, 172, 132, 3, 5, 167, 250, 27, 4, 172]
abbrev dktL_law_58 : List UInt8 := dkwL_law_58 ++ []
def dkwL_law_57 : List UInt8 := [182, 0, 178, 159, 0, 31, 3, 172, 43, 182, 0, 179, 44, 182, 0, 182, 159, 0, 18, 3, 172, 43]
abbrev dktL_law_57 : List UInt8 := dkwL_law_57 ++ dktL_law_58
def dkwL_law_56 : List UInt8 := [182, 0, 174, 159, 0, 54, 3, 172, 43, 42, 29, 4, 96, 46, 182, 0, 175, 44, 42, 29, 4, 96, 46]
abbrev dktL_law_56 : List UInt8 := dkwL_law_56 ++ dktL_law_57
def dkwL_law_55 : List UInt8 := [46, 182, 0, 170, 159, 0, 77, 3, 172, 43, 42, 29, 4, 96, 46, 182, 0, 171, 44, 42, 29, 4, 96, 46]
abbrev dktL_law_55 : List UInt8 := dkwL_law_55 ++ dktL_law_56
def dkwL_law_54 : List UInt8 := [46, 42, 29, 6, 96, 46, 182, 0, 167, 44, 42, 29, 4, 96, 46, 42, 29, 5, 96, 46, 42, 29, 6, 96]
abbrev dktL_law_54 : List UInt8 := dkwL_law_54 ++ dktL_law_55
def dkwL_law_53 : List UInt8 := [46, 42, 29, 5, 96, 46, 182, 0, 166, 159, 0, 120, 3, 172, 43, 42, 29, 4, 96, 46, 42, 29, 5, 96]
abbrev dktL_law_53 : List UInt8 := dkwL_law_53 ++ dktL_law_54
def dkwL_law_52 : List UInt8 := [159, 0, 153, 3, 172, 43, 42, 29, 4, 96, 46, 42, 29, 5, 96, 46, 182, 0, 163, 44, 42, 29, 4, 96]
abbrev dktL_law_52 : List UInt8 := dkwL_law_52 ++ dktL_law_53
def dkwL_law_51 : List UInt8 := [182, 0, 159, 44, 42, 29, 4, 96, 46, 42, 29, 5, 96, 46, 42, 29, 6, 96, 46, 182, 0, 162]
abbrev dktL_law_51 : List UInt8 := dkwL_law_51 ++ dktL_law_52
def dkwL_law_50 : List UInt8 := [182, 0, 158, 159, 0, 196, 3, 172, 43, 42, 29, 4, 96, 46, 42, 29, 5, 96, 46, 42, 29, 6, 96, 46]
abbrev dktL_law_50 : List UInt8 := dkwL_law_50 ++ dktL_law_51
def dkwL_law_49 : List UInt8 := [42, 29, 6, 96, 46, 182, 0, 155, 44, 42, 29, 4, 96, 46, 42, 29, 5, 96, 46, 42, 29, 6, 96, 46]
abbrev dktL_law_49 : List UInt8 := dkwL_law_49 ++ dktL_law_50
def dkwL_law_48 : List UInt8 := [42, 29, 6, 96, 46, 182, 0, 154, 159, 0, 239, 3, 172, 43, 42, 29, 4, 96, 46, 42, 29, 5, 96, 46]
abbrev dktL_law_48 : List UInt8 := dkwL_law_48 ++ dktL_law_49
def dkwL_law_47 : List UInt8 := [42, 29, 5, 96, 46, 42, 29, 6, 96, 46, 182, 0, 151, 44, 42, 29, 4, 96, 46, 42, 29, 5, 96, 46]
abbrev dktL_law_47 : List UInt8 := dkwL_law_47 ++ dktL_law_48
def dkwL_law_46 : List UInt8 := [42, 29, 5, 96, 46, 42, 29, 6, 96, 46, 182, 0, 150, 159, 1, 26, 3, 172, 43, 42, 29, 4, 96, 46]
abbrev dktL_law_46 : List UInt8 := dkwL_law_46 ++ dktL_law_47
def dkwL_law_45 : List UInt8 := [42, 29, 4, 96, 46, 42, 29, 5, 96, 46, 42, 29, 6, 96, 46, 182, 0, 147, 44, 42, 29, 4, 96, 46]
abbrev dktL_law_45 : List UInt8 := dkwL_law_45 ++ dktL_law_46
def dkwL_law_44 : List UInt8 := [42, 29, 5, 96, 46, 42, 29, 6, 96, 46, 42, 29, 7, 96, 46, 182, 0, 146, 159, 1, 69, 3, 172, 43]
abbrev dktL_law_44 : List UInt8 := dkwL_law_44 ++ dktL_law_45
def dkwL_law_43 : List UInt8 := [42, 29, 5, 96, 46, 42, 29, 6, 96, 46, 42, 29, 7, 96, 46, 182, 0, 143, 44, 42, 29, 4, 96, 46]
abbrev dktL_law_43 : List UInt8 := dkwL_law_43 ++ dktL_law_44
def dkwL_law_42 : List UInt8 := [159, 1, 135, 3, 172, 43, 182, 0, 139, 44, 182, 0, 142, 159, 1, 122, 3, 172, 43, 42, 29, 4, 96, 46]
abbrev dktL_law_42 : List UInt8 := dkwL_law_42 ++ dktL_law_43
def dkwL_law_41 : List UInt8 := [96, 46, 182, 0, 135, 44, 42, 29, 4, 96, 46, 42, 29, 5, 96, 46, 42, 29, 6, 96, 46, 182, 0, 138]
abbrev dktL_law_41 : List UInt8 := dkwL_law_41 ++ dktL_law_42
def dkwL_law_40 : List UInt8 := [96, 46, 182, 0, 134, 159, 1, 178, 3, 172, 43, 42, 29, 4, 96, 46, 42, 29, 5, 96, 46, 42, 29, 6]
abbrev dktL_law_40 : List UInt8 := dkwL_law_40 ++ dktL_law_41
def dkwL_law_39 : List UInt8 := [172, 43, 42, 29, 4, 96, 46, 42, 29, 5, 96, 46, 182, 0, 131, 44, 42, 29, 4, 96, 46, 42, 29, 5]
abbrev dktL_law_39 : List UInt8 := dkwL_law_39 ++ dktL_law_40
def dkwL_law_38 : List UInt8 := [182, 0, 123, 44, 182, 0, 126, 159, 1, 224, 3, 172, 43, 182, 0, 127, 44, 182, 0, 130, 159, 1, 211, 3]
abbrev dktL_law_38 : List UInt8 := dkwL_law_38 ++ dktL_law_39
def dkwL_law_37 : List UInt8 := [43, 42, 29, 4, 96, 46, 182, 0, 119, 44, 42, 29, 4, 96, 46, 182, 0, 122, 159, 1, 237, 3, 172, 43]
abbrev dktL_law_37 : List UInt8 := dkwL_law_37 ++ dktL_law_38
def dkwL_law_36 : List UInt8 := [96, 46, 182, 0, 114, 148, 153, 2, 17, 3, 172, 43, 182, 0, 115, 44, 182, 0, 118, 159, 2, 4, 3, 172]
abbrev dktL_law_36 : List UInt8 := dkwL_law_36 ++ dktL_law_37
def dkwL_law_35 : List UInt8 := [172, 43, 42, 29, 4, 96, 46, 42, 29, 5, 96, 46, 182, 0, 110, 44, 42, 29, 4, 96, 46, 42, 29, 5]
abbrev dktL_law_35 : List UInt8 := dkwL_law_35 ++ dktL_law_36
def dkwL_law_34 : List UInt8 := [167, 0, 4, 3, 182, 0, 105, 159, 2, 64, 3, 172, 43, 182, 0, 106, 44, 182, 0, 109, 159, 2, 51, 3]
abbrev dktL_law_34 : List UInt8 := dkwL_law_34 ++ dktL_law_35
def dkwL_law_33 : List UInt8 := [167, 0, 4, 3, 182, 0, 102, 44, 42, 29, 4, 96, 46, 42, 29, 5, 96, 46, 153, 0, 7, 4]
abbrev dktL_law_33 : List UInt8 := dkwL_law_33 ++ dktL_law_34
def dkwL_law_32 : List UInt8 := [182, 0, 101, 159, 2, 113, 3, 172, 43, 42, 29, 4, 96, 46, 42, 29, 5, 96, 46, 153, 0, 7, 4]
abbrev dktL_law_32 : List UInt8 := dkwL_law_32 ++ dktL_law_33
def dkwL_law_31 : List UInt8 := [29, 4, 96, 46, 42, 29, 5, 96, 46, 182, 0, 98, 44, 42, 29, 4, 96, 46, 42, 29, 5, 96, 46]
abbrev dktL_law_31 : List UInt8 := dkwL_law_31 ++ dktL_law_32
def dkwL_law_30 : List UInt8 := [182, 0, 94, 44, 42, 29, 4, 96, 46, 42, 29, 5, 96, 46, 182, 0, 97, 159, 2, 146, 3, 172, 43, 42]
abbrev dktL_law_30 : List UInt8 := dkwL_law_30 ++ dktL_law_31
def dkwL_law_29 : List UInt8 := [5, 96, 46, 182, 0, 93, 159, 2, 179, 3, 172, 43, 42, 29, 4, 96, 46, 42, 29, 5, 96, 46]
abbrev dktL_law_29 : List UInt8 := dkwL_law_29 ++ dktL_law_30
def dkwL_law_28 : List UInt8 := [3, 172, 43, 42, 29, 4, 96, 46, 42, 29, 5, 96, 46, 182, 0, 90, 44, 42, 29, 4, 96, 46, 42, 29]
abbrev dktL_law_28 : List UInt8 := dkwL_law_28 ++ dktL_law_29
def dkwL_law_27 : List UInt8 := [29, 5, 96, 46, 182, 0, 86, 44, 42, 29, 4, 96, 46, 42, 29, 5, 96, 46, 182, 0, 89, 159, 2, 212]
abbrev dktL_law_27 : List UInt8 := dkwL_law_27 ++ dktL_law_28
def dkwL_law_26 : List UInt8 := [29, 4, 96, 46, 42, 29, 5, 96, 46, 182, 0, 85, 159, 2, 245, 3, 172, 43, 42, 29, 4, 96, 46, 42]
abbrev dktL_law_26 : List UInt8 := dkwL_law_26 ++ dktL_law_27
def dkwL_law_25 : List UInt8 := [182, 0, 81, 159, 3, 22, 3, 172, 43, 42, 29, 4, 96, 46, 42, 29, 5, 96, 46, 182, 0, 82, 44, 42]
abbrev dktL_law_25 : List UInt8 := dkwL_law_25 ++ dktL_law_26
def dkwL_law_24 : List UInt8 := [182, 0, 74, 44, 42, 29, 4, 96, 46, 182, 0, 77, 159, 3, 35, 3, 172, 43, 182, 0, 78, 44]
abbrev dktL_law_24 : List UInt8 := dkwL_law_24 ++ dktL_law_25
def dkwL_law_23 : List UInt8 := [182, 0, 69, 44, 42, 29, 4, 96, 46, 182, 0, 73, 159, 3, 58, 3, 172, 43, 42, 29, 4, 96, 46]
abbrev dktL_law_23 : List UInt8 := dkwL_law_23 ++ dktL_law_24
def dkwL_law_22 : List UInt8 := [29, 4, 96, 46, 42, 29, 5, 96, 46, 182, 0, 68, 159, 3, 81, 3, 172, 43, 42, 29, 4, 96, 46]
abbrev dktL_law_22 : List UInt8 := dkwL_law_22 ++ dktL_law_23
def dkwL_law_21 : List UInt8 := [182, 0, 64, 159, 3, 114, 3, 172, 43, 42, 29, 4, 96, 46, 42, 29, 5, 96, 46, 182, 0, 65, 44, 42]
abbrev dktL_law_21 : List UInt8 := dkwL_law_21 ++ dktL_law_22
def dkwL_law_20 : List UInt8 := [29, 4, 96, 46, 42, 29, 5, 96, 46, 182, 0, 61, 44, 42, 29, 4, 96, 46, 42, 29, 5, 96, 46]
abbrev dktL_law_20 : List UInt8 := dkwL_law_20 ++ dktL_law_21
def dkwL_law_19 : List UInt8 := [182, 0, 57, 44, 42, 29, 4, 96, 46, 42, 29, 5, 96, 46, 182, 0, 60, 159, 3, 147, 3, 172, 43, 42]
abbrev dktL_law_19 : List UInt8 := dkwL_law_19 ++ dktL_law_20
def dkwL_law_18 : List UInt8 := [167, 0, 4, 3, 182, 0, 56, 159, 3, 180, 3, 172, 43, 42, 29, 4, 96, 46, 42, 29, 5, 96, 46]
abbrev dktL_law_18 : List UInt8 := dkwL_law_18 ++ dktL_law_19
def dkwL_law_17 : List UInt8 := [4, 167, 0, 4, 3, 182, 0, 53, 44, 42, 29, 4, 96, 46, 42, 29, 5, 96, 46, 153, 0, 7, 4]
abbrev dktL_law_17 : List UInt8 := dkwL_law_17 ++ dktL_law_18
def dkwL_law_16 : List UInt8 := [96, 46, 182, 0, 52, 159, 3, 229, 3, 172, 43, 42, 29, 4, 96, 46, 42, 29, 5, 96, 46, 153, 0, 7]
abbrev dktL_law_16 : List UInt8 := dkwL_law_16 ++ dktL_law_17
def dkwL_law_15 : List UInt8 := [172, 43, 42, 29, 4, 96, 46, 42, 29, 5, 96, 46, 182, 0, 49, 44, 42, 29, 4, 96, 46, 42, 29, 5]
abbrev dktL_law_15 : List UInt8 := dkwL_law_15 ++ dktL_law_16
def dkwL_law_14 : List UInt8 := [5, 96, 46, 182, 0, 45, 44, 42, 29, 4, 96, 46, 42, 29, 5, 96, 46, 182, 0, 48, 159, 4, 6, 3]
abbrev dktL_law_14 : List UInt8 := dkwL_law_14 ++ dktL_law_15
def dkwL_law_13 : List UInt8 := [153, 0, 7, 4, 167, 0, 4, 3, 182, 0, 44, 159, 4, 39, 3, 172, 43, 42, 29, 4, 96, 46, 42, 29]
abbrev dktL_law_13 : List UInt8 := dkwL_law_13 ++ dktL_law_14
def dkwL_law_12 : List UInt8 := [46, 153, 0, 7, 4, 167, 0, 4, 3, 182, 0, 40, 44, 42, 29, 4, 96, 46, 42, 29, 5, 96, 46]
abbrev dktL_law_12 : List UInt8 := dkwL_law_12 ++ dktL_law_13
def dkwL_law_11 : List UInt8 := [46, 42, 29, 6, 96, 46, 182, 0, 39, 159, 4, 88, 3, 172, 43, 42, 29, 4, 96, 46, 42, 29, 5, 96]
abbrev dktL_law_11 : List UInt8 := dkwL_law_11 ++ dktL_law_12
def dkwL_law_10 : List UInt8 := [46, 42, 29, 5, 96, 46, 42, 29, 6, 96, 46, 182, 0, 35, 44, 42, 29, 4, 96, 46, 42, 29, 5, 96]
abbrev dktL_law_10 : List UInt8 := dkwL_law_10 ++ dktL_law_11
def dkwL_law_9 : List UInt8 := [44, 42, 29, 4, 96, 46, 42, 29, 5, 96, 46, 182, 0, 34, 159, 4, 131, 3, 172, 43, 42, 29, 4, 96]
abbrev dktL_law_9 : List UInt8 := dkwL_law_9 ++ dktL_law_10
def dkwL_law_8 : List UInt8 := [96, 46, 182, 0, 29, 159, 4, 164, 3, 172, 43, 42, 29, 4, 96, 46, 42, 29, 5, 96, 46, 182, 0, 30]
abbrev dktL_law_8 : List UInt8 := dkwL_law_8 ++ dktL_law_9
def dkwL_law_7 : List UInt8 := [96, 46, 182, 0, 25, 44, 42, 29, 4, 96, 46, 42, 29, 5, 96, 46, 42, 29, 6, 96, 46, 42, 29, 7]
abbrev dktL_law_7 : List UInt8 := dkwL_law_7 ++ dktL_law_8
def dkwL_law_6 : List UInt8 := [159, 4, 217, 3, 172, 43, 42, 29, 4, 96, 46, 42, 29, 5, 96, 46, 42, 29, 6, 96, 46, 42, 29, 7]
abbrev dktL_law_6 : List UInt8 := dkwL_law_6 ++ dktL_law_7
def dkwL_law_5 : List UInt8 := [127, 129, 42, 29, 6, 96, 46, 182, 0, 19, 159, 4, 230, 3, 172, 43, 182, 0, 20, 44, 182, 0, 24]
abbrev dktL_law_5 : List UInt8 := dkwL_law_5 ++ dktL_law_6
def dkwL_law_4 : List UInt8 := [96, 46, 182, 0, 15, 44, 42, 29, 4, 96, 46, 133, 16, 32, 121, 42, 29, 5, 96, 46, 133, 20, 0, 13]
abbrev dktL_law_4 : List UInt8 := dkwL_law_4 ++ dktL_law_5
def dkwL_law_3 : List UInt8 := [43, 42, 29, 4, 96, 46, 133, 16, 32, 121, 42, 29, 5, 96, 46, 133, 20, 0, 13, 127, 129, 42, 29, 6]
abbrev dktL_law_3 : List UInt8 := dkwL_law_3 ++ dktL_law_4
def dkwL_law_2 : List UInt8 := [170, 0, 0, 0, 0, 0, 5, 212, 0, 0, 0, 0, 0, 0, 0, 40, 0, 0, 0, 180, 0, 0, 0, 243, 0, 0, 1, 0, 0, 0, 1, 53, 0, 0, 1, 86, 0, 0, 1, 129, 0, 0, 1, 178, 0, 0, 1, 211, 0, 0, 1, 244, 0, 0, 2, 37, 0, 0, 2, 70, 0, 0, 2, 103, 0, 0, 2, 136, 0, 0, 2, 159, 0, 0, 2, 182, 0, 0, 2, 195, 0, 0, 2, 228, 0, 0, 3, 5, 0, 0, 3, 38, 0, 0, 3, 71, 0, 0, 3, 104, 0, 0, 3, 153, 0, 0, 3, 166, 0, 0, 3, 200, 0, 0, 3, 213, 0, 0, 3, 236, 0, 0, 3, 249, 0, 0, 4, 6, 0, 0, 4, 39, 0, 0, 4, 82, 0, 0, 4, 95, 0, 0, 4, 148, 0, 0, 4, 191, 0, 0, 4, 234, 0, 0, 5, 21, 0, 0, 5, 64, 0, 0, 5, 97, 0, 0, 5, 140, 0, 0, 5, 163, 0, 0, 5, 186, 0, 0, 5, 199]
abbrev dktL_law_2 : List UInt8 := dkwL_law_2 ++ dktL_law_3
def dkwL_law_1 : List UInt8 := [163, 5, 227, 42, 29, 46, 16, 63, 126]
abbrev dktL_law_1 : List UInt8 := dkwL_law_1 ++ dktL_law_2
def dkwL_law_0 : List UInt8 := [187, 0, 7, 89, 183, 0, 9, 76, 187, 0, 10, 89, 183, 0, 12, 77, 3, 62, 29, 42, 190, 8, 100]
abbrev dktL_law_0 : List UInt8 := dkwL_law_0 ++ dktL_law_1
theorem dksL_law_0 : cL_law.data.toList.drop 0 = dktL_law_0 := by decide +kernel
theorem dksL_law_1 : cL_law.data.toList.drop 23 = dktL_law_1 := dk_seg dksL_law_0 23 rfl rfl
theorem dksL_law_2 : cL_law.data.toList.drop 32 = dktL_law_2 := dk_seg dksL_law_1 9 rfl rfl
theorem dksL_law_3 : cL_law.data.toList.drop 212 = dktL_law_3 := dk_seg dksL_law_2 180 rfl rfl
theorem dksL_law_4 : cL_law.data.toList.drop 236 = dktL_law_4 := dk_seg dksL_law_3 24 rfl rfl
theorem dksL_law_5 : cL_law.data.toList.drop 260 = dktL_law_5 := dk_seg dksL_law_4 24 rfl rfl
theorem dksL_law_6 : cL_law.data.toList.drop 283 = dktL_law_6 := dk_seg dksL_law_5 23 rfl rfl
theorem dksL_law_7 : cL_law.data.toList.drop 307 = dktL_law_7 := dk_seg dksL_law_6 24 rfl rfl
theorem dksL_law_8 : cL_law.data.toList.drop 331 = dktL_law_8 := dk_seg dksL_law_7 24 rfl rfl
theorem dksL_law_9 : cL_law.data.toList.drop 355 = dktL_law_9 := dk_seg dksL_law_8 24 rfl rfl
theorem dksL_law_10 : cL_law.data.toList.drop 379 = dktL_law_10 := dk_seg dksL_law_9 24 rfl rfl
theorem dksL_law_11 : cL_law.data.toList.drop 403 = dktL_law_11 := dk_seg dksL_law_10 24 rfl rfl
theorem dksL_law_12 : cL_law.data.toList.drop 427 = dktL_law_12 := dk_seg dksL_law_11 24 rfl rfl
theorem dksL_law_13 : cL_law.data.toList.drop 450 = dktL_law_13 := dk_seg dksL_law_12 23 rfl rfl
theorem dksL_law_14 : cL_law.data.toList.drop 474 = dktL_law_14 := dk_seg dksL_law_13 24 rfl rfl
theorem dksL_law_15 : cL_law.data.toList.drop 498 = dktL_law_15 := dk_seg dksL_law_14 24 rfl rfl
theorem dksL_law_16 : cL_law.data.toList.drop 522 = dktL_law_16 := dk_seg dksL_law_15 24 rfl rfl
theorem dksL_law_17 : cL_law.data.toList.drop 546 = dktL_law_17 := dk_seg dksL_law_16 24 rfl rfl
theorem dksL_law_18 : cL_law.data.toList.drop 569 = dktL_law_18 := dk_seg dksL_law_17 23 rfl rfl
theorem dksL_law_19 : cL_law.data.toList.drop 592 = dktL_law_19 := dk_seg dksL_law_18 23 rfl rfl
theorem dksL_law_20 : cL_law.data.toList.drop 616 = dktL_law_20 := dk_seg dksL_law_19 24 rfl rfl
theorem dksL_law_21 : cL_law.data.toList.drop 639 = dktL_law_21 := dk_seg dksL_law_20 23 rfl rfl
theorem dksL_law_22 : cL_law.data.toList.drop 663 = dktL_law_22 := dk_seg dksL_law_21 24 rfl rfl
theorem dksL_law_23 : cL_law.data.toList.drop 686 = dktL_law_23 := dk_seg dksL_law_22 23 rfl rfl
theorem dksL_law_24 : cL_law.data.toList.drop 709 = dktL_law_24 := dk_seg dksL_law_23 23 rfl rfl
theorem dksL_law_25 : cL_law.data.toList.drop 731 = dktL_law_25 := dk_seg dksL_law_24 22 rfl rfl
theorem dksL_law_26 : cL_law.data.toList.drop 755 = dktL_law_26 := dk_seg dksL_law_25 24 rfl rfl
theorem dksL_law_27 : cL_law.data.toList.drop 779 = dktL_law_27 := dk_seg dksL_law_26 24 rfl rfl
theorem dksL_law_28 : cL_law.data.toList.drop 803 = dktL_law_28 := dk_seg dksL_law_27 24 rfl rfl
theorem dksL_law_29 : cL_law.data.toList.drop 827 = dktL_law_29 := dk_seg dksL_law_28 24 rfl rfl
theorem dksL_law_30 : cL_law.data.toList.drop 849 = dktL_law_30 := dk_seg dksL_law_29 22 rfl rfl
theorem dksL_law_31 : cL_law.data.toList.drop 873 = dktL_law_31 := dk_seg dksL_law_30 24 rfl rfl
theorem dksL_law_32 : cL_law.data.toList.drop 896 = dktL_law_32 := dk_seg dksL_law_31 23 rfl rfl
theorem dksL_law_33 : cL_law.data.toList.drop 919 = dktL_law_33 := dk_seg dksL_law_32 23 rfl rfl
theorem dksL_law_34 : cL_law.data.toList.drop 941 = dktL_law_34 := dk_seg dksL_law_33 22 rfl rfl
theorem dksL_law_35 : cL_law.data.toList.drop 965 = dktL_law_35 := dk_seg dksL_law_34 24 rfl rfl
theorem dksL_law_36 : cL_law.data.toList.drop 989 = dktL_law_36 := dk_seg dksL_law_35 24 rfl rfl
theorem dksL_law_37 : cL_law.data.toList.drop 1013 = dktL_law_37 := dk_seg dksL_law_36 24 rfl rfl
theorem dksL_law_38 : cL_law.data.toList.drop 1037 = dktL_law_38 := dk_seg dksL_law_37 24 rfl rfl
theorem dksL_law_39 : cL_law.data.toList.drop 1061 = dktL_law_39 := dk_seg dksL_law_38 24 rfl rfl
theorem dksL_law_40 : cL_law.data.toList.drop 1085 = dktL_law_40 := dk_seg dksL_law_39 24 rfl rfl
theorem dksL_law_41 : cL_law.data.toList.drop 1109 = dktL_law_41 := dk_seg dksL_law_40 24 rfl rfl
theorem dksL_law_42 : cL_law.data.toList.drop 1133 = dktL_law_42 := dk_seg dksL_law_41 24 rfl rfl
theorem dksL_law_43 : cL_law.data.toList.drop 1157 = dktL_law_43 := dk_seg dksL_law_42 24 rfl rfl
theorem dksL_law_44 : cL_law.data.toList.drop 1181 = dktL_law_44 := dk_seg dksL_law_43 24 rfl rfl
theorem dksL_law_45 : cL_law.data.toList.drop 1205 = dktL_law_45 := dk_seg dksL_law_44 24 rfl rfl
theorem dksL_law_46 : cL_law.data.toList.drop 1229 = dktL_law_46 := dk_seg dksL_law_45 24 rfl rfl
theorem dksL_law_47 : cL_law.data.toList.drop 1253 = dktL_law_47 := dk_seg dksL_law_46 24 rfl rfl
theorem dksL_law_48 : cL_law.data.toList.drop 1277 = dktL_law_48 := dk_seg dksL_law_47 24 rfl rfl
theorem dksL_law_49 : cL_law.data.toList.drop 1301 = dktL_law_49 := dk_seg dksL_law_48 24 rfl rfl
theorem dksL_law_50 : cL_law.data.toList.drop 1325 = dktL_law_50 := dk_seg dksL_law_49 24 rfl rfl
theorem dksL_law_51 : cL_law.data.toList.drop 1349 = dktL_law_51 := dk_seg dksL_law_50 24 rfl rfl
theorem dksL_law_52 : cL_law.data.toList.drop 1371 = dktL_law_52 := dk_seg dksL_law_51 22 rfl rfl
theorem dksL_law_53 : cL_law.data.toList.drop 1395 = dktL_law_53 := dk_seg dksL_law_52 24 rfl rfl
theorem dksL_law_54 : cL_law.data.toList.drop 1419 = dktL_law_54 := dk_seg dksL_law_53 24 rfl rfl
theorem dksL_law_55 : cL_law.data.toList.drop 1443 = dktL_law_55 := dk_seg dksL_law_54 24 rfl rfl
theorem dksL_law_56 : cL_law.data.toList.drop 1467 = dktL_law_56 := dk_seg dksL_law_55 24 rfl rfl
theorem dksL_law_57 : cL_law.data.toList.drop 1490 = dktL_law_57 := dk_seg dksL_law_56 23 rfl rfl
theorem dksL_law_58 : cL_law.data.toList.drop 1512 = dktL_law_58 := dk_seg dksL_law_57 22 rfl rfl
theorem dL_law_0 : decode cL_law 0 = .ok (.new 7, 3) := dk_187 0 7 (dk_at dksL_law_0 0 rfl rfl)
theorem dL_law_3 : decode cL_law 3 = .ok (.dup, 1) := dk_89 (dk_at dksL_law_0 3 rfl rfl)
theorem dL_law_4 : decode cL_law 4 = .ok (.invokespecial 9, 3) := dk_183 0 9 (dk_at dksL_law_0 4 rfl rfl)
theorem dL_law_7 : decode cL_law 7 = .ok (.astore_n 1, 1) := dk_76 (dk_at dksL_law_0 7 rfl rfl)
theorem dL_law_8 : decode cL_law 8 = .ok (.new 10, 3) := dk_187 0 10 (dk_at dksL_law_0 8 rfl rfl)
theorem dL_law_11 : decode cL_law 11 = .ok (.dup, 1) := dk_89 (dk_at dksL_law_0 11 rfl rfl)
theorem dL_law_12 : decode cL_law 12 = .ok (.invokespecial 12, 3) := dk_183 0 12 (dk_at dksL_law_0 12 rfl rfl)
theorem dL_law_15 : decode cL_law 15 = .ok (.astore_n 2, 1) := dk_77 (dk_at dksL_law_0 15 rfl rfl)
theorem dL_law_16 : decode cL_law 16 = .ok (.iconst 0, 1) := dk_3 (dk_at dksL_law_0 16 rfl rfl)
theorem dL_law_17 : decode cL_law 17 = .ok (.istore_n 3, 1) := dk_62 (dk_at dksL_law_0 17 rfl rfl)
theorem dL_law_18 : decode cL_law 18 = .ok (.iload_n 3, 1) := dk_29 (dk_at dksL_law_0 18 rfl rfl)
theorem dL_law_19 : decode cL_law 19 = .ok (.aload_n 0, 1) := dk_42 (dk_at dksL_law_0 19 rfl rfl)
theorem dL_law_20 : decode cL_law 20 = .ok (.arraylength, 1) := dk_190 (dk_at dksL_law_0 20 rfl rfl)
theorem dL_law_21 : decode cL_law 21 = .ok (.iconst 5, 1) := dk_8 (dk_at dksL_law_0 21 rfl rfl)
theorem dL_law_22 : decode cL_law 22 = .ok (.isub, 1) := dk_100 (dk_at dksL_law_0 22 rfl rfl)
theorem dL_law_23 : decode cL_law 23 = .ok (.if_icmp .gt 1507, 3) := dk_163 5 227 (dk_at dksL_law_1 0 rfl rfl)
theorem dL_law_26 : decode cL_law 26 = .ok (.aload_n 0, 1) := dk_42 (dk_at dksL_law_1 3 rfl rfl)
theorem dL_law_27 : decode cL_law 27 = .ok (.iload_n 3, 1) := dk_29 (dk_at dksL_law_1 4 rfl rfl)
theorem dL_law_28 : decode cL_law 28 = .ok (.iaload, 1) := dk_46 (dk_at dksL_law_1 5 rfl rfl)
theorem dL_law_29 : decode cL_law 29 = .ok (.bipush 63, 2) := dk_16 63 (dk_at dksL_law_1 6 rfl rfl)
theorem dL_law_31 : decode cL_law 31 = .ok (.iand, 1) := dk_126 (dk_at dksL_law_1 8 rfl rfl)
theorem dL_law_32 : decode cL_law 32 = .ok (.tableswitch 1492 0 40 #[180, 243, 256, 309, 342, 385, 434, 467, 500, 549, 582, 615, 648, 671, 694, 707, 740, 773, 806, 839, 872, 921, 934, 968, 981, 1004, 1017, 1030, 1063, 1106, 1119, 1172, 1215, 1258, 1301, 1344, 1377, 1420, 1443, 1466, 1479], 180) := by decide +kernel
theorem dL_law_212 : decode cL_law 212 = .ok (.aload_n 1, 1) := dk_43 (dk_at dksL_law_3 0 rfl rfl)
theorem dL_law_213 : decode cL_law 213 = .ok (.aload_n 0, 1) := dk_42 (dk_at dksL_law_3 1 rfl rfl)
theorem dL_law_214 : decode cL_law 214 = .ok (.iload_n 3, 1) := dk_29 (dk_at dksL_law_3 2 rfl rfl)
theorem dL_law_215 : decode cL_law 215 = .ok (.iconst 1, 1) := dk_4 (dk_at dksL_law_3 3 rfl rfl)
theorem dL_law_216 : decode cL_law 216 = .ok (.iadd, 1) := dk_96 (dk_at dksL_law_3 4 rfl rfl)
theorem dL_law_217 : decode cL_law 217 = .ok (.iaload, 1) := dk_46 (dk_at dksL_law_3 5 rfl rfl)
theorem dL_law_218 : decode cL_law 218 = .ok (.i2l, 1) := dk_133 (dk_at dksL_law_3 6 rfl rfl)
theorem dL_law_219 : decode cL_law 219 = .ok (.bipush 32, 2) := dk_16 32 (dk_at dksL_law_3 7 rfl rfl)
theorem dL_law_221 : decode cL_law 221 = .ok (.lshl, 1) := dk_121 (dk_at dksL_law_3 9 rfl rfl)
theorem dL_law_222 : decode cL_law 222 = .ok (.aload_n 0, 1) := dk_42 (dk_at dksL_law_3 10 rfl rfl)
theorem dL_law_223 : decode cL_law 223 = .ok (.iload_n 3, 1) := dk_29 (dk_at dksL_law_3 11 rfl rfl)
theorem dL_law_224 : decode cL_law 224 = .ok (.iconst 2, 1) := dk_5 (dk_at dksL_law_3 12 rfl rfl)
theorem dL_law_225 : decode cL_law 225 = .ok (.iadd, 1) := dk_96 (dk_at dksL_law_3 13 rfl rfl)
theorem dL_law_226 : decode cL_law 226 = .ok (.iaload, 1) := dk_46 (dk_at dksL_law_3 14 rfl rfl)
theorem dL_law_227 : decode cL_law 227 = .ok (.i2l, 1) := dk_133 (dk_at dksL_law_3 15 rfl rfl)
theorem dL_law_228 : decode cL_law 228 = .ok (.ldc2_w 13, 3) := dk_20 0 13 (dk_at dksL_law_3 16 rfl rfl)
theorem dL_law_231 : decode cL_law 231 = .ok (.land, 1) := dk_127 (dk_at dksL_law_3 19 rfl rfl)
theorem dL_law_232 : decode cL_law 232 = .ok (.lor, 1) := dk_129 (dk_at dksL_law_3 20 rfl rfl)
theorem dL_law_233 : decode cL_law 233 = .ok (.aload_n 0, 1) := dk_42 (dk_at dksL_law_3 21 rfl rfl)
theorem dL_law_234 : decode cL_law 234 = .ok (.iload_n 3, 1) := dk_29 (dk_at dksL_law_3 22 rfl rfl)
theorem dL_law_235 : decode cL_law 235 = .ok (.iconst 3, 1) := dk_6 (dk_at dksL_law_3 23 rfl rfl)
theorem dL_law_236 : decode cL_law 236 = .ok (.iadd, 1) := dk_96 (dk_at dksL_law_4 0 rfl rfl)
theorem dL_law_237 : decode cL_law 237 = .ok (.iaload, 1) := dk_46 (dk_at dksL_law_4 1 rfl rfl)
theorem dL_law_238 : decode cL_law 238 = .ok (.invokevirtual 15, 3) := dk_182 0 15 (dk_at dksL_law_4 2 rfl rfl)
theorem dL_law_241 : decode cL_law 241 = .ok (.aload_n 2, 1) := dk_44 (dk_at dksL_law_4 5 rfl rfl)
theorem dL_law_242 : decode cL_law 242 = .ok (.aload_n 0, 1) := dk_42 (dk_at dksL_law_4 6 rfl rfl)
theorem dL_law_243 : decode cL_law 243 = .ok (.iload_n 3, 1) := dk_29 (dk_at dksL_law_4 7 rfl rfl)
theorem dL_law_244 : decode cL_law 244 = .ok (.iconst 1, 1) := dk_4 (dk_at dksL_law_4 8 rfl rfl)
theorem dL_law_245 : decode cL_law 245 = .ok (.iadd, 1) := dk_96 (dk_at dksL_law_4 9 rfl rfl)
theorem dL_law_246 : decode cL_law 246 = .ok (.iaload, 1) := dk_46 (dk_at dksL_law_4 10 rfl rfl)
theorem dL_law_247 : decode cL_law 247 = .ok (.i2l, 1) := dk_133 (dk_at dksL_law_4 11 rfl rfl)
theorem dL_law_248 : decode cL_law 248 = .ok (.bipush 32, 2) := dk_16 32 (dk_at dksL_law_4 12 rfl rfl)
theorem dL_law_250 : decode cL_law 250 = .ok (.lshl, 1) := dk_121 (dk_at dksL_law_4 14 rfl rfl)
theorem dL_law_251 : decode cL_law 251 = .ok (.aload_n 0, 1) := dk_42 (dk_at dksL_law_4 15 rfl rfl)
theorem dL_law_252 : decode cL_law 252 = .ok (.iload_n 3, 1) := dk_29 (dk_at dksL_law_4 16 rfl rfl)
theorem dL_law_253 : decode cL_law 253 = .ok (.iconst 2, 1) := dk_5 (dk_at dksL_law_4 17 rfl rfl)
theorem dL_law_254 : decode cL_law 254 = .ok (.iadd, 1) := dk_96 (dk_at dksL_law_4 18 rfl rfl)
theorem dL_law_255 : decode cL_law 255 = .ok (.iaload, 1) := dk_46 (dk_at dksL_law_4 19 rfl rfl)
theorem dL_law_256 : decode cL_law 256 = .ok (.i2l, 1) := dk_133 (dk_at dksL_law_4 20 rfl rfl)
theorem dL_law_257 : decode cL_law 257 = .ok (.ldc2_w 13, 3) := dk_20 0 13 (dk_at dksL_law_4 21 rfl rfl)
theorem dL_law_260 : decode cL_law 260 = .ok (.land, 1) := dk_127 (dk_at dksL_law_5 0 rfl rfl)
theorem dL_law_261 : decode cL_law 261 = .ok (.lor, 1) := dk_129 (dk_at dksL_law_5 1 rfl rfl)
theorem dL_law_262 : decode cL_law 262 = .ok (.aload_n 0, 1) := dk_42 (dk_at dksL_law_5 2 rfl rfl)
theorem dL_law_263 : decode cL_law 263 = .ok (.iload_n 3, 1) := dk_29 (dk_at dksL_law_5 3 rfl rfl)
theorem dL_law_264 : decode cL_law 264 = .ok (.iconst 3, 1) := dk_6 (dk_at dksL_law_5 4 rfl rfl)
theorem dL_law_265 : decode cL_law 265 = .ok (.iadd, 1) := dk_96 (dk_at dksL_law_5 5 rfl rfl)
theorem dL_law_266 : decode cL_law 266 = .ok (.iaload, 1) := dk_46 (dk_at dksL_law_5 6 rfl rfl)
theorem dL_law_267 : decode cL_law 267 = .ok (.invokevirtual 19, 3) := dk_182 0 19 (dk_at dksL_law_5 7 rfl rfl)
theorem dL_law_270 : decode cL_law 270 = .ok (.if_icmp .eq 1254, 3) := dk_159 4 230 (dk_at dksL_law_5 10 rfl rfl)
theorem dL_law_273 : decode cL_law 273 = .ok (.iconst 0, 1) := dk_3 (dk_at dksL_law_5 13 rfl rfl)
theorem dL_law_274 : decode cL_law 274 = .ok (.ireturn, 1) := dk_172 (dk_at dksL_law_5 14 rfl rfl)
theorem dL_law_275 : decode cL_law 275 = .ok (.aload_n 1, 1) := dk_43 (dk_at dksL_law_5 15 rfl rfl)
theorem dL_law_276 : decode cL_law 276 = .ok (.invokevirtual 20, 3) := dk_182 0 20 (dk_at dksL_law_5 16 rfl rfl)
theorem dL_law_279 : decode cL_law 279 = .ok (.aload_n 2, 1) := dk_44 (dk_at dksL_law_5 19 rfl rfl)
theorem dL_law_280 : decode cL_law 280 = .ok (.invokevirtual 24, 3) := dk_182 0 24 (dk_at dksL_law_5 20 rfl rfl)
theorem dL_law_283 : decode cL_law 283 = .ok (.if_icmp .eq 1241, 3) := dk_159 4 217 (dk_at dksL_law_6 0 rfl rfl)
theorem dL_law_286 : decode cL_law 286 = .ok (.iconst 0, 1) := dk_3 (dk_at dksL_law_6 3 rfl rfl)
theorem dL_law_287 : decode cL_law 287 = .ok (.ireturn, 1) := dk_172 (dk_at dksL_law_6 4 rfl rfl)
theorem dL_law_288 : decode cL_law 288 = .ok (.aload_n 1, 1) := dk_43 (dk_at dksL_law_6 5 rfl rfl)
theorem dL_law_289 : decode cL_law 289 = .ok (.aload_n 0, 1) := dk_42 (dk_at dksL_law_6 6 rfl rfl)
theorem dL_law_290 : decode cL_law 290 = .ok (.iload_n 3, 1) := dk_29 (dk_at dksL_law_6 7 rfl rfl)
theorem dL_law_291 : decode cL_law 291 = .ok (.iconst 1, 1) := dk_4 (dk_at dksL_law_6 8 rfl rfl)
theorem dL_law_292 : decode cL_law 292 = .ok (.iadd, 1) := dk_96 (dk_at dksL_law_6 9 rfl rfl)
theorem dL_law_293 : decode cL_law 293 = .ok (.iaload, 1) := dk_46 (dk_at dksL_law_6 10 rfl rfl)
theorem dL_law_294 : decode cL_law 294 = .ok (.aload_n 0, 1) := dk_42 (dk_at dksL_law_6 11 rfl rfl)
theorem dL_law_295 : decode cL_law 295 = .ok (.iload_n 3, 1) := dk_29 (dk_at dksL_law_6 12 rfl rfl)
theorem dL_law_296 : decode cL_law 296 = .ok (.iconst 2, 1) := dk_5 (dk_at dksL_law_6 13 rfl rfl)
theorem dL_law_297 : decode cL_law 297 = .ok (.iadd, 1) := dk_96 (dk_at dksL_law_6 14 rfl rfl)
theorem dL_law_298 : decode cL_law 298 = .ok (.iaload, 1) := dk_46 (dk_at dksL_law_6 15 rfl rfl)
theorem dL_law_299 : decode cL_law 299 = .ok (.aload_n 0, 1) := dk_42 (dk_at dksL_law_6 16 rfl rfl)
theorem dL_law_300 : decode cL_law 300 = .ok (.iload_n 3, 1) := dk_29 (dk_at dksL_law_6 17 rfl rfl)
theorem dL_law_301 : decode cL_law 301 = .ok (.iconst 3, 1) := dk_6 (dk_at dksL_law_6 18 rfl rfl)
theorem dL_law_302 : decode cL_law 302 = .ok (.iadd, 1) := dk_96 (dk_at dksL_law_6 19 rfl rfl)
theorem dL_law_303 : decode cL_law 303 = .ok (.iaload, 1) := dk_46 (dk_at dksL_law_6 20 rfl rfl)
theorem dL_law_304 : decode cL_law 304 = .ok (.aload_n 0, 1) := dk_42 (dk_at dksL_law_6 21 rfl rfl)
theorem dL_law_305 : decode cL_law 305 = .ok (.iload_n 3, 1) := dk_29 (dk_at dksL_law_6 22 rfl rfl)
theorem dL_law_306 : decode cL_law 306 = .ok (.iconst 4, 1) := dk_7 (dk_at dksL_law_6 23 rfl rfl)
theorem dL_law_307 : decode cL_law 307 = .ok (.iadd, 1) := dk_96 (dk_at dksL_law_7 0 rfl rfl)
theorem dL_law_308 : decode cL_law 308 = .ok (.iaload, 1) := dk_46 (dk_at dksL_law_7 1 rfl rfl)
theorem dL_law_309 : decode cL_law 309 = .ok (.invokevirtual 25, 3) := dk_182 0 25 (dk_at dksL_law_7 2 rfl rfl)
theorem dL_law_312 : decode cL_law 312 = .ok (.aload_n 2, 1) := dk_44 (dk_at dksL_law_7 5 rfl rfl)
theorem dL_law_313 : decode cL_law 313 = .ok (.aload_n 0, 1) := dk_42 (dk_at dksL_law_7 6 rfl rfl)
theorem dL_law_314 : decode cL_law 314 = .ok (.iload_n 3, 1) := dk_29 (dk_at dksL_law_7 7 rfl rfl)
theorem dL_law_315 : decode cL_law 315 = .ok (.iconst 1, 1) := dk_4 (dk_at dksL_law_7 8 rfl rfl)
theorem dL_law_316 : decode cL_law 316 = .ok (.iadd, 1) := dk_96 (dk_at dksL_law_7 9 rfl rfl)
theorem dL_law_317 : decode cL_law 317 = .ok (.iaload, 1) := dk_46 (dk_at dksL_law_7 10 rfl rfl)
theorem dL_law_318 : decode cL_law 318 = .ok (.aload_n 0, 1) := dk_42 (dk_at dksL_law_7 11 rfl rfl)
theorem dL_law_319 : decode cL_law 319 = .ok (.iload_n 3, 1) := dk_29 (dk_at dksL_law_7 12 rfl rfl)
theorem dL_law_320 : decode cL_law 320 = .ok (.iconst 2, 1) := dk_5 (dk_at dksL_law_7 13 rfl rfl)
theorem dL_law_321 : decode cL_law 321 = .ok (.iadd, 1) := dk_96 (dk_at dksL_law_7 14 rfl rfl)
theorem dL_law_322 : decode cL_law 322 = .ok (.iaload, 1) := dk_46 (dk_at dksL_law_7 15 rfl rfl)
theorem dL_law_323 : decode cL_law 323 = .ok (.aload_n 0, 1) := dk_42 (dk_at dksL_law_7 16 rfl rfl)
theorem dL_law_324 : decode cL_law 324 = .ok (.iload_n 3, 1) := dk_29 (dk_at dksL_law_7 17 rfl rfl)
theorem dL_law_325 : decode cL_law 325 = .ok (.iconst 3, 1) := dk_6 (dk_at dksL_law_7 18 rfl rfl)
theorem dL_law_326 : decode cL_law 326 = .ok (.iadd, 1) := dk_96 (dk_at dksL_law_7 19 rfl rfl)
theorem dL_law_327 : decode cL_law 327 = .ok (.iaload, 1) := dk_46 (dk_at dksL_law_7 20 rfl rfl)
theorem dL_law_328 : decode cL_law 328 = .ok (.aload_n 0, 1) := dk_42 (dk_at dksL_law_7 21 rfl rfl)
theorem dL_law_329 : decode cL_law 329 = .ok (.iload_n 3, 1) := dk_29 (dk_at dksL_law_7 22 rfl rfl)
theorem dL_law_330 : decode cL_law 330 = .ok (.iconst 4, 1) := dk_7 (dk_at dksL_law_7 23 rfl rfl)
theorem dL_law_331 : decode cL_law 331 = .ok (.iadd, 1) := dk_96 (dk_at dksL_law_8 0 rfl rfl)
theorem dL_law_332 : decode cL_law 332 = .ok (.iaload, 1) := dk_46 (dk_at dksL_law_8 1 rfl rfl)
theorem dL_law_333 : decode cL_law 333 = .ok (.invokevirtual 29, 3) := dk_182 0 29 (dk_at dksL_law_8 2 rfl rfl)
theorem dL_law_336 : decode cL_law 336 = .ok (.if_icmp .eq 1188, 3) := dk_159 4 164 (dk_at dksL_law_8 5 rfl rfl)
theorem dL_law_339 : decode cL_law 339 = .ok (.iconst 0, 1) := dk_3 (dk_at dksL_law_8 8 rfl rfl)
theorem dL_law_340 : decode cL_law 340 = .ok (.ireturn, 1) := dk_172 (dk_at dksL_law_8 9 rfl rfl)
theorem dL_law_341 : decode cL_law 341 = .ok (.aload_n 1, 1) := dk_43 (dk_at dksL_law_8 10 rfl rfl)
theorem dL_law_342 : decode cL_law 342 = .ok (.aload_n 0, 1) := dk_42 (dk_at dksL_law_8 11 rfl rfl)
theorem dL_law_343 : decode cL_law 343 = .ok (.iload_n 3, 1) := dk_29 (dk_at dksL_law_8 12 rfl rfl)
theorem dL_law_344 : decode cL_law 344 = .ok (.iconst 1, 1) := dk_4 (dk_at dksL_law_8 13 rfl rfl)
theorem dL_law_345 : decode cL_law 345 = .ok (.iadd, 1) := dk_96 (dk_at dksL_law_8 14 rfl rfl)
theorem dL_law_346 : decode cL_law 346 = .ok (.iaload, 1) := dk_46 (dk_at dksL_law_8 15 rfl rfl)
theorem dL_law_347 : decode cL_law 347 = .ok (.aload_n 0, 1) := dk_42 (dk_at dksL_law_8 16 rfl rfl)
theorem dL_law_348 : decode cL_law 348 = .ok (.iload_n 3, 1) := dk_29 (dk_at dksL_law_8 17 rfl rfl)
theorem dL_law_349 : decode cL_law 349 = .ok (.iconst 2, 1) := dk_5 (dk_at dksL_law_8 18 rfl rfl)
theorem dL_law_350 : decode cL_law 350 = .ok (.iadd, 1) := dk_96 (dk_at dksL_law_8 19 rfl rfl)
theorem dL_law_351 : decode cL_law 351 = .ok (.iaload, 1) := dk_46 (dk_at dksL_law_8 20 rfl rfl)
theorem dL_law_352 : decode cL_law 352 = .ok (.invokevirtual 30, 3) := dk_182 0 30 (dk_at dksL_law_8 21 rfl rfl)
theorem dL_law_355 : decode cL_law 355 = .ok (.aload_n 2, 1) := dk_44 (dk_at dksL_law_9 0 rfl rfl)
theorem dL_law_356 : decode cL_law 356 = .ok (.aload_n 0, 1) := dk_42 (dk_at dksL_law_9 1 rfl rfl)
theorem dL_law_357 : decode cL_law 357 = .ok (.iload_n 3, 1) := dk_29 (dk_at dksL_law_9 2 rfl rfl)
theorem dL_law_358 : decode cL_law 358 = .ok (.iconst 1, 1) := dk_4 (dk_at dksL_law_9 3 rfl rfl)
theorem dL_law_359 : decode cL_law 359 = .ok (.iadd, 1) := dk_96 (dk_at dksL_law_9 4 rfl rfl)
theorem dL_law_360 : decode cL_law 360 = .ok (.iaload, 1) := dk_46 (dk_at dksL_law_9 5 rfl rfl)
theorem dL_law_361 : decode cL_law 361 = .ok (.aload_n 0, 1) := dk_42 (dk_at dksL_law_9 6 rfl rfl)
theorem dL_law_362 : decode cL_law 362 = .ok (.iload_n 3, 1) := dk_29 (dk_at dksL_law_9 7 rfl rfl)
theorem dL_law_363 : decode cL_law 363 = .ok (.iconst 2, 1) := dk_5 (dk_at dksL_law_9 8 rfl rfl)
theorem dL_law_364 : decode cL_law 364 = .ok (.iadd, 1) := dk_96 (dk_at dksL_law_9 9 rfl rfl)
theorem dL_law_365 : decode cL_law 365 = .ok (.iaload, 1) := dk_46 (dk_at dksL_law_9 10 rfl rfl)
theorem dL_law_366 : decode cL_law 366 = .ok (.invokevirtual 34, 3) := dk_182 0 34 (dk_at dksL_law_9 11 rfl rfl)
theorem dL_law_369 : decode cL_law 369 = .ok (.if_icmp .eq 1155, 3) := dk_159 4 131 (dk_at dksL_law_9 14 rfl rfl)
theorem dL_law_372 : decode cL_law 372 = .ok (.iconst 0, 1) := dk_3 (dk_at dksL_law_9 17 rfl rfl)
theorem dL_law_373 : decode cL_law 373 = .ok (.ireturn, 1) := dk_172 (dk_at dksL_law_9 18 rfl rfl)
theorem dL_law_374 : decode cL_law 374 = .ok (.aload_n 1, 1) := dk_43 (dk_at dksL_law_9 19 rfl rfl)
theorem dL_law_375 : decode cL_law 375 = .ok (.aload_n 0, 1) := dk_42 (dk_at dksL_law_9 20 rfl rfl)
theorem dL_law_376 : decode cL_law 376 = .ok (.iload_n 3, 1) := dk_29 (dk_at dksL_law_9 21 rfl rfl)
theorem dL_law_377 : decode cL_law 377 = .ok (.iconst 1, 1) := dk_4 (dk_at dksL_law_9 22 rfl rfl)
theorem dL_law_378 : decode cL_law 378 = .ok (.iadd, 1) := dk_96 (dk_at dksL_law_9 23 rfl rfl)
theorem dL_law_379 : decode cL_law 379 = .ok (.iaload, 1) := dk_46 (dk_at dksL_law_10 0 rfl rfl)
theorem dL_law_380 : decode cL_law 380 = .ok (.aload_n 0, 1) := dk_42 (dk_at dksL_law_10 1 rfl rfl)
theorem dL_law_381 : decode cL_law 381 = .ok (.iload_n 3, 1) := dk_29 (dk_at dksL_law_10 2 rfl rfl)
theorem dL_law_382 : decode cL_law 382 = .ok (.iconst 2, 1) := dk_5 (dk_at dksL_law_10 3 rfl rfl)
theorem dL_law_383 : decode cL_law 383 = .ok (.iadd, 1) := dk_96 (dk_at dksL_law_10 4 rfl rfl)
theorem dL_law_384 : decode cL_law 384 = .ok (.iaload, 1) := dk_46 (dk_at dksL_law_10 5 rfl rfl)
theorem dL_law_385 : decode cL_law 385 = .ok (.aload_n 0, 1) := dk_42 (dk_at dksL_law_10 6 rfl rfl)
theorem dL_law_386 : decode cL_law 386 = .ok (.iload_n 3, 1) := dk_29 (dk_at dksL_law_10 7 rfl rfl)
theorem dL_law_387 : decode cL_law 387 = .ok (.iconst 3, 1) := dk_6 (dk_at dksL_law_10 8 rfl rfl)
theorem dL_law_388 : decode cL_law 388 = .ok (.iadd, 1) := dk_96 (dk_at dksL_law_10 9 rfl rfl)
theorem dL_law_389 : decode cL_law 389 = .ok (.iaload, 1) := dk_46 (dk_at dksL_law_10 10 rfl rfl)
theorem dL_law_390 : decode cL_law 390 = .ok (.invokevirtual 35, 3) := dk_182 0 35 (dk_at dksL_law_10 11 rfl rfl)
theorem dL_law_393 : decode cL_law 393 = .ok (.aload_n 2, 1) := dk_44 (dk_at dksL_law_10 14 rfl rfl)
theorem dL_law_394 : decode cL_law 394 = .ok (.aload_n 0, 1) := dk_42 (dk_at dksL_law_10 15 rfl rfl)
theorem dL_law_395 : decode cL_law 395 = .ok (.iload_n 3, 1) := dk_29 (dk_at dksL_law_10 16 rfl rfl)
theorem dL_law_396 : decode cL_law 396 = .ok (.iconst 1, 1) := dk_4 (dk_at dksL_law_10 17 rfl rfl)
theorem dL_law_397 : decode cL_law 397 = .ok (.iadd, 1) := dk_96 (dk_at dksL_law_10 18 rfl rfl)
theorem dL_law_398 : decode cL_law 398 = .ok (.iaload, 1) := dk_46 (dk_at dksL_law_10 19 rfl rfl)
theorem dL_law_399 : decode cL_law 399 = .ok (.aload_n 0, 1) := dk_42 (dk_at dksL_law_10 20 rfl rfl)
theorem dL_law_400 : decode cL_law 400 = .ok (.iload_n 3, 1) := dk_29 (dk_at dksL_law_10 21 rfl rfl)
theorem dL_law_401 : decode cL_law 401 = .ok (.iconst 2, 1) := dk_5 (dk_at dksL_law_10 22 rfl rfl)
theorem dL_law_402 : decode cL_law 402 = .ok (.iadd, 1) := dk_96 (dk_at dksL_law_10 23 rfl rfl)
theorem dL_law_403 : decode cL_law 403 = .ok (.iaload, 1) := dk_46 (dk_at dksL_law_11 0 rfl rfl)
theorem dL_law_404 : decode cL_law 404 = .ok (.aload_n 0, 1) := dk_42 (dk_at dksL_law_11 1 rfl rfl)
theorem dL_law_405 : decode cL_law 405 = .ok (.iload_n 3, 1) := dk_29 (dk_at dksL_law_11 2 rfl rfl)
theorem dL_law_406 : decode cL_law 406 = .ok (.iconst 3, 1) := dk_6 (dk_at dksL_law_11 3 rfl rfl)
theorem dL_law_407 : decode cL_law 407 = .ok (.iadd, 1) := dk_96 (dk_at dksL_law_11 4 rfl rfl)
theorem dL_law_408 : decode cL_law 408 = .ok (.iaload, 1) := dk_46 (dk_at dksL_law_11 5 rfl rfl)
theorem dL_law_409 : decode cL_law 409 = .ok (.invokevirtual 39, 3) := dk_182 0 39 (dk_at dksL_law_11 6 rfl rfl)
theorem dL_law_412 : decode cL_law 412 = .ok (.if_icmp .eq 1112, 3) := dk_159 4 88 (dk_at dksL_law_11 9 rfl rfl)
theorem dL_law_415 : decode cL_law 415 = .ok (.iconst 0, 1) := dk_3 (dk_at dksL_law_11 12 rfl rfl)
theorem dL_law_416 : decode cL_law 416 = .ok (.ireturn, 1) := dk_172 (dk_at dksL_law_11 13 rfl rfl)
theorem dL_law_417 : decode cL_law 417 = .ok (.aload_n 1, 1) := dk_43 (dk_at dksL_law_11 14 rfl rfl)
theorem dL_law_418 : decode cL_law 418 = .ok (.aload_n 0, 1) := dk_42 (dk_at dksL_law_11 15 rfl rfl)
theorem dL_law_419 : decode cL_law 419 = .ok (.iload_n 3, 1) := dk_29 (dk_at dksL_law_11 16 rfl rfl)
theorem dL_law_420 : decode cL_law 420 = .ok (.iconst 1, 1) := dk_4 (dk_at dksL_law_11 17 rfl rfl)
theorem dL_law_421 : decode cL_law 421 = .ok (.iadd, 1) := dk_96 (dk_at dksL_law_11 18 rfl rfl)
theorem dL_law_422 : decode cL_law 422 = .ok (.iaload, 1) := dk_46 (dk_at dksL_law_11 19 rfl rfl)
theorem dL_law_423 : decode cL_law 423 = .ok (.aload_n 0, 1) := dk_42 (dk_at dksL_law_11 20 rfl rfl)
theorem dL_law_424 : decode cL_law 424 = .ok (.iload_n 3, 1) := dk_29 (dk_at dksL_law_11 21 rfl rfl)
theorem dL_law_425 : decode cL_law 425 = .ok (.iconst 2, 1) := dk_5 (dk_at dksL_law_11 22 rfl rfl)
theorem dL_law_426 : decode cL_law 426 = .ok (.iadd, 1) := dk_96 (dk_at dksL_law_11 23 rfl rfl)
theorem dL_law_427 : decode cL_law 427 = .ok (.iaload, 1) := dk_46 (dk_at dksL_law_12 0 rfl rfl)
theorem dL_law_428 : decode cL_law 428 = .ok (.ifCond .eq 7, 3) := dk_153 0 7 (dk_at dksL_law_12 1 rfl rfl)
theorem dL_law_431 : decode cL_law 431 = .ok (.iconst 1, 1) := dk_4 (dk_at dksL_law_12 4 rfl rfl)
theorem dL_law_432 : decode cL_law 432 = .ok (.goto 4, 3) := dk_167 0 4 (dk_at dksL_law_12 5 rfl rfl)
theorem dL_law_435 : decode cL_law 435 = .ok (.iconst 0, 1) := dk_3 (dk_at dksL_law_12 8 rfl rfl)
theorem dL_law_436 : decode cL_law 436 = .ok (.invokevirtual 40, 3) := dk_182 0 40 (dk_at dksL_law_12 9 rfl rfl)
theorem dL_law_439 : decode cL_law 439 = .ok (.aload_n 2, 1) := dk_44 (dk_at dksL_law_12 12 rfl rfl)
theorem dL_law_440 : decode cL_law 440 = .ok (.aload_n 0, 1) := dk_42 (dk_at dksL_law_12 13 rfl rfl)
theorem dL_law_441 : decode cL_law 441 = .ok (.iload_n 3, 1) := dk_29 (dk_at dksL_law_12 14 rfl rfl)
theorem dL_law_442 : decode cL_law 442 = .ok (.iconst 1, 1) := dk_4 (dk_at dksL_law_12 15 rfl rfl)
theorem dL_law_443 : decode cL_law 443 = .ok (.iadd, 1) := dk_96 (dk_at dksL_law_12 16 rfl rfl)
theorem dL_law_444 : decode cL_law 444 = .ok (.iaload, 1) := dk_46 (dk_at dksL_law_12 17 rfl rfl)
theorem dL_law_445 : decode cL_law 445 = .ok (.aload_n 0, 1) := dk_42 (dk_at dksL_law_12 18 rfl rfl)
theorem dL_law_446 : decode cL_law 446 = .ok (.iload_n 3, 1) := dk_29 (dk_at dksL_law_12 19 rfl rfl)
theorem dL_law_447 : decode cL_law 447 = .ok (.iconst 2, 1) := dk_5 (dk_at dksL_law_12 20 rfl rfl)
theorem dL_law_448 : decode cL_law 448 = .ok (.iadd, 1) := dk_96 (dk_at dksL_law_12 21 rfl rfl)
theorem dL_law_449 : decode cL_law 449 = .ok (.iaload, 1) := dk_46 (dk_at dksL_law_12 22 rfl rfl)
theorem dL_law_450 : decode cL_law 450 = .ok (.ifCond .eq 7, 3) := dk_153 0 7 (dk_at dksL_law_13 0 rfl rfl)
theorem dL_law_453 : decode cL_law 453 = .ok (.iconst 1, 1) := dk_4 (dk_at dksL_law_13 3 rfl rfl)
theorem dL_law_454 : decode cL_law 454 = .ok (.goto 4, 3) := dk_167 0 4 (dk_at dksL_law_13 4 rfl rfl)
theorem dL_law_457 : decode cL_law 457 = .ok (.iconst 0, 1) := dk_3 (dk_at dksL_law_13 7 rfl rfl)
theorem dL_law_458 : decode cL_law 458 = .ok (.invokevirtual 44, 3) := dk_182 0 44 (dk_at dksL_law_13 8 rfl rfl)
theorem dL_law_461 : decode cL_law 461 = .ok (.if_icmp .eq 1063, 3) := dk_159 4 39 (dk_at dksL_law_13 11 rfl rfl)
theorem dL_law_464 : decode cL_law 464 = .ok (.iconst 0, 1) := dk_3 (dk_at dksL_law_13 14 rfl rfl)
theorem dL_law_465 : decode cL_law 465 = .ok (.ireturn, 1) := dk_172 (dk_at dksL_law_13 15 rfl rfl)
theorem dL_law_466 : decode cL_law 466 = .ok (.aload_n 1, 1) := dk_43 (dk_at dksL_law_13 16 rfl rfl)
theorem dL_law_467 : decode cL_law 467 = .ok (.aload_n 0, 1) := dk_42 (dk_at dksL_law_13 17 rfl rfl)
theorem dL_law_468 : decode cL_law 468 = .ok (.iload_n 3, 1) := dk_29 (dk_at dksL_law_13 18 rfl rfl)
theorem dL_law_469 : decode cL_law 469 = .ok (.iconst 1, 1) := dk_4 (dk_at dksL_law_13 19 rfl rfl)
theorem dL_law_470 : decode cL_law 470 = .ok (.iadd, 1) := dk_96 (dk_at dksL_law_13 20 rfl rfl)
theorem dL_law_471 : decode cL_law 471 = .ok (.iaload, 1) := dk_46 (dk_at dksL_law_13 21 rfl rfl)
theorem dL_law_472 : decode cL_law 472 = .ok (.aload_n 0, 1) := dk_42 (dk_at dksL_law_13 22 rfl rfl)
theorem dL_law_473 : decode cL_law 473 = .ok (.iload_n 3, 1) := dk_29 (dk_at dksL_law_13 23 rfl rfl)
theorem dL_law_474 : decode cL_law 474 = .ok (.iconst 2, 1) := dk_5 (dk_at dksL_law_14 0 rfl rfl)
theorem dL_law_475 : decode cL_law 475 = .ok (.iadd, 1) := dk_96 (dk_at dksL_law_14 1 rfl rfl)
theorem dL_law_476 : decode cL_law 476 = .ok (.iaload, 1) := dk_46 (dk_at dksL_law_14 2 rfl rfl)
theorem dL_law_477 : decode cL_law 477 = .ok (.invokevirtual 45, 3) := dk_182 0 45 (dk_at dksL_law_14 3 rfl rfl)
theorem dL_law_480 : decode cL_law 480 = .ok (.aload_n 2, 1) := dk_44 (dk_at dksL_law_14 6 rfl rfl)
theorem dL_law_481 : decode cL_law 481 = .ok (.aload_n 0, 1) := dk_42 (dk_at dksL_law_14 7 rfl rfl)
theorem dL_law_482 : decode cL_law 482 = .ok (.iload_n 3, 1) := dk_29 (dk_at dksL_law_14 8 rfl rfl)
theorem dL_law_483 : decode cL_law 483 = .ok (.iconst 1, 1) := dk_4 (dk_at dksL_law_14 9 rfl rfl)
theorem dL_law_484 : decode cL_law 484 = .ok (.iadd, 1) := dk_96 (dk_at dksL_law_14 10 rfl rfl)
theorem dL_law_485 : decode cL_law 485 = .ok (.iaload, 1) := dk_46 (dk_at dksL_law_14 11 rfl rfl)
theorem dL_law_486 : decode cL_law 486 = .ok (.aload_n 0, 1) := dk_42 (dk_at dksL_law_14 12 rfl rfl)
theorem dL_law_487 : decode cL_law 487 = .ok (.iload_n 3, 1) := dk_29 (dk_at dksL_law_14 13 rfl rfl)
theorem dL_law_488 : decode cL_law 488 = .ok (.iconst 2, 1) := dk_5 (dk_at dksL_law_14 14 rfl rfl)
theorem dL_law_489 : decode cL_law 489 = .ok (.iadd, 1) := dk_96 (dk_at dksL_law_14 15 rfl rfl)
theorem dL_law_490 : decode cL_law 490 = .ok (.iaload, 1) := dk_46 (dk_at dksL_law_14 16 rfl rfl)
theorem dL_law_491 : decode cL_law 491 = .ok (.invokevirtual 48, 3) := dk_182 0 48 (dk_at dksL_law_14 17 rfl rfl)
theorem dL_law_494 : decode cL_law 494 = .ok (.if_icmp .eq 1030, 3) := dk_159 4 6 (dk_at dksL_law_14 20 rfl rfl)
theorem dL_law_497 : decode cL_law 497 = .ok (.iconst 0, 1) := dk_3 (dk_at dksL_law_14 23 rfl rfl)
theorem dL_law_498 : decode cL_law 498 = .ok (.ireturn, 1) := dk_172 (dk_at dksL_law_15 0 rfl rfl)
theorem dL_law_499 : decode cL_law 499 = .ok (.aload_n 1, 1) := dk_43 (dk_at dksL_law_15 1 rfl rfl)
theorem dL_law_500 : decode cL_law 500 = .ok (.aload_n 0, 1) := dk_42 (dk_at dksL_law_15 2 rfl rfl)
theorem dL_law_501 : decode cL_law 501 = .ok (.iload_n 3, 1) := dk_29 (dk_at dksL_law_15 3 rfl rfl)
theorem dL_law_502 : decode cL_law 502 = .ok (.iconst 1, 1) := dk_4 (dk_at dksL_law_15 4 rfl rfl)
theorem dL_law_503 : decode cL_law 503 = .ok (.iadd, 1) := dk_96 (dk_at dksL_law_15 5 rfl rfl)
theorem dL_law_504 : decode cL_law 504 = .ok (.iaload, 1) := dk_46 (dk_at dksL_law_15 6 rfl rfl)
theorem dL_law_505 : decode cL_law 505 = .ok (.aload_n 0, 1) := dk_42 (dk_at dksL_law_15 7 rfl rfl)
theorem dL_law_506 : decode cL_law 506 = .ok (.iload_n 3, 1) := dk_29 (dk_at dksL_law_15 8 rfl rfl)
theorem dL_law_507 : decode cL_law 507 = .ok (.iconst 2, 1) := dk_5 (dk_at dksL_law_15 9 rfl rfl)
theorem dL_law_508 : decode cL_law 508 = .ok (.iadd, 1) := dk_96 (dk_at dksL_law_15 10 rfl rfl)
theorem dL_law_509 : decode cL_law 509 = .ok (.iaload, 1) := dk_46 (dk_at dksL_law_15 11 rfl rfl)
theorem dL_law_510 : decode cL_law 510 = .ok (.invokevirtual 49, 3) := dk_182 0 49 (dk_at dksL_law_15 12 rfl rfl)
theorem dL_law_513 : decode cL_law 513 = .ok (.aload_n 2, 1) := dk_44 (dk_at dksL_law_15 15 rfl rfl)
theorem dL_law_514 : decode cL_law 514 = .ok (.aload_n 0, 1) := dk_42 (dk_at dksL_law_15 16 rfl rfl)
theorem dL_law_515 : decode cL_law 515 = .ok (.iload_n 3, 1) := dk_29 (dk_at dksL_law_15 17 rfl rfl)
theorem dL_law_516 : decode cL_law 516 = .ok (.iconst 1, 1) := dk_4 (dk_at dksL_law_15 18 rfl rfl)
theorem dL_law_517 : decode cL_law 517 = .ok (.iadd, 1) := dk_96 (dk_at dksL_law_15 19 rfl rfl)
theorem dL_law_518 : decode cL_law 518 = .ok (.iaload, 1) := dk_46 (dk_at dksL_law_15 20 rfl rfl)
theorem dL_law_519 : decode cL_law 519 = .ok (.aload_n 0, 1) := dk_42 (dk_at dksL_law_15 21 rfl rfl)
theorem dL_law_520 : decode cL_law 520 = .ok (.iload_n 3, 1) := dk_29 (dk_at dksL_law_15 22 rfl rfl)
theorem dL_law_521 : decode cL_law 521 = .ok (.iconst 2, 1) := dk_5 (dk_at dksL_law_15 23 rfl rfl)
theorem dL_law_522 : decode cL_law 522 = .ok (.iadd, 1) := dk_96 (dk_at dksL_law_16 0 rfl rfl)
theorem dL_law_523 : decode cL_law 523 = .ok (.iaload, 1) := dk_46 (dk_at dksL_law_16 1 rfl rfl)
theorem dL_law_524 : decode cL_law 524 = .ok (.invokevirtual 52, 3) := dk_182 0 52 (dk_at dksL_law_16 2 rfl rfl)
theorem dL_law_527 : decode cL_law 527 = .ok (.if_icmp .eq 997, 3) := dk_159 3 229 (dk_at dksL_law_16 5 rfl rfl)
theorem dL_law_530 : decode cL_law 530 = .ok (.iconst 0, 1) := dk_3 (dk_at dksL_law_16 8 rfl rfl)
theorem dL_law_531 : decode cL_law 531 = .ok (.ireturn, 1) := dk_172 (dk_at dksL_law_16 9 rfl rfl)
theorem dL_law_532 : decode cL_law 532 = .ok (.aload_n 1, 1) := dk_43 (dk_at dksL_law_16 10 rfl rfl)
theorem dL_law_533 : decode cL_law 533 = .ok (.aload_n 0, 1) := dk_42 (dk_at dksL_law_16 11 rfl rfl)
theorem dL_law_534 : decode cL_law 534 = .ok (.iload_n 3, 1) := dk_29 (dk_at dksL_law_16 12 rfl rfl)
theorem dL_law_535 : decode cL_law 535 = .ok (.iconst 1, 1) := dk_4 (dk_at dksL_law_16 13 rfl rfl)
theorem dL_law_536 : decode cL_law 536 = .ok (.iadd, 1) := dk_96 (dk_at dksL_law_16 14 rfl rfl)
theorem dL_law_537 : decode cL_law 537 = .ok (.iaload, 1) := dk_46 (dk_at dksL_law_16 15 rfl rfl)
theorem dL_law_538 : decode cL_law 538 = .ok (.aload_n 0, 1) := dk_42 (dk_at dksL_law_16 16 rfl rfl)
theorem dL_law_539 : decode cL_law 539 = .ok (.iload_n 3, 1) := dk_29 (dk_at dksL_law_16 17 rfl rfl)
theorem dL_law_540 : decode cL_law 540 = .ok (.iconst 2, 1) := dk_5 (dk_at dksL_law_16 18 rfl rfl)
theorem dL_law_541 : decode cL_law 541 = .ok (.iadd, 1) := dk_96 (dk_at dksL_law_16 19 rfl rfl)
theorem dL_law_542 : decode cL_law 542 = .ok (.iaload, 1) := dk_46 (dk_at dksL_law_16 20 rfl rfl)
theorem dL_law_543 : decode cL_law 543 = .ok (.ifCond .eq 7, 3) := dk_153 0 7 (dk_at dksL_law_16 21 rfl rfl)
theorem dL_law_546 : decode cL_law 546 = .ok (.iconst 1, 1) := dk_4 (dk_at dksL_law_17 0 rfl rfl)
theorem dL_law_547 : decode cL_law 547 = .ok (.goto 4, 3) := dk_167 0 4 (dk_at dksL_law_17 1 rfl rfl)
theorem dL_law_550 : decode cL_law 550 = .ok (.iconst 0, 1) := dk_3 (dk_at dksL_law_17 4 rfl rfl)
theorem dL_law_551 : decode cL_law 551 = .ok (.invokevirtual 53, 3) := dk_182 0 53 (dk_at dksL_law_17 5 rfl rfl)
theorem dL_law_554 : decode cL_law 554 = .ok (.aload_n 2, 1) := dk_44 (dk_at dksL_law_17 8 rfl rfl)
theorem dL_law_555 : decode cL_law 555 = .ok (.aload_n 0, 1) := dk_42 (dk_at dksL_law_17 9 rfl rfl)
theorem dL_law_556 : decode cL_law 556 = .ok (.iload_n 3, 1) := dk_29 (dk_at dksL_law_17 10 rfl rfl)
theorem dL_law_557 : decode cL_law 557 = .ok (.iconst 1, 1) := dk_4 (dk_at dksL_law_17 11 rfl rfl)
theorem dL_law_558 : decode cL_law 558 = .ok (.iadd, 1) := dk_96 (dk_at dksL_law_17 12 rfl rfl)
theorem dL_law_559 : decode cL_law 559 = .ok (.iaload, 1) := dk_46 (dk_at dksL_law_17 13 rfl rfl)
theorem dL_law_560 : decode cL_law 560 = .ok (.aload_n 0, 1) := dk_42 (dk_at dksL_law_17 14 rfl rfl)
theorem dL_law_561 : decode cL_law 561 = .ok (.iload_n 3, 1) := dk_29 (dk_at dksL_law_17 15 rfl rfl)
theorem dL_law_562 : decode cL_law 562 = .ok (.iconst 2, 1) := dk_5 (dk_at dksL_law_17 16 rfl rfl)
theorem dL_law_563 : decode cL_law 563 = .ok (.iadd, 1) := dk_96 (dk_at dksL_law_17 17 rfl rfl)
theorem dL_law_564 : decode cL_law 564 = .ok (.iaload, 1) := dk_46 (dk_at dksL_law_17 18 rfl rfl)
theorem dL_law_565 : decode cL_law 565 = .ok (.ifCond .eq 7, 3) := dk_153 0 7 (dk_at dksL_law_17 19 rfl rfl)
theorem dL_law_568 : decode cL_law 568 = .ok (.iconst 1, 1) := dk_4 (dk_at dksL_law_17 22 rfl rfl)
theorem dL_law_569 : decode cL_law 569 = .ok (.goto 4, 3) := dk_167 0 4 (dk_at dksL_law_18 0 rfl rfl)
theorem dL_law_572 : decode cL_law 572 = .ok (.iconst 0, 1) := dk_3 (dk_at dksL_law_18 3 rfl rfl)
theorem dL_law_573 : decode cL_law 573 = .ok (.invokevirtual 56, 3) := dk_182 0 56 (dk_at dksL_law_18 4 rfl rfl)
theorem dL_law_576 : decode cL_law 576 = .ok (.if_icmp .eq 948, 3) := dk_159 3 180 (dk_at dksL_law_18 7 rfl rfl)
theorem dL_law_579 : decode cL_law 579 = .ok (.iconst 0, 1) := dk_3 (dk_at dksL_law_18 10 rfl rfl)
theorem dL_law_580 : decode cL_law 580 = .ok (.ireturn, 1) := dk_172 (dk_at dksL_law_18 11 rfl rfl)
theorem dL_law_581 : decode cL_law 581 = .ok (.aload_n 1, 1) := dk_43 (dk_at dksL_law_18 12 rfl rfl)
theorem dL_law_582 : decode cL_law 582 = .ok (.aload_n 0, 1) := dk_42 (dk_at dksL_law_18 13 rfl rfl)
theorem dL_law_583 : decode cL_law 583 = .ok (.iload_n 3, 1) := dk_29 (dk_at dksL_law_18 14 rfl rfl)
theorem dL_law_584 : decode cL_law 584 = .ok (.iconst 1, 1) := dk_4 (dk_at dksL_law_18 15 rfl rfl)
theorem dL_law_585 : decode cL_law 585 = .ok (.iadd, 1) := dk_96 (dk_at dksL_law_18 16 rfl rfl)
theorem dL_law_586 : decode cL_law 586 = .ok (.iaload, 1) := dk_46 (dk_at dksL_law_18 17 rfl rfl)
theorem dL_law_587 : decode cL_law 587 = .ok (.aload_n 0, 1) := dk_42 (dk_at dksL_law_18 18 rfl rfl)
theorem dL_law_588 : decode cL_law 588 = .ok (.iload_n 3, 1) := dk_29 (dk_at dksL_law_18 19 rfl rfl)
theorem dL_law_589 : decode cL_law 589 = .ok (.iconst 2, 1) := dk_5 (dk_at dksL_law_18 20 rfl rfl)
theorem dL_law_590 : decode cL_law 590 = .ok (.iadd, 1) := dk_96 (dk_at dksL_law_18 21 rfl rfl)
theorem dL_law_591 : decode cL_law 591 = .ok (.iaload, 1) := dk_46 (dk_at dksL_law_18 22 rfl rfl)
theorem dL_law_592 : decode cL_law 592 = .ok (.invokevirtual 57, 3) := dk_182 0 57 (dk_at dksL_law_19 0 rfl rfl)
theorem dL_law_595 : decode cL_law 595 = .ok (.aload_n 2, 1) := dk_44 (dk_at dksL_law_19 3 rfl rfl)
theorem dL_law_596 : decode cL_law 596 = .ok (.aload_n 0, 1) := dk_42 (dk_at dksL_law_19 4 rfl rfl)
theorem dL_law_597 : decode cL_law 597 = .ok (.iload_n 3, 1) := dk_29 (dk_at dksL_law_19 5 rfl rfl)
theorem dL_law_598 : decode cL_law 598 = .ok (.iconst 1, 1) := dk_4 (dk_at dksL_law_19 6 rfl rfl)
theorem dL_law_599 : decode cL_law 599 = .ok (.iadd, 1) := dk_96 (dk_at dksL_law_19 7 rfl rfl)
theorem dL_law_600 : decode cL_law 600 = .ok (.iaload, 1) := dk_46 (dk_at dksL_law_19 8 rfl rfl)
theorem dL_law_601 : decode cL_law 601 = .ok (.aload_n 0, 1) := dk_42 (dk_at dksL_law_19 9 rfl rfl)
theorem dL_law_602 : decode cL_law 602 = .ok (.iload_n 3, 1) := dk_29 (dk_at dksL_law_19 10 rfl rfl)
theorem dL_law_603 : decode cL_law 603 = .ok (.iconst 2, 1) := dk_5 (dk_at dksL_law_19 11 rfl rfl)
theorem dL_law_604 : decode cL_law 604 = .ok (.iadd, 1) := dk_96 (dk_at dksL_law_19 12 rfl rfl)
theorem dL_law_605 : decode cL_law 605 = .ok (.iaload, 1) := dk_46 (dk_at dksL_law_19 13 rfl rfl)
theorem dL_law_606 : decode cL_law 606 = .ok (.invokevirtual 60, 3) := dk_182 0 60 (dk_at dksL_law_19 14 rfl rfl)
theorem dL_law_609 : decode cL_law 609 = .ok (.if_icmp .eq 915, 3) := dk_159 3 147 (dk_at dksL_law_19 17 rfl rfl)
theorem dL_law_612 : decode cL_law 612 = .ok (.iconst 0, 1) := dk_3 (dk_at dksL_law_19 20 rfl rfl)
theorem dL_law_613 : decode cL_law 613 = .ok (.ireturn, 1) := dk_172 (dk_at dksL_law_19 21 rfl rfl)
theorem dL_law_614 : decode cL_law 614 = .ok (.aload_n 1, 1) := dk_43 (dk_at dksL_law_19 22 rfl rfl)
theorem dL_law_615 : decode cL_law 615 = .ok (.aload_n 0, 1) := dk_42 (dk_at dksL_law_19 23 rfl rfl)
theorem dL_law_616 : decode cL_law 616 = .ok (.iload_n 3, 1) := dk_29 (dk_at dksL_law_20 0 rfl rfl)
theorem dL_law_617 : decode cL_law 617 = .ok (.iconst 1, 1) := dk_4 (dk_at dksL_law_20 1 rfl rfl)
theorem dL_law_618 : decode cL_law 618 = .ok (.iadd, 1) := dk_96 (dk_at dksL_law_20 2 rfl rfl)
theorem dL_law_619 : decode cL_law 619 = .ok (.iaload, 1) := dk_46 (dk_at dksL_law_20 3 rfl rfl)
theorem dL_law_620 : decode cL_law 620 = .ok (.aload_n 0, 1) := dk_42 (dk_at dksL_law_20 4 rfl rfl)
theorem dL_law_621 : decode cL_law 621 = .ok (.iload_n 3, 1) := dk_29 (dk_at dksL_law_20 5 rfl rfl)
theorem dL_law_622 : decode cL_law 622 = .ok (.iconst 2, 1) := dk_5 (dk_at dksL_law_20 6 rfl rfl)
theorem dL_law_623 : decode cL_law 623 = .ok (.iadd, 1) := dk_96 (dk_at dksL_law_20 7 rfl rfl)
theorem dL_law_624 : decode cL_law 624 = .ok (.iaload, 1) := dk_46 (dk_at dksL_law_20 8 rfl rfl)
theorem dL_law_625 : decode cL_law 625 = .ok (.invokevirtual 61, 3) := dk_182 0 61 (dk_at dksL_law_20 9 rfl rfl)
theorem dL_law_628 : decode cL_law 628 = .ok (.aload_n 2, 1) := dk_44 (dk_at dksL_law_20 12 rfl rfl)
theorem dL_law_629 : decode cL_law 629 = .ok (.aload_n 0, 1) := dk_42 (dk_at dksL_law_20 13 rfl rfl)
theorem dL_law_630 : decode cL_law 630 = .ok (.iload_n 3, 1) := dk_29 (dk_at dksL_law_20 14 rfl rfl)
theorem dL_law_631 : decode cL_law 631 = .ok (.iconst 1, 1) := dk_4 (dk_at dksL_law_20 15 rfl rfl)
theorem dL_law_632 : decode cL_law 632 = .ok (.iadd, 1) := dk_96 (dk_at dksL_law_20 16 rfl rfl)
theorem dL_law_633 : decode cL_law 633 = .ok (.iaload, 1) := dk_46 (dk_at dksL_law_20 17 rfl rfl)
theorem dL_law_634 : decode cL_law 634 = .ok (.aload_n 0, 1) := dk_42 (dk_at dksL_law_20 18 rfl rfl)
theorem dL_law_635 : decode cL_law 635 = .ok (.iload_n 3, 1) := dk_29 (dk_at dksL_law_20 19 rfl rfl)
theorem dL_law_636 : decode cL_law 636 = .ok (.iconst 2, 1) := dk_5 (dk_at dksL_law_20 20 rfl rfl)
theorem dL_law_637 : decode cL_law 637 = .ok (.iadd, 1) := dk_96 (dk_at dksL_law_20 21 rfl rfl)
theorem dL_law_638 : decode cL_law 638 = .ok (.iaload, 1) := dk_46 (dk_at dksL_law_20 22 rfl rfl)
theorem dL_law_639 : decode cL_law 639 = .ok (.invokevirtual 64, 3) := dk_182 0 64 (dk_at dksL_law_21 0 rfl rfl)
theorem dL_law_642 : decode cL_law 642 = .ok (.if_icmp .eq 882, 3) := dk_159 3 114 (dk_at dksL_law_21 3 rfl rfl)
theorem dL_law_645 : decode cL_law 645 = .ok (.iconst 0, 1) := dk_3 (dk_at dksL_law_21 6 rfl rfl)
theorem dL_law_646 : decode cL_law 646 = .ok (.ireturn, 1) := dk_172 (dk_at dksL_law_21 7 rfl rfl)
theorem dL_law_647 : decode cL_law 647 = .ok (.aload_n 1, 1) := dk_43 (dk_at dksL_law_21 8 rfl rfl)
theorem dL_law_648 : decode cL_law 648 = .ok (.aload_n 0, 1) := dk_42 (dk_at dksL_law_21 9 rfl rfl)
theorem dL_law_649 : decode cL_law 649 = .ok (.iload_n 3, 1) := dk_29 (dk_at dksL_law_21 10 rfl rfl)
theorem dL_law_650 : decode cL_law 650 = .ok (.iconst 1, 1) := dk_4 (dk_at dksL_law_21 11 rfl rfl)
theorem dL_law_651 : decode cL_law 651 = .ok (.iadd, 1) := dk_96 (dk_at dksL_law_21 12 rfl rfl)
theorem dL_law_652 : decode cL_law 652 = .ok (.iaload, 1) := dk_46 (dk_at dksL_law_21 13 rfl rfl)
theorem dL_law_653 : decode cL_law 653 = .ok (.aload_n 0, 1) := dk_42 (dk_at dksL_law_21 14 rfl rfl)
theorem dL_law_654 : decode cL_law 654 = .ok (.iload_n 3, 1) := dk_29 (dk_at dksL_law_21 15 rfl rfl)
theorem dL_law_655 : decode cL_law 655 = .ok (.iconst 2, 1) := dk_5 (dk_at dksL_law_21 16 rfl rfl)
theorem dL_law_656 : decode cL_law 656 = .ok (.iadd, 1) := dk_96 (dk_at dksL_law_21 17 rfl rfl)
theorem dL_law_657 : decode cL_law 657 = .ok (.iaload, 1) := dk_46 (dk_at dksL_law_21 18 rfl rfl)
theorem dL_law_658 : decode cL_law 658 = .ok (.invokevirtual 65, 3) := dk_182 0 65 (dk_at dksL_law_21 19 rfl rfl)
theorem dL_law_661 : decode cL_law 661 = .ok (.aload_n 2, 1) := dk_44 (dk_at dksL_law_21 22 rfl rfl)
theorem dL_law_662 : decode cL_law 662 = .ok (.aload_n 0, 1) := dk_42 (dk_at dksL_law_21 23 rfl rfl)
theorem dL_law_663 : decode cL_law 663 = .ok (.iload_n 3, 1) := dk_29 (dk_at dksL_law_22 0 rfl rfl)
theorem dL_law_664 : decode cL_law 664 = .ok (.iconst 1, 1) := dk_4 (dk_at dksL_law_22 1 rfl rfl)
theorem dL_law_665 : decode cL_law 665 = .ok (.iadd, 1) := dk_96 (dk_at dksL_law_22 2 rfl rfl)
theorem dL_law_666 : decode cL_law 666 = .ok (.iaload, 1) := dk_46 (dk_at dksL_law_22 3 rfl rfl)
theorem dL_law_667 : decode cL_law 667 = .ok (.aload_n 0, 1) := dk_42 (dk_at dksL_law_22 4 rfl rfl)
theorem dL_law_668 : decode cL_law 668 = .ok (.iload_n 3, 1) := dk_29 (dk_at dksL_law_22 5 rfl rfl)
theorem dL_law_669 : decode cL_law 669 = .ok (.iconst 2, 1) := dk_5 (dk_at dksL_law_22 6 rfl rfl)
theorem dL_law_670 : decode cL_law 670 = .ok (.iadd, 1) := dk_96 (dk_at dksL_law_22 7 rfl rfl)
theorem dL_law_671 : decode cL_law 671 = .ok (.iaload, 1) := dk_46 (dk_at dksL_law_22 8 rfl rfl)
theorem dL_law_672 : decode cL_law 672 = .ok (.invokevirtual 68, 3) := dk_182 0 68 (dk_at dksL_law_22 9 rfl rfl)
theorem dL_law_675 : decode cL_law 675 = .ok (.if_icmp .eq 849, 3) := dk_159 3 81 (dk_at dksL_law_22 12 rfl rfl)
theorem dL_law_678 : decode cL_law 678 = .ok (.iconst 0, 1) := dk_3 (dk_at dksL_law_22 15 rfl rfl)
theorem dL_law_679 : decode cL_law 679 = .ok (.ireturn, 1) := dk_172 (dk_at dksL_law_22 16 rfl rfl)
theorem dL_law_680 : decode cL_law 680 = .ok (.aload_n 1, 1) := dk_43 (dk_at dksL_law_22 17 rfl rfl)
theorem dL_law_681 : decode cL_law 681 = .ok (.aload_n 0, 1) := dk_42 (dk_at dksL_law_22 18 rfl rfl)
theorem dL_law_682 : decode cL_law 682 = .ok (.iload_n 3, 1) := dk_29 (dk_at dksL_law_22 19 rfl rfl)
theorem dL_law_683 : decode cL_law 683 = .ok (.iconst 1, 1) := dk_4 (dk_at dksL_law_22 20 rfl rfl)
theorem dL_law_684 : decode cL_law 684 = .ok (.iadd, 1) := dk_96 (dk_at dksL_law_22 21 rfl rfl)
theorem dL_law_685 : decode cL_law 685 = .ok (.iaload, 1) := dk_46 (dk_at dksL_law_22 22 rfl rfl)
theorem dL_law_686 : decode cL_law 686 = .ok (.invokevirtual 69, 3) := dk_182 0 69 (dk_at dksL_law_23 0 rfl rfl)
theorem dL_law_689 : decode cL_law 689 = .ok (.aload_n 2, 1) := dk_44 (dk_at dksL_law_23 3 rfl rfl)
theorem dL_law_690 : decode cL_law 690 = .ok (.aload_n 0, 1) := dk_42 (dk_at dksL_law_23 4 rfl rfl)
theorem dL_law_691 : decode cL_law 691 = .ok (.iload_n 3, 1) := dk_29 (dk_at dksL_law_23 5 rfl rfl)
theorem dL_law_692 : decode cL_law 692 = .ok (.iconst 1, 1) := dk_4 (dk_at dksL_law_23 6 rfl rfl)
theorem dL_law_693 : decode cL_law 693 = .ok (.iadd, 1) := dk_96 (dk_at dksL_law_23 7 rfl rfl)
theorem dL_law_694 : decode cL_law 694 = .ok (.iaload, 1) := dk_46 (dk_at dksL_law_23 8 rfl rfl)
theorem dL_law_695 : decode cL_law 695 = .ok (.invokevirtual 73, 3) := dk_182 0 73 (dk_at dksL_law_23 9 rfl rfl)
theorem dL_law_698 : decode cL_law 698 = .ok (.if_icmp .eq 826, 3) := dk_159 3 58 (dk_at dksL_law_23 12 rfl rfl)
theorem dL_law_701 : decode cL_law 701 = .ok (.iconst 0, 1) := dk_3 (dk_at dksL_law_23 15 rfl rfl)
theorem dL_law_702 : decode cL_law 702 = .ok (.ireturn, 1) := dk_172 (dk_at dksL_law_23 16 rfl rfl)
theorem dL_law_703 : decode cL_law 703 = .ok (.aload_n 1, 1) := dk_43 (dk_at dksL_law_23 17 rfl rfl)
theorem dL_law_704 : decode cL_law 704 = .ok (.aload_n 0, 1) := dk_42 (dk_at dksL_law_23 18 rfl rfl)
theorem dL_law_705 : decode cL_law 705 = .ok (.iload_n 3, 1) := dk_29 (dk_at dksL_law_23 19 rfl rfl)
theorem dL_law_706 : decode cL_law 706 = .ok (.iconst 1, 1) := dk_4 (dk_at dksL_law_23 20 rfl rfl)
theorem dL_law_707 : decode cL_law 707 = .ok (.iadd, 1) := dk_96 (dk_at dksL_law_23 21 rfl rfl)
theorem dL_law_708 : decode cL_law 708 = .ok (.iaload, 1) := dk_46 (dk_at dksL_law_23 22 rfl rfl)
theorem dL_law_709 : decode cL_law 709 = .ok (.invokevirtual 74, 3) := dk_182 0 74 (dk_at dksL_law_24 0 rfl rfl)
theorem dL_law_712 : decode cL_law 712 = .ok (.aload_n 2, 1) := dk_44 (dk_at dksL_law_24 3 rfl rfl)
theorem dL_law_713 : decode cL_law 713 = .ok (.aload_n 0, 1) := dk_42 (dk_at dksL_law_24 4 rfl rfl)
theorem dL_law_714 : decode cL_law 714 = .ok (.iload_n 3, 1) := dk_29 (dk_at dksL_law_24 5 rfl rfl)
theorem dL_law_715 : decode cL_law 715 = .ok (.iconst 1, 1) := dk_4 (dk_at dksL_law_24 6 rfl rfl)
theorem dL_law_716 : decode cL_law 716 = .ok (.iadd, 1) := dk_96 (dk_at dksL_law_24 7 rfl rfl)
theorem dL_law_717 : decode cL_law 717 = .ok (.iaload, 1) := dk_46 (dk_at dksL_law_24 8 rfl rfl)
theorem dL_law_718 : decode cL_law 718 = .ok (.invokevirtual 77, 3) := dk_182 0 77 (dk_at dksL_law_24 9 rfl rfl)
theorem dL_law_721 : decode cL_law 721 = .ok (.if_icmp .eq 803, 3) := dk_159 3 35 (dk_at dksL_law_24 12 rfl rfl)
theorem dL_law_724 : decode cL_law 724 = .ok (.iconst 0, 1) := dk_3 (dk_at dksL_law_24 15 rfl rfl)
theorem dL_law_725 : decode cL_law 725 = .ok (.ireturn, 1) := dk_172 (dk_at dksL_law_24 16 rfl rfl)
theorem dL_law_726 : decode cL_law 726 = .ok (.aload_n 1, 1) := dk_43 (dk_at dksL_law_24 17 rfl rfl)
theorem dL_law_727 : decode cL_law 727 = .ok (.invokevirtual 78, 3) := dk_182 0 78 (dk_at dksL_law_24 18 rfl rfl)
theorem dL_law_730 : decode cL_law 730 = .ok (.aload_n 2, 1) := dk_44 (dk_at dksL_law_24 21 rfl rfl)
theorem dL_law_731 : decode cL_law 731 = .ok (.invokevirtual 81, 3) := dk_182 0 81 (dk_at dksL_law_25 0 rfl rfl)
theorem dL_law_734 : decode cL_law 734 = .ok (.if_icmp .eq 790, 3) := dk_159 3 22 (dk_at dksL_law_25 3 rfl rfl)
theorem dL_law_737 : decode cL_law 737 = .ok (.iconst 0, 1) := dk_3 (dk_at dksL_law_25 6 rfl rfl)
theorem dL_law_738 : decode cL_law 738 = .ok (.ireturn, 1) := dk_172 (dk_at dksL_law_25 7 rfl rfl)
theorem dL_law_739 : decode cL_law 739 = .ok (.aload_n 1, 1) := dk_43 (dk_at dksL_law_25 8 rfl rfl)
theorem dL_law_740 : decode cL_law 740 = .ok (.aload_n 0, 1) := dk_42 (dk_at dksL_law_25 9 rfl rfl)
theorem dL_law_741 : decode cL_law 741 = .ok (.iload_n 3, 1) := dk_29 (dk_at dksL_law_25 10 rfl rfl)
theorem dL_law_742 : decode cL_law 742 = .ok (.iconst 1, 1) := dk_4 (dk_at dksL_law_25 11 rfl rfl)
theorem dL_law_743 : decode cL_law 743 = .ok (.iadd, 1) := dk_96 (dk_at dksL_law_25 12 rfl rfl)
theorem dL_law_744 : decode cL_law 744 = .ok (.iaload, 1) := dk_46 (dk_at dksL_law_25 13 rfl rfl)
theorem dL_law_745 : decode cL_law 745 = .ok (.aload_n 0, 1) := dk_42 (dk_at dksL_law_25 14 rfl rfl)
theorem dL_law_746 : decode cL_law 746 = .ok (.iload_n 3, 1) := dk_29 (dk_at dksL_law_25 15 rfl rfl)
theorem dL_law_747 : decode cL_law 747 = .ok (.iconst 2, 1) := dk_5 (dk_at dksL_law_25 16 rfl rfl)
theorem dL_law_748 : decode cL_law 748 = .ok (.iadd, 1) := dk_96 (dk_at dksL_law_25 17 rfl rfl)
theorem dL_law_749 : decode cL_law 749 = .ok (.iaload, 1) := dk_46 (dk_at dksL_law_25 18 rfl rfl)
theorem dL_law_750 : decode cL_law 750 = .ok (.invokevirtual 82, 3) := dk_182 0 82 (dk_at dksL_law_25 19 rfl rfl)
theorem dL_law_753 : decode cL_law 753 = .ok (.aload_n 2, 1) := dk_44 (dk_at dksL_law_25 22 rfl rfl)
theorem dL_law_754 : decode cL_law 754 = .ok (.aload_n 0, 1) := dk_42 (dk_at dksL_law_25 23 rfl rfl)
theorem dL_law_755 : decode cL_law 755 = .ok (.iload_n 3, 1) := dk_29 (dk_at dksL_law_26 0 rfl rfl)
theorem dL_law_756 : decode cL_law 756 = .ok (.iconst 1, 1) := dk_4 (dk_at dksL_law_26 1 rfl rfl)
theorem dL_law_757 : decode cL_law 757 = .ok (.iadd, 1) := dk_96 (dk_at dksL_law_26 2 rfl rfl)
theorem dL_law_758 : decode cL_law 758 = .ok (.iaload, 1) := dk_46 (dk_at dksL_law_26 3 rfl rfl)
theorem dL_law_759 : decode cL_law 759 = .ok (.aload_n 0, 1) := dk_42 (dk_at dksL_law_26 4 rfl rfl)
theorem dL_law_760 : decode cL_law 760 = .ok (.iload_n 3, 1) := dk_29 (dk_at dksL_law_26 5 rfl rfl)
theorem dL_law_761 : decode cL_law 761 = .ok (.iconst 2, 1) := dk_5 (dk_at dksL_law_26 6 rfl rfl)
theorem dL_law_762 : decode cL_law 762 = .ok (.iadd, 1) := dk_96 (dk_at dksL_law_26 7 rfl rfl)
theorem dL_law_763 : decode cL_law 763 = .ok (.iaload, 1) := dk_46 (dk_at dksL_law_26 8 rfl rfl)
theorem dL_law_764 : decode cL_law 764 = .ok (.invokevirtual 85, 3) := dk_182 0 85 (dk_at dksL_law_26 9 rfl rfl)
theorem dL_law_767 : decode cL_law 767 = .ok (.if_icmp .eq 757, 3) := dk_159 2 245 (dk_at dksL_law_26 12 rfl rfl)
theorem dL_law_770 : decode cL_law 770 = .ok (.iconst 0, 1) := dk_3 (dk_at dksL_law_26 15 rfl rfl)
theorem dL_law_771 : decode cL_law 771 = .ok (.ireturn, 1) := dk_172 (dk_at dksL_law_26 16 rfl rfl)
theorem dL_law_772 : decode cL_law 772 = .ok (.aload_n 1, 1) := dk_43 (dk_at dksL_law_26 17 rfl rfl)
theorem dL_law_773 : decode cL_law 773 = .ok (.aload_n 0, 1) := dk_42 (dk_at dksL_law_26 18 rfl rfl)
theorem dL_law_774 : decode cL_law 774 = .ok (.iload_n 3, 1) := dk_29 (dk_at dksL_law_26 19 rfl rfl)
theorem dL_law_775 : decode cL_law 775 = .ok (.iconst 1, 1) := dk_4 (dk_at dksL_law_26 20 rfl rfl)
theorem dL_law_776 : decode cL_law 776 = .ok (.iadd, 1) := dk_96 (dk_at dksL_law_26 21 rfl rfl)
theorem dL_law_777 : decode cL_law 777 = .ok (.iaload, 1) := dk_46 (dk_at dksL_law_26 22 rfl rfl)
theorem dL_law_778 : decode cL_law 778 = .ok (.aload_n 0, 1) := dk_42 (dk_at dksL_law_26 23 rfl rfl)
theorem dL_law_779 : decode cL_law 779 = .ok (.iload_n 3, 1) := dk_29 (dk_at dksL_law_27 0 rfl rfl)
theorem dL_law_780 : decode cL_law 780 = .ok (.iconst 2, 1) := dk_5 (dk_at dksL_law_27 1 rfl rfl)
theorem dL_law_781 : decode cL_law 781 = .ok (.iadd, 1) := dk_96 (dk_at dksL_law_27 2 rfl rfl)
theorem dL_law_782 : decode cL_law 782 = .ok (.iaload, 1) := dk_46 (dk_at dksL_law_27 3 rfl rfl)
theorem dL_law_783 : decode cL_law 783 = .ok (.invokevirtual 86, 3) := dk_182 0 86 (dk_at dksL_law_27 4 rfl rfl)
theorem dL_law_786 : decode cL_law 786 = .ok (.aload_n 2, 1) := dk_44 (dk_at dksL_law_27 7 rfl rfl)
theorem dL_law_787 : decode cL_law 787 = .ok (.aload_n 0, 1) := dk_42 (dk_at dksL_law_27 8 rfl rfl)
theorem dL_law_788 : decode cL_law 788 = .ok (.iload_n 3, 1) := dk_29 (dk_at dksL_law_27 9 rfl rfl)
theorem dL_law_789 : decode cL_law 789 = .ok (.iconst 1, 1) := dk_4 (dk_at dksL_law_27 10 rfl rfl)
theorem dL_law_790 : decode cL_law 790 = .ok (.iadd, 1) := dk_96 (dk_at dksL_law_27 11 rfl rfl)
theorem dL_law_791 : decode cL_law 791 = .ok (.iaload, 1) := dk_46 (dk_at dksL_law_27 12 rfl rfl)
theorem dL_law_792 : decode cL_law 792 = .ok (.aload_n 0, 1) := dk_42 (dk_at dksL_law_27 13 rfl rfl)
theorem dL_law_793 : decode cL_law 793 = .ok (.iload_n 3, 1) := dk_29 (dk_at dksL_law_27 14 rfl rfl)
theorem dL_law_794 : decode cL_law 794 = .ok (.iconst 2, 1) := dk_5 (dk_at dksL_law_27 15 rfl rfl)
theorem dL_law_795 : decode cL_law 795 = .ok (.iadd, 1) := dk_96 (dk_at dksL_law_27 16 rfl rfl)
theorem dL_law_796 : decode cL_law 796 = .ok (.iaload, 1) := dk_46 (dk_at dksL_law_27 17 rfl rfl)
theorem dL_law_797 : decode cL_law 797 = .ok (.invokevirtual 89, 3) := dk_182 0 89 (dk_at dksL_law_27 18 rfl rfl)
theorem dL_law_800 : decode cL_law 800 = .ok (.if_icmp .eq 724, 3) := dk_159 2 212 (dk_at dksL_law_27 21 rfl rfl)
theorem dL_law_803 : decode cL_law 803 = .ok (.iconst 0, 1) := dk_3 (dk_at dksL_law_28 0 rfl rfl)
theorem dL_law_804 : decode cL_law 804 = .ok (.ireturn, 1) := dk_172 (dk_at dksL_law_28 1 rfl rfl)
theorem dL_law_805 : decode cL_law 805 = .ok (.aload_n 1, 1) := dk_43 (dk_at dksL_law_28 2 rfl rfl)
theorem dL_law_806 : decode cL_law 806 = .ok (.aload_n 0, 1) := dk_42 (dk_at dksL_law_28 3 rfl rfl)
theorem dL_law_807 : decode cL_law 807 = .ok (.iload_n 3, 1) := dk_29 (dk_at dksL_law_28 4 rfl rfl)
theorem dL_law_808 : decode cL_law 808 = .ok (.iconst 1, 1) := dk_4 (dk_at dksL_law_28 5 rfl rfl)
theorem dL_law_809 : decode cL_law 809 = .ok (.iadd, 1) := dk_96 (dk_at dksL_law_28 6 rfl rfl)
theorem dL_law_810 : decode cL_law 810 = .ok (.iaload, 1) := dk_46 (dk_at dksL_law_28 7 rfl rfl)
theorem dL_law_811 : decode cL_law 811 = .ok (.aload_n 0, 1) := dk_42 (dk_at dksL_law_28 8 rfl rfl)
theorem dL_law_812 : decode cL_law 812 = .ok (.iload_n 3, 1) := dk_29 (dk_at dksL_law_28 9 rfl rfl)
theorem dL_law_813 : decode cL_law 813 = .ok (.iconst 2, 1) := dk_5 (dk_at dksL_law_28 10 rfl rfl)
theorem dL_law_814 : decode cL_law 814 = .ok (.iadd, 1) := dk_96 (dk_at dksL_law_28 11 rfl rfl)
theorem dL_law_815 : decode cL_law 815 = .ok (.iaload, 1) := dk_46 (dk_at dksL_law_28 12 rfl rfl)
theorem dL_law_816 : decode cL_law 816 = .ok (.invokevirtual 90, 3) := dk_182 0 90 (dk_at dksL_law_28 13 rfl rfl)
theorem dL_law_819 : decode cL_law 819 = .ok (.aload_n 2, 1) := dk_44 (dk_at dksL_law_28 16 rfl rfl)
theorem dL_law_820 : decode cL_law 820 = .ok (.aload_n 0, 1) := dk_42 (dk_at dksL_law_28 17 rfl rfl)
theorem dL_law_821 : decode cL_law 821 = .ok (.iload_n 3, 1) := dk_29 (dk_at dksL_law_28 18 rfl rfl)
theorem dL_law_822 : decode cL_law 822 = .ok (.iconst 1, 1) := dk_4 (dk_at dksL_law_28 19 rfl rfl)
theorem dL_law_823 : decode cL_law 823 = .ok (.iadd, 1) := dk_96 (dk_at dksL_law_28 20 rfl rfl)
theorem dL_law_824 : decode cL_law 824 = .ok (.iaload, 1) := dk_46 (dk_at dksL_law_28 21 rfl rfl)
theorem dL_law_825 : decode cL_law 825 = .ok (.aload_n 0, 1) := dk_42 (dk_at dksL_law_28 22 rfl rfl)
theorem dL_law_826 : decode cL_law 826 = .ok (.iload_n 3, 1) := dk_29 (dk_at dksL_law_28 23 rfl rfl)
theorem dL_law_827 : decode cL_law 827 = .ok (.iconst 2, 1) := dk_5 (dk_at dksL_law_29 0 rfl rfl)
theorem dL_law_828 : decode cL_law 828 = .ok (.iadd, 1) := dk_96 (dk_at dksL_law_29 1 rfl rfl)
theorem dL_law_829 : decode cL_law 829 = .ok (.iaload, 1) := dk_46 (dk_at dksL_law_29 2 rfl rfl)
theorem dL_law_830 : decode cL_law 830 = .ok (.invokevirtual 93, 3) := dk_182 0 93 (dk_at dksL_law_29 3 rfl rfl)
theorem dL_law_833 : decode cL_law 833 = .ok (.if_icmp .eq 691, 3) := dk_159 2 179 (dk_at dksL_law_29 6 rfl rfl)
theorem dL_law_836 : decode cL_law 836 = .ok (.iconst 0, 1) := dk_3 (dk_at dksL_law_29 9 rfl rfl)
theorem dL_law_837 : decode cL_law 837 = .ok (.ireturn, 1) := dk_172 (dk_at dksL_law_29 10 rfl rfl)
theorem dL_law_838 : decode cL_law 838 = .ok (.aload_n 1, 1) := dk_43 (dk_at dksL_law_29 11 rfl rfl)
theorem dL_law_839 : decode cL_law 839 = .ok (.aload_n 0, 1) := dk_42 (dk_at dksL_law_29 12 rfl rfl)
theorem dL_law_840 : decode cL_law 840 = .ok (.iload_n 3, 1) := dk_29 (dk_at dksL_law_29 13 rfl rfl)
theorem dL_law_841 : decode cL_law 841 = .ok (.iconst 1, 1) := dk_4 (dk_at dksL_law_29 14 rfl rfl)
theorem dL_law_842 : decode cL_law 842 = .ok (.iadd, 1) := dk_96 (dk_at dksL_law_29 15 rfl rfl)
theorem dL_law_843 : decode cL_law 843 = .ok (.iaload, 1) := dk_46 (dk_at dksL_law_29 16 rfl rfl)
theorem dL_law_844 : decode cL_law 844 = .ok (.aload_n 0, 1) := dk_42 (dk_at dksL_law_29 17 rfl rfl)
theorem dL_law_845 : decode cL_law 845 = .ok (.iload_n 3, 1) := dk_29 (dk_at dksL_law_29 18 rfl rfl)
theorem dL_law_846 : decode cL_law 846 = .ok (.iconst 2, 1) := dk_5 (dk_at dksL_law_29 19 rfl rfl)
theorem dL_law_847 : decode cL_law 847 = .ok (.iadd, 1) := dk_96 (dk_at dksL_law_29 20 rfl rfl)
theorem dL_law_848 : decode cL_law 848 = .ok (.iaload, 1) := dk_46 (dk_at dksL_law_29 21 rfl rfl)
theorem dL_law_849 : decode cL_law 849 = .ok (.invokevirtual 94, 3) := dk_182 0 94 (dk_at dksL_law_30 0 rfl rfl)
theorem dL_law_852 : decode cL_law 852 = .ok (.aload_n 2, 1) := dk_44 (dk_at dksL_law_30 3 rfl rfl)
theorem dL_law_853 : decode cL_law 853 = .ok (.aload_n 0, 1) := dk_42 (dk_at dksL_law_30 4 rfl rfl)
theorem dL_law_854 : decode cL_law 854 = .ok (.iload_n 3, 1) := dk_29 (dk_at dksL_law_30 5 rfl rfl)
theorem dL_law_855 : decode cL_law 855 = .ok (.iconst 1, 1) := dk_4 (dk_at dksL_law_30 6 rfl rfl)
theorem dL_law_856 : decode cL_law 856 = .ok (.iadd, 1) := dk_96 (dk_at dksL_law_30 7 rfl rfl)
theorem dL_law_857 : decode cL_law 857 = .ok (.iaload, 1) := dk_46 (dk_at dksL_law_30 8 rfl rfl)
theorem dL_law_858 : decode cL_law 858 = .ok (.aload_n 0, 1) := dk_42 (dk_at dksL_law_30 9 rfl rfl)
theorem dL_law_859 : decode cL_law 859 = .ok (.iload_n 3, 1) := dk_29 (dk_at dksL_law_30 10 rfl rfl)
theorem dL_law_860 : decode cL_law 860 = .ok (.iconst 2, 1) := dk_5 (dk_at dksL_law_30 11 rfl rfl)
theorem dL_law_861 : decode cL_law 861 = .ok (.iadd, 1) := dk_96 (dk_at dksL_law_30 12 rfl rfl)
theorem dL_law_862 : decode cL_law 862 = .ok (.iaload, 1) := dk_46 (dk_at dksL_law_30 13 rfl rfl)
theorem dL_law_863 : decode cL_law 863 = .ok (.invokevirtual 97, 3) := dk_182 0 97 (dk_at dksL_law_30 14 rfl rfl)
theorem dL_law_866 : decode cL_law 866 = .ok (.if_icmp .eq 658, 3) := dk_159 2 146 (dk_at dksL_law_30 17 rfl rfl)
theorem dL_law_869 : decode cL_law 869 = .ok (.iconst 0, 1) := dk_3 (dk_at dksL_law_30 20 rfl rfl)
theorem dL_law_870 : decode cL_law 870 = .ok (.ireturn, 1) := dk_172 (dk_at dksL_law_30 21 rfl rfl)
theorem dL_law_871 : decode cL_law 871 = .ok (.aload_n 1, 1) := dk_43 (dk_at dksL_law_30 22 rfl rfl)
theorem dL_law_872 : decode cL_law 872 = .ok (.aload_n 0, 1) := dk_42 (dk_at dksL_law_30 23 rfl rfl)
theorem dL_law_873 : decode cL_law 873 = .ok (.iload_n 3, 1) := dk_29 (dk_at dksL_law_31 0 rfl rfl)
theorem dL_law_874 : decode cL_law 874 = .ok (.iconst 1, 1) := dk_4 (dk_at dksL_law_31 1 rfl rfl)
theorem dL_law_875 : decode cL_law 875 = .ok (.iadd, 1) := dk_96 (dk_at dksL_law_31 2 rfl rfl)
theorem dL_law_876 : decode cL_law 876 = .ok (.iaload, 1) := dk_46 (dk_at dksL_law_31 3 rfl rfl)
theorem dL_law_877 : decode cL_law 877 = .ok (.aload_n 0, 1) := dk_42 (dk_at dksL_law_31 4 rfl rfl)
theorem dL_law_878 : decode cL_law 878 = .ok (.iload_n 3, 1) := dk_29 (dk_at dksL_law_31 5 rfl rfl)
theorem dL_law_879 : decode cL_law 879 = .ok (.iconst 2, 1) := dk_5 (dk_at dksL_law_31 6 rfl rfl)
theorem dL_law_880 : decode cL_law 880 = .ok (.iadd, 1) := dk_96 (dk_at dksL_law_31 7 rfl rfl)
theorem dL_law_881 : decode cL_law 881 = .ok (.iaload, 1) := dk_46 (dk_at dksL_law_31 8 rfl rfl)
theorem dL_law_882 : decode cL_law 882 = .ok (.invokevirtual 98, 3) := dk_182 0 98 (dk_at dksL_law_31 9 rfl rfl)
theorem dL_law_885 : decode cL_law 885 = .ok (.aload_n 2, 1) := dk_44 (dk_at dksL_law_31 12 rfl rfl)
theorem dL_law_886 : decode cL_law 886 = .ok (.aload_n 0, 1) := dk_42 (dk_at dksL_law_31 13 rfl rfl)
theorem dL_law_887 : decode cL_law 887 = .ok (.iload_n 3, 1) := dk_29 (dk_at dksL_law_31 14 rfl rfl)
theorem dL_law_888 : decode cL_law 888 = .ok (.iconst 1, 1) := dk_4 (dk_at dksL_law_31 15 rfl rfl)
theorem dL_law_889 : decode cL_law 889 = .ok (.iadd, 1) := dk_96 (dk_at dksL_law_31 16 rfl rfl)
theorem dL_law_890 : decode cL_law 890 = .ok (.iaload, 1) := dk_46 (dk_at dksL_law_31 17 rfl rfl)
theorem dL_law_891 : decode cL_law 891 = .ok (.aload_n 0, 1) := dk_42 (dk_at dksL_law_31 18 rfl rfl)
theorem dL_law_892 : decode cL_law 892 = .ok (.iload_n 3, 1) := dk_29 (dk_at dksL_law_31 19 rfl rfl)
theorem dL_law_893 : decode cL_law 893 = .ok (.iconst 2, 1) := dk_5 (dk_at dksL_law_31 20 rfl rfl)
theorem dL_law_894 : decode cL_law 894 = .ok (.iadd, 1) := dk_96 (dk_at dksL_law_31 21 rfl rfl)
theorem dL_law_895 : decode cL_law 895 = .ok (.iaload, 1) := dk_46 (dk_at dksL_law_31 22 rfl rfl)
theorem dL_law_896 : decode cL_law 896 = .ok (.invokevirtual 101, 3) := dk_182 0 101 (dk_at dksL_law_32 0 rfl rfl)
theorem dL_law_899 : decode cL_law 899 = .ok (.if_icmp .eq 625, 3) := dk_159 2 113 (dk_at dksL_law_32 3 rfl rfl)
theorem dL_law_902 : decode cL_law 902 = .ok (.iconst 0, 1) := dk_3 (dk_at dksL_law_32 6 rfl rfl)
theorem dL_law_903 : decode cL_law 903 = .ok (.ireturn, 1) := dk_172 (dk_at dksL_law_32 7 rfl rfl)
theorem dL_law_904 : decode cL_law 904 = .ok (.aload_n 1, 1) := dk_43 (dk_at dksL_law_32 8 rfl rfl)
theorem dL_law_905 : decode cL_law 905 = .ok (.aload_n 0, 1) := dk_42 (dk_at dksL_law_32 9 rfl rfl)
theorem dL_law_906 : decode cL_law 906 = .ok (.iload_n 3, 1) := dk_29 (dk_at dksL_law_32 10 rfl rfl)
theorem dL_law_907 : decode cL_law 907 = .ok (.iconst 1, 1) := dk_4 (dk_at dksL_law_32 11 rfl rfl)
theorem dL_law_908 : decode cL_law 908 = .ok (.iadd, 1) := dk_96 (dk_at dksL_law_32 12 rfl rfl)
theorem dL_law_909 : decode cL_law 909 = .ok (.iaload, 1) := dk_46 (dk_at dksL_law_32 13 rfl rfl)
theorem dL_law_910 : decode cL_law 910 = .ok (.aload_n 0, 1) := dk_42 (dk_at dksL_law_32 14 rfl rfl)
theorem dL_law_911 : decode cL_law 911 = .ok (.iload_n 3, 1) := dk_29 (dk_at dksL_law_32 15 rfl rfl)
theorem dL_law_912 : decode cL_law 912 = .ok (.iconst 2, 1) := dk_5 (dk_at dksL_law_32 16 rfl rfl)
theorem dL_law_913 : decode cL_law 913 = .ok (.iadd, 1) := dk_96 (dk_at dksL_law_32 17 rfl rfl)
theorem dL_law_914 : decode cL_law 914 = .ok (.iaload, 1) := dk_46 (dk_at dksL_law_32 18 rfl rfl)
theorem dL_law_915 : decode cL_law 915 = .ok (.ifCond .eq 7, 3) := dk_153 0 7 (dk_at dksL_law_32 19 rfl rfl)
theorem dL_law_918 : decode cL_law 918 = .ok (.iconst 1, 1) := dk_4 (dk_at dksL_law_32 22 rfl rfl)
theorem dL_law_919 : decode cL_law 919 = .ok (.goto 4, 3) := dk_167 0 4 (dk_at dksL_law_33 0 rfl rfl)
theorem dL_law_922 : decode cL_law 922 = .ok (.iconst 0, 1) := dk_3 (dk_at dksL_law_33 3 rfl rfl)
theorem dL_law_923 : decode cL_law 923 = .ok (.invokevirtual 102, 3) := dk_182 0 102 (dk_at dksL_law_33 4 rfl rfl)
theorem dL_law_926 : decode cL_law 926 = .ok (.aload_n 2, 1) := dk_44 (dk_at dksL_law_33 7 rfl rfl)
theorem dL_law_927 : decode cL_law 927 = .ok (.aload_n 0, 1) := dk_42 (dk_at dksL_law_33 8 rfl rfl)
theorem dL_law_928 : decode cL_law 928 = .ok (.iload_n 3, 1) := dk_29 (dk_at dksL_law_33 9 rfl rfl)
theorem dL_law_929 : decode cL_law 929 = .ok (.iconst 1, 1) := dk_4 (dk_at dksL_law_33 10 rfl rfl)
theorem dL_law_930 : decode cL_law 930 = .ok (.iadd, 1) := dk_96 (dk_at dksL_law_33 11 rfl rfl)
theorem dL_law_931 : decode cL_law 931 = .ok (.iaload, 1) := dk_46 (dk_at dksL_law_33 12 rfl rfl)
theorem dL_law_932 : decode cL_law 932 = .ok (.aload_n 0, 1) := dk_42 (dk_at dksL_law_33 13 rfl rfl)
theorem dL_law_933 : decode cL_law 933 = .ok (.iload_n 3, 1) := dk_29 (dk_at dksL_law_33 14 rfl rfl)
theorem dL_law_934 : decode cL_law 934 = .ok (.iconst 2, 1) := dk_5 (dk_at dksL_law_33 15 rfl rfl)
theorem dL_law_935 : decode cL_law 935 = .ok (.iadd, 1) := dk_96 (dk_at dksL_law_33 16 rfl rfl)
theorem dL_law_936 : decode cL_law 936 = .ok (.iaload, 1) := dk_46 (dk_at dksL_law_33 17 rfl rfl)
theorem dL_law_937 : decode cL_law 937 = .ok (.ifCond .eq 7, 3) := dk_153 0 7 (dk_at dksL_law_33 18 rfl rfl)
theorem dL_law_940 : decode cL_law 940 = .ok (.iconst 1, 1) := dk_4 (dk_at dksL_law_33 21 rfl rfl)
theorem dL_law_941 : decode cL_law 941 = .ok (.goto 4, 3) := dk_167 0 4 (dk_at dksL_law_34 0 rfl rfl)
theorem dL_law_944 : decode cL_law 944 = .ok (.iconst 0, 1) := dk_3 (dk_at dksL_law_34 3 rfl rfl)
theorem dL_law_945 : decode cL_law 945 = .ok (.invokevirtual 105, 3) := dk_182 0 105 (dk_at dksL_law_34 4 rfl rfl)
theorem dL_law_948 : decode cL_law 948 = .ok (.if_icmp .eq 576, 3) := dk_159 2 64 (dk_at dksL_law_34 7 rfl rfl)
theorem dL_law_951 : decode cL_law 951 = .ok (.iconst 0, 1) := dk_3 (dk_at dksL_law_34 10 rfl rfl)
theorem dL_law_952 : decode cL_law 952 = .ok (.ireturn, 1) := dk_172 (dk_at dksL_law_34 11 rfl rfl)
theorem dL_law_953 : decode cL_law 953 = .ok (.aload_n 1, 1) := dk_43 (dk_at dksL_law_34 12 rfl rfl)
theorem dL_law_954 : decode cL_law 954 = .ok (.invokevirtual 106, 3) := dk_182 0 106 (dk_at dksL_law_34 13 rfl rfl)
theorem dL_law_957 : decode cL_law 957 = .ok (.aload_n 2, 1) := dk_44 (dk_at dksL_law_34 16 rfl rfl)
theorem dL_law_958 : decode cL_law 958 = .ok (.invokevirtual 109, 3) := dk_182 0 109 (dk_at dksL_law_34 17 rfl rfl)
theorem dL_law_961 : decode cL_law 961 = .ok (.if_icmp .eq 563, 3) := dk_159 2 51 (dk_at dksL_law_34 20 rfl rfl)
theorem dL_law_964 : decode cL_law 964 = .ok (.iconst 0, 1) := dk_3 (dk_at dksL_law_34 23 rfl rfl)
theorem dL_law_965 : decode cL_law 965 = .ok (.ireturn, 1) := dk_172 (dk_at dksL_law_35 0 rfl rfl)
theorem dL_law_966 : decode cL_law 966 = .ok (.aload_n 1, 1) := dk_43 (dk_at dksL_law_35 1 rfl rfl)
theorem dL_law_967 : decode cL_law 967 = .ok (.aload_n 0, 1) := dk_42 (dk_at dksL_law_35 2 rfl rfl)
theorem dL_law_968 : decode cL_law 968 = .ok (.iload_n 3, 1) := dk_29 (dk_at dksL_law_35 3 rfl rfl)
theorem dL_law_969 : decode cL_law 969 = .ok (.iconst 1, 1) := dk_4 (dk_at dksL_law_35 4 rfl rfl)
theorem dL_law_970 : decode cL_law 970 = .ok (.iadd, 1) := dk_96 (dk_at dksL_law_35 5 rfl rfl)
theorem dL_law_971 : decode cL_law 971 = .ok (.iaload, 1) := dk_46 (dk_at dksL_law_35 6 rfl rfl)
theorem dL_law_972 : decode cL_law 972 = .ok (.aload_n 0, 1) := dk_42 (dk_at dksL_law_35 7 rfl rfl)
theorem dL_law_973 : decode cL_law 973 = .ok (.iload_n 3, 1) := dk_29 (dk_at dksL_law_35 8 rfl rfl)
theorem dL_law_974 : decode cL_law 974 = .ok (.iconst 2, 1) := dk_5 (dk_at dksL_law_35 9 rfl rfl)
theorem dL_law_975 : decode cL_law 975 = .ok (.iadd, 1) := dk_96 (dk_at dksL_law_35 10 rfl rfl)
theorem dL_law_976 : decode cL_law 976 = .ok (.iaload, 1) := dk_46 (dk_at dksL_law_35 11 rfl rfl)
theorem dL_law_977 : decode cL_law 977 = .ok (.invokevirtual 110, 3) := dk_182 0 110 (dk_at dksL_law_35 12 rfl rfl)
theorem dL_law_980 : decode cL_law 980 = .ok (.aload_n 2, 1) := dk_44 (dk_at dksL_law_35 15 rfl rfl)
theorem dL_law_981 : decode cL_law 981 = .ok (.aload_n 0, 1) := dk_42 (dk_at dksL_law_35 16 rfl rfl)
theorem dL_law_982 : decode cL_law 982 = .ok (.iload_n 3, 1) := dk_29 (dk_at dksL_law_35 17 rfl rfl)
theorem dL_law_983 : decode cL_law 983 = .ok (.iconst 1, 1) := dk_4 (dk_at dksL_law_35 18 rfl rfl)
theorem dL_law_984 : decode cL_law 984 = .ok (.iadd, 1) := dk_96 (dk_at dksL_law_35 19 rfl rfl)
theorem dL_law_985 : decode cL_law 985 = .ok (.iaload, 1) := dk_46 (dk_at dksL_law_35 20 rfl rfl)
theorem dL_law_986 : decode cL_law 986 = .ok (.aload_n 0, 1) := dk_42 (dk_at dksL_law_35 21 rfl rfl)
theorem dL_law_987 : decode cL_law 987 = .ok (.iload_n 3, 1) := dk_29 (dk_at dksL_law_35 22 rfl rfl)
theorem dL_law_988 : decode cL_law 988 = .ok (.iconst 2, 1) := dk_5 (dk_at dksL_law_35 23 rfl rfl)
theorem dL_law_989 : decode cL_law 989 = .ok (.iadd, 1) := dk_96 (dk_at dksL_law_36 0 rfl rfl)
theorem dL_law_990 : decode cL_law 990 = .ok (.iaload, 1) := dk_46 (dk_at dksL_law_36 1 rfl rfl)
theorem dL_law_991 : decode cL_law 991 = .ok (.invokevirtual 114, 3) := dk_182 0 114 (dk_at dksL_law_36 2 rfl rfl)
theorem dL_law_994 : decode cL_law 994 = .ok (.lcmp, 1) := dk_148 (dk_at dksL_law_36 5 rfl rfl)
theorem dL_law_995 : decode cL_law 995 = .ok (.ifCond .eq 529, 3) := dk_153 2 17 (dk_at dksL_law_36 6 rfl rfl)
theorem dL_law_998 : decode cL_law 998 = .ok (.iconst 0, 1) := dk_3 (dk_at dksL_law_36 9 rfl rfl)
theorem dL_law_999 : decode cL_law 999 = .ok (.ireturn, 1) := dk_172 (dk_at dksL_law_36 10 rfl rfl)
theorem dL_law_1000 : decode cL_law 1000 = .ok (.aload_n 1, 1) := dk_43 (dk_at dksL_law_36 11 rfl rfl)
theorem dL_law_1001 : decode cL_law 1001 = .ok (.invokevirtual 115, 3) := dk_182 0 115 (dk_at dksL_law_36 12 rfl rfl)
theorem dL_law_1004 : decode cL_law 1004 = .ok (.aload_n 2, 1) := dk_44 (dk_at dksL_law_36 15 rfl rfl)
theorem dL_law_1005 : decode cL_law 1005 = .ok (.invokevirtual 118, 3) := dk_182 0 118 (dk_at dksL_law_36 16 rfl rfl)
theorem dL_law_1008 : decode cL_law 1008 = .ok (.if_icmp .eq 516, 3) := dk_159 2 4 (dk_at dksL_law_36 19 rfl rfl)
theorem dL_law_1011 : decode cL_law 1011 = .ok (.iconst 0, 1) := dk_3 (dk_at dksL_law_36 22 rfl rfl)
theorem dL_law_1012 : decode cL_law 1012 = .ok (.ireturn, 1) := dk_172 (dk_at dksL_law_36 23 rfl rfl)
theorem dL_law_1013 : decode cL_law 1013 = .ok (.aload_n 1, 1) := dk_43 (dk_at dksL_law_37 0 rfl rfl)
theorem dL_law_1014 : decode cL_law 1014 = .ok (.aload_n 0, 1) := dk_42 (dk_at dksL_law_37 1 rfl rfl)
theorem dL_law_1015 : decode cL_law 1015 = .ok (.iload_n 3, 1) := dk_29 (dk_at dksL_law_37 2 rfl rfl)
theorem dL_law_1016 : decode cL_law 1016 = .ok (.iconst 1, 1) := dk_4 (dk_at dksL_law_37 3 rfl rfl)
theorem dL_law_1017 : decode cL_law 1017 = .ok (.iadd, 1) := dk_96 (dk_at dksL_law_37 4 rfl rfl)
theorem dL_law_1018 : decode cL_law 1018 = .ok (.iaload, 1) := dk_46 (dk_at dksL_law_37 5 rfl rfl)
theorem dL_law_1019 : decode cL_law 1019 = .ok (.invokevirtual 119, 3) := dk_182 0 119 (dk_at dksL_law_37 6 rfl rfl)
theorem dL_law_1022 : decode cL_law 1022 = .ok (.aload_n 2, 1) := dk_44 (dk_at dksL_law_37 9 rfl rfl)
theorem dL_law_1023 : decode cL_law 1023 = .ok (.aload_n 0, 1) := dk_42 (dk_at dksL_law_37 10 rfl rfl)
theorem dL_law_1024 : decode cL_law 1024 = .ok (.iload_n 3, 1) := dk_29 (dk_at dksL_law_37 11 rfl rfl)
theorem dL_law_1025 : decode cL_law 1025 = .ok (.iconst 1, 1) := dk_4 (dk_at dksL_law_37 12 rfl rfl)
theorem dL_law_1026 : decode cL_law 1026 = .ok (.iadd, 1) := dk_96 (dk_at dksL_law_37 13 rfl rfl)
theorem dL_law_1027 : decode cL_law 1027 = .ok (.iaload, 1) := dk_46 (dk_at dksL_law_37 14 rfl rfl)
theorem dL_law_1028 : decode cL_law 1028 = .ok (.invokevirtual 122, 3) := dk_182 0 122 (dk_at dksL_law_37 15 rfl rfl)
theorem dL_law_1031 : decode cL_law 1031 = .ok (.if_icmp .eq 493, 3) := dk_159 1 237 (dk_at dksL_law_37 18 rfl rfl)
theorem dL_law_1034 : decode cL_law 1034 = .ok (.iconst 0, 1) := dk_3 (dk_at dksL_law_37 21 rfl rfl)
theorem dL_law_1035 : decode cL_law 1035 = .ok (.ireturn, 1) := dk_172 (dk_at dksL_law_37 22 rfl rfl)
theorem dL_law_1036 : decode cL_law 1036 = .ok (.aload_n 1, 1) := dk_43 (dk_at dksL_law_37 23 rfl rfl)
theorem dL_law_1037 : decode cL_law 1037 = .ok (.invokevirtual 123, 3) := dk_182 0 123 (dk_at dksL_law_38 0 rfl rfl)
theorem dL_law_1040 : decode cL_law 1040 = .ok (.aload_n 2, 1) := dk_44 (dk_at dksL_law_38 3 rfl rfl)
theorem dL_law_1041 : decode cL_law 1041 = .ok (.invokevirtual 126, 3) := dk_182 0 126 (dk_at dksL_law_38 4 rfl rfl)
theorem dL_law_1044 : decode cL_law 1044 = .ok (.if_icmp .eq 480, 3) := dk_159 1 224 (dk_at dksL_law_38 7 rfl rfl)
theorem dL_law_1047 : decode cL_law 1047 = .ok (.iconst 0, 1) := dk_3 (dk_at dksL_law_38 10 rfl rfl)
theorem dL_law_1048 : decode cL_law 1048 = .ok (.ireturn, 1) := dk_172 (dk_at dksL_law_38 11 rfl rfl)
theorem dL_law_1049 : decode cL_law 1049 = .ok (.aload_n 1, 1) := dk_43 (dk_at dksL_law_38 12 rfl rfl)
theorem dL_law_1050 : decode cL_law 1050 = .ok (.invokevirtual 127, 3) := dk_182 0 127 (dk_at dksL_law_38 13 rfl rfl)
theorem dL_law_1053 : decode cL_law 1053 = .ok (.aload_n 2, 1) := dk_44 (dk_at dksL_law_38 16 rfl rfl)
theorem dL_law_1054 : decode cL_law 1054 = .ok (.invokevirtual 130, 3) := dk_182 0 130 (dk_at dksL_law_38 17 rfl rfl)
theorem dL_law_1057 : decode cL_law 1057 = .ok (.if_icmp .eq 467, 3) := dk_159 1 211 (dk_at dksL_law_38 20 rfl rfl)
theorem dL_law_1060 : decode cL_law 1060 = .ok (.iconst 0, 1) := dk_3 (dk_at dksL_law_38 23 rfl rfl)
theorem dL_law_1061 : decode cL_law 1061 = .ok (.ireturn, 1) := dk_172 (dk_at dksL_law_39 0 rfl rfl)
theorem dL_law_1062 : decode cL_law 1062 = .ok (.aload_n 1, 1) := dk_43 (dk_at dksL_law_39 1 rfl rfl)
theorem dL_law_1063 : decode cL_law 1063 = .ok (.aload_n 0, 1) := dk_42 (dk_at dksL_law_39 2 rfl rfl)
theorem dL_law_1064 : decode cL_law 1064 = .ok (.iload_n 3, 1) := dk_29 (dk_at dksL_law_39 3 rfl rfl)
theorem dL_law_1065 : decode cL_law 1065 = .ok (.iconst 1, 1) := dk_4 (dk_at dksL_law_39 4 rfl rfl)
theorem dL_law_1066 : decode cL_law 1066 = .ok (.iadd, 1) := dk_96 (dk_at dksL_law_39 5 rfl rfl)
theorem dL_law_1067 : decode cL_law 1067 = .ok (.iaload, 1) := dk_46 (dk_at dksL_law_39 6 rfl rfl)
theorem dL_law_1068 : decode cL_law 1068 = .ok (.aload_n 0, 1) := dk_42 (dk_at dksL_law_39 7 rfl rfl)
theorem dL_law_1069 : decode cL_law 1069 = .ok (.iload_n 3, 1) := dk_29 (dk_at dksL_law_39 8 rfl rfl)
theorem dL_law_1070 : decode cL_law 1070 = .ok (.iconst 2, 1) := dk_5 (dk_at dksL_law_39 9 rfl rfl)
theorem dL_law_1071 : decode cL_law 1071 = .ok (.iadd, 1) := dk_96 (dk_at dksL_law_39 10 rfl rfl)
theorem dL_law_1072 : decode cL_law 1072 = .ok (.iaload, 1) := dk_46 (dk_at dksL_law_39 11 rfl rfl)
theorem dL_law_1073 : decode cL_law 1073 = .ok (.invokevirtual 131, 3) := dk_182 0 131 (dk_at dksL_law_39 12 rfl rfl)
theorem dL_law_1076 : decode cL_law 1076 = .ok (.aload_n 2, 1) := dk_44 (dk_at dksL_law_39 15 rfl rfl)
theorem dL_law_1077 : decode cL_law 1077 = .ok (.aload_n 0, 1) := dk_42 (dk_at dksL_law_39 16 rfl rfl)
theorem dL_law_1078 : decode cL_law 1078 = .ok (.iload_n 3, 1) := dk_29 (dk_at dksL_law_39 17 rfl rfl)
theorem dL_law_1079 : decode cL_law 1079 = .ok (.iconst 1, 1) := dk_4 (dk_at dksL_law_39 18 rfl rfl)
theorem dL_law_1080 : decode cL_law 1080 = .ok (.iadd, 1) := dk_96 (dk_at dksL_law_39 19 rfl rfl)
theorem dL_law_1081 : decode cL_law 1081 = .ok (.iaload, 1) := dk_46 (dk_at dksL_law_39 20 rfl rfl)
theorem dL_law_1082 : decode cL_law 1082 = .ok (.aload_n 0, 1) := dk_42 (dk_at dksL_law_39 21 rfl rfl)
theorem dL_law_1083 : decode cL_law 1083 = .ok (.iload_n 3, 1) := dk_29 (dk_at dksL_law_39 22 rfl rfl)
theorem dL_law_1084 : decode cL_law 1084 = .ok (.iconst 2, 1) := dk_5 (dk_at dksL_law_39 23 rfl rfl)
theorem dL_law_1085 : decode cL_law 1085 = .ok (.iadd, 1) := dk_96 (dk_at dksL_law_40 0 rfl rfl)
theorem dL_law_1086 : decode cL_law 1086 = .ok (.iaload, 1) := dk_46 (dk_at dksL_law_40 1 rfl rfl)
theorem dL_law_1087 : decode cL_law 1087 = .ok (.invokevirtual 134, 3) := dk_182 0 134 (dk_at dksL_law_40 2 rfl rfl)
theorem dL_law_1090 : decode cL_law 1090 = .ok (.if_icmp .eq 434, 3) := dk_159 1 178 (dk_at dksL_law_40 5 rfl rfl)
theorem dL_law_1093 : decode cL_law 1093 = .ok (.iconst 0, 1) := dk_3 (dk_at dksL_law_40 8 rfl rfl)
theorem dL_law_1094 : decode cL_law 1094 = .ok (.ireturn, 1) := dk_172 (dk_at dksL_law_40 9 rfl rfl)
theorem dL_law_1095 : decode cL_law 1095 = .ok (.aload_n 1, 1) := dk_43 (dk_at dksL_law_40 10 rfl rfl)
theorem dL_law_1096 : decode cL_law 1096 = .ok (.aload_n 0, 1) := dk_42 (dk_at dksL_law_40 11 rfl rfl)
theorem dL_law_1097 : decode cL_law 1097 = .ok (.iload_n 3, 1) := dk_29 (dk_at dksL_law_40 12 rfl rfl)
theorem dL_law_1098 : decode cL_law 1098 = .ok (.iconst 1, 1) := dk_4 (dk_at dksL_law_40 13 rfl rfl)
theorem dL_law_1099 : decode cL_law 1099 = .ok (.iadd, 1) := dk_96 (dk_at dksL_law_40 14 rfl rfl)
theorem dL_law_1100 : decode cL_law 1100 = .ok (.iaload, 1) := dk_46 (dk_at dksL_law_40 15 rfl rfl)
theorem dL_law_1101 : decode cL_law 1101 = .ok (.aload_n 0, 1) := dk_42 (dk_at dksL_law_40 16 rfl rfl)
theorem dL_law_1102 : decode cL_law 1102 = .ok (.iload_n 3, 1) := dk_29 (dk_at dksL_law_40 17 rfl rfl)
theorem dL_law_1103 : decode cL_law 1103 = .ok (.iconst 2, 1) := dk_5 (dk_at dksL_law_40 18 rfl rfl)
theorem dL_law_1104 : decode cL_law 1104 = .ok (.iadd, 1) := dk_96 (dk_at dksL_law_40 19 rfl rfl)
theorem dL_law_1105 : decode cL_law 1105 = .ok (.iaload, 1) := dk_46 (dk_at dksL_law_40 20 rfl rfl)
theorem dL_law_1106 : decode cL_law 1106 = .ok (.aload_n 0, 1) := dk_42 (dk_at dksL_law_40 21 rfl rfl)
theorem dL_law_1107 : decode cL_law 1107 = .ok (.iload_n 3, 1) := dk_29 (dk_at dksL_law_40 22 rfl rfl)
theorem dL_law_1108 : decode cL_law 1108 = .ok (.iconst 3, 1) := dk_6 (dk_at dksL_law_40 23 rfl rfl)
theorem dL_law_1109 : decode cL_law 1109 = .ok (.iadd, 1) := dk_96 (dk_at dksL_law_41 0 rfl rfl)
theorem dL_law_1110 : decode cL_law 1110 = .ok (.iaload, 1) := dk_46 (dk_at dksL_law_41 1 rfl rfl)
theorem dL_law_1111 : decode cL_law 1111 = .ok (.invokevirtual 135, 3) := dk_182 0 135 (dk_at dksL_law_41 2 rfl rfl)
theorem dL_law_1114 : decode cL_law 1114 = .ok (.aload_n 2, 1) := dk_44 (dk_at dksL_law_41 5 rfl rfl)
theorem dL_law_1115 : decode cL_law 1115 = .ok (.aload_n 0, 1) := dk_42 (dk_at dksL_law_41 6 rfl rfl)
theorem dL_law_1116 : decode cL_law 1116 = .ok (.iload_n 3, 1) := dk_29 (dk_at dksL_law_41 7 rfl rfl)
theorem dL_law_1117 : decode cL_law 1117 = .ok (.iconst 1, 1) := dk_4 (dk_at dksL_law_41 8 rfl rfl)
theorem dL_law_1118 : decode cL_law 1118 = .ok (.iadd, 1) := dk_96 (dk_at dksL_law_41 9 rfl rfl)
theorem dL_law_1119 : decode cL_law 1119 = .ok (.iaload, 1) := dk_46 (dk_at dksL_law_41 10 rfl rfl)
theorem dL_law_1120 : decode cL_law 1120 = .ok (.aload_n 0, 1) := dk_42 (dk_at dksL_law_41 11 rfl rfl)
theorem dL_law_1121 : decode cL_law 1121 = .ok (.iload_n 3, 1) := dk_29 (dk_at dksL_law_41 12 rfl rfl)
theorem dL_law_1122 : decode cL_law 1122 = .ok (.iconst 2, 1) := dk_5 (dk_at dksL_law_41 13 rfl rfl)
theorem dL_law_1123 : decode cL_law 1123 = .ok (.iadd, 1) := dk_96 (dk_at dksL_law_41 14 rfl rfl)
theorem dL_law_1124 : decode cL_law 1124 = .ok (.iaload, 1) := dk_46 (dk_at dksL_law_41 15 rfl rfl)
theorem dL_law_1125 : decode cL_law 1125 = .ok (.aload_n 0, 1) := dk_42 (dk_at dksL_law_41 16 rfl rfl)
theorem dL_law_1126 : decode cL_law 1126 = .ok (.iload_n 3, 1) := dk_29 (dk_at dksL_law_41 17 rfl rfl)
theorem dL_law_1127 : decode cL_law 1127 = .ok (.iconst 3, 1) := dk_6 (dk_at dksL_law_41 18 rfl rfl)
theorem dL_law_1128 : decode cL_law 1128 = .ok (.iadd, 1) := dk_96 (dk_at dksL_law_41 19 rfl rfl)
theorem dL_law_1129 : decode cL_law 1129 = .ok (.iaload, 1) := dk_46 (dk_at dksL_law_41 20 rfl rfl)
theorem dL_law_1130 : decode cL_law 1130 = .ok (.invokevirtual 138, 3) := dk_182 0 138 (dk_at dksL_law_41 21 rfl rfl)
theorem dL_law_1133 : decode cL_law 1133 = .ok (.if_icmp .eq 391, 3) := dk_159 1 135 (dk_at dksL_law_42 0 rfl rfl)
theorem dL_law_1136 : decode cL_law 1136 = .ok (.iconst 0, 1) := dk_3 (dk_at dksL_law_42 3 rfl rfl)
theorem dL_law_1137 : decode cL_law 1137 = .ok (.ireturn, 1) := dk_172 (dk_at dksL_law_42 4 rfl rfl)
theorem dL_law_1138 : decode cL_law 1138 = .ok (.aload_n 1, 1) := dk_43 (dk_at dksL_law_42 5 rfl rfl)
theorem dL_law_1139 : decode cL_law 1139 = .ok (.invokevirtual 139, 3) := dk_182 0 139 (dk_at dksL_law_42 6 rfl rfl)
theorem dL_law_1142 : decode cL_law 1142 = .ok (.aload_n 2, 1) := dk_44 (dk_at dksL_law_42 9 rfl rfl)
theorem dL_law_1143 : decode cL_law 1143 = .ok (.invokevirtual 142, 3) := dk_182 0 142 (dk_at dksL_law_42 10 rfl rfl)
theorem dL_law_1146 : decode cL_law 1146 = .ok (.if_icmp .eq 378, 3) := dk_159 1 122 (dk_at dksL_law_42 13 rfl rfl)
theorem dL_law_1149 : decode cL_law 1149 = .ok (.iconst 0, 1) := dk_3 (dk_at dksL_law_42 16 rfl rfl)
theorem dL_law_1150 : decode cL_law 1150 = .ok (.ireturn, 1) := dk_172 (dk_at dksL_law_42 17 rfl rfl)
theorem dL_law_1151 : decode cL_law 1151 = .ok (.aload_n 1, 1) := dk_43 (dk_at dksL_law_42 18 rfl rfl)
theorem dL_law_1152 : decode cL_law 1152 = .ok (.aload_n 0, 1) := dk_42 (dk_at dksL_law_42 19 rfl rfl)
theorem dL_law_1153 : decode cL_law 1153 = .ok (.iload_n 3, 1) := dk_29 (dk_at dksL_law_42 20 rfl rfl)
theorem dL_law_1154 : decode cL_law 1154 = .ok (.iconst 1, 1) := dk_4 (dk_at dksL_law_42 21 rfl rfl)
theorem dL_law_1155 : decode cL_law 1155 = .ok (.iadd, 1) := dk_96 (dk_at dksL_law_42 22 rfl rfl)
theorem dL_law_1156 : decode cL_law 1156 = .ok (.iaload, 1) := dk_46 (dk_at dksL_law_42 23 rfl rfl)
theorem dL_law_1157 : decode cL_law 1157 = .ok (.aload_n 0, 1) := dk_42 (dk_at dksL_law_43 0 rfl rfl)
theorem dL_law_1158 : decode cL_law 1158 = .ok (.iload_n 3, 1) := dk_29 (dk_at dksL_law_43 1 rfl rfl)
theorem dL_law_1159 : decode cL_law 1159 = .ok (.iconst 2, 1) := dk_5 (dk_at dksL_law_43 2 rfl rfl)
theorem dL_law_1160 : decode cL_law 1160 = .ok (.iadd, 1) := dk_96 (dk_at dksL_law_43 3 rfl rfl)
theorem dL_law_1161 : decode cL_law 1161 = .ok (.iaload, 1) := dk_46 (dk_at dksL_law_43 4 rfl rfl)
theorem dL_law_1162 : decode cL_law 1162 = .ok (.aload_n 0, 1) := dk_42 (dk_at dksL_law_43 5 rfl rfl)
theorem dL_law_1163 : decode cL_law 1163 = .ok (.iload_n 3, 1) := dk_29 (dk_at dksL_law_43 6 rfl rfl)
theorem dL_law_1164 : decode cL_law 1164 = .ok (.iconst 3, 1) := dk_6 (dk_at dksL_law_43 7 rfl rfl)
theorem dL_law_1165 : decode cL_law 1165 = .ok (.iadd, 1) := dk_96 (dk_at dksL_law_43 8 rfl rfl)
theorem dL_law_1166 : decode cL_law 1166 = .ok (.iaload, 1) := dk_46 (dk_at dksL_law_43 9 rfl rfl)
theorem dL_law_1167 : decode cL_law 1167 = .ok (.aload_n 0, 1) := dk_42 (dk_at dksL_law_43 10 rfl rfl)
theorem dL_law_1168 : decode cL_law 1168 = .ok (.iload_n 3, 1) := dk_29 (dk_at dksL_law_43 11 rfl rfl)
theorem dL_law_1169 : decode cL_law 1169 = .ok (.iconst 4, 1) := dk_7 (dk_at dksL_law_43 12 rfl rfl)
theorem dL_law_1170 : decode cL_law 1170 = .ok (.iadd, 1) := dk_96 (dk_at dksL_law_43 13 rfl rfl)
theorem dL_law_1171 : decode cL_law 1171 = .ok (.iaload, 1) := dk_46 (dk_at dksL_law_43 14 rfl rfl)
theorem dL_law_1172 : decode cL_law 1172 = .ok (.invokevirtual 143, 3) := dk_182 0 143 (dk_at dksL_law_43 15 rfl rfl)
theorem dL_law_1175 : decode cL_law 1175 = .ok (.aload_n 2, 1) := dk_44 (dk_at dksL_law_43 18 rfl rfl)
theorem dL_law_1176 : decode cL_law 1176 = .ok (.aload_n 0, 1) := dk_42 (dk_at dksL_law_43 19 rfl rfl)
theorem dL_law_1177 : decode cL_law 1177 = .ok (.iload_n 3, 1) := dk_29 (dk_at dksL_law_43 20 rfl rfl)
theorem dL_law_1178 : decode cL_law 1178 = .ok (.iconst 1, 1) := dk_4 (dk_at dksL_law_43 21 rfl rfl)
theorem dL_law_1179 : decode cL_law 1179 = .ok (.iadd, 1) := dk_96 (dk_at dksL_law_43 22 rfl rfl)
theorem dL_law_1180 : decode cL_law 1180 = .ok (.iaload, 1) := dk_46 (dk_at dksL_law_43 23 rfl rfl)
theorem dL_law_1181 : decode cL_law 1181 = .ok (.aload_n 0, 1) := dk_42 (dk_at dksL_law_44 0 rfl rfl)
theorem dL_law_1182 : decode cL_law 1182 = .ok (.iload_n 3, 1) := dk_29 (dk_at dksL_law_44 1 rfl rfl)
theorem dL_law_1183 : decode cL_law 1183 = .ok (.iconst 2, 1) := dk_5 (dk_at dksL_law_44 2 rfl rfl)
theorem dL_law_1184 : decode cL_law 1184 = .ok (.iadd, 1) := dk_96 (dk_at dksL_law_44 3 rfl rfl)
theorem dL_law_1185 : decode cL_law 1185 = .ok (.iaload, 1) := dk_46 (dk_at dksL_law_44 4 rfl rfl)
theorem dL_law_1186 : decode cL_law 1186 = .ok (.aload_n 0, 1) := dk_42 (dk_at dksL_law_44 5 rfl rfl)
theorem dL_law_1187 : decode cL_law 1187 = .ok (.iload_n 3, 1) := dk_29 (dk_at dksL_law_44 6 rfl rfl)
theorem dL_law_1188 : decode cL_law 1188 = .ok (.iconst 3, 1) := dk_6 (dk_at dksL_law_44 7 rfl rfl)
theorem dL_law_1189 : decode cL_law 1189 = .ok (.iadd, 1) := dk_96 (dk_at dksL_law_44 8 rfl rfl)
theorem dL_law_1190 : decode cL_law 1190 = .ok (.iaload, 1) := dk_46 (dk_at dksL_law_44 9 rfl rfl)
theorem dL_law_1191 : decode cL_law 1191 = .ok (.aload_n 0, 1) := dk_42 (dk_at dksL_law_44 10 rfl rfl)
theorem dL_law_1192 : decode cL_law 1192 = .ok (.iload_n 3, 1) := dk_29 (dk_at dksL_law_44 11 rfl rfl)
theorem dL_law_1193 : decode cL_law 1193 = .ok (.iconst 4, 1) := dk_7 (dk_at dksL_law_44 12 rfl rfl)
theorem dL_law_1194 : decode cL_law 1194 = .ok (.iadd, 1) := dk_96 (dk_at dksL_law_44 13 rfl rfl)
theorem dL_law_1195 : decode cL_law 1195 = .ok (.iaload, 1) := dk_46 (dk_at dksL_law_44 14 rfl rfl)
theorem dL_law_1196 : decode cL_law 1196 = .ok (.invokevirtual 146, 3) := dk_182 0 146 (dk_at dksL_law_44 15 rfl rfl)
theorem dL_law_1199 : decode cL_law 1199 = .ok (.if_icmp .eq 325, 3) := dk_159 1 69 (dk_at dksL_law_44 18 rfl rfl)
theorem dL_law_1202 : decode cL_law 1202 = .ok (.iconst 0, 1) := dk_3 (dk_at dksL_law_44 21 rfl rfl)
theorem dL_law_1203 : decode cL_law 1203 = .ok (.ireturn, 1) := dk_172 (dk_at dksL_law_44 22 rfl rfl)
theorem dL_law_1204 : decode cL_law 1204 = .ok (.aload_n 1, 1) := dk_43 (dk_at dksL_law_44 23 rfl rfl)
theorem dL_law_1205 : decode cL_law 1205 = .ok (.aload_n 0, 1) := dk_42 (dk_at dksL_law_45 0 rfl rfl)
theorem dL_law_1206 : decode cL_law 1206 = .ok (.iload_n 3, 1) := dk_29 (dk_at dksL_law_45 1 rfl rfl)
theorem dL_law_1207 : decode cL_law 1207 = .ok (.iconst 1, 1) := dk_4 (dk_at dksL_law_45 2 rfl rfl)
theorem dL_law_1208 : decode cL_law 1208 = .ok (.iadd, 1) := dk_96 (dk_at dksL_law_45 3 rfl rfl)
theorem dL_law_1209 : decode cL_law 1209 = .ok (.iaload, 1) := dk_46 (dk_at dksL_law_45 4 rfl rfl)
theorem dL_law_1210 : decode cL_law 1210 = .ok (.aload_n 0, 1) := dk_42 (dk_at dksL_law_45 5 rfl rfl)
theorem dL_law_1211 : decode cL_law 1211 = .ok (.iload_n 3, 1) := dk_29 (dk_at dksL_law_45 6 rfl rfl)
theorem dL_law_1212 : decode cL_law 1212 = .ok (.iconst 2, 1) := dk_5 (dk_at dksL_law_45 7 rfl rfl)
theorem dL_law_1213 : decode cL_law 1213 = .ok (.iadd, 1) := dk_96 (dk_at dksL_law_45 8 rfl rfl)
theorem dL_law_1214 : decode cL_law 1214 = .ok (.iaload, 1) := dk_46 (dk_at dksL_law_45 9 rfl rfl)
theorem dL_law_1215 : decode cL_law 1215 = .ok (.aload_n 0, 1) := dk_42 (dk_at dksL_law_45 10 rfl rfl)
theorem dL_law_1216 : decode cL_law 1216 = .ok (.iload_n 3, 1) := dk_29 (dk_at dksL_law_45 11 rfl rfl)
theorem dL_law_1217 : decode cL_law 1217 = .ok (.iconst 3, 1) := dk_6 (dk_at dksL_law_45 12 rfl rfl)
theorem dL_law_1218 : decode cL_law 1218 = .ok (.iadd, 1) := dk_96 (dk_at dksL_law_45 13 rfl rfl)
theorem dL_law_1219 : decode cL_law 1219 = .ok (.iaload, 1) := dk_46 (dk_at dksL_law_45 14 rfl rfl)
theorem dL_law_1220 : decode cL_law 1220 = .ok (.invokevirtual 147, 3) := dk_182 0 147 (dk_at dksL_law_45 15 rfl rfl)
theorem dL_law_1223 : decode cL_law 1223 = .ok (.aload_n 2, 1) := dk_44 (dk_at dksL_law_45 18 rfl rfl)
theorem dL_law_1224 : decode cL_law 1224 = .ok (.aload_n 0, 1) := dk_42 (dk_at dksL_law_45 19 rfl rfl)
theorem dL_law_1225 : decode cL_law 1225 = .ok (.iload_n 3, 1) := dk_29 (dk_at dksL_law_45 20 rfl rfl)
theorem dL_law_1226 : decode cL_law 1226 = .ok (.iconst 1, 1) := dk_4 (dk_at dksL_law_45 21 rfl rfl)
theorem dL_law_1227 : decode cL_law 1227 = .ok (.iadd, 1) := dk_96 (dk_at dksL_law_45 22 rfl rfl)
theorem dL_law_1228 : decode cL_law 1228 = .ok (.iaload, 1) := dk_46 (dk_at dksL_law_45 23 rfl rfl)
theorem dL_law_1229 : decode cL_law 1229 = .ok (.aload_n 0, 1) := dk_42 (dk_at dksL_law_46 0 rfl rfl)
theorem dL_law_1230 : decode cL_law 1230 = .ok (.iload_n 3, 1) := dk_29 (dk_at dksL_law_46 1 rfl rfl)
theorem dL_law_1231 : decode cL_law 1231 = .ok (.iconst 2, 1) := dk_5 (dk_at dksL_law_46 2 rfl rfl)
theorem dL_law_1232 : decode cL_law 1232 = .ok (.iadd, 1) := dk_96 (dk_at dksL_law_46 3 rfl rfl)
theorem dL_law_1233 : decode cL_law 1233 = .ok (.iaload, 1) := dk_46 (dk_at dksL_law_46 4 rfl rfl)
theorem dL_law_1234 : decode cL_law 1234 = .ok (.aload_n 0, 1) := dk_42 (dk_at dksL_law_46 5 rfl rfl)
theorem dL_law_1235 : decode cL_law 1235 = .ok (.iload_n 3, 1) := dk_29 (dk_at dksL_law_46 6 rfl rfl)
theorem dL_law_1236 : decode cL_law 1236 = .ok (.iconst 3, 1) := dk_6 (dk_at dksL_law_46 7 rfl rfl)
theorem dL_law_1237 : decode cL_law 1237 = .ok (.iadd, 1) := dk_96 (dk_at dksL_law_46 8 rfl rfl)
theorem dL_law_1238 : decode cL_law 1238 = .ok (.iaload, 1) := dk_46 (dk_at dksL_law_46 9 rfl rfl)
theorem dL_law_1239 : decode cL_law 1239 = .ok (.invokevirtual 150, 3) := dk_182 0 150 (dk_at dksL_law_46 10 rfl rfl)
theorem dL_law_1242 : decode cL_law 1242 = .ok (.if_icmp .eq 282, 3) := dk_159 1 26 (dk_at dksL_law_46 13 rfl rfl)
theorem dL_law_1245 : decode cL_law 1245 = .ok (.iconst 0, 1) := dk_3 (dk_at dksL_law_46 16 rfl rfl)
theorem dL_law_1246 : decode cL_law 1246 = .ok (.ireturn, 1) := dk_172 (dk_at dksL_law_46 17 rfl rfl)
theorem dL_law_1247 : decode cL_law 1247 = .ok (.aload_n 1, 1) := dk_43 (dk_at dksL_law_46 18 rfl rfl)
theorem dL_law_1248 : decode cL_law 1248 = .ok (.aload_n 0, 1) := dk_42 (dk_at dksL_law_46 19 rfl rfl)
theorem dL_law_1249 : decode cL_law 1249 = .ok (.iload_n 3, 1) := dk_29 (dk_at dksL_law_46 20 rfl rfl)
theorem dL_law_1250 : decode cL_law 1250 = .ok (.iconst 1, 1) := dk_4 (dk_at dksL_law_46 21 rfl rfl)
theorem dL_law_1251 : decode cL_law 1251 = .ok (.iadd, 1) := dk_96 (dk_at dksL_law_46 22 rfl rfl)
theorem dL_law_1252 : decode cL_law 1252 = .ok (.iaload, 1) := dk_46 (dk_at dksL_law_46 23 rfl rfl)
theorem dL_law_1253 : decode cL_law 1253 = .ok (.aload_n 0, 1) := dk_42 (dk_at dksL_law_47 0 rfl rfl)
theorem dL_law_1254 : decode cL_law 1254 = .ok (.iload_n 3, 1) := dk_29 (dk_at dksL_law_47 1 rfl rfl)
theorem dL_law_1255 : decode cL_law 1255 = .ok (.iconst 2, 1) := dk_5 (dk_at dksL_law_47 2 rfl rfl)
theorem dL_law_1256 : decode cL_law 1256 = .ok (.iadd, 1) := dk_96 (dk_at dksL_law_47 3 rfl rfl)
theorem dL_law_1257 : decode cL_law 1257 = .ok (.iaload, 1) := dk_46 (dk_at dksL_law_47 4 rfl rfl)
theorem dL_law_1258 : decode cL_law 1258 = .ok (.aload_n 0, 1) := dk_42 (dk_at dksL_law_47 5 rfl rfl)
theorem dL_law_1259 : decode cL_law 1259 = .ok (.iload_n 3, 1) := dk_29 (dk_at dksL_law_47 6 rfl rfl)
theorem dL_law_1260 : decode cL_law 1260 = .ok (.iconst 3, 1) := dk_6 (dk_at dksL_law_47 7 rfl rfl)
theorem dL_law_1261 : decode cL_law 1261 = .ok (.iadd, 1) := dk_96 (dk_at dksL_law_47 8 rfl rfl)
theorem dL_law_1262 : decode cL_law 1262 = .ok (.iaload, 1) := dk_46 (dk_at dksL_law_47 9 rfl rfl)
theorem dL_law_1263 : decode cL_law 1263 = .ok (.invokevirtual 151, 3) := dk_182 0 151 (dk_at dksL_law_47 10 rfl rfl)
theorem dL_law_1266 : decode cL_law 1266 = .ok (.aload_n 2, 1) := dk_44 (dk_at dksL_law_47 13 rfl rfl)
theorem dL_law_1267 : decode cL_law 1267 = .ok (.aload_n 0, 1) := dk_42 (dk_at dksL_law_47 14 rfl rfl)
theorem dL_law_1268 : decode cL_law 1268 = .ok (.iload_n 3, 1) := dk_29 (dk_at dksL_law_47 15 rfl rfl)
theorem dL_law_1269 : decode cL_law 1269 = .ok (.iconst 1, 1) := dk_4 (dk_at dksL_law_47 16 rfl rfl)
theorem dL_law_1270 : decode cL_law 1270 = .ok (.iadd, 1) := dk_96 (dk_at dksL_law_47 17 rfl rfl)
theorem dL_law_1271 : decode cL_law 1271 = .ok (.iaload, 1) := dk_46 (dk_at dksL_law_47 18 rfl rfl)
theorem dL_law_1272 : decode cL_law 1272 = .ok (.aload_n 0, 1) := dk_42 (dk_at dksL_law_47 19 rfl rfl)
theorem dL_law_1273 : decode cL_law 1273 = .ok (.iload_n 3, 1) := dk_29 (dk_at dksL_law_47 20 rfl rfl)
theorem dL_law_1274 : decode cL_law 1274 = .ok (.iconst 2, 1) := dk_5 (dk_at dksL_law_47 21 rfl rfl)
theorem dL_law_1275 : decode cL_law 1275 = .ok (.iadd, 1) := dk_96 (dk_at dksL_law_47 22 rfl rfl)
theorem dL_law_1276 : decode cL_law 1276 = .ok (.iaload, 1) := dk_46 (dk_at dksL_law_47 23 rfl rfl)
theorem dL_law_1277 : decode cL_law 1277 = .ok (.aload_n 0, 1) := dk_42 (dk_at dksL_law_48 0 rfl rfl)
theorem dL_law_1278 : decode cL_law 1278 = .ok (.iload_n 3, 1) := dk_29 (dk_at dksL_law_48 1 rfl rfl)
theorem dL_law_1279 : decode cL_law 1279 = .ok (.iconst 3, 1) := dk_6 (dk_at dksL_law_48 2 rfl rfl)
theorem dL_law_1280 : decode cL_law 1280 = .ok (.iadd, 1) := dk_96 (dk_at dksL_law_48 3 rfl rfl)
theorem dL_law_1281 : decode cL_law 1281 = .ok (.iaload, 1) := dk_46 (dk_at dksL_law_48 4 rfl rfl)
theorem dL_law_1282 : decode cL_law 1282 = .ok (.invokevirtual 154, 3) := dk_182 0 154 (dk_at dksL_law_48 5 rfl rfl)
theorem dL_law_1285 : decode cL_law 1285 = .ok (.if_icmp .eq 239, 3) := dk_159 0 239 (dk_at dksL_law_48 8 rfl rfl)
theorem dL_law_1288 : decode cL_law 1288 = .ok (.iconst 0, 1) := dk_3 (dk_at dksL_law_48 11 rfl rfl)
theorem dL_law_1289 : decode cL_law 1289 = .ok (.ireturn, 1) := dk_172 (dk_at dksL_law_48 12 rfl rfl)
theorem dL_law_1290 : decode cL_law 1290 = .ok (.aload_n 1, 1) := dk_43 (dk_at dksL_law_48 13 rfl rfl)
theorem dL_law_1291 : decode cL_law 1291 = .ok (.aload_n 0, 1) := dk_42 (dk_at dksL_law_48 14 rfl rfl)
theorem dL_law_1292 : decode cL_law 1292 = .ok (.iload_n 3, 1) := dk_29 (dk_at dksL_law_48 15 rfl rfl)
theorem dL_law_1293 : decode cL_law 1293 = .ok (.iconst 1, 1) := dk_4 (dk_at dksL_law_48 16 rfl rfl)
theorem dL_law_1294 : decode cL_law 1294 = .ok (.iadd, 1) := dk_96 (dk_at dksL_law_48 17 rfl rfl)
theorem dL_law_1295 : decode cL_law 1295 = .ok (.iaload, 1) := dk_46 (dk_at dksL_law_48 18 rfl rfl)
theorem dL_law_1296 : decode cL_law 1296 = .ok (.aload_n 0, 1) := dk_42 (dk_at dksL_law_48 19 rfl rfl)
theorem dL_law_1297 : decode cL_law 1297 = .ok (.iload_n 3, 1) := dk_29 (dk_at dksL_law_48 20 rfl rfl)
theorem dL_law_1298 : decode cL_law 1298 = .ok (.iconst 2, 1) := dk_5 (dk_at dksL_law_48 21 rfl rfl)
theorem dL_law_1299 : decode cL_law 1299 = .ok (.iadd, 1) := dk_96 (dk_at dksL_law_48 22 rfl rfl)
theorem dL_law_1300 : decode cL_law 1300 = .ok (.iaload, 1) := dk_46 (dk_at dksL_law_48 23 rfl rfl)
theorem dL_law_1301 : decode cL_law 1301 = .ok (.aload_n 0, 1) := dk_42 (dk_at dksL_law_49 0 rfl rfl)
theorem dL_law_1302 : decode cL_law 1302 = .ok (.iload_n 3, 1) := dk_29 (dk_at dksL_law_49 1 rfl rfl)
theorem dL_law_1303 : decode cL_law 1303 = .ok (.iconst 3, 1) := dk_6 (dk_at dksL_law_49 2 rfl rfl)
theorem dL_law_1304 : decode cL_law 1304 = .ok (.iadd, 1) := dk_96 (dk_at dksL_law_49 3 rfl rfl)
theorem dL_law_1305 : decode cL_law 1305 = .ok (.iaload, 1) := dk_46 (dk_at dksL_law_49 4 rfl rfl)
theorem dL_law_1306 : decode cL_law 1306 = .ok (.invokevirtual 155, 3) := dk_182 0 155 (dk_at dksL_law_49 5 rfl rfl)
theorem dL_law_1309 : decode cL_law 1309 = .ok (.aload_n 2, 1) := dk_44 (dk_at dksL_law_49 8 rfl rfl)
theorem dL_law_1310 : decode cL_law 1310 = .ok (.aload_n 0, 1) := dk_42 (dk_at dksL_law_49 9 rfl rfl)
theorem dL_law_1311 : decode cL_law 1311 = .ok (.iload_n 3, 1) := dk_29 (dk_at dksL_law_49 10 rfl rfl)
theorem dL_law_1312 : decode cL_law 1312 = .ok (.iconst 1, 1) := dk_4 (dk_at dksL_law_49 11 rfl rfl)
theorem dL_law_1313 : decode cL_law 1313 = .ok (.iadd, 1) := dk_96 (dk_at dksL_law_49 12 rfl rfl)
theorem dL_law_1314 : decode cL_law 1314 = .ok (.iaload, 1) := dk_46 (dk_at dksL_law_49 13 rfl rfl)
theorem dL_law_1315 : decode cL_law 1315 = .ok (.aload_n 0, 1) := dk_42 (dk_at dksL_law_49 14 rfl rfl)
theorem dL_law_1316 : decode cL_law 1316 = .ok (.iload_n 3, 1) := dk_29 (dk_at dksL_law_49 15 rfl rfl)
theorem dL_law_1317 : decode cL_law 1317 = .ok (.iconst 2, 1) := dk_5 (dk_at dksL_law_49 16 rfl rfl)
theorem dL_law_1318 : decode cL_law 1318 = .ok (.iadd, 1) := dk_96 (dk_at dksL_law_49 17 rfl rfl)
theorem dL_law_1319 : decode cL_law 1319 = .ok (.iaload, 1) := dk_46 (dk_at dksL_law_49 18 rfl rfl)
theorem dL_law_1320 : decode cL_law 1320 = .ok (.aload_n 0, 1) := dk_42 (dk_at dksL_law_49 19 rfl rfl)
theorem dL_law_1321 : decode cL_law 1321 = .ok (.iload_n 3, 1) := dk_29 (dk_at dksL_law_49 20 rfl rfl)
theorem dL_law_1322 : decode cL_law 1322 = .ok (.iconst 3, 1) := dk_6 (dk_at dksL_law_49 21 rfl rfl)
theorem dL_law_1323 : decode cL_law 1323 = .ok (.iadd, 1) := dk_96 (dk_at dksL_law_49 22 rfl rfl)
theorem dL_law_1324 : decode cL_law 1324 = .ok (.iaload, 1) := dk_46 (dk_at dksL_law_49 23 rfl rfl)
theorem dL_law_1325 : decode cL_law 1325 = .ok (.invokevirtual 158, 3) := dk_182 0 158 (dk_at dksL_law_50 0 rfl rfl)
theorem dL_law_1328 : decode cL_law 1328 = .ok (.if_icmp .eq 196, 3) := dk_159 0 196 (dk_at dksL_law_50 3 rfl rfl)
theorem dL_law_1331 : decode cL_law 1331 = .ok (.iconst 0, 1) := dk_3 (dk_at dksL_law_50 6 rfl rfl)
theorem dL_law_1332 : decode cL_law 1332 = .ok (.ireturn, 1) := dk_172 (dk_at dksL_law_50 7 rfl rfl)
theorem dL_law_1333 : decode cL_law 1333 = .ok (.aload_n 1, 1) := dk_43 (dk_at dksL_law_50 8 rfl rfl)
theorem dL_law_1334 : decode cL_law 1334 = .ok (.aload_n 0, 1) := dk_42 (dk_at dksL_law_50 9 rfl rfl)
theorem dL_law_1335 : decode cL_law 1335 = .ok (.iload_n 3, 1) := dk_29 (dk_at dksL_law_50 10 rfl rfl)
theorem dL_law_1336 : decode cL_law 1336 = .ok (.iconst 1, 1) := dk_4 (dk_at dksL_law_50 11 rfl rfl)
theorem dL_law_1337 : decode cL_law 1337 = .ok (.iadd, 1) := dk_96 (dk_at dksL_law_50 12 rfl rfl)
theorem dL_law_1338 : decode cL_law 1338 = .ok (.iaload, 1) := dk_46 (dk_at dksL_law_50 13 rfl rfl)
theorem dL_law_1339 : decode cL_law 1339 = .ok (.aload_n 0, 1) := dk_42 (dk_at dksL_law_50 14 rfl rfl)
theorem dL_law_1340 : decode cL_law 1340 = .ok (.iload_n 3, 1) := dk_29 (dk_at dksL_law_50 15 rfl rfl)
theorem dL_law_1341 : decode cL_law 1341 = .ok (.iconst 2, 1) := dk_5 (dk_at dksL_law_50 16 rfl rfl)
theorem dL_law_1342 : decode cL_law 1342 = .ok (.iadd, 1) := dk_96 (dk_at dksL_law_50 17 rfl rfl)
theorem dL_law_1343 : decode cL_law 1343 = .ok (.iaload, 1) := dk_46 (dk_at dksL_law_50 18 rfl rfl)
theorem dL_law_1344 : decode cL_law 1344 = .ok (.aload_n 0, 1) := dk_42 (dk_at dksL_law_50 19 rfl rfl)
theorem dL_law_1345 : decode cL_law 1345 = .ok (.iload_n 3, 1) := dk_29 (dk_at dksL_law_50 20 rfl rfl)
theorem dL_law_1346 : decode cL_law 1346 = .ok (.iconst 3, 1) := dk_6 (dk_at dksL_law_50 21 rfl rfl)
theorem dL_law_1347 : decode cL_law 1347 = .ok (.iadd, 1) := dk_96 (dk_at dksL_law_50 22 rfl rfl)
theorem dL_law_1348 : decode cL_law 1348 = .ok (.iaload, 1) := dk_46 (dk_at dksL_law_50 23 rfl rfl)
theorem dL_law_1349 : decode cL_law 1349 = .ok (.invokevirtual 159, 3) := dk_182 0 159 (dk_at dksL_law_51 0 rfl rfl)
theorem dL_law_1352 : decode cL_law 1352 = .ok (.aload_n 2, 1) := dk_44 (dk_at dksL_law_51 3 rfl rfl)
theorem dL_law_1353 : decode cL_law 1353 = .ok (.aload_n 0, 1) := dk_42 (dk_at dksL_law_51 4 rfl rfl)
theorem dL_law_1354 : decode cL_law 1354 = .ok (.iload_n 3, 1) := dk_29 (dk_at dksL_law_51 5 rfl rfl)
theorem dL_law_1355 : decode cL_law 1355 = .ok (.iconst 1, 1) := dk_4 (dk_at dksL_law_51 6 rfl rfl)
theorem dL_law_1356 : decode cL_law 1356 = .ok (.iadd, 1) := dk_96 (dk_at dksL_law_51 7 rfl rfl)
theorem dL_law_1357 : decode cL_law 1357 = .ok (.iaload, 1) := dk_46 (dk_at dksL_law_51 8 rfl rfl)
theorem dL_law_1358 : decode cL_law 1358 = .ok (.aload_n 0, 1) := dk_42 (dk_at dksL_law_51 9 rfl rfl)
theorem dL_law_1359 : decode cL_law 1359 = .ok (.iload_n 3, 1) := dk_29 (dk_at dksL_law_51 10 rfl rfl)
theorem dL_law_1360 : decode cL_law 1360 = .ok (.iconst 2, 1) := dk_5 (dk_at dksL_law_51 11 rfl rfl)
theorem dL_law_1361 : decode cL_law 1361 = .ok (.iadd, 1) := dk_96 (dk_at dksL_law_51 12 rfl rfl)
theorem dL_law_1362 : decode cL_law 1362 = .ok (.iaload, 1) := dk_46 (dk_at dksL_law_51 13 rfl rfl)
theorem dL_law_1363 : decode cL_law 1363 = .ok (.aload_n 0, 1) := dk_42 (dk_at dksL_law_51 14 rfl rfl)
theorem dL_law_1364 : decode cL_law 1364 = .ok (.iload_n 3, 1) := dk_29 (dk_at dksL_law_51 15 rfl rfl)
theorem dL_law_1365 : decode cL_law 1365 = .ok (.iconst 3, 1) := dk_6 (dk_at dksL_law_51 16 rfl rfl)
theorem dL_law_1366 : decode cL_law 1366 = .ok (.iadd, 1) := dk_96 (dk_at dksL_law_51 17 rfl rfl)
theorem dL_law_1367 : decode cL_law 1367 = .ok (.iaload, 1) := dk_46 (dk_at dksL_law_51 18 rfl rfl)
theorem dL_law_1368 : decode cL_law 1368 = .ok (.invokevirtual 162, 3) := dk_182 0 162 (dk_at dksL_law_51 19 rfl rfl)
theorem dL_law_1371 : decode cL_law 1371 = .ok (.if_icmp .eq 153, 3) := dk_159 0 153 (dk_at dksL_law_52 0 rfl rfl)
theorem dL_law_1374 : decode cL_law 1374 = .ok (.iconst 0, 1) := dk_3 (dk_at dksL_law_52 3 rfl rfl)
theorem dL_law_1375 : decode cL_law 1375 = .ok (.ireturn, 1) := dk_172 (dk_at dksL_law_52 4 rfl rfl)
theorem dL_law_1376 : decode cL_law 1376 = .ok (.aload_n 1, 1) := dk_43 (dk_at dksL_law_52 5 rfl rfl)
theorem dL_law_1377 : decode cL_law 1377 = .ok (.aload_n 0, 1) := dk_42 (dk_at dksL_law_52 6 rfl rfl)
theorem dL_law_1378 : decode cL_law 1378 = .ok (.iload_n 3, 1) := dk_29 (dk_at dksL_law_52 7 rfl rfl)
theorem dL_law_1379 : decode cL_law 1379 = .ok (.iconst 1, 1) := dk_4 (dk_at dksL_law_52 8 rfl rfl)
theorem dL_law_1380 : decode cL_law 1380 = .ok (.iadd, 1) := dk_96 (dk_at dksL_law_52 9 rfl rfl)
theorem dL_law_1381 : decode cL_law 1381 = .ok (.iaload, 1) := dk_46 (dk_at dksL_law_52 10 rfl rfl)
theorem dL_law_1382 : decode cL_law 1382 = .ok (.aload_n 0, 1) := dk_42 (dk_at dksL_law_52 11 rfl rfl)
theorem dL_law_1383 : decode cL_law 1383 = .ok (.iload_n 3, 1) := dk_29 (dk_at dksL_law_52 12 rfl rfl)
theorem dL_law_1384 : decode cL_law 1384 = .ok (.iconst 2, 1) := dk_5 (dk_at dksL_law_52 13 rfl rfl)
theorem dL_law_1385 : decode cL_law 1385 = .ok (.iadd, 1) := dk_96 (dk_at dksL_law_52 14 rfl rfl)
theorem dL_law_1386 : decode cL_law 1386 = .ok (.iaload, 1) := dk_46 (dk_at dksL_law_52 15 rfl rfl)
theorem dL_law_1387 : decode cL_law 1387 = .ok (.invokevirtual 163, 3) := dk_182 0 163 (dk_at dksL_law_52 16 rfl rfl)
theorem dL_law_1390 : decode cL_law 1390 = .ok (.aload_n 2, 1) := dk_44 (dk_at dksL_law_52 19 rfl rfl)
theorem dL_law_1391 : decode cL_law 1391 = .ok (.aload_n 0, 1) := dk_42 (dk_at dksL_law_52 20 rfl rfl)
theorem dL_law_1392 : decode cL_law 1392 = .ok (.iload_n 3, 1) := dk_29 (dk_at dksL_law_52 21 rfl rfl)
theorem dL_law_1393 : decode cL_law 1393 = .ok (.iconst 1, 1) := dk_4 (dk_at dksL_law_52 22 rfl rfl)
theorem dL_law_1394 : decode cL_law 1394 = .ok (.iadd, 1) := dk_96 (dk_at dksL_law_52 23 rfl rfl)
theorem dL_law_1395 : decode cL_law 1395 = .ok (.iaload, 1) := dk_46 (dk_at dksL_law_53 0 rfl rfl)
theorem dL_law_1396 : decode cL_law 1396 = .ok (.aload_n 0, 1) := dk_42 (dk_at dksL_law_53 1 rfl rfl)
theorem dL_law_1397 : decode cL_law 1397 = .ok (.iload_n 3, 1) := dk_29 (dk_at dksL_law_53 2 rfl rfl)
theorem dL_law_1398 : decode cL_law 1398 = .ok (.iconst 2, 1) := dk_5 (dk_at dksL_law_53 3 rfl rfl)
theorem dL_law_1399 : decode cL_law 1399 = .ok (.iadd, 1) := dk_96 (dk_at dksL_law_53 4 rfl rfl)
theorem dL_law_1400 : decode cL_law 1400 = .ok (.iaload, 1) := dk_46 (dk_at dksL_law_53 5 rfl rfl)
theorem dL_law_1401 : decode cL_law 1401 = .ok (.invokevirtual 166, 3) := dk_182 0 166 (dk_at dksL_law_53 6 rfl rfl)
theorem dL_law_1404 : decode cL_law 1404 = .ok (.if_icmp .eq 120, 3) := dk_159 0 120 (dk_at dksL_law_53 9 rfl rfl)
theorem dL_law_1407 : decode cL_law 1407 = .ok (.iconst 0, 1) := dk_3 (dk_at dksL_law_53 12 rfl rfl)
theorem dL_law_1408 : decode cL_law 1408 = .ok (.ireturn, 1) := dk_172 (dk_at dksL_law_53 13 rfl rfl)
theorem dL_law_1409 : decode cL_law 1409 = .ok (.aload_n 1, 1) := dk_43 (dk_at dksL_law_53 14 rfl rfl)
theorem dL_law_1410 : decode cL_law 1410 = .ok (.aload_n 0, 1) := dk_42 (dk_at dksL_law_53 15 rfl rfl)
theorem dL_law_1411 : decode cL_law 1411 = .ok (.iload_n 3, 1) := dk_29 (dk_at dksL_law_53 16 rfl rfl)
theorem dL_law_1412 : decode cL_law 1412 = .ok (.iconst 1, 1) := dk_4 (dk_at dksL_law_53 17 rfl rfl)
theorem dL_law_1413 : decode cL_law 1413 = .ok (.iadd, 1) := dk_96 (dk_at dksL_law_53 18 rfl rfl)
theorem dL_law_1414 : decode cL_law 1414 = .ok (.iaload, 1) := dk_46 (dk_at dksL_law_53 19 rfl rfl)
theorem dL_law_1415 : decode cL_law 1415 = .ok (.aload_n 0, 1) := dk_42 (dk_at dksL_law_53 20 rfl rfl)
theorem dL_law_1416 : decode cL_law 1416 = .ok (.iload_n 3, 1) := dk_29 (dk_at dksL_law_53 21 rfl rfl)
theorem dL_law_1417 : decode cL_law 1417 = .ok (.iconst 2, 1) := dk_5 (dk_at dksL_law_53 22 rfl rfl)
theorem dL_law_1418 : decode cL_law 1418 = .ok (.iadd, 1) := dk_96 (dk_at dksL_law_53 23 rfl rfl)
theorem dL_law_1419 : decode cL_law 1419 = .ok (.iaload, 1) := dk_46 (dk_at dksL_law_54 0 rfl rfl)
theorem dL_law_1420 : decode cL_law 1420 = .ok (.aload_n 0, 1) := dk_42 (dk_at dksL_law_54 1 rfl rfl)
theorem dL_law_1421 : decode cL_law 1421 = .ok (.iload_n 3, 1) := dk_29 (dk_at dksL_law_54 2 rfl rfl)
theorem dL_law_1422 : decode cL_law 1422 = .ok (.iconst 3, 1) := dk_6 (dk_at dksL_law_54 3 rfl rfl)
theorem dL_law_1423 : decode cL_law 1423 = .ok (.iadd, 1) := dk_96 (dk_at dksL_law_54 4 rfl rfl)
theorem dL_law_1424 : decode cL_law 1424 = .ok (.iaload, 1) := dk_46 (dk_at dksL_law_54 5 rfl rfl)
theorem dL_law_1425 : decode cL_law 1425 = .ok (.invokevirtual 167, 3) := dk_182 0 167 (dk_at dksL_law_54 6 rfl rfl)
theorem dL_law_1428 : decode cL_law 1428 = .ok (.aload_n 2, 1) := dk_44 (dk_at dksL_law_54 9 rfl rfl)
theorem dL_law_1429 : decode cL_law 1429 = .ok (.aload_n 0, 1) := dk_42 (dk_at dksL_law_54 10 rfl rfl)
theorem dL_law_1430 : decode cL_law 1430 = .ok (.iload_n 3, 1) := dk_29 (dk_at dksL_law_54 11 rfl rfl)
theorem dL_law_1431 : decode cL_law 1431 = .ok (.iconst 1, 1) := dk_4 (dk_at dksL_law_54 12 rfl rfl)
theorem dL_law_1432 : decode cL_law 1432 = .ok (.iadd, 1) := dk_96 (dk_at dksL_law_54 13 rfl rfl)
theorem dL_law_1433 : decode cL_law 1433 = .ok (.iaload, 1) := dk_46 (dk_at dksL_law_54 14 rfl rfl)
theorem dL_law_1434 : decode cL_law 1434 = .ok (.aload_n 0, 1) := dk_42 (dk_at dksL_law_54 15 rfl rfl)
theorem dL_law_1435 : decode cL_law 1435 = .ok (.iload_n 3, 1) := dk_29 (dk_at dksL_law_54 16 rfl rfl)
theorem dL_law_1436 : decode cL_law 1436 = .ok (.iconst 2, 1) := dk_5 (dk_at dksL_law_54 17 rfl rfl)
theorem dL_law_1437 : decode cL_law 1437 = .ok (.iadd, 1) := dk_96 (dk_at dksL_law_54 18 rfl rfl)
theorem dL_law_1438 : decode cL_law 1438 = .ok (.iaload, 1) := dk_46 (dk_at dksL_law_54 19 rfl rfl)
theorem dL_law_1439 : decode cL_law 1439 = .ok (.aload_n 0, 1) := dk_42 (dk_at dksL_law_54 20 rfl rfl)
theorem dL_law_1440 : decode cL_law 1440 = .ok (.iload_n 3, 1) := dk_29 (dk_at dksL_law_54 21 rfl rfl)
theorem dL_law_1441 : decode cL_law 1441 = .ok (.iconst 3, 1) := dk_6 (dk_at dksL_law_54 22 rfl rfl)
theorem dL_law_1442 : decode cL_law 1442 = .ok (.iadd, 1) := dk_96 (dk_at dksL_law_54 23 rfl rfl)
theorem dL_law_1443 : decode cL_law 1443 = .ok (.iaload, 1) := dk_46 (dk_at dksL_law_55 0 rfl rfl)
theorem dL_law_1444 : decode cL_law 1444 = .ok (.invokevirtual 170, 3) := dk_182 0 170 (dk_at dksL_law_55 1 rfl rfl)
theorem dL_law_1447 : decode cL_law 1447 = .ok (.if_icmp .eq 77, 3) := dk_159 0 77 (dk_at dksL_law_55 4 rfl rfl)
theorem dL_law_1450 : decode cL_law 1450 = .ok (.iconst 0, 1) := dk_3 (dk_at dksL_law_55 7 rfl rfl)
theorem dL_law_1451 : decode cL_law 1451 = .ok (.ireturn, 1) := dk_172 (dk_at dksL_law_55 8 rfl rfl)
theorem dL_law_1452 : decode cL_law 1452 = .ok (.aload_n 1, 1) := dk_43 (dk_at dksL_law_55 9 rfl rfl)
theorem dL_law_1453 : decode cL_law 1453 = .ok (.aload_n 0, 1) := dk_42 (dk_at dksL_law_55 10 rfl rfl)
theorem dL_law_1454 : decode cL_law 1454 = .ok (.iload_n 3, 1) := dk_29 (dk_at dksL_law_55 11 rfl rfl)
theorem dL_law_1455 : decode cL_law 1455 = .ok (.iconst 1, 1) := dk_4 (dk_at dksL_law_55 12 rfl rfl)
theorem dL_law_1456 : decode cL_law 1456 = .ok (.iadd, 1) := dk_96 (dk_at dksL_law_55 13 rfl rfl)
theorem dL_law_1457 : decode cL_law 1457 = .ok (.iaload, 1) := dk_46 (dk_at dksL_law_55 14 rfl rfl)
theorem dL_law_1458 : decode cL_law 1458 = .ok (.invokevirtual 171, 3) := dk_182 0 171 (dk_at dksL_law_55 15 rfl rfl)
theorem dL_law_1461 : decode cL_law 1461 = .ok (.aload_n 2, 1) := dk_44 (dk_at dksL_law_55 18 rfl rfl)
theorem dL_law_1462 : decode cL_law 1462 = .ok (.aload_n 0, 1) := dk_42 (dk_at dksL_law_55 19 rfl rfl)
theorem dL_law_1463 : decode cL_law 1463 = .ok (.iload_n 3, 1) := dk_29 (dk_at dksL_law_55 20 rfl rfl)
theorem dL_law_1464 : decode cL_law 1464 = .ok (.iconst 1, 1) := dk_4 (dk_at dksL_law_55 21 rfl rfl)
theorem dL_law_1465 : decode cL_law 1465 = .ok (.iadd, 1) := dk_96 (dk_at dksL_law_55 22 rfl rfl)
theorem dL_law_1466 : decode cL_law 1466 = .ok (.iaload, 1) := dk_46 (dk_at dksL_law_55 23 rfl rfl)
theorem dL_law_1467 : decode cL_law 1467 = .ok (.invokevirtual 174, 3) := dk_182 0 174 (dk_at dksL_law_56 0 rfl rfl)
theorem dL_law_1470 : decode cL_law 1470 = .ok (.if_icmp .eq 54, 3) := dk_159 0 54 (dk_at dksL_law_56 3 rfl rfl)
theorem dL_law_1473 : decode cL_law 1473 = .ok (.iconst 0, 1) := dk_3 (dk_at dksL_law_56 6 rfl rfl)
theorem dL_law_1474 : decode cL_law 1474 = .ok (.ireturn, 1) := dk_172 (dk_at dksL_law_56 7 rfl rfl)
theorem dL_law_1475 : decode cL_law 1475 = .ok (.aload_n 1, 1) := dk_43 (dk_at dksL_law_56 8 rfl rfl)
theorem dL_law_1476 : decode cL_law 1476 = .ok (.aload_n 0, 1) := dk_42 (dk_at dksL_law_56 9 rfl rfl)
theorem dL_law_1477 : decode cL_law 1477 = .ok (.iload_n 3, 1) := dk_29 (dk_at dksL_law_56 10 rfl rfl)
theorem dL_law_1478 : decode cL_law 1478 = .ok (.iconst 1, 1) := dk_4 (dk_at dksL_law_56 11 rfl rfl)
theorem dL_law_1479 : decode cL_law 1479 = .ok (.iadd, 1) := dk_96 (dk_at dksL_law_56 12 rfl rfl)
theorem dL_law_1480 : decode cL_law 1480 = .ok (.iaload, 1) := dk_46 (dk_at dksL_law_56 13 rfl rfl)
theorem dL_law_1481 : decode cL_law 1481 = .ok (.invokevirtual 175, 3) := dk_182 0 175 (dk_at dksL_law_56 14 rfl rfl)
theorem dL_law_1484 : decode cL_law 1484 = .ok (.aload_n 2, 1) := dk_44 (dk_at dksL_law_56 17 rfl rfl)
theorem dL_law_1485 : decode cL_law 1485 = .ok (.aload_n 0, 1) := dk_42 (dk_at dksL_law_56 18 rfl rfl)
theorem dL_law_1486 : decode cL_law 1486 = .ok (.iload_n 3, 1) := dk_29 (dk_at dksL_law_56 19 rfl rfl)
theorem dL_law_1487 : decode cL_law 1487 = .ok (.iconst 1, 1) := dk_4 (dk_at dksL_law_56 20 rfl rfl)
theorem dL_law_1488 : decode cL_law 1488 = .ok (.iadd, 1) := dk_96 (dk_at dksL_law_56 21 rfl rfl)
theorem dL_law_1489 : decode cL_law 1489 = .ok (.iaload, 1) := dk_46 (dk_at dksL_law_56 22 rfl rfl)
theorem dL_law_1490 : decode cL_law 1490 = .ok (.invokevirtual 178, 3) := dk_182 0 178 (dk_at dksL_law_57 0 rfl rfl)
theorem dL_law_1493 : decode cL_law 1493 = .ok (.if_icmp .eq 31, 3) := dk_159 0 31 (dk_at dksL_law_57 3 rfl rfl)
theorem dL_law_1496 : decode cL_law 1496 = .ok (.iconst 0, 1) := dk_3 (dk_at dksL_law_57 6 rfl rfl)
theorem dL_law_1497 : decode cL_law 1497 = .ok (.ireturn, 1) := dk_172 (dk_at dksL_law_57 7 rfl rfl)
theorem dL_law_1498 : decode cL_law 1498 = .ok (.aload_n 1, 1) := dk_43 (dk_at dksL_law_57 8 rfl rfl)
theorem dL_law_1499 : decode cL_law 1499 = .ok (.invokevirtual 179, 3) := dk_182 0 179 (dk_at dksL_law_57 9 rfl rfl)
theorem dL_law_1502 : decode cL_law 1502 = .ok (.aload_n 2, 1) := dk_44 (dk_at dksL_law_57 12 rfl rfl)
theorem dL_law_1503 : decode cL_law 1503 = .ok (.invokevirtual 182, 3) := dk_182 0 182 (dk_at dksL_law_57 13 rfl rfl)
theorem dL_law_1506 : decode cL_law 1506 = .ok (.if_icmp .eq 18, 3) := dk_159 0 18 (dk_at dksL_law_57 16 rfl rfl)
theorem dL_law_1509 : decode cL_law 1509 = .ok (.iconst 0, 1) := dk_3 (dk_at dksL_law_57 19 rfl rfl)
theorem dL_law_1510 : decode cL_law 1510 = .ok (.ireturn, 1) := dk_172 (dk_at dksL_law_57 20 rfl rfl)
theorem dL_law_1511 : decode cL_law 1511 = .ok (.aload_n 1, 1) := dk_43 (dk_at dksL_law_57 21 rfl rfl)
theorem dL_law_1512 : decode cL_law 1512 = .ok (.invokevirtual 183, 3) := dk_182 0 183 (dk_at dksL_law_58 0 rfl rfl)
theorem dL_law_1515 : decode cL_law 1515 = .ok (.aload_n 2, 1) := dk_44 (dk_at dksL_law_58 3 rfl rfl)
theorem dL_law_1516 : decode cL_law 1516 = .ok (.invokevirtual 186, 3) := dk_182 0 186 (dk_at dksL_law_58 4 rfl rfl)
theorem dL_law_1519 : decode cL_law 1519 = .ok (.if_icmp .eq 5, 3) := dk_159 0 5 (dk_at dksL_law_58 7 rfl rfl)
theorem dL_law_1522 : decode cL_law 1522 = .ok (.iconst 0, 1) := dk_3 (dk_at dksL_law_58 10 rfl rfl)
theorem dL_law_1523 : decode cL_law 1523 = .ok (.ireturn, 1) := dk_172 (dk_at dksL_law_58 11 rfl rfl)
theorem dL_law_1524 : decode cL_law 1524 = .ok (.iinc 3 5, 3) := dk_132 3 5 (dk_at dksL_law_58 12 rfl rfl)
theorem dL_law_1527 : decode cL_law 1527 = .ok (.goto (-1509), 3) := dk_167 250 27 (dk_at dksL_law_58 15 rfl rfl)
theorem dL_law_1530 : decode cL_law 1530 = .ok (.iconst 1, 1) := dk_4 (dk_at dksL_law_58 18 rfl rfl)
theorem dL_law_1531 : decode cL_law 1531 = .ok (.ireturn, 1) := dk_172 (dk_at dksL_law_58 19 rfl rfl)

theorem q102 : (Jvm.Cond.initialized "CoatHolesLaw") ∈ lw_all := lw_g (lw_at lw_m1 0 rfl) rfl
set_option maxRecDepth 100000
theorem q144 : (Jvm.Cond.classLink "CoatHolesLaw" (7 : Nat) "CoatHoles") ∈ lw_all := lw_g (lw_at lw_m1 42 rfl) rfl
theorem q146 : (Jvm.Cond.methodLink "CoatHolesLaw" (9 : Nat) ({ cls := "CoatHoles", name := "<init>", desc := "()V" } : Jvm.MethodName)) ∈ lw_all := lw_g (lw_at lw_m1 44 rfl) rfl
theorem q628 : (Jvm.Cond.methodLink "CoatHolesLaw" (15 : Nat) ({ cls := "CoatHoles", name := "feed", desc := "(JI)I" } : Jvm.MethodName)) ∈ lw_all := lw_g (lw_at lw_m3 46 rfl) rfl
theorem q635 : (Jvm.Cond.methodLink "CoatHolesLaw" (20 : Nat) ({ cls := "CoatHoles", name := "cupboard", desc := "()I" } : Jvm.MethodName)) ∈ lw_all := lw_g (lw_at lw_m3 53 rfl) rfl
theorem q795 : (Jvm.Cond.methodLink "CoatHolesLaw" (25 : Nat) ({ cls := "CoatHoles", name := "thing", desc := "(IIII)I" } : Jvm.MethodName)) ∈ lw_all := lw_g (lw_at lw_m3 213 rfl) rfl
theorem q803 : (Jvm.Cond.methodLink "CoatHolesLaw" (30 : Nat) ({ cls := "CoatHoles", name := "thingOf", desc := "(II)I" } : Jvm.MethodName)) ∈ lw_all := lw_g (lw_at lw_m3 221 rfl) rfl
theorem q845 : (Jvm.Cond.methodLink "CoatHolesLaw" (35 : Nat) ({ cls := "CoatHoles", name := "lives", desc := "(III)I" } : Jvm.MethodName)) ∈ lw_all := lw_g (lw_at lw_m4 23 rfl) rfl
theorem q849 : (Jvm.Cond.methodLink "CoatHolesLaw" (40 : Nat) ({ cls := "CoatHoles", name := "bag", desc := "(IZ)I" } : Jvm.MethodName)) ∈ lw_all := lw_g (lw_at lw_m4 27 rfl) rfl
theorem q853 : (Jvm.Cond.methodLink "CoatHolesLaw" (45 : Nat) ({ cls := "CoatHoles", name := "move", desc := "(II)I" } : Jvm.MethodName)) ∈ lw_all := lw_g (lw_at lw_m4 31 rfl) rfl
theorem q857 : (Jvm.Cond.methodLink "CoatHolesLaw" (49 : Nat) ({ cls := "CoatHoles", name := "fliers", desc := "(II)I" } : Jvm.MethodName)) ∈ lw_all := lw_g (lw_at lw_m4 35 rfl) rfl
theorem q861 : (Jvm.Cond.methodLink "CoatHolesLaw" (53 : Nat) ({ cls := "CoatHoles", name := "card", desc := "(IZ)I" } : Jvm.MethodName)) ∈ lw_all := lw_g (lw_at lw_m4 39 rfl) rfl
theorem q868 : (Jvm.Cond.methodLink "CoatHolesLaw" (57 : Nat) ({ cls := "CoatHoles", name := "placeOf", desc := "(II)I" } : Jvm.MethodName)) ∈ lw_all := lw_g (lw_at lw_m4 46 rfl) rfl
theorem q876 : (Jvm.Cond.methodLink "CoatHolesLaw" (61 : Nat) ({ cls := "CoatHoles", name := "set", desc := "(II)I" } : Jvm.MethodName)) ∈ lw_all := lw_g (lw_at lw_m4 54 rfl) rfl
theorem q883 : (Jvm.Cond.methodLink "CoatHolesLaw" (65 : Nat) ({ cls := "CoatHoles", name := "warm", desc := "(II)I" } : Jvm.MethodName)) ∈ lw_all := lw_g (lw_at lw_m4 61 rfl) rfl
theorem q887 : (Jvm.Cond.methodLink "CoatHolesLaw" (69 : Nat) ({ cls := "CoatHoles", name := "week", desc := "(I)I" } : Jvm.MethodName)) ∈ lw_all := lw_g (lw_at lw_m4 65 rfl) rfl
theorem q929 : (Jvm.Cond.methodLink "CoatHolesLaw" (74 : Nat) ({ cls := "CoatHoles", name := "now", desc := "(I)I" } : Jvm.MethodName)) ∈ lw_all := lw_g (lw_at lw_m4 107 rfl) rfl
theorem q953 : (Jvm.Cond.methodLink "CoatHolesLaw" (78 : Nat) ({ cls := "CoatHoles", name := "over", desc := "()I" } : Jvm.MethodName)) ∈ lw_all := lw_g (lw_at lw_m4 131 rfl) rfl
theorem q958 : (Jvm.Cond.methodLink "CoatHolesLaw" (82 : Nat) ({ cls := "CoatHoles", name := "doing", desc := "(II)I" } : Jvm.MethodName)) ∈ lw_all := lw_g (lw_at lw_m4 136 rfl) rfl
theorem q962 : (Jvm.Cond.methodLink "CoatHolesLaw" (86 : Nat) ({ cls := "CoatHoles", name := "doingOf", desc := "(II)I" } : Jvm.MethodName)) ∈ lw_all := lw_g (lw_at lw_m4 140 rfl) rfl
theorem q970 : (Jvm.Cond.methodLink "CoatHolesLaw" (90 : Nat) ({ cls := "CoatHoles", name := "does", desc := "(II)I" } : Jvm.MethodName)) ∈ lw_all := lw_g (lw_at lw_m4 148 rfl) rfl
theorem q997 : (Jvm.Cond.methodLink "CoatHolesLaw" (94 : Nat) ({ cls := "CoatHoles", name := "best", desc := "(II)I" } : Jvm.MethodName)) ∈ lw_all := lw_g (lw_at lw_m4 175 rfl) rfl
theorem q1013 : (Jvm.Cond.methodLink "CoatHolesLaw" (98 : Nat) ({ cls := "CoatHoles", name := "weigh", desc := "(II)I" } : Jvm.MethodName)) ∈ lw_all := lw_g (lw_at lw_m4 191 rfl) rfl
theorem q1017 : (Jvm.Cond.methodLink "CoatHolesLaw" (102 : Nat) ({ cls := "CoatHoles", name := "look", desc := "(IZ)I" } : Jvm.MethodName)) ∈ lw_all := lw_g (lw_at lw_m4 195 rfl) rfl
theorem q1021 : (Jvm.Cond.methodLink "CoatHolesLaw" (106 : Nat) ({ cls := "CoatHoles", name := "forget", desc := "()I" } : Jvm.MethodName)) ∈ lw_all := lw_g (lw_at lw_m4 199 rfl) rfl
theorem q1025 : (Jvm.Cond.methodLink "CoatHolesLaw" (110 : Nat) ({ cls := "CoatHoles", name := "from", desc := "(II)J" } : Jvm.MethodName)) ∈ lw_all := lw_g (lw_at lw_m4 203 rfl) rfl
theorem q1052 : (Jvm.Cond.methodLink "CoatHolesLaw" (115 : Nat) ({ cls := "CoatHoles", name := "next", desc := "()I" } : Jvm.MethodName)) ∈ lw_all := lw_g (lw_at lw_m4 230 rfl) rfl
theorem q1063 : (Jvm.Cond.methodLink "CoatHolesLaw" (119 : Nat) ({ cls := "CoatHoles", name := "seed", desc := "(I)I" } : Jvm.MethodName)) ∈ lw_all := lw_g (lw_at lw_m5 1 rfl) rfl
theorem q1067 : (Jvm.Cond.methodLink "CoatHolesLaw" (123 : Nat) ({ cls := "CoatHoles", name := "blow", desc := "()I" } : Jvm.MethodName)) ∈ lw_all := lw_g (lw_at lw_m5 5 rfl) rfl
theorem q1073 : (Jvm.Cond.methodLink "CoatHolesLaw" (131 : Nat) ({ cls := "CoatHoles", name := "row", desc := "(II)I" } : Jvm.MethodName)) ∈ lw_all := lw_g (lw_at lw_m5 11 rfl) rfl
theorem q1081 : (Jvm.Cond.methodLink "CoatHolesLaw" (135 : Nat) ({ cls := "CoatHoles", name := "alterRow", desc := "(III)I" } : Jvm.MethodName)) ∈ lw_all := lw_g (lw_at lw_m5 19 rfl) rfl
theorem q1085 : (Jvm.Cond.methodLink "CoatHolesLaw" (127 : Nat) ({ cls := "CoatHoles", name := "prove", desc := "()I" } : Jvm.MethodName)) ∈ lw_all := lw_g (lw_at lw_m5 23 rfl) rfl
theorem q1104 : (Jvm.Cond.methodLink "CoatHolesLaw" (139 : Nat) ({ cls := "CoatHoles", name := "judge", desc := "()I" } : Jvm.MethodName)) ∈ lw_all := lw_g (lw_at lw_m5 42 rfl) rfl
theorem q1108 : (Jvm.Cond.methodLink "CoatHolesLaw" (143 : Nat) ({ cls := "CoatHoles", name := "soils", desc := "(IIII)I" } : Jvm.MethodName)) ∈ lw_all := lw_g (lw_at lw_m5 46 rfl) rfl
theorem q1163 : (Jvm.Cond.methodLink "CoatHolesLaw" (147 : Nat) ({ cls := "CoatHoles", name := "sheet", desc := "(III)I" } : Jvm.MethodName)) ∈ lw_all := lw_g (lw_at lw_m5 101 rfl) rfl
theorem q1187 : (Jvm.Cond.methodLink "CoatHolesLaw" (151 : Nat) ({ cls := "CoatHoles", name := "put", desc := "(III)I" } : Jvm.MethodName)) ∈ lw_all := lw_g (lw_at lw_m5 125 rfl) rfl
theorem q1201 : (Jvm.Cond.methodLink "CoatHolesLaw" (155 : Nat) ({ cls := "CoatHoles", name := "item", desc := "(III)I" } : Jvm.MethodName)) ∈ lw_all := lw_g (lw_at lw_m5 139 rfl) rfl
theorem q1225 : (Jvm.Cond.methodLink "CoatHolesLaw" (159 : Nat) ({ cls := "CoatHoles", name := "shelf", desc := "(III)I" } : Jvm.MethodName)) ∈ lw_all := lw_g (lw_at lw_m5 163 rfl) rfl
theorem q1232 : (Jvm.Cond.methodLink "CoatHolesLaw" (163 : Nat) ({ cls := "CoatHoles", name := "taken", desc := "(II)I" } : Jvm.MethodName)) ∈ lw_all := lw_g (lw_at lw_m5 170 rfl) rfl
theorem q1385 : (Jvm.Cond.methodLink "CoatHolesLaw" (167 : Nat) ({ cls := "CoatHoles", name := "act", desc := "(III)I" } : Jvm.MethodName)) ∈ lw_all := lw_g (lw_at lw_m6 83 rfl) rfl
theorem q1547 : (Jvm.Cond.methodLink "CoatHolesLaw" (171 : Nat) ({ cls := "CoatHoles", name := "trace", desc := "(I)I" } : Jvm.MethodName)) ∈ lw_all := lw_g (lw_at lw_m7 5 rfl) rfl
theorem q1551 : (Jvm.Cond.methodLink "CoatHolesLaw" (175 : Nat) ({ cls := "CoatHoles", name := "many", desc := "(I)I" } : Jvm.MethodName)) ∈ lw_all := lw_g (lw_at lw_m7 9 rfl) rfl
theorem q1559 : (Jvm.Cond.methodLink "CoatHolesLaw" (179 : Nat) ({ cls := "CoatHoles", name := "keep", desc := "()I" } : Jvm.MethodName)) ∈ lw_all := lw_g (lw_at lw_m7 17 rfl) rfl
theorem q1563 : (Jvm.Cond.methodLink "CoatHolesLaw" (183 : Nat) ({ cls := "CoatHoles", name := "again", desc := "()I" } : Jvm.MethodName)) ∈ lw_all := lw_g (lw_at lw_m7 21 rfl) rfl
theorem q1567 : (Jvm.Cond.classLink "CoatHolesLaw" (10 : Nat) "CoatHolesModel") ∈ lw_all := lw_g (lw_at lw_m7 25 rfl) rfl
theorem q1569 : (Jvm.Cond.methodLink "CoatHolesLaw" (12 : Nat) ({ cls := "CoatHolesModel", name := "<init>", desc := "()V" } : Jvm.MethodName)) ∈ lw_all := lw_g (lw_at lw_m7 27 rfl) rfl
theorem q1691 : (Jvm.Cond.methodLink "CoatHolesLaw" (19 : Nat) ({ cls := "CoatHolesModel", name := "feed", desc := "(JI)I" } : Jvm.MethodName)) ∈ lw_all := lw_g (lw_at lw_m7 149 rfl) rfl
theorem q1699 : (Jvm.Cond.methodLink "CoatHolesLaw" (24 : Nat) ({ cls := "CoatHolesModel", name := "cupboard", desc := "()I" } : Jvm.MethodName)) ∈ lw_all := lw_g (lw_at lw_m7 157 rfl) rfl
theorem q1785 : (Jvm.Cond.methodLink "CoatHolesLaw" (29 : Nat) ({ cls := "CoatHolesModel", name := "thing", desc := "(IIII)I" } : Jvm.MethodName)) ∈ lw_all := lw_g (lw_at lw_m8 3 rfl) rfl
theorem q1792 : (Jvm.Cond.methodLink "CoatHolesLaw" (34 : Nat) ({ cls := "CoatHolesModel", name := "thingOf", desc := "(II)I" } : Jvm.MethodName)) ∈ lw_all := lw_g (lw_at lw_m8 10 rfl) rfl
theorem q1812 : (Jvm.Cond.methodLink "CoatHolesLaw" (39 : Nat) ({ cls := "CoatHolesModel", name := "lives", desc := "(III)I" } : Jvm.MethodName)) ∈ lw_all := lw_g (lw_at lw_m8 30 rfl) rfl
theorem q1816 : (Jvm.Cond.methodLink "CoatHolesLaw" (44 : Nat) ({ cls := "CoatHolesModel", name := "bag", desc := "(IZ)I" } : Jvm.MethodName)) ∈ lw_all := lw_g (lw_at lw_m8 34 rfl) rfl
theorem q1820 : (Jvm.Cond.methodLink "CoatHolesLaw" (48 : Nat) ({ cls := "CoatHolesModel", name := "move", desc := "(II)I" } : Jvm.MethodName)) ∈ lw_all := lw_g (lw_at lw_m8 38 rfl) rfl
theorem q1824 : (Jvm.Cond.methodLink "CoatHolesLaw" (52 : Nat) ({ cls := "CoatHolesModel", name := "fliers", desc := "(II)I" } : Jvm.MethodName)) ∈ lw_all := lw_g (lw_at lw_m8 42 rfl) rfl
theorem q1832 : (Jvm.Cond.methodLink "CoatHolesLaw" (56 : Nat) ({ cls := "CoatHolesModel", name := "card", desc := "(IZ)I" } : Jvm.MethodName)) ∈ lw_all := lw_g (lw_at lw_m8 50 rfl) rfl
theorem q1836 : (Jvm.Cond.methodLink "CoatHolesLaw" (60 : Nat) ({ cls := "CoatHolesModel", name := "placeOf", desc := "(II)I" } : Jvm.MethodName)) ∈ lw_all := lw_g (lw_at lw_m8 54 rfl) rfl
theorem q1844 : (Jvm.Cond.methodLink "CoatHolesLaw" (64 : Nat) ({ cls := "CoatHolesModel", name := "set", desc := "(II)I" } : Jvm.MethodName)) ∈ lw_all := lw_g (lw_at lw_m8 62 rfl) rfl
theorem q1848 : (Jvm.Cond.methodLink "CoatHolesLaw" (68 : Nat) ({ cls := "CoatHolesModel", name := "warm", desc := "(II)I" } : Jvm.MethodName)) ∈ lw_all := lw_g (lw_at lw_m8 66 rfl) rfl
theorem q1852 : (Jvm.Cond.methodLink "CoatHolesLaw" (73 : Nat) ({ cls := "CoatHolesModel", name := "week", desc := "(I)I" } : Jvm.MethodName)) ∈ lw_all := lw_g (lw_at lw_m8 70 rfl) rfl
theorem q1875 : (Jvm.Cond.methodLink "CoatHolesLaw" (77 : Nat) ({ cls := "CoatHolesModel", name := "now", desc := "(I)I" } : Jvm.MethodName)) ∈ lw_all := lw_g (lw_at lw_m8 93 rfl) rfl
theorem q1895 : (Jvm.Cond.methodLink "CoatHolesLaw" (81 : Nat) ({ cls := "CoatHolesModel", name := "over", desc := "()I" } : Jvm.MethodName)) ∈ lw_all := lw_g (lw_at lw_m8 113 rfl) rfl
theorem q1899 : (Jvm.Cond.methodLink "CoatHolesLaw" (85 : Nat) ({ cls := "CoatHolesModel", name := "doing", desc := "(II)I" } : Jvm.MethodName)) ∈ lw_all := lw_g (lw_at lw_m8 117 rfl) rfl
theorem q1903 : (Jvm.Cond.methodLink "CoatHolesLaw" (89 : Nat) ({ cls := "CoatHolesModel", name := "doingOf", desc := "(II)I" } : Jvm.MethodName)) ∈ lw_all := lw_g (lw_at lw_m8 121 rfl) rfl
theorem q1914 : (Jvm.Cond.methodLink "CoatHolesLaw" (93 : Nat) ({ cls := "CoatHolesModel", name := "does", desc := "(II)I" } : Jvm.MethodName)) ∈ lw_all := lw_g (lw_at lw_m8 132 rfl) rfl
theorem q1926 : (Jvm.Cond.methodLink "CoatHolesLaw" (97 : Nat) ({ cls := "CoatHolesModel", name := "best", desc := "(II)I" } : Jvm.MethodName)) ∈ lw_all := lw_g (lw_at lw_m8 144 rfl) rfl
theorem q1946 : (Jvm.Cond.methodLink "CoatHolesLaw" (101 : Nat) ({ cls := "CoatHolesModel", name := "weigh", desc := "(II)I" } : Jvm.MethodName)) ∈ lw_all := lw_g (lw_at lw_m8 164 rfl) rfl
theorem q1950 : (Jvm.Cond.methodLink "CoatHolesLaw" (105 : Nat) ({ cls := "CoatHolesModel", name := "look", desc := "(IZ)I" } : Jvm.MethodName)) ∈ lw_all := lw_g (lw_at lw_m8 168 rfl) rfl
theorem q1954 : (Jvm.Cond.methodLink "CoatHolesLaw" (109 : Nat) ({ cls := "CoatHolesModel", name := "forget", desc := "()I" } : Jvm.MethodName)) ∈ lw_all := lw_g (lw_at lw_m8 172 rfl) rfl
theorem q1958 : (Jvm.Cond.methodLink "CoatHolesLaw" (114 : Nat) ({ cls := "CoatHolesModel", name := "from", desc := "(II)J" } : Jvm.MethodName)) ∈ lw_all := lw_g (lw_at lw_m8 176 rfl) rfl
theorem q1975 : (Jvm.Cond.methodLink "CoatHolesLaw" (118 : Nat) ({ cls := "CoatHolesModel", name := "next", desc := "()I" } : Jvm.MethodName)) ∈ lw_all := lw_g (lw_at lw_m8 193 rfl) rfl
theorem q1983 : (Jvm.Cond.methodLink "CoatHolesLaw" (122 : Nat) ({ cls := "CoatHolesModel", name := "seed", desc := "(I)I" } : Jvm.MethodName)) ∈ lw_all := lw_g (lw_at lw_m8 201 rfl) rfl
theorem q1987 : (Jvm.Cond.methodLink "CoatHolesLaw" (126 : Nat) ({ cls := "CoatHolesModel", name := "blow", desc := "()I" } : Jvm.MethodName)) ∈ lw_all := lw_g (lw_at lw_m8 205 rfl) rfl
theorem q1992 : (Jvm.Cond.methodLink "CoatHolesLaw" (130 : Nat) ({ cls := "CoatHolesModel", name := "prove", desc := "()I" } : Jvm.MethodName)) ∈ lw_all := lw_g (lw_at lw_m8 210 rfl) rfl
theorem q2000 : (Jvm.Cond.methodLink "CoatHolesLaw" (134 : Nat) ({ cls := "CoatHolesModel", name := "row", desc := "(II)I" } : Jvm.MethodName)) ∈ lw_all := lw_g (lw_at lw_m8 218 rfl) rfl
theorem q2008 : (Jvm.Cond.methodLink "CoatHolesLaw" (138 : Nat) ({ cls := "CoatHolesModel", name := "alterRow", desc := "(III)I" } : Jvm.MethodName)) ∈ lw_all := lw_g (lw_at lw_m8 226 rfl) rfl
theorem q2012 : (Jvm.Cond.methodLink "CoatHolesLaw" (142 : Nat) ({ cls := "CoatHolesModel", name := "judge", desc := "()I" } : Jvm.MethodName)) ∈ lw_all := lw_g (lw_at lw_m8 230 rfl) rfl
theorem q2016 : (Jvm.Cond.methodLink "CoatHolesLaw" (146 : Nat) ({ cls := "CoatHolesModel", name := "soils", desc := "(IIII)I" } : Jvm.MethodName)) ∈ lw_all := lw_g (lw_at lw_m8 234 rfl) rfl
theorem q2028 : (Jvm.Cond.methodLink "CoatHolesLaw" (150 : Nat) ({ cls := "CoatHolesModel", name := "sheet", desc := "(III)I" } : Jvm.MethodName)) ∈ lw_all := lw_g (lw_at lw_m9 6 rfl) rfl
theorem q2032 : (Jvm.Cond.methodLink "CoatHolesLaw" (154 : Nat) ({ cls := "CoatHolesModel", name := "put", desc := "(III)I" } : Jvm.MethodName)) ∈ lw_all := lw_g (lw_at lw_m9 10 rfl) rfl
theorem q2036 : (Jvm.Cond.methodLink "CoatHolesLaw" (158 : Nat) ({ cls := "CoatHolesModel", name := "item", desc := "(III)I" } : Jvm.MethodName)) ∈ lw_all := lw_g (lw_at lw_m9 14 rfl) rfl
theorem q2040 : (Jvm.Cond.methodLink "CoatHolesLaw" (162 : Nat) ({ cls := "CoatHolesModel", name := "shelf", desc := "(III)I" } : Jvm.MethodName)) ∈ lw_all := lw_g (lw_at lw_m9 18 rfl) rfl
theorem q2048 : (Jvm.Cond.methodLink "CoatHolesLaw" (166 : Nat) ({ cls := "CoatHolesModel", name := "taken", desc := "(II)I" } : Jvm.MethodName)) ∈ lw_all := lw_g (lw_at lw_m9 26 rfl) rfl
theorem q2059 : (Jvm.Cond.methodLink "CoatHolesLaw" (170 : Nat) ({ cls := "CoatHolesModel", name := "act", desc := "(III)I" } : Jvm.MethodName)) ∈ lw_all := lw_g (lw_at lw_m9 37 rfl) rfl
theorem q2111 : (Jvm.Cond.methodLink "CoatHolesLaw" (174 : Nat) ({ cls := "CoatHolesModel", name := "trace", desc := "(I)I" } : Jvm.MethodName)) ∈ lw_all := lw_g (lw_at lw_m9 89 rfl) rfl
theorem q2115 : (Jvm.Cond.methodLink "CoatHolesLaw" (178 : Nat) ({ cls := "CoatHolesModel", name := "many", desc := "(I)I" } : Jvm.MethodName)) ∈ lw_all := lw_g (lw_at lw_m9 93 rfl) rfl
theorem q2119 : (Jvm.Cond.methodLink "CoatHolesLaw" (182 : Nat) ({ cls := "CoatHolesModel", name := "keep", desc := "()I" } : Jvm.MethodName)) ∈ lw_all := lw_g (lw_at lw_m9 97 rfl) rfl
theorem q2131 : (Jvm.Cond.methodLink "CoatHolesLaw" (186 : Nat) ({ cls := "CoatHolesModel", name := "again", desc := "()I" } : Jvm.MethodName)) ∈ lw_all := lw_g (lw_at lw_m9 109 rfl) rfl
theorem q2135 : (Jvm.Cond.constantLong "CoatHolesLaw" (13 : Nat) (4294967295 : Int64)) ∈ lw_all := lw_g (lw_at lw_m9 113 rfl) rfl
