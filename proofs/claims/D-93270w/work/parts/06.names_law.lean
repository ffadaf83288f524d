/-! the law's own entry -/
set_option maxRecDepth 100000
abbrev cL_law : ByteArray := code
def dkwL_law_55 : List UInt8 := [132, 3, 6, 167, 250, 87, 4, 172]
abbrev dktL_law_55 : List UInt8 := dkwL_law_55 ++ []
def dkwL_law_54 : List UInt8 := [172, 43, 42, 29, 4, 96, 46, 182, 0, 196, 44, 42, 29, 4, 96, 46, 182, 0, 199, 159, 0, 5, 3, 172]
abbrev dktL_law_54 : List UInt8 := dkwL_law_54 ++ dktL_law_55
def dkwL_law_53 : List UInt8 := [182, 0, 188, 44, 182, 0, 191, 159, 0, 41, 3, 172, 43, 182, 0, 192, 44, 182, 0, 195, 159, 0, 28, 3]
abbrev dktL_law_53 : List UInt8 := dkwL_law_53 ++ dktL_law_54
def dkwL_law_52 : List UInt8 := [29, 4, 96, 46, 182, 0, 184, 44, 42, 29, 4, 96, 46, 182, 0, 187, 159, 0, 54, 3, 172, 43]
abbrev dktL_law_52 : List UInt8 := dkwL_law_52 ++ dktL_law_53
def dkwL_law_51 : List UInt8 := [42, 29, 4, 96, 46, 182, 0, 180, 44, 42, 29, 4, 96, 46, 182, 0, 183, 159, 0, 77, 3, 172, 43, 42]
abbrev dktL_law_51 : List UInt8 := dkwL_law_51 ++ dktL_law_52
def dkwL_law_50 : List UInt8 := [46, 182, 0, 176, 44, 42, 29, 4, 96, 46, 42, 29, 5, 96, 46, 182, 0, 179, 159, 0, 100, 3, 172, 43]
abbrev dktL_law_50 : List UInt8 := dkwL_law_50 ++ dktL_law_51
def dkwL_law_49 : List UInt8 := [46, 42, 29, 5, 96, 46, 182, 0, 175, 159, 0, 133, 3, 172, 43, 42, 29, 4, 96, 46, 42, 29, 5, 96]
abbrev dktL_law_49 : List UInt8 := dkwL_law_49 ++ dktL_law_50
def dkwL_law_48 : List UInt8 := [159, 0, 166, 3, 172, 43, 42, 29, 4, 96, 46, 42, 29, 5, 96, 46, 182, 0, 172, 44, 42, 29, 4, 96]
abbrev dktL_law_48 : List UInt8 := dkwL_law_48 ++ dktL_law_49
def dkwL_law_47 : List UInt8 := [46, 42, 29, 5, 96, 46, 182, 0, 168, 44, 42, 29, 4, 96, 46, 42, 29, 5, 96, 46, 182, 0, 171]
abbrev dktL_law_47 : List UInt8 := dkwL_law_47 ++ dktL_law_48
def dkwL_law_46 : List UInt8 := [46, 42, 29, 5, 96, 46, 42, 29, 6, 96, 46, 182, 0, 167, 159, 0, 199, 3, 172, 43, 42, 29, 4, 96]
abbrev dktL_law_46 : List UInt8 := dkwL_law_46 ++ dktL_law_47
def dkwL_law_45 : List UInt8 := [43, 42, 29, 4, 96, 46, 42, 29, 5, 96, 46, 42, 29, 6, 96, 46, 182, 0, 164, 44, 42, 29, 4, 96]
abbrev dktL_law_45 : List UInt8 := dkwL_law_45 ++ dktL_law_46
def dkwL_law_44 : List UInt8 := [46, 42, 29, 6, 96, 46, 42, 29, 7, 96, 46, 42, 29, 8, 96, 46, 182, 0, 163, 159, 0, 242, 3, 172]
abbrev dktL_law_44 : List UInt8 := dkwL_law_44 ++ dktL_law_45
def dkwL_law_43 : List UInt8 := [46, 42, 29, 7, 96, 46, 42, 29, 8, 96, 46, 182, 0, 159, 44, 42, 29, 4, 96, 46, 42, 29, 5, 96]
abbrev dktL_law_43 : List UInt8 := dkwL_law_43 ++ dktL_law_44
def dkwL_law_42 : List UInt8 := [46, 182, 0, 158, 159, 1, 49, 3, 172, 43, 42, 29, 4, 96, 46, 42, 29, 5, 96, 46, 42, 29, 6, 96]
abbrev dktL_law_42 : List UInt8 := dkwL_law_42 ++ dktL_law_43
def dkwL_law_41 : List UInt8 := [96, 46, 182, 0, 154, 159, 1, 72, 3, 172, 43, 42, 29, 4, 96, 46, 182, 0, 155, 44, 42, 29, 4, 96]
abbrev dktL_law_41 : List UInt8 := dkwL_law_41 ++ dktL_law_42
def dkwL_law_40 : List UInt8 := [6, 96, 46, 182, 0, 150, 159, 1, 95, 3, 172, 43, 42, 29, 4, 96, 46, 182, 0, 151, 44, 42, 29, 4]
abbrev dktL_law_40 : List UInt8 := dkwL_law_40 ++ dktL_law_41
def dkwL_law_39 : List UInt8 := [5, 96, 46, 42, 29, 6, 96, 46, 182, 0, 147, 44, 42, 29, 4, 96, 46, 42, 29, 5, 96, 46, 42, 29]
abbrev dktL_law_39 : List UInt8 := dkwL_law_39 ++ dktL_law_40
def dkwL_law_38 : List UInt8 := [5, 96, 46, 42, 29, 6, 96, 46, 182, 0, 146, 159, 1, 138, 3, 172, 43, 42, 29, 4, 96, 46, 42, 29]
abbrev dktL_law_38 : List UInt8 := dkwL_law_38 ++ dktL_law_39
def dkwL_law_37 : List UInt8 := [4, 96, 46, 42, 29, 5, 96, 46, 42, 29, 6, 96, 46, 182, 0, 143, 44, 42, 29, 4, 96, 46, 42, 29]
abbrev dktL_law_37 : List UInt8 := dkwL_law_37 ++ dktL_law_38
def dkwL_law_36 : List UInt8 := [29, 4, 96, 46, 182, 0, 139, 44, 42, 29, 4, 96, 46, 182, 0, 142, 159, 1, 181, 3, 172, 43, 42, 29]
abbrev dktL_law_36 : List UInt8 := dkwL_law_36 ++ dktL_law_37
def dkwL_law_35 : List UInt8 := [182, 0, 135, 44, 42, 29, 4, 96, 46, 42, 29, 5, 96, 46, 182, 0, 138, 159, 1, 204, 3, 172, 43, 42]
abbrev dktL_law_35 : List UInt8 := dkwL_law_35 ++ dktL_law_36
def dkwL_law_34 : List UInt8 := [182, 0, 131, 44, 182, 0, 134, 159, 1, 237, 3, 172, 43, 42, 29, 4, 96, 46, 42, 29, 5, 96, 46]
abbrev dktL_law_34 : List UInt8 := dkwL_law_34 ++ dktL_law_35
def dkwL_law_33 : List UInt8 := [43, 42, 29, 4, 96, 46, 182, 0, 127, 44, 42, 29, 4, 96, 46, 182, 0, 130, 159, 1, 250, 3, 172, 43]
abbrev dktL_law_33 : List UInt8 := dkwL_law_33 ++ dktL_law_34
def dkwL_law_32 : List UInt8 := [44, 42, 29, 4, 96, 46, 42, 29, 5, 96, 46, 42, 29, 6, 96, 46, 182, 0, 126, 159, 2, 17, 3, 172]
abbrev dktL_law_32 : List UInt8 := dkwL_law_32 ++ dktL_law_33
def dkwL_law_31 : List UInt8 := [159, 2, 60, 3, 172, 43, 42, 29, 4, 96, 46, 42, 29, 5, 96, 46, 42, 29, 6, 96, 46, 182, 0, 123]
abbrev dktL_law_31 : List UInt8 := dkwL_law_31 ++ dktL_law_32
def dkwL_law_30 : List UInt8 := [42, 29, 5, 96, 46, 182, 0, 119, 44, 42, 29, 4, 96, 46, 42, 29, 5, 96, 46, 182, 0, 122]
abbrev dktL_law_30 : List UInt8 := dkwL_law_30 ++ dktL_law_31
def dkwL_law_29 : List UInt8 := [182, 0, 114, 44, 42, 29, 4, 96, 46, 182, 0, 118, 148, 153, 2, 93, 3, 172, 43, 42, 29, 4, 96, 46]
abbrev dktL_law_29 : List UInt8 := dkwL_law_29 ++ dktL_law_30
def dkwL_law_28 : List UInt8 := [182, 0, 110, 44, 42, 29, 4, 96, 46, 182, 0, 113, 159, 2, 117, 3, 172, 43, 42, 29, 4, 96, 46]
abbrev dktL_law_28 : List UInt8 := dkwL_law_28 ++ dktL_law_29
def dkwL_law_27 : List UInt8 := [46, 182, 0, 106, 44, 42, 29, 4, 96, 46, 182, 0, 109, 159, 2, 140, 3, 172, 43, 42, 29, 4, 96, 46]
abbrev dktL_law_27 : List UInt8 := dkwL_law_27 ++ dktL_law_28
def dkwL_law_26 : List UInt8 := [96, 46, 182, 0, 102, 44, 42, 29, 4, 96, 46, 182, 0, 105, 159, 2, 163, 3, 172, 43, 42, 29, 4, 96]
abbrev dktL_law_26 : List UInt8 := dkwL_law_26 ++ dktL_law_27
def dkwL_law_25 : List UInt8 := [4, 96, 46, 182, 0, 98, 44, 42, 29, 4, 96, 46, 182, 0, 101, 159, 2, 186, 3, 172, 43, 42, 29, 4]
abbrev dktL_law_25 : List UInt8 := dkwL_law_25 ++ dktL_law_26
def dkwL_law_24 : List UInt8 := [182, 0, 93, 159, 2, 222, 3, 172, 43, 182, 0, 94, 44, 182, 0, 97, 159, 2, 209, 3, 172, 43, 42, 29]
abbrev dktL_law_24 : List UInt8 := dkwL_law_24 ++ dktL_law_25
def dkwL_law_23 : List UInt8 := [182, 0, 89, 159, 2, 245, 3, 172, 43, 42, 29, 4, 96, 46, 182, 0, 90, 44, 42, 29, 4, 96, 46]
abbrev dktL_law_23 : List UInt8 := dkwL_law_23 ++ dktL_law_24
def dkwL_law_22 : List UInt8 := [182, 0, 82, 44, 42, 29, 4, 96, 46, 182, 0, 85, 159, 3, 2, 3, 172, 43, 182, 0, 86, 44]
abbrev dktL_law_22 : List UInt8 := dkwL_law_22 ++ dktL_law_23
def dkwL_law_21 : List UInt8 := [46, 182, 0, 78, 44, 42, 29, 4, 96, 46, 182, 0, 81, 159, 3, 25, 3, 172, 43, 42, 29, 4, 96, 46]
abbrev dktL_law_21 : List UInt8 := dkwL_law_21 ++ dktL_law_22
def dkwL_law_20 : List UInt8 := [96, 46, 182, 0, 74, 44, 42, 29, 4, 96, 46, 182, 0, 77, 159, 3, 48, 3, 172, 43, 42, 29, 4, 96]
abbrev dktL_law_20 : List UInt8 := dkwL_law_20 ++ dktL_law_21
def dkwL_law_19 : List UInt8 := [4, 96, 46, 182, 0, 70, 44, 42, 29, 4, 96, 46, 182, 0, 73, 159, 3, 71, 3, 172, 43, 42, 29, 4]
abbrev dktL_law_19 : List UInt8 := dkwL_law_19 ++ dktL_law_20
def dkwL_law_18 : List UInt8 := [29, 4, 96, 46, 182, 0, 66, 44, 42, 29, 4, 96, 46, 182, 0, 69, 159, 3, 94, 3, 172, 43, 42, 29]
abbrev dktL_law_18 : List UInt8 := dkwL_law_18 ++ dktL_law_19
def dkwL_law_17 : List UInt8 := [46, 182, 0, 60, 159, 3, 130, 3, 172, 43, 182, 0, 61, 44, 182, 0, 65, 159, 3, 117, 3, 172, 43, 42]
abbrev dktL_law_17 : List UInt8 := dkwL_law_17 ++ dktL_law_18
def dkwL_law_16 : List UInt8 := [96, 46, 182, 0, 56, 159, 3, 153, 3, 172, 43, 42, 29, 4, 96, 46, 182, 0, 57, 44, 42, 29, 4, 96]
abbrev dktL_law_16 : List UInt8 := dkwL_law_16 ++ dktL_law_17
def dkwL_law_15 : List UInt8 := [4, 96, 46, 182, 0, 52, 159, 3, 176, 3, 172, 43, 42, 29, 4, 96, 46, 182, 0, 53, 44, 42, 29, 4]
abbrev dktL_law_15 : List UInt8 := dkwL_law_15 ++ dktL_law_16
def dkwL_law_14 : List UInt8 := [29, 4, 96, 46, 182, 0, 48, 159, 3, 199, 3, 172, 43, 42, 29, 4, 96, 46, 182, 0, 49, 44, 42, 29]
abbrev dktL_law_14 : List UInt8 := dkwL_law_14 ++ dktL_law_15
def dkwL_law_13 : List UInt8 := [42, 29, 4, 96, 46, 182, 0, 44, 159, 3, 222, 3, 172, 43, 42, 29, 4, 96, 46, 182, 0, 45, 44, 42]
abbrev dktL_law_13 : List UInt8 := dkwL_law_13 ++ dktL_law_14
def dkwL_law_12 : List UInt8 := [46, 42, 29, 5, 96, 46, 182, 0, 39, 159, 3, 245, 3, 172, 43, 42, 29, 4, 96, 46, 182, 0, 40, 44]
abbrev dktL_law_12 : List UInt8 := dkwL_law_12 ++ dktL_law_13
def dkwL_law_11 : List UInt8 := [159, 4, 22, 3, 172, 43, 42, 29, 4, 96, 46, 42, 29, 5, 96, 46, 182, 0, 36, 44, 42, 29, 4, 96]
abbrev dktL_law_11 : List UInt8 := dkwL_law_11 ++ dktL_law_12
def dkwL_law_10 : List UInt8 := [182, 0, 31, 44, 42, 29, 4, 96, 46, 42, 29, 5, 96, 46, 42, 29, 6, 96, 46, 182, 0, 35]
abbrev dktL_law_10 : List UInt8 := dkwL_law_10 ++ dktL_law_11
def dkwL_law_9 : List UInt8 := [182, 0, 30, 159, 4, 65, 3, 172, 43, 42, 29, 4, 96, 46, 42, 29, 5, 96, 46, 42, 29, 6, 96, 46]
abbrev dktL_law_9 : List UInt8 := dkwL_law_9 ++ dktL_law_10
def dkwL_law_8 : List UInt8 := [42, 29, 4, 96, 46, 42, 29, 5, 96, 46, 182, 0, 27, 44, 42, 29, 4, 96, 46, 42, 29, 5, 96, 46]
abbrev dktL_law_8 : List UInt8 := dkwL_law_8 ++ dktL_law_9
def dkwL_law_7 : List UInt8 := [46, 182, 0, 23, 44, 42, 29, 4, 96, 46, 42, 29, 5, 96, 46, 182, 0, 26, 159, 4, 98, 3, 172, 43]
abbrev dktL_law_7 : List UInt8 := dkwL_law_7 ++ dktL_law_8
def dkwL_law_6 : List UInt8 := [46, 42, 29, 5, 96, 46, 182, 0, 22, 159, 4, 131, 3, 172, 43, 42, 29, 4, 96, 46, 42, 29, 5, 96]
abbrev dktL_law_6 : List UInt8 := dkwL_law_6 ++ dktL_law_7
def dkwL_law_5 : List UInt8 := [159, 4, 164, 3, 172, 43, 42, 29, 4, 96, 46, 42, 29, 5, 96, 46, 182, 0, 18, 44, 42, 29, 4, 96]
abbrev dktL_law_5 : List UInt8 := dkwL_law_5 ++ dktL_law_6
def dkwL_law_4 : List UInt8 := [44, 42, 29, 4, 96, 46, 42, 29, 5, 96, 46, 42, 29, 6, 96, 46, 42, 29, 7, 96, 46, 182, 0, 17]
abbrev dktL_law_4 : List UInt8 := dkwL_law_4 ++ dktL_law_5
def dkwL_law_3 : List UInt8 := [43, 42, 29, 4, 96, 46, 42, 29, 5, 96, 46, 42, 29, 6, 96, 46, 42, 29, 7, 96, 46, 182, 0, 13]
abbrev dktL_law_3 : List UInt8 := dkwL_law_3 ++ dktL_law_4
def dkwL_law_2 : List UInt8 := [170, 0, 0, 0, 0, 5, 151, 0, 0, 0, 0, 0, 0, 0, 44, 0, 0, 0, 195, 0, 0, 0, 248, 0, 0, 1, 25, 0, 0, 1, 58, 0, 0, 1, 91, 0, 0, 1, 134, 0, 0, 1, 167, 0, 0, 1, 190, 0, 0, 1, 213, 0, 0, 1, 236, 0, 0, 2, 3, 0, 0, 2, 26, 0, 0, 2, 39, 0, 0, 2, 62, 0, 0, 2, 85, 0, 0, 2, 108, 0, 0, 2, 131, 0, 0, 2, 154, 0, 0, 2, 167, 0, 0, 2, 190, 0, 0, 2, 203, 0, 0, 2, 226, 0, 0, 2, 249, 0, 0, 3, 16, 0, 0, 3, 39, 0, 0, 3, 63, 0, 0, 3, 96, 0, 0, 3, 139, 0, 0, 3, 162, 0, 0, 3, 175, 0, 0, 3, 208, 0, 0, 3, 231, 0, 0, 4, 18, 0, 0, 4, 61, 0, 0, 4, 84, 0, 0, 4, 107, 0, 0, 4, 170, 0, 0, 4, 213, 0, 0, 4, 246, 0, 0, 5, 23, 0, 0, 5, 56, 0, 0, 5, 79, 0, 0, 5, 102, 0, 0, 5, 115, 0, 0, 5, 128]
abbrev dktL_law_2 : List UInt8 := dkwL_law_2 ++ dktL_law_3
def dkwL_law_1 : List UInt8 := [163, 5, 166, 42, 29, 46, 16, 63, 126]
abbrev dktL_law_1 : List UInt8 := dkwL_law_1 ++ dktL_law_2
def dkwL_law_0 : List UInt8 := [187, 0, 7, 89, 183, 0, 9, 76, 187, 0, 10, 89, 183, 0, 12, 77, 3, 62, 29, 42, 190, 16, 6, 100]
abbrev dktL_law_0 : List UInt8 := dkwL_law_0 ++ dktL_law_1
theorem dksL_law_0 : cL_law.data.toList.drop 0 = dktL_law_0 := by decide +kernel
theorem dksL_law_1 : cL_law.data.toList.drop 24 = dktL_law_1 := dk_seg dksL_law_0 24 rfl rfl
theorem dksL_law_2 : cL_law.data.toList.drop 33 = dktL_law_2 := dk_seg dksL_law_1 9 rfl rfl
theorem dksL_law_3 : cL_law.data.toList.drop 228 = dktL_law_3 := dk_seg dksL_law_2 195 rfl rfl
theorem dksL_law_4 : cL_law.data.toList.drop 252 = dktL_law_4 := dk_seg dksL_law_3 24 rfl rfl
theorem dksL_law_5 : cL_law.data.toList.drop 276 = dktL_law_5 := dk_seg dksL_law_4 24 rfl rfl
theorem dksL_law_6 : cL_law.data.toList.drop 300 = dktL_law_6 := dk_seg dksL_law_5 24 rfl rfl
theorem dksL_law_7 : cL_law.data.toList.drop 324 = dktL_law_7 := dk_seg dksL_law_6 24 rfl rfl
theorem dksL_law_8 : cL_law.data.toList.drop 348 = dktL_law_8 := dk_seg dksL_law_7 24 rfl rfl
theorem dksL_law_9 : cL_law.data.toList.drop 372 = dktL_law_9 := dk_seg dksL_law_8 24 rfl rfl
theorem dksL_law_10 : cL_law.data.toList.drop 396 = dktL_law_10 := dk_seg dksL_law_9 24 rfl rfl
theorem dksL_law_11 : cL_law.data.toList.drop 418 = dktL_law_11 := dk_seg dksL_law_10 22 rfl rfl
theorem dksL_law_12 : cL_law.data.toList.drop 442 = dktL_law_12 := dk_seg dksL_law_11 24 rfl rfl
theorem dksL_law_13 : cL_law.data.toList.drop 466 = dktL_law_13 := dk_seg dksL_law_12 24 rfl rfl
theorem dksL_law_14 : cL_law.data.toList.drop 490 = dktL_law_14 := dk_seg dksL_law_13 24 rfl rfl
theorem dksL_law_15 : cL_law.data.toList.drop 514 = dktL_law_15 := dk_seg dksL_law_14 24 rfl rfl
theorem dksL_law_16 : cL_law.data.toList.drop 538 = dktL_law_16 := dk_seg dksL_law_15 24 rfl rfl
theorem dksL_law_17 : cL_law.data.toList.drop 562 = dktL_law_17 := dk_seg dksL_law_16 24 rfl rfl
theorem dksL_law_18 : cL_law.data.toList.drop 586 = dktL_law_18 := dk_seg dksL_law_17 24 rfl rfl
theorem dksL_law_19 : cL_law.data.toList.drop 610 = dktL_law_19 := dk_seg dksL_law_18 24 rfl rfl
theorem dksL_law_20 : cL_law.data.toList.drop 634 = dktL_law_20 := dk_seg dksL_law_19 24 rfl rfl
theorem dksL_law_21 : cL_law.data.toList.drop 658 = dktL_law_21 := dk_seg dksL_law_20 24 rfl rfl
theorem dksL_law_22 : cL_law.data.toList.drop 682 = dktL_law_22 := dk_seg dksL_law_21 24 rfl rfl
theorem dksL_law_23 : cL_law.data.toList.drop 704 = dktL_law_23 := dk_seg dksL_law_22 22 rfl rfl
theorem dksL_law_24 : cL_law.data.toList.drop 727 = dktL_law_24 := dk_seg dksL_law_23 23 rfl rfl
theorem dksL_law_25 : cL_law.data.toList.drop 751 = dktL_law_25 := dk_seg dksL_law_24 24 rfl rfl
theorem dksL_law_26 : cL_law.data.toList.drop 775 = dktL_law_26 := dk_seg dksL_law_25 24 rfl rfl
theorem dksL_law_27 : cL_law.data.toList.drop 799 = dktL_law_27 := dk_seg dksL_law_26 24 rfl rfl
theorem dksL_law_28 : cL_law.data.toList.drop 823 = dktL_law_28 := dk_seg dksL_law_27 24 rfl rfl
theorem dksL_law_29 : cL_law.data.toList.drop 846 = dktL_law_29 := dk_seg dksL_law_28 23 rfl rfl
theorem dksL_law_30 : cL_law.data.toList.drop 870 = dktL_law_30 := dk_seg dksL_law_29 24 rfl rfl
theorem dksL_law_31 : cL_law.data.toList.drop 892 = dktL_law_31 := dk_seg dksL_law_30 22 rfl rfl
theorem dksL_law_32 : cL_law.data.toList.drop 916 = dktL_law_32 := dk_seg dksL_law_31 24 rfl rfl
theorem dksL_law_33 : cL_law.data.toList.drop 940 = dktL_law_33 := dk_seg dksL_law_32 24 rfl rfl
theorem dksL_law_34 : cL_law.data.toList.drop 964 = dktL_law_34 := dk_seg dksL_law_33 24 rfl rfl
theorem dksL_law_35 : cL_law.data.toList.drop 987 = dktL_law_35 := dk_seg dksL_law_34 23 rfl rfl
theorem dksL_law_36 : cL_law.data.toList.drop 1011 = dktL_law_36 := dk_seg dksL_law_35 24 rfl rfl
theorem dksL_law_37 : cL_law.data.toList.drop 1035 = dktL_law_37 := dk_seg dksL_law_36 24 rfl rfl
theorem dksL_law_38 : cL_law.data.toList.drop 1059 = dktL_law_38 := dk_seg dksL_law_37 24 rfl rfl
theorem dksL_law_39 : cL_law.data.toList.drop 1083 = dktL_law_39 := dk_seg dksL_law_38 24 rfl rfl
theorem dksL_law_40 : cL_law.data.toList.drop 1107 = dktL_law_40 := dk_seg dksL_law_39 24 rfl rfl
theorem dksL_law_41 : cL_law.data.toList.drop 1131 = dktL_law_41 := dk_seg dksL_law_40 24 rfl rfl
theorem dksL_law_42 : cL_law.data.toList.drop 1155 = dktL_law_42 := dk_seg dksL_law_41 24 rfl rfl
theorem dksL_law_43 : cL_law.data.toList.drop 1179 = dktL_law_43 := dk_seg dksL_law_42 24 rfl rfl
theorem dksL_law_44 : cL_law.data.toList.drop 1203 = dktL_law_44 := dk_seg dksL_law_43 24 rfl rfl
theorem dksL_law_45 : cL_law.data.toList.drop 1227 = dktL_law_45 := dk_seg dksL_law_44 24 rfl rfl
theorem dksL_law_46 : cL_law.data.toList.drop 1251 = dktL_law_46 := dk_seg dksL_law_45 24 rfl rfl
theorem dksL_law_47 : cL_law.data.toList.drop 1275 = dktL_law_47 := dk_seg dksL_law_46 24 rfl rfl
theorem dksL_law_48 : cL_law.data.toList.drop 1298 = dktL_law_48 := dk_seg dksL_law_47 23 rfl rfl
theorem dksL_law_49 : cL_law.data.toList.drop 1322 = dktL_law_49 := dk_seg dksL_law_48 24 rfl rfl
theorem dksL_law_50 : cL_law.data.toList.drop 1346 = dktL_law_50 := dk_seg dksL_law_49 24 rfl rfl
theorem dksL_law_51 : cL_law.data.toList.drop 1370 = dktL_law_51 := dk_seg dksL_law_50 24 rfl rfl
theorem dksL_law_52 : cL_law.data.toList.drop 1394 = dktL_law_52 := dk_seg dksL_law_51 24 rfl rfl
theorem dksL_law_53 : cL_law.data.toList.drop 1416 = dktL_law_53 := dk_seg dksL_law_52 22 rfl rfl
theorem dksL_law_54 : cL_law.data.toList.drop 1440 = dktL_law_54 := dk_seg dksL_law_53 24 rfl rfl
theorem dksL_law_55 : cL_law.data.toList.drop 1464 = dktL_law_55 := dk_seg dksL_law_54 24 rfl rfl
theorem dL_law_0 : decode cL_law 0 = .ok (.new 7, 3) := dk_187 0 7 (dk_at dksL_law_0 0 rfl rfl)
theorem dL_law_3 : decode cL_law 3 = .ok (.dup, 1) := dk_89 (dk_at dksL_law_0 3 rfl rfl)
theorem dL_law_4 : decode cL_law 4 = .ok (.invokespecial 9, 3) := dk_183 0 9 (dk_at dksL_law_0 4 rfl rfl)
theorem dL_law_7 : decode cL_law 7 = .ok (.astore_n 1, 1) := dk_76 (dk_at dksL_law_0 7 rfl rfl)
theorem dL_law_8 : decode cL_law 8 = .ok (.new 10, 3) := dk_187 0 10 (dk_at dksL_law_0 8 rfl rfl)
theorem dL_law_11 : decode cL_law 11 = .ok (.dup, 1) := dk_89 (dk_at dksL_law_0 11 rfl rfl)
theorem dL_law_12 : decode cL_law 12 = .ok (.invokespecial 12, 3) := dk_183 0 12 (dk_at dksL_law_0 12 rfl rfl)
theorem dL_law_15 : decode cL_law 15 = .ok (.astore_n 2, 1) := dk_77 (dk_at dksL_law_0 15 rfl rfl)
theorem dL_law_16 : decode cL_law 16 = .ok (.iconst 0, 1) := dk_3 (dk_at dksL_law_0 16 rfl rfl)
theorem dL_law_17 : decode cL_law 17 = .ok (.istore_n 3, 1) := dk_62 (dk_at dksL_law_0 17 rfl rfl)
theorem dL_law_18 : decode cL_law 18 = .ok (.iload_n 3, 1) := dk_29 (dk_at dksL_law_0 18 rfl rfl)
theorem dL_law_19 : decode cL_law 19 = .ok (.aload_n 0, 1) := dk_42 (dk_at dksL_law_0 19 rfl rfl)
theorem dL_law_20 : decode cL_law 20 = .ok (.arraylength, 1) := dk_190 (dk_at dksL_law_0 20 rfl rfl)
theorem dL_law_21 : decode cL_law 21 = .ok (.bipush 6, 2) := dk_16 6 (dk_at dksL_law_0 21 rfl rfl)
theorem dL_law_23 : decode cL_law 23 = .ok (.isub, 1) := dk_100 (dk_at dksL_law_0 23 rfl rfl)
theorem dL_law_24 : decode cL_law 24 = .ok (.if_icmp .gt 1446, 3) := dk_163 5 166 (dk_at dksL_law_1 0 rfl rfl)
theorem dL_law_27 : decode cL_law 27 = .ok (.aload_n 0, 1) := dk_42 (dk_at dksL_law_1 3 rfl rfl)
theorem dL_law_28 : decode cL_law 28 = .ok (.iload_n 3, 1) := dk_29 (dk_at dksL_law_1 4 rfl rfl)
theorem dL_law_29 : decode cL_law 29 = .ok (.iaload, 1) := dk_46 (dk_at dksL_law_1 5 rfl rfl)
theorem dL_law_30 : decode cL_law 30 = .ok (.bipush 63, 2) := dk_16 63 (dk_at dksL_law_1 6 rfl rfl)
theorem dL_law_32 : decode cL_law 32 = .ok (.iand, 1) := dk_126 (dk_at dksL_law_1 8 rfl rfl)
theorem dL_law_33 : decode cL_law 33 = .ok (.tableswitch 1431 0 44 #[195, 248, 281, 314, 347, 390, 423, 446, 469, 492, 515, 538, 551, 574, 597, 620, 643, 666, 679, 702, 715, 738, 761, 784, 807, 831, 864, 907, 930, 943, 976, 999, 1042, 1085, 1108, 1131, 1194, 1237, 1270, 1303, 1336, 1359, 1382, 1395, 1408], 195) := by decide +kernel
theorem dL_law_228 : decode cL_law 228 = .ok (.aload_n 1, 1) := dk_43 (dk_at dksL_law_3 0 rfl rfl)
theorem dL_law_229 : decode cL_law 229 = .ok (.aload_n 0, 1) := dk_42 (dk_at dksL_law_3 1 rfl rfl)
theorem dL_law_230 : decode cL_law 230 = .ok (.iload_n 3, 1) := dk_29 (dk_at dksL_law_3 2 rfl rfl)
theorem dL_law_231 : decode cL_law 231 = .ok (.iconst 1, 1) := dk_4 (dk_at dksL_law_3 3 rfl rfl)
theorem dL_law_232 : decode cL_law 232 = .ok (.iadd, 1) := dk_96 (dk_at dksL_law_3 4 rfl rfl)
theorem dL_law_233 : decode cL_law 233 = .ok (.iaload, 1) := dk_46 (dk_at dksL_law_3 5 rfl rfl)
theorem dL_law_234 : decode cL_law 234 = .ok (.aload_n 0, 1) := dk_42 (dk_at dksL_law_3 6 rfl rfl)
theorem dL_law_235 : decode cL_law 235 = .ok (.iload_n 3, 1) := dk_29 (dk_at dksL_law_3 7 rfl rfl)
theorem dL_law_236 : decode cL_law 236 = .ok (.iconst 2, 1) := dk_5 (dk_at dksL_law_3 8 rfl rfl)
theorem dL_law_237 : decode cL_law 237 = .ok (.iadd, 1) := dk_96 (dk_at dksL_law_3 9 rfl rfl)
theorem dL_law_238 : decode cL_law 238 = .ok (.iaload, 1) := dk_46 (dk_at dksL_law_3 10 rfl rfl)
theorem dL_law_239 : decode cL_law 239 = .ok (.aload_n 0, 1) := dk_42 (dk_at dksL_law_3 11 rfl rfl)
theorem dL_law_240 : decode cL_law 240 = .ok (.iload_n 3, 1) := dk_29 (dk_at dksL_law_3 12 rfl rfl)
theorem dL_law_241 : decode cL_law 241 = .ok (.iconst 3, 1) := dk_6 (dk_at dksL_law_3 13 rfl rfl)
theorem dL_law_242 : decode cL_law 242 = .ok (.iadd, 1) := dk_96 (dk_at dksL_law_3 14 rfl rfl)
theorem dL_law_243 : decode cL_law 243 = .ok (.iaload, 1) := dk_46 (dk_at dksL_law_3 15 rfl rfl)
theorem dL_law_244 : decode cL_law 244 = .ok (.aload_n 0, 1) := dk_42 (dk_at dksL_law_3 16 rfl rfl)
theorem dL_law_245 : decode cL_law 245 = .ok (.iload_n 3, 1) := dk_29 (dk_at dksL_law_3 17 rfl rfl)
theorem dL_law_246 : decode cL_law 246 = .ok (.iconst 4, 1) := dk_7 (dk_at dksL_law_3 18 rfl rfl)
theorem dL_law_247 : decode cL_law 247 = .ok (.iadd, 1) := dk_96 (dk_at dksL_law_3 19 rfl rfl)
theorem dL_law_248 : decode cL_law 248 = .ok (.iaload, 1) := dk_46 (dk_at dksL_law_3 20 rfl rfl)
theorem dL_law_249 : decode cL_law 249 = .ok (.invokevirtual 13, 3) := dk_182 0 13 (dk_at dksL_law_3 21 rfl rfl)
theorem dL_law_252 : decode cL_law 252 = .ok (.aload_n 2, 1) := dk_44 (dk_at dksL_law_4 0 rfl rfl)
theorem dL_law_253 : decode cL_law 253 = .ok (.aload_n 0, 1) := dk_42 (dk_at dksL_law_4 1 rfl rfl)
theorem dL_law_254 : decode cL_law 254 = .ok (.iload_n 3, 1) := dk_29 (dk_at dksL_law_4 2 rfl rfl)
theorem dL_law_255 : decode cL_law 255 = .ok (.iconst 1, 1) := dk_4 (dk_at dksL_law_4 3 rfl rfl)
theorem dL_law_256 : decode cL_law 256 = .ok (.iadd, 1) := dk_96 (dk_at dksL_law_4 4 rfl rfl)
theorem dL_law_257 : decode cL_law 257 = .ok (.iaload, 1) := dk_46 (dk_at dksL_law_4 5 rfl rfl)
theorem dL_law_258 : decode cL_law 258 = .ok (.aload_n 0, 1) := dk_42 (dk_at dksL_law_4 6 rfl rfl)
theorem dL_law_259 : decode cL_law 259 = .ok (.iload_n 3, 1) := dk_29 (dk_at dksL_law_4 7 rfl rfl)
theorem dL_law_260 : decode cL_law 260 = .ok (.iconst 2, 1) := dk_5 (dk_at dksL_law_4 8 rfl rfl)
theorem dL_law_261 : decode cL_law 261 = .ok (.iadd, 1) := dk_96 (dk_at dksL_law_4 9 rfl rfl)
theorem dL_law_262 : decode cL_law 262 = .ok (.iaload, 1) := dk_46 (dk_at dksL_law_4 10 rfl rfl)
theorem dL_law_263 : decode cL_law 263 = .ok (.aload_n 0, 1) := dk_42 (dk_at dksL_law_4 11 rfl rfl)
theorem dL_law_264 : decode cL_law 264 = .ok (.iload_n 3, 1) := dk_29 (dk_at dksL_law_4 12 rfl rfl)
theorem dL_law_265 : decode cL_law 265 = .ok (.iconst 3, 1) := dk_6 (dk_at dksL_law_4 13 rfl rfl)
theorem dL_law_266 : decode cL_law 266 = .ok (.iadd, 1) := dk_96 (dk_at dksL_law_4 14 rfl rfl)
theorem dL_law_267 : decode cL_law 267 = .ok (.iaload, 1) := dk_46 (dk_at dksL_law_4 15 rfl rfl)
theorem dL_law_268 : decode cL_law 268 = .ok (.aload_n 0, 1) := dk_42 (dk_at dksL_law_4 16 rfl rfl)
theorem dL_law_269 : decode cL_law 269 = .ok (.iload_n 3, 1) := dk_29 (dk_at dksL_law_4 17 rfl rfl)
theorem dL_law_270 : decode cL_law 270 = .ok (.iconst 4, 1) := dk_7 (dk_at dksL_law_4 18 rfl rfl)
theorem dL_law_271 : decode cL_law 271 = .ok (.iadd, 1) := dk_96 (dk_at dksL_law_4 19 rfl rfl)
theorem dL_law_272 : decode cL_law 272 = .ok (.iaload, 1) := dk_46 (dk_at dksL_law_4 20 rfl rfl)
theorem dL_law_273 : decode cL_law 273 = .ok (.invokevirtual 17, 3) := dk_182 0 17 (dk_at dksL_law_4 21 rfl rfl)
theorem dL_law_276 : decode cL_law 276 = .ok (.if_icmp .eq 1188, 3) := dk_159 4 164 (dk_at dksL_law_5 0 rfl rfl)
theorem dL_law_279 : decode cL_law 279 = .ok (.iconst 0, 1) := dk_3 (dk_at dksL_law_5 3 rfl rfl)
theorem dL_law_280 : decode cL_law 280 = .ok (.ireturn, 1) := dk_172 (dk_at dksL_law_5 4 rfl rfl)
theorem dL_law_281 : decode cL_law 281 = .ok (.aload_n 1, 1) := dk_43 (dk_at dksL_law_5 5 rfl rfl)
theorem dL_law_282 : decode cL_law 282 = .ok (.aload_n 0, 1) := dk_42 (dk_at dksL_law_5 6 rfl rfl)
theorem dL_law_283 : decode cL_law 283 = .ok (.iload_n 3, 1) := dk_29 (dk_at dksL_law_5 7 rfl rfl)
theorem dL_law_284 : decode cL_law 284 = .ok (.iconst 1, 1) := dk_4 (dk_at dksL_law_5 8 rfl rfl)
theorem dL_law_285 : decode cL_law 285 = .ok (.iadd, 1) := dk_96 (dk_at dksL_law_5 9 rfl rfl)
theorem dL_law_286 : decode cL_law 286 = .ok (.iaload, 1) := dk_46 (dk_at dksL_law_5 10 rfl rfl)
theorem dL_law_287 : decode cL_law 287 = .ok (.aload_n 0, 1) := dk_42 (dk_at dksL_law_5 11 rfl rfl)
theorem dL_law_288 : decode cL_law 288 = .ok (.iload_n 3, 1) := dk_29 (dk_at dksL_law_5 12 rfl rfl)
theorem dL_law_289 : decode cL_law 289 = .ok (.iconst 2, 1) := dk_5 (dk_at dksL_law_5 13 rfl rfl)
theorem dL_law_290 : decode cL_law 290 = .ok (.iadd, 1) := dk_96 (dk_at dksL_law_5 14 rfl rfl)
theorem dL_law_291 : decode cL_law 291 = .ok (.iaload, 1) := dk_46 (dk_at dksL_law_5 15 rfl rfl)
theorem dL_law_292 : decode cL_law 292 = .ok (.invokevirtual 18, 3) := dk_182 0 18 (dk_at dksL_law_5 16 rfl rfl)
theorem dL_law_295 : decode cL_law 295 = .ok (.aload_n 2, 1) := dk_44 (dk_at dksL_law_5 19 rfl rfl)
theorem dL_law_296 : decode cL_law 296 = .ok (.aload_n 0, 1) := dk_42 (dk_at dksL_law_5 20 rfl rfl)
theorem dL_law_297 : decode cL_law 297 = .ok (.iload_n 3, 1) := dk_29 (dk_at dksL_law_5 21 rfl rfl)
theorem dL_law_298 : decode cL_law 298 = .ok (.iconst 1, 1) := dk_4 (dk_at dksL_law_5 22 rfl rfl)
theorem dL_law_299 : decode cL_law 299 = .ok (.iadd, 1) := dk_96 (dk_at dksL_law_5 23 rfl rfl)
theorem dL_law_300 : decode cL_law 300 = .ok (.iaload, 1) := dk_46 (dk_at dksL_law_6 0 rfl rfl)
theorem dL_law_301 : decode cL_law 301 = .ok (.aload_n 0, 1) := dk_42 (dk_at dksL_law_6 1 rfl rfl)
theorem dL_law_302 : decode cL_law 302 = .ok (.iload_n 3, 1) := dk_29 (dk_at dksL_law_6 2 rfl rfl)
theorem dL_law_303 : decode cL_law 303 = .ok (.iconst 2, 1) := dk_5 (dk_at dksL_law_6 3 rfl rfl)
theorem dL_law_304 : decode cL_law 304 = .ok (.iadd, 1) := dk_96 (dk_at dksL_law_6 4 rfl rfl)
theorem dL_law_305 : decode cL_law 305 = .ok (.iaload, 1) := dk_46 (dk_at dksL_law_6 5 rfl rfl)
theorem dL_law_306 : decode cL_law 306 = .ok (.invokevirtual 22, 3) := dk_182 0 22 (dk_at dksL_law_6 6 rfl rfl)
theorem dL_law_309 : decode cL_law 309 = .ok (.if_icmp .eq 1155, 3) := dk_159 4 131 (dk_at dksL_law_6 9 rfl rfl)
theorem dL_law_312 : decode cL_law 312 = .ok (.iconst 0, 1) := dk_3 (dk_at dksL_law_6 12 rfl rfl)
theorem dL_law_313 : decode cL_law 313 = .ok (.ireturn, 1) := dk_172 (dk_at dksL_law_6 13 rfl rfl)
theorem dL_law_314 : decode cL_law 314 = .ok (.aload_n 1, 1) := dk_43 (dk_at dksL_law_6 14 rfl rfl)
theorem dL_law_315 : decode cL_law 315 = .ok (.aload_n 0, 1) := dk_42 (dk_at dksL_law_6 15 rfl rfl)
theorem dL_law_316 : decode cL_law 316 = .ok (.iload_n 3, 1) := dk_29 (dk_at dksL_law_6 16 rfl rfl)
theorem dL_law_317 : decode cL_law 317 = .ok (.iconst 1, 1) := dk_4 (dk_at dksL_law_6 17 rfl rfl)
theorem dL_law_318 : decode cL_law 318 = .ok (.iadd, 1) := dk_96 (dk_at dksL_law_6 18 rfl rfl)
theorem dL_law_319 : decode cL_law 319 = .ok (.iaload, 1) := dk_46 (dk_at dksL_law_6 19 rfl rfl)
theorem dL_law_320 : decode cL_law 320 = .ok (.aload_n 0, 1) := dk_42 (dk_at dksL_law_6 20 rfl rfl)
theorem dL_law_321 : decode cL_law 321 = .ok (.iload_n 3, 1) := dk_29 (dk_at dksL_law_6 21 rfl rfl)
theorem dL_law_322 : decode cL_law 322 = .ok (.iconst 2, 1) := dk_5 (dk_at dksL_law_6 22 rfl rfl)
theorem dL_law_323 : decode cL_law 323 = .ok (.iadd, 1) := dk_96 (dk_at dksL_law_6 23 rfl rfl)
theorem dL_law_324 : decode cL_law 324 = .ok (.iaload, 1) := dk_46 (dk_at dksL_law_7 0 rfl rfl)
theorem dL_law_325 : decode cL_law 325 = .ok (.invokevirtual 23, 3) := dk_182 0 23 (dk_at dksL_law_7 1 rfl rfl)
theorem dL_law_328 : decode cL_law 328 = .ok (.aload_n 2, 1) := dk_44 (dk_at dksL_law_7 4 rfl rfl)
theorem dL_law_329 : decode cL_law 329 = .ok (.aload_n 0, 1) := dk_42 (dk_at dksL_law_7 5 rfl rfl)
theorem dL_law_330 : decode cL_law 330 = .ok (.iload_n 3, 1) := dk_29 (dk_at dksL_law_7 6 rfl rfl)
theorem dL_law_331 : decode cL_law 331 = .ok (.iconst 1, 1) := dk_4 (dk_at dksL_law_7 7 rfl rfl)
theorem dL_law_332 : decode cL_law 332 = .ok (.iadd, 1) := dk_96 (dk_at dksL_law_7 8 rfl rfl)
theorem dL_law_333 : decode cL_law 333 = .ok (.iaload, 1) := dk_46 (dk_at dksL_law_7 9 rfl rfl)
theorem dL_law_334 : decode cL_law 334 = .ok (.aload_n 0, 1) := dk_42 (dk_at dksL_law_7 10 rfl rfl)
theorem dL_law_335 : decode cL_law 335 = .ok (.iload_n 3, 1) := dk_29 (dk_at dksL_law_7 11 rfl rfl)
theorem dL_law_336 : decode cL_law 336 = .ok (.iconst 2, 1) := dk_5 (dk_at dksL_law_7 12 rfl rfl)
theorem dL_law_337 : decode cL_law 337 = .ok (.iadd, 1) := dk_96 (dk_at dksL_law_7 13 rfl rfl)
theorem dL_law_338 : decode cL_law 338 = .ok (.iaload, 1) := dk_46 (dk_at dksL_law_7 14 rfl rfl)
theorem dL_law_339 : decode cL_law 339 = .ok (.invokevirtual 26, 3) := dk_182 0 26 (dk_at dksL_law_7 15 rfl rfl)
theorem dL_law_342 : decode cL_law 342 = .ok (.if_icmp .eq 1122, 3) := dk_159 4 98 (dk_at dksL_law_7 18 rfl rfl)
theorem dL_law_345 : decode cL_law 345 = .ok (.iconst 0, 1) := dk_3 (dk_at dksL_law_7 21 rfl rfl)
theorem dL_law_346 : decode cL_law 346 = .ok (.ireturn, 1) := dk_172 (dk_at dksL_law_7 22 rfl rfl)
theorem dL_law_347 : decode cL_law 347 = .ok (.aload_n 1, 1) := dk_43 (dk_at dksL_law_7 23 rfl rfl)
theorem dL_law_348 : decode cL_law 348 = .ok (.aload_n 0, 1) := dk_42 (dk_at dksL_law_8 0 rfl rfl)
theorem dL_law_349 : decode cL_law 349 = .ok (.iload_n 3, 1) := dk_29 (dk_at dksL_law_8 1 rfl rfl)
theorem dL_law_350 : decode cL_law 350 = .ok (.iconst 1, 1) := dk_4 (dk_at dksL_law_8 2 rfl rfl)
theorem dL_law_351 : decode cL_law 351 = .ok (.iadd, 1) := dk_96 (dk_at dksL_law_8 3 rfl rfl)
theorem dL_law_352 : decode cL_law 352 = .ok (.iaload, 1) := dk_46 (dk_at dksL_law_8 4 rfl rfl)
theorem dL_law_353 : decode cL_law 353 = .ok (.aload_n 0, 1) := dk_42 (dk_at dksL_law_8 5 rfl rfl)
theorem dL_law_354 : decode cL_law 354 = .ok (.iload_n 3, 1) := dk_29 (dk_at dksL_law_8 6 rfl rfl)
theorem dL_law_355 : decode cL_law 355 = .ok (.iconst 2, 1) := dk_5 (dk_at dksL_law_8 7 rfl rfl)
theorem dL_law_356 : decode cL_law 356 = .ok (.iadd, 1) := dk_96 (dk_at dksL_law_8 8 rfl rfl)
theorem dL_law_357 : decode cL_law 357 = .ok (.iaload, 1) := dk_46 (dk_at dksL_law_8 9 rfl rfl)
theorem dL_law_358 : decode cL_law 358 = .ok (.invokevirtual 27, 3) := dk_182 0 27 (dk_at dksL_law_8 10 rfl rfl)
theorem dL_law_361 : decode cL_law 361 = .ok (.aload_n 2, 1) := dk_44 (dk_at dksL_law_8 13 rfl rfl)
theorem dL_law_362 : decode cL_law 362 = .ok (.aload_n 0, 1) := dk_42 (dk_at dksL_law_8 14 rfl rfl)
theorem dL_law_363 : decode cL_law 363 = .ok (.iload_n 3, 1) := dk_29 (dk_at dksL_law_8 15 rfl rfl)
theorem dL_law_364 : decode cL_law 364 = .ok (.iconst 1, 1) := dk_4 (dk_at dksL_law_8 16 rfl rfl)
theorem dL_law_365 : decode cL_law 365 = .ok (.iadd, 1) := dk_96 (dk_at dksL_law_8 17 rfl rfl)
theorem dL_law_366 : decode cL_law 366 = .ok (.iaload, 1) := dk_46 (dk_at dksL_law_8 18 rfl rfl)
theorem dL_law_367 : decode cL_law 367 = .ok (.aload_n 0, 1) := dk_42 (dk_at dksL_law_8 19 rfl rfl)
theorem dL_law_368 : decode cL_law 368 = .ok (.iload_n 3, 1) := dk_29 (dk_at dksL_law_8 20 rfl rfl)
theorem dL_law_369 : decode cL_law 369 = .ok (.iconst 2, 1) := dk_5 (dk_at dksL_law_8 21 rfl rfl)
theorem dL_law_370 : decode cL_law 370 = .ok (.iadd, 1) := dk_96 (dk_at dksL_law_8 22 rfl rfl)
theorem dL_law_371 : decode cL_law 371 = .ok (.iaload, 1) := dk_46 (dk_at dksL_law_8 23 rfl rfl)
theorem dL_law_372 : decode cL_law 372 = .ok (.invokevirtual 30, 3) := dk_182 0 30 (dk_at dksL_law_9 0 rfl rfl)
theorem dL_law_375 : decode cL_law 375 = .ok (.if_icmp .eq 1089, 3) := dk_159 4 65 (dk_at dksL_law_9 3 rfl rfl)
theorem dL_law_378 : decode cL_law 378 = .ok (.iconst 0, 1) := dk_3 (dk_at dksL_law_9 6 rfl rfl)
theorem dL_law_379 : decode cL_law 379 = .ok (.ireturn, 1) := dk_172 (dk_at dksL_law_9 7 rfl rfl)
theorem dL_law_380 : decode cL_law 380 = .ok (.aload_n 1, 1) := dk_43 (dk_at dksL_law_9 8 rfl rfl)
theorem dL_law_381 : decode cL_law 381 = .ok (.aload_n 0, 1) := dk_42 (dk_at dksL_law_9 9 rfl rfl)
theorem dL_law_382 : decode cL_law 382 = .ok (.iload_n 3, 1) := dk_29 (dk_at dksL_law_9 10 rfl rfl)
theorem dL_law_383 : decode cL_law 383 = .ok (.iconst 1, 1) := dk_4 (dk_at dksL_law_9 11 rfl rfl)
theorem dL_law_384 : decode cL_law 384 = .ok (.iadd, 1) := dk_96 (dk_at dksL_law_9 12 rfl rfl)
theorem dL_law_385 : decode cL_law 385 = .ok (.iaload, 1) := dk_46 (dk_at dksL_law_9 13 rfl rfl)
theorem dL_law_386 : decode cL_law 386 = .ok (.aload_n 0, 1) := dk_42 (dk_at dksL_law_9 14 rfl rfl)
theorem dL_law_387 : decode cL_law 387 = .ok (.iload_n 3, 1) := dk_29 (dk_at dksL_law_9 15 rfl rfl)
theorem dL_law_388 : decode cL_law 388 = .ok (.iconst 2, 1) := dk_5 (dk_at dksL_law_9 16 rfl rfl)
theorem dL_law_389 : decode cL_law 389 = .ok (.iadd, 1) := dk_96 (dk_at dksL_law_9 17 rfl rfl)
theorem dL_law_390 : decode cL_law 390 = .ok (.iaload, 1) := dk_46 (dk_at dksL_law_9 18 rfl rfl)
theorem dL_law_391 : decode cL_law 391 = .ok (.aload_n 0, 1) := dk_42 (dk_at dksL_law_9 19 rfl rfl)
theorem dL_law_392 : decode cL_law 392 = .ok (.iload_n 3, 1) := dk_29 (dk_at dksL_law_9 20 rfl rfl)
theorem dL_law_393 : decode cL_law 393 = .ok (.iconst 3, 1) := dk_6 (dk_at dksL_law_9 21 rfl rfl)
theorem dL_law_394 : decode cL_law 394 = .ok (.iadd, 1) := dk_96 (dk_at dksL_law_9 22 rfl rfl)
theorem dL_law_395 : decode cL_law 395 = .ok (.iaload, 1) := dk_46 (dk_at dksL_law_9 23 rfl rfl)
theorem dL_law_396 : decode cL_law 396 = .ok (.invokevirtual 31, 3) := dk_182 0 31 (dk_at dksL_law_10 0 rfl rfl)
theorem dL_law_399 : decode cL_law 399 = .ok (.aload_n 2, 1) := dk_44 (dk_at dksL_law_10 3 rfl rfl)
theorem dL_law_400 : decode cL_law 400 = .ok (.aload_n 0, 1) := dk_42 (dk_at dksL_law_10 4 rfl rfl)
theorem dL_law_401 : decode cL_law 401 = .ok (.iload_n 3, 1) := dk_29 (dk_at dksL_law_10 5 rfl rfl)
theorem dL_law_402 : decode cL_law 402 = .ok (.iconst 1, 1) := dk_4 (dk_at dksL_law_10 6 rfl rfl)
theorem dL_law_403 : decode cL_law 403 = .ok (.iadd, 1) := dk_96 (dk_at dksL_law_10 7 rfl rfl)
theorem dL_law_404 : decode cL_law 404 = .ok (.iaload, 1) := dk_46 (dk_at dksL_law_10 8 rfl rfl)
theorem dL_law_405 : decode cL_law 405 = .ok (.aload_n 0, 1) := dk_42 (dk_at dksL_law_10 9 rfl rfl)
theorem dL_law_406 : decode cL_law 406 = .ok (.iload_n 3, 1) := dk_29 (dk_at dksL_law_10 10 rfl rfl)
theorem dL_law_407 : decode cL_law 407 = .ok (.iconst 2, 1) := dk_5 (dk_at dksL_law_10 11 rfl rfl)
theorem dL_law_408 : decode cL_law 408 = .ok (.iadd, 1) := dk_96 (dk_at dksL_law_10 12 rfl rfl)
theorem dL_law_409 : decode cL_law 409 = .ok (.iaload, 1) := dk_46 (dk_at dksL_law_10 13 rfl rfl)
theorem dL_law_410 : decode cL_law 410 = .ok (.aload_n 0, 1) := dk_42 (dk_at dksL_law_10 14 rfl rfl)
theorem dL_law_411 : decode cL_law 411 = .ok (.iload_n 3, 1) := dk_29 (dk_at dksL_law_10 15 rfl rfl)
theorem dL_law_412 : decode cL_law 412 = .ok (.iconst 3, 1) := dk_6 (dk_at dksL_law_10 16 rfl rfl)
theorem dL_law_413 : decode cL_law 413 = .ok (.iadd, 1) := dk_96 (dk_at dksL_law_10 17 rfl rfl)
theorem dL_law_414 : decode cL_law 414 = .ok (.iaload, 1) := dk_46 (dk_at dksL_law_10 18 rfl rfl)
theorem dL_law_415 : decode cL_law 415 = .ok (.invokevirtual 35, 3) := dk_182 0 35 (dk_at dksL_law_10 19 rfl rfl)
theorem dL_law_418 : decode cL_law 418 = .ok (.if_icmp .eq 1046, 3) := dk_159 4 22 (dk_at dksL_law_11 0 rfl rfl)
theorem dL_law_421 : decode cL_law 421 = .ok (.iconst 0, 1) := dk_3 (dk_at dksL_law_11 3 rfl rfl)
theorem dL_law_422 : decode cL_law 422 = .ok (.ireturn, 1) := dk_172 (dk_at dksL_law_11 4 rfl rfl)
theorem dL_law_423 : decode cL_law 423 = .ok (.aload_n 1, 1) := dk_43 (dk_at dksL_law_11 5 rfl rfl)
theorem dL_law_424 : decode cL_law 424 = .ok (.aload_n 0, 1) := dk_42 (dk_at dksL_law_11 6 rfl rfl)
theorem dL_law_425 : decode cL_law 425 = .ok (.iload_n 3, 1) := dk_29 (dk_at dksL_law_11 7 rfl rfl)
theorem dL_law_426 : decode cL_law 426 = .ok (.iconst 1, 1) := dk_4 (dk_at dksL_law_11 8 rfl rfl)
theorem dL_law_427 : decode cL_law 427 = .ok (.iadd, 1) := dk_96 (dk_at dksL_law_11 9 rfl rfl)
theorem dL_law_428 : decode cL_law 428 = .ok (.iaload, 1) := dk_46 (dk_at dksL_law_11 10 rfl rfl)
theorem dL_law_429 : decode cL_law 429 = .ok (.aload_n 0, 1) := dk_42 (dk_at dksL_law_11 11 rfl rfl)
theorem dL_law_430 : decode cL_law 430 = .ok (.iload_n 3, 1) := dk_29 (dk_at dksL_law_11 12 rfl rfl)
theorem dL_law_431 : decode cL_law 431 = .ok (.iconst 2, 1) := dk_5 (dk_at dksL_law_11 13 rfl rfl)
theorem dL_law_432 : decode cL_law 432 = .ok (.iadd, 1) := dk_96 (dk_at dksL_law_11 14 rfl rfl)
theorem dL_law_433 : decode cL_law 433 = .ok (.iaload, 1) := dk_46 (dk_at dksL_law_11 15 rfl rfl)
theorem dL_law_434 : decode cL_law 434 = .ok (.invokevirtual 36, 3) := dk_182 0 36 (dk_at dksL_law_11 16 rfl rfl)
theorem dL_law_437 : decode cL_law 437 = .ok (.aload_n 2, 1) := dk_44 (dk_at dksL_law_11 19 rfl rfl)
theorem dL_law_438 : decode cL_law 438 = .ok (.aload_n 0, 1) := dk_42 (dk_at dksL_law_11 20 rfl rfl)
theorem dL_law_439 : decode cL_law 439 = .ok (.iload_n 3, 1) := dk_29 (dk_at dksL_law_11 21 rfl rfl)
theorem dL_law_440 : decode cL_law 440 = .ok (.iconst 1, 1) := dk_4 (dk_at dksL_law_11 22 rfl rfl)
theorem dL_law_441 : decode cL_law 441 = .ok (.iadd, 1) := dk_96 (dk_at dksL_law_11 23 rfl rfl)
theorem dL_law_442 : decode cL_law 442 = .ok (.iaload, 1) := dk_46 (dk_at dksL_law_12 0 rfl rfl)
theorem dL_law_443 : decode cL_law 443 = .ok (.aload_n 0, 1) := dk_42 (dk_at dksL_law_12 1 rfl rfl)
theorem dL_law_444 : decode cL_law 444 = .ok (.iload_n 3, 1) := dk_29 (dk_at dksL_law_12 2 rfl rfl)
theorem dL_law_445 : decode cL_law 445 = .ok (.iconst 2, 1) := dk_5 (dk_at dksL_law_12 3 rfl rfl)
theorem dL_law_446 : decode cL_law 446 = .ok (.iadd, 1) := dk_96 (dk_at dksL_law_12 4 rfl rfl)
theorem dL_law_447 : decode cL_law 447 = .ok (.iaload, 1) := dk_46 (dk_at dksL_law_12 5 rfl rfl)
theorem dL_law_448 : decode cL_law 448 = .ok (.invokevirtual 39, 3) := dk_182 0 39 (dk_at dksL_law_12 6 rfl rfl)
theorem dL_law_451 : decode cL_law 451 = .ok (.if_icmp .eq 1013, 3) := dk_159 3 245 (dk_at dksL_law_12 9 rfl rfl)
theorem dL_law_454 : decode cL_law 454 = .ok (.iconst 0, 1) := dk_3 (dk_at dksL_law_12 12 rfl rfl)
theorem dL_law_455 : decode cL_law 455 = .ok (.ireturn, 1) := dk_172 (dk_at dksL_law_12 13 rfl rfl)
theorem dL_law_456 : decode cL_law 456 = .ok (.aload_n 1, 1) := dk_43 (dk_at dksL_law_12 14 rfl rfl)
theorem dL_law_457 : decode cL_law 457 = .ok (.aload_n 0, 1) := dk_42 (dk_at dksL_law_12 15 rfl rfl)
theorem dL_law_458 : decode cL_law 458 = .ok (.iload_n 3, 1) := dk_29 (dk_at dksL_law_12 16 rfl rfl)
theorem dL_law_459 : decode cL_law 459 = .ok (.iconst 1, 1) := dk_4 (dk_at dksL_law_12 17 rfl rfl)
theorem dL_law_460 : decode cL_law 460 = .ok (.iadd, 1) := dk_96 (dk_at dksL_law_12 18 rfl rfl)
theorem dL_law_461 : decode cL_law 461 = .ok (.iaload, 1) := dk_46 (dk_at dksL_law_12 19 rfl rfl)
theorem dL_law_462 : decode cL_law 462 = .ok (.invokevirtual 40, 3) := dk_182 0 40 (dk_at dksL_law_12 20 rfl rfl)
theorem dL_law_465 : decode cL_law 465 = .ok (.aload_n 2, 1) := dk_44 (dk_at dksL_law_12 23 rfl rfl)
theorem dL_law_466 : decode cL_law 466 = .ok (.aload_n 0, 1) := dk_42 (dk_at dksL_law_13 0 rfl rfl)
theorem dL_law_467 : decode cL_law 467 = .ok (.iload_n 3, 1) := dk_29 (dk_at dksL_law_13 1 rfl rfl)
theorem dL_law_468 : decode cL_law 468 = .ok (.iconst 1, 1) := dk_4 (dk_at dksL_law_13 2 rfl rfl)
theorem dL_law_469 : decode cL_law 469 = .ok (.iadd, 1) := dk_96 (dk_at dksL_law_13 3 rfl rfl)
theorem dL_law_470 : decode cL_law 470 = .ok (.iaload, 1) := dk_46 (dk_at dksL_law_13 4 rfl rfl)
theorem dL_law_471 : decode cL_law 471 = .ok (.invokevirtual 44, 3) := dk_182 0 44 (dk_at dksL_law_13 5 rfl rfl)
theorem dL_law_474 : decode cL_law 474 = .ok (.if_icmp .eq 990, 3) := dk_159 3 222 (dk_at dksL_law_13 8 rfl rfl)
theorem dL_law_477 : decode cL_law 477 = .ok (.iconst 0, 1) := dk_3 (dk_at dksL_law_13 11 rfl rfl)
theorem dL_law_478 : decode cL_law 478 = .ok (.ireturn, 1) := dk_172 (dk_at dksL_law_13 12 rfl rfl)
theorem dL_law_479 : decode cL_law 479 = .ok (.aload_n 1, 1) := dk_43 (dk_at dksL_law_13 13 rfl rfl)
theorem dL_law_480 : decode cL_law 480 = .ok (.aload_n 0, 1) := dk_42 (dk_at dksL_law_13 14 rfl rfl)
theorem dL_law_481 : decode cL_law 481 = .ok (.iload_n 3, 1) := dk_29 (dk_at dksL_law_13 15 rfl rfl)
theorem dL_law_482 : decode cL_law 482 = .ok (.iconst 1, 1) := dk_4 (dk_at dksL_law_13 16 rfl rfl)
theorem dL_law_483 : decode cL_law 483 = .ok (.iadd, 1) := dk_96 (dk_at dksL_law_13 17 rfl rfl)
theorem dL_law_484 : decode cL_law 484 = .ok (.iaload, 1) := dk_46 (dk_at dksL_law_13 18 rfl rfl)
theorem dL_law_485 : decode cL_law 485 = .ok (.invokevirtual 45, 3) := dk_182 0 45 (dk_at dksL_law_13 19 rfl rfl)
theorem dL_law_488 : decode cL_law 488 = .ok (.aload_n 2, 1) := dk_44 (dk_at dksL_law_13 22 rfl rfl)
theorem dL_law_489 : decode cL_law 489 = .ok (.aload_n 0, 1) := dk_42 (dk_at dksL_law_13 23 rfl rfl)
theorem dL_law_490 : decode cL_law 490 = .ok (.iload_n 3, 1) := dk_29 (dk_at dksL_law_14 0 rfl rfl)
theorem dL_law_491 : decode cL_law 491 = .ok (.iconst 1, 1) := dk_4 (dk_at dksL_law_14 1 rfl rfl)
theorem dL_law_492 : decode cL_law 492 = .ok (.iadd, 1) := dk_96 (dk_at dksL_law_14 2 rfl rfl)
theorem dL_law_493 : decode cL_law 493 = .ok (.iaload, 1) := dk_46 (dk_at dksL_law_14 3 rfl rfl)
theorem dL_law_494 : decode cL_law 494 = .ok (.invokevirtual 48, 3) := dk_182 0 48 (dk_at dksL_law_14 4 rfl rfl)
theorem dL_law_497 : decode cL_law 497 = .ok (.if_icmp .eq 967, 3) := dk_159 3 199 (dk_at dksL_law_14 7 rfl rfl)
theorem dL_law_500 : decode cL_law 500 = .ok (.iconst 0, 1) := dk_3 (dk_at dksL_law_14 10 rfl rfl)
theorem dL_law_501 : decode cL_law 501 = .ok (.ireturn, 1) := dk_172 (dk_at dksL_law_14 11 rfl rfl)
theorem dL_law_502 : decode cL_law 502 = .ok (.aload_n 1, 1) := dk_43 (dk_at dksL_law_14 12 rfl rfl)
theorem dL_law_503 : decode cL_law 503 = .ok (.aload_n 0, 1) := dk_42 (dk_at dksL_law_14 13 rfl rfl)
theorem dL_law_504 : decode cL_law 504 = .ok (.iload_n 3, 1) := dk_29 (dk_at dksL_law_14 14 rfl rfl)
theorem dL_law_505 : decode cL_law 505 = .ok (.iconst 1, 1) := dk_4 (dk_at dksL_law_14 15 rfl rfl)
theorem dL_law_506 : decode cL_law 506 = .ok (.iadd, 1) := dk_96 (dk_at dksL_law_14 16 rfl rfl)
theorem dL_law_507 : decode cL_law 507 = .ok (.iaload, 1) := dk_46 (dk_at dksL_law_14 17 rfl rfl)
theorem dL_law_508 : decode cL_law 508 = .ok (.invokevirtual 49, 3) := dk_182 0 49 (dk_at dksL_law_14 18 rfl rfl)
theorem dL_law_511 : decode cL_law 511 = .ok (.aload_n 2, 1) := dk_44 (dk_at dksL_law_14 21 rfl rfl)
theorem dL_law_512 : decode cL_law 512 = .ok (.aload_n 0, 1) := dk_42 (dk_at dksL_law_14 22 rfl rfl)
theorem dL_law_513 : decode cL_law 513 = .ok (.iload_n 3, 1) := dk_29 (dk_at dksL_law_14 23 rfl rfl)
theorem dL_law_514 : decode cL_law 514 = .ok (.iconst 1, 1) := dk_4 (dk_at dksL_law_15 0 rfl rfl)
theorem dL_law_515 : decode cL_law 515 = .ok (.iadd, 1) := dk_96 (dk_at dksL_law_15 1 rfl rfl)
theorem dL_law_516 : decode cL_law 516 = .ok (.iaload, 1) := dk_46 (dk_at dksL_law_15 2 rfl rfl)
theorem dL_law_517 : decode cL_law 517 = .ok (.invokevirtual 52, 3) := dk_182 0 52 (dk_at dksL_law_15 3 rfl rfl)
theorem dL_law_520 : decode cL_law 520 = .ok (.if_icmp .eq 944, 3) := dk_159 3 176 (dk_at dksL_law_15 6 rfl rfl)
theorem dL_law_523 : decode cL_law 523 = .ok (.iconst 0, 1) := dk_3 (dk_at dksL_law_15 9 rfl rfl)
theorem dL_law_524 : decode cL_law 524 = .ok (.ireturn, 1) := dk_172 (dk_at dksL_law_15 10 rfl rfl)
theorem dL_law_525 : decode cL_law 525 = .ok (.aload_n 1, 1) := dk_43 (dk_at dksL_law_15 11 rfl rfl)
theorem dL_law_526 : decode cL_law 526 = .ok (.aload_n 0, 1) := dk_42 (dk_at dksL_law_15 12 rfl rfl)
theorem dL_law_527 : decode cL_law 527 = .ok (.iload_n 3, 1) := dk_29 (dk_at dksL_law_15 13 rfl rfl)
theorem dL_law_528 : decode cL_law 528 = .ok (.iconst 1, 1) := dk_4 (dk_at dksL_law_15 14 rfl rfl)
theorem dL_law_529 : decode cL_law 529 = .ok (.iadd, 1) := dk_96 (dk_at dksL_law_15 15 rfl rfl)
theorem dL_law_530 : decode cL_law 530 = .ok (.iaload, 1) := dk_46 (dk_at dksL_law_15 16 rfl rfl)
theorem dL_law_531 : decode cL_law 531 = .ok (.invokevirtual 53, 3) := dk_182 0 53 (dk_at dksL_law_15 17 rfl rfl)
theorem dL_law_534 : decode cL_law 534 = .ok (.aload_n 2, 1) := dk_44 (dk_at dksL_law_15 20 rfl rfl)
theorem dL_law_535 : decode cL_law 535 = .ok (.aload_n 0, 1) := dk_42 (dk_at dksL_law_15 21 rfl rfl)
theorem dL_law_536 : decode cL_law 536 = .ok (.iload_n 3, 1) := dk_29 (dk_at dksL_law_15 22 rfl rfl)
theorem dL_law_537 : decode cL_law 537 = .ok (.iconst 1, 1) := dk_4 (dk_at dksL_law_15 23 rfl rfl)
theorem dL_law_538 : decode cL_law 538 = .ok (.iadd, 1) := dk_96 (dk_at dksL_law_16 0 rfl rfl)
theorem dL_law_539 : decode cL_law 539 = .ok (.iaload, 1) := dk_46 (dk_at dksL_law_16 1 rfl rfl)
theorem dL_law_540 : decode cL_law 540 = .ok (.invokevirtual 56, 3) := dk_182 0 56 (dk_at dksL_law_16 2 rfl rfl)
theorem dL_law_543 : decode cL_law 543 = .ok (.if_icmp .eq 921, 3) := dk_159 3 153 (dk_at dksL_law_16 5 rfl rfl)
theorem dL_law_546 : decode cL_law 546 = .ok (.iconst 0, 1) := dk_3 (dk_at dksL_law_16 8 rfl rfl)
theorem dL_law_547 : decode cL_law 547 = .ok (.ireturn, 1) := dk_172 (dk_at dksL_law_16 9 rfl rfl)
theorem dL_law_548 : decode cL_law 548 = .ok (.aload_n 1, 1) := dk_43 (dk_at dksL_law_16 10 rfl rfl)
theorem dL_law_549 : decode cL_law 549 = .ok (.aload_n 0, 1) := dk_42 (dk_at dksL_law_16 11 rfl rfl)
theorem dL_law_550 : decode cL_law 550 = .ok (.iload_n 3, 1) := dk_29 (dk_at dksL_law_16 12 rfl rfl)
theorem dL_law_551 : decode cL_law 551 = .ok (.iconst 1, 1) := dk_4 (dk_at dksL_law_16 13 rfl rfl)
theorem dL_law_552 : decode cL_law 552 = .ok (.iadd, 1) := dk_96 (dk_at dksL_law_16 14 rfl rfl)
theorem dL_law_553 : decode cL_law 553 = .ok (.iaload, 1) := dk_46 (dk_at dksL_law_16 15 rfl rfl)
theorem dL_law_554 : decode cL_law 554 = .ok (.invokevirtual 57, 3) := dk_182 0 57 (dk_at dksL_law_16 16 rfl rfl)
theorem dL_law_557 : decode cL_law 557 = .ok (.aload_n 2, 1) := dk_44 (dk_at dksL_law_16 19 rfl rfl)
theorem dL_law_558 : decode cL_law 558 = .ok (.aload_n 0, 1) := dk_42 (dk_at dksL_law_16 20 rfl rfl)
theorem dL_law_559 : decode cL_law 559 = .ok (.iload_n 3, 1) := dk_29 (dk_at dksL_law_16 21 rfl rfl)
theorem dL_law_560 : decode cL_law 560 = .ok (.iconst 1, 1) := dk_4 (dk_at dksL_law_16 22 rfl rfl)
theorem dL_law_561 : decode cL_law 561 = .ok (.iadd, 1) := dk_96 (dk_at dksL_law_16 23 rfl rfl)
theorem dL_law_562 : decode cL_law 562 = .ok (.iaload, 1) := dk_46 (dk_at dksL_law_17 0 rfl rfl)
theorem dL_law_563 : decode cL_law 563 = .ok (.invokevirtual 60, 3) := dk_182 0 60 (dk_at dksL_law_17 1 rfl rfl)
theorem dL_law_566 : decode cL_law 566 = .ok (.if_icmp .eq 898, 3) := dk_159 3 130 (dk_at dksL_law_17 4 rfl rfl)
theorem dL_law_569 : decode cL_law 569 = .ok (.iconst 0, 1) := dk_3 (dk_at dksL_law_17 7 rfl rfl)
theorem dL_law_570 : decode cL_law 570 = .ok (.ireturn, 1) := dk_172 (dk_at dksL_law_17 8 rfl rfl)
theorem dL_law_571 : decode cL_law 571 = .ok (.aload_n 1, 1) := dk_43 (dk_at dksL_law_17 9 rfl rfl)
theorem dL_law_572 : decode cL_law 572 = .ok (.invokevirtual 61, 3) := dk_182 0 61 (dk_at dksL_law_17 10 rfl rfl)
theorem dL_law_575 : decode cL_law 575 = .ok (.aload_n 2, 1) := dk_44 (dk_at dksL_law_17 13 rfl rfl)
theorem dL_law_576 : decode cL_law 576 = .ok (.invokevirtual 65, 3) := dk_182 0 65 (dk_at dksL_law_17 14 rfl rfl)
theorem dL_law_579 : decode cL_law 579 = .ok (.if_icmp .eq 885, 3) := dk_159 3 117 (dk_at dksL_law_17 17 rfl rfl)
theorem dL_law_582 : decode cL_law 582 = .ok (.iconst 0, 1) := dk_3 (dk_at dksL_law_17 20 rfl rfl)
theorem dL_law_583 : decode cL_law 583 = .ok (.ireturn, 1) := dk_172 (dk_at dksL_law_17 21 rfl rfl)
theorem dL_law_584 : decode cL_law 584 = .ok (.aload_n 1, 1) := dk_43 (dk_at dksL_law_17 22 rfl rfl)
theorem dL_law_585 : decode cL_law 585 = .ok (.aload_n 0, 1) := dk_42 (dk_at dksL_law_17 23 rfl rfl)
theorem dL_law_586 : decode cL_law 586 = .ok (.iload_n 3, 1) := dk_29 (dk_at dksL_law_18 0 rfl rfl)
theorem dL_law_587 : decode cL_law 587 = .ok (.iconst 1, 1) := dk_4 (dk_at dksL_law_18 1 rfl rfl)
theorem dL_law_588 : decode cL_law 588 = .ok (.iadd, 1) := dk_96 (dk_at dksL_law_18 2 rfl rfl)
theorem dL_law_589 : decode cL_law 589 = .ok (.iaload, 1) := dk_46 (dk_at dksL_law_18 3 rfl rfl)
theorem dL_law_590 : decode cL_law 590 = .ok (.invokevirtual 66, 3) := dk_182 0 66 (dk_at dksL_law_18 4 rfl rfl)
theorem dL_law_593 : decode cL_law 593 = .ok (.aload_n 2, 1) := dk_44 (dk_at dksL_law_18 7 rfl rfl)
theorem dL_law_594 : decode cL_law 594 = .ok (.aload_n 0, 1) := dk_42 (dk_at dksL_law_18 8 rfl rfl)
theorem dL_law_595 : decode cL_law 595 = .ok (.iload_n 3, 1) := dk_29 (dk_at dksL_law_18 9 rfl rfl)
theorem dL_law_596 : decode cL_law 596 = .ok (.iconst 1, 1) := dk_4 (dk_at dksL_law_18 10 rfl rfl)
theorem dL_law_597 : decode cL_law 597 = .ok (.iadd, 1) := dk_96 (dk_at dksL_law_18 11 rfl rfl)
theorem dL_law_598 : decode cL_law 598 = .ok (.iaload, 1) := dk_46 (dk_at dksL_law_18 12 rfl rfl)
theorem dL_law_599 : decode cL_law 599 = .ok (.invokevirtual 69, 3) := dk_182 0 69 (dk_at dksL_law_18 13 rfl rfl)
theorem dL_law_602 : decode cL_law 602 = .ok (.if_icmp .eq 862, 3) := dk_159 3 94 (dk_at dksL_law_18 16 rfl rfl)
theorem dL_law_605 : decode cL_law 605 = .ok (.iconst 0, 1) := dk_3 (dk_at dksL_law_18 19 rfl rfl)
theorem dL_law_606 : decode cL_law 606 = .ok (.ireturn, 1) := dk_172 (dk_at dksL_law_18 20 rfl rfl)
theorem dL_law_607 : decode cL_law 607 = .ok (.aload_n 1, 1) := dk_43 (dk_at dksL_law_18 21 rfl rfl)
theorem dL_law_608 : decode cL_law 608 = .ok (.aload_n 0, 1) := dk_42 (dk_at dksL_law_18 22 rfl rfl)
theorem dL_law_609 : decode cL_law 609 = .ok (.iload_n 3, 1) := dk_29 (dk_at dksL_law_18 23 rfl rfl)
theorem dL_law_610 : decode cL_law 610 = .ok (.iconst 1, 1) := dk_4 (dk_at dksL_law_19 0 rfl rfl)
theorem dL_law_611 : decode cL_law 611 = .ok (.iadd, 1) := dk_96 (dk_at dksL_law_19 1 rfl rfl)
theorem dL_law_612 : decode cL_law 612 = .ok (.iaload, 1) := dk_46 (dk_at dksL_law_19 2 rfl rfl)
theorem dL_law_613 : decode cL_law 613 = .ok (.invokevirtual 70, 3) := dk_182 0 70 (dk_at dksL_law_19 3 rfl rfl)
theorem dL_law_616 : decode cL_law 616 = .ok (.aload_n 2, 1) := dk_44 (dk_at dksL_law_19 6 rfl rfl)
theorem dL_law_617 : decode cL_law 617 = .ok (.aload_n 0, 1) := dk_42 (dk_at dksL_law_19 7 rfl rfl)
theorem dL_law_618 : decode cL_law 618 = .ok (.iload_n 3, 1) := dk_29 (dk_at dksL_law_19 8 rfl rfl)
theorem dL_law_619 : decode cL_law 619 = .ok (.iconst 1, 1) := dk_4 (dk_at dksL_law_19 9 rfl rfl)
theorem dL_law_620 : decode cL_law 620 = .ok (.iadd, 1) := dk_96 (dk_at dksL_law_19 10 rfl rfl)
theorem dL_law_621 : decode cL_law 621 = .ok (.iaload, 1) := dk_46 (dk_at dksL_law_19 11 rfl rfl)
theorem dL_law_622 : decode cL_law 622 = .ok (.invokevirtual 73, 3) := dk_182 0 73 (dk_at dksL_law_19 12 rfl rfl)
theorem dL_law_625 : decode cL_law 625 = .ok (.if_icmp .eq 839, 3) := dk_159 3 71 (dk_at dksL_law_19 15 rfl rfl)
theorem dL_law_628 : decode cL_law 628 = .ok (.iconst 0, 1) := dk_3 (dk_at dksL_law_19 18 rfl rfl)
theorem dL_law_629 : decode cL_law 629 = .ok (.ireturn, 1) := dk_172 (dk_at dksL_law_19 19 rfl rfl)
theorem dL_law_630 : decode cL_law 630 = .ok (.aload_n 1, 1) := dk_43 (dk_at dksL_law_19 20 rfl rfl)
theorem dL_law_631 : decode cL_law 631 = .ok (.aload_n 0, 1) := dk_42 (dk_at dksL_law_19 21 rfl rfl)
theorem dL_law_632 : decode cL_law 632 = .ok (.iload_n 3, 1) := dk_29 (dk_at dksL_law_19 22 rfl rfl)
theorem dL_law_633 : decode cL_law 633 = .ok (.iconst 1, 1) := dk_4 (dk_at dksL_law_19 23 rfl rfl)
theorem dL_law_634 : decode cL_law 634 = .ok (.iadd, 1) := dk_96 (dk_at dksL_law_20 0 rfl rfl)
theorem dL_law_635 : decode cL_law 635 = .ok (.iaload, 1) := dk_46 (dk_at dksL_law_20 1 rfl rfl)
theorem dL_law_636 : decode cL_law 636 = .ok (.invokevirtual 74, 3) := dk_182 0 74 (dk_at dksL_law_20 2 rfl rfl)
theorem dL_law_639 : decode cL_law 639 = .ok (.aload_n 2, 1) := dk_44 (dk_at dksL_law_20 5 rfl rfl)
theorem dL_law_640 : decode cL_law 640 = .ok (.aload_n 0, 1) := dk_42 (dk_at dksL_law_20 6 rfl rfl)
theorem dL_law_641 : decode cL_law 641 = .ok (.iload_n 3, 1) := dk_29 (dk_at dksL_law_20 7 rfl rfl)
theorem dL_law_642 : decode cL_law 642 = .ok (.iconst 1, 1) := dk_4 (dk_at dksL_law_20 8 rfl rfl)
theorem dL_law_643 : decode cL_law 643 = .ok (.iadd, 1) := dk_96 (dk_at dksL_law_20 9 rfl rfl)
theorem dL_law_644 : decode cL_law 644 = .ok (.iaload, 1) := dk_46 (dk_at dksL_law_20 10 rfl rfl)
theorem dL_law_645 : decode cL_law 645 = .ok (.invokevirtual 77, 3) := dk_182 0 77 (dk_at dksL_law_20 11 rfl rfl)
theorem dL_law_648 : decode cL_law 648 = .ok (.if_icmp .eq 816, 3) := dk_159 3 48 (dk_at dksL_law_20 14 rfl rfl)
theorem dL_law_651 : decode cL_law 651 = .ok (.iconst 0, 1) := dk_3 (dk_at dksL_law_20 17 rfl rfl)
theorem dL_law_652 : decode cL_law 652 = .ok (.ireturn, 1) := dk_172 (dk_at dksL_law_20 18 rfl rfl)
theorem dL_law_653 : decode cL_law 653 = .ok (.aload_n 1, 1) := dk_43 (dk_at dksL_law_20 19 rfl rfl)
theorem dL_law_654 : decode cL_law 654 = .ok (.aload_n 0, 1) := dk_42 (dk_at dksL_law_20 20 rfl rfl)
theorem dL_law_655 : decode cL_law 655 = .ok (.iload_n 3, 1) := dk_29 (dk_at dksL_law_20 21 rfl rfl)
theorem dL_law_656 : decode cL_law 656 = .ok (.iconst 1, 1) := dk_4 (dk_at dksL_law_20 22 rfl rfl)
theorem dL_law_657 : decode cL_law 657 = .ok (.iadd, 1) := dk_96 (dk_at dksL_law_20 23 rfl rfl)
theorem dL_law_658 : decode cL_law 658 = .ok (.iaload, 1) := dk_46 (dk_at dksL_law_21 0 rfl rfl)
theorem dL_law_659 : decode cL_law 659 = .ok (.invokevirtual 78, 3) := dk_182 0 78 (dk_at dksL_law_21 1 rfl rfl)
theorem dL_law_662 : decode cL_law 662 = .ok (.aload_n 2, 1) := dk_44 (dk_at dksL_law_21 4 rfl rfl)
theorem dL_law_663 : decode cL_law 663 = .ok (.aload_n 0, 1) := dk_42 (dk_at dksL_law_21 5 rfl rfl)
theorem dL_law_664 : decode cL_law 664 = .ok (.iload_n 3, 1) := dk_29 (dk_at dksL_law_21 6 rfl rfl)
theorem dL_law_665 : decode cL_law 665 = .ok (.iconst 1, 1) := dk_4 (dk_at dksL_law_21 7 rfl rfl)
theorem dL_law_666 : decode cL_law 666 = .ok (.iadd, 1) := dk_96 (dk_at dksL_law_21 8 rfl rfl)
theorem dL_law_667 : decode cL_law 667 = .ok (.iaload, 1) := dk_46 (dk_at dksL_law_21 9 rfl rfl)
theorem dL_law_668 : decode cL_law 668 = .ok (.invokevirtual 81, 3) := dk_182 0 81 (dk_at dksL_law_21 10 rfl rfl)
theorem dL_law_671 : decode cL_law 671 = .ok (.if_icmp .eq 793, 3) := dk_159 3 25 (dk_at dksL_law_21 13 rfl rfl)
theorem dL_law_674 : decode cL_law 674 = .ok (.iconst 0, 1) := dk_3 (dk_at dksL_law_21 16 rfl rfl)
theorem dL_law_675 : decode cL_law 675 = .ok (.ireturn, 1) := dk_172 (dk_at dksL_law_21 17 rfl rfl)
theorem dL_law_676 : decode cL_law 676 = .ok (.aload_n 1, 1) := dk_43 (dk_at dksL_law_21 18 rfl rfl)
theorem dL_law_677 : decode cL_law 677 = .ok (.aload_n 0, 1) := dk_42 (dk_at dksL_law_21 19 rfl rfl)
theorem dL_law_678 : decode cL_law 678 = .ok (.iload_n 3, 1) := dk_29 (dk_at dksL_law_21 20 rfl rfl)
theorem dL_law_679 : decode cL_law 679 = .ok (.iconst 1, 1) := dk_4 (dk_at dksL_law_21 21 rfl rfl)
theorem dL_law_680 : decode cL_law 680 = .ok (.iadd, 1) := dk_96 (dk_at dksL_law_21 22 rfl rfl)
theorem dL_law_681 : decode cL_law 681 = .ok (.iaload, 1) := dk_46 (dk_at dksL_law_21 23 rfl rfl)
theorem dL_law_682 : decode cL_law 682 = .ok (.invokevirtual 82, 3) := dk_182 0 82 (dk_at dksL_law_22 0 rfl rfl)
theorem dL_law_685 : decode cL_law 685 = .ok (.aload_n 2, 1) := dk_44 (dk_at dksL_law_22 3 rfl rfl)
theorem dL_law_686 : decode cL_law 686 = .ok (.aload_n 0, 1) := dk_42 (dk_at dksL_law_22 4 rfl rfl)
theorem dL_law_687 : decode cL_law 687 = .ok (.iload_n 3, 1) := dk_29 (dk_at dksL_law_22 5 rfl rfl)
theorem dL_law_688 : decode cL_law 688 = .ok (.iconst 1, 1) := dk_4 (dk_at dksL_law_22 6 rfl rfl)
theorem dL_law_689 : decode cL_law 689 = .ok (.iadd, 1) := dk_96 (dk_at dksL_law_22 7 rfl rfl)
theorem dL_law_690 : decode cL_law 690 = .ok (.iaload, 1) := dk_46 (dk_at dksL_law_22 8 rfl rfl)
theorem dL_law_691 : decode cL_law 691 = .ok (.invokevirtual 85, 3) := dk_182 0 85 (dk_at dksL_law_22 9 rfl rfl)
theorem dL_law_694 : decode cL_law 694 = .ok (.if_icmp .eq 770, 3) := dk_159 3 2 (dk_at dksL_law_22 12 rfl rfl)
theorem dL_law_697 : decode cL_law 697 = .ok (.iconst 0, 1) := dk_3 (dk_at dksL_law_22 15 rfl rfl)
theorem dL_law_698 : decode cL_law 698 = .ok (.ireturn, 1) := dk_172 (dk_at dksL_law_22 16 rfl rfl)
theorem dL_law_699 : decode cL_law 699 = .ok (.aload_n 1, 1) := dk_43 (dk_at dksL_law_22 17 rfl rfl)
theorem dL_law_700 : decode cL_law 700 = .ok (.invokevirtual 86, 3) := dk_182 0 86 (dk_at dksL_law_22 18 rfl rfl)
theorem dL_law_703 : decode cL_law 703 = .ok (.aload_n 2, 1) := dk_44 (dk_at dksL_law_22 21 rfl rfl)
theorem dL_law_704 : decode cL_law 704 = .ok (.invokevirtual 89, 3) := dk_182 0 89 (dk_at dksL_law_23 0 rfl rfl)
theorem dL_law_707 : decode cL_law 707 = .ok (.if_icmp .eq 757, 3) := dk_159 2 245 (dk_at dksL_law_23 3 rfl rfl)
theorem dL_law_710 : decode cL_law 710 = .ok (.iconst 0, 1) := dk_3 (dk_at dksL_law_23 6 rfl rfl)
theorem dL_law_711 : decode cL_law 711 = .ok (.ireturn, 1) := dk_172 (dk_at dksL_law_23 7 rfl rfl)
theorem dL_law_712 : decode cL_law 712 = .ok (.aload_n 1, 1) := dk_43 (dk_at dksL_law_23 8 rfl rfl)
theorem dL_law_713 : decode cL_law 713 = .ok (.aload_n 0, 1) := dk_42 (dk_at dksL_law_23 9 rfl rfl)
theorem dL_law_714 : decode cL_law 714 = .ok (.iload_n 3, 1) := dk_29 (dk_at dksL_law_23 10 rfl rfl)
theorem dL_law_715 : decode cL_law 715 = .ok (.iconst 1, 1) := dk_4 (dk_at dksL_law_23 11 rfl rfl)
theorem dL_law_716 : decode cL_law 716 = .ok (.iadd, 1) := dk_96 (dk_at dksL_law_23 12 rfl rfl)
theorem dL_law_717 : decode cL_law 717 = .ok (.iaload, 1) := dk_46 (dk_at dksL_law_23 13 rfl rfl)
theorem dL_law_718 : decode cL_law 718 = .ok (.invokevirtual 90, 3) := dk_182 0 90 (dk_at dksL_law_23 14 rfl rfl)
theorem dL_law_721 : decode cL_law 721 = .ok (.aload_n 2, 1) := dk_44 (dk_at dksL_law_23 17 rfl rfl)
theorem dL_law_722 : decode cL_law 722 = .ok (.aload_n 0, 1) := dk_42 (dk_at dksL_law_23 18 rfl rfl)
theorem dL_law_723 : decode cL_law 723 = .ok (.iload_n 3, 1) := dk_29 (dk_at dksL_law_23 19 rfl rfl)
theorem dL_law_724 : decode cL_law 724 = .ok (.iconst 1, 1) := dk_4 (dk_at dksL_law_23 20 rfl rfl)
theorem dL_law_725 : decode cL_law 725 = .ok (.iadd, 1) := dk_96 (dk_at dksL_law_23 21 rfl rfl)
theorem dL_law_726 : decode cL_law 726 = .ok (.iaload, 1) := dk_46 (dk_at dksL_law_23 22 rfl rfl)
theorem dL_law_727 : decode cL_law 727 = .ok (.invokevirtual 93, 3) := dk_182 0 93 (dk_at dksL_law_24 0 rfl rfl)
theorem dL_law_730 : decode cL_law 730 = .ok (.if_icmp .eq 734, 3) := dk_159 2 222 (dk_at dksL_law_24 3 rfl rfl)
theorem dL_law_733 : decode cL_law 733 = .ok (.iconst 0, 1) := dk_3 (dk_at dksL_law_24 6 rfl rfl)
theorem dL_law_734 : decode cL_law 734 = .ok (.ireturn, 1) := dk_172 (dk_at dksL_law_24 7 rfl rfl)
theorem dL_law_735 : decode cL_law 735 = .ok (.aload_n 1, 1) := dk_43 (dk_at dksL_law_24 8 rfl rfl)
theorem dL_law_736 : decode cL_law 736 = .ok (.invokevirtual 94, 3) := dk_182 0 94 (dk_at dksL_law_24 9 rfl rfl)
theorem dL_law_739 : decode cL_law 739 = .ok (.aload_n 2, 1) := dk_44 (dk_at dksL_law_24 12 rfl rfl)
theorem dL_law_740 : decode cL_law 740 = .ok (.invokevirtual 97, 3) := dk_182 0 97 (dk_at dksL_law_24 13 rfl rfl)
theorem dL_law_743 : decode cL_law 743 = .ok (.if_icmp .eq 721, 3) := dk_159 2 209 (dk_at dksL_law_24 16 rfl rfl)
theorem dL_law_746 : decode cL_law 746 = .ok (.iconst 0, 1) := dk_3 (dk_at dksL_law_24 19 rfl rfl)
theorem dL_law_747 : decode cL_law 747 = .ok (.ireturn, 1) := dk_172 (dk_at dksL_law_24 20 rfl rfl)
theorem dL_law_748 : decode cL_law 748 = .ok (.aload_n 1, 1) := dk_43 (dk_at dksL_law_24 21 rfl rfl)
theorem dL_law_749 : decode cL_law 749 = .ok (.aload_n 0, 1) := dk_42 (dk_at dksL_law_24 22 rfl rfl)
theorem dL_law_750 : decode cL_law 750 = .ok (.iload_n 3, 1) := dk_29 (dk_at dksL_law_24 23 rfl rfl)
theorem dL_law_751 : decode cL_law 751 = .ok (.iconst 1, 1) := dk_4 (dk_at dksL_law_25 0 rfl rfl)
theorem dL_law_752 : decode cL_law 752 = .ok (.iadd, 1) := dk_96 (dk_at dksL_law_25 1 rfl rfl)
theorem dL_law_753 : decode cL_law 753 = .ok (.iaload, 1) := dk_46 (dk_at dksL_law_25 2 rfl rfl)
theorem dL_law_754 : decode cL_law 754 = .ok (.invokevirtual 98, 3) := dk_182 0 98 (dk_at dksL_law_25 3 rfl rfl)
theorem dL_law_757 : decode cL_law 757 = .ok (.aload_n 2, 1) := dk_44 (dk_at dksL_law_25 6 rfl rfl)
theorem dL_law_758 : decode cL_law 758 = .ok (.aload_n 0, 1) := dk_42 (dk_at dksL_law_25 7 rfl rfl)
theorem dL_law_759 : decode cL_law 759 = .ok (.iload_n 3, 1) := dk_29 (dk_at dksL_law_25 8 rfl rfl)
theorem dL_law_760 : decode cL_law 760 = .ok (.iconst 1, 1) := dk_4 (dk_at dksL_law_25 9 rfl rfl)
theorem dL_law_761 : decode cL_law 761 = .ok (.iadd, 1) := dk_96 (dk_at dksL_law_25 10 rfl rfl)
theorem dL_law_762 : decode cL_law 762 = .ok (.iaload, 1) := dk_46 (dk_at dksL_law_25 11 rfl rfl)
theorem dL_law_763 : decode cL_law 763 = .ok (.invokevirtual 101, 3) := dk_182 0 101 (dk_at dksL_law_25 12 rfl rfl)
theorem dL_law_766 : decode cL_law 766 = .ok (.if_icmp .eq 698, 3) := dk_159 2 186 (dk_at dksL_law_25 15 rfl rfl)
theorem dL_law_769 : decode cL_law 769 = .ok (.iconst 0, 1) := dk_3 (dk_at dksL_law_25 18 rfl rfl)
theorem dL_law_770 : decode cL_law 770 = .ok (.ireturn, 1) := dk_172 (dk_at dksL_law_25 19 rfl rfl)
theorem dL_law_771 : decode cL_law 771 = .ok (.aload_n 1, 1) := dk_43 (dk_at dksL_law_25 20 rfl rfl)
theorem dL_law_772 : decode cL_law 772 = .ok (.aload_n 0, 1) := dk_42 (dk_at dksL_law_25 21 rfl rfl)
theorem dL_law_773 : decode cL_law 773 = .ok (.iload_n 3, 1) := dk_29 (dk_at dksL_law_25 22 rfl rfl)
theorem dL_law_774 : decode cL_law 774 = .ok (.iconst 1, 1) := dk_4 (dk_at dksL_law_25 23 rfl rfl)
theorem dL_law_775 : decode cL_law 775 = .ok (.iadd, 1) := dk_96 (dk_at dksL_law_26 0 rfl rfl)
theorem dL_law_776 : decode cL_law 776 = .ok (.iaload, 1) := dk_46 (dk_at dksL_law_26 1 rfl rfl)
theorem dL_law_777 : decode cL_law 777 = .ok (.invokevirtual 102, 3) := dk_182 0 102 (dk_at dksL_law_26 2 rfl rfl)
theorem dL_law_780 : decode cL_law 780 = .ok (.aload_n 2, 1) := dk_44 (dk_at dksL_law_26 5 rfl rfl)
theorem dL_law_781 : decode cL_law 781 = .ok (.aload_n 0, 1) := dk_42 (dk_at dksL_law_26 6 rfl rfl)
theorem dL_law_782 : decode cL_law 782 = .ok (.iload_n 3, 1) := dk_29 (dk_at dksL_law_26 7 rfl rfl)
theorem dL_law_783 : decode cL_law 783 = .ok (.iconst 1, 1) := dk_4 (dk_at dksL_law_26 8 rfl rfl)
theorem dL_law_784 : decode cL_law 784 = .ok (.iadd, 1) := dk_96 (dk_at dksL_law_26 9 rfl rfl)
theorem dL_law_785 : decode cL_law 785 = .ok (.iaload, 1) := dk_46 (dk_at dksL_law_26 10 rfl rfl)
theorem dL_law_786 : decode cL_law 786 = .ok (.invokevirtual 105, 3) := dk_182 0 105 (dk_at dksL_law_26 11 rfl rfl)
theorem dL_law_789 : decode cL_law 789 = .ok (.if_icmp .eq 675, 3) := dk_159 2 163 (dk_at dksL_law_26 14 rfl rfl)
theorem dL_law_792 : decode cL_law 792 = .ok (.iconst 0, 1) := dk_3 (dk_at dksL_law_26 17 rfl rfl)
theorem dL_law_793 : decode cL_law 793 = .ok (.ireturn, 1) := dk_172 (dk_at dksL_law_26 18 rfl rfl)
theorem dL_law_794 : decode cL_law 794 = .ok (.aload_n 1, 1) := dk_43 (dk_at dksL_law_26 19 rfl rfl)
theorem dL_law_795 : decode cL_law 795 = .ok (.aload_n 0, 1) := dk_42 (dk_at dksL_law_26 20 rfl rfl)
theorem dL_law_796 : decode cL_law 796 = .ok (.iload_n 3, 1) := dk_29 (dk_at dksL_law_26 21 rfl rfl)
theorem dL_law_797 : decode cL_law 797 = .ok (.iconst 1, 1) := dk_4 (dk_at dksL_law_26 22 rfl rfl)
theorem dL_law_798 : decode cL_law 798 = .ok (.iadd, 1) := dk_96 (dk_at dksL_law_26 23 rfl rfl)
theorem dL_law_799 : decode cL_law 799 = .ok (.iaload, 1) := dk_46 (dk_at dksL_law_27 0 rfl rfl)
theorem dL_law_800 : decode cL_law 800 = .ok (.invokevirtual 106, 3) := dk_182 0 106 (dk_at dksL_law_27 1 rfl rfl)
theorem dL_law_803 : decode cL_law 803 = .ok (.aload_n 2, 1) := dk_44 (dk_at dksL_law_27 4 rfl rfl)
theorem dL_law_804 : decode cL_law 804 = .ok (.aload_n 0, 1) := dk_42 (dk_at dksL_law_27 5 rfl rfl)
theorem dL_law_805 : decode cL_law 805 = .ok (.iload_n 3, 1) := dk_29 (dk_at dksL_law_27 6 rfl rfl)
theorem dL_law_806 : decode cL_law 806 = .ok (.iconst 1, 1) := dk_4 (dk_at dksL_law_27 7 rfl rfl)
theorem dL_law_807 : decode cL_law 807 = .ok (.iadd, 1) := dk_96 (dk_at dksL_law_27 8 rfl rfl)
theorem dL_law_808 : decode cL_law 808 = .ok (.iaload, 1) := dk_46 (dk_at dksL_law_27 9 rfl rfl)
theorem dL_law_809 : decode cL_law 809 = .ok (.invokevirtual 109, 3) := dk_182 0 109 (dk_at dksL_law_27 10 rfl rfl)
theorem dL_law_812 : decode cL_law 812 = .ok (.if_icmp .eq 652, 3) := dk_159 2 140 (dk_at dksL_law_27 13 rfl rfl)
theorem dL_law_815 : decode cL_law 815 = .ok (.iconst 0, 1) := dk_3 (dk_at dksL_law_27 16 rfl rfl)
theorem dL_law_816 : decode cL_law 816 = .ok (.ireturn, 1) := dk_172 (dk_at dksL_law_27 17 rfl rfl)
theorem dL_law_817 : decode cL_law 817 = .ok (.aload_n 1, 1) := dk_43 (dk_at dksL_law_27 18 rfl rfl)
theorem dL_law_818 : decode cL_law 818 = .ok (.aload_n 0, 1) := dk_42 (dk_at dksL_law_27 19 rfl rfl)
theorem dL_law_819 : decode cL_law 819 = .ok (.iload_n 3, 1) := dk_29 (dk_at dksL_law_27 20 rfl rfl)
theorem dL_law_820 : decode cL_law 820 = .ok (.iconst 1, 1) := dk_4 (dk_at dksL_law_27 21 rfl rfl)
theorem dL_law_821 : decode cL_law 821 = .ok (.iadd, 1) := dk_96 (dk_at dksL_law_27 22 rfl rfl)
theorem dL_law_822 : decode cL_law 822 = .ok (.iaload, 1) := dk_46 (dk_at dksL_law_27 23 rfl rfl)
theorem dL_law_823 : decode cL_law 823 = .ok (.invokevirtual 110, 3) := dk_182 0 110 (dk_at dksL_law_28 0 rfl rfl)
theorem dL_law_826 : decode cL_law 826 = .ok (.aload_n 2, 1) := dk_44 (dk_at dksL_law_28 3 rfl rfl)
theorem dL_law_827 : decode cL_law 827 = .ok (.aload_n 0, 1) := dk_42 (dk_at dksL_law_28 4 rfl rfl)
theorem dL_law_828 : decode cL_law 828 = .ok (.iload_n 3, 1) := dk_29 (dk_at dksL_law_28 5 rfl rfl)
theorem dL_law_829 : decode cL_law 829 = .ok (.iconst 1, 1) := dk_4 (dk_at dksL_law_28 6 rfl rfl)
theorem dL_law_830 : decode cL_law 830 = .ok (.iadd, 1) := dk_96 (dk_at dksL_law_28 7 rfl rfl)
theorem dL_law_831 : decode cL_law 831 = .ok (.iaload, 1) := dk_46 (dk_at dksL_law_28 8 rfl rfl)
theorem dL_law_832 : decode cL_law 832 = .ok (.invokevirtual 113, 3) := dk_182 0 113 (dk_at dksL_law_28 9 rfl rfl)
theorem dL_law_835 : decode cL_law 835 = .ok (.if_icmp .eq 629, 3) := dk_159 2 117 (dk_at dksL_law_28 12 rfl rfl)
theorem dL_law_838 : decode cL_law 838 = .ok (.iconst 0, 1) := dk_3 (dk_at dksL_law_28 15 rfl rfl)
theorem dL_law_839 : decode cL_law 839 = .ok (.ireturn, 1) := dk_172 (dk_at dksL_law_28 16 rfl rfl)
theorem dL_law_840 : decode cL_law 840 = .ok (.aload_n 1, 1) := dk_43 (dk_at dksL_law_28 17 rfl rfl)
theorem dL_law_841 : decode cL_law 841 = .ok (.aload_n 0, 1) := dk_42 (dk_at dksL_law_28 18 rfl rfl)
theorem dL_law_842 : decode cL_law 842 = .ok (.iload_n 3, 1) := dk_29 (dk_at dksL_law_28 19 rfl rfl)
theorem dL_law_843 : decode cL_law 843 = .ok (.iconst 1, 1) := dk_4 (dk_at dksL_law_28 20 rfl rfl)
theorem dL_law_844 : decode cL_law 844 = .ok (.iadd, 1) := dk_96 (dk_at dksL_law_28 21 rfl rfl)
theorem dL_law_845 : decode cL_law 845 = .ok (.iaload, 1) := dk_46 (dk_at dksL_law_28 22 rfl rfl)
theorem dL_law_846 : decode cL_law 846 = .ok (.invokevirtual 114, 3) := dk_182 0 114 (dk_at dksL_law_29 0 rfl rfl)
theorem dL_law_849 : decode cL_law 849 = .ok (.aload_n 2, 1) := dk_44 (dk_at dksL_law_29 3 rfl rfl)
theorem dL_law_850 : decode cL_law 850 = .ok (.aload_n 0, 1) := dk_42 (dk_at dksL_law_29 4 rfl rfl)
theorem dL_law_851 : decode cL_law 851 = .ok (.iload_n 3, 1) := dk_29 (dk_at dksL_law_29 5 rfl rfl)
theorem dL_law_852 : decode cL_law 852 = .ok (.iconst 1, 1) := dk_4 (dk_at dksL_law_29 6 rfl rfl)
theorem dL_law_853 : decode cL_law 853 = .ok (.iadd, 1) := dk_96 (dk_at dksL_law_29 7 rfl rfl)
theorem dL_law_854 : decode cL_law 854 = .ok (.iaload, 1) := dk_46 (dk_at dksL_law_29 8 rfl rfl)
theorem dL_law_855 : decode cL_law 855 = .ok (.invokevirtual 118, 3) := dk_182 0 118 (dk_at dksL_law_29 9 rfl rfl)
theorem dL_law_858 : decode cL_law 858 = .ok (.lcmp, 1) := dk_148 (dk_at dksL_law_29 12 rfl rfl)
theorem dL_law_859 : decode cL_law 859 = .ok (.ifCond .eq 605, 3) := dk_153 2 93 (dk_at dksL_law_29 13 rfl rfl)
theorem dL_law_862 : decode cL_law 862 = .ok (.iconst 0, 1) := dk_3 (dk_at dksL_law_29 16 rfl rfl)
theorem dL_law_863 : decode cL_law 863 = .ok (.ireturn, 1) := dk_172 (dk_at dksL_law_29 17 rfl rfl)
theorem dL_law_864 : decode cL_law 864 = .ok (.aload_n 1, 1) := dk_43 (dk_at dksL_law_29 18 rfl rfl)
theorem dL_law_865 : decode cL_law 865 = .ok (.aload_n 0, 1) := dk_42 (dk_at dksL_law_29 19 rfl rfl)
theorem dL_law_866 : decode cL_law 866 = .ok (.iload_n 3, 1) := dk_29 (dk_at dksL_law_29 20 rfl rfl)
theorem dL_law_867 : decode cL_law 867 = .ok (.iconst 1, 1) := dk_4 (dk_at dksL_law_29 21 rfl rfl)
theorem dL_law_868 : decode cL_law 868 = .ok (.iadd, 1) := dk_96 (dk_at dksL_law_29 22 rfl rfl)
theorem dL_law_869 : decode cL_law 869 = .ok (.iaload, 1) := dk_46 (dk_at dksL_law_29 23 rfl rfl)
theorem dL_law_870 : decode cL_law 870 = .ok (.aload_n 0, 1) := dk_42 (dk_at dksL_law_30 0 rfl rfl)
theorem dL_law_871 : decode cL_law 871 = .ok (.iload_n 3, 1) := dk_29 (dk_at dksL_law_30 1 rfl rfl)
theorem dL_law_872 : decode cL_law 872 = .ok (.iconst 2, 1) := dk_5 (dk_at dksL_law_30 2 rfl rfl)
theorem dL_law_873 : decode cL_law 873 = .ok (.iadd, 1) := dk_96 (dk_at dksL_law_30 3 rfl rfl)
theorem dL_law_874 : decode cL_law 874 = .ok (.iaload, 1) := dk_46 (dk_at dksL_law_30 4 rfl rfl)
theorem dL_law_875 : decode cL_law 875 = .ok (.invokevirtual 119, 3) := dk_182 0 119 (dk_at dksL_law_30 5 rfl rfl)
theorem dL_law_878 : decode cL_law 878 = .ok (.aload_n 2, 1) := dk_44 (dk_at dksL_law_30 8 rfl rfl)
theorem dL_law_879 : decode cL_law 879 = .ok (.aload_n 0, 1) := dk_42 (dk_at dksL_law_30 9 rfl rfl)
theorem dL_law_880 : decode cL_law 880 = .ok (.iload_n 3, 1) := dk_29 (dk_at dksL_law_30 10 rfl rfl)
theorem dL_law_881 : decode cL_law 881 = .ok (.iconst 1, 1) := dk_4 (dk_at dksL_law_30 11 rfl rfl)
theorem dL_law_882 : decode cL_law 882 = .ok (.iadd, 1) := dk_96 (dk_at dksL_law_30 12 rfl rfl)
theorem dL_law_883 : decode cL_law 883 = .ok (.iaload, 1) := dk_46 (dk_at dksL_law_30 13 rfl rfl)
theorem dL_law_884 : decode cL_law 884 = .ok (.aload_n 0, 1) := dk_42 (dk_at dksL_law_30 14 rfl rfl)
theorem dL_law_885 : decode cL_law 885 = .ok (.iload_n 3, 1) := dk_29 (dk_at dksL_law_30 15 rfl rfl)
theorem dL_law_886 : decode cL_law 886 = .ok (.iconst 2, 1) := dk_5 (dk_at dksL_law_30 16 rfl rfl)
theorem dL_law_887 : decode cL_law 887 = .ok (.iadd, 1) := dk_96 (dk_at dksL_law_30 17 rfl rfl)
theorem dL_law_888 : decode cL_law 888 = .ok (.iaload, 1) := dk_46 (dk_at dksL_law_30 18 rfl rfl)
theorem dL_law_889 : decode cL_law 889 = .ok (.invokevirtual 122, 3) := dk_182 0 122 (dk_at dksL_law_30 19 rfl rfl)
theorem dL_law_892 : decode cL_law 892 = .ok (.if_icmp .eq 572, 3) := dk_159 2 60 (dk_at dksL_law_31 0 rfl rfl)
theorem dL_law_895 : decode cL_law 895 = .ok (.iconst 0, 1) := dk_3 (dk_at dksL_law_31 3 rfl rfl)
theorem dL_law_896 : decode cL_law 896 = .ok (.ireturn, 1) := dk_172 (dk_at dksL_law_31 4 rfl rfl)
theorem dL_law_897 : decode cL_law 897 = .ok (.aload_n 1, 1) := dk_43 (dk_at dksL_law_31 5 rfl rfl)
theorem dL_law_898 : decode cL_law 898 = .ok (.aload_n 0, 1) := dk_42 (dk_at dksL_law_31 6 rfl rfl)
theorem dL_law_899 : decode cL_law 899 = .ok (.iload_n 3, 1) := dk_29 (dk_at dksL_law_31 7 rfl rfl)
theorem dL_law_900 : decode cL_law 900 = .ok (.iconst 1, 1) := dk_4 (dk_at dksL_law_31 8 rfl rfl)
theorem dL_law_901 : decode cL_law 901 = .ok (.iadd, 1) := dk_96 (dk_at dksL_law_31 9 rfl rfl)
theorem dL_law_902 : decode cL_law 902 = .ok (.iaload, 1) := dk_46 (dk_at dksL_law_31 10 rfl rfl)
theorem dL_law_903 : decode cL_law 903 = .ok (.aload_n 0, 1) := dk_42 (dk_at dksL_law_31 11 rfl rfl)
theorem dL_law_904 : decode cL_law 904 = .ok (.iload_n 3, 1) := dk_29 (dk_at dksL_law_31 12 rfl rfl)
theorem dL_law_905 : decode cL_law 905 = .ok (.iconst 2, 1) := dk_5 (dk_at dksL_law_31 13 rfl rfl)
theorem dL_law_906 : decode cL_law 906 = .ok (.iadd, 1) := dk_96 (dk_at dksL_law_31 14 rfl rfl)
theorem dL_law_907 : decode cL_law 907 = .ok (.iaload, 1) := dk_46 (dk_at dksL_law_31 15 rfl rfl)
theorem dL_law_908 : decode cL_law 908 = .ok (.aload_n 0, 1) := dk_42 (dk_at dksL_law_31 16 rfl rfl)
theorem dL_law_909 : decode cL_law 909 = .ok (.iload_n 3, 1) := dk_29 (dk_at dksL_law_31 17 rfl rfl)
theorem dL_law_910 : decode cL_law 910 = .ok (.iconst 3, 1) := dk_6 (dk_at dksL_law_31 18 rfl rfl)
theorem dL_law_911 : decode cL_law 911 = .ok (.iadd, 1) := dk_96 (dk_at dksL_law_31 19 rfl rfl)
theorem dL_law_912 : decode cL_law 912 = .ok (.iaload, 1) := dk_46 (dk_at dksL_law_31 20 rfl rfl)
theorem dL_law_913 : decode cL_law 913 = .ok (.invokevirtual 123, 3) := dk_182 0 123 (dk_at dksL_law_31 21 rfl rfl)
theorem dL_law_916 : decode cL_law 916 = .ok (.aload_n 2, 1) := dk_44 (dk_at dksL_law_32 0 rfl rfl)
theorem dL_law_917 : decode cL_law 917 = .ok (.aload_n 0, 1) := dk_42 (dk_at dksL_law_32 1 rfl rfl)
theorem dL_law_918 : decode cL_law 918 = .ok (.iload_n 3, 1) := dk_29 (dk_at dksL_law_32 2 rfl rfl)
theorem dL_law_919 : decode cL_law 919 = .ok (.iconst 1, 1) := dk_4 (dk_at dksL_law_32 3 rfl rfl)
theorem dL_law_920 : decode cL_law 920 = .ok (.iadd, 1) := dk_96 (dk_at dksL_law_32 4 rfl rfl)
theorem dL_law_921 : decode cL_law 921 = .ok (.iaload, 1) := dk_46 (dk_at dksL_law_32 5 rfl rfl)
theorem dL_law_922 : decode cL_law 922 = .ok (.aload_n 0, 1) := dk_42 (dk_at dksL_law_32 6 rfl rfl)
theorem dL_law_923 : decode cL_law 923 = .ok (.iload_n 3, 1) := dk_29 (dk_at dksL_law_32 7 rfl rfl)
theorem dL_law_924 : decode cL_law 924 = .ok (.iconst 2, 1) := dk_5 (dk_at dksL_law_32 8 rfl rfl)
theorem dL_law_925 : decode cL_law 925 = .ok (.iadd, 1) := dk_96 (dk_at dksL_law_32 9 rfl rfl)
theorem dL_law_926 : decode cL_law 926 = .ok (.iaload, 1) := dk_46 (dk_at dksL_law_32 10 rfl rfl)
theorem dL_law_927 : decode cL_law 927 = .ok (.aload_n 0, 1) := dk_42 (dk_at dksL_law_32 11 rfl rfl)
theorem dL_law_928 : decode cL_law 928 = .ok (.iload_n 3, 1) := dk_29 (dk_at dksL_law_32 12 rfl rfl)
theorem dL_law_929 : decode cL_law 929 = .ok (.iconst 3, 1) := dk_6 (dk_at dksL_law_32 13 rfl rfl)
theorem dL_law_930 : decode cL_law 930 = .ok (.iadd, 1) := dk_96 (dk_at dksL_law_32 14 rfl rfl)
theorem dL_law_931 : decode cL_law 931 = .ok (.iaload, 1) := dk_46 (dk_at dksL_law_32 15 rfl rfl)
theorem dL_law_932 : decode cL_law 932 = .ok (.invokevirtual 126, 3) := dk_182 0 126 (dk_at dksL_law_32 16 rfl rfl)
theorem dL_law_935 : decode cL_law 935 = .ok (.if_icmp .eq 529, 3) := dk_159 2 17 (dk_at dksL_law_32 19 rfl rfl)
theorem dL_law_938 : decode cL_law 938 = .ok (.iconst 0, 1) := dk_3 (dk_at dksL_law_32 22 rfl rfl)
theorem dL_law_939 : decode cL_law 939 = .ok (.ireturn, 1) := dk_172 (dk_at dksL_law_32 23 rfl rfl)
theorem dL_law_940 : decode cL_law 940 = .ok (.aload_n 1, 1) := dk_43 (dk_at dksL_law_33 0 rfl rfl)
theorem dL_law_941 : decode cL_law 941 = .ok (.aload_n 0, 1) := dk_42 (dk_at dksL_law_33 1 rfl rfl)
theorem dL_law_942 : decode cL_law 942 = .ok (.iload_n 3, 1) := dk_29 (dk_at dksL_law_33 2 rfl rfl)
theorem dL_law_943 : decode cL_law 943 = .ok (.iconst 1, 1) := dk_4 (dk_at dksL_law_33 3 rfl rfl)
theorem dL_law_944 : decode cL_law 944 = .ok (.iadd, 1) := dk_96 (dk_at dksL_law_33 4 rfl rfl)
theorem dL_law_945 : decode cL_law 945 = .ok (.iaload, 1) := dk_46 (dk_at dksL_law_33 5 rfl rfl)
theorem dL_law_946 : decode cL_law 946 = .ok (.invokevirtual 127, 3) := dk_182 0 127 (dk_at dksL_law_33 6 rfl rfl)
theorem dL_law_949 : decode cL_law 949 = .ok (.aload_n 2, 1) := dk_44 (dk_at dksL_law_33 9 rfl rfl)
theorem dL_law_950 : decode cL_law 950 = .ok (.aload_n 0, 1) := dk_42 (dk_at dksL_law_33 10 rfl rfl)
theorem dL_law_951 : decode cL_law 951 = .ok (.iload_n 3, 1) := dk_29 (dk_at dksL_law_33 11 rfl rfl)
theorem dL_law_952 : decode cL_law 952 = .ok (.iconst 1, 1) := dk_4 (dk_at dksL_law_33 12 rfl rfl)
theorem dL_law_953 : decode cL_law 953 = .ok (.iadd, 1) := dk_96 (dk_at dksL_law_33 13 rfl rfl)
theorem dL_law_954 : decode cL_law 954 = .ok (.iaload, 1) := dk_46 (dk_at dksL_law_33 14 rfl rfl)
theorem dL_law_955 : decode cL_law 955 = .ok (.invokevirtual 130, 3) := dk_182 0 130 (dk_at dksL_law_33 15 rfl rfl)
theorem dL_law_958 : decode cL_law 958 = .ok (.if_icmp .eq 506, 3) := dk_159 1 250 (dk_at dksL_law_33 18 rfl rfl)
theorem dL_law_961 : decode cL_law 961 = .ok (.iconst 0, 1) := dk_3 (dk_at dksL_law_33 21 rfl rfl)
theorem dL_law_962 : decode cL_law 962 = .ok (.ireturn, 1) := dk_172 (dk_at dksL_law_33 22 rfl rfl)
theorem dL_law_963 : decode cL_law 963 = .ok (.aload_n 1, 1) := dk_43 (dk_at dksL_law_33 23 rfl rfl)
theorem dL_law_964 : decode cL_law 964 = .ok (.invokevirtual 131, 3) := dk_182 0 131 (dk_at dksL_law_34 0 rfl rfl)
theorem dL_law_967 : decode cL_law 967 = .ok (.aload_n 2, 1) := dk_44 (dk_at dksL_law_34 3 rfl rfl)
theorem dL_law_968 : decode cL_law 968 = .ok (.invokevirtual 134, 3) := dk_182 0 134 (dk_at dksL_law_34 4 rfl rfl)
theorem dL_law_971 : decode cL_law 971 = .ok (.if_icmp .eq 493, 3) := dk_159 1 237 (dk_at dksL_law_34 7 rfl rfl)
theorem dL_law_974 : decode cL_law 974 = .ok (.iconst 0, 1) := dk_3 (dk_at dksL_law_34 10 rfl rfl)
theorem dL_law_975 : decode cL_law 975 = .ok (.ireturn, 1) := dk_172 (dk_at dksL_law_34 11 rfl rfl)
theorem dL_law_976 : decode cL_law 976 = .ok (.aload_n 1, 1) := dk_43 (dk_at dksL_law_34 12 rfl rfl)
theorem dL_law_977 : decode cL_law 977 = .ok (.aload_n 0, 1) := dk_42 (dk_at dksL_law_34 13 rfl rfl)
theorem dL_law_978 : decode cL_law 978 = .ok (.iload_n 3, 1) := dk_29 (dk_at dksL_law_34 14 rfl rfl)
theorem dL_law_979 : decode cL_law 979 = .ok (.iconst 1, 1) := dk_4 (dk_at dksL_law_34 15 rfl rfl)
theorem dL_law_980 : decode cL_law 980 = .ok (.iadd, 1) := dk_96 (dk_at dksL_law_34 16 rfl rfl)
theorem dL_law_981 : decode cL_law 981 = .ok (.iaload, 1) := dk_46 (dk_at dksL_law_34 17 rfl rfl)
theorem dL_law_982 : decode cL_law 982 = .ok (.aload_n 0, 1) := dk_42 (dk_at dksL_law_34 18 rfl rfl)
theorem dL_law_983 : decode cL_law 983 = .ok (.iload_n 3, 1) := dk_29 (dk_at dksL_law_34 19 rfl rfl)
theorem dL_law_984 : decode cL_law 984 = .ok (.iconst 2, 1) := dk_5 (dk_at dksL_law_34 20 rfl rfl)
theorem dL_law_985 : decode cL_law 985 = .ok (.iadd, 1) := dk_96 (dk_at dksL_law_34 21 rfl rfl)
theorem dL_law_986 : decode cL_law 986 = .ok (.iaload, 1) := dk_46 (dk_at dksL_law_34 22 rfl rfl)
theorem dL_law_987 : decode cL_law 987 = .ok (.invokevirtual 135, 3) := dk_182 0 135 (dk_at dksL_law_35 0 rfl rfl)
theorem dL_law_990 : decode cL_law 990 = .ok (.aload_n 2, 1) := dk_44 (dk_at dksL_law_35 3 rfl rfl)
theorem dL_law_991 : decode cL_law 991 = .ok (.aload_n 0, 1) := dk_42 (dk_at dksL_law_35 4 rfl rfl)
theorem dL_law_992 : decode cL_law 992 = .ok (.iload_n 3, 1) := dk_29 (dk_at dksL_law_35 5 rfl rfl)
theorem dL_law_993 : decode cL_law 993 = .ok (.iconst 1, 1) := dk_4 (dk_at dksL_law_35 6 rfl rfl)
theorem dL_law_994 : decode cL_law 994 = .ok (.iadd, 1) := dk_96 (dk_at dksL_law_35 7 rfl rfl)
theorem dL_law_995 : decode cL_law 995 = .ok (.iaload, 1) := dk_46 (dk_at dksL_law_35 8 rfl rfl)
theorem dL_law_996 : decode cL_law 996 = .ok (.aload_n 0, 1) := dk_42 (dk_at dksL_law_35 9 rfl rfl)
theorem dL_law_997 : decode cL_law 997 = .ok (.iload_n 3, 1) := dk_29 (dk_at dksL_law_35 10 rfl rfl)
theorem dL_law_998 : decode cL_law 998 = .ok (.iconst 2, 1) := dk_5 (dk_at dksL_law_35 11 rfl rfl)
theorem dL_law_999 : decode cL_law 999 = .ok (.iadd, 1) := dk_96 (dk_at dksL_law_35 12 rfl rfl)
theorem dL_law_1000 : decode cL_law 1000 = .ok (.iaload, 1) := dk_46 (dk_at dksL_law_35 13 rfl rfl)
theorem dL_law_1001 : decode cL_law 1001 = .ok (.invokevirtual 138, 3) := dk_182 0 138 (dk_at dksL_law_35 14 rfl rfl)
theorem dL_law_1004 : decode cL_law 1004 = .ok (.if_icmp .eq 460, 3) := dk_159 1 204 (dk_at dksL_law_35 17 rfl rfl)
theorem dL_law_1007 : decode cL_law 1007 = .ok (.iconst 0, 1) := dk_3 (dk_at dksL_law_35 20 rfl rfl)
theorem dL_law_1008 : decode cL_law 1008 = .ok (.ireturn, 1) := dk_172 (dk_at dksL_law_35 21 rfl rfl)
theorem dL_law_1009 : decode cL_law 1009 = .ok (.aload_n 1, 1) := dk_43 (dk_at dksL_law_35 22 rfl rfl)
theorem dL_law_1010 : decode cL_law 1010 = .ok (.aload_n 0, 1) := dk_42 (dk_at dksL_law_35 23 rfl rfl)
theorem dL_law_1011 : decode cL_law 1011 = .ok (.iload_n 3, 1) := dk_29 (dk_at dksL_law_36 0 rfl rfl)
theorem dL_law_1012 : decode cL_law 1012 = .ok (.iconst 1, 1) := dk_4 (dk_at dksL_law_36 1 rfl rfl)
theorem dL_law_1013 : decode cL_law 1013 = .ok (.iadd, 1) := dk_96 (dk_at dksL_law_36 2 rfl rfl)
theorem dL_law_1014 : decode cL_law 1014 = .ok (.iaload, 1) := dk_46 (dk_at dksL_law_36 3 rfl rfl)
theorem dL_law_1015 : decode cL_law 1015 = .ok (.invokevirtual 139, 3) := dk_182 0 139 (dk_at dksL_law_36 4 rfl rfl)
theorem dL_law_1018 : decode cL_law 1018 = .ok (.aload_n 2, 1) := dk_44 (dk_at dksL_law_36 7 rfl rfl)
theorem dL_law_1019 : decode cL_law 1019 = .ok (.aload_n 0, 1) := dk_42 (dk_at dksL_law_36 8 rfl rfl)
theorem dL_law_1020 : decode cL_law 1020 = .ok (.iload_n 3, 1) := dk_29 (dk_at dksL_law_36 9 rfl rfl)
theorem dL_law_1021 : decode cL_law 1021 = .ok (.iconst 1, 1) := dk_4 (dk_at dksL_law_36 10 rfl rfl)
theorem dL_law_1022 : decode cL_law 1022 = .ok (.iadd, 1) := dk_96 (dk_at dksL_law_36 11 rfl rfl)
theorem dL_law_1023 : decode cL_law 1023 = .ok (.iaload, 1) := dk_46 (dk_at dksL_law_36 12 rfl rfl)
theorem dL_law_1024 : decode cL_law 1024 = .ok (.invokevirtual 142, 3) := dk_182 0 142 (dk_at dksL_law_36 13 rfl rfl)
theorem dL_law_1027 : decode cL_law 1027 = .ok (.if_icmp .eq 437, 3) := dk_159 1 181 (dk_at dksL_law_36 16 rfl rfl)
theorem dL_law_1030 : decode cL_law 1030 = .ok (.iconst 0, 1) := dk_3 (dk_at dksL_law_36 19 rfl rfl)
theorem dL_law_1031 : decode cL_law 1031 = .ok (.ireturn, 1) := dk_172 (dk_at dksL_law_36 20 rfl rfl)
theorem dL_law_1032 : decode cL_law 1032 = .ok (.aload_n 1, 1) := dk_43 (dk_at dksL_law_36 21 rfl rfl)
theorem dL_law_1033 : decode cL_law 1033 = .ok (.aload_n 0, 1) := dk_42 (dk_at dksL_law_36 22 rfl rfl)
theorem dL_law_1034 : decode cL_law 1034 = .ok (.iload_n 3, 1) := dk_29 (dk_at dksL_law_36 23 rfl rfl)
theorem dL_law_1035 : decode cL_law 1035 = .ok (.iconst 1, 1) := dk_4 (dk_at dksL_law_37 0 rfl rfl)
theorem dL_law_1036 : decode cL_law 1036 = .ok (.iadd, 1) := dk_96 (dk_at dksL_law_37 1 rfl rfl)
theorem dL_law_1037 : decode cL_law 1037 = .ok (.iaload, 1) := dk_46 (dk_at dksL_law_37 2 rfl rfl)
theorem dL_law_1038 : decode cL_law 1038 = .ok (.aload_n 0, 1) := dk_42 (dk_at dksL_law_37 3 rfl rfl)
theorem dL_law_1039 : decode cL_law 1039 = .ok (.iload_n 3, 1) := dk_29 (dk_at dksL_law_37 4 rfl rfl)
theorem dL_law_1040 : decode cL_law 1040 = .ok (.iconst 2, 1) := dk_5 (dk_at dksL_law_37 5 rfl rfl)
theorem dL_law_1041 : decode cL_law 1041 = .ok (.iadd, 1) := dk_96 (dk_at dksL_law_37 6 rfl rfl)
theorem dL_law_1042 : decode cL_law 1042 = .ok (.iaload, 1) := dk_46 (dk_at dksL_law_37 7 rfl rfl)
theorem dL_law_1043 : decode cL_law 1043 = .ok (.aload_n 0, 1) := dk_42 (dk_at dksL_law_37 8 rfl rfl)
theorem dL_law_1044 : decode cL_law 1044 = .ok (.iload_n 3, 1) := dk_29 (dk_at dksL_law_37 9 rfl rfl)
theorem dL_law_1045 : decode cL_law 1045 = .ok (.iconst 3, 1) := dk_6 (dk_at dksL_law_37 10 rfl rfl)
theorem dL_law_1046 : decode cL_law 1046 = .ok (.iadd, 1) := dk_96 (dk_at dksL_law_37 11 rfl rfl)
theorem dL_law_1047 : decode cL_law 1047 = .ok (.iaload, 1) := dk_46 (dk_at dksL_law_37 12 rfl rfl)
theorem dL_law_1048 : decode cL_law 1048 = .ok (.invokevirtual 143, 3) := dk_182 0 143 (dk_at dksL_law_37 13 rfl rfl)
theorem dL_law_1051 : decode cL_law 1051 = .ok (.aload_n 2, 1) := dk_44 (dk_at dksL_law_37 16 rfl rfl)
theorem dL_law_1052 : decode cL_law 1052 = .ok (.aload_n 0, 1) := dk_42 (dk_at dksL_law_37 17 rfl rfl)
theorem dL_law_1053 : decode cL_law 1053 = .ok (.iload_n 3, 1) := dk_29 (dk_at dksL_law_37 18 rfl rfl)
theorem dL_law_1054 : decode cL_law 1054 = .ok (.iconst 1, 1) := dk_4 (dk_at dksL_law_37 19 rfl rfl)
theorem dL_law_1055 : decode cL_law 1055 = .ok (.iadd, 1) := dk_96 (dk_at dksL_law_37 20 rfl rfl)
theorem dL_law_1056 : decode cL_law 1056 = .ok (.iaload, 1) := dk_46 (dk_at dksL_law_37 21 rfl rfl)
theorem dL_law_1057 : decode cL_law 1057 = .ok (.aload_n 0, 1) := dk_42 (dk_at dksL_law_37 22 rfl rfl)
theorem dL_law_1058 : decode cL_law 1058 = .ok (.iload_n 3, 1) := dk_29 (dk_at dksL_law_37 23 rfl rfl)
theorem dL_law_1059 : decode cL_law 1059 = .ok (.iconst 2, 1) := dk_5 (dk_at dksL_law_38 0 rfl rfl)
theorem dL_law_1060 : decode cL_law 1060 = .ok (.iadd, 1) := dk_96 (dk_at dksL_law_38 1 rfl rfl)
theorem dL_law_1061 : decode cL_law 1061 = .ok (.iaload, 1) := dk_46 (dk_at dksL_law_38 2 rfl rfl)
theorem dL_law_1062 : decode cL_law 1062 = .ok (.aload_n 0, 1) := dk_42 (dk_at dksL_law_38 3 rfl rfl)
theorem dL_law_1063 : decode cL_law 1063 = .ok (.iload_n 3, 1) := dk_29 (dk_at dksL_law_38 4 rfl rfl)
theorem dL_law_1064 : decode cL_law 1064 = .ok (.iconst 3, 1) := dk_6 (dk_at dksL_law_38 5 rfl rfl)
theorem dL_law_1065 : decode cL_law 1065 = .ok (.iadd, 1) := dk_96 (dk_at dksL_law_38 6 rfl rfl)
theorem dL_law_1066 : decode cL_law 1066 = .ok (.iaload, 1) := dk_46 (dk_at dksL_law_38 7 rfl rfl)
theorem dL_law_1067 : decode cL_law 1067 = .ok (.invokevirtual 146, 3) := dk_182 0 146 (dk_at dksL_law_38 8 rfl rfl)
theorem dL_law_1070 : decode cL_law 1070 = .ok (.if_icmp .eq 394, 3) := dk_159 1 138 (dk_at dksL_law_38 11 rfl rfl)
theorem dL_law_1073 : decode cL_law 1073 = .ok (.iconst 0, 1) := dk_3 (dk_at dksL_law_38 14 rfl rfl)
theorem dL_law_1074 : decode cL_law 1074 = .ok (.ireturn, 1) := dk_172 (dk_at dksL_law_38 15 rfl rfl)
theorem dL_law_1075 : decode cL_law 1075 = .ok (.aload_n 1, 1) := dk_43 (dk_at dksL_law_38 16 rfl rfl)
theorem dL_law_1076 : decode cL_law 1076 = .ok (.aload_n 0, 1) := dk_42 (dk_at dksL_law_38 17 rfl rfl)
theorem dL_law_1077 : decode cL_law 1077 = .ok (.iload_n 3, 1) := dk_29 (dk_at dksL_law_38 18 rfl rfl)
theorem dL_law_1078 : decode cL_law 1078 = .ok (.iconst 1, 1) := dk_4 (dk_at dksL_law_38 19 rfl rfl)
theorem dL_law_1079 : decode cL_law 1079 = .ok (.iadd, 1) := dk_96 (dk_at dksL_law_38 20 rfl rfl)
theorem dL_law_1080 : decode cL_law 1080 = .ok (.iaload, 1) := dk_46 (dk_at dksL_law_38 21 rfl rfl)
theorem dL_law_1081 : decode cL_law 1081 = .ok (.aload_n 0, 1) := dk_42 (dk_at dksL_law_38 22 rfl rfl)
theorem dL_law_1082 : decode cL_law 1082 = .ok (.iload_n 3, 1) := dk_29 (dk_at dksL_law_38 23 rfl rfl)
theorem dL_law_1083 : decode cL_law 1083 = .ok (.iconst 2, 1) := dk_5 (dk_at dksL_law_39 0 rfl rfl)
theorem dL_law_1084 : decode cL_law 1084 = .ok (.iadd, 1) := dk_96 (dk_at dksL_law_39 1 rfl rfl)
theorem dL_law_1085 : decode cL_law 1085 = .ok (.iaload, 1) := dk_46 (dk_at dksL_law_39 2 rfl rfl)
theorem dL_law_1086 : decode cL_law 1086 = .ok (.aload_n 0, 1) := dk_42 (dk_at dksL_law_39 3 rfl rfl)
theorem dL_law_1087 : decode cL_law 1087 = .ok (.iload_n 3, 1) := dk_29 (dk_at dksL_law_39 4 rfl rfl)
theorem dL_law_1088 : decode cL_law 1088 = .ok (.iconst 3, 1) := dk_6 (dk_at dksL_law_39 5 rfl rfl)
theorem dL_law_1089 : decode cL_law 1089 = .ok (.iadd, 1) := dk_96 (dk_at dksL_law_39 6 rfl rfl)
theorem dL_law_1090 : decode cL_law 1090 = .ok (.iaload, 1) := dk_46 (dk_at dksL_law_39 7 rfl rfl)
theorem dL_law_1091 : decode cL_law 1091 = .ok (.invokevirtual 147, 3) := dk_182 0 147 (dk_at dksL_law_39 8 rfl rfl)
theorem dL_law_1094 : decode cL_law 1094 = .ok (.aload_n 2, 1) := dk_44 (dk_at dksL_law_39 11 rfl rfl)
theorem dL_law_1095 : decode cL_law 1095 = .ok (.aload_n 0, 1) := dk_42 (dk_at dksL_law_39 12 rfl rfl)
theorem dL_law_1096 : decode cL_law 1096 = .ok (.iload_n 3, 1) := dk_29 (dk_at dksL_law_39 13 rfl rfl)
theorem dL_law_1097 : decode cL_law 1097 = .ok (.iconst 1, 1) := dk_4 (dk_at dksL_law_39 14 rfl rfl)
theorem dL_law_1098 : decode cL_law 1098 = .ok (.iadd, 1) := dk_96 (dk_at dksL_law_39 15 rfl rfl)
theorem dL_law_1099 : decode cL_law 1099 = .ok (.iaload, 1) := dk_46 (dk_at dksL_law_39 16 rfl rfl)
theorem dL_law_1100 : decode cL_law 1100 = .ok (.aload_n 0, 1) := dk_42 (dk_at dksL_law_39 17 rfl rfl)
theorem dL_law_1101 : decode cL_law 1101 = .ok (.iload_n 3, 1) := dk_29 (dk_at dksL_law_39 18 rfl rfl)
theorem dL_law_1102 : decode cL_law 1102 = .ok (.iconst 2, 1) := dk_5 (dk_at dksL_law_39 19 rfl rfl)
theorem dL_law_1103 : decode cL_law 1103 = .ok (.iadd, 1) := dk_96 (dk_at dksL_law_39 20 rfl rfl)
theorem dL_law_1104 : decode cL_law 1104 = .ok (.iaload, 1) := dk_46 (dk_at dksL_law_39 21 rfl rfl)
theorem dL_law_1105 : decode cL_law 1105 = .ok (.aload_n 0, 1) := dk_42 (dk_at dksL_law_39 22 rfl rfl)
theorem dL_law_1106 : decode cL_law 1106 = .ok (.iload_n 3, 1) := dk_29 (dk_at dksL_law_39 23 rfl rfl)
theorem dL_law_1107 : decode cL_law 1107 = .ok (.iconst 3, 1) := dk_6 (dk_at dksL_law_40 0 rfl rfl)
theorem dL_law_1108 : decode cL_law 1108 = .ok (.iadd, 1) := dk_96 (dk_at dksL_law_40 1 rfl rfl)
theorem dL_law_1109 : decode cL_law 1109 = .ok (.iaload, 1) := dk_46 (dk_at dksL_law_40 2 rfl rfl)
theorem dL_law_1110 : decode cL_law 1110 = .ok (.invokevirtual 150, 3) := dk_182 0 150 (dk_at dksL_law_40 3 rfl rfl)
theorem dL_law_1113 : decode cL_law 1113 = .ok (.if_icmp .eq 351, 3) := dk_159 1 95 (dk_at dksL_law_40 6 rfl rfl)
theorem dL_law_1116 : decode cL_law 1116 = .ok (.iconst 0, 1) := dk_3 (dk_at dksL_law_40 9 rfl rfl)
theorem dL_law_1117 : decode cL_law 1117 = .ok (.ireturn, 1) := dk_172 (dk_at dksL_law_40 10 rfl rfl)
theorem dL_law_1118 : decode cL_law 1118 = .ok (.aload_n 1, 1) := dk_43 (dk_at dksL_law_40 11 rfl rfl)
theorem dL_law_1119 : decode cL_law 1119 = .ok (.aload_n 0, 1) := dk_42 (dk_at dksL_law_40 12 rfl rfl)
theorem dL_law_1120 : decode cL_law 1120 = .ok (.iload_n 3, 1) := dk_29 (dk_at dksL_law_40 13 rfl rfl)
theorem dL_law_1121 : decode cL_law 1121 = .ok (.iconst 1, 1) := dk_4 (dk_at dksL_law_40 14 rfl rfl)
theorem dL_law_1122 : decode cL_law 1122 = .ok (.iadd, 1) := dk_96 (dk_at dksL_law_40 15 rfl rfl)
theorem dL_law_1123 : decode cL_law 1123 = .ok (.iaload, 1) := dk_46 (dk_at dksL_law_40 16 rfl rfl)
theorem dL_law_1124 : decode cL_law 1124 = .ok (.invokevirtual 151, 3) := dk_182 0 151 (dk_at dksL_law_40 17 rfl rfl)
theorem dL_law_1127 : decode cL_law 1127 = .ok (.aload_n 2, 1) := dk_44 (dk_at dksL_law_40 20 rfl rfl)
theorem dL_law_1128 : decode cL_law 1128 = .ok (.aload_n 0, 1) := dk_42 (dk_at dksL_law_40 21 rfl rfl)
theorem dL_law_1129 : decode cL_law 1129 = .ok (.iload_n 3, 1) := dk_29 (dk_at dksL_law_40 22 rfl rfl)
theorem dL_law_1130 : decode cL_law 1130 = .ok (.iconst 1, 1) := dk_4 (dk_at dksL_law_40 23 rfl rfl)
theorem dL_law_1131 : decode cL_law 1131 = .ok (.iadd, 1) := dk_96 (dk_at dksL_law_41 0 rfl rfl)
theorem dL_law_1132 : decode cL_law 1132 = .ok (.iaload, 1) := dk_46 (dk_at dksL_law_41 1 rfl rfl)
theorem dL_law_1133 : decode cL_law 1133 = .ok (.invokevirtual 154, 3) := dk_182 0 154 (dk_at dksL_law_41 2 rfl rfl)
theorem dL_law_1136 : decode cL_law 1136 = .ok (.if_icmp .eq 328, 3) := dk_159 1 72 (dk_at dksL_law_41 5 rfl rfl)
theorem dL_law_1139 : decode cL_law 1139 = .ok (.iconst 0, 1) := dk_3 (dk_at dksL_law_41 8 rfl rfl)
theorem dL_law_1140 : decode cL_law 1140 = .ok (.ireturn, 1) := dk_172 (dk_at dksL_law_41 9 rfl rfl)
theorem dL_law_1141 : decode cL_law 1141 = .ok (.aload_n 1, 1) := dk_43 (dk_at dksL_law_41 10 rfl rfl)
theorem dL_law_1142 : decode cL_law 1142 = .ok (.aload_n 0, 1) := dk_42 (dk_at dksL_law_41 11 rfl rfl)
theorem dL_law_1143 : decode cL_law 1143 = .ok (.iload_n 3, 1) := dk_29 (dk_at dksL_law_41 12 rfl rfl)
theorem dL_law_1144 : decode cL_law 1144 = .ok (.iconst 1, 1) := dk_4 (dk_at dksL_law_41 13 rfl rfl)
theorem dL_law_1145 : decode cL_law 1145 = .ok (.iadd, 1) := dk_96 (dk_at dksL_law_41 14 rfl rfl)
theorem dL_law_1146 : decode cL_law 1146 = .ok (.iaload, 1) := dk_46 (dk_at dksL_law_41 15 rfl rfl)
theorem dL_law_1147 : decode cL_law 1147 = .ok (.invokevirtual 155, 3) := dk_182 0 155 (dk_at dksL_law_41 16 rfl rfl)
theorem dL_law_1150 : decode cL_law 1150 = .ok (.aload_n 2, 1) := dk_44 (dk_at dksL_law_41 19 rfl rfl)
theorem dL_law_1151 : decode cL_law 1151 = .ok (.aload_n 0, 1) := dk_42 (dk_at dksL_law_41 20 rfl rfl)
theorem dL_law_1152 : decode cL_law 1152 = .ok (.iload_n 3, 1) := dk_29 (dk_at dksL_law_41 21 rfl rfl)
theorem dL_law_1153 : decode cL_law 1153 = .ok (.iconst 1, 1) := dk_4 (dk_at dksL_law_41 22 rfl rfl)
theorem dL_law_1154 : decode cL_law 1154 = .ok (.iadd, 1) := dk_96 (dk_at dksL_law_41 23 rfl rfl)
theorem dL_law_1155 : decode cL_law 1155 = .ok (.iaload, 1) := dk_46 (dk_at dksL_law_42 0 rfl rfl)
theorem dL_law_1156 : decode cL_law 1156 = .ok (.invokevirtual 158, 3) := dk_182 0 158 (dk_at dksL_law_42 1 rfl rfl)
theorem dL_law_1159 : decode cL_law 1159 = .ok (.if_icmp .eq 305, 3) := dk_159 1 49 (dk_at dksL_law_42 4 rfl rfl)
theorem dL_law_1162 : decode cL_law 1162 = .ok (.iconst 0, 1) := dk_3 (dk_at dksL_law_42 7 rfl rfl)
theorem dL_law_1163 : decode cL_law 1163 = .ok (.ireturn, 1) := dk_172 (dk_at dksL_law_42 8 rfl rfl)
theorem dL_law_1164 : decode cL_law 1164 = .ok (.aload_n 1, 1) := dk_43 (dk_at dksL_law_42 9 rfl rfl)
theorem dL_law_1165 : decode cL_law 1165 = .ok (.aload_n 0, 1) := dk_42 (dk_at dksL_law_42 10 rfl rfl)
theorem dL_law_1166 : decode cL_law 1166 = .ok (.iload_n 3, 1) := dk_29 (dk_at dksL_law_42 11 rfl rfl)
theorem dL_law_1167 : decode cL_law 1167 = .ok (.iconst 1, 1) := dk_4 (dk_at dksL_law_42 12 rfl rfl)
theorem dL_law_1168 : decode cL_law 1168 = .ok (.iadd, 1) := dk_96 (dk_at dksL_law_42 13 rfl rfl)
theorem dL_law_1169 : decode cL_law 1169 = .ok (.iaload, 1) := dk_46 (dk_at dksL_law_42 14 rfl rfl)
theorem dL_law_1170 : decode cL_law 1170 = .ok (.aload_n 0, 1) := dk_42 (dk_at dksL_law_42 15 rfl rfl)
theorem dL_law_1171 : decode cL_law 1171 = .ok (.iload_n 3, 1) := dk_29 (dk_at dksL_law_42 16 rfl rfl)
theorem dL_law_1172 : decode cL_law 1172 = .ok (.iconst 2, 1) := dk_5 (dk_at dksL_law_42 17 rfl rfl)
theorem dL_law_1173 : decode cL_law 1173 = .ok (.iadd, 1) := dk_96 (dk_at dksL_law_42 18 rfl rfl)
theorem dL_law_1174 : decode cL_law 1174 = .ok (.iaload, 1) := dk_46 (dk_at dksL_law_42 19 rfl rfl)
theorem dL_law_1175 : decode cL_law 1175 = .ok (.aload_n 0, 1) := dk_42 (dk_at dksL_law_42 20 rfl rfl)
theorem dL_law_1176 : decode cL_law 1176 = .ok (.iload_n 3, 1) := dk_29 (dk_at dksL_law_42 21 rfl rfl)
theorem dL_law_1177 : decode cL_law 1177 = .ok (.iconst 3, 1) := dk_6 (dk_at dksL_law_42 22 rfl rfl)
theorem dL_law_1178 : decode cL_law 1178 = .ok (.iadd, 1) := dk_96 (dk_at dksL_law_42 23 rfl rfl)
theorem dL_law_1179 : decode cL_law 1179 = .ok (.iaload, 1) := dk_46 (dk_at dksL_law_43 0 rfl rfl)
theorem dL_law_1180 : decode cL_law 1180 = .ok (.aload_n 0, 1) := dk_42 (dk_at dksL_law_43 1 rfl rfl)
theorem dL_law_1181 : decode cL_law 1181 = .ok (.iload_n 3, 1) := dk_29 (dk_at dksL_law_43 2 rfl rfl)
theorem dL_law_1182 : decode cL_law 1182 = .ok (.iconst 4, 1) := dk_7 (dk_at dksL_law_43 3 rfl rfl)
theorem dL_law_1183 : decode cL_law 1183 = .ok (.iadd, 1) := dk_96 (dk_at dksL_law_43 4 rfl rfl)
theorem dL_law_1184 : decode cL_law 1184 = .ok (.iaload, 1) := dk_46 (dk_at dksL_law_43 5 rfl rfl)
theorem dL_law_1185 : decode cL_law 1185 = .ok (.aload_n 0, 1) := dk_42 (dk_at dksL_law_43 6 rfl rfl)
theorem dL_law_1186 : decode cL_law 1186 = .ok (.iload_n 3, 1) := dk_29 (dk_at dksL_law_43 7 rfl rfl)
theorem dL_law_1187 : decode cL_law 1187 = .ok (.iconst 5, 1) := dk_8 (dk_at dksL_law_43 8 rfl rfl)
theorem dL_law_1188 : decode cL_law 1188 = .ok (.iadd, 1) := dk_96 (dk_at dksL_law_43 9 rfl rfl)
theorem dL_law_1189 : decode cL_law 1189 = .ok (.iaload, 1) := dk_46 (dk_at dksL_law_43 10 rfl rfl)
theorem dL_law_1190 : decode cL_law 1190 = .ok (.invokevirtual 159, 3) := dk_182 0 159 (dk_at dksL_law_43 11 rfl rfl)
theorem dL_law_1193 : decode cL_law 1193 = .ok (.aload_n 2, 1) := dk_44 (dk_at dksL_law_43 14 rfl rfl)
theorem dL_law_1194 : decode cL_law 1194 = .ok (.aload_n 0, 1) := dk_42 (dk_at dksL_law_43 15 rfl rfl)
theorem dL_law_1195 : decode cL_law 1195 = .ok (.iload_n 3, 1) := dk_29 (dk_at dksL_law_43 16 rfl rfl)
theorem dL_law_1196 : decode cL_law 1196 = .ok (.iconst 1, 1) := dk_4 (dk_at dksL_law_43 17 rfl rfl)
theorem dL_law_1197 : decode cL_law 1197 = .ok (.iadd, 1) := dk_96 (dk_at dksL_law_43 18 rfl rfl)
theorem dL_law_1198 : decode cL_law 1198 = .ok (.iaload, 1) := dk_46 (dk_at dksL_law_43 19 rfl rfl)
theorem dL_law_1199 : decode cL_law 1199 = .ok (.aload_n 0, 1) := dk_42 (dk_at dksL_law_43 20 rfl rfl)
theorem dL_law_1200 : decode cL_law 1200 = .ok (.iload_n 3, 1) := dk_29 (dk_at dksL_law_43 21 rfl rfl)
theorem dL_law_1201 : decode cL_law 1201 = .ok (.iconst 2, 1) := dk_5 (dk_at dksL_law_43 22 rfl rfl)
theorem dL_law_1202 : decode cL_law 1202 = .ok (.iadd, 1) := dk_96 (dk_at dksL_law_43 23 rfl rfl)
theorem dL_law_1203 : decode cL_law 1203 = .ok (.iaload, 1) := dk_46 (dk_at dksL_law_44 0 rfl rfl)
theorem dL_law_1204 : decode cL_law 1204 = .ok (.aload_n 0, 1) := dk_42 (dk_at dksL_law_44 1 rfl rfl)
theorem dL_law_1205 : decode cL_law 1205 = .ok (.iload_n 3, 1) := dk_29 (dk_at dksL_law_44 2 rfl rfl)
theorem dL_law_1206 : decode cL_law 1206 = .ok (.iconst 3, 1) := dk_6 (dk_at dksL_law_44 3 rfl rfl)
theorem dL_law_1207 : decode cL_law 1207 = .ok (.iadd, 1) := dk_96 (dk_at dksL_law_44 4 rfl rfl)
theorem dL_law_1208 : decode cL_law 1208 = .ok (.iaload, 1) := dk_46 (dk_at dksL_law_44 5 rfl rfl)
theorem dL_law_1209 : decode cL_law 1209 = .ok (.aload_n 0, 1) := dk_42 (dk_at dksL_law_44 6 rfl rfl)
theorem dL_law_1210 : decode cL_law 1210 = .ok (.iload_n 3, 1) := dk_29 (dk_at dksL_law_44 7 rfl rfl)
theorem dL_law_1211 : decode cL_law 1211 = .ok (.iconst 4, 1) := dk_7 (dk_at dksL_law_44 8 rfl rfl)
theorem dL_law_1212 : decode cL_law 1212 = .ok (.iadd, 1) := dk_96 (dk_at dksL_law_44 9 rfl rfl)
theorem dL_law_1213 : decode cL_law 1213 = .ok (.iaload, 1) := dk_46 (dk_at dksL_law_44 10 rfl rfl)
theorem dL_law_1214 : decode cL_law 1214 = .ok (.aload_n 0, 1) := dk_42 (dk_at dksL_law_44 11 rfl rfl)
theorem dL_law_1215 : decode cL_law 1215 = .ok (.iload_n 3, 1) := dk_29 (dk_at dksL_law_44 12 rfl rfl)
theorem dL_law_1216 : decode cL_law 1216 = .ok (.iconst 5, 1) := dk_8 (dk_at dksL_law_44 13 rfl rfl)
theorem dL_law_1217 : decode cL_law 1217 = .ok (.iadd, 1) := dk_96 (dk_at dksL_law_44 14 rfl rfl)
theorem dL_law_1218 : decode cL_law 1218 = .ok (.iaload, 1) := dk_46 (dk_at dksL_law_44 15 rfl rfl)
theorem dL_law_1219 : decode cL_law 1219 = .ok (.invokevirtual 163, 3) := dk_182 0 163 (dk_at dksL_law_44 16 rfl rfl)
theorem dL_law_1222 : decode cL_law 1222 = .ok (.if_icmp .eq 242, 3) := dk_159 0 242 (dk_at dksL_law_44 19 rfl rfl)
theorem dL_law_1225 : decode cL_law 1225 = .ok (.iconst 0, 1) := dk_3 (dk_at dksL_law_44 22 rfl rfl)
theorem dL_law_1226 : decode cL_law 1226 = .ok (.ireturn, 1) := dk_172 (dk_at dksL_law_44 23 rfl rfl)
theorem dL_law_1227 : decode cL_law 1227 = .ok (.aload_n 1, 1) := dk_43 (dk_at dksL_law_45 0 rfl rfl)
theorem dL_law_1228 : decode cL_law 1228 = .ok (.aload_n 0, 1) := dk_42 (dk_at dksL_law_45 1 rfl rfl)
theorem dL_law_1229 : decode cL_law 1229 = .ok (.iload_n 3, 1) := dk_29 (dk_at dksL_law_45 2 rfl rfl)
theorem dL_law_1230 : decode cL_law 1230 = .ok (.iconst 1, 1) := dk_4 (dk_at dksL_law_45 3 rfl rfl)
theorem dL_law_1231 : decode cL_law 1231 = .ok (.iadd, 1) := dk_96 (dk_at dksL_law_45 4 rfl rfl)
theorem dL_law_1232 : decode cL_law 1232 = .ok (.iaload, 1) := dk_46 (dk_at dksL_law_45 5 rfl rfl)
theorem dL_law_1233 : decode cL_law 1233 = .ok (.aload_n 0, 1) := dk_42 (dk_at dksL_law_45 6 rfl rfl)
theorem dL_law_1234 : decode cL_law 1234 = .ok (.iload_n 3, 1) := dk_29 (dk_at dksL_law_45 7 rfl rfl)
theorem dL_law_1235 : decode cL_law 1235 = .ok (.iconst 2, 1) := dk_5 (dk_at dksL_law_45 8 rfl rfl)
theorem dL_law_1236 : decode cL_law 1236 = .ok (.iadd, 1) := dk_96 (dk_at dksL_law_45 9 rfl rfl)
theorem dL_law_1237 : decode cL_law 1237 = .ok (.iaload, 1) := dk_46 (dk_at dksL_law_45 10 rfl rfl)
theorem dL_law_1238 : decode cL_law 1238 = .ok (.aload_n 0, 1) := dk_42 (dk_at dksL_law_45 11 rfl rfl)
theorem dL_law_1239 : decode cL_law 1239 = .ok (.iload_n 3, 1) := dk_29 (dk_at dksL_law_45 12 rfl rfl)
theorem dL_law_1240 : decode cL_law 1240 = .ok (.iconst 3, 1) := dk_6 (dk_at dksL_law_45 13 rfl rfl)
theorem dL_law_1241 : decode cL_law 1241 = .ok (.iadd, 1) := dk_96 (dk_at dksL_law_45 14 rfl rfl)
theorem dL_law_1242 : decode cL_law 1242 = .ok (.iaload, 1) := dk_46 (dk_at dksL_law_45 15 rfl rfl)
theorem dL_law_1243 : decode cL_law 1243 = .ok (.invokevirtual 164, 3) := dk_182 0 164 (dk_at dksL_law_45 16 rfl rfl)
theorem dL_law_1246 : decode cL_law 1246 = .ok (.aload_n 2, 1) := dk_44 (dk_at dksL_law_45 19 rfl rfl)
theorem dL_law_1247 : decode cL_law 1247 = .ok (.aload_n 0, 1) := dk_42 (dk_at dksL_law_45 20 rfl rfl)
theorem dL_law_1248 : decode cL_law 1248 = .ok (.iload_n 3, 1) := dk_29 (dk_at dksL_law_45 21 rfl rfl)
theorem dL_law_1249 : decode cL_law 1249 = .ok (.iconst 1, 1) := dk_4 (dk_at dksL_law_45 22 rfl rfl)
theorem dL_law_1250 : decode cL_law 1250 = .ok (.iadd, 1) := dk_96 (dk_at dksL_law_45 23 rfl rfl)
theorem dL_law_1251 : decode cL_law 1251 = .ok (.iaload, 1) := dk_46 (dk_at dksL_law_46 0 rfl rfl)
theorem dL_law_1252 : decode cL_law 1252 = .ok (.aload_n 0, 1) := dk_42 (dk_at dksL_law_46 1 rfl rfl)
theorem dL_law_1253 : decode cL_law 1253 = .ok (.iload_n 3, 1) := dk_29 (dk_at dksL_law_46 2 rfl rfl)
theorem dL_law_1254 : decode cL_law 1254 = .ok (.iconst 2, 1) := dk_5 (dk_at dksL_law_46 3 rfl rfl)
theorem dL_law_1255 : decode cL_law 1255 = .ok (.iadd, 1) := dk_96 (dk_at dksL_law_46 4 rfl rfl)
theorem dL_law_1256 : decode cL_law 1256 = .ok (.iaload, 1) := dk_46 (dk_at dksL_law_46 5 rfl rfl)
theorem dL_law_1257 : decode cL_law 1257 = .ok (.aload_n 0, 1) := dk_42 (dk_at dksL_law_46 6 rfl rfl)
theorem dL_law_1258 : decode cL_law 1258 = .ok (.iload_n 3, 1) := dk_29 (dk_at dksL_law_46 7 rfl rfl)
theorem dL_law_1259 : decode cL_law 1259 = .ok (.iconst 3, 1) := dk_6 (dk_at dksL_law_46 8 rfl rfl)
theorem dL_law_1260 : decode cL_law 1260 = .ok (.iadd, 1) := dk_96 (dk_at dksL_law_46 9 rfl rfl)
theorem dL_law_1261 : decode cL_law 1261 = .ok (.iaload, 1) := dk_46 (dk_at dksL_law_46 10 rfl rfl)
theorem dL_law_1262 : decode cL_law 1262 = .ok (.invokevirtual 167, 3) := dk_182 0 167 (dk_at dksL_law_46 11 rfl rfl)
theorem dL_law_1265 : decode cL_law 1265 = .ok (.if_icmp .eq 199, 3) := dk_159 0 199 (dk_at dksL_law_46 14 rfl rfl)
theorem dL_law_1268 : decode cL_law 1268 = .ok (.iconst 0, 1) := dk_3 (dk_at dksL_law_46 17 rfl rfl)
theorem dL_law_1269 : decode cL_law 1269 = .ok (.ireturn, 1) := dk_172 (dk_at dksL_law_46 18 rfl rfl)
theorem dL_law_1270 : decode cL_law 1270 = .ok (.aload_n 1, 1) := dk_43 (dk_at dksL_law_46 19 rfl rfl)
theorem dL_law_1271 : decode cL_law 1271 = .ok (.aload_n 0, 1) := dk_42 (dk_at dksL_law_46 20 rfl rfl)
theorem dL_law_1272 : decode cL_law 1272 = .ok (.iload_n 3, 1) := dk_29 (dk_at dksL_law_46 21 rfl rfl)
theorem dL_law_1273 : decode cL_law 1273 = .ok (.iconst 1, 1) := dk_4 (dk_at dksL_law_46 22 rfl rfl)
theorem dL_law_1274 : decode cL_law 1274 = .ok (.iadd, 1) := dk_96 (dk_at dksL_law_46 23 rfl rfl)
theorem dL_law_1275 : decode cL_law 1275 = .ok (.iaload, 1) := dk_46 (dk_at dksL_law_47 0 rfl rfl)
theorem dL_law_1276 : decode cL_law 1276 = .ok (.aload_n 0, 1) := dk_42 (dk_at dksL_law_47 1 rfl rfl)
theorem dL_law_1277 : decode cL_law 1277 = .ok (.iload_n 3, 1) := dk_29 (dk_at dksL_law_47 2 rfl rfl)
theorem dL_law_1278 : decode cL_law 1278 = .ok (.iconst 2, 1) := dk_5 (dk_at dksL_law_47 3 rfl rfl)
theorem dL_law_1279 : decode cL_law 1279 = .ok (.iadd, 1) := dk_96 (dk_at dksL_law_47 4 rfl rfl)
theorem dL_law_1280 : decode cL_law 1280 = .ok (.iaload, 1) := dk_46 (dk_at dksL_law_47 5 rfl rfl)
theorem dL_law_1281 : decode cL_law 1281 = .ok (.invokevirtual 168, 3) := dk_182 0 168 (dk_at dksL_law_47 6 rfl rfl)
theorem dL_law_1284 : decode cL_law 1284 = .ok (.aload_n 2, 1) := dk_44 (dk_at dksL_law_47 9 rfl rfl)
theorem dL_law_1285 : decode cL_law 1285 = .ok (.aload_n 0, 1) := dk_42 (dk_at dksL_law_47 10 rfl rfl)
theorem dL_law_1286 : decode cL_law 1286 = .ok (.iload_n 3, 1) := dk_29 (dk_at dksL_law_47 11 rfl rfl)
theorem dL_law_1287 : decode cL_law 1287 = .ok (.iconst 1, 1) := dk_4 (dk_at dksL_law_47 12 rfl rfl)
theorem dL_law_1288 : decode cL_law 1288 = .ok (.iadd, 1) := dk_96 (dk_at dksL_law_47 13 rfl rfl)
theorem dL_law_1289 : decode cL_law 1289 = .ok (.iaload, 1) := dk_46 (dk_at dksL_law_47 14 rfl rfl)
theorem dL_law_1290 : decode cL_law 1290 = .ok (.aload_n 0, 1) := dk_42 (dk_at dksL_law_47 15 rfl rfl)
theorem dL_law_1291 : decode cL_law 1291 = .ok (.iload_n 3, 1) := dk_29 (dk_at dksL_law_47 16 rfl rfl)
theorem dL_law_1292 : decode cL_law 1292 = .ok (.iconst 2, 1) := dk_5 (dk_at dksL_law_47 17 rfl rfl)
theorem dL_law_1293 : decode cL_law 1293 = .ok (.iadd, 1) := dk_96 (dk_at dksL_law_47 18 rfl rfl)
theorem dL_law_1294 : decode cL_law 1294 = .ok (.iaload, 1) := dk_46 (dk_at dksL_law_47 19 rfl rfl)
theorem dL_law_1295 : decode cL_law 1295 = .ok (.invokevirtual 171, 3) := dk_182 0 171 (dk_at dksL_law_47 20 rfl rfl)
theorem dL_law_1298 : decode cL_law 1298 = .ok (.if_icmp .eq 166, 3) := dk_159 0 166 (dk_at dksL_law_48 0 rfl rfl)
theorem dL_law_1301 : decode cL_law 1301 = .ok (.iconst 0, 1) := dk_3 (dk_at dksL_law_48 3 rfl rfl)
theorem dL_law_1302 : decode cL_law 1302 = .ok (.ireturn, 1) := dk_172 (dk_at dksL_law_48 4 rfl rfl)
theorem dL_law_1303 : decode cL_law 1303 = .ok (.aload_n 1, 1) := dk_43 (dk_at dksL_law_48 5 rfl rfl)
theorem dL_law_1304 : decode cL_law 1304 = .ok (.aload_n 0, 1) := dk_42 (dk_at dksL_law_48 6 rfl rfl)
theorem dL_law_1305 : decode cL_law 1305 = .ok (.iload_n 3, 1) := dk_29 (dk_at dksL_law_48 7 rfl rfl)
theorem dL_law_1306 : decode cL_law 1306 = .ok (.iconst 1, 1) := dk_4 (dk_at dksL_law_48 8 rfl rfl)
theorem dL_law_1307 : decode cL_law 1307 = .ok (.iadd, 1) := dk_96 (dk_at dksL_law_48 9 rfl rfl)
theorem dL_law_1308 : decode cL_law 1308 = .ok (.iaload, 1) := dk_46 (dk_at dksL_law_48 10 rfl rfl)
theorem dL_law_1309 : decode cL_law 1309 = .ok (.aload_n 0, 1) := dk_42 (dk_at dksL_law_48 11 rfl rfl)
theorem dL_law_1310 : decode cL_law 1310 = .ok (.iload_n 3, 1) := dk_29 (dk_at dksL_law_48 12 rfl rfl)
theorem dL_law_1311 : decode cL_law 1311 = .ok (.iconst 2, 1) := dk_5 (dk_at dksL_law_48 13 rfl rfl)
theorem dL_law_1312 : decode cL_law 1312 = .ok (.iadd, 1) := dk_96 (dk_at dksL_law_48 14 rfl rfl)
theorem dL_law_1313 : decode cL_law 1313 = .ok (.iaload, 1) := dk_46 (dk_at dksL_law_48 15 rfl rfl)
theorem dL_law_1314 : decode cL_law 1314 = .ok (.invokevirtual 172, 3) := dk_182 0 172 (dk_at dksL_law_48 16 rfl rfl)
theorem dL_law_1317 : decode cL_law 1317 = .ok (.aload_n 2, 1) := dk_44 (dk_at dksL_law_48 19 rfl rfl)
theorem dL_law_1318 : decode cL_law 1318 = .ok (.aload_n 0, 1) := dk_42 (dk_at dksL_law_48 20 rfl rfl)
theorem dL_law_1319 : decode cL_law 1319 = .ok (.iload_n 3, 1) := dk_29 (dk_at dksL_law_48 21 rfl rfl)
theorem dL_law_1320 : decode cL_law 1320 = .ok (.iconst 1, 1) := dk_4 (dk_at dksL_law_48 22 rfl rfl)
theorem dL_law_1321 : decode cL_law 1321 = .ok (.iadd, 1) := dk_96 (dk_at dksL_law_48 23 rfl rfl)
theorem dL_law_1322 : decode cL_law 1322 = .ok (.iaload, 1) := dk_46 (dk_at dksL_law_49 0 rfl rfl)
theorem dL_law_1323 : decode cL_law 1323 = .ok (.aload_n 0, 1) := dk_42 (dk_at dksL_law_49 1 rfl rfl)
theorem dL_law_1324 : decode cL_law 1324 = .ok (.iload_n 3, 1) := dk_29 (dk_at dksL_law_49 2 rfl rfl)
theorem dL_law_1325 : decode cL_law 1325 = .ok (.iconst 2, 1) := dk_5 (dk_at dksL_law_49 3 rfl rfl)
theorem dL_law_1326 : decode cL_law 1326 = .ok (.iadd, 1) := dk_96 (dk_at dksL_law_49 4 rfl rfl)
theorem dL_law_1327 : decode cL_law 1327 = .ok (.iaload, 1) := dk_46 (dk_at dksL_law_49 5 rfl rfl)
theorem dL_law_1328 : decode cL_law 1328 = .ok (.invokevirtual 175, 3) := dk_182 0 175 (dk_at dksL_law_49 6 rfl rfl)
theorem dL_law_1331 : decode cL_law 1331 = .ok (.if_icmp .eq 133, 3) := dk_159 0 133 (dk_at dksL_law_49 9 rfl rfl)
theorem dL_law_1334 : decode cL_law 1334 = .ok (.iconst 0, 1) := dk_3 (dk_at dksL_law_49 12 rfl rfl)
theorem dL_law_1335 : decode cL_law 1335 = .ok (.ireturn, 1) := dk_172 (dk_at dksL_law_49 13 rfl rfl)
theorem dL_law_1336 : decode cL_law 1336 = .ok (.aload_n 1, 1) := dk_43 (dk_at dksL_law_49 14 rfl rfl)
theorem dL_law_1337 : decode cL_law 1337 = .ok (.aload_n 0, 1) := dk_42 (dk_at dksL_law_49 15 rfl rfl)
theorem dL_law_1338 : decode cL_law 1338 = .ok (.iload_n 3, 1) := dk_29 (dk_at dksL_law_49 16 rfl rfl)
theorem dL_law_1339 : decode cL_law 1339 = .ok (.iconst 1, 1) := dk_4 (dk_at dksL_law_49 17 rfl rfl)
theorem dL_law_1340 : decode cL_law 1340 = .ok (.iadd, 1) := dk_96 (dk_at dksL_law_49 18 rfl rfl)
theorem dL_law_1341 : decode cL_law 1341 = .ok (.iaload, 1) := dk_46 (dk_at dksL_law_49 19 rfl rfl)
theorem dL_law_1342 : decode cL_law 1342 = .ok (.aload_n 0, 1) := dk_42 (dk_at dksL_law_49 20 rfl rfl)
theorem dL_law_1343 : decode cL_law 1343 = .ok (.iload_n 3, 1) := dk_29 (dk_at dksL_law_49 21 rfl rfl)
theorem dL_law_1344 : decode cL_law 1344 = .ok (.iconst 2, 1) := dk_5 (dk_at dksL_law_49 22 rfl rfl)
theorem dL_law_1345 : decode cL_law 1345 = .ok (.iadd, 1) := dk_96 (dk_at dksL_law_49 23 rfl rfl)
theorem dL_law_1346 : decode cL_law 1346 = .ok (.iaload, 1) := dk_46 (dk_at dksL_law_50 0 rfl rfl)
theorem dL_law_1347 : decode cL_law 1347 = .ok (.invokevirtual 176, 3) := dk_182 0 176 (dk_at dksL_law_50 1 rfl rfl)
theorem dL_law_1350 : decode cL_law 1350 = .ok (.aload_n 2, 1) := dk_44 (dk_at dksL_law_50 4 rfl rfl)
theorem dL_law_1351 : decode cL_law 1351 = .ok (.aload_n 0, 1) := dk_42 (dk_at dksL_law_50 5 rfl rfl)
theorem dL_law_1352 : decode cL_law 1352 = .ok (.iload_n 3, 1) := dk_29 (dk_at dksL_law_50 6 rfl rfl)
theorem dL_law_1353 : decode cL_law 1353 = .ok (.iconst 1, 1) := dk_4 (dk_at dksL_law_50 7 rfl rfl)
theorem dL_law_1354 : decode cL_law 1354 = .ok (.iadd, 1) := dk_96 (dk_at dksL_law_50 8 rfl rfl)
theorem dL_law_1355 : decode cL_law 1355 = .ok (.iaload, 1) := dk_46 (dk_at dksL_law_50 9 rfl rfl)
theorem dL_law_1356 : decode cL_law 1356 = .ok (.aload_n 0, 1) := dk_42 (dk_at dksL_law_50 10 rfl rfl)
theorem dL_law_1357 : decode cL_law 1357 = .ok (.iload_n 3, 1) := dk_29 (dk_at dksL_law_50 11 rfl rfl)
theorem dL_law_1358 : decode cL_law 1358 = .ok (.iconst 2, 1) := dk_5 (dk_at dksL_law_50 12 rfl rfl)
theorem dL_law_1359 : decode cL_law 1359 = .ok (.iadd, 1) := dk_96 (dk_at dksL_law_50 13 rfl rfl)
theorem dL_law_1360 : decode cL_law 1360 = .ok (.iaload, 1) := dk_46 (dk_at dksL_law_50 14 rfl rfl)
theorem dL_law_1361 : decode cL_law 1361 = .ok (.invokevirtual 179, 3) := dk_182 0 179 (dk_at dksL_law_50 15 rfl rfl)
theorem dL_law_1364 : decode cL_law 1364 = .ok (.if_icmp .eq 100, 3) := dk_159 0 100 (dk_at dksL_law_50 18 rfl rfl)
theorem dL_law_1367 : decode cL_law 1367 = .ok (.iconst 0, 1) := dk_3 (dk_at dksL_law_50 21 rfl rfl)
theorem dL_law_1368 : decode cL_law 1368 = .ok (.ireturn, 1) := dk_172 (dk_at dksL_law_50 22 rfl rfl)
theorem dL_law_1369 : decode cL_law 1369 = .ok (.aload_n 1, 1) := dk_43 (dk_at dksL_law_50 23 rfl rfl)
theorem dL_law_1370 : decode cL_law 1370 = .ok (.aload_n 0, 1) := dk_42 (dk_at dksL_law_51 0 rfl rfl)
theorem dL_law_1371 : decode cL_law 1371 = .ok (.iload_n 3, 1) := dk_29 (dk_at dksL_law_51 1 rfl rfl)
theorem dL_law_1372 : decode cL_law 1372 = .ok (.iconst 1, 1) := dk_4 (dk_at dksL_law_51 2 rfl rfl)
theorem dL_law_1373 : decode cL_law 1373 = .ok (.iadd, 1) := dk_96 (dk_at dksL_law_51 3 rfl rfl)
theorem dL_law_1374 : decode cL_law 1374 = .ok (.iaload, 1) := dk_46 (dk_at dksL_law_51 4 rfl rfl)
theorem dL_law_1375 : decode cL_law 1375 = .ok (.invokevirtual 180, 3) := dk_182 0 180 (dk_at dksL_law_51 5 rfl rfl)
theorem dL_law_1378 : decode cL_law 1378 = .ok (.aload_n 2, 1) := dk_44 (dk_at dksL_law_51 8 rfl rfl)
theorem dL_law_1379 : decode cL_law 1379 = .ok (.aload_n 0, 1) := dk_42 (dk_at dksL_law_51 9 rfl rfl)
theorem dL_law_1380 : decode cL_law 1380 = .ok (.iload_n 3, 1) := dk_29 (dk_at dksL_law_51 10 rfl rfl)
theorem dL_law_1381 : decode cL_law 1381 = .ok (.iconst 1, 1) := dk_4 (dk_at dksL_law_51 11 rfl rfl)
theorem dL_law_1382 : decode cL_law 1382 = .ok (.iadd, 1) := dk_96 (dk_at dksL_law_51 12 rfl rfl)
theorem dL_law_1383 : decode cL_law 1383 = .ok (.iaload, 1) := dk_46 (dk_at dksL_law_51 13 rfl rfl)
theorem dL_law_1384 : decode cL_law 1384 = .ok (.invokevirtual 183, 3) := dk_182 0 183 (dk_at dksL_law_51 14 rfl rfl)
theorem dL_law_1387 : decode cL_law 1387 = .ok (.if_icmp .eq 77, 3) := dk_159 0 77 (dk_at dksL_law_51 17 rfl rfl)
theorem dL_law_1390 : decode cL_law 1390 = .ok (.iconst 0, 1) := dk_3 (dk_at dksL_law_51 20 rfl rfl)
theorem dL_law_1391 : decode cL_law 1391 = .ok (.ireturn, 1) := dk_172 (dk_at dksL_law_51 21 rfl rfl)
theorem dL_law_1392 : decode cL_law 1392 = .ok (.aload_n 1, 1) := dk_43 (dk_at dksL_law_51 22 rfl rfl)
theorem dL_law_1393 : decode cL_law 1393 = .ok (.aload_n 0, 1) := dk_42 (dk_at dksL_law_51 23 rfl rfl)
theorem dL_law_1394 : decode cL_law 1394 = .ok (.iload_n 3, 1) := dk_29 (dk_at dksL_law_52 0 rfl rfl)
theorem dL_law_1395 : decode cL_law 1395 = .ok (.iconst 1, 1) := dk_4 (dk_at dksL_law_52 1 rfl rfl)
theorem dL_law_1396 : decode cL_law 1396 = .ok (.iadd, 1) := dk_96 (dk_at dksL_law_52 2 rfl rfl)
theorem dL_law_1397 : decode cL_law 1397 = .ok (.iaload, 1) := dk_46 (dk_at dksL_law_52 3 rfl rfl)
theorem dL_law_1398 : decode cL_law 1398 = .ok (.invokevirtual 184, 3) := dk_182 0 184 (dk_at dksL_law_52 4 rfl rfl)
theorem dL_law_1401 : decode cL_law 1401 = .ok (.aload_n 2, 1) := dk_44 (dk_at dksL_law_52 7 rfl rfl)
theorem dL_law_1402 : decode cL_law 1402 = .ok (.aload_n 0, 1) := dk_42 (dk_at dksL_law_52 8 rfl rfl)
theorem dL_law_1403 : decode cL_law 1403 = .ok (.iload_n 3, 1) := dk_29 (dk_at dksL_law_52 9 rfl rfl)
theorem dL_law_1404 : decode cL_law 1404 = .ok (.iconst 1, 1) := dk_4 (dk_at dksL_law_52 10 rfl rfl)
theorem dL_law_1405 : decode cL_law 1405 = .ok (.iadd, 1) := dk_96 (dk_at dksL_law_52 11 rfl rfl)
theorem dL_law_1406 : decode cL_law 1406 = .ok (.iaload, 1) := dk_46 (dk_at dksL_law_52 12 rfl rfl)
theorem dL_law_1407 : decode cL_law 1407 = .ok (.invokevirtual 187, 3) := dk_182 0 187 (dk_at dksL_law_52 13 rfl rfl)
theorem dL_law_1410 : decode cL_law 1410 = .ok (.if_icmp .eq 54, 3) := dk_159 0 54 (dk_at dksL_law_52 16 rfl rfl)
theorem dL_law_1413 : decode cL_law 1413 = .ok (.iconst 0, 1) := dk_3 (dk_at dksL_law_52 19 rfl rfl)
theorem dL_law_1414 : decode cL_law 1414 = .ok (.ireturn, 1) := dk_172 (dk_at dksL_law_52 20 rfl rfl)
theorem dL_law_1415 : decode cL_law 1415 = .ok (.aload_n 1, 1) := dk_43 (dk_at dksL_law_52 21 rfl rfl)
theorem dL_law_1416 : decode cL_law 1416 = .ok (.invokevirtual 188, 3) := dk_182 0 188 (dk_at dksL_law_53 0 rfl rfl)
theorem dL_law_1419 : decode cL_law 1419 = .ok (.aload_n 2, 1) := dk_44 (dk_at dksL_law_53 3 rfl rfl)
theorem dL_law_1420 : decode cL_law 1420 = .ok (.invokevirtual 191, 3) := dk_182 0 191 (dk_at dksL_law_53 4 rfl rfl)
theorem dL_law_1423 : decode cL_law 1423 = .ok (.if_icmp .eq 41, 3) := dk_159 0 41 (dk_at dksL_law_53 7 rfl rfl)
theorem dL_law_1426 : decode cL_law 1426 = .ok (.iconst 0, 1) := dk_3 (dk_at dksL_law_53 10 rfl rfl)
theorem dL_law_1427 : decode cL_law 1427 = .ok (.ireturn, 1) := dk_172 (dk_at dksL_law_53 11 rfl rfl)
theorem dL_law_1428 : decode cL_law 1428 = .ok (.aload_n 1, 1) := dk_43 (dk_at dksL_law_53 12 rfl rfl)
theorem dL_law_1429 : decode cL_law 1429 = .ok (.invokevirtual 192, 3) := dk_182 0 192 (dk_at dksL_law_53 13 rfl rfl)
theorem dL_law_1432 : decode cL_law 1432 = .ok (.aload_n 2, 1) := dk_44 (dk_at dksL_law_53 16 rfl rfl)
theorem dL_law_1433 : decode cL_law 1433 = .ok (.invokevirtual 195, 3) := dk_182 0 195 (dk_at dksL_law_53 17 rfl rfl)
theorem dL_law_1436 : decode cL_law 1436 = .ok (.if_icmp .eq 28, 3) := dk_159 0 28 (dk_at dksL_law_53 20 rfl rfl)
theorem dL_law_1439 : decode cL_law 1439 = .ok (.iconst 0, 1) := dk_3 (dk_at dksL_law_53 23 rfl rfl)
theorem dL_law_1440 : decode cL_law 1440 = .ok (.ireturn, 1) := dk_172 (dk_at dksL_law_54 0 rfl rfl)
theorem dL_law_1441 : decode cL_law 1441 = .ok (.aload_n 1, 1) := dk_43 (dk_at dksL_law_54 1 rfl rfl)
theorem dL_law_1442 : decode cL_law 1442 = .ok (.aload_n 0, 1) := dk_42 (dk_at dksL_law_54 2 rfl rfl)
theorem dL_law_1443 : decode cL_law 1443 = .ok (.iload_n 3, 1) := dk_29 (dk_at dksL_law_54 3 rfl rfl)
theorem dL_law_1444 : decode cL_law 1444 = .ok (.iconst 1, 1) := dk_4 (dk_at dksL_law_54 4 rfl rfl)
theorem dL_law_1445 : decode cL_law 1445 = .ok (.iadd, 1) := dk_96 (dk_at dksL_law_54 5 rfl rfl)
theorem dL_law_1446 : decode cL_law 1446 = .ok (.iaload, 1) := dk_46 (dk_at dksL_law_54 6 rfl rfl)
theorem dL_law_1447 : decode cL_law 1447 = .ok (.invokevirtual 196, 3) := dk_182 0 196 (dk_at dksL_law_54 7 rfl rfl)
theorem dL_law_1450 : decode cL_law 1450 = .ok (.aload_n 2, 1) := dk_44 (dk_at dksL_law_54 10 rfl rfl)
theorem dL_law_1451 : decode cL_law 1451 = .ok (.aload_n 0, 1) := dk_42 (dk_at dksL_law_54 11 rfl rfl)
theorem dL_law_1452 : decode cL_law 1452 = .ok (.iload_n 3, 1) := dk_29 (dk_at dksL_law_54 12 rfl rfl)
theorem dL_law_1453 : decode cL_law 1453 = .ok (.iconst 1, 1) := dk_4 (dk_at dksL_law_54 13 rfl rfl)
theorem dL_law_1454 : decode cL_law 1454 = .ok (.iadd, 1) := dk_96 (dk_at dksL_law_54 14 rfl rfl)
theorem dL_law_1455 : decode cL_law 1455 = .ok (.iaload, 1) := dk_46 (dk_at dksL_law_54 15 rfl rfl)
theorem dL_law_1456 : decode cL_law 1456 = .ok (.invokevirtual 199, 3) := dk_182 0 199 (dk_at dksL_law_54 16 rfl rfl)
theorem dL_law_1459 : decode cL_law 1459 = .ok (.if_icmp .eq 5, 3) := dk_159 0 5 (dk_at dksL_law_54 19 rfl rfl)
theorem dL_law_1462 : decode cL_law 1462 = .ok (.iconst 0, 1) := dk_3 (dk_at dksL_law_54 22 rfl rfl)
theorem dL_law_1463 : decode cL_law 1463 = .ok (.ireturn, 1) := dk_172 (dk_at dksL_law_54 23 rfl rfl)
theorem dL_law_1464 : decode cL_law 1464 = .ok (.iinc 3 6, 3) := dk_132 3 6 (dk_at dksL_law_55 0 rfl rfl)
theorem dL_law_1467 : decode cL_law 1467 = .ok (.goto (-1449), 3) := dk_167 250 87 (dk_at dksL_law_55 3 rfl rfl)
theorem dL_law_1470 : decode cL_law 1470 = .ok (.iconst 1, 1) := dk_4 (dk_at dksL_law_55 6 rfl rfl)
theorem dL_law_1471 : decode cL_law 1471 = .ok (.ireturn, 1) := dk_172 (dk_at dksL_law_55 7 rfl rfl)

theorem q183 : (Jvm.Cond.arrayClass Jvm.ClassFile.FieldType.int) ∈ lw_all := lw_g (lw_at lw_m1 81 rfl) rfl
set_option maxRecDepth 100000
theorem q185 : (Jvm.Cond.arrayOver (Jvm.ClassFile.FieldType.object "KeptLeaves$Leaf")) ∈ lw_tbl := lw_at lw_m1 83 rfl
theorem q187 : (Jvm.Cond.arrayOver (Jvm.ClassFile.FieldType.object "KeptLeaves$Text")) ∈ lw_tbl := lw_at lw_m1 85 rfl
theorem q298 : (Jvm.Cond.arrayClass Jvm.ClassFile.FieldType.byte) ∈ lw_all := lw_g (lw_at lw_m1 196 rfl) rfl
theorem q300 : (Jvm.Cond.arrayOver (Jvm.ClassFile.FieldType.object "KeptLeaves$Sheet")) ∈ lw_tbl := lw_at lw_m1 198 rfl
theorem q311 : (Jvm.Cond.arrayClass Jvm.ClassFile.FieldType.boolean) ∈ lw_all := lw_g (lw_at lw_m1 209 rfl) rfl
theorem q313 : (Jvm.Cond.arrayOver (Jvm.ClassFile.FieldType.object "KeptLeaves$Slot")) ∈ lw_tbl := lw_at lw_m1 211 rfl
theorem q418 : (Jvm.Cond.arrayClass Jvm.ClassFile.FieldType.float) ∈ lw_all := lw_g (lw_at lw_m2 76 rfl) rfl
theorem q1121 : (Jvm.Cond.arrayClass Jvm.ClassFile.FieldType.short) ∈ lw_all := lw_g (lw_at lw_m5 59 rfl) rfl

theorem q102 : (Jvm.Cond.initialized "KeptLeavesLaw") ∈ lw_all := lw_g (lw_at lw_m1 0 rfl) rfl
set_option maxRecDepth 100000
theorem q130 : (Jvm.Cond.classLink "KeptLeavesLaw" (7 : Nat) "KeptLeaves") ∈ lw_all := lw_g (lw_at lw_m1 28 rfl) rfl
theorem q132 : (Jvm.Cond.methodLink "KeptLeavesLaw" (9 : Nat) ({ cls := "KeptLeaves", name := "<init>", desc := "()V" } : Jvm.MethodName)) ∈ lw_all := lw_g (lw_at lw_m1 30 rfl) rfl
theorem q419 : (Jvm.Cond.methodLink "KeptLeavesLaw" (123 : Nat) ({ cls := "KeptLeaves", name := "feed", desc := "(III)I" } : Jvm.MethodName)) ∈ lw_all := lw_g (lw_at lw_m2 77 rfl) rfl
theorem q428 : (Jvm.Cond.methodLink "KeptLeavesLaw" (127 : Nat) ({ cls := "KeptLeaves", name := "trim", desc := "(I)I" } : Jvm.MethodName)) ∈ lw_all := lw_g (lw_at lw_m2 86 rfl) rfl
theorem q436 : (Jvm.Cond.methodLink "KeptLeavesLaw" (131 : Nat) ({ cls := "KeptLeaves", name := "text", desc := "()I" } : Jvm.MethodName)) ∈ lw_all := lw_g (lw_at lw_m2 94 rfl) rfl
theorem q599 : (Jvm.Cond.methodLink "KeptLeavesLaw" (135 : Nat) ({ cls := "KeptLeaves", name := "textTold", desc := "(II)I" } : Jvm.MethodName)) ∈ lw_all := lw_g (lw_at lw_m3 17 rfl) rfl
theorem q603 : (Jvm.Cond.methodLink "KeptLeavesLaw" (139 : Nat) ({ cls := "KeptLeaves", name := "why", desc := "(I)I" } : Jvm.MethodName)) ∈ lw_all := lw_g (lw_at lw_m3 21 rfl) rfl
theorem q615 : (Jvm.Cond.methodLink "KeptLeavesLaw" (13 : Nat) ({ cls := "KeptLeaves", name := "leaf", desc := "(IIII)I" } : Jvm.MethodName)) ∈ lw_all := lw_g (lw_at lw_m3 33 rfl) rfl
theorem q715 : (Jvm.Cond.methodLink "KeptLeavesLaw" (18 : Nat) ({ cls := "KeptLeaves", name := "told", desc := "(II)I" } : Jvm.MethodName)) ∈ lw_all := lw_g (lw_at lw_m3 133 rfl) rfl
theorem q849 : (Jvm.Cond.methodLink "KeptLeavesLaw" (23 : Nat) ({ cls := "KeptLeaves", name := "as", desc := "(II)I" } : Jvm.MethodName)) ∈ lw_all := lw_g (lw_at lw_m4 27 rfl) rfl
theorem q884 : (Jvm.Cond.methodLink "KeptLeavesLaw" (27 : Nat) ({ cls := "KeptLeaves", name := "turns", desc := "(II)I" } : Jvm.MethodName)) ∈ lw_all := lw_g (lw_at lw_m4 62 rfl) rfl
theorem q898 : (Jvm.Cond.methodLink "KeptLeavesLaw" (31 : Nat) ({ cls := "KeptLeaves", name := "set", desc := "(III)I" } : Jvm.MethodName)) ∈ lw_all := lw_g (lw_at lw_m4 76 rfl) rfl
theorem q905 : (Jvm.Cond.methodLink "KeptLeavesLaw" (36 : Nat) ({ cls := "KeptLeaves", name := "leans", desc := "(II)I" } : Jvm.MethodName)) ∈ lw_all := lw_g (lw_at lw_m4 83 rfl) rfl
theorem q909 : (Jvm.Cond.methodLink "KeptLeavesLaw" (40 : Nat) ({ cls := "KeptLeaves", name := "deal", desc := "(I)I" } : Jvm.MethodName)) ∈ lw_all := lw_g (lw_at lw_m4 87 rfl) rfl
theorem q918 : (Jvm.Cond.methodLink "KeptLeavesLaw" (45 : Nat) ({ cls := "KeptLeaves", name := "space", desc := "(I)I" } : Jvm.MethodName)) ∈ lw_all := lw_g (lw_at lw_m4 96 rfl) rfl
theorem q955 : (Jvm.Cond.methodLink "KeptLeavesLaw" (49 : Nat) ({ cls := "KeptLeaves", name := "rule", desc := "(I)I" } : Jvm.MethodName)) ∈ lw_all := lw_g (lw_at lw_m4 133 rfl) rfl
theorem q959 : (Jvm.Cond.methodLink "KeptLeavesLaw" (53 : Nat) ({ cls := "KeptLeaves", name := "care", desc := "(I)I" } : Jvm.MethodName)) ∈ lw_all := lw_g (lw_at lw_m4 137 rfl) rfl
theorem q963 : (Jvm.Cond.methodLink "KeptLeavesLaw" (57 : Nat) ({ cls := "KeptLeaves", name := "want", desc := "(I)I" } : Jvm.MethodName)) ∈ lw_all := lw_g (lw_at lw_m4 141 rfl) rfl
theorem q979 : (Jvm.Cond.methodLink "KeptLeavesLaw" (61 : Nat) ({ cls := "KeptLeaves", name := "next", desc := "()I" } : Jvm.MethodName)) ∈ lw_all := lw_g (lw_at lw_m4 157 rfl) rfl
theorem q983 : (Jvm.Cond.methodLink "KeptLeavesLaw" (66 : Nat) ({ cls := "KeptLeaves", name := "out", desc := "(I)I" } : Jvm.MethodName)) ∈ lw_all := lw_g (lw_at lw_m4 161 rfl) rfl
theorem q987 : (Jvm.Cond.methodLink "KeptLeavesLaw" (70 : Nat) ({ cls := "KeptLeaves", name := "at", desc := "(I)I" } : Jvm.MethodName)) ∈ lw_all := lw_g (lw_at lw_m4 165 rfl) rfl
theorem q991 : (Jvm.Cond.methodLink "KeptLeavesLaw" (74 : Nat) ({ cls := "KeptLeaves", name := "fire", desc := "(I)I" } : Jvm.MethodName)) ∈ lw_all := lw_g (lw_at lw_m4 169 rfl) rfl
theorem q995 : (Jvm.Cond.methodLink "KeptLeavesLaw" (78 : Nat) ({ cls := "KeptLeaves", name := "seed", desc := "(I)I" } : Jvm.MethodName)) ∈ lw_all := lw_g (lw_at lw_m4 173 rfl) rfl
theorem q999 : (Jvm.Cond.methodLink "KeptLeavesLaw" (82 : Nat) ({ cls := "KeptLeaves", name := "plan", desc := "(I)I" } : Jvm.MethodName)) ∈ lw_all := lw_g (lw_at lw_m4 177 rfl) rfl
theorem q1003 : (Jvm.Cond.methodLink "KeptLeavesLaw" (86 : Nat) ({ cls := "KeptLeaves", name := "clear", desc := "()I" } : Jvm.MethodName)) ∈ lw_all := lw_g (lw_at lw_m4 181 rfl) rfl
theorem q1007 : (Jvm.Cond.methodLink "KeptLeavesLaw" (90 : Nat) ({ cls := "KeptLeaves", name := "run", desc := "(I)I" } : Jvm.MethodName)) ∈ lw_all := lw_g (lw_at lw_m4 185 rfl) rfl
theorem q1016 : (Jvm.Cond.methodLink "KeptLeavesLaw" (94 : Nat) ({ cls := "KeptLeaves", name := "would", desc := "()I" } : Jvm.MethodName)) ∈ lw_all := lw_g (lw_at lw_m4 194 rfl) rfl
theorem q1034 : (Jvm.Cond.methodLink "KeptLeavesLaw" (98 : Nat) ({ cls := "KeptLeaves", name := "least", desc := "(I)I" } : Jvm.MethodName)) ∈ lw_all := lw_g (lw_at lw_m4 212 rfl) rfl
theorem q1063 : (Jvm.Cond.methodLink "KeptLeavesLaw" (102 : Nat) ({ cls := "KeptLeaves", name := "hold", desc := "(I)I" } : Jvm.MethodName)) ∈ lw_all := lw_g (lw_at lw_m5 1 rfl) rfl
theorem q1071 : (Jvm.Cond.methodLink "KeptLeavesLaw" (106 : Nat) ({ cls := "KeptLeaves", name := "best", desc := "(I)I" } : Jvm.MethodName)) ∈ lw_all := lw_g (lw_at lw_m5 9 rfl) rfl
theorem q1079 : (Jvm.Cond.methodLink "KeptLeavesLaw" (110 : Nat) ({ cls := "KeptLeaves", name := "price", desc := "(I)I" } : Jvm.MethodName)) ∈ lw_all := lw_g (lw_at lw_m5 17 rfl) rfl
theorem q1083 : (Jvm.Cond.methodLink "KeptLeavesLaw" (114 : Nat) ({ cls := "KeptLeaves", name := "means", desc := "(I)J" } : Jvm.MethodName)) ∈ lw_all := lw_g (lw_at lw_m5 21 rfl) rfl
theorem q1092 : (Jvm.Cond.methodLink "KeptLeavesLaw" (119 : Nat) ({ cls := "KeptLeaves", name := "gap", desc := "(II)I" } : Jvm.MethodName)) ∈ lw_all := lw_g (lw_at lw_m5 30 rfl) rfl
theorem q1096 : (Jvm.Cond.methodLink "KeptLeavesLaw" (143 : Nat) ({ cls := "KeptLeaves", name := "sheet", desc := "(III)I" } : Jvm.MethodName)) ∈ lw_all := lw_g (lw_at lw_m5 34 rfl) rfl
theorem q1122 : (Jvm.Cond.methodLink "KeptLeavesLaw" (147 : Nat) ({ cls := "KeptLeaves", name := "mark", desc := "(III)I" } : Jvm.MethodName)) ∈ lw_all := lw_g (lw_at lw_m5 60 rfl) rfl
theorem q1154 : (Jvm.Cond.methodLink "KeptLeavesLaw" (151 : Nat) ({ cls := "KeptLeaves", name := "pour", desc := "(I)I" } : Jvm.MethodName)) ∈ lw_all := lw_g (lw_at lw_m5 92 rfl) rfl
theorem q1166 : (Jvm.Cond.methodLink "KeptLeavesLaw" (155 : Nat) ({ cls := "KeptLeaves", name := "reads", desc := "(I)I" } : Jvm.MethodName)) ∈ lw_all := lw_g (lw_at lw_m5 104 rfl) rfl
theorem q1170 : (Jvm.Cond.methodLink "KeptLeavesLaw" (159 : Nat) ({ cls := "KeptLeaves", name := "copy", desc := "(IIIII)I" } : Jvm.MethodName)) ∈ lw_all := lw_g (lw_at lw_m5 108 rfl) rfl
theorem q1179 : (Jvm.Cond.methodLink "KeptLeavesLaw" (164 : Nat) ({ cls := "KeptLeaves", name := "lay", desc := "(III)I" } : Jvm.MethodName)) ∈ lw_all := lw_g (lw_at lw_m5 117 rfl) rfl
theorem q1250 : (Jvm.Cond.methodLink "KeptLeavesLaw" (168 : Nat) ({ cls := "KeptLeaves", name := "ask", desc := "(II)I" } : Jvm.MethodName)) ∈ lw_all := lw_g (lw_at lw_m5 188 rfl) rfl
theorem q1282 : (Jvm.Cond.methodLink "KeptLeavesLaw" (172 : Nat) ({ cls := "KeptLeaves", name := "item", desc := "(II)I" } : Jvm.MethodName)) ∈ lw_all := lw_g (lw_at lw_m5 220 rfl) rfl
theorem q1286 : (Jvm.Cond.methodLink "KeptLeavesLaw" (176 : Nat) ({ cls := "KeptLeaves", name := "rest", desc := "(II)I" } : Jvm.MethodName)) ∈ lw_all := lw_g (lw_at lw_m5 224 rfl) rfl
theorem q1290 : (Jvm.Cond.methodLink "KeptLeavesLaw" (180 : Nat) ({ cls := "KeptLeaves", name := "tell", desc := "(I)I" } : Jvm.MethodName)) ∈ lw_all := lw_g (lw_at lw_m5 228 rfl) rfl
theorem q1294 : (Jvm.Cond.methodLink "KeptLeavesLaw" (184 : Nat) ({ cls := "KeptLeaves", name := "check", desc := "(I)I" } : Jvm.MethodName)) ∈ lw_all := lw_g (lw_at lw_m5 232 rfl) rfl
theorem q1316 : (Jvm.Cond.methodLink "KeptLeavesLaw" (188 : Nat) ({ cls := "KeptLeaves", name := "keep", desc := "()I" } : Jvm.MethodName)) ∈ lw_all := lw_g (lw_at lw_m6 14 rfl) rfl
theorem q1320 : (Jvm.Cond.methodLink "KeptLeavesLaw" (192 : Nat) ({ cls := "KeptLeaves", name := "back", desc := "()I" } : Jvm.MethodName)) ∈ lw_all := lw_g (lw_at lw_m6 18 rfl) rfl
theorem q1324 : (Jvm.Cond.methodLink "KeptLeavesLaw" (196 : Nat) ({ cls := "KeptLeaves", name := "count", desc := "(I)I" } : Jvm.MethodName)) ∈ lw_all := lw_g (lw_at lw_m6 22 rfl) rfl
theorem q1332 : (Jvm.Cond.classLink "KeptLeavesLaw" (10 : Nat) "KeptLeavesModel") ∈ lw_all := lw_g (lw_at lw_m6 30 rfl) rfl
theorem q1334 : (Jvm.Cond.methodLink "KeptLeavesLaw" (12 : Nat) ({ cls := "KeptLeavesModel", name := "<init>", desc := "()V" } : Jvm.MethodName)) ∈ lw_all := lw_g (lw_at lw_m6 32 rfl) rfl
theorem q1453 : (Jvm.Cond.methodLink "KeptLeavesLaw" (17 : Nat) ({ cls := "KeptLeavesModel", name := "leaf", desc := "(IIII)I" } : Jvm.MethodName)) ∈ lw_all := lw_g (lw_at lw_m6 151 rfl) rfl
theorem q1478 : (Jvm.Cond.methodLink "KeptLeavesLaw" (22 : Nat) ({ cls := "KeptLeavesModel", name := "told", desc := "(II)I" } : Jvm.MethodName)) ∈ lw_all := lw_g (lw_at lw_m6 176 rfl) rfl
theorem q1532 : (Jvm.Cond.methodLink "KeptLeavesLaw" (26 : Nat) ({ cls := "KeptLeavesModel", name := "as", desc := "(II)I" } : Jvm.MethodName)) ∈ lw_all := lw_g (lw_at lw_m6 230 rfl) rfl
theorem q1540 : (Jvm.Cond.methodLink "KeptLeavesLaw" (30 : Nat) ({ cls := "KeptLeavesModel", name := "turns", desc := "(II)I" } : Jvm.MethodName)) ∈ lw_all := lw_g (lw_at lw_m6 238 rfl) rfl
theorem q1548 : (Jvm.Cond.methodLink "KeptLeavesLaw" (35 : Nat) ({ cls := "KeptLeavesModel", name := "set", desc := "(III)I" } : Jvm.MethodName)) ∈ lw_all := lw_g (lw_at lw_m7 6 rfl) rfl
theorem q1553 : (Jvm.Cond.methodLink "KeptLeavesLaw" (39 : Nat) ({ cls := "KeptLeavesModel", name := "leans", desc := "(II)I" } : Jvm.MethodName)) ∈ lw_all := lw_g (lw_at lw_m7 11 rfl) rfl
theorem q1557 : (Jvm.Cond.methodLink "KeptLeavesLaw" (44 : Nat) ({ cls := "KeptLeavesModel", name := "deal", desc := "(I)I" } : Jvm.MethodName)) ∈ lw_all := lw_g (lw_at lw_m7 15 rfl) rfl
theorem q1567 : (Jvm.Cond.methodLink "KeptLeavesLaw" (48 : Nat) ({ cls := "KeptLeavesModel", name := "space", desc := "(I)I" } : Jvm.MethodName)) ∈ lw_all := lw_g (lw_at lw_m7 25 rfl) rfl
theorem q1604 : (Jvm.Cond.methodLink "KeptLeavesLaw" (52 : Nat) ({ cls := "KeptLeavesModel", name := "rule", desc := "(I)I" } : Jvm.MethodName)) ∈ lw_all := lw_g (lw_at lw_m7 62 rfl) rfl
theorem q1609 : (Jvm.Cond.methodLink "KeptLeavesLaw" (56 : Nat) ({ cls := "KeptLeavesModel", name := "care", desc := "(I)I" } : Jvm.MethodName)) ∈ lw_all := lw_g (lw_at lw_m7 67 rfl) rfl
theorem q1613 : (Jvm.Cond.methodLink "KeptLeavesLaw" (60 : Nat) ({ cls := "KeptLeavesModel", name := "want", desc := "(I)I" } : Jvm.MethodName)) ∈ lw_all := lw_g (lw_at lw_m7 71 rfl) rfl
theorem q1621 : (Jvm.Cond.methodLink "KeptLeavesLaw" (65 : Nat) ({ cls := "KeptLeavesModel", name := "next", desc := "()I" } : Jvm.MethodName)) ∈ lw_all := lw_g (lw_at lw_m7 79 rfl) rfl
theorem q1625 : (Jvm.Cond.methodLink "KeptLeavesLaw" (69 : Nat) ({ cls := "KeptLeavesModel", name := "out", desc := "(I)I" } : Jvm.MethodName)) ∈ lw_all := lw_g (lw_at lw_m7 83 rfl) rfl
theorem q1629 : (Jvm.Cond.methodLink "KeptLeavesLaw" (73 : Nat) ({ cls := "KeptLeavesModel", name := "at", desc := "(I)I" } : Jvm.MethodName)) ∈ lw_all := lw_g (lw_at lw_m7 87 rfl) rfl
theorem q1633 : (Jvm.Cond.methodLink "KeptLeavesLaw" (77 : Nat) ({ cls := "KeptLeavesModel", name := "fire", desc := "(I)I" } : Jvm.MethodName)) ∈ lw_all := lw_g (lw_at lw_m7 91 rfl) rfl
theorem q1638 : (Jvm.Cond.methodLink "KeptLeavesLaw" (81 : Nat) ({ cls := "KeptLeavesModel", name := "seed", desc := "(I)I" } : Jvm.MethodName)) ∈ lw_all := lw_g (lw_at lw_m7 96 rfl) rfl
theorem q1642 : (Jvm.Cond.methodLink "KeptLeavesLaw" (85 : Nat) ({ cls := "KeptLeavesModel", name := "plan", desc := "(I)I" } : Jvm.MethodName)) ∈ lw_all := lw_g (lw_at lw_m7 100 rfl) rfl
theorem q1646 : (Jvm.Cond.methodLink "KeptLeavesLaw" (89 : Nat) ({ cls := "KeptLeavesModel", name := "clear", desc := "()I" } : Jvm.MethodName)) ∈ lw_all := lw_g (lw_at lw_m7 104 rfl) rfl
theorem q1650 : (Jvm.Cond.methodLink "KeptLeavesLaw" (93 : Nat) ({ cls := "KeptLeavesModel", name := "run", desc := "(I)I" } : Jvm.MethodName)) ∈ lw_all := lw_g (lw_at lw_m7 108 rfl) rfl
theorem q1656 : (Jvm.Cond.methodLink "KeptLeavesLaw" (97 : Nat) ({ cls := "KeptLeavesModel", name := "would", desc := "()I" } : Jvm.MethodName)) ∈ lw_all := lw_g (lw_at lw_m7 114 rfl) rfl
theorem q1668 : (Jvm.Cond.methodLink "KeptLeavesLaw" (101 : Nat) ({ cls := "KeptLeavesModel", name := "least", desc := "(I)I" } : Jvm.MethodName)) ∈ lw_all := lw_g (lw_at lw_m7 126 rfl) rfl
theorem q1689 : (Jvm.Cond.methodLink "KeptLeavesLaw" (105 : Nat) ({ cls := "KeptLeavesModel", name := "hold", desc := "(I)I" } : Jvm.MethodName)) ∈ lw_all := lw_g (lw_at lw_m7 147 rfl) rfl
theorem q1697 : (Jvm.Cond.methodLink "KeptLeavesLaw" (109 : Nat) ({ cls := "KeptLeavesModel", name := "best", desc := "(I)I" } : Jvm.MethodName)) ∈ lw_all := lw_g (lw_at lw_m7 155 rfl) rfl
theorem q1705 : (Jvm.Cond.methodLink "KeptLeavesLaw" (113 : Nat) ({ cls := "KeptLeavesModel", name := "price", desc := "(I)I" } : Jvm.MethodName)) ∈ lw_all := lw_g (lw_at lw_m7 163 rfl) rfl
theorem q1709 : (Jvm.Cond.methodLink "KeptLeavesLaw" (118 : Nat) ({ cls := "KeptLeavesModel", name := "means", desc := "(I)J" } : Jvm.MethodName)) ∈ lw_all := lw_g (lw_at lw_m7 167 rfl) rfl
theorem q1723 : (Jvm.Cond.methodLink "KeptLeavesLaw" (122 : Nat) ({ cls := "KeptLeavesModel", name := "gap", desc := "(II)I" } : Jvm.MethodName)) ∈ lw_all := lw_g (lw_at lw_m7 181 rfl) rfl
theorem q1727 : (Jvm.Cond.methodLink "KeptLeavesLaw" (126 : Nat) ({ cls := "KeptLeavesModel", name := "feed", desc := "(III)I" } : Jvm.MethodName)) ∈ lw_all := lw_g (lw_at lw_m7 185 rfl) rfl
theorem q1731 : (Jvm.Cond.methodLink "KeptLeavesLaw" (130 : Nat) ({ cls := "KeptLeavesModel", name := "trim", desc := "(I)I" } : Jvm.MethodName)) ∈ lw_all := lw_g (lw_at lw_m7 189 rfl) rfl
theorem q1735 : (Jvm.Cond.methodLink "KeptLeavesLaw" (134 : Nat) ({ cls := "KeptLeavesModel", name := "text", desc := "()I" } : Jvm.MethodName)) ∈ lw_all := lw_g (lw_at lw_m7 193 rfl) rfl
theorem q1806 : (Jvm.Cond.methodLink "KeptLeavesLaw" (138 : Nat) ({ cls := "KeptLeavesModel", name := "textTold", desc := "(II)I" } : Jvm.MethodName)) ∈ lw_all := lw_g (lw_at lw_m8 24 rfl) rfl
theorem q1814 : (Jvm.Cond.methodLink "KeptLeavesLaw" (142 : Nat) ({ cls := "KeptLeavesModel", name := "why", desc := "(I)I" } : Jvm.MethodName)) ∈ lw_all := lw_g (lw_at lw_m8 32 rfl) rfl
theorem q1818 : (Jvm.Cond.methodLink "KeptLeavesLaw" (146 : Nat) ({ cls := "KeptLeavesModel", name := "sheet", desc := "(III)I" } : Jvm.MethodName)) ∈ lw_all := lw_g (lw_at lw_m8 36 rfl) rfl
theorem q1827 : (Jvm.Cond.methodLink "KeptLeavesLaw" (150 : Nat) ({ cls := "KeptLeavesModel", name := "mark", desc := "(III)I" } : Jvm.MethodName)) ∈ lw_all := lw_g (lw_at lw_m8 45 rfl) rfl
theorem q1835 : (Jvm.Cond.methodLink "KeptLeavesLaw" (154 : Nat) ({ cls := "KeptLeavesModel", name := "pour", desc := "(I)I" } : Jvm.MethodName)) ∈ lw_all := lw_g (lw_at lw_m8 53 rfl) rfl
theorem q1839 : (Jvm.Cond.methodLink "KeptLeavesLaw" (158 : Nat) ({ cls := "KeptLeavesModel", name := "reads", desc := "(I)I" } : Jvm.MethodName)) ∈ lw_all := lw_g (lw_at lw_m8 57 rfl) rfl
theorem q1843 : (Jvm.Cond.methodLink "KeptLeavesLaw" (163 : Nat) ({ cls := "KeptLeavesModel", name := "copy", desc := "(IIIII)I" } : Jvm.MethodName)) ∈ lw_all := lw_g (lw_at lw_m8 61 rfl) rfl
theorem q1847 : (Jvm.Cond.methodLink "KeptLeavesLaw" (167 : Nat) ({ cls := "KeptLeavesModel", name := "lay", desc := "(III)I" } : Jvm.MethodName)) ∈ lw_all := lw_g (lw_at lw_m8 65 rfl) rfl
theorem q1854 : (Jvm.Cond.methodLink "KeptLeavesLaw" (171 : Nat) ({ cls := "KeptLeavesModel", name := "ask", desc := "(II)I" } : Jvm.MethodName)) ∈ lw_all := lw_g (lw_at lw_m8 72 rfl) rfl
theorem q1858 : (Jvm.Cond.methodLink "KeptLeavesLaw" (175 : Nat) ({ cls := "KeptLeavesModel", name := "item", desc := "(II)I" } : Jvm.MethodName)) ∈ lw_all := lw_g (lw_at lw_m8 76 rfl) rfl
theorem q1862 : (Jvm.Cond.methodLink "KeptLeavesLaw" (179 : Nat) ({ cls := "KeptLeavesModel", name := "rest", desc := "(II)I" } : Jvm.MethodName)) ∈ lw_all := lw_g (lw_at lw_m8 80 rfl) rfl
theorem q1866 : (Jvm.Cond.methodLink "KeptLeavesLaw" (183 : Nat) ({ cls := "KeptLeavesModel", name := "tell", desc := "(I)I" } : Jvm.MethodName)) ∈ lw_all := lw_g (lw_at lw_m8 84 rfl) rfl
theorem q1870 : (Jvm.Cond.methodLink "KeptLeavesLaw" (187 : Nat) ({ cls := "KeptLeavesModel", name := "check", desc := "(I)I" } : Jvm.MethodName)) ∈ lw_all := lw_g (lw_at lw_m8 88 rfl) rfl
theorem q1879 : (Jvm.Cond.methodLink "KeptLeavesLaw" (191 : Nat) ({ cls := "KeptLeavesModel", name := "keep", desc := "()I" } : Jvm.MethodName)) ∈ lw_all := lw_g (lw_at lw_m8 97 rfl) rfl
theorem q1883 : (Jvm.Cond.methodLink "KeptLeavesLaw" (195 : Nat) ({ cls := "KeptLeavesModel", name := "back", desc := "()I" } : Jvm.MethodName)) ∈ lw_all := lw_g (lw_at lw_m8 101 rfl) rfl
theorem q1887 : (Jvm.Cond.methodLink "KeptLeavesLaw" (199 : Nat) ({ cls := "KeptLeavesModel", name := "count", desc := "(I)I" } : Jvm.MethodName)) ∈ lw_all := lw_g (lw_at lw_m8 105 rfl) rfl

theorem q122 : (Jvm.Cond.initialized "java/lang/System") ∈ lw_all := lw_g (lw_at lw_m1 20 rfl) rfl
set_option maxRecDepth 100000
theorem q1032 : (Jvm.Cond.static ({ cls := "java/lang/System", name := "arraycopy", desc := "(Ljava/lang/Object;ILjava/lang/Object;II)V" } : Jvm.MethodName)) ∈ lw_all := lw_g (lw_at lw_m4 210 rfl) rfl
theorem q1033 : (Jvm.Cond.native ({ cls := "java/lang/System", name := "arraycopy", desc := "(Ljava/lang/Object;ILjava/lang/Object;II)V" } : Jvm.MethodName)) ∈ lw_all := lw_g (lw_at lw_m4 211 rfl) rfl

