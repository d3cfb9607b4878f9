set_option maxRecDepth 100000
abbrev cL_law : ByteArray := code
def dkwL_law_49 : List UInt8 := [148, 153, 0, 5, 3, 172, 132, 4, 6, 167, 251, 86, 4, 172]
abbrev dktL_law_49 : List UInt8 := dkwL_law_49 ++ []
def dkwL_law_48 : List UInt8 := [153, 0, 11, 24, 7, 24, 7, 151, 154, 0, 5, 3, 172, 167, 0, 17, 43, 182, 0, 143, 44, 182, 0, 147]
abbrev dktL_law_48 : List UInt8 := dkwL_law_48 ++ dktL_law_49
def dkwL_law_47 : List UInt8 := [182, 0, 138, 57, 5, 44, 182, 0, 142, 57, 7, 24, 5, 24, 7, 151, 153, 0, 21, 24, 5, 24, 5, 151]
abbrev dktL_law_47 : List UInt8 := dkwL_law_47 ++ dktL_law_48
def dkwL_law_46 : List UInt8 := [172, 21, 5, 154, 0, 15, 45, 3, 47, 21, 6, 133, 148, 153, 0, 5, 3, 172, 167, 0, 58, 43]
abbrev dktL_law_46 : List UInt8 := dkwL_law_46 ++ dktL_law_47
def dkwL_law_45 : List UInt8 := [54, 5, 44, 42, 21, 4, 4, 96, 46, 182, 0, 137, 54, 6, 44, 182, 0, 74, 21, 5, 159, 0, 5, 3]
abbrev dktL_law_45 : List UInt8 := dkwL_law_45 ++ dktL_law_46
def dkwL_law_44 : List UInt8 := [182, 0, 131, 44, 182, 0, 134, 159, 0, 116, 3, 172, 43, 42, 21, 4, 4, 96, 46, 45, 184, 0, 135]
abbrev dktL_law_44 : List UInt8 := dkwL_law_44 ++ dktL_law_45
def dkwL_law_43 : List UInt8 := [172, 21, 5, 154, 0, 15, 45, 3, 47, 21, 6, 133, 148, 153, 0, 5, 3, 172, 167, 0, 127, 43]
abbrev dktL_law_43 : List UInt8 := dkwL_law_43 ++ dktL_law_44
def dkwL_law_42 : List UInt8 := [54, 5, 44, 42, 21, 4, 4, 96, 46, 182, 0, 130, 54, 6, 44, 182, 0, 74, 21, 5, 159, 0, 5, 3]
abbrev dktL_law_42 : List UInt8 := dkwL_law_42 ++ dktL_law_43
def dkwL_law_41 : List UInt8 := [21, 6, 133, 148, 153, 0, 5, 3, 172, 167, 0, 183, 43, 42, 21, 4, 4, 96, 46, 45, 184, 0, 128]
abbrev dktL_law_41 : List UInt8 := dkwL_law_41 ++ dktL_law_42
def dkwL_law_40 : List UInt8 := [182, 0, 127, 54, 6, 44, 182, 0, 74, 21, 5, 159, 0, 5, 3, 172, 21, 5, 154, 0, 15, 45, 3, 47]
abbrev dktL_law_40 : List UInt8 := dkwL_law_40 ++ dktL_law_41
def dkwL_law_39 : List UInt8 := [167, 0, 239, 43, 42, 21, 4, 4, 96, 46, 45, 184, 0, 125, 54, 5, 44, 42, 21, 4, 4, 96, 46]
abbrev dktL_law_39 : List UInt8 := dkwL_law_39 ++ dktL_law_40
def dkwL_law_38 : List UInt8 := [159, 0, 5, 3, 172, 21, 5, 154, 0, 15, 45, 3, 47, 21, 6, 133, 148, 153, 0, 5, 3, 172]
abbrev dktL_law_38 : List UInt8 := dkwL_law_38 ++ dktL_law_39
def dkwL_law_37 : List UInt8 := [21, 4, 4, 96, 46, 42, 21, 4, 5, 96, 46, 182, 0, 124, 54, 6, 44, 182, 0, 74, 21, 5]
abbrev dktL_law_37 : List UInt8 := dkwL_law_37 ++ dktL_law_38
def dkwL_law_36 : List UInt8 := [167, 1, 51, 43, 42, 21, 4, 4, 96, 46, 42, 21, 4, 5, 96, 46, 45, 184, 0, 122, 54, 5, 44, 42]
abbrev dktL_law_36 : List UInt8 := dkwL_law_36 ++ dktL_law_37
def dkwL_law_35 : List UInt8 := [21, 5, 159, 0, 5, 3, 172, 21, 5, 154, 0, 15, 45, 3, 47, 21, 6, 133, 148, 153, 0, 5, 3, 172]
abbrev dktL_law_35 : List UInt8 := dkwL_law_35 ++ dktL_law_36
def dkwL_law_34 : List UInt8 := [46, 45, 184, 0, 119, 54, 5, 44, 42, 21, 4, 4, 96, 46, 182, 0, 121, 54, 6, 44, 182, 0, 74]
abbrev dktL_law_34 : List UInt8 := dkwL_law_34 ++ dktL_law_35
def dkwL_law_33 : List UInt8 := [154, 0, 15, 45, 3, 47, 21, 6, 133, 148, 153, 0, 5, 3, 172, 167, 1, 107, 43, 42, 21, 4, 4, 96]
abbrev dktL_law_33 : List UInt8 := dkwL_law_33 ++ dktL_law_34
def dkwL_law_32 : List UInt8 := [42, 21, 4, 5, 96, 46, 182, 0, 118, 54, 6, 44, 182, 0, 74, 21, 5, 159, 0, 5, 3, 172, 21, 5]
abbrev dktL_law_32 : List UInt8 := dkwL_law_32 ++ dktL_law_33
def dkwL_law_31 : List UInt8 := [21, 4, 4, 96, 46, 42, 21, 4, 5, 96, 46, 45, 184, 0, 116, 54, 5, 44, 42, 21, 4, 4, 96, 46]
abbrev dktL_law_31 : List UInt8 := dkwL_law_31 ++ dktL_law_32
def dkwL_law_30 : List UInt8 := [153, 0, 5, 3, 172, 167, 1, 188, 43, 182, 0, 112, 44, 182, 0, 115, 159, 1, 177, 3, 172, 43, 42]
abbrev dktL_law_30 : List UInt8 := dkwL_law_30 ++ dktL_law_31
def dkwL_law_29 : List UInt8 := [159, 0, 5, 3, 172, 21, 5, 154, 0, 22, 45, 3, 47, 21, 6, 153, 0, 7, 10, 167, 0, 4, 9, 148]
abbrev dktL_law_29 : List UInt8 := dkwL_law_29 ++ dktL_law_30
def dkwL_law_28 : List UInt8 := [21, 4, 4, 96, 46, 42, 21, 4, 5, 96, 46, 182, 0, 111, 54, 6, 44, 182, 0, 74, 21, 5]
abbrev dktL_law_28 : List UInt8 := dkwL_law_28 ++ dktL_law_29
def dkwL_law_27 : List UInt8 := [167, 2, 7, 43, 42, 21, 4, 4, 96, 46, 42, 21, 4, 5, 96, 46, 45, 184, 0, 109, 54, 5, 44, 42]
abbrev dktL_law_27 : List UInt8 := dkwL_law_27 ++ dktL_law_28
def dkwL_law_26 : List UInt8 := [21, 5, 159, 0, 5, 3, 172, 21, 5, 154, 0, 15, 45, 3, 47, 21, 6, 133, 148, 153, 0, 5, 3, 172]
abbrev dktL_law_26 : List UInt8 := dkwL_law_26 ++ dktL_law_27
def dkwL_law_25 : List UInt8 := [46, 45, 184, 0, 106, 54, 5, 44, 42, 21, 4, 4, 96, 46, 182, 0, 108, 54, 6, 44, 182, 0, 74]
abbrev dktL_law_25 : List UInt8 := dkwL_law_25 ++ dktL_law_26
def dkwL_law_24 : List UInt8 := [154, 0, 15, 45, 3, 47, 21, 6, 133, 148, 153, 0, 5, 3, 172, 167, 2, 63, 43, 42, 21, 4, 4, 96]
abbrev dktL_law_24 : List UInt8 := dkwL_law_24 ++ dktL_law_25
def dkwL_law_23 : List UInt8 := [21, 4, 4, 96, 46, 182, 0, 105, 54, 6, 44, 182, 0, 74, 21, 5, 159, 0, 5, 3, 172, 21, 5]
abbrev dktL_law_23 : List UInt8 := dkwL_law_23 ++ dktL_law_24
def dkwL_law_22 : List UInt8 := [153, 0, 5, 3, 172, 167, 2, 119, 43, 42, 21, 4, 4, 96, 46, 45, 184, 0, 103, 54, 5, 44, 42]
abbrev dktL_law_22 : List UInt8 := dkwL_law_22 ++ dktL_law_23
def dkwL_law_21 : List UInt8 := [182, 0, 74, 21, 5, 159, 0, 5, 3, 172, 21, 5, 154, 0, 15, 45, 3, 47, 21, 6, 133, 148]
abbrev dktL_law_21 : List UInt8 := dkwL_law_21 ++ dktL_law_22
def dkwL_law_20 : List UInt8 := [184, 0, 100, 54, 5, 44, 42, 21, 4, 4, 96, 46, 42, 21, 4, 5, 96, 46, 182, 0, 102, 54, 6, 44]
abbrev dktL_law_20 : List UInt8 := dkwL_law_20 ++ dktL_law_21
def dkwL_law_19 : List UInt8 := [153, 0, 5, 3, 172, 167, 2, 187, 43, 42, 21, 4, 4, 96, 46, 42, 21, 4, 5, 96, 46, 45]
abbrev dktL_law_19 : List UInt8 := dkwL_law_19 ++ dktL_law_20
def dkwL_law_18 : List UInt8 := [182, 0, 74, 21, 5, 159, 0, 5, 3, 172, 21, 5, 154, 0, 15, 45, 3, 47, 21, 6, 133, 148]
abbrev dktL_law_18 : List UInt8 := dkwL_law_18 ++ dktL_law_19
def dkwL_law_17 : List UInt8 := [184, 0, 97, 54, 5, 44, 42, 21, 4, 4, 96, 46, 42, 21, 4, 5, 96, 46, 182, 0, 99, 54, 6, 44]
abbrev dktL_law_17 : List UInt8 := dkwL_law_17 ++ dktL_law_18
def dkwL_law_16 : List UInt8 := [153, 0, 5, 3, 172, 167, 2, 255, 43, 42, 21, 4, 4, 96, 46, 42, 21, 4, 5, 96, 46, 45]
abbrev dktL_law_16 : List UInt8 := dkwL_law_16 ++ dktL_law_17
def dkwL_law_15 : List UInt8 := [182, 0, 74, 21, 5, 159, 0, 5, 3, 172, 21, 5, 154, 0, 15, 45, 3, 47, 21, 6, 133, 148]
abbrev dktL_law_15 : List UInt8 := dkwL_law_15 ++ dktL_law_16
def dkwL_law_14 : List UInt8 := [184, 0, 93, 54, 5, 44, 42, 21, 4, 4, 96, 46, 42, 21, 4, 5, 96, 46, 182, 0, 96, 54, 6, 44]
abbrev dktL_law_14 : List UInt8 := dkwL_law_14 ++ dktL_law_15
def dkwL_law_13 : List UInt8 := [153, 0, 5, 3, 172, 167, 3, 67, 43, 42, 21, 4, 4, 96, 46, 42, 21, 4, 5, 96, 46, 45]
abbrev dktL_law_13 : List UInt8 := dkwL_law_13 ++ dktL_law_14
def dkwL_law_12 : List UInt8 := [182, 0, 74, 21, 5, 159, 0, 5, 3, 172, 21, 5, 154, 0, 15, 45, 3, 47, 21, 6, 133, 148]
abbrev dktL_law_12 : List UInt8 := dkwL_law_12 ++ dktL_law_13
def dkwL_law_11 : List UInt8 := [21, 4, 4, 96, 46, 45, 184, 0, 90, 54, 5, 44, 42, 21, 4, 4, 96, 46, 182, 0, 92, 54, 6, 44]
abbrev dktL_law_11 : List UInt8 := dkwL_law_11 ++ dktL_law_12
def dkwL_law_10 : List UInt8 := [182, 0, 85, 159, 3, 138, 3, 172, 43, 182, 0, 86, 44, 182, 0, 89, 159, 3, 125, 3, 172, 43, 42]
abbrev dktL_law_10 : List UInt8 := dkwL_law_10 ++ dktL_law_11
def dkwL_law_9 : List UInt8 := [154, 0, 15, 45, 3, 47, 21, 6, 133, 148, 153, 0, 5, 3, 172, 167, 3, 149, 43, 182, 0, 82, 44]
abbrev dktL_law_9 : List UInt8 := dkwL_law_9 ++ dktL_law_10
def dkwL_law_8 : List UInt8 := [21, 4, 4, 96, 46, 182, 0, 81, 54, 6, 44, 182, 0, 74, 21, 5, 159, 0, 5, 3, 172, 21, 5]
abbrev dktL_law_8 : List UInt8 := dkwL_law_8 ++ dktL_law_9
def dkwL_law_7 : List UInt8 := [148, 153, 0, 5, 3, 172, 167, 3, 205, 43, 42, 21, 4, 4, 96, 46, 45, 184, 0, 78, 54, 5, 44, 42]
abbrev dktL_law_7 : List UInt8 := dkwL_law_7 ++ dktL_law_8
def dkwL_law_6 : List UInt8 := [54, 6, 44, 182, 0, 74, 21, 5, 159, 0, 5, 3, 172, 21, 5, 154, 0, 15, 45, 3, 47, 21, 6, 133]
abbrev dktL_law_6 : List UInt8 := dkwL_law_6 ++ dktL_law_7
def dkwL_law_5 : List UInt8 := [96, 46, 42, 21, 4, 6, 96, 46, 42, 21, 4, 7, 96, 46, 42, 21, 4, 8, 96, 46, 182, 0, 73]
abbrev dktL_law_5 : List UInt8 := dkwL_law_5 ++ dktL_law_6
def dkwL_law_4 : List UInt8 := [46, 42, 21, 4, 8, 96, 46, 45, 184, 0, 68, 54, 5, 44, 42, 21, 4, 4, 96, 46, 42, 21, 4, 5]
abbrev dktL_law_4 : List UInt8 := dkwL_law_4 ++ dktL_law_5
def dkwL_law_3 : List UInt8 := [43, 42, 21, 4, 4, 96, 46, 42, 21, 4, 5, 96, 46, 42, 21, 4, 6, 96, 46, 42, 21, 4, 7, 96]
abbrev dktL_law_3 : List UInt8 := dkwL_law_3 ++ dktL_law_4
def dkwL_law_2 : List UInt8 := [170, 0, 0, 0, 0, 0, 4, 150, 0, 0, 0, 0, 0, 0, 0, 20, 0, 0, 0, 100, 0, 0, 0, 204, 0, 0, 1, 4, 0, 0, 1, 17, 0, 0, 1, 30, 0, 0, 1, 86, 0, 0, 1, 154, 0, 0, 1, 222, 0, 0, 2, 34, 0, 0, 2, 90, 0, 0, 2, 146, 0, 0, 2, 221, 0, 0, 2, 234, 0, 0, 3, 46, 0, 0, 3, 102, 0, 0, 3, 170, 0, 0, 3, 226, 0, 0, 4, 26, 0, 0, 4, 39, 0, 0, 4, 95, 0, 0, 4, 136]
abbrev dktL_law_2 : List UInt8 := dkwL_law_2 ++ dktL_law_3
def dkwL_law_1 : List UInt8 := [21, 4, 42, 190, 16, 6, 100, 163, 4, 166, 42, 21, 4, 46, 16, 31, 126]
abbrev dktL_law_1 : List UInt8 := dkwL_law_1 ++ dktL_law_2
def dkwL_law_0 : List UInt8 := [187, 0, 8, 89, 183, 0, 64, 76, 187, 0, 65, 89, 183, 0, 67, 77, 4, 188, 11, 78, 3, 54, 4]
abbrev dktL_law_0 : List UInt8 := dkwL_law_0 ++ dktL_law_1
theorem dksL_law_0 : cL_law.data.toList.drop 0 = dktL_law_0 := by decide +kernel
theorem dksL_law_1 : cL_law.data.toList.drop 23 = dktL_law_1 := dk_seg dksL_law_0 23 rfl rfl
theorem dksL_law_2 : cL_law.data.toList.drop 40 = dktL_law_2 := dk_seg dksL_law_1 17 rfl rfl
theorem dksL_law_3 : cL_law.data.toList.drop 140 = dktL_law_3 := dk_seg dksL_law_2 100 rfl rfl
theorem dksL_law_4 : cL_law.data.toList.drop 164 = dktL_law_4 := dk_seg dksL_law_3 24 rfl rfl
theorem dksL_law_5 : cL_law.data.toList.drop 188 = dktL_law_5 := dk_seg dksL_law_4 24 rfl rfl
theorem dksL_law_6 : cL_law.data.toList.drop 211 = dktL_law_6 := dk_seg dksL_law_5 23 rfl rfl
theorem dksL_law_7 : cL_law.data.toList.drop 235 = dktL_law_7 := dk_seg dksL_law_6 24 rfl rfl
theorem dksL_law_8 : cL_law.data.toList.drop 259 = dktL_law_8 := dk_seg dksL_law_7 24 rfl rfl
theorem dksL_law_9 : cL_law.data.toList.drop 282 = dktL_law_9 := dk_seg dksL_law_8 23 rfl rfl
theorem dksL_law_10 : cL_law.data.toList.drop 305 = dktL_law_10 := dk_seg dksL_law_9 23 rfl rfl
theorem dksL_law_11 : cL_law.data.toList.drop 328 = dktL_law_11 := dk_seg dksL_law_10 23 rfl rfl
theorem dksL_law_12 : cL_law.data.toList.drop 352 = dktL_law_12 := dk_seg dksL_law_11 24 rfl rfl
theorem dksL_law_13 : cL_law.data.toList.drop 374 = dktL_law_13 := dk_seg dksL_law_12 22 rfl rfl
theorem dksL_law_14 : cL_law.data.toList.drop 396 = dktL_law_14 := dk_seg dksL_law_13 22 rfl rfl
theorem dksL_law_15 : cL_law.data.toList.drop 420 = dktL_law_15 := dk_seg dksL_law_14 24 rfl rfl
theorem dksL_law_16 : cL_law.data.toList.drop 442 = dktL_law_16 := dk_seg dksL_law_15 22 rfl rfl
theorem dksL_law_17 : cL_law.data.toList.drop 464 = dktL_law_17 := dk_seg dksL_law_16 22 rfl rfl
theorem dksL_law_18 : cL_law.data.toList.drop 488 = dktL_law_18 := dk_seg dksL_law_17 24 rfl rfl
theorem dksL_law_19 : cL_law.data.toList.drop 510 = dktL_law_19 := dk_seg dksL_law_18 22 rfl rfl
theorem dksL_law_20 : cL_law.data.toList.drop 532 = dktL_law_20 := dk_seg dksL_law_19 22 rfl rfl
theorem dksL_law_21 : cL_law.data.toList.drop 556 = dktL_law_21 := dk_seg dksL_law_20 24 rfl rfl
theorem dksL_law_22 : cL_law.data.toList.drop 578 = dktL_law_22 := dk_seg dksL_law_21 22 rfl rfl
theorem dksL_law_23 : cL_law.data.toList.drop 601 = dktL_law_23 := dk_seg dksL_law_22 23 rfl rfl
theorem dksL_law_24 : cL_law.data.toList.drop 624 = dktL_law_24 := dk_seg dksL_law_23 23 rfl rfl
theorem dksL_law_25 : cL_law.data.toList.drop 648 = dktL_law_25 := dk_seg dksL_law_24 24 rfl rfl
theorem dksL_law_26 : cL_law.data.toList.drop 671 = dktL_law_26 := dk_seg dksL_law_25 23 rfl rfl
theorem dksL_law_27 : cL_law.data.toList.drop 695 = dktL_law_27 := dk_seg dksL_law_26 24 rfl rfl
theorem dksL_law_28 : cL_law.data.toList.drop 719 = dktL_law_28 := dk_seg dksL_law_27 24 rfl rfl
theorem dksL_law_29 : cL_law.data.toList.drop 741 = dktL_law_29 := dk_seg dksL_law_28 22 rfl rfl
theorem dksL_law_30 : cL_law.data.toList.drop 765 = dktL_law_30 := dk_seg dksL_law_29 24 rfl rfl
theorem dksL_law_31 : cL_law.data.toList.drop 788 = dktL_law_31 := dk_seg dksL_law_30 23 rfl rfl
theorem dksL_law_32 : cL_law.data.toList.drop 812 = dktL_law_32 := dk_seg dksL_law_31 24 rfl rfl
theorem dksL_law_33 : cL_law.data.toList.drop 836 = dktL_law_33 := dk_seg dksL_law_32 24 rfl rfl
theorem dksL_law_34 : cL_law.data.toList.drop 860 = dktL_law_34 := dk_seg dksL_law_33 24 rfl rfl
theorem dksL_law_35 : cL_law.data.toList.drop 883 = dktL_law_35 := dk_seg dksL_law_34 23 rfl rfl
theorem dksL_law_36 : cL_law.data.toList.drop 907 = dktL_law_36 := dk_seg dksL_law_35 24 rfl rfl
theorem dksL_law_37 : cL_law.data.toList.drop 931 = dktL_law_37 := dk_seg dksL_law_36 24 rfl rfl
theorem dksL_law_38 : cL_law.data.toList.drop 953 = dktL_law_38 := dk_seg dksL_law_37 22 rfl rfl
theorem dksL_law_39 : cL_law.data.toList.drop 975 = dktL_law_39 := dk_seg dksL_law_38 22 rfl rfl
theorem dksL_law_40 : cL_law.data.toList.drop 998 = dktL_law_40 := dk_seg dksL_law_39 23 rfl rfl
theorem dksL_law_41 : cL_law.data.toList.drop 1022 = dktL_law_41 := dk_seg dksL_law_40 24 rfl rfl
theorem dksL_law_42 : cL_law.data.toList.drop 1045 = dktL_law_42 := dk_seg dksL_law_41 23 rfl rfl
theorem dksL_law_43 : cL_law.data.toList.drop 1069 = dktL_law_43 := dk_seg dksL_law_42 24 rfl rfl
theorem dksL_law_44 : cL_law.data.toList.drop 1091 = dktL_law_44 := dk_seg dksL_law_43 22 rfl rfl
theorem dksL_law_45 : cL_law.data.toList.drop 1114 = dktL_law_45 := dk_seg dksL_law_44 23 rfl rfl
theorem dksL_law_46 : cL_law.data.toList.drop 1138 = dktL_law_46 := dk_seg dksL_law_45 24 rfl rfl
theorem dksL_law_47 : cL_law.data.toList.drop 1160 = dktL_law_47 := dk_seg dksL_law_46 22 rfl rfl
theorem dksL_law_48 : cL_law.data.toList.drop 1184 = dktL_law_48 := dk_seg dksL_law_47 24 rfl rfl
theorem dksL_law_49 : cL_law.data.toList.drop 1208 = dktL_law_49 := dk_seg dksL_law_48 24 rfl rfl
theorem dL_law_0 : decode cL_law 0 = .ok (.new 8, 3) := dk_187 0 8 (dk_at dksL_law_0 0 rfl rfl)
theorem dL_law_3 : decode cL_law 3 = .ok (.dup, 1) := dk_89 (dk_at dksL_law_0 3 rfl rfl)
theorem dL_law_4 : decode cL_law 4 = .ok (.invokespecial 64, 3) := dk_183 0 64 (dk_at dksL_law_0 4 rfl rfl)
theorem dL_law_7 : decode cL_law 7 = .ok (.astore_n 1, 1) := dk_76 (dk_at dksL_law_0 7 rfl rfl)
theorem dL_law_8 : decode cL_law 8 = .ok (.new 65, 3) := dk_187 0 65 (dk_at dksL_law_0 8 rfl rfl)
theorem dL_law_11 : decode cL_law 11 = .ok (.dup, 1) := dk_89 (dk_at dksL_law_0 11 rfl rfl)
theorem dL_law_12 : decode cL_law 12 = .ok (.invokespecial 67, 3) := dk_183 0 67 (dk_at dksL_law_0 12 rfl rfl)
theorem dL_law_15 : decode cL_law 15 = .ok (.astore_n 2, 1) := dk_77 (dk_at dksL_law_0 15 rfl rfl)
theorem dL_law_16 : decode cL_law 16 = .ok (.iconst 1, 1) := dk_4 (dk_at dksL_law_0 16 rfl rfl)
theorem dL_law_17 : decode cL_law 17 = .ok (.newarray .long, 2) := dk_188_11 (dk_at dksL_law_0 17 rfl rfl)
theorem dL_law_19 : decode cL_law 19 = .ok (.astore_n 3, 1) := dk_78 (dk_at dksL_law_0 19 rfl rfl)
theorem dL_law_20 : decode cL_law 20 = .ok (.iconst 0, 1) := dk_3 (dk_at dksL_law_0 20 rfl rfl)
theorem dL_law_21 : decode cL_law 21 = .ok (.istore 4, 2) := dk_54 4 (dk_at dksL_law_0 21 rfl rfl)
theorem dL_law_23 : decode cL_law 23 = .ok (.iload 4, 2) := dk_21 4 (dk_at dksL_law_1 0 rfl rfl)
theorem dL_law_25 : decode cL_law 25 = .ok (.aload_n 0, 1) := dk_42 (dk_at dksL_law_1 2 rfl rfl)
theorem dL_law_26 : decode cL_law 26 = .ok (.arraylength, 1) := dk_190 (dk_at dksL_law_1 3 rfl rfl)
theorem dL_law_27 : decode cL_law 27 = .ok (.bipush 6, 2) := dk_16 6 (dk_at dksL_law_1 4 rfl rfl)
theorem dL_law_29 : decode cL_law 29 = .ok (.isub, 1) := dk_100 (dk_at dksL_law_1 6 rfl rfl)
theorem dL_law_30 : decode cL_law 30 = .ok (.if_icmp .gt 1190, 3) := dk_163 4 166 (dk_at dksL_law_1 7 rfl rfl)
theorem dL_law_33 : decode cL_law 33 = .ok (.aload_n 0, 1) := dk_42 (dk_at dksL_law_1 10 rfl rfl)
theorem dL_law_34 : decode cL_law 34 = .ok (.iload 4, 2) := dk_21 4 (dk_at dksL_law_1 11 rfl rfl)
theorem dL_law_36 : decode cL_law 36 = .ok (.iaload, 1) := dk_46 (dk_at dksL_law_1 13 rfl rfl)
theorem dL_law_37 : decode cL_law 37 = .ok (.bipush 31, 2) := dk_16 31 (dk_at dksL_law_1 14 rfl rfl)
theorem dL_law_39 : decode cL_law 39 = .ok (.iand, 1) := dk_126 (dk_at dksL_law_1 16 rfl rfl)
theorem dL_law_40 : decode cL_law 40 = .ok (.tableswitch 1174 0 20 #[100, 204, 260, 273, 286, 342, 410, 478, 546, 602, 658, 733, 746, 814, 870, 938, 994, 1050, 1063, 1119, 1160], 100) := by decide +kernel
theorem dL_law_140 : decode cL_law 140 = .ok (.aload_n 1, 1) := dk_43 (dk_at dksL_law_3 0 rfl rfl)
theorem dL_law_141 : decode cL_law 141 = .ok (.aload_n 0, 1) := dk_42 (dk_at dksL_law_3 1 rfl rfl)
theorem dL_law_142 : decode cL_law 142 = .ok (.iload 4, 2) := dk_21 4 (dk_at dksL_law_3 2 rfl rfl)
theorem dL_law_144 : decode cL_law 144 = .ok (.iconst 1, 1) := dk_4 (dk_at dksL_law_3 4 rfl rfl)
theorem dL_law_145 : decode cL_law 145 = .ok (.iadd, 1) := dk_96 (dk_at dksL_law_3 5 rfl rfl)
theorem dL_law_146 : decode cL_law 146 = .ok (.iaload, 1) := dk_46 (dk_at dksL_law_3 6 rfl rfl)
theorem dL_law_147 : decode cL_law 147 = .ok (.aload_n 0, 1) := dk_42 (dk_at dksL_law_3 7 rfl rfl)
theorem dL_law_148 : decode cL_law 148 = .ok (.iload 4, 2) := dk_21 4 (dk_at dksL_law_3 8 rfl rfl)
theorem dL_law_150 : decode cL_law 150 = .ok (.iconst 2, 1) := dk_5 (dk_at dksL_law_3 10 rfl rfl)
theorem dL_law_151 : decode cL_law 151 = .ok (.iadd, 1) := dk_96 (dk_at dksL_law_3 11 rfl rfl)
theorem dL_law_152 : decode cL_law 152 = .ok (.iaload, 1) := dk_46 (dk_at dksL_law_3 12 rfl rfl)
theorem dL_law_153 : decode cL_law 153 = .ok (.aload_n 0, 1) := dk_42 (dk_at dksL_law_3 13 rfl rfl)
theorem dL_law_154 : decode cL_law 154 = .ok (.iload 4, 2) := dk_21 4 (dk_at dksL_law_3 14 rfl rfl)
theorem dL_law_156 : decode cL_law 156 = .ok (.iconst 3, 1) := dk_6 (dk_at dksL_law_3 16 rfl rfl)
theorem dL_law_157 : decode cL_law 157 = .ok (.iadd, 1) := dk_96 (dk_at dksL_law_3 17 rfl rfl)
theorem dL_law_158 : decode cL_law 158 = .ok (.iaload, 1) := dk_46 (dk_at dksL_law_3 18 rfl rfl)
theorem dL_law_159 : decode cL_law 159 = .ok (.aload_n 0, 1) := dk_42 (dk_at dksL_law_3 19 rfl rfl)
theorem dL_law_160 : decode cL_law 160 = .ok (.iload 4, 2) := dk_21 4 (dk_at dksL_law_3 20 rfl rfl)
theorem dL_law_162 : decode cL_law 162 = .ok (.iconst 4, 1) := dk_7 (dk_at dksL_law_3 22 rfl rfl)
theorem dL_law_163 : decode cL_law 163 = .ok (.iadd, 1) := dk_96 (dk_at dksL_law_3 23 rfl rfl)
theorem dL_law_164 : decode cL_law 164 = .ok (.iaload, 1) := dk_46 (dk_at dksL_law_4 0 rfl rfl)
theorem dL_law_165 : decode cL_law 165 = .ok (.aload_n 0, 1) := dk_42 (dk_at dksL_law_4 1 rfl rfl)
theorem dL_law_166 : decode cL_law 166 = .ok (.iload 4, 2) := dk_21 4 (dk_at dksL_law_4 2 rfl rfl)
theorem dL_law_168 : decode cL_law 168 = .ok (.iconst 5, 1) := dk_8 (dk_at dksL_law_4 4 rfl rfl)
theorem dL_law_169 : decode cL_law 169 = .ok (.iadd, 1) := dk_96 (dk_at dksL_law_4 5 rfl rfl)
theorem dL_law_170 : decode cL_law 170 = .ok (.iaload, 1) := dk_46 (dk_at dksL_law_4 6 rfl rfl)
theorem dL_law_171 : decode cL_law 171 = .ok (.aload_n 3, 1) := dk_45 (dk_at dksL_law_4 7 rfl rfl)
theorem dL_law_172 : decode cL_law 172 = .ok (.invokestatic 68, 3) := dk_184 0 68 (dk_at dksL_law_4 8 rfl rfl)
theorem dL_law_175 : decode cL_law 175 = .ok (.istore 5, 2) := dk_54 5 (dk_at dksL_law_4 11 rfl rfl)
theorem dL_law_177 : decode cL_law 177 = .ok (.aload_n 2, 1) := dk_44 (dk_at dksL_law_4 13 rfl rfl)
theorem dL_law_178 : decode cL_law 178 = .ok (.aload_n 0, 1) := dk_42 (dk_at dksL_law_4 14 rfl rfl)
theorem dL_law_179 : decode cL_law 179 = .ok (.iload 4, 2) := dk_21 4 (dk_at dksL_law_4 15 rfl rfl)
theorem dL_law_181 : decode cL_law 181 = .ok (.iconst 1, 1) := dk_4 (dk_at dksL_law_4 17 rfl rfl)
theorem dL_law_182 : decode cL_law 182 = .ok (.iadd, 1) := dk_96 (dk_at dksL_law_4 18 rfl rfl)
theorem dL_law_183 : decode cL_law 183 = .ok (.iaload, 1) := dk_46 (dk_at dksL_law_4 19 rfl rfl)
theorem dL_law_184 : decode cL_law 184 = .ok (.aload_n 0, 1) := dk_42 (dk_at dksL_law_4 20 rfl rfl)
theorem dL_law_185 : decode cL_law 185 = .ok (.iload 4, 2) := dk_21 4 (dk_at dksL_law_4 21 rfl rfl)
theorem dL_law_187 : decode cL_law 187 = .ok (.iconst 2, 1) := dk_5 (dk_at dksL_law_4 23 rfl rfl)
theorem dL_law_188 : decode cL_law 188 = .ok (.iadd, 1) := dk_96 (dk_at dksL_law_5 0 rfl rfl)
theorem dL_law_189 : decode cL_law 189 = .ok (.iaload, 1) := dk_46 (dk_at dksL_law_5 1 rfl rfl)
theorem dL_law_190 : decode cL_law 190 = .ok (.aload_n 0, 1) := dk_42 (dk_at dksL_law_5 2 rfl rfl)
theorem dL_law_191 : decode cL_law 191 = .ok (.iload 4, 2) := dk_21 4 (dk_at dksL_law_5 3 rfl rfl)
theorem dL_law_193 : decode cL_law 193 = .ok (.iconst 3, 1) := dk_6 (dk_at dksL_law_5 5 rfl rfl)
theorem dL_law_194 : decode cL_law 194 = .ok (.iadd, 1) := dk_96 (dk_at dksL_law_5 6 rfl rfl)
theorem dL_law_195 : decode cL_law 195 = .ok (.iaload, 1) := dk_46 (dk_at dksL_law_5 7 rfl rfl)
theorem dL_law_196 : decode cL_law 196 = .ok (.aload_n 0, 1) := dk_42 (dk_at dksL_law_5 8 rfl rfl)
theorem dL_law_197 : decode cL_law 197 = .ok (.iload 4, 2) := dk_21 4 (dk_at dksL_law_5 9 rfl rfl)
theorem dL_law_199 : decode cL_law 199 = .ok (.iconst 4, 1) := dk_7 (dk_at dksL_law_5 11 rfl rfl)
theorem dL_law_200 : decode cL_law 200 = .ok (.iadd, 1) := dk_96 (dk_at dksL_law_5 12 rfl rfl)
theorem dL_law_201 : decode cL_law 201 = .ok (.iaload, 1) := dk_46 (dk_at dksL_law_5 13 rfl rfl)
theorem dL_law_202 : decode cL_law 202 = .ok (.aload_n 0, 1) := dk_42 (dk_at dksL_law_5 14 rfl rfl)
theorem dL_law_203 : decode cL_law 203 = .ok (.iload 4, 2) := dk_21 4 (dk_at dksL_law_5 15 rfl rfl)
theorem dL_law_205 : decode cL_law 205 = .ok (.iconst 5, 1) := dk_8 (dk_at dksL_law_5 17 rfl rfl)
theorem dL_law_206 : decode cL_law 206 = .ok (.iadd, 1) := dk_96 (dk_at dksL_law_5 18 rfl rfl)
theorem dL_law_207 : decode cL_law 207 = .ok (.iaload, 1) := dk_46 (dk_at dksL_law_5 19 rfl rfl)
theorem dL_law_208 : decode cL_law 208 = .ok (.invokevirtual 73, 3) := dk_182 0 73 (dk_at dksL_law_5 20 rfl rfl)
theorem dL_law_211 : decode cL_law 211 = .ok (.istore 6, 2) := dk_54 6 (dk_at dksL_law_6 0 rfl rfl)
theorem dL_law_213 : decode cL_law 213 = .ok (.aload_n 2, 1) := dk_44 (dk_at dksL_law_6 2 rfl rfl)
theorem dL_law_214 : decode cL_law 214 = .ok (.invokevirtual 74, 3) := dk_182 0 74 (dk_at dksL_law_6 3 rfl rfl)
theorem dL_law_217 : decode cL_law 217 = .ok (.iload 5, 2) := dk_21 5 (dk_at dksL_law_6 6 rfl rfl)
theorem dL_law_219 : decode cL_law 219 = .ok (.if_icmp .eq 5, 3) := dk_159 0 5 (dk_at dksL_law_6 8 rfl rfl)
theorem dL_law_222 : decode cL_law 222 = .ok (.iconst 0, 1) := dk_3 (dk_at dksL_law_6 11 rfl rfl)
theorem dL_law_223 : decode cL_law 223 = .ok (.ireturn, 1) := dk_172 (dk_at dksL_law_6 12 rfl rfl)
theorem dL_law_224 : decode cL_law 224 = .ok (.iload 5, 2) := dk_21 5 (dk_at dksL_law_6 13 rfl rfl)
theorem dL_law_226 : decode cL_law 226 = .ok (.ifCond .ne 15, 3) := dk_154 0 15 (dk_at dksL_law_6 15 rfl rfl)
theorem dL_law_229 : decode cL_law 229 = .ok (.aload_n 3, 1) := dk_45 (dk_at dksL_law_6 18 rfl rfl)
theorem dL_law_230 : decode cL_law 230 = .ok (.iconst 0, 1) := dk_3 (dk_at dksL_law_6 19 rfl rfl)
theorem dL_law_231 : decode cL_law 231 = .ok (.laload, 1) := dk_47 (dk_at dksL_law_6 20 rfl rfl)
theorem dL_law_232 : decode cL_law 232 = .ok (.iload 6, 2) := dk_21 6 (dk_at dksL_law_6 21 rfl rfl)
theorem dL_law_234 : decode cL_law 234 = .ok (.i2l, 1) := dk_133 (dk_at dksL_law_6 23 rfl rfl)
theorem dL_law_235 : decode cL_law 235 = .ok (.lcmp, 1) := dk_148 (dk_at dksL_law_7 0 rfl rfl)
theorem dL_law_236 : decode cL_law 236 = .ok (.ifCond .eq 5, 3) := dk_153 0 5 (dk_at dksL_law_7 1 rfl rfl)
theorem dL_law_239 : decode cL_law 239 = .ok (.iconst 0, 1) := dk_3 (dk_at dksL_law_7 4 rfl rfl)
theorem dL_law_240 : decode cL_law 240 = .ok (.ireturn, 1) := dk_172 (dk_at dksL_law_7 5 rfl rfl)
theorem dL_law_241 : decode cL_law 241 = .ok (.goto 973, 3) := dk_167 3 205 (dk_at dksL_law_7 6 rfl rfl)
theorem dL_law_244 : decode cL_law 244 = .ok (.aload_n 1, 1) := dk_43 (dk_at dksL_law_7 9 rfl rfl)
theorem dL_law_245 : decode cL_law 245 = .ok (.aload_n 0, 1) := dk_42 (dk_at dksL_law_7 10 rfl rfl)
theorem dL_law_246 : decode cL_law 246 = .ok (.iload 4, 2) := dk_21 4 (dk_at dksL_law_7 11 rfl rfl)
theorem dL_law_248 : decode cL_law 248 = .ok (.iconst 1, 1) := dk_4 (dk_at dksL_law_7 13 rfl rfl)
theorem dL_law_249 : decode cL_law 249 = .ok (.iadd, 1) := dk_96 (dk_at dksL_law_7 14 rfl rfl)
theorem dL_law_250 : decode cL_law 250 = .ok (.iaload, 1) := dk_46 (dk_at dksL_law_7 15 rfl rfl)
theorem dL_law_251 : decode cL_law 251 = .ok (.aload_n 3, 1) := dk_45 (dk_at dksL_law_7 16 rfl rfl)
theorem dL_law_252 : decode cL_law 252 = .ok (.invokestatic 78, 3) := dk_184 0 78 (dk_at dksL_law_7 17 rfl rfl)
theorem dL_law_255 : decode cL_law 255 = .ok (.istore 5, 2) := dk_54 5 (dk_at dksL_law_7 20 rfl rfl)
theorem dL_law_257 : decode cL_law 257 = .ok (.aload_n 2, 1) := dk_44 (dk_at dksL_law_7 22 rfl rfl)
theorem dL_law_258 : decode cL_law 258 = .ok (.aload_n 0, 1) := dk_42 (dk_at dksL_law_7 23 rfl rfl)
theorem dL_law_259 : decode cL_law 259 = .ok (.iload 4, 2) := dk_21 4 (dk_at dksL_law_8 0 rfl rfl)
theorem dL_law_261 : decode cL_law 261 = .ok (.iconst 1, 1) := dk_4 (dk_at dksL_law_8 2 rfl rfl)
theorem dL_law_262 : decode cL_law 262 = .ok (.iadd, 1) := dk_96 (dk_at dksL_law_8 3 rfl rfl)
theorem dL_law_263 : decode cL_law 263 = .ok (.iaload, 1) := dk_46 (dk_at dksL_law_8 4 rfl rfl)
theorem dL_law_264 : decode cL_law 264 = .ok (.invokevirtual 81, 3) := dk_182 0 81 (dk_at dksL_law_8 5 rfl rfl)
theorem dL_law_267 : decode cL_law 267 = .ok (.istore 6, 2) := dk_54 6 (dk_at dksL_law_8 8 rfl rfl)
theorem dL_law_269 : decode cL_law 269 = .ok (.aload_n 2, 1) := dk_44 (dk_at dksL_law_8 10 rfl rfl)
theorem dL_law_270 : decode cL_law 270 = .ok (.invokevirtual 74, 3) := dk_182 0 74 (dk_at dksL_law_8 11 rfl rfl)
theorem dL_law_273 : decode cL_law 273 = .ok (.iload 5, 2) := dk_21 5 (dk_at dksL_law_8 14 rfl rfl)
theorem dL_law_275 : decode cL_law 275 = .ok (.if_icmp .eq 5, 3) := dk_159 0 5 (dk_at dksL_law_8 16 rfl rfl)
theorem dL_law_278 : decode cL_law 278 = .ok (.iconst 0, 1) := dk_3 (dk_at dksL_law_8 19 rfl rfl)
theorem dL_law_279 : decode cL_law 279 = .ok (.ireturn, 1) := dk_172 (dk_at dksL_law_8 20 rfl rfl)
theorem dL_law_280 : decode cL_law 280 = .ok (.iload 5, 2) := dk_21 5 (dk_at dksL_law_8 21 rfl rfl)
theorem dL_law_282 : decode cL_law 282 = .ok (.ifCond .ne 15, 3) := dk_154 0 15 (dk_at dksL_law_9 0 rfl rfl)
theorem dL_law_285 : decode cL_law 285 = .ok (.aload_n 3, 1) := dk_45 (dk_at dksL_law_9 3 rfl rfl)
theorem dL_law_286 : decode cL_law 286 = .ok (.iconst 0, 1) := dk_3 (dk_at dksL_law_9 4 rfl rfl)
theorem dL_law_287 : decode cL_law 287 = .ok (.laload, 1) := dk_47 (dk_at dksL_law_9 5 rfl rfl)
theorem dL_law_288 : decode cL_law 288 = .ok (.iload 6, 2) := dk_21 6 (dk_at dksL_law_9 6 rfl rfl)
theorem dL_law_290 : decode cL_law 290 = .ok (.i2l, 1) := dk_133 (dk_at dksL_law_9 8 rfl rfl)
theorem dL_law_291 : decode cL_law 291 = .ok (.lcmp, 1) := dk_148 (dk_at dksL_law_9 9 rfl rfl)
theorem dL_law_292 : decode cL_law 292 = .ok (.ifCond .eq 5, 3) := dk_153 0 5 (dk_at dksL_law_9 10 rfl rfl)
theorem dL_law_295 : decode cL_law 295 = .ok (.iconst 0, 1) := dk_3 (dk_at dksL_law_9 13 rfl rfl)
theorem dL_law_296 : decode cL_law 296 = .ok (.ireturn, 1) := dk_172 (dk_at dksL_law_9 14 rfl rfl)
theorem dL_law_297 : decode cL_law 297 = .ok (.goto 917, 3) := dk_167 3 149 (dk_at dksL_law_9 15 rfl rfl)
theorem dL_law_300 : decode cL_law 300 = .ok (.aload_n 1, 1) := dk_43 (dk_at dksL_law_9 18 rfl rfl)
theorem dL_law_301 : decode cL_law 301 = .ok (.invokevirtual 82, 3) := dk_182 0 82 (dk_at dksL_law_9 19 rfl rfl)
theorem dL_law_304 : decode cL_law 304 = .ok (.aload_n 2, 1) := dk_44 (dk_at dksL_law_9 22 rfl rfl)
theorem dL_law_305 : decode cL_law 305 = .ok (.invokevirtual 85, 3) := dk_182 0 85 (dk_at dksL_law_10 0 rfl rfl)
theorem dL_law_308 : decode cL_law 308 = .ok (.if_icmp .eq 906, 3) := dk_159 3 138 (dk_at dksL_law_10 3 rfl rfl)
theorem dL_law_311 : decode cL_law 311 = .ok (.iconst 0, 1) := dk_3 (dk_at dksL_law_10 6 rfl rfl)
theorem dL_law_312 : decode cL_law 312 = .ok (.ireturn, 1) := dk_172 (dk_at dksL_law_10 7 rfl rfl)
theorem dL_law_313 : decode cL_law 313 = .ok (.aload_n 1, 1) := dk_43 (dk_at dksL_law_10 8 rfl rfl)
theorem dL_law_314 : decode cL_law 314 = .ok (.invokevirtual 86, 3) := dk_182 0 86 (dk_at dksL_law_10 9 rfl rfl)
theorem dL_law_317 : decode cL_law 317 = .ok (.aload_n 2, 1) := dk_44 (dk_at dksL_law_10 12 rfl rfl)
theorem dL_law_318 : decode cL_law 318 = .ok (.invokevirtual 89, 3) := dk_182 0 89 (dk_at dksL_law_10 13 rfl rfl)
theorem dL_law_321 : decode cL_law 321 = .ok (.if_icmp .eq 893, 3) := dk_159 3 125 (dk_at dksL_law_10 16 rfl rfl)
theorem dL_law_324 : decode cL_law 324 = .ok (.iconst 0, 1) := dk_3 (dk_at dksL_law_10 19 rfl rfl)
theorem dL_law_325 : decode cL_law 325 = .ok (.ireturn, 1) := dk_172 (dk_at dksL_law_10 20 rfl rfl)
theorem dL_law_326 : decode cL_law 326 = .ok (.aload_n 1, 1) := dk_43 (dk_at dksL_law_10 21 rfl rfl)
theorem dL_law_327 : decode cL_law 327 = .ok (.aload_n 0, 1) := dk_42 (dk_at dksL_law_10 22 rfl rfl)
theorem dL_law_328 : decode cL_law 328 = .ok (.iload 4, 2) := dk_21 4 (dk_at dksL_law_11 0 rfl rfl)
theorem dL_law_330 : decode cL_law 330 = .ok (.iconst 1, 1) := dk_4 (dk_at dksL_law_11 2 rfl rfl)
theorem dL_law_331 : decode cL_law 331 = .ok (.iadd, 1) := dk_96 (dk_at dksL_law_11 3 rfl rfl)
theorem dL_law_332 : decode cL_law 332 = .ok (.iaload, 1) := dk_46 (dk_at dksL_law_11 4 rfl rfl)
theorem dL_law_333 : decode cL_law 333 = .ok (.aload_n 3, 1) := dk_45 (dk_at dksL_law_11 5 rfl rfl)
theorem dL_law_334 : decode cL_law 334 = .ok (.invokestatic 90, 3) := dk_184 0 90 (dk_at dksL_law_11 6 rfl rfl)
theorem dL_law_337 : decode cL_law 337 = .ok (.istore 5, 2) := dk_54 5 (dk_at dksL_law_11 9 rfl rfl)
theorem dL_law_339 : decode cL_law 339 = .ok (.aload_n 2, 1) := dk_44 (dk_at dksL_law_11 11 rfl rfl)
theorem dL_law_340 : decode cL_law 340 = .ok (.aload_n 0, 1) := dk_42 (dk_at dksL_law_11 12 rfl rfl)
theorem dL_law_341 : decode cL_law 341 = .ok (.iload 4, 2) := dk_21 4 (dk_at dksL_law_11 13 rfl rfl)
theorem dL_law_343 : decode cL_law 343 = .ok (.iconst 1, 1) := dk_4 (dk_at dksL_law_11 15 rfl rfl)
theorem dL_law_344 : decode cL_law 344 = .ok (.iadd, 1) := dk_96 (dk_at dksL_law_11 16 rfl rfl)
theorem dL_law_345 : decode cL_law 345 = .ok (.iaload, 1) := dk_46 (dk_at dksL_law_11 17 rfl rfl)
theorem dL_law_346 : decode cL_law 346 = .ok (.invokevirtual 92, 3) := dk_182 0 92 (dk_at dksL_law_11 18 rfl rfl)
theorem dL_law_349 : decode cL_law 349 = .ok (.istore 6, 2) := dk_54 6 (dk_at dksL_law_11 21 rfl rfl)
theorem dL_law_351 : decode cL_law 351 = .ok (.aload_n 2, 1) := dk_44 (dk_at dksL_law_11 23 rfl rfl)
theorem dL_law_352 : decode cL_law 352 = .ok (.invokevirtual 74, 3) := dk_182 0 74 (dk_at dksL_law_12 0 rfl rfl)
theorem dL_law_355 : decode cL_law 355 = .ok (.iload 5, 2) := dk_21 5 (dk_at dksL_law_12 3 rfl rfl)
theorem dL_law_357 : decode cL_law 357 = .ok (.if_icmp .eq 5, 3) := dk_159 0 5 (dk_at dksL_law_12 5 rfl rfl)
theorem dL_law_360 : decode cL_law 360 = .ok (.iconst 0, 1) := dk_3 (dk_at dksL_law_12 8 rfl rfl)
theorem dL_law_361 : decode cL_law 361 = .ok (.ireturn, 1) := dk_172 (dk_at dksL_law_12 9 rfl rfl)
theorem dL_law_362 : decode cL_law 362 = .ok (.iload 5, 2) := dk_21 5 (dk_at dksL_law_12 10 rfl rfl)
theorem dL_law_364 : decode cL_law 364 = .ok (.ifCond .ne 15, 3) := dk_154 0 15 (dk_at dksL_law_12 12 rfl rfl)
theorem dL_law_367 : decode cL_law 367 = .ok (.aload_n 3, 1) := dk_45 (dk_at dksL_law_12 15 rfl rfl)
theorem dL_law_368 : decode cL_law 368 = .ok (.iconst 0, 1) := dk_3 (dk_at dksL_law_12 16 rfl rfl)
theorem dL_law_369 : decode cL_law 369 = .ok (.laload, 1) := dk_47 (dk_at dksL_law_12 17 rfl rfl)
theorem dL_law_370 : decode cL_law 370 = .ok (.iload 6, 2) := dk_21 6 (dk_at dksL_law_12 18 rfl rfl)
theorem dL_law_372 : decode cL_law 372 = .ok (.i2l, 1) := dk_133 (dk_at dksL_law_12 20 rfl rfl)
theorem dL_law_373 : decode cL_law 373 = .ok (.lcmp, 1) := dk_148 (dk_at dksL_law_12 21 rfl rfl)
theorem dL_law_374 : decode cL_law 374 = .ok (.ifCond .eq 5, 3) := dk_153 0 5 (dk_at dksL_law_13 0 rfl rfl)
theorem dL_law_377 : decode cL_law 377 = .ok (.iconst 0, 1) := dk_3 (dk_at dksL_law_13 3 rfl rfl)
theorem dL_law_378 : decode cL_law 378 = .ok (.ireturn, 1) := dk_172 (dk_at dksL_law_13 4 rfl rfl)
theorem dL_law_379 : decode cL_law 379 = .ok (.goto 835, 3) := dk_167 3 67 (dk_at dksL_law_13 5 rfl rfl)
theorem dL_law_382 : decode cL_law 382 = .ok (.aload_n 1, 1) := dk_43 (dk_at dksL_law_13 8 rfl rfl)
theorem dL_law_383 : decode cL_law 383 = .ok (.aload_n 0, 1) := dk_42 (dk_at dksL_law_13 9 rfl rfl)
theorem dL_law_384 : decode cL_law 384 = .ok (.iload 4, 2) := dk_21 4 (dk_at dksL_law_13 10 rfl rfl)
theorem dL_law_386 : decode cL_law 386 = .ok (.iconst 1, 1) := dk_4 (dk_at dksL_law_13 12 rfl rfl)
theorem dL_law_387 : decode cL_law 387 = .ok (.iadd, 1) := dk_96 (dk_at dksL_law_13 13 rfl rfl)
theorem dL_law_388 : decode cL_law 388 = .ok (.iaload, 1) := dk_46 (dk_at dksL_law_13 14 rfl rfl)
theorem dL_law_389 : decode cL_law 389 = .ok (.aload_n 0, 1) := dk_42 (dk_at dksL_law_13 15 rfl rfl)
theorem dL_law_390 : decode cL_law 390 = .ok (.iload 4, 2) := dk_21 4 (dk_at dksL_law_13 16 rfl rfl)
theorem dL_law_392 : decode cL_law 392 = .ok (.iconst 2, 1) := dk_5 (dk_at dksL_law_13 18 rfl rfl)
theorem dL_law_393 : decode cL_law 393 = .ok (.iadd, 1) := dk_96 (dk_at dksL_law_13 19 rfl rfl)
theorem dL_law_394 : decode cL_law 394 = .ok (.iaload, 1) := dk_46 (dk_at dksL_law_13 20 rfl rfl)
theorem dL_law_395 : decode cL_law 395 = .ok (.aload_n 3, 1) := dk_45 (dk_at dksL_law_13 21 rfl rfl)
theorem dL_law_396 : decode cL_law 396 = .ok (.invokestatic 93, 3) := dk_184 0 93 (dk_at dksL_law_14 0 rfl rfl)
theorem dL_law_399 : decode cL_law 399 = .ok (.istore 5, 2) := dk_54 5 (dk_at dksL_law_14 3 rfl rfl)
theorem dL_law_401 : decode cL_law 401 = .ok (.aload_n 2, 1) := dk_44 (dk_at dksL_law_14 5 rfl rfl)
theorem dL_law_402 : decode cL_law 402 = .ok (.aload_n 0, 1) := dk_42 (dk_at dksL_law_14 6 rfl rfl)
theorem dL_law_403 : decode cL_law 403 = .ok (.iload 4, 2) := dk_21 4 (dk_at dksL_law_14 7 rfl rfl)
theorem dL_law_405 : decode cL_law 405 = .ok (.iconst 1, 1) := dk_4 (dk_at dksL_law_14 9 rfl rfl)
theorem dL_law_406 : decode cL_law 406 = .ok (.iadd, 1) := dk_96 (dk_at dksL_law_14 10 rfl rfl)
theorem dL_law_407 : decode cL_law 407 = .ok (.iaload, 1) := dk_46 (dk_at dksL_law_14 11 rfl rfl)
theorem dL_law_408 : decode cL_law 408 = .ok (.aload_n 0, 1) := dk_42 (dk_at dksL_law_14 12 rfl rfl)
theorem dL_law_409 : decode cL_law 409 = .ok (.iload 4, 2) := dk_21 4 (dk_at dksL_law_14 13 rfl rfl)
theorem dL_law_411 : decode cL_law 411 = .ok (.iconst 2, 1) := dk_5 (dk_at dksL_law_14 15 rfl rfl)
theorem dL_law_412 : decode cL_law 412 = .ok (.iadd, 1) := dk_96 (dk_at dksL_law_14 16 rfl rfl)
theorem dL_law_413 : decode cL_law 413 = .ok (.iaload, 1) := dk_46 (dk_at dksL_law_14 17 rfl rfl)
theorem dL_law_414 : decode cL_law 414 = .ok (.invokevirtual 96, 3) := dk_182 0 96 (dk_at dksL_law_14 18 rfl rfl)
theorem dL_law_417 : decode cL_law 417 = .ok (.istore 6, 2) := dk_54 6 (dk_at dksL_law_14 21 rfl rfl)
theorem dL_law_419 : decode cL_law 419 = .ok (.aload_n 2, 1) := dk_44 (dk_at dksL_law_14 23 rfl rfl)
theorem dL_law_420 : decode cL_law 420 = .ok (.invokevirtual 74, 3) := dk_182 0 74 (dk_at dksL_law_15 0 rfl rfl)
theorem dL_law_423 : decode cL_law 423 = .ok (.iload 5, 2) := dk_21 5 (dk_at dksL_law_15 3 rfl rfl)
theorem dL_law_425 : decode cL_law 425 = .ok (.if_icmp .eq 5, 3) := dk_159 0 5 (dk_at dksL_law_15 5 rfl rfl)
theorem dL_law_428 : decode cL_law 428 = .ok (.iconst 0, 1) := dk_3 (dk_at dksL_law_15 8 rfl rfl)
theorem dL_law_429 : decode cL_law 429 = .ok (.ireturn, 1) := dk_172 (dk_at dksL_law_15 9 rfl rfl)
theorem dL_law_430 : decode cL_law 430 = .ok (.iload 5, 2) := dk_21 5 (dk_at dksL_law_15 10 rfl rfl)
theorem dL_law_432 : decode cL_law 432 = .ok (.ifCond .ne 15, 3) := dk_154 0 15 (dk_at dksL_law_15 12 rfl rfl)
theorem dL_law_435 : decode cL_law 435 = .ok (.aload_n 3, 1) := dk_45 (dk_at dksL_law_15 15 rfl rfl)
theorem dL_law_436 : decode cL_law 436 = .ok (.iconst 0, 1) := dk_3 (dk_at dksL_law_15 16 rfl rfl)
theorem dL_law_437 : decode cL_law 437 = .ok (.laload, 1) := dk_47 (dk_at dksL_law_15 17 rfl rfl)
theorem dL_law_438 : decode cL_law 438 = .ok (.iload 6, 2) := dk_21 6 (dk_at dksL_law_15 18 rfl rfl)
theorem dL_law_440 : decode cL_law 440 = .ok (.i2l, 1) := dk_133 (dk_at dksL_law_15 20 rfl rfl)
theorem dL_law_441 : decode cL_law 441 = .ok (.lcmp, 1) := dk_148 (dk_at dksL_law_15 21 rfl rfl)
theorem dL_law_442 : decode cL_law 442 = .ok (.ifCond .eq 5, 3) := dk_153 0 5 (dk_at dksL_law_16 0 rfl rfl)
theorem dL_law_445 : decode cL_law 445 = .ok (.iconst 0, 1) := dk_3 (dk_at dksL_law_16 3 rfl rfl)
theorem dL_law_446 : decode cL_law 446 = .ok (.ireturn, 1) := dk_172 (dk_at dksL_law_16 4 rfl rfl)
theorem dL_law_447 : decode cL_law 447 = .ok (.goto 767, 3) := dk_167 2 255 (dk_at dksL_law_16 5 rfl rfl)
theorem dL_law_450 : decode cL_law 450 = .ok (.aload_n 1, 1) := dk_43 (dk_at dksL_law_16 8 rfl rfl)
theorem dL_law_451 : decode cL_law 451 = .ok (.aload_n 0, 1) := dk_42 (dk_at dksL_law_16 9 rfl rfl)
theorem dL_law_452 : decode cL_law 452 = .ok (.iload 4, 2) := dk_21 4 (dk_at dksL_law_16 10 rfl rfl)
theorem dL_law_454 : decode cL_law 454 = .ok (.iconst 1, 1) := dk_4 (dk_at dksL_law_16 12 rfl rfl)
theorem dL_law_455 : decode cL_law 455 = .ok (.iadd, 1) := dk_96 (dk_at dksL_law_16 13 rfl rfl)
theorem dL_law_456 : decode cL_law 456 = .ok (.iaload, 1) := dk_46 (dk_at dksL_law_16 14 rfl rfl)
theorem dL_law_457 : decode cL_law 457 = .ok (.aload_n 0, 1) := dk_42 (dk_at dksL_law_16 15 rfl rfl)
theorem dL_law_458 : decode cL_law 458 = .ok (.iload 4, 2) := dk_21 4 (dk_at dksL_law_16 16 rfl rfl)
theorem dL_law_460 : decode cL_law 460 = .ok (.iconst 2, 1) := dk_5 (dk_at dksL_law_16 18 rfl rfl)
theorem dL_law_461 : decode cL_law 461 = .ok (.iadd, 1) := dk_96 (dk_at dksL_law_16 19 rfl rfl)
theorem dL_law_462 : decode cL_law 462 = .ok (.iaload, 1) := dk_46 (dk_at dksL_law_16 20 rfl rfl)
theorem dL_law_463 : decode cL_law 463 = .ok (.aload_n 3, 1) := dk_45 (dk_at dksL_law_16 21 rfl rfl)
theorem dL_law_464 : decode cL_law 464 = .ok (.invokestatic 97, 3) := dk_184 0 97 (dk_at dksL_law_17 0 rfl rfl)
theorem dL_law_467 : decode cL_law 467 = .ok (.istore 5, 2) := dk_54 5 (dk_at dksL_law_17 3 rfl rfl)
theorem dL_law_469 : decode cL_law 469 = .ok (.aload_n 2, 1) := dk_44 (dk_at dksL_law_17 5 rfl rfl)
theorem dL_law_470 : decode cL_law 470 = .ok (.aload_n 0, 1) := dk_42 (dk_at dksL_law_17 6 rfl rfl)
theorem dL_law_471 : decode cL_law 471 = .ok (.iload 4, 2) := dk_21 4 (dk_at dksL_law_17 7 rfl rfl)
theorem dL_law_473 : decode cL_law 473 = .ok (.iconst 1, 1) := dk_4 (dk_at dksL_law_17 9 rfl rfl)
theorem dL_law_474 : decode cL_law 474 = .ok (.iadd, 1) := dk_96 (dk_at dksL_law_17 10 rfl rfl)
theorem dL_law_475 : decode cL_law 475 = .ok (.iaload, 1) := dk_46 (dk_at dksL_law_17 11 rfl rfl)
theorem dL_law_476 : decode cL_law 476 = .ok (.aload_n 0, 1) := dk_42 (dk_at dksL_law_17 12 rfl rfl)
theorem dL_law_477 : decode cL_law 477 = .ok (.iload 4, 2) := dk_21 4 (dk_at dksL_law_17 13 rfl rfl)
theorem dL_law_479 : decode cL_law 479 = .ok (.iconst 2, 1) := dk_5 (dk_at dksL_law_17 15 rfl rfl)
theorem dL_law_480 : decode cL_law 480 = .ok (.iadd, 1) := dk_96 (dk_at dksL_law_17 16 rfl rfl)
theorem dL_law_481 : decode cL_law 481 = .ok (.iaload, 1) := dk_46 (dk_at dksL_law_17 17 rfl rfl)
theorem dL_law_482 : decode cL_law 482 = .ok (.invokevirtual 99, 3) := dk_182 0 99 (dk_at dksL_law_17 18 rfl rfl)
theorem dL_law_485 : decode cL_law 485 = .ok (.istore 6, 2) := dk_54 6 (dk_at dksL_law_17 21 rfl rfl)
theorem dL_law_487 : decode cL_law 487 = .ok (.aload_n 2, 1) := dk_44 (dk_at dksL_law_17 23 rfl rfl)
theorem dL_law_488 : decode cL_law 488 = .ok (.invokevirtual 74, 3) := dk_182 0 74 (dk_at dksL_law_18 0 rfl rfl)
theorem dL_law_491 : decode cL_law 491 = .ok (.iload 5, 2) := dk_21 5 (dk_at dksL_law_18 3 rfl rfl)
theorem dL_law_493 : decode cL_law 493 = .ok (.if_icmp .eq 5, 3) := dk_159 0 5 (dk_at dksL_law_18 5 rfl rfl)
theorem dL_law_496 : decode cL_law 496 = .ok (.iconst 0, 1) := dk_3 (dk_at dksL_law_18 8 rfl rfl)
theorem dL_law_497 : decode cL_law 497 = .ok (.ireturn, 1) := dk_172 (dk_at dksL_law_18 9 rfl rfl)
theorem dL_law_498 : decode cL_law 498 = .ok (.iload 5, 2) := dk_21 5 (dk_at dksL_law_18 10 rfl rfl)
theorem dL_law_500 : decode cL_law 500 = .ok (.ifCond .ne 15, 3) := dk_154 0 15 (dk_at dksL_law_18 12 rfl rfl)
theorem dL_law_503 : decode cL_law 503 = .ok (.aload_n 3, 1) := dk_45 (dk_at dksL_law_18 15 rfl rfl)
theorem dL_law_504 : decode cL_law 504 = .ok (.iconst 0, 1) := dk_3 (dk_at dksL_law_18 16 rfl rfl)
theorem dL_law_505 : decode cL_law 505 = .ok (.laload, 1) := dk_47 (dk_at dksL_law_18 17 rfl rfl)
theorem dL_law_506 : decode cL_law 506 = .ok (.iload 6, 2) := dk_21 6 (dk_at dksL_law_18 18 rfl rfl)
theorem dL_law_508 : decode cL_law 508 = .ok (.i2l, 1) := dk_133 (dk_at dksL_law_18 20 rfl rfl)
theorem dL_law_509 : decode cL_law 509 = .ok (.lcmp, 1) := dk_148 (dk_at dksL_law_18 21 rfl rfl)
theorem dL_law_510 : decode cL_law 510 = .ok (.ifCond .eq 5, 3) := dk_153 0 5 (dk_at dksL_law_19 0 rfl rfl)
theorem dL_law_513 : decode cL_law 513 = .ok (.iconst 0, 1) := dk_3 (dk_at dksL_law_19 3 rfl rfl)
theorem dL_law_514 : decode cL_law 514 = .ok (.ireturn, 1) := dk_172 (dk_at dksL_law_19 4 rfl rfl)
theorem dL_law_515 : decode cL_law 515 = .ok (.goto 699, 3) := dk_167 2 187 (dk_at dksL_law_19 5 rfl rfl)
theorem dL_law_518 : decode cL_law 518 = .ok (.aload_n 1, 1) := dk_43 (dk_at dksL_law_19 8 rfl rfl)
theorem dL_law_519 : decode cL_law 519 = .ok (.aload_n 0, 1) := dk_42 (dk_at dksL_law_19 9 rfl rfl)
theorem dL_law_520 : decode cL_law 520 = .ok (.iload 4, 2) := dk_21 4 (dk_at dksL_law_19 10 rfl rfl)
theorem dL_law_522 : decode cL_law 522 = .ok (.iconst 1, 1) := dk_4 (dk_at dksL_law_19 12 rfl rfl)
theorem dL_law_523 : decode cL_law 523 = .ok (.iadd, 1) := dk_96 (dk_at dksL_law_19 13 rfl rfl)
theorem dL_law_524 : decode cL_law 524 = .ok (.iaload, 1) := dk_46 (dk_at dksL_law_19 14 rfl rfl)
theorem dL_law_525 : decode cL_law 525 = .ok (.aload_n 0, 1) := dk_42 (dk_at dksL_law_19 15 rfl rfl)
theorem dL_law_526 : decode cL_law 526 = .ok (.iload 4, 2) := dk_21 4 (dk_at dksL_law_19 16 rfl rfl)
theorem dL_law_528 : decode cL_law 528 = .ok (.iconst 2, 1) := dk_5 (dk_at dksL_law_19 18 rfl rfl)
theorem dL_law_529 : decode cL_law 529 = .ok (.iadd, 1) := dk_96 (dk_at dksL_law_19 19 rfl rfl)
theorem dL_law_530 : decode cL_law 530 = .ok (.iaload, 1) := dk_46 (dk_at dksL_law_19 20 rfl rfl)
theorem dL_law_531 : decode cL_law 531 = .ok (.aload_n 3, 1) := dk_45 (dk_at dksL_law_19 21 rfl rfl)
theorem dL_law_532 : decode cL_law 532 = .ok (.invokestatic 100, 3) := dk_184 0 100 (dk_at dksL_law_20 0 rfl rfl)
theorem dL_law_535 : decode cL_law 535 = .ok (.istore 5, 2) := dk_54 5 (dk_at dksL_law_20 3 rfl rfl)
theorem dL_law_537 : decode cL_law 537 = .ok (.aload_n 2, 1) := dk_44 (dk_at dksL_law_20 5 rfl rfl)
theorem dL_law_538 : decode cL_law 538 = .ok (.aload_n 0, 1) := dk_42 (dk_at dksL_law_20 6 rfl rfl)
theorem dL_law_539 : decode cL_law 539 = .ok (.iload 4, 2) := dk_21 4 (dk_at dksL_law_20 7 rfl rfl)
theorem dL_law_541 : decode cL_law 541 = .ok (.iconst 1, 1) := dk_4 (dk_at dksL_law_20 9 rfl rfl)
theorem dL_law_542 : decode cL_law 542 = .ok (.iadd, 1) := dk_96 (dk_at dksL_law_20 10 rfl rfl)
theorem dL_law_543 : decode cL_law 543 = .ok (.iaload, 1) := dk_46 (dk_at dksL_law_20 11 rfl rfl)
theorem dL_law_544 : decode cL_law 544 = .ok (.aload_n 0, 1) := dk_42 (dk_at dksL_law_20 12 rfl rfl)
theorem dL_law_545 : decode cL_law 545 = .ok (.iload 4, 2) := dk_21 4 (dk_at dksL_law_20 13 rfl rfl)
theorem dL_law_547 : decode cL_law 547 = .ok (.iconst 2, 1) := dk_5 (dk_at dksL_law_20 15 rfl rfl)
theorem dL_law_548 : decode cL_law 548 = .ok (.iadd, 1) := dk_96 (dk_at dksL_law_20 16 rfl rfl)
theorem dL_law_549 : decode cL_law 549 = .ok (.iaload, 1) := dk_46 (dk_at dksL_law_20 17 rfl rfl)
theorem dL_law_550 : decode cL_law 550 = .ok (.invokevirtual 102, 3) := dk_182 0 102 (dk_at dksL_law_20 18 rfl rfl)
theorem dL_law_553 : decode cL_law 553 = .ok (.istore 6, 2) := dk_54 6 (dk_at dksL_law_20 21 rfl rfl)
theorem dL_law_555 : decode cL_law 555 = .ok (.aload_n 2, 1) := dk_44 (dk_at dksL_law_20 23 rfl rfl)
theorem dL_law_556 : decode cL_law 556 = .ok (.invokevirtual 74, 3) := dk_182 0 74 (dk_at dksL_law_21 0 rfl rfl)
theorem dL_law_559 : decode cL_law 559 = .ok (.iload 5, 2) := dk_21 5 (dk_at dksL_law_21 3 rfl rfl)
theorem dL_law_561 : decode cL_law 561 = .ok (.if_icmp .eq 5, 3) := dk_159 0 5 (dk_at dksL_law_21 5 rfl rfl)
theorem dL_law_564 : decode cL_law 564 = .ok (.iconst 0, 1) := dk_3 (dk_at dksL_law_21 8 rfl rfl)
theorem dL_law_565 : decode cL_law 565 = .ok (.ireturn, 1) := dk_172 (dk_at dksL_law_21 9 rfl rfl)
theorem dL_law_566 : decode cL_law 566 = .ok (.iload 5, 2) := dk_21 5 (dk_at dksL_law_21 10 rfl rfl)
theorem dL_law_568 : decode cL_law 568 = .ok (.ifCond .ne 15, 3) := dk_154 0 15 (dk_at dksL_law_21 12 rfl rfl)
theorem dL_law_571 : decode cL_law 571 = .ok (.aload_n 3, 1) := dk_45 (dk_at dksL_law_21 15 rfl rfl)
theorem dL_law_572 : decode cL_law 572 = .ok (.iconst 0, 1) := dk_3 (dk_at dksL_law_21 16 rfl rfl)
theorem dL_law_573 : decode cL_law 573 = .ok (.laload, 1) := dk_47 (dk_at dksL_law_21 17 rfl rfl)
theorem dL_law_574 : decode cL_law 574 = .ok (.iload 6, 2) := dk_21 6 (dk_at dksL_law_21 18 rfl rfl)
theorem dL_law_576 : decode cL_law 576 = .ok (.i2l, 1) := dk_133 (dk_at dksL_law_21 20 rfl rfl)
theorem dL_law_577 : decode cL_law 577 = .ok (.lcmp, 1) := dk_148 (dk_at dksL_law_21 21 rfl rfl)
theorem dL_law_578 : decode cL_law 578 = .ok (.ifCond .eq 5, 3) := dk_153 0 5 (dk_at dksL_law_22 0 rfl rfl)
theorem dL_law_581 : decode cL_law 581 = .ok (.iconst 0, 1) := dk_3 (dk_at dksL_law_22 3 rfl rfl)
theorem dL_law_582 : decode cL_law 582 = .ok (.ireturn, 1) := dk_172 (dk_at dksL_law_22 4 rfl rfl)
theorem dL_law_583 : decode cL_law 583 = .ok (.goto 631, 3) := dk_167 2 119 (dk_at dksL_law_22 5 rfl rfl)
theorem dL_law_586 : decode cL_law 586 = .ok (.aload_n 1, 1) := dk_43 (dk_at dksL_law_22 8 rfl rfl)
theorem dL_law_587 : decode cL_law 587 = .ok (.aload_n 0, 1) := dk_42 (dk_at dksL_law_22 9 rfl rfl)
theorem dL_law_588 : decode cL_law 588 = .ok (.iload 4, 2) := dk_21 4 (dk_at dksL_law_22 10 rfl rfl)
theorem dL_law_590 : decode cL_law 590 = .ok (.iconst 1, 1) := dk_4 (dk_at dksL_law_22 12 rfl rfl)
theorem dL_law_591 : decode cL_law 591 = .ok (.iadd, 1) := dk_96 (dk_at dksL_law_22 13 rfl rfl)
theorem dL_law_592 : decode cL_law 592 = .ok (.iaload, 1) := dk_46 (dk_at dksL_law_22 14 rfl rfl)
theorem dL_law_593 : decode cL_law 593 = .ok (.aload_n 3, 1) := dk_45 (dk_at dksL_law_22 15 rfl rfl)
theorem dL_law_594 : decode cL_law 594 = .ok (.invokestatic 103, 3) := dk_184 0 103 (dk_at dksL_law_22 16 rfl rfl)
theorem dL_law_597 : decode cL_law 597 = .ok (.istore 5, 2) := dk_54 5 (dk_at dksL_law_22 19 rfl rfl)
theorem dL_law_599 : decode cL_law 599 = .ok (.aload_n 2, 1) := dk_44 (dk_at dksL_law_22 21 rfl rfl)
theorem dL_law_600 : decode cL_law 600 = .ok (.aload_n 0, 1) := dk_42 (dk_at dksL_law_22 22 rfl rfl)
theorem dL_law_601 : decode cL_law 601 = .ok (.iload 4, 2) := dk_21 4 (dk_at dksL_law_23 0 rfl rfl)
theorem dL_law_603 : decode cL_law 603 = .ok (.iconst 1, 1) := dk_4 (dk_at dksL_law_23 2 rfl rfl)
theorem dL_law_604 : decode cL_law 604 = .ok (.iadd, 1) := dk_96 (dk_at dksL_law_23 3 rfl rfl)
theorem dL_law_605 : decode cL_law 605 = .ok (.iaload, 1) := dk_46 (dk_at dksL_law_23 4 rfl rfl)
theorem dL_law_606 : decode cL_law 606 = .ok (.invokevirtual 105, 3) := dk_182 0 105 (dk_at dksL_law_23 5 rfl rfl)
theorem dL_law_609 : decode cL_law 609 = .ok (.istore 6, 2) := dk_54 6 (dk_at dksL_law_23 8 rfl rfl)
theorem dL_law_611 : decode cL_law 611 = .ok (.aload_n 2, 1) := dk_44 (dk_at dksL_law_23 10 rfl rfl)
theorem dL_law_612 : decode cL_law 612 = .ok (.invokevirtual 74, 3) := dk_182 0 74 (dk_at dksL_law_23 11 rfl rfl)
theorem dL_law_615 : decode cL_law 615 = .ok (.iload 5, 2) := dk_21 5 (dk_at dksL_law_23 14 rfl rfl)
theorem dL_law_617 : decode cL_law 617 = .ok (.if_icmp .eq 5, 3) := dk_159 0 5 (dk_at dksL_law_23 16 rfl rfl)
theorem dL_law_620 : decode cL_law 620 = .ok (.iconst 0, 1) := dk_3 (dk_at dksL_law_23 19 rfl rfl)
theorem dL_law_621 : decode cL_law 621 = .ok (.ireturn, 1) := dk_172 (dk_at dksL_law_23 20 rfl rfl)
theorem dL_law_622 : decode cL_law 622 = .ok (.iload 5, 2) := dk_21 5 (dk_at dksL_law_23 21 rfl rfl)
theorem dL_law_624 : decode cL_law 624 = .ok (.ifCond .ne 15, 3) := dk_154 0 15 (dk_at dksL_law_24 0 rfl rfl)
theorem dL_law_627 : decode cL_law 627 = .ok (.aload_n 3, 1) := dk_45 (dk_at dksL_law_24 3 rfl rfl)
theorem dL_law_628 : decode cL_law 628 = .ok (.iconst 0, 1) := dk_3 (dk_at dksL_law_24 4 rfl rfl)
theorem dL_law_629 : decode cL_law 629 = .ok (.laload, 1) := dk_47 (dk_at dksL_law_24 5 rfl rfl)
theorem dL_law_630 : decode cL_law 630 = .ok (.iload 6, 2) := dk_21 6 (dk_at dksL_law_24 6 rfl rfl)
theorem dL_law_632 : decode cL_law 632 = .ok (.i2l, 1) := dk_133 (dk_at dksL_law_24 8 rfl rfl)
theorem dL_law_633 : decode cL_law 633 = .ok (.lcmp, 1) := dk_148 (dk_at dksL_law_24 9 rfl rfl)
theorem dL_law_634 : decode cL_law 634 = .ok (.ifCond .eq 5, 3) := dk_153 0 5 (dk_at dksL_law_24 10 rfl rfl)
theorem dL_law_637 : decode cL_law 637 = .ok (.iconst 0, 1) := dk_3 (dk_at dksL_law_24 13 rfl rfl)
theorem dL_law_638 : decode cL_law 638 = .ok (.ireturn, 1) := dk_172 (dk_at dksL_law_24 14 rfl rfl)
theorem dL_law_639 : decode cL_law 639 = .ok (.goto 575, 3) := dk_167 2 63 (dk_at dksL_law_24 15 rfl rfl)
theorem dL_law_642 : decode cL_law 642 = .ok (.aload_n 1, 1) := dk_43 (dk_at dksL_law_24 18 rfl rfl)
theorem dL_law_643 : decode cL_law 643 = .ok (.aload_n 0, 1) := dk_42 (dk_at dksL_law_24 19 rfl rfl)
theorem dL_law_644 : decode cL_law 644 = .ok (.iload 4, 2) := dk_21 4 (dk_at dksL_law_24 20 rfl rfl)
theorem dL_law_646 : decode cL_law 646 = .ok (.iconst 1, 1) := dk_4 (dk_at dksL_law_24 22 rfl rfl)
theorem dL_law_647 : decode cL_law 647 = .ok (.iadd, 1) := dk_96 (dk_at dksL_law_24 23 rfl rfl)
theorem dL_law_648 : decode cL_law 648 = .ok (.iaload, 1) := dk_46 (dk_at dksL_law_25 0 rfl rfl)
theorem dL_law_649 : decode cL_law 649 = .ok (.aload_n 3, 1) := dk_45 (dk_at dksL_law_25 1 rfl rfl)
theorem dL_law_650 : decode cL_law 650 = .ok (.invokestatic 106, 3) := dk_184 0 106 (dk_at dksL_law_25 2 rfl rfl)
theorem dL_law_653 : decode cL_law 653 = .ok (.istore 5, 2) := dk_54 5 (dk_at dksL_law_25 5 rfl rfl)
theorem dL_law_655 : decode cL_law 655 = .ok (.aload_n 2, 1) := dk_44 (dk_at dksL_law_25 7 rfl rfl)
theorem dL_law_656 : decode cL_law 656 = .ok (.aload_n 0, 1) := dk_42 (dk_at dksL_law_25 8 rfl rfl)
theorem dL_law_657 : decode cL_law 657 = .ok (.iload 4, 2) := dk_21 4 (dk_at dksL_law_25 9 rfl rfl)
theorem dL_law_659 : decode cL_law 659 = .ok (.iconst 1, 1) := dk_4 (dk_at dksL_law_25 11 rfl rfl)
theorem dL_law_660 : decode cL_law 660 = .ok (.iadd, 1) := dk_96 (dk_at dksL_law_25 12 rfl rfl)
theorem dL_law_661 : decode cL_law 661 = .ok (.iaload, 1) := dk_46 (dk_at dksL_law_25 13 rfl rfl)
theorem dL_law_662 : decode cL_law 662 = .ok (.invokevirtual 108, 3) := dk_182 0 108 (dk_at dksL_law_25 14 rfl rfl)
theorem dL_law_665 : decode cL_law 665 = .ok (.istore 6, 2) := dk_54 6 (dk_at dksL_law_25 17 rfl rfl)
theorem dL_law_667 : decode cL_law 667 = .ok (.aload_n 2, 1) := dk_44 (dk_at dksL_law_25 19 rfl rfl)
theorem dL_law_668 : decode cL_law 668 = .ok (.invokevirtual 74, 3) := dk_182 0 74 (dk_at dksL_law_25 20 rfl rfl)
theorem dL_law_671 : decode cL_law 671 = .ok (.iload 5, 2) := dk_21 5 (dk_at dksL_law_26 0 rfl rfl)
theorem dL_law_673 : decode cL_law 673 = .ok (.if_icmp .eq 5, 3) := dk_159 0 5 (dk_at dksL_law_26 2 rfl rfl)
theorem dL_law_676 : decode cL_law 676 = .ok (.iconst 0, 1) := dk_3 (dk_at dksL_law_26 5 rfl rfl)
theorem dL_law_677 : decode cL_law 677 = .ok (.ireturn, 1) := dk_172 (dk_at dksL_law_26 6 rfl rfl)
theorem dL_law_678 : decode cL_law 678 = .ok (.iload 5, 2) := dk_21 5 (dk_at dksL_law_26 7 rfl rfl)
theorem dL_law_680 : decode cL_law 680 = .ok (.ifCond .ne 15, 3) := dk_154 0 15 (dk_at dksL_law_26 9 rfl rfl)
theorem dL_law_683 : decode cL_law 683 = .ok (.aload_n 3, 1) := dk_45 (dk_at dksL_law_26 12 rfl rfl)
theorem dL_law_684 : decode cL_law 684 = .ok (.iconst 0, 1) := dk_3 (dk_at dksL_law_26 13 rfl rfl)
theorem dL_law_685 : decode cL_law 685 = .ok (.laload, 1) := dk_47 (dk_at dksL_law_26 14 rfl rfl)
theorem dL_law_686 : decode cL_law 686 = .ok (.iload 6, 2) := dk_21 6 (dk_at dksL_law_26 15 rfl rfl)
theorem dL_law_688 : decode cL_law 688 = .ok (.i2l, 1) := dk_133 (dk_at dksL_law_26 17 rfl rfl)
theorem dL_law_689 : decode cL_law 689 = .ok (.lcmp, 1) := dk_148 (dk_at dksL_law_26 18 rfl rfl)
theorem dL_law_690 : decode cL_law 690 = .ok (.ifCond .eq 5, 3) := dk_153 0 5 (dk_at dksL_law_26 19 rfl rfl)
theorem dL_law_693 : decode cL_law 693 = .ok (.iconst 0, 1) := dk_3 (dk_at dksL_law_26 22 rfl rfl)
theorem dL_law_694 : decode cL_law 694 = .ok (.ireturn, 1) := dk_172 (dk_at dksL_law_26 23 rfl rfl)
theorem dL_law_695 : decode cL_law 695 = .ok (.goto 519, 3) := dk_167 2 7 (dk_at dksL_law_27 0 rfl rfl)
theorem dL_law_698 : decode cL_law 698 = .ok (.aload_n 1, 1) := dk_43 (dk_at dksL_law_27 3 rfl rfl)
theorem dL_law_699 : decode cL_law 699 = .ok (.aload_n 0, 1) := dk_42 (dk_at dksL_law_27 4 rfl rfl)
theorem dL_law_700 : decode cL_law 700 = .ok (.iload 4, 2) := dk_21 4 (dk_at dksL_law_27 5 rfl rfl)
theorem dL_law_702 : decode cL_law 702 = .ok (.iconst 1, 1) := dk_4 (dk_at dksL_law_27 7 rfl rfl)
theorem dL_law_703 : decode cL_law 703 = .ok (.iadd, 1) := dk_96 (dk_at dksL_law_27 8 rfl rfl)
theorem dL_law_704 : decode cL_law 704 = .ok (.iaload, 1) := dk_46 (dk_at dksL_law_27 9 rfl rfl)
theorem dL_law_705 : decode cL_law 705 = .ok (.aload_n 0, 1) := dk_42 (dk_at dksL_law_27 10 rfl rfl)
theorem dL_law_706 : decode cL_law 706 = .ok (.iload 4, 2) := dk_21 4 (dk_at dksL_law_27 11 rfl rfl)
theorem dL_law_708 : decode cL_law 708 = .ok (.iconst 2, 1) := dk_5 (dk_at dksL_law_27 13 rfl rfl)
theorem dL_law_709 : decode cL_law 709 = .ok (.iadd, 1) := dk_96 (dk_at dksL_law_27 14 rfl rfl)
theorem dL_law_710 : decode cL_law 710 = .ok (.iaload, 1) := dk_46 (dk_at dksL_law_27 15 rfl rfl)
theorem dL_law_711 : decode cL_law 711 = .ok (.aload_n 3, 1) := dk_45 (dk_at dksL_law_27 16 rfl rfl)
theorem dL_law_712 : decode cL_law 712 = .ok (.invokestatic 109, 3) := dk_184 0 109 (dk_at dksL_law_27 17 rfl rfl)
theorem dL_law_715 : decode cL_law 715 = .ok (.istore 5, 2) := dk_54 5 (dk_at dksL_law_27 20 rfl rfl)
theorem dL_law_717 : decode cL_law 717 = .ok (.aload_n 2, 1) := dk_44 (dk_at dksL_law_27 22 rfl rfl)
theorem dL_law_718 : decode cL_law 718 = .ok (.aload_n 0, 1) := dk_42 (dk_at dksL_law_27 23 rfl rfl)
theorem dL_law_719 : decode cL_law 719 = .ok (.iload 4, 2) := dk_21 4 (dk_at dksL_law_28 0 rfl rfl)
theorem dL_law_721 : decode cL_law 721 = .ok (.iconst 1, 1) := dk_4 (dk_at dksL_law_28 2 rfl rfl)
theorem dL_law_722 : decode cL_law 722 = .ok (.iadd, 1) := dk_96 (dk_at dksL_law_28 3 rfl rfl)
theorem dL_law_723 : decode cL_law 723 = .ok (.iaload, 1) := dk_46 (dk_at dksL_law_28 4 rfl rfl)
theorem dL_law_724 : decode cL_law 724 = .ok (.aload_n 0, 1) := dk_42 (dk_at dksL_law_28 5 rfl rfl)
theorem dL_law_725 : decode cL_law 725 = .ok (.iload 4, 2) := dk_21 4 (dk_at dksL_law_28 6 rfl rfl)
theorem dL_law_727 : decode cL_law 727 = .ok (.iconst 2, 1) := dk_5 (dk_at dksL_law_28 8 rfl rfl)
theorem dL_law_728 : decode cL_law 728 = .ok (.iadd, 1) := dk_96 (dk_at dksL_law_28 9 rfl rfl)
theorem dL_law_729 : decode cL_law 729 = .ok (.iaload, 1) := dk_46 (dk_at dksL_law_28 10 rfl rfl)
theorem dL_law_730 : decode cL_law 730 = .ok (.invokevirtual 111, 3) := dk_182 0 111 (dk_at dksL_law_28 11 rfl rfl)
theorem dL_law_733 : decode cL_law 733 = .ok (.istore 6, 2) := dk_54 6 (dk_at dksL_law_28 14 rfl rfl)
theorem dL_law_735 : decode cL_law 735 = .ok (.aload_n 2, 1) := dk_44 (dk_at dksL_law_28 16 rfl rfl)
theorem dL_law_736 : decode cL_law 736 = .ok (.invokevirtual 74, 3) := dk_182 0 74 (dk_at dksL_law_28 17 rfl rfl)
theorem dL_law_739 : decode cL_law 739 = .ok (.iload 5, 2) := dk_21 5 (dk_at dksL_law_28 20 rfl rfl)
theorem dL_law_741 : decode cL_law 741 = .ok (.if_icmp .eq 5, 3) := dk_159 0 5 (dk_at dksL_law_29 0 rfl rfl)
theorem dL_law_744 : decode cL_law 744 = .ok (.iconst 0, 1) := dk_3 (dk_at dksL_law_29 3 rfl rfl)
theorem dL_law_745 : decode cL_law 745 = .ok (.ireturn, 1) := dk_172 (dk_at dksL_law_29 4 rfl rfl)
theorem dL_law_746 : decode cL_law 746 = .ok (.iload 5, 2) := dk_21 5 (dk_at dksL_law_29 5 rfl rfl)
theorem dL_law_748 : decode cL_law 748 = .ok (.ifCond .ne 22, 3) := dk_154 0 22 (dk_at dksL_law_29 7 rfl rfl)
theorem dL_law_751 : decode cL_law 751 = .ok (.aload_n 3, 1) := dk_45 (dk_at dksL_law_29 10 rfl rfl)
theorem dL_law_752 : decode cL_law 752 = .ok (.iconst 0, 1) := dk_3 (dk_at dksL_law_29 11 rfl rfl)
theorem dL_law_753 : decode cL_law 753 = .ok (.laload, 1) := dk_47 (dk_at dksL_law_29 12 rfl rfl)
theorem dL_law_754 : decode cL_law 754 = .ok (.iload 6, 2) := dk_21 6 (dk_at dksL_law_29 13 rfl rfl)
theorem dL_law_756 : decode cL_law 756 = .ok (.ifCond .eq 7, 3) := dk_153 0 7 (dk_at dksL_law_29 15 rfl rfl)
theorem dL_law_759 : decode cL_law 759 = .ok (.lconst 1, 1) := dk_10 (dk_at dksL_law_29 18 rfl rfl)
theorem dL_law_760 : decode cL_law 760 = .ok (.goto 4, 3) := dk_167 0 4 (dk_at dksL_law_29 19 rfl rfl)
theorem dL_law_763 : decode cL_law 763 = .ok (.lconst 0, 1) := dk_9 (dk_at dksL_law_29 22 rfl rfl)
theorem dL_law_764 : decode cL_law 764 = .ok (.lcmp, 1) := dk_148 (dk_at dksL_law_29 23 rfl rfl)
theorem dL_law_765 : decode cL_law 765 = .ok (.ifCond .eq 5, 3) := dk_153 0 5 (dk_at dksL_law_30 0 rfl rfl)
theorem dL_law_768 : decode cL_law 768 = .ok (.iconst 0, 1) := dk_3 (dk_at dksL_law_30 3 rfl rfl)
theorem dL_law_769 : decode cL_law 769 = .ok (.ireturn, 1) := dk_172 (dk_at dksL_law_30 4 rfl rfl)
theorem dL_law_770 : decode cL_law 770 = .ok (.goto 444, 3) := dk_167 1 188 (dk_at dksL_law_30 5 rfl rfl)
theorem dL_law_773 : decode cL_law 773 = .ok (.aload_n 1, 1) := dk_43 (dk_at dksL_law_30 8 rfl rfl)
theorem dL_law_774 : decode cL_law 774 = .ok (.invokevirtual 112, 3) := dk_182 0 112 (dk_at dksL_law_30 9 rfl rfl)
theorem dL_law_777 : decode cL_law 777 = .ok (.aload_n 2, 1) := dk_44 (dk_at dksL_law_30 12 rfl rfl)
theorem dL_law_778 : decode cL_law 778 = .ok (.invokevirtual 115, 3) := dk_182 0 115 (dk_at dksL_law_30 13 rfl rfl)
theorem dL_law_781 : decode cL_law 781 = .ok (.if_icmp .eq 433, 3) := dk_159 1 177 (dk_at dksL_law_30 16 rfl rfl)
theorem dL_law_784 : decode cL_law 784 = .ok (.iconst 0, 1) := dk_3 (dk_at dksL_law_30 19 rfl rfl)
theorem dL_law_785 : decode cL_law 785 = .ok (.ireturn, 1) := dk_172 (dk_at dksL_law_30 20 rfl rfl)
theorem dL_law_786 : decode cL_law 786 = .ok (.aload_n 1, 1) := dk_43 (dk_at dksL_law_30 21 rfl rfl)
theorem dL_law_787 : decode cL_law 787 = .ok (.aload_n 0, 1) := dk_42 (dk_at dksL_law_30 22 rfl rfl)
theorem dL_law_788 : decode cL_law 788 = .ok (.iload 4, 2) := dk_21 4 (dk_at dksL_law_31 0 rfl rfl)
theorem dL_law_790 : decode cL_law 790 = .ok (.iconst 1, 1) := dk_4 (dk_at dksL_law_31 2 rfl rfl)
theorem dL_law_791 : decode cL_law 791 = .ok (.iadd, 1) := dk_96 (dk_at dksL_law_31 3 rfl rfl)
theorem dL_law_792 : decode cL_law 792 = .ok (.iaload, 1) := dk_46 (dk_at dksL_law_31 4 rfl rfl)
theorem dL_law_793 : decode cL_law 793 = .ok (.aload_n 0, 1) := dk_42 (dk_at dksL_law_31 5 rfl rfl)
theorem dL_law_794 : decode cL_law 794 = .ok (.iload 4, 2) := dk_21 4 (dk_at dksL_law_31 6 rfl rfl)
theorem dL_law_796 : decode cL_law 796 = .ok (.iconst 2, 1) := dk_5 (dk_at dksL_law_31 8 rfl rfl)
theorem dL_law_797 : decode cL_law 797 = .ok (.iadd, 1) := dk_96 (dk_at dksL_law_31 9 rfl rfl)
theorem dL_law_798 : decode cL_law 798 = .ok (.iaload, 1) := dk_46 (dk_at dksL_law_31 10 rfl rfl)
theorem dL_law_799 : decode cL_law 799 = .ok (.aload_n 3, 1) := dk_45 (dk_at dksL_law_31 11 rfl rfl)
theorem dL_law_800 : decode cL_law 800 = .ok (.invokestatic 116, 3) := dk_184 0 116 (dk_at dksL_law_31 12 rfl rfl)
theorem dL_law_803 : decode cL_law 803 = .ok (.istore 5, 2) := dk_54 5 (dk_at dksL_law_31 15 rfl rfl)
theorem dL_law_805 : decode cL_law 805 = .ok (.aload_n 2, 1) := dk_44 (dk_at dksL_law_31 17 rfl rfl)
theorem dL_law_806 : decode cL_law 806 = .ok (.aload_n 0, 1) := dk_42 (dk_at dksL_law_31 18 rfl rfl)
theorem dL_law_807 : decode cL_law 807 = .ok (.iload 4, 2) := dk_21 4 (dk_at dksL_law_31 19 rfl rfl)
theorem dL_law_809 : decode cL_law 809 = .ok (.iconst 1, 1) := dk_4 (dk_at dksL_law_31 21 rfl rfl)
theorem dL_law_810 : decode cL_law 810 = .ok (.iadd, 1) := dk_96 (dk_at dksL_law_31 22 rfl rfl)
theorem dL_law_811 : decode cL_law 811 = .ok (.iaload, 1) := dk_46 (dk_at dksL_law_31 23 rfl rfl)
theorem dL_law_812 : decode cL_law 812 = .ok (.aload_n 0, 1) := dk_42 (dk_at dksL_law_32 0 rfl rfl)
theorem dL_law_813 : decode cL_law 813 = .ok (.iload 4, 2) := dk_21 4 (dk_at dksL_law_32 1 rfl rfl)
theorem dL_law_815 : decode cL_law 815 = .ok (.iconst 2, 1) := dk_5 (dk_at dksL_law_32 3 rfl rfl)
theorem dL_law_816 : decode cL_law 816 = .ok (.iadd, 1) := dk_96 (dk_at dksL_law_32 4 rfl rfl)
theorem dL_law_817 : decode cL_law 817 = .ok (.iaload, 1) := dk_46 (dk_at dksL_law_32 5 rfl rfl)
theorem dL_law_818 : decode cL_law 818 = .ok (.invokevirtual 118, 3) := dk_182 0 118 (dk_at dksL_law_32 6 rfl rfl)
theorem dL_law_821 : decode cL_law 821 = .ok (.istore 6, 2) := dk_54 6 (dk_at dksL_law_32 9 rfl rfl)
theorem dL_law_823 : decode cL_law 823 = .ok (.aload_n 2, 1) := dk_44 (dk_at dksL_law_32 11 rfl rfl)
theorem dL_law_824 : decode cL_law 824 = .ok (.invokevirtual 74, 3) := dk_182 0 74 (dk_at dksL_law_32 12 rfl rfl)
theorem dL_law_827 : decode cL_law 827 = .ok (.iload 5, 2) := dk_21 5 (dk_at dksL_law_32 15 rfl rfl)
theorem dL_law_829 : decode cL_law 829 = .ok (.if_icmp .eq 5, 3) := dk_159 0 5 (dk_at dksL_law_32 17 rfl rfl)
theorem dL_law_832 : decode cL_law 832 = .ok (.iconst 0, 1) := dk_3 (dk_at dksL_law_32 20 rfl rfl)
theorem dL_law_833 : decode cL_law 833 = .ok (.ireturn, 1) := dk_172 (dk_at dksL_law_32 21 rfl rfl)
theorem dL_law_834 : decode cL_law 834 = .ok (.iload 5, 2) := dk_21 5 (dk_at dksL_law_32 22 rfl rfl)
theorem dL_law_836 : decode cL_law 836 = .ok (.ifCond .ne 15, 3) := dk_154 0 15 (dk_at dksL_law_33 0 rfl rfl)
theorem dL_law_839 : decode cL_law 839 = .ok (.aload_n 3, 1) := dk_45 (dk_at dksL_law_33 3 rfl rfl)
theorem dL_law_840 : decode cL_law 840 = .ok (.iconst 0, 1) := dk_3 (dk_at dksL_law_33 4 rfl rfl)
theorem dL_law_841 : decode cL_law 841 = .ok (.laload, 1) := dk_47 (dk_at dksL_law_33 5 rfl rfl)
theorem dL_law_842 : decode cL_law 842 = .ok (.iload 6, 2) := dk_21 6 (dk_at dksL_law_33 6 rfl rfl)
theorem dL_law_844 : decode cL_law 844 = .ok (.i2l, 1) := dk_133 (dk_at dksL_law_33 8 rfl rfl)
theorem dL_law_845 : decode cL_law 845 = .ok (.lcmp, 1) := dk_148 (dk_at dksL_law_33 9 rfl rfl)
theorem dL_law_846 : decode cL_law 846 = .ok (.ifCond .eq 5, 3) := dk_153 0 5 (dk_at dksL_law_33 10 rfl rfl)
theorem dL_law_849 : decode cL_law 849 = .ok (.iconst 0, 1) := dk_3 (dk_at dksL_law_33 13 rfl rfl)
theorem dL_law_850 : decode cL_law 850 = .ok (.ireturn, 1) := dk_172 (dk_at dksL_law_33 14 rfl rfl)
theorem dL_law_851 : decode cL_law 851 = .ok (.goto 363, 3) := dk_167 1 107 (dk_at dksL_law_33 15 rfl rfl)
theorem dL_law_854 : decode cL_law 854 = .ok (.aload_n 1, 1) := dk_43 (dk_at dksL_law_33 18 rfl rfl)
theorem dL_law_855 : decode cL_law 855 = .ok (.aload_n 0, 1) := dk_42 (dk_at dksL_law_33 19 rfl rfl)
theorem dL_law_856 : decode cL_law 856 = .ok (.iload 4, 2) := dk_21 4 (dk_at dksL_law_33 20 rfl rfl)
theorem dL_law_858 : decode cL_law 858 = .ok (.iconst 1, 1) := dk_4 (dk_at dksL_law_33 22 rfl rfl)
theorem dL_law_859 : decode cL_law 859 = .ok (.iadd, 1) := dk_96 (dk_at dksL_law_33 23 rfl rfl)
theorem dL_law_860 : decode cL_law 860 = .ok (.iaload, 1) := dk_46 (dk_at dksL_law_34 0 rfl rfl)
theorem dL_law_861 : decode cL_law 861 = .ok (.aload_n 3, 1) := dk_45 (dk_at dksL_law_34 1 rfl rfl)
theorem dL_law_862 : decode cL_law 862 = .ok (.invokestatic 119, 3) := dk_184 0 119 (dk_at dksL_law_34 2 rfl rfl)
theorem dL_law_865 : decode cL_law 865 = .ok (.istore 5, 2) := dk_54 5 (dk_at dksL_law_34 5 rfl rfl)
theorem dL_law_867 : decode cL_law 867 = .ok (.aload_n 2, 1) := dk_44 (dk_at dksL_law_34 7 rfl rfl)
theorem dL_law_868 : decode cL_law 868 = .ok (.aload_n 0, 1) := dk_42 (dk_at dksL_law_34 8 rfl rfl)
theorem dL_law_869 : decode cL_law 869 = .ok (.iload 4, 2) := dk_21 4 (dk_at dksL_law_34 9 rfl rfl)
theorem dL_law_871 : decode cL_law 871 = .ok (.iconst 1, 1) := dk_4 (dk_at dksL_law_34 11 rfl rfl)
theorem dL_law_872 : decode cL_law 872 = .ok (.iadd, 1) := dk_96 (dk_at dksL_law_34 12 rfl rfl)
theorem dL_law_873 : decode cL_law 873 = .ok (.iaload, 1) := dk_46 (dk_at dksL_law_34 13 rfl rfl)
theorem dL_law_874 : decode cL_law 874 = .ok (.invokevirtual 121, 3) := dk_182 0 121 (dk_at dksL_law_34 14 rfl rfl)
theorem dL_law_877 : decode cL_law 877 = .ok (.istore 6, 2) := dk_54 6 (dk_at dksL_law_34 17 rfl rfl)
theorem dL_law_879 : decode cL_law 879 = .ok (.aload_n 2, 1) := dk_44 (dk_at dksL_law_34 19 rfl rfl)
theorem dL_law_880 : decode cL_law 880 = .ok (.invokevirtual 74, 3) := dk_182 0 74 (dk_at dksL_law_34 20 rfl rfl)
theorem dL_law_883 : decode cL_law 883 = .ok (.iload 5, 2) := dk_21 5 (dk_at dksL_law_35 0 rfl rfl)
theorem dL_law_885 : decode cL_law 885 = .ok (.if_icmp .eq 5, 3) := dk_159 0 5 (dk_at dksL_law_35 2 rfl rfl)
theorem dL_law_888 : decode cL_law 888 = .ok (.iconst 0, 1) := dk_3 (dk_at dksL_law_35 5 rfl rfl)
theorem dL_law_889 : decode cL_law 889 = .ok (.ireturn, 1) := dk_172 (dk_at dksL_law_35 6 rfl rfl)
theorem dL_law_890 : decode cL_law 890 = .ok (.iload 5, 2) := dk_21 5 (dk_at dksL_law_35 7 rfl rfl)
theorem dL_law_892 : decode cL_law 892 = .ok (.ifCond .ne 15, 3) := dk_154 0 15 (dk_at dksL_law_35 9 rfl rfl)
theorem dL_law_895 : decode cL_law 895 = .ok (.aload_n 3, 1) := dk_45 (dk_at dksL_law_35 12 rfl rfl)
theorem dL_law_896 : decode cL_law 896 = .ok (.iconst 0, 1) := dk_3 (dk_at dksL_law_35 13 rfl rfl)
theorem dL_law_897 : decode cL_law 897 = .ok (.laload, 1) := dk_47 (dk_at dksL_law_35 14 rfl rfl)
theorem dL_law_898 : decode cL_law 898 = .ok (.iload 6, 2) := dk_21 6 (dk_at dksL_law_35 15 rfl rfl)
theorem dL_law_900 : decode cL_law 900 = .ok (.i2l, 1) := dk_133 (dk_at dksL_law_35 17 rfl rfl)
theorem dL_law_901 : decode cL_law 901 = .ok (.lcmp, 1) := dk_148 (dk_at dksL_law_35 18 rfl rfl)
theorem dL_law_902 : decode cL_law 902 = .ok (.ifCond .eq 5, 3) := dk_153 0 5 (dk_at dksL_law_35 19 rfl rfl)
theorem dL_law_905 : decode cL_law 905 = .ok (.iconst 0, 1) := dk_3 (dk_at dksL_law_35 22 rfl rfl)
theorem dL_law_906 : decode cL_law 906 = .ok (.ireturn, 1) := dk_172 (dk_at dksL_law_35 23 rfl rfl)
theorem dL_law_907 : decode cL_law 907 = .ok (.goto 307, 3) := dk_167 1 51 (dk_at dksL_law_36 0 rfl rfl)
theorem dL_law_910 : decode cL_law 910 = .ok (.aload_n 1, 1) := dk_43 (dk_at dksL_law_36 3 rfl rfl)
theorem dL_law_911 : decode cL_law 911 = .ok (.aload_n 0, 1) := dk_42 (dk_at dksL_law_36 4 rfl rfl)
theorem dL_law_912 : decode cL_law 912 = .ok (.iload 4, 2) := dk_21 4 (dk_at dksL_law_36 5 rfl rfl)
theorem dL_law_914 : decode cL_law 914 = .ok (.iconst 1, 1) := dk_4 (dk_at dksL_law_36 7 rfl rfl)
theorem dL_law_915 : decode cL_law 915 = .ok (.iadd, 1) := dk_96 (dk_at dksL_law_36 8 rfl rfl)
theorem dL_law_916 : decode cL_law 916 = .ok (.iaload, 1) := dk_46 (dk_at dksL_law_36 9 rfl rfl)
theorem dL_law_917 : decode cL_law 917 = .ok (.aload_n 0, 1) := dk_42 (dk_at dksL_law_36 10 rfl rfl)
theorem dL_law_918 : decode cL_law 918 = .ok (.iload 4, 2) := dk_21 4 (dk_at dksL_law_36 11 rfl rfl)
theorem dL_law_920 : decode cL_law 920 = .ok (.iconst 2, 1) := dk_5 (dk_at dksL_law_36 13 rfl rfl)
theorem dL_law_921 : decode cL_law 921 = .ok (.iadd, 1) := dk_96 (dk_at dksL_law_36 14 rfl rfl)
theorem dL_law_922 : decode cL_law 922 = .ok (.iaload, 1) := dk_46 (dk_at dksL_law_36 15 rfl rfl)
theorem dL_law_923 : decode cL_law 923 = .ok (.aload_n 3, 1) := dk_45 (dk_at dksL_law_36 16 rfl rfl)
theorem dL_law_924 : decode cL_law 924 = .ok (.invokestatic 122, 3) := dk_184 0 122 (dk_at dksL_law_36 17 rfl rfl)
theorem dL_law_927 : decode cL_law 927 = .ok (.istore 5, 2) := dk_54 5 (dk_at dksL_law_36 20 rfl rfl)
theorem dL_law_929 : decode cL_law 929 = .ok (.aload_n 2, 1) := dk_44 (dk_at dksL_law_36 22 rfl rfl)
theorem dL_law_930 : decode cL_law 930 = .ok (.aload_n 0, 1) := dk_42 (dk_at dksL_law_36 23 rfl rfl)
theorem dL_law_931 : decode cL_law 931 = .ok (.iload 4, 2) := dk_21 4 (dk_at dksL_law_37 0 rfl rfl)
theorem dL_law_933 : decode cL_law 933 = .ok (.iconst 1, 1) := dk_4 (dk_at dksL_law_37 2 rfl rfl)
theorem dL_law_934 : decode cL_law 934 = .ok (.iadd, 1) := dk_96 (dk_at dksL_law_37 3 rfl rfl)
theorem dL_law_935 : decode cL_law 935 = .ok (.iaload, 1) := dk_46 (dk_at dksL_law_37 4 rfl rfl)
theorem dL_law_936 : decode cL_law 936 = .ok (.aload_n 0, 1) := dk_42 (dk_at dksL_law_37 5 rfl rfl)
theorem dL_law_937 : decode cL_law 937 = .ok (.iload 4, 2) := dk_21 4 (dk_at dksL_law_37 6 rfl rfl)
theorem dL_law_939 : decode cL_law 939 = .ok (.iconst 2, 1) := dk_5 (dk_at dksL_law_37 8 rfl rfl)
theorem dL_law_940 : decode cL_law 940 = .ok (.iadd, 1) := dk_96 (dk_at dksL_law_37 9 rfl rfl)
theorem dL_law_941 : decode cL_law 941 = .ok (.iaload, 1) := dk_46 (dk_at dksL_law_37 10 rfl rfl)
theorem dL_law_942 : decode cL_law 942 = .ok (.invokevirtual 124, 3) := dk_182 0 124 (dk_at dksL_law_37 11 rfl rfl)
theorem dL_law_945 : decode cL_law 945 = .ok (.istore 6, 2) := dk_54 6 (dk_at dksL_law_37 14 rfl rfl)
theorem dL_law_947 : decode cL_law 947 = .ok (.aload_n 2, 1) := dk_44 (dk_at dksL_law_37 16 rfl rfl)
theorem dL_law_948 : decode cL_law 948 = .ok (.invokevirtual 74, 3) := dk_182 0 74 (dk_at dksL_law_37 17 rfl rfl)
theorem dL_law_951 : decode cL_law 951 = .ok (.iload 5, 2) := dk_21 5 (dk_at dksL_law_37 20 rfl rfl)
theorem dL_law_953 : decode cL_law 953 = .ok (.if_icmp .eq 5, 3) := dk_159 0 5 (dk_at dksL_law_38 0 rfl rfl)
theorem dL_law_956 : decode cL_law 956 = .ok (.iconst 0, 1) := dk_3 (dk_at dksL_law_38 3 rfl rfl)
theorem dL_law_957 : decode cL_law 957 = .ok (.ireturn, 1) := dk_172 (dk_at dksL_law_38 4 rfl rfl)
theorem dL_law_958 : decode cL_law 958 = .ok (.iload 5, 2) := dk_21 5 (dk_at dksL_law_38 5 rfl rfl)
theorem dL_law_960 : decode cL_law 960 = .ok (.ifCond .ne 15, 3) := dk_154 0 15 (dk_at dksL_law_38 7 rfl rfl)
theorem dL_law_963 : decode cL_law 963 = .ok (.aload_n 3, 1) := dk_45 (dk_at dksL_law_38 10 rfl rfl)
theorem dL_law_964 : decode cL_law 964 = .ok (.iconst 0, 1) := dk_3 (dk_at dksL_law_38 11 rfl rfl)
theorem dL_law_965 : decode cL_law 965 = .ok (.laload, 1) := dk_47 (dk_at dksL_law_38 12 rfl rfl)
theorem dL_law_966 : decode cL_law 966 = .ok (.iload 6, 2) := dk_21 6 (dk_at dksL_law_38 13 rfl rfl)
theorem dL_law_968 : decode cL_law 968 = .ok (.i2l, 1) := dk_133 (dk_at dksL_law_38 15 rfl rfl)
theorem dL_law_969 : decode cL_law 969 = .ok (.lcmp, 1) := dk_148 (dk_at dksL_law_38 16 rfl rfl)
theorem dL_law_970 : decode cL_law 970 = .ok (.ifCond .eq 5, 3) := dk_153 0 5 (dk_at dksL_law_38 17 rfl rfl)
theorem dL_law_973 : decode cL_law 973 = .ok (.iconst 0, 1) := dk_3 (dk_at dksL_law_38 20 rfl rfl)
theorem dL_law_974 : decode cL_law 974 = .ok (.ireturn, 1) := dk_172 (dk_at dksL_law_38 21 rfl rfl)
theorem dL_law_975 : decode cL_law 975 = .ok (.goto 239, 3) := dk_167 0 239 (dk_at dksL_law_39 0 rfl rfl)
theorem dL_law_978 : decode cL_law 978 = .ok (.aload_n 1, 1) := dk_43 (dk_at dksL_law_39 3 rfl rfl)
theorem dL_law_979 : decode cL_law 979 = .ok (.aload_n 0, 1) := dk_42 (dk_at dksL_law_39 4 rfl rfl)
theorem dL_law_980 : decode cL_law 980 = .ok (.iload 4, 2) := dk_21 4 (dk_at dksL_law_39 5 rfl rfl)
theorem dL_law_982 : decode cL_law 982 = .ok (.iconst 1, 1) := dk_4 (dk_at dksL_law_39 7 rfl rfl)
theorem dL_law_983 : decode cL_law 983 = .ok (.iadd, 1) := dk_96 (dk_at dksL_law_39 8 rfl rfl)
theorem dL_law_984 : decode cL_law 984 = .ok (.iaload, 1) := dk_46 (dk_at dksL_law_39 9 rfl rfl)
theorem dL_law_985 : decode cL_law 985 = .ok (.aload_n 3, 1) := dk_45 (dk_at dksL_law_39 10 rfl rfl)
theorem dL_law_986 : decode cL_law 986 = .ok (.invokestatic 125, 3) := dk_184 0 125 (dk_at dksL_law_39 11 rfl rfl)
theorem dL_law_989 : decode cL_law 989 = .ok (.istore 5, 2) := dk_54 5 (dk_at dksL_law_39 14 rfl rfl)
theorem dL_law_991 : decode cL_law 991 = .ok (.aload_n 2, 1) := dk_44 (dk_at dksL_law_39 16 rfl rfl)
theorem dL_law_992 : decode cL_law 992 = .ok (.aload_n 0, 1) := dk_42 (dk_at dksL_law_39 17 rfl rfl)
theorem dL_law_993 : decode cL_law 993 = .ok (.iload 4, 2) := dk_21 4 (dk_at dksL_law_39 18 rfl rfl)
theorem dL_law_995 : decode cL_law 995 = .ok (.iconst 1, 1) := dk_4 (dk_at dksL_law_39 20 rfl rfl)
theorem dL_law_996 : decode cL_law 996 = .ok (.iadd, 1) := dk_96 (dk_at dksL_law_39 21 rfl rfl)
theorem dL_law_997 : decode cL_law 997 = .ok (.iaload, 1) := dk_46 (dk_at dksL_law_39 22 rfl rfl)
theorem dL_law_998 : decode cL_law 998 = .ok (.invokevirtual 127, 3) := dk_182 0 127 (dk_at dksL_law_40 0 rfl rfl)
theorem dL_law_1001 : decode cL_law 1001 = .ok (.istore 6, 2) := dk_54 6 (dk_at dksL_law_40 3 rfl rfl)
theorem dL_law_1003 : decode cL_law 1003 = .ok (.aload_n 2, 1) := dk_44 (dk_at dksL_law_40 5 rfl rfl)
theorem dL_law_1004 : decode cL_law 1004 = .ok (.invokevirtual 74, 3) := dk_182 0 74 (dk_at dksL_law_40 6 rfl rfl)
theorem dL_law_1007 : decode cL_law 1007 = .ok (.iload 5, 2) := dk_21 5 (dk_at dksL_law_40 9 rfl rfl)
theorem dL_law_1009 : decode cL_law 1009 = .ok (.if_icmp .eq 5, 3) := dk_159 0 5 (dk_at dksL_law_40 11 rfl rfl)
theorem dL_law_1012 : decode cL_law 1012 = .ok (.iconst 0, 1) := dk_3 (dk_at dksL_law_40 14 rfl rfl)
theorem dL_law_1013 : decode cL_law 1013 = .ok (.ireturn, 1) := dk_172 (dk_at dksL_law_40 15 rfl rfl)
theorem dL_law_1014 : decode cL_law 1014 = .ok (.iload 5, 2) := dk_21 5 (dk_at dksL_law_40 16 rfl rfl)
theorem dL_law_1016 : decode cL_law 1016 = .ok (.ifCond .ne 15, 3) := dk_154 0 15 (dk_at dksL_law_40 18 rfl rfl)
theorem dL_law_1019 : decode cL_law 1019 = .ok (.aload_n 3, 1) := dk_45 (dk_at dksL_law_40 21 rfl rfl)
theorem dL_law_1020 : decode cL_law 1020 = .ok (.iconst 0, 1) := dk_3 (dk_at dksL_law_40 22 rfl rfl)
theorem dL_law_1021 : decode cL_law 1021 = .ok (.laload, 1) := dk_47 (dk_at dksL_law_40 23 rfl rfl)
theorem dL_law_1022 : decode cL_law 1022 = .ok (.iload 6, 2) := dk_21 6 (dk_at dksL_law_41 0 rfl rfl)
theorem dL_law_1024 : decode cL_law 1024 = .ok (.i2l, 1) := dk_133 (dk_at dksL_law_41 2 rfl rfl)
theorem dL_law_1025 : decode cL_law 1025 = .ok (.lcmp, 1) := dk_148 (dk_at dksL_law_41 3 rfl rfl)
theorem dL_law_1026 : decode cL_law 1026 = .ok (.ifCond .eq 5, 3) := dk_153 0 5 (dk_at dksL_law_41 4 rfl rfl)
theorem dL_law_1029 : decode cL_law 1029 = .ok (.iconst 0, 1) := dk_3 (dk_at dksL_law_41 7 rfl rfl)
theorem dL_law_1030 : decode cL_law 1030 = .ok (.ireturn, 1) := dk_172 (dk_at dksL_law_41 8 rfl rfl)
theorem dL_law_1031 : decode cL_law 1031 = .ok (.goto 183, 3) := dk_167 0 183 (dk_at dksL_law_41 9 rfl rfl)
theorem dL_law_1034 : decode cL_law 1034 = .ok (.aload_n 1, 1) := dk_43 (dk_at dksL_law_41 12 rfl rfl)
theorem dL_law_1035 : decode cL_law 1035 = .ok (.aload_n 0, 1) := dk_42 (dk_at dksL_law_41 13 rfl rfl)
theorem dL_law_1036 : decode cL_law 1036 = .ok (.iload 4, 2) := dk_21 4 (dk_at dksL_law_41 14 rfl rfl)
theorem dL_law_1038 : decode cL_law 1038 = .ok (.iconst 1, 1) := dk_4 (dk_at dksL_law_41 16 rfl rfl)
theorem dL_law_1039 : decode cL_law 1039 = .ok (.iadd, 1) := dk_96 (dk_at dksL_law_41 17 rfl rfl)
theorem dL_law_1040 : decode cL_law 1040 = .ok (.iaload, 1) := dk_46 (dk_at dksL_law_41 18 rfl rfl)
theorem dL_law_1041 : decode cL_law 1041 = .ok (.aload_n 3, 1) := dk_45 (dk_at dksL_law_41 19 rfl rfl)
theorem dL_law_1042 : decode cL_law 1042 = .ok (.invokestatic 128, 3) := dk_184 0 128 (dk_at dksL_law_41 20 rfl rfl)
theorem dL_law_1045 : decode cL_law 1045 = .ok (.istore 5, 2) := dk_54 5 (dk_at dksL_law_42 0 rfl rfl)
theorem dL_law_1047 : decode cL_law 1047 = .ok (.aload_n 2, 1) := dk_44 (dk_at dksL_law_42 2 rfl rfl)
theorem dL_law_1048 : decode cL_law 1048 = .ok (.aload_n 0, 1) := dk_42 (dk_at dksL_law_42 3 rfl rfl)
theorem dL_law_1049 : decode cL_law 1049 = .ok (.iload 4, 2) := dk_21 4 (dk_at dksL_law_42 4 rfl rfl)
theorem dL_law_1051 : decode cL_law 1051 = .ok (.iconst 1, 1) := dk_4 (dk_at dksL_law_42 6 rfl rfl)
theorem dL_law_1052 : decode cL_law 1052 = .ok (.iadd, 1) := dk_96 (dk_at dksL_law_42 7 rfl rfl)
theorem dL_law_1053 : decode cL_law 1053 = .ok (.iaload, 1) := dk_46 (dk_at dksL_law_42 8 rfl rfl)
theorem dL_law_1054 : decode cL_law 1054 = .ok (.invokevirtual 130, 3) := dk_182 0 130 (dk_at dksL_law_42 9 rfl rfl)
theorem dL_law_1057 : decode cL_law 1057 = .ok (.istore 6, 2) := dk_54 6 (dk_at dksL_law_42 12 rfl rfl)
theorem dL_law_1059 : decode cL_law 1059 = .ok (.aload_n 2, 1) := dk_44 (dk_at dksL_law_42 14 rfl rfl)
theorem dL_law_1060 : decode cL_law 1060 = .ok (.invokevirtual 74, 3) := dk_182 0 74 (dk_at dksL_law_42 15 rfl rfl)
theorem dL_law_1063 : decode cL_law 1063 = .ok (.iload 5, 2) := dk_21 5 (dk_at dksL_law_42 18 rfl rfl)
theorem dL_law_1065 : decode cL_law 1065 = .ok (.if_icmp .eq 5, 3) := dk_159 0 5 (dk_at dksL_law_42 20 rfl rfl)
theorem dL_law_1068 : decode cL_law 1068 = .ok (.iconst 0, 1) := dk_3 (dk_at dksL_law_42 23 rfl rfl)
theorem dL_law_1069 : decode cL_law 1069 = .ok (.ireturn, 1) := dk_172 (dk_at dksL_law_43 0 rfl rfl)
theorem dL_law_1070 : decode cL_law 1070 = .ok (.iload 5, 2) := dk_21 5 (dk_at dksL_law_43 1 rfl rfl)
theorem dL_law_1072 : decode cL_law 1072 = .ok (.ifCond .ne 15, 3) := dk_154 0 15 (dk_at dksL_law_43 3 rfl rfl)
theorem dL_law_1075 : decode cL_law 1075 = .ok (.aload_n 3, 1) := dk_45 (dk_at dksL_law_43 6 rfl rfl)
theorem dL_law_1076 : decode cL_law 1076 = .ok (.iconst 0, 1) := dk_3 (dk_at dksL_law_43 7 rfl rfl)
theorem dL_law_1077 : decode cL_law 1077 = .ok (.laload, 1) := dk_47 (dk_at dksL_law_43 8 rfl rfl)
theorem dL_law_1078 : decode cL_law 1078 = .ok (.iload 6, 2) := dk_21 6 (dk_at dksL_law_43 9 rfl rfl)
theorem dL_law_1080 : decode cL_law 1080 = .ok (.i2l, 1) := dk_133 (dk_at dksL_law_43 11 rfl rfl)
theorem dL_law_1081 : decode cL_law 1081 = .ok (.lcmp, 1) := dk_148 (dk_at dksL_law_43 12 rfl rfl)
theorem dL_law_1082 : decode cL_law 1082 = .ok (.ifCond .eq 5, 3) := dk_153 0 5 (dk_at dksL_law_43 13 rfl rfl)
theorem dL_law_1085 : decode cL_law 1085 = .ok (.iconst 0, 1) := dk_3 (dk_at dksL_law_43 16 rfl rfl)
theorem dL_law_1086 : decode cL_law 1086 = .ok (.ireturn, 1) := dk_172 (dk_at dksL_law_43 17 rfl rfl)
theorem dL_law_1087 : decode cL_law 1087 = .ok (.goto 127, 3) := dk_167 0 127 (dk_at dksL_law_43 18 rfl rfl)
theorem dL_law_1090 : decode cL_law 1090 = .ok (.aload_n 1, 1) := dk_43 (dk_at dksL_law_43 21 rfl rfl)
theorem dL_law_1091 : decode cL_law 1091 = .ok (.invokevirtual 131, 3) := dk_182 0 131 (dk_at dksL_law_44 0 rfl rfl)
theorem dL_law_1094 : decode cL_law 1094 = .ok (.aload_n 2, 1) := dk_44 (dk_at dksL_law_44 3 rfl rfl)
theorem dL_law_1095 : decode cL_law 1095 = .ok (.invokevirtual 134, 3) := dk_182 0 134 (dk_at dksL_law_44 4 rfl rfl)
theorem dL_law_1098 : decode cL_law 1098 = .ok (.if_icmp .eq 116, 3) := dk_159 0 116 (dk_at dksL_law_44 7 rfl rfl)
theorem dL_law_1101 : decode cL_law 1101 = .ok (.iconst 0, 1) := dk_3 (dk_at dksL_law_44 10 rfl rfl)
theorem dL_law_1102 : decode cL_law 1102 = .ok (.ireturn, 1) := dk_172 (dk_at dksL_law_44 11 rfl rfl)
theorem dL_law_1103 : decode cL_law 1103 = .ok (.aload_n 1, 1) := dk_43 (dk_at dksL_law_44 12 rfl rfl)
theorem dL_law_1104 : decode cL_law 1104 = .ok (.aload_n 0, 1) := dk_42 (dk_at dksL_law_44 13 rfl rfl)
theorem dL_law_1105 : decode cL_law 1105 = .ok (.iload 4, 2) := dk_21 4 (dk_at dksL_law_44 14 rfl rfl)
theorem dL_law_1107 : decode cL_law 1107 = .ok (.iconst 1, 1) := dk_4 (dk_at dksL_law_44 16 rfl rfl)
theorem dL_law_1108 : decode cL_law 1108 = .ok (.iadd, 1) := dk_96 (dk_at dksL_law_44 17 rfl rfl)
theorem dL_law_1109 : decode cL_law 1109 = .ok (.iaload, 1) := dk_46 (dk_at dksL_law_44 18 rfl rfl)
theorem dL_law_1110 : decode cL_law 1110 = .ok (.aload_n 3, 1) := dk_45 (dk_at dksL_law_44 19 rfl rfl)
theorem dL_law_1111 : decode cL_law 1111 = .ok (.invokestatic 135, 3) := dk_184 0 135 (dk_at dksL_law_44 20 rfl rfl)
theorem dL_law_1114 : decode cL_law 1114 = .ok (.istore 5, 2) := dk_54 5 (dk_at dksL_law_45 0 rfl rfl)
theorem dL_law_1116 : decode cL_law 1116 = .ok (.aload_n 2, 1) := dk_44 (dk_at dksL_law_45 2 rfl rfl)
theorem dL_law_1117 : decode cL_law 1117 = .ok (.aload_n 0, 1) := dk_42 (dk_at dksL_law_45 3 rfl rfl)
theorem dL_law_1118 : decode cL_law 1118 = .ok (.iload 4, 2) := dk_21 4 (dk_at dksL_law_45 4 rfl rfl)
theorem dL_law_1120 : decode cL_law 1120 = .ok (.iconst 1, 1) := dk_4 (dk_at dksL_law_45 6 rfl rfl)
theorem dL_law_1121 : decode cL_law 1121 = .ok (.iadd, 1) := dk_96 (dk_at dksL_law_45 7 rfl rfl)
theorem dL_law_1122 : decode cL_law 1122 = .ok (.iaload, 1) := dk_46 (dk_at dksL_law_45 8 rfl rfl)
theorem dL_law_1123 : decode cL_law 1123 = .ok (.invokevirtual 137, 3) := dk_182 0 137 (dk_at dksL_law_45 9 rfl rfl)
theorem dL_law_1126 : decode cL_law 1126 = .ok (.istore 6, 2) := dk_54 6 (dk_at dksL_law_45 12 rfl rfl)
theorem dL_law_1128 : decode cL_law 1128 = .ok (.aload_n 2, 1) := dk_44 (dk_at dksL_law_45 14 rfl rfl)
theorem dL_law_1129 : decode cL_law 1129 = .ok (.invokevirtual 74, 3) := dk_182 0 74 (dk_at dksL_law_45 15 rfl rfl)
theorem dL_law_1132 : decode cL_law 1132 = .ok (.iload 5, 2) := dk_21 5 (dk_at dksL_law_45 18 rfl rfl)
theorem dL_law_1134 : decode cL_law 1134 = .ok (.if_icmp .eq 5, 3) := dk_159 0 5 (dk_at dksL_law_45 20 rfl rfl)
theorem dL_law_1137 : decode cL_law 1137 = .ok (.iconst 0, 1) := dk_3 (dk_at dksL_law_45 23 rfl rfl)
theorem dL_law_1138 : decode cL_law 1138 = .ok (.ireturn, 1) := dk_172 (dk_at dksL_law_46 0 rfl rfl)
theorem dL_law_1139 : decode cL_law 1139 = .ok (.iload 5, 2) := dk_21 5 (dk_at dksL_law_46 1 rfl rfl)
theorem dL_law_1141 : decode cL_law 1141 = .ok (.ifCond .ne 15, 3) := dk_154 0 15 (dk_at dksL_law_46 3 rfl rfl)
theorem dL_law_1144 : decode cL_law 1144 = .ok (.aload_n 3, 1) := dk_45 (dk_at dksL_law_46 6 rfl rfl)
theorem dL_law_1145 : decode cL_law 1145 = .ok (.iconst 0, 1) := dk_3 (dk_at dksL_law_46 7 rfl rfl)
theorem dL_law_1146 : decode cL_law 1146 = .ok (.laload, 1) := dk_47 (dk_at dksL_law_46 8 rfl rfl)
theorem dL_law_1147 : decode cL_law 1147 = .ok (.iload 6, 2) := dk_21 6 (dk_at dksL_law_46 9 rfl rfl)
theorem dL_law_1149 : decode cL_law 1149 = .ok (.i2l, 1) := dk_133 (dk_at dksL_law_46 11 rfl rfl)
theorem dL_law_1150 : decode cL_law 1150 = .ok (.lcmp, 1) := dk_148 (dk_at dksL_law_46 12 rfl rfl)
theorem dL_law_1151 : decode cL_law 1151 = .ok (.ifCond .eq 5, 3) := dk_153 0 5 (dk_at dksL_law_46 13 rfl rfl)
theorem dL_law_1154 : decode cL_law 1154 = .ok (.iconst 0, 1) := dk_3 (dk_at dksL_law_46 16 rfl rfl)
theorem dL_law_1155 : decode cL_law 1155 = .ok (.ireturn, 1) := dk_172 (dk_at dksL_law_46 17 rfl rfl)
theorem dL_law_1156 : decode cL_law 1156 = .ok (.goto 58, 3) := dk_167 0 58 (dk_at dksL_law_46 18 rfl rfl)
theorem dL_law_1159 : decode cL_law 1159 = .ok (.aload_n 1, 1) := dk_43 (dk_at dksL_law_46 21 rfl rfl)
theorem dL_law_1160 : decode cL_law 1160 = .ok (.invokevirtual 138, 3) := dk_182 0 138 (dk_at dksL_law_47 0 rfl rfl)
theorem dL_law_1163 : decode cL_law 1163 = .ok (.dstore 5, 2) := dk_57 5 (dk_at dksL_law_47 3 rfl rfl)
theorem dL_law_1165 : decode cL_law 1165 = .ok (.aload_n 2, 1) := dk_44 (dk_at dksL_law_47 5 rfl rfl)
theorem dL_law_1166 : decode cL_law 1166 = .ok (.invokevirtual 142, 3) := dk_182 0 142 (dk_at dksL_law_47 6 rfl rfl)
theorem dL_law_1169 : decode cL_law 1169 = .ok (.dstore 7, 2) := dk_57 7 (dk_at dksL_law_47 9 rfl rfl)
theorem dL_law_1171 : decode cL_law 1171 = .ok (.dload 5, 2) := dk_24 5 (dk_at dksL_law_47 11 rfl rfl)
theorem dL_law_1173 : decode cL_law 1173 = .ok (.dload 7, 2) := dk_24 7 (dk_at dksL_law_47 13 rfl rfl)
theorem dL_law_1175 : decode cL_law 1175 = .ok (.dcmp .l, 1) := dk_151 (dk_at dksL_law_47 15 rfl rfl)
theorem dL_law_1176 : decode cL_law 1176 = .ok (.ifCond .eq 21, 3) := dk_153 0 21 (dk_at dksL_law_47 16 rfl rfl)
theorem dL_law_1179 : decode cL_law 1179 = .ok (.dload 5, 2) := dk_24 5 (dk_at dksL_law_47 19 rfl rfl)
theorem dL_law_1181 : decode cL_law 1181 = .ok (.dload 5, 2) := dk_24 5 (dk_at dksL_law_47 21 rfl rfl)
theorem dL_law_1183 : decode cL_law 1183 = .ok (.dcmp .l, 1) := dk_151 (dk_at dksL_law_47 23 rfl rfl)
theorem dL_law_1184 : decode cL_law 1184 = .ok (.ifCond .eq 11, 3) := dk_153 0 11 (dk_at dksL_law_48 0 rfl rfl)
theorem dL_law_1187 : decode cL_law 1187 = .ok (.dload 7, 2) := dk_24 7 (dk_at dksL_law_48 3 rfl rfl)
theorem dL_law_1189 : decode cL_law 1189 = .ok (.dload 7, 2) := dk_24 7 (dk_at dksL_law_48 5 rfl rfl)
theorem dL_law_1191 : decode cL_law 1191 = .ok (.dcmp .l, 1) := dk_151 (dk_at dksL_law_48 7 rfl rfl)
theorem dL_law_1192 : decode cL_law 1192 = .ok (.ifCond .ne 5, 3) := dk_154 0 5 (dk_at dksL_law_48 8 rfl rfl)
theorem dL_law_1195 : decode cL_law 1195 = .ok (.iconst 0, 1) := dk_3 (dk_at dksL_law_48 11 rfl rfl)
theorem dL_law_1196 : decode cL_law 1196 = .ok (.ireturn, 1) := dk_172 (dk_at dksL_law_48 12 rfl rfl)
theorem dL_law_1197 : decode cL_law 1197 = .ok (.goto 17, 3) := dk_167 0 17 (dk_at dksL_law_48 13 rfl rfl)
theorem dL_law_1200 : decode cL_law 1200 = .ok (.aload_n 1, 1) := dk_43 (dk_at dksL_law_48 16 rfl rfl)
theorem dL_law_1201 : decode cL_law 1201 = .ok (.invokevirtual 143, 3) := dk_182 0 143 (dk_at dksL_law_48 17 rfl rfl)
theorem dL_law_1204 : decode cL_law 1204 = .ok (.aload_n 2, 1) := dk_44 (dk_at dksL_law_48 20 rfl rfl)
theorem dL_law_1205 : decode cL_law 1205 = .ok (.invokevirtual 147, 3) := dk_182 0 147 (dk_at dksL_law_48 21 rfl rfl)
theorem dL_law_1208 : decode cL_law 1208 = .ok (.lcmp, 1) := dk_148 (dk_at dksL_law_49 0 rfl rfl)
theorem dL_law_1209 : decode cL_law 1209 = .ok (.ifCond .eq 5, 3) := dk_153 0 5 (dk_at dksL_law_49 1 rfl rfl)
theorem dL_law_1212 : decode cL_law 1212 = .ok (.iconst 0, 1) := dk_3 (dk_at dksL_law_49 4 rfl rfl)
theorem dL_law_1213 : decode cL_law 1213 = .ok (.ireturn, 1) := dk_172 (dk_at dksL_law_49 5 rfl rfl)
theorem dL_law_1214 : decode cL_law 1214 = .ok (.iinc 4 6, 3) := dk_132 4 6 (dk_at dksL_law_49 6 rfl rfl)
theorem dL_law_1217 : decode cL_law 1217 = .ok (.goto (-1194), 3) := dk_167 251 86 (dk_at dksL_law_49 9 rfl rfl)
theorem dL_law_1220 : decode cL_law 1220 = .ok (.iconst 1, 1) := dk_4 (dk_at dksL_law_49 12 rfl rfl)
theorem dL_law_1221 : decode cL_law 1221 = .ok (.ireturn, 1) := dk_172 (dk_at dksL_law_49 13 rfl rfl)
theorem q140 : (Jvm.Cond.classLink "DebateHallLaw" (8 : Nat) "DebateHall") ∈ lw_all := lw_g (lw_at lw_m1 60 rfl) rfl
theorem q144 : (Jvm.Cond.code ({ cls := "DebateHall", name := "<init>", desc := "()V" } : Jvm.MethodName) prog_1_method_5_code (1 : Nat) (Option.none : Option Jvm.ClassFile.FieldType)) ∈ lw_all := lw_g (lw_at lw_m1 64 rfl) rfl
theorem zk_X1_init : zz_cd yX1_init cX1_init 1 none none ∈ lw_all := q144
theorem zy_X1_init : zz_yok yX1_init 0 = true := by decide +kernel
theorem q2375 : (Jvm.Cond.classLink "DebateHallLaw" (65 : Nat) "DebateHallModel") ∈ lw_all := lw_g (lw_at lw_m10 135 rfl) rfl
theorem q2379 : (Jvm.Cond.code ({ cls := "DebateHallModel", name := "<init>", desc := "()V" } : Jvm.MethodName) prog_25_method_3_code (1 : Nat) (Option.none : Option Jvm.ClassFile.FieldType)) ∈ lw_all := lw_g (lw_at lw_m10 139 rfl) rfl
theorem zk_X4_init : zz_cd yX4_init cX4_init 1 none none ∈ lw_all := q2379
theorem zy_X4_init : zz_yok yX4_init 0 = true := by decide +kernel
theorem q2377 : (Jvm.Cond.methodLink "DebateHallLaw" (67 : Nat) ({ cls := "DebateHallModel", name := "<init>", desc := "()V" } : Jvm.MethodName)) ∈ lw_all := lw_g (lw_at lw_m10 137 rfl) rfl
theorem q2378 : (Jvm.Cond.instanceMethod ({ cls := "DebateHallModel", name := "<init>", desc := "()V" } : Jvm.MethodName)) ∈ lw_all := lw_g (lw_at lw_m10 138 rfl) rfl
theorem q142 : (Jvm.Cond.methodLink "DebateHallLaw" (64 : Nat) ({ cls := "DebateHall", name := "<init>", desc := "()V" } : Jvm.MethodName)) ∈ lw_all := lw_g (lw_at lw_m1 62 rfl) rfl
theorem q143 : (Jvm.Cond.instanceMethod ({ cls := "DebateHall", name := "<init>", desc := "()V" } : Jvm.MethodName)) ∈ lw_all := lw_g (lw_at lw_m1 63 rfl) rfl
theorem q2215 : (Jvm.Cond.codeWith ({ cls := "DebateHallLaw", name := "feed", desc := "(LDebateHall;IIIII[J)I" } : Jvm.MethodName) method_3_code (8 : Nat) (Option.some Jvm.ClassFile.FieldType.int) [((0 : Nat), (16 : Nat), (19 : Nat), (13 : Nat))]) ∈ lw_all := lw_g (lw_at lw_m9 215 rfl) rfl
theorem zk_X0_feed : zz_cd yX0_feed cX0_feed 8 (some .int) (some [(0, 16, 19, 13)]) ∈ lw_all := q2215
theorem zy_X0_feed : zz_yok yX0_feed 7 = true := by decide +kernel
theorem q2516 : (Jvm.Cond.code ({ cls := "DebateHallModel", name := "feed", desc := "(IIIII)I" } : Jvm.MethodName) prog_25_method_43_code (8 : Nat) (Option.some Jvm.ClassFile.FieldType.int)) ∈ lw_all := lw_g (lw_at lw_m11 36 rfl) rfl
theorem zk_X4_feed : zz_cd yX4_feed cX4_feed 8 (some .int) none ∈ lw_all := q2516
theorem zy_X4_feed : zz_yok yX4_feed 5 = true := by decide +kernel
theorem q2512 : (Jvm.Cond.code ({ cls := "DebateHallModel", name := "thrown", desc := "()I" } : Jvm.MethodName) prog_25_method_4_code (1 : Nat) (Option.some Jvm.ClassFile.FieldType.int)) ∈ lw_all := lw_g (lw_at lw_m11 32 rfl) rfl
theorem zk_X4_thrown : zz_cd yX4_thrown cX4_thrown 1 (some .int) none ∈ lw_all := q2512
theorem zy_X4_thrown : zz_yok yX4_thrown 0 = true := by decide +kernel
theorem q2509 : (Jvm.Cond.methodLink "DebateHallLaw" (74 : Nat) ({ cls := "DebateHallModel", name := "thrown", desc := "()I" } : Jvm.MethodName)) ∈ lw_all := lw_g (lw_at lw_m11 29 rfl) rfl
theorem q2510 : (Jvm.Cond.instanceMethod ({ cls := "DebateHallModel", name := "thrown", desc := "()I" } : Jvm.MethodName)) ∈ lw_all := lw_g (lw_at lw_m11 30 rfl) rfl
theorem q2511 : (Jvm.Cond.selects "DebateHallModel" ({ cls := "DebateHallModel", name := "thrown", desc := "()I" } : Jvm.MethodName) ({ cls := "DebateHallModel", name := "thrown", desc := "()I" } : Jvm.MethodName)) ∈ lw_all := lw_g (lw_at lw_m11 31 rfl) rfl
theorem q2513 : (Jvm.Cond.methodLink "DebateHallLaw" (73 : Nat) ({ cls := "DebateHallModel", name := "feed", desc := "(IIIII)I" } : Jvm.MethodName)) ∈ lw_all := lw_g (lw_at lw_m11 33 rfl) rfl
theorem q2514 : (Jvm.Cond.instanceMethod ({ cls := "DebateHallModel", name := "feed", desc := "(IIIII)I" } : Jvm.MethodName)) ∈ lw_all := lw_g (lw_at lw_m11 34 rfl) rfl
theorem q2515 : (Jvm.Cond.selects "DebateHallModel" ({ cls := "DebateHallModel", name := "feed", desc := "(IIIII)I" } : Jvm.MethodName) ({ cls := "DebateHallModel", name := "feed", desc := "(IIIII)I" } : Jvm.MethodName)) ∈ lw_all := lw_g (lw_at lw_m11 35 rfl) rfl
theorem q2213 : (Jvm.Cond.methodLink "DebateHallLaw" (68 : Nat) ({ cls := "DebateHallLaw", name := "feed", desc := "(LDebateHall;IIIII[J)I" } : Jvm.MethodName)) ∈ lw_all := lw_g (lw_at lw_m9 213 rfl) rfl
theorem q80 : (Jvm.Cond.initialized "DebateHallLaw") ∈ lw_all := lw_g (lw_at lw_m1 0 rfl) rfl
theorem zl_DebateHallLaw : Cond.initialized "DebateHallLaw" ∈ lw_all := q80
theorem q2214 : (Jvm.Cond.static ({ cls := "DebateHallLaw", name := "feed", desc := "(LDebateHall;IIIII[J)I" } : Jvm.MethodName)) ∈ lw_all := lw_g (lw_at lw_m9 214 rfl) rfl
theorem q2245 : (Jvm.Cond.codeWith ({ cls := "DebateHallLaw", name := "trim", desc := "(LDebateHall;I[J)I" } : Jvm.MethodName) method_4_code (4 : Nat) (Option.some Jvm.ClassFile.FieldType.int) [((0 : Nat), (9 : Nat), (12 : Nat), (19 : Nat))]) ∈ lw_all := lw_g (lw_at lw_m10 5 rfl) rfl
theorem zk_X0_trim : zz_cd yX0_trim cX0_trim 4 (some .int) (some [(0, 9, 12, 19)]) ∈ lw_all := q2245
theorem zy_X0_trim : zz_yok yX0_trim 3 = true := by decide +kernel
theorem q2524 : (Jvm.Cond.code ({ cls := "DebateHallModel", name := "trim", desc := "(I)I" } : Jvm.MethodName) prog_25_method_44_code (2 : Nat) (Option.some Jvm.ClassFile.FieldType.int)) ∈ lw_all := lw_g (lw_at lw_m11 44 rfl) rfl
theorem zk_X4_trim : zz_cd yX4_trim cX4_trim 2 (some .int) none ∈ lw_all := q2524
theorem zy_X4_trim : zz_yok yX4_trim 1 = true := by decide +kernel
theorem q2521 : (Jvm.Cond.methodLink "DebateHallLaw" (81 : Nat) ({ cls := "DebateHallModel", name := "trim", desc := "(I)I" } : Jvm.MethodName)) ∈ lw_all := lw_g (lw_at lw_m11 41 rfl) rfl
theorem q2522 : (Jvm.Cond.instanceMethod ({ cls := "DebateHallModel", name := "trim", desc := "(I)I" } : Jvm.MethodName)) ∈ lw_all := lw_g (lw_at lw_m11 42 rfl) rfl
theorem q2523 : (Jvm.Cond.selects "DebateHallModel" ({ cls := "DebateHallModel", name := "trim", desc := "(I)I" } : Jvm.MethodName) ({ cls := "DebateHallModel", name := "trim", desc := "(I)I" } : Jvm.MethodName)) ∈ lw_all := lw_g (lw_at lw_m11 43 rfl) rfl
theorem q2243 : (Jvm.Cond.methodLink "DebateHallLaw" (78 : Nat) ({ cls := "DebateHallLaw", name := "trim", desc := "(LDebateHall;I[J)I" } : Jvm.MethodName)) ∈ lw_all := lw_g (lw_at lw_m10 3 rfl) rfl
theorem q2244 : (Jvm.Cond.static ({ cls := "DebateHallLaw", name := "trim", desc := "(LDebateHall;I[J)I" } : Jvm.MethodName)) ∈ lw_all := lw_g (lw_at lw_m10 4 rfl) rfl
theorem q319 : (Jvm.Cond.codeWith ({ cls := "DebateHall", name := "tell", desc := "()I" } : Jvm.MethodName) prog_1_method_10_code (6 : Nat) (Option.some Jvm.ClassFile.FieldType.int) [((7 : Nat), (88 : Nat), (91 : Nat), (130 : Nat))]) ∈ lw_all := lw_g (lw_at lw_m1 239 rfl) rfl
theorem zk_X1_tell : zz_cd yX1_tell cX1_tell 6 (some .int) (some [(7, 88, 91, 130)]) ∈ lw_all := q319
theorem zy_X1_tell : zz_yok yX1_tell 0 = true := by decide +kernel
theorem q2531 : (Jvm.Cond.code ({ cls := "DebateHallModel", name := "tell", desc := "()I" } : Jvm.MethodName) prog_25_method_45_code (2 : Nat) (Option.some Jvm.ClassFile.FieldType.int)) ∈ lw_all := lw_g (lw_at lw_m11 51 rfl) rfl
theorem zk_X4_tell : zz_cd yX4_tell cX4_tell 2 (some .int) none ∈ lw_all := q2531
theorem zy_X4_tell : zz_yok yX4_tell 0 = true := by decide +kernel
theorem q2528 : (Jvm.Cond.methodLink "DebateHallLaw" (85 : Nat) ({ cls := "DebateHallModel", name := "tell", desc := "()I" } : Jvm.MethodName)) ∈ lw_all := lw_g (lw_at lw_m11 48 rfl) rfl
theorem q2529 : (Jvm.Cond.instanceMethod ({ cls := "DebateHallModel", name := "tell", desc := "()I" } : Jvm.MethodName)) ∈ lw_all := lw_g (lw_at lw_m11 49 rfl) rfl
theorem q2530 : (Jvm.Cond.selects "DebateHallModel" ({ cls := "DebateHallModel", name := "tell", desc := "()I" } : Jvm.MethodName) ({ cls := "DebateHallModel", name := "tell", desc := "()I" } : Jvm.MethodName)) ∈ lw_all := lw_g (lw_at lw_m11 50 rfl) rfl
theorem q316 : (Jvm.Cond.methodLink "DebateHallLaw" (82 : Nat) ({ cls := "DebateHall", name := "tell", desc := "()I" } : Jvm.MethodName)) ∈ lw_all := lw_g (lw_at lw_m1 236 rfl) rfl
theorem q317 : (Jvm.Cond.instanceMethod ({ cls := "DebateHall", name := "tell", desc := "()I" } : Jvm.MethodName)) ∈ lw_all := lw_g (lw_at lw_m1 237 rfl) rfl
theorem q318 : (Jvm.Cond.selects "DebateHall" ({ cls := "DebateHall", name := "tell", desc := "()I" } : Jvm.MethodName) ({ cls := "DebateHall", name := "tell", desc := "()I" } : Jvm.MethodName)) ∈ lw_all := lw_g (lw_at lw_m1 238 rfl) rfl
theorem q2012 : (Jvm.Cond.code ({ cls := "DebateHall", name := "errorAt", desc := "()I" } : Jvm.MethodName) prog_1_method_11_code (1 : Nat) (Option.some Jvm.ClassFile.FieldType.int)) ∈ lw_all := lw_g (lw_at lw_m9 12 rfl) rfl
theorem zk_X1_errorAt : zz_cd yX1_errorAt cX1_errorAt 1 (some .int) none ∈ lw_all := q2012
theorem zy_X1_errorAt : zz_yok yX1_errorAt 0 = true := by decide +kernel
theorem q2723 : (Jvm.Cond.code ({ cls := "DebateHallModel", name := "errorAt", desc := "()I" } : Jvm.MethodName) prog_25_method_46_code (1 : Nat) (Option.some Jvm.ClassFile.FieldType.int)) ∈ lw_all := lw_g (lw_at lw_m12 3 rfl) rfl
theorem zk_X4_errorAt : zz_cd yX4_errorAt cX4_errorAt 1 (some .int) none ∈ lw_all := q2723
theorem zy_X4_errorAt : zz_yok yX4_errorAt 0 = true := by decide +kernel
theorem q2720 : (Jvm.Cond.methodLink "DebateHallLaw" (89 : Nat) ({ cls := "DebateHallModel", name := "errorAt", desc := "()I" } : Jvm.MethodName)) ∈ lw_all := lw_g (lw_at lw_m12 0 rfl) rfl
theorem q2721 : (Jvm.Cond.instanceMethod ({ cls := "DebateHallModel", name := "errorAt", desc := "()I" } : Jvm.MethodName)) ∈ lw_all := lw_g (lw_at lw_m12 1 rfl) rfl
theorem q2722 : (Jvm.Cond.selects "DebateHallModel" ({ cls := "DebateHallModel", name := "errorAt", desc := "()I" } : Jvm.MethodName) ({ cls := "DebateHallModel", name := "errorAt", desc := "()I" } : Jvm.MethodName)) ∈ lw_all := lw_g (lw_at lw_m12 2 rfl) rfl
theorem q2009 : (Jvm.Cond.methodLink "DebateHallLaw" (86 : Nat) ({ cls := "DebateHall", name := "errorAt", desc := "()I" } : Jvm.MethodName)) ∈ lw_all := lw_g (lw_at lw_m9 9 rfl) rfl
theorem q2010 : (Jvm.Cond.instanceMethod ({ cls := "DebateHall", name := "errorAt", desc := "()I" } : Jvm.MethodName)) ∈ lw_all := lw_g (lw_at lw_m9 10 rfl) rfl
theorem q2011 : (Jvm.Cond.selects "DebateHall" ({ cls := "DebateHall", name := "errorAt", desc := "()I" } : Jvm.MethodName) ({ cls := "DebateHall", name := "errorAt", desc := "()I" } : Jvm.MethodName)) ∈ lw_all := lw_g (lw_at lw_m9 11 rfl) rfl
theorem q2264 : (Jvm.Cond.codeWith ({ cls := "DebateHallLaw", name := "count", desc := "(LDebateHall;I[J)I" } : Jvm.MethodName) method_5_code (4 : Nat) (Option.some Jvm.ClassFile.FieldType.int) [((0 : Nat), (9 : Nat), (12 : Nat), (24 : Nat))]) ∈ lw_all := lw_g (lw_at lw_m10 24 rfl) rfl
theorem zk_X0_count : zz_cd yX0_count cX0_count 4 (some .int) (some [(0, 9, 12, 24)]) ∈ lw_all := q2264
theorem zy_X0_count : zz_yok yX0_count 3 = true := by decide +kernel
theorem q2727 : (Jvm.Cond.code ({ cls := "DebateHallModel", name := "count", desc := "(I)I" } : Jvm.MethodName) prog_25_method_48_code (2 : Nat) (Option.some Jvm.ClassFile.FieldType.int)) ∈ lw_all := lw_g (lw_at lw_m12 7 rfl) rfl
theorem zk_X4_count : zz_cd yX4_count cX4_count 2 (some .int) none ∈ lw_all := q2727
theorem zy_X4_count : zz_yok yX4_count 1 = true := by decide +kernel
theorem q2724 : (Jvm.Cond.methodLink "DebateHallLaw" (92 : Nat) ({ cls := "DebateHallModel", name := "count", desc := "(I)I" } : Jvm.MethodName)) ∈ lw_all := lw_g (lw_at lw_m12 4 rfl) rfl
theorem q2725 : (Jvm.Cond.instanceMethod ({ cls := "DebateHallModel", name := "count", desc := "(I)I" } : Jvm.MethodName)) ∈ lw_all := lw_g (lw_at lw_m12 5 rfl) rfl
theorem q2726 : (Jvm.Cond.selects "DebateHallModel" ({ cls := "DebateHallModel", name := "count", desc := "(I)I" } : Jvm.MethodName) ({ cls := "DebateHallModel", name := "count", desc := "(I)I" } : Jvm.MethodName)) ∈ lw_all := lw_g (lw_at lw_m12 6 rfl) rfl
theorem q2262 : (Jvm.Cond.methodLink "DebateHallLaw" (90 : Nat) ({ cls := "DebateHallLaw", name := "count", desc := "(LDebateHall;I[J)I" } : Jvm.MethodName)) ∈ lw_all := lw_g (lw_at lw_m10 22 rfl) rfl
theorem q2263 : (Jvm.Cond.static ({ cls := "DebateHallLaw", name := "count", desc := "(LDebateHall;I[J)I" } : Jvm.MethodName)) ∈ lw_all := lw_g (lw_at lw_m10 23 rfl) rfl
theorem q2271 : (Jvm.Cond.codeWith ({ cls := "DebateHallLaw", name := "speaker", desc := "(LDebateHall;II[J)I" } : Jvm.MethodName) method_6_code (5 : Nat) (Option.some Jvm.ClassFile.FieldType.int) [((0 : Nat), (10 : Nat), (13 : Nat), (24 : Nat))]) ∈ lw_all := lw_g (lw_at lw_m10 31 rfl) rfl
theorem zk_X0_speaker : zz_cd yX0_speaker cX0_speaker 5 (some .int) (some [(0, 10, 13, 24)]) ∈ lw_all := q2271
theorem zy_X0_speaker : zz_yok yX0_speaker 4 = true := by decide +kernel
theorem q2735 : (Jvm.Cond.code ({ cls := "DebateHallModel", name := "speaker", desc := "(II)I" } : Jvm.MethodName) prog_25_method_50_code (3 : Nat) (Option.some Jvm.ClassFile.FieldType.int)) ∈ lw_all := lw_g (lw_at lw_m12 15 rfl) rfl
theorem zk_X4_speaker : zz_cd yX4_speaker cX4_speaker 3 (some .int) none ∈ lw_all := q2735
theorem zy_X4_speaker : zz_yok yX4_speaker 2 = true := by decide +kernel
theorem q2732 : (Jvm.Cond.methodLink "DebateHallLaw" (96 : Nat) ({ cls := "DebateHallModel", name := "speaker", desc := "(II)I" } : Jvm.MethodName)) ∈ lw_all := lw_g (lw_at lw_m12 12 rfl) rfl
theorem q2733 : (Jvm.Cond.instanceMethod ({ cls := "DebateHallModel", name := "speaker", desc := "(II)I" } : Jvm.MethodName)) ∈ lw_all := lw_g (lw_at lw_m12 13 rfl) rfl
theorem q2734 : (Jvm.Cond.selects "DebateHallModel" ({ cls := "DebateHallModel", name := "speaker", desc := "(II)I" } : Jvm.MethodName) ({ cls := "DebateHallModel", name := "speaker", desc := "(II)I" } : Jvm.MethodName)) ∈ lw_all := lw_g (lw_at lw_m12 14 rfl) rfl
theorem q2269 : (Jvm.Cond.methodLink "DebateHallLaw" (93 : Nat) ({ cls := "DebateHallLaw", name := "speaker", desc := "(LDebateHall;II[J)I" } : Jvm.MethodName)) ∈ lw_all := lw_g (lw_at lw_m10 29 rfl) rfl
theorem q2270 : (Jvm.Cond.static ({ cls := "DebateHallLaw", name := "speaker", desc := "(LDebateHall;II[J)I" } : Jvm.MethodName)) ∈ lw_all := lw_g (lw_at lw_m10 30 rfl) rfl
theorem q2282 : (Jvm.Cond.codeWith ({ cls := "DebateHallLaw", name := "item", desc := "(LDebateHall;II[J)I" } : Jvm.MethodName) method_7_code (5 : Nat) (Option.some Jvm.ClassFile.FieldType.int) [((0 : Nat), (10 : Nat), (13 : Nat), (24 : Nat))]) ∈ lw_all := lw_g (lw_at lw_m10 42 rfl) rfl
theorem zk_X0_item : zz_cd yX0_item cX0_item 5 (some .int) (some [(0, 10, 13, 24)]) ∈ lw_all := q2282
theorem zy_X0_item : zz_yok yX0_item 4 = true := by decide +kernel
theorem q2757 : (Jvm.Cond.code ({ cls := "DebateHallModel", name := "item", desc := "(II)I" } : Jvm.MethodName) prog_25_method_53_code (3 : Nat) (Option.some Jvm.ClassFile.FieldType.int)) ∈ lw_all := lw_g (lw_at lw_m12 37 rfl) rfl
theorem zk_X4_item : zz_cd yX4_item cX4_item 3 (some .int) none ∈ lw_all := q2757
theorem zy_X4_item : zz_yok yX4_item 2 = true := by decide +kernel
theorem q2754 : (Jvm.Cond.methodLink "DebateHallLaw" (99 : Nat) ({ cls := "DebateHallModel", name := "item", desc := "(II)I" } : Jvm.MethodName)) ∈ lw_all := lw_g (lw_at lw_m12 34 rfl) rfl
theorem q2755 : (Jvm.Cond.instanceMethod ({ cls := "DebateHallModel", name := "item", desc := "(II)I" } : Jvm.MethodName)) ∈ lw_all := lw_g (lw_at lw_m12 35 rfl) rfl
theorem q2756 : (Jvm.Cond.selects "DebateHallModel" ({ cls := "DebateHallModel", name := "item", desc := "(II)I" } : Jvm.MethodName) ({ cls := "DebateHallModel", name := "item", desc := "(II)I" } : Jvm.MethodName)) ∈ lw_all := lw_g (lw_at lw_m12 36 rfl) rfl
theorem q2280 : (Jvm.Cond.methodLink "DebateHallLaw" (97 : Nat) ({ cls := "DebateHallLaw", name := "item", desc := "(LDebateHall;II[J)I" } : Jvm.MethodName)) ∈ lw_all := lw_g (lw_at lw_m10 40 rfl) rfl
theorem q2281 : (Jvm.Cond.static ({ cls := "DebateHallLaw", name := "item", desc := "(LDebateHall;II[J)I" } : Jvm.MethodName)) ∈ lw_all := lw_g (lw_at lw_m10 41 rfl) rfl
theorem q2293 : (Jvm.Cond.codeWith ({ cls := "DebateHallLaw", name := "give", desc := "(LDebateHall;II[J)I" } : Jvm.MethodName) method_8_code (5 : Nat) (Option.some Jvm.ClassFile.FieldType.int) [((0 : Nat), (10 : Nat), (13 : Nat), (24 : Nat)), ((0 : Nat), (10 : Nat), (17 : Nat), (19 : Nat))]) ∈ lw_all := lw_g (lw_at lw_m10 53 rfl) rfl
theorem zk_X0_give : zz_cd yX0_give cX0_give 5 (some .int) (some [(0, 10, 13, 24), (0, 10, 17, 19)]) ∈ lw_all := q2293
theorem zy_X0_give : zz_yok yX0_give 4 = true := by decide +kernel
theorem q2773 : (Jvm.Cond.code ({ cls := "DebateHallModel", name := "give", desc := "(II)I" } : Jvm.MethodName) prog_25_method_54_code (3 : Nat) (Option.some Jvm.ClassFile.FieldType.int)) ∈ lw_all := lw_g (lw_at lw_m12 53 rfl) rfl
theorem zk_X4_give : zz_cd yX4_give cX4_give 3 (some .int) none ∈ lw_all := q2773
theorem zy_X4_give : zz_yok yX4_give 2 = true := by decide +kernel
theorem q2770 : (Jvm.Cond.methodLink "DebateHallLaw" (102 : Nat) ({ cls := "DebateHallModel", name := "give", desc := "(II)I" } : Jvm.MethodName)) ∈ lw_all := lw_g (lw_at lw_m12 50 rfl) rfl
theorem q2771 : (Jvm.Cond.instanceMethod ({ cls := "DebateHallModel", name := "give", desc := "(II)I" } : Jvm.MethodName)) ∈ lw_all := lw_g (lw_at lw_m12 51 rfl) rfl
theorem q2772 : (Jvm.Cond.selects "DebateHallModel" ({ cls := "DebateHallModel", name := "give", desc := "(II)I" } : Jvm.MethodName) ({ cls := "DebateHallModel", name := "give", desc := "(II)I" } : Jvm.MethodName)) ∈ lw_all := lw_g (lw_at lw_m12 52 rfl) rfl
theorem q2291 : (Jvm.Cond.methodLink "DebateHallLaw" (100 : Nat) ({ cls := "DebateHallLaw", name := "give", desc := "(LDebateHall;II[J)I" } : Jvm.MethodName)) ∈ lw_all := lw_g (lw_at lw_m10 51 rfl) rfl
theorem q2292 : (Jvm.Cond.static ({ cls := "DebateHallLaw", name := "give", desc := "(LDebateHall;II[J)I" } : Jvm.MethodName)) ∈ lw_all := lw_g (lw_at lw_m10 52 rfl) rfl
theorem q2300 : (Jvm.Cond.codeWith ({ cls := "DebateHallLaw", name := "why", desc := "(LDebateHall;I[J)I" } : Jvm.MethodName) method_9_code (4 : Nat) (Option.some Jvm.ClassFile.FieldType.int) [((0 : Nat), (9 : Nat), (12 : Nat), (24 : Nat))]) ∈ lw_all := lw_g (lw_at lw_m10 60 rfl) rfl
theorem zk_X0_why : zz_cd yX0_why cX0_why 4 (some .int) (some [(0, 9, 12, 24)]) ∈ lw_all := q2300
theorem zy_X0_why : zz_yok yX0_why 3 = true := by decide +kernel
theorem q2777 : (Jvm.Cond.code ({ cls := "DebateHallModel", name := "why", desc := "(I)I" } : Jvm.MethodName) prog_25_method_56_code (2 : Nat) (Option.some Jvm.ClassFile.FieldType.int)) ∈ lw_all := lw_g (lw_at lw_m12 57 rfl) rfl
theorem zk_X4_why : zz_cd yX4_why cX4_why 2 (some .int) none ∈ lw_all := q2777
theorem zy_X4_why : zz_yok yX4_why 1 = true := by decide +kernel
theorem q2774 : (Jvm.Cond.methodLink "DebateHallLaw" (105 : Nat) ({ cls := "DebateHallModel", name := "why", desc := "(I)I" } : Jvm.MethodName)) ∈ lw_all := lw_g (lw_at lw_m12 54 rfl) rfl
theorem q2775 : (Jvm.Cond.instanceMethod ({ cls := "DebateHallModel", name := "why", desc := "(I)I" } : Jvm.MethodName)) ∈ lw_all := lw_g (lw_at lw_m12 55 rfl) rfl
theorem q2776 : (Jvm.Cond.selects "DebateHallModel" ({ cls := "DebateHallModel", name := "why", desc := "(I)I" } : Jvm.MethodName) ({ cls := "DebateHallModel", name := "why", desc := "(I)I" } : Jvm.MethodName)) ∈ lw_all := lw_g (lw_at lw_m12 56 rfl) rfl
theorem q2298 : (Jvm.Cond.methodLink "DebateHallLaw" (103 : Nat) ({ cls := "DebateHallLaw", name := "why", desc := "(LDebateHall;I[J)I" } : Jvm.MethodName)) ∈ lw_all := lw_g (lw_at lw_m10 58 rfl) rfl
theorem q2299 : (Jvm.Cond.static ({ cls := "DebateHallLaw", name := "why", desc := "(LDebateHall;I[J)I" } : Jvm.MethodName)) ∈ lw_all := lw_g (lw_at lw_m10 59 rfl) rfl
theorem q2307 : (Jvm.Cond.codeWith ({ cls := "DebateHallLaw", name := "far", desc := "(LDebateHall;I[J)I" } : Jvm.MethodName) method_10_code (4 : Nat) (Option.some Jvm.ClassFile.FieldType.int) [((0 : Nat), (9 : Nat), (12 : Nat), (24 : Nat))]) ∈ lw_all := lw_g (lw_at lw_m10 67 rfl) rfl
theorem zk_X0_far : zz_cd yX0_far cX0_far 4 (some .int) (some [(0, 9, 12, 24)]) ∈ lw_all := q2307
theorem zy_X0_far : zz_yok yX0_far 3 = true := by decide +kernel
theorem q2785 : (Jvm.Cond.code ({ cls := "DebateHallModel", name := "far", desc := "(I)I" } : Jvm.MethodName) prog_25_method_58_code (2 : Nat) (Option.some Jvm.ClassFile.FieldType.int)) ∈ lw_all := lw_g (lw_at lw_m12 65 rfl) rfl
theorem zk_X4_far : zz_cd yX4_far cX4_far 2 (some .int) none ∈ lw_all := q2785
theorem zy_X4_far : zz_yok yX4_far 1 = true := by decide +kernel
theorem q2782 : (Jvm.Cond.methodLink "DebateHallLaw" (108 : Nat) ({ cls := "DebateHallModel", name := "far", desc := "(I)I" } : Jvm.MethodName)) ∈ lw_all := lw_g (lw_at lw_m12 62 rfl) rfl
theorem q2783 : (Jvm.Cond.instanceMethod ({ cls := "DebateHallModel", name := "far", desc := "(I)I" } : Jvm.MethodName)) ∈ lw_all := lw_g (lw_at lw_m12 63 rfl) rfl
theorem q2784 : (Jvm.Cond.selects "DebateHallModel" ({ cls := "DebateHallModel", name := "far", desc := "(I)I" } : Jvm.MethodName) ({ cls := "DebateHallModel", name := "far", desc := "(I)I" } : Jvm.MethodName)) ∈ lw_all := lw_g (lw_at lw_m12 64 rfl) rfl
theorem q2305 : (Jvm.Cond.methodLink "DebateHallLaw" (106 : Nat) ({ cls := "DebateHallLaw", name := "far", desc := "(LDebateHall;I[J)I" } : Jvm.MethodName)) ∈ lw_all := lw_g (lw_at lw_m10 65 rfl) rfl
theorem q2306 : (Jvm.Cond.static ({ cls := "DebateHallLaw", name := "far", desc := "(LDebateHall;I[J)I" } : Jvm.MethodName)) ∈ lw_all := lw_g (lw_at lw_m10 66 rfl) rfl
theorem q2314 : (Jvm.Cond.codeWith ({ cls := "DebateHallLaw", name := "defends", desc := "(LDebateHall;II[J)I" } : Jvm.MethodName) method_11_code (5 : Nat) (Option.some Jvm.ClassFile.FieldType.int) [((0 : Nat), (17 : Nat), (20 : Nat), (24 : Nat))]) ∈ lw_all := lw_g (lw_at lw_m10 74 rfl) rfl
theorem zk_X0_defends : zz_cd yX0_defends cX0_defends 5 (some .int) (some [(0, 17, 20, 24)]) ∈ lw_all := q2314
theorem zy_X0_defends : zz_yok yX0_defends 4 = true := by decide +kernel
theorem q2793 : (Jvm.Cond.code ({ cls := "DebateHallModel", name := "defends", desc := "(II)Z" } : Jvm.MethodName) prog_25_method_59_code (4 : Nat) (Option.some Jvm.ClassFile.FieldType.boolean)) ∈ lw_all := lw_g (lw_at lw_m12 73 rfl) rfl
theorem zk_X4_defends : zz_cd yX4_defends cX4_defends 4 (some .boolean) none ∈ lw_all := q2793
theorem zy_X4_defends : zz_yok yX4_defends 2 = true := by decide +kernel
theorem q2790 : (Jvm.Cond.methodLink "DebateHallLaw" (111 : Nat) ({ cls := "DebateHallModel", name := "defends", desc := "(II)Z" } : Jvm.MethodName)) ∈ lw_all := lw_g (lw_at lw_m12 70 rfl) rfl
theorem q2791 : (Jvm.Cond.instanceMethod ({ cls := "DebateHallModel", name := "defends", desc := "(II)Z" } : Jvm.MethodName)) ∈ lw_all := lw_g (lw_at lw_m12 71 rfl) rfl
theorem q2792 : (Jvm.Cond.selects "DebateHallModel" ({ cls := "DebateHallModel", name := "defends", desc := "(II)Z" } : Jvm.MethodName) ({ cls := "DebateHallModel", name := "defends", desc := "(II)Z" } : Jvm.MethodName)) ∈ lw_all := lw_g (lw_at lw_m12 72 rfl) rfl
theorem q2312 : (Jvm.Cond.methodLink "DebateHallLaw" (109 : Nat) ({ cls := "DebateHallLaw", name := "defends", desc := "(LDebateHall;II[J)I" } : Jvm.MethodName)) ∈ lw_all := lw_g (lw_at lw_m10 72 rfl) rfl
theorem q2313 : (Jvm.Cond.static ({ cls := "DebateHallLaw", name := "defends", desc := "(LDebateHall;II[J)I" } : Jvm.MethodName)) ∈ lw_all := lw_g (lw_at lw_m10 73 rfl) rfl
theorem q2016 : (Jvm.Cond.code ({ cls := "DebateHall", name := "leader", desc := "()I" } : Jvm.MethodName) prog_1_method_24_code (3 : Nat) (Option.some Jvm.ClassFile.FieldType.int)) ∈ lw_all := lw_g (lw_at lw_m9 16 rfl) rfl
theorem zk_X1_leader : zz_cd yX1_leader cX1_leader 3 (some .int) none ∈ lw_all := q2016
theorem zy_X1_leader : zz_yok yX1_leader 0 = true := by decide +kernel
theorem q2797 : (Jvm.Cond.code ({ cls := "DebateHallModel", name := "leader", desc := "()I" } : Jvm.MethodName) prog_25_method_60_code (3 : Nat) (Option.some Jvm.ClassFile.FieldType.int)) ∈ lw_all := lw_g (lw_at lw_m12 77 rfl) rfl
theorem zk_X4_leader : zz_cd yX4_leader cX4_leader 3 (some .int) none ∈ lw_all := q2797
theorem zy_X4_leader : zz_yok yX4_leader 0 = true := by decide +kernel
theorem q2794 : (Jvm.Cond.methodLink "DebateHallLaw" (115 : Nat) ({ cls := "DebateHallModel", name := "leader", desc := "()I" } : Jvm.MethodName)) ∈ lw_all := lw_g (lw_at lw_m12 74 rfl) rfl
theorem q2795 : (Jvm.Cond.instanceMethod ({ cls := "DebateHallModel", name := "leader", desc := "()I" } : Jvm.MethodName)) ∈ lw_all := lw_g (lw_at lw_m12 75 rfl) rfl
theorem q2796 : (Jvm.Cond.selects "DebateHallModel" ({ cls := "DebateHallModel", name := "leader", desc := "()I" } : Jvm.MethodName) ({ cls := "DebateHallModel", name := "leader", desc := "()I" } : Jvm.MethodName)) ∈ lw_all := lw_g (lw_at lw_m12 76 rfl) rfl
theorem q2013 : (Jvm.Cond.methodLink "DebateHallLaw" (112 : Nat) ({ cls := "DebateHall", name := "leader", desc := "()I" } : Jvm.MethodName)) ∈ lw_all := lw_g (lw_at lw_m9 13 rfl) rfl
theorem q2014 : (Jvm.Cond.instanceMethod ({ cls := "DebateHall", name := "leader", desc := "()I" } : Jvm.MethodName)) ∈ lw_all := lw_g (lw_at lw_m9 14 rfl) rfl
theorem q2015 : (Jvm.Cond.selects "DebateHall" ({ cls := "DebateHall", name := "leader", desc := "()I" } : Jvm.MethodName) ({ cls := "DebateHall", name := "leader", desc := "()I" } : Jvm.MethodName)) ∈ lw_all := lw_g (lw_at lw_m9 15 rfl) rfl
theorem q2322 : (Jvm.Cond.codeWith ({ cls := "DebateHallLaw", name := "conceding", desc := "(LDebateHall;II[J)I" } : Jvm.MethodName) method_12_code (5 : Nat) (Option.some Jvm.ClassFile.FieldType.int) [((0 : Nat), (10 : Nat), (13 : Nat), (24 : Nat))]) ∈ lw_all := lw_g (lw_at lw_m10 82 rfl) rfl
theorem zk_X0_conceding : zz_cd yX0_conceding cX0_conceding 5 (some .int) (some [(0, 10, 13, 24)]) ∈ lw_all := q2322
theorem zy_X0_conceding : zz_yok yX0_conceding 4 = true := by decide +kernel
theorem q2801 : (Jvm.Cond.code ({ cls := "DebateHallModel", name := "conceding", desc := "(II)I" } : Jvm.MethodName) prog_25_method_61_code (3 : Nat) (Option.some Jvm.ClassFile.FieldType.int)) ∈ lw_all := lw_g (lw_at lw_m12 81 rfl) rfl
theorem zk_X4_conceding : zz_cd yX4_conceding cX4_conceding 3 (some .int) none ∈ lw_all := q2801
theorem zy_X4_conceding : zz_yok yX4_conceding 2 = true := by decide +kernel
theorem q2798 : (Jvm.Cond.methodLink "DebateHallLaw" (118 : Nat) ({ cls := "DebateHallModel", name := "conceding", desc := "(II)I" } : Jvm.MethodName)) ∈ lw_all := lw_g (lw_at lw_m12 78 rfl) rfl
theorem q2799 : (Jvm.Cond.instanceMethod ({ cls := "DebateHallModel", name := "conceding", desc := "(II)I" } : Jvm.MethodName)) ∈ lw_all := lw_g (lw_at lw_m12 79 rfl) rfl
theorem q2800 : (Jvm.Cond.selects "DebateHallModel" ({ cls := "DebateHallModel", name := "conceding", desc := "(II)I" } : Jvm.MethodName) ({ cls := "DebateHallModel", name := "conceding", desc := "(II)I" } : Jvm.MethodName)) ∈ lw_all := lw_g (lw_at lw_m12 80 rfl) rfl
theorem q2320 : (Jvm.Cond.methodLink "DebateHallLaw" (116 : Nat) ({ cls := "DebateHallLaw", name := "conceding", desc := "(LDebateHall;II[J)I" } : Jvm.MethodName)) ∈ lw_all := lw_g (lw_at lw_m10 80 rfl) rfl
theorem q2321 : (Jvm.Cond.static ({ cls := "DebateHallLaw", name := "conceding", desc := "(LDebateHall;II[J)I" } : Jvm.MethodName)) ∈ lw_all := lw_g (lw_at lw_m10 81 rfl) rfl
theorem q2333 : (Jvm.Cond.codeWith ({ cls := "DebateHallLaw", name := "concede", desc := "(LDebateHall;I[J)I" } : Jvm.MethodName) method_13_code (4 : Nat) (Option.some Jvm.ClassFile.FieldType.int) [((0 : Nat), (9 : Nat), (12 : Nat), (24 : Nat))]) ∈ lw_all := lw_g (lw_at lw_m10 93 rfl) rfl
theorem zk_X0_concede : zz_cd yX0_concede cX0_concede 4 (some .int) (some [(0, 9, 12, 24)]) ∈ lw_all := q2333
theorem zy_X0_concede : zz_yok yX0_concede 3 = true := by decide +kernel
theorem q2809 : (Jvm.Cond.code ({ cls := "DebateHallModel", name := "concede", desc := "(I)I" } : Jvm.MethodName) prog_25_method_63_code (6 : Nat) (Option.some Jvm.ClassFile.FieldType.int)) ∈ lw_all := lw_g (lw_at lw_m12 89 rfl) rfl
theorem zk_X4_concede : zz_cd yX4_concede cX4_concede 6 (some .int) none ∈ lw_all := q2809
theorem zy_X4_concede : zz_yok yX4_concede 1 = true := by decide +kernel
theorem q2806 : (Jvm.Cond.methodLink "DebateHallLaw" (121 : Nat) ({ cls := "DebateHallModel", name := "concede", desc := "(I)I" } : Jvm.MethodName)) ∈ lw_all := lw_g (lw_at lw_m12 86 rfl) rfl
theorem q2807 : (Jvm.Cond.instanceMethod ({ cls := "DebateHallModel", name := "concede", desc := "(I)I" } : Jvm.MethodName)) ∈ lw_all := lw_g (lw_at lw_m12 87 rfl) rfl
theorem q2808 : (Jvm.Cond.selects "DebateHallModel" ({ cls := "DebateHallModel", name := "concede", desc := "(I)I" } : Jvm.MethodName) ({ cls := "DebateHallModel", name := "concede", desc := "(I)I" } : Jvm.MethodName)) ∈ lw_all := lw_g (lw_at lw_m12 88 rfl) rfl
theorem q2331 : (Jvm.Cond.methodLink "DebateHallLaw" (119 : Nat) ({ cls := "DebateHallLaw", name := "concede", desc := "(LDebateHall;I[J)I" } : Jvm.MethodName)) ∈ lw_all := lw_g (lw_at lw_m10 91 rfl) rfl
theorem q2332 : (Jvm.Cond.static ({ cls := "DebateHallLaw", name := "concede", desc := "(LDebateHall;I[J)I" } : Jvm.MethodName)) ∈ lw_all := lw_g (lw_at lw_m10 92 rfl) rfl
theorem q2340 : (Jvm.Cond.codeWith ({ cls := "DebateHallLaw", name := "advise", desc := "(LDebateHall;II[J)I" } : Jvm.MethodName) method_14_code (5 : Nat) (Option.some Jvm.ClassFile.FieldType.int) [((0 : Nat), (10 : Nat), (13 : Nat), (24 : Nat)), ((0 : Nat), (10 : Nat), (17 : Nat), (19 : Nat))]) ∈ lw_all := lw_g (lw_at lw_m10 100 rfl) rfl
theorem zk_X0_advise : zz_cd yX0_advise cX0_advise 5 (some .int) (some [(0, 10, 13, 24), (0, 10, 17, 19)]) ∈ lw_all := q2340
theorem zy_X0_advise : zz_yok yX0_advise 4 = true := by decide +kernel
theorem q2813 : (Jvm.Cond.code ({ cls := "DebateHallModel", name := "advise", desc := "(II)I" } : Jvm.MethodName) prog_25_method_65_code (7 : Nat) (Option.some Jvm.ClassFile.FieldType.int)) ∈ lw_all := lw_g (lw_at lw_m12 93 rfl) rfl
theorem zk_X4_advise : zz_cd yX4_advise cX4_advise 7 (some .int) none ∈ lw_all := q2813
theorem zy_X4_advise : zz_yok yX4_advise 2 = true := by decide +kernel
theorem q2810 : (Jvm.Cond.methodLink "DebateHallLaw" (124 : Nat) ({ cls := "DebateHallModel", name := "advise", desc := "(II)I" } : Jvm.MethodName)) ∈ lw_all := lw_g (lw_at lw_m12 90 rfl) rfl
theorem q2811 : (Jvm.Cond.instanceMethod ({ cls := "DebateHallModel", name := "advise", desc := "(II)I" } : Jvm.MethodName)) ∈ lw_all := lw_g (lw_at lw_m12 91 rfl) rfl
theorem q2812 : (Jvm.Cond.selects "DebateHallModel" ({ cls := "DebateHallModel", name := "advise", desc := "(II)I" } : Jvm.MethodName) ({ cls := "DebateHallModel", name := "advise", desc := "(II)I" } : Jvm.MethodName)) ∈ lw_all := lw_g (lw_at lw_m12 92 rfl) rfl
theorem q2338 : (Jvm.Cond.methodLink "DebateHallLaw" (122 : Nat) ({ cls := "DebateHallLaw", name := "advise", desc := "(LDebateHall;II[J)I" } : Jvm.MethodName)) ∈ lw_all := lw_g (lw_at lw_m10 98 rfl) rfl
theorem q2339 : (Jvm.Cond.static ({ cls := "DebateHallLaw", name := "advise", desc := "(LDebateHall;II[J)I" } : Jvm.MethodName)) ∈ lw_all := lw_g (lw_at lw_m10 99 rfl) rfl
theorem q2348 : (Jvm.Cond.codeWith ({ cls := "DebateHallLaw", name := "least", desc := "(LDebateHall;I[J)I" } : Jvm.MethodName) method_15_code (4 : Nat) (Option.some Jvm.ClassFile.FieldType.int) [((0 : Nat), (9 : Nat), (12 : Nat), (24 : Nat))]) ∈ lw_all := lw_g (lw_at lw_m10 108 rfl) rfl
theorem zk_X0_least : zz_cd yX0_least cX0_least 4 (some .int) (some [(0, 9, 12, 24)]) ∈ lw_all := q2348
theorem zy_X0_least : zz_yok yX0_least 3 = true := by decide +kernel
theorem q2821 : (Jvm.Cond.code ({ cls := "DebateHallModel", name := "least", desc := "(I)I" } : Jvm.MethodName) prog_25_method_66_code (2 : Nat) (Option.some Jvm.ClassFile.FieldType.int)) ∈ lw_all := lw_g (lw_at lw_m12 101 rfl) rfl
theorem zk_X4_least : zz_cd yX4_least cX4_least 2 (some .int) none ∈ lw_all := q2821
theorem zy_X4_least : zz_yok yX4_least 1 = true := by decide +kernel
theorem q2818 : (Jvm.Cond.methodLink "DebateHallLaw" (127 : Nat) ({ cls := "DebateHallModel", name := "least", desc := "(I)I" } : Jvm.MethodName)) ∈ lw_all := lw_g (lw_at lw_m12 98 rfl) rfl
theorem q2819 : (Jvm.Cond.instanceMethod ({ cls := "DebateHallModel", name := "least", desc := "(I)I" } : Jvm.MethodName)) ∈ lw_all := lw_g (lw_at lw_m12 99 rfl) rfl
theorem q2820 : (Jvm.Cond.selects "DebateHallModel" ({ cls := "DebateHallModel", name := "least", desc := "(I)I" } : Jvm.MethodName) ({ cls := "DebateHallModel", name := "least", desc := "(I)I" } : Jvm.MethodName)) ∈ lw_all := lw_g (lw_at lw_m12 100 rfl) rfl
theorem q2346 : (Jvm.Cond.methodLink "DebateHallLaw" (125 : Nat) ({ cls := "DebateHallLaw", name := "least", desc := "(LDebateHall;I[J)I" } : Jvm.MethodName)) ∈ lw_all := lw_g (lw_at lw_m10 106 rfl) rfl
theorem q2347 : (Jvm.Cond.static ({ cls := "DebateHallLaw", name := "least", desc := "(LDebateHall;I[J)I" } : Jvm.MethodName)) ∈ lw_all := lw_g (lw_at lw_m10 107 rfl) rfl
theorem q2355 : (Jvm.Cond.codeWith ({ cls := "DebateHallLaw", name := "frees", desc := "(LDebateHall;I[J)I" } : Jvm.MethodName) method_16_code (4 : Nat) (Option.some Jvm.ClassFile.FieldType.int) [((0 : Nat), (9 : Nat), (12 : Nat), (24 : Nat))]) ∈ lw_all := lw_g (lw_at lw_m10 115 rfl) rfl
theorem zk_X0_frees : zz_cd yX0_frees cX0_frees 4 (some .int) (some [(0, 9, 12, 24)]) ∈ lw_all := q2355
theorem zy_X0_frees : zz_yok yX0_frees 3 = true := by decide +kernel
theorem q2825 : (Jvm.Cond.code ({ cls := "DebateHallModel", name := "frees", desc := "(I)I" } : Jvm.MethodName) prog_25_method_69_code (3 : Nat) (Option.some Jvm.ClassFile.FieldType.int)) ∈ lw_all := lw_g (lw_at lw_m12 105 rfl) rfl
theorem zk_X4_frees : zz_cd yX4_frees cX4_frees 3 (some .int) none ∈ lw_all := q2825
theorem zy_X4_frees : zz_yok yX4_frees 1 = true := by decide +kernel
theorem q2822 : (Jvm.Cond.methodLink "DebateHallLaw" (130 : Nat) ({ cls := "DebateHallModel", name := "frees", desc := "(I)I" } : Jvm.MethodName)) ∈ lw_all := lw_g (lw_at lw_m12 102 rfl) rfl
theorem q2823 : (Jvm.Cond.instanceMethod ({ cls := "DebateHallModel", name := "frees", desc := "(I)I" } : Jvm.MethodName)) ∈ lw_all := lw_g (lw_at lw_m12 103 rfl) rfl
theorem q2824 : (Jvm.Cond.selects "DebateHallModel" ({ cls := "DebateHallModel", name := "frees", desc := "(I)I" } : Jvm.MethodName) ({ cls := "DebateHallModel", name := "frees", desc := "(I)I" } : Jvm.MethodName)) ∈ lw_all := lw_g (lw_at lw_m12 104 rfl) rfl
theorem q2353 : (Jvm.Cond.methodLink "DebateHallLaw" (128 : Nat) ({ cls := "DebateHallLaw", name := "frees", desc := "(LDebateHall;I[J)I" } : Jvm.MethodName)) ∈ lw_all := lw_g (lw_at lw_m10 113 rfl) rfl
theorem q2354 : (Jvm.Cond.static ({ cls := "DebateHallLaw", name := "frees", desc := "(LDebateHall;I[J)I" } : Jvm.MethodName)) ∈ lw_all := lw_g (lw_at lw_m10 114 rfl) rfl
theorem q2035 : (Jvm.Cond.code ({ cls := "DebateHall", name := "sheet", desc := "()I" } : Jvm.MethodName) prog_1_method_33_code (3 : Nat) (Option.some Jvm.ClassFile.FieldType.int)) ∈ lw_all := lw_g (lw_at lw_m9 35 rfl) rfl
theorem zk_X1_sheet : zz_cd yX1_sheet cX1_sheet 3 (some .int) none ∈ lw_all := q2035
theorem zy_X1_sheet : zz_yok yX1_sheet 0 = true := by decide +kernel
theorem q2837 : (Jvm.Cond.code ({ cls := "DebateHallModel", name := "sheet", desc := "()I" } : Jvm.MethodName) prog_25_method_72_code (2 : Nat) (Option.some Jvm.ClassFile.FieldType.int)) ∈ lw_all := lw_g (lw_at lw_m12 117 rfl) rfl
theorem zk_X4_sheet : zz_cd yX4_sheet cX4_sheet 2 (some .int) none ∈ lw_all := q2837
theorem zy_X4_sheet : zz_yok yX4_sheet 0 = true := by decide +kernel
theorem q2834 : (Jvm.Cond.methodLink "DebateHallLaw" (134 : Nat) ({ cls := "DebateHallModel", name := "sheet", desc := "()I" } : Jvm.MethodName)) ∈ lw_all := lw_g (lw_at lw_m12 114 rfl) rfl
theorem q2835 : (Jvm.Cond.instanceMethod ({ cls := "DebateHallModel", name := "sheet", desc := "()I" } : Jvm.MethodName)) ∈ lw_all := lw_g (lw_at lw_m12 115 rfl) rfl
theorem q2836 : (Jvm.Cond.selects "DebateHallModel" ({ cls := "DebateHallModel", name := "sheet", desc := "()I" } : Jvm.MethodName) ({ cls := "DebateHallModel", name := "sheet", desc := "()I" } : Jvm.MethodName)) ∈ lw_all := lw_g (lw_at lw_m12 116 rfl) rfl
theorem q2032 : (Jvm.Cond.methodLink "DebateHallLaw" (131 : Nat) ({ cls := "DebateHall", name := "sheet", desc := "()I" } : Jvm.MethodName)) ∈ lw_all := lw_g (lw_at lw_m9 32 rfl) rfl
theorem q2033 : (Jvm.Cond.instanceMethod ({ cls := "DebateHall", name := "sheet", desc := "()I" } : Jvm.MethodName)) ∈ lw_all := lw_g (lw_at lw_m9 33 rfl) rfl
theorem q2034 : (Jvm.Cond.selects "DebateHall" ({ cls := "DebateHall", name := "sheet", desc := "()I" } : Jvm.MethodName) ({ cls := "DebateHall", name := "sheet", desc := "()I" } : Jvm.MethodName)) ∈ lw_all := lw_g (lw_at lw_m9 34 rfl) rfl
theorem q2370 : (Jvm.Cond.codeWith ({ cls := "DebateHallLaw", name := "byteAt", desc := "(LDebateHall;I[J)I" } : Jvm.MethodName) method_17_code (4 : Nat) (Option.some Jvm.ClassFile.FieldType.int) [((0 : Nat), (9 : Nat), (12 : Nat), (24 : Nat))]) ∈ lw_all := lw_g (lw_at lw_m10 130 rfl) rfl
theorem zk_X0_byteAt : zz_cd yX0_byteAt cX0_byteAt 4 (some .int) (some [(0, 9, 12, 24)]) ∈ lw_all := q2370
theorem zy_X0_byteAt : zz_yok yX0_byteAt 3 = true := by decide +kernel
theorem q2850 : (Jvm.Cond.code ({ cls := "DebateHallModel", name := "byteAt", desc := "(I)I" } : Jvm.MethodName) prog_25_method_73_code (2 : Nat) (Option.some Jvm.ClassFile.FieldType.int)) ∈ lw_all := lw_g (lw_at lw_m12 130 rfl) rfl
theorem zk_X4_byteAt : zz_cd yX4_byteAt cX4_byteAt 2 (some .int) none ∈ lw_all := q2850
theorem zy_X4_byteAt : zz_yok yX4_byteAt 1 = true := by decide +kernel
theorem q2847 : (Jvm.Cond.methodLink "DebateHallLaw" (137 : Nat) ({ cls := "DebateHallModel", name := "byteAt", desc := "(I)I" } : Jvm.MethodName)) ∈ lw_all := lw_g (lw_at lw_m12 127 rfl) rfl
theorem q2848 : (Jvm.Cond.instanceMethod ({ cls := "DebateHallModel", name := "byteAt", desc := "(I)I" } : Jvm.MethodName)) ∈ lw_all := lw_g (lw_at lw_m12 128 rfl) rfl
theorem q2849 : (Jvm.Cond.selects "DebateHallModel" ({ cls := "DebateHallModel", name := "byteAt", desc := "(I)I" } : Jvm.MethodName) ({ cls := "DebateHallModel", name := "byteAt", desc := "(I)I" } : Jvm.MethodName)) ∈ lw_all := lw_g (lw_at lw_m12 129 rfl) rfl
theorem q2368 : (Jvm.Cond.methodLink "DebateHallLaw" (135 : Nat) ({ cls := "DebateHallLaw", name := "byteAt", desc := "(LDebateHall;I[J)I" } : Jvm.MethodName)) ∈ lw_all := lw_g (lw_at lw_m10 128 rfl) rfl
theorem q2369 : (Jvm.Cond.static ({ cls := "DebateHallLaw", name := "byteAt", desc := "(LDebateHall;I[J)I" } : Jvm.MethodName)) ∈ lw_all := lw_g (lw_at lw_m10 129 rfl) rfl
theorem q2115 : (Jvm.Cond.code ({ cls := "DebateHall", name := "share", desc := "()D" } : Jvm.MethodName) prog_1_method_35_code (4 : Nat) (Option.some Jvm.ClassFile.FieldType.double)) ∈ lw_all := lw_g (lw_at lw_m9 115 rfl) rfl
theorem zk_X1_share : zz_cd yX1_share cX1_share 4 (some .double) none ∈ lw_all := q2115
theorem zy_X1_share : zz_yok yX1_share 0 = true := by decide +kernel
theorem q2854 : (Jvm.Cond.code ({ cls := "DebateHallModel", name := "share", desc := "()D" } : Jvm.MethodName) prog_25_method_74_code (4 : Nat) (Option.some Jvm.ClassFile.FieldType.double)) ∈ lw_all := lw_g (lw_at lw_m12 134 rfl) rfl
theorem zk_X4_share : zz_cd yX4_share cX4_share 4 (some .double) none ∈ lw_all := q2854
theorem zy_X4_share : zz_yok yX4_share 0 = true := by decide +kernel
theorem q2851 : (Jvm.Cond.methodLink "DebateHallLaw" (142 : Nat) ({ cls := "DebateHallModel", name := "share", desc := "()D" } : Jvm.MethodName)) ∈ lw_all := lw_g (lw_at lw_m12 131 rfl) rfl
theorem q2852 : (Jvm.Cond.instanceMethod ({ cls := "DebateHallModel", name := "share", desc := "()D" } : Jvm.MethodName)) ∈ lw_all := lw_g (lw_at lw_m12 132 rfl) rfl
theorem q2853 : (Jvm.Cond.selects "DebateHallModel" ({ cls := "DebateHallModel", name := "share", desc := "()D" } : Jvm.MethodName) ({ cls := "DebateHallModel", name := "share", desc := "()D" } : Jvm.MethodName)) ∈ lw_all := lw_g (lw_at lw_m12 133 rfl) rfl
theorem q2112 : (Jvm.Cond.methodLink "DebateHallLaw" (138 : Nat) ({ cls := "DebateHall", name := "share", desc := "()D" } : Jvm.MethodName)) ∈ lw_all := lw_g (lw_at lw_m9 112 rfl) rfl
theorem q2113 : (Jvm.Cond.instanceMethod ({ cls := "DebateHall", name := "share", desc := "()D" } : Jvm.MethodName)) ∈ lw_all := lw_g (lw_at lw_m9 113 rfl) rfl
theorem q2114 : (Jvm.Cond.selects "DebateHall" ({ cls := "DebateHall", name := "share", desc := "()D" } : Jvm.MethodName) ({ cls := "DebateHall", name := "share", desc := "()D" } : Jvm.MethodName)) ∈ lw_all := lw_g (lw_at lw_m9 114 rfl) rfl
theorem q2125 : (Jvm.Cond.code ({ cls := "DebateHall", name := "digest", desc := "()J" } : Jvm.MethodName) prog_1_method_36_code (6 : Nat) (Option.some Jvm.ClassFile.FieldType.long)) ∈ lw_all := lw_g (lw_at lw_m9 125 rfl) rfl
theorem zk_X1_digest : zz_cd yX1_digest cX1_digest 6 (some .long) none ∈ lw_all := q2125
theorem zy_X1_digest : zz_yok yX1_digest 0 = true := by decide +kernel
theorem q2858 : (Jvm.Cond.code ({ cls := "DebateHallModel", name := "digest", desc := "()J" } : Jvm.MethodName) prog_25_method_75_code (5 : Nat) (Option.some Jvm.ClassFile.FieldType.long)) ∈ lw_all := lw_g (lw_at lw_m12 138 rfl) rfl
theorem zk_X4_digest : zz_cd yX4_digest cX4_digest 5 (some .long) none ∈ lw_all := q2858
theorem zy_X4_digest : zz_yok yX4_digest 0 = true := by decide +kernel
theorem q2855 : (Jvm.Cond.methodLink "DebateHallLaw" (147 : Nat) ({ cls := "DebateHallModel", name := "digest", desc := "()J" } : Jvm.MethodName)) ∈ lw_all := lw_g (lw_at lw_m12 135 rfl) rfl
theorem q2856 : (Jvm.Cond.instanceMethod ({ cls := "DebateHallModel", name := "digest", desc := "()J" } : Jvm.MethodName)) ∈ lw_all := lw_g (lw_at lw_m12 136 rfl) rfl
theorem q2857 : (Jvm.Cond.selects "DebateHallModel" ({ cls := "DebateHallModel", name := "digest", desc := "()J" } : Jvm.MethodName) ({ cls := "DebateHallModel", name := "digest", desc := "()J" } : Jvm.MethodName)) ∈ lw_all := lw_g (lw_at lw_m12 137 rfl) rfl
theorem q2122 : (Jvm.Cond.methodLink "DebateHallLaw" (143 : Nat) ({ cls := "DebateHall", name := "digest", desc := "()J" } : Jvm.MethodName)) ∈ lw_all := lw_g (lw_at lw_m9 122 rfl) rfl
theorem q2123 : (Jvm.Cond.instanceMethod ({ cls := "DebateHall", name := "digest", desc := "()J" } : Jvm.MethodName)) ∈ lw_all := lw_g (lw_at lw_m9 123 rfl) rfl
theorem q2124 : (Jvm.Cond.selects "DebateHall" ({ cls := "DebateHall", name := "digest", desc := "()J" } : Jvm.MethodName) ({ cls := "DebateHall", name := "digest", desc := "()J" } : Jvm.MethodName)) ∈ lw_all := lw_g (lw_at lw_m9 124 rfl) rfl
def wp_L_law_B1214 (Z : zzG) (k23 : Option Nat → Option Nat → Option Nat → Option Nat → Int32 → zzM → Nat → Nat → Prop) (K : Option Value → zzM → Prop) (v0 : Option Nat) (v1 : Option Nat) (v2 : Option Nat) (v3 : Option Nat) (v4 : Int32) (M : zzM) (bc bs : Nat) : Prop := k23 v0 v1 v2 v3 (v4 + 6) M bc bs
def wp_L_law_B241 (Z : zzG) (k23 : Option Nat → Option Nat → Option Nat → Option Nat → Int32 → zzM → Nat → Nat → Prop) (K : Option Value → zzM → Prop) (v0 : Option Nat) (v1 : Option Nat) (v2 : Option Nat) (v3 : Option Nat) (v4 : Int32) (M : zzM) (bc bs : Nat) : Prop := wp_L_law_B1214 Z k23 K v0 v1 v2 v3 v4 M bc bs
def wp_L_law_B297 (Z : zzG) (k23 : Option Nat → Option Nat → Option Nat → Option Nat → Int32 → zzM → Nat → Nat → Prop) (K : Option Value → zzM → Prop) (v0 : Option Nat) (v1 : Option Nat) (v2 : Option Nat) (v3 : Option Nat) (v4 : Int32) (M : zzM) (bc bs : Nat) : Prop := wp_L_law_B1214 Z k23 K v0 v1 v2 v3 v4 M bc bs
def wp_L_law_B379 (Z : zzG) (k23 : Option Nat → Option Nat → Option Nat → Option Nat → Int32 → zzM → Nat → Nat → Prop) (K : Option Value → zzM → Prop) (v0 : Option Nat) (v1 : Option Nat) (v2 : Option Nat) (v3 : Option Nat) (v4 : Int32) (M : zzM) (bc bs : Nat) : Prop := wp_L_law_B1214 Z k23 K v0 v1 v2 v3 v4 M bc bs
def wp_L_law_B447 (Z : zzG) (k23 : Option Nat → Option Nat → Option Nat → Option Nat → Int32 → zzM → Nat → Nat → Prop) (K : Option Value → zzM → Prop) (v0 : Option Nat) (v1 : Option Nat) (v2 : Option Nat) (v3 : Option Nat) (v4 : Int32) (M : zzM) (bc bs : Nat) : Prop := wp_L_law_B1214 Z k23 K v0 v1 v2 v3 v4 M bc bs
def wp_L_law_B515 (Z : zzG) (k23 : Option Nat → Option Nat → Option Nat → Option Nat → Int32 → zzM → Nat → Nat → Prop) (K : Option Value → zzM → Prop) (v0 : Option Nat) (v1 : Option Nat) (v2 : Option Nat) (v3 : Option Nat) (v4 : Int32) (M : zzM) (bc bs : Nat) : Prop := wp_L_law_B1214 Z k23 K v0 v1 v2 v3 v4 M bc bs
def wp_L_law_B583 (Z : zzG) (k23 : Option Nat → Option Nat → Option Nat → Option Nat → Int32 → zzM → Nat → Nat → Prop) (K : Option Value → zzM → Prop) (v0 : Option Nat) (v1 : Option Nat) (v2 : Option Nat) (v3 : Option Nat) (v4 : Int32) (M : zzM) (bc bs : Nat) : Prop := wp_L_law_B1214 Z k23 K v0 v1 v2 v3 v4 M bc bs
def wp_L_law_B639 (Z : zzG) (k23 : Option Nat → Option Nat → Option Nat → Option Nat → Int32 → zzM → Nat → Nat → Prop) (K : Option Value → zzM → Prop) (v0 : Option Nat) (v1 : Option Nat) (v2 : Option Nat) (v3 : Option Nat) (v4 : Int32) (M : zzM) (bc bs : Nat) : Prop := wp_L_law_B1214 Z k23 K v0 v1 v2 v3 v4 M bc bs
def wp_L_law_B695 (Z : zzG) (k23 : Option Nat → Option Nat → Option Nat → Option Nat → Int32 → zzM → Nat → Nat → Prop) (K : Option Value → zzM → Prop) (v0 : Option Nat) (v1 : Option Nat) (v2 : Option Nat) (v3 : Option Nat) (v4 : Int32) (M : zzM) (bc bs : Nat) : Prop := wp_L_law_B1214 Z k23 K v0 v1 v2 v3 v4 M bc bs
def wp_L_law_B770 (Z : zzG) (k23 : Option Nat → Option Nat → Option Nat → Option Nat → Int32 → zzM → Nat → Nat → Prop) (K : Option Value → zzM → Prop) (v0 : Option Nat) (v1 : Option Nat) (v2 : Option Nat) (v3 : Option Nat) (v4 : Int32) (M : zzM) (bc bs : Nat) : Prop := wp_L_law_B1214 Z k23 K v0 v1 v2 v3 v4 M bc bs
def wp_L_law_B764 (Z : zzG) (k23 : Option Nat → Option Nat → Option Nat → Option Nat → Int32 → zzM → Nat → Nat → Prop) (K : Option Value → zzM → Prop) (v0 : Option Nat) (v1 : Option Nat) (v2 : Option Nat) (v3 : Option Nat) (v4 : Int32) (s0 : Int64) (s1 : Int64) (M : zzM) (bc bs : Nat) : Prop := if (lg_cmp s1 s0) = 0 then (wp_L_law_B770 Z k23 K v0 v1 v2 v3 v4 M bc bs) else (narrow .boolean (.int (0 : Int32)) = .int (0 : Int32) ∧ K (some (.int (0 : Int32))) M)
def wp_L_law_B851 (Z : zzG) (k23 : Option Nat → Option Nat → Option Nat → Option Nat → Int32 → zzM → Nat → Nat → Prop) (K : Option Value → zzM → Prop) (v0 : Option Nat) (v1 : Option Nat) (v2 : Option Nat) (v3 : Option Nat) (v4 : Int32) (M : zzM) (bc bs : Nat) : Prop := wp_L_law_B1214 Z k23 K v0 v1 v2 v3 v4 M bc bs
def wp_L_law_B907 (Z : zzG) (k23 : Option Nat → Option Nat → Option Nat → Option Nat → Int32 → zzM → Nat → Nat → Prop) (K : Option Value → zzM → Prop) (v0 : Option Nat) (v1 : Option Nat) (v2 : Option Nat) (v3 : Option Nat) (v4 : Int32) (M : zzM) (bc bs : Nat) : Prop := wp_L_law_B1214 Z k23 K v0 v1 v2 v3 v4 M bc bs
def wp_L_law_B975 (Z : zzG) (k23 : Option Nat → Option Nat → Option Nat → Option Nat → Int32 → zzM → Nat → Nat → Prop) (K : Option Value → zzM → Prop) (v0 : Option Nat) (v1 : Option Nat) (v2 : Option Nat) (v3 : Option Nat) (v4 : Int32) (M : zzM) (bc bs : Nat) : Prop := wp_L_law_B1214 Z k23 K v0 v1 v2 v3 v4 M bc bs
def wp_L_law_B1031 (Z : zzG) (k23 : Option Nat → Option Nat → Option Nat → Option Nat → Int32 → zzM → Nat → Nat → Prop) (K : Option Value → zzM → Prop) (v0 : Option Nat) (v1 : Option Nat) (v2 : Option Nat) (v3 : Option Nat) (v4 : Int32) (M : zzM) (bc bs : Nat) : Prop := wp_L_law_B1214 Z k23 K v0 v1 v2 v3 v4 M bc bs
def wp_L_law_B1087 (Z : zzG) (k23 : Option Nat → Option Nat → Option Nat → Option Nat → Int32 → zzM → Nat → Nat → Prop) (K : Option Value → zzM → Prop) (v0 : Option Nat) (v1 : Option Nat) (v2 : Option Nat) (v3 : Option Nat) (v4 : Int32) (M : zzM) (bc bs : Nat) : Prop := wp_L_law_B1214 Z k23 K v0 v1 v2 v3 v4 M bc bs
def wp_L_law_B1156 (Z : zzG) (k23 : Option Nat → Option Nat → Option Nat → Option Nat → Int32 → zzM → Nat → Nat → Prop) (K : Option Value → zzM → Prop) (v0 : Option Nat) (v1 : Option Nat) (v2 : Option Nat) (v3 : Option Nat) (v4 : Int32) (M : zzM) (bc bs : Nat) : Prop := wp_L_law_B1214 Z k23 K v0 v1 v2 v3 v4 M bc bs
def wp_L_law_B1195 (Z : zzG) (K : Option Value → zzM → Prop) (M : zzM) (bc bs : Nat) : Prop := narrow .boolean (.int (0 : Int32)) = .int (0 : Int32) ∧ K (some (.int (0 : Int32))) M
def wp_L_law_B1197 (Z : zzG) (k23 : Option Nat → Option Nat → Option Nat → Option Nat → Int32 → zzM → Nat → Nat → Prop) (K : Option Value → zzM → Prop) (v0 : Option Nat) (v1 : Option Nat) (v2 : Option Nat) (v3 : Option Nat) (v4 : Int32) (M : zzM) (bc bs : Nat) : Prop := wp_L_law_B1214 Z k23 K v0 v1 v2 v3 v4 M bc bs
def wp_L_law_L23 (Z : zzG) (K : Option Value → zzM → Prop) : Nat → Option Nat → Option Nat → Option Nat → Option Nat → Int32 → zzM → Nat → Nat → Prop
  | 0, _, _, _, _, _, _, _, _ => False
  | n + 1, v0, v1, v2, v3, v4, M, bc, bs => zlen Z M v0 fun x21 => if (x21 - (6 : Int32)) < v4 then (narrow .boolean (.int (1 : Int32)) = .int (1 : Int32) ∧ K (some (.int (1 : Int32))) M) else (zaI Z M v0 [100] v4 fun x22 => if (x22 &&& (31 : Int32)) = (0 : Int32) then (zaI Z M v0 [100] (v4 + (1 : Int32)) fun x23 => zaI Z M v0 [100] (v4 + (2 : Int32)) fun x24 => zaI Z M v0 [100] (v4 + (3 : Int32)) fun x25 => zaI Z M v0 [100] (v4 + (4 : Int32)) fun x26 => zaI Z M v0 [100] (v4 + (5 : Int32)) fun x27 => zcc bc bs (fun c s k => wp_X0_feed Z v1 x23 x24 x25 x26 x27 v3 M c s k) fun r28 M29 bc30 bs31 => zrI r28 fun x32 => zaI Z M29 v0 [100] (v4 + (1 : Int32)) fun x33 => zaI Z M29 v0 [100] (v4 + (2 : Int32)) fun x34 => zaI Z M29 v0 [100] (v4 + (3 : Int32)) fun x35 => zaI Z M29 v0 [100] (v4 + (4 : Int32)) fun x36 => zaI Z M29 v0 [100] (v4 + (5 : Int32)) fun x37 => zty Z M29 v2 fun t => t = 16 ∧ zcc bc30 bs31 (fun c s k => wp_X4_feed Z v2 x33 x34 x35 x36 x37 M29 c s k) fun r38 M39 bc40 bs41 => zrI r38 fun x42 => zty Z M39 v2 fun t => t = 16 ∧ wp_X4_thrown Z v2 M39 (fun r43 M44 => zrI r43 fun x47 => if x47 = x32 then (if x32 = 0 then (zaJ Z M44 v3 [102] (0 : Int32) fun x48 => if (lg_cmp x48 x42.toInt64) = 0 then (wp_L_law_B241 Z (wp_L_law_L23 Z K n) K v0 v1 v2 v3 v4 M44 bc40 bs41) else (narrow .boolean (.int (0 : Int32)) = .int (0 : Int32) ∧ K (some (.int (0 : Int32))) M44)) else (wp_L_law_B241 Z (wp_L_law_L23 Z K n) K v0 v1 v2 v3 v4 M44 bc40 bs41)) else (narrow .boolean (.int (0 : Int32)) = .int (0 : Int32) ∧ K (some (.int (0 : Int32))) M44))) else if (x22 &&& (31 : Int32)) = (1 : Int32) then (zaI Z M v0 [100] (v4 + (1 : Int32)) fun x49 => zcc bc bs (fun c s k => wp_X0_trim Z v1 x49 v3 M c s k) fun r50 M51 bc52 bs53 => zrI r50 fun x54 => zaI Z M51 v0 [100] (v4 + (1 : Int32)) fun x55 => zty Z M51 v2 fun t => t = 16 ∧ wp_X4_trim Z v2 x55 M51 (fun r56 M57 => zrI r56 fun x60 => zty Z M57 v2 fun t => t = 16 ∧ wp_X4_thrown Z v2 M57 (fun r61 M62 => zrI r61 fun x65 => if x65 = x54 then (if x54 = 0 then (zaJ Z M62 v3 [102] (0 : Int32) fun x66 => if (lg_cmp x66 x60.toInt64) = 0 then (wp_L_law_B297 Z (wp_L_law_L23 Z K n) K v0 v1 v2 v3 v4 M62 bc52 bs53) else (narrow .boolean (.int (0 : Int32)) = .int (0 : Int32) ∧ K (some (.int (0 : Int32))) M62)) else (wp_L_law_B297 Z (wp_L_law_L23 Z K n) K v0 v1 v2 v3 v4 M62 bc52 bs53)) else (narrow .boolean (.int (0 : Int32)) = .int (0 : Int32) ∧ K (some (.int (0 : Int32))) M62)))) else if (x22 &&& (31 : Int32)) = (2 : Int32) then (zty Z M v1 fun t => t = 0 ∧ zcc bc bs (fun c s k => wp_X1_tell Z v1 M c s k) fun r67 M68 bc69 bs70 => zrI r67 fun x71 => zty Z M68 v2 fun t => t = 16 ∧ wp_X4_tell Z v2 M68 (fun r72 M73 => zrI r72 fun x76 => if x71 = x76 then (wp_L_law_B1214 Z (wp_L_law_L23 Z K n) K v0 v1 v2 v3 v4 M73 bc69 bs70) else (narrow .boolean (.int (0 : Int32)) = .int (0 : Int32) ∧ K (some (.int (0 : Int32))) M73))) else if (x22 &&& (31 : Int32)) = (3 : Int32) then (zty Z M v1 fun t => t = 0 ∧ wp_X1_errorAt Z v1 M (fun r77 M78 => zrI r77 fun x81 => zty Z M78 v2 fun t => t = 16 ∧ wp_X4_errorAt Z v2 M78 (fun r82 M83 => zrI r82 fun x86 => if x81 = x86 then (wp_L_law_B1214 Z (wp_L_law_L23 Z K n) K v0 v1 v2 v3 v4 M83 bc bs) else (narrow .boolean (.int (0 : Int32)) = .int (0 : Int32) ∧ K (some (.int (0 : Int32))) M83)))) else if (x22 &&& (31 : Int32)) = (4 : Int32) then (zaI Z M v0 [100] (v4 + (1 : Int32)) fun x87 => zcc bc bs (fun c s k => wp_X0_count Z v1 x87 v3 M c s k) fun r88 M89 bc90 bs91 => zrI r88 fun x92 => zaI Z M89 v0 [100] (v4 + (1 : Int32)) fun x93 => zty Z M89 v2 fun t => t = 16 ∧ zcc bc90 bs91 (fun c s k => wp_X4_count Z v2 x93 M89 c s k) fun r94 M95 bc96 bs97 => zrI r94 fun x98 => zty Z M95 v2 fun t => t = 16 ∧ wp_X4_thrown Z v2 M95 (fun r99 M100 => zrI r99 fun x103 => if x103 = x92 then (if x92 = 0 then (zaJ Z M100 v3 [102] (0 : Int32) fun x104 => if (lg_cmp x104 x98.toInt64) = 0 then (wp_L_law_B379 Z (wp_L_law_L23 Z K n) K v0 v1 v2 v3 v4 M100 bc96 bs97) else (narrow .boolean (.int (0 : Int32)) = .int (0 : Int32) ∧ K (some (.int (0 : Int32))) M100)) else (wp_L_law_B379 Z (wp_L_law_L23 Z K n) K v0 v1 v2 v3 v4 M100 bc96 bs97)) else (narrow .boolean (.int (0 : Int32)) = .int (0 : Int32) ∧ K (some (.int (0 : Int32))) M100))) else if (x22 &&& (31 : Int32)) = (5 : Int32) then (zaI Z M v0 [100] (v4 + (1 : Int32)) fun x105 => zaI Z M v0 [100] (v4 + (2 : Int32)) fun x106 => zcc bc bs (fun c s k => wp_X0_speaker Z v1 x105 x106 v3 M c s k) fun r107 M108 bc109 bs110 => zrI r107 fun x111 => zaI Z M108 v0 [100] (v4 + (1 : Int32)) fun x112 => zaI Z M108 v0 [100] (v4 + (2 : Int32)) fun x113 => zty Z M108 v2 fun t => t = 16 ∧ zcc bc109 bs110 (fun c s k => wp_X4_speaker Z v2 x112 x113 M108 c s k) fun r114 M115 bc116 bs117 => zrI r114 fun x118 => zty Z M115 v2 fun t => t = 16 ∧ wp_X4_thrown Z v2 M115 (fun r119 M120 => zrI r119 fun x123 => if x123 = x111 then (if x111 = 0 then (zaJ Z M120 v3 [102] (0 : Int32) fun x124 => if (lg_cmp x124 x118.toInt64) = 0 then (wp_L_law_B447 Z (wp_L_law_L23 Z K n) K v0 v1 v2 v3 v4 M120 bc116 bs117) else (narrow .boolean (.int (0 : Int32)) = .int (0 : Int32) ∧ K (some (.int (0 : Int32))) M120)) else (wp_L_law_B447 Z (wp_L_law_L23 Z K n) K v0 v1 v2 v3 v4 M120 bc116 bs117)) else (narrow .boolean (.int (0 : Int32)) = .int (0 : Int32) ∧ K (some (.int (0 : Int32))) M120))) else if (x22 &&& (31 : Int32)) = (6 : Int32) then (zaI Z M v0 [100] (v4 + (1 : Int32)) fun x125 => zaI Z M v0 [100] (v4 + (2 : Int32)) fun x126 => zcc bc bs (fun c s k => wp_X0_item Z v1 x125 x126 v3 M c s k) fun r127 M128 bc129 bs130 => zrI r127 fun x131 => zaI Z M128 v0 [100] (v4 + (1 : Int32)) fun x132 => zaI Z M128 v0 [100] (v4 + (2 : Int32)) fun x133 => zty Z M128 v2 fun t => t = 16 ∧ wp_X4_item Z v2 x132 x133 M128 (fun r134 M135 => zrI r134 fun x138 => zty Z M135 v2 fun t => t = 16 ∧ wp_X4_thrown Z v2 M135 (fun r139 M140 => zrI r139 fun x143 => if x143 = x131 then (if x131 = 0 then (zaJ Z M140 v3 [102] (0 : Int32) fun x144 => if (lg_cmp x144 x138.toInt64) = 0 then (wp_L_law_B515 Z (wp_L_law_L23 Z K n) K v0 v1 v2 v3 v4 M140 bc129 bs130) else (narrow .boolean (.int (0 : Int32)) = .int (0 : Int32) ∧ K (some (.int (0 : Int32))) M140)) else (wp_L_law_B515 Z (wp_L_law_L23 Z K n) K v0 v1 v2 v3 v4 M140 bc129 bs130)) else (narrow .boolean (.int (0 : Int32)) = .int (0 : Int32) ∧ K (some (.int (0 : Int32))) M140)))) else if (x22 &&& (31 : Int32)) = (7 : Int32) then (zaI Z M v0 [100] (v4 + (1 : Int32)) fun x145 => zaI Z M v0 [100] (v4 + (2 : Int32)) fun x146 => zcc bc bs (fun c s k => wp_X0_give Z v1 x145 x146 v3 M c s k) fun r147 M148 bc149 bs150 => zrI r147 fun x151 => zaI Z M148 v0 [100] (v4 + (1 : Int32)) fun x152 => zaI Z M148 v0 [100] (v4 + (2 : Int32)) fun x153 => zty Z M148 v2 fun t => t = 16 ∧ wp_X4_give Z v2 x152 x153 M148 (fun r154 M155 => zrI r154 fun x158 => zty Z M155 v2 fun t => t = 16 ∧ wp_X4_thrown Z v2 M155 (fun r159 M160 => zrI r159 fun x163 => if x163 = x151 then (if x151 = 0 then (zaJ Z M160 v3 [102] (0 : Int32) fun x164 => if (lg_cmp x164 x158.toInt64) = 0 then (wp_L_law_B583 Z (wp_L_law_L23 Z K n) K v0 v1 v2 v3 v4 M160 bc149 bs150) else (narrow .boolean (.int (0 : Int32)) = .int (0 : Int32) ∧ K (some (.int (0 : Int32))) M160)) else (wp_L_law_B583 Z (wp_L_law_L23 Z K n) K v0 v1 v2 v3 v4 M160 bc149 bs150)) else (narrow .boolean (.int (0 : Int32)) = .int (0 : Int32) ∧ K (some (.int (0 : Int32))) M160)))) else if (x22 &&& (31 : Int32)) = (8 : Int32) then (zaI Z M v0 [100] (v4 + (1 : Int32)) fun x165 => zcc bc bs (fun c s k => wp_X0_why Z v1 x165 v3 M c s k) fun r166 M167 bc168 bs169 => zrI r166 fun x170 => zaI Z M167 v0 [100] (v4 + (1 : Int32)) fun x171 => zty Z M167 v2 fun t => t = 16 ∧ wp_X4_why Z v2 x171 M167 (fun r172 M173 => zrI r172 fun x176 => zty Z M173 v2 fun t => t = 16 ∧ wp_X4_thrown Z v2 M173 (fun r177 M178 => zrI r177 fun x181 => if x181 = x170 then (if x170 = 0 then (zaJ Z M178 v3 [102] (0 : Int32) fun x182 => if (lg_cmp x182 x176.toInt64) = 0 then (wp_L_law_B639 Z (wp_L_law_L23 Z K n) K v0 v1 v2 v3 v4 M178 bc168 bs169) else (narrow .boolean (.int (0 : Int32)) = .int (0 : Int32) ∧ K (some (.int (0 : Int32))) M178)) else (wp_L_law_B639 Z (wp_L_law_L23 Z K n) K v0 v1 v2 v3 v4 M178 bc168 bs169)) else (narrow .boolean (.int (0 : Int32)) = .int (0 : Int32) ∧ K (some (.int (0 : Int32))) M178)))) else if (x22 &&& (31 : Int32)) = (9 : Int32) then (zaI Z M v0 [100] (v4 + (1 : Int32)) fun x183 => zcc bc bs (fun c s k => wp_X0_far Z v1 x183 v3 M c s k) fun r184 M185 bc186 bs187 => zrI r184 fun x188 => zaI Z M185 v0 [100] (v4 + (1 : Int32)) fun x189 => zty Z M185 v2 fun t => t = 16 ∧ wp_X4_far Z v2 x189 M185 (fun r190 M191 => zrI r190 fun x194 => zty Z M191 v2 fun t => t = 16 ∧ wp_X4_thrown Z v2 M191 (fun r195 M196 => zrI r195 fun x199 => if x199 = x188 then (if x188 = 0 then (zaJ Z M196 v3 [102] (0 : Int32) fun x200 => if (lg_cmp x200 x194.toInt64) = 0 then (wp_L_law_B695 Z (wp_L_law_L23 Z K n) K v0 v1 v2 v3 v4 M196 bc186 bs187) else (narrow .boolean (.int (0 : Int32)) = .int (0 : Int32) ∧ K (some (.int (0 : Int32))) M196)) else (wp_L_law_B695 Z (wp_L_law_L23 Z K n) K v0 v1 v2 v3 v4 M196 bc186 bs187)) else (narrow .boolean (.int (0 : Int32)) = .int (0 : Int32) ∧ K (some (.int (0 : Int32))) M196)))) else if (x22 &&& (31 : Int32)) = (10 : Int32) then (zaI Z M v0 [100] (v4 + (1 : Int32)) fun x201 => zaI Z M v0 [100] (v4 + (2 : Int32)) fun x202 => zcc bc bs (fun c s k => wp_X0_defends Z v1 x201 x202 v3 M c s k) fun r203 M204 bc205 bs206 => zrI r203 fun x207 => zaI Z M204 v0 [100] (v4 + (1 : Int32)) fun x208 => zaI Z M204 v0 [100] (v4 + (2 : Int32)) fun x209 => zty Z M204 v2 fun t => t = 16 ∧ wp_X4_defends Z v2 x208 x209 M204 (fun r210 M211 => zrI r210 fun x214 => zty Z M211 v2 fun t => t = 16 ∧ wp_X4_thrown Z v2 M211 (fun r215 M216 => zrI r215 fun x219 => if x219 = x207 then (if x207 = 0 then (zaJ Z M216 v3 [102] (0 : Int32) fun x220 => if x214 = 0 then (wp_L_law_B764 Z (wp_L_law_L23 Z K n) K v0 v1 v2 v3 v4 (0 : Int64) x220 M216 bc205 bs206) else (wp_L_law_B764 Z (wp_L_law_L23 Z K n) K v0 v1 v2 v3 v4 (1 : Int64) x220 M216 bc205 bs206)) else (wp_L_law_B770 Z (wp_L_law_L23 Z K n) K v0 v1 v2 v3 v4 M216 bc205 bs206)) else (narrow .boolean (.int (0 : Int32)) = .int (0 : Int32) ∧ K (some (.int (0 : Int32))) M216)))) else if (x22 &&& (31 : Int32)) = (11 : Int32) then (zty Z M v1 fun t => t = 0 ∧ wp_X1_leader Z v1 M (fun r221 M222 => zrI r221 fun x225 => zty Z M222 v2 fun t => t = 16 ∧ wp_X4_leader Z v2 M222 (fun r226 M227 => zrI r226 fun x230 => if x225 = x230 then (wp_L_law_B1214 Z (wp_L_law_L23 Z K n) K v0 v1 v2 v3 v4 M227 bc bs) else (narrow .boolean (.int (0 : Int32)) = .int (0 : Int32) ∧ K (some (.int (0 : Int32))) M227)))) else if (x22 &&& (31 : Int32)) = (12 : Int32) then (zaI Z M v0 [100] (v4 + (1 : Int32)) fun x231 => zaI Z M v0 [100] (v4 + (2 : Int32)) fun x232 => zcc bc bs (fun c s k => wp_X0_conceding Z v1 x231 x232 v3 M c s k) fun r233 M234 bc235 bs236 => zrI r233 fun x237 => zaI Z M234 v0 [100] (v4 + (1 : Int32)) fun x238 => zaI Z M234 v0 [100] (v4 + (2 : Int32)) fun x239 => zty Z M234 v2 fun t => t = 16 ∧ wp_X4_conceding Z v2 x238 x239 M234 (fun r240 M241 => zrI r240 fun x244 => zty Z M241 v2 fun t => t = 16 ∧ wp_X4_thrown Z v2 M241 (fun r245 M246 => zrI r245 fun x249 => if x249 = x237 then (if x237 = 0 then (zaJ Z M246 v3 [102] (0 : Int32) fun x250 => if (lg_cmp x250 x244.toInt64) = 0 then (wp_L_law_B851 Z (wp_L_law_L23 Z K n) K v0 v1 v2 v3 v4 M246 bc235 bs236) else (narrow .boolean (.int (0 : Int32)) = .int (0 : Int32) ∧ K (some (.int (0 : Int32))) M246)) else (wp_L_law_B851 Z (wp_L_law_L23 Z K n) K v0 v1 v2 v3 v4 M246 bc235 bs236)) else (narrow .boolean (.int (0 : Int32)) = .int (0 : Int32) ∧ K (some (.int (0 : Int32))) M246)))) else if (x22 &&& (31 : Int32)) = (13 : Int32) then (zaI Z M v0 [100] (v4 + (1 : Int32)) fun x251 => zcc bc bs (fun c s k => wp_X0_concede Z v1 x251 v3 M c s k) fun r252 M253 bc254 bs255 => zrI r252 fun x256 => zaI Z M253 v0 [100] (v4 + (1 : Int32)) fun x257 => zty Z M253 v2 fun t => t = 16 ∧ wp_X4_concede Z v2 x257 M253 (fun r258 M259 => zrI r258 fun x262 => zty Z M259 v2 fun t => t = 16 ∧ wp_X4_thrown Z v2 M259 (fun r263 M264 => zrI r263 fun x267 => if x267 = x256 then (if x256 = 0 then (zaJ Z M264 v3 [102] (0 : Int32) fun x268 => if (lg_cmp x268 x262.toInt64) = 0 then (wp_L_law_B907 Z (wp_L_law_L23 Z K n) K v0 v1 v2 v3 v4 M264 bc254 bs255) else (narrow .boolean (.int (0 : Int32)) = .int (0 : Int32) ∧ K (some (.int (0 : Int32))) M264)) else (wp_L_law_B907 Z (wp_L_law_L23 Z K n) K v0 v1 v2 v3 v4 M264 bc254 bs255)) else (narrow .boolean (.int (0 : Int32)) = .int (0 : Int32) ∧ K (some (.int (0 : Int32))) M264)))) else if (x22 &&& (31 : Int32)) = (14 : Int32) then (zaI Z M v0 [100] (v4 + (1 : Int32)) fun x269 => zaI Z M v0 [100] (v4 + (2 : Int32)) fun x270 => zcc bc bs (fun c s k => wp_X0_advise Z v1 x269 x270 v3 M c s k) fun r271 M272 bc273 bs274 => zrI r271 fun x275 => zaI Z M272 v0 [100] (v4 + (1 : Int32)) fun x276 => zaI Z M272 v0 [100] (v4 + (2 : Int32)) fun x277 => zty Z M272 v2 fun t => t = 16 ∧ wp_X4_advise Z v2 x276 x277 M272 (fun r278 M279 => zrI r278 fun x282 => zty Z M279 v2 fun t => t = 16 ∧ wp_X4_thrown Z v2 M279 (fun r283 M284 => zrI r283 fun x287 => if x287 = x275 then (if x275 = 0 then (zaJ Z M284 v3 [102] (0 : Int32) fun x288 => if (lg_cmp x288 x282.toInt64) = 0 then (wp_L_law_B975 Z (wp_L_law_L23 Z K n) K v0 v1 v2 v3 v4 M284 bc273 bs274) else (narrow .boolean (.int (0 : Int32)) = .int (0 : Int32) ∧ K (some (.int (0 : Int32))) M284)) else (wp_L_law_B975 Z (wp_L_law_L23 Z K n) K v0 v1 v2 v3 v4 M284 bc273 bs274)) else (narrow .boolean (.int (0 : Int32)) = .int (0 : Int32) ∧ K (some (.int (0 : Int32))) M284)))) else if (x22 &&& (31 : Int32)) = (15 : Int32) then (zaI Z M v0 [100] (v4 + (1 : Int32)) fun x289 => zcc bc bs (fun c s k => wp_X0_least Z v1 x289 v3 M c s k) fun r290 M291 bc292 bs293 => zrI r290 fun x294 => zaI Z M291 v0 [100] (v4 + (1 : Int32)) fun x295 => zty Z M291 v2 fun t => t = 16 ∧ wp_X4_least Z v2 x295 M291 (fun r296 M297 => zrI r296 fun x300 => zty Z M297 v2 fun t => t = 16 ∧ wp_X4_thrown Z v2 M297 (fun r301 M302 => zrI r301 fun x305 => if x305 = x294 then (if x294 = 0 then (zaJ Z M302 v3 [102] (0 : Int32) fun x306 => if (lg_cmp x306 x300.toInt64) = 0 then (wp_L_law_B1031 Z (wp_L_law_L23 Z K n) K v0 v1 v2 v3 v4 M302 bc292 bs293) else (narrow .boolean (.int (0 : Int32)) = .int (0 : Int32) ∧ K (some (.int (0 : Int32))) M302)) else (wp_L_law_B1031 Z (wp_L_law_L23 Z K n) K v0 v1 v2 v3 v4 M302 bc292 bs293)) else (narrow .boolean (.int (0 : Int32)) = .int (0 : Int32) ∧ K (some (.int (0 : Int32))) M302)))) else if (x22 &&& (31 : Int32)) = (16 : Int32) then (zaI Z M v0 [100] (v4 + (1 : Int32)) fun x307 => zcc bc bs (fun c s k => wp_X0_frees Z v1 x307 v3 M c s k) fun r308 M309 bc310 bs311 => zrI r308 fun x312 => zaI Z M309 v0 [100] (v4 + (1 : Int32)) fun x313 => zty Z M309 v2 fun t => t = 16 ∧ wp_X4_frees Z v2 x313 M309 (fun r314 M315 => zrI r314 fun x318 => zty Z M315 v2 fun t => t = 16 ∧ wp_X4_thrown Z v2 M315 (fun r319 M320 => zrI r319 fun x323 => if x323 = x312 then (if x312 = 0 then (zaJ Z M320 v3 [102] (0 : Int32) fun x324 => if (lg_cmp x324 x318.toInt64) = 0 then (wp_L_law_B1087 Z (wp_L_law_L23 Z K n) K v0 v1 v2 v3 v4 M320 bc310 bs311) else (narrow .boolean (.int (0 : Int32)) = .int (0 : Int32) ∧ K (some (.int (0 : Int32))) M320)) else (wp_L_law_B1087 Z (wp_L_law_L23 Z K n) K v0 v1 v2 v3 v4 M320 bc310 bs311)) else (narrow .boolean (.int (0 : Int32)) = .int (0 : Int32) ∧ K (some (.int (0 : Int32))) M320)))) else if (x22 &&& (31 : Int32)) = (17 : Int32) then (zty Z M v1 fun t => t = 0 ∧ zcc bc bs (fun c s k => wp_X1_sheet Z v1 M c s k) fun r325 M326 bc327 bs328 => zrI r325 fun x329 => zty Z M326 v2 fun t => t = 16 ∧ wp_X4_sheet Z v2 M326 (fun r330 M331 => zrI r330 fun x334 => if x329 = x334 then (wp_L_law_B1214 Z (wp_L_law_L23 Z K n) K v0 v1 v2 v3 v4 M331 bc327 bs328) else (narrow .boolean (.int (0 : Int32)) = .int (0 : Int32) ∧ K (some (.int (0 : Int32))) M331))) else if (x22 &&& (31 : Int32)) = (18 : Int32) then (zaI Z M v0 [100] (v4 + (1 : Int32)) fun x335 => zcc bc bs (fun c s k => wp_X0_byteAt Z v1 x335 v3 M c s k) fun r336 M337 bc338 bs339 => zrI r336 fun x340 => zaI Z M337 v0 [100] (v4 + (1 : Int32)) fun x341 => zty Z M337 v2 fun t => t = 16 ∧ wp_X4_byteAt Z v2 x341 M337 (fun r342 M343 => zrI r342 fun x346 => zty Z M343 v2 fun t => t = 16 ∧ wp_X4_thrown Z v2 M343 (fun r347 M348 => zrI r347 fun x351 => if x351 = x340 then (if x340 = 0 then (zaJ Z M348 v3 [102] (0 : Int32) fun x352 => if (lg_cmp x352 x346.toInt64) = 0 then (wp_L_law_B1156 Z (wp_L_law_L23 Z K n) K v0 v1 v2 v3 v4 M348 bc338 bs339) else (narrow .boolean (.int (0 : Int32)) = .int (0 : Int32) ∧ K (some (.int (0 : Int32))) M348)) else (wp_L_law_B1156 Z (wp_L_law_L23 Z K n) K v0 v1 v2 v3 v4 M348 bc338 bs339)) else (narrow .boolean (.int (0 : Int32)) = .int (0 : Int32) ∧ K (some (.int (0 : Int32))) M348)))) else if (x22 &&& (31 : Int32)) = (19 : Int32) then (zty Z M v1 fun t => t = 0 ∧ zcc bc bs (fun c s k => wp_X1_share Z v1 M c s k) fun r353 M354 bc355 bs356 => zrD r353 fun x357 => zty Z M354 v2 fun t => t = 16 ∧ wp_X4_share Z v2 M354 (fun r358 M359 => zrD r358 fun x362 => if (Op.cmpValue (FP.dcmp x357 x362) .l) = 0 then (wp_L_law_B1197 Z (wp_L_law_L23 Z K n) K v0 v1 v2 v3 v4 M359 bc355 bs356) else (if (Op.cmpValue (FP.dcmp x357 x357) .l) = 0 then (wp_L_law_B1195 Z K M359 bc355 bs356) else (if (Op.cmpValue (FP.dcmp x362 x362) .l) = 0 then (wp_L_law_B1195 Z K M359 bc355 bs356) else (wp_L_law_B1197 Z (wp_L_law_L23 Z K n) K v0 v1 v2 v3 v4 M359 bc355 bs356))))) else if (x22 &&& (31 : Int32)) = (20 : Int32) then (zty Z M v1 fun t => t = 0 ∧ zcx bc bs (fun c s k x => wp_X1_digest Z v1 M c s k x) (fun r363 M364 bc365 bs366 => zrJ r363 fun x367 => zty Z M364 v2 fun t => t = 16 ∧ zcc bc365 bs366 (fun c s k => wp_X4_digest Z v2 M364 c s k) fun r368 M369 bc370 bs371 => zrJ r368 fun x372 => if (lg_cmp x367 x372) = 0 then (wp_L_law_B1214 Z (wp_L_law_L23 Z K n) K v0 v1 v2 v3 v4 M369 bc370 bs371) else (narrow .boolean (.int (0 : Int32)) = .int (0 : Int32) ∧ K (some (.int (0 : Int32))) M369)) (fun _ _ _ _ _ => False)) else (wp_L_law_B1214 Z (wp_L_law_L23 Z K n) K v0 v1 v2 v3 v4 M bc bs))
def wp_L_law (Z : zzG) (p0 : Option Nat) (M : zzM) (bc bs : Nat) (K : Option Value → zzM → Prop) : Prop := znew Z M bc bs 0 4 [.null, .int 0, .null, .null] fun q1 M2 bc3 bs4 => zcc bc3 bs4 (fun c s k => wp_X1_init Z (some q1) M2 c s k) fun r5 M6 bc7 bs8 => zrV r5 (znew Z M6 bc7 bs8 16 24 [.int 0, .int 0, .int 0, .null, .int 0, .null, .int 0, .null, .null, .null, .int 0, .null, .null, .null, .null, .int 0, .null, .null, .int 0, .int 0, .int 0, .null, .null, .null] fun q9 M10 bc11 bs12 => zcc bc11 bs12 (fun c s k => wp_X4_init Z (some q9) M10 c s k) fun r13 M14 bc15 bs16 => zrV r13 (znar Z M14 bc15 bs16 102 (1 : Int32) (.long 0) fun q17 M18 bc19 bs20 => ∃ n23 : Nat, wp_L_law_L23 Z K n23 p0 (some q1) (some q9) (some q17) (0 : Int32) M18 bc19 bs20))
theorem ok_L_law_B1214 {G : zzX} (C : zz_C G cL_law "DebateHallLaw" 9) {K : Option Value → zzM → Prop} (E : zz_E G (some .boolean) K (fun _ _ _ => False)) (hH : True) (hR : zz_Rm G 139) {k23 : Option Nat → Option Nat → Option Nat → Option Nat → Int32 → zzM → Nat → Nat → Prop} (hk23 : ∀ (z0 : Option Nat) (z1 : Option Nat) (z2 : Option Nat) (z3 : Option Nat) (z4 : Int32) (M : zzM) (bc bs : Nat), k23 z0 z1 z2 z3 z4 M bc bs → zz_T G 9 M bc bs 23 [(0, va_rf z0), (1, va_rf z1), (2, va_rf z2), (3, va_rf z3), (4, .int z4)] []) {v0 : Option Nat} {v1 : Option Nat} {v2 : Option Nat} {v3 : Option Nat} {v4 : Int32} {M : zzM} {bc bs : Nat} (hw : wp_L_law_B1214 (zz_Zof G) k23 K v0 v1 v2 v3 v4 M bc bs) : zz_T G 9 M bc bs 1214 [(0, va_rf v0), (1, va_rf v1), (2, va_rf v2), (3, va_rf v3), (4, .int v4)] [] := by
  unfold wp_L_law_B1214 at hw
  refine zz_iinc (lv' := [(4, .int (v4 + 6)), (0, va_rf v0), (1, va_rf v1), (2, va_rf v2), (3, va_rf v3)]) C dL_law_1214 4 rfl (by rfl) (by decide) (by simp [zz_cat, zz_catI, zz_catJ, zz_catD]) ?_
  refine zz_goto (tgt := 23) C dL_law_1217 (by decide) ?_
  refine zz_subP [1, 2, 3, 4, 0] rfl ?_
  exact hk23 _ _ _ _ _ _ _ _ hw
theorem ok_L_law_B241 {G : zzX} (C : zz_C G cL_law "DebateHallLaw" 9) {K : Option Value → zzM → Prop} (E : zz_E G (some .boolean) K (fun _ _ _ => False)) (hH : True) (hR : zz_Rm G 139) {k23 : Option Nat → Option Nat → Option Nat → Option Nat → Int32 → zzM → Nat → Nat → Prop} (hk23 : ∀ (z0 : Option Nat) (z1 : Option Nat) (z2 : Option Nat) (z3 : Option Nat) (z4 : Int32) (M : zzM) (bc bs : Nat), k23 z0 z1 z2 z3 z4 M bc bs → zz_T G 9 M bc bs 23 [(0, va_rf z0), (1, va_rf z1), (2, va_rf z2), (3, va_rf z3), (4, .int z4)] []) {v0 : Option Nat} {v1 : Option Nat} {v2 : Option Nat} {v3 : Option Nat} {v4 : Int32} {M : zzM} {bc bs : Nat} (hw : wp_L_law_B241 (zz_Zof G) k23 K v0 v1 v2 v3 v4 M bc bs) : zz_T G 9 M bc bs 241 [(0, va_rf v0), (1, va_rf v1), (2, va_rf v2), (3, va_rf v3), (4, .int v4)] [] := by
  unfold wp_L_law_B241 at hw
  refine zz_goto (tgt := 1214) C dL_law_241 (by decide) ?_
  refine zz_subP [0, 1, 2, 3, 4] rfl ?_
  exact ok_L_law_B1214 C E hH hR hk23 hw
theorem ok_L_law_B297 {G : zzX} (C : zz_C G cL_law "DebateHallLaw" 9) {K : Option Value → zzM → Prop} (E : zz_E G (some .boolean) K (fun _ _ _ => False)) (hH : True) (hR : zz_Rm G 139) {k23 : Option Nat → Option Nat → Option Nat → Option Nat → Int32 → zzM → Nat → Nat → Prop} (hk23 : ∀ (z0 : Option Nat) (z1 : Option Nat) (z2 : Option Nat) (z3 : Option Nat) (z4 : Int32) (M : zzM) (bc bs : Nat), k23 z0 z1 z2 z3 z4 M bc bs → zz_T G 9 M bc bs 23 [(0, va_rf z0), (1, va_rf z1), (2, va_rf z2), (3, va_rf z3), (4, .int z4)] []) {v0 : Option Nat} {v1 : Option Nat} {v2 : Option Nat} {v3 : Option Nat} {v4 : Int32} {M : zzM} {bc bs : Nat} (hw : wp_L_law_B297 (zz_Zof G) k23 K v0 v1 v2 v3 v4 M bc bs) : zz_T G 9 M bc bs 297 [(0, va_rf v0), (1, va_rf v1), (2, va_rf v2), (3, va_rf v3), (4, .int v4)] [] := by
  unfold wp_L_law_B297 at hw
  refine zz_goto (tgt := 1214) C dL_law_297 (by decide) ?_
  refine zz_subP [0, 1, 2, 3, 4] rfl ?_
  exact ok_L_law_B1214 C E hH hR hk23 hw
theorem ok_L_law_B379 {G : zzX} (C : zz_C G cL_law "DebateHallLaw" 9) {K : Option Value → zzM → Prop} (E : zz_E G (some .boolean) K (fun _ _ _ => False)) (hH : True) (hR : zz_Rm G 139) {k23 : Option Nat → Option Nat → Option Nat → Option Nat → Int32 → zzM → Nat → Nat → Prop} (hk23 : ∀ (z0 : Option Nat) (z1 : Option Nat) (z2 : Option Nat) (z3 : Option Nat) (z4 : Int32) (M : zzM) (bc bs : Nat), k23 z0 z1 z2 z3 z4 M bc bs → zz_T G 9 M bc bs 23 [(0, va_rf z0), (1, va_rf z1), (2, va_rf z2), (3, va_rf z3), (4, .int z4)] []) {v0 : Option Nat} {v1 : Option Nat} {v2 : Option Nat} {v3 : Option Nat} {v4 : Int32} {M : zzM} {bc bs : Nat} (hw : wp_L_law_B379 (zz_Zof G) k23 K v0 v1 v2 v3 v4 M bc bs) : zz_T G 9 M bc bs 379 [(0, va_rf v0), (1, va_rf v1), (2, va_rf v2), (3, va_rf v3), (4, .int v4)] [] := by
  unfold wp_L_law_B379 at hw
  refine zz_goto (tgt := 1214) C dL_law_379 (by decide) ?_
  refine zz_subP [0, 1, 2, 3, 4] rfl ?_
  exact ok_L_law_B1214 C E hH hR hk23 hw
theorem ok_L_law_B447 {G : zzX} (C : zz_C G cL_law "DebateHallLaw" 9) {K : Option Value → zzM → Prop} (E : zz_E G (some .boolean) K (fun _ _ _ => False)) (hH : True) (hR : zz_Rm G 139) {k23 : Option Nat → Option Nat → Option Nat → Option Nat → Int32 → zzM → Nat → Nat → Prop} (hk23 : ∀ (z0 : Option Nat) (z1 : Option Nat) (z2 : Option Nat) (z3 : Option Nat) (z4 : Int32) (M : zzM) (bc bs : Nat), k23 z0 z1 z2 z3 z4 M bc bs → zz_T G 9 M bc bs 23 [(0, va_rf z0), (1, va_rf z1), (2, va_rf z2), (3, va_rf z3), (4, .int z4)] []) {v0 : Option Nat} {v1 : Option Nat} {v2 : Option Nat} {v3 : Option Nat} {v4 : Int32} {M : zzM} {bc bs : Nat} (hw : wp_L_law_B447 (zz_Zof G) k23 K v0 v1 v2 v3 v4 M bc bs) : zz_T G 9 M bc bs 447 [(0, va_rf v0), (1, va_rf v1), (2, va_rf v2), (3, va_rf v3), (4, .int v4)] [] := by
  unfold wp_L_law_B447 at hw
  refine zz_goto (tgt := 1214) C dL_law_447 (by decide) ?_
  refine zz_subP [0, 1, 2, 3, 4] rfl ?_
  exact ok_L_law_B1214 C E hH hR hk23 hw
theorem ok_L_law_B515 {G : zzX} (C : zz_C G cL_law "DebateHallLaw" 9) {K : Option Value → zzM → Prop} (E : zz_E G (some .boolean) K (fun _ _ _ => False)) (hH : True) (hR : zz_Rm G 139) {k23 : Option Nat → Option Nat → Option Nat → Option Nat → Int32 → zzM → Nat → Nat → Prop} (hk23 : ∀ (z0 : Option Nat) (z1 : Option Nat) (z2 : Option Nat) (z3 : Option Nat) (z4 : Int32) (M : zzM) (bc bs : Nat), k23 z0 z1 z2 z3 z4 M bc bs → zz_T G 9 M bc bs 23 [(0, va_rf z0), (1, va_rf z1), (2, va_rf z2), (3, va_rf z3), (4, .int z4)] []) {v0 : Option Nat} {v1 : Option Nat} {v2 : Option Nat} {v3 : Option Nat} {v4 : Int32} {M : zzM} {bc bs : Nat} (hw : wp_L_law_B515 (zz_Zof G) k23 K v0 v1 v2 v3 v4 M bc bs) : zz_T G 9 M bc bs 515 [(0, va_rf v0), (1, va_rf v1), (2, va_rf v2), (3, va_rf v3), (4, .int v4)] [] := by
  unfold wp_L_law_B515 at hw
  refine zz_goto (tgt := 1214) C dL_law_515 (by decide) ?_
  refine zz_subP [0, 1, 2, 3, 4] rfl ?_
  exact ok_L_law_B1214 C E hH hR hk23 hw
theorem ok_L_law_B583 {G : zzX} (C : zz_C G cL_law "DebateHallLaw" 9) {K : Option Value → zzM → Prop} (E : zz_E G (some .boolean) K (fun _ _ _ => False)) (hH : True) (hR : zz_Rm G 139) {k23 : Option Nat → Option Nat → Option Nat → Option Nat → Int32 → zzM → Nat → Nat → Prop} (hk23 : ∀ (z0 : Option Nat) (z1 : Option Nat) (z2 : Option Nat) (z3 : Option Nat) (z4 : Int32) (M : zzM) (bc bs : Nat), k23 z0 z1 z2 z3 z4 M bc bs → zz_T G 9 M bc bs 23 [(0, va_rf z0), (1, va_rf z1), (2, va_rf z2), (3, va_rf z3), (4, .int z4)] []) {v0 : Option Nat} {v1 : Option Nat} {v2 : Option Nat} {v3 : Option Nat} {v4 : Int32} {M : zzM} {bc bs : Nat} (hw : wp_L_law_B583 (zz_Zof G) k23 K v0 v1 v2 v3 v4 M bc bs) : zz_T G 9 M bc bs 583 [(0, va_rf v0), (1, va_rf v1), (2, va_rf v2), (3, va_rf v3), (4, .int v4)] [] := by
  unfold wp_L_law_B583 at hw
  refine zz_goto (tgt := 1214) C dL_law_583 (by decide) ?_
  refine zz_subP [0, 1, 2, 3, 4] rfl ?_
  exact ok_L_law_B1214 C E hH hR hk23 hw
theorem ok_L_law_B639 {G : zzX} (C : zz_C G cL_law "DebateHallLaw" 9) {K : Option Value → zzM → Prop} (E : zz_E G (some .boolean) K (fun _ _ _ => False)) (hH : True) (hR : zz_Rm G 139) {k23 : Option Nat → Option Nat → Option Nat → Option Nat → Int32 → zzM → Nat → Nat → Prop} (hk23 : ∀ (z0 : Option Nat) (z1 : Option Nat) (z2 : Option Nat) (z3 : Option Nat) (z4 : Int32) (M : zzM) (bc bs : Nat), k23 z0 z1 z2 z3 z4 M bc bs → zz_T G 9 M bc bs 23 [(0, va_rf z0), (1, va_rf z1), (2, va_rf z2), (3, va_rf z3), (4, .int z4)] []) {v0 : Option Nat} {v1 : Option Nat} {v2 : Option Nat} {v3 : Option Nat} {v4 : Int32} {M : zzM} {bc bs : Nat} (hw : wp_L_law_B639 (zz_Zof G) k23 K v0 v1 v2 v3 v4 M bc bs) : zz_T G 9 M bc bs 639 [(0, va_rf v0), (1, va_rf v1), (2, va_rf v2), (3, va_rf v3), (4, .int v4)] [] := by
  unfold wp_L_law_B639 at hw
  refine zz_goto (tgt := 1214) C dL_law_639 (by decide) ?_
  refine zz_subP [0, 1, 2, 3, 4] rfl ?_
  exact ok_L_law_B1214 C E hH hR hk23 hw
theorem ok_L_law_B695 {G : zzX} (C : zz_C G cL_law "DebateHallLaw" 9) {K : Option Value → zzM → Prop} (E : zz_E G (some .boolean) K (fun _ _ _ => False)) (hH : True) (hR : zz_Rm G 139) {k23 : Option Nat → Option Nat → Option Nat → Option Nat → Int32 → zzM → Nat → Nat → Prop} (hk23 : ∀ (z0 : Option Nat) (z1 : Option Nat) (z2 : Option Nat) (z3 : Option Nat) (z4 : Int32) (M : zzM) (bc bs : Nat), k23 z0 z1 z2 z3 z4 M bc bs → zz_T G 9 M bc bs 23 [(0, va_rf z0), (1, va_rf z1), (2, va_rf z2), (3, va_rf z3), (4, .int z4)] []) {v0 : Option Nat} {v1 : Option Nat} {v2 : Option Nat} {v3 : Option Nat} {v4 : Int32} {M : zzM} {bc bs : Nat} (hw : wp_L_law_B695 (zz_Zof G) k23 K v0 v1 v2 v3 v4 M bc bs) : zz_T G 9 M bc bs 695 [(0, va_rf v0), (1, va_rf v1), (2, va_rf v2), (3, va_rf v3), (4, .int v4)] [] := by
  unfold wp_L_law_B695 at hw
  refine zz_goto (tgt := 1214) C dL_law_695 (by decide) ?_
  refine zz_subP [0, 1, 2, 3, 4] rfl ?_
  exact ok_L_law_B1214 C E hH hR hk23 hw
theorem ok_L_law_B770 {G : zzX} (C : zz_C G cL_law "DebateHallLaw" 9) {K : Option Value → zzM → Prop} (E : zz_E G (some .boolean) K (fun _ _ _ => False)) (hH : True) (hR : zz_Rm G 139) {k23 : Option Nat → Option Nat → Option Nat → Option Nat → Int32 → zzM → Nat → Nat → Prop} (hk23 : ∀ (z0 : Option Nat) (z1 : Option Nat) (z2 : Option Nat) (z3 : Option Nat) (z4 : Int32) (M : zzM) (bc bs : Nat), k23 z0 z1 z2 z3 z4 M bc bs → zz_T G 9 M bc bs 23 [(0, va_rf z0), (1, va_rf z1), (2, va_rf z2), (3, va_rf z3), (4, .int z4)] []) {v0 : Option Nat} {v1 : Option Nat} {v2 : Option Nat} {v3 : Option Nat} {v4 : Int32} {M : zzM} {bc bs : Nat} (hw : wp_L_law_B770 (zz_Zof G) k23 K v0 v1 v2 v3 v4 M bc bs) : zz_T G 9 M bc bs 770 [(0, va_rf v0), (1, va_rf v1), (2, va_rf v2), (3, va_rf v3), (4, .int v4)] [] := by
  unfold wp_L_law_B770 at hw
  refine zz_goto (tgt := 1214) C dL_law_770 (by decide) ?_
  refine zz_subP [0, 1, 2, 3, 4] rfl ?_
  exact ok_L_law_B1214 C E hH hR hk23 hw
theorem ok_L_law_B764 {G : zzX} (C : zz_C G cL_law "DebateHallLaw" 9) {K : Option Value → zzM → Prop} (E : zz_E G (some .boolean) K (fun _ _ _ => False)) (hH : True) (hR : zz_Rm G 139) {k23 : Option Nat → Option Nat → Option Nat → Option Nat → Int32 → zzM → Nat → Nat → Prop} (hk23 : ∀ (z0 : Option Nat) (z1 : Option Nat) (z2 : Option Nat) (z3 : Option Nat) (z4 : Int32) (M : zzM) (bc bs : Nat), k23 z0 z1 z2 z3 z4 M bc bs → zz_T G 9 M bc bs 23 [(0, va_rf z0), (1, va_rf z1), (2, va_rf z2), (3, va_rf z3), (4, .int z4)] []) {v0 : Option Nat} {v1 : Option Nat} {v2 : Option Nat} {v3 : Option Nat} {v4 : Int32} {s0 : Int64} {s1 : Int64} {M : zzM} {bc bs : Nat} (hw : wp_L_law_B764 (zz_Zof G) k23 K v0 v1 v2 v3 v4 s0 s1 M bc bs) : zz_T G 9 M bc bs 764 [(0, va_rf v0), (1, va_rf v1), (2, va_rf v2), (3, va_rf v3), (4, .int v4)] [.long s0, .long s1] := by
  unfold wp_L_law_B764 at hw
  refine zz_lcmp C dL_law_764 ?_
  refine zz_if_eq (tgt := 770) C dL_law_765 (by decide) hw (fun hw => ?_) (fun hw => ?_)
  · refine zz_subP [0, 1, 2, 3, 4] rfl ?_
    exact ok_L_law_B770 C E hH hR hk23 hw
  · refine zz_iconst (v := (0 : Int32)) C dL_law_768 (by decide) ?_
    exact zz_zret C E dL_law_769 hw
theorem ok_L_law_B851 {G : zzX} (C : zz_C G cL_law "DebateHallLaw" 9) {K : Option Value → zzM → Prop} (E : zz_E G (some .boolean) K (fun _ _ _ => False)) (hH : True) (hR : zz_Rm G 139) {k23 : Option Nat → Option Nat → Option Nat → Option Nat → Int32 → zzM → Nat → Nat → Prop} (hk23 : ∀ (z0 : Option Nat) (z1 : Option Nat) (z2 : Option Nat) (z3 : Option Nat) (z4 : Int32) (M : zzM) (bc bs : Nat), k23 z0 z1 z2 z3 z4 M bc bs → zz_T G 9 M bc bs 23 [(0, va_rf z0), (1, va_rf z1), (2, va_rf z2), (3, va_rf z3), (4, .int z4)] []) {v0 : Option Nat} {v1 : Option Nat} {v2 : Option Nat} {v3 : Option Nat} {v4 : Int32} {M : zzM} {bc bs : Nat} (hw : wp_L_law_B851 (zz_Zof G) k23 K v0 v1 v2 v3 v4 M bc bs) : zz_T G 9 M bc bs 851 [(0, va_rf v0), (1, va_rf v1), (2, va_rf v2), (3, va_rf v3), (4, .int v4)] [] := by
  unfold wp_L_law_B851 at hw
  refine zz_goto (tgt := 1214) C dL_law_851 (by decide) ?_
  refine zz_subP [0, 1, 2, 3, 4] rfl ?_
  exact ok_L_law_B1214 C E hH hR hk23 hw
theorem ok_L_law_B907 {G : zzX} (C : zz_C G cL_law "DebateHallLaw" 9) {K : Option Value → zzM → Prop} (E : zz_E G (some .boolean) K (fun _ _ _ => False)) (hH : True) (hR : zz_Rm G 139) {k23 : Option Nat → Option Nat → Option Nat → Option Nat → Int32 → zzM → Nat → Nat → Prop} (hk23 : ∀ (z0 : Option Nat) (z1 : Option Nat) (z2 : Option Nat) (z3 : Option Nat) (z4 : Int32) (M : zzM) (bc bs : Nat), k23 z0 z1 z2 z3 z4 M bc bs → zz_T G 9 M bc bs 23 [(0, va_rf z0), (1, va_rf z1), (2, va_rf z2), (3, va_rf z3), (4, .int z4)] []) {v0 : Option Nat} {v1 : Option Nat} {v2 : Option Nat} {v3 : Option Nat} {v4 : Int32} {M : zzM} {bc bs : Nat} (hw : wp_L_law_B907 (zz_Zof G) k23 K v0 v1 v2 v3 v4 M bc bs) : zz_T G 9 M bc bs 907 [(0, va_rf v0), (1, va_rf v1), (2, va_rf v2), (3, va_rf v3), (4, .int v4)] [] := by
  unfold wp_L_law_B907 at hw
  refine zz_goto (tgt := 1214) C dL_law_907 (by decide) ?_
  refine zz_subP [0, 1, 2, 3, 4] rfl ?_
  exact ok_L_law_B1214 C E hH hR hk23 hw
theorem ok_L_law_B975 {G : zzX} (C : zz_C G cL_law "DebateHallLaw" 9) {K : Option Value → zzM → Prop} (E : zz_E G (some .boolean) K (fun _ _ _ => False)) (hH : True) (hR : zz_Rm G 139) {k23 : Option Nat → Option Nat → Option Nat → Option Nat → Int32 → zzM → Nat → Nat → Prop} (hk23 : ∀ (z0 : Option Nat) (z1 : Option Nat) (z2 : Option Nat) (z3 : Option Nat) (z4 : Int32) (M : zzM) (bc bs : Nat), k23 z0 z1 z2 z3 z4 M bc bs → zz_T G 9 M bc bs 23 [(0, va_rf z0), (1, va_rf z1), (2, va_rf z2), (3, va_rf z3), (4, .int z4)] []) {v0 : Option Nat} {v1 : Option Nat} {v2 : Option Nat} {v3 : Option Nat} {v4 : Int32} {M : zzM} {bc bs : Nat} (hw : wp_L_law_B975 (zz_Zof G) k23 K v0 v1 v2 v3 v4 M bc bs) : zz_T G 9 M bc bs 975 [(0, va_rf v0), (1, va_rf v1), (2, va_rf v2), (3, va_rf v3), (4, .int v4)] [] := by
  unfold wp_L_law_B975 at hw
  refine zz_goto (tgt := 1214) C dL_law_975 (by decide) ?_
  refine zz_subP [0, 1, 2, 3, 4] rfl ?_
  exact ok_L_law_B1214 C E hH hR hk23 hw
theorem ok_L_law_B1031 {G : zzX} (C : zz_C G cL_law "DebateHallLaw" 9) {K : Option Value → zzM → Prop} (E : zz_E G (some .boolean) K (fun _ _ _ => False)) (hH : True) (hR : zz_Rm G 139) {k23 : Option Nat → Option Nat → Option Nat → Option Nat → Int32 → zzM → Nat → Nat → Prop} (hk23 : ∀ (z0 : Option Nat) (z1 : Option Nat) (z2 : Option Nat) (z3 : Option Nat) (z4 : Int32) (M : zzM) (bc bs : Nat), k23 z0 z1 z2 z3 z4 M bc bs → zz_T G 9 M bc bs 23 [(0, va_rf z0), (1, va_rf z1), (2, va_rf z2), (3, va_rf z3), (4, .int z4)] []) {v0 : Option Nat} {v1 : Option Nat} {v2 : Option Nat} {v3 : Option Nat} {v4 : Int32} {M : zzM} {bc bs : Nat} (hw : wp_L_law_B1031 (zz_Zof G) k23 K v0 v1 v2 v3 v4 M bc bs) : zz_T G 9 M bc bs 1031 [(0, va_rf v0), (1, va_rf v1), (2, va_rf v2), (3, va_rf v3), (4, .int v4)] [] := by
  unfold wp_L_law_B1031 at hw
  refine zz_goto (tgt := 1214) C dL_law_1031 (by decide) ?_
  refine zz_subP [0, 1, 2, 3, 4] rfl ?_
  exact ok_L_law_B1214 C E hH hR hk23 hw
theorem ok_L_law_B1087 {G : zzX} (C : zz_C G cL_law "DebateHallLaw" 9) {K : Option Value → zzM → Prop} (E : zz_E G (some .boolean) K (fun _ _ _ => False)) (hH : True) (hR : zz_Rm G 139) {k23 : Option Nat → Option Nat → Option Nat → Option Nat → Int32 → zzM → Nat → Nat → Prop} (hk23 : ∀ (z0 : Option Nat) (z1 : Option Nat) (z2 : Option Nat) (z3 : Option Nat) (z4 : Int32) (M : zzM) (bc bs : Nat), k23 z0 z1 z2 z3 z4 M bc bs → zz_T G 9 M bc bs 23 [(0, va_rf z0), (1, va_rf z1), (2, va_rf z2), (3, va_rf z3), (4, .int z4)] []) {v0 : Option Nat} {v1 : Option Nat} {v2 : Option Nat} {v3 : Option Nat} {v4 : Int32} {M : zzM} {bc bs : Nat} (hw : wp_L_law_B1087 (zz_Zof G) k23 K v0 v1 v2 v3 v4 M bc bs) : zz_T G 9 M bc bs 1087 [(0, va_rf v0), (1, va_rf v1), (2, va_rf v2), (3, va_rf v3), (4, .int v4)] [] := by
  unfold wp_L_law_B1087 at hw
  refine zz_goto (tgt := 1214) C dL_law_1087 (by decide) ?_
  refine zz_subP [0, 1, 2, 3, 4] rfl ?_
  exact ok_L_law_B1214 C E hH hR hk23 hw
theorem ok_L_law_B1156 {G : zzX} (C : zz_C G cL_law "DebateHallLaw" 9) {K : Option Value → zzM → Prop} (E : zz_E G (some .boolean) K (fun _ _ _ => False)) (hH : True) (hR : zz_Rm G 139) {k23 : Option Nat → Option Nat → Option Nat → Option Nat → Int32 → zzM → Nat → Nat → Prop} (hk23 : ∀ (z0 : Option Nat) (z1 : Option Nat) (z2 : Option Nat) (z3 : Option Nat) (z4 : Int32) (M : zzM) (bc bs : Nat), k23 z0 z1 z2 z3 z4 M bc bs → zz_T G 9 M bc bs 23 [(0, va_rf z0), (1, va_rf z1), (2, va_rf z2), (3, va_rf z3), (4, .int z4)] []) {v0 : Option Nat} {v1 : Option Nat} {v2 : Option Nat} {v3 : Option Nat} {v4 : Int32} {M : zzM} {bc bs : Nat} (hw : wp_L_law_B1156 (zz_Zof G) k23 K v0 v1 v2 v3 v4 M bc bs) : zz_T G 9 M bc bs 1156 [(0, va_rf v0), (1, va_rf v1), (2, va_rf v2), (3, va_rf v3), (4, .int v4)] [] := by
  unfold wp_L_law_B1156 at hw
  refine zz_goto (tgt := 1214) C dL_law_1156 (by decide) ?_
  refine zz_subP [0, 1, 2, 3, 4] rfl ?_
  exact ok_L_law_B1214 C E hH hR hk23 hw
theorem ok_L_law_B1195 {G : zzX} (C : zz_C G cL_law "DebateHallLaw" 9) {K : Option Value → zzM → Prop} (E : zz_E G (some .boolean) K (fun _ _ _ => False)) (hH : True) (hR : zz_Rm G 139) {M : zzM} {bc bs : Nat} (hw : wp_L_law_B1195 (zz_Zof G) K M bc bs) : zz_T G 9 M bc bs 1195 [] [] := by
  unfold wp_L_law_B1195 at hw
  refine zz_iconst (v := (0 : Int32)) C dL_law_1195 (by decide) ?_
  exact zz_zret C E dL_law_1196 hw
theorem ok_L_law_B1197 {G : zzX} (C : zz_C G cL_law "DebateHallLaw" 9) {K : Option Value → zzM → Prop} (E : zz_E G (some .boolean) K (fun _ _ _ => False)) (hH : True) (hR : zz_Rm G 139) {k23 : Option Nat → Option Nat → Option Nat → Option Nat → Int32 → zzM → Nat → Nat → Prop} (hk23 : ∀ (z0 : Option Nat) (z1 : Option Nat) (z2 : Option Nat) (z3 : Option Nat) (z4 : Int32) (M : zzM) (bc bs : Nat), k23 z0 z1 z2 z3 z4 M bc bs → zz_T G 9 M bc bs 23 [(0, va_rf z0), (1, va_rf z1), (2, va_rf z2), (3, va_rf z3), (4, .int z4)] []) {v0 : Option Nat} {v1 : Option Nat} {v2 : Option Nat} {v3 : Option Nat} {v4 : Int32} {M : zzM} {bc bs : Nat} (hw : wp_L_law_B1197 (zz_Zof G) k23 K v0 v1 v2 v3 v4 M bc bs) : zz_T G 9 M bc bs 1197 [(0, va_rf v0), (1, va_rf v1), (2, va_rf v2), (3, va_rf v3), (4, .int v4)] [] := by
  unfold wp_L_law_B1197 at hw
  refine zz_goto (tgt := 1214) C dL_law_1197 (by decide) ?_
  refine zz_subP [0, 1, 2, 3, 4] rfl ?_
  exact ok_L_law_B1214 C E hH hR hk23 hw
theorem ok_L_law_L23 {G : zzX} (C : zz_C G cL_law "DebateHallLaw" 9) {K : Option Value → zzM → Prop} (E : zz_E G (some .boolean) K (fun _ _ _ => False)) (hH : True) (hR : zz_Rm G 139) : ∀ (n : Nat) (v0 : Option Nat) (v1 : Option Nat) (v2 : Option Nat) (v3 : Option Nat) (v4 : Int32) (M : zzM) (bc bs : Nat), wp_L_law_L23 (zz_Zof G) K n v0 v1 v2 v3 v4 M bc bs → zz_T G 9 M bc bs 23 [(0, va_rf v0), (1, va_rf v1), (2, va_rf v2), (3, va_rf v3), (4, .int v4)] [] := by
  intro n
  induction n with
  | zero =>
    intro v0 v1 v2 v3 v4 M bc bs hw
    exact False.elim hw
  | succ n ih =>
    intro v0 v1 v2 v3 v4 M bc bs hw
    refine zz_iload C dL_law_23 4 rfl ?_
    refine zz_aload_n C dL_law_25 rfl 0 rfl ?_
    refine zz_alen C dL_law_26 hw (fun x21 hw => ?_)
    refine zz_bipush (v := (6 : Int32)) C dL_law_27 (by decide) ?_
    refine zz_isub C dL_law_29 ?_
    refine zz_icmp_gt (tgt := 1220) C dL_law_30 (by decide) hw (fun hw => ?_) (fun hw => ?_)
    · refine zz_iconst (v := (1 : Int32)) C dL_law_1220 (by decide) ?_
      exact zz_zret C E dL_law_1221 hw
    · refine zz_aload_n C dL_law_33 rfl 0 rfl ?_
      refine zz_iload C dL_law_34 4 rfl ?_
      refine zz_iald C dL_law_36 hw (fun x22 hw => ?_)
      refine zz_bipush (v := (31 : Int32)) C dL_law_37 (by decide) ?_
      refine zz_iand C dL_law_39 ?_
      by_cases e0 : (x22 &&& (31 : Int32)) = (0 : Int32)
      · replace hw := zz_ifp e0 hw
        refine zz_tin (j := 0) (off := 100) (tgt := 140) C dL_law_40 e0 (by decide) (by decide) (by decide) rfl (by decide) ?_
        refine zz_aload_n C dL_law_140 rfl 1 rfl ?_
        refine zz_aload_n C dL_law_141 rfl 0 rfl ?_
        refine zz_iload C dL_law_142 4 rfl ?_
        refine zz_iconst (v := (1 : Int32)) C dL_law_144 (by decide) ?_
        refine zz_iadd C dL_law_145 ?_
        refine zz_iald C dL_law_146 hw (fun x23 hw => ?_)
        refine zz_aload_n C dL_law_147 rfl 0 rfl ?_
        refine zz_iload C dL_law_148 4 rfl ?_
        refine zz_iconst (v := (2 : Int32)) C dL_law_150 (by decide) ?_
        refine zz_iadd C dL_law_151 ?_
        refine zz_iald C dL_law_152 hw (fun x24 hw => ?_)
        refine zz_aload_n C dL_law_153 rfl 0 rfl ?_
        refine zz_iload C dL_law_154 4 rfl ?_
        refine zz_iconst (v := (3 : Int32)) C dL_law_156 (by decide) ?_
        refine zz_iadd C dL_law_157 ?_
        refine zz_iald C dL_law_158 hw (fun x25 hw => ?_)
        refine zz_aload_n C dL_law_159 rfl 0 rfl ?_
        refine zz_iload C dL_law_160 4 rfl ?_
        refine zz_iconst (v := (4 : Int32)) C dL_law_162 (by decide) ?_
        refine zz_iadd C dL_law_163 ?_
        refine zz_iald C dL_law_164 hw (fun x26 hw => ?_)
        refine zz_aload_n C dL_law_165 rfl 0 rfl ?_
        refine zz_iload C dL_law_166 4 rfl ?_
        refine zz_iconst (v := (5 : Int32)) C dL_law_168 (by decide) ?_
        refine zz_iadd C dL_law_169 ?_
        refine zz_iald C dL_law_170 hw (fun x27 hw => ?_)
        refine zz_aload_n C dL_law_171 rfl 3 rfl ?_
        obtain ⟨c9, s9, hc9, hs9, hw⟩ := hw
        refine zz_callS (As := [va_rf v1, .int x23, .int x24, .int x25, .int x26, .int x27, va_rf v3]) (rest := []) C hR dL_law_172 (Or.inl q2213) q2214 zl_DebateHallLaw zk_X0_feed (Or.inr q2213) zy_X0_feed (by decide) (by decide) (ok_X0_feed (zz_hl C) hw) hc9 hs9 (zz_cat10 _ (Nat.le_of_ble_eq_true rfl)) (fun r28 M29 hw => zz_kI hw (fun x32 hw => ?_)) (fun _ _ _ h9 => h9.elim) rfl
        refine zz_istore (lv' := [(5, .int x32), (0, va_rf v0), (1, va_rf v1), (2, va_rf v2), (3, va_rf v3), (4, .int v4)]) C dL_law_175 (by decide) rfl ?_
        refine zz_aload_n C dL_law_177 rfl 3 rfl ?_
        refine zz_aload_n C dL_law_178 rfl 1 rfl ?_
        refine zz_iload C dL_law_179 5 rfl ?_
        refine zz_iconst (v := (1 : Int32)) C dL_law_181 (by decide) ?_
        refine zz_iadd C dL_law_182 ?_
        refine zz_iald C dL_law_183 hw (fun x33 hw => ?_)
        refine zz_aload_n C dL_law_184 rfl 1 rfl ?_
        refine zz_iload C dL_law_185 5 rfl ?_
        refine zz_iconst (v := (2 : Int32)) C dL_law_187 (by decide) ?_
        refine zz_iadd C dL_law_188 ?_
        refine zz_iald C dL_law_189 hw (fun x34 hw => ?_)
        refine zz_aload_n C dL_law_190 rfl 1 rfl ?_
        refine zz_iload C dL_law_191 5 rfl ?_
        refine zz_iconst (v := (3 : Int32)) C dL_law_193 (by decide) ?_
        refine zz_iadd C dL_law_194 ?_
        refine zz_iald C dL_law_195 hw (fun x35 hw => ?_)
        refine zz_aload_n C dL_law_196 rfl 1 rfl ?_
        refine zz_iload C dL_law_197 5 rfl ?_
        refine zz_iconst (v := (4 : Int32)) C dL_law_199 (by decide) ?_
        refine zz_iadd C dL_law_200 ?_
        refine zz_iald C dL_law_201 hw (fun x36 hw => ?_)
        refine zz_aload_n C dL_law_202 rfl 1 rfl ?_
        refine zz_iload C dL_law_203 5 rfl ?_
        refine zz_iconst (v := (5 : Int32)) C dL_law_205 (by decide) ?_
        refine zz_iadd C dL_law_206 ?_
        refine zz_iald C dL_law_207 hw (fun x37 hw => ?_)
        obtain ⟨a9, t9, b9, fs9, hro, hL, rfl, hw⟩ := ztyS hw
        obtain ⟨c9, s9, hc9, hs9, hw⟩ := hw
        refine zz_callV (r := (zR_16, zT_16, 24)) (As := [.int x33, .int x34, .int x35, .int x36, .int x37]) (rest := []) C hR hro dL_law_208 (Or.inl q2513) q2514 (Or.inl q2515) zl_DebateHallModel zk_X4_feed (Or.inl rfl) zy_X4_feed rfl (by decide) (by decide) hL (ok_X4_feed (zz_hl C) hw) hc9 hs9 (zz_cat10 _ (Nat.le_of_ble_eq_true rfl)) (fun r38 M39 hw => zz_kI hw (fun x42 hw => ?_)) (fun _ _ _ h9 => h9.elim) rfl
        refine zz_istore (lv' := [(6, .int x42), (5, .int x32), (0, va_rf v0), (1, va_rf v1), (2, va_rf v2), (3, va_rf v3), (4, .int v4)]) C dL_law_211 (by decide) rfl ?_
        refine zz_aload_n C dL_law_213 rfl 4 rfl ?_
        obtain ⟨a9, t9, b9, fs9, hro, hL, rfl, hw⟩ := ztyS hw
        refine zz_callV (r := (zR_16, zT_16, 24)) (As := []) (rest := []) (mc := 0) (ms := 0) C hR hro dL_law_214 (Or.inl q2509) q2510 (Or.inl q2511) zl_DebateHallModel zk_X4_thrown (Or.inl rfl) zy_X4_thrown rfl (by decide) (by decide) hL (ok_X4_thrown (zz_hl C) hw) (Nat.zero_le _) (Nat.zero_le _) (zz_cat10 _ (Nat.le_of_ble_eq_true rfl)) (fun r43 M44 hw => zz_kI hw (fun x47 hw => ?_)) (fun _ _ _ h9 => h9.elim) rfl
        refine zz_iload C dL_law_217 1 rfl ?_
        refine zz_icmp_eq (tgt := 224) C dL_law_219 (by decide) hw (fun hw => ?_) (fun hw => ?_)
        · refine zz_iload C dL_law_224 1 rfl ?_
          refine zz_if_ne (tgt := 241) C dL_law_226 (by decide) hw (fun hw => ?_) (fun hw => ?_)
          · refine zz_subP [2, 3, 4, 5, 6] rfl ?_
            exact ok_L_law_B241 C E hH hR (fun z0 z1 z2 z3 z4 z5 z6 z7 hw => ih z0 z1 z2 z3 z4 z5 z6 z7 hw) hw
          · refine zz_aload_n C dL_law_229 rfl 5 rfl ?_
            refine zz_iconst (v := (0 : Int32)) C dL_law_230 (by decide) ?_
            refine zz_lald C dL_law_231 hw (fun x48 hw => ?_)
            refine zz_iload C dL_law_232 0 rfl ?_
            refine zz_i2l C dL_law_234 ?_
            refine zz_lcmp C dL_law_235 ?_
            refine zz_if_eq (tgt := 241) C dL_law_236 (by decide) hw (fun hw => ?_) (fun hw => ?_)
            · refine zz_subP [2, 3, 4, 5, 6] rfl ?_
              exact ok_L_law_B241 C E hH hR (fun z0 z1 z2 z3 z4 z5 z6 z7 hw => ih z0 z1 z2 z3 z4 z5 z6 z7 hw) hw
            · refine zz_iconst (v := (0 : Int32)) C dL_law_239 (by decide) ?_
              exact zz_zret C E dL_law_240 hw
        · refine zz_iconst (v := (0 : Int32)) C dL_law_222 (by decide) ?_
          exact zz_zret C E dL_law_223 hw
      · replace hw := zz_ifn e0 hw
        by_cases e1 : (x22 &&& (31 : Int32)) = (1 : Int32)
        · replace hw := zz_ifp e1 hw
          refine zz_tin (j := 1) (off := 204) (tgt := 244) C dL_law_40 e1 (by decide) (by decide) (by decide) rfl (by decide) ?_
          refine zz_aload_n C dL_law_244 rfl 1 rfl ?_
          refine zz_aload_n C dL_law_245 rfl 0 rfl ?_
          refine zz_iload C dL_law_246 4 rfl ?_
          refine zz_iconst (v := (1 : Int32)) C dL_law_248 (by decide) ?_
          refine zz_iadd C dL_law_249 ?_
          refine zz_iald C dL_law_250 hw (fun x49 hw => ?_)
          refine zz_aload_n C dL_law_251 rfl 3 rfl ?_
          obtain ⟨c9, s9, hc9, hs9, hw⟩ := hw
          refine zz_callS (As := [va_rf v1, .int x49, va_rf v3]) (rest := []) C hR dL_law_252 (Or.inl q2243) q2244 zl_DebateHallLaw zk_X0_trim (Or.inr q2243) zy_X0_trim (by decide) (by decide) (ok_X0_trim (zz_hl C) hw) hc9 hs9 (zz_cat10 _ (Nat.le_of_ble_eq_true rfl)) (fun r50 M51 hw => zz_kI hw (fun x54 hw => ?_)) (fun _ _ _ h9 => h9.elim) rfl
          refine zz_istore (lv' := [(5, .int x54), (0, va_rf v0), (1, va_rf v1), (2, va_rf v2), (3, va_rf v3), (4, .int v4)]) C dL_law_255 (by decide) rfl ?_
          refine zz_aload_n C dL_law_257 rfl 3 rfl ?_
          refine zz_aload_n C dL_law_258 rfl 1 rfl ?_
          refine zz_iload C dL_law_259 5 rfl ?_
          refine zz_iconst (v := (1 : Int32)) C dL_law_261 (by decide) ?_
          refine zz_iadd C dL_law_262 ?_
          refine zz_iald C dL_law_263 hw (fun x55 hw => ?_)
          obtain ⟨a9, t9, b9, fs9, hro, hL, rfl, hw⟩ := ztyS hw
          refine zz_callV (r := (zR_16, zT_16, 24)) (As := [.int x55]) (rest := []) (mc := 0) (ms := 0) C hR hro dL_law_264 (Or.inl q2521) q2522 (Or.inl q2523) zl_DebateHallModel zk_X4_trim (Or.inl rfl) zy_X4_trim rfl (by decide) (by decide) hL (ok_X4_trim (zz_hl C) hw) (Nat.zero_le _) (Nat.zero_le _) (zz_cat10 _ (Nat.le_of_ble_eq_true rfl)) (fun r56 M57 hw => zz_kI hw (fun x60 hw => ?_)) (fun _ _ _ h9 => h9.elim) rfl
          refine zz_istore (lv' := [(6, .int x60), (5, .int x54), (0, va_rf v0), (1, va_rf v1), (2, va_rf v2), (3, va_rf v3), (4, .int v4)]) C dL_law_267 (by decide) rfl ?_
          refine zz_aload_n C dL_law_269 rfl 4 rfl ?_
          obtain ⟨a9, t9, b9, fs9, hro, hL, rfl, hw⟩ := ztyS hw
          refine zz_callV (r := (zR_16, zT_16, 24)) (As := []) (rest := []) (mc := 0) (ms := 0) C hR hro dL_law_270 (Or.inl q2509) q2510 (Or.inl q2511) zl_DebateHallModel zk_X4_thrown (Or.inl rfl) zy_X4_thrown rfl (by decide) (by decide) hL (ok_X4_thrown (zz_hl C) hw) (Nat.zero_le _) (Nat.zero_le _) (zz_cat10 _ (Nat.le_of_ble_eq_true rfl)) (fun r61 M62 hw => zz_kI hw (fun x65 hw => ?_)) (fun _ _ _ h9 => h9.elim) rfl
          refine zz_iload C dL_law_273 1 rfl ?_
          refine zz_icmp_eq (tgt := 280) C dL_law_275 (by decide) hw (fun hw => ?_) (fun hw => ?_)
          · refine zz_iload C dL_law_280 1 rfl ?_
            refine zz_if_ne (tgt := 297) C dL_law_282 (by decide) hw (fun hw => ?_) (fun hw => ?_)
            · refine zz_subP [2, 3, 4, 5, 6] rfl ?_
              exact ok_L_law_B297 C E hH hR (fun z0 z1 z2 z3 z4 z5 z6 z7 hw => ih z0 z1 z2 z3 z4 z5 z6 z7 hw) hw
            · refine zz_aload_n C dL_law_285 rfl 5 rfl ?_
              refine zz_iconst (v := (0 : Int32)) C dL_law_286 (by decide) ?_
              refine zz_lald C dL_law_287 hw (fun x66 hw => ?_)
              refine zz_iload C dL_law_288 0 rfl ?_
              refine zz_i2l C dL_law_290 ?_
              refine zz_lcmp C dL_law_291 ?_
              refine zz_if_eq (tgt := 297) C dL_law_292 (by decide) hw (fun hw => ?_) (fun hw => ?_)
              · refine zz_subP [2, 3, 4, 5, 6] rfl ?_
                exact ok_L_law_B297 C E hH hR (fun z0 z1 z2 z3 z4 z5 z6 z7 hw => ih z0 z1 z2 z3 z4 z5 z6 z7 hw) hw
              · refine zz_iconst (v := (0 : Int32)) C dL_law_295 (by decide) ?_
                exact zz_zret C E dL_law_296 hw
          · refine zz_iconst (v := (0 : Int32)) C dL_law_278 (by decide) ?_
            exact zz_zret C E dL_law_279 hw
        · replace hw := zz_ifn e1 hw
          by_cases e2 : (x22 &&& (31 : Int32)) = (2 : Int32)
          · replace hw := zz_ifp e2 hw
            refine zz_tin (j := 2) (off := 260) (tgt := 300) C dL_law_40 e2 (by decide) (by decide) (by decide) rfl (by decide) ?_
            refine zz_aload_n C dL_law_300 rfl 1 rfl ?_
            obtain ⟨a9, t9, b9, fs9, hro, hL, rfl, hw⟩ := ztyS hw
            obtain ⟨c9, s9, hc9, hs9, hw⟩ := hw
            refine zz_callV (r := (zR_0, zT_0, 4)) (As := []) (rest := []) C hR hro dL_law_301 (Or.inl q316) q317 (Or.inl q318) zl_DebateHall zk_X1_tell (Or.inr q316) zy_X1_tell rfl (by decide) (by decide) hL (ok_X1_tell (zz_hl C) hw) hc9 hs9 (zz_cat10 _ (Nat.le_of_ble_eq_true rfl)) (fun r67 M68 hw => zz_kI hw (fun x71 hw => ?_)) (fun _ _ _ h9 => h9.elim) rfl
            refine zz_aload_n C dL_law_304 rfl 2 rfl ?_
            obtain ⟨a9, t9, b9, fs9, hro, hL, rfl, hw⟩ := ztyS hw
            refine zz_callV (r := (zR_16, zT_16, 24)) (As := []) (rest := [.int x71]) (mc := 0) (ms := 0) C hR hro dL_law_305 (Or.inl q2528) q2529 (Or.inl q2530) zl_DebateHallModel zk_X4_tell (Or.inl rfl) zy_X4_tell rfl (by decide) (by decide) hL (ok_X4_tell (zz_hl C) hw) (Nat.zero_le _) (Nat.zero_le _) (zz_cat10 _ (Nat.le_of_ble_eq_true rfl)) (fun r72 M73 hw => zz_kI hw (fun x76 hw => ?_)) (fun _ _ _ h9 => h9.elim) rfl
            refine zz_icmp_eq (tgt := 1214) C dL_law_308 (by decide) hw (fun hw => ?_) (fun hw => ?_)
            · refine zz_subP [0, 1, 2, 3, 4] rfl ?_
              exact ok_L_law_B1214 C E hH hR (fun z0 z1 z2 z3 z4 z5 z6 z7 hw => ih z0 z1 z2 z3 z4 z5 z6 z7 hw) hw
            · refine zz_iconst (v := (0 : Int32)) C dL_law_311 (by decide) ?_
              exact zz_zret C E dL_law_312 hw
          · replace hw := zz_ifn e2 hw
            by_cases e3 : (x22 &&& (31 : Int32)) = (3 : Int32)
            · replace hw := zz_ifp e3 hw
              refine zz_tin (j := 3) (off := 273) (tgt := 313) C dL_law_40 e3 (by decide) (by decide) (by decide) rfl (by decide) ?_
              refine zz_aload_n C dL_law_313 rfl 1 rfl ?_
              obtain ⟨a9, t9, b9, fs9, hro, hL, rfl, hw⟩ := ztyS hw
              refine zz_callV (r := (zR_0, zT_0, 4)) (As := []) (rest := []) (mc := 0) (ms := 0) C hR hro dL_law_314 (Or.inl q2009) q2010 (Or.inl q2011) zl_DebateHall zk_X1_errorAt (Or.inl rfl) zy_X1_errorAt rfl (by decide) (by decide) hL (ok_X1_errorAt (zz_hl C) hw) (Nat.zero_le _) (Nat.zero_le _) (zz_cat10 _ (Nat.le_of_ble_eq_true rfl)) (fun r77 M78 hw => zz_kI hw (fun x81 hw => ?_)) (fun _ _ _ h9 => h9.elim) rfl
              refine zz_aload_n C dL_law_317 rfl 2 rfl ?_
              obtain ⟨a9, t9, b9, fs9, hro, hL, rfl, hw⟩ := ztyS hw
              refine zz_callV (r := (zR_16, zT_16, 24)) (As := []) (rest := [.int x81]) (mc := 0) (ms := 0) C hR hro dL_law_318 (Or.inl q2720) q2721 (Or.inl q2722) zl_DebateHallModel zk_X4_errorAt (Or.inl rfl) zy_X4_errorAt rfl (by decide) (by decide) hL (ok_X4_errorAt (zz_hl C) hw) (Nat.zero_le _) (Nat.zero_le _) (zz_cat10 _ (Nat.le_of_ble_eq_true rfl)) (fun r82 M83 hw => zz_kI hw (fun x86 hw => ?_)) (fun _ _ _ h9 => h9.elim) rfl
              refine zz_icmp_eq (tgt := 1214) C dL_law_321 (by decide) hw (fun hw => ?_) (fun hw => ?_)
              · refine zz_subP [0, 1, 2, 3, 4] rfl ?_
                exact ok_L_law_B1214 C E hH hR (fun z0 z1 z2 z3 z4 z5 z6 z7 hw => ih z0 z1 z2 z3 z4 z5 z6 z7 hw) hw
              · refine zz_iconst (v := (0 : Int32)) C dL_law_324 (by decide) ?_
                exact zz_zret C E dL_law_325 hw
            · replace hw := zz_ifn e3 hw
              by_cases e4 : (x22 &&& (31 : Int32)) = (4 : Int32)
              · replace hw := zz_ifp e4 hw
                refine zz_tin (j := 4) (off := 286) (tgt := 326) C dL_law_40 e4 (by decide) (by decide) (by decide) rfl (by decide) ?_
                refine zz_aload_n C dL_law_326 rfl 1 rfl ?_
                refine zz_aload_n C dL_law_327 rfl 0 rfl ?_
                refine zz_iload C dL_law_328 4 rfl ?_
                refine zz_iconst (v := (1 : Int32)) C dL_law_330 (by decide) ?_
                refine zz_iadd C dL_law_331 ?_
                refine zz_iald C dL_law_332 hw (fun x87 hw => ?_)
                refine zz_aload_n C dL_law_333 rfl 3 rfl ?_
                obtain ⟨c9, s9, hc9, hs9, hw⟩ := hw
                refine zz_callS (As := [va_rf v1, .int x87, va_rf v3]) (rest := []) C hR dL_law_334 (Or.inl q2262) q2263 zl_DebateHallLaw zk_X0_count (Or.inr q2262) zy_X0_count (by decide) (by decide) (ok_X0_count (zz_hl C) hw) hc9 hs9 (zz_cat10 _ (Nat.le_of_ble_eq_true rfl)) (fun r88 M89 hw => zz_kI hw (fun x92 hw => ?_)) (fun _ _ _ h9 => h9.elim) rfl
                refine zz_istore (lv' := [(5, .int x92), (0, va_rf v0), (1, va_rf v1), (2, va_rf v2), (3, va_rf v3), (4, .int v4)]) C dL_law_337 (by decide) rfl ?_
                refine zz_aload_n C dL_law_339 rfl 3 rfl ?_
                refine zz_aload_n C dL_law_340 rfl 1 rfl ?_
                refine zz_iload C dL_law_341 5 rfl ?_
                refine zz_iconst (v := (1 : Int32)) C dL_law_343 (by decide) ?_
                refine zz_iadd C dL_law_344 ?_
                refine zz_iald C dL_law_345 hw (fun x93 hw => ?_)
                obtain ⟨a9, t9, b9, fs9, hro, hL, rfl, hw⟩ := ztyS hw
                obtain ⟨c9, s9, hc9, hs9, hw⟩ := hw
                refine zz_callV (r := (zR_16, zT_16, 24)) (As := [.int x93]) (rest := []) C hR hro dL_law_346 (Or.inl q2724) q2725 (Or.inl q2726) zl_DebateHallModel zk_X4_count (Or.inl rfl) zy_X4_count rfl (by decide) (by decide) hL (ok_X4_count (zz_hl C) hw) hc9 hs9 (zz_cat10 _ (Nat.le_of_ble_eq_true rfl)) (fun r94 M95 hw => zz_kI hw (fun x98 hw => ?_)) (fun _ _ _ h9 => h9.elim) rfl
                refine zz_istore (lv' := [(6, .int x98), (5, .int x92), (0, va_rf v0), (1, va_rf v1), (2, va_rf v2), (3, va_rf v3), (4, .int v4)]) C dL_law_349 (by decide) rfl ?_
                refine zz_aload_n C dL_law_351 rfl 4 rfl ?_
                obtain ⟨a9, t9, b9, fs9, hro, hL, rfl, hw⟩ := ztyS hw
                refine zz_callV (r := (zR_16, zT_16, 24)) (As := []) (rest := []) (mc := 0) (ms := 0) C hR hro dL_law_352 (Or.inl q2509) q2510 (Or.inl q2511) zl_DebateHallModel zk_X4_thrown (Or.inl rfl) zy_X4_thrown rfl (by decide) (by decide) hL (ok_X4_thrown (zz_hl C) hw) (Nat.zero_le _) (Nat.zero_le _) (zz_cat10 _ (Nat.le_of_ble_eq_true rfl)) (fun r99 M100 hw => zz_kI hw (fun x103 hw => ?_)) (fun _ _ _ h9 => h9.elim) rfl
                refine zz_iload C dL_law_355 1 rfl ?_
                refine zz_icmp_eq (tgt := 362) C dL_law_357 (by decide) hw (fun hw => ?_) (fun hw => ?_)
                · refine zz_iload C dL_law_362 1 rfl ?_
                  refine zz_if_ne (tgt := 379) C dL_law_364 (by decide) hw (fun hw => ?_) (fun hw => ?_)
                  · refine zz_subP [2, 3, 4, 5, 6] rfl ?_
                    exact ok_L_law_B379 C E hH hR (fun z0 z1 z2 z3 z4 z5 z6 z7 hw => ih z0 z1 z2 z3 z4 z5 z6 z7 hw) hw
                  · refine zz_aload_n C dL_law_367 rfl 5 rfl ?_
                    refine zz_iconst (v := (0 : Int32)) C dL_law_368 (by decide) ?_
                    refine zz_lald C dL_law_369 hw (fun x104 hw => ?_)
                    refine zz_iload C dL_law_370 0 rfl ?_
                    refine zz_i2l C dL_law_372 ?_
                    refine zz_lcmp C dL_law_373 ?_
                    refine zz_if_eq (tgt := 379) C dL_law_374 (by decide) hw (fun hw => ?_) (fun hw => ?_)
                    · refine zz_subP [2, 3, 4, 5, 6] rfl ?_
                      exact ok_L_law_B379 C E hH hR (fun z0 z1 z2 z3 z4 z5 z6 z7 hw => ih z0 z1 z2 z3 z4 z5 z6 z7 hw) hw
                    · refine zz_iconst (v := (0 : Int32)) C dL_law_377 (by decide) ?_
                      exact zz_zret C E dL_law_378 hw
                · refine zz_iconst (v := (0 : Int32)) C dL_law_360 (by decide) ?_
                  exact zz_zret C E dL_law_361 hw
              · replace hw := zz_ifn e4 hw
                by_cases e5 : (x22 &&& (31 : Int32)) = (5 : Int32)
                · replace hw := zz_ifp e5 hw
                  refine zz_tin (j := 5) (off := 342) (tgt := 382) C dL_law_40 e5 (by decide) (by decide) (by decide) rfl (by decide) ?_
                  refine zz_aload_n C dL_law_382 rfl 1 rfl ?_
                  refine zz_aload_n C dL_law_383 rfl 0 rfl ?_
                  refine zz_iload C dL_law_384 4 rfl ?_
                  refine zz_iconst (v := (1 : Int32)) C dL_law_386 (by decide) ?_
                  refine zz_iadd C dL_law_387 ?_
                  refine zz_iald C dL_law_388 hw (fun x105 hw => ?_)
                  refine zz_aload_n C dL_law_389 rfl 0 rfl ?_
                  refine zz_iload C dL_law_390 4 rfl ?_
                  refine zz_iconst (v := (2 : Int32)) C dL_law_392 (by decide) ?_
                  refine zz_iadd C dL_law_393 ?_
                  refine zz_iald C dL_law_394 hw (fun x106 hw => ?_)
                  refine zz_aload_n C dL_law_395 rfl 3 rfl ?_
                  obtain ⟨c9, s9, hc9, hs9, hw⟩ := hw
                  refine zz_callS (As := [va_rf v1, .int x105, .int x106, va_rf v3]) (rest := []) C hR dL_law_396 (Or.inl q2269) q2270 zl_DebateHallLaw zk_X0_speaker (Or.inr q2269) zy_X0_speaker (by decide) (by decide) (ok_X0_speaker (zz_hl C) hw) hc9 hs9 (zz_cat10 _ (Nat.le_of_ble_eq_true rfl)) (fun r107 M108 hw => zz_kI hw (fun x111 hw => ?_)) (fun _ _ _ h9 => h9.elim) rfl
                  refine zz_istore (lv' := [(5, .int x111), (0, va_rf v0), (1, va_rf v1), (2, va_rf v2), (3, va_rf v3), (4, .int v4)]) C dL_law_399 (by decide) rfl ?_
                  refine zz_aload_n C dL_law_401 rfl 3 rfl ?_
                  refine zz_aload_n C dL_law_402 rfl 1 rfl ?_
                  refine zz_iload C dL_law_403 5 rfl ?_
                  refine zz_iconst (v := (1 : Int32)) C dL_law_405 (by decide) ?_
                  refine zz_iadd C dL_law_406 ?_
                  refine zz_iald C dL_law_407 hw (fun x112 hw => ?_)
                  refine zz_aload_n C dL_law_408 rfl 1 rfl ?_
                  refine zz_iload C dL_law_409 5 rfl ?_
                  refine zz_iconst (v := (2 : Int32)) C dL_law_411 (by decide) ?_
                  refine zz_iadd C dL_law_412 ?_
                  refine zz_iald C dL_law_413 hw (fun x113 hw => ?_)
                  obtain ⟨a9, t9, b9, fs9, hro, hL, rfl, hw⟩ := ztyS hw
                  obtain ⟨c9, s9, hc9, hs9, hw⟩ := hw
                  refine zz_callV (r := (zR_16, zT_16, 24)) (As := [.int x112, .int x113]) (rest := []) C hR hro dL_law_414 (Or.inl q2732) q2733 (Or.inl q2734) zl_DebateHallModel zk_X4_speaker (Or.inl rfl) zy_X4_speaker rfl (by decide) (by decide) hL (ok_X4_speaker (zz_hl C) hw) hc9 hs9 (zz_cat10 _ (Nat.le_of_ble_eq_true rfl)) (fun r114 M115 hw => zz_kI hw (fun x118 hw => ?_)) (fun _ _ _ h9 => h9.elim) rfl
                  refine zz_istore (lv' := [(6, .int x118), (5, .int x111), (0, va_rf v0), (1, va_rf v1), (2, va_rf v2), (3, va_rf v3), (4, .int v4)]) C dL_law_417 (by decide) rfl ?_
                  refine zz_aload_n C dL_law_419 rfl 4 rfl ?_
                  obtain ⟨a9, t9, b9, fs9, hro, hL, rfl, hw⟩ := ztyS hw
                  refine zz_callV (r := (zR_16, zT_16, 24)) (As := []) (rest := []) (mc := 0) (ms := 0) C hR hro dL_law_420 (Or.inl q2509) q2510 (Or.inl q2511) zl_DebateHallModel zk_X4_thrown (Or.inl rfl) zy_X4_thrown rfl (by decide) (by decide) hL (ok_X4_thrown (zz_hl C) hw) (Nat.zero_le _) (Nat.zero_le _) (zz_cat10 _ (Nat.le_of_ble_eq_true rfl)) (fun r119 M120 hw => zz_kI hw (fun x123 hw => ?_)) (fun _ _ _ h9 => h9.elim) rfl
                  refine zz_iload C dL_law_423 1 rfl ?_
                  refine zz_icmp_eq (tgt := 430) C dL_law_425 (by decide) hw (fun hw => ?_) (fun hw => ?_)
                  · refine zz_iload C dL_law_430 1 rfl ?_
                    refine zz_if_ne (tgt := 447) C dL_law_432 (by decide) hw (fun hw => ?_) (fun hw => ?_)
                    · refine zz_subP [2, 3, 4, 5, 6] rfl ?_
                      exact ok_L_law_B447 C E hH hR (fun z0 z1 z2 z3 z4 z5 z6 z7 hw => ih z0 z1 z2 z3 z4 z5 z6 z7 hw) hw
                    · refine zz_aload_n C dL_law_435 rfl 5 rfl ?_
                      refine zz_iconst (v := (0 : Int32)) C dL_law_436 (by decide) ?_
                      refine zz_lald C dL_law_437 hw (fun x124 hw => ?_)
                      refine zz_iload C dL_law_438 0 rfl ?_
                      refine zz_i2l C dL_law_440 ?_
                      refine zz_lcmp C dL_law_441 ?_
                      refine zz_if_eq (tgt := 447) C dL_law_442 (by decide) hw (fun hw => ?_) (fun hw => ?_)
                      · refine zz_subP [2, 3, 4, 5, 6] rfl ?_
                        exact ok_L_law_B447 C E hH hR (fun z0 z1 z2 z3 z4 z5 z6 z7 hw => ih z0 z1 z2 z3 z4 z5 z6 z7 hw) hw
                      · refine zz_iconst (v := (0 : Int32)) C dL_law_445 (by decide) ?_
                        exact zz_zret C E dL_law_446 hw
                  · refine zz_iconst (v := (0 : Int32)) C dL_law_428 (by decide) ?_
                    exact zz_zret C E dL_law_429 hw
                · replace hw := zz_ifn e5 hw
                  by_cases e6 : (x22 &&& (31 : Int32)) = (6 : Int32)
                  · replace hw := zz_ifp e6 hw
                    refine zz_tin (j := 6) (off := 410) (tgt := 450) C dL_law_40 e6 (by decide) (by decide) (by decide) rfl (by decide) ?_
                    refine zz_aload_n C dL_law_450 rfl 1 rfl ?_
                    refine zz_aload_n C dL_law_451 rfl 0 rfl ?_
                    refine zz_iload C dL_law_452 4 rfl ?_
                    refine zz_iconst (v := (1 : Int32)) C dL_law_454 (by decide) ?_
                    refine zz_iadd C dL_law_455 ?_
                    refine zz_iald C dL_law_456 hw (fun x125 hw => ?_)
                    refine zz_aload_n C dL_law_457 rfl 0 rfl ?_
                    refine zz_iload C dL_law_458 4 rfl ?_
                    refine zz_iconst (v := (2 : Int32)) C dL_law_460 (by decide) ?_
                    refine zz_iadd C dL_law_461 ?_
                    refine zz_iald C dL_law_462 hw (fun x126 hw => ?_)
                    refine zz_aload_n C dL_law_463 rfl 3 rfl ?_
                    obtain ⟨c9, s9, hc9, hs9, hw⟩ := hw
                    refine zz_callS (As := [va_rf v1, .int x125, .int x126, va_rf v3]) (rest := []) C hR dL_law_464 (Or.inl q2280) q2281 zl_DebateHallLaw zk_X0_item (Or.inr q2280) zy_X0_item (by decide) (by decide) (ok_X0_item (zz_hl C) hw) hc9 hs9 (zz_cat10 _ (Nat.le_of_ble_eq_true rfl)) (fun r127 M128 hw => zz_kI hw (fun x131 hw => ?_)) (fun _ _ _ h9 => h9.elim) rfl
                    refine zz_istore (lv' := [(5, .int x131), (0, va_rf v0), (1, va_rf v1), (2, va_rf v2), (3, va_rf v3), (4, .int v4)]) C dL_law_467 (by decide) rfl ?_
                    refine zz_aload_n C dL_law_469 rfl 3 rfl ?_
                    refine zz_aload_n C dL_law_470 rfl 1 rfl ?_
                    refine zz_iload C dL_law_471 5 rfl ?_
                    refine zz_iconst (v := (1 : Int32)) C dL_law_473 (by decide) ?_
                    refine zz_iadd C dL_law_474 ?_
                    refine zz_iald C dL_law_475 hw (fun x132 hw => ?_)
                    refine zz_aload_n C dL_law_476 rfl 1 rfl ?_
                    refine zz_iload C dL_law_477 5 rfl ?_
                    refine zz_iconst (v := (2 : Int32)) C dL_law_479 (by decide) ?_
                    refine zz_iadd C dL_law_480 ?_
                    refine zz_iald C dL_law_481 hw (fun x133 hw => ?_)
                    obtain ⟨a9, t9, b9, fs9, hro, hL, rfl, hw⟩ := ztyS hw
                    refine zz_callV (r := (zR_16, zT_16, 24)) (As := [.int x132, .int x133]) (rest := []) (mc := 0) (ms := 0) C hR hro dL_law_482 (Or.inl q2754) q2755 (Or.inl q2756) zl_DebateHallModel zk_X4_item (Or.inl rfl) zy_X4_item rfl (by decide) (by decide) hL (ok_X4_item (zz_hl C) hw) (Nat.zero_le _) (Nat.zero_le _) (zz_cat10 _ (Nat.le_of_ble_eq_true rfl)) (fun r134 M135 hw => zz_kI hw (fun x138 hw => ?_)) (fun _ _ _ h9 => h9.elim) rfl
                    refine zz_istore (lv' := [(6, .int x138), (5, .int x131), (0, va_rf v0), (1, va_rf v1), (2, va_rf v2), (3, va_rf v3), (4, .int v4)]) C dL_law_485 (by decide) rfl ?_
                    refine zz_aload_n C dL_law_487 rfl 4 rfl ?_
                    obtain ⟨a9, t9, b9, fs9, hro, hL, rfl, hw⟩ := ztyS hw
                    refine zz_callV (r := (zR_16, zT_16, 24)) (As := []) (rest := []) (mc := 0) (ms := 0) C hR hro dL_law_488 (Or.inl q2509) q2510 (Or.inl q2511) zl_DebateHallModel zk_X4_thrown (Or.inl rfl) zy_X4_thrown rfl (by decide) (by decide) hL (ok_X4_thrown (zz_hl C) hw) (Nat.zero_le _) (Nat.zero_le _) (zz_cat10 _ (Nat.le_of_ble_eq_true rfl)) (fun r139 M140 hw => zz_kI hw (fun x143 hw => ?_)) (fun _ _ _ h9 => h9.elim) rfl
                    refine zz_iload C dL_law_491 1 rfl ?_
                    refine zz_icmp_eq (tgt := 498) C dL_law_493 (by decide) hw (fun hw => ?_) (fun hw => ?_)
                    · refine zz_iload C dL_law_498 1 rfl ?_
                      refine zz_if_ne (tgt := 515) C dL_law_500 (by decide) hw (fun hw => ?_) (fun hw => ?_)
                      · refine zz_subP [2, 3, 4, 5, 6] rfl ?_
                        exact ok_L_law_B515 C E hH hR (fun z0 z1 z2 z3 z4 z5 z6 z7 hw => ih z0 z1 z2 z3 z4 z5 z6 z7 hw) hw
                      · refine zz_aload_n C dL_law_503 rfl 5 rfl ?_
                        refine zz_iconst (v := (0 : Int32)) C dL_law_504 (by decide) ?_
                        refine zz_lald C dL_law_505 hw (fun x144 hw => ?_)
                        refine zz_iload C dL_law_506 0 rfl ?_
                        refine zz_i2l C dL_law_508 ?_
                        refine zz_lcmp C dL_law_509 ?_
                        refine zz_if_eq (tgt := 515) C dL_law_510 (by decide) hw (fun hw => ?_) (fun hw => ?_)
                        · refine zz_subP [2, 3, 4, 5, 6] rfl ?_
                          exact ok_L_law_B515 C E hH hR (fun z0 z1 z2 z3 z4 z5 z6 z7 hw => ih z0 z1 z2 z3 z4 z5 z6 z7 hw) hw
                        · refine zz_iconst (v := (0 : Int32)) C dL_law_513 (by decide) ?_
                          exact zz_zret C E dL_law_514 hw
                    · refine zz_iconst (v := (0 : Int32)) C dL_law_496 (by decide) ?_
                      exact zz_zret C E dL_law_497 hw
                  · replace hw := zz_ifn e6 hw
                    by_cases e7 : (x22 &&& (31 : Int32)) = (7 : Int32)
                    · replace hw := zz_ifp e7 hw
                      refine zz_tin (j := 7) (off := 478) (tgt := 518) C dL_law_40 e7 (by decide) (by decide) (by decide) rfl (by decide) ?_
                      refine zz_aload_n C dL_law_518 rfl 1 rfl ?_
                      refine zz_aload_n C dL_law_519 rfl 0 rfl ?_
                      refine zz_iload C dL_law_520 4 rfl ?_
                      refine zz_iconst (v := (1 : Int32)) C dL_law_522 (by decide) ?_
                      refine zz_iadd C dL_law_523 ?_
                      refine zz_iald C dL_law_524 hw (fun x145 hw => ?_)
                      refine zz_aload_n C dL_law_525 rfl 0 rfl ?_
                      refine zz_iload C dL_law_526 4 rfl ?_
                      refine zz_iconst (v := (2 : Int32)) C dL_law_528 (by decide) ?_
                      refine zz_iadd C dL_law_529 ?_
                      refine zz_iald C dL_law_530 hw (fun x146 hw => ?_)
                      refine zz_aload_n C dL_law_531 rfl 3 rfl ?_
                      obtain ⟨c9, s9, hc9, hs9, hw⟩ := hw
                      refine zz_callS (As := [va_rf v1, .int x145, .int x146, va_rf v3]) (rest := []) C hR dL_law_532 (Or.inl q2291) q2292 zl_DebateHallLaw zk_X0_give (Or.inr q2291) zy_X0_give (by decide) (by decide) (ok_X0_give (zz_hl C) hw) hc9 hs9 (zz_cat10 _ (Nat.le_of_ble_eq_true rfl)) (fun r147 M148 hw => zz_kI hw (fun x151 hw => ?_)) (fun _ _ _ h9 => h9.elim) rfl
                      refine zz_istore (lv' := [(5, .int x151), (0, va_rf v0), (1, va_rf v1), (2, va_rf v2), (3, va_rf v3), (4, .int v4)]) C dL_law_535 (by decide) rfl ?_
                      refine zz_aload_n C dL_law_537 rfl 3 rfl ?_
                      refine zz_aload_n C dL_law_538 rfl 1 rfl ?_
                      refine zz_iload C dL_law_539 5 rfl ?_
                      refine zz_iconst (v := (1 : Int32)) C dL_law_541 (by decide) ?_
                      refine zz_iadd C dL_law_542 ?_
                      refine zz_iald C dL_law_543 hw (fun x152 hw => ?_)
                      refine zz_aload_n C dL_law_544 rfl 1 rfl ?_
                      refine zz_iload C dL_law_545 5 rfl ?_
                      refine zz_iconst (v := (2 : Int32)) C dL_law_547 (by decide) ?_
                      refine zz_iadd C dL_law_548 ?_
                      refine zz_iald C dL_law_549 hw (fun x153 hw => ?_)
                      obtain ⟨a9, t9, b9, fs9, hro, hL, rfl, hw⟩ := ztyS hw
                      refine zz_callV (r := (zR_16, zT_16, 24)) (As := [.int x152, .int x153]) (rest := []) (mc := 0) (ms := 0) C hR hro dL_law_550 (Or.inl q2770) q2771 (Or.inl q2772) zl_DebateHallModel zk_X4_give (Or.inl rfl) zy_X4_give rfl (by decide) (by decide) hL (ok_X4_give (zz_hl C) hw) (Nat.zero_le _) (Nat.zero_le _) (zz_cat10 _ (Nat.le_of_ble_eq_true rfl)) (fun r154 M155 hw => zz_kI hw (fun x158 hw => ?_)) (fun _ _ _ h9 => h9.elim) rfl
                      refine zz_istore (lv' := [(6, .int x158), (5, .int x151), (0, va_rf v0), (1, va_rf v1), (2, va_rf v2), (3, va_rf v3), (4, .int v4)]) C dL_law_553 (by decide) rfl ?_
                      refine zz_aload_n C dL_law_555 rfl 4 rfl ?_
                      obtain ⟨a9, t9, b9, fs9, hro, hL, rfl, hw⟩ := ztyS hw
                      refine zz_callV (r := (zR_16, zT_16, 24)) (As := []) (rest := []) (mc := 0) (ms := 0) C hR hro dL_law_556 (Or.inl q2509) q2510 (Or.inl q2511) zl_DebateHallModel zk_X4_thrown (Or.inl rfl) zy_X4_thrown rfl (by decide) (by decide) hL (ok_X4_thrown (zz_hl C) hw) (Nat.zero_le _) (Nat.zero_le _) (zz_cat10 _ (Nat.le_of_ble_eq_true rfl)) (fun r159 M160 hw => zz_kI hw (fun x163 hw => ?_)) (fun _ _ _ h9 => h9.elim) rfl
                      refine zz_iload C dL_law_559 1 rfl ?_
                      refine zz_icmp_eq (tgt := 566) C dL_law_561 (by decide) hw (fun hw => ?_) (fun hw => ?_)
                      · refine zz_iload C dL_law_566 1 rfl ?_
                        refine zz_if_ne (tgt := 583) C dL_law_568 (by decide) hw (fun hw => ?_) (fun hw => ?_)
                        · refine zz_subP [2, 3, 4, 5, 6] rfl ?_
                          exact ok_L_law_B583 C E hH hR (fun z0 z1 z2 z3 z4 z5 z6 z7 hw => ih z0 z1 z2 z3 z4 z5 z6 z7 hw) hw
                        · refine zz_aload_n C dL_law_571 rfl 5 rfl ?_
                          refine zz_iconst (v := (0 : Int32)) C dL_law_572 (by decide) ?_
                          refine zz_lald C dL_law_573 hw (fun x164 hw => ?_)
                          refine zz_iload C dL_law_574 0 rfl ?_
                          refine zz_i2l C dL_law_576 ?_
                          refine zz_lcmp C dL_law_577 ?_
                          refine zz_if_eq (tgt := 583) C dL_law_578 (by decide) hw (fun hw => ?_) (fun hw => ?_)
                          · refine zz_subP [2, 3, 4, 5, 6] rfl ?_
                            exact ok_L_law_B583 C E hH hR (fun z0 z1 z2 z3 z4 z5 z6 z7 hw => ih z0 z1 z2 z3 z4 z5 z6 z7 hw) hw
                          · refine zz_iconst (v := (0 : Int32)) C dL_law_581 (by decide) ?_
                            exact zz_zret C E dL_law_582 hw
                      · refine zz_iconst (v := (0 : Int32)) C dL_law_564 (by decide) ?_
                        exact zz_zret C E dL_law_565 hw
                    · replace hw := zz_ifn e7 hw
                      by_cases e8 : (x22 &&& (31 : Int32)) = (8 : Int32)
                      · replace hw := zz_ifp e8 hw
                        refine zz_tin (j := 8) (off := 546) (tgt := 586) C dL_law_40 e8 (by decide) (by decide) (by decide) rfl (by decide) ?_
                        refine zz_aload_n C dL_law_586 rfl 1 rfl ?_
                        refine zz_aload_n C dL_law_587 rfl 0 rfl ?_
                        refine zz_iload C dL_law_588 4 rfl ?_
                        refine zz_iconst (v := (1 : Int32)) C dL_law_590 (by decide) ?_
                        refine zz_iadd C dL_law_591 ?_
                        refine zz_iald C dL_law_592 hw (fun x165 hw => ?_)
                        refine zz_aload_n C dL_law_593 rfl 3 rfl ?_
                        obtain ⟨c9, s9, hc9, hs9, hw⟩ := hw
                        refine zz_callS (As := [va_rf v1, .int x165, va_rf v3]) (rest := []) C hR dL_law_594 (Or.inl q2298) q2299 zl_DebateHallLaw zk_X0_why (Or.inr q2298) zy_X0_why (by decide) (by decide) (ok_X0_why (zz_hl C) hw) hc9 hs9 (zz_cat10 _ (Nat.le_of_ble_eq_true rfl)) (fun r166 M167 hw => zz_kI hw (fun x170 hw => ?_)) (fun _ _ _ h9 => h9.elim) rfl
                        refine zz_istore (lv' := [(5, .int x170), (0, va_rf v0), (1, va_rf v1), (2, va_rf v2), (3, va_rf v3), (4, .int v4)]) C dL_law_597 (by decide) rfl ?_
                        refine zz_aload_n C dL_law_599 rfl 3 rfl ?_
                        refine zz_aload_n C dL_law_600 rfl 1 rfl ?_
                        refine zz_iload C dL_law_601 5 rfl ?_
                        refine zz_iconst (v := (1 : Int32)) C dL_law_603 (by decide) ?_
                        refine zz_iadd C dL_law_604 ?_
                        refine zz_iald C dL_law_605 hw (fun x171 hw => ?_)
                        obtain ⟨a9, t9, b9, fs9, hro, hL, rfl, hw⟩ := ztyS hw
                        refine zz_callV (r := (zR_16, zT_16, 24)) (As := [.int x171]) (rest := []) (mc := 0) (ms := 0) C hR hro dL_law_606 (Or.inl q2774) q2775 (Or.inl q2776) zl_DebateHallModel zk_X4_why (Or.inl rfl) zy_X4_why rfl (by decide) (by decide) hL (ok_X4_why (zz_hl C) hw) (Nat.zero_le _) (Nat.zero_le _) (zz_cat10 _ (Nat.le_of_ble_eq_true rfl)) (fun r172 M173 hw => zz_kI hw (fun x176 hw => ?_)) (fun _ _ _ h9 => h9.elim) rfl
                        refine zz_istore (lv' := [(6, .int x176), (5, .int x170), (0, va_rf v0), (1, va_rf v1), (2, va_rf v2), (3, va_rf v3), (4, .int v4)]) C dL_law_609 (by decide) rfl ?_
                        refine zz_aload_n C dL_law_611 rfl 4 rfl ?_
                        obtain ⟨a9, t9, b9, fs9, hro, hL, rfl, hw⟩ := ztyS hw
                        refine zz_callV (r := (zR_16, zT_16, 24)) (As := []) (rest := []) (mc := 0) (ms := 0) C hR hro dL_law_612 (Or.inl q2509) q2510 (Or.inl q2511) zl_DebateHallModel zk_X4_thrown (Or.inl rfl) zy_X4_thrown rfl (by decide) (by decide) hL (ok_X4_thrown (zz_hl C) hw) (Nat.zero_le _) (Nat.zero_le _) (zz_cat10 _ (Nat.le_of_ble_eq_true rfl)) (fun r177 M178 hw => zz_kI hw (fun x181 hw => ?_)) (fun _ _ _ h9 => h9.elim) rfl
                        refine zz_iload C dL_law_615 1 rfl ?_
                        refine zz_icmp_eq (tgt := 622) C dL_law_617 (by decide) hw (fun hw => ?_) (fun hw => ?_)
                        · refine zz_iload C dL_law_622 1 rfl ?_
                          refine zz_if_ne (tgt := 639) C dL_law_624 (by decide) hw (fun hw => ?_) (fun hw => ?_)
                          · refine zz_subP [2, 3, 4, 5, 6] rfl ?_
                            exact ok_L_law_B639 C E hH hR (fun z0 z1 z2 z3 z4 z5 z6 z7 hw => ih z0 z1 z2 z3 z4 z5 z6 z7 hw) hw
                          · refine zz_aload_n C dL_law_627 rfl 5 rfl ?_
                            refine zz_iconst (v := (0 : Int32)) C dL_law_628 (by decide) ?_
                            refine zz_lald C dL_law_629 hw (fun x182 hw => ?_)
                            refine zz_iload C dL_law_630 0 rfl ?_
                            refine zz_i2l C dL_law_632 ?_
                            refine zz_lcmp C dL_law_633 ?_
                            refine zz_if_eq (tgt := 639) C dL_law_634 (by decide) hw (fun hw => ?_) (fun hw => ?_)
                            · refine zz_subP [2, 3, 4, 5, 6] rfl ?_
                              exact ok_L_law_B639 C E hH hR (fun z0 z1 z2 z3 z4 z5 z6 z7 hw => ih z0 z1 z2 z3 z4 z5 z6 z7 hw) hw
                            · refine zz_iconst (v := (0 : Int32)) C dL_law_637 (by decide) ?_
                              exact zz_zret C E dL_law_638 hw
                        · refine zz_iconst (v := (0 : Int32)) C dL_law_620 (by decide) ?_
                          exact zz_zret C E dL_law_621 hw
                      · replace hw := zz_ifn e8 hw
                        by_cases e9 : (x22 &&& (31 : Int32)) = (9 : Int32)
                        · replace hw := zz_ifp e9 hw
                          refine zz_tin (j := 9) (off := 602) (tgt := 642) C dL_law_40 e9 (by decide) (by decide) (by decide) rfl (by decide) ?_
                          refine zz_aload_n C dL_law_642 rfl 1 rfl ?_
                          refine zz_aload_n C dL_law_643 rfl 0 rfl ?_
                          refine zz_iload C dL_law_644 4 rfl ?_
                          refine zz_iconst (v := (1 : Int32)) C dL_law_646 (by decide) ?_
                          refine zz_iadd C dL_law_647 ?_
                          refine zz_iald C dL_law_648 hw (fun x183 hw => ?_)
                          refine zz_aload_n C dL_law_649 rfl 3 rfl ?_
                          obtain ⟨c9, s9, hc9, hs9, hw⟩ := hw
                          refine zz_callS (As := [va_rf v1, .int x183, va_rf v3]) (rest := []) C hR dL_law_650 (Or.inl q2305) q2306 zl_DebateHallLaw zk_X0_far (Or.inr q2305) zy_X0_far (by decide) (by decide) (ok_X0_far (zz_hl C) hw) hc9 hs9 (zz_cat10 _ (Nat.le_of_ble_eq_true rfl)) (fun r184 M185 hw => zz_kI hw (fun x188 hw => ?_)) (fun _ _ _ h9 => h9.elim) rfl
                          refine zz_istore (lv' := [(5, .int x188), (0, va_rf v0), (1, va_rf v1), (2, va_rf v2), (3, va_rf v3), (4, .int v4)]) C dL_law_653 (by decide) rfl ?_
                          refine zz_aload_n C dL_law_655 rfl 3 rfl ?_
                          refine zz_aload_n C dL_law_656 rfl 1 rfl ?_
                          refine zz_iload C dL_law_657 5 rfl ?_
                          refine zz_iconst (v := (1 : Int32)) C dL_law_659 (by decide) ?_
                          refine zz_iadd C dL_law_660 ?_
                          refine zz_iald C dL_law_661 hw (fun x189 hw => ?_)
                          obtain ⟨a9, t9, b9, fs9, hro, hL, rfl, hw⟩ := ztyS hw
                          refine zz_callV (r := (zR_16, zT_16, 24)) (As := [.int x189]) (rest := []) (mc := 0) (ms := 0) C hR hro dL_law_662 (Or.inl q2782) q2783 (Or.inl q2784) zl_DebateHallModel zk_X4_far (Or.inl rfl) zy_X4_far rfl (by decide) (by decide) hL (ok_X4_far (zz_hl C) hw) (Nat.zero_le _) (Nat.zero_le _) (zz_cat10 _ (Nat.le_of_ble_eq_true rfl)) (fun r190 M191 hw => zz_kI hw (fun x194 hw => ?_)) (fun _ _ _ h9 => h9.elim) rfl
                          refine zz_istore (lv' := [(6, .int x194), (5, .int x188), (0, va_rf v0), (1, va_rf v1), (2, va_rf v2), (3, va_rf v3), (4, .int v4)]) C dL_law_665 (by decide) rfl ?_
                          refine zz_aload_n C dL_law_667 rfl 4 rfl ?_
                          obtain ⟨a9, t9, b9, fs9, hro, hL, rfl, hw⟩ := ztyS hw
                          refine zz_callV (r := (zR_16, zT_16, 24)) (As := []) (rest := []) (mc := 0) (ms := 0) C hR hro dL_law_668 (Or.inl q2509) q2510 (Or.inl q2511) zl_DebateHallModel zk_X4_thrown (Or.inl rfl) zy_X4_thrown rfl (by decide) (by decide) hL (ok_X4_thrown (zz_hl C) hw) (Nat.zero_le _) (Nat.zero_le _) (zz_cat10 _ (Nat.le_of_ble_eq_true rfl)) (fun r195 M196 hw => zz_kI hw (fun x199 hw => ?_)) (fun _ _ _ h9 => h9.elim) rfl
                          refine zz_iload C dL_law_671 1 rfl ?_
                          refine zz_icmp_eq (tgt := 678) C dL_law_673 (by decide) hw (fun hw => ?_) (fun hw => ?_)
                          · refine zz_iload C dL_law_678 1 rfl ?_
                            refine zz_if_ne (tgt := 695) C dL_law_680 (by decide) hw (fun hw => ?_) (fun hw => ?_)
                            · refine zz_subP [2, 3, 4, 5, 6] rfl ?_
                              exact ok_L_law_B695 C E hH hR (fun z0 z1 z2 z3 z4 z5 z6 z7 hw => ih z0 z1 z2 z3 z4 z5 z6 z7 hw) hw
                            · refine zz_aload_n C dL_law_683 rfl 5 rfl ?_
                              refine zz_iconst (v := (0 : Int32)) C dL_law_684 (by decide) ?_
                              refine zz_lald C dL_law_685 hw (fun x200 hw => ?_)
                              refine zz_iload C dL_law_686 0 rfl ?_
                              refine zz_i2l C dL_law_688 ?_
                              refine zz_lcmp C dL_law_689 ?_
                              refine zz_if_eq (tgt := 695) C dL_law_690 (by decide) hw (fun hw => ?_) (fun hw => ?_)
                              · refine zz_subP [2, 3, 4, 5, 6] rfl ?_
                                exact ok_L_law_B695 C E hH hR (fun z0 z1 z2 z3 z4 z5 z6 z7 hw => ih z0 z1 z2 z3 z4 z5 z6 z7 hw) hw
                              · refine zz_iconst (v := (0 : Int32)) C dL_law_693 (by decide) ?_
                                exact zz_zret C E dL_law_694 hw
                          · refine zz_iconst (v := (0 : Int32)) C dL_law_676 (by decide) ?_
                            exact zz_zret C E dL_law_677 hw
                        · replace hw := zz_ifn e9 hw
                          by_cases e10 : (x22 &&& (31 : Int32)) = (10 : Int32)
                          · replace hw := zz_ifp e10 hw
                            refine zz_tin (j := 10) (off := 658) (tgt := 698) C dL_law_40 e10 (by decide) (by decide) (by decide) rfl (by decide) ?_
                            refine zz_aload_n C dL_law_698 rfl 1 rfl ?_
                            refine zz_aload_n C dL_law_699 rfl 0 rfl ?_
                            refine zz_iload C dL_law_700 4 rfl ?_
                            refine zz_iconst (v := (1 : Int32)) C dL_law_702 (by decide) ?_
                            refine zz_iadd C dL_law_703 ?_
                            refine zz_iald C dL_law_704 hw (fun x201 hw => ?_)
                            refine zz_aload_n C dL_law_705 rfl 0 rfl ?_
                            refine zz_iload C dL_law_706 4 rfl ?_
                            refine zz_iconst (v := (2 : Int32)) C dL_law_708 (by decide) ?_
                            refine zz_iadd C dL_law_709 ?_
                            refine zz_iald C dL_law_710 hw (fun x202 hw => ?_)
                            refine zz_aload_n C dL_law_711 rfl 3 rfl ?_
                            obtain ⟨c9, s9, hc9, hs9, hw⟩ := hw
                            refine zz_callS (As := [va_rf v1, .int x201, .int x202, va_rf v3]) (rest := []) C hR dL_law_712 (Or.inl q2312) q2313 zl_DebateHallLaw zk_X0_defends (Or.inr q2312) zy_X0_defends (by decide) (by decide) (ok_X0_defends (zz_hl C) hw) hc9 hs9 (zz_cat10 _ (Nat.le_of_ble_eq_true rfl)) (fun r203 M204 hw => zz_kI hw (fun x207 hw => ?_)) (fun _ _ _ h9 => h9.elim) rfl
                            refine zz_istore (lv' := [(5, .int x207), (0, va_rf v0), (1, va_rf v1), (2, va_rf v2), (3, va_rf v3), (4, .int v4)]) C dL_law_715 (by decide) rfl ?_
                            refine zz_aload_n C dL_law_717 rfl 3 rfl ?_
                            refine zz_aload_n C dL_law_718 rfl 1 rfl ?_
                            refine zz_iload C dL_law_719 5 rfl ?_
                            refine zz_iconst (v := (1 : Int32)) C dL_law_721 (by decide) ?_
                            refine zz_iadd C dL_law_722 ?_
                            refine zz_iald C dL_law_723 hw (fun x208 hw => ?_)
                            refine zz_aload_n C dL_law_724 rfl 1 rfl ?_
                            refine zz_iload C dL_law_725 5 rfl ?_
                            refine zz_iconst (v := (2 : Int32)) C dL_law_727 (by decide) ?_
                            refine zz_iadd C dL_law_728 ?_
                            refine zz_iald C dL_law_729 hw (fun x209 hw => ?_)
                            obtain ⟨a9, t9, b9, fs9, hro, hL, rfl, hw⟩ := ztyS hw
                            refine zz_callV (r := (zR_16, zT_16, 24)) (As := [.int x208, .int x209]) (rest := []) (mc := 0) (ms := 0) C hR hro dL_law_730 (Or.inl q2790) q2791 (Or.inl q2792) zl_DebateHallModel zk_X4_defends (Or.inl rfl) zy_X4_defends rfl (by decide) (by decide) hL (ok_X4_defends (zz_hl C) hw) (Nat.zero_le _) (Nat.zero_le _) (zz_cat10 _ (Nat.le_of_ble_eq_true rfl)) (fun r210 M211 hw => zz_kI hw (fun x214 hw => ?_)) (fun _ _ _ h9 => h9.elim) rfl
                            refine zz_istore (lv' := [(6, .int x214), (5, .int x207), (0, va_rf v0), (1, va_rf v1), (2, va_rf v2), (3, va_rf v3), (4, .int v4)]) C dL_law_733 (by decide) rfl ?_
                            refine zz_aload_n C dL_law_735 rfl 4 rfl ?_
                            obtain ⟨a9, t9, b9, fs9, hro, hL, rfl, hw⟩ := ztyS hw
                            refine zz_callV (r := (zR_16, zT_16, 24)) (As := []) (rest := []) (mc := 0) (ms := 0) C hR hro dL_law_736 (Or.inl q2509) q2510 (Or.inl q2511) zl_DebateHallModel zk_X4_thrown (Or.inl rfl) zy_X4_thrown rfl (by decide) (by decide) hL (ok_X4_thrown (zz_hl C) hw) (Nat.zero_le _) (Nat.zero_le _) (zz_cat10 _ (Nat.le_of_ble_eq_true rfl)) (fun r215 M216 hw => zz_kI hw (fun x219 hw => ?_)) (fun _ _ _ h9 => h9.elim) rfl
                            refine zz_iload C dL_law_739 1 rfl ?_
                            refine zz_icmp_eq (tgt := 746) C dL_law_741 (by decide) hw (fun hw => ?_) (fun hw => ?_)
                            · refine zz_iload C dL_law_746 1 rfl ?_
                              refine zz_if_ne (tgt := 770) C dL_law_748 (by decide) hw (fun hw => ?_) (fun hw => ?_)
                              · refine zz_subP [2, 3, 4, 5, 6] rfl ?_
                                exact ok_L_law_B770 C E hH hR (fun z0 z1 z2 z3 z4 z5 z6 z7 hw => ih z0 z1 z2 z3 z4 z5 z6 z7 hw) hw
                              · refine zz_aload_n C dL_law_751 rfl 5 rfl ?_
                                refine zz_iconst (v := (0 : Int32)) C dL_law_752 (by decide) ?_
                                refine zz_lald C dL_law_753 hw (fun x220 hw => ?_)
                                refine zz_iload C dL_law_754 0 rfl ?_
                                refine zz_if_eq (tgt := 763) C dL_law_756 (by decide) hw (fun hw => ?_) (fun hw => ?_)
                                · refine zz_lconst (v := (0 : Int64)) C dL_law_763 (by decide) ?_
                                  refine zz_subP [2, 3, 4, 5, 6] rfl ?_
                                  exact ok_L_law_B764 C E hH hR (fun z0 z1 z2 z3 z4 z5 z6 z7 hw => ih z0 z1 z2 z3 z4 z5 z6 z7 hw) hw
                                · refine zz_lconst (v := (1 : Int64)) C dL_law_759 (by decide) ?_
                                  refine zz_goto (tgt := 764) C dL_law_760 (by decide) ?_
                                  refine zz_subP [2, 3, 4, 5, 6] rfl ?_
                                  exact ok_L_law_B764 C E hH hR (fun z0 z1 z2 z3 z4 z5 z6 z7 hw => ih z0 z1 z2 z3 z4 z5 z6 z7 hw) hw
                            · refine zz_iconst (v := (0 : Int32)) C dL_law_744 (by decide) ?_
                              exact zz_zret C E dL_law_745 hw
                          · replace hw := zz_ifn e10 hw
                            by_cases e11 : (x22 &&& (31 : Int32)) = (11 : Int32)
                            · replace hw := zz_ifp e11 hw
                              refine zz_tin (j := 11) (off := 733) (tgt := 773) C dL_law_40 e11 (by decide) (by decide) (by decide) rfl (by decide) ?_
                              refine zz_aload_n C dL_law_773 rfl 1 rfl ?_
                              obtain ⟨a9, t9, b9, fs9, hro, hL, rfl, hw⟩ := ztyS hw
                              refine zz_callV (r := (zR_0, zT_0, 4)) (As := []) (rest := []) (mc := 0) (ms := 0) C hR hro dL_law_774 (Or.inl q2013) q2014 (Or.inl q2015) zl_DebateHall zk_X1_leader (Or.inl rfl) zy_X1_leader rfl (by decide) (by decide) hL (ok_X1_leader (zz_hl C) hw) (Nat.zero_le _) (Nat.zero_le _) (zz_cat10 _ (Nat.le_of_ble_eq_true rfl)) (fun r221 M222 hw => zz_kI hw (fun x225 hw => ?_)) (fun _ _ _ h9 => h9.elim) rfl
                              refine zz_aload_n C dL_law_777 rfl 2 rfl ?_
                              obtain ⟨a9, t9, b9, fs9, hro, hL, rfl, hw⟩ := ztyS hw
                              refine zz_callV (r := (zR_16, zT_16, 24)) (As := []) (rest := [.int x225]) (mc := 0) (ms := 0) C hR hro dL_law_778 (Or.inl q2794) q2795 (Or.inl q2796) zl_DebateHallModel zk_X4_leader (Or.inl rfl) zy_X4_leader rfl (by decide) (by decide) hL (ok_X4_leader (zz_hl C) hw) (Nat.zero_le _) (Nat.zero_le _) (zz_cat10 _ (Nat.le_of_ble_eq_true rfl)) (fun r226 M227 hw => zz_kI hw (fun x230 hw => ?_)) (fun _ _ _ h9 => h9.elim) rfl
                              refine zz_icmp_eq (tgt := 1214) C dL_law_781 (by decide) hw (fun hw => ?_) (fun hw => ?_)
                              · refine zz_subP [0, 1, 2, 3, 4] rfl ?_
                                exact ok_L_law_B1214 C E hH hR (fun z0 z1 z2 z3 z4 z5 z6 z7 hw => ih z0 z1 z2 z3 z4 z5 z6 z7 hw) hw
                              · refine zz_iconst (v := (0 : Int32)) C dL_law_784 (by decide) ?_
                                exact zz_zret C E dL_law_785 hw
                            · replace hw := zz_ifn e11 hw
                              by_cases e12 : (x22 &&& (31 : Int32)) = (12 : Int32)
                              · replace hw := zz_ifp e12 hw
                                refine zz_tin (j := 12) (off := 746) (tgt := 786) C dL_law_40 e12 (by decide) (by decide) (by decide) rfl (by decide) ?_
                                refine zz_aload_n C dL_law_786 rfl 1 rfl ?_
                                refine zz_aload_n C dL_law_787 rfl 0 rfl ?_
                                refine zz_iload C dL_law_788 4 rfl ?_
                                refine zz_iconst (v := (1 : Int32)) C dL_law_790 (by decide) ?_
                                refine zz_iadd C dL_law_791 ?_
                                refine zz_iald C dL_law_792 hw (fun x231 hw => ?_)
                                refine zz_aload_n C dL_law_793 rfl 0 rfl ?_
                                refine zz_iload C dL_law_794 4 rfl ?_
                                refine zz_iconst (v := (2 : Int32)) C dL_law_796 (by decide) ?_
                                refine zz_iadd C dL_law_797 ?_
                                refine zz_iald C dL_law_798 hw (fun x232 hw => ?_)
                                refine zz_aload_n C dL_law_799 rfl 3 rfl ?_
                                obtain ⟨c9, s9, hc9, hs9, hw⟩ := hw
                                refine zz_callS (As := [va_rf v1, .int x231, .int x232, va_rf v3]) (rest := []) C hR dL_law_800 (Or.inl q2320) q2321 zl_DebateHallLaw zk_X0_conceding (Or.inr q2320) zy_X0_conceding (by decide) (by decide) (ok_X0_conceding (zz_hl C) hw) hc9 hs9 (zz_cat10 _ (Nat.le_of_ble_eq_true rfl)) (fun r233 M234 hw => zz_kI hw (fun x237 hw => ?_)) (fun _ _ _ h9 => h9.elim) rfl
                                refine zz_istore (lv' := [(5, .int x237), (0, va_rf v0), (1, va_rf v1), (2, va_rf v2), (3, va_rf v3), (4, .int v4)]) C dL_law_803 (by decide) rfl ?_
                                refine zz_aload_n C dL_law_805 rfl 3 rfl ?_
                                refine zz_aload_n C dL_law_806 rfl 1 rfl ?_
                                refine zz_iload C dL_law_807 5 rfl ?_
                                refine zz_iconst (v := (1 : Int32)) C dL_law_809 (by decide) ?_
                                refine zz_iadd C dL_law_810 ?_
                                refine zz_iald C dL_law_811 hw (fun x238 hw => ?_)
                                refine zz_aload_n C dL_law_812 rfl 1 rfl ?_
                                refine zz_iload C dL_law_813 5 rfl ?_
                                refine zz_iconst (v := (2 : Int32)) C dL_law_815 (by decide) ?_
                                refine zz_iadd C dL_law_816 ?_
                                refine zz_iald C dL_law_817 hw (fun x239 hw => ?_)
                                obtain ⟨a9, t9, b9, fs9, hro, hL, rfl, hw⟩ := ztyS hw
                                refine zz_callV (r := (zR_16, zT_16, 24)) (As := [.int x238, .int x239]) (rest := []) (mc := 0) (ms := 0) C hR hro dL_law_818 (Or.inl q2798) q2799 (Or.inl q2800) zl_DebateHallModel zk_X4_conceding (Or.inl rfl) zy_X4_conceding rfl (by decide) (by decide) hL (ok_X4_conceding (zz_hl C) hw) (Nat.zero_le _) (Nat.zero_le _) (zz_cat10 _ (Nat.le_of_ble_eq_true rfl)) (fun r240 M241 hw => zz_kI hw (fun x244 hw => ?_)) (fun _ _ _ h9 => h9.elim) rfl
                                refine zz_istore (lv' := [(6, .int x244), (5, .int x237), (0, va_rf v0), (1, va_rf v1), (2, va_rf v2), (3, va_rf v3), (4, .int v4)]) C dL_law_821 (by decide) rfl ?_
                                refine zz_aload_n C dL_law_823 rfl 4 rfl ?_
                                obtain ⟨a9, t9, b9, fs9, hro, hL, rfl, hw⟩ := ztyS hw
                                refine zz_callV (r := (zR_16, zT_16, 24)) (As := []) (rest := []) (mc := 0) (ms := 0) C hR hro dL_law_824 (Or.inl q2509) q2510 (Or.inl q2511) zl_DebateHallModel zk_X4_thrown (Or.inl rfl) zy_X4_thrown rfl (by decide) (by decide) hL (ok_X4_thrown (zz_hl C) hw) (Nat.zero_le _) (Nat.zero_le _) (zz_cat10 _ (Nat.le_of_ble_eq_true rfl)) (fun r245 M246 hw => zz_kI hw (fun x249 hw => ?_)) (fun _ _ _ h9 => h9.elim) rfl
                                refine zz_iload C dL_law_827 1 rfl ?_
                                refine zz_icmp_eq (tgt := 834) C dL_law_829 (by decide) hw (fun hw => ?_) (fun hw => ?_)
                                · refine zz_iload C dL_law_834 1 rfl ?_
                                  refine zz_if_ne (tgt := 851) C dL_law_836 (by decide) hw (fun hw => ?_) (fun hw => ?_)
                                  · refine zz_subP [2, 3, 4, 5, 6] rfl ?_
                                    exact ok_L_law_B851 C E hH hR (fun z0 z1 z2 z3 z4 z5 z6 z7 hw => ih z0 z1 z2 z3 z4 z5 z6 z7 hw) hw
                                  · refine zz_aload_n C dL_law_839 rfl 5 rfl ?_
                                    refine zz_iconst (v := (0 : Int32)) C dL_law_840 (by decide) ?_
                                    refine zz_lald C dL_law_841 hw (fun x250 hw => ?_)
                                    refine zz_iload C dL_law_842 0 rfl ?_
                                    refine zz_i2l C dL_law_844 ?_
                                    refine zz_lcmp C dL_law_845 ?_
                                    refine zz_if_eq (tgt := 851) C dL_law_846 (by decide) hw (fun hw => ?_) (fun hw => ?_)
                                    · refine zz_subP [2, 3, 4, 5, 6] rfl ?_
                                      exact ok_L_law_B851 C E hH hR (fun z0 z1 z2 z3 z4 z5 z6 z7 hw => ih z0 z1 z2 z3 z4 z5 z6 z7 hw) hw
                                    · refine zz_iconst (v := (0 : Int32)) C dL_law_849 (by decide) ?_
                                      exact zz_zret C E dL_law_850 hw
                                · refine zz_iconst (v := (0 : Int32)) C dL_law_832 (by decide) ?_
                                  exact zz_zret C E dL_law_833 hw
                              · replace hw := zz_ifn e12 hw
                                by_cases e13 : (x22 &&& (31 : Int32)) = (13 : Int32)
                                · replace hw := zz_ifp e13 hw
                                  refine zz_tin (j := 13) (off := 814) (tgt := 854) C dL_law_40 e13 (by decide) (by decide) (by decide) rfl (by decide) ?_
                                  refine zz_aload_n C dL_law_854 rfl 1 rfl ?_
                                  refine zz_aload_n C dL_law_855 rfl 0 rfl ?_
                                  refine zz_iload C dL_law_856 4 rfl ?_
                                  refine zz_iconst (v := (1 : Int32)) C dL_law_858 (by decide) ?_
                                  refine zz_iadd C dL_law_859 ?_
                                  refine zz_iald C dL_law_860 hw (fun x251 hw => ?_)
                                  refine zz_aload_n C dL_law_861 rfl 3 rfl ?_
                                  obtain ⟨c9, s9, hc9, hs9, hw⟩ := hw
                                  refine zz_callS (As := [va_rf v1, .int x251, va_rf v3]) (rest := []) C hR dL_law_862 (Or.inl q2331) q2332 zl_DebateHallLaw zk_X0_concede (Or.inr q2331) zy_X0_concede (by decide) (by decide) (ok_X0_concede (zz_hl C) hw) hc9 hs9 (zz_cat10 _ (Nat.le_of_ble_eq_true rfl)) (fun r252 M253 hw => zz_kI hw (fun x256 hw => ?_)) (fun _ _ _ h9 => h9.elim) rfl
                                  refine zz_istore (lv' := [(5, .int x256), (0, va_rf v0), (1, va_rf v1), (2, va_rf v2), (3, va_rf v3), (4, .int v4)]) C dL_law_865 (by decide) rfl ?_
                                  refine zz_aload_n C dL_law_867 rfl 3 rfl ?_
                                  refine zz_aload_n C dL_law_868 rfl 1 rfl ?_
                                  refine zz_iload C dL_law_869 5 rfl ?_
                                  refine zz_iconst (v := (1 : Int32)) C dL_law_871 (by decide) ?_
                                  refine zz_iadd C dL_law_872 ?_
                                  refine zz_iald C dL_law_873 hw (fun x257 hw => ?_)
                                  obtain ⟨a9, t9, b9, fs9, hro, hL, rfl, hw⟩ := ztyS hw
                                  refine zz_callV (r := (zR_16, zT_16, 24)) (As := [.int x257]) (rest := []) (mc := 0) (ms := 0) C hR hro dL_law_874 (Or.inl q2806) q2807 (Or.inl q2808) zl_DebateHallModel zk_X4_concede (Or.inl rfl) zy_X4_concede rfl (by decide) (by decide) hL (ok_X4_concede (zz_hl C) hw) (Nat.zero_le _) (Nat.zero_le _) (zz_cat10 _ (Nat.le_of_ble_eq_true rfl)) (fun r258 M259 hw => zz_kI hw (fun x262 hw => ?_)) (fun _ _ _ h9 => h9.elim) rfl
                                  refine zz_istore (lv' := [(6, .int x262), (5, .int x256), (0, va_rf v0), (1, va_rf v1), (2, va_rf v2), (3, va_rf v3), (4, .int v4)]) C dL_law_877 (by decide) rfl ?_
                                  refine zz_aload_n C dL_law_879 rfl 4 rfl ?_
                                  obtain ⟨a9, t9, b9, fs9, hro, hL, rfl, hw⟩ := ztyS hw
                                  refine zz_callV (r := (zR_16, zT_16, 24)) (As := []) (rest := []) (mc := 0) (ms := 0) C hR hro dL_law_880 (Or.inl q2509) q2510 (Or.inl q2511) zl_DebateHallModel zk_X4_thrown (Or.inl rfl) zy_X4_thrown rfl (by decide) (by decide) hL (ok_X4_thrown (zz_hl C) hw) (Nat.zero_le _) (Nat.zero_le _) (zz_cat10 _ (Nat.le_of_ble_eq_true rfl)) (fun r263 M264 hw => zz_kI hw (fun x267 hw => ?_)) (fun _ _ _ h9 => h9.elim) rfl
                                  refine zz_iload C dL_law_883 1 rfl ?_
                                  refine zz_icmp_eq (tgt := 890) C dL_law_885 (by decide) hw (fun hw => ?_) (fun hw => ?_)
                                  · refine zz_iload C dL_law_890 1 rfl ?_
                                    refine zz_if_ne (tgt := 907) C dL_law_892 (by decide) hw (fun hw => ?_) (fun hw => ?_)
                                    · refine zz_subP [2, 3, 4, 5, 6] rfl ?_
                                      exact ok_L_law_B907 C E hH hR (fun z0 z1 z2 z3 z4 z5 z6 z7 hw => ih z0 z1 z2 z3 z4 z5 z6 z7 hw) hw
                                    · refine zz_aload_n C dL_law_895 rfl 5 rfl ?_
                                      refine zz_iconst (v := (0 : Int32)) C dL_law_896 (by decide) ?_
                                      refine zz_lald C dL_law_897 hw (fun x268 hw => ?_)
                                      refine zz_iload C dL_law_898 0 rfl ?_
                                      refine zz_i2l C dL_law_900 ?_
                                      refine zz_lcmp C dL_law_901 ?_
                                      refine zz_if_eq (tgt := 907) C dL_law_902 (by decide) hw (fun hw => ?_) (fun hw => ?_)
                                      · refine zz_subP [2, 3, 4, 5, 6] rfl ?_
                                        exact ok_L_law_B907 C E hH hR (fun z0 z1 z2 z3 z4 z5 z6 z7 hw => ih z0 z1 z2 z3 z4 z5 z6 z7 hw) hw
                                      · refine zz_iconst (v := (0 : Int32)) C dL_law_905 (by decide) ?_
                                        exact zz_zret C E dL_law_906 hw
                                  · refine zz_iconst (v := (0 : Int32)) C dL_law_888 (by decide) ?_
                                    exact zz_zret C E dL_law_889 hw
                                · replace hw := zz_ifn e13 hw
                                  by_cases e14 : (x22 &&& (31 : Int32)) = (14 : Int32)
                                  · replace hw := zz_ifp e14 hw
                                    refine zz_tin (j := 14) (off := 870) (tgt := 910) C dL_law_40 e14 (by decide) (by decide) (by decide) rfl (by decide) ?_
                                    refine zz_aload_n C dL_law_910 rfl 1 rfl ?_
                                    refine zz_aload_n C dL_law_911 rfl 0 rfl ?_
                                    refine zz_iload C dL_law_912 4 rfl ?_
                                    refine zz_iconst (v := (1 : Int32)) C dL_law_914 (by decide) ?_
                                    refine zz_iadd C dL_law_915 ?_
                                    refine zz_iald C dL_law_916 hw (fun x269 hw => ?_)
                                    refine zz_aload_n C dL_law_917 rfl 0 rfl ?_
                                    refine zz_iload C dL_law_918 4 rfl ?_
                                    refine zz_iconst (v := (2 : Int32)) C dL_law_920 (by decide) ?_
                                    refine zz_iadd C dL_law_921 ?_
                                    refine zz_iald C dL_law_922 hw (fun x270 hw => ?_)
                                    refine zz_aload_n C dL_law_923 rfl 3 rfl ?_
                                    obtain ⟨c9, s9, hc9, hs9, hw⟩ := hw
                                    refine zz_callS (As := [va_rf v1, .int x269, .int x270, va_rf v3]) (rest := []) C hR dL_law_924 (Or.inl q2338) q2339 zl_DebateHallLaw zk_X0_advise (Or.inr q2338) zy_X0_advise (by decide) (by decide) (ok_X0_advise (zz_hl C) hw) hc9 hs9 (zz_cat10 _ (Nat.le_of_ble_eq_true rfl)) (fun r271 M272 hw => zz_kI hw (fun x275 hw => ?_)) (fun _ _ _ h9 => h9.elim) rfl
                                    refine zz_istore (lv' := [(5, .int x275), (0, va_rf v0), (1, va_rf v1), (2, va_rf v2), (3, va_rf v3), (4, .int v4)]) C dL_law_927 (by decide) rfl ?_
                                    refine zz_aload_n C dL_law_929 rfl 3 rfl ?_
                                    refine zz_aload_n C dL_law_930 rfl 1 rfl ?_
                                    refine zz_iload C dL_law_931 5 rfl ?_
                                    refine zz_iconst (v := (1 : Int32)) C dL_law_933 (by decide) ?_
                                    refine zz_iadd C dL_law_934 ?_
                                    refine zz_iald C dL_law_935 hw (fun x276 hw => ?_)
                                    refine zz_aload_n C dL_law_936 rfl 1 rfl ?_
                                    refine zz_iload C dL_law_937 5 rfl ?_
                                    refine zz_iconst (v := (2 : Int32)) C dL_law_939 (by decide) ?_
                                    refine zz_iadd C dL_law_940 ?_
                                    refine zz_iald C dL_law_941 hw (fun x277 hw => ?_)
                                    obtain ⟨a9, t9, b9, fs9, hro, hL, rfl, hw⟩ := ztyS hw
                                    refine zz_callV (r := (zR_16, zT_16, 24)) (As := [.int x276, .int x277]) (rest := []) (mc := 0) (ms := 0) C hR hro dL_law_942 (Or.inl q2810) q2811 (Or.inl q2812) zl_DebateHallModel zk_X4_advise (Or.inl rfl) zy_X4_advise rfl (by decide) (by decide) hL (ok_X4_advise (zz_hl C) hw) (Nat.zero_le _) (Nat.zero_le _) (zz_cat10 _ (Nat.le_of_ble_eq_true rfl)) (fun r278 M279 hw => zz_kI hw (fun x282 hw => ?_)) (fun _ _ _ h9 => h9.elim) rfl
                                    refine zz_istore (lv' := [(6, .int x282), (5, .int x275), (0, va_rf v0), (1, va_rf v1), (2, va_rf v2), (3, va_rf v3), (4, .int v4)]) C dL_law_945 (by decide) rfl ?_
                                    refine zz_aload_n C dL_law_947 rfl 4 rfl ?_
                                    obtain ⟨a9, t9, b9, fs9, hro, hL, rfl, hw⟩ := ztyS hw
                                    refine zz_callV (r := (zR_16, zT_16, 24)) (As := []) (rest := []) (mc := 0) (ms := 0) C hR hro dL_law_948 (Or.inl q2509) q2510 (Or.inl q2511) zl_DebateHallModel zk_X4_thrown (Or.inl rfl) zy_X4_thrown rfl (by decide) (by decide) hL (ok_X4_thrown (zz_hl C) hw) (Nat.zero_le _) (Nat.zero_le _) (zz_cat10 _ (Nat.le_of_ble_eq_true rfl)) (fun r283 M284 hw => zz_kI hw (fun x287 hw => ?_)) (fun _ _ _ h9 => h9.elim) rfl
                                    refine zz_iload C dL_law_951 1 rfl ?_
                                    refine zz_icmp_eq (tgt := 958) C dL_law_953 (by decide) hw (fun hw => ?_) (fun hw => ?_)
                                    · refine zz_iload C dL_law_958 1 rfl ?_
                                      refine zz_if_ne (tgt := 975) C dL_law_960 (by decide) hw (fun hw => ?_) (fun hw => ?_)
                                      · refine zz_subP [2, 3, 4, 5, 6] rfl ?_
                                        exact ok_L_law_B975 C E hH hR (fun z0 z1 z2 z3 z4 z5 z6 z7 hw => ih z0 z1 z2 z3 z4 z5 z6 z7 hw) hw
                                      · refine zz_aload_n C dL_law_963 rfl 5 rfl ?_
                                        refine zz_iconst (v := (0 : Int32)) C dL_law_964 (by decide) ?_
                                        refine zz_lald C dL_law_965 hw (fun x288 hw => ?_)
                                        refine zz_iload C dL_law_966 0 rfl ?_
                                        refine zz_i2l C dL_law_968 ?_
                                        refine zz_lcmp C dL_law_969 ?_
                                        refine zz_if_eq (tgt := 975) C dL_law_970 (by decide) hw (fun hw => ?_) (fun hw => ?_)
                                        · refine zz_subP [2, 3, 4, 5, 6] rfl ?_
                                          exact ok_L_law_B975 C E hH hR (fun z0 z1 z2 z3 z4 z5 z6 z7 hw => ih z0 z1 z2 z3 z4 z5 z6 z7 hw) hw
                                        · refine zz_iconst (v := (0 : Int32)) C dL_law_973 (by decide) ?_
                                          exact zz_zret C E dL_law_974 hw
                                    · refine zz_iconst (v := (0 : Int32)) C dL_law_956 (by decide) ?_
                                      exact zz_zret C E dL_law_957 hw
                                  · replace hw := zz_ifn e14 hw
                                    by_cases e15 : (x22 &&& (31 : Int32)) = (15 : Int32)
                                    · replace hw := zz_ifp e15 hw
                                      refine zz_tin (j := 15) (off := 938) (tgt := 978) C dL_law_40 e15 (by decide) (by decide) (by decide) rfl (by decide) ?_
                                      refine zz_aload_n C dL_law_978 rfl 1 rfl ?_
                                      refine zz_aload_n C dL_law_979 rfl 0 rfl ?_
                                      refine zz_iload C dL_law_980 4 rfl ?_
                                      refine zz_iconst (v := (1 : Int32)) C dL_law_982 (by decide) ?_
                                      refine zz_iadd C dL_law_983 ?_
                                      refine zz_iald C dL_law_984 hw (fun x289 hw => ?_)
                                      refine zz_aload_n C dL_law_985 rfl 3 rfl ?_
                                      obtain ⟨c9, s9, hc9, hs9, hw⟩ := hw
                                      refine zz_callS (As := [va_rf v1, .int x289, va_rf v3]) (rest := []) C hR dL_law_986 (Or.inl q2346) q2347 zl_DebateHallLaw zk_X0_least (Or.inr q2346) zy_X0_least (by decide) (by decide) (ok_X0_least (zz_hl C) hw) hc9 hs9 (zz_cat10 _ (Nat.le_of_ble_eq_true rfl)) (fun r290 M291 hw => zz_kI hw (fun x294 hw => ?_)) (fun _ _ _ h9 => h9.elim) rfl
                                      refine zz_istore (lv' := [(5, .int x294), (0, va_rf v0), (1, va_rf v1), (2, va_rf v2), (3, va_rf v3), (4, .int v4)]) C dL_law_989 (by decide) rfl ?_
                                      refine zz_aload_n C dL_law_991 rfl 3 rfl ?_
                                      refine zz_aload_n C dL_law_992 rfl 1 rfl ?_
                                      refine zz_iload C dL_law_993 5 rfl ?_
                                      refine zz_iconst (v := (1 : Int32)) C dL_law_995 (by decide) ?_
                                      refine zz_iadd C dL_law_996 ?_
                                      refine zz_iald C dL_law_997 hw (fun x295 hw => ?_)
                                      obtain ⟨a9, t9, b9, fs9, hro, hL, rfl, hw⟩ := ztyS hw
                                      refine zz_callV (r := (zR_16, zT_16, 24)) (As := [.int x295]) (rest := []) (mc := 0) (ms := 0) C hR hro dL_law_998 (Or.inl q2818) q2819 (Or.inl q2820) zl_DebateHallModel zk_X4_least (Or.inl rfl) zy_X4_least rfl (by decide) (by decide) hL (ok_X4_least (zz_hl C) hw) (Nat.zero_le _) (Nat.zero_le _) (zz_cat10 _ (Nat.le_of_ble_eq_true rfl)) (fun r296 M297 hw => zz_kI hw (fun x300 hw => ?_)) (fun _ _ _ h9 => h9.elim) rfl
                                      refine zz_istore (lv' := [(6, .int x300), (5, .int x294), (0, va_rf v0), (1, va_rf v1), (2, va_rf v2), (3, va_rf v3), (4, .int v4)]) C dL_law_1001 (by decide) rfl ?_
                                      refine zz_aload_n C dL_law_1003 rfl 4 rfl ?_
                                      obtain ⟨a9, t9, b9, fs9, hro, hL, rfl, hw⟩ := ztyS hw
                                      refine zz_callV (r := (zR_16, zT_16, 24)) (As := []) (rest := []) (mc := 0) (ms := 0) C hR hro dL_law_1004 (Or.inl q2509) q2510 (Or.inl q2511) zl_DebateHallModel zk_X4_thrown (Or.inl rfl) zy_X4_thrown rfl (by decide) (by decide) hL (ok_X4_thrown (zz_hl C) hw) (Nat.zero_le _) (Nat.zero_le _) (zz_cat10 _ (Nat.le_of_ble_eq_true rfl)) (fun r301 M302 hw => zz_kI hw (fun x305 hw => ?_)) (fun _ _ _ h9 => h9.elim) rfl
                                      refine zz_iload C dL_law_1007 1 rfl ?_
                                      refine zz_icmp_eq (tgt := 1014) C dL_law_1009 (by decide) hw (fun hw => ?_) (fun hw => ?_)
                                      · refine zz_iload C dL_law_1014 1 rfl ?_
                                        refine zz_if_ne (tgt := 1031) C dL_law_1016 (by decide) hw (fun hw => ?_) (fun hw => ?_)
                                        · refine zz_subP [2, 3, 4, 5, 6] rfl ?_
                                          exact ok_L_law_B1031 C E hH hR (fun z0 z1 z2 z3 z4 z5 z6 z7 hw => ih z0 z1 z2 z3 z4 z5 z6 z7 hw) hw
                                        · refine zz_aload_n C dL_law_1019 rfl 5 rfl ?_
                                          refine zz_iconst (v := (0 : Int32)) C dL_law_1020 (by decide) ?_
                                          refine zz_lald C dL_law_1021 hw (fun x306 hw => ?_)
                                          refine zz_iload C dL_law_1022 0 rfl ?_
                                          refine zz_i2l C dL_law_1024 ?_
                                          refine zz_lcmp C dL_law_1025 ?_
                                          refine zz_if_eq (tgt := 1031) C dL_law_1026 (by decide) hw (fun hw => ?_) (fun hw => ?_)
                                          · refine zz_subP [2, 3, 4, 5, 6] rfl ?_
                                            exact ok_L_law_B1031 C E hH hR (fun z0 z1 z2 z3 z4 z5 z6 z7 hw => ih z0 z1 z2 z3 z4 z5 z6 z7 hw) hw
                                          · refine zz_iconst (v := (0 : Int32)) C dL_law_1029 (by decide) ?_
                                            exact zz_zret C E dL_law_1030 hw
                                      · refine zz_iconst (v := (0 : Int32)) C dL_law_1012 (by decide) ?_
                                        exact zz_zret C E dL_law_1013 hw
                                    · replace hw := zz_ifn e15 hw
                                      by_cases e16 : (x22 &&& (31 : Int32)) = (16 : Int32)
                                      · replace hw := zz_ifp e16 hw
                                        refine zz_tin (j := 16) (off := 994) (tgt := 1034) C dL_law_40 e16 (by decide) (by decide) (by decide) rfl (by decide) ?_
                                        refine zz_aload_n C dL_law_1034 rfl 1 rfl ?_
                                        refine zz_aload_n C dL_law_1035 rfl 0 rfl ?_
                                        refine zz_iload C dL_law_1036 4 rfl ?_
                                        refine zz_iconst (v := (1 : Int32)) C dL_law_1038 (by decide) ?_
                                        refine zz_iadd C dL_law_1039 ?_
                                        refine zz_iald C dL_law_1040 hw (fun x307 hw => ?_)
                                        refine zz_aload_n C dL_law_1041 rfl 3 rfl ?_
                                        obtain ⟨c9, s9, hc9, hs9, hw⟩ := hw
                                        refine zz_callS (As := [va_rf v1, .int x307, va_rf v3]) (rest := []) C hR dL_law_1042 (Or.inl q2353) q2354 zl_DebateHallLaw zk_X0_frees (Or.inr q2353) zy_X0_frees (by decide) (by decide) (ok_X0_frees (zz_hl C) hw) hc9 hs9 (zz_cat10 _ (Nat.le_of_ble_eq_true rfl)) (fun r308 M309 hw => zz_kI hw (fun x312 hw => ?_)) (fun _ _ _ h9 => h9.elim) rfl
                                        refine zz_istore (lv' := [(5, .int x312), (0, va_rf v0), (1, va_rf v1), (2, va_rf v2), (3, va_rf v3), (4, .int v4)]) C dL_law_1045 (by decide) rfl ?_
                                        refine zz_aload_n C dL_law_1047 rfl 3 rfl ?_
                                        refine zz_aload_n C dL_law_1048 rfl 1 rfl ?_
                                        refine zz_iload C dL_law_1049 5 rfl ?_
                                        refine zz_iconst (v := (1 : Int32)) C dL_law_1051 (by decide) ?_
                                        refine zz_iadd C dL_law_1052 ?_
                                        refine zz_iald C dL_law_1053 hw (fun x313 hw => ?_)
                                        obtain ⟨a9, t9, b9, fs9, hro, hL, rfl, hw⟩ := ztyS hw
                                        refine zz_callV (r := (zR_16, zT_16, 24)) (As := [.int x313]) (rest := []) (mc := 0) (ms := 0) C hR hro dL_law_1054 (Or.inl q2822) q2823 (Or.inl q2824) zl_DebateHallModel zk_X4_frees (Or.inl rfl) zy_X4_frees rfl (by decide) (by decide) hL (ok_X4_frees (zz_hl C) hw) (Nat.zero_le _) (Nat.zero_le _) (zz_cat10 _ (Nat.le_of_ble_eq_true rfl)) (fun r314 M315 hw => zz_kI hw (fun x318 hw => ?_)) (fun _ _ _ h9 => h9.elim) rfl
                                        refine zz_istore (lv' := [(6, .int x318), (5, .int x312), (0, va_rf v0), (1, va_rf v1), (2, va_rf v2), (3, va_rf v3), (4, .int v4)]) C dL_law_1057 (by decide) rfl ?_
                                        refine zz_aload_n C dL_law_1059 rfl 4 rfl ?_
                                        obtain ⟨a9, t9, b9, fs9, hro, hL, rfl, hw⟩ := ztyS hw
                                        refine zz_callV (r := (zR_16, zT_16, 24)) (As := []) (rest := []) (mc := 0) (ms := 0) C hR hro dL_law_1060 (Or.inl q2509) q2510 (Or.inl q2511) zl_DebateHallModel zk_X4_thrown (Or.inl rfl) zy_X4_thrown rfl (by decide) (by decide) hL (ok_X4_thrown (zz_hl C) hw) (Nat.zero_le _) (Nat.zero_le _) (zz_cat10 _ (Nat.le_of_ble_eq_true rfl)) (fun r319 M320 hw => zz_kI hw (fun x323 hw => ?_)) (fun _ _ _ h9 => h9.elim) rfl
                                        refine zz_iload C dL_law_1063 1 rfl ?_
                                        refine zz_icmp_eq (tgt := 1070) C dL_law_1065 (by decide) hw (fun hw => ?_) (fun hw => ?_)
                                        · refine zz_iload C dL_law_1070 1 rfl ?_
                                          refine zz_if_ne (tgt := 1087) C dL_law_1072 (by decide) hw (fun hw => ?_) (fun hw => ?_)
                                          · refine zz_subP [2, 3, 4, 5, 6] rfl ?_
                                            exact ok_L_law_B1087 C E hH hR (fun z0 z1 z2 z3 z4 z5 z6 z7 hw => ih z0 z1 z2 z3 z4 z5 z6 z7 hw) hw
                                          · refine zz_aload_n C dL_law_1075 rfl 5 rfl ?_
                                            refine zz_iconst (v := (0 : Int32)) C dL_law_1076 (by decide) ?_
                                            refine zz_lald C dL_law_1077 hw (fun x324 hw => ?_)
                                            refine zz_iload C dL_law_1078 0 rfl ?_
                                            refine zz_i2l C dL_law_1080 ?_
                                            refine zz_lcmp C dL_law_1081 ?_
                                            refine zz_if_eq (tgt := 1087) C dL_law_1082 (by decide) hw (fun hw => ?_) (fun hw => ?_)
                                            · refine zz_subP [2, 3, 4, 5, 6] rfl ?_
                                              exact ok_L_law_B1087 C E hH hR (fun z0 z1 z2 z3 z4 z5 z6 z7 hw => ih z0 z1 z2 z3 z4 z5 z6 z7 hw) hw
                                            · refine zz_iconst (v := (0 : Int32)) C dL_law_1085 (by decide) ?_
                                              exact zz_zret C E dL_law_1086 hw
                                        · refine zz_iconst (v := (0 : Int32)) C dL_law_1068 (by decide) ?_
                                          exact zz_zret C E dL_law_1069 hw
                                      · replace hw := zz_ifn e16 hw
                                        by_cases e17 : (x22 &&& (31 : Int32)) = (17 : Int32)
                                        · replace hw := zz_ifp e17 hw
                                          refine zz_tin (j := 17) (off := 1050) (tgt := 1090) C dL_law_40 e17 (by decide) (by decide) (by decide) rfl (by decide) ?_
                                          refine zz_aload_n C dL_law_1090 rfl 1 rfl ?_
                                          obtain ⟨a9, t9, b9, fs9, hro, hL, rfl, hw⟩ := ztyS hw
                                          obtain ⟨c9, s9, hc9, hs9, hw⟩ := hw
                                          refine zz_callV (r := (zR_0, zT_0, 4)) (As := []) (rest := []) C hR hro dL_law_1091 (Or.inl q2032) q2033 (Or.inl q2034) zl_DebateHall zk_X1_sheet (Or.inl rfl) zy_X1_sheet rfl (by decide) (by decide) hL (ok_X1_sheet (zz_hl C) hw) hc9 hs9 (zz_cat10 _ (Nat.le_of_ble_eq_true rfl)) (fun r325 M326 hw => zz_kI hw (fun x329 hw => ?_)) (fun _ _ _ h9 => h9.elim) rfl
                                          refine zz_aload_n C dL_law_1094 rfl 2 rfl ?_
                                          obtain ⟨a9, t9, b9, fs9, hro, hL, rfl, hw⟩ := ztyS hw
                                          refine zz_callV (r := (zR_16, zT_16, 24)) (As := []) (rest := [.int x329]) (mc := 0) (ms := 0) C hR hro dL_law_1095 (Or.inl q2834) q2835 (Or.inl q2836) zl_DebateHallModel zk_X4_sheet (Or.inl rfl) zy_X4_sheet rfl (by decide) (by decide) hL (ok_X4_sheet (zz_hl C) hw) (Nat.zero_le _) (Nat.zero_le _) (zz_cat10 _ (Nat.le_of_ble_eq_true rfl)) (fun r330 M331 hw => zz_kI hw (fun x334 hw => ?_)) (fun _ _ _ h9 => h9.elim) rfl
                                          refine zz_icmp_eq (tgt := 1214) C dL_law_1098 (by decide) hw (fun hw => ?_) (fun hw => ?_)
                                          · refine zz_subP [0, 1, 2, 3, 4] rfl ?_
                                            exact ok_L_law_B1214 C E hH hR (fun z0 z1 z2 z3 z4 z5 z6 z7 hw => ih z0 z1 z2 z3 z4 z5 z6 z7 hw) hw
                                          · refine zz_iconst (v := (0 : Int32)) C dL_law_1101 (by decide) ?_
                                            exact zz_zret C E dL_law_1102 hw
                                        · replace hw := zz_ifn e17 hw
                                          by_cases e18 : (x22 &&& (31 : Int32)) = (18 : Int32)
                                          · replace hw := zz_ifp e18 hw
                                            refine zz_tin (j := 18) (off := 1063) (tgt := 1103) C dL_law_40 e18 (by decide) (by decide) (by decide) rfl (by decide) ?_
                                            refine zz_aload_n C dL_law_1103 rfl 1 rfl ?_
                                            refine zz_aload_n C dL_law_1104 rfl 0 rfl ?_
                                            refine zz_iload C dL_law_1105 4 rfl ?_
                                            refine zz_iconst (v := (1 : Int32)) C dL_law_1107 (by decide) ?_
                                            refine zz_iadd C dL_law_1108 ?_
                                            refine zz_iald C dL_law_1109 hw (fun x335 hw => ?_)
                                            refine zz_aload_n C dL_law_1110 rfl 3 rfl ?_
                                            obtain ⟨c9, s9, hc9, hs9, hw⟩ := hw
                                            refine zz_callS (As := [va_rf v1, .int x335, va_rf v3]) (rest := []) C hR dL_law_1111 (Or.inl q2368) q2369 zl_DebateHallLaw zk_X0_byteAt (Or.inr q2368) zy_X0_byteAt (by decide) (by decide) (ok_X0_byteAt (zz_hl C) hw) hc9 hs9 (zz_cat10 _ (Nat.le_of_ble_eq_true rfl)) (fun r336 M337 hw => zz_kI hw (fun x340 hw => ?_)) (fun _ _ _ h9 => h9.elim) rfl
                                            refine zz_istore (lv' := [(5, .int x340), (0, va_rf v0), (1, va_rf v1), (2, va_rf v2), (3, va_rf v3), (4, .int v4)]) C dL_law_1114 (by decide) rfl ?_
                                            refine zz_aload_n C dL_law_1116 rfl 3 rfl ?_
                                            refine zz_aload_n C dL_law_1117 rfl 1 rfl ?_
                                            refine zz_iload C dL_law_1118 5 rfl ?_
                                            refine zz_iconst (v := (1 : Int32)) C dL_law_1120 (by decide) ?_
                                            refine zz_iadd C dL_law_1121 ?_
                                            refine zz_iald C dL_law_1122 hw (fun x341 hw => ?_)
                                            obtain ⟨a9, t9, b9, fs9, hro, hL, rfl, hw⟩ := ztyS hw
                                            refine zz_callV (r := (zR_16, zT_16, 24)) (As := [.int x341]) (rest := []) (mc := 0) (ms := 0) C hR hro dL_law_1123 (Or.inl q2847) q2848 (Or.inl q2849) zl_DebateHallModel zk_X4_byteAt (Or.inl rfl) zy_X4_byteAt rfl (by decide) (by decide) hL (ok_X4_byteAt (zz_hl C) hw) (Nat.zero_le _) (Nat.zero_le _) (zz_cat10 _ (Nat.le_of_ble_eq_true rfl)) (fun r342 M343 hw => zz_kI hw (fun x346 hw => ?_)) (fun _ _ _ h9 => h9.elim) rfl
                                            refine zz_istore (lv' := [(6, .int x346), (5, .int x340), (0, va_rf v0), (1, va_rf v1), (2, va_rf v2), (3, va_rf v3), (4, .int v4)]) C dL_law_1126 (by decide) rfl ?_
                                            refine zz_aload_n C dL_law_1128 rfl 4 rfl ?_
                                            obtain ⟨a9, t9, b9, fs9, hro, hL, rfl, hw⟩ := ztyS hw
                                            refine zz_callV (r := (zR_16, zT_16, 24)) (As := []) (rest := []) (mc := 0) (ms := 0) C hR hro dL_law_1129 (Or.inl q2509) q2510 (Or.inl q2511) zl_DebateHallModel zk_X4_thrown (Or.inl rfl) zy_X4_thrown rfl (by decide) (by decide) hL (ok_X4_thrown (zz_hl C) hw) (Nat.zero_le _) (Nat.zero_le _) (zz_cat10 _ (Nat.le_of_ble_eq_true rfl)) (fun r347 M348 hw => zz_kI hw (fun x351 hw => ?_)) (fun _ _ _ h9 => h9.elim) rfl
                                            refine zz_iload C dL_law_1132 1 rfl ?_
                                            refine zz_icmp_eq (tgt := 1139) C dL_law_1134 (by decide) hw (fun hw => ?_) (fun hw => ?_)
                                            · refine zz_iload C dL_law_1139 1 rfl ?_
                                              refine zz_if_ne (tgt := 1156) C dL_law_1141 (by decide) hw (fun hw => ?_) (fun hw => ?_)
                                              · refine zz_subP [2, 3, 4, 5, 6] rfl ?_
                                                exact ok_L_law_B1156 C E hH hR (fun z0 z1 z2 z3 z4 z5 z6 z7 hw => ih z0 z1 z2 z3 z4 z5 z6 z7 hw) hw
                                              · refine zz_aload_n C dL_law_1144 rfl 5 rfl ?_
                                                refine zz_iconst (v := (0 : Int32)) C dL_law_1145 (by decide) ?_
                                                refine zz_lald C dL_law_1146 hw (fun x352 hw => ?_)
                                                refine zz_iload C dL_law_1147 0 rfl ?_
                                                refine zz_i2l C dL_law_1149 ?_
                                                refine zz_lcmp C dL_law_1150 ?_
                                                refine zz_if_eq (tgt := 1156) C dL_law_1151 (by decide) hw (fun hw => ?_) (fun hw => ?_)
                                                · refine zz_subP [2, 3, 4, 5, 6] rfl ?_
                                                  exact ok_L_law_B1156 C E hH hR (fun z0 z1 z2 z3 z4 z5 z6 z7 hw => ih z0 z1 z2 z3 z4 z5 z6 z7 hw) hw
                                                · refine zz_iconst (v := (0 : Int32)) C dL_law_1154 (by decide) ?_
                                                  exact zz_zret C E dL_law_1155 hw
                                            · refine zz_iconst (v := (0 : Int32)) C dL_law_1137 (by decide) ?_
                                              exact zz_zret C E dL_law_1138 hw
                                          · replace hw := zz_ifn e18 hw
                                            by_cases e19 : (x22 &&& (31 : Int32)) = (19 : Int32)
                                            · replace hw := zz_ifp e19 hw
                                              refine zz_tin (j := 19) (off := 1119) (tgt := 1159) C dL_law_40 e19 (by decide) (by decide) (by decide) rfl (by decide) ?_
                                              refine zz_aload_n C dL_law_1159 rfl 1 rfl ?_
                                              obtain ⟨a9, t9, b9, fs9, hro, hL, rfl, hw⟩ := ztyS hw
                                              obtain ⟨c9, s9, hc9, hs9, hw⟩ := hw
                                              refine zz_callV (r := (zR_0, zT_0, 4)) (As := []) (rest := []) C hR hro dL_law_1160 (Or.inl q2112) q2113 (Or.inl q2114) zl_DebateHall zk_X1_share (Or.inl rfl) zy_X1_share rfl (by decide) (by decide) hL (ok_X1_share (zz_hl C) hw) hc9 hs9 (zz_cat10 _ (Nat.le_of_ble_eq_true rfl)) (fun r353 M354 hw => zz_kD hw (fun x357 hw => ?_)) (fun _ _ _ h9 => h9.elim) rfl
                                              refine zz_dstore (lv' := [(5, .double x357), (0, va_rf v0), (1, va_rf v1), (2, va_rf v2), (3, va_rf v3), (4, .int v4)]) C dL_law_1163 (by decide) rfl ?_
                                              refine zz_aload_n C dL_law_1165 rfl 3 rfl ?_
                                              obtain ⟨a9, t9, b9, fs9, hro, hL, rfl, hw⟩ := ztyS hw
                                              refine zz_callV (r := (zR_16, zT_16, 24)) (As := []) (rest := []) (mc := 0) (ms := 0) C hR hro dL_law_1166 (Or.inl q2851) q2852 (Or.inl q2853) zl_DebateHallModel zk_X4_share (Or.inl rfl) zy_X4_share rfl (by decide) (by decide) hL (ok_X4_share (zz_hl C) hw) (Nat.zero_le _) (Nat.zero_le _) (zz_cat10 _ (Nat.le_of_ble_eq_true rfl)) (fun r358 M359 hw => zz_kD hw (fun x362 hw => ?_)) (fun _ _ _ h9 => h9.elim) rfl
                                              refine zz_dstore (lv' := [(7, .double x362), (5, .double x357), (0, va_rf v0), (1, va_rf v1), (2, va_rf v2), (3, va_rf v3), (4, .int v4)]) C dL_law_1169 (by decide) rfl ?_
                                              refine zz_dload C dL_law_1171 1 rfl ?_
                                              refine zz_dload C dL_law_1173 0 rfl ?_
                                              refine zz_dcmp C dL_law_1175 ?_
                                              refine zz_if_eq (tgt := 1197) C dL_law_1176 (by decide) hw (fun hw => ?_) (fun hw => ?_)
                                              · refine zz_subP [2, 3, 4, 5, 6] rfl ?_
                                                exact ok_L_law_B1197 C E hH hR (fun z0 z1 z2 z3 z4 z5 z6 z7 hw => ih z0 z1 z2 z3 z4 z5 z6 z7 hw) hw
                                              · refine zz_dload C dL_law_1179 1 rfl ?_
                                                refine zz_dload C dL_law_1181 1 rfl ?_
                                                refine zz_dcmp C dL_law_1183 ?_
                                                refine zz_if_eq (tgt := 1195) C dL_law_1184 (by decide) hw (fun hw => ?_) (fun hw => ?_)
                                                · refine zz_subP [] rfl ?_
                                                  exact ok_L_law_B1195 C E hH hR hw
                                                · refine zz_dload C dL_law_1187 0 rfl ?_
                                                  refine zz_dload C dL_law_1189 0 rfl ?_
                                                  refine zz_dcmp C dL_law_1191 ?_
                                                  refine zz_if_ne (tgt := 1197) C dL_law_1192 (by decide) hw (fun hw => ?_) (fun hw => ?_)
                                                  · refine zz_subP [2, 3, 4, 5, 6] rfl ?_
                                                    exact ok_L_law_B1197 C E hH hR (fun z0 z1 z2 z3 z4 z5 z6 z7 hw => ih z0 z1 z2 z3 z4 z5 z6 z7 hw) hw
                                                  · refine zz_subP [] rfl ?_
                                                    exact ok_L_law_B1195 C E hH hR hw
                                            · replace hw := zz_ifn e19 hw
                                              by_cases e20 : (x22 &&& (31 : Int32)) = (20 : Int32)
                                              · replace hw := zz_ifp e20 hw
                                                refine zz_tin (j := 20) (off := 1160) (tgt := 1200) C dL_law_40 e20 (by decide) (by decide) (by decide) rfl (by decide) ?_
                                                refine zz_aload_n C dL_law_1200 rfl 1 rfl ?_
                                                obtain ⟨a9, t9, b9, fs9, hro, hL, rfl, hw⟩ := ztyS hw
                                                obtain ⟨c9, s9, hc9, hs9, hw⟩ := hw
                                                refine zz_callV (r := (zR_0, zT_0, 4)) (As := []) (rest := []) C hR hro dL_law_1201 (Or.inl q2122) q2123 (Or.inl q2124) zl_DebateHall zk_X1_digest (Or.inl rfl) zy_X1_digest rfl (by decide) (by decide) hL (ok_X1_digest (zz_hl C) hw) hc9 hs9 (zz_cat10 _ (Nat.le_of_ble_eq_true rfl)) (fun r363 M364 hw => zz_kJ hw (fun x367 hw => ?_)) (fun t9 q373 M374 hx => ?_) rfl
                                                · refine zz_aload_n C dL_law_1204 rfl 2 rfl ?_
                                                  obtain ⟨a9, t9, b9, fs9, hro, hL, rfl, hw⟩ := ztyS hw
                                                  obtain ⟨c9, s9, hc9, hs9, hw⟩ := hw
                                                  refine zz_callV (r := (zR_16, zT_16, 24)) (As := []) (rest := [.long x367]) C hR hro dL_law_1205 (Or.inl q2855) q2856 (Or.inl q2857) zl_DebateHallModel zk_X4_digest (Or.inl rfl) zy_X4_digest rfl (by decide) (by decide) hL (ok_X4_digest (zz_hl C) hw) hc9 hs9 (zz_cat10 _ (Nat.le_of_ble_eq_true rfl)) (fun r368 M369 hw => zz_kJ hw (fun x372 hw => ?_)) (fun _ _ _ h9 => h9.elim) rfl
                                                  refine zz_lcmp C dL_law_1208 ?_
                                                  refine zz_if_eq (tgt := 1214) C dL_law_1209 (by decide) hw (fun hw => ?_) (fun hw => ?_)
                                                  · refine zz_subP [0, 1, 2, 3, 4] rfl ?_
                                                    exact ok_L_law_B1214 C E hH hR (fun z0 z1 z2 z3 z4 z5 z6 z7 hw => ih z0 z1 z2 z3 z4 z5 z6 z7 hw) hw
                                                  · refine zz_iconst (v := (0 : Int32)) C dL_law_1212 (by decide) ?_
                                                    exact zz_zret C E dL_law_1213 hw
                                                · exact hx.elim
                                              · replace hw := zz_ifn e20 hw
                                                refine zz_tout (tgt := 1214) C dL_law_40 (by decide) (by decide) (fun j hj => ?_) ?_
                                                · match j, hj with
                                                  | 0, _ => exact Or.inl (zz_ne e0 (by decide))
                                                  | 1, _ => exact Or.inl (zz_ne e1 (by decide))
                                                  | 2, _ => exact Or.inl (zz_ne e2 (by decide))
                                                  | 3, _ => exact Or.inl (zz_ne e3 (by decide))
                                                  | 4, _ => exact Or.inl (zz_ne e4 (by decide))
                                                  | 5, _ => exact Or.inl (zz_ne e5 (by decide))
                                                  | 6, _ => exact Or.inl (zz_ne e6 (by decide))
                                                  | 7, _ => exact Or.inl (zz_ne e7 (by decide))
                                                  | 8, _ => exact Or.inl (zz_ne e8 (by decide))
                                                  | 9, _ => exact Or.inl (zz_ne e9 (by decide))
                                                  | 10, _ => exact Or.inl (zz_ne e10 (by decide))
                                                  | 11, _ => exact Or.inl (zz_ne e11 (by decide))
                                                  | 12, _ => exact Or.inl (zz_ne e12 (by decide))
                                                  | 13, _ => exact Or.inl (zz_ne e13 (by decide))
                                                  | 14, _ => exact Or.inl (zz_ne e14 (by decide))
                                                  | 15, _ => exact Or.inl (zz_ne e15 (by decide))
                                                  | 16, _ => exact Or.inl (zz_ne e16 (by decide))
                                                  | 17, _ => exact Or.inl (zz_ne e17 (by decide))
                                                  | 18, _ => exact Or.inl (zz_ne e18 (by decide))
                                                  | 19, _ => exact Or.inl (zz_ne e19 (by decide))
                                                  | 20, _ => exact Or.inl (zz_ne e20 (by decide))
                                                  | n + 21, hj => exact absurd hj (Nat.not_lt.mpr (Nat.le_add_left _ _))
                                                · refine zz_subP [0, 1, 2, 3, 4] rfl ?_
                                                  exact ok_L_law_B1214 C E hH hR (fun z0 z1 z2 z3 z4 z5 z6 z7 hw => ih z0 z1 z2 z3 z4 z5 z6 z7 hw) hw
theorem okw_L_law {G : zzX} (C : zz_C G cL_law "DebateHallLaw" 9) {K : Option Value → zzM → Prop} (E : zz_E G (some .boolean) K (fun _ _ _ => False)) (hH : True) (hR : zz_Rm G 139) {p0 : Option Nat} {M : zzM} {bc bs : Nat} (hw : wp_L_law (zz_Zof G) p0 M bc bs K) : zz_T G 9 M bc bs 0 [(0, va_rf p0)] [] := by
  unfold wp_L_law at hw
  refine zz_new (r := (zR_0, zT_0, 4)) C dL_law_0 rfl (by decide) q140 q141 zl_DebateHall rfl hw (fun q1 M2 bc3 bs4 hw => ?_)
  refine zz_dup C dL_law_3 (zz_cat _) ?_
  obtain ⟨c9, s9, hc9, hs9, hw⟩ := hw
  refine zz_callI (As := []) (rest := [va_rf (some q1)]) C hR rfl dL_law_4 (Or.inl q142) q143 zl_DebateHall zk_X1_init rfl zy_X1_init (by decide) (by decide) (ok_X1_init (zz_hl C) hw) hc9 hs9 (zz_cat10 _ (Nat.le_of_ble_eq_true rfl)) (fun r5 M6 hw => zz_kV hw (fun hw => ?_)) (fun _ _ _ h9 => h9.elim) rfl
  refine zz_astore_n (i := 1) (lv' := [(1, va_rf (some q1)), (0, va_rf p0)]) C dL_law_7 rfl (by decide) (by simp [zz_cat, zz_catI, zz_catJ, zz_catD]) ?_
  refine zz_new (r := (zR_16, zT_16, 24)) C dL_law_8 rfl (by decide) q2375 q2376 zl_DebateHallModel rfl hw (fun q9 M10 bc11 bs12 hw => ?_)
  refine zz_dup C dL_law_11 (zz_cat _) ?_
  obtain ⟨c9, s9, hc9, hs9, hw⟩ := hw
  refine zz_callI (As := []) (rest := [va_rf (some q9)]) C hR rfl dL_law_12 (Or.inl q2377) q2378 zl_DebateHallModel zk_X4_init rfl zy_X4_init (by decide) (by decide) (ok_X4_init (zz_hl C) hw) hc9 hs9 (zz_cat10 _ (Nat.le_of_ble_eq_true rfl)) (fun r13 M14 hw => zz_kV hw (fun hw => ?_)) (fun _ _ _ h9 => h9.elim) rfl
  refine zz_astore_n (i := 2) (lv' := [(2, va_rf (some q9)), (1, va_rf (some q1)), (0, va_rf p0)]) C dL_law_15 rfl (by decide) (by simp [zz_cat, zz_catI, zz_catJ, zz_catD]) ?_
  refine zz_iconst (v := (1 : Int32)) C dL_law_16 (by decide) ?_
  refine zz_newar (t := 102) (ty := .long) C dL_law_17 rfl rfl (by decide) (fun _ _ h9 => h9) rfl q2435 hw (fun q17 M18 bc19 bs20 hw => ?_)
  refine zz_astore_n (i := 3) (lv' := [(3, va_rf (some q17)), (2, va_rf (some q9)), (1, va_rf (some q1)), (0, va_rf p0)]) C dL_law_19 rfl (by decide) (by simp [zz_cat, zz_catI, zz_catJ, zz_catD]) ?_
  refine zz_iconst (v := (0 : Int32)) C dL_law_20 (by decide) ?_
  refine zz_istore (lv' := [(4, .int (0 : Int32)), (3, va_rf (some q17)), (2, va_rf (some q9)), (1, va_rf (some q1)), (0, va_rf p0)]) C dL_law_21 (by decide) (by simp [zz_cat, zz_catI, zz_catJ, zz_catD]) ?_
  refine zz_subP [4, 3, 2, 1, 0] rfl ?_
  obtain ⟨n23, hw⟩ := hw
  exact ok_L_law_L23 C E hH hR n23 _ _ _ _ _ _ _ _ hw
