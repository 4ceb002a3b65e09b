/-! the law's own entry -/
set_option maxRecDepth 100000
abbrev cL_law : ByteArray := code
def dkwL_law_52 : List UInt8 := [167, 250, 202, 4, 172]
abbrev dktL_law_52 : List UInt8 := dkwL_law_52 ++ []
def dkwL_law_51 : List UInt8 := [96, 46, 42, 29, 7, 96, 46, 42, 29, 8, 96, 46, 182, 0, 171, 159, 0, 5, 3, 172, 132, 3, 6]
abbrev dktL_law_51 : List UInt8 := dkwL_law_51 ++ dktL_law_52
def dkwL_law_50 : List UInt8 := [96, 46, 42, 29, 8, 96, 46, 182, 0, 168, 44, 42, 29, 4, 96, 46, 42, 29, 5, 96, 46, 42, 29, 6]
abbrev dktL_law_50 : List UInt8 := dkwL_law_50 ++ dktL_law_51
def dkwL_law_49 : List UInt8 := [159, 0, 68, 3, 172, 43, 42, 29, 4, 96, 46, 42, 29, 5, 96, 46, 42, 29, 6, 96, 46, 42, 29, 7]
abbrev dktL_law_49 : List UInt8 := dkwL_law_49 ++ dktL_law_50
def dkwL_law_48 : List UInt8 := [42, 29, 7, 96, 46, 133, 16, 32, 121, 42, 29, 8, 96, 46, 133, 20, 0, 118, 127, 129, 182, 0, 167]
abbrev dktL_law_48 : List UInt8 := dkwL_law_48 ++ dktL_law_49
def dkwL_law_47 : List UInt8 := [20, 0, 118, 127, 129, 182, 0, 163, 44, 42, 29, 4, 96, 46, 42, 29, 5, 96, 46, 42, 29, 6, 96, 46]
abbrev dktL_law_47 : List UInt8 := dkwL_law_47 ++ dktL_law_48
def dkwL_law_46 : List UInt8 := [29, 5, 96, 46, 42, 29, 6, 96, 46, 42, 29, 7, 96, 46, 133, 16, 32, 121, 42, 29, 8, 96, 46, 133]
abbrev dktL_law_46 : List UInt8 := dkwL_law_46 ++ dktL_law_47
def dkwL_law_45 : List UInt8 := [182, 0, 159, 44, 42, 29, 4, 96, 46, 182, 0, 162, 159, 0, 151, 3, 172, 43, 42, 29, 4, 96, 46, 42]
abbrev dktL_law_45 : List UInt8 := dkwL_law_45 ++ dktL_law_46
def dkwL_law_44 : List UInt8 := [42, 29, 5, 96, 46, 42, 29, 6, 96, 46, 182, 0, 158, 159, 0, 174, 3, 172, 43, 42, 29, 4, 96, 46]
abbrev dktL_law_44 : List UInt8 := dkwL_law_44 ++ dktL_law_45
def dkwL_law_43 : List UInt8 := [42, 29, 4, 96, 46, 42, 29, 5, 96, 46, 42, 29, 6, 96, 46, 182, 0, 155, 44, 42, 29, 4, 96, 46]
abbrev dktL_law_43 : List UInt8 := dkwL_law_43 ++ dktL_law_44
def dkwL_law_42 : List UInt8 := [42, 29, 5, 96, 46, 42, 29, 6, 96, 46, 42, 29, 7, 96, 46, 182, 0, 154, 159, 0, 217, 3, 172, 43]
abbrev dktL_law_42 : List UInt8 := dkwL_law_42 ++ dktL_law_43
def dkwL_law_41 : List UInt8 := [42, 29, 5, 96, 46, 42, 29, 6, 96, 46, 42, 29, 7, 96, 46, 182, 0, 150, 44, 42, 29, 4, 96, 46]
abbrev dktL_law_41 : List UInt8 := dkwL_law_41 ++ dktL_law_42
def dkwL_law_40 : List UInt8 := [42, 29, 5, 96, 46, 42, 29, 6, 96, 46, 182, 0, 149, 159, 1, 14, 3, 172, 43, 42, 29, 4, 96, 46]
abbrev dktL_law_40 : List UInt8 := dkwL_law_40 ++ dktL_law_41
def dkwL_law_39 : List UInt8 := [42, 29, 4, 96, 46, 42, 29, 5, 96, 46, 42, 29, 6, 96, 46, 182, 0, 146, 44, 42, 29, 4, 96, 46]
abbrev dktL_law_39 : List UInt8 := dkwL_law_39 ++ dktL_law_40
def dkwL_law_38 : List UInt8 := [42, 29, 6, 96, 46, 42, 29, 7, 96, 46, 42, 29, 8, 96, 46, 182, 0, 145, 159, 1, 57, 3, 172, 43]
abbrev dktL_law_38 : List UInt8 := dkwL_law_38 ++ dktL_law_39
def dkwL_law_37 : List UInt8 := [42, 29, 7, 96, 46, 42, 29, 8, 96, 46, 182, 0, 141, 44, 42, 29, 4, 96, 46, 42, 29, 5, 96, 46]
abbrev dktL_law_37 : List UInt8 := dkwL_law_37 ++ dktL_law_38
def dkwL_law_36 : List UInt8 := [182, 0, 140, 159, 1, 120, 3, 172, 43, 42, 29, 4, 96, 46, 42, 29, 5, 96, 46, 42, 29, 6, 96, 46]
abbrev dktL_law_36 : List UInt8 := dkwL_law_36 ++ dktL_law_37
def dkwL_law_35 : List UInt8 := [159, 1, 146, 3, 172, 43, 182, 0, 133, 44, 182, 0, 136, 159, 1, 133, 3, 172, 43, 182, 0, 137, 44]
abbrev dktL_law_35 : List UInt8 := dkwL_law_35 ++ dktL_law_36
def dkwL_law_34 : List UInt8 := [159, 1, 169, 3, 172, 43, 42, 29, 4, 96, 46, 182, 0, 129, 44, 42, 29, 4, 96, 46, 182, 0, 132]
abbrev dktL_law_34 : List UInt8 := dkwL_law_34 ++ dktL_law_35
def dkwL_law_33 : List UInt8 := [153, 1, 192, 3, 172, 43, 42, 29, 4, 96, 46, 182, 0, 125, 44, 42, 29, 4, 96, 46, 182, 0, 128]
abbrev dktL_law_33 : List UInt8 := dkwL_law_33 ++ dktL_law_34
def dkwL_law_32 : List UInt8 := [20, 0, 118, 127, 129, 42, 29, 6, 96, 46, 42, 29, 7, 96, 46, 42, 29, 8, 96, 46, 182, 0, 124, 148]
abbrev dktL_law_32 : List UInt8 := dkwL_law_32 ++ dktL_law_33
def dkwL_law_31 : List UInt8 := [42, 29, 8, 96, 46, 182, 0, 120, 44, 42, 29, 4, 96, 46, 133, 16, 32, 121, 42, 29, 5, 96, 46, 133]
abbrev dktL_law_31 : List UInt8 := dkwL_law_31 ++ dktL_law_32
def dkwL_law_30 : List UInt8 := [16, 32, 121, 42, 29, 5, 96, 46, 133, 20, 0, 118, 127, 129, 42, 29, 6, 96, 46, 42, 29, 7, 96, 46]
abbrev dktL_law_30 : List UInt8 := dkwL_law_30 ++ dktL_law_31
def dkwL_law_29 : List UInt8 := [182, 0, 114, 44, 42, 29, 4, 96, 46, 182, 0, 117, 159, 2, 20, 3, 172, 43, 42, 29, 4, 96, 46, 133]
abbrev dktL_law_29 : List UInt8 := dkwL_law_29 ++ dktL_law_30
def dkwL_law_28 : List UInt8 := [182, 0, 110, 44, 42, 29, 4, 96, 46, 182, 0, 113, 159, 2, 43, 3, 172, 43, 42, 29, 4, 96, 46]
abbrev dktL_law_28 : List UInt8 := dkwL_law_28 ++ dktL_law_29
def dkwL_law_27 : List UInt8 := [29, 4, 96, 46, 42, 29, 5, 96, 46, 182, 0, 109, 159, 2, 66, 3, 172, 43, 42, 29, 4, 96, 46]
abbrev dktL_law_27 : List UInt8 := dkwL_law_27 ++ dktL_law_28
def dkwL_law_26 : List UInt8 := [182, 0, 105, 159, 2, 99, 3, 172, 43, 42, 29, 4, 96, 46, 42, 29, 5, 96, 46, 182, 0, 106, 44, 42]
abbrev dktL_law_26 : List UInt8 := dkwL_law_26 ++ dktL_law_27
def dkwL_law_25 : List UInt8 := [182, 0, 101, 159, 2, 122, 3, 172, 43, 42, 29, 4, 96, 46, 182, 0, 102, 44, 42, 29, 4, 96, 46]
abbrev dktL_law_25 : List UInt8 := dkwL_law_25 ++ dktL_law_26
def dkwL_law_24 : List UInt8 := [42, 29, 5, 96, 46, 42, 29, 6, 96, 46, 182, 0, 97, 159, 2, 135, 3, 172, 43, 182, 0, 98, 44]
abbrev dktL_law_24 : List UInt8 := dkwL_law_24 ++ dktL_law_25
def dkwL_law_23 : List UInt8 := [42, 29, 4, 96, 46, 42, 29, 5, 96, 46, 42, 29, 6, 96, 46, 182, 0, 93, 44, 42, 29, 4, 96, 46]
abbrev dktL_law_23 : List UInt8 := dkwL_law_23 ++ dktL_law_24
def dkwL_law_22 : List UInt8 := [46, 182, 0, 89, 44, 42, 29, 4, 96, 46, 42, 29, 5, 96, 46, 182, 0, 92, 159, 2, 178, 3, 172, 43]
abbrev dktL_law_22 : List UInt8 := dkwL_law_22 ++ dktL_law_23
def dkwL_law_21 : List UInt8 := [46, 42, 29, 5, 96, 46, 182, 0, 88, 159, 2, 211, 3, 172, 43, 42, 29, 4, 96, 46, 42, 29, 5, 96]
abbrev dktL_law_21 : List UInt8 := dkwL_law_21 ++ dktL_law_22
def dkwL_law_20 : List UInt8 := [159, 2, 244, 3, 172, 43, 42, 29, 4, 96, 46, 42, 29, 5, 96, 46, 182, 0, 85, 44, 42, 29, 4, 96]
abbrev dktL_law_20 : List UInt8 := dkwL_law_20 ++ dktL_law_21
def dkwL_law_19 : List UInt8 := [159, 3, 11, 3, 172, 43, 42, 29, 4, 96, 46, 182, 0, 81, 44, 42, 29, 4, 96, 46, 182, 0, 84]
abbrev dktL_law_19 : List UInt8 := dkwL_law_19 ++ dktL_law_20
def dkwL_law_18 : List UInt8 := [159, 3, 34, 3, 172, 43, 42, 29, 4, 96, 46, 182, 0, 77, 44, 42, 29, 4, 96, 46, 182, 0, 80]
abbrev dktL_law_18 : List UInt8 := dkwL_law_18 ++ dktL_law_19
def dkwL_law_17 : List UInt8 := [46, 42, 29, 5, 96, 46, 182, 0, 73, 44, 42, 29, 4, 96, 46, 42, 29, 5, 96, 46, 182, 0, 76]
abbrev dktL_law_17 : List UInt8 := dkwL_law_17 ++ dktL_law_18
def dkwL_law_16 : List UInt8 := [42, 29, 4, 96, 46, 42, 29, 5, 96, 46, 182, 0, 72, 148, 153, 3, 67, 3, 172, 43, 42, 29, 4, 96]
abbrev dktL_law_16 : List UInt8 := dkwL_law_16 ++ dktL_law_17
def dkwL_law_15 : List UInt8 := [46, 182, 0, 67, 159, 3, 101, 3, 172, 43, 42, 29, 4, 96, 46, 42, 29, 5, 96, 46, 182, 0, 68, 44]
abbrev dktL_law_15 : List UInt8 := dkwL_law_15 ++ dktL_law_16
def dkwL_law_14 : List UInt8 := [43, 42, 29, 4, 96, 46, 42, 29, 5, 96, 46, 182, 0, 64, 44, 42, 29, 4, 96, 46, 42, 29, 5, 96]
abbrev dktL_law_14 : List UInt8 := dkwL_law_14 ++ dktL_law_15
def dkwL_law_13 : List UInt8 := [172, 43, 42, 29, 4, 96, 46, 182, 0, 60, 44, 42, 29, 4, 96, 46, 182, 0, 63, 159, 3, 134, 3, 172]
abbrev dktL_law_13 : List UInt8 := dkwL_law_13 ++ dktL_law_14
def dkwL_law_12 : List UInt8 := [182, 0, 52, 44, 182, 0, 55, 159, 3, 170, 3, 172, 43, 182, 0, 56, 44, 182, 0, 59, 159, 3, 157, 3]
abbrev dktL_law_12 : List UInt8 := dkwL_law_12 ++ dktL_law_13
def dkwL_law_11 : List UInt8 := [182, 0, 47, 159, 3, 196, 3, 172, 43, 182, 0, 48, 44, 182, 0, 51, 159, 3, 183, 3, 172, 43]
abbrev dktL_law_11 : List UInt8 := dkwL_law_11 ++ dktL_law_12
def dkwL_law_10 : List UInt8 := [182, 0, 43, 159, 3, 219, 3, 172, 43, 42, 29, 4, 96, 46, 182, 0, 44, 44, 42, 29, 4, 96, 46]
abbrev dktL_law_10 : List UInt8 := dkwL_law_10 ++ dktL_law_11
def dkwL_law_9 : List UInt8 := [4, 96, 46, 42, 29, 5, 96, 46, 182, 0, 40, 44, 42, 29, 4, 96, 46, 42, 29, 5, 96, 46]
abbrev dktL_law_9 : List UInt8 := dkwL_law_9 ++ dktL_law_10
def dkwL_law_8 : List UInt8 := [29, 4, 96, 46, 182, 0, 36, 44, 42, 29, 4, 96, 46, 182, 0, 39, 159, 3, 252, 3, 172, 43, 42, 29]
abbrev dktL_law_8 : List UInt8 := dkwL_law_8 ++ dktL_law_9
def dkwL_law_7 : List UInt8 := [182, 0, 31, 44, 42, 29, 4, 96, 46, 42, 29, 5, 96, 46, 182, 0, 35, 159, 4, 19, 3, 172, 43, 42]
abbrev dktL_law_7 : List UInt8 := dkwL_law_7 ++ dktL_law_8
def dkwL_law_6 : List UInt8 := [182, 0, 26, 44, 182, 0, 30, 159, 4, 52, 3, 172, 43, 42, 29, 4, 96, 46, 42, 29, 5, 96, 46]
abbrev dktL_law_6 : List UInt8 := dkwL_law_6 ++ dktL_law_7
def dkwL_law_5 : List UInt8 := [29, 4, 96, 46, 182, 0, 22, 44, 42, 29, 4, 96, 46, 182, 0, 25, 159, 4, 65, 3, 172, 43]
abbrev dktL_law_5 : List UInt8 := dkwL_law_5 ++ dktL_law_6
def dkwL_law_4 : List UInt8 := [42, 29, 4, 96, 46, 182, 0, 18, 44, 42, 29, 4, 96, 46, 182, 0, 21, 159, 4, 88, 3, 172, 43, 42]
abbrev dktL_law_4 : List UInt8 := dkwL_law_4 ++ dktL_law_5
def dkwL_law_3 : List UInt8 := [43, 42, 29, 4, 96, 46, 182, 0, 13, 44, 42, 29, 4, 96, 46, 182, 0, 17, 159, 4, 111, 3, 172, 43]
abbrev dktL_law_3 : List UInt8 := dkwL_law_3 ++ dktL_law_4
def dkwL_law_2 : List UInt8 := [170, 0, 0, 0, 0, 5, 36, 0, 0, 0, 0, 0, 0, 0, 36, 0, 0, 0, 163, 0, 0, 0, 186, 0, 0, 0, 209, 0, 0, 0, 232, 0, 0, 0, 245, 0, 0, 1, 22, 0, 0, 1, 45, 0, 0, 1, 78, 0, 0, 1, 101, 0, 0, 1, 114, 0, 0, 1, 127, 0, 0, 1, 140, 0, 0, 1, 163, 0, 0, 1, 196, 0, 0, 1, 230, 0, 0, 2, 7, 0, 0, 2, 30, 0, 0, 2, 53, 0, 0, 2, 86, 0, 0, 2, 119, 0, 0, 2, 162, 0, 0, 2, 175, 0, 0, 2, 198, 0, 0, 2, 231, 0, 0, 2, 254, 0, 0, 3, 21, 0, 0, 3, 105, 0, 0, 3, 128, 0, 0, 3, 151, 0, 0, 3, 164, 0, 0, 3, 177, 0, 0, 3, 240, 0, 0, 4, 27, 0, 0, 4, 80, 0, 0, 4, 123, 0, 0, 4, 146, 0, 0, 4, 229]
abbrev dktL_law_2 : List UInt8 := dkwL_law_2 ++ dktL_law_3
def dkwL_law_1 : List UInt8 := [163, 5, 51, 42, 29, 46, 16, 63, 126]
abbrev dktL_law_1 : List UInt8 := dkwL_law_1 ++ dktL_law_2
def dkwL_law_0 : List UInt8 := [187, 0, 7, 89, 183, 0, 9, 76, 187, 0, 10, 89, 183, 0, 12, 77, 3, 62, 29, 42, 190, 16, 6, 100]
abbrev dktL_law_0 : List UInt8 := dkwL_law_0 ++ dktL_law_1
theorem dksL_law_0 : cL_law.data.toList.drop 0 = dktL_law_0 := by decide +kernel
theorem dksL_law_1 : cL_law.data.toList.drop 24 = dktL_law_1 := dk_seg dksL_law_0 24 rfl rfl
theorem dksL_law_2 : cL_law.data.toList.drop 33 = dktL_law_2 := dk_seg dksL_law_1 9 rfl rfl
theorem dksL_law_3 : cL_law.data.toList.drop 196 = dktL_law_3 := dk_seg dksL_law_2 163 rfl rfl
theorem dksL_law_4 : cL_law.data.toList.drop 220 = dktL_law_4 := dk_seg dksL_law_3 24 rfl rfl
theorem dksL_law_5 : cL_law.data.toList.drop 244 = dktL_law_5 := dk_seg dksL_law_4 24 rfl rfl
theorem dksL_law_6 : cL_law.data.toList.drop 266 = dktL_law_6 := dk_seg dksL_law_5 22 rfl rfl
theorem dksL_law_7 : cL_law.data.toList.drop 289 = dktL_law_7 := dk_seg dksL_law_6 23 rfl rfl
theorem dksL_law_8 : cL_law.data.toList.drop 313 = dktL_law_8 := dk_seg dksL_law_7 24 rfl rfl
theorem dksL_law_9 : cL_law.data.toList.drop 337 = dktL_law_9 := dk_seg dksL_law_8 24 rfl rfl
theorem dksL_law_10 : cL_law.data.toList.drop 359 = dktL_law_10 := dk_seg dksL_law_9 22 rfl rfl
theorem dksL_law_11 : cL_law.data.toList.drop 382 = dktL_law_11 := dk_seg dksL_law_10 23 rfl rfl
theorem dksL_law_12 : cL_law.data.toList.drop 404 = dktL_law_12 := dk_seg dksL_law_11 22 rfl rfl
theorem dksL_law_13 : cL_law.data.toList.drop 428 = dktL_law_13 := dk_seg dksL_law_12 24 rfl rfl
theorem dksL_law_14 : cL_law.data.toList.drop 452 = dktL_law_14 := dk_seg dksL_law_13 24 rfl rfl
theorem dksL_law_15 : cL_law.data.toList.drop 476 = dktL_law_15 := dk_seg dksL_law_14 24 rfl rfl
theorem dksL_law_16 : cL_law.data.toList.drop 500 = dktL_law_16 := dk_seg dksL_law_15 24 rfl rfl
theorem dksL_law_17 : cL_law.data.toList.drop 524 = dktL_law_17 := dk_seg dksL_law_16 24 rfl rfl
theorem dksL_law_18 : cL_law.data.toList.drop 547 = dktL_law_18 := dk_seg dksL_law_17 23 rfl rfl
theorem dksL_law_19 : cL_law.data.toList.drop 570 = dktL_law_19 := dk_seg dksL_law_18 23 rfl rfl
theorem dksL_law_20 : cL_law.data.toList.drop 593 = dktL_law_20 := dk_seg dksL_law_19 23 rfl rfl
theorem dksL_law_21 : cL_law.data.toList.drop 617 = dktL_law_21 := dk_seg dksL_law_20 24 rfl rfl
theorem dksL_law_22 : cL_law.data.toList.drop 641 = dktL_law_22 := dk_seg dksL_law_21 24 rfl rfl
theorem dksL_law_23 : cL_law.data.toList.drop 665 = dktL_law_23 := dk_seg dksL_law_22 24 rfl rfl
theorem dksL_law_24 : cL_law.data.toList.drop 689 = dktL_law_24 := dk_seg dksL_law_23 24 rfl rfl
theorem dksL_law_25 : cL_law.data.toList.drop 712 = dktL_law_25 := dk_seg dksL_law_24 23 rfl rfl
theorem dksL_law_26 : cL_law.data.toList.drop 735 = dktL_law_26 := dk_seg dksL_law_25 23 rfl rfl
theorem dksL_law_27 : cL_law.data.toList.drop 759 = dktL_law_27 := dk_seg dksL_law_26 24 rfl rfl
theorem dksL_law_28 : cL_law.data.toList.drop 782 = dktL_law_28 := dk_seg dksL_law_27 23 rfl rfl
theorem dksL_law_29 : cL_law.data.toList.drop 805 = dktL_law_29 := dk_seg dksL_law_28 23 rfl rfl
theorem dksL_law_30 : cL_law.data.toList.drop 829 = dktL_law_30 := dk_seg dksL_law_29 24 rfl rfl
theorem dksL_law_31 : cL_law.data.toList.drop 853 = dktL_law_31 := dk_seg dksL_law_30 24 rfl rfl
theorem dksL_law_32 : cL_law.data.toList.drop 877 = dktL_law_32 := dk_seg dksL_law_31 24 rfl rfl
theorem dksL_law_33 : cL_law.data.toList.drop 901 = dktL_law_33 := dk_seg dksL_law_32 24 rfl rfl
theorem dksL_law_34 : cL_law.data.toList.drop 924 = dktL_law_34 := dk_seg dksL_law_33 23 rfl rfl
theorem dksL_law_35 : cL_law.data.toList.drop 947 = dktL_law_35 := dk_seg dksL_law_34 23 rfl rfl
theorem dksL_law_36 : cL_law.data.toList.drop 970 = dktL_law_36 := dk_seg dksL_law_35 23 rfl rfl
theorem dksL_law_37 : cL_law.data.toList.drop 994 = dktL_law_37 := dk_seg dksL_law_36 24 rfl rfl
theorem dksL_law_38 : cL_law.data.toList.drop 1018 = dktL_law_38 := dk_seg dksL_law_37 24 rfl rfl
theorem dksL_law_39 : cL_law.data.toList.drop 1042 = dktL_law_39 := dk_seg dksL_law_38 24 rfl rfl
theorem dksL_law_40 : cL_law.data.toList.drop 1066 = dktL_law_40 := dk_seg dksL_law_39 24 rfl rfl
theorem dksL_law_41 : cL_law.data.toList.drop 1090 = dktL_law_41 := dk_seg dksL_law_40 24 rfl rfl
theorem dksL_law_42 : cL_law.data.toList.drop 1114 = dktL_law_42 := dk_seg dksL_law_41 24 rfl rfl
theorem dksL_law_43 : cL_law.data.toList.drop 1138 = dktL_law_43 := dk_seg dksL_law_42 24 rfl rfl
theorem dksL_law_44 : cL_law.data.toList.drop 1162 = dktL_law_44 := dk_seg dksL_law_43 24 rfl rfl
theorem dksL_law_45 : cL_law.data.toList.drop 1186 = dktL_law_45 := dk_seg dksL_law_44 24 rfl rfl
theorem dksL_law_46 : cL_law.data.toList.drop 1210 = dktL_law_46 := dk_seg dksL_law_45 24 rfl rfl
theorem dksL_law_47 : cL_law.data.toList.drop 1234 = dktL_law_47 := dk_seg dksL_law_46 24 rfl rfl
theorem dksL_law_48 : cL_law.data.toList.drop 1258 = dktL_law_48 := dk_seg dksL_law_47 24 rfl rfl
theorem dksL_law_49 : cL_law.data.toList.drop 1281 = dktL_law_49 := dk_seg dksL_law_48 23 rfl rfl
theorem dksL_law_50 : cL_law.data.toList.drop 1305 = dktL_law_50 := dk_seg dksL_law_49 24 rfl rfl
theorem dksL_law_51 : cL_law.data.toList.drop 1329 = dktL_law_51 := dk_seg dksL_law_50 24 rfl rfl
theorem dksL_law_52 : cL_law.data.toList.drop 1352 = dktL_law_52 := dk_seg dksL_law_51 23 rfl rfl
theorem dL_law_0 : decode cL_law 0 = .ok (.new 7, 3) := dk_187 0 7 (dk_at dksL_law_0 0 rfl rfl)
theorem dL_law_3 : decode cL_law 3 = .ok (.dup, 1) := dk_89 (dk_at dksL_law_0 3 rfl rfl)
theorem dL_law_4 : decode cL_law 4 = .ok (.invokespecial 9, 3) := dk_183 0 9 (dk_at dksL_law_0 4 rfl rfl)
theorem dL_law_7 : decode cL_law 7 = .ok (.astore_n 1, 1) := dk_76 (dk_at dksL_law_0 7 rfl rfl)
theorem dL_law_8 : decode cL_law 8 = .ok (.new 10, 3) := dk_187 0 10 (dk_at dksL_law_0 8 rfl rfl)
theorem dL_law_11 : decode cL_law 11 = .ok (.dup, 1) := dk_89 (dk_at dksL_law_0 11 rfl rfl)
theorem dL_law_12 : decode cL_law 12 = .ok (.invokespecial 12, 3) := dk_183 0 12 (dk_at dksL_law_0 12 rfl rfl)
theorem dL_law_15 : decode cL_law 15 = .ok (.astore_n 2, 1) := dk_77 (dk_at dksL_law_0 15 rfl rfl)
theorem dL_law_16 : decode cL_law 16 = .ok (.iconst 0, 1) := dk_3 (dk_at dksL_law_0 16 rfl rfl)
theorem dL_law_17 : decode cL_law 17 = .ok (.istore_n 3, 1) := dk_62 (dk_at dksL_law_0 17 rfl rfl)
theorem dL_law_18 : decode cL_law 18 = .ok (.iload_n 3, 1) := dk_29 (dk_at dksL_law_0 18 rfl rfl)
theorem dL_law_19 : decode cL_law 19 = .ok (.aload_n 0, 1) := dk_42 (dk_at dksL_law_0 19 rfl rfl)
theorem dL_law_20 : decode cL_law 20 = .ok (.arraylength, 1) := dk_190 (dk_at dksL_law_0 20 rfl rfl)
theorem dL_law_21 : decode cL_law 21 = .ok (.bipush 6, 2) := dk_16 6 (dk_at dksL_law_0 21 rfl rfl)
theorem dL_law_23 : decode cL_law 23 = .ok (.isub, 1) := dk_100 (dk_at dksL_law_0 23 rfl rfl)
theorem dL_law_24 : decode cL_law 24 = .ok (.if_icmp .gt 1331, 3) := dk_163 5 51 (dk_at dksL_law_1 0 rfl rfl)
theorem dL_law_27 : decode cL_law 27 = .ok (.aload_n 0, 1) := dk_42 (dk_at dksL_law_1 3 rfl rfl)
theorem dL_law_28 : decode cL_law 28 = .ok (.iload_n 3, 1) := dk_29 (dk_at dksL_law_1 4 rfl rfl)
theorem dL_law_29 : decode cL_law 29 = .ok (.iaload, 1) := dk_46 (dk_at dksL_law_1 5 rfl rfl)
theorem dL_law_30 : decode cL_law 30 = .ok (.bipush 63, 2) := dk_16 63 (dk_at dksL_law_1 6 rfl rfl)
theorem dL_law_32 : decode cL_law 32 = .ok (.iand, 1) := dk_126 (dk_at dksL_law_1 8 rfl rfl)
theorem dL_law_33 : decode cL_law 33 = .ok (.tableswitch 1316 0 36 #[163, 186, 209, 232, 245, 278, 301, 334, 357, 370, 383, 396, 419, 452, 486, 519, 542, 565, 598, 631, 674, 687, 710, 743, 766, 789, 873, 896, 919, 932, 945, 1008, 1051, 1104, 1147, 1170, 1253], 163) := by decide +kernel
theorem dL_law_196 : decode cL_law 196 = .ok (.aload_n 1, 1) := dk_43 (dk_at dksL_law_3 0 rfl rfl)
theorem dL_law_197 : decode cL_law 197 = .ok (.aload_n 0, 1) := dk_42 (dk_at dksL_law_3 1 rfl rfl)
theorem dL_law_198 : decode cL_law 198 = .ok (.iload_n 3, 1) := dk_29 (dk_at dksL_law_3 2 rfl rfl)
theorem dL_law_199 : decode cL_law 199 = .ok (.iconst 1, 1) := dk_4 (dk_at dksL_law_3 3 rfl rfl)
theorem dL_law_200 : decode cL_law 200 = .ok (.iadd, 1) := dk_96 (dk_at dksL_law_3 4 rfl rfl)
theorem dL_law_201 : decode cL_law 201 = .ok (.iaload, 1) := dk_46 (dk_at dksL_law_3 5 rfl rfl)
theorem dL_law_202 : decode cL_law 202 = .ok (.invokevirtual 13, 3) := dk_182 0 13 (dk_at dksL_law_3 6 rfl rfl)
theorem dL_law_205 : decode cL_law 205 = .ok (.aload_n 2, 1) := dk_44 (dk_at dksL_law_3 9 rfl rfl)
theorem dL_law_206 : decode cL_law 206 = .ok (.aload_n 0, 1) := dk_42 (dk_at dksL_law_3 10 rfl rfl)
theorem dL_law_207 : decode cL_law 207 = .ok (.iload_n 3, 1) := dk_29 (dk_at dksL_law_3 11 rfl rfl)
theorem dL_law_208 : decode cL_law 208 = .ok (.iconst 1, 1) := dk_4 (dk_at dksL_law_3 12 rfl rfl)
theorem dL_law_209 : decode cL_law 209 = .ok (.iadd, 1) := dk_96 (dk_at dksL_law_3 13 rfl rfl)
theorem dL_law_210 : decode cL_law 210 = .ok (.iaload, 1) := dk_46 (dk_at dksL_law_3 14 rfl rfl)
theorem dL_law_211 : decode cL_law 211 = .ok (.invokevirtual 17, 3) := dk_182 0 17 (dk_at dksL_law_3 15 rfl rfl)
theorem dL_law_214 : decode cL_law 214 = .ok (.if_icmp .eq 1135, 3) := dk_159 4 111 (dk_at dksL_law_3 18 rfl rfl)
theorem dL_law_217 : decode cL_law 217 = .ok (.iconst 0, 1) := dk_3 (dk_at dksL_law_3 21 rfl rfl)
theorem dL_law_218 : decode cL_law 218 = .ok (.ireturn, 1) := dk_172 (dk_at dksL_law_3 22 rfl rfl)
theorem dL_law_219 : decode cL_law 219 = .ok (.aload_n 1, 1) := dk_43 (dk_at dksL_law_3 23 rfl rfl)
theorem dL_law_220 : decode cL_law 220 = .ok (.aload_n 0, 1) := dk_42 (dk_at dksL_law_4 0 rfl rfl)
theorem dL_law_221 : decode cL_law 221 = .ok (.iload_n 3, 1) := dk_29 (dk_at dksL_law_4 1 rfl rfl)
theorem dL_law_222 : decode cL_law 222 = .ok (.iconst 1, 1) := dk_4 (dk_at dksL_law_4 2 rfl rfl)
theorem dL_law_223 : decode cL_law 223 = .ok (.iadd, 1) := dk_96 (dk_at dksL_law_4 3 rfl rfl)
theorem dL_law_224 : decode cL_law 224 = .ok (.iaload, 1) := dk_46 (dk_at dksL_law_4 4 rfl rfl)
theorem dL_law_225 : decode cL_law 225 = .ok (.invokevirtual 18, 3) := dk_182 0 18 (dk_at dksL_law_4 5 rfl rfl)
theorem dL_law_228 : decode cL_law 228 = .ok (.aload_n 2, 1) := dk_44 (dk_at dksL_law_4 8 rfl rfl)
theorem dL_law_229 : decode cL_law 229 = .ok (.aload_n 0, 1) := dk_42 (dk_at dksL_law_4 9 rfl rfl)
theorem dL_law_230 : decode cL_law 230 = .ok (.iload_n 3, 1) := dk_29 (dk_at dksL_law_4 10 rfl rfl)
theorem dL_law_231 : decode cL_law 231 = .ok (.iconst 1, 1) := dk_4 (dk_at dksL_law_4 11 rfl rfl)
theorem dL_law_232 : decode cL_law 232 = .ok (.iadd, 1) := dk_96 (dk_at dksL_law_4 12 rfl rfl)
theorem dL_law_233 : decode cL_law 233 = .ok (.iaload, 1) := dk_46 (dk_at dksL_law_4 13 rfl rfl)
theorem dL_law_234 : decode cL_law 234 = .ok (.invokevirtual 21, 3) := dk_182 0 21 (dk_at dksL_law_4 14 rfl rfl)
theorem dL_law_237 : decode cL_law 237 = .ok (.if_icmp .eq 1112, 3) := dk_159 4 88 (dk_at dksL_law_4 17 rfl rfl)
theorem dL_law_240 : decode cL_law 240 = .ok (.iconst 0, 1) := dk_3 (dk_at dksL_law_4 20 rfl rfl)
theorem dL_law_241 : decode cL_law 241 = .ok (.ireturn, 1) := dk_172 (dk_at dksL_law_4 21 rfl rfl)
theorem dL_law_242 : decode cL_law 242 = .ok (.aload_n 1, 1) := dk_43 (dk_at dksL_law_4 22 rfl rfl)
theorem dL_law_243 : decode cL_law 243 = .ok (.aload_n 0, 1) := dk_42 (dk_at dksL_law_4 23 rfl rfl)
theorem dL_law_244 : decode cL_law 244 = .ok (.iload_n 3, 1) := dk_29 (dk_at dksL_law_5 0 rfl rfl)
theorem dL_law_245 : decode cL_law 245 = .ok (.iconst 1, 1) := dk_4 (dk_at dksL_law_5 1 rfl rfl)
theorem dL_law_246 : decode cL_law 246 = .ok (.iadd, 1) := dk_96 (dk_at dksL_law_5 2 rfl rfl)
theorem dL_law_247 : decode cL_law 247 = .ok (.iaload, 1) := dk_46 (dk_at dksL_law_5 3 rfl rfl)
theorem dL_law_248 : decode cL_law 248 = .ok (.invokevirtual 22, 3) := dk_182 0 22 (dk_at dksL_law_5 4 rfl rfl)
theorem dL_law_251 : decode cL_law 251 = .ok (.aload_n 2, 1) := dk_44 (dk_at dksL_law_5 7 rfl rfl)
theorem dL_law_252 : decode cL_law 252 = .ok (.aload_n 0, 1) := dk_42 (dk_at dksL_law_5 8 rfl rfl)
theorem dL_law_253 : decode cL_law 253 = .ok (.iload_n 3, 1) := dk_29 (dk_at dksL_law_5 9 rfl rfl)
theorem dL_law_254 : decode cL_law 254 = .ok (.iconst 1, 1) := dk_4 (dk_at dksL_law_5 10 rfl rfl)
theorem dL_law_255 : decode cL_law 255 = .ok (.iadd, 1) := dk_96 (dk_at dksL_law_5 11 rfl rfl)
theorem dL_law_256 : decode cL_law 256 = .ok (.iaload, 1) := dk_46 (dk_at dksL_law_5 12 rfl rfl)
theorem dL_law_257 : decode cL_law 257 = .ok (.invokevirtual 25, 3) := dk_182 0 25 (dk_at dksL_law_5 13 rfl rfl)
theorem dL_law_260 : decode cL_law 260 = .ok (.if_icmp .eq 1089, 3) := dk_159 4 65 (dk_at dksL_law_5 16 rfl rfl)
theorem dL_law_263 : decode cL_law 263 = .ok (.iconst 0, 1) := dk_3 (dk_at dksL_law_5 19 rfl rfl)
theorem dL_law_264 : decode cL_law 264 = .ok (.ireturn, 1) := dk_172 (dk_at dksL_law_5 20 rfl rfl)
theorem dL_law_265 : decode cL_law 265 = .ok (.aload_n 1, 1) := dk_43 (dk_at dksL_law_5 21 rfl rfl)
theorem dL_law_266 : decode cL_law 266 = .ok (.invokevirtual 26, 3) := dk_182 0 26 (dk_at dksL_law_6 0 rfl rfl)
theorem dL_law_269 : decode cL_law 269 = .ok (.aload_n 2, 1) := dk_44 (dk_at dksL_law_6 3 rfl rfl)
theorem dL_law_270 : decode cL_law 270 = .ok (.invokevirtual 30, 3) := dk_182 0 30 (dk_at dksL_law_6 4 rfl rfl)
theorem dL_law_273 : decode cL_law 273 = .ok (.if_icmp .eq 1076, 3) := dk_159 4 52 (dk_at dksL_law_6 7 rfl rfl)
theorem dL_law_276 : decode cL_law 276 = .ok (.iconst 0, 1) := dk_3 (dk_at dksL_law_6 10 rfl rfl)
theorem dL_law_277 : decode cL_law 277 = .ok (.ireturn, 1) := dk_172 (dk_at dksL_law_6 11 rfl rfl)
theorem dL_law_278 : decode cL_law 278 = .ok (.aload_n 1, 1) := dk_43 (dk_at dksL_law_6 12 rfl rfl)
theorem dL_law_279 : decode cL_law 279 = .ok (.aload_n 0, 1) := dk_42 (dk_at dksL_law_6 13 rfl rfl)
theorem dL_law_280 : decode cL_law 280 = .ok (.iload_n 3, 1) := dk_29 (dk_at dksL_law_6 14 rfl rfl)
theorem dL_law_281 : decode cL_law 281 = .ok (.iconst 1, 1) := dk_4 (dk_at dksL_law_6 15 rfl rfl)
theorem dL_law_282 : decode cL_law 282 = .ok (.iadd, 1) := dk_96 (dk_at dksL_law_6 16 rfl rfl)
theorem dL_law_283 : decode cL_law 283 = .ok (.iaload, 1) := dk_46 (dk_at dksL_law_6 17 rfl rfl)
theorem dL_law_284 : decode cL_law 284 = .ok (.aload_n 0, 1) := dk_42 (dk_at dksL_law_6 18 rfl rfl)
theorem dL_law_285 : decode cL_law 285 = .ok (.iload_n 3, 1) := dk_29 (dk_at dksL_law_6 19 rfl rfl)
theorem dL_law_286 : decode cL_law 286 = .ok (.iconst 2, 1) := dk_5 (dk_at dksL_law_6 20 rfl rfl)
theorem dL_law_287 : decode cL_law 287 = .ok (.iadd, 1) := dk_96 (dk_at dksL_law_6 21 rfl rfl)
theorem dL_law_288 : decode cL_law 288 = .ok (.iaload, 1) := dk_46 (dk_at dksL_law_6 22 rfl rfl)
theorem dL_law_289 : decode cL_law 289 = .ok (.invokevirtual 31, 3) := dk_182 0 31 (dk_at dksL_law_7 0 rfl rfl)
theorem dL_law_292 : decode cL_law 292 = .ok (.aload_n 2, 1) := dk_44 (dk_at dksL_law_7 3 rfl rfl)
theorem dL_law_293 : decode cL_law 293 = .ok (.aload_n 0, 1) := dk_42 (dk_at dksL_law_7 4 rfl rfl)
theorem dL_law_294 : decode cL_law 294 = .ok (.iload_n 3, 1) := dk_29 (dk_at dksL_law_7 5 rfl rfl)
theorem dL_law_295 : decode cL_law 295 = .ok (.iconst 1, 1) := dk_4 (dk_at dksL_law_7 6 rfl rfl)
theorem dL_law_296 : decode cL_law 296 = .ok (.iadd, 1) := dk_96 (dk_at dksL_law_7 7 rfl rfl)
theorem dL_law_297 : decode cL_law 297 = .ok (.iaload, 1) := dk_46 (dk_at dksL_law_7 8 rfl rfl)
theorem dL_law_298 : decode cL_law 298 = .ok (.aload_n 0, 1) := dk_42 (dk_at dksL_law_7 9 rfl rfl)
theorem dL_law_299 : decode cL_law 299 = .ok (.iload_n 3, 1) := dk_29 (dk_at dksL_law_7 10 rfl rfl)
theorem dL_law_300 : decode cL_law 300 = .ok (.iconst 2, 1) := dk_5 (dk_at dksL_law_7 11 rfl rfl)
theorem dL_law_301 : decode cL_law 301 = .ok (.iadd, 1) := dk_96 (dk_at dksL_law_7 12 rfl rfl)
theorem dL_law_302 : decode cL_law 302 = .ok (.iaload, 1) := dk_46 (dk_at dksL_law_7 13 rfl rfl)
theorem dL_law_303 : decode cL_law 303 = .ok (.invokevirtual 35, 3) := dk_182 0 35 (dk_at dksL_law_7 14 rfl rfl)
theorem dL_law_306 : decode cL_law 306 = .ok (.if_icmp .eq 1043, 3) := dk_159 4 19 (dk_at dksL_law_7 17 rfl rfl)
theorem dL_law_309 : decode cL_law 309 = .ok (.iconst 0, 1) := dk_3 (dk_at dksL_law_7 20 rfl rfl)
theorem dL_law_310 : decode cL_law 310 = .ok (.ireturn, 1) := dk_172 (dk_at dksL_law_7 21 rfl rfl)
theorem dL_law_311 : decode cL_law 311 = .ok (.aload_n 1, 1) := dk_43 (dk_at dksL_law_7 22 rfl rfl)
theorem dL_law_312 : decode cL_law 312 = .ok (.aload_n 0, 1) := dk_42 (dk_at dksL_law_7 23 rfl rfl)
theorem dL_law_313 : decode cL_law 313 = .ok (.iload_n 3, 1) := dk_29 (dk_at dksL_law_8 0 rfl rfl)
theorem dL_law_314 : decode cL_law 314 = .ok (.iconst 1, 1) := dk_4 (dk_at dksL_law_8 1 rfl rfl)
theorem dL_law_315 : decode cL_law 315 = .ok (.iadd, 1) := dk_96 (dk_at dksL_law_8 2 rfl rfl)
theorem dL_law_316 : decode cL_law 316 = .ok (.iaload, 1) := dk_46 (dk_at dksL_law_8 3 rfl rfl)
theorem dL_law_317 : decode cL_law 317 = .ok (.invokevirtual 36, 3) := dk_182 0 36 (dk_at dksL_law_8 4 rfl rfl)
theorem dL_law_320 : decode cL_law 320 = .ok (.aload_n 2, 1) := dk_44 (dk_at dksL_law_8 7 rfl rfl)
theorem dL_law_321 : decode cL_law 321 = .ok (.aload_n 0, 1) := dk_42 (dk_at dksL_law_8 8 rfl rfl)
theorem dL_law_322 : decode cL_law 322 = .ok (.iload_n 3, 1) := dk_29 (dk_at dksL_law_8 9 rfl rfl)
theorem dL_law_323 : decode cL_law 323 = .ok (.iconst 1, 1) := dk_4 (dk_at dksL_law_8 10 rfl rfl)
theorem dL_law_324 : decode cL_law 324 = .ok (.iadd, 1) := dk_96 (dk_at dksL_law_8 11 rfl rfl)
theorem dL_law_325 : decode cL_law 325 = .ok (.iaload, 1) := dk_46 (dk_at dksL_law_8 12 rfl rfl)
theorem dL_law_326 : decode cL_law 326 = .ok (.invokevirtual 39, 3) := dk_182 0 39 (dk_at dksL_law_8 13 rfl rfl)
theorem dL_law_329 : decode cL_law 329 = .ok (.if_icmp .eq 1020, 3) := dk_159 3 252 (dk_at dksL_law_8 16 rfl rfl)
theorem dL_law_332 : decode cL_law 332 = .ok (.iconst 0, 1) := dk_3 (dk_at dksL_law_8 19 rfl rfl)
theorem dL_law_333 : decode cL_law 333 = .ok (.ireturn, 1) := dk_172 (dk_at dksL_law_8 20 rfl rfl)
theorem dL_law_334 : decode cL_law 334 = .ok (.aload_n 1, 1) := dk_43 (dk_at dksL_law_8 21 rfl rfl)
theorem dL_law_335 : decode cL_law 335 = .ok (.aload_n 0, 1) := dk_42 (dk_at dksL_law_8 22 rfl rfl)
theorem dL_law_336 : decode cL_law 336 = .ok (.iload_n 3, 1) := dk_29 (dk_at dksL_law_8 23 rfl rfl)
theorem dL_law_337 : decode cL_law 337 = .ok (.iconst 1, 1) := dk_4 (dk_at dksL_law_9 0 rfl rfl)
theorem dL_law_338 : decode cL_law 338 = .ok (.iadd, 1) := dk_96 (dk_at dksL_law_9 1 rfl rfl)
theorem dL_law_339 : decode cL_law 339 = .ok (.iaload, 1) := dk_46 (dk_at dksL_law_9 2 rfl rfl)
theorem dL_law_340 : decode cL_law 340 = .ok (.aload_n 0, 1) := dk_42 (dk_at dksL_law_9 3 rfl rfl)
theorem dL_law_341 : decode cL_law 341 = .ok (.iload_n 3, 1) := dk_29 (dk_at dksL_law_9 4 rfl rfl)
theorem dL_law_342 : decode cL_law 342 = .ok (.iconst 2, 1) := dk_5 (dk_at dksL_law_9 5 rfl rfl)
theorem dL_law_343 : decode cL_law 343 = .ok (.iadd, 1) := dk_96 (dk_at dksL_law_9 6 rfl rfl)
theorem dL_law_344 : decode cL_law 344 = .ok (.iaload, 1) := dk_46 (dk_at dksL_law_9 7 rfl rfl)
theorem dL_law_345 : decode cL_law 345 = .ok (.invokevirtual 40, 3) := dk_182 0 40 (dk_at dksL_law_9 8 rfl rfl)
theorem dL_law_348 : decode cL_law 348 = .ok (.aload_n 2, 1) := dk_44 (dk_at dksL_law_9 11 rfl rfl)
theorem dL_law_349 : decode cL_law 349 = .ok (.aload_n 0, 1) := dk_42 (dk_at dksL_law_9 12 rfl rfl)
theorem dL_law_350 : decode cL_law 350 = .ok (.iload_n 3, 1) := dk_29 (dk_at dksL_law_9 13 rfl rfl)
theorem dL_law_351 : decode cL_law 351 = .ok (.iconst 1, 1) := dk_4 (dk_at dksL_law_9 14 rfl rfl)
theorem dL_law_352 : decode cL_law 352 = .ok (.iadd, 1) := dk_96 (dk_at dksL_law_9 15 rfl rfl)
theorem dL_law_353 : decode cL_law 353 = .ok (.iaload, 1) := dk_46 (dk_at dksL_law_9 16 rfl rfl)
theorem dL_law_354 : decode cL_law 354 = .ok (.aload_n 0, 1) := dk_42 (dk_at dksL_law_9 17 rfl rfl)
theorem dL_law_355 : decode cL_law 355 = .ok (.iload_n 3, 1) := dk_29 (dk_at dksL_law_9 18 rfl rfl)
theorem dL_law_356 : decode cL_law 356 = .ok (.iconst 2, 1) := dk_5 (dk_at dksL_law_9 19 rfl rfl)
theorem dL_law_357 : decode cL_law 357 = .ok (.iadd, 1) := dk_96 (dk_at dksL_law_9 20 rfl rfl)
theorem dL_law_358 : decode cL_law 358 = .ok (.iaload, 1) := dk_46 (dk_at dksL_law_9 21 rfl rfl)
theorem dL_law_359 : decode cL_law 359 = .ok (.invokevirtual 43, 3) := dk_182 0 43 (dk_at dksL_law_10 0 rfl rfl)
theorem dL_law_362 : decode cL_law 362 = .ok (.if_icmp .eq 987, 3) := dk_159 3 219 (dk_at dksL_law_10 3 rfl rfl)
theorem dL_law_365 : decode cL_law 365 = .ok (.iconst 0, 1) := dk_3 (dk_at dksL_law_10 6 rfl rfl)
theorem dL_law_366 : decode cL_law 366 = .ok (.ireturn, 1) := dk_172 (dk_at dksL_law_10 7 rfl rfl)
theorem dL_law_367 : decode cL_law 367 = .ok (.aload_n 1, 1) := dk_43 (dk_at dksL_law_10 8 rfl rfl)
theorem dL_law_368 : decode cL_law 368 = .ok (.aload_n 0, 1) := dk_42 (dk_at dksL_law_10 9 rfl rfl)
theorem dL_law_369 : decode cL_law 369 = .ok (.iload_n 3, 1) := dk_29 (dk_at dksL_law_10 10 rfl rfl)
theorem dL_law_370 : decode cL_law 370 = .ok (.iconst 1, 1) := dk_4 (dk_at dksL_law_10 11 rfl rfl)
theorem dL_law_371 : decode cL_law 371 = .ok (.iadd, 1) := dk_96 (dk_at dksL_law_10 12 rfl rfl)
theorem dL_law_372 : decode cL_law 372 = .ok (.iaload, 1) := dk_46 (dk_at dksL_law_10 13 rfl rfl)
theorem dL_law_373 : decode cL_law 373 = .ok (.invokevirtual 44, 3) := dk_182 0 44 (dk_at dksL_law_10 14 rfl rfl)
theorem dL_law_376 : decode cL_law 376 = .ok (.aload_n 2, 1) := dk_44 (dk_at dksL_law_10 17 rfl rfl)
theorem dL_law_377 : decode cL_law 377 = .ok (.aload_n 0, 1) := dk_42 (dk_at dksL_law_10 18 rfl rfl)
theorem dL_law_378 : decode cL_law 378 = .ok (.iload_n 3, 1) := dk_29 (dk_at dksL_law_10 19 rfl rfl)
theorem dL_law_379 : decode cL_law 379 = .ok (.iconst 1, 1) := dk_4 (dk_at dksL_law_10 20 rfl rfl)
theorem dL_law_380 : decode cL_law 380 = .ok (.iadd, 1) := dk_96 (dk_at dksL_law_10 21 rfl rfl)
theorem dL_law_381 : decode cL_law 381 = .ok (.iaload, 1) := dk_46 (dk_at dksL_law_10 22 rfl rfl)
theorem dL_law_382 : decode cL_law 382 = .ok (.invokevirtual 47, 3) := dk_182 0 47 (dk_at dksL_law_11 0 rfl rfl)
theorem dL_law_385 : decode cL_law 385 = .ok (.if_icmp .eq 964, 3) := dk_159 3 196 (dk_at dksL_law_11 3 rfl rfl)
theorem dL_law_388 : decode cL_law 388 = .ok (.iconst 0, 1) := dk_3 (dk_at dksL_law_11 6 rfl rfl)
theorem dL_law_389 : decode cL_law 389 = .ok (.ireturn, 1) := dk_172 (dk_at dksL_law_11 7 rfl rfl)
theorem dL_law_390 : decode cL_law 390 = .ok (.aload_n 1, 1) := dk_43 (dk_at dksL_law_11 8 rfl rfl)
theorem dL_law_391 : decode cL_law 391 = .ok (.invokevirtual 48, 3) := dk_182 0 48 (dk_at dksL_law_11 9 rfl rfl)
theorem dL_law_394 : decode cL_law 394 = .ok (.aload_n 2, 1) := dk_44 (dk_at dksL_law_11 12 rfl rfl)
theorem dL_law_395 : decode cL_law 395 = .ok (.invokevirtual 51, 3) := dk_182 0 51 (dk_at dksL_law_11 13 rfl rfl)
theorem dL_law_398 : decode cL_law 398 = .ok (.if_icmp .eq 951, 3) := dk_159 3 183 (dk_at dksL_law_11 16 rfl rfl)
theorem dL_law_401 : decode cL_law 401 = .ok (.iconst 0, 1) := dk_3 (dk_at dksL_law_11 19 rfl rfl)
theorem dL_law_402 : decode cL_law 402 = .ok (.ireturn, 1) := dk_172 (dk_at dksL_law_11 20 rfl rfl)
theorem dL_law_403 : decode cL_law 403 = .ok (.aload_n 1, 1) := dk_43 (dk_at dksL_law_11 21 rfl rfl)
theorem dL_law_404 : decode cL_law 404 = .ok (.invokevirtual 52, 3) := dk_182 0 52 (dk_at dksL_law_12 0 rfl rfl)
theorem dL_law_407 : decode cL_law 407 = .ok (.aload_n 2, 1) := dk_44 (dk_at dksL_law_12 3 rfl rfl)
theorem dL_law_408 : decode cL_law 408 = .ok (.invokevirtual 55, 3) := dk_182 0 55 (dk_at dksL_law_12 4 rfl rfl)
theorem dL_law_411 : decode cL_law 411 = .ok (.if_icmp .eq 938, 3) := dk_159 3 170 (dk_at dksL_law_12 7 rfl rfl)
theorem dL_law_414 : decode cL_law 414 = .ok (.iconst 0, 1) := dk_3 (dk_at dksL_law_12 10 rfl rfl)
theorem dL_law_415 : decode cL_law 415 = .ok (.ireturn, 1) := dk_172 (dk_at dksL_law_12 11 rfl rfl)
theorem dL_law_416 : decode cL_law 416 = .ok (.aload_n 1, 1) := dk_43 (dk_at dksL_law_12 12 rfl rfl)
theorem dL_law_417 : decode cL_law 417 = .ok (.invokevirtual 56, 3) := dk_182 0 56 (dk_at dksL_law_12 13 rfl rfl)
theorem dL_law_420 : decode cL_law 420 = .ok (.aload_n 2, 1) := dk_44 (dk_at dksL_law_12 16 rfl rfl)
theorem dL_law_421 : decode cL_law 421 = .ok (.invokevirtual 59, 3) := dk_182 0 59 (dk_at dksL_law_12 17 rfl rfl)
theorem dL_law_424 : decode cL_law 424 = .ok (.if_icmp .eq 925, 3) := dk_159 3 157 (dk_at dksL_law_12 20 rfl rfl)
theorem dL_law_427 : decode cL_law 427 = .ok (.iconst 0, 1) := dk_3 (dk_at dksL_law_12 23 rfl rfl)
theorem dL_law_428 : decode cL_law 428 = .ok (.ireturn, 1) := dk_172 (dk_at dksL_law_13 0 rfl rfl)
theorem dL_law_429 : decode cL_law 429 = .ok (.aload_n 1, 1) := dk_43 (dk_at dksL_law_13 1 rfl rfl)
theorem dL_law_430 : decode cL_law 430 = .ok (.aload_n 0, 1) := dk_42 (dk_at dksL_law_13 2 rfl rfl)
theorem dL_law_431 : decode cL_law 431 = .ok (.iload_n 3, 1) := dk_29 (dk_at dksL_law_13 3 rfl rfl)
theorem dL_law_432 : decode cL_law 432 = .ok (.iconst 1, 1) := dk_4 (dk_at dksL_law_13 4 rfl rfl)
theorem dL_law_433 : decode cL_law 433 = .ok (.iadd, 1) := dk_96 (dk_at dksL_law_13 5 rfl rfl)
theorem dL_law_434 : decode cL_law 434 = .ok (.iaload, 1) := dk_46 (dk_at dksL_law_13 6 rfl rfl)
theorem dL_law_435 : decode cL_law 435 = .ok (.invokevirtual 60, 3) := dk_182 0 60 (dk_at dksL_law_13 7 rfl rfl)
theorem dL_law_438 : decode cL_law 438 = .ok (.aload_n 2, 1) := dk_44 (dk_at dksL_law_13 10 rfl rfl)
theorem dL_law_439 : decode cL_law 439 = .ok (.aload_n 0, 1) := dk_42 (dk_at dksL_law_13 11 rfl rfl)
theorem dL_law_440 : decode cL_law 440 = .ok (.iload_n 3, 1) := dk_29 (dk_at dksL_law_13 12 rfl rfl)
theorem dL_law_441 : decode cL_law 441 = .ok (.iconst 1, 1) := dk_4 (dk_at dksL_law_13 13 rfl rfl)
theorem dL_law_442 : decode cL_law 442 = .ok (.iadd, 1) := dk_96 (dk_at dksL_law_13 14 rfl rfl)
theorem dL_law_443 : decode cL_law 443 = .ok (.iaload, 1) := dk_46 (dk_at dksL_law_13 15 rfl rfl)
theorem dL_law_444 : decode cL_law 444 = .ok (.invokevirtual 63, 3) := dk_182 0 63 (dk_at dksL_law_13 16 rfl rfl)
theorem dL_law_447 : decode cL_law 447 = .ok (.if_icmp .eq 902, 3) := dk_159 3 134 (dk_at dksL_law_13 19 rfl rfl)
theorem dL_law_450 : decode cL_law 450 = .ok (.iconst 0, 1) := dk_3 (dk_at dksL_law_13 22 rfl rfl)
theorem dL_law_451 : decode cL_law 451 = .ok (.ireturn, 1) := dk_172 (dk_at dksL_law_13 23 rfl rfl)
theorem dL_law_452 : decode cL_law 452 = .ok (.aload_n 1, 1) := dk_43 (dk_at dksL_law_14 0 rfl rfl)
theorem dL_law_453 : decode cL_law 453 = .ok (.aload_n 0, 1) := dk_42 (dk_at dksL_law_14 1 rfl rfl)
theorem dL_law_454 : decode cL_law 454 = .ok (.iload_n 3, 1) := dk_29 (dk_at dksL_law_14 2 rfl rfl)
theorem dL_law_455 : decode cL_law 455 = .ok (.iconst 1, 1) := dk_4 (dk_at dksL_law_14 3 rfl rfl)
theorem dL_law_456 : decode cL_law 456 = .ok (.iadd, 1) := dk_96 (dk_at dksL_law_14 4 rfl rfl)
theorem dL_law_457 : decode cL_law 457 = .ok (.iaload, 1) := dk_46 (dk_at dksL_law_14 5 rfl rfl)
theorem dL_law_458 : decode cL_law 458 = .ok (.aload_n 0, 1) := dk_42 (dk_at dksL_law_14 6 rfl rfl)
theorem dL_law_459 : decode cL_law 459 = .ok (.iload_n 3, 1) := dk_29 (dk_at dksL_law_14 7 rfl rfl)
theorem dL_law_460 : decode cL_law 460 = .ok (.iconst 2, 1) := dk_5 (dk_at dksL_law_14 8 rfl rfl)
theorem dL_law_461 : decode cL_law 461 = .ok (.iadd, 1) := dk_96 (dk_at dksL_law_14 9 rfl rfl)
theorem dL_law_462 : decode cL_law 462 = .ok (.iaload, 1) := dk_46 (dk_at dksL_law_14 10 rfl rfl)
theorem dL_law_463 : decode cL_law 463 = .ok (.invokevirtual 64, 3) := dk_182 0 64 (dk_at dksL_law_14 11 rfl rfl)
theorem dL_law_466 : decode cL_law 466 = .ok (.aload_n 2, 1) := dk_44 (dk_at dksL_law_14 14 rfl rfl)
theorem dL_law_467 : decode cL_law 467 = .ok (.aload_n 0, 1) := dk_42 (dk_at dksL_law_14 15 rfl rfl)
theorem dL_law_468 : decode cL_law 468 = .ok (.iload_n 3, 1) := dk_29 (dk_at dksL_law_14 16 rfl rfl)
theorem dL_law_469 : decode cL_law 469 = .ok (.iconst 1, 1) := dk_4 (dk_at dksL_law_14 17 rfl rfl)
theorem dL_law_470 : decode cL_law 470 = .ok (.iadd, 1) := dk_96 (dk_at dksL_law_14 18 rfl rfl)
theorem dL_law_471 : decode cL_law 471 = .ok (.iaload, 1) := dk_46 (dk_at dksL_law_14 19 rfl rfl)
theorem dL_law_472 : decode cL_law 472 = .ok (.aload_n 0, 1) := dk_42 (dk_at dksL_law_14 20 rfl rfl)
theorem dL_law_473 : decode cL_law 473 = .ok (.iload_n 3, 1) := dk_29 (dk_at dksL_law_14 21 rfl rfl)
theorem dL_law_474 : decode cL_law 474 = .ok (.iconst 2, 1) := dk_5 (dk_at dksL_law_14 22 rfl rfl)
theorem dL_law_475 : decode cL_law 475 = .ok (.iadd, 1) := dk_96 (dk_at dksL_law_14 23 rfl rfl)
theorem dL_law_476 : decode cL_law 476 = .ok (.iaload, 1) := dk_46 (dk_at dksL_law_15 0 rfl rfl)
theorem dL_law_477 : decode cL_law 477 = .ok (.invokevirtual 67, 3) := dk_182 0 67 (dk_at dksL_law_15 1 rfl rfl)
theorem dL_law_480 : decode cL_law 480 = .ok (.if_icmp .eq 869, 3) := dk_159 3 101 (dk_at dksL_law_15 4 rfl rfl)
theorem dL_law_483 : decode cL_law 483 = .ok (.iconst 0, 1) := dk_3 (dk_at dksL_law_15 7 rfl rfl)
theorem dL_law_484 : decode cL_law 484 = .ok (.ireturn, 1) := dk_172 (dk_at dksL_law_15 8 rfl rfl)
theorem dL_law_485 : decode cL_law 485 = .ok (.aload_n 1, 1) := dk_43 (dk_at dksL_law_15 9 rfl rfl)
theorem dL_law_486 : decode cL_law 486 = .ok (.aload_n 0, 1) := dk_42 (dk_at dksL_law_15 10 rfl rfl)
theorem dL_law_487 : decode cL_law 487 = .ok (.iload_n 3, 1) := dk_29 (dk_at dksL_law_15 11 rfl rfl)
theorem dL_law_488 : decode cL_law 488 = .ok (.iconst 1, 1) := dk_4 (dk_at dksL_law_15 12 rfl rfl)
theorem dL_law_489 : decode cL_law 489 = .ok (.iadd, 1) := dk_96 (dk_at dksL_law_15 13 rfl rfl)
theorem dL_law_490 : decode cL_law 490 = .ok (.iaload, 1) := dk_46 (dk_at dksL_law_15 14 rfl rfl)
theorem dL_law_491 : decode cL_law 491 = .ok (.aload_n 0, 1) := dk_42 (dk_at dksL_law_15 15 rfl rfl)
theorem dL_law_492 : decode cL_law 492 = .ok (.iload_n 3, 1) := dk_29 (dk_at dksL_law_15 16 rfl rfl)
theorem dL_law_493 : decode cL_law 493 = .ok (.iconst 2, 1) := dk_5 (dk_at dksL_law_15 17 rfl rfl)
theorem dL_law_494 : decode cL_law 494 = .ok (.iadd, 1) := dk_96 (dk_at dksL_law_15 18 rfl rfl)
theorem dL_law_495 : decode cL_law 495 = .ok (.iaload, 1) := dk_46 (dk_at dksL_law_15 19 rfl rfl)
theorem dL_law_496 : decode cL_law 496 = .ok (.invokevirtual 68, 3) := dk_182 0 68 (dk_at dksL_law_15 20 rfl rfl)
theorem dL_law_499 : decode cL_law 499 = .ok (.aload_n 2, 1) := dk_44 (dk_at dksL_law_15 23 rfl rfl)
theorem dL_law_500 : decode cL_law 500 = .ok (.aload_n 0, 1) := dk_42 (dk_at dksL_law_16 0 rfl rfl)
theorem dL_law_501 : decode cL_law 501 = .ok (.iload_n 3, 1) := dk_29 (dk_at dksL_law_16 1 rfl rfl)
theorem dL_law_502 : decode cL_law 502 = .ok (.iconst 1, 1) := dk_4 (dk_at dksL_law_16 2 rfl rfl)
theorem dL_law_503 : decode cL_law 503 = .ok (.iadd, 1) := dk_96 (dk_at dksL_law_16 3 rfl rfl)
theorem dL_law_504 : decode cL_law 504 = .ok (.iaload, 1) := dk_46 (dk_at dksL_law_16 4 rfl rfl)
theorem dL_law_505 : decode cL_law 505 = .ok (.aload_n 0, 1) := dk_42 (dk_at dksL_law_16 5 rfl rfl)
theorem dL_law_506 : decode cL_law 506 = .ok (.iload_n 3, 1) := dk_29 (dk_at dksL_law_16 6 rfl rfl)
theorem dL_law_507 : decode cL_law 507 = .ok (.iconst 2, 1) := dk_5 (dk_at dksL_law_16 7 rfl rfl)
theorem dL_law_508 : decode cL_law 508 = .ok (.iadd, 1) := dk_96 (dk_at dksL_law_16 8 rfl rfl)
theorem dL_law_509 : decode cL_law 509 = .ok (.iaload, 1) := dk_46 (dk_at dksL_law_16 9 rfl rfl)
theorem dL_law_510 : decode cL_law 510 = .ok (.invokevirtual 72, 3) := dk_182 0 72 (dk_at dksL_law_16 10 rfl rfl)
theorem dL_law_513 : decode cL_law 513 = .ok (.lcmp, 1) := dk_148 (dk_at dksL_law_16 13 rfl rfl)
theorem dL_law_514 : decode cL_law 514 = .ok (.ifCond .eq 835, 3) := dk_153 3 67 (dk_at dksL_law_16 14 rfl rfl)
theorem dL_law_517 : decode cL_law 517 = .ok (.iconst 0, 1) := dk_3 (dk_at dksL_law_16 17 rfl rfl)
theorem dL_law_518 : decode cL_law 518 = .ok (.ireturn, 1) := dk_172 (dk_at dksL_law_16 18 rfl rfl)
theorem dL_law_519 : decode cL_law 519 = .ok (.aload_n 1, 1) := dk_43 (dk_at dksL_law_16 19 rfl rfl)
theorem dL_law_520 : decode cL_law 520 = .ok (.aload_n 0, 1) := dk_42 (dk_at dksL_law_16 20 rfl rfl)
theorem dL_law_521 : decode cL_law 521 = .ok (.iload_n 3, 1) := dk_29 (dk_at dksL_law_16 21 rfl rfl)
theorem dL_law_522 : decode cL_law 522 = .ok (.iconst 1, 1) := dk_4 (dk_at dksL_law_16 22 rfl rfl)
theorem dL_law_523 : decode cL_law 523 = .ok (.iadd, 1) := dk_96 (dk_at dksL_law_16 23 rfl rfl)
theorem dL_law_524 : decode cL_law 524 = .ok (.iaload, 1) := dk_46 (dk_at dksL_law_17 0 rfl rfl)
theorem dL_law_525 : decode cL_law 525 = .ok (.aload_n 0, 1) := dk_42 (dk_at dksL_law_17 1 rfl rfl)
theorem dL_law_526 : decode cL_law 526 = .ok (.iload_n 3, 1) := dk_29 (dk_at dksL_law_17 2 rfl rfl)
theorem dL_law_527 : decode cL_law 527 = .ok (.iconst 2, 1) := dk_5 (dk_at dksL_law_17 3 rfl rfl)
theorem dL_law_528 : decode cL_law 528 = .ok (.iadd, 1) := dk_96 (dk_at dksL_law_17 4 rfl rfl)
theorem dL_law_529 : decode cL_law 529 = .ok (.iaload, 1) := dk_46 (dk_at dksL_law_17 5 rfl rfl)
theorem dL_law_530 : decode cL_law 530 = .ok (.invokevirtual 73, 3) := dk_182 0 73 (dk_at dksL_law_17 6 rfl rfl)
theorem dL_law_533 : decode cL_law 533 = .ok (.aload_n 2, 1) := dk_44 (dk_at dksL_law_17 9 rfl rfl)
theorem dL_law_534 : decode cL_law 534 = .ok (.aload_n 0, 1) := dk_42 (dk_at dksL_law_17 10 rfl rfl)
theorem dL_law_535 : decode cL_law 535 = .ok (.iload_n 3, 1) := dk_29 (dk_at dksL_law_17 11 rfl rfl)
theorem dL_law_536 : decode cL_law 536 = .ok (.iconst 1, 1) := dk_4 (dk_at dksL_law_17 12 rfl rfl)
theorem dL_law_537 : decode cL_law 537 = .ok (.iadd, 1) := dk_96 (dk_at dksL_law_17 13 rfl rfl)
theorem dL_law_538 : decode cL_law 538 = .ok (.iaload, 1) := dk_46 (dk_at dksL_law_17 14 rfl rfl)
theorem dL_law_539 : decode cL_law 539 = .ok (.aload_n 0, 1) := dk_42 (dk_at dksL_law_17 15 rfl rfl)
theorem dL_law_540 : decode cL_law 540 = .ok (.iload_n 3, 1) := dk_29 (dk_at dksL_law_17 16 rfl rfl)
theorem dL_law_541 : decode cL_law 541 = .ok (.iconst 2, 1) := dk_5 (dk_at dksL_law_17 17 rfl rfl)
theorem dL_law_542 : decode cL_law 542 = .ok (.iadd, 1) := dk_96 (dk_at dksL_law_17 18 rfl rfl)
theorem dL_law_543 : decode cL_law 543 = .ok (.iaload, 1) := dk_46 (dk_at dksL_law_17 19 rfl rfl)
theorem dL_law_544 : decode cL_law 544 = .ok (.invokevirtual 76, 3) := dk_182 0 76 (dk_at dksL_law_17 20 rfl rfl)
theorem dL_law_547 : decode cL_law 547 = .ok (.if_icmp .eq 802, 3) := dk_159 3 34 (dk_at dksL_law_18 0 rfl rfl)
theorem dL_law_550 : decode cL_law 550 = .ok (.iconst 0, 1) := dk_3 (dk_at dksL_law_18 3 rfl rfl)
theorem dL_law_551 : decode cL_law 551 = .ok (.ireturn, 1) := dk_172 (dk_at dksL_law_18 4 rfl rfl)
theorem dL_law_552 : decode cL_law 552 = .ok (.aload_n 1, 1) := dk_43 (dk_at dksL_law_18 5 rfl rfl)
theorem dL_law_553 : decode cL_law 553 = .ok (.aload_n 0, 1) := dk_42 (dk_at dksL_law_18 6 rfl rfl)
theorem dL_law_554 : decode cL_law 554 = .ok (.iload_n 3, 1) := dk_29 (dk_at dksL_law_18 7 rfl rfl)
theorem dL_law_555 : decode cL_law 555 = .ok (.iconst 1, 1) := dk_4 (dk_at dksL_law_18 8 rfl rfl)
theorem dL_law_556 : decode cL_law 556 = .ok (.iadd, 1) := dk_96 (dk_at dksL_law_18 9 rfl rfl)
theorem dL_law_557 : decode cL_law 557 = .ok (.iaload, 1) := dk_46 (dk_at dksL_law_18 10 rfl rfl)
theorem dL_law_558 : decode cL_law 558 = .ok (.invokevirtual 77, 3) := dk_182 0 77 (dk_at dksL_law_18 11 rfl rfl)
theorem dL_law_561 : decode cL_law 561 = .ok (.aload_n 2, 1) := dk_44 (dk_at dksL_law_18 14 rfl rfl)
theorem dL_law_562 : decode cL_law 562 = .ok (.aload_n 0, 1) := dk_42 (dk_at dksL_law_18 15 rfl rfl)
theorem dL_law_563 : decode cL_law 563 = .ok (.iload_n 3, 1) := dk_29 (dk_at dksL_law_18 16 rfl rfl)
theorem dL_law_564 : decode cL_law 564 = .ok (.iconst 1, 1) := dk_4 (dk_at dksL_law_18 17 rfl rfl)
theorem dL_law_565 : decode cL_law 565 = .ok (.iadd, 1) := dk_96 (dk_at dksL_law_18 18 rfl rfl)
theorem dL_law_566 : decode cL_law 566 = .ok (.iaload, 1) := dk_46 (dk_at dksL_law_18 19 rfl rfl)
theorem dL_law_567 : decode cL_law 567 = .ok (.invokevirtual 80, 3) := dk_182 0 80 (dk_at dksL_law_18 20 rfl rfl)
theorem dL_law_570 : decode cL_law 570 = .ok (.if_icmp .eq 779, 3) := dk_159 3 11 (dk_at dksL_law_19 0 rfl rfl)
theorem dL_law_573 : decode cL_law 573 = .ok (.iconst 0, 1) := dk_3 (dk_at dksL_law_19 3 rfl rfl)
theorem dL_law_574 : decode cL_law 574 = .ok (.ireturn, 1) := dk_172 (dk_at dksL_law_19 4 rfl rfl)
theorem dL_law_575 : decode cL_law 575 = .ok (.aload_n 1, 1) := dk_43 (dk_at dksL_law_19 5 rfl rfl)
theorem dL_law_576 : decode cL_law 576 = .ok (.aload_n 0, 1) := dk_42 (dk_at dksL_law_19 6 rfl rfl)
theorem dL_law_577 : decode cL_law 577 = .ok (.iload_n 3, 1) := dk_29 (dk_at dksL_law_19 7 rfl rfl)
theorem dL_law_578 : decode cL_law 578 = .ok (.iconst 1, 1) := dk_4 (dk_at dksL_law_19 8 rfl rfl)
theorem dL_law_579 : decode cL_law 579 = .ok (.iadd, 1) := dk_96 (dk_at dksL_law_19 9 rfl rfl)
theorem dL_law_580 : decode cL_law 580 = .ok (.iaload, 1) := dk_46 (dk_at dksL_law_19 10 rfl rfl)
theorem dL_law_581 : decode cL_law 581 = .ok (.invokevirtual 81, 3) := dk_182 0 81 (dk_at dksL_law_19 11 rfl rfl)
theorem dL_law_584 : decode cL_law 584 = .ok (.aload_n 2, 1) := dk_44 (dk_at dksL_law_19 14 rfl rfl)
theorem dL_law_585 : decode cL_law 585 = .ok (.aload_n 0, 1) := dk_42 (dk_at dksL_law_19 15 rfl rfl)
theorem dL_law_586 : decode cL_law 586 = .ok (.iload_n 3, 1) := dk_29 (dk_at dksL_law_19 16 rfl rfl)
theorem dL_law_587 : decode cL_law 587 = .ok (.iconst 1, 1) := dk_4 (dk_at dksL_law_19 17 rfl rfl)
theorem dL_law_588 : decode cL_law 588 = .ok (.iadd, 1) := dk_96 (dk_at dksL_law_19 18 rfl rfl)
theorem dL_law_589 : decode cL_law 589 = .ok (.iaload, 1) := dk_46 (dk_at dksL_law_19 19 rfl rfl)
theorem dL_law_590 : decode cL_law 590 = .ok (.invokevirtual 84, 3) := dk_182 0 84 (dk_at dksL_law_19 20 rfl rfl)
theorem dL_law_593 : decode cL_law 593 = .ok (.if_icmp .eq 756, 3) := dk_159 2 244 (dk_at dksL_law_20 0 rfl rfl)
theorem dL_law_596 : decode cL_law 596 = .ok (.iconst 0, 1) := dk_3 (dk_at dksL_law_20 3 rfl rfl)
theorem dL_law_597 : decode cL_law 597 = .ok (.ireturn, 1) := dk_172 (dk_at dksL_law_20 4 rfl rfl)
theorem dL_law_598 : decode cL_law 598 = .ok (.aload_n 1, 1) := dk_43 (dk_at dksL_law_20 5 rfl rfl)
theorem dL_law_599 : decode cL_law 599 = .ok (.aload_n 0, 1) := dk_42 (dk_at dksL_law_20 6 rfl rfl)
theorem dL_law_600 : decode cL_law 600 = .ok (.iload_n 3, 1) := dk_29 (dk_at dksL_law_20 7 rfl rfl)
theorem dL_law_601 : decode cL_law 601 = .ok (.iconst 1, 1) := dk_4 (dk_at dksL_law_20 8 rfl rfl)
theorem dL_law_602 : decode cL_law 602 = .ok (.iadd, 1) := dk_96 (dk_at dksL_law_20 9 rfl rfl)
theorem dL_law_603 : decode cL_law 603 = .ok (.iaload, 1) := dk_46 (dk_at dksL_law_20 10 rfl rfl)
theorem dL_law_604 : decode cL_law 604 = .ok (.aload_n 0, 1) := dk_42 (dk_at dksL_law_20 11 rfl rfl)
theorem dL_law_605 : decode cL_law 605 = .ok (.iload_n 3, 1) := dk_29 (dk_at dksL_law_20 12 rfl rfl)
theorem dL_law_606 : decode cL_law 606 = .ok (.iconst 2, 1) := dk_5 (dk_at dksL_law_20 13 rfl rfl)
theorem dL_law_607 : decode cL_law 607 = .ok (.iadd, 1) := dk_96 (dk_at dksL_law_20 14 rfl rfl)
theorem dL_law_608 : decode cL_law 608 = .ok (.iaload, 1) := dk_46 (dk_at dksL_law_20 15 rfl rfl)
theorem dL_law_609 : decode cL_law 609 = .ok (.invokevirtual 85, 3) := dk_182 0 85 (dk_at dksL_law_20 16 rfl rfl)
theorem dL_law_612 : decode cL_law 612 = .ok (.aload_n 2, 1) := dk_44 (dk_at dksL_law_20 19 rfl rfl)
theorem dL_law_613 : decode cL_law 613 = .ok (.aload_n 0, 1) := dk_42 (dk_at dksL_law_20 20 rfl rfl)
theorem dL_law_614 : decode cL_law 614 = .ok (.iload_n 3, 1) := dk_29 (dk_at dksL_law_20 21 rfl rfl)
theorem dL_law_615 : decode cL_law 615 = .ok (.iconst 1, 1) := dk_4 (dk_at dksL_law_20 22 rfl rfl)
theorem dL_law_616 : decode cL_law 616 = .ok (.iadd, 1) := dk_96 (dk_at dksL_law_20 23 rfl rfl)
theorem dL_law_617 : decode cL_law 617 = .ok (.iaload, 1) := dk_46 (dk_at dksL_law_21 0 rfl rfl)
theorem dL_law_618 : decode cL_law 618 = .ok (.aload_n 0, 1) := dk_42 (dk_at dksL_law_21 1 rfl rfl)
theorem dL_law_619 : decode cL_law 619 = .ok (.iload_n 3, 1) := dk_29 (dk_at dksL_law_21 2 rfl rfl)
theorem dL_law_620 : decode cL_law 620 = .ok (.iconst 2, 1) := dk_5 (dk_at dksL_law_21 3 rfl rfl)
theorem dL_law_621 : decode cL_law 621 = .ok (.iadd, 1) := dk_96 (dk_at dksL_law_21 4 rfl rfl)
theorem dL_law_622 : decode cL_law 622 = .ok (.iaload, 1) := dk_46 (dk_at dksL_law_21 5 rfl rfl)
theorem dL_law_623 : decode cL_law 623 = .ok (.invokevirtual 88, 3) := dk_182 0 88 (dk_at dksL_law_21 6 rfl rfl)
theorem dL_law_626 : decode cL_law 626 = .ok (.if_icmp .eq 723, 3) := dk_159 2 211 (dk_at dksL_law_21 9 rfl rfl)
theorem dL_law_629 : decode cL_law 629 = .ok (.iconst 0, 1) := dk_3 (dk_at dksL_law_21 12 rfl rfl)
theorem dL_law_630 : decode cL_law 630 = .ok (.ireturn, 1) := dk_172 (dk_at dksL_law_21 13 rfl rfl)
theorem dL_law_631 : decode cL_law 631 = .ok (.aload_n 1, 1) := dk_43 (dk_at dksL_law_21 14 rfl rfl)
theorem dL_law_632 : decode cL_law 632 = .ok (.aload_n 0, 1) := dk_42 (dk_at dksL_law_21 15 rfl rfl)
theorem dL_law_633 : decode cL_law 633 = .ok (.iload_n 3, 1) := dk_29 (dk_at dksL_law_21 16 rfl rfl)
theorem dL_law_634 : decode cL_law 634 = .ok (.iconst 1, 1) := dk_4 (dk_at dksL_law_21 17 rfl rfl)
theorem dL_law_635 : decode cL_law 635 = .ok (.iadd, 1) := dk_96 (dk_at dksL_law_21 18 rfl rfl)
theorem dL_law_636 : decode cL_law 636 = .ok (.iaload, 1) := dk_46 (dk_at dksL_law_21 19 rfl rfl)
theorem dL_law_637 : decode cL_law 637 = .ok (.aload_n 0, 1) := dk_42 (dk_at dksL_law_21 20 rfl rfl)
theorem dL_law_638 : decode cL_law 638 = .ok (.iload_n 3, 1) := dk_29 (dk_at dksL_law_21 21 rfl rfl)
theorem dL_law_639 : decode cL_law 639 = .ok (.iconst 2, 1) := dk_5 (dk_at dksL_law_21 22 rfl rfl)
theorem dL_law_640 : decode cL_law 640 = .ok (.iadd, 1) := dk_96 (dk_at dksL_law_21 23 rfl rfl)
theorem dL_law_641 : decode cL_law 641 = .ok (.iaload, 1) := dk_46 (dk_at dksL_law_22 0 rfl rfl)
theorem dL_law_642 : decode cL_law 642 = .ok (.invokevirtual 89, 3) := dk_182 0 89 (dk_at dksL_law_22 1 rfl rfl)
theorem dL_law_645 : decode cL_law 645 = .ok (.aload_n 2, 1) := dk_44 (dk_at dksL_law_22 4 rfl rfl)
theorem dL_law_646 : decode cL_law 646 = .ok (.aload_n 0, 1) := dk_42 (dk_at dksL_law_22 5 rfl rfl)
theorem dL_law_647 : decode cL_law 647 = .ok (.iload_n 3, 1) := dk_29 (dk_at dksL_law_22 6 rfl rfl)
theorem dL_law_648 : decode cL_law 648 = .ok (.iconst 1, 1) := dk_4 (dk_at dksL_law_22 7 rfl rfl)
theorem dL_law_649 : decode cL_law 649 = .ok (.iadd, 1) := dk_96 (dk_at dksL_law_22 8 rfl rfl)
theorem dL_law_650 : decode cL_law 650 = .ok (.iaload, 1) := dk_46 (dk_at dksL_law_22 9 rfl rfl)
theorem dL_law_651 : decode cL_law 651 = .ok (.aload_n 0, 1) := dk_42 (dk_at dksL_law_22 10 rfl rfl)
theorem dL_law_652 : decode cL_law 652 = .ok (.iload_n 3, 1) := dk_29 (dk_at dksL_law_22 11 rfl rfl)
theorem dL_law_653 : decode cL_law 653 = .ok (.iconst 2, 1) := dk_5 (dk_at dksL_law_22 12 rfl rfl)
theorem dL_law_654 : decode cL_law 654 = .ok (.iadd, 1) := dk_96 (dk_at dksL_law_22 13 rfl rfl)
theorem dL_law_655 : decode cL_law 655 = .ok (.iaload, 1) := dk_46 (dk_at dksL_law_22 14 rfl rfl)
theorem dL_law_656 : decode cL_law 656 = .ok (.invokevirtual 92, 3) := dk_182 0 92 (dk_at dksL_law_22 15 rfl rfl)
theorem dL_law_659 : decode cL_law 659 = .ok (.if_icmp .eq 690, 3) := dk_159 2 178 (dk_at dksL_law_22 18 rfl rfl)
theorem dL_law_662 : decode cL_law 662 = .ok (.iconst 0, 1) := dk_3 (dk_at dksL_law_22 21 rfl rfl)
theorem dL_law_663 : decode cL_law 663 = .ok (.ireturn, 1) := dk_172 (dk_at dksL_law_22 22 rfl rfl)
theorem dL_law_664 : decode cL_law 664 = .ok (.aload_n 1, 1) := dk_43 (dk_at dksL_law_22 23 rfl rfl)
theorem dL_law_665 : decode cL_law 665 = .ok (.aload_n 0, 1) := dk_42 (dk_at dksL_law_23 0 rfl rfl)
theorem dL_law_666 : decode cL_law 666 = .ok (.iload_n 3, 1) := dk_29 (dk_at dksL_law_23 1 rfl rfl)
theorem dL_law_667 : decode cL_law 667 = .ok (.iconst 1, 1) := dk_4 (dk_at dksL_law_23 2 rfl rfl)
theorem dL_law_668 : decode cL_law 668 = .ok (.iadd, 1) := dk_96 (dk_at dksL_law_23 3 rfl rfl)
theorem dL_law_669 : decode cL_law 669 = .ok (.iaload, 1) := dk_46 (dk_at dksL_law_23 4 rfl rfl)
theorem dL_law_670 : decode cL_law 670 = .ok (.aload_n 0, 1) := dk_42 (dk_at dksL_law_23 5 rfl rfl)
theorem dL_law_671 : decode cL_law 671 = .ok (.iload_n 3, 1) := dk_29 (dk_at dksL_law_23 6 rfl rfl)
theorem dL_law_672 : decode cL_law 672 = .ok (.iconst 2, 1) := dk_5 (dk_at dksL_law_23 7 rfl rfl)
theorem dL_law_673 : decode cL_law 673 = .ok (.iadd, 1) := dk_96 (dk_at dksL_law_23 8 rfl rfl)
theorem dL_law_674 : decode cL_law 674 = .ok (.iaload, 1) := dk_46 (dk_at dksL_law_23 9 rfl rfl)
theorem dL_law_675 : decode cL_law 675 = .ok (.aload_n 0, 1) := dk_42 (dk_at dksL_law_23 10 rfl rfl)
theorem dL_law_676 : decode cL_law 676 = .ok (.iload_n 3, 1) := dk_29 (dk_at dksL_law_23 11 rfl rfl)
theorem dL_law_677 : decode cL_law 677 = .ok (.iconst 3, 1) := dk_6 (dk_at dksL_law_23 12 rfl rfl)
theorem dL_law_678 : decode cL_law 678 = .ok (.iadd, 1) := dk_96 (dk_at dksL_law_23 13 rfl rfl)
theorem dL_law_679 : decode cL_law 679 = .ok (.iaload, 1) := dk_46 (dk_at dksL_law_23 14 rfl rfl)
theorem dL_law_680 : decode cL_law 680 = .ok (.invokevirtual 93, 3) := dk_182 0 93 (dk_at dksL_law_23 15 rfl rfl)
theorem dL_law_683 : decode cL_law 683 = .ok (.aload_n 2, 1) := dk_44 (dk_at dksL_law_23 18 rfl rfl)
theorem dL_law_684 : decode cL_law 684 = .ok (.aload_n 0, 1) := dk_42 (dk_at dksL_law_23 19 rfl rfl)
theorem dL_law_685 : decode cL_law 685 = .ok (.iload_n 3, 1) := dk_29 (dk_at dksL_law_23 20 rfl rfl)
theorem dL_law_686 : decode cL_law 686 = .ok (.iconst 1, 1) := dk_4 (dk_at dksL_law_23 21 rfl rfl)
theorem dL_law_687 : decode cL_law 687 = .ok (.iadd, 1) := dk_96 (dk_at dksL_law_23 22 rfl rfl)
theorem dL_law_688 : decode cL_law 688 = .ok (.iaload, 1) := dk_46 (dk_at dksL_law_23 23 rfl rfl)
theorem dL_law_689 : decode cL_law 689 = .ok (.aload_n 0, 1) := dk_42 (dk_at dksL_law_24 0 rfl rfl)
theorem dL_law_690 : decode cL_law 690 = .ok (.iload_n 3, 1) := dk_29 (dk_at dksL_law_24 1 rfl rfl)
theorem dL_law_691 : decode cL_law 691 = .ok (.iconst 2, 1) := dk_5 (dk_at dksL_law_24 2 rfl rfl)
theorem dL_law_692 : decode cL_law 692 = .ok (.iadd, 1) := dk_96 (dk_at dksL_law_24 3 rfl rfl)
theorem dL_law_693 : decode cL_law 693 = .ok (.iaload, 1) := dk_46 (dk_at dksL_law_24 4 rfl rfl)
theorem dL_law_694 : decode cL_law 694 = .ok (.aload_n 0, 1) := dk_42 (dk_at dksL_law_24 5 rfl rfl)
theorem dL_law_695 : decode cL_law 695 = .ok (.iload_n 3, 1) := dk_29 (dk_at dksL_law_24 6 rfl rfl)
theorem dL_law_696 : decode cL_law 696 = .ok (.iconst 3, 1) := dk_6 (dk_at dksL_law_24 7 rfl rfl)
theorem dL_law_697 : decode cL_law 697 = .ok (.iadd, 1) := dk_96 (dk_at dksL_law_24 8 rfl rfl)
theorem dL_law_698 : decode cL_law 698 = .ok (.iaload, 1) := dk_46 (dk_at dksL_law_24 9 rfl rfl)
theorem dL_law_699 : decode cL_law 699 = .ok (.invokevirtual 97, 3) := dk_182 0 97 (dk_at dksL_law_24 10 rfl rfl)
theorem dL_law_702 : decode cL_law 702 = .ok (.if_icmp .eq 647, 3) := dk_159 2 135 (dk_at dksL_law_24 13 rfl rfl)
theorem dL_law_705 : decode cL_law 705 = .ok (.iconst 0, 1) := dk_3 (dk_at dksL_law_24 16 rfl rfl)
theorem dL_law_706 : decode cL_law 706 = .ok (.ireturn, 1) := dk_172 (dk_at dksL_law_24 17 rfl rfl)
theorem dL_law_707 : decode cL_law 707 = .ok (.aload_n 1, 1) := dk_43 (dk_at dksL_law_24 18 rfl rfl)
theorem dL_law_708 : decode cL_law 708 = .ok (.invokevirtual 98, 3) := dk_182 0 98 (dk_at dksL_law_24 19 rfl rfl)
theorem dL_law_711 : decode cL_law 711 = .ok (.aload_n 2, 1) := dk_44 (dk_at dksL_law_24 22 rfl rfl)
theorem dL_law_712 : decode cL_law 712 = .ok (.invokevirtual 101, 3) := dk_182 0 101 (dk_at dksL_law_25 0 rfl rfl)
theorem dL_law_715 : decode cL_law 715 = .ok (.if_icmp .eq 634, 3) := dk_159 2 122 (dk_at dksL_law_25 3 rfl rfl)
theorem dL_law_718 : decode cL_law 718 = .ok (.iconst 0, 1) := dk_3 (dk_at dksL_law_25 6 rfl rfl)
theorem dL_law_719 : decode cL_law 719 = .ok (.ireturn, 1) := dk_172 (dk_at dksL_law_25 7 rfl rfl)
theorem dL_law_720 : decode cL_law 720 = .ok (.aload_n 1, 1) := dk_43 (dk_at dksL_law_25 8 rfl rfl)
theorem dL_law_721 : decode cL_law 721 = .ok (.aload_n 0, 1) := dk_42 (dk_at dksL_law_25 9 rfl rfl)
theorem dL_law_722 : decode cL_law 722 = .ok (.iload_n 3, 1) := dk_29 (dk_at dksL_law_25 10 rfl rfl)
theorem dL_law_723 : decode cL_law 723 = .ok (.iconst 1, 1) := dk_4 (dk_at dksL_law_25 11 rfl rfl)
theorem dL_law_724 : decode cL_law 724 = .ok (.iadd, 1) := dk_96 (dk_at dksL_law_25 12 rfl rfl)
theorem dL_law_725 : decode cL_law 725 = .ok (.iaload, 1) := dk_46 (dk_at dksL_law_25 13 rfl rfl)
theorem dL_law_726 : decode cL_law 726 = .ok (.invokevirtual 102, 3) := dk_182 0 102 (dk_at dksL_law_25 14 rfl rfl)
theorem dL_law_729 : decode cL_law 729 = .ok (.aload_n 2, 1) := dk_44 (dk_at dksL_law_25 17 rfl rfl)
theorem dL_law_730 : decode cL_law 730 = .ok (.aload_n 0, 1) := dk_42 (dk_at dksL_law_25 18 rfl rfl)
theorem dL_law_731 : decode cL_law 731 = .ok (.iload_n 3, 1) := dk_29 (dk_at dksL_law_25 19 rfl rfl)
theorem dL_law_732 : decode cL_law 732 = .ok (.iconst 1, 1) := dk_4 (dk_at dksL_law_25 20 rfl rfl)
theorem dL_law_733 : decode cL_law 733 = .ok (.iadd, 1) := dk_96 (dk_at dksL_law_25 21 rfl rfl)
theorem dL_law_734 : decode cL_law 734 = .ok (.iaload, 1) := dk_46 (dk_at dksL_law_25 22 rfl rfl)
theorem dL_law_735 : decode cL_law 735 = .ok (.invokevirtual 105, 3) := dk_182 0 105 (dk_at dksL_law_26 0 rfl rfl)
theorem dL_law_738 : decode cL_law 738 = .ok (.if_icmp .eq 611, 3) := dk_159 2 99 (dk_at dksL_law_26 3 rfl rfl)
theorem dL_law_741 : decode cL_law 741 = .ok (.iconst 0, 1) := dk_3 (dk_at dksL_law_26 6 rfl rfl)
theorem dL_law_742 : decode cL_law 742 = .ok (.ireturn, 1) := dk_172 (dk_at dksL_law_26 7 rfl rfl)
theorem dL_law_743 : decode cL_law 743 = .ok (.aload_n 1, 1) := dk_43 (dk_at dksL_law_26 8 rfl rfl)
theorem dL_law_744 : decode cL_law 744 = .ok (.aload_n 0, 1) := dk_42 (dk_at dksL_law_26 9 rfl rfl)
theorem dL_law_745 : decode cL_law 745 = .ok (.iload_n 3, 1) := dk_29 (dk_at dksL_law_26 10 rfl rfl)
theorem dL_law_746 : decode cL_law 746 = .ok (.iconst 1, 1) := dk_4 (dk_at dksL_law_26 11 rfl rfl)
theorem dL_law_747 : decode cL_law 747 = .ok (.iadd, 1) := dk_96 (dk_at dksL_law_26 12 rfl rfl)
theorem dL_law_748 : decode cL_law 748 = .ok (.iaload, 1) := dk_46 (dk_at dksL_law_26 13 rfl rfl)
theorem dL_law_749 : decode cL_law 749 = .ok (.aload_n 0, 1) := dk_42 (dk_at dksL_law_26 14 rfl rfl)
theorem dL_law_750 : decode cL_law 750 = .ok (.iload_n 3, 1) := dk_29 (dk_at dksL_law_26 15 rfl rfl)
theorem dL_law_751 : decode cL_law 751 = .ok (.iconst 2, 1) := dk_5 (dk_at dksL_law_26 16 rfl rfl)
theorem dL_law_752 : decode cL_law 752 = .ok (.iadd, 1) := dk_96 (dk_at dksL_law_26 17 rfl rfl)
theorem dL_law_753 : decode cL_law 753 = .ok (.iaload, 1) := dk_46 (dk_at dksL_law_26 18 rfl rfl)
theorem dL_law_754 : decode cL_law 754 = .ok (.invokevirtual 106, 3) := dk_182 0 106 (dk_at dksL_law_26 19 rfl rfl)
theorem dL_law_757 : decode cL_law 757 = .ok (.aload_n 2, 1) := dk_44 (dk_at dksL_law_26 22 rfl rfl)
theorem dL_law_758 : decode cL_law 758 = .ok (.aload_n 0, 1) := dk_42 (dk_at dksL_law_26 23 rfl rfl)
theorem dL_law_759 : decode cL_law 759 = .ok (.iload_n 3, 1) := dk_29 (dk_at dksL_law_27 0 rfl rfl)
theorem dL_law_760 : decode cL_law 760 = .ok (.iconst 1, 1) := dk_4 (dk_at dksL_law_27 1 rfl rfl)
theorem dL_law_761 : decode cL_law 761 = .ok (.iadd, 1) := dk_96 (dk_at dksL_law_27 2 rfl rfl)
theorem dL_law_762 : decode cL_law 762 = .ok (.iaload, 1) := dk_46 (dk_at dksL_law_27 3 rfl rfl)
theorem dL_law_763 : decode cL_law 763 = .ok (.aload_n 0, 1) := dk_42 (dk_at dksL_law_27 4 rfl rfl)
theorem dL_law_764 : decode cL_law 764 = .ok (.iload_n 3, 1) := dk_29 (dk_at dksL_law_27 5 rfl rfl)
theorem dL_law_765 : decode cL_law 765 = .ok (.iconst 2, 1) := dk_5 (dk_at dksL_law_27 6 rfl rfl)
theorem dL_law_766 : decode cL_law 766 = .ok (.iadd, 1) := dk_96 (dk_at dksL_law_27 7 rfl rfl)
theorem dL_law_767 : decode cL_law 767 = .ok (.iaload, 1) := dk_46 (dk_at dksL_law_27 8 rfl rfl)
theorem dL_law_768 : decode cL_law 768 = .ok (.invokevirtual 109, 3) := dk_182 0 109 (dk_at dksL_law_27 9 rfl rfl)
theorem dL_law_771 : decode cL_law 771 = .ok (.if_icmp .eq 578, 3) := dk_159 2 66 (dk_at dksL_law_27 12 rfl rfl)
theorem dL_law_774 : decode cL_law 774 = .ok (.iconst 0, 1) := dk_3 (dk_at dksL_law_27 15 rfl rfl)
theorem dL_law_775 : decode cL_law 775 = .ok (.ireturn, 1) := dk_172 (dk_at dksL_law_27 16 rfl rfl)
theorem dL_law_776 : decode cL_law 776 = .ok (.aload_n 1, 1) := dk_43 (dk_at dksL_law_27 17 rfl rfl)
theorem dL_law_777 : decode cL_law 777 = .ok (.aload_n 0, 1) := dk_42 (dk_at dksL_law_27 18 rfl rfl)
theorem dL_law_778 : decode cL_law 778 = .ok (.iload_n 3, 1) := dk_29 (dk_at dksL_law_27 19 rfl rfl)
theorem dL_law_779 : decode cL_law 779 = .ok (.iconst 1, 1) := dk_4 (dk_at dksL_law_27 20 rfl rfl)
theorem dL_law_780 : decode cL_law 780 = .ok (.iadd, 1) := dk_96 (dk_at dksL_law_27 21 rfl rfl)
theorem dL_law_781 : decode cL_law 781 = .ok (.iaload, 1) := dk_46 (dk_at dksL_law_27 22 rfl rfl)
theorem dL_law_782 : decode cL_law 782 = .ok (.invokevirtual 110, 3) := dk_182 0 110 (dk_at dksL_law_28 0 rfl rfl)
theorem dL_law_785 : decode cL_law 785 = .ok (.aload_n 2, 1) := dk_44 (dk_at dksL_law_28 3 rfl rfl)
theorem dL_law_786 : decode cL_law 786 = .ok (.aload_n 0, 1) := dk_42 (dk_at dksL_law_28 4 rfl rfl)
theorem dL_law_787 : decode cL_law 787 = .ok (.iload_n 3, 1) := dk_29 (dk_at dksL_law_28 5 rfl rfl)
theorem dL_law_788 : decode cL_law 788 = .ok (.iconst 1, 1) := dk_4 (dk_at dksL_law_28 6 rfl rfl)
theorem dL_law_789 : decode cL_law 789 = .ok (.iadd, 1) := dk_96 (dk_at dksL_law_28 7 rfl rfl)
theorem dL_law_790 : decode cL_law 790 = .ok (.iaload, 1) := dk_46 (dk_at dksL_law_28 8 rfl rfl)
theorem dL_law_791 : decode cL_law 791 = .ok (.invokevirtual 113, 3) := dk_182 0 113 (dk_at dksL_law_28 9 rfl rfl)
theorem dL_law_794 : decode cL_law 794 = .ok (.if_icmp .eq 555, 3) := dk_159 2 43 (dk_at dksL_law_28 12 rfl rfl)
theorem dL_law_797 : decode cL_law 797 = .ok (.iconst 0, 1) := dk_3 (dk_at dksL_law_28 15 rfl rfl)
theorem dL_law_798 : decode cL_law 798 = .ok (.ireturn, 1) := dk_172 (dk_at dksL_law_28 16 rfl rfl)
theorem dL_law_799 : decode cL_law 799 = .ok (.aload_n 1, 1) := dk_43 (dk_at dksL_law_28 17 rfl rfl)
theorem dL_law_800 : decode cL_law 800 = .ok (.aload_n 0, 1) := dk_42 (dk_at dksL_law_28 18 rfl rfl)
theorem dL_law_801 : decode cL_law 801 = .ok (.iload_n 3, 1) := dk_29 (dk_at dksL_law_28 19 rfl rfl)
theorem dL_law_802 : decode cL_law 802 = .ok (.iconst 1, 1) := dk_4 (dk_at dksL_law_28 20 rfl rfl)
theorem dL_law_803 : decode cL_law 803 = .ok (.iadd, 1) := dk_96 (dk_at dksL_law_28 21 rfl rfl)
theorem dL_law_804 : decode cL_law 804 = .ok (.iaload, 1) := dk_46 (dk_at dksL_law_28 22 rfl rfl)
theorem dL_law_805 : decode cL_law 805 = .ok (.invokevirtual 114, 3) := dk_182 0 114 (dk_at dksL_law_29 0 rfl rfl)
theorem dL_law_808 : decode cL_law 808 = .ok (.aload_n 2, 1) := dk_44 (dk_at dksL_law_29 3 rfl rfl)
theorem dL_law_809 : decode cL_law 809 = .ok (.aload_n 0, 1) := dk_42 (dk_at dksL_law_29 4 rfl rfl)
theorem dL_law_810 : decode cL_law 810 = .ok (.iload_n 3, 1) := dk_29 (dk_at dksL_law_29 5 rfl rfl)
theorem dL_law_811 : decode cL_law 811 = .ok (.iconst 1, 1) := dk_4 (dk_at dksL_law_29 6 rfl rfl)
theorem dL_law_812 : decode cL_law 812 = .ok (.iadd, 1) := dk_96 (dk_at dksL_law_29 7 rfl rfl)
theorem dL_law_813 : decode cL_law 813 = .ok (.iaload, 1) := dk_46 (dk_at dksL_law_29 8 rfl rfl)
theorem dL_law_814 : decode cL_law 814 = .ok (.invokevirtual 117, 3) := dk_182 0 117 (dk_at dksL_law_29 9 rfl rfl)
theorem dL_law_817 : decode cL_law 817 = .ok (.if_icmp .eq 532, 3) := dk_159 2 20 (dk_at dksL_law_29 12 rfl rfl)
theorem dL_law_820 : decode cL_law 820 = .ok (.iconst 0, 1) := dk_3 (dk_at dksL_law_29 15 rfl rfl)
theorem dL_law_821 : decode cL_law 821 = .ok (.ireturn, 1) := dk_172 (dk_at dksL_law_29 16 rfl rfl)
theorem dL_law_822 : decode cL_law 822 = .ok (.aload_n 1, 1) := dk_43 (dk_at dksL_law_29 17 rfl rfl)
theorem dL_law_823 : decode cL_law 823 = .ok (.aload_n 0, 1) := dk_42 (dk_at dksL_law_29 18 rfl rfl)
theorem dL_law_824 : decode cL_law 824 = .ok (.iload_n 3, 1) := dk_29 (dk_at dksL_law_29 19 rfl rfl)
theorem dL_law_825 : decode cL_law 825 = .ok (.iconst 1, 1) := dk_4 (dk_at dksL_law_29 20 rfl rfl)
theorem dL_law_826 : decode cL_law 826 = .ok (.iadd, 1) := dk_96 (dk_at dksL_law_29 21 rfl rfl)
theorem dL_law_827 : decode cL_law 827 = .ok (.iaload, 1) := dk_46 (dk_at dksL_law_29 22 rfl rfl)
theorem dL_law_828 : decode cL_law 828 = .ok (.i2l, 1) := dk_133 (dk_at dksL_law_29 23 rfl rfl)
theorem dL_law_829 : decode cL_law 829 = .ok (.bipush 32, 2) := dk_16 32 (dk_at dksL_law_30 0 rfl rfl)
theorem dL_law_831 : decode cL_law 831 = .ok (.lshl, 1) := dk_121 (dk_at dksL_law_30 2 rfl rfl)
theorem dL_law_832 : decode cL_law 832 = .ok (.aload_n 0, 1) := dk_42 (dk_at dksL_law_30 3 rfl rfl)
theorem dL_law_833 : decode cL_law 833 = .ok (.iload_n 3, 1) := dk_29 (dk_at dksL_law_30 4 rfl rfl)
theorem dL_law_834 : decode cL_law 834 = .ok (.iconst 2, 1) := dk_5 (dk_at dksL_law_30 5 rfl rfl)
theorem dL_law_835 : decode cL_law 835 = .ok (.iadd, 1) := dk_96 (dk_at dksL_law_30 6 rfl rfl)
theorem dL_law_836 : decode cL_law 836 = .ok (.iaload, 1) := dk_46 (dk_at dksL_law_30 7 rfl rfl)
theorem dL_law_837 : decode cL_law 837 = .ok (.i2l, 1) := dk_133 (dk_at dksL_law_30 8 rfl rfl)
theorem dL_law_838 : decode cL_law 838 = .ok (.ldc2_w 118, 3) := dk_20 0 118 (dk_at dksL_law_30 9 rfl rfl)
theorem dL_law_841 : decode cL_law 841 = .ok (.land, 1) := dk_127 (dk_at dksL_law_30 12 rfl rfl)
theorem dL_law_842 : decode cL_law 842 = .ok (.lor, 1) := dk_129 (dk_at dksL_law_30 13 rfl rfl)
theorem dL_law_843 : decode cL_law 843 = .ok (.aload_n 0, 1) := dk_42 (dk_at dksL_law_30 14 rfl rfl)
theorem dL_law_844 : decode cL_law 844 = .ok (.iload_n 3, 1) := dk_29 (dk_at dksL_law_30 15 rfl rfl)
theorem dL_law_845 : decode cL_law 845 = .ok (.iconst 3, 1) := dk_6 (dk_at dksL_law_30 16 rfl rfl)
theorem dL_law_846 : decode cL_law 846 = .ok (.iadd, 1) := dk_96 (dk_at dksL_law_30 17 rfl rfl)
theorem dL_law_847 : decode cL_law 847 = .ok (.iaload, 1) := dk_46 (dk_at dksL_law_30 18 rfl rfl)
theorem dL_law_848 : decode cL_law 848 = .ok (.aload_n 0, 1) := dk_42 (dk_at dksL_law_30 19 rfl rfl)
theorem dL_law_849 : decode cL_law 849 = .ok (.iload_n 3, 1) := dk_29 (dk_at dksL_law_30 20 rfl rfl)
theorem dL_law_850 : decode cL_law 850 = .ok (.iconst 4, 1) := dk_7 (dk_at dksL_law_30 21 rfl rfl)
theorem dL_law_851 : decode cL_law 851 = .ok (.iadd, 1) := dk_96 (dk_at dksL_law_30 22 rfl rfl)
theorem dL_law_852 : decode cL_law 852 = .ok (.iaload, 1) := dk_46 (dk_at dksL_law_30 23 rfl rfl)
theorem dL_law_853 : decode cL_law 853 = .ok (.aload_n 0, 1) := dk_42 (dk_at dksL_law_31 0 rfl rfl)
theorem dL_law_854 : decode cL_law 854 = .ok (.iload_n 3, 1) := dk_29 (dk_at dksL_law_31 1 rfl rfl)
theorem dL_law_855 : decode cL_law 855 = .ok (.iconst 5, 1) := dk_8 (dk_at dksL_law_31 2 rfl rfl)
theorem dL_law_856 : decode cL_law 856 = .ok (.iadd, 1) := dk_96 (dk_at dksL_law_31 3 rfl rfl)
theorem dL_law_857 : decode cL_law 857 = .ok (.iaload, 1) := dk_46 (dk_at dksL_law_31 4 rfl rfl)
theorem dL_law_858 : decode cL_law 858 = .ok (.invokevirtual 120, 3) := dk_182 0 120 (dk_at dksL_law_31 5 rfl rfl)
theorem dL_law_861 : decode cL_law 861 = .ok (.aload_n 2, 1) := dk_44 (dk_at dksL_law_31 8 rfl rfl)
theorem dL_law_862 : decode cL_law 862 = .ok (.aload_n 0, 1) := dk_42 (dk_at dksL_law_31 9 rfl rfl)
theorem dL_law_863 : decode cL_law 863 = .ok (.iload_n 3, 1) := dk_29 (dk_at dksL_law_31 10 rfl rfl)
theorem dL_law_864 : decode cL_law 864 = .ok (.iconst 1, 1) := dk_4 (dk_at dksL_law_31 11 rfl rfl)
theorem dL_law_865 : decode cL_law 865 = .ok (.iadd, 1) := dk_96 (dk_at dksL_law_31 12 rfl rfl)
theorem dL_law_866 : decode cL_law 866 = .ok (.iaload, 1) := dk_46 (dk_at dksL_law_31 13 rfl rfl)
theorem dL_law_867 : decode cL_law 867 = .ok (.i2l, 1) := dk_133 (dk_at dksL_law_31 14 rfl rfl)
theorem dL_law_868 : decode cL_law 868 = .ok (.bipush 32, 2) := dk_16 32 (dk_at dksL_law_31 15 rfl rfl)
theorem dL_law_870 : decode cL_law 870 = .ok (.lshl, 1) := dk_121 (dk_at dksL_law_31 17 rfl rfl)
theorem dL_law_871 : decode cL_law 871 = .ok (.aload_n 0, 1) := dk_42 (dk_at dksL_law_31 18 rfl rfl)
theorem dL_law_872 : decode cL_law 872 = .ok (.iload_n 3, 1) := dk_29 (dk_at dksL_law_31 19 rfl rfl)
theorem dL_law_873 : decode cL_law 873 = .ok (.iconst 2, 1) := dk_5 (dk_at dksL_law_31 20 rfl rfl)
theorem dL_law_874 : decode cL_law 874 = .ok (.iadd, 1) := dk_96 (dk_at dksL_law_31 21 rfl rfl)
theorem dL_law_875 : decode cL_law 875 = .ok (.iaload, 1) := dk_46 (dk_at dksL_law_31 22 rfl rfl)
theorem dL_law_876 : decode cL_law 876 = .ok (.i2l, 1) := dk_133 (dk_at dksL_law_31 23 rfl rfl)
theorem dL_law_877 : decode cL_law 877 = .ok (.ldc2_w 118, 3) := dk_20 0 118 (dk_at dksL_law_32 0 rfl rfl)
theorem dL_law_880 : decode cL_law 880 = .ok (.land, 1) := dk_127 (dk_at dksL_law_32 3 rfl rfl)
theorem dL_law_881 : decode cL_law 881 = .ok (.lor, 1) := dk_129 (dk_at dksL_law_32 4 rfl rfl)
theorem dL_law_882 : decode cL_law 882 = .ok (.aload_n 0, 1) := dk_42 (dk_at dksL_law_32 5 rfl rfl)
theorem dL_law_883 : decode cL_law 883 = .ok (.iload_n 3, 1) := dk_29 (dk_at dksL_law_32 6 rfl rfl)
theorem dL_law_884 : decode cL_law 884 = .ok (.iconst 3, 1) := dk_6 (dk_at dksL_law_32 7 rfl rfl)
theorem dL_law_885 : decode cL_law 885 = .ok (.iadd, 1) := dk_96 (dk_at dksL_law_32 8 rfl rfl)
theorem dL_law_886 : decode cL_law 886 = .ok (.iaload, 1) := dk_46 (dk_at dksL_law_32 9 rfl rfl)
theorem dL_law_887 : decode cL_law 887 = .ok (.aload_n 0, 1) := dk_42 (dk_at dksL_law_32 10 rfl rfl)
theorem dL_law_888 : decode cL_law 888 = .ok (.iload_n 3, 1) := dk_29 (dk_at dksL_law_32 11 rfl rfl)
theorem dL_law_889 : decode cL_law 889 = .ok (.iconst 4, 1) := dk_7 (dk_at dksL_law_32 12 rfl rfl)
theorem dL_law_890 : decode cL_law 890 = .ok (.iadd, 1) := dk_96 (dk_at dksL_law_32 13 rfl rfl)
theorem dL_law_891 : decode cL_law 891 = .ok (.iaload, 1) := dk_46 (dk_at dksL_law_32 14 rfl rfl)
theorem dL_law_892 : decode cL_law 892 = .ok (.aload_n 0, 1) := dk_42 (dk_at dksL_law_32 15 rfl rfl)
theorem dL_law_893 : decode cL_law 893 = .ok (.iload_n 3, 1) := dk_29 (dk_at dksL_law_32 16 rfl rfl)
theorem dL_law_894 : decode cL_law 894 = .ok (.iconst 5, 1) := dk_8 (dk_at dksL_law_32 17 rfl rfl)
theorem dL_law_895 : decode cL_law 895 = .ok (.iadd, 1) := dk_96 (dk_at dksL_law_32 18 rfl rfl)
theorem dL_law_896 : decode cL_law 896 = .ok (.iaload, 1) := dk_46 (dk_at dksL_law_32 19 rfl rfl)
theorem dL_law_897 : decode cL_law 897 = .ok (.invokevirtual 124, 3) := dk_182 0 124 (dk_at dksL_law_32 20 rfl rfl)
theorem dL_law_900 : decode cL_law 900 = .ok (.lcmp, 1) := dk_148 (dk_at dksL_law_32 23 rfl rfl)
theorem dL_law_901 : decode cL_law 901 = .ok (.ifCond .eq 448, 3) := dk_153 1 192 (dk_at dksL_law_33 0 rfl rfl)
theorem dL_law_904 : decode cL_law 904 = .ok (.iconst 0, 1) := dk_3 (dk_at dksL_law_33 3 rfl rfl)
theorem dL_law_905 : decode cL_law 905 = .ok (.ireturn, 1) := dk_172 (dk_at dksL_law_33 4 rfl rfl)
theorem dL_law_906 : decode cL_law 906 = .ok (.aload_n 1, 1) := dk_43 (dk_at dksL_law_33 5 rfl rfl)
theorem dL_law_907 : decode cL_law 907 = .ok (.aload_n 0, 1) := dk_42 (dk_at dksL_law_33 6 rfl rfl)
theorem dL_law_908 : decode cL_law 908 = .ok (.iload_n 3, 1) := dk_29 (dk_at dksL_law_33 7 rfl rfl)
theorem dL_law_909 : decode cL_law 909 = .ok (.iconst 1, 1) := dk_4 (dk_at dksL_law_33 8 rfl rfl)
theorem dL_law_910 : decode cL_law 910 = .ok (.iadd, 1) := dk_96 (dk_at dksL_law_33 9 rfl rfl)
theorem dL_law_911 : decode cL_law 911 = .ok (.iaload, 1) := dk_46 (dk_at dksL_law_33 10 rfl rfl)
theorem dL_law_912 : decode cL_law 912 = .ok (.invokevirtual 125, 3) := dk_182 0 125 (dk_at dksL_law_33 11 rfl rfl)
theorem dL_law_915 : decode cL_law 915 = .ok (.aload_n 2, 1) := dk_44 (dk_at dksL_law_33 14 rfl rfl)
theorem dL_law_916 : decode cL_law 916 = .ok (.aload_n 0, 1) := dk_42 (dk_at dksL_law_33 15 rfl rfl)
theorem dL_law_917 : decode cL_law 917 = .ok (.iload_n 3, 1) := dk_29 (dk_at dksL_law_33 16 rfl rfl)
theorem dL_law_918 : decode cL_law 918 = .ok (.iconst 1, 1) := dk_4 (dk_at dksL_law_33 17 rfl rfl)
theorem dL_law_919 : decode cL_law 919 = .ok (.iadd, 1) := dk_96 (dk_at dksL_law_33 18 rfl rfl)
theorem dL_law_920 : decode cL_law 920 = .ok (.iaload, 1) := dk_46 (dk_at dksL_law_33 19 rfl rfl)
theorem dL_law_921 : decode cL_law 921 = .ok (.invokevirtual 128, 3) := dk_182 0 128 (dk_at dksL_law_33 20 rfl rfl)
theorem dL_law_924 : decode cL_law 924 = .ok (.if_icmp .eq 425, 3) := dk_159 1 169 (dk_at dksL_law_34 0 rfl rfl)
theorem dL_law_927 : decode cL_law 927 = .ok (.iconst 0, 1) := dk_3 (dk_at dksL_law_34 3 rfl rfl)
theorem dL_law_928 : decode cL_law 928 = .ok (.ireturn, 1) := dk_172 (dk_at dksL_law_34 4 rfl rfl)
theorem dL_law_929 : decode cL_law 929 = .ok (.aload_n 1, 1) := dk_43 (dk_at dksL_law_34 5 rfl rfl)
theorem dL_law_930 : decode cL_law 930 = .ok (.aload_n 0, 1) := dk_42 (dk_at dksL_law_34 6 rfl rfl)
theorem dL_law_931 : decode cL_law 931 = .ok (.iload_n 3, 1) := dk_29 (dk_at dksL_law_34 7 rfl rfl)
theorem dL_law_932 : decode cL_law 932 = .ok (.iconst 1, 1) := dk_4 (dk_at dksL_law_34 8 rfl rfl)
theorem dL_law_933 : decode cL_law 933 = .ok (.iadd, 1) := dk_96 (dk_at dksL_law_34 9 rfl rfl)
theorem dL_law_934 : decode cL_law 934 = .ok (.iaload, 1) := dk_46 (dk_at dksL_law_34 10 rfl rfl)
theorem dL_law_935 : decode cL_law 935 = .ok (.invokevirtual 129, 3) := dk_182 0 129 (dk_at dksL_law_34 11 rfl rfl)
theorem dL_law_938 : decode cL_law 938 = .ok (.aload_n 2, 1) := dk_44 (dk_at dksL_law_34 14 rfl rfl)
theorem dL_law_939 : decode cL_law 939 = .ok (.aload_n 0, 1) := dk_42 (dk_at dksL_law_34 15 rfl rfl)
theorem dL_law_940 : decode cL_law 940 = .ok (.iload_n 3, 1) := dk_29 (dk_at dksL_law_34 16 rfl rfl)
theorem dL_law_941 : decode cL_law 941 = .ok (.iconst 1, 1) := dk_4 (dk_at dksL_law_34 17 rfl rfl)
theorem dL_law_942 : decode cL_law 942 = .ok (.iadd, 1) := dk_96 (dk_at dksL_law_34 18 rfl rfl)
theorem dL_law_943 : decode cL_law 943 = .ok (.iaload, 1) := dk_46 (dk_at dksL_law_34 19 rfl rfl)
theorem dL_law_944 : decode cL_law 944 = .ok (.invokevirtual 132, 3) := dk_182 0 132 (dk_at dksL_law_34 20 rfl rfl)
theorem dL_law_947 : decode cL_law 947 = .ok (.if_icmp .eq 402, 3) := dk_159 1 146 (dk_at dksL_law_35 0 rfl rfl)
theorem dL_law_950 : decode cL_law 950 = .ok (.iconst 0, 1) := dk_3 (dk_at dksL_law_35 3 rfl rfl)
theorem dL_law_951 : decode cL_law 951 = .ok (.ireturn, 1) := dk_172 (dk_at dksL_law_35 4 rfl rfl)
theorem dL_law_952 : decode cL_law 952 = .ok (.aload_n 1, 1) := dk_43 (dk_at dksL_law_35 5 rfl rfl)
theorem dL_law_953 : decode cL_law 953 = .ok (.invokevirtual 133, 3) := dk_182 0 133 (dk_at dksL_law_35 6 rfl rfl)
theorem dL_law_956 : decode cL_law 956 = .ok (.aload_n 2, 1) := dk_44 (dk_at dksL_law_35 9 rfl rfl)
theorem dL_law_957 : decode cL_law 957 = .ok (.invokevirtual 136, 3) := dk_182 0 136 (dk_at dksL_law_35 10 rfl rfl)
theorem dL_law_960 : decode cL_law 960 = .ok (.if_icmp .eq 389, 3) := dk_159 1 133 (dk_at dksL_law_35 13 rfl rfl)
theorem dL_law_963 : decode cL_law 963 = .ok (.iconst 0, 1) := dk_3 (dk_at dksL_law_35 16 rfl rfl)
theorem dL_law_964 : decode cL_law 964 = .ok (.ireturn, 1) := dk_172 (dk_at dksL_law_35 17 rfl rfl)
theorem dL_law_965 : decode cL_law 965 = .ok (.aload_n 1, 1) := dk_43 (dk_at dksL_law_35 18 rfl rfl)
theorem dL_law_966 : decode cL_law 966 = .ok (.invokevirtual 137, 3) := dk_182 0 137 (dk_at dksL_law_35 19 rfl rfl)
theorem dL_law_969 : decode cL_law 969 = .ok (.aload_n 2, 1) := dk_44 (dk_at dksL_law_35 22 rfl rfl)
theorem dL_law_970 : decode cL_law 970 = .ok (.invokevirtual 140, 3) := dk_182 0 140 (dk_at dksL_law_36 0 rfl rfl)
theorem dL_law_973 : decode cL_law 973 = .ok (.if_icmp .eq 376, 3) := dk_159 1 120 (dk_at dksL_law_36 3 rfl rfl)
theorem dL_law_976 : decode cL_law 976 = .ok (.iconst 0, 1) := dk_3 (dk_at dksL_law_36 6 rfl rfl)
theorem dL_law_977 : decode cL_law 977 = .ok (.ireturn, 1) := dk_172 (dk_at dksL_law_36 7 rfl rfl)
theorem dL_law_978 : decode cL_law 978 = .ok (.aload_n 1, 1) := dk_43 (dk_at dksL_law_36 8 rfl rfl)
theorem dL_law_979 : decode cL_law 979 = .ok (.aload_n 0, 1) := dk_42 (dk_at dksL_law_36 9 rfl rfl)
theorem dL_law_980 : decode cL_law 980 = .ok (.iload_n 3, 1) := dk_29 (dk_at dksL_law_36 10 rfl rfl)
theorem dL_law_981 : decode cL_law 981 = .ok (.iconst 1, 1) := dk_4 (dk_at dksL_law_36 11 rfl rfl)
theorem dL_law_982 : decode cL_law 982 = .ok (.iadd, 1) := dk_96 (dk_at dksL_law_36 12 rfl rfl)
theorem dL_law_983 : decode cL_law 983 = .ok (.iaload, 1) := dk_46 (dk_at dksL_law_36 13 rfl rfl)
theorem dL_law_984 : decode cL_law 984 = .ok (.aload_n 0, 1) := dk_42 (dk_at dksL_law_36 14 rfl rfl)
theorem dL_law_985 : decode cL_law 985 = .ok (.iload_n 3, 1) := dk_29 (dk_at dksL_law_36 15 rfl rfl)
theorem dL_law_986 : decode cL_law 986 = .ok (.iconst 2, 1) := dk_5 (dk_at dksL_law_36 16 rfl rfl)
theorem dL_law_987 : decode cL_law 987 = .ok (.iadd, 1) := dk_96 (dk_at dksL_law_36 17 rfl rfl)
theorem dL_law_988 : decode cL_law 988 = .ok (.iaload, 1) := dk_46 (dk_at dksL_law_36 18 rfl rfl)
theorem dL_law_989 : decode cL_law 989 = .ok (.aload_n 0, 1) := dk_42 (dk_at dksL_law_36 19 rfl rfl)
theorem dL_law_990 : decode cL_law 990 = .ok (.iload_n 3, 1) := dk_29 (dk_at dksL_law_36 20 rfl rfl)
theorem dL_law_991 : decode cL_law 991 = .ok (.iconst 3, 1) := dk_6 (dk_at dksL_law_36 21 rfl rfl)
theorem dL_law_992 : decode cL_law 992 = .ok (.iadd, 1) := dk_96 (dk_at dksL_law_36 22 rfl rfl)
theorem dL_law_993 : decode cL_law 993 = .ok (.iaload, 1) := dk_46 (dk_at dksL_law_36 23 rfl rfl)
theorem dL_law_994 : decode cL_law 994 = .ok (.aload_n 0, 1) := dk_42 (dk_at dksL_law_37 0 rfl rfl)
theorem dL_law_995 : decode cL_law 995 = .ok (.iload_n 3, 1) := dk_29 (dk_at dksL_law_37 1 rfl rfl)
theorem dL_law_996 : decode cL_law 996 = .ok (.iconst 4, 1) := dk_7 (dk_at dksL_law_37 2 rfl rfl)
theorem dL_law_997 : decode cL_law 997 = .ok (.iadd, 1) := dk_96 (dk_at dksL_law_37 3 rfl rfl)
theorem dL_law_998 : decode cL_law 998 = .ok (.iaload, 1) := dk_46 (dk_at dksL_law_37 4 rfl rfl)
theorem dL_law_999 : decode cL_law 999 = .ok (.aload_n 0, 1) := dk_42 (dk_at dksL_law_37 5 rfl rfl)
theorem dL_law_1000 : decode cL_law 1000 = .ok (.iload_n 3, 1) := dk_29 (dk_at dksL_law_37 6 rfl rfl)
theorem dL_law_1001 : decode cL_law 1001 = .ok (.iconst 5, 1) := dk_8 (dk_at dksL_law_37 7 rfl rfl)
theorem dL_law_1002 : decode cL_law 1002 = .ok (.iadd, 1) := dk_96 (dk_at dksL_law_37 8 rfl rfl)
theorem dL_law_1003 : decode cL_law 1003 = .ok (.iaload, 1) := dk_46 (dk_at dksL_law_37 9 rfl rfl)
theorem dL_law_1004 : decode cL_law 1004 = .ok (.invokevirtual 141, 3) := dk_182 0 141 (dk_at dksL_law_37 10 rfl rfl)
theorem dL_law_1007 : decode cL_law 1007 = .ok (.aload_n 2, 1) := dk_44 (dk_at dksL_law_37 13 rfl rfl)
theorem dL_law_1008 : decode cL_law 1008 = .ok (.aload_n 0, 1) := dk_42 (dk_at dksL_law_37 14 rfl rfl)
theorem dL_law_1009 : decode cL_law 1009 = .ok (.iload_n 3, 1) := dk_29 (dk_at dksL_law_37 15 rfl rfl)
theorem dL_law_1010 : decode cL_law 1010 = .ok (.iconst 1, 1) := dk_4 (dk_at dksL_law_37 16 rfl rfl)
theorem dL_law_1011 : decode cL_law 1011 = .ok (.iadd, 1) := dk_96 (dk_at dksL_law_37 17 rfl rfl)
theorem dL_law_1012 : decode cL_law 1012 = .ok (.iaload, 1) := dk_46 (dk_at dksL_law_37 18 rfl rfl)
theorem dL_law_1013 : decode cL_law 1013 = .ok (.aload_n 0, 1) := dk_42 (dk_at dksL_law_37 19 rfl rfl)
theorem dL_law_1014 : decode cL_law 1014 = .ok (.iload_n 3, 1) := dk_29 (dk_at dksL_law_37 20 rfl rfl)
theorem dL_law_1015 : decode cL_law 1015 = .ok (.iconst 2, 1) := dk_5 (dk_at dksL_law_37 21 rfl rfl)
theorem dL_law_1016 : decode cL_law 1016 = .ok (.iadd, 1) := dk_96 (dk_at dksL_law_37 22 rfl rfl)
theorem dL_law_1017 : decode cL_law 1017 = .ok (.iaload, 1) := dk_46 (dk_at dksL_law_37 23 rfl rfl)
theorem dL_law_1018 : decode cL_law 1018 = .ok (.aload_n 0, 1) := dk_42 (dk_at dksL_law_38 0 rfl rfl)
theorem dL_law_1019 : decode cL_law 1019 = .ok (.iload_n 3, 1) := dk_29 (dk_at dksL_law_38 1 rfl rfl)
theorem dL_law_1020 : decode cL_law 1020 = .ok (.iconst 3, 1) := dk_6 (dk_at dksL_law_38 2 rfl rfl)
theorem dL_law_1021 : decode cL_law 1021 = .ok (.iadd, 1) := dk_96 (dk_at dksL_law_38 3 rfl rfl)
theorem dL_law_1022 : decode cL_law 1022 = .ok (.iaload, 1) := dk_46 (dk_at dksL_law_38 4 rfl rfl)
theorem dL_law_1023 : decode cL_law 1023 = .ok (.aload_n 0, 1) := dk_42 (dk_at dksL_law_38 5 rfl rfl)
theorem dL_law_1024 : decode cL_law 1024 = .ok (.iload_n 3, 1) := dk_29 (dk_at dksL_law_38 6 rfl rfl)
theorem dL_law_1025 : decode cL_law 1025 = .ok (.iconst 4, 1) := dk_7 (dk_at dksL_law_38 7 rfl rfl)
theorem dL_law_1026 : decode cL_law 1026 = .ok (.iadd, 1) := dk_96 (dk_at dksL_law_38 8 rfl rfl)
theorem dL_law_1027 : decode cL_law 1027 = .ok (.iaload, 1) := dk_46 (dk_at dksL_law_38 9 rfl rfl)
theorem dL_law_1028 : decode cL_law 1028 = .ok (.aload_n 0, 1) := dk_42 (dk_at dksL_law_38 10 rfl rfl)
theorem dL_law_1029 : decode cL_law 1029 = .ok (.iload_n 3, 1) := dk_29 (dk_at dksL_law_38 11 rfl rfl)
theorem dL_law_1030 : decode cL_law 1030 = .ok (.iconst 5, 1) := dk_8 (dk_at dksL_law_38 12 rfl rfl)
theorem dL_law_1031 : decode cL_law 1031 = .ok (.iadd, 1) := dk_96 (dk_at dksL_law_38 13 rfl rfl)
theorem dL_law_1032 : decode cL_law 1032 = .ok (.iaload, 1) := dk_46 (dk_at dksL_law_38 14 rfl rfl)
theorem dL_law_1033 : decode cL_law 1033 = .ok (.invokevirtual 145, 3) := dk_182 0 145 (dk_at dksL_law_38 15 rfl rfl)
theorem dL_law_1036 : decode cL_law 1036 = .ok (.if_icmp .eq 313, 3) := dk_159 1 57 (dk_at dksL_law_38 18 rfl rfl)
theorem dL_law_1039 : decode cL_law 1039 = .ok (.iconst 0, 1) := dk_3 (dk_at dksL_law_38 21 rfl rfl)
theorem dL_law_1040 : decode cL_law 1040 = .ok (.ireturn, 1) := dk_172 (dk_at dksL_law_38 22 rfl rfl)
theorem dL_law_1041 : decode cL_law 1041 = .ok (.aload_n 1, 1) := dk_43 (dk_at dksL_law_38 23 rfl rfl)
theorem dL_law_1042 : decode cL_law 1042 = .ok (.aload_n 0, 1) := dk_42 (dk_at dksL_law_39 0 rfl rfl)
theorem dL_law_1043 : decode cL_law 1043 = .ok (.iload_n 3, 1) := dk_29 (dk_at dksL_law_39 1 rfl rfl)
theorem dL_law_1044 : decode cL_law 1044 = .ok (.iconst 1, 1) := dk_4 (dk_at dksL_law_39 2 rfl rfl)
theorem dL_law_1045 : decode cL_law 1045 = .ok (.iadd, 1) := dk_96 (dk_at dksL_law_39 3 rfl rfl)
theorem dL_law_1046 : decode cL_law 1046 = .ok (.iaload, 1) := dk_46 (dk_at dksL_law_39 4 rfl rfl)
theorem dL_law_1047 : decode cL_law 1047 = .ok (.aload_n 0, 1) := dk_42 (dk_at dksL_law_39 5 rfl rfl)
theorem dL_law_1048 : decode cL_law 1048 = .ok (.iload_n 3, 1) := dk_29 (dk_at dksL_law_39 6 rfl rfl)
theorem dL_law_1049 : decode cL_law 1049 = .ok (.iconst 2, 1) := dk_5 (dk_at dksL_law_39 7 rfl rfl)
theorem dL_law_1050 : decode cL_law 1050 = .ok (.iadd, 1) := dk_96 (dk_at dksL_law_39 8 rfl rfl)
theorem dL_law_1051 : decode cL_law 1051 = .ok (.iaload, 1) := dk_46 (dk_at dksL_law_39 9 rfl rfl)
theorem dL_law_1052 : decode cL_law 1052 = .ok (.aload_n 0, 1) := dk_42 (dk_at dksL_law_39 10 rfl rfl)
theorem dL_law_1053 : decode cL_law 1053 = .ok (.iload_n 3, 1) := dk_29 (dk_at dksL_law_39 11 rfl rfl)
theorem dL_law_1054 : decode cL_law 1054 = .ok (.iconst 3, 1) := dk_6 (dk_at dksL_law_39 12 rfl rfl)
theorem dL_law_1055 : decode cL_law 1055 = .ok (.iadd, 1) := dk_96 (dk_at dksL_law_39 13 rfl rfl)
theorem dL_law_1056 : decode cL_law 1056 = .ok (.iaload, 1) := dk_46 (dk_at dksL_law_39 14 rfl rfl)
theorem dL_law_1057 : decode cL_law 1057 = .ok (.invokevirtual 146, 3) := dk_182 0 146 (dk_at dksL_law_39 15 rfl rfl)
theorem dL_law_1060 : decode cL_law 1060 = .ok (.aload_n 2, 1) := dk_44 (dk_at dksL_law_39 18 rfl rfl)
theorem dL_law_1061 : decode cL_law 1061 = .ok (.aload_n 0, 1) := dk_42 (dk_at dksL_law_39 19 rfl rfl)
theorem dL_law_1062 : decode cL_law 1062 = .ok (.iload_n 3, 1) := dk_29 (dk_at dksL_law_39 20 rfl rfl)
theorem dL_law_1063 : decode cL_law 1063 = .ok (.iconst 1, 1) := dk_4 (dk_at dksL_law_39 21 rfl rfl)
theorem dL_law_1064 : decode cL_law 1064 = .ok (.iadd, 1) := dk_96 (dk_at dksL_law_39 22 rfl rfl)
theorem dL_law_1065 : decode cL_law 1065 = .ok (.iaload, 1) := dk_46 (dk_at dksL_law_39 23 rfl rfl)
theorem dL_law_1066 : decode cL_law 1066 = .ok (.aload_n 0, 1) := dk_42 (dk_at dksL_law_40 0 rfl rfl)
theorem dL_law_1067 : decode cL_law 1067 = .ok (.iload_n 3, 1) := dk_29 (dk_at dksL_law_40 1 rfl rfl)
theorem dL_law_1068 : decode cL_law 1068 = .ok (.iconst 2, 1) := dk_5 (dk_at dksL_law_40 2 rfl rfl)
theorem dL_law_1069 : decode cL_law 1069 = .ok (.iadd, 1) := dk_96 (dk_at dksL_law_40 3 rfl rfl)
theorem dL_law_1070 : decode cL_law 1070 = .ok (.iaload, 1) := dk_46 (dk_at dksL_law_40 4 rfl rfl)
theorem dL_law_1071 : decode cL_law 1071 = .ok (.aload_n 0, 1) := dk_42 (dk_at dksL_law_40 5 rfl rfl)
theorem dL_law_1072 : decode cL_law 1072 = .ok (.iload_n 3, 1) := dk_29 (dk_at dksL_law_40 6 rfl rfl)
theorem dL_law_1073 : decode cL_law 1073 = .ok (.iconst 3, 1) := dk_6 (dk_at dksL_law_40 7 rfl rfl)
theorem dL_law_1074 : decode cL_law 1074 = .ok (.iadd, 1) := dk_96 (dk_at dksL_law_40 8 rfl rfl)
theorem dL_law_1075 : decode cL_law 1075 = .ok (.iaload, 1) := dk_46 (dk_at dksL_law_40 9 rfl rfl)
theorem dL_law_1076 : decode cL_law 1076 = .ok (.invokevirtual 149, 3) := dk_182 0 149 (dk_at dksL_law_40 10 rfl rfl)
theorem dL_law_1079 : decode cL_law 1079 = .ok (.if_icmp .eq 270, 3) := dk_159 1 14 (dk_at dksL_law_40 13 rfl rfl)
theorem dL_law_1082 : decode cL_law 1082 = .ok (.iconst 0, 1) := dk_3 (dk_at dksL_law_40 16 rfl rfl)
theorem dL_law_1083 : decode cL_law 1083 = .ok (.ireturn, 1) := dk_172 (dk_at dksL_law_40 17 rfl rfl)
theorem dL_law_1084 : decode cL_law 1084 = .ok (.aload_n 1, 1) := dk_43 (dk_at dksL_law_40 18 rfl rfl)
theorem dL_law_1085 : decode cL_law 1085 = .ok (.aload_n 0, 1) := dk_42 (dk_at dksL_law_40 19 rfl rfl)
theorem dL_law_1086 : decode cL_law 1086 = .ok (.iload_n 3, 1) := dk_29 (dk_at dksL_law_40 20 rfl rfl)
theorem dL_law_1087 : decode cL_law 1087 = .ok (.iconst 1, 1) := dk_4 (dk_at dksL_law_40 21 rfl rfl)
theorem dL_law_1088 : decode cL_law 1088 = .ok (.iadd, 1) := dk_96 (dk_at dksL_law_40 22 rfl rfl)
theorem dL_law_1089 : decode cL_law 1089 = .ok (.iaload, 1) := dk_46 (dk_at dksL_law_40 23 rfl rfl)
theorem dL_law_1090 : decode cL_law 1090 = .ok (.aload_n 0, 1) := dk_42 (dk_at dksL_law_41 0 rfl rfl)
theorem dL_law_1091 : decode cL_law 1091 = .ok (.iload_n 3, 1) := dk_29 (dk_at dksL_law_41 1 rfl rfl)
theorem dL_law_1092 : decode cL_law 1092 = .ok (.iconst 2, 1) := dk_5 (dk_at dksL_law_41 2 rfl rfl)
theorem dL_law_1093 : decode cL_law 1093 = .ok (.iadd, 1) := dk_96 (dk_at dksL_law_41 3 rfl rfl)
theorem dL_law_1094 : decode cL_law 1094 = .ok (.iaload, 1) := dk_46 (dk_at dksL_law_41 4 rfl rfl)
theorem dL_law_1095 : decode cL_law 1095 = .ok (.aload_n 0, 1) := dk_42 (dk_at dksL_law_41 5 rfl rfl)
theorem dL_law_1096 : decode cL_law 1096 = .ok (.iload_n 3, 1) := dk_29 (dk_at dksL_law_41 6 rfl rfl)
theorem dL_law_1097 : decode cL_law 1097 = .ok (.iconst 3, 1) := dk_6 (dk_at dksL_law_41 7 rfl rfl)
theorem dL_law_1098 : decode cL_law 1098 = .ok (.iadd, 1) := dk_96 (dk_at dksL_law_41 8 rfl rfl)
theorem dL_law_1099 : decode cL_law 1099 = .ok (.iaload, 1) := dk_46 (dk_at dksL_law_41 9 rfl rfl)
theorem dL_law_1100 : decode cL_law 1100 = .ok (.aload_n 0, 1) := dk_42 (dk_at dksL_law_41 10 rfl rfl)
theorem dL_law_1101 : decode cL_law 1101 = .ok (.iload_n 3, 1) := dk_29 (dk_at dksL_law_41 11 rfl rfl)
theorem dL_law_1102 : decode cL_law 1102 = .ok (.iconst 4, 1) := dk_7 (dk_at dksL_law_41 12 rfl rfl)
theorem dL_law_1103 : decode cL_law 1103 = .ok (.iadd, 1) := dk_96 (dk_at dksL_law_41 13 rfl rfl)
theorem dL_law_1104 : decode cL_law 1104 = .ok (.iaload, 1) := dk_46 (dk_at dksL_law_41 14 rfl rfl)
theorem dL_law_1105 : decode cL_law 1105 = .ok (.invokevirtual 150, 3) := dk_182 0 150 (dk_at dksL_law_41 15 rfl rfl)
theorem dL_law_1108 : decode cL_law 1108 = .ok (.aload_n 2, 1) := dk_44 (dk_at dksL_law_41 18 rfl rfl)
theorem dL_law_1109 : decode cL_law 1109 = .ok (.aload_n 0, 1) := dk_42 (dk_at dksL_law_41 19 rfl rfl)
theorem dL_law_1110 : decode cL_law 1110 = .ok (.iload_n 3, 1) := dk_29 (dk_at dksL_law_41 20 rfl rfl)
theorem dL_law_1111 : decode cL_law 1111 = .ok (.iconst 1, 1) := dk_4 (dk_at dksL_law_41 21 rfl rfl)
theorem dL_law_1112 : decode cL_law 1112 = .ok (.iadd, 1) := dk_96 (dk_at dksL_law_41 22 rfl rfl)
theorem dL_law_1113 : decode cL_law 1113 = .ok (.iaload, 1) := dk_46 (dk_at dksL_law_41 23 rfl rfl)
theorem dL_law_1114 : decode cL_law 1114 = .ok (.aload_n 0, 1) := dk_42 (dk_at dksL_law_42 0 rfl rfl)
theorem dL_law_1115 : decode cL_law 1115 = .ok (.iload_n 3, 1) := dk_29 (dk_at dksL_law_42 1 rfl rfl)
theorem dL_law_1116 : decode cL_law 1116 = .ok (.iconst 2, 1) := dk_5 (dk_at dksL_law_42 2 rfl rfl)
theorem dL_law_1117 : decode cL_law 1117 = .ok (.iadd, 1) := dk_96 (dk_at dksL_law_42 3 rfl rfl)
theorem dL_law_1118 : decode cL_law 1118 = .ok (.iaload, 1) := dk_46 (dk_at dksL_law_42 4 rfl rfl)
theorem dL_law_1119 : decode cL_law 1119 = .ok (.aload_n 0, 1) := dk_42 (dk_at dksL_law_42 5 rfl rfl)
theorem dL_law_1120 : decode cL_law 1120 = .ok (.iload_n 3, 1) := dk_29 (dk_at dksL_law_42 6 rfl rfl)
theorem dL_law_1121 : decode cL_law 1121 = .ok (.iconst 3, 1) := dk_6 (dk_at dksL_law_42 7 rfl rfl)
theorem dL_law_1122 : decode cL_law 1122 = .ok (.iadd, 1) := dk_96 (dk_at dksL_law_42 8 rfl rfl)
theorem dL_law_1123 : decode cL_law 1123 = .ok (.iaload, 1) := dk_46 (dk_at dksL_law_42 9 rfl rfl)
theorem dL_law_1124 : decode cL_law 1124 = .ok (.aload_n 0, 1) := dk_42 (dk_at dksL_law_42 10 rfl rfl)
theorem dL_law_1125 : decode cL_law 1125 = .ok (.iload_n 3, 1) := dk_29 (dk_at dksL_law_42 11 rfl rfl)
theorem dL_law_1126 : decode cL_law 1126 = .ok (.iconst 4, 1) := dk_7 (dk_at dksL_law_42 12 rfl rfl)
theorem dL_law_1127 : decode cL_law 1127 = .ok (.iadd, 1) := dk_96 (dk_at dksL_law_42 13 rfl rfl)
theorem dL_law_1128 : decode cL_law 1128 = .ok (.iaload, 1) := dk_46 (dk_at dksL_law_42 14 rfl rfl)
theorem dL_law_1129 : decode cL_law 1129 = .ok (.invokevirtual 154, 3) := dk_182 0 154 (dk_at dksL_law_42 15 rfl rfl)
theorem dL_law_1132 : decode cL_law 1132 = .ok (.if_icmp .eq 217, 3) := dk_159 0 217 (dk_at dksL_law_42 18 rfl rfl)
theorem dL_law_1135 : decode cL_law 1135 = .ok (.iconst 0, 1) := dk_3 (dk_at dksL_law_42 21 rfl rfl)
theorem dL_law_1136 : decode cL_law 1136 = .ok (.ireturn, 1) := dk_172 (dk_at dksL_law_42 22 rfl rfl)
theorem dL_law_1137 : decode cL_law 1137 = .ok (.aload_n 1, 1) := dk_43 (dk_at dksL_law_42 23 rfl rfl)
theorem dL_law_1138 : decode cL_law 1138 = .ok (.aload_n 0, 1) := dk_42 (dk_at dksL_law_43 0 rfl rfl)
theorem dL_law_1139 : decode cL_law 1139 = .ok (.iload_n 3, 1) := dk_29 (dk_at dksL_law_43 1 rfl rfl)
theorem dL_law_1140 : decode cL_law 1140 = .ok (.iconst 1, 1) := dk_4 (dk_at dksL_law_43 2 rfl rfl)
theorem dL_law_1141 : decode cL_law 1141 = .ok (.iadd, 1) := dk_96 (dk_at dksL_law_43 3 rfl rfl)
theorem dL_law_1142 : decode cL_law 1142 = .ok (.iaload, 1) := dk_46 (dk_at dksL_law_43 4 rfl rfl)
theorem dL_law_1143 : decode cL_law 1143 = .ok (.aload_n 0, 1) := dk_42 (dk_at dksL_law_43 5 rfl rfl)
theorem dL_law_1144 : decode cL_law 1144 = .ok (.iload_n 3, 1) := dk_29 (dk_at dksL_law_43 6 rfl rfl)
theorem dL_law_1145 : decode cL_law 1145 = .ok (.iconst 2, 1) := dk_5 (dk_at dksL_law_43 7 rfl rfl)
theorem dL_law_1146 : decode cL_law 1146 = .ok (.iadd, 1) := dk_96 (dk_at dksL_law_43 8 rfl rfl)
theorem dL_law_1147 : decode cL_law 1147 = .ok (.iaload, 1) := dk_46 (dk_at dksL_law_43 9 rfl rfl)
theorem dL_law_1148 : decode cL_law 1148 = .ok (.aload_n 0, 1) := dk_42 (dk_at dksL_law_43 10 rfl rfl)
theorem dL_law_1149 : decode cL_law 1149 = .ok (.iload_n 3, 1) := dk_29 (dk_at dksL_law_43 11 rfl rfl)
theorem dL_law_1150 : decode cL_law 1150 = .ok (.iconst 3, 1) := dk_6 (dk_at dksL_law_43 12 rfl rfl)
theorem dL_law_1151 : decode cL_law 1151 = .ok (.iadd, 1) := dk_96 (dk_at dksL_law_43 13 rfl rfl)
theorem dL_law_1152 : decode cL_law 1152 = .ok (.iaload, 1) := dk_46 (dk_at dksL_law_43 14 rfl rfl)
theorem dL_law_1153 : decode cL_law 1153 = .ok (.invokevirtual 155, 3) := dk_182 0 155 (dk_at dksL_law_43 15 rfl rfl)
theorem dL_law_1156 : decode cL_law 1156 = .ok (.aload_n 2, 1) := dk_44 (dk_at dksL_law_43 18 rfl rfl)
theorem dL_law_1157 : decode cL_law 1157 = .ok (.aload_n 0, 1) := dk_42 (dk_at dksL_law_43 19 rfl rfl)
theorem dL_law_1158 : decode cL_law 1158 = .ok (.iload_n 3, 1) := dk_29 (dk_at dksL_law_43 20 rfl rfl)
theorem dL_law_1159 : decode cL_law 1159 = .ok (.iconst 1, 1) := dk_4 (dk_at dksL_law_43 21 rfl rfl)
theorem dL_law_1160 : decode cL_law 1160 = .ok (.iadd, 1) := dk_96 (dk_at dksL_law_43 22 rfl rfl)
theorem dL_law_1161 : decode cL_law 1161 = .ok (.iaload, 1) := dk_46 (dk_at dksL_law_43 23 rfl rfl)
theorem dL_law_1162 : decode cL_law 1162 = .ok (.aload_n 0, 1) := dk_42 (dk_at dksL_law_44 0 rfl rfl)
theorem dL_law_1163 : decode cL_law 1163 = .ok (.iload_n 3, 1) := dk_29 (dk_at dksL_law_44 1 rfl rfl)
theorem dL_law_1164 : decode cL_law 1164 = .ok (.iconst 2, 1) := dk_5 (dk_at dksL_law_44 2 rfl rfl)
theorem dL_law_1165 : decode cL_law 1165 = .ok (.iadd, 1) := dk_96 (dk_at dksL_law_44 3 rfl rfl)
theorem dL_law_1166 : decode cL_law 1166 = .ok (.iaload, 1) := dk_46 (dk_at dksL_law_44 4 rfl rfl)
theorem dL_law_1167 : decode cL_law 1167 = .ok (.aload_n 0, 1) := dk_42 (dk_at dksL_law_44 5 rfl rfl)
theorem dL_law_1168 : decode cL_law 1168 = .ok (.iload_n 3, 1) := dk_29 (dk_at dksL_law_44 6 rfl rfl)
theorem dL_law_1169 : decode cL_law 1169 = .ok (.iconst 3, 1) := dk_6 (dk_at dksL_law_44 7 rfl rfl)
theorem dL_law_1170 : decode cL_law 1170 = .ok (.iadd, 1) := dk_96 (dk_at dksL_law_44 8 rfl rfl)
theorem dL_law_1171 : decode cL_law 1171 = .ok (.iaload, 1) := dk_46 (dk_at dksL_law_44 9 rfl rfl)
theorem dL_law_1172 : decode cL_law 1172 = .ok (.invokevirtual 158, 3) := dk_182 0 158 (dk_at dksL_law_44 10 rfl rfl)
theorem dL_law_1175 : decode cL_law 1175 = .ok (.if_icmp .eq 174, 3) := dk_159 0 174 (dk_at dksL_law_44 13 rfl rfl)
theorem dL_law_1178 : decode cL_law 1178 = .ok (.iconst 0, 1) := dk_3 (dk_at dksL_law_44 16 rfl rfl)
theorem dL_law_1179 : decode cL_law 1179 = .ok (.ireturn, 1) := dk_172 (dk_at dksL_law_44 17 rfl rfl)
theorem dL_law_1180 : decode cL_law 1180 = .ok (.aload_n 1, 1) := dk_43 (dk_at dksL_law_44 18 rfl rfl)
theorem dL_law_1181 : decode cL_law 1181 = .ok (.aload_n 0, 1) := dk_42 (dk_at dksL_law_44 19 rfl rfl)
theorem dL_law_1182 : decode cL_law 1182 = .ok (.iload_n 3, 1) := dk_29 (dk_at dksL_law_44 20 rfl rfl)
theorem dL_law_1183 : decode cL_law 1183 = .ok (.iconst 1, 1) := dk_4 (dk_at dksL_law_44 21 rfl rfl)
theorem dL_law_1184 : decode cL_law 1184 = .ok (.iadd, 1) := dk_96 (dk_at dksL_law_44 22 rfl rfl)
theorem dL_law_1185 : decode cL_law 1185 = .ok (.iaload, 1) := dk_46 (dk_at dksL_law_44 23 rfl rfl)
theorem dL_law_1186 : decode cL_law 1186 = .ok (.invokevirtual 159, 3) := dk_182 0 159 (dk_at dksL_law_45 0 rfl rfl)
theorem dL_law_1189 : decode cL_law 1189 = .ok (.aload_n 2, 1) := dk_44 (dk_at dksL_law_45 3 rfl rfl)
theorem dL_law_1190 : decode cL_law 1190 = .ok (.aload_n 0, 1) := dk_42 (dk_at dksL_law_45 4 rfl rfl)
theorem dL_law_1191 : decode cL_law 1191 = .ok (.iload_n 3, 1) := dk_29 (dk_at dksL_law_45 5 rfl rfl)
theorem dL_law_1192 : decode cL_law 1192 = .ok (.iconst 1, 1) := dk_4 (dk_at dksL_law_45 6 rfl rfl)
theorem dL_law_1193 : decode cL_law 1193 = .ok (.iadd, 1) := dk_96 (dk_at dksL_law_45 7 rfl rfl)
theorem dL_law_1194 : decode cL_law 1194 = .ok (.iaload, 1) := dk_46 (dk_at dksL_law_45 8 rfl rfl)
theorem dL_law_1195 : decode cL_law 1195 = .ok (.invokevirtual 162, 3) := dk_182 0 162 (dk_at dksL_law_45 9 rfl rfl)
theorem dL_law_1198 : decode cL_law 1198 = .ok (.if_icmp .eq 151, 3) := dk_159 0 151 (dk_at dksL_law_45 12 rfl rfl)
theorem dL_law_1201 : decode cL_law 1201 = .ok (.iconst 0, 1) := dk_3 (dk_at dksL_law_45 15 rfl rfl)
theorem dL_law_1202 : decode cL_law 1202 = .ok (.ireturn, 1) := dk_172 (dk_at dksL_law_45 16 rfl rfl)
theorem dL_law_1203 : decode cL_law 1203 = .ok (.aload_n 1, 1) := dk_43 (dk_at dksL_law_45 17 rfl rfl)
theorem dL_law_1204 : decode cL_law 1204 = .ok (.aload_n 0, 1) := dk_42 (dk_at dksL_law_45 18 rfl rfl)
theorem dL_law_1205 : decode cL_law 1205 = .ok (.iload_n 3, 1) := dk_29 (dk_at dksL_law_45 19 rfl rfl)
theorem dL_law_1206 : decode cL_law 1206 = .ok (.iconst 1, 1) := dk_4 (dk_at dksL_law_45 20 rfl rfl)
theorem dL_law_1207 : decode cL_law 1207 = .ok (.iadd, 1) := dk_96 (dk_at dksL_law_45 21 rfl rfl)
theorem dL_law_1208 : decode cL_law 1208 = .ok (.iaload, 1) := dk_46 (dk_at dksL_law_45 22 rfl rfl)
theorem dL_law_1209 : decode cL_law 1209 = .ok (.aload_n 0, 1) := dk_42 (dk_at dksL_law_45 23 rfl rfl)
theorem dL_law_1210 : decode cL_law 1210 = .ok (.iload_n 3, 1) := dk_29 (dk_at dksL_law_46 0 rfl rfl)
theorem dL_law_1211 : decode cL_law 1211 = .ok (.iconst 2, 1) := dk_5 (dk_at dksL_law_46 1 rfl rfl)
theorem dL_law_1212 : decode cL_law 1212 = .ok (.iadd, 1) := dk_96 (dk_at dksL_law_46 2 rfl rfl)
theorem dL_law_1213 : decode cL_law 1213 = .ok (.iaload, 1) := dk_46 (dk_at dksL_law_46 3 rfl rfl)
theorem dL_law_1214 : decode cL_law 1214 = .ok (.aload_n 0, 1) := dk_42 (dk_at dksL_law_46 4 rfl rfl)
theorem dL_law_1215 : decode cL_law 1215 = .ok (.iload_n 3, 1) := dk_29 (dk_at dksL_law_46 5 rfl rfl)
theorem dL_law_1216 : decode cL_law 1216 = .ok (.iconst 3, 1) := dk_6 (dk_at dksL_law_46 6 rfl rfl)
theorem dL_law_1217 : decode cL_law 1217 = .ok (.iadd, 1) := dk_96 (dk_at dksL_law_46 7 rfl rfl)
theorem dL_law_1218 : decode cL_law 1218 = .ok (.iaload, 1) := dk_46 (dk_at dksL_law_46 8 rfl rfl)
theorem dL_law_1219 : decode cL_law 1219 = .ok (.aload_n 0, 1) := dk_42 (dk_at dksL_law_46 9 rfl rfl)
theorem dL_law_1220 : decode cL_law 1220 = .ok (.iload_n 3, 1) := dk_29 (dk_at dksL_law_46 10 rfl rfl)
theorem dL_law_1221 : decode cL_law 1221 = .ok (.iconst 4, 1) := dk_7 (dk_at dksL_law_46 11 rfl rfl)
theorem dL_law_1222 : decode cL_law 1222 = .ok (.iadd, 1) := dk_96 (dk_at dksL_law_46 12 rfl rfl)
theorem dL_law_1223 : decode cL_law 1223 = .ok (.iaload, 1) := dk_46 (dk_at dksL_law_46 13 rfl rfl)
theorem dL_law_1224 : decode cL_law 1224 = .ok (.i2l, 1) := dk_133 (dk_at dksL_law_46 14 rfl rfl)
theorem dL_law_1225 : decode cL_law 1225 = .ok (.bipush 32, 2) := dk_16 32 (dk_at dksL_law_46 15 rfl rfl)
theorem dL_law_1227 : decode cL_law 1227 = .ok (.lshl, 1) := dk_121 (dk_at dksL_law_46 17 rfl rfl)
theorem dL_law_1228 : decode cL_law 1228 = .ok (.aload_n 0, 1) := dk_42 (dk_at dksL_law_46 18 rfl rfl)
theorem dL_law_1229 : decode cL_law 1229 = .ok (.iload_n 3, 1) := dk_29 (dk_at dksL_law_46 19 rfl rfl)
theorem dL_law_1230 : decode cL_law 1230 = .ok (.iconst 5, 1) := dk_8 (dk_at dksL_law_46 20 rfl rfl)
theorem dL_law_1231 : decode cL_law 1231 = .ok (.iadd, 1) := dk_96 (dk_at dksL_law_46 21 rfl rfl)
theorem dL_law_1232 : decode cL_law 1232 = .ok (.iaload, 1) := dk_46 (dk_at dksL_law_46 22 rfl rfl)
theorem dL_law_1233 : decode cL_law 1233 = .ok (.i2l, 1) := dk_133 (dk_at dksL_law_46 23 rfl rfl)
theorem dL_law_1234 : decode cL_law 1234 = .ok (.ldc2_w 118, 3) := dk_20 0 118 (dk_at dksL_law_47 0 rfl rfl)
theorem dL_law_1237 : decode cL_law 1237 = .ok (.land, 1) := dk_127 (dk_at dksL_law_47 3 rfl rfl)
theorem dL_law_1238 : decode cL_law 1238 = .ok (.lor, 1) := dk_129 (dk_at dksL_law_47 4 rfl rfl)
theorem dL_law_1239 : decode cL_law 1239 = .ok (.invokevirtual 163, 3) := dk_182 0 163 (dk_at dksL_law_47 5 rfl rfl)
theorem dL_law_1242 : decode cL_law 1242 = .ok (.aload_n 2, 1) := dk_44 (dk_at dksL_law_47 8 rfl rfl)
theorem dL_law_1243 : decode cL_law 1243 = .ok (.aload_n 0, 1) := dk_42 (dk_at dksL_law_47 9 rfl rfl)
theorem dL_law_1244 : decode cL_law 1244 = .ok (.iload_n 3, 1) := dk_29 (dk_at dksL_law_47 10 rfl rfl)
theorem dL_law_1245 : decode cL_law 1245 = .ok (.iconst 1, 1) := dk_4 (dk_at dksL_law_47 11 rfl rfl)
theorem dL_law_1246 : decode cL_law 1246 = .ok (.iadd, 1) := dk_96 (dk_at dksL_law_47 12 rfl rfl)
theorem dL_law_1247 : decode cL_law 1247 = .ok (.iaload, 1) := dk_46 (dk_at dksL_law_47 13 rfl rfl)
theorem dL_law_1248 : decode cL_law 1248 = .ok (.aload_n 0, 1) := dk_42 (dk_at dksL_law_47 14 rfl rfl)
theorem dL_law_1249 : decode cL_law 1249 = .ok (.iload_n 3, 1) := dk_29 (dk_at dksL_law_47 15 rfl rfl)
theorem dL_law_1250 : decode cL_law 1250 = .ok (.iconst 2, 1) := dk_5 (dk_at dksL_law_47 16 rfl rfl)
theorem dL_law_1251 : decode cL_law 1251 = .ok (.iadd, 1) := dk_96 (dk_at dksL_law_47 17 rfl rfl)
theorem dL_law_1252 : decode cL_law 1252 = .ok (.iaload, 1) := dk_46 (dk_at dksL_law_47 18 rfl rfl)
theorem dL_law_1253 : decode cL_law 1253 = .ok (.aload_n 0, 1) := dk_42 (dk_at dksL_law_47 19 rfl rfl)
theorem dL_law_1254 : decode cL_law 1254 = .ok (.iload_n 3, 1) := dk_29 (dk_at dksL_law_47 20 rfl rfl)
theorem dL_law_1255 : decode cL_law 1255 = .ok (.iconst 3, 1) := dk_6 (dk_at dksL_law_47 21 rfl rfl)
theorem dL_law_1256 : decode cL_law 1256 = .ok (.iadd, 1) := dk_96 (dk_at dksL_law_47 22 rfl rfl)
theorem dL_law_1257 : decode cL_law 1257 = .ok (.iaload, 1) := dk_46 (dk_at dksL_law_47 23 rfl rfl)
theorem dL_law_1258 : decode cL_law 1258 = .ok (.aload_n 0, 1) := dk_42 (dk_at dksL_law_48 0 rfl rfl)
theorem dL_law_1259 : decode cL_law 1259 = .ok (.iload_n 3, 1) := dk_29 (dk_at dksL_law_48 1 rfl rfl)
theorem dL_law_1260 : decode cL_law 1260 = .ok (.iconst 4, 1) := dk_7 (dk_at dksL_law_48 2 rfl rfl)
theorem dL_law_1261 : decode cL_law 1261 = .ok (.iadd, 1) := dk_96 (dk_at dksL_law_48 3 rfl rfl)
theorem dL_law_1262 : decode cL_law 1262 = .ok (.iaload, 1) := dk_46 (dk_at dksL_law_48 4 rfl rfl)
theorem dL_law_1263 : decode cL_law 1263 = .ok (.i2l, 1) := dk_133 (dk_at dksL_law_48 5 rfl rfl)
theorem dL_law_1264 : decode cL_law 1264 = .ok (.bipush 32, 2) := dk_16 32 (dk_at dksL_law_48 6 rfl rfl)
theorem dL_law_1266 : decode cL_law 1266 = .ok (.lshl, 1) := dk_121 (dk_at dksL_law_48 8 rfl rfl)
theorem dL_law_1267 : decode cL_law 1267 = .ok (.aload_n 0, 1) := dk_42 (dk_at dksL_law_48 9 rfl rfl)
theorem dL_law_1268 : decode cL_law 1268 = .ok (.iload_n 3, 1) := dk_29 (dk_at dksL_law_48 10 rfl rfl)
theorem dL_law_1269 : decode cL_law 1269 = .ok (.iconst 5, 1) := dk_8 (dk_at dksL_law_48 11 rfl rfl)
theorem dL_law_1270 : decode cL_law 1270 = .ok (.iadd, 1) := dk_96 (dk_at dksL_law_48 12 rfl rfl)
theorem dL_law_1271 : decode cL_law 1271 = .ok (.iaload, 1) := dk_46 (dk_at dksL_law_48 13 rfl rfl)
theorem dL_law_1272 : decode cL_law 1272 = .ok (.i2l, 1) := dk_133 (dk_at dksL_law_48 14 rfl rfl)
theorem dL_law_1273 : decode cL_law 1273 = .ok (.ldc2_w 118, 3) := dk_20 0 118 (dk_at dksL_law_48 15 rfl rfl)
theorem dL_law_1276 : decode cL_law 1276 = .ok (.land, 1) := dk_127 (dk_at dksL_law_48 18 rfl rfl)
theorem dL_law_1277 : decode cL_law 1277 = .ok (.lor, 1) := dk_129 (dk_at dksL_law_48 19 rfl rfl)
theorem dL_law_1278 : decode cL_law 1278 = .ok (.invokevirtual 167, 3) := dk_182 0 167 (dk_at dksL_law_48 20 rfl rfl)
theorem dL_law_1281 : decode cL_law 1281 = .ok (.if_icmp .eq 68, 3) := dk_159 0 68 (dk_at dksL_law_49 0 rfl rfl)
theorem dL_law_1284 : decode cL_law 1284 = .ok (.iconst 0, 1) := dk_3 (dk_at dksL_law_49 3 rfl rfl)
theorem dL_law_1285 : decode cL_law 1285 = .ok (.ireturn, 1) := dk_172 (dk_at dksL_law_49 4 rfl rfl)
theorem dL_law_1286 : decode cL_law 1286 = .ok (.aload_n 1, 1) := dk_43 (dk_at dksL_law_49 5 rfl rfl)
theorem dL_law_1287 : decode cL_law 1287 = .ok (.aload_n 0, 1) := dk_42 (dk_at dksL_law_49 6 rfl rfl)
theorem dL_law_1288 : decode cL_law 1288 = .ok (.iload_n 3, 1) := dk_29 (dk_at dksL_law_49 7 rfl rfl)
theorem dL_law_1289 : decode cL_law 1289 = .ok (.iconst 1, 1) := dk_4 (dk_at dksL_law_49 8 rfl rfl)
theorem dL_law_1290 : decode cL_law 1290 = .ok (.iadd, 1) := dk_96 (dk_at dksL_law_49 9 rfl rfl)
theorem dL_law_1291 : decode cL_law 1291 = .ok (.iaload, 1) := dk_46 (dk_at dksL_law_49 10 rfl rfl)
theorem dL_law_1292 : decode cL_law 1292 = .ok (.aload_n 0, 1) := dk_42 (dk_at dksL_law_49 11 rfl rfl)
theorem dL_law_1293 : decode cL_law 1293 = .ok (.iload_n 3, 1) := dk_29 (dk_at dksL_law_49 12 rfl rfl)
theorem dL_law_1294 : decode cL_law 1294 = .ok (.iconst 2, 1) := dk_5 (dk_at dksL_law_49 13 rfl rfl)
theorem dL_law_1295 : decode cL_law 1295 = .ok (.iadd, 1) := dk_96 (dk_at dksL_law_49 14 rfl rfl)
theorem dL_law_1296 : decode cL_law 1296 = .ok (.iaload, 1) := dk_46 (dk_at dksL_law_49 15 rfl rfl)
theorem dL_law_1297 : decode cL_law 1297 = .ok (.aload_n 0, 1) := dk_42 (dk_at dksL_law_49 16 rfl rfl)
theorem dL_law_1298 : decode cL_law 1298 = .ok (.iload_n 3, 1) := dk_29 (dk_at dksL_law_49 17 rfl rfl)
theorem dL_law_1299 : decode cL_law 1299 = .ok (.iconst 3, 1) := dk_6 (dk_at dksL_law_49 18 rfl rfl)
theorem dL_law_1300 : decode cL_law 1300 = .ok (.iadd, 1) := dk_96 (dk_at dksL_law_49 19 rfl rfl)
theorem dL_law_1301 : decode cL_law 1301 = .ok (.iaload, 1) := dk_46 (dk_at dksL_law_49 20 rfl rfl)
theorem dL_law_1302 : decode cL_law 1302 = .ok (.aload_n 0, 1) := dk_42 (dk_at dksL_law_49 21 rfl rfl)
theorem dL_law_1303 : decode cL_law 1303 = .ok (.iload_n 3, 1) := dk_29 (dk_at dksL_law_49 22 rfl rfl)
theorem dL_law_1304 : decode cL_law 1304 = .ok (.iconst 4, 1) := dk_7 (dk_at dksL_law_49 23 rfl rfl)
theorem dL_law_1305 : decode cL_law 1305 = .ok (.iadd, 1) := dk_96 (dk_at dksL_law_50 0 rfl rfl)
theorem dL_law_1306 : decode cL_law 1306 = .ok (.iaload, 1) := dk_46 (dk_at dksL_law_50 1 rfl rfl)
theorem dL_law_1307 : decode cL_law 1307 = .ok (.aload_n 0, 1) := dk_42 (dk_at dksL_law_50 2 rfl rfl)
theorem dL_law_1308 : decode cL_law 1308 = .ok (.iload_n 3, 1) := dk_29 (dk_at dksL_law_50 3 rfl rfl)
theorem dL_law_1309 : decode cL_law 1309 = .ok (.iconst 5, 1) := dk_8 (dk_at dksL_law_50 4 rfl rfl)
theorem dL_law_1310 : decode cL_law 1310 = .ok (.iadd, 1) := dk_96 (dk_at dksL_law_50 5 rfl rfl)
theorem dL_law_1311 : decode cL_law 1311 = .ok (.iaload, 1) := dk_46 (dk_at dksL_law_50 6 rfl rfl)
theorem dL_law_1312 : decode cL_law 1312 = .ok (.invokevirtual 168, 3) := dk_182 0 168 (dk_at dksL_law_50 7 rfl rfl)
theorem dL_law_1315 : decode cL_law 1315 = .ok (.aload_n 2, 1) := dk_44 (dk_at dksL_law_50 10 rfl rfl)
theorem dL_law_1316 : decode cL_law 1316 = .ok (.aload_n 0, 1) := dk_42 (dk_at dksL_law_50 11 rfl rfl)
theorem dL_law_1317 : decode cL_law 1317 = .ok (.iload_n 3, 1) := dk_29 (dk_at dksL_law_50 12 rfl rfl)
theorem dL_law_1318 : decode cL_law 1318 = .ok (.iconst 1, 1) := dk_4 (dk_at dksL_law_50 13 rfl rfl)
theorem dL_law_1319 : decode cL_law 1319 = .ok (.iadd, 1) := dk_96 (dk_at dksL_law_50 14 rfl rfl)
theorem dL_law_1320 : decode cL_law 1320 = .ok (.iaload, 1) := dk_46 (dk_at dksL_law_50 15 rfl rfl)
theorem dL_law_1321 : decode cL_law 1321 = .ok (.aload_n 0, 1) := dk_42 (dk_at dksL_law_50 16 rfl rfl)
theorem dL_law_1322 : decode cL_law 1322 = .ok (.iload_n 3, 1) := dk_29 (dk_at dksL_law_50 17 rfl rfl)
theorem dL_law_1323 : decode cL_law 1323 = .ok (.iconst 2, 1) := dk_5 (dk_at dksL_law_50 18 rfl rfl)
theorem dL_law_1324 : decode cL_law 1324 = .ok (.iadd, 1) := dk_96 (dk_at dksL_law_50 19 rfl rfl)
theorem dL_law_1325 : decode cL_law 1325 = .ok (.iaload, 1) := dk_46 (dk_at dksL_law_50 20 rfl rfl)
theorem dL_law_1326 : decode cL_law 1326 = .ok (.aload_n 0, 1) := dk_42 (dk_at dksL_law_50 21 rfl rfl)
theorem dL_law_1327 : decode cL_law 1327 = .ok (.iload_n 3, 1) := dk_29 (dk_at dksL_law_50 22 rfl rfl)
theorem dL_law_1328 : decode cL_law 1328 = .ok (.iconst 3, 1) := dk_6 (dk_at dksL_law_50 23 rfl rfl)
theorem dL_law_1329 : decode cL_law 1329 = .ok (.iadd, 1) := dk_96 (dk_at dksL_law_51 0 rfl rfl)
theorem dL_law_1330 : decode cL_law 1330 = .ok (.iaload, 1) := dk_46 (dk_at dksL_law_51 1 rfl rfl)
theorem dL_law_1331 : decode cL_law 1331 = .ok (.aload_n 0, 1) := dk_42 (dk_at dksL_law_51 2 rfl rfl)
theorem dL_law_1332 : decode cL_law 1332 = .ok (.iload_n 3, 1) := dk_29 (dk_at dksL_law_51 3 rfl rfl)
theorem dL_law_1333 : decode cL_law 1333 = .ok (.iconst 4, 1) := dk_7 (dk_at dksL_law_51 4 rfl rfl)
theorem dL_law_1334 : decode cL_law 1334 = .ok (.iadd, 1) := dk_96 (dk_at dksL_law_51 5 rfl rfl)
theorem dL_law_1335 : decode cL_law 1335 = .ok (.iaload, 1) := dk_46 (dk_at dksL_law_51 6 rfl rfl)
theorem dL_law_1336 : decode cL_law 1336 = .ok (.aload_n 0, 1) := dk_42 (dk_at dksL_law_51 7 rfl rfl)
theorem dL_law_1337 : decode cL_law 1337 = .ok (.iload_n 3, 1) := dk_29 (dk_at dksL_law_51 8 rfl rfl)
theorem dL_law_1338 : decode cL_law 1338 = .ok (.iconst 5, 1) := dk_8 (dk_at dksL_law_51 9 rfl rfl)
theorem dL_law_1339 : decode cL_law 1339 = .ok (.iadd, 1) := dk_96 (dk_at dksL_law_51 10 rfl rfl)
theorem dL_law_1340 : decode cL_law 1340 = .ok (.iaload, 1) := dk_46 (dk_at dksL_law_51 11 rfl rfl)
theorem dL_law_1341 : decode cL_law 1341 = .ok (.invokevirtual 171, 3) := dk_182 0 171 (dk_at dksL_law_51 12 rfl rfl)
theorem dL_law_1344 : decode cL_law 1344 = .ok (.if_icmp .eq 5, 3) := dk_159 0 5 (dk_at dksL_law_51 15 rfl rfl)
theorem dL_law_1347 : decode cL_law 1347 = .ok (.iconst 0, 1) := dk_3 (dk_at dksL_law_51 18 rfl rfl)
theorem dL_law_1348 : decode cL_law 1348 = .ok (.ireturn, 1) := dk_172 (dk_at dksL_law_51 19 rfl rfl)
theorem dL_law_1349 : decode cL_law 1349 = .ok (.iinc 3 6, 3) := dk_132 3 6 (dk_at dksL_law_51 20 rfl rfl)
theorem dL_law_1352 : decode cL_law 1352 = .ok (.goto (-1334), 3) := dk_167 250 202 (dk_at dksL_law_52 0 rfl rfl)
theorem dL_law_1355 : decode cL_law 1355 = .ok (.iconst 1, 1) := dk_4 (dk_at dksL_law_52 3 rfl rfl)
theorem dL_law_1356 : decode cL_law 1356 = .ok (.ireturn, 1) := dk_172 (dk_at dksL_law_52 4 rfl rfl)
theorem q53 : (Jvm.Cond.initialized "HoleCountyLaw") ∈ lw_all := lw_g (lw_at lw_m1 0 rfl) rfl
set_option maxRecDepth 100000
theorem q88 : (Jvm.Cond.methodLink "HoleCountyLaw" (13 : Nat) ({ cls := "HoleCounty", name := "dig", desc := "(I)I" } : Jvm.MethodName)) ∈ lw_all := lw_g (lw_at lw_m1 35 rfl) rfl
theorem q214 : (Jvm.Cond.methodLink "HoleCountyLaw" (18 : Nat) ({ cls := "HoleCounty", name := "fill", desc := "(I)I" } : Jvm.MethodName)) ∈ lw_all := lw_g (lw_at lw_m1 161 rfl) rfl
theorem q227 : (Jvm.Cond.methodLink "HoleCountyLaw" (22 : Nat) ({ cls := "HoleCounty", name := "roof", desc := "(I)I" } : Jvm.MethodName)) ∈ lw_all := lw_g (lw_at lw_m1 174 rfl) rfl
theorem q231 : (Jvm.Cond.methodLink "HoleCountyLaw" (26 : Nat) ({ cls := "HoleCounty", name := "undo", desc := "()I" } : Jvm.MethodName)) ∈ lw_all := lw_g (lw_at lw_m1 178 rfl) rfl
theorem q247 : (Jvm.Cond.methodLink "HoleCountyLaw" (31 : Nat) ({ cls := "HoleCounty", name := "own", desc := "(II)I" } : Jvm.MethodName)) ∈ lw_all := lw_g (lw_at lw_m1 194 rfl) rfl
theorem q252 : (Jvm.Cond.methodLink "HoleCountyLaw" (36 : Nat) ({ cls := "HoleCounty", name := "rate", desc := "(I)I" } : Jvm.MethodName)) ∈ lw_all := lw_g (lw_at lw_m1 199 rfl) rfl
theorem q257 : (Jvm.Cond.methodLink "HoleCountyLaw" (40 : Nat) ({ cls := "HoleCounty", name := "told", desc := "(II)I" } : Jvm.MethodName)) ∈ lw_all := lw_g (lw_at lw_m1 204 rfl) rfl
theorem q352 : (Jvm.Cond.methodLink "HoleCountyLaw" (60 : Nat) ({ cls := "HoleCounty", name := "count", desc := "(I)I" } : Jvm.MethodName)) ∈ lw_all := lw_g (lw_at lw_m2 59 rfl) rfl
theorem q440 : (Jvm.Cond.methodLink "HoleCountyLaw" (64 : Nat) ({ cls := "HoleCounty", name := "hole", desc := "(II)I" } : Jvm.MethodName)) ∈ lw_all := lw_g (lw_at lw_m2 147 rfl) rfl
theorem q516 : (Jvm.Cond.methodLink "HoleCountyLaw" (68 : Nat) ({ cls := "HoleCounty", name := "cells", desc := "(II)J" } : Jvm.MethodName)) ∈ lw_all := lw_g (lw_at lw_m2 223 rfl) rfl
theorem q522 : (Jvm.Cond.methodLink "HoleCountyLaw" (73 : Nat) ({ cls := "HoleCounty", name := "part", desc := "(II)I" } : Jvm.MethodName)) ∈ lw_all := lw_g (lw_at lw_m2 229 rfl) rfl
theorem q621 : (Jvm.Cond.methodLink "HoleCountyLaw" (77 : Nat) ({ cls := "HoleCounty", name := "pays", desc := "(I)I" } : Jvm.MethodName)) ∈ lw_all := lw_g (lw_at lw_m3 88 rfl) rfl
theorem q625 : (Jvm.Cond.methodLink "HoleCountyLaw" (81 : Nat) ({ cls := "HoleCounty", name := "worth", desc := "(I)I" } : Jvm.MethodName)) ∈ lw_all := lw_g (lw_at lw_m3 92 rfl) rfl
theorem q635 : (Jvm.Cond.methodLink "HoleCountyLaw" (85 : Nat) ({ cls := "HoleCounty", name := "filled", desc := "(II)I" } : Jvm.MethodName)) ∈ lw_all := lw_g (lw_at lw_m3 102 rfl) rfl
theorem q651 : (Jvm.Cond.methodLink "HoleCountyLaw" (89 : Nat) ({ cls := "HoleCounty", name := "split", desc := "(II)I" } : Jvm.MethodName)) ∈ lw_all := lw_g (lw_at lw_m3 118 rfl) rfl
theorem q658 : (Jvm.Cond.methodLink "HoleCountyLaw" (93 : Nat) ({ cls := "HoleCounty", name := "dug", desc := "(III)I" } : Jvm.MethodName)) ∈ lw_all := lw_g (lw_at lw_m3 125 rfl) rfl
theorem q666 : (Jvm.Cond.methodLink "HoleCountyLaw" (98 : Nat) ({ cls := "HoleCounty", name := "loophole", desc := "()I" } : Jvm.MethodName)) ∈ lw_all := lw_g (lw_at lw_m3 133 rfl) rfl
theorem q670 : (Jvm.Cond.methodLink "HoleCountyLaw" (102 : Nat) ({ cls := "HoleCounty", name := "roofs", desc := "(I)I" } : Jvm.MethodName)) ∈ lw_all := lw_g (lw_at lw_m3 137 rfl) rfl
theorem q674 : (Jvm.Cond.methodLink "HoleCountyLaw" (106 : Nat) ({ cls := "HoleCounty", name := "round", desc := "(II)I" } : Jvm.MethodName)) ∈ lw_all := lw_g (lw_at lw_m3 141 rfl) rfl
theorem q693 : (Jvm.Cond.methodLink "HoleCountyLaw" (110 : Nat) ({ cls := "HoleCounty", name := "border", desc := "(I)I" } : Jvm.MethodName)) ∈ lw_all := lw_g (lw_at lw_m3 160 rfl) rfl
theorem q697 : (Jvm.Cond.methodLink "HoleCountyLaw" (114 : Nat) ({ cls := "HoleCounty", name := "cut", desc := "(I)I" } : Jvm.MethodName)) ∈ lw_all := lw_g (lw_at lw_m3 164 rfl) rfl
theorem q701 : (Jvm.Cond.methodLink "HoleCountyLaw" (120 : Nat) ({ cls := "HoleCounty", name := "books", desc := "(JIII)J" } : Jvm.MethodName)) ∈ lw_all := lw_g (lw_at lw_m3 168 rfl) rfl
theorem q707 : (Jvm.Cond.methodLink "HoleCountyLaw" (129 : Nat) ({ cls := "HoleCounty", name := "seed", desc := "(I)I" } : Jvm.MethodName)) ∈ lw_all := lw_g (lw_at lw_m3 174 rfl) rfl
theorem q711 : (Jvm.Cond.methodLink "HoleCountyLaw" (125 : Nat) ({ cls := "HoleCounty", name := "lots", desc := "(I)I" } : Jvm.MethodName)) ∈ lw_all := lw_g (lw_at lw_m3 178 rfl) rfl
theorem q726 : (Jvm.Cond.methodLink "HoleCountyLaw" (44 : Nat) ({ cls := "HoleCounty", name := "type", desc := "(I)I" } : Jvm.MethodName)) ∈ lw_all := lw_g (lw_at lw_m3 193 rfl) rfl
theorem q732 : (Jvm.Cond.methodLink "HoleCountyLaw" (48 : Nat) ({ cls := "HoleCounty", name := "ground", desc := "()I" } : Jvm.MethodName)) ∈ lw_all := lw_g (lw_at lw_m3 199 rfl) rfl
theorem q781 : (Jvm.Cond.methodLink "HoleCountyLaw" (52 : Nat) ({ cls := "HoleCounty", name := "owners", desc := "()I" } : Jvm.MethodName)) ∈ lw_all := lw_g (lw_at lw_m4 8 rfl) rfl
theorem q872 : (Jvm.Cond.methodLink "HoleCountyLaw" (56 : Nat) ({ cls := "HoleCounty", name := "day", desc := "()I" } : Jvm.MethodName)) ∈ lw_all := lw_g (lw_at lw_m4 99 rfl) rfl
theorem q884 : (Jvm.Cond.methodLink "HoleCountyLaw" (133 : Nat) ({ cls := "HoleCounty", name := "image", desc := "()I" } : Jvm.MethodName)) ∈ lw_all := lw_g (lw_at lw_m4 111 rfl) rfl
theorem q902 : (Jvm.Cond.methodLink "HoleCountyLaw" (137 : Nat) ({ cls := "HoleCounty", name := "restore", desc := "()I" } : Jvm.MethodName)) ∈ lw_all := lw_g (lw_at lw_m4 129 rfl) rfl
theorem q906 : (Jvm.Cond.methodLink "HoleCountyLaw" (155 : Nat) ({ cls := "HoleCounty", name := "sheet", desc := "(III)I" } : Jvm.MethodName)) ∈ lw_all := lw_g (lw_at lw_m4 133 rfl) rfl
theorem q935 : (Jvm.Cond.methodLink "HoleCountyLaw" (159 : Nat) ({ cls := "HoleCounty", name := "drop", desc := "(I)I" } : Jvm.MethodName)) ∈ lw_all := lw_g (lw_at lw_m4 162 rfl) rfl
theorem q949 : (Jvm.Cond.methodLink "HoleCountyLaw" (163 : Nat) ({ cls := "HoleCounty", name := "item", desc := "(IIIJ)I" } : Jvm.MethodName)) ∈ lw_all := lw_g (lw_at lw_m4 176 rfl) rfl
theorem q1014 : (Jvm.Cond.methodLink "HoleCountyLaw" (141 : Nat) ({ cls := "HoleCounty", name := "lay", desc := "(IIIII)I" } : Jvm.MethodName)) ∈ lw_all := lw_g (lw_at lw_m5 1 rfl) rfl
theorem q1036 : (Jvm.Cond.methodLink "HoleCountyLaw" (146 : Nat) ({ cls := "HoleCounty", name := "film", desc := "(III)I" } : Jvm.MethodName)) ∈ lw_all := lw_g (lw_at lw_m5 23 rfl) rfl
theorem q1040 : (Jvm.Cond.methodLink "HoleCountyLaw" (150 : Nat) ({ cls := "HoleCounty", name := "miscounted", desc := "(IIII)I" } : Jvm.MethodName)) ∈ lw_all := lw_g (lw_at lw_m5 27 rfl) rfl
theorem q1049 : (Jvm.Cond.methodLink "HoleCountyLaw" (168 : Nat) ({ cls := "HoleCounty", name := "copy", desc := "(IIIII)I" } : Jvm.MethodName)) ∈ lw_all := lw_g (lw_at lw_m5 36 rfl) rfl
theorem q1068 : (Jvm.Cond.classLink "HoleCountyLaw" (7 : Nat) "HoleCounty") ∈ lw_all := lw_g (lw_at lw_m5 55 rfl) rfl
theorem q1069 : (Jvm.Cond.methodLink "HoleCountyLaw" (9 : Nat) ({ cls := "HoleCounty", name := "<init>", desc := "()V" } : Jvm.MethodName)) ∈ lw_all := lw_g (lw_at lw_m5 56 rfl) rfl
theorem q1172 : (Jvm.Cond.classLink "HoleCountyLaw" (10 : Nat) "HoleCountyModel") ∈ lw_all := lw_g (lw_at lw_m5 159 rfl) rfl
theorem q1174 : (Jvm.Cond.methodLink "HoleCountyLaw" (12 : Nat) ({ cls := "HoleCountyModel", name := "<init>", desc := "()V" } : Jvm.MethodName)) ∈ lw_all := lw_g (lw_at lw_m5 161 rfl) rfl
theorem q1260 : (Jvm.Cond.methodLink "HoleCountyLaw" (17 : Nat) ({ cls := "HoleCountyModel", name := "dig", desc := "(I)I" } : Jvm.MethodName)) ∈ lw_all := lw_g (lw_at lw_m6 7 rfl) rfl
theorem q1278 : (Jvm.Cond.methodLink "HoleCountyLaw" (21 : Nat) ({ cls := "HoleCountyModel", name := "fill", desc := "(I)I" } : Jvm.MethodName)) ∈ lw_all := lw_g (lw_at lw_m6 25 rfl) rfl
theorem q1287 : (Jvm.Cond.methodLink "HoleCountyLaw" (25 : Nat) ({ cls := "HoleCountyModel", name := "roof", desc := "(I)I" } : Jvm.MethodName)) ∈ lw_all := lw_g (lw_at lw_m6 34 rfl) rfl
theorem q1291 : (Jvm.Cond.methodLink "HoleCountyLaw" (30 : Nat) ({ cls := "HoleCountyModel", name := "undo", desc := "()I" } : Jvm.MethodName)) ∈ lw_all := lw_g (lw_at lw_m6 38 rfl) rfl
theorem q1295 : (Jvm.Cond.methodLink "HoleCountyLaw" (35 : Nat) ({ cls := "HoleCountyModel", name := "own", desc := "(II)I" } : Jvm.MethodName)) ∈ lw_all := lw_g (lw_at lw_m6 42 rfl) rfl
theorem q1300 : (Jvm.Cond.methodLink "HoleCountyLaw" (39 : Nat) ({ cls := "HoleCountyModel", name := "rate", desc := "(I)I" } : Jvm.MethodName)) ∈ lw_all := lw_g (lw_at lw_m6 47 rfl) rfl
theorem q1305 : (Jvm.Cond.methodLink "HoleCountyLaw" (43 : Nat) ({ cls := "HoleCountyModel", name := "told", desc := "(II)I" } : Jvm.MethodName)) ∈ lw_all := lw_g (lw_at lw_m6 52 rfl) rfl
theorem q1329 : (Jvm.Cond.methodLink "HoleCountyLaw" (47 : Nat) ({ cls := "HoleCountyModel", name := "type", desc := "(I)I" } : Jvm.MethodName)) ∈ lw_all := lw_g (lw_at lw_m6 76 rfl) rfl
theorem q1335 : (Jvm.Cond.methodLink "HoleCountyLaw" (51 : Nat) ({ cls := "HoleCountyModel", name := "ground", desc := "()I" } : Jvm.MethodName)) ∈ lw_all := lw_g (lw_at lw_m6 82 rfl) rfl
theorem q1360 : (Jvm.Cond.methodLink "HoleCountyLaw" (55 : Nat) ({ cls := "HoleCountyModel", name := "owners", desc := "()I" } : Jvm.MethodName)) ∈ lw_all := lw_g (lw_at lw_m6 107 rfl) rfl
theorem q1370 : (Jvm.Cond.methodLink "HoleCountyLaw" (59 : Nat) ({ cls := "HoleCountyModel", name := "day", desc := "()I" } : Jvm.MethodName)) ∈ lw_all := lw_g (lw_at lw_m6 117 rfl) rfl
theorem q1386 : (Jvm.Cond.methodLink "HoleCountyLaw" (63 : Nat) ({ cls := "HoleCountyModel", name := "count", desc := "(I)I" } : Jvm.MethodName)) ∈ lw_all := lw_g (lw_at lw_m6 133 rfl) rfl
theorem q1416 : (Jvm.Cond.methodLink "HoleCountyLaw" (67 : Nat) ({ cls := "HoleCountyModel", name := "hole", desc := "(II)I" } : Jvm.MethodName)) ∈ lw_all := lw_g (lw_at lw_m6 163 rfl) rfl
theorem q1443 : (Jvm.Cond.methodLink "HoleCountyLaw" (72 : Nat) ({ cls := "HoleCountyModel", name := "cells", desc := "(II)J" } : Jvm.MethodName)) ∈ lw_all := lw_g (lw_at lw_m6 190 rfl) rfl
theorem q1449 : (Jvm.Cond.methodLink "HoleCountyLaw" (76 : Nat) ({ cls := "HoleCountyModel", name := "part", desc := "(II)I" } : Jvm.MethodName)) ∈ lw_all := lw_g (lw_at lw_m6 196 rfl) rfl
theorem q1458 : (Jvm.Cond.methodLink "HoleCountyLaw" (80 : Nat) ({ cls := "HoleCountyModel", name := "pays", desc := "(I)I" } : Jvm.MethodName)) ∈ lw_all := lw_g (lw_at lw_m6 205 rfl) rfl
theorem q1462 : (Jvm.Cond.methodLink "HoleCountyLaw" (84 : Nat) ({ cls := "HoleCountyModel", name := "worth", desc := "(I)I" } : Jvm.MethodName)) ∈ lw_all := lw_g (lw_at lw_m6 209 rfl) rfl
theorem q1467 : (Jvm.Cond.methodLink "HoleCountyLaw" (88 : Nat) ({ cls := "HoleCountyModel", name := "filled", desc := "(II)I" } : Jvm.MethodName)) ∈ lw_all := lw_g (lw_at lw_m6 214 rfl) rfl
theorem q1480 : (Jvm.Cond.methodLink "HoleCountyLaw" (92 : Nat) ({ cls := "HoleCountyModel", name := "split", desc := "(II)I" } : Jvm.MethodName)) ∈ lw_all := lw_g (lw_at lw_m6 227 rfl) rfl
theorem q1484 : (Jvm.Cond.methodLink "HoleCountyLaw" (97 : Nat) ({ cls := "HoleCountyModel", name := "dug", desc := "(III)I" } : Jvm.MethodName)) ∈ lw_all := lw_g (lw_at lw_m6 231 rfl) rfl
theorem q1492 : (Jvm.Cond.methodLink "HoleCountyLaw" (101 : Nat) ({ cls := "HoleCountyModel", name := "loophole", desc := "()I" } : Jvm.MethodName)) ∈ lw_all := lw_g (lw_at lw_m6 239 rfl) rfl
theorem q1496 : (Jvm.Cond.methodLink "HoleCountyLaw" (105 : Nat) ({ cls := "HoleCountyModel", name := "roofs", desc := "(I)I" } : Jvm.MethodName)) ∈ lw_all := lw_g (lw_at lw_m7 3 rfl) rfl
theorem q1500 : (Jvm.Cond.methodLink "HoleCountyLaw" (109 : Nat) ({ cls := "HoleCountyModel", name := "round", desc := "(II)I" } : Jvm.MethodName)) ∈ lw_all := lw_g (lw_at lw_m7 7 rfl) rfl
theorem q1521 : (Jvm.Cond.methodLink "HoleCountyLaw" (113 : Nat) ({ cls := "HoleCountyModel", name := "border", desc := "(I)I" } : Jvm.MethodName)) ∈ lw_all := lw_g (lw_at lw_m7 28 rfl) rfl
theorem q1525 : (Jvm.Cond.methodLink "HoleCountyLaw" (117 : Nat) ({ cls := "HoleCountyModel", name := "cut", desc := "(I)I" } : Jvm.MethodName)) ∈ lw_all := lw_g (lw_at lw_m7 32 rfl) rfl
theorem q1529 : (Jvm.Cond.methodLink "HoleCountyLaw" (124 : Nat) ({ cls := "HoleCountyModel", name := "books", desc := "(JIII)J" } : Jvm.MethodName)) ∈ lw_all := lw_g (lw_at lw_m7 36 rfl) rfl
theorem q1535 : (Jvm.Cond.methodLink "HoleCountyLaw" (128 : Nat) ({ cls := "HoleCountyModel", name := "lots", desc := "(I)I" } : Jvm.MethodName)) ∈ lw_all := lw_g (lw_at lw_m7 42 rfl) rfl
theorem q1547 : (Jvm.Cond.methodLink "HoleCountyLaw" (132 : Nat) ({ cls := "HoleCountyModel", name := "seed", desc := "(I)I" } : Jvm.MethodName)) ∈ lw_all := lw_g (lw_at lw_m7 54 rfl) rfl
theorem q1551 : (Jvm.Cond.methodLink "HoleCountyLaw" (136 : Nat) ({ cls := "HoleCountyModel", name := "image", desc := "()I" } : Jvm.MethodName)) ∈ lw_all := lw_g (lw_at lw_m7 58 rfl) rfl
theorem q1559 : (Jvm.Cond.methodLink "HoleCountyLaw" (140 : Nat) ({ cls := "HoleCountyModel", name := "restore", desc := "()I" } : Jvm.MethodName)) ∈ lw_all := lw_g (lw_at lw_m7 66 rfl) rfl
theorem q1563 : (Jvm.Cond.methodLink "HoleCountyLaw" (158 : Nat) ({ cls := "HoleCountyModel", name := "sheet", desc := "(III)I" } : Jvm.MethodName)) ∈ lw_all := lw_g (lw_at lw_m7 70 rfl) rfl
theorem q1570 : (Jvm.Cond.methodLink "HoleCountyLaw" (162 : Nat) ({ cls := "HoleCountyModel", name := "drop", desc := "(I)I" } : Jvm.MethodName)) ∈ lw_all := lw_g (lw_at lw_m7 77 rfl) rfl
theorem q1574 : (Jvm.Cond.methodLink "HoleCountyLaw" (167 : Nat) ({ cls := "HoleCountyModel", name := "item", desc := "(IIIJ)I" } : Jvm.MethodName)) ∈ lw_all := lw_g (lw_at lw_m7 81 rfl) rfl
theorem q1585 : (Jvm.Cond.methodLink "HoleCountyLaw" (145 : Nat) ({ cls := "HoleCountyModel", name := "lay", desc := "(IIIII)I" } : Jvm.MethodName)) ∈ lw_all := lw_g (lw_at lw_m7 92 rfl) rfl
theorem q1589 : (Jvm.Cond.methodLink "HoleCountyLaw" (149 : Nat) ({ cls := "HoleCountyModel", name := "film", desc := "(III)I" } : Jvm.MethodName)) ∈ lw_all := lw_g (lw_at lw_m7 96 rfl) rfl
theorem q1593 : (Jvm.Cond.methodLink "HoleCountyLaw" (154 : Nat) ({ cls := "HoleCountyModel", name := "miscounted", desc := "(IIII)I" } : Jvm.MethodName)) ∈ lw_all := lw_g (lw_at lw_m7 100 rfl) rfl
theorem q1598 : (Jvm.Cond.methodLink "HoleCountyLaw" (171 : Nat) ({ cls := "HoleCountyModel", name := "copy", desc := "(IIIII)I" } : Jvm.MethodName)) ∈ lw_all := lw_g (lw_at lw_m7 105 rfl) rfl
theorem q1602 : (Jvm.Cond.constantLong "HoleCountyLaw" (118 : Nat) (4294967295 : Int64)) ∈ lw_all := lw_g (lw_at lw_m7 109 rfl) rfl
theorem q1644 : (Jvm.Cond.castable "[B" "java/lang/Object") ∈ lw_tbl := lw_at lw_m7 151 rfl
set_option maxRecDepth 100000
theorem q1643 : (Jvm.Cond.castable "[I" "java/lang/Object") ∈ lw_tbl := lw_at lw_m7 150 rfl
set_option maxRecDepth 100000
theorem q1646 : (Jvm.Cond.castable "[J" "java/lang/Object") ∈ lw_tbl := lw_at lw_m7 153 rfl
set_option maxRecDepth 100000
theorem q1647 : (Jvm.Cond.castable "[LHoleCounty$Held;" "java/lang/Object") ∈ lw_tbl := lw_at lw_m7 154 rfl
set_option maxRecDepth 100000
theorem q1639 : (Jvm.Cond.sameMethod "[Ljava/lang/Object;" "java/lang/Object" "getClass" "()Ljava/lang/Class;") ∈ lw_all := lw_g (lw_at lw_m7 146 rfl) rfl
set_option maxRecDepth 100000
theorem q1640 : (Jvm.Cond.selects "[Ljava/lang/Object;" ({ cls := "java/lang/Object", name := "getClass", desc := "()Ljava/lang/Class;" } : Jvm.MethodName) ({ cls := "java/lang/Object", name := "getClass", desc := "()Ljava/lang/Class;" } : Jvm.MethodName)) ∈ lw_all := lw_g (lw_at lw_m7 147 rfl) rfl
theorem q1642 : (Jvm.Cond.castable "[Ljava/lang/Object;" "java/lang/Object") ∈ lw_tbl := lw_at lw_m7 149 rfl
theorem q1645 : (Jvm.Cond.castable "[S" "java/lang/Object") ∈ lw_tbl := lw_at lw_m7 152 rfl
set_option maxRecDepth 100000
theorem q64 : (Jvm.Cond.initialized "java/lang/System") ∈ lw_all := lw_g (lw_at lw_m1 11 rfl) rfl
set_option maxRecDepth 100000
theorem q147 : (Jvm.Cond.static ({ cls := "java/lang/System", name := "arraycopy", desc := "(Ljava/lang/Object;ILjava/lang/Object;II)V" } : Jvm.MethodName)) ∈ lw_all := lw_g (lw_at lw_m1 94 rfl) rfl
theorem q148 : (Jvm.Cond.native ({ cls := "java/lang/System", name := "arraycopy", desc := "(Ljava/lang/Object;ILjava/lang/Object;II)V" } : Jvm.MethodName)) ∈ lw_all := lw_g (lw_at lw_m1 95 rfl) rfl
theorem q894 : (Jvm.Cond.interfaceMethod "java/util/Collection" "java/util/Collection" "toArray" "()[Ljava/lang/Object;") ∈ lw_tbl := lw_at lw_m4 121 rfl
set_option maxRecDepth 100000
theorem q895 : (Jvm.Cond.declares ({ cls := "java/util/Collection", name := "toArray", desc := "()[Ljava/lang/Object;" } : Jvm.MethodName)) ∈ lw_tbl := lw_at lw_m4 122 rfl
theorem q206 : (Jvm.Cond.arrayOver (Jvm.ClassFile.FieldType.object "java/lang/Object")) ∈ lw_tbl := lw_at lw_m1 153 rfl
set_option maxRecDepth 100000
theorem q515 : (Jvm.Cond.arrayClass Jvm.ClassFile.FieldType.int) ∈ lw_all := lw_g (lw_at lw_m2 222 rfl) rfl
theorem q616 : (Jvm.Cond.arrayClass Jvm.ClassFile.FieldType.byte) ∈ lw_all := lw_g (lw_at lw_m3 83 rfl) rfl
theorem q933 : (Jvm.Cond.arrayClass Jvm.ClassFile.FieldType.short) ∈ lw_all := lw_g (lw_at lw_m4 160 rfl) rfl
theorem q934 : (Jvm.Cond.arrayClass Jvm.ClassFile.FieldType.long) ∈ lw_all := lw_g (lw_at lw_m4 161 rfl) rfl
theorem q1096 : (Jvm.Cond.arrayOver (Jvm.ClassFile.FieldType.object "HoleCounty$Held")) ∈ lw_tbl := lw_at lw_m5 83 rfl
