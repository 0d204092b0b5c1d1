set_option maxRecDepth 100000
def dkwL_law_48 : List UInt8 := [182, 0, 154, 159, 0, 5, 3, 172, 132, 4, 7, 167, 251, 57, 4, 172]
abbrev dktL_law_48 : List UInt8 := dkwL_law_48 ++ []
def dkwL_law_47 : List UInt8 := [159, 0, 30, 3, 172, 43, 42, 21, 4, 4, 96, 46, 182, 0, 151, 44, 42, 21, 4, 4, 96, 46]
abbrev dktL_law_47 : List UInt8 := dkwL_law_47 ++ dktL_law_48
def dkwL_law_46 : List UInt8 := [42, 21, 4, 4, 96, 46, 42, 21, 4, 5, 96, 46, 153, 0, 7, 4, 167, 0, 4, 3, 182, 0, 150]
abbrev dktL_law_46 : List UInt8 := dkwL_law_46 ++ dktL_law_47
def dkwL_law_45 : List UInt8 := [42, 21, 4, 4, 96, 46, 42, 21, 4, 5, 96, 46, 153, 0, 7, 4, 167, 0, 4, 3, 182, 0, 146, 44]
abbrev dktL_law_45 : List UInt8 := dkwL_law_45 ++ dktL_law_46
def dkwL_law_44 : List UInt8 := [4, 96, 46, 42, 21, 4, 5, 96, 46, 42, 21, 4, 6, 96, 46, 182, 0, 145, 159, 0, 83, 3, 172, 43]
abbrev dktL_law_44 : List UInt8 := dkwL_law_44 ++ dktL_law_45
def dkwL_law_43 : List UInt8 := [21, 4, 4, 96, 46, 42, 21, 4, 5, 96, 46, 42, 21, 4, 6, 96, 46, 182, 0, 141, 44, 42, 21, 4]
abbrev dktL_law_43 : List UInt8 := dkwL_law_43 ++ dktL_law_44
def dkwL_law_42 : List UInt8 := [172, 21, 5, 154, 0, 15, 45, 3, 47, 21, 6, 133, 148, 153, 0, 5, 3, 172, 167, 0, 130, 43, 42]
abbrev dktL_law_42 : List UInt8 := dkwL_law_42 ++ dktL_law_43
def dkwL_law_41 : List UInt8 := [6, 96, 46, 42, 21, 4, 7, 96, 46, 182, 0, 137, 54, 6, 44, 182, 0, 138, 21, 5, 159, 0, 5, 3]
abbrev dktL_law_41 : List UInt8 := dkwL_law_41 ++ dktL_law_42
def dkwL_law_40 : List UInt8 := [96, 46, 45, 184, 0, 132, 54, 5, 44, 42, 21, 4, 4, 96, 46, 42, 21, 4, 5, 96, 46, 42, 21, 4]
abbrev dktL_law_40 : List UInt8 := dkwL_law_40 ++ dktL_law_41
def dkwL_law_39 : List UInt8 := [172, 43, 42, 21, 4, 4, 96, 46, 42, 21, 4, 5, 96, 46, 42, 21, 4, 6, 96, 46, 42, 21, 4, 7]
abbrev dktL_law_39 : List UInt8 := dkwL_law_39 ++ dktL_law_40
def dkwL_law_38 : List UInt8 := [46, 182, 0, 128, 44, 42, 21, 4, 4, 96, 46, 42, 21, 4, 5, 96, 46, 182, 0, 131, 159, 0, 224, 3]
abbrev dktL_law_38 : List UInt8 := dkwL_law_38 ++ dktL_law_39
def dkwL_law_37 : List UInt8 := [182, 0, 124, 44, 182, 0, 127, 159, 1, 5, 3, 172, 43, 42, 21, 4, 4, 96, 46, 42, 21, 4, 5, 96]
abbrev dktL_law_37 : List UInt8 := dkwL_law_37 ++ dktL_law_38
def dkwL_law_36 : List UInt8 := [3, 182, 0, 119, 159, 1, 31, 3, 172, 43, 182, 0, 120, 44, 182, 0, 123, 159, 1, 18, 3, 172, 43]
abbrev dktL_law_36 : List UInt8 := dkwL_law_36 ++ dktL_law_37
def dkwL_law_35 : List UInt8 := [21, 4, 4, 96, 46, 42, 21, 4, 5, 96, 46, 42, 21, 4, 6, 96, 46, 153, 0, 7, 4, 167, 0, 4]
abbrev dktL_law_35 : List UInt8 := dkwL_law_35 ++ dktL_law_36
def dkwL_law_34 : List UInt8 := [21, 4, 5, 96, 46, 42, 21, 4, 6, 96, 46, 153, 0, 7, 4, 167, 0, 4, 3, 182, 0, 115, 44, 42]
abbrev dktL_law_34 : List UInt8 := dkwL_law_34 ++ dktL_law_35
def dkwL_law_33 : List UInt8 := [3, 172, 43, 182, 0, 111, 44, 182, 0, 114, 159, 1, 96, 3, 172, 43, 42, 21, 4, 4, 96, 46, 42]
abbrev dktL_law_33 : List UInt8 := dkwL_law_33 ++ dktL_law_34
def dkwL_law_32 : List UInt8 := [21, 4, 5, 96, 46, 182, 0, 106, 159, 1, 122, 3, 172, 43, 182, 0, 107, 44, 182, 0, 110, 159, 1, 109]
abbrev dktL_law_32 : List UInt8 := dkwL_law_32 ++ dktL_law_33
def dkwL_law_31 : List UInt8 := [43, 42, 21, 4, 4, 96, 46, 42, 21, 4, 5, 96, 46, 182, 0, 103, 44, 42, 21, 4, 4, 96, 46, 42]
abbrev dktL_law_31 : List UInt8 := dkwL_law_31 ++ dktL_law_32
def dkwL_law_30 : List UInt8 := [182, 0, 99, 44, 42, 21, 4, 4, 96, 46, 42, 21, 4, 5, 96, 46, 182, 0, 102, 159, 1, 159, 3, 172]
abbrev dktL_law_30 : List UInt8 := dkwL_law_30 ++ dktL_law_31
def dkwL_law_29 : List UInt8 := [46, 182, 0, 98, 159, 1, 196, 3, 172, 43, 42, 21, 4, 4, 96, 46, 42, 21, 4, 5, 96, 46]
abbrev dktL_law_29 : List UInt8 := dkwL_law_29 ++ dktL_law_30
def dkwL_law_28 : List UInt8 := [182, 0, 94, 159, 1, 221, 3, 172, 43, 42, 21, 4, 4, 96, 46, 182, 0, 95, 44, 42, 21, 4, 4, 96]
abbrev dktL_law_28 : List UInt8 := dkwL_law_28 ++ dktL_law_29
def dkwL_law_27 : List UInt8 := [159, 1, 246, 3, 172, 43, 42, 21, 4, 4, 96, 46, 182, 0, 91, 44, 42, 21, 4, 4, 96, 46]
abbrev dktL_law_27 : List UInt8 := dkwL_law_27 ++ dktL_law_28
def dkwL_law_26 : List UInt8 := [5, 96, 46, 182, 0, 87, 44, 42, 21, 4, 4, 96, 46, 42, 21, 4, 5, 96, 46, 182, 0, 90]
abbrev dktL_law_26 : List UInt8 := dkwL_law_26 ++ dktL_law_27
def dkwL_law_25 : List UInt8 := [42, 21, 4, 5, 96, 46, 182, 0, 86, 159, 2, 27, 3, 172, 43, 42, 21, 4, 4, 96, 46, 42, 21, 4]
abbrev dktL_law_25 : List UInt8 := dkwL_law_25 ++ dktL_law_26
def dkwL_law_24 : List UInt8 := [172, 43, 42, 21, 4, 4, 96, 46, 42, 21, 4, 5, 96, 46, 182, 0, 83, 44, 42, 21, 4, 4, 96, 46]
abbrev dktL_law_24 : List UInt8 := dkwL_law_24 ++ dktL_law_25
def dkwL_law_23 : List UInt8 := [43, 42, 21, 4, 4, 96, 46, 182, 0, 79, 44, 42, 21, 4, 4, 96, 46, 182, 0, 82, 159, 2, 64, 3]
abbrev dktL_law_23 : List UInt8 := dkwL_law_23 ++ dktL_law_24
def dkwL_law_22 : List UInt8 := [182, 0, 75, 44, 42, 21, 4, 4, 96, 46, 42, 21, 4, 5, 96, 46, 182, 0, 78, 159, 2, 89, 3, 172]
abbrev dktL_law_22 : List UInt8 := dkwL_law_22 ++ dktL_law_23
def dkwL_law_21 : List UInt8 := [5, 96, 46, 182, 0, 74, 159, 2, 126, 3, 172, 43, 42, 21, 4, 4, 96, 46, 42, 21, 4, 5, 96, 46]
abbrev dktL_law_21 : List UInt8 := dkwL_law_21 ++ dktL_law_22
def dkwL_law_20 : List UInt8 := [21, 4, 4, 96, 46, 42, 21, 4, 5, 96, 46, 182, 0, 71, 44, 42, 21, 4, 4, 96, 46, 42, 21, 4]
abbrev dktL_law_20 : List UInt8 := dkwL_law_20 ++ dktL_law_21
def dkwL_law_19 : List UInt8 := [44, 42, 21, 4, 4, 96, 46, 42, 21, 4, 5, 96, 46, 182, 0, 70, 159, 2, 163, 3, 172, 43, 42]
abbrev dktL_law_19 : List UInt8 := dkwL_law_19 ++ dktL_law_20
def dkwL_law_18 : List UInt8 := [182, 0, 66, 159, 2, 200, 3, 172, 43, 42, 21, 4, 4, 96, 46, 42, 21, 4, 5, 96, 46, 182, 0, 67]
abbrev dktL_law_18 : List UInt8 := dkwL_law_18 ++ dktL_law_19
def dkwL_law_17 : List UInt8 := [159, 2, 225, 3, 172, 43, 42, 21, 4, 4, 96, 46, 182, 0, 62, 44, 42, 21, 4, 4, 96, 46]
abbrev dktL_law_17 : List UInt8 := dkwL_law_17 ++ dktL_law_18
def dkwL_law_16 : List UInt8 := [172, 43, 182, 0, 53, 44, 182, 0, 56, 159, 2, 238, 3, 172, 43, 182, 0, 57, 44, 182, 0, 61]
abbrev dktL_law_16 : List UInt8 := dkwL_law_16 ++ dktL_law_17
def dkwL_law_15 : List UInt8 := [43, 42, 21, 4, 4, 96, 46, 182, 0, 48, 44, 42, 21, 4, 4, 96, 46, 182, 0, 52, 159, 2, 251, 3]
abbrev dktL_law_15 : List UInt8 := dkwL_law_15 ++ dktL_law_16
def dkwL_law_14 : List UInt8 := [182, 0, 44, 44, 42, 21, 4, 4, 96, 46, 42, 21, 4, 5, 96, 46, 182, 0, 47, 159, 3, 20, 3, 172]
abbrev dktL_law_14 : List UInt8 := dkwL_law_14 ++ dktL_law_15
def dkwL_law_13 : List UInt8 := [5, 96, 46, 182, 0, 43, 159, 3, 57, 3, 172, 43, 42, 21, 4, 4, 96, 46, 42, 21, 4, 5, 96, 46]
abbrev dktL_law_13 : List UInt8 := dkwL_law_13 ++ dktL_law_14
def dkwL_law_12 : List UInt8 := [21, 4, 4, 96, 46, 42, 21, 4, 5, 96, 46, 182, 0, 40, 44, 42, 21, 4, 4, 96, 46, 42, 21, 4]
abbrev dktL_law_12 : List UInt8 := dkwL_law_12 ++ dktL_law_13
def dkwL_law_11 : List UInt8 := [44, 42, 21, 4, 4, 96, 46, 42, 21, 4, 5, 96, 46, 182, 0, 39, 159, 3, 94, 3, 172, 43, 42]
abbrev dktL_law_11 : List UInt8 := dkwL_law_11 ++ dktL_law_12
def dkwL_law_10 : List UInt8 := [182, 0, 34, 159, 3, 131, 3, 172, 43, 42, 21, 4, 4, 96, 46, 42, 21, 4, 5, 96, 46, 182, 0, 35]
abbrev dktL_law_10 : List UInt8 := dkwL_law_10 ++ dktL_law_11
def dkwL_law_9 : List UInt8 := [159, 3, 157, 3, 172, 43, 182, 0, 26, 44, 182, 0, 30, 159, 3, 144, 3, 172, 43, 182, 0, 31, 44]
abbrev dktL_law_9 : List UInt8 := dkwL_law_9 ++ dktL_law_10
def dkwL_law_8 : List UInt8 := [8, 96, 46, 133, 16, 32, 121, 42, 21, 4, 16, 6, 96, 46, 133, 20, 0, 19, 127, 129, 182, 0, 25]
abbrev dktL_law_8 : List UInt8 := dkwL_law_8 ++ dktL_law_9
def dkwL_law_7 : List UInt8 := [21, 4, 6, 96, 46, 133, 16, 32, 121, 42, 21, 4, 7, 96, 46, 133, 20, 0, 19, 127, 129, 42, 21, 4]
abbrev dktL_law_7 : List UInt8 := dkwL_law_7 ++ dktL_law_8
def dkwL_law_6 : List UInt8 := [42, 21, 4, 4, 96, 46, 133, 16, 32, 121, 42, 21, 4, 5, 96, 46, 133, 20, 0, 19, 127, 129, 42]
abbrev dktL_law_6 : List UInt8 := dkwL_law_6 ++ dktL_law_7
def dkwL_law_5 : List UInt8 := [8, 96, 46, 133, 16, 32, 121, 42, 21, 4, 16, 6, 96, 46, 133, 20, 0, 19, 127, 129, 182, 0, 21, 44]
abbrev dktL_law_5 : List UInt8 := dkwL_law_5 ++ dktL_law_6
def dkwL_law_4 : List UInt8 := [21, 4, 6, 96, 46, 133, 16, 32, 121, 42, 21, 4, 7, 96, 46, 133, 20, 0, 19, 127, 129, 42, 21, 4]
abbrev dktL_law_4 : List UInt8 := dkwL_law_4 ++ dktL_law_5
def dkwL_law_3 : List UInt8 := [43, 42, 21, 4, 4, 96, 46, 133, 16, 32, 121, 42, 21, 4, 5, 96, 46, 133, 20, 0, 19, 127, 129, 42]
abbrev dktL_law_3 : List UInt8 := dkwL_law_3 ++ dktL_law_4
def dkwL_law_2 : List UInt8 := [170, 0, 0, 0, 0, 0, 4, 179, 0, 0, 0, 0, 0, 0, 0, 29, 0, 0, 0, 136, 0, 0, 1, 27, 0, 0, 1, 40, 0, 0, 1, 53, 0, 0, 1, 90, 0, 0, 1, 127, 0, 0, 1, 164, 0, 0, 1, 189, 0, 0, 1, 202, 0, 0, 1, 215, 0, 0, 1, 240, 0, 0, 2, 21, 0, 0, 2, 58, 0, 0, 2, 95, 0, 0, 2, 120, 0, 0, 2, 157, 0, 0, 2, 194, 0, 0, 2, 219, 0, 0, 2, 244, 0, 0, 3, 25, 0, 0, 3, 62, 0, 0, 3, 75, 0, 0, 3, 88, 0, 0, 3, 153, 0, 0, 3, 166, 0, 0, 3, 179, 0, 0, 3, 216, 0, 0, 4, 52, 0, 0, 4, 101, 0, 0, 4, 154]
abbrev dktL_law_2 : List UInt8 := dkwL_law_2 ++ dktL_law_3
def dkwL_law_1 : List UInt8 := [21, 4, 42, 190, 16, 7, 100, 163, 4, 195, 42, 21, 4, 46, 16, 31, 126]
abbrev dktL_law_1 : List UInt8 := dkwL_law_1 ++ dktL_law_2
def dkwL_law_0 : List UInt8 := [187, 0, 8, 89, 183, 0, 15, 76, 187, 0, 16, 89, 183, 0, 18, 77, 4, 188, 11, 78, 3, 54, 4]
abbrev dktL_law_0 : List UInt8 := dkwL_law_0 ++ dktL_law_1
theorem dksL_law_0 : cL_law.data.toList.drop 0 = dktL_law_0 := by decide +kernel
theorem dksL_law_1 : cL_law.data.toList.drop 23 = dktL_law_1 := dk_seg dksL_law_0 23 rfl rfl
theorem dksL_law_2 : cL_law.data.toList.drop 40 = dktL_law_2 := dk_seg dksL_law_1 17 rfl rfl
theorem dksL_law_3 : cL_law.data.toList.drop 176 = dktL_law_3 := dk_seg dksL_law_2 136 rfl rfl
theorem dksL_law_4 : cL_law.data.toList.drop 200 = dktL_law_4 := dk_seg dksL_law_3 24 rfl rfl
theorem dksL_law_5 : cL_law.data.toList.drop 224 = dktL_law_5 := dk_seg dksL_law_4 24 rfl rfl
theorem dksL_law_6 : cL_law.data.toList.drop 248 = dktL_law_6 := dk_seg dksL_law_5 24 rfl rfl
theorem dksL_law_7 : cL_law.data.toList.drop 271 = dktL_law_7 := dk_seg dksL_law_6 23 rfl rfl
theorem dksL_law_8 : cL_law.data.toList.drop 295 = dktL_law_8 := dk_seg dksL_law_7 24 rfl rfl
theorem dksL_law_9 : cL_law.data.toList.drop 318 = dktL_law_9 := dk_seg dksL_law_8 23 rfl rfl
theorem dksL_law_10 : cL_law.data.toList.drop 341 = dktL_law_10 := dk_seg dksL_law_9 23 rfl rfl
theorem dksL_law_11 : cL_law.data.toList.drop 365 = dktL_law_11 := dk_seg dksL_law_10 24 rfl rfl
theorem dksL_law_12 : cL_law.data.toList.drop 388 = dktL_law_12 := dk_seg dksL_law_11 23 rfl rfl
theorem dksL_law_13 : cL_law.data.toList.drop 412 = dktL_law_13 := dk_seg dksL_law_12 24 rfl rfl
theorem dksL_law_14 : cL_law.data.toList.drop 436 = dktL_law_14 := dk_seg dksL_law_13 24 rfl rfl
theorem dksL_law_15 : cL_law.data.toList.drop 460 = dktL_law_15 := dk_seg dksL_law_14 24 rfl rfl
theorem dksL_law_16 : cL_law.data.toList.drop 484 = dktL_law_16 := dk_seg dksL_law_15 24 rfl rfl
theorem dksL_law_17 : cL_law.data.toList.drop 506 = dktL_law_17 := dk_seg dksL_law_16 22 rfl rfl
theorem dksL_law_18 : cL_law.data.toList.drop 528 = dktL_law_18 := dk_seg dksL_law_17 22 rfl rfl
theorem dksL_law_19 : cL_law.data.toList.drop 552 = dktL_law_19 := dk_seg dksL_law_18 24 rfl rfl
theorem dksL_law_20 : cL_law.data.toList.drop 575 = dktL_law_20 := dk_seg dksL_law_19 23 rfl rfl
theorem dksL_law_21 : cL_law.data.toList.drop 599 = dktL_law_21 := dk_seg dksL_law_20 24 rfl rfl
theorem dksL_law_22 : cL_law.data.toList.drop 623 = dktL_law_22 := dk_seg dksL_law_21 24 rfl rfl
theorem dksL_law_23 : cL_law.data.toList.drop 647 = dktL_law_23 := dk_seg dksL_law_22 24 rfl rfl
theorem dksL_law_24 : cL_law.data.toList.drop 671 = dktL_law_24 := dk_seg dksL_law_23 24 rfl rfl
theorem dksL_law_25 : cL_law.data.toList.drop 695 = dktL_law_25 := dk_seg dksL_law_24 24 rfl rfl
theorem dksL_law_26 : cL_law.data.toList.drop 719 = dktL_law_26 := dk_seg dksL_law_25 24 rfl rfl
theorem dksL_law_27 : cL_law.data.toList.drop 741 = dktL_law_27 := dk_seg dksL_law_26 22 rfl rfl
theorem dksL_law_28 : cL_law.data.toList.drop 763 = dktL_law_28 := dk_seg dksL_law_27 22 rfl rfl
theorem dksL_law_29 : cL_law.data.toList.drop 787 = dktL_law_29 := dk_seg dksL_law_28 24 rfl rfl
theorem dksL_law_30 : cL_law.data.toList.drop 809 = dktL_law_30 := dk_seg dksL_law_29 22 rfl rfl
theorem dksL_law_31 : cL_law.data.toList.drop 833 = dktL_law_31 := dk_seg dksL_law_30 24 rfl rfl
theorem dksL_law_32 : cL_law.data.toList.drop 857 = dktL_law_32 := dk_seg dksL_law_31 24 rfl rfl
theorem dksL_law_33 : cL_law.data.toList.drop 881 = dktL_law_33 := dk_seg dksL_law_32 24 rfl rfl
theorem dksL_law_34 : cL_law.data.toList.drop 904 = dktL_law_34 := dk_seg dksL_law_33 23 rfl rfl
theorem dksL_law_35 : cL_law.data.toList.drop 928 = dktL_law_35 := dk_seg dksL_law_34 24 rfl rfl
theorem dksL_law_36 : cL_law.data.toList.drop 952 = dktL_law_36 := dk_seg dksL_law_35 24 rfl rfl
theorem dksL_law_37 : cL_law.data.toList.drop 975 = dktL_law_37 := dk_seg dksL_law_36 23 rfl rfl
theorem dksL_law_38 : cL_law.data.toList.drop 999 = dktL_law_38 := dk_seg dksL_law_37 24 rfl rfl
theorem dksL_law_39 : cL_law.data.toList.drop 1023 = dktL_law_39 := dk_seg dksL_law_38 24 rfl rfl
theorem dksL_law_40 : cL_law.data.toList.drop 1047 = dktL_law_40 := dk_seg dksL_law_39 24 rfl rfl
theorem dksL_law_41 : cL_law.data.toList.drop 1071 = dktL_law_41 := dk_seg dksL_law_40 24 rfl rfl
theorem dksL_law_42 : cL_law.data.toList.drop 1095 = dktL_law_42 := dk_seg dksL_law_41 24 rfl rfl
theorem dksL_law_43 : cL_law.data.toList.drop 1118 = dktL_law_43 := dk_seg dksL_law_42 23 rfl rfl
theorem dksL_law_44 : cL_law.data.toList.drop 1142 = dktL_law_44 := dk_seg dksL_law_43 24 rfl rfl
theorem dksL_law_45 : cL_law.data.toList.drop 1166 = dktL_law_45 := dk_seg dksL_law_44 24 rfl rfl
theorem dksL_law_46 : cL_law.data.toList.drop 1190 = dktL_law_46 := dk_seg dksL_law_45 24 rfl rfl
theorem dksL_law_47 : cL_law.data.toList.drop 1213 = dktL_law_47 := dk_seg dksL_law_46 23 rfl rfl
theorem dksL_law_48 : cL_law.data.toList.drop 1235 = dktL_law_48 := dk_seg dksL_law_47 22 rfl rfl
theorem dL_law_0 : decode cL_law 0 = .ok (.new 8, 3) := dk_187 0 8 (dk_at dksL_law_0 0 rfl rfl)
theorem dL_law_3 : decode cL_law 3 = .ok (.dup, 1) := dk_89 (dk_at dksL_law_0 3 rfl rfl)
theorem dL_law_4 : decode cL_law 4 = .ok (.invokespecial 15, 3) := dk_183 0 15 (dk_at dksL_law_0 4 rfl rfl)
theorem dL_law_7 : decode cL_law 7 = .ok (.astore_n 1, 1) := dk_76 (dk_at dksL_law_0 7 rfl rfl)
theorem dL_law_8 : decode cL_law 8 = .ok (.new 16, 3) := dk_187 0 16 (dk_at dksL_law_0 8 rfl rfl)
theorem dL_law_11 : decode cL_law 11 = .ok (.dup, 1) := dk_89 (dk_at dksL_law_0 11 rfl rfl)
theorem dL_law_12 : decode cL_law 12 = .ok (.invokespecial 18, 3) := dk_183 0 18 (dk_at dksL_law_0 12 rfl rfl)
theorem dL_law_15 : decode cL_law 15 = .ok (.astore_n 2, 1) := dk_77 (dk_at dksL_law_0 15 rfl rfl)
theorem dL_law_16 : decode cL_law 16 = .ok (.iconst 1, 1) := dk_4 (dk_at dksL_law_0 16 rfl rfl)
theorem dL_law_17 : decode cL_law 17 = .ok (.newarray .long, 2) := dk_188_11 (dk_at dksL_law_0 17 rfl rfl)
theorem dL_law_19 : decode cL_law 19 = .ok (.astore_n 3, 1) := dk_78 (dk_at dksL_law_0 19 rfl rfl)
theorem dL_law_20 : decode cL_law 20 = .ok (.iconst 0, 1) := dk_3 (dk_at dksL_law_0 20 rfl rfl)
theorem dL_law_21 : decode cL_law 21 = .ok (.istore 4, 2) := dk_54 4 (dk_at dksL_law_0 21 rfl rfl)
theorem dL_law_23 : decode cL_law 23 = .ok (.iload 4, 2) := dk_21 4 (dk_at dksL_law_1 0 rfl rfl)
theorem dL_law_25 : decode cL_law 25 = .ok (.aload_n 0, 1) := dk_42 (dk_at dksL_law_1 2 rfl rfl)
theorem dL_law_26 : decode cL_law 26 = .ok (.arraylength, 1) := dk_190 (dk_at dksL_law_1 3 rfl rfl)
theorem dL_law_27 : decode cL_law 27 = .ok (.bipush 7, 2) := dk_16 7 (dk_at dksL_law_1 4 rfl rfl)
theorem dL_law_29 : decode cL_law 29 = .ok (.isub, 1) := dk_100 (dk_at dksL_law_1 6 rfl rfl)
theorem dL_law_30 : decode cL_law 30 = .ok (.if_icmp .gt 1219, 3) := dk_163 4 195 (dk_at dksL_law_1 7 rfl rfl)
theorem dL_law_33 : decode cL_law 33 = .ok (.aload_n 0, 1) := dk_42 (dk_at dksL_law_1 10 rfl rfl)
theorem dL_law_34 : decode cL_law 34 = .ok (.iload 4, 2) := dk_21 4 (dk_at dksL_law_1 11 rfl rfl)
theorem dL_law_36 : decode cL_law 36 = .ok (.iaload, 1) := dk_46 (dk_at dksL_law_1 13 rfl rfl)
theorem dL_law_37 : decode cL_law 37 = .ok (.bipush 31, 2) := dk_16 31 (dk_at dksL_law_1 14 rfl rfl)
theorem dL_law_39 : decode cL_law 39 = .ok (.iand, 1) := dk_126 (dk_at dksL_law_1 16 rfl rfl)
theorem dL_law_40 : decode cL_law 40 = .ok (.tableswitch 1203 0 29 #[136, 283, 296, 309, 346, 383, 420, 445, 458, 471, 496, 533, 570, 607, 632, 669, 706, 731, 756, 793, 830, 843, 856, 921, 934, 947, 984, 1076, 1125, 1178], 136) := by decide +kernel
theorem dL_law_176 : decode cL_law 176 = .ok (.aload_n 1, 1) := dk_43 (dk_at dksL_law_3 0 rfl rfl)
theorem dL_law_177 : decode cL_law 177 = .ok (.aload_n 0, 1) := dk_42 (dk_at dksL_law_3 1 rfl rfl)
theorem dL_law_178 : decode cL_law 178 = .ok (.iload 4, 2) := dk_21 4 (dk_at dksL_law_3 2 rfl rfl)
theorem dL_law_180 : decode cL_law 180 = .ok (.iconst 1, 1) := dk_4 (dk_at dksL_law_3 4 rfl rfl)
theorem dL_law_181 : decode cL_law 181 = .ok (.iadd, 1) := dk_96 (dk_at dksL_law_3 5 rfl rfl)
theorem dL_law_182 : decode cL_law 182 = .ok (.iaload, 1) := dk_46 (dk_at dksL_law_3 6 rfl rfl)
theorem dL_law_183 : decode cL_law 183 = .ok (.i2l, 1) := dk_133 (dk_at dksL_law_3 7 rfl rfl)
theorem dL_law_184 : decode cL_law 184 = .ok (.bipush 32, 2) := dk_16 32 (dk_at dksL_law_3 8 rfl rfl)
theorem dL_law_186 : decode cL_law 186 = .ok (.lshl, 1) := dk_121 (dk_at dksL_law_3 10 rfl rfl)
theorem dL_law_187 : decode cL_law 187 = .ok (.aload_n 0, 1) := dk_42 (dk_at dksL_law_3 11 rfl rfl)
theorem dL_law_188 : decode cL_law 188 = .ok (.iload 4, 2) := dk_21 4 (dk_at dksL_law_3 12 rfl rfl)
theorem dL_law_190 : decode cL_law 190 = .ok (.iconst 2, 1) := dk_5 (dk_at dksL_law_3 14 rfl rfl)
theorem dL_law_191 : decode cL_law 191 = .ok (.iadd, 1) := dk_96 (dk_at dksL_law_3 15 rfl rfl)
theorem dL_law_192 : decode cL_law 192 = .ok (.iaload, 1) := dk_46 (dk_at dksL_law_3 16 rfl rfl)
theorem dL_law_193 : decode cL_law 193 = .ok (.i2l, 1) := dk_133 (dk_at dksL_law_3 17 rfl rfl)
theorem dL_law_194 : decode cL_law 194 = .ok (.ldc2_w 19, 3) := dk_20 0 19 (dk_at dksL_law_3 18 rfl rfl)
theorem dL_law_197 : decode cL_law 197 = .ok (.land, 1) := dk_127 (dk_at dksL_law_3 21 rfl rfl)
theorem dL_law_198 : decode cL_law 198 = .ok (.lor, 1) := dk_129 (dk_at dksL_law_3 22 rfl rfl)
theorem dL_law_199 : decode cL_law 199 = .ok (.aload_n 0, 1) := dk_42 (dk_at dksL_law_3 23 rfl rfl)
theorem dL_law_200 : decode cL_law 200 = .ok (.iload 4, 2) := dk_21 4 (dk_at dksL_law_4 0 rfl rfl)
theorem dL_law_202 : decode cL_law 202 = .ok (.iconst 3, 1) := dk_6 (dk_at dksL_law_4 2 rfl rfl)
theorem dL_law_203 : decode cL_law 203 = .ok (.iadd, 1) := dk_96 (dk_at dksL_law_4 3 rfl rfl)
theorem dL_law_204 : decode cL_law 204 = .ok (.iaload, 1) := dk_46 (dk_at dksL_law_4 4 rfl rfl)
theorem dL_law_205 : decode cL_law 205 = .ok (.i2l, 1) := dk_133 (dk_at dksL_law_4 5 rfl rfl)
theorem dL_law_206 : decode cL_law 206 = .ok (.bipush 32, 2) := dk_16 32 (dk_at dksL_law_4 6 rfl rfl)
theorem dL_law_208 : decode cL_law 208 = .ok (.lshl, 1) := dk_121 (dk_at dksL_law_4 8 rfl rfl)
theorem dL_law_209 : decode cL_law 209 = .ok (.aload_n 0, 1) := dk_42 (dk_at dksL_law_4 9 rfl rfl)
theorem dL_law_210 : decode cL_law 210 = .ok (.iload 4, 2) := dk_21 4 (dk_at dksL_law_4 10 rfl rfl)
theorem dL_law_212 : decode cL_law 212 = .ok (.iconst 4, 1) := dk_7 (dk_at dksL_law_4 12 rfl rfl)
theorem dL_law_213 : decode cL_law 213 = .ok (.iadd, 1) := dk_96 (dk_at dksL_law_4 13 rfl rfl)
theorem dL_law_214 : decode cL_law 214 = .ok (.iaload, 1) := dk_46 (dk_at dksL_law_4 14 rfl rfl)
theorem dL_law_215 : decode cL_law 215 = .ok (.i2l, 1) := dk_133 (dk_at dksL_law_4 15 rfl rfl)
theorem dL_law_216 : decode cL_law 216 = .ok (.ldc2_w 19, 3) := dk_20 0 19 (dk_at dksL_law_4 16 rfl rfl)
theorem dL_law_219 : decode cL_law 219 = .ok (.land, 1) := dk_127 (dk_at dksL_law_4 19 rfl rfl)
theorem dL_law_220 : decode cL_law 220 = .ok (.lor, 1) := dk_129 (dk_at dksL_law_4 20 rfl rfl)
theorem dL_law_221 : decode cL_law 221 = .ok (.aload_n 0, 1) := dk_42 (dk_at dksL_law_4 21 rfl rfl)
theorem dL_law_222 : decode cL_law 222 = .ok (.iload 4, 2) := dk_21 4 (dk_at dksL_law_4 22 rfl rfl)
theorem dL_law_224 : decode cL_law 224 = .ok (.iconst 5, 1) := dk_8 (dk_at dksL_law_5 0 rfl rfl)
theorem dL_law_225 : decode cL_law 225 = .ok (.iadd, 1) := dk_96 (dk_at dksL_law_5 1 rfl rfl)
theorem dL_law_226 : decode cL_law 226 = .ok (.iaload, 1) := dk_46 (dk_at dksL_law_5 2 rfl rfl)
theorem dL_law_227 : decode cL_law 227 = .ok (.i2l, 1) := dk_133 (dk_at dksL_law_5 3 rfl rfl)
theorem dL_law_228 : decode cL_law 228 = .ok (.bipush 32, 2) := dk_16 32 (dk_at dksL_law_5 4 rfl rfl)
theorem dL_law_230 : decode cL_law 230 = .ok (.lshl, 1) := dk_121 (dk_at dksL_law_5 6 rfl rfl)
theorem dL_law_231 : decode cL_law 231 = .ok (.aload_n 0, 1) := dk_42 (dk_at dksL_law_5 7 rfl rfl)
theorem dL_law_232 : decode cL_law 232 = .ok (.iload 4, 2) := dk_21 4 (dk_at dksL_law_5 8 rfl rfl)
theorem dL_law_234 : decode cL_law 234 = .ok (.bipush 6, 2) := dk_16 6 (dk_at dksL_law_5 10 rfl rfl)
theorem dL_law_236 : decode cL_law 236 = .ok (.iadd, 1) := dk_96 (dk_at dksL_law_5 12 rfl rfl)
theorem dL_law_237 : decode cL_law 237 = .ok (.iaload, 1) := dk_46 (dk_at dksL_law_5 13 rfl rfl)
theorem dL_law_238 : decode cL_law 238 = .ok (.i2l, 1) := dk_133 (dk_at dksL_law_5 14 rfl rfl)
theorem dL_law_239 : decode cL_law 239 = .ok (.ldc2_w 19, 3) := dk_20 0 19 (dk_at dksL_law_5 15 rfl rfl)
theorem dL_law_242 : decode cL_law 242 = .ok (.land, 1) := dk_127 (dk_at dksL_law_5 18 rfl rfl)
theorem dL_law_243 : decode cL_law 243 = .ok (.lor, 1) := dk_129 (dk_at dksL_law_5 19 rfl rfl)
theorem dL_law_244 : decode cL_law 244 = .ok (.invokevirtual 21, 3) := dk_182 0 21 (dk_at dksL_law_5 20 rfl rfl)
theorem dL_law_247 : decode cL_law 247 = .ok (.aload_n 2, 1) := dk_44 (dk_at dksL_law_5 23 rfl rfl)
theorem dL_law_248 : decode cL_law 248 = .ok (.aload_n 0, 1) := dk_42 (dk_at dksL_law_6 0 rfl rfl)
theorem dL_law_249 : decode cL_law 249 = .ok (.iload 4, 2) := dk_21 4 (dk_at dksL_law_6 1 rfl rfl)
theorem dL_law_251 : decode cL_law 251 = .ok (.iconst 1, 1) := dk_4 (dk_at dksL_law_6 3 rfl rfl)
theorem dL_law_252 : decode cL_law 252 = .ok (.iadd, 1) := dk_96 (dk_at dksL_law_6 4 rfl rfl)
theorem dL_law_253 : decode cL_law 253 = .ok (.iaload, 1) := dk_46 (dk_at dksL_law_6 5 rfl rfl)
theorem dL_law_254 : decode cL_law 254 = .ok (.i2l, 1) := dk_133 (dk_at dksL_law_6 6 rfl rfl)
theorem dL_law_255 : decode cL_law 255 = .ok (.bipush 32, 2) := dk_16 32 (dk_at dksL_law_6 7 rfl rfl)
theorem dL_law_257 : decode cL_law 257 = .ok (.lshl, 1) := dk_121 (dk_at dksL_law_6 9 rfl rfl)
theorem dL_law_258 : decode cL_law 258 = .ok (.aload_n 0, 1) := dk_42 (dk_at dksL_law_6 10 rfl rfl)
theorem dL_law_259 : decode cL_law 259 = .ok (.iload 4, 2) := dk_21 4 (dk_at dksL_law_6 11 rfl rfl)
theorem dL_law_261 : decode cL_law 261 = .ok (.iconst 2, 1) := dk_5 (dk_at dksL_law_6 13 rfl rfl)
theorem dL_law_262 : decode cL_law 262 = .ok (.iadd, 1) := dk_96 (dk_at dksL_law_6 14 rfl rfl)
theorem dL_law_263 : decode cL_law 263 = .ok (.iaload, 1) := dk_46 (dk_at dksL_law_6 15 rfl rfl)
theorem dL_law_264 : decode cL_law 264 = .ok (.i2l, 1) := dk_133 (dk_at dksL_law_6 16 rfl rfl)
theorem dL_law_265 : decode cL_law 265 = .ok (.ldc2_w 19, 3) := dk_20 0 19 (dk_at dksL_law_6 17 rfl rfl)
theorem dL_law_268 : decode cL_law 268 = .ok (.land, 1) := dk_127 (dk_at dksL_law_6 20 rfl rfl)
theorem dL_law_269 : decode cL_law 269 = .ok (.lor, 1) := dk_129 (dk_at dksL_law_6 21 rfl rfl)
theorem dL_law_270 : decode cL_law 270 = .ok (.aload_n 0, 1) := dk_42 (dk_at dksL_law_6 22 rfl rfl)
theorem dL_law_271 : decode cL_law 271 = .ok (.iload 4, 2) := dk_21 4 (dk_at dksL_law_7 0 rfl rfl)
theorem dL_law_273 : decode cL_law 273 = .ok (.iconst 3, 1) := dk_6 (dk_at dksL_law_7 2 rfl rfl)
theorem dL_law_274 : decode cL_law 274 = .ok (.iadd, 1) := dk_96 (dk_at dksL_law_7 3 rfl rfl)
theorem dL_law_275 : decode cL_law 275 = .ok (.iaload, 1) := dk_46 (dk_at dksL_law_7 4 rfl rfl)
theorem dL_law_276 : decode cL_law 276 = .ok (.i2l, 1) := dk_133 (dk_at dksL_law_7 5 rfl rfl)
theorem dL_law_277 : decode cL_law 277 = .ok (.bipush 32, 2) := dk_16 32 (dk_at dksL_law_7 6 rfl rfl)
theorem dL_law_279 : decode cL_law 279 = .ok (.lshl, 1) := dk_121 (dk_at dksL_law_7 8 rfl rfl)
theorem dL_law_280 : decode cL_law 280 = .ok (.aload_n 0, 1) := dk_42 (dk_at dksL_law_7 9 rfl rfl)
theorem dL_law_281 : decode cL_law 281 = .ok (.iload 4, 2) := dk_21 4 (dk_at dksL_law_7 10 rfl rfl)
theorem dL_law_283 : decode cL_law 283 = .ok (.iconst 4, 1) := dk_7 (dk_at dksL_law_7 12 rfl rfl)
theorem dL_law_284 : decode cL_law 284 = .ok (.iadd, 1) := dk_96 (dk_at dksL_law_7 13 rfl rfl)
theorem dL_law_285 : decode cL_law 285 = .ok (.iaload, 1) := dk_46 (dk_at dksL_law_7 14 rfl rfl)
theorem dL_law_286 : decode cL_law 286 = .ok (.i2l, 1) := dk_133 (dk_at dksL_law_7 15 rfl rfl)
theorem dL_law_287 : decode cL_law 287 = .ok (.ldc2_w 19, 3) := dk_20 0 19 (dk_at dksL_law_7 16 rfl rfl)
theorem dL_law_290 : decode cL_law 290 = .ok (.land, 1) := dk_127 (dk_at dksL_law_7 19 rfl rfl)
theorem dL_law_291 : decode cL_law 291 = .ok (.lor, 1) := dk_129 (dk_at dksL_law_7 20 rfl rfl)
theorem dL_law_292 : decode cL_law 292 = .ok (.aload_n 0, 1) := dk_42 (dk_at dksL_law_7 21 rfl rfl)
theorem dL_law_293 : decode cL_law 293 = .ok (.iload 4, 2) := dk_21 4 (dk_at dksL_law_7 22 rfl rfl)
theorem dL_law_295 : decode cL_law 295 = .ok (.iconst 5, 1) := dk_8 (dk_at dksL_law_8 0 rfl rfl)
theorem dL_law_296 : decode cL_law 296 = .ok (.iadd, 1) := dk_96 (dk_at dksL_law_8 1 rfl rfl)
theorem dL_law_297 : decode cL_law 297 = .ok (.iaload, 1) := dk_46 (dk_at dksL_law_8 2 rfl rfl)
theorem dL_law_298 : decode cL_law 298 = .ok (.i2l, 1) := dk_133 (dk_at dksL_law_8 3 rfl rfl)
theorem dL_law_299 : decode cL_law 299 = .ok (.bipush 32, 2) := dk_16 32 (dk_at dksL_law_8 4 rfl rfl)
theorem dL_law_301 : decode cL_law 301 = .ok (.lshl, 1) := dk_121 (dk_at dksL_law_8 6 rfl rfl)
theorem dL_law_302 : decode cL_law 302 = .ok (.aload_n 0, 1) := dk_42 (dk_at dksL_law_8 7 rfl rfl)
theorem dL_law_303 : decode cL_law 303 = .ok (.iload 4, 2) := dk_21 4 (dk_at dksL_law_8 8 rfl rfl)
theorem dL_law_305 : decode cL_law 305 = .ok (.bipush 6, 2) := dk_16 6 (dk_at dksL_law_8 10 rfl rfl)
theorem dL_law_307 : decode cL_law 307 = .ok (.iadd, 1) := dk_96 (dk_at dksL_law_8 12 rfl rfl)
theorem dL_law_308 : decode cL_law 308 = .ok (.iaload, 1) := dk_46 (dk_at dksL_law_8 13 rfl rfl)
theorem dL_law_309 : decode cL_law 309 = .ok (.i2l, 1) := dk_133 (dk_at dksL_law_8 14 rfl rfl)
theorem dL_law_310 : decode cL_law 310 = .ok (.ldc2_w 19, 3) := dk_20 0 19 (dk_at dksL_law_8 15 rfl rfl)
theorem dL_law_313 : decode cL_law 313 = .ok (.land, 1) := dk_127 (dk_at dksL_law_8 18 rfl rfl)
theorem dL_law_314 : decode cL_law 314 = .ok (.lor, 1) := dk_129 (dk_at dksL_law_8 19 rfl rfl)
theorem dL_law_315 : decode cL_law 315 = .ok (.invokevirtual 25, 3) := dk_182 0 25 (dk_at dksL_law_8 20 rfl rfl)
theorem dL_law_318 : decode cL_law 318 = .ok (.if_icmp .eq 925, 3) := dk_159 3 157 (dk_at dksL_law_9 0 rfl rfl)
theorem dL_law_321 : decode cL_law 321 = .ok (.iconst 0, 1) := dk_3 (dk_at dksL_law_9 3 rfl rfl)
theorem dL_law_322 : decode cL_law 322 = .ok (.ireturn, 1) := dk_172 (dk_at dksL_law_9 4 rfl rfl)
theorem dL_law_323 : decode cL_law 323 = .ok (.aload_n 1, 1) := dk_43 (dk_at dksL_law_9 5 rfl rfl)
theorem dL_law_324 : decode cL_law 324 = .ok (.invokevirtual 26, 3) := dk_182 0 26 (dk_at dksL_law_9 6 rfl rfl)
theorem dL_law_327 : decode cL_law 327 = .ok (.aload_n 2, 1) := dk_44 (dk_at dksL_law_9 9 rfl rfl)
theorem dL_law_328 : decode cL_law 328 = .ok (.invokevirtual 30, 3) := dk_182 0 30 (dk_at dksL_law_9 10 rfl rfl)
theorem dL_law_331 : decode cL_law 331 = .ok (.if_icmp .eq 912, 3) := dk_159 3 144 (dk_at dksL_law_9 13 rfl rfl)
theorem dL_law_334 : decode cL_law 334 = .ok (.iconst 0, 1) := dk_3 (dk_at dksL_law_9 16 rfl rfl)
theorem dL_law_335 : decode cL_law 335 = .ok (.ireturn, 1) := dk_172 (dk_at dksL_law_9 17 rfl rfl)
theorem dL_law_336 : decode cL_law 336 = .ok (.aload_n 1, 1) := dk_43 (dk_at dksL_law_9 18 rfl rfl)
theorem dL_law_337 : decode cL_law 337 = .ok (.invokevirtual 31, 3) := dk_182 0 31 (dk_at dksL_law_9 19 rfl rfl)
theorem dL_law_340 : decode cL_law 340 = .ok (.aload_n 2, 1) := dk_44 (dk_at dksL_law_9 22 rfl rfl)
theorem dL_law_341 : decode cL_law 341 = .ok (.invokevirtual 34, 3) := dk_182 0 34 (dk_at dksL_law_10 0 rfl rfl)
theorem dL_law_344 : decode cL_law 344 = .ok (.if_icmp .eq 899, 3) := dk_159 3 131 (dk_at dksL_law_10 3 rfl rfl)
theorem dL_law_347 : decode cL_law 347 = .ok (.iconst 0, 1) := dk_3 (dk_at dksL_law_10 6 rfl rfl)
theorem dL_law_348 : decode cL_law 348 = .ok (.ireturn, 1) := dk_172 (dk_at dksL_law_10 7 rfl rfl)
theorem dL_law_349 : decode cL_law 349 = .ok (.aload_n 1, 1) := dk_43 (dk_at dksL_law_10 8 rfl rfl)
theorem dL_law_350 : decode cL_law 350 = .ok (.aload_n 0, 1) := dk_42 (dk_at dksL_law_10 9 rfl rfl)
theorem dL_law_351 : decode cL_law 351 = .ok (.iload 4, 2) := dk_21 4 (dk_at dksL_law_10 10 rfl rfl)
theorem dL_law_353 : decode cL_law 353 = .ok (.iconst 1, 1) := dk_4 (dk_at dksL_law_10 12 rfl rfl)
theorem dL_law_354 : decode cL_law 354 = .ok (.iadd, 1) := dk_96 (dk_at dksL_law_10 13 rfl rfl)
theorem dL_law_355 : decode cL_law 355 = .ok (.iaload, 1) := dk_46 (dk_at dksL_law_10 14 rfl rfl)
theorem dL_law_356 : decode cL_law 356 = .ok (.aload_n 0, 1) := dk_42 (dk_at dksL_law_10 15 rfl rfl)
theorem dL_law_357 : decode cL_law 357 = .ok (.iload 4, 2) := dk_21 4 (dk_at dksL_law_10 16 rfl rfl)
theorem dL_law_359 : decode cL_law 359 = .ok (.iconst 2, 1) := dk_5 (dk_at dksL_law_10 18 rfl rfl)
theorem dL_law_360 : decode cL_law 360 = .ok (.iadd, 1) := dk_96 (dk_at dksL_law_10 19 rfl rfl)
theorem dL_law_361 : decode cL_law 361 = .ok (.iaload, 1) := dk_46 (dk_at dksL_law_10 20 rfl rfl)
theorem dL_law_362 : decode cL_law 362 = .ok (.invokevirtual 35, 3) := dk_182 0 35 (dk_at dksL_law_10 21 rfl rfl)
theorem dL_law_365 : decode cL_law 365 = .ok (.aload_n 2, 1) := dk_44 (dk_at dksL_law_11 0 rfl rfl)
theorem dL_law_366 : decode cL_law 366 = .ok (.aload_n 0, 1) := dk_42 (dk_at dksL_law_11 1 rfl rfl)
theorem dL_law_367 : decode cL_law 367 = .ok (.iload 4, 2) := dk_21 4 (dk_at dksL_law_11 2 rfl rfl)
theorem dL_law_369 : decode cL_law 369 = .ok (.iconst 1, 1) := dk_4 (dk_at dksL_law_11 4 rfl rfl)
theorem dL_law_370 : decode cL_law 370 = .ok (.iadd, 1) := dk_96 (dk_at dksL_law_11 5 rfl rfl)
theorem dL_law_371 : decode cL_law 371 = .ok (.iaload, 1) := dk_46 (dk_at dksL_law_11 6 rfl rfl)
theorem dL_law_372 : decode cL_law 372 = .ok (.aload_n 0, 1) := dk_42 (dk_at dksL_law_11 7 rfl rfl)
theorem dL_law_373 : decode cL_law 373 = .ok (.iload 4, 2) := dk_21 4 (dk_at dksL_law_11 8 rfl rfl)
theorem dL_law_375 : decode cL_law 375 = .ok (.iconst 2, 1) := dk_5 (dk_at dksL_law_11 10 rfl rfl)
theorem dL_law_376 : decode cL_law 376 = .ok (.iadd, 1) := dk_96 (dk_at dksL_law_11 11 rfl rfl)
theorem dL_law_377 : decode cL_law 377 = .ok (.iaload, 1) := dk_46 (dk_at dksL_law_11 12 rfl rfl)
theorem dL_law_378 : decode cL_law 378 = .ok (.invokevirtual 39, 3) := dk_182 0 39 (dk_at dksL_law_11 13 rfl rfl)
theorem dL_law_381 : decode cL_law 381 = .ok (.if_icmp .eq 862, 3) := dk_159 3 94 (dk_at dksL_law_11 16 rfl rfl)
theorem dL_law_384 : decode cL_law 384 = .ok (.iconst 0, 1) := dk_3 (dk_at dksL_law_11 19 rfl rfl)
theorem dL_law_385 : decode cL_law 385 = .ok (.ireturn, 1) := dk_172 (dk_at dksL_law_11 20 rfl rfl)
theorem dL_law_386 : decode cL_law 386 = .ok (.aload_n 1, 1) := dk_43 (dk_at dksL_law_11 21 rfl rfl)
theorem dL_law_387 : decode cL_law 387 = .ok (.aload_n 0, 1) := dk_42 (dk_at dksL_law_11 22 rfl rfl)
theorem dL_law_388 : decode cL_law 388 = .ok (.iload 4, 2) := dk_21 4 (dk_at dksL_law_12 0 rfl rfl)
theorem dL_law_390 : decode cL_law 390 = .ok (.iconst 1, 1) := dk_4 (dk_at dksL_law_12 2 rfl rfl)
theorem dL_law_391 : decode cL_law 391 = .ok (.iadd, 1) := dk_96 (dk_at dksL_law_12 3 rfl rfl)
theorem dL_law_392 : decode cL_law 392 = .ok (.iaload, 1) := dk_46 (dk_at dksL_law_12 4 rfl rfl)
theorem dL_law_393 : decode cL_law 393 = .ok (.aload_n 0, 1) := dk_42 (dk_at dksL_law_12 5 rfl rfl)
theorem dL_law_394 : decode cL_law 394 = .ok (.iload 4, 2) := dk_21 4 (dk_at dksL_law_12 6 rfl rfl)
theorem dL_law_396 : decode cL_law 396 = .ok (.iconst 2, 1) := dk_5 (dk_at dksL_law_12 8 rfl rfl)
theorem dL_law_397 : decode cL_law 397 = .ok (.iadd, 1) := dk_96 (dk_at dksL_law_12 9 rfl rfl)
theorem dL_law_398 : decode cL_law 398 = .ok (.iaload, 1) := dk_46 (dk_at dksL_law_12 10 rfl rfl)
theorem dL_law_399 : decode cL_law 399 = .ok (.invokevirtual 40, 3) := dk_182 0 40 (dk_at dksL_law_12 11 rfl rfl)
theorem dL_law_402 : decode cL_law 402 = .ok (.aload_n 2, 1) := dk_44 (dk_at dksL_law_12 14 rfl rfl)
theorem dL_law_403 : decode cL_law 403 = .ok (.aload_n 0, 1) := dk_42 (dk_at dksL_law_12 15 rfl rfl)
theorem dL_law_404 : decode cL_law 404 = .ok (.iload 4, 2) := dk_21 4 (dk_at dksL_law_12 16 rfl rfl)
theorem dL_law_406 : decode cL_law 406 = .ok (.iconst 1, 1) := dk_4 (dk_at dksL_law_12 18 rfl rfl)
theorem dL_law_407 : decode cL_law 407 = .ok (.iadd, 1) := dk_96 (dk_at dksL_law_12 19 rfl rfl)
theorem dL_law_408 : decode cL_law 408 = .ok (.iaload, 1) := dk_46 (dk_at dksL_law_12 20 rfl rfl)
theorem dL_law_409 : decode cL_law 409 = .ok (.aload_n 0, 1) := dk_42 (dk_at dksL_law_12 21 rfl rfl)
theorem dL_law_410 : decode cL_law 410 = .ok (.iload 4, 2) := dk_21 4 (dk_at dksL_law_12 22 rfl rfl)
theorem dL_law_412 : decode cL_law 412 = .ok (.iconst 2, 1) := dk_5 (dk_at dksL_law_13 0 rfl rfl)
theorem dL_law_413 : decode cL_law 413 = .ok (.iadd, 1) := dk_96 (dk_at dksL_law_13 1 rfl rfl)
theorem dL_law_414 : decode cL_law 414 = .ok (.iaload, 1) := dk_46 (dk_at dksL_law_13 2 rfl rfl)
theorem dL_law_415 : decode cL_law 415 = .ok (.invokevirtual 43, 3) := dk_182 0 43 (dk_at dksL_law_13 3 rfl rfl)
theorem dL_law_418 : decode cL_law 418 = .ok (.if_icmp .eq 825, 3) := dk_159 3 57 (dk_at dksL_law_13 6 rfl rfl)
theorem dL_law_421 : decode cL_law 421 = .ok (.iconst 0, 1) := dk_3 (dk_at dksL_law_13 9 rfl rfl)
theorem dL_law_422 : decode cL_law 422 = .ok (.ireturn, 1) := dk_172 (dk_at dksL_law_13 10 rfl rfl)
theorem dL_law_423 : decode cL_law 423 = .ok (.aload_n 1, 1) := dk_43 (dk_at dksL_law_13 11 rfl rfl)
theorem dL_law_424 : decode cL_law 424 = .ok (.aload_n 0, 1) := dk_42 (dk_at dksL_law_13 12 rfl rfl)
theorem dL_law_425 : decode cL_law 425 = .ok (.iload 4, 2) := dk_21 4 (dk_at dksL_law_13 13 rfl rfl)
theorem dL_law_427 : decode cL_law 427 = .ok (.iconst 1, 1) := dk_4 (dk_at dksL_law_13 15 rfl rfl)
theorem dL_law_428 : decode cL_law 428 = .ok (.iadd, 1) := dk_96 (dk_at dksL_law_13 16 rfl rfl)
theorem dL_law_429 : decode cL_law 429 = .ok (.iaload, 1) := dk_46 (dk_at dksL_law_13 17 rfl rfl)
theorem dL_law_430 : decode cL_law 430 = .ok (.aload_n 0, 1) := dk_42 (dk_at dksL_law_13 18 rfl rfl)
theorem dL_law_431 : decode cL_law 431 = .ok (.iload 4, 2) := dk_21 4 (dk_at dksL_law_13 19 rfl rfl)
theorem dL_law_433 : decode cL_law 433 = .ok (.iconst 2, 1) := dk_5 (dk_at dksL_law_13 21 rfl rfl)
theorem dL_law_434 : decode cL_law 434 = .ok (.iadd, 1) := dk_96 (dk_at dksL_law_13 22 rfl rfl)
theorem dL_law_435 : decode cL_law 435 = .ok (.iaload, 1) := dk_46 (dk_at dksL_law_13 23 rfl rfl)
theorem dL_law_436 : decode cL_law 436 = .ok (.invokevirtual 44, 3) := dk_182 0 44 (dk_at dksL_law_14 0 rfl rfl)
theorem dL_law_439 : decode cL_law 439 = .ok (.aload_n 2, 1) := dk_44 (dk_at dksL_law_14 3 rfl rfl)
theorem dL_law_440 : decode cL_law 440 = .ok (.aload_n 0, 1) := dk_42 (dk_at dksL_law_14 4 rfl rfl)
theorem dL_law_441 : decode cL_law 441 = .ok (.iload 4, 2) := dk_21 4 (dk_at dksL_law_14 5 rfl rfl)
theorem dL_law_443 : decode cL_law 443 = .ok (.iconst 1, 1) := dk_4 (dk_at dksL_law_14 7 rfl rfl)
theorem dL_law_444 : decode cL_law 444 = .ok (.iadd, 1) := dk_96 (dk_at dksL_law_14 8 rfl rfl)
theorem dL_law_445 : decode cL_law 445 = .ok (.iaload, 1) := dk_46 (dk_at dksL_law_14 9 rfl rfl)
theorem dL_law_446 : decode cL_law 446 = .ok (.aload_n 0, 1) := dk_42 (dk_at dksL_law_14 10 rfl rfl)
theorem dL_law_447 : decode cL_law 447 = .ok (.iload 4, 2) := dk_21 4 (dk_at dksL_law_14 11 rfl rfl)
theorem dL_law_449 : decode cL_law 449 = .ok (.iconst 2, 1) := dk_5 (dk_at dksL_law_14 13 rfl rfl)
theorem dL_law_450 : decode cL_law 450 = .ok (.iadd, 1) := dk_96 (dk_at dksL_law_14 14 rfl rfl)
theorem dL_law_451 : decode cL_law 451 = .ok (.iaload, 1) := dk_46 (dk_at dksL_law_14 15 rfl rfl)
theorem dL_law_452 : decode cL_law 452 = .ok (.invokevirtual 47, 3) := dk_182 0 47 (dk_at dksL_law_14 16 rfl rfl)
theorem dL_law_455 : decode cL_law 455 = .ok (.if_icmp .eq 788, 3) := dk_159 3 20 (dk_at dksL_law_14 19 rfl rfl)
theorem dL_law_458 : decode cL_law 458 = .ok (.iconst 0, 1) := dk_3 (dk_at dksL_law_14 22 rfl rfl)
theorem dL_law_459 : decode cL_law 459 = .ok (.ireturn, 1) := dk_172 (dk_at dksL_law_14 23 rfl rfl)
theorem dL_law_460 : decode cL_law 460 = .ok (.aload_n 1, 1) := dk_43 (dk_at dksL_law_15 0 rfl rfl)
theorem dL_law_461 : decode cL_law 461 = .ok (.aload_n 0, 1) := dk_42 (dk_at dksL_law_15 1 rfl rfl)
theorem dL_law_462 : decode cL_law 462 = .ok (.iload 4, 2) := dk_21 4 (dk_at dksL_law_15 2 rfl rfl)
theorem dL_law_464 : decode cL_law 464 = .ok (.iconst 1, 1) := dk_4 (dk_at dksL_law_15 4 rfl rfl)
theorem dL_law_465 : decode cL_law 465 = .ok (.iadd, 1) := dk_96 (dk_at dksL_law_15 5 rfl rfl)
theorem dL_law_466 : decode cL_law 466 = .ok (.iaload, 1) := dk_46 (dk_at dksL_law_15 6 rfl rfl)
theorem dL_law_467 : decode cL_law 467 = .ok (.invokevirtual 48, 3) := dk_182 0 48 (dk_at dksL_law_15 7 rfl rfl)
theorem dL_law_470 : decode cL_law 470 = .ok (.aload_n 2, 1) := dk_44 (dk_at dksL_law_15 10 rfl rfl)
theorem dL_law_471 : decode cL_law 471 = .ok (.aload_n 0, 1) := dk_42 (dk_at dksL_law_15 11 rfl rfl)
theorem dL_law_472 : decode cL_law 472 = .ok (.iload 4, 2) := dk_21 4 (dk_at dksL_law_15 12 rfl rfl)
theorem dL_law_474 : decode cL_law 474 = .ok (.iconst 1, 1) := dk_4 (dk_at dksL_law_15 14 rfl rfl)
theorem dL_law_475 : decode cL_law 475 = .ok (.iadd, 1) := dk_96 (dk_at dksL_law_15 15 rfl rfl)
theorem dL_law_476 : decode cL_law 476 = .ok (.iaload, 1) := dk_46 (dk_at dksL_law_15 16 rfl rfl)
theorem dL_law_477 : decode cL_law 477 = .ok (.invokevirtual 52, 3) := dk_182 0 52 (dk_at dksL_law_15 17 rfl rfl)
theorem dL_law_480 : decode cL_law 480 = .ok (.if_icmp .eq 763, 3) := dk_159 2 251 (dk_at dksL_law_15 20 rfl rfl)
theorem dL_law_483 : decode cL_law 483 = .ok (.iconst 0, 1) := dk_3 (dk_at dksL_law_15 23 rfl rfl)
theorem dL_law_484 : decode cL_law 484 = .ok (.ireturn, 1) := dk_172 (dk_at dksL_law_16 0 rfl rfl)
theorem dL_law_485 : decode cL_law 485 = .ok (.aload_n 1, 1) := dk_43 (dk_at dksL_law_16 1 rfl rfl)
theorem dL_law_486 : decode cL_law 486 = .ok (.invokevirtual 53, 3) := dk_182 0 53 (dk_at dksL_law_16 2 rfl rfl)
theorem dL_law_489 : decode cL_law 489 = .ok (.aload_n 2, 1) := dk_44 (dk_at dksL_law_16 5 rfl rfl)
theorem dL_law_490 : decode cL_law 490 = .ok (.invokevirtual 56, 3) := dk_182 0 56 (dk_at dksL_law_16 6 rfl rfl)
theorem dL_law_493 : decode cL_law 493 = .ok (.if_icmp .eq 750, 3) := dk_159 2 238 (dk_at dksL_law_16 9 rfl rfl)
theorem dL_law_496 : decode cL_law 496 = .ok (.iconst 0, 1) := dk_3 (dk_at dksL_law_16 12 rfl rfl)
theorem dL_law_497 : decode cL_law 497 = .ok (.ireturn, 1) := dk_172 (dk_at dksL_law_16 13 rfl rfl)
theorem dL_law_498 : decode cL_law 498 = .ok (.aload_n 1, 1) := dk_43 (dk_at dksL_law_16 14 rfl rfl)
theorem dL_law_499 : decode cL_law 499 = .ok (.invokevirtual 57, 3) := dk_182 0 57 (dk_at dksL_law_16 15 rfl rfl)
theorem dL_law_502 : decode cL_law 502 = .ok (.aload_n 2, 1) := dk_44 (dk_at dksL_law_16 18 rfl rfl)
theorem dL_law_503 : decode cL_law 503 = .ok (.invokevirtual 61, 3) := dk_182 0 61 (dk_at dksL_law_16 19 rfl rfl)
theorem dL_law_506 : decode cL_law 506 = .ok (.if_icmp .eq 737, 3) := dk_159 2 225 (dk_at dksL_law_17 0 rfl rfl)
theorem dL_law_509 : decode cL_law 509 = .ok (.iconst 0, 1) := dk_3 (dk_at dksL_law_17 3 rfl rfl)
theorem dL_law_510 : decode cL_law 510 = .ok (.ireturn, 1) := dk_172 (dk_at dksL_law_17 4 rfl rfl)
theorem dL_law_511 : decode cL_law 511 = .ok (.aload_n 1, 1) := dk_43 (dk_at dksL_law_17 5 rfl rfl)
theorem dL_law_512 : decode cL_law 512 = .ok (.aload_n 0, 1) := dk_42 (dk_at dksL_law_17 6 rfl rfl)
theorem dL_law_513 : decode cL_law 513 = .ok (.iload 4, 2) := dk_21 4 (dk_at dksL_law_17 7 rfl rfl)
theorem dL_law_515 : decode cL_law 515 = .ok (.iconst 1, 1) := dk_4 (dk_at dksL_law_17 9 rfl rfl)
theorem dL_law_516 : decode cL_law 516 = .ok (.iadd, 1) := dk_96 (dk_at dksL_law_17 10 rfl rfl)
theorem dL_law_517 : decode cL_law 517 = .ok (.iaload, 1) := dk_46 (dk_at dksL_law_17 11 rfl rfl)
theorem dL_law_518 : decode cL_law 518 = .ok (.invokevirtual 62, 3) := dk_182 0 62 (dk_at dksL_law_17 12 rfl rfl)
theorem dL_law_521 : decode cL_law 521 = .ok (.aload_n 2, 1) := dk_44 (dk_at dksL_law_17 15 rfl rfl)
theorem dL_law_522 : decode cL_law 522 = .ok (.aload_n 0, 1) := dk_42 (dk_at dksL_law_17 16 rfl rfl)
theorem dL_law_523 : decode cL_law 523 = .ok (.iload 4, 2) := dk_21 4 (dk_at dksL_law_17 17 rfl rfl)
theorem dL_law_525 : decode cL_law 525 = .ok (.iconst 1, 1) := dk_4 (dk_at dksL_law_17 19 rfl rfl)
theorem dL_law_526 : decode cL_law 526 = .ok (.iadd, 1) := dk_96 (dk_at dksL_law_17 20 rfl rfl)
theorem dL_law_527 : decode cL_law 527 = .ok (.iaload, 1) := dk_46 (dk_at dksL_law_17 21 rfl rfl)
theorem dL_law_528 : decode cL_law 528 = .ok (.invokevirtual 66, 3) := dk_182 0 66 (dk_at dksL_law_18 0 rfl rfl)
theorem dL_law_531 : decode cL_law 531 = .ok (.if_icmp .eq 712, 3) := dk_159 2 200 (dk_at dksL_law_18 3 rfl rfl)
theorem dL_law_534 : decode cL_law 534 = .ok (.iconst 0, 1) := dk_3 (dk_at dksL_law_18 6 rfl rfl)
theorem dL_law_535 : decode cL_law 535 = .ok (.ireturn, 1) := dk_172 (dk_at dksL_law_18 7 rfl rfl)
theorem dL_law_536 : decode cL_law 536 = .ok (.aload_n 1, 1) := dk_43 (dk_at dksL_law_18 8 rfl rfl)
theorem dL_law_537 : decode cL_law 537 = .ok (.aload_n 0, 1) := dk_42 (dk_at dksL_law_18 9 rfl rfl)
theorem dL_law_538 : decode cL_law 538 = .ok (.iload 4, 2) := dk_21 4 (dk_at dksL_law_18 10 rfl rfl)
theorem dL_law_540 : decode cL_law 540 = .ok (.iconst 1, 1) := dk_4 (dk_at dksL_law_18 12 rfl rfl)
theorem dL_law_541 : decode cL_law 541 = .ok (.iadd, 1) := dk_96 (dk_at dksL_law_18 13 rfl rfl)
theorem dL_law_542 : decode cL_law 542 = .ok (.iaload, 1) := dk_46 (dk_at dksL_law_18 14 rfl rfl)
theorem dL_law_543 : decode cL_law 543 = .ok (.aload_n 0, 1) := dk_42 (dk_at dksL_law_18 15 rfl rfl)
theorem dL_law_544 : decode cL_law 544 = .ok (.iload 4, 2) := dk_21 4 (dk_at dksL_law_18 16 rfl rfl)
theorem dL_law_546 : decode cL_law 546 = .ok (.iconst 2, 1) := dk_5 (dk_at dksL_law_18 18 rfl rfl)
theorem dL_law_547 : decode cL_law 547 = .ok (.iadd, 1) := dk_96 (dk_at dksL_law_18 19 rfl rfl)
theorem dL_law_548 : decode cL_law 548 = .ok (.iaload, 1) := dk_46 (dk_at dksL_law_18 20 rfl rfl)
theorem dL_law_549 : decode cL_law 549 = .ok (.invokevirtual 67, 3) := dk_182 0 67 (dk_at dksL_law_18 21 rfl rfl)
theorem dL_law_552 : decode cL_law 552 = .ok (.aload_n 2, 1) := dk_44 (dk_at dksL_law_19 0 rfl rfl)
theorem dL_law_553 : decode cL_law 553 = .ok (.aload_n 0, 1) := dk_42 (dk_at dksL_law_19 1 rfl rfl)
theorem dL_law_554 : decode cL_law 554 = .ok (.iload 4, 2) := dk_21 4 (dk_at dksL_law_19 2 rfl rfl)
theorem dL_law_556 : decode cL_law 556 = .ok (.iconst 1, 1) := dk_4 (dk_at dksL_law_19 4 rfl rfl)
theorem dL_law_557 : decode cL_law 557 = .ok (.iadd, 1) := dk_96 (dk_at dksL_law_19 5 rfl rfl)
theorem dL_law_558 : decode cL_law 558 = .ok (.iaload, 1) := dk_46 (dk_at dksL_law_19 6 rfl rfl)
theorem dL_law_559 : decode cL_law 559 = .ok (.aload_n 0, 1) := dk_42 (dk_at dksL_law_19 7 rfl rfl)
theorem dL_law_560 : decode cL_law 560 = .ok (.iload 4, 2) := dk_21 4 (dk_at dksL_law_19 8 rfl rfl)
theorem dL_law_562 : decode cL_law 562 = .ok (.iconst 2, 1) := dk_5 (dk_at dksL_law_19 10 rfl rfl)
theorem dL_law_563 : decode cL_law 563 = .ok (.iadd, 1) := dk_96 (dk_at dksL_law_19 11 rfl rfl)
theorem dL_law_564 : decode cL_law 564 = .ok (.iaload, 1) := dk_46 (dk_at dksL_law_19 12 rfl rfl)
theorem dL_law_565 : decode cL_law 565 = .ok (.invokevirtual 70, 3) := dk_182 0 70 (dk_at dksL_law_19 13 rfl rfl)
theorem dL_law_568 : decode cL_law 568 = .ok (.if_icmp .eq 675, 3) := dk_159 2 163 (dk_at dksL_law_19 16 rfl rfl)
theorem dL_law_571 : decode cL_law 571 = .ok (.iconst 0, 1) := dk_3 (dk_at dksL_law_19 19 rfl rfl)
theorem dL_law_572 : decode cL_law 572 = .ok (.ireturn, 1) := dk_172 (dk_at dksL_law_19 20 rfl rfl)
theorem dL_law_573 : decode cL_law 573 = .ok (.aload_n 1, 1) := dk_43 (dk_at dksL_law_19 21 rfl rfl)
theorem dL_law_574 : decode cL_law 574 = .ok (.aload_n 0, 1) := dk_42 (dk_at dksL_law_19 22 rfl rfl)
theorem dL_law_575 : decode cL_law 575 = .ok (.iload 4, 2) := dk_21 4 (dk_at dksL_law_20 0 rfl rfl)
theorem dL_law_577 : decode cL_law 577 = .ok (.iconst 1, 1) := dk_4 (dk_at dksL_law_20 2 rfl rfl)
theorem dL_law_578 : decode cL_law 578 = .ok (.iadd, 1) := dk_96 (dk_at dksL_law_20 3 rfl rfl)
theorem dL_law_579 : decode cL_law 579 = .ok (.iaload, 1) := dk_46 (dk_at dksL_law_20 4 rfl rfl)
theorem dL_law_580 : decode cL_law 580 = .ok (.aload_n 0, 1) := dk_42 (dk_at dksL_law_20 5 rfl rfl)
theorem dL_law_581 : decode cL_law 581 = .ok (.iload 4, 2) := dk_21 4 (dk_at dksL_law_20 6 rfl rfl)
theorem dL_law_583 : decode cL_law 583 = .ok (.iconst 2, 1) := dk_5 (dk_at dksL_law_20 8 rfl rfl)
theorem dL_law_584 : decode cL_law 584 = .ok (.iadd, 1) := dk_96 (dk_at dksL_law_20 9 rfl rfl)
theorem dL_law_585 : decode cL_law 585 = .ok (.iaload, 1) := dk_46 (dk_at dksL_law_20 10 rfl rfl)
theorem dL_law_586 : decode cL_law 586 = .ok (.invokevirtual 71, 3) := dk_182 0 71 (dk_at dksL_law_20 11 rfl rfl)
theorem dL_law_589 : decode cL_law 589 = .ok (.aload_n 2, 1) := dk_44 (dk_at dksL_law_20 14 rfl rfl)
theorem dL_law_590 : decode cL_law 590 = .ok (.aload_n 0, 1) := dk_42 (dk_at dksL_law_20 15 rfl rfl)
theorem dL_law_591 : decode cL_law 591 = .ok (.iload 4, 2) := dk_21 4 (dk_at dksL_law_20 16 rfl rfl)
theorem dL_law_593 : decode cL_law 593 = .ok (.iconst 1, 1) := dk_4 (dk_at dksL_law_20 18 rfl rfl)
theorem dL_law_594 : decode cL_law 594 = .ok (.iadd, 1) := dk_96 (dk_at dksL_law_20 19 rfl rfl)
theorem dL_law_595 : decode cL_law 595 = .ok (.iaload, 1) := dk_46 (dk_at dksL_law_20 20 rfl rfl)
theorem dL_law_596 : decode cL_law 596 = .ok (.aload_n 0, 1) := dk_42 (dk_at dksL_law_20 21 rfl rfl)
theorem dL_law_597 : decode cL_law 597 = .ok (.iload 4, 2) := dk_21 4 (dk_at dksL_law_20 22 rfl rfl)
theorem dL_law_599 : decode cL_law 599 = .ok (.iconst 2, 1) := dk_5 (dk_at dksL_law_21 0 rfl rfl)
theorem dL_law_600 : decode cL_law 600 = .ok (.iadd, 1) := dk_96 (dk_at dksL_law_21 1 rfl rfl)
theorem dL_law_601 : decode cL_law 601 = .ok (.iaload, 1) := dk_46 (dk_at dksL_law_21 2 rfl rfl)
theorem dL_law_602 : decode cL_law 602 = .ok (.invokevirtual 74, 3) := dk_182 0 74 (dk_at dksL_law_21 3 rfl rfl)
theorem dL_law_605 : decode cL_law 605 = .ok (.if_icmp .eq 638, 3) := dk_159 2 126 (dk_at dksL_law_21 6 rfl rfl)
theorem dL_law_608 : decode cL_law 608 = .ok (.iconst 0, 1) := dk_3 (dk_at dksL_law_21 9 rfl rfl)
theorem dL_law_609 : decode cL_law 609 = .ok (.ireturn, 1) := dk_172 (dk_at dksL_law_21 10 rfl rfl)
theorem dL_law_610 : decode cL_law 610 = .ok (.aload_n 1, 1) := dk_43 (dk_at dksL_law_21 11 rfl rfl)
theorem dL_law_611 : decode cL_law 611 = .ok (.aload_n 0, 1) := dk_42 (dk_at dksL_law_21 12 rfl rfl)
theorem dL_law_612 : decode cL_law 612 = .ok (.iload 4, 2) := dk_21 4 (dk_at dksL_law_21 13 rfl rfl)
theorem dL_law_614 : decode cL_law 614 = .ok (.iconst 1, 1) := dk_4 (dk_at dksL_law_21 15 rfl rfl)
theorem dL_law_615 : decode cL_law 615 = .ok (.iadd, 1) := dk_96 (dk_at dksL_law_21 16 rfl rfl)
theorem dL_law_616 : decode cL_law 616 = .ok (.iaload, 1) := dk_46 (dk_at dksL_law_21 17 rfl rfl)
theorem dL_law_617 : decode cL_law 617 = .ok (.aload_n 0, 1) := dk_42 (dk_at dksL_law_21 18 rfl rfl)
theorem dL_law_618 : decode cL_law 618 = .ok (.iload 4, 2) := dk_21 4 (dk_at dksL_law_21 19 rfl rfl)
theorem dL_law_620 : decode cL_law 620 = .ok (.iconst 2, 1) := dk_5 (dk_at dksL_law_21 21 rfl rfl)
theorem dL_law_621 : decode cL_law 621 = .ok (.iadd, 1) := dk_96 (dk_at dksL_law_21 22 rfl rfl)
theorem dL_law_622 : decode cL_law 622 = .ok (.iaload, 1) := dk_46 (dk_at dksL_law_21 23 rfl rfl)
theorem dL_law_623 : decode cL_law 623 = .ok (.invokevirtual 75, 3) := dk_182 0 75 (dk_at dksL_law_22 0 rfl rfl)
theorem dL_law_626 : decode cL_law 626 = .ok (.aload_n 2, 1) := dk_44 (dk_at dksL_law_22 3 rfl rfl)
theorem dL_law_627 : decode cL_law 627 = .ok (.aload_n 0, 1) := dk_42 (dk_at dksL_law_22 4 rfl rfl)
theorem dL_law_628 : decode cL_law 628 = .ok (.iload 4, 2) := dk_21 4 (dk_at dksL_law_22 5 rfl rfl)
theorem dL_law_630 : decode cL_law 630 = .ok (.iconst 1, 1) := dk_4 (dk_at dksL_law_22 7 rfl rfl)
theorem dL_law_631 : decode cL_law 631 = .ok (.iadd, 1) := dk_96 (dk_at dksL_law_22 8 rfl rfl)
theorem dL_law_632 : decode cL_law 632 = .ok (.iaload, 1) := dk_46 (dk_at dksL_law_22 9 rfl rfl)
theorem dL_law_633 : decode cL_law 633 = .ok (.aload_n 0, 1) := dk_42 (dk_at dksL_law_22 10 rfl rfl)
theorem dL_law_634 : decode cL_law 634 = .ok (.iload 4, 2) := dk_21 4 (dk_at dksL_law_22 11 rfl rfl)
theorem dL_law_636 : decode cL_law 636 = .ok (.iconst 2, 1) := dk_5 (dk_at dksL_law_22 13 rfl rfl)
theorem dL_law_637 : decode cL_law 637 = .ok (.iadd, 1) := dk_96 (dk_at dksL_law_22 14 rfl rfl)
theorem dL_law_638 : decode cL_law 638 = .ok (.iaload, 1) := dk_46 (dk_at dksL_law_22 15 rfl rfl)
theorem dL_law_639 : decode cL_law 639 = .ok (.invokevirtual 78, 3) := dk_182 0 78 (dk_at dksL_law_22 16 rfl rfl)
theorem dL_law_642 : decode cL_law 642 = .ok (.if_icmp .eq 601, 3) := dk_159 2 89 (dk_at dksL_law_22 19 rfl rfl)
theorem dL_law_645 : decode cL_law 645 = .ok (.iconst 0, 1) := dk_3 (dk_at dksL_law_22 22 rfl rfl)
theorem dL_law_646 : decode cL_law 646 = .ok (.ireturn, 1) := dk_172 (dk_at dksL_law_22 23 rfl rfl)
theorem dL_law_647 : decode cL_law 647 = .ok (.aload_n 1, 1) := dk_43 (dk_at dksL_law_23 0 rfl rfl)
theorem dL_law_648 : decode cL_law 648 = .ok (.aload_n 0, 1) := dk_42 (dk_at dksL_law_23 1 rfl rfl)
theorem dL_law_649 : decode cL_law 649 = .ok (.iload 4, 2) := dk_21 4 (dk_at dksL_law_23 2 rfl rfl)
theorem dL_law_651 : decode cL_law 651 = .ok (.iconst 1, 1) := dk_4 (dk_at dksL_law_23 4 rfl rfl)
theorem dL_law_652 : decode cL_law 652 = .ok (.iadd, 1) := dk_96 (dk_at dksL_law_23 5 rfl rfl)
theorem dL_law_653 : decode cL_law 653 = .ok (.iaload, 1) := dk_46 (dk_at dksL_law_23 6 rfl rfl)
theorem dL_law_654 : decode cL_law 654 = .ok (.invokevirtual 79, 3) := dk_182 0 79 (dk_at dksL_law_23 7 rfl rfl)
theorem dL_law_657 : decode cL_law 657 = .ok (.aload_n 2, 1) := dk_44 (dk_at dksL_law_23 10 rfl rfl)
theorem dL_law_658 : decode cL_law 658 = .ok (.aload_n 0, 1) := dk_42 (dk_at dksL_law_23 11 rfl rfl)
theorem dL_law_659 : decode cL_law 659 = .ok (.iload 4, 2) := dk_21 4 (dk_at dksL_law_23 12 rfl rfl)
theorem dL_law_661 : decode cL_law 661 = .ok (.iconst 1, 1) := dk_4 (dk_at dksL_law_23 14 rfl rfl)
theorem dL_law_662 : decode cL_law 662 = .ok (.iadd, 1) := dk_96 (dk_at dksL_law_23 15 rfl rfl)
theorem dL_law_663 : decode cL_law 663 = .ok (.iaload, 1) := dk_46 (dk_at dksL_law_23 16 rfl rfl)
theorem dL_law_664 : decode cL_law 664 = .ok (.invokevirtual 82, 3) := dk_182 0 82 (dk_at dksL_law_23 17 rfl rfl)
theorem dL_law_667 : decode cL_law 667 = .ok (.if_icmp .eq 576, 3) := dk_159 2 64 (dk_at dksL_law_23 20 rfl rfl)
theorem dL_law_670 : decode cL_law 670 = .ok (.iconst 0, 1) := dk_3 (dk_at dksL_law_23 23 rfl rfl)
theorem dL_law_671 : decode cL_law 671 = .ok (.ireturn, 1) := dk_172 (dk_at dksL_law_24 0 rfl rfl)
theorem dL_law_672 : decode cL_law 672 = .ok (.aload_n 1, 1) := dk_43 (dk_at dksL_law_24 1 rfl rfl)
theorem dL_law_673 : decode cL_law 673 = .ok (.aload_n 0, 1) := dk_42 (dk_at dksL_law_24 2 rfl rfl)
theorem dL_law_674 : decode cL_law 674 = .ok (.iload 4, 2) := dk_21 4 (dk_at dksL_law_24 3 rfl rfl)
theorem dL_law_676 : decode cL_law 676 = .ok (.iconst 1, 1) := dk_4 (dk_at dksL_law_24 5 rfl rfl)
theorem dL_law_677 : decode cL_law 677 = .ok (.iadd, 1) := dk_96 (dk_at dksL_law_24 6 rfl rfl)
theorem dL_law_678 : decode cL_law 678 = .ok (.iaload, 1) := dk_46 (dk_at dksL_law_24 7 rfl rfl)
theorem dL_law_679 : decode cL_law 679 = .ok (.aload_n 0, 1) := dk_42 (dk_at dksL_law_24 8 rfl rfl)
theorem dL_law_680 : decode cL_law 680 = .ok (.iload 4, 2) := dk_21 4 (dk_at dksL_law_24 9 rfl rfl)
theorem dL_law_682 : decode cL_law 682 = .ok (.iconst 2, 1) := dk_5 (dk_at dksL_law_24 11 rfl rfl)
theorem dL_law_683 : decode cL_law 683 = .ok (.iadd, 1) := dk_96 (dk_at dksL_law_24 12 rfl rfl)
theorem dL_law_684 : decode cL_law 684 = .ok (.iaload, 1) := dk_46 (dk_at dksL_law_24 13 rfl rfl)
theorem dL_law_685 : decode cL_law 685 = .ok (.invokevirtual 83, 3) := dk_182 0 83 (dk_at dksL_law_24 14 rfl rfl)
theorem dL_law_688 : decode cL_law 688 = .ok (.aload_n 2, 1) := dk_44 (dk_at dksL_law_24 17 rfl rfl)
theorem dL_law_689 : decode cL_law 689 = .ok (.aload_n 0, 1) := dk_42 (dk_at dksL_law_24 18 rfl rfl)
theorem dL_law_690 : decode cL_law 690 = .ok (.iload 4, 2) := dk_21 4 (dk_at dksL_law_24 19 rfl rfl)
theorem dL_law_692 : decode cL_law 692 = .ok (.iconst 1, 1) := dk_4 (dk_at dksL_law_24 21 rfl rfl)
theorem dL_law_693 : decode cL_law 693 = .ok (.iadd, 1) := dk_96 (dk_at dksL_law_24 22 rfl rfl)
theorem dL_law_694 : decode cL_law 694 = .ok (.iaload, 1) := dk_46 (dk_at dksL_law_24 23 rfl rfl)
theorem dL_law_695 : decode cL_law 695 = .ok (.aload_n 0, 1) := dk_42 (dk_at dksL_law_25 0 rfl rfl)
theorem dL_law_696 : decode cL_law 696 = .ok (.iload 4, 2) := dk_21 4 (dk_at dksL_law_25 1 rfl rfl)
theorem dL_law_698 : decode cL_law 698 = .ok (.iconst 2, 1) := dk_5 (dk_at dksL_law_25 3 rfl rfl)
theorem dL_law_699 : decode cL_law 699 = .ok (.iadd, 1) := dk_96 (dk_at dksL_law_25 4 rfl rfl)
theorem dL_law_700 : decode cL_law 700 = .ok (.iaload, 1) := dk_46 (dk_at dksL_law_25 5 rfl rfl)
theorem dL_law_701 : decode cL_law 701 = .ok (.invokevirtual 86, 3) := dk_182 0 86 (dk_at dksL_law_25 6 rfl rfl)
theorem dL_law_704 : decode cL_law 704 = .ok (.if_icmp .eq 539, 3) := dk_159 2 27 (dk_at dksL_law_25 9 rfl rfl)
theorem dL_law_707 : decode cL_law 707 = .ok (.iconst 0, 1) := dk_3 (dk_at dksL_law_25 12 rfl rfl)
theorem dL_law_708 : decode cL_law 708 = .ok (.ireturn, 1) := dk_172 (dk_at dksL_law_25 13 rfl rfl)
theorem dL_law_709 : decode cL_law 709 = .ok (.aload_n 1, 1) := dk_43 (dk_at dksL_law_25 14 rfl rfl)
theorem dL_law_710 : decode cL_law 710 = .ok (.aload_n 0, 1) := dk_42 (dk_at dksL_law_25 15 rfl rfl)
theorem dL_law_711 : decode cL_law 711 = .ok (.iload 4, 2) := dk_21 4 (dk_at dksL_law_25 16 rfl rfl)
theorem dL_law_713 : decode cL_law 713 = .ok (.iconst 1, 1) := dk_4 (dk_at dksL_law_25 18 rfl rfl)
theorem dL_law_714 : decode cL_law 714 = .ok (.iadd, 1) := dk_96 (dk_at dksL_law_25 19 rfl rfl)
theorem dL_law_715 : decode cL_law 715 = .ok (.iaload, 1) := dk_46 (dk_at dksL_law_25 20 rfl rfl)
theorem dL_law_716 : decode cL_law 716 = .ok (.aload_n 0, 1) := dk_42 (dk_at dksL_law_25 21 rfl rfl)
theorem dL_law_717 : decode cL_law 717 = .ok (.iload 4, 2) := dk_21 4 (dk_at dksL_law_25 22 rfl rfl)
theorem dL_law_719 : decode cL_law 719 = .ok (.iconst 2, 1) := dk_5 (dk_at dksL_law_26 0 rfl rfl)
theorem dL_law_720 : decode cL_law 720 = .ok (.iadd, 1) := dk_96 (dk_at dksL_law_26 1 rfl rfl)
theorem dL_law_721 : decode cL_law 721 = .ok (.iaload, 1) := dk_46 (dk_at dksL_law_26 2 rfl rfl)
theorem dL_law_722 : decode cL_law 722 = .ok (.invokevirtual 87, 3) := dk_182 0 87 (dk_at dksL_law_26 3 rfl rfl)
theorem dL_law_725 : decode cL_law 725 = .ok (.aload_n 2, 1) := dk_44 (dk_at dksL_law_26 6 rfl rfl)
theorem dL_law_726 : decode cL_law 726 = .ok (.aload_n 0, 1) := dk_42 (dk_at dksL_law_26 7 rfl rfl)
theorem dL_law_727 : decode cL_law 727 = .ok (.iload 4, 2) := dk_21 4 (dk_at dksL_law_26 8 rfl rfl)
theorem dL_law_729 : decode cL_law 729 = .ok (.iconst 1, 1) := dk_4 (dk_at dksL_law_26 10 rfl rfl)
theorem dL_law_730 : decode cL_law 730 = .ok (.iadd, 1) := dk_96 (dk_at dksL_law_26 11 rfl rfl)
theorem dL_law_731 : decode cL_law 731 = .ok (.iaload, 1) := dk_46 (dk_at dksL_law_26 12 rfl rfl)
theorem dL_law_732 : decode cL_law 732 = .ok (.aload_n 0, 1) := dk_42 (dk_at dksL_law_26 13 rfl rfl)
theorem dL_law_733 : decode cL_law 733 = .ok (.iload 4, 2) := dk_21 4 (dk_at dksL_law_26 14 rfl rfl)
theorem dL_law_735 : decode cL_law 735 = .ok (.iconst 2, 1) := dk_5 (dk_at dksL_law_26 16 rfl rfl)
theorem dL_law_736 : decode cL_law 736 = .ok (.iadd, 1) := dk_96 (dk_at dksL_law_26 17 rfl rfl)
theorem dL_law_737 : decode cL_law 737 = .ok (.iaload, 1) := dk_46 (dk_at dksL_law_26 18 rfl rfl)
theorem dL_law_738 : decode cL_law 738 = .ok (.invokevirtual 90, 3) := dk_182 0 90 (dk_at dksL_law_26 19 rfl rfl)
theorem dL_law_741 : decode cL_law 741 = .ok (.if_icmp .eq 502, 3) := dk_159 1 246 (dk_at dksL_law_27 0 rfl rfl)
theorem dL_law_744 : decode cL_law 744 = .ok (.iconst 0, 1) := dk_3 (dk_at dksL_law_27 3 rfl rfl)
theorem dL_law_745 : decode cL_law 745 = .ok (.ireturn, 1) := dk_172 (dk_at dksL_law_27 4 rfl rfl)
theorem dL_law_746 : decode cL_law 746 = .ok (.aload_n 1, 1) := dk_43 (dk_at dksL_law_27 5 rfl rfl)
theorem dL_law_747 : decode cL_law 747 = .ok (.aload_n 0, 1) := dk_42 (dk_at dksL_law_27 6 rfl rfl)
theorem dL_law_748 : decode cL_law 748 = .ok (.iload 4, 2) := dk_21 4 (dk_at dksL_law_27 7 rfl rfl)
theorem dL_law_750 : decode cL_law 750 = .ok (.iconst 1, 1) := dk_4 (dk_at dksL_law_27 9 rfl rfl)
theorem dL_law_751 : decode cL_law 751 = .ok (.iadd, 1) := dk_96 (dk_at dksL_law_27 10 rfl rfl)
theorem dL_law_752 : decode cL_law 752 = .ok (.iaload, 1) := dk_46 (dk_at dksL_law_27 11 rfl rfl)
theorem dL_law_753 : decode cL_law 753 = .ok (.invokevirtual 91, 3) := dk_182 0 91 (dk_at dksL_law_27 12 rfl rfl)
theorem dL_law_756 : decode cL_law 756 = .ok (.aload_n 2, 1) := dk_44 (dk_at dksL_law_27 15 rfl rfl)
theorem dL_law_757 : decode cL_law 757 = .ok (.aload_n 0, 1) := dk_42 (dk_at dksL_law_27 16 rfl rfl)
theorem dL_law_758 : decode cL_law 758 = .ok (.iload 4, 2) := dk_21 4 (dk_at dksL_law_27 17 rfl rfl)
theorem dL_law_760 : decode cL_law 760 = .ok (.iconst 1, 1) := dk_4 (dk_at dksL_law_27 19 rfl rfl)
theorem dL_law_761 : decode cL_law 761 = .ok (.iadd, 1) := dk_96 (dk_at dksL_law_27 20 rfl rfl)
theorem dL_law_762 : decode cL_law 762 = .ok (.iaload, 1) := dk_46 (dk_at dksL_law_27 21 rfl rfl)
theorem dL_law_763 : decode cL_law 763 = .ok (.invokevirtual 94, 3) := dk_182 0 94 (dk_at dksL_law_28 0 rfl rfl)
theorem dL_law_766 : decode cL_law 766 = .ok (.if_icmp .eq 477, 3) := dk_159 1 221 (dk_at dksL_law_28 3 rfl rfl)
theorem dL_law_769 : decode cL_law 769 = .ok (.iconst 0, 1) := dk_3 (dk_at dksL_law_28 6 rfl rfl)
theorem dL_law_770 : decode cL_law 770 = .ok (.ireturn, 1) := dk_172 (dk_at dksL_law_28 7 rfl rfl)
theorem dL_law_771 : decode cL_law 771 = .ok (.aload_n 1, 1) := dk_43 (dk_at dksL_law_28 8 rfl rfl)
theorem dL_law_772 : decode cL_law 772 = .ok (.aload_n 0, 1) := dk_42 (dk_at dksL_law_28 9 rfl rfl)
theorem dL_law_773 : decode cL_law 773 = .ok (.iload 4, 2) := dk_21 4 (dk_at dksL_law_28 10 rfl rfl)
theorem dL_law_775 : decode cL_law 775 = .ok (.iconst 1, 1) := dk_4 (dk_at dksL_law_28 12 rfl rfl)
theorem dL_law_776 : decode cL_law 776 = .ok (.iadd, 1) := dk_96 (dk_at dksL_law_28 13 rfl rfl)
theorem dL_law_777 : decode cL_law 777 = .ok (.iaload, 1) := dk_46 (dk_at dksL_law_28 14 rfl rfl)
theorem dL_law_778 : decode cL_law 778 = .ok (.invokevirtual 95, 3) := dk_182 0 95 (dk_at dksL_law_28 15 rfl rfl)
theorem dL_law_781 : decode cL_law 781 = .ok (.aload_n 2, 1) := dk_44 (dk_at dksL_law_28 18 rfl rfl)
theorem dL_law_782 : decode cL_law 782 = .ok (.aload_n 0, 1) := dk_42 (dk_at dksL_law_28 19 rfl rfl)
theorem dL_law_783 : decode cL_law 783 = .ok (.iload 4, 2) := dk_21 4 (dk_at dksL_law_28 20 rfl rfl)
theorem dL_law_785 : decode cL_law 785 = .ok (.iconst 1, 1) := dk_4 (dk_at dksL_law_28 22 rfl rfl)
theorem dL_law_786 : decode cL_law 786 = .ok (.iadd, 1) := dk_96 (dk_at dksL_law_28 23 rfl rfl)
theorem dL_law_787 : decode cL_law 787 = .ok (.iaload, 1) := dk_46 (dk_at dksL_law_29 0 rfl rfl)
theorem dL_law_788 : decode cL_law 788 = .ok (.invokevirtual 98, 3) := dk_182 0 98 (dk_at dksL_law_29 1 rfl rfl)
theorem dL_law_791 : decode cL_law 791 = .ok (.if_icmp .eq 452, 3) := dk_159 1 196 (dk_at dksL_law_29 4 rfl rfl)
theorem dL_law_794 : decode cL_law 794 = .ok (.iconst 0, 1) := dk_3 (dk_at dksL_law_29 7 rfl rfl)
theorem dL_law_795 : decode cL_law 795 = .ok (.ireturn, 1) := dk_172 (dk_at dksL_law_29 8 rfl rfl)
theorem dL_law_796 : decode cL_law 796 = .ok (.aload_n 1, 1) := dk_43 (dk_at dksL_law_29 9 rfl rfl)
theorem dL_law_797 : decode cL_law 797 = .ok (.aload_n 0, 1) := dk_42 (dk_at dksL_law_29 10 rfl rfl)
theorem dL_law_798 : decode cL_law 798 = .ok (.iload 4, 2) := dk_21 4 (dk_at dksL_law_29 11 rfl rfl)
theorem dL_law_800 : decode cL_law 800 = .ok (.iconst 1, 1) := dk_4 (dk_at dksL_law_29 13 rfl rfl)
theorem dL_law_801 : decode cL_law 801 = .ok (.iadd, 1) := dk_96 (dk_at dksL_law_29 14 rfl rfl)
theorem dL_law_802 : decode cL_law 802 = .ok (.iaload, 1) := dk_46 (dk_at dksL_law_29 15 rfl rfl)
theorem dL_law_803 : decode cL_law 803 = .ok (.aload_n 0, 1) := dk_42 (dk_at dksL_law_29 16 rfl rfl)
theorem dL_law_804 : decode cL_law 804 = .ok (.iload 4, 2) := dk_21 4 (dk_at dksL_law_29 17 rfl rfl)
theorem dL_law_806 : decode cL_law 806 = .ok (.iconst 2, 1) := dk_5 (dk_at dksL_law_29 19 rfl rfl)
theorem dL_law_807 : decode cL_law 807 = .ok (.iadd, 1) := dk_96 (dk_at dksL_law_29 20 rfl rfl)
theorem dL_law_808 : decode cL_law 808 = .ok (.iaload, 1) := dk_46 (dk_at dksL_law_29 21 rfl rfl)
theorem dL_law_809 : decode cL_law 809 = .ok (.invokevirtual 99, 3) := dk_182 0 99 (dk_at dksL_law_30 0 rfl rfl)
theorem dL_law_812 : decode cL_law 812 = .ok (.aload_n 2, 1) := dk_44 (dk_at dksL_law_30 3 rfl rfl)
theorem dL_law_813 : decode cL_law 813 = .ok (.aload_n 0, 1) := dk_42 (dk_at dksL_law_30 4 rfl rfl)
theorem dL_law_814 : decode cL_law 814 = .ok (.iload 4, 2) := dk_21 4 (dk_at dksL_law_30 5 rfl rfl)
theorem dL_law_816 : decode cL_law 816 = .ok (.iconst 1, 1) := dk_4 (dk_at dksL_law_30 7 rfl rfl)
theorem dL_law_817 : decode cL_law 817 = .ok (.iadd, 1) := dk_96 (dk_at dksL_law_30 8 rfl rfl)
theorem dL_law_818 : decode cL_law 818 = .ok (.iaload, 1) := dk_46 (dk_at dksL_law_30 9 rfl rfl)
theorem dL_law_819 : decode cL_law 819 = .ok (.aload_n 0, 1) := dk_42 (dk_at dksL_law_30 10 rfl rfl)
theorem dL_law_820 : decode cL_law 820 = .ok (.iload 4, 2) := dk_21 4 (dk_at dksL_law_30 11 rfl rfl)
theorem dL_law_822 : decode cL_law 822 = .ok (.iconst 2, 1) := dk_5 (dk_at dksL_law_30 13 rfl rfl)
theorem dL_law_823 : decode cL_law 823 = .ok (.iadd, 1) := dk_96 (dk_at dksL_law_30 14 rfl rfl)
theorem dL_law_824 : decode cL_law 824 = .ok (.iaload, 1) := dk_46 (dk_at dksL_law_30 15 rfl rfl)
theorem dL_law_825 : decode cL_law 825 = .ok (.invokevirtual 102, 3) := dk_182 0 102 (dk_at dksL_law_30 16 rfl rfl)
theorem dL_law_828 : decode cL_law 828 = .ok (.if_icmp .eq 415, 3) := dk_159 1 159 (dk_at dksL_law_30 19 rfl rfl)
theorem dL_law_831 : decode cL_law 831 = .ok (.iconst 0, 1) := dk_3 (dk_at dksL_law_30 22 rfl rfl)
theorem dL_law_832 : decode cL_law 832 = .ok (.ireturn, 1) := dk_172 (dk_at dksL_law_30 23 rfl rfl)
theorem dL_law_833 : decode cL_law 833 = .ok (.aload_n 1, 1) := dk_43 (dk_at dksL_law_31 0 rfl rfl)
theorem dL_law_834 : decode cL_law 834 = .ok (.aload_n 0, 1) := dk_42 (dk_at dksL_law_31 1 rfl rfl)
theorem dL_law_835 : decode cL_law 835 = .ok (.iload 4, 2) := dk_21 4 (dk_at dksL_law_31 2 rfl rfl)
theorem dL_law_837 : decode cL_law 837 = .ok (.iconst 1, 1) := dk_4 (dk_at dksL_law_31 4 rfl rfl)
theorem dL_law_838 : decode cL_law 838 = .ok (.iadd, 1) := dk_96 (dk_at dksL_law_31 5 rfl rfl)
theorem dL_law_839 : decode cL_law 839 = .ok (.iaload, 1) := dk_46 (dk_at dksL_law_31 6 rfl rfl)
theorem dL_law_840 : decode cL_law 840 = .ok (.aload_n 0, 1) := dk_42 (dk_at dksL_law_31 7 rfl rfl)
theorem dL_law_841 : decode cL_law 841 = .ok (.iload 4, 2) := dk_21 4 (dk_at dksL_law_31 8 rfl rfl)
theorem dL_law_843 : decode cL_law 843 = .ok (.iconst 2, 1) := dk_5 (dk_at dksL_law_31 10 rfl rfl)
theorem dL_law_844 : decode cL_law 844 = .ok (.iadd, 1) := dk_96 (dk_at dksL_law_31 11 rfl rfl)
theorem dL_law_845 : decode cL_law 845 = .ok (.iaload, 1) := dk_46 (dk_at dksL_law_31 12 rfl rfl)
theorem dL_law_846 : decode cL_law 846 = .ok (.invokevirtual 103, 3) := dk_182 0 103 (dk_at dksL_law_31 13 rfl rfl)
theorem dL_law_849 : decode cL_law 849 = .ok (.aload_n 2, 1) := dk_44 (dk_at dksL_law_31 16 rfl rfl)
theorem dL_law_850 : decode cL_law 850 = .ok (.aload_n 0, 1) := dk_42 (dk_at dksL_law_31 17 rfl rfl)
theorem dL_law_851 : decode cL_law 851 = .ok (.iload 4, 2) := dk_21 4 (dk_at dksL_law_31 18 rfl rfl)
theorem dL_law_853 : decode cL_law 853 = .ok (.iconst 1, 1) := dk_4 (dk_at dksL_law_31 20 rfl rfl)
theorem dL_law_854 : decode cL_law 854 = .ok (.iadd, 1) := dk_96 (dk_at dksL_law_31 21 rfl rfl)
theorem dL_law_855 : decode cL_law 855 = .ok (.iaload, 1) := dk_46 (dk_at dksL_law_31 22 rfl rfl)
theorem dL_law_856 : decode cL_law 856 = .ok (.aload_n 0, 1) := dk_42 (dk_at dksL_law_31 23 rfl rfl)
theorem dL_law_857 : decode cL_law 857 = .ok (.iload 4, 2) := dk_21 4 (dk_at dksL_law_32 0 rfl rfl)
theorem dL_law_859 : decode cL_law 859 = .ok (.iconst 2, 1) := dk_5 (dk_at dksL_law_32 2 rfl rfl)
theorem dL_law_860 : decode cL_law 860 = .ok (.iadd, 1) := dk_96 (dk_at dksL_law_32 3 rfl rfl)
theorem dL_law_861 : decode cL_law 861 = .ok (.iaload, 1) := dk_46 (dk_at dksL_law_32 4 rfl rfl)
theorem dL_law_862 : decode cL_law 862 = .ok (.invokevirtual 106, 3) := dk_182 0 106 (dk_at dksL_law_32 5 rfl rfl)
theorem dL_law_865 : decode cL_law 865 = .ok (.if_icmp .eq 378, 3) := dk_159 1 122 (dk_at dksL_law_32 8 rfl rfl)
theorem dL_law_868 : decode cL_law 868 = .ok (.iconst 0, 1) := dk_3 (dk_at dksL_law_32 11 rfl rfl)
theorem dL_law_869 : decode cL_law 869 = .ok (.ireturn, 1) := dk_172 (dk_at dksL_law_32 12 rfl rfl)
theorem dL_law_870 : decode cL_law 870 = .ok (.aload_n 1, 1) := dk_43 (dk_at dksL_law_32 13 rfl rfl)
theorem dL_law_871 : decode cL_law 871 = .ok (.invokevirtual 107, 3) := dk_182 0 107 (dk_at dksL_law_32 14 rfl rfl)
theorem dL_law_874 : decode cL_law 874 = .ok (.aload_n 2, 1) := dk_44 (dk_at dksL_law_32 17 rfl rfl)
theorem dL_law_875 : decode cL_law 875 = .ok (.invokevirtual 110, 3) := dk_182 0 110 (dk_at dksL_law_32 18 rfl rfl)
theorem dL_law_878 : decode cL_law 878 = .ok (.if_icmp .eq 365, 3) := dk_159 1 109 (dk_at dksL_law_32 21 rfl rfl)
theorem dL_law_881 : decode cL_law 881 = .ok (.iconst 0, 1) := dk_3 (dk_at dksL_law_33 0 rfl rfl)
theorem dL_law_882 : decode cL_law 882 = .ok (.ireturn, 1) := dk_172 (dk_at dksL_law_33 1 rfl rfl)
theorem dL_law_883 : decode cL_law 883 = .ok (.aload_n 1, 1) := dk_43 (dk_at dksL_law_33 2 rfl rfl)
theorem dL_law_884 : decode cL_law 884 = .ok (.invokevirtual 111, 3) := dk_182 0 111 (dk_at dksL_law_33 3 rfl rfl)
theorem dL_law_887 : decode cL_law 887 = .ok (.aload_n 2, 1) := dk_44 (dk_at dksL_law_33 6 rfl rfl)
theorem dL_law_888 : decode cL_law 888 = .ok (.invokevirtual 114, 3) := dk_182 0 114 (dk_at dksL_law_33 7 rfl rfl)
theorem dL_law_891 : decode cL_law 891 = .ok (.if_icmp .eq 352, 3) := dk_159 1 96 (dk_at dksL_law_33 10 rfl rfl)
theorem dL_law_894 : decode cL_law 894 = .ok (.iconst 0, 1) := dk_3 (dk_at dksL_law_33 13 rfl rfl)
theorem dL_law_895 : decode cL_law 895 = .ok (.ireturn, 1) := dk_172 (dk_at dksL_law_33 14 rfl rfl)
theorem dL_law_896 : decode cL_law 896 = .ok (.aload_n 1, 1) := dk_43 (dk_at dksL_law_33 15 rfl rfl)
theorem dL_law_897 : decode cL_law 897 = .ok (.aload_n 0, 1) := dk_42 (dk_at dksL_law_33 16 rfl rfl)
theorem dL_law_898 : decode cL_law 898 = .ok (.iload 4, 2) := dk_21 4 (dk_at dksL_law_33 17 rfl rfl)
theorem dL_law_900 : decode cL_law 900 = .ok (.iconst 1, 1) := dk_4 (dk_at dksL_law_33 19 rfl rfl)
theorem dL_law_901 : decode cL_law 901 = .ok (.iadd, 1) := dk_96 (dk_at dksL_law_33 20 rfl rfl)
theorem dL_law_902 : decode cL_law 902 = .ok (.iaload, 1) := dk_46 (dk_at dksL_law_33 21 rfl rfl)
theorem dL_law_903 : decode cL_law 903 = .ok (.aload_n 0, 1) := dk_42 (dk_at dksL_law_33 22 rfl rfl)
theorem dL_law_904 : decode cL_law 904 = .ok (.iload 4, 2) := dk_21 4 (dk_at dksL_law_34 0 rfl rfl)
theorem dL_law_906 : decode cL_law 906 = .ok (.iconst 2, 1) := dk_5 (dk_at dksL_law_34 2 rfl rfl)
theorem dL_law_907 : decode cL_law 907 = .ok (.iadd, 1) := dk_96 (dk_at dksL_law_34 3 rfl rfl)
theorem dL_law_908 : decode cL_law 908 = .ok (.iaload, 1) := dk_46 (dk_at dksL_law_34 4 rfl rfl)
theorem dL_law_909 : decode cL_law 909 = .ok (.aload_n 0, 1) := dk_42 (dk_at dksL_law_34 5 rfl rfl)
theorem dL_law_910 : decode cL_law 910 = .ok (.iload 4, 2) := dk_21 4 (dk_at dksL_law_34 6 rfl rfl)
theorem dL_law_912 : decode cL_law 912 = .ok (.iconst 3, 1) := dk_6 (dk_at dksL_law_34 8 rfl rfl)
theorem dL_law_913 : decode cL_law 913 = .ok (.iadd, 1) := dk_96 (dk_at dksL_law_34 9 rfl rfl)
theorem dL_law_914 : decode cL_law 914 = .ok (.iaload, 1) := dk_46 (dk_at dksL_law_34 10 rfl rfl)
theorem dL_law_915 : decode cL_law 915 = .ok (.ifCond .eq 7, 3) := dk_153 0 7 (dk_at dksL_law_34 11 rfl rfl)
theorem dL_law_918 : decode cL_law 918 = .ok (.iconst 1, 1) := dk_4 (dk_at dksL_law_34 14 rfl rfl)
theorem dL_law_919 : decode cL_law 919 = .ok (.goto 4, 3) := dk_167 0 4 (dk_at dksL_law_34 15 rfl rfl)
theorem dL_law_922 : decode cL_law 922 = .ok (.iconst 0, 1) := dk_3 (dk_at dksL_law_34 18 rfl rfl)
theorem dL_law_923 : decode cL_law 923 = .ok (.invokevirtual 115, 3) := dk_182 0 115 (dk_at dksL_law_34 19 rfl rfl)
theorem dL_law_926 : decode cL_law 926 = .ok (.aload_n 2, 1) := dk_44 (dk_at dksL_law_34 22 rfl rfl)
theorem dL_law_927 : decode cL_law 927 = .ok (.aload_n 0, 1) := dk_42 (dk_at dksL_law_34 23 rfl rfl)
theorem dL_law_928 : decode cL_law 928 = .ok (.iload 4, 2) := dk_21 4 (dk_at dksL_law_35 0 rfl rfl)
theorem dL_law_930 : decode cL_law 930 = .ok (.iconst 1, 1) := dk_4 (dk_at dksL_law_35 2 rfl rfl)
theorem dL_law_931 : decode cL_law 931 = .ok (.iadd, 1) := dk_96 (dk_at dksL_law_35 3 rfl rfl)
theorem dL_law_932 : decode cL_law 932 = .ok (.iaload, 1) := dk_46 (dk_at dksL_law_35 4 rfl rfl)
theorem dL_law_933 : decode cL_law 933 = .ok (.aload_n 0, 1) := dk_42 (dk_at dksL_law_35 5 rfl rfl)
theorem dL_law_934 : decode cL_law 934 = .ok (.iload 4, 2) := dk_21 4 (dk_at dksL_law_35 6 rfl rfl)
theorem dL_law_936 : decode cL_law 936 = .ok (.iconst 2, 1) := dk_5 (dk_at dksL_law_35 8 rfl rfl)
theorem dL_law_937 : decode cL_law 937 = .ok (.iadd, 1) := dk_96 (dk_at dksL_law_35 9 rfl rfl)
theorem dL_law_938 : decode cL_law 938 = .ok (.iaload, 1) := dk_46 (dk_at dksL_law_35 10 rfl rfl)
theorem dL_law_939 : decode cL_law 939 = .ok (.aload_n 0, 1) := dk_42 (dk_at dksL_law_35 11 rfl rfl)
theorem dL_law_940 : decode cL_law 940 = .ok (.iload 4, 2) := dk_21 4 (dk_at dksL_law_35 12 rfl rfl)
theorem dL_law_942 : decode cL_law 942 = .ok (.iconst 3, 1) := dk_6 (dk_at dksL_law_35 14 rfl rfl)
theorem dL_law_943 : decode cL_law 943 = .ok (.iadd, 1) := dk_96 (dk_at dksL_law_35 15 rfl rfl)
theorem dL_law_944 : decode cL_law 944 = .ok (.iaload, 1) := dk_46 (dk_at dksL_law_35 16 rfl rfl)
theorem dL_law_945 : decode cL_law 945 = .ok (.ifCond .eq 7, 3) := dk_153 0 7 (dk_at dksL_law_35 17 rfl rfl)
theorem dL_law_948 : decode cL_law 948 = .ok (.iconst 1, 1) := dk_4 (dk_at dksL_law_35 20 rfl rfl)
theorem dL_law_949 : decode cL_law 949 = .ok (.goto 4, 3) := dk_167 0 4 (dk_at dksL_law_35 21 rfl rfl)
theorem dL_law_952 : decode cL_law 952 = .ok (.iconst 0, 1) := dk_3 (dk_at dksL_law_36 0 rfl rfl)
theorem dL_law_953 : decode cL_law 953 = .ok (.invokevirtual 119, 3) := dk_182 0 119 (dk_at dksL_law_36 1 rfl rfl)
theorem dL_law_956 : decode cL_law 956 = .ok (.if_icmp .eq 287, 3) := dk_159 1 31 (dk_at dksL_law_36 4 rfl rfl)
theorem dL_law_959 : decode cL_law 959 = .ok (.iconst 0, 1) := dk_3 (dk_at dksL_law_36 7 rfl rfl)
theorem dL_law_960 : decode cL_law 960 = .ok (.ireturn, 1) := dk_172 (dk_at dksL_law_36 8 rfl rfl)
theorem dL_law_961 : decode cL_law 961 = .ok (.aload_n 1, 1) := dk_43 (dk_at dksL_law_36 9 rfl rfl)
theorem dL_law_962 : decode cL_law 962 = .ok (.invokevirtual 120, 3) := dk_182 0 120 (dk_at dksL_law_36 10 rfl rfl)
theorem dL_law_965 : decode cL_law 965 = .ok (.aload_n 2, 1) := dk_44 (dk_at dksL_law_36 13 rfl rfl)
theorem dL_law_966 : decode cL_law 966 = .ok (.invokevirtual 123, 3) := dk_182 0 123 (dk_at dksL_law_36 14 rfl rfl)
theorem dL_law_969 : decode cL_law 969 = .ok (.if_icmp .eq 274, 3) := dk_159 1 18 (dk_at dksL_law_36 17 rfl rfl)
theorem dL_law_972 : decode cL_law 972 = .ok (.iconst 0, 1) := dk_3 (dk_at dksL_law_36 20 rfl rfl)
theorem dL_law_973 : decode cL_law 973 = .ok (.ireturn, 1) := dk_172 (dk_at dksL_law_36 21 rfl rfl)
theorem dL_law_974 : decode cL_law 974 = .ok (.aload_n 1, 1) := dk_43 (dk_at dksL_law_36 22 rfl rfl)
theorem dL_law_975 : decode cL_law 975 = .ok (.invokevirtual 124, 3) := dk_182 0 124 (dk_at dksL_law_37 0 rfl rfl)
theorem dL_law_978 : decode cL_law 978 = .ok (.aload_n 2, 1) := dk_44 (dk_at dksL_law_37 3 rfl rfl)
theorem dL_law_979 : decode cL_law 979 = .ok (.invokevirtual 127, 3) := dk_182 0 127 (dk_at dksL_law_37 4 rfl rfl)
theorem dL_law_982 : decode cL_law 982 = .ok (.if_icmp .eq 261, 3) := dk_159 1 5 (dk_at dksL_law_37 7 rfl rfl)
theorem dL_law_985 : decode cL_law 985 = .ok (.iconst 0, 1) := dk_3 (dk_at dksL_law_37 10 rfl rfl)
theorem dL_law_986 : decode cL_law 986 = .ok (.ireturn, 1) := dk_172 (dk_at dksL_law_37 11 rfl rfl)
theorem dL_law_987 : decode cL_law 987 = .ok (.aload_n 1, 1) := dk_43 (dk_at dksL_law_37 12 rfl rfl)
theorem dL_law_988 : decode cL_law 988 = .ok (.aload_n 0, 1) := dk_42 (dk_at dksL_law_37 13 rfl rfl)
theorem dL_law_989 : decode cL_law 989 = .ok (.iload 4, 2) := dk_21 4 (dk_at dksL_law_37 14 rfl rfl)
theorem dL_law_991 : decode cL_law 991 = .ok (.iconst 1, 1) := dk_4 (dk_at dksL_law_37 16 rfl rfl)
theorem dL_law_992 : decode cL_law 992 = .ok (.iadd, 1) := dk_96 (dk_at dksL_law_37 17 rfl rfl)
theorem dL_law_993 : decode cL_law 993 = .ok (.iaload, 1) := dk_46 (dk_at dksL_law_37 18 rfl rfl)
theorem dL_law_994 : decode cL_law 994 = .ok (.aload_n 0, 1) := dk_42 (dk_at dksL_law_37 19 rfl rfl)
theorem dL_law_995 : decode cL_law 995 = .ok (.iload 4, 2) := dk_21 4 (dk_at dksL_law_37 20 rfl rfl)
theorem dL_law_997 : decode cL_law 997 = .ok (.iconst 2, 1) := dk_5 (dk_at dksL_law_37 22 rfl rfl)
theorem dL_law_998 : decode cL_law 998 = .ok (.iadd, 1) := dk_96 (dk_at dksL_law_37 23 rfl rfl)
theorem dL_law_999 : decode cL_law 999 = .ok (.iaload, 1) := dk_46 (dk_at dksL_law_38 0 rfl rfl)
theorem dL_law_1000 : decode cL_law 1000 = .ok (.invokevirtual 128, 3) := dk_182 0 128 (dk_at dksL_law_38 1 rfl rfl)
theorem dL_law_1003 : decode cL_law 1003 = .ok (.aload_n 2, 1) := dk_44 (dk_at dksL_law_38 4 rfl rfl)
theorem dL_law_1004 : decode cL_law 1004 = .ok (.aload_n 0, 1) := dk_42 (dk_at dksL_law_38 5 rfl rfl)
theorem dL_law_1005 : decode cL_law 1005 = .ok (.iload 4, 2) := dk_21 4 (dk_at dksL_law_38 6 rfl rfl)
theorem dL_law_1007 : decode cL_law 1007 = .ok (.iconst 1, 1) := dk_4 (dk_at dksL_law_38 8 rfl rfl)
theorem dL_law_1008 : decode cL_law 1008 = .ok (.iadd, 1) := dk_96 (dk_at dksL_law_38 9 rfl rfl)
theorem dL_law_1009 : decode cL_law 1009 = .ok (.iaload, 1) := dk_46 (dk_at dksL_law_38 10 rfl rfl)
theorem dL_law_1010 : decode cL_law 1010 = .ok (.aload_n 0, 1) := dk_42 (dk_at dksL_law_38 11 rfl rfl)
theorem dL_law_1011 : decode cL_law 1011 = .ok (.iload 4, 2) := dk_21 4 (dk_at dksL_law_38 12 rfl rfl)
theorem dL_law_1013 : decode cL_law 1013 = .ok (.iconst 2, 1) := dk_5 (dk_at dksL_law_38 14 rfl rfl)
theorem dL_law_1014 : decode cL_law 1014 = .ok (.iadd, 1) := dk_96 (dk_at dksL_law_38 15 rfl rfl)
theorem dL_law_1015 : decode cL_law 1015 = .ok (.iaload, 1) := dk_46 (dk_at dksL_law_38 16 rfl rfl)
theorem dL_law_1016 : decode cL_law 1016 = .ok (.invokevirtual 131, 3) := dk_182 0 131 (dk_at dksL_law_38 17 rfl rfl)
theorem dL_law_1019 : decode cL_law 1019 = .ok (.if_icmp .eq 224, 3) := dk_159 0 224 (dk_at dksL_law_38 20 rfl rfl)
theorem dL_law_1022 : decode cL_law 1022 = .ok (.iconst 0, 1) := dk_3 (dk_at dksL_law_38 23 rfl rfl)
theorem dL_law_1023 : decode cL_law 1023 = .ok (.ireturn, 1) := dk_172 (dk_at dksL_law_39 0 rfl rfl)
theorem dL_law_1024 : decode cL_law 1024 = .ok (.aload_n 1, 1) := dk_43 (dk_at dksL_law_39 1 rfl rfl)
theorem dL_law_1025 : decode cL_law 1025 = .ok (.aload_n 0, 1) := dk_42 (dk_at dksL_law_39 2 rfl rfl)
theorem dL_law_1026 : decode cL_law 1026 = .ok (.iload 4, 2) := dk_21 4 (dk_at dksL_law_39 3 rfl rfl)
theorem dL_law_1028 : decode cL_law 1028 = .ok (.iconst 1, 1) := dk_4 (dk_at dksL_law_39 5 rfl rfl)
theorem dL_law_1029 : decode cL_law 1029 = .ok (.iadd, 1) := dk_96 (dk_at dksL_law_39 6 rfl rfl)
theorem dL_law_1030 : decode cL_law 1030 = .ok (.iaload, 1) := dk_46 (dk_at dksL_law_39 7 rfl rfl)
theorem dL_law_1031 : decode cL_law 1031 = .ok (.aload_n 0, 1) := dk_42 (dk_at dksL_law_39 8 rfl rfl)
theorem dL_law_1032 : decode cL_law 1032 = .ok (.iload 4, 2) := dk_21 4 (dk_at dksL_law_39 9 rfl rfl)
theorem dL_law_1034 : decode cL_law 1034 = .ok (.iconst 2, 1) := dk_5 (dk_at dksL_law_39 11 rfl rfl)
theorem dL_law_1035 : decode cL_law 1035 = .ok (.iadd, 1) := dk_96 (dk_at dksL_law_39 12 rfl rfl)
theorem dL_law_1036 : decode cL_law 1036 = .ok (.iaload, 1) := dk_46 (dk_at dksL_law_39 13 rfl rfl)
theorem dL_law_1037 : decode cL_law 1037 = .ok (.aload_n 0, 1) := dk_42 (dk_at dksL_law_39 14 rfl rfl)
theorem dL_law_1038 : decode cL_law 1038 = .ok (.iload 4, 2) := dk_21 4 (dk_at dksL_law_39 15 rfl rfl)
theorem dL_law_1040 : decode cL_law 1040 = .ok (.iconst 3, 1) := dk_6 (dk_at dksL_law_39 17 rfl rfl)
theorem dL_law_1041 : decode cL_law 1041 = .ok (.iadd, 1) := dk_96 (dk_at dksL_law_39 18 rfl rfl)
theorem dL_law_1042 : decode cL_law 1042 = .ok (.iaload, 1) := dk_46 (dk_at dksL_law_39 19 rfl rfl)
theorem dL_law_1043 : decode cL_law 1043 = .ok (.aload_n 0, 1) := dk_42 (dk_at dksL_law_39 20 rfl rfl)
theorem dL_law_1044 : decode cL_law 1044 = .ok (.iload 4, 2) := dk_21 4 (dk_at dksL_law_39 21 rfl rfl)
theorem dL_law_1046 : decode cL_law 1046 = .ok (.iconst 4, 1) := dk_7 (dk_at dksL_law_39 23 rfl rfl)
theorem dL_law_1047 : decode cL_law 1047 = .ok (.iadd, 1) := dk_96 (dk_at dksL_law_40 0 rfl rfl)
theorem dL_law_1048 : decode cL_law 1048 = .ok (.iaload, 1) := dk_46 (dk_at dksL_law_40 1 rfl rfl)
theorem dL_law_1049 : decode cL_law 1049 = .ok (.aload_n 3, 1) := dk_45 (dk_at dksL_law_40 2 rfl rfl)
theorem dL_law_1050 : decode cL_law 1050 = .ok (.invokestatic 132, 3) := dk_184 0 132 (dk_at dksL_law_40 3 rfl rfl)
theorem dL_law_1053 : decode cL_law 1053 = .ok (.istore 5, 2) := dk_54 5 (dk_at dksL_law_40 6 rfl rfl)
theorem dL_law_1055 : decode cL_law 1055 = .ok (.aload_n 2, 1) := dk_44 (dk_at dksL_law_40 8 rfl rfl)
theorem dL_law_1056 : decode cL_law 1056 = .ok (.aload_n 0, 1) := dk_42 (dk_at dksL_law_40 9 rfl rfl)
theorem dL_law_1057 : decode cL_law 1057 = .ok (.iload 4, 2) := dk_21 4 (dk_at dksL_law_40 10 rfl rfl)
theorem dL_law_1059 : decode cL_law 1059 = .ok (.iconst 1, 1) := dk_4 (dk_at dksL_law_40 12 rfl rfl)
theorem dL_law_1060 : decode cL_law 1060 = .ok (.iadd, 1) := dk_96 (dk_at dksL_law_40 13 rfl rfl)
theorem dL_law_1061 : decode cL_law 1061 = .ok (.iaload, 1) := dk_46 (dk_at dksL_law_40 14 rfl rfl)
theorem dL_law_1062 : decode cL_law 1062 = .ok (.aload_n 0, 1) := dk_42 (dk_at dksL_law_40 15 rfl rfl)
theorem dL_law_1063 : decode cL_law 1063 = .ok (.iload 4, 2) := dk_21 4 (dk_at dksL_law_40 16 rfl rfl)
theorem dL_law_1065 : decode cL_law 1065 = .ok (.iconst 2, 1) := dk_5 (dk_at dksL_law_40 18 rfl rfl)
theorem dL_law_1066 : decode cL_law 1066 = .ok (.iadd, 1) := dk_96 (dk_at dksL_law_40 19 rfl rfl)
theorem dL_law_1067 : decode cL_law 1067 = .ok (.iaload, 1) := dk_46 (dk_at dksL_law_40 20 rfl rfl)
theorem dL_law_1068 : decode cL_law 1068 = .ok (.aload_n 0, 1) := dk_42 (dk_at dksL_law_40 21 rfl rfl)
theorem dL_law_1069 : decode cL_law 1069 = .ok (.iload 4, 2) := dk_21 4 (dk_at dksL_law_40 22 rfl rfl)
theorem dL_law_1071 : decode cL_law 1071 = .ok (.iconst 3, 1) := dk_6 (dk_at dksL_law_41 0 rfl rfl)
theorem dL_law_1072 : decode cL_law 1072 = .ok (.iadd, 1) := dk_96 (dk_at dksL_law_41 1 rfl rfl)
theorem dL_law_1073 : decode cL_law 1073 = .ok (.iaload, 1) := dk_46 (dk_at dksL_law_41 2 rfl rfl)
theorem dL_law_1074 : decode cL_law 1074 = .ok (.aload_n 0, 1) := dk_42 (dk_at dksL_law_41 3 rfl rfl)
theorem dL_law_1075 : decode cL_law 1075 = .ok (.iload 4, 2) := dk_21 4 (dk_at dksL_law_41 4 rfl rfl)
theorem dL_law_1077 : decode cL_law 1077 = .ok (.iconst 4, 1) := dk_7 (dk_at dksL_law_41 6 rfl rfl)
theorem dL_law_1078 : decode cL_law 1078 = .ok (.iadd, 1) := dk_96 (dk_at dksL_law_41 7 rfl rfl)
theorem dL_law_1079 : decode cL_law 1079 = .ok (.iaload, 1) := dk_46 (dk_at dksL_law_41 8 rfl rfl)
theorem dL_law_1080 : decode cL_law 1080 = .ok (.invokevirtual 137, 3) := dk_182 0 137 (dk_at dksL_law_41 9 rfl rfl)
theorem dL_law_1083 : decode cL_law 1083 = .ok (.istore 6, 2) := dk_54 6 (dk_at dksL_law_41 12 rfl rfl)
theorem dL_law_1085 : decode cL_law 1085 = .ok (.aload_n 2, 1) := dk_44 (dk_at dksL_law_41 14 rfl rfl)
theorem dL_law_1086 : decode cL_law 1086 = .ok (.invokevirtual 138, 3) := dk_182 0 138 (dk_at dksL_law_41 15 rfl rfl)
theorem dL_law_1089 : decode cL_law 1089 = .ok (.iload 5, 2) := dk_21 5 (dk_at dksL_law_41 18 rfl rfl)
theorem dL_law_1091 : decode cL_law 1091 = .ok (.if_icmp .eq 5, 3) := dk_159 0 5 (dk_at dksL_law_41 20 rfl rfl)
theorem dL_law_1094 : decode cL_law 1094 = .ok (.iconst 0, 1) := dk_3 (dk_at dksL_law_41 23 rfl rfl)
theorem dL_law_1095 : decode cL_law 1095 = .ok (.ireturn, 1) := dk_172 (dk_at dksL_law_42 0 rfl rfl)
theorem dL_law_1096 : decode cL_law 1096 = .ok (.iload 5, 2) := dk_21 5 (dk_at dksL_law_42 1 rfl rfl)
theorem dL_law_1098 : decode cL_law 1098 = .ok (.ifCond .ne 15, 3) := dk_154 0 15 (dk_at dksL_law_42 3 rfl rfl)
theorem dL_law_1101 : decode cL_law 1101 = .ok (.aload_n 3, 1) := dk_45 (dk_at dksL_law_42 6 rfl rfl)
theorem dL_law_1102 : decode cL_law 1102 = .ok (.iconst 0, 1) := dk_3 (dk_at dksL_law_42 7 rfl rfl)
theorem dL_law_1103 : decode cL_law 1103 = .ok (.laload, 1) := dk_47 (dk_at dksL_law_42 8 rfl rfl)
theorem dL_law_1104 : decode cL_law 1104 = .ok (.iload 6, 2) := dk_21 6 (dk_at dksL_law_42 9 rfl rfl)
theorem dL_law_1106 : decode cL_law 1106 = .ok (.i2l, 1) := dk_133 (dk_at dksL_law_42 11 rfl rfl)
theorem dL_law_1107 : decode cL_law 1107 = .ok (.lcmp, 1) := dk_148 (dk_at dksL_law_42 12 rfl rfl)
theorem dL_law_1108 : decode cL_law 1108 = .ok (.ifCond .eq 5, 3) := dk_153 0 5 (dk_at dksL_law_42 13 rfl rfl)
theorem dL_law_1111 : decode cL_law 1111 = .ok (.iconst 0, 1) := dk_3 (dk_at dksL_law_42 16 rfl rfl)
theorem dL_law_1112 : decode cL_law 1112 = .ok (.ireturn, 1) := dk_172 (dk_at dksL_law_42 17 rfl rfl)
theorem dL_law_1113 : decode cL_law 1113 = .ok (.goto 130, 3) := dk_167 0 130 (dk_at dksL_law_42 18 rfl rfl)
theorem dL_law_1116 : decode cL_law 1116 = .ok (.aload_n 1, 1) := dk_43 (dk_at dksL_law_42 21 rfl rfl)
theorem dL_law_1117 : decode cL_law 1117 = .ok (.aload_n 0, 1) := dk_42 (dk_at dksL_law_42 22 rfl rfl)
theorem dL_law_1118 : decode cL_law 1118 = .ok (.iload 4, 2) := dk_21 4 (dk_at dksL_law_43 0 rfl rfl)
theorem dL_law_1120 : decode cL_law 1120 = .ok (.iconst 1, 1) := dk_4 (dk_at dksL_law_43 2 rfl rfl)
theorem dL_law_1121 : decode cL_law 1121 = .ok (.iadd, 1) := dk_96 (dk_at dksL_law_43 3 rfl rfl)
theorem dL_law_1122 : decode cL_law 1122 = .ok (.iaload, 1) := dk_46 (dk_at dksL_law_43 4 rfl rfl)
theorem dL_law_1123 : decode cL_law 1123 = .ok (.aload_n 0, 1) := dk_42 (dk_at dksL_law_43 5 rfl rfl)
theorem dL_law_1124 : decode cL_law 1124 = .ok (.iload 4, 2) := dk_21 4 (dk_at dksL_law_43 6 rfl rfl)
theorem dL_law_1126 : decode cL_law 1126 = .ok (.iconst 2, 1) := dk_5 (dk_at dksL_law_43 8 rfl rfl)
theorem dL_law_1127 : decode cL_law 1127 = .ok (.iadd, 1) := dk_96 (dk_at dksL_law_43 9 rfl rfl)
theorem dL_law_1128 : decode cL_law 1128 = .ok (.iaload, 1) := dk_46 (dk_at dksL_law_43 10 rfl rfl)
theorem dL_law_1129 : decode cL_law 1129 = .ok (.aload_n 0, 1) := dk_42 (dk_at dksL_law_43 11 rfl rfl)
theorem dL_law_1130 : decode cL_law 1130 = .ok (.iload 4, 2) := dk_21 4 (dk_at dksL_law_43 12 rfl rfl)
theorem dL_law_1132 : decode cL_law 1132 = .ok (.iconst 3, 1) := dk_6 (dk_at dksL_law_43 14 rfl rfl)
theorem dL_law_1133 : decode cL_law 1133 = .ok (.iadd, 1) := dk_96 (dk_at dksL_law_43 15 rfl rfl)
theorem dL_law_1134 : decode cL_law 1134 = .ok (.iaload, 1) := dk_46 (dk_at dksL_law_43 16 rfl rfl)
theorem dL_law_1135 : decode cL_law 1135 = .ok (.invokevirtual 141, 3) := dk_182 0 141 (dk_at dksL_law_43 17 rfl rfl)
theorem dL_law_1138 : decode cL_law 1138 = .ok (.aload_n 2, 1) := dk_44 (dk_at dksL_law_43 20 rfl rfl)
theorem dL_law_1139 : decode cL_law 1139 = .ok (.aload_n 0, 1) := dk_42 (dk_at dksL_law_43 21 rfl rfl)
theorem dL_law_1140 : decode cL_law 1140 = .ok (.iload 4, 2) := dk_21 4 (dk_at dksL_law_43 22 rfl rfl)
theorem dL_law_1142 : decode cL_law 1142 = .ok (.iconst 1, 1) := dk_4 (dk_at dksL_law_44 0 rfl rfl)
theorem dL_law_1143 : decode cL_law 1143 = .ok (.iadd, 1) := dk_96 (dk_at dksL_law_44 1 rfl rfl)
theorem dL_law_1144 : decode cL_law 1144 = .ok (.iaload, 1) := dk_46 (dk_at dksL_law_44 2 rfl rfl)
theorem dL_law_1145 : decode cL_law 1145 = .ok (.aload_n 0, 1) := dk_42 (dk_at dksL_law_44 3 rfl rfl)
theorem dL_law_1146 : decode cL_law 1146 = .ok (.iload 4, 2) := dk_21 4 (dk_at dksL_law_44 4 rfl rfl)
theorem dL_law_1148 : decode cL_law 1148 = .ok (.iconst 2, 1) := dk_5 (dk_at dksL_law_44 6 rfl rfl)
theorem dL_law_1149 : decode cL_law 1149 = .ok (.iadd, 1) := dk_96 (dk_at dksL_law_44 7 rfl rfl)
theorem dL_law_1150 : decode cL_law 1150 = .ok (.iaload, 1) := dk_46 (dk_at dksL_law_44 8 rfl rfl)
theorem dL_law_1151 : decode cL_law 1151 = .ok (.aload_n 0, 1) := dk_42 (dk_at dksL_law_44 9 rfl rfl)
theorem dL_law_1152 : decode cL_law 1152 = .ok (.iload 4, 2) := dk_21 4 (dk_at dksL_law_44 10 rfl rfl)
theorem dL_law_1154 : decode cL_law 1154 = .ok (.iconst 3, 1) := dk_6 (dk_at dksL_law_44 12 rfl rfl)
theorem dL_law_1155 : decode cL_law 1155 = .ok (.iadd, 1) := dk_96 (dk_at dksL_law_44 13 rfl rfl)
theorem dL_law_1156 : decode cL_law 1156 = .ok (.iaload, 1) := dk_46 (dk_at dksL_law_44 14 rfl rfl)
theorem dL_law_1157 : decode cL_law 1157 = .ok (.invokevirtual 145, 3) := dk_182 0 145 (dk_at dksL_law_44 15 rfl rfl)
theorem dL_law_1160 : decode cL_law 1160 = .ok (.if_icmp .eq 83, 3) := dk_159 0 83 (dk_at dksL_law_44 18 rfl rfl)
theorem dL_law_1163 : decode cL_law 1163 = .ok (.iconst 0, 1) := dk_3 (dk_at dksL_law_44 21 rfl rfl)
theorem dL_law_1164 : decode cL_law 1164 = .ok (.ireturn, 1) := dk_172 (dk_at dksL_law_44 22 rfl rfl)
theorem dL_law_1165 : decode cL_law 1165 = .ok (.aload_n 1, 1) := dk_43 (dk_at dksL_law_44 23 rfl rfl)
theorem dL_law_1166 : decode cL_law 1166 = .ok (.aload_n 0, 1) := dk_42 (dk_at dksL_law_45 0 rfl rfl)
theorem dL_law_1167 : decode cL_law 1167 = .ok (.iload 4, 2) := dk_21 4 (dk_at dksL_law_45 1 rfl rfl)
theorem dL_law_1169 : decode cL_law 1169 = .ok (.iconst 1, 1) := dk_4 (dk_at dksL_law_45 3 rfl rfl)
theorem dL_law_1170 : decode cL_law 1170 = .ok (.iadd, 1) := dk_96 (dk_at dksL_law_45 4 rfl rfl)
theorem dL_law_1171 : decode cL_law 1171 = .ok (.iaload, 1) := dk_46 (dk_at dksL_law_45 5 rfl rfl)
theorem dL_law_1172 : decode cL_law 1172 = .ok (.aload_n 0, 1) := dk_42 (dk_at dksL_law_45 6 rfl rfl)
theorem dL_law_1173 : decode cL_law 1173 = .ok (.iload 4, 2) := dk_21 4 (dk_at dksL_law_45 7 rfl rfl)
theorem dL_law_1175 : decode cL_law 1175 = .ok (.iconst 2, 1) := dk_5 (dk_at dksL_law_45 9 rfl rfl)
theorem dL_law_1176 : decode cL_law 1176 = .ok (.iadd, 1) := dk_96 (dk_at dksL_law_45 10 rfl rfl)
theorem dL_law_1177 : decode cL_law 1177 = .ok (.iaload, 1) := dk_46 (dk_at dksL_law_45 11 rfl rfl)
theorem dL_law_1178 : decode cL_law 1178 = .ok (.ifCond .eq 7, 3) := dk_153 0 7 (dk_at dksL_law_45 12 rfl rfl)
theorem dL_law_1181 : decode cL_law 1181 = .ok (.iconst 1, 1) := dk_4 (dk_at dksL_law_45 15 rfl rfl)
theorem dL_law_1182 : decode cL_law 1182 = .ok (.goto 4, 3) := dk_167 0 4 (dk_at dksL_law_45 16 rfl rfl)
theorem dL_law_1185 : decode cL_law 1185 = .ok (.iconst 0, 1) := dk_3 (dk_at dksL_law_45 19 rfl rfl)
theorem dL_law_1186 : decode cL_law 1186 = .ok (.invokevirtual 146, 3) := dk_182 0 146 (dk_at dksL_law_45 20 rfl rfl)
theorem dL_law_1189 : decode cL_law 1189 = .ok (.aload_n 2, 1) := dk_44 (dk_at dksL_law_45 23 rfl rfl)
theorem dL_law_1190 : decode cL_law 1190 = .ok (.aload_n 0, 1) := dk_42 (dk_at dksL_law_46 0 rfl rfl)
theorem dL_law_1191 : decode cL_law 1191 = .ok (.iload 4, 2) := dk_21 4 (dk_at dksL_law_46 1 rfl rfl)
theorem dL_law_1193 : decode cL_law 1193 = .ok (.iconst 1, 1) := dk_4 (dk_at dksL_law_46 3 rfl rfl)
theorem dL_law_1194 : decode cL_law 1194 = .ok (.iadd, 1) := dk_96 (dk_at dksL_law_46 4 rfl rfl)
theorem dL_law_1195 : decode cL_law 1195 = .ok (.iaload, 1) := dk_46 (dk_at dksL_law_46 5 rfl rfl)
theorem dL_law_1196 : decode cL_law 1196 = .ok (.aload_n 0, 1) := dk_42 (dk_at dksL_law_46 6 rfl rfl)
theorem dL_law_1197 : decode cL_law 1197 = .ok (.iload 4, 2) := dk_21 4 (dk_at dksL_law_46 7 rfl rfl)
theorem dL_law_1199 : decode cL_law 1199 = .ok (.iconst 2, 1) := dk_5 (dk_at dksL_law_46 9 rfl rfl)
theorem dL_law_1200 : decode cL_law 1200 = .ok (.iadd, 1) := dk_96 (dk_at dksL_law_46 10 rfl rfl)
theorem dL_law_1201 : decode cL_law 1201 = .ok (.iaload, 1) := dk_46 (dk_at dksL_law_46 11 rfl rfl)
theorem dL_law_1202 : decode cL_law 1202 = .ok (.ifCond .eq 7, 3) := dk_153 0 7 (dk_at dksL_law_46 12 rfl rfl)
theorem dL_law_1205 : decode cL_law 1205 = .ok (.iconst 1, 1) := dk_4 (dk_at dksL_law_46 15 rfl rfl)
theorem dL_law_1206 : decode cL_law 1206 = .ok (.goto 4, 3) := dk_167 0 4 (dk_at dksL_law_46 16 rfl rfl)
theorem dL_law_1209 : decode cL_law 1209 = .ok (.iconst 0, 1) := dk_3 (dk_at dksL_law_46 19 rfl rfl)
theorem dL_law_1210 : decode cL_law 1210 = .ok (.invokevirtual 150, 3) := dk_182 0 150 (dk_at dksL_law_46 20 rfl rfl)
theorem dL_law_1213 : decode cL_law 1213 = .ok (.if_icmp .eq 30, 3) := dk_159 0 30 (dk_at dksL_law_47 0 rfl rfl)
theorem dL_law_1216 : decode cL_law 1216 = .ok (.iconst 0, 1) := dk_3 (dk_at dksL_law_47 3 rfl rfl)
theorem dL_law_1217 : decode cL_law 1217 = .ok (.ireturn, 1) := dk_172 (dk_at dksL_law_47 4 rfl rfl)
theorem dL_law_1218 : decode cL_law 1218 = .ok (.aload_n 1, 1) := dk_43 (dk_at dksL_law_47 5 rfl rfl)
theorem dL_law_1219 : decode cL_law 1219 = .ok (.aload_n 0, 1) := dk_42 (dk_at dksL_law_47 6 rfl rfl)
theorem dL_law_1220 : decode cL_law 1220 = .ok (.iload 4, 2) := dk_21 4 (dk_at dksL_law_47 7 rfl rfl)
theorem dL_law_1222 : decode cL_law 1222 = .ok (.iconst 1, 1) := dk_4 (dk_at dksL_law_47 9 rfl rfl)
theorem dL_law_1223 : decode cL_law 1223 = .ok (.iadd, 1) := dk_96 (dk_at dksL_law_47 10 rfl rfl)
theorem dL_law_1224 : decode cL_law 1224 = .ok (.iaload, 1) := dk_46 (dk_at dksL_law_47 11 rfl rfl)
theorem dL_law_1225 : decode cL_law 1225 = .ok (.invokevirtual 151, 3) := dk_182 0 151 (dk_at dksL_law_47 12 rfl rfl)
theorem dL_law_1228 : decode cL_law 1228 = .ok (.aload_n 2, 1) := dk_44 (dk_at dksL_law_47 15 rfl rfl)
theorem dL_law_1229 : decode cL_law 1229 = .ok (.aload_n 0, 1) := dk_42 (dk_at dksL_law_47 16 rfl rfl)
theorem dL_law_1230 : decode cL_law 1230 = .ok (.iload 4, 2) := dk_21 4 (dk_at dksL_law_47 17 rfl rfl)
theorem dL_law_1232 : decode cL_law 1232 = .ok (.iconst 1, 1) := dk_4 (dk_at dksL_law_47 19 rfl rfl)
theorem dL_law_1233 : decode cL_law 1233 = .ok (.iadd, 1) := dk_96 (dk_at dksL_law_47 20 rfl rfl)
theorem dL_law_1234 : decode cL_law 1234 = .ok (.iaload, 1) := dk_46 (dk_at dksL_law_47 21 rfl rfl)
theorem dL_law_1235 : decode cL_law 1235 = .ok (.invokevirtual 154, 3) := dk_182 0 154 (dk_at dksL_law_48 0 rfl rfl)
theorem dL_law_1238 : decode cL_law 1238 = .ok (.if_icmp .eq 5, 3) := dk_159 0 5 (dk_at dksL_law_48 3 rfl rfl)
theorem dL_law_1241 : decode cL_law 1241 = .ok (.iconst 0, 1) := dk_3 (dk_at dksL_law_48 6 rfl rfl)
theorem dL_law_1242 : decode cL_law 1242 = .ok (.ireturn, 1) := dk_172 (dk_at dksL_law_48 7 rfl rfl)
theorem dL_law_1243 : decode cL_law 1243 = .ok (.iinc 4 7, 3) := dk_132 4 7 (dk_at dksL_law_48 8 rfl rfl)
theorem dL_law_1246 : decode cL_law 1246 = .ok (.goto (-1223), 3) := dk_167 251 57 (dk_at dksL_law_48 11 rfl rfl)
theorem dL_law_1249 : decode cL_law 1249 = .ok (.iconst 1, 1) := dk_4 (dk_at dksL_law_48 14 rfl rfl)
theorem dL_law_1250 : decode cL_law 1250 = .ok (.ireturn, 1) := dk_172 (dk_at dksL_law_48 15 rfl rfl)
set_option maxRecDepth 100000
theorem kc_X1_rests : zKc yX1_rests cX1_rests 7 (some .int) := ⟨⟨by decide, by decide⟩, q1703, q115, by decide⟩
theorem kv_X0_7_0 : zKV "OrdinaryStalkLaw" 7 0 yX1_rests 4 := ⟨Or.inl q1700, q1701, by decide, _, _, _, rfl, q1702⟩
theorem zd_X1 : ∀ j, j < 11 → zv (zdv (tyX1 j)) = defaultValue (tyX1 j) := by decide
theorem nk_X0_8 : zNk "OrdinaryStalkLaw" 8 0 11 tyX1 := ⟨_, _, rfl, in_X1, fun j hj => ⟨tyX1_ok j hj, zd_X1 j hj⟩, q169, q170, q115⟩
theorem kc_X1_init : zKc yX1_init cX1_init 1 none := ⟨⟨by decide, by decide⟩, q173, q115, by decide⟩
theorem ki_X0_15 : zKI "OrdinaryStalkLaw" 15 yX1_init 0 := ⟨Or.inl q171, q172, by decide, rfl⟩
theorem zd_X9 : ∀ j, j < 69 → zv (zdv (tyX9 j)) = defaultValue (tyX9 j) := by decide
theorem nk_X0_16 : zNk "OrdinaryStalkLaw" 16 8 69 tyX9 := ⟨_, _, rfl, in_X9, fun j hj => ⟨tyX9_ok j hj, zd_X9 j hj⟩, q1733, q1734, q129⟩
theorem kc_X9_init : zKc yX9_init cX9_init 1 none := ⟨⟨by decide, by decide⟩, q1737, q129, by decide⟩
theorem ki_X0_18 : zKI "OrdinaryStalkLaw" 18 yX9_init 0 := ⟨Or.inl q1735, q1736, by decide, rfl⟩
theorem kc_X1_feed : zKc yX1_feed cX1_feed 7 (some .int) := ⟨⟨by decide, by decide⟩, q590, q115, by decide⟩
theorem kv_X0_21_0 : zKV "OrdinaryStalkLaw" 21 0 yX1_feed 3 := ⟨Or.inl q587, q588, by decide, _, _, _, rfl, q589⟩
theorem kc_X9_feed : zKc yX9_feed cX9_feed 11 (some .int) := ⟨⟨by decide, by decide⟩, q1958, q129, by decide⟩
theorem kv_X0_25_8 : zKV "OrdinaryStalkLaw" 25 8 yX9_feed 3 := ⟨Or.inl q1955, q1956, by decide, _, _, _, rfl, q1957⟩
theorem kc_X1_camp : zKcW yX1_camp cX1_camp 2 (some .int) [(0, 73, 74, 107)] := ⟨⟨by decide, by decide⟩, q602, q115, by decide⟩
theorem kv_X0_26_0 : zKV "OrdinaryStalkLaw" 26 0 yX1_camp 0 := ⟨Or.inl q599, q600, by decide, _, _, _, rfl, q601⟩
theorem kc_X9_camp : zKc yX9_camp cX9_camp 2 (some .int) := ⟨⟨by decide, by decide⟩, q1963, q129, by decide⟩
theorem kv_X0_30_8 : zKV "OrdinaryStalkLaw" 30 8 yX9_camp 0 := ⟨Or.inl q1960, q1961, by decide, _, _, _, rfl, q1962⟩
theorem kc_X1_day : zKcW yX1_day cX1_day 2 (some .int) [(0, 16, 17, 107)] := ⟨⟨by decide, by decide⟩, q1195, q115, by decide⟩
theorem kv_X0_31_0 : zKV "OrdinaryStalkLaw" 31 0 yX1_day 0 := ⟨Or.inl q1192, q1193, by decide, _, _, _, rfl, q1194⟩
theorem kc_X9_day : zKc yX9_day cX9_day 1 (some .int) := ⟨⟨by decide, by decide⟩, q2117, q129, by decide⟩
theorem kv_X0_34_8 : zKV "OrdinaryStalkLaw" 34 8 yX9_day 0 := ⟨Or.inl q2114, q2115, by decide, _, _, _, rfl, q2116⟩
theorem kc_X1_person : zKc yX1_person cX1_person 4 (some .int) := ⟨⟨by decide, by decide⟩, q1250, q115, by decide⟩
theorem kv_X0_35_0 : zKV "OrdinaryStalkLaw" 35 0 yX1_person 2 := ⟨Or.inl q1247, q1248, by decide, _, _, _, rfl, q1249⟩
theorem kc_X9_person : zKc yX9_person cX9_person 3 (some .int) := ⟨⟨by decide, by decide⟩, q2129, q129, by decide⟩
theorem kv_X0_39_8 : zKV "OrdinaryStalkLaw" 39 8 yX9_person 2 := ⟨Or.inl q2126, q2127, by decide, _, _, _, rfl, q2128⟩
theorem kc_X1_scout : zKc yX1_scout cX1_scout 3 (some .int) := ⟨⟨by decide, by decide⟩, q1280, q115, by decide⟩
theorem kv_X0_40_0 : zKV "OrdinaryStalkLaw" 40 0 yX1_scout 2 := ⟨Or.inl q1277, q1278, by decide, _, _, _, rfl, q1279⟩
theorem kc_X9_scout : zKc yX9_scout cX9_scout 3 (some .int) := ⟨⟨by decide, by decide⟩, q2141, q129, by decide⟩
theorem kv_X0_43_8 : zKV "OrdinaryStalkLaw" 43 8 yX9_scout 2 := ⟨Or.inl q2138, q2139, by decide, _, _, _, rfl, q2140⟩
theorem kc_X1_creep : zKc yX1_creep cX1_creep 3 (some .int) := ⟨⟨by decide, by decide⟩, q1296, q115, by decide⟩
theorem kv_X0_44_0 : zKV "OrdinaryStalkLaw" 44 0 yX1_creep 2 := ⟨Or.inl q1293, q1294, by decide, _, _, _, rfl, q1295⟩
theorem kc_X9_creep : zKc yX9_creep cX9_creep 3 (some .int) := ⟨⟨by decide, by decide⟩, q2153, q129, by decide⟩
theorem kv_X0_47_8 : zKV "OrdinaryStalkLaw" 47 8 yX9_creep 2 := ⟨Or.inl q2150, q2151, by decide, _, _, _, rfl, q2152⟩
theorem kc_X1_off : zKc yX1_off cX1_off 2 (some .boolean) := ⟨⟨by decide, by decide⟩, q1338, q115, by decide⟩
theorem kv_X0_48_0 : zKV "OrdinaryStalkLaw" 48 0 yX1_off 1 := ⟨Or.inl q1335, q1336, by decide, _, _, _, rfl, q1337⟩
theorem kc_X9_off : zKc yX9_off cX9_off 2 (some .boolean) := ⟨⟨by decide, by decide⟩, q2184, q129, by decide⟩
theorem kv_X0_52_8 : zKV "OrdinaryStalkLaw" 52 8 yX9_off 1 := ⟨Or.inl q2181, q2182, by decide, _, _, _, rfl, q2183⟩
theorem kc_X1_step : zKc yX1_step cX1_step 1 (some .int) := ⟨⟨by decide, by decide⟩, q1346, q115, by decide⟩
theorem kv_X0_53_0 : zKV "OrdinaryStalkLaw" 53 0 yX1_step 0 := ⟨Or.inl q1343, q1344, by decide, _, _, _, rfl, q1345⟩
theorem kc_X9_step : zKc yX9_step cX9_step 1 (some .int) := ⟨⟨by decide, by decide⟩, q2188, q129, by decide⟩
theorem kv_X0_56_8 : zKV "OrdinaryStalkLaw" 56 8 yX9_step 0 := ⟨Or.inl q2185, q2186, by decide, _, _, _, rfl, q2187⟩
theorem kc_X1_undo : zKc yX1_undo cX1_undo 1 (some .boolean) := ⟨⟨by decide, by decide⟩, q1486, q115, by decide⟩
theorem kv_X0_57_0 : zKV "OrdinaryStalkLaw" 57 0 yX1_undo 0 := ⟨Or.inl q1483, q1484, by decide, _, _, _, rfl, q1485⟩
theorem kc_X9_undo : zKc yX9_undo cX9_undo 1 (some .boolean) := ⟨⟨by decide, by decide⟩, q2237, q129, by decide⟩
theorem kv_X0_61_8 : zKV "OrdinaryStalkLaw" 61 8 yX9_undo 0 := ⟨Or.inl q2234, q2235, by decide, _, _, _, rfl, q2236⟩
theorem kc_X1_judged : zKc yX1_judged cX1_judged 6 (some .int) := ⟨⟨by decide, by decide⟩, q1494, q115, by decide⟩
theorem kv_X0_62_0 : zKV "OrdinaryStalkLaw" 62 0 yX1_judged 1 := ⟨Or.inl q1491, q1492, by decide, _, _, _, rfl, q1493⟩
theorem kc_X9_judged : zKc yX9_judged cX9_judged 6 (some .int) := ⟨⟨by decide, by decide⟩, q2241, q129, by decide⟩
theorem kv_X0_66_8 : zKV "OrdinaryStalkLaw" 66 8 yX9_judged 1 := ⟨Or.inl q2238, q2239, by decide, _, _, _, rfl, q2240⟩
theorem kc_X1_later : zKc yX1_later cX1_later 4 (some .int) := ⟨⟨by decide, by decide⟩, q1516, q115, by decide⟩
theorem kv_X0_67_0 : zKV "OrdinaryStalkLaw" 67 0 yX1_later 2 := ⟨Or.inl q1513, q1514, by decide, _, _, _, rfl, q1515⟩
theorem kc_X9_later : zKc yX9_later cX9_later 4 (some .int) := ⟨⟨by decide, by decide⟩, q2245, q129, by decide⟩
theorem kv_X0_70_8 : zKV "OrdinaryStalkLaw" 70 8 yX9_later 2 := ⟨Or.inl q2242, q2243, by decide, _, _, _, rfl, q2244⟩
theorem kc_X1_would : zKc yX1_would cX1_would 3 (some .int) := ⟨⟨by decide, by decide⟩, q1530, q115, by decide⟩
theorem kv_X0_71_0 : zKV "OrdinaryStalkLaw" 71 0 yX1_would 2 := ⟨Or.inl q1527, q1528, by decide, _, _, _, rfl, q1529⟩
theorem kc_X9_would : zKc yX9_would cX9_would 3 (some .int) := ⟨⟨by decide, by decide⟩, q2249, q129, by decide⟩
theorem kv_X0_74_8 : zKV "OrdinaryStalkLaw" 74 8 yX9_would 2 := ⟨Or.inl q2246, q2247, by decide, _, _, _, rfl, q2248⟩
theorem kc_X1_quiet : zKc yX1_quiet cX1_quiet 6 (some .int) := ⟨⟨by decide, by decide⟩, q1540, q115, by decide⟩
theorem kv_X0_75_0 : zKV "OrdinaryStalkLaw" 75 0 yX1_quiet 2 := ⟨Or.inl q1537, q1538, by decide, _, _, _, rfl, q1539⟩
theorem kc_X9_quiet : zKc yX9_quiet cX9_quiet 6 (some .int) := ⟨⟨by decide, by decide⟩, q2253, q129, by decide⟩
theorem kv_X0_78_8 : zKV "OrdinaryStalkLaw" 78 8 yX9_quiet 2 := ⟨Or.inl q2250, q2251, by decide, _, _, _, rfl, q2252⟩
theorem kc_X1_bush : zKc yX1_bush cX1_bush 5 (some .int) := ⟨⟨by decide, by decide⟩, q1545, q115, by decide⟩
theorem kv_X0_79_0 : zKV "OrdinaryStalkLaw" 79 0 yX1_bush 1 := ⟨Or.inl q1542, q1543, by decide, _, _, _, rfl, q1544⟩
theorem kc_X9_bush : zKc yX9_bush cX9_bush 4 (some .int) := ⟨⟨by decide, by decide⟩, q2261, q129, by decide⟩
theorem kv_X0_82_8 : zKV "OrdinaryStalkLaw" 82 8 yX9_bush 1 := ⟨Or.inl q2258, q2259, by decide, _, _, _, rfl, q2260⟩
theorem kv_X0_83_0 : zKV "OrdinaryStalkLaw" 83 0 yX1_shortest 2 := ⟨Or.inl q1547, q1548, by decide, _, _, _, rfl, q1549⟩
theorem kc_X9_shortest : zKc yX9_shortest cX9_shortest 3 (some .int) := ⟨⟨by decide, by decide⟩, q2265, q129, by decide⟩
theorem kv_X0_86_8 : zKV "OrdinaryStalkLaw" 86 8 yX9_shortest 2 := ⟨Or.inl q2262, q2263, by decide, _, _, _, rfl, q2264⟩
theorem kc_X1_first : zKc yX1_first cX1_first 5 (some .int) := ⟨⟨by decide, by decide⟩, q1580, q115, by decide⟩
theorem kv_X0_87_0 : zKV "OrdinaryStalkLaw" 87 0 yX1_first 2 := ⟨Or.inl q1577, q1578, by decide, _, _, _, rfl, q1579⟩
theorem kc_X9_first : zKc yX9_first cX9_first 3 (some .int) := ⟨⟨by decide, by decide⟩, q2285, q129, by decide⟩
theorem kv_X0_90_8 : zKV "OrdinaryStalkLaw" 90 8 yX9_first 2 := ⟨Or.inl q2282, q2283, by decide, _, _, _, rfl, q2284⟩
theorem kc_X1_soonest : zKc yX1_soonest cX1_soonest 6 (some .int) := ⟨⟨by decide, by decide⟩, q1585, q115, by decide⟩
theorem kv_X0_91_0 : zKV "OrdinaryStalkLaw" 91 0 yX1_soonest 1 := ⟨Or.inl q1582, q1583, by decide, _, _, _, rfl, q1584⟩
theorem kc_X9_soonest : zKc yX9_soonest cX9_soonest 6 (some .int) := ⟨⟨by decide, by decide⟩, q2289, q129, by decide⟩
theorem kv_X0_94_8 : zKV "OrdinaryStalkLaw" 94 8 yX9_soonest 1 := ⟨Or.inl q2286, q2287, by decide, _, _, _, rfl, q2288⟩
theorem kc_X1_worth : zKc yX1_worth cX1_worth 6 (some .int) := ⟨⟨by decide, by decide⟩, q1589, q115, by decide⟩
theorem kv_X0_95_0 : zKV "OrdinaryStalkLaw" 95 0 yX1_worth 1 := ⟨Or.inl q1586, q1587, by decide, _, _, _, rfl, q1588⟩
theorem kc_X9_worth : zKc yX9_worth cX9_worth 7 (some .int) := ⟨⟨by decide, by decide⟩, q2293, q129, by decide⟩
theorem kv_X0_98_8 : zKV "OrdinaryStalkLaw" 98 8 yX9_worth 1 := ⟨Or.inl q2290, q2291, by decide, _, _, _, rfl, q2292⟩
theorem kc_X1_team : zKc yX1_team cX1_team 3 (some .int) := ⟨⟨by decide, by decide⟩, q1593, q115, by decide⟩
theorem kv_X0_99_0 : zKV "OrdinaryStalkLaw" 99 0 yX1_team 2 := ⟨Or.inl q1590, q1591, by decide, _, _, _, rfl, q1592⟩
theorem kc_X9_team : zKc yX9_team cX9_team 5 (some .int) := ⟨⟨by decide, by decide⟩, q2297, q129, by decide⟩
theorem kv_X0_102_8 : zKV "OrdinaryStalkLaw" 102 8 yX9_team 2 := ⟨Or.inl q2294, q2295, by decide, _, _, _, rfl, q2296⟩
theorem kc_X1_meets : zKc yX1_meets cX1_meets 4 (some .int) := ⟨⟨by decide, by decide⟩, q1521, q115, by decide⟩
theorem kv_X0_103_0 : zKV "OrdinaryStalkLaw" 103 0 yX1_meets 2 := ⟨Or.inl q1518, q1519, by decide, _, _, _, rfl, q1520⟩
theorem kc_X9_meets : zKc yX9_meets cX9_meets 4 (some .int) := ⟨⟨by decide, by decide⟩, q2305, q129, by decide⟩
theorem kv_X0_106_8 : zKV "OrdinaryStalkLaw" 106 8 yX9_meets 2 := ⟨Or.inl q2302, q2303, by decide, _, _, _, rfl, q2304⟩
theorem kc_X1_alike : zKc yX1_alike cX1_alike 6 (some .int) := ⟨⟨by decide, by decide⟩, q1611, q115, by decide⟩
theorem kv_X0_107_0 : zKV "OrdinaryStalkLaw" 107 0 yX1_alike 0 := ⟨Or.inl q1608, q1609, by decide, _, _, _, rfl, q1610⟩
theorem kc_X9_alike : zKc yX9_alike cX9_alike 4 (some .int) := ⟨⟨by decide, by decide⟩, q2309, q129, by decide⟩
theorem kv_X0_110_8 : zKV "OrdinaryStalkLaw" 110 8 yX9_alike 0 := ⟨Or.inl q2306, q2307, by decide, _, _, _, rfl, q2308⟩
theorem kc_X1_camped : zKc yX1_camped cX1_camped 3 (some .int) := ⟨⟨by decide, by decide⟩, q1525, q115, by decide⟩
theorem kv_X0_111_0 : zKV "OrdinaryStalkLaw" 111 0 yX1_camped 0 := ⟨Or.inl q1522, q1523, by decide, _, _, _, rfl, q1524⟩
theorem kc_X9_camped : zKc yX9_camped cX9_camped 3 (some .int) := ⟨⟨by decide, by decide⟩, q2317, q129, by decide⟩
theorem kv_X0_114_8 : zKV "OrdinaryStalkLaw" 114 8 yX9_camped 0 := ⟨Or.inl q2314, q2315, by decide, _, _, _, rfl, q2316⟩
theorem kc_X1_say : zKc yX1_say cX1_say 4 (some .boolean) := ⟨⟨by decide, by decide⟩, q1616, q115, by decide⟩
theorem kv_X0_115_0 : zKV "OrdinaryStalkLaw" 115 0 yX1_say 3 := ⟨Or.inl q1613, q1614, by decide, _, _, _, rfl, q1615⟩
theorem kc_X9_say : zKc yX9_say cX9_say 4 (some .boolean) := ⟨⟨by decide, by decide⟩, q2321, q129, by decide⟩
theorem kv_X0_119_8 : zKV "OrdinaryStalkLaw" 119 8 yX9_say 3 := ⟨Or.inl q2318, q2319, by decide, _, _, _, rfl, q2320⟩
theorem kv_X0_120_0 : zKV "OrdinaryStalkLaw" 120 0 yX1_who 0 := ⟨Or.inl q1617, q1618, by decide, _, _, _, rfl, q1619⟩
theorem kv_X0_123_8 : zKV "OrdinaryStalkLaw" 123 8 yX9_who 0 := ⟨Or.inl q2322, q2323, by decide, _, _, _, rfl, q2324⟩
theorem kc_X1_ask : zKc yX1_ask cX1_ask 8 (some .int) := ⟨⟨by decide, by decide⟩, q1629, q115, by decide⟩
theorem kv_X0_124_0 : zKV "OrdinaryStalkLaw" 124 0 yX1_ask 0 := ⟨Or.inl q1626, q1627, by decide, _, _, _, rfl, q1628⟩
theorem kc_X9_ask : zKc yX9_ask cX9_ask 8 (some .int) := ⟨⟨by decide, by decide⟩, q2337, q129, by decide⟩
theorem kv_X0_127_8 : zKV "OrdinaryStalkLaw" 127 8 yX9_ask 0 := ⟨Or.inl q2334, q2335, by decide, _, _, _, rfl, q2336⟩
theorem kc_X1_chance : zKc yX1_chance cX1_chance 5 (some .int) := ⟨⟨by decide, by decide⟩, q1638, q115, by decide⟩
theorem kv_X0_128_0 : zKV "OrdinaryStalkLaw" 128 0 yX1_chance 2 := ⟨Or.inl q1635, q1636, by decide, _, _, _, rfl, q1637⟩
theorem kc_X9_chance : zKc yX9_chance cX9_chance 5 (some .int) := ⟨⟨by decide, by decide⟩, q2346, q129, by decide⟩
theorem kv_X0_131_8 : zKV "OrdinaryStalkLaw" 131 8 yX9_chance 2 := ⟨Or.inl q2343, q2344, by decide, _, _, _, rfl, q2345⟩
theorem kc_X0_rests : zKcW yX0_rests cX0_rests 7 (some .int) [(0, 14, 17, 13)] := ⟨⟨by decide, by decide⟩, q1698, q114, by decide⟩
theorem ks_X0_132 : zKS "OrdinaryStalkLaw" 132 yX0_rests 6 := ⟨Or.inl q1696, q1697, by decide⟩
theorem kc_X9_rests : zKc yX9_rests cX9_rests 9 (some .int) := ⟨⟨by decide, by decide⟩, q2355, q129, by decide⟩
theorem kv_X0_137_8 : zKV "OrdinaryStalkLaw" 137 8 yX9_rests 4 := ⟨Or.inl q2352, q2353, by decide, _, _, _, rfl, q2354⟩
theorem kc_X9_thrown : zKc yX9_thrown cX9_thrown 1 (some .int) := ⟨⟨by decide, by decide⟩, q1954, q129, by decide⟩
theorem kv_X0_138_8 : zKV "OrdinaryStalkLaw" 138 8 yX9_thrown 0 := ⟨Or.inl q1951, q1952, by decide, _, _, _, rfl, q1953⟩
theorem kc_X1_camps : zKc yX1_camps cX1_camps 8 (some .int) := ⟨⟨by decide, by decide⟩, q1654, q115, by decide⟩
theorem kv_X0_141_0 : zKV "OrdinaryStalkLaw" 141 0 yX1_camps 3 := ⟨Or.inl q1651, q1652, by decide, _, _, _, rfl, q1653⟩
theorem kc_X9_camps : zKc yX9_camps cX9_camps 8 (some .int) := ⟨⟨by decide, by decide⟩, q2362, q129, by decide⟩
theorem kv_X0_145_8 : zKV "OrdinaryStalkLaw" 145 8 yX9_camps 3 := ⟨Or.inl q2359, q2360, by decide, _, _, _, rfl, q2361⟩
theorem kc_X1_mark : zKc yX1_mark cX1_mark 3 (some .boolean) := ⟨⟨by decide, by decide⟩, q1666, q115, by decide⟩
theorem kv_X0_146_0 : zKV "OrdinaryStalkLaw" 146 0 yX1_mark 2 := ⟨Or.inl q1663, q1664, by decide, _, _, _, rfl, q1665⟩
theorem kc_X9_mark : zKc yX9_mark cX9_mark 5 (some .boolean) := ⟨⟨by decide, by decide⟩, q2374, q129, by decide⟩
theorem kv_X0_150_8 : zKV "OrdinaryStalkLaw" 150 8 yX9_mark 2 := ⟨Or.inl q2371, q2372, by decide, _, _, _, rfl, q2373⟩
theorem kc_X1_count : zKc yX1_count cX1_count 2 (some .int) := ⟨⟨by decide, by decide⟩, q1691, q115, by decide⟩
theorem kv_X0_151_0 : zKV "OrdinaryStalkLaw" 151 0 yX1_count 1 := ⟨Or.inl q1688, q1689, by decide, _, _, _, rfl, q1690⟩
theorem kc_X9_count : zKc yX9_count cX9_count 2 (some .int) := ⟨⟨by decide, by decide⟩, q2382, q129, by decide⟩
theorem kv_X0_154_8 : zKV "OrdinaryStalkLaw" 154 8 yX9_count 1 := ⟨Or.inl q2379, q2380, by decide, _, _, _, rfl, q2381⟩
/-! OrdinaryStalkLaw.rests(LOrdinaryStalk;IIII[J)I -/
def f_X0_rests (n : Nat) (l0 : Option Nat) (l1 : Int32) (l2 : Int32) (l3 : Int32) (l4 : Int32) (l5 : Option Nat) (h : zHp) : Option (Int32 × zHp) :=
  ((zrc [0] l0 h).bind fun a1 => (bH (f_X1_rests n a1 l1 l2 l3 l4 h) (fun x3 h4 => ((zas [101] l5 (0 : Int32) (zJ (x3.toInt64)) h4).bind fun h7 => some ((0 : Int32), h7))) (fun a5 h6 => (zrc [32] (some a5) h6).bind fun a5 => some ((1 : Int32), h6))))
theorem w_X0_rests {G : zG} {X : zX} {d : Nat} {h0 : zHp} (C : zC G X yX0_rests cX0_rests 7 d (some .int) h0) (hT : zTab X = [(0, 14, 17, 13)]) (hd : 8 ≤ d) (n : Nat) (l0 : Option Nat) (l1 : Int32) (l2 : Int32) (l3 : Int32) (l4 : Int32) (l5 : Option Nat) (h : zHp) : zS G X 7 0 [some (zR l0), some (zI l1), some (zI l2), some (zI l3), some (zI l4), some (zR l5), none] [] h (f_X0_rests n  l0 l1 l2 l3 l4 l5 h) (li lvI) := by
  unfold f_X0_rests
  refine s_aload (pc := 0) C dX0_rests_0 rfl ?_
  refine s_iconst (pc := 2) (v := (0 : Int32)) C dX0_rests_2 (by decide) ?_
  refine s_aload_n (pc := 3) C dX0_rests_3 rfl ?_
  refine s_iload_n (pc := 4) C dX0_rests_4 rfl ?_
  refine s_iload_n (pc := 5) C dX0_rests_5 rfl ?_
  refine s_iload_n (pc := 6) C dX0_rests_6 rfl ?_
  refine s_iload (pc := 7) C dX0_rests_7 rfl ?_
  refine s_rc (pc := 9) (fun a1 e_a1 z2 => ?_)
  refine s_callH (pc := 9) (st := [zI (0 : Int32), zR l5]) C hT ⟨by decide, by decide⟩ (by decide) (t := 32) rfl q1699 lvI (t_X1_rests (d := d - 1) (by omega) n a1 l1 l2 l3 l4 h) (zce C kc_X1_rests (by omega)) (zlkV C kc_X1_rests kv_X0_7_0 dX0_rests_9 (zmem1 z2) [zI l1, zI l2, zI l3, zI l4] rfl (by rw [e_a1]; rfl)) dX0_rests_9 (Nat.le_of_ble_eq_true rfl) (fun x3 h4 _ => ?_) (fun a5 h6 => ?_)
  · refine s_i2l (pc := 12) C dX0_rests_12 ?_
    refine s_lastore (pc := 13) C dX0_rests_13 (fun h7 _ => ?_)
    refine s_goto (pc := 14) (tgt := 21) C dX0_rests_14 (by decide) ?_
    refine s_iconst (pc := 21) (v := (0 : Int32)) C dX0_rests_21 (by decide) ?_
    exact s_ireturn (pc := 22) C dX0_rests_22
  · refine s_astore (pc := 17) (L' := [some (zR l0), some (zI l1), some (zI l2), some (zI l3), some (zI l4), some (zR l5), some (zR (some a5))]) C dX0_rests_17 (by decide) rfl ?_
    refine s_iconst (pc := 19) (v := (1 : Int32)) C dX0_rests_19 (by decide) ?_
    exact s_ireturn (pc := 20) C dX0_rests_20
theorem t_X0_rests {G : zG} {d : Nat} (hd : 8 ≤ d) (n : Nat) (l0 : Option Nat) (l1 : Int32) (l2 : Int32) (l3 : Int32) (l4 : Int32) (l5 : Option Nat) (h : zHp) : zT G d yX0_rests (wsW_ yX0_rests cX0_rests 7 (some .int) [(0, 14, 17, 13)]) [zR l0, zI l1, zI l2, zI l3, zI l4, zR l5] h (f_X0_rests n l0 l1 l2 l3 l4 l5 h) (li lvI) := zT.ofW (plainFor_of_name (by decide)) 1 (L0 := [some (zR l0), some (zI l1), some (zI l2), some (zI l3), some (zI l4), some (zR l5), none]) rfl (Nat.le_of_ble_eq_true rfl) (fun X C hT => w_X0_rests C hT hd n l0 l1 l2 l3 l4 l5 h)
/-! OrdinaryStalkLaw.law([I)Z -/
def f_L_law_L1243 (n : Nat) (c23 : Option Nat → Option Nat → Option Nat → Option Nat → Int32 → zHp → Option (Int32 × zHp)) (l0 : Option Nat) (l1 : Option Nat) (l2 : Option Nat) (l3 : Option Nat) (l4 : Int32) (h : zHp) : Option (Int32 × zHp) :=
  c23 l0 l1 l2 l3 (l4 + (7 : Int32)) h
def f_L_law_L1113 (n : Nat) (c23 : Option Nat → Option Nat → Option Nat → Option Nat → Int32 → zHp → Option (Int32 × zHp)) (l0 : Option Nat) (l1 : Option Nat) (l2 : Option Nat) (l3 : Option Nat) (l4 : Int32) (h : zHp) : Option (Int32 × zHp) :=
  f_L_law_L1243 n c23 l0 l1 l2 l3 l4 h
def f_L_law_L23_b (n : Nat) (self : Option Nat → Option Nat → Option Nat → Option Nat → Int32 → zHp → Option (Int32 × zHp)) (l0 : Option Nat) (l1 : Option Nat) (l2 : Option Nat) (l3 : Option Nat) (l4 : Int32) (h : zHp) : Option (Int32 × zHp) :=
  ((zlen l0 h).bind fun x1 => (if (x1 - (7 : Int32)) < l4 then some ((1 : Int32), h) else ((zaI [100, 300] l0 l4 h).bind fun x3 => (if (x3 &&& (31 : Int32)) = (0 : Int32) then ((zaI [100, 300] l0 (l4 + (1 : Int32)) h).bind fun x5 => ((zaI [100, 300] l0 (l4 + (2 : Int32)) h).bind fun x6 => ((zaI [100, 300] l0 (l4 + (3 : Int32)) h).bind fun x7 => ((zaI [100, 300] l0 (l4 + (4 : Int32)) h).bind fun x8 => ((zaI [100, 300] l0 (l4 + (5 : Int32)) h).bind fun x9 => ((zaI [100, 300] l0 (l4 + (6 : Int32)) h).bind fun x10 => ((zrc [0] l1 h).bind fun a11 => (bN (f_X1_feed n a11 ((zshlJ (x5.toInt64) (32 : Int32)) ||| ((x6.toInt64) &&& (4294967295 : Int64))) ((zshlJ (x7.toInt64) (32 : Int32)) ||| ((x8.toInt64) &&& (4294967295 : Int64))) ((zshlJ (x9.toInt64) (32 : Int32)) ||| ((x10.toInt64) &&& (4294967295 : Int64))) h) fun x13 h14 => ((zaI [100, 300] l0 (l4 + (1 : Int32)) h14).bind fun x15 => ((zaI [100, 300] l0 (l4 + (2 : Int32)) h14).bind fun x16 => ((zaI [100, 300] l0 (l4 + (3 : Int32)) h14).bind fun x17 => ((zaI [100, 300] l0 (l4 + (4 : Int32)) h14).bind fun x18 => ((zaI [100, 300] l0 (l4 + (5 : Int32)) h14).bind fun x19 => ((zaI [100, 300] l0 (l4 + (6 : Int32)) h14).bind fun x20 => ((zrc [8] l2 h14).bind fun a21 => (bN (f_X9_feed n a21 ((zshlJ (x15.toInt64) (32 : Int32)) ||| ((x16.toInt64) &&& (4294967295 : Int64))) ((zshlJ (x17.toInt64) (32 : Int32)) ||| ((x18.toInt64) &&& (4294967295 : Int64))) ((zshlJ (x19.toInt64) (32 : Int32)) ||| ((x20.toInt64) &&& (4294967295 : Int64))) h14) fun x23 h24 => (if x13 = x23 then f_L_law_L1243 n self l0 l1 l2 l3 l4 h24 else some ((0 : Int32), h24)))))))))))))))))) else (if (x3 &&& (31 : Int32)) = (1 : Int32) then ((zrc [0] l1 h).bind fun a27 => (bN (f_X1_camp n a27 h) fun x29 h30 => ((zrc [8] l2 h30).bind fun a31 => (bN (f_X9_camp n a31 h30) fun x33 h34 => (if x29 = x33 then f_L_law_L1243 n self l0 l1 l2 l3 l4 h34 else some ((0 : Int32), h34)))))) else (if (x3 &&& (31 : Int32)) = (2 : Int32) then ((zrc [0] l1 h).bind fun a37 => (bN (f_X1_day n a37 h) fun x39 h40 => ((zrc [8] l2 h40).bind fun a41 => (bN (f_X9_day n a41 h40) fun x43 h44 => (if x39 = x43 then f_L_law_L1243 n self l0 l1 l2 l3 l4 h44 else some ((0 : Int32), h44)))))) else (if (x3 &&& (31 : Int32)) = (3 : Int32) then ((zaI [100, 300] l0 (l4 + (1 : Int32)) h).bind fun x47 => ((zaI [100, 300] l0 (l4 + (2 : Int32)) h).bind fun x48 => ((zrc [0] l1 h).bind fun a49 => (bN (f_X1_person n a49 x47 x48 h) fun x51 h52 => ((zaI [100, 300] l0 (l4 + (1 : Int32)) h52).bind fun x53 => ((zaI [100, 300] l0 (l4 + (2 : Int32)) h52).bind fun x54 => ((zrc [8] l2 h52).bind fun a55 => (bN (f_X9_person n a55 x53 x54 h52) fun x57 h58 => (if x51 = x57 then f_L_law_L1243 n self l0 l1 l2 l3 l4 h58 else some ((0 : Int32), h58)))))))))) else (if (x3 &&& (31 : Int32)) = (4 : Int32) then ((zaI [100, 300] l0 (l4 + (1 : Int32)) h).bind fun x61 => ((zaI [100, 300] l0 (l4 + (2 : Int32)) h).bind fun x62 => ((zrc [0] l1 h).bind fun a63 => (bN (f_X1_scout n a63 x61 x62 h) fun x65 h66 => ((zaI [100, 300] l0 (l4 + (1 : Int32)) h66).bind fun x67 => ((zaI [100, 300] l0 (l4 + (2 : Int32)) h66).bind fun x68 => ((zrc [8] l2 h66).bind fun a69 => (bN (f_X9_scout n a69 x67 x68 h66) fun x71 h72 => (if x65 = x71 then f_L_law_L1243 n self l0 l1 l2 l3 l4 h72 else some ((0 : Int32), h72)))))))))) else (if (x3 &&& (31 : Int32)) = (5 : Int32) then ((zaI [100, 300] l0 (l4 + (1 : Int32)) h).bind fun x75 => ((zaI [100, 300] l0 (l4 + (2 : Int32)) h).bind fun x76 => ((zrc [0] l1 h).bind fun a77 => (bN (f_X1_creep n a77 x75 x76 h) fun x79 h80 => ((zaI [100, 300] l0 (l4 + (1 : Int32)) h80).bind fun x81 => ((zaI [100, 300] l0 (l4 + (2 : Int32)) h80).bind fun x82 => ((zrc [8] l2 h80).bind fun a83 => (bN (f_X9_creep n a83 x81 x82 h80) fun x85 h86 => (if x79 = x85 then f_L_law_L1243 n self l0 l1 l2 l3 l4 h86 else some ((0 : Int32), h86)))))))))) else (if (x3 &&& (31 : Int32)) = (6 : Int32) then ((zaI [100, 300] l0 (l4 + (1 : Int32)) h).bind fun x89 => ((zrc [0] l1 h).bind fun a90 => (bN (f_X1_off n a90 x89 h) fun x92 h93 => ((zaI [100, 300] l0 (l4 + (1 : Int32)) h93).bind fun x94 => ((zrc [8] l2 h93).bind fun a95 => (bN (f_X9_off n a95 x94 h93) fun x97 h98 => (if x92 = x97 then f_L_law_L1243 n self l0 l1 l2 l3 l4 h98 else some ((0 : Int32), h98)))))))) else (if (x3 &&& (31 : Int32)) = (7 : Int32) then ((zrc [0] l1 h).bind fun a101 => (bN (f_X1_step n a101 h) fun x103 h104 => ((zrc [8] l2 h104).bind fun a105 => (bN (f_X9_step n a105 h104) fun x107 h108 => (if x103 = x107 then f_L_law_L1243 n self l0 l1 l2 l3 l4 h108 else some ((0 : Int32), h108)))))) else (if (x3 &&& (31 : Int32)) = (8 : Int32) then ((zrc [0] l1 h).bind fun a111 => (bN (f_X1_undo n a111 h) fun x113 h114 => ((zrc [8] l2 h114).bind fun a115 => (bN (f_X9_undo n a115 h114) fun x117 h118 => (if x113 = x117 then f_L_law_L1243 n self l0 l1 l2 l3 l4 h118 else some ((0 : Int32), h118)))))) else (if (x3 &&& (31 : Int32)) = (9 : Int32) then ((zaI [100, 300] l0 (l4 + (1 : Int32)) h).bind fun x121 => ((zrc [0] l1 h).bind fun a122 => (bN (f_X1_judged n a122 x121 h) fun x124 h125 => ((zaI [100, 300] l0 (l4 + (1 : Int32)) h125).bind fun x126 => ((zrc [8] l2 h125).bind fun a127 => (bN (f_X9_judged n a127 x126 h125) fun x129 h130 => (if x124 = x129 then f_L_law_L1243 n self l0 l1 l2 l3 l4 h130 else some ((0 : Int32), h130)))))))) else (if (x3 &&& (31 : Int32)) = (10 : Int32) then ((zaI [100, 300] l0 (l4 + (1 : Int32)) h).bind fun x133 => ((zaI [100, 300] l0 (l4 + (2 : Int32)) h).bind fun x134 => ((zrc [0] l1 h).bind fun a135 => (bN (f_X1_later n a135 x133 x134 h) fun x137 h138 => ((zaI [100, 300] l0 (l4 + (1 : Int32)) h138).bind fun x139 => ((zaI [100, 300] l0 (l4 + (2 : Int32)) h138).bind fun x140 => ((zrc [8] l2 h138).bind fun a141 => (bN (f_X9_later n a141 x139 x140 h138) fun x143 h144 => (if x137 = x143 then f_L_law_L1243 n self l0 l1 l2 l3 l4 h144 else some ((0 : Int32), h144)))))))))) else (if (x3 &&& (31 : Int32)) = (11 : Int32) then ((zaI [100, 300] l0 (l4 + (1 : Int32)) h).bind fun x147 => ((zaI [100, 300] l0 (l4 + (2 : Int32)) h).bind fun x148 => ((zrc [0] l1 h).bind fun a149 => (bN (f_X1_would n a149 x147 x148 h) fun x151 h152 => ((zaI [100, 300] l0 (l4 + (1 : Int32)) h152).bind fun x153 => ((zaI [100, 300] l0 (l4 + (2 : Int32)) h152).bind fun x154 => ((zrc [8] l2 h152).bind fun a155 => (bN (f_X9_would n a155 x153 x154 h152) fun x157 h158 => (if x151 = x157 then f_L_law_L1243 n self l0 l1 l2 l3 l4 h158 else some ((0 : Int32), h158)))))))))) else (if (x3 &&& (31 : Int32)) = (12 : Int32) then ((zaI [100, 300] l0 (l4 + (1 : Int32)) h).bind fun x161 => ((zaI [100, 300] l0 (l4 + (2 : Int32)) h).bind fun x162 => ((zrc [0] l1 h).bind fun a163 => (bN (f_X1_quiet n a163 x161 x162 h) fun x165 h166 => ((zaI [100, 300] l0 (l4 + (1 : Int32)) h166).bind fun x167 => ((zaI [100, 300] l0 (l4 + (2 : Int32)) h166).bind fun x168 => ((zrc [8] l2 h166).bind fun a169 => (bN (f_X9_quiet n a169 x167 x168 h166) fun x171 h172 => (if x165 = x171 then f_L_law_L1243 n self l0 l1 l2 l3 l4 h172 else some ((0 : Int32), h172)))))))))) else (if (x3 &&& (31 : Int32)) = (13 : Int32) then ((zaI [100, 300] l0 (l4 + (1 : Int32)) h).bind fun x175 => ((zrc [0] l1 h).bind fun a176 => (bN (f_X1_bush n a176 x175 h) fun x178 h179 => ((zaI [100, 300] l0 (l4 + (1 : Int32)) h179).bind fun x180 => ((zrc [8] l2 h179).bind fun a181 => (bN (f_X9_bush n a181 x180 h179) fun x183 h184 => (if x178 = x183 then f_L_law_L1243 n self l0 l1 l2 l3 l4 h184 else some ((0 : Int32), h184)))))))) else (if (x3 &&& (31 : Int32)) = (14 : Int32) then ((zaI [100, 300] l0 (l4 + (1 : Int32)) h).bind fun x187 => ((zaI [100, 300] l0 (l4 + (2 : Int32)) h).bind fun x188 => ((zrc [0] l1 h).bind fun a189 => (bN (f_X1_shortest n a189 x187 x188 h) fun x191 h192 => ((zaI [100, 300] l0 (l4 + (1 : Int32)) h192).bind fun x193 => ((zaI [100, 300] l0 (l4 + (2 : Int32)) h192).bind fun x194 => ((zrc [8] l2 h192).bind fun a195 => (bN (f_X9_shortest n a195 x193 x194 h192) fun x197 h198 => (if x191 = x197 then f_L_law_L1243 n self l0 l1 l2 l3 l4 h198 else some ((0 : Int32), h198)))))))))) else (if (x3 &&& (31 : Int32)) = (15 : Int32) then ((zaI [100, 300] l0 (l4 + (1 : Int32)) h).bind fun x201 => ((zaI [100, 300] l0 (l4 + (2 : Int32)) h).bind fun x202 => ((zrc [0] l1 h).bind fun a203 => (bN (f_X1_first n a203 x201 x202 h) fun x205 h206 => ((zaI [100, 300] l0 (l4 + (1 : Int32)) h206).bind fun x207 => ((zaI [100, 300] l0 (l4 + (2 : Int32)) h206).bind fun x208 => ((zrc [8] l2 h206).bind fun a209 => (bN (f_X9_first n a209 x207 x208 h206) fun x211 h212 => (if x205 = x211 then f_L_law_L1243 n self l0 l1 l2 l3 l4 h212 else some ((0 : Int32), h212)))))))))) else (if (x3 &&& (31 : Int32)) = (16 : Int32) then ((zaI [100, 300] l0 (l4 + (1 : Int32)) h).bind fun x215 => ((zrc [0] l1 h).bind fun a216 => (bN (f_X1_soonest n a216 x215 h) fun x218 h219 => ((zaI [100, 300] l0 (l4 + (1 : Int32)) h219).bind fun x220 => ((zrc [8] l2 h219).bind fun a221 => (bN (f_X9_soonest n a221 x220 h219) fun x223 h224 => (if x218 = x223 then f_L_law_L1243 n self l0 l1 l2 l3 l4 h224 else some ((0 : Int32), h224)))))))) else (if (x3 &&& (31 : Int32)) = (17 : Int32) then ((zaI [100, 300] l0 (l4 + (1 : Int32)) h).bind fun x227 => ((zrc [0] l1 h).bind fun a228 => (bN (f_X1_worth n a228 x227 h) fun x230 h231 => ((zaI [100, 300] l0 (l4 + (1 : Int32)) h231).bind fun x232 => ((zrc [8] l2 h231).bind fun a233 => (bN (f_X9_worth n a233 x232 h231) fun x235 h236 => (if x230 = x235 then f_L_law_L1243 n self l0 l1 l2 l3 l4 h236 else some ((0 : Int32), h236)))))))) else (if (x3 &&& (31 : Int32)) = (18 : Int32) then ((zaI [100, 300] l0 (l4 + (1 : Int32)) h).bind fun x239 => ((zaI [100, 300] l0 (l4 + (2 : Int32)) h).bind fun x240 => ((zrc [0] l1 h).bind fun a241 => (bN (f_X1_team n a241 x239 x240 h) fun x243 h244 => ((zaI [100, 300] l0 (l4 + (1 : Int32)) h244).bind fun x245 => ((zaI [100, 300] l0 (l4 + (2 : Int32)) h244).bind fun x246 => ((zrc [8] l2 h244).bind fun a247 => (bN (f_X9_team n a247 x245 x246 h244) fun x249 h250 => (if x243 = x249 then f_L_law_L1243 n self l0 l1 l2 l3 l4 h250 else some ((0 : Int32), h250)))))))))) else (if (x3 &&& (31 : Int32)) = (19 : Int32) then ((zaI [100, 300] l0 (l4 + (1 : Int32)) h).bind fun x253 => ((zaI [100, 300] l0 (l4 + (2 : Int32)) h).bind fun x254 => ((zrc [0] l1 h).bind fun a255 => (bN (f_X1_meets n a255 x253 x254 h) fun x257 h258 => ((zaI [100, 300] l0 (l4 + (1 : Int32)) h258).bind fun x259 => ((zaI [100, 300] l0 (l4 + (2 : Int32)) h258).bind fun x260 => ((zrc [8] l2 h258).bind fun a261 => (bN (f_X9_meets n a261 x259 x260 h258) fun x263 h264 => (if x257 = x263 then f_L_law_L1243 n self l0 l1 l2 l3 l4 h264 else some ((0 : Int32), h264)))))))))) else (if (x3 &&& (31 : Int32)) = (20 : Int32) then ((zrc [0] l1 h).bind fun a267 => (bN (f_X1_alike n a267 h) fun x269 h270 => ((zrc [8] l2 h270).bind fun a271 => (bN (f_X9_alike n a271 h270) fun x273 h274 => (if x269 = x273 then f_L_law_L1243 n self l0 l1 l2 l3 l4 h274 else some ((0 : Int32), h274)))))) else (if (x3 &&& (31 : Int32)) = (21 : Int32) then ((zrc [0] l1 h).bind fun a277 => (bN (f_X1_camped n a277 h) fun x279 h280 => ((zrc [8] l2 h280).bind fun a281 => (bN (f_X9_camped n a281 h280) fun x283 h284 => (if x279 = x283 then f_L_law_L1243 n self l0 l1 l2 l3 l4 h284 else some ((0 : Int32), h284)))))) else (if (x3 &&& (31 : Int32)) = (22 : Int32) then ((zaI [100, 300] l0 (l4 + (1 : Int32)) h).bind fun x287 => ((zaI [100, 300] l0 (l4 + (2 : Int32)) h).bind fun x288 => ((zaI [100, 300] l0 (l4 + (3 : Int32)) h).bind fun x289 => ((zrc [0] l1 h).bind fun a292 => (bN (f_X1_say n a292 x287 x288 (if x289 = 0 then (0 : Int32) else (1 : Int32)) h) fun x294 h295 => ((zaI [100, 300] l0 (l4 + (1 : Int32)) h295).bind fun x296 => ((zaI [100, 300] l0 (l4 + (2 : Int32)) h295).bind fun x297 => ((zaI [100, 300] l0 (l4 + (3 : Int32)) h295).bind fun x298 => ((zrc [8] l2 h295).bind fun a301 => (bN (f_X9_say n a301 x296 x297 (if x298 = 0 then (0 : Int32) else (1 : Int32)) h295) fun x303 h304 => (if x294 = x303 then f_L_law_L1243 n self l0 l1 l2 l3 l4 h304 else some ((0 : Int32), h304)))))))))))) else (if (x3 &&& (31 : Int32)) = (23 : Int32) then ((zrc [0] l1 h).bind fun a307 => (bN (f_X1_who n a307 h) fun x309 h310 => ((zrc [8] l2 h310).bind fun a311 => (bN (f_X9_who n a311 h310) fun x313 h314 => (if x309 = x313 then f_L_law_L1243 n self l0 l1 l2 l3 l4 h314 else some ((0 : Int32), h314)))))) else (if (x3 &&& (31 : Int32)) = (24 : Int32) then ((zrc [0] l1 h).bind fun a317 => (bN (f_X1_ask n a317 h) fun x319 h320 => ((zrc [8] l2 h320).bind fun a321 => (bN (f_X9_ask n a321 h320) fun x323 h324 => (if x319 = x323 then f_L_law_L1243 n self l0 l1 l2 l3 l4 h324 else some ((0 : Int32), h324)))))) else (if (x3 &&& (31 : Int32)) = (25 : Int32) then ((zaI [100, 300] l0 (l4 + (1 : Int32)) h).bind fun x327 => ((zaI [100, 300] l0 (l4 + (2 : Int32)) h).bind fun x328 => ((zrc [0] l1 h).bind fun a329 => (bN (f_X1_chance n a329 x327 x328 h) fun x331 h332 => ((zaI [100, 300] l0 (l4 + (1 : Int32)) h332).bind fun x333 => ((zaI [100, 300] l0 (l4 + (2 : Int32)) h332).bind fun x334 => ((zrc [8] l2 h332).bind fun a335 => (bN (f_X9_chance n a335 x333 x334 h332) fun x337 h338 => (if x331 = x337 then f_L_law_L1243 n self l0 l1 l2 l3 l4 h338 else some ((0 : Int32), h338)))))))))) else (if (x3 &&& (31 : Int32)) = (26 : Int32) then ((zaI [100, 300] l0 (l4 + (1 : Int32)) h).bind fun x341 => ((zaI [100, 300] l0 (l4 + (2 : Int32)) h).bind fun x342 => ((zaI [100, 300] l0 (l4 + (3 : Int32)) h).bind fun x343 => ((zaI [100, 300] l0 (l4 + (4 : Int32)) h).bind fun x344 => (bN (f_X0_rests n l1 x341 x342 x343 x344 l3 h) fun x345 h346 => ((zaI [100, 300] l0 (l4 + (1 : Int32)) h346).bind fun x347 => ((zaI [100, 300] l0 (l4 + (2 : Int32)) h346).bind fun x348 => ((zaI [100, 300] l0 (l4 + (3 : Int32)) h346).bind fun x349 => ((zaI [100, 300] l0 (l4 + (4 : Int32)) h346).bind fun x350 => ((zrc [8] l2 h346).bind fun a351 => (bN (f_X9_rests n a351 x347 x348 x349 x350 h346) fun x353 h354 => ((zrc [8] l2 h354).bind fun a355 => (bN (f_X9_thrown n a355 h354) fun x357 h358 => (if x357 = x345 then (if x345 = 0 then ((zaJ [101] l3 (0 : Int32) h358).bind fun x361 => (if (lg_cmp x361 (x353.toInt64)) = 0 then f_L_law_L1113 n self l0 l1 l2 l3 l4 h358 else some ((0 : Int32), h358))) else f_L_law_L1113 n self l0 l1 l2 l3 l4 h358) else some ((0 : Int32), h358))))))))))))))) else (if (x3 &&& (31 : Int32)) = (27 : Int32) then ((zaI [100, 300] l0 (l4 + (1 : Int32)) h).bind fun x364 => ((zaI [100, 300] l0 (l4 + (2 : Int32)) h).bind fun x365 => ((zaI [100, 300] l0 (l4 + (3 : Int32)) h).bind fun x366 => ((zrc [0] l1 h).bind fun a367 => (bN (f_X1_camps n a367 x364 x365 x366 h) fun x369 h370 => ((zaI [100, 300] l0 (l4 + (1 : Int32)) h370).bind fun x371 => ((zaI [100, 300] l0 (l4 + (2 : Int32)) h370).bind fun x372 => ((zaI [100, 300] l0 (l4 + (3 : Int32)) h370).bind fun x373 => ((zrc [8] l2 h370).bind fun a374 => (bN (f_X9_camps n a374 x371 x372 x373 h370) fun x376 h377 => (if x369 = x376 then f_L_law_L1243 n self l0 l1 l2 l3 l4 h377 else some ((0 : Int32), h377)))))))))))) else (if (x3 &&& (31 : Int32)) = (28 : Int32) then ((zaI [100, 300] l0 (l4 + (1 : Int32)) h).bind fun x380 => ((zaI [100, 300] l0 (l4 + (2 : Int32)) h).bind fun x381 => ((zrc [0] l1 h).bind fun a384 => (bN (f_X1_mark n a384 x380 (if x381 = 0 then (0 : Int32) else (1 : Int32)) h) fun x386 h387 => ((zaI [100, 300] l0 (l4 + (1 : Int32)) h387).bind fun x388 => ((zaI [100, 300] l0 (l4 + (2 : Int32)) h387).bind fun x389 => ((zrc [8] l2 h387).bind fun a392 => (bN (f_X9_mark n a392 x388 (if x389 = 0 then (0 : Int32) else (1 : Int32)) h387) fun x394 h395 => (if x386 = x394 then f_L_law_L1243 n self l0 l1 l2 l3 l4 h395 else some ((0 : Int32), h395)))))))))) else (if (x3 &&& (31 : Int32)) = (29 : Int32) then ((zaI [100, 300] l0 (l4 + (1 : Int32)) h).bind fun x398 => ((zrc [0] l1 h).bind fun a399 => (bN (f_X1_count n a399 x398 h) fun x401 h402 => ((zaI [100, 300] l0 (l4 + (1 : Int32)) h402).bind fun x403 => ((zrc [8] l2 h402).bind fun a404 => (bN (f_X9_count n a404 x403 h402) fun x406 h407 => (if x401 = x406 then f_L_law_L1243 n self l0 l1 l2 l3 l4 h407 else some ((0 : Int32), h407)))))))) else f_L_law_L1243 n self l0 l1 l2 l3 l4 h)))))))))))))))))))))))))))))))))
def f_L_law_L23 (n : Nat) (k : Nat) : Option Nat → Option Nat → Option Nat → Option Nat → Int32 → zHp → Option (Int32 × zHp) := zloop (f_L_law_L23_b n ) (fun _ _ _ _ _ _ => none) k
def f_L_law (n : Nat) (l0 : Option Nat) (h : zHp) : Option (Int32 × zHp) :=
  (bN (znew 0 11 (fun k => zdv (tyX1 k)) h) fun a1 h2 => (bN (f_X1_init n a1 h2) fun _ h4 => (bN (znew 8 69 (fun k => zdv (tyX9 k)) h4) fun a5 h6 => (bN (f_X9_init n a5 h6) fun _ h8 => (bN (znewa 101 (zJ 0) (1 : Int32) h8) fun a9 h10 => f_L_law_L23 n n l0 (some a1) (some a5) (some a9) (0 : Int32) h10)))))
theorem w_L_law_L1243 {G : zG} {X : zX} {d : Nat} {h0 : zHp} (C : zC G X x cL_law 7 d (some .boolean) h0) (hd : 139 ≤ d) (n : Nat) (c23 : Option Nat → Option Nat → Option Nat → Option Nat → Int32 → zHp → Option (Int32 × zHp)) (hc23 : ∀ (l0 : Option Nat) (l1 : Option Nat) (l2 : Option Nat) (l3 : Option Nat) (l4 : Int32) (h : zHp), zS G X 7 23 [some (zR l0), some (zR l1), some (zR l2), some (zR l3), some (zI l4), none, none] [] h (c23 l0 l1 l2 l3 l4 h) (li lvI)) (l0 : Option Nat) (l1 : Option Nat) (l2 : Option Nat) (l3 : Option Nat) (l4 : Int32) (h : zHp) : zS G X 7 1243 [some (zR l0), some (zR l1), some (zR l2), some (zR l3), some (zI l4), none, none] [] h (f_L_law_L1243 n c23 l0 l1 l2 l3 l4 h) (li lvI) := by
  unfold f_L_law_L1243
  refine s_iinc (pc := 1243) (v := (7 : Int32)) (L' := [some (zR l0), some (zR l1), some (zR l2), some (zR l3), some (zI (l4 + (7 : Int32))), none, none]) C dL_law_1243 rfl (by decide) (by decide) rfl ?_
  refine s_goto (pc := 1246) (tgt := 23) C dL_law_1246 (by decide) ?_
  exact hc23 l0 l1 l2 l3 (l4 + (7 : Int32)) h
theorem w_L_law_L1113 {G : zG} {X : zX} {d : Nat} {h0 : zHp} (C : zC G X x cL_law 7 d (some .boolean) h0) (hd : 139 ≤ d) (n : Nat) (c23 : Option Nat → Option Nat → Option Nat → Option Nat → Int32 → zHp → Option (Int32 × zHp)) (hc23 : ∀ (l0 : Option Nat) (l1 : Option Nat) (l2 : Option Nat) (l3 : Option Nat) (l4 : Int32) (h : zHp), zS G X 7 23 [some (zR l0), some (zR l1), some (zR l2), some (zR l3), some (zI l4), none, none] [] h (c23 l0 l1 l2 l3 l4 h) (li lvI)) (l0 : Option Nat) (l1 : Option Nat) (l2 : Option Nat) (l3 : Option Nat) (l4 : Int32) (h : zHp) : zS G X 7 1113 [some (zR l0), some (zR l1), some (zR l2), some (zR l3), some (zI l4), none, none] [] h (f_L_law_L1113 n c23 l0 l1 l2 l3 l4 h) (li lvI) := by
  unfold f_L_law_L1113
  refine s_goto (pc := 1113) (tgt := 1243) C dL_law_1113 (by decide) ?_
  exact w_L_law_L1243 C hd n c23 hc23 l0 l1 l2 l3 l4 h
theorem w_L_law_L23_b {G : zG} {X : zX} {d : Nat} {h0 : zHp} (C : zC G X x cL_law 7 d (some .boolean) h0) (hd : 139 ≤ d) (n : Nat) (self : Option Nat → Option Nat → Option Nat → Option Nat → Int32 → zHp → Option (Int32 × zHp)) (hself : ∀ (l0 : Option Nat) (l1 : Option Nat) (l2 : Option Nat) (l3 : Option Nat) (l4 : Int32) (h : zHp), zS G X 7 23 [some (zR l0), some (zR l1), some (zR l2), some (zR l3), some (zI l4), none, none] [] h (self l0 l1 l2 l3 l4 h) (li lvI)) (l0 : Option Nat) (l1 : Option Nat) (l2 : Option Nat) (l3 : Option Nat) (l4 : Int32) (h : zHp) : zS G X 7 23 [some (zR l0), some (zR l1), some (zR l2), some (zR l3), some (zI l4), none, none] [] h (f_L_law_L23_b n  self l0 l1 l2 l3 l4 h) (li lvI) := by
  unfold f_L_law_L23_b
  refine s_iload (pc := 23) C dL_law_23 rfl ?_
  refine s_aload_n (pc := 25) C dL_law_25 rfl ?_
  refine s_alen (pc := 26) C dL_law_26 (fun x1 _ => ?_)
  refine s_bipush (pc := 27) (v := (7 : Int32)) C dL_law_27 (by decide) ?_
  refine s_isub (pc := 29) C dL_law_29 ?_
  refine s_icmp_gt (pc := 30) (tgt := 1249) C dL_law_30 (by decide) (fun cn2 => ?_) (fun cn2 => ?_)
  · refine s_iconst (pc := 1249) (v := (1 : Int32)) C dL_law_1249 (by decide) ?_
    exact s_zret1 (pc := 1250) C (Or.inr rfl) dL_law_1250
  · refine s_aload_n (pc := 33) C dL_law_33 rfl ?_
    refine s_iload (pc := 34) C dL_law_34 rfl ?_
    refine s_iaload (pc := 36) C dL_law_36 (fun x3 _ => ?_)
    refine s_bipush (pc := 37) (v := (31 : Int32)) C dL_law_37 (by decide) ?_
    refine s_iand (pc := 39) C dL_law_39 ?_
    refine zS.ite (fun cn4 => ?_) (fun cn4 => ?_)
    · refine s_tin (pc := 40) (tgt := 176) (off := 136) C (0 : Int32) dL_law_40 cn4 (by decide) (by decide) rfl (by decide) ?_
      refine s_aload_n (pc := 176) C dL_law_176 rfl ?_
      refine s_aload_n (pc := 177) C dL_law_177 rfl ?_
      refine s_iload (pc := 178) C dL_law_178 rfl ?_
      refine s_iconst (pc := 180) (v := (1 : Int32)) C dL_law_180 (by decide) ?_
      refine s_iadd (pc := 181) C dL_law_181 ?_
      refine s_iaload (pc := 182) C dL_law_182 (fun x5 _ => ?_)
      refine s_i2l (pc := 183) C dL_law_183 ?_
      refine s_bipush (pc := 184) (v := (32 : Int32)) C dL_law_184 (by decide) ?_
      refine s_lshl (pc := 186) C dL_law_186 ?_
      refine s_aload_n (pc := 187) C dL_law_187 rfl ?_
      refine s_iload (pc := 188) C dL_law_188 rfl ?_
      refine s_iconst (pc := 190) (v := (2 : Int32)) C dL_law_190 (by decide) ?_
      refine s_iadd (pc := 191) C dL_law_191 ?_
      refine s_iaload (pc := 192) C dL_law_192 (fun x6 _ => ?_)
      refine s_i2l (pc := 193) C dL_law_193 ?_
      refine s_ldc2 (pc := 194) C q2387 dL_law_194 ?_
      refine s_land (pc := 197) C dL_law_197 ?_
      refine s_lor (pc := 198) C dL_law_198 ?_
      refine s_aload_n (pc := 199) C dL_law_199 rfl ?_
      refine s_iload (pc := 200) C dL_law_200 rfl ?_
      refine s_iconst (pc := 202) (v := (3 : Int32)) C dL_law_202 (by decide) ?_
      refine s_iadd (pc := 203) C dL_law_203 ?_
      refine s_iaload (pc := 204) C dL_law_204 (fun x7 _ => ?_)
      refine s_i2l (pc := 205) C dL_law_205 ?_
      refine s_bipush (pc := 206) (v := (32 : Int32)) C dL_law_206 (by decide) ?_
      refine s_lshl (pc := 208) C dL_law_208 ?_
      refine s_aload_n (pc := 209) C dL_law_209 rfl ?_
      refine s_iload (pc := 210) C dL_law_210 rfl ?_
      refine s_iconst (pc := 212) (v := (4 : Int32)) C dL_law_212 (by decide) ?_
      refine s_iadd (pc := 213) C dL_law_213 ?_
      refine s_iaload (pc := 214) C dL_law_214 (fun x8 _ => ?_)
      refine s_i2l (pc := 215) C dL_law_215 ?_
      refine s_ldc2 (pc := 216) C q2387 dL_law_216 ?_
      refine s_land (pc := 219) C dL_law_219 ?_
      refine s_lor (pc := 220) C dL_law_220 ?_
      refine s_aload_n (pc := 221) C dL_law_221 rfl ?_
      refine s_iload (pc := 222) C dL_law_222 rfl ?_
      refine s_iconst (pc := 224) (v := (5 : Int32)) C dL_law_224 (by decide) ?_
      refine s_iadd (pc := 225) C dL_law_225 ?_
      refine s_iaload (pc := 226) C dL_law_226 (fun x9 _ => ?_)
      refine s_i2l (pc := 227) C dL_law_227 ?_
      refine s_bipush (pc := 228) (v := (32 : Int32)) C dL_law_228 (by decide) ?_
      refine s_lshl (pc := 230) C dL_law_230 ?_
      refine s_aload_n (pc := 231) C dL_law_231 rfl ?_
      refine s_iload (pc := 232) C dL_law_232 rfl ?_
      refine s_bipush (pc := 234) (v := (6 : Int32)) C dL_law_234 (by decide) ?_
      refine s_iadd (pc := 236) C dL_law_236 ?_
      refine s_iaload (pc := 237) C dL_law_237 (fun x10 _ => ?_)
      refine s_i2l (pc := 238) C dL_law_238 ?_
      refine s_ldc2 (pc := 239) C q2387 dL_law_239 ?_
      refine s_land (pc := 242) C dL_law_242 ?_
      refine s_lor (pc := 243) C dL_law_243 ?_
      refine s_rc (pc := 244) (fun a11 e_a11 z12 => ?_)
      refine s_callN (pc := 244) (st := []) C lvI (t_X1_feed (d := d - 1) (by omega) n a11 ((zshlJ (x5.toInt64) (32 : Int32)) ||| ((x6.toInt64) &&& (4294967295 : Int64))) ((zshlJ (x7.toInt64) (32 : Int32)) ||| ((x8.toInt64) &&& (4294967295 : Int64))) ((zshlJ (x9.toInt64) (32 : Int32)) ||| ((x10.toInt64) &&& (4294967295 : Int64))) h) (zce C kc_X1_feed (by omega)) (zlkV C kc_X1_feed kv_X0_21_0 dL_law_244 (zmem1 z12) [zJ ((zshlJ (x5.toInt64) (32 : Int32)) ||| ((x6.toInt64) &&& (4294967295 : Int64))), zJ ((zshlJ (x7.toInt64) (32 : Int32)) ||| ((x8.toInt64) &&& (4294967295 : Int64))), zJ ((zshlJ (x9.toInt64) (32 : Int32)) ||| ((x10.toInt64) &&& (4294967295 : Int64)))] rfl (by rw [e_a11]; rfl)) dL_law_244 (Nat.le_of_ble_eq_true rfl) (fun x13 h14 _ => ?_)
      refine s_aload_n (pc := 247) C dL_law_247 rfl ?_
      refine s_aload_n (pc := 248) C dL_law_248 rfl ?_
      refine s_iload (pc := 249) C dL_law_249 rfl ?_
      refine s_iconst (pc := 251) (v := (1 : Int32)) C dL_law_251 (by decide) ?_
      refine s_iadd (pc := 252) C dL_law_252 ?_
      refine s_iaload (pc := 253) C dL_law_253 (fun x15 _ => ?_)
      refine s_i2l (pc := 254) C dL_law_254 ?_
      refine s_bipush (pc := 255) (v := (32 : Int32)) C dL_law_255 (by decide) ?_
      refine s_lshl (pc := 257) C dL_law_257 ?_
      refine s_aload_n (pc := 258) C dL_law_258 rfl ?_
      refine s_iload (pc := 259) C dL_law_259 rfl ?_
      refine s_iconst (pc := 261) (v := (2 : Int32)) C dL_law_261 (by decide) ?_
      refine s_iadd (pc := 262) C dL_law_262 ?_
      refine s_iaload (pc := 263) C dL_law_263 (fun x16 _ => ?_)
      refine s_i2l (pc := 264) C dL_law_264 ?_
      refine s_ldc2 (pc := 265) C q2387 dL_law_265 ?_
      refine s_land (pc := 268) C dL_law_268 ?_
      refine s_lor (pc := 269) C dL_law_269 ?_
      refine s_aload_n (pc := 270) C dL_law_270 rfl ?_
      refine s_iload (pc := 271) C dL_law_271 rfl ?_
      refine s_iconst (pc := 273) (v := (3 : Int32)) C dL_law_273 (by decide) ?_
      refine s_iadd (pc := 274) C dL_law_274 ?_
      refine s_iaload (pc := 275) C dL_law_275 (fun x17 _ => ?_)
      refine s_i2l (pc := 276) C dL_law_276 ?_
      refine s_bipush (pc := 277) (v := (32 : Int32)) C dL_law_277 (by decide) ?_
      refine s_lshl (pc := 279) C dL_law_279 ?_
      refine s_aload_n (pc := 280) C dL_law_280 rfl ?_
      refine s_iload (pc := 281) C dL_law_281 rfl ?_
      refine s_iconst (pc := 283) (v := (4 : Int32)) C dL_law_283 (by decide) ?_
      refine s_iadd (pc := 284) C dL_law_284 ?_
      refine s_iaload (pc := 285) C dL_law_285 (fun x18 _ => ?_)
      refine s_i2l (pc := 286) C dL_law_286 ?_
      refine s_ldc2 (pc := 287) C q2387 dL_law_287 ?_
      refine s_land (pc := 290) C dL_law_290 ?_
      refine s_lor (pc := 291) C dL_law_291 ?_
      refine s_aload_n (pc := 292) C dL_law_292 rfl ?_
      refine s_iload (pc := 293) C dL_law_293 rfl ?_
      refine s_iconst (pc := 295) (v := (5 : Int32)) C dL_law_295 (by decide) ?_
      refine s_iadd (pc := 296) C dL_law_296 ?_
      refine s_iaload (pc := 297) C dL_law_297 (fun x19 _ => ?_)
      refine s_i2l (pc := 298) C dL_law_298 ?_
      refine s_bipush (pc := 299) (v := (32 : Int32)) C dL_law_299 (by decide) ?_
      refine s_lshl (pc := 301) C dL_law_301 ?_
      refine s_aload_n (pc := 302) C dL_law_302 rfl ?_
      refine s_iload (pc := 303) C dL_law_303 rfl ?_
      refine s_bipush (pc := 305) (v := (6 : Int32)) C dL_law_305 (by decide) ?_
      refine s_iadd (pc := 307) C dL_law_307 ?_
      refine s_iaload (pc := 308) C dL_law_308 (fun x20 _ => ?_)
      refine s_i2l (pc := 309) C dL_law_309 ?_
      refine s_ldc2 (pc := 310) C q2387 dL_law_310 ?_
      refine s_land (pc := 313) C dL_law_313 ?_
      refine s_lor (pc := 314) C dL_law_314 ?_
      refine s_rc (pc := 315) (fun a21 e_a21 z22 => ?_)
      refine s_callN (pc := 315) (st := [zI x13]) C lvI (t_X9_feed (d := d - 1) (by omega) n a21 ((zshlJ (x15.toInt64) (32 : Int32)) ||| ((x16.toInt64) &&& (4294967295 : Int64))) ((zshlJ (x17.toInt64) (32 : Int32)) ||| ((x18.toInt64) &&& (4294967295 : Int64))) ((zshlJ (x19.toInt64) (32 : Int32)) ||| ((x20.toInt64) &&& (4294967295 : Int64))) h14) (zce C kc_X9_feed (by omega)) (zlkV C kc_X9_feed kv_X0_25_8 dL_law_315 (zmem1 z22) [zJ ((zshlJ (x15.toInt64) (32 : Int32)) ||| ((x16.toInt64) &&& (4294967295 : Int64))), zJ ((zshlJ (x17.toInt64) (32 : Int32)) ||| ((x18.toInt64) &&& (4294967295 : Int64))), zJ ((zshlJ (x19.toInt64) (32 : Int32)) ||| ((x20.toInt64) &&& (4294967295 : Int64)))] rfl (by rw [e_a21]; rfl)) dL_law_315 (Nat.le_of_ble_eq_true rfl) (fun x23 h24 _ => ?_)
      refine s_icmp_eq (pc := 318) (tgt := 1243) C dL_law_318 (by decide) (fun cn25 => ?_) (fun cn25 => ?_)
      · exact w_L_law_L1243 C hd n self hself l0 l1 l2 l3 l4 h24
      · refine s_iconst (pc := 321) (v := (0 : Int32)) C dL_law_321 (by decide) ?_
        exact s_zret1 (pc := 322) C (Or.inl rfl) dL_law_322
    refine zS.ite (fun cn26 => ?_) (fun cn26 => ?_)
    · refine s_tin (pc := 40) (tgt := 323) (off := 283) C (1 : Int32) dL_law_40 cn26 (by decide) (by decide) rfl (by decide) ?_
      refine s_aload_n (pc := 323) C dL_law_323 rfl ?_
      refine s_rc (pc := 324) (fun a27 e_a27 z28 => ?_)
      refine s_callN (pc := 324) (st := []) C lvI (t_X1_camp (d := d - 1) (by omega) n a27 h) (zceW C kc_X1_camp (by omega)) (zlkVW C kc_X1_camp kv_X0_26_0 dL_law_324 (zmem1 z28) [] rfl (by rw [e_a27]; rfl)) dL_law_324 (Nat.le_of_ble_eq_true rfl) (fun x29 h30 _ => ?_)
      refine s_aload_n (pc := 327) C dL_law_327 rfl ?_
      refine s_rc (pc := 328) (fun a31 e_a31 z32 => ?_)
      refine s_callN (pc := 328) (st := [zI x29]) C lvI (t_X9_camp (d := d - 1) (by omega) n a31 h30) (zce C kc_X9_camp (by omega)) (zlkV C kc_X9_camp kv_X0_30_8 dL_law_328 (zmem1 z32) [] rfl (by rw [e_a31]; rfl)) dL_law_328 (Nat.le_of_ble_eq_true rfl) (fun x33 h34 _ => ?_)
      refine s_icmp_eq (pc := 331) (tgt := 1243) C dL_law_331 (by decide) (fun cn35 => ?_) (fun cn35 => ?_)
      · exact w_L_law_L1243 C hd n self hself l0 l1 l2 l3 l4 h34
      · refine s_iconst (pc := 334) (v := (0 : Int32)) C dL_law_334 (by decide) ?_
        exact s_zret1 (pc := 335) C (Or.inl rfl) dL_law_335
    refine zS.ite (fun cn36 => ?_) (fun cn36 => ?_)
    · refine s_tin (pc := 40) (tgt := 336) (off := 296) C (2 : Int32) dL_law_40 cn36 (by decide) (by decide) rfl (by decide) ?_
      refine s_aload_n (pc := 336) C dL_law_336 rfl ?_
      refine s_rc (pc := 337) (fun a37 e_a37 z38 => ?_)
      refine s_callN (pc := 337) (st := []) C lvI (t_X1_day (d := d - 1) (by omega) n a37 h) (zceW C kc_X1_day (by omega)) (zlkVW C kc_X1_day kv_X0_31_0 dL_law_337 (zmem1 z38) [] rfl (by rw [e_a37]; rfl)) dL_law_337 (Nat.le_of_ble_eq_true rfl) (fun x39 h40 _ => ?_)
      refine s_aload_n (pc := 340) C dL_law_340 rfl ?_
      refine s_rc (pc := 341) (fun a41 e_a41 z42 => ?_)
      refine s_callN (pc := 341) (st := [zI x39]) C lvI (t_X9_day (d := d - 1) (by omega) n a41 h40) (zce C kc_X9_day (by omega)) (zlkV C kc_X9_day kv_X0_34_8 dL_law_341 (zmem1 z42) [] rfl (by rw [e_a41]; rfl)) dL_law_341 (Nat.le_of_ble_eq_true rfl) (fun x43 h44 _ => ?_)
      refine s_icmp_eq (pc := 344) (tgt := 1243) C dL_law_344 (by decide) (fun cn45 => ?_) (fun cn45 => ?_)
      · exact w_L_law_L1243 C hd n self hself l0 l1 l2 l3 l4 h44
      · refine s_iconst (pc := 347) (v := (0 : Int32)) C dL_law_347 (by decide) ?_
        exact s_zret1 (pc := 348) C (Or.inl rfl) dL_law_348
    refine zS.ite (fun cn46 => ?_) (fun cn46 => ?_)
    · refine s_tin (pc := 40) (tgt := 349) (off := 309) C (3 : Int32) dL_law_40 cn46 (by decide) (by decide) rfl (by decide) ?_
      refine s_aload_n (pc := 349) C dL_law_349 rfl ?_
      refine s_aload_n (pc := 350) C dL_law_350 rfl ?_
      refine s_iload (pc := 351) C dL_law_351 rfl ?_
      refine s_iconst (pc := 353) (v := (1 : Int32)) C dL_law_353 (by decide) ?_
      refine s_iadd (pc := 354) C dL_law_354 ?_
      refine s_iaload (pc := 355) C dL_law_355 (fun x47 _ => ?_)
      refine s_aload_n (pc := 356) C dL_law_356 rfl ?_
      refine s_iload (pc := 357) C dL_law_357 rfl ?_
      refine s_iconst (pc := 359) (v := (2 : Int32)) C dL_law_359 (by decide) ?_
      refine s_iadd (pc := 360) C dL_law_360 ?_
      refine s_iaload (pc := 361) C dL_law_361 (fun x48 _ => ?_)
      refine s_rc (pc := 362) (fun a49 e_a49 z50 => ?_)
      refine s_callN (pc := 362) (st := []) C lvI (t_X1_person (d := d - 1) (by omega) n a49 x47 x48 h) (zce C kc_X1_person (by omega)) (zlkV C kc_X1_person kv_X0_35_0 dL_law_362 (zmem1 z50) [zI x47, zI x48] rfl (by rw [e_a49]; rfl)) dL_law_362 (Nat.le_of_ble_eq_true rfl) (fun x51 h52 _ => ?_)
      refine s_aload_n (pc := 365) C dL_law_365 rfl ?_
      refine s_aload_n (pc := 366) C dL_law_366 rfl ?_
      refine s_iload (pc := 367) C dL_law_367 rfl ?_
      refine s_iconst (pc := 369) (v := (1 : Int32)) C dL_law_369 (by decide) ?_
      refine s_iadd (pc := 370) C dL_law_370 ?_
      refine s_iaload (pc := 371) C dL_law_371 (fun x53 _ => ?_)
      refine s_aload_n (pc := 372) C dL_law_372 rfl ?_
      refine s_iload (pc := 373) C dL_law_373 rfl ?_
      refine s_iconst (pc := 375) (v := (2 : Int32)) C dL_law_375 (by decide) ?_
      refine s_iadd (pc := 376) C dL_law_376 ?_
      refine s_iaload (pc := 377) C dL_law_377 (fun x54 _ => ?_)
      refine s_rc (pc := 378) (fun a55 e_a55 z56 => ?_)
      refine s_callN (pc := 378) (st := [zI x51]) C lvI (t_X9_person (d := d - 1) (by omega) n a55 x53 x54 h52) (zce C kc_X9_person (by omega)) (zlkV C kc_X9_person kv_X0_39_8 dL_law_378 (zmem1 z56) [zI x53, zI x54] rfl (by rw [e_a55]; rfl)) dL_law_378 (Nat.le_of_ble_eq_true rfl) (fun x57 h58 _ => ?_)
      refine s_icmp_eq (pc := 381) (tgt := 1243) C dL_law_381 (by decide) (fun cn59 => ?_) (fun cn59 => ?_)
      · exact w_L_law_L1243 C hd n self hself l0 l1 l2 l3 l4 h58
      · refine s_iconst (pc := 384) (v := (0 : Int32)) C dL_law_384 (by decide) ?_
        exact s_zret1 (pc := 385) C (Or.inl rfl) dL_law_385
    refine zS.ite (fun cn60 => ?_) (fun cn60 => ?_)
    · refine s_tin (pc := 40) (tgt := 386) (off := 346) C (4 : Int32) dL_law_40 cn60 (by decide) (by decide) rfl (by decide) ?_
      refine s_aload_n (pc := 386) C dL_law_386 rfl ?_
      refine s_aload_n (pc := 387) C dL_law_387 rfl ?_
      refine s_iload (pc := 388) C dL_law_388 rfl ?_
      refine s_iconst (pc := 390) (v := (1 : Int32)) C dL_law_390 (by decide) ?_
      refine s_iadd (pc := 391) C dL_law_391 ?_
      refine s_iaload (pc := 392) C dL_law_392 (fun x61 _ => ?_)
      refine s_aload_n (pc := 393) C dL_law_393 rfl ?_
      refine s_iload (pc := 394) C dL_law_394 rfl ?_
      refine s_iconst (pc := 396) (v := (2 : Int32)) C dL_law_396 (by decide) ?_
      refine s_iadd (pc := 397) C dL_law_397 ?_
      refine s_iaload (pc := 398) C dL_law_398 (fun x62 _ => ?_)
      refine s_rc (pc := 399) (fun a63 e_a63 z64 => ?_)
      refine s_callN (pc := 399) (st := []) C lvI (t_X1_scout (d := d - 1) (by omega) n a63 x61 x62 h) (zce C kc_X1_scout (by omega)) (zlkV C kc_X1_scout kv_X0_40_0 dL_law_399 (zmem1 z64) [zI x61, zI x62] rfl (by rw [e_a63]; rfl)) dL_law_399 (Nat.le_of_ble_eq_true rfl) (fun x65 h66 _ => ?_)
      refine s_aload_n (pc := 402) C dL_law_402 rfl ?_
      refine s_aload_n (pc := 403) C dL_law_403 rfl ?_
      refine s_iload (pc := 404) C dL_law_404 rfl ?_
      refine s_iconst (pc := 406) (v := (1 : Int32)) C dL_law_406 (by decide) ?_
      refine s_iadd (pc := 407) C dL_law_407 ?_
      refine s_iaload (pc := 408) C dL_law_408 (fun x67 _ => ?_)
      refine s_aload_n (pc := 409) C dL_law_409 rfl ?_
      refine s_iload (pc := 410) C dL_law_410 rfl ?_
      refine s_iconst (pc := 412) (v := (2 : Int32)) C dL_law_412 (by decide) ?_
      refine s_iadd (pc := 413) C dL_law_413 ?_
      refine s_iaload (pc := 414) C dL_law_414 (fun x68 _ => ?_)
      refine s_rc (pc := 415) (fun a69 e_a69 z70 => ?_)
      refine s_callN (pc := 415) (st := [zI x65]) C lvI (t_X9_scout (d := d - 1) (by omega) n a69 x67 x68 h66) (zce C kc_X9_scout (by omega)) (zlkV C kc_X9_scout kv_X0_43_8 dL_law_415 (zmem1 z70) [zI x67, zI x68] rfl (by rw [e_a69]; rfl)) dL_law_415 (Nat.le_of_ble_eq_true rfl) (fun x71 h72 _ => ?_)
      refine s_icmp_eq (pc := 418) (tgt := 1243) C dL_law_418 (by decide) (fun cn73 => ?_) (fun cn73 => ?_)
      · exact w_L_law_L1243 C hd n self hself l0 l1 l2 l3 l4 h72
      · refine s_iconst (pc := 421) (v := (0 : Int32)) C dL_law_421 (by decide) ?_
        exact s_zret1 (pc := 422) C (Or.inl rfl) dL_law_422
    refine zS.ite (fun cn74 => ?_) (fun cn74 => ?_)
    · refine s_tin (pc := 40) (tgt := 423) (off := 383) C (5 : Int32) dL_law_40 cn74 (by decide) (by decide) rfl (by decide) ?_
      refine s_aload_n (pc := 423) C dL_law_423 rfl ?_
      refine s_aload_n (pc := 424) C dL_law_424 rfl ?_
      refine s_iload (pc := 425) C dL_law_425 rfl ?_
      refine s_iconst (pc := 427) (v := (1 : Int32)) C dL_law_427 (by decide) ?_
      refine s_iadd (pc := 428) C dL_law_428 ?_
      refine s_iaload (pc := 429) C dL_law_429 (fun x75 _ => ?_)
      refine s_aload_n (pc := 430) C dL_law_430 rfl ?_
      refine s_iload (pc := 431) C dL_law_431 rfl ?_
      refine s_iconst (pc := 433) (v := (2 : Int32)) C dL_law_433 (by decide) ?_
      refine s_iadd (pc := 434) C dL_law_434 ?_
      refine s_iaload (pc := 435) C dL_law_435 (fun x76 _ => ?_)
      refine s_rc (pc := 436) (fun a77 e_a77 z78 => ?_)
      refine s_callN (pc := 436) (st := []) C lvI (t_X1_creep (d := d - 1) (by omega) n a77 x75 x76 h) (zce C kc_X1_creep (by omega)) (zlkV C kc_X1_creep kv_X0_44_0 dL_law_436 (zmem1 z78) [zI x75, zI x76] rfl (by rw [e_a77]; rfl)) dL_law_436 (Nat.le_of_ble_eq_true rfl) (fun x79 h80 _ => ?_)
      refine s_aload_n (pc := 439) C dL_law_439 rfl ?_
      refine s_aload_n (pc := 440) C dL_law_440 rfl ?_
      refine s_iload (pc := 441) C dL_law_441 rfl ?_
      refine s_iconst (pc := 443) (v := (1 : Int32)) C dL_law_443 (by decide) ?_
      refine s_iadd (pc := 444) C dL_law_444 ?_
      refine s_iaload (pc := 445) C dL_law_445 (fun x81 _ => ?_)
      refine s_aload_n (pc := 446) C dL_law_446 rfl ?_
      refine s_iload (pc := 447) C dL_law_447 rfl ?_
      refine s_iconst (pc := 449) (v := (2 : Int32)) C dL_law_449 (by decide) ?_
      refine s_iadd (pc := 450) C dL_law_450 ?_
      refine s_iaload (pc := 451) C dL_law_451 (fun x82 _ => ?_)
      refine s_rc (pc := 452) (fun a83 e_a83 z84 => ?_)
      refine s_callN (pc := 452) (st := [zI x79]) C lvI (t_X9_creep (d := d - 1) (by omega) n a83 x81 x82 h80) (zce C kc_X9_creep (by omega)) (zlkV C kc_X9_creep kv_X0_47_8 dL_law_452 (zmem1 z84) [zI x81, zI x82] rfl (by rw [e_a83]; rfl)) dL_law_452 (Nat.le_of_ble_eq_true rfl) (fun x85 h86 _ => ?_)
      refine s_icmp_eq (pc := 455) (tgt := 1243) C dL_law_455 (by decide) (fun cn87 => ?_) (fun cn87 => ?_)
      · exact w_L_law_L1243 C hd n self hself l0 l1 l2 l3 l4 h86
      · refine s_iconst (pc := 458) (v := (0 : Int32)) C dL_law_458 (by decide) ?_
        exact s_zret1 (pc := 459) C (Or.inl rfl) dL_law_459
    refine zS.ite (fun cn88 => ?_) (fun cn88 => ?_)
    · refine s_tin (pc := 40) (tgt := 460) (off := 420) C (6 : Int32) dL_law_40 cn88 (by decide) (by decide) rfl (by decide) ?_
      refine s_aload_n (pc := 460) C dL_law_460 rfl ?_
      refine s_aload_n (pc := 461) C dL_law_461 rfl ?_
      refine s_iload (pc := 462) C dL_law_462 rfl ?_
      refine s_iconst (pc := 464) (v := (1 : Int32)) C dL_law_464 (by decide) ?_
      refine s_iadd (pc := 465) C dL_law_465 ?_
      refine s_iaload (pc := 466) C dL_law_466 (fun x89 _ => ?_)
      refine s_rc (pc := 467) (fun a90 e_a90 z91 => ?_)
      refine s_callN (pc := 467) (st := []) C lvI (t_X1_off (d := d - 1) (by omega) n a90 x89 h) (zce C kc_X1_off (by omega)) (zlkV C kc_X1_off kv_X0_48_0 dL_law_467 (zmem1 z91) [zI x89] rfl (by rw [e_a90]; rfl)) dL_law_467 (Nat.le_of_ble_eq_true rfl) (fun x92 h93 _ => ?_)
      refine s_aload_n (pc := 470) C dL_law_470 rfl ?_
      refine s_aload_n (pc := 471) C dL_law_471 rfl ?_
      refine s_iload (pc := 472) C dL_law_472 rfl ?_
      refine s_iconst (pc := 474) (v := (1 : Int32)) C dL_law_474 (by decide) ?_
      refine s_iadd (pc := 475) C dL_law_475 ?_
      refine s_iaload (pc := 476) C dL_law_476 (fun x94 _ => ?_)
      refine s_rc (pc := 477) (fun a95 e_a95 z96 => ?_)
      refine s_callN (pc := 477) (st := [zI x92]) C lvI (t_X9_off (d := d - 1) (by omega) n a95 x94 h93) (zce C kc_X9_off (by omega)) (zlkV C kc_X9_off kv_X0_52_8 dL_law_477 (zmem1 z96) [zI x94] rfl (by rw [e_a95]; rfl)) dL_law_477 (Nat.le_of_ble_eq_true rfl) (fun x97 h98 _ => ?_)
      refine s_icmp_eq (pc := 480) (tgt := 1243) C dL_law_480 (by decide) (fun cn99 => ?_) (fun cn99 => ?_)
      · exact w_L_law_L1243 C hd n self hself l0 l1 l2 l3 l4 h98
      · refine s_iconst (pc := 483) (v := (0 : Int32)) C dL_law_483 (by decide) ?_
        exact s_zret1 (pc := 484) C (Or.inl rfl) dL_law_484
    refine zS.ite (fun cn100 => ?_) (fun cn100 => ?_)
    · refine s_tin (pc := 40) (tgt := 485) (off := 445) C (7 : Int32) dL_law_40 cn100 (by decide) (by decide) rfl (by decide) ?_
      refine s_aload_n (pc := 485) C dL_law_485 rfl ?_
      refine s_rc (pc := 486) (fun a101 e_a101 z102 => ?_)
      refine s_callN (pc := 486) (st := []) C lvI (t_X1_step (d := d - 1) (by omega) n a101 h) (zce C kc_X1_step (by omega)) (zlkV C kc_X1_step kv_X0_53_0 dL_law_486 (zmem1 z102) [] rfl (by rw [e_a101]; rfl)) dL_law_486 (Nat.le_of_ble_eq_true rfl) (fun x103 h104 _ => ?_)
      refine s_aload_n (pc := 489) C dL_law_489 rfl ?_
      refine s_rc (pc := 490) (fun a105 e_a105 z106 => ?_)
      refine s_callN (pc := 490) (st := [zI x103]) C lvI (t_X9_step (d := d - 1) (by omega) n a105 h104) (zce C kc_X9_step (by omega)) (zlkV C kc_X9_step kv_X0_56_8 dL_law_490 (zmem1 z106) [] rfl (by rw [e_a105]; rfl)) dL_law_490 (Nat.le_of_ble_eq_true rfl) (fun x107 h108 _ => ?_)
      refine s_icmp_eq (pc := 493) (tgt := 1243) C dL_law_493 (by decide) (fun cn109 => ?_) (fun cn109 => ?_)
      · exact w_L_law_L1243 C hd n self hself l0 l1 l2 l3 l4 h108
      · refine s_iconst (pc := 496) (v := (0 : Int32)) C dL_law_496 (by decide) ?_
        exact s_zret1 (pc := 497) C (Or.inl rfl) dL_law_497
    refine zS.ite (fun cn110 => ?_) (fun cn110 => ?_)
    · refine s_tin (pc := 40) (tgt := 498) (off := 458) C (8 : Int32) dL_law_40 cn110 (by decide) (by decide) rfl (by decide) ?_
      refine s_aload_n (pc := 498) C dL_law_498 rfl ?_
      refine s_rc (pc := 499) (fun a111 e_a111 z112 => ?_)
      refine s_callN (pc := 499) (st := []) C lvI (t_X1_undo (d := d - 1) (by omega) n a111 h) (zce C kc_X1_undo (by omega)) (zlkV C kc_X1_undo kv_X0_57_0 dL_law_499 (zmem1 z112) [] rfl (by rw [e_a111]; rfl)) dL_law_499 (Nat.le_of_ble_eq_true rfl) (fun x113 h114 _ => ?_)
      refine s_aload_n (pc := 502) C dL_law_502 rfl ?_
      refine s_rc (pc := 503) (fun a115 e_a115 z116 => ?_)
      refine s_callN (pc := 503) (st := [zI x113]) C lvI (t_X9_undo (d := d - 1) (by omega) n a115 h114) (zce C kc_X9_undo (by omega)) (zlkV C kc_X9_undo kv_X0_61_8 dL_law_503 (zmem1 z116) [] rfl (by rw [e_a115]; rfl)) dL_law_503 (Nat.le_of_ble_eq_true rfl) (fun x117 h118 _ => ?_)
      refine s_icmp_eq (pc := 506) (tgt := 1243) C dL_law_506 (by decide) (fun cn119 => ?_) (fun cn119 => ?_)
      · exact w_L_law_L1243 C hd n self hself l0 l1 l2 l3 l4 h118
      · refine s_iconst (pc := 509) (v := (0 : Int32)) C dL_law_509 (by decide) ?_
        exact s_zret1 (pc := 510) C (Or.inl rfl) dL_law_510
    refine zS.ite (fun cn120 => ?_) (fun cn120 => ?_)
    · refine s_tin (pc := 40) (tgt := 511) (off := 471) C (9 : Int32) dL_law_40 cn120 (by decide) (by decide) rfl (by decide) ?_
      refine s_aload_n (pc := 511) C dL_law_511 rfl ?_
      refine s_aload_n (pc := 512) C dL_law_512 rfl ?_
      refine s_iload (pc := 513) C dL_law_513 rfl ?_
      refine s_iconst (pc := 515) (v := (1 : Int32)) C dL_law_515 (by decide) ?_
      refine s_iadd (pc := 516) C dL_law_516 ?_
      refine s_iaload (pc := 517) C dL_law_517 (fun x121 _ => ?_)
      refine s_rc (pc := 518) (fun a122 e_a122 z123 => ?_)
      refine s_callN (pc := 518) (st := []) C lvI (t_X1_judged (d := d - 1) (by omega) n a122 x121 h) (zce C kc_X1_judged (by omega)) (zlkV C kc_X1_judged kv_X0_62_0 dL_law_518 (zmem1 z123) [zI x121] rfl (by rw [e_a122]; rfl)) dL_law_518 (Nat.le_of_ble_eq_true rfl) (fun x124 h125 _ => ?_)
      refine s_aload_n (pc := 521) C dL_law_521 rfl ?_
      refine s_aload_n (pc := 522) C dL_law_522 rfl ?_
      refine s_iload (pc := 523) C dL_law_523 rfl ?_
      refine s_iconst (pc := 525) (v := (1 : Int32)) C dL_law_525 (by decide) ?_
      refine s_iadd (pc := 526) C dL_law_526 ?_
      refine s_iaload (pc := 527) C dL_law_527 (fun x126 _ => ?_)
      refine s_rc (pc := 528) (fun a127 e_a127 z128 => ?_)
      refine s_callN (pc := 528) (st := [zI x124]) C lvI (t_X9_judged (d := d - 1) (by omega) n a127 x126 h125) (zce C kc_X9_judged (by omega)) (zlkV C kc_X9_judged kv_X0_66_8 dL_law_528 (zmem1 z128) [zI x126] rfl (by rw [e_a127]; rfl)) dL_law_528 (Nat.le_of_ble_eq_true rfl) (fun x129 h130 _ => ?_)
      refine s_icmp_eq (pc := 531) (tgt := 1243) C dL_law_531 (by decide) (fun cn131 => ?_) (fun cn131 => ?_)
      · exact w_L_law_L1243 C hd n self hself l0 l1 l2 l3 l4 h130
      · refine s_iconst (pc := 534) (v := (0 : Int32)) C dL_law_534 (by decide) ?_
        exact s_zret1 (pc := 535) C (Or.inl rfl) dL_law_535
    refine zS.ite (fun cn132 => ?_) (fun cn132 => ?_)
    · refine s_tin (pc := 40) (tgt := 536) (off := 496) C (10 : Int32) dL_law_40 cn132 (by decide) (by decide) rfl (by decide) ?_
      refine s_aload_n (pc := 536) C dL_law_536 rfl ?_
      refine s_aload_n (pc := 537) C dL_law_537 rfl ?_
      refine s_iload (pc := 538) C dL_law_538 rfl ?_
      refine s_iconst (pc := 540) (v := (1 : Int32)) C dL_law_540 (by decide) ?_
      refine s_iadd (pc := 541) C dL_law_541 ?_
      refine s_iaload (pc := 542) C dL_law_542 (fun x133 _ => ?_)
      refine s_aload_n (pc := 543) C dL_law_543 rfl ?_
      refine s_iload (pc := 544) C dL_law_544 rfl ?_
      refine s_iconst (pc := 546) (v := (2 : Int32)) C dL_law_546 (by decide) ?_
      refine s_iadd (pc := 547) C dL_law_547 ?_
      refine s_iaload (pc := 548) C dL_law_548 (fun x134 _ => ?_)
      refine s_rc (pc := 549) (fun a135 e_a135 z136 => ?_)
      refine s_callN (pc := 549) (st := []) C lvI (t_X1_later (d := d - 1) (by omega) n a135 x133 x134 h) (zce C kc_X1_later (by omega)) (zlkV C kc_X1_later kv_X0_67_0 dL_law_549 (zmem1 z136) [zI x133, zI x134] rfl (by rw [e_a135]; rfl)) dL_law_549 (Nat.le_of_ble_eq_true rfl) (fun x137 h138 _ => ?_)
      refine s_aload_n (pc := 552) C dL_law_552 rfl ?_
      refine s_aload_n (pc := 553) C dL_law_553 rfl ?_
      refine s_iload (pc := 554) C dL_law_554 rfl ?_
      refine s_iconst (pc := 556) (v := (1 : Int32)) C dL_law_556 (by decide) ?_
      refine s_iadd (pc := 557) C dL_law_557 ?_
      refine s_iaload (pc := 558) C dL_law_558 (fun x139 _ => ?_)
      refine s_aload_n (pc := 559) C dL_law_559 rfl ?_
      refine s_iload (pc := 560) C dL_law_560 rfl ?_
      refine s_iconst (pc := 562) (v := (2 : Int32)) C dL_law_562 (by decide) ?_
      refine s_iadd (pc := 563) C dL_law_563 ?_
      refine s_iaload (pc := 564) C dL_law_564 (fun x140 _ => ?_)
      refine s_rc (pc := 565) (fun a141 e_a141 z142 => ?_)
      refine s_callN (pc := 565) (st := [zI x137]) C lvI (t_X9_later (d := d - 1) (by omega) n a141 x139 x140 h138) (zce C kc_X9_later (by omega)) (zlkV C kc_X9_later kv_X0_70_8 dL_law_565 (zmem1 z142) [zI x139, zI x140] rfl (by rw [e_a141]; rfl)) dL_law_565 (Nat.le_of_ble_eq_true rfl) (fun x143 h144 _ => ?_)
      refine s_icmp_eq (pc := 568) (tgt := 1243) C dL_law_568 (by decide) (fun cn145 => ?_) (fun cn145 => ?_)
      · exact w_L_law_L1243 C hd n self hself l0 l1 l2 l3 l4 h144
      · refine s_iconst (pc := 571) (v := (0 : Int32)) C dL_law_571 (by decide) ?_
        exact s_zret1 (pc := 572) C (Or.inl rfl) dL_law_572
    refine zS.ite (fun cn146 => ?_) (fun cn146 => ?_)
    · refine s_tin (pc := 40) (tgt := 573) (off := 533) C (11 : Int32) dL_law_40 cn146 (by decide) (by decide) rfl (by decide) ?_
      refine s_aload_n (pc := 573) C dL_law_573 rfl ?_
      refine s_aload_n (pc := 574) C dL_law_574 rfl ?_
      refine s_iload (pc := 575) C dL_law_575 rfl ?_
      refine s_iconst (pc := 577) (v := (1 : Int32)) C dL_law_577 (by decide) ?_
      refine s_iadd (pc := 578) C dL_law_578 ?_
      refine s_iaload (pc := 579) C dL_law_579 (fun x147 _ => ?_)
      refine s_aload_n (pc := 580) C dL_law_580 rfl ?_
      refine s_iload (pc := 581) C dL_law_581 rfl ?_
      refine s_iconst (pc := 583) (v := (2 : Int32)) C dL_law_583 (by decide) ?_
      refine s_iadd (pc := 584) C dL_law_584 ?_
      refine s_iaload (pc := 585) C dL_law_585 (fun x148 _ => ?_)
      refine s_rc (pc := 586) (fun a149 e_a149 z150 => ?_)
      refine s_callN (pc := 586) (st := []) C lvI (t_X1_would (d := d - 1) (by omega) n a149 x147 x148 h) (zce C kc_X1_would (by omega)) (zlkV C kc_X1_would kv_X0_71_0 dL_law_586 (zmem1 z150) [zI x147, zI x148] rfl (by rw [e_a149]; rfl)) dL_law_586 (Nat.le_of_ble_eq_true rfl) (fun x151 h152 _ => ?_)
      refine s_aload_n (pc := 589) C dL_law_589 rfl ?_
      refine s_aload_n (pc := 590) C dL_law_590 rfl ?_
      refine s_iload (pc := 591) C dL_law_591 rfl ?_
      refine s_iconst (pc := 593) (v := (1 : Int32)) C dL_law_593 (by decide) ?_
      refine s_iadd (pc := 594) C dL_law_594 ?_
      refine s_iaload (pc := 595) C dL_law_595 (fun x153 _ => ?_)
      refine s_aload_n (pc := 596) C dL_law_596 rfl ?_
      refine s_iload (pc := 597) C dL_law_597 rfl ?_
      refine s_iconst (pc := 599) (v := (2 : Int32)) C dL_law_599 (by decide) ?_
      refine s_iadd (pc := 600) C dL_law_600 ?_
      refine s_iaload (pc := 601) C dL_law_601 (fun x154 _ => ?_)
      refine s_rc (pc := 602) (fun a155 e_a155 z156 => ?_)
      refine s_callN (pc := 602) (st := [zI x151]) C lvI (t_X9_would (d := d - 1) (by omega) n a155 x153 x154 h152) (zce C kc_X9_would (by omega)) (zlkV C kc_X9_would kv_X0_74_8 dL_law_602 (zmem1 z156) [zI x153, zI x154] rfl (by rw [e_a155]; rfl)) dL_law_602 (Nat.le_of_ble_eq_true rfl) (fun x157 h158 _ => ?_)
      refine s_icmp_eq (pc := 605) (tgt := 1243) C dL_law_605 (by decide) (fun cn159 => ?_) (fun cn159 => ?_)
      · exact w_L_law_L1243 C hd n self hself l0 l1 l2 l3 l4 h158
      · refine s_iconst (pc := 608) (v := (0 : Int32)) C dL_law_608 (by decide) ?_
        exact s_zret1 (pc := 609) C (Or.inl rfl) dL_law_609
    refine zS.ite (fun cn160 => ?_) (fun cn160 => ?_)
    · refine s_tin (pc := 40) (tgt := 610) (off := 570) C (12 : Int32) dL_law_40 cn160 (by decide) (by decide) rfl (by decide) ?_
      refine s_aload_n (pc := 610) C dL_law_610 rfl ?_
      refine s_aload_n (pc := 611) C dL_law_611 rfl ?_
      refine s_iload (pc := 612) C dL_law_612 rfl ?_
      refine s_iconst (pc := 614) (v := (1 : Int32)) C dL_law_614 (by decide) ?_
      refine s_iadd (pc := 615) C dL_law_615 ?_
      refine s_iaload (pc := 616) C dL_law_616 (fun x161 _ => ?_)
      refine s_aload_n (pc := 617) C dL_law_617 rfl ?_
      refine s_iload (pc := 618) C dL_law_618 rfl ?_
      refine s_iconst (pc := 620) (v := (2 : Int32)) C dL_law_620 (by decide) ?_
      refine s_iadd (pc := 621) C dL_law_621 ?_
      refine s_iaload (pc := 622) C dL_law_622 (fun x162 _ => ?_)
      refine s_rc (pc := 623) (fun a163 e_a163 z164 => ?_)
      refine s_callN (pc := 623) (st := []) C lvI (t_X1_quiet (d := d - 1) (by omega) n a163 x161 x162 h) (zce C kc_X1_quiet (by omega)) (zlkV C kc_X1_quiet kv_X0_75_0 dL_law_623 (zmem1 z164) [zI x161, zI x162] rfl (by rw [e_a163]; rfl)) dL_law_623 (Nat.le_of_ble_eq_true rfl) (fun x165 h166 _ => ?_)
      refine s_aload_n (pc := 626) C dL_law_626 rfl ?_
      refine s_aload_n (pc := 627) C dL_law_627 rfl ?_
      refine s_iload (pc := 628) C dL_law_628 rfl ?_
      refine s_iconst (pc := 630) (v := (1 : Int32)) C dL_law_630 (by decide) ?_
      refine s_iadd (pc := 631) C dL_law_631 ?_
      refine s_iaload (pc := 632) C dL_law_632 (fun x167 _ => ?_)
      refine s_aload_n (pc := 633) C dL_law_633 rfl ?_
      refine s_iload (pc := 634) C dL_law_634 rfl ?_
      refine s_iconst (pc := 636) (v := (2 : Int32)) C dL_law_636 (by decide) ?_
      refine s_iadd (pc := 637) C dL_law_637 ?_
      refine s_iaload (pc := 638) C dL_law_638 (fun x168 _ => ?_)
      refine s_rc (pc := 639) (fun a169 e_a169 z170 => ?_)
      refine s_callN (pc := 639) (st := [zI x165]) C lvI (t_X9_quiet (d := d - 1) (by omega) n a169 x167 x168 h166) (zce C kc_X9_quiet (by omega)) (zlkV C kc_X9_quiet kv_X0_78_8 dL_law_639 (zmem1 z170) [zI x167, zI x168] rfl (by rw [e_a169]; rfl)) dL_law_639 (Nat.le_of_ble_eq_true rfl) (fun x171 h172 _ => ?_)
      refine s_icmp_eq (pc := 642) (tgt := 1243) C dL_law_642 (by decide) (fun cn173 => ?_) (fun cn173 => ?_)
      · exact w_L_law_L1243 C hd n self hself l0 l1 l2 l3 l4 h172
      · refine s_iconst (pc := 645) (v := (0 : Int32)) C dL_law_645 (by decide) ?_
        exact s_zret1 (pc := 646) C (Or.inl rfl) dL_law_646
    refine zS.ite (fun cn174 => ?_) (fun cn174 => ?_)
    · refine s_tin (pc := 40) (tgt := 647) (off := 607) C (13 : Int32) dL_law_40 cn174 (by decide) (by decide) rfl (by decide) ?_
      refine s_aload_n (pc := 647) C dL_law_647 rfl ?_
      refine s_aload_n (pc := 648) C dL_law_648 rfl ?_
      refine s_iload (pc := 649) C dL_law_649 rfl ?_
      refine s_iconst (pc := 651) (v := (1 : Int32)) C dL_law_651 (by decide) ?_
      refine s_iadd (pc := 652) C dL_law_652 ?_
      refine s_iaload (pc := 653) C dL_law_653 (fun x175 _ => ?_)
      refine s_rc (pc := 654) (fun a176 e_a176 z177 => ?_)
      refine s_callN (pc := 654) (st := []) C lvI (t_X1_bush (d := d - 1) (by omega) n a176 x175 h) (zce C kc_X1_bush (by omega)) (zlkV C kc_X1_bush kv_X0_79_0 dL_law_654 (zmem1 z177) [zI x175] rfl (by rw [e_a176]; rfl)) dL_law_654 (Nat.le_of_ble_eq_true rfl) (fun x178 h179 _ => ?_)
      refine s_aload_n (pc := 657) C dL_law_657 rfl ?_
      refine s_aload_n (pc := 658) C dL_law_658 rfl ?_
      refine s_iload (pc := 659) C dL_law_659 rfl ?_
      refine s_iconst (pc := 661) (v := (1 : Int32)) C dL_law_661 (by decide) ?_
      refine s_iadd (pc := 662) C dL_law_662 ?_
      refine s_iaload (pc := 663) C dL_law_663 (fun x180 _ => ?_)
      refine s_rc (pc := 664) (fun a181 e_a181 z182 => ?_)
      refine s_callN (pc := 664) (st := [zI x178]) C lvI (t_X9_bush (d := d - 1) (by omega) n a181 x180 h179) (zce C kc_X9_bush (by omega)) (zlkV C kc_X9_bush kv_X0_82_8 dL_law_664 (zmem1 z182) [zI x180] rfl (by rw [e_a181]; rfl)) dL_law_664 (Nat.le_of_ble_eq_true rfl) (fun x183 h184 _ => ?_)
      refine s_icmp_eq (pc := 667) (tgt := 1243) C dL_law_667 (by decide) (fun cn185 => ?_) (fun cn185 => ?_)
      · exact w_L_law_L1243 C hd n self hself l0 l1 l2 l3 l4 h184
      · refine s_iconst (pc := 670) (v := (0 : Int32)) C dL_law_670 (by decide) ?_
        exact s_zret1 (pc := 671) C (Or.inl rfl) dL_law_671
    refine zS.ite (fun cn186 => ?_) (fun cn186 => ?_)
    · refine s_tin (pc := 40) (tgt := 672) (off := 632) C (14 : Int32) dL_law_40 cn186 (by decide) (by decide) rfl (by decide) ?_
      refine s_aload_n (pc := 672) C dL_law_672 rfl ?_
      refine s_aload_n (pc := 673) C dL_law_673 rfl ?_
      refine s_iload (pc := 674) C dL_law_674 rfl ?_
      refine s_iconst (pc := 676) (v := (1 : Int32)) C dL_law_676 (by decide) ?_
      refine s_iadd (pc := 677) C dL_law_677 ?_
      refine s_iaload (pc := 678) C dL_law_678 (fun x187 _ => ?_)
      refine s_aload_n (pc := 679) C dL_law_679 rfl ?_
      refine s_iload (pc := 680) C dL_law_680 rfl ?_
      refine s_iconst (pc := 682) (v := (2 : Int32)) C dL_law_682 (by decide) ?_
      refine s_iadd (pc := 683) C dL_law_683 ?_
      refine s_iaload (pc := 684) C dL_law_684 (fun x188 _ => ?_)
      refine s_rc (pc := 685) (fun a189 e_a189 z190 => ?_)
      refine s_callN (pc := 685) (st := []) C lvI (t_X1_shortest (d := d - 1) (by omega) n a189 x187 x188 h) (zce C kc_X1_shortest (by omega)) (zlkV C kc_X1_shortest kv_X0_83_0 dL_law_685 (zmem1 z190) [zI x187, zI x188] rfl (by rw [e_a189]; rfl)) dL_law_685 (Nat.le_of_ble_eq_true rfl) (fun x191 h192 _ => ?_)
      refine s_aload_n (pc := 688) C dL_law_688 rfl ?_
      refine s_aload_n (pc := 689) C dL_law_689 rfl ?_
      refine s_iload (pc := 690) C dL_law_690 rfl ?_
      refine s_iconst (pc := 692) (v := (1 : Int32)) C dL_law_692 (by decide) ?_
      refine s_iadd (pc := 693) C dL_law_693 ?_
      refine s_iaload (pc := 694) C dL_law_694 (fun x193 _ => ?_)
      refine s_aload_n (pc := 695) C dL_law_695 rfl ?_
      refine s_iload (pc := 696) C dL_law_696 rfl ?_
      refine s_iconst (pc := 698) (v := (2 : Int32)) C dL_law_698 (by decide) ?_
      refine s_iadd (pc := 699) C dL_law_699 ?_
      refine s_iaload (pc := 700) C dL_law_700 (fun x194 _ => ?_)
      refine s_rc (pc := 701) (fun a195 e_a195 z196 => ?_)
      refine s_callN (pc := 701) (st := [zI x191]) C lvI (t_X9_shortest (d := d - 1) (by omega) n a195 x193 x194 h192) (zce C kc_X9_shortest (by omega)) (zlkV C kc_X9_shortest kv_X0_86_8 dL_law_701 (zmem1 z196) [zI x193, zI x194] rfl (by rw [e_a195]; rfl)) dL_law_701 (Nat.le_of_ble_eq_true rfl) (fun x197 h198 _ => ?_)
      refine s_icmp_eq (pc := 704) (tgt := 1243) C dL_law_704 (by decide) (fun cn199 => ?_) (fun cn199 => ?_)
      · exact w_L_law_L1243 C hd n self hself l0 l1 l2 l3 l4 h198
      · refine s_iconst (pc := 707) (v := (0 : Int32)) C dL_law_707 (by decide) ?_
        exact s_zret1 (pc := 708) C (Or.inl rfl) dL_law_708
    refine zS.ite (fun cn200 => ?_) (fun cn200 => ?_)
    · refine s_tin (pc := 40) (tgt := 709) (off := 669) C (15 : Int32) dL_law_40 cn200 (by decide) (by decide) rfl (by decide) ?_
      refine s_aload_n (pc := 709) C dL_law_709 rfl ?_
      refine s_aload_n (pc := 710) C dL_law_710 rfl ?_
      refine s_iload (pc := 711) C dL_law_711 rfl ?_
      refine s_iconst (pc := 713) (v := (1 : Int32)) C dL_law_713 (by decide) ?_
      refine s_iadd (pc := 714) C dL_law_714 ?_
      refine s_iaload (pc := 715) C dL_law_715 (fun x201 _ => ?_)
      refine s_aload_n (pc := 716) C dL_law_716 rfl ?_
      refine s_iload (pc := 717) C dL_law_717 rfl ?_
      refine s_iconst (pc := 719) (v := (2 : Int32)) C dL_law_719 (by decide) ?_
      refine s_iadd (pc := 720) C dL_law_720 ?_
      refine s_iaload (pc := 721) C dL_law_721 (fun x202 _ => ?_)
      refine s_rc (pc := 722) (fun a203 e_a203 z204 => ?_)
      refine s_callN (pc := 722) (st := []) C lvI (t_X1_first (d := d - 1) (by omega) n a203 x201 x202 h) (zce C kc_X1_first (by omega)) (zlkV C kc_X1_first kv_X0_87_0 dL_law_722 (zmem1 z204) [zI x201, zI x202] rfl (by rw [e_a203]; rfl)) dL_law_722 (Nat.le_of_ble_eq_true rfl) (fun x205 h206 _ => ?_)
      refine s_aload_n (pc := 725) C dL_law_725 rfl ?_
      refine s_aload_n (pc := 726) C dL_law_726 rfl ?_
      refine s_iload (pc := 727) C dL_law_727 rfl ?_
      refine s_iconst (pc := 729) (v := (1 : Int32)) C dL_law_729 (by decide) ?_
      refine s_iadd (pc := 730) C dL_law_730 ?_
      refine s_iaload (pc := 731) C dL_law_731 (fun x207 _ => ?_)
      refine s_aload_n (pc := 732) C dL_law_732 rfl ?_
      refine s_iload (pc := 733) C dL_law_733 rfl ?_
      refine s_iconst (pc := 735) (v := (2 : Int32)) C dL_law_735 (by decide) ?_
      refine s_iadd (pc := 736) C dL_law_736 ?_
      refine s_iaload (pc := 737) C dL_law_737 (fun x208 _ => ?_)
      refine s_rc (pc := 738) (fun a209 e_a209 z210 => ?_)
      refine s_callN (pc := 738) (st := [zI x205]) C lvI (t_X9_first (d := d - 1) (by omega) n a209 x207 x208 h206) (zce C kc_X9_first (by omega)) (zlkV C kc_X9_first kv_X0_90_8 dL_law_738 (zmem1 z210) [zI x207, zI x208] rfl (by rw [e_a209]; rfl)) dL_law_738 (Nat.le_of_ble_eq_true rfl) (fun x211 h212 _ => ?_)
      refine s_icmp_eq (pc := 741) (tgt := 1243) C dL_law_741 (by decide) (fun cn213 => ?_) (fun cn213 => ?_)
      · exact w_L_law_L1243 C hd n self hself l0 l1 l2 l3 l4 h212
      · refine s_iconst (pc := 744) (v := (0 : Int32)) C dL_law_744 (by decide) ?_
        exact s_zret1 (pc := 745) C (Or.inl rfl) dL_law_745
    refine zS.ite (fun cn214 => ?_) (fun cn214 => ?_)
    · refine s_tin (pc := 40) (tgt := 746) (off := 706) C (16 : Int32) dL_law_40 cn214 (by decide) (by decide) rfl (by decide) ?_
      refine s_aload_n (pc := 746) C dL_law_746 rfl ?_
      refine s_aload_n (pc := 747) C dL_law_747 rfl ?_
      refine s_iload (pc := 748) C dL_law_748 rfl ?_
      refine s_iconst (pc := 750) (v := (1 : Int32)) C dL_law_750 (by decide) ?_
      refine s_iadd (pc := 751) C dL_law_751 ?_
      refine s_iaload (pc := 752) C dL_law_752 (fun x215 _ => ?_)
      refine s_rc (pc := 753) (fun a216 e_a216 z217 => ?_)
      refine s_callN (pc := 753) (st := []) C lvI (t_X1_soonest (d := d - 1) (by omega) n a216 x215 h) (zce C kc_X1_soonest (by omega)) (zlkV C kc_X1_soonest kv_X0_91_0 dL_law_753 (zmem1 z217) [zI x215] rfl (by rw [e_a216]; rfl)) dL_law_753 (Nat.le_of_ble_eq_true rfl) (fun x218 h219 _ => ?_)
      refine s_aload_n (pc := 756) C dL_law_756 rfl ?_
      refine s_aload_n (pc := 757) C dL_law_757 rfl ?_
      refine s_iload (pc := 758) C dL_law_758 rfl ?_
      refine s_iconst (pc := 760) (v := (1 : Int32)) C dL_law_760 (by decide) ?_
      refine s_iadd (pc := 761) C dL_law_761 ?_
      refine s_iaload (pc := 762) C dL_law_762 (fun x220 _ => ?_)
      refine s_rc (pc := 763) (fun a221 e_a221 z222 => ?_)
      refine s_callN (pc := 763) (st := [zI x218]) C lvI (t_X9_soonest (d := d - 1) (by omega) n a221 x220 h219) (zce C kc_X9_soonest (by omega)) (zlkV C kc_X9_soonest kv_X0_94_8 dL_law_763 (zmem1 z222) [zI x220] rfl (by rw [e_a221]; rfl)) dL_law_763 (Nat.le_of_ble_eq_true rfl) (fun x223 h224 _ => ?_)
      refine s_icmp_eq (pc := 766) (tgt := 1243) C dL_law_766 (by decide) (fun cn225 => ?_) (fun cn225 => ?_)
      · exact w_L_law_L1243 C hd n self hself l0 l1 l2 l3 l4 h224
      · refine s_iconst (pc := 769) (v := (0 : Int32)) C dL_law_769 (by decide) ?_
        exact s_zret1 (pc := 770) C (Or.inl rfl) dL_law_770
    refine zS.ite (fun cn226 => ?_) (fun cn226 => ?_)
    · refine s_tin (pc := 40) (tgt := 771) (off := 731) C (17 : Int32) dL_law_40 cn226 (by decide) (by decide) rfl (by decide) ?_
      refine s_aload_n (pc := 771) C dL_law_771 rfl ?_
      refine s_aload_n (pc := 772) C dL_law_772 rfl ?_
      refine s_iload (pc := 773) C dL_law_773 rfl ?_
      refine s_iconst (pc := 775) (v := (1 : Int32)) C dL_law_775 (by decide) ?_
      refine s_iadd (pc := 776) C dL_law_776 ?_
      refine s_iaload (pc := 777) C dL_law_777 (fun x227 _ => ?_)
      refine s_rc (pc := 778) (fun a228 e_a228 z229 => ?_)
      refine s_callN (pc := 778) (st := []) C lvI (t_X1_worth (d := d - 1) (by omega) n a228 x227 h) (zce C kc_X1_worth (by omega)) (zlkV C kc_X1_worth kv_X0_95_0 dL_law_778 (zmem1 z229) [zI x227] rfl (by rw [e_a228]; rfl)) dL_law_778 (Nat.le_of_ble_eq_true rfl) (fun x230 h231 _ => ?_)
      refine s_aload_n (pc := 781) C dL_law_781 rfl ?_
      refine s_aload_n (pc := 782) C dL_law_782 rfl ?_
      refine s_iload (pc := 783) C dL_law_783 rfl ?_
      refine s_iconst (pc := 785) (v := (1 : Int32)) C dL_law_785 (by decide) ?_
      refine s_iadd (pc := 786) C dL_law_786 ?_
      refine s_iaload (pc := 787) C dL_law_787 (fun x232 _ => ?_)
      refine s_rc (pc := 788) (fun a233 e_a233 z234 => ?_)
      refine s_callN (pc := 788) (st := [zI x230]) C lvI (t_X9_worth (d := d - 1) (by omega) n a233 x232 h231) (zce C kc_X9_worth (by omega)) (zlkV C kc_X9_worth kv_X0_98_8 dL_law_788 (zmem1 z234) [zI x232] rfl (by rw [e_a233]; rfl)) dL_law_788 (Nat.le_of_ble_eq_true rfl) (fun x235 h236 _ => ?_)
      refine s_icmp_eq (pc := 791) (tgt := 1243) C dL_law_791 (by decide) (fun cn237 => ?_) (fun cn237 => ?_)
      · exact w_L_law_L1243 C hd n self hself l0 l1 l2 l3 l4 h236
      · refine s_iconst (pc := 794) (v := (0 : Int32)) C dL_law_794 (by decide) ?_
        exact s_zret1 (pc := 795) C (Or.inl rfl) dL_law_795
    refine zS.ite (fun cn238 => ?_) (fun cn238 => ?_)
    · refine s_tin (pc := 40) (tgt := 796) (off := 756) C (18 : Int32) dL_law_40 cn238 (by decide) (by decide) rfl (by decide) ?_
      refine s_aload_n (pc := 796) C dL_law_796 rfl ?_
      refine s_aload_n (pc := 797) C dL_law_797 rfl ?_
      refine s_iload (pc := 798) C dL_law_798 rfl ?_
      refine s_iconst (pc := 800) (v := (1 : Int32)) C dL_law_800 (by decide) ?_
      refine s_iadd (pc := 801) C dL_law_801 ?_
      refine s_iaload (pc := 802) C dL_law_802 (fun x239 _ => ?_)
      refine s_aload_n (pc := 803) C dL_law_803 rfl ?_
      refine s_iload (pc := 804) C dL_law_804 rfl ?_
      refine s_iconst (pc := 806) (v := (2 : Int32)) C dL_law_806 (by decide) ?_
      refine s_iadd (pc := 807) C dL_law_807 ?_
      refine s_iaload (pc := 808) C dL_law_808 (fun x240 _ => ?_)
      refine s_rc (pc := 809) (fun a241 e_a241 z242 => ?_)
      refine s_callN (pc := 809) (st := []) C lvI (t_X1_team (d := d - 1) (by omega) n a241 x239 x240 h) (zce C kc_X1_team (by omega)) (zlkV C kc_X1_team kv_X0_99_0 dL_law_809 (zmem1 z242) [zI x239, zI x240] rfl (by rw [e_a241]; rfl)) dL_law_809 (Nat.le_of_ble_eq_true rfl) (fun x243 h244 _ => ?_)
      refine s_aload_n (pc := 812) C dL_law_812 rfl ?_
      refine s_aload_n (pc := 813) C dL_law_813 rfl ?_
      refine s_iload (pc := 814) C dL_law_814 rfl ?_
      refine s_iconst (pc := 816) (v := (1 : Int32)) C dL_law_816 (by decide) ?_
      refine s_iadd (pc := 817) C dL_law_817 ?_
      refine s_iaload (pc := 818) C dL_law_818 (fun x245 _ => ?_)
      refine s_aload_n (pc := 819) C dL_law_819 rfl ?_
      refine s_iload (pc := 820) C dL_law_820 rfl ?_
      refine s_iconst (pc := 822) (v := (2 : Int32)) C dL_law_822 (by decide) ?_
      refine s_iadd (pc := 823) C dL_law_823 ?_
      refine s_iaload (pc := 824) C dL_law_824 (fun x246 _ => ?_)
      refine s_rc (pc := 825) (fun a247 e_a247 z248 => ?_)
      refine s_callN (pc := 825) (st := [zI x243]) C lvI (t_X9_team (d := d - 1) (by omega) n a247 x245 x246 h244) (zce C kc_X9_team (by omega)) (zlkV C kc_X9_team kv_X0_102_8 dL_law_825 (zmem1 z248) [zI x245, zI x246] rfl (by rw [e_a247]; rfl)) dL_law_825 (Nat.le_of_ble_eq_true rfl) (fun x249 h250 _ => ?_)
      refine s_icmp_eq (pc := 828) (tgt := 1243) C dL_law_828 (by decide) (fun cn251 => ?_) (fun cn251 => ?_)
      · exact w_L_law_L1243 C hd n self hself l0 l1 l2 l3 l4 h250
      · refine s_iconst (pc := 831) (v := (0 : Int32)) C dL_law_831 (by decide) ?_
        exact s_zret1 (pc := 832) C (Or.inl rfl) dL_law_832
    refine zS.ite (fun cn252 => ?_) (fun cn252 => ?_)
    · refine s_tin (pc := 40) (tgt := 833) (off := 793) C (19 : Int32) dL_law_40 cn252 (by decide) (by decide) rfl (by decide) ?_
      refine s_aload_n (pc := 833) C dL_law_833 rfl ?_
      refine s_aload_n (pc := 834) C dL_law_834 rfl ?_
      refine s_iload (pc := 835) C dL_law_835 rfl ?_
      refine s_iconst (pc := 837) (v := (1 : Int32)) C dL_law_837 (by decide) ?_
      refine s_iadd (pc := 838) C dL_law_838 ?_
      refine s_iaload (pc := 839) C dL_law_839 (fun x253 _ => ?_)
      refine s_aload_n (pc := 840) C dL_law_840 rfl ?_
      refine s_iload (pc := 841) C dL_law_841 rfl ?_
      refine s_iconst (pc := 843) (v := (2 : Int32)) C dL_law_843 (by decide) ?_
      refine s_iadd (pc := 844) C dL_law_844 ?_
      refine s_iaload (pc := 845) C dL_law_845 (fun x254 _ => ?_)
      refine s_rc (pc := 846) (fun a255 e_a255 z256 => ?_)
      refine s_callN (pc := 846) (st := []) C lvI (t_X1_meets (d := d - 1) (by omega) n a255 x253 x254 h) (zce C kc_X1_meets (by omega)) (zlkV C kc_X1_meets kv_X0_103_0 dL_law_846 (zmem1 z256) [zI x253, zI x254] rfl (by rw [e_a255]; rfl)) dL_law_846 (Nat.le_of_ble_eq_true rfl) (fun x257 h258 _ => ?_)
      refine s_aload_n (pc := 849) C dL_law_849 rfl ?_
      refine s_aload_n (pc := 850) C dL_law_850 rfl ?_
      refine s_iload (pc := 851) C dL_law_851 rfl ?_
      refine s_iconst (pc := 853) (v := (1 : Int32)) C dL_law_853 (by decide) ?_
      refine s_iadd (pc := 854) C dL_law_854 ?_
      refine s_iaload (pc := 855) C dL_law_855 (fun x259 _ => ?_)
      refine s_aload_n (pc := 856) C dL_law_856 rfl ?_
      refine s_iload (pc := 857) C dL_law_857 rfl ?_
      refine s_iconst (pc := 859) (v := (2 : Int32)) C dL_law_859 (by decide) ?_
      refine s_iadd (pc := 860) C dL_law_860 ?_
      refine s_iaload (pc := 861) C dL_law_861 (fun x260 _ => ?_)
      refine s_rc (pc := 862) (fun a261 e_a261 z262 => ?_)
      refine s_callN (pc := 862) (st := [zI x257]) C lvI (t_X9_meets (d := d - 1) (by omega) n a261 x259 x260 h258) (zce C kc_X9_meets (by omega)) (zlkV C kc_X9_meets kv_X0_106_8 dL_law_862 (zmem1 z262) [zI x259, zI x260] rfl (by rw [e_a261]; rfl)) dL_law_862 (Nat.le_of_ble_eq_true rfl) (fun x263 h264 _ => ?_)
      refine s_icmp_eq (pc := 865) (tgt := 1243) C dL_law_865 (by decide) (fun cn265 => ?_) (fun cn265 => ?_)
      · exact w_L_law_L1243 C hd n self hself l0 l1 l2 l3 l4 h264
      · refine s_iconst (pc := 868) (v := (0 : Int32)) C dL_law_868 (by decide) ?_
        exact s_zret1 (pc := 869) C (Or.inl rfl) dL_law_869
    refine zS.ite (fun cn266 => ?_) (fun cn266 => ?_)
    · refine s_tin (pc := 40) (tgt := 870) (off := 830) C (20 : Int32) dL_law_40 cn266 (by decide) (by decide) rfl (by decide) ?_
      refine s_aload_n (pc := 870) C dL_law_870 rfl ?_
      refine s_rc (pc := 871) (fun a267 e_a267 z268 => ?_)
      refine s_callN (pc := 871) (st := []) C lvI (t_X1_alike (d := d - 1) (by omega) n a267 h) (zce C kc_X1_alike (by omega)) (zlkV C kc_X1_alike kv_X0_107_0 dL_law_871 (zmem1 z268) [] rfl (by rw [e_a267]; rfl)) dL_law_871 (Nat.le_of_ble_eq_true rfl) (fun x269 h270 _ => ?_)
      refine s_aload_n (pc := 874) C dL_law_874 rfl ?_
      refine s_rc (pc := 875) (fun a271 e_a271 z272 => ?_)
      refine s_callN (pc := 875) (st := [zI x269]) C lvI (t_X9_alike (d := d - 1) (by omega) n a271 h270) (zce C kc_X9_alike (by omega)) (zlkV C kc_X9_alike kv_X0_110_8 dL_law_875 (zmem1 z272) [] rfl (by rw [e_a271]; rfl)) dL_law_875 (Nat.le_of_ble_eq_true rfl) (fun x273 h274 _ => ?_)
      refine s_icmp_eq (pc := 878) (tgt := 1243) C dL_law_878 (by decide) (fun cn275 => ?_) (fun cn275 => ?_)
      · exact w_L_law_L1243 C hd n self hself l0 l1 l2 l3 l4 h274
      · refine s_iconst (pc := 881) (v := (0 : Int32)) C dL_law_881 (by decide) ?_
        exact s_zret1 (pc := 882) C (Or.inl rfl) dL_law_882
    refine zS.ite (fun cn276 => ?_) (fun cn276 => ?_)
    · refine s_tin (pc := 40) (tgt := 883) (off := 843) C (21 : Int32) dL_law_40 cn276 (by decide) (by decide) rfl (by decide) ?_
      refine s_aload_n (pc := 883) C dL_law_883 rfl ?_
      refine s_rc (pc := 884) (fun a277 e_a277 z278 => ?_)
      refine s_callN (pc := 884) (st := []) C lvI (t_X1_camped (d := d - 1) (by omega) n a277 h) (zce C kc_X1_camped (by omega)) (zlkV C kc_X1_camped kv_X0_111_0 dL_law_884 (zmem1 z278) [] rfl (by rw [e_a277]; rfl)) dL_law_884 (Nat.le_of_ble_eq_true rfl) (fun x279 h280 _ => ?_)
      refine s_aload_n (pc := 887) C dL_law_887 rfl ?_
      refine s_rc (pc := 888) (fun a281 e_a281 z282 => ?_)
      refine s_callN (pc := 888) (st := [zI x279]) C lvI (t_X9_camped (d := d - 1) (by omega) n a281 h280) (zce C kc_X9_camped (by omega)) (zlkV C kc_X9_camped kv_X0_114_8 dL_law_888 (zmem1 z282) [] rfl (by rw [e_a281]; rfl)) dL_law_888 (Nat.le_of_ble_eq_true rfl) (fun x283 h284 _ => ?_)
      refine s_icmp_eq (pc := 891) (tgt := 1243) C dL_law_891 (by decide) (fun cn285 => ?_) (fun cn285 => ?_)
      · exact w_L_law_L1243 C hd n self hself l0 l1 l2 l3 l4 h284
      · refine s_iconst (pc := 894) (v := (0 : Int32)) C dL_law_894 (by decide) ?_
        exact s_zret1 (pc := 895) C (Or.inl rfl) dL_law_895
    refine zS.ite (fun cn286 => ?_) (fun cn286 => ?_)
    · refine s_tin (pc := 40) (tgt := 896) (off := 856) C (22 : Int32) dL_law_40 cn286 (by decide) (by decide) rfl (by decide) ?_
      refine s_aload_n (pc := 896) C dL_law_896 rfl ?_
      refine s_aload_n (pc := 897) C dL_law_897 rfl ?_
      refine s_iload (pc := 898) C dL_law_898 rfl ?_
      refine s_iconst (pc := 900) (v := (1 : Int32)) C dL_law_900 (by decide) ?_
      refine s_iadd (pc := 901) C dL_law_901 ?_
      refine s_iaload (pc := 902) C dL_law_902 (fun x287 _ => ?_)
      refine s_aload_n (pc := 903) C dL_law_903 rfl ?_
      refine s_iload (pc := 904) C dL_law_904 rfl ?_
      refine s_iconst (pc := 906) (v := (2 : Int32)) C dL_law_906 (by decide) ?_
      refine s_iadd (pc := 907) C dL_law_907 ?_
      refine s_iaload (pc := 908) C dL_law_908 (fun x288 _ => ?_)
      refine s_aload_n (pc := 909) C dL_law_909 rfl ?_
      refine s_iload (pc := 910) C dL_law_910 rfl ?_
      refine s_iconst (pc := 912) (v := (3 : Int32)) C dL_law_912 (by decide) ?_
      refine s_iadd (pc := 913) C dL_law_913 ?_
      refine s_iaload (pc := 914) C dL_law_914 (fun x289 _ => ?_)
      refine zjS (σ := Int32) (if x289 = 0 then (0 : Int32) else (1 : Int32)) 923 (fun v291 => [some (zR l0), some (zR l1), some (zR l2), some (zR l3), some (zI l4), none, none]) (fun v291 => [zI v291, zI x288, zI x287, zR l1]) ?_ (fun j => ?_)
      · refine s_rc (pc := 923) (fun a292 e_a292 z293 => ?_)
        refine s_callN (pc := 923) (st := []) C lvI (t_X1_say (d := d - 1) (by omega) n a292 x287 x288 (if x289 = 0 then (0 : Int32) else (1 : Int32)) h) (zce C kc_X1_say (by omega)) (zlkV C kc_X1_say kv_X0_115_0 dL_law_923 (zmem1 z293) [zI x287, zI x288, zI (if x289 = 0 then (0 : Int32) else (1 : Int32))] rfl (by rw [e_a292]; rfl)) dL_law_923 (Nat.le_of_ble_eq_true rfl) (fun x294 h295 _ => ?_)
        refine s_aload_n (pc := 926) C dL_law_926 rfl ?_
        refine s_aload_n (pc := 927) C dL_law_927 rfl ?_
        refine s_iload (pc := 928) C dL_law_928 rfl ?_
        refine s_iconst (pc := 930) (v := (1 : Int32)) C dL_law_930 (by decide) ?_
        refine s_iadd (pc := 931) C dL_law_931 ?_
        refine s_iaload (pc := 932) C dL_law_932 (fun x296 _ => ?_)
        refine s_aload_n (pc := 933) C dL_law_933 rfl ?_
        refine s_iload (pc := 934) C dL_law_934 rfl ?_
        refine s_iconst (pc := 936) (v := (2 : Int32)) C dL_law_936 (by decide) ?_
        refine s_iadd (pc := 937) C dL_law_937 ?_
        refine s_iaload (pc := 938) C dL_law_938 (fun x297 _ => ?_)
        refine s_aload_n (pc := 939) C dL_law_939 rfl ?_
        refine s_iload (pc := 940) C dL_law_940 rfl ?_
        refine s_iconst (pc := 942) (v := (3 : Int32)) C dL_law_942 (by decide) ?_
        refine s_iadd (pc := 943) C dL_law_943 ?_
        refine s_iaload (pc := 944) C dL_law_944 (fun x298 _ => ?_)
        refine zjS (σ := Int32) (if x298 = 0 then (0 : Int32) else (1 : Int32)) 953 (fun v300 => [some (zR l0), some (zR l1), some (zR l2), some (zR l3), some (zI l4), none, none]) (fun v300 => [zI v300, zI x297, zI x296, zR l2, zI x294]) ?_ (fun j => ?_)
        · refine s_rc (pc := 953) (fun a301 e_a301 z302 => ?_)
          refine s_callN (pc := 953) (st := [zI x294]) C lvI (t_X9_say (d := d - 1) (by omega) n a301 x296 x297 (if x298 = 0 then (0 : Int32) else (1 : Int32)) h295) (zce C kc_X9_say (by omega)) (zlkV C kc_X9_say kv_X0_119_8 dL_law_953 (zmem1 z302) [zI x296, zI x297, zI (if x298 = 0 then (0 : Int32) else (1 : Int32))] rfl (by rw [e_a301]; rfl)) dL_law_953 (Nat.le_of_ble_eq_true rfl) (fun x303 h304 _ => ?_)
          refine s_icmp_eq (pc := 956) (tgt := 1243) C dL_law_956 (by decide) (fun cn305 => ?_) (fun cn305 => ?_)
          · exact w_L_law_L1243 C hd n self hself l0 l1 l2 l3 l4 h304
          · refine s_iconst (pc := 959) (v := (0 : Int32)) C dL_law_959 (by decide) ?_
            exact s_zret1 (pc := 960) C (Or.inl rfl) dL_law_960
        · refine b_if_eq (pc := 945) (tgt := 952) C dL_law_945 (by decide) (fun cn299 => ?_) (fun cn299 => ?_)
          · refine s_iconst (pc := 952) (v := (0 : Int32)) C dL_law_952 (by decide) ?_
            refine zS.weak [true, true, true, true, true, false, false] rfl (j _ (if_pos cn299).symm)
          · refine s_iconst (pc := 948) (v := (1 : Int32)) C dL_law_948 (by decide) ?_
            refine s_goto (pc := 949) (tgt := 953) C dL_law_949 (by decide) ?_
            refine zS.weak [true, true, true, true, true, false, false] rfl (j _ (if_neg cn299).symm)
      · refine b_if_eq (pc := 915) (tgt := 922) C dL_law_915 (by decide) (fun cn290 => ?_) (fun cn290 => ?_)
        · refine s_iconst (pc := 922) (v := (0 : Int32)) C dL_law_922 (by decide) ?_
          refine zS.weak [true, true, true, true, true, false, false] rfl (j _ (if_pos cn290).symm)
        · refine s_iconst (pc := 918) (v := (1 : Int32)) C dL_law_918 (by decide) ?_
          refine s_goto (pc := 919) (tgt := 923) C dL_law_919 (by decide) ?_
          refine zS.weak [true, true, true, true, true, false, false] rfl (j _ (if_neg cn290).symm)
    refine zS.ite (fun cn306 => ?_) (fun cn306 => ?_)
    · refine s_tin (pc := 40) (tgt := 961) (off := 921) C (23 : Int32) dL_law_40 cn306 (by decide) (by decide) rfl (by decide) ?_
      refine s_aload_n (pc := 961) C dL_law_961 rfl ?_
      refine s_rc (pc := 962) (fun a307 e_a307 z308 => ?_)
      refine s_callN (pc := 962) (st := []) C lvI (t_X1_who (d := d - 1) (by omega) n a307 h) (zce C kc_X1_who (by omega)) (zlkV C kc_X1_who kv_X0_120_0 dL_law_962 (zmem1 z308) [] rfl (by rw [e_a307]; rfl)) dL_law_962 (Nat.le_of_ble_eq_true rfl) (fun x309 h310 _ => ?_)
      refine s_aload_n (pc := 965) C dL_law_965 rfl ?_
      refine s_rc (pc := 966) (fun a311 e_a311 z312 => ?_)
      refine s_callN (pc := 966) (st := [zI x309]) C lvI (t_X9_who (d := d - 1) (by omega) n a311 h310) (zce C kc_X9_who (by omega)) (zlkV C kc_X9_who kv_X0_123_8 dL_law_966 (zmem1 z312) [] rfl (by rw [e_a311]; rfl)) dL_law_966 (Nat.le_of_ble_eq_true rfl) (fun x313 h314 _ => ?_)
      refine s_icmp_eq (pc := 969) (tgt := 1243) C dL_law_969 (by decide) (fun cn315 => ?_) (fun cn315 => ?_)
      · exact w_L_law_L1243 C hd n self hself l0 l1 l2 l3 l4 h314
      · refine s_iconst (pc := 972) (v := (0 : Int32)) C dL_law_972 (by decide) ?_
        exact s_zret1 (pc := 973) C (Or.inl rfl) dL_law_973
    refine zS.ite (fun cn316 => ?_) (fun cn316 => ?_)
    · refine s_tin (pc := 40) (tgt := 974) (off := 934) C (24 : Int32) dL_law_40 cn316 (by decide) (by decide) rfl (by decide) ?_
      refine s_aload_n (pc := 974) C dL_law_974 rfl ?_
      refine s_rc (pc := 975) (fun a317 e_a317 z318 => ?_)
      refine s_callN (pc := 975) (st := []) C lvI (t_X1_ask (d := d - 1) (by omega) n a317 h) (zce C kc_X1_ask (by omega)) (zlkV C kc_X1_ask kv_X0_124_0 dL_law_975 (zmem1 z318) [] rfl (by rw [e_a317]; rfl)) dL_law_975 (Nat.le_of_ble_eq_true rfl) (fun x319 h320 _ => ?_)
      refine s_aload_n (pc := 978) C dL_law_978 rfl ?_
      refine s_rc (pc := 979) (fun a321 e_a321 z322 => ?_)
      refine s_callN (pc := 979) (st := [zI x319]) C lvI (t_X9_ask (d := d - 1) (by omega) n a321 h320) (zce C kc_X9_ask (by omega)) (zlkV C kc_X9_ask kv_X0_127_8 dL_law_979 (zmem1 z322) [] rfl (by rw [e_a321]; rfl)) dL_law_979 (Nat.le_of_ble_eq_true rfl) (fun x323 h324 _ => ?_)
      refine s_icmp_eq (pc := 982) (tgt := 1243) C dL_law_982 (by decide) (fun cn325 => ?_) (fun cn325 => ?_)
      · exact w_L_law_L1243 C hd n self hself l0 l1 l2 l3 l4 h324
      · refine s_iconst (pc := 985) (v := (0 : Int32)) C dL_law_985 (by decide) ?_
        exact s_zret1 (pc := 986) C (Or.inl rfl) dL_law_986
    refine zS.ite (fun cn326 => ?_) (fun cn326 => ?_)
    · refine s_tin (pc := 40) (tgt := 987) (off := 947) C (25 : Int32) dL_law_40 cn326 (by decide) (by decide) rfl (by decide) ?_
      refine s_aload_n (pc := 987) C dL_law_987 rfl ?_
      refine s_aload_n (pc := 988) C dL_law_988 rfl ?_
      refine s_iload (pc := 989) C dL_law_989 rfl ?_
      refine s_iconst (pc := 991) (v := (1 : Int32)) C dL_law_991 (by decide) ?_
      refine s_iadd (pc := 992) C dL_law_992 ?_
      refine s_iaload (pc := 993) C dL_law_993 (fun x327 _ => ?_)
      refine s_aload_n (pc := 994) C dL_law_994 rfl ?_
      refine s_iload (pc := 995) C dL_law_995 rfl ?_
      refine s_iconst (pc := 997) (v := (2 : Int32)) C dL_law_997 (by decide) ?_
      refine s_iadd (pc := 998) C dL_law_998 ?_
      refine s_iaload (pc := 999) C dL_law_999 (fun x328 _ => ?_)
      refine s_rc (pc := 1000) (fun a329 e_a329 z330 => ?_)
      refine s_callN (pc := 1000) (st := []) C lvI (t_X1_chance (d := d - 1) (by omega) n a329 x327 x328 h) (zce C kc_X1_chance (by omega)) (zlkV C kc_X1_chance kv_X0_128_0 dL_law_1000 (zmem1 z330) [zI x327, zI x328] rfl (by rw [e_a329]; rfl)) dL_law_1000 (Nat.le_of_ble_eq_true rfl) (fun x331 h332 _ => ?_)
      refine s_aload_n (pc := 1003) C dL_law_1003 rfl ?_
      refine s_aload_n (pc := 1004) C dL_law_1004 rfl ?_
      refine s_iload (pc := 1005) C dL_law_1005 rfl ?_
      refine s_iconst (pc := 1007) (v := (1 : Int32)) C dL_law_1007 (by decide) ?_
      refine s_iadd (pc := 1008) C dL_law_1008 ?_
      refine s_iaload (pc := 1009) C dL_law_1009 (fun x333 _ => ?_)
      refine s_aload_n (pc := 1010) C dL_law_1010 rfl ?_
      refine s_iload (pc := 1011) C dL_law_1011 rfl ?_
      refine s_iconst (pc := 1013) (v := (2 : Int32)) C dL_law_1013 (by decide) ?_
      refine s_iadd (pc := 1014) C dL_law_1014 ?_
      refine s_iaload (pc := 1015) C dL_law_1015 (fun x334 _ => ?_)
      refine s_rc (pc := 1016) (fun a335 e_a335 z336 => ?_)
      refine s_callN (pc := 1016) (st := [zI x331]) C lvI (t_X9_chance (d := d - 1) (by omega) n a335 x333 x334 h332) (zce C kc_X9_chance (by omega)) (zlkV C kc_X9_chance kv_X0_131_8 dL_law_1016 (zmem1 z336) [zI x333, zI x334] rfl (by rw [e_a335]; rfl)) dL_law_1016 (Nat.le_of_ble_eq_true rfl) (fun x337 h338 _ => ?_)
      refine s_icmp_eq (pc := 1019) (tgt := 1243) C dL_law_1019 (by decide) (fun cn339 => ?_) (fun cn339 => ?_)
      · exact w_L_law_L1243 C hd n self hself l0 l1 l2 l3 l4 h338
      · refine s_iconst (pc := 1022) (v := (0 : Int32)) C dL_law_1022 (by decide) ?_
        exact s_zret1 (pc := 1023) C (Or.inl rfl) dL_law_1023
    refine zS.ite (fun cn340 => ?_) (fun cn340 => ?_)
    · refine s_tin (pc := 40) (tgt := 1024) (off := 984) C (26 : Int32) dL_law_40 cn340 (by decide) (by decide) rfl (by decide) ?_
      refine s_aload_n (pc := 1024) C dL_law_1024 rfl ?_
      refine s_aload_n (pc := 1025) C dL_law_1025 rfl ?_
      refine s_iload (pc := 1026) C dL_law_1026 rfl ?_
      refine s_iconst (pc := 1028) (v := (1 : Int32)) C dL_law_1028 (by decide) ?_
      refine s_iadd (pc := 1029) C dL_law_1029 ?_
      refine s_iaload (pc := 1030) C dL_law_1030 (fun x341 _ => ?_)
      refine s_aload_n (pc := 1031) C dL_law_1031 rfl ?_
      refine s_iload (pc := 1032) C dL_law_1032 rfl ?_
      refine s_iconst (pc := 1034) (v := (2 : Int32)) C dL_law_1034 (by decide) ?_
      refine s_iadd (pc := 1035) C dL_law_1035 ?_
      refine s_iaload (pc := 1036) C dL_law_1036 (fun x342 _ => ?_)
      refine s_aload_n (pc := 1037) C dL_law_1037 rfl ?_
      refine s_iload (pc := 1038) C dL_law_1038 rfl ?_
      refine s_iconst (pc := 1040) (v := (3 : Int32)) C dL_law_1040 (by decide) ?_
      refine s_iadd (pc := 1041) C dL_law_1041 ?_
      refine s_iaload (pc := 1042) C dL_law_1042 (fun x343 _ => ?_)
      refine s_aload_n (pc := 1043) C dL_law_1043 rfl ?_
      refine s_iload (pc := 1044) C dL_law_1044 rfl ?_
      refine s_iconst (pc := 1046) (v := (4 : Int32)) C dL_law_1046 (by decide) ?_
      refine s_iadd (pc := 1047) C dL_law_1047 ?_
      refine s_iaload (pc := 1048) C dL_law_1048 (fun x344 _ => ?_)
      refine s_aload_n (pc := 1049) C dL_law_1049 rfl ?_
      refine s_callN (pc := 1050) (st := []) C lvI (t_X0_rests (d := d - 1) (by omega) n l1 x341 x342 x343 x344 l3 h) (zceW C kc_X0_rests (by omega)) (zlkSW C kc_X0_rests ks_X0_132 dL_law_1050 [zR l1, zI x341, zI x342, zI x343, zI x344, zR l3] rfl rfl) dL_law_1050 (Nat.le_of_ble_eq_true rfl) (fun x345 h346 _ => ?_)
      refine s_istore (pc := 1053) (L' := [some (zR l0), some (zR l1), some (zR l2), some (zR l3), some (zI l4), some (zI x345), none]) C dL_law_1053 (by decide) rfl ?_
      refine s_aload_n (pc := 1055) C dL_law_1055 rfl ?_
      refine s_aload_n (pc := 1056) C dL_law_1056 rfl ?_
      refine s_iload (pc := 1057) C dL_law_1057 rfl ?_
      refine s_iconst (pc := 1059) (v := (1 : Int32)) C dL_law_1059 (by decide) ?_
      refine s_iadd (pc := 1060) C dL_law_1060 ?_
      refine s_iaload (pc := 1061) C dL_law_1061 (fun x347 _ => ?_)
      refine s_aload_n (pc := 1062) C dL_law_1062 rfl ?_
      refine s_iload (pc := 1063) C dL_law_1063 rfl ?_
      refine s_iconst (pc := 1065) (v := (2 : Int32)) C dL_law_1065 (by decide) ?_
      refine s_iadd (pc := 1066) C dL_law_1066 ?_
      refine s_iaload (pc := 1067) C dL_law_1067 (fun x348 _ => ?_)
      refine s_aload_n (pc := 1068) C dL_law_1068 rfl ?_
      refine s_iload (pc := 1069) C dL_law_1069 rfl ?_
      refine s_iconst (pc := 1071) (v := (3 : Int32)) C dL_law_1071 (by decide) ?_
      refine s_iadd (pc := 1072) C dL_law_1072 ?_
      refine s_iaload (pc := 1073) C dL_law_1073 (fun x349 _ => ?_)
      refine s_aload_n (pc := 1074) C dL_law_1074 rfl ?_
      refine s_iload (pc := 1075) C dL_law_1075 rfl ?_
      refine s_iconst (pc := 1077) (v := (4 : Int32)) C dL_law_1077 (by decide) ?_
      refine s_iadd (pc := 1078) C dL_law_1078 ?_
      refine s_iaload (pc := 1079) C dL_law_1079 (fun x350 _ => ?_)
      refine s_rc (pc := 1080) (fun a351 e_a351 z352 => ?_)
      refine s_callN (pc := 1080) (st := []) C lvI (t_X9_rests (d := d - 1) (by omega) n a351 x347 x348 x349 x350 h346) (zce C kc_X9_rests (by omega)) (zlkV C kc_X9_rests kv_X0_137_8 dL_law_1080 (zmem1 z352) [zI x347, zI x348, zI x349, zI x350] rfl (by rw [e_a351]; rfl)) dL_law_1080 (Nat.le_of_ble_eq_true rfl) (fun x353 h354 _ => ?_)
      refine s_istore (pc := 1083) (L' := [some (zR l0), some (zR l1), some (zR l2), some (zR l3), some (zI l4), some (zI x345), some (zI x353)]) C dL_law_1083 (by decide) rfl ?_
      refine s_aload_n (pc := 1085) C dL_law_1085 rfl ?_
      refine s_rc (pc := 1086) (fun a355 e_a355 z356 => ?_)
      refine s_callN (pc := 1086) (st := []) C lvI (t_X9_thrown (d := d - 1) (by omega) n a355 h354) (zce C kc_X9_thrown (by omega)) (zlkV C kc_X9_thrown kv_X0_138_8 dL_law_1086 (zmem1 z356) [] rfl (by rw [e_a355]; rfl)) dL_law_1086 (Nat.le_of_ble_eq_true rfl) (fun x357 h358 _ => ?_)
      refine s_iload (pc := 1089) C dL_law_1089 rfl ?_
      refine s_icmp_eq (pc := 1091) (tgt := 1096) C dL_law_1091 (by decide) (fun cn359 => ?_) (fun cn359 => ?_)
      · refine s_iload (pc := 1096) C dL_law_1096 rfl ?_
        refine s_if_ne (pc := 1098) (tgt := 1113) C dL_law_1098 (by decide) (fun cn360 => ?_) (fun cn360 => ?_)
        · refine zS.weak [true, true, true, true, true, false, false] rfl ?_
          exact w_L_law_L1113 C hd n self hself l0 l1 l2 l3 l4 h358
        · refine s_aload_n (pc := 1101) C dL_law_1101 rfl ?_
          refine s_iconst (pc := 1102) (v := (0 : Int32)) C dL_law_1102 (by decide) ?_
          refine s_laload (pc := 1103) C dL_law_1103 (fun x361 _ => ?_)
          refine s_iload (pc := 1104) C dL_law_1104 rfl ?_
          refine s_i2l (pc := 1106) C dL_law_1106 ?_
          refine s_lcmp (pc := 1107) C dL_law_1107 ?_
          refine s_if_eq (pc := 1108) (tgt := 1113) C dL_law_1108 (by decide) (fun cn362 => ?_) (fun cn362 => ?_)
          · refine zS.weak [true, true, true, true, true, false, false] rfl ?_
            exact w_L_law_L1113 C hd n self hself l0 l1 l2 l3 l4 h358
          · refine s_iconst (pc := 1111) (v := (0 : Int32)) C dL_law_1111 (by decide) ?_
            exact s_zret1 (pc := 1112) C (Or.inl rfl) dL_law_1112
      · refine s_iconst (pc := 1094) (v := (0 : Int32)) C dL_law_1094 (by decide) ?_
        exact s_zret1 (pc := 1095) C (Or.inl rfl) dL_law_1095
    refine zS.ite (fun cn363 => ?_) (fun cn363 => ?_)
    · refine s_tin (pc := 40) (tgt := 1116) (off := 1076) C (27 : Int32) dL_law_40 cn363 (by decide) (by decide) rfl (by decide) ?_
      refine s_aload_n (pc := 1116) C dL_law_1116 rfl ?_
      refine s_aload_n (pc := 1117) C dL_law_1117 rfl ?_
      refine s_iload (pc := 1118) C dL_law_1118 rfl ?_
      refine s_iconst (pc := 1120) (v := (1 : Int32)) C dL_law_1120 (by decide) ?_
      refine s_iadd (pc := 1121) C dL_law_1121 ?_
      refine s_iaload (pc := 1122) C dL_law_1122 (fun x364 _ => ?_)
      refine s_aload_n (pc := 1123) C dL_law_1123 rfl ?_
      refine s_iload (pc := 1124) C dL_law_1124 rfl ?_
      refine s_iconst (pc := 1126) (v := (2 : Int32)) C dL_law_1126 (by decide) ?_
      refine s_iadd (pc := 1127) C dL_law_1127 ?_
      refine s_iaload (pc := 1128) C dL_law_1128 (fun x365 _ => ?_)
      refine s_aload_n (pc := 1129) C dL_law_1129 rfl ?_
      refine s_iload (pc := 1130) C dL_law_1130 rfl ?_
      refine s_iconst (pc := 1132) (v := (3 : Int32)) C dL_law_1132 (by decide) ?_
      refine s_iadd (pc := 1133) C dL_law_1133 ?_
      refine s_iaload (pc := 1134) C dL_law_1134 (fun x366 _ => ?_)
      refine s_rc (pc := 1135) (fun a367 e_a367 z368 => ?_)
      refine s_callN (pc := 1135) (st := []) C lvI (t_X1_camps (d := d - 1) (by omega) n a367 x364 x365 x366 h) (zce C kc_X1_camps (by omega)) (zlkV C kc_X1_camps kv_X0_141_0 dL_law_1135 (zmem1 z368) [zI x364, zI x365, zI x366] rfl (by rw [e_a367]; rfl)) dL_law_1135 (Nat.le_of_ble_eq_true rfl) (fun x369 h370 _ => ?_)
      refine s_aload_n (pc := 1138) C dL_law_1138 rfl ?_
      refine s_aload_n (pc := 1139) C dL_law_1139 rfl ?_
      refine s_iload (pc := 1140) C dL_law_1140 rfl ?_
      refine s_iconst (pc := 1142) (v := (1 : Int32)) C dL_law_1142 (by decide) ?_
      refine s_iadd (pc := 1143) C dL_law_1143 ?_
      refine s_iaload (pc := 1144) C dL_law_1144 (fun x371 _ => ?_)
      refine s_aload_n (pc := 1145) C dL_law_1145 rfl ?_
      refine s_iload (pc := 1146) C dL_law_1146 rfl ?_
      refine s_iconst (pc := 1148) (v := (2 : Int32)) C dL_law_1148 (by decide) ?_
      refine s_iadd (pc := 1149) C dL_law_1149 ?_
      refine s_iaload (pc := 1150) C dL_law_1150 (fun x372 _ => ?_)
      refine s_aload_n (pc := 1151) C dL_law_1151 rfl ?_
      refine s_iload (pc := 1152) C dL_law_1152 rfl ?_
      refine s_iconst (pc := 1154) (v := (3 : Int32)) C dL_law_1154 (by decide) ?_
      refine s_iadd (pc := 1155) C dL_law_1155 ?_
      refine s_iaload (pc := 1156) C dL_law_1156 (fun x373 _ => ?_)
      refine s_rc (pc := 1157) (fun a374 e_a374 z375 => ?_)
      refine s_callN (pc := 1157) (st := [zI x369]) C lvI (t_X9_camps (d := d - 1) (by omega) n a374 x371 x372 x373 h370) (zce C kc_X9_camps (by omega)) (zlkV C kc_X9_camps kv_X0_145_8 dL_law_1157 (zmem1 z375) [zI x371, zI x372, zI x373] rfl (by rw [e_a374]; rfl)) dL_law_1157 (Nat.le_of_ble_eq_true rfl) (fun x376 h377 _ => ?_)
      refine s_icmp_eq (pc := 1160) (tgt := 1243) C dL_law_1160 (by decide) (fun cn378 => ?_) (fun cn378 => ?_)
      · exact w_L_law_L1243 C hd n self hself l0 l1 l2 l3 l4 h377
      · refine s_iconst (pc := 1163) (v := (0 : Int32)) C dL_law_1163 (by decide) ?_
        exact s_zret1 (pc := 1164) C (Or.inl rfl) dL_law_1164
    refine zS.ite (fun cn379 => ?_) (fun cn379 => ?_)
    · refine s_tin (pc := 40) (tgt := 1165) (off := 1125) C (28 : Int32) dL_law_40 cn379 (by decide) (by decide) rfl (by decide) ?_
      refine s_aload_n (pc := 1165) C dL_law_1165 rfl ?_
      refine s_aload_n (pc := 1166) C dL_law_1166 rfl ?_
      refine s_iload (pc := 1167) C dL_law_1167 rfl ?_
      refine s_iconst (pc := 1169) (v := (1 : Int32)) C dL_law_1169 (by decide) ?_
      refine s_iadd (pc := 1170) C dL_law_1170 ?_
      refine s_iaload (pc := 1171) C dL_law_1171 (fun x380 _ => ?_)
      refine s_aload_n (pc := 1172) C dL_law_1172 rfl ?_
      refine s_iload (pc := 1173) C dL_law_1173 rfl ?_
      refine s_iconst (pc := 1175) (v := (2 : Int32)) C dL_law_1175 (by decide) ?_
      refine s_iadd (pc := 1176) C dL_law_1176 ?_
      refine s_iaload (pc := 1177) C dL_law_1177 (fun x381 _ => ?_)
      refine zjS (σ := Int32) (if x381 = 0 then (0 : Int32) else (1 : Int32)) 1186 (fun v383 => [some (zR l0), some (zR l1), some (zR l2), some (zR l3), some (zI l4), none, none]) (fun v383 => [zI v383, zI x380, zR l1]) ?_ (fun j => ?_)
      · refine s_rc (pc := 1186) (fun a384 e_a384 z385 => ?_)
        refine s_callN (pc := 1186) (st := []) C lvI (t_X1_mark (d := d - 1) (by omega) n a384 x380 (if x381 = 0 then (0 : Int32) else (1 : Int32)) h) (zce C kc_X1_mark (by omega)) (zlkV C kc_X1_mark kv_X0_146_0 dL_law_1186 (zmem1 z385) [zI x380, zI (if x381 = 0 then (0 : Int32) else (1 : Int32))] rfl (by rw [e_a384]; rfl)) dL_law_1186 (Nat.le_of_ble_eq_true rfl) (fun x386 h387 _ => ?_)
        refine s_aload_n (pc := 1189) C dL_law_1189 rfl ?_
        refine s_aload_n (pc := 1190) C dL_law_1190 rfl ?_
        refine s_iload (pc := 1191) C dL_law_1191 rfl ?_
        refine s_iconst (pc := 1193) (v := (1 : Int32)) C dL_law_1193 (by decide) ?_
        refine s_iadd (pc := 1194) C dL_law_1194 ?_
        refine s_iaload (pc := 1195) C dL_law_1195 (fun x388 _ => ?_)
        refine s_aload_n (pc := 1196) C dL_law_1196 rfl ?_
        refine s_iload (pc := 1197) C dL_law_1197 rfl ?_
        refine s_iconst (pc := 1199) (v := (2 : Int32)) C dL_law_1199 (by decide) ?_
        refine s_iadd (pc := 1200) C dL_law_1200 ?_
        refine s_iaload (pc := 1201) C dL_law_1201 (fun x389 _ => ?_)
        refine zjS (σ := Int32) (if x389 = 0 then (0 : Int32) else (1 : Int32)) 1210 (fun v391 => [some (zR l0), some (zR l1), some (zR l2), some (zR l3), some (zI l4), none, none]) (fun v391 => [zI v391, zI x388, zR l2, zI x386]) ?_ (fun j => ?_)
        · refine s_rc (pc := 1210) (fun a392 e_a392 z393 => ?_)
          refine s_callN (pc := 1210) (st := [zI x386]) C lvI (t_X9_mark (d := d - 1) (by omega) n a392 x388 (if x389 = 0 then (0 : Int32) else (1 : Int32)) h387) (zce C kc_X9_mark (by omega)) (zlkV C kc_X9_mark kv_X0_150_8 dL_law_1210 (zmem1 z393) [zI x388, zI (if x389 = 0 then (0 : Int32) else (1 : Int32))] rfl (by rw [e_a392]; rfl)) dL_law_1210 (Nat.le_of_ble_eq_true rfl) (fun x394 h395 _ => ?_)
          refine s_icmp_eq (pc := 1213) (tgt := 1243) C dL_law_1213 (by decide) (fun cn396 => ?_) (fun cn396 => ?_)
          · exact w_L_law_L1243 C hd n self hself l0 l1 l2 l3 l4 h395
          · refine s_iconst (pc := 1216) (v := (0 : Int32)) C dL_law_1216 (by decide) ?_
            exact s_zret1 (pc := 1217) C (Or.inl rfl) dL_law_1217
        · refine b_if_eq (pc := 1202) (tgt := 1209) C dL_law_1202 (by decide) (fun cn390 => ?_) (fun cn390 => ?_)
          · refine s_iconst (pc := 1209) (v := (0 : Int32)) C dL_law_1209 (by decide) ?_
            refine zS.weak [true, true, true, true, true, false, false] rfl (j _ (if_pos cn390).symm)
          · refine s_iconst (pc := 1205) (v := (1 : Int32)) C dL_law_1205 (by decide) ?_
            refine s_goto (pc := 1206) (tgt := 1210) C dL_law_1206 (by decide) ?_
            refine zS.weak [true, true, true, true, true, false, false] rfl (j _ (if_neg cn390).symm)
      · refine b_if_eq (pc := 1178) (tgt := 1185) C dL_law_1178 (by decide) (fun cn382 => ?_) (fun cn382 => ?_)
        · refine s_iconst (pc := 1185) (v := (0 : Int32)) C dL_law_1185 (by decide) ?_
          refine zS.weak [true, true, true, true, true, false, false] rfl (j _ (if_pos cn382).symm)
        · refine s_iconst (pc := 1181) (v := (1 : Int32)) C dL_law_1181 (by decide) ?_
          refine s_goto (pc := 1182) (tgt := 1186) C dL_law_1182 (by decide) ?_
          refine zS.weak [true, true, true, true, true, false, false] rfl (j _ (if_neg cn382).symm)
    refine zS.ite (fun cn397 => ?_) (fun cn397 => ?_)
    · refine s_tin (pc := 40) (tgt := 1218) (off := 1178) C (29 : Int32) dL_law_40 cn397 (by decide) (by decide) rfl (by decide) ?_
      refine s_aload_n (pc := 1218) C dL_law_1218 rfl ?_
      refine s_aload_n (pc := 1219) C dL_law_1219 rfl ?_
      refine s_iload (pc := 1220) C dL_law_1220 rfl ?_
      refine s_iconst (pc := 1222) (v := (1 : Int32)) C dL_law_1222 (by decide) ?_
      refine s_iadd (pc := 1223) C dL_law_1223 ?_
      refine s_iaload (pc := 1224) C dL_law_1224 (fun x398 _ => ?_)
      refine s_rc (pc := 1225) (fun a399 e_a399 z400 => ?_)
      refine s_callN (pc := 1225) (st := []) C lvI (t_X1_count (d := d - 1) (by omega) n a399 x398 h) (zce C kc_X1_count (by omega)) (zlkV C kc_X1_count kv_X0_151_0 dL_law_1225 (zmem1 z400) [zI x398] rfl (by rw [e_a399]; rfl)) dL_law_1225 (Nat.le_of_ble_eq_true rfl) (fun x401 h402 _ => ?_)
      refine s_aload_n (pc := 1228) C dL_law_1228 rfl ?_
      refine s_aload_n (pc := 1229) C dL_law_1229 rfl ?_
      refine s_iload (pc := 1230) C dL_law_1230 rfl ?_
      refine s_iconst (pc := 1232) (v := (1 : Int32)) C dL_law_1232 (by decide) ?_
      refine s_iadd (pc := 1233) C dL_law_1233 ?_
      refine s_iaload (pc := 1234) C dL_law_1234 (fun x403 _ => ?_)
      refine s_rc (pc := 1235) (fun a404 e_a404 z405 => ?_)
      refine s_callN (pc := 1235) (st := [zI x401]) C lvI (t_X9_count (d := d - 1) (by omega) n a404 x403 h402) (zce C kc_X9_count (by omega)) (zlkV C kc_X9_count kv_X0_154_8 dL_law_1235 (zmem1 z405) [zI x403] rfl (by rw [e_a404]; rfl)) dL_law_1235 (Nat.le_of_ble_eq_true rfl) (fun x406 h407 _ => ?_)
      refine s_icmp_eq (pc := 1238) (tgt := 1243) C dL_law_1238 (by decide) (fun cn408 => ?_) (fun cn408 => ?_)
      · exact w_L_law_L1243 C hd n self hself l0 l1 l2 l3 l4 h407
      · refine s_iconst (pc := 1241) (v := (0 : Int32)) C dL_law_1241 (by decide) ?_
        exact s_zret1 (pc := 1242) C (Or.inl rfl) dL_law_1242
    refine s_tout (pc := 40) (tgt := 1243) C dL_law_40 (ztout [(0 : Int32), (1 : Int32), (2 : Int32), (3 : Int32), (4 : Int32), (5 : Int32), (6 : Int32), (7 : Int32), (8 : Int32), (9 : Int32), (10 : Int32), (11 : Int32), (12 : Int32), (13 : Int32), (14 : Int32), (15 : Int32), (16 : Int32), (17 : Int32), (18 : Int32), (19 : Int32), (20 : Int32), (21 : Int32), (22 : Int32), (23 : Int32), (24 : Int32), (25 : Int32), (26 : Int32), (27 : Int32), (28 : Int32), (29 : Int32)] (zcov 30 (by decide) (by decide)) (List.forall_mem_cons.mpr ⟨cn4, (List.forall_mem_cons.mpr ⟨cn26, (List.forall_mem_cons.mpr ⟨cn36, (List.forall_mem_cons.mpr ⟨cn46, (List.forall_mem_cons.mpr ⟨cn60, (List.forall_mem_cons.mpr ⟨cn74, (List.forall_mem_cons.mpr ⟨cn88, (List.forall_mem_cons.mpr ⟨cn100, (List.forall_mem_cons.mpr ⟨cn110, (List.forall_mem_cons.mpr ⟨cn120, (List.forall_mem_cons.mpr ⟨cn132, (List.forall_mem_cons.mpr ⟨cn146, (List.forall_mem_cons.mpr ⟨cn160, (List.forall_mem_cons.mpr ⟨cn174, (List.forall_mem_cons.mpr ⟨cn186, (List.forall_mem_cons.mpr ⟨cn200, (List.forall_mem_cons.mpr ⟨cn214, (List.forall_mem_cons.mpr ⟨cn226, (List.forall_mem_cons.mpr ⟨cn238, (List.forall_mem_cons.mpr ⟨cn252, (List.forall_mem_cons.mpr ⟨cn266, (List.forall_mem_cons.mpr ⟨cn276, (List.forall_mem_cons.mpr ⟨cn286, (List.forall_mem_cons.mpr ⟨cn306, (List.forall_mem_cons.mpr ⟨cn316, (List.forall_mem_cons.mpr ⟨cn326, (List.forall_mem_cons.mpr ⟨cn340, (List.forall_mem_cons.mpr ⟨cn363, (List.forall_mem_cons.mpr ⟨cn379, (List.forall_mem_cons.mpr ⟨cn397, (fun _ h_ => absurd h_ List.not_mem_nil)⟩)⟩)⟩)⟩)⟩)⟩)⟩)⟩)⟩)⟩)⟩)⟩)⟩)⟩)⟩)⟩)⟩)⟩)⟩)⟩)⟩)⟩)⟩)⟩)⟩)⟩)⟩)⟩)⟩)⟩)) (by decide) ?_
    exact w_L_law_L1243 C hd n self hself l0 l1 l2 l3 l4 h
theorem w_L_law_L23 {G : zG} {X : zX} {d : Nat} {h0 : zHp} (C : zC G X x cL_law 7 d (some .boolean) h0) (hd : 139 ≤ d) (n : Nat) (k : Nat) (l0 : Option Nat) (l1 : Option Nat) (l2 : Option Nat) (l3 : Option Nat) (l4 : Int32) (h : zHp) : zS G X 7 23 [some (zR l0), some (zR l1), some (zR l2), some (zR l3), some (zI l4), none, none] [] h (f_L_law_L23 n  k l0 l1 l2 l3 l4 h) (li lvI) := by
  induction k generalizing l0 l1 l2 l3 l4 h with
  | zero => exact zS.none_
  | succ k ih => exact w_L_law_L23_b C hd n   (f_L_law_L23 n  k) (fun l0 l1 l2 l3 l4 h => ih l0 l1 l2 l3 l4 h) l0 l1 l2 l3 l4 h
theorem w_L_law {G : zG} {X : zX} {d : Nat} {h0 : zHp} (C : zC G X x cL_law 7 d (some .boolean) h0) (hd : 139 ≤ d) (n : Nat) (l0 : Option Nat) (h : zHp) : zS G X 7 0 [some (zR l0), none, none, none, none, none, none] [] h (f_L_law n  l0 h) (li lvI) := by
  unfold f_L_law
  refine s_new (pc := 0) C nk_X0_8 dL_law_0 (fun a1 h2 _ => ?_)
  refine s_dup (pc := 3) C dL_law_3 rfl ?_
  refine s_callN (pc := 4) (st := [zR (some a1)]) C lvU (t_X1_init (d := d - 1) (by omega) n a1 h2) (zce C kc_X1_init (by omega)) (zlkI C kc_X1_init ki_X0_15 dL_law_4 [] rfl rfl) dL_law_4 (Nat.le_of_ble_eq_true rfl) (fun _ h4 _ => ?_)
  refine s_astore_n (pc := 7) (L' := [some (zR l0), some (zR (some a1)), none, none, none, none, none]) C dL_law_7 (by decide) rfl ?_
  refine s_new (pc := 8) C nk_X0_16 dL_law_8 (fun a5 h6 _ => ?_)
  refine s_dup (pc := 11) C dL_law_11 rfl ?_
  refine s_callN (pc := 12) (st := [zR (some a5)]) C lvU (t_X9_init (d := d - 1) (by omega) n a5 h6) (zce C kc_X9_init (by omega)) (zlkI C kc_X9_init ki_X0_18 dL_law_12 [] rfl rfl) dL_law_12 (Nat.le_of_ble_eq_true rfl) (fun _ h8 _ => ?_)
  refine s_astore_n (pc := 15) (L' := [some (zR l0), some (zR (some a1)), some (zR (some a5)), none, none, none, none]) C dL_law_15 (by decide) rfl ?_
  refine s_iconst (pc := 16) (v := (1 : Int32)) C dL_law_16 (by decide) ?_
  refine s_newJ (pc := 17) C dL_law_17 (fun a9 h10 _ => ?_)
  refine s_astore_n (pc := 19) (L' := [some (zR l0), some (zR (some a1)), some (zR (some a5)), some (zR (some a9)), none, none, none]) C dL_law_19 (by decide) rfl ?_
  refine s_iconst (pc := 20) (v := (0 : Int32)) C dL_law_20 (by decide) ?_
  refine s_istore (pc := 21) (L' := [some (zR l0), some (zR (some a1)), some (zR (some a5)), some (zR (some a9)), some (zI (0 : Int32)), none, none]) C dL_law_21 (by decide) rfl ?_
  exact w_L_law_L23 C hd n n l0 (some a1) (some a5) (some a9) (0 : Int32) h10
