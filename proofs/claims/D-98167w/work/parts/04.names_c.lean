/-! the law's own entry -/
set_option maxRecDepth 100000
abbrev cL_law : ByteArray := code
def dkwL_law_51 : List UInt8 := [167, 250, 232, 4, 172]
abbrev dktL_law_51 : List UInt8 := dkwL_law_51 ++ []
def dkwL_law_50 : List UInt8 := [46, 182, 0, 169, 44, 42, 21, 4, 4, 96, 46, 182, 0, 172, 159, 0, 5, 3, 172, 132, 4, 7]
abbrev dktL_law_50 : List UInt8 := dkwL_law_50 ++ dktL_law_51
def dkwL_law_49 : List UInt8 := [96, 46, 153, 0, 7, 4, 167, 0, 4, 3, 182, 0, 168, 159, 0, 30, 3, 172, 43, 42, 21, 4, 4, 96]
abbrev dktL_law_49 : List UInt8 := dkwL_law_49 ++ dktL_law_50
def dkwL_law_48 : List UInt8 := [96, 46, 153, 0, 7, 4, 167, 0, 4, 3, 182, 0, 164, 44, 42, 21, 4, 4, 96, 46, 42, 21, 4, 5]
abbrev dktL_law_48 : List UInt8 := dkwL_law_48 ++ dktL_law_49
def dkwL_law_47 : List UInt8 := [21, 4, 6, 96, 46, 182, 0, 163, 159, 0, 83, 3, 172, 43, 42, 21, 4, 4, 96, 46, 42, 21, 4, 5]
abbrev dktL_law_47 : List UInt8 := dkwL_law_47 ++ dktL_law_48
def dkwL_law_46 : List UInt8 := [42, 21, 4, 6, 96, 46, 182, 0, 160, 44, 42, 21, 4, 4, 96, 46, 42, 21, 4, 5, 96, 46, 42]
abbrev dktL_law_46 : List UInt8 := dkwL_law_46 ++ dktL_law_47
def dkwL_law_45 : List UInt8 := [6, 96, 46, 182, 0, 159, 159, 0, 132, 3, 172, 43, 42, 21, 4, 4, 96, 46, 42, 21, 4, 5, 96, 46]
abbrev dktL_law_45 : List UInt8 := dkwL_law_45 ++ dktL_law_46
def dkwL_law_44 : List UInt8 := [21, 4, 6, 96, 46, 182, 0, 156, 44, 42, 21, 4, 4, 96, 46, 42, 21, 4, 5, 96, 46, 42, 21, 4]
abbrev dktL_law_44 : List UInt8 := dkwL_law_44 ++ dktL_law_45
def dkwL_law_43 : List UInt8 := [46, 182, 0, 155, 159, 0, 181, 3, 172, 43, 42, 21, 4, 4, 96, 46, 42, 21, 4, 5, 96, 46, 42]
abbrev dktL_law_43 : List UInt8 := dkwL_law_43 ++ dktL_law_44
def dkwL_law_42 : List UInt8 := [182, 0, 151, 159, 0, 206, 3, 172, 43, 42, 21, 4, 4, 96, 46, 182, 0, 152, 44, 42, 21, 4, 4, 96]
abbrev dktL_law_42 : List UInt8 := dkwL_law_42 ++ dktL_law_43
def dkwL_law_41 : List UInt8 := [154, 0, 15, 45, 3, 47, 21, 6, 133, 148, 153, 0, 5, 3, 172, 167, 0, 217, 43, 182, 0, 148, 44]
abbrev dktL_law_41 : List UInt8 := dkwL_law_41 ++ dktL_law_42
def dkwL_law_40 : List UInt8 := [184, 0, 139, 54, 5, 44, 182, 0, 144, 54, 6, 44, 182, 0, 145, 21, 5, 159, 0, 5, 3, 172, 21, 5]
abbrev dktL_law_40 : List UInt8 := dkwL_law_40 ++ dktL_law_41
def dkwL_law_39 : List UInt8 := [96, 46, 182, 0, 135, 44, 42, 21, 4, 4, 96, 46, 182, 0, 138, 159, 1, 7, 3, 172, 43, 45]
abbrev dktL_law_39 : List UInt8 := dkwL_law_39 ++ dktL_law_40
def dkwL_law_38 : List UInt8 := [46, 182, 0, 131, 44, 42, 21, 4, 4, 96, 46, 182, 0, 134, 159, 1, 32, 3, 172, 43, 42, 21, 4, 4]
abbrev dktL_law_38 : List UInt8 := dkwL_law_38 ++ dktL_law_39
def dkwL_law_37 : List UInt8 := [182, 0, 127, 44, 42, 21, 4, 4, 96, 46, 182, 0, 130, 159, 1, 57, 3, 172, 43, 42, 21, 4, 4, 96]
abbrev dktL_law_37 : List UInt8 := dkwL_law_37 ++ dktL_law_38
def dkwL_law_36 : List UInt8 := [46, 42, 21, 4, 5, 96, 46, 182, 0, 126, 159, 1, 82, 3, 172, 43, 42, 21, 4, 4, 96, 46]
abbrev dktL_law_36 : List UInt8 := dkwL_law_36 ++ dktL_law_37
def dkwL_law_35 : List UInt8 := [3, 172, 43, 42, 21, 4, 4, 96, 46, 42, 21, 4, 5, 96, 46, 182, 0, 123, 44, 42, 21, 4, 4, 96]
abbrev dktL_law_35 : List UInt8 := dkwL_law_35 ++ dktL_law_36
def dkwL_law_34 : List UInt8 := [172, 43, 42, 21, 4, 4, 96, 46, 182, 0, 119, 44, 42, 21, 4, 4, 96, 46, 182, 0, 122, 159, 1, 119]
abbrev dktL_law_34 : List UInt8 := dkwL_law_34 ++ dktL_law_35
def dkwL_law_33 : List UInt8 := [46, 182, 0, 115, 44, 42, 21, 4, 4, 96, 46, 42, 21, 4, 5, 96, 46, 182, 0, 118, 159, 1, 144, 3]
abbrev dktL_law_33 : List UInt8 := dkwL_law_33 ++ dktL_law_34
def dkwL_law_32 : List UInt8 := [182, 0, 111, 44, 182, 0, 114, 159, 1, 181, 3, 172, 43, 42, 21, 4, 4, 96, 46, 42, 21, 4, 5, 96]
abbrev dktL_law_32 : List UInt8 := dkwL_law_32 ++ dktL_law_33
def dkwL_law_31 : List UInt8 := [21, 4, 4, 96, 46, 182, 0, 107, 44, 42, 21, 4, 4, 96, 46, 182, 0, 110, 159, 1, 194, 3, 172, 43]
abbrev dktL_law_31 : List UInt8 := dkwL_law_31 ++ dktL_law_32
def dkwL_law_30 : List UInt8 := [4, 96, 46, 182, 0, 103, 44, 42, 21, 4, 4, 96, 46, 182, 0, 106, 159, 1, 219, 3, 172, 43, 42]
abbrev dktL_law_30 : List UInt8 := dkwL_law_30 ++ dktL_law_31
def dkwL_law_29 : List UInt8 := [42, 21, 4, 5, 96, 46, 42, 21, 4, 6, 96, 46, 182, 0, 102, 159, 1, 244, 3, 172, 43, 42, 21, 4]
abbrev dktL_law_29 : List UInt8 := dkwL_law_29 ++ dktL_law_30
def dkwL_law_28 : List UInt8 := [96, 46, 42, 21, 4, 5, 96, 46, 42, 21, 4, 6, 96, 46, 182, 0, 98, 44, 42, 21, 4, 4, 96, 46]
abbrev dktL_law_28 : List UInt8 := dkwL_law_28 ++ dktL_law_29
def dkwL_law_27 : List UInt8 := [21, 4, 4, 96, 46, 42, 21, 4, 5, 96, 46, 182, 0, 97, 159, 2, 37, 3, 172, 43, 42, 21, 4, 4]
abbrev dktL_law_27 : List UInt8 := dkwL_law_27 ++ dktL_law_28
def dkwL_law_26 : List UInt8 := [159, 2, 74, 3, 172, 43, 42, 21, 4, 4, 96, 46, 42, 21, 4, 5, 96, 46, 182, 0, 94, 44, 42]
abbrev dktL_law_26 : List UInt8 := dkwL_law_26 ++ dktL_law_27
def dkwL_law_25 : List UInt8 := [5, 96, 46, 182, 0, 90, 44, 42, 21, 4, 4, 96, 46, 42, 21, 4, 5, 96, 46, 182, 0, 93]
abbrev dktL_law_25 : List UInt8 := dkwL_law_25 ++ dktL_law_26
def dkwL_law_24 : List UInt8 := [42, 21, 4, 4, 96, 46, 182, 0, 89, 159, 2, 111, 3, 172, 43, 42, 21, 4, 4, 96, 46, 42, 21, 4]
abbrev dktL_law_24 : List UInt8 := dkwL_law_24 ++ dktL_law_25
def dkwL_law_23 : List UInt8 := [21, 4, 5, 96, 46, 182, 0, 85, 159, 2, 136, 3, 172, 43, 42, 21, 4, 4, 96, 46, 182, 0, 86, 44]
abbrev dktL_law_23 : List UInt8 := dkwL_law_23 ++ dktL_law_24
def dkwL_law_22 : List UInt8 := [43, 42, 21, 4, 4, 96, 46, 42, 21, 4, 5, 96, 46, 182, 0, 82, 44, 42, 21, 4, 4, 96, 46, 42]
abbrev dktL_law_22 : List UInt8 := dkwL_law_22 ++ dktL_law_23
def dkwL_law_21 : List UInt8 := [42, 21, 4, 4, 96, 46, 182, 0, 78, 44, 42, 21, 4, 4, 96, 46, 182, 0, 81, 159, 2, 173, 3, 172]
abbrev dktL_law_21 : List UInt8 := dkwL_law_21 ++ dktL_law_22
def dkwL_law_20 : List UInt8 := [21, 4, 4, 96, 46, 182, 0, 74, 44, 42, 21, 4, 4, 96, 46, 182, 0, 77, 159, 2, 198, 3, 172, 43]
abbrev dktL_law_20 : List UInt8 := dkwL_law_20 ++ dktL_law_21
def dkwL_law_19 : List UInt8 := [182, 0, 69, 159, 2, 236, 3, 172, 43, 182, 0, 70, 44, 182, 0, 73, 159, 2, 223, 3, 172, 43, 42]
abbrev dktL_law_19 : List UInt8 := dkwL_law_19 ++ dktL_law_20
def dkwL_law_18 : List UInt8 := [182, 0, 60, 44, 42, 21, 4, 4, 96, 46, 182, 0, 64, 159, 2, 249, 3, 172, 43, 182, 0, 65, 44]
abbrev dktL_law_18 : List UInt8 := dkwL_law_18 ++ dktL_law_19
def dkwL_law_17 : List UInt8 := [44, 42, 21, 4, 4, 96, 46, 182, 0, 59, 159, 3, 18, 3, 172, 43, 42, 21, 4, 4, 96, 46]
abbrev dktL_law_17 : List UInt8 := dkwL_law_17 ++ dktL_law_18
def dkwL_law_16 : List UInt8 := [42, 21, 4, 5, 96, 46, 182, 0, 55, 159, 3, 43, 3, 172, 43, 42, 21, 4, 4, 96, 46, 182, 0, 56]
abbrev dktL_law_16 : List UInt8 := dkwL_law_16 ++ dktL_law_17
def dkwL_law_15 : List UInt8 := [172, 43, 42, 21, 4, 4, 96, 46, 42, 21, 4, 5, 96, 46, 182, 0, 52, 44, 42, 21, 4, 4, 96, 46]
abbrev dktL_law_15 : List UInt8 := dkwL_law_15 ++ dktL_law_16
def dkwL_law_14 : List UInt8 := [43, 42, 21, 4, 4, 96, 46, 182, 0, 47, 44, 42, 21, 4, 4, 96, 46, 182, 0, 51, 159, 3, 80, 3]
abbrev dktL_law_14 : List UInt8 := dkwL_law_14 ++ dktL_law_15
def dkwL_law_13 : List UInt8 := [182, 0, 43, 44, 42, 21, 4, 4, 96, 46, 42, 21, 4, 5, 96, 46, 182, 0, 46, 159, 3, 105, 3, 172]
abbrev dktL_law_13 : List UInt8 := dkwL_law_13 ++ dktL_law_14
def dkwL_law_12 : List UInt8 := [5, 96, 46, 182, 0, 42, 159, 3, 142, 3, 172, 43, 42, 21, 4, 4, 96, 46, 42, 21, 4, 5, 96, 46]
abbrev dktL_law_12 : List UInt8 := dkwL_law_12 ++ dktL_law_13
def dkwL_law_11 : List UInt8 := [21, 4, 4, 96, 46, 42, 21, 4, 5, 96, 46, 182, 0, 38, 44, 42, 21, 4, 4, 96, 46, 42, 21, 4]
abbrev dktL_law_11 : List UInt8 := dkwL_law_11 ++ dktL_law_12
def dkwL_law_10 : List UInt8 := [182, 0, 33, 159, 3, 192, 3, 172, 43, 182, 0, 34, 44, 182, 0, 37, 159, 3, 179, 3, 172, 43, 42]
abbrev dktL_law_10 : List UInt8 := dkwL_law_10 ++ dktL_law_11
def dkwL_law_9 : List UInt8 := [159, 3, 218, 3, 172, 43, 182, 0, 26, 44, 182, 0, 29, 159, 3, 205, 3, 172, 43, 182, 0, 30, 44]
abbrev dktL_law_9 : List UInt8 := dkwL_law_9 ++ dktL_law_10
def dkwL_law_8 : List UInt8 := [8, 96, 46, 133, 16, 32, 121, 42, 21, 4, 16, 6, 96, 46, 133, 20, 0, 19, 127, 129, 182, 0, 25]
abbrev dktL_law_8 : List UInt8 := dkwL_law_8 ++ dktL_law_9
def dkwL_law_7 : List UInt8 := [21, 4, 6, 96, 46, 133, 16, 32, 121, 42, 21, 4, 7, 96, 46, 133, 20, 0, 19, 127, 129, 42, 21, 4]
abbrev dktL_law_7 : List UInt8 := dkwL_law_7 ++ dktL_law_8
def dkwL_law_6 : List UInt8 := [42, 21, 4, 4, 96, 46, 133, 16, 32, 121, 42, 21, 4, 5, 96, 46, 133, 20, 0, 19, 127, 129, 42]
abbrev dktL_law_6 : List UInt8 := dkwL_law_6 ++ dktL_law_7
def dkwL_law_5 : List UInt8 := [8, 96, 46, 133, 16, 32, 121, 42, 21, 4, 16, 6, 96, 46, 133, 20, 0, 19, 127, 129, 182, 0, 21, 44]
abbrev dktL_law_5 : List UInt8 := dkwL_law_5 ++ dktL_law_6
def dkwL_law_4 : List UInt8 := [21, 4, 6, 96, 46, 133, 16, 32, 121, 42, 21, 4, 7, 96, 46, 133, 20, 0, 19, 127, 129, 42, 21, 4]
abbrev dktL_law_4 : List UInt8 := dkwL_law_4 ++ dktL_law_5
def dkwL_law_3 : List UInt8 := [43, 42, 21, 4, 4, 96, 46, 133, 16, 32, 121, 42, 21, 4, 5, 96, 46, 133, 20, 0, 19, 127, 129, 42]
abbrev dktL_law_3 : List UInt8 := dkwL_law_3 ++ dktL_law_4
def dkwL_law_2 : List UInt8 := [170, 0, 0, 0, 0, 0, 5, 4, 0, 0, 0, 0, 0, 0, 0, 34, 0, 0, 0, 156, 0, 0, 1, 47, 0, 0, 1, 60, 0, 0, 1, 73, 0, 0, 1, 86, 0, 0, 1, 123, 0, 0, 1, 160, 0, 0, 1, 185, 0, 0, 1, 222, 0, 0, 1, 247, 0, 0, 2, 16, 0, 0, 2, 29, 0, 0, 2, 42, 0, 0, 2, 67, 0, 0, 2, 92, 0, 0, 2, 129, 0, 0, 2, 154, 0, 0, 2, 191, 0, 0, 2, 228, 0, 0, 3, 21, 0, 0, 3, 46, 0, 0, 3, 71, 0, 0, 3, 84, 0, 0, 3, 121, 0, 0, 3, 146, 0, 0, 3, 183, 0, 0, 3, 208, 0, 0, 3, 233, 0, 0, 4, 2, 0, 0, 4, 46, 0, 0, 4, 59, 0, 0, 4, 84, 0, 0, 4, 133, 0, 0, 4, 182, 0, 0, 4, 235]
abbrev dktL_law_2 : List UInt8 := dkwL_law_2 ++ dktL_law_3
def dkwL_law_1 : List UInt8 := [21, 4, 42, 190, 16, 7, 100, 163, 5, 20, 42, 21, 4, 46, 16, 63, 126]
abbrev dktL_law_1 : List UInt8 := dkwL_law_1 ++ dktL_law_2
def dkwL_law_0 : List UInt8 := [187, 0, 8, 89, 183, 0, 15, 76, 187, 0, 16, 89, 183, 0, 18, 77, 4, 188, 11, 78, 3, 54, 4]
abbrev dktL_law_0 : List UInt8 := dkwL_law_0 ++ dktL_law_1
theorem dksL_law_0 : cL_law.data.toList.drop 0 = dktL_law_0 := by decide +kernel
theorem dksL_law_1 : cL_law.data.toList.drop 23 = dktL_law_1 := dk_seg dksL_law_0 23 rfl rfl
theorem dksL_law_2 : cL_law.data.toList.drop 40 = dktL_law_2 := dk_seg dksL_law_1 17 rfl rfl
theorem dksL_law_3 : cL_law.data.toList.drop 196 = dktL_law_3 := dk_seg dksL_law_2 156 rfl rfl
theorem dksL_law_4 : cL_law.data.toList.drop 220 = dktL_law_4 := dk_seg dksL_law_3 24 rfl rfl
theorem dksL_law_5 : cL_law.data.toList.drop 244 = dktL_law_5 := dk_seg dksL_law_4 24 rfl rfl
theorem dksL_law_6 : cL_law.data.toList.drop 268 = dktL_law_6 := dk_seg dksL_law_5 24 rfl rfl
theorem dksL_law_7 : cL_law.data.toList.drop 291 = dktL_law_7 := dk_seg dksL_law_6 23 rfl rfl
theorem dksL_law_8 : cL_law.data.toList.drop 315 = dktL_law_8 := dk_seg dksL_law_7 24 rfl rfl
theorem dksL_law_9 : cL_law.data.toList.drop 338 = dktL_law_9 := dk_seg dksL_law_8 23 rfl rfl
theorem dksL_law_10 : cL_law.data.toList.drop 361 = dktL_law_10 := dk_seg dksL_law_9 23 rfl rfl
theorem dksL_law_11 : cL_law.data.toList.drop 384 = dktL_law_11 := dk_seg dksL_law_10 23 rfl rfl
theorem dksL_law_12 : cL_law.data.toList.drop 408 = dktL_law_12 := dk_seg dksL_law_11 24 rfl rfl
theorem dksL_law_13 : cL_law.data.toList.drop 432 = dktL_law_13 := dk_seg dksL_law_12 24 rfl rfl
theorem dksL_law_14 : cL_law.data.toList.drop 456 = dktL_law_14 := dk_seg dksL_law_13 24 rfl rfl
theorem dksL_law_15 : cL_law.data.toList.drop 480 = dktL_law_15 := dk_seg dksL_law_14 24 rfl rfl
theorem dksL_law_16 : cL_law.data.toList.drop 504 = dktL_law_16 := dk_seg dksL_law_15 24 rfl rfl
theorem dksL_law_17 : cL_law.data.toList.drop 528 = dktL_law_17 := dk_seg dksL_law_16 24 rfl rfl
theorem dksL_law_18 : cL_law.data.toList.drop 550 = dktL_law_18 := dk_seg dksL_law_17 22 rfl rfl
theorem dksL_law_19 : cL_law.data.toList.drop 573 = dktL_law_19 := dk_seg dksL_law_18 23 rfl rfl
theorem dksL_law_20 : cL_law.data.toList.drop 596 = dktL_law_20 := dk_seg dksL_law_19 23 rfl rfl
theorem dksL_law_21 : cL_law.data.toList.drop 620 = dktL_law_21 := dk_seg dksL_law_20 24 rfl rfl
theorem dksL_law_22 : cL_law.data.toList.drop 644 = dktL_law_22 := dk_seg dksL_law_21 24 rfl rfl
theorem dksL_law_23 : cL_law.data.toList.drop 668 = dktL_law_23 := dk_seg dksL_law_22 24 rfl rfl
theorem dksL_law_24 : cL_law.data.toList.drop 692 = dktL_law_24 := dk_seg dksL_law_23 24 rfl rfl
theorem dksL_law_25 : cL_law.data.toList.drop 716 = dktL_law_25 := dk_seg dksL_law_24 24 rfl rfl
theorem dksL_law_26 : cL_law.data.toList.drop 738 = dktL_law_26 := dk_seg dksL_law_25 22 rfl rfl
theorem dksL_law_27 : cL_law.data.toList.drop 761 = dktL_law_27 := dk_seg dksL_law_26 23 rfl rfl
theorem dksL_law_28 : cL_law.data.toList.drop 785 = dktL_law_28 := dk_seg dksL_law_27 24 rfl rfl
theorem dksL_law_29 : cL_law.data.toList.drop 809 = dktL_law_29 := dk_seg dksL_law_28 24 rfl rfl
theorem dksL_law_30 : cL_law.data.toList.drop 833 = dktL_law_30 := dk_seg dksL_law_29 24 rfl rfl
theorem dksL_law_31 : cL_law.data.toList.drop 856 = dktL_law_31 := dk_seg dksL_law_30 23 rfl rfl
theorem dksL_law_32 : cL_law.data.toList.drop 880 = dktL_law_32 := dk_seg dksL_law_31 24 rfl rfl
theorem dksL_law_33 : cL_law.data.toList.drop 904 = dktL_law_33 := dk_seg dksL_law_32 24 rfl rfl
theorem dksL_law_34 : cL_law.data.toList.drop 928 = dktL_law_34 := dk_seg dksL_law_33 24 rfl rfl
theorem dksL_law_35 : cL_law.data.toList.drop 952 = dktL_law_35 := dk_seg dksL_law_34 24 rfl rfl
theorem dksL_law_36 : cL_law.data.toList.drop 976 = dktL_law_36 := dk_seg dksL_law_35 24 rfl rfl
theorem dksL_law_37 : cL_law.data.toList.drop 998 = dktL_law_37 := dk_seg dksL_law_36 22 rfl rfl
theorem dksL_law_38 : cL_law.data.toList.drop 1022 = dktL_law_38 := dk_seg dksL_law_37 24 rfl rfl
theorem dksL_law_39 : cL_law.data.toList.drop 1046 = dktL_law_39 := dk_seg dksL_law_38 24 rfl rfl
theorem dksL_law_40 : cL_law.data.toList.drop 1068 = dktL_law_40 := dk_seg dksL_law_39 22 rfl rfl
theorem dksL_law_41 : cL_law.data.toList.drop 1092 = dktL_law_41 := dk_seg dksL_law_40 24 rfl rfl
theorem dksL_law_42 : cL_law.data.toList.drop 1115 = dktL_law_42 := dk_seg dksL_law_41 23 rfl rfl
theorem dksL_law_43 : cL_law.data.toList.drop 1139 = dktL_law_43 := dk_seg dksL_law_42 24 rfl rfl
theorem dksL_law_44 : cL_law.data.toList.drop 1162 = dktL_law_44 := dk_seg dksL_law_43 23 rfl rfl
theorem dksL_law_45 : cL_law.data.toList.drop 1186 = dktL_law_45 := dk_seg dksL_law_44 24 rfl rfl
theorem dksL_law_46 : cL_law.data.toList.drop 1210 = dktL_law_46 := dk_seg dksL_law_45 24 rfl rfl
theorem dksL_law_47 : cL_law.data.toList.drop 1233 = dktL_law_47 := dk_seg dksL_law_46 23 rfl rfl
theorem dksL_law_48 : cL_law.data.toList.drop 1257 = dktL_law_48 := dk_seg dksL_law_47 24 rfl rfl
theorem dksL_law_49 : cL_law.data.toList.drop 1281 = dktL_law_49 := dk_seg dksL_law_48 24 rfl rfl
theorem dksL_law_50 : cL_law.data.toList.drop 1305 = dktL_law_50 := dk_seg dksL_law_49 24 rfl rfl
theorem dksL_law_51 : cL_law.data.toList.drop 1327 = dktL_law_51 := dk_seg dksL_law_50 22 rfl rfl
theorem dL_law_0 : decode cL_law 0 = .ok (.new 8, 3) := dk_187 0 8 (dk_at dksL_law_0 0 rfl rfl)
theorem dL_law_3 : decode cL_law 3 = .ok (.dup, 1) := dk_89 (dk_at dksL_law_0 3 rfl rfl)
theorem dL_law_4 : decode cL_law 4 = .ok (.invokespecial 15, 3) := dk_183 0 15 (dk_at dksL_law_0 4 rfl rfl)
theorem dL_law_7 : decode cL_law 7 = .ok (.astore_n 1, 1) := dk_76 (dk_at dksL_law_0 7 rfl rfl)
theorem dL_law_8 : decode cL_law 8 = .ok (.new 16, 3) := dk_187 0 16 (dk_at dksL_law_0 8 rfl rfl)
theorem dL_law_11 : decode cL_law 11 = .ok (.dup, 1) := dk_89 (dk_at dksL_law_0 11 rfl rfl)
theorem dL_law_12 : decode cL_law 12 = .ok (.invokespecial 18, 3) := dk_183 0 18 (dk_at dksL_law_0 12 rfl rfl)
theorem dL_law_15 : decode cL_law 15 = .ok (.astore_n 2, 1) := dk_77 (dk_at dksL_law_0 15 rfl rfl)
theorem dL_law_16 : decode cL_law 16 = .ok (.iconst 1, 1) := dk_4 (dk_at dksL_law_0 16 rfl rfl)
theorem dL_law_17 : decode cL_law 17 = .ok (.newarray .long, 2) := dk_188_11 (dk_at dksL_law_0 17 rfl rfl)
theorem dL_law_19 : decode cL_law 19 = .ok (.astore_n 3, 1) := dk_78 (dk_at dksL_law_0 19 rfl rfl)
theorem dL_law_20 : decode cL_law 20 = .ok (.iconst 0, 1) := dk_3 (dk_at dksL_law_0 20 rfl rfl)
theorem dL_law_21 : decode cL_law 21 = .ok (.istore 4, 2) := dk_54 4 (dk_at dksL_law_0 21 rfl rfl)
theorem dL_law_23 : decode cL_law 23 = .ok (.iload 4, 2) := dk_21 4 (dk_at dksL_law_1 0 rfl rfl)
theorem dL_law_25 : decode cL_law 25 = .ok (.aload_n 0, 1) := dk_42 (dk_at dksL_law_1 2 rfl rfl)
theorem dL_law_26 : decode cL_law 26 = .ok (.arraylength, 1) := dk_190 (dk_at dksL_law_1 3 rfl rfl)
theorem dL_law_27 : decode cL_law 27 = .ok (.bipush 7, 2) := dk_16 7 (dk_at dksL_law_1 4 rfl rfl)
theorem dL_law_29 : decode cL_law 29 = .ok (.isub, 1) := dk_100 (dk_at dksL_law_1 6 rfl rfl)
theorem dL_law_30 : decode cL_law 30 = .ok (.if_icmp .gt 1300, 3) := dk_163 5 20 (dk_at dksL_law_1 7 rfl rfl)
theorem dL_law_33 : decode cL_law 33 = .ok (.aload_n 0, 1) := dk_42 (dk_at dksL_law_1 10 rfl rfl)
theorem dL_law_34 : decode cL_law 34 = .ok (.iload 4, 2) := dk_21 4 (dk_at dksL_law_1 11 rfl rfl)
theorem dL_law_36 : decode cL_law 36 = .ok (.iaload, 1) := dk_46 (dk_at dksL_law_1 13 rfl rfl)
theorem dL_law_37 : decode cL_law 37 = .ok (.bipush 63, 2) := dk_16 63 (dk_at dksL_law_1 14 rfl rfl)
theorem dL_law_39 : decode cL_law 39 = .ok (.iand, 1) := dk_126 (dk_at dksL_law_1 16 rfl rfl)
theorem dL_law_40 : decode cL_law 40 = .ok (.tableswitch 1284 0 34 #[156, 303, 316, 329, 342, 379, 416, 441, 478, 503, 528, 541, 554, 579, 604, 641, 666, 703, 740, 789, 814, 839, 852, 889, 914, 951, 976, 1001, 1026, 1070, 1083, 1108, 1157, 1206, 1259], 156) := by decide +kernel
theorem dL_law_196 : decode cL_law 196 = .ok (.aload_n 1, 1) := dk_43 (dk_at dksL_law_3 0 rfl rfl)
theorem dL_law_197 : decode cL_law 197 = .ok (.aload_n 0, 1) := dk_42 (dk_at dksL_law_3 1 rfl rfl)
theorem dL_law_198 : decode cL_law 198 = .ok (.iload 4, 2) := dk_21 4 (dk_at dksL_law_3 2 rfl rfl)
theorem dL_law_200 : decode cL_law 200 = .ok (.iconst 1, 1) := dk_4 (dk_at dksL_law_3 4 rfl rfl)
theorem dL_law_201 : decode cL_law 201 = .ok (.iadd, 1) := dk_96 (dk_at dksL_law_3 5 rfl rfl)
theorem dL_law_202 : decode cL_law 202 = .ok (.iaload, 1) := dk_46 (dk_at dksL_law_3 6 rfl rfl)
theorem dL_law_203 : decode cL_law 203 = .ok (.i2l, 1) := dk_133 (dk_at dksL_law_3 7 rfl rfl)
theorem dL_law_204 : decode cL_law 204 = .ok (.bipush 32, 2) := dk_16 32 (dk_at dksL_law_3 8 rfl rfl)
theorem dL_law_206 : decode cL_law 206 = .ok (.lshl, 1) := dk_121 (dk_at dksL_law_3 10 rfl rfl)
theorem dL_law_207 : decode cL_law 207 = .ok (.aload_n 0, 1) := dk_42 (dk_at dksL_law_3 11 rfl rfl)
theorem dL_law_208 : decode cL_law 208 = .ok (.iload 4, 2) := dk_21 4 (dk_at dksL_law_3 12 rfl rfl)
theorem dL_law_210 : decode cL_law 210 = .ok (.iconst 2, 1) := dk_5 (dk_at dksL_law_3 14 rfl rfl)
theorem dL_law_211 : decode cL_law 211 = .ok (.iadd, 1) := dk_96 (dk_at dksL_law_3 15 rfl rfl)
theorem dL_law_212 : decode cL_law 212 = .ok (.iaload, 1) := dk_46 (dk_at dksL_law_3 16 rfl rfl)
theorem dL_law_213 : decode cL_law 213 = .ok (.i2l, 1) := dk_133 (dk_at dksL_law_3 17 rfl rfl)
theorem dL_law_214 : decode cL_law 214 = .ok (.ldc2_w 19, 3) := dk_20 0 19 (dk_at dksL_law_3 18 rfl rfl)
theorem dL_law_217 : decode cL_law 217 = .ok (.land, 1) := dk_127 (dk_at dksL_law_3 21 rfl rfl)
theorem dL_law_218 : decode cL_law 218 = .ok (.lor, 1) := dk_129 (dk_at dksL_law_3 22 rfl rfl)
theorem dL_law_219 : decode cL_law 219 = .ok (.aload_n 0, 1) := dk_42 (dk_at dksL_law_3 23 rfl rfl)
theorem dL_law_220 : decode cL_law 220 = .ok (.iload 4, 2) := dk_21 4 (dk_at dksL_law_4 0 rfl rfl)
theorem dL_law_222 : decode cL_law 222 = .ok (.iconst 3, 1) := dk_6 (dk_at dksL_law_4 2 rfl rfl)
theorem dL_law_223 : decode cL_law 223 = .ok (.iadd, 1) := dk_96 (dk_at dksL_law_4 3 rfl rfl)
theorem dL_law_224 : decode cL_law 224 = .ok (.iaload, 1) := dk_46 (dk_at dksL_law_4 4 rfl rfl)
theorem dL_law_225 : decode cL_law 225 = .ok (.i2l, 1) := dk_133 (dk_at dksL_law_4 5 rfl rfl)
theorem dL_law_226 : decode cL_law 226 = .ok (.bipush 32, 2) := dk_16 32 (dk_at dksL_law_4 6 rfl rfl)
theorem dL_law_228 : decode cL_law 228 = .ok (.lshl, 1) := dk_121 (dk_at dksL_law_4 8 rfl rfl)
theorem dL_law_229 : decode cL_law 229 = .ok (.aload_n 0, 1) := dk_42 (dk_at dksL_law_4 9 rfl rfl)
theorem dL_law_230 : decode cL_law 230 = .ok (.iload 4, 2) := dk_21 4 (dk_at dksL_law_4 10 rfl rfl)
theorem dL_law_232 : decode cL_law 232 = .ok (.iconst 4, 1) := dk_7 (dk_at dksL_law_4 12 rfl rfl)
theorem dL_law_233 : decode cL_law 233 = .ok (.iadd, 1) := dk_96 (dk_at dksL_law_4 13 rfl rfl)
theorem dL_law_234 : decode cL_law 234 = .ok (.iaload, 1) := dk_46 (dk_at dksL_law_4 14 rfl rfl)
theorem dL_law_235 : decode cL_law 235 = .ok (.i2l, 1) := dk_133 (dk_at dksL_law_4 15 rfl rfl)
theorem dL_law_236 : decode cL_law 236 = .ok (.ldc2_w 19, 3) := dk_20 0 19 (dk_at dksL_law_4 16 rfl rfl)
theorem dL_law_239 : decode cL_law 239 = .ok (.land, 1) := dk_127 (dk_at dksL_law_4 19 rfl rfl)
theorem dL_law_240 : decode cL_law 240 = .ok (.lor, 1) := dk_129 (dk_at dksL_law_4 20 rfl rfl)
theorem dL_law_241 : decode cL_law 241 = .ok (.aload_n 0, 1) := dk_42 (dk_at dksL_law_4 21 rfl rfl)
theorem dL_law_242 : decode cL_law 242 = .ok (.iload 4, 2) := dk_21 4 (dk_at dksL_law_4 22 rfl rfl)
theorem dL_law_244 : decode cL_law 244 = .ok (.iconst 5, 1) := dk_8 (dk_at dksL_law_5 0 rfl rfl)
theorem dL_law_245 : decode cL_law 245 = .ok (.iadd, 1) := dk_96 (dk_at dksL_law_5 1 rfl rfl)
theorem dL_law_246 : decode cL_law 246 = .ok (.iaload, 1) := dk_46 (dk_at dksL_law_5 2 rfl rfl)
theorem dL_law_247 : decode cL_law 247 = .ok (.i2l, 1) := dk_133 (dk_at dksL_law_5 3 rfl rfl)
theorem dL_law_248 : decode cL_law 248 = .ok (.bipush 32, 2) := dk_16 32 (dk_at dksL_law_5 4 rfl rfl)
theorem dL_law_250 : decode cL_law 250 = .ok (.lshl, 1) := dk_121 (dk_at dksL_law_5 6 rfl rfl)
theorem dL_law_251 : decode cL_law 251 = .ok (.aload_n 0, 1) := dk_42 (dk_at dksL_law_5 7 rfl rfl)
theorem dL_law_252 : decode cL_law 252 = .ok (.iload 4, 2) := dk_21 4 (dk_at dksL_law_5 8 rfl rfl)
theorem dL_law_254 : decode cL_law 254 = .ok (.bipush 6, 2) := dk_16 6 (dk_at dksL_law_5 10 rfl rfl)
theorem dL_law_256 : decode cL_law 256 = .ok (.iadd, 1) := dk_96 (dk_at dksL_law_5 12 rfl rfl)
theorem dL_law_257 : decode cL_law 257 = .ok (.iaload, 1) := dk_46 (dk_at dksL_law_5 13 rfl rfl)
theorem dL_law_258 : decode cL_law 258 = .ok (.i2l, 1) := dk_133 (dk_at dksL_law_5 14 rfl rfl)
theorem dL_law_259 : decode cL_law 259 = .ok (.ldc2_w 19, 3) := dk_20 0 19 (dk_at dksL_law_5 15 rfl rfl)
theorem dL_law_262 : decode cL_law 262 = .ok (.land, 1) := dk_127 (dk_at dksL_law_5 18 rfl rfl)
theorem dL_law_263 : decode cL_law 263 = .ok (.lor, 1) := dk_129 (dk_at dksL_law_5 19 rfl rfl)
theorem dL_law_264 : decode cL_law 264 = .ok (.invokevirtual 21, 3) := dk_182 0 21 (dk_at dksL_law_5 20 rfl rfl)
theorem dL_law_267 : decode cL_law 267 = .ok (.aload_n 2, 1) := dk_44 (dk_at dksL_law_5 23 rfl rfl)
theorem dL_law_268 : decode cL_law 268 = .ok (.aload_n 0, 1) := dk_42 (dk_at dksL_law_6 0 rfl rfl)
theorem dL_law_269 : decode cL_law 269 = .ok (.iload 4, 2) := dk_21 4 (dk_at dksL_law_6 1 rfl rfl)
theorem dL_law_271 : decode cL_law 271 = .ok (.iconst 1, 1) := dk_4 (dk_at dksL_law_6 3 rfl rfl)
theorem dL_law_272 : decode cL_law 272 = .ok (.iadd, 1) := dk_96 (dk_at dksL_law_6 4 rfl rfl)
theorem dL_law_273 : decode cL_law 273 = .ok (.iaload, 1) := dk_46 (dk_at dksL_law_6 5 rfl rfl)
theorem dL_law_274 : decode cL_law 274 = .ok (.i2l, 1) := dk_133 (dk_at dksL_law_6 6 rfl rfl)
theorem dL_law_275 : decode cL_law 275 = .ok (.bipush 32, 2) := dk_16 32 (dk_at dksL_law_6 7 rfl rfl)
theorem dL_law_277 : decode cL_law 277 = .ok (.lshl, 1) := dk_121 (dk_at dksL_law_6 9 rfl rfl)
theorem dL_law_278 : decode cL_law 278 = .ok (.aload_n 0, 1) := dk_42 (dk_at dksL_law_6 10 rfl rfl)
theorem dL_law_279 : decode cL_law 279 = .ok (.iload 4, 2) := dk_21 4 (dk_at dksL_law_6 11 rfl rfl)
theorem dL_law_281 : decode cL_law 281 = .ok (.iconst 2, 1) := dk_5 (dk_at dksL_law_6 13 rfl rfl)
theorem dL_law_282 : decode cL_law 282 = .ok (.iadd, 1) := dk_96 (dk_at dksL_law_6 14 rfl rfl)
theorem dL_law_283 : decode cL_law 283 = .ok (.iaload, 1) := dk_46 (dk_at dksL_law_6 15 rfl rfl)
theorem dL_law_284 : decode cL_law 284 = .ok (.i2l, 1) := dk_133 (dk_at dksL_law_6 16 rfl rfl)
theorem dL_law_285 : decode cL_law 285 = .ok (.ldc2_w 19, 3) := dk_20 0 19 (dk_at dksL_law_6 17 rfl rfl)
theorem dL_law_288 : decode cL_law 288 = .ok (.land, 1) := dk_127 (dk_at dksL_law_6 20 rfl rfl)
theorem dL_law_289 : decode cL_law 289 = .ok (.lor, 1) := dk_129 (dk_at dksL_law_6 21 rfl rfl)
theorem dL_law_290 : decode cL_law 290 = .ok (.aload_n 0, 1) := dk_42 (dk_at dksL_law_6 22 rfl rfl)
theorem dL_law_291 : decode cL_law 291 = .ok (.iload 4, 2) := dk_21 4 (dk_at dksL_law_7 0 rfl rfl)
theorem dL_law_293 : decode cL_law 293 = .ok (.iconst 3, 1) := dk_6 (dk_at dksL_law_7 2 rfl rfl)
theorem dL_law_294 : decode cL_law 294 = .ok (.iadd, 1) := dk_96 (dk_at dksL_law_7 3 rfl rfl)
theorem dL_law_295 : decode cL_law 295 = .ok (.iaload, 1) := dk_46 (dk_at dksL_law_7 4 rfl rfl)
theorem dL_law_296 : decode cL_law 296 = .ok (.i2l, 1) := dk_133 (dk_at dksL_law_7 5 rfl rfl)
theorem dL_law_297 : decode cL_law 297 = .ok (.bipush 32, 2) := dk_16 32 (dk_at dksL_law_7 6 rfl rfl)
theorem dL_law_299 : decode cL_law 299 = .ok (.lshl, 1) := dk_121 (dk_at dksL_law_7 8 rfl rfl)
theorem dL_law_300 : decode cL_law 300 = .ok (.aload_n 0, 1) := dk_42 (dk_at dksL_law_7 9 rfl rfl)
theorem dL_law_301 : decode cL_law 301 = .ok (.iload 4, 2) := dk_21 4 (dk_at dksL_law_7 10 rfl rfl)
theorem dL_law_303 : decode cL_law 303 = .ok (.iconst 4, 1) := dk_7 (dk_at dksL_law_7 12 rfl rfl)
theorem dL_law_304 : decode cL_law 304 = .ok (.iadd, 1) := dk_96 (dk_at dksL_law_7 13 rfl rfl)
theorem dL_law_305 : decode cL_law 305 = .ok (.iaload, 1) := dk_46 (dk_at dksL_law_7 14 rfl rfl)
theorem dL_law_306 : decode cL_law 306 = .ok (.i2l, 1) := dk_133 (dk_at dksL_law_7 15 rfl rfl)
theorem dL_law_307 : decode cL_law 307 = .ok (.ldc2_w 19, 3) := dk_20 0 19 (dk_at dksL_law_7 16 rfl rfl)
theorem dL_law_310 : decode cL_law 310 = .ok (.land, 1) := dk_127 (dk_at dksL_law_7 19 rfl rfl)
theorem dL_law_311 : decode cL_law 311 = .ok (.lor, 1) := dk_129 (dk_at dksL_law_7 20 rfl rfl)
theorem dL_law_312 : decode cL_law 312 = .ok (.aload_n 0, 1) := dk_42 (dk_at dksL_law_7 21 rfl rfl)
theorem dL_law_313 : decode cL_law 313 = .ok (.iload 4, 2) := dk_21 4 (dk_at dksL_law_7 22 rfl rfl)
theorem dL_law_315 : decode cL_law 315 = .ok (.iconst 5, 1) := dk_8 (dk_at dksL_law_8 0 rfl rfl)
theorem dL_law_316 : decode cL_law 316 = .ok (.iadd, 1) := dk_96 (dk_at dksL_law_8 1 rfl rfl)
theorem dL_law_317 : decode cL_law 317 = .ok (.iaload, 1) := dk_46 (dk_at dksL_law_8 2 rfl rfl)
theorem dL_law_318 : decode cL_law 318 = .ok (.i2l, 1) := dk_133 (dk_at dksL_law_8 3 rfl rfl)
theorem dL_law_319 : decode cL_law 319 = .ok (.bipush 32, 2) := dk_16 32 (dk_at dksL_law_8 4 rfl rfl)
theorem dL_law_321 : decode cL_law 321 = .ok (.lshl, 1) := dk_121 (dk_at dksL_law_8 6 rfl rfl)
theorem dL_law_322 : decode cL_law 322 = .ok (.aload_n 0, 1) := dk_42 (dk_at dksL_law_8 7 rfl rfl)
theorem dL_law_323 : decode cL_law 323 = .ok (.iload 4, 2) := dk_21 4 (dk_at dksL_law_8 8 rfl rfl)
theorem dL_law_325 : decode cL_law 325 = .ok (.bipush 6, 2) := dk_16 6 (dk_at dksL_law_8 10 rfl rfl)
theorem dL_law_327 : decode cL_law 327 = .ok (.iadd, 1) := dk_96 (dk_at dksL_law_8 12 rfl rfl)
theorem dL_law_328 : decode cL_law 328 = .ok (.iaload, 1) := dk_46 (dk_at dksL_law_8 13 rfl rfl)
theorem dL_law_329 : decode cL_law 329 = .ok (.i2l, 1) := dk_133 (dk_at dksL_law_8 14 rfl rfl)
theorem dL_law_330 : decode cL_law 330 = .ok (.ldc2_w 19, 3) := dk_20 0 19 (dk_at dksL_law_8 15 rfl rfl)
theorem dL_law_333 : decode cL_law 333 = .ok (.land, 1) := dk_127 (dk_at dksL_law_8 18 rfl rfl)
theorem dL_law_334 : decode cL_law 334 = .ok (.lor, 1) := dk_129 (dk_at dksL_law_8 19 rfl rfl)
theorem dL_law_335 : decode cL_law 335 = .ok (.invokevirtual 25, 3) := dk_182 0 25 (dk_at dksL_law_8 20 rfl rfl)
theorem dL_law_338 : decode cL_law 338 = .ok (.if_icmp .eq 986, 3) := dk_159 3 218 (dk_at dksL_law_9 0 rfl rfl)
theorem dL_law_341 : decode cL_law 341 = .ok (.iconst 0, 1) := dk_3 (dk_at dksL_law_9 3 rfl rfl)
theorem dL_law_342 : decode cL_law 342 = .ok (.ireturn, 1) := dk_172 (dk_at dksL_law_9 4 rfl rfl)
theorem dL_law_343 : decode cL_law 343 = .ok (.aload_n 1, 1) := dk_43 (dk_at dksL_law_9 5 rfl rfl)
theorem dL_law_344 : decode cL_law 344 = .ok (.invokevirtual 26, 3) := dk_182 0 26 (dk_at dksL_law_9 6 rfl rfl)
theorem dL_law_347 : decode cL_law 347 = .ok (.aload_n 2, 1) := dk_44 (dk_at dksL_law_9 9 rfl rfl)
theorem dL_law_348 : decode cL_law 348 = .ok (.invokevirtual 29, 3) := dk_182 0 29 (dk_at dksL_law_9 10 rfl rfl)
theorem dL_law_351 : decode cL_law 351 = .ok (.if_icmp .eq 973, 3) := dk_159 3 205 (dk_at dksL_law_9 13 rfl rfl)
theorem dL_law_354 : decode cL_law 354 = .ok (.iconst 0, 1) := dk_3 (dk_at dksL_law_9 16 rfl rfl)
theorem dL_law_355 : decode cL_law 355 = .ok (.ireturn, 1) := dk_172 (dk_at dksL_law_9 17 rfl rfl)
theorem dL_law_356 : decode cL_law 356 = .ok (.aload_n 1, 1) := dk_43 (dk_at dksL_law_9 18 rfl rfl)
theorem dL_law_357 : decode cL_law 357 = .ok (.invokevirtual 30, 3) := dk_182 0 30 (dk_at dksL_law_9 19 rfl rfl)
theorem dL_law_360 : decode cL_law 360 = .ok (.aload_n 2, 1) := dk_44 (dk_at dksL_law_9 22 rfl rfl)
theorem dL_law_361 : decode cL_law 361 = .ok (.invokevirtual 33, 3) := dk_182 0 33 (dk_at dksL_law_10 0 rfl rfl)
theorem dL_law_364 : decode cL_law 364 = .ok (.if_icmp .eq 960, 3) := dk_159 3 192 (dk_at dksL_law_10 3 rfl rfl)
theorem dL_law_367 : decode cL_law 367 = .ok (.iconst 0, 1) := dk_3 (dk_at dksL_law_10 6 rfl rfl)
theorem dL_law_368 : decode cL_law 368 = .ok (.ireturn, 1) := dk_172 (dk_at dksL_law_10 7 rfl rfl)
theorem dL_law_369 : decode cL_law 369 = .ok (.aload_n 1, 1) := dk_43 (dk_at dksL_law_10 8 rfl rfl)
theorem dL_law_370 : decode cL_law 370 = .ok (.invokevirtual 34, 3) := dk_182 0 34 (dk_at dksL_law_10 9 rfl rfl)
theorem dL_law_373 : decode cL_law 373 = .ok (.aload_n 2, 1) := dk_44 (dk_at dksL_law_10 12 rfl rfl)
theorem dL_law_374 : decode cL_law 374 = .ok (.invokevirtual 37, 3) := dk_182 0 37 (dk_at dksL_law_10 13 rfl rfl)
theorem dL_law_377 : decode cL_law 377 = .ok (.if_icmp .eq 947, 3) := dk_159 3 179 (dk_at dksL_law_10 16 rfl rfl)
theorem dL_law_380 : decode cL_law 380 = .ok (.iconst 0, 1) := dk_3 (dk_at dksL_law_10 19 rfl rfl)
theorem dL_law_381 : decode cL_law 381 = .ok (.ireturn, 1) := dk_172 (dk_at dksL_law_10 20 rfl rfl)
theorem dL_law_382 : decode cL_law 382 = .ok (.aload_n 1, 1) := dk_43 (dk_at dksL_law_10 21 rfl rfl)
theorem dL_law_383 : decode cL_law 383 = .ok (.aload_n 0, 1) := dk_42 (dk_at dksL_law_10 22 rfl rfl)
theorem dL_law_384 : decode cL_law 384 = .ok (.iload 4, 2) := dk_21 4 (dk_at dksL_law_11 0 rfl rfl)
theorem dL_law_386 : decode cL_law 386 = .ok (.iconst 1, 1) := dk_4 (dk_at dksL_law_11 2 rfl rfl)
theorem dL_law_387 : decode cL_law 387 = .ok (.iadd, 1) := dk_96 (dk_at dksL_law_11 3 rfl rfl)
theorem dL_law_388 : decode cL_law 388 = .ok (.iaload, 1) := dk_46 (dk_at dksL_law_11 4 rfl rfl)
theorem dL_law_389 : decode cL_law 389 = .ok (.aload_n 0, 1) := dk_42 (dk_at dksL_law_11 5 rfl rfl)
theorem dL_law_390 : decode cL_law 390 = .ok (.iload 4, 2) := dk_21 4 (dk_at dksL_law_11 6 rfl rfl)
theorem dL_law_392 : decode cL_law 392 = .ok (.iconst 2, 1) := dk_5 (dk_at dksL_law_11 8 rfl rfl)
theorem dL_law_393 : decode cL_law 393 = .ok (.iadd, 1) := dk_96 (dk_at dksL_law_11 9 rfl rfl)
theorem dL_law_394 : decode cL_law 394 = .ok (.iaload, 1) := dk_46 (dk_at dksL_law_11 10 rfl rfl)
theorem dL_law_395 : decode cL_law 395 = .ok (.invokevirtual 38, 3) := dk_182 0 38 (dk_at dksL_law_11 11 rfl rfl)
theorem dL_law_398 : decode cL_law 398 = .ok (.aload_n 2, 1) := dk_44 (dk_at dksL_law_11 14 rfl rfl)
theorem dL_law_399 : decode cL_law 399 = .ok (.aload_n 0, 1) := dk_42 (dk_at dksL_law_11 15 rfl rfl)
theorem dL_law_400 : decode cL_law 400 = .ok (.iload 4, 2) := dk_21 4 (dk_at dksL_law_11 16 rfl rfl)
theorem dL_law_402 : decode cL_law 402 = .ok (.iconst 1, 1) := dk_4 (dk_at dksL_law_11 18 rfl rfl)
theorem dL_law_403 : decode cL_law 403 = .ok (.iadd, 1) := dk_96 (dk_at dksL_law_11 19 rfl rfl)
theorem dL_law_404 : decode cL_law 404 = .ok (.iaload, 1) := dk_46 (dk_at dksL_law_11 20 rfl rfl)
theorem dL_law_405 : decode cL_law 405 = .ok (.aload_n 0, 1) := dk_42 (dk_at dksL_law_11 21 rfl rfl)
theorem dL_law_406 : decode cL_law 406 = .ok (.iload 4, 2) := dk_21 4 (dk_at dksL_law_11 22 rfl rfl)
theorem dL_law_408 : decode cL_law 408 = .ok (.iconst 2, 1) := dk_5 (dk_at dksL_law_12 0 rfl rfl)
theorem dL_law_409 : decode cL_law 409 = .ok (.iadd, 1) := dk_96 (dk_at dksL_law_12 1 rfl rfl)
theorem dL_law_410 : decode cL_law 410 = .ok (.iaload, 1) := dk_46 (dk_at dksL_law_12 2 rfl rfl)
theorem dL_law_411 : decode cL_law 411 = .ok (.invokevirtual 42, 3) := dk_182 0 42 (dk_at dksL_law_12 3 rfl rfl)
theorem dL_law_414 : decode cL_law 414 = .ok (.if_icmp .eq 910, 3) := dk_159 3 142 (dk_at dksL_law_12 6 rfl rfl)
theorem dL_law_417 : decode cL_law 417 = .ok (.iconst 0, 1) := dk_3 (dk_at dksL_law_12 9 rfl rfl)
theorem dL_law_418 : decode cL_law 418 = .ok (.ireturn, 1) := dk_172 (dk_at dksL_law_12 10 rfl rfl)
theorem dL_law_419 : decode cL_law 419 = .ok (.aload_n 1, 1) := dk_43 (dk_at dksL_law_12 11 rfl rfl)
theorem dL_law_420 : decode cL_law 420 = .ok (.aload_n 0, 1) := dk_42 (dk_at dksL_law_12 12 rfl rfl)
theorem dL_law_421 : decode cL_law 421 = .ok (.iload 4, 2) := dk_21 4 (dk_at dksL_law_12 13 rfl rfl)
theorem dL_law_423 : decode cL_law 423 = .ok (.iconst 1, 1) := dk_4 (dk_at dksL_law_12 15 rfl rfl)
theorem dL_law_424 : decode cL_law 424 = .ok (.iadd, 1) := dk_96 (dk_at dksL_law_12 16 rfl rfl)
theorem dL_law_425 : decode cL_law 425 = .ok (.iaload, 1) := dk_46 (dk_at dksL_law_12 17 rfl rfl)
theorem dL_law_426 : decode cL_law 426 = .ok (.aload_n 0, 1) := dk_42 (dk_at dksL_law_12 18 rfl rfl)
theorem dL_law_427 : decode cL_law 427 = .ok (.iload 4, 2) := dk_21 4 (dk_at dksL_law_12 19 rfl rfl)
theorem dL_law_429 : decode cL_law 429 = .ok (.iconst 2, 1) := dk_5 (dk_at dksL_law_12 21 rfl rfl)
theorem dL_law_430 : decode cL_law 430 = .ok (.iadd, 1) := dk_96 (dk_at dksL_law_12 22 rfl rfl)
theorem dL_law_431 : decode cL_law 431 = .ok (.iaload, 1) := dk_46 (dk_at dksL_law_12 23 rfl rfl)
theorem dL_law_432 : decode cL_law 432 = .ok (.invokevirtual 43, 3) := dk_182 0 43 (dk_at dksL_law_13 0 rfl rfl)
theorem dL_law_435 : decode cL_law 435 = .ok (.aload_n 2, 1) := dk_44 (dk_at dksL_law_13 3 rfl rfl)
theorem dL_law_436 : decode cL_law 436 = .ok (.aload_n 0, 1) := dk_42 (dk_at dksL_law_13 4 rfl rfl)
theorem dL_law_437 : decode cL_law 437 = .ok (.iload 4, 2) := dk_21 4 (dk_at dksL_law_13 5 rfl rfl)
theorem dL_law_439 : decode cL_law 439 = .ok (.iconst 1, 1) := dk_4 (dk_at dksL_law_13 7 rfl rfl)
theorem dL_law_440 : decode cL_law 440 = .ok (.iadd, 1) := dk_96 (dk_at dksL_law_13 8 rfl rfl)
theorem dL_law_441 : decode cL_law 441 = .ok (.iaload, 1) := dk_46 (dk_at dksL_law_13 9 rfl rfl)
theorem dL_law_442 : decode cL_law 442 = .ok (.aload_n 0, 1) := dk_42 (dk_at dksL_law_13 10 rfl rfl)
theorem dL_law_443 : decode cL_law 443 = .ok (.iload 4, 2) := dk_21 4 (dk_at dksL_law_13 11 rfl rfl)
theorem dL_law_445 : decode cL_law 445 = .ok (.iconst 2, 1) := dk_5 (dk_at dksL_law_13 13 rfl rfl)
theorem dL_law_446 : decode cL_law 446 = .ok (.iadd, 1) := dk_96 (dk_at dksL_law_13 14 rfl rfl)
theorem dL_law_447 : decode cL_law 447 = .ok (.iaload, 1) := dk_46 (dk_at dksL_law_13 15 rfl rfl)
theorem dL_law_448 : decode cL_law 448 = .ok (.invokevirtual 46, 3) := dk_182 0 46 (dk_at dksL_law_13 16 rfl rfl)
theorem dL_law_451 : decode cL_law 451 = .ok (.if_icmp .eq 873, 3) := dk_159 3 105 (dk_at dksL_law_13 19 rfl rfl)
theorem dL_law_454 : decode cL_law 454 = .ok (.iconst 0, 1) := dk_3 (dk_at dksL_law_13 22 rfl rfl)
theorem dL_law_455 : decode cL_law 455 = .ok (.ireturn, 1) := dk_172 (dk_at dksL_law_13 23 rfl rfl)
theorem dL_law_456 : decode cL_law 456 = .ok (.aload_n 1, 1) := dk_43 (dk_at dksL_law_14 0 rfl rfl)
theorem dL_law_457 : decode cL_law 457 = .ok (.aload_n 0, 1) := dk_42 (dk_at dksL_law_14 1 rfl rfl)
theorem dL_law_458 : decode cL_law 458 = .ok (.iload 4, 2) := dk_21 4 (dk_at dksL_law_14 2 rfl rfl)
theorem dL_law_460 : decode cL_law 460 = .ok (.iconst 1, 1) := dk_4 (dk_at dksL_law_14 4 rfl rfl)
theorem dL_law_461 : decode cL_law 461 = .ok (.iadd, 1) := dk_96 (dk_at dksL_law_14 5 rfl rfl)
theorem dL_law_462 : decode cL_law 462 = .ok (.iaload, 1) := dk_46 (dk_at dksL_law_14 6 rfl rfl)
theorem dL_law_463 : decode cL_law 463 = .ok (.invokevirtual 47, 3) := dk_182 0 47 (dk_at dksL_law_14 7 rfl rfl)
theorem dL_law_466 : decode cL_law 466 = .ok (.aload_n 2, 1) := dk_44 (dk_at dksL_law_14 10 rfl rfl)
theorem dL_law_467 : decode cL_law 467 = .ok (.aload_n 0, 1) := dk_42 (dk_at dksL_law_14 11 rfl rfl)
theorem dL_law_468 : decode cL_law 468 = .ok (.iload 4, 2) := dk_21 4 (dk_at dksL_law_14 12 rfl rfl)
theorem dL_law_470 : decode cL_law 470 = .ok (.iconst 1, 1) := dk_4 (dk_at dksL_law_14 14 rfl rfl)
theorem dL_law_471 : decode cL_law 471 = .ok (.iadd, 1) := dk_96 (dk_at dksL_law_14 15 rfl rfl)
theorem dL_law_472 : decode cL_law 472 = .ok (.iaload, 1) := dk_46 (dk_at dksL_law_14 16 rfl rfl)
theorem dL_law_473 : decode cL_law 473 = .ok (.invokevirtual 51, 3) := dk_182 0 51 (dk_at dksL_law_14 17 rfl rfl)
theorem dL_law_476 : decode cL_law 476 = .ok (.if_icmp .eq 848, 3) := dk_159 3 80 (dk_at dksL_law_14 20 rfl rfl)
theorem dL_law_479 : decode cL_law 479 = .ok (.iconst 0, 1) := dk_3 (dk_at dksL_law_14 23 rfl rfl)
theorem dL_law_480 : decode cL_law 480 = .ok (.ireturn, 1) := dk_172 (dk_at dksL_law_15 0 rfl rfl)
theorem dL_law_481 : decode cL_law 481 = .ok (.aload_n 1, 1) := dk_43 (dk_at dksL_law_15 1 rfl rfl)
theorem dL_law_482 : decode cL_law 482 = .ok (.aload_n 0, 1) := dk_42 (dk_at dksL_law_15 2 rfl rfl)
theorem dL_law_483 : decode cL_law 483 = .ok (.iload 4, 2) := dk_21 4 (dk_at dksL_law_15 3 rfl rfl)
theorem dL_law_485 : decode cL_law 485 = .ok (.iconst 1, 1) := dk_4 (dk_at dksL_law_15 5 rfl rfl)
theorem dL_law_486 : decode cL_law 486 = .ok (.iadd, 1) := dk_96 (dk_at dksL_law_15 6 rfl rfl)
theorem dL_law_487 : decode cL_law 487 = .ok (.iaload, 1) := dk_46 (dk_at dksL_law_15 7 rfl rfl)
theorem dL_law_488 : decode cL_law 488 = .ok (.aload_n 0, 1) := dk_42 (dk_at dksL_law_15 8 rfl rfl)
theorem dL_law_489 : decode cL_law 489 = .ok (.iload 4, 2) := dk_21 4 (dk_at dksL_law_15 9 rfl rfl)
theorem dL_law_491 : decode cL_law 491 = .ok (.iconst 2, 1) := dk_5 (dk_at dksL_law_15 11 rfl rfl)
theorem dL_law_492 : decode cL_law 492 = .ok (.iadd, 1) := dk_96 (dk_at dksL_law_15 12 rfl rfl)
theorem dL_law_493 : decode cL_law 493 = .ok (.iaload, 1) := dk_46 (dk_at dksL_law_15 13 rfl rfl)
theorem dL_law_494 : decode cL_law 494 = .ok (.invokevirtual 52, 3) := dk_182 0 52 (dk_at dksL_law_15 14 rfl rfl)
theorem dL_law_497 : decode cL_law 497 = .ok (.aload_n 2, 1) := dk_44 (dk_at dksL_law_15 17 rfl rfl)
theorem dL_law_498 : decode cL_law 498 = .ok (.aload_n 0, 1) := dk_42 (dk_at dksL_law_15 18 rfl rfl)
theorem dL_law_499 : decode cL_law 499 = .ok (.iload 4, 2) := dk_21 4 (dk_at dksL_law_15 19 rfl rfl)
theorem dL_law_501 : decode cL_law 501 = .ok (.iconst 1, 1) := dk_4 (dk_at dksL_law_15 21 rfl rfl)
theorem dL_law_502 : decode cL_law 502 = .ok (.iadd, 1) := dk_96 (dk_at dksL_law_15 22 rfl rfl)
theorem dL_law_503 : decode cL_law 503 = .ok (.iaload, 1) := dk_46 (dk_at dksL_law_15 23 rfl rfl)
theorem dL_law_504 : decode cL_law 504 = .ok (.aload_n 0, 1) := dk_42 (dk_at dksL_law_16 0 rfl rfl)
theorem dL_law_505 : decode cL_law 505 = .ok (.iload 4, 2) := dk_21 4 (dk_at dksL_law_16 1 rfl rfl)
theorem dL_law_507 : decode cL_law 507 = .ok (.iconst 2, 1) := dk_5 (dk_at dksL_law_16 3 rfl rfl)
theorem dL_law_508 : decode cL_law 508 = .ok (.iadd, 1) := dk_96 (dk_at dksL_law_16 4 rfl rfl)
theorem dL_law_509 : decode cL_law 509 = .ok (.iaload, 1) := dk_46 (dk_at dksL_law_16 5 rfl rfl)
theorem dL_law_510 : decode cL_law 510 = .ok (.invokevirtual 55, 3) := dk_182 0 55 (dk_at dksL_law_16 6 rfl rfl)
theorem dL_law_513 : decode cL_law 513 = .ok (.if_icmp .eq 811, 3) := dk_159 3 43 (dk_at dksL_law_16 9 rfl rfl)
theorem dL_law_516 : decode cL_law 516 = .ok (.iconst 0, 1) := dk_3 (dk_at dksL_law_16 12 rfl rfl)
theorem dL_law_517 : decode cL_law 517 = .ok (.ireturn, 1) := dk_172 (dk_at dksL_law_16 13 rfl rfl)
theorem dL_law_518 : decode cL_law 518 = .ok (.aload_n 1, 1) := dk_43 (dk_at dksL_law_16 14 rfl rfl)
theorem dL_law_519 : decode cL_law 519 = .ok (.aload_n 0, 1) := dk_42 (dk_at dksL_law_16 15 rfl rfl)
theorem dL_law_520 : decode cL_law 520 = .ok (.iload 4, 2) := dk_21 4 (dk_at dksL_law_16 16 rfl rfl)
theorem dL_law_522 : decode cL_law 522 = .ok (.iconst 1, 1) := dk_4 (dk_at dksL_law_16 18 rfl rfl)
theorem dL_law_523 : decode cL_law 523 = .ok (.iadd, 1) := dk_96 (dk_at dksL_law_16 19 rfl rfl)
theorem dL_law_524 : decode cL_law 524 = .ok (.iaload, 1) := dk_46 (dk_at dksL_law_16 20 rfl rfl)
theorem dL_law_525 : decode cL_law 525 = .ok (.invokevirtual 56, 3) := dk_182 0 56 (dk_at dksL_law_16 21 rfl rfl)
theorem dL_law_528 : decode cL_law 528 = .ok (.aload_n 2, 1) := dk_44 (dk_at dksL_law_17 0 rfl rfl)
theorem dL_law_529 : decode cL_law 529 = .ok (.aload_n 0, 1) := dk_42 (dk_at dksL_law_17 1 rfl rfl)
theorem dL_law_530 : decode cL_law 530 = .ok (.iload 4, 2) := dk_21 4 (dk_at dksL_law_17 2 rfl rfl)
theorem dL_law_532 : decode cL_law 532 = .ok (.iconst 1, 1) := dk_4 (dk_at dksL_law_17 4 rfl rfl)
theorem dL_law_533 : decode cL_law 533 = .ok (.iadd, 1) := dk_96 (dk_at dksL_law_17 5 rfl rfl)
theorem dL_law_534 : decode cL_law 534 = .ok (.iaload, 1) := dk_46 (dk_at dksL_law_17 6 rfl rfl)
theorem dL_law_535 : decode cL_law 535 = .ok (.invokevirtual 59, 3) := dk_182 0 59 (dk_at dksL_law_17 7 rfl rfl)
theorem dL_law_538 : decode cL_law 538 = .ok (.if_icmp .eq 786, 3) := dk_159 3 18 (dk_at dksL_law_17 10 rfl rfl)
theorem dL_law_541 : decode cL_law 541 = .ok (.iconst 0, 1) := dk_3 (dk_at dksL_law_17 13 rfl rfl)
theorem dL_law_542 : decode cL_law 542 = .ok (.ireturn, 1) := dk_172 (dk_at dksL_law_17 14 rfl rfl)
theorem dL_law_543 : decode cL_law 543 = .ok (.aload_n 1, 1) := dk_43 (dk_at dksL_law_17 15 rfl rfl)
theorem dL_law_544 : decode cL_law 544 = .ok (.aload_n 0, 1) := dk_42 (dk_at dksL_law_17 16 rfl rfl)
theorem dL_law_545 : decode cL_law 545 = .ok (.iload 4, 2) := dk_21 4 (dk_at dksL_law_17 17 rfl rfl)
theorem dL_law_547 : decode cL_law 547 = .ok (.iconst 1, 1) := dk_4 (dk_at dksL_law_17 19 rfl rfl)
theorem dL_law_548 : decode cL_law 548 = .ok (.iadd, 1) := dk_96 (dk_at dksL_law_17 20 rfl rfl)
theorem dL_law_549 : decode cL_law 549 = .ok (.iaload, 1) := dk_46 (dk_at dksL_law_17 21 rfl rfl)
theorem dL_law_550 : decode cL_law 550 = .ok (.invokevirtual 60, 3) := dk_182 0 60 (dk_at dksL_law_18 0 rfl rfl)
theorem dL_law_553 : decode cL_law 553 = .ok (.aload_n 2, 1) := dk_44 (dk_at dksL_law_18 3 rfl rfl)
theorem dL_law_554 : decode cL_law 554 = .ok (.aload_n 0, 1) := dk_42 (dk_at dksL_law_18 4 rfl rfl)
theorem dL_law_555 : decode cL_law 555 = .ok (.iload 4, 2) := dk_21 4 (dk_at dksL_law_18 5 rfl rfl)
theorem dL_law_557 : decode cL_law 557 = .ok (.iconst 1, 1) := dk_4 (dk_at dksL_law_18 7 rfl rfl)
theorem dL_law_558 : decode cL_law 558 = .ok (.iadd, 1) := dk_96 (dk_at dksL_law_18 8 rfl rfl)
theorem dL_law_559 : decode cL_law 559 = .ok (.iaload, 1) := dk_46 (dk_at dksL_law_18 9 rfl rfl)
theorem dL_law_560 : decode cL_law 560 = .ok (.invokevirtual 64, 3) := dk_182 0 64 (dk_at dksL_law_18 10 rfl rfl)
theorem dL_law_563 : decode cL_law 563 = .ok (.if_icmp .eq 761, 3) := dk_159 2 249 (dk_at dksL_law_18 13 rfl rfl)
theorem dL_law_566 : decode cL_law 566 = .ok (.iconst 0, 1) := dk_3 (dk_at dksL_law_18 16 rfl rfl)
theorem dL_law_567 : decode cL_law 567 = .ok (.ireturn, 1) := dk_172 (dk_at dksL_law_18 17 rfl rfl)
theorem dL_law_568 : decode cL_law 568 = .ok (.aload_n 1, 1) := dk_43 (dk_at dksL_law_18 18 rfl rfl)
theorem dL_law_569 : decode cL_law 569 = .ok (.invokevirtual 65, 3) := dk_182 0 65 (dk_at dksL_law_18 19 rfl rfl)
theorem dL_law_572 : decode cL_law 572 = .ok (.aload_n 2, 1) := dk_44 (dk_at dksL_law_18 22 rfl rfl)
theorem dL_law_573 : decode cL_law 573 = .ok (.invokevirtual 69, 3) := dk_182 0 69 (dk_at dksL_law_19 0 rfl rfl)
theorem dL_law_576 : decode cL_law 576 = .ok (.if_icmp .eq 748, 3) := dk_159 2 236 (dk_at dksL_law_19 3 rfl rfl)
theorem dL_law_579 : decode cL_law 579 = .ok (.iconst 0, 1) := dk_3 (dk_at dksL_law_19 6 rfl rfl)
theorem dL_law_580 : decode cL_law 580 = .ok (.ireturn, 1) := dk_172 (dk_at dksL_law_19 7 rfl rfl)
theorem dL_law_581 : decode cL_law 581 = .ok (.aload_n 1, 1) := dk_43 (dk_at dksL_law_19 8 rfl rfl)
theorem dL_law_582 : decode cL_law 582 = .ok (.invokevirtual 70, 3) := dk_182 0 70 (dk_at dksL_law_19 9 rfl rfl)
theorem dL_law_585 : decode cL_law 585 = .ok (.aload_n 2, 1) := dk_44 (dk_at dksL_law_19 12 rfl rfl)
theorem dL_law_586 : decode cL_law 586 = .ok (.invokevirtual 73, 3) := dk_182 0 73 (dk_at dksL_law_19 13 rfl rfl)
theorem dL_law_589 : decode cL_law 589 = .ok (.if_icmp .eq 735, 3) := dk_159 2 223 (dk_at dksL_law_19 16 rfl rfl)
theorem dL_law_592 : decode cL_law 592 = .ok (.iconst 0, 1) := dk_3 (dk_at dksL_law_19 19 rfl rfl)
theorem dL_law_593 : decode cL_law 593 = .ok (.ireturn, 1) := dk_172 (dk_at dksL_law_19 20 rfl rfl)
theorem dL_law_594 : decode cL_law 594 = .ok (.aload_n 1, 1) := dk_43 (dk_at dksL_law_19 21 rfl rfl)
theorem dL_law_595 : decode cL_law 595 = .ok (.aload_n 0, 1) := dk_42 (dk_at dksL_law_19 22 rfl rfl)
theorem dL_law_596 : decode cL_law 596 = .ok (.iload 4, 2) := dk_21 4 (dk_at dksL_law_20 0 rfl rfl)
theorem dL_law_598 : decode cL_law 598 = .ok (.iconst 1, 1) := dk_4 (dk_at dksL_law_20 2 rfl rfl)
theorem dL_law_599 : decode cL_law 599 = .ok (.iadd, 1) := dk_96 (dk_at dksL_law_20 3 rfl rfl)
theorem dL_law_600 : decode cL_law 600 = .ok (.iaload, 1) := dk_46 (dk_at dksL_law_20 4 rfl rfl)
theorem dL_law_601 : decode cL_law 601 = .ok (.invokevirtual 74, 3) := dk_182 0 74 (dk_at dksL_law_20 5 rfl rfl)
theorem dL_law_604 : decode cL_law 604 = .ok (.aload_n 2, 1) := dk_44 (dk_at dksL_law_20 8 rfl rfl)
theorem dL_law_605 : decode cL_law 605 = .ok (.aload_n 0, 1) := dk_42 (dk_at dksL_law_20 9 rfl rfl)
theorem dL_law_606 : decode cL_law 606 = .ok (.iload 4, 2) := dk_21 4 (dk_at dksL_law_20 10 rfl rfl)
theorem dL_law_608 : decode cL_law 608 = .ok (.iconst 1, 1) := dk_4 (dk_at dksL_law_20 12 rfl rfl)
theorem dL_law_609 : decode cL_law 609 = .ok (.iadd, 1) := dk_96 (dk_at dksL_law_20 13 rfl rfl)
theorem dL_law_610 : decode cL_law 610 = .ok (.iaload, 1) := dk_46 (dk_at dksL_law_20 14 rfl rfl)
theorem dL_law_611 : decode cL_law 611 = .ok (.invokevirtual 77, 3) := dk_182 0 77 (dk_at dksL_law_20 15 rfl rfl)
theorem dL_law_614 : decode cL_law 614 = .ok (.if_icmp .eq 710, 3) := dk_159 2 198 (dk_at dksL_law_20 18 rfl rfl)
theorem dL_law_617 : decode cL_law 617 = .ok (.iconst 0, 1) := dk_3 (dk_at dksL_law_20 21 rfl rfl)
theorem dL_law_618 : decode cL_law 618 = .ok (.ireturn, 1) := dk_172 (dk_at dksL_law_20 22 rfl rfl)
theorem dL_law_619 : decode cL_law 619 = .ok (.aload_n 1, 1) := dk_43 (dk_at dksL_law_20 23 rfl rfl)
theorem dL_law_620 : decode cL_law 620 = .ok (.aload_n 0, 1) := dk_42 (dk_at dksL_law_21 0 rfl rfl)
theorem dL_law_621 : decode cL_law 621 = .ok (.iload 4, 2) := dk_21 4 (dk_at dksL_law_21 1 rfl rfl)
theorem dL_law_623 : decode cL_law 623 = .ok (.iconst 1, 1) := dk_4 (dk_at dksL_law_21 3 rfl rfl)
theorem dL_law_624 : decode cL_law 624 = .ok (.iadd, 1) := dk_96 (dk_at dksL_law_21 4 rfl rfl)
theorem dL_law_625 : decode cL_law 625 = .ok (.iaload, 1) := dk_46 (dk_at dksL_law_21 5 rfl rfl)
theorem dL_law_626 : decode cL_law 626 = .ok (.invokevirtual 78, 3) := dk_182 0 78 (dk_at dksL_law_21 6 rfl rfl)
theorem dL_law_629 : decode cL_law 629 = .ok (.aload_n 2, 1) := dk_44 (dk_at dksL_law_21 9 rfl rfl)
theorem dL_law_630 : decode cL_law 630 = .ok (.aload_n 0, 1) := dk_42 (dk_at dksL_law_21 10 rfl rfl)
theorem dL_law_631 : decode cL_law 631 = .ok (.iload 4, 2) := dk_21 4 (dk_at dksL_law_21 11 rfl rfl)
theorem dL_law_633 : decode cL_law 633 = .ok (.iconst 1, 1) := dk_4 (dk_at dksL_law_21 13 rfl rfl)
theorem dL_law_634 : decode cL_law 634 = .ok (.iadd, 1) := dk_96 (dk_at dksL_law_21 14 rfl rfl)
theorem dL_law_635 : decode cL_law 635 = .ok (.iaload, 1) := dk_46 (dk_at dksL_law_21 15 rfl rfl)
theorem dL_law_636 : decode cL_law 636 = .ok (.invokevirtual 81, 3) := dk_182 0 81 (dk_at dksL_law_21 16 rfl rfl)
theorem dL_law_639 : decode cL_law 639 = .ok (.if_icmp .eq 685, 3) := dk_159 2 173 (dk_at dksL_law_21 19 rfl rfl)
theorem dL_law_642 : decode cL_law 642 = .ok (.iconst 0, 1) := dk_3 (dk_at dksL_law_21 22 rfl rfl)
theorem dL_law_643 : decode cL_law 643 = .ok (.ireturn, 1) := dk_172 (dk_at dksL_law_21 23 rfl rfl)
theorem dL_law_644 : decode cL_law 644 = .ok (.aload_n 1, 1) := dk_43 (dk_at dksL_law_22 0 rfl rfl)
theorem dL_law_645 : decode cL_law 645 = .ok (.aload_n 0, 1) := dk_42 (dk_at dksL_law_22 1 rfl rfl)
theorem dL_law_646 : decode cL_law 646 = .ok (.iload 4, 2) := dk_21 4 (dk_at dksL_law_22 2 rfl rfl)
theorem dL_law_648 : decode cL_law 648 = .ok (.iconst 1, 1) := dk_4 (dk_at dksL_law_22 4 rfl rfl)
theorem dL_law_649 : decode cL_law 649 = .ok (.iadd, 1) := dk_96 (dk_at dksL_law_22 5 rfl rfl)
theorem dL_law_650 : decode cL_law 650 = .ok (.iaload, 1) := dk_46 (dk_at dksL_law_22 6 rfl rfl)
theorem dL_law_651 : decode cL_law 651 = .ok (.aload_n 0, 1) := dk_42 (dk_at dksL_law_22 7 rfl rfl)
theorem dL_law_652 : decode cL_law 652 = .ok (.iload 4, 2) := dk_21 4 (dk_at dksL_law_22 8 rfl rfl)
theorem dL_law_654 : decode cL_law 654 = .ok (.iconst 2, 1) := dk_5 (dk_at dksL_law_22 10 rfl rfl)
theorem dL_law_655 : decode cL_law 655 = .ok (.iadd, 1) := dk_96 (dk_at dksL_law_22 11 rfl rfl)
theorem dL_law_656 : decode cL_law 656 = .ok (.iaload, 1) := dk_46 (dk_at dksL_law_22 12 rfl rfl)
theorem dL_law_657 : decode cL_law 657 = .ok (.invokevirtual 82, 3) := dk_182 0 82 (dk_at dksL_law_22 13 rfl rfl)
theorem dL_law_660 : decode cL_law 660 = .ok (.aload_n 2, 1) := dk_44 (dk_at dksL_law_22 16 rfl rfl)
theorem dL_law_661 : decode cL_law 661 = .ok (.aload_n 0, 1) := dk_42 (dk_at dksL_law_22 17 rfl rfl)
theorem dL_law_662 : decode cL_law 662 = .ok (.iload 4, 2) := dk_21 4 (dk_at dksL_law_22 18 rfl rfl)
theorem dL_law_664 : decode cL_law 664 = .ok (.iconst 1, 1) := dk_4 (dk_at dksL_law_22 20 rfl rfl)
theorem dL_law_665 : decode cL_law 665 = .ok (.iadd, 1) := dk_96 (dk_at dksL_law_22 21 rfl rfl)
theorem dL_law_666 : decode cL_law 666 = .ok (.iaload, 1) := dk_46 (dk_at dksL_law_22 22 rfl rfl)
theorem dL_law_667 : decode cL_law 667 = .ok (.aload_n 0, 1) := dk_42 (dk_at dksL_law_22 23 rfl rfl)
theorem dL_law_668 : decode cL_law 668 = .ok (.iload 4, 2) := dk_21 4 (dk_at dksL_law_23 0 rfl rfl)
theorem dL_law_670 : decode cL_law 670 = .ok (.iconst 2, 1) := dk_5 (dk_at dksL_law_23 2 rfl rfl)
theorem dL_law_671 : decode cL_law 671 = .ok (.iadd, 1) := dk_96 (dk_at dksL_law_23 3 rfl rfl)
theorem dL_law_672 : decode cL_law 672 = .ok (.iaload, 1) := dk_46 (dk_at dksL_law_23 4 rfl rfl)
theorem dL_law_673 : decode cL_law 673 = .ok (.invokevirtual 85, 3) := dk_182 0 85 (dk_at dksL_law_23 5 rfl rfl)
theorem dL_law_676 : decode cL_law 676 = .ok (.if_icmp .eq 648, 3) := dk_159 2 136 (dk_at dksL_law_23 8 rfl rfl)
theorem dL_law_679 : decode cL_law 679 = .ok (.iconst 0, 1) := dk_3 (dk_at dksL_law_23 11 rfl rfl)
theorem dL_law_680 : decode cL_law 680 = .ok (.ireturn, 1) := dk_172 (dk_at dksL_law_23 12 rfl rfl)
theorem dL_law_681 : decode cL_law 681 = .ok (.aload_n 1, 1) := dk_43 (dk_at dksL_law_23 13 rfl rfl)
theorem dL_law_682 : decode cL_law 682 = .ok (.aload_n 0, 1) := dk_42 (dk_at dksL_law_23 14 rfl rfl)
theorem dL_law_683 : decode cL_law 683 = .ok (.iload 4, 2) := dk_21 4 (dk_at dksL_law_23 15 rfl rfl)
theorem dL_law_685 : decode cL_law 685 = .ok (.iconst 1, 1) := dk_4 (dk_at dksL_law_23 17 rfl rfl)
theorem dL_law_686 : decode cL_law 686 = .ok (.iadd, 1) := dk_96 (dk_at dksL_law_23 18 rfl rfl)
theorem dL_law_687 : decode cL_law 687 = .ok (.iaload, 1) := dk_46 (dk_at dksL_law_23 19 rfl rfl)
theorem dL_law_688 : decode cL_law 688 = .ok (.invokevirtual 86, 3) := dk_182 0 86 (dk_at dksL_law_23 20 rfl rfl)
theorem dL_law_691 : decode cL_law 691 = .ok (.aload_n 2, 1) := dk_44 (dk_at dksL_law_23 23 rfl rfl)
theorem dL_law_692 : decode cL_law 692 = .ok (.aload_n 0, 1) := dk_42 (dk_at dksL_law_24 0 rfl rfl)
theorem dL_law_693 : decode cL_law 693 = .ok (.iload 4, 2) := dk_21 4 (dk_at dksL_law_24 1 rfl rfl)
theorem dL_law_695 : decode cL_law 695 = .ok (.iconst 1, 1) := dk_4 (dk_at dksL_law_24 3 rfl rfl)
theorem dL_law_696 : decode cL_law 696 = .ok (.iadd, 1) := dk_96 (dk_at dksL_law_24 4 rfl rfl)
theorem dL_law_697 : decode cL_law 697 = .ok (.iaload, 1) := dk_46 (dk_at dksL_law_24 5 rfl rfl)
theorem dL_law_698 : decode cL_law 698 = .ok (.invokevirtual 89, 3) := dk_182 0 89 (dk_at dksL_law_24 6 rfl rfl)
theorem dL_law_701 : decode cL_law 701 = .ok (.if_icmp .eq 623, 3) := dk_159 2 111 (dk_at dksL_law_24 9 rfl rfl)
theorem dL_law_704 : decode cL_law 704 = .ok (.iconst 0, 1) := dk_3 (dk_at dksL_law_24 12 rfl rfl)
theorem dL_law_705 : decode cL_law 705 = .ok (.ireturn, 1) := dk_172 (dk_at dksL_law_24 13 rfl rfl)
theorem dL_law_706 : decode cL_law 706 = .ok (.aload_n 1, 1) := dk_43 (dk_at dksL_law_24 14 rfl rfl)
theorem dL_law_707 : decode cL_law 707 = .ok (.aload_n 0, 1) := dk_42 (dk_at dksL_law_24 15 rfl rfl)
theorem dL_law_708 : decode cL_law 708 = .ok (.iload 4, 2) := dk_21 4 (dk_at dksL_law_24 16 rfl rfl)
theorem dL_law_710 : decode cL_law 710 = .ok (.iconst 1, 1) := dk_4 (dk_at dksL_law_24 18 rfl rfl)
theorem dL_law_711 : decode cL_law 711 = .ok (.iadd, 1) := dk_96 (dk_at dksL_law_24 19 rfl rfl)
theorem dL_law_712 : decode cL_law 712 = .ok (.iaload, 1) := dk_46 (dk_at dksL_law_24 20 rfl rfl)
theorem dL_law_713 : decode cL_law 713 = .ok (.aload_n 0, 1) := dk_42 (dk_at dksL_law_24 21 rfl rfl)
theorem dL_law_714 : decode cL_law 714 = .ok (.iload 4, 2) := dk_21 4 (dk_at dksL_law_24 22 rfl rfl)
theorem dL_law_716 : decode cL_law 716 = .ok (.iconst 2, 1) := dk_5 (dk_at dksL_law_25 0 rfl rfl)
theorem dL_law_717 : decode cL_law 717 = .ok (.iadd, 1) := dk_96 (dk_at dksL_law_25 1 rfl rfl)
theorem dL_law_718 : decode cL_law 718 = .ok (.iaload, 1) := dk_46 (dk_at dksL_law_25 2 rfl rfl)
theorem dL_law_719 : decode cL_law 719 = .ok (.invokevirtual 90, 3) := dk_182 0 90 (dk_at dksL_law_25 3 rfl rfl)
theorem dL_law_722 : decode cL_law 722 = .ok (.aload_n 2, 1) := dk_44 (dk_at dksL_law_25 6 rfl rfl)
theorem dL_law_723 : decode cL_law 723 = .ok (.aload_n 0, 1) := dk_42 (dk_at dksL_law_25 7 rfl rfl)
theorem dL_law_724 : decode cL_law 724 = .ok (.iload 4, 2) := dk_21 4 (dk_at dksL_law_25 8 rfl rfl)
theorem dL_law_726 : decode cL_law 726 = .ok (.iconst 1, 1) := dk_4 (dk_at dksL_law_25 10 rfl rfl)
theorem dL_law_727 : decode cL_law 727 = .ok (.iadd, 1) := dk_96 (dk_at dksL_law_25 11 rfl rfl)
theorem dL_law_728 : decode cL_law 728 = .ok (.iaload, 1) := dk_46 (dk_at dksL_law_25 12 rfl rfl)
theorem dL_law_729 : decode cL_law 729 = .ok (.aload_n 0, 1) := dk_42 (dk_at dksL_law_25 13 rfl rfl)
theorem dL_law_730 : decode cL_law 730 = .ok (.iload 4, 2) := dk_21 4 (dk_at dksL_law_25 14 rfl rfl)
theorem dL_law_732 : decode cL_law 732 = .ok (.iconst 2, 1) := dk_5 (dk_at dksL_law_25 16 rfl rfl)
theorem dL_law_733 : decode cL_law 733 = .ok (.iadd, 1) := dk_96 (dk_at dksL_law_25 17 rfl rfl)
theorem dL_law_734 : decode cL_law 734 = .ok (.iaload, 1) := dk_46 (dk_at dksL_law_25 18 rfl rfl)
theorem dL_law_735 : decode cL_law 735 = .ok (.invokevirtual 93, 3) := dk_182 0 93 (dk_at dksL_law_25 19 rfl rfl)
theorem dL_law_738 : decode cL_law 738 = .ok (.if_icmp .eq 586, 3) := dk_159 2 74 (dk_at dksL_law_26 0 rfl rfl)
theorem dL_law_741 : decode cL_law 741 = .ok (.iconst 0, 1) := dk_3 (dk_at dksL_law_26 3 rfl rfl)
theorem dL_law_742 : decode cL_law 742 = .ok (.ireturn, 1) := dk_172 (dk_at dksL_law_26 4 rfl rfl)
theorem dL_law_743 : decode cL_law 743 = .ok (.aload_n 1, 1) := dk_43 (dk_at dksL_law_26 5 rfl rfl)
theorem dL_law_744 : decode cL_law 744 = .ok (.aload_n 0, 1) := dk_42 (dk_at dksL_law_26 6 rfl rfl)
theorem dL_law_745 : decode cL_law 745 = .ok (.iload 4, 2) := dk_21 4 (dk_at dksL_law_26 7 rfl rfl)
theorem dL_law_747 : decode cL_law 747 = .ok (.iconst 1, 1) := dk_4 (dk_at dksL_law_26 9 rfl rfl)
theorem dL_law_748 : decode cL_law 748 = .ok (.iadd, 1) := dk_96 (dk_at dksL_law_26 10 rfl rfl)
theorem dL_law_749 : decode cL_law 749 = .ok (.iaload, 1) := dk_46 (dk_at dksL_law_26 11 rfl rfl)
theorem dL_law_750 : decode cL_law 750 = .ok (.aload_n 0, 1) := dk_42 (dk_at dksL_law_26 12 rfl rfl)
theorem dL_law_751 : decode cL_law 751 = .ok (.iload 4, 2) := dk_21 4 (dk_at dksL_law_26 13 rfl rfl)
theorem dL_law_753 : decode cL_law 753 = .ok (.iconst 2, 1) := dk_5 (dk_at dksL_law_26 15 rfl rfl)
theorem dL_law_754 : decode cL_law 754 = .ok (.iadd, 1) := dk_96 (dk_at dksL_law_26 16 rfl rfl)
theorem dL_law_755 : decode cL_law 755 = .ok (.iaload, 1) := dk_46 (dk_at dksL_law_26 17 rfl rfl)
theorem dL_law_756 : decode cL_law 756 = .ok (.invokevirtual 94, 3) := dk_182 0 94 (dk_at dksL_law_26 18 rfl rfl)
theorem dL_law_759 : decode cL_law 759 = .ok (.aload_n 2, 1) := dk_44 (dk_at dksL_law_26 21 rfl rfl)
theorem dL_law_760 : decode cL_law 760 = .ok (.aload_n 0, 1) := dk_42 (dk_at dksL_law_26 22 rfl rfl)
theorem dL_law_761 : decode cL_law 761 = .ok (.iload 4, 2) := dk_21 4 (dk_at dksL_law_27 0 rfl rfl)
theorem dL_law_763 : decode cL_law 763 = .ok (.iconst 1, 1) := dk_4 (dk_at dksL_law_27 2 rfl rfl)
theorem dL_law_764 : decode cL_law 764 = .ok (.iadd, 1) := dk_96 (dk_at dksL_law_27 3 rfl rfl)
theorem dL_law_765 : decode cL_law 765 = .ok (.iaload, 1) := dk_46 (dk_at dksL_law_27 4 rfl rfl)
theorem dL_law_766 : decode cL_law 766 = .ok (.aload_n 0, 1) := dk_42 (dk_at dksL_law_27 5 rfl rfl)
theorem dL_law_767 : decode cL_law 767 = .ok (.iload 4, 2) := dk_21 4 (dk_at dksL_law_27 6 rfl rfl)
theorem dL_law_769 : decode cL_law 769 = .ok (.iconst 2, 1) := dk_5 (dk_at dksL_law_27 8 rfl rfl)
theorem dL_law_770 : decode cL_law 770 = .ok (.iadd, 1) := dk_96 (dk_at dksL_law_27 9 rfl rfl)
theorem dL_law_771 : decode cL_law 771 = .ok (.iaload, 1) := dk_46 (dk_at dksL_law_27 10 rfl rfl)
theorem dL_law_772 : decode cL_law 772 = .ok (.invokevirtual 97, 3) := dk_182 0 97 (dk_at dksL_law_27 11 rfl rfl)
theorem dL_law_775 : decode cL_law 775 = .ok (.if_icmp .eq 549, 3) := dk_159 2 37 (dk_at dksL_law_27 14 rfl rfl)
theorem dL_law_778 : decode cL_law 778 = .ok (.iconst 0, 1) := dk_3 (dk_at dksL_law_27 17 rfl rfl)
theorem dL_law_779 : decode cL_law 779 = .ok (.ireturn, 1) := dk_172 (dk_at dksL_law_27 18 rfl rfl)
theorem dL_law_780 : decode cL_law 780 = .ok (.aload_n 1, 1) := dk_43 (dk_at dksL_law_27 19 rfl rfl)
theorem dL_law_781 : decode cL_law 781 = .ok (.aload_n 0, 1) := dk_42 (dk_at dksL_law_27 20 rfl rfl)
theorem dL_law_782 : decode cL_law 782 = .ok (.iload 4, 2) := dk_21 4 (dk_at dksL_law_27 21 rfl rfl)
theorem dL_law_784 : decode cL_law 784 = .ok (.iconst 1, 1) := dk_4 (dk_at dksL_law_27 23 rfl rfl)
theorem dL_law_785 : decode cL_law 785 = .ok (.iadd, 1) := dk_96 (dk_at dksL_law_28 0 rfl rfl)
theorem dL_law_786 : decode cL_law 786 = .ok (.iaload, 1) := dk_46 (dk_at dksL_law_28 1 rfl rfl)
theorem dL_law_787 : decode cL_law 787 = .ok (.aload_n 0, 1) := dk_42 (dk_at dksL_law_28 2 rfl rfl)
theorem dL_law_788 : decode cL_law 788 = .ok (.iload 4, 2) := dk_21 4 (dk_at dksL_law_28 3 rfl rfl)
theorem dL_law_790 : decode cL_law 790 = .ok (.iconst 2, 1) := dk_5 (dk_at dksL_law_28 5 rfl rfl)
theorem dL_law_791 : decode cL_law 791 = .ok (.iadd, 1) := dk_96 (dk_at dksL_law_28 6 rfl rfl)
theorem dL_law_792 : decode cL_law 792 = .ok (.iaload, 1) := dk_46 (dk_at dksL_law_28 7 rfl rfl)
theorem dL_law_793 : decode cL_law 793 = .ok (.aload_n 0, 1) := dk_42 (dk_at dksL_law_28 8 rfl rfl)
theorem dL_law_794 : decode cL_law 794 = .ok (.iload 4, 2) := dk_21 4 (dk_at dksL_law_28 9 rfl rfl)
theorem dL_law_796 : decode cL_law 796 = .ok (.iconst 3, 1) := dk_6 (dk_at dksL_law_28 11 rfl rfl)
theorem dL_law_797 : decode cL_law 797 = .ok (.iadd, 1) := dk_96 (dk_at dksL_law_28 12 rfl rfl)
theorem dL_law_798 : decode cL_law 798 = .ok (.iaload, 1) := dk_46 (dk_at dksL_law_28 13 rfl rfl)
theorem dL_law_799 : decode cL_law 799 = .ok (.invokevirtual 98, 3) := dk_182 0 98 (dk_at dksL_law_28 14 rfl rfl)
theorem dL_law_802 : decode cL_law 802 = .ok (.aload_n 2, 1) := dk_44 (dk_at dksL_law_28 17 rfl rfl)
theorem dL_law_803 : decode cL_law 803 = .ok (.aload_n 0, 1) := dk_42 (dk_at dksL_law_28 18 rfl rfl)
theorem dL_law_804 : decode cL_law 804 = .ok (.iload 4, 2) := dk_21 4 (dk_at dksL_law_28 19 rfl rfl)
theorem dL_law_806 : decode cL_law 806 = .ok (.iconst 1, 1) := dk_4 (dk_at dksL_law_28 21 rfl rfl)
theorem dL_law_807 : decode cL_law 807 = .ok (.iadd, 1) := dk_96 (dk_at dksL_law_28 22 rfl rfl)
theorem dL_law_808 : decode cL_law 808 = .ok (.iaload, 1) := dk_46 (dk_at dksL_law_28 23 rfl rfl)
theorem dL_law_809 : decode cL_law 809 = .ok (.aload_n 0, 1) := dk_42 (dk_at dksL_law_29 0 rfl rfl)
theorem dL_law_810 : decode cL_law 810 = .ok (.iload 4, 2) := dk_21 4 (dk_at dksL_law_29 1 rfl rfl)
theorem dL_law_812 : decode cL_law 812 = .ok (.iconst 2, 1) := dk_5 (dk_at dksL_law_29 3 rfl rfl)
theorem dL_law_813 : decode cL_law 813 = .ok (.iadd, 1) := dk_96 (dk_at dksL_law_29 4 rfl rfl)
theorem dL_law_814 : decode cL_law 814 = .ok (.iaload, 1) := dk_46 (dk_at dksL_law_29 5 rfl rfl)
theorem dL_law_815 : decode cL_law 815 = .ok (.aload_n 0, 1) := dk_42 (dk_at dksL_law_29 6 rfl rfl)
theorem dL_law_816 : decode cL_law 816 = .ok (.iload 4, 2) := dk_21 4 (dk_at dksL_law_29 7 rfl rfl)
theorem dL_law_818 : decode cL_law 818 = .ok (.iconst 3, 1) := dk_6 (dk_at dksL_law_29 9 rfl rfl)
theorem dL_law_819 : decode cL_law 819 = .ok (.iadd, 1) := dk_96 (dk_at dksL_law_29 10 rfl rfl)
theorem dL_law_820 : decode cL_law 820 = .ok (.iaload, 1) := dk_46 (dk_at dksL_law_29 11 rfl rfl)
theorem dL_law_821 : decode cL_law 821 = .ok (.invokevirtual 102, 3) := dk_182 0 102 (dk_at dksL_law_29 12 rfl rfl)
theorem dL_law_824 : decode cL_law 824 = .ok (.if_icmp .eq 500, 3) := dk_159 1 244 (dk_at dksL_law_29 15 rfl rfl)
theorem dL_law_827 : decode cL_law 827 = .ok (.iconst 0, 1) := dk_3 (dk_at dksL_law_29 18 rfl rfl)
theorem dL_law_828 : decode cL_law 828 = .ok (.ireturn, 1) := dk_172 (dk_at dksL_law_29 19 rfl rfl)
theorem dL_law_829 : decode cL_law 829 = .ok (.aload_n 1, 1) := dk_43 (dk_at dksL_law_29 20 rfl rfl)
theorem dL_law_830 : decode cL_law 830 = .ok (.aload_n 0, 1) := dk_42 (dk_at dksL_law_29 21 rfl rfl)
theorem dL_law_831 : decode cL_law 831 = .ok (.iload 4, 2) := dk_21 4 (dk_at dksL_law_29 22 rfl rfl)
theorem dL_law_833 : decode cL_law 833 = .ok (.iconst 1, 1) := dk_4 (dk_at dksL_law_30 0 rfl rfl)
theorem dL_law_834 : decode cL_law 834 = .ok (.iadd, 1) := dk_96 (dk_at dksL_law_30 1 rfl rfl)
theorem dL_law_835 : decode cL_law 835 = .ok (.iaload, 1) := dk_46 (dk_at dksL_law_30 2 rfl rfl)
theorem dL_law_836 : decode cL_law 836 = .ok (.invokevirtual 103, 3) := dk_182 0 103 (dk_at dksL_law_30 3 rfl rfl)
theorem dL_law_839 : decode cL_law 839 = .ok (.aload_n 2, 1) := dk_44 (dk_at dksL_law_30 6 rfl rfl)
theorem dL_law_840 : decode cL_law 840 = .ok (.aload_n 0, 1) := dk_42 (dk_at dksL_law_30 7 rfl rfl)
theorem dL_law_841 : decode cL_law 841 = .ok (.iload 4, 2) := dk_21 4 (dk_at dksL_law_30 8 rfl rfl)
theorem dL_law_843 : decode cL_law 843 = .ok (.iconst 1, 1) := dk_4 (dk_at dksL_law_30 10 rfl rfl)
theorem dL_law_844 : decode cL_law 844 = .ok (.iadd, 1) := dk_96 (dk_at dksL_law_30 11 rfl rfl)
theorem dL_law_845 : decode cL_law 845 = .ok (.iaload, 1) := dk_46 (dk_at dksL_law_30 12 rfl rfl)
theorem dL_law_846 : decode cL_law 846 = .ok (.invokevirtual 106, 3) := dk_182 0 106 (dk_at dksL_law_30 13 rfl rfl)
theorem dL_law_849 : decode cL_law 849 = .ok (.if_icmp .eq 475, 3) := dk_159 1 219 (dk_at dksL_law_30 16 rfl rfl)
theorem dL_law_852 : decode cL_law 852 = .ok (.iconst 0, 1) := dk_3 (dk_at dksL_law_30 19 rfl rfl)
theorem dL_law_853 : decode cL_law 853 = .ok (.ireturn, 1) := dk_172 (dk_at dksL_law_30 20 rfl rfl)
theorem dL_law_854 : decode cL_law 854 = .ok (.aload_n 1, 1) := dk_43 (dk_at dksL_law_30 21 rfl rfl)
theorem dL_law_855 : decode cL_law 855 = .ok (.aload_n 0, 1) := dk_42 (dk_at dksL_law_30 22 rfl rfl)
theorem dL_law_856 : decode cL_law 856 = .ok (.iload 4, 2) := dk_21 4 (dk_at dksL_law_31 0 rfl rfl)
theorem dL_law_858 : decode cL_law 858 = .ok (.iconst 1, 1) := dk_4 (dk_at dksL_law_31 2 rfl rfl)
theorem dL_law_859 : decode cL_law 859 = .ok (.iadd, 1) := dk_96 (dk_at dksL_law_31 3 rfl rfl)
theorem dL_law_860 : decode cL_law 860 = .ok (.iaload, 1) := dk_46 (dk_at dksL_law_31 4 rfl rfl)
theorem dL_law_861 : decode cL_law 861 = .ok (.invokevirtual 107, 3) := dk_182 0 107 (dk_at dksL_law_31 5 rfl rfl)
theorem dL_law_864 : decode cL_law 864 = .ok (.aload_n 2, 1) := dk_44 (dk_at dksL_law_31 8 rfl rfl)
theorem dL_law_865 : decode cL_law 865 = .ok (.aload_n 0, 1) := dk_42 (dk_at dksL_law_31 9 rfl rfl)
theorem dL_law_866 : decode cL_law 866 = .ok (.iload 4, 2) := dk_21 4 (dk_at dksL_law_31 10 rfl rfl)
theorem dL_law_868 : decode cL_law 868 = .ok (.iconst 1, 1) := dk_4 (dk_at dksL_law_31 12 rfl rfl)
theorem dL_law_869 : decode cL_law 869 = .ok (.iadd, 1) := dk_96 (dk_at dksL_law_31 13 rfl rfl)
theorem dL_law_870 : decode cL_law 870 = .ok (.iaload, 1) := dk_46 (dk_at dksL_law_31 14 rfl rfl)
theorem dL_law_871 : decode cL_law 871 = .ok (.invokevirtual 110, 3) := dk_182 0 110 (dk_at dksL_law_31 15 rfl rfl)
theorem dL_law_874 : decode cL_law 874 = .ok (.if_icmp .eq 450, 3) := dk_159 1 194 (dk_at dksL_law_31 18 rfl rfl)
theorem dL_law_877 : decode cL_law 877 = .ok (.iconst 0, 1) := dk_3 (dk_at dksL_law_31 21 rfl rfl)
theorem dL_law_878 : decode cL_law 878 = .ok (.ireturn, 1) := dk_172 (dk_at dksL_law_31 22 rfl rfl)
theorem dL_law_879 : decode cL_law 879 = .ok (.aload_n 1, 1) := dk_43 (dk_at dksL_law_31 23 rfl rfl)
theorem dL_law_880 : decode cL_law 880 = .ok (.invokevirtual 111, 3) := dk_182 0 111 (dk_at dksL_law_32 0 rfl rfl)
theorem dL_law_883 : decode cL_law 883 = .ok (.aload_n 2, 1) := dk_44 (dk_at dksL_law_32 3 rfl rfl)
theorem dL_law_884 : decode cL_law 884 = .ok (.invokevirtual 114, 3) := dk_182 0 114 (dk_at dksL_law_32 4 rfl rfl)
theorem dL_law_887 : decode cL_law 887 = .ok (.if_icmp .eq 437, 3) := dk_159 1 181 (dk_at dksL_law_32 7 rfl rfl)
theorem dL_law_890 : decode cL_law 890 = .ok (.iconst 0, 1) := dk_3 (dk_at dksL_law_32 10 rfl rfl)
theorem dL_law_891 : decode cL_law 891 = .ok (.ireturn, 1) := dk_172 (dk_at dksL_law_32 11 rfl rfl)
theorem dL_law_892 : decode cL_law 892 = .ok (.aload_n 1, 1) := dk_43 (dk_at dksL_law_32 12 rfl rfl)
theorem dL_law_893 : decode cL_law 893 = .ok (.aload_n 0, 1) := dk_42 (dk_at dksL_law_32 13 rfl rfl)
theorem dL_law_894 : decode cL_law 894 = .ok (.iload 4, 2) := dk_21 4 (dk_at dksL_law_32 14 rfl rfl)
theorem dL_law_896 : decode cL_law 896 = .ok (.iconst 1, 1) := dk_4 (dk_at dksL_law_32 16 rfl rfl)
theorem dL_law_897 : decode cL_law 897 = .ok (.iadd, 1) := dk_96 (dk_at dksL_law_32 17 rfl rfl)
theorem dL_law_898 : decode cL_law 898 = .ok (.iaload, 1) := dk_46 (dk_at dksL_law_32 18 rfl rfl)
theorem dL_law_899 : decode cL_law 899 = .ok (.aload_n 0, 1) := dk_42 (dk_at dksL_law_32 19 rfl rfl)
theorem dL_law_900 : decode cL_law 900 = .ok (.iload 4, 2) := dk_21 4 (dk_at dksL_law_32 20 rfl rfl)
theorem dL_law_902 : decode cL_law 902 = .ok (.iconst 2, 1) := dk_5 (dk_at dksL_law_32 22 rfl rfl)
theorem dL_law_903 : decode cL_law 903 = .ok (.iadd, 1) := dk_96 (dk_at dksL_law_32 23 rfl rfl)
theorem dL_law_904 : decode cL_law 904 = .ok (.iaload, 1) := dk_46 (dk_at dksL_law_33 0 rfl rfl)
theorem dL_law_905 : decode cL_law 905 = .ok (.invokevirtual 115, 3) := dk_182 0 115 (dk_at dksL_law_33 1 rfl rfl)
theorem dL_law_908 : decode cL_law 908 = .ok (.aload_n 2, 1) := dk_44 (dk_at dksL_law_33 4 rfl rfl)
theorem dL_law_909 : decode cL_law 909 = .ok (.aload_n 0, 1) := dk_42 (dk_at dksL_law_33 5 rfl rfl)
theorem dL_law_910 : decode cL_law 910 = .ok (.iload 4, 2) := dk_21 4 (dk_at dksL_law_33 6 rfl rfl)
theorem dL_law_912 : decode cL_law 912 = .ok (.iconst 1, 1) := dk_4 (dk_at dksL_law_33 8 rfl rfl)
theorem dL_law_913 : decode cL_law 913 = .ok (.iadd, 1) := dk_96 (dk_at dksL_law_33 9 rfl rfl)
theorem dL_law_914 : decode cL_law 914 = .ok (.iaload, 1) := dk_46 (dk_at dksL_law_33 10 rfl rfl)
theorem dL_law_915 : decode cL_law 915 = .ok (.aload_n 0, 1) := dk_42 (dk_at dksL_law_33 11 rfl rfl)
theorem dL_law_916 : decode cL_law 916 = .ok (.iload 4, 2) := dk_21 4 (dk_at dksL_law_33 12 rfl rfl)
theorem dL_law_918 : decode cL_law 918 = .ok (.iconst 2, 1) := dk_5 (dk_at dksL_law_33 14 rfl rfl)
theorem dL_law_919 : decode cL_law 919 = .ok (.iadd, 1) := dk_96 (dk_at dksL_law_33 15 rfl rfl)
theorem dL_law_920 : decode cL_law 920 = .ok (.iaload, 1) := dk_46 (dk_at dksL_law_33 16 rfl rfl)
theorem dL_law_921 : decode cL_law 921 = .ok (.invokevirtual 118, 3) := dk_182 0 118 (dk_at dksL_law_33 17 rfl rfl)
theorem dL_law_924 : decode cL_law 924 = .ok (.if_icmp .eq 400, 3) := dk_159 1 144 (dk_at dksL_law_33 20 rfl rfl)
theorem dL_law_927 : decode cL_law 927 = .ok (.iconst 0, 1) := dk_3 (dk_at dksL_law_33 23 rfl rfl)
theorem dL_law_928 : decode cL_law 928 = .ok (.ireturn, 1) := dk_172 (dk_at dksL_law_34 0 rfl rfl)
theorem dL_law_929 : decode cL_law 929 = .ok (.aload_n 1, 1) := dk_43 (dk_at dksL_law_34 1 rfl rfl)
theorem dL_law_930 : decode cL_law 930 = .ok (.aload_n 0, 1) := dk_42 (dk_at dksL_law_34 2 rfl rfl)
theorem dL_law_931 : decode cL_law 931 = .ok (.iload 4, 2) := dk_21 4 (dk_at dksL_law_34 3 rfl rfl)
theorem dL_law_933 : decode cL_law 933 = .ok (.iconst 1, 1) := dk_4 (dk_at dksL_law_34 5 rfl rfl)
theorem dL_law_934 : decode cL_law 934 = .ok (.iadd, 1) := dk_96 (dk_at dksL_law_34 6 rfl rfl)
theorem dL_law_935 : decode cL_law 935 = .ok (.iaload, 1) := dk_46 (dk_at dksL_law_34 7 rfl rfl)
theorem dL_law_936 : decode cL_law 936 = .ok (.invokevirtual 119, 3) := dk_182 0 119 (dk_at dksL_law_34 8 rfl rfl)
theorem dL_law_939 : decode cL_law 939 = .ok (.aload_n 2, 1) := dk_44 (dk_at dksL_law_34 11 rfl rfl)
theorem dL_law_940 : decode cL_law 940 = .ok (.aload_n 0, 1) := dk_42 (dk_at dksL_law_34 12 rfl rfl)
theorem dL_law_941 : decode cL_law 941 = .ok (.iload 4, 2) := dk_21 4 (dk_at dksL_law_34 13 rfl rfl)
theorem dL_law_943 : decode cL_law 943 = .ok (.iconst 1, 1) := dk_4 (dk_at dksL_law_34 15 rfl rfl)
theorem dL_law_944 : decode cL_law 944 = .ok (.iadd, 1) := dk_96 (dk_at dksL_law_34 16 rfl rfl)
theorem dL_law_945 : decode cL_law 945 = .ok (.iaload, 1) := dk_46 (dk_at dksL_law_34 17 rfl rfl)
theorem dL_law_946 : decode cL_law 946 = .ok (.invokevirtual 122, 3) := dk_182 0 122 (dk_at dksL_law_34 18 rfl rfl)
theorem dL_law_949 : decode cL_law 949 = .ok (.if_icmp .eq 375, 3) := dk_159 1 119 (dk_at dksL_law_34 21 rfl rfl)
theorem dL_law_952 : decode cL_law 952 = .ok (.iconst 0, 1) := dk_3 (dk_at dksL_law_35 0 rfl rfl)
theorem dL_law_953 : decode cL_law 953 = .ok (.ireturn, 1) := dk_172 (dk_at dksL_law_35 1 rfl rfl)
theorem dL_law_954 : decode cL_law 954 = .ok (.aload_n 1, 1) := dk_43 (dk_at dksL_law_35 2 rfl rfl)
theorem dL_law_955 : decode cL_law 955 = .ok (.aload_n 0, 1) := dk_42 (dk_at dksL_law_35 3 rfl rfl)
theorem dL_law_956 : decode cL_law 956 = .ok (.iload 4, 2) := dk_21 4 (dk_at dksL_law_35 4 rfl rfl)
theorem dL_law_958 : decode cL_law 958 = .ok (.iconst 1, 1) := dk_4 (dk_at dksL_law_35 6 rfl rfl)
theorem dL_law_959 : decode cL_law 959 = .ok (.iadd, 1) := dk_96 (dk_at dksL_law_35 7 rfl rfl)
theorem dL_law_960 : decode cL_law 960 = .ok (.iaload, 1) := dk_46 (dk_at dksL_law_35 8 rfl rfl)
theorem dL_law_961 : decode cL_law 961 = .ok (.aload_n 0, 1) := dk_42 (dk_at dksL_law_35 9 rfl rfl)
theorem dL_law_962 : decode cL_law 962 = .ok (.iload 4, 2) := dk_21 4 (dk_at dksL_law_35 10 rfl rfl)
theorem dL_law_964 : decode cL_law 964 = .ok (.iconst 2, 1) := dk_5 (dk_at dksL_law_35 12 rfl rfl)
theorem dL_law_965 : decode cL_law 965 = .ok (.iadd, 1) := dk_96 (dk_at dksL_law_35 13 rfl rfl)
theorem dL_law_966 : decode cL_law 966 = .ok (.iaload, 1) := dk_46 (dk_at dksL_law_35 14 rfl rfl)
theorem dL_law_967 : decode cL_law 967 = .ok (.invokevirtual 123, 3) := dk_182 0 123 (dk_at dksL_law_35 15 rfl rfl)
theorem dL_law_970 : decode cL_law 970 = .ok (.aload_n 2, 1) := dk_44 (dk_at dksL_law_35 18 rfl rfl)
theorem dL_law_971 : decode cL_law 971 = .ok (.aload_n 0, 1) := dk_42 (dk_at dksL_law_35 19 rfl rfl)
theorem dL_law_972 : decode cL_law 972 = .ok (.iload 4, 2) := dk_21 4 (dk_at dksL_law_35 20 rfl rfl)
theorem dL_law_974 : decode cL_law 974 = .ok (.iconst 1, 1) := dk_4 (dk_at dksL_law_35 22 rfl rfl)
theorem dL_law_975 : decode cL_law 975 = .ok (.iadd, 1) := dk_96 (dk_at dksL_law_35 23 rfl rfl)
theorem dL_law_976 : decode cL_law 976 = .ok (.iaload, 1) := dk_46 (dk_at dksL_law_36 0 rfl rfl)
theorem dL_law_977 : decode cL_law 977 = .ok (.aload_n 0, 1) := dk_42 (dk_at dksL_law_36 1 rfl rfl)
theorem dL_law_978 : decode cL_law 978 = .ok (.iload 4, 2) := dk_21 4 (dk_at dksL_law_36 2 rfl rfl)
theorem dL_law_980 : decode cL_law 980 = .ok (.iconst 2, 1) := dk_5 (dk_at dksL_law_36 4 rfl rfl)
theorem dL_law_981 : decode cL_law 981 = .ok (.iadd, 1) := dk_96 (dk_at dksL_law_36 5 rfl rfl)
theorem dL_law_982 : decode cL_law 982 = .ok (.iaload, 1) := dk_46 (dk_at dksL_law_36 6 rfl rfl)
theorem dL_law_983 : decode cL_law 983 = .ok (.invokevirtual 126, 3) := dk_182 0 126 (dk_at dksL_law_36 7 rfl rfl)
theorem dL_law_986 : decode cL_law 986 = .ok (.if_icmp .eq 338, 3) := dk_159 1 82 (dk_at dksL_law_36 10 rfl rfl)
theorem dL_law_989 : decode cL_law 989 = .ok (.iconst 0, 1) := dk_3 (dk_at dksL_law_36 13 rfl rfl)
theorem dL_law_990 : decode cL_law 990 = .ok (.ireturn, 1) := dk_172 (dk_at dksL_law_36 14 rfl rfl)
theorem dL_law_991 : decode cL_law 991 = .ok (.aload_n 1, 1) := dk_43 (dk_at dksL_law_36 15 rfl rfl)
theorem dL_law_992 : decode cL_law 992 = .ok (.aload_n 0, 1) := dk_42 (dk_at dksL_law_36 16 rfl rfl)
theorem dL_law_993 : decode cL_law 993 = .ok (.iload 4, 2) := dk_21 4 (dk_at dksL_law_36 17 rfl rfl)
theorem dL_law_995 : decode cL_law 995 = .ok (.iconst 1, 1) := dk_4 (dk_at dksL_law_36 19 rfl rfl)
theorem dL_law_996 : decode cL_law 996 = .ok (.iadd, 1) := dk_96 (dk_at dksL_law_36 20 rfl rfl)
theorem dL_law_997 : decode cL_law 997 = .ok (.iaload, 1) := dk_46 (dk_at dksL_law_36 21 rfl rfl)
theorem dL_law_998 : decode cL_law 998 = .ok (.invokevirtual 127, 3) := dk_182 0 127 (dk_at dksL_law_37 0 rfl rfl)
theorem dL_law_1001 : decode cL_law 1001 = .ok (.aload_n 2, 1) := dk_44 (dk_at dksL_law_37 3 rfl rfl)
theorem dL_law_1002 : decode cL_law 1002 = .ok (.aload_n 0, 1) := dk_42 (dk_at dksL_law_37 4 rfl rfl)
theorem dL_law_1003 : decode cL_law 1003 = .ok (.iload 4, 2) := dk_21 4 (dk_at dksL_law_37 5 rfl rfl)
theorem dL_law_1005 : decode cL_law 1005 = .ok (.iconst 1, 1) := dk_4 (dk_at dksL_law_37 7 rfl rfl)
theorem dL_law_1006 : decode cL_law 1006 = .ok (.iadd, 1) := dk_96 (dk_at dksL_law_37 8 rfl rfl)
theorem dL_law_1007 : decode cL_law 1007 = .ok (.iaload, 1) := dk_46 (dk_at dksL_law_37 9 rfl rfl)
theorem dL_law_1008 : decode cL_law 1008 = .ok (.invokevirtual 130, 3) := dk_182 0 130 (dk_at dksL_law_37 10 rfl rfl)
theorem dL_law_1011 : decode cL_law 1011 = .ok (.if_icmp .eq 313, 3) := dk_159 1 57 (dk_at dksL_law_37 13 rfl rfl)
theorem dL_law_1014 : decode cL_law 1014 = .ok (.iconst 0, 1) := dk_3 (dk_at dksL_law_37 16 rfl rfl)
theorem dL_law_1015 : decode cL_law 1015 = .ok (.ireturn, 1) := dk_172 (dk_at dksL_law_37 17 rfl rfl)
theorem dL_law_1016 : decode cL_law 1016 = .ok (.aload_n 1, 1) := dk_43 (dk_at dksL_law_37 18 rfl rfl)
theorem dL_law_1017 : decode cL_law 1017 = .ok (.aload_n 0, 1) := dk_42 (dk_at dksL_law_37 19 rfl rfl)
theorem dL_law_1018 : decode cL_law 1018 = .ok (.iload 4, 2) := dk_21 4 (dk_at dksL_law_37 20 rfl rfl)
theorem dL_law_1020 : decode cL_law 1020 = .ok (.iconst 1, 1) := dk_4 (dk_at dksL_law_37 22 rfl rfl)
theorem dL_law_1021 : decode cL_law 1021 = .ok (.iadd, 1) := dk_96 (dk_at dksL_law_37 23 rfl rfl)
theorem dL_law_1022 : decode cL_law 1022 = .ok (.iaload, 1) := dk_46 (dk_at dksL_law_38 0 rfl rfl)
theorem dL_law_1023 : decode cL_law 1023 = .ok (.invokevirtual 131, 3) := dk_182 0 131 (dk_at dksL_law_38 1 rfl rfl)
theorem dL_law_1026 : decode cL_law 1026 = .ok (.aload_n 2, 1) := dk_44 (dk_at dksL_law_38 4 rfl rfl)
theorem dL_law_1027 : decode cL_law 1027 = .ok (.aload_n 0, 1) := dk_42 (dk_at dksL_law_38 5 rfl rfl)
theorem dL_law_1028 : decode cL_law 1028 = .ok (.iload 4, 2) := dk_21 4 (dk_at dksL_law_38 6 rfl rfl)
theorem dL_law_1030 : decode cL_law 1030 = .ok (.iconst 1, 1) := dk_4 (dk_at dksL_law_38 8 rfl rfl)
theorem dL_law_1031 : decode cL_law 1031 = .ok (.iadd, 1) := dk_96 (dk_at dksL_law_38 9 rfl rfl)
theorem dL_law_1032 : decode cL_law 1032 = .ok (.iaload, 1) := dk_46 (dk_at dksL_law_38 10 rfl rfl)
theorem dL_law_1033 : decode cL_law 1033 = .ok (.invokevirtual 134, 3) := dk_182 0 134 (dk_at dksL_law_38 11 rfl rfl)
theorem dL_law_1036 : decode cL_law 1036 = .ok (.if_icmp .eq 288, 3) := dk_159 1 32 (dk_at dksL_law_38 14 rfl rfl)
theorem dL_law_1039 : decode cL_law 1039 = .ok (.iconst 0, 1) := dk_3 (dk_at dksL_law_38 17 rfl rfl)
theorem dL_law_1040 : decode cL_law 1040 = .ok (.ireturn, 1) := dk_172 (dk_at dksL_law_38 18 rfl rfl)
theorem dL_law_1041 : decode cL_law 1041 = .ok (.aload_n 1, 1) := dk_43 (dk_at dksL_law_38 19 rfl rfl)
theorem dL_law_1042 : decode cL_law 1042 = .ok (.aload_n 0, 1) := dk_42 (dk_at dksL_law_38 20 rfl rfl)
theorem dL_law_1043 : decode cL_law 1043 = .ok (.iload 4, 2) := dk_21 4 (dk_at dksL_law_38 21 rfl rfl)
theorem dL_law_1045 : decode cL_law 1045 = .ok (.iconst 1, 1) := dk_4 (dk_at dksL_law_38 23 rfl rfl)
theorem dL_law_1046 : decode cL_law 1046 = .ok (.iadd, 1) := dk_96 (dk_at dksL_law_39 0 rfl rfl)
theorem dL_law_1047 : decode cL_law 1047 = .ok (.iaload, 1) := dk_46 (dk_at dksL_law_39 1 rfl rfl)
theorem dL_law_1048 : decode cL_law 1048 = .ok (.invokevirtual 135, 3) := dk_182 0 135 (dk_at dksL_law_39 2 rfl rfl)
theorem dL_law_1051 : decode cL_law 1051 = .ok (.aload_n 2, 1) := dk_44 (dk_at dksL_law_39 5 rfl rfl)
theorem dL_law_1052 : decode cL_law 1052 = .ok (.aload_n 0, 1) := dk_42 (dk_at dksL_law_39 6 rfl rfl)
theorem dL_law_1053 : decode cL_law 1053 = .ok (.iload 4, 2) := dk_21 4 (dk_at dksL_law_39 7 rfl rfl)
theorem dL_law_1055 : decode cL_law 1055 = .ok (.iconst 1, 1) := dk_4 (dk_at dksL_law_39 9 rfl rfl)
theorem dL_law_1056 : decode cL_law 1056 = .ok (.iadd, 1) := dk_96 (dk_at dksL_law_39 10 rfl rfl)
theorem dL_law_1057 : decode cL_law 1057 = .ok (.iaload, 1) := dk_46 (dk_at dksL_law_39 11 rfl rfl)
theorem dL_law_1058 : decode cL_law 1058 = .ok (.invokevirtual 138, 3) := dk_182 0 138 (dk_at dksL_law_39 12 rfl rfl)
theorem dL_law_1061 : decode cL_law 1061 = .ok (.if_icmp .eq 263, 3) := dk_159 1 7 (dk_at dksL_law_39 15 rfl rfl)
theorem dL_law_1064 : decode cL_law 1064 = .ok (.iconst 0, 1) := dk_3 (dk_at dksL_law_39 18 rfl rfl)
theorem dL_law_1065 : decode cL_law 1065 = .ok (.ireturn, 1) := dk_172 (dk_at dksL_law_39 19 rfl rfl)
theorem dL_law_1066 : decode cL_law 1066 = .ok (.aload_n 1, 1) := dk_43 (dk_at dksL_law_39 20 rfl rfl)
theorem dL_law_1067 : decode cL_law 1067 = .ok (.aload_n 3, 1) := dk_45 (dk_at dksL_law_39 21 rfl rfl)
theorem dL_law_1068 : decode cL_law 1068 = .ok (.invokestatic 139, 3) := dk_184 0 139 (dk_at dksL_law_40 0 rfl rfl)
theorem dL_law_1071 : decode cL_law 1071 = .ok (.istore 5, 2) := dk_54 5 (dk_at dksL_law_40 3 rfl rfl)
theorem dL_law_1073 : decode cL_law 1073 = .ok (.aload_n 2, 1) := dk_44 (dk_at dksL_law_40 5 rfl rfl)
theorem dL_law_1074 : decode cL_law 1074 = .ok (.invokevirtual 144, 3) := dk_182 0 144 (dk_at dksL_law_40 6 rfl rfl)
theorem dL_law_1077 : decode cL_law 1077 = .ok (.istore 6, 2) := dk_54 6 (dk_at dksL_law_40 9 rfl rfl)
theorem dL_law_1079 : decode cL_law 1079 = .ok (.aload_n 2, 1) := dk_44 (dk_at dksL_law_40 11 rfl rfl)
theorem dL_law_1080 : decode cL_law 1080 = .ok (.invokevirtual 145, 3) := dk_182 0 145 (dk_at dksL_law_40 12 rfl rfl)
theorem dL_law_1083 : decode cL_law 1083 = .ok (.iload 5, 2) := dk_21 5 (dk_at dksL_law_40 15 rfl rfl)
theorem dL_law_1085 : decode cL_law 1085 = .ok (.if_icmp .eq 5, 3) := dk_159 0 5 (dk_at dksL_law_40 17 rfl rfl)
theorem dL_law_1088 : decode cL_law 1088 = .ok (.iconst 0, 1) := dk_3 (dk_at dksL_law_40 20 rfl rfl)
theorem dL_law_1089 : decode cL_law 1089 = .ok (.ireturn, 1) := dk_172 (dk_at dksL_law_40 21 rfl rfl)
theorem dL_law_1090 : decode cL_law 1090 = .ok (.iload 5, 2) := dk_21 5 (dk_at dksL_law_40 22 rfl rfl)
theorem dL_law_1092 : decode cL_law 1092 = .ok (.ifCond .ne 15, 3) := dk_154 0 15 (dk_at dksL_law_41 0 rfl rfl)
theorem dL_law_1095 : decode cL_law 1095 = .ok (.aload_n 3, 1) := dk_45 (dk_at dksL_law_41 3 rfl rfl)
theorem dL_law_1096 : decode cL_law 1096 = .ok (.iconst 0, 1) := dk_3 (dk_at dksL_law_41 4 rfl rfl)
theorem dL_law_1097 : decode cL_law 1097 = .ok (.laload, 1) := dk_47 (dk_at dksL_law_41 5 rfl rfl)
theorem dL_law_1098 : decode cL_law 1098 = .ok (.iload 6, 2) := dk_21 6 (dk_at dksL_law_41 6 rfl rfl)
theorem dL_law_1100 : decode cL_law 1100 = .ok (.i2l, 1) := dk_133 (dk_at dksL_law_41 8 rfl rfl)
theorem dL_law_1101 : decode cL_law 1101 = .ok (.lcmp, 1) := dk_148 (dk_at dksL_law_41 9 rfl rfl)
theorem dL_law_1102 : decode cL_law 1102 = .ok (.ifCond .eq 5, 3) := dk_153 0 5 (dk_at dksL_law_41 10 rfl rfl)
theorem dL_law_1105 : decode cL_law 1105 = .ok (.iconst 0, 1) := dk_3 (dk_at dksL_law_41 13 rfl rfl)
theorem dL_law_1106 : decode cL_law 1106 = .ok (.ireturn, 1) := dk_172 (dk_at dksL_law_41 14 rfl rfl)
theorem dL_law_1107 : decode cL_law 1107 = .ok (.goto 217, 3) := dk_167 0 217 (dk_at dksL_law_41 15 rfl rfl)
theorem dL_law_1110 : decode cL_law 1110 = .ok (.aload_n 1, 1) := dk_43 (dk_at dksL_law_41 18 rfl rfl)
theorem dL_law_1111 : decode cL_law 1111 = .ok (.invokevirtual 148, 3) := dk_182 0 148 (dk_at dksL_law_41 19 rfl rfl)
theorem dL_law_1114 : decode cL_law 1114 = .ok (.aload_n 2, 1) := dk_44 (dk_at dksL_law_41 22 rfl rfl)
theorem dL_law_1115 : decode cL_law 1115 = .ok (.invokevirtual 151, 3) := dk_182 0 151 (dk_at dksL_law_42 0 rfl rfl)
theorem dL_law_1118 : decode cL_law 1118 = .ok (.if_icmp .eq 206, 3) := dk_159 0 206 (dk_at dksL_law_42 3 rfl rfl)
theorem dL_law_1121 : decode cL_law 1121 = .ok (.iconst 0, 1) := dk_3 (dk_at dksL_law_42 6 rfl rfl)
theorem dL_law_1122 : decode cL_law 1122 = .ok (.ireturn, 1) := dk_172 (dk_at dksL_law_42 7 rfl rfl)
theorem dL_law_1123 : decode cL_law 1123 = .ok (.aload_n 1, 1) := dk_43 (dk_at dksL_law_42 8 rfl rfl)
theorem dL_law_1124 : decode cL_law 1124 = .ok (.aload_n 0, 1) := dk_42 (dk_at dksL_law_42 9 rfl rfl)
theorem dL_law_1125 : decode cL_law 1125 = .ok (.iload 4, 2) := dk_21 4 (dk_at dksL_law_42 10 rfl rfl)
theorem dL_law_1127 : decode cL_law 1127 = .ok (.iconst 1, 1) := dk_4 (dk_at dksL_law_42 12 rfl rfl)
theorem dL_law_1128 : decode cL_law 1128 = .ok (.iadd, 1) := dk_96 (dk_at dksL_law_42 13 rfl rfl)
theorem dL_law_1129 : decode cL_law 1129 = .ok (.iaload, 1) := dk_46 (dk_at dksL_law_42 14 rfl rfl)
theorem dL_law_1130 : decode cL_law 1130 = .ok (.invokevirtual 152, 3) := dk_182 0 152 (dk_at dksL_law_42 15 rfl rfl)
theorem dL_law_1133 : decode cL_law 1133 = .ok (.aload_n 2, 1) := dk_44 (dk_at dksL_law_42 18 rfl rfl)
theorem dL_law_1134 : decode cL_law 1134 = .ok (.aload_n 0, 1) := dk_42 (dk_at dksL_law_42 19 rfl rfl)
theorem dL_law_1135 : decode cL_law 1135 = .ok (.iload 4, 2) := dk_21 4 (dk_at dksL_law_42 20 rfl rfl)
theorem dL_law_1137 : decode cL_law 1137 = .ok (.iconst 1, 1) := dk_4 (dk_at dksL_law_42 22 rfl rfl)
theorem dL_law_1138 : decode cL_law 1138 = .ok (.iadd, 1) := dk_96 (dk_at dksL_law_42 23 rfl rfl)
theorem dL_law_1139 : decode cL_law 1139 = .ok (.iaload, 1) := dk_46 (dk_at dksL_law_43 0 rfl rfl)
theorem dL_law_1140 : decode cL_law 1140 = .ok (.invokevirtual 155, 3) := dk_182 0 155 (dk_at dksL_law_43 1 rfl rfl)
theorem dL_law_1143 : decode cL_law 1143 = .ok (.if_icmp .eq 181, 3) := dk_159 0 181 (dk_at dksL_law_43 4 rfl rfl)
theorem dL_law_1146 : decode cL_law 1146 = .ok (.iconst 0, 1) := dk_3 (dk_at dksL_law_43 7 rfl rfl)
theorem dL_law_1147 : decode cL_law 1147 = .ok (.ireturn, 1) := dk_172 (dk_at dksL_law_43 8 rfl rfl)
theorem dL_law_1148 : decode cL_law 1148 = .ok (.aload_n 1, 1) := dk_43 (dk_at dksL_law_43 9 rfl rfl)
theorem dL_law_1149 : decode cL_law 1149 = .ok (.aload_n 0, 1) := dk_42 (dk_at dksL_law_43 10 rfl rfl)
theorem dL_law_1150 : decode cL_law 1150 = .ok (.iload 4, 2) := dk_21 4 (dk_at dksL_law_43 11 rfl rfl)
theorem dL_law_1152 : decode cL_law 1152 = .ok (.iconst 1, 1) := dk_4 (dk_at dksL_law_43 13 rfl rfl)
theorem dL_law_1153 : decode cL_law 1153 = .ok (.iadd, 1) := dk_96 (dk_at dksL_law_43 14 rfl rfl)
theorem dL_law_1154 : decode cL_law 1154 = .ok (.iaload, 1) := dk_46 (dk_at dksL_law_43 15 rfl rfl)
theorem dL_law_1155 : decode cL_law 1155 = .ok (.aload_n 0, 1) := dk_42 (dk_at dksL_law_43 16 rfl rfl)
theorem dL_law_1156 : decode cL_law 1156 = .ok (.iload 4, 2) := dk_21 4 (dk_at dksL_law_43 17 rfl rfl)
theorem dL_law_1158 : decode cL_law 1158 = .ok (.iconst 2, 1) := dk_5 (dk_at dksL_law_43 19 rfl rfl)
theorem dL_law_1159 : decode cL_law 1159 = .ok (.iadd, 1) := dk_96 (dk_at dksL_law_43 20 rfl rfl)
theorem dL_law_1160 : decode cL_law 1160 = .ok (.iaload, 1) := dk_46 (dk_at dksL_law_43 21 rfl rfl)
theorem dL_law_1161 : decode cL_law 1161 = .ok (.aload_n 0, 1) := dk_42 (dk_at dksL_law_43 22 rfl rfl)
theorem dL_law_1162 : decode cL_law 1162 = .ok (.iload 4, 2) := dk_21 4 (dk_at dksL_law_44 0 rfl rfl)
theorem dL_law_1164 : decode cL_law 1164 = .ok (.iconst 3, 1) := dk_6 (dk_at dksL_law_44 2 rfl rfl)
theorem dL_law_1165 : decode cL_law 1165 = .ok (.iadd, 1) := dk_96 (dk_at dksL_law_44 3 rfl rfl)
theorem dL_law_1166 : decode cL_law 1166 = .ok (.iaload, 1) := dk_46 (dk_at dksL_law_44 4 rfl rfl)
theorem dL_law_1167 : decode cL_law 1167 = .ok (.invokevirtual 156, 3) := dk_182 0 156 (dk_at dksL_law_44 5 rfl rfl)
theorem dL_law_1170 : decode cL_law 1170 = .ok (.aload_n 2, 1) := dk_44 (dk_at dksL_law_44 8 rfl rfl)
theorem dL_law_1171 : decode cL_law 1171 = .ok (.aload_n 0, 1) := dk_42 (dk_at dksL_law_44 9 rfl rfl)
theorem dL_law_1172 : decode cL_law 1172 = .ok (.iload 4, 2) := dk_21 4 (dk_at dksL_law_44 10 rfl rfl)
theorem dL_law_1174 : decode cL_law 1174 = .ok (.iconst 1, 1) := dk_4 (dk_at dksL_law_44 12 rfl rfl)
theorem dL_law_1175 : decode cL_law 1175 = .ok (.iadd, 1) := dk_96 (dk_at dksL_law_44 13 rfl rfl)
theorem dL_law_1176 : decode cL_law 1176 = .ok (.iaload, 1) := dk_46 (dk_at dksL_law_44 14 rfl rfl)
theorem dL_law_1177 : decode cL_law 1177 = .ok (.aload_n 0, 1) := dk_42 (dk_at dksL_law_44 15 rfl rfl)
theorem dL_law_1178 : decode cL_law 1178 = .ok (.iload 4, 2) := dk_21 4 (dk_at dksL_law_44 16 rfl rfl)
theorem dL_law_1180 : decode cL_law 1180 = .ok (.iconst 2, 1) := dk_5 (dk_at dksL_law_44 18 rfl rfl)
theorem dL_law_1181 : decode cL_law 1181 = .ok (.iadd, 1) := dk_96 (dk_at dksL_law_44 19 rfl rfl)
theorem dL_law_1182 : decode cL_law 1182 = .ok (.iaload, 1) := dk_46 (dk_at dksL_law_44 20 rfl rfl)
theorem dL_law_1183 : decode cL_law 1183 = .ok (.aload_n 0, 1) := dk_42 (dk_at dksL_law_44 21 rfl rfl)
theorem dL_law_1184 : decode cL_law 1184 = .ok (.iload 4, 2) := dk_21 4 (dk_at dksL_law_44 22 rfl rfl)
theorem dL_law_1186 : decode cL_law 1186 = .ok (.iconst 3, 1) := dk_6 (dk_at dksL_law_45 0 rfl rfl)
theorem dL_law_1187 : decode cL_law 1187 = .ok (.iadd, 1) := dk_96 (dk_at dksL_law_45 1 rfl rfl)
theorem dL_law_1188 : decode cL_law 1188 = .ok (.iaload, 1) := dk_46 (dk_at dksL_law_45 2 rfl rfl)
theorem dL_law_1189 : decode cL_law 1189 = .ok (.invokevirtual 159, 3) := dk_182 0 159 (dk_at dksL_law_45 3 rfl rfl)
theorem dL_law_1192 : decode cL_law 1192 = .ok (.if_icmp .eq 132, 3) := dk_159 0 132 (dk_at dksL_law_45 6 rfl rfl)
theorem dL_law_1195 : decode cL_law 1195 = .ok (.iconst 0, 1) := dk_3 (dk_at dksL_law_45 9 rfl rfl)
theorem dL_law_1196 : decode cL_law 1196 = .ok (.ireturn, 1) := dk_172 (dk_at dksL_law_45 10 rfl rfl)
theorem dL_law_1197 : decode cL_law 1197 = .ok (.aload_n 1, 1) := dk_43 (dk_at dksL_law_45 11 rfl rfl)
theorem dL_law_1198 : decode cL_law 1198 = .ok (.aload_n 0, 1) := dk_42 (dk_at dksL_law_45 12 rfl rfl)
theorem dL_law_1199 : decode cL_law 1199 = .ok (.iload 4, 2) := dk_21 4 (dk_at dksL_law_45 13 rfl rfl)
theorem dL_law_1201 : decode cL_law 1201 = .ok (.iconst 1, 1) := dk_4 (dk_at dksL_law_45 15 rfl rfl)
theorem dL_law_1202 : decode cL_law 1202 = .ok (.iadd, 1) := dk_96 (dk_at dksL_law_45 16 rfl rfl)
theorem dL_law_1203 : decode cL_law 1203 = .ok (.iaload, 1) := dk_46 (dk_at dksL_law_45 17 rfl rfl)
theorem dL_law_1204 : decode cL_law 1204 = .ok (.aload_n 0, 1) := dk_42 (dk_at dksL_law_45 18 rfl rfl)
theorem dL_law_1205 : decode cL_law 1205 = .ok (.iload 4, 2) := dk_21 4 (dk_at dksL_law_45 19 rfl rfl)
theorem dL_law_1207 : decode cL_law 1207 = .ok (.iconst 2, 1) := dk_5 (dk_at dksL_law_45 21 rfl rfl)
theorem dL_law_1208 : decode cL_law 1208 = .ok (.iadd, 1) := dk_96 (dk_at dksL_law_45 22 rfl rfl)
theorem dL_law_1209 : decode cL_law 1209 = .ok (.iaload, 1) := dk_46 (dk_at dksL_law_45 23 rfl rfl)
theorem dL_law_1210 : decode cL_law 1210 = .ok (.aload_n 0, 1) := dk_42 (dk_at dksL_law_46 0 rfl rfl)
theorem dL_law_1211 : decode cL_law 1211 = .ok (.iload 4, 2) := dk_21 4 (dk_at dksL_law_46 1 rfl rfl)
theorem dL_law_1213 : decode cL_law 1213 = .ok (.iconst 3, 1) := dk_6 (dk_at dksL_law_46 3 rfl rfl)
theorem dL_law_1214 : decode cL_law 1214 = .ok (.iadd, 1) := dk_96 (dk_at dksL_law_46 4 rfl rfl)
theorem dL_law_1215 : decode cL_law 1215 = .ok (.iaload, 1) := dk_46 (dk_at dksL_law_46 5 rfl rfl)
theorem dL_law_1216 : decode cL_law 1216 = .ok (.invokevirtual 160, 3) := dk_182 0 160 (dk_at dksL_law_46 6 rfl rfl)
theorem dL_law_1219 : decode cL_law 1219 = .ok (.aload_n 2, 1) := dk_44 (dk_at dksL_law_46 9 rfl rfl)
theorem dL_law_1220 : decode cL_law 1220 = .ok (.aload_n 0, 1) := dk_42 (dk_at dksL_law_46 10 rfl rfl)
theorem dL_law_1221 : decode cL_law 1221 = .ok (.iload 4, 2) := dk_21 4 (dk_at dksL_law_46 11 rfl rfl)
theorem dL_law_1223 : decode cL_law 1223 = .ok (.iconst 1, 1) := dk_4 (dk_at dksL_law_46 13 rfl rfl)
theorem dL_law_1224 : decode cL_law 1224 = .ok (.iadd, 1) := dk_96 (dk_at dksL_law_46 14 rfl rfl)
theorem dL_law_1225 : decode cL_law 1225 = .ok (.iaload, 1) := dk_46 (dk_at dksL_law_46 15 rfl rfl)
theorem dL_law_1226 : decode cL_law 1226 = .ok (.aload_n 0, 1) := dk_42 (dk_at dksL_law_46 16 rfl rfl)
theorem dL_law_1227 : decode cL_law 1227 = .ok (.iload 4, 2) := dk_21 4 (dk_at dksL_law_46 17 rfl rfl)
theorem dL_law_1229 : decode cL_law 1229 = .ok (.iconst 2, 1) := dk_5 (dk_at dksL_law_46 19 rfl rfl)
theorem dL_law_1230 : decode cL_law 1230 = .ok (.iadd, 1) := dk_96 (dk_at dksL_law_46 20 rfl rfl)
theorem dL_law_1231 : decode cL_law 1231 = .ok (.iaload, 1) := dk_46 (dk_at dksL_law_46 21 rfl rfl)
theorem dL_law_1232 : decode cL_law 1232 = .ok (.aload_n 0, 1) := dk_42 (dk_at dksL_law_46 22 rfl rfl)
theorem dL_law_1233 : decode cL_law 1233 = .ok (.iload 4, 2) := dk_21 4 (dk_at dksL_law_47 0 rfl rfl)
theorem dL_law_1235 : decode cL_law 1235 = .ok (.iconst 3, 1) := dk_6 (dk_at dksL_law_47 2 rfl rfl)
theorem dL_law_1236 : decode cL_law 1236 = .ok (.iadd, 1) := dk_96 (dk_at dksL_law_47 3 rfl rfl)
theorem dL_law_1237 : decode cL_law 1237 = .ok (.iaload, 1) := dk_46 (dk_at dksL_law_47 4 rfl rfl)
theorem dL_law_1238 : decode cL_law 1238 = .ok (.invokevirtual 163, 3) := dk_182 0 163 (dk_at dksL_law_47 5 rfl rfl)
theorem dL_law_1241 : decode cL_law 1241 = .ok (.if_icmp .eq 83, 3) := dk_159 0 83 (dk_at dksL_law_47 8 rfl rfl)
theorem dL_law_1244 : decode cL_law 1244 = .ok (.iconst 0, 1) := dk_3 (dk_at dksL_law_47 11 rfl rfl)
theorem dL_law_1245 : decode cL_law 1245 = .ok (.ireturn, 1) := dk_172 (dk_at dksL_law_47 12 rfl rfl)
theorem dL_law_1246 : decode cL_law 1246 = .ok (.aload_n 1, 1) := dk_43 (dk_at dksL_law_47 13 rfl rfl)
theorem dL_law_1247 : decode cL_law 1247 = .ok (.aload_n 0, 1) := dk_42 (dk_at dksL_law_47 14 rfl rfl)
theorem dL_law_1248 : decode cL_law 1248 = .ok (.iload 4, 2) := dk_21 4 (dk_at dksL_law_47 15 rfl rfl)
theorem dL_law_1250 : decode cL_law 1250 = .ok (.iconst 1, 1) := dk_4 (dk_at dksL_law_47 17 rfl rfl)
theorem dL_law_1251 : decode cL_law 1251 = .ok (.iadd, 1) := dk_96 (dk_at dksL_law_47 18 rfl rfl)
theorem dL_law_1252 : decode cL_law 1252 = .ok (.iaload, 1) := dk_46 (dk_at dksL_law_47 19 rfl rfl)
theorem dL_law_1253 : decode cL_law 1253 = .ok (.aload_n 0, 1) := dk_42 (dk_at dksL_law_47 20 rfl rfl)
theorem dL_law_1254 : decode cL_law 1254 = .ok (.iload 4, 2) := dk_21 4 (dk_at dksL_law_47 21 rfl rfl)
theorem dL_law_1256 : decode cL_law 1256 = .ok (.iconst 2, 1) := dk_5 (dk_at dksL_law_47 23 rfl rfl)
theorem dL_law_1257 : decode cL_law 1257 = .ok (.iadd, 1) := dk_96 (dk_at dksL_law_48 0 rfl rfl)
theorem dL_law_1258 : decode cL_law 1258 = .ok (.iaload, 1) := dk_46 (dk_at dksL_law_48 1 rfl rfl)
theorem dL_law_1259 : decode cL_law 1259 = .ok (.ifCond .eq 7, 3) := dk_153 0 7 (dk_at dksL_law_48 2 rfl rfl)
theorem dL_law_1262 : decode cL_law 1262 = .ok (.iconst 1, 1) := dk_4 (dk_at dksL_law_48 5 rfl rfl)
theorem dL_law_1263 : decode cL_law 1263 = .ok (.goto 4, 3) := dk_167 0 4 (dk_at dksL_law_48 6 rfl rfl)
theorem dL_law_1266 : decode cL_law 1266 = .ok (.iconst 0, 1) := dk_3 (dk_at dksL_law_48 9 rfl rfl)
theorem dL_law_1267 : decode cL_law 1267 = .ok (.invokevirtual 164, 3) := dk_182 0 164 (dk_at dksL_law_48 10 rfl rfl)
theorem dL_law_1270 : decode cL_law 1270 = .ok (.aload_n 2, 1) := dk_44 (dk_at dksL_law_48 13 rfl rfl)
theorem dL_law_1271 : decode cL_law 1271 = .ok (.aload_n 0, 1) := dk_42 (dk_at dksL_law_48 14 rfl rfl)
theorem dL_law_1272 : decode cL_law 1272 = .ok (.iload 4, 2) := dk_21 4 (dk_at dksL_law_48 15 rfl rfl)
theorem dL_law_1274 : decode cL_law 1274 = .ok (.iconst 1, 1) := dk_4 (dk_at dksL_law_48 17 rfl rfl)
theorem dL_law_1275 : decode cL_law 1275 = .ok (.iadd, 1) := dk_96 (dk_at dksL_law_48 18 rfl rfl)
theorem dL_law_1276 : decode cL_law 1276 = .ok (.iaload, 1) := dk_46 (dk_at dksL_law_48 19 rfl rfl)
theorem dL_law_1277 : decode cL_law 1277 = .ok (.aload_n 0, 1) := dk_42 (dk_at dksL_law_48 20 rfl rfl)
theorem dL_law_1278 : decode cL_law 1278 = .ok (.iload 4, 2) := dk_21 4 (dk_at dksL_law_48 21 rfl rfl)
theorem dL_law_1280 : decode cL_law 1280 = .ok (.iconst 2, 1) := dk_5 (dk_at dksL_law_48 23 rfl rfl)
theorem dL_law_1281 : decode cL_law 1281 = .ok (.iadd, 1) := dk_96 (dk_at dksL_law_49 0 rfl rfl)
theorem dL_law_1282 : decode cL_law 1282 = .ok (.iaload, 1) := dk_46 (dk_at dksL_law_49 1 rfl rfl)
theorem dL_law_1283 : decode cL_law 1283 = .ok (.ifCond .eq 7, 3) := dk_153 0 7 (dk_at dksL_law_49 2 rfl rfl)
theorem dL_law_1286 : decode cL_law 1286 = .ok (.iconst 1, 1) := dk_4 (dk_at dksL_law_49 5 rfl rfl)
theorem dL_law_1287 : decode cL_law 1287 = .ok (.goto 4, 3) := dk_167 0 4 (dk_at dksL_law_49 6 rfl rfl)
theorem dL_law_1290 : decode cL_law 1290 = .ok (.iconst 0, 1) := dk_3 (dk_at dksL_law_49 9 rfl rfl)
theorem dL_law_1291 : decode cL_law 1291 = .ok (.invokevirtual 168, 3) := dk_182 0 168 (dk_at dksL_law_49 10 rfl rfl)
theorem dL_law_1294 : decode cL_law 1294 = .ok (.if_icmp .eq 30, 3) := dk_159 0 30 (dk_at dksL_law_49 13 rfl rfl)
theorem dL_law_1297 : decode cL_law 1297 = .ok (.iconst 0, 1) := dk_3 (dk_at dksL_law_49 16 rfl rfl)
theorem dL_law_1298 : decode cL_law 1298 = .ok (.ireturn, 1) := dk_172 (dk_at dksL_law_49 17 rfl rfl)
theorem dL_law_1299 : decode cL_law 1299 = .ok (.aload_n 1, 1) := dk_43 (dk_at dksL_law_49 18 rfl rfl)
theorem dL_law_1300 : decode cL_law 1300 = .ok (.aload_n 0, 1) := dk_42 (dk_at dksL_law_49 19 rfl rfl)
theorem dL_law_1301 : decode cL_law 1301 = .ok (.iload 4, 2) := dk_21 4 (dk_at dksL_law_49 20 rfl rfl)
theorem dL_law_1303 : decode cL_law 1303 = .ok (.iconst 1, 1) := dk_4 (dk_at dksL_law_49 22 rfl rfl)
theorem dL_law_1304 : decode cL_law 1304 = .ok (.iadd, 1) := dk_96 (dk_at dksL_law_49 23 rfl rfl)
theorem dL_law_1305 : decode cL_law 1305 = .ok (.iaload, 1) := dk_46 (dk_at dksL_law_50 0 rfl rfl)
theorem dL_law_1306 : decode cL_law 1306 = .ok (.invokevirtual 169, 3) := dk_182 0 169 (dk_at dksL_law_50 1 rfl rfl)
theorem dL_law_1309 : decode cL_law 1309 = .ok (.aload_n 2, 1) := dk_44 (dk_at dksL_law_50 4 rfl rfl)
theorem dL_law_1310 : decode cL_law 1310 = .ok (.aload_n 0, 1) := dk_42 (dk_at dksL_law_50 5 rfl rfl)
theorem dL_law_1311 : decode cL_law 1311 = .ok (.iload 4, 2) := dk_21 4 (dk_at dksL_law_50 6 rfl rfl)
theorem dL_law_1313 : decode cL_law 1313 = .ok (.iconst 1, 1) := dk_4 (dk_at dksL_law_50 8 rfl rfl)
theorem dL_law_1314 : decode cL_law 1314 = .ok (.iadd, 1) := dk_96 (dk_at dksL_law_50 9 rfl rfl)
theorem dL_law_1315 : decode cL_law 1315 = .ok (.iaload, 1) := dk_46 (dk_at dksL_law_50 10 rfl rfl)
theorem dL_law_1316 : decode cL_law 1316 = .ok (.invokevirtual 172, 3) := dk_182 0 172 (dk_at dksL_law_50 11 rfl rfl)
theorem dL_law_1319 : decode cL_law 1319 = .ok (.if_icmp .eq 5, 3) := dk_159 0 5 (dk_at dksL_law_50 14 rfl rfl)
theorem dL_law_1322 : decode cL_law 1322 = .ok (.iconst 0, 1) := dk_3 (dk_at dksL_law_50 17 rfl rfl)
theorem dL_law_1323 : decode cL_law 1323 = .ok (.ireturn, 1) := dk_172 (dk_at dksL_law_50 18 rfl rfl)
theorem dL_law_1324 : decode cL_law 1324 = .ok (.iinc 4 7, 3) := dk_132 4 7 (dk_at dksL_law_50 19 rfl rfl)
theorem dL_law_1327 : decode cL_law 1327 = .ok (.goto (-1304), 3) := dk_167 250 232 (dk_at dksL_law_51 0 rfl rfl)
theorem dL_law_1330 : decode cL_law 1330 = .ok (.iconst 1, 1) := dk_4 (dk_at dksL_law_51 3 rfl rfl)
theorem dL_law_1331 : decode cL_law 1331 = .ok (.ireturn, 1) := dk_172 (dk_at dksL_law_51 4 rfl rfl)

/-! BeggarHeaps -/
set_option maxRecDepth 100000
def RX1 : String := "BeggarHeaps"
def TX1 : u_T := fun k => match k with
  | 0 => ("BeggarHeaps", "tape", "[B", true)
  | 1 => ("BeggarHeaps", "reader", "LBeggarHeaps$Reader;", true)
  | 2 => ("BeggarHeaps", "orders", "[LBeggarHeaps$Order;", true)
  | 3 => ("BeggarHeaps", "run", "LBeggarHeaps$Run;", true)
  | 4 => ("BeggarHeaps", "table", "LBeggarHeaps$Table;", false)
  | 5 => ("BeggarHeaps", "book", "Ljava/util/ArrayList;", false)
  | 6 => ("BeggarHeaps", "game", "LBeggarHeaps$Game;", true)
  | 7 => ("BeggarHeaps", "trial", "LBeggarHeaps$Game;", true)
  | 8 => ("BeggarHeaps", "dealtLeft", "LBeggarHeaps$Row;", true)
  | 9 => ("BeggarHeaps", "dealtRight", "LBeggarHeaps$Row;", true)
  | 10 => ("BeggarHeaps", "facts", "[I", true)
  | 11 => ("BeggarHeaps", "taped", "I", false)
  | 12 => ("BeggarHeaps", "isDealt", "Z", false)
  | 13 => ("BeggarHeaps", "undone", "[LBeggarHeaps$Game;", true)
  | 14 => ("BeggarHeaps", "done", "I", false)
  | 15 => ("BeggarHeaps", "cards", "[I", true)
  | 16 => ("BeggarHeaps", "many", "I", false)
  | 17 => ("BeggarHeaps", "odds", "[I", true)
  | 18 => ("BeggarHeaps", "chosen", "[I", true)
  | 19 => ("BeggarHeaps", "tried", "[LBeggarHeaps$Game;", true)
  | 20 => ("BeggarHeaps", "choices", "I", false)
  | 21 => ("BeggarHeaps", "g", "J", false)
  | _ => ("BeggarHeaps", "marks", "[LBeggarHeaps$Mark;", true)
def tyX1 : Nat → FieldType := fun k => match k with
  | 0 => .array .byte
  | 1 => .object "BeggarHeaps$Reader"
  | 2 => .array (.object "BeggarHeaps$Order")
  | 3 => .object "BeggarHeaps$Run"
  | 4 => .object "BeggarHeaps$Table"
  | 5 => .object "java/util/ArrayList"
  | 6 => .object "BeggarHeaps$Game"
  | 7 => .object "BeggarHeaps$Game"
  | 8 => .object "BeggarHeaps$Row"
  | 9 => .object "BeggarHeaps$Row"
  | 10 => .array .int
  | 11 => .int
  | 12 => .boolean
  | 13 => .array (.object "BeggarHeaps$Game")
  | 14 => .int
  | 15 => .array .int
  | 16 => .int
  | 17 => .array .int
  | 18 => .array .int
  | 19 => .array (.object "BeggarHeaps$Game")
  | 20 => .int
  | 21 => .long
  | _ => .array (.object "BeggarHeaps$Mark")
abbrev wsX10 : List Cond := u_ws RX1 TX1 23
set_option maxRecDepth 100000 in
theorem nmX1 : ∀ a, a < 23 → ∀ b, b < 23 → a ≠ b → (TX1 a).2.1 ≠ (TX1 b).2.1 := by decide +kernel
set_option maxRecDepth 100000 in
theorem tyX1_ok : ∀ k, k < 23 → parseFieldDescriptor (TX1 k).2.2.1 = some (tyX1 k) := by decide +kernel
abbrev cX1_init : ByteArray := prog_1_method_6_code
def yX1_init : MethodName := ⟨RX1, "<init>", "()V"⟩
def dkwX1_init_7 : List UInt8 := [181, 0, 119, 42, 180, 0, 80, 3, 182, 0, 123, 177]
abbrev dktX1_init_7 : List UInt8 := dkwX1_init_7 ++ []
def dkwX1_init_6 : List UInt8 := [42, 16, 6, 188, 10, 181, 0, 111, 42, 16, 14, 189, 0, 77, 181, 0, 114, 42, 7, 189, 0, 117]
abbrev dktX1_init_6 : List UInt8 := dkwX1_init_6 ++ dktX1_init_7
def dkwX1_init_5 : List UInt8 := [42, 16, 16, 189, 0, 77, 181, 0, 101, 42, 16, 24, 188, 10, 181, 0, 105, 42, 7, 188, 10, 181, 0, 108]
abbrev dktX1_init_5 : List UInt8 := dkwX1_init_5 ++ dktX1_init_6
def dkwX1_init_4 : List UInt8 := [183, 0, 89, 181, 0, 90, 42, 187, 0, 87, 89, 183, 0, 89, 181, 0, 94, 42, 7, 188, 10, 181, 0, 97]
abbrev dktX1_init_4 : List UInt8 := dkwX1_init_4 ++ dktX1_init_5
def dkwX1_init_3 : List UInt8 := [183, 0, 79, 181, 0, 80, 42, 187, 0, 77, 89, 183, 0, 79, 181, 0, 84, 42, 187, 0, 87, 89]
abbrev dktX1_init_3 : List UInt8 := dkwX1_init_3 ++ dktX1_init_4
def dkwX1_init_2 : List UInt8 := [183, 0, 63, 181, 0, 64, 42, 187, 0, 68, 89, 5, 183, 0, 70, 181, 0, 73, 42, 187, 0, 77, 89]
abbrev dktX1_init_2 : List UInt8 := dkwX1_init_2 ++ dktX1_init_3
def dkwX1_init_1 : List UInt8 := [42, 184, 0, 44, 181, 0, 48, 42, 187, 0, 52, 89, 42, 183, 0, 54, 181, 0, 57, 42, 187, 0, 61, 89]
abbrev dktX1_init_1 : List UInt8 := dkwX1_init_1 ++ dktX1_init_2
def dkwX1_init_0 : List UInt8 := [42, 183, 0, 30, 42, 17, 3, 232, 188, 8, 181, 0, 33, 42, 187, 0, 37, 89, 183, 0, 39, 181, 0, 40]
abbrev dktX1_init_0 : List UInt8 := dkwX1_init_0 ++ dktX1_init_1
theorem dksX1_init_0 : cX1_init.data.toList.drop 0 = dktX1_init_0 := by decide +kernel
theorem dksX1_init_1 : cX1_init.data.toList.drop 24 = dktX1_init_1 := dk_seg dksX1_init_0 24 rfl rfl
theorem dksX1_init_2 : cX1_init.data.toList.drop 48 = dktX1_init_2 := dk_seg dksX1_init_1 24 rfl rfl
theorem dksX1_init_3 : cX1_init.data.toList.drop 71 = dktX1_init_3 := dk_seg dksX1_init_2 23 rfl rfl
theorem dksX1_init_4 : cX1_init.data.toList.drop 93 = dktX1_init_4 := dk_seg dksX1_init_3 22 rfl rfl
theorem dksX1_init_5 : cX1_init.data.toList.drop 117 = dktX1_init_5 := dk_seg dksX1_init_4 24 rfl rfl
theorem dksX1_init_6 : cX1_init.data.toList.drop 141 = dktX1_init_6 := dk_seg dksX1_init_5 24 rfl rfl
theorem dksX1_init_7 : cX1_init.data.toList.drop 163 = dktX1_init_7 := dk_seg dksX1_init_6 22 rfl rfl
theorem dX1_init_0 : decode cX1_init 0 = .ok (.aload_n 0, 1) := dk_42 (dk_at dksX1_init_0 0 rfl rfl)
theorem dX1_init_1 : decode cX1_init 1 = .ok (.invokespecial 30, 3) := dk_183 0 30 (dk_at dksX1_init_0 1 rfl rfl)
theorem dX1_init_4 : decode cX1_init 4 = .ok (.aload_n 0, 1) := dk_42 (dk_at dksX1_init_0 4 rfl rfl)
theorem dX1_init_5 : decode cX1_init 5 = .ok (.sipush 1000, 3) := dk_17 3 232 (dk_at dksX1_init_0 5 rfl rfl)
theorem dX1_init_8 : decode cX1_init 8 = .ok (.newarray .byte, 2) := dk_188_8 (dk_at dksX1_init_0 8 rfl rfl)
theorem dX1_init_10 : decode cX1_init 10 = .ok (.putfield 33, 3) := dk_181 0 33 (dk_at dksX1_init_0 10 rfl rfl)
theorem dX1_init_13 : decode cX1_init 13 = .ok (.aload_n 0, 1) := dk_42 (dk_at dksX1_init_0 13 rfl rfl)
theorem dX1_init_14 : decode cX1_init 14 = .ok (.new 37, 3) := dk_187 0 37 (dk_at dksX1_init_0 14 rfl rfl)
theorem dX1_init_17 : decode cX1_init 17 = .ok (.dup, 1) := dk_89 (dk_at dksX1_init_0 17 rfl rfl)
theorem dX1_init_18 : decode cX1_init 18 = .ok (.invokespecial 39, 3) := dk_183 0 39 (dk_at dksX1_init_0 18 rfl rfl)
theorem dX1_init_21 : decode cX1_init 21 = .ok (.putfield 40, 3) := dk_181 0 40 (dk_at dksX1_init_0 21 rfl rfl)
theorem dX1_init_24 : decode cX1_init 24 = .ok (.aload_n 0, 1) := dk_42 (dk_at dksX1_init_1 0 rfl rfl)
theorem dX1_init_25 : decode cX1_init 25 = .ok (.invokestatic 44, 3) := dk_184 0 44 (dk_at dksX1_init_1 1 rfl rfl)
theorem dX1_init_28 : decode cX1_init 28 = .ok (.putfield 48, 3) := dk_181 0 48 (dk_at dksX1_init_1 4 rfl rfl)
theorem dX1_init_31 : decode cX1_init 31 = .ok (.aload_n 0, 1) := dk_42 (dk_at dksX1_init_1 7 rfl rfl)
theorem dX1_init_32 : decode cX1_init 32 = .ok (.new 52, 3) := dk_187 0 52 (dk_at dksX1_init_1 8 rfl rfl)
theorem dX1_init_35 : decode cX1_init 35 = .ok (.dup, 1) := dk_89 (dk_at dksX1_init_1 11 rfl rfl)
theorem dX1_init_36 : decode cX1_init 36 = .ok (.aload_n 0, 1) := dk_42 (dk_at dksX1_init_1 12 rfl rfl)
theorem dX1_init_37 : decode cX1_init 37 = .ok (.invokespecial 54, 3) := dk_183 0 54 (dk_at dksX1_init_1 13 rfl rfl)
theorem dX1_init_40 : decode cX1_init 40 = .ok (.putfield 57, 3) := dk_181 0 57 (dk_at dksX1_init_1 16 rfl rfl)
theorem dX1_init_43 : decode cX1_init 43 = .ok (.aload_n 0, 1) := dk_42 (dk_at dksX1_init_1 19 rfl rfl)
theorem dX1_init_44 : decode cX1_init 44 = .ok (.new 61, 3) := dk_187 0 61 (dk_at dksX1_init_1 20 rfl rfl)
theorem dX1_init_47 : decode cX1_init 47 = .ok (.dup, 1) := dk_89 (dk_at dksX1_init_1 23 rfl rfl)
theorem dX1_init_48 : decode cX1_init 48 = .ok (.invokespecial 63, 3) := dk_183 0 63 (dk_at dksX1_init_2 0 rfl rfl)
theorem dX1_init_51 : decode cX1_init 51 = .ok (.putfield 64, 3) := dk_181 0 64 (dk_at dksX1_init_2 3 rfl rfl)
theorem dX1_init_54 : decode cX1_init 54 = .ok (.aload_n 0, 1) := dk_42 (dk_at dksX1_init_2 6 rfl rfl)
theorem dX1_init_55 : decode cX1_init 55 = .ok (.new 68, 3) := dk_187 0 68 (dk_at dksX1_init_2 7 rfl rfl)
theorem dX1_init_58 : decode cX1_init 58 = .ok (.dup, 1) := dk_89 (dk_at dksX1_init_2 10 rfl rfl)
theorem dX1_init_59 : decode cX1_init 59 = .ok (.iconst 2, 1) := dk_5 (dk_at dksX1_init_2 11 rfl rfl)
theorem dX1_init_60 : decode cX1_init 60 = .ok (.invokespecial 70, 3) := dk_183 0 70 (dk_at dksX1_init_2 12 rfl rfl)
theorem dX1_init_63 : decode cX1_init 63 = .ok (.putfield 73, 3) := dk_181 0 73 (dk_at dksX1_init_2 15 rfl rfl)
theorem dX1_init_66 : decode cX1_init 66 = .ok (.aload_n 0, 1) := dk_42 (dk_at dksX1_init_2 18 rfl rfl)
theorem dX1_init_67 : decode cX1_init 67 = .ok (.new 77, 3) := dk_187 0 77 (dk_at dksX1_init_2 19 rfl rfl)
theorem dX1_init_70 : decode cX1_init 70 = .ok (.dup, 1) := dk_89 (dk_at dksX1_init_2 22 rfl rfl)
theorem dX1_init_71 : decode cX1_init 71 = .ok (.invokespecial 79, 3) := dk_183 0 79 (dk_at dksX1_init_3 0 rfl rfl)
theorem dX1_init_74 : decode cX1_init 74 = .ok (.putfield 80, 3) := dk_181 0 80 (dk_at dksX1_init_3 3 rfl rfl)
theorem dX1_init_77 : decode cX1_init 77 = .ok (.aload_n 0, 1) := dk_42 (dk_at dksX1_init_3 6 rfl rfl)
theorem dX1_init_78 : decode cX1_init 78 = .ok (.new 77, 3) := dk_187 0 77 (dk_at dksX1_init_3 7 rfl rfl)
theorem dX1_init_81 : decode cX1_init 81 = .ok (.dup, 1) := dk_89 (dk_at dksX1_init_3 10 rfl rfl)
theorem dX1_init_82 : decode cX1_init 82 = .ok (.invokespecial 79, 3) := dk_183 0 79 (dk_at dksX1_init_3 11 rfl rfl)
theorem dX1_init_85 : decode cX1_init 85 = .ok (.putfield 84, 3) := dk_181 0 84 (dk_at dksX1_init_3 14 rfl rfl)
theorem dX1_init_88 : decode cX1_init 88 = .ok (.aload_n 0, 1) := dk_42 (dk_at dksX1_init_3 17 rfl rfl)
theorem dX1_init_89 : decode cX1_init 89 = .ok (.new 87, 3) := dk_187 0 87 (dk_at dksX1_init_3 18 rfl rfl)
theorem dX1_init_92 : decode cX1_init 92 = .ok (.dup, 1) := dk_89 (dk_at dksX1_init_3 21 rfl rfl)
theorem dX1_init_93 : decode cX1_init 93 = .ok (.invokespecial 89, 3) := dk_183 0 89 (dk_at dksX1_init_4 0 rfl rfl)
theorem dX1_init_96 : decode cX1_init 96 = .ok (.putfield 90, 3) := dk_181 0 90 (dk_at dksX1_init_4 3 rfl rfl)
theorem dX1_init_99 : decode cX1_init 99 = .ok (.aload_n 0, 1) := dk_42 (dk_at dksX1_init_4 6 rfl rfl)
theorem dX1_init_100 : decode cX1_init 100 = .ok (.new 87, 3) := dk_187 0 87 (dk_at dksX1_init_4 7 rfl rfl)
theorem dX1_init_103 : decode cX1_init 103 = .ok (.dup, 1) := dk_89 (dk_at dksX1_init_4 10 rfl rfl)
theorem dX1_init_104 : decode cX1_init 104 = .ok (.invokespecial 89, 3) := dk_183 0 89 (dk_at dksX1_init_4 11 rfl rfl)
theorem dX1_init_107 : decode cX1_init 107 = .ok (.putfield 94, 3) := dk_181 0 94 (dk_at dksX1_init_4 14 rfl rfl)
theorem dX1_init_110 : decode cX1_init 110 = .ok (.aload_n 0, 1) := dk_42 (dk_at dksX1_init_4 17 rfl rfl)
theorem dX1_init_111 : decode cX1_init 111 = .ok (.iconst 4, 1) := dk_7 (dk_at dksX1_init_4 18 rfl rfl)
theorem dX1_init_112 : decode cX1_init 112 = .ok (.newarray .int, 2) := dk_188_10 (dk_at dksX1_init_4 19 rfl rfl)
theorem dX1_init_114 : decode cX1_init 114 = .ok (.putfield 97, 3) := dk_181 0 97 (dk_at dksX1_init_4 21 rfl rfl)
theorem dX1_init_117 : decode cX1_init 117 = .ok (.aload_n 0, 1) := dk_42 (dk_at dksX1_init_5 0 rfl rfl)
theorem dX1_init_118 : decode cX1_init 118 = .ok (.bipush 16, 2) := dk_16 16 (dk_at dksX1_init_5 1 rfl rfl)
theorem dX1_init_120 : decode cX1_init 120 = .ok (.anewarray 77, 3) := dk_189 0 77 (dk_at dksX1_init_5 3 rfl rfl)
theorem dX1_init_123 : decode cX1_init 123 = .ok (.putfield 101, 3) := dk_181 0 101 (dk_at dksX1_init_5 6 rfl rfl)
theorem dX1_init_126 : decode cX1_init 126 = .ok (.aload_n 0, 1) := dk_42 (dk_at dksX1_init_5 9 rfl rfl)
theorem dX1_init_127 : decode cX1_init 127 = .ok (.bipush 24, 2) := dk_16 24 (dk_at dksX1_init_5 10 rfl rfl)
theorem dX1_init_129 : decode cX1_init 129 = .ok (.newarray .int, 2) := dk_188_10 (dk_at dksX1_init_5 12 rfl rfl)
theorem dX1_init_131 : decode cX1_init 131 = .ok (.putfield 105, 3) := dk_181 0 105 (dk_at dksX1_init_5 14 rfl rfl)
theorem dX1_init_134 : decode cX1_init 134 = .ok (.aload_n 0, 1) := dk_42 (dk_at dksX1_init_5 17 rfl rfl)
theorem dX1_init_135 : decode cX1_init 135 = .ok (.iconst 4, 1) := dk_7 (dk_at dksX1_init_5 18 rfl rfl)
theorem dX1_init_136 : decode cX1_init 136 = .ok (.newarray .int, 2) := dk_188_10 (dk_at dksX1_init_5 19 rfl rfl)
theorem dX1_init_138 : decode cX1_init 138 = .ok (.putfield 108, 3) := dk_181 0 108 (dk_at dksX1_init_5 21 rfl rfl)
theorem dX1_init_141 : decode cX1_init 141 = .ok (.aload_n 0, 1) := dk_42 (dk_at dksX1_init_6 0 rfl rfl)
theorem dX1_init_142 : decode cX1_init 142 = .ok (.bipush 6, 2) := dk_16 6 (dk_at dksX1_init_6 1 rfl rfl)
theorem dX1_init_144 : decode cX1_init 144 = .ok (.newarray .int, 2) := dk_188_10 (dk_at dksX1_init_6 3 rfl rfl)
theorem dX1_init_146 : decode cX1_init 146 = .ok (.putfield 111, 3) := dk_181 0 111 (dk_at dksX1_init_6 5 rfl rfl)
theorem dX1_init_149 : decode cX1_init 149 = .ok (.aload_n 0, 1) := dk_42 (dk_at dksX1_init_6 8 rfl rfl)
theorem dX1_init_150 : decode cX1_init 150 = .ok (.bipush 14, 2) := dk_16 14 (dk_at dksX1_init_6 9 rfl rfl)
theorem dX1_init_152 : decode cX1_init 152 = .ok (.anewarray 77, 3) := dk_189 0 77 (dk_at dksX1_init_6 11 rfl rfl)
theorem dX1_init_155 : decode cX1_init 155 = .ok (.putfield 114, 3) := dk_181 0 114 (dk_at dksX1_init_6 14 rfl rfl)
theorem dX1_init_158 : decode cX1_init 158 = .ok (.aload_n 0, 1) := dk_42 (dk_at dksX1_init_6 17 rfl rfl)
theorem dX1_init_159 : decode cX1_init 159 = .ok (.iconst 4, 1) := dk_7 (dk_at dksX1_init_6 18 rfl rfl)
theorem dX1_init_160 : decode cX1_init 160 = .ok (.anewarray 117, 3) := dk_189 0 117 (dk_at dksX1_init_6 19 rfl rfl)
theorem dX1_init_163 : decode cX1_init 163 = .ok (.putfield 119, 3) := dk_181 0 119 (dk_at dksX1_init_7 0 rfl rfl)
theorem dX1_init_166 : decode cX1_init 166 = .ok (.aload_n 0, 1) := dk_42 (dk_at dksX1_init_7 3 rfl rfl)
theorem dX1_init_167 : decode cX1_init 167 = .ok (.getfield 80, 3) := dk_180 0 80 (dk_at dksX1_init_7 4 rfl rfl)
theorem dX1_init_170 : decode cX1_init 170 = .ok (.iconst 0, 1) := dk_3 (dk_at dksX1_init_7 7 rfl rfl)
theorem dX1_init_171 : decode cX1_init 171 = .ok (.invokevirtual 123, 3) := dk_182 0 123 (dk_at dksX1_init_7 8 rfl rfl)
theorem dX1_init_174 : decode cX1_init 174 = .ok (.return_, 1) := dk_177 (dk_at dksX1_init_7 11 rfl rfl)
abbrev cX1_allOrders : ByteArray := prog_1_method_5_code
def yX1_allOrders : MethodName := ⟨RX1, "allOrders", "()[LBeggarHeaps$Order;"⟩
def dkwX1_allOrders_2 : List UInt8 := [187, 0, 27, 89, 183, 0, 29, 83, 176]
abbrev dktX1_allOrders_2 : List UInt8 := dkwX1_allOrders_2 ++ []
def dkwX1_allOrders_1 : List UInt8 := [89, 5, 187, 0, 21, 89, 183, 0, 23, 83, 89, 6, 187, 0, 24, 89, 183, 0, 26, 83, 89, 7]
abbrev dktX1_allOrders_1 : List UInt8 := dkwX1_allOrders_1 ++ dktX1_allOrders_2
def dkwX1_allOrders_0 : List UInt8 := [8, 189, 0, 13, 89, 3, 187, 0, 15, 89, 183, 0, 17, 83, 89, 4, 187, 0, 18, 89, 183, 0, 20, 83]
abbrev dktX1_allOrders_0 : List UInt8 := dkwX1_allOrders_0 ++ dktX1_allOrders_1
theorem dksX1_allOrders_0 : cX1_allOrders.data.toList.drop 0 = dktX1_allOrders_0 := by decide +kernel
theorem dksX1_allOrders_1 : cX1_allOrders.data.toList.drop 24 = dktX1_allOrders_1 := dk_seg dksX1_allOrders_0 24 rfl rfl
theorem dksX1_allOrders_2 : cX1_allOrders.data.toList.drop 46 = dktX1_allOrders_2 := dk_seg dksX1_allOrders_1 22 rfl rfl
theorem dX1_allOrders_0 : decode cX1_allOrders 0 = .ok (.iconst 5, 1) := dk_8 (dk_at dksX1_allOrders_0 0 rfl rfl)
theorem dX1_allOrders_1 : decode cX1_allOrders 1 = .ok (.anewarray 13, 3) := dk_189 0 13 (dk_at dksX1_allOrders_0 1 rfl rfl)
theorem dX1_allOrders_4 : decode cX1_allOrders 4 = .ok (.dup, 1) := dk_89 (dk_at dksX1_allOrders_0 4 rfl rfl)
theorem dX1_allOrders_5 : decode cX1_allOrders 5 = .ok (.iconst 0, 1) := dk_3 (dk_at dksX1_allOrders_0 5 rfl rfl)
theorem dX1_allOrders_6 : decode cX1_allOrders 6 = .ok (.new 15, 3) := dk_187 0 15 (dk_at dksX1_allOrders_0 6 rfl rfl)
theorem dX1_allOrders_9 : decode cX1_allOrders 9 = .ok (.dup, 1) := dk_89 (dk_at dksX1_allOrders_0 9 rfl rfl)
theorem dX1_allOrders_10 : decode cX1_allOrders 10 = .ok (.invokespecial 17, 3) := dk_183 0 17 (dk_at dksX1_allOrders_0 10 rfl rfl)
theorem dX1_allOrders_13 : decode cX1_allOrders 13 = .ok (.aastore, 1) := dk_83 (dk_at dksX1_allOrders_0 13 rfl rfl)
theorem dX1_allOrders_14 : decode cX1_allOrders 14 = .ok (.dup, 1) := dk_89 (dk_at dksX1_allOrders_0 14 rfl rfl)
theorem dX1_allOrders_15 : decode cX1_allOrders 15 = .ok (.iconst 1, 1) := dk_4 (dk_at dksX1_allOrders_0 15 rfl rfl)
theorem dX1_allOrders_16 : decode cX1_allOrders 16 = .ok (.new 18, 3) := dk_187 0 18 (dk_at dksX1_allOrders_0 16 rfl rfl)
theorem dX1_allOrders_19 : decode cX1_allOrders 19 = .ok (.dup, 1) := dk_89 (dk_at dksX1_allOrders_0 19 rfl rfl)
theorem dX1_allOrders_20 : decode cX1_allOrders 20 = .ok (.invokespecial 20, 3) := dk_183 0 20 (dk_at dksX1_allOrders_0 20 rfl rfl)
theorem dX1_allOrders_23 : decode cX1_allOrders 23 = .ok (.aastore, 1) := dk_83 (dk_at dksX1_allOrders_0 23 rfl rfl)
theorem dX1_allOrders_24 : decode cX1_allOrders 24 = .ok (.dup, 1) := dk_89 (dk_at dksX1_allOrders_1 0 rfl rfl)
theorem dX1_allOrders_25 : decode cX1_allOrders 25 = .ok (.iconst 2, 1) := dk_5 (dk_at dksX1_allOrders_1 1 rfl rfl)
theorem dX1_allOrders_26 : decode cX1_allOrders 26 = .ok (.new 21, 3) := dk_187 0 21 (dk_at dksX1_allOrders_1 2 rfl rfl)
theorem dX1_allOrders_29 : decode cX1_allOrders 29 = .ok (.dup, 1) := dk_89 (dk_at dksX1_allOrders_1 5 rfl rfl)
theorem dX1_allOrders_30 : decode cX1_allOrders 30 = .ok (.invokespecial 23, 3) := dk_183 0 23 (dk_at dksX1_allOrders_1 6 rfl rfl)
theorem dX1_allOrders_33 : decode cX1_allOrders 33 = .ok (.aastore, 1) := dk_83 (dk_at dksX1_allOrders_1 9 rfl rfl)
theorem dX1_allOrders_34 : decode cX1_allOrders 34 = .ok (.dup, 1) := dk_89 (dk_at dksX1_allOrders_1 10 rfl rfl)
theorem dX1_allOrders_35 : decode cX1_allOrders 35 = .ok (.iconst 3, 1) := dk_6 (dk_at dksX1_allOrders_1 11 rfl rfl)
theorem dX1_allOrders_36 : decode cX1_allOrders 36 = .ok (.new 24, 3) := dk_187 0 24 (dk_at dksX1_allOrders_1 12 rfl rfl)
theorem dX1_allOrders_39 : decode cX1_allOrders 39 = .ok (.dup, 1) := dk_89 (dk_at dksX1_allOrders_1 15 rfl rfl)
theorem dX1_allOrders_40 : decode cX1_allOrders 40 = .ok (.invokespecial 26, 3) := dk_183 0 26 (dk_at dksX1_allOrders_1 16 rfl rfl)
theorem dX1_allOrders_43 : decode cX1_allOrders 43 = .ok (.aastore, 1) := dk_83 (dk_at dksX1_allOrders_1 19 rfl rfl)
theorem dX1_allOrders_44 : decode cX1_allOrders 44 = .ok (.dup, 1) := dk_89 (dk_at dksX1_allOrders_1 20 rfl rfl)
theorem dX1_allOrders_45 : decode cX1_allOrders 45 = .ok (.iconst 4, 1) := dk_7 (dk_at dksX1_allOrders_1 21 rfl rfl)
theorem dX1_allOrders_46 : decode cX1_allOrders 46 = .ok (.new 27, 3) := dk_187 0 27 (dk_at dksX1_allOrders_2 0 rfl rfl)
theorem dX1_allOrders_49 : decode cX1_allOrders 49 = .ok (.dup, 1) := dk_89 (dk_at dksX1_allOrders_2 3 rfl rfl)
theorem dX1_allOrders_50 : decode cX1_allOrders 50 = .ok (.invokespecial 29, 3) := dk_183 0 29 (dk_at dksX1_allOrders_2 4 rfl rfl)
theorem dX1_allOrders_53 : decode cX1_allOrders 53 = .ok (.aastore, 1) := dk_83 (dk_at dksX1_allOrders_2 7 rfl rfl)
theorem dX1_allOrders_54 : decode cX1_allOrders 54 = .ok (.areturn, 1) := dk_176 (dk_at dksX1_allOrders_2 8 rfl rfl)
abbrev cX1_feed : ByteArray := prog_1_method_7_code
def yX1_feed : MethodName := ⟨RX1, "feed", "(JJJ)I"⟩
def dkwX1_feed_4 : List UInt8 := [96, 181, 0, 126, 21, 8, 145, 84, 132, 7, 1, 167, 255, 153, 42, 180, 0, 126, 172]
abbrev dktX1_feed_4 : List UInt8 := dkwX1_feed_4 ++ []
def dkwX1_feed_3 : List UInt8 := [163, 0, 32, 42, 180, 0, 126, 17, 3, 232, 162, 0, 22, 42, 180, 0, 33, 42, 89, 180, 0, 126, 90, 4]
abbrev dktX1_feed_3 : List UInt8 := dkwX1_feed_3 ++ dktX1_feed_4
def dkwX1_feed_2 : List UInt8 := [17, 0, 255, 126, 54, 8, 21, 8, 16, 10, 159, 0, 17, 21, 8, 16, 32, 161, 0, 39, 21, 8, 16, 126]
abbrev dktX1_feed_2 : List UInt8 := dkwX1_feed_2 ++ dktX1_feed_3
def dkwX1_feed_1 : List UInt8 := [16, 16, 162, 0, 7, 33, 167, 0, 5, 22, 5, 16, 56, 16, 8, 21, 7, 16, 8, 112, 104, 100, 123, 136]
abbrev dktX1_feed_1 : List UInt8 := dkwX1_feed_1 ++ dktX1_feed_2
def dkwX1_feed_0 : List UInt8 := [3, 54, 7, 21, 7, 16, 24, 162, 0, 102, 21, 7, 16, 8, 162, 0, 7, 31, 167, 0, 16, 21, 7]
abbrev dktX1_feed_0 : List UInt8 := dkwX1_feed_0 ++ dktX1_feed_1
theorem dksX1_feed_0 : cX1_feed.data.toList.drop 0 = dktX1_feed_0 := by decide +kernel
theorem dksX1_feed_1 : cX1_feed.data.toList.drop 23 = dktX1_feed_1 := dk_seg dksX1_feed_0 23 rfl rfl
theorem dksX1_feed_2 : cX1_feed.data.toList.drop 47 = dktX1_feed_2 := dk_seg dksX1_feed_1 24 rfl rfl
theorem dksX1_feed_3 : cX1_feed.data.toList.drop 71 = dktX1_feed_3 := dk_seg dksX1_feed_2 24 rfl rfl
theorem dksX1_feed_4 : cX1_feed.data.toList.drop 95 = dktX1_feed_4 := dk_seg dksX1_feed_3 24 rfl rfl
theorem dX1_feed_0 : decode cX1_feed 0 = .ok (.iconst 0, 1) := dk_3 (dk_at dksX1_feed_0 0 rfl rfl)
theorem dX1_feed_1 : decode cX1_feed 1 = .ok (.istore 7, 2) := dk_54 7 (dk_at dksX1_feed_0 1 rfl rfl)
theorem dX1_feed_3 : decode cX1_feed 3 = .ok (.iload 7, 2) := dk_21 7 (dk_at dksX1_feed_0 3 rfl rfl)
theorem dX1_feed_5 : decode cX1_feed 5 = .ok (.bipush 24, 2) := dk_16 24 (dk_at dksX1_feed_0 5 rfl rfl)
theorem dX1_feed_7 : decode cX1_feed 7 = .ok (.if_icmp .ge 102, 3) := dk_162 0 102 (dk_at dksX1_feed_0 7 rfl rfl)
theorem dX1_feed_10 : decode cX1_feed 10 = .ok (.iload 7, 2) := dk_21 7 (dk_at dksX1_feed_0 10 rfl rfl)
theorem dX1_feed_12 : decode cX1_feed 12 = .ok (.bipush 8, 2) := dk_16 8 (dk_at dksX1_feed_0 12 rfl rfl)
theorem dX1_feed_14 : decode cX1_feed 14 = .ok (.if_icmp .ge 7, 3) := dk_162 0 7 (dk_at dksX1_feed_0 14 rfl rfl)
theorem dX1_feed_17 : decode cX1_feed 17 = .ok (.lload_n 1, 1) := dk_31 (dk_at dksX1_feed_0 17 rfl rfl)
theorem dX1_feed_18 : decode cX1_feed 18 = .ok (.goto 16, 3) := dk_167 0 16 (dk_at dksX1_feed_0 18 rfl rfl)
theorem dX1_feed_21 : decode cX1_feed 21 = .ok (.iload 7, 2) := dk_21 7 (dk_at dksX1_feed_0 21 rfl rfl)
theorem dX1_feed_23 : decode cX1_feed 23 = .ok (.bipush 16, 2) := dk_16 16 (dk_at dksX1_feed_1 0 rfl rfl)
theorem dX1_feed_25 : decode cX1_feed 25 = .ok (.if_icmp .ge 7, 3) := dk_162 0 7 (dk_at dksX1_feed_1 2 rfl rfl)
theorem dX1_feed_28 : decode cX1_feed 28 = .ok (.lload_n 3, 1) := dk_33 (dk_at dksX1_feed_1 5 rfl rfl)
theorem dX1_feed_29 : decode cX1_feed 29 = .ok (.goto 5, 3) := dk_167 0 5 (dk_at dksX1_feed_1 6 rfl rfl)
theorem dX1_feed_32 : decode cX1_feed 32 = .ok (.lload 5, 2) := dk_22 5 (dk_at dksX1_feed_1 9 rfl rfl)
theorem dX1_feed_34 : decode cX1_feed 34 = .ok (.bipush 56, 2) := dk_16 56 (dk_at dksX1_feed_1 11 rfl rfl)
theorem dX1_feed_36 : decode cX1_feed 36 = .ok (.bipush 8, 2) := dk_16 8 (dk_at dksX1_feed_1 13 rfl rfl)
theorem dX1_feed_38 : decode cX1_feed 38 = .ok (.iload 7, 2) := dk_21 7 (dk_at dksX1_feed_1 15 rfl rfl)
theorem dX1_feed_40 : decode cX1_feed 40 = .ok (.bipush 8, 2) := dk_16 8 (dk_at dksX1_feed_1 17 rfl rfl)
theorem dX1_feed_42 : decode cX1_feed 42 = .ok (.irem, 1) := dk_112 (dk_at dksX1_feed_1 19 rfl rfl)
theorem dX1_feed_43 : decode cX1_feed 43 = .ok (.imul, 1) := dk_104 (dk_at dksX1_feed_1 20 rfl rfl)
theorem dX1_feed_44 : decode cX1_feed 44 = .ok (.isub, 1) := dk_100 (dk_at dksX1_feed_1 21 rfl rfl)
theorem dX1_feed_45 : decode cX1_feed 45 = .ok (.lshr, 1) := dk_123 (dk_at dksX1_feed_1 22 rfl rfl)
theorem dX1_feed_46 : decode cX1_feed 46 = .ok (.l2i, 1) := dk_136 (dk_at dksX1_feed_1 23 rfl rfl)
theorem dX1_feed_47 : decode cX1_feed 47 = .ok (.sipush 255, 3) := dk_17 0 255 (dk_at dksX1_feed_2 0 rfl rfl)
theorem dX1_feed_50 : decode cX1_feed 50 = .ok (.iand, 1) := dk_126 (dk_at dksX1_feed_2 3 rfl rfl)
theorem dX1_feed_51 : decode cX1_feed 51 = .ok (.istore 8, 2) := dk_54 8 (dk_at dksX1_feed_2 4 rfl rfl)
theorem dX1_feed_53 : decode cX1_feed 53 = .ok (.iload 8, 2) := dk_21 8 (dk_at dksX1_feed_2 6 rfl rfl)
theorem dX1_feed_55 : decode cX1_feed 55 = .ok (.bipush 10, 2) := dk_16 10 (dk_at dksX1_feed_2 8 rfl rfl)
theorem dX1_feed_57 : decode cX1_feed 57 = .ok (.if_icmp .eq 17, 3) := dk_159 0 17 (dk_at dksX1_feed_2 10 rfl rfl)
theorem dX1_feed_60 : decode cX1_feed 60 = .ok (.iload 8, 2) := dk_21 8 (dk_at dksX1_feed_2 13 rfl rfl)
theorem dX1_feed_62 : decode cX1_feed 62 = .ok (.bipush 32, 2) := dk_16 32 (dk_at dksX1_feed_2 15 rfl rfl)
theorem dX1_feed_64 : decode cX1_feed 64 = .ok (.if_icmp .lt 39, 3) := dk_161 0 39 (dk_at dksX1_feed_2 17 rfl rfl)
theorem dX1_feed_67 : decode cX1_feed 67 = .ok (.iload 8, 2) := dk_21 8 (dk_at dksX1_feed_2 20 rfl rfl)
theorem dX1_feed_69 : decode cX1_feed 69 = .ok (.bipush 126, 2) := dk_16 126 (dk_at dksX1_feed_2 22 rfl rfl)
theorem dX1_feed_71 : decode cX1_feed 71 = .ok (.if_icmp .gt 32, 3) := dk_163 0 32 (dk_at dksX1_feed_3 0 rfl rfl)
theorem dX1_feed_74 : decode cX1_feed 74 = .ok (.aload_n 0, 1) := dk_42 (dk_at dksX1_feed_3 3 rfl rfl)
theorem dX1_feed_75 : decode cX1_feed 75 = .ok (.getfield 126, 3) := dk_180 0 126 (dk_at dksX1_feed_3 4 rfl rfl)
theorem dX1_feed_78 : decode cX1_feed 78 = .ok (.sipush 1000, 3) := dk_17 3 232 (dk_at dksX1_feed_3 7 rfl rfl)
theorem dX1_feed_81 : decode cX1_feed 81 = .ok (.if_icmp .ge 22, 3) := dk_162 0 22 (dk_at dksX1_feed_3 10 rfl rfl)
theorem dX1_feed_84 : decode cX1_feed 84 = .ok (.aload_n 0, 1) := dk_42 (dk_at dksX1_feed_3 13 rfl rfl)
theorem dX1_feed_85 : decode cX1_feed 85 = .ok (.getfield 33, 3) := dk_180 0 33 (dk_at dksX1_feed_3 14 rfl rfl)
theorem dX1_feed_88 : decode cX1_feed 88 = .ok (.aload_n 0, 1) := dk_42 (dk_at dksX1_feed_3 17 rfl rfl)
theorem dX1_feed_89 : decode cX1_feed 89 = .ok (.dup, 1) := dk_89 (dk_at dksX1_feed_3 18 rfl rfl)
theorem dX1_feed_90 : decode cX1_feed 90 = .ok (.getfield 126, 3) := dk_180 0 126 (dk_at dksX1_feed_3 19 rfl rfl)
theorem dX1_feed_93 : decode cX1_feed 93 = .ok (.dup_x1, 1) := dk_90 (dk_at dksX1_feed_3 22 rfl rfl)
theorem dX1_feed_94 : decode cX1_feed 94 = .ok (.iconst 1, 1) := dk_4 (dk_at dksX1_feed_3 23 rfl rfl)
theorem dX1_feed_95 : decode cX1_feed 95 = .ok (.iadd, 1) := dk_96 (dk_at dksX1_feed_4 0 rfl rfl)
theorem dX1_feed_96 : decode cX1_feed 96 = .ok (.putfield 126, 3) := dk_181 0 126 (dk_at dksX1_feed_4 1 rfl rfl)
theorem dX1_feed_99 : decode cX1_feed 99 = .ok (.iload 8, 2) := dk_21 8 (dk_at dksX1_feed_4 4 rfl rfl)
theorem dX1_feed_101 : decode cX1_feed 101 = .ok (.i2b, 1) := dk_145 (dk_at dksX1_feed_4 6 rfl rfl)
theorem dX1_feed_102 : decode cX1_feed 102 = .ok (.bastore, 1) := dk_84 (dk_at dksX1_feed_4 7 rfl rfl)
theorem dX1_feed_103 : decode cX1_feed 103 = .ok (.iinc 7 1, 3) := dk_132 7 1 (dk_at dksX1_feed_4 8 rfl rfl)
theorem dX1_feed_106 : decode cX1_feed 106 = .ok (.goto (-103), 3) := dk_167 255 153 (dk_at dksX1_feed_4 11 rfl rfl)
theorem dX1_feed_109 : decode cX1_feed 109 = .ok (.aload_n 0, 1) := dk_42 (dk_at dksX1_feed_4 14 rfl rfl)
theorem dX1_feed_110 : decode cX1_feed 110 = .ok (.getfield 126, 3) := dk_180 0 126 (dk_at dksX1_feed_4 15 rfl rfl)
theorem dX1_feed_113 : decode cX1_feed 113 = .ok (.ireturn, 1) := dk_172 (dk_at dksX1_feed_4 18 rfl rfl)
abbrev cX1_table : ByteArray := prog_1_method_9_code
def yX1_table : MethodName := ⟨RX1, "table", "()I"⟩
def dkwX1_table_3 : List UInt8 := [132, 1, 1, 167, 255, 241, 3, 172]
abbrev dktX1_table_3 : List UInt8 := dkwX1_table_3 ++ []
def dkwX1_table_2 : List UInt8 := [182, 0, 150, 42, 3, 181, 0, 153, 3, 60, 27, 7, 162, 0, 16, 42, 180, 0, 119, 27, 1, 83]
abbrev dktX1_table_2 : List UInt8 := dkwX1_table_2 ++ dktX1_table_3
def dkwX1_table_1 : List UInt8 := [42, 180, 0, 73, 182, 0, 144, 42, 180, 0, 90, 3, 181, 0, 147, 42, 180, 0, 94, 3, 181, 0, 147, 42]
abbrev dktX1_table_1 : List UInt8 := dkwX1_table_1 ++ dktX1_table_2
def dkwX1_table_0 : List UInt8 := [42, 182, 0, 133, 42, 42, 180, 0, 40, 182, 0, 136, 181, 0, 64, 167, 0, 9, 76, 43, 180, 0, 141, 172]
abbrev dktX1_table_0 : List UInt8 := dkwX1_table_0 ++ dktX1_table_1
theorem dksX1_table_0 : cX1_table.data.toList.drop 0 = dktX1_table_0 := by decide +kernel
theorem dksX1_table_1 : cX1_table.data.toList.drop 24 = dktX1_table_1 := dk_seg dksX1_table_0 24 rfl rfl
theorem dksX1_table_2 : cX1_table.data.toList.drop 48 = dktX1_table_2 := dk_seg dksX1_table_1 24 rfl rfl
theorem dksX1_table_3 : cX1_table.data.toList.drop 70 = dktX1_table_3 := dk_seg dksX1_table_2 22 rfl rfl
theorem dX1_table_0 : decode cX1_table 0 = .ok (.aload_n 0, 1) := dk_42 (dk_at dksX1_table_0 0 rfl rfl)
theorem dX1_table_1 : decode cX1_table 1 = .ok (.invokevirtual 133, 3) := dk_182 0 133 (dk_at dksX1_table_0 1 rfl rfl)
theorem dX1_table_4 : decode cX1_table 4 = .ok (.aload_n 0, 1) := dk_42 (dk_at dksX1_table_0 4 rfl rfl)
theorem dX1_table_5 : decode cX1_table 5 = .ok (.aload_n 0, 1) := dk_42 (dk_at dksX1_table_0 5 rfl rfl)
theorem dX1_table_6 : decode cX1_table 6 = .ok (.getfield 40, 3) := dk_180 0 40 (dk_at dksX1_table_0 6 rfl rfl)
theorem dX1_table_9 : decode cX1_table 9 = .ok (.invokevirtual 136, 3) := dk_182 0 136 (dk_at dksX1_table_0 9 rfl rfl)
theorem dX1_table_12 : decode cX1_table 12 = .ok (.putfield 64, 3) := dk_181 0 64 (dk_at dksX1_table_0 12 rfl rfl)
theorem dX1_table_15 : decode cX1_table 15 = .ok (.goto 9, 3) := dk_167 0 9 (dk_at dksX1_table_0 15 rfl rfl)
theorem dX1_table_18 : decode cX1_table 18 = .ok (.astore_n 1, 1) := dk_76 (dk_at dksX1_table_0 18 rfl rfl)
theorem dX1_table_19 : decode cX1_table 19 = .ok (.aload_n 1, 1) := dk_43 (dk_at dksX1_table_0 19 rfl rfl)
theorem dX1_table_20 : decode cX1_table 20 = .ok (.getfield 141, 3) := dk_180 0 141 (dk_at dksX1_table_0 20 rfl rfl)
theorem dX1_table_23 : decode cX1_table 23 = .ok (.ireturn, 1) := dk_172 (dk_at dksX1_table_0 23 rfl rfl)
theorem dX1_table_24 : decode cX1_table 24 = .ok (.aload_n 0, 1) := dk_42 (dk_at dksX1_table_1 0 rfl rfl)
theorem dX1_table_25 : decode cX1_table 25 = .ok (.getfield 73, 3) := dk_180 0 73 (dk_at dksX1_table_1 1 rfl rfl)
theorem dX1_table_28 : decode cX1_table 28 = .ok (.invokevirtual 144, 3) := dk_182 0 144 (dk_at dksX1_table_1 4 rfl rfl)
theorem dX1_table_31 : decode cX1_table 31 = .ok (.aload_n 0, 1) := dk_42 (dk_at dksX1_table_1 7 rfl rfl)
theorem dX1_table_32 : decode cX1_table 32 = .ok (.getfield 90, 3) := dk_180 0 90 (dk_at dksX1_table_1 8 rfl rfl)
theorem dX1_table_35 : decode cX1_table 35 = .ok (.iconst 0, 1) := dk_3 (dk_at dksX1_table_1 11 rfl rfl)
theorem dX1_table_36 : decode cX1_table 36 = .ok (.putfield 147, 3) := dk_181 0 147 (dk_at dksX1_table_1 12 rfl rfl)
theorem dX1_table_39 : decode cX1_table 39 = .ok (.aload_n 0, 1) := dk_42 (dk_at dksX1_table_1 15 rfl rfl)
theorem dX1_table_40 : decode cX1_table 40 = .ok (.getfield 94, 3) := dk_180 0 94 (dk_at dksX1_table_1 16 rfl rfl)
theorem dX1_table_43 : decode cX1_table 43 = .ok (.iconst 0, 1) := dk_3 (dk_at dksX1_table_1 19 rfl rfl)
theorem dX1_table_44 : decode cX1_table 44 = .ok (.putfield 147, 3) := dk_181 0 147 (dk_at dksX1_table_1 20 rfl rfl)
theorem dX1_table_47 : decode cX1_table 47 = .ok (.aload_n 0, 1) := dk_42 (dk_at dksX1_table_1 23 rfl rfl)
theorem dX1_table_48 : decode cX1_table 48 = .ok (.invokevirtual 150, 3) := dk_182 0 150 (dk_at dksX1_table_2 0 rfl rfl)
theorem dX1_table_51 : decode cX1_table 51 = .ok (.aload_n 0, 1) := dk_42 (dk_at dksX1_table_2 3 rfl rfl)
theorem dX1_table_52 : decode cX1_table 52 = .ok (.iconst 0, 1) := dk_3 (dk_at dksX1_table_2 4 rfl rfl)
theorem dX1_table_53 : decode cX1_table 53 = .ok (.putfield 153, 3) := dk_181 0 153 (dk_at dksX1_table_2 5 rfl rfl)
theorem dX1_table_56 : decode cX1_table 56 = .ok (.iconst 0, 1) := dk_3 (dk_at dksX1_table_2 8 rfl rfl)
theorem dX1_table_57 : decode cX1_table 57 = .ok (.istore_n 1, 1) := dk_60 (dk_at dksX1_table_2 9 rfl rfl)
theorem dX1_table_58 : decode cX1_table 58 = .ok (.iload_n 1, 1) := dk_27 (dk_at dksX1_table_2 10 rfl rfl)
theorem dX1_table_59 : decode cX1_table 59 = .ok (.iconst 4, 1) := dk_7 (dk_at dksX1_table_2 11 rfl rfl)
theorem dX1_table_60 : decode cX1_table 60 = .ok (.if_icmp .ge 16, 3) := dk_162 0 16 (dk_at dksX1_table_2 12 rfl rfl)
theorem dX1_table_63 : decode cX1_table 63 = .ok (.aload_n 0, 1) := dk_42 (dk_at dksX1_table_2 15 rfl rfl)
theorem dX1_table_64 : decode cX1_table 64 = .ok (.getfield 119, 3) := dk_180 0 119 (dk_at dksX1_table_2 16 rfl rfl)
theorem dX1_table_67 : decode cX1_table 67 = .ok (.iload_n 1, 1) := dk_27 (dk_at dksX1_table_2 19 rfl rfl)
theorem dX1_table_68 : decode cX1_table 68 = .ok (.aconst_null, 1) := dk_1 (dk_at dksX1_table_2 20 rfl rfl)
theorem dX1_table_69 : decode cX1_table 69 = .ok (.aastore, 1) := dk_83 (dk_at dksX1_table_2 21 rfl rfl)
theorem dX1_table_70 : decode cX1_table 70 = .ok (.iinc 1 1, 3) := dk_132 1 1 (dk_at dksX1_table_3 0 rfl rfl)
theorem dX1_table_73 : decode cX1_table 73 = .ok (.goto (-15), 3) := dk_167 255 241 (dk_at dksX1_table_3 3 rfl rfl)
theorem dX1_table_76 : decode cX1_table 76 = .ok (.iconst 0, 1) := dk_3 (dk_at dksX1_table_3 6 rfl rfl)
theorem dX1_table_77 : decode cX1_table 77 = .ok (.ireturn, 1) := dk_172 (dk_at dksX1_table_3 7 rfl rfl)
abbrev cX1_reads : ByteArray := prog_1_method_8_code
def yX1_reads : MethodName := ⟨RX1, "reads", "()V"⟩
def dkwX1_reads_0 : List UInt8 := [42, 180, 0, 40, 42, 180, 0, 33, 42, 180, 0, 126, 182, 0, 130, 42, 3, 181, 0, 126, 177]
abbrev dktX1_reads_0 : List UInt8 := dkwX1_reads_0 ++ []
theorem dksX1_reads_0 : cX1_reads.data.toList.drop 0 = dktX1_reads_0 := by decide +kernel
theorem dX1_reads_0 : decode cX1_reads 0 = .ok (.aload_n 0, 1) := dk_42 (dk_at dksX1_reads_0 0 rfl rfl)
theorem dX1_reads_1 : decode cX1_reads 1 = .ok (.getfield 40, 3) := dk_180 0 40 (dk_at dksX1_reads_0 1 rfl rfl)
theorem dX1_reads_4 : decode cX1_reads 4 = .ok (.aload_n 0, 1) := dk_42 (dk_at dksX1_reads_0 4 rfl rfl)
theorem dX1_reads_5 : decode cX1_reads 5 = .ok (.getfield 33, 3) := dk_180 0 33 (dk_at dksX1_reads_0 5 rfl rfl)
theorem dX1_reads_8 : decode cX1_reads 8 = .ok (.aload_n 0, 1) := dk_42 (dk_at dksX1_reads_0 8 rfl rfl)
theorem dX1_reads_9 : decode cX1_reads 9 = .ok (.getfield 126, 3) := dk_180 0 126 (dk_at dksX1_reads_0 9 rfl rfl)
theorem dX1_reads_12 : decode cX1_reads 12 = .ok (.invokevirtual 130, 3) := dk_182 0 130 (dk_at dksX1_reads_0 12 rfl rfl)
theorem dX1_reads_15 : decode cX1_reads 15 = .ok (.aload_n 0, 1) := dk_42 (dk_at dksX1_reads_0 15 rfl rfl)
theorem dX1_reads_16 : decode cX1_reads 16 = .ok (.iconst 0, 1) := dk_3 (dk_at dksX1_reads_0 16 rfl rfl)
theorem dX1_reads_17 : decode cX1_reads 17 = .ok (.putfield 126, 3) := dk_181 0 126 (dk_at dksX1_reads_0 17 rfl rfl)
theorem dX1_reads_20 : decode cX1_reads 20 = .ok (.return_, 1) := dk_177 (dk_at dksX1_reads_0 20 rfl rfl)
abbrev cX1_begins : ByteArray := prog_1_method_13_code
def yX1_begins : MethodName := ⟨RX1, "begins", "()V"⟩
def dkwX1_begins_3 : List UInt8 := [180, 0, 94, 180, 0, 165, 27, 46, 4, 182, 0, 175, 132, 1, 1, 167, 255, 224, 42, 3, 181, 0, 179, 177]
abbrev dktX1_begins_3 : List UInt8 := dkwX1_begins_3 ++ []
def dkwX1_begins_2 : List UInt8 := [167, 255, 224, 3, 60, 27, 42, 180, 0, 94, 180, 0, 147, 162, 0, 27, 42, 180, 0, 80, 4, 42]
abbrev dktX1_begins_2 : List UInt8 := dkwX1_begins_2 ++ dktX1_begins_3
def dkwX1_begins_1 : List UInt8 := [162, 0, 27, 42, 180, 0, 80, 3, 42, 180, 0, 90, 180, 0, 165, 27, 46, 4, 182, 0, 175, 132, 1, 1]
abbrev dktX1_begins_1 : List UInt8 := dkwX1_begins_1 ++ dktX1_begins_2
def dkwX1_begins_0 : List UInt8 := [42, 180, 0, 80, 42, 180, 0, 64, 182, 0, 171, 182, 0, 123, 3, 60, 27, 42, 180, 0, 90, 180, 0, 147]
abbrev dktX1_begins_0 : List UInt8 := dkwX1_begins_0 ++ dktX1_begins_1
theorem dksX1_begins_0 : cX1_begins.data.toList.drop 0 = dktX1_begins_0 := by decide +kernel
theorem dksX1_begins_1 : cX1_begins.data.toList.drop 24 = dktX1_begins_1 := dk_seg dksX1_begins_0 24 rfl rfl
theorem dksX1_begins_2 : cX1_begins.data.toList.drop 48 = dktX1_begins_2 := dk_seg dksX1_begins_1 24 rfl rfl
theorem dksX1_begins_3 : cX1_begins.data.toList.drop 70 = dktX1_begins_3 := dk_seg dksX1_begins_2 22 rfl rfl
theorem dX1_begins_0 : decode cX1_begins 0 = .ok (.aload_n 0, 1) := dk_42 (dk_at dksX1_begins_0 0 rfl rfl)
theorem dX1_begins_1 : decode cX1_begins 1 = .ok (.getfield 80, 3) := dk_180 0 80 (dk_at dksX1_begins_0 1 rfl rfl)
theorem dX1_begins_4 : decode cX1_begins 4 = .ok (.aload_n 0, 1) := dk_42 (dk_at dksX1_begins_0 4 rfl rfl)
theorem dX1_begins_5 : decode cX1_begins 5 = .ok (.getfield 64, 3) := dk_180 0 64 (dk_at dksX1_begins_0 5 rfl rfl)
theorem dX1_begins_8 : decode cX1_begins 8 = .ok (.invokevirtual 171, 3) := dk_182 0 171 (dk_at dksX1_begins_0 8 rfl rfl)
theorem dX1_begins_11 : decode cX1_begins 11 = .ok (.invokevirtual 123, 3) := dk_182 0 123 (dk_at dksX1_begins_0 11 rfl rfl)
theorem dX1_begins_14 : decode cX1_begins 14 = .ok (.iconst 0, 1) := dk_3 (dk_at dksX1_begins_0 14 rfl rfl)
theorem dX1_begins_15 : decode cX1_begins 15 = .ok (.istore_n 1, 1) := dk_60 (dk_at dksX1_begins_0 15 rfl rfl)
theorem dX1_begins_16 : decode cX1_begins 16 = .ok (.iload_n 1, 1) := dk_27 (dk_at dksX1_begins_0 16 rfl rfl)
theorem dX1_begins_17 : decode cX1_begins 17 = .ok (.aload_n 0, 1) := dk_42 (dk_at dksX1_begins_0 17 rfl rfl)
theorem dX1_begins_18 : decode cX1_begins 18 = .ok (.getfield 90, 3) := dk_180 0 90 (dk_at dksX1_begins_0 18 rfl rfl)
theorem dX1_begins_21 : decode cX1_begins 21 = .ok (.getfield 147, 3) := dk_180 0 147 (dk_at dksX1_begins_0 21 rfl rfl)
theorem dX1_begins_24 : decode cX1_begins 24 = .ok (.if_icmp .ge 27, 3) := dk_162 0 27 (dk_at dksX1_begins_1 0 rfl rfl)
theorem dX1_begins_27 : decode cX1_begins 27 = .ok (.aload_n 0, 1) := dk_42 (dk_at dksX1_begins_1 3 rfl rfl)
theorem dX1_begins_28 : decode cX1_begins 28 = .ok (.getfield 80, 3) := dk_180 0 80 (dk_at dksX1_begins_1 4 rfl rfl)
theorem dX1_begins_31 : decode cX1_begins 31 = .ok (.iconst 0, 1) := dk_3 (dk_at dksX1_begins_1 7 rfl rfl)
theorem dX1_begins_32 : decode cX1_begins 32 = .ok (.aload_n 0, 1) := dk_42 (dk_at dksX1_begins_1 8 rfl rfl)
theorem dX1_begins_33 : decode cX1_begins 33 = .ok (.getfield 90, 3) := dk_180 0 90 (dk_at dksX1_begins_1 9 rfl rfl)
theorem dX1_begins_36 : decode cX1_begins 36 = .ok (.getfield 165, 3) := dk_180 0 165 (dk_at dksX1_begins_1 12 rfl rfl)
theorem dX1_begins_39 : decode cX1_begins 39 = .ok (.iload_n 1, 1) := dk_27 (dk_at dksX1_begins_1 15 rfl rfl)
theorem dX1_begins_40 : decode cX1_begins 40 = .ok (.iaload, 1) := dk_46 (dk_at dksX1_begins_1 16 rfl rfl)
theorem dX1_begins_41 : decode cX1_begins 41 = .ok (.iconst 1, 1) := dk_4 (dk_at dksX1_begins_1 17 rfl rfl)
theorem dX1_begins_42 : decode cX1_begins 42 = .ok (.invokevirtual 175, 3) := dk_182 0 175 (dk_at dksX1_begins_1 18 rfl rfl)
theorem dX1_begins_45 : decode cX1_begins 45 = .ok (.iinc 1 1, 3) := dk_132 1 1 (dk_at dksX1_begins_1 21 rfl rfl)
theorem dX1_begins_48 : decode cX1_begins 48 = .ok (.goto (-32), 3) := dk_167 255 224 (dk_at dksX1_begins_2 0 rfl rfl)
theorem dX1_begins_51 : decode cX1_begins 51 = .ok (.iconst 0, 1) := dk_3 (dk_at dksX1_begins_2 3 rfl rfl)
theorem dX1_begins_52 : decode cX1_begins 52 = .ok (.istore_n 1, 1) := dk_60 (dk_at dksX1_begins_2 4 rfl rfl)
theorem dX1_begins_53 : decode cX1_begins 53 = .ok (.iload_n 1, 1) := dk_27 (dk_at dksX1_begins_2 5 rfl rfl)
theorem dX1_begins_54 : decode cX1_begins 54 = .ok (.aload_n 0, 1) := dk_42 (dk_at dksX1_begins_2 6 rfl rfl)
theorem dX1_begins_55 : decode cX1_begins 55 = .ok (.getfield 94, 3) := dk_180 0 94 (dk_at dksX1_begins_2 7 rfl rfl)
theorem dX1_begins_58 : decode cX1_begins 58 = .ok (.getfield 147, 3) := dk_180 0 147 (dk_at dksX1_begins_2 10 rfl rfl)
theorem dX1_begins_61 : decode cX1_begins 61 = .ok (.if_icmp .ge 27, 3) := dk_162 0 27 (dk_at dksX1_begins_2 13 rfl rfl)
theorem dX1_begins_64 : decode cX1_begins 64 = .ok (.aload_n 0, 1) := dk_42 (dk_at dksX1_begins_2 16 rfl rfl)
theorem dX1_begins_65 : decode cX1_begins 65 = .ok (.getfield 80, 3) := dk_180 0 80 (dk_at dksX1_begins_2 17 rfl rfl)
theorem dX1_begins_68 : decode cX1_begins 68 = .ok (.iconst 1, 1) := dk_4 (dk_at dksX1_begins_2 20 rfl rfl)
theorem dX1_begins_69 : decode cX1_begins 69 = .ok (.aload_n 0, 1) := dk_42 (dk_at dksX1_begins_2 21 rfl rfl)
theorem dX1_begins_70 : decode cX1_begins 70 = .ok (.getfield 94, 3) := dk_180 0 94 (dk_at dksX1_begins_3 0 rfl rfl)
theorem dX1_begins_73 : decode cX1_begins 73 = .ok (.getfield 165, 3) := dk_180 0 165 (dk_at dksX1_begins_3 3 rfl rfl)
theorem dX1_begins_76 : decode cX1_begins 76 = .ok (.iload_n 1, 1) := dk_27 (dk_at dksX1_begins_3 6 rfl rfl)
theorem dX1_begins_77 : decode cX1_begins 77 = .ok (.iaload, 1) := dk_46 (dk_at dksX1_begins_3 7 rfl rfl)
theorem dX1_begins_78 : decode cX1_begins 78 = .ok (.iconst 1, 1) := dk_4 (dk_at dksX1_begins_3 8 rfl rfl)
theorem dX1_begins_79 : decode cX1_begins 79 = .ok (.invokevirtual 175, 3) := dk_182 0 175 (dk_at dksX1_begins_3 9 rfl rfl)
theorem dX1_begins_82 : decode cX1_begins 82 = .ok (.iinc 1 1, 3) := dk_132 1 1 (dk_at dksX1_begins_3 12 rfl rfl)
theorem dX1_begins_85 : decode cX1_begins 85 = .ok (.goto (-32), 3) := dk_167 255 224 (dk_at dksX1_begins_3 15 rfl rfl)
theorem dX1_begins_88 : decode cX1_begins 88 = .ok (.aload_n 0, 1) := dk_42 (dk_at dksX1_begins_3 18 rfl rfl)
theorem dX1_begins_89 : decode cX1_begins 89 = .ok (.iconst 0, 1) := dk_3 (dk_at dksX1_begins_3 19 rfl rfl)
theorem dX1_begins_90 : decode cX1_begins 90 = .ok (.putfield 179, 3) := dk_181 0 179 (dk_at dksX1_begins_3 20 rfl rfl)
theorem dX1_begins_93 : decode cX1_begins 93 = .ok (.return_, 1) := dk_177 (dk_at dksX1_begins_3 23 rfl rfl)
abbrev cX1_deal : ByteArray := prog_1_method_10_code
def yX1_deal : MethodName := ⟨RX1, "deal", "()I"⟩
def dkwX1_deal_2 : List UInt8 := [181, 0, 153, 42, 182, 0, 150, 3, 172]
abbrev dktX1_deal_2 : List UInt8 := dkwX1_deal_2 ++ []
def dkwX1_deal_1 : List UInt8 := [184, 0, 161, 43, 4, 50, 42, 180, 0, 94, 184, 0, 161, 167, 0, 9, 76, 43, 180, 0, 141, 172, 42, 4]
abbrev dktX1_deal_1 : List UInt8 := dkwX1_deal_1 ++ dktX1_deal_2
def dkwX1_deal_0 : List UInt8 := [42, 182, 0, 133, 42, 180, 0, 40, 42, 180, 0, 64, 182, 0, 157, 76, 43, 3, 50, 42, 180, 0, 90]
abbrev dktX1_deal_0 : List UInt8 := dkwX1_deal_0 ++ dktX1_deal_1
theorem dksX1_deal_0 : cX1_deal.data.toList.drop 0 = dktX1_deal_0 := by decide +kernel
theorem dksX1_deal_1 : cX1_deal.data.toList.drop 23 = dktX1_deal_1 := dk_seg dksX1_deal_0 23 rfl rfl
theorem dksX1_deal_2 : cX1_deal.data.toList.drop 47 = dktX1_deal_2 := dk_seg dksX1_deal_1 24 rfl rfl
theorem dX1_deal_0 : decode cX1_deal 0 = .ok (.aload_n 0, 1) := dk_42 (dk_at dksX1_deal_0 0 rfl rfl)
theorem dX1_deal_1 : decode cX1_deal 1 = .ok (.invokevirtual 133, 3) := dk_182 0 133 (dk_at dksX1_deal_0 1 rfl rfl)
theorem dX1_deal_4 : decode cX1_deal 4 = .ok (.aload_n 0, 1) := dk_42 (dk_at dksX1_deal_0 4 rfl rfl)
theorem dX1_deal_5 : decode cX1_deal 5 = .ok (.getfield 40, 3) := dk_180 0 40 (dk_at dksX1_deal_0 5 rfl rfl)
theorem dX1_deal_8 : decode cX1_deal 8 = .ok (.aload_n 0, 1) := dk_42 (dk_at dksX1_deal_0 8 rfl rfl)
theorem dX1_deal_9 : decode cX1_deal 9 = .ok (.getfield 64, 3) := dk_180 0 64 (dk_at dksX1_deal_0 9 rfl rfl)
theorem dX1_deal_12 : decode cX1_deal 12 = .ok (.invokevirtual 157, 3) := dk_182 0 157 (dk_at dksX1_deal_0 12 rfl rfl)
theorem dX1_deal_15 : decode cX1_deal 15 = .ok (.astore_n 1, 1) := dk_76 (dk_at dksX1_deal_0 15 rfl rfl)
theorem dX1_deal_16 : decode cX1_deal 16 = .ok (.aload_n 1, 1) := dk_43 (dk_at dksX1_deal_0 16 rfl rfl)
theorem dX1_deal_17 : decode cX1_deal 17 = .ok (.iconst 0, 1) := dk_3 (dk_at dksX1_deal_0 17 rfl rfl)
theorem dX1_deal_18 : decode cX1_deal 18 = .ok (.aaload, 1) := dk_50 (dk_at dksX1_deal_0 18 rfl rfl)
theorem dX1_deal_19 : decode cX1_deal 19 = .ok (.aload_n 0, 1) := dk_42 (dk_at dksX1_deal_0 19 rfl rfl)
theorem dX1_deal_20 : decode cX1_deal 20 = .ok (.getfield 90, 3) := dk_180 0 90 (dk_at dksX1_deal_0 20 rfl rfl)
theorem dX1_deal_23 : decode cX1_deal 23 = .ok (.invokestatic 161, 3) := dk_184 0 161 (dk_at dksX1_deal_1 0 rfl rfl)
theorem dX1_deal_26 : decode cX1_deal 26 = .ok (.aload_n 1, 1) := dk_43 (dk_at dksX1_deal_1 3 rfl rfl)
theorem dX1_deal_27 : decode cX1_deal 27 = .ok (.iconst 1, 1) := dk_4 (dk_at dksX1_deal_1 4 rfl rfl)
theorem dX1_deal_28 : decode cX1_deal 28 = .ok (.aaload, 1) := dk_50 (dk_at dksX1_deal_1 5 rfl rfl)
theorem dX1_deal_29 : decode cX1_deal 29 = .ok (.aload_n 0, 1) := dk_42 (dk_at dksX1_deal_1 6 rfl rfl)
theorem dX1_deal_30 : decode cX1_deal 30 = .ok (.getfield 94, 3) := dk_180 0 94 (dk_at dksX1_deal_1 7 rfl rfl)
theorem dX1_deal_33 : decode cX1_deal 33 = .ok (.invokestatic 161, 3) := dk_184 0 161 (dk_at dksX1_deal_1 10 rfl rfl)
theorem dX1_deal_36 : decode cX1_deal 36 = .ok (.goto 9, 3) := dk_167 0 9 (dk_at dksX1_deal_1 13 rfl rfl)
theorem dX1_deal_39 : decode cX1_deal 39 = .ok (.astore_n 1, 1) := dk_76 (dk_at dksX1_deal_1 16 rfl rfl)
theorem dX1_deal_40 : decode cX1_deal 40 = .ok (.aload_n 1, 1) := dk_43 (dk_at dksX1_deal_1 17 rfl rfl)
theorem dX1_deal_41 : decode cX1_deal 41 = .ok (.getfield 141, 3) := dk_180 0 141 (dk_at dksX1_deal_1 18 rfl rfl)
theorem dX1_deal_44 : decode cX1_deal 44 = .ok (.ireturn, 1) := dk_172 (dk_at dksX1_deal_1 21 rfl rfl)
theorem dX1_deal_45 : decode cX1_deal 45 = .ok (.aload_n 0, 1) := dk_42 (dk_at dksX1_deal_1 22 rfl rfl)
theorem dX1_deal_46 : decode cX1_deal 46 = .ok (.iconst 1, 1) := dk_4 (dk_at dksX1_deal_1 23 rfl rfl)
theorem dX1_deal_47 : decode cX1_deal 47 = .ok (.putfield 153, 3) := dk_181 0 153 (dk_at dksX1_deal_2 0 rfl rfl)
theorem dX1_deal_50 : decode cX1_deal 50 = .ok (.aload_n 0, 1) := dk_42 (dk_at dksX1_deal_2 3 rfl rfl)
theorem dX1_deal_51 : decode cX1_deal 51 = .ok (.invokevirtual 150, 3) := dk_182 0 150 (dk_at dksX1_deal_2 4 rfl rfl)
theorem dX1_deal_54 : decode cX1_deal 54 = .ok (.iconst 0, 1) := dk_3 (dk_at dksX1_deal_2 7 rfl rfl)
theorem dX1_deal_55 : decode cX1_deal 55 = .ok (.ireturn, 1) := dk_172 (dk_at dksX1_deal_2 8 rfl rfl)
abbrev cX1_deals : ByteArray := prog_1_method_11_code
def yX1_deals : MethodName := ⟨RX1, "deals", "(LBeggarHeaps$Row;LBeggarHeaps$Row;)V"⟩
def dkwX1_deals_1 : List UInt8 := [162, 0, 21, 43, 180, 0, 165, 28, 42, 180, 0, 165, 28, 46, 79, 132, 2, 1, 167, 255, 233, 177]
abbrev dktX1_deals_1 : List UInt8 := dkwX1_deals_1 ++ []
def dkwX1_deals_0 : List UInt8 := [43, 42, 199, 0, 7, 3, 167, 0, 7, 42, 180, 0, 147, 181, 0, 147, 3, 61, 28, 43, 180, 0, 147]
abbrev dktX1_deals_0 : List UInt8 := dkwX1_deals_0 ++ dktX1_deals_1
theorem dksX1_deals_0 : cX1_deals.data.toList.drop 0 = dktX1_deals_0 := by decide +kernel
theorem dksX1_deals_1 : cX1_deals.data.toList.drop 23 = dktX1_deals_1 := dk_seg dksX1_deals_0 23 rfl rfl
theorem dX1_deals_0 : decode cX1_deals 0 = .ok (.aload_n 1, 1) := dk_43 (dk_at dksX1_deals_0 0 rfl rfl)
theorem dX1_deals_1 : decode cX1_deals 1 = .ok (.aload_n 0, 1) := dk_42 (dk_at dksX1_deals_0 1 rfl rfl)
theorem dX1_deals_2 : decode cX1_deals 2 = .ok (.ifnonnull 7, 3) := dk_199 0 7 (dk_at dksX1_deals_0 2 rfl rfl)
theorem dX1_deals_5 : decode cX1_deals 5 = .ok (.iconst 0, 1) := dk_3 (dk_at dksX1_deals_0 5 rfl rfl)
theorem dX1_deals_6 : decode cX1_deals 6 = .ok (.goto 7, 3) := dk_167 0 7 (dk_at dksX1_deals_0 6 rfl rfl)
theorem dX1_deals_9 : decode cX1_deals 9 = .ok (.aload_n 0, 1) := dk_42 (dk_at dksX1_deals_0 9 rfl rfl)
theorem dX1_deals_10 : decode cX1_deals 10 = .ok (.getfield 147, 3) := dk_180 0 147 (dk_at dksX1_deals_0 10 rfl rfl)
theorem dX1_deals_13 : decode cX1_deals 13 = .ok (.putfield 147, 3) := dk_181 0 147 (dk_at dksX1_deals_0 13 rfl rfl)
theorem dX1_deals_16 : decode cX1_deals 16 = .ok (.iconst 0, 1) := dk_3 (dk_at dksX1_deals_0 16 rfl rfl)
theorem dX1_deals_17 : decode cX1_deals 17 = .ok (.istore_n 2, 1) := dk_61 (dk_at dksX1_deals_0 17 rfl rfl)
theorem dX1_deals_18 : decode cX1_deals 18 = .ok (.iload_n 2, 1) := dk_28 (dk_at dksX1_deals_0 18 rfl rfl)
theorem dX1_deals_19 : decode cX1_deals 19 = .ok (.aload_n 1, 1) := dk_43 (dk_at dksX1_deals_0 19 rfl rfl)
theorem dX1_deals_20 : decode cX1_deals 20 = .ok (.getfield 147, 3) := dk_180 0 147 (dk_at dksX1_deals_0 20 rfl rfl)
theorem dX1_deals_23 : decode cX1_deals 23 = .ok (.if_icmp .ge 21, 3) := dk_162 0 21 (dk_at dksX1_deals_1 0 rfl rfl)
theorem dX1_deals_26 : decode cX1_deals 26 = .ok (.aload_n 1, 1) := dk_43 (dk_at dksX1_deals_1 3 rfl rfl)
theorem dX1_deals_27 : decode cX1_deals 27 = .ok (.getfield 165, 3) := dk_180 0 165 (dk_at dksX1_deals_1 4 rfl rfl)
theorem dX1_deals_30 : decode cX1_deals 30 = .ok (.iload_n 2, 1) := dk_28 (dk_at dksX1_deals_1 7 rfl rfl)
theorem dX1_deals_31 : decode cX1_deals 31 = .ok (.aload_n 0, 1) := dk_42 (dk_at dksX1_deals_1 8 rfl rfl)
theorem dX1_deals_32 : decode cX1_deals 32 = .ok (.getfield 165, 3) := dk_180 0 165 (dk_at dksX1_deals_1 9 rfl rfl)
theorem dX1_deals_35 : decode cX1_deals 35 = .ok (.iload_n 2, 1) := dk_28 (dk_at dksX1_deals_1 12 rfl rfl)
theorem dX1_deals_36 : decode cX1_deals 36 = .ok (.iaload, 1) := dk_46 (dk_at dksX1_deals_1 13 rfl rfl)
theorem dX1_deals_37 : decode cX1_deals 37 = .ok (.iastore, 1) := dk_79 (dk_at dksX1_deals_1 14 rfl rfl)
theorem dX1_deals_38 : decode cX1_deals 38 = .ok (.iinc 2 1, 3) := dk_132 2 1 (dk_at dksX1_deals_1 15 rfl rfl)
theorem dX1_deals_41 : decode cX1_deals 41 = .ok (.goto (-23), 3) := dk_167 255 233 (dk_at dksX1_deals_1 18 rfl rfl)
theorem dX1_deals_44 : decode cX1_deals 44 = .ok (.return_, 1) := dk_177 (dk_at dksX1_deals_1 21 rfl rfl)
abbrev cX1_book : ByteArray := prog_1_method_12_code
def yX1_book : MethodName := ⟨RX1, "book", "()I"⟩
def dkwX1_book_1 : List UInt8 := [180, 0, 141, 172, 3, 172]
abbrev dktX1_book_1 : List UInt8 := dkwX1_book_1 ++ []
def dkwX1_book_0 : List UInt8 := [42, 182, 0, 133, 42, 42, 180, 0, 40, 42, 180, 0, 64, 182, 0, 168, 181, 0, 73, 167, 0, 9, 76, 43]
abbrev dktX1_book_0 : List UInt8 := dkwX1_book_0 ++ dktX1_book_1
theorem dksX1_book_0 : cX1_book.data.toList.drop 0 = dktX1_book_0 := by decide +kernel
theorem dksX1_book_1 : cX1_book.data.toList.drop 24 = dktX1_book_1 := dk_seg dksX1_book_0 24 rfl rfl
theorem dX1_book_0 : decode cX1_book 0 = .ok (.aload_n 0, 1) := dk_42 (dk_at dksX1_book_0 0 rfl rfl)
theorem dX1_book_1 : decode cX1_book 1 = .ok (.invokevirtual 133, 3) := dk_182 0 133 (dk_at dksX1_book_0 1 rfl rfl)
theorem dX1_book_4 : decode cX1_book 4 = .ok (.aload_n 0, 1) := dk_42 (dk_at dksX1_book_0 4 rfl rfl)
theorem dX1_book_5 : decode cX1_book 5 = .ok (.aload_n 0, 1) := dk_42 (dk_at dksX1_book_0 5 rfl rfl)
theorem dX1_book_6 : decode cX1_book 6 = .ok (.getfield 40, 3) := dk_180 0 40 (dk_at dksX1_book_0 6 rfl rfl)
theorem dX1_book_9 : decode cX1_book 9 = .ok (.aload_n 0, 1) := dk_42 (dk_at dksX1_book_0 9 rfl rfl)
theorem dX1_book_10 : decode cX1_book 10 = .ok (.getfield 64, 3) := dk_180 0 64 (dk_at dksX1_book_0 10 rfl rfl)
theorem dX1_book_13 : decode cX1_book 13 = .ok (.invokevirtual 168, 3) := dk_182 0 168 (dk_at dksX1_book_0 13 rfl rfl)
theorem dX1_book_16 : decode cX1_book 16 = .ok (.putfield 73, 3) := dk_181 0 73 (dk_at dksX1_book_0 16 rfl rfl)
theorem dX1_book_19 : decode cX1_book 19 = .ok (.goto 9, 3) := dk_167 0 9 (dk_at dksX1_book_0 19 rfl rfl)
theorem dX1_book_22 : decode cX1_book 22 = .ok (.astore_n 1, 1) := dk_76 (dk_at dksX1_book_0 22 rfl rfl)
theorem dX1_book_23 : decode cX1_book 23 = .ok (.aload_n 1, 1) := dk_43 (dk_at dksX1_book_0 23 rfl rfl)
theorem dX1_book_24 : decode cX1_book 24 = .ok (.getfield 141, 3) := dk_180 0 141 (dk_at dksX1_book_1 0 rfl rfl)
theorem dX1_book_27 : decode cX1_book 27 = .ok (.ireturn, 1) := dk_172 (dk_at dksX1_book_1 3 rfl rfl)
theorem dX1_book_28 : decode cX1_book 28 = .ok (.iconst 0, 1) := dk_3 (dk_at dksX1_book_1 4 rfl rfl)
theorem dX1_book_29 : decode cX1_book 29 = .ok (.ireturn, 1) := dk_172 (dk_at dksX1_book_1 5 rfl rfl)
abbrev cX1_again : ByteArray := prog_1_method_14_code
def yX1_again : MethodName := ⟨RX1, "again", "()Z"⟩
def dkwX1_again_0 : List UInt8 := [42, 180, 0, 153, 154, 0, 5, 3, 172, 42, 182, 0, 150, 4, 172]
abbrev dktX1_again_0 : List UInt8 := dkwX1_again_0 ++ []
theorem dksX1_again_0 : cX1_again.data.toList.drop 0 = dktX1_again_0 := by decide +kernel
theorem dX1_again_0 : decode cX1_again 0 = .ok (.aload_n 0, 1) := dk_42 (dk_at dksX1_again_0 0 rfl rfl)
theorem dX1_again_1 : decode cX1_again 1 = .ok (.getfield 153, 3) := dk_180 0 153 (dk_at dksX1_again_0 1 rfl rfl)
theorem dX1_again_4 : decode cX1_again 4 = .ok (.ifCond .ne 5, 3) := dk_154 0 5 (dk_at dksX1_again_0 4 rfl rfl)
theorem dX1_again_7 : decode cX1_again 7 = .ok (.iconst 0, 1) := dk_3 (dk_at dksX1_again_0 7 rfl rfl)
theorem dX1_again_8 : decode cX1_again 8 = .ok (.ireturn, 1) := dk_172 (dk_at dksX1_again_0 8 rfl rfl)
theorem dX1_again_9 : decode cX1_again 9 = .ok (.aload_n 0, 1) := dk_42 (dk_at dksX1_again_0 9 rfl rfl)
theorem dX1_again_10 : decode cX1_again 10 = .ok (.invokevirtual 150, 3) := dk_182 0 150 (dk_at dksX1_again_0 10 rfl rfl)
theorem dX1_again_13 : decode cX1_again 13 = .ok (.iconst 1, 1) := dk_4 (dk_at dksX1_again_0 13 rfl rfl)
theorem dX1_again_14 : decode cX1_again 14 = .ok (.ireturn, 1) := dk_172 (dk_at dksX1_again_0 14 rfl rfl)
abbrev cX1_kind : ByteArray := prog_1_method_18_code
def yX1_kind : MethodName := ⟨RX1, "kind", "(II)I"⟩
def dkwX1_kind_6 : List UInt8 := [3, 96, 62, 132, 4, 1, 167, 255, 214, 29, 172]
abbrev dktX1_kind_6 : List UInt8 := dkwX1_kind_6 ++ []
def dkwX1_kind_5 : List UInt8 := [162, 0, 33, 29, 42, 180, 0, 80, 28, 5, 100, 21, 4, 182, 0, 213, 27, 160, 0, 7, 4, 167, 0, 4]
abbrev dktX1_kind_5 : List UInt8 := dkwX1_kind_5 ++ dktX1_kind_6
def dkwX1_kind_4 : List UInt8 := [132, 4, 1, 167, 255, 219, 167, 0, 51, 3, 54, 4, 21, 4, 42, 180, 0, 80, 28, 5, 100, 182, 0, 210]
abbrev dktX1_kind_4 : List UInt8 := dkwX1_kind_4 ++ dktX1_kind_5
def dkwX1_kind_3 : List UInt8 := [29, 42, 180, 0, 80, 180, 0, 207, 21, 4, 46, 27, 160, 0, 7, 4, 167, 0, 4, 3, 96, 62]
abbrev dktX1_kind_3 : List UInt8 := dkwX1_kind_3 ++ dktX1_kind_4
def dkwX1_kind_2 : List UInt8 := [46, 172, 3, 62, 28, 7, 160, 0, 49, 3, 54, 4, 21, 4, 42, 180, 0, 80, 180, 0, 204, 162, 0, 31]
abbrev dktX1_kind_2 : List UInt8 := dkwX1_kind_2 ++ dktX1_kind_3
def dkwX1_kind_1 : List UInt8 := [28, 154, 0, 15, 42, 180, 0, 64, 180, 0, 198, 27, 46, 167, 0, 12, 42, 180, 0, 64, 180, 0, 201, 27]
abbrev dktX1_kind_1 : List UInt8 := dkwX1_kind_1 ++ dktX1_kind_2
def dkwX1_kind_0 : List UInt8 := [42, 27, 182, 0, 194, 153, 0, 12, 28, 3, 7, 184, 0, 190, 154, 0, 5, 2, 172, 28, 5, 162, 0, 29]
abbrev dktX1_kind_0 : List UInt8 := dkwX1_kind_0 ++ dktX1_kind_1
theorem dksX1_kind_0 : cX1_kind.data.toList.drop 0 = dktX1_kind_0 := by decide +kernel
theorem dksX1_kind_1 : cX1_kind.data.toList.drop 24 = dktX1_kind_1 := dk_seg dksX1_kind_0 24 rfl rfl
theorem dksX1_kind_2 : cX1_kind.data.toList.drop 48 = dktX1_kind_2 := dk_seg dksX1_kind_1 24 rfl rfl
theorem dksX1_kind_3 : cX1_kind.data.toList.drop 72 = dktX1_kind_3 := dk_seg dksX1_kind_2 24 rfl rfl
theorem dksX1_kind_4 : cX1_kind.data.toList.drop 94 = dktX1_kind_4 := dk_seg dksX1_kind_3 22 rfl rfl
theorem dksX1_kind_5 : cX1_kind.data.toList.drop 118 = dktX1_kind_5 := dk_seg dksX1_kind_4 24 rfl rfl
theorem dksX1_kind_6 : cX1_kind.data.toList.drop 142 = dktX1_kind_6 := dk_seg dksX1_kind_5 24 rfl rfl
theorem dX1_kind_0 : decode cX1_kind 0 = .ok (.aload_n 0, 1) := dk_42 (dk_at dksX1_kind_0 0 rfl rfl)
theorem dX1_kind_1 : decode cX1_kind 1 = .ok (.iload_n 1, 1) := dk_27 (dk_at dksX1_kind_0 1 rfl rfl)
theorem dX1_kind_2 : decode cX1_kind 2 = .ok (.invokevirtual 194, 3) := dk_182 0 194 (dk_at dksX1_kind_0 2 rfl rfl)
theorem dX1_kind_5 : decode cX1_kind 5 = .ok (.ifCond .eq 12, 3) := dk_153 0 12 (dk_at dksX1_kind_0 5 rfl rfl)
theorem dX1_kind_8 : decode cX1_kind 8 = .ok (.iload_n 2, 1) := dk_28 (dk_at dksX1_kind_0 8 rfl rfl)
theorem dX1_kind_9 : decode cX1_kind 9 = .ok (.iconst 0, 1) := dk_3 (dk_at dksX1_kind_0 9 rfl rfl)
theorem dX1_kind_10 : decode cX1_kind 10 = .ok (.iconst 4, 1) := dk_7 (dk_at dksX1_kind_0 10 rfl rfl)
theorem dX1_kind_11 : decode cX1_kind 11 = .ok (.invokestatic 190, 3) := dk_184 0 190 (dk_at dksX1_kind_0 11 rfl rfl)
theorem dX1_kind_14 : decode cX1_kind 14 = .ok (.ifCond .ne 5, 3) := dk_154 0 5 (dk_at dksX1_kind_0 14 rfl rfl)
theorem dX1_kind_17 : decode cX1_kind 17 = .ok (.iconst (-1), 1) := dk_2 (dk_at dksX1_kind_0 17 rfl rfl)
theorem dX1_kind_18 : decode cX1_kind 18 = .ok (.ireturn, 1) := dk_172 (dk_at dksX1_kind_0 18 rfl rfl)
theorem dX1_kind_19 : decode cX1_kind 19 = .ok (.iload_n 2, 1) := dk_28 (dk_at dksX1_kind_0 19 rfl rfl)
theorem dX1_kind_20 : decode cX1_kind 20 = .ok (.iconst 2, 1) := dk_5 (dk_at dksX1_kind_0 20 rfl rfl)
theorem dX1_kind_21 : decode cX1_kind 21 = .ok (.if_icmp .ge 29, 3) := dk_162 0 29 (dk_at dksX1_kind_0 21 rfl rfl)
theorem dX1_kind_24 : decode cX1_kind 24 = .ok (.iload_n 2, 1) := dk_28 (dk_at dksX1_kind_1 0 rfl rfl)
theorem dX1_kind_25 : decode cX1_kind 25 = .ok (.ifCond .ne 15, 3) := dk_154 0 15 (dk_at dksX1_kind_1 1 rfl rfl)
theorem dX1_kind_28 : decode cX1_kind 28 = .ok (.aload_n 0, 1) := dk_42 (dk_at dksX1_kind_1 4 rfl rfl)
theorem dX1_kind_29 : decode cX1_kind 29 = .ok (.getfield 64, 3) := dk_180 0 64 (dk_at dksX1_kind_1 5 rfl rfl)
theorem dX1_kind_32 : decode cX1_kind 32 = .ok (.getfield 198, 3) := dk_180 0 198 (dk_at dksX1_kind_1 8 rfl rfl)
theorem dX1_kind_35 : decode cX1_kind 35 = .ok (.iload_n 1, 1) := dk_27 (dk_at dksX1_kind_1 11 rfl rfl)
theorem dX1_kind_36 : decode cX1_kind 36 = .ok (.iaload, 1) := dk_46 (dk_at dksX1_kind_1 12 rfl rfl)
theorem dX1_kind_37 : decode cX1_kind 37 = .ok (.goto 12, 3) := dk_167 0 12 (dk_at dksX1_kind_1 13 rfl rfl)
theorem dX1_kind_40 : decode cX1_kind 40 = .ok (.aload_n 0, 1) := dk_42 (dk_at dksX1_kind_1 16 rfl rfl)
theorem dX1_kind_41 : decode cX1_kind 41 = .ok (.getfield 64, 3) := dk_180 0 64 (dk_at dksX1_kind_1 17 rfl rfl)
theorem dX1_kind_44 : decode cX1_kind 44 = .ok (.getfield 201, 3) := dk_180 0 201 (dk_at dksX1_kind_1 20 rfl rfl)
theorem dX1_kind_47 : decode cX1_kind 47 = .ok (.iload_n 1, 1) := dk_27 (dk_at dksX1_kind_1 23 rfl rfl)
theorem dX1_kind_48 : decode cX1_kind 48 = .ok (.iaload, 1) := dk_46 (dk_at dksX1_kind_2 0 rfl rfl)
theorem dX1_kind_49 : decode cX1_kind 49 = .ok (.ireturn, 1) := dk_172 (dk_at dksX1_kind_2 1 rfl rfl)
theorem dX1_kind_50 : decode cX1_kind 50 = .ok (.iconst 0, 1) := dk_3 (dk_at dksX1_kind_2 2 rfl rfl)
theorem dX1_kind_51 : decode cX1_kind 51 = .ok (.istore_n 3, 1) := dk_62 (dk_at dksX1_kind_2 3 rfl rfl)
theorem dX1_kind_52 : decode cX1_kind 52 = .ok (.iload_n 2, 1) := dk_28 (dk_at dksX1_kind_2 4 rfl rfl)
theorem dX1_kind_53 : decode cX1_kind 53 = .ok (.iconst 4, 1) := dk_7 (dk_at dksX1_kind_2 5 rfl rfl)
theorem dX1_kind_54 : decode cX1_kind 54 = .ok (.if_icmp .ne 49, 3) := dk_160 0 49 (dk_at dksX1_kind_2 6 rfl rfl)
theorem dX1_kind_57 : decode cX1_kind 57 = .ok (.iconst 0, 1) := dk_3 (dk_at dksX1_kind_2 9 rfl rfl)
theorem dX1_kind_58 : decode cX1_kind 58 = .ok (.istore 4, 2) := dk_54 4 (dk_at dksX1_kind_2 10 rfl rfl)
theorem dX1_kind_60 : decode cX1_kind 60 = .ok (.iload 4, 2) := dk_21 4 (dk_at dksX1_kind_2 12 rfl rfl)
theorem dX1_kind_62 : decode cX1_kind 62 = .ok (.aload_n 0, 1) := dk_42 (dk_at dksX1_kind_2 14 rfl rfl)
theorem dX1_kind_63 : decode cX1_kind 63 = .ok (.getfield 80, 3) := dk_180 0 80 (dk_at dksX1_kind_2 15 rfl rfl)
theorem dX1_kind_66 : decode cX1_kind 66 = .ok (.getfield 204, 3) := dk_180 0 204 (dk_at dksX1_kind_2 18 rfl rfl)
theorem dX1_kind_69 : decode cX1_kind 69 = .ok (.if_icmp .ge 31, 3) := dk_162 0 31 (dk_at dksX1_kind_2 21 rfl rfl)
theorem dX1_kind_72 : decode cX1_kind 72 = .ok (.iload_n 3, 1) := dk_29 (dk_at dksX1_kind_3 0 rfl rfl)
theorem dX1_kind_73 : decode cX1_kind 73 = .ok (.aload_n 0, 1) := dk_42 (dk_at dksX1_kind_3 1 rfl rfl)
theorem dX1_kind_74 : decode cX1_kind 74 = .ok (.getfield 80, 3) := dk_180 0 80 (dk_at dksX1_kind_3 2 rfl rfl)
theorem dX1_kind_77 : decode cX1_kind 77 = .ok (.getfield 207, 3) := dk_180 0 207 (dk_at dksX1_kind_3 5 rfl rfl)
theorem dX1_kind_80 : decode cX1_kind 80 = .ok (.iload 4, 2) := dk_21 4 (dk_at dksX1_kind_3 8 rfl rfl)
theorem dX1_kind_82 : decode cX1_kind 82 = .ok (.iaload, 1) := dk_46 (dk_at dksX1_kind_3 10 rfl rfl)
theorem dX1_kind_83 : decode cX1_kind 83 = .ok (.iload_n 1, 1) := dk_27 (dk_at dksX1_kind_3 11 rfl rfl)
theorem dX1_kind_84 : decode cX1_kind 84 = .ok (.if_icmp .ne 7, 3) := dk_160 0 7 (dk_at dksX1_kind_3 12 rfl rfl)
theorem dX1_kind_87 : decode cX1_kind 87 = .ok (.iconst 1, 1) := dk_4 (dk_at dksX1_kind_3 15 rfl rfl)
theorem dX1_kind_88 : decode cX1_kind 88 = .ok (.goto 4, 3) := dk_167 0 4 (dk_at dksX1_kind_3 16 rfl rfl)
theorem dX1_kind_91 : decode cX1_kind 91 = .ok (.iconst 0, 1) := dk_3 (dk_at dksX1_kind_3 19 rfl rfl)
theorem dX1_kind_92 : decode cX1_kind 92 = .ok (.iadd, 1) := dk_96 (dk_at dksX1_kind_3 20 rfl rfl)
theorem dX1_kind_93 : decode cX1_kind 93 = .ok (.istore_n 3, 1) := dk_62 (dk_at dksX1_kind_3 21 rfl rfl)
theorem dX1_kind_94 : decode cX1_kind 94 = .ok (.iinc 4 1, 3) := dk_132 4 1 (dk_at dksX1_kind_4 0 rfl rfl)
theorem dX1_kind_97 : decode cX1_kind 97 = .ok (.goto (-37), 3) := dk_167 255 219 (dk_at dksX1_kind_4 3 rfl rfl)
theorem dX1_kind_100 : decode cX1_kind 100 = .ok (.goto 51, 3) := dk_167 0 51 (dk_at dksX1_kind_4 6 rfl rfl)
theorem dX1_kind_103 : decode cX1_kind 103 = .ok (.iconst 0, 1) := dk_3 (dk_at dksX1_kind_4 9 rfl rfl)
theorem dX1_kind_104 : decode cX1_kind 104 = .ok (.istore 4, 2) := dk_54 4 (dk_at dksX1_kind_4 10 rfl rfl)
theorem dX1_kind_106 : decode cX1_kind 106 = .ok (.iload 4, 2) := dk_21 4 (dk_at dksX1_kind_4 12 rfl rfl)
theorem dX1_kind_108 : decode cX1_kind 108 = .ok (.aload_n 0, 1) := dk_42 (dk_at dksX1_kind_4 14 rfl rfl)
theorem dX1_kind_109 : decode cX1_kind 109 = .ok (.getfield 80, 3) := dk_180 0 80 (dk_at dksX1_kind_4 15 rfl rfl)
theorem dX1_kind_112 : decode cX1_kind 112 = .ok (.iload_n 2, 1) := dk_28 (dk_at dksX1_kind_4 18 rfl rfl)
theorem dX1_kind_113 : decode cX1_kind 113 = .ok (.iconst 2, 1) := dk_5 (dk_at dksX1_kind_4 19 rfl rfl)
theorem dX1_kind_114 : decode cX1_kind 114 = .ok (.isub, 1) := dk_100 (dk_at dksX1_kind_4 20 rfl rfl)
theorem dX1_kind_115 : decode cX1_kind 115 = .ok (.invokevirtual 210, 3) := dk_182 0 210 (dk_at dksX1_kind_4 21 rfl rfl)
theorem dX1_kind_118 : decode cX1_kind 118 = .ok (.if_icmp .ge 33, 3) := dk_162 0 33 (dk_at dksX1_kind_5 0 rfl rfl)
theorem dX1_kind_121 : decode cX1_kind 121 = .ok (.iload_n 3, 1) := dk_29 (dk_at dksX1_kind_5 3 rfl rfl)
theorem dX1_kind_122 : decode cX1_kind 122 = .ok (.aload_n 0, 1) := dk_42 (dk_at dksX1_kind_5 4 rfl rfl)
theorem dX1_kind_123 : decode cX1_kind 123 = .ok (.getfield 80, 3) := dk_180 0 80 (dk_at dksX1_kind_5 5 rfl rfl)
theorem dX1_kind_126 : decode cX1_kind 126 = .ok (.iload_n 2, 1) := dk_28 (dk_at dksX1_kind_5 8 rfl rfl)
theorem dX1_kind_127 : decode cX1_kind 127 = .ok (.iconst 2, 1) := dk_5 (dk_at dksX1_kind_5 9 rfl rfl)
theorem dX1_kind_128 : decode cX1_kind 128 = .ok (.isub, 1) := dk_100 (dk_at dksX1_kind_5 10 rfl rfl)
theorem dX1_kind_129 : decode cX1_kind 129 = .ok (.iload 4, 2) := dk_21 4 (dk_at dksX1_kind_5 11 rfl rfl)
theorem dX1_kind_131 : decode cX1_kind 131 = .ok (.invokevirtual 213, 3) := dk_182 0 213 (dk_at dksX1_kind_5 13 rfl rfl)
theorem dX1_kind_134 : decode cX1_kind 134 = .ok (.iload_n 1, 1) := dk_27 (dk_at dksX1_kind_5 16 rfl rfl)
theorem dX1_kind_135 : decode cX1_kind 135 = .ok (.if_icmp .ne 7, 3) := dk_160 0 7 (dk_at dksX1_kind_5 17 rfl rfl)
theorem dX1_kind_138 : decode cX1_kind 138 = .ok (.iconst 1, 1) := dk_4 (dk_at dksX1_kind_5 20 rfl rfl)
theorem dX1_kind_139 : decode cX1_kind 139 = .ok (.goto 4, 3) := dk_167 0 4 (dk_at dksX1_kind_5 21 rfl rfl)
theorem dX1_kind_142 : decode cX1_kind 142 = .ok (.iconst 0, 1) := dk_3 (dk_at dksX1_kind_6 0 rfl rfl)
theorem dX1_kind_143 : decode cX1_kind 143 = .ok (.iadd, 1) := dk_96 (dk_at dksX1_kind_6 1 rfl rfl)
theorem dX1_kind_144 : decode cX1_kind 144 = .ok (.istore_n 3, 1) := dk_62 (dk_at dksX1_kind_6 2 rfl rfl)
theorem dX1_kind_145 : decode cX1_kind 145 = .ok (.iinc 4 1, 3) := dk_132 4 1 (dk_at dksX1_kind_6 3 rfl rfl)
theorem dX1_kind_148 : decode cX1_kind 148 = .ok (.goto (-42), 3) := dk_167 255 214 (dk_at dksX1_kind_6 6 rfl rfl)
theorem dX1_kind_151 : decode cX1_kind 151 = .ok (.iload_n 3, 1) := dk_29 (dk_at dksX1_kind_6 9 rfl rfl)
theorem dX1_kind_152 : decode cX1_kind 152 = .ok (.ireturn, 1) := dk_172 (dk_at dksX1_kind_6 10 rfl rfl)
abbrev cX1_isKind : ByteArray := prog_1_method_16_code
def yX1_isKind : MethodName := ⟨RX1, "isKind", "(I)Z"⟩
def dkwX1_isKind_0 : List UInt8 := [27, 3, 42, 182, 0, 188, 4, 100, 184, 0, 190, 172]
abbrev dktX1_isKind_0 : List UInt8 := dkwX1_isKind_0 ++ []
theorem dksX1_isKind_0 : cX1_isKind.data.toList.drop 0 = dktX1_isKind_0 := by decide +kernel
theorem dX1_isKind_0 : decode cX1_isKind 0 = .ok (.iload_n 1, 1) := dk_27 (dk_at dksX1_isKind_0 0 rfl rfl)
theorem dX1_isKind_1 : decode cX1_isKind 1 = .ok (.iconst 0, 1) := dk_3 (dk_at dksX1_isKind_0 1 rfl rfl)
theorem dX1_isKind_2 : decode cX1_isKind 2 = .ok (.aload_n 0, 1) := dk_42 (dk_at dksX1_isKind_0 2 rfl rfl)
theorem dX1_isKind_3 : decode cX1_isKind 3 = .ok (.invokevirtual 188, 3) := dk_182 0 188 (dk_at dksX1_isKind_0 3 rfl rfl)
theorem dX1_isKind_6 : decode cX1_isKind 6 = .ok (.iconst 1, 1) := dk_4 (dk_at dksX1_isKind_0 6 rfl rfl)
theorem dX1_isKind_7 : decode cX1_isKind 7 = .ok (.isub, 1) := dk_100 (dk_at dksX1_isKind_0 7 rfl rfl)
theorem dX1_isKind_8 : decode cX1_isKind 8 = .ok (.invokestatic 190, 3) := dk_184 0 190 (dk_at dksX1_isKind_0 8 rfl rfl)
theorem dX1_isKind_11 : decode cX1_isKind 11 = .ok (.ireturn, 1) := dk_172 (dk_at dksX1_isKind_0 11 rfl rfl)
abbrev cX1_kinds : ByteArray := prog_1_method_15_code
def yX1_kinds : MethodName := ⟨RX1, "kinds", "()I"⟩
def dkwX1_kinds_0 : List UInt8 := [42, 180, 0, 64, 180, 0, 182, 182, 0, 185, 172]
abbrev dktX1_kinds_0 : List UInt8 := dkwX1_kinds_0 ++ []
theorem dksX1_kinds_0 : cX1_kinds.data.toList.drop 0 = dktX1_kinds_0 := by decide +kernel
theorem dX1_kinds_0 : decode cX1_kinds 0 = .ok (.aload_n 0, 1) := dk_42 (dk_at dksX1_kinds_0 0 rfl rfl)
theorem dX1_kinds_1 : decode cX1_kinds 1 = .ok (.getfield 64, 3) := dk_180 0 64 (dk_at dksX1_kinds_0 1 rfl rfl)
theorem dX1_kinds_4 : decode cX1_kinds 4 = .ok (.getfield 182, 3) := dk_180 0 182 (dk_at dksX1_kinds_0 4 rfl rfl)
theorem dX1_kinds_7 : decode cX1_kinds 7 = .ok (.invokevirtual 185, 3) := dk_182 0 185 (dk_at dksX1_kinds_0 7 rfl rfl)
theorem dX1_kinds_10 : decode cX1_kinds 10 = .ok (.ireturn, 1) := dk_172 (dk_at dksX1_kinds_0 10 rfl rfl)
abbrev cX1_in : ByteArray := prog_1_method_1_code
def yX1_in : MethodName := ⟨RX1, "in", "(III)Z"⟩
def dkwX1_in_0 : List UInt8 := [26, 27, 161, 0, 12, 26, 28, 163, 0, 7, 4, 167, 0, 4, 3, 172]
abbrev dktX1_in_0 : List UInt8 := dkwX1_in_0 ++ []
theorem dksX1_in_0 : cX1_in.data.toList.drop 0 = dktX1_in_0 := by decide +kernel
theorem dX1_in_0 : decode cX1_in 0 = .ok (.iload_n 0, 1) := dk_26 (dk_at dksX1_in_0 0 rfl rfl)
theorem dX1_in_1 : decode cX1_in 1 = .ok (.iload_n 1, 1) := dk_27 (dk_at dksX1_in_0 1 rfl rfl)
theorem dX1_in_2 : decode cX1_in 2 = .ok (.if_icmp .lt 12, 3) := dk_161 0 12 (dk_at dksX1_in_0 2 rfl rfl)
theorem dX1_in_5 : decode cX1_in 5 = .ok (.iload_n 0, 1) := dk_26 (dk_at dksX1_in_0 5 rfl rfl)
theorem dX1_in_6 : decode cX1_in 6 = .ok (.iload_n 2, 1) := dk_28 (dk_at dksX1_in_0 6 rfl rfl)
theorem dX1_in_7 : decode cX1_in 7 = .ok (.if_icmp .gt 7, 3) := dk_163 0 7 (dk_at dksX1_in_0 7 rfl rfl)
theorem dX1_in_10 : decode cX1_in 10 = .ok (.iconst 1, 1) := dk_4 (dk_at dksX1_in_0 10 rfl rfl)
theorem dX1_in_11 : decode cX1_in 11 = .ok (.goto 4, 3) := dk_167 0 4 (dk_at dksX1_in_0 11 rfl rfl)
theorem dX1_in_14 : decode cX1_in 14 = .ok (.iconst 0, 1) := dk_3 (dk_at dksX1_in_0 14 rfl rfl)
theorem dX1_in_15 : decode cX1_in 15 = .ok (.ireturn, 1) := dk_172 (dk_at dksX1_in_0 15 rfl rfl)
abbrev cX1_card : ByteArray := prog_1_method_19_code
def yX1_card : MethodName := ⟨RX1, "card", "(II)I"⟩
def dkwX1_card_1 : List UInt8 := [153, 0, 15, 42, 180, 0, 80, 27, 28, 182, 0, 213, 167, 0, 4, 2, 172]
abbrev dktX1_card_1 : List UInt8 := dkwX1_card_1 ++ []
def dkwX1_card_0 : List UInt8 := [27, 184, 0, 216, 153, 0, 33, 28, 3, 42, 180, 0, 80, 27, 182, 0, 210, 4, 100, 184, 0, 190]
abbrev dktX1_card_0 : List UInt8 := dkwX1_card_0 ++ dktX1_card_1
theorem dksX1_card_0 : cX1_card.data.toList.drop 0 = dktX1_card_0 := by decide +kernel
theorem dksX1_card_1 : cX1_card.data.toList.drop 22 = dktX1_card_1 := dk_seg dksX1_card_0 22 rfl rfl
theorem dX1_card_0 : decode cX1_card 0 = .ok (.iload_n 1, 1) := dk_27 (dk_at dksX1_card_0 0 rfl rfl)
theorem dX1_card_1 : decode cX1_card 1 = .ok (.invokestatic 216, 3) := dk_184 0 216 (dk_at dksX1_card_0 1 rfl rfl)
theorem dX1_card_4 : decode cX1_card 4 = .ok (.ifCond .eq 33, 3) := dk_153 0 33 (dk_at dksX1_card_0 4 rfl rfl)
theorem dX1_card_7 : decode cX1_card 7 = .ok (.iload_n 2, 1) := dk_28 (dk_at dksX1_card_0 7 rfl rfl)
theorem dX1_card_8 : decode cX1_card 8 = .ok (.iconst 0, 1) := dk_3 (dk_at dksX1_card_0 8 rfl rfl)
theorem dX1_card_9 : decode cX1_card 9 = .ok (.aload_n 0, 1) := dk_42 (dk_at dksX1_card_0 9 rfl rfl)
theorem dX1_card_10 : decode cX1_card 10 = .ok (.getfield 80, 3) := dk_180 0 80 (dk_at dksX1_card_0 10 rfl rfl)
theorem dX1_card_13 : decode cX1_card 13 = .ok (.iload_n 1, 1) := dk_27 (dk_at dksX1_card_0 13 rfl rfl)
theorem dX1_card_14 : decode cX1_card 14 = .ok (.invokevirtual 210, 3) := dk_182 0 210 (dk_at dksX1_card_0 14 rfl rfl)
theorem dX1_card_17 : decode cX1_card 17 = .ok (.iconst 1, 1) := dk_4 (dk_at dksX1_card_0 17 rfl rfl)
theorem dX1_card_18 : decode cX1_card 18 = .ok (.isub, 1) := dk_100 (dk_at dksX1_card_0 18 rfl rfl)
theorem dX1_card_19 : decode cX1_card 19 = .ok (.invokestatic 190, 3) := dk_184 0 190 (dk_at dksX1_card_0 19 rfl rfl)
theorem dX1_card_22 : decode cX1_card 22 = .ok (.ifCond .eq 15, 3) := dk_153 0 15 (dk_at dksX1_card_1 0 rfl rfl)
theorem dX1_card_25 : decode cX1_card 25 = .ok (.aload_n 0, 1) := dk_42 (dk_at dksX1_card_1 3 rfl rfl)
theorem dX1_card_26 : decode cX1_card 26 = .ok (.getfield 80, 3) := dk_180 0 80 (dk_at dksX1_card_1 4 rfl rfl)
theorem dX1_card_29 : decode cX1_card 29 = .ok (.iload_n 1, 1) := dk_27 (dk_at dksX1_card_1 7 rfl rfl)
theorem dX1_card_30 : decode cX1_card 30 = .ok (.iload_n 2, 1) := dk_28 (dk_at dksX1_card_1 8 rfl rfl)
theorem dX1_card_31 : decode cX1_card 31 = .ok (.invokevirtual 213, 3) := dk_182 0 213 (dk_at dksX1_card_1 9 rfl rfl)
theorem dX1_card_34 : decode cX1_card 34 = .ok (.goto 4, 3) := dk_167 0 4 (dk_at dksX1_card_1 12 rfl rfl)
theorem dX1_card_37 : decode cX1_card 37 = .ok (.iconst (-1), 1) := dk_2 (dk_at dksX1_card_1 15 rfl rfl)
theorem dX1_card_38 : decode cX1_card 38 = .ok (.ireturn, 1) := dk_172 (dk_at dksX1_card_1 16 rfl rfl)
abbrev cX1_isSide : ByteArray := prog_1_method_17_code
def yX1_isSide : MethodName := ⟨RX1, "isSide", "(I)Z"⟩
def dkwX1_isSide_0 : List UInt8 := [26, 3, 4, 184, 0, 190, 172]
abbrev dktX1_isSide_0 : List UInt8 := dkwX1_isSide_0 ++ []
theorem dksX1_isSide_0 : cX1_isSide.data.toList.drop 0 = dktX1_isSide_0 := by decide +kernel
theorem dX1_isSide_0 : decode cX1_isSide 0 = .ok (.iload_n 0, 1) := dk_26 (dk_at dksX1_isSide_0 0 rfl rfl)
theorem dX1_isSide_1 : decode cX1_isSide 1 = .ok (.iconst 0, 1) := dk_3 (dk_at dksX1_isSide_0 1 rfl rfl)
theorem dX1_isSide_2 : decode cX1_isSide 2 = .ok (.iconst 1, 1) := dk_4 (dk_at dksX1_isSide_0 2 rfl rfl)
theorem dX1_isSide_3 : decode cX1_isSide 3 = .ok (.invokestatic 190, 3) := dk_184 0 190 (dk_at dksX1_isSide_0 3 rfl rfl)
theorem dX1_isSide_6 : decode cX1_isSide 6 = .ok (.ireturn, 1) := dk_172 (dk_at dksX1_isSide_0 6 rfl rfl)
abbrev cX1_heap : ByteArray := prog_1_method_20_code
def yX1_heap : MethodName := ⟨RX1, "heap", "(I)I"⟩
def dkwX1_heap_1 : List UInt8 := [27, 46, 167, 0, 4, 2, 172]
abbrev dktX1_heap_1 : List UInt8 := dkwX1_heap_1 ++ []
def dkwX1_heap_0 : List UInt8 := [27, 3, 42, 180, 0, 80, 180, 0, 204, 4, 100, 184, 0, 190, 153, 0, 15, 42, 180, 0, 80, 180, 0, 207]
abbrev dktX1_heap_0 : List UInt8 := dkwX1_heap_0 ++ dktX1_heap_1
theorem dksX1_heap_0 : cX1_heap.data.toList.drop 0 = dktX1_heap_0 := by decide +kernel
theorem dksX1_heap_1 : cX1_heap.data.toList.drop 24 = dktX1_heap_1 := dk_seg dksX1_heap_0 24 rfl rfl
theorem dX1_heap_0 : decode cX1_heap 0 = .ok (.iload_n 1, 1) := dk_27 (dk_at dksX1_heap_0 0 rfl rfl)
theorem dX1_heap_1 : decode cX1_heap 1 = .ok (.iconst 0, 1) := dk_3 (dk_at dksX1_heap_0 1 rfl rfl)
theorem dX1_heap_2 : decode cX1_heap 2 = .ok (.aload_n 0, 1) := dk_42 (dk_at dksX1_heap_0 2 rfl rfl)
theorem dX1_heap_3 : decode cX1_heap 3 = .ok (.getfield 80, 3) := dk_180 0 80 (dk_at dksX1_heap_0 3 rfl rfl)
theorem dX1_heap_6 : decode cX1_heap 6 = .ok (.getfield 204, 3) := dk_180 0 204 (dk_at dksX1_heap_0 6 rfl rfl)
theorem dX1_heap_9 : decode cX1_heap 9 = .ok (.iconst 1, 1) := dk_4 (dk_at dksX1_heap_0 9 rfl rfl)
theorem dX1_heap_10 : decode cX1_heap 10 = .ok (.isub, 1) := dk_100 (dk_at dksX1_heap_0 10 rfl rfl)
theorem dX1_heap_11 : decode cX1_heap 11 = .ok (.invokestatic 190, 3) := dk_184 0 190 (dk_at dksX1_heap_0 11 rfl rfl)
theorem dX1_heap_14 : decode cX1_heap 14 = .ok (.ifCond .eq 15, 3) := dk_153 0 15 (dk_at dksX1_heap_0 14 rfl rfl)
theorem dX1_heap_17 : decode cX1_heap 17 = .ok (.aload_n 0, 1) := dk_42 (dk_at dksX1_heap_0 17 rfl rfl)
theorem dX1_heap_18 : decode cX1_heap 18 = .ok (.getfield 80, 3) := dk_180 0 80 (dk_at dksX1_heap_0 18 rfl rfl)
theorem dX1_heap_21 : decode cX1_heap 21 = .ok (.getfield 207, 3) := dk_180 0 207 (dk_at dksX1_heap_0 21 rfl rfl)
theorem dX1_heap_24 : decode cX1_heap 24 = .ok (.iload_n 1, 1) := dk_27 (dk_at dksX1_heap_1 0 rfl rfl)
theorem dX1_heap_25 : decode cX1_heap 25 = .ok (.iaload, 1) := dk_46 (dk_at dksX1_heap_1 1 rfl rfl)
theorem dX1_heap_26 : decode cX1_heap 26 = .ok (.goto 4, 3) := dk_167 0 4 (dk_at dksX1_heap_1 2 rfl rfl)
theorem dX1_heap_29 : decode cX1_heap 29 = .ok (.iconst (-1), 1) := dk_2 (dk_at dksX1_heap_1 5 rfl rfl)
theorem dX1_heap_30 : decode cX1_heap 30 = .ok (.ireturn, 1) := dk_172 (dk_at dksX1_heap_1 6 rfl rfl)
abbrev cX1_taken : ByteArray := prog_1_method_21_code
def yX1_taken : MethodName := ⟨RX1, "taken", "(II)I"⟩
def dkwX1_taken_4 : List UInt8 := [172]
abbrev dktX1_taken_4 : List UInt8 := dkwX1_taken_4 ++ []
def dkwX1_taken_3 : List UInt8 := [180, 0, 231, 167, 0, 21, 28, 5, 160, 0, 11, 25, 4, 180, 0, 233, 167, 0, 8, 25, 4, 180, 0, 236]
abbrev dktX1_taken_3 : List UInt8 := dkwX1_taken_3 ++ dktX1_taken_4
def dkwX1_taken_2 : List UInt8 := [192, 0, 226, 58, 4, 28, 154, 0, 11, 25, 4, 180, 0, 228, 167, 0, 34, 28, 4, 160, 0, 11, 25, 4]
abbrev dktX1_taken_2 : List UInt8 := dkwX1_taken_2 ++ dktX1_taken_3
def dkwX1_taken_1 : List UInt8 := [6, 184, 0, 190, 154, 0, 5, 2, 172, 42, 180, 0, 80, 180, 0, 219, 29, 4, 100, 27, 100, 182, 0, 222]
abbrev dktX1_taken_1 : List UInt8 := dkwX1_taken_1 ++ dktX1_taken_2
def dkwX1_taken_0 : List UInt8 := [42, 180, 0, 80, 180, 0, 219, 182, 0, 185, 62, 27, 3, 29, 4, 100, 184, 0, 190, 153, 0, 12, 28, 3]
abbrev dktX1_taken_0 : List UInt8 := dkwX1_taken_0 ++ dktX1_taken_1
theorem dksX1_taken_0 : cX1_taken.data.toList.drop 0 = dktX1_taken_0 := by decide +kernel
theorem dksX1_taken_1 : cX1_taken.data.toList.drop 24 = dktX1_taken_1 := dk_seg dksX1_taken_0 24 rfl rfl
theorem dksX1_taken_2 : cX1_taken.data.toList.drop 48 = dktX1_taken_2 := dk_seg dksX1_taken_1 24 rfl rfl
theorem dksX1_taken_3 : cX1_taken.data.toList.drop 72 = dktX1_taken_3 := dk_seg dksX1_taken_2 24 rfl rfl
theorem dksX1_taken_4 : cX1_taken.data.toList.drop 96 = dktX1_taken_4 := dk_seg dksX1_taken_3 24 rfl rfl
theorem dX1_taken_0 : decode cX1_taken 0 = .ok (.aload_n 0, 1) := dk_42 (dk_at dksX1_taken_0 0 rfl rfl)
theorem dX1_taken_1 : decode cX1_taken 1 = .ok (.getfield 80, 3) := dk_180 0 80 (dk_at dksX1_taken_0 1 rfl rfl)
theorem dX1_taken_4 : decode cX1_taken 4 = .ok (.getfield 219, 3) := dk_180 0 219 (dk_at dksX1_taken_0 4 rfl rfl)
theorem dX1_taken_7 : decode cX1_taken 7 = .ok (.invokevirtual 185, 3) := dk_182 0 185 (dk_at dksX1_taken_0 7 rfl rfl)
theorem dX1_taken_10 : decode cX1_taken 10 = .ok (.istore_n 3, 1) := dk_62 (dk_at dksX1_taken_0 10 rfl rfl)
theorem dX1_taken_11 : decode cX1_taken 11 = .ok (.iload_n 1, 1) := dk_27 (dk_at dksX1_taken_0 11 rfl rfl)
theorem dX1_taken_12 : decode cX1_taken 12 = .ok (.iconst 0, 1) := dk_3 (dk_at dksX1_taken_0 12 rfl rfl)
theorem dX1_taken_13 : decode cX1_taken 13 = .ok (.iload_n 3, 1) := dk_29 (dk_at dksX1_taken_0 13 rfl rfl)
theorem dX1_taken_14 : decode cX1_taken 14 = .ok (.iconst 1, 1) := dk_4 (dk_at dksX1_taken_0 14 rfl rfl)
theorem dX1_taken_15 : decode cX1_taken 15 = .ok (.isub, 1) := dk_100 (dk_at dksX1_taken_0 15 rfl rfl)
theorem dX1_taken_16 : decode cX1_taken 16 = .ok (.invokestatic 190, 3) := dk_184 0 190 (dk_at dksX1_taken_0 16 rfl rfl)
theorem dX1_taken_19 : decode cX1_taken 19 = .ok (.ifCond .eq 12, 3) := dk_153 0 12 (dk_at dksX1_taken_0 19 rfl rfl)
theorem dX1_taken_22 : decode cX1_taken 22 = .ok (.iload_n 2, 1) := dk_28 (dk_at dksX1_taken_0 22 rfl rfl)
theorem dX1_taken_23 : decode cX1_taken 23 = .ok (.iconst 0, 1) := dk_3 (dk_at dksX1_taken_0 23 rfl rfl)
theorem dX1_taken_24 : decode cX1_taken 24 = .ok (.iconst 3, 1) := dk_6 (dk_at dksX1_taken_1 0 rfl rfl)
theorem dX1_taken_25 : decode cX1_taken 25 = .ok (.invokestatic 190, 3) := dk_184 0 190 (dk_at dksX1_taken_1 1 rfl rfl)
theorem dX1_taken_28 : decode cX1_taken 28 = .ok (.ifCond .ne 5, 3) := dk_154 0 5 (dk_at dksX1_taken_1 4 rfl rfl)
theorem dX1_taken_31 : decode cX1_taken 31 = .ok (.iconst (-1), 1) := dk_2 (dk_at dksX1_taken_1 7 rfl rfl)
theorem dX1_taken_32 : decode cX1_taken 32 = .ok (.ireturn, 1) := dk_172 (dk_at dksX1_taken_1 8 rfl rfl)
theorem dX1_taken_33 : decode cX1_taken 33 = .ok (.aload_n 0, 1) := dk_42 (dk_at dksX1_taken_1 9 rfl rfl)
theorem dX1_taken_34 : decode cX1_taken 34 = .ok (.getfield 80, 3) := dk_180 0 80 (dk_at dksX1_taken_1 10 rfl rfl)
theorem dX1_taken_37 : decode cX1_taken 37 = .ok (.getfield 219, 3) := dk_180 0 219 (dk_at dksX1_taken_1 13 rfl rfl)
theorem dX1_taken_40 : decode cX1_taken 40 = .ok (.iload_n 3, 1) := dk_29 (dk_at dksX1_taken_1 16 rfl rfl)
theorem dX1_taken_41 : decode cX1_taken 41 = .ok (.iconst 1, 1) := dk_4 (dk_at dksX1_taken_1 17 rfl rfl)
theorem dX1_taken_42 : decode cX1_taken 42 = .ok (.isub, 1) := dk_100 (dk_at dksX1_taken_1 18 rfl rfl)
theorem dX1_taken_43 : decode cX1_taken 43 = .ok (.iload_n 1, 1) := dk_27 (dk_at dksX1_taken_1 19 rfl rfl)
theorem dX1_taken_44 : decode cX1_taken 44 = .ok (.isub, 1) := dk_100 (dk_at dksX1_taken_1 20 rfl rfl)
theorem dX1_taken_45 : decode cX1_taken 45 = .ok (.invokevirtual 222, 3) := dk_182 0 222 (dk_at dksX1_taken_1 21 rfl rfl)
theorem dX1_taken_48 : decode cX1_taken 48 = .ok (.checkcast 226, 3) := dk_192 0 226 (dk_at dksX1_taken_2 0 rfl rfl)
theorem dX1_taken_51 : decode cX1_taken 51 = .ok (.astore 4, 2) := dk_58 4 (dk_at dksX1_taken_2 3 rfl rfl)
theorem dX1_taken_53 : decode cX1_taken 53 = .ok (.iload_n 2, 1) := dk_28 (dk_at dksX1_taken_2 5 rfl rfl)
theorem dX1_taken_54 : decode cX1_taken 54 = .ok (.ifCond .ne 11, 3) := dk_154 0 11 (dk_at dksX1_taken_2 6 rfl rfl)
theorem dX1_taken_57 : decode cX1_taken 57 = .ok (.aload 4, 2) := dk_25 4 (dk_at dksX1_taken_2 9 rfl rfl)
theorem dX1_taken_59 : decode cX1_taken 59 = .ok (.getfield 228, 3) := dk_180 0 228 (dk_at dksX1_taken_2 11 rfl rfl)
theorem dX1_taken_62 : decode cX1_taken 62 = .ok (.goto 34, 3) := dk_167 0 34 (dk_at dksX1_taken_2 14 rfl rfl)
theorem dX1_taken_65 : decode cX1_taken 65 = .ok (.iload_n 2, 1) := dk_28 (dk_at dksX1_taken_2 17 rfl rfl)
theorem dX1_taken_66 : decode cX1_taken 66 = .ok (.iconst 1, 1) := dk_4 (dk_at dksX1_taken_2 18 rfl rfl)
theorem dX1_taken_67 : decode cX1_taken 67 = .ok (.if_icmp .ne 11, 3) := dk_160 0 11 (dk_at dksX1_taken_2 19 rfl rfl)
theorem dX1_taken_70 : decode cX1_taken 70 = .ok (.aload 4, 2) := dk_25 4 (dk_at dksX1_taken_2 22 rfl rfl)
theorem dX1_taken_72 : decode cX1_taken 72 = .ok (.getfield 231, 3) := dk_180 0 231 (dk_at dksX1_taken_3 0 rfl rfl)
theorem dX1_taken_75 : decode cX1_taken 75 = .ok (.goto 21, 3) := dk_167 0 21 (dk_at dksX1_taken_3 3 rfl rfl)
theorem dX1_taken_78 : decode cX1_taken 78 = .ok (.iload_n 2, 1) := dk_28 (dk_at dksX1_taken_3 6 rfl rfl)
theorem dX1_taken_79 : decode cX1_taken 79 = .ok (.iconst 2, 1) := dk_5 (dk_at dksX1_taken_3 7 rfl rfl)
theorem dX1_taken_80 : decode cX1_taken 80 = .ok (.if_icmp .ne 11, 3) := dk_160 0 11 (dk_at dksX1_taken_3 8 rfl rfl)
theorem dX1_taken_83 : decode cX1_taken 83 = .ok (.aload 4, 2) := dk_25 4 (dk_at dksX1_taken_3 11 rfl rfl)
theorem dX1_taken_85 : decode cX1_taken 85 = .ok (.getfield 233, 3) := dk_180 0 233 (dk_at dksX1_taken_3 13 rfl rfl)
theorem dX1_taken_88 : decode cX1_taken 88 = .ok (.goto 8, 3) := dk_167 0 8 (dk_at dksX1_taken_3 16 rfl rfl)
theorem dX1_taken_91 : decode cX1_taken 91 = .ok (.aload 4, 2) := dk_25 4 (dk_at dksX1_taken_3 19 rfl rfl)
theorem dX1_taken_93 : decode cX1_taken 93 = .ok (.getfield 236, 3) := dk_180 0 236 (dk_at dksX1_taken_3 21 rfl rfl)
theorem dX1_taken_96 : decode cX1_taken 96 = .ok (.ireturn, 1) := dk_172 (dk_at dksX1_taken_4 0 rfl rfl)
abbrev cX1_turn : ByteArray := prog_1_method_26_code
def yX1_turn : MethodName := ⟨RX1, "turn", "(I)I"⟩
def dkwX1_turn_2 : List UInt8 := [167, 255, 241, 28, 172]
abbrev dktX1_turn_2 : List UInt8 := dkwX1_turn_2 ++ []
def dkwX1_turn_1 : List UInt8 := [172, 42, 182, 1, 53, 3, 61, 28, 27, 162, 0, 16, 42, 182, 1, 56, 153, 0, 9, 132, 2, 1]
abbrev dktX1_turn_1 : List UInt8 := dkwX1_turn_1 ++ dktX1_turn_2
def dkwX1_turn_0 : List UInt8 := [27, 4, 17, 3, 232, 184, 0, 190, 154, 0, 5, 2, 172, 42, 180, 0, 80, 180, 1, 28, 155, 0, 5, 3]
abbrev dktX1_turn_0 : List UInt8 := dkwX1_turn_0 ++ dktX1_turn_1
theorem dksX1_turn_0 : cX1_turn.data.toList.drop 0 = dktX1_turn_0 := by decide +kernel
theorem dksX1_turn_1 : cX1_turn.data.toList.drop 24 = dktX1_turn_1 := dk_seg dksX1_turn_0 24 rfl rfl
theorem dksX1_turn_2 : cX1_turn.data.toList.drop 46 = dktX1_turn_2 := dk_seg dksX1_turn_1 22 rfl rfl
theorem dX1_turn_0 : decode cX1_turn 0 = .ok (.iload_n 1, 1) := dk_27 (dk_at dksX1_turn_0 0 rfl rfl)
theorem dX1_turn_1 : decode cX1_turn 1 = .ok (.iconst 1, 1) := dk_4 (dk_at dksX1_turn_0 1 rfl rfl)
theorem dX1_turn_2 : decode cX1_turn 2 = .ok (.sipush 1000, 3) := dk_17 3 232 (dk_at dksX1_turn_0 2 rfl rfl)
theorem dX1_turn_5 : decode cX1_turn 5 = .ok (.invokestatic 190, 3) := dk_184 0 190 (dk_at dksX1_turn_0 5 rfl rfl)
theorem dX1_turn_8 : decode cX1_turn 8 = .ok (.ifCond .ne 5, 3) := dk_154 0 5 (dk_at dksX1_turn_0 8 rfl rfl)
theorem dX1_turn_11 : decode cX1_turn 11 = .ok (.iconst (-1), 1) := dk_2 (dk_at dksX1_turn_0 11 rfl rfl)
theorem dX1_turn_12 : decode cX1_turn 12 = .ok (.ireturn, 1) := dk_172 (dk_at dksX1_turn_0 12 rfl rfl)
theorem dX1_turn_13 : decode cX1_turn 13 = .ok (.aload_n 0, 1) := dk_42 (dk_at dksX1_turn_0 13 rfl rfl)
theorem dX1_turn_14 : decode cX1_turn 14 = .ok (.getfield 80, 3) := dk_180 0 80 (dk_at dksX1_turn_0 14 rfl rfl)
theorem dX1_turn_17 : decode cX1_turn 17 = .ok (.getfield 284, 3) := dk_180 1 28 (dk_at dksX1_turn_0 17 rfl rfl)
theorem dX1_turn_20 : decode cX1_turn 20 = .ok (.ifCond .lt 5, 3) := dk_155 0 5 (dk_at dksX1_turn_0 20 rfl rfl)
theorem dX1_turn_23 : decode cX1_turn 23 = .ok (.iconst 0, 1) := dk_3 (dk_at dksX1_turn_0 23 rfl rfl)
theorem dX1_turn_24 : decode cX1_turn 24 = .ok (.ireturn, 1) := dk_172 (dk_at dksX1_turn_1 0 rfl rfl)
theorem dX1_turn_25 : decode cX1_turn 25 = .ok (.aload_n 0, 1) := dk_42 (dk_at dksX1_turn_1 1 rfl rfl)
theorem dX1_turn_26 : decode cX1_turn 26 = .ok (.invokevirtual 309, 3) := dk_182 1 53 (dk_at dksX1_turn_1 2 rfl rfl)
theorem dX1_turn_29 : decode cX1_turn 29 = .ok (.iconst 0, 1) := dk_3 (dk_at dksX1_turn_1 5 rfl rfl)
theorem dX1_turn_30 : decode cX1_turn 30 = .ok (.istore_n 2, 1) := dk_61 (dk_at dksX1_turn_1 6 rfl rfl)
theorem dX1_turn_31 : decode cX1_turn 31 = .ok (.iload_n 2, 1) := dk_28 (dk_at dksX1_turn_1 7 rfl rfl)
theorem dX1_turn_32 : decode cX1_turn 32 = .ok (.iload_n 1, 1) := dk_27 (dk_at dksX1_turn_1 8 rfl rfl)
theorem dX1_turn_33 : decode cX1_turn 33 = .ok (.if_icmp .ge 16, 3) := dk_162 0 16 (dk_at dksX1_turn_1 9 rfl rfl)
theorem dX1_turn_36 : decode cX1_turn 36 = .ok (.aload_n 0, 1) := dk_42 (dk_at dksX1_turn_1 12 rfl rfl)
theorem dX1_turn_37 : decode cX1_turn 37 = .ok (.invokevirtual 312, 3) := dk_182 1 56 (dk_at dksX1_turn_1 13 rfl rfl)
theorem dX1_turn_40 : decode cX1_turn 40 = .ok (.ifCond .eq 9, 3) := dk_153 0 9 (dk_at dksX1_turn_1 16 rfl rfl)
theorem dX1_turn_43 : decode cX1_turn 43 = .ok (.iinc 2 1, 3) := dk_132 2 1 (dk_at dksX1_turn_1 19 rfl rfl)
theorem dX1_turn_46 : decode cX1_turn 46 = .ok (.goto (-15), 3) := dk_167 255 241 (dk_at dksX1_turn_2 0 rfl rfl)
theorem dX1_turn_49 : decode cX1_turn 49 = .ok (.iload_n 2, 1) := dk_28 (dk_at dksX1_turn_2 3 rfl rfl)
theorem dX1_turn_50 : decode cX1_turn 50 = .ok (.ireturn, 1) := dk_172 (dk_at dksX1_turn_2 4 rfl rfl)
abbrev cX1_keeps : ByteArray := prog_1_method_22_code
def yX1_keeps : MethodName := ⟨RX1, "keeps", "()V"⟩
def dkwX1_keeps_4 : List UInt8 := [180, 0, 101, 42, 89, 180, 0, 179, 90, 4, 96, 181, 0, 179, 50, 42, 180, 0, 80, 182, 0, 239, 177]
abbrev dktX1_keeps_4 : List UInt8 := dkwX1_keeps_4 ++ []
def dkwX1_keeps_3 : List UInt8 := [180, 0, 179, 50, 199, 0, 19, 42, 180, 0, 101, 42, 180, 0, 179, 187, 0, 77, 89, 183, 0, 79, 83, 42]
abbrev dktX1_keeps_3 : List UInt8 := dkwX1_keeps_3 ++ dktX1_keeps_4
def dkwX1_keeps_2 : List UInt8 := [180, 0, 101, 16, 15, 43, 83, 42, 89, 180, 0, 179, 4, 100, 181, 0, 179, 42, 180, 0, 101, 42]
abbrev dktX1_keeps_2 : List UInt8 := dkwX1_keeps_2 ++ dktX1_keeps_3
def dkwX1_keeps_1 : List UInt8 := [162, 0, 23, 42, 180, 0, 101, 28, 42, 180, 0, 101, 28, 4, 96, 50, 83, 132, 2, 1, 167, 255, 231, 42]
abbrev dktX1_keeps_1 : List UInt8 := dkwX1_keeps_1 ++ dktX1_keeps_2
def dkwX1_keeps_0 : List UInt8 := [42, 180, 0, 179, 16, 16, 160, 0, 58, 42, 180, 0, 101, 3, 50, 76, 3, 61, 28, 4, 96, 16, 16]
abbrev dktX1_keeps_0 : List UInt8 := dkwX1_keeps_0 ++ dktX1_keeps_1
theorem dksX1_keeps_0 : cX1_keeps.data.toList.drop 0 = dktX1_keeps_0 := by decide +kernel
theorem dksX1_keeps_1 : cX1_keeps.data.toList.drop 23 = dktX1_keeps_1 := dk_seg dksX1_keeps_0 23 rfl rfl
theorem dksX1_keeps_2 : cX1_keeps.data.toList.drop 47 = dktX1_keeps_2 := dk_seg dksX1_keeps_1 24 rfl rfl
theorem dksX1_keeps_3 : cX1_keeps.data.toList.drop 69 = dktX1_keeps_3 := dk_seg dksX1_keeps_2 22 rfl rfl
theorem dksX1_keeps_4 : cX1_keeps.data.toList.drop 93 = dktX1_keeps_4 := dk_seg dksX1_keeps_3 24 rfl rfl
theorem dX1_keeps_0 : decode cX1_keeps 0 = .ok (.aload_n 0, 1) := dk_42 (dk_at dksX1_keeps_0 0 rfl rfl)
theorem dX1_keeps_1 : decode cX1_keeps 1 = .ok (.getfield 179, 3) := dk_180 0 179 (dk_at dksX1_keeps_0 1 rfl rfl)
theorem dX1_keeps_4 : decode cX1_keeps 4 = .ok (.bipush 16, 2) := dk_16 16 (dk_at dksX1_keeps_0 4 rfl rfl)
theorem dX1_keeps_6 : decode cX1_keeps 6 = .ok (.if_icmp .ne 58, 3) := dk_160 0 58 (dk_at dksX1_keeps_0 6 rfl rfl)
theorem dX1_keeps_9 : decode cX1_keeps 9 = .ok (.aload_n 0, 1) := dk_42 (dk_at dksX1_keeps_0 9 rfl rfl)
theorem dX1_keeps_10 : decode cX1_keeps 10 = .ok (.getfield 101, 3) := dk_180 0 101 (dk_at dksX1_keeps_0 10 rfl rfl)
theorem dX1_keeps_13 : decode cX1_keeps 13 = .ok (.iconst 0, 1) := dk_3 (dk_at dksX1_keeps_0 13 rfl rfl)
theorem dX1_keeps_14 : decode cX1_keeps 14 = .ok (.aaload, 1) := dk_50 (dk_at dksX1_keeps_0 14 rfl rfl)
theorem dX1_keeps_15 : decode cX1_keeps 15 = .ok (.astore_n 1, 1) := dk_76 (dk_at dksX1_keeps_0 15 rfl rfl)
theorem dX1_keeps_16 : decode cX1_keeps 16 = .ok (.iconst 0, 1) := dk_3 (dk_at dksX1_keeps_0 16 rfl rfl)
theorem dX1_keeps_17 : decode cX1_keeps 17 = .ok (.istore_n 2, 1) := dk_61 (dk_at dksX1_keeps_0 17 rfl rfl)
theorem dX1_keeps_18 : decode cX1_keeps 18 = .ok (.iload_n 2, 1) := dk_28 (dk_at dksX1_keeps_0 18 rfl rfl)
theorem dX1_keeps_19 : decode cX1_keeps 19 = .ok (.iconst 1, 1) := dk_4 (dk_at dksX1_keeps_0 19 rfl rfl)
theorem dX1_keeps_20 : decode cX1_keeps 20 = .ok (.iadd, 1) := dk_96 (dk_at dksX1_keeps_0 20 rfl rfl)
theorem dX1_keeps_21 : decode cX1_keeps 21 = .ok (.bipush 16, 2) := dk_16 16 (dk_at dksX1_keeps_0 21 rfl rfl)
theorem dX1_keeps_23 : decode cX1_keeps 23 = .ok (.if_icmp .ge 23, 3) := dk_162 0 23 (dk_at dksX1_keeps_1 0 rfl rfl)
theorem dX1_keeps_26 : decode cX1_keeps 26 = .ok (.aload_n 0, 1) := dk_42 (dk_at dksX1_keeps_1 3 rfl rfl)
theorem dX1_keeps_27 : decode cX1_keeps 27 = .ok (.getfield 101, 3) := dk_180 0 101 (dk_at dksX1_keeps_1 4 rfl rfl)
theorem dX1_keeps_30 : decode cX1_keeps 30 = .ok (.iload_n 2, 1) := dk_28 (dk_at dksX1_keeps_1 7 rfl rfl)
theorem dX1_keeps_31 : decode cX1_keeps 31 = .ok (.aload_n 0, 1) := dk_42 (dk_at dksX1_keeps_1 8 rfl rfl)
theorem dX1_keeps_32 : decode cX1_keeps 32 = .ok (.getfield 101, 3) := dk_180 0 101 (dk_at dksX1_keeps_1 9 rfl rfl)
theorem dX1_keeps_35 : decode cX1_keeps 35 = .ok (.iload_n 2, 1) := dk_28 (dk_at dksX1_keeps_1 12 rfl rfl)
theorem dX1_keeps_36 : decode cX1_keeps 36 = .ok (.iconst 1, 1) := dk_4 (dk_at dksX1_keeps_1 13 rfl rfl)
theorem dX1_keeps_37 : decode cX1_keeps 37 = .ok (.iadd, 1) := dk_96 (dk_at dksX1_keeps_1 14 rfl rfl)
theorem dX1_keeps_38 : decode cX1_keeps 38 = .ok (.aaload, 1) := dk_50 (dk_at dksX1_keeps_1 15 rfl rfl)
theorem dX1_keeps_39 : decode cX1_keeps 39 = .ok (.aastore, 1) := dk_83 (dk_at dksX1_keeps_1 16 rfl rfl)
theorem dX1_keeps_40 : decode cX1_keeps 40 = .ok (.iinc 2 1, 3) := dk_132 2 1 (dk_at dksX1_keeps_1 17 rfl rfl)
theorem dX1_keeps_43 : decode cX1_keeps 43 = .ok (.goto (-25), 3) := dk_167 255 231 (dk_at dksX1_keeps_1 20 rfl rfl)
theorem dX1_keeps_46 : decode cX1_keeps 46 = .ok (.aload_n 0, 1) := dk_42 (dk_at dksX1_keeps_1 23 rfl rfl)
theorem dX1_keeps_47 : decode cX1_keeps 47 = .ok (.getfield 101, 3) := dk_180 0 101 (dk_at dksX1_keeps_2 0 rfl rfl)
theorem dX1_keeps_50 : decode cX1_keeps 50 = .ok (.bipush 15, 2) := dk_16 15 (dk_at dksX1_keeps_2 3 rfl rfl)
theorem dX1_keeps_52 : decode cX1_keeps 52 = .ok (.aload_n 1, 1) := dk_43 (dk_at dksX1_keeps_2 5 rfl rfl)
theorem dX1_keeps_53 : decode cX1_keeps 53 = .ok (.aastore, 1) := dk_83 (dk_at dksX1_keeps_2 6 rfl rfl)
theorem dX1_keeps_54 : decode cX1_keeps 54 = .ok (.aload_n 0, 1) := dk_42 (dk_at dksX1_keeps_2 7 rfl rfl)
theorem dX1_keeps_55 : decode cX1_keeps 55 = .ok (.dup, 1) := dk_89 (dk_at dksX1_keeps_2 8 rfl rfl)
theorem dX1_keeps_56 : decode cX1_keeps 56 = .ok (.getfield 179, 3) := dk_180 0 179 (dk_at dksX1_keeps_2 9 rfl rfl)
theorem dX1_keeps_59 : decode cX1_keeps 59 = .ok (.iconst 1, 1) := dk_4 (dk_at dksX1_keeps_2 12 rfl rfl)
theorem dX1_keeps_60 : decode cX1_keeps 60 = .ok (.isub, 1) := dk_100 (dk_at dksX1_keeps_2 13 rfl rfl)
theorem dX1_keeps_61 : decode cX1_keeps 61 = .ok (.putfield 179, 3) := dk_181 0 179 (dk_at dksX1_keeps_2 14 rfl rfl)
theorem dX1_keeps_64 : decode cX1_keeps 64 = .ok (.aload_n 0, 1) := dk_42 (dk_at dksX1_keeps_2 17 rfl rfl)
theorem dX1_keeps_65 : decode cX1_keeps 65 = .ok (.getfield 101, 3) := dk_180 0 101 (dk_at dksX1_keeps_2 18 rfl rfl)
theorem dX1_keeps_68 : decode cX1_keeps 68 = .ok (.aload_n 0, 1) := dk_42 (dk_at dksX1_keeps_2 21 rfl rfl)
theorem dX1_keeps_69 : decode cX1_keeps 69 = .ok (.getfield 179, 3) := dk_180 0 179 (dk_at dksX1_keeps_3 0 rfl rfl)
theorem dX1_keeps_72 : decode cX1_keeps 72 = .ok (.aaload, 1) := dk_50 (dk_at dksX1_keeps_3 3 rfl rfl)
theorem dX1_keeps_73 : decode cX1_keeps 73 = .ok (.ifnonnull 19, 3) := dk_199 0 19 (dk_at dksX1_keeps_3 4 rfl rfl)
theorem dX1_keeps_76 : decode cX1_keeps 76 = .ok (.aload_n 0, 1) := dk_42 (dk_at dksX1_keeps_3 7 rfl rfl)
theorem dX1_keeps_77 : decode cX1_keeps 77 = .ok (.getfield 101, 3) := dk_180 0 101 (dk_at dksX1_keeps_3 8 rfl rfl)
theorem dX1_keeps_80 : decode cX1_keeps 80 = .ok (.aload_n 0, 1) := dk_42 (dk_at dksX1_keeps_3 11 rfl rfl)
theorem dX1_keeps_81 : decode cX1_keeps 81 = .ok (.getfield 179, 3) := dk_180 0 179 (dk_at dksX1_keeps_3 12 rfl rfl)
theorem dX1_keeps_84 : decode cX1_keeps 84 = .ok (.new 77, 3) := dk_187 0 77 (dk_at dksX1_keeps_3 15 rfl rfl)
theorem dX1_keeps_87 : decode cX1_keeps 87 = .ok (.dup, 1) := dk_89 (dk_at dksX1_keeps_3 18 rfl rfl)
theorem dX1_keeps_88 : decode cX1_keeps 88 = .ok (.invokespecial 79, 3) := dk_183 0 79 (dk_at dksX1_keeps_3 19 rfl rfl)
theorem dX1_keeps_91 : decode cX1_keeps 91 = .ok (.aastore, 1) := dk_83 (dk_at dksX1_keeps_3 22 rfl rfl)
theorem dX1_keeps_92 : decode cX1_keeps 92 = .ok (.aload_n 0, 1) := dk_42 (dk_at dksX1_keeps_3 23 rfl rfl)
theorem dX1_keeps_93 : decode cX1_keeps 93 = .ok (.getfield 101, 3) := dk_180 0 101 (dk_at dksX1_keeps_4 0 rfl rfl)
theorem dX1_keeps_96 : decode cX1_keeps 96 = .ok (.aload_n 0, 1) := dk_42 (dk_at dksX1_keeps_4 3 rfl rfl)
theorem dX1_keeps_97 : decode cX1_keeps 97 = .ok (.dup, 1) := dk_89 (dk_at dksX1_keeps_4 4 rfl rfl)
theorem dX1_keeps_98 : decode cX1_keeps 98 = .ok (.getfield 179, 3) := dk_180 0 179 (dk_at dksX1_keeps_4 5 rfl rfl)
theorem dX1_keeps_101 : decode cX1_keeps 101 = .ok (.dup_x1, 1) := dk_90 (dk_at dksX1_keeps_4 8 rfl rfl)
theorem dX1_keeps_102 : decode cX1_keeps 102 = .ok (.iconst 1, 1) := dk_4 (dk_at dksX1_keeps_4 9 rfl rfl)
theorem dX1_keeps_103 : decode cX1_keeps 103 = .ok (.iadd, 1) := dk_96 (dk_at dksX1_keeps_4 10 rfl rfl)
theorem dX1_keeps_104 : decode cX1_keeps 104 = .ok (.putfield 179, 3) := dk_181 0 179 (dk_at dksX1_keeps_4 11 rfl rfl)
theorem dX1_keeps_107 : decode cX1_keeps 107 = .ok (.aaload, 1) := dk_50 (dk_at dksX1_keeps_4 14 rfl rfl)
theorem dX1_keeps_108 : decode cX1_keeps 108 = .ok (.aload_n 0, 1) := dk_42 (dk_at dksX1_keeps_4 15 rfl rfl)
theorem dX1_keeps_109 : decode cX1_keeps 109 = .ok (.getfield 80, 3) := dk_180 0 80 (dk_at dksX1_keeps_4 16 rfl rfl)
theorem dX1_keeps_112 : decode cX1_keeps 112 = .ok (.invokevirtual 239, 3) := dk_182 0 239 (dk_at dksX1_keeps_4 19 rfl rfl)
theorem dX1_keeps_115 : decode cX1_keeps 115 = .ok (.return_, 1) := dk_177 (dk_at dksX1_keeps_4 22 rfl rfl)
abbrev cX1_copies : ByteArray := prog_1_method_4_code
def yX1_copies : MethodName := ⟨RX1, "copies", "([I[I)V"⟩
def dkwX1_copies_0 : List UInt8 := [3, 61, 28, 43, 190, 162, 0, 15, 43, 28, 42, 28, 46, 79, 132, 2, 1, 167, 255, 241, 177]
abbrev dktX1_copies_0 : List UInt8 := dkwX1_copies_0 ++ []
theorem dksX1_copies_0 : cX1_copies.data.toList.drop 0 = dktX1_copies_0 := by decide +kernel
theorem dX1_copies_0 : decode cX1_copies 0 = .ok (.iconst 0, 1) := dk_3 (dk_at dksX1_copies_0 0 rfl rfl)
theorem dX1_copies_1 : decode cX1_copies 1 = .ok (.istore_n 2, 1) := dk_61 (dk_at dksX1_copies_0 1 rfl rfl)
theorem dX1_copies_2 : decode cX1_copies 2 = .ok (.iload_n 2, 1) := dk_28 (dk_at dksX1_copies_0 2 rfl rfl)
theorem dX1_copies_3 : decode cX1_copies 3 = .ok (.aload_n 1, 1) := dk_43 (dk_at dksX1_copies_0 3 rfl rfl)
theorem dX1_copies_4 : decode cX1_copies 4 = .ok (.arraylength, 1) := dk_190 (dk_at dksX1_copies_0 4 rfl rfl)
theorem dX1_copies_5 : decode cX1_copies 5 = .ok (.if_icmp .ge 15, 3) := dk_162 0 15 (dk_at dksX1_copies_0 5 rfl rfl)
theorem dX1_copies_8 : decode cX1_copies 8 = .ok (.aload_n 1, 1) := dk_43 (dk_at dksX1_copies_0 8 rfl rfl)
theorem dX1_copies_9 : decode cX1_copies 9 = .ok (.iload_n 2, 1) := dk_28 (dk_at dksX1_copies_0 9 rfl rfl)
theorem dX1_copies_10 : decode cX1_copies 10 = .ok (.aload_n 0, 1) := dk_42 (dk_at dksX1_copies_0 10 rfl rfl)
theorem dX1_copies_11 : decode cX1_copies 11 = .ok (.iload_n 2, 1) := dk_28 (dk_at dksX1_copies_0 11 rfl rfl)
theorem dX1_copies_12 : decode cX1_copies 12 = .ok (.iaload, 1) := dk_46 (dk_at dksX1_copies_0 12 rfl rfl)
theorem dX1_copies_13 : decode cX1_copies 13 = .ok (.iastore, 1) := dk_79 (dk_at dksX1_copies_0 13 rfl rfl)
theorem dX1_copies_14 : decode cX1_copies 14 = .ok (.iinc 2 1, 3) := dk_132 2 1 (dk_at dksX1_copies_0 14 rfl rfl)
theorem dX1_copies_17 : decode cX1_copies 17 = .ok (.goto (-15), 3) := dk_167 255 241 (dk_at dksX1_copies_0 17 rfl rfl)
theorem dX1_copies_20 : decode cX1_copies 20 = .ok (.return_, 1) := dk_177 (dk_at dksX1_copies_0 20 rfl rfl)
abbrev cX1_turns : ByteArray := prog_1_method_25_code
def yX1_turns : MethodName := ⟨RX1, "turns", "()Z"⟩
def dkwX1_turns_2 : List UInt8 := [3, 172]
abbrev dktX1_turns_2 : List UInt8 := dkwX1_turns_2 ++ []
def dkwX1_turns_1 : List UInt8 := [153, 0, 7, 42, 182, 1, 47, 42, 180, 0, 80, 180, 1, 40, 27, 164, 0, 5, 4, 172, 42, 182, 1, 50]
abbrev dktX1_turns_1 : List UInt8 := dkwX1_turns_1 ++ dktX1_turns_2
def dkwX1_turns_0 : List UInt8 := [42, 180, 0, 80, 180, 1, 40, 60, 42, 180, 0, 80, 42, 180, 0, 64, 180, 0, 198, 182, 1, 43]
abbrev dktX1_turns_0 : List UInt8 := dkwX1_turns_0 ++ dktX1_turns_1
theorem dksX1_turns_0 : cX1_turns.data.toList.drop 0 = dktX1_turns_0 := by decide +kernel
theorem dksX1_turns_1 : cX1_turns.data.toList.drop 22 = dktX1_turns_1 := dk_seg dksX1_turns_0 22 rfl rfl
theorem dksX1_turns_2 : cX1_turns.data.toList.drop 46 = dktX1_turns_2 := dk_seg dksX1_turns_1 24 rfl rfl
theorem dX1_turns_0 : decode cX1_turns 0 = .ok (.aload_n 0, 1) := dk_42 (dk_at dksX1_turns_0 0 rfl rfl)
theorem dX1_turns_1 : decode cX1_turns 1 = .ok (.getfield 80, 3) := dk_180 0 80 (dk_at dksX1_turns_0 1 rfl rfl)
theorem dX1_turns_4 : decode cX1_turns 4 = .ok (.getfield 296, 3) := dk_180 1 40 (dk_at dksX1_turns_0 4 rfl rfl)
theorem dX1_turns_7 : decode cX1_turns 7 = .ok (.istore_n 1, 1) := dk_60 (dk_at dksX1_turns_0 7 rfl rfl)
theorem dX1_turns_8 : decode cX1_turns 8 = .ok (.aload_n 0, 1) := dk_42 (dk_at dksX1_turns_0 8 rfl rfl)
theorem dX1_turns_9 : decode cX1_turns 9 = .ok (.getfield 80, 3) := dk_180 0 80 (dk_at dksX1_turns_0 9 rfl rfl)
theorem dX1_turns_12 : decode cX1_turns 12 = .ok (.aload_n 0, 1) := dk_42 (dk_at dksX1_turns_0 12 rfl rfl)
theorem dX1_turns_13 : decode cX1_turns 13 = .ok (.getfield 64, 3) := dk_180 0 64 (dk_at dksX1_turns_0 13 rfl rfl)
theorem dX1_turns_16 : decode cX1_turns 16 = .ok (.getfield 198, 3) := dk_180 0 198 (dk_at dksX1_turns_0 16 rfl rfl)
theorem dX1_turns_19 : decode cX1_turns 19 = .ok (.invokevirtual 299, 3) := dk_182 1 43 (dk_at dksX1_turns_0 19 rfl rfl)
theorem dX1_turns_22 : decode cX1_turns 22 = .ok (.ifCond .eq 7, 3) := dk_153 0 7 (dk_at dksX1_turns_1 0 rfl rfl)
theorem dX1_turns_25 : decode cX1_turns 25 = .ok (.aload_n 0, 1) := dk_42 (dk_at dksX1_turns_1 3 rfl rfl)
theorem dX1_turns_26 : decode cX1_turns 26 = .ok (.invokevirtual 303, 3) := dk_182 1 47 (dk_at dksX1_turns_1 4 rfl rfl)
theorem dX1_turns_29 : decode cX1_turns 29 = .ok (.aload_n 0, 1) := dk_42 (dk_at dksX1_turns_1 7 rfl rfl)
theorem dX1_turns_30 : decode cX1_turns 30 = .ok (.getfield 80, 3) := dk_180 0 80 (dk_at dksX1_turns_1 8 rfl rfl)
theorem dX1_turns_33 : decode cX1_turns 33 = .ok (.getfield 296, 3) := dk_180 1 40 (dk_at dksX1_turns_1 11 rfl rfl)
theorem dX1_turns_36 : decode cX1_turns 36 = .ok (.iload_n 1, 1) := dk_27 (dk_at dksX1_turns_1 14 rfl rfl)
theorem dX1_turns_37 : decode cX1_turns 37 = .ok (.if_icmp .le 5, 3) := dk_164 0 5 (dk_at dksX1_turns_1 15 rfl rfl)
theorem dX1_turns_40 : decode cX1_turns 40 = .ok (.iconst 1, 1) := dk_4 (dk_at dksX1_turns_1 18 rfl rfl)
theorem dX1_turns_41 : decode cX1_turns 41 = .ok (.ireturn, 1) := dk_172 (dk_at dksX1_turns_1 19 rfl rfl)
theorem dX1_turns_42 : decode cX1_turns 42 = .ok (.aload_n 0, 1) := dk_42 (dk_at dksX1_turns_1 20 rfl rfl)
theorem dX1_turns_43 : decode cX1_turns 43 = .ok (.invokevirtual 306, 3) := dk_182 1 50 (dk_at dksX1_turns_1 21 rfl rfl)
theorem dX1_turns_46 : decode cX1_turns 46 = .ok (.iconst 0, 1) := dk_3 (dk_at dksX1_turns_2 0 rfl rfl)
theorem dX1_turns_47 : decode cX1_turns 47 = .ok (.ireturn, 1) := dk_172 (dk_at dksX1_turns_2 1 rfl rfl)
abbrev cX1_taking : ByteArray := prog_1_method_23_code
def yX1_taking : MethodName := ⟨RX1, "taking", "()V"⟩
def dkwX1_taking_8 : List UInt8 := [180, 0, 64, 182, 1, 13, 50, 182, 1, 16, 177]
abbrev dktX1_taking_8 : List UInt8 := dkwX1_taking_8 ++ []
def dkwX1_taking_7 : List UInt8 := [180, 0, 80, 180, 1, 10, 153, 0, 12, 42, 180, 0, 48, 4, 50, 167, 0, 15, 42, 180, 0, 48, 42]
abbrev dktX1_taking_7 : List UInt8 := dkwX1_taking_7 ++ dktX1_taking_8
def dkwX1_taking_6 : List UInt8 := [180, 1, 2, 183, 1, 3, 182, 1, 6, 87, 42, 180, 0, 80, 42, 180, 0, 64, 180, 0, 198, 42]
abbrev dktX1_taking_6 : List UInt8 := dkwX1_taking_6 ++ dktX1_taking_7
def dkwX1_taking_5 : List UInt8 := [187, 0, 226, 89, 42, 180, 0, 80, 180, 0, 255, 42, 180, 0, 80, 180, 0, 204, 27, 42, 180, 0, 80]
abbrev dktX1_taking_5 : List UInt8 := dkwX1_taking_5 ++ dktX1_taking_6
def dkwX1_taking_4 : List UInt8 := [16, 40, 160, 0, 15, 42, 180, 0, 80, 180, 0, 219, 3, 182, 0, 252, 87, 42, 180, 0, 80, 180, 0, 219]
abbrev dktX1_taking_4 : List UInt8 := dkwX1_taking_4 ++ dktX1_taking_5
def dkwX1_taking_3 : List UInt8 := [180, 0, 204, 181, 0, 246, 42, 180, 0, 80, 3, 181, 0, 249, 42, 180, 0, 80, 180, 0, 219, 182, 0, 185]
abbrev dktX1_taking_3 : List UInt8 := dkwX1_taking_3 ++ dktX1_taking_4
def dkwX1_taking_2 : List UInt8 := [46, 46, 158, 0, 6, 132, 1, 1, 132, 2, 1, 167, 255, 201, 42, 180, 0, 80, 42, 180, 0, 80]
abbrev dktX1_taking_2 : List UInt8 := dkwX1_taking_2 ++ dktX1_taking_3
def dkwX1_taking_1 : List UInt8 := [180, 0, 80, 180, 0, 207, 28, 46, 79, 42, 180, 0, 64, 180, 0, 198, 42, 180, 0, 80, 180, 0, 207, 28]
abbrev dktX1_taking_1 : List UInt8 := dkwX1_taking_1 ++ dktX1_taking_2
def dkwX1_taking_0 : List UInt8 := [3, 60, 3, 61, 28, 42, 180, 0, 80, 180, 0, 204, 162, 0, 50, 42, 180, 0, 80, 180, 0, 243, 28, 42]
abbrev dktX1_taking_0 : List UInt8 := dkwX1_taking_0 ++ dktX1_taking_1
theorem dksX1_taking_0 : cX1_taking.data.toList.drop 0 = dktX1_taking_0 := by decide +kernel
theorem dksX1_taking_1 : cX1_taking.data.toList.drop 24 = dktX1_taking_1 := dk_seg dksX1_taking_0 24 rfl rfl
theorem dksX1_taking_2 : cX1_taking.data.toList.drop 48 = dktX1_taking_2 := dk_seg dksX1_taking_1 24 rfl rfl
theorem dksX1_taking_3 : cX1_taking.data.toList.drop 70 = dktX1_taking_3 := dk_seg dksX1_taking_2 22 rfl rfl
theorem dksX1_taking_4 : cX1_taking.data.toList.drop 94 = dktX1_taking_4 := dk_seg dksX1_taking_3 24 rfl rfl
theorem dksX1_taking_5 : cX1_taking.data.toList.drop 118 = dktX1_taking_5 := dk_seg dksX1_taking_4 24 rfl rfl
theorem dksX1_taking_6 : cX1_taking.data.toList.drop 141 = dktX1_taking_6 := dk_seg dksX1_taking_5 23 rfl rfl
theorem dksX1_taking_7 : cX1_taking.data.toList.drop 163 = dktX1_taking_7 := dk_seg dksX1_taking_6 22 rfl rfl
theorem dksX1_taking_8 : cX1_taking.data.toList.drop 186 = dktX1_taking_8 := dk_seg dksX1_taking_7 23 rfl rfl
theorem dX1_taking_0 : decode cX1_taking 0 = .ok (.iconst 0, 1) := dk_3 (dk_at dksX1_taking_0 0 rfl rfl)
theorem dX1_taking_1 : decode cX1_taking 1 = .ok (.istore_n 1, 1) := dk_60 (dk_at dksX1_taking_0 1 rfl rfl)
theorem dX1_taking_2 : decode cX1_taking 2 = .ok (.iconst 0, 1) := dk_3 (dk_at dksX1_taking_0 2 rfl rfl)
theorem dX1_taking_3 : decode cX1_taking 3 = .ok (.istore_n 2, 1) := dk_61 (dk_at dksX1_taking_0 3 rfl rfl)
theorem dX1_taking_4 : decode cX1_taking 4 = .ok (.iload_n 2, 1) := dk_28 (dk_at dksX1_taking_0 4 rfl rfl)
theorem dX1_taking_5 : decode cX1_taking 5 = .ok (.aload_n 0, 1) := dk_42 (dk_at dksX1_taking_0 5 rfl rfl)
theorem dX1_taking_6 : decode cX1_taking 6 = .ok (.getfield 80, 3) := dk_180 0 80 (dk_at dksX1_taking_0 6 rfl rfl)
theorem dX1_taking_9 : decode cX1_taking 9 = .ok (.getfield 204, 3) := dk_180 0 204 (dk_at dksX1_taking_0 9 rfl rfl)
theorem dX1_taking_12 : decode cX1_taking 12 = .ok (.if_icmp .ge 50, 3) := dk_162 0 50 (dk_at dksX1_taking_0 12 rfl rfl)
theorem dX1_taking_15 : decode cX1_taking 15 = .ok (.aload_n 0, 1) := dk_42 (dk_at dksX1_taking_0 15 rfl rfl)
theorem dX1_taking_16 : decode cX1_taking 16 = .ok (.getfield 80, 3) := dk_180 0 80 (dk_at dksX1_taking_0 16 rfl rfl)
theorem dX1_taking_19 : decode cX1_taking 19 = .ok (.getfield 243, 3) := dk_180 0 243 (dk_at dksX1_taking_0 19 rfl rfl)
theorem dX1_taking_22 : decode cX1_taking 22 = .ok (.iload_n 2, 1) := dk_28 (dk_at dksX1_taking_0 22 rfl rfl)
theorem dX1_taking_23 : decode cX1_taking 23 = .ok (.aload_n 0, 1) := dk_42 (dk_at dksX1_taking_0 23 rfl rfl)
theorem dX1_taking_24 : decode cX1_taking 24 = .ok (.getfield 80, 3) := dk_180 0 80 (dk_at dksX1_taking_1 0 rfl rfl)
theorem dX1_taking_27 : decode cX1_taking 27 = .ok (.getfield 207, 3) := dk_180 0 207 (dk_at dksX1_taking_1 3 rfl rfl)
theorem dX1_taking_30 : decode cX1_taking 30 = .ok (.iload_n 2, 1) := dk_28 (dk_at dksX1_taking_1 6 rfl rfl)
theorem dX1_taking_31 : decode cX1_taking 31 = .ok (.iaload, 1) := dk_46 (dk_at dksX1_taking_1 7 rfl rfl)
theorem dX1_taking_32 : decode cX1_taking 32 = .ok (.iastore, 1) := dk_79 (dk_at dksX1_taking_1 8 rfl rfl)
theorem dX1_taking_33 : decode cX1_taking 33 = .ok (.aload_n 0, 1) := dk_42 (dk_at dksX1_taking_1 9 rfl rfl)
theorem dX1_taking_34 : decode cX1_taking 34 = .ok (.getfield 64, 3) := dk_180 0 64 (dk_at dksX1_taking_1 10 rfl rfl)
theorem dX1_taking_37 : decode cX1_taking 37 = .ok (.getfield 198, 3) := dk_180 0 198 (dk_at dksX1_taking_1 13 rfl rfl)
theorem dX1_taking_40 : decode cX1_taking 40 = .ok (.aload_n 0, 1) := dk_42 (dk_at dksX1_taking_1 16 rfl rfl)
theorem dX1_taking_41 : decode cX1_taking 41 = .ok (.getfield 80, 3) := dk_180 0 80 (dk_at dksX1_taking_1 17 rfl rfl)
theorem dX1_taking_44 : decode cX1_taking 44 = .ok (.getfield 207, 3) := dk_180 0 207 (dk_at dksX1_taking_1 20 rfl rfl)
theorem dX1_taking_47 : decode cX1_taking 47 = .ok (.iload_n 2, 1) := dk_28 (dk_at dksX1_taking_1 23 rfl rfl)
theorem dX1_taking_48 : decode cX1_taking 48 = .ok (.iaload, 1) := dk_46 (dk_at dksX1_taking_2 0 rfl rfl)
theorem dX1_taking_49 : decode cX1_taking 49 = .ok (.iaload, 1) := dk_46 (dk_at dksX1_taking_2 1 rfl rfl)
theorem dX1_taking_50 : decode cX1_taking 50 = .ok (.ifCond .le 6, 3) := dk_158 0 6 (dk_at dksX1_taking_2 2 rfl rfl)
theorem dX1_taking_53 : decode cX1_taking 53 = .ok (.iinc 1 1, 3) := dk_132 1 1 (dk_at dksX1_taking_2 5 rfl rfl)
theorem dX1_taking_56 : decode cX1_taking 56 = .ok (.iinc 2 1, 3) := dk_132 2 1 (dk_at dksX1_taking_2 8 rfl rfl)
theorem dX1_taking_59 : decode cX1_taking 59 = .ok (.goto (-55), 3) := dk_167 255 201 (dk_at dksX1_taking_2 11 rfl rfl)
theorem dX1_taking_62 : decode cX1_taking 62 = .ok (.aload_n 0, 1) := dk_42 (dk_at dksX1_taking_2 14 rfl rfl)
theorem dX1_taking_63 : decode cX1_taking 63 = .ok (.getfield 80, 3) := dk_180 0 80 (dk_at dksX1_taking_2 15 rfl rfl)
theorem dX1_taking_66 : decode cX1_taking 66 = .ok (.aload_n 0, 1) := dk_42 (dk_at dksX1_taking_2 18 rfl rfl)
theorem dX1_taking_67 : decode cX1_taking 67 = .ok (.getfield 80, 3) := dk_180 0 80 (dk_at dksX1_taking_2 19 rfl rfl)
theorem dX1_taking_70 : decode cX1_taking 70 = .ok (.getfield 204, 3) := dk_180 0 204 (dk_at dksX1_taking_3 0 rfl rfl)
theorem dX1_taking_73 : decode cX1_taking 73 = .ok (.putfield 246, 3) := dk_181 0 246 (dk_at dksX1_taking_3 3 rfl rfl)
theorem dX1_taking_76 : decode cX1_taking 76 = .ok (.aload_n 0, 1) := dk_42 (dk_at dksX1_taking_3 6 rfl rfl)
theorem dX1_taking_77 : decode cX1_taking 77 = .ok (.getfield 80, 3) := dk_180 0 80 (dk_at dksX1_taking_3 7 rfl rfl)
theorem dX1_taking_80 : decode cX1_taking 80 = .ok (.iconst 0, 1) := dk_3 (dk_at dksX1_taking_3 10 rfl rfl)
theorem dX1_taking_81 : decode cX1_taking 81 = .ok (.putfield 249, 3) := dk_181 0 249 (dk_at dksX1_taking_3 11 rfl rfl)
theorem dX1_taking_84 : decode cX1_taking 84 = .ok (.aload_n 0, 1) := dk_42 (dk_at dksX1_taking_3 14 rfl rfl)
theorem dX1_taking_85 : decode cX1_taking 85 = .ok (.getfield 80, 3) := dk_180 0 80 (dk_at dksX1_taking_3 15 rfl rfl)
theorem dX1_taking_88 : decode cX1_taking 88 = .ok (.getfield 219, 3) := dk_180 0 219 (dk_at dksX1_taking_3 18 rfl rfl)
theorem dX1_taking_91 : decode cX1_taking 91 = .ok (.invokevirtual 185, 3) := dk_182 0 185 (dk_at dksX1_taking_3 21 rfl rfl)
theorem dX1_taking_94 : decode cX1_taking 94 = .ok (.bipush 40, 2) := dk_16 40 (dk_at dksX1_taking_4 0 rfl rfl)
theorem dX1_taking_96 : decode cX1_taking 96 = .ok (.if_icmp .ne 15, 3) := dk_160 0 15 (dk_at dksX1_taking_4 2 rfl rfl)
theorem dX1_taking_99 : decode cX1_taking 99 = .ok (.aload_n 0, 1) := dk_42 (dk_at dksX1_taking_4 5 rfl rfl)
theorem dX1_taking_100 : decode cX1_taking 100 = .ok (.getfield 80, 3) := dk_180 0 80 (dk_at dksX1_taking_4 6 rfl rfl)
theorem dX1_taking_103 : decode cX1_taking 103 = .ok (.getfield 219, 3) := dk_180 0 219 (dk_at dksX1_taking_4 9 rfl rfl)
theorem dX1_taking_106 : decode cX1_taking 106 = .ok (.iconst 0, 1) := dk_3 (dk_at dksX1_taking_4 12 rfl rfl)
theorem dX1_taking_107 : decode cX1_taking 107 = .ok (.invokevirtual 252, 3) := dk_182 0 252 (dk_at dksX1_taking_4 13 rfl rfl)
theorem dX1_taking_110 : decode cX1_taking 110 = .ok (.pop, 1) := dk_87 (dk_at dksX1_taking_4 16 rfl rfl)
theorem dX1_taking_111 : decode cX1_taking 111 = .ok (.aload_n 0, 1) := dk_42 (dk_at dksX1_taking_4 17 rfl rfl)
theorem dX1_taking_112 : decode cX1_taking 112 = .ok (.getfield 80, 3) := dk_180 0 80 (dk_at dksX1_taking_4 18 rfl rfl)
theorem dX1_taking_115 : decode cX1_taking 115 = .ok (.getfield 219, 3) := dk_180 0 219 (dk_at dksX1_taking_4 21 rfl rfl)
theorem dX1_taking_118 : decode cX1_taking 118 = .ok (.new 226, 3) := dk_187 0 226 (dk_at dksX1_taking_5 0 rfl rfl)
theorem dX1_taking_121 : decode cX1_taking 121 = .ok (.dup, 1) := dk_89 (dk_at dksX1_taking_5 3 rfl rfl)
theorem dX1_taking_122 : decode cX1_taking 122 = .ok (.aload_n 0, 1) := dk_42 (dk_at dksX1_taking_5 4 rfl rfl)
theorem dX1_taking_123 : decode cX1_taking 123 = .ok (.getfield 80, 3) := dk_180 0 80 (dk_at dksX1_taking_5 5 rfl rfl)
theorem dX1_taking_126 : decode cX1_taking 126 = .ok (.getfield 255, 3) := dk_180 0 255 (dk_at dksX1_taking_5 8 rfl rfl)
theorem dX1_taking_129 : decode cX1_taking 129 = .ok (.aload_n 0, 1) := dk_42 (dk_at dksX1_taking_5 11 rfl rfl)
theorem dX1_taking_130 : decode cX1_taking 130 = .ok (.getfield 80, 3) := dk_180 0 80 (dk_at dksX1_taking_5 12 rfl rfl)
theorem dX1_taking_133 : decode cX1_taking 133 = .ok (.getfield 204, 3) := dk_180 0 204 (dk_at dksX1_taking_5 15 rfl rfl)
theorem dX1_taking_136 : decode cX1_taking 136 = .ok (.iload_n 1, 1) := dk_27 (dk_at dksX1_taking_5 18 rfl rfl)
theorem dX1_taking_137 : decode cX1_taking 137 = .ok (.aload_n 0, 1) := dk_42 (dk_at dksX1_taking_5 19 rfl rfl)
theorem dX1_taking_138 : decode cX1_taking 138 = .ok (.getfield 80, 3) := dk_180 0 80 (dk_at dksX1_taking_5 20 rfl rfl)
theorem dX1_taking_141 : decode cX1_taking 141 = .ok (.getfield 258, 3) := dk_180 1 2 (dk_at dksX1_taking_6 0 rfl rfl)
theorem dX1_taking_144 : decode cX1_taking 144 = .ok (.invokespecial 259, 3) := dk_183 1 3 (dk_at dksX1_taking_6 3 rfl rfl)
theorem dX1_taking_147 : decode cX1_taking 147 = .ok (.invokevirtual 262, 3) := dk_182 1 6 (dk_at dksX1_taking_6 6 rfl rfl)
theorem dX1_taking_150 : decode cX1_taking 150 = .ok (.pop, 1) := dk_87 (dk_at dksX1_taking_6 9 rfl rfl)
theorem dX1_taking_151 : decode cX1_taking 151 = .ok (.aload_n 0, 1) := dk_42 (dk_at dksX1_taking_6 10 rfl rfl)
theorem dX1_taking_152 : decode cX1_taking 152 = .ok (.getfield 80, 3) := dk_180 0 80 (dk_at dksX1_taking_6 11 rfl rfl)
theorem dX1_taking_155 : decode cX1_taking 155 = .ok (.aload_n 0, 1) := dk_42 (dk_at dksX1_taking_6 14 rfl rfl)
theorem dX1_taking_156 : decode cX1_taking 156 = .ok (.getfield 64, 3) := dk_180 0 64 (dk_at dksX1_taking_6 15 rfl rfl)
theorem dX1_taking_159 : decode cX1_taking 159 = .ok (.getfield 198, 3) := dk_180 0 198 (dk_at dksX1_taking_6 18 rfl rfl)
theorem dX1_taking_162 : decode cX1_taking 162 = .ok (.aload_n 0, 1) := dk_42 (dk_at dksX1_taking_6 21 rfl rfl)
theorem dX1_taking_163 : decode cX1_taking 163 = .ok (.getfield 80, 3) := dk_180 0 80 (dk_at dksX1_taking_7 0 rfl rfl)
theorem dX1_taking_166 : decode cX1_taking 166 = .ok (.getfield 266, 3) := dk_180 1 10 (dk_at dksX1_taking_7 3 rfl rfl)
theorem dX1_taking_169 : decode cX1_taking 169 = .ok (.ifCond .eq 12, 3) := dk_153 0 12 (dk_at dksX1_taking_7 6 rfl rfl)
theorem dX1_taking_172 : decode cX1_taking 172 = .ok (.aload_n 0, 1) := dk_42 (dk_at dksX1_taking_7 9 rfl rfl)
theorem dX1_taking_173 : decode cX1_taking 173 = .ok (.getfield 48, 3) := dk_180 0 48 (dk_at dksX1_taking_7 10 rfl rfl)
theorem dX1_taking_176 : decode cX1_taking 176 = .ok (.iconst 1, 1) := dk_4 (dk_at dksX1_taking_7 13 rfl rfl)
theorem dX1_taking_177 : decode cX1_taking 177 = .ok (.aaload, 1) := dk_50 (dk_at dksX1_taking_7 14 rfl rfl)
theorem dX1_taking_178 : decode cX1_taking 178 = .ok (.goto 15, 3) := dk_167 0 15 (dk_at dksX1_taking_7 15 rfl rfl)
theorem dX1_taking_181 : decode cX1_taking 181 = .ok (.aload_n 0, 1) := dk_42 (dk_at dksX1_taking_7 18 rfl rfl)
theorem dX1_taking_182 : decode cX1_taking 182 = .ok (.getfield 48, 3) := dk_180 0 48 (dk_at dksX1_taking_7 19 rfl rfl)
theorem dX1_taking_185 : decode cX1_taking 185 = .ok (.aload_n 0, 1) := dk_42 (dk_at dksX1_taking_7 22 rfl rfl)
theorem dX1_taking_186 : decode cX1_taking 186 = .ok (.getfield 64, 3) := dk_180 0 64 (dk_at dksX1_taking_8 0 rfl rfl)
theorem dX1_taking_189 : decode cX1_taking 189 = .ok (.invokevirtual 269, 3) := dk_182 1 13 (dk_at dksX1_taking_8 3 rfl rfl)
theorem dX1_taking_192 : decode cX1_taking 192 = .ok (.aaload, 1) := dk_50 (dk_at dksX1_taking_8 6 rfl rfl)
theorem dX1_taking_193 : decode cX1_taking 193 = .ok (.invokevirtual 272, 3) := dk_182 1 16 (dk_at dksX1_taking_8 7 rfl rfl)
theorem dX1_taking_196 : decode cX1_taking 196 = .ok (.return_, 1) := dk_177 (dk_at dksX1_taking_8 10 rfl rfl)
abbrev cX1_settles : ByteArray := prog_1_method_24_code
def yX1_settles : MethodName := ⟨RX1, "settles", "()V"⟩
def dkwX1_settles_3 : List UInt8 := [96, 181, 1, 31, 132, 1, 1, 167, 255, 181, 177]
abbrev dktX1_settles_3 : List UInt8 := dkwX1_settles_3 ++ []
def dkwX1_settles_2 : List UInt8 := [180, 0, 80, 89, 180, 1, 31, 44, 180, 1, 34, 44, 180, 1, 34, 44, 180, 1, 37, 104, 16, 10, 108, 96]
abbrev dktX1_settles_2 : List UInt8 := dkwX1_settles_2 ++ dktX1_settles_3
def dkwX1_settles_1 : List UInt8 := [182, 0, 222, 192, 1, 23, 77, 44, 180, 1, 25, 42, 180, 0, 80, 180, 1, 28, 160, 0, 32, 42]
abbrev dktX1_settles_1 : List UInt8 := dkwX1_settles_1 ++ dktX1_settles_2
def dkwX1_settles_0 : List UInt8 := [3, 60, 27, 42, 180, 0, 80, 180, 1, 20, 182, 0, 185, 162, 0, 67, 42, 180, 0, 80, 180, 1, 20, 27]
abbrev dktX1_settles_0 : List UInt8 := dkwX1_settles_0 ++ dktX1_settles_1
theorem dksX1_settles_0 : cX1_settles.data.toList.drop 0 = dktX1_settles_0 := by decide +kernel
theorem dksX1_settles_1 : cX1_settles.data.toList.drop 24 = dktX1_settles_1 := dk_seg dksX1_settles_0 24 rfl rfl
theorem dksX1_settles_2 : cX1_settles.data.toList.drop 46 = dktX1_settles_2 := dk_seg dksX1_settles_1 22 rfl rfl
theorem dksX1_settles_3 : cX1_settles.data.toList.drop 70 = dktX1_settles_3 := dk_seg dksX1_settles_2 24 rfl rfl
theorem dX1_settles_0 : decode cX1_settles 0 = .ok (.iconst 0, 1) := dk_3 (dk_at dksX1_settles_0 0 rfl rfl)
theorem dX1_settles_1 : decode cX1_settles 1 = .ok (.istore_n 1, 1) := dk_60 (dk_at dksX1_settles_0 1 rfl rfl)
theorem dX1_settles_2 : decode cX1_settles 2 = .ok (.iload_n 1, 1) := dk_27 (dk_at dksX1_settles_0 2 rfl rfl)
theorem dX1_settles_3 : decode cX1_settles 3 = .ok (.aload_n 0, 1) := dk_42 (dk_at dksX1_settles_0 3 rfl rfl)
theorem dX1_settles_4 : decode cX1_settles 4 = .ok (.getfield 80, 3) := dk_180 0 80 (dk_at dksX1_settles_0 4 rfl rfl)
theorem dX1_settles_7 : decode cX1_settles 7 = .ok (.getfield 276, 3) := dk_180 1 20 (dk_at dksX1_settles_0 7 rfl rfl)
theorem dX1_settles_10 : decode cX1_settles 10 = .ok (.invokevirtual 185, 3) := dk_182 0 185 (dk_at dksX1_settles_0 10 rfl rfl)
theorem dX1_settles_13 : decode cX1_settles 13 = .ok (.if_icmp .ge 67, 3) := dk_162 0 67 (dk_at dksX1_settles_0 13 rfl rfl)
theorem dX1_settles_16 : decode cX1_settles 16 = .ok (.aload_n 0, 1) := dk_42 (dk_at dksX1_settles_0 16 rfl rfl)
theorem dX1_settles_17 : decode cX1_settles 17 = .ok (.getfield 80, 3) := dk_180 0 80 (dk_at dksX1_settles_0 17 rfl rfl)
theorem dX1_settles_20 : decode cX1_settles 20 = .ok (.getfield 276, 3) := dk_180 1 20 (dk_at dksX1_settles_0 20 rfl rfl)
theorem dX1_settles_23 : decode cX1_settles 23 = .ok (.iload_n 1, 1) := dk_27 (dk_at dksX1_settles_0 23 rfl rfl)
theorem dX1_settles_24 : decode cX1_settles 24 = .ok (.invokevirtual 222, 3) := dk_182 0 222 (dk_at dksX1_settles_1 0 rfl rfl)
theorem dX1_settles_27 : decode cX1_settles 27 = .ok (.checkcast 279, 3) := dk_192 1 23 (dk_at dksX1_settles_1 3 rfl rfl)
theorem dX1_settles_30 : decode cX1_settles 30 = .ok (.astore_n 2, 1) := dk_77 (dk_at dksX1_settles_1 6 rfl rfl)
theorem dX1_settles_31 : decode cX1_settles 31 = .ok (.aload_n 2, 1) := dk_44 (dk_at dksX1_settles_1 7 rfl rfl)
theorem dX1_settles_32 : decode cX1_settles 32 = .ok (.getfield 281, 3) := dk_180 1 25 (dk_at dksX1_settles_1 8 rfl rfl)
theorem dX1_settles_35 : decode cX1_settles 35 = .ok (.aload_n 0, 1) := dk_42 (dk_at dksX1_settles_1 11 rfl rfl)
theorem dX1_settles_36 : decode cX1_settles 36 = .ok (.getfield 80, 3) := dk_180 0 80 (dk_at dksX1_settles_1 12 rfl rfl)
theorem dX1_settles_39 : decode cX1_settles 39 = .ok (.getfield 284, 3) := dk_180 1 28 (dk_at dksX1_settles_1 15 rfl rfl)
theorem dX1_settles_42 : decode cX1_settles 42 = .ok (.if_icmp .ne 32, 3) := dk_160 0 32 (dk_at dksX1_settles_1 18 rfl rfl)
theorem dX1_settles_45 : decode cX1_settles 45 = .ok (.aload_n 0, 1) := dk_42 (dk_at dksX1_settles_1 21 rfl rfl)
theorem dX1_settles_46 : decode cX1_settles 46 = .ok (.getfield 80, 3) := dk_180 0 80 (dk_at dksX1_settles_2 0 rfl rfl)
theorem dX1_settles_49 : decode cX1_settles 49 = .ok (.dup, 1) := dk_89 (dk_at dksX1_settles_2 3 rfl rfl)
theorem dX1_settles_50 : decode cX1_settles 50 = .ok (.getfield 287, 3) := dk_180 1 31 (dk_at dksX1_settles_2 4 rfl rfl)
theorem dX1_settles_53 : decode cX1_settles 53 = .ok (.aload_n 2, 1) := dk_44 (dk_at dksX1_settles_2 7 rfl rfl)
theorem dX1_settles_54 : decode cX1_settles 54 = .ok (.getfield 290, 3) := dk_180 1 34 (dk_at dksX1_settles_2 8 rfl rfl)
theorem dX1_settles_57 : decode cX1_settles 57 = .ok (.aload_n 2, 1) := dk_44 (dk_at dksX1_settles_2 11 rfl rfl)
theorem dX1_settles_58 : decode cX1_settles 58 = .ok (.getfield 290, 3) := dk_180 1 34 (dk_at dksX1_settles_2 12 rfl rfl)
theorem dX1_settles_61 : decode cX1_settles 61 = .ok (.aload_n 2, 1) := dk_44 (dk_at dksX1_settles_2 15 rfl rfl)
theorem dX1_settles_62 : decode cX1_settles 62 = .ok (.getfield 293, 3) := dk_180 1 37 (dk_at dksX1_settles_2 16 rfl rfl)
theorem dX1_settles_65 : decode cX1_settles 65 = .ok (.imul, 1) := dk_104 (dk_at dksX1_settles_2 19 rfl rfl)
theorem dX1_settles_66 : decode cX1_settles 66 = .ok (.bipush 10, 2) := dk_16 10 (dk_at dksX1_settles_2 20 rfl rfl)
theorem dX1_settles_68 : decode cX1_settles 68 = .ok (.idiv, 1) := dk_108 (dk_at dksX1_settles_2 22 rfl rfl)
theorem dX1_settles_69 : decode cX1_settles 69 = .ok (.iadd, 1) := dk_96 (dk_at dksX1_settles_2 23 rfl rfl)
theorem dX1_settles_70 : decode cX1_settles 70 = .ok (.iadd, 1) := dk_96 (dk_at dksX1_settles_3 0 rfl rfl)
theorem dX1_settles_71 : decode cX1_settles 71 = .ok (.putfield 287, 3) := dk_181 1 31 (dk_at dksX1_settles_3 1 rfl rfl)
theorem dX1_settles_74 : decode cX1_settles 74 = .ok (.iinc 1 1, 3) := dk_132 1 1 (dk_at dksX1_settles_3 4 rfl rfl)
theorem dX1_settles_77 : decode cX1_settles 77 = .ok (.goto (-75), 3) := dk_167 255 181 (dk_at dksX1_settles_3 7 rfl rfl)
theorem dX1_settles_80 : decode cX1_settles 80 = .ok (.return_, 1) := dk_177 (dk_at dksX1_settles_3 10 rfl rfl)
abbrev cX1_slip : ByteArray := prog_1_method_27_code
def yX1_slip : MethodName := ⟨RX1, "slip", "(I)Z"⟩
def dkwX1_slip_6 : List UInt8 := [180, 0, 80, 28, 21, 4, 29, 182, 0, 175, 4, 172]
abbrev dktX1_slip_6 : List UInt8 := dkwX1_slip_6 ++ []
def dkwX1_slip_5 : List UInt8 := [167, 0, 12, 42, 180, 0, 80, 180, 1, 69, 3, 51, 62, 42, 180, 0, 80, 28, 182, 1, 72, 54, 4, 42]
abbrev dktX1_slip_5 : List UInt8 := dkwX1_slip_5 ++ dktX1_slip_6
def dkwX1_slip_4 : List UInt8 := [42, 180, 0, 80, 4, 181, 1, 10, 167, 0, 50, 28, 154, 0, 15, 42, 180, 0, 80, 180, 1, 65, 3, 51]
abbrev dktX1_slip_4 : List UInt8 := dkwX1_slip_4 ++ dktX1_slip_5
def dkwX1_slip_3 : List UInt8 := [27, 154, 0, 18, 42, 180, 0, 80, 182, 1, 62, 42, 182, 1, 56, 87, 167, 0, 66, 27, 4, 160, 0, 14]
abbrev dktX1_slip_3 : List UInt8 := dkwX1_slip_3 ++ dktX1_slip_4
def dkwX1_slip_2 : List UInt8 := [180, 1, 59, 182, 0, 210, 5, 162, 0, 5, 3, 172, 42, 182, 1, 53, 42, 180, 0, 80, 180, 1, 59, 61]
abbrev dktX1_slip_2 : List UInt8 := dkwX1_slip_2 ++ dktX1_slip_3
def dkwX1_slip_1 : List UInt8 := [42, 180, 0, 80, 180, 1, 10, 154, 0, 26, 27, 4, 159, 0, 23, 42, 180, 0, 80, 42, 180, 0, 80]
abbrev dktX1_slip_1 : List UInt8 := dkwX1_slip_1 ++ dktX1_slip_2
def dkwX1_slip_0 : List UInt8 := [27, 3, 5, 184, 0, 190, 153, 0, 51, 42, 180, 0, 80, 180, 1, 28, 156, 0, 41, 27, 4, 160, 0, 13]
abbrev dktX1_slip_0 : List UInt8 := dkwX1_slip_0 ++ dktX1_slip_1
theorem dksX1_slip_0 : cX1_slip.data.toList.drop 0 = dktX1_slip_0 := by decide +kernel
theorem dksX1_slip_1 : cX1_slip.data.toList.drop 24 = dktX1_slip_1 := dk_seg dksX1_slip_0 24 rfl rfl
theorem dksX1_slip_2 : cX1_slip.data.toList.drop 47 = dktX1_slip_2 := dk_seg dksX1_slip_1 23 rfl rfl
theorem dksX1_slip_3 : cX1_slip.data.toList.drop 71 = dktX1_slip_3 := dk_seg dksX1_slip_2 24 rfl rfl
theorem dksX1_slip_4 : cX1_slip.data.toList.drop 95 = dktX1_slip_4 := dk_seg dksX1_slip_3 24 rfl rfl
theorem dksX1_slip_5 : cX1_slip.data.toList.drop 119 = dktX1_slip_5 := dk_seg dksX1_slip_4 24 rfl rfl
theorem dksX1_slip_6 : cX1_slip.data.toList.drop 143 = dktX1_slip_6 := dk_seg dksX1_slip_5 24 rfl rfl
theorem dX1_slip_0 : decode cX1_slip 0 = .ok (.iload_n 1, 1) := dk_27 (dk_at dksX1_slip_0 0 rfl rfl)
theorem dX1_slip_1 : decode cX1_slip 1 = .ok (.iconst 0, 1) := dk_3 (dk_at dksX1_slip_0 1 rfl rfl)
theorem dX1_slip_2 : decode cX1_slip 2 = .ok (.iconst 2, 1) := dk_5 (dk_at dksX1_slip_0 2 rfl rfl)
theorem dX1_slip_3 : decode cX1_slip 3 = .ok (.invokestatic 190, 3) := dk_184 0 190 (dk_at dksX1_slip_0 3 rfl rfl)
theorem dX1_slip_6 : decode cX1_slip 6 = .ok (.ifCond .eq 51, 3) := dk_153 0 51 (dk_at dksX1_slip_0 6 rfl rfl)
theorem dX1_slip_9 : decode cX1_slip 9 = .ok (.aload_n 0, 1) := dk_42 (dk_at dksX1_slip_0 9 rfl rfl)
theorem dX1_slip_10 : decode cX1_slip 10 = .ok (.getfield 80, 3) := dk_180 0 80 (dk_at dksX1_slip_0 10 rfl rfl)
theorem dX1_slip_13 : decode cX1_slip 13 = .ok (.getfield 284, 3) := dk_180 1 28 (dk_at dksX1_slip_0 13 rfl rfl)
theorem dX1_slip_16 : decode cX1_slip 16 = .ok (.ifCond .ge 41, 3) := dk_156 0 41 (dk_at dksX1_slip_0 16 rfl rfl)
theorem dX1_slip_19 : decode cX1_slip 19 = .ok (.iload_n 1, 1) := dk_27 (dk_at dksX1_slip_0 19 rfl rfl)
theorem dX1_slip_20 : decode cX1_slip 20 = .ok (.iconst 1, 1) := dk_4 (dk_at dksX1_slip_0 20 rfl rfl)
theorem dX1_slip_21 : decode cX1_slip 21 = .ok (.if_icmp .ne 13, 3) := dk_160 0 13 (dk_at dksX1_slip_0 21 rfl rfl)
theorem dX1_slip_24 : decode cX1_slip 24 = .ok (.aload_n 0, 1) := dk_42 (dk_at dksX1_slip_1 0 rfl rfl)
theorem dX1_slip_25 : decode cX1_slip 25 = .ok (.getfield 80, 3) := dk_180 0 80 (dk_at dksX1_slip_1 1 rfl rfl)
theorem dX1_slip_28 : decode cX1_slip 28 = .ok (.getfield 266, 3) := dk_180 1 10 (dk_at dksX1_slip_1 4 rfl rfl)
theorem dX1_slip_31 : decode cX1_slip 31 = .ok (.ifCond .ne 26, 3) := dk_154 0 26 (dk_at dksX1_slip_1 7 rfl rfl)
theorem dX1_slip_34 : decode cX1_slip 34 = .ok (.iload_n 1, 1) := dk_27 (dk_at dksX1_slip_1 10 rfl rfl)
theorem dX1_slip_35 : decode cX1_slip 35 = .ok (.iconst 1, 1) := dk_4 (dk_at dksX1_slip_1 11 rfl rfl)
theorem dX1_slip_36 : decode cX1_slip 36 = .ok (.if_icmp .eq 23, 3) := dk_159 0 23 (dk_at dksX1_slip_1 12 rfl rfl)
theorem dX1_slip_39 : decode cX1_slip 39 = .ok (.aload_n 0, 1) := dk_42 (dk_at dksX1_slip_1 15 rfl rfl)
theorem dX1_slip_40 : decode cX1_slip 40 = .ok (.getfield 80, 3) := dk_180 0 80 (dk_at dksX1_slip_1 16 rfl rfl)
theorem dX1_slip_43 : decode cX1_slip 43 = .ok (.aload_n 0, 1) := dk_42 (dk_at dksX1_slip_1 19 rfl rfl)
theorem dX1_slip_44 : decode cX1_slip 44 = .ok (.getfield 80, 3) := dk_180 0 80 (dk_at dksX1_slip_1 20 rfl rfl)
theorem dX1_slip_47 : decode cX1_slip 47 = .ok (.getfield 315, 3) := dk_180 1 59 (dk_at dksX1_slip_2 0 rfl rfl)
theorem dX1_slip_50 : decode cX1_slip 50 = .ok (.invokevirtual 210, 3) := dk_182 0 210 (dk_at dksX1_slip_2 3 rfl rfl)
theorem dX1_slip_53 : decode cX1_slip 53 = .ok (.iconst 2, 1) := dk_5 (dk_at dksX1_slip_2 6 rfl rfl)
theorem dX1_slip_54 : decode cX1_slip 54 = .ok (.if_icmp .ge 5, 3) := dk_162 0 5 (dk_at dksX1_slip_2 7 rfl rfl)
theorem dX1_slip_57 : decode cX1_slip 57 = .ok (.iconst 0, 1) := dk_3 (dk_at dksX1_slip_2 10 rfl rfl)
theorem dX1_slip_58 : decode cX1_slip 58 = .ok (.ireturn, 1) := dk_172 (dk_at dksX1_slip_2 11 rfl rfl)
theorem dX1_slip_59 : decode cX1_slip 59 = .ok (.aload_n 0, 1) := dk_42 (dk_at dksX1_slip_2 12 rfl rfl)
theorem dX1_slip_60 : decode cX1_slip 60 = .ok (.invokevirtual 309, 3) := dk_182 1 53 (dk_at dksX1_slip_2 13 rfl rfl)
theorem dX1_slip_63 : decode cX1_slip 63 = .ok (.aload_n 0, 1) := dk_42 (dk_at dksX1_slip_2 16 rfl rfl)
theorem dX1_slip_64 : decode cX1_slip 64 = .ok (.getfield 80, 3) := dk_180 0 80 (dk_at dksX1_slip_2 17 rfl rfl)
theorem dX1_slip_67 : decode cX1_slip 67 = .ok (.getfield 315, 3) := dk_180 1 59 (dk_at dksX1_slip_2 20 rfl rfl)
theorem dX1_slip_70 : decode cX1_slip 70 = .ok (.istore_n 2, 1) := dk_61 (dk_at dksX1_slip_2 23 rfl rfl)
theorem dX1_slip_71 : decode cX1_slip 71 = .ok (.iload_n 1, 1) := dk_27 (dk_at dksX1_slip_3 0 rfl rfl)
theorem dX1_slip_72 : decode cX1_slip 72 = .ok (.ifCond .ne 18, 3) := dk_154 0 18 (dk_at dksX1_slip_3 1 rfl rfl)
theorem dX1_slip_75 : decode cX1_slip 75 = .ok (.aload_n 0, 1) := dk_42 (dk_at dksX1_slip_3 4 rfl rfl)
theorem dX1_slip_76 : decode cX1_slip 76 = .ok (.getfield 80, 3) := dk_180 0 80 (dk_at dksX1_slip_3 5 rfl rfl)
theorem dX1_slip_79 : decode cX1_slip 79 = .ok (.invokevirtual 318, 3) := dk_182 1 62 (dk_at dksX1_slip_3 8 rfl rfl)
theorem dX1_slip_82 : decode cX1_slip 82 = .ok (.aload_n 0, 1) := dk_42 (dk_at dksX1_slip_3 11 rfl rfl)
theorem dX1_slip_83 : decode cX1_slip 83 = .ok (.invokevirtual 312, 3) := dk_182 1 56 (dk_at dksX1_slip_3 12 rfl rfl)
theorem dX1_slip_86 : decode cX1_slip 86 = .ok (.pop, 1) := dk_87 (dk_at dksX1_slip_3 15 rfl rfl)
theorem dX1_slip_87 : decode cX1_slip 87 = .ok (.goto 66, 3) := dk_167 0 66 (dk_at dksX1_slip_3 16 rfl rfl)
theorem dX1_slip_90 : decode cX1_slip 90 = .ok (.iload_n 1, 1) := dk_27 (dk_at dksX1_slip_3 19 rfl rfl)
theorem dX1_slip_91 : decode cX1_slip 91 = .ok (.iconst 1, 1) := dk_4 (dk_at dksX1_slip_3 20 rfl rfl)
theorem dX1_slip_92 : decode cX1_slip 92 = .ok (.if_icmp .ne 14, 3) := dk_160 0 14 (dk_at dksX1_slip_3 21 rfl rfl)
theorem dX1_slip_95 : decode cX1_slip 95 = .ok (.aload_n 0, 1) := dk_42 (dk_at dksX1_slip_4 0 rfl rfl)
theorem dX1_slip_96 : decode cX1_slip 96 = .ok (.getfield 80, 3) := dk_180 0 80 (dk_at dksX1_slip_4 1 rfl rfl)
theorem dX1_slip_99 : decode cX1_slip 99 = .ok (.iconst 1, 1) := dk_4 (dk_at dksX1_slip_4 4 rfl rfl)
theorem dX1_slip_100 : decode cX1_slip 100 = .ok (.putfield 266, 3) := dk_181 1 10 (dk_at dksX1_slip_4 5 rfl rfl)
theorem dX1_slip_103 : decode cX1_slip 103 = .ok (.goto 50, 3) := dk_167 0 50 (dk_at dksX1_slip_4 8 rfl rfl)
theorem dX1_slip_106 : decode cX1_slip 106 = .ok (.iload_n 2, 1) := dk_28 (dk_at dksX1_slip_4 11 rfl rfl)
theorem dX1_slip_107 : decode cX1_slip 107 = .ok (.ifCond .ne 15, 3) := dk_154 0 15 (dk_at dksX1_slip_4 12 rfl rfl)
theorem dX1_slip_110 : decode cX1_slip 110 = .ok (.aload_n 0, 1) := dk_42 (dk_at dksX1_slip_4 15 rfl rfl)
theorem dX1_slip_111 : decode cX1_slip 111 = .ok (.getfield 80, 3) := dk_180 0 80 (dk_at dksX1_slip_4 16 rfl rfl)
theorem dX1_slip_114 : decode cX1_slip 114 = .ok (.getfield 321, 3) := dk_180 1 65 (dk_at dksX1_slip_4 19 rfl rfl)
theorem dX1_slip_117 : decode cX1_slip 117 = .ok (.iconst 0, 1) := dk_3 (dk_at dksX1_slip_4 22 rfl rfl)
theorem dX1_slip_118 : decode cX1_slip 118 = .ok (.baload, 1) := dk_51 (dk_at dksX1_slip_4 23 rfl rfl)
theorem dX1_slip_119 : decode cX1_slip 119 = .ok (.goto 12, 3) := dk_167 0 12 (dk_at dksX1_slip_5 0 rfl rfl)
theorem dX1_slip_122 : decode cX1_slip 122 = .ok (.aload_n 0, 1) := dk_42 (dk_at dksX1_slip_5 3 rfl rfl)
theorem dX1_slip_123 : decode cX1_slip 123 = .ok (.getfield 80, 3) := dk_180 0 80 (dk_at dksX1_slip_5 4 rfl rfl)
theorem dX1_slip_126 : decode cX1_slip 126 = .ok (.getfield 325, 3) := dk_180 1 69 (dk_at dksX1_slip_5 7 rfl rfl)
theorem dX1_slip_129 : decode cX1_slip 129 = .ok (.iconst 0, 1) := dk_3 (dk_at dksX1_slip_5 10 rfl rfl)
theorem dX1_slip_130 : decode cX1_slip 130 = .ok (.baload, 1) := dk_51 (dk_at dksX1_slip_5 11 rfl rfl)
theorem dX1_slip_131 : decode cX1_slip 131 = .ok (.istore_n 3, 1) := dk_62 (dk_at dksX1_slip_5 12 rfl rfl)
theorem dX1_slip_132 : decode cX1_slip 132 = .ok (.aload_n 0, 1) := dk_42 (dk_at dksX1_slip_5 13 rfl rfl)
theorem dX1_slip_133 : decode cX1_slip 133 = .ok (.getfield 80, 3) := dk_180 0 80 (dk_at dksX1_slip_5 14 rfl rfl)
theorem dX1_slip_136 : decode cX1_slip 136 = .ok (.iload_n 2, 1) := dk_28 (dk_at dksX1_slip_5 17 rfl rfl)
theorem dX1_slip_137 : decode cX1_slip 137 = .ok (.invokevirtual 328, 3) := dk_182 1 72 (dk_at dksX1_slip_5 18 rfl rfl)
theorem dX1_slip_140 : decode cX1_slip 140 = .ok (.istore 4, 2) := dk_54 4 (dk_at dksX1_slip_5 21 rfl rfl)
theorem dX1_slip_142 : decode cX1_slip 142 = .ok (.aload_n 0, 1) := dk_42 (dk_at dksX1_slip_5 23 rfl rfl)
theorem dX1_slip_143 : decode cX1_slip 143 = .ok (.getfield 80, 3) := dk_180 0 80 (dk_at dksX1_slip_6 0 rfl rfl)
theorem dX1_slip_146 : decode cX1_slip 146 = .ok (.iload_n 2, 1) := dk_28 (dk_at dksX1_slip_6 3 rfl rfl)
theorem dX1_slip_147 : decode cX1_slip 147 = .ok (.iload 4, 2) := dk_21 4 (dk_at dksX1_slip_6 4 rfl rfl)
theorem dX1_slip_149 : decode cX1_slip 149 = .ok (.iload_n 3, 1) := dk_29 (dk_at dksX1_slip_6 6 rfl rfl)
theorem dX1_slip_150 : decode cX1_slip 150 = .ok (.invokevirtual 175, 3) := dk_182 0 175 (dk_at dksX1_slip_6 7 rfl rfl)
theorem dX1_slip_153 : decode cX1_slip 153 = .ok (.iconst 1, 1) := dk_4 (dk_at dksX1_slip_6 10 rfl rfl)
theorem dX1_slip_154 : decode cX1_slip 154 = .ok (.ireturn, 1) := dk_172 (dk_at dksX1_slip_6 11 rfl rfl)
abbrev cX1_undo : ByteArray := prog_1_method_28_code
def yX1_undo : MethodName := ⟨RX1, "undo", "()Z"⟩
def dkwX1_undo_1 : List UInt8 := [90, 181, 0, 179, 50, 182, 0, 239, 4, 172]
abbrev dktX1_undo_1 : List UInt8 := dkwX1_undo_1 ++ []
def dkwX1_undo_0 : List UInt8 := [42, 180, 0, 179, 154, 0, 5, 3, 172, 42, 180, 0, 80, 42, 180, 0, 101, 42, 89, 180, 0, 179, 4, 100]
abbrev dktX1_undo_0 : List UInt8 := dkwX1_undo_0 ++ dktX1_undo_1
theorem dksX1_undo_0 : cX1_undo.data.toList.drop 0 = dktX1_undo_0 := by decide +kernel
theorem dksX1_undo_1 : cX1_undo.data.toList.drop 24 = dktX1_undo_1 := dk_seg dksX1_undo_0 24 rfl rfl
theorem dX1_undo_0 : decode cX1_undo 0 = .ok (.aload_n 0, 1) := dk_42 (dk_at dksX1_undo_0 0 rfl rfl)
theorem dX1_undo_1 : decode cX1_undo 1 = .ok (.getfield 179, 3) := dk_180 0 179 (dk_at dksX1_undo_0 1 rfl rfl)
theorem dX1_undo_4 : decode cX1_undo 4 = .ok (.ifCond .ne 5, 3) := dk_154 0 5 (dk_at dksX1_undo_0 4 rfl rfl)
theorem dX1_undo_7 : decode cX1_undo 7 = .ok (.iconst 0, 1) := dk_3 (dk_at dksX1_undo_0 7 rfl rfl)
theorem dX1_undo_8 : decode cX1_undo 8 = .ok (.ireturn, 1) := dk_172 (dk_at dksX1_undo_0 8 rfl rfl)
theorem dX1_undo_9 : decode cX1_undo 9 = .ok (.aload_n 0, 1) := dk_42 (dk_at dksX1_undo_0 9 rfl rfl)
theorem dX1_undo_10 : decode cX1_undo 10 = .ok (.getfield 80, 3) := dk_180 0 80 (dk_at dksX1_undo_0 10 rfl rfl)
theorem dX1_undo_13 : decode cX1_undo 13 = .ok (.aload_n 0, 1) := dk_42 (dk_at dksX1_undo_0 13 rfl rfl)
theorem dX1_undo_14 : decode cX1_undo 14 = .ok (.getfield 101, 3) := dk_180 0 101 (dk_at dksX1_undo_0 14 rfl rfl)
theorem dX1_undo_17 : decode cX1_undo 17 = .ok (.aload_n 0, 1) := dk_42 (dk_at dksX1_undo_0 17 rfl rfl)
theorem dX1_undo_18 : decode cX1_undo 18 = .ok (.dup, 1) := dk_89 (dk_at dksX1_undo_0 18 rfl rfl)
theorem dX1_undo_19 : decode cX1_undo 19 = .ok (.getfield 179, 3) := dk_180 0 179 (dk_at dksX1_undo_0 19 rfl rfl)
theorem dX1_undo_22 : decode cX1_undo 22 = .ok (.iconst 1, 1) := dk_4 (dk_at dksX1_undo_0 22 rfl rfl)
theorem dX1_undo_23 : decode cX1_undo 23 = .ok (.isub, 1) := dk_100 (dk_at dksX1_undo_0 23 rfl rfl)
theorem dX1_undo_24 : decode cX1_undo 24 = .ok (.dup_x1, 1) := dk_90 (dk_at dksX1_undo_1 0 rfl rfl)
theorem dX1_undo_25 : decode cX1_undo 25 = .ok (.putfield 179, 3) := dk_181 0 179 (dk_at dksX1_undo_1 1 rfl rfl)
theorem dX1_undo_28 : decode cX1_undo 28 = .ok (.aaload, 1) := dk_50 (dk_at dksX1_undo_1 4 rfl rfl)
theorem dX1_undo_29 : decode cX1_undo 29 = .ok (.invokevirtual 239, 3) := dk_182 0 239 (dk_at dksX1_undo_1 5 rfl rfl)
theorem dX1_undo_32 : decode cX1_undo 32 = .ok (.iconst 1, 1) := dk_4 (dk_at dksX1_undo_1 8 rfl rfl)
theorem dX1_undo_33 : decode cX1_undo 33 = .ok (.ireturn, 1) := dk_172 (dk_at dksX1_undo_1 9 rfl rfl)
abbrev cX1_ends : ByteArray := prog_1_method_30_code
def yX1_ends : MethodName := ⟨RX1, "ends", "(I)I"⟩
def dkwX1_ends_2 : List UInt8 := [160, 0, 13, 42, 180, 0, 57, 180, 1, 92, 167, 0, 10, 42, 180, 0, 57, 180, 1, 95, 172]
abbrev dktX1_ends_2 : List UInt8 := dkwX1_ends_2 ++ []
def dkwX1_ends_1 : List UInt8 := [180, 1, 88, 167, 0, 40, 27, 4, 160, 0, 13, 42, 180, 0, 57, 180, 1, 91, 167, 0, 25, 27, 5]
abbrev dktX1_ends_1 : List UInt8 := dkwX1_ends_1 ++ dktX1_ends_2
def dkwX1_ends_0 : List UInt8 := [27, 3, 6, 184, 0, 190, 154, 0, 5, 2, 172, 42, 182, 1, 85, 27, 154, 0, 13, 42, 180, 0, 57]
abbrev dktX1_ends_0 : List UInt8 := dkwX1_ends_0 ++ dktX1_ends_1
theorem dksX1_ends_0 : cX1_ends.data.toList.drop 0 = dktX1_ends_0 := by decide +kernel
theorem dksX1_ends_1 : cX1_ends.data.toList.drop 23 = dktX1_ends_1 := dk_seg dksX1_ends_0 23 rfl rfl
theorem dksX1_ends_2 : cX1_ends.data.toList.drop 46 = dktX1_ends_2 := dk_seg dksX1_ends_1 23 rfl rfl
theorem dX1_ends_0 : decode cX1_ends 0 = .ok (.iload_n 1, 1) := dk_27 (dk_at dksX1_ends_0 0 rfl rfl)
theorem dX1_ends_1 : decode cX1_ends 1 = .ok (.iconst 0, 1) := dk_3 (dk_at dksX1_ends_0 1 rfl rfl)
theorem dX1_ends_2 : decode cX1_ends 2 = .ok (.iconst 3, 1) := dk_6 (dk_at dksX1_ends_0 2 rfl rfl)
theorem dX1_ends_3 : decode cX1_ends 3 = .ok (.invokestatic 190, 3) := dk_184 0 190 (dk_at dksX1_ends_0 3 rfl rfl)
theorem dX1_ends_6 : decode cX1_ends 6 = .ok (.ifCond .ne 5, 3) := dk_154 0 5 (dk_at dksX1_ends_0 6 rfl rfl)
theorem dX1_ends_9 : decode cX1_ends 9 = .ok (.iconst (-1), 1) := dk_2 (dk_at dksX1_ends_0 9 rfl rfl)
theorem dX1_ends_10 : decode cX1_ends 10 = .ok (.ireturn, 1) := dk_172 (dk_at dksX1_ends_0 10 rfl rfl)
theorem dX1_ends_11 : decode cX1_ends 11 = .ok (.aload_n 0, 1) := dk_42 (dk_at dksX1_ends_0 11 rfl rfl)
theorem dX1_ends_12 : decode cX1_ends 12 = .ok (.invokevirtual 341, 3) := dk_182 1 85 (dk_at dksX1_ends_0 12 rfl rfl)
theorem dX1_ends_15 : decode cX1_ends 15 = .ok (.iload_n 1, 1) := dk_27 (dk_at dksX1_ends_0 15 rfl rfl)
theorem dX1_ends_16 : decode cX1_ends 16 = .ok (.ifCond .ne 13, 3) := dk_154 0 13 (dk_at dksX1_ends_0 16 rfl rfl)
theorem dX1_ends_19 : decode cX1_ends 19 = .ok (.aload_n 0, 1) := dk_42 (dk_at dksX1_ends_0 19 rfl rfl)
theorem dX1_ends_20 : decode cX1_ends 20 = .ok (.getfield 57, 3) := dk_180 0 57 (dk_at dksX1_ends_0 20 rfl rfl)
theorem dX1_ends_23 : decode cX1_ends 23 = .ok (.getfield 344, 3) := dk_180 1 88 (dk_at dksX1_ends_1 0 rfl rfl)
theorem dX1_ends_26 : decode cX1_ends 26 = .ok (.goto 40, 3) := dk_167 0 40 (dk_at dksX1_ends_1 3 rfl rfl)
theorem dX1_ends_29 : decode cX1_ends 29 = .ok (.iload_n 1, 1) := dk_27 (dk_at dksX1_ends_1 6 rfl rfl)
theorem dX1_ends_30 : decode cX1_ends 30 = .ok (.iconst 1, 1) := dk_4 (dk_at dksX1_ends_1 7 rfl rfl)
theorem dX1_ends_31 : decode cX1_ends 31 = .ok (.if_icmp .ne 13, 3) := dk_160 0 13 (dk_at dksX1_ends_1 8 rfl rfl)
theorem dX1_ends_34 : decode cX1_ends 34 = .ok (.aload_n 0, 1) := dk_42 (dk_at dksX1_ends_1 11 rfl rfl)
theorem dX1_ends_35 : decode cX1_ends 35 = .ok (.getfield 57, 3) := dk_180 0 57 (dk_at dksX1_ends_1 12 rfl rfl)
theorem dX1_ends_38 : decode cX1_ends 38 = .ok (.getfield 347, 3) := dk_180 1 91 (dk_at dksX1_ends_1 15 rfl rfl)
theorem dX1_ends_41 : decode cX1_ends 41 = .ok (.goto 25, 3) := dk_167 0 25 (dk_at dksX1_ends_1 18 rfl rfl)
theorem dX1_ends_44 : decode cX1_ends 44 = .ok (.iload_n 1, 1) := dk_27 (dk_at dksX1_ends_1 21 rfl rfl)
theorem dX1_ends_45 : decode cX1_ends 45 = .ok (.iconst 2, 1) := dk_5 (dk_at dksX1_ends_1 22 rfl rfl)
theorem dX1_ends_46 : decode cX1_ends 46 = .ok (.if_icmp .ne 13, 3) := dk_160 0 13 (dk_at dksX1_ends_2 0 rfl rfl)
theorem dX1_ends_49 : decode cX1_ends 49 = .ok (.aload_n 0, 1) := dk_42 (dk_at dksX1_ends_2 3 rfl rfl)
theorem dX1_ends_50 : decode cX1_ends 50 = .ok (.getfield 57, 3) := dk_180 0 57 (dk_at dksX1_ends_2 4 rfl rfl)
theorem dX1_ends_53 : decode cX1_ends 53 = .ok (.getfield 348, 3) := dk_180 1 92 (dk_at dksX1_ends_2 7 rfl rfl)
theorem dX1_ends_56 : decode cX1_ends 56 = .ok (.goto 10, 3) := dk_167 0 10 (dk_at dksX1_ends_2 10 rfl rfl)
theorem dX1_ends_59 : decode cX1_ends 59 = .ok (.aload_n 0, 1) := dk_42 (dk_at dksX1_ends_2 13 rfl rfl)
theorem dX1_ends_60 : decode cX1_ends 60 = .ok (.getfield 57, 3) := dk_180 0 57 (dk_at dksX1_ends_2 14 rfl rfl)
theorem dX1_ends_63 : decode cX1_ends 63 = .ok (.getfield 351, 3) := dk_180 1 95 (dk_at dksX1_ends_2 17 rfl rfl)
theorem dX1_ends_66 : decode cX1_ends 66 = .ok (.ireturn, 1) := dk_172 (dk_at dksX1_ends_2 20 rfl rfl)
abbrev cX1_tries : ByteArray := prog_1_method_29_code
def yX1_tries : MethodName := ⟨RX1, "tries", "()V"⟩
def dkwX1_tries_1 : List UInt8 := [180, 0, 198, 42, 180, 0, 64, 182, 1, 78, 182, 1, 81, 177]
abbrev dktX1_tries_1 : List UInt8 := dkwX1_tries_1 ++ []
def dkwX1_tries_0 : List UInt8 := [42, 180, 0, 84, 42, 180, 0, 80, 182, 1, 75, 42, 180, 0, 57, 42, 180, 0, 84, 42, 180, 0, 64]
abbrev dktX1_tries_0 : List UInt8 := dkwX1_tries_0 ++ dktX1_tries_1
theorem dksX1_tries_0 : cX1_tries.data.toList.drop 0 = dktX1_tries_0 := by decide +kernel
theorem dksX1_tries_1 : cX1_tries.data.toList.drop 23 = dktX1_tries_1 := dk_seg dksX1_tries_0 23 rfl rfl
theorem dX1_tries_0 : decode cX1_tries 0 = .ok (.aload_n 0, 1) := dk_42 (dk_at dksX1_tries_0 0 rfl rfl)
theorem dX1_tries_1 : decode cX1_tries 1 = .ok (.getfield 84, 3) := dk_180 0 84 (dk_at dksX1_tries_0 1 rfl rfl)
theorem dX1_tries_4 : decode cX1_tries 4 = .ok (.aload_n 0, 1) := dk_42 (dk_at dksX1_tries_0 4 rfl rfl)
theorem dX1_tries_5 : decode cX1_tries 5 = .ok (.getfield 80, 3) := dk_180 0 80 (dk_at dksX1_tries_0 5 rfl rfl)
theorem dX1_tries_8 : decode cX1_tries 8 = .ok (.invokevirtual 331, 3) := dk_182 1 75 (dk_at dksX1_tries_0 8 rfl rfl)
theorem dX1_tries_11 : decode cX1_tries 11 = .ok (.aload_n 0, 1) := dk_42 (dk_at dksX1_tries_0 11 rfl rfl)
theorem dX1_tries_12 : decode cX1_tries 12 = .ok (.getfield 57, 3) := dk_180 0 57 (dk_at dksX1_tries_0 12 rfl rfl)
theorem dX1_tries_15 : decode cX1_tries 15 = .ok (.aload_n 0, 1) := dk_42 (dk_at dksX1_tries_0 15 rfl rfl)
theorem dX1_tries_16 : decode cX1_tries 16 = .ok (.getfield 84, 3) := dk_180 0 84 (dk_at dksX1_tries_0 16 rfl rfl)
theorem dX1_tries_19 : decode cX1_tries 19 = .ok (.aload_n 0, 1) := dk_42 (dk_at dksX1_tries_0 19 rfl rfl)
theorem dX1_tries_20 : decode cX1_tries 20 = .ok (.getfield 64, 3) := dk_180 0 64 (dk_at dksX1_tries_0 20 rfl rfl)
theorem dX1_tries_23 : decode cX1_tries 23 = .ok (.getfield 198, 3) := dk_180 0 198 (dk_at dksX1_tries_1 0 rfl rfl)
theorem dX1_tries_26 : decode cX1_tries 26 = .ok (.aload_n 0, 1) := dk_42 (dk_at dksX1_tries_1 3 rfl rfl)
theorem dX1_tries_27 : decode cX1_tries 27 = .ok (.getfield 64, 3) := dk_180 0 64 (dk_at dksX1_tries_1 4 rfl rfl)
theorem dX1_tries_30 : decode cX1_tries 30 = .ok (.invokevirtual 334, 3) := dk_182 1 78 (dk_at dksX1_tries_1 7 rfl rfl)
theorem dX1_tries_33 : decode cX1_tries 33 = .ok (.invokevirtual 337, 3) := dk_182 1 81 (dk_at dksX1_tries_1 10 rfl rfl)
theorem dX1_tries_36 : decode cX1_tries 36 = .ok (.return_, 1) := dk_177 (dk_at dksX1_tries_1 13 rfl rfl)
abbrev cX1_all : ByteArray := prog_1_method_37_code
def yX1_all : MethodName := ⟨RX1, "all", "(I)I"⟩
def dkwX1_all_6 : List UInt8 := [167, 0, 5, 21, 5, 172]
abbrev dktX1_all_6 : List UInt8 := dkwX1_all_6 ++ []
def dkwX1_all_5 : List UInt8 := [167, 0, 28, 27, 8, 162, 0, 11, 44, 27, 4, 100, 46, 167, 0, 15, 27, 8, 160, 0, 8, 21, 4]
abbrev dktX1_all_5 : List UInt8 := dkwX1_all_5 ++ dktX1_all_6
def dkwX1_all_4 : List UInt8 := [180, 1, 91, 54, 4, 29, 54, 5, 132, 3, 1, 42, 182, 1, 115, 154, 255, 178, 27, 154, 0, 7, 29]
abbrev dktX1_all_4 : List UInt8 := dkwX1_all_4 ++ dktX1_all_5
def dkwX1_all_3 : List UInt8 := [162, 0, 32, 21, 5, 155, 0, 15, 42, 180, 0, 57, 180, 1, 91, 21, 4, 164, 0, 15, 42, 180, 0, 57]
abbrev dktX1_all_3 : List UInt8 := dkwX1_all_3 ++ dktX1_all_4
def dkwX1_all_2 : List UInt8 := [182, 1, 111, 44, 42, 180, 0, 57, 180, 1, 88, 92, 46, 4, 96, 79, 42, 180, 0, 57, 180, 1, 88, 5]
abbrev dktX1_all_2 : List UInt8 := dkwX1_all_2 ++ dktX1_all_3
def dkwX1_all_1 : List UInt8 := [62, 3, 54, 4, 2, 54, 5, 42, 42, 180, 0, 64, 182, 0, 171, 42, 180, 0, 64, 180, 0, 198]
abbrev dktX1_all_1 : List UInt8 := dkwX1_all_1 ++ dktX1_all_2
def dkwX1_all_0 : List UInt8 := [27, 3, 16, 6, 184, 0, 190, 153, 0, 10, 42, 182, 1, 108, 154, 0, 5, 2, 172, 7, 188, 10, 77, 3]
abbrev dktX1_all_0 : List UInt8 := dkwX1_all_0 ++ dktX1_all_1
theorem dksX1_all_0 : cX1_all.data.toList.drop 0 = dktX1_all_0 := by decide +kernel
theorem dksX1_all_1 : cX1_all.data.toList.drop 24 = dktX1_all_1 := dk_seg dksX1_all_0 24 rfl rfl
theorem dksX1_all_2 : cX1_all.data.toList.drop 46 = dktX1_all_2 := dk_seg dksX1_all_1 22 rfl rfl
theorem dksX1_all_3 : cX1_all.data.toList.drop 70 = dktX1_all_3 := dk_seg dksX1_all_2 24 rfl rfl
theorem dksX1_all_4 : cX1_all.data.toList.drop 94 = dktX1_all_4 := dk_seg dksX1_all_3 24 rfl rfl
theorem dksX1_all_5 : cX1_all.data.toList.drop 117 = dktX1_all_5 := dk_seg dksX1_all_4 23 rfl rfl
theorem dksX1_all_6 : cX1_all.data.toList.drop 140 = dktX1_all_6 := dk_seg dksX1_all_5 23 rfl rfl
theorem dX1_all_0 : decode cX1_all 0 = .ok (.iload_n 1, 1) := dk_27 (dk_at dksX1_all_0 0 rfl rfl)
theorem dX1_all_1 : decode cX1_all 1 = .ok (.iconst 0, 1) := dk_3 (dk_at dksX1_all_0 1 rfl rfl)
theorem dX1_all_2 : decode cX1_all 2 = .ok (.bipush 6, 2) := dk_16 6 (dk_at dksX1_all_0 2 rfl rfl)
theorem dX1_all_4 : decode cX1_all 4 = .ok (.invokestatic 190, 3) := dk_184 0 190 (dk_at dksX1_all_0 4 rfl rfl)
theorem dX1_all_7 : decode cX1_all 7 = .ok (.ifCond .eq 10, 3) := dk_153 0 10 (dk_at dksX1_all_0 7 rfl rfl)
theorem dX1_all_10 : decode cX1_all 10 = .ok (.aload_n 0, 1) := dk_42 (dk_at dksX1_all_0 10 rfl rfl)
theorem dX1_all_11 : decode cX1_all 11 = .ok (.invokevirtual 364, 3) := dk_182 1 108 (dk_at dksX1_all_0 11 rfl rfl)
theorem dX1_all_14 : decode cX1_all 14 = .ok (.ifCond .ne 5, 3) := dk_154 0 5 (dk_at dksX1_all_0 14 rfl rfl)
theorem dX1_all_17 : decode cX1_all 17 = .ok (.iconst (-1), 1) := dk_2 (dk_at dksX1_all_0 17 rfl rfl)
theorem dX1_all_18 : decode cX1_all 18 = .ok (.ireturn, 1) := dk_172 (dk_at dksX1_all_0 18 rfl rfl)
theorem dX1_all_19 : decode cX1_all 19 = .ok (.iconst 4, 1) := dk_7 (dk_at dksX1_all_0 19 rfl rfl)
theorem dX1_all_20 : decode cX1_all 20 = .ok (.newarray .int, 2) := dk_188_10 (dk_at dksX1_all_0 20 rfl rfl)
theorem dX1_all_22 : decode cX1_all 22 = .ok (.astore_n 2, 1) := dk_77 (dk_at dksX1_all_0 22 rfl rfl)
theorem dX1_all_23 : decode cX1_all 23 = .ok (.iconst 0, 1) := dk_3 (dk_at dksX1_all_0 23 rfl rfl)
theorem dX1_all_24 : decode cX1_all 24 = .ok (.istore_n 3, 1) := dk_62 (dk_at dksX1_all_1 0 rfl rfl)
theorem dX1_all_25 : decode cX1_all 25 = .ok (.iconst 0, 1) := dk_3 (dk_at dksX1_all_1 1 rfl rfl)
theorem dX1_all_26 : decode cX1_all 26 = .ok (.istore 4, 2) := dk_54 4 (dk_at dksX1_all_1 2 rfl rfl)
theorem dX1_all_28 : decode cX1_all 28 = .ok (.iconst (-1), 1) := dk_2 (dk_at dksX1_all_1 4 rfl rfl)
theorem dX1_all_29 : decode cX1_all 29 = .ok (.istore 5, 2) := dk_54 5 (dk_at dksX1_all_1 5 rfl rfl)
theorem dX1_all_31 : decode cX1_all 31 = .ok (.aload_n 0, 1) := dk_42 (dk_at dksX1_all_1 7 rfl rfl)
theorem dX1_all_32 : decode cX1_all 32 = .ok (.aload_n 0, 1) := dk_42 (dk_at dksX1_all_1 8 rfl rfl)
theorem dX1_all_33 : decode cX1_all 33 = .ok (.getfield 64, 3) := dk_180 0 64 (dk_at dksX1_all_1 9 rfl rfl)
theorem dX1_all_36 : decode cX1_all 36 = .ok (.invokevirtual 171, 3) := dk_182 0 171 (dk_at dksX1_all_1 12 rfl rfl)
theorem dX1_all_39 : decode cX1_all 39 = .ok (.aload_n 0, 1) := dk_42 (dk_at dksX1_all_1 15 rfl rfl)
theorem dX1_all_40 : decode cX1_all 40 = .ok (.getfield 64, 3) := dk_180 0 64 (dk_at dksX1_all_1 16 rfl rfl)
theorem dX1_all_43 : decode cX1_all 43 = .ok (.getfield 198, 3) := dk_180 0 198 (dk_at dksX1_all_1 19 rfl rfl)
theorem dX1_all_46 : decode cX1_all 46 = .ok (.invokevirtual 367, 3) := dk_182 1 111 (dk_at dksX1_all_2 0 rfl rfl)
theorem dX1_all_49 : decode cX1_all 49 = .ok (.aload_n 2, 1) := dk_44 (dk_at dksX1_all_2 3 rfl rfl)
theorem dX1_all_50 : decode cX1_all 50 = .ok (.aload_n 0, 1) := dk_42 (dk_at dksX1_all_2 4 rfl rfl)
theorem dX1_all_51 : decode cX1_all 51 = .ok (.getfield 57, 3) := dk_180 0 57 (dk_at dksX1_all_2 5 rfl rfl)
theorem dX1_all_54 : decode cX1_all 54 = .ok (.getfield 344, 3) := dk_180 1 88 (dk_at dksX1_all_2 8 rfl rfl)
theorem dX1_all_57 : decode cX1_all 57 = .ok (.dup2, 1) := dk_92 (dk_at dksX1_all_2 11 rfl rfl)
theorem dX1_all_58 : decode cX1_all 58 = .ok (.iaload, 1) := dk_46 (dk_at dksX1_all_2 12 rfl rfl)
theorem dX1_all_59 : decode cX1_all 59 = .ok (.iconst 1, 1) := dk_4 (dk_at dksX1_all_2 13 rfl rfl)
theorem dX1_all_60 : decode cX1_all 60 = .ok (.iadd, 1) := dk_96 (dk_at dksX1_all_2 14 rfl rfl)
theorem dX1_all_61 : decode cX1_all 61 = .ok (.iastore, 1) := dk_79 (dk_at dksX1_all_2 15 rfl rfl)
theorem dX1_all_62 : decode cX1_all 62 = .ok (.aload_n 0, 1) := dk_42 (dk_at dksX1_all_2 16 rfl rfl)
theorem dX1_all_63 : decode cX1_all 63 = .ok (.getfield 57, 3) := dk_180 0 57 (dk_at dksX1_all_2 17 rfl rfl)
theorem dX1_all_66 : decode cX1_all 66 = .ok (.getfield 344, 3) := dk_180 1 88 (dk_at dksX1_all_2 20 rfl rfl)
theorem dX1_all_69 : decode cX1_all 69 = .ok (.iconst 2, 1) := dk_5 (dk_at dksX1_all_2 23 rfl rfl)
theorem dX1_all_70 : decode cX1_all 70 = .ok (.if_icmp .ge 32, 3) := dk_162 0 32 (dk_at dksX1_all_3 0 rfl rfl)
theorem dX1_all_73 : decode cX1_all 73 = .ok (.iload 5, 2) := dk_21 5 (dk_at dksX1_all_3 3 rfl rfl)
theorem dX1_all_75 : decode cX1_all 75 = .ok (.ifCond .lt 15, 3) := dk_155 0 15 (dk_at dksX1_all_3 5 rfl rfl)
theorem dX1_all_78 : decode cX1_all 78 = .ok (.aload_n 0, 1) := dk_42 (dk_at dksX1_all_3 8 rfl rfl)
theorem dX1_all_79 : decode cX1_all 79 = .ok (.getfield 57, 3) := dk_180 0 57 (dk_at dksX1_all_3 9 rfl rfl)
theorem dX1_all_82 : decode cX1_all 82 = .ok (.getfield 347, 3) := dk_180 1 91 (dk_at dksX1_all_3 12 rfl rfl)
theorem dX1_all_85 : decode cX1_all 85 = .ok (.iload 4, 2) := dk_21 4 (dk_at dksX1_all_3 15 rfl rfl)
theorem dX1_all_87 : decode cX1_all 87 = .ok (.if_icmp .le 15, 3) := dk_164 0 15 (dk_at dksX1_all_3 17 rfl rfl)
theorem dX1_all_90 : decode cX1_all 90 = .ok (.aload_n 0, 1) := dk_42 (dk_at dksX1_all_3 20 rfl rfl)
theorem dX1_all_91 : decode cX1_all 91 = .ok (.getfield 57, 3) := dk_180 0 57 (dk_at dksX1_all_3 21 rfl rfl)
theorem dX1_all_94 : decode cX1_all 94 = .ok (.getfield 347, 3) := dk_180 1 91 (dk_at dksX1_all_4 0 rfl rfl)
theorem dX1_all_97 : decode cX1_all 97 = .ok (.istore 4, 2) := dk_54 4 (dk_at dksX1_all_4 3 rfl rfl)
theorem dX1_all_99 : decode cX1_all 99 = .ok (.iload_n 3, 1) := dk_29 (dk_at dksX1_all_4 5 rfl rfl)
theorem dX1_all_100 : decode cX1_all 100 = .ok (.istore 5, 2) := dk_54 5 (dk_at dksX1_all_4 6 rfl rfl)
theorem dX1_all_102 : decode cX1_all 102 = .ok (.iinc 3 1, 3) := dk_132 3 1 (dk_at dksX1_all_4 8 rfl rfl)
theorem dX1_all_105 : decode cX1_all 105 = .ok (.aload_n 0, 1) := dk_42 (dk_at dksX1_all_4 11 rfl rfl)
theorem dX1_all_106 : decode cX1_all 106 = .ok (.invokevirtual 371, 3) := dk_182 1 115 (dk_at dksX1_all_4 12 rfl rfl)
theorem dX1_all_109 : decode cX1_all 109 = .ok (.ifCond .ne (-78), 3) := dk_154 255 178 (dk_at dksX1_all_4 15 rfl rfl)
theorem dX1_all_112 : decode cX1_all 112 = .ok (.iload_n 1, 1) := dk_27 (dk_at dksX1_all_4 18 rfl rfl)
theorem dX1_all_113 : decode cX1_all 113 = .ok (.ifCond .ne 7, 3) := dk_154 0 7 (dk_at dksX1_all_4 19 rfl rfl)
theorem dX1_all_116 : decode cX1_all 116 = .ok (.iload_n 3, 1) := dk_29 (dk_at dksX1_all_4 22 rfl rfl)
theorem dX1_all_117 : decode cX1_all 117 = .ok (.goto 28, 3) := dk_167 0 28 (dk_at dksX1_all_5 0 rfl rfl)
theorem dX1_all_120 : decode cX1_all 120 = .ok (.iload_n 1, 1) := dk_27 (dk_at dksX1_all_5 3 rfl rfl)
theorem dX1_all_121 : decode cX1_all 121 = .ok (.iconst 5, 1) := dk_8 (dk_at dksX1_all_5 4 rfl rfl)
theorem dX1_all_122 : decode cX1_all 122 = .ok (.if_icmp .ge 11, 3) := dk_162 0 11 (dk_at dksX1_all_5 5 rfl rfl)
theorem dX1_all_125 : decode cX1_all 125 = .ok (.aload_n 2, 1) := dk_44 (dk_at dksX1_all_5 8 rfl rfl)
theorem dX1_all_126 : decode cX1_all 126 = .ok (.iload_n 1, 1) := dk_27 (dk_at dksX1_all_5 9 rfl rfl)
theorem dX1_all_127 : decode cX1_all 127 = .ok (.iconst 1, 1) := dk_4 (dk_at dksX1_all_5 10 rfl rfl)
theorem dX1_all_128 : decode cX1_all 128 = .ok (.isub, 1) := dk_100 (dk_at dksX1_all_5 11 rfl rfl)
theorem dX1_all_129 : decode cX1_all 129 = .ok (.iaload, 1) := dk_46 (dk_at dksX1_all_5 12 rfl rfl)
theorem dX1_all_130 : decode cX1_all 130 = .ok (.goto 15, 3) := dk_167 0 15 (dk_at dksX1_all_5 13 rfl rfl)
theorem dX1_all_133 : decode cX1_all 133 = .ok (.iload_n 1, 1) := dk_27 (dk_at dksX1_all_5 16 rfl rfl)
theorem dX1_all_134 : decode cX1_all 134 = .ok (.iconst 5, 1) := dk_8 (dk_at dksX1_all_5 17 rfl rfl)
theorem dX1_all_135 : decode cX1_all 135 = .ok (.if_icmp .ne 8, 3) := dk_160 0 8 (dk_at dksX1_all_5 18 rfl rfl)
theorem dX1_all_138 : decode cX1_all 138 = .ok (.iload 4, 2) := dk_21 4 (dk_at dksX1_all_5 21 rfl rfl)
theorem dX1_all_140 : decode cX1_all 140 = .ok (.goto 5, 3) := dk_167 0 5 (dk_at dksX1_all_6 0 rfl rfl)
theorem dX1_all_143 : decode cX1_all 143 = .ok (.iload 5, 2) := dk_21 5 (dk_at dksX1_all_6 3 rfl rfl)
theorem dX1_all_145 : decode cX1_all 145 = .ok (.ireturn, 1) := dk_172 (dk_at dksX1_all_6 5 rfl rfl)
abbrev cX1_firstRow : ByteArray := prog_1_method_31_code
def yX1_firstRow : MethodName := ⟨RX1, "firstRow", "()Z"⟩
def dkwX1_firstRow_3 : List UInt8 := [16, 10, 163, 0, 17, 42, 182, 1, 99, 17, 78, 32, 163, 0, 7, 4, 167, 0, 4, 3, 172]
abbrev dktX1_firstRow_3 : List UInt8 := dkwX1_firstRow_3 ++ []
def dkwX1_firstRow_2 : List UInt8 := [79, 132, 2, 1, 167, 255, 223, 132, 1, 1, 167, 255, 207, 42, 180, 1, 98, 158, 0, 26, 42, 180, 1, 98]
abbrev dktX1_firstRow_2 : List UInt8 := dkwX1_firstRow_2 ++ dktX1_firstRow_3
def dkwX1_firstRow_1 : List UInt8 := [180, 0, 201, 27, 46, 162, 0, 26, 42, 180, 0, 105, 42, 89, 180, 1, 98, 90, 4, 96, 181, 1, 98, 27]
abbrev dktX1_firstRow_1 : List UInt8 := dkwX1_firstRow_1 ++ dktX1_firstRow_2
def dkwX1_firstRow_0 : List UInt8 := [42, 3, 181, 1, 98, 3, 60, 27, 42, 182, 0, 188, 162, 0, 47, 3, 61, 28, 42, 180, 0, 64]
abbrev dktX1_firstRow_0 : List UInt8 := dkwX1_firstRow_0 ++ dktX1_firstRow_1
theorem dksX1_firstRow_0 : cX1_firstRow.data.toList.drop 0 = dktX1_firstRow_0 := by decide +kernel
theorem dksX1_firstRow_1 : cX1_firstRow.data.toList.drop 22 = dktX1_firstRow_1 := dk_seg dksX1_firstRow_0 22 rfl rfl
theorem dksX1_firstRow_2 : cX1_firstRow.data.toList.drop 46 = dktX1_firstRow_2 := dk_seg dksX1_firstRow_1 24 rfl rfl
theorem dksX1_firstRow_3 : cX1_firstRow.data.toList.drop 70 = dktX1_firstRow_3 := dk_seg dksX1_firstRow_2 24 rfl rfl
theorem dX1_firstRow_0 : decode cX1_firstRow 0 = .ok (.aload_n 0, 1) := dk_42 (dk_at dksX1_firstRow_0 0 rfl rfl)
theorem dX1_firstRow_1 : decode cX1_firstRow 1 = .ok (.iconst 0, 1) := dk_3 (dk_at dksX1_firstRow_0 1 rfl rfl)
theorem dX1_firstRow_2 : decode cX1_firstRow 2 = .ok (.putfield 354, 3) := dk_181 1 98 (dk_at dksX1_firstRow_0 2 rfl rfl)
theorem dX1_firstRow_5 : decode cX1_firstRow 5 = .ok (.iconst 0, 1) := dk_3 (dk_at dksX1_firstRow_0 5 rfl rfl)
theorem dX1_firstRow_6 : decode cX1_firstRow 6 = .ok (.istore_n 1, 1) := dk_60 (dk_at dksX1_firstRow_0 6 rfl rfl)
theorem dX1_firstRow_7 : decode cX1_firstRow 7 = .ok (.iload_n 1, 1) := dk_27 (dk_at dksX1_firstRow_0 7 rfl rfl)
theorem dX1_firstRow_8 : decode cX1_firstRow 8 = .ok (.aload_n 0, 1) := dk_42 (dk_at dksX1_firstRow_0 8 rfl rfl)
theorem dX1_firstRow_9 : decode cX1_firstRow 9 = .ok (.invokevirtual 188, 3) := dk_182 0 188 (dk_at dksX1_firstRow_0 9 rfl rfl)
theorem dX1_firstRow_12 : decode cX1_firstRow 12 = .ok (.if_icmp .ge 47, 3) := dk_162 0 47 (dk_at dksX1_firstRow_0 12 rfl rfl)
theorem dX1_firstRow_15 : decode cX1_firstRow 15 = .ok (.iconst 0, 1) := dk_3 (dk_at dksX1_firstRow_0 15 rfl rfl)
theorem dX1_firstRow_16 : decode cX1_firstRow 16 = .ok (.istore_n 2, 1) := dk_61 (dk_at dksX1_firstRow_0 16 rfl rfl)
theorem dX1_firstRow_17 : decode cX1_firstRow 17 = .ok (.iload_n 2, 1) := dk_28 (dk_at dksX1_firstRow_0 17 rfl rfl)
theorem dX1_firstRow_18 : decode cX1_firstRow 18 = .ok (.aload_n 0, 1) := dk_42 (dk_at dksX1_firstRow_0 18 rfl rfl)
theorem dX1_firstRow_19 : decode cX1_firstRow 19 = .ok (.getfield 64, 3) := dk_180 0 64 (dk_at dksX1_firstRow_0 19 rfl rfl)
theorem dX1_firstRow_22 : decode cX1_firstRow 22 = .ok (.getfield 201, 3) := dk_180 0 201 (dk_at dksX1_firstRow_1 0 rfl rfl)
theorem dX1_firstRow_25 : decode cX1_firstRow 25 = .ok (.iload_n 1, 1) := dk_27 (dk_at dksX1_firstRow_1 3 rfl rfl)
theorem dX1_firstRow_26 : decode cX1_firstRow 26 = .ok (.iaload, 1) := dk_46 (dk_at dksX1_firstRow_1 4 rfl rfl)
theorem dX1_firstRow_27 : decode cX1_firstRow 27 = .ok (.if_icmp .ge 26, 3) := dk_162 0 26 (dk_at dksX1_firstRow_1 5 rfl rfl)
theorem dX1_firstRow_30 : decode cX1_firstRow 30 = .ok (.aload_n 0, 1) := dk_42 (dk_at dksX1_firstRow_1 8 rfl rfl)
theorem dX1_firstRow_31 : decode cX1_firstRow 31 = .ok (.getfield 105, 3) := dk_180 0 105 (dk_at dksX1_firstRow_1 9 rfl rfl)
theorem dX1_firstRow_34 : decode cX1_firstRow 34 = .ok (.aload_n 0, 1) := dk_42 (dk_at dksX1_firstRow_1 12 rfl rfl)
theorem dX1_firstRow_35 : decode cX1_firstRow 35 = .ok (.dup, 1) := dk_89 (dk_at dksX1_firstRow_1 13 rfl rfl)
theorem dX1_firstRow_36 : decode cX1_firstRow 36 = .ok (.getfield 354, 3) := dk_180 1 98 (dk_at dksX1_firstRow_1 14 rfl rfl)
theorem dX1_firstRow_39 : decode cX1_firstRow 39 = .ok (.dup_x1, 1) := dk_90 (dk_at dksX1_firstRow_1 17 rfl rfl)
theorem dX1_firstRow_40 : decode cX1_firstRow 40 = .ok (.iconst 1, 1) := dk_4 (dk_at dksX1_firstRow_1 18 rfl rfl)
theorem dX1_firstRow_41 : decode cX1_firstRow 41 = .ok (.iadd, 1) := dk_96 (dk_at dksX1_firstRow_1 19 rfl rfl)
theorem dX1_firstRow_42 : decode cX1_firstRow 42 = .ok (.putfield 354, 3) := dk_181 1 98 (dk_at dksX1_firstRow_1 20 rfl rfl)
theorem dX1_firstRow_45 : decode cX1_firstRow 45 = .ok (.iload_n 1, 1) := dk_27 (dk_at dksX1_firstRow_1 23 rfl rfl)
theorem dX1_firstRow_46 : decode cX1_firstRow 46 = .ok (.iastore, 1) := dk_79 (dk_at dksX1_firstRow_2 0 rfl rfl)
theorem dX1_firstRow_47 : decode cX1_firstRow 47 = .ok (.iinc 2 1, 3) := dk_132 2 1 (dk_at dksX1_firstRow_2 1 rfl rfl)
theorem dX1_firstRow_50 : decode cX1_firstRow 50 = .ok (.goto (-33), 3) := dk_167 255 223 (dk_at dksX1_firstRow_2 4 rfl rfl)
theorem dX1_firstRow_53 : decode cX1_firstRow 53 = .ok (.iinc 1 1, 3) := dk_132 1 1 (dk_at dksX1_firstRow_2 7 rfl rfl)
theorem dX1_firstRow_56 : decode cX1_firstRow 56 = .ok (.goto (-49), 3) := dk_167 255 207 (dk_at dksX1_firstRow_2 10 rfl rfl)
theorem dX1_firstRow_59 : decode cX1_firstRow 59 = .ok (.aload_n 0, 1) := dk_42 (dk_at dksX1_firstRow_2 13 rfl rfl)
theorem dX1_firstRow_60 : decode cX1_firstRow 60 = .ok (.getfield 354, 3) := dk_180 1 98 (dk_at dksX1_firstRow_2 14 rfl rfl)
theorem dX1_firstRow_63 : decode cX1_firstRow 63 = .ok (.ifCond .le 26, 3) := dk_158 0 26 (dk_at dksX1_firstRow_2 17 rfl rfl)
theorem dX1_firstRow_66 : decode cX1_firstRow 66 = .ok (.aload_n 0, 1) := dk_42 (dk_at dksX1_firstRow_2 20 rfl rfl)
theorem dX1_firstRow_67 : decode cX1_firstRow 67 = .ok (.getfield 354, 3) := dk_180 1 98 (dk_at dksX1_firstRow_2 21 rfl rfl)
theorem dX1_firstRow_70 : decode cX1_firstRow 70 = .ok (.bipush 10, 2) := dk_16 10 (dk_at dksX1_firstRow_3 0 rfl rfl)
theorem dX1_firstRow_72 : decode cX1_firstRow 72 = .ok (.if_icmp .gt 17, 3) := dk_163 0 17 (dk_at dksX1_firstRow_3 2 rfl rfl)
theorem dX1_firstRow_75 : decode cX1_firstRow 75 = .ok (.aload_n 0, 1) := dk_42 (dk_at dksX1_firstRow_3 5 rfl rfl)
theorem dX1_firstRow_76 : decode cX1_firstRow 76 = .ok (.invokevirtual 355, 3) := dk_182 1 99 (dk_at dksX1_firstRow_3 6 rfl rfl)
theorem dX1_firstRow_79 : decode cX1_firstRow 79 = .ok (.sipush 20000, 3) := dk_17 78 32 (dk_at dksX1_firstRow_3 9 rfl rfl)
theorem dX1_firstRow_82 : decode cX1_firstRow 82 = .ok (.if_icmp .gt 7, 3) := dk_163 0 7 (dk_at dksX1_firstRow_3 12 rfl rfl)
theorem dX1_firstRow_85 : decode cX1_firstRow 85 = .ok (.iconst 1, 1) := dk_4 (dk_at dksX1_firstRow_3 15 rfl rfl)
theorem dX1_firstRow_86 : decode cX1_firstRow 86 = .ok (.goto 4, 3) := dk_167 0 4 (dk_at dksX1_firstRow_3 16 rfl rfl)
theorem dX1_firstRow_89 : decode cX1_firstRow 89 = .ok (.iconst 0, 1) := dk_3 (dk_at dksX1_firstRow_3 19 rfl rfl)
theorem dX1_firstRow_90 : decode cX1_firstRow 90 = .ok (.ireturn, 1) := dk_172 (dk_at dksX1_firstRow_3 20 rfl rfl)
abbrev cX1_rows : ByteArray := prog_1_method_32_code
def yX1_rows : MethodName := ⟨RX1, "rows", "()I"⟩
def dkwX1_rows_1 : List UInt8 := [180, 0, 105, 29, 46, 92, 46, 4, 96, 91, 79, 108, 60, 132, 3, 1, 167, 255, 225, 27, 172]
abbrev dktX1_rows_1 : List UInt8 := dkwX1_rows_1 ++ []
def dkwX1_rows_0 : List UInt8 := [4, 60, 16, 8, 188, 10, 77, 3, 62, 29, 42, 180, 1, 98, 162, 0, 29, 27, 29, 4, 96, 104, 44, 42]
abbrev dktX1_rows_0 : List UInt8 := dkwX1_rows_0 ++ dktX1_rows_1
theorem dksX1_rows_0 : cX1_rows.data.toList.drop 0 = dktX1_rows_0 := by decide +kernel
theorem dksX1_rows_1 : cX1_rows.data.toList.drop 24 = dktX1_rows_1 := dk_seg dksX1_rows_0 24 rfl rfl
theorem dX1_rows_0 : decode cX1_rows 0 = .ok (.iconst 1, 1) := dk_4 (dk_at dksX1_rows_0 0 rfl rfl)
theorem dX1_rows_1 : decode cX1_rows 1 = .ok (.istore_n 1, 1) := dk_60 (dk_at dksX1_rows_0 1 rfl rfl)
theorem dX1_rows_2 : decode cX1_rows 2 = .ok (.bipush 8, 2) := dk_16 8 (dk_at dksX1_rows_0 2 rfl rfl)
theorem dX1_rows_4 : decode cX1_rows 4 = .ok (.newarray .int, 2) := dk_188_10 (dk_at dksX1_rows_0 4 rfl rfl)
theorem dX1_rows_6 : decode cX1_rows 6 = .ok (.astore_n 2, 1) := dk_77 (dk_at dksX1_rows_0 6 rfl rfl)
theorem dX1_rows_7 : decode cX1_rows 7 = .ok (.iconst 0, 1) := dk_3 (dk_at dksX1_rows_0 7 rfl rfl)
theorem dX1_rows_8 : decode cX1_rows 8 = .ok (.istore_n 3, 1) := dk_62 (dk_at dksX1_rows_0 8 rfl rfl)
theorem dX1_rows_9 : decode cX1_rows 9 = .ok (.iload_n 3, 1) := dk_29 (dk_at dksX1_rows_0 9 rfl rfl)
theorem dX1_rows_10 : decode cX1_rows 10 = .ok (.aload_n 0, 1) := dk_42 (dk_at dksX1_rows_0 10 rfl rfl)
theorem dX1_rows_11 : decode cX1_rows 11 = .ok (.getfield 354, 3) := dk_180 1 98 (dk_at dksX1_rows_0 11 rfl rfl)
theorem dX1_rows_14 : decode cX1_rows 14 = .ok (.if_icmp .ge 29, 3) := dk_162 0 29 (dk_at dksX1_rows_0 14 rfl rfl)
theorem dX1_rows_17 : decode cX1_rows 17 = .ok (.iload_n 1, 1) := dk_27 (dk_at dksX1_rows_0 17 rfl rfl)
theorem dX1_rows_18 : decode cX1_rows 18 = .ok (.iload_n 3, 1) := dk_29 (dk_at dksX1_rows_0 18 rfl rfl)
theorem dX1_rows_19 : decode cX1_rows 19 = .ok (.iconst 1, 1) := dk_4 (dk_at dksX1_rows_0 19 rfl rfl)
theorem dX1_rows_20 : decode cX1_rows 20 = .ok (.iadd, 1) := dk_96 (dk_at dksX1_rows_0 20 rfl rfl)
theorem dX1_rows_21 : decode cX1_rows 21 = .ok (.imul, 1) := dk_104 (dk_at dksX1_rows_0 21 rfl rfl)
theorem dX1_rows_22 : decode cX1_rows 22 = .ok (.aload_n 2, 1) := dk_44 (dk_at dksX1_rows_0 22 rfl rfl)
theorem dX1_rows_23 : decode cX1_rows 23 = .ok (.aload_n 0, 1) := dk_42 (dk_at dksX1_rows_0 23 rfl rfl)
theorem dX1_rows_24 : decode cX1_rows 24 = .ok (.getfield 105, 3) := dk_180 0 105 (dk_at dksX1_rows_1 0 rfl rfl)
theorem dX1_rows_27 : decode cX1_rows 27 = .ok (.iload_n 3, 1) := dk_29 (dk_at dksX1_rows_1 3 rfl rfl)
theorem dX1_rows_28 : decode cX1_rows 28 = .ok (.iaload, 1) := dk_46 (dk_at dksX1_rows_1 4 rfl rfl)
theorem dX1_rows_29 : decode cX1_rows 29 = .ok (.dup2, 1) := dk_92 (dk_at dksX1_rows_1 5 rfl rfl)
theorem dX1_rows_30 : decode cX1_rows 30 = .ok (.iaload, 1) := dk_46 (dk_at dksX1_rows_1 6 rfl rfl)
theorem dX1_rows_31 : decode cX1_rows 31 = .ok (.iconst 1, 1) := dk_4 (dk_at dksX1_rows_1 7 rfl rfl)
theorem dX1_rows_32 : decode cX1_rows 32 = .ok (.iadd, 1) := dk_96 (dk_at dksX1_rows_1 8 rfl rfl)
theorem dX1_rows_33 : decode cX1_rows 33 = .ok (.dup_x2, 1) := dk_91 (dk_at dksX1_rows_1 9 rfl rfl)
theorem dX1_rows_34 : decode cX1_rows 34 = .ok (.iastore, 1) := dk_79 (dk_at dksX1_rows_1 10 rfl rfl)
theorem dX1_rows_35 : decode cX1_rows 35 = .ok (.idiv, 1) := dk_108 (dk_at dksX1_rows_1 11 rfl rfl)
theorem dX1_rows_36 : decode cX1_rows 36 = .ok (.istore_n 1, 1) := dk_60 (dk_at dksX1_rows_1 12 rfl rfl)
theorem dX1_rows_37 : decode cX1_rows 37 = .ok (.iinc 3 1, 3) := dk_132 3 1 (dk_at dksX1_rows_1 13 rfl rfl)
theorem dX1_rows_40 : decode cX1_rows 40 = .ok (.goto (-31), 3) := dk_167 255 225 (dk_at dksX1_rows_1 16 rfl rfl)
theorem dX1_rows_43 : decode cX1_rows 43 = .ok (.iload_n 1, 1) := dk_27 (dk_at dksX1_rows_1 19 rfl rfl)
theorem dX1_rows_44 : decode cX1_rows 44 = .ok (.ireturn, 1) := dk_172 (dk_at dksX1_rows_1 20 rfl rfl)
abbrev cX1_plays : ByteArray := prog_1_method_36_code
def yX1_plays : MethodName := ⟨RX1, "plays", "(I[I)V"⟩
def dkwX1_plays_1 : List UInt8 := [177]
abbrev dktX1_plays_1 : List UInt8 := dkwX1_plays_1 ++ []
def dkwX1_plays_0 : List UInt8 := [42, 27, 182, 1, 106, 42, 180, 0, 57, 42, 180, 0, 84, 44, 42, 180, 0, 64, 182, 1, 78, 182, 1, 81]
abbrev dktX1_plays_0 : List UInt8 := dkwX1_plays_0 ++ dktX1_plays_1
theorem dksX1_plays_0 : cX1_plays.data.toList.drop 0 = dktX1_plays_0 := by decide +kernel
theorem dksX1_plays_1 : cX1_plays.data.toList.drop 24 = dktX1_plays_1 := dk_seg dksX1_plays_0 24 rfl rfl
theorem dX1_plays_0 : decode cX1_plays 0 = .ok (.aload_n 0, 1) := dk_42 (dk_at dksX1_plays_0 0 rfl rfl)
theorem dX1_plays_1 : decode cX1_plays 1 = .ok (.iload_n 1, 1) := dk_27 (dk_at dksX1_plays_0 1 rfl rfl)
theorem dX1_plays_2 : decode cX1_plays 2 = .ok (.invokevirtual 362, 3) := dk_182 1 106 (dk_at dksX1_plays_0 2 rfl rfl)
theorem dX1_plays_5 : decode cX1_plays 5 = .ok (.aload_n 0, 1) := dk_42 (dk_at dksX1_plays_0 5 rfl rfl)
theorem dX1_plays_6 : decode cX1_plays 6 = .ok (.getfield 57, 3) := dk_180 0 57 (dk_at dksX1_plays_0 6 rfl rfl)
theorem dX1_plays_9 : decode cX1_plays 9 = .ok (.aload_n 0, 1) := dk_42 (dk_at dksX1_plays_0 9 rfl rfl)
theorem dX1_plays_10 : decode cX1_plays 10 = .ok (.getfield 84, 3) := dk_180 0 84 (dk_at dksX1_plays_0 10 rfl rfl)
theorem dX1_plays_13 : decode cX1_plays 13 = .ok (.aload_n 2, 1) := dk_44 (dk_at dksX1_plays_0 13 rfl rfl)
theorem dX1_plays_14 : decode cX1_plays 14 = .ok (.aload_n 0, 1) := dk_42 (dk_at dksX1_plays_0 14 rfl rfl)
theorem dX1_plays_15 : decode cX1_plays 15 = .ok (.getfield 64, 3) := dk_180 0 64 (dk_at dksX1_plays_0 15 rfl rfl)
theorem dX1_plays_18 : decode cX1_plays 18 = .ok (.invokevirtual 334, 3) := dk_182 1 78 (dk_at dksX1_plays_0 18 rfl rfl)
theorem dX1_plays_21 : decode cX1_plays 21 = .ok (.invokevirtual 337, 3) := dk_182 1 81 (dk_at dksX1_plays_0 21 rfl rfl)
theorem dX1_plays_24 : decode cX1_plays 24 = .ok (.return_, 1) := dk_177 (dk_at dksX1_plays_1 0 rfl rfl)
abbrev cX1_deals_2 : ByteArray := prog_1_method_35_code
def yX1_deals_2 : MethodName := ⟨RX1, "deals", "(I)V"⟩
def dkwX1_deals_2_2 : List UInt8 := [3, 182, 0, 175, 132, 2, 1, 167, 255, 211, 177]
abbrev dktX1_deals_2_2 : List UInt8 := dkwX1_deals_2_2 ++ []
def dkwX1_deals_2_1 : List UInt8 := [180, 1, 98, 42, 180, 1, 98, 5, 108, 100, 162, 0, 7, 3, 167, 0, 4, 4, 42, 180, 0, 105, 28, 46]
abbrev dktX1_deals_2_1 : List UInt8 := dkwX1_deals_2_1 ++ dktX1_deals_2_2
def dkwX1_deals_2_0 : List UInt8 := [42, 180, 0, 84, 27, 182, 0, 123, 3, 61, 28, 42, 180, 1, 98, 162, 0, 43, 42, 180, 0, 84, 28, 42]
abbrev dktX1_deals_2_0 : List UInt8 := dkwX1_deals_2_0 ++ dktX1_deals_2_1
theorem dksX1_deals_2_0 : cX1_deals_2.data.toList.drop 0 = dktX1_deals_2_0 := by decide +kernel
theorem dksX1_deals_2_1 : cX1_deals_2.data.toList.drop 24 = dktX1_deals_2_1 := dk_seg dksX1_deals_2_0 24 rfl rfl
theorem dksX1_deals_2_2 : cX1_deals_2.data.toList.drop 48 = dktX1_deals_2_2 := dk_seg dksX1_deals_2_1 24 rfl rfl
theorem dX1_deals_2_0 : decode cX1_deals_2 0 = .ok (.aload_n 0, 1) := dk_42 (dk_at dksX1_deals_2_0 0 rfl rfl)
theorem dX1_deals_2_1 : decode cX1_deals_2 1 = .ok (.getfield 84, 3) := dk_180 0 84 (dk_at dksX1_deals_2_0 1 rfl rfl)
theorem dX1_deals_2_4 : decode cX1_deals_2 4 = .ok (.iload_n 1, 1) := dk_27 (dk_at dksX1_deals_2_0 4 rfl rfl)
theorem dX1_deals_2_5 : decode cX1_deals_2 5 = .ok (.invokevirtual 123, 3) := dk_182 0 123 (dk_at dksX1_deals_2_0 5 rfl rfl)
theorem dX1_deals_2_8 : decode cX1_deals_2 8 = .ok (.iconst 0, 1) := dk_3 (dk_at dksX1_deals_2_0 8 rfl rfl)
theorem dX1_deals_2_9 : decode cX1_deals_2 9 = .ok (.istore_n 2, 1) := dk_61 (dk_at dksX1_deals_2_0 9 rfl rfl)
theorem dX1_deals_2_10 : decode cX1_deals_2 10 = .ok (.iload_n 2, 1) := dk_28 (dk_at dksX1_deals_2_0 10 rfl rfl)
theorem dX1_deals_2_11 : decode cX1_deals_2 11 = .ok (.aload_n 0, 1) := dk_42 (dk_at dksX1_deals_2_0 11 rfl rfl)
theorem dX1_deals_2_12 : decode cX1_deals_2 12 = .ok (.getfield 354, 3) := dk_180 1 98 (dk_at dksX1_deals_2_0 12 rfl rfl)
theorem dX1_deals_2_15 : decode cX1_deals_2 15 = .ok (.if_icmp .ge 43, 3) := dk_162 0 43 (dk_at dksX1_deals_2_0 15 rfl rfl)
theorem dX1_deals_2_18 : decode cX1_deals_2 18 = .ok (.aload_n 0, 1) := dk_42 (dk_at dksX1_deals_2_0 18 rfl rfl)
theorem dX1_deals_2_19 : decode cX1_deals_2 19 = .ok (.getfield 84, 3) := dk_180 0 84 (dk_at dksX1_deals_2_0 19 rfl rfl)
theorem dX1_deals_2_22 : decode cX1_deals_2 22 = .ok (.iload_n 2, 1) := dk_28 (dk_at dksX1_deals_2_0 22 rfl rfl)
theorem dX1_deals_2_23 : decode cX1_deals_2 23 = .ok (.aload_n 0, 1) := dk_42 (dk_at dksX1_deals_2_0 23 rfl rfl)
theorem dX1_deals_2_24 : decode cX1_deals_2 24 = .ok (.getfield 354, 3) := dk_180 1 98 (dk_at dksX1_deals_2_1 0 rfl rfl)
theorem dX1_deals_2_27 : decode cX1_deals_2 27 = .ok (.aload_n 0, 1) := dk_42 (dk_at dksX1_deals_2_1 3 rfl rfl)
theorem dX1_deals_2_28 : decode cX1_deals_2 28 = .ok (.getfield 354, 3) := dk_180 1 98 (dk_at dksX1_deals_2_1 4 rfl rfl)
theorem dX1_deals_2_31 : decode cX1_deals_2 31 = .ok (.iconst 2, 1) := dk_5 (dk_at dksX1_deals_2_1 7 rfl rfl)
theorem dX1_deals_2_32 : decode cX1_deals_2 32 = .ok (.idiv, 1) := dk_108 (dk_at dksX1_deals_2_1 8 rfl rfl)
theorem dX1_deals_2_33 : decode cX1_deals_2 33 = .ok (.isub, 1) := dk_100 (dk_at dksX1_deals_2_1 9 rfl rfl)
theorem dX1_deals_2_34 : decode cX1_deals_2 34 = .ok (.if_icmp .ge 7, 3) := dk_162 0 7 (dk_at dksX1_deals_2_1 10 rfl rfl)
theorem dX1_deals_2_37 : decode cX1_deals_2 37 = .ok (.iconst 0, 1) := dk_3 (dk_at dksX1_deals_2_1 13 rfl rfl)
theorem dX1_deals_2_38 : decode cX1_deals_2 38 = .ok (.goto 4, 3) := dk_167 0 4 (dk_at dksX1_deals_2_1 14 rfl rfl)
theorem dX1_deals_2_41 : decode cX1_deals_2 41 = .ok (.iconst 1, 1) := dk_4 (dk_at dksX1_deals_2_1 17 rfl rfl)
theorem dX1_deals_2_42 : decode cX1_deals_2 42 = .ok (.aload_n 0, 1) := dk_42 (dk_at dksX1_deals_2_1 18 rfl rfl)
theorem dX1_deals_2_43 : decode cX1_deals_2 43 = .ok (.getfield 105, 3) := dk_180 0 105 (dk_at dksX1_deals_2_1 19 rfl rfl)
theorem dX1_deals_2_46 : decode cX1_deals_2 46 = .ok (.iload_n 2, 1) := dk_28 (dk_at dksX1_deals_2_1 22 rfl rfl)
theorem dX1_deals_2_47 : decode cX1_deals_2 47 = .ok (.iaload, 1) := dk_46 (dk_at dksX1_deals_2_1 23 rfl rfl)
theorem dX1_deals_2_48 : decode cX1_deals_2 48 = .ok (.iconst 0, 1) := dk_3 (dk_at dksX1_deals_2_2 0 rfl rfl)
theorem dX1_deals_2_49 : decode cX1_deals_2 49 = .ok (.invokevirtual 175, 3) := dk_182 0 175 (dk_at dksX1_deals_2_2 1 rfl rfl)
theorem dX1_deals_2_52 : decode cX1_deals_2 52 = .ok (.iinc 2 1, 3) := dk_132 2 1 (dk_at dksX1_deals_2_2 4 rfl rfl)
theorem dX1_deals_2_55 : decode cX1_deals_2 55 = .ok (.goto (-45), 3) := dk_167 255 211 (dk_at dksX1_deals_2_2 7 rfl rfl)
theorem dX1_deals_2_58 : decode cX1_deals_2 58 = .ok (.return_, 1) := dk_177 (dk_at dksX1_deals_2_2 10 rfl rfl)
abbrev cX1_nextRow : ByteArray := prog_1_method_33_code
def yX1_nextRow : MethodName := ⟨RX1, "nextRow", "()Z"⟩
def dkwX1_nextRow_4 : List UInt8 := [21, 4, 182, 1, 102, 132, 3, 1, 132, 4, 255, 167, 255, 237, 4, 172]
abbrev dktX1_nextRow_4 : List UInt8 := dkwX1_nextRow_4 ++ []
def dkwX1_nextRow_3 : List UInt8 := [182, 1, 102, 27, 4, 96, 62, 42, 180, 1, 98, 4, 100, 54, 4, 29, 21, 4, 162, 0, 19, 42, 29]
abbrev dktX1_nextRow_3 : List UInt8 := dkwX1_nextRow_3 ++ dktX1_nextRow_4
def dkwX1_nextRow_2 : List UInt8 := [180, 0, 105, 28, 46, 42, 180, 0, 105, 27, 46, 163, 0, 9, 132, 2, 255, 167, 255, 238, 42, 27, 28]
abbrev dktX1_nextRow_2 : List UInt8 := dkwX1_nextRow_2 ++ dktX1_nextRow_3
def dkwX1_nextRow_1 : List UInt8 := [46, 161, 0, 9, 132, 1, 255, 167, 255, 232, 27, 156, 0, 5, 3, 172, 42, 180, 1, 98, 4, 100, 61, 42]
abbrev dktX1_nextRow_1 : List UInt8 := dkwX1_nextRow_1 ++ dktX1_nextRow_2
def dkwX1_nextRow_0 : List UInt8 := [42, 180, 1, 98, 5, 100, 60, 27, 155, 0, 26, 42, 180, 0, 105, 27, 46, 42, 180, 0, 105, 27, 4, 96]
abbrev dktX1_nextRow_0 : List UInt8 := dkwX1_nextRow_0 ++ dktX1_nextRow_1
theorem dksX1_nextRow_0 : cX1_nextRow.data.toList.drop 0 = dktX1_nextRow_0 := by decide +kernel
theorem dksX1_nextRow_1 : cX1_nextRow.data.toList.drop 24 = dktX1_nextRow_1 := dk_seg dksX1_nextRow_0 24 rfl rfl
theorem dksX1_nextRow_2 : cX1_nextRow.data.toList.drop 48 = dktX1_nextRow_2 := dk_seg dksX1_nextRow_1 24 rfl rfl
theorem dksX1_nextRow_3 : cX1_nextRow.data.toList.drop 71 = dktX1_nextRow_3 := dk_seg dksX1_nextRow_2 23 rfl rfl
theorem dksX1_nextRow_4 : cX1_nextRow.data.toList.drop 94 = dktX1_nextRow_4 := dk_seg dksX1_nextRow_3 23 rfl rfl
theorem dX1_nextRow_0 : decode cX1_nextRow 0 = .ok (.aload_n 0, 1) := dk_42 (dk_at dksX1_nextRow_0 0 rfl rfl)
theorem dX1_nextRow_1 : decode cX1_nextRow 1 = .ok (.getfield 354, 3) := dk_180 1 98 (dk_at dksX1_nextRow_0 1 rfl rfl)
theorem dX1_nextRow_4 : decode cX1_nextRow 4 = .ok (.iconst 2, 1) := dk_5 (dk_at dksX1_nextRow_0 4 rfl rfl)
theorem dX1_nextRow_5 : decode cX1_nextRow 5 = .ok (.isub, 1) := dk_100 (dk_at dksX1_nextRow_0 5 rfl rfl)
theorem dX1_nextRow_6 : decode cX1_nextRow 6 = .ok (.istore_n 1, 1) := dk_60 (dk_at dksX1_nextRow_0 6 rfl rfl)
theorem dX1_nextRow_7 : decode cX1_nextRow 7 = .ok (.iload_n 1, 1) := dk_27 (dk_at dksX1_nextRow_0 7 rfl rfl)
theorem dX1_nextRow_8 : decode cX1_nextRow 8 = .ok (.ifCond .lt 26, 3) := dk_155 0 26 (dk_at dksX1_nextRow_0 8 rfl rfl)
theorem dX1_nextRow_11 : decode cX1_nextRow 11 = .ok (.aload_n 0, 1) := dk_42 (dk_at dksX1_nextRow_0 11 rfl rfl)
theorem dX1_nextRow_12 : decode cX1_nextRow 12 = .ok (.getfield 105, 3) := dk_180 0 105 (dk_at dksX1_nextRow_0 12 rfl rfl)
theorem dX1_nextRow_15 : decode cX1_nextRow 15 = .ok (.iload_n 1, 1) := dk_27 (dk_at dksX1_nextRow_0 15 rfl rfl)
theorem dX1_nextRow_16 : decode cX1_nextRow 16 = .ok (.iaload, 1) := dk_46 (dk_at dksX1_nextRow_0 16 rfl rfl)
theorem dX1_nextRow_17 : decode cX1_nextRow 17 = .ok (.aload_n 0, 1) := dk_42 (dk_at dksX1_nextRow_0 17 rfl rfl)
theorem dX1_nextRow_18 : decode cX1_nextRow 18 = .ok (.getfield 105, 3) := dk_180 0 105 (dk_at dksX1_nextRow_0 18 rfl rfl)
theorem dX1_nextRow_21 : decode cX1_nextRow 21 = .ok (.iload_n 1, 1) := dk_27 (dk_at dksX1_nextRow_0 21 rfl rfl)
theorem dX1_nextRow_22 : decode cX1_nextRow 22 = .ok (.iconst 1, 1) := dk_4 (dk_at dksX1_nextRow_0 22 rfl rfl)
theorem dX1_nextRow_23 : decode cX1_nextRow 23 = .ok (.iadd, 1) := dk_96 (dk_at dksX1_nextRow_0 23 rfl rfl)
theorem dX1_nextRow_24 : decode cX1_nextRow 24 = .ok (.iaload, 1) := dk_46 (dk_at dksX1_nextRow_1 0 rfl rfl)
theorem dX1_nextRow_25 : decode cX1_nextRow 25 = .ok (.if_icmp .lt 9, 3) := dk_161 0 9 (dk_at dksX1_nextRow_1 1 rfl rfl)
theorem dX1_nextRow_28 : decode cX1_nextRow 28 = .ok (.iinc 1 (-1), 3) := dk_132 1 255 (dk_at dksX1_nextRow_1 4 rfl rfl)
theorem dX1_nextRow_31 : decode cX1_nextRow 31 = .ok (.goto (-24), 3) := dk_167 255 232 (dk_at dksX1_nextRow_1 7 rfl rfl)
theorem dX1_nextRow_34 : decode cX1_nextRow 34 = .ok (.iload_n 1, 1) := dk_27 (dk_at dksX1_nextRow_1 10 rfl rfl)
theorem dX1_nextRow_35 : decode cX1_nextRow 35 = .ok (.ifCond .ge 5, 3) := dk_156 0 5 (dk_at dksX1_nextRow_1 11 rfl rfl)
theorem dX1_nextRow_38 : decode cX1_nextRow 38 = .ok (.iconst 0, 1) := dk_3 (dk_at dksX1_nextRow_1 14 rfl rfl)
theorem dX1_nextRow_39 : decode cX1_nextRow 39 = .ok (.ireturn, 1) := dk_172 (dk_at dksX1_nextRow_1 15 rfl rfl)
theorem dX1_nextRow_40 : decode cX1_nextRow 40 = .ok (.aload_n 0, 1) := dk_42 (dk_at dksX1_nextRow_1 16 rfl rfl)
theorem dX1_nextRow_41 : decode cX1_nextRow 41 = .ok (.getfield 354, 3) := dk_180 1 98 (dk_at dksX1_nextRow_1 17 rfl rfl)
theorem dX1_nextRow_44 : decode cX1_nextRow 44 = .ok (.iconst 1, 1) := dk_4 (dk_at dksX1_nextRow_1 20 rfl rfl)
theorem dX1_nextRow_45 : decode cX1_nextRow 45 = .ok (.isub, 1) := dk_100 (dk_at dksX1_nextRow_1 21 rfl rfl)
theorem dX1_nextRow_46 : decode cX1_nextRow 46 = .ok (.istore_n 2, 1) := dk_61 (dk_at dksX1_nextRow_1 22 rfl rfl)
theorem dX1_nextRow_47 : decode cX1_nextRow 47 = .ok (.aload_n 0, 1) := dk_42 (dk_at dksX1_nextRow_1 23 rfl rfl)
theorem dX1_nextRow_48 : decode cX1_nextRow 48 = .ok (.getfield 105, 3) := dk_180 0 105 (dk_at dksX1_nextRow_2 0 rfl rfl)
theorem dX1_nextRow_51 : decode cX1_nextRow 51 = .ok (.iload_n 2, 1) := dk_28 (dk_at dksX1_nextRow_2 3 rfl rfl)
theorem dX1_nextRow_52 : decode cX1_nextRow 52 = .ok (.iaload, 1) := dk_46 (dk_at dksX1_nextRow_2 4 rfl rfl)
theorem dX1_nextRow_53 : decode cX1_nextRow 53 = .ok (.aload_n 0, 1) := dk_42 (dk_at dksX1_nextRow_2 5 rfl rfl)
theorem dX1_nextRow_54 : decode cX1_nextRow 54 = .ok (.getfield 105, 3) := dk_180 0 105 (dk_at dksX1_nextRow_2 6 rfl rfl)
theorem dX1_nextRow_57 : decode cX1_nextRow 57 = .ok (.iload_n 1, 1) := dk_27 (dk_at dksX1_nextRow_2 9 rfl rfl)
theorem dX1_nextRow_58 : decode cX1_nextRow 58 = .ok (.iaload, 1) := dk_46 (dk_at dksX1_nextRow_2 10 rfl rfl)
theorem dX1_nextRow_59 : decode cX1_nextRow 59 = .ok (.if_icmp .gt 9, 3) := dk_163 0 9 (dk_at dksX1_nextRow_2 11 rfl rfl)
theorem dX1_nextRow_62 : decode cX1_nextRow 62 = .ok (.iinc 2 (-1), 3) := dk_132 2 255 (dk_at dksX1_nextRow_2 14 rfl rfl)
theorem dX1_nextRow_65 : decode cX1_nextRow 65 = .ok (.goto (-18), 3) := dk_167 255 238 (dk_at dksX1_nextRow_2 17 rfl rfl)
theorem dX1_nextRow_68 : decode cX1_nextRow 68 = .ok (.aload_n 0, 1) := dk_42 (dk_at dksX1_nextRow_2 20 rfl rfl)
theorem dX1_nextRow_69 : decode cX1_nextRow 69 = .ok (.iload_n 1, 1) := dk_27 (dk_at dksX1_nextRow_2 21 rfl rfl)
theorem dX1_nextRow_70 : decode cX1_nextRow 70 = .ok (.iload_n 2, 1) := dk_28 (dk_at dksX1_nextRow_2 22 rfl rfl)
theorem dX1_nextRow_71 : decode cX1_nextRow 71 = .ok (.invokevirtual 358, 3) := dk_182 1 102 (dk_at dksX1_nextRow_3 0 rfl rfl)
theorem dX1_nextRow_74 : decode cX1_nextRow 74 = .ok (.iload_n 1, 1) := dk_27 (dk_at dksX1_nextRow_3 3 rfl rfl)
theorem dX1_nextRow_75 : decode cX1_nextRow 75 = .ok (.iconst 1, 1) := dk_4 (dk_at dksX1_nextRow_3 4 rfl rfl)
theorem dX1_nextRow_76 : decode cX1_nextRow 76 = .ok (.iadd, 1) := dk_96 (dk_at dksX1_nextRow_3 5 rfl rfl)
theorem dX1_nextRow_77 : decode cX1_nextRow 77 = .ok (.istore_n 3, 1) := dk_62 (dk_at dksX1_nextRow_3 6 rfl rfl)
theorem dX1_nextRow_78 : decode cX1_nextRow 78 = .ok (.aload_n 0, 1) := dk_42 (dk_at dksX1_nextRow_3 7 rfl rfl)
theorem dX1_nextRow_79 : decode cX1_nextRow 79 = .ok (.getfield 354, 3) := dk_180 1 98 (dk_at dksX1_nextRow_3 8 rfl rfl)
theorem dX1_nextRow_82 : decode cX1_nextRow 82 = .ok (.iconst 1, 1) := dk_4 (dk_at dksX1_nextRow_3 11 rfl rfl)
theorem dX1_nextRow_83 : decode cX1_nextRow 83 = .ok (.isub, 1) := dk_100 (dk_at dksX1_nextRow_3 12 rfl rfl)
theorem dX1_nextRow_84 : decode cX1_nextRow 84 = .ok (.istore 4, 2) := dk_54 4 (dk_at dksX1_nextRow_3 13 rfl rfl)
theorem dX1_nextRow_86 : decode cX1_nextRow 86 = .ok (.iload_n 3, 1) := dk_29 (dk_at dksX1_nextRow_3 15 rfl rfl)
theorem dX1_nextRow_87 : decode cX1_nextRow 87 = .ok (.iload 4, 2) := dk_21 4 (dk_at dksX1_nextRow_3 16 rfl rfl)
theorem dX1_nextRow_89 : decode cX1_nextRow 89 = .ok (.if_icmp .ge 19, 3) := dk_162 0 19 (dk_at dksX1_nextRow_3 18 rfl rfl)
theorem dX1_nextRow_92 : decode cX1_nextRow 92 = .ok (.aload_n 0, 1) := dk_42 (dk_at dksX1_nextRow_3 21 rfl rfl)
theorem dX1_nextRow_93 : decode cX1_nextRow 93 = .ok (.iload_n 3, 1) := dk_29 (dk_at dksX1_nextRow_3 22 rfl rfl)
theorem dX1_nextRow_94 : decode cX1_nextRow 94 = .ok (.iload 4, 2) := dk_21 4 (dk_at dksX1_nextRow_4 0 rfl rfl)
theorem dX1_nextRow_96 : decode cX1_nextRow 96 = .ok (.invokevirtual 358, 3) := dk_182 1 102 (dk_at dksX1_nextRow_4 2 rfl rfl)
theorem dX1_nextRow_99 : decode cX1_nextRow 99 = .ok (.iinc 3 1, 3) := dk_132 3 1 (dk_at dksX1_nextRow_4 5 rfl rfl)
theorem dX1_nextRow_102 : decode cX1_nextRow 102 = .ok (.iinc 4 (-1), 3) := dk_132 4 255 (dk_at dksX1_nextRow_4 8 rfl rfl)
theorem dX1_nextRow_105 : decode cX1_nextRow 105 = .ok (.goto (-19), 3) := dk_167 255 237 (dk_at dksX1_nextRow_4 11 rfl rfl)
theorem dX1_nextRow_108 : decode cX1_nextRow 108 = .ok (.iconst 1, 1) := dk_4 (dk_at dksX1_nextRow_4 14 rfl rfl)
theorem dX1_nextRow_109 : decode cX1_nextRow 109 = .ok (.ireturn, 1) := dk_172 (dk_at dksX1_nextRow_4 15 rfl rfl)
abbrev cX1_changes : ByteArray := prog_1_method_34_code
def yX1_changes : MethodName := ⟨RX1, "changes", "(II)V"⟩
def dkwX1_changes_1 : List UInt8 := [29, 79, 177]
abbrev dktX1_changes_1 : List UInt8 := dkwX1_changes_1 ++ []
def dkwX1_changes_0 : List UInt8 := [42, 180, 0, 105, 27, 46, 62, 42, 180, 0, 105, 27, 42, 180, 0, 105, 28, 46, 79, 42, 180, 0, 105, 28]
abbrev dktX1_changes_0 : List UInt8 := dkwX1_changes_0 ++ dktX1_changes_1
theorem dksX1_changes_0 : cX1_changes.data.toList.drop 0 = dktX1_changes_0 := by decide +kernel
theorem dksX1_changes_1 : cX1_changes.data.toList.drop 24 = dktX1_changes_1 := dk_seg dksX1_changes_0 24 rfl rfl
theorem dX1_changes_0 : decode cX1_changes 0 = .ok (.aload_n 0, 1) := dk_42 (dk_at dksX1_changes_0 0 rfl rfl)
theorem dX1_changes_1 : decode cX1_changes 1 = .ok (.getfield 105, 3) := dk_180 0 105 (dk_at dksX1_changes_0 1 rfl rfl)
theorem dX1_changes_4 : decode cX1_changes 4 = .ok (.iload_n 1, 1) := dk_27 (dk_at dksX1_changes_0 4 rfl rfl)
theorem dX1_changes_5 : decode cX1_changes 5 = .ok (.iaload, 1) := dk_46 (dk_at dksX1_changes_0 5 rfl rfl)
theorem dX1_changes_6 : decode cX1_changes 6 = .ok (.istore_n 3, 1) := dk_62 (dk_at dksX1_changes_0 6 rfl rfl)
theorem dX1_changes_7 : decode cX1_changes 7 = .ok (.aload_n 0, 1) := dk_42 (dk_at dksX1_changes_0 7 rfl rfl)
theorem dX1_changes_8 : decode cX1_changes 8 = .ok (.getfield 105, 3) := dk_180 0 105 (dk_at dksX1_changes_0 8 rfl rfl)
theorem dX1_changes_11 : decode cX1_changes 11 = .ok (.iload_n 1, 1) := dk_27 (dk_at dksX1_changes_0 11 rfl rfl)
theorem dX1_changes_12 : decode cX1_changes 12 = .ok (.aload_n 0, 1) := dk_42 (dk_at dksX1_changes_0 12 rfl rfl)
theorem dX1_changes_13 : decode cX1_changes 13 = .ok (.getfield 105, 3) := dk_180 0 105 (dk_at dksX1_changes_0 13 rfl rfl)
theorem dX1_changes_16 : decode cX1_changes 16 = .ok (.iload_n 2, 1) := dk_28 (dk_at dksX1_changes_0 16 rfl rfl)
theorem dX1_changes_17 : decode cX1_changes 17 = .ok (.iaload, 1) := dk_46 (dk_at dksX1_changes_0 17 rfl rfl)
theorem dX1_changes_18 : decode cX1_changes 18 = .ok (.iastore, 1) := dk_79 (dk_at dksX1_changes_0 18 rfl rfl)
theorem dX1_changes_19 : decode cX1_changes 19 = .ok (.aload_n 0, 1) := dk_42 (dk_at dksX1_changes_0 19 rfl rfl)
theorem dX1_changes_20 : decode cX1_changes 20 = .ok (.getfield 105, 3) := dk_180 0 105 (dk_at dksX1_changes_0 20 rfl rfl)
theorem dX1_changes_23 : decode cX1_changes 23 = .ok (.iload_n 2, 1) := dk_28 (dk_at dksX1_changes_0 23 rfl rfl)
theorem dX1_changes_24 : decode cX1_changes 24 = .ok (.iload_n 3, 1) := dk_29 (dk_at dksX1_changes_1 0 rfl rfl)
theorem dX1_changes_25 : decode cX1_changes 25 = .ok (.iastore, 1) := dk_79 (dk_at dksX1_changes_1 1 rfl rfl)
theorem dX1_changes_26 : decode cX1_changes 26 = .ok (.return_, 1) := dk_177 (dk_at dksX1_changes_1 2 rfl rfl)
abbrev cX1_row : ByteArray := prog_1_method_38_code
def yX1_row : MethodName := ⟨RX1, "row", "(II)I"⟩
def dkwX1_row_2 : List UInt8 := [167, 255, 239, 42, 180, 0, 105, 28, 46, 172]
abbrev dktX1_row_2 : List UInt8 := dkwX1_row_2 ++ []
def dkwX1_row_1 : List UInt8 := [154, 0, 5, 2, 172, 3, 62, 29, 27, 162, 0, 18, 42, 182, 1, 115, 154, 0, 5, 2, 172, 132, 3, 1]
abbrev dktX1_row_1 : List UInt8 := dkwX1_row_1 ++ dktX1_row_2
def dkwX1_row_0 : List UInt8 := [27, 155, 0, 24, 42, 182, 1, 108, 153, 0, 17, 28, 3, 42, 180, 1, 98, 4, 100, 184, 0, 190]
abbrev dktX1_row_0 : List UInt8 := dkwX1_row_0 ++ dktX1_row_1
theorem dksX1_row_0 : cX1_row.data.toList.drop 0 = dktX1_row_0 := by decide +kernel
theorem dksX1_row_1 : cX1_row.data.toList.drop 22 = dktX1_row_1 := dk_seg dksX1_row_0 22 rfl rfl
theorem dksX1_row_2 : cX1_row.data.toList.drop 46 = dktX1_row_2 := dk_seg dksX1_row_1 24 rfl rfl
theorem dX1_row_0 : decode cX1_row 0 = .ok (.iload_n 1, 1) := dk_27 (dk_at dksX1_row_0 0 rfl rfl)
theorem dX1_row_1 : decode cX1_row 1 = .ok (.ifCond .lt 24, 3) := dk_155 0 24 (dk_at dksX1_row_0 1 rfl rfl)
theorem dX1_row_4 : decode cX1_row 4 = .ok (.aload_n 0, 1) := dk_42 (dk_at dksX1_row_0 4 rfl rfl)
theorem dX1_row_5 : decode cX1_row 5 = .ok (.invokevirtual 364, 3) := dk_182 1 108 (dk_at dksX1_row_0 5 rfl rfl)
theorem dX1_row_8 : decode cX1_row 8 = .ok (.ifCond .eq 17, 3) := dk_153 0 17 (dk_at dksX1_row_0 8 rfl rfl)
theorem dX1_row_11 : decode cX1_row 11 = .ok (.iload_n 2, 1) := dk_28 (dk_at dksX1_row_0 11 rfl rfl)
theorem dX1_row_12 : decode cX1_row 12 = .ok (.iconst 0, 1) := dk_3 (dk_at dksX1_row_0 12 rfl rfl)
theorem dX1_row_13 : decode cX1_row 13 = .ok (.aload_n 0, 1) := dk_42 (dk_at dksX1_row_0 13 rfl rfl)
theorem dX1_row_14 : decode cX1_row 14 = .ok (.getfield 354, 3) := dk_180 1 98 (dk_at dksX1_row_0 14 rfl rfl)
theorem dX1_row_17 : decode cX1_row 17 = .ok (.iconst 1, 1) := dk_4 (dk_at dksX1_row_0 17 rfl rfl)
theorem dX1_row_18 : decode cX1_row 18 = .ok (.isub, 1) := dk_100 (dk_at dksX1_row_0 18 rfl rfl)
theorem dX1_row_19 : decode cX1_row 19 = .ok (.invokestatic 190, 3) := dk_184 0 190 (dk_at dksX1_row_0 19 rfl rfl)
theorem dX1_row_22 : decode cX1_row 22 = .ok (.ifCond .ne 5, 3) := dk_154 0 5 (dk_at dksX1_row_1 0 rfl rfl)
theorem dX1_row_25 : decode cX1_row 25 = .ok (.iconst (-1), 1) := dk_2 (dk_at dksX1_row_1 3 rfl rfl)
theorem dX1_row_26 : decode cX1_row 26 = .ok (.ireturn, 1) := dk_172 (dk_at dksX1_row_1 4 rfl rfl)
theorem dX1_row_27 : decode cX1_row 27 = .ok (.iconst 0, 1) := dk_3 (dk_at dksX1_row_1 5 rfl rfl)
theorem dX1_row_28 : decode cX1_row 28 = .ok (.istore_n 3, 1) := dk_62 (dk_at dksX1_row_1 6 rfl rfl)
theorem dX1_row_29 : decode cX1_row 29 = .ok (.iload_n 3, 1) := dk_29 (dk_at dksX1_row_1 7 rfl rfl)
theorem dX1_row_30 : decode cX1_row 30 = .ok (.iload_n 1, 1) := dk_27 (dk_at dksX1_row_1 8 rfl rfl)
theorem dX1_row_31 : decode cX1_row 31 = .ok (.if_icmp .ge 18, 3) := dk_162 0 18 (dk_at dksX1_row_1 9 rfl rfl)
theorem dX1_row_34 : decode cX1_row 34 = .ok (.aload_n 0, 1) := dk_42 (dk_at dksX1_row_1 12 rfl rfl)
theorem dX1_row_35 : decode cX1_row 35 = .ok (.invokevirtual 371, 3) := dk_182 1 115 (dk_at dksX1_row_1 13 rfl rfl)
theorem dX1_row_38 : decode cX1_row 38 = .ok (.ifCond .ne 5, 3) := dk_154 0 5 (dk_at dksX1_row_1 16 rfl rfl)
theorem dX1_row_41 : decode cX1_row 41 = .ok (.iconst (-1), 1) := dk_2 (dk_at dksX1_row_1 19 rfl rfl)
theorem dX1_row_42 : decode cX1_row 42 = .ok (.ireturn, 1) := dk_172 (dk_at dksX1_row_1 20 rfl rfl)
theorem dX1_row_43 : decode cX1_row 43 = .ok (.iinc 3 1, 3) := dk_132 3 1 (dk_at dksX1_row_1 21 rfl rfl)
theorem dX1_row_46 : decode cX1_row 46 = .ok (.goto (-17), 3) := dk_167 255 239 (dk_at dksX1_row_2 0 rfl rfl)
theorem dX1_row_49 : decode cX1_row 49 = .ok (.aload_n 0, 1) := dk_42 (dk_at dksX1_row_2 3 rfl rfl)
theorem dX1_row_50 : decode cX1_row 50 = .ok (.getfield 105, 3) := dk_180 0 105 (dk_at dksX1_row_2 4 rfl rfl)
theorem dX1_row_53 : decode cX1_row 53 = .ok (.iload_n 2, 1) := dk_28 (dk_at dksX1_row_2 7 rfl rfl)
theorem dX1_row_54 : decode cX1_row 54 = .ok (.iaload, 1) := dk_46 (dk_at dksX1_row_2 8 rfl rfl)
theorem dX1_row_55 : decode cX1_row 55 = .ok (.ireturn, 1) := dk_172 (dk_at dksX1_row_2 9 rfl rfl)
abbrev cX1_beginner : ByteArray := prog_1_method_39_code
def yX1_beginner : MethodName := ⟨RX1, "beginner", "(I)I"⟩
def dkwX1_beginner_4 : List UInt8 := [46, 172]
abbrev dktX1_beginner_4 : List UInt8 := dkwX1_beginner_4 ++ []
def dkwX1_beginner_3 : List UInt8 := [167, 0, 4, 5, 92, 46, 4, 96, 79, 132, 3, 1, 167, 255, 199, 42, 182, 1, 115, 154, 255, 190, 44, 27]
abbrev dktX1_beginner_3 : List UInt8 := dkwX1_beginner_3 ++ dktX1_beginner_4
def dkwX1_beginner_2 : List UInt8 := [180, 1, 88, 29, 160, 0, 7, 3, 167, 0, 19, 42, 180, 0, 57, 180, 1, 88, 5, 162, 0, 7, 4]
abbrev dktX1_beginner_2 : List UInt8 := dkwX1_beginner_2 ++ dktX1_beginner_3
def dkwX1_beginner_1 : List UInt8 := [29, 4, 163, 0, 58, 42, 29, 42, 180, 0, 64, 180, 0, 198, 182, 1, 111, 44, 42, 180, 0, 57]
abbrev dktX1_beginner_1 : List UInt8 := dkwX1_beginner_1 ++ dktX1_beginner_2
def dkwX1_beginner_0 : List UInt8 := [27, 3, 5, 184, 0, 190, 153, 0, 10, 42, 182, 1, 108, 154, 0, 5, 2, 172, 6, 188, 10, 77, 3, 62]
abbrev dktX1_beginner_0 : List UInt8 := dkwX1_beginner_0 ++ dktX1_beginner_1
theorem dksX1_beginner_0 : cX1_beginner.data.toList.drop 0 = dktX1_beginner_0 := by decide +kernel
theorem dksX1_beginner_1 : cX1_beginner.data.toList.drop 24 = dktX1_beginner_1 := dk_seg dksX1_beginner_0 24 rfl rfl
theorem dksX1_beginner_2 : cX1_beginner.data.toList.drop 46 = dktX1_beginner_2 := dk_seg dksX1_beginner_1 22 rfl rfl
theorem dksX1_beginner_3 : cX1_beginner.data.toList.drop 69 = dktX1_beginner_3 := dk_seg dksX1_beginner_2 23 rfl rfl
theorem dksX1_beginner_4 : cX1_beginner.data.toList.drop 93 = dktX1_beginner_4 := dk_seg dksX1_beginner_3 24 rfl rfl
theorem dX1_beginner_0 : decode cX1_beginner 0 = .ok (.iload_n 1, 1) := dk_27 (dk_at dksX1_beginner_0 0 rfl rfl)
theorem dX1_beginner_1 : decode cX1_beginner 1 = .ok (.iconst 0, 1) := dk_3 (dk_at dksX1_beginner_0 1 rfl rfl)
theorem dX1_beginner_2 : decode cX1_beginner 2 = .ok (.iconst 2, 1) := dk_5 (dk_at dksX1_beginner_0 2 rfl rfl)
theorem dX1_beginner_3 : decode cX1_beginner 3 = .ok (.invokestatic 190, 3) := dk_184 0 190 (dk_at dksX1_beginner_0 3 rfl rfl)
theorem dX1_beginner_6 : decode cX1_beginner 6 = .ok (.ifCond .eq 10, 3) := dk_153 0 10 (dk_at dksX1_beginner_0 6 rfl rfl)
theorem dX1_beginner_9 : decode cX1_beginner 9 = .ok (.aload_n 0, 1) := dk_42 (dk_at dksX1_beginner_0 9 rfl rfl)
theorem dX1_beginner_10 : decode cX1_beginner 10 = .ok (.invokevirtual 364, 3) := dk_182 1 108 (dk_at dksX1_beginner_0 10 rfl rfl)
theorem dX1_beginner_13 : decode cX1_beginner 13 = .ok (.ifCond .ne 5, 3) := dk_154 0 5 (dk_at dksX1_beginner_0 13 rfl rfl)
theorem dX1_beginner_16 : decode cX1_beginner 16 = .ok (.iconst (-1), 1) := dk_2 (dk_at dksX1_beginner_0 16 rfl rfl)
theorem dX1_beginner_17 : decode cX1_beginner 17 = .ok (.ireturn, 1) := dk_172 (dk_at dksX1_beginner_0 17 rfl rfl)
theorem dX1_beginner_18 : decode cX1_beginner 18 = .ok (.iconst 3, 1) := dk_6 (dk_at dksX1_beginner_0 18 rfl rfl)
theorem dX1_beginner_19 : decode cX1_beginner 19 = .ok (.newarray .int, 2) := dk_188_10 (dk_at dksX1_beginner_0 19 rfl rfl)
theorem dX1_beginner_21 : decode cX1_beginner 21 = .ok (.astore_n 2, 1) := dk_77 (dk_at dksX1_beginner_0 21 rfl rfl)
theorem dX1_beginner_22 : decode cX1_beginner 22 = .ok (.iconst 0, 1) := dk_3 (dk_at dksX1_beginner_0 22 rfl rfl)
theorem dX1_beginner_23 : decode cX1_beginner 23 = .ok (.istore_n 3, 1) := dk_62 (dk_at dksX1_beginner_0 23 rfl rfl)
theorem dX1_beginner_24 : decode cX1_beginner 24 = .ok (.iload_n 3, 1) := dk_29 (dk_at dksX1_beginner_1 0 rfl rfl)
theorem dX1_beginner_25 : decode cX1_beginner 25 = .ok (.iconst 1, 1) := dk_4 (dk_at dksX1_beginner_1 1 rfl rfl)
theorem dX1_beginner_26 : decode cX1_beginner 26 = .ok (.if_icmp .gt 58, 3) := dk_163 0 58 (dk_at dksX1_beginner_1 2 rfl rfl)
theorem dX1_beginner_29 : decode cX1_beginner 29 = .ok (.aload_n 0, 1) := dk_42 (dk_at dksX1_beginner_1 5 rfl rfl)
theorem dX1_beginner_30 : decode cX1_beginner 30 = .ok (.iload_n 3, 1) := dk_29 (dk_at dksX1_beginner_1 6 rfl rfl)
theorem dX1_beginner_31 : decode cX1_beginner 31 = .ok (.aload_n 0, 1) := dk_42 (dk_at dksX1_beginner_1 7 rfl rfl)
theorem dX1_beginner_32 : decode cX1_beginner 32 = .ok (.getfield 64, 3) := dk_180 0 64 (dk_at dksX1_beginner_1 8 rfl rfl)
theorem dX1_beginner_35 : decode cX1_beginner 35 = .ok (.getfield 198, 3) := dk_180 0 198 (dk_at dksX1_beginner_1 11 rfl rfl)
theorem dX1_beginner_38 : decode cX1_beginner 38 = .ok (.invokevirtual 367, 3) := dk_182 1 111 (dk_at dksX1_beginner_1 14 rfl rfl)
theorem dX1_beginner_41 : decode cX1_beginner 41 = .ok (.aload_n 2, 1) := dk_44 (dk_at dksX1_beginner_1 17 rfl rfl)
theorem dX1_beginner_42 : decode cX1_beginner 42 = .ok (.aload_n 0, 1) := dk_42 (dk_at dksX1_beginner_1 18 rfl rfl)
theorem dX1_beginner_43 : decode cX1_beginner 43 = .ok (.getfield 57, 3) := dk_180 0 57 (dk_at dksX1_beginner_1 19 rfl rfl)
theorem dX1_beginner_46 : decode cX1_beginner 46 = .ok (.getfield 344, 3) := dk_180 1 88 (dk_at dksX1_beginner_2 0 rfl rfl)
theorem dX1_beginner_49 : decode cX1_beginner 49 = .ok (.iload_n 3, 1) := dk_29 (dk_at dksX1_beginner_2 3 rfl rfl)
theorem dX1_beginner_50 : decode cX1_beginner 50 = .ok (.if_icmp .ne 7, 3) := dk_160 0 7 (dk_at dksX1_beginner_2 4 rfl rfl)
theorem dX1_beginner_53 : decode cX1_beginner 53 = .ok (.iconst 0, 1) := dk_3 (dk_at dksX1_beginner_2 7 rfl rfl)
theorem dX1_beginner_54 : decode cX1_beginner 54 = .ok (.goto 19, 3) := dk_167 0 19 (dk_at dksX1_beginner_2 8 rfl rfl)
theorem dX1_beginner_57 : decode cX1_beginner 57 = .ok (.aload_n 0, 1) := dk_42 (dk_at dksX1_beginner_2 11 rfl rfl)
theorem dX1_beginner_58 : decode cX1_beginner 58 = .ok (.getfield 57, 3) := dk_180 0 57 (dk_at dksX1_beginner_2 12 rfl rfl)
theorem dX1_beginner_61 : decode cX1_beginner 61 = .ok (.getfield 344, 3) := dk_180 1 88 (dk_at dksX1_beginner_2 15 rfl rfl)
theorem dX1_beginner_64 : decode cX1_beginner 64 = .ok (.iconst 2, 1) := dk_5 (dk_at dksX1_beginner_2 18 rfl rfl)
theorem dX1_beginner_65 : decode cX1_beginner 65 = .ok (.if_icmp .ge 7, 3) := dk_162 0 7 (dk_at dksX1_beginner_2 19 rfl rfl)
theorem dX1_beginner_68 : decode cX1_beginner 68 = .ok (.iconst 1, 1) := dk_4 (dk_at dksX1_beginner_2 22 rfl rfl)
theorem dX1_beginner_69 : decode cX1_beginner 69 = .ok (.goto 4, 3) := dk_167 0 4 (dk_at dksX1_beginner_3 0 rfl rfl)
theorem dX1_beginner_72 : decode cX1_beginner 72 = .ok (.iconst 2, 1) := dk_5 (dk_at dksX1_beginner_3 3 rfl rfl)
theorem dX1_beginner_73 : decode cX1_beginner 73 = .ok (.dup2, 1) := dk_92 (dk_at dksX1_beginner_3 4 rfl rfl)
theorem dX1_beginner_74 : decode cX1_beginner 74 = .ok (.iaload, 1) := dk_46 (dk_at dksX1_beginner_3 5 rfl rfl)
theorem dX1_beginner_75 : decode cX1_beginner 75 = .ok (.iconst 1, 1) := dk_4 (dk_at dksX1_beginner_3 6 rfl rfl)
theorem dX1_beginner_76 : decode cX1_beginner 76 = .ok (.iadd, 1) := dk_96 (dk_at dksX1_beginner_3 7 rfl rfl)
theorem dX1_beginner_77 : decode cX1_beginner 77 = .ok (.iastore, 1) := dk_79 (dk_at dksX1_beginner_3 8 rfl rfl)
theorem dX1_beginner_78 : decode cX1_beginner 78 = .ok (.iinc 3 1, 3) := dk_132 3 1 (dk_at dksX1_beginner_3 9 rfl rfl)
theorem dX1_beginner_81 : decode cX1_beginner 81 = .ok (.goto (-57), 3) := dk_167 255 199 (dk_at dksX1_beginner_3 12 rfl rfl)
theorem dX1_beginner_84 : decode cX1_beginner 84 = .ok (.aload_n 0, 1) := dk_42 (dk_at dksX1_beginner_3 15 rfl rfl)
theorem dX1_beginner_85 : decode cX1_beginner 85 = .ok (.invokevirtual 371, 3) := dk_182 1 115 (dk_at dksX1_beginner_3 16 rfl rfl)
theorem dX1_beginner_88 : decode cX1_beginner 88 = .ok (.ifCond .ne (-66), 3) := dk_154 255 190 (dk_at dksX1_beginner_3 19 rfl rfl)
theorem dX1_beginner_91 : decode cX1_beginner 91 = .ok (.aload_n 2, 1) := dk_44 (dk_at dksX1_beginner_3 22 rfl rfl)
theorem dX1_beginner_92 : decode cX1_beginner 92 = .ok (.iload_n 1, 1) := dk_27 (dk_at dksX1_beginner_3 23 rfl rfl)
theorem dX1_beginner_93 : decode cX1_beginner 93 = .ok (.iaload, 1) := dk_46 (dk_at dksX1_beginner_4 0 rfl rfl)
theorem dX1_beginner_94 : decode cX1_beginner 94 = .ok (.ireturn, 1) := dk_172 (dk_at dksX1_beginner_4 1 rfl rfl)
abbrev cX1_worth : ByteArray := prog_1_method_40_code
def yX1_worth : MethodName := ⟨RX1, "worth", "(II)I"⟩
def dkwX1_worth_6 : List UInt8 := [29, 167, 0, 5, 21, 4, 172]
abbrev dktX1_worth_6 : List UInt8 := dkwX1_worth_6 ++ []
def dkwX1_worth_5 : List UInt8 := [42, 180, 0, 57, 180, 1, 88, 154, 0, 6, 132, 3, 1, 42, 182, 1, 115, 154, 255, 152, 28, 154, 0, 7]
abbrev dktX1_worth_5 : List UInt8 := dkwX1_worth_5 ++ dktX1_worth_6
def dkwX1_worth_4 : List UInt8 := [167, 0, 37, 132, 4, 1, 42, 42, 180, 0, 64, 182, 0, 171, 42, 180, 0, 64, 180, 0, 198, 182, 1, 111]
abbrev dktX1_worth_4 : List UInt8 := dkwX1_worth_4 ++ dktX1_worth_5
def dkwX1_worth_3 : List UInt8 := [100, 162, 0, 7, 4, 167, 0, 4, 2, 96, 54, 5, 132, 6, 1, 167, 255, 207, 21, 5, 157, 0, 6]
abbrev dktX1_worth_3 : List UInt8 := dkwX1_worth_3 ++ dktX1_worth_4
def dkwX1_worth_2 : List UInt8 := [180, 0, 105, 21, 6, 46, 27, 160, 0, 29, 21, 5, 21, 6, 42, 180, 1, 98, 42, 180, 1, 98, 5, 108]
abbrev dktX1_worth_2 : List UInt8 := dkwX1_worth_2 ++ dktX1_worth_3
def dkwX1_worth_1 : List UInt8 := [2, 172, 3, 62, 3, 54, 4, 3, 54, 5, 3, 54, 6, 21, 6, 42, 180, 1, 98, 162, 0, 46, 42]
abbrev dktX1_worth_1 : List UInt8 := dkwX1_worth_1 ++ dktX1_worth_2
def dkwX1_worth_0 : List UInt8 := [42, 27, 182, 0, 194, 153, 0, 19, 28, 3, 4, 184, 0, 190, 153, 0, 10, 42, 182, 1, 108, 154, 0, 5]
abbrev dktX1_worth_0 : List UInt8 := dkwX1_worth_0 ++ dktX1_worth_1
theorem dksX1_worth_0 : cX1_worth.data.toList.drop 0 = dktX1_worth_0 := by decide +kernel
theorem dksX1_worth_1 : cX1_worth.data.toList.drop 24 = dktX1_worth_1 := dk_seg dksX1_worth_0 24 rfl rfl
theorem dksX1_worth_2 : cX1_worth.data.toList.drop 47 = dktX1_worth_2 := dk_seg dksX1_worth_1 23 rfl rfl
theorem dksX1_worth_3 : cX1_worth.data.toList.drop 71 = dktX1_worth_3 := dk_seg dksX1_worth_2 24 rfl rfl
theorem dksX1_worth_4 : cX1_worth.data.toList.drop 94 = dktX1_worth_4 := dk_seg dksX1_worth_3 23 rfl rfl
theorem dksX1_worth_5 : cX1_worth.data.toList.drop 118 = dktX1_worth_5 := dk_seg dksX1_worth_4 24 rfl rfl
theorem dksX1_worth_6 : cX1_worth.data.toList.drop 142 = dktX1_worth_6 := dk_seg dksX1_worth_5 24 rfl rfl
theorem dX1_worth_0 : decode cX1_worth 0 = .ok (.aload_n 0, 1) := dk_42 (dk_at dksX1_worth_0 0 rfl rfl)
theorem dX1_worth_1 : decode cX1_worth 1 = .ok (.iload_n 1, 1) := dk_27 (dk_at dksX1_worth_0 1 rfl rfl)
theorem dX1_worth_2 : decode cX1_worth 2 = .ok (.invokevirtual 194, 3) := dk_182 0 194 (dk_at dksX1_worth_0 2 rfl rfl)
theorem dX1_worth_5 : decode cX1_worth 5 = .ok (.ifCond .eq 19, 3) := dk_153 0 19 (dk_at dksX1_worth_0 5 rfl rfl)
theorem dX1_worth_8 : decode cX1_worth 8 = .ok (.iload_n 2, 1) := dk_28 (dk_at dksX1_worth_0 8 rfl rfl)
theorem dX1_worth_9 : decode cX1_worth 9 = .ok (.iconst 0, 1) := dk_3 (dk_at dksX1_worth_0 9 rfl rfl)
theorem dX1_worth_10 : decode cX1_worth 10 = .ok (.iconst 1, 1) := dk_4 (dk_at dksX1_worth_0 10 rfl rfl)
theorem dX1_worth_11 : decode cX1_worth 11 = .ok (.invokestatic 190, 3) := dk_184 0 190 (dk_at dksX1_worth_0 11 rfl rfl)
theorem dX1_worth_14 : decode cX1_worth 14 = .ok (.ifCond .eq 10, 3) := dk_153 0 10 (dk_at dksX1_worth_0 14 rfl rfl)
theorem dX1_worth_17 : decode cX1_worth 17 = .ok (.aload_n 0, 1) := dk_42 (dk_at dksX1_worth_0 17 rfl rfl)
theorem dX1_worth_18 : decode cX1_worth 18 = .ok (.invokevirtual 364, 3) := dk_182 1 108 (dk_at dksX1_worth_0 18 rfl rfl)
theorem dX1_worth_21 : decode cX1_worth 21 = .ok (.ifCond .ne 5, 3) := dk_154 0 5 (dk_at dksX1_worth_0 21 rfl rfl)
theorem dX1_worth_24 : decode cX1_worth 24 = .ok (.iconst (-1), 1) := dk_2 (dk_at dksX1_worth_1 0 rfl rfl)
theorem dX1_worth_25 : decode cX1_worth 25 = .ok (.ireturn, 1) := dk_172 (dk_at dksX1_worth_1 1 rfl rfl)
theorem dX1_worth_26 : decode cX1_worth 26 = .ok (.iconst 0, 1) := dk_3 (dk_at dksX1_worth_1 2 rfl rfl)
theorem dX1_worth_27 : decode cX1_worth 27 = .ok (.istore_n 3, 1) := dk_62 (dk_at dksX1_worth_1 3 rfl rfl)
theorem dX1_worth_28 : decode cX1_worth 28 = .ok (.iconst 0, 1) := dk_3 (dk_at dksX1_worth_1 4 rfl rfl)
theorem dX1_worth_29 : decode cX1_worth 29 = .ok (.istore 4, 2) := dk_54 4 (dk_at dksX1_worth_1 5 rfl rfl)
theorem dX1_worth_31 : decode cX1_worth 31 = .ok (.iconst 0, 1) := dk_3 (dk_at dksX1_worth_1 7 rfl rfl)
theorem dX1_worth_32 : decode cX1_worth 32 = .ok (.istore 5, 2) := dk_54 5 (dk_at dksX1_worth_1 8 rfl rfl)
theorem dX1_worth_34 : decode cX1_worth 34 = .ok (.iconst 0, 1) := dk_3 (dk_at dksX1_worth_1 10 rfl rfl)
theorem dX1_worth_35 : decode cX1_worth 35 = .ok (.istore 6, 2) := dk_54 6 (dk_at dksX1_worth_1 11 rfl rfl)
theorem dX1_worth_37 : decode cX1_worth 37 = .ok (.iload 6, 2) := dk_21 6 (dk_at dksX1_worth_1 13 rfl rfl)
theorem dX1_worth_39 : decode cX1_worth 39 = .ok (.aload_n 0, 1) := dk_42 (dk_at dksX1_worth_1 15 rfl rfl)
theorem dX1_worth_40 : decode cX1_worth 40 = .ok (.getfield 354, 3) := dk_180 1 98 (dk_at dksX1_worth_1 16 rfl rfl)
theorem dX1_worth_43 : decode cX1_worth 43 = .ok (.if_icmp .ge 46, 3) := dk_162 0 46 (dk_at dksX1_worth_1 19 rfl rfl)
theorem dX1_worth_46 : decode cX1_worth 46 = .ok (.aload_n 0, 1) := dk_42 (dk_at dksX1_worth_1 22 rfl rfl)
theorem dX1_worth_47 : decode cX1_worth 47 = .ok (.getfield 105, 3) := dk_180 0 105 (dk_at dksX1_worth_2 0 rfl rfl)
theorem dX1_worth_50 : decode cX1_worth 50 = .ok (.iload 6, 2) := dk_21 6 (dk_at dksX1_worth_2 3 rfl rfl)
theorem dX1_worth_52 : decode cX1_worth 52 = .ok (.iaload, 1) := dk_46 (dk_at dksX1_worth_2 5 rfl rfl)
theorem dX1_worth_53 : decode cX1_worth 53 = .ok (.iload_n 1, 1) := dk_27 (dk_at dksX1_worth_2 6 rfl rfl)
theorem dX1_worth_54 : decode cX1_worth 54 = .ok (.if_icmp .ne 29, 3) := dk_160 0 29 (dk_at dksX1_worth_2 7 rfl rfl)
theorem dX1_worth_57 : decode cX1_worth 57 = .ok (.iload 5, 2) := dk_21 5 (dk_at dksX1_worth_2 10 rfl rfl)
theorem dX1_worth_59 : decode cX1_worth 59 = .ok (.iload 6, 2) := dk_21 6 (dk_at dksX1_worth_2 12 rfl rfl)
theorem dX1_worth_61 : decode cX1_worth 61 = .ok (.aload_n 0, 1) := dk_42 (dk_at dksX1_worth_2 14 rfl rfl)
theorem dX1_worth_62 : decode cX1_worth 62 = .ok (.getfield 354, 3) := dk_180 1 98 (dk_at dksX1_worth_2 15 rfl rfl)
theorem dX1_worth_65 : decode cX1_worth 65 = .ok (.aload_n 0, 1) := dk_42 (dk_at dksX1_worth_2 18 rfl rfl)
theorem dX1_worth_66 : decode cX1_worth 66 = .ok (.getfield 354, 3) := dk_180 1 98 (dk_at dksX1_worth_2 19 rfl rfl)
theorem dX1_worth_69 : decode cX1_worth 69 = .ok (.iconst 2, 1) := dk_5 (dk_at dksX1_worth_2 22 rfl rfl)
theorem dX1_worth_70 : decode cX1_worth 70 = .ok (.idiv, 1) := dk_108 (dk_at dksX1_worth_2 23 rfl rfl)
theorem dX1_worth_71 : decode cX1_worth 71 = .ok (.isub, 1) := dk_100 (dk_at dksX1_worth_3 0 rfl rfl)
theorem dX1_worth_72 : decode cX1_worth 72 = .ok (.if_icmp .ge 7, 3) := dk_162 0 7 (dk_at dksX1_worth_3 1 rfl rfl)
theorem dX1_worth_75 : decode cX1_worth 75 = .ok (.iconst 1, 1) := dk_4 (dk_at dksX1_worth_3 4 rfl rfl)
theorem dX1_worth_76 : decode cX1_worth 76 = .ok (.goto 4, 3) := dk_167 0 4 (dk_at dksX1_worth_3 5 rfl rfl)
theorem dX1_worth_79 : decode cX1_worth 79 = .ok (.iconst (-1), 1) := dk_2 (dk_at dksX1_worth_3 8 rfl rfl)
theorem dX1_worth_80 : decode cX1_worth 80 = .ok (.iadd, 1) := dk_96 (dk_at dksX1_worth_3 9 rfl rfl)
theorem dX1_worth_81 : decode cX1_worth 81 = .ok (.istore 5, 2) := dk_54 5 (dk_at dksX1_worth_3 10 rfl rfl)
theorem dX1_worth_83 : decode cX1_worth 83 = .ok (.iinc 6 1, 3) := dk_132 6 1 (dk_at dksX1_worth_3 12 rfl rfl)
theorem dX1_worth_86 : decode cX1_worth 86 = .ok (.goto (-49), 3) := dk_167 255 207 (dk_at dksX1_worth_3 15 rfl rfl)
theorem dX1_worth_89 : decode cX1_worth 89 = .ok (.iload 5, 2) := dk_21 5 (dk_at dksX1_worth_3 18 rfl rfl)
theorem dX1_worth_91 : decode cX1_worth 91 = .ok (.ifCond .gt 6, 3) := dk_157 0 6 (dk_at dksX1_worth_3 20 rfl rfl)
theorem dX1_worth_94 : decode cX1_worth 94 = .ok (.goto 37, 3) := dk_167 0 37 (dk_at dksX1_worth_4 0 rfl rfl)
theorem dX1_worth_97 : decode cX1_worth 97 = .ok (.iinc 4 1, 3) := dk_132 4 1 (dk_at dksX1_worth_4 3 rfl rfl)
theorem dX1_worth_100 : decode cX1_worth 100 = .ok (.aload_n 0, 1) := dk_42 (dk_at dksX1_worth_4 6 rfl rfl)
theorem dX1_worth_101 : decode cX1_worth 101 = .ok (.aload_n 0, 1) := dk_42 (dk_at dksX1_worth_4 7 rfl rfl)
theorem dX1_worth_102 : decode cX1_worth 102 = .ok (.getfield 64, 3) := dk_180 0 64 (dk_at dksX1_worth_4 8 rfl rfl)
theorem dX1_worth_105 : decode cX1_worth 105 = .ok (.invokevirtual 171, 3) := dk_182 0 171 (dk_at dksX1_worth_4 11 rfl rfl)
theorem dX1_worth_108 : decode cX1_worth 108 = .ok (.aload_n 0, 1) := dk_42 (dk_at dksX1_worth_4 14 rfl rfl)
theorem dX1_worth_109 : decode cX1_worth 109 = .ok (.getfield 64, 3) := dk_180 0 64 (dk_at dksX1_worth_4 15 rfl rfl)
theorem dX1_worth_112 : decode cX1_worth 112 = .ok (.getfield 198, 3) := dk_180 0 198 (dk_at dksX1_worth_4 18 rfl rfl)
theorem dX1_worth_115 : decode cX1_worth 115 = .ok (.invokevirtual 367, 3) := dk_182 1 111 (dk_at dksX1_worth_4 21 rfl rfl)
theorem dX1_worth_118 : decode cX1_worth 118 = .ok (.aload_n 0, 1) := dk_42 (dk_at dksX1_worth_5 0 rfl rfl)
theorem dX1_worth_119 : decode cX1_worth 119 = .ok (.getfield 57, 3) := dk_180 0 57 (dk_at dksX1_worth_5 1 rfl rfl)
theorem dX1_worth_122 : decode cX1_worth 122 = .ok (.getfield 344, 3) := dk_180 1 88 (dk_at dksX1_worth_5 4 rfl rfl)
theorem dX1_worth_125 : decode cX1_worth 125 = .ok (.ifCond .ne 6, 3) := dk_154 0 6 (dk_at dksX1_worth_5 7 rfl rfl)
theorem dX1_worth_128 : decode cX1_worth 128 = .ok (.iinc 3 1, 3) := dk_132 3 1 (dk_at dksX1_worth_5 10 rfl rfl)
theorem dX1_worth_131 : decode cX1_worth 131 = .ok (.aload_n 0, 1) := dk_42 (dk_at dksX1_worth_5 13 rfl rfl)
theorem dX1_worth_132 : decode cX1_worth 132 = .ok (.invokevirtual 371, 3) := dk_182 1 115 (dk_at dksX1_worth_5 14 rfl rfl)
theorem dX1_worth_135 : decode cX1_worth 135 = .ok (.ifCond .ne (-104), 3) := dk_154 255 152 (dk_at dksX1_worth_5 17 rfl rfl)
theorem dX1_worth_138 : decode cX1_worth 138 = .ok (.iload_n 2, 1) := dk_28 (dk_at dksX1_worth_5 20 rfl rfl)
theorem dX1_worth_139 : decode cX1_worth 139 = .ok (.ifCond .ne 7, 3) := dk_154 0 7 (dk_at dksX1_worth_5 21 rfl rfl)
theorem dX1_worth_142 : decode cX1_worth 142 = .ok (.iload_n 3, 1) := dk_29 (dk_at dksX1_worth_6 0 rfl rfl)
theorem dX1_worth_143 : decode cX1_worth 143 = .ok (.goto 5, 3) := dk_167 0 5 (dk_at dksX1_worth_6 1 rfl rfl)
theorem dX1_worth_146 : decode cX1_worth 146 = .ok (.iload 4, 2) := dk_21 4 (dk_at dksX1_worth_6 4 rfl rfl)
theorem dX1_worth_148 : decode cX1_worth 148 = .ok (.ireturn, 1) := dk_172 (dk_at dksX1_worth_6 6 rfl rfl)
abbrev cX1_leads : ByteArray := prog_1_method_42_code
def yX1_leads : MethodName := ⟨RX1, "leads", "(II)I"⟩
def dkwX1_leads_6 : List UInt8 := [182, 1, 115, 154, 255, 146, 45, 28, 46, 172]
abbrev dktX1_leads_6 : List UInt8 := dkwX1_leads_6 ++ []
def dkwX1_leads_5 : List UInt8 := [180, 0, 198, 182, 1, 111, 42, 45, 3, 21, 4, 182, 1, 136, 42, 45, 5, 21, 5, 182, 1, 136, 42]
abbrev dktX1_leads_5 : List UInt8 := dkwX1_leads_5 ++ dktX1_leads_6
def dkwX1_leads_4 : List UInt8 := [180, 0, 64, 180, 0, 198, 182, 1, 132, 100, 54, 5, 42, 42, 180, 0, 64, 182, 0, 171, 42, 180, 0, 64]
abbrev dktX1_leads_4 : List UInt8 := dkwX1_leads_4 ++ dktX1_leads_5
def dkwX1_leads_3 : List UInt8 := [54, 4, 42, 180, 0, 84, 3, 42, 180, 0, 64, 180, 0, 198, 182, 1, 132, 42, 180, 0, 84, 4, 42]
abbrev dktX1_leads_3 : List UInt8 := dkwX1_leads_3 ++ dktX1_leads_4
def dkwX1_leads_2 : List UInt8 := [182, 1, 123, 154, 0, 6, 167, 0, 87, 42, 180, 0, 84, 180, 1, 126, 42, 180, 0, 84, 180, 1, 129, 100]
abbrev dktX1_leads_2 : List UInt8 := dkwX1_leads_2 ++ dktX1_leads_3
def dkwX1_leads_1 : List UInt8 := [154, 0, 5, 2, 172, 7, 188, 10, 78, 42, 42, 180, 0, 64, 182, 0, 171, 182, 1, 106, 42, 27]
abbrev dktX1_leads_1 : List UInt8 := dkwX1_leads_1 ++ dktX1_leads_2
def dkwX1_leads_0 : List UInt8 := [27, 4, 16, 20, 184, 0, 190, 153, 0, 19, 28, 3, 6, 184, 0, 190, 153, 0, 10, 42, 182, 1, 108]
abbrev dktX1_leads_0 : List UInt8 := dkwX1_leads_0 ++ dktX1_leads_1
theorem dksX1_leads_0 : cX1_leads.data.toList.drop 0 = dktX1_leads_0 := by decide +kernel
theorem dksX1_leads_1 : cX1_leads.data.toList.drop 23 = dktX1_leads_1 := dk_seg dksX1_leads_0 23 rfl rfl
theorem dksX1_leads_2 : cX1_leads.data.toList.drop 45 = dktX1_leads_2 := dk_seg dksX1_leads_1 22 rfl rfl
theorem dksX1_leads_3 : cX1_leads.data.toList.drop 69 = dktX1_leads_3 := dk_seg dksX1_leads_2 24 rfl rfl
theorem dksX1_leads_4 : cX1_leads.data.toList.drop 92 = dktX1_leads_4 := dk_seg dksX1_leads_3 23 rfl rfl
theorem dksX1_leads_5 : cX1_leads.data.toList.drop 116 = dktX1_leads_5 := dk_seg dksX1_leads_4 24 rfl rfl
theorem dksX1_leads_6 : cX1_leads.data.toList.drop 139 = dktX1_leads_6 := dk_seg dksX1_leads_5 23 rfl rfl
theorem dX1_leads_0 : decode cX1_leads 0 = .ok (.iload_n 1, 1) := dk_27 (dk_at dksX1_leads_0 0 rfl rfl)
theorem dX1_leads_1 : decode cX1_leads 1 = .ok (.iconst 1, 1) := dk_4 (dk_at dksX1_leads_0 1 rfl rfl)
theorem dX1_leads_2 : decode cX1_leads 2 = .ok (.bipush 20, 2) := dk_16 20 (dk_at dksX1_leads_0 2 rfl rfl)
theorem dX1_leads_4 : decode cX1_leads 4 = .ok (.invokestatic 190, 3) := dk_184 0 190 (dk_at dksX1_leads_0 4 rfl rfl)
theorem dX1_leads_7 : decode cX1_leads 7 = .ok (.ifCond .eq 19, 3) := dk_153 0 19 (dk_at dksX1_leads_0 7 rfl rfl)
theorem dX1_leads_10 : decode cX1_leads 10 = .ok (.iload_n 2, 1) := dk_28 (dk_at dksX1_leads_0 10 rfl rfl)
theorem dX1_leads_11 : decode cX1_leads 11 = .ok (.iconst 0, 1) := dk_3 (dk_at dksX1_leads_0 11 rfl rfl)
theorem dX1_leads_12 : decode cX1_leads 12 = .ok (.iconst 3, 1) := dk_6 (dk_at dksX1_leads_0 12 rfl rfl)
theorem dX1_leads_13 : decode cX1_leads 13 = .ok (.invokestatic 190, 3) := dk_184 0 190 (dk_at dksX1_leads_0 13 rfl rfl)
theorem dX1_leads_16 : decode cX1_leads 16 = .ok (.ifCond .eq 10, 3) := dk_153 0 10 (dk_at dksX1_leads_0 16 rfl rfl)
theorem dX1_leads_19 : decode cX1_leads 19 = .ok (.aload_n 0, 1) := dk_42 (dk_at dksX1_leads_0 19 rfl rfl)
theorem dX1_leads_20 : decode cX1_leads 20 = .ok (.invokevirtual 364, 3) := dk_182 1 108 (dk_at dksX1_leads_0 20 rfl rfl)
theorem dX1_leads_23 : decode cX1_leads 23 = .ok (.ifCond .ne 5, 3) := dk_154 0 5 (dk_at dksX1_leads_1 0 rfl rfl)
theorem dX1_leads_26 : decode cX1_leads 26 = .ok (.iconst (-1), 1) := dk_2 (dk_at dksX1_leads_1 3 rfl rfl)
theorem dX1_leads_27 : decode cX1_leads 27 = .ok (.ireturn, 1) := dk_172 (dk_at dksX1_leads_1 4 rfl rfl)
theorem dX1_leads_28 : decode cX1_leads 28 = .ok (.iconst 4, 1) := dk_7 (dk_at dksX1_leads_1 5 rfl rfl)
theorem dX1_leads_29 : decode cX1_leads 29 = .ok (.newarray .int, 2) := dk_188_10 (dk_at dksX1_leads_1 6 rfl rfl)
theorem dX1_leads_31 : decode cX1_leads 31 = .ok (.astore_n 3, 1) := dk_78 (dk_at dksX1_leads_1 8 rfl rfl)
theorem dX1_leads_32 : decode cX1_leads 32 = .ok (.aload_n 0, 1) := dk_42 (dk_at dksX1_leads_1 9 rfl rfl)
theorem dX1_leads_33 : decode cX1_leads 33 = .ok (.aload_n 0, 1) := dk_42 (dk_at dksX1_leads_1 10 rfl rfl)
theorem dX1_leads_34 : decode cX1_leads 34 = .ok (.getfield 64, 3) := dk_180 0 64 (dk_at dksX1_leads_1 11 rfl rfl)
theorem dX1_leads_37 : decode cX1_leads 37 = .ok (.invokevirtual 171, 3) := dk_182 0 171 (dk_at dksX1_leads_1 14 rfl rfl)
theorem dX1_leads_40 : decode cX1_leads 40 = .ok (.invokevirtual 362, 3) := dk_182 1 106 (dk_at dksX1_leads_1 17 rfl rfl)
theorem dX1_leads_43 : decode cX1_leads 43 = .ok (.aload_n 0, 1) := dk_42 (dk_at dksX1_leads_1 20 rfl rfl)
theorem dX1_leads_44 : decode cX1_leads 44 = .ok (.iload_n 1, 1) := dk_27 (dk_at dksX1_leads_1 21 rfl rfl)
theorem dX1_leads_45 : decode cX1_leads 45 = .ok (.invokevirtual 379, 3) := dk_182 1 123 (dk_at dksX1_leads_2 0 rfl rfl)
theorem dX1_leads_48 : decode cX1_leads 48 = .ok (.ifCond .ne 6, 3) := dk_154 0 6 (dk_at dksX1_leads_2 3 rfl rfl)
theorem dX1_leads_51 : decode cX1_leads 51 = .ok (.goto 87, 3) := dk_167 0 87 (dk_at dksX1_leads_2 6 rfl rfl)
theorem dX1_leads_54 : decode cX1_leads 54 = .ok (.aload_n 0, 1) := dk_42 (dk_at dksX1_leads_2 9 rfl rfl)
theorem dX1_leads_55 : decode cX1_leads 55 = .ok (.getfield 84, 3) := dk_180 0 84 (dk_at dksX1_leads_2 10 rfl rfl)
theorem dX1_leads_58 : decode cX1_leads 58 = .ok (.getfield 382, 3) := dk_180 1 126 (dk_at dksX1_leads_2 13 rfl rfl)
theorem dX1_leads_61 : decode cX1_leads 61 = .ok (.aload_n 0, 1) := dk_42 (dk_at dksX1_leads_2 16 rfl rfl)
theorem dX1_leads_62 : decode cX1_leads 62 = .ok (.getfield 84, 3) := dk_180 0 84 (dk_at dksX1_leads_2 17 rfl rfl)
theorem dX1_leads_65 : decode cX1_leads 65 = .ok (.getfield 385, 3) := dk_180 1 129 (dk_at dksX1_leads_2 20 rfl rfl)
theorem dX1_leads_68 : decode cX1_leads 68 = .ok (.isub, 1) := dk_100 (dk_at dksX1_leads_2 23 rfl rfl)
theorem dX1_leads_69 : decode cX1_leads 69 = .ok (.istore 4, 2) := dk_54 4 (dk_at dksX1_leads_3 0 rfl rfl)
theorem dX1_leads_71 : decode cX1_leads 71 = .ok (.aload_n 0, 1) := dk_42 (dk_at dksX1_leads_3 2 rfl rfl)
theorem dX1_leads_72 : decode cX1_leads 72 = .ok (.getfield 84, 3) := dk_180 0 84 (dk_at dksX1_leads_3 3 rfl rfl)
theorem dX1_leads_75 : decode cX1_leads 75 = .ok (.iconst 0, 1) := dk_3 (dk_at dksX1_leads_3 6 rfl rfl)
theorem dX1_leads_76 : decode cX1_leads 76 = .ok (.aload_n 0, 1) := dk_42 (dk_at dksX1_leads_3 7 rfl rfl)
theorem dX1_leads_77 : decode cX1_leads 77 = .ok (.getfield 64, 3) := dk_180 0 64 (dk_at dksX1_leads_3 8 rfl rfl)
theorem dX1_leads_80 : decode cX1_leads 80 = .ok (.getfield 198, 3) := dk_180 0 198 (dk_at dksX1_leads_3 11 rfl rfl)
theorem dX1_leads_83 : decode cX1_leads 83 = .ok (.invokevirtual 388, 3) := dk_182 1 132 (dk_at dksX1_leads_3 14 rfl rfl)
theorem dX1_leads_86 : decode cX1_leads 86 = .ok (.aload_n 0, 1) := dk_42 (dk_at dksX1_leads_3 17 rfl rfl)
theorem dX1_leads_87 : decode cX1_leads 87 = .ok (.getfield 84, 3) := dk_180 0 84 (dk_at dksX1_leads_3 18 rfl rfl)
theorem dX1_leads_90 : decode cX1_leads 90 = .ok (.iconst 1, 1) := dk_4 (dk_at dksX1_leads_3 21 rfl rfl)
theorem dX1_leads_91 : decode cX1_leads 91 = .ok (.aload_n 0, 1) := dk_42 (dk_at dksX1_leads_3 22 rfl rfl)
theorem dX1_leads_92 : decode cX1_leads 92 = .ok (.getfield 64, 3) := dk_180 0 64 (dk_at dksX1_leads_4 0 rfl rfl)
theorem dX1_leads_95 : decode cX1_leads 95 = .ok (.getfield 198, 3) := dk_180 0 198 (dk_at dksX1_leads_4 3 rfl rfl)
theorem dX1_leads_98 : decode cX1_leads 98 = .ok (.invokevirtual 388, 3) := dk_182 1 132 (dk_at dksX1_leads_4 6 rfl rfl)
theorem dX1_leads_101 : decode cX1_leads 101 = .ok (.isub, 1) := dk_100 (dk_at dksX1_leads_4 9 rfl rfl)
theorem dX1_leads_102 : decode cX1_leads 102 = .ok (.istore 5, 2) := dk_54 5 (dk_at dksX1_leads_4 10 rfl rfl)
theorem dX1_leads_104 : decode cX1_leads 104 = .ok (.aload_n 0, 1) := dk_42 (dk_at dksX1_leads_4 12 rfl rfl)
theorem dX1_leads_105 : decode cX1_leads 105 = .ok (.aload_n 0, 1) := dk_42 (dk_at dksX1_leads_4 13 rfl rfl)
theorem dX1_leads_106 : decode cX1_leads 106 = .ok (.getfield 64, 3) := dk_180 0 64 (dk_at dksX1_leads_4 14 rfl rfl)
theorem dX1_leads_109 : decode cX1_leads 109 = .ok (.invokevirtual 171, 3) := dk_182 0 171 (dk_at dksX1_leads_4 17 rfl rfl)
theorem dX1_leads_112 : decode cX1_leads 112 = .ok (.aload_n 0, 1) := dk_42 (dk_at dksX1_leads_4 20 rfl rfl)
theorem dX1_leads_113 : decode cX1_leads 113 = .ok (.getfield 64, 3) := dk_180 0 64 (dk_at dksX1_leads_4 21 rfl rfl)
theorem dX1_leads_116 : decode cX1_leads 116 = .ok (.getfield 198, 3) := dk_180 0 198 (dk_at dksX1_leads_5 0 rfl rfl)
theorem dX1_leads_119 : decode cX1_leads 119 = .ok (.invokevirtual 367, 3) := dk_182 1 111 (dk_at dksX1_leads_5 3 rfl rfl)
theorem dX1_leads_122 : decode cX1_leads 122 = .ok (.aload_n 0, 1) := dk_42 (dk_at dksX1_leads_5 6 rfl rfl)
theorem dX1_leads_123 : decode cX1_leads 123 = .ok (.aload_n 3, 1) := dk_45 (dk_at dksX1_leads_5 7 rfl rfl)
theorem dX1_leads_124 : decode cX1_leads 124 = .ok (.iconst 0, 1) := dk_3 (dk_at dksX1_leads_5 8 rfl rfl)
theorem dX1_leads_125 : decode cX1_leads 125 = .ok (.iload 4, 2) := dk_21 4 (dk_at dksX1_leads_5 9 rfl rfl)
theorem dX1_leads_127 : decode cX1_leads 127 = .ok (.invokevirtual 392, 3) := dk_182 1 136 (dk_at dksX1_leads_5 11 rfl rfl)
theorem dX1_leads_130 : decode cX1_leads 130 = .ok (.aload_n 0, 1) := dk_42 (dk_at dksX1_leads_5 14 rfl rfl)
theorem dX1_leads_131 : decode cX1_leads 131 = .ok (.aload_n 3, 1) := dk_45 (dk_at dksX1_leads_5 15 rfl rfl)
theorem dX1_leads_132 : decode cX1_leads 132 = .ok (.iconst 2, 1) := dk_5 (dk_at dksX1_leads_5 16 rfl rfl)
theorem dX1_leads_133 : decode cX1_leads 133 = .ok (.iload 5, 2) := dk_21 5 (dk_at dksX1_leads_5 17 rfl rfl)
theorem dX1_leads_135 : decode cX1_leads 135 = .ok (.invokevirtual 392, 3) := dk_182 1 136 (dk_at dksX1_leads_5 19 rfl rfl)
theorem dX1_leads_138 : decode cX1_leads 138 = .ok (.aload_n 0, 1) := dk_42 (dk_at dksX1_leads_5 22 rfl rfl)
theorem dX1_leads_139 : decode cX1_leads 139 = .ok (.invokevirtual 371, 3) := dk_182 1 115 (dk_at dksX1_leads_6 0 rfl rfl)
theorem dX1_leads_142 : decode cX1_leads 142 = .ok (.ifCond .ne (-110), 3) := dk_154 255 146 (dk_at dksX1_leads_6 3 rfl rfl)
theorem dX1_leads_145 : decode cX1_leads 145 = .ok (.aload_n 3, 1) := dk_45 (dk_at dksX1_leads_6 6 rfl rfl)
theorem dX1_leads_146 : decode cX1_leads 146 = .ok (.iload_n 2, 1) := dk_28 (dk_at dksX1_leads_6 7 rfl rfl)
theorem dX1_leads_147 : decode cX1_leads 147 = .ok (.iaload, 1) := dk_46 (dk_at dksX1_leads_6 8 rfl rfl)
theorem dX1_leads_148 : decode cX1_leads 148 = .ok (.ireturn, 1) := dk_172 (dk_at dksX1_leads_6 9 rfl rfl)
abbrev cX1_goesTo : ByteArray := prog_1_method_41_code
def yX1_goesTo : MethodName := ⟨RX1, "goesTo", "(I)Z"⟩
def dkwX1_goesTo_2 : List UInt8 := [180, 0, 64, 182, 1, 13, 50, 42, 180, 0, 48, 4, 50, 182, 1, 119, 5, 160, 255, 195, 3, 172, 4, 172]
abbrev dktX1_goesTo_2 : List UInt8 := dkwX1_goesTo_2 ++ []
def dkwX1_goesTo_1 : List UInt8 := [182, 1, 78, 159, 0, 39, 42, 180, 0, 84, 42, 180, 0, 64, 180, 0, 198, 42, 180, 0, 48, 42]
abbrev dktX1_goesTo_1 : List UInt8 := dkwX1_goesTo_1 ++ dktX1_goesTo_2
def dkwX1_goesTo_0 : List UInt8 := [42, 180, 0, 84, 180, 1, 118, 27, 162, 0, 58, 42, 180, 0, 84, 180, 1, 40, 42, 180, 0, 64]
abbrev dktX1_goesTo_0 : List UInt8 := dkwX1_goesTo_0 ++ dktX1_goesTo_1
theorem dksX1_goesTo_0 : cX1_goesTo.data.toList.drop 0 = dktX1_goesTo_0 := by decide +kernel
theorem dksX1_goesTo_1 : cX1_goesTo.data.toList.drop 22 = dktX1_goesTo_1 := dk_seg dksX1_goesTo_0 22 rfl rfl
theorem dksX1_goesTo_2 : cX1_goesTo.data.toList.drop 44 = dktX1_goesTo_2 := dk_seg dksX1_goesTo_1 22 rfl rfl
theorem dX1_goesTo_0 : decode cX1_goesTo 0 = .ok (.aload_n 0, 1) := dk_42 (dk_at dksX1_goesTo_0 0 rfl rfl)
theorem dX1_goesTo_1 : decode cX1_goesTo 1 = .ok (.getfield 84, 3) := dk_180 0 84 (dk_at dksX1_goesTo_0 1 rfl rfl)
theorem dX1_goesTo_4 : decode cX1_goesTo 4 = .ok (.getfield 374, 3) := dk_180 1 118 (dk_at dksX1_goesTo_0 4 rfl rfl)
theorem dX1_goesTo_7 : decode cX1_goesTo 7 = .ok (.iload_n 1, 1) := dk_27 (dk_at dksX1_goesTo_0 7 rfl rfl)
theorem dX1_goesTo_8 : decode cX1_goesTo 8 = .ok (.if_icmp .ge 58, 3) := dk_162 0 58 (dk_at dksX1_goesTo_0 8 rfl rfl)
theorem dX1_goesTo_11 : decode cX1_goesTo 11 = .ok (.aload_n 0, 1) := dk_42 (dk_at dksX1_goesTo_0 11 rfl rfl)
theorem dX1_goesTo_12 : decode cX1_goesTo 12 = .ok (.getfield 84, 3) := dk_180 0 84 (dk_at dksX1_goesTo_0 12 rfl rfl)
theorem dX1_goesTo_15 : decode cX1_goesTo 15 = .ok (.getfield 296, 3) := dk_180 1 40 (dk_at dksX1_goesTo_0 15 rfl rfl)
theorem dX1_goesTo_18 : decode cX1_goesTo 18 = .ok (.aload_n 0, 1) := dk_42 (dk_at dksX1_goesTo_0 18 rfl rfl)
theorem dX1_goesTo_19 : decode cX1_goesTo 19 = .ok (.getfield 64, 3) := dk_180 0 64 (dk_at dksX1_goesTo_0 19 rfl rfl)
theorem dX1_goesTo_22 : decode cX1_goesTo 22 = .ok (.invokevirtual 334, 3) := dk_182 1 78 (dk_at dksX1_goesTo_1 0 rfl rfl)
theorem dX1_goesTo_25 : decode cX1_goesTo 25 = .ok (.if_icmp .eq 39, 3) := dk_159 0 39 (dk_at dksX1_goesTo_1 3 rfl rfl)
theorem dX1_goesTo_28 : decode cX1_goesTo 28 = .ok (.aload_n 0, 1) := dk_42 (dk_at dksX1_goesTo_1 6 rfl rfl)
theorem dX1_goesTo_29 : decode cX1_goesTo 29 = .ok (.getfield 84, 3) := dk_180 0 84 (dk_at dksX1_goesTo_1 7 rfl rfl)
theorem dX1_goesTo_32 : decode cX1_goesTo 32 = .ok (.aload_n 0, 1) := dk_42 (dk_at dksX1_goesTo_1 10 rfl rfl)
theorem dX1_goesTo_33 : decode cX1_goesTo 33 = .ok (.getfield 64, 3) := dk_180 0 64 (dk_at dksX1_goesTo_1 11 rfl rfl)
theorem dX1_goesTo_36 : decode cX1_goesTo 36 = .ok (.getfield 198, 3) := dk_180 0 198 (dk_at dksX1_goesTo_1 14 rfl rfl)
theorem dX1_goesTo_39 : decode cX1_goesTo 39 = .ok (.aload_n 0, 1) := dk_42 (dk_at dksX1_goesTo_1 17 rfl rfl)
theorem dX1_goesTo_40 : decode cX1_goesTo 40 = .ok (.getfield 48, 3) := dk_180 0 48 (dk_at dksX1_goesTo_1 18 rfl rfl)
theorem dX1_goesTo_43 : decode cX1_goesTo 43 = .ok (.aload_n 0, 1) := dk_42 (dk_at dksX1_goesTo_1 21 rfl rfl)
theorem dX1_goesTo_44 : decode cX1_goesTo 44 = .ok (.getfield 64, 3) := dk_180 0 64 (dk_at dksX1_goesTo_2 0 rfl rfl)
theorem dX1_goesTo_47 : decode cX1_goesTo 47 = .ok (.invokevirtual 269, 3) := dk_182 1 13 (dk_at dksX1_goesTo_2 3 rfl rfl)
theorem dX1_goesTo_50 : decode cX1_goesTo 50 = .ok (.aaload, 1) := dk_50 (dk_at dksX1_goesTo_2 6 rfl rfl)
theorem dX1_goesTo_51 : decode cX1_goesTo 51 = .ok (.aload_n 0, 1) := dk_42 (dk_at dksX1_goesTo_2 7 rfl rfl)
theorem dX1_goesTo_52 : decode cX1_goesTo 52 = .ok (.getfield 48, 3) := dk_180 0 48 (dk_at dksX1_goesTo_2 8 rfl rfl)
theorem dX1_goesTo_55 : decode cX1_goesTo 55 = .ok (.iconst 1, 1) := dk_4 (dk_at dksX1_goesTo_2 11 rfl rfl)
theorem dX1_goesTo_56 : decode cX1_goesTo 56 = .ok (.aaload, 1) := dk_50 (dk_at dksX1_goesTo_2 12 rfl rfl)
theorem dX1_goesTo_57 : decode cX1_goesTo 57 = .ok (.invokevirtual 375, 3) := dk_182 1 119 (dk_at dksX1_goesTo_2 13 rfl rfl)
theorem dX1_goesTo_60 : decode cX1_goesTo 60 = .ok (.iconst 2, 1) := dk_5 (dk_at dksX1_goesTo_2 16 rfl rfl)
theorem dX1_goesTo_61 : decode cX1_goesTo 61 = .ok (.if_icmp .ne (-61), 3) := dk_160 255 195 (dk_at dksX1_goesTo_2 17 rfl rfl)
theorem dX1_goesTo_64 : decode cX1_goesTo 64 = .ok (.iconst 0, 1) := dk_3 (dk_at dksX1_goesTo_2 20 rfl rfl)
theorem dX1_goesTo_65 : decode cX1_goesTo 65 = .ok (.ireturn, 1) := dk_172 (dk_at dksX1_goesTo_2 21 rfl rfl)
theorem dX1_goesTo_66 : decode cX1_goesTo 66 = .ok (.iconst 1, 1) := dk_4 (dk_at dksX1_goesTo_2 22 rfl rfl)
theorem dX1_goesTo_67 : decode cX1_goesTo 67 = .ok (.ireturn, 1) := dk_172 (dk_at dksX1_goesTo_2 23 rfl rfl)
abbrev cX1_leads_2 : ByteArray := prog_1_method_43_code
def yX1_leads_2 : MethodName := ⟨RX1, "leads", "([III)V"⟩
def dkwX1_leads_2_1 : List UInt8 := [158, 0, 7, 3, 167, 0, 4, 4, 160, 0, 10, 43, 28, 92, 46, 4, 96, 79, 177]
abbrev dktX1_leads_2_1 : List UInt8 := dkwX1_leads_2_1 ++ []
def dkwX1_leads_2_0 : List UInt8 := [29, 154, 0, 4, 177, 43, 28, 4, 96, 92, 46, 4, 96, 79, 42, 180, 0, 57, 180, 1, 88, 29]
abbrev dktX1_leads_2_0 : List UInt8 := dkwX1_leads_2_0 ++ dktX1_leads_2_1
theorem dksX1_leads_2_0 : cX1_leads_2.data.toList.drop 0 = dktX1_leads_2_0 := by decide +kernel
theorem dksX1_leads_2_1 : cX1_leads_2.data.toList.drop 22 = dktX1_leads_2_1 := dk_seg dksX1_leads_2_0 22 rfl rfl
theorem dX1_leads_2_0 : decode cX1_leads_2 0 = .ok (.iload_n 3, 1) := dk_29 (dk_at dksX1_leads_2_0 0 rfl rfl)
theorem dX1_leads_2_1 : decode cX1_leads_2 1 = .ok (.ifCond .ne 4, 3) := dk_154 0 4 (dk_at dksX1_leads_2_0 1 rfl rfl)
theorem dX1_leads_2_4 : decode cX1_leads_2 4 = .ok (.return_, 1) := dk_177 (dk_at dksX1_leads_2_0 4 rfl rfl)
theorem dX1_leads_2_5 : decode cX1_leads_2 5 = .ok (.aload_n 1, 1) := dk_43 (dk_at dksX1_leads_2_0 5 rfl rfl)
theorem dX1_leads_2_6 : decode cX1_leads_2 6 = .ok (.iload_n 2, 1) := dk_28 (dk_at dksX1_leads_2_0 6 rfl rfl)
theorem dX1_leads_2_7 : decode cX1_leads_2 7 = .ok (.iconst 1, 1) := dk_4 (dk_at dksX1_leads_2_0 7 rfl rfl)
theorem dX1_leads_2_8 : decode cX1_leads_2 8 = .ok (.iadd, 1) := dk_96 (dk_at dksX1_leads_2_0 8 rfl rfl)
theorem dX1_leads_2_9 : decode cX1_leads_2 9 = .ok (.dup2, 1) := dk_92 (dk_at dksX1_leads_2_0 9 rfl rfl)
theorem dX1_leads_2_10 : decode cX1_leads_2 10 = .ok (.iaload, 1) := dk_46 (dk_at dksX1_leads_2_0 10 rfl rfl)
theorem dX1_leads_2_11 : decode cX1_leads_2 11 = .ok (.iconst 1, 1) := dk_4 (dk_at dksX1_leads_2_0 11 rfl rfl)
theorem dX1_leads_2_12 : decode cX1_leads_2 12 = .ok (.iadd, 1) := dk_96 (dk_at dksX1_leads_2_0 12 rfl rfl)
theorem dX1_leads_2_13 : decode cX1_leads_2 13 = .ok (.iastore, 1) := dk_79 (dk_at dksX1_leads_2_0 13 rfl rfl)
theorem dX1_leads_2_14 : decode cX1_leads_2 14 = .ok (.aload_n 0, 1) := dk_42 (dk_at dksX1_leads_2_0 14 rfl rfl)
theorem dX1_leads_2_15 : decode cX1_leads_2 15 = .ok (.getfield 57, 3) := dk_180 0 57 (dk_at dksX1_leads_2_0 15 rfl rfl)
theorem dX1_leads_2_18 : decode cX1_leads_2 18 = .ok (.getfield 344, 3) := dk_180 1 88 (dk_at dksX1_leads_2_0 18 rfl rfl)
theorem dX1_leads_2_21 : decode cX1_leads_2 21 = .ok (.iload_n 3, 1) := dk_29 (dk_at dksX1_leads_2_0 21 rfl rfl)
theorem dX1_leads_2_22 : decode cX1_leads_2 22 = .ok (.ifCond .le 7, 3) := dk_158 0 7 (dk_at dksX1_leads_2_1 0 rfl rfl)
theorem dX1_leads_2_25 : decode cX1_leads_2 25 = .ok (.iconst 0, 1) := dk_3 (dk_at dksX1_leads_2_1 3 rfl rfl)
theorem dX1_leads_2_26 : decode cX1_leads_2 26 = .ok (.goto 4, 3) := dk_167 0 4 (dk_at dksX1_leads_2_1 4 rfl rfl)
theorem dX1_leads_2_29 : decode cX1_leads_2 29 = .ok (.iconst 1, 1) := dk_4 (dk_at dksX1_leads_2_1 7 rfl rfl)
theorem dX1_leads_2_30 : decode cX1_leads_2 30 = .ok (.if_icmp .ne 10, 3) := dk_160 0 10 (dk_at dksX1_leads_2_1 8 rfl rfl)
theorem dX1_leads_2_33 : decode cX1_leads_2 33 = .ok (.aload_n 1, 1) := dk_43 (dk_at dksX1_leads_2_1 11 rfl rfl)
theorem dX1_leads_2_34 : decode cX1_leads_2 34 = .ok (.iload_n 2, 1) := dk_28 (dk_at dksX1_leads_2_1 12 rfl rfl)
theorem dX1_leads_2_35 : decode cX1_leads_2 35 = .ok (.dup2, 1) := dk_92 (dk_at dksX1_leads_2_1 13 rfl rfl)
theorem dX1_leads_2_36 : decode cX1_leads_2 36 = .ok (.iaload, 1) := dk_46 (dk_at dksX1_leads_2_1 14 rfl rfl)
theorem dX1_leads_2_37 : decode cX1_leads_2 37 = .ok (.iconst 1, 1) := dk_4 (dk_at dksX1_leads_2_1 15 rfl rfl)
theorem dX1_leads_2_38 : decode cX1_leads_2 38 = .ok (.iadd, 1) := dk_96 (dk_at dksX1_leads_2_1 16 rfl rfl)
theorem dX1_leads_2_39 : decode cX1_leads_2 39 = .ok (.iastore, 1) := dk_79 (dk_at dksX1_leads_2_1 17 rfl rfl)
theorem dX1_leads_2_40 : decode cX1_leads_2 40 = .ok (.return_, 1) := dk_177 (dk_at dksX1_leads_2_1 18 rfl rfl)
abbrev cX1_laws : ByteArray := prog_1_method_44_code
def yX1_laws : MethodName := ⟨RX1, "laws", "(III)I"⟩
def dkwX1_laws_8 : List UInt8 := [172]
abbrev dktX1_laws_8 : List UInt8 := dkwX1_laws_8 ++ []
def dkwX1_laws_7 : List UInt8 := [154, 0, 7, 29, 167, 0, 20, 29, 154, 0, 11, 21, 5, 21, 8, 108, 167, 0, 8, 21, 6, 21, 8, 108]
abbrev dktX1_laws_7 : List UInt8 := dkwX1_laws_7 ++ dktX1_laws_8
def dkwX1_laws_6 : List UInt8 := [21, 6, 154, 0, 7, 4, 167, 0, 13, 21, 6, 133, 21, 5, 133, 184, 0, 1, 136, 54, 8, 21, 6]
abbrev dktX1_laws_6 : List UInt8 := dkwX1_laws_6 ++ dktX1_laws_7
def dkwX1_laws_5 : List UInt8 := [180, 1, 91, 96, 54, 5, 132, 6, 1, 42, 182, 1, 115, 154, 255, 196, 29, 5, 160, 0, 6, 21, 7, 172]
abbrev dktX1_laws_5 : List UInt8 := dkwX1_laws_5 ++ dktX1_laws_6
def dkwX1_laws_4 : List UInt8 := [132, 7, 1, 42, 180, 0, 57, 180, 1, 88, 5, 161, 0, 6, 167, 0, 18, 21, 5, 42, 180, 0, 57]
abbrev dktX1_laws_4 : List UInt8 := dkwX1_laws_4 ++ dktX1_laws_5
def dkwX1_laws_3 : List UInt8 := [180, 0, 64, 182, 0, 171, 25, 4, 182, 1, 111, 42, 180, 0, 57, 180, 1, 88, 5, 160, 0, 6]
abbrev dktX1_laws_3 : List UInt8 := dkwX1_laws_3 ++ dktX1_laws_4
def dkwX1_laws_2 : List UInt8 := [180, 0, 198, 25, 4, 184, 1, 140, 25, 4, 27, 28, 79, 3, 54, 5, 3, 54, 6, 3, 54, 7, 42, 42]
abbrev dktX1_laws_2 : List UInt8 := dkwX1_laws_2 ++ dktX1_laws_3
def dkwX1_laws_1 : List UInt8 := [153, 0, 10, 42, 182, 1, 108, 154, 0, 5, 2, 172, 16, 8, 188, 10, 58, 4, 42, 180, 0, 64]
abbrev dktX1_laws_1 : List UInt8 := dkwX1_laws_1 ++ dktX1_laws_2
def dkwX1_laws_0 : List UInt8 := [42, 27, 182, 0, 194, 153, 0, 29, 28, 3, 16, 6, 184, 0, 190, 153, 0, 19, 29, 3, 5, 184, 0, 190]
abbrev dktX1_laws_0 : List UInt8 := dkwX1_laws_0 ++ dktX1_laws_1
theorem dksX1_laws_0 : cX1_laws.data.toList.drop 0 = dktX1_laws_0 := by decide +kernel
theorem dksX1_laws_1 : cX1_laws.data.toList.drop 24 = dktX1_laws_1 := dk_seg dksX1_laws_0 24 rfl rfl
theorem dksX1_laws_2 : cX1_laws.data.toList.drop 46 = dktX1_laws_2 := dk_seg dksX1_laws_1 22 rfl rfl
theorem dksX1_laws_3 : cX1_laws.data.toList.drop 70 = dktX1_laws_3 := dk_seg dksX1_laws_2 24 rfl rfl
theorem dksX1_laws_4 : cX1_laws.data.toList.drop 92 = dktX1_laws_4 := dk_seg dksX1_laws_3 22 rfl rfl
theorem dksX1_laws_5 : cX1_laws.data.toList.drop 115 = dktX1_laws_5 := dk_seg dksX1_laws_4 23 rfl rfl
theorem dksX1_laws_6 : cX1_laws.data.toList.drop 139 = dktX1_laws_6 := dk_seg dksX1_laws_5 24 rfl rfl
theorem dksX1_laws_7 : cX1_laws.data.toList.drop 162 = dktX1_laws_7 := dk_seg dksX1_laws_6 23 rfl rfl
theorem dksX1_laws_8 : cX1_laws.data.toList.drop 186 = dktX1_laws_8 := dk_seg dksX1_laws_7 24 rfl rfl
theorem dX1_laws_0 : decode cX1_laws 0 = .ok (.aload_n 0, 1) := dk_42 (dk_at dksX1_laws_0 0 rfl rfl)
theorem dX1_laws_1 : decode cX1_laws 1 = .ok (.iload_n 1, 1) := dk_27 (dk_at dksX1_laws_0 1 rfl rfl)
theorem dX1_laws_2 : decode cX1_laws 2 = .ok (.invokevirtual 194, 3) := dk_182 0 194 (dk_at dksX1_laws_0 2 rfl rfl)
theorem dX1_laws_5 : decode cX1_laws 5 = .ok (.ifCond .eq 29, 3) := dk_153 0 29 (dk_at dksX1_laws_0 5 rfl rfl)
theorem dX1_laws_8 : decode cX1_laws 8 = .ok (.iload_n 2, 1) := dk_28 (dk_at dksX1_laws_0 8 rfl rfl)
theorem dX1_laws_9 : decode cX1_laws 9 = .ok (.iconst 0, 1) := dk_3 (dk_at dksX1_laws_0 9 rfl rfl)
theorem dX1_laws_10 : decode cX1_laws 10 = .ok (.bipush 6, 2) := dk_16 6 (dk_at dksX1_laws_0 10 rfl rfl)
theorem dX1_laws_12 : decode cX1_laws 12 = .ok (.invokestatic 190, 3) := dk_184 0 190 (dk_at dksX1_laws_0 12 rfl rfl)
theorem dX1_laws_15 : decode cX1_laws 15 = .ok (.ifCond .eq 19, 3) := dk_153 0 19 (dk_at dksX1_laws_0 15 rfl rfl)
theorem dX1_laws_18 : decode cX1_laws 18 = .ok (.iload_n 3, 1) := dk_29 (dk_at dksX1_laws_0 18 rfl rfl)
theorem dX1_laws_19 : decode cX1_laws 19 = .ok (.iconst 0, 1) := dk_3 (dk_at dksX1_laws_0 19 rfl rfl)
theorem dX1_laws_20 : decode cX1_laws 20 = .ok (.iconst 2, 1) := dk_5 (dk_at dksX1_laws_0 20 rfl rfl)
theorem dX1_laws_21 : decode cX1_laws 21 = .ok (.invokestatic 190, 3) := dk_184 0 190 (dk_at dksX1_laws_0 21 rfl rfl)
theorem dX1_laws_24 : decode cX1_laws 24 = .ok (.ifCond .eq 10, 3) := dk_153 0 10 (dk_at dksX1_laws_1 0 rfl rfl)
theorem dX1_laws_27 : decode cX1_laws 27 = .ok (.aload_n 0, 1) := dk_42 (dk_at dksX1_laws_1 3 rfl rfl)
theorem dX1_laws_28 : decode cX1_laws 28 = .ok (.invokevirtual 364, 3) := dk_182 1 108 (dk_at dksX1_laws_1 4 rfl rfl)
theorem dX1_laws_31 : decode cX1_laws 31 = .ok (.ifCond .ne 5, 3) := dk_154 0 5 (dk_at dksX1_laws_1 7 rfl rfl)
theorem dX1_laws_34 : decode cX1_laws 34 = .ok (.iconst (-1), 1) := dk_2 (dk_at dksX1_laws_1 10 rfl rfl)
theorem dX1_laws_35 : decode cX1_laws 35 = .ok (.ireturn, 1) := dk_172 (dk_at dksX1_laws_1 11 rfl rfl)
theorem dX1_laws_36 : decode cX1_laws 36 = .ok (.bipush 8, 2) := dk_16 8 (dk_at dksX1_laws_1 12 rfl rfl)
theorem dX1_laws_38 : decode cX1_laws 38 = .ok (.newarray .int, 2) := dk_188_10 (dk_at dksX1_laws_1 14 rfl rfl)
theorem dX1_laws_40 : decode cX1_laws 40 = .ok (.astore 4, 2) := dk_58 4 (dk_at dksX1_laws_1 16 rfl rfl)
theorem dX1_laws_42 : decode cX1_laws 42 = .ok (.aload_n 0, 1) := dk_42 (dk_at dksX1_laws_1 18 rfl rfl)
theorem dX1_laws_43 : decode cX1_laws 43 = .ok (.getfield 64, 3) := dk_180 0 64 (dk_at dksX1_laws_1 19 rfl rfl)
theorem dX1_laws_46 : decode cX1_laws 46 = .ok (.getfield 198, 3) := dk_180 0 198 (dk_at dksX1_laws_2 0 rfl rfl)
theorem dX1_laws_49 : decode cX1_laws 49 = .ok (.aload 4, 2) := dk_25 4 (dk_at dksX1_laws_2 3 rfl rfl)
theorem dX1_laws_51 : decode cX1_laws 51 = .ok (.invokestatic 396, 3) := dk_184 1 140 (dk_at dksX1_laws_2 5 rfl rfl)
theorem dX1_laws_54 : decode cX1_laws 54 = .ok (.aload 4, 2) := dk_25 4 (dk_at dksX1_laws_2 8 rfl rfl)
theorem dX1_laws_56 : decode cX1_laws 56 = .ok (.iload_n 1, 1) := dk_27 (dk_at dksX1_laws_2 10 rfl rfl)
theorem dX1_laws_57 : decode cX1_laws 57 = .ok (.iload_n 2, 1) := dk_28 (dk_at dksX1_laws_2 11 rfl rfl)
theorem dX1_laws_58 : decode cX1_laws 58 = .ok (.iastore, 1) := dk_79 (dk_at dksX1_laws_2 12 rfl rfl)
theorem dX1_laws_59 : decode cX1_laws 59 = .ok (.iconst 0, 1) := dk_3 (dk_at dksX1_laws_2 13 rfl rfl)
theorem dX1_laws_60 : decode cX1_laws 60 = .ok (.istore 5, 2) := dk_54 5 (dk_at dksX1_laws_2 14 rfl rfl)
theorem dX1_laws_62 : decode cX1_laws 62 = .ok (.iconst 0, 1) := dk_3 (dk_at dksX1_laws_2 16 rfl rfl)
theorem dX1_laws_63 : decode cX1_laws 63 = .ok (.istore 6, 2) := dk_54 6 (dk_at dksX1_laws_2 17 rfl rfl)
theorem dX1_laws_65 : decode cX1_laws 65 = .ok (.iconst 0, 1) := dk_3 (dk_at dksX1_laws_2 19 rfl rfl)
theorem dX1_laws_66 : decode cX1_laws 66 = .ok (.istore 7, 2) := dk_54 7 (dk_at dksX1_laws_2 20 rfl rfl)
theorem dX1_laws_68 : decode cX1_laws 68 = .ok (.aload_n 0, 1) := dk_42 (dk_at dksX1_laws_2 22 rfl rfl)
theorem dX1_laws_69 : decode cX1_laws 69 = .ok (.aload_n 0, 1) := dk_42 (dk_at dksX1_laws_2 23 rfl rfl)
theorem dX1_laws_70 : decode cX1_laws 70 = .ok (.getfield 64, 3) := dk_180 0 64 (dk_at dksX1_laws_3 0 rfl rfl)
theorem dX1_laws_73 : decode cX1_laws 73 = .ok (.invokevirtual 171, 3) := dk_182 0 171 (dk_at dksX1_laws_3 3 rfl rfl)
theorem dX1_laws_76 : decode cX1_laws 76 = .ok (.aload 4, 2) := dk_25 4 (dk_at dksX1_laws_3 6 rfl rfl)
theorem dX1_laws_78 : decode cX1_laws 78 = .ok (.invokevirtual 367, 3) := dk_182 1 111 (dk_at dksX1_laws_3 8 rfl rfl)
theorem dX1_laws_81 : decode cX1_laws 81 = .ok (.aload_n 0, 1) := dk_42 (dk_at dksX1_laws_3 11 rfl rfl)
theorem dX1_laws_82 : decode cX1_laws 82 = .ok (.getfield 57, 3) := dk_180 0 57 (dk_at dksX1_laws_3 12 rfl rfl)
theorem dX1_laws_85 : decode cX1_laws 85 = .ok (.getfield 344, 3) := dk_180 1 88 (dk_at dksX1_laws_3 15 rfl rfl)
theorem dX1_laws_88 : decode cX1_laws 88 = .ok (.iconst 2, 1) := dk_5 (dk_at dksX1_laws_3 18 rfl rfl)
theorem dX1_laws_89 : decode cX1_laws 89 = .ok (.if_icmp .ne 6, 3) := dk_160 0 6 (dk_at dksX1_laws_3 19 rfl rfl)
theorem dX1_laws_92 : decode cX1_laws 92 = .ok (.iinc 7 1, 3) := dk_132 7 1 (dk_at dksX1_laws_4 0 rfl rfl)
theorem dX1_laws_95 : decode cX1_laws 95 = .ok (.aload_n 0, 1) := dk_42 (dk_at dksX1_laws_4 3 rfl rfl)
theorem dX1_laws_96 : decode cX1_laws 96 = .ok (.getfield 57, 3) := dk_180 0 57 (dk_at dksX1_laws_4 4 rfl rfl)
theorem dX1_laws_99 : decode cX1_laws 99 = .ok (.getfield 344, 3) := dk_180 1 88 (dk_at dksX1_laws_4 7 rfl rfl)
theorem dX1_laws_102 : decode cX1_laws 102 = .ok (.iconst 2, 1) := dk_5 (dk_at dksX1_laws_4 10 rfl rfl)
theorem dX1_laws_103 : decode cX1_laws 103 = .ok (.if_icmp .lt 6, 3) := dk_161 0 6 (dk_at dksX1_laws_4 11 rfl rfl)
theorem dX1_laws_106 : decode cX1_laws 106 = .ok (.goto 18, 3) := dk_167 0 18 (dk_at dksX1_laws_4 14 rfl rfl)
theorem dX1_laws_109 : decode cX1_laws 109 = .ok (.iload 5, 2) := dk_21 5 (dk_at dksX1_laws_4 17 rfl rfl)
theorem dX1_laws_111 : decode cX1_laws 111 = .ok (.aload_n 0, 1) := dk_42 (dk_at dksX1_laws_4 19 rfl rfl)
theorem dX1_laws_112 : decode cX1_laws 112 = .ok (.getfield 57, 3) := dk_180 0 57 (dk_at dksX1_laws_4 20 rfl rfl)
theorem dX1_laws_115 : decode cX1_laws 115 = .ok (.getfield 347, 3) := dk_180 1 91 (dk_at dksX1_laws_5 0 rfl rfl)
theorem dX1_laws_118 : decode cX1_laws 118 = .ok (.iadd, 1) := dk_96 (dk_at dksX1_laws_5 3 rfl rfl)
theorem dX1_laws_119 : decode cX1_laws 119 = .ok (.istore 5, 2) := dk_54 5 (dk_at dksX1_laws_5 4 rfl rfl)
theorem dX1_laws_121 : decode cX1_laws 121 = .ok (.iinc 6 1, 3) := dk_132 6 1 (dk_at dksX1_laws_5 6 rfl rfl)
theorem dX1_laws_124 : decode cX1_laws 124 = .ok (.aload_n 0, 1) := dk_42 (dk_at dksX1_laws_5 9 rfl rfl)
theorem dX1_laws_125 : decode cX1_laws 125 = .ok (.invokevirtual 371, 3) := dk_182 1 115 (dk_at dksX1_laws_5 10 rfl rfl)
theorem dX1_laws_128 : decode cX1_laws 128 = .ok (.ifCond .ne (-60), 3) := dk_154 255 196 (dk_at dksX1_laws_5 13 rfl rfl)
theorem dX1_laws_131 : decode cX1_laws 131 = .ok (.iload_n 3, 1) := dk_29 (dk_at dksX1_laws_5 16 rfl rfl)
theorem dX1_laws_132 : decode cX1_laws 132 = .ok (.iconst 2, 1) := dk_5 (dk_at dksX1_laws_5 17 rfl rfl)
theorem dX1_laws_133 : decode cX1_laws 133 = .ok (.if_icmp .ne 6, 3) := dk_160 0 6 (dk_at dksX1_laws_5 18 rfl rfl)
theorem dX1_laws_136 : decode cX1_laws 136 = .ok (.iload 7, 2) := dk_21 7 (dk_at dksX1_laws_5 21 rfl rfl)
theorem dX1_laws_138 : decode cX1_laws 138 = .ok (.ireturn, 1) := dk_172 (dk_at dksX1_laws_5 23 rfl rfl)
theorem dX1_laws_139 : decode cX1_laws 139 = .ok (.iload 6, 2) := dk_21 6 (dk_at dksX1_laws_6 0 rfl rfl)
theorem dX1_laws_141 : decode cX1_laws 141 = .ok (.ifCond .ne 7, 3) := dk_154 0 7 (dk_at dksX1_laws_6 2 rfl rfl)
theorem dX1_laws_144 : decode cX1_laws 144 = .ok (.iconst 1, 1) := dk_4 (dk_at dksX1_laws_6 5 rfl rfl)
theorem dX1_laws_145 : decode cX1_laws 145 = .ok (.goto 13, 3) := dk_167 0 13 (dk_at dksX1_laws_6 6 rfl rfl)
theorem dX1_laws_148 : decode cX1_laws 148 = .ok (.iload 6, 2) := dk_21 6 (dk_at dksX1_laws_6 9 rfl rfl)
theorem dX1_laws_150 : decode cX1_laws 150 = .ok (.i2l, 1) := dk_133 (dk_at dksX1_laws_6 11 rfl rfl)
theorem dX1_laws_151 : decode cX1_laws 151 = .ok (.iload 5, 2) := dk_21 5 (dk_at dksX1_laws_6 12 rfl rfl)
theorem dX1_laws_153 : decode cX1_laws 153 = .ok (.i2l, 1) := dk_133 (dk_at dksX1_laws_6 14 rfl rfl)
theorem dX1_laws_154 : decode cX1_laws 154 = .ok (.invokestatic 1, 3) := dk_184 0 1 (dk_at dksX1_laws_6 15 rfl rfl)
theorem dX1_laws_157 : decode cX1_laws 157 = .ok (.l2i, 1) := dk_136 (dk_at dksX1_laws_6 18 rfl rfl)
theorem dX1_laws_158 : decode cX1_laws 158 = .ok (.istore 8, 2) := dk_54 8 (dk_at dksX1_laws_6 19 rfl rfl)
theorem dX1_laws_160 : decode cX1_laws 160 = .ok (.iload 6, 2) := dk_21 6 (dk_at dksX1_laws_6 21 rfl rfl)
theorem dX1_laws_162 : decode cX1_laws 162 = .ok (.ifCond .ne 7, 3) := dk_154 0 7 (dk_at dksX1_laws_7 0 rfl rfl)
theorem dX1_laws_165 : decode cX1_laws 165 = .ok (.iload_n 3, 1) := dk_29 (dk_at dksX1_laws_7 3 rfl rfl)
theorem dX1_laws_166 : decode cX1_laws 166 = .ok (.goto 20, 3) := dk_167 0 20 (dk_at dksX1_laws_7 4 rfl rfl)
theorem dX1_laws_169 : decode cX1_laws 169 = .ok (.iload_n 3, 1) := dk_29 (dk_at dksX1_laws_7 7 rfl rfl)
theorem dX1_laws_170 : decode cX1_laws 170 = .ok (.ifCond .ne 11, 3) := dk_154 0 11 (dk_at dksX1_laws_7 8 rfl rfl)
theorem dX1_laws_173 : decode cX1_laws 173 = .ok (.iload 5, 2) := dk_21 5 (dk_at dksX1_laws_7 11 rfl rfl)
theorem dX1_laws_175 : decode cX1_laws 175 = .ok (.iload 8, 2) := dk_21 8 (dk_at dksX1_laws_7 13 rfl rfl)
theorem dX1_laws_177 : decode cX1_laws 177 = .ok (.idiv, 1) := dk_108 (dk_at dksX1_laws_7 15 rfl rfl)
theorem dX1_laws_178 : decode cX1_laws 178 = .ok (.goto 8, 3) := dk_167 0 8 (dk_at dksX1_laws_7 16 rfl rfl)
theorem dX1_laws_181 : decode cX1_laws 181 = .ok (.iload 6, 2) := dk_21 6 (dk_at dksX1_laws_7 19 rfl rfl)
theorem dX1_laws_183 : decode cX1_laws 183 = .ok (.iload 8, 2) := dk_21 8 (dk_at dksX1_laws_7 21 rfl rfl)
theorem dX1_laws_185 : decode cX1_laws 185 = .ok (.idiv, 1) := dk_108 (dk_at dksX1_laws_7 23 rfl rfl)
theorem dX1_laws_186 : decode cX1_laws 186 = .ok (.ireturn, 1) := dk_172 (dk_at dksX1_laws_8 0 rfl rfl)
abbrev cX1_gcd : ByteArray := prog_1_method_2_code
def yX1_gcd : MethodName := ⟨RX1, "gcd", "(JJ)J"⟩
def dkwX1_gcd_0 : List UInt8 := [32, 9, 148, 154, 0, 7, 30, 167, 0, 10, 32, 30, 32, 113, 184, 0, 1, 173]
abbrev dktX1_gcd_0 : List UInt8 := dkwX1_gcd_0 ++ []
theorem dksX1_gcd_0 : cX1_gcd.data.toList.drop 0 = dktX1_gcd_0 := by decide +kernel
theorem dX1_gcd_0 : decode cX1_gcd 0 = .ok (.lload_n 2, 1) := dk_32 (dk_at dksX1_gcd_0 0 rfl rfl)
theorem dX1_gcd_1 : decode cX1_gcd 1 = .ok (.lconst 0, 1) := dk_9 (dk_at dksX1_gcd_0 1 rfl rfl)
theorem dX1_gcd_2 : decode cX1_gcd 2 = .ok (.lcmp, 1) := dk_148 (dk_at dksX1_gcd_0 2 rfl rfl)
theorem dX1_gcd_3 : decode cX1_gcd 3 = .ok (.ifCond .ne 7, 3) := dk_154 0 7 (dk_at dksX1_gcd_0 3 rfl rfl)
theorem dX1_gcd_6 : decode cX1_gcd 6 = .ok (.lload_n 0, 1) := dk_30 (dk_at dksX1_gcd_0 6 rfl rfl)
theorem dX1_gcd_7 : decode cX1_gcd 7 = .ok (.goto 10, 3) := dk_167 0 10 (dk_at dksX1_gcd_0 7 rfl rfl)
theorem dX1_gcd_10 : decode cX1_gcd 10 = .ok (.lload_n 2, 1) := dk_32 (dk_at dksX1_gcd_0 10 rfl rfl)
theorem dX1_gcd_11 : decode cX1_gcd 11 = .ok (.lload_n 0, 1) := dk_30 (dk_at dksX1_gcd_0 11 rfl rfl)
theorem dX1_gcd_12 : decode cX1_gcd 12 = .ok (.lload_n 2, 1) := dk_32 (dk_at dksX1_gcd_0 12 rfl rfl)
theorem dX1_gcd_13 : decode cX1_gcd 13 = .ok (.lrem, 1) := dk_113 (dk_at dksX1_gcd_0 13 rfl rfl)
theorem dX1_gcd_14 : decode cX1_gcd 14 = .ok (.invokestatic 1, 3) := dk_184 0 1 (dk_at dksX1_gcd_0 14 rfl rfl)
theorem dX1_gcd_17 : decode cX1_gcd 17 = .ok (.lreturn, 1) := dk_173 (dk_at dksX1_gcd_0 17 rfl rfl)
abbrev cX1_unseen : ByteArray := prog_1_method_46_code
def yX1_unseen : MethodName := ⟨RX1, "unseen", "(I)I"⟩
def dkwX1_unseen_0 : List UInt8 := [27, 184, 0, 216, 153, 0, 11, 42, 27, 182, 1, 144, 167, 0, 4, 2, 172]
abbrev dktX1_unseen_0 : List UInt8 := dkwX1_unseen_0 ++ []
theorem dksX1_unseen_0 : cX1_unseen.data.toList.drop 0 = dktX1_unseen_0 := by decide +kernel
theorem dX1_unseen_0 : decode cX1_unseen 0 = .ok (.iload_n 1, 1) := dk_27 (dk_at dksX1_unseen_0 0 rfl rfl)
theorem dX1_unseen_1 : decode cX1_unseen 1 = .ok (.invokestatic 216, 3) := dk_184 0 216 (dk_at dksX1_unseen_0 1 rfl rfl)
theorem dX1_unseen_4 : decode cX1_unseen 4 = .ok (.ifCond .eq 11, 3) := dk_153 0 11 (dk_at dksX1_unseen_0 4 rfl rfl)
theorem dX1_unseen_7 : decode cX1_unseen 7 = .ok (.aload_n 0, 1) := dk_42 (dk_at dksX1_unseen_0 7 rfl rfl)
theorem dX1_unseen_8 : decode cX1_unseen 8 = .ok (.iload_n 1, 1) := dk_27 (dk_at dksX1_unseen_0 8 rfl rfl)
theorem dX1_unseen_9 : decode cX1_unseen 9 = .ok (.invokevirtual 400, 3) := dk_182 1 144 (dk_at dksX1_unseen_0 9 rfl rfl)
theorem dX1_unseen_12 : decode cX1_unseen 12 = .ok (.goto 4, 3) := dk_167 0 4 (dk_at dksX1_unseen_0 12 rfl rfl)
theorem dX1_unseen_15 : decode cX1_unseen 15 = .ok (.iconst (-1), 1) := dk_2 (dk_at dksX1_unseen_0 15 rfl rfl)
theorem dX1_unseen_16 : decode cX1_unseen 16 = .ok (.ireturn, 1) := dk_172 (dk_at dksX1_unseen_0 16 rfl rfl)
abbrev cX1_unseenOf : ByteArray := prog_1_method_45_code
def yX1_unseenOf : MethodName := ⟨RX1, "unseenOf", "(I)I"⟩
def dkwX1_unseenOf_2 : List UInt8 := [132, 2, 1, 132, 3, 1, 167, 255, 207, 28, 172]
abbrev dktX1_unseenOf_2 : List UInt8 := dkwX1_unseenOf_2 ++ []
def dkwX1_unseenOf_1 : List UInt8 := [180, 1, 65, 29, 51, 153, 0, 21, 167, 0, 15, 42, 180, 0, 80, 180, 1, 69, 29, 51, 153, 0, 6]
abbrev dktX1_unseenOf_1 : List UInt8 := dkwX1_unseenOf_1 ++ dktX1_unseenOf_2
def dkwX1_unseenOf_0 : List UInt8 := [3, 61, 3, 62, 29, 42, 180, 0, 80, 27, 182, 0, 210, 162, 0, 43, 27, 154, 0, 18, 42, 180, 0, 80]
abbrev dktX1_unseenOf_0 : List UInt8 := dkwX1_unseenOf_0 ++ dktX1_unseenOf_1
theorem dksX1_unseenOf_0 : cX1_unseenOf.data.toList.drop 0 = dktX1_unseenOf_0 := by decide +kernel
theorem dksX1_unseenOf_1 : cX1_unseenOf.data.toList.drop 24 = dktX1_unseenOf_1 := dk_seg dksX1_unseenOf_0 24 rfl rfl
theorem dksX1_unseenOf_2 : cX1_unseenOf.data.toList.drop 47 = dktX1_unseenOf_2 := dk_seg dksX1_unseenOf_1 23 rfl rfl
theorem dX1_unseenOf_0 : decode cX1_unseenOf 0 = .ok (.iconst 0, 1) := dk_3 (dk_at dksX1_unseenOf_0 0 rfl rfl)
theorem dX1_unseenOf_1 : decode cX1_unseenOf 1 = .ok (.istore_n 2, 1) := dk_61 (dk_at dksX1_unseenOf_0 1 rfl rfl)
theorem dX1_unseenOf_2 : decode cX1_unseenOf 2 = .ok (.iconst 0, 1) := dk_3 (dk_at dksX1_unseenOf_0 2 rfl rfl)
theorem dX1_unseenOf_3 : decode cX1_unseenOf 3 = .ok (.istore_n 3, 1) := dk_62 (dk_at dksX1_unseenOf_0 3 rfl rfl)
theorem dX1_unseenOf_4 : decode cX1_unseenOf 4 = .ok (.iload_n 3, 1) := dk_29 (dk_at dksX1_unseenOf_0 4 rfl rfl)
theorem dX1_unseenOf_5 : decode cX1_unseenOf 5 = .ok (.aload_n 0, 1) := dk_42 (dk_at dksX1_unseenOf_0 5 rfl rfl)
theorem dX1_unseenOf_6 : decode cX1_unseenOf 6 = .ok (.getfield 80, 3) := dk_180 0 80 (dk_at dksX1_unseenOf_0 6 rfl rfl)
theorem dX1_unseenOf_9 : decode cX1_unseenOf 9 = .ok (.iload_n 1, 1) := dk_27 (dk_at dksX1_unseenOf_0 9 rfl rfl)
theorem dX1_unseenOf_10 : decode cX1_unseenOf 10 = .ok (.invokevirtual 210, 3) := dk_182 0 210 (dk_at dksX1_unseenOf_0 10 rfl rfl)
theorem dX1_unseenOf_13 : decode cX1_unseenOf 13 = .ok (.if_icmp .ge 43, 3) := dk_162 0 43 (dk_at dksX1_unseenOf_0 13 rfl rfl)
theorem dX1_unseenOf_16 : decode cX1_unseenOf 16 = .ok (.iload_n 1, 1) := dk_27 (dk_at dksX1_unseenOf_0 16 rfl rfl)
theorem dX1_unseenOf_17 : decode cX1_unseenOf 17 = .ok (.ifCond .ne 18, 3) := dk_154 0 18 (dk_at dksX1_unseenOf_0 17 rfl rfl)
theorem dX1_unseenOf_20 : decode cX1_unseenOf 20 = .ok (.aload_n 0, 1) := dk_42 (dk_at dksX1_unseenOf_0 20 rfl rfl)
theorem dX1_unseenOf_21 : decode cX1_unseenOf 21 = .ok (.getfield 80, 3) := dk_180 0 80 (dk_at dksX1_unseenOf_0 21 rfl rfl)
theorem dX1_unseenOf_24 : decode cX1_unseenOf 24 = .ok (.getfield 321, 3) := dk_180 1 65 (dk_at dksX1_unseenOf_1 0 rfl rfl)
theorem dX1_unseenOf_27 : decode cX1_unseenOf 27 = .ok (.iload_n 3, 1) := dk_29 (dk_at dksX1_unseenOf_1 3 rfl rfl)
theorem dX1_unseenOf_28 : decode cX1_unseenOf 28 = .ok (.baload, 1) := dk_51 (dk_at dksX1_unseenOf_1 4 rfl rfl)
theorem dX1_unseenOf_29 : decode cX1_unseenOf 29 = .ok (.ifCond .eq 21, 3) := dk_153 0 21 (dk_at dksX1_unseenOf_1 5 rfl rfl)
theorem dX1_unseenOf_32 : decode cX1_unseenOf 32 = .ok (.goto 15, 3) := dk_167 0 15 (dk_at dksX1_unseenOf_1 8 rfl rfl)
theorem dX1_unseenOf_35 : decode cX1_unseenOf 35 = .ok (.aload_n 0, 1) := dk_42 (dk_at dksX1_unseenOf_1 11 rfl rfl)
theorem dX1_unseenOf_36 : decode cX1_unseenOf 36 = .ok (.getfield 80, 3) := dk_180 0 80 (dk_at dksX1_unseenOf_1 12 rfl rfl)
theorem dX1_unseenOf_39 : decode cX1_unseenOf 39 = .ok (.getfield 325, 3) := dk_180 1 69 (dk_at dksX1_unseenOf_1 15 rfl rfl)
theorem dX1_unseenOf_42 : decode cX1_unseenOf 42 = .ok (.iload_n 3, 1) := dk_29 (dk_at dksX1_unseenOf_1 18 rfl rfl)
theorem dX1_unseenOf_43 : decode cX1_unseenOf 43 = .ok (.baload, 1) := dk_51 (dk_at dksX1_unseenOf_1 19 rfl rfl)
theorem dX1_unseenOf_44 : decode cX1_unseenOf 44 = .ok (.ifCond .eq 6, 3) := dk_153 0 6 (dk_at dksX1_unseenOf_1 20 rfl rfl)
theorem dX1_unseenOf_47 : decode cX1_unseenOf 47 = .ok (.iinc 2 1, 3) := dk_132 2 1 (dk_at dksX1_unseenOf_2 0 rfl rfl)
theorem dX1_unseenOf_50 : decode cX1_unseenOf 50 = .ok (.iinc 3 1, 3) := dk_132 3 1 (dk_at dksX1_unseenOf_2 3 rfl rfl)
theorem dX1_unseenOf_53 : decode cX1_unseenOf 53 = .ok (.goto (-49), 3) := dk_167 255 207 (dk_at dksX1_unseenOf_2 6 rfl rfl)
theorem dX1_unseenOf_56 : decode cX1_unseenOf 56 = .ok (.iload_n 2, 1) := dk_28 (dk_at dksX1_unseenOf_2 9 rfl rfl)
theorem dX1_unseenOf_57 : decode cX1_unseenOf 57 = .ok (.ireturn, 1) := dk_172 (dk_at dksX1_unseenOf_2 10 rfl rfl)
abbrev cX1_odds : ByteArray := prog_1_method_48_code
def yX1_odds : MethodName := ⟨RX1, "odds", "(I)I"⟩
def dkwX1_odds_2 : List UInt8 := [180, 0, 108, 5, 46, 96, 42, 180, 0, 108, 6, 46, 96, 172]
abbrev dktX1_odds_2 : List UInt8 := dkwX1_odds_2 ++ []
def dkwX1_odds_1 : List UInt8 := [180, 0, 108, 27, 46, 167, 0, 30, 42, 180, 0, 108, 3, 46, 42, 180, 0, 108, 4, 46, 96, 42]
abbrev dktX1_odds_1 : List UInt8 := dkwX1_odds_1 ++ dktX1_odds_2
def dkwX1_odds_0 : List UInt8 := [27, 3, 5, 184, 0, 190, 153, 0, 10, 42, 182, 1, 153, 154, 0, 5, 2, 172, 27, 5, 162, 0, 12, 42]
abbrev dktX1_odds_0 : List UInt8 := dkwX1_odds_0 ++ dktX1_odds_1
theorem dksX1_odds_0 : cX1_odds.data.toList.drop 0 = dktX1_odds_0 := by decide +kernel
theorem dksX1_odds_1 : cX1_odds.data.toList.drop 24 = dktX1_odds_1 := dk_seg dksX1_odds_0 24 rfl rfl
theorem dksX1_odds_2 : cX1_odds.data.toList.drop 46 = dktX1_odds_2 := dk_seg dksX1_odds_1 22 rfl rfl
theorem dX1_odds_0 : decode cX1_odds 0 = .ok (.iload_n 1, 1) := dk_27 (dk_at dksX1_odds_0 0 rfl rfl)
theorem dX1_odds_1 : decode cX1_odds 1 = .ok (.iconst 0, 1) := dk_3 (dk_at dksX1_odds_0 1 rfl rfl)
theorem dX1_odds_2 : decode cX1_odds 2 = .ok (.iconst 2, 1) := dk_5 (dk_at dksX1_odds_0 2 rfl rfl)
theorem dX1_odds_3 : decode cX1_odds 3 = .ok (.invokestatic 190, 3) := dk_184 0 190 (dk_at dksX1_odds_0 3 rfl rfl)
theorem dX1_odds_6 : decode cX1_odds 6 = .ok (.ifCond .eq 10, 3) := dk_153 0 10 (dk_at dksX1_odds_0 6 rfl rfl)
theorem dX1_odds_9 : decode cX1_odds 9 = .ok (.aload_n 0, 1) := dk_42 (dk_at dksX1_odds_0 9 rfl rfl)
theorem dX1_odds_10 : decode cX1_odds 10 = .ok (.invokevirtual 409, 3) := dk_182 1 153 (dk_at dksX1_odds_0 10 rfl rfl)
theorem dX1_odds_13 : decode cX1_odds 13 = .ok (.ifCond .ne 5, 3) := dk_154 0 5 (dk_at dksX1_odds_0 13 rfl rfl)
theorem dX1_odds_16 : decode cX1_odds 16 = .ok (.iconst (-1), 1) := dk_2 (dk_at dksX1_odds_0 16 rfl rfl)
theorem dX1_odds_17 : decode cX1_odds 17 = .ok (.ireturn, 1) := dk_172 (dk_at dksX1_odds_0 17 rfl rfl)
theorem dX1_odds_18 : decode cX1_odds 18 = .ok (.iload_n 1, 1) := dk_27 (dk_at dksX1_odds_0 18 rfl rfl)
theorem dX1_odds_19 : decode cX1_odds 19 = .ok (.iconst 2, 1) := dk_5 (dk_at dksX1_odds_0 19 rfl rfl)
theorem dX1_odds_20 : decode cX1_odds 20 = .ok (.if_icmp .ge 12, 3) := dk_162 0 12 (dk_at dksX1_odds_0 20 rfl rfl)
theorem dX1_odds_23 : decode cX1_odds 23 = .ok (.aload_n 0, 1) := dk_42 (dk_at dksX1_odds_0 23 rfl rfl)
theorem dX1_odds_24 : decode cX1_odds 24 = .ok (.getfield 108, 3) := dk_180 0 108 (dk_at dksX1_odds_1 0 rfl rfl)
theorem dX1_odds_27 : decode cX1_odds 27 = .ok (.iload_n 1, 1) := dk_27 (dk_at dksX1_odds_1 3 rfl rfl)
theorem dX1_odds_28 : decode cX1_odds 28 = .ok (.iaload, 1) := dk_46 (dk_at dksX1_odds_1 4 rfl rfl)
theorem dX1_odds_29 : decode cX1_odds 29 = .ok (.goto 30, 3) := dk_167 0 30 (dk_at dksX1_odds_1 5 rfl rfl)
theorem dX1_odds_32 : decode cX1_odds 32 = .ok (.aload_n 0, 1) := dk_42 (dk_at dksX1_odds_1 8 rfl rfl)
theorem dX1_odds_33 : decode cX1_odds 33 = .ok (.getfield 108, 3) := dk_180 0 108 (dk_at dksX1_odds_1 9 rfl rfl)
theorem dX1_odds_36 : decode cX1_odds 36 = .ok (.iconst 0, 1) := dk_3 (dk_at dksX1_odds_1 12 rfl rfl)
theorem dX1_odds_37 : decode cX1_odds 37 = .ok (.iaload, 1) := dk_46 (dk_at dksX1_odds_1 13 rfl rfl)
theorem dX1_odds_38 : decode cX1_odds 38 = .ok (.aload_n 0, 1) := dk_42 (dk_at dksX1_odds_1 14 rfl rfl)
theorem dX1_odds_39 : decode cX1_odds 39 = .ok (.getfield 108, 3) := dk_180 0 108 (dk_at dksX1_odds_1 15 rfl rfl)
theorem dX1_odds_42 : decode cX1_odds 42 = .ok (.iconst 1, 1) := dk_4 (dk_at dksX1_odds_1 18 rfl rfl)
theorem dX1_odds_43 : decode cX1_odds 43 = .ok (.iaload, 1) := dk_46 (dk_at dksX1_odds_1 19 rfl rfl)
theorem dX1_odds_44 : decode cX1_odds 44 = .ok (.iadd, 1) := dk_96 (dk_at dksX1_odds_1 20 rfl rfl)
theorem dX1_odds_45 : decode cX1_odds 45 = .ok (.aload_n 0, 1) := dk_42 (dk_at dksX1_odds_1 21 rfl rfl)
theorem dX1_odds_46 : decode cX1_odds 46 = .ok (.getfield 108, 3) := dk_180 0 108 (dk_at dksX1_odds_2 0 rfl rfl)
theorem dX1_odds_49 : decode cX1_odds 49 = .ok (.iconst 2, 1) := dk_5 (dk_at dksX1_odds_2 3 rfl rfl)
theorem dX1_odds_50 : decode cX1_odds 50 = .ok (.iaload, 1) := dk_46 (dk_at dksX1_odds_2 4 rfl rfl)
theorem dX1_odds_51 : decode cX1_odds 51 = .ok (.iadd, 1) := dk_96 (dk_at dksX1_odds_2 5 rfl rfl)
theorem dX1_odds_52 : decode cX1_odds 52 = .ok (.aload_n 0, 1) := dk_42 (dk_at dksX1_odds_2 6 rfl rfl)
theorem dX1_odds_53 : decode cX1_odds 53 = .ok (.getfield 108, 3) := dk_180 0 108 (dk_at dksX1_odds_2 7 rfl rfl)
theorem dX1_odds_56 : decode cX1_odds 56 = .ok (.iconst 3, 1) := dk_6 (dk_at dksX1_odds_2 10 rfl rfl)
theorem dX1_odds_57 : decode cX1_odds 57 = .ok (.iaload, 1) := dk_46 (dk_at dksX1_odds_2 11 rfl rfl)
theorem dX1_odds_58 : decode cX1_odds 58 = .ok (.iadd, 1) := dk_96 (dk_at dksX1_odds_2 12 rfl rfl)
theorem dX1_odds_59 : decode cX1_odds 59 = .ok (.ireturn, 1) := dk_172 (dk_at dksX1_odds_2 13 rfl rfl)
abbrev cX1_goesThrough : ByteArray := prog_1_method_47_code
def yX1_goesThrough : MethodName := ⟨RX1, "goesThrough", "()Z"⟩
def dkwX1_goesThrough_14 : List UInt8 := [180, 0, 108, 42, 180, 0, 57, 180, 1, 88, 92, 46, 4, 96, 79, 42, 182, 1, 115, 154, 255, 100, 4, 172]
abbrev dktX1_goesThrough_14 : List UInt8 := dkwX1_goesThrough_14 ++ []
def dkwX1_goesThrough_13 : List UInt8 := [42, 180, 0, 84, 42, 180, 0, 64, 180, 0, 198, 42, 180, 0, 64, 182, 1, 78, 182, 1, 81, 42]
abbrev dktX1_goesThrough_13 : List UInt8 := dkwX1_goesThrough_13 ++ dktX1_goesThrough_14
def dkwX1_goesThrough_12 : List UInt8 := [180, 1, 150, 29, 42, 180, 0, 105, 28, 132, 2, 1, 46, 79, 132, 3, 1, 167, 255, 212, 42, 180, 0, 57]
abbrev dktX1_goesThrough_12 : List UInt8 := dkwX1_goesThrough_12 ++ dktX1_goesThrough_13
def dkwX1_goesThrough_11 : List UInt8 := [180, 1, 129, 162, 0, 39, 42, 180, 0, 80, 180, 1, 69, 29, 51, 153, 0, 21, 42, 180, 0, 84]
abbrev dktX1_goesThrough_11 : List UInt8 := dkwX1_goesThrough_11 ++ dktX1_goesThrough_12
def dkwX1_goesThrough_10 : List UInt8 := [180, 0, 105, 28, 132, 2, 1, 46, 79, 132, 3, 1, 167, 255, 212, 3, 62, 29, 42, 180, 0, 80]
abbrev dktX1_goesThrough_10 : List UInt8 := dkwX1_goesThrough_10 ++ dktX1_goesThrough_11
def dkwX1_goesThrough_9 : List UInt8 := [162, 0, 39, 42, 180, 0, 80, 180, 1, 65, 29, 51, 153, 0, 21, 42, 180, 0, 84, 180, 1, 147, 29, 42]
abbrev dktX1_goesThrough_9 : List UInt8 := dkwX1_goesThrough_9 ++ dktX1_goesThrough_10
def dkwX1_goesThrough_8 : List UInt8 := [42, 180, 0, 84, 42, 180, 0, 80, 182, 1, 75, 3, 61, 3, 62, 29, 42, 180, 0, 80, 180, 1, 126]
abbrev dktX1_goesThrough_8 : List UInt8 := dkwX1_goesThrough_8 ++ dktX1_goesThrough_9
def dkwX1_goesThrough_7 : List UInt8 := [3, 61, 28, 42, 180, 0, 108, 190, 162, 0, 16, 42, 180, 0, 108, 28, 3, 79, 132, 2, 1, 167, 255, 237]
abbrev dktX1_goesThrough_7 : List UInt8 := dkwX1_goesThrough_7 ++ dktX1_goesThrough_8
def dkwX1_goesThrough_6 : List UInt8 := [132, 3, 1, 167, 255, 207, 132, 2, 1, 167, 255, 137, 42, 182, 1, 99, 17, 78, 32, 164, 0, 5, 3, 172]
abbrev dktX1_goesThrough_6 : List UInt8 := dkwX1_goesThrough_6 ++ dktX1_goesThrough_7
def dkwX1_goesThrough_5 : List UInt8 := [180, 0, 80, 180, 1, 150, 29, 46, 28, 160, 0, 13, 42, 180, 0, 105, 27, 132, 1, 1, 28, 79]
abbrev dktX1_goesThrough_5 : List UInt8 := dkwX1_goesThrough_5 ++ dktX1_goesThrough_6
def dkwX1_goesThrough_4 : List UInt8 := [180, 0, 80, 180, 1, 129, 162, 0, 44, 42, 180, 0, 80, 180, 1, 69, 29, 51, 153, 0, 26, 42]
abbrev dktX1_goesThrough_4 : List UInt8 := dkwX1_goesThrough_4 ++ dktX1_goesThrough_5
def dkwX1_goesThrough_3 : List UInt8 := [28, 160, 0, 13, 42, 180, 0, 105, 27, 132, 1, 1, 28, 79, 132, 3, 1, 167, 255, 207, 3, 62, 29, 42]
abbrev dktX1_goesThrough_3 : List UInt8 := dkwX1_goesThrough_3 ++ dktX1_goesThrough_4
def dkwX1_goesThrough_2 : List UInt8 := [162, 0, 44, 42, 180, 0, 80, 180, 1, 65, 29, 51, 153, 0, 26, 42, 180, 0, 80, 180, 1, 147, 29, 46]
abbrev dktX1_goesThrough_2 : List UInt8 := dkwX1_goesThrough_2 ++ dktX1_goesThrough_3
def dkwX1_goesThrough_1 : List UInt8 := [3, 172, 3, 60, 3, 61, 28, 42, 182, 0, 188, 162, 0, 117, 3, 62, 29, 42, 180, 0, 80, 180, 1, 126]
abbrev dktX1_goesThrough_1 : List UInt8 := dkwX1_goesThrough_1 ++ dktX1_goesThrough_2
def dkwX1_goesThrough_0 : List UInt8 := [42, 42, 3, 182, 1, 144, 42, 4, 182, 1, 144, 96, 181, 1, 98, 42, 180, 1, 98, 16, 10, 164, 0, 5]
abbrev dktX1_goesThrough_0 : List UInt8 := dkwX1_goesThrough_0 ++ dktX1_goesThrough_1
theorem dksX1_goesThrough_0 : cX1_goesThrough.data.toList.drop 0 = dktX1_goesThrough_0 := by decide +kernel
theorem dksX1_goesThrough_1 : cX1_goesThrough.data.toList.drop 24 = dktX1_goesThrough_1 := dk_seg dksX1_goesThrough_0 24 rfl rfl
theorem dksX1_goesThrough_2 : cX1_goesThrough.data.toList.drop 48 = dktX1_goesThrough_2 := dk_seg dksX1_goesThrough_1 24 rfl rfl
theorem dksX1_goesThrough_3 : cX1_goesThrough.data.toList.drop 72 = dktX1_goesThrough_3 := dk_seg dksX1_goesThrough_2 24 rfl rfl
theorem dksX1_goesThrough_4 : cX1_goesThrough.data.toList.drop 96 = dktX1_goesThrough_4 := dk_seg dksX1_goesThrough_3 24 rfl rfl
theorem dksX1_goesThrough_5 : cX1_goesThrough.data.toList.drop 118 = dktX1_goesThrough_5 := dk_seg dksX1_goesThrough_4 22 rfl rfl
theorem dksX1_goesThrough_6 : cX1_goesThrough.data.toList.drop 140 = dktX1_goesThrough_6 := dk_seg dksX1_goesThrough_5 22 rfl rfl
theorem dksX1_goesThrough_7 : cX1_goesThrough.data.toList.drop 164 = dktX1_goesThrough_7 := dk_seg dksX1_goesThrough_6 24 rfl rfl
theorem dksX1_goesThrough_8 : cX1_goesThrough.data.toList.drop 188 = dktX1_goesThrough_8 := dk_seg dksX1_goesThrough_7 24 rfl rfl
theorem dksX1_goesThrough_9 : cX1_goesThrough.data.toList.drop 211 = dktX1_goesThrough_9 := dk_seg dksX1_goesThrough_8 23 rfl rfl
theorem dksX1_goesThrough_10 : cX1_goesThrough.data.toList.drop 235 = dktX1_goesThrough_10 := dk_seg dksX1_goesThrough_9 24 rfl rfl
theorem dksX1_goesThrough_11 : cX1_goesThrough.data.toList.drop 257 = dktX1_goesThrough_11 := dk_seg dksX1_goesThrough_10 22 rfl rfl
theorem dksX1_goesThrough_12 : cX1_goesThrough.data.toList.drop 279 = dktX1_goesThrough_12 := dk_seg dksX1_goesThrough_11 22 rfl rfl
theorem dksX1_goesThrough_13 : cX1_goesThrough.data.toList.drop 303 = dktX1_goesThrough_13 := dk_seg dksX1_goesThrough_12 24 rfl rfl
theorem dksX1_goesThrough_14 : cX1_goesThrough.data.toList.drop 325 = dktX1_goesThrough_14 := dk_seg dksX1_goesThrough_13 22 rfl rfl
theorem dX1_goesThrough_0 : decode cX1_goesThrough 0 = .ok (.aload_n 0, 1) := dk_42 (dk_at dksX1_goesThrough_0 0 rfl rfl)
theorem dX1_goesThrough_1 : decode cX1_goesThrough 1 = .ok (.aload_n 0, 1) := dk_42 (dk_at dksX1_goesThrough_0 1 rfl rfl)
theorem dX1_goesThrough_2 : decode cX1_goesThrough 2 = .ok (.iconst 0, 1) := dk_3 (dk_at dksX1_goesThrough_0 2 rfl rfl)
theorem dX1_goesThrough_3 : decode cX1_goesThrough 3 = .ok (.invokevirtual 400, 3) := dk_182 1 144 (dk_at dksX1_goesThrough_0 3 rfl rfl)
theorem dX1_goesThrough_6 : decode cX1_goesThrough 6 = .ok (.aload_n 0, 1) := dk_42 (dk_at dksX1_goesThrough_0 6 rfl rfl)
theorem dX1_goesThrough_7 : decode cX1_goesThrough 7 = .ok (.iconst 1, 1) := dk_4 (dk_at dksX1_goesThrough_0 7 rfl rfl)
theorem dX1_goesThrough_8 : decode cX1_goesThrough 8 = .ok (.invokevirtual 400, 3) := dk_182 1 144 (dk_at dksX1_goesThrough_0 8 rfl rfl)
theorem dX1_goesThrough_11 : decode cX1_goesThrough 11 = .ok (.iadd, 1) := dk_96 (dk_at dksX1_goesThrough_0 11 rfl rfl)
theorem dX1_goesThrough_12 : decode cX1_goesThrough 12 = .ok (.putfield 354, 3) := dk_181 1 98 (dk_at dksX1_goesThrough_0 12 rfl rfl)
theorem dX1_goesThrough_15 : decode cX1_goesThrough 15 = .ok (.aload_n 0, 1) := dk_42 (dk_at dksX1_goesThrough_0 15 rfl rfl)
theorem dX1_goesThrough_16 : decode cX1_goesThrough 16 = .ok (.getfield 354, 3) := dk_180 1 98 (dk_at dksX1_goesThrough_0 16 rfl rfl)
theorem dX1_goesThrough_19 : decode cX1_goesThrough 19 = .ok (.bipush 10, 2) := dk_16 10 (dk_at dksX1_goesThrough_0 19 rfl rfl)
theorem dX1_goesThrough_21 : decode cX1_goesThrough 21 = .ok (.if_icmp .le 5, 3) := dk_164 0 5 (dk_at dksX1_goesThrough_0 21 rfl rfl)
theorem dX1_goesThrough_24 : decode cX1_goesThrough 24 = .ok (.iconst 0, 1) := dk_3 (dk_at dksX1_goesThrough_1 0 rfl rfl)
theorem dX1_goesThrough_25 : decode cX1_goesThrough 25 = .ok (.ireturn, 1) := dk_172 (dk_at dksX1_goesThrough_1 1 rfl rfl)
theorem dX1_goesThrough_26 : decode cX1_goesThrough 26 = .ok (.iconst 0, 1) := dk_3 (dk_at dksX1_goesThrough_1 2 rfl rfl)
theorem dX1_goesThrough_27 : decode cX1_goesThrough 27 = .ok (.istore_n 1, 1) := dk_60 (dk_at dksX1_goesThrough_1 3 rfl rfl)
theorem dX1_goesThrough_28 : decode cX1_goesThrough 28 = .ok (.iconst 0, 1) := dk_3 (dk_at dksX1_goesThrough_1 4 rfl rfl)
theorem dX1_goesThrough_29 : decode cX1_goesThrough 29 = .ok (.istore_n 2, 1) := dk_61 (dk_at dksX1_goesThrough_1 5 rfl rfl)
theorem dX1_goesThrough_30 : decode cX1_goesThrough 30 = .ok (.iload_n 2, 1) := dk_28 (dk_at dksX1_goesThrough_1 6 rfl rfl)
theorem dX1_goesThrough_31 : decode cX1_goesThrough 31 = .ok (.aload_n 0, 1) := dk_42 (dk_at dksX1_goesThrough_1 7 rfl rfl)
theorem dX1_goesThrough_32 : decode cX1_goesThrough 32 = .ok (.invokevirtual 188, 3) := dk_182 0 188 (dk_at dksX1_goesThrough_1 8 rfl rfl)
theorem dX1_goesThrough_35 : decode cX1_goesThrough 35 = .ok (.if_icmp .ge 117, 3) := dk_162 0 117 (dk_at dksX1_goesThrough_1 11 rfl rfl)
theorem dX1_goesThrough_38 : decode cX1_goesThrough 38 = .ok (.iconst 0, 1) := dk_3 (dk_at dksX1_goesThrough_1 14 rfl rfl)
theorem dX1_goesThrough_39 : decode cX1_goesThrough 39 = .ok (.istore_n 3, 1) := dk_62 (dk_at dksX1_goesThrough_1 15 rfl rfl)
theorem dX1_goesThrough_40 : decode cX1_goesThrough 40 = .ok (.iload_n 3, 1) := dk_29 (dk_at dksX1_goesThrough_1 16 rfl rfl)
theorem dX1_goesThrough_41 : decode cX1_goesThrough 41 = .ok (.aload_n 0, 1) := dk_42 (dk_at dksX1_goesThrough_1 17 rfl rfl)
theorem dX1_goesThrough_42 : decode cX1_goesThrough 42 = .ok (.getfield 80, 3) := dk_180 0 80 (dk_at dksX1_goesThrough_1 18 rfl rfl)
theorem dX1_goesThrough_45 : decode cX1_goesThrough 45 = .ok (.getfield 382, 3) := dk_180 1 126 (dk_at dksX1_goesThrough_1 21 rfl rfl)
theorem dX1_goesThrough_48 : decode cX1_goesThrough 48 = .ok (.if_icmp .ge 44, 3) := dk_162 0 44 (dk_at dksX1_goesThrough_2 0 rfl rfl)
theorem dX1_goesThrough_51 : decode cX1_goesThrough 51 = .ok (.aload_n 0, 1) := dk_42 (dk_at dksX1_goesThrough_2 3 rfl rfl)
theorem dX1_goesThrough_52 : decode cX1_goesThrough 52 = .ok (.getfield 80, 3) := dk_180 0 80 (dk_at dksX1_goesThrough_2 4 rfl rfl)
theorem dX1_goesThrough_55 : decode cX1_goesThrough 55 = .ok (.getfield 321, 3) := dk_180 1 65 (dk_at dksX1_goesThrough_2 7 rfl rfl)
theorem dX1_goesThrough_58 : decode cX1_goesThrough 58 = .ok (.iload_n 3, 1) := dk_29 (dk_at dksX1_goesThrough_2 10 rfl rfl)
theorem dX1_goesThrough_59 : decode cX1_goesThrough 59 = .ok (.baload, 1) := dk_51 (dk_at dksX1_goesThrough_2 11 rfl rfl)
theorem dX1_goesThrough_60 : decode cX1_goesThrough 60 = .ok (.ifCond .eq 26, 3) := dk_153 0 26 (dk_at dksX1_goesThrough_2 12 rfl rfl)
theorem dX1_goesThrough_63 : decode cX1_goesThrough 63 = .ok (.aload_n 0, 1) := dk_42 (dk_at dksX1_goesThrough_2 15 rfl rfl)
theorem dX1_goesThrough_64 : decode cX1_goesThrough 64 = .ok (.getfield 80, 3) := dk_180 0 80 (dk_at dksX1_goesThrough_2 16 rfl rfl)
theorem dX1_goesThrough_67 : decode cX1_goesThrough 67 = .ok (.getfield 403, 3) := dk_180 1 147 (dk_at dksX1_goesThrough_2 19 rfl rfl)
theorem dX1_goesThrough_70 : decode cX1_goesThrough 70 = .ok (.iload_n 3, 1) := dk_29 (dk_at dksX1_goesThrough_2 22 rfl rfl)
theorem dX1_goesThrough_71 : decode cX1_goesThrough 71 = .ok (.iaload, 1) := dk_46 (dk_at dksX1_goesThrough_2 23 rfl rfl)
theorem dX1_goesThrough_72 : decode cX1_goesThrough 72 = .ok (.iload_n 2, 1) := dk_28 (dk_at dksX1_goesThrough_3 0 rfl rfl)
theorem dX1_goesThrough_73 : decode cX1_goesThrough 73 = .ok (.if_icmp .ne 13, 3) := dk_160 0 13 (dk_at dksX1_goesThrough_3 1 rfl rfl)
theorem dX1_goesThrough_76 : decode cX1_goesThrough 76 = .ok (.aload_n 0, 1) := dk_42 (dk_at dksX1_goesThrough_3 4 rfl rfl)
theorem dX1_goesThrough_77 : decode cX1_goesThrough 77 = .ok (.getfield 105, 3) := dk_180 0 105 (dk_at dksX1_goesThrough_3 5 rfl rfl)
theorem dX1_goesThrough_80 : decode cX1_goesThrough 80 = .ok (.iload_n 1, 1) := dk_27 (dk_at dksX1_goesThrough_3 8 rfl rfl)
theorem dX1_goesThrough_81 : decode cX1_goesThrough 81 = .ok (.iinc 1 1, 3) := dk_132 1 1 (dk_at dksX1_goesThrough_3 9 rfl rfl)
theorem dX1_goesThrough_84 : decode cX1_goesThrough 84 = .ok (.iload_n 2, 1) := dk_28 (dk_at dksX1_goesThrough_3 12 rfl rfl)
theorem dX1_goesThrough_85 : decode cX1_goesThrough 85 = .ok (.iastore, 1) := dk_79 (dk_at dksX1_goesThrough_3 13 rfl rfl)
theorem dX1_goesThrough_86 : decode cX1_goesThrough 86 = .ok (.iinc 3 1, 3) := dk_132 3 1 (dk_at dksX1_goesThrough_3 14 rfl rfl)
theorem dX1_goesThrough_89 : decode cX1_goesThrough 89 = .ok (.goto (-49), 3) := dk_167 255 207 (dk_at dksX1_goesThrough_3 17 rfl rfl)
theorem dX1_goesThrough_92 : decode cX1_goesThrough 92 = .ok (.iconst 0, 1) := dk_3 (dk_at dksX1_goesThrough_3 20 rfl rfl)
theorem dX1_goesThrough_93 : decode cX1_goesThrough 93 = .ok (.istore_n 3, 1) := dk_62 (dk_at dksX1_goesThrough_3 21 rfl rfl)
theorem dX1_goesThrough_94 : decode cX1_goesThrough 94 = .ok (.iload_n 3, 1) := dk_29 (dk_at dksX1_goesThrough_3 22 rfl rfl)
theorem dX1_goesThrough_95 : decode cX1_goesThrough 95 = .ok (.aload_n 0, 1) := dk_42 (dk_at dksX1_goesThrough_3 23 rfl rfl)
theorem dX1_goesThrough_96 : decode cX1_goesThrough 96 = .ok (.getfield 80, 3) := dk_180 0 80 (dk_at dksX1_goesThrough_4 0 rfl rfl)
theorem dX1_goesThrough_99 : decode cX1_goesThrough 99 = .ok (.getfield 385, 3) := dk_180 1 129 (dk_at dksX1_goesThrough_4 3 rfl rfl)
theorem dX1_goesThrough_102 : decode cX1_goesThrough 102 = .ok (.if_icmp .ge 44, 3) := dk_162 0 44 (dk_at dksX1_goesThrough_4 6 rfl rfl)
theorem dX1_goesThrough_105 : decode cX1_goesThrough 105 = .ok (.aload_n 0, 1) := dk_42 (dk_at dksX1_goesThrough_4 9 rfl rfl)
theorem dX1_goesThrough_106 : decode cX1_goesThrough 106 = .ok (.getfield 80, 3) := dk_180 0 80 (dk_at dksX1_goesThrough_4 10 rfl rfl)
theorem dX1_goesThrough_109 : decode cX1_goesThrough 109 = .ok (.getfield 325, 3) := dk_180 1 69 (dk_at dksX1_goesThrough_4 13 rfl rfl)
theorem dX1_goesThrough_112 : decode cX1_goesThrough 112 = .ok (.iload_n 3, 1) := dk_29 (dk_at dksX1_goesThrough_4 16 rfl rfl)
theorem dX1_goesThrough_113 : decode cX1_goesThrough 113 = .ok (.baload, 1) := dk_51 (dk_at dksX1_goesThrough_4 17 rfl rfl)
theorem dX1_goesThrough_114 : decode cX1_goesThrough 114 = .ok (.ifCond .eq 26, 3) := dk_153 0 26 (dk_at dksX1_goesThrough_4 18 rfl rfl)
theorem dX1_goesThrough_117 : decode cX1_goesThrough 117 = .ok (.aload_n 0, 1) := dk_42 (dk_at dksX1_goesThrough_4 21 rfl rfl)
theorem dX1_goesThrough_118 : decode cX1_goesThrough 118 = .ok (.getfield 80, 3) := dk_180 0 80 (dk_at dksX1_goesThrough_5 0 rfl rfl)
theorem dX1_goesThrough_121 : decode cX1_goesThrough 121 = .ok (.getfield 406, 3) := dk_180 1 150 (dk_at dksX1_goesThrough_5 3 rfl rfl)
theorem dX1_goesThrough_124 : decode cX1_goesThrough 124 = .ok (.iload_n 3, 1) := dk_29 (dk_at dksX1_goesThrough_5 6 rfl rfl)
theorem dX1_goesThrough_125 : decode cX1_goesThrough 125 = .ok (.iaload, 1) := dk_46 (dk_at dksX1_goesThrough_5 7 rfl rfl)
theorem dX1_goesThrough_126 : decode cX1_goesThrough 126 = .ok (.iload_n 2, 1) := dk_28 (dk_at dksX1_goesThrough_5 8 rfl rfl)
theorem dX1_goesThrough_127 : decode cX1_goesThrough 127 = .ok (.if_icmp .ne 13, 3) := dk_160 0 13 (dk_at dksX1_goesThrough_5 9 rfl rfl)
theorem dX1_goesThrough_130 : decode cX1_goesThrough 130 = .ok (.aload_n 0, 1) := dk_42 (dk_at dksX1_goesThrough_5 12 rfl rfl)
theorem dX1_goesThrough_131 : decode cX1_goesThrough 131 = .ok (.getfield 105, 3) := dk_180 0 105 (dk_at dksX1_goesThrough_5 13 rfl rfl)
theorem dX1_goesThrough_134 : decode cX1_goesThrough 134 = .ok (.iload_n 1, 1) := dk_27 (dk_at dksX1_goesThrough_5 16 rfl rfl)
theorem dX1_goesThrough_135 : decode cX1_goesThrough 135 = .ok (.iinc 1 1, 3) := dk_132 1 1 (dk_at dksX1_goesThrough_5 17 rfl rfl)
theorem dX1_goesThrough_138 : decode cX1_goesThrough 138 = .ok (.iload_n 2, 1) := dk_28 (dk_at dksX1_goesThrough_5 20 rfl rfl)
theorem dX1_goesThrough_139 : decode cX1_goesThrough 139 = .ok (.iastore, 1) := dk_79 (dk_at dksX1_goesThrough_5 21 rfl rfl)
theorem dX1_goesThrough_140 : decode cX1_goesThrough 140 = .ok (.iinc 3 1, 3) := dk_132 3 1 (dk_at dksX1_goesThrough_6 0 rfl rfl)
theorem dX1_goesThrough_143 : decode cX1_goesThrough 143 = .ok (.goto (-49), 3) := dk_167 255 207 (dk_at dksX1_goesThrough_6 3 rfl rfl)
theorem dX1_goesThrough_146 : decode cX1_goesThrough 146 = .ok (.iinc 2 1, 3) := dk_132 2 1 (dk_at dksX1_goesThrough_6 6 rfl rfl)
theorem dX1_goesThrough_149 : decode cX1_goesThrough 149 = .ok (.goto (-119), 3) := dk_167 255 137 (dk_at dksX1_goesThrough_6 9 rfl rfl)
theorem dX1_goesThrough_152 : decode cX1_goesThrough 152 = .ok (.aload_n 0, 1) := dk_42 (dk_at dksX1_goesThrough_6 12 rfl rfl)
theorem dX1_goesThrough_153 : decode cX1_goesThrough 153 = .ok (.invokevirtual 355, 3) := dk_182 1 99 (dk_at dksX1_goesThrough_6 13 rfl rfl)
theorem dX1_goesThrough_156 : decode cX1_goesThrough 156 = .ok (.sipush 20000, 3) := dk_17 78 32 (dk_at dksX1_goesThrough_6 16 rfl rfl)
theorem dX1_goesThrough_159 : decode cX1_goesThrough 159 = .ok (.if_icmp .le 5, 3) := dk_164 0 5 (dk_at dksX1_goesThrough_6 19 rfl rfl)
theorem dX1_goesThrough_162 : decode cX1_goesThrough 162 = .ok (.iconst 0, 1) := dk_3 (dk_at dksX1_goesThrough_6 22 rfl rfl)
theorem dX1_goesThrough_163 : decode cX1_goesThrough 163 = .ok (.ireturn, 1) := dk_172 (dk_at dksX1_goesThrough_6 23 rfl rfl)
theorem dX1_goesThrough_164 : decode cX1_goesThrough 164 = .ok (.iconst 0, 1) := dk_3 (dk_at dksX1_goesThrough_7 0 rfl rfl)
theorem dX1_goesThrough_165 : decode cX1_goesThrough 165 = .ok (.istore_n 2, 1) := dk_61 (dk_at dksX1_goesThrough_7 1 rfl rfl)
theorem dX1_goesThrough_166 : decode cX1_goesThrough 166 = .ok (.iload_n 2, 1) := dk_28 (dk_at dksX1_goesThrough_7 2 rfl rfl)
theorem dX1_goesThrough_167 : decode cX1_goesThrough 167 = .ok (.aload_n 0, 1) := dk_42 (dk_at dksX1_goesThrough_7 3 rfl rfl)
theorem dX1_goesThrough_168 : decode cX1_goesThrough 168 = .ok (.getfield 108, 3) := dk_180 0 108 (dk_at dksX1_goesThrough_7 4 rfl rfl)
theorem dX1_goesThrough_171 : decode cX1_goesThrough 171 = .ok (.arraylength, 1) := dk_190 (dk_at dksX1_goesThrough_7 7 rfl rfl)
theorem dX1_goesThrough_172 : decode cX1_goesThrough 172 = .ok (.if_icmp .ge 16, 3) := dk_162 0 16 (dk_at dksX1_goesThrough_7 8 rfl rfl)
theorem dX1_goesThrough_175 : decode cX1_goesThrough 175 = .ok (.aload_n 0, 1) := dk_42 (dk_at dksX1_goesThrough_7 11 rfl rfl)
theorem dX1_goesThrough_176 : decode cX1_goesThrough 176 = .ok (.getfield 108, 3) := dk_180 0 108 (dk_at dksX1_goesThrough_7 12 rfl rfl)
theorem dX1_goesThrough_179 : decode cX1_goesThrough 179 = .ok (.iload_n 2, 1) := dk_28 (dk_at dksX1_goesThrough_7 15 rfl rfl)
theorem dX1_goesThrough_180 : decode cX1_goesThrough 180 = .ok (.iconst 0, 1) := dk_3 (dk_at dksX1_goesThrough_7 16 rfl rfl)
theorem dX1_goesThrough_181 : decode cX1_goesThrough 181 = .ok (.iastore, 1) := dk_79 (dk_at dksX1_goesThrough_7 17 rfl rfl)
theorem dX1_goesThrough_182 : decode cX1_goesThrough 182 = .ok (.iinc 2 1, 3) := dk_132 2 1 (dk_at dksX1_goesThrough_7 18 rfl rfl)
theorem dX1_goesThrough_185 : decode cX1_goesThrough 185 = .ok (.goto (-19), 3) := dk_167 255 237 (dk_at dksX1_goesThrough_7 21 rfl rfl)
theorem dX1_goesThrough_188 : decode cX1_goesThrough 188 = .ok (.aload_n 0, 1) := dk_42 (dk_at dksX1_goesThrough_8 0 rfl rfl)
theorem dX1_goesThrough_189 : decode cX1_goesThrough 189 = .ok (.getfield 84, 3) := dk_180 0 84 (dk_at dksX1_goesThrough_8 1 rfl rfl)
theorem dX1_goesThrough_192 : decode cX1_goesThrough 192 = .ok (.aload_n 0, 1) := dk_42 (dk_at dksX1_goesThrough_8 4 rfl rfl)
theorem dX1_goesThrough_193 : decode cX1_goesThrough 193 = .ok (.getfield 80, 3) := dk_180 0 80 (dk_at dksX1_goesThrough_8 5 rfl rfl)
theorem dX1_goesThrough_196 : decode cX1_goesThrough 196 = .ok (.invokevirtual 331, 3) := dk_182 1 75 (dk_at dksX1_goesThrough_8 8 rfl rfl)
theorem dX1_goesThrough_199 : decode cX1_goesThrough 199 = .ok (.iconst 0, 1) := dk_3 (dk_at dksX1_goesThrough_8 11 rfl rfl)
theorem dX1_goesThrough_200 : decode cX1_goesThrough 200 = .ok (.istore_n 2, 1) := dk_61 (dk_at dksX1_goesThrough_8 12 rfl rfl)
theorem dX1_goesThrough_201 : decode cX1_goesThrough 201 = .ok (.iconst 0, 1) := dk_3 (dk_at dksX1_goesThrough_8 13 rfl rfl)
theorem dX1_goesThrough_202 : decode cX1_goesThrough 202 = .ok (.istore_n 3, 1) := dk_62 (dk_at dksX1_goesThrough_8 14 rfl rfl)
theorem dX1_goesThrough_203 : decode cX1_goesThrough 203 = .ok (.iload_n 3, 1) := dk_29 (dk_at dksX1_goesThrough_8 15 rfl rfl)
theorem dX1_goesThrough_204 : decode cX1_goesThrough 204 = .ok (.aload_n 0, 1) := dk_42 (dk_at dksX1_goesThrough_8 16 rfl rfl)
theorem dX1_goesThrough_205 : decode cX1_goesThrough 205 = .ok (.getfield 80, 3) := dk_180 0 80 (dk_at dksX1_goesThrough_8 17 rfl rfl)
theorem dX1_goesThrough_208 : decode cX1_goesThrough 208 = .ok (.getfield 382, 3) := dk_180 1 126 (dk_at dksX1_goesThrough_8 20 rfl rfl)
theorem dX1_goesThrough_211 : decode cX1_goesThrough 211 = .ok (.if_icmp .ge 39, 3) := dk_162 0 39 (dk_at dksX1_goesThrough_9 0 rfl rfl)
theorem dX1_goesThrough_214 : decode cX1_goesThrough 214 = .ok (.aload_n 0, 1) := dk_42 (dk_at dksX1_goesThrough_9 3 rfl rfl)
theorem dX1_goesThrough_215 : decode cX1_goesThrough 215 = .ok (.getfield 80, 3) := dk_180 0 80 (dk_at dksX1_goesThrough_9 4 rfl rfl)
theorem dX1_goesThrough_218 : decode cX1_goesThrough 218 = .ok (.getfield 321, 3) := dk_180 1 65 (dk_at dksX1_goesThrough_9 7 rfl rfl)
theorem dX1_goesThrough_221 : decode cX1_goesThrough 221 = .ok (.iload_n 3, 1) := dk_29 (dk_at dksX1_goesThrough_9 10 rfl rfl)
theorem dX1_goesThrough_222 : decode cX1_goesThrough 222 = .ok (.baload, 1) := dk_51 (dk_at dksX1_goesThrough_9 11 rfl rfl)
theorem dX1_goesThrough_223 : decode cX1_goesThrough 223 = .ok (.ifCond .eq 21, 3) := dk_153 0 21 (dk_at dksX1_goesThrough_9 12 rfl rfl)
theorem dX1_goesThrough_226 : decode cX1_goesThrough 226 = .ok (.aload_n 0, 1) := dk_42 (dk_at dksX1_goesThrough_9 15 rfl rfl)
theorem dX1_goesThrough_227 : decode cX1_goesThrough 227 = .ok (.getfield 84, 3) := dk_180 0 84 (dk_at dksX1_goesThrough_9 16 rfl rfl)
theorem dX1_goesThrough_230 : decode cX1_goesThrough 230 = .ok (.getfield 403, 3) := dk_180 1 147 (dk_at dksX1_goesThrough_9 19 rfl rfl)
theorem dX1_goesThrough_233 : decode cX1_goesThrough 233 = .ok (.iload_n 3, 1) := dk_29 (dk_at dksX1_goesThrough_9 22 rfl rfl)
theorem dX1_goesThrough_234 : decode cX1_goesThrough 234 = .ok (.aload_n 0, 1) := dk_42 (dk_at dksX1_goesThrough_9 23 rfl rfl)
theorem dX1_goesThrough_235 : decode cX1_goesThrough 235 = .ok (.getfield 105, 3) := dk_180 0 105 (dk_at dksX1_goesThrough_10 0 rfl rfl)
theorem dX1_goesThrough_238 : decode cX1_goesThrough 238 = .ok (.iload_n 2, 1) := dk_28 (dk_at dksX1_goesThrough_10 3 rfl rfl)
theorem dX1_goesThrough_239 : decode cX1_goesThrough 239 = .ok (.iinc 2 1, 3) := dk_132 2 1 (dk_at dksX1_goesThrough_10 4 rfl rfl)
theorem dX1_goesThrough_242 : decode cX1_goesThrough 242 = .ok (.iaload, 1) := dk_46 (dk_at dksX1_goesThrough_10 7 rfl rfl)
theorem dX1_goesThrough_243 : decode cX1_goesThrough 243 = .ok (.iastore, 1) := dk_79 (dk_at dksX1_goesThrough_10 8 rfl rfl)
theorem dX1_goesThrough_244 : decode cX1_goesThrough 244 = .ok (.iinc 3 1, 3) := dk_132 3 1 (dk_at dksX1_goesThrough_10 9 rfl rfl)
theorem dX1_goesThrough_247 : decode cX1_goesThrough 247 = .ok (.goto (-44), 3) := dk_167 255 212 (dk_at dksX1_goesThrough_10 12 rfl rfl)
theorem dX1_goesThrough_250 : decode cX1_goesThrough 250 = .ok (.iconst 0, 1) := dk_3 (dk_at dksX1_goesThrough_10 15 rfl rfl)
theorem dX1_goesThrough_251 : decode cX1_goesThrough 251 = .ok (.istore_n 3, 1) := dk_62 (dk_at dksX1_goesThrough_10 16 rfl rfl)
theorem dX1_goesThrough_252 : decode cX1_goesThrough 252 = .ok (.iload_n 3, 1) := dk_29 (dk_at dksX1_goesThrough_10 17 rfl rfl)
theorem dX1_goesThrough_253 : decode cX1_goesThrough 253 = .ok (.aload_n 0, 1) := dk_42 (dk_at dksX1_goesThrough_10 18 rfl rfl)
theorem dX1_goesThrough_254 : decode cX1_goesThrough 254 = .ok (.getfield 80, 3) := dk_180 0 80 (dk_at dksX1_goesThrough_10 19 rfl rfl)
theorem dX1_goesThrough_257 : decode cX1_goesThrough 257 = .ok (.getfield 385, 3) := dk_180 1 129 (dk_at dksX1_goesThrough_11 0 rfl rfl)
theorem dX1_goesThrough_260 : decode cX1_goesThrough 260 = .ok (.if_icmp .ge 39, 3) := dk_162 0 39 (dk_at dksX1_goesThrough_11 3 rfl rfl)
theorem dX1_goesThrough_263 : decode cX1_goesThrough 263 = .ok (.aload_n 0, 1) := dk_42 (dk_at dksX1_goesThrough_11 6 rfl rfl)
theorem dX1_goesThrough_264 : decode cX1_goesThrough 264 = .ok (.getfield 80, 3) := dk_180 0 80 (dk_at dksX1_goesThrough_11 7 rfl rfl)
theorem dX1_goesThrough_267 : decode cX1_goesThrough 267 = .ok (.getfield 325, 3) := dk_180 1 69 (dk_at dksX1_goesThrough_11 10 rfl rfl)
theorem dX1_goesThrough_270 : decode cX1_goesThrough 270 = .ok (.iload_n 3, 1) := dk_29 (dk_at dksX1_goesThrough_11 13 rfl rfl)
theorem dX1_goesThrough_271 : decode cX1_goesThrough 271 = .ok (.baload, 1) := dk_51 (dk_at dksX1_goesThrough_11 14 rfl rfl)
theorem dX1_goesThrough_272 : decode cX1_goesThrough 272 = .ok (.ifCond .eq 21, 3) := dk_153 0 21 (dk_at dksX1_goesThrough_11 15 rfl rfl)
theorem dX1_goesThrough_275 : decode cX1_goesThrough 275 = .ok (.aload_n 0, 1) := dk_42 (dk_at dksX1_goesThrough_11 18 rfl rfl)
theorem dX1_goesThrough_276 : decode cX1_goesThrough 276 = .ok (.getfield 84, 3) := dk_180 0 84 (dk_at dksX1_goesThrough_11 19 rfl rfl)
theorem dX1_goesThrough_279 : decode cX1_goesThrough 279 = .ok (.getfield 406, 3) := dk_180 1 150 (dk_at dksX1_goesThrough_12 0 rfl rfl)
theorem dX1_goesThrough_282 : decode cX1_goesThrough 282 = .ok (.iload_n 3, 1) := dk_29 (dk_at dksX1_goesThrough_12 3 rfl rfl)
theorem dX1_goesThrough_283 : decode cX1_goesThrough 283 = .ok (.aload_n 0, 1) := dk_42 (dk_at dksX1_goesThrough_12 4 rfl rfl)
theorem dX1_goesThrough_284 : decode cX1_goesThrough 284 = .ok (.getfield 105, 3) := dk_180 0 105 (dk_at dksX1_goesThrough_12 5 rfl rfl)
theorem dX1_goesThrough_287 : decode cX1_goesThrough 287 = .ok (.iload_n 2, 1) := dk_28 (dk_at dksX1_goesThrough_12 8 rfl rfl)
theorem dX1_goesThrough_288 : decode cX1_goesThrough 288 = .ok (.iinc 2 1, 3) := dk_132 2 1 (dk_at dksX1_goesThrough_12 9 rfl rfl)
theorem dX1_goesThrough_291 : decode cX1_goesThrough 291 = .ok (.iaload, 1) := dk_46 (dk_at dksX1_goesThrough_12 12 rfl rfl)
theorem dX1_goesThrough_292 : decode cX1_goesThrough 292 = .ok (.iastore, 1) := dk_79 (dk_at dksX1_goesThrough_12 13 rfl rfl)
theorem dX1_goesThrough_293 : decode cX1_goesThrough 293 = .ok (.iinc 3 1, 3) := dk_132 3 1 (dk_at dksX1_goesThrough_12 14 rfl rfl)
theorem dX1_goesThrough_296 : decode cX1_goesThrough 296 = .ok (.goto (-44), 3) := dk_167 255 212 (dk_at dksX1_goesThrough_12 17 rfl rfl)
theorem dX1_goesThrough_299 : decode cX1_goesThrough 299 = .ok (.aload_n 0, 1) := dk_42 (dk_at dksX1_goesThrough_12 20 rfl rfl)
theorem dX1_goesThrough_300 : decode cX1_goesThrough 300 = .ok (.getfield 57, 3) := dk_180 0 57 (dk_at dksX1_goesThrough_12 21 rfl rfl)
theorem dX1_goesThrough_303 : decode cX1_goesThrough 303 = .ok (.aload_n 0, 1) := dk_42 (dk_at dksX1_goesThrough_13 0 rfl rfl)
theorem dX1_goesThrough_304 : decode cX1_goesThrough 304 = .ok (.getfield 84, 3) := dk_180 0 84 (dk_at dksX1_goesThrough_13 1 rfl rfl)
theorem dX1_goesThrough_307 : decode cX1_goesThrough 307 = .ok (.aload_n 0, 1) := dk_42 (dk_at dksX1_goesThrough_13 4 rfl rfl)
theorem dX1_goesThrough_308 : decode cX1_goesThrough 308 = .ok (.getfield 64, 3) := dk_180 0 64 (dk_at dksX1_goesThrough_13 5 rfl rfl)
theorem dX1_goesThrough_311 : decode cX1_goesThrough 311 = .ok (.getfield 198, 3) := dk_180 0 198 (dk_at dksX1_goesThrough_13 8 rfl rfl)
theorem dX1_goesThrough_314 : decode cX1_goesThrough 314 = .ok (.aload_n 0, 1) := dk_42 (dk_at dksX1_goesThrough_13 11 rfl rfl)
theorem dX1_goesThrough_315 : decode cX1_goesThrough 315 = .ok (.getfield 64, 3) := dk_180 0 64 (dk_at dksX1_goesThrough_13 12 rfl rfl)
theorem dX1_goesThrough_318 : decode cX1_goesThrough 318 = .ok (.invokevirtual 334, 3) := dk_182 1 78 (dk_at dksX1_goesThrough_13 15 rfl rfl)
theorem dX1_goesThrough_321 : decode cX1_goesThrough 321 = .ok (.invokevirtual 337, 3) := dk_182 1 81 (dk_at dksX1_goesThrough_13 18 rfl rfl)
theorem dX1_goesThrough_324 : decode cX1_goesThrough 324 = .ok (.aload_n 0, 1) := dk_42 (dk_at dksX1_goesThrough_13 21 rfl rfl)
theorem dX1_goesThrough_325 : decode cX1_goesThrough 325 = .ok (.getfield 108, 3) := dk_180 0 108 (dk_at dksX1_goesThrough_14 0 rfl rfl)
theorem dX1_goesThrough_328 : decode cX1_goesThrough 328 = .ok (.aload_n 0, 1) := dk_42 (dk_at dksX1_goesThrough_14 3 rfl rfl)
theorem dX1_goesThrough_329 : decode cX1_goesThrough 329 = .ok (.getfield 57, 3) := dk_180 0 57 (dk_at dksX1_goesThrough_14 4 rfl rfl)
theorem dX1_goesThrough_332 : decode cX1_goesThrough 332 = .ok (.getfield 344, 3) := dk_180 1 88 (dk_at dksX1_goesThrough_14 7 rfl rfl)
theorem dX1_goesThrough_335 : decode cX1_goesThrough 335 = .ok (.dup2, 1) := dk_92 (dk_at dksX1_goesThrough_14 10 rfl rfl)
theorem dX1_goesThrough_336 : decode cX1_goesThrough 336 = .ok (.iaload, 1) := dk_46 (dk_at dksX1_goesThrough_14 11 rfl rfl)
theorem dX1_goesThrough_337 : decode cX1_goesThrough 337 = .ok (.iconst 1, 1) := dk_4 (dk_at dksX1_goesThrough_14 12 rfl rfl)
theorem dX1_goesThrough_338 : decode cX1_goesThrough 338 = .ok (.iadd, 1) := dk_96 (dk_at dksX1_goesThrough_14 13 rfl rfl)
theorem dX1_goesThrough_339 : decode cX1_goesThrough 339 = .ok (.iastore, 1) := dk_79 (dk_at dksX1_goesThrough_14 14 rfl rfl)
theorem dX1_goesThrough_340 : decode cX1_goesThrough 340 = .ok (.aload_n 0, 1) := dk_42 (dk_at dksX1_goesThrough_14 15 rfl rfl)
theorem dX1_goesThrough_341 : decode cX1_goesThrough 341 = .ok (.invokevirtual 371, 3) := dk_182 1 115 (dk_at dksX1_goesThrough_14 16 rfl rfl)
theorem dX1_goesThrough_344 : decode cX1_goesThrough 344 = .ok (.ifCond .ne (-156), 3) := dk_154 255 100 (dk_at dksX1_goesThrough_14 19 rfl rfl)
theorem dX1_goesThrough_347 : decode cX1_goesThrough 347 = .ok (.iconst 1, 1) := dk_4 (dk_at dksX1_goesThrough_14 22 rfl rfl)
theorem dX1_goesThrough_348 : decode cX1_goesThrough 348 = .ok (.ireturn, 1) := dk_172 (dk_at dksX1_goesThrough_14 23 rfl rfl)
abbrev cX1_offer : ByteArray := prog_1_method_49_code
def yX1_offer : MethodName := ⟨RX1, "offer", "()I"⟩
def dkwX1_offer_5 : List UInt8 := [184, 1, 166, 184, 1, 171, 172]
abbrev dktX1_offer_5 : List UInt8 := dkwX1_offer_5 ++ []
def dkwX1_offer_4 : List UInt8 := [16, 10, 167, 0, 26, 3, 16, 99, 42, 180, 0, 64, 180, 1, 156, 42, 180, 0, 97, 182, 1, 160]
abbrev dktX1_offer_4 : List UInt8 := dkwX1_offer_4 ++ dktX1_offer_5
def dkwX1_offer_3 : List UInt8 := [79, 42, 180, 0, 97, 6, 42, 180, 0, 80, 180, 1, 40, 79, 42, 180, 0, 64, 180, 1, 156, 199, 0, 8]
abbrev dktX1_offer_3 : List UInt8 := dkwX1_offer_3 ++ dktX1_offer_4
def dkwX1_offer_2 : List UInt8 := [42, 180, 0, 64, 180, 0, 198, 182, 1, 132, 100, 79, 42, 180, 0, 97, 5, 42, 180, 0, 80, 180, 1, 118]
abbrev dktX1_offer_2 : List UInt8 := dkwX1_offer_2 ++ dktX1_offer_3
def dkwX1_offer_1 : List UInt8 := [180, 0, 97, 4, 42, 180, 0, 80, 3, 42, 180, 0, 64, 180, 0, 198, 182, 1, 132, 42, 180, 0, 80, 4]
abbrev dktX1_offer_1 : List UInt8 := dkwX1_offer_1 ++ dktX1_offer_2
def dkwX1_offer_0 : List UInt8 := [42, 180, 0, 97, 3, 42, 180, 0, 80, 180, 1, 126, 42, 180, 0, 80, 180, 1, 129, 100, 79, 42]
abbrev dktX1_offer_0 : List UInt8 := dkwX1_offer_0 ++ dktX1_offer_1
theorem dksX1_offer_0 : cX1_offer.data.toList.drop 0 = dktX1_offer_0 := by decide +kernel
theorem dksX1_offer_1 : cX1_offer.data.toList.drop 22 = dktX1_offer_1 := dk_seg dksX1_offer_0 22 rfl rfl
theorem dksX1_offer_2 : cX1_offer.data.toList.drop 46 = dktX1_offer_2 := dk_seg dksX1_offer_1 24 rfl rfl
theorem dksX1_offer_3 : cX1_offer.data.toList.drop 70 = dktX1_offer_3 := dk_seg dksX1_offer_2 24 rfl rfl
theorem dksX1_offer_4 : cX1_offer.data.toList.drop 94 = dktX1_offer_4 := dk_seg dksX1_offer_3 24 rfl rfl
theorem dksX1_offer_5 : cX1_offer.data.toList.drop 116 = dktX1_offer_5 := dk_seg dksX1_offer_4 22 rfl rfl
theorem dX1_offer_0 : decode cX1_offer 0 = .ok (.aload_n 0, 1) := dk_42 (dk_at dksX1_offer_0 0 rfl rfl)
theorem dX1_offer_1 : decode cX1_offer 1 = .ok (.getfield 97, 3) := dk_180 0 97 (dk_at dksX1_offer_0 1 rfl rfl)
theorem dX1_offer_4 : decode cX1_offer 4 = .ok (.iconst 0, 1) := dk_3 (dk_at dksX1_offer_0 4 rfl rfl)
theorem dX1_offer_5 : decode cX1_offer 5 = .ok (.aload_n 0, 1) := dk_42 (dk_at dksX1_offer_0 5 rfl rfl)
theorem dX1_offer_6 : decode cX1_offer 6 = .ok (.getfield 80, 3) := dk_180 0 80 (dk_at dksX1_offer_0 6 rfl rfl)
theorem dX1_offer_9 : decode cX1_offer 9 = .ok (.getfield 382, 3) := dk_180 1 126 (dk_at dksX1_offer_0 9 rfl rfl)
theorem dX1_offer_12 : decode cX1_offer 12 = .ok (.aload_n 0, 1) := dk_42 (dk_at dksX1_offer_0 12 rfl rfl)
theorem dX1_offer_13 : decode cX1_offer 13 = .ok (.getfield 80, 3) := dk_180 0 80 (dk_at dksX1_offer_0 13 rfl rfl)
theorem dX1_offer_16 : decode cX1_offer 16 = .ok (.getfield 385, 3) := dk_180 1 129 (dk_at dksX1_offer_0 16 rfl rfl)
theorem dX1_offer_19 : decode cX1_offer 19 = .ok (.isub, 1) := dk_100 (dk_at dksX1_offer_0 19 rfl rfl)
theorem dX1_offer_20 : decode cX1_offer 20 = .ok (.iastore, 1) := dk_79 (dk_at dksX1_offer_0 20 rfl rfl)
theorem dX1_offer_21 : decode cX1_offer 21 = .ok (.aload_n 0, 1) := dk_42 (dk_at dksX1_offer_0 21 rfl rfl)
theorem dX1_offer_22 : decode cX1_offer 22 = .ok (.getfield 97, 3) := dk_180 0 97 (dk_at dksX1_offer_1 0 rfl rfl)
theorem dX1_offer_25 : decode cX1_offer 25 = .ok (.iconst 1, 1) := dk_4 (dk_at dksX1_offer_1 3 rfl rfl)
theorem dX1_offer_26 : decode cX1_offer 26 = .ok (.aload_n 0, 1) := dk_42 (dk_at dksX1_offer_1 4 rfl rfl)
theorem dX1_offer_27 : decode cX1_offer 27 = .ok (.getfield 80, 3) := dk_180 0 80 (dk_at dksX1_offer_1 5 rfl rfl)
theorem dX1_offer_30 : decode cX1_offer 30 = .ok (.iconst 0, 1) := dk_3 (dk_at dksX1_offer_1 8 rfl rfl)
theorem dX1_offer_31 : decode cX1_offer 31 = .ok (.aload_n 0, 1) := dk_42 (dk_at dksX1_offer_1 9 rfl rfl)
theorem dX1_offer_32 : decode cX1_offer 32 = .ok (.getfield 64, 3) := dk_180 0 64 (dk_at dksX1_offer_1 10 rfl rfl)
theorem dX1_offer_35 : decode cX1_offer 35 = .ok (.getfield 198, 3) := dk_180 0 198 (dk_at dksX1_offer_1 13 rfl rfl)
theorem dX1_offer_38 : decode cX1_offer 38 = .ok (.invokevirtual 388, 3) := dk_182 1 132 (dk_at dksX1_offer_1 16 rfl rfl)
theorem dX1_offer_41 : decode cX1_offer 41 = .ok (.aload_n 0, 1) := dk_42 (dk_at dksX1_offer_1 19 rfl rfl)
theorem dX1_offer_42 : decode cX1_offer 42 = .ok (.getfield 80, 3) := dk_180 0 80 (dk_at dksX1_offer_1 20 rfl rfl)
theorem dX1_offer_45 : decode cX1_offer 45 = .ok (.iconst 1, 1) := dk_4 (dk_at dksX1_offer_1 23 rfl rfl)
theorem dX1_offer_46 : decode cX1_offer 46 = .ok (.aload_n 0, 1) := dk_42 (dk_at dksX1_offer_2 0 rfl rfl)
theorem dX1_offer_47 : decode cX1_offer 47 = .ok (.getfield 64, 3) := dk_180 0 64 (dk_at dksX1_offer_2 1 rfl rfl)
theorem dX1_offer_50 : decode cX1_offer 50 = .ok (.getfield 198, 3) := dk_180 0 198 (dk_at dksX1_offer_2 4 rfl rfl)
theorem dX1_offer_53 : decode cX1_offer 53 = .ok (.invokevirtual 388, 3) := dk_182 1 132 (dk_at dksX1_offer_2 7 rfl rfl)
theorem dX1_offer_56 : decode cX1_offer 56 = .ok (.isub, 1) := dk_100 (dk_at dksX1_offer_2 10 rfl rfl)
theorem dX1_offer_57 : decode cX1_offer 57 = .ok (.iastore, 1) := dk_79 (dk_at dksX1_offer_2 11 rfl rfl)
theorem dX1_offer_58 : decode cX1_offer 58 = .ok (.aload_n 0, 1) := dk_42 (dk_at dksX1_offer_2 12 rfl rfl)
theorem dX1_offer_59 : decode cX1_offer 59 = .ok (.getfield 97, 3) := dk_180 0 97 (dk_at dksX1_offer_2 13 rfl rfl)
theorem dX1_offer_62 : decode cX1_offer 62 = .ok (.iconst 2, 1) := dk_5 (dk_at dksX1_offer_2 16 rfl rfl)
theorem dX1_offer_63 : decode cX1_offer 63 = .ok (.aload_n 0, 1) := dk_42 (dk_at dksX1_offer_2 17 rfl rfl)
theorem dX1_offer_64 : decode cX1_offer 64 = .ok (.getfield 80, 3) := dk_180 0 80 (dk_at dksX1_offer_2 18 rfl rfl)
theorem dX1_offer_67 : decode cX1_offer 67 = .ok (.getfield 374, 3) := dk_180 1 118 (dk_at dksX1_offer_2 21 rfl rfl)
theorem dX1_offer_70 : decode cX1_offer 70 = .ok (.iastore, 1) := dk_79 (dk_at dksX1_offer_3 0 rfl rfl)
theorem dX1_offer_71 : decode cX1_offer 71 = .ok (.aload_n 0, 1) := dk_42 (dk_at dksX1_offer_3 1 rfl rfl)
theorem dX1_offer_72 : decode cX1_offer 72 = .ok (.getfield 97, 3) := dk_180 0 97 (dk_at dksX1_offer_3 2 rfl rfl)
theorem dX1_offer_75 : decode cX1_offer 75 = .ok (.iconst 3, 1) := dk_6 (dk_at dksX1_offer_3 5 rfl rfl)
theorem dX1_offer_76 : decode cX1_offer 76 = .ok (.aload_n 0, 1) := dk_42 (dk_at dksX1_offer_3 6 rfl rfl)
theorem dX1_offer_77 : decode cX1_offer 77 = .ok (.getfield 80, 3) := dk_180 0 80 (dk_at dksX1_offer_3 7 rfl rfl)
theorem dX1_offer_80 : decode cX1_offer 80 = .ok (.getfield 296, 3) := dk_180 1 40 (dk_at dksX1_offer_3 10 rfl rfl)
theorem dX1_offer_83 : decode cX1_offer 83 = .ok (.iastore, 1) := dk_79 (dk_at dksX1_offer_3 13 rfl rfl)
theorem dX1_offer_84 : decode cX1_offer 84 = .ok (.aload_n 0, 1) := dk_42 (dk_at dksX1_offer_3 14 rfl rfl)
theorem dX1_offer_85 : decode cX1_offer 85 = .ok (.getfield 64, 3) := dk_180 0 64 (dk_at dksX1_offer_3 15 rfl rfl)
theorem dX1_offer_88 : decode cX1_offer 88 = .ok (.getfield 412, 3) := dk_180 1 156 (dk_at dksX1_offer_3 18 rfl rfl)
theorem dX1_offer_91 : decode cX1_offer 91 = .ok (.ifnonnull 8, 3) := dk_199 0 8 (dk_at dksX1_offer_3 21 rfl rfl)
theorem dX1_offer_94 : decode cX1_offer 94 = .ok (.bipush 10, 2) := dk_16 10 (dk_at dksX1_offer_4 0 rfl rfl)
theorem dX1_offer_96 : decode cX1_offer 96 = .ok (.goto 26, 3) := dk_167 0 26 (dk_at dksX1_offer_4 2 rfl rfl)
theorem dX1_offer_99 : decode cX1_offer 99 = .ok (.iconst 0, 1) := dk_3 (dk_at dksX1_offer_4 5 rfl rfl)
theorem dX1_offer_100 : decode cX1_offer 100 = .ok (.bipush 99, 2) := dk_16 99 (dk_at dksX1_offer_4 6 rfl rfl)
theorem dX1_offer_102 : decode cX1_offer 102 = .ok (.aload_n 0, 1) := dk_42 (dk_at dksX1_offer_4 8 rfl rfl)
theorem dX1_offer_103 : decode cX1_offer 103 = .ok (.getfield 64, 3) := dk_180 0 64 (dk_at dksX1_offer_4 9 rfl rfl)
theorem dX1_offer_106 : decode cX1_offer 106 = .ok (.getfield 412, 3) := dk_180 1 156 (dk_at dksX1_offer_4 12 rfl rfl)
theorem dX1_offer_109 : decode cX1_offer 109 = .ok (.aload_n 0, 1) := dk_42 (dk_at dksX1_offer_4 15 rfl rfl)
theorem dX1_offer_110 : decode cX1_offer 110 = .ok (.getfield 97, 3) := dk_180 0 97 (dk_at dksX1_offer_4 16 rfl rfl)
theorem dX1_offer_113 : decode cX1_offer 113 = .ok (.invokevirtual 416, 3) := dk_182 1 160 (dk_at dksX1_offer_4 19 rfl rfl)
theorem dX1_offer_116 : decode cX1_offer 116 = .ok (.invokestatic 422, 3) := dk_184 1 166 (dk_at dksX1_offer_5 0 rfl rfl)
theorem dX1_offer_119 : decode cX1_offer 119 = .ok (.invokestatic 427, 3) := dk_184 1 171 (dk_at dksX1_offer_5 3 rfl rfl)
theorem dX1_offer_122 : decode cX1_offer 122 = .ok (.ireturn, 1) := dk_172 (dk_at dksX1_offer_5 6 rfl rfl)
abbrev cX1_bet : ByteArray := prog_1_method_50_code
def yX1_bet : MethodName := ⟨RX1, "bet", "(II)I"⟩
def dkwX1_bet_4 : List UInt8 := [180, 1, 31, 172]
abbrev dktX1_bet_4 : List UInt8 := dkwX1_bet_4 ++ []
def dkwX1_bet_3 : List UInt8 := [183, 1, 176, 182, 1, 6, 87, 42, 180, 0, 80, 89, 180, 1, 31, 28, 100, 181, 1, 31, 42, 180, 0, 80]
abbrev dktX1_bet_3 : List UInt8 := dkwX1_bet_3 ++ dktX1_bet_4
def dkwX1_bet_2 : List UInt8 := [2, 172, 42, 182, 1, 53, 42, 180, 0, 80, 180, 1, 20, 187, 1, 23, 89, 27, 28, 42, 182, 1, 174]
abbrev dktX1_bet_2 : List UInt8 := dkwX1_bet_2 ++ dktX1_bet_3
def dkwX1_bet_1 : List UInt8 := [180, 0, 80, 180, 1, 28, 156, 0, 18, 42, 180, 0, 80, 180, 1, 20, 182, 0, 185, 16, 8, 160, 0, 5]
abbrev dktX1_bet_1 : List UInt8 := dkwX1_bet_1 ++ dktX1_bet_2
def dkwX1_bet_0 : List UInt8 := [27, 184, 0, 216, 153, 0, 43, 28, 4, 42, 180, 0, 80, 180, 1, 31, 184, 0, 190, 153, 0, 28, 42]
abbrev dktX1_bet_0 : List UInt8 := dkwX1_bet_0 ++ dktX1_bet_1
theorem dksX1_bet_0 : cX1_bet.data.toList.drop 0 = dktX1_bet_0 := by decide +kernel
theorem dksX1_bet_1 : cX1_bet.data.toList.drop 23 = dktX1_bet_1 := dk_seg dksX1_bet_0 23 rfl rfl
theorem dksX1_bet_2 : cX1_bet.data.toList.drop 47 = dktX1_bet_2 := dk_seg dksX1_bet_1 24 rfl rfl
theorem dksX1_bet_3 : cX1_bet.data.toList.drop 70 = dktX1_bet_3 := dk_seg dksX1_bet_2 23 rfl rfl
theorem dksX1_bet_4 : cX1_bet.data.toList.drop 94 = dktX1_bet_4 := dk_seg dksX1_bet_3 24 rfl rfl
theorem dX1_bet_0 : decode cX1_bet 0 = .ok (.iload_n 1, 1) := dk_27 (dk_at dksX1_bet_0 0 rfl rfl)
theorem dX1_bet_1 : decode cX1_bet 1 = .ok (.invokestatic 216, 3) := dk_184 0 216 (dk_at dksX1_bet_0 1 rfl rfl)
theorem dX1_bet_4 : decode cX1_bet 4 = .ok (.ifCond .eq 43, 3) := dk_153 0 43 (dk_at dksX1_bet_0 4 rfl rfl)
theorem dX1_bet_7 : decode cX1_bet 7 = .ok (.iload_n 2, 1) := dk_28 (dk_at dksX1_bet_0 7 rfl rfl)
theorem dX1_bet_8 : decode cX1_bet 8 = .ok (.iconst 1, 1) := dk_4 (dk_at dksX1_bet_0 8 rfl rfl)
theorem dX1_bet_9 : decode cX1_bet 9 = .ok (.aload_n 0, 1) := dk_42 (dk_at dksX1_bet_0 9 rfl rfl)
theorem dX1_bet_10 : decode cX1_bet 10 = .ok (.getfield 80, 3) := dk_180 0 80 (dk_at dksX1_bet_0 10 rfl rfl)
theorem dX1_bet_13 : decode cX1_bet 13 = .ok (.getfield 287, 3) := dk_180 1 31 (dk_at dksX1_bet_0 13 rfl rfl)
theorem dX1_bet_16 : decode cX1_bet 16 = .ok (.invokestatic 190, 3) := dk_184 0 190 (dk_at dksX1_bet_0 16 rfl rfl)
theorem dX1_bet_19 : decode cX1_bet 19 = .ok (.ifCond .eq 28, 3) := dk_153 0 28 (dk_at dksX1_bet_0 19 rfl rfl)
theorem dX1_bet_22 : decode cX1_bet 22 = .ok (.aload_n 0, 1) := dk_42 (dk_at dksX1_bet_0 22 rfl rfl)
theorem dX1_bet_23 : decode cX1_bet 23 = .ok (.getfield 80, 3) := dk_180 0 80 (dk_at dksX1_bet_1 0 rfl rfl)
theorem dX1_bet_26 : decode cX1_bet 26 = .ok (.getfield 284, 3) := dk_180 1 28 (dk_at dksX1_bet_1 3 rfl rfl)
theorem dX1_bet_29 : decode cX1_bet 29 = .ok (.ifCond .ge 18, 3) := dk_156 0 18 (dk_at dksX1_bet_1 6 rfl rfl)
theorem dX1_bet_32 : decode cX1_bet 32 = .ok (.aload_n 0, 1) := dk_42 (dk_at dksX1_bet_1 9 rfl rfl)
theorem dX1_bet_33 : decode cX1_bet 33 = .ok (.getfield 80, 3) := dk_180 0 80 (dk_at dksX1_bet_1 10 rfl rfl)
theorem dX1_bet_36 : decode cX1_bet 36 = .ok (.getfield 276, 3) := dk_180 1 20 (dk_at dksX1_bet_1 13 rfl rfl)
theorem dX1_bet_39 : decode cX1_bet 39 = .ok (.invokevirtual 185, 3) := dk_182 0 185 (dk_at dksX1_bet_1 16 rfl rfl)
theorem dX1_bet_42 : decode cX1_bet 42 = .ok (.bipush 8, 2) := dk_16 8 (dk_at dksX1_bet_1 19 rfl rfl)
theorem dX1_bet_44 : decode cX1_bet 44 = .ok (.if_icmp .ne 5, 3) := dk_160 0 5 (dk_at dksX1_bet_1 21 rfl rfl)
theorem dX1_bet_47 : decode cX1_bet 47 = .ok (.iconst (-1), 1) := dk_2 (dk_at dksX1_bet_2 0 rfl rfl)
theorem dX1_bet_48 : decode cX1_bet 48 = .ok (.ireturn, 1) := dk_172 (dk_at dksX1_bet_2 1 rfl rfl)
theorem dX1_bet_49 : decode cX1_bet 49 = .ok (.aload_n 0, 1) := dk_42 (dk_at dksX1_bet_2 2 rfl rfl)
theorem dX1_bet_50 : decode cX1_bet 50 = .ok (.invokevirtual 309, 3) := dk_182 1 53 (dk_at dksX1_bet_2 3 rfl rfl)
theorem dX1_bet_53 : decode cX1_bet 53 = .ok (.aload_n 0, 1) := dk_42 (dk_at dksX1_bet_2 6 rfl rfl)
theorem dX1_bet_54 : decode cX1_bet 54 = .ok (.getfield 80, 3) := dk_180 0 80 (dk_at dksX1_bet_2 7 rfl rfl)
theorem dX1_bet_57 : decode cX1_bet 57 = .ok (.getfield 276, 3) := dk_180 1 20 (dk_at dksX1_bet_2 10 rfl rfl)
theorem dX1_bet_60 : decode cX1_bet 60 = .ok (.new 279, 3) := dk_187 1 23 (dk_at dksX1_bet_2 13 rfl rfl)
theorem dX1_bet_63 : decode cX1_bet 63 = .ok (.dup, 1) := dk_89 (dk_at dksX1_bet_2 16 rfl rfl)
theorem dX1_bet_64 : decode cX1_bet 64 = .ok (.iload_n 1, 1) := dk_27 (dk_at dksX1_bet_2 17 rfl rfl)
theorem dX1_bet_65 : decode cX1_bet 65 = .ok (.iload_n 2, 1) := dk_28 (dk_at dksX1_bet_2 18 rfl rfl)
theorem dX1_bet_66 : decode cX1_bet 66 = .ok (.aload_n 0, 1) := dk_42 (dk_at dksX1_bet_2 19 rfl rfl)
theorem dX1_bet_67 : decode cX1_bet 67 = .ok (.invokevirtual 430, 3) := dk_182 1 174 (dk_at dksX1_bet_2 20 rfl rfl)
theorem dX1_bet_70 : decode cX1_bet 70 = .ok (.invokespecial 432, 3) := dk_183 1 176 (dk_at dksX1_bet_3 0 rfl rfl)
theorem dX1_bet_73 : decode cX1_bet 73 = .ok (.invokevirtual 262, 3) := dk_182 1 6 (dk_at dksX1_bet_3 3 rfl rfl)
theorem dX1_bet_76 : decode cX1_bet 76 = .ok (.pop, 1) := dk_87 (dk_at dksX1_bet_3 6 rfl rfl)
theorem dX1_bet_77 : decode cX1_bet 77 = .ok (.aload_n 0, 1) := dk_42 (dk_at dksX1_bet_3 7 rfl rfl)
theorem dX1_bet_78 : decode cX1_bet 78 = .ok (.getfield 80, 3) := dk_180 0 80 (dk_at dksX1_bet_3 8 rfl rfl)
theorem dX1_bet_81 : decode cX1_bet 81 = .ok (.dup, 1) := dk_89 (dk_at dksX1_bet_3 11 rfl rfl)
theorem dX1_bet_82 : decode cX1_bet 82 = .ok (.getfield 287, 3) := dk_180 1 31 (dk_at dksX1_bet_3 12 rfl rfl)
theorem dX1_bet_85 : decode cX1_bet 85 = .ok (.iload_n 2, 1) := dk_28 (dk_at dksX1_bet_3 15 rfl rfl)
theorem dX1_bet_86 : decode cX1_bet 86 = .ok (.isub, 1) := dk_100 (dk_at dksX1_bet_3 16 rfl rfl)
theorem dX1_bet_87 : decode cX1_bet 87 = .ok (.putfield 287, 3) := dk_181 1 31 (dk_at dksX1_bet_3 17 rfl rfl)
theorem dX1_bet_90 : decode cX1_bet 90 = .ok (.aload_n 0, 1) := dk_42 (dk_at dksX1_bet_3 20 rfl rfl)
theorem dX1_bet_91 : decode cX1_bet 91 = .ok (.getfield 80, 3) := dk_180 0 80 (dk_at dksX1_bet_3 21 rfl rfl)
theorem dX1_bet_94 : decode cX1_bet 94 = .ok (.getfield 287, 3) := dk_180 1 31 (dk_at dksX1_bet_4 0 rfl rfl)
theorem dX1_bet_97 : decode cX1_bet 97 = .ok (.ireturn, 1) := dk_172 (dk_at dksX1_bet_4 3 rfl rfl)
abbrev cX1_take : ByteArray := prog_1_method_51_code
def yX1_take : MethodName := ⟨RX1, "take", "(I)I"⟩
def dkwX1_take_3 : List UInt8 := [167, 0, 4, 3, 172]
abbrev dktX1_take_3 : List UInt8 := dkwX1_take_3 ++ []
def dkwX1_take_2 : List UInt8 := [27, 46, 100, 61, 42, 180, 0, 108, 27, 46, 42, 182, 1, 174, 104, 28, 16, 10, 104, 164, 0, 7, 4]
abbrev dktX1_take_2 : List UInt8 := dkwX1_take_2 ++ dktX1_take_3
def dkwX1_take_1 : List UInt8 := [180, 0, 108, 4, 46, 96, 42, 180, 0, 108, 5, 46, 96, 42, 180, 0, 108, 6, 46, 96, 42, 180, 0, 108]
abbrev dktX1_take_1 : List UInt8 := dkwX1_take_1 ++ dktX1_take_2
def dkwX1_take_0 : List UInt8 := [27, 184, 0, 216, 153, 0, 10, 42, 182, 1, 153, 154, 0, 5, 2, 172, 42, 180, 0, 108, 3, 46, 42]
abbrev dktX1_take_0 : List UInt8 := dkwX1_take_0 ++ dktX1_take_1
theorem dksX1_take_0 : cX1_take.data.toList.drop 0 = dktX1_take_0 := by decide +kernel
theorem dksX1_take_1 : cX1_take.data.toList.drop 23 = dktX1_take_1 := dk_seg dksX1_take_0 23 rfl rfl
theorem dksX1_take_2 : cX1_take.data.toList.drop 47 = dktX1_take_2 := dk_seg dksX1_take_1 24 rfl rfl
theorem dksX1_take_3 : cX1_take.data.toList.drop 70 = dktX1_take_3 := dk_seg dksX1_take_2 23 rfl rfl
theorem dX1_take_0 : decode cX1_take 0 = .ok (.iload_n 1, 1) := dk_27 (dk_at dksX1_take_0 0 rfl rfl)
theorem dX1_take_1 : decode cX1_take 1 = .ok (.invokestatic 216, 3) := dk_184 0 216 (dk_at dksX1_take_0 1 rfl rfl)
theorem dX1_take_4 : decode cX1_take 4 = .ok (.ifCond .eq 10, 3) := dk_153 0 10 (dk_at dksX1_take_0 4 rfl rfl)
theorem dX1_take_7 : decode cX1_take 7 = .ok (.aload_n 0, 1) := dk_42 (dk_at dksX1_take_0 7 rfl rfl)
theorem dX1_take_8 : decode cX1_take 8 = .ok (.invokevirtual 409, 3) := dk_182 1 153 (dk_at dksX1_take_0 8 rfl rfl)
theorem dX1_take_11 : decode cX1_take 11 = .ok (.ifCond .ne 5, 3) := dk_154 0 5 (dk_at dksX1_take_0 11 rfl rfl)
theorem dX1_take_14 : decode cX1_take 14 = .ok (.iconst (-1), 1) := dk_2 (dk_at dksX1_take_0 14 rfl rfl)
theorem dX1_take_15 : decode cX1_take 15 = .ok (.ireturn, 1) := dk_172 (dk_at dksX1_take_0 15 rfl rfl)
theorem dX1_take_16 : decode cX1_take 16 = .ok (.aload_n 0, 1) := dk_42 (dk_at dksX1_take_0 16 rfl rfl)
theorem dX1_take_17 : decode cX1_take 17 = .ok (.getfield 108, 3) := dk_180 0 108 (dk_at dksX1_take_0 17 rfl rfl)
theorem dX1_take_20 : decode cX1_take 20 = .ok (.iconst 0, 1) := dk_3 (dk_at dksX1_take_0 20 rfl rfl)
theorem dX1_take_21 : decode cX1_take 21 = .ok (.iaload, 1) := dk_46 (dk_at dksX1_take_0 21 rfl rfl)
theorem dX1_take_22 : decode cX1_take 22 = .ok (.aload_n 0, 1) := dk_42 (dk_at dksX1_take_0 22 rfl rfl)
theorem dX1_take_23 : decode cX1_take 23 = .ok (.getfield 108, 3) := dk_180 0 108 (dk_at dksX1_take_1 0 rfl rfl)
theorem dX1_take_26 : decode cX1_take 26 = .ok (.iconst 1, 1) := dk_4 (dk_at dksX1_take_1 3 rfl rfl)
theorem dX1_take_27 : decode cX1_take 27 = .ok (.iaload, 1) := dk_46 (dk_at dksX1_take_1 4 rfl rfl)
theorem dX1_take_28 : decode cX1_take 28 = .ok (.iadd, 1) := dk_96 (dk_at dksX1_take_1 5 rfl rfl)
theorem dX1_take_29 : decode cX1_take 29 = .ok (.aload_n 0, 1) := dk_42 (dk_at dksX1_take_1 6 rfl rfl)
theorem dX1_take_30 : decode cX1_take 30 = .ok (.getfield 108, 3) := dk_180 0 108 (dk_at dksX1_take_1 7 rfl rfl)
theorem dX1_take_33 : decode cX1_take 33 = .ok (.iconst 2, 1) := dk_5 (dk_at dksX1_take_1 10 rfl rfl)
theorem dX1_take_34 : decode cX1_take 34 = .ok (.iaload, 1) := dk_46 (dk_at dksX1_take_1 11 rfl rfl)
theorem dX1_take_35 : decode cX1_take 35 = .ok (.iadd, 1) := dk_96 (dk_at dksX1_take_1 12 rfl rfl)
theorem dX1_take_36 : decode cX1_take 36 = .ok (.aload_n 0, 1) := dk_42 (dk_at dksX1_take_1 13 rfl rfl)
theorem dX1_take_37 : decode cX1_take 37 = .ok (.getfield 108, 3) := dk_180 0 108 (dk_at dksX1_take_1 14 rfl rfl)
theorem dX1_take_40 : decode cX1_take 40 = .ok (.iconst 3, 1) := dk_6 (dk_at dksX1_take_1 17 rfl rfl)
theorem dX1_take_41 : decode cX1_take 41 = .ok (.iaload, 1) := dk_46 (dk_at dksX1_take_1 18 rfl rfl)
theorem dX1_take_42 : decode cX1_take 42 = .ok (.iadd, 1) := dk_96 (dk_at dksX1_take_1 19 rfl rfl)
theorem dX1_take_43 : decode cX1_take 43 = .ok (.aload_n 0, 1) := dk_42 (dk_at dksX1_take_1 20 rfl rfl)
theorem dX1_take_44 : decode cX1_take 44 = .ok (.getfield 108, 3) := dk_180 0 108 (dk_at dksX1_take_1 21 rfl rfl)
theorem dX1_take_47 : decode cX1_take 47 = .ok (.iload_n 1, 1) := dk_27 (dk_at dksX1_take_2 0 rfl rfl)
theorem dX1_take_48 : decode cX1_take 48 = .ok (.iaload, 1) := dk_46 (dk_at dksX1_take_2 1 rfl rfl)
theorem dX1_take_49 : decode cX1_take 49 = .ok (.isub, 1) := dk_100 (dk_at dksX1_take_2 2 rfl rfl)
theorem dX1_take_50 : decode cX1_take 50 = .ok (.istore_n 2, 1) := dk_61 (dk_at dksX1_take_2 3 rfl rfl)
theorem dX1_take_51 : decode cX1_take 51 = .ok (.aload_n 0, 1) := dk_42 (dk_at dksX1_take_2 4 rfl rfl)
theorem dX1_take_52 : decode cX1_take 52 = .ok (.getfield 108, 3) := dk_180 0 108 (dk_at dksX1_take_2 5 rfl rfl)
theorem dX1_take_55 : decode cX1_take 55 = .ok (.iload_n 1, 1) := dk_27 (dk_at dksX1_take_2 8 rfl rfl)
theorem dX1_take_56 : decode cX1_take 56 = .ok (.iaload, 1) := dk_46 (dk_at dksX1_take_2 9 rfl rfl)
theorem dX1_take_57 : decode cX1_take 57 = .ok (.aload_n 0, 1) := dk_42 (dk_at dksX1_take_2 10 rfl rfl)
theorem dX1_take_58 : decode cX1_take 58 = .ok (.invokevirtual 430, 3) := dk_182 1 174 (dk_at dksX1_take_2 11 rfl rfl)
theorem dX1_take_61 : decode cX1_take 61 = .ok (.imul, 1) := dk_104 (dk_at dksX1_take_2 14 rfl rfl)
theorem dX1_take_62 : decode cX1_take 62 = .ok (.iload_n 2, 1) := dk_28 (dk_at dksX1_take_2 15 rfl rfl)
theorem dX1_take_63 : decode cX1_take 63 = .ok (.bipush 10, 2) := dk_16 10 (dk_at dksX1_take_2 16 rfl rfl)
theorem dX1_take_65 : decode cX1_take 65 = .ok (.imul, 1) := dk_104 (dk_at dksX1_take_2 18 rfl rfl)
theorem dX1_take_66 : decode cX1_take 66 = .ok (.if_icmp .le 7, 3) := dk_164 0 7 (dk_at dksX1_take_2 19 rfl rfl)
theorem dX1_take_69 : decode cX1_take 69 = .ok (.iconst 1, 1) := dk_4 (dk_at dksX1_take_2 22 rfl rfl)
theorem dX1_take_70 : decode cX1_take 70 = .ok (.goto 4, 3) := dk_167 0 4 (dk_at dksX1_take_3 0 rfl rfl)
theorem dX1_take_73 : decode cX1_take 73 = .ok (.iconst 0, 1) := dk_3 (dk_at dksX1_take_3 3 rfl rfl)
theorem dX1_take_74 : decode cX1_take 74 = .ok (.ireturn, 1) := dk_172 (dk_at dksX1_take_3 4 rfl rfl)
abbrev cX1_choice : ByteArray := prog_1_method_55_code
def yX1_choice : MethodName := ⟨RX1, "choice", "(II)I"⟩
def dkwX1_choice_3 : List UInt8 := [180, 0, 111, 28, 46, 167, 0, 4, 2, 172, 132, 3, 1, 167, 255, 207, 2, 172]
abbrev dktX1_choice_3 : List UInt8 := dkwX1_choice_3 ++ []
def dkwX1_choice_2 : List UInt8 := [182, 1, 189, 153, 0, 31, 28, 2, 160, 0, 7, 29, 167, 0, 21, 28, 42, 180, 1, 186, 162, 0, 12, 42]
abbrev dktX1_choice_2 : List UInt8 := dkwX1_choice_2 ++ dktX1_choice_3
def dkwX1_choice_1 : List UInt8 := [180, 1, 10, 153, 0, 5, 2, 172, 3, 62, 29, 27, 163, 0, 50, 42, 42, 180, 0, 80, 29, 3]
abbrev dktX1_choice_1 : List UInt8 := dkwX1_choice_1 ++ dktX1_choice_2
def dkwX1_choice_0 : List UInt8 := [27, 4, 16, 6, 184, 0, 190, 153, 0, 22, 28, 2, 8, 184, 0, 190, 153, 0, 13, 42, 180, 0, 80]
abbrev dktX1_choice_0 : List UInt8 := dkwX1_choice_0 ++ dktX1_choice_1
theorem dksX1_choice_0 : cX1_choice.data.toList.drop 0 = dktX1_choice_0 := by decide +kernel
theorem dksX1_choice_1 : cX1_choice.data.toList.drop 23 = dktX1_choice_1 := dk_seg dksX1_choice_0 23 rfl rfl
theorem dksX1_choice_2 : cX1_choice.data.toList.drop 45 = dktX1_choice_2 := dk_seg dksX1_choice_1 22 rfl rfl
theorem dksX1_choice_3 : cX1_choice.data.toList.drop 69 = dktX1_choice_3 := dk_seg dksX1_choice_2 24 rfl rfl
theorem dX1_choice_0 : decode cX1_choice 0 = .ok (.iload_n 1, 1) := dk_27 (dk_at dksX1_choice_0 0 rfl rfl)
theorem dX1_choice_1 : decode cX1_choice 1 = .ok (.iconst 1, 1) := dk_4 (dk_at dksX1_choice_0 1 rfl rfl)
theorem dX1_choice_2 : decode cX1_choice 2 = .ok (.bipush 6, 2) := dk_16 6 (dk_at dksX1_choice_0 2 rfl rfl)
theorem dX1_choice_4 : decode cX1_choice 4 = .ok (.invokestatic 190, 3) := dk_184 0 190 (dk_at dksX1_choice_0 4 rfl rfl)
theorem dX1_choice_7 : decode cX1_choice 7 = .ok (.ifCond .eq 22, 3) := dk_153 0 22 (dk_at dksX1_choice_0 7 rfl rfl)
theorem dX1_choice_10 : decode cX1_choice 10 = .ok (.iload_n 2, 1) := dk_28 (dk_at dksX1_choice_0 10 rfl rfl)
theorem dX1_choice_11 : decode cX1_choice 11 = .ok (.iconst (-1), 1) := dk_2 (dk_at dksX1_choice_0 11 rfl rfl)
theorem dX1_choice_12 : decode cX1_choice 12 = .ok (.iconst 5, 1) := dk_8 (dk_at dksX1_choice_0 12 rfl rfl)
theorem dX1_choice_13 : decode cX1_choice 13 = .ok (.invokestatic 190, 3) := dk_184 0 190 (dk_at dksX1_choice_0 13 rfl rfl)
theorem dX1_choice_16 : decode cX1_choice 16 = .ok (.ifCond .eq 13, 3) := dk_153 0 13 (dk_at dksX1_choice_0 16 rfl rfl)
theorem dX1_choice_19 : decode cX1_choice 19 = .ok (.aload_n 0, 1) := dk_42 (dk_at dksX1_choice_0 19 rfl rfl)
theorem dX1_choice_20 : decode cX1_choice 20 = .ok (.getfield 80, 3) := dk_180 0 80 (dk_at dksX1_choice_0 20 rfl rfl)
theorem dX1_choice_23 : decode cX1_choice 23 = .ok (.getfield 266, 3) := dk_180 1 10 (dk_at dksX1_choice_1 0 rfl rfl)
theorem dX1_choice_26 : decode cX1_choice 26 = .ok (.ifCond .eq 5, 3) := dk_153 0 5 (dk_at dksX1_choice_1 3 rfl rfl)
theorem dX1_choice_29 : decode cX1_choice 29 = .ok (.iconst (-1), 1) := dk_2 (dk_at dksX1_choice_1 6 rfl rfl)
theorem dX1_choice_30 : decode cX1_choice 30 = .ok (.ireturn, 1) := dk_172 (dk_at dksX1_choice_1 7 rfl rfl)
theorem dX1_choice_31 : decode cX1_choice 31 = .ok (.iconst 0, 1) := dk_3 (dk_at dksX1_choice_1 8 rfl rfl)
theorem dX1_choice_32 : decode cX1_choice 32 = .ok (.istore_n 3, 1) := dk_62 (dk_at dksX1_choice_1 9 rfl rfl)
theorem dX1_choice_33 : decode cX1_choice 33 = .ok (.iload_n 3, 1) := dk_29 (dk_at dksX1_choice_1 10 rfl rfl)
theorem dX1_choice_34 : decode cX1_choice 34 = .ok (.iload_n 1, 1) := dk_27 (dk_at dksX1_choice_1 11 rfl rfl)
theorem dX1_choice_35 : decode cX1_choice 35 = .ok (.if_icmp .gt 50, 3) := dk_163 0 50 (dk_at dksX1_choice_1 12 rfl rfl)
theorem dX1_choice_38 : decode cX1_choice 38 = .ok (.aload_n 0, 1) := dk_42 (dk_at dksX1_choice_1 15 rfl rfl)
theorem dX1_choice_39 : decode cX1_choice 39 = .ok (.aload_n 0, 1) := dk_42 (dk_at dksX1_choice_1 16 rfl rfl)
theorem dX1_choice_40 : decode cX1_choice 40 = .ok (.getfield 80, 3) := dk_180 0 80 (dk_at dksX1_choice_1 17 rfl rfl)
theorem dX1_choice_43 : decode cX1_choice 43 = .ok (.iload_n 3, 1) := dk_29 (dk_at dksX1_choice_1 20 rfl rfl)
theorem dX1_choice_44 : decode cX1_choice 44 = .ok (.iconst 0, 1) := dk_3 (dk_at dksX1_choice_1 21 rfl rfl)
theorem dX1_choice_45 : decode cX1_choice 45 = .ok (.invokevirtual 445, 3) := dk_182 1 189 (dk_at dksX1_choice_2 0 rfl rfl)
theorem dX1_choice_48 : decode cX1_choice 48 = .ok (.ifCond .eq 31, 3) := dk_153 0 31 (dk_at dksX1_choice_2 3 rfl rfl)
theorem dX1_choice_51 : decode cX1_choice 51 = .ok (.iload_n 2, 1) := dk_28 (dk_at dksX1_choice_2 6 rfl rfl)
theorem dX1_choice_52 : decode cX1_choice 52 = .ok (.iconst (-1), 1) := dk_2 (dk_at dksX1_choice_2 7 rfl rfl)
theorem dX1_choice_53 : decode cX1_choice 53 = .ok (.if_icmp .ne 7, 3) := dk_160 0 7 (dk_at dksX1_choice_2 8 rfl rfl)
theorem dX1_choice_56 : decode cX1_choice 56 = .ok (.iload_n 3, 1) := dk_29 (dk_at dksX1_choice_2 11 rfl rfl)
theorem dX1_choice_57 : decode cX1_choice 57 = .ok (.goto 21, 3) := dk_167 0 21 (dk_at dksX1_choice_2 12 rfl rfl)
theorem dX1_choice_60 : decode cX1_choice 60 = .ok (.iload_n 2, 1) := dk_28 (dk_at dksX1_choice_2 15 rfl rfl)
theorem dX1_choice_61 : decode cX1_choice 61 = .ok (.aload_n 0, 1) := dk_42 (dk_at dksX1_choice_2 16 rfl rfl)
theorem dX1_choice_62 : decode cX1_choice 62 = .ok (.getfield 442, 3) := dk_180 1 186 (dk_at dksX1_choice_2 17 rfl rfl)
theorem dX1_choice_65 : decode cX1_choice 65 = .ok (.if_icmp .ge 12, 3) := dk_162 0 12 (dk_at dksX1_choice_2 20 rfl rfl)
theorem dX1_choice_68 : decode cX1_choice 68 = .ok (.aload_n 0, 1) := dk_42 (dk_at dksX1_choice_2 23 rfl rfl)
theorem dX1_choice_69 : decode cX1_choice 69 = .ok (.getfield 111, 3) := dk_180 0 111 (dk_at dksX1_choice_3 0 rfl rfl)
theorem dX1_choice_72 : decode cX1_choice 72 = .ok (.iload_n 2, 1) := dk_28 (dk_at dksX1_choice_3 3 rfl rfl)
theorem dX1_choice_73 : decode cX1_choice 73 = .ok (.iaload, 1) := dk_46 (dk_at dksX1_choice_3 4 rfl rfl)
theorem dX1_choice_74 : decode cX1_choice 74 = .ok (.goto 4, 3) := dk_167 0 4 (dk_at dksX1_choice_3 5 rfl rfl)
theorem dX1_choice_77 : decode cX1_choice 77 = .ok (.iconst (-1), 1) := dk_2 (dk_at dksX1_choice_3 8 rfl rfl)
theorem dX1_choice_78 : decode cX1_choice 78 = .ok (.ireturn, 1) := dk_172 (dk_at dksX1_choice_3 9 rfl rfl)
theorem dX1_choice_79 : decode cX1_choice 79 = .ok (.iinc 3 1, 3) := dk_132 3 1 (dk_at dksX1_choice_3 10 rfl rfl)
theorem dX1_choice_82 : decode cX1_choice 82 = .ok (.goto (-49), 3) := dk_167 255 207 (dk_at dksX1_choice_3 13 rfl rfl)
theorem dX1_choice_85 : decode cX1_choice 85 = .ok (.iconst (-1), 1) := dk_2 (dk_at dksX1_choice_3 16 rfl rfl)
theorem dX1_choice_86 : decode cX1_choice 86 = .ok (.ireturn, 1) := dk_172 (dk_at dksX1_choice_3 17 rfl rfl)
abbrev cX1_canWin : ByteArray := prog_1_method_54_code
def yX1_canWin : MethodName := ⟨RX1, "canWin", "(LBeggarHeaps$Game;II)Z"⟩
def dkwX1_canWin_6 : List UInt8 := [28, 4, 100, 29, 4, 96, 182, 1, 189, 153, 0, 5, 4, 172, 132, 5, 1, 167, 255, 190, 3, 172]
abbrev dktX1_canWin_6 : List UInt8 := dkwX1_canWin_6 ++ []
def dkwX1_canWin_5 : List UInt8 := [180, 0, 198, 42, 180, 0, 48, 21, 5, 50, 182, 1, 16, 42, 180, 0, 111, 29, 21, 5, 79, 42, 25, 6]
abbrev dktX1_canWin_5 : List UInt8 := dkwX1_canWin_5 ++ dktX1_canWin_6
def dkwX1_canWin_4 : List UInt8 := [162, 0, 66, 42, 5, 28, 104, 4, 96, 25, 4, 182, 1, 179, 58, 6, 25, 6, 42, 180, 0, 64]
abbrev dktX1_canWin_4 : List UInt8 := dkwX1_canWin_4 ++ dktX1_canWin_5
def dkwX1_canWin_3 : List UInt8 := [182, 1, 13, 50, 182, 1, 16, 42, 25, 4, 28, 4, 100, 29, 182, 1, 189, 172, 3, 54, 5, 21, 5, 8]
abbrev dktX1_canWin_3 : List UInt8 := dkwX1_canWin_3 ++ dktX1_canWin_4
def dkwX1_canWin_2 : List UInt8 := [180, 0, 255, 4, 160, 0, 38, 25, 4, 42, 180, 0, 64, 180, 0, 198, 42, 180, 0, 48, 42, 180, 0, 64]
abbrev dktX1_canWin_2 : List UInt8 := dkwX1_canWin_2 ++ dktX1_canWin_3
def dkwX1_canWin_1 : List UInt8 := [25, 4, 180, 1, 28, 154, 0, 7, 4, 167, 0, 4, 3, 172, 28, 154, 0, 5, 3, 172, 25, 4]
abbrev dktX1_canWin_1 : List UInt8 := dkwX1_canWin_1 ++ dktX1_canWin_2
def dkwX1_canWin_0 : List UInt8 := [42, 5, 28, 104, 43, 182, 1, 179, 58, 4, 42, 25, 4, 182, 1, 182, 154, 0, 22, 42, 29, 181, 1, 186]
abbrev dktX1_canWin_0 : List UInt8 := dkwX1_canWin_0 ++ dktX1_canWin_1
theorem dksX1_canWin_0 : cX1_canWin.data.toList.drop 0 = dktX1_canWin_0 := by decide +kernel
theorem dksX1_canWin_1 : cX1_canWin.data.toList.drop 24 = dktX1_canWin_1 := dk_seg dksX1_canWin_0 24 rfl rfl
theorem dksX1_canWin_2 : cX1_canWin.data.toList.drop 46 = dktX1_canWin_2 := dk_seg dksX1_canWin_1 22 rfl rfl
theorem dksX1_canWin_3 : cX1_canWin.data.toList.drop 70 = dktX1_canWin_3 := dk_seg dksX1_canWin_2 24 rfl rfl
theorem dksX1_canWin_4 : cX1_canWin.data.toList.drop 94 = dktX1_canWin_4 := dk_seg dksX1_canWin_3 24 rfl rfl
theorem dksX1_canWin_5 : cX1_canWin.data.toList.drop 116 = dktX1_canWin_5 := dk_seg dksX1_canWin_4 22 rfl rfl
theorem dksX1_canWin_6 : cX1_canWin.data.toList.drop 140 = dktX1_canWin_6 := dk_seg dksX1_canWin_5 24 rfl rfl
theorem dX1_canWin_0 : decode cX1_canWin 0 = .ok (.aload_n 0, 1) := dk_42 (dk_at dksX1_canWin_0 0 rfl rfl)
theorem dX1_canWin_1 : decode cX1_canWin 1 = .ok (.iconst 2, 1) := dk_5 (dk_at dksX1_canWin_0 1 rfl rfl)
theorem dX1_canWin_2 : decode cX1_canWin 2 = .ok (.iload_n 2, 1) := dk_28 (dk_at dksX1_canWin_0 2 rfl rfl)
theorem dX1_canWin_3 : decode cX1_canWin 3 = .ok (.imul, 1) := dk_104 (dk_at dksX1_canWin_0 3 rfl rfl)
theorem dX1_canWin_4 : decode cX1_canWin 4 = .ok (.aload_n 1, 1) := dk_43 (dk_at dksX1_canWin_0 4 rfl rfl)
theorem dX1_canWin_5 : decode cX1_canWin 5 = .ok (.invokevirtual 435, 3) := dk_182 1 179 (dk_at dksX1_canWin_0 5 rfl rfl)
theorem dX1_canWin_8 : decode cX1_canWin 8 = .ok (.astore 4, 2) := dk_58 4 (dk_at dksX1_canWin_0 8 rfl rfl)
theorem dX1_canWin_10 : decode cX1_canWin 10 = .ok (.aload_n 0, 1) := dk_42 (dk_at dksX1_canWin_0 10 rfl rfl)
theorem dX1_canWin_11 : decode cX1_canWin 11 = .ok (.aload 4, 2) := dk_25 4 (dk_at dksX1_canWin_0 11 rfl rfl)
theorem dX1_canWin_13 : decode cX1_canWin 13 = .ok (.invokevirtual 438, 3) := dk_182 1 182 (dk_at dksX1_canWin_0 13 rfl rfl)
theorem dX1_canWin_16 : decode cX1_canWin 16 = .ok (.ifCond .ne 22, 3) := dk_154 0 22 (dk_at dksX1_canWin_0 16 rfl rfl)
theorem dX1_canWin_19 : decode cX1_canWin 19 = .ok (.aload_n 0, 1) := dk_42 (dk_at dksX1_canWin_0 19 rfl rfl)
theorem dX1_canWin_20 : decode cX1_canWin 20 = .ok (.iload_n 3, 1) := dk_29 (dk_at dksX1_canWin_0 20 rfl rfl)
theorem dX1_canWin_21 : decode cX1_canWin 21 = .ok (.putfield 442, 3) := dk_181 1 186 (dk_at dksX1_canWin_0 21 rfl rfl)
theorem dX1_canWin_24 : decode cX1_canWin 24 = .ok (.aload 4, 2) := dk_25 4 (dk_at dksX1_canWin_1 0 rfl rfl)
theorem dX1_canWin_26 : decode cX1_canWin 26 = .ok (.getfield 284, 3) := dk_180 1 28 (dk_at dksX1_canWin_1 2 rfl rfl)
theorem dX1_canWin_29 : decode cX1_canWin 29 = .ok (.ifCond .ne 7, 3) := dk_154 0 7 (dk_at dksX1_canWin_1 5 rfl rfl)
theorem dX1_canWin_32 : decode cX1_canWin 32 = .ok (.iconst 1, 1) := dk_4 (dk_at dksX1_canWin_1 8 rfl rfl)
theorem dX1_canWin_33 : decode cX1_canWin 33 = .ok (.goto 4, 3) := dk_167 0 4 (dk_at dksX1_canWin_1 9 rfl rfl)
theorem dX1_canWin_36 : decode cX1_canWin 36 = .ok (.iconst 0, 1) := dk_3 (dk_at dksX1_canWin_1 12 rfl rfl)
theorem dX1_canWin_37 : decode cX1_canWin 37 = .ok (.ireturn, 1) := dk_172 (dk_at dksX1_canWin_1 13 rfl rfl)
theorem dX1_canWin_38 : decode cX1_canWin 38 = .ok (.iload_n 2, 1) := dk_28 (dk_at dksX1_canWin_1 14 rfl rfl)
theorem dX1_canWin_39 : decode cX1_canWin 39 = .ok (.ifCond .ne 5, 3) := dk_154 0 5 (dk_at dksX1_canWin_1 15 rfl rfl)
theorem dX1_canWin_42 : decode cX1_canWin 42 = .ok (.iconst 0, 1) := dk_3 (dk_at dksX1_canWin_1 18 rfl rfl)
theorem dX1_canWin_43 : decode cX1_canWin 43 = .ok (.ireturn, 1) := dk_172 (dk_at dksX1_canWin_1 19 rfl rfl)
theorem dX1_canWin_44 : decode cX1_canWin 44 = .ok (.aload 4, 2) := dk_25 4 (dk_at dksX1_canWin_1 20 rfl rfl)
theorem dX1_canWin_46 : decode cX1_canWin 46 = .ok (.getfield 255, 3) := dk_180 0 255 (dk_at dksX1_canWin_2 0 rfl rfl)
theorem dX1_canWin_49 : decode cX1_canWin 49 = .ok (.iconst 1, 1) := dk_4 (dk_at dksX1_canWin_2 3 rfl rfl)
theorem dX1_canWin_50 : decode cX1_canWin 50 = .ok (.if_icmp .ne 38, 3) := dk_160 0 38 (dk_at dksX1_canWin_2 4 rfl rfl)
theorem dX1_canWin_53 : decode cX1_canWin 53 = .ok (.aload 4, 2) := dk_25 4 (dk_at dksX1_canWin_2 7 rfl rfl)
theorem dX1_canWin_55 : decode cX1_canWin 55 = .ok (.aload_n 0, 1) := dk_42 (dk_at dksX1_canWin_2 9 rfl rfl)
theorem dX1_canWin_56 : decode cX1_canWin 56 = .ok (.getfield 64, 3) := dk_180 0 64 (dk_at dksX1_canWin_2 10 rfl rfl)
theorem dX1_canWin_59 : decode cX1_canWin 59 = .ok (.getfield 198, 3) := dk_180 0 198 (dk_at dksX1_canWin_2 13 rfl rfl)
theorem dX1_canWin_62 : decode cX1_canWin 62 = .ok (.aload_n 0, 1) := dk_42 (dk_at dksX1_canWin_2 16 rfl rfl)
theorem dX1_canWin_63 : decode cX1_canWin 63 = .ok (.getfield 48, 3) := dk_180 0 48 (dk_at dksX1_canWin_2 17 rfl rfl)
theorem dX1_canWin_66 : decode cX1_canWin 66 = .ok (.aload_n 0, 1) := dk_42 (dk_at dksX1_canWin_2 20 rfl rfl)
theorem dX1_canWin_67 : decode cX1_canWin 67 = .ok (.getfield 64, 3) := dk_180 0 64 (dk_at dksX1_canWin_2 21 rfl rfl)
theorem dX1_canWin_70 : decode cX1_canWin 70 = .ok (.invokevirtual 269, 3) := dk_182 1 13 (dk_at dksX1_canWin_3 0 rfl rfl)
theorem dX1_canWin_73 : decode cX1_canWin 73 = .ok (.aaload, 1) := dk_50 (dk_at dksX1_canWin_3 3 rfl rfl)
theorem dX1_canWin_74 : decode cX1_canWin 74 = .ok (.invokevirtual 272, 3) := dk_182 1 16 (dk_at dksX1_canWin_3 4 rfl rfl)
theorem dX1_canWin_77 : decode cX1_canWin 77 = .ok (.aload_n 0, 1) := dk_42 (dk_at dksX1_canWin_3 7 rfl rfl)
theorem dX1_canWin_78 : decode cX1_canWin 78 = .ok (.aload 4, 2) := dk_25 4 (dk_at dksX1_canWin_3 8 rfl rfl)
theorem dX1_canWin_80 : decode cX1_canWin 80 = .ok (.iload_n 2, 1) := dk_28 (dk_at dksX1_canWin_3 10 rfl rfl)
theorem dX1_canWin_81 : decode cX1_canWin 81 = .ok (.iconst 1, 1) := dk_4 (dk_at dksX1_canWin_3 11 rfl rfl)
theorem dX1_canWin_82 : decode cX1_canWin 82 = .ok (.isub, 1) := dk_100 (dk_at dksX1_canWin_3 12 rfl rfl)
theorem dX1_canWin_83 : decode cX1_canWin 83 = .ok (.iload_n 3, 1) := dk_29 (dk_at dksX1_canWin_3 13 rfl rfl)
theorem dX1_canWin_84 : decode cX1_canWin 84 = .ok (.invokevirtual 445, 3) := dk_182 1 189 (dk_at dksX1_canWin_3 14 rfl rfl)
theorem dX1_canWin_87 : decode cX1_canWin 87 = .ok (.ireturn, 1) := dk_172 (dk_at dksX1_canWin_3 17 rfl rfl)
theorem dX1_canWin_88 : decode cX1_canWin 88 = .ok (.iconst 0, 1) := dk_3 (dk_at dksX1_canWin_3 18 rfl rfl)
theorem dX1_canWin_89 : decode cX1_canWin 89 = .ok (.istore 5, 2) := dk_54 5 (dk_at dksX1_canWin_3 19 rfl rfl)
theorem dX1_canWin_91 : decode cX1_canWin 91 = .ok (.iload 5, 2) := dk_21 5 (dk_at dksX1_canWin_3 21 rfl rfl)
theorem dX1_canWin_93 : decode cX1_canWin 93 = .ok (.iconst 5, 1) := dk_8 (dk_at dksX1_canWin_3 23 rfl rfl)
theorem dX1_canWin_94 : decode cX1_canWin 94 = .ok (.if_icmp .ge 66, 3) := dk_162 0 66 (dk_at dksX1_canWin_4 0 rfl rfl)
theorem dX1_canWin_97 : decode cX1_canWin 97 = .ok (.aload_n 0, 1) := dk_42 (dk_at dksX1_canWin_4 3 rfl rfl)
theorem dX1_canWin_98 : decode cX1_canWin 98 = .ok (.iconst 2, 1) := dk_5 (dk_at dksX1_canWin_4 4 rfl rfl)
theorem dX1_canWin_99 : decode cX1_canWin 99 = .ok (.iload_n 2, 1) := dk_28 (dk_at dksX1_canWin_4 5 rfl rfl)
theorem dX1_canWin_100 : decode cX1_canWin 100 = .ok (.imul, 1) := dk_104 (dk_at dksX1_canWin_4 6 rfl rfl)
theorem dX1_canWin_101 : decode cX1_canWin 101 = .ok (.iconst 1, 1) := dk_4 (dk_at dksX1_canWin_4 7 rfl rfl)
theorem dX1_canWin_102 : decode cX1_canWin 102 = .ok (.iadd, 1) := dk_96 (dk_at dksX1_canWin_4 8 rfl rfl)
theorem dX1_canWin_103 : decode cX1_canWin 103 = .ok (.aload 4, 2) := dk_25 4 (dk_at dksX1_canWin_4 9 rfl rfl)
theorem dX1_canWin_105 : decode cX1_canWin 105 = .ok (.invokevirtual 435, 3) := dk_182 1 179 (dk_at dksX1_canWin_4 11 rfl rfl)
theorem dX1_canWin_108 : decode cX1_canWin 108 = .ok (.astore 6, 2) := dk_58 6 (dk_at dksX1_canWin_4 14 rfl rfl)
theorem dX1_canWin_110 : decode cX1_canWin 110 = .ok (.aload 6, 2) := dk_25 6 (dk_at dksX1_canWin_4 16 rfl rfl)
theorem dX1_canWin_112 : decode cX1_canWin 112 = .ok (.aload_n 0, 1) := dk_42 (dk_at dksX1_canWin_4 18 rfl rfl)
theorem dX1_canWin_113 : decode cX1_canWin 113 = .ok (.getfield 64, 3) := dk_180 0 64 (dk_at dksX1_canWin_4 19 rfl rfl)
theorem dX1_canWin_116 : decode cX1_canWin 116 = .ok (.getfield 198, 3) := dk_180 0 198 (dk_at dksX1_canWin_5 0 rfl rfl)
theorem dX1_canWin_119 : decode cX1_canWin 119 = .ok (.aload_n 0, 1) := dk_42 (dk_at dksX1_canWin_5 3 rfl rfl)
theorem dX1_canWin_120 : decode cX1_canWin 120 = .ok (.getfield 48, 3) := dk_180 0 48 (dk_at dksX1_canWin_5 4 rfl rfl)
theorem dX1_canWin_123 : decode cX1_canWin 123 = .ok (.iload 5, 2) := dk_21 5 (dk_at dksX1_canWin_5 7 rfl rfl)
theorem dX1_canWin_125 : decode cX1_canWin 125 = .ok (.aaload, 1) := dk_50 (dk_at dksX1_canWin_5 9 rfl rfl)
theorem dX1_canWin_126 : decode cX1_canWin 126 = .ok (.invokevirtual 272, 3) := dk_182 1 16 (dk_at dksX1_canWin_5 10 rfl rfl)
theorem dX1_canWin_129 : decode cX1_canWin 129 = .ok (.aload_n 0, 1) := dk_42 (dk_at dksX1_canWin_5 13 rfl rfl)
theorem dX1_canWin_130 : decode cX1_canWin 130 = .ok (.getfield 111, 3) := dk_180 0 111 (dk_at dksX1_canWin_5 14 rfl rfl)
theorem dX1_canWin_133 : decode cX1_canWin 133 = .ok (.iload_n 3, 1) := dk_29 (dk_at dksX1_canWin_5 17 rfl rfl)
theorem dX1_canWin_134 : decode cX1_canWin 134 = .ok (.iload 5, 2) := dk_21 5 (dk_at dksX1_canWin_5 18 rfl rfl)
theorem dX1_canWin_136 : decode cX1_canWin 136 = .ok (.iastore, 1) := dk_79 (dk_at dksX1_canWin_5 20 rfl rfl)
theorem dX1_canWin_137 : decode cX1_canWin 137 = .ok (.aload_n 0, 1) := dk_42 (dk_at dksX1_canWin_5 21 rfl rfl)
theorem dX1_canWin_138 : decode cX1_canWin 138 = .ok (.aload 6, 2) := dk_25 6 (dk_at dksX1_canWin_5 22 rfl rfl)
theorem dX1_canWin_140 : decode cX1_canWin 140 = .ok (.iload_n 2, 1) := dk_28 (dk_at dksX1_canWin_6 0 rfl rfl)
theorem dX1_canWin_141 : decode cX1_canWin 141 = .ok (.iconst 1, 1) := dk_4 (dk_at dksX1_canWin_6 1 rfl rfl)
theorem dX1_canWin_142 : decode cX1_canWin 142 = .ok (.isub, 1) := dk_100 (dk_at dksX1_canWin_6 2 rfl rfl)
theorem dX1_canWin_143 : decode cX1_canWin 143 = .ok (.iload_n 3, 1) := dk_29 (dk_at dksX1_canWin_6 3 rfl rfl)
theorem dX1_canWin_144 : decode cX1_canWin 144 = .ok (.iconst 1, 1) := dk_4 (dk_at dksX1_canWin_6 4 rfl rfl)
theorem dX1_canWin_145 : decode cX1_canWin 145 = .ok (.iadd, 1) := dk_96 (dk_at dksX1_canWin_6 5 rfl rfl)
theorem dX1_canWin_146 : decode cX1_canWin 146 = .ok (.invokevirtual 445, 3) := dk_182 1 189 (dk_at dksX1_canWin_6 6 rfl rfl)
theorem dX1_canWin_149 : decode cX1_canWin 149 = .ok (.ifCond .eq 5, 3) := dk_153 0 5 (dk_at dksX1_canWin_6 9 rfl rfl)
theorem dX1_canWin_152 : decode cX1_canWin 152 = .ok (.iconst 1, 1) := dk_4 (dk_at dksX1_canWin_6 12 rfl rfl)
theorem dX1_canWin_153 : decode cX1_canWin 153 = .ok (.ireturn, 1) := dk_172 (dk_at dksX1_canWin_6 13 rfl rfl)
theorem dX1_canWin_154 : decode cX1_canWin 154 = .ok (.iinc 5 1, 3) := dk_132 5 1 (dk_at dksX1_canWin_6 14 rfl rfl)
theorem dX1_canWin_157 : decode cX1_canWin 157 = .ok (.goto (-66), 3) := dk_167 255 190 (dk_at dksX1_canWin_6 17 rfl rfl)
theorem dX1_canWin_160 : decode cX1_canWin 160 = .ok (.iconst 0, 1) := dk_3 (dk_at dksX1_canWin_6 20 rfl rfl)
theorem dX1_canWin_161 : decode cX1_canWin 161 = .ok (.ireturn, 1) := dk_172 (dk_at dksX1_canWin_6 21 rfl rfl)
abbrev cX1_tried : ByteArray := prog_1_method_52_code
def yX1_tried : MethodName := ⟨RX1, "tried", "(ILBeggarHeaps$Game;)LBeggarHeaps$Game;"⟩
def dkwX1_tried_1 : List UInt8 := [180, 0, 114, 27, 50, 44, 182, 1, 75, 42, 180, 0, 114, 27, 50, 176]
abbrev dktX1_tried_1 : List UInt8 := dkwX1_tried_1 ++ []
def dkwX1_tried_0 : List UInt8 := [42, 180, 0, 114, 27, 50, 199, 0, 16, 42, 180, 0, 114, 27, 187, 0, 77, 89, 183, 0, 79, 83, 42]
abbrev dktX1_tried_0 : List UInt8 := dkwX1_tried_0 ++ dktX1_tried_1
theorem dksX1_tried_0 : cX1_tried.data.toList.drop 0 = dktX1_tried_0 := by decide +kernel
theorem dksX1_tried_1 : cX1_tried.data.toList.drop 23 = dktX1_tried_1 := dk_seg dksX1_tried_0 23 rfl rfl
theorem dX1_tried_0 : decode cX1_tried 0 = .ok (.aload_n 0, 1) := dk_42 (dk_at dksX1_tried_0 0 rfl rfl)
theorem dX1_tried_1 : decode cX1_tried 1 = .ok (.getfield 114, 3) := dk_180 0 114 (dk_at dksX1_tried_0 1 rfl rfl)
theorem dX1_tried_4 : decode cX1_tried 4 = .ok (.iload_n 1, 1) := dk_27 (dk_at dksX1_tried_0 4 rfl rfl)
theorem dX1_tried_5 : decode cX1_tried 5 = .ok (.aaload, 1) := dk_50 (dk_at dksX1_tried_0 5 rfl rfl)
theorem dX1_tried_6 : decode cX1_tried 6 = .ok (.ifnonnull 16, 3) := dk_199 0 16 (dk_at dksX1_tried_0 6 rfl rfl)
theorem dX1_tried_9 : decode cX1_tried 9 = .ok (.aload_n 0, 1) := dk_42 (dk_at dksX1_tried_0 9 rfl rfl)
theorem dX1_tried_10 : decode cX1_tried 10 = .ok (.getfield 114, 3) := dk_180 0 114 (dk_at dksX1_tried_0 10 rfl rfl)
theorem dX1_tried_13 : decode cX1_tried 13 = .ok (.iload_n 1, 1) := dk_27 (dk_at dksX1_tried_0 13 rfl rfl)
theorem dX1_tried_14 : decode cX1_tried 14 = .ok (.new 77, 3) := dk_187 0 77 (dk_at dksX1_tried_0 14 rfl rfl)
theorem dX1_tried_17 : decode cX1_tried 17 = .ok (.dup, 1) := dk_89 (dk_at dksX1_tried_0 17 rfl rfl)
theorem dX1_tried_18 : decode cX1_tried 18 = .ok (.invokespecial 79, 3) := dk_183 0 79 (dk_at dksX1_tried_0 18 rfl rfl)
theorem dX1_tried_21 : decode cX1_tried 21 = .ok (.aastore, 1) := dk_83 (dk_at dksX1_tried_0 21 rfl rfl)
theorem dX1_tried_22 : decode cX1_tried 22 = .ok (.aload_n 0, 1) := dk_42 (dk_at dksX1_tried_0 22 rfl rfl)
theorem dX1_tried_23 : decode cX1_tried 23 = .ok (.getfield 114, 3) := dk_180 0 114 (dk_at dksX1_tried_1 0 rfl rfl)
theorem dX1_tried_26 : decode cX1_tried 26 = .ok (.iload_n 1, 1) := dk_27 (dk_at dksX1_tried_1 3 rfl rfl)
theorem dX1_tried_27 : decode cX1_tried 27 = .ok (.aaload, 1) := dk_50 (dk_at dksX1_tried_1 4 rfl rfl)
theorem dX1_tried_28 : decode cX1_tried 28 = .ok (.aload_n 2, 1) := dk_44 (dk_at dksX1_tried_1 5 rfl rfl)
theorem dX1_tried_29 : decode cX1_tried 29 = .ok (.invokevirtual 331, 3) := dk_182 1 75 (dk_at dksX1_tried_1 6 rfl rfl)
theorem dX1_tried_32 : decode cX1_tried 32 = .ok (.aload_n 0, 1) := dk_42 (dk_at dksX1_tried_1 9 rfl rfl)
theorem dX1_tried_33 : decode cX1_tried 33 = .ok (.getfield 114, 3) := dk_180 0 114 (dk_at dksX1_tried_1 10 rfl rfl)
theorem dX1_tried_36 : decode cX1_tried 36 = .ok (.iload_n 1, 1) := dk_27 (dk_at dksX1_tried_1 13 rfl rfl)
theorem dX1_tried_37 : decode cX1_tried 37 = .ok (.aaload, 1) := dk_50 (dk_at dksX1_tried_1 14 rfl rfl)
theorem dX1_tried_38 : decode cX1_tried 38 = .ok (.areturn, 1) := dk_176 (dk_at dksX1_tried_1 15 rfl rfl)
abbrev cX1_goesToHeap : ByteArray := prog_1_method_53_code
def yX1_goesToHeap : MethodName := ⟨RX1, "goesToHeap", "(LBeggarHeaps$Game;)Z"⟩
def dkwX1_goesToHeap_1 : List UInt8 := [172]
abbrev dktX1_goesToHeap_1 : List UInt8 := dkwX1_goesToHeap_1 ++ []
def dkwX1_goesToHeap_0 : List UInt8 := [43, 180, 1, 28, 156, 0, 19, 43, 42, 180, 0, 64, 180, 0, 198, 182, 1, 43, 153, 255, 238, 4, 172, 3]
abbrev dktX1_goesToHeap_0 : List UInt8 := dkwX1_goesToHeap_0 ++ dktX1_goesToHeap_1
theorem dksX1_goesToHeap_0 : cX1_goesToHeap.data.toList.drop 0 = dktX1_goesToHeap_0 := by decide +kernel
theorem dksX1_goesToHeap_1 : cX1_goesToHeap.data.toList.drop 24 = dktX1_goesToHeap_1 := dk_seg dksX1_goesToHeap_0 24 rfl rfl
theorem dX1_goesToHeap_0 : decode cX1_goesToHeap 0 = .ok (.aload_n 1, 1) := dk_43 (dk_at dksX1_goesToHeap_0 0 rfl rfl)
theorem dX1_goesToHeap_1 : decode cX1_goesToHeap 1 = .ok (.getfield 284, 3) := dk_180 1 28 (dk_at dksX1_goesToHeap_0 1 rfl rfl)
theorem dX1_goesToHeap_4 : decode cX1_goesToHeap 4 = .ok (.ifCond .ge 19, 3) := dk_156 0 19 (dk_at dksX1_goesToHeap_0 4 rfl rfl)
theorem dX1_goesToHeap_7 : decode cX1_goesToHeap 7 = .ok (.aload_n 1, 1) := dk_43 (dk_at dksX1_goesToHeap_0 7 rfl rfl)
theorem dX1_goesToHeap_8 : decode cX1_goesToHeap 8 = .ok (.aload_n 0, 1) := dk_42 (dk_at dksX1_goesToHeap_0 8 rfl rfl)
theorem dX1_goesToHeap_9 : decode cX1_goesToHeap 9 = .ok (.getfield 64, 3) := dk_180 0 64 (dk_at dksX1_goesToHeap_0 9 rfl rfl)
theorem dX1_goesToHeap_12 : decode cX1_goesToHeap 12 = .ok (.getfield 198, 3) := dk_180 0 198 (dk_at dksX1_goesToHeap_0 12 rfl rfl)
theorem dX1_goesToHeap_15 : decode cX1_goesToHeap 15 = .ok (.invokevirtual 299, 3) := dk_182 1 43 (dk_at dksX1_goesToHeap_0 15 rfl rfl)
theorem dX1_goesToHeap_18 : decode cX1_goesToHeap 18 = .ok (.ifCond .eq (-18), 3) := dk_153 255 238 (dk_at dksX1_goesToHeap_0 18 rfl rfl)
theorem dX1_goesToHeap_21 : decode cX1_goesToHeap 21 = .ok (.iconst 1, 1) := dk_4 (dk_at dksX1_goesToHeap_0 21 rfl rfl)
theorem dX1_goesToHeap_22 : decode cX1_goesToHeap 22 = .ok (.ireturn, 1) := dk_172 (dk_at dksX1_goesToHeap_0 22 rfl rfl)
theorem dX1_goesToHeap_23 : decode cX1_goesToHeap 23 = .ok (.iconst 0, 1) := dk_3 (dk_at dksX1_goesToHeap_0 23 rfl rfl)
theorem dX1_goesToHeap_24 : decode cX1_goesToHeap 24 = .ok (.ireturn, 1) := dk_172 (dk_at dksX1_goesToHeap_1 0 rfl rfl)
abbrev cX1_both : ByteArray := prog_1_method_57_code
def yX1_both : MethodName := ⟨RX1, "both", "(I)I"⟩
def dkwX1_both_1 : List UInt8 := [42, 180, 0, 80, 27, 182, 1, 193, 153, 0, 7, 4, 167, 0, 4, 3, 172]
abbrev dktX1_both_1 : List UInt8 := dkwX1_both_1 ++ []
def dkwX1_both_0 : List UInt8 := [27, 4, 7, 184, 0, 190, 153, 0, 13, 42, 180, 0, 80, 180, 1, 10, 153, 0, 7, 2, 167, 0, 20, 42]
abbrev dktX1_both_0 : List UInt8 := dkwX1_both_0 ++ dktX1_both_1
theorem dksX1_both_0 : cX1_both.data.toList.drop 0 = dktX1_both_0 := by decide +kernel
theorem dksX1_both_1 : cX1_both.data.toList.drop 24 = dktX1_both_1 := dk_seg dksX1_both_0 24 rfl rfl
theorem dX1_both_0 : decode cX1_both 0 = .ok (.iload_n 1, 1) := dk_27 (dk_at dksX1_both_0 0 rfl rfl)
theorem dX1_both_1 : decode cX1_both 1 = .ok (.iconst 1, 1) := dk_4 (dk_at dksX1_both_0 1 rfl rfl)
theorem dX1_both_2 : decode cX1_both 2 = .ok (.iconst 4, 1) := dk_7 (dk_at dksX1_both_0 2 rfl rfl)
theorem dX1_both_3 : decode cX1_both 3 = .ok (.invokestatic 190, 3) := dk_184 0 190 (dk_at dksX1_both_0 3 rfl rfl)
theorem dX1_both_6 : decode cX1_both 6 = .ok (.ifCond .eq 13, 3) := dk_153 0 13 (dk_at dksX1_both_0 6 rfl rfl)
theorem dX1_both_9 : decode cX1_both 9 = .ok (.aload_n 0, 1) := dk_42 (dk_at dksX1_both_0 9 rfl rfl)
theorem dX1_both_10 : decode cX1_both 10 = .ok (.getfield 80, 3) := dk_180 0 80 (dk_at dksX1_both_0 10 rfl rfl)
theorem dX1_both_13 : decode cX1_both 13 = .ok (.getfield 266, 3) := dk_180 1 10 (dk_at dksX1_both_0 13 rfl rfl)
theorem dX1_both_16 : decode cX1_both 16 = .ok (.ifCond .eq 7, 3) := dk_153 0 7 (dk_at dksX1_both_0 16 rfl rfl)
theorem dX1_both_19 : decode cX1_both 19 = .ok (.iconst (-1), 1) := dk_2 (dk_at dksX1_both_0 19 rfl rfl)
theorem dX1_both_20 : decode cX1_both 20 = .ok (.goto 20, 3) := dk_167 0 20 (dk_at dksX1_both_0 20 rfl rfl)
theorem dX1_both_23 : decode cX1_both 23 = .ok (.aload_n 0, 1) := dk_42 (dk_at dksX1_both_0 23 rfl rfl)
theorem dX1_both_24 : decode cX1_both 24 = .ok (.aload_n 0, 1) := dk_42 (dk_at dksX1_both_1 0 rfl rfl)
theorem dX1_both_25 : decode cX1_both 25 = .ok (.getfield 80, 3) := dk_180 0 80 (dk_at dksX1_both_1 1 rfl rfl)
theorem dX1_both_28 : decode cX1_both 28 = .ok (.iload_n 1, 1) := dk_27 (dk_at dksX1_both_1 4 rfl rfl)
theorem dX1_both_29 : decode cX1_both 29 = .ok (.invokevirtual 449, 3) := dk_182 1 193 (dk_at dksX1_both_1 5 rfl rfl)
theorem dX1_both_32 : decode cX1_both 32 = .ok (.ifCond .eq 7, 3) := dk_153 0 7 (dk_at dksX1_both_1 8 rfl rfl)
theorem dX1_both_35 : decode cX1_both 35 = .ok (.iconst 1, 1) := dk_4 (dk_at dksX1_both_1 11 rfl rfl)
theorem dX1_both_36 : decode cX1_both 36 = .ok (.goto 4, 3) := dk_167 0 4 (dk_at dksX1_both_1 12 rfl rfl)
theorem dX1_both_39 : decode cX1_both 39 = .ok (.iconst 0, 1) := dk_3 (dk_at dksX1_both_1 15 rfl rfl)
theorem dX1_both_40 : decode cX1_both 40 = .ok (.ireturn, 1) := dk_172 (dk_at dksX1_both_1 16 rfl rfl)
abbrev cX1_must : ByteArray := prog_1_method_56_code
def yX1_must : MethodName := ⟨RX1, "must", "(LBeggarHeaps$Game;I)Z"⟩
def dkwX1_must_5 : List UInt8 := [167, 0, 4, 3, 172]
abbrev dktX1_must_5 : List UInt8 := dkwX1_must_5 ++ []
def dkwX1_must_4 : List UInt8 := [100, 182, 1, 193, 21, 4, 160, 0, 6, 21, 4, 172, 132, 5, 1, 167, 255, 199, 21, 4, 154, 0, 7, 4]
abbrev dktX1_must_4 : List UInt8 := dkwX1_must_4 ++ dktX1_must_5
def dkwX1_must_3 : List UInt8 := [25, 6, 42, 180, 0, 64, 180, 0, 198, 42, 180, 0, 48, 21, 5, 50, 182, 1, 16, 42, 25, 6, 28, 4]
abbrev dktX1_must_3 : List UInt8 := dkwX1_must_3 ++ dktX1_must_4
def dkwX1_must_2 : List UInt8 := [54, 4, 3, 54, 5, 21, 5, 8, 162, 0, 57, 42, 5, 28, 104, 4, 96, 45, 182, 1, 179, 58, 6]
abbrev dktX1_must_2 : List UInt8 := dkwX1_must_2 ++ dktX1_must_3
def dkwX1_must_1 : List UInt8 := [4, 167, 0, 4, 3, 172, 28, 154, 0, 5, 3, 172, 45, 180, 0, 255, 154, 0, 7, 4, 167, 0, 4, 3]
abbrev dktX1_must_1 : List UInt8 := dkwX1_must_1 ++ dktX1_must_2
def dkwX1_must_0 : List UInt8 := [42, 5, 28, 104, 43, 182, 1, 179, 78, 42, 45, 182, 1, 182, 154, 0, 16, 45, 180, 1, 28, 154, 0, 7]
abbrev dktX1_must_0 : List UInt8 := dkwX1_must_0 ++ dktX1_must_1
theorem dksX1_must_0 : cX1_must.data.toList.drop 0 = dktX1_must_0 := by decide +kernel
theorem dksX1_must_1 : cX1_must.data.toList.drop 24 = dktX1_must_1 := dk_seg dksX1_must_0 24 rfl rfl
theorem dksX1_must_2 : cX1_must.data.toList.drop 48 = dktX1_must_2 := dk_seg dksX1_must_1 24 rfl rfl
theorem dksX1_must_3 : cX1_must.data.toList.drop 71 = dktX1_must_3 := dk_seg dksX1_must_2 23 rfl rfl
theorem dksX1_must_4 : cX1_must.data.toList.drop 95 = dktX1_must_4 := dk_seg dksX1_must_3 24 rfl rfl
theorem dksX1_must_5 : cX1_must.data.toList.drop 119 = dktX1_must_5 := dk_seg dksX1_must_4 24 rfl rfl
theorem dX1_must_0 : decode cX1_must 0 = .ok (.aload_n 0, 1) := dk_42 (dk_at dksX1_must_0 0 rfl rfl)
theorem dX1_must_1 : decode cX1_must 1 = .ok (.iconst 2, 1) := dk_5 (dk_at dksX1_must_0 1 rfl rfl)
theorem dX1_must_2 : decode cX1_must 2 = .ok (.iload_n 2, 1) := dk_28 (dk_at dksX1_must_0 2 rfl rfl)
theorem dX1_must_3 : decode cX1_must 3 = .ok (.imul, 1) := dk_104 (dk_at dksX1_must_0 3 rfl rfl)
theorem dX1_must_4 : decode cX1_must 4 = .ok (.aload_n 1, 1) := dk_43 (dk_at dksX1_must_0 4 rfl rfl)
theorem dX1_must_5 : decode cX1_must 5 = .ok (.invokevirtual 435, 3) := dk_182 1 179 (dk_at dksX1_must_0 5 rfl rfl)
theorem dX1_must_8 : decode cX1_must 8 = .ok (.astore_n 3, 1) := dk_78 (dk_at dksX1_must_0 8 rfl rfl)
theorem dX1_must_9 : decode cX1_must 9 = .ok (.aload_n 0, 1) := dk_42 (dk_at dksX1_must_0 9 rfl rfl)
theorem dX1_must_10 : decode cX1_must 10 = .ok (.aload_n 3, 1) := dk_45 (dk_at dksX1_must_0 10 rfl rfl)
theorem dX1_must_11 : decode cX1_must 11 = .ok (.invokevirtual 438, 3) := dk_182 1 182 (dk_at dksX1_must_0 11 rfl rfl)
theorem dX1_must_14 : decode cX1_must 14 = .ok (.ifCond .ne 16, 3) := dk_154 0 16 (dk_at dksX1_must_0 14 rfl rfl)
theorem dX1_must_17 : decode cX1_must 17 = .ok (.aload_n 3, 1) := dk_45 (dk_at dksX1_must_0 17 rfl rfl)
theorem dX1_must_18 : decode cX1_must 18 = .ok (.getfield 284, 3) := dk_180 1 28 (dk_at dksX1_must_0 18 rfl rfl)
theorem dX1_must_21 : decode cX1_must 21 = .ok (.ifCond .ne 7, 3) := dk_154 0 7 (dk_at dksX1_must_0 21 rfl rfl)
theorem dX1_must_24 : decode cX1_must 24 = .ok (.iconst 1, 1) := dk_4 (dk_at dksX1_must_1 0 rfl rfl)
theorem dX1_must_25 : decode cX1_must 25 = .ok (.goto 4, 3) := dk_167 0 4 (dk_at dksX1_must_1 1 rfl rfl)
theorem dX1_must_28 : decode cX1_must 28 = .ok (.iconst 0, 1) := dk_3 (dk_at dksX1_must_1 4 rfl rfl)
theorem dX1_must_29 : decode cX1_must 29 = .ok (.ireturn, 1) := dk_172 (dk_at dksX1_must_1 5 rfl rfl)
theorem dX1_must_30 : decode cX1_must 30 = .ok (.iload_n 2, 1) := dk_28 (dk_at dksX1_must_1 6 rfl rfl)
theorem dX1_must_31 : decode cX1_must 31 = .ok (.ifCond .ne 5, 3) := dk_154 0 5 (dk_at dksX1_must_1 7 rfl rfl)
theorem dX1_must_34 : decode cX1_must 34 = .ok (.iconst 0, 1) := dk_3 (dk_at dksX1_must_1 10 rfl rfl)
theorem dX1_must_35 : decode cX1_must 35 = .ok (.ireturn, 1) := dk_172 (dk_at dksX1_must_1 11 rfl rfl)
theorem dX1_must_36 : decode cX1_must 36 = .ok (.aload_n 3, 1) := dk_45 (dk_at dksX1_must_1 12 rfl rfl)
theorem dX1_must_37 : decode cX1_must 37 = .ok (.getfield 255, 3) := dk_180 0 255 (dk_at dksX1_must_1 13 rfl rfl)
theorem dX1_must_40 : decode cX1_must 40 = .ok (.ifCond .ne 7, 3) := dk_154 0 7 (dk_at dksX1_must_1 16 rfl rfl)
theorem dX1_must_43 : decode cX1_must 43 = .ok (.iconst 1, 1) := dk_4 (dk_at dksX1_must_1 19 rfl rfl)
theorem dX1_must_44 : decode cX1_must 44 = .ok (.goto 4, 3) := dk_167 0 4 (dk_at dksX1_must_1 20 rfl rfl)
theorem dX1_must_47 : decode cX1_must 47 = .ok (.iconst 0, 1) := dk_3 (dk_at dksX1_must_1 23 rfl rfl)
theorem dX1_must_48 : decode cX1_must 48 = .ok (.istore 4, 2) := dk_54 4 (dk_at dksX1_must_2 0 rfl rfl)
theorem dX1_must_50 : decode cX1_must 50 = .ok (.iconst 0, 1) := dk_3 (dk_at dksX1_must_2 2 rfl rfl)
theorem dX1_must_51 : decode cX1_must 51 = .ok (.istore 5, 2) := dk_54 5 (dk_at dksX1_must_2 3 rfl rfl)
theorem dX1_must_53 : decode cX1_must 53 = .ok (.iload 5, 2) := dk_21 5 (dk_at dksX1_must_2 5 rfl rfl)
theorem dX1_must_55 : decode cX1_must 55 = .ok (.iconst 5, 1) := dk_8 (dk_at dksX1_must_2 7 rfl rfl)
theorem dX1_must_56 : decode cX1_must 56 = .ok (.if_icmp .ge 57, 3) := dk_162 0 57 (dk_at dksX1_must_2 8 rfl rfl)
theorem dX1_must_59 : decode cX1_must 59 = .ok (.aload_n 0, 1) := dk_42 (dk_at dksX1_must_2 11 rfl rfl)
theorem dX1_must_60 : decode cX1_must 60 = .ok (.iconst 2, 1) := dk_5 (dk_at dksX1_must_2 12 rfl rfl)
theorem dX1_must_61 : decode cX1_must 61 = .ok (.iload_n 2, 1) := dk_28 (dk_at dksX1_must_2 13 rfl rfl)
theorem dX1_must_62 : decode cX1_must 62 = .ok (.imul, 1) := dk_104 (dk_at dksX1_must_2 14 rfl rfl)
theorem dX1_must_63 : decode cX1_must 63 = .ok (.iconst 1, 1) := dk_4 (dk_at dksX1_must_2 15 rfl rfl)
theorem dX1_must_64 : decode cX1_must 64 = .ok (.iadd, 1) := dk_96 (dk_at dksX1_must_2 16 rfl rfl)
theorem dX1_must_65 : decode cX1_must 65 = .ok (.aload_n 3, 1) := dk_45 (dk_at dksX1_must_2 17 rfl rfl)
theorem dX1_must_66 : decode cX1_must 66 = .ok (.invokevirtual 435, 3) := dk_182 1 179 (dk_at dksX1_must_2 18 rfl rfl)
theorem dX1_must_69 : decode cX1_must 69 = .ok (.astore 6, 2) := dk_58 6 (dk_at dksX1_must_2 21 rfl rfl)
theorem dX1_must_71 : decode cX1_must 71 = .ok (.aload 6, 2) := dk_25 6 (dk_at dksX1_must_3 0 rfl rfl)
theorem dX1_must_73 : decode cX1_must 73 = .ok (.aload_n 0, 1) := dk_42 (dk_at dksX1_must_3 2 rfl rfl)
theorem dX1_must_74 : decode cX1_must 74 = .ok (.getfield 64, 3) := dk_180 0 64 (dk_at dksX1_must_3 3 rfl rfl)
theorem dX1_must_77 : decode cX1_must 77 = .ok (.getfield 198, 3) := dk_180 0 198 (dk_at dksX1_must_3 6 rfl rfl)
theorem dX1_must_80 : decode cX1_must 80 = .ok (.aload_n 0, 1) := dk_42 (dk_at dksX1_must_3 9 rfl rfl)
theorem dX1_must_81 : decode cX1_must 81 = .ok (.getfield 48, 3) := dk_180 0 48 (dk_at dksX1_must_3 10 rfl rfl)
theorem dX1_must_84 : decode cX1_must 84 = .ok (.iload 5, 2) := dk_21 5 (dk_at dksX1_must_3 13 rfl rfl)
theorem dX1_must_86 : decode cX1_must 86 = .ok (.aaload, 1) := dk_50 (dk_at dksX1_must_3 15 rfl rfl)
theorem dX1_must_87 : decode cX1_must 87 = .ok (.invokevirtual 272, 3) := dk_182 1 16 (dk_at dksX1_must_3 16 rfl rfl)
theorem dX1_must_90 : decode cX1_must 90 = .ok (.aload_n 0, 1) := dk_42 (dk_at dksX1_must_3 19 rfl rfl)
theorem dX1_must_91 : decode cX1_must 91 = .ok (.aload 6, 2) := dk_25 6 (dk_at dksX1_must_3 20 rfl rfl)
theorem dX1_must_93 : decode cX1_must 93 = .ok (.iload_n 2, 1) := dk_28 (dk_at dksX1_must_3 22 rfl rfl)
theorem dX1_must_94 : decode cX1_must 94 = .ok (.iconst 1, 1) := dk_4 (dk_at dksX1_must_3 23 rfl rfl)
theorem dX1_must_95 : decode cX1_must 95 = .ok (.isub, 1) := dk_100 (dk_at dksX1_must_4 0 rfl rfl)
theorem dX1_must_96 : decode cX1_must 96 = .ok (.invokevirtual 449, 3) := dk_182 1 193 (dk_at dksX1_must_4 1 rfl rfl)
theorem dX1_must_99 : decode cX1_must 99 = .ok (.iload 4, 2) := dk_21 4 (dk_at dksX1_must_4 4 rfl rfl)
theorem dX1_must_101 : decode cX1_must 101 = .ok (.if_icmp .ne 6, 3) := dk_160 0 6 (dk_at dksX1_must_4 6 rfl rfl)
theorem dX1_must_104 : decode cX1_must 104 = .ok (.iload 4, 2) := dk_21 4 (dk_at dksX1_must_4 9 rfl rfl)
theorem dX1_must_106 : decode cX1_must 106 = .ok (.ireturn, 1) := dk_172 (dk_at dksX1_must_4 11 rfl rfl)
theorem dX1_must_107 : decode cX1_must 107 = .ok (.iinc 5 1, 3) := dk_132 5 1 (dk_at dksX1_must_4 12 rfl rfl)
theorem dX1_must_110 : decode cX1_must 110 = .ok (.goto (-57), 3) := dk_167 255 199 (dk_at dksX1_must_4 15 rfl rfl)
theorem dX1_must_113 : decode cX1_must 113 = .ok (.iload 4, 2) := dk_21 4 (dk_at dksX1_must_4 18 rfl rfl)
theorem dX1_must_115 : decode cX1_must 115 = .ok (.ifCond .ne 7, 3) := dk_154 0 7 (dk_at dksX1_must_4 20 rfl rfl)
theorem dX1_must_118 : decode cX1_must 118 = .ok (.iconst 1, 1) := dk_4 (dk_at dksX1_must_4 23 rfl rfl)
theorem dX1_must_119 : decode cX1_must 119 = .ok (.goto 4, 3) := dk_167 0 4 (dk_at dksX1_must_5 0 rfl rfl)
theorem dX1_must_122 : decode cX1_must 122 = .ok (.iconst 0, 1) := dk_3 (dk_at dksX1_must_5 3 rfl rfl)
theorem dX1_must_123 : decode cX1_must 123 = .ok (.ireturn, 1) := dk_172 (dk_at dksX1_must_5 4 rfl rfl)
abbrev cX1_opening : ByteArray := prog_1_method_59_code
def yX1_opening : MethodName := ⟨RX1, "opening", "(I)I"⟩
def dkwX1_opening_4 : List UInt8 := [28, 172]
abbrev dktX1_opening_4 : List UInt8 := dkwX1_opening_4 ++ []
def dkwX1_opening_3 : List UInt8 := [27, 153, 0, 14, 25, 4, 180, 1, 206, 27, 4, 100, 160, 0, 6, 132, 2, 1, 132, 3, 1, 167, 255, 181]
abbrev dktX1_opening_3 : List UInt8 := dkwX1_opening_3 ++ dktX1_opening_4
def dkwX1_opening_2 : List UInt8 := [180, 0, 90, 184, 1, 201, 153, 0, 36, 25, 4, 180, 1, 204, 42, 180, 0, 94, 184, 1, 201, 153, 0, 21]
abbrev dktX1_opening_2 : List UInt8 := dkwX1_opening_2 ++ dktX1_opening_3
def dkwX1_opening_1 : List UInt8 := [162, 0, 70, 42, 180, 0, 73, 29, 182, 0, 222, 192, 1, 197, 58, 4, 25, 4, 180, 1, 199, 42]
abbrev dktX1_opening_1 : List UInt8 := dkwX1_opening_1 ++ dktX1_opening_2
def dkwX1_opening_0 : List UInt8 := [27, 3, 6, 184, 0, 190, 154, 0, 5, 2, 172, 3, 61, 3, 62, 29, 42, 180, 0, 73, 182, 0, 185]
abbrev dktX1_opening_0 : List UInt8 := dkwX1_opening_0 ++ dktX1_opening_1
theorem dksX1_opening_0 : cX1_opening.data.toList.drop 0 = dktX1_opening_0 := by decide +kernel
theorem dksX1_opening_1 : cX1_opening.data.toList.drop 23 = dktX1_opening_1 := dk_seg dksX1_opening_0 23 rfl rfl
theorem dksX1_opening_2 : cX1_opening.data.toList.drop 45 = dktX1_opening_2 := dk_seg dksX1_opening_1 22 rfl rfl
theorem dksX1_opening_3 : cX1_opening.data.toList.drop 69 = dktX1_opening_3 := dk_seg dksX1_opening_2 24 rfl rfl
theorem dksX1_opening_4 : cX1_opening.data.toList.drop 93 = dktX1_opening_4 := dk_seg dksX1_opening_3 24 rfl rfl
theorem dX1_opening_0 : decode cX1_opening 0 = .ok (.iload_n 1, 1) := dk_27 (dk_at dksX1_opening_0 0 rfl rfl)
theorem dX1_opening_1 : decode cX1_opening 1 = .ok (.iconst 0, 1) := dk_3 (dk_at dksX1_opening_0 1 rfl rfl)
theorem dX1_opening_2 : decode cX1_opening 2 = .ok (.iconst 3, 1) := dk_6 (dk_at dksX1_opening_0 2 rfl rfl)
theorem dX1_opening_3 : decode cX1_opening 3 = .ok (.invokestatic 190, 3) := dk_184 0 190 (dk_at dksX1_opening_0 3 rfl rfl)
theorem dX1_opening_6 : decode cX1_opening 6 = .ok (.ifCond .ne 5, 3) := dk_154 0 5 (dk_at dksX1_opening_0 6 rfl rfl)
theorem dX1_opening_9 : decode cX1_opening 9 = .ok (.iconst (-1), 1) := dk_2 (dk_at dksX1_opening_0 9 rfl rfl)
theorem dX1_opening_10 : decode cX1_opening 10 = .ok (.ireturn, 1) := dk_172 (dk_at dksX1_opening_0 10 rfl rfl)
theorem dX1_opening_11 : decode cX1_opening 11 = .ok (.iconst 0, 1) := dk_3 (dk_at dksX1_opening_0 11 rfl rfl)
theorem dX1_opening_12 : decode cX1_opening 12 = .ok (.istore_n 2, 1) := dk_61 (dk_at dksX1_opening_0 12 rfl rfl)
theorem dX1_opening_13 : decode cX1_opening 13 = .ok (.iconst 0, 1) := dk_3 (dk_at dksX1_opening_0 13 rfl rfl)
theorem dX1_opening_14 : decode cX1_opening 14 = .ok (.istore_n 3, 1) := dk_62 (dk_at dksX1_opening_0 14 rfl rfl)
theorem dX1_opening_15 : decode cX1_opening 15 = .ok (.iload_n 3, 1) := dk_29 (dk_at dksX1_opening_0 15 rfl rfl)
theorem dX1_opening_16 : decode cX1_opening 16 = .ok (.aload_n 0, 1) := dk_42 (dk_at dksX1_opening_0 16 rfl rfl)
theorem dX1_opening_17 : decode cX1_opening 17 = .ok (.getfield 73, 3) := dk_180 0 73 (dk_at dksX1_opening_0 17 rfl rfl)
theorem dX1_opening_20 : decode cX1_opening 20 = .ok (.invokevirtual 185, 3) := dk_182 0 185 (dk_at dksX1_opening_0 20 rfl rfl)
theorem dX1_opening_23 : decode cX1_opening 23 = .ok (.if_icmp .ge 70, 3) := dk_162 0 70 (dk_at dksX1_opening_1 0 rfl rfl)
theorem dX1_opening_26 : decode cX1_opening 26 = .ok (.aload_n 0, 1) := dk_42 (dk_at dksX1_opening_1 3 rfl rfl)
theorem dX1_opening_27 : decode cX1_opening 27 = .ok (.getfield 73, 3) := dk_180 0 73 (dk_at dksX1_opening_1 4 rfl rfl)
theorem dX1_opening_30 : decode cX1_opening 30 = .ok (.iload_n 3, 1) := dk_29 (dk_at dksX1_opening_1 7 rfl rfl)
theorem dX1_opening_31 : decode cX1_opening 31 = .ok (.invokevirtual 222, 3) := dk_182 0 222 (dk_at dksX1_opening_1 8 rfl rfl)
theorem dX1_opening_34 : decode cX1_opening 34 = .ok (.checkcast 453, 3) := dk_192 1 197 (dk_at dksX1_opening_1 11 rfl rfl)
theorem dX1_opening_37 : decode cX1_opening 37 = .ok (.astore 4, 2) := dk_58 4 (dk_at dksX1_opening_1 14 rfl rfl)
theorem dX1_opening_39 : decode cX1_opening 39 = .ok (.aload 4, 2) := dk_25 4 (dk_at dksX1_opening_1 16 rfl rfl)
theorem dX1_opening_41 : decode cX1_opening 41 = .ok (.getfield 455, 3) := dk_180 1 199 (dk_at dksX1_opening_1 18 rfl rfl)
theorem dX1_opening_44 : decode cX1_opening 44 = .ok (.aload_n 0, 1) := dk_42 (dk_at dksX1_opening_1 21 rfl rfl)
theorem dX1_opening_45 : decode cX1_opening 45 = .ok (.getfield 90, 3) := dk_180 0 90 (dk_at dksX1_opening_2 0 rfl rfl)
theorem dX1_opening_48 : decode cX1_opening 48 = .ok (.invokestatic 457, 3) := dk_184 1 201 (dk_at dksX1_opening_2 3 rfl rfl)
theorem dX1_opening_51 : decode cX1_opening 51 = .ok (.ifCond .eq 36, 3) := dk_153 0 36 (dk_at dksX1_opening_2 6 rfl rfl)
theorem dX1_opening_54 : decode cX1_opening 54 = .ok (.aload 4, 2) := dk_25 4 (dk_at dksX1_opening_2 9 rfl rfl)
theorem dX1_opening_56 : decode cX1_opening 56 = .ok (.getfield 460, 3) := dk_180 1 204 (dk_at dksX1_opening_2 11 rfl rfl)
theorem dX1_opening_59 : decode cX1_opening 59 = .ok (.aload_n 0, 1) := dk_42 (dk_at dksX1_opening_2 14 rfl rfl)
theorem dX1_opening_60 : decode cX1_opening 60 = .ok (.getfield 94, 3) := dk_180 0 94 (dk_at dksX1_opening_2 15 rfl rfl)
theorem dX1_opening_63 : decode cX1_opening 63 = .ok (.invokestatic 457, 3) := dk_184 1 201 (dk_at dksX1_opening_2 18 rfl rfl)
theorem dX1_opening_66 : decode cX1_opening 66 = .ok (.ifCond .eq 21, 3) := dk_153 0 21 (dk_at dksX1_opening_2 21 rfl rfl)
theorem dX1_opening_69 : decode cX1_opening 69 = .ok (.iload_n 1, 1) := dk_27 (dk_at dksX1_opening_3 0 rfl rfl)
theorem dX1_opening_70 : decode cX1_opening 70 = .ok (.ifCond .eq 14, 3) := dk_153 0 14 (dk_at dksX1_opening_3 1 rfl rfl)
theorem dX1_opening_73 : decode cX1_opening 73 = .ok (.aload 4, 2) := dk_25 4 (dk_at dksX1_opening_3 4 rfl rfl)
theorem dX1_opening_75 : decode cX1_opening 75 = .ok (.getfield 462, 3) := dk_180 1 206 (dk_at dksX1_opening_3 6 rfl rfl)
theorem dX1_opening_78 : decode cX1_opening 78 = .ok (.iload_n 1, 1) := dk_27 (dk_at dksX1_opening_3 9 rfl rfl)
theorem dX1_opening_79 : decode cX1_opening 79 = .ok (.iconst 1, 1) := dk_4 (dk_at dksX1_opening_3 10 rfl rfl)
theorem dX1_opening_80 : decode cX1_opening 80 = .ok (.isub, 1) := dk_100 (dk_at dksX1_opening_3 11 rfl rfl)
theorem dX1_opening_81 : decode cX1_opening 81 = .ok (.if_icmp .ne 6, 3) := dk_160 0 6 (dk_at dksX1_opening_3 12 rfl rfl)
theorem dX1_opening_84 : decode cX1_opening 84 = .ok (.iinc 2 1, 3) := dk_132 2 1 (dk_at dksX1_opening_3 15 rfl rfl)
theorem dX1_opening_87 : decode cX1_opening 87 = .ok (.iinc 3 1, 3) := dk_132 3 1 (dk_at dksX1_opening_3 18 rfl rfl)
theorem dX1_opening_90 : decode cX1_opening 90 = .ok (.goto (-75), 3) := dk_167 255 181 (dk_at dksX1_opening_3 21 rfl rfl)
theorem dX1_opening_93 : decode cX1_opening 93 = .ok (.iload_n 2, 1) := dk_28 (dk_at dksX1_opening_4 0 rfl rfl)
theorem dX1_opening_94 : decode cX1_opening 94 = .ok (.ireturn, 1) := dk_172 (dk_at dksX1_opening_4 1 rfl rfl)
abbrev cX1_begins_2 : ByteArray := prog_1_method_58_code
def yX1_begins_2 : MethodName := ⟨RX1, "begins", "(LBeggarHeaps$Row;LBeggarHeaps$Row;)Z"⟩
def dkwX1_begins_2_1 : List UInt8 := [180, 0, 165, 28, 46, 43, 180, 0, 165, 28, 46, 159, 0, 5, 3, 172, 132, 2, 1, 167, 255, 228, 4, 172]
abbrev dktX1_begins_2_1 : List UInt8 := dkwX1_begins_2_1 ++ []
def dkwX1_begins_2_0 : List UInt8 := [42, 180, 0, 147, 43, 180, 0, 147, 164, 0, 5, 3, 172, 3, 61, 28, 42, 180, 0, 147, 162, 0, 26, 42]
abbrev dktX1_begins_2_0 : List UInt8 := dkwX1_begins_2_0 ++ dktX1_begins_2_1
theorem dksX1_begins_2_0 : cX1_begins_2.data.toList.drop 0 = dktX1_begins_2_0 := by decide +kernel
theorem dksX1_begins_2_1 : cX1_begins_2.data.toList.drop 24 = dktX1_begins_2_1 := dk_seg dksX1_begins_2_0 24 rfl rfl
theorem dX1_begins_2_0 : decode cX1_begins_2 0 = .ok (.aload_n 0, 1) := dk_42 (dk_at dksX1_begins_2_0 0 rfl rfl)
theorem dX1_begins_2_1 : decode cX1_begins_2 1 = .ok (.getfield 147, 3) := dk_180 0 147 (dk_at dksX1_begins_2_0 1 rfl rfl)
theorem dX1_begins_2_4 : decode cX1_begins_2 4 = .ok (.aload_n 1, 1) := dk_43 (dk_at dksX1_begins_2_0 4 rfl rfl)
theorem dX1_begins_2_5 : decode cX1_begins_2 5 = .ok (.getfield 147, 3) := dk_180 0 147 (dk_at dksX1_begins_2_0 5 rfl rfl)
theorem dX1_begins_2_8 : decode cX1_begins_2 8 = .ok (.if_icmp .le 5, 3) := dk_164 0 5 (dk_at dksX1_begins_2_0 8 rfl rfl)
theorem dX1_begins_2_11 : decode cX1_begins_2 11 = .ok (.iconst 0, 1) := dk_3 (dk_at dksX1_begins_2_0 11 rfl rfl)
theorem dX1_begins_2_12 : decode cX1_begins_2 12 = .ok (.ireturn, 1) := dk_172 (dk_at dksX1_begins_2_0 12 rfl rfl)
theorem dX1_begins_2_13 : decode cX1_begins_2 13 = .ok (.iconst 0, 1) := dk_3 (dk_at dksX1_begins_2_0 13 rfl rfl)
theorem dX1_begins_2_14 : decode cX1_begins_2 14 = .ok (.istore_n 2, 1) := dk_61 (dk_at dksX1_begins_2_0 14 rfl rfl)
theorem dX1_begins_2_15 : decode cX1_begins_2 15 = .ok (.iload_n 2, 1) := dk_28 (dk_at dksX1_begins_2_0 15 rfl rfl)
theorem dX1_begins_2_16 : decode cX1_begins_2 16 = .ok (.aload_n 0, 1) := dk_42 (dk_at dksX1_begins_2_0 16 rfl rfl)
theorem dX1_begins_2_17 : decode cX1_begins_2 17 = .ok (.getfield 147, 3) := dk_180 0 147 (dk_at dksX1_begins_2_0 17 rfl rfl)
theorem dX1_begins_2_20 : decode cX1_begins_2 20 = .ok (.if_icmp .ge 26, 3) := dk_162 0 26 (dk_at dksX1_begins_2_0 20 rfl rfl)
theorem dX1_begins_2_23 : decode cX1_begins_2 23 = .ok (.aload_n 0, 1) := dk_42 (dk_at dksX1_begins_2_0 23 rfl rfl)
theorem dX1_begins_2_24 : decode cX1_begins_2 24 = .ok (.getfield 165, 3) := dk_180 0 165 (dk_at dksX1_begins_2_1 0 rfl rfl)
theorem dX1_begins_2_27 : decode cX1_begins_2 27 = .ok (.iload_n 2, 1) := dk_28 (dk_at dksX1_begins_2_1 3 rfl rfl)
theorem dX1_begins_2_28 : decode cX1_begins_2 28 = .ok (.iaload, 1) := dk_46 (dk_at dksX1_begins_2_1 4 rfl rfl)
theorem dX1_begins_2_29 : decode cX1_begins_2 29 = .ok (.aload_n 1, 1) := dk_43 (dk_at dksX1_begins_2_1 5 rfl rfl)
theorem dX1_begins_2_30 : decode cX1_begins_2 30 = .ok (.getfield 165, 3) := dk_180 0 165 (dk_at dksX1_begins_2_1 6 rfl rfl)
theorem dX1_begins_2_33 : decode cX1_begins_2 33 = .ok (.iload_n 2, 1) := dk_28 (dk_at dksX1_begins_2_1 9 rfl rfl)
theorem dX1_begins_2_34 : decode cX1_begins_2 34 = .ok (.iaload, 1) := dk_46 (dk_at dksX1_begins_2_1 10 rfl rfl)
theorem dX1_begins_2_35 : decode cX1_begins_2 35 = .ok (.if_icmp .eq 5, 3) := dk_159 0 5 (dk_at dksX1_begins_2_1 11 rfl rfl)
theorem dX1_begins_2_38 : decode cX1_begins_2 38 = .ok (.iconst 0, 1) := dk_3 (dk_at dksX1_begins_2_1 14 rfl rfl)
theorem dX1_begins_2_39 : decode cX1_begins_2 39 = .ok (.ireturn, 1) := dk_172 (dk_at dksX1_begins_2_1 15 rfl rfl)
theorem dX1_begins_2_40 : decode cX1_begins_2 40 = .ok (.iinc 2 1, 3) := dk_132 2 1 (dk_at dksX1_begins_2_1 16 rfl rfl)
theorem dX1_begins_2_43 : decode cX1_begins_2 43 = .ok (.goto (-28), 3) := dk_167 255 228 (dk_at dksX1_begins_2_1 19 rfl rfl)
theorem dX1_begins_2_46 : decode cX1_begins_2 46 = .ok (.iconst 1, 1) := dk_4 (dk_at dksX1_begins_2_1 22 rfl rfl)
theorem dX1_begins_2_47 : decode cX1_begins_2 47 = .ok (.ireturn, 1) := dk_172 (dk_at dksX1_begins_2_1 23 rfl rfl)
abbrev cX1_comes : ByteArray := prog_1_method_60_code
def yX1_comes : MethodName := ⟨RX1, "comes", "(I)I"⟩
def dkwX1_comes_2 : List UInt8 := [4, 96, 181, 0, 249, 27, 79, 42, 180, 0, 80, 180, 0, 249, 172]
abbrev dktX1_comes_2 : List UInt8 := dkwX1_comes_2 ++ []
def dkwX1_comes_1 : List UInt8 := [184, 1, 166, 160, 0, 5, 2, 172, 42, 180, 0, 80, 180, 1, 207, 42, 180, 0, 80, 89, 180, 0, 249, 90]
abbrev dktX1_comes_1 : List UInt8 := dkwX1_comes_1 ++ dktX1_comes_2
def dkwX1_comes_0 : List UInt8 := [42, 27, 182, 0, 194, 153, 0, 25, 42, 180, 0, 80, 180, 0, 249, 16, 12, 42, 180, 0, 80, 180, 0, 246]
abbrev dktX1_comes_0 : List UInt8 := dkwX1_comes_0 ++ dktX1_comes_1
theorem dksX1_comes_0 : cX1_comes.data.toList.drop 0 = dktX1_comes_0 := by decide +kernel
theorem dksX1_comes_1 : cX1_comes.data.toList.drop 24 = dktX1_comes_1 := dk_seg dksX1_comes_0 24 rfl rfl
theorem dksX1_comes_2 : cX1_comes.data.toList.drop 48 = dktX1_comes_2 := dk_seg dksX1_comes_1 24 rfl rfl
theorem dX1_comes_0 : decode cX1_comes 0 = .ok (.aload_n 0, 1) := dk_42 (dk_at dksX1_comes_0 0 rfl rfl)
theorem dX1_comes_1 : decode cX1_comes 1 = .ok (.iload_n 1, 1) := dk_27 (dk_at dksX1_comes_0 1 rfl rfl)
theorem dX1_comes_2 : decode cX1_comes 2 = .ok (.invokevirtual 194, 3) := dk_182 0 194 (dk_at dksX1_comes_0 2 rfl rfl)
theorem dX1_comes_5 : decode cX1_comes 5 = .ok (.ifCond .eq 25, 3) := dk_153 0 25 (dk_at dksX1_comes_0 5 rfl rfl)
theorem dX1_comes_8 : decode cX1_comes 8 = .ok (.aload_n 0, 1) := dk_42 (dk_at dksX1_comes_0 8 rfl rfl)
theorem dX1_comes_9 : decode cX1_comes 9 = .ok (.getfield 80, 3) := dk_180 0 80 (dk_at dksX1_comes_0 9 rfl rfl)
theorem dX1_comes_12 : decode cX1_comes 12 = .ok (.getfield 249, 3) := dk_180 0 249 (dk_at dksX1_comes_0 12 rfl rfl)
theorem dX1_comes_15 : decode cX1_comes 15 = .ok (.bipush 12, 2) := dk_16 12 (dk_at dksX1_comes_0 15 rfl rfl)
theorem dX1_comes_17 : decode cX1_comes 17 = .ok (.aload_n 0, 1) := dk_42 (dk_at dksX1_comes_0 17 rfl rfl)
theorem dX1_comes_18 : decode cX1_comes 18 = .ok (.getfield 80, 3) := dk_180 0 80 (dk_at dksX1_comes_0 18 rfl rfl)
theorem dX1_comes_21 : decode cX1_comes 21 = .ok (.getfield 246, 3) := dk_180 0 246 (dk_at dksX1_comes_0 21 rfl rfl)
theorem dX1_comes_24 : decode cX1_comes 24 = .ok (.invokestatic 422, 3) := dk_184 1 166 (dk_at dksX1_comes_1 0 rfl rfl)
theorem dX1_comes_27 : decode cX1_comes 27 = .ok (.if_icmp .ne 5, 3) := dk_160 0 5 (dk_at dksX1_comes_1 3 rfl rfl)
theorem dX1_comes_30 : decode cX1_comes 30 = .ok (.iconst (-1), 1) := dk_2 (dk_at dksX1_comes_1 6 rfl rfl)
theorem dX1_comes_31 : decode cX1_comes 31 = .ok (.ireturn, 1) := dk_172 (dk_at dksX1_comes_1 7 rfl rfl)
theorem dX1_comes_32 : decode cX1_comes 32 = .ok (.aload_n 0, 1) := dk_42 (dk_at dksX1_comes_1 8 rfl rfl)
theorem dX1_comes_33 : decode cX1_comes 33 = .ok (.getfield 80, 3) := dk_180 0 80 (dk_at dksX1_comes_1 9 rfl rfl)
theorem dX1_comes_36 : decode cX1_comes 36 = .ok (.getfield 463, 3) := dk_180 1 207 (dk_at dksX1_comes_1 12 rfl rfl)
theorem dX1_comes_39 : decode cX1_comes 39 = .ok (.aload_n 0, 1) := dk_42 (dk_at dksX1_comes_1 15 rfl rfl)
theorem dX1_comes_40 : decode cX1_comes 40 = .ok (.getfield 80, 3) := dk_180 0 80 (dk_at dksX1_comes_1 16 rfl rfl)
theorem dX1_comes_43 : decode cX1_comes 43 = .ok (.dup, 1) := dk_89 (dk_at dksX1_comes_1 19 rfl rfl)
theorem dX1_comes_44 : decode cX1_comes 44 = .ok (.getfield 249, 3) := dk_180 0 249 (dk_at dksX1_comes_1 20 rfl rfl)
theorem dX1_comes_47 : decode cX1_comes 47 = .ok (.dup_x1, 1) := dk_90 (dk_at dksX1_comes_1 23 rfl rfl)
theorem dX1_comes_48 : decode cX1_comes 48 = .ok (.iconst 1, 1) := dk_4 (dk_at dksX1_comes_2 0 rfl rfl)
theorem dX1_comes_49 : decode cX1_comes 49 = .ok (.iadd, 1) := dk_96 (dk_at dksX1_comes_2 1 rfl rfl)
theorem dX1_comes_50 : decode cX1_comes 50 = .ok (.putfield 249, 3) := dk_181 0 249 (dk_at dksX1_comes_2 2 rfl rfl)
theorem dX1_comes_53 : decode cX1_comes 53 = .ok (.iload_n 1, 1) := dk_27 (dk_at dksX1_comes_2 5 rfl rfl)
theorem dX1_comes_54 : decode cX1_comes 54 = .ok (.iastore, 1) := dk_79 (dk_at dksX1_comes_2 6 rfl rfl)
theorem dX1_comes_55 : decode cX1_comes 55 = .ok (.aload_n 0, 1) := dk_42 (dk_at dksX1_comes_2 7 rfl rfl)
theorem dX1_comes_56 : decode cX1_comes 56 = .ok (.getfield 80, 3) := dk_180 0 80 (dk_at dksX1_comes_2 8 rfl rfl)
theorem dX1_comes_59 : decode cX1_comes 59 = .ok (.getfield 249, 3) := dk_180 0 249 (dk_at dksX1_comes_2 11 rfl rfl)
theorem dX1_comes_62 : decode cX1_comes 62 = .ok (.ireturn, 1) := dk_172 (dk_at dksX1_comes_2 14 rfl rfl)
abbrev cX1_clear : ByteArray := prog_1_method_62_code
def yX1_clear : MethodName := ⟨RX1, "clear", "()Z"⟩
def dkwX1_clear_0 : List UInt8 := [42, 180, 0, 80, 3, 181, 0, 249, 4, 172]
abbrev dktX1_clear_0 : List UInt8 := dkwX1_clear_0 ++ []
theorem dksX1_clear_0 : cX1_clear.data.toList.drop 0 = dktX1_clear_0 := by decide +kernel
theorem dX1_clear_0 : decode cX1_clear 0 = .ok (.aload_n 0, 1) := dk_42 (dk_at dksX1_clear_0 0 rfl rfl)
theorem dX1_clear_1 : decode cX1_clear 1 = .ok (.getfield 80, 3) := dk_180 0 80 (dk_at dksX1_clear_0 1 rfl rfl)
theorem dX1_clear_4 : decode cX1_clear 4 = .ok (.iconst 0, 1) := dk_3 (dk_at dksX1_clear_0 4 rfl rfl)
theorem dX1_clear_5 : decode cX1_clear 5 = .ok (.putfield 249, 3) := dk_181 0 249 (dk_at dksX1_clear_0 5 rfl rfl)
theorem dX1_clear_8 : decode cX1_clear 8 = .ok (.iconst 1, 1) := dk_4 (dk_at dksX1_clear_0 8 rfl rfl)
theorem dX1_clear_9 : decode cX1_clear 9 = .ok (.ireturn, 1) := dk_172 (dk_at dksX1_clear_0 9 rfl rfl)
abbrev cX1_drawn : ByteArray := prog_1_method_65_code
def yX1_drawn : MethodName := ⟨RX1, "drawn", "(I)Z"⟩
def dkwX1_drawn_5 : List UInt8 := [181, 0, 153, 42, 182, 0, 150, 4, 172]
abbrev dktX1_drawn_5 : List UInt8 := dkwX1_drawn_5 ++ []
def dkwX1_drawn_4 : List UInt8 := [180, 0, 147, 90, 4, 96, 181, 0, 147, 42, 180, 0, 105, 28, 46, 79, 132, 2, 1, 167, 255, 196, 42, 4]
abbrev dktX1_drawn_4 : List UInt8 := dkwX1_drawn_4 ++ dktX1_drawn_5
def dkwX1_drawn_3 : List UInt8 := [100, 162, 0, 10, 42, 180, 0, 90, 167, 0, 7, 42, 180, 0, 94, 78, 45, 180, 0, 165, 45, 89]
abbrev dktX1_drawn_3 : List UInt8 := dkwX1_drawn_3 ++ dktX1_drawn_4
def dkwX1_drawn_2 : List UInt8 := [181, 0, 147, 3, 61, 28, 42, 180, 1, 98, 162, 0, 58, 28, 42, 180, 1, 98, 42, 180, 1, 98, 5, 108]
abbrev dktX1_drawn_2 : List UInt8 := dkwX1_drawn_2 ++ dktX1_drawn_3
def dkwX1_drawn_1 : List UInt8 := [27, 133, 181, 1, 218, 42, 182, 1, 235, 42, 180, 0, 90, 3, 181, 0, 147, 42, 180, 0, 94, 3]
abbrev dktX1_drawn_1 : List UInt8 := dkwX1_drawn_1 ++ dktX1_drawn_2
def dkwX1_drawn_0 : List UInt8 := [27, 3, 17, 39, 15, 184, 0, 190, 153, 0, 13, 42, 180, 0, 64, 182, 1, 233, 154, 0, 5, 3, 172, 42]
abbrev dktX1_drawn_0 : List UInt8 := dkwX1_drawn_0 ++ dktX1_drawn_1
theorem dksX1_drawn_0 : cX1_drawn.data.toList.drop 0 = dktX1_drawn_0 := by decide +kernel
theorem dksX1_drawn_1 : cX1_drawn.data.toList.drop 24 = dktX1_drawn_1 := dk_seg dksX1_drawn_0 24 rfl rfl
theorem dksX1_drawn_2 : cX1_drawn.data.toList.drop 46 = dktX1_drawn_2 := dk_seg dksX1_drawn_1 22 rfl rfl
theorem dksX1_drawn_3 : cX1_drawn.data.toList.drop 70 = dktX1_drawn_3 := dk_seg dksX1_drawn_2 24 rfl rfl
theorem dksX1_drawn_4 : cX1_drawn.data.toList.drop 92 = dktX1_drawn_4 := dk_seg dksX1_drawn_3 22 rfl rfl
theorem dksX1_drawn_5 : cX1_drawn.data.toList.drop 116 = dktX1_drawn_5 := dk_seg dksX1_drawn_4 24 rfl rfl
theorem dX1_drawn_0 : decode cX1_drawn 0 = .ok (.iload_n 1, 1) := dk_27 (dk_at dksX1_drawn_0 0 rfl rfl)
theorem dX1_drawn_1 : decode cX1_drawn 1 = .ok (.iconst 0, 1) := dk_3 (dk_at dksX1_drawn_0 1 rfl rfl)
theorem dX1_drawn_2 : decode cX1_drawn 2 = .ok (.sipush 9999, 3) := dk_17 39 15 (dk_at dksX1_drawn_0 2 rfl rfl)
theorem dX1_drawn_5 : decode cX1_drawn 5 = .ok (.invokestatic 190, 3) := dk_184 0 190 (dk_at dksX1_drawn_0 5 rfl rfl)
theorem dX1_drawn_8 : decode cX1_drawn 8 = .ok (.ifCond .eq 13, 3) := dk_153 0 13 (dk_at dksX1_drawn_0 8 rfl rfl)
theorem dX1_drawn_11 : decode cX1_drawn 11 = .ok (.aload_n 0, 1) := dk_42 (dk_at dksX1_drawn_0 11 rfl rfl)
theorem dX1_drawn_12 : decode cX1_drawn 12 = .ok (.getfield 64, 3) := dk_180 0 64 (dk_at dksX1_drawn_0 12 rfl rfl)
theorem dX1_drawn_15 : decode cX1_drawn 15 = .ok (.invokevirtual 489, 3) := dk_182 1 233 (dk_at dksX1_drawn_0 15 rfl rfl)
theorem dX1_drawn_18 : decode cX1_drawn 18 = .ok (.ifCond .ne 5, 3) := dk_154 0 5 (dk_at dksX1_drawn_0 18 rfl rfl)
theorem dX1_drawn_21 : decode cX1_drawn 21 = .ok (.iconst 0, 1) := dk_3 (dk_at dksX1_drawn_0 21 rfl rfl)
theorem dX1_drawn_22 : decode cX1_drawn 22 = .ok (.ireturn, 1) := dk_172 (dk_at dksX1_drawn_0 22 rfl rfl)
theorem dX1_drawn_23 : decode cX1_drawn 23 = .ok (.aload_n 0, 1) := dk_42 (dk_at dksX1_drawn_0 23 rfl rfl)
theorem dX1_drawn_24 : decode cX1_drawn 24 = .ok (.iload_n 1, 1) := dk_27 (dk_at dksX1_drawn_1 0 rfl rfl)
theorem dX1_drawn_25 : decode cX1_drawn 25 = .ok (.i2l, 1) := dk_133 (dk_at dksX1_drawn_1 1 rfl rfl)
theorem dX1_drawn_26 : decode cX1_drawn 26 = .ok (.putfield 474, 3) := dk_181 1 218 (dk_at dksX1_drawn_1 2 rfl rfl)
theorem dX1_drawn_29 : decode cX1_drawn 29 = .ok (.aload_n 0, 1) := dk_42 (dk_at dksX1_drawn_1 5 rfl rfl)
theorem dX1_drawn_30 : decode cX1_drawn 30 = .ok (.invokevirtual 491, 3) := dk_182 1 235 (dk_at dksX1_drawn_1 6 rfl rfl)
theorem dX1_drawn_33 : decode cX1_drawn 33 = .ok (.aload_n 0, 1) := dk_42 (dk_at dksX1_drawn_1 9 rfl rfl)
theorem dX1_drawn_34 : decode cX1_drawn 34 = .ok (.getfield 90, 3) := dk_180 0 90 (dk_at dksX1_drawn_1 10 rfl rfl)
theorem dX1_drawn_37 : decode cX1_drawn 37 = .ok (.iconst 0, 1) := dk_3 (dk_at dksX1_drawn_1 13 rfl rfl)
theorem dX1_drawn_38 : decode cX1_drawn 38 = .ok (.putfield 147, 3) := dk_181 0 147 (dk_at dksX1_drawn_1 14 rfl rfl)
theorem dX1_drawn_41 : decode cX1_drawn 41 = .ok (.aload_n 0, 1) := dk_42 (dk_at dksX1_drawn_1 17 rfl rfl)
theorem dX1_drawn_42 : decode cX1_drawn 42 = .ok (.getfield 94, 3) := dk_180 0 94 (dk_at dksX1_drawn_1 18 rfl rfl)
theorem dX1_drawn_45 : decode cX1_drawn 45 = .ok (.iconst 0, 1) := dk_3 (dk_at dksX1_drawn_1 21 rfl rfl)
theorem dX1_drawn_46 : decode cX1_drawn 46 = .ok (.putfield 147, 3) := dk_181 0 147 (dk_at dksX1_drawn_2 0 rfl rfl)
theorem dX1_drawn_49 : decode cX1_drawn 49 = .ok (.iconst 0, 1) := dk_3 (dk_at dksX1_drawn_2 3 rfl rfl)
theorem dX1_drawn_50 : decode cX1_drawn 50 = .ok (.istore_n 2, 1) := dk_61 (dk_at dksX1_drawn_2 4 rfl rfl)
theorem dX1_drawn_51 : decode cX1_drawn 51 = .ok (.iload_n 2, 1) := dk_28 (dk_at dksX1_drawn_2 5 rfl rfl)
theorem dX1_drawn_52 : decode cX1_drawn 52 = .ok (.aload_n 0, 1) := dk_42 (dk_at dksX1_drawn_2 6 rfl rfl)
theorem dX1_drawn_53 : decode cX1_drawn 53 = .ok (.getfield 354, 3) := dk_180 1 98 (dk_at dksX1_drawn_2 7 rfl rfl)
theorem dX1_drawn_56 : decode cX1_drawn 56 = .ok (.if_icmp .ge 58, 3) := dk_162 0 58 (dk_at dksX1_drawn_2 10 rfl rfl)
theorem dX1_drawn_59 : decode cX1_drawn 59 = .ok (.iload_n 2, 1) := dk_28 (dk_at dksX1_drawn_2 13 rfl rfl)
theorem dX1_drawn_60 : decode cX1_drawn 60 = .ok (.aload_n 0, 1) := dk_42 (dk_at dksX1_drawn_2 14 rfl rfl)
theorem dX1_drawn_61 : decode cX1_drawn 61 = .ok (.getfield 354, 3) := dk_180 1 98 (dk_at dksX1_drawn_2 15 rfl rfl)
theorem dX1_drawn_64 : decode cX1_drawn 64 = .ok (.aload_n 0, 1) := dk_42 (dk_at dksX1_drawn_2 18 rfl rfl)
theorem dX1_drawn_65 : decode cX1_drawn 65 = .ok (.getfield 354, 3) := dk_180 1 98 (dk_at dksX1_drawn_2 19 rfl rfl)
theorem dX1_drawn_68 : decode cX1_drawn 68 = .ok (.iconst 2, 1) := dk_5 (dk_at dksX1_drawn_2 22 rfl rfl)
theorem dX1_drawn_69 : decode cX1_drawn 69 = .ok (.idiv, 1) := dk_108 (dk_at dksX1_drawn_2 23 rfl rfl)
theorem dX1_drawn_70 : decode cX1_drawn 70 = .ok (.isub, 1) := dk_100 (dk_at dksX1_drawn_3 0 rfl rfl)
theorem dX1_drawn_71 : decode cX1_drawn 71 = .ok (.if_icmp .ge 10, 3) := dk_162 0 10 (dk_at dksX1_drawn_3 1 rfl rfl)
theorem dX1_drawn_74 : decode cX1_drawn 74 = .ok (.aload_n 0, 1) := dk_42 (dk_at dksX1_drawn_3 4 rfl rfl)
theorem dX1_drawn_75 : decode cX1_drawn 75 = .ok (.getfield 90, 3) := dk_180 0 90 (dk_at dksX1_drawn_3 5 rfl rfl)
theorem dX1_drawn_78 : decode cX1_drawn 78 = .ok (.goto 7, 3) := dk_167 0 7 (dk_at dksX1_drawn_3 8 rfl rfl)
theorem dX1_drawn_81 : decode cX1_drawn 81 = .ok (.aload_n 0, 1) := dk_42 (dk_at dksX1_drawn_3 11 rfl rfl)
theorem dX1_drawn_82 : decode cX1_drawn 82 = .ok (.getfield 94, 3) := dk_180 0 94 (dk_at dksX1_drawn_3 12 rfl rfl)
theorem dX1_drawn_85 : decode cX1_drawn 85 = .ok (.astore_n 3, 1) := dk_78 (dk_at dksX1_drawn_3 15 rfl rfl)
theorem dX1_drawn_86 : decode cX1_drawn 86 = .ok (.aload_n 3, 1) := dk_45 (dk_at dksX1_drawn_3 16 rfl rfl)
theorem dX1_drawn_87 : decode cX1_drawn 87 = .ok (.getfield 165, 3) := dk_180 0 165 (dk_at dksX1_drawn_3 17 rfl rfl)
theorem dX1_drawn_90 : decode cX1_drawn 90 = .ok (.aload_n 3, 1) := dk_45 (dk_at dksX1_drawn_3 20 rfl rfl)
theorem dX1_drawn_91 : decode cX1_drawn 91 = .ok (.dup, 1) := dk_89 (dk_at dksX1_drawn_3 21 rfl rfl)
theorem dX1_drawn_92 : decode cX1_drawn 92 = .ok (.getfield 147, 3) := dk_180 0 147 (dk_at dksX1_drawn_4 0 rfl rfl)
theorem dX1_drawn_95 : decode cX1_drawn 95 = .ok (.dup_x1, 1) := dk_90 (dk_at dksX1_drawn_4 3 rfl rfl)
theorem dX1_drawn_96 : decode cX1_drawn 96 = .ok (.iconst 1, 1) := dk_4 (dk_at dksX1_drawn_4 4 rfl rfl)
theorem dX1_drawn_97 : decode cX1_drawn 97 = .ok (.iadd, 1) := dk_96 (dk_at dksX1_drawn_4 5 rfl rfl)
theorem dX1_drawn_98 : decode cX1_drawn 98 = .ok (.putfield 147, 3) := dk_181 0 147 (dk_at dksX1_drawn_4 6 rfl rfl)
theorem dX1_drawn_101 : decode cX1_drawn 101 = .ok (.aload_n 0, 1) := dk_42 (dk_at dksX1_drawn_4 9 rfl rfl)
theorem dX1_drawn_102 : decode cX1_drawn 102 = .ok (.getfield 105, 3) := dk_180 0 105 (dk_at dksX1_drawn_4 10 rfl rfl)
theorem dX1_drawn_105 : decode cX1_drawn 105 = .ok (.iload_n 2, 1) := dk_28 (dk_at dksX1_drawn_4 13 rfl rfl)
theorem dX1_drawn_106 : decode cX1_drawn 106 = .ok (.iaload, 1) := dk_46 (dk_at dksX1_drawn_4 14 rfl rfl)
theorem dX1_drawn_107 : decode cX1_drawn 107 = .ok (.iastore, 1) := dk_79 (dk_at dksX1_drawn_4 15 rfl rfl)
theorem dX1_drawn_108 : decode cX1_drawn 108 = .ok (.iinc 2 1, 3) := dk_132 2 1 (dk_at dksX1_drawn_4 16 rfl rfl)
theorem dX1_drawn_111 : decode cX1_drawn 111 = .ok (.goto (-60), 3) := dk_167 255 196 (dk_at dksX1_drawn_4 19 rfl rfl)
theorem dX1_drawn_114 : decode cX1_drawn 114 = .ok (.aload_n 0, 1) := dk_42 (dk_at dksX1_drawn_4 22 rfl rfl)
theorem dX1_drawn_115 : decode cX1_drawn 115 = .ok (.iconst 1, 1) := dk_4 (dk_at dksX1_drawn_4 23 rfl rfl)
theorem dX1_drawn_116 : decode cX1_drawn 116 = .ok (.putfield 153, 3) := dk_181 0 153 (dk_at dksX1_drawn_5 0 rfl rfl)
theorem dX1_drawn_119 : decode cX1_drawn 119 = .ok (.aload_n 0, 1) := dk_42 (dk_at dksX1_drawn_5 3 rfl rfl)
theorem dX1_drawn_120 : decode cX1_drawn 120 = .ok (.invokevirtual 150, 3) := dk_182 0 150 (dk_at dksX1_drawn_5 4 rfl rfl)
theorem dX1_drawn_123 : decode cX1_drawn 123 = .ok (.iconst 1, 1) := dk_4 (dk_at dksX1_drawn_5 7 rfl rfl)
theorem dX1_drawn_124 : decode cX1_drawn 124 = .ok (.ireturn, 1) := dk_172 (dk_at dksX1_drawn_5 8 rfl rfl)
abbrev cX1_shuffles : ByteArray := prog_1_method_64_code
def yX1_shuffles : MethodName := ⟨RX1, "shuffles", "()V"⟩
def dkwX1_shuffles_3 : List UInt8 := [42, 27, 42, 27, 4, 96, 182, 1, 230, 182, 1, 102, 132, 1, 255, 167, 255, 237, 177]
abbrev dktX1_shuffles_3 : List UInt8 := dkwX1_shuffles_3 ++ []
def dkwX1_shuffles_2 : List UInt8 := [79, 132, 2, 1, 167, 255, 223, 132, 1, 1, 167, 255, 207, 42, 180, 1, 98, 4, 100, 60, 27, 158, 0, 21]
abbrev dktX1_shuffles_2 : List UInt8 := dkwX1_shuffles_2 ++ dktX1_shuffles_3
def dkwX1_shuffles_1 : List UInt8 := [180, 0, 201, 27, 46, 162, 0, 26, 42, 180, 0, 105, 42, 89, 180, 1, 98, 90, 4, 96, 181, 1, 98, 27]
abbrev dktX1_shuffles_1 : List UInt8 := dkwX1_shuffles_1 ++ dktX1_shuffles_2
def dkwX1_shuffles_0 : List UInt8 := [42, 3, 181, 1, 98, 3, 60, 27, 42, 182, 0, 188, 162, 0, 47, 3, 61, 28, 42, 180, 0, 64]
abbrev dktX1_shuffles_0 : List UInt8 := dkwX1_shuffles_0 ++ dktX1_shuffles_1
theorem dksX1_shuffles_0 : cX1_shuffles.data.toList.drop 0 = dktX1_shuffles_0 := by decide +kernel
theorem dksX1_shuffles_1 : cX1_shuffles.data.toList.drop 22 = dktX1_shuffles_1 := dk_seg dksX1_shuffles_0 22 rfl rfl
theorem dksX1_shuffles_2 : cX1_shuffles.data.toList.drop 46 = dktX1_shuffles_2 := dk_seg dksX1_shuffles_1 24 rfl rfl
theorem dksX1_shuffles_3 : cX1_shuffles.data.toList.drop 70 = dktX1_shuffles_3 := dk_seg dksX1_shuffles_2 24 rfl rfl
theorem dX1_shuffles_0 : decode cX1_shuffles 0 = .ok (.aload_n 0, 1) := dk_42 (dk_at dksX1_shuffles_0 0 rfl rfl)
theorem dX1_shuffles_1 : decode cX1_shuffles 1 = .ok (.iconst 0, 1) := dk_3 (dk_at dksX1_shuffles_0 1 rfl rfl)
theorem dX1_shuffles_2 : decode cX1_shuffles 2 = .ok (.putfield 354, 3) := dk_181 1 98 (dk_at dksX1_shuffles_0 2 rfl rfl)
theorem dX1_shuffles_5 : decode cX1_shuffles 5 = .ok (.iconst 0, 1) := dk_3 (dk_at dksX1_shuffles_0 5 rfl rfl)
theorem dX1_shuffles_6 : decode cX1_shuffles 6 = .ok (.istore_n 1, 1) := dk_60 (dk_at dksX1_shuffles_0 6 rfl rfl)
theorem dX1_shuffles_7 : decode cX1_shuffles 7 = .ok (.iload_n 1, 1) := dk_27 (dk_at dksX1_shuffles_0 7 rfl rfl)
theorem dX1_shuffles_8 : decode cX1_shuffles 8 = .ok (.aload_n 0, 1) := dk_42 (dk_at dksX1_shuffles_0 8 rfl rfl)
theorem dX1_shuffles_9 : decode cX1_shuffles 9 = .ok (.invokevirtual 188, 3) := dk_182 0 188 (dk_at dksX1_shuffles_0 9 rfl rfl)
theorem dX1_shuffles_12 : decode cX1_shuffles 12 = .ok (.if_icmp .ge 47, 3) := dk_162 0 47 (dk_at dksX1_shuffles_0 12 rfl rfl)
theorem dX1_shuffles_15 : decode cX1_shuffles 15 = .ok (.iconst 0, 1) := dk_3 (dk_at dksX1_shuffles_0 15 rfl rfl)
theorem dX1_shuffles_16 : decode cX1_shuffles 16 = .ok (.istore_n 2, 1) := dk_61 (dk_at dksX1_shuffles_0 16 rfl rfl)
theorem dX1_shuffles_17 : decode cX1_shuffles 17 = .ok (.iload_n 2, 1) := dk_28 (dk_at dksX1_shuffles_0 17 rfl rfl)
theorem dX1_shuffles_18 : decode cX1_shuffles 18 = .ok (.aload_n 0, 1) := dk_42 (dk_at dksX1_shuffles_0 18 rfl rfl)
theorem dX1_shuffles_19 : decode cX1_shuffles 19 = .ok (.getfield 64, 3) := dk_180 0 64 (dk_at dksX1_shuffles_0 19 rfl rfl)
theorem dX1_shuffles_22 : decode cX1_shuffles 22 = .ok (.getfield 201, 3) := dk_180 0 201 (dk_at dksX1_shuffles_1 0 rfl rfl)
theorem dX1_shuffles_25 : decode cX1_shuffles 25 = .ok (.iload_n 1, 1) := dk_27 (dk_at dksX1_shuffles_1 3 rfl rfl)
theorem dX1_shuffles_26 : decode cX1_shuffles 26 = .ok (.iaload, 1) := dk_46 (dk_at dksX1_shuffles_1 4 rfl rfl)
theorem dX1_shuffles_27 : decode cX1_shuffles 27 = .ok (.if_icmp .ge 26, 3) := dk_162 0 26 (dk_at dksX1_shuffles_1 5 rfl rfl)
theorem dX1_shuffles_30 : decode cX1_shuffles 30 = .ok (.aload_n 0, 1) := dk_42 (dk_at dksX1_shuffles_1 8 rfl rfl)
theorem dX1_shuffles_31 : decode cX1_shuffles 31 = .ok (.getfield 105, 3) := dk_180 0 105 (dk_at dksX1_shuffles_1 9 rfl rfl)
theorem dX1_shuffles_34 : decode cX1_shuffles 34 = .ok (.aload_n 0, 1) := dk_42 (dk_at dksX1_shuffles_1 12 rfl rfl)
theorem dX1_shuffles_35 : decode cX1_shuffles 35 = .ok (.dup, 1) := dk_89 (dk_at dksX1_shuffles_1 13 rfl rfl)
theorem dX1_shuffles_36 : decode cX1_shuffles 36 = .ok (.getfield 354, 3) := dk_180 1 98 (dk_at dksX1_shuffles_1 14 rfl rfl)
theorem dX1_shuffles_39 : decode cX1_shuffles 39 = .ok (.dup_x1, 1) := dk_90 (dk_at dksX1_shuffles_1 17 rfl rfl)
theorem dX1_shuffles_40 : decode cX1_shuffles 40 = .ok (.iconst 1, 1) := dk_4 (dk_at dksX1_shuffles_1 18 rfl rfl)
theorem dX1_shuffles_41 : decode cX1_shuffles 41 = .ok (.iadd, 1) := dk_96 (dk_at dksX1_shuffles_1 19 rfl rfl)
theorem dX1_shuffles_42 : decode cX1_shuffles 42 = .ok (.putfield 354, 3) := dk_181 1 98 (dk_at dksX1_shuffles_1 20 rfl rfl)
theorem dX1_shuffles_45 : decode cX1_shuffles 45 = .ok (.iload_n 1, 1) := dk_27 (dk_at dksX1_shuffles_1 23 rfl rfl)
theorem dX1_shuffles_46 : decode cX1_shuffles 46 = .ok (.iastore, 1) := dk_79 (dk_at dksX1_shuffles_2 0 rfl rfl)
theorem dX1_shuffles_47 : decode cX1_shuffles 47 = .ok (.iinc 2 1, 3) := dk_132 2 1 (dk_at dksX1_shuffles_2 1 rfl rfl)
theorem dX1_shuffles_50 : decode cX1_shuffles 50 = .ok (.goto (-33), 3) := dk_167 255 223 (dk_at dksX1_shuffles_2 4 rfl rfl)
theorem dX1_shuffles_53 : decode cX1_shuffles 53 = .ok (.iinc 1 1, 3) := dk_132 1 1 (dk_at dksX1_shuffles_2 7 rfl rfl)
theorem dX1_shuffles_56 : decode cX1_shuffles 56 = .ok (.goto (-49), 3) := dk_167 255 207 (dk_at dksX1_shuffles_2 10 rfl rfl)
theorem dX1_shuffles_59 : decode cX1_shuffles 59 = .ok (.aload_n 0, 1) := dk_42 (dk_at dksX1_shuffles_2 13 rfl rfl)
theorem dX1_shuffles_60 : decode cX1_shuffles 60 = .ok (.getfield 354, 3) := dk_180 1 98 (dk_at dksX1_shuffles_2 14 rfl rfl)
theorem dX1_shuffles_63 : decode cX1_shuffles 63 = .ok (.iconst 1, 1) := dk_4 (dk_at dksX1_shuffles_2 17 rfl rfl)
theorem dX1_shuffles_64 : decode cX1_shuffles 64 = .ok (.isub, 1) := dk_100 (dk_at dksX1_shuffles_2 18 rfl rfl)
theorem dX1_shuffles_65 : decode cX1_shuffles 65 = .ok (.istore_n 1, 1) := dk_60 (dk_at dksX1_shuffles_2 19 rfl rfl)
theorem dX1_shuffles_66 : decode cX1_shuffles 66 = .ok (.iload_n 1, 1) := dk_27 (dk_at dksX1_shuffles_2 20 rfl rfl)
theorem dX1_shuffles_67 : decode cX1_shuffles 67 = .ok (.ifCond .le 21, 3) := dk_158 0 21 (dk_at dksX1_shuffles_2 21 rfl rfl)
theorem dX1_shuffles_70 : decode cX1_shuffles 70 = .ok (.aload_n 0, 1) := dk_42 (dk_at dksX1_shuffles_3 0 rfl rfl)
theorem dX1_shuffles_71 : decode cX1_shuffles 71 = .ok (.iload_n 1, 1) := dk_27 (dk_at dksX1_shuffles_3 1 rfl rfl)
theorem dX1_shuffles_72 : decode cX1_shuffles 72 = .ok (.aload_n 0, 1) := dk_42 (dk_at dksX1_shuffles_3 2 rfl rfl)
theorem dX1_shuffles_73 : decode cX1_shuffles 73 = .ok (.iload_n 1, 1) := dk_27 (dk_at dksX1_shuffles_3 3 rfl rfl)
theorem dX1_shuffles_74 : decode cX1_shuffles 74 = .ok (.iconst 1, 1) := dk_4 (dk_at dksX1_shuffles_3 4 rfl rfl)
theorem dX1_shuffles_75 : decode cX1_shuffles 75 = .ok (.iadd, 1) := dk_96 (dk_at dksX1_shuffles_3 5 rfl rfl)
theorem dX1_shuffles_76 : decode cX1_shuffles 76 = .ok (.invokevirtual 486, 3) := dk_182 1 230 (dk_at dksX1_shuffles_3 6 rfl rfl)
theorem dX1_shuffles_79 : decode cX1_shuffles 79 = .ok (.invokevirtual 358, 3) := dk_182 1 102 (dk_at dksX1_shuffles_3 9 rfl rfl)
theorem dX1_shuffles_82 : decode cX1_shuffles 82 = .ok (.iinc 1 (-1), 3) := dk_132 1 255 (dk_at dksX1_shuffles_3 12 rfl rfl)
theorem dX1_shuffles_85 : decode cX1_shuffles 85 = .ok (.goto (-19), 3) := dk_167 255 237 (dk_at dksX1_shuffles_3 15 rfl rfl)
theorem dX1_shuffles_88 : decode cX1_shuffles 88 = .ok (.return_, 1) := dk_177 (dk_at dksX1_shuffles_3 18 rfl rfl)
abbrev cX1_draws : ByteArray := prog_1_method_63_code
def yX1_draws : MethodName := ⟨RX1, "draws", "(I)I"⟩
def dkwX1_draws_1 : List UInt8 := [20, 1, 228, 109, 27, 133, 113, 136, 172]
abbrev dktX1_draws_1 : List UInt8 := dkwX1_draws_1 ++ []
def dkwX1_draws_0 : List UInt8 := [42, 42, 180, 1, 218, 20, 1, 222, 105, 20, 1, 224, 97, 20, 1, 226, 113, 181, 1, 218, 42, 180, 1, 218]
abbrev dktX1_draws_0 : List UInt8 := dkwX1_draws_0 ++ dktX1_draws_1
theorem dksX1_draws_0 : cX1_draws.data.toList.drop 0 = dktX1_draws_0 := by decide +kernel
theorem dksX1_draws_1 : cX1_draws.data.toList.drop 24 = dktX1_draws_1 := dk_seg dksX1_draws_0 24 rfl rfl
theorem dX1_draws_0 : decode cX1_draws 0 = .ok (.aload_n 0, 1) := dk_42 (dk_at dksX1_draws_0 0 rfl rfl)
theorem dX1_draws_1 : decode cX1_draws 1 = .ok (.aload_n 0, 1) := dk_42 (dk_at dksX1_draws_0 1 rfl rfl)
theorem dX1_draws_2 : decode cX1_draws 2 = .ok (.getfield 474, 3) := dk_180 1 218 (dk_at dksX1_draws_0 2 rfl rfl)
theorem dX1_draws_5 : decode cX1_draws 5 = .ok (.ldc2_w 478, 3) := dk_20 1 222 (dk_at dksX1_draws_0 5 rfl rfl)
theorem dX1_draws_8 : decode cX1_draws 8 = .ok (.lmul, 1) := dk_105 (dk_at dksX1_draws_0 8 rfl rfl)
theorem dX1_draws_9 : decode cX1_draws 9 = .ok (.ldc2_w 480, 3) := dk_20 1 224 (dk_at dksX1_draws_0 9 rfl rfl)
theorem dX1_draws_12 : decode cX1_draws 12 = .ok (.ladd, 1) := dk_97 (dk_at dksX1_draws_0 12 rfl rfl)
theorem dX1_draws_13 : decode cX1_draws 13 = .ok (.ldc2_w 482, 3) := dk_20 1 226 (dk_at dksX1_draws_0 13 rfl rfl)
theorem dX1_draws_16 : decode cX1_draws 16 = .ok (.lrem, 1) := dk_113 (dk_at dksX1_draws_0 16 rfl rfl)
theorem dX1_draws_17 : decode cX1_draws 17 = .ok (.putfield 474, 3) := dk_181 1 218 (dk_at dksX1_draws_0 17 rfl rfl)
theorem dX1_draws_20 : decode cX1_draws 20 = .ok (.aload_n 0, 1) := dk_42 (dk_at dksX1_draws_0 20 rfl rfl)
theorem dX1_draws_21 : decode cX1_draws 21 = .ok (.getfield 474, 3) := dk_180 1 218 (dk_at dksX1_draws_0 21 rfl rfl)
theorem dX1_draws_24 : decode cX1_draws 24 = .ok (.ldc2_w 484, 3) := dk_20 1 228 (dk_at dksX1_draws_1 0 rfl rfl)
theorem dX1_draws_27 : decode cX1_draws 27 = .ok (.ldiv, 1) := dk_109 (dk_at dksX1_draws_1 3 rfl rfl)
theorem dX1_draws_28 : decode cX1_draws 28 = .ok (.iload_n 1, 1) := dk_27 (dk_at dksX1_draws_1 4 rfl rfl)
theorem dX1_draws_29 : decode cX1_draws 29 = .ok (.i2l, 1) := dk_133 (dk_at dksX1_draws_1 5 rfl rfl)
theorem dX1_draws_30 : decode cX1_draws 30 = .ok (.lrem, 1) := dk_113 (dk_at dksX1_draws_1 6 rfl rfl)
theorem dX1_draws_31 : decode cX1_draws 31 = .ok (.l2i, 1) := dk_136 (dk_at dksX1_draws_1 7 rfl rfl)
theorem dX1_draws_32 : decode cX1_draws 32 = .ok (.ireturn, 1) := dk_172 (dk_at dksX1_draws_1 8 rfl rfl)
abbrev cX1_games : ByteArray := prog_1_method_66_code
def yX1_games : MethodName := ⟨RX1, "games", "(III)I"⟩
def dkwX1_games_6 : List UInt8 := [29, 46, 167, 0, 5, 21, 5, 172]
abbrev dktX1_games_6 : List UInt8 := dkwX1_games_6 ++ []
def dkwX1_games_5 : List UInt8 := [180, 0, 57, 180, 1, 91, 184, 1, 171, 54, 5, 132, 6, 1, 167, 255, 186, 29, 6, 162, 0, 10, 25, 4]
abbrev dktX1_games_5 : List UInt8 := dkwX1_games_5 ++ dktX1_games_6
def dkwX1_games_4 : List UInt8 := [180, 1, 88, 92, 46, 4, 96, 79, 42, 180, 0, 57, 180, 1, 88, 5, 162, 0, 17, 21, 5, 42]
abbrev dktX1_games_4 : List UInt8 := dkwX1_games_4 ++ dktX1_games_5
def dkwX1_games_3 : List UInt8 := [180, 0, 64, 182, 0, 171, 42, 180, 0, 64, 180, 0, 198, 182, 1, 111, 25, 4, 42, 180, 0, 57]
abbrev dktX1_games_3 : List UInt8 := dkwX1_games_3 ++ dktX1_games_4
def dkwX1_games_2 : List UInt8 := [7, 188, 10, 58, 4, 3, 54, 5, 3, 54, 6, 21, 6, 28, 162, 0, 70, 42, 182, 1, 235, 42, 42]
abbrev dktX1_games_2 : List UInt8 := dkwX1_games_2 ++ dktX1_games_3
def dkwX1_games_1 : List UInt8 := [184, 0, 190, 153, 0, 13, 42, 180, 0, 64, 182, 1, 233, 154, 0, 5, 2, 172, 42, 27, 133, 181, 1, 218]
abbrev dktX1_games_1 : List UInt8 := dkwX1_games_1 ++ dktX1_games_2
def dkwX1_games_0 : List UInt8 := [27, 3, 17, 39, 15, 184, 0, 190, 153, 0, 32, 28, 4, 16, 50, 184, 0, 190, 153, 0, 22, 29, 3, 6]
abbrev dktX1_games_0 : List UInt8 := dkwX1_games_0 ++ dktX1_games_1
theorem dksX1_games_0 : cX1_games.data.toList.drop 0 = dktX1_games_0 := by decide +kernel
theorem dksX1_games_1 : cX1_games.data.toList.drop 24 = dktX1_games_1 := dk_seg dksX1_games_0 24 rfl rfl
theorem dksX1_games_2 : cX1_games.data.toList.drop 48 = dktX1_games_2 := dk_seg dksX1_games_1 24 rfl rfl
theorem dksX1_games_3 : cX1_games.data.toList.drop 71 = dktX1_games_3 := dk_seg dksX1_games_2 23 rfl rfl
theorem dksX1_games_4 : cX1_games.data.toList.drop 93 = dktX1_games_4 := dk_seg dksX1_games_3 22 rfl rfl
theorem dksX1_games_5 : cX1_games.data.toList.drop 115 = dktX1_games_5 := dk_seg dksX1_games_4 22 rfl rfl
theorem dksX1_games_6 : cX1_games.data.toList.drop 139 = dktX1_games_6 := dk_seg dksX1_games_5 24 rfl rfl
theorem dX1_games_0 : decode cX1_games 0 = .ok (.iload_n 1, 1) := dk_27 (dk_at dksX1_games_0 0 rfl rfl)
theorem dX1_games_1 : decode cX1_games 1 = .ok (.iconst 0, 1) := dk_3 (dk_at dksX1_games_0 1 rfl rfl)
theorem dX1_games_2 : decode cX1_games 2 = .ok (.sipush 9999, 3) := dk_17 39 15 (dk_at dksX1_games_0 2 rfl rfl)
theorem dX1_games_5 : decode cX1_games 5 = .ok (.invokestatic 190, 3) := dk_184 0 190 (dk_at dksX1_games_0 5 rfl rfl)
theorem dX1_games_8 : decode cX1_games 8 = .ok (.ifCond .eq 32, 3) := dk_153 0 32 (dk_at dksX1_games_0 8 rfl rfl)
theorem dX1_games_11 : decode cX1_games 11 = .ok (.iload_n 2, 1) := dk_28 (dk_at dksX1_games_0 11 rfl rfl)
theorem dX1_games_12 : decode cX1_games 12 = .ok (.iconst 1, 1) := dk_4 (dk_at dksX1_games_0 12 rfl rfl)
theorem dX1_games_13 : decode cX1_games 13 = .ok (.bipush 50, 2) := dk_16 50 (dk_at dksX1_games_0 13 rfl rfl)
theorem dX1_games_15 : decode cX1_games 15 = .ok (.invokestatic 190, 3) := dk_184 0 190 (dk_at dksX1_games_0 15 rfl rfl)
theorem dX1_games_18 : decode cX1_games 18 = .ok (.ifCond .eq 22, 3) := dk_153 0 22 (dk_at dksX1_games_0 18 rfl rfl)
theorem dX1_games_21 : decode cX1_games 21 = .ok (.iload_n 3, 1) := dk_29 (dk_at dksX1_games_0 21 rfl rfl)
theorem dX1_games_22 : decode cX1_games 22 = .ok (.iconst 0, 1) := dk_3 (dk_at dksX1_games_0 22 rfl rfl)
theorem dX1_games_23 : decode cX1_games 23 = .ok (.iconst 3, 1) := dk_6 (dk_at dksX1_games_0 23 rfl rfl)
theorem dX1_games_24 : decode cX1_games 24 = .ok (.invokestatic 190, 3) := dk_184 0 190 (dk_at dksX1_games_1 0 rfl rfl)
theorem dX1_games_27 : decode cX1_games 27 = .ok (.ifCond .eq 13, 3) := dk_153 0 13 (dk_at dksX1_games_1 3 rfl rfl)
theorem dX1_games_30 : decode cX1_games 30 = .ok (.aload_n 0, 1) := dk_42 (dk_at dksX1_games_1 6 rfl rfl)
theorem dX1_games_31 : decode cX1_games 31 = .ok (.getfield 64, 3) := dk_180 0 64 (dk_at dksX1_games_1 7 rfl rfl)
theorem dX1_games_34 : decode cX1_games 34 = .ok (.invokevirtual 489, 3) := dk_182 1 233 (dk_at dksX1_games_1 10 rfl rfl)
theorem dX1_games_37 : decode cX1_games 37 = .ok (.ifCond .ne 5, 3) := dk_154 0 5 (dk_at dksX1_games_1 13 rfl rfl)
theorem dX1_games_40 : decode cX1_games 40 = .ok (.iconst (-1), 1) := dk_2 (dk_at dksX1_games_1 16 rfl rfl)
theorem dX1_games_41 : decode cX1_games 41 = .ok (.ireturn, 1) := dk_172 (dk_at dksX1_games_1 17 rfl rfl)
theorem dX1_games_42 : decode cX1_games 42 = .ok (.aload_n 0, 1) := dk_42 (dk_at dksX1_games_1 18 rfl rfl)
theorem dX1_games_43 : decode cX1_games 43 = .ok (.iload_n 1, 1) := dk_27 (dk_at dksX1_games_1 19 rfl rfl)
theorem dX1_games_44 : decode cX1_games 44 = .ok (.i2l, 1) := dk_133 (dk_at dksX1_games_1 20 rfl rfl)
theorem dX1_games_45 : decode cX1_games 45 = .ok (.putfield 474, 3) := dk_181 1 218 (dk_at dksX1_games_1 21 rfl rfl)
theorem dX1_games_48 : decode cX1_games 48 = .ok (.iconst 4, 1) := dk_7 (dk_at dksX1_games_2 0 rfl rfl)
theorem dX1_games_49 : decode cX1_games 49 = .ok (.newarray .int, 2) := dk_188_10 (dk_at dksX1_games_2 1 rfl rfl)
theorem dX1_games_51 : decode cX1_games 51 = .ok (.astore 4, 2) := dk_58 4 (dk_at dksX1_games_2 3 rfl rfl)
theorem dX1_games_53 : decode cX1_games 53 = .ok (.iconst 0, 1) := dk_3 (dk_at dksX1_games_2 5 rfl rfl)
theorem dX1_games_54 : decode cX1_games 54 = .ok (.istore 5, 2) := dk_54 5 (dk_at dksX1_games_2 6 rfl rfl)
theorem dX1_games_56 : decode cX1_games 56 = .ok (.iconst 0, 1) := dk_3 (dk_at dksX1_games_2 8 rfl rfl)
theorem dX1_games_57 : decode cX1_games 57 = .ok (.istore 6, 2) := dk_54 6 (dk_at dksX1_games_2 9 rfl rfl)
theorem dX1_games_59 : decode cX1_games 59 = .ok (.iload 6, 2) := dk_21 6 (dk_at dksX1_games_2 11 rfl rfl)
theorem dX1_games_61 : decode cX1_games 61 = .ok (.iload_n 2, 1) := dk_28 (dk_at dksX1_games_2 13 rfl rfl)
theorem dX1_games_62 : decode cX1_games 62 = .ok (.if_icmp .ge 70, 3) := dk_162 0 70 (dk_at dksX1_games_2 14 rfl rfl)
theorem dX1_games_65 : decode cX1_games 65 = .ok (.aload_n 0, 1) := dk_42 (dk_at dksX1_games_2 17 rfl rfl)
theorem dX1_games_66 : decode cX1_games 66 = .ok (.invokevirtual 491, 3) := dk_182 1 235 (dk_at dksX1_games_2 18 rfl rfl)
theorem dX1_games_69 : decode cX1_games 69 = .ok (.aload_n 0, 1) := dk_42 (dk_at dksX1_games_2 21 rfl rfl)
theorem dX1_games_70 : decode cX1_games 70 = .ok (.aload_n 0, 1) := dk_42 (dk_at dksX1_games_2 22 rfl rfl)
theorem dX1_games_71 : decode cX1_games 71 = .ok (.getfield 64, 3) := dk_180 0 64 (dk_at dksX1_games_3 0 rfl rfl)
theorem dX1_games_74 : decode cX1_games 74 = .ok (.invokevirtual 171, 3) := dk_182 0 171 (dk_at dksX1_games_3 3 rfl rfl)
theorem dX1_games_77 : decode cX1_games 77 = .ok (.aload_n 0, 1) := dk_42 (dk_at dksX1_games_3 6 rfl rfl)
theorem dX1_games_78 : decode cX1_games 78 = .ok (.getfield 64, 3) := dk_180 0 64 (dk_at dksX1_games_3 7 rfl rfl)
theorem dX1_games_81 : decode cX1_games 81 = .ok (.getfield 198, 3) := dk_180 0 198 (dk_at dksX1_games_3 10 rfl rfl)
theorem dX1_games_84 : decode cX1_games 84 = .ok (.invokevirtual 367, 3) := dk_182 1 111 (dk_at dksX1_games_3 13 rfl rfl)
theorem dX1_games_87 : decode cX1_games 87 = .ok (.aload 4, 2) := dk_25 4 (dk_at dksX1_games_3 16 rfl rfl)
theorem dX1_games_89 : decode cX1_games 89 = .ok (.aload_n 0, 1) := dk_42 (dk_at dksX1_games_3 18 rfl rfl)
theorem dX1_games_90 : decode cX1_games 90 = .ok (.getfield 57, 3) := dk_180 0 57 (dk_at dksX1_games_3 19 rfl rfl)
theorem dX1_games_93 : decode cX1_games 93 = .ok (.getfield 344, 3) := dk_180 1 88 (dk_at dksX1_games_4 0 rfl rfl)
theorem dX1_games_96 : decode cX1_games 96 = .ok (.dup2, 1) := dk_92 (dk_at dksX1_games_4 3 rfl rfl)
theorem dX1_games_97 : decode cX1_games 97 = .ok (.iaload, 1) := dk_46 (dk_at dksX1_games_4 4 rfl rfl)
theorem dX1_games_98 : decode cX1_games 98 = .ok (.iconst 1, 1) := dk_4 (dk_at dksX1_games_4 5 rfl rfl)
theorem dX1_games_99 : decode cX1_games 99 = .ok (.iadd, 1) := dk_96 (dk_at dksX1_games_4 6 rfl rfl)
theorem dX1_games_100 : decode cX1_games 100 = .ok (.iastore, 1) := dk_79 (dk_at dksX1_games_4 7 rfl rfl)
theorem dX1_games_101 : decode cX1_games 101 = .ok (.aload_n 0, 1) := dk_42 (dk_at dksX1_games_4 8 rfl rfl)
theorem dX1_games_102 : decode cX1_games 102 = .ok (.getfield 57, 3) := dk_180 0 57 (dk_at dksX1_games_4 9 rfl rfl)
theorem dX1_games_105 : decode cX1_games 105 = .ok (.getfield 344, 3) := dk_180 1 88 (dk_at dksX1_games_4 12 rfl rfl)
theorem dX1_games_108 : decode cX1_games 108 = .ok (.iconst 2, 1) := dk_5 (dk_at dksX1_games_4 15 rfl rfl)
theorem dX1_games_109 : decode cX1_games 109 = .ok (.if_icmp .ge 17, 3) := dk_162 0 17 (dk_at dksX1_games_4 16 rfl rfl)
theorem dX1_games_112 : decode cX1_games 112 = .ok (.iload 5, 2) := dk_21 5 (dk_at dksX1_games_4 19 rfl rfl)
theorem dX1_games_114 : decode cX1_games 114 = .ok (.aload_n 0, 1) := dk_42 (dk_at dksX1_games_4 21 rfl rfl)
theorem dX1_games_115 : decode cX1_games 115 = .ok (.getfield 57, 3) := dk_180 0 57 (dk_at dksX1_games_5 0 rfl rfl)
theorem dX1_games_118 : decode cX1_games 118 = .ok (.getfield 347, 3) := dk_180 1 91 (dk_at dksX1_games_5 3 rfl rfl)
theorem dX1_games_121 : decode cX1_games 121 = .ok (.invokestatic 427, 3) := dk_184 1 171 (dk_at dksX1_games_5 6 rfl rfl)
theorem dX1_games_124 : decode cX1_games 124 = .ok (.istore 5, 2) := dk_54 5 (dk_at dksX1_games_5 9 rfl rfl)
theorem dX1_games_126 : decode cX1_games 126 = .ok (.iinc 6 1, 3) := dk_132 6 1 (dk_at dksX1_games_5 11 rfl rfl)
theorem dX1_games_129 : decode cX1_games 129 = .ok (.goto (-70), 3) := dk_167 255 186 (dk_at dksX1_games_5 14 rfl rfl)
theorem dX1_games_132 : decode cX1_games 132 = .ok (.iload_n 3, 1) := dk_29 (dk_at dksX1_games_5 17 rfl rfl)
theorem dX1_games_133 : decode cX1_games 133 = .ok (.iconst 3, 1) := dk_6 (dk_at dksX1_games_5 18 rfl rfl)
theorem dX1_games_134 : decode cX1_games 134 = .ok (.if_icmp .ge 10, 3) := dk_162 0 10 (dk_at dksX1_games_5 19 rfl rfl)
theorem dX1_games_137 : decode cX1_games 137 = .ok (.aload 4, 2) := dk_25 4 (dk_at dksX1_games_5 22 rfl rfl)
theorem dX1_games_139 : decode cX1_games 139 = .ok (.iload_n 3, 1) := dk_29 (dk_at dksX1_games_6 0 rfl rfl)
theorem dX1_games_140 : decode cX1_games 140 = .ok (.iaload, 1) := dk_46 (dk_at dksX1_games_6 1 rfl rfl)
theorem dX1_games_141 : decode cX1_games 141 = .ok (.goto 5, 3) := dk_167 0 5 (dk_at dksX1_games_6 2 rfl rfl)
theorem dX1_games_144 : decode cX1_games 144 = .ok (.iload 5, 2) := dk_21 5 (dk_at dksX1_games_6 5 rfl rfl)
theorem dX1_games_146 : decode cX1_games 146 = .ok (.ireturn, 1) := dk_172 (dk_at dksX1_games_6 7 rfl rfl)
abbrev cX1_looked : ByteArray := prog_1_method_67_code
def yX1_looked : MethodName := ⟨RX1, "looked", "(III)I"⟩
def dkwX1_looked_5 : List UInt8 := [132, 4, 1, 167, 255, 197, 2, 172]
abbrev dktX1_looked_5 : List UInt8 := dkwX1_looked_5 ++ []
def dkwX1_looked_4 : List UInt8 := [180, 1, 88, 5, 160, 0, 20, 29, 2, 160, 0, 8, 21, 4, 167, 0, 9, 42, 180, 0, 105, 29, 46, 172]
abbrev dktX1_looked_4 : List UInt8 := dkwX1_looked_4 ++ dktX1_looked_5
def dkwX1_looked_3 : List UInt8 := [42, 42, 180, 0, 64, 182, 0, 171, 42, 180, 0, 64, 180, 0, 198, 182, 1, 111, 42, 180, 0, 57]
abbrev dktX1_looked_3 : List UInt8 := dkwX1_looked_3 ++ dktX1_looked_4
def dkwX1_looked_2 : List UInt8 := [154, 0, 5, 2, 172, 42, 27, 133, 181, 1, 218, 3, 54, 4, 21, 4, 28, 162, 0, 59, 42, 182, 1, 235]
abbrev dktX1_looked_2 : List UInt8 := dkwX1_looked_2 ++ dktX1_looked_3
def dkwX1_looked_1 : List UInt8 := [42, 180, 0, 64, 182, 1, 233, 4, 100, 184, 0, 190, 153, 0, 13, 42, 180, 0, 64, 182, 1, 233]
abbrev dktX1_looked_1 : List UInt8 := dkwX1_looked_1 ++ dktX1_looked_2
def dkwX1_looked_0 : List UInt8 := [27, 3, 17, 39, 15, 184, 0, 190, 153, 0, 41, 28, 4, 17, 0, 200, 184, 0, 190, 153, 0, 30, 29, 2]
abbrev dktX1_looked_0 : List UInt8 := dkwX1_looked_0 ++ dktX1_looked_1
theorem dksX1_looked_0 : cX1_looked.data.toList.drop 0 = dktX1_looked_0 := by decide +kernel
theorem dksX1_looked_1 : cX1_looked.data.toList.drop 24 = dktX1_looked_1 := dk_seg dksX1_looked_0 24 rfl rfl
theorem dksX1_looked_2 : cX1_looked.data.toList.drop 46 = dktX1_looked_2 := dk_seg dksX1_looked_1 22 rfl rfl
theorem dksX1_looked_3 : cX1_looked.data.toList.drop 70 = dktX1_looked_3 := dk_seg dksX1_looked_2 24 rfl rfl
theorem dksX1_looked_4 : cX1_looked.data.toList.drop 92 = dktX1_looked_4 := dk_seg dksX1_looked_3 22 rfl rfl
theorem dksX1_looked_5 : cX1_looked.data.toList.drop 116 = dktX1_looked_5 := dk_seg dksX1_looked_4 24 rfl rfl
theorem dX1_looked_0 : decode cX1_looked 0 = .ok (.iload_n 1, 1) := dk_27 (dk_at dksX1_looked_0 0 rfl rfl)
theorem dX1_looked_1 : decode cX1_looked 1 = .ok (.iconst 0, 1) := dk_3 (dk_at dksX1_looked_0 1 rfl rfl)
theorem dX1_looked_2 : decode cX1_looked 2 = .ok (.sipush 9999, 3) := dk_17 39 15 (dk_at dksX1_looked_0 2 rfl rfl)
theorem dX1_looked_5 : decode cX1_looked 5 = .ok (.invokestatic 190, 3) := dk_184 0 190 (dk_at dksX1_looked_0 5 rfl rfl)
theorem dX1_looked_8 : decode cX1_looked 8 = .ok (.ifCond .eq 41, 3) := dk_153 0 41 (dk_at dksX1_looked_0 8 rfl rfl)
theorem dX1_looked_11 : decode cX1_looked 11 = .ok (.iload_n 2, 1) := dk_28 (dk_at dksX1_looked_0 11 rfl rfl)
theorem dX1_looked_12 : decode cX1_looked 12 = .ok (.iconst 1, 1) := dk_4 (dk_at dksX1_looked_0 12 rfl rfl)
theorem dX1_looked_13 : decode cX1_looked 13 = .ok (.sipush 200, 3) := dk_17 0 200 (dk_at dksX1_looked_0 13 rfl rfl)
theorem dX1_looked_16 : decode cX1_looked 16 = .ok (.invokestatic 190, 3) := dk_184 0 190 (dk_at dksX1_looked_0 16 rfl rfl)
theorem dX1_looked_19 : decode cX1_looked 19 = .ok (.ifCond .eq 30, 3) := dk_153 0 30 (dk_at dksX1_looked_0 19 rfl rfl)
theorem dX1_looked_22 : decode cX1_looked 22 = .ok (.iload_n 3, 1) := dk_29 (dk_at dksX1_looked_0 22 rfl rfl)
theorem dX1_looked_23 : decode cX1_looked 23 = .ok (.iconst (-1), 1) := dk_2 (dk_at dksX1_looked_0 23 rfl rfl)
theorem dX1_looked_24 : decode cX1_looked 24 = .ok (.aload_n 0, 1) := dk_42 (dk_at dksX1_looked_1 0 rfl rfl)
theorem dX1_looked_25 : decode cX1_looked 25 = .ok (.getfield 64, 3) := dk_180 0 64 (dk_at dksX1_looked_1 1 rfl rfl)
theorem dX1_looked_28 : decode cX1_looked 28 = .ok (.invokevirtual 489, 3) := dk_182 1 233 (dk_at dksX1_looked_1 4 rfl rfl)
theorem dX1_looked_31 : decode cX1_looked 31 = .ok (.iconst 1, 1) := dk_4 (dk_at dksX1_looked_1 7 rfl rfl)
theorem dX1_looked_32 : decode cX1_looked 32 = .ok (.isub, 1) := dk_100 (dk_at dksX1_looked_1 8 rfl rfl)
theorem dX1_looked_33 : decode cX1_looked 33 = .ok (.invokestatic 190, 3) := dk_184 0 190 (dk_at dksX1_looked_1 9 rfl rfl)
theorem dX1_looked_36 : decode cX1_looked 36 = .ok (.ifCond .eq 13, 3) := dk_153 0 13 (dk_at dksX1_looked_1 12 rfl rfl)
theorem dX1_looked_39 : decode cX1_looked 39 = .ok (.aload_n 0, 1) := dk_42 (dk_at dksX1_looked_1 15 rfl rfl)
theorem dX1_looked_40 : decode cX1_looked 40 = .ok (.getfield 64, 3) := dk_180 0 64 (dk_at dksX1_looked_1 16 rfl rfl)
theorem dX1_looked_43 : decode cX1_looked 43 = .ok (.invokevirtual 489, 3) := dk_182 1 233 (dk_at dksX1_looked_1 19 rfl rfl)
theorem dX1_looked_46 : decode cX1_looked 46 = .ok (.ifCond .ne 5, 3) := dk_154 0 5 (dk_at dksX1_looked_2 0 rfl rfl)
theorem dX1_looked_49 : decode cX1_looked 49 = .ok (.iconst (-1), 1) := dk_2 (dk_at dksX1_looked_2 3 rfl rfl)
theorem dX1_looked_50 : decode cX1_looked 50 = .ok (.ireturn, 1) := dk_172 (dk_at dksX1_looked_2 4 rfl rfl)
theorem dX1_looked_51 : decode cX1_looked 51 = .ok (.aload_n 0, 1) := dk_42 (dk_at dksX1_looked_2 5 rfl rfl)
theorem dX1_looked_52 : decode cX1_looked 52 = .ok (.iload_n 1, 1) := dk_27 (dk_at dksX1_looked_2 6 rfl rfl)
theorem dX1_looked_53 : decode cX1_looked 53 = .ok (.i2l, 1) := dk_133 (dk_at dksX1_looked_2 7 rfl rfl)
theorem dX1_looked_54 : decode cX1_looked 54 = .ok (.putfield 474, 3) := dk_181 1 218 (dk_at dksX1_looked_2 8 rfl rfl)
theorem dX1_looked_57 : decode cX1_looked 57 = .ok (.iconst 0, 1) := dk_3 (dk_at dksX1_looked_2 11 rfl rfl)
theorem dX1_looked_58 : decode cX1_looked 58 = .ok (.istore 4, 2) := dk_54 4 (dk_at dksX1_looked_2 12 rfl rfl)
theorem dX1_looked_60 : decode cX1_looked 60 = .ok (.iload 4, 2) := dk_21 4 (dk_at dksX1_looked_2 14 rfl rfl)
theorem dX1_looked_62 : decode cX1_looked 62 = .ok (.iload_n 2, 1) := dk_28 (dk_at dksX1_looked_2 16 rfl rfl)
theorem dX1_looked_63 : decode cX1_looked 63 = .ok (.if_icmp .ge 59, 3) := dk_162 0 59 (dk_at dksX1_looked_2 17 rfl rfl)
theorem dX1_looked_66 : decode cX1_looked 66 = .ok (.aload_n 0, 1) := dk_42 (dk_at dksX1_looked_2 20 rfl rfl)
theorem dX1_looked_67 : decode cX1_looked 67 = .ok (.invokevirtual 491, 3) := dk_182 1 235 (dk_at dksX1_looked_2 21 rfl rfl)
theorem dX1_looked_70 : decode cX1_looked 70 = .ok (.aload_n 0, 1) := dk_42 (dk_at dksX1_looked_3 0 rfl rfl)
theorem dX1_looked_71 : decode cX1_looked 71 = .ok (.aload_n 0, 1) := dk_42 (dk_at dksX1_looked_3 1 rfl rfl)
theorem dX1_looked_72 : decode cX1_looked 72 = .ok (.getfield 64, 3) := dk_180 0 64 (dk_at dksX1_looked_3 2 rfl rfl)
theorem dX1_looked_75 : decode cX1_looked 75 = .ok (.invokevirtual 171, 3) := dk_182 0 171 (dk_at dksX1_looked_3 5 rfl rfl)
theorem dX1_looked_78 : decode cX1_looked 78 = .ok (.aload_n 0, 1) := dk_42 (dk_at dksX1_looked_3 8 rfl rfl)
theorem dX1_looked_79 : decode cX1_looked 79 = .ok (.getfield 64, 3) := dk_180 0 64 (dk_at dksX1_looked_3 9 rfl rfl)
theorem dX1_looked_82 : decode cX1_looked 82 = .ok (.getfield 198, 3) := dk_180 0 198 (dk_at dksX1_looked_3 12 rfl rfl)
theorem dX1_looked_85 : decode cX1_looked 85 = .ok (.invokevirtual 367, 3) := dk_182 1 111 (dk_at dksX1_looked_3 15 rfl rfl)
theorem dX1_looked_88 : decode cX1_looked 88 = .ok (.aload_n 0, 1) := dk_42 (dk_at dksX1_looked_3 18 rfl rfl)
theorem dX1_looked_89 : decode cX1_looked 89 = .ok (.getfield 57, 3) := dk_180 0 57 (dk_at dksX1_looked_3 19 rfl rfl)
theorem dX1_looked_92 : decode cX1_looked 92 = .ok (.getfield 344, 3) := dk_180 1 88 (dk_at dksX1_looked_4 0 rfl rfl)
theorem dX1_looked_95 : decode cX1_looked 95 = .ok (.iconst 2, 1) := dk_5 (dk_at dksX1_looked_4 3 rfl rfl)
theorem dX1_looked_96 : decode cX1_looked 96 = .ok (.if_icmp .ne 20, 3) := dk_160 0 20 (dk_at dksX1_looked_4 4 rfl rfl)
theorem dX1_looked_99 : decode cX1_looked 99 = .ok (.iload_n 3, 1) := dk_29 (dk_at dksX1_looked_4 7 rfl rfl)
theorem dX1_looked_100 : decode cX1_looked 100 = .ok (.iconst (-1), 1) := dk_2 (dk_at dksX1_looked_4 8 rfl rfl)
theorem dX1_looked_101 : decode cX1_looked 101 = .ok (.if_icmp .ne 8, 3) := dk_160 0 8 (dk_at dksX1_looked_4 9 rfl rfl)
theorem dX1_looked_104 : decode cX1_looked 104 = .ok (.iload 4, 2) := dk_21 4 (dk_at dksX1_looked_4 12 rfl rfl)
theorem dX1_looked_106 : decode cX1_looked 106 = .ok (.goto 9, 3) := dk_167 0 9 (dk_at dksX1_looked_4 14 rfl rfl)
theorem dX1_looked_109 : decode cX1_looked 109 = .ok (.aload_n 0, 1) := dk_42 (dk_at dksX1_looked_4 17 rfl rfl)
theorem dX1_looked_110 : decode cX1_looked 110 = .ok (.getfield 105, 3) := dk_180 0 105 (dk_at dksX1_looked_4 18 rfl rfl)
theorem dX1_looked_113 : decode cX1_looked 113 = .ok (.iload_n 3, 1) := dk_29 (dk_at dksX1_looked_4 21 rfl rfl)
theorem dX1_looked_114 : decode cX1_looked 114 = .ok (.iaload, 1) := dk_46 (dk_at dksX1_looked_4 22 rfl rfl)
theorem dX1_looked_115 : decode cX1_looked 115 = .ok (.ireturn, 1) := dk_172 (dk_at dksX1_looked_4 23 rfl rfl)
theorem dX1_looked_116 : decode cX1_looked 116 = .ok (.iinc 4 1, 3) := dk_132 4 1 (dk_at dksX1_looked_5 0 rfl rfl)
theorem dX1_looked_119 : decode cX1_looked 119 = .ok (.goto (-59), 3) := dk_167 255 197 (dk_at dksX1_looked_5 3 rfl rfl)
theorem dX1_looked_122 : decode cX1_looked 122 = .ok (.iconst (-1), 1) := dk_2 (dk_at dksX1_looked_5 6 rfl rfl)
theorem dX1_looked_123 : decode cX1_looked 123 = .ok (.ireturn, 1) := dk_172 (dk_at dksX1_looked_5 7 rfl rfl)
abbrev cX1_mark : ByteArray := prog_1_method_68_code
def yX1_mark : MethodName := ⟨RX1, "mark", "(IZ)Z"⟩
def dkwX1_mark_6 : List UInt8 := [184, 0, 161, 45, 42, 180, 0, 153, 181, 1, 242, 4, 172]
abbrev dktX1_mark_6 : List UInt8 := dkwX1_mark_6 ++ []
def dkwX1_mark_5 : List UInt8 := [182, 0, 239, 42, 180, 0, 90, 45, 180, 1, 240, 184, 0, 161, 42, 180, 0, 94, 45, 180, 1, 241]
abbrev dktX1_mark_5 : List UInt8 := dkwX1_mark_5 ++ dktX1_mark_6
def dkwX1_mark_4 : List UInt8 := [180, 1, 242, 181, 0, 153, 42, 3, 181, 0, 179, 167, 0, 44, 45, 180, 1, 239, 42, 180, 0, 80]
abbrev dktX1_mark_4 : List UInt8 := dkwX1_mark_4 ++ dktX1_mark_5
def dkwX1_mark_3 : List UInt8 := [180, 1, 240, 42, 180, 0, 90, 184, 0, 161, 45, 180, 1, 241, 42, 180, 0, 94, 184, 0, 161, 42, 45]
abbrev dktX1_mark_3 : List UInt8 := dkwX1_mark_3 ++ dktX1_mark_4
def dkwX1_mark_2 : List UInt8 := [180, 0, 119, 27, 50, 78, 28, 153, 0, 52, 42, 180, 0, 80, 45, 180, 1, 239, 182, 0, 239, 45]
abbrev dktX1_mark_2 : List UInt8 := dkwX1_mark_2 ++ dktX1_mark_3
def dkwX1_mark_1 : List UInt8 := [42, 180, 0, 119, 27, 50, 199, 0, 16, 42, 180, 0, 119, 27, 187, 0, 117, 89, 183, 1, 238, 83, 42]
abbrev dktX1_mark_1 : List UInt8 := dkwX1_mark_1 ++ dktX1_mark_2
def dkwX1_mark_0 : List UInt8 := [27, 3, 6, 184, 0, 190, 153, 0, 16, 28, 153, 0, 14, 42, 180, 0, 119, 27, 50, 199, 0, 5, 3, 172]
abbrev dktX1_mark_0 : List UInt8 := dkwX1_mark_0 ++ dktX1_mark_1
theorem dksX1_mark_0 : cX1_mark.data.toList.drop 0 = dktX1_mark_0 := by decide +kernel
theorem dksX1_mark_1 : cX1_mark.data.toList.drop 24 = dktX1_mark_1 := dk_seg dksX1_mark_0 24 rfl rfl
theorem dksX1_mark_2 : cX1_mark.data.toList.drop 47 = dktX1_mark_2 := dk_seg dksX1_mark_1 23 rfl rfl
theorem dksX1_mark_3 : cX1_mark.data.toList.drop 69 = dktX1_mark_3 := dk_seg dksX1_mark_2 22 rfl rfl
theorem dksX1_mark_4 : cX1_mark.data.toList.drop 92 = dktX1_mark_4 := dk_seg dksX1_mark_3 23 rfl rfl
theorem dksX1_mark_5 : cX1_mark.data.toList.drop 114 = dktX1_mark_5 := dk_seg dksX1_mark_4 22 rfl rfl
theorem dksX1_mark_6 : cX1_mark.data.toList.drop 136 = dktX1_mark_6 := dk_seg dksX1_mark_5 22 rfl rfl
theorem dX1_mark_0 : decode cX1_mark 0 = .ok (.iload_n 1, 1) := dk_27 (dk_at dksX1_mark_0 0 rfl rfl)
theorem dX1_mark_1 : decode cX1_mark 1 = .ok (.iconst 0, 1) := dk_3 (dk_at dksX1_mark_0 1 rfl rfl)
theorem dX1_mark_2 : decode cX1_mark 2 = .ok (.iconst 3, 1) := dk_6 (dk_at dksX1_mark_0 2 rfl rfl)
theorem dX1_mark_3 : decode cX1_mark 3 = .ok (.invokestatic 190, 3) := dk_184 0 190 (dk_at dksX1_mark_0 3 rfl rfl)
theorem dX1_mark_6 : decode cX1_mark 6 = .ok (.ifCond .eq 16, 3) := dk_153 0 16 (dk_at dksX1_mark_0 6 rfl rfl)
theorem dX1_mark_9 : decode cX1_mark 9 = .ok (.iload_n 2, 1) := dk_28 (dk_at dksX1_mark_0 9 rfl rfl)
theorem dX1_mark_10 : decode cX1_mark 10 = .ok (.ifCond .eq 14, 3) := dk_153 0 14 (dk_at dksX1_mark_0 10 rfl rfl)
theorem dX1_mark_13 : decode cX1_mark 13 = .ok (.aload_n 0, 1) := dk_42 (dk_at dksX1_mark_0 13 rfl rfl)
theorem dX1_mark_14 : decode cX1_mark 14 = .ok (.getfield 119, 3) := dk_180 0 119 (dk_at dksX1_mark_0 14 rfl rfl)
theorem dX1_mark_17 : decode cX1_mark 17 = .ok (.iload_n 1, 1) := dk_27 (dk_at dksX1_mark_0 17 rfl rfl)
theorem dX1_mark_18 : decode cX1_mark 18 = .ok (.aaload, 1) := dk_50 (dk_at dksX1_mark_0 18 rfl rfl)
theorem dX1_mark_19 : decode cX1_mark 19 = .ok (.ifnonnull 5, 3) := dk_199 0 5 (dk_at dksX1_mark_0 19 rfl rfl)
theorem dX1_mark_22 : decode cX1_mark 22 = .ok (.iconst 0, 1) := dk_3 (dk_at dksX1_mark_0 22 rfl rfl)
theorem dX1_mark_23 : decode cX1_mark 23 = .ok (.ireturn, 1) := dk_172 (dk_at dksX1_mark_0 23 rfl rfl)
theorem dX1_mark_24 : decode cX1_mark 24 = .ok (.aload_n 0, 1) := dk_42 (dk_at dksX1_mark_1 0 rfl rfl)
theorem dX1_mark_25 : decode cX1_mark 25 = .ok (.getfield 119, 3) := dk_180 0 119 (dk_at dksX1_mark_1 1 rfl rfl)
theorem dX1_mark_28 : decode cX1_mark 28 = .ok (.iload_n 1, 1) := dk_27 (dk_at dksX1_mark_1 4 rfl rfl)
theorem dX1_mark_29 : decode cX1_mark 29 = .ok (.aaload, 1) := dk_50 (dk_at dksX1_mark_1 5 rfl rfl)
theorem dX1_mark_30 : decode cX1_mark 30 = .ok (.ifnonnull 16, 3) := dk_199 0 16 (dk_at dksX1_mark_1 6 rfl rfl)
theorem dX1_mark_33 : decode cX1_mark 33 = .ok (.aload_n 0, 1) := dk_42 (dk_at dksX1_mark_1 9 rfl rfl)
theorem dX1_mark_34 : decode cX1_mark 34 = .ok (.getfield 119, 3) := dk_180 0 119 (dk_at dksX1_mark_1 10 rfl rfl)
theorem dX1_mark_37 : decode cX1_mark 37 = .ok (.iload_n 1, 1) := dk_27 (dk_at dksX1_mark_1 13 rfl rfl)
theorem dX1_mark_38 : decode cX1_mark 38 = .ok (.new 117, 3) := dk_187 0 117 (dk_at dksX1_mark_1 14 rfl rfl)
theorem dX1_mark_41 : decode cX1_mark 41 = .ok (.dup, 1) := dk_89 (dk_at dksX1_mark_1 17 rfl rfl)
theorem dX1_mark_42 : decode cX1_mark 42 = .ok (.invokespecial 494, 3) := dk_183 1 238 (dk_at dksX1_mark_1 18 rfl rfl)
theorem dX1_mark_45 : decode cX1_mark 45 = .ok (.aastore, 1) := dk_83 (dk_at dksX1_mark_1 21 rfl rfl)
theorem dX1_mark_46 : decode cX1_mark 46 = .ok (.aload_n 0, 1) := dk_42 (dk_at dksX1_mark_1 22 rfl rfl)
theorem dX1_mark_47 : decode cX1_mark 47 = .ok (.getfield 119, 3) := dk_180 0 119 (dk_at dksX1_mark_2 0 rfl rfl)
theorem dX1_mark_50 : decode cX1_mark 50 = .ok (.iload_n 1, 1) := dk_27 (dk_at dksX1_mark_2 3 rfl rfl)
theorem dX1_mark_51 : decode cX1_mark 51 = .ok (.aaload, 1) := dk_50 (dk_at dksX1_mark_2 4 rfl rfl)
theorem dX1_mark_52 : decode cX1_mark 52 = .ok (.astore_n 3, 1) := dk_78 (dk_at dksX1_mark_2 5 rfl rfl)
theorem dX1_mark_53 : decode cX1_mark 53 = .ok (.iload_n 2, 1) := dk_28 (dk_at dksX1_mark_2 6 rfl rfl)
theorem dX1_mark_54 : decode cX1_mark 54 = .ok (.ifCond .eq 52, 3) := dk_153 0 52 (dk_at dksX1_mark_2 7 rfl rfl)
theorem dX1_mark_57 : decode cX1_mark 57 = .ok (.aload_n 0, 1) := dk_42 (dk_at dksX1_mark_2 10 rfl rfl)
theorem dX1_mark_58 : decode cX1_mark 58 = .ok (.getfield 80, 3) := dk_180 0 80 (dk_at dksX1_mark_2 11 rfl rfl)
theorem dX1_mark_61 : decode cX1_mark 61 = .ok (.aload_n 3, 1) := dk_45 (dk_at dksX1_mark_2 14 rfl rfl)
theorem dX1_mark_62 : decode cX1_mark 62 = .ok (.getfield 495, 3) := dk_180 1 239 (dk_at dksX1_mark_2 15 rfl rfl)
theorem dX1_mark_65 : decode cX1_mark 65 = .ok (.invokevirtual 239, 3) := dk_182 0 239 (dk_at dksX1_mark_2 18 rfl rfl)
theorem dX1_mark_68 : decode cX1_mark 68 = .ok (.aload_n 3, 1) := dk_45 (dk_at dksX1_mark_2 21 rfl rfl)
theorem dX1_mark_69 : decode cX1_mark 69 = .ok (.getfield 496, 3) := dk_180 1 240 (dk_at dksX1_mark_3 0 rfl rfl)
theorem dX1_mark_72 : decode cX1_mark 72 = .ok (.aload_n 0, 1) := dk_42 (dk_at dksX1_mark_3 3 rfl rfl)
theorem dX1_mark_73 : decode cX1_mark 73 = .ok (.getfield 90, 3) := dk_180 0 90 (dk_at dksX1_mark_3 4 rfl rfl)
theorem dX1_mark_76 : decode cX1_mark 76 = .ok (.invokestatic 161, 3) := dk_184 0 161 (dk_at dksX1_mark_3 7 rfl rfl)
theorem dX1_mark_79 : decode cX1_mark 79 = .ok (.aload_n 3, 1) := dk_45 (dk_at dksX1_mark_3 10 rfl rfl)
theorem dX1_mark_80 : decode cX1_mark 80 = .ok (.getfield 497, 3) := dk_180 1 241 (dk_at dksX1_mark_3 11 rfl rfl)
theorem dX1_mark_83 : decode cX1_mark 83 = .ok (.aload_n 0, 1) := dk_42 (dk_at dksX1_mark_3 14 rfl rfl)
theorem dX1_mark_84 : decode cX1_mark 84 = .ok (.getfield 94, 3) := dk_180 0 94 (dk_at dksX1_mark_3 15 rfl rfl)
theorem dX1_mark_87 : decode cX1_mark 87 = .ok (.invokestatic 161, 3) := dk_184 0 161 (dk_at dksX1_mark_3 18 rfl rfl)
theorem dX1_mark_90 : decode cX1_mark 90 = .ok (.aload_n 0, 1) := dk_42 (dk_at dksX1_mark_3 21 rfl rfl)
theorem dX1_mark_91 : decode cX1_mark 91 = .ok (.aload_n 3, 1) := dk_45 (dk_at dksX1_mark_3 22 rfl rfl)
theorem dX1_mark_92 : decode cX1_mark 92 = .ok (.getfield 498, 3) := dk_180 1 242 (dk_at dksX1_mark_4 0 rfl rfl)
theorem dX1_mark_95 : decode cX1_mark 95 = .ok (.putfield 153, 3) := dk_181 0 153 (dk_at dksX1_mark_4 3 rfl rfl)
theorem dX1_mark_98 : decode cX1_mark 98 = .ok (.aload_n 0, 1) := dk_42 (dk_at dksX1_mark_4 6 rfl rfl)
theorem dX1_mark_99 : decode cX1_mark 99 = .ok (.iconst 0, 1) := dk_3 (dk_at dksX1_mark_4 7 rfl rfl)
theorem dX1_mark_100 : decode cX1_mark 100 = .ok (.putfield 179, 3) := dk_181 0 179 (dk_at dksX1_mark_4 8 rfl rfl)
theorem dX1_mark_103 : decode cX1_mark 103 = .ok (.goto 44, 3) := dk_167 0 44 (dk_at dksX1_mark_4 11 rfl rfl)
theorem dX1_mark_106 : decode cX1_mark 106 = .ok (.aload_n 3, 1) := dk_45 (dk_at dksX1_mark_4 14 rfl rfl)
theorem dX1_mark_107 : decode cX1_mark 107 = .ok (.getfield 495, 3) := dk_180 1 239 (dk_at dksX1_mark_4 15 rfl rfl)
theorem dX1_mark_110 : decode cX1_mark 110 = .ok (.aload_n 0, 1) := dk_42 (dk_at dksX1_mark_4 18 rfl rfl)
theorem dX1_mark_111 : decode cX1_mark 111 = .ok (.getfield 80, 3) := dk_180 0 80 (dk_at dksX1_mark_4 19 rfl rfl)
theorem dX1_mark_114 : decode cX1_mark 114 = .ok (.invokevirtual 239, 3) := dk_182 0 239 (dk_at dksX1_mark_5 0 rfl rfl)
theorem dX1_mark_117 : decode cX1_mark 117 = .ok (.aload_n 0, 1) := dk_42 (dk_at dksX1_mark_5 3 rfl rfl)
theorem dX1_mark_118 : decode cX1_mark 118 = .ok (.getfield 90, 3) := dk_180 0 90 (dk_at dksX1_mark_5 4 rfl rfl)
theorem dX1_mark_121 : decode cX1_mark 121 = .ok (.aload_n 3, 1) := dk_45 (dk_at dksX1_mark_5 7 rfl rfl)
theorem dX1_mark_122 : decode cX1_mark 122 = .ok (.getfield 496, 3) := dk_180 1 240 (dk_at dksX1_mark_5 8 rfl rfl)
theorem dX1_mark_125 : decode cX1_mark 125 = .ok (.invokestatic 161, 3) := dk_184 0 161 (dk_at dksX1_mark_5 11 rfl rfl)
theorem dX1_mark_128 : decode cX1_mark 128 = .ok (.aload_n 0, 1) := dk_42 (dk_at dksX1_mark_5 14 rfl rfl)
theorem dX1_mark_129 : decode cX1_mark 129 = .ok (.getfield 94, 3) := dk_180 0 94 (dk_at dksX1_mark_5 15 rfl rfl)
theorem dX1_mark_132 : decode cX1_mark 132 = .ok (.aload_n 3, 1) := dk_45 (dk_at dksX1_mark_5 18 rfl rfl)
theorem dX1_mark_133 : decode cX1_mark 133 = .ok (.getfield 497, 3) := dk_180 1 241 (dk_at dksX1_mark_5 19 rfl rfl)
theorem dX1_mark_136 : decode cX1_mark 136 = .ok (.invokestatic 161, 3) := dk_184 0 161 (dk_at dksX1_mark_6 0 rfl rfl)
theorem dX1_mark_139 : decode cX1_mark 139 = .ok (.aload_n 3, 1) := dk_45 (dk_at dksX1_mark_6 3 rfl rfl)
theorem dX1_mark_140 : decode cX1_mark 140 = .ok (.aload_n 0, 1) := dk_42 (dk_at dksX1_mark_6 4 rfl rfl)
theorem dX1_mark_141 : decode cX1_mark 141 = .ok (.getfield 153, 3) := dk_180 0 153 (dk_at dksX1_mark_6 5 rfl rfl)
theorem dX1_mark_144 : decode cX1_mark 144 = .ok (.putfield 498, 3) := dk_181 1 242 (dk_at dksX1_mark_6 8 rfl rfl)
theorem dX1_mark_147 : decode cX1_mark 147 = .ok (.iconst 1, 1) := dk_4 (dk_at dksX1_mark_6 11 rfl rfl)
theorem dX1_mark_148 : decode cX1_mark 148 = .ok (.ireturn, 1) := dk_172 (dk_at dksX1_mark_6 12 rfl rfl)
abbrev cX1_count : ByteArray := prog_1_method_69_code
def yX1_count : MethodName := ⟨RX1, "count", "(I)I"⟩
def dkwX1_count_8 : List UInt8 := [172, 42, 180, 0, 126, 172, 2, 172]
abbrev dktX1_count_8 : List UInt8 := dkwX1_count_8 ++ []
def dkwX1_count_7 : List UInt8 := [180, 0, 249, 172, 42, 180, 0, 179, 172, 42, 180, 0, 64, 182, 1, 78, 172, 42, 180, 0, 64, 182, 1, 13]
abbrev dktX1_count_7 : List UInt8 := dkwX1_count_7 ++ dktX1_count_8
def dkwX1_count_6 : List UInt8 := [180, 0, 80, 180, 1, 20, 182, 0, 185, 172, 42, 180, 0, 73, 182, 0, 185, 172, 42, 180, 0, 80]
abbrev dktX1_count_6 : List UInt8 := dkwX1_count_6 ++ dktX1_count_7
def dkwX1_count_5 : List UInt8 := [180, 0, 80, 180, 1, 118, 172, 42, 180, 0, 80, 180, 1, 28, 172, 42, 180, 0, 80, 180, 1, 31, 172, 42]
abbrev dktX1_count_5 : List UInt8 := dkwX1_count_5 ++ dktX1_count_6
def dkwX1_count_4 : List UInt8 := [180, 0, 80, 180, 1, 243, 172, 42, 180, 0, 80, 180, 0, 255, 172, 42, 180, 0, 80, 180, 1, 40, 172, 42]
abbrev dktX1_count_4 : List UInt8 := dkwX1_count_4 ++ dktX1_count_5
def dkwX1_count_3 : List UInt8 := [180, 0, 80, 180, 1, 129, 172, 42, 180, 0, 80, 180, 0, 204, 172, 42, 180, 0, 80, 180, 1, 59, 172, 42]
abbrev dktX1_count_3 : List UInt8 := dkwX1_count_3 ++ dktX1_count_4
def dkwX1_count_2 : List UInt8 := [42, 182, 0, 188, 172, 42, 180, 0, 64, 182, 1, 233, 172, 42, 180, 0, 80, 180, 1, 126, 172, 42]
abbrev dktX1_count_2 : List UInt8 := dkwX1_count_2 ++ dktX1_count_3
def dkwX1_count_1 : List UInt8 := [170, 0, 0, 0, 0, 0, 237, 0, 0, 0, 0, 0, 0, 0, 18, 0, 0, 0, 91, 0, 0, 0, 96, 0, 0, 0, 104, 0, 0, 0, 112, 0, 0, 0, 120, 0, 0, 0, 128, 0, 0, 0, 136, 0, 0, 0, 144, 0, 0, 0, 152, 0, 0, 0, 160, 0, 0, 0, 168, 0, 0, 0, 176, 0, 0, 0, 184, 0, 0, 0, 195, 0, 0, 0, 203, 0, 0, 0, 211, 0, 0, 0, 216, 0, 0, 0, 224, 0, 0, 0, 232]
abbrev dktX1_count_1 : List UInt8 := dkwX1_count_1 ++ dktX1_count_2
def dkwX1_count_0 : List UInt8 := [27]
abbrev dktX1_count_0 : List UInt8 := dkwX1_count_0 ++ dktX1_count_1
theorem dksX1_count_0 : cX1_count.data.toList.drop 0 = dktX1_count_0 := by decide +kernel
theorem dksX1_count_1 : cX1_count.data.toList.drop 1 = dktX1_count_1 := dk_seg dksX1_count_0 1 rfl rfl
theorem dksX1_count_2 : cX1_count.data.toList.drop 92 = dktX1_count_2 := dk_seg dksX1_count_1 91 rfl rfl
theorem dksX1_count_3 : cX1_count.data.toList.drop 114 = dktX1_count_3 := dk_seg dksX1_count_2 22 rfl rfl
theorem dksX1_count_4 : cX1_count.data.toList.drop 138 = dktX1_count_4 := dk_seg dksX1_count_3 24 rfl rfl
theorem dksX1_count_5 : cX1_count.data.toList.drop 162 = dktX1_count_5 := dk_seg dksX1_count_4 24 rfl rfl
theorem dksX1_count_6 : cX1_count.data.toList.drop 186 = dktX1_count_6 := dk_seg dksX1_count_5 24 rfl rfl
theorem dksX1_count_7 : cX1_count.data.toList.drop 208 = dktX1_count_7 := dk_seg dksX1_count_6 22 rfl rfl
theorem dksX1_count_8 : cX1_count.data.toList.drop 232 = dktX1_count_8 := dk_seg dksX1_count_7 24 rfl rfl
theorem dX1_count_0 : decode cX1_count 0 = .ok (.iload_n 1, 1) := dk_27 (dk_at dksX1_count_0 0 rfl rfl)
theorem dX1_count_1 : decode cX1_count 1 = .ok (.tableswitch 237 0 18 #[91, 96, 104, 112, 120, 128, 136, 144, 152, 160, 168, 176, 184, 195, 203, 211, 216, 224, 232], 91) := by decide +kernel
theorem dX1_count_92 : decode cX1_count 92 = .ok (.aload_n 0, 1) := dk_42 (dk_at dksX1_count_2 0 rfl rfl)
theorem dX1_count_93 : decode cX1_count 93 = .ok (.invokevirtual 188, 3) := dk_182 0 188 (dk_at dksX1_count_2 1 rfl rfl)
theorem dX1_count_96 : decode cX1_count 96 = .ok (.ireturn, 1) := dk_172 (dk_at dksX1_count_2 4 rfl rfl)
theorem dX1_count_97 : decode cX1_count 97 = .ok (.aload_n 0, 1) := dk_42 (dk_at dksX1_count_2 5 rfl rfl)
theorem dX1_count_98 : decode cX1_count 98 = .ok (.getfield 64, 3) := dk_180 0 64 (dk_at dksX1_count_2 6 rfl rfl)
theorem dX1_count_101 : decode cX1_count 101 = .ok (.invokevirtual 489, 3) := dk_182 1 233 (dk_at dksX1_count_2 9 rfl rfl)
theorem dX1_count_104 : decode cX1_count 104 = .ok (.ireturn, 1) := dk_172 (dk_at dksX1_count_2 12 rfl rfl)
theorem dX1_count_105 : decode cX1_count 105 = .ok (.aload_n 0, 1) := dk_42 (dk_at dksX1_count_2 13 rfl rfl)
theorem dX1_count_106 : decode cX1_count 106 = .ok (.getfield 80, 3) := dk_180 0 80 (dk_at dksX1_count_2 14 rfl rfl)
theorem dX1_count_109 : decode cX1_count 109 = .ok (.getfield 382, 3) := dk_180 1 126 (dk_at dksX1_count_2 17 rfl rfl)
theorem dX1_count_112 : decode cX1_count 112 = .ok (.ireturn, 1) := dk_172 (dk_at dksX1_count_2 20 rfl rfl)
theorem dX1_count_113 : decode cX1_count 113 = .ok (.aload_n 0, 1) := dk_42 (dk_at dksX1_count_2 21 rfl rfl)
theorem dX1_count_114 : decode cX1_count 114 = .ok (.getfield 80, 3) := dk_180 0 80 (dk_at dksX1_count_3 0 rfl rfl)
theorem dX1_count_117 : decode cX1_count 117 = .ok (.getfield 385, 3) := dk_180 1 129 (dk_at dksX1_count_3 3 rfl rfl)
theorem dX1_count_120 : decode cX1_count 120 = .ok (.ireturn, 1) := dk_172 (dk_at dksX1_count_3 6 rfl rfl)
theorem dX1_count_121 : decode cX1_count 121 = .ok (.aload_n 0, 1) := dk_42 (dk_at dksX1_count_3 7 rfl rfl)
theorem dX1_count_122 : decode cX1_count 122 = .ok (.getfield 80, 3) := dk_180 0 80 (dk_at dksX1_count_3 8 rfl rfl)
theorem dX1_count_125 : decode cX1_count 125 = .ok (.getfield 204, 3) := dk_180 0 204 (dk_at dksX1_count_3 11 rfl rfl)
theorem dX1_count_128 : decode cX1_count 128 = .ok (.ireturn, 1) := dk_172 (dk_at dksX1_count_3 14 rfl rfl)
theorem dX1_count_129 : decode cX1_count 129 = .ok (.aload_n 0, 1) := dk_42 (dk_at dksX1_count_3 15 rfl rfl)
theorem dX1_count_130 : decode cX1_count 130 = .ok (.getfield 80, 3) := dk_180 0 80 (dk_at dksX1_count_3 16 rfl rfl)
theorem dX1_count_133 : decode cX1_count 133 = .ok (.getfield 315, 3) := dk_180 1 59 (dk_at dksX1_count_3 19 rfl rfl)
theorem dX1_count_136 : decode cX1_count 136 = .ok (.ireturn, 1) := dk_172 (dk_at dksX1_count_3 22 rfl rfl)
theorem dX1_count_137 : decode cX1_count 137 = .ok (.aload_n 0, 1) := dk_42 (dk_at dksX1_count_3 23 rfl rfl)
theorem dX1_count_138 : decode cX1_count 138 = .ok (.getfield 80, 3) := dk_180 0 80 (dk_at dksX1_count_4 0 rfl rfl)
theorem dX1_count_141 : decode cX1_count 141 = .ok (.getfield 499, 3) := dk_180 1 243 (dk_at dksX1_count_4 3 rfl rfl)
theorem dX1_count_144 : decode cX1_count 144 = .ok (.ireturn, 1) := dk_172 (dk_at dksX1_count_4 6 rfl rfl)
theorem dX1_count_145 : decode cX1_count 145 = .ok (.aload_n 0, 1) := dk_42 (dk_at dksX1_count_4 7 rfl rfl)
theorem dX1_count_146 : decode cX1_count 146 = .ok (.getfield 80, 3) := dk_180 0 80 (dk_at dksX1_count_4 8 rfl rfl)
theorem dX1_count_149 : decode cX1_count 149 = .ok (.getfield 255, 3) := dk_180 0 255 (dk_at dksX1_count_4 11 rfl rfl)
theorem dX1_count_152 : decode cX1_count 152 = .ok (.ireturn, 1) := dk_172 (dk_at dksX1_count_4 14 rfl rfl)
theorem dX1_count_153 : decode cX1_count 153 = .ok (.aload_n 0, 1) := dk_42 (dk_at dksX1_count_4 15 rfl rfl)
theorem dX1_count_154 : decode cX1_count 154 = .ok (.getfield 80, 3) := dk_180 0 80 (dk_at dksX1_count_4 16 rfl rfl)
theorem dX1_count_157 : decode cX1_count 157 = .ok (.getfield 296, 3) := dk_180 1 40 (dk_at dksX1_count_4 19 rfl rfl)
theorem dX1_count_160 : decode cX1_count 160 = .ok (.ireturn, 1) := dk_172 (dk_at dksX1_count_4 22 rfl rfl)
theorem dX1_count_161 : decode cX1_count 161 = .ok (.aload_n 0, 1) := dk_42 (dk_at dksX1_count_4 23 rfl rfl)
theorem dX1_count_162 : decode cX1_count 162 = .ok (.getfield 80, 3) := dk_180 0 80 (dk_at dksX1_count_5 0 rfl rfl)
theorem dX1_count_165 : decode cX1_count 165 = .ok (.getfield 374, 3) := dk_180 1 118 (dk_at dksX1_count_5 3 rfl rfl)
theorem dX1_count_168 : decode cX1_count 168 = .ok (.ireturn, 1) := dk_172 (dk_at dksX1_count_5 6 rfl rfl)
theorem dX1_count_169 : decode cX1_count 169 = .ok (.aload_n 0, 1) := dk_42 (dk_at dksX1_count_5 7 rfl rfl)
theorem dX1_count_170 : decode cX1_count 170 = .ok (.getfield 80, 3) := dk_180 0 80 (dk_at dksX1_count_5 8 rfl rfl)
theorem dX1_count_173 : decode cX1_count 173 = .ok (.getfield 284, 3) := dk_180 1 28 (dk_at dksX1_count_5 11 rfl rfl)
theorem dX1_count_176 : decode cX1_count 176 = .ok (.ireturn, 1) := dk_172 (dk_at dksX1_count_5 14 rfl rfl)
theorem dX1_count_177 : decode cX1_count 177 = .ok (.aload_n 0, 1) := dk_42 (dk_at dksX1_count_5 15 rfl rfl)
theorem dX1_count_178 : decode cX1_count 178 = .ok (.getfield 80, 3) := dk_180 0 80 (dk_at dksX1_count_5 16 rfl rfl)
theorem dX1_count_181 : decode cX1_count 181 = .ok (.getfield 287, 3) := dk_180 1 31 (dk_at dksX1_count_5 19 rfl rfl)
theorem dX1_count_184 : decode cX1_count 184 = .ok (.ireturn, 1) := dk_172 (dk_at dksX1_count_5 22 rfl rfl)
theorem dX1_count_185 : decode cX1_count 185 = .ok (.aload_n 0, 1) := dk_42 (dk_at dksX1_count_5 23 rfl rfl)
theorem dX1_count_186 : decode cX1_count 186 = .ok (.getfield 80, 3) := dk_180 0 80 (dk_at dksX1_count_6 0 rfl rfl)
theorem dX1_count_189 : decode cX1_count 189 = .ok (.getfield 276, 3) := dk_180 1 20 (dk_at dksX1_count_6 3 rfl rfl)
theorem dX1_count_192 : decode cX1_count 192 = .ok (.invokevirtual 185, 3) := dk_182 0 185 (dk_at dksX1_count_6 6 rfl rfl)
theorem dX1_count_195 : decode cX1_count 195 = .ok (.ireturn, 1) := dk_172 (dk_at dksX1_count_6 9 rfl rfl)
theorem dX1_count_196 : decode cX1_count 196 = .ok (.aload_n 0, 1) := dk_42 (dk_at dksX1_count_6 10 rfl rfl)
theorem dX1_count_197 : decode cX1_count 197 = .ok (.getfield 73, 3) := dk_180 0 73 (dk_at dksX1_count_6 11 rfl rfl)
theorem dX1_count_200 : decode cX1_count 200 = .ok (.invokevirtual 185, 3) := dk_182 0 185 (dk_at dksX1_count_6 14 rfl rfl)
theorem dX1_count_203 : decode cX1_count 203 = .ok (.ireturn, 1) := dk_172 (dk_at dksX1_count_6 17 rfl rfl)
theorem dX1_count_204 : decode cX1_count 204 = .ok (.aload_n 0, 1) := dk_42 (dk_at dksX1_count_6 18 rfl rfl)
theorem dX1_count_205 : decode cX1_count 205 = .ok (.getfield 80, 3) := dk_180 0 80 (dk_at dksX1_count_6 19 rfl rfl)
theorem dX1_count_208 : decode cX1_count 208 = .ok (.getfield 249, 3) := dk_180 0 249 (dk_at dksX1_count_7 0 rfl rfl)
theorem dX1_count_211 : decode cX1_count 211 = .ok (.ireturn, 1) := dk_172 (dk_at dksX1_count_7 3 rfl rfl)
theorem dX1_count_212 : decode cX1_count 212 = .ok (.aload_n 0, 1) := dk_42 (dk_at dksX1_count_7 4 rfl rfl)
theorem dX1_count_213 : decode cX1_count 213 = .ok (.getfield 179, 3) := dk_180 0 179 (dk_at dksX1_count_7 5 rfl rfl)
theorem dX1_count_216 : decode cX1_count 216 = .ok (.ireturn, 1) := dk_172 (dk_at dksX1_count_7 8 rfl rfl)
theorem dX1_count_217 : decode cX1_count 217 = .ok (.aload_n 0, 1) := dk_42 (dk_at dksX1_count_7 9 rfl rfl)
theorem dX1_count_218 : decode cX1_count 218 = .ok (.getfield 64, 3) := dk_180 0 64 (dk_at dksX1_count_7 10 rfl rfl)
theorem dX1_count_221 : decode cX1_count 221 = .ok (.invokevirtual 334, 3) := dk_182 1 78 (dk_at dksX1_count_7 13 rfl rfl)
theorem dX1_count_224 : decode cX1_count 224 = .ok (.ireturn, 1) := dk_172 (dk_at dksX1_count_7 16 rfl rfl)
theorem dX1_count_225 : decode cX1_count 225 = .ok (.aload_n 0, 1) := dk_42 (dk_at dksX1_count_7 17 rfl rfl)
theorem dX1_count_226 : decode cX1_count 226 = .ok (.getfield 64, 3) := dk_180 0 64 (dk_at dksX1_count_7 18 rfl rfl)
theorem dX1_count_229 : decode cX1_count 229 = .ok (.invokevirtual 269, 3) := dk_182 1 13 (dk_at dksX1_count_7 21 rfl rfl)
theorem dX1_count_232 : decode cX1_count 232 = .ok (.ireturn, 1) := dk_172 (dk_at dksX1_count_8 0 rfl rfl)
theorem dX1_count_233 : decode cX1_count 233 = .ok (.aload_n 0, 1) := dk_42 (dk_at dksX1_count_8 1 rfl rfl)
theorem dX1_count_234 : decode cX1_count 234 = .ok (.getfield 126, 3) := dk_180 0 126 (dk_at dksX1_count_8 2 rfl rfl)
theorem dX1_count_237 : decode cX1_count 237 = .ok (.ireturn, 1) := dk_172 (dk_at dksX1_count_8 5 rfl rfl)
theorem dX1_count_238 : decode cX1_count 238 = .ok (.iconst (-1), 1) := dk_2 (dk_at dksX1_count_8 6 rfl rfl)
theorem dX1_count_239 : decode cX1_count 239 = .ok (.ireturn, 1) := dk_172 (dk_at dksX1_count_8 7 rfl rfl)
abbrev cX1_orders : ByteArray := prog_1_method_61_code
def yX1_orders : MethodName := ⟨RX1, "orders", "()I"⟩
def dkwX1_orders_5 : List UInt8 := [167, 255, 212, 21, 4, 153, 0, 9, 27, 4, 29, 120, 128, 60, 132, 3, 1, 167, 255, 153, 27, 172]
abbrev dktX1_orders_5 : List UInt8 := dkwX1_orders_5 ++ []
def dkwX1_orders_4 : List UInt8 := [180, 0, 80, 180, 1, 207, 21, 5, 46, 160, 0, 7, 4, 167, 0, 4, 3, 54, 4, 132, 5, 1]
abbrev dktX1_orders_4 : List UInt8 := dkwX1_orders_4 ++ dktX1_orders_5
def dkwX1_orders_3 : List UInt8 := [21, 5, 42, 180, 0, 80, 180, 0, 249, 162, 0, 38, 21, 4, 153, 0, 24, 44, 21, 5, 46, 42]
abbrev dktX1_orders_3 : List UInt8 := dkwX1_orders_3 ++ dktX1_orders_4
def dkwX1_orders_2 : List UInt8 := [180, 0, 80, 180, 0, 246, 42, 180, 0, 64, 180, 0, 198, 44, 182, 1, 214, 4, 54, 4, 3, 54, 5]
abbrev dktX1_orders_2 : List UInt8 := dkwX1_orders_2 ++ dktX1_orders_3
def dkwX1_orders_1 : List UInt8 := [77, 3, 62, 29, 8, 162, 0, 104, 42, 180, 0, 48, 29, 50, 42, 180, 0, 80, 180, 0, 243, 42]
abbrev dktX1_orders_1 : List UInt8 := dkwX1_orders_1 ++ dktX1_orders_2
def dkwX1_orders_0 : List UInt8 := [42, 180, 0, 80, 180, 0, 246, 158, 0, 7, 4, 167, 0, 4, 3, 184, 1, 210, 3, 60, 16, 48, 188, 10]
abbrev dktX1_orders_0 : List UInt8 := dkwX1_orders_0 ++ dktX1_orders_1
theorem dksX1_orders_0 : cX1_orders.data.toList.drop 0 = dktX1_orders_0 := by decide +kernel
theorem dksX1_orders_1 : cX1_orders.data.toList.drop 24 = dktX1_orders_1 := dk_seg dksX1_orders_0 24 rfl rfl
theorem dksX1_orders_2 : cX1_orders.data.toList.drop 46 = dktX1_orders_2 := dk_seg dksX1_orders_1 22 rfl rfl
theorem dksX1_orders_3 : cX1_orders.data.toList.drop 69 = dktX1_orders_3 := dk_seg dksX1_orders_2 23 rfl rfl
theorem dksX1_orders_4 : cX1_orders.data.toList.drop 91 = dktX1_orders_4 := dk_seg dksX1_orders_3 22 rfl rfl
theorem dksX1_orders_5 : cX1_orders.data.toList.drop 113 = dktX1_orders_5 := dk_seg dksX1_orders_4 22 rfl rfl
theorem dX1_orders_0 : decode cX1_orders 0 = .ok (.aload_n 0, 1) := dk_42 (dk_at dksX1_orders_0 0 rfl rfl)
theorem dX1_orders_1 : decode cX1_orders 1 = .ok (.getfield 80, 3) := dk_180 0 80 (dk_at dksX1_orders_0 1 rfl rfl)
theorem dX1_orders_4 : decode cX1_orders 4 = .ok (.getfield 246, 3) := dk_180 0 246 (dk_at dksX1_orders_0 4 rfl rfl)
theorem dX1_orders_7 : decode cX1_orders 7 = .ok (.ifCond .le 7, 3) := dk_158 0 7 (dk_at dksX1_orders_0 7 rfl rfl)
theorem dX1_orders_10 : decode cX1_orders 10 = .ok (.iconst 1, 1) := dk_4 (dk_at dksX1_orders_0 10 rfl rfl)
theorem dX1_orders_11 : decode cX1_orders 11 = .ok (.goto 4, 3) := dk_167 0 4 (dk_at dksX1_orders_0 11 rfl rfl)
theorem dX1_orders_14 : decode cX1_orders 14 = .ok (.iconst 0, 1) := dk_3 (dk_at dksX1_orders_0 14 rfl rfl)
theorem dX1_orders_15 : decode cX1_orders 15 = .ok (.invokestatic 466, 3) := dk_184 1 210 (dk_at dksX1_orders_0 15 rfl rfl)
theorem dX1_orders_18 : decode cX1_orders 18 = .ok (.iconst 0, 1) := dk_3 (dk_at dksX1_orders_0 18 rfl rfl)
theorem dX1_orders_19 : decode cX1_orders 19 = .ok (.istore_n 1, 1) := dk_60 (dk_at dksX1_orders_0 19 rfl rfl)
theorem dX1_orders_20 : decode cX1_orders 20 = .ok (.bipush 48, 2) := dk_16 48 (dk_at dksX1_orders_0 20 rfl rfl)
theorem dX1_orders_22 : decode cX1_orders 22 = .ok (.newarray .int, 2) := dk_188_10 (dk_at dksX1_orders_0 22 rfl rfl)
theorem dX1_orders_24 : decode cX1_orders 24 = .ok (.astore_n 2, 1) := dk_77 (dk_at dksX1_orders_1 0 rfl rfl)
theorem dX1_orders_25 : decode cX1_orders 25 = .ok (.iconst 0, 1) := dk_3 (dk_at dksX1_orders_1 1 rfl rfl)
theorem dX1_orders_26 : decode cX1_orders 26 = .ok (.istore_n 3, 1) := dk_62 (dk_at dksX1_orders_1 2 rfl rfl)
theorem dX1_orders_27 : decode cX1_orders 27 = .ok (.iload_n 3, 1) := dk_29 (dk_at dksX1_orders_1 3 rfl rfl)
theorem dX1_orders_28 : decode cX1_orders 28 = .ok (.iconst 5, 1) := dk_8 (dk_at dksX1_orders_1 4 rfl rfl)
theorem dX1_orders_29 : decode cX1_orders 29 = .ok (.if_icmp .ge 104, 3) := dk_162 0 104 (dk_at dksX1_orders_1 5 rfl rfl)
theorem dX1_orders_32 : decode cX1_orders 32 = .ok (.aload_n 0, 1) := dk_42 (dk_at dksX1_orders_1 8 rfl rfl)
theorem dX1_orders_33 : decode cX1_orders 33 = .ok (.getfield 48, 3) := dk_180 0 48 (dk_at dksX1_orders_1 9 rfl rfl)
theorem dX1_orders_36 : decode cX1_orders 36 = .ok (.iload_n 3, 1) := dk_29 (dk_at dksX1_orders_1 12 rfl rfl)
theorem dX1_orders_37 : decode cX1_orders 37 = .ok (.aaload, 1) := dk_50 (dk_at dksX1_orders_1 13 rfl rfl)
theorem dX1_orders_38 : decode cX1_orders 38 = .ok (.aload_n 0, 1) := dk_42 (dk_at dksX1_orders_1 14 rfl rfl)
theorem dX1_orders_39 : decode cX1_orders 39 = .ok (.getfield 80, 3) := dk_180 0 80 (dk_at dksX1_orders_1 15 rfl rfl)
theorem dX1_orders_42 : decode cX1_orders 42 = .ok (.getfield 243, 3) := dk_180 0 243 (dk_at dksX1_orders_1 18 rfl rfl)
theorem dX1_orders_45 : decode cX1_orders 45 = .ok (.aload_n 0, 1) := dk_42 (dk_at dksX1_orders_1 21 rfl rfl)
theorem dX1_orders_46 : decode cX1_orders 46 = .ok (.getfield 80, 3) := dk_180 0 80 (dk_at dksX1_orders_2 0 rfl rfl)
theorem dX1_orders_49 : decode cX1_orders 49 = .ok (.getfield 246, 3) := dk_180 0 246 (dk_at dksX1_orders_2 3 rfl rfl)
theorem dX1_orders_52 : decode cX1_orders 52 = .ok (.aload_n 0, 1) := dk_42 (dk_at dksX1_orders_2 6 rfl rfl)
theorem dX1_orders_53 : decode cX1_orders 53 = .ok (.getfield 64, 3) := dk_180 0 64 (dk_at dksX1_orders_2 7 rfl rfl)
theorem dX1_orders_56 : decode cX1_orders 56 = .ok (.getfield 198, 3) := dk_180 0 198 (dk_at dksX1_orders_2 10 rfl rfl)
theorem dX1_orders_59 : decode cX1_orders 59 = .ok (.aload_n 2, 1) := dk_44 (dk_at dksX1_orders_2 13 rfl rfl)
theorem dX1_orders_60 : decode cX1_orders 60 = .ok (.invokevirtual 470, 3) := dk_182 1 214 (dk_at dksX1_orders_2 14 rfl rfl)
theorem dX1_orders_63 : decode cX1_orders 63 = .ok (.iconst 1, 1) := dk_4 (dk_at dksX1_orders_2 17 rfl rfl)
theorem dX1_orders_64 : decode cX1_orders 64 = .ok (.istore 4, 2) := dk_54 4 (dk_at dksX1_orders_2 18 rfl rfl)
theorem dX1_orders_66 : decode cX1_orders 66 = .ok (.iconst 0, 1) := dk_3 (dk_at dksX1_orders_2 20 rfl rfl)
theorem dX1_orders_67 : decode cX1_orders 67 = .ok (.istore 5, 2) := dk_54 5 (dk_at dksX1_orders_2 21 rfl rfl)
theorem dX1_orders_69 : decode cX1_orders 69 = .ok (.iload 5, 2) := dk_21 5 (dk_at dksX1_orders_3 0 rfl rfl)
theorem dX1_orders_71 : decode cX1_orders 71 = .ok (.aload_n 0, 1) := dk_42 (dk_at dksX1_orders_3 2 rfl rfl)
theorem dX1_orders_72 : decode cX1_orders 72 = .ok (.getfield 80, 3) := dk_180 0 80 (dk_at dksX1_orders_3 3 rfl rfl)
theorem dX1_orders_75 : decode cX1_orders 75 = .ok (.getfield 249, 3) := dk_180 0 249 (dk_at dksX1_orders_3 6 rfl rfl)
theorem dX1_orders_78 : decode cX1_orders 78 = .ok (.if_icmp .ge 38, 3) := dk_162 0 38 (dk_at dksX1_orders_3 9 rfl rfl)
theorem dX1_orders_81 : decode cX1_orders 81 = .ok (.iload 4, 2) := dk_21 4 (dk_at dksX1_orders_3 12 rfl rfl)
theorem dX1_orders_83 : decode cX1_orders 83 = .ok (.ifCond .eq 24, 3) := dk_153 0 24 (dk_at dksX1_orders_3 14 rfl rfl)
theorem dX1_orders_86 : decode cX1_orders 86 = .ok (.aload_n 2, 1) := dk_44 (dk_at dksX1_orders_3 17 rfl rfl)
theorem dX1_orders_87 : decode cX1_orders 87 = .ok (.iload 5, 2) := dk_21 5 (dk_at dksX1_orders_3 18 rfl rfl)
theorem dX1_orders_89 : decode cX1_orders 89 = .ok (.iaload, 1) := dk_46 (dk_at dksX1_orders_3 20 rfl rfl)
theorem dX1_orders_90 : decode cX1_orders 90 = .ok (.aload_n 0, 1) := dk_42 (dk_at dksX1_orders_3 21 rfl rfl)
theorem dX1_orders_91 : decode cX1_orders 91 = .ok (.getfield 80, 3) := dk_180 0 80 (dk_at dksX1_orders_4 0 rfl rfl)
theorem dX1_orders_94 : decode cX1_orders 94 = .ok (.getfield 463, 3) := dk_180 1 207 (dk_at dksX1_orders_4 3 rfl rfl)
theorem dX1_orders_97 : decode cX1_orders 97 = .ok (.iload 5, 2) := dk_21 5 (dk_at dksX1_orders_4 6 rfl rfl)
theorem dX1_orders_99 : decode cX1_orders 99 = .ok (.iaload, 1) := dk_46 (dk_at dksX1_orders_4 8 rfl rfl)
theorem dX1_orders_100 : decode cX1_orders 100 = .ok (.if_icmp .ne 7, 3) := dk_160 0 7 (dk_at dksX1_orders_4 9 rfl rfl)
theorem dX1_orders_103 : decode cX1_orders 103 = .ok (.iconst 1, 1) := dk_4 (dk_at dksX1_orders_4 12 rfl rfl)
theorem dX1_orders_104 : decode cX1_orders 104 = .ok (.goto 4, 3) := dk_167 0 4 (dk_at dksX1_orders_4 13 rfl rfl)
theorem dX1_orders_107 : decode cX1_orders 107 = .ok (.iconst 0, 1) := dk_3 (dk_at dksX1_orders_4 16 rfl rfl)
theorem dX1_orders_108 : decode cX1_orders 108 = .ok (.istore 4, 2) := dk_54 4 (dk_at dksX1_orders_4 17 rfl rfl)
theorem dX1_orders_110 : decode cX1_orders 110 = .ok (.iinc 5 1, 3) := dk_132 5 1 (dk_at dksX1_orders_4 19 rfl rfl)
theorem dX1_orders_113 : decode cX1_orders 113 = .ok (.goto (-44), 3) := dk_167 255 212 (dk_at dksX1_orders_5 0 rfl rfl)
theorem dX1_orders_116 : decode cX1_orders 116 = .ok (.iload 4, 2) := dk_21 4 (dk_at dksX1_orders_5 3 rfl rfl)
theorem dX1_orders_118 : decode cX1_orders 118 = .ok (.ifCond .eq 9, 3) := dk_153 0 9 (dk_at dksX1_orders_5 5 rfl rfl)
theorem dX1_orders_121 : decode cX1_orders 121 = .ok (.iload_n 1, 1) := dk_27 (dk_at dksX1_orders_5 8 rfl rfl)
theorem dX1_orders_122 : decode cX1_orders 122 = .ok (.iconst 1, 1) := dk_4 (dk_at dksX1_orders_5 9 rfl rfl)
theorem dX1_orders_123 : decode cX1_orders 123 = .ok (.iload_n 3, 1) := dk_29 (dk_at dksX1_orders_5 10 rfl rfl)
theorem dX1_orders_124 : decode cX1_orders 124 = .ok (.ishl, 1) := dk_120 (dk_at dksX1_orders_5 11 rfl rfl)
theorem dX1_orders_125 : decode cX1_orders 125 = .ok (.ior, 1) := dk_128 (dk_at dksX1_orders_5 12 rfl rfl)
theorem dX1_orders_126 : decode cX1_orders 126 = .ok (.istore_n 1, 1) := dk_60 (dk_at dksX1_orders_5 13 rfl rfl)
theorem dX1_orders_127 : decode cX1_orders 127 = .ok (.iinc 3 1, 3) := dk_132 3 1 (dk_at dksX1_orders_5 14 rfl rfl)
theorem dX1_orders_130 : decode cX1_orders 130 = .ok (.goto (-103), 3) := dk_167 255 153 (dk_at dksX1_orders_5 17 rfl rfl)
theorem dX1_orders_133 : decode cX1_orders 133 = .ok (.iload_n 1, 1) := dk_27 (dk_at dksX1_orders_5 20 rfl rfl)
theorem dX1_orders_134 : decode cX1_orders 134 = .ok (.ireturn, 1) := dk_172 (dk_at dksX1_orders_5 21 rfl rfl)
abbrev cX1_need : ByteArray := prog_1_method_3_code
def yX1_need : MethodName := ⟨RX1, "need", "(Z)V"⟩
def dkwX1_need_0 : List UInt8 := [26, 154, 0, 11, 187, 0, 7, 89, 183, 0, 9, 191, 177]
abbrev dktX1_need_0 : List UInt8 := dkwX1_need_0 ++ []
theorem dksX1_need_0 : cX1_need.data.toList.drop 0 = dktX1_need_0 := by decide +kernel
theorem dX1_need_0 : decode cX1_need 0 = .ok (.iload_n 0, 1) := dk_26 (dk_at dksX1_need_0 0 rfl rfl)
theorem dX1_need_1 : decode cX1_need 1 = .ok (.ifCond .ne 11, 3) := dk_154 0 11 (dk_at dksX1_need_0 1 rfl rfl)
theorem dX1_need_4 : decode cX1_need 4 = .ok (.new 7, 3) := dk_187 0 7 (dk_at dksX1_need_0 4 rfl rfl)
theorem dX1_need_7 : decode cX1_need 7 = .ok (.dup, 1) := dk_89 (dk_at dksX1_need_0 7 rfl rfl)
theorem dX1_need_8 : decode cX1_need 8 = .ok (.invokespecial 9, 3) := dk_183 0 9 (dk_at dksX1_need_0 8 rfl rfl)
theorem dX1_need_11 : decode cX1_need 11 = .ok (.athrow, 1) := dk_191 (dk_at dksX1_need_0 11 rfl rfl)
theorem dX1_need_12 : decode cX1_need 12 = .ok (.return_, 1) := dk_177 (dk_at dksX1_need_0 12 rfl rfl)
theorem q122 : (Jvm.Cond.initialized "BeggarHeaps") ∈ lw_all := lw_g (lw_at lw_m1 1 rfl) rfl
theorem q165 : (Jvm.Cond.instantiable "BeggarHeaps" (23 : Nat)) ∈ lw_all := lw_g (lw_at lw_m1 44 rfl) rfl
theorem q167 : (Jvm.Cond.instanceMethod ({ cls := "BeggarHeaps", name := "<init>", desc := "()V" } : Jvm.MethodName)) ∈ lw_all := lw_g (lw_at lw_m1 46 rfl) rfl
theorem q168 : (Jvm.Cond.code ({ cls := "BeggarHeaps", name := "<init>", desc := "()V" } : Jvm.MethodName) prog_1_method_6_code (1 : Nat) (Option.none : Option Jvm.ClassFile.FieldType)) ∈ lw_all := lw_g (lw_at lw_m1 47 rfl) rfl
theorem q169 : (Jvm.Cond.methodLink "BeggarHeaps" (30 : Nat) ({ cls := "java/lang/Object", name := "<init>", desc := "()V" } : Jvm.MethodName)) ∈ lw_all := lw_g (lw_at lw_m1 48 rfl) rfl
theorem q172 : (Jvm.Cond.classLink "BeggarHeaps" (37 : Nat) "BeggarHeaps$Reader") ∈ lw_all := lw_g (lw_at lw_m1 51 rfl) rfl
theorem q174 : (Jvm.Cond.methodLinkNest "BeggarHeaps" (39 : Nat) ({ cls := "BeggarHeaps$Reader", name := "<init>", desc := "()V" } : Jvm.MethodName) "BeggarHeaps") ∈ lw_tbl := lw_at lw_m1 53 rfl
theorem q204 : (Jvm.Cond.methodLink "BeggarHeaps" (44 : Nat) ({ cls := "BeggarHeaps", name := "allOrders", desc := "()[LBeggarHeaps$Order;" } : Jvm.MethodName)) ∈ lw_all := lw_g (lw_at lw_m1 83 rfl) rfl
theorem q205 : (Jvm.Cond.static ({ cls := "BeggarHeaps", name := "allOrders", desc := "()[LBeggarHeaps$Order;" } : Jvm.MethodName)) ∈ lw_all := lw_g (lw_at lw_m1 84 rfl) rfl
theorem q206 : (Jvm.Cond.code ({ cls := "BeggarHeaps", name := "allOrders", desc := "()[LBeggarHeaps$Order;" } : Jvm.MethodName) prog_1_method_5_code (0 : Nat) (Option.some (Jvm.ClassFile.FieldType.array (Jvm.ClassFile.FieldType.object "BeggarHeaps$Order")))) ∈ lw_all := lw_g (lw_at lw_m1 85 rfl) rfl
theorem q207 : (Jvm.Cond.classLink "BeggarHeaps" (13 : Nat) "BeggarHeaps$Order") ∈ lw_all := lw_g (lw_at lw_m1 86 rfl) rfl
theorem q209 : (Jvm.Cond.classLink "BeggarHeaps" (15 : Nat) "BeggarHeaps$Under") ∈ lw_all := lw_g (lw_at lw_m1 88 rfl) rfl
theorem q211 : (Jvm.Cond.methodLinkNest "BeggarHeaps" (17 : Nat) ({ cls := "BeggarHeaps$Under", name := "<init>", desc := "()V" } : Jvm.MethodName) "BeggarHeaps") ∈ lw_tbl := lw_at lw_m1 90 rfl
theorem q219 : (Jvm.Cond.classLink "BeggarHeaps" (18 : Nat) "BeggarHeaps$About") ∈ lw_all := lw_g (lw_at lw_m1 98 rfl) rfl
theorem q221 : (Jvm.Cond.methodLinkNest "BeggarHeaps" (20 : Nat) ({ cls := "BeggarHeaps$About", name := "<init>", desc := "()V" } : Jvm.MethodName) "BeggarHeaps") ∈ lw_tbl := lw_at lw_m1 100 rfl
theorem q226 : (Jvm.Cond.classLink "BeggarHeaps" (21 : Nat) "BeggarHeaps$High") ∈ lw_all := lw_g (lw_at lw_m1 105 rfl) rfl
theorem q228 : (Jvm.Cond.methodLinkNest "BeggarHeaps" (23 : Nat) ({ cls := "BeggarHeaps$High", name := "<init>", desc := "()V" } : Jvm.MethodName) "BeggarHeaps") ∈ lw_tbl := lw_at lw_m1 107 rfl
theorem q233 : (Jvm.Cond.classLink "BeggarHeaps" (24 : Nat) "BeggarHeaps$Low") ∈ lw_all := lw_g (lw_at lw_m1 112 rfl) rfl
theorem q235 : (Jvm.Cond.methodLinkNest "BeggarHeaps" (26 : Nat) ({ cls := "BeggarHeaps$Low", name := "<init>", desc := "()V" } : Jvm.MethodName) "BeggarHeaps") ∈ lw_tbl := lw_at lw_m1 114 rfl
theorem q240 : (Jvm.Cond.classLink "BeggarHeaps" (27 : Nat) "BeggarHeaps$Halves") ∈ lw_all := lw_g (lw_at lw_m1 119 rfl) rfl
theorem q242 : (Jvm.Cond.methodLinkNest "BeggarHeaps" (29 : Nat) ({ cls := "BeggarHeaps$Halves", name := "<init>", desc := "()V" } : Jvm.MethodName) "BeggarHeaps") ∈ lw_tbl := lw_at lw_m1 121 rfl
theorem q247 : (Jvm.Cond.classLink "BeggarHeaps" (52 : Nat) "BeggarHeaps$Run") ∈ lw_all := lw_g (lw_at lw_m1 126 rfl) rfl
theorem q249 : (Jvm.Cond.methodLinkNest "BeggarHeaps" (54 : Nat) ({ cls := "BeggarHeaps$Run", name := "<init>", desc := "(LBeggarHeaps;)V" } : Jvm.MethodName) "BeggarHeaps") ∈ lw_tbl := lw_at lw_m1 128 rfl
theorem q261 : (Jvm.Cond.fieldLinkNest "BeggarHeaps" (344 : Nat) "BeggarHeaps$Run" "end" "I" "BeggarHeaps") ∈ lw_tbl := lw_at lw_m1 140 rfl
theorem q263 : (Jvm.Cond.fieldLinkNest "BeggarHeaps" (347 : Nat) "BeggarHeaps$Run" "turns" "I" "BeggarHeaps") ∈ lw_tbl := lw_at lw_m1 142 rfl
theorem q265 : (Jvm.Cond.fieldLinkNest "BeggarHeaps" (348 : Nat) "BeggarHeaps$Run" "heaps" "I" "BeggarHeaps") ∈ lw_tbl := lw_at lw_m1 144 rfl
theorem q267 : (Jvm.Cond.fieldLinkNest "BeggarHeaps" (351 : Nat) "BeggarHeaps$Run" "period" "I" "BeggarHeaps") ∈ lw_tbl := lw_at lw_m1 146 rfl
theorem q296 : (Jvm.Cond.classLink "BeggarHeaps" (61 : Nat) "BeggarHeaps$Table") ∈ lw_all := lw_g (lw_at lw_m1 175 rfl) rfl
theorem q298 : (Jvm.Cond.methodLinkNest "BeggarHeaps" (63 : Nat) ({ cls := "BeggarHeaps$Table", name := "<init>", desc := "()V" } : Jvm.MethodName) "BeggarHeaps") ∈ lw_tbl := lw_at lw_m1 177 rfl
theorem q331 : (Jvm.Cond.fieldLinkNest "BeggarHeaps" (182 : Nat) "BeggarHeaps$Table" "kinds" "Ljava/util/ArrayList;" "BeggarHeaps") ∈ lw_tbl := lw_at lw_m1 210 rfl
theorem q334 : (Jvm.Cond.fieldLinkNest "BeggarHeaps" (198 : Nat) "BeggarHeaps$Table" "pays" "[I" "BeggarHeaps") ∈ lw_tbl := lw_at lw_m1 213 rfl
theorem q338 : (Jvm.Cond.fieldLinkNest "BeggarHeaps" (201 : Nat) "BeggarHeaps$Table" "pack" "[I" "BeggarHeaps") ∈ lw_tbl := lw_at lw_m1 217 rfl
theorem q346 : (Jvm.Cond.fieldLinkNest "BeggarHeaps" (412 : Nat) "BeggarHeaps$Table" "bet" "LBeggarHeaps$Expression;" "BeggarHeaps") ∈ lw_tbl := lw_at lw_m1 225 rfl
theorem q362 : (Jvm.Cond.classLink "BeggarHeaps" (68 : Nat) "java/util/ArrayList") ∈ lw_all := lw_g (lw_at lw_m2 1 rfl) rfl
theorem q363 : (Jvm.Cond.methodLink "BeggarHeaps" (70 : Nat) ({ cls := "java/util/ArrayList", name := "<init>", desc := "(I)V" } : Jvm.MethodName)) ∈ lw_all := lw_g (lw_at lw_m2 2 rfl) rfl
theorem q364 : (Jvm.Cond.classLink "BeggarHeaps" (77 : Nat) "BeggarHeaps$Game") ∈ lw_all := lw_g (lw_at lw_m2 3 rfl) rfl
theorem q366 : (Jvm.Cond.methodLinkNest "BeggarHeaps" (79 : Nat) ({ cls := "BeggarHeaps$Game", name := "<init>", desc := "()V" } : Jvm.MethodName) "BeggarHeaps") ∈ lw_tbl := lw_at lw_m2 5 rfl
theorem q374 : (Jvm.Cond.fieldLinkNest "BeggarHeaps" (403 : Nat) "BeggarHeaps$Game" "left" "[I" "BeggarHeaps") ∈ lw_tbl := lw_at lw_m2 13 rfl
theorem q377 : (Jvm.Cond.fieldLinkNest "BeggarHeaps" (406 : Nat) "BeggarHeaps$Game" "right" "[I" "BeggarHeaps") ∈ lw_tbl := lw_at lw_m2 16 rfl
theorem q379 : (Jvm.Cond.fieldLinkNest "BeggarHeaps" (207 : Nat) "BeggarHeaps$Game" "heap" "[I" "BeggarHeaps") ∈ lw_tbl := lw_at lw_m2 18 rfl
theorem q382 : (Jvm.Cond.fieldLinkNest "BeggarHeaps" (321 : Nat) "BeggarHeaps$Game" "leftUnseen" "[Z" "BeggarHeaps") ∈ lw_tbl := lw_at lw_m2 21 rfl
theorem q384 : (Jvm.Cond.fieldLinkNest "BeggarHeaps" (325 : Nat) "BeggarHeaps$Game" "rightUnseen" "[Z" "BeggarHeaps") ∈ lw_tbl := lw_at lw_m2 23 rfl
theorem q387 : (Jvm.Cond.fieldLinkNest "BeggarHeaps" (382 : Nat) "BeggarHeaps$Game" "lefts" "I" "BeggarHeaps") ∈ lw_tbl := lw_at lw_m2 26 rfl
theorem q390 : (Jvm.Cond.fieldLinkNest "BeggarHeaps" (385 : Nat) "BeggarHeaps$Game" "rights" "I" "BeggarHeaps") ∈ lw_tbl := lw_at lw_m2 29 rfl
theorem q392 : (Jvm.Cond.fieldLinkNest "BeggarHeaps" (204 : Nat) "BeggarHeaps$Game" "heaped" "I" "BeggarHeaps") ∈ lw_tbl := lw_at lw_m2 31 rfl
theorem q394 : (Jvm.Cond.fieldLinkNest "BeggarHeaps" (499 : Nat) "BeggarHeaps$Game" "owed" "I" "BeggarHeaps") ∈ lw_tbl := lw_at lw_m2 33 rfl
theorem q396 : (Jvm.Cond.fieldLinkNest "BeggarHeaps" (255 : Nat) "BeggarHeaps$Game" "taker" "I" "BeggarHeaps") ∈ lw_tbl := lw_at lw_m2 35 rfl
theorem q399 : (Jvm.Cond.fieldLinkNest "BeggarHeaps" (315 : Nat) "BeggarHeaps$Game" "next" "I" "BeggarHeaps") ∈ lw_tbl := lw_at lw_m2 38 rfl
theorem q402 : (Jvm.Cond.fieldLinkNest "BeggarHeaps" (284 : Nat) "BeggarHeaps$Game" "won" "I" "BeggarHeaps") ∈ lw_tbl := lw_at lw_m2 41 rfl
theorem q405 : (Jvm.Cond.fieldLinkNest "BeggarHeaps" (296 : Nat) "BeggarHeaps$Game" "turns" "I" "BeggarHeaps") ∈ lw_tbl := lw_at lw_m2 44 rfl
theorem q408 : (Jvm.Cond.fieldLinkNest "BeggarHeaps" (374 : Nat) "BeggarHeaps$Game" "heaps" "I" "BeggarHeaps") ∈ lw_tbl := lw_at lw_m2 47 rfl
theorem q410 : (Jvm.Cond.fieldLinkNest "BeggarHeaps" (258 : Nat) "BeggarHeaps$Game" "rounds" "I" "BeggarHeaps") ∈ lw_tbl := lw_at lw_m2 49 rfl
theorem q412 : (Jvm.Cond.fieldLinkNest "BeggarHeaps" (266 : Nat) "BeggarHeaps$Game" "waits" "Z" "BeggarHeaps") ∈ lw_tbl := lw_at lw_m2 51 rfl
theorem q414 : (Jvm.Cond.fieldLinkNest "BeggarHeaps" (219 : Nat) "BeggarHeaps$Game" "kept" "Ljava/util/ArrayList;" "BeggarHeaps") ∈ lw_tbl := lw_at lw_m2 53 rfl
theorem q416 : (Jvm.Cond.fieldLinkNest "BeggarHeaps" (276 : Nat) "BeggarHeaps$Game" "bets" "Ljava/util/ArrayList;" "BeggarHeaps") ∈ lw_tbl := lw_at lw_m2 55 rfl
theorem q418 : (Jvm.Cond.fieldLinkNest "BeggarHeaps" (243 : Nat) "BeggarHeaps$Game" "last" "[I" "BeggarHeaps") ∈ lw_tbl := lw_at lw_m2 57 rfl
theorem q420 : (Jvm.Cond.fieldLinkNest "BeggarHeaps" (463 : Nat) "BeggarHeaps$Game" "come" "[I" "BeggarHeaps") ∈ lw_tbl := lw_at lw_m2 59 rfl
theorem q422 : (Jvm.Cond.fieldLinkNest "BeggarHeaps" (246 : Nat) "BeggarHeaps$Game" "lasts" "I" "BeggarHeaps") ∈ lw_tbl := lw_at lw_m2 61 rfl
theorem q424 : (Jvm.Cond.fieldLinkNest "BeggarHeaps" (249 : Nat) "BeggarHeaps$Game" "comes" "I" "BeggarHeaps") ∈ lw_tbl := lw_at lw_m2 63 rfl
theorem q426 : (Jvm.Cond.fieldLinkNest "BeggarHeaps" (287 : Nat) "BeggarHeaps$Game" "purse" "I" "BeggarHeaps") ∈ lw_tbl := lw_at lw_m2 65 rfl
theorem q477 : (Jvm.Cond.classLink "BeggarHeaps" (87 : Nat) "BeggarHeaps$Row") ∈ lw_all := lw_g (lw_at lw_m2 116 rfl) rfl
theorem q479 : (Jvm.Cond.methodLinkNest "BeggarHeaps" (89 : Nat) ({ cls := "BeggarHeaps$Row", name := "<init>", desc := "()V" } : Jvm.MethodName) "BeggarHeaps") ∈ lw_tbl := lw_at lw_m2 118 rfl
theorem q484 : (Jvm.Cond.fieldLinkNest "BeggarHeaps" (165 : Nat) "BeggarHeaps$Row" "card" "[I" "BeggarHeaps") ∈ lw_tbl := lw_at lw_m2 123 rfl
theorem q486 : (Jvm.Cond.fieldLinkNest "BeggarHeaps" (147 : Nat) "BeggarHeaps$Row" "many" "I" "BeggarHeaps") ∈ lw_tbl := lw_at lw_m2 125 rfl
theorem q494 : (Jvm.Cond.classLink "BeggarHeaps" (117 : Nat) "BeggarHeaps$Mark") ∈ lw_all := lw_g (lw_at lw_m2 133 rfl) rfl
theorem q496 : (Jvm.Cond.methodLink "BeggarHeaps" (123 : Nat) ({ cls := "BeggarHeaps$Game", name := "begin", desc := "(I)V" } : Jvm.MethodName)) ∈ lw_all := lw_g (lw_at lw_m2 135 rfl) rfl
theorem q504 : (Jvm.Cond.fieldLink "BeggarHeaps" (33 : Nat) "BeggarHeaps" "tape" "[B") ∈ lw_all := lw_g (lw_at lw_m2 143 rfl) rfl
theorem q505 : (Jvm.Cond.fieldLink "BeggarHeaps" (40 : Nat) "BeggarHeaps" "reader" "LBeggarHeaps$Reader;") ∈ lw_all := lw_g (lw_at lw_m2 144 rfl) rfl
theorem q507 : (Jvm.Cond.fieldLink "BeggarHeaps" (48 : Nat) "BeggarHeaps" "orders" "[LBeggarHeaps$Order;") ∈ lw_all := lw_g (lw_at lw_m2 146 rfl) rfl
theorem q508 : (Jvm.Cond.fieldLink "BeggarHeaps" (57 : Nat) "BeggarHeaps" "run" "LBeggarHeaps$Run;") ∈ lw_all := lw_g (lw_at lw_m2 147 rfl) rfl
theorem q510 : (Jvm.Cond.fieldLink "BeggarHeaps" (64 : Nat) "BeggarHeaps" "table" "LBeggarHeaps$Table;") ∈ lw_all := lw_g (lw_at lw_m2 149 rfl) rfl
theorem q511 : (Jvm.Cond.fieldLink "BeggarHeaps" (73 : Nat) "BeggarHeaps" "book" "Ljava/util/ArrayList;") ∈ lw_all := lw_g (lw_at lw_m2 150 rfl) rfl
theorem q512 : (Jvm.Cond.fieldLink "BeggarHeaps" (80 : Nat) "BeggarHeaps" "game" "LBeggarHeaps$Game;") ∈ lw_all := lw_g (lw_at lw_m2 151 rfl) rfl
theorem q513 : (Jvm.Cond.fieldLink "BeggarHeaps" (84 : Nat) "BeggarHeaps" "trial" "LBeggarHeaps$Game;") ∈ lw_all := lw_g (lw_at lw_m2 152 rfl) rfl
theorem q514 : (Jvm.Cond.fieldLink "BeggarHeaps" (90 : Nat) "BeggarHeaps" "dealtLeft" "LBeggarHeaps$Row;") ∈ lw_all := lw_g (lw_at lw_m2 153 rfl) rfl
theorem q515 : (Jvm.Cond.fieldLink "BeggarHeaps" (94 : Nat) "BeggarHeaps" "dealtRight" "LBeggarHeaps$Row;") ∈ lw_all := lw_g (lw_at lw_m2 154 rfl) rfl
theorem q516 : (Jvm.Cond.fieldLink "BeggarHeaps" (97 : Nat) "BeggarHeaps" "facts" "[I") ∈ lw_all := lw_g (lw_at lw_m2 155 rfl) rfl
theorem q517 : (Jvm.Cond.fieldLink "BeggarHeaps" (126 : Nat) "BeggarHeaps" "taped" "I") ∈ lw_all := lw_g (lw_at lw_m2 156 rfl) rfl
theorem q518 : (Jvm.Cond.fieldLink "BeggarHeaps" (153 : Nat) "BeggarHeaps" "isDealt" "Z") ∈ lw_all := lw_g (lw_at lw_m2 157 rfl) rfl
theorem q519 : (Jvm.Cond.fieldLink "BeggarHeaps" (101 : Nat) "BeggarHeaps" "undone" "[LBeggarHeaps$Game;") ∈ lw_all := lw_g (lw_at lw_m2 158 rfl) rfl
theorem q520 : (Jvm.Cond.fieldLink "BeggarHeaps" (179 : Nat) "BeggarHeaps" "done" "I") ∈ lw_all := lw_g (lw_at lw_m2 159 rfl) rfl
theorem q521 : (Jvm.Cond.fieldLink "BeggarHeaps" (105 : Nat) "BeggarHeaps" "cards" "[I") ∈ lw_all := lw_g (lw_at lw_m2 160 rfl) rfl
theorem q522 : (Jvm.Cond.fieldLink "BeggarHeaps" (354 : Nat) "BeggarHeaps" "many" "I") ∈ lw_all := lw_g (lw_at lw_m2 161 rfl) rfl
theorem q523 : (Jvm.Cond.fieldLink "BeggarHeaps" (108 : Nat) "BeggarHeaps" "odds" "[I") ∈ lw_all := lw_g (lw_at lw_m2 162 rfl) rfl
theorem q524 : (Jvm.Cond.fieldLink "BeggarHeaps" (111 : Nat) "BeggarHeaps" "chosen" "[I") ∈ lw_all := lw_g (lw_at lw_m2 163 rfl) rfl
theorem q525 : (Jvm.Cond.fieldLink "BeggarHeaps" (114 : Nat) "BeggarHeaps" "tried" "[LBeggarHeaps$Game;") ∈ lw_all := lw_g (lw_at lw_m2 164 rfl) rfl
theorem q526 : (Jvm.Cond.fieldLink "BeggarHeaps" (442 : Nat) "BeggarHeaps" "choices" "I") ∈ lw_all := lw_g (lw_at lw_m2 165 rfl) rfl
theorem q527 : (Jvm.Cond.fieldLink "BeggarHeaps" (474 : Nat) "BeggarHeaps" "g" "J") ∈ lw_all := lw_g (lw_at lw_m2 166 rfl) rfl
theorem q528 : (Jvm.Cond.fieldLink "BeggarHeaps" (119 : Nat) "BeggarHeaps" "marks" "[LBeggarHeaps$Mark;") ∈ lw_all := lw_g (lw_at lw_m2 167 rfl) rfl
theorem q529 : (Jvm.Cond.laysFinal "BeggarHeaps" "BeggarHeaps" "tape" "[B") ∈ lw_all := lw_g (lw_at lw_m2 168 rfl) rfl
theorem q530 : (Jvm.Cond.soleField "BeggarHeaps" "tape") ∈ lw_all := lw_g (lw_at lw_m2 169 rfl) rfl
theorem q531 : (Jvm.Cond.laysFinal "BeggarHeaps" "BeggarHeaps" "reader" "LBeggarHeaps$Reader;") ∈ lw_all := lw_g (lw_at lw_m2 170 rfl) rfl
theorem q532 : (Jvm.Cond.soleField "BeggarHeaps" "reader") ∈ lw_all := lw_g (lw_at lw_m2 171 rfl) rfl
theorem q533 : (Jvm.Cond.laysFinal "BeggarHeaps" "BeggarHeaps" "orders" "[LBeggarHeaps$Order;") ∈ lw_all := lw_g (lw_at lw_m2 172 rfl) rfl
theorem q534 : (Jvm.Cond.soleField "BeggarHeaps" "orders") ∈ lw_all := lw_g (lw_at lw_m2 173 rfl) rfl
theorem q535 : (Jvm.Cond.laysFinal "BeggarHeaps" "BeggarHeaps" "run" "LBeggarHeaps$Run;") ∈ lw_all := lw_g (lw_at lw_m2 174 rfl) rfl
theorem q536 : (Jvm.Cond.soleField "BeggarHeaps" "run") ∈ lw_all := lw_g (lw_at lw_m2 175 rfl) rfl
theorem q537 : (Jvm.Cond.lays "BeggarHeaps" "BeggarHeaps" "table" "LBeggarHeaps$Table;") ∈ lw_all := lw_g (lw_at lw_m2 176 rfl) rfl
theorem q538 : (Jvm.Cond.soleField "BeggarHeaps" "table") ∈ lw_all := lw_g (lw_at lw_m2 177 rfl) rfl
theorem q539 : (Jvm.Cond.lays "BeggarHeaps" "BeggarHeaps" "book" "Ljava/util/ArrayList;") ∈ lw_all := lw_g (lw_at lw_m2 178 rfl) rfl
theorem q540 : (Jvm.Cond.soleField "BeggarHeaps" "book") ∈ lw_all := lw_g (lw_at lw_m2 179 rfl) rfl
theorem q541 : (Jvm.Cond.laysFinal "BeggarHeaps" "BeggarHeaps" "game" "LBeggarHeaps$Game;") ∈ lw_all := lw_g (lw_at lw_m2 180 rfl) rfl
theorem q542 : (Jvm.Cond.soleField "BeggarHeaps" "game") ∈ lw_all := lw_g (lw_at lw_m2 181 rfl) rfl
theorem q543 : (Jvm.Cond.laysFinal "BeggarHeaps" "BeggarHeaps" "trial" "LBeggarHeaps$Game;") ∈ lw_all := lw_g (lw_at lw_m2 182 rfl) rfl
theorem q544 : (Jvm.Cond.soleField "BeggarHeaps" "trial") ∈ lw_all := lw_g (lw_at lw_m2 183 rfl) rfl
theorem q545 : (Jvm.Cond.laysFinal "BeggarHeaps" "BeggarHeaps" "dealtLeft" "LBeggarHeaps$Row;") ∈ lw_all := lw_g (lw_at lw_m2 184 rfl) rfl
theorem q546 : (Jvm.Cond.soleField "BeggarHeaps" "dealtLeft") ∈ lw_all := lw_g (lw_at lw_m2 185 rfl) rfl
theorem q547 : (Jvm.Cond.laysFinal "BeggarHeaps" "BeggarHeaps" "dealtRight" "LBeggarHeaps$Row;") ∈ lw_all := lw_g (lw_at lw_m2 186 rfl) rfl
theorem q548 : (Jvm.Cond.soleField "BeggarHeaps" "dealtRight") ∈ lw_all := lw_g (lw_at lw_m2 187 rfl) rfl
theorem q549 : (Jvm.Cond.laysFinal "BeggarHeaps" "BeggarHeaps" "facts" "[I") ∈ lw_all := lw_g (lw_at lw_m2 188 rfl) rfl
theorem q550 : (Jvm.Cond.soleField "BeggarHeaps" "facts") ∈ lw_all := lw_g (lw_at lw_m2 189 rfl) rfl
theorem q551 : (Jvm.Cond.lays "BeggarHeaps" "BeggarHeaps" "taped" "I") ∈ lw_all := lw_g (lw_at lw_m2 190 rfl) rfl
theorem q552 : (Jvm.Cond.soleField "BeggarHeaps" "taped") ∈ lw_all := lw_g (lw_at lw_m2 191 rfl) rfl
theorem q553 : (Jvm.Cond.lays "BeggarHeaps" "BeggarHeaps" "isDealt" "Z") ∈ lw_all := lw_g (lw_at lw_m2 192 rfl) rfl
theorem q554 : (Jvm.Cond.soleField "BeggarHeaps" "isDealt") ∈ lw_all := lw_g (lw_at lw_m2 193 rfl) rfl
theorem q555 : (Jvm.Cond.laysFinal "BeggarHeaps" "BeggarHeaps" "undone" "[LBeggarHeaps$Game;") ∈ lw_all := lw_g (lw_at lw_m2 194 rfl) rfl
theorem q556 : (Jvm.Cond.soleField "BeggarHeaps" "undone") ∈ lw_all := lw_g (lw_at lw_m2 195 rfl) rfl
theorem q557 : (Jvm.Cond.lays "BeggarHeaps" "BeggarHeaps" "done" "I") ∈ lw_all := lw_g (lw_at lw_m2 196 rfl) rfl
theorem q558 : (Jvm.Cond.soleField "BeggarHeaps" "done") ∈ lw_all := lw_g (lw_at lw_m2 197 rfl) rfl
theorem q559 : (Jvm.Cond.laysFinal "BeggarHeaps" "BeggarHeaps" "cards" "[I") ∈ lw_all := lw_g (lw_at lw_m2 198 rfl) rfl
theorem q560 : (Jvm.Cond.soleField "BeggarHeaps" "cards") ∈ lw_all := lw_g (lw_at lw_m2 199 rfl) rfl
theorem q561 : (Jvm.Cond.lays "BeggarHeaps" "BeggarHeaps" "many" "I") ∈ lw_all := lw_g (lw_at lw_m2 200 rfl) rfl
theorem q562 : (Jvm.Cond.soleField "BeggarHeaps" "many") ∈ lw_all := lw_g (lw_at lw_m2 201 rfl) rfl
theorem q563 : (Jvm.Cond.laysFinal "BeggarHeaps" "BeggarHeaps" "odds" "[I") ∈ lw_all := lw_g (lw_at lw_m2 202 rfl) rfl
theorem q564 : (Jvm.Cond.soleField "BeggarHeaps" "odds") ∈ lw_all := lw_g (lw_at lw_m2 203 rfl) rfl
theorem q565 : (Jvm.Cond.laysFinal "BeggarHeaps" "BeggarHeaps" "chosen" "[I") ∈ lw_all := lw_g (lw_at lw_m2 204 rfl) rfl
theorem q566 : (Jvm.Cond.soleField "BeggarHeaps" "chosen") ∈ lw_all := lw_g (lw_at lw_m2 205 rfl) rfl
theorem q567 : (Jvm.Cond.laysFinal "BeggarHeaps" "BeggarHeaps" "tried" "[LBeggarHeaps$Game;") ∈ lw_all := lw_g (lw_at lw_m2 206 rfl) rfl
theorem q568 : (Jvm.Cond.soleField "BeggarHeaps" "tried") ∈ lw_all := lw_g (lw_at lw_m2 207 rfl) rfl
theorem q569 : (Jvm.Cond.lays "BeggarHeaps" "BeggarHeaps" "choices" "I") ∈ lw_all := lw_g (lw_at lw_m2 208 rfl) rfl
theorem q570 : (Jvm.Cond.soleField "BeggarHeaps" "choices") ∈ lw_all := lw_g (lw_at lw_m2 209 rfl) rfl
theorem q571 : (Jvm.Cond.lays "BeggarHeaps" "BeggarHeaps" "g" "J") ∈ lw_all := lw_g (lw_at lw_m2 210 rfl) rfl
theorem q572 : (Jvm.Cond.soleField "BeggarHeaps" "g") ∈ lw_all := lw_g (lw_at lw_m2 211 rfl) rfl
theorem q573 : (Jvm.Cond.laysFinal "BeggarHeaps" "BeggarHeaps" "marks" "[LBeggarHeaps$Mark;") ∈ lw_all := lw_g (lw_at lw_m2 212 rfl) rfl
theorem q574 : (Jvm.Cond.soleField "BeggarHeaps" "marks") ∈ lw_all := lw_g (lw_at lw_m2 213 rfl) rfl
theorem q575 : (Jvm.Cond.superclass "BeggarHeaps" "java/lang/Object") ∈ lw_all := lw_g (lw_at lw_m2 214 rfl) rfl
theorem q577 : (Jvm.Cond.instanceMethod ({ cls := "BeggarHeaps", name := "feed", desc := "(JJJ)I" } : Jvm.MethodName)) ∈ lw_all := lw_g (lw_at lw_m2 216 rfl) rfl
theorem q578 : (Jvm.Cond.selects "BeggarHeaps" ({ cls := "BeggarHeaps", name := "feed", desc := "(JJJ)I" } : Jvm.MethodName) ({ cls := "BeggarHeaps", name := "feed", desc := "(JJJ)I" } : Jvm.MethodName)) ∈ lw_all := lw_g (lw_at lw_m2 217 rfl) rfl
theorem q579 : (Jvm.Cond.code ({ cls := "BeggarHeaps", name := "feed", desc := "(JJJ)I" } : Jvm.MethodName) prog_1_method_7_code (9 : Nat) (Option.some Jvm.ClassFile.FieldType.int)) ∈ lw_all := lw_g (lw_at lw_m2 218 rfl) rfl
theorem q581 : (Jvm.Cond.instanceMethod ({ cls := "BeggarHeaps", name := "table", desc := "()I" } : Jvm.MethodName)) ∈ lw_all := lw_g (lw_at lw_m2 220 rfl) rfl
theorem q582 : (Jvm.Cond.selects "BeggarHeaps" ({ cls := "BeggarHeaps", name := "table", desc := "()I" } : Jvm.MethodName) ({ cls := "BeggarHeaps", name := "table", desc := "()I" } : Jvm.MethodName)) ∈ lw_all := lw_g (lw_at lw_m2 221 rfl) rfl
theorem q583 : (Jvm.Cond.codeWith ({ cls := "BeggarHeaps", name := "table", desc := "()I" } : Jvm.MethodName) prog_1_method_9_code (2 : Nat) (Option.some Jvm.ClassFile.FieldType.int) [((4 : Nat), (15 : Nat), (18 : Nat), (139 : Nat))]) ∈ lw_all := lw_g (lw_at lw_m2 222 rfl) rfl
theorem q584 : (Jvm.Cond.classLink "BeggarHeaps" (139 : Nat) "BeggarHeaps$Wrong") ∈ lw_all := lw_g (lw_at lw_m2 223 rfl) rfl
theorem q585 : (Jvm.Cond.methodLink "BeggarHeaps" (133 : Nat) ({ cls := "BeggarHeaps", name := "reads", desc := "()V" } : Jvm.MethodName)) ∈ lw_all := lw_g (lw_at lw_m2 224 rfl) rfl
theorem q586 : (Jvm.Cond.privateMethod ({ cls := "BeggarHeaps", name := "reads", desc := "()V" } : Jvm.MethodName)) ∈ lw_tbl := lw_at lw_m2 225 rfl
theorem q587 : (Jvm.Cond.instanceMethod ({ cls := "BeggarHeaps", name := "reads", desc := "()V" } : Jvm.MethodName)) ∈ lw_all := lw_g (lw_at lw_m2 226 rfl) rfl
theorem q588 : (Jvm.Cond.code ({ cls := "BeggarHeaps", name := "reads", desc := "()V" } : Jvm.MethodName) prog_1_method_8_code (1 : Nat) (Option.none : Option Jvm.ClassFile.FieldType)) ∈ lw_all := lw_g (lw_at lw_m2 227 rfl) rfl
theorem q589 : (Jvm.Cond.methodLink "BeggarHeaps" (130 : Nat) ({ cls := "BeggarHeaps$Reader", name := "begin", desc := "([BI)V" } : Jvm.MethodName)) ∈ lw_all := lw_g (lw_at lw_m2 228 rfl) rfl
theorem q694 : (Jvm.Cond.methodLink "BeggarHeaps" (136 : Nat) ({ cls := "BeggarHeaps$Reader", name := "table", desc := "()LBeggarHeaps$Table;" } : Jvm.MethodName)) ∈ lw_all := lw_g (lw_at lw_m3 93 rfl) rfl
theorem q784 : (Jvm.Cond.fieldLinkNest "BeggarHeaps" (141 : Nat) "BeggarHeaps$Wrong" "fault" "I" "BeggarHeaps") ∈ lw_tbl := lw_at lw_m3 183 rfl
theorem q1125 : (Jvm.Cond.selects "BeggarHeaps" ({ cls := "java/lang/Object", name := "getClass", desc := "()Ljava/lang/Class;" } : Jvm.MethodName) ({ cls := "java/lang/Object", name := "getClass", desc := "()Ljava/lang/Class;" } : Jvm.MethodName)) ∈ lw_all := lw_g (lw_at lw_m5 44 rfl) rfl
theorem q1175 : (Jvm.Cond.methodLink "BeggarHeaps" (144 : Nat) ({ cls := "java/util/ArrayList", name := "clear", desc := "()V" } : Jvm.MethodName)) ∈ lw_all := lw_g (lw_at lw_m5 94 rfl) rfl
theorem q1176 : (Jvm.Cond.methodLink "BeggarHeaps" (150 : Nat) ({ cls := "BeggarHeaps", name := "begins", desc := "()V" } : Jvm.MethodName)) ∈ lw_all := lw_g (lw_at lw_m5 95 rfl) rfl
theorem q1177 : (Jvm.Cond.privateMethod ({ cls := "BeggarHeaps", name := "begins", desc := "()V" } : Jvm.MethodName)) ∈ lw_tbl := lw_at lw_m5 96 rfl
theorem q1178 : (Jvm.Cond.instanceMethod ({ cls := "BeggarHeaps", name := "begins", desc := "()V" } : Jvm.MethodName)) ∈ lw_all := lw_g (lw_at lw_m5 97 rfl) rfl
theorem q1179 : (Jvm.Cond.code ({ cls := "BeggarHeaps", name := "begins", desc := "()V" } : Jvm.MethodName) prog_1_method_13_code (2 : Nat) (Option.none : Option Jvm.ClassFile.FieldType)) ∈ lw_all := lw_g (lw_at lw_m5 98 rfl) rfl
theorem q1180 : (Jvm.Cond.methodLink "BeggarHeaps" (171 : Nat) ({ cls := "BeggarHeaps$Table", name := "first", desc := "()I" } : Jvm.MethodName)) ∈ lw_all := lw_g (lw_at lw_m5 99 rfl) rfl
theorem q1184 : (Jvm.Cond.methodLink "BeggarHeaps" (175 : Nat) ({ cls := "BeggarHeaps$Game", name := "gets", desc := "(IIZ)V" } : Jvm.MethodName)) ∈ lw_all := lw_g (lw_at lw_m5 103 rfl) rfl
theorem q1189 : (Jvm.Cond.instanceMethod ({ cls := "BeggarHeaps", name := "deal", desc := "()I" } : Jvm.MethodName)) ∈ lw_all := lw_g (lw_at lw_m5 108 rfl) rfl
theorem q1190 : (Jvm.Cond.selects "BeggarHeaps" ({ cls := "BeggarHeaps", name := "deal", desc := "()I" } : Jvm.MethodName) ({ cls := "BeggarHeaps", name := "deal", desc := "()I" } : Jvm.MethodName)) ∈ lw_all := lw_g (lw_at lw_m5 109 rfl) rfl
theorem q1191 : (Jvm.Cond.codeWith ({ cls := "BeggarHeaps", name := "deal", desc := "()I" } : Jvm.MethodName) prog_1_method_10_code (2 : Nat) (Option.some Jvm.ClassFile.FieldType.int) [((4 : Nat), (36 : Nat), (39 : Nat), (139 : Nat))]) ∈ lw_all := lw_g (lw_at lw_m5 110 rfl) rfl
theorem q1192 : (Jvm.Cond.methodLink "BeggarHeaps" (157 : Nat) ({ cls := "BeggarHeaps$Reader", name := "deal", desc := "(LBeggarHeaps$Table;)[LBeggarHeaps$Row;" } : Jvm.MethodName)) ∈ lw_all := lw_g (lw_at lw_m5 111 rfl) rfl
theorem q1204 : (Jvm.Cond.methodLink "BeggarHeaps" (161 : Nat) ({ cls := "BeggarHeaps", name := "deals", desc := "(LBeggarHeaps$Row;LBeggarHeaps$Row;)V" } : Jvm.MethodName)) ∈ lw_all := lw_g (lw_at lw_m5 123 rfl) rfl
theorem q1205 : (Jvm.Cond.static ({ cls := "BeggarHeaps", name := "deals", desc := "(LBeggarHeaps$Row;LBeggarHeaps$Row;)V" } : Jvm.MethodName)) ∈ lw_all := lw_g (lw_at lw_m5 124 rfl) rfl
theorem q1206 : (Jvm.Cond.code ({ cls := "BeggarHeaps", name := "deals", desc := "(LBeggarHeaps$Row;LBeggarHeaps$Row;)V" } : Jvm.MethodName) prog_1_method_11_code (3 : Nat) (Option.none : Option Jvm.ClassFile.FieldType)) ∈ lw_all := lw_g (lw_at lw_m5 125 rfl) rfl
theorem q1208 : (Jvm.Cond.instanceMethod ({ cls := "BeggarHeaps", name := "book", desc := "()I" } : Jvm.MethodName)) ∈ lw_all := lw_g (lw_at lw_m5 127 rfl) rfl
theorem q1209 : (Jvm.Cond.selects "BeggarHeaps" ({ cls := "BeggarHeaps", name := "book", desc := "()I" } : Jvm.MethodName) ({ cls := "BeggarHeaps", name := "book", desc := "()I" } : Jvm.MethodName)) ∈ lw_all := lw_g (lw_at lw_m5 128 rfl) rfl
theorem q1210 : (Jvm.Cond.codeWith ({ cls := "BeggarHeaps", name := "book", desc := "()I" } : Jvm.MethodName) prog_1_method_12_code (2 : Nat) (Option.some Jvm.ClassFile.FieldType.int) [((4 : Nat), (19 : Nat), (22 : Nat), (139 : Nat))]) ∈ lw_all := lw_g (lw_at lw_m5 129 rfl) rfl
theorem q1211 : (Jvm.Cond.methodLink "BeggarHeaps" (168 : Nat) ({ cls := "BeggarHeaps$Reader", name := "book", desc := "(LBeggarHeaps$Table;)Ljava/util/ArrayList;" } : Jvm.MethodName)) ∈ lw_all := lw_g (lw_at lw_m5 130 rfl) rfl
theorem q1228 : (Jvm.Cond.fieldLinkNest "BeggarHeaps" (455 : Nat) "BeggarHeaps$Opening" "left" "LBeggarHeaps$Row;" "BeggarHeaps") ∈ lw_tbl := lw_at lw_m5 147 rfl
theorem q1231 : (Jvm.Cond.fieldLinkNest "BeggarHeaps" (460 : Nat) "BeggarHeaps$Opening" "right" "LBeggarHeaps$Row;" "BeggarHeaps") ∈ lw_tbl := lw_at lw_m5 150 rfl
theorem q1233 : (Jvm.Cond.fieldLinkNest "BeggarHeaps" (462 : Nat) "BeggarHeaps$Opening" "won" "I" "BeggarHeaps") ∈ lw_tbl := lw_at lw_m5 152 rfl
theorem q1243 : (Jvm.Cond.instanceMethod ({ cls := "BeggarHeaps", name := "again", desc := "()Z" } : Jvm.MethodName)) ∈ lw_all := lw_g (lw_at lw_m5 162 rfl) rfl
theorem q1244 : (Jvm.Cond.selects "BeggarHeaps" ({ cls := "BeggarHeaps", name := "again", desc := "()Z" } : Jvm.MethodName) ({ cls := "BeggarHeaps", name := "again", desc := "()Z" } : Jvm.MethodName)) ∈ lw_all := lw_g (lw_at lw_m5 163 rfl) rfl
theorem q1245 : (Jvm.Cond.code ({ cls := "BeggarHeaps", name := "again", desc := "()Z" } : Jvm.MethodName) prog_1_method_14_code (1 : Nat) (Option.some Jvm.ClassFile.FieldType.boolean)) ∈ lw_all := lw_g (lw_at lw_m5 164 rfl) rfl
theorem q1247 : (Jvm.Cond.instanceMethod ({ cls := "BeggarHeaps", name := "kind", desc := "(II)I" } : Jvm.MethodName)) ∈ lw_all := lw_g (lw_at lw_m5 166 rfl) rfl
theorem q1248 : (Jvm.Cond.selects "BeggarHeaps" ({ cls := "BeggarHeaps", name := "kind", desc := "(II)I" } : Jvm.MethodName) ({ cls := "BeggarHeaps", name := "kind", desc := "(II)I" } : Jvm.MethodName)) ∈ lw_all := lw_g (lw_at lw_m5 167 rfl) rfl
theorem q1249 : (Jvm.Cond.code ({ cls := "BeggarHeaps", name := "kind", desc := "(II)I" } : Jvm.MethodName) prog_1_method_18_code (5 : Nat) (Option.some Jvm.ClassFile.FieldType.int)) ∈ lw_all := lw_g (lw_at lw_m5 168 rfl) rfl
theorem q1250 : (Jvm.Cond.methodLink "BeggarHeaps" (194 : Nat) ({ cls := "BeggarHeaps", name := "isKind", desc := "(I)Z" } : Jvm.MethodName)) ∈ lw_all := lw_g (lw_at lw_m5 169 rfl) rfl
theorem q1251 : (Jvm.Cond.privateMethod ({ cls := "BeggarHeaps", name := "isKind", desc := "(I)Z" } : Jvm.MethodName)) ∈ lw_tbl := lw_at lw_m5 170 rfl
theorem q1252 : (Jvm.Cond.instanceMethod ({ cls := "BeggarHeaps", name := "isKind", desc := "(I)Z" } : Jvm.MethodName)) ∈ lw_all := lw_g (lw_at lw_m5 171 rfl) rfl
theorem q1253 : (Jvm.Cond.code ({ cls := "BeggarHeaps", name := "isKind", desc := "(I)Z" } : Jvm.MethodName) prog_1_method_16_code (2 : Nat) (Option.some Jvm.ClassFile.FieldType.boolean)) ∈ lw_all := lw_g (lw_at lw_m5 172 rfl) rfl
theorem q1254 : (Jvm.Cond.methodLink "BeggarHeaps" (188 : Nat) ({ cls := "BeggarHeaps", name := "kinds", desc := "()I" } : Jvm.MethodName)) ∈ lw_all := lw_g (lw_at lw_m5 173 rfl) rfl
theorem q1255 : (Jvm.Cond.privateMethod ({ cls := "BeggarHeaps", name := "kinds", desc := "()I" } : Jvm.MethodName)) ∈ lw_tbl := lw_at lw_m5 174 rfl
theorem q1256 : (Jvm.Cond.instanceMethod ({ cls := "BeggarHeaps", name := "kinds", desc := "()I" } : Jvm.MethodName)) ∈ lw_all := lw_g (lw_at lw_m5 175 rfl) rfl
theorem q1257 : (Jvm.Cond.code ({ cls := "BeggarHeaps", name := "kinds", desc := "()I" } : Jvm.MethodName) prog_1_method_15_code (1 : Nat) (Option.some Jvm.ClassFile.FieldType.int)) ∈ lw_all := lw_g (lw_at lw_m5 176 rfl) rfl
theorem q1258 : (Jvm.Cond.methodLink "BeggarHeaps" (185 : Nat) ({ cls := "java/util/ArrayList", name := "size", desc := "()I" } : Jvm.MethodName)) ∈ lw_all := lw_g (lw_at lw_m5 177 rfl) rfl
theorem q1259 : (Jvm.Cond.methodLink "BeggarHeaps" (190 : Nat) ({ cls := "BeggarHeaps", name := "in", desc := "(III)Z" } : Jvm.MethodName)) ∈ lw_all := lw_g (lw_at lw_m5 178 rfl) rfl
theorem q1260 : (Jvm.Cond.static ({ cls := "BeggarHeaps", name := "in", desc := "(III)Z" } : Jvm.MethodName)) ∈ lw_all := lw_g (lw_at lw_m5 179 rfl) rfl
theorem q1261 : (Jvm.Cond.code ({ cls := "BeggarHeaps", name := "in", desc := "(III)Z" } : Jvm.MethodName) prog_1_method_1_code (3 : Nat) (Option.some Jvm.ClassFile.FieldType.boolean)) ∈ lw_all := lw_g (lw_at lw_m5 180 rfl) rfl
theorem q1262 : (Jvm.Cond.methodLink "BeggarHeaps" (210 : Nat) ({ cls := "BeggarHeaps$Game", name := "cards", desc := "(I)I" } : Jvm.MethodName)) ∈ lw_all := lw_g (lw_at lw_m5 181 rfl) rfl
theorem q1266 : (Jvm.Cond.methodLink "BeggarHeaps" (213 : Nat) ({ cls := "BeggarHeaps$Game", name := "card", desc := "(II)I" } : Jvm.MethodName)) ∈ lw_all := lw_g (lw_at lw_m5 185 rfl) rfl
theorem q1271 : (Jvm.Cond.instanceMethod ({ cls := "BeggarHeaps", name := "card", desc := "(II)I" } : Jvm.MethodName)) ∈ lw_all := lw_g (lw_at lw_m5 190 rfl) rfl
theorem q1272 : (Jvm.Cond.selects "BeggarHeaps" ({ cls := "BeggarHeaps", name := "card", desc := "(II)I" } : Jvm.MethodName) ({ cls := "BeggarHeaps", name := "card", desc := "(II)I" } : Jvm.MethodName)) ∈ lw_all := lw_g (lw_at lw_m5 191 rfl) rfl
theorem q1273 : (Jvm.Cond.code ({ cls := "BeggarHeaps", name := "card", desc := "(II)I" } : Jvm.MethodName) prog_1_method_19_code (3 : Nat) (Option.some Jvm.ClassFile.FieldType.int)) ∈ lw_all := lw_g (lw_at lw_m5 192 rfl) rfl
theorem q1274 : (Jvm.Cond.methodLink "BeggarHeaps" (216 : Nat) ({ cls := "BeggarHeaps", name := "isSide", desc := "(I)Z" } : Jvm.MethodName)) ∈ lw_all := lw_g (lw_at lw_m5 193 rfl) rfl
theorem q1275 : (Jvm.Cond.static ({ cls := "BeggarHeaps", name := "isSide", desc := "(I)Z" } : Jvm.MethodName)) ∈ lw_all := lw_g (lw_at lw_m5 194 rfl) rfl
theorem q1276 : (Jvm.Cond.code ({ cls := "BeggarHeaps", name := "isSide", desc := "(I)Z" } : Jvm.MethodName) prog_1_method_17_code (1 : Nat) (Option.some Jvm.ClassFile.FieldType.boolean)) ∈ lw_all := lw_g (lw_at lw_m5 195 rfl) rfl
theorem q1278 : (Jvm.Cond.instanceMethod ({ cls := "BeggarHeaps", name := "heap", desc := "(I)I" } : Jvm.MethodName)) ∈ lw_all := lw_g (lw_at lw_m5 197 rfl) rfl
theorem q1279 : (Jvm.Cond.selects "BeggarHeaps" ({ cls := "BeggarHeaps", name := "heap", desc := "(I)I" } : Jvm.MethodName) ({ cls := "BeggarHeaps", name := "heap", desc := "(I)I" } : Jvm.MethodName)) ∈ lw_all := lw_g (lw_at lw_m5 198 rfl) rfl
theorem q1280 : (Jvm.Cond.code ({ cls := "BeggarHeaps", name := "heap", desc := "(I)I" } : Jvm.MethodName) prog_1_method_20_code (2 : Nat) (Option.some Jvm.ClassFile.FieldType.int)) ∈ lw_all := lw_g (lw_at lw_m5 199 rfl) rfl
theorem q1282 : (Jvm.Cond.instanceMethod ({ cls := "BeggarHeaps", name := "taken", desc := "(II)I" } : Jvm.MethodName)) ∈ lw_all := lw_g (lw_at lw_m5 201 rfl) rfl
theorem q1283 : (Jvm.Cond.selects "BeggarHeaps" ({ cls := "BeggarHeaps", name := "taken", desc := "(II)I" } : Jvm.MethodName) ({ cls := "BeggarHeaps", name := "taken", desc := "(II)I" } : Jvm.MethodName)) ∈ lw_all := lw_g (lw_at lw_m5 202 rfl) rfl
theorem q1284 : (Jvm.Cond.code ({ cls := "BeggarHeaps", name := "taken", desc := "(II)I" } : Jvm.MethodName) prog_1_method_21_code (5 : Nat) (Option.some Jvm.ClassFile.FieldType.int)) ∈ lw_all := lw_g (lw_at lw_m5 203 rfl) rfl
theorem q1285 : (Jvm.Cond.methodLink "BeggarHeaps" (222 : Nat) ({ cls := "java/util/ArrayList", name := "get", desc := "(I)Ljava/lang/Object;" } : Jvm.MethodName)) ∈ lw_all := lw_g (lw_at lw_m5 204 rfl) rfl
theorem q1286 : (Jvm.Cond.classLink "BeggarHeaps" (226 : Nat) "BeggarHeaps$Heap") ∈ lw_all := lw_g (lw_at lw_m5 205 rfl) rfl
theorem q1288 : (Jvm.Cond.instanceMethod ({ cls := "BeggarHeaps", name := "turn", desc := "(I)I" } : Jvm.MethodName)) ∈ lw_all := lw_g (lw_at lw_m5 207 rfl) rfl
theorem q1289 : (Jvm.Cond.selects "BeggarHeaps" ({ cls := "BeggarHeaps", name := "turn", desc := "(I)I" } : Jvm.MethodName) ({ cls := "BeggarHeaps", name := "turn", desc := "(I)I" } : Jvm.MethodName)) ∈ lw_all := lw_g (lw_at lw_m5 208 rfl) rfl
theorem q1290 : (Jvm.Cond.code ({ cls := "BeggarHeaps", name := "turn", desc := "(I)I" } : Jvm.MethodName) prog_1_method_26_code (3 : Nat) (Option.some Jvm.ClassFile.FieldType.int)) ∈ lw_all := lw_g (lw_at lw_m5 209 rfl) rfl
theorem q1291 : (Jvm.Cond.methodLink "BeggarHeaps" (309 : Nat) ({ cls := "BeggarHeaps", name := "keeps", desc := "()V" } : Jvm.MethodName)) ∈ lw_all := lw_g (lw_at lw_m5 210 rfl) rfl
theorem q1292 : (Jvm.Cond.privateMethod ({ cls := "BeggarHeaps", name := "keeps", desc := "()V" } : Jvm.MethodName)) ∈ lw_tbl := lw_at lw_m5 211 rfl
theorem q1293 : (Jvm.Cond.instanceMethod ({ cls := "BeggarHeaps", name := "keeps", desc := "()V" } : Jvm.MethodName)) ∈ lw_all := lw_g (lw_at lw_m5 212 rfl) rfl
theorem q1294 : (Jvm.Cond.code ({ cls := "BeggarHeaps", name := "keeps", desc := "()V" } : Jvm.MethodName) prog_1_method_22_code (3 : Nat) (Option.none : Option Jvm.ClassFile.FieldType)) ∈ lw_all := lw_g (lw_at lw_m5 213 rfl) rfl
theorem q1295 : (Jvm.Cond.methodLink "BeggarHeaps" (239 : Nat) ({ cls := "BeggarHeaps$Game", name := "beWhole", desc := "(LBeggarHeaps$Game;)V" } : Jvm.MethodName)) ∈ lw_all := lw_g (lw_at lw_m5 214 rfl) rfl
theorem q1309 : (Jvm.Cond.static ({ cls := "BeggarHeaps", name := "copies", desc := "([I[I)V" } : Jvm.MethodName)) ∈ lw_all := lw_g (lw_at lw_m5 228 rfl) rfl
theorem q1310 : (Jvm.Cond.code ({ cls := "BeggarHeaps", name := "copies", desc := "([I[I)V" } : Jvm.MethodName) prog_1_method_4_code (3 : Nat) (Option.none : Option Jvm.ClassFile.FieldType)) ∈ lw_all := lw_g (lw_at lw_m5 229 rfl) rfl
theorem q1311 : (Jvm.Cond.methodLink "BeggarHeaps" (312 : Nat) ({ cls := "BeggarHeaps", name := "turns", desc := "()Z" } : Jvm.MethodName)) ∈ lw_all := lw_g (lw_at lw_m5 230 rfl) rfl
theorem q1312 : (Jvm.Cond.privateMethod ({ cls := "BeggarHeaps", name := "turns", desc := "()Z" } : Jvm.MethodName)) ∈ lw_tbl := lw_at lw_m5 231 rfl
theorem q1313 : (Jvm.Cond.instanceMethod ({ cls := "BeggarHeaps", name := "turns", desc := "()Z" } : Jvm.MethodName)) ∈ lw_all := lw_g (lw_at lw_m5 232 rfl) rfl
theorem q1314 : (Jvm.Cond.code ({ cls := "BeggarHeaps", name := "turns", desc := "()Z" } : Jvm.MethodName) prog_1_method_25_code (2 : Nat) (Option.some Jvm.ClassFile.FieldType.boolean)) ∈ lw_all := lw_g (lw_at lw_m5 233 rfl) rfl
theorem q1315 : (Jvm.Cond.methodLink "BeggarHeaps" (299 : Nat) ({ cls := "BeggarHeaps$Game", name := "turned", desc := "([I)Z" } : Jvm.MethodName)) ∈ lw_all := lw_g (lw_at lw_m5 234 rfl) rfl
theorem q1328 : (Jvm.Cond.methodLink "BeggarHeaps" (303 : Nat) ({ cls := "BeggarHeaps", name := "taking", desc := "()V" } : Jvm.MethodName)) ∈ lw_all := lw_g (lw_at lw_m6 7 rfl) rfl
theorem q1329 : (Jvm.Cond.privateMethod ({ cls := "BeggarHeaps", name := "taking", desc := "()V" } : Jvm.MethodName)) ∈ lw_tbl := lw_at lw_m6 8 rfl
theorem q1330 : (Jvm.Cond.instanceMethod ({ cls := "BeggarHeaps", name := "taking", desc := "()V" } : Jvm.MethodName)) ∈ lw_all := lw_g (lw_at lw_m6 9 rfl) rfl
theorem q1331 : (Jvm.Cond.code ({ cls := "BeggarHeaps", name := "taking", desc := "()V" } : Jvm.MethodName) prog_1_method_23_code (3 : Nat) (Option.none : Option Jvm.ClassFile.FieldType)) ∈ lw_all := lw_g (lw_at lw_m6 10 rfl) rfl
theorem q1332 : (Jvm.Cond.methodLink "BeggarHeaps" (252 : Nat) ({ cls := "java/util/ArrayList", name := "remove", desc := "(I)Ljava/lang/Object;" } : Jvm.MethodName)) ∈ lw_all := lw_g (lw_at lw_m6 11 rfl) rfl
theorem q1342 : (Jvm.Cond.methodLink "BeggarHeaps" (259 : Nat) ({ cls := "BeggarHeaps$Heap", name := "<init>", desc := "(IIII)V" } : Jvm.MethodName)) ∈ lw_all := lw_g (lw_at lw_m6 21 rfl) rfl
theorem q1347 : (Jvm.Cond.fieldLinkNest "BeggarHeaps" (228 : Nat) "BeggarHeaps$Heap" "who" "I" "BeggarHeaps") ∈ lw_tbl := lw_at lw_m6 26 rfl
theorem q1349 : (Jvm.Cond.fieldLinkNest "BeggarHeaps" (231 : Nat) "BeggarHeaps$Heap" "cards" "I" "BeggarHeaps") ∈ lw_tbl := lw_at lw_m6 28 rfl
theorem q1351 : (Jvm.Cond.fieldLinkNest "BeggarHeaps" (233 : Nat) "BeggarHeaps$Heap" "pictures" "I" "BeggarHeaps") ∈ lw_tbl := lw_at lw_m6 30 rfl
theorem q1353 : (Jvm.Cond.fieldLinkNest "BeggarHeaps" (236 : Nat) "BeggarHeaps$Heap" "rounds" "I" "BeggarHeaps") ∈ lw_tbl := lw_at lw_m6 32 rfl
theorem q1363 : (Jvm.Cond.methodLink "BeggarHeaps" (262 : Nat) ({ cls := "java/util/ArrayList", name := "add", desc := "(Ljava/lang/Object;)Z" } : Jvm.MethodName)) ∈ lw_all := lw_g (lw_at lw_m6 42 rfl) rfl
theorem q1364 : (Jvm.Cond.methodLink "BeggarHeaps" (269 : Nat) ({ cls := "BeggarHeaps$Table", name := "order", desc := "()I" } : Jvm.MethodName)) ∈ lw_all := lw_g (lw_at lw_m6 43 rfl) rfl
theorem q1368 : (Jvm.Cond.methodLink "BeggarHeaps" (272 : Nat) ({ cls := "BeggarHeaps$Game", name := "takes", desc := "([ILBeggarHeaps$Order;)V" } : Jvm.MethodName)) ∈ lw_all := lw_g (lw_at lw_m6 47 rfl) rfl
theorem q1391 : (Jvm.Cond.methodLink "BeggarHeaps" (306 : Nat) ({ cls := "BeggarHeaps", name := "settles", desc := "()V" } : Jvm.MethodName)) ∈ lw_all := lw_g (lw_at lw_m6 70 rfl) rfl
theorem q1392 : (Jvm.Cond.privateMethod ({ cls := "BeggarHeaps", name := "settles", desc := "()V" } : Jvm.MethodName)) ∈ lw_tbl := lw_at lw_m6 71 rfl
theorem q1393 : (Jvm.Cond.instanceMethod ({ cls := "BeggarHeaps", name := "settles", desc := "()V" } : Jvm.MethodName)) ∈ lw_all := lw_g (lw_at lw_m6 72 rfl) rfl
theorem q1394 : (Jvm.Cond.code ({ cls := "BeggarHeaps", name := "settles", desc := "()V" } : Jvm.MethodName) prog_1_method_24_code (3 : Nat) (Option.none : Option Jvm.ClassFile.FieldType)) ∈ lw_all := lw_g (lw_at lw_m6 73 rfl) rfl
theorem q1395 : (Jvm.Cond.classLink "BeggarHeaps" (279 : Nat) "BeggarHeaps$Bet") ∈ lw_all := lw_g (lw_at lw_m6 74 rfl) rfl
theorem q1397 : (Jvm.Cond.instanceMethod ({ cls := "BeggarHeaps", name := "slip", desc := "(I)Z" } : Jvm.MethodName)) ∈ lw_all := lw_g (lw_at lw_m6 76 rfl) rfl
theorem q1398 : (Jvm.Cond.selects "BeggarHeaps" ({ cls := "BeggarHeaps", name := "slip", desc := "(I)Z" } : Jvm.MethodName) ({ cls := "BeggarHeaps", name := "slip", desc := "(I)Z" } : Jvm.MethodName)) ∈ lw_all := lw_g (lw_at lw_m6 77 rfl) rfl
theorem q1399 : (Jvm.Cond.code ({ cls := "BeggarHeaps", name := "slip", desc := "(I)Z" } : Jvm.MethodName) prog_1_method_27_code (5 : Nat) (Option.some Jvm.ClassFile.FieldType.boolean)) ∈ lw_all := lw_g (lw_at lw_m6 78 rfl) rfl
theorem q1400 : (Jvm.Cond.methodLinkNest "BeggarHeaps" (318 : Nat) ({ cls := "BeggarHeaps$Game", name := "turnsUp", desc := "()V" } : Jvm.MethodName) "BeggarHeaps") ∈ lw_tbl := lw_at lw_m6 79 rfl
theorem q1401 : (Jvm.Cond.methodLink "BeggarHeaps" (328 : Nat) ({ cls := "BeggarHeaps$Game", name := "gives", desc := "(I)I" } : Jvm.MethodName)) ∈ lw_all := lw_g (lw_at lw_m6 80 rfl) rfl
theorem q1403 : (Jvm.Cond.instanceMethod ({ cls := "BeggarHeaps", name := "undo", desc := "()Z" } : Jvm.MethodName)) ∈ lw_all := lw_g (lw_at lw_m6 82 rfl) rfl
theorem q1404 : (Jvm.Cond.selects "BeggarHeaps" ({ cls := "BeggarHeaps", name := "undo", desc := "()Z" } : Jvm.MethodName) ({ cls := "BeggarHeaps", name := "undo", desc := "()Z" } : Jvm.MethodName)) ∈ lw_all := lw_g (lw_at lw_m6 83 rfl) rfl
theorem q1405 : (Jvm.Cond.code ({ cls := "BeggarHeaps", name := "undo", desc := "()Z" } : Jvm.MethodName) prog_1_method_28_code (1 : Nat) (Option.some Jvm.ClassFile.FieldType.boolean)) ∈ lw_all := lw_g (lw_at lw_m6 84 rfl) rfl
theorem q1407 : (Jvm.Cond.instanceMethod ({ cls := "BeggarHeaps", name := "ends", desc := "(I)I" } : Jvm.MethodName)) ∈ lw_all := lw_g (lw_at lw_m6 86 rfl) rfl
theorem q1408 : (Jvm.Cond.selects "BeggarHeaps" ({ cls := "BeggarHeaps", name := "ends", desc := "(I)I" } : Jvm.MethodName) ({ cls := "BeggarHeaps", name := "ends", desc := "(I)I" } : Jvm.MethodName)) ∈ lw_all := lw_g (lw_at lw_m6 87 rfl) rfl
theorem q1409 : (Jvm.Cond.code ({ cls := "BeggarHeaps", name := "ends", desc := "(I)I" } : Jvm.MethodName) prog_1_method_30_code (2 : Nat) (Option.some Jvm.ClassFile.FieldType.int)) ∈ lw_all := lw_g (lw_at lw_m6 88 rfl) rfl
theorem q1410 : (Jvm.Cond.methodLink "BeggarHeaps" (341 : Nat) ({ cls := "BeggarHeaps", name := "tries", desc := "()V" } : Jvm.MethodName)) ∈ lw_all := lw_g (lw_at lw_m6 89 rfl) rfl
theorem q1411 : (Jvm.Cond.privateMethod ({ cls := "BeggarHeaps", name := "tries", desc := "()V" } : Jvm.MethodName)) ∈ lw_tbl := lw_at lw_m6 90 rfl
theorem q1412 : (Jvm.Cond.instanceMethod ({ cls := "BeggarHeaps", name := "tries", desc := "()V" } : Jvm.MethodName)) ∈ lw_all := lw_g (lw_at lw_m6 91 rfl) rfl
theorem q1413 : (Jvm.Cond.code ({ cls := "BeggarHeaps", name := "tries", desc := "()V" } : Jvm.MethodName) prog_1_method_29_code (1 : Nat) (Option.none : Option Jvm.ClassFile.FieldType)) ∈ lw_all := lw_g (lw_at lw_m6 92 rfl) rfl
theorem q1414 : (Jvm.Cond.methodLink "BeggarHeaps" (331 : Nat) ({ cls := "BeggarHeaps$Game", name := "be", desc := "(LBeggarHeaps$Game;)V" } : Jvm.MethodName)) ∈ lw_all := lw_g (lw_at lw_m6 93 rfl) rfl
theorem q1415 : (Jvm.Cond.methodLink "BeggarHeaps" (334 : Nat) ({ cls := "BeggarHeaps$Table", name := "limit", desc := "()I" } : Jvm.MethodName)) ∈ lw_all := lw_g (lw_at lw_m6 94 rfl) rfl
theorem q1419 : (Jvm.Cond.methodLink "BeggarHeaps" (337 : Nat) ({ cls := "BeggarHeaps$Run", name := "goes", desc := "(LBeggarHeaps$Game;[II)V" } : Jvm.MethodName)) ∈ lw_all := lw_g (lw_at lw_m6 98 rfl) rfl
theorem q1446 : (Jvm.Cond.instanceMethod ({ cls := "BeggarHeaps", name := "all", desc := "(I)I" } : Jvm.MethodName)) ∈ lw_all := lw_g (lw_at lw_m6 125 rfl) rfl
theorem q1447 : (Jvm.Cond.selects "BeggarHeaps" ({ cls := "BeggarHeaps", name := "all", desc := "(I)I" } : Jvm.MethodName) ({ cls := "BeggarHeaps", name := "all", desc := "(I)I" } : Jvm.MethodName)) ∈ lw_all := lw_g (lw_at lw_m6 126 rfl) rfl
theorem q1448 : (Jvm.Cond.code ({ cls := "BeggarHeaps", name := "all", desc := "(I)I" } : Jvm.MethodName) prog_1_method_37_code (6 : Nat) (Option.some Jvm.ClassFile.FieldType.int)) ∈ lw_all := lw_g (lw_at lw_m6 127 rfl) rfl
theorem q1449 : (Jvm.Cond.methodLink "BeggarHeaps" (364 : Nat) ({ cls := "BeggarHeaps", name := "firstRow", desc := "()Z" } : Jvm.MethodName)) ∈ lw_all := lw_g (lw_at lw_m6 128 rfl) rfl
theorem q1450 : (Jvm.Cond.privateMethod ({ cls := "BeggarHeaps", name := "firstRow", desc := "()Z" } : Jvm.MethodName)) ∈ lw_tbl := lw_at lw_m6 129 rfl
theorem q1451 : (Jvm.Cond.instanceMethod ({ cls := "BeggarHeaps", name := "firstRow", desc := "()Z" } : Jvm.MethodName)) ∈ lw_all := lw_g (lw_at lw_m6 130 rfl) rfl
theorem q1452 : (Jvm.Cond.code ({ cls := "BeggarHeaps", name := "firstRow", desc := "()Z" } : Jvm.MethodName) prog_1_method_31_code (3 : Nat) (Option.some Jvm.ClassFile.FieldType.boolean)) ∈ lw_all := lw_g (lw_at lw_m6 131 rfl) rfl
theorem q1453 : (Jvm.Cond.methodLink "BeggarHeaps" (355 : Nat) ({ cls := "BeggarHeaps", name := "rows", desc := "()I" } : Jvm.MethodName)) ∈ lw_all := lw_g (lw_at lw_m6 132 rfl) rfl
theorem q1454 : (Jvm.Cond.privateMethod ({ cls := "BeggarHeaps", name := "rows", desc := "()I" } : Jvm.MethodName)) ∈ lw_tbl := lw_at lw_m6 133 rfl
theorem q1455 : (Jvm.Cond.instanceMethod ({ cls := "BeggarHeaps", name := "rows", desc := "()I" } : Jvm.MethodName)) ∈ lw_all := lw_g (lw_at lw_m6 134 rfl) rfl
theorem q1456 : (Jvm.Cond.code ({ cls := "BeggarHeaps", name := "rows", desc := "()I" } : Jvm.MethodName) prog_1_method_32_code (4 : Nat) (Option.some Jvm.ClassFile.FieldType.int)) ∈ lw_all := lw_g (lw_at lw_m6 135 rfl) rfl
theorem q1457 : (Jvm.Cond.methodLink "BeggarHeaps" (367 : Nat) ({ cls := "BeggarHeaps", name := "plays", desc := "(I[I)V" } : Jvm.MethodName)) ∈ lw_all := lw_g (lw_at lw_m6 136 rfl) rfl
theorem q1458 : (Jvm.Cond.privateMethod ({ cls := "BeggarHeaps", name := "plays", desc := "(I[I)V" } : Jvm.MethodName)) ∈ lw_tbl := lw_at lw_m6 137 rfl
theorem q1459 : (Jvm.Cond.instanceMethod ({ cls := "BeggarHeaps", name := "plays", desc := "(I[I)V" } : Jvm.MethodName)) ∈ lw_all := lw_g (lw_at lw_m6 138 rfl) rfl
theorem q1460 : (Jvm.Cond.code ({ cls := "BeggarHeaps", name := "plays", desc := "(I[I)V" } : Jvm.MethodName) prog_1_method_36_code (3 : Nat) (Option.none : Option Jvm.ClassFile.FieldType)) ∈ lw_all := lw_g (lw_at lw_m6 139 rfl) rfl
theorem q1461 : (Jvm.Cond.methodLink "BeggarHeaps" (362 : Nat) ({ cls := "BeggarHeaps", name := "deals", desc := "(I)V" } : Jvm.MethodName)) ∈ lw_all := lw_g (lw_at lw_m6 140 rfl) rfl
theorem q1462 : (Jvm.Cond.privateMethod ({ cls := "BeggarHeaps", name := "deals", desc := "(I)V" } : Jvm.MethodName)) ∈ lw_tbl := lw_at lw_m6 141 rfl
theorem q1463 : (Jvm.Cond.instanceMethod ({ cls := "BeggarHeaps", name := "deals", desc := "(I)V" } : Jvm.MethodName)) ∈ lw_all := lw_g (lw_at lw_m6 142 rfl) rfl
theorem q1464 : (Jvm.Cond.code ({ cls := "BeggarHeaps", name := "deals", desc := "(I)V" } : Jvm.MethodName) prog_1_method_35_code (3 : Nat) (Option.none : Option Jvm.ClassFile.FieldType)) ∈ lw_all := lw_g (lw_at lw_m6 143 rfl) rfl
theorem q1465 : (Jvm.Cond.methodLink "BeggarHeaps" (371 : Nat) ({ cls := "BeggarHeaps", name := "nextRow", desc := "()Z" } : Jvm.MethodName)) ∈ lw_all := lw_g (lw_at lw_m6 144 rfl) rfl
theorem q1466 : (Jvm.Cond.privateMethod ({ cls := "BeggarHeaps", name := "nextRow", desc := "()Z" } : Jvm.MethodName)) ∈ lw_tbl := lw_at lw_m6 145 rfl
theorem q1467 : (Jvm.Cond.instanceMethod ({ cls := "BeggarHeaps", name := "nextRow", desc := "()Z" } : Jvm.MethodName)) ∈ lw_all := lw_g (lw_at lw_m6 146 rfl) rfl
theorem q1468 : (Jvm.Cond.code ({ cls := "BeggarHeaps", name := "nextRow", desc := "()Z" } : Jvm.MethodName) prog_1_method_33_code (5 : Nat) (Option.some Jvm.ClassFile.FieldType.boolean)) ∈ lw_all := lw_g (lw_at lw_m6 147 rfl) rfl
theorem q1469 : (Jvm.Cond.methodLink "BeggarHeaps" (358 : Nat) ({ cls := "BeggarHeaps", name := "changes", desc := "(II)V" } : Jvm.MethodName)) ∈ lw_all := lw_g (lw_at lw_m6 148 rfl) rfl
theorem q1470 : (Jvm.Cond.privateMethod ({ cls := "BeggarHeaps", name := "changes", desc := "(II)V" } : Jvm.MethodName)) ∈ lw_tbl := lw_at lw_m6 149 rfl
theorem q1471 : (Jvm.Cond.instanceMethod ({ cls := "BeggarHeaps", name := "changes", desc := "(II)V" } : Jvm.MethodName)) ∈ lw_all := lw_g (lw_at lw_m6 150 rfl) rfl
theorem q1472 : (Jvm.Cond.code ({ cls := "BeggarHeaps", name := "changes", desc := "(II)V" } : Jvm.MethodName) prog_1_method_34_code (4 : Nat) (Option.none : Option Jvm.ClassFile.FieldType)) ∈ lw_all := lw_g (lw_at lw_m6 151 rfl) rfl
theorem q1474 : (Jvm.Cond.instanceMethod ({ cls := "BeggarHeaps", name := "row", desc := "(II)I" } : Jvm.MethodName)) ∈ lw_all := lw_g (lw_at lw_m6 153 rfl) rfl
theorem q1475 : (Jvm.Cond.selects "BeggarHeaps" ({ cls := "BeggarHeaps", name := "row", desc := "(II)I" } : Jvm.MethodName) ({ cls := "BeggarHeaps", name := "row", desc := "(II)I" } : Jvm.MethodName)) ∈ lw_all := lw_g (lw_at lw_m6 154 rfl) rfl
theorem q1476 : (Jvm.Cond.code ({ cls := "BeggarHeaps", name := "row", desc := "(II)I" } : Jvm.MethodName) prog_1_method_38_code (4 : Nat) (Option.some Jvm.ClassFile.FieldType.int)) ∈ lw_all := lw_g (lw_at lw_m6 155 rfl) rfl
theorem q1478 : (Jvm.Cond.instanceMethod ({ cls := "BeggarHeaps", name := "beginner", desc := "(I)I" } : Jvm.MethodName)) ∈ lw_all := lw_g (lw_at lw_m6 157 rfl) rfl
theorem q1479 : (Jvm.Cond.selects "BeggarHeaps" ({ cls := "BeggarHeaps", name := "beginner", desc := "(I)I" } : Jvm.MethodName) ({ cls := "BeggarHeaps", name := "beginner", desc := "(I)I" } : Jvm.MethodName)) ∈ lw_all := lw_g (lw_at lw_m6 158 rfl) rfl
theorem q1480 : (Jvm.Cond.code ({ cls := "BeggarHeaps", name := "beginner", desc := "(I)I" } : Jvm.MethodName) prog_1_method_39_code (4 : Nat) (Option.some Jvm.ClassFile.FieldType.int)) ∈ lw_all := lw_g (lw_at lw_m6 159 rfl) rfl
theorem q1482 : (Jvm.Cond.instanceMethod ({ cls := "BeggarHeaps", name := "worth", desc := "(II)I" } : Jvm.MethodName)) ∈ lw_all := lw_g (lw_at lw_m6 161 rfl) rfl
theorem q1483 : (Jvm.Cond.selects "BeggarHeaps" ({ cls := "BeggarHeaps", name := "worth", desc := "(II)I" } : Jvm.MethodName) ({ cls := "BeggarHeaps", name := "worth", desc := "(II)I" } : Jvm.MethodName)) ∈ lw_all := lw_g (lw_at lw_m6 162 rfl) rfl
theorem q1484 : (Jvm.Cond.code ({ cls := "BeggarHeaps", name := "worth", desc := "(II)I" } : Jvm.MethodName) prog_1_method_40_code (7 : Nat) (Option.some Jvm.ClassFile.FieldType.int)) ∈ lw_all := lw_g (lw_at lw_m6 163 rfl) rfl
theorem q1486 : (Jvm.Cond.instanceMethod ({ cls := "BeggarHeaps", name := "leads", desc := "(II)I" } : Jvm.MethodName)) ∈ lw_all := lw_g (lw_at lw_m6 165 rfl) rfl
theorem q1487 : (Jvm.Cond.selects "BeggarHeaps" ({ cls := "BeggarHeaps", name := "leads", desc := "(II)I" } : Jvm.MethodName) ({ cls := "BeggarHeaps", name := "leads", desc := "(II)I" } : Jvm.MethodName)) ∈ lw_all := lw_g (lw_at lw_m6 166 rfl) rfl
theorem q1488 : (Jvm.Cond.code ({ cls := "BeggarHeaps", name := "leads", desc := "(II)I" } : Jvm.MethodName) prog_1_method_42_code (6 : Nat) (Option.some Jvm.ClassFile.FieldType.int)) ∈ lw_all := lw_g (lw_at lw_m6 167 rfl) rfl
theorem q1489 : (Jvm.Cond.methodLink "BeggarHeaps" (379 : Nat) ({ cls := "BeggarHeaps", name := "goesTo", desc := "(I)Z" } : Jvm.MethodName)) ∈ lw_all := lw_g (lw_at lw_m6 168 rfl) rfl
theorem q1490 : (Jvm.Cond.privateMethod ({ cls := "BeggarHeaps", name := "goesTo", desc := "(I)Z" } : Jvm.MethodName)) ∈ lw_tbl := lw_at lw_m6 169 rfl
theorem q1491 : (Jvm.Cond.instanceMethod ({ cls := "BeggarHeaps", name := "goesTo", desc := "(I)Z" } : Jvm.MethodName)) ∈ lw_all := lw_g (lw_at lw_m6 170 rfl) rfl
theorem q1492 : (Jvm.Cond.code ({ cls := "BeggarHeaps", name := "goesTo", desc := "(I)Z" } : Jvm.MethodName) prog_1_method_41_code (2 : Nat) (Option.some Jvm.ClassFile.FieldType.boolean)) ∈ lw_all := lw_g (lw_at lw_m6 171 rfl) rfl
theorem q1493 : (Jvm.Cond.methodLink "BeggarHeaps" (375 : Nat) ({ cls := "BeggarHeaps$Game", name := "turn", desc := "([ILBeggarHeaps$Order;LBeggarHeaps$Order;)I" } : Jvm.MethodName)) ∈ lw_all := lw_g (lw_at lw_m6 172 rfl) rfl
theorem q1494 : (Jvm.Cond.methodLink "BeggarHeaps" (388 : Nat) ({ cls := "BeggarHeaps$Game", name := "worth", desc := "(I[I)I" } : Jvm.MethodName)) ∈ lw_all := lw_g (lw_at lw_m6 173 rfl) rfl
theorem q1499 : (Jvm.Cond.methodLink "BeggarHeaps" (392 : Nat) ({ cls := "BeggarHeaps", name := "leads", desc := "([III)V" } : Jvm.MethodName)) ∈ lw_all := lw_g (lw_at lw_m6 178 rfl) rfl
theorem q1500 : (Jvm.Cond.privateMethod ({ cls := "BeggarHeaps", name := "leads", desc := "([III)V" } : Jvm.MethodName)) ∈ lw_tbl := lw_at lw_m6 179 rfl
theorem q1501 : (Jvm.Cond.instanceMethod ({ cls := "BeggarHeaps", name := "leads", desc := "([III)V" } : Jvm.MethodName)) ∈ lw_all := lw_g (lw_at lw_m6 180 rfl) rfl
theorem q1502 : (Jvm.Cond.code ({ cls := "BeggarHeaps", name := "leads", desc := "([III)V" } : Jvm.MethodName) prog_1_method_43_code (4 : Nat) (Option.none : Option Jvm.ClassFile.FieldType)) ∈ lw_all := lw_g (lw_at lw_m6 181 rfl) rfl
theorem q1504 : (Jvm.Cond.instanceMethod ({ cls := "BeggarHeaps", name := "laws", desc := "(III)I" } : Jvm.MethodName)) ∈ lw_all := lw_g (lw_at lw_m6 183 rfl) rfl
theorem q1505 : (Jvm.Cond.selects "BeggarHeaps" ({ cls := "BeggarHeaps", name := "laws", desc := "(III)I" } : Jvm.MethodName) ({ cls := "BeggarHeaps", name := "laws", desc := "(III)I" } : Jvm.MethodName)) ∈ lw_all := lw_g (lw_at lw_m6 184 rfl) rfl
theorem q1506 : (Jvm.Cond.code ({ cls := "BeggarHeaps", name := "laws", desc := "(III)I" } : Jvm.MethodName) prog_1_method_44_code (9 : Nat) (Option.some Jvm.ClassFile.FieldType.int)) ∈ lw_all := lw_g (lw_at lw_m6 185 rfl) rfl
theorem q1507 : (Jvm.Cond.methodLink "BeggarHeaps" (396 : Nat) ({ cls := "BeggarHeaps", name := "copies", desc := "([I[I)V" } : Jvm.MethodName)) ∈ lw_all := lw_g (lw_at lw_m6 186 rfl) rfl
theorem q1508 : (Jvm.Cond.methodLink "BeggarHeaps" (1 : Nat) ({ cls := "BeggarHeaps", name := "gcd", desc := "(JJ)J" } : Jvm.MethodName)) ∈ lw_all := lw_g (lw_at lw_m6 187 rfl) rfl
theorem q1509 : (Jvm.Cond.static ({ cls := "BeggarHeaps", name := "gcd", desc := "(JJ)J" } : Jvm.MethodName)) ∈ lw_all := lw_g (lw_at lw_m6 188 rfl) rfl
theorem q1510 : (Jvm.Cond.code ({ cls := "BeggarHeaps", name := "gcd", desc := "(JJ)J" } : Jvm.MethodName) prog_1_method_2_code (4 : Nat) (Option.some Jvm.ClassFile.FieldType.long)) ∈ lw_all := lw_g (lw_at lw_m6 189 rfl) rfl
theorem q1512 : (Jvm.Cond.instanceMethod ({ cls := "BeggarHeaps", name := "unseen", desc := "(I)I" } : Jvm.MethodName)) ∈ lw_all := lw_g (lw_at lw_m6 191 rfl) rfl
theorem q1513 : (Jvm.Cond.selects "BeggarHeaps" ({ cls := "BeggarHeaps", name := "unseen", desc := "(I)I" } : Jvm.MethodName) ({ cls := "BeggarHeaps", name := "unseen", desc := "(I)I" } : Jvm.MethodName)) ∈ lw_all := lw_g (lw_at lw_m6 192 rfl) rfl
theorem q1514 : (Jvm.Cond.code ({ cls := "BeggarHeaps", name := "unseen", desc := "(I)I" } : Jvm.MethodName) prog_1_method_46_code (2 : Nat) (Option.some Jvm.ClassFile.FieldType.int)) ∈ lw_all := lw_g (lw_at lw_m6 193 rfl) rfl
theorem q1515 : (Jvm.Cond.methodLink "BeggarHeaps" (400 : Nat) ({ cls := "BeggarHeaps", name := "unseenOf", desc := "(I)I" } : Jvm.MethodName)) ∈ lw_all := lw_g (lw_at lw_m6 194 rfl) rfl
theorem q1516 : (Jvm.Cond.privateMethod ({ cls := "BeggarHeaps", name := "unseenOf", desc := "(I)I" } : Jvm.MethodName)) ∈ lw_tbl := lw_at lw_m6 195 rfl
theorem q1517 : (Jvm.Cond.instanceMethod ({ cls := "BeggarHeaps", name := "unseenOf", desc := "(I)I" } : Jvm.MethodName)) ∈ lw_all := lw_g (lw_at lw_m6 196 rfl) rfl
theorem q1518 : (Jvm.Cond.code ({ cls := "BeggarHeaps", name := "unseenOf", desc := "(I)I" } : Jvm.MethodName) prog_1_method_45_code (4 : Nat) (Option.some Jvm.ClassFile.FieldType.int)) ∈ lw_all := lw_g (lw_at lw_m6 197 rfl) rfl
theorem q1520 : (Jvm.Cond.instanceMethod ({ cls := "BeggarHeaps", name := "odds", desc := "(I)I" } : Jvm.MethodName)) ∈ lw_all := lw_g (lw_at lw_m6 199 rfl) rfl
theorem q1521 : (Jvm.Cond.selects "BeggarHeaps" ({ cls := "BeggarHeaps", name := "odds", desc := "(I)I" } : Jvm.MethodName) ({ cls := "BeggarHeaps", name := "odds", desc := "(I)I" } : Jvm.MethodName)) ∈ lw_all := lw_g (lw_at lw_m6 200 rfl) rfl
theorem q1522 : (Jvm.Cond.code ({ cls := "BeggarHeaps", name := "odds", desc := "(I)I" } : Jvm.MethodName) prog_1_method_48_code (2 : Nat) (Option.some Jvm.ClassFile.FieldType.int)) ∈ lw_all := lw_g (lw_at lw_m6 201 rfl) rfl
theorem q1523 : (Jvm.Cond.methodLink "BeggarHeaps" (409 : Nat) ({ cls := "BeggarHeaps", name := "goesThrough", desc := "()Z" } : Jvm.MethodName)) ∈ lw_all := lw_g (lw_at lw_m6 202 rfl) rfl
theorem q1524 : (Jvm.Cond.privateMethod ({ cls := "BeggarHeaps", name := "goesThrough", desc := "()Z" } : Jvm.MethodName)) ∈ lw_tbl := lw_at lw_m6 203 rfl
theorem q1525 : (Jvm.Cond.instanceMethod ({ cls := "BeggarHeaps", name := "goesThrough", desc := "()Z" } : Jvm.MethodName)) ∈ lw_all := lw_g (lw_at lw_m6 204 rfl) rfl
theorem q1526 : (Jvm.Cond.code ({ cls := "BeggarHeaps", name := "goesThrough", desc := "()Z" } : Jvm.MethodName) prog_1_method_47_code (4 : Nat) (Option.some Jvm.ClassFile.FieldType.boolean)) ∈ lw_all := lw_g (lw_at lw_m6 205 rfl) rfl
theorem q1528 : (Jvm.Cond.instanceMethod ({ cls := "BeggarHeaps", name := "offer", desc := "()I" } : Jvm.MethodName)) ∈ lw_all := lw_g (lw_at lw_m6 207 rfl) rfl
theorem q1529 : (Jvm.Cond.selects "BeggarHeaps" ({ cls := "BeggarHeaps", name := "offer", desc := "()I" } : Jvm.MethodName) ({ cls := "BeggarHeaps", name := "offer", desc := "()I" } : Jvm.MethodName)) ∈ lw_all := lw_g (lw_at lw_m6 208 rfl) rfl
theorem q1530 : (Jvm.Cond.code ({ cls := "BeggarHeaps", name := "offer", desc := "()I" } : Jvm.MethodName) prog_1_method_49_code (1 : Nat) (Option.some Jvm.ClassFile.FieldType.int)) ∈ lw_all := lw_g (lw_at lw_m6 209 rfl) rfl
theorem q1531 : (Jvm.Cond.methodLink "BeggarHeaps" (416 : Nat) ({ cls := "BeggarHeaps$Expression", name := "worked", desc := "([I)I" } : Jvm.MethodName)) ∈ lw_all := lw_g (lw_at lw_m6 210 rfl) rfl
theorem q1548 : (Jvm.Cond.methodLink "BeggarHeaps" (422 : Nat) ({ cls := "java/lang/Math", name := "min", desc := "(II)I" } : Jvm.MethodName)) ∈ lw_all := lw_g (lw_at lw_m6 227 rfl) rfl
theorem q1549 : (Jvm.Cond.methodLink "BeggarHeaps" (427 : Nat) ({ cls := "java/lang/Math", name := "max", desc := "(II)I" } : Jvm.MethodName)) ∈ lw_all := lw_g (lw_at lw_m6 228 rfl) rfl
theorem q1551 : (Jvm.Cond.instanceMethod ({ cls := "BeggarHeaps", name := "bet", desc := "(II)I" } : Jvm.MethodName)) ∈ lw_all := lw_g (lw_at lw_m6 230 rfl) rfl
theorem q1552 : (Jvm.Cond.selects "BeggarHeaps" ({ cls := "BeggarHeaps", name := "bet", desc := "(II)I" } : Jvm.MethodName) ({ cls := "BeggarHeaps", name := "bet", desc := "(II)I" } : Jvm.MethodName)) ∈ lw_all := lw_g (lw_at lw_m6 231 rfl) rfl
theorem q1553 : (Jvm.Cond.code ({ cls := "BeggarHeaps", name := "bet", desc := "(II)I" } : Jvm.MethodName) prog_1_method_50_code (3 : Nat) (Option.some Jvm.ClassFile.FieldType.int)) ∈ lw_all := lw_g (lw_at lw_m6 232 rfl) rfl
theorem q1555 : (Jvm.Cond.methodLink "BeggarHeaps" (430 : Nat) ({ cls := "BeggarHeaps", name := "offer", desc := "()I" } : Jvm.MethodName)) ∈ lw_all := lw_g (lw_at lw_m6 234 rfl) rfl
theorem q1556 : (Jvm.Cond.methodLink "BeggarHeaps" (432 : Nat) ({ cls := "BeggarHeaps$Bet", name := "<init>", desc := "(III)V" } : Jvm.MethodName)) ∈ lw_all := lw_g (lw_at lw_m6 235 rfl) rfl
theorem q1561 : (Jvm.Cond.fieldLinkNest "BeggarHeaps" (281 : Nat) "BeggarHeaps$Bet" "side" "I" "BeggarHeaps") ∈ lw_tbl := lw_at lw_m7 0 rfl
theorem q1563 : (Jvm.Cond.fieldLinkNest "BeggarHeaps" (290 : Nat) "BeggarHeaps$Bet" "coins" "I" "BeggarHeaps") ∈ lw_tbl := lw_at lw_m7 2 rfl
theorem q1565 : (Jvm.Cond.fieldLinkNest "BeggarHeaps" (293 : Nat) "BeggarHeaps$Bet" "offer" "I" "BeggarHeaps") ∈ lw_tbl := lw_at lw_m7 4 rfl
theorem q1574 : (Jvm.Cond.instanceMethod ({ cls := "BeggarHeaps", name := "take", desc := "(I)I" } : Jvm.MethodName)) ∈ lw_all := lw_g (lw_at lw_m7 13 rfl) rfl
theorem q1575 : (Jvm.Cond.selects "BeggarHeaps" ({ cls := "BeggarHeaps", name := "take", desc := "(I)I" } : Jvm.MethodName) ({ cls := "BeggarHeaps", name := "take", desc := "(I)I" } : Jvm.MethodName)) ∈ lw_all := lw_g (lw_at lw_m7 14 rfl) rfl
theorem q1576 : (Jvm.Cond.code ({ cls := "BeggarHeaps", name := "take", desc := "(I)I" } : Jvm.MethodName) prog_1_method_51_code (3 : Nat) (Option.some Jvm.ClassFile.FieldType.int)) ∈ lw_all := lw_g (lw_at lw_m7 15 rfl) rfl
theorem q1578 : (Jvm.Cond.instanceMethod ({ cls := "BeggarHeaps", name := "choice", desc := "(II)I" } : Jvm.MethodName)) ∈ lw_all := lw_g (lw_at lw_m7 17 rfl) rfl
theorem q1579 : (Jvm.Cond.selects "BeggarHeaps" ({ cls := "BeggarHeaps", name := "choice", desc := "(II)I" } : Jvm.MethodName) ({ cls := "BeggarHeaps", name := "choice", desc := "(II)I" } : Jvm.MethodName)) ∈ lw_all := lw_g (lw_at lw_m7 18 rfl) rfl
theorem q1580 : (Jvm.Cond.code ({ cls := "BeggarHeaps", name := "choice", desc := "(II)I" } : Jvm.MethodName) prog_1_method_55_code (4 : Nat) (Option.some Jvm.ClassFile.FieldType.int)) ∈ lw_all := lw_g (lw_at lw_m7 19 rfl) rfl
theorem q1581 : (Jvm.Cond.methodLink "BeggarHeaps" (445 : Nat) ({ cls := "BeggarHeaps", name := "canWin", desc := "(LBeggarHeaps$Game;II)Z" } : Jvm.MethodName)) ∈ lw_all := lw_g (lw_at lw_m7 20 rfl) rfl
theorem q1582 : (Jvm.Cond.privateMethod ({ cls := "BeggarHeaps", name := "canWin", desc := "(LBeggarHeaps$Game;II)Z" } : Jvm.MethodName)) ∈ lw_tbl := lw_at lw_m7 21 rfl
theorem q1583 : (Jvm.Cond.instanceMethod ({ cls := "BeggarHeaps", name := "canWin", desc := "(LBeggarHeaps$Game;II)Z" } : Jvm.MethodName)) ∈ lw_all := lw_g (lw_at lw_m7 22 rfl) rfl
theorem q1584 : (Jvm.Cond.code ({ cls := "BeggarHeaps", name := "canWin", desc := "(LBeggarHeaps$Game;II)Z" } : Jvm.MethodName) prog_1_method_54_code (7 : Nat) (Option.some Jvm.ClassFile.FieldType.boolean)) ∈ lw_all := lw_g (lw_at lw_m7 23 rfl) rfl
theorem q1585 : (Jvm.Cond.methodLink "BeggarHeaps" (435 : Nat) ({ cls := "BeggarHeaps", name := "tried", desc := "(ILBeggarHeaps$Game;)LBeggarHeaps$Game;" } : Jvm.MethodName)) ∈ lw_all := lw_g (lw_at lw_m7 24 rfl) rfl
theorem q1586 : (Jvm.Cond.privateMethod ({ cls := "BeggarHeaps", name := "tried", desc := "(ILBeggarHeaps$Game;)LBeggarHeaps$Game;" } : Jvm.MethodName)) ∈ lw_tbl := lw_at lw_m7 25 rfl
theorem q1587 : (Jvm.Cond.instanceMethod ({ cls := "BeggarHeaps", name := "tried", desc := "(ILBeggarHeaps$Game;)LBeggarHeaps$Game;" } : Jvm.MethodName)) ∈ lw_all := lw_g (lw_at lw_m7 26 rfl) rfl
theorem q1588 : (Jvm.Cond.code ({ cls := "BeggarHeaps", name := "tried", desc := "(ILBeggarHeaps$Game;)LBeggarHeaps$Game;" } : Jvm.MethodName) prog_1_method_52_code (3 : Nat) (Option.some (Jvm.ClassFile.FieldType.object "BeggarHeaps$Game"))) ∈ lw_all := lw_g (lw_at lw_m7 27 rfl) rfl
theorem q1589 : (Jvm.Cond.methodLink "BeggarHeaps" (438 : Nat) ({ cls := "BeggarHeaps", name := "goesToHeap", desc := "(LBeggarHeaps$Game;)Z" } : Jvm.MethodName)) ∈ lw_all := lw_g (lw_at lw_m7 28 rfl) rfl
theorem q1590 : (Jvm.Cond.privateMethod ({ cls := "BeggarHeaps", name := "goesToHeap", desc := "(LBeggarHeaps$Game;)Z" } : Jvm.MethodName)) ∈ lw_tbl := lw_at lw_m7 29 rfl
theorem q1591 : (Jvm.Cond.instanceMethod ({ cls := "BeggarHeaps", name := "goesToHeap", desc := "(LBeggarHeaps$Game;)Z" } : Jvm.MethodName)) ∈ lw_all := lw_g (lw_at lw_m7 30 rfl) rfl
theorem q1592 : (Jvm.Cond.code ({ cls := "BeggarHeaps", name := "goesToHeap", desc := "(LBeggarHeaps$Game;)Z" } : Jvm.MethodName) prog_1_method_53_code (2 : Nat) (Option.some Jvm.ClassFile.FieldType.boolean)) ∈ lw_all := lw_g (lw_at lw_m7 31 rfl) rfl
theorem q1594 : (Jvm.Cond.instanceMethod ({ cls := "BeggarHeaps", name := "both", desc := "(I)I" } : Jvm.MethodName)) ∈ lw_all := lw_g (lw_at lw_m7 33 rfl) rfl
theorem q1595 : (Jvm.Cond.selects "BeggarHeaps" ({ cls := "BeggarHeaps", name := "both", desc := "(I)I" } : Jvm.MethodName) ({ cls := "BeggarHeaps", name := "both", desc := "(I)I" } : Jvm.MethodName)) ∈ lw_all := lw_g (lw_at lw_m7 34 rfl) rfl
theorem q1596 : (Jvm.Cond.code ({ cls := "BeggarHeaps", name := "both", desc := "(I)I" } : Jvm.MethodName) prog_1_method_57_code (2 : Nat) (Option.some Jvm.ClassFile.FieldType.int)) ∈ lw_all := lw_g (lw_at lw_m7 35 rfl) rfl
theorem q1597 : (Jvm.Cond.methodLink "BeggarHeaps" (449 : Nat) ({ cls := "BeggarHeaps", name := "must", desc := "(LBeggarHeaps$Game;I)Z" } : Jvm.MethodName)) ∈ lw_all := lw_g (lw_at lw_m7 36 rfl) rfl
theorem q1598 : (Jvm.Cond.privateMethod ({ cls := "BeggarHeaps", name := "must", desc := "(LBeggarHeaps$Game;I)Z" } : Jvm.MethodName)) ∈ lw_tbl := lw_at lw_m7 37 rfl
theorem q1599 : (Jvm.Cond.instanceMethod ({ cls := "BeggarHeaps", name := "must", desc := "(LBeggarHeaps$Game;I)Z" } : Jvm.MethodName)) ∈ lw_all := lw_g (lw_at lw_m7 38 rfl) rfl
theorem q1600 : (Jvm.Cond.code ({ cls := "BeggarHeaps", name := "must", desc := "(LBeggarHeaps$Game;I)Z" } : Jvm.MethodName) prog_1_method_56_code (7 : Nat) (Option.some Jvm.ClassFile.FieldType.boolean)) ∈ lw_all := lw_g (lw_at lw_m7 39 rfl) rfl
theorem q1602 : (Jvm.Cond.instanceMethod ({ cls := "BeggarHeaps", name := "opening", desc := "(I)I" } : Jvm.MethodName)) ∈ lw_all := lw_g (lw_at lw_m7 41 rfl) rfl
theorem q1603 : (Jvm.Cond.selects "BeggarHeaps" ({ cls := "BeggarHeaps", name := "opening", desc := "(I)I" } : Jvm.MethodName) ({ cls := "BeggarHeaps", name := "opening", desc := "(I)I" } : Jvm.MethodName)) ∈ lw_all := lw_g (lw_at lw_m7 42 rfl) rfl
theorem q1604 : (Jvm.Cond.code ({ cls := "BeggarHeaps", name := "opening", desc := "(I)I" } : Jvm.MethodName) prog_1_method_59_code (5 : Nat) (Option.some Jvm.ClassFile.FieldType.int)) ∈ lw_all := lw_g (lw_at lw_m7 43 rfl) rfl
theorem q1605 : (Jvm.Cond.classLink "BeggarHeaps" (453 : Nat) "BeggarHeaps$Opening") ∈ lw_all := lw_g (lw_at lw_m7 44 rfl) rfl
theorem q1606 : (Jvm.Cond.methodLink "BeggarHeaps" (457 : Nat) ({ cls := "BeggarHeaps", name := "begins", desc := "(LBeggarHeaps$Row;LBeggarHeaps$Row;)Z" } : Jvm.MethodName)) ∈ lw_all := lw_g (lw_at lw_m7 45 rfl) rfl
theorem q1607 : (Jvm.Cond.static ({ cls := "BeggarHeaps", name := "begins", desc := "(LBeggarHeaps$Row;LBeggarHeaps$Row;)Z" } : Jvm.MethodName)) ∈ lw_all := lw_g (lw_at lw_m7 46 rfl) rfl
theorem q1608 : (Jvm.Cond.code ({ cls := "BeggarHeaps", name := "begins", desc := "(LBeggarHeaps$Row;LBeggarHeaps$Row;)Z" } : Jvm.MethodName) prog_1_method_58_code (3 : Nat) (Option.some Jvm.ClassFile.FieldType.boolean)) ∈ lw_all := lw_g (lw_at lw_m7 47 rfl) rfl
theorem q1610 : (Jvm.Cond.instanceMethod ({ cls := "BeggarHeaps", name := "comes", desc := "(I)I" } : Jvm.MethodName)) ∈ lw_all := lw_g (lw_at lw_m7 49 rfl) rfl
theorem q1611 : (Jvm.Cond.selects "BeggarHeaps" ({ cls := "BeggarHeaps", name := "comes", desc := "(I)I" } : Jvm.MethodName) ({ cls := "BeggarHeaps", name := "comes", desc := "(I)I" } : Jvm.MethodName)) ∈ lw_all := lw_g (lw_at lw_m7 50 rfl) rfl
theorem q1612 : (Jvm.Cond.code ({ cls := "BeggarHeaps", name := "comes", desc := "(I)I" } : Jvm.MethodName) prog_1_method_60_code (2 : Nat) (Option.some Jvm.ClassFile.FieldType.int)) ∈ lw_all := lw_g (lw_at lw_m7 51 rfl) rfl
theorem q1614 : (Jvm.Cond.instanceMethod ({ cls := "BeggarHeaps", name := "clear", desc := "()Z" } : Jvm.MethodName)) ∈ lw_all := lw_g (lw_at lw_m7 53 rfl) rfl
theorem q1615 : (Jvm.Cond.selects "BeggarHeaps" ({ cls := "BeggarHeaps", name := "clear", desc := "()Z" } : Jvm.MethodName) ({ cls := "BeggarHeaps", name := "clear", desc := "()Z" } : Jvm.MethodName)) ∈ lw_all := lw_g (lw_at lw_m7 54 rfl) rfl
theorem q1616 : (Jvm.Cond.code ({ cls := "BeggarHeaps", name := "clear", desc := "()Z" } : Jvm.MethodName) prog_1_method_62_code (1 : Nat) (Option.some Jvm.ClassFile.FieldType.boolean)) ∈ lw_all := lw_g (lw_at lw_m7 55 rfl) rfl
theorem q1618 : (Jvm.Cond.instanceMethod ({ cls := "BeggarHeaps", name := "drawn", desc := "(I)Z" } : Jvm.MethodName)) ∈ lw_all := lw_g (lw_at lw_m7 57 rfl) rfl
theorem q1619 : (Jvm.Cond.selects "BeggarHeaps" ({ cls := "BeggarHeaps", name := "drawn", desc := "(I)Z" } : Jvm.MethodName) ({ cls := "BeggarHeaps", name := "drawn", desc := "(I)Z" } : Jvm.MethodName)) ∈ lw_all := lw_g (lw_at lw_m7 58 rfl) rfl
theorem q1620 : (Jvm.Cond.code ({ cls := "BeggarHeaps", name := "drawn", desc := "(I)Z" } : Jvm.MethodName) prog_1_method_65_code (4 : Nat) (Option.some Jvm.ClassFile.FieldType.boolean)) ∈ lw_all := lw_g (lw_at lw_m7 59 rfl) rfl
theorem q1621 : (Jvm.Cond.methodLink "BeggarHeaps" (489 : Nat) ({ cls := "BeggarHeaps$Table", name := "cards", desc := "()I" } : Jvm.MethodName)) ∈ lw_all := lw_g (lw_at lw_m7 60 rfl) rfl
theorem q1622 : (Jvm.Cond.methodLink "BeggarHeaps" (491 : Nat) ({ cls := "BeggarHeaps", name := "shuffles", desc := "()V" } : Jvm.MethodName)) ∈ lw_all := lw_g (lw_at lw_m7 61 rfl) rfl
theorem q1623 : (Jvm.Cond.privateMethod ({ cls := "BeggarHeaps", name := "shuffles", desc := "()V" } : Jvm.MethodName)) ∈ lw_tbl := lw_at lw_m7 62 rfl
theorem q1624 : (Jvm.Cond.instanceMethod ({ cls := "BeggarHeaps", name := "shuffles", desc := "()V" } : Jvm.MethodName)) ∈ lw_all := lw_g (lw_at lw_m7 63 rfl) rfl
theorem q1625 : (Jvm.Cond.code ({ cls := "BeggarHeaps", name := "shuffles", desc := "()V" } : Jvm.MethodName) prog_1_method_64_code (3 : Nat) (Option.none : Option Jvm.ClassFile.FieldType)) ∈ lw_all := lw_g (lw_at lw_m7 64 rfl) rfl
theorem q1626 : (Jvm.Cond.methodLink "BeggarHeaps" (486 : Nat) ({ cls := "BeggarHeaps", name := "draws", desc := "(I)I" } : Jvm.MethodName)) ∈ lw_all := lw_g (lw_at lw_m7 65 rfl) rfl
theorem q1627 : (Jvm.Cond.privateMethod ({ cls := "BeggarHeaps", name := "draws", desc := "(I)I" } : Jvm.MethodName)) ∈ lw_tbl := lw_at lw_m7 66 rfl
theorem q1628 : (Jvm.Cond.instanceMethod ({ cls := "BeggarHeaps", name := "draws", desc := "(I)I" } : Jvm.MethodName)) ∈ lw_all := lw_g (lw_at lw_m7 67 rfl) rfl
theorem q1629 : (Jvm.Cond.code ({ cls := "BeggarHeaps", name := "draws", desc := "(I)I" } : Jvm.MethodName) prog_1_method_63_code (2 : Nat) (Option.some Jvm.ClassFile.FieldType.int)) ∈ lw_all := lw_g (lw_at lw_m7 68 rfl) rfl
theorem q1630 : (Jvm.Cond.constantLong "BeggarHeaps" (478 : Nat) (1103515245 : Int64)) ∈ lw_all := lw_g (lw_at lw_m7 69 rfl) rfl
theorem q1631 : (Jvm.Cond.constantLong "BeggarHeaps" (480 : Nat) (12345 : Int64)) ∈ lw_all := lw_g (lw_at lw_m7 70 rfl) rfl
theorem q1632 : (Jvm.Cond.constantLong "BeggarHeaps" (482 : Nat) (2147483648 : Int64)) ∈ lw_all := lw_g (lw_at lw_m7 71 rfl) rfl
theorem q1633 : (Jvm.Cond.constantLong "BeggarHeaps" (484 : Nat) (65536 : Int64)) ∈ lw_all := lw_g (lw_at lw_m7 72 rfl) rfl
theorem q1635 : (Jvm.Cond.instanceMethod ({ cls := "BeggarHeaps", name := "games", desc := "(III)I" } : Jvm.MethodName)) ∈ lw_all := lw_g (lw_at lw_m7 74 rfl) rfl
theorem q1636 : (Jvm.Cond.selects "BeggarHeaps" ({ cls := "BeggarHeaps", name := "games", desc := "(III)I" } : Jvm.MethodName) ({ cls := "BeggarHeaps", name := "games", desc := "(III)I" } : Jvm.MethodName)) ∈ lw_all := lw_g (lw_at lw_m7 75 rfl) rfl
theorem q1637 : (Jvm.Cond.code ({ cls := "BeggarHeaps", name := "games", desc := "(III)I" } : Jvm.MethodName) prog_1_method_66_code (7 : Nat) (Option.some Jvm.ClassFile.FieldType.int)) ∈ lw_all := lw_g (lw_at lw_m7 76 rfl) rfl
theorem q1639 : (Jvm.Cond.instanceMethod ({ cls := "BeggarHeaps", name := "looked", desc := "(III)I" } : Jvm.MethodName)) ∈ lw_all := lw_g (lw_at lw_m7 78 rfl) rfl
theorem q1640 : (Jvm.Cond.selects "BeggarHeaps" ({ cls := "BeggarHeaps", name := "looked", desc := "(III)I" } : Jvm.MethodName) ({ cls := "BeggarHeaps", name := "looked", desc := "(III)I" } : Jvm.MethodName)) ∈ lw_all := lw_g (lw_at lw_m7 79 rfl) rfl
theorem q1641 : (Jvm.Cond.code ({ cls := "BeggarHeaps", name := "looked", desc := "(III)I" } : Jvm.MethodName) prog_1_method_67_code (5 : Nat) (Option.some Jvm.ClassFile.FieldType.int)) ∈ lw_all := lw_g (lw_at lw_m7 80 rfl) rfl
theorem q1643 : (Jvm.Cond.instanceMethod ({ cls := "BeggarHeaps", name := "mark", desc := "(IZ)Z" } : Jvm.MethodName)) ∈ lw_all := lw_g (lw_at lw_m7 82 rfl) rfl
theorem q1644 : (Jvm.Cond.selects "BeggarHeaps" ({ cls := "BeggarHeaps", name := "mark", desc := "(IZ)Z" } : Jvm.MethodName) ({ cls := "BeggarHeaps", name := "mark", desc := "(IZ)Z" } : Jvm.MethodName)) ∈ lw_all := lw_g (lw_at lw_m7 83 rfl) rfl
theorem q1645 : (Jvm.Cond.code ({ cls := "BeggarHeaps", name := "mark", desc := "(IZ)Z" } : Jvm.MethodName) prog_1_method_68_code (4 : Nat) (Option.some Jvm.ClassFile.FieldType.boolean)) ∈ lw_all := lw_g (lw_at lw_m7 84 rfl) rfl
theorem q1647 : (Jvm.Cond.methodLinkNest "BeggarHeaps" (494 : Nat) ({ cls := "BeggarHeaps$Mark", name := "<init>", desc := "()V" } : Jvm.MethodName) "BeggarHeaps") ∈ lw_tbl := lw_at lw_m7 86 rfl
theorem q1656 : (Jvm.Cond.fieldLinkNest "BeggarHeaps" (495 : Nat) "BeggarHeaps$Mark" "game" "LBeggarHeaps$Game;" "BeggarHeaps") ∈ lw_tbl := lw_at lw_m7 95 rfl
theorem q1658 : (Jvm.Cond.fieldLinkNest "BeggarHeaps" (496 : Nat) "BeggarHeaps$Mark" "left" "LBeggarHeaps$Row;" "BeggarHeaps") ∈ lw_tbl := lw_at lw_m7 97 rfl
theorem q1660 : (Jvm.Cond.fieldLinkNest "BeggarHeaps" (497 : Nat) "BeggarHeaps$Mark" "right" "LBeggarHeaps$Row;" "BeggarHeaps") ∈ lw_tbl := lw_at lw_m7 99 rfl
theorem q1661 : (Jvm.Cond.fieldLinkNest "BeggarHeaps" (498 : Nat) "BeggarHeaps$Mark" "isDealt" "Z" "BeggarHeaps") ∈ lw_tbl := lw_at lw_m7 100 rfl
theorem q1672 : (Jvm.Cond.instanceMethod ({ cls := "BeggarHeaps", name := "count", desc := "(I)I" } : Jvm.MethodName)) ∈ lw_all := lw_g (lw_at lw_m7 111 rfl) rfl
theorem q1673 : (Jvm.Cond.selects "BeggarHeaps" ({ cls := "BeggarHeaps", name := "count", desc := "(I)I" } : Jvm.MethodName) ({ cls := "BeggarHeaps", name := "count", desc := "(I)I" } : Jvm.MethodName)) ∈ lw_all := lw_g (lw_at lw_m7 112 rfl) rfl
theorem q1674 : (Jvm.Cond.code ({ cls := "BeggarHeaps", name := "count", desc := "(I)I" } : Jvm.MethodName) prog_1_method_69_code (2 : Nat) (Option.some Jvm.ClassFile.FieldType.int)) ∈ lw_all := lw_g (lw_at lw_m7 113 rfl) rfl
theorem q1680 : (Jvm.Cond.instanceMethod ({ cls := "BeggarHeaps", name := "orders", desc := "()I" } : Jvm.MethodName)) ∈ lw_all := lw_g (lw_at lw_m7 119 rfl) rfl
theorem q1681 : (Jvm.Cond.selects "BeggarHeaps" ({ cls := "BeggarHeaps", name := "orders", desc := "()I" } : Jvm.MethodName) ({ cls := "BeggarHeaps", name := "orders", desc := "()I" } : Jvm.MethodName)) ∈ lw_all := lw_g (lw_at lw_m7 120 rfl) rfl
theorem q1682 : (Jvm.Cond.code ({ cls := "BeggarHeaps", name := "orders", desc := "()I" } : Jvm.MethodName) prog_1_method_61_code (6 : Nat) (Option.some Jvm.ClassFile.FieldType.int)) ∈ lw_all := lw_g (lw_at lw_m7 121 rfl) rfl
theorem q1683 : (Jvm.Cond.methodLink "BeggarHeaps" (466 : Nat) ({ cls := "BeggarHeaps", name := "need", desc := "(Z)V" } : Jvm.MethodName)) ∈ lw_all := lw_g (lw_at lw_m7 122 rfl) rfl
theorem q1684 : (Jvm.Cond.static ({ cls := "BeggarHeaps", name := "need", desc := "(Z)V" } : Jvm.MethodName)) ∈ lw_all := lw_g (lw_at lw_m7 123 rfl) rfl
theorem q1685 : (Jvm.Cond.code ({ cls := "BeggarHeaps", name := "need", desc := "(Z)V" } : Jvm.MethodName) prog_1_method_3_code (1 : Nat) (Option.none : Option Jvm.ClassFile.FieldType)) ∈ lw_all := lw_g (lw_at lw_m7 124 rfl) rfl
theorem q1686 : (Jvm.Cond.classLink "BeggarHeaps" (7 : Nat) "java/util/NoSuchElementException") ∈ lw_all := lw_g (lw_at lw_m7 125 rfl) rfl
theorem q1695 : (Jvm.Cond.methodLink "BeggarHeaps" (9 : Nat) ({ cls := "java/util/NoSuchElementException", name := "<init>", desc := "()V" } : Jvm.MethodName)) ∈ lw_all := lw_g (lw_at lw_m7 134 rfl) rfl
theorem q1707 : (Jvm.Cond.methodLink "BeggarHeaps" (470 : Nat) ({ cls := "BeggarHeaps$Order", name := "lays", desc := "([II[I[I)V" } : Jvm.MethodName)) ∈ lw_all := lw_g (lw_at lw_m7 146 rfl) rfl
theorem q2368 : (Jvm.Cond.castable "BeggarHeaps" "java/lang/Object") ∈ lw_tbl := lw_at lw_m10 87 rfl
theorem in_X1 : ∀ w ∈ wsX10, w ∈ lw_all := lw_in wsX10 [529, 531, 533, 535, 537, 539, 541, 543, 545, 547, 549, 551, 553, 555, 557, 559, 561, 563, 565, 567, 569, 571, 573] (by decide +kernel) (by decide +kernel)
