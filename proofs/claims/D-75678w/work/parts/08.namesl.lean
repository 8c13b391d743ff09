/-! the law's own entry -/
set_option maxRecDepth 100000
abbrev cL_law : ByteArray := code
def dkwL_law_45 : List UInt8 := [96, 46, 182, 0, 162, 159, 0, 5, 3, 172, 132, 3, 6, 167, 251, 105, 4, 172]
abbrev dktL_law_45 : List UInt8 := dkwL_law_45 ++ []
def dkwL_law_44 : List UInt8 := [4, 96, 46, 182, 0, 158, 159, 0, 28, 3, 172, 43, 42, 29, 4, 96, 46, 182, 0, 159, 44, 42, 29, 4]
abbrev dktL_law_44 : List UInt8 := dkwL_law_44 ++ dktL_law_45
def dkwL_law_43 : List UInt8 := [29, 4, 96, 46, 182, 0, 154, 159, 0, 51, 3, 172, 43, 42, 29, 4, 96, 46, 182, 0, 155, 44, 42, 29]
abbrev dktL_law_43 : List UInt8 := dkwL_law_43 ++ dktL_law_44
def dkwL_law_42 : List UInt8 := [42, 29, 7, 96, 46, 182, 0, 150, 159, 0, 74, 3, 172, 43, 42, 29, 4, 96, 46, 182, 0, 151, 44, 42]
abbrev dktL_law_42 : List UInt8 := dkwL_law_42 ++ dktL_law_43
def dkwL_law_41 : List UInt8 := [42, 29, 7, 96, 46, 182, 0, 147, 44, 42, 29, 4, 96, 46, 42, 29, 5, 96, 46, 42, 29, 6, 96, 46]
abbrev dktL_law_41 : List UInt8 := dkwL_law_41 ++ dktL_law_42
def dkwL_law_40 : List UInt8 := [182, 0, 146, 159, 0, 127, 3, 172, 43, 42, 29, 4, 96, 46, 42, 29, 5, 96, 46, 42, 29, 6, 96, 46]
abbrev dktL_law_40 : List UInt8 := dkwL_law_40 ++ dktL_law_41
def dkwL_law_39 : List UInt8 := [182, 0, 142, 159, 0, 150, 3, 172, 43, 42, 29, 4, 96, 46, 182, 0, 143, 44, 42, 29, 4, 96, 46]
abbrev dktL_law_39 : List UInt8 := dkwL_law_39 ++ dktL_law_40
def dkwL_law_38 : List UInt8 := [42, 29, 4, 96, 46, 42, 29, 5, 96, 46, 182, 0, 139, 44, 42, 29, 4, 96, 46, 42, 29, 5, 96, 46]
abbrev dktL_law_38 : List UInt8 := dkwL_law_38 ++ dktL_law_39
def dkwL_law_37 : List UInt8 := [43, 42, 29, 4, 96, 46, 182, 0, 135, 44, 42, 29, 4, 96, 46, 182, 0, 138, 159, 0, 183, 3, 172, 43]
abbrev dktL_law_37 : List UInt8 := dkwL_law_37 ++ dktL_law_38
def dkwL_law_36 : List UInt8 := [44, 42, 29, 4, 96, 46, 42, 29, 5, 96, 46, 42, 29, 6, 96, 46, 182, 0, 134, 159, 0, 206, 3, 172]
abbrev dktL_law_36 : List UInt8 := dkwL_law_36 ++ dktL_law_37
def dkwL_law_35 : List UInt8 := [159, 0, 249, 3, 172, 43, 42, 29, 4, 96, 46, 42, 29, 5, 96, 46, 42, 29, 6, 96, 46, 182, 0, 131]
abbrev dktL_law_35 : List UInt8 := dkwL_law_35 ++ dktL_law_36
def dkwL_law_34 : List UInt8 := [42, 29, 5, 96, 46, 182, 0, 127, 44, 42, 29, 4, 96, 46, 42, 29, 5, 96, 46, 182, 0, 130]
abbrev dktL_law_34 : List UInt8 := dkwL_law_34 ++ dktL_law_35
def dkwL_law_33 : List UInt8 := [42, 29, 6, 96, 46, 42, 29, 7, 96, 46, 182, 0, 126, 159, 1, 26, 3, 172, 43, 42, 29, 4, 96, 46]
abbrev dktL_law_33 : List UInt8 := dkwL_law_33 ++ dktL_law_34
def dkwL_law_32 : List UInt8 := [42, 29, 6, 96, 46, 42, 29, 7, 96, 46, 182, 0, 122, 44, 42, 29, 4, 96, 46, 42, 29, 5, 96, 46]
abbrev dktL_law_32 : List UInt8 := dkwL_law_32 ++ dktL_law_33
def dkwL_law_31 : List UInt8 := [42, 29, 4, 96, 46, 182, 0, 121, 159, 1, 79, 3, 172, 43, 42, 29, 4, 96, 46, 42, 29, 5, 96, 46]
abbrev dktL_law_31 : List UInt8 := dkwL_law_31 ++ dktL_law_32
def dkwL_law_30 : List UInt8 := [46, 42, 29, 5, 96, 46, 182, 0, 117, 159, 1, 102, 3, 172, 43, 42, 29, 4, 96, 46, 182, 0, 118, 44]
abbrev dktL_law_30 : List UInt8 := dkwL_law_30 ++ dktL_law_31
def dkwL_law_29 : List UInt8 := [159, 1, 135, 3, 172, 43, 42, 29, 4, 96, 46, 42, 29, 5, 96, 46, 182, 0, 114, 44, 42, 29, 4, 96]
abbrev dktL_law_29 : List UInt8 := dkwL_law_29 ++ dktL_law_30
def dkwL_law_28 : List UInt8 := [42, 29, 5, 96, 46, 182, 0, 110, 44, 42, 29, 4, 96, 46, 42, 29, 5, 96, 46, 182, 0, 113]
abbrev dktL_law_28 : List UInt8 := dkwL_law_28 ++ dktL_law_29
def dkwL_law_27 : List UInt8 := [159, 1, 181, 3, 172, 43, 182, 0, 106, 44, 182, 0, 109, 159, 1, 168, 3, 172, 43, 42, 29, 4, 96, 46]
abbrev dktL_law_27 : List UInt8 := dkwL_law_27 ++ dktL_law_28
def dkwL_law_26 : List UInt8 := [159, 1, 204, 3, 172, 43, 42, 29, 4, 96, 46, 182, 0, 102, 44, 42, 29, 4, 96, 46, 182, 0, 105]
abbrev dktL_law_26 : List UInt8 := dkwL_law_26 ++ dktL_law_27
def dkwL_law_25 : List UInt8 := [182, 0, 98, 44, 42, 29, 4, 96, 46, 42, 29, 5, 96, 46, 42, 29, 6, 96, 46, 182, 0, 101]
abbrev dktL_law_25 : List UInt8 := dkwL_law_25 ++ dktL_law_26
def dkwL_law_24 : List UInt8 := [182, 0, 97, 159, 1, 247, 3, 172, 43, 42, 29, 4, 96, 46, 42, 29, 5, 96, 46, 42, 29, 6, 96, 46]
abbrev dktL_law_24 : List UInt8 := dkwL_law_24 ++ dktL_law_25
def dkwL_law_23 : List UInt8 := [159, 2, 17, 3, 172, 43, 182, 0, 90, 44, 182, 0, 93, 159, 2, 4, 3, 172, 43, 182, 0, 94, 44]
abbrev dktL_law_23 : List UInt8 := dkwL_law_23 ++ dktL_law_24
def dkwL_law_22 : List UInt8 := [159, 2, 40, 3, 172, 43, 42, 29, 4, 96, 46, 182, 0, 86, 44, 42, 29, 4, 96, 46, 182, 0, 89]
abbrev dktL_law_22 : List UInt8 := dkwL_law_22 ++ dktL_law_23
def dkwL_law_21 : List UInt8 := [159, 2, 63, 3, 172, 43, 42, 29, 4, 96, 46, 182, 0, 82, 44, 42, 29, 4, 96, 46, 182, 0, 85]
abbrev dktL_law_21 : List UInt8 := dkwL_law_21 ++ dktL_law_22
def dkwL_law_20 : List UInt8 := [159, 2, 86, 3, 172, 43, 42, 29, 4, 96, 46, 182, 0, 78, 44, 42, 29, 4, 96, 46, 182, 0, 81]
abbrev dktL_law_20 : List UInt8 := dkwL_law_20 ++ dktL_law_21
def dkwL_law_19 : List UInt8 := [159, 2, 109, 3, 172, 43, 42, 29, 4, 96, 46, 182, 0, 74, 44, 42, 29, 4, 96, 46, 182, 0, 77]
abbrev dktL_law_19 : List UInt8 := dkwL_law_19 ++ dktL_law_20
def dkwL_law_18 : List UInt8 := [159, 2, 132, 3, 172, 43, 42, 29, 4, 96, 46, 182, 0, 70, 44, 42, 29, 4, 96, 46, 182, 0, 73]
abbrev dktL_law_18 : List UInt8 := dkwL_law_18 ++ dktL_law_19
def dkwL_law_17 : List UInt8 := [182, 0, 65, 44, 42, 29, 4, 96, 46, 42, 29, 5, 96, 46, 42, 29, 6, 96, 46, 182, 0, 69]
abbrev dktL_law_17 : List UInt8 := dkwL_law_17 ++ dktL_law_18
def dkwL_law_16 : List UInt8 := [182, 0, 64, 159, 2, 175, 3, 172, 43, 42, 29, 4, 96, 46, 42, 29, 5, 96, 46, 42, 29, 6, 96, 46]
abbrev dktL_law_16 : List UInt8 := dkwL_law_16 ++ dktL_law_17
def dkwL_law_15 : List UInt8 := [29, 4, 96, 46, 42, 29, 5, 96, 46, 182, 0, 60, 159, 2, 188, 3, 172, 43, 182, 0, 61, 44]
abbrev dktL_law_15 : List UInt8 := dkwL_law_15 ++ dktL_law_16
def dkwL_law_14 : List UInt8 := [182, 0, 56, 159, 2, 221, 3, 172, 43, 42, 29, 4, 96, 46, 42, 29, 5, 96, 46, 182, 0, 57, 44, 42]
abbrev dktL_law_14 : List UInt8 := dkwL_law_14 ++ dktL_law_15
def dkwL_law_13 : List UInt8 := [46, 182, 0, 52, 159, 2, 244, 3, 172, 43, 42, 29, 4, 96, 46, 182, 0, 53, 44, 42, 29, 4, 96, 46]
abbrev dktL_law_13 : List UInt8 := dkwL_law_13 ++ dktL_law_14
def dkwL_law_12 : List UInt8 := [43, 42, 29, 4, 96, 46, 42, 29, 5, 96, 46, 182, 0, 49, 44, 42, 29, 4, 96, 46, 42, 29, 5, 96]
abbrev dktL_law_12 : List UInt8 := dkwL_law_12 ++ dktL_law_13
def dkwL_law_11 : List UInt8 := [96, 46, 182, 0, 45, 44, 42, 29, 4, 96, 46, 42, 29, 5, 96, 46, 182, 0, 48, 159, 3, 21, 3, 172]
abbrev dktL_law_11 : List UInt8 := dkwL_law_11 ++ dktL_law_12
def dkwL_law_10 : List UInt8 := [3, 172, 43, 182, 0, 41, 44, 182, 0, 44, 159, 3, 54, 3, 172, 43, 42, 29, 4, 96, 46, 42, 29, 5]
abbrev dktL_law_10 : List UInt8 := dkwL_law_10 ++ dktL_law_11
def dkwL_law_9 : List UInt8 := [29, 5, 96, 46, 182, 0, 36, 44, 42, 29, 4, 96, 46, 42, 29, 5, 96, 46, 182, 0, 40, 159, 3, 67]
abbrev dktL_law_9 : List UInt8 := dkwL_law_9 ++ dktL_law_10
def dkwL_law_8 : List UInt8 := [182, 0, 32, 44, 42, 29, 4, 96, 46, 182, 0, 35, 159, 3, 100, 3, 172, 43, 42, 29, 4, 96, 46, 42]
abbrev dktL_law_8 : List UInt8 := dkwL_law_8 ++ dktL_law_9
def dkwL_law_7 : List UInt8 := [159, 3, 136, 3, 172, 43, 182, 0, 28, 44, 182, 0, 31, 159, 3, 123, 3, 172, 43, 42, 29, 4, 96, 46]
abbrev dktL_law_7 : List UInt8 := dkwL_law_7 ++ dktL_law_8
def dkwL_law_6 : List UInt8 := [44, 42, 29, 4, 96, 46, 182, 0, 22, 159, 3, 149, 3, 172, 43, 182, 0, 23, 44, 182, 0, 27]
abbrev dktL_law_6 : List UInt8 := dkwL_law_6 ++ dktL_law_7
def dkwL_law_5 : List UInt8 := [96, 46, 42, 29, 8, 96, 46, 182, 0, 17, 159, 3, 172, 3, 172, 43, 42, 29, 4, 96, 46, 182, 0, 18]
abbrev dktL_law_5 : List UInt8 := dkwL_law_5 ++ dktL_law_6
def dkwL_law_4 : List UInt8 := [96, 46, 182, 0, 13, 44, 42, 29, 4, 96, 46, 42, 29, 5, 96, 46, 42, 29, 6, 96, 46, 42, 29, 7]
abbrev dktL_law_4 : List UInt8 := dkwL_law_4 ++ dktL_law_5
def dkwL_law_3 : List UInt8 := [43, 42, 29, 4, 96, 46, 42, 29, 5, 96, 46, 42, 29, 6, 96, 46, 42, 29, 7, 96, 46, 42, 29, 8]
abbrev dktL_law_3 : List UInt8 := dkwL_law_3 ++ dktL_law_4
def dkwL_law_2 : List UInt8 := [170, 0, 0, 0, 0, 4, 133, 0, 0, 0, 0, 0, 0, 0, 35, 0, 0, 0, 159, 0, 0, 0, 222, 0, 0, 0, 245, 0, 0, 1, 2, 0, 0, 1, 15, 0, 0, 1, 38, 0, 0, 1, 71, 0, 0, 1, 84, 0, 0, 1, 117, 0, 0, 1, 150, 0, 0, 1, 173, 0, 0, 1, 206, 0, 0, 1, 219, 0, 0, 2, 6, 0, 0, 2, 29, 0, 0, 2, 52, 0, 0, 2, 75, 0, 0, 2, 98, 0, 0, 2, 121, 0, 0, 2, 134, 0, 0, 2, 147, 0, 0, 2, 190, 0, 0, 2, 213, 0, 0, 2, 226, 0, 0, 3, 3, 0, 0, 3, 36, 0, 0, 3, 59, 0, 0, 3, 112, 0, 0, 3, 145, 0, 0, 3, 188, 0, 0, 3, 211, 0, 0, 3, 244, 0, 0, 4, 11, 0, 0, 4, 64, 0, 0, 4, 87, 0, 0, 4, 110]
abbrev dktL_law_2 : List UInt8 := dkwL_law_2 ++ dktL_law_3
def dkwL_law_1 : List UInt8 := [163, 4, 148, 42, 29, 46, 16, 63, 126]
abbrev dktL_law_1 : List UInt8 := dkwL_law_1 ++ dktL_law_2
def dkwL_law_0 : List UInt8 := [187, 0, 7, 89, 183, 0, 9, 76, 187, 0, 10, 89, 183, 0, 12, 77, 3, 62, 29, 42, 190, 16, 6, 100]
abbrev dktL_law_0 : List UInt8 := dkwL_law_0 ++ dktL_law_1
theorem dksL_law_0 : cL_law.data.toList.drop 0 = dktL_law_0 := by decide +kernel
theorem dksL_law_1 : cL_law.data.toList.drop 24 = dktL_law_1 := dk_seg dksL_law_0 24 rfl rfl
theorem dksL_law_2 : cL_law.data.toList.drop 33 = dktL_law_2 := dk_seg dksL_law_1 9 rfl rfl
theorem dksL_law_3 : cL_law.data.toList.drop 192 = dktL_law_3 := dk_seg dksL_law_2 159 rfl rfl
theorem dksL_law_4 : cL_law.data.toList.drop 216 = dktL_law_4 := dk_seg dksL_law_3 24 rfl rfl
theorem dksL_law_5 : cL_law.data.toList.drop 240 = dktL_law_5 := dk_seg dksL_law_4 24 rfl rfl
theorem dksL_law_6 : cL_law.data.toList.drop 264 = dktL_law_6 := dk_seg dksL_law_5 24 rfl rfl
theorem dksL_law_7 : cL_law.data.toList.drop 286 = dktL_law_7 := dk_seg dksL_law_6 22 rfl rfl
theorem dksL_law_8 : cL_law.data.toList.drop 310 = dktL_law_8 := dk_seg dksL_law_7 24 rfl rfl
theorem dksL_law_9 : cL_law.data.toList.drop 334 = dktL_law_9 := dk_seg dksL_law_8 24 rfl rfl
theorem dksL_law_10 : cL_law.data.toList.drop 358 = dktL_law_10 := dk_seg dksL_law_9 24 rfl rfl
theorem dksL_law_11 : cL_law.data.toList.drop 382 = dktL_law_11 := dk_seg dksL_law_10 24 rfl rfl
theorem dksL_law_12 : cL_law.data.toList.drop 406 = dktL_law_12 := dk_seg dksL_law_11 24 rfl rfl
theorem dksL_law_13 : cL_law.data.toList.drop 430 = dktL_law_13 := dk_seg dksL_law_12 24 rfl rfl
theorem dksL_law_14 : cL_law.data.toList.drop 454 = dktL_law_14 := dk_seg dksL_law_13 24 rfl rfl
theorem dksL_law_15 : cL_law.data.toList.drop 478 = dktL_law_15 := dk_seg dksL_law_14 24 rfl rfl
theorem dksL_law_16 : cL_law.data.toList.drop 500 = dktL_law_16 := dk_seg dksL_law_15 22 rfl rfl
theorem dksL_law_17 : cL_law.data.toList.drop 524 = dktL_law_17 := dk_seg dksL_law_16 24 rfl rfl
theorem dksL_law_18 : cL_law.data.toList.drop 546 = dktL_law_18 := dk_seg dksL_law_17 22 rfl rfl
theorem dksL_law_19 : cL_law.data.toList.drop 569 = dktL_law_19 := dk_seg dksL_law_18 23 rfl rfl
theorem dksL_law_20 : cL_law.data.toList.drop 592 = dktL_law_20 := dk_seg dksL_law_19 23 rfl rfl
theorem dksL_law_21 : cL_law.data.toList.drop 615 = dktL_law_21 := dk_seg dksL_law_20 23 rfl rfl
theorem dksL_law_22 : cL_law.data.toList.drop 638 = dktL_law_22 := dk_seg dksL_law_21 23 rfl rfl
theorem dksL_law_23 : cL_law.data.toList.drop 661 = dktL_law_23 := dk_seg dksL_law_22 23 rfl rfl
theorem dksL_law_24 : cL_law.data.toList.drop 684 = dktL_law_24 := dk_seg dksL_law_23 23 rfl rfl
theorem dksL_law_25 : cL_law.data.toList.drop 708 = dktL_law_25 := dk_seg dksL_law_24 24 rfl rfl
theorem dksL_law_26 : cL_law.data.toList.drop 730 = dktL_law_26 := dk_seg dksL_law_25 22 rfl rfl
theorem dksL_law_27 : cL_law.data.toList.drop 753 = dktL_law_27 := dk_seg dksL_law_26 23 rfl rfl
theorem dksL_law_28 : cL_law.data.toList.drop 777 = dktL_law_28 := dk_seg dksL_law_27 24 rfl rfl
theorem dksL_law_29 : cL_law.data.toList.drop 799 = dktL_law_29 := dk_seg dksL_law_28 22 rfl rfl
theorem dksL_law_30 : cL_law.data.toList.drop 823 = dktL_law_30 := dk_seg dksL_law_29 24 rfl rfl
theorem dksL_law_31 : cL_law.data.toList.drop 847 = dktL_law_31 := dk_seg dksL_law_30 24 rfl rfl
theorem dksL_law_32 : cL_law.data.toList.drop 871 = dktL_law_32 := dk_seg dksL_law_31 24 rfl rfl
theorem dksL_law_33 : cL_law.data.toList.drop 895 = dktL_law_33 := dk_seg dksL_law_32 24 rfl rfl
theorem dksL_law_34 : cL_law.data.toList.drop 919 = dktL_law_34 := dk_seg dksL_law_33 24 rfl rfl
theorem dksL_law_35 : cL_law.data.toList.drop 941 = dktL_law_35 := dk_seg dksL_law_34 22 rfl rfl
theorem dksL_law_36 : cL_law.data.toList.drop 965 = dktL_law_36 := dk_seg dksL_law_35 24 rfl rfl
theorem dksL_law_37 : cL_law.data.toList.drop 989 = dktL_law_37 := dk_seg dksL_law_36 24 rfl rfl
theorem dksL_law_38 : cL_law.data.toList.drop 1013 = dktL_law_38 := dk_seg dksL_law_37 24 rfl rfl
theorem dksL_law_39 : cL_law.data.toList.drop 1037 = dktL_law_39 := dk_seg dksL_law_38 24 rfl rfl
theorem dksL_law_40 : cL_law.data.toList.drop 1060 = dktL_law_40 := dk_seg dksL_law_39 23 rfl rfl
theorem dksL_law_41 : cL_law.data.toList.drop 1084 = dktL_law_41 := dk_seg dksL_law_40 24 rfl rfl
theorem dksL_law_42 : cL_law.data.toList.drop 1108 = dktL_law_42 := dk_seg dksL_law_41 24 rfl rfl
theorem dksL_law_43 : cL_law.data.toList.drop 1132 = dktL_law_43 := dk_seg dksL_law_42 24 rfl rfl
theorem dksL_law_44 : cL_law.data.toList.drop 1156 = dktL_law_44 := dk_seg dksL_law_43 24 rfl rfl
theorem dksL_law_45 : cL_law.data.toList.drop 1180 = dktL_law_45 := dk_seg dksL_law_44 24 rfl rfl
theorem dL_law_0 : decode cL_law 0 = .ok (.new 7, 3) := dk_187 0 7 (dk_at dksL_law_0 0 rfl rfl)
theorem dL_law_3 : decode cL_law 3 = .ok (.dup, 1) := dk_89 (dk_at dksL_law_0 3 rfl rfl)
theorem dL_law_4 : decode cL_law 4 = .ok (.invokespecial 9, 3) := dk_183 0 9 (dk_at dksL_law_0 4 rfl rfl)
theorem dL_law_7 : decode cL_law 7 = .ok (.astore_n 1, 1) := dk_76 (dk_at dksL_law_0 7 rfl rfl)
theorem dL_law_8 : decode cL_law 8 = .ok (.new 10, 3) := dk_187 0 10 (dk_at dksL_law_0 8 rfl rfl)
theorem dL_law_11 : decode cL_law 11 = .ok (.dup, 1) := dk_89 (dk_at dksL_law_0 11 rfl rfl)
theorem dL_law_12 : decode cL_law 12 = .ok (.invokespecial 12, 3) := dk_183 0 12 (dk_at dksL_law_0 12 rfl rfl)
theorem dL_law_15 : decode cL_law 15 = .ok (.astore_n 2, 1) := dk_77 (dk_at dksL_law_0 15 rfl rfl)
theorem dL_law_16 : decode cL_law 16 = .ok (.iconst 0, 1) := dk_3 (dk_at dksL_law_0 16 rfl rfl)
theorem dL_law_17 : decode cL_law 17 = .ok (.istore_n 3, 1) := dk_62 (dk_at dksL_law_0 17 rfl rfl)
theorem dL_law_18 : decode cL_law 18 = .ok (.iload_n 3, 1) := dk_29 (dk_at dksL_law_0 18 rfl rfl)
theorem dL_law_19 : decode cL_law 19 = .ok (.aload_n 0, 1) := dk_42 (dk_at dksL_law_0 19 rfl rfl)
theorem dL_law_20 : decode cL_law 20 = .ok (.arraylength, 1) := dk_190 (dk_at dksL_law_0 20 rfl rfl)
theorem dL_law_21 : decode cL_law 21 = .ok (.bipush 6, 2) := dk_16 6 (dk_at dksL_law_0 21 rfl rfl)
theorem dL_law_23 : decode cL_law 23 = .ok (.isub, 1) := dk_100 (dk_at dksL_law_0 23 rfl rfl)
theorem dL_law_24 : decode cL_law 24 = .ok (.if_icmp .gt 1172, 3) := dk_163 4 148 (dk_at dksL_law_1 0 rfl rfl)
theorem dL_law_27 : decode cL_law 27 = .ok (.aload_n 0, 1) := dk_42 (dk_at dksL_law_1 3 rfl rfl)
theorem dL_law_28 : decode cL_law 28 = .ok (.iload_n 3, 1) := dk_29 (dk_at dksL_law_1 4 rfl rfl)
theorem dL_law_29 : decode cL_law 29 = .ok (.iaload, 1) := dk_46 (dk_at dksL_law_1 5 rfl rfl)
theorem dL_law_30 : decode cL_law 30 = .ok (.bipush 63, 2) := dk_16 63 (dk_at dksL_law_1 6 rfl rfl)
theorem dL_law_32 : decode cL_law 32 = .ok (.iand, 1) := dk_126 (dk_at dksL_law_1 8 rfl rfl)
theorem dL_law_33 : decode cL_law 33 = .ok (.tableswitch 1157 0 35 #[159, 222, 245, 258, 271, 294, 327, 340, 373, 406, 429, 462, 475, 518, 541, 564, 587, 610, 633, 646, 659, 702, 725, 738, 771, 804, 827, 880, 913, 956, 979, 1012, 1035, 1088, 1111, 1134], 159) := by decide +kernel
theorem dL_law_192 : decode cL_law 192 = .ok (.aload_n 1, 1) := dk_43 (dk_at dksL_law_3 0 rfl rfl)
theorem dL_law_193 : decode cL_law 193 = .ok (.aload_n 0, 1) := dk_42 (dk_at dksL_law_3 1 rfl rfl)
theorem dL_law_194 : decode cL_law 194 = .ok (.iload_n 3, 1) := dk_29 (dk_at dksL_law_3 2 rfl rfl)
theorem dL_law_195 : decode cL_law 195 = .ok (.iconst 1, 1) := dk_4 (dk_at dksL_law_3 3 rfl rfl)
theorem dL_law_196 : decode cL_law 196 = .ok (.iadd, 1) := dk_96 (dk_at dksL_law_3 4 rfl rfl)
theorem dL_law_197 : decode cL_law 197 = .ok (.iaload, 1) := dk_46 (dk_at dksL_law_3 5 rfl rfl)
theorem dL_law_198 : decode cL_law 198 = .ok (.aload_n 0, 1) := dk_42 (dk_at dksL_law_3 6 rfl rfl)
theorem dL_law_199 : decode cL_law 199 = .ok (.iload_n 3, 1) := dk_29 (dk_at dksL_law_3 7 rfl rfl)
theorem dL_law_200 : decode cL_law 200 = .ok (.iconst 2, 1) := dk_5 (dk_at dksL_law_3 8 rfl rfl)
theorem dL_law_201 : decode cL_law 201 = .ok (.iadd, 1) := dk_96 (dk_at dksL_law_3 9 rfl rfl)
theorem dL_law_202 : decode cL_law 202 = .ok (.iaload, 1) := dk_46 (dk_at dksL_law_3 10 rfl rfl)
theorem dL_law_203 : decode cL_law 203 = .ok (.aload_n 0, 1) := dk_42 (dk_at dksL_law_3 11 rfl rfl)
theorem dL_law_204 : decode cL_law 204 = .ok (.iload_n 3, 1) := dk_29 (dk_at dksL_law_3 12 rfl rfl)
theorem dL_law_205 : decode cL_law 205 = .ok (.iconst 3, 1) := dk_6 (dk_at dksL_law_3 13 rfl rfl)
theorem dL_law_206 : decode cL_law 206 = .ok (.iadd, 1) := dk_96 (dk_at dksL_law_3 14 rfl rfl)
theorem dL_law_207 : decode cL_law 207 = .ok (.iaload, 1) := dk_46 (dk_at dksL_law_3 15 rfl rfl)
theorem dL_law_208 : decode cL_law 208 = .ok (.aload_n 0, 1) := dk_42 (dk_at dksL_law_3 16 rfl rfl)
theorem dL_law_209 : decode cL_law 209 = .ok (.iload_n 3, 1) := dk_29 (dk_at dksL_law_3 17 rfl rfl)
theorem dL_law_210 : decode cL_law 210 = .ok (.iconst 4, 1) := dk_7 (dk_at dksL_law_3 18 rfl rfl)
theorem dL_law_211 : decode cL_law 211 = .ok (.iadd, 1) := dk_96 (dk_at dksL_law_3 19 rfl rfl)
theorem dL_law_212 : decode cL_law 212 = .ok (.iaload, 1) := dk_46 (dk_at dksL_law_3 20 rfl rfl)
theorem dL_law_213 : decode cL_law 213 = .ok (.aload_n 0, 1) := dk_42 (dk_at dksL_law_3 21 rfl rfl)
theorem dL_law_214 : decode cL_law 214 = .ok (.iload_n 3, 1) := dk_29 (dk_at dksL_law_3 22 rfl rfl)
theorem dL_law_215 : decode cL_law 215 = .ok (.iconst 5, 1) := dk_8 (dk_at dksL_law_3 23 rfl rfl)
theorem dL_law_216 : decode cL_law 216 = .ok (.iadd, 1) := dk_96 (dk_at dksL_law_4 0 rfl rfl)
theorem dL_law_217 : decode cL_law 217 = .ok (.iaload, 1) := dk_46 (dk_at dksL_law_4 1 rfl rfl)
theorem dL_law_218 : decode cL_law 218 = .ok (.invokevirtual 13, 3) := dk_182 0 13 (dk_at dksL_law_4 2 rfl rfl)
theorem dL_law_221 : decode cL_law 221 = .ok (.aload_n 2, 1) := dk_44 (dk_at dksL_law_4 5 rfl rfl)
theorem dL_law_222 : decode cL_law 222 = .ok (.aload_n 0, 1) := dk_42 (dk_at dksL_law_4 6 rfl rfl)
theorem dL_law_223 : decode cL_law 223 = .ok (.iload_n 3, 1) := dk_29 (dk_at dksL_law_4 7 rfl rfl)
theorem dL_law_224 : decode cL_law 224 = .ok (.iconst 1, 1) := dk_4 (dk_at dksL_law_4 8 rfl rfl)
theorem dL_law_225 : decode cL_law 225 = .ok (.iadd, 1) := dk_96 (dk_at dksL_law_4 9 rfl rfl)
theorem dL_law_226 : decode cL_law 226 = .ok (.iaload, 1) := dk_46 (dk_at dksL_law_4 10 rfl rfl)
theorem dL_law_227 : decode cL_law 227 = .ok (.aload_n 0, 1) := dk_42 (dk_at dksL_law_4 11 rfl rfl)
theorem dL_law_228 : decode cL_law 228 = .ok (.iload_n 3, 1) := dk_29 (dk_at dksL_law_4 12 rfl rfl)
theorem dL_law_229 : decode cL_law 229 = .ok (.iconst 2, 1) := dk_5 (dk_at dksL_law_4 13 rfl rfl)
theorem dL_law_230 : decode cL_law 230 = .ok (.iadd, 1) := dk_96 (dk_at dksL_law_4 14 rfl rfl)
theorem dL_law_231 : decode cL_law 231 = .ok (.iaload, 1) := dk_46 (dk_at dksL_law_4 15 rfl rfl)
theorem dL_law_232 : decode cL_law 232 = .ok (.aload_n 0, 1) := dk_42 (dk_at dksL_law_4 16 rfl rfl)
theorem dL_law_233 : decode cL_law 233 = .ok (.iload_n 3, 1) := dk_29 (dk_at dksL_law_4 17 rfl rfl)
theorem dL_law_234 : decode cL_law 234 = .ok (.iconst 3, 1) := dk_6 (dk_at dksL_law_4 18 rfl rfl)
theorem dL_law_235 : decode cL_law 235 = .ok (.iadd, 1) := dk_96 (dk_at dksL_law_4 19 rfl rfl)
theorem dL_law_236 : decode cL_law 236 = .ok (.iaload, 1) := dk_46 (dk_at dksL_law_4 20 rfl rfl)
theorem dL_law_237 : decode cL_law 237 = .ok (.aload_n 0, 1) := dk_42 (dk_at dksL_law_4 21 rfl rfl)
theorem dL_law_238 : decode cL_law 238 = .ok (.iload_n 3, 1) := dk_29 (dk_at dksL_law_4 22 rfl rfl)
theorem dL_law_239 : decode cL_law 239 = .ok (.iconst 4, 1) := dk_7 (dk_at dksL_law_4 23 rfl rfl)
theorem dL_law_240 : decode cL_law 240 = .ok (.iadd, 1) := dk_96 (dk_at dksL_law_5 0 rfl rfl)
theorem dL_law_241 : decode cL_law 241 = .ok (.iaload, 1) := dk_46 (dk_at dksL_law_5 1 rfl rfl)
theorem dL_law_242 : decode cL_law 242 = .ok (.aload_n 0, 1) := dk_42 (dk_at dksL_law_5 2 rfl rfl)
theorem dL_law_243 : decode cL_law 243 = .ok (.iload_n 3, 1) := dk_29 (dk_at dksL_law_5 3 rfl rfl)
theorem dL_law_244 : decode cL_law 244 = .ok (.iconst 5, 1) := dk_8 (dk_at dksL_law_5 4 rfl rfl)
theorem dL_law_245 : decode cL_law 245 = .ok (.iadd, 1) := dk_96 (dk_at dksL_law_5 5 rfl rfl)
theorem dL_law_246 : decode cL_law 246 = .ok (.iaload, 1) := dk_46 (dk_at dksL_law_5 6 rfl rfl)
theorem dL_law_247 : decode cL_law 247 = .ok (.invokevirtual 17, 3) := dk_182 0 17 (dk_at dksL_law_5 7 rfl rfl)
theorem dL_law_250 : decode cL_law 250 = .ok (.if_icmp .eq 940, 3) := dk_159 3 172 (dk_at dksL_law_5 10 rfl rfl)
theorem dL_law_253 : decode cL_law 253 = .ok (.iconst 0, 1) := dk_3 (dk_at dksL_law_5 13 rfl rfl)
theorem dL_law_254 : decode cL_law 254 = .ok (.ireturn, 1) := dk_172 (dk_at dksL_law_5 14 rfl rfl)
theorem dL_law_255 : decode cL_law 255 = .ok (.aload_n 1, 1) := dk_43 (dk_at dksL_law_5 15 rfl rfl)
theorem dL_law_256 : decode cL_law 256 = .ok (.aload_n 0, 1) := dk_42 (dk_at dksL_law_5 16 rfl rfl)
theorem dL_law_257 : decode cL_law 257 = .ok (.iload_n 3, 1) := dk_29 (dk_at dksL_law_5 17 rfl rfl)
theorem dL_law_258 : decode cL_law 258 = .ok (.iconst 1, 1) := dk_4 (dk_at dksL_law_5 18 rfl rfl)
theorem dL_law_259 : decode cL_law 259 = .ok (.iadd, 1) := dk_96 (dk_at dksL_law_5 19 rfl rfl)
theorem dL_law_260 : decode cL_law 260 = .ok (.iaload, 1) := dk_46 (dk_at dksL_law_5 20 rfl rfl)
theorem dL_law_261 : decode cL_law 261 = .ok (.invokevirtual 18, 3) := dk_182 0 18 (dk_at dksL_law_5 21 rfl rfl)
theorem dL_law_264 : decode cL_law 264 = .ok (.aload_n 2, 1) := dk_44 (dk_at dksL_law_6 0 rfl rfl)
theorem dL_law_265 : decode cL_law 265 = .ok (.aload_n 0, 1) := dk_42 (dk_at dksL_law_6 1 rfl rfl)
theorem dL_law_266 : decode cL_law 266 = .ok (.iload_n 3, 1) := dk_29 (dk_at dksL_law_6 2 rfl rfl)
theorem dL_law_267 : decode cL_law 267 = .ok (.iconst 1, 1) := dk_4 (dk_at dksL_law_6 3 rfl rfl)
theorem dL_law_268 : decode cL_law 268 = .ok (.iadd, 1) := dk_96 (dk_at dksL_law_6 4 rfl rfl)
theorem dL_law_269 : decode cL_law 269 = .ok (.iaload, 1) := dk_46 (dk_at dksL_law_6 5 rfl rfl)
theorem dL_law_270 : decode cL_law 270 = .ok (.invokevirtual 22, 3) := dk_182 0 22 (dk_at dksL_law_6 6 rfl rfl)
theorem dL_law_273 : decode cL_law 273 = .ok (.if_icmp .eq 917, 3) := dk_159 3 149 (dk_at dksL_law_6 9 rfl rfl)
theorem dL_law_276 : decode cL_law 276 = .ok (.iconst 0, 1) := dk_3 (dk_at dksL_law_6 12 rfl rfl)
theorem dL_law_277 : decode cL_law 277 = .ok (.ireturn, 1) := dk_172 (dk_at dksL_law_6 13 rfl rfl)
theorem dL_law_278 : decode cL_law 278 = .ok (.aload_n 1, 1) := dk_43 (dk_at dksL_law_6 14 rfl rfl)
theorem dL_law_279 : decode cL_law 279 = .ok (.invokevirtual 23, 3) := dk_182 0 23 (dk_at dksL_law_6 15 rfl rfl)
theorem dL_law_282 : decode cL_law 282 = .ok (.aload_n 2, 1) := dk_44 (dk_at dksL_law_6 18 rfl rfl)
theorem dL_law_283 : decode cL_law 283 = .ok (.invokevirtual 27, 3) := dk_182 0 27 (dk_at dksL_law_6 19 rfl rfl)
theorem dL_law_286 : decode cL_law 286 = .ok (.if_icmp .eq 904, 3) := dk_159 3 136 (dk_at dksL_law_7 0 rfl rfl)
theorem dL_law_289 : decode cL_law 289 = .ok (.iconst 0, 1) := dk_3 (dk_at dksL_law_7 3 rfl rfl)
theorem dL_law_290 : decode cL_law 290 = .ok (.ireturn, 1) := dk_172 (dk_at dksL_law_7 4 rfl rfl)
theorem dL_law_291 : decode cL_law 291 = .ok (.aload_n 1, 1) := dk_43 (dk_at dksL_law_7 5 rfl rfl)
theorem dL_law_292 : decode cL_law 292 = .ok (.invokevirtual 28, 3) := dk_182 0 28 (dk_at dksL_law_7 6 rfl rfl)
theorem dL_law_295 : decode cL_law 295 = .ok (.aload_n 2, 1) := dk_44 (dk_at dksL_law_7 9 rfl rfl)
theorem dL_law_296 : decode cL_law 296 = .ok (.invokevirtual 31, 3) := dk_182 0 31 (dk_at dksL_law_7 10 rfl rfl)
theorem dL_law_299 : decode cL_law 299 = .ok (.if_icmp .eq 891, 3) := dk_159 3 123 (dk_at dksL_law_7 13 rfl rfl)
theorem dL_law_302 : decode cL_law 302 = .ok (.iconst 0, 1) := dk_3 (dk_at dksL_law_7 16 rfl rfl)
theorem dL_law_303 : decode cL_law 303 = .ok (.ireturn, 1) := dk_172 (dk_at dksL_law_7 17 rfl rfl)
theorem dL_law_304 : decode cL_law 304 = .ok (.aload_n 1, 1) := dk_43 (dk_at dksL_law_7 18 rfl rfl)
theorem dL_law_305 : decode cL_law 305 = .ok (.aload_n 0, 1) := dk_42 (dk_at dksL_law_7 19 rfl rfl)
theorem dL_law_306 : decode cL_law 306 = .ok (.iload_n 3, 1) := dk_29 (dk_at dksL_law_7 20 rfl rfl)
theorem dL_law_307 : decode cL_law 307 = .ok (.iconst 1, 1) := dk_4 (dk_at dksL_law_7 21 rfl rfl)
theorem dL_law_308 : decode cL_law 308 = .ok (.iadd, 1) := dk_96 (dk_at dksL_law_7 22 rfl rfl)
theorem dL_law_309 : decode cL_law 309 = .ok (.iaload, 1) := dk_46 (dk_at dksL_law_7 23 rfl rfl)
theorem dL_law_310 : decode cL_law 310 = .ok (.invokevirtual 32, 3) := dk_182 0 32 (dk_at dksL_law_8 0 rfl rfl)
theorem dL_law_313 : decode cL_law 313 = .ok (.aload_n 2, 1) := dk_44 (dk_at dksL_law_8 3 rfl rfl)
theorem dL_law_314 : decode cL_law 314 = .ok (.aload_n 0, 1) := dk_42 (dk_at dksL_law_8 4 rfl rfl)
theorem dL_law_315 : decode cL_law 315 = .ok (.iload_n 3, 1) := dk_29 (dk_at dksL_law_8 5 rfl rfl)
theorem dL_law_316 : decode cL_law 316 = .ok (.iconst 1, 1) := dk_4 (dk_at dksL_law_8 6 rfl rfl)
theorem dL_law_317 : decode cL_law 317 = .ok (.iadd, 1) := dk_96 (dk_at dksL_law_8 7 rfl rfl)
theorem dL_law_318 : decode cL_law 318 = .ok (.iaload, 1) := dk_46 (dk_at dksL_law_8 8 rfl rfl)
theorem dL_law_319 : decode cL_law 319 = .ok (.invokevirtual 35, 3) := dk_182 0 35 (dk_at dksL_law_8 9 rfl rfl)
theorem dL_law_322 : decode cL_law 322 = .ok (.if_icmp .eq 868, 3) := dk_159 3 100 (dk_at dksL_law_8 12 rfl rfl)
theorem dL_law_325 : decode cL_law 325 = .ok (.iconst 0, 1) := dk_3 (dk_at dksL_law_8 15 rfl rfl)
theorem dL_law_326 : decode cL_law 326 = .ok (.ireturn, 1) := dk_172 (dk_at dksL_law_8 16 rfl rfl)
theorem dL_law_327 : decode cL_law 327 = .ok (.aload_n 1, 1) := dk_43 (dk_at dksL_law_8 17 rfl rfl)
theorem dL_law_328 : decode cL_law 328 = .ok (.aload_n 0, 1) := dk_42 (dk_at dksL_law_8 18 rfl rfl)
theorem dL_law_329 : decode cL_law 329 = .ok (.iload_n 3, 1) := dk_29 (dk_at dksL_law_8 19 rfl rfl)
theorem dL_law_330 : decode cL_law 330 = .ok (.iconst 1, 1) := dk_4 (dk_at dksL_law_8 20 rfl rfl)
theorem dL_law_331 : decode cL_law 331 = .ok (.iadd, 1) := dk_96 (dk_at dksL_law_8 21 rfl rfl)
theorem dL_law_332 : decode cL_law 332 = .ok (.iaload, 1) := dk_46 (dk_at dksL_law_8 22 rfl rfl)
theorem dL_law_333 : decode cL_law 333 = .ok (.aload_n 0, 1) := dk_42 (dk_at dksL_law_8 23 rfl rfl)
theorem dL_law_334 : decode cL_law 334 = .ok (.iload_n 3, 1) := dk_29 (dk_at dksL_law_9 0 rfl rfl)
theorem dL_law_335 : decode cL_law 335 = .ok (.iconst 2, 1) := dk_5 (dk_at dksL_law_9 1 rfl rfl)
theorem dL_law_336 : decode cL_law 336 = .ok (.iadd, 1) := dk_96 (dk_at dksL_law_9 2 rfl rfl)
theorem dL_law_337 : decode cL_law 337 = .ok (.iaload, 1) := dk_46 (dk_at dksL_law_9 3 rfl rfl)
theorem dL_law_338 : decode cL_law 338 = .ok (.invokevirtual 36, 3) := dk_182 0 36 (dk_at dksL_law_9 4 rfl rfl)
theorem dL_law_341 : decode cL_law 341 = .ok (.aload_n 2, 1) := dk_44 (dk_at dksL_law_9 7 rfl rfl)
theorem dL_law_342 : decode cL_law 342 = .ok (.aload_n 0, 1) := dk_42 (dk_at dksL_law_9 8 rfl rfl)
theorem dL_law_343 : decode cL_law 343 = .ok (.iload_n 3, 1) := dk_29 (dk_at dksL_law_9 9 rfl rfl)
theorem dL_law_344 : decode cL_law 344 = .ok (.iconst 1, 1) := dk_4 (dk_at dksL_law_9 10 rfl rfl)
theorem dL_law_345 : decode cL_law 345 = .ok (.iadd, 1) := dk_96 (dk_at dksL_law_9 11 rfl rfl)
theorem dL_law_346 : decode cL_law 346 = .ok (.iaload, 1) := dk_46 (dk_at dksL_law_9 12 rfl rfl)
theorem dL_law_347 : decode cL_law 347 = .ok (.aload_n 0, 1) := dk_42 (dk_at dksL_law_9 13 rfl rfl)
theorem dL_law_348 : decode cL_law 348 = .ok (.iload_n 3, 1) := dk_29 (dk_at dksL_law_9 14 rfl rfl)
theorem dL_law_349 : decode cL_law 349 = .ok (.iconst 2, 1) := dk_5 (dk_at dksL_law_9 15 rfl rfl)
theorem dL_law_350 : decode cL_law 350 = .ok (.iadd, 1) := dk_96 (dk_at dksL_law_9 16 rfl rfl)
theorem dL_law_351 : decode cL_law 351 = .ok (.iaload, 1) := dk_46 (dk_at dksL_law_9 17 rfl rfl)
theorem dL_law_352 : decode cL_law 352 = .ok (.invokevirtual 40, 3) := dk_182 0 40 (dk_at dksL_law_9 18 rfl rfl)
theorem dL_law_355 : decode cL_law 355 = .ok (.if_icmp .eq 835, 3) := dk_159 3 67 (dk_at dksL_law_9 21 rfl rfl)
theorem dL_law_358 : decode cL_law 358 = .ok (.iconst 0, 1) := dk_3 (dk_at dksL_law_10 0 rfl rfl)
theorem dL_law_359 : decode cL_law 359 = .ok (.ireturn, 1) := dk_172 (dk_at dksL_law_10 1 rfl rfl)
theorem dL_law_360 : decode cL_law 360 = .ok (.aload_n 1, 1) := dk_43 (dk_at dksL_law_10 2 rfl rfl)
theorem dL_law_361 : decode cL_law 361 = .ok (.invokevirtual 41, 3) := dk_182 0 41 (dk_at dksL_law_10 3 rfl rfl)
theorem dL_law_364 : decode cL_law 364 = .ok (.aload_n 2, 1) := dk_44 (dk_at dksL_law_10 6 rfl rfl)
theorem dL_law_365 : decode cL_law 365 = .ok (.invokevirtual 44, 3) := dk_182 0 44 (dk_at dksL_law_10 7 rfl rfl)
theorem dL_law_368 : decode cL_law 368 = .ok (.if_icmp .eq 822, 3) := dk_159 3 54 (dk_at dksL_law_10 10 rfl rfl)
theorem dL_law_371 : decode cL_law 371 = .ok (.iconst 0, 1) := dk_3 (dk_at dksL_law_10 13 rfl rfl)
theorem dL_law_372 : decode cL_law 372 = .ok (.ireturn, 1) := dk_172 (dk_at dksL_law_10 14 rfl rfl)
theorem dL_law_373 : decode cL_law 373 = .ok (.aload_n 1, 1) := dk_43 (dk_at dksL_law_10 15 rfl rfl)
theorem dL_law_374 : decode cL_law 374 = .ok (.aload_n 0, 1) := dk_42 (dk_at dksL_law_10 16 rfl rfl)
theorem dL_law_375 : decode cL_law 375 = .ok (.iload_n 3, 1) := dk_29 (dk_at dksL_law_10 17 rfl rfl)
theorem dL_law_376 : decode cL_law 376 = .ok (.iconst 1, 1) := dk_4 (dk_at dksL_law_10 18 rfl rfl)
theorem dL_law_377 : decode cL_law 377 = .ok (.iadd, 1) := dk_96 (dk_at dksL_law_10 19 rfl rfl)
theorem dL_law_378 : decode cL_law 378 = .ok (.iaload, 1) := dk_46 (dk_at dksL_law_10 20 rfl rfl)
theorem dL_law_379 : decode cL_law 379 = .ok (.aload_n 0, 1) := dk_42 (dk_at dksL_law_10 21 rfl rfl)
theorem dL_law_380 : decode cL_law 380 = .ok (.iload_n 3, 1) := dk_29 (dk_at dksL_law_10 22 rfl rfl)
theorem dL_law_381 : decode cL_law 381 = .ok (.iconst 2, 1) := dk_5 (dk_at dksL_law_10 23 rfl rfl)
theorem dL_law_382 : decode cL_law 382 = .ok (.iadd, 1) := dk_96 (dk_at dksL_law_11 0 rfl rfl)
theorem dL_law_383 : decode cL_law 383 = .ok (.iaload, 1) := dk_46 (dk_at dksL_law_11 1 rfl rfl)
theorem dL_law_384 : decode cL_law 384 = .ok (.invokevirtual 45, 3) := dk_182 0 45 (dk_at dksL_law_11 2 rfl rfl)
theorem dL_law_387 : decode cL_law 387 = .ok (.aload_n 2, 1) := dk_44 (dk_at dksL_law_11 5 rfl rfl)
theorem dL_law_388 : decode cL_law 388 = .ok (.aload_n 0, 1) := dk_42 (dk_at dksL_law_11 6 rfl rfl)
theorem dL_law_389 : decode cL_law 389 = .ok (.iload_n 3, 1) := dk_29 (dk_at dksL_law_11 7 rfl rfl)
theorem dL_law_390 : decode cL_law 390 = .ok (.iconst 1, 1) := dk_4 (dk_at dksL_law_11 8 rfl rfl)
theorem dL_law_391 : decode cL_law 391 = .ok (.iadd, 1) := dk_96 (dk_at dksL_law_11 9 rfl rfl)
theorem dL_law_392 : decode cL_law 392 = .ok (.iaload, 1) := dk_46 (dk_at dksL_law_11 10 rfl rfl)
theorem dL_law_393 : decode cL_law 393 = .ok (.aload_n 0, 1) := dk_42 (dk_at dksL_law_11 11 rfl rfl)
theorem dL_law_394 : decode cL_law 394 = .ok (.iload_n 3, 1) := dk_29 (dk_at dksL_law_11 12 rfl rfl)
theorem dL_law_395 : decode cL_law 395 = .ok (.iconst 2, 1) := dk_5 (dk_at dksL_law_11 13 rfl rfl)
theorem dL_law_396 : decode cL_law 396 = .ok (.iadd, 1) := dk_96 (dk_at dksL_law_11 14 rfl rfl)
theorem dL_law_397 : decode cL_law 397 = .ok (.iaload, 1) := dk_46 (dk_at dksL_law_11 15 rfl rfl)
theorem dL_law_398 : decode cL_law 398 = .ok (.invokevirtual 48, 3) := dk_182 0 48 (dk_at dksL_law_11 16 rfl rfl)
theorem dL_law_401 : decode cL_law 401 = .ok (.if_icmp .eq 789, 3) := dk_159 3 21 (dk_at dksL_law_11 19 rfl rfl)
theorem dL_law_404 : decode cL_law 404 = .ok (.iconst 0, 1) := dk_3 (dk_at dksL_law_11 22 rfl rfl)
theorem dL_law_405 : decode cL_law 405 = .ok (.ireturn, 1) := dk_172 (dk_at dksL_law_11 23 rfl rfl)
theorem dL_law_406 : decode cL_law 406 = .ok (.aload_n 1, 1) := dk_43 (dk_at dksL_law_12 0 rfl rfl)
theorem dL_law_407 : decode cL_law 407 = .ok (.aload_n 0, 1) := dk_42 (dk_at dksL_law_12 1 rfl rfl)
theorem dL_law_408 : decode cL_law 408 = .ok (.iload_n 3, 1) := dk_29 (dk_at dksL_law_12 2 rfl rfl)
theorem dL_law_409 : decode cL_law 409 = .ok (.iconst 1, 1) := dk_4 (dk_at dksL_law_12 3 rfl rfl)
theorem dL_law_410 : decode cL_law 410 = .ok (.iadd, 1) := dk_96 (dk_at dksL_law_12 4 rfl rfl)
theorem dL_law_411 : decode cL_law 411 = .ok (.iaload, 1) := dk_46 (dk_at dksL_law_12 5 rfl rfl)
theorem dL_law_412 : decode cL_law 412 = .ok (.aload_n 0, 1) := dk_42 (dk_at dksL_law_12 6 rfl rfl)
theorem dL_law_413 : decode cL_law 413 = .ok (.iload_n 3, 1) := dk_29 (dk_at dksL_law_12 7 rfl rfl)
theorem dL_law_414 : decode cL_law 414 = .ok (.iconst 2, 1) := dk_5 (dk_at dksL_law_12 8 rfl rfl)
theorem dL_law_415 : decode cL_law 415 = .ok (.iadd, 1) := dk_96 (dk_at dksL_law_12 9 rfl rfl)
theorem dL_law_416 : decode cL_law 416 = .ok (.iaload, 1) := dk_46 (dk_at dksL_law_12 10 rfl rfl)
theorem dL_law_417 : decode cL_law 417 = .ok (.invokevirtual 49, 3) := dk_182 0 49 (dk_at dksL_law_12 11 rfl rfl)
theorem dL_law_420 : decode cL_law 420 = .ok (.aload_n 2, 1) := dk_44 (dk_at dksL_law_12 14 rfl rfl)
theorem dL_law_421 : decode cL_law 421 = .ok (.aload_n 0, 1) := dk_42 (dk_at dksL_law_12 15 rfl rfl)
theorem dL_law_422 : decode cL_law 422 = .ok (.iload_n 3, 1) := dk_29 (dk_at dksL_law_12 16 rfl rfl)
theorem dL_law_423 : decode cL_law 423 = .ok (.iconst 1, 1) := dk_4 (dk_at dksL_law_12 17 rfl rfl)
theorem dL_law_424 : decode cL_law 424 = .ok (.iadd, 1) := dk_96 (dk_at dksL_law_12 18 rfl rfl)
theorem dL_law_425 : decode cL_law 425 = .ok (.iaload, 1) := dk_46 (dk_at dksL_law_12 19 rfl rfl)
theorem dL_law_426 : decode cL_law 426 = .ok (.aload_n 0, 1) := dk_42 (dk_at dksL_law_12 20 rfl rfl)
theorem dL_law_427 : decode cL_law 427 = .ok (.iload_n 3, 1) := dk_29 (dk_at dksL_law_12 21 rfl rfl)
theorem dL_law_428 : decode cL_law 428 = .ok (.iconst 2, 1) := dk_5 (dk_at dksL_law_12 22 rfl rfl)
theorem dL_law_429 : decode cL_law 429 = .ok (.iadd, 1) := dk_96 (dk_at dksL_law_12 23 rfl rfl)
theorem dL_law_430 : decode cL_law 430 = .ok (.iaload, 1) := dk_46 (dk_at dksL_law_13 0 rfl rfl)
theorem dL_law_431 : decode cL_law 431 = .ok (.invokevirtual 52, 3) := dk_182 0 52 (dk_at dksL_law_13 1 rfl rfl)
theorem dL_law_434 : decode cL_law 434 = .ok (.if_icmp .eq 756, 3) := dk_159 2 244 (dk_at dksL_law_13 4 rfl rfl)
theorem dL_law_437 : decode cL_law 437 = .ok (.iconst 0, 1) := dk_3 (dk_at dksL_law_13 7 rfl rfl)
theorem dL_law_438 : decode cL_law 438 = .ok (.ireturn, 1) := dk_172 (dk_at dksL_law_13 8 rfl rfl)
theorem dL_law_439 : decode cL_law 439 = .ok (.aload_n 1, 1) := dk_43 (dk_at dksL_law_13 9 rfl rfl)
theorem dL_law_440 : decode cL_law 440 = .ok (.aload_n 0, 1) := dk_42 (dk_at dksL_law_13 10 rfl rfl)
theorem dL_law_441 : decode cL_law 441 = .ok (.iload_n 3, 1) := dk_29 (dk_at dksL_law_13 11 rfl rfl)
theorem dL_law_442 : decode cL_law 442 = .ok (.iconst 1, 1) := dk_4 (dk_at dksL_law_13 12 rfl rfl)
theorem dL_law_443 : decode cL_law 443 = .ok (.iadd, 1) := dk_96 (dk_at dksL_law_13 13 rfl rfl)
theorem dL_law_444 : decode cL_law 444 = .ok (.iaload, 1) := dk_46 (dk_at dksL_law_13 14 rfl rfl)
theorem dL_law_445 : decode cL_law 445 = .ok (.invokevirtual 53, 3) := dk_182 0 53 (dk_at dksL_law_13 15 rfl rfl)
theorem dL_law_448 : decode cL_law 448 = .ok (.aload_n 2, 1) := dk_44 (dk_at dksL_law_13 18 rfl rfl)
theorem dL_law_449 : decode cL_law 449 = .ok (.aload_n 0, 1) := dk_42 (dk_at dksL_law_13 19 rfl rfl)
theorem dL_law_450 : decode cL_law 450 = .ok (.iload_n 3, 1) := dk_29 (dk_at dksL_law_13 20 rfl rfl)
theorem dL_law_451 : decode cL_law 451 = .ok (.iconst 1, 1) := dk_4 (dk_at dksL_law_13 21 rfl rfl)
theorem dL_law_452 : decode cL_law 452 = .ok (.iadd, 1) := dk_96 (dk_at dksL_law_13 22 rfl rfl)
theorem dL_law_453 : decode cL_law 453 = .ok (.iaload, 1) := dk_46 (dk_at dksL_law_13 23 rfl rfl)
theorem dL_law_454 : decode cL_law 454 = .ok (.invokevirtual 56, 3) := dk_182 0 56 (dk_at dksL_law_14 0 rfl rfl)
theorem dL_law_457 : decode cL_law 457 = .ok (.if_icmp .eq 733, 3) := dk_159 2 221 (dk_at dksL_law_14 3 rfl rfl)
theorem dL_law_460 : decode cL_law 460 = .ok (.iconst 0, 1) := dk_3 (dk_at dksL_law_14 6 rfl rfl)
theorem dL_law_461 : decode cL_law 461 = .ok (.ireturn, 1) := dk_172 (dk_at dksL_law_14 7 rfl rfl)
theorem dL_law_462 : decode cL_law 462 = .ok (.aload_n 1, 1) := dk_43 (dk_at dksL_law_14 8 rfl rfl)
theorem dL_law_463 : decode cL_law 463 = .ok (.aload_n 0, 1) := dk_42 (dk_at dksL_law_14 9 rfl rfl)
theorem dL_law_464 : decode cL_law 464 = .ok (.iload_n 3, 1) := dk_29 (dk_at dksL_law_14 10 rfl rfl)
theorem dL_law_465 : decode cL_law 465 = .ok (.iconst 1, 1) := dk_4 (dk_at dksL_law_14 11 rfl rfl)
theorem dL_law_466 : decode cL_law 466 = .ok (.iadd, 1) := dk_96 (dk_at dksL_law_14 12 rfl rfl)
theorem dL_law_467 : decode cL_law 467 = .ok (.iaload, 1) := dk_46 (dk_at dksL_law_14 13 rfl rfl)
theorem dL_law_468 : decode cL_law 468 = .ok (.aload_n 0, 1) := dk_42 (dk_at dksL_law_14 14 rfl rfl)
theorem dL_law_469 : decode cL_law 469 = .ok (.iload_n 3, 1) := dk_29 (dk_at dksL_law_14 15 rfl rfl)
theorem dL_law_470 : decode cL_law 470 = .ok (.iconst 2, 1) := dk_5 (dk_at dksL_law_14 16 rfl rfl)
theorem dL_law_471 : decode cL_law 471 = .ok (.iadd, 1) := dk_96 (dk_at dksL_law_14 17 rfl rfl)
theorem dL_law_472 : decode cL_law 472 = .ok (.iaload, 1) := dk_46 (dk_at dksL_law_14 18 rfl rfl)
theorem dL_law_473 : decode cL_law 473 = .ok (.invokevirtual 57, 3) := dk_182 0 57 (dk_at dksL_law_14 19 rfl rfl)
theorem dL_law_476 : decode cL_law 476 = .ok (.aload_n 2, 1) := dk_44 (dk_at dksL_law_14 22 rfl rfl)
theorem dL_law_477 : decode cL_law 477 = .ok (.aload_n 0, 1) := dk_42 (dk_at dksL_law_14 23 rfl rfl)
theorem dL_law_478 : decode cL_law 478 = .ok (.iload_n 3, 1) := dk_29 (dk_at dksL_law_15 0 rfl rfl)
theorem dL_law_479 : decode cL_law 479 = .ok (.iconst 1, 1) := dk_4 (dk_at dksL_law_15 1 rfl rfl)
theorem dL_law_480 : decode cL_law 480 = .ok (.iadd, 1) := dk_96 (dk_at dksL_law_15 2 rfl rfl)
theorem dL_law_481 : decode cL_law 481 = .ok (.iaload, 1) := dk_46 (dk_at dksL_law_15 3 rfl rfl)
theorem dL_law_482 : decode cL_law 482 = .ok (.aload_n 0, 1) := dk_42 (dk_at dksL_law_15 4 rfl rfl)
theorem dL_law_483 : decode cL_law 483 = .ok (.iload_n 3, 1) := dk_29 (dk_at dksL_law_15 5 rfl rfl)
theorem dL_law_484 : decode cL_law 484 = .ok (.iconst 2, 1) := dk_5 (dk_at dksL_law_15 6 rfl rfl)
theorem dL_law_485 : decode cL_law 485 = .ok (.iadd, 1) := dk_96 (dk_at dksL_law_15 7 rfl rfl)
theorem dL_law_486 : decode cL_law 486 = .ok (.iaload, 1) := dk_46 (dk_at dksL_law_15 8 rfl rfl)
theorem dL_law_487 : decode cL_law 487 = .ok (.invokevirtual 60, 3) := dk_182 0 60 (dk_at dksL_law_15 9 rfl rfl)
theorem dL_law_490 : decode cL_law 490 = .ok (.if_icmp .eq 700, 3) := dk_159 2 188 (dk_at dksL_law_15 12 rfl rfl)
theorem dL_law_493 : decode cL_law 493 = .ok (.iconst 0, 1) := dk_3 (dk_at dksL_law_15 15 rfl rfl)
theorem dL_law_494 : decode cL_law 494 = .ok (.ireturn, 1) := dk_172 (dk_at dksL_law_15 16 rfl rfl)
theorem dL_law_495 : decode cL_law 495 = .ok (.aload_n 1, 1) := dk_43 (dk_at dksL_law_15 17 rfl rfl)
theorem dL_law_496 : decode cL_law 496 = .ok (.invokevirtual 61, 3) := dk_182 0 61 (dk_at dksL_law_15 18 rfl rfl)
theorem dL_law_499 : decode cL_law 499 = .ok (.aload_n 2, 1) := dk_44 (dk_at dksL_law_15 21 rfl rfl)
theorem dL_law_500 : decode cL_law 500 = .ok (.invokevirtual 64, 3) := dk_182 0 64 (dk_at dksL_law_16 0 rfl rfl)
theorem dL_law_503 : decode cL_law 503 = .ok (.if_icmp .eq 687, 3) := dk_159 2 175 (dk_at dksL_law_16 3 rfl rfl)
theorem dL_law_506 : decode cL_law 506 = .ok (.iconst 0, 1) := dk_3 (dk_at dksL_law_16 6 rfl rfl)
theorem dL_law_507 : decode cL_law 507 = .ok (.ireturn, 1) := dk_172 (dk_at dksL_law_16 7 rfl rfl)
theorem dL_law_508 : decode cL_law 508 = .ok (.aload_n 1, 1) := dk_43 (dk_at dksL_law_16 8 rfl rfl)
theorem dL_law_509 : decode cL_law 509 = .ok (.aload_n 0, 1) := dk_42 (dk_at dksL_law_16 9 rfl rfl)
theorem dL_law_510 : decode cL_law 510 = .ok (.iload_n 3, 1) := dk_29 (dk_at dksL_law_16 10 rfl rfl)
theorem dL_law_511 : decode cL_law 511 = .ok (.iconst 1, 1) := dk_4 (dk_at dksL_law_16 11 rfl rfl)
theorem dL_law_512 : decode cL_law 512 = .ok (.iadd, 1) := dk_96 (dk_at dksL_law_16 12 rfl rfl)
theorem dL_law_513 : decode cL_law 513 = .ok (.iaload, 1) := dk_46 (dk_at dksL_law_16 13 rfl rfl)
theorem dL_law_514 : decode cL_law 514 = .ok (.aload_n 0, 1) := dk_42 (dk_at dksL_law_16 14 rfl rfl)
theorem dL_law_515 : decode cL_law 515 = .ok (.iload_n 3, 1) := dk_29 (dk_at dksL_law_16 15 rfl rfl)
theorem dL_law_516 : decode cL_law 516 = .ok (.iconst 2, 1) := dk_5 (dk_at dksL_law_16 16 rfl rfl)
theorem dL_law_517 : decode cL_law 517 = .ok (.iadd, 1) := dk_96 (dk_at dksL_law_16 17 rfl rfl)
theorem dL_law_518 : decode cL_law 518 = .ok (.iaload, 1) := dk_46 (dk_at dksL_law_16 18 rfl rfl)
theorem dL_law_519 : decode cL_law 519 = .ok (.aload_n 0, 1) := dk_42 (dk_at dksL_law_16 19 rfl rfl)
theorem dL_law_520 : decode cL_law 520 = .ok (.iload_n 3, 1) := dk_29 (dk_at dksL_law_16 20 rfl rfl)
theorem dL_law_521 : decode cL_law 521 = .ok (.iconst 3, 1) := dk_6 (dk_at dksL_law_16 21 rfl rfl)
theorem dL_law_522 : decode cL_law 522 = .ok (.iadd, 1) := dk_96 (dk_at dksL_law_16 22 rfl rfl)
theorem dL_law_523 : decode cL_law 523 = .ok (.iaload, 1) := dk_46 (dk_at dksL_law_16 23 rfl rfl)
theorem dL_law_524 : decode cL_law 524 = .ok (.invokevirtual 65, 3) := dk_182 0 65 (dk_at dksL_law_17 0 rfl rfl)
theorem dL_law_527 : decode cL_law 527 = .ok (.aload_n 2, 1) := dk_44 (dk_at dksL_law_17 3 rfl rfl)
theorem dL_law_528 : decode cL_law 528 = .ok (.aload_n 0, 1) := dk_42 (dk_at dksL_law_17 4 rfl rfl)
theorem dL_law_529 : decode cL_law 529 = .ok (.iload_n 3, 1) := dk_29 (dk_at dksL_law_17 5 rfl rfl)
theorem dL_law_530 : decode cL_law 530 = .ok (.iconst 1, 1) := dk_4 (dk_at dksL_law_17 6 rfl rfl)
theorem dL_law_531 : decode cL_law 531 = .ok (.iadd, 1) := dk_96 (dk_at dksL_law_17 7 rfl rfl)
theorem dL_law_532 : decode cL_law 532 = .ok (.iaload, 1) := dk_46 (dk_at dksL_law_17 8 rfl rfl)
theorem dL_law_533 : decode cL_law 533 = .ok (.aload_n 0, 1) := dk_42 (dk_at dksL_law_17 9 rfl rfl)
theorem dL_law_534 : decode cL_law 534 = .ok (.iload_n 3, 1) := dk_29 (dk_at dksL_law_17 10 rfl rfl)
theorem dL_law_535 : decode cL_law 535 = .ok (.iconst 2, 1) := dk_5 (dk_at dksL_law_17 11 rfl rfl)
theorem dL_law_536 : decode cL_law 536 = .ok (.iadd, 1) := dk_96 (dk_at dksL_law_17 12 rfl rfl)
theorem dL_law_537 : decode cL_law 537 = .ok (.iaload, 1) := dk_46 (dk_at dksL_law_17 13 rfl rfl)
theorem dL_law_538 : decode cL_law 538 = .ok (.aload_n 0, 1) := dk_42 (dk_at dksL_law_17 14 rfl rfl)
theorem dL_law_539 : decode cL_law 539 = .ok (.iload_n 3, 1) := dk_29 (dk_at dksL_law_17 15 rfl rfl)
theorem dL_law_540 : decode cL_law 540 = .ok (.iconst 3, 1) := dk_6 (dk_at dksL_law_17 16 rfl rfl)
theorem dL_law_541 : decode cL_law 541 = .ok (.iadd, 1) := dk_96 (dk_at dksL_law_17 17 rfl rfl)
theorem dL_law_542 : decode cL_law 542 = .ok (.iaload, 1) := dk_46 (dk_at dksL_law_17 18 rfl rfl)
theorem dL_law_543 : decode cL_law 543 = .ok (.invokevirtual 69, 3) := dk_182 0 69 (dk_at dksL_law_17 19 rfl rfl)
theorem dL_law_546 : decode cL_law 546 = .ok (.if_icmp .eq 644, 3) := dk_159 2 132 (dk_at dksL_law_18 0 rfl rfl)
theorem dL_law_549 : decode cL_law 549 = .ok (.iconst 0, 1) := dk_3 (dk_at dksL_law_18 3 rfl rfl)
theorem dL_law_550 : decode cL_law 550 = .ok (.ireturn, 1) := dk_172 (dk_at dksL_law_18 4 rfl rfl)
theorem dL_law_551 : decode cL_law 551 = .ok (.aload_n 1, 1) := dk_43 (dk_at dksL_law_18 5 rfl rfl)
theorem dL_law_552 : decode cL_law 552 = .ok (.aload_n 0, 1) := dk_42 (dk_at dksL_law_18 6 rfl rfl)
theorem dL_law_553 : decode cL_law 553 = .ok (.iload_n 3, 1) := dk_29 (dk_at dksL_law_18 7 rfl rfl)
theorem dL_law_554 : decode cL_law 554 = .ok (.iconst 1, 1) := dk_4 (dk_at dksL_law_18 8 rfl rfl)
theorem dL_law_555 : decode cL_law 555 = .ok (.iadd, 1) := dk_96 (dk_at dksL_law_18 9 rfl rfl)
theorem dL_law_556 : decode cL_law 556 = .ok (.iaload, 1) := dk_46 (dk_at dksL_law_18 10 rfl rfl)
theorem dL_law_557 : decode cL_law 557 = .ok (.invokevirtual 70, 3) := dk_182 0 70 (dk_at dksL_law_18 11 rfl rfl)
theorem dL_law_560 : decode cL_law 560 = .ok (.aload_n 2, 1) := dk_44 (dk_at dksL_law_18 14 rfl rfl)
theorem dL_law_561 : decode cL_law 561 = .ok (.aload_n 0, 1) := dk_42 (dk_at dksL_law_18 15 rfl rfl)
theorem dL_law_562 : decode cL_law 562 = .ok (.iload_n 3, 1) := dk_29 (dk_at dksL_law_18 16 rfl rfl)
theorem dL_law_563 : decode cL_law 563 = .ok (.iconst 1, 1) := dk_4 (dk_at dksL_law_18 17 rfl rfl)
theorem dL_law_564 : decode cL_law 564 = .ok (.iadd, 1) := dk_96 (dk_at dksL_law_18 18 rfl rfl)
theorem dL_law_565 : decode cL_law 565 = .ok (.iaload, 1) := dk_46 (dk_at dksL_law_18 19 rfl rfl)
theorem dL_law_566 : decode cL_law 566 = .ok (.invokevirtual 73, 3) := dk_182 0 73 (dk_at dksL_law_18 20 rfl rfl)
theorem dL_law_569 : decode cL_law 569 = .ok (.if_icmp .eq 621, 3) := dk_159 2 109 (dk_at dksL_law_19 0 rfl rfl)
theorem dL_law_572 : decode cL_law 572 = .ok (.iconst 0, 1) := dk_3 (dk_at dksL_law_19 3 rfl rfl)
theorem dL_law_573 : decode cL_law 573 = .ok (.ireturn, 1) := dk_172 (dk_at dksL_law_19 4 rfl rfl)
theorem dL_law_574 : decode cL_law 574 = .ok (.aload_n 1, 1) := dk_43 (dk_at dksL_law_19 5 rfl rfl)
theorem dL_law_575 : decode cL_law 575 = .ok (.aload_n 0, 1) := dk_42 (dk_at dksL_law_19 6 rfl rfl)
theorem dL_law_576 : decode cL_law 576 = .ok (.iload_n 3, 1) := dk_29 (dk_at dksL_law_19 7 rfl rfl)
theorem dL_law_577 : decode cL_law 577 = .ok (.iconst 1, 1) := dk_4 (dk_at dksL_law_19 8 rfl rfl)
theorem dL_law_578 : decode cL_law 578 = .ok (.iadd, 1) := dk_96 (dk_at dksL_law_19 9 rfl rfl)
theorem dL_law_579 : decode cL_law 579 = .ok (.iaload, 1) := dk_46 (dk_at dksL_law_19 10 rfl rfl)
theorem dL_law_580 : decode cL_law 580 = .ok (.invokevirtual 74, 3) := dk_182 0 74 (dk_at dksL_law_19 11 rfl rfl)
theorem dL_law_583 : decode cL_law 583 = .ok (.aload_n 2, 1) := dk_44 (dk_at dksL_law_19 14 rfl rfl)
theorem dL_law_584 : decode cL_law 584 = .ok (.aload_n 0, 1) := dk_42 (dk_at dksL_law_19 15 rfl rfl)
theorem dL_law_585 : decode cL_law 585 = .ok (.iload_n 3, 1) := dk_29 (dk_at dksL_law_19 16 rfl rfl)
theorem dL_law_586 : decode cL_law 586 = .ok (.iconst 1, 1) := dk_4 (dk_at dksL_law_19 17 rfl rfl)
theorem dL_law_587 : decode cL_law 587 = .ok (.iadd, 1) := dk_96 (dk_at dksL_law_19 18 rfl rfl)
theorem dL_law_588 : decode cL_law 588 = .ok (.iaload, 1) := dk_46 (dk_at dksL_law_19 19 rfl rfl)
theorem dL_law_589 : decode cL_law 589 = .ok (.invokevirtual 77, 3) := dk_182 0 77 (dk_at dksL_law_19 20 rfl rfl)
theorem dL_law_592 : decode cL_law 592 = .ok (.if_icmp .eq 598, 3) := dk_159 2 86 (dk_at dksL_law_20 0 rfl rfl)
theorem dL_law_595 : decode cL_law 595 = .ok (.iconst 0, 1) := dk_3 (dk_at dksL_law_20 3 rfl rfl)
theorem dL_law_596 : decode cL_law 596 = .ok (.ireturn, 1) := dk_172 (dk_at dksL_law_20 4 rfl rfl)
theorem dL_law_597 : decode cL_law 597 = .ok (.aload_n 1, 1) := dk_43 (dk_at dksL_law_20 5 rfl rfl)
theorem dL_law_598 : decode cL_law 598 = .ok (.aload_n 0, 1) := dk_42 (dk_at dksL_law_20 6 rfl rfl)
theorem dL_law_599 : decode cL_law 599 = .ok (.iload_n 3, 1) := dk_29 (dk_at dksL_law_20 7 rfl rfl)
theorem dL_law_600 : decode cL_law 600 = .ok (.iconst 1, 1) := dk_4 (dk_at dksL_law_20 8 rfl rfl)
theorem dL_law_601 : decode cL_law 601 = .ok (.iadd, 1) := dk_96 (dk_at dksL_law_20 9 rfl rfl)
theorem dL_law_602 : decode cL_law 602 = .ok (.iaload, 1) := dk_46 (dk_at dksL_law_20 10 rfl rfl)
theorem dL_law_603 : decode cL_law 603 = .ok (.invokevirtual 78, 3) := dk_182 0 78 (dk_at dksL_law_20 11 rfl rfl)
theorem dL_law_606 : decode cL_law 606 = .ok (.aload_n 2, 1) := dk_44 (dk_at dksL_law_20 14 rfl rfl)
theorem dL_law_607 : decode cL_law 607 = .ok (.aload_n 0, 1) := dk_42 (dk_at dksL_law_20 15 rfl rfl)
theorem dL_law_608 : decode cL_law 608 = .ok (.iload_n 3, 1) := dk_29 (dk_at dksL_law_20 16 rfl rfl)
theorem dL_law_609 : decode cL_law 609 = .ok (.iconst 1, 1) := dk_4 (dk_at dksL_law_20 17 rfl rfl)
theorem dL_law_610 : decode cL_law 610 = .ok (.iadd, 1) := dk_96 (dk_at dksL_law_20 18 rfl rfl)
theorem dL_law_611 : decode cL_law 611 = .ok (.iaload, 1) := dk_46 (dk_at dksL_law_20 19 rfl rfl)
theorem dL_law_612 : decode cL_law 612 = .ok (.invokevirtual 81, 3) := dk_182 0 81 (dk_at dksL_law_20 20 rfl rfl)
theorem dL_law_615 : decode cL_law 615 = .ok (.if_icmp .eq 575, 3) := dk_159 2 63 (dk_at dksL_law_21 0 rfl rfl)
theorem dL_law_618 : decode cL_law 618 = .ok (.iconst 0, 1) := dk_3 (dk_at dksL_law_21 3 rfl rfl)
theorem dL_law_619 : decode cL_law 619 = .ok (.ireturn, 1) := dk_172 (dk_at dksL_law_21 4 rfl rfl)
theorem dL_law_620 : decode cL_law 620 = .ok (.aload_n 1, 1) := dk_43 (dk_at dksL_law_21 5 rfl rfl)
theorem dL_law_621 : decode cL_law 621 = .ok (.aload_n 0, 1) := dk_42 (dk_at dksL_law_21 6 rfl rfl)
theorem dL_law_622 : decode cL_law 622 = .ok (.iload_n 3, 1) := dk_29 (dk_at dksL_law_21 7 rfl rfl)
theorem dL_law_623 : decode cL_law 623 = .ok (.iconst 1, 1) := dk_4 (dk_at dksL_law_21 8 rfl rfl)
theorem dL_law_624 : decode cL_law 624 = .ok (.iadd, 1) := dk_96 (dk_at dksL_law_21 9 rfl rfl)
theorem dL_law_625 : decode cL_law 625 = .ok (.iaload, 1) := dk_46 (dk_at dksL_law_21 10 rfl rfl)
theorem dL_law_626 : decode cL_law 626 = .ok (.invokevirtual 82, 3) := dk_182 0 82 (dk_at dksL_law_21 11 rfl rfl)
theorem dL_law_629 : decode cL_law 629 = .ok (.aload_n 2, 1) := dk_44 (dk_at dksL_law_21 14 rfl rfl)
theorem dL_law_630 : decode cL_law 630 = .ok (.aload_n 0, 1) := dk_42 (dk_at dksL_law_21 15 rfl rfl)
theorem dL_law_631 : decode cL_law 631 = .ok (.iload_n 3, 1) := dk_29 (dk_at dksL_law_21 16 rfl rfl)
theorem dL_law_632 : decode cL_law 632 = .ok (.iconst 1, 1) := dk_4 (dk_at dksL_law_21 17 rfl rfl)
theorem dL_law_633 : decode cL_law 633 = .ok (.iadd, 1) := dk_96 (dk_at dksL_law_21 18 rfl rfl)
theorem dL_law_634 : decode cL_law 634 = .ok (.iaload, 1) := dk_46 (dk_at dksL_law_21 19 rfl rfl)
theorem dL_law_635 : decode cL_law 635 = .ok (.invokevirtual 85, 3) := dk_182 0 85 (dk_at dksL_law_21 20 rfl rfl)
theorem dL_law_638 : decode cL_law 638 = .ok (.if_icmp .eq 552, 3) := dk_159 2 40 (dk_at dksL_law_22 0 rfl rfl)
theorem dL_law_641 : decode cL_law 641 = .ok (.iconst 0, 1) := dk_3 (dk_at dksL_law_22 3 rfl rfl)
theorem dL_law_642 : decode cL_law 642 = .ok (.ireturn, 1) := dk_172 (dk_at dksL_law_22 4 rfl rfl)
theorem dL_law_643 : decode cL_law 643 = .ok (.aload_n 1, 1) := dk_43 (dk_at dksL_law_22 5 rfl rfl)
theorem dL_law_644 : decode cL_law 644 = .ok (.aload_n 0, 1) := dk_42 (dk_at dksL_law_22 6 rfl rfl)
theorem dL_law_645 : decode cL_law 645 = .ok (.iload_n 3, 1) := dk_29 (dk_at dksL_law_22 7 rfl rfl)
theorem dL_law_646 : decode cL_law 646 = .ok (.iconst 1, 1) := dk_4 (dk_at dksL_law_22 8 rfl rfl)
theorem dL_law_647 : decode cL_law 647 = .ok (.iadd, 1) := dk_96 (dk_at dksL_law_22 9 rfl rfl)
theorem dL_law_648 : decode cL_law 648 = .ok (.iaload, 1) := dk_46 (dk_at dksL_law_22 10 rfl rfl)
theorem dL_law_649 : decode cL_law 649 = .ok (.invokevirtual 86, 3) := dk_182 0 86 (dk_at dksL_law_22 11 rfl rfl)
theorem dL_law_652 : decode cL_law 652 = .ok (.aload_n 2, 1) := dk_44 (dk_at dksL_law_22 14 rfl rfl)
theorem dL_law_653 : decode cL_law 653 = .ok (.aload_n 0, 1) := dk_42 (dk_at dksL_law_22 15 rfl rfl)
theorem dL_law_654 : decode cL_law 654 = .ok (.iload_n 3, 1) := dk_29 (dk_at dksL_law_22 16 rfl rfl)
theorem dL_law_655 : decode cL_law 655 = .ok (.iconst 1, 1) := dk_4 (dk_at dksL_law_22 17 rfl rfl)
theorem dL_law_656 : decode cL_law 656 = .ok (.iadd, 1) := dk_96 (dk_at dksL_law_22 18 rfl rfl)
theorem dL_law_657 : decode cL_law 657 = .ok (.iaload, 1) := dk_46 (dk_at dksL_law_22 19 rfl rfl)
theorem dL_law_658 : decode cL_law 658 = .ok (.invokevirtual 89, 3) := dk_182 0 89 (dk_at dksL_law_22 20 rfl rfl)
theorem dL_law_661 : decode cL_law 661 = .ok (.if_icmp .eq 529, 3) := dk_159 2 17 (dk_at dksL_law_23 0 rfl rfl)
theorem dL_law_664 : decode cL_law 664 = .ok (.iconst 0, 1) := dk_3 (dk_at dksL_law_23 3 rfl rfl)
theorem dL_law_665 : decode cL_law 665 = .ok (.ireturn, 1) := dk_172 (dk_at dksL_law_23 4 rfl rfl)
theorem dL_law_666 : decode cL_law 666 = .ok (.aload_n 1, 1) := dk_43 (dk_at dksL_law_23 5 rfl rfl)
theorem dL_law_667 : decode cL_law 667 = .ok (.invokevirtual 90, 3) := dk_182 0 90 (dk_at dksL_law_23 6 rfl rfl)
theorem dL_law_670 : decode cL_law 670 = .ok (.aload_n 2, 1) := dk_44 (dk_at dksL_law_23 9 rfl rfl)
theorem dL_law_671 : decode cL_law 671 = .ok (.invokevirtual 93, 3) := dk_182 0 93 (dk_at dksL_law_23 10 rfl rfl)
theorem dL_law_674 : decode cL_law 674 = .ok (.if_icmp .eq 516, 3) := dk_159 2 4 (dk_at dksL_law_23 13 rfl rfl)
theorem dL_law_677 : decode cL_law 677 = .ok (.iconst 0, 1) := dk_3 (dk_at dksL_law_23 16 rfl rfl)
theorem dL_law_678 : decode cL_law 678 = .ok (.ireturn, 1) := dk_172 (dk_at dksL_law_23 17 rfl rfl)
theorem dL_law_679 : decode cL_law 679 = .ok (.aload_n 1, 1) := dk_43 (dk_at dksL_law_23 18 rfl rfl)
theorem dL_law_680 : decode cL_law 680 = .ok (.invokevirtual 94, 3) := dk_182 0 94 (dk_at dksL_law_23 19 rfl rfl)
theorem dL_law_683 : decode cL_law 683 = .ok (.aload_n 2, 1) := dk_44 (dk_at dksL_law_23 22 rfl rfl)
theorem dL_law_684 : decode cL_law 684 = .ok (.invokevirtual 97, 3) := dk_182 0 97 (dk_at dksL_law_24 0 rfl rfl)
theorem dL_law_687 : decode cL_law 687 = .ok (.if_icmp .eq 503, 3) := dk_159 1 247 (dk_at dksL_law_24 3 rfl rfl)
theorem dL_law_690 : decode cL_law 690 = .ok (.iconst 0, 1) := dk_3 (dk_at dksL_law_24 6 rfl rfl)
theorem dL_law_691 : decode cL_law 691 = .ok (.ireturn, 1) := dk_172 (dk_at dksL_law_24 7 rfl rfl)
theorem dL_law_692 : decode cL_law 692 = .ok (.aload_n 1, 1) := dk_43 (dk_at dksL_law_24 8 rfl rfl)
theorem dL_law_693 : decode cL_law 693 = .ok (.aload_n 0, 1) := dk_42 (dk_at dksL_law_24 9 rfl rfl)
theorem dL_law_694 : decode cL_law 694 = .ok (.iload_n 3, 1) := dk_29 (dk_at dksL_law_24 10 rfl rfl)
theorem dL_law_695 : decode cL_law 695 = .ok (.iconst 1, 1) := dk_4 (dk_at dksL_law_24 11 rfl rfl)
theorem dL_law_696 : decode cL_law 696 = .ok (.iadd, 1) := dk_96 (dk_at dksL_law_24 12 rfl rfl)
theorem dL_law_697 : decode cL_law 697 = .ok (.iaload, 1) := dk_46 (dk_at dksL_law_24 13 rfl rfl)
theorem dL_law_698 : decode cL_law 698 = .ok (.aload_n 0, 1) := dk_42 (dk_at dksL_law_24 14 rfl rfl)
theorem dL_law_699 : decode cL_law 699 = .ok (.iload_n 3, 1) := dk_29 (dk_at dksL_law_24 15 rfl rfl)
theorem dL_law_700 : decode cL_law 700 = .ok (.iconst 2, 1) := dk_5 (dk_at dksL_law_24 16 rfl rfl)
theorem dL_law_701 : decode cL_law 701 = .ok (.iadd, 1) := dk_96 (dk_at dksL_law_24 17 rfl rfl)
theorem dL_law_702 : decode cL_law 702 = .ok (.iaload, 1) := dk_46 (dk_at dksL_law_24 18 rfl rfl)
theorem dL_law_703 : decode cL_law 703 = .ok (.aload_n 0, 1) := dk_42 (dk_at dksL_law_24 19 rfl rfl)
theorem dL_law_704 : decode cL_law 704 = .ok (.iload_n 3, 1) := dk_29 (dk_at dksL_law_24 20 rfl rfl)
theorem dL_law_705 : decode cL_law 705 = .ok (.iconst 3, 1) := dk_6 (dk_at dksL_law_24 21 rfl rfl)
theorem dL_law_706 : decode cL_law 706 = .ok (.iadd, 1) := dk_96 (dk_at dksL_law_24 22 rfl rfl)
theorem dL_law_707 : decode cL_law 707 = .ok (.iaload, 1) := dk_46 (dk_at dksL_law_24 23 rfl rfl)
theorem dL_law_708 : decode cL_law 708 = .ok (.invokevirtual 98, 3) := dk_182 0 98 (dk_at dksL_law_25 0 rfl rfl)
theorem dL_law_711 : decode cL_law 711 = .ok (.aload_n 2, 1) := dk_44 (dk_at dksL_law_25 3 rfl rfl)
theorem dL_law_712 : decode cL_law 712 = .ok (.aload_n 0, 1) := dk_42 (dk_at dksL_law_25 4 rfl rfl)
theorem dL_law_713 : decode cL_law 713 = .ok (.iload_n 3, 1) := dk_29 (dk_at dksL_law_25 5 rfl rfl)
theorem dL_law_714 : decode cL_law 714 = .ok (.iconst 1, 1) := dk_4 (dk_at dksL_law_25 6 rfl rfl)
theorem dL_law_715 : decode cL_law 715 = .ok (.iadd, 1) := dk_96 (dk_at dksL_law_25 7 rfl rfl)
theorem dL_law_716 : decode cL_law 716 = .ok (.iaload, 1) := dk_46 (dk_at dksL_law_25 8 rfl rfl)
theorem dL_law_717 : decode cL_law 717 = .ok (.aload_n 0, 1) := dk_42 (dk_at dksL_law_25 9 rfl rfl)
theorem dL_law_718 : decode cL_law 718 = .ok (.iload_n 3, 1) := dk_29 (dk_at dksL_law_25 10 rfl rfl)
theorem dL_law_719 : decode cL_law 719 = .ok (.iconst 2, 1) := dk_5 (dk_at dksL_law_25 11 rfl rfl)
theorem dL_law_720 : decode cL_law 720 = .ok (.iadd, 1) := dk_96 (dk_at dksL_law_25 12 rfl rfl)
theorem dL_law_721 : decode cL_law 721 = .ok (.iaload, 1) := dk_46 (dk_at dksL_law_25 13 rfl rfl)
theorem dL_law_722 : decode cL_law 722 = .ok (.aload_n 0, 1) := dk_42 (dk_at dksL_law_25 14 rfl rfl)
theorem dL_law_723 : decode cL_law 723 = .ok (.iload_n 3, 1) := dk_29 (dk_at dksL_law_25 15 rfl rfl)
theorem dL_law_724 : decode cL_law 724 = .ok (.iconst 3, 1) := dk_6 (dk_at dksL_law_25 16 rfl rfl)
theorem dL_law_725 : decode cL_law 725 = .ok (.iadd, 1) := dk_96 (dk_at dksL_law_25 17 rfl rfl)
theorem dL_law_726 : decode cL_law 726 = .ok (.iaload, 1) := dk_46 (dk_at dksL_law_25 18 rfl rfl)
theorem dL_law_727 : decode cL_law 727 = .ok (.invokevirtual 101, 3) := dk_182 0 101 (dk_at dksL_law_25 19 rfl rfl)
theorem dL_law_730 : decode cL_law 730 = .ok (.if_icmp .eq 460, 3) := dk_159 1 204 (dk_at dksL_law_26 0 rfl rfl)
theorem dL_law_733 : decode cL_law 733 = .ok (.iconst 0, 1) := dk_3 (dk_at dksL_law_26 3 rfl rfl)
theorem dL_law_734 : decode cL_law 734 = .ok (.ireturn, 1) := dk_172 (dk_at dksL_law_26 4 rfl rfl)
theorem dL_law_735 : decode cL_law 735 = .ok (.aload_n 1, 1) := dk_43 (dk_at dksL_law_26 5 rfl rfl)
theorem dL_law_736 : decode cL_law 736 = .ok (.aload_n 0, 1) := dk_42 (dk_at dksL_law_26 6 rfl rfl)
theorem dL_law_737 : decode cL_law 737 = .ok (.iload_n 3, 1) := dk_29 (dk_at dksL_law_26 7 rfl rfl)
theorem dL_law_738 : decode cL_law 738 = .ok (.iconst 1, 1) := dk_4 (dk_at dksL_law_26 8 rfl rfl)
theorem dL_law_739 : decode cL_law 739 = .ok (.iadd, 1) := dk_96 (dk_at dksL_law_26 9 rfl rfl)
theorem dL_law_740 : decode cL_law 740 = .ok (.iaload, 1) := dk_46 (dk_at dksL_law_26 10 rfl rfl)
theorem dL_law_741 : decode cL_law 741 = .ok (.invokevirtual 102, 3) := dk_182 0 102 (dk_at dksL_law_26 11 rfl rfl)
theorem dL_law_744 : decode cL_law 744 = .ok (.aload_n 2, 1) := dk_44 (dk_at dksL_law_26 14 rfl rfl)
theorem dL_law_745 : decode cL_law 745 = .ok (.aload_n 0, 1) := dk_42 (dk_at dksL_law_26 15 rfl rfl)
theorem dL_law_746 : decode cL_law 746 = .ok (.iload_n 3, 1) := dk_29 (dk_at dksL_law_26 16 rfl rfl)
theorem dL_law_747 : decode cL_law 747 = .ok (.iconst 1, 1) := dk_4 (dk_at dksL_law_26 17 rfl rfl)
theorem dL_law_748 : decode cL_law 748 = .ok (.iadd, 1) := dk_96 (dk_at dksL_law_26 18 rfl rfl)
theorem dL_law_749 : decode cL_law 749 = .ok (.iaload, 1) := dk_46 (dk_at dksL_law_26 19 rfl rfl)
theorem dL_law_750 : decode cL_law 750 = .ok (.invokevirtual 105, 3) := dk_182 0 105 (dk_at dksL_law_26 20 rfl rfl)
theorem dL_law_753 : decode cL_law 753 = .ok (.if_icmp .eq 437, 3) := dk_159 1 181 (dk_at dksL_law_27 0 rfl rfl)
theorem dL_law_756 : decode cL_law 756 = .ok (.iconst 0, 1) := dk_3 (dk_at dksL_law_27 3 rfl rfl)
theorem dL_law_757 : decode cL_law 757 = .ok (.ireturn, 1) := dk_172 (dk_at dksL_law_27 4 rfl rfl)
theorem dL_law_758 : decode cL_law 758 = .ok (.aload_n 1, 1) := dk_43 (dk_at dksL_law_27 5 rfl rfl)
theorem dL_law_759 : decode cL_law 759 = .ok (.invokevirtual 106, 3) := dk_182 0 106 (dk_at dksL_law_27 6 rfl rfl)
theorem dL_law_762 : decode cL_law 762 = .ok (.aload_n 2, 1) := dk_44 (dk_at dksL_law_27 9 rfl rfl)
theorem dL_law_763 : decode cL_law 763 = .ok (.invokevirtual 109, 3) := dk_182 0 109 (dk_at dksL_law_27 10 rfl rfl)
theorem dL_law_766 : decode cL_law 766 = .ok (.if_icmp .eq 424, 3) := dk_159 1 168 (dk_at dksL_law_27 13 rfl rfl)
theorem dL_law_769 : decode cL_law 769 = .ok (.iconst 0, 1) := dk_3 (dk_at dksL_law_27 16 rfl rfl)
theorem dL_law_770 : decode cL_law 770 = .ok (.ireturn, 1) := dk_172 (dk_at dksL_law_27 17 rfl rfl)
theorem dL_law_771 : decode cL_law 771 = .ok (.aload_n 1, 1) := dk_43 (dk_at dksL_law_27 18 rfl rfl)
theorem dL_law_772 : decode cL_law 772 = .ok (.aload_n 0, 1) := dk_42 (dk_at dksL_law_27 19 rfl rfl)
theorem dL_law_773 : decode cL_law 773 = .ok (.iload_n 3, 1) := dk_29 (dk_at dksL_law_27 20 rfl rfl)
theorem dL_law_774 : decode cL_law 774 = .ok (.iconst 1, 1) := dk_4 (dk_at dksL_law_27 21 rfl rfl)
theorem dL_law_775 : decode cL_law 775 = .ok (.iadd, 1) := dk_96 (dk_at dksL_law_27 22 rfl rfl)
theorem dL_law_776 : decode cL_law 776 = .ok (.iaload, 1) := dk_46 (dk_at dksL_law_27 23 rfl rfl)
theorem dL_law_777 : decode cL_law 777 = .ok (.aload_n 0, 1) := dk_42 (dk_at dksL_law_28 0 rfl rfl)
theorem dL_law_778 : decode cL_law 778 = .ok (.iload_n 3, 1) := dk_29 (dk_at dksL_law_28 1 rfl rfl)
theorem dL_law_779 : decode cL_law 779 = .ok (.iconst 2, 1) := dk_5 (dk_at dksL_law_28 2 rfl rfl)
theorem dL_law_780 : decode cL_law 780 = .ok (.iadd, 1) := dk_96 (dk_at dksL_law_28 3 rfl rfl)
theorem dL_law_781 : decode cL_law 781 = .ok (.iaload, 1) := dk_46 (dk_at dksL_law_28 4 rfl rfl)
theorem dL_law_782 : decode cL_law 782 = .ok (.invokevirtual 110, 3) := dk_182 0 110 (dk_at dksL_law_28 5 rfl rfl)
theorem dL_law_785 : decode cL_law 785 = .ok (.aload_n 2, 1) := dk_44 (dk_at dksL_law_28 8 rfl rfl)
theorem dL_law_786 : decode cL_law 786 = .ok (.aload_n 0, 1) := dk_42 (dk_at dksL_law_28 9 rfl rfl)
theorem dL_law_787 : decode cL_law 787 = .ok (.iload_n 3, 1) := dk_29 (dk_at dksL_law_28 10 rfl rfl)
theorem dL_law_788 : decode cL_law 788 = .ok (.iconst 1, 1) := dk_4 (dk_at dksL_law_28 11 rfl rfl)
theorem dL_law_789 : decode cL_law 789 = .ok (.iadd, 1) := dk_96 (dk_at dksL_law_28 12 rfl rfl)
theorem dL_law_790 : decode cL_law 790 = .ok (.iaload, 1) := dk_46 (dk_at dksL_law_28 13 rfl rfl)
theorem dL_law_791 : decode cL_law 791 = .ok (.aload_n 0, 1) := dk_42 (dk_at dksL_law_28 14 rfl rfl)
theorem dL_law_792 : decode cL_law 792 = .ok (.iload_n 3, 1) := dk_29 (dk_at dksL_law_28 15 rfl rfl)
theorem dL_law_793 : decode cL_law 793 = .ok (.iconst 2, 1) := dk_5 (dk_at dksL_law_28 16 rfl rfl)
theorem dL_law_794 : decode cL_law 794 = .ok (.iadd, 1) := dk_96 (dk_at dksL_law_28 17 rfl rfl)
theorem dL_law_795 : decode cL_law 795 = .ok (.iaload, 1) := dk_46 (dk_at dksL_law_28 18 rfl rfl)
theorem dL_law_796 : decode cL_law 796 = .ok (.invokevirtual 113, 3) := dk_182 0 113 (dk_at dksL_law_28 19 rfl rfl)
theorem dL_law_799 : decode cL_law 799 = .ok (.if_icmp .eq 391, 3) := dk_159 1 135 (dk_at dksL_law_29 0 rfl rfl)
theorem dL_law_802 : decode cL_law 802 = .ok (.iconst 0, 1) := dk_3 (dk_at dksL_law_29 3 rfl rfl)
theorem dL_law_803 : decode cL_law 803 = .ok (.ireturn, 1) := dk_172 (dk_at dksL_law_29 4 rfl rfl)
theorem dL_law_804 : decode cL_law 804 = .ok (.aload_n 1, 1) := dk_43 (dk_at dksL_law_29 5 rfl rfl)
theorem dL_law_805 : decode cL_law 805 = .ok (.aload_n 0, 1) := dk_42 (dk_at dksL_law_29 6 rfl rfl)
theorem dL_law_806 : decode cL_law 806 = .ok (.iload_n 3, 1) := dk_29 (dk_at dksL_law_29 7 rfl rfl)
theorem dL_law_807 : decode cL_law 807 = .ok (.iconst 1, 1) := dk_4 (dk_at dksL_law_29 8 rfl rfl)
theorem dL_law_808 : decode cL_law 808 = .ok (.iadd, 1) := dk_96 (dk_at dksL_law_29 9 rfl rfl)
theorem dL_law_809 : decode cL_law 809 = .ok (.iaload, 1) := dk_46 (dk_at dksL_law_29 10 rfl rfl)
theorem dL_law_810 : decode cL_law 810 = .ok (.aload_n 0, 1) := dk_42 (dk_at dksL_law_29 11 rfl rfl)
theorem dL_law_811 : decode cL_law 811 = .ok (.iload_n 3, 1) := dk_29 (dk_at dksL_law_29 12 rfl rfl)
theorem dL_law_812 : decode cL_law 812 = .ok (.iconst 2, 1) := dk_5 (dk_at dksL_law_29 13 rfl rfl)
theorem dL_law_813 : decode cL_law 813 = .ok (.iadd, 1) := dk_96 (dk_at dksL_law_29 14 rfl rfl)
theorem dL_law_814 : decode cL_law 814 = .ok (.iaload, 1) := dk_46 (dk_at dksL_law_29 15 rfl rfl)
theorem dL_law_815 : decode cL_law 815 = .ok (.invokevirtual 114, 3) := dk_182 0 114 (dk_at dksL_law_29 16 rfl rfl)
theorem dL_law_818 : decode cL_law 818 = .ok (.aload_n 2, 1) := dk_44 (dk_at dksL_law_29 19 rfl rfl)
theorem dL_law_819 : decode cL_law 819 = .ok (.aload_n 0, 1) := dk_42 (dk_at dksL_law_29 20 rfl rfl)
theorem dL_law_820 : decode cL_law 820 = .ok (.iload_n 3, 1) := dk_29 (dk_at dksL_law_29 21 rfl rfl)
theorem dL_law_821 : decode cL_law 821 = .ok (.iconst 1, 1) := dk_4 (dk_at dksL_law_29 22 rfl rfl)
theorem dL_law_822 : decode cL_law 822 = .ok (.iadd, 1) := dk_96 (dk_at dksL_law_29 23 rfl rfl)
theorem dL_law_823 : decode cL_law 823 = .ok (.iaload, 1) := dk_46 (dk_at dksL_law_30 0 rfl rfl)
theorem dL_law_824 : decode cL_law 824 = .ok (.aload_n 0, 1) := dk_42 (dk_at dksL_law_30 1 rfl rfl)
theorem dL_law_825 : decode cL_law 825 = .ok (.iload_n 3, 1) := dk_29 (dk_at dksL_law_30 2 rfl rfl)
theorem dL_law_826 : decode cL_law 826 = .ok (.iconst 2, 1) := dk_5 (dk_at dksL_law_30 3 rfl rfl)
theorem dL_law_827 : decode cL_law 827 = .ok (.iadd, 1) := dk_96 (dk_at dksL_law_30 4 rfl rfl)
theorem dL_law_828 : decode cL_law 828 = .ok (.iaload, 1) := dk_46 (dk_at dksL_law_30 5 rfl rfl)
theorem dL_law_829 : decode cL_law 829 = .ok (.invokevirtual 117, 3) := dk_182 0 117 (dk_at dksL_law_30 6 rfl rfl)
theorem dL_law_832 : decode cL_law 832 = .ok (.if_icmp .eq 358, 3) := dk_159 1 102 (dk_at dksL_law_30 9 rfl rfl)
theorem dL_law_835 : decode cL_law 835 = .ok (.iconst 0, 1) := dk_3 (dk_at dksL_law_30 12 rfl rfl)
theorem dL_law_836 : decode cL_law 836 = .ok (.ireturn, 1) := dk_172 (dk_at dksL_law_30 13 rfl rfl)
theorem dL_law_837 : decode cL_law 837 = .ok (.aload_n 1, 1) := dk_43 (dk_at dksL_law_30 14 rfl rfl)
theorem dL_law_838 : decode cL_law 838 = .ok (.aload_n 0, 1) := dk_42 (dk_at dksL_law_30 15 rfl rfl)
theorem dL_law_839 : decode cL_law 839 = .ok (.iload_n 3, 1) := dk_29 (dk_at dksL_law_30 16 rfl rfl)
theorem dL_law_840 : decode cL_law 840 = .ok (.iconst 1, 1) := dk_4 (dk_at dksL_law_30 17 rfl rfl)
theorem dL_law_841 : decode cL_law 841 = .ok (.iadd, 1) := dk_96 (dk_at dksL_law_30 18 rfl rfl)
theorem dL_law_842 : decode cL_law 842 = .ok (.iaload, 1) := dk_46 (dk_at dksL_law_30 19 rfl rfl)
theorem dL_law_843 : decode cL_law 843 = .ok (.invokevirtual 118, 3) := dk_182 0 118 (dk_at dksL_law_30 20 rfl rfl)
theorem dL_law_846 : decode cL_law 846 = .ok (.aload_n 2, 1) := dk_44 (dk_at dksL_law_30 23 rfl rfl)
theorem dL_law_847 : decode cL_law 847 = .ok (.aload_n 0, 1) := dk_42 (dk_at dksL_law_31 0 rfl rfl)
theorem dL_law_848 : decode cL_law 848 = .ok (.iload_n 3, 1) := dk_29 (dk_at dksL_law_31 1 rfl rfl)
theorem dL_law_849 : decode cL_law 849 = .ok (.iconst 1, 1) := dk_4 (dk_at dksL_law_31 2 rfl rfl)
theorem dL_law_850 : decode cL_law 850 = .ok (.iadd, 1) := dk_96 (dk_at dksL_law_31 3 rfl rfl)
theorem dL_law_851 : decode cL_law 851 = .ok (.iaload, 1) := dk_46 (dk_at dksL_law_31 4 rfl rfl)
theorem dL_law_852 : decode cL_law 852 = .ok (.invokevirtual 121, 3) := dk_182 0 121 (dk_at dksL_law_31 5 rfl rfl)
theorem dL_law_855 : decode cL_law 855 = .ok (.if_icmp .eq 335, 3) := dk_159 1 79 (dk_at dksL_law_31 8 rfl rfl)
theorem dL_law_858 : decode cL_law 858 = .ok (.iconst 0, 1) := dk_3 (dk_at dksL_law_31 11 rfl rfl)
theorem dL_law_859 : decode cL_law 859 = .ok (.ireturn, 1) := dk_172 (dk_at dksL_law_31 12 rfl rfl)
theorem dL_law_860 : decode cL_law 860 = .ok (.aload_n 1, 1) := dk_43 (dk_at dksL_law_31 13 rfl rfl)
theorem dL_law_861 : decode cL_law 861 = .ok (.aload_n 0, 1) := dk_42 (dk_at dksL_law_31 14 rfl rfl)
theorem dL_law_862 : decode cL_law 862 = .ok (.iload_n 3, 1) := dk_29 (dk_at dksL_law_31 15 rfl rfl)
theorem dL_law_863 : decode cL_law 863 = .ok (.iconst 1, 1) := dk_4 (dk_at dksL_law_31 16 rfl rfl)
theorem dL_law_864 : decode cL_law 864 = .ok (.iadd, 1) := dk_96 (dk_at dksL_law_31 17 rfl rfl)
theorem dL_law_865 : decode cL_law 865 = .ok (.iaload, 1) := dk_46 (dk_at dksL_law_31 18 rfl rfl)
theorem dL_law_866 : decode cL_law 866 = .ok (.aload_n 0, 1) := dk_42 (dk_at dksL_law_31 19 rfl rfl)
theorem dL_law_867 : decode cL_law 867 = .ok (.iload_n 3, 1) := dk_29 (dk_at dksL_law_31 20 rfl rfl)
theorem dL_law_868 : decode cL_law 868 = .ok (.iconst 2, 1) := dk_5 (dk_at dksL_law_31 21 rfl rfl)
theorem dL_law_869 : decode cL_law 869 = .ok (.iadd, 1) := dk_96 (dk_at dksL_law_31 22 rfl rfl)
theorem dL_law_870 : decode cL_law 870 = .ok (.iaload, 1) := dk_46 (dk_at dksL_law_31 23 rfl rfl)
theorem dL_law_871 : decode cL_law 871 = .ok (.aload_n 0, 1) := dk_42 (dk_at dksL_law_32 0 rfl rfl)
theorem dL_law_872 : decode cL_law 872 = .ok (.iload_n 3, 1) := dk_29 (dk_at dksL_law_32 1 rfl rfl)
theorem dL_law_873 : decode cL_law 873 = .ok (.iconst 3, 1) := dk_6 (dk_at dksL_law_32 2 rfl rfl)
theorem dL_law_874 : decode cL_law 874 = .ok (.iadd, 1) := dk_96 (dk_at dksL_law_32 3 rfl rfl)
theorem dL_law_875 : decode cL_law 875 = .ok (.iaload, 1) := dk_46 (dk_at dksL_law_32 4 rfl rfl)
theorem dL_law_876 : decode cL_law 876 = .ok (.aload_n 0, 1) := dk_42 (dk_at dksL_law_32 5 rfl rfl)
theorem dL_law_877 : decode cL_law 877 = .ok (.iload_n 3, 1) := dk_29 (dk_at dksL_law_32 6 rfl rfl)
theorem dL_law_878 : decode cL_law 878 = .ok (.iconst 4, 1) := dk_7 (dk_at dksL_law_32 7 rfl rfl)
theorem dL_law_879 : decode cL_law 879 = .ok (.iadd, 1) := dk_96 (dk_at dksL_law_32 8 rfl rfl)
theorem dL_law_880 : decode cL_law 880 = .ok (.iaload, 1) := dk_46 (dk_at dksL_law_32 9 rfl rfl)
theorem dL_law_881 : decode cL_law 881 = .ok (.invokevirtual 122, 3) := dk_182 0 122 (dk_at dksL_law_32 10 rfl rfl)
theorem dL_law_884 : decode cL_law 884 = .ok (.aload_n 2, 1) := dk_44 (dk_at dksL_law_32 13 rfl rfl)
theorem dL_law_885 : decode cL_law 885 = .ok (.aload_n 0, 1) := dk_42 (dk_at dksL_law_32 14 rfl rfl)
theorem dL_law_886 : decode cL_law 886 = .ok (.iload_n 3, 1) := dk_29 (dk_at dksL_law_32 15 rfl rfl)
theorem dL_law_887 : decode cL_law 887 = .ok (.iconst 1, 1) := dk_4 (dk_at dksL_law_32 16 rfl rfl)
theorem dL_law_888 : decode cL_law 888 = .ok (.iadd, 1) := dk_96 (dk_at dksL_law_32 17 rfl rfl)
theorem dL_law_889 : decode cL_law 889 = .ok (.iaload, 1) := dk_46 (dk_at dksL_law_32 18 rfl rfl)
theorem dL_law_890 : decode cL_law 890 = .ok (.aload_n 0, 1) := dk_42 (dk_at dksL_law_32 19 rfl rfl)
theorem dL_law_891 : decode cL_law 891 = .ok (.iload_n 3, 1) := dk_29 (dk_at dksL_law_32 20 rfl rfl)
theorem dL_law_892 : decode cL_law 892 = .ok (.iconst 2, 1) := dk_5 (dk_at dksL_law_32 21 rfl rfl)
theorem dL_law_893 : decode cL_law 893 = .ok (.iadd, 1) := dk_96 (dk_at dksL_law_32 22 rfl rfl)
theorem dL_law_894 : decode cL_law 894 = .ok (.iaload, 1) := dk_46 (dk_at dksL_law_32 23 rfl rfl)
theorem dL_law_895 : decode cL_law 895 = .ok (.aload_n 0, 1) := dk_42 (dk_at dksL_law_33 0 rfl rfl)
theorem dL_law_896 : decode cL_law 896 = .ok (.iload_n 3, 1) := dk_29 (dk_at dksL_law_33 1 rfl rfl)
theorem dL_law_897 : decode cL_law 897 = .ok (.iconst 3, 1) := dk_6 (dk_at dksL_law_33 2 rfl rfl)
theorem dL_law_898 : decode cL_law 898 = .ok (.iadd, 1) := dk_96 (dk_at dksL_law_33 3 rfl rfl)
theorem dL_law_899 : decode cL_law 899 = .ok (.iaload, 1) := dk_46 (dk_at dksL_law_33 4 rfl rfl)
theorem dL_law_900 : decode cL_law 900 = .ok (.aload_n 0, 1) := dk_42 (dk_at dksL_law_33 5 rfl rfl)
theorem dL_law_901 : decode cL_law 901 = .ok (.iload_n 3, 1) := dk_29 (dk_at dksL_law_33 6 rfl rfl)
theorem dL_law_902 : decode cL_law 902 = .ok (.iconst 4, 1) := dk_7 (dk_at dksL_law_33 7 rfl rfl)
theorem dL_law_903 : decode cL_law 903 = .ok (.iadd, 1) := dk_96 (dk_at dksL_law_33 8 rfl rfl)
theorem dL_law_904 : decode cL_law 904 = .ok (.iaload, 1) := dk_46 (dk_at dksL_law_33 9 rfl rfl)
theorem dL_law_905 : decode cL_law 905 = .ok (.invokevirtual 126, 3) := dk_182 0 126 (dk_at dksL_law_33 10 rfl rfl)
theorem dL_law_908 : decode cL_law 908 = .ok (.if_icmp .eq 282, 3) := dk_159 1 26 (dk_at dksL_law_33 13 rfl rfl)
theorem dL_law_911 : decode cL_law 911 = .ok (.iconst 0, 1) := dk_3 (dk_at dksL_law_33 16 rfl rfl)
theorem dL_law_912 : decode cL_law 912 = .ok (.ireturn, 1) := dk_172 (dk_at dksL_law_33 17 rfl rfl)
theorem dL_law_913 : decode cL_law 913 = .ok (.aload_n 1, 1) := dk_43 (dk_at dksL_law_33 18 rfl rfl)
theorem dL_law_914 : decode cL_law 914 = .ok (.aload_n 0, 1) := dk_42 (dk_at dksL_law_33 19 rfl rfl)
theorem dL_law_915 : decode cL_law 915 = .ok (.iload_n 3, 1) := dk_29 (dk_at dksL_law_33 20 rfl rfl)
theorem dL_law_916 : decode cL_law 916 = .ok (.iconst 1, 1) := dk_4 (dk_at dksL_law_33 21 rfl rfl)
theorem dL_law_917 : decode cL_law 917 = .ok (.iadd, 1) := dk_96 (dk_at dksL_law_33 22 rfl rfl)
theorem dL_law_918 : decode cL_law 918 = .ok (.iaload, 1) := dk_46 (dk_at dksL_law_33 23 rfl rfl)
theorem dL_law_919 : decode cL_law 919 = .ok (.aload_n 0, 1) := dk_42 (dk_at dksL_law_34 0 rfl rfl)
theorem dL_law_920 : decode cL_law 920 = .ok (.iload_n 3, 1) := dk_29 (dk_at dksL_law_34 1 rfl rfl)
theorem dL_law_921 : decode cL_law 921 = .ok (.iconst 2, 1) := dk_5 (dk_at dksL_law_34 2 rfl rfl)
theorem dL_law_922 : decode cL_law 922 = .ok (.iadd, 1) := dk_96 (dk_at dksL_law_34 3 rfl rfl)
theorem dL_law_923 : decode cL_law 923 = .ok (.iaload, 1) := dk_46 (dk_at dksL_law_34 4 rfl rfl)
theorem dL_law_924 : decode cL_law 924 = .ok (.invokevirtual 127, 3) := dk_182 0 127 (dk_at dksL_law_34 5 rfl rfl)
theorem dL_law_927 : decode cL_law 927 = .ok (.aload_n 2, 1) := dk_44 (dk_at dksL_law_34 8 rfl rfl)
theorem dL_law_928 : decode cL_law 928 = .ok (.aload_n 0, 1) := dk_42 (dk_at dksL_law_34 9 rfl rfl)
theorem dL_law_929 : decode cL_law 929 = .ok (.iload_n 3, 1) := dk_29 (dk_at dksL_law_34 10 rfl rfl)
theorem dL_law_930 : decode cL_law 930 = .ok (.iconst 1, 1) := dk_4 (dk_at dksL_law_34 11 rfl rfl)
theorem dL_law_931 : decode cL_law 931 = .ok (.iadd, 1) := dk_96 (dk_at dksL_law_34 12 rfl rfl)
theorem dL_law_932 : decode cL_law 932 = .ok (.iaload, 1) := dk_46 (dk_at dksL_law_34 13 rfl rfl)
theorem dL_law_933 : decode cL_law 933 = .ok (.aload_n 0, 1) := dk_42 (dk_at dksL_law_34 14 rfl rfl)
theorem dL_law_934 : decode cL_law 934 = .ok (.iload_n 3, 1) := dk_29 (dk_at dksL_law_34 15 rfl rfl)
theorem dL_law_935 : decode cL_law 935 = .ok (.iconst 2, 1) := dk_5 (dk_at dksL_law_34 16 rfl rfl)
theorem dL_law_936 : decode cL_law 936 = .ok (.iadd, 1) := dk_96 (dk_at dksL_law_34 17 rfl rfl)
theorem dL_law_937 : decode cL_law 937 = .ok (.iaload, 1) := dk_46 (dk_at dksL_law_34 18 rfl rfl)
theorem dL_law_938 : decode cL_law 938 = .ok (.invokevirtual 130, 3) := dk_182 0 130 (dk_at dksL_law_34 19 rfl rfl)
theorem dL_law_941 : decode cL_law 941 = .ok (.if_icmp .eq 249, 3) := dk_159 0 249 (dk_at dksL_law_35 0 rfl rfl)
theorem dL_law_944 : decode cL_law 944 = .ok (.iconst 0, 1) := dk_3 (dk_at dksL_law_35 3 rfl rfl)
theorem dL_law_945 : decode cL_law 945 = .ok (.ireturn, 1) := dk_172 (dk_at dksL_law_35 4 rfl rfl)
theorem dL_law_946 : decode cL_law 946 = .ok (.aload_n 1, 1) := dk_43 (dk_at dksL_law_35 5 rfl rfl)
theorem dL_law_947 : decode cL_law 947 = .ok (.aload_n 0, 1) := dk_42 (dk_at dksL_law_35 6 rfl rfl)
theorem dL_law_948 : decode cL_law 948 = .ok (.iload_n 3, 1) := dk_29 (dk_at dksL_law_35 7 rfl rfl)
theorem dL_law_949 : decode cL_law 949 = .ok (.iconst 1, 1) := dk_4 (dk_at dksL_law_35 8 rfl rfl)
theorem dL_law_950 : decode cL_law 950 = .ok (.iadd, 1) := dk_96 (dk_at dksL_law_35 9 rfl rfl)
theorem dL_law_951 : decode cL_law 951 = .ok (.iaload, 1) := dk_46 (dk_at dksL_law_35 10 rfl rfl)
theorem dL_law_952 : decode cL_law 952 = .ok (.aload_n 0, 1) := dk_42 (dk_at dksL_law_35 11 rfl rfl)
theorem dL_law_953 : decode cL_law 953 = .ok (.iload_n 3, 1) := dk_29 (dk_at dksL_law_35 12 rfl rfl)
theorem dL_law_954 : decode cL_law 954 = .ok (.iconst 2, 1) := dk_5 (dk_at dksL_law_35 13 rfl rfl)
theorem dL_law_955 : decode cL_law 955 = .ok (.iadd, 1) := dk_96 (dk_at dksL_law_35 14 rfl rfl)
theorem dL_law_956 : decode cL_law 956 = .ok (.iaload, 1) := dk_46 (dk_at dksL_law_35 15 rfl rfl)
theorem dL_law_957 : decode cL_law 957 = .ok (.aload_n 0, 1) := dk_42 (dk_at dksL_law_35 16 rfl rfl)
theorem dL_law_958 : decode cL_law 958 = .ok (.iload_n 3, 1) := dk_29 (dk_at dksL_law_35 17 rfl rfl)
theorem dL_law_959 : decode cL_law 959 = .ok (.iconst 3, 1) := dk_6 (dk_at dksL_law_35 18 rfl rfl)
theorem dL_law_960 : decode cL_law 960 = .ok (.iadd, 1) := dk_96 (dk_at dksL_law_35 19 rfl rfl)
theorem dL_law_961 : decode cL_law 961 = .ok (.iaload, 1) := dk_46 (dk_at dksL_law_35 20 rfl rfl)
theorem dL_law_962 : decode cL_law 962 = .ok (.invokevirtual 131, 3) := dk_182 0 131 (dk_at dksL_law_35 21 rfl rfl)
theorem dL_law_965 : decode cL_law 965 = .ok (.aload_n 2, 1) := dk_44 (dk_at dksL_law_36 0 rfl rfl)
theorem dL_law_966 : decode cL_law 966 = .ok (.aload_n 0, 1) := dk_42 (dk_at dksL_law_36 1 rfl rfl)
theorem dL_law_967 : decode cL_law 967 = .ok (.iload_n 3, 1) := dk_29 (dk_at dksL_law_36 2 rfl rfl)
theorem dL_law_968 : decode cL_law 968 = .ok (.iconst 1, 1) := dk_4 (dk_at dksL_law_36 3 rfl rfl)
theorem dL_law_969 : decode cL_law 969 = .ok (.iadd, 1) := dk_96 (dk_at dksL_law_36 4 rfl rfl)
theorem dL_law_970 : decode cL_law 970 = .ok (.iaload, 1) := dk_46 (dk_at dksL_law_36 5 rfl rfl)
theorem dL_law_971 : decode cL_law 971 = .ok (.aload_n 0, 1) := dk_42 (dk_at dksL_law_36 6 rfl rfl)
theorem dL_law_972 : decode cL_law 972 = .ok (.iload_n 3, 1) := dk_29 (dk_at dksL_law_36 7 rfl rfl)
theorem dL_law_973 : decode cL_law 973 = .ok (.iconst 2, 1) := dk_5 (dk_at dksL_law_36 8 rfl rfl)
theorem dL_law_974 : decode cL_law 974 = .ok (.iadd, 1) := dk_96 (dk_at dksL_law_36 9 rfl rfl)
theorem dL_law_975 : decode cL_law 975 = .ok (.iaload, 1) := dk_46 (dk_at dksL_law_36 10 rfl rfl)
theorem dL_law_976 : decode cL_law 976 = .ok (.aload_n 0, 1) := dk_42 (dk_at dksL_law_36 11 rfl rfl)
theorem dL_law_977 : decode cL_law 977 = .ok (.iload_n 3, 1) := dk_29 (dk_at dksL_law_36 12 rfl rfl)
theorem dL_law_978 : decode cL_law 978 = .ok (.iconst 3, 1) := dk_6 (dk_at dksL_law_36 13 rfl rfl)
theorem dL_law_979 : decode cL_law 979 = .ok (.iadd, 1) := dk_96 (dk_at dksL_law_36 14 rfl rfl)
theorem dL_law_980 : decode cL_law 980 = .ok (.iaload, 1) := dk_46 (dk_at dksL_law_36 15 rfl rfl)
theorem dL_law_981 : decode cL_law 981 = .ok (.invokevirtual 134, 3) := dk_182 0 134 (dk_at dksL_law_36 16 rfl rfl)
theorem dL_law_984 : decode cL_law 984 = .ok (.if_icmp .eq 206, 3) := dk_159 0 206 (dk_at dksL_law_36 19 rfl rfl)
theorem dL_law_987 : decode cL_law 987 = .ok (.iconst 0, 1) := dk_3 (dk_at dksL_law_36 22 rfl rfl)
theorem dL_law_988 : decode cL_law 988 = .ok (.ireturn, 1) := dk_172 (dk_at dksL_law_36 23 rfl rfl)
theorem dL_law_989 : decode cL_law 989 = .ok (.aload_n 1, 1) := dk_43 (dk_at dksL_law_37 0 rfl rfl)
theorem dL_law_990 : decode cL_law 990 = .ok (.aload_n 0, 1) := dk_42 (dk_at dksL_law_37 1 rfl rfl)
theorem dL_law_991 : decode cL_law 991 = .ok (.iload_n 3, 1) := dk_29 (dk_at dksL_law_37 2 rfl rfl)
theorem dL_law_992 : decode cL_law 992 = .ok (.iconst 1, 1) := dk_4 (dk_at dksL_law_37 3 rfl rfl)
theorem dL_law_993 : decode cL_law 993 = .ok (.iadd, 1) := dk_96 (dk_at dksL_law_37 4 rfl rfl)
theorem dL_law_994 : decode cL_law 994 = .ok (.iaload, 1) := dk_46 (dk_at dksL_law_37 5 rfl rfl)
theorem dL_law_995 : decode cL_law 995 = .ok (.invokevirtual 135, 3) := dk_182 0 135 (dk_at dksL_law_37 6 rfl rfl)
theorem dL_law_998 : decode cL_law 998 = .ok (.aload_n 2, 1) := dk_44 (dk_at dksL_law_37 9 rfl rfl)
theorem dL_law_999 : decode cL_law 999 = .ok (.aload_n 0, 1) := dk_42 (dk_at dksL_law_37 10 rfl rfl)
theorem dL_law_1000 : decode cL_law 1000 = .ok (.iload_n 3, 1) := dk_29 (dk_at dksL_law_37 11 rfl rfl)
theorem dL_law_1001 : decode cL_law 1001 = .ok (.iconst 1, 1) := dk_4 (dk_at dksL_law_37 12 rfl rfl)
theorem dL_law_1002 : decode cL_law 1002 = .ok (.iadd, 1) := dk_96 (dk_at dksL_law_37 13 rfl rfl)
theorem dL_law_1003 : decode cL_law 1003 = .ok (.iaload, 1) := dk_46 (dk_at dksL_law_37 14 rfl rfl)
theorem dL_law_1004 : decode cL_law 1004 = .ok (.invokevirtual 138, 3) := dk_182 0 138 (dk_at dksL_law_37 15 rfl rfl)
theorem dL_law_1007 : decode cL_law 1007 = .ok (.if_icmp .eq 183, 3) := dk_159 0 183 (dk_at dksL_law_37 18 rfl rfl)
theorem dL_law_1010 : decode cL_law 1010 = .ok (.iconst 0, 1) := dk_3 (dk_at dksL_law_37 21 rfl rfl)
theorem dL_law_1011 : decode cL_law 1011 = .ok (.ireturn, 1) := dk_172 (dk_at dksL_law_37 22 rfl rfl)
theorem dL_law_1012 : decode cL_law 1012 = .ok (.aload_n 1, 1) := dk_43 (dk_at dksL_law_37 23 rfl rfl)
theorem dL_law_1013 : decode cL_law 1013 = .ok (.aload_n 0, 1) := dk_42 (dk_at dksL_law_38 0 rfl rfl)
theorem dL_law_1014 : decode cL_law 1014 = .ok (.iload_n 3, 1) := dk_29 (dk_at dksL_law_38 1 rfl rfl)
theorem dL_law_1015 : decode cL_law 1015 = .ok (.iconst 1, 1) := dk_4 (dk_at dksL_law_38 2 rfl rfl)
theorem dL_law_1016 : decode cL_law 1016 = .ok (.iadd, 1) := dk_96 (dk_at dksL_law_38 3 rfl rfl)
theorem dL_law_1017 : decode cL_law 1017 = .ok (.iaload, 1) := dk_46 (dk_at dksL_law_38 4 rfl rfl)
theorem dL_law_1018 : decode cL_law 1018 = .ok (.aload_n 0, 1) := dk_42 (dk_at dksL_law_38 5 rfl rfl)
theorem dL_law_1019 : decode cL_law 1019 = .ok (.iload_n 3, 1) := dk_29 (dk_at dksL_law_38 6 rfl rfl)
theorem dL_law_1020 : decode cL_law 1020 = .ok (.iconst 2, 1) := dk_5 (dk_at dksL_law_38 7 rfl rfl)
theorem dL_law_1021 : decode cL_law 1021 = .ok (.iadd, 1) := dk_96 (dk_at dksL_law_38 8 rfl rfl)
theorem dL_law_1022 : decode cL_law 1022 = .ok (.iaload, 1) := dk_46 (dk_at dksL_law_38 9 rfl rfl)
theorem dL_law_1023 : decode cL_law 1023 = .ok (.invokevirtual 139, 3) := dk_182 0 139 (dk_at dksL_law_38 10 rfl rfl)
theorem dL_law_1026 : decode cL_law 1026 = .ok (.aload_n 2, 1) := dk_44 (dk_at dksL_law_38 13 rfl rfl)
theorem dL_law_1027 : decode cL_law 1027 = .ok (.aload_n 0, 1) := dk_42 (dk_at dksL_law_38 14 rfl rfl)
theorem dL_law_1028 : decode cL_law 1028 = .ok (.iload_n 3, 1) := dk_29 (dk_at dksL_law_38 15 rfl rfl)
theorem dL_law_1029 : decode cL_law 1029 = .ok (.iconst 1, 1) := dk_4 (dk_at dksL_law_38 16 rfl rfl)
theorem dL_law_1030 : decode cL_law 1030 = .ok (.iadd, 1) := dk_96 (dk_at dksL_law_38 17 rfl rfl)
theorem dL_law_1031 : decode cL_law 1031 = .ok (.iaload, 1) := dk_46 (dk_at dksL_law_38 18 rfl rfl)
theorem dL_law_1032 : decode cL_law 1032 = .ok (.aload_n 0, 1) := dk_42 (dk_at dksL_law_38 19 rfl rfl)
theorem dL_law_1033 : decode cL_law 1033 = .ok (.iload_n 3, 1) := dk_29 (dk_at dksL_law_38 20 rfl rfl)
theorem dL_law_1034 : decode cL_law 1034 = .ok (.iconst 2, 1) := dk_5 (dk_at dksL_law_38 21 rfl rfl)
theorem dL_law_1035 : decode cL_law 1035 = .ok (.iadd, 1) := dk_96 (dk_at dksL_law_38 22 rfl rfl)
theorem dL_law_1036 : decode cL_law 1036 = .ok (.iaload, 1) := dk_46 (dk_at dksL_law_38 23 rfl rfl)
theorem dL_law_1037 : decode cL_law 1037 = .ok (.invokevirtual 142, 3) := dk_182 0 142 (dk_at dksL_law_39 0 rfl rfl)
theorem dL_law_1040 : decode cL_law 1040 = .ok (.if_icmp .eq 150, 3) := dk_159 0 150 (dk_at dksL_law_39 3 rfl rfl)
theorem dL_law_1043 : decode cL_law 1043 = .ok (.iconst 0, 1) := dk_3 (dk_at dksL_law_39 6 rfl rfl)
theorem dL_law_1044 : decode cL_law 1044 = .ok (.ireturn, 1) := dk_172 (dk_at dksL_law_39 7 rfl rfl)
theorem dL_law_1045 : decode cL_law 1045 = .ok (.aload_n 1, 1) := dk_43 (dk_at dksL_law_39 8 rfl rfl)
theorem dL_law_1046 : decode cL_law 1046 = .ok (.aload_n 0, 1) := dk_42 (dk_at dksL_law_39 9 rfl rfl)
theorem dL_law_1047 : decode cL_law 1047 = .ok (.iload_n 3, 1) := dk_29 (dk_at dksL_law_39 10 rfl rfl)
theorem dL_law_1048 : decode cL_law 1048 = .ok (.iconst 1, 1) := dk_4 (dk_at dksL_law_39 11 rfl rfl)
theorem dL_law_1049 : decode cL_law 1049 = .ok (.iadd, 1) := dk_96 (dk_at dksL_law_39 12 rfl rfl)
theorem dL_law_1050 : decode cL_law 1050 = .ok (.iaload, 1) := dk_46 (dk_at dksL_law_39 13 rfl rfl)
theorem dL_law_1051 : decode cL_law 1051 = .ok (.invokevirtual 143, 3) := dk_182 0 143 (dk_at dksL_law_39 14 rfl rfl)
theorem dL_law_1054 : decode cL_law 1054 = .ok (.aload_n 2, 1) := dk_44 (dk_at dksL_law_39 17 rfl rfl)
theorem dL_law_1055 : decode cL_law 1055 = .ok (.aload_n 0, 1) := dk_42 (dk_at dksL_law_39 18 rfl rfl)
theorem dL_law_1056 : decode cL_law 1056 = .ok (.iload_n 3, 1) := dk_29 (dk_at dksL_law_39 19 rfl rfl)
theorem dL_law_1057 : decode cL_law 1057 = .ok (.iconst 1, 1) := dk_4 (dk_at dksL_law_39 20 rfl rfl)
theorem dL_law_1058 : decode cL_law 1058 = .ok (.iadd, 1) := dk_96 (dk_at dksL_law_39 21 rfl rfl)
theorem dL_law_1059 : decode cL_law 1059 = .ok (.iaload, 1) := dk_46 (dk_at dksL_law_39 22 rfl rfl)
theorem dL_law_1060 : decode cL_law 1060 = .ok (.invokevirtual 146, 3) := dk_182 0 146 (dk_at dksL_law_40 0 rfl rfl)
theorem dL_law_1063 : decode cL_law 1063 = .ok (.if_icmp .eq 127, 3) := dk_159 0 127 (dk_at dksL_law_40 3 rfl rfl)
theorem dL_law_1066 : decode cL_law 1066 = .ok (.iconst 0, 1) := dk_3 (dk_at dksL_law_40 6 rfl rfl)
theorem dL_law_1067 : decode cL_law 1067 = .ok (.ireturn, 1) := dk_172 (dk_at dksL_law_40 7 rfl rfl)
theorem dL_law_1068 : decode cL_law 1068 = .ok (.aload_n 1, 1) := dk_43 (dk_at dksL_law_40 8 rfl rfl)
theorem dL_law_1069 : decode cL_law 1069 = .ok (.aload_n 0, 1) := dk_42 (dk_at dksL_law_40 9 rfl rfl)
theorem dL_law_1070 : decode cL_law 1070 = .ok (.iload_n 3, 1) := dk_29 (dk_at dksL_law_40 10 rfl rfl)
theorem dL_law_1071 : decode cL_law 1071 = .ok (.iconst 1, 1) := dk_4 (dk_at dksL_law_40 11 rfl rfl)
theorem dL_law_1072 : decode cL_law 1072 = .ok (.iadd, 1) := dk_96 (dk_at dksL_law_40 12 rfl rfl)
theorem dL_law_1073 : decode cL_law 1073 = .ok (.iaload, 1) := dk_46 (dk_at dksL_law_40 13 rfl rfl)
theorem dL_law_1074 : decode cL_law 1074 = .ok (.aload_n 0, 1) := dk_42 (dk_at dksL_law_40 14 rfl rfl)
theorem dL_law_1075 : decode cL_law 1075 = .ok (.iload_n 3, 1) := dk_29 (dk_at dksL_law_40 15 rfl rfl)
theorem dL_law_1076 : decode cL_law 1076 = .ok (.iconst 2, 1) := dk_5 (dk_at dksL_law_40 16 rfl rfl)
theorem dL_law_1077 : decode cL_law 1077 = .ok (.iadd, 1) := dk_96 (dk_at dksL_law_40 17 rfl rfl)
theorem dL_law_1078 : decode cL_law 1078 = .ok (.iaload, 1) := dk_46 (dk_at dksL_law_40 18 rfl rfl)
theorem dL_law_1079 : decode cL_law 1079 = .ok (.aload_n 0, 1) := dk_42 (dk_at dksL_law_40 19 rfl rfl)
theorem dL_law_1080 : decode cL_law 1080 = .ok (.iload_n 3, 1) := dk_29 (dk_at dksL_law_40 20 rfl rfl)
theorem dL_law_1081 : decode cL_law 1081 = .ok (.iconst 3, 1) := dk_6 (dk_at dksL_law_40 21 rfl rfl)
theorem dL_law_1082 : decode cL_law 1082 = .ok (.iadd, 1) := dk_96 (dk_at dksL_law_40 22 rfl rfl)
theorem dL_law_1083 : decode cL_law 1083 = .ok (.iaload, 1) := dk_46 (dk_at dksL_law_40 23 rfl rfl)
theorem dL_law_1084 : decode cL_law 1084 = .ok (.aload_n 0, 1) := dk_42 (dk_at dksL_law_41 0 rfl rfl)
theorem dL_law_1085 : decode cL_law 1085 = .ok (.iload_n 3, 1) := dk_29 (dk_at dksL_law_41 1 rfl rfl)
theorem dL_law_1086 : decode cL_law 1086 = .ok (.iconst 4, 1) := dk_7 (dk_at dksL_law_41 2 rfl rfl)
theorem dL_law_1087 : decode cL_law 1087 = .ok (.iadd, 1) := dk_96 (dk_at dksL_law_41 3 rfl rfl)
theorem dL_law_1088 : decode cL_law 1088 = .ok (.iaload, 1) := dk_46 (dk_at dksL_law_41 4 rfl rfl)
theorem dL_law_1089 : decode cL_law 1089 = .ok (.invokevirtual 147, 3) := dk_182 0 147 (dk_at dksL_law_41 5 rfl rfl)
theorem dL_law_1092 : decode cL_law 1092 = .ok (.aload_n 2, 1) := dk_44 (dk_at dksL_law_41 8 rfl rfl)
theorem dL_law_1093 : decode cL_law 1093 = .ok (.aload_n 0, 1) := dk_42 (dk_at dksL_law_41 9 rfl rfl)
theorem dL_law_1094 : decode cL_law 1094 = .ok (.iload_n 3, 1) := dk_29 (dk_at dksL_law_41 10 rfl rfl)
theorem dL_law_1095 : decode cL_law 1095 = .ok (.iconst 1, 1) := dk_4 (dk_at dksL_law_41 11 rfl rfl)
theorem dL_law_1096 : decode cL_law 1096 = .ok (.iadd, 1) := dk_96 (dk_at dksL_law_41 12 rfl rfl)
theorem dL_law_1097 : decode cL_law 1097 = .ok (.iaload, 1) := dk_46 (dk_at dksL_law_41 13 rfl rfl)
theorem dL_law_1098 : decode cL_law 1098 = .ok (.aload_n 0, 1) := dk_42 (dk_at dksL_law_41 14 rfl rfl)
theorem dL_law_1099 : decode cL_law 1099 = .ok (.iload_n 3, 1) := dk_29 (dk_at dksL_law_41 15 rfl rfl)
theorem dL_law_1100 : decode cL_law 1100 = .ok (.iconst 2, 1) := dk_5 (dk_at dksL_law_41 16 rfl rfl)
theorem dL_law_1101 : decode cL_law 1101 = .ok (.iadd, 1) := dk_96 (dk_at dksL_law_41 17 rfl rfl)
theorem dL_law_1102 : decode cL_law 1102 = .ok (.iaload, 1) := dk_46 (dk_at dksL_law_41 18 rfl rfl)
theorem dL_law_1103 : decode cL_law 1103 = .ok (.aload_n 0, 1) := dk_42 (dk_at dksL_law_41 19 rfl rfl)
theorem dL_law_1104 : decode cL_law 1104 = .ok (.iload_n 3, 1) := dk_29 (dk_at dksL_law_41 20 rfl rfl)
theorem dL_law_1105 : decode cL_law 1105 = .ok (.iconst 3, 1) := dk_6 (dk_at dksL_law_41 21 rfl rfl)
theorem dL_law_1106 : decode cL_law 1106 = .ok (.iadd, 1) := dk_96 (dk_at dksL_law_41 22 rfl rfl)
theorem dL_law_1107 : decode cL_law 1107 = .ok (.iaload, 1) := dk_46 (dk_at dksL_law_41 23 rfl rfl)
theorem dL_law_1108 : decode cL_law 1108 = .ok (.aload_n 0, 1) := dk_42 (dk_at dksL_law_42 0 rfl rfl)
theorem dL_law_1109 : decode cL_law 1109 = .ok (.iload_n 3, 1) := dk_29 (dk_at dksL_law_42 1 rfl rfl)
theorem dL_law_1110 : decode cL_law 1110 = .ok (.iconst 4, 1) := dk_7 (dk_at dksL_law_42 2 rfl rfl)
theorem dL_law_1111 : decode cL_law 1111 = .ok (.iadd, 1) := dk_96 (dk_at dksL_law_42 3 rfl rfl)
theorem dL_law_1112 : decode cL_law 1112 = .ok (.iaload, 1) := dk_46 (dk_at dksL_law_42 4 rfl rfl)
theorem dL_law_1113 : decode cL_law 1113 = .ok (.invokevirtual 150, 3) := dk_182 0 150 (dk_at dksL_law_42 5 rfl rfl)
theorem dL_law_1116 : decode cL_law 1116 = .ok (.if_icmp .eq 74, 3) := dk_159 0 74 (dk_at dksL_law_42 8 rfl rfl)
theorem dL_law_1119 : decode cL_law 1119 = .ok (.iconst 0, 1) := dk_3 (dk_at dksL_law_42 11 rfl rfl)
theorem dL_law_1120 : decode cL_law 1120 = .ok (.ireturn, 1) := dk_172 (dk_at dksL_law_42 12 rfl rfl)
theorem dL_law_1121 : decode cL_law 1121 = .ok (.aload_n 1, 1) := dk_43 (dk_at dksL_law_42 13 rfl rfl)
theorem dL_law_1122 : decode cL_law 1122 = .ok (.aload_n 0, 1) := dk_42 (dk_at dksL_law_42 14 rfl rfl)
theorem dL_law_1123 : decode cL_law 1123 = .ok (.iload_n 3, 1) := dk_29 (dk_at dksL_law_42 15 rfl rfl)
theorem dL_law_1124 : decode cL_law 1124 = .ok (.iconst 1, 1) := dk_4 (dk_at dksL_law_42 16 rfl rfl)
theorem dL_law_1125 : decode cL_law 1125 = .ok (.iadd, 1) := dk_96 (dk_at dksL_law_42 17 rfl rfl)
theorem dL_law_1126 : decode cL_law 1126 = .ok (.iaload, 1) := dk_46 (dk_at dksL_law_42 18 rfl rfl)
theorem dL_law_1127 : decode cL_law 1127 = .ok (.invokevirtual 151, 3) := dk_182 0 151 (dk_at dksL_law_42 19 rfl rfl)
theorem dL_law_1130 : decode cL_law 1130 = .ok (.aload_n 2, 1) := dk_44 (dk_at dksL_law_42 22 rfl rfl)
theorem dL_law_1131 : decode cL_law 1131 = .ok (.aload_n 0, 1) := dk_42 (dk_at dksL_law_42 23 rfl rfl)
theorem dL_law_1132 : decode cL_law 1132 = .ok (.iload_n 3, 1) := dk_29 (dk_at dksL_law_43 0 rfl rfl)
theorem dL_law_1133 : decode cL_law 1133 = .ok (.iconst 1, 1) := dk_4 (dk_at dksL_law_43 1 rfl rfl)
theorem dL_law_1134 : decode cL_law 1134 = .ok (.iadd, 1) := dk_96 (dk_at dksL_law_43 2 rfl rfl)
theorem dL_law_1135 : decode cL_law 1135 = .ok (.iaload, 1) := dk_46 (dk_at dksL_law_43 3 rfl rfl)
theorem dL_law_1136 : decode cL_law 1136 = .ok (.invokevirtual 154, 3) := dk_182 0 154 (dk_at dksL_law_43 4 rfl rfl)
theorem dL_law_1139 : decode cL_law 1139 = .ok (.if_icmp .eq 51, 3) := dk_159 0 51 (dk_at dksL_law_43 7 rfl rfl)
theorem dL_law_1142 : decode cL_law 1142 = .ok (.iconst 0, 1) := dk_3 (dk_at dksL_law_43 10 rfl rfl)
theorem dL_law_1143 : decode cL_law 1143 = .ok (.ireturn, 1) := dk_172 (dk_at dksL_law_43 11 rfl rfl)
theorem dL_law_1144 : decode cL_law 1144 = .ok (.aload_n 1, 1) := dk_43 (dk_at dksL_law_43 12 rfl rfl)
theorem dL_law_1145 : decode cL_law 1145 = .ok (.aload_n 0, 1) := dk_42 (dk_at dksL_law_43 13 rfl rfl)
theorem dL_law_1146 : decode cL_law 1146 = .ok (.iload_n 3, 1) := dk_29 (dk_at dksL_law_43 14 rfl rfl)
theorem dL_law_1147 : decode cL_law 1147 = .ok (.iconst 1, 1) := dk_4 (dk_at dksL_law_43 15 rfl rfl)
theorem dL_law_1148 : decode cL_law 1148 = .ok (.iadd, 1) := dk_96 (dk_at dksL_law_43 16 rfl rfl)
theorem dL_law_1149 : decode cL_law 1149 = .ok (.iaload, 1) := dk_46 (dk_at dksL_law_43 17 rfl rfl)
theorem dL_law_1150 : decode cL_law 1150 = .ok (.invokevirtual 155, 3) := dk_182 0 155 (dk_at dksL_law_43 18 rfl rfl)
theorem dL_law_1153 : decode cL_law 1153 = .ok (.aload_n 2, 1) := dk_44 (dk_at dksL_law_43 21 rfl rfl)
theorem dL_law_1154 : decode cL_law 1154 = .ok (.aload_n 0, 1) := dk_42 (dk_at dksL_law_43 22 rfl rfl)
theorem dL_law_1155 : decode cL_law 1155 = .ok (.iload_n 3, 1) := dk_29 (dk_at dksL_law_43 23 rfl rfl)
theorem dL_law_1156 : decode cL_law 1156 = .ok (.iconst 1, 1) := dk_4 (dk_at dksL_law_44 0 rfl rfl)
theorem dL_law_1157 : decode cL_law 1157 = .ok (.iadd, 1) := dk_96 (dk_at dksL_law_44 1 rfl rfl)
theorem dL_law_1158 : decode cL_law 1158 = .ok (.iaload, 1) := dk_46 (dk_at dksL_law_44 2 rfl rfl)
theorem dL_law_1159 : decode cL_law 1159 = .ok (.invokevirtual 158, 3) := dk_182 0 158 (dk_at dksL_law_44 3 rfl rfl)
theorem dL_law_1162 : decode cL_law 1162 = .ok (.if_icmp .eq 28, 3) := dk_159 0 28 (dk_at dksL_law_44 6 rfl rfl)
theorem dL_law_1165 : decode cL_law 1165 = .ok (.iconst 0, 1) := dk_3 (dk_at dksL_law_44 9 rfl rfl)
theorem dL_law_1166 : decode cL_law 1166 = .ok (.ireturn, 1) := dk_172 (dk_at dksL_law_44 10 rfl rfl)
theorem dL_law_1167 : decode cL_law 1167 = .ok (.aload_n 1, 1) := dk_43 (dk_at dksL_law_44 11 rfl rfl)
theorem dL_law_1168 : decode cL_law 1168 = .ok (.aload_n 0, 1) := dk_42 (dk_at dksL_law_44 12 rfl rfl)
theorem dL_law_1169 : decode cL_law 1169 = .ok (.iload_n 3, 1) := dk_29 (dk_at dksL_law_44 13 rfl rfl)
theorem dL_law_1170 : decode cL_law 1170 = .ok (.iconst 1, 1) := dk_4 (dk_at dksL_law_44 14 rfl rfl)
theorem dL_law_1171 : decode cL_law 1171 = .ok (.iadd, 1) := dk_96 (dk_at dksL_law_44 15 rfl rfl)
theorem dL_law_1172 : decode cL_law 1172 = .ok (.iaload, 1) := dk_46 (dk_at dksL_law_44 16 rfl rfl)
theorem dL_law_1173 : decode cL_law 1173 = .ok (.invokevirtual 159, 3) := dk_182 0 159 (dk_at dksL_law_44 17 rfl rfl)
theorem dL_law_1176 : decode cL_law 1176 = .ok (.aload_n 2, 1) := dk_44 (dk_at dksL_law_44 20 rfl rfl)
theorem dL_law_1177 : decode cL_law 1177 = .ok (.aload_n 0, 1) := dk_42 (dk_at dksL_law_44 21 rfl rfl)
theorem dL_law_1178 : decode cL_law 1178 = .ok (.iload_n 3, 1) := dk_29 (dk_at dksL_law_44 22 rfl rfl)
theorem dL_law_1179 : decode cL_law 1179 = .ok (.iconst 1, 1) := dk_4 (dk_at dksL_law_44 23 rfl rfl)
theorem dL_law_1180 : decode cL_law 1180 = .ok (.iadd, 1) := dk_96 (dk_at dksL_law_45 0 rfl rfl)
theorem dL_law_1181 : decode cL_law 1181 = .ok (.iaload, 1) := dk_46 (dk_at dksL_law_45 1 rfl rfl)
theorem dL_law_1182 : decode cL_law 1182 = .ok (.invokevirtual 162, 3) := dk_182 0 162 (dk_at dksL_law_45 2 rfl rfl)
theorem dL_law_1185 : decode cL_law 1185 = .ok (.if_icmp .eq 5, 3) := dk_159 0 5 (dk_at dksL_law_45 5 rfl rfl)
theorem dL_law_1188 : decode cL_law 1188 = .ok (.iconst 0, 1) := dk_3 (dk_at dksL_law_45 8 rfl rfl)
theorem dL_law_1189 : decode cL_law 1189 = .ok (.ireturn, 1) := dk_172 (dk_at dksL_law_45 9 rfl rfl)
theorem dL_law_1190 : decode cL_law 1190 = .ok (.iinc 3 6, 3) := dk_132 3 6 (dk_at dksL_law_45 10 rfl rfl)
theorem dL_law_1193 : decode cL_law 1193 = .ok (.goto (-1175), 3) := dk_167 251 105 (dk_at dksL_law_45 13 rfl rfl)
theorem dL_law_1196 : decode cL_law 1196 = .ok (.iconst 1, 1) := dk_4 (dk_at dksL_law_45 16 rfl rfl)
theorem dL_law_1197 : decode cL_law 1197 = .ok (.ireturn, 1) := dk_172 (dk_at dksL_law_45 17 rfl rfl)
theorem q126 : (Jvm.Cond.initialized "ConkerYardLaw") ∈ lw_all := lw_g (lw_at lw_m1 0 rfl) rfl
set_option maxRecDepth 100000
theorem q161 : (Jvm.Cond.classLink "ConkerYardLaw" (7 : Nat) "ConkerYard") ∈ lw_all := lw_g (lw_at lw_m1 35 rfl) rfl
theorem q163 : (Jvm.Cond.methodLink "ConkerYardLaw" (9 : Nat) ({ cls := "ConkerYard", name := "<init>", desc := "()V" } : Jvm.MethodName)) ∈ lw_all := lw_g (lw_at lw_m1 37 rfl) rfl
theorem q422 : (Jvm.Cond.methodLink "ConkerYardLaw" (13 : Nat) ({ cls := "ConkerYard", name := "feed", desc := "(IIIII)I" } : Jvm.MethodName)) ∈ lw_all := lw_g (lw_at lw_m2 56 rfl) rfl
theorem q430 : (Jvm.Cond.methodLink "ConkerYardLaw" (18 : Nat) ({ cls := "ConkerYard", name := "end", desc := "(I)I" } : Jvm.MethodName)) ∈ lw_all := lw_g (lw_at lw_m2 64 rfl) rfl
theorem q434 : (Jvm.Cond.methodLink "ConkerYardLaw" (23 : Nat) ({ cls := "ConkerYard", name := "yard", desc := "()I" } : Jvm.MethodName)) ∈ lw_all := lw_g (lw_at lw_m2 68 rfl) rfl
theorem q685 : (Jvm.Cond.methodLink "ConkerYardLaw" (28 : Nat) ({ cls := "ConkerYard", name := "rule", desc := "()I" } : Jvm.MethodName)) ∈ lw_all := lw_g (lw_at lw_m3 79 rfl) rfl
theorem q855 : (Jvm.Cond.methodLink "ConkerYardLaw" (32 : Nat) ({ cls := "ConkerYard", name := "force", desc := "(I)I" } : Jvm.MethodName)) ∈ lw_all := lw_g (lw_at lw_m4 9 rfl) rfl
theorem q861 : (Jvm.Cond.methodLink "ConkerYardLaw" (36 : Nat) ({ cls := "ConkerYard", name := "conker", desc := "(II)I" } : Jvm.MethodName)) ∈ lw_all := lw_g (lw_at lw_m4 15 rfl) rfl
theorem q875 : (Jvm.Cond.methodLink "ConkerYardLaw" (61 : Nat) ({ cls := "ConkerYard", name := "undo", desc := "()I" } : Jvm.MethodName)) ∈ lw_all := lw_g (lw_at lw_m4 29 rfl) rfl
theorem q883 : (Jvm.Cond.methodLink "ConkerYardLaw" (41 : Nat) ({ cls := "ConkerYard", name := "round", desc := "()I" } : Jvm.MethodName)) ∈ lw_all := lw_g (lw_at lw_m4 37 rfl) rfl
theorem q970 : (Jvm.Cond.methodLink "ConkerYardLaw" (45 : Nat) ({ cls := "ConkerYard", name := "bout", desc := "(II)I" } : Jvm.MethodName)) ∈ lw_all := lw_g (lw_at lw_m4 124 rfl) rfl
theorem q978 : (Jvm.Cond.methodLink "ConkerYardLaw" (49 : Nat) ({ cls := "ConkerYard", name := "pickle", desc := "(II)I" } : Jvm.MethodName)) ∈ lw_all := lw_g (lw_at lw_m4 132 rfl) rfl
theorem q987 : (Jvm.Cond.methodLink "ConkerYardLaw" (53 : Nat) ({ cls := "ConkerYard", name := "mend", desc := "(I)I" } : Jvm.MethodName)) ∈ lw_all := lw_g (lw_at lw_m4 141 rfl) rfl
theorem q991 : (Jvm.Cond.methodLink "ConkerYardLaw" (57 : Nat) ({ cls := "ConkerYard", name := "string", desc := "(II)I" } : Jvm.MethodName)) ∈ lw_all := lw_g (lw_at lw_m4 145 rfl) rfl
theorem q996 : (Jvm.Cond.methodLink "ConkerYardLaw" (65 : Nat) ({ cls := "ConkerYard", name := "would", desc := "(III)I" } : Jvm.MethodName)) ∈ lw_all := lw_g (lw_at lw_m4 150 rfl) rfl
theorem q1005 : (Jvm.Cond.methodLink "ConkerYardLaw" (70 : Nat) ({ cls := "ConkerYard", name := "beats", desc := "(I)I" } : Jvm.MethodName)) ∈ lw_all := lw_g (lw_at lw_m4 159 rfl) rfl
theorem q1013 : (Jvm.Cond.methodLink "ConkerYardLaw" (74 : Nat) ({ cls := "ConkerYard", name := "last", desc := "(I)I" } : Jvm.MethodName)) ∈ lw_all := lw_g (lw_at lw_m4 167 rfl) rfl
theorem q1025 : (Jvm.Cond.methodLink "ConkerYardLaw" (78 : Nat) ({ cls := "ConkerYard", name := "own", desc := "(I)I" } : Jvm.MethodName)) ∈ lw_all := lw_g (lw_at lw_m4 179 rfl) rfl
theorem q1037 : (Jvm.Cond.methodLink "ConkerYardLaw" (82 : Nat) ({ cls := "ConkerYard", name := "cups", desc := "(I)I" } : Jvm.MethodName)) ∈ lw_all := lw_g (lw_at lw_m4 191 rfl) rfl
theorem q1058 : (Jvm.Cond.methodLink "ConkerYardLaw" (86 : Nat) ({ cls := "ConkerYard", name := "ladder", desc := "(I)I" } : Jvm.MethodName)) ∈ lw_all := lw_g (lw_at lw_m4 212 rfl) rfl
theorem q1069 : (Jvm.Cond.methodLink "ConkerYardLaw" (90 : Nat) ({ cls := "ConkerYard", name := "rings", desc := "()I" } : Jvm.MethodName)) ∈ lw_all := lw_g (lw_at lw_m4 223 rfl) rfl
theorem q1073 : (Jvm.Cond.methodLink "ConkerYardLaw" (94 : Nat) ({ cls := "ConkerYard", name := "kings", desc := "()I" } : Jvm.MethodName)) ∈ lw_all := lw_g (lw_at lw_m4 227 rfl) rfl
theorem q1077 : (Jvm.Cond.methodLink "ConkerYardLaw" (98 : Nat) ({ cls := "ConkerYard", name := "ahead", desc := "(III)I" } : Jvm.MethodName)) ∈ lw_all := lw_g (lw_at lw_m4 231 rfl) rfl
theorem q1087 : (Jvm.Cond.methodLink "ConkerYardLaw" (102 : Nat) ({ cls := "ConkerYard", name := "smashed", desc := "(I)I" } : Jvm.MethodName)) ∈ lw_all := lw_g (lw_at lw_m5 1 rfl) rfl
theorem q1091 : (Jvm.Cond.methodLink "ConkerYardLaw" (106 : Nat) ({ cls := "ConkerYard", name := "alone", desc := "()I" } : Jvm.MethodName)) ∈ lw_all := lw_g (lw_at lw_m5 5 rfl) rfl
theorem q1095 : (Jvm.Cond.methodLink "ConkerYardLaw" (110 : Nat) ({ cls := "ConkerYard", name := "best", desc := "(II)I" } : Jvm.MethodName)) ∈ lw_all := lw_g (lw_at lw_m5 9 rfl) rfl
theorem q1101 : (Jvm.Cond.methodLink "ConkerYardLaw" (122 : Nat) ({ cls := "ConkerYard", name := "rests", desc := "(IIII)I" } : Jvm.MethodName)) ∈ lw_all := lw_g (lw_at lw_m5 15 rfl) rfl
theorem q1113 : (Jvm.Cond.methodLink "ConkerYardLaw" (127 : Nat) ({ cls := "ConkerYard", name := "pence", desc := "(II)I" } : Jvm.MethodName)) ∈ lw_all := lw_g (lw_at lw_m5 27 rfl) rfl
theorem q1122 : (Jvm.Cond.methodLink "ConkerYardLaw" (131 : Nat) ({ cls := "ConkerYard", name := "note", desc := "(III)I" } : Jvm.MethodName)) ∈ lw_all := lw_g (lw_at lw_m5 36 rfl) rfl
theorem q1127 : (Jvm.Cond.methodLink "ConkerYardLaw" (135 : Nat) ({ cls := "ConkerYard", name := "ruled", desc := "(I)I" } : Jvm.MethodName)) ∈ lw_all := lw_g (lw_at lw_m5 41 rfl) rfl
theorem q1139 : (Jvm.Cond.methodLink "ConkerYardLaw" (114 : Nat) ({ cls := "ConkerYard", name := "hards", desc := "(II)I" } : Jvm.MethodName)) ∈ lw_all := lw_g (lw_at lw_m5 53 rfl) rfl
theorem q1143 : (Jvm.Cond.methodLink "ConkerYardLaw" (118 : Nat) ({ cls := "ConkerYard", name := "swings", desc := "(I)I" } : Jvm.MethodName)) ∈ lw_all := lw_g (lw_at lw_m5 57 rfl) rfl
theorem q1147 : (Jvm.Cond.methodLink "ConkerYardLaw" (139 : Nat) ({ cls := "ConkerYard", name := "look", desc := "(II)I" } : Jvm.MethodName)) ∈ lw_all := lw_g (lw_at lw_m5 61 rfl) rfl
theorem q1155 : (Jvm.Cond.methodLink "ConkerYardLaw" (143 : Nat) ({ cls := "ConkerYard", name := "seed", desc := "(I)I" } : Jvm.MethodName)) ∈ lw_all := lw_g (lw_at lw_m5 69 rfl) rfl
theorem q1159 : (Jvm.Cond.methodLink "ConkerYardLaw" (147 : Nat) ({ cls := "ConkerYard", name := "frost", desc := "(IIII)I" } : Jvm.MethodName)) ∈ lw_all := lw_g (lw_at lw_m5 73 rfl) rfl
theorem q1176 : (Jvm.Cond.methodLink "ConkerYardLaw" (151 : Nat) ({ cls := "ConkerYard", name := "count", desc := "(I)I" } : Jvm.MethodName)) ∈ lw_all := lw_g (lw_at lw_m5 90 rfl) rfl
theorem q1180 : (Jvm.Cond.methodLink "ConkerYardLaw" (155 : Nat) ({ cls := "ConkerYard", name := "image", desc := "(I)I" } : Jvm.MethodName)) ∈ lw_all := lw_g (lw_at lw_m5 94 rfl) rfl
theorem q1225 : (Jvm.Cond.methodLink "ConkerYardLaw" (159 : Nat) ({ cls := "ConkerYard", name := "back", desc := "(I)I" } : Jvm.MethodName)) ∈ lw_all := lw_g (lw_at lw_m5 139 rfl) rfl
theorem q1233 : (Jvm.Cond.classLink "ConkerYardLaw" (10 : Nat) "ConkerYardModel") ∈ lw_all := lw_g (lw_at lw_m5 147 rfl) rfl
theorem q1235 : (Jvm.Cond.methodLink "ConkerYardLaw" (12 : Nat) ({ cls := "ConkerYardModel", name := "<init>", desc := "()V" } : Jvm.MethodName)) ∈ lw_all := lw_g (lw_at lw_m5 149 rfl) rfl
theorem q1370 : (Jvm.Cond.methodLink "ConkerYardLaw" (17 : Nat) ({ cls := "ConkerYardModel", name := "feed", desc := "(IIIII)I" } : Jvm.MethodName)) ∈ lw_all := lw_g (lw_at lw_m6 44 rfl) rfl
theorem q1378 : (Jvm.Cond.methodLink "ConkerYardLaw" (22 : Nat) ({ cls := "ConkerYardModel", name := "end", desc := "(I)I" } : Jvm.MethodName)) ∈ lw_all := lw_g (lw_at lw_m6 52 rfl) rfl
theorem q1382 : (Jvm.Cond.methodLink "ConkerYardLaw" (31 : Nat) ({ cls := "ConkerYardModel", name := "rule", desc := "()I" } : Jvm.MethodName)) ∈ lw_all := lw_g (lw_at lw_m6 56 rfl) rfl
theorem q1534 : (Jvm.Cond.methodLink "ConkerYardLaw" (27 : Nat) ({ cls := "ConkerYardModel", name := "yard", desc := "()I" } : Jvm.MethodName)) ∈ lw_all := lw_g (lw_at lw_m6 208 rfl) rfl
theorem q1546 : (Jvm.Cond.methodLink "ConkerYardLaw" (35 : Nat) ({ cls := "ConkerYardModel", name := "force", desc := "(I)I" } : Jvm.MethodName)) ∈ lw_all := lw_g (lw_at lw_m6 220 rfl) rfl
theorem q1554 : (Jvm.Cond.methodLink "ConkerYardLaw" (40 : Nat) ({ cls := "ConkerYardModel", name := "conker", desc := "(II)I" } : Jvm.MethodName)) ∈ lw_all := lw_g (lw_at lw_m6 228 rfl) rfl
theorem q1567 : (Jvm.Cond.methodLink "ConkerYardLaw" (64 : Nat) ({ cls := "ConkerYardModel", name := "undo", desc := "()I" } : Jvm.MethodName)) ∈ lw_all := lw_g (lw_at lw_m7 1 rfl) rfl
theorem q1571 : (Jvm.Cond.methodLink "ConkerYardLaw" (44 : Nat) ({ cls := "ConkerYardModel", name := "round", desc := "()I" } : Jvm.MethodName)) ∈ lw_all := lw_g (lw_at lw_m7 5 rfl) rfl
theorem q1645 : (Jvm.Cond.methodLink "ConkerYardLaw" (48 : Nat) ({ cls := "ConkerYardModel", name := "bout", desc := "(II)I" } : Jvm.MethodName)) ∈ lw_all := lw_g (lw_at lw_m7 79 rfl) rfl
theorem q1649 : (Jvm.Cond.methodLink "ConkerYardLaw" (52 : Nat) ({ cls := "ConkerYardModel", name := "pickle", desc := "(II)I" } : Jvm.MethodName)) ∈ lw_all := lw_g (lw_at lw_m7 83 rfl) rfl
theorem q1658 : (Jvm.Cond.methodLink "ConkerYardLaw" (56 : Nat) ({ cls := "ConkerYardModel", name := "mend", desc := "(I)I" } : Jvm.MethodName)) ∈ lw_all := lw_g (lw_at lw_m7 92 rfl) rfl
theorem q1662 : (Jvm.Cond.methodLink "ConkerYardLaw" (60 : Nat) ({ cls := "ConkerYardModel", name := "string", desc := "(II)I" } : Jvm.MethodName)) ∈ lw_all := lw_g (lw_at lw_m7 96 rfl) rfl
theorem q1667 : (Jvm.Cond.methodLink "ConkerYardLaw" (69 : Nat) ({ cls := "ConkerYardModel", name := "would", desc := "(III)I" } : Jvm.MethodName)) ∈ lw_all := lw_g (lw_at lw_m7 101 rfl) rfl
theorem q1671 : (Jvm.Cond.methodLink "ConkerYardLaw" (73 : Nat) ({ cls := "ConkerYardModel", name := "beats", desc := "(I)I" } : Jvm.MethodName)) ∈ lw_all := lw_g (lw_at lw_m7 105 rfl) rfl
theorem q1679 : (Jvm.Cond.methodLink "ConkerYardLaw" (77 : Nat) ({ cls := "ConkerYardModel", name := "last", desc := "(I)I" } : Jvm.MethodName)) ∈ lw_all := lw_g (lw_at lw_m7 113 rfl) rfl
theorem q1694 : (Jvm.Cond.methodLink "ConkerYardLaw" (81 : Nat) ({ cls := "ConkerYardModel", name := "own", desc := "(I)I" } : Jvm.MethodName)) ∈ lw_all := lw_g (lw_at lw_m7 128 rfl) rfl
theorem q1698 : (Jvm.Cond.methodLink "ConkerYardLaw" (85 : Nat) ({ cls := "ConkerYardModel", name := "cups", desc := "(I)I" } : Jvm.MethodName)) ∈ lw_all := lw_g (lw_at lw_m7 132 rfl) rfl
theorem q1719 : (Jvm.Cond.methodLink "ConkerYardLaw" (89 : Nat) ({ cls := "ConkerYardModel", name := "ladder", desc := "(I)I" } : Jvm.MethodName)) ∈ lw_all := lw_g (lw_at lw_m7 153 rfl) rfl
theorem q1731 : (Jvm.Cond.methodLink "ConkerYardLaw" (93 : Nat) ({ cls := "ConkerYardModel", name := "rings", desc := "()I" } : Jvm.MethodName)) ∈ lw_all := lw_g (lw_at lw_m7 165 rfl) rfl
theorem q1735 : (Jvm.Cond.methodLink "ConkerYardLaw" (97 : Nat) ({ cls := "ConkerYardModel", name := "kings", desc := "()I" } : Jvm.MethodName)) ∈ lw_all := lw_g (lw_at lw_m7 169 rfl) rfl
theorem q1743 : (Jvm.Cond.methodLink "ConkerYardLaw" (101 : Nat) ({ cls := "ConkerYardModel", name := "ahead", desc := "(III)I" } : Jvm.MethodName)) ∈ lw_all := lw_g (lw_at lw_m7 177 rfl) rfl
theorem q1761 : (Jvm.Cond.methodLink "ConkerYardLaw" (105 : Nat) ({ cls := "ConkerYardModel", name := "smashed", desc := "(I)I" } : Jvm.MethodName)) ∈ lw_all := lw_g (lw_at lw_m7 195 rfl) rfl
theorem q1765 : (Jvm.Cond.methodLink "ConkerYardLaw" (109 : Nat) ({ cls := "ConkerYardModel", name := "alone", desc := "()I" } : Jvm.MethodName)) ∈ lw_all := lw_g (lw_at lw_m7 199 rfl) rfl
theorem q1769 : (Jvm.Cond.methodLink "ConkerYardLaw" (113 : Nat) ({ cls := "ConkerYardModel", name := "best", desc := "(II)I" } : Jvm.MethodName)) ∈ lw_all := lw_g (lw_at lw_m7 203 rfl) rfl
theorem q1778 : (Jvm.Cond.methodLink "ConkerYardLaw" (126 : Nat) ({ cls := "ConkerYardModel", name := "rests", desc := "(IIII)I" } : Jvm.MethodName)) ∈ lw_all := lw_g (lw_at lw_m7 212 rfl) rfl
theorem q1794 : (Jvm.Cond.methodLink "ConkerYardLaw" (130 : Nat) ({ cls := "ConkerYardModel", name := "pence", desc := "(II)I" } : Jvm.MethodName)) ∈ lw_all := lw_g (lw_at lw_m7 228 rfl) rfl
theorem q1803 : (Jvm.Cond.methodLink "ConkerYardLaw" (134 : Nat) ({ cls := "ConkerYardModel", name := "note", desc := "(III)I" } : Jvm.MethodName)) ∈ lw_all := lw_g (lw_at lw_m7 237 rfl) rfl
theorem q1808 : (Jvm.Cond.methodLink "ConkerYardLaw" (138 : Nat) ({ cls := "ConkerYardModel", name := "ruled", desc := "(I)I" } : Jvm.MethodName)) ∈ lw_all := lw_g (lw_at lw_m8 2 rfl) rfl
theorem q1824 : (Jvm.Cond.methodLink "ConkerYardLaw" (142 : Nat) ({ cls := "ConkerYardModel", name := "look", desc := "(II)I" } : Jvm.MethodName)) ∈ lw_all := lw_g (lw_at lw_m8 18 rfl) rfl
theorem q1832 : (Jvm.Cond.methodLink "ConkerYardLaw" (117 : Nat) ({ cls := "ConkerYardModel", name := "hards", desc := "(II)I" } : Jvm.MethodName)) ∈ lw_all := lw_g (lw_at lw_m8 26 rfl) rfl
theorem q1840 : (Jvm.Cond.methodLink "ConkerYardLaw" (121 : Nat) ({ cls := "ConkerYardModel", name := "swings", desc := "(I)I" } : Jvm.MethodName)) ∈ lw_all := lw_g (lw_at lw_m8 34 rfl) rfl
theorem q1844 : (Jvm.Cond.methodLink "ConkerYardLaw" (146 : Nat) ({ cls := "ConkerYardModel", name := "seed", desc := "(I)I" } : Jvm.MethodName)) ∈ lw_all := lw_g (lw_at lw_m8 38 rfl) rfl
theorem q1848 : (Jvm.Cond.methodLink "ConkerYardLaw" (150 : Nat) ({ cls := "ConkerYardModel", name := "frost", desc := "(IIII)I" } : Jvm.MethodName)) ∈ lw_all := lw_g (lw_at lw_m8 42 rfl) rfl
theorem q1865 : (Jvm.Cond.methodLink "ConkerYardLaw" (154 : Nat) ({ cls := "ConkerYardModel", name := "count", desc := "(I)I" } : Jvm.MethodName)) ∈ lw_all := lw_g (lw_at lw_m8 59 rfl) rfl
theorem q1869 : (Jvm.Cond.methodLink "ConkerYardLaw" (158 : Nat) ({ cls := "ConkerYardModel", name := "image", desc := "(I)I" } : Jvm.MethodName)) ∈ lw_all := lw_g (lw_at lw_m8 63 rfl) rfl
theorem q1874 : (Jvm.Cond.methodLink "ConkerYardLaw" (162 : Nat) ({ cls := "ConkerYardModel", name := "back", desc := "(I)I" } : Jvm.MethodName)) ∈ lw_all := lw_g (lw_at lw_m8 68 rfl) rfl
theorem q1906 : (Jvm.Cond.castable "[B" "java/lang/Object") ∈ lw_tbl := lw_at lw_m8 100 rfl
set_option maxRecDepth 100000
theorem q1903 : (Jvm.Cond.castable "[I" "java/lang/Object") ∈ lw_tbl := lw_at lw_m8 97 rfl
set_option maxRecDepth 100000
theorem q1907 : (Jvm.Cond.castable "[J" "java/lang/Object") ∈ lw_tbl := lw_at lw_m8 101 rfl
set_option maxRecDepth 100000
theorem q1905 : (Jvm.Cond.castable "[LConkerYard$Image;" "java/lang/Object") ∈ lw_tbl := lw_at lw_m8 99 rfl
set_option maxRecDepth 100000
theorem q1904 : (Jvm.Cond.castable "[LConkerYard$State;" "java/lang/Object") ∈ lw_tbl := lw_at lw_m8 98 rfl
set_option maxRecDepth 100000
theorem q1899 : (Jvm.Cond.sameMethod "[Ljava/lang/Object;" "java/lang/Object" "getClass" "()Ljava/lang/Class;") ∈ lw_all := lw_g (lw_at lw_m8 93 rfl) rfl
set_option maxRecDepth 100000
theorem q1900 : (Jvm.Cond.selects "[Ljava/lang/Object;" ({ cls := "java/lang/Object", name := "getClass", desc := "()Ljava/lang/Class;" } : Jvm.MethodName) ({ cls := "java/lang/Object", name := "getClass", desc := "()Ljava/lang/Class;" } : Jvm.MethodName)) ∈ lw_all := lw_g (lw_at lw_m8 94 rfl) rfl
theorem q1902 : (Jvm.Cond.castable "[Ljava/lang/Object;" "java/lang/Object") ∈ lw_tbl := lw_at lw_m8 96 rfl
theorem q1909 : (Jvm.Cond.castable "[Ljava/lang/String;" "java/lang/Object") ∈ lw_tbl := lw_at lw_m8 103 rfl
set_option maxRecDepth 100000
theorem q1908 : (Jvm.Cond.castable "[Z" "java/lang/Object") ∈ lw_tbl := lw_at lw_m8 102 rfl
set_option maxRecDepth 100000
theorem q147 : (Jvm.Cond.initialized "java/lang/System") ∈ lw_all := lw_g (lw_at lw_m1 21 rfl) rfl
set_option maxRecDepth 100000
theorem q657 : (Jvm.Cond.static ({ cls := "java/lang/System", name := "arraycopy", desc := "(Ljava/lang/Object;ILjava/lang/Object;II)V" } : Jvm.MethodName)) ∈ lw_all := lw_g (lw_at lw_m3 51 rfl) rfl
theorem q658 : (Jvm.Cond.native ({ cls := "java/lang/System", name := "arraycopy", desc := "(Ljava/lang/Object;ILjava/lang/Object;II)V" } : Jvm.MethodName)) ∈ lw_all := lw_g (lw_at lw_m3 52 rfl) rfl
theorem q188 : (Jvm.Cond.arrayOver (Jvm.ClassFile.FieldType.object "java/lang/Object")) ∈ lw_tbl := lw_at lw_m1 62 rfl
set_option maxRecDepth 100000
theorem q219 : (Jvm.Cond.arrayClass Jvm.ClassFile.FieldType.int) ∈ lw_all := lw_g (lw_at lw_m1 93 rfl) rfl
theorem q317 : (Jvm.Cond.arrayOver (Jvm.ClassFile.FieldType.object "ConkerYard$State")) ∈ lw_tbl := lw_at lw_m1 191 rfl
theorem q319 : (Jvm.Cond.arrayOver (Jvm.ClassFile.FieldType.object "ConkerYard$Image")) ∈ lw_tbl := lw_at lw_m1 193 rfl
theorem q420 : (Jvm.Cond.arrayClass Jvm.ClassFile.FieldType.byte) ∈ lw_all := lw_g (lw_at lw_m2 54 rfl) rfl
theorem q421 : (Jvm.Cond.arrayClass Jvm.ClassFile.FieldType.long) ∈ lw_all := lw_g (lw_at lw_m2 55 rfl) rfl
theorem q1369 : (Jvm.Cond.arrayClass Jvm.ClassFile.FieldType.boolean) ∈ lw_all := lw_g (lw_at lw_m6 43 rfl) rfl
theorem q1925 : (Jvm.Cond.arrayOver (Jvm.ClassFile.FieldType.object "java/lang/String")) ∈ lw_tbl := lw_at lw_m8 119 rfl
