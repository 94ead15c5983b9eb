/-! the law's own entry -/
set_option maxRecDepth 100000
abbrev cL_law : ByteArray := code
def dkwL_law_52 : List UInt8 := [46, 182, 0, 139, 159, 0, 5, 3, 172, 132, 3, 7, 167, 250, 209, 4, 172]
abbrev dktL_law_52 : List UInt8 := dkwL_law_52 ++ []
def dkwL_law_51 : List UInt8 := [42, 29, 4, 96, 46, 42, 29, 5, 96, 46, 42, 29, 6, 96, 46, 42, 29, 7, 96, 46, 42, 29, 8, 96]
abbrev dktL_law_51 : List UInt8 := dkwL_law_51 ++ dktL_law_52
def dkwL_law_50 : List UInt8 := [42, 29, 5, 96, 46, 42, 29, 6, 96, 46, 42, 29, 7, 96, 46, 42, 29, 8, 96, 46, 182, 0, 136, 44]
abbrev dktL_law_50 : List UInt8 := dkwL_law_50 ++ dktL_law_51
def dkwL_law_49 : List UInt8 := [29, 4, 96, 46, 42, 29, 5, 96, 46, 182, 0, 135, 148, 153, 0, 68, 3, 172, 43, 42, 29, 4, 96, 46]
abbrev dktL_law_49 : List UInt8 := dkwL_law_49 ++ dktL_law_50
def dkwL_law_48 : List UInt8 := [182, 0, 131, 159, 0, 102, 3, 172, 43, 42, 29, 4, 96, 46, 42, 29, 5, 96, 46, 182, 0, 132, 44, 42]
abbrev dktL_law_48 : List UInt8 := dkwL_law_48 ++ dktL_law_49
def dkwL_law_47 : List UInt8 := [29, 6, 96, 46, 182, 0, 128, 44, 42, 29, 4, 96, 46, 42, 29, 5, 96, 46, 42, 29, 6, 96, 46]
abbrev dktL_law_47 : List UInt8 := dkwL_law_47 ++ dktL_law_48
def dkwL_law_46 : List UInt8 := [29, 6, 96, 46, 182, 0, 127, 159, 0, 145, 3, 172, 43, 42, 29, 4, 96, 46, 42, 29, 5, 96, 46, 42]
abbrev dktL_law_46 : List UInt8 := dkwL_law_46 ++ dktL_law_47
def dkwL_law_45 : List UInt8 := [29, 5, 96, 46, 42, 29, 6, 96, 46, 182, 0, 124, 44, 42, 29, 4, 96, 46, 42, 29, 5, 96, 46, 42]
abbrev dktL_law_45 : List UInt8 := dkwL_law_45 ++ dktL_law_46
def dkwL_law_44 : List UInt8 := [182, 0, 120, 44, 42, 29, 4, 96, 46, 182, 0, 123, 159, 0, 188, 3, 172, 43, 42, 29, 4, 96, 46, 42]
abbrev dktL_law_44 : List UInt8 := dkwL_law_44 ++ dktL_law_45
def dkwL_law_43 : List UInt8 := [159, 0, 224, 3, 172, 43, 182, 0, 116, 44, 182, 0, 119, 159, 0, 211, 3, 172, 43, 42, 29, 4, 96, 46]
abbrev dktL_law_43 : List UInt8 := dkwL_law_43 ++ dktL_law_44
def dkwL_law_42 : List UInt8 := [46, 42, 29, 7, 96, 46, 182, 0, 110, 159, 0, 237, 3, 172, 43, 182, 0, 111, 44, 182, 0, 115]
abbrev dktL_law_42 : List UInt8 := dkwL_law_42 ++ dktL_law_43
def dkwL_law_41 : List UInt8 := [46, 42, 29, 7, 96, 46, 182, 0, 107, 44, 42, 29, 4, 96, 46, 42, 29, 5, 96, 46, 42, 29, 6, 96]
abbrev dktL_law_41 : List UInt8 := dkwL_law_41 ++ dktL_law_42
def dkwL_law_40 : List UInt8 := [46, 182, 0, 106, 159, 1, 34, 3, 172, 43, 42, 29, 4, 96, 46, 42, 29, 5, 96, 46, 42, 29, 6, 96]
abbrev dktL_law_40 : List UInt8 := dkwL_law_40 ++ dktL_law_41
def dkwL_law_39 : List UInt8 := [43, 42, 29, 4, 96, 46, 42, 29, 5, 96, 46, 182, 0, 103, 44, 42, 29, 4, 96, 46, 42, 29, 5, 96]
abbrev dktL_law_39 : List UInt8 := dkwL_law_39 ++ dktL_law_40
def dkwL_law_38 : List UInt8 := [46, 42, 29, 6, 96, 46, 42, 29, 7, 96, 46, 42, 29, 8, 96, 46, 182, 0, 102, 159, 1, 67, 3, 172]
abbrev dktL_law_38 : List UInt8 := dkwL_law_38 ++ dktL_law_39
def dkwL_law_37 : List UInt8 := [46, 42, 29, 7, 96, 46, 42, 29, 8, 96, 46, 182, 0, 99, 44, 42, 29, 4, 96, 46, 42, 29, 5, 96]
abbrev dktL_law_37 : List UInt8 := dkwL_law_37 ++ dktL_law_38
def dkwL_law_36 : List UInt8 := [182, 0, 98, 148, 153, 1, 130, 3, 172, 43, 42, 29, 4, 96, 46, 42, 29, 5, 96, 46, 42, 29, 6, 96]
abbrev dktL_law_36 : List UInt8 := dkwL_law_36 ++ dktL_law_37
def dkwL_law_35 : List UInt8 := [42, 29, 6, 96, 46, 182, 0, 95, 44, 42, 29, 4, 96, 46, 42, 29, 5, 96, 46, 42, 29, 6, 96, 46]
abbrev dktL_law_35 : List UInt8 := dkwL_law_35 ++ dktL_law_36
def dkwL_law_34 : List UInt8 := [16, 6, 96, 46, 182, 0, 94, 148, 153, 1, 174, 3, 172, 43, 42, 29, 4, 96, 46, 42, 29, 5, 96, 46]
abbrev dktL_law_34 : List UInt8 := dkwL_law_34 ++ dktL_law_35
def dkwL_law_33 : List UInt8 := [46, 42, 29, 5, 96, 46, 42, 29, 6, 96, 46, 42, 29, 7, 96, 46, 42, 29, 8, 96, 46, 42, 29]
abbrev dktL_law_33 : List UInt8 := dkwL_law_33 ++ dktL_law_34
def dkwL_law_32 : List UInt8 := [42, 29, 7, 96, 46, 42, 29, 8, 96, 46, 42, 29, 16, 6, 96, 46, 182, 0, 90, 44, 42, 29, 4, 96]
abbrev dktL_law_32 : List UInt8 := dkwL_law_32 ++ dktL_law_33
def dkwL_law_31 : List UInt8 := [182, 0, 89, 159, 1, 250, 3, 172, 43, 42, 29, 4, 96, 46, 42, 29, 5, 96, 46, 42, 29, 6, 96, 46]
abbrev dktL_law_31 : List UInt8 := dkwL_law_31 ++ dktL_law_32
def dkwL_law_30 : List UInt8 := [42, 29, 4, 96, 46, 42, 29, 5, 96, 46, 182, 0, 86, 44, 42, 29, 4, 96, 46, 42, 29, 5, 96, 46]
abbrev dktL_law_30 : List UInt8 := dkwL_law_30 ++ dktL_law_31
def dkwL_law_29 : List UInt8 := [182, 0, 81, 44, 42, 29, 4, 96, 46, 42, 29, 5, 96, 46, 182, 0, 85, 148, 153, 2, 27, 3, 172, 43]
abbrev dktL_law_29 : List UInt8 := dkwL_law_29 ++ dktL_law_30
def dkwL_law_28 : List UInt8 := [42, 29, 6, 96, 46, 182, 0, 80, 159, 2, 61, 3, 172, 43, 42, 29, 4, 96, 46, 42, 29, 5, 96, 46]
abbrev dktL_law_28 : List UInt8 := dkwL_law_28 ++ dktL_law_29
def dkwL_law_27 : List UInt8 := [42, 29, 5, 96, 46, 42, 29, 6, 96, 46, 182, 0, 76, 44, 42, 29, 4, 96, 46, 42, 29, 5, 96, 46]
abbrev dktL_law_27 : List UInt8 := dkwL_law_27 ++ dktL_law_28
def dkwL_law_26 : List UInt8 := [29, 5, 96, 46, 42, 29, 6, 96, 46, 182, 0, 75, 148, 153, 2, 104, 3, 172, 43, 42, 29, 4, 96, 46]
abbrev dktL_law_26 : List UInt8 := dkwL_law_26 ++ dktL_law_27
def dkwL_law_25 : List UInt8 := [29, 4, 96, 46, 42, 29, 5, 96, 46, 42, 29, 6, 96, 46, 182, 0, 72, 44, 42, 29, 4, 96, 46, 42]
abbrev dktL_law_25 : List UInt8 := dkwL_law_25 ++ dktL_law_26
def dkwL_law_24 : List UInt8 := [42, 29, 4, 96, 46, 182, 0, 68, 44, 42, 29, 4, 96, 46, 182, 0, 71, 159, 2, 148, 3, 172, 43, 42]
abbrev dktL_law_24 : List UInt8 := dkwL_law_24 ++ dktL_law_25
def dkwL_law_23 : List UInt8 := [42, 29, 6, 96, 46, 42, 29, 7, 96, 46, 42, 29, 8, 96, 46, 182, 0, 67, 159, 2, 171, 3, 172, 43]
abbrev dktL_law_23 : List UInt8 := dkwL_law_23 ++ dktL_law_24
def dkwL_law_22 : List UInt8 := [42, 29, 7, 96, 46, 42, 29, 8, 96, 46, 182, 0, 64, 44, 42, 29, 4, 96, 46, 42, 29, 5, 96, 46]
abbrev dktL_law_22 : List UInt8 := dkwL_law_22 ++ dktL_law_23
def dkwL_law_21 : List UInt8 := [182, 0, 63, 159, 2, 234, 3, 172, 43, 42, 29, 4, 96, 46, 42, 29, 5, 96, 46, 42, 29, 6, 96, 46]
abbrev dktL_law_21 : List UInt8 := dkwL_law_21 ++ dktL_law_22
def dkwL_law_20 : List UInt8 := [4, 96, 46, 42, 29, 5, 96, 46, 42, 29, 6, 96, 46, 42, 29, 7, 96, 46, 42, 29, 8, 96, 46]
abbrev dktL_law_20 : List UInt8 := dkwL_law_20 ++ dktL_law_21
def dkwL_law_19 : List UInt8 := [5, 96, 46, 42, 29, 6, 96, 46, 42, 29, 7, 96, 46, 42, 29, 8, 96, 46, 182, 0, 59, 44, 42, 29]
abbrev dktL_law_19 : List UInt8 := dkwL_law_19 ++ dktL_law_20
def dkwL_law_18 : List UInt8 := [6, 96, 46, 42, 29, 7, 96, 46, 182, 0, 58, 159, 3, 41, 3, 172, 43, 42, 29, 4, 96, 46, 42, 29]
abbrev dktL_law_18 : List UInt8 := dkwL_law_18 ++ dktL_law_19
def dkwL_law_17 : List UInt8 := [6, 96, 46, 42, 29, 7, 96, 46, 182, 0, 54, 44, 42, 29, 4, 96, 46, 42, 29, 5, 96, 46, 42, 29]
abbrev dktL_law_17 : List UInt8 := dkwL_law_17 ++ dktL_law_18
def dkwL_law_16 : List UInt8 := [4, 96, 46, 182, 0, 53, 159, 3, 94, 3, 172, 43, 42, 29, 4, 96, 46, 42, 29, 5, 96, 46, 42, 29]
abbrev dktL_law_16 : List UInt8 := dkwL_law_16 ++ dktL_law_17
def dkwL_law_15 : List UInt8 := [16, 6, 96, 46, 182, 0, 49, 159, 3, 117, 3, 172, 43, 42, 29, 4, 96, 46, 182, 0, 50, 44, 42, 29]
abbrev dktL_law_15 : List UInt8 := dkwL_law_15 ++ dktL_law_16
def dkwL_law_14 : List UInt8 := [46, 42, 29, 5, 96, 46, 42, 29, 6, 96, 46, 42, 29, 7, 96, 46, 42, 29, 8, 96, 46, 42, 29]
abbrev dktL_law_14 : List UInt8 := dkwL_law_14 ++ dktL_law_15
def dkwL_law_13 : List UInt8 := [42, 29, 7, 96, 46, 42, 29, 8, 96, 46, 42, 29, 16, 6, 96, 46, 182, 0, 45, 44, 42, 29, 4, 96]
abbrev dktL_law_13 : List UInt8 := dkwL_law_13 ++ dktL_law_14
def dkwL_law_12 : List UInt8 := [182, 0, 44, 159, 3, 192, 3, 172, 43, 42, 29, 4, 96, 46, 42, 29, 5, 96, 46, 42, 29, 6, 96, 46]
abbrev dktL_law_12 : List UInt8 := dkwL_law_12 ++ dktL_law_13
def dkwL_law_11 : List UInt8 := [29, 4, 96, 46, 42, 29, 5, 96, 46, 182, 0, 41, 44, 42, 29, 4, 96, 46, 42, 29, 5, 96, 46]
abbrev dktL_law_11 : List UInt8 := dkwL_law_11 ++ dktL_law_12
def dkwL_law_10 : List UInt8 := [4, 96, 46, 42, 29, 5, 96, 46, 42, 29, 6, 96, 46, 182, 0, 40, 148, 153, 3, 225, 3, 172, 43, 42]
abbrev dktL_law_10 : List UInt8 := dkwL_law_10 ++ dktL_law_11
def dkwL_law_9 : List UInt8 := [3, 172, 43, 42, 29, 4, 96, 46, 42, 29, 5, 96, 46, 42, 29, 6, 96, 46, 182, 0, 36, 44, 42, 29]
abbrev dktL_law_9 : List UInt8 := dkwL_law_9 ++ dktL_law_10
def dkwL_law_8 : List UInt8 := [3, 172, 43, 42, 29, 4, 96, 46, 182, 0, 31, 44, 42, 29, 4, 96, 46, 182, 0, 35, 148, 153, 4, 13]
abbrev dktL_law_8 : List UInt8 := dkwL_law_8 ++ dktL_law_9
def dkwL_law_7 : List UInt8 := [29, 5, 96, 46, 182, 0, 27, 44, 42, 29, 4, 96, 46, 42, 29, 5, 96, 46, 182, 0, 30, 159, 4, 37]
abbrev dktL_law_7 : List UInt8 := dkwL_law_7 ++ dktL_law_8
def dkwL_law_6 : List UInt8 := [29, 4, 96, 46, 42, 29, 5, 96, 46, 182, 0, 26, 159, 4, 70, 3, 172, 43, 42, 29, 4, 96, 46, 42]
abbrev dktL_law_6 : List UInt8 := dkwL_law_6 ++ dktL_law_7
def dkwL_law_5 : List UInt8 := [182, 0, 22, 159, 4, 103, 3, 172, 43, 42, 29, 4, 96, 46, 42, 29, 5, 96, 46, 182, 0, 23, 44, 42]
abbrev dktL_law_5 : List UInt8 := dkwL_law_5 ++ dktL_law_6
def dkwL_law_4 : List UInt8 := [46, 182, 0, 17, 159, 4, 126, 3, 172, 43, 42, 29, 4, 96, 46, 182, 0, 18, 44, 42, 29, 4, 96, 46]
abbrev dktL_law_4 : List UInt8 := dkwL_law_4 ++ dktL_law_5
def dkwL_law_3 : List UInt8 := [43, 42, 29, 4, 96, 46, 42, 29, 5, 96, 46, 182, 0, 13, 44, 42, 29, 4, 96, 46, 42, 29, 5, 96]
abbrev dktL_law_3 : List UInt8 := dkwL_law_3 ++ dktL_law_4
def dkwL_law_2 : List UInt8 := [170, 0, 0, 0, 0, 5, 29, 0, 0, 0, 0, 0, 0, 0, 28, 0, 0, 0, 131, 0, 0, 0, 164, 0, 0, 0, 187, 0, 0, 0, 220, 0, 0, 0, 253, 0, 0, 1, 21, 0, 0, 1, 65, 0, 0, 1, 98, 0, 0, 1, 173, 0, 0, 1, 196, 0, 0, 1, 249, 0, 0, 2, 56, 0, 0, 2, 119, 0, 0, 2, 142, 0, 0, 2, 186, 0, 0, 2, 229, 0, 0, 3, 7, 0, 0, 3, 40, 0, 0, 3, 116, 0, 0, 3, 160, 0, 0, 3, 223, 0, 0, 4, 0, 0, 0, 4, 53, 0, 0, 4, 66, 0, 0, 4, 79, 0, 0, 4, 102, 0, 0, 4, 145, 0, 0, 4, 188, 0, 0, 4, 222]
abbrev dktL_law_2 : List UInt8 := dkwL_law_2 ++ dktL_law_3
def dkwL_law_1 : List UInt8 := [163, 5, 44, 42, 29, 46, 16, 31, 126]
abbrev dktL_law_1 : List UInt8 := dkwL_law_1 ++ dktL_law_2
def dkwL_law_0 : List UInt8 := [187, 0, 7, 89, 183, 0, 9, 76, 187, 0, 10, 89, 183, 0, 12, 77, 3, 62, 29, 42, 190, 16, 7, 100]
abbrev dktL_law_0 : List UInt8 := dkwL_law_0 ++ dktL_law_1
theorem dksL_law_0 : cL_law.data.toList.drop 0 = dktL_law_0 := by decide +kernel
theorem dksL_law_1 : cL_law.data.toList.drop 24 = dktL_law_1 := dk_seg dksL_law_0 24 rfl rfl
theorem dksL_law_2 : cL_law.data.toList.drop 33 = dktL_law_2 := dk_seg dksL_law_1 9 rfl rfl
theorem dksL_law_3 : cL_law.data.toList.drop 164 = dktL_law_3 := dk_seg dksL_law_2 131 rfl rfl
theorem dksL_law_4 : cL_law.data.toList.drop 188 = dktL_law_4 := dk_seg dksL_law_3 24 rfl rfl
theorem dksL_law_5 : cL_law.data.toList.drop 212 = dktL_law_5 := dk_seg dksL_law_4 24 rfl rfl
theorem dksL_law_6 : cL_law.data.toList.drop 236 = dktL_law_6 := dk_seg dksL_law_5 24 rfl rfl
theorem dksL_law_7 : cL_law.data.toList.drop 260 = dktL_law_7 := dk_seg dksL_law_6 24 rfl rfl
theorem dksL_law_8 : cL_law.data.toList.drop 284 = dktL_law_8 := dk_seg dksL_law_7 24 rfl rfl
theorem dksL_law_9 : cL_law.data.toList.drop 308 = dktL_law_9 := dk_seg dksL_law_8 24 rfl rfl
theorem dksL_law_10 : cL_law.data.toList.drop 332 = dktL_law_10 := dk_seg dksL_law_9 24 rfl rfl
theorem dksL_law_11 : cL_law.data.toList.drop 356 = dktL_law_11 := dk_seg dksL_law_10 24 rfl rfl
theorem dksL_law_12 : cL_law.data.toList.drop 379 = dktL_law_12 := dk_seg dksL_law_11 23 rfl rfl
theorem dksL_law_13 : cL_law.data.toList.drop 403 = dktL_law_13 := dk_seg dksL_law_12 24 rfl rfl
theorem dksL_law_14 : cL_law.data.toList.drop 427 = dktL_law_14 := dk_seg dksL_law_13 24 rfl rfl
theorem dksL_law_15 : cL_law.data.toList.drop 450 = dktL_law_15 := dk_seg dksL_law_14 23 rfl rfl
theorem dksL_law_16 : cL_law.data.toList.drop 474 = dktL_law_16 := dk_seg dksL_law_15 24 rfl rfl
theorem dksL_law_17 : cL_law.data.toList.drop 498 = dktL_law_17 := dk_seg dksL_law_16 24 rfl rfl
theorem dksL_law_18 : cL_law.data.toList.drop 522 = dktL_law_18 := dk_seg dksL_law_17 24 rfl rfl
theorem dksL_law_19 : cL_law.data.toList.drop 546 = dktL_law_19 := dk_seg dksL_law_18 24 rfl rfl
theorem dksL_law_20 : cL_law.data.toList.drop 570 = dktL_law_20 := dk_seg dksL_law_19 24 rfl rfl
theorem dksL_law_21 : cL_law.data.toList.drop 593 = dktL_law_21 := dk_seg dksL_law_20 23 rfl rfl
theorem dksL_law_22 : cL_law.data.toList.drop 617 = dktL_law_22 := dk_seg dksL_law_21 24 rfl rfl
theorem dksL_law_23 : cL_law.data.toList.drop 641 = dktL_law_23 := dk_seg dksL_law_22 24 rfl rfl
theorem dksL_law_24 : cL_law.data.toList.drop 665 = dktL_law_24 := dk_seg dksL_law_23 24 rfl rfl
theorem dksL_law_25 : cL_law.data.toList.drop 689 = dktL_law_25 := dk_seg dksL_law_24 24 rfl rfl
theorem dksL_law_26 : cL_law.data.toList.drop 713 = dktL_law_26 := dk_seg dksL_law_25 24 rfl rfl
theorem dksL_law_27 : cL_law.data.toList.drop 737 = dktL_law_27 := dk_seg dksL_law_26 24 rfl rfl
theorem dksL_law_28 : cL_law.data.toList.drop 761 = dktL_law_28 := dk_seg dksL_law_27 24 rfl rfl
theorem dksL_law_29 : cL_law.data.toList.drop 785 = dktL_law_29 := dk_seg dksL_law_28 24 rfl rfl
theorem dksL_law_30 : cL_law.data.toList.drop 809 = dktL_law_30 := dk_seg dksL_law_29 24 rfl rfl
theorem dksL_law_31 : cL_law.data.toList.drop 833 = dktL_law_31 := dk_seg dksL_law_30 24 rfl rfl
theorem dksL_law_32 : cL_law.data.toList.drop 857 = dktL_law_32 := dk_seg dksL_law_31 24 rfl rfl
theorem dksL_law_33 : cL_law.data.toList.drop 881 = dktL_law_33 := dk_seg dksL_law_32 24 rfl rfl
theorem dksL_law_34 : cL_law.data.toList.drop 904 = dktL_law_34 := dk_seg dksL_law_33 23 rfl rfl
theorem dksL_law_35 : cL_law.data.toList.drop 928 = dktL_law_35 := dk_seg dksL_law_34 24 rfl rfl
theorem dksL_law_36 : cL_law.data.toList.drop 952 = dktL_law_36 := dk_seg dksL_law_35 24 rfl rfl
theorem dksL_law_37 : cL_law.data.toList.drop 976 = dktL_law_37 := dk_seg dksL_law_36 24 rfl rfl
theorem dksL_law_38 : cL_law.data.toList.drop 1000 = dktL_law_38 := dk_seg dksL_law_37 24 rfl rfl
theorem dksL_law_39 : cL_law.data.toList.drop 1024 = dktL_law_39 := dk_seg dksL_law_38 24 rfl rfl
theorem dksL_law_40 : cL_law.data.toList.drop 1048 = dktL_law_40 := dk_seg dksL_law_39 24 rfl rfl
theorem dksL_law_41 : cL_law.data.toList.drop 1072 = dktL_law_41 := dk_seg dksL_law_40 24 rfl rfl
theorem dksL_law_42 : cL_law.data.toList.drop 1096 = dktL_law_42 := dk_seg dksL_law_41 24 rfl rfl
theorem dksL_law_43 : cL_law.data.toList.drop 1118 = dktL_law_43 := dk_seg dksL_law_42 22 rfl rfl
theorem dksL_law_44 : cL_law.data.toList.drop 1142 = dktL_law_44 := dk_seg dksL_law_43 24 rfl rfl
theorem dksL_law_45 : cL_law.data.toList.drop 1166 = dktL_law_45 := dk_seg dksL_law_44 24 rfl rfl
theorem dksL_law_46 : cL_law.data.toList.drop 1190 = dktL_law_46 := dk_seg dksL_law_45 24 rfl rfl
theorem dksL_law_47 : cL_law.data.toList.drop 1214 = dktL_law_47 := dk_seg dksL_law_46 24 rfl rfl
theorem dksL_law_48 : cL_law.data.toList.drop 1237 = dktL_law_48 := dk_seg dksL_law_47 23 rfl rfl
theorem dksL_law_49 : cL_law.data.toList.drop 1261 = dktL_law_49 := dk_seg dksL_law_48 24 rfl rfl
theorem dksL_law_50 : cL_law.data.toList.drop 1285 = dktL_law_50 := dk_seg dksL_law_49 24 rfl rfl
theorem dksL_law_51 : cL_law.data.toList.drop 1309 = dktL_law_51 := dk_seg dksL_law_50 24 rfl rfl
theorem dksL_law_52 : cL_law.data.toList.drop 1333 = dktL_law_52 := dk_seg dksL_law_51 24 rfl rfl
theorem dL_law_0 : decode cL_law 0 = .ok (.new 7, 3) := dk_187 0 7 (dk_at dksL_law_0 0 rfl rfl)
theorem dL_law_3 : decode cL_law 3 = .ok (.dup, 1) := dk_89 (dk_at dksL_law_0 3 rfl rfl)
theorem dL_law_4 : decode cL_law 4 = .ok (.invokespecial 9, 3) := dk_183 0 9 (dk_at dksL_law_0 4 rfl rfl)
theorem dL_law_7 : decode cL_law 7 = .ok (.astore_n 1, 1) := dk_76 (dk_at dksL_law_0 7 rfl rfl)
theorem dL_law_8 : decode cL_law 8 = .ok (.new 10, 3) := dk_187 0 10 (dk_at dksL_law_0 8 rfl rfl)
theorem dL_law_11 : decode cL_law 11 = .ok (.dup, 1) := dk_89 (dk_at dksL_law_0 11 rfl rfl)
theorem dL_law_12 : decode cL_law 12 = .ok (.invokespecial 12, 3) := dk_183 0 12 (dk_at dksL_law_0 12 rfl rfl)
theorem dL_law_15 : decode cL_law 15 = .ok (.astore_n 2, 1) := dk_77 (dk_at dksL_law_0 15 rfl rfl)
theorem dL_law_16 : decode cL_law 16 = .ok (.iconst 0, 1) := dk_3 (dk_at dksL_law_0 16 rfl rfl)
theorem dL_law_17 : decode cL_law 17 = .ok (.istore_n 3, 1) := dk_62 (dk_at dksL_law_0 17 rfl rfl)
theorem dL_law_18 : decode cL_law 18 = .ok (.iload_n 3, 1) := dk_29 (dk_at dksL_law_0 18 rfl rfl)
theorem dL_law_19 : decode cL_law 19 = .ok (.aload_n 0, 1) := dk_42 (dk_at dksL_law_0 19 rfl rfl)
theorem dL_law_20 : decode cL_law 20 = .ok (.arraylength, 1) := dk_190 (dk_at dksL_law_0 20 rfl rfl)
theorem dL_law_21 : decode cL_law 21 = .ok (.bipush 7, 2) := dk_16 7 (dk_at dksL_law_0 21 rfl rfl)
theorem dL_law_23 : decode cL_law 23 = .ok (.isub, 1) := dk_100 (dk_at dksL_law_0 23 rfl rfl)
theorem dL_law_24 : decode cL_law 24 = .ok (.if_icmp .gt 1324, 3) := dk_163 5 44 (dk_at dksL_law_1 0 rfl rfl)
theorem dL_law_27 : decode cL_law 27 = .ok (.aload_n 0, 1) := dk_42 (dk_at dksL_law_1 3 rfl rfl)
theorem dL_law_28 : decode cL_law 28 = .ok (.iload_n 3, 1) := dk_29 (dk_at dksL_law_1 4 rfl rfl)
theorem dL_law_29 : decode cL_law 29 = .ok (.iaload, 1) := dk_46 (dk_at dksL_law_1 5 rfl rfl)
theorem dL_law_30 : decode cL_law 30 = .ok (.bipush 31, 2) := dk_16 31 (dk_at dksL_law_1 6 rfl rfl)
theorem dL_law_32 : decode cL_law 32 = .ok (.iand, 1) := dk_126 (dk_at dksL_law_1 8 rfl rfl)
theorem dL_law_33 : decode cL_law 33 = .ok (.tableswitch 1309 0 28 #[131, 164, 187, 220, 253, 277, 321, 354, 429, 452, 505, 568, 631, 654, 698, 741, 775, 808, 884, 928, 991, 1024, 1077, 1090, 1103, 1126, 1169, 1212, 1246], 131) := by decide +kernel
theorem dL_law_164 : decode cL_law 164 = .ok (.aload_n 1, 1) := dk_43 (dk_at dksL_law_3 0 rfl rfl)
theorem dL_law_165 : decode cL_law 165 = .ok (.aload_n 0, 1) := dk_42 (dk_at dksL_law_3 1 rfl rfl)
theorem dL_law_166 : decode cL_law 166 = .ok (.iload_n 3, 1) := dk_29 (dk_at dksL_law_3 2 rfl rfl)
theorem dL_law_167 : decode cL_law 167 = .ok (.iconst 1, 1) := dk_4 (dk_at dksL_law_3 3 rfl rfl)
theorem dL_law_168 : decode cL_law 168 = .ok (.iadd, 1) := dk_96 (dk_at dksL_law_3 4 rfl rfl)
theorem dL_law_169 : decode cL_law 169 = .ok (.iaload, 1) := dk_46 (dk_at dksL_law_3 5 rfl rfl)
theorem dL_law_170 : decode cL_law 170 = .ok (.aload_n 0, 1) := dk_42 (dk_at dksL_law_3 6 rfl rfl)
theorem dL_law_171 : decode cL_law 171 = .ok (.iload_n 3, 1) := dk_29 (dk_at dksL_law_3 7 rfl rfl)
theorem dL_law_172 : decode cL_law 172 = .ok (.iconst 2, 1) := dk_5 (dk_at dksL_law_3 8 rfl rfl)
theorem dL_law_173 : decode cL_law 173 = .ok (.iadd, 1) := dk_96 (dk_at dksL_law_3 9 rfl rfl)
theorem dL_law_174 : decode cL_law 174 = .ok (.iaload, 1) := dk_46 (dk_at dksL_law_3 10 rfl rfl)
theorem dL_law_175 : decode cL_law 175 = .ok (.invokevirtual 13, 3) := dk_182 0 13 (dk_at dksL_law_3 11 rfl rfl)
theorem dL_law_178 : decode cL_law 178 = .ok (.aload_n 2, 1) := dk_44 (dk_at dksL_law_3 14 rfl rfl)
theorem dL_law_179 : decode cL_law 179 = .ok (.aload_n 0, 1) := dk_42 (dk_at dksL_law_3 15 rfl rfl)
theorem dL_law_180 : decode cL_law 180 = .ok (.iload_n 3, 1) := dk_29 (dk_at dksL_law_3 16 rfl rfl)
theorem dL_law_181 : decode cL_law 181 = .ok (.iconst 1, 1) := dk_4 (dk_at dksL_law_3 17 rfl rfl)
theorem dL_law_182 : decode cL_law 182 = .ok (.iadd, 1) := dk_96 (dk_at dksL_law_3 18 rfl rfl)
theorem dL_law_183 : decode cL_law 183 = .ok (.iaload, 1) := dk_46 (dk_at dksL_law_3 19 rfl rfl)
theorem dL_law_184 : decode cL_law 184 = .ok (.aload_n 0, 1) := dk_42 (dk_at dksL_law_3 20 rfl rfl)
theorem dL_law_185 : decode cL_law 185 = .ok (.iload_n 3, 1) := dk_29 (dk_at dksL_law_3 21 rfl rfl)
theorem dL_law_186 : decode cL_law 186 = .ok (.iconst 2, 1) := dk_5 (dk_at dksL_law_3 22 rfl rfl)
theorem dL_law_187 : decode cL_law 187 = .ok (.iadd, 1) := dk_96 (dk_at dksL_law_3 23 rfl rfl)
theorem dL_law_188 : decode cL_law 188 = .ok (.iaload, 1) := dk_46 (dk_at dksL_law_4 0 rfl rfl)
theorem dL_law_189 : decode cL_law 189 = .ok (.invokevirtual 17, 3) := dk_182 0 17 (dk_at dksL_law_4 1 rfl rfl)
theorem dL_law_192 : decode cL_law 192 = .ok (.if_icmp .eq 1150, 3) := dk_159 4 126 (dk_at dksL_law_4 4 rfl rfl)
theorem dL_law_195 : decode cL_law 195 = .ok (.iconst 0, 1) := dk_3 (dk_at dksL_law_4 7 rfl rfl)
theorem dL_law_196 : decode cL_law 196 = .ok (.ireturn, 1) := dk_172 (dk_at dksL_law_4 8 rfl rfl)
theorem dL_law_197 : decode cL_law 197 = .ok (.aload_n 1, 1) := dk_43 (dk_at dksL_law_4 9 rfl rfl)
theorem dL_law_198 : decode cL_law 198 = .ok (.aload_n 0, 1) := dk_42 (dk_at dksL_law_4 10 rfl rfl)
theorem dL_law_199 : decode cL_law 199 = .ok (.iload_n 3, 1) := dk_29 (dk_at dksL_law_4 11 rfl rfl)
theorem dL_law_200 : decode cL_law 200 = .ok (.iconst 1, 1) := dk_4 (dk_at dksL_law_4 12 rfl rfl)
theorem dL_law_201 : decode cL_law 201 = .ok (.iadd, 1) := dk_96 (dk_at dksL_law_4 13 rfl rfl)
theorem dL_law_202 : decode cL_law 202 = .ok (.iaload, 1) := dk_46 (dk_at dksL_law_4 14 rfl rfl)
theorem dL_law_203 : decode cL_law 203 = .ok (.invokevirtual 18, 3) := dk_182 0 18 (dk_at dksL_law_4 15 rfl rfl)
theorem dL_law_206 : decode cL_law 206 = .ok (.aload_n 2, 1) := dk_44 (dk_at dksL_law_4 18 rfl rfl)
theorem dL_law_207 : decode cL_law 207 = .ok (.aload_n 0, 1) := dk_42 (dk_at dksL_law_4 19 rfl rfl)
theorem dL_law_208 : decode cL_law 208 = .ok (.iload_n 3, 1) := dk_29 (dk_at dksL_law_4 20 rfl rfl)
theorem dL_law_209 : decode cL_law 209 = .ok (.iconst 1, 1) := dk_4 (dk_at dksL_law_4 21 rfl rfl)
theorem dL_law_210 : decode cL_law 210 = .ok (.iadd, 1) := dk_96 (dk_at dksL_law_4 22 rfl rfl)
theorem dL_law_211 : decode cL_law 211 = .ok (.iaload, 1) := dk_46 (dk_at dksL_law_4 23 rfl rfl)
theorem dL_law_212 : decode cL_law 212 = .ok (.invokevirtual 22, 3) := dk_182 0 22 (dk_at dksL_law_5 0 rfl rfl)
theorem dL_law_215 : decode cL_law 215 = .ok (.if_icmp .eq 1127, 3) := dk_159 4 103 (dk_at dksL_law_5 3 rfl rfl)
theorem dL_law_218 : decode cL_law 218 = .ok (.iconst 0, 1) := dk_3 (dk_at dksL_law_5 6 rfl rfl)
theorem dL_law_219 : decode cL_law 219 = .ok (.ireturn, 1) := dk_172 (dk_at dksL_law_5 7 rfl rfl)
theorem dL_law_220 : decode cL_law 220 = .ok (.aload_n 1, 1) := dk_43 (dk_at dksL_law_5 8 rfl rfl)
theorem dL_law_221 : decode cL_law 221 = .ok (.aload_n 0, 1) := dk_42 (dk_at dksL_law_5 9 rfl rfl)
theorem dL_law_222 : decode cL_law 222 = .ok (.iload_n 3, 1) := dk_29 (dk_at dksL_law_5 10 rfl rfl)
theorem dL_law_223 : decode cL_law 223 = .ok (.iconst 1, 1) := dk_4 (dk_at dksL_law_5 11 rfl rfl)
theorem dL_law_224 : decode cL_law 224 = .ok (.iadd, 1) := dk_96 (dk_at dksL_law_5 12 rfl rfl)
theorem dL_law_225 : decode cL_law 225 = .ok (.iaload, 1) := dk_46 (dk_at dksL_law_5 13 rfl rfl)
theorem dL_law_226 : decode cL_law 226 = .ok (.aload_n 0, 1) := dk_42 (dk_at dksL_law_5 14 rfl rfl)
theorem dL_law_227 : decode cL_law 227 = .ok (.iload_n 3, 1) := dk_29 (dk_at dksL_law_5 15 rfl rfl)
theorem dL_law_228 : decode cL_law 228 = .ok (.iconst 2, 1) := dk_5 (dk_at dksL_law_5 16 rfl rfl)
theorem dL_law_229 : decode cL_law 229 = .ok (.iadd, 1) := dk_96 (dk_at dksL_law_5 17 rfl rfl)
theorem dL_law_230 : decode cL_law 230 = .ok (.iaload, 1) := dk_46 (dk_at dksL_law_5 18 rfl rfl)
theorem dL_law_231 : decode cL_law 231 = .ok (.invokevirtual 23, 3) := dk_182 0 23 (dk_at dksL_law_5 19 rfl rfl)
theorem dL_law_234 : decode cL_law 234 = .ok (.aload_n 2, 1) := dk_44 (dk_at dksL_law_5 22 rfl rfl)
theorem dL_law_235 : decode cL_law 235 = .ok (.aload_n 0, 1) := dk_42 (dk_at dksL_law_5 23 rfl rfl)
theorem dL_law_236 : decode cL_law 236 = .ok (.iload_n 3, 1) := dk_29 (dk_at dksL_law_6 0 rfl rfl)
theorem dL_law_237 : decode cL_law 237 = .ok (.iconst 1, 1) := dk_4 (dk_at dksL_law_6 1 rfl rfl)
theorem dL_law_238 : decode cL_law 238 = .ok (.iadd, 1) := dk_96 (dk_at dksL_law_6 2 rfl rfl)
theorem dL_law_239 : decode cL_law 239 = .ok (.iaload, 1) := dk_46 (dk_at dksL_law_6 3 rfl rfl)
theorem dL_law_240 : decode cL_law 240 = .ok (.aload_n 0, 1) := dk_42 (dk_at dksL_law_6 4 rfl rfl)
theorem dL_law_241 : decode cL_law 241 = .ok (.iload_n 3, 1) := dk_29 (dk_at dksL_law_6 5 rfl rfl)
theorem dL_law_242 : decode cL_law 242 = .ok (.iconst 2, 1) := dk_5 (dk_at dksL_law_6 6 rfl rfl)
theorem dL_law_243 : decode cL_law 243 = .ok (.iadd, 1) := dk_96 (dk_at dksL_law_6 7 rfl rfl)
theorem dL_law_244 : decode cL_law 244 = .ok (.iaload, 1) := dk_46 (dk_at dksL_law_6 8 rfl rfl)
theorem dL_law_245 : decode cL_law 245 = .ok (.invokevirtual 26, 3) := dk_182 0 26 (dk_at dksL_law_6 9 rfl rfl)
theorem dL_law_248 : decode cL_law 248 = .ok (.if_icmp .eq 1094, 3) := dk_159 4 70 (dk_at dksL_law_6 12 rfl rfl)
theorem dL_law_251 : decode cL_law 251 = .ok (.iconst 0, 1) := dk_3 (dk_at dksL_law_6 15 rfl rfl)
theorem dL_law_252 : decode cL_law 252 = .ok (.ireturn, 1) := dk_172 (dk_at dksL_law_6 16 rfl rfl)
theorem dL_law_253 : decode cL_law 253 = .ok (.aload_n 1, 1) := dk_43 (dk_at dksL_law_6 17 rfl rfl)
theorem dL_law_254 : decode cL_law 254 = .ok (.aload_n 0, 1) := dk_42 (dk_at dksL_law_6 18 rfl rfl)
theorem dL_law_255 : decode cL_law 255 = .ok (.iload_n 3, 1) := dk_29 (dk_at dksL_law_6 19 rfl rfl)
theorem dL_law_256 : decode cL_law 256 = .ok (.iconst 1, 1) := dk_4 (dk_at dksL_law_6 20 rfl rfl)
theorem dL_law_257 : decode cL_law 257 = .ok (.iadd, 1) := dk_96 (dk_at dksL_law_6 21 rfl rfl)
theorem dL_law_258 : decode cL_law 258 = .ok (.iaload, 1) := dk_46 (dk_at dksL_law_6 22 rfl rfl)
theorem dL_law_259 : decode cL_law 259 = .ok (.aload_n 0, 1) := dk_42 (dk_at dksL_law_6 23 rfl rfl)
theorem dL_law_260 : decode cL_law 260 = .ok (.iload_n 3, 1) := dk_29 (dk_at dksL_law_7 0 rfl rfl)
theorem dL_law_261 : decode cL_law 261 = .ok (.iconst 2, 1) := dk_5 (dk_at dksL_law_7 1 rfl rfl)
theorem dL_law_262 : decode cL_law 262 = .ok (.iadd, 1) := dk_96 (dk_at dksL_law_7 2 rfl rfl)
theorem dL_law_263 : decode cL_law 263 = .ok (.iaload, 1) := dk_46 (dk_at dksL_law_7 3 rfl rfl)
theorem dL_law_264 : decode cL_law 264 = .ok (.invokevirtual 27, 3) := dk_182 0 27 (dk_at dksL_law_7 4 rfl rfl)
theorem dL_law_267 : decode cL_law 267 = .ok (.aload_n 2, 1) := dk_44 (dk_at dksL_law_7 7 rfl rfl)
theorem dL_law_268 : decode cL_law 268 = .ok (.aload_n 0, 1) := dk_42 (dk_at dksL_law_7 8 rfl rfl)
theorem dL_law_269 : decode cL_law 269 = .ok (.iload_n 3, 1) := dk_29 (dk_at dksL_law_7 9 rfl rfl)
theorem dL_law_270 : decode cL_law 270 = .ok (.iconst 1, 1) := dk_4 (dk_at dksL_law_7 10 rfl rfl)
theorem dL_law_271 : decode cL_law 271 = .ok (.iadd, 1) := dk_96 (dk_at dksL_law_7 11 rfl rfl)
theorem dL_law_272 : decode cL_law 272 = .ok (.iaload, 1) := dk_46 (dk_at dksL_law_7 12 rfl rfl)
theorem dL_law_273 : decode cL_law 273 = .ok (.aload_n 0, 1) := dk_42 (dk_at dksL_law_7 13 rfl rfl)
theorem dL_law_274 : decode cL_law 274 = .ok (.iload_n 3, 1) := dk_29 (dk_at dksL_law_7 14 rfl rfl)
theorem dL_law_275 : decode cL_law 275 = .ok (.iconst 2, 1) := dk_5 (dk_at dksL_law_7 15 rfl rfl)
theorem dL_law_276 : decode cL_law 276 = .ok (.iadd, 1) := dk_96 (dk_at dksL_law_7 16 rfl rfl)
theorem dL_law_277 : decode cL_law 277 = .ok (.iaload, 1) := dk_46 (dk_at dksL_law_7 17 rfl rfl)
theorem dL_law_278 : decode cL_law 278 = .ok (.invokevirtual 30, 3) := dk_182 0 30 (dk_at dksL_law_7 18 rfl rfl)
theorem dL_law_281 : decode cL_law 281 = .ok (.if_icmp .eq 1061, 3) := dk_159 4 37 (dk_at dksL_law_7 21 rfl rfl)
theorem dL_law_284 : decode cL_law 284 = .ok (.iconst 0, 1) := dk_3 (dk_at dksL_law_8 0 rfl rfl)
theorem dL_law_285 : decode cL_law 285 = .ok (.ireturn, 1) := dk_172 (dk_at dksL_law_8 1 rfl rfl)
theorem dL_law_286 : decode cL_law 286 = .ok (.aload_n 1, 1) := dk_43 (dk_at dksL_law_8 2 rfl rfl)
theorem dL_law_287 : decode cL_law 287 = .ok (.aload_n 0, 1) := dk_42 (dk_at dksL_law_8 3 rfl rfl)
theorem dL_law_288 : decode cL_law 288 = .ok (.iload_n 3, 1) := dk_29 (dk_at dksL_law_8 4 rfl rfl)
theorem dL_law_289 : decode cL_law 289 = .ok (.iconst 1, 1) := dk_4 (dk_at dksL_law_8 5 rfl rfl)
theorem dL_law_290 : decode cL_law 290 = .ok (.iadd, 1) := dk_96 (dk_at dksL_law_8 6 rfl rfl)
theorem dL_law_291 : decode cL_law 291 = .ok (.iaload, 1) := dk_46 (dk_at dksL_law_8 7 rfl rfl)
theorem dL_law_292 : decode cL_law 292 = .ok (.invokevirtual 31, 3) := dk_182 0 31 (dk_at dksL_law_8 8 rfl rfl)
theorem dL_law_295 : decode cL_law 295 = .ok (.aload_n 2, 1) := dk_44 (dk_at dksL_law_8 11 rfl rfl)
theorem dL_law_296 : decode cL_law 296 = .ok (.aload_n 0, 1) := dk_42 (dk_at dksL_law_8 12 rfl rfl)
theorem dL_law_297 : decode cL_law 297 = .ok (.iload_n 3, 1) := dk_29 (dk_at dksL_law_8 13 rfl rfl)
theorem dL_law_298 : decode cL_law 298 = .ok (.iconst 1, 1) := dk_4 (dk_at dksL_law_8 14 rfl rfl)
theorem dL_law_299 : decode cL_law 299 = .ok (.iadd, 1) := dk_96 (dk_at dksL_law_8 15 rfl rfl)
theorem dL_law_300 : decode cL_law 300 = .ok (.iaload, 1) := dk_46 (dk_at dksL_law_8 16 rfl rfl)
theorem dL_law_301 : decode cL_law 301 = .ok (.invokevirtual 35, 3) := dk_182 0 35 (dk_at dksL_law_8 17 rfl rfl)
theorem dL_law_304 : decode cL_law 304 = .ok (.lcmp, 1) := dk_148 (dk_at dksL_law_8 20 rfl rfl)
theorem dL_law_305 : decode cL_law 305 = .ok (.ifCond .eq 1037, 3) := dk_153 4 13 (dk_at dksL_law_8 21 rfl rfl)
theorem dL_law_308 : decode cL_law 308 = .ok (.iconst 0, 1) := dk_3 (dk_at dksL_law_9 0 rfl rfl)
theorem dL_law_309 : decode cL_law 309 = .ok (.ireturn, 1) := dk_172 (dk_at dksL_law_9 1 rfl rfl)
theorem dL_law_310 : decode cL_law 310 = .ok (.aload_n 1, 1) := dk_43 (dk_at dksL_law_9 2 rfl rfl)
theorem dL_law_311 : decode cL_law 311 = .ok (.aload_n 0, 1) := dk_42 (dk_at dksL_law_9 3 rfl rfl)
theorem dL_law_312 : decode cL_law 312 = .ok (.iload_n 3, 1) := dk_29 (dk_at dksL_law_9 4 rfl rfl)
theorem dL_law_313 : decode cL_law 313 = .ok (.iconst 1, 1) := dk_4 (dk_at dksL_law_9 5 rfl rfl)
theorem dL_law_314 : decode cL_law 314 = .ok (.iadd, 1) := dk_96 (dk_at dksL_law_9 6 rfl rfl)
theorem dL_law_315 : decode cL_law 315 = .ok (.iaload, 1) := dk_46 (dk_at dksL_law_9 7 rfl rfl)
theorem dL_law_316 : decode cL_law 316 = .ok (.aload_n 0, 1) := dk_42 (dk_at dksL_law_9 8 rfl rfl)
theorem dL_law_317 : decode cL_law 317 = .ok (.iload_n 3, 1) := dk_29 (dk_at dksL_law_9 9 rfl rfl)
theorem dL_law_318 : decode cL_law 318 = .ok (.iconst 2, 1) := dk_5 (dk_at dksL_law_9 10 rfl rfl)
theorem dL_law_319 : decode cL_law 319 = .ok (.iadd, 1) := dk_96 (dk_at dksL_law_9 11 rfl rfl)
theorem dL_law_320 : decode cL_law 320 = .ok (.iaload, 1) := dk_46 (dk_at dksL_law_9 12 rfl rfl)
theorem dL_law_321 : decode cL_law 321 = .ok (.aload_n 0, 1) := dk_42 (dk_at dksL_law_9 13 rfl rfl)
theorem dL_law_322 : decode cL_law 322 = .ok (.iload_n 3, 1) := dk_29 (dk_at dksL_law_9 14 rfl rfl)
theorem dL_law_323 : decode cL_law 323 = .ok (.iconst 3, 1) := dk_6 (dk_at dksL_law_9 15 rfl rfl)
theorem dL_law_324 : decode cL_law 324 = .ok (.iadd, 1) := dk_96 (dk_at dksL_law_9 16 rfl rfl)
theorem dL_law_325 : decode cL_law 325 = .ok (.iaload, 1) := dk_46 (dk_at dksL_law_9 17 rfl rfl)
theorem dL_law_326 : decode cL_law 326 = .ok (.invokevirtual 36, 3) := dk_182 0 36 (dk_at dksL_law_9 18 rfl rfl)
theorem dL_law_329 : decode cL_law 329 = .ok (.aload_n 2, 1) := dk_44 (dk_at dksL_law_9 21 rfl rfl)
theorem dL_law_330 : decode cL_law 330 = .ok (.aload_n 0, 1) := dk_42 (dk_at dksL_law_9 22 rfl rfl)
theorem dL_law_331 : decode cL_law 331 = .ok (.iload_n 3, 1) := dk_29 (dk_at dksL_law_9 23 rfl rfl)
theorem dL_law_332 : decode cL_law 332 = .ok (.iconst 1, 1) := dk_4 (dk_at dksL_law_10 0 rfl rfl)
theorem dL_law_333 : decode cL_law 333 = .ok (.iadd, 1) := dk_96 (dk_at dksL_law_10 1 rfl rfl)
theorem dL_law_334 : decode cL_law 334 = .ok (.iaload, 1) := dk_46 (dk_at dksL_law_10 2 rfl rfl)
theorem dL_law_335 : decode cL_law 335 = .ok (.aload_n 0, 1) := dk_42 (dk_at dksL_law_10 3 rfl rfl)
theorem dL_law_336 : decode cL_law 336 = .ok (.iload_n 3, 1) := dk_29 (dk_at dksL_law_10 4 rfl rfl)
theorem dL_law_337 : decode cL_law 337 = .ok (.iconst 2, 1) := dk_5 (dk_at dksL_law_10 5 rfl rfl)
theorem dL_law_338 : decode cL_law 338 = .ok (.iadd, 1) := dk_96 (dk_at dksL_law_10 6 rfl rfl)
theorem dL_law_339 : decode cL_law 339 = .ok (.iaload, 1) := dk_46 (dk_at dksL_law_10 7 rfl rfl)
theorem dL_law_340 : decode cL_law 340 = .ok (.aload_n 0, 1) := dk_42 (dk_at dksL_law_10 8 rfl rfl)
theorem dL_law_341 : decode cL_law 341 = .ok (.iload_n 3, 1) := dk_29 (dk_at dksL_law_10 9 rfl rfl)
theorem dL_law_342 : decode cL_law 342 = .ok (.iconst 3, 1) := dk_6 (dk_at dksL_law_10 10 rfl rfl)
theorem dL_law_343 : decode cL_law 343 = .ok (.iadd, 1) := dk_96 (dk_at dksL_law_10 11 rfl rfl)
theorem dL_law_344 : decode cL_law 344 = .ok (.iaload, 1) := dk_46 (dk_at dksL_law_10 12 rfl rfl)
theorem dL_law_345 : decode cL_law 345 = .ok (.invokevirtual 40, 3) := dk_182 0 40 (dk_at dksL_law_10 13 rfl rfl)
theorem dL_law_348 : decode cL_law 348 = .ok (.lcmp, 1) := dk_148 (dk_at dksL_law_10 16 rfl rfl)
theorem dL_law_349 : decode cL_law 349 = .ok (.ifCond .eq 993, 3) := dk_153 3 225 (dk_at dksL_law_10 17 rfl rfl)
theorem dL_law_352 : decode cL_law 352 = .ok (.iconst 0, 1) := dk_3 (dk_at dksL_law_10 20 rfl rfl)
theorem dL_law_353 : decode cL_law 353 = .ok (.ireturn, 1) := dk_172 (dk_at dksL_law_10 21 rfl rfl)
theorem dL_law_354 : decode cL_law 354 = .ok (.aload_n 1, 1) := dk_43 (dk_at dksL_law_10 22 rfl rfl)
theorem dL_law_355 : decode cL_law 355 = .ok (.aload_n 0, 1) := dk_42 (dk_at dksL_law_10 23 rfl rfl)
theorem dL_law_356 : decode cL_law 356 = .ok (.iload_n 3, 1) := dk_29 (dk_at dksL_law_11 0 rfl rfl)
theorem dL_law_357 : decode cL_law 357 = .ok (.iconst 1, 1) := dk_4 (dk_at dksL_law_11 1 rfl rfl)
theorem dL_law_358 : decode cL_law 358 = .ok (.iadd, 1) := dk_96 (dk_at dksL_law_11 2 rfl rfl)
theorem dL_law_359 : decode cL_law 359 = .ok (.iaload, 1) := dk_46 (dk_at dksL_law_11 3 rfl rfl)
theorem dL_law_360 : decode cL_law 360 = .ok (.aload_n 0, 1) := dk_42 (dk_at dksL_law_11 4 rfl rfl)
theorem dL_law_361 : decode cL_law 361 = .ok (.iload_n 3, 1) := dk_29 (dk_at dksL_law_11 5 rfl rfl)
theorem dL_law_362 : decode cL_law 362 = .ok (.iconst 2, 1) := dk_5 (dk_at dksL_law_11 6 rfl rfl)
theorem dL_law_363 : decode cL_law 363 = .ok (.iadd, 1) := dk_96 (dk_at dksL_law_11 7 rfl rfl)
theorem dL_law_364 : decode cL_law 364 = .ok (.iaload, 1) := dk_46 (dk_at dksL_law_11 8 rfl rfl)
theorem dL_law_365 : decode cL_law 365 = .ok (.invokevirtual 41, 3) := dk_182 0 41 (dk_at dksL_law_11 9 rfl rfl)
theorem dL_law_368 : decode cL_law 368 = .ok (.aload_n 2, 1) := dk_44 (dk_at dksL_law_11 12 rfl rfl)
theorem dL_law_369 : decode cL_law 369 = .ok (.aload_n 0, 1) := dk_42 (dk_at dksL_law_11 13 rfl rfl)
theorem dL_law_370 : decode cL_law 370 = .ok (.iload_n 3, 1) := dk_29 (dk_at dksL_law_11 14 rfl rfl)
theorem dL_law_371 : decode cL_law 371 = .ok (.iconst 1, 1) := dk_4 (dk_at dksL_law_11 15 rfl rfl)
theorem dL_law_372 : decode cL_law 372 = .ok (.iadd, 1) := dk_96 (dk_at dksL_law_11 16 rfl rfl)
theorem dL_law_373 : decode cL_law 373 = .ok (.iaload, 1) := dk_46 (dk_at dksL_law_11 17 rfl rfl)
theorem dL_law_374 : decode cL_law 374 = .ok (.aload_n 0, 1) := dk_42 (dk_at dksL_law_11 18 rfl rfl)
theorem dL_law_375 : decode cL_law 375 = .ok (.iload_n 3, 1) := dk_29 (dk_at dksL_law_11 19 rfl rfl)
theorem dL_law_376 : decode cL_law 376 = .ok (.iconst 2, 1) := dk_5 (dk_at dksL_law_11 20 rfl rfl)
theorem dL_law_377 : decode cL_law 377 = .ok (.iadd, 1) := dk_96 (dk_at dksL_law_11 21 rfl rfl)
theorem dL_law_378 : decode cL_law 378 = .ok (.iaload, 1) := dk_46 (dk_at dksL_law_11 22 rfl rfl)
theorem dL_law_379 : decode cL_law 379 = .ok (.invokevirtual 44, 3) := dk_182 0 44 (dk_at dksL_law_12 0 rfl rfl)
theorem dL_law_382 : decode cL_law 382 = .ok (.if_icmp .eq 960, 3) := dk_159 3 192 (dk_at dksL_law_12 3 rfl rfl)
theorem dL_law_385 : decode cL_law 385 = .ok (.iconst 0, 1) := dk_3 (dk_at dksL_law_12 6 rfl rfl)
theorem dL_law_386 : decode cL_law 386 = .ok (.ireturn, 1) := dk_172 (dk_at dksL_law_12 7 rfl rfl)
theorem dL_law_387 : decode cL_law 387 = .ok (.aload_n 1, 1) := dk_43 (dk_at dksL_law_12 8 rfl rfl)
theorem dL_law_388 : decode cL_law 388 = .ok (.aload_n 0, 1) := dk_42 (dk_at dksL_law_12 9 rfl rfl)
theorem dL_law_389 : decode cL_law 389 = .ok (.iload_n 3, 1) := dk_29 (dk_at dksL_law_12 10 rfl rfl)
theorem dL_law_390 : decode cL_law 390 = .ok (.iconst 1, 1) := dk_4 (dk_at dksL_law_12 11 rfl rfl)
theorem dL_law_391 : decode cL_law 391 = .ok (.iadd, 1) := dk_96 (dk_at dksL_law_12 12 rfl rfl)
theorem dL_law_392 : decode cL_law 392 = .ok (.iaload, 1) := dk_46 (dk_at dksL_law_12 13 rfl rfl)
theorem dL_law_393 : decode cL_law 393 = .ok (.aload_n 0, 1) := dk_42 (dk_at dksL_law_12 14 rfl rfl)
theorem dL_law_394 : decode cL_law 394 = .ok (.iload_n 3, 1) := dk_29 (dk_at dksL_law_12 15 rfl rfl)
theorem dL_law_395 : decode cL_law 395 = .ok (.iconst 2, 1) := dk_5 (dk_at dksL_law_12 16 rfl rfl)
theorem dL_law_396 : decode cL_law 396 = .ok (.iadd, 1) := dk_96 (dk_at dksL_law_12 17 rfl rfl)
theorem dL_law_397 : decode cL_law 397 = .ok (.iaload, 1) := dk_46 (dk_at dksL_law_12 18 rfl rfl)
theorem dL_law_398 : decode cL_law 398 = .ok (.aload_n 0, 1) := dk_42 (dk_at dksL_law_12 19 rfl rfl)
theorem dL_law_399 : decode cL_law 399 = .ok (.iload_n 3, 1) := dk_29 (dk_at dksL_law_12 20 rfl rfl)
theorem dL_law_400 : decode cL_law 400 = .ok (.iconst 3, 1) := dk_6 (dk_at dksL_law_12 21 rfl rfl)
theorem dL_law_401 : decode cL_law 401 = .ok (.iadd, 1) := dk_96 (dk_at dksL_law_12 22 rfl rfl)
theorem dL_law_402 : decode cL_law 402 = .ok (.iaload, 1) := dk_46 (dk_at dksL_law_12 23 rfl rfl)
theorem dL_law_403 : decode cL_law 403 = .ok (.aload_n 0, 1) := dk_42 (dk_at dksL_law_13 0 rfl rfl)
theorem dL_law_404 : decode cL_law 404 = .ok (.iload_n 3, 1) := dk_29 (dk_at dksL_law_13 1 rfl rfl)
theorem dL_law_405 : decode cL_law 405 = .ok (.iconst 4, 1) := dk_7 (dk_at dksL_law_13 2 rfl rfl)
theorem dL_law_406 : decode cL_law 406 = .ok (.iadd, 1) := dk_96 (dk_at dksL_law_13 3 rfl rfl)
theorem dL_law_407 : decode cL_law 407 = .ok (.iaload, 1) := dk_46 (dk_at dksL_law_13 4 rfl rfl)
theorem dL_law_408 : decode cL_law 408 = .ok (.aload_n 0, 1) := dk_42 (dk_at dksL_law_13 5 rfl rfl)
theorem dL_law_409 : decode cL_law 409 = .ok (.iload_n 3, 1) := dk_29 (dk_at dksL_law_13 6 rfl rfl)
theorem dL_law_410 : decode cL_law 410 = .ok (.iconst 5, 1) := dk_8 (dk_at dksL_law_13 7 rfl rfl)
theorem dL_law_411 : decode cL_law 411 = .ok (.iadd, 1) := dk_96 (dk_at dksL_law_13 8 rfl rfl)
theorem dL_law_412 : decode cL_law 412 = .ok (.iaload, 1) := dk_46 (dk_at dksL_law_13 9 rfl rfl)
theorem dL_law_413 : decode cL_law 413 = .ok (.aload_n 0, 1) := dk_42 (dk_at dksL_law_13 10 rfl rfl)
theorem dL_law_414 : decode cL_law 414 = .ok (.iload_n 3, 1) := dk_29 (dk_at dksL_law_13 11 rfl rfl)
theorem dL_law_415 : decode cL_law 415 = .ok (.bipush 6, 2) := dk_16 6 (dk_at dksL_law_13 12 rfl rfl)
theorem dL_law_417 : decode cL_law 417 = .ok (.iadd, 1) := dk_96 (dk_at dksL_law_13 14 rfl rfl)
theorem dL_law_418 : decode cL_law 418 = .ok (.iaload, 1) := dk_46 (dk_at dksL_law_13 15 rfl rfl)
theorem dL_law_419 : decode cL_law 419 = .ok (.invokevirtual 45, 3) := dk_182 0 45 (dk_at dksL_law_13 16 rfl rfl)
theorem dL_law_422 : decode cL_law 422 = .ok (.aload_n 2, 1) := dk_44 (dk_at dksL_law_13 19 rfl rfl)
theorem dL_law_423 : decode cL_law 423 = .ok (.aload_n 0, 1) := dk_42 (dk_at dksL_law_13 20 rfl rfl)
theorem dL_law_424 : decode cL_law 424 = .ok (.iload_n 3, 1) := dk_29 (dk_at dksL_law_13 21 rfl rfl)
theorem dL_law_425 : decode cL_law 425 = .ok (.iconst 1, 1) := dk_4 (dk_at dksL_law_13 22 rfl rfl)
theorem dL_law_426 : decode cL_law 426 = .ok (.iadd, 1) := dk_96 (dk_at dksL_law_13 23 rfl rfl)
theorem dL_law_427 : decode cL_law 427 = .ok (.iaload, 1) := dk_46 (dk_at dksL_law_14 0 rfl rfl)
theorem dL_law_428 : decode cL_law 428 = .ok (.aload_n 0, 1) := dk_42 (dk_at dksL_law_14 1 rfl rfl)
theorem dL_law_429 : decode cL_law 429 = .ok (.iload_n 3, 1) := dk_29 (dk_at dksL_law_14 2 rfl rfl)
theorem dL_law_430 : decode cL_law 430 = .ok (.iconst 2, 1) := dk_5 (dk_at dksL_law_14 3 rfl rfl)
theorem dL_law_431 : decode cL_law 431 = .ok (.iadd, 1) := dk_96 (dk_at dksL_law_14 4 rfl rfl)
theorem dL_law_432 : decode cL_law 432 = .ok (.iaload, 1) := dk_46 (dk_at dksL_law_14 5 rfl rfl)
theorem dL_law_433 : decode cL_law 433 = .ok (.aload_n 0, 1) := dk_42 (dk_at dksL_law_14 6 rfl rfl)
theorem dL_law_434 : decode cL_law 434 = .ok (.iload_n 3, 1) := dk_29 (dk_at dksL_law_14 7 rfl rfl)
theorem dL_law_435 : decode cL_law 435 = .ok (.iconst 3, 1) := dk_6 (dk_at dksL_law_14 8 rfl rfl)
theorem dL_law_436 : decode cL_law 436 = .ok (.iadd, 1) := dk_96 (dk_at dksL_law_14 9 rfl rfl)
theorem dL_law_437 : decode cL_law 437 = .ok (.iaload, 1) := dk_46 (dk_at dksL_law_14 10 rfl rfl)
theorem dL_law_438 : decode cL_law 438 = .ok (.aload_n 0, 1) := dk_42 (dk_at dksL_law_14 11 rfl rfl)
theorem dL_law_439 : decode cL_law 439 = .ok (.iload_n 3, 1) := dk_29 (dk_at dksL_law_14 12 rfl rfl)
theorem dL_law_440 : decode cL_law 440 = .ok (.iconst 4, 1) := dk_7 (dk_at dksL_law_14 13 rfl rfl)
theorem dL_law_441 : decode cL_law 441 = .ok (.iadd, 1) := dk_96 (dk_at dksL_law_14 14 rfl rfl)
theorem dL_law_442 : decode cL_law 442 = .ok (.iaload, 1) := dk_46 (dk_at dksL_law_14 15 rfl rfl)
theorem dL_law_443 : decode cL_law 443 = .ok (.aload_n 0, 1) := dk_42 (dk_at dksL_law_14 16 rfl rfl)
theorem dL_law_444 : decode cL_law 444 = .ok (.iload_n 3, 1) := dk_29 (dk_at dksL_law_14 17 rfl rfl)
theorem dL_law_445 : decode cL_law 445 = .ok (.iconst 5, 1) := dk_8 (dk_at dksL_law_14 18 rfl rfl)
theorem dL_law_446 : decode cL_law 446 = .ok (.iadd, 1) := dk_96 (dk_at dksL_law_14 19 rfl rfl)
theorem dL_law_447 : decode cL_law 447 = .ok (.iaload, 1) := dk_46 (dk_at dksL_law_14 20 rfl rfl)
theorem dL_law_448 : decode cL_law 448 = .ok (.aload_n 0, 1) := dk_42 (dk_at dksL_law_14 21 rfl rfl)
theorem dL_law_449 : decode cL_law 449 = .ok (.iload_n 3, 1) := dk_29 (dk_at dksL_law_14 22 rfl rfl)
theorem dL_law_450 : decode cL_law 450 = .ok (.bipush 6, 2) := dk_16 6 (dk_at dksL_law_15 0 rfl rfl)
theorem dL_law_452 : decode cL_law 452 = .ok (.iadd, 1) := dk_96 (dk_at dksL_law_15 2 rfl rfl)
theorem dL_law_453 : decode cL_law 453 = .ok (.iaload, 1) := dk_46 (dk_at dksL_law_15 3 rfl rfl)
theorem dL_law_454 : decode cL_law 454 = .ok (.invokevirtual 49, 3) := dk_182 0 49 (dk_at dksL_law_15 4 rfl rfl)
theorem dL_law_457 : decode cL_law 457 = .ok (.if_icmp .eq 885, 3) := dk_159 3 117 (dk_at dksL_law_15 7 rfl rfl)
theorem dL_law_460 : decode cL_law 460 = .ok (.iconst 0, 1) := dk_3 (dk_at dksL_law_15 10 rfl rfl)
theorem dL_law_461 : decode cL_law 461 = .ok (.ireturn, 1) := dk_172 (dk_at dksL_law_15 11 rfl rfl)
theorem dL_law_462 : decode cL_law 462 = .ok (.aload_n 1, 1) := dk_43 (dk_at dksL_law_15 12 rfl rfl)
theorem dL_law_463 : decode cL_law 463 = .ok (.aload_n 0, 1) := dk_42 (dk_at dksL_law_15 13 rfl rfl)
theorem dL_law_464 : decode cL_law 464 = .ok (.iload_n 3, 1) := dk_29 (dk_at dksL_law_15 14 rfl rfl)
theorem dL_law_465 : decode cL_law 465 = .ok (.iconst 1, 1) := dk_4 (dk_at dksL_law_15 15 rfl rfl)
theorem dL_law_466 : decode cL_law 466 = .ok (.iadd, 1) := dk_96 (dk_at dksL_law_15 16 rfl rfl)
theorem dL_law_467 : decode cL_law 467 = .ok (.iaload, 1) := dk_46 (dk_at dksL_law_15 17 rfl rfl)
theorem dL_law_468 : decode cL_law 468 = .ok (.invokevirtual 50, 3) := dk_182 0 50 (dk_at dksL_law_15 18 rfl rfl)
theorem dL_law_471 : decode cL_law 471 = .ok (.aload_n 2, 1) := dk_44 (dk_at dksL_law_15 21 rfl rfl)
theorem dL_law_472 : decode cL_law 472 = .ok (.aload_n 0, 1) := dk_42 (dk_at dksL_law_15 22 rfl rfl)
theorem dL_law_473 : decode cL_law 473 = .ok (.iload_n 3, 1) := dk_29 (dk_at dksL_law_15 23 rfl rfl)
theorem dL_law_474 : decode cL_law 474 = .ok (.iconst 1, 1) := dk_4 (dk_at dksL_law_16 0 rfl rfl)
theorem dL_law_475 : decode cL_law 475 = .ok (.iadd, 1) := dk_96 (dk_at dksL_law_16 1 rfl rfl)
theorem dL_law_476 : decode cL_law 476 = .ok (.iaload, 1) := dk_46 (dk_at dksL_law_16 2 rfl rfl)
theorem dL_law_477 : decode cL_law 477 = .ok (.invokevirtual 53, 3) := dk_182 0 53 (dk_at dksL_law_16 3 rfl rfl)
theorem dL_law_480 : decode cL_law 480 = .ok (.if_icmp .eq 862, 3) := dk_159 3 94 (dk_at dksL_law_16 6 rfl rfl)
theorem dL_law_483 : decode cL_law 483 = .ok (.iconst 0, 1) := dk_3 (dk_at dksL_law_16 9 rfl rfl)
theorem dL_law_484 : decode cL_law 484 = .ok (.ireturn, 1) := dk_172 (dk_at dksL_law_16 10 rfl rfl)
theorem dL_law_485 : decode cL_law 485 = .ok (.aload_n 1, 1) := dk_43 (dk_at dksL_law_16 11 rfl rfl)
theorem dL_law_486 : decode cL_law 486 = .ok (.aload_n 0, 1) := dk_42 (dk_at dksL_law_16 12 rfl rfl)
theorem dL_law_487 : decode cL_law 487 = .ok (.iload_n 3, 1) := dk_29 (dk_at dksL_law_16 13 rfl rfl)
theorem dL_law_488 : decode cL_law 488 = .ok (.iconst 1, 1) := dk_4 (dk_at dksL_law_16 14 rfl rfl)
theorem dL_law_489 : decode cL_law 489 = .ok (.iadd, 1) := dk_96 (dk_at dksL_law_16 15 rfl rfl)
theorem dL_law_490 : decode cL_law 490 = .ok (.iaload, 1) := dk_46 (dk_at dksL_law_16 16 rfl rfl)
theorem dL_law_491 : decode cL_law 491 = .ok (.aload_n 0, 1) := dk_42 (dk_at dksL_law_16 17 rfl rfl)
theorem dL_law_492 : decode cL_law 492 = .ok (.iload_n 3, 1) := dk_29 (dk_at dksL_law_16 18 rfl rfl)
theorem dL_law_493 : decode cL_law 493 = .ok (.iconst 2, 1) := dk_5 (dk_at dksL_law_16 19 rfl rfl)
theorem dL_law_494 : decode cL_law 494 = .ok (.iadd, 1) := dk_96 (dk_at dksL_law_16 20 rfl rfl)
theorem dL_law_495 : decode cL_law 495 = .ok (.iaload, 1) := dk_46 (dk_at dksL_law_16 21 rfl rfl)
theorem dL_law_496 : decode cL_law 496 = .ok (.aload_n 0, 1) := dk_42 (dk_at dksL_law_16 22 rfl rfl)
theorem dL_law_497 : decode cL_law 497 = .ok (.iload_n 3, 1) := dk_29 (dk_at dksL_law_16 23 rfl rfl)
theorem dL_law_498 : decode cL_law 498 = .ok (.iconst 3, 1) := dk_6 (dk_at dksL_law_17 0 rfl rfl)
theorem dL_law_499 : decode cL_law 499 = .ok (.iadd, 1) := dk_96 (dk_at dksL_law_17 1 rfl rfl)
theorem dL_law_500 : decode cL_law 500 = .ok (.iaload, 1) := dk_46 (dk_at dksL_law_17 2 rfl rfl)
theorem dL_law_501 : decode cL_law 501 = .ok (.aload_n 0, 1) := dk_42 (dk_at dksL_law_17 3 rfl rfl)
theorem dL_law_502 : decode cL_law 502 = .ok (.iload_n 3, 1) := dk_29 (dk_at dksL_law_17 4 rfl rfl)
theorem dL_law_503 : decode cL_law 503 = .ok (.iconst 4, 1) := dk_7 (dk_at dksL_law_17 5 rfl rfl)
theorem dL_law_504 : decode cL_law 504 = .ok (.iadd, 1) := dk_96 (dk_at dksL_law_17 6 rfl rfl)
theorem dL_law_505 : decode cL_law 505 = .ok (.iaload, 1) := dk_46 (dk_at dksL_law_17 7 rfl rfl)
theorem dL_law_506 : decode cL_law 506 = .ok (.invokevirtual 54, 3) := dk_182 0 54 (dk_at dksL_law_17 8 rfl rfl)
theorem dL_law_509 : decode cL_law 509 = .ok (.aload_n 2, 1) := dk_44 (dk_at dksL_law_17 11 rfl rfl)
theorem dL_law_510 : decode cL_law 510 = .ok (.aload_n 0, 1) := dk_42 (dk_at dksL_law_17 12 rfl rfl)
theorem dL_law_511 : decode cL_law 511 = .ok (.iload_n 3, 1) := dk_29 (dk_at dksL_law_17 13 rfl rfl)
theorem dL_law_512 : decode cL_law 512 = .ok (.iconst 1, 1) := dk_4 (dk_at dksL_law_17 14 rfl rfl)
theorem dL_law_513 : decode cL_law 513 = .ok (.iadd, 1) := dk_96 (dk_at dksL_law_17 15 rfl rfl)
theorem dL_law_514 : decode cL_law 514 = .ok (.iaload, 1) := dk_46 (dk_at dksL_law_17 16 rfl rfl)
theorem dL_law_515 : decode cL_law 515 = .ok (.aload_n 0, 1) := dk_42 (dk_at dksL_law_17 17 rfl rfl)
theorem dL_law_516 : decode cL_law 516 = .ok (.iload_n 3, 1) := dk_29 (dk_at dksL_law_17 18 rfl rfl)
theorem dL_law_517 : decode cL_law 517 = .ok (.iconst 2, 1) := dk_5 (dk_at dksL_law_17 19 rfl rfl)
theorem dL_law_518 : decode cL_law 518 = .ok (.iadd, 1) := dk_96 (dk_at dksL_law_17 20 rfl rfl)
theorem dL_law_519 : decode cL_law 519 = .ok (.iaload, 1) := dk_46 (dk_at dksL_law_17 21 rfl rfl)
theorem dL_law_520 : decode cL_law 520 = .ok (.aload_n 0, 1) := dk_42 (dk_at dksL_law_17 22 rfl rfl)
theorem dL_law_521 : decode cL_law 521 = .ok (.iload_n 3, 1) := dk_29 (dk_at dksL_law_17 23 rfl rfl)
theorem dL_law_522 : decode cL_law 522 = .ok (.iconst 3, 1) := dk_6 (dk_at dksL_law_18 0 rfl rfl)
theorem dL_law_523 : decode cL_law 523 = .ok (.iadd, 1) := dk_96 (dk_at dksL_law_18 1 rfl rfl)
theorem dL_law_524 : decode cL_law 524 = .ok (.iaload, 1) := dk_46 (dk_at dksL_law_18 2 rfl rfl)
theorem dL_law_525 : decode cL_law 525 = .ok (.aload_n 0, 1) := dk_42 (dk_at dksL_law_18 3 rfl rfl)
theorem dL_law_526 : decode cL_law 526 = .ok (.iload_n 3, 1) := dk_29 (dk_at dksL_law_18 4 rfl rfl)
theorem dL_law_527 : decode cL_law 527 = .ok (.iconst 4, 1) := dk_7 (dk_at dksL_law_18 5 rfl rfl)
theorem dL_law_528 : decode cL_law 528 = .ok (.iadd, 1) := dk_96 (dk_at dksL_law_18 6 rfl rfl)
theorem dL_law_529 : decode cL_law 529 = .ok (.iaload, 1) := dk_46 (dk_at dksL_law_18 7 rfl rfl)
theorem dL_law_530 : decode cL_law 530 = .ok (.invokevirtual 58, 3) := dk_182 0 58 (dk_at dksL_law_18 8 rfl rfl)
theorem dL_law_533 : decode cL_law 533 = .ok (.if_icmp .eq 809, 3) := dk_159 3 41 (dk_at dksL_law_18 11 rfl rfl)
theorem dL_law_536 : decode cL_law 536 = .ok (.iconst 0, 1) := dk_3 (dk_at dksL_law_18 14 rfl rfl)
theorem dL_law_537 : decode cL_law 537 = .ok (.ireturn, 1) := dk_172 (dk_at dksL_law_18 15 rfl rfl)
theorem dL_law_538 : decode cL_law 538 = .ok (.aload_n 1, 1) := dk_43 (dk_at dksL_law_18 16 rfl rfl)
theorem dL_law_539 : decode cL_law 539 = .ok (.aload_n 0, 1) := dk_42 (dk_at dksL_law_18 17 rfl rfl)
theorem dL_law_540 : decode cL_law 540 = .ok (.iload_n 3, 1) := dk_29 (dk_at dksL_law_18 18 rfl rfl)
theorem dL_law_541 : decode cL_law 541 = .ok (.iconst 1, 1) := dk_4 (dk_at dksL_law_18 19 rfl rfl)
theorem dL_law_542 : decode cL_law 542 = .ok (.iadd, 1) := dk_96 (dk_at dksL_law_18 20 rfl rfl)
theorem dL_law_543 : decode cL_law 543 = .ok (.iaload, 1) := dk_46 (dk_at dksL_law_18 21 rfl rfl)
theorem dL_law_544 : decode cL_law 544 = .ok (.aload_n 0, 1) := dk_42 (dk_at dksL_law_18 22 rfl rfl)
theorem dL_law_545 : decode cL_law 545 = .ok (.iload_n 3, 1) := dk_29 (dk_at dksL_law_18 23 rfl rfl)
theorem dL_law_546 : decode cL_law 546 = .ok (.iconst 2, 1) := dk_5 (dk_at dksL_law_19 0 rfl rfl)
theorem dL_law_547 : decode cL_law 547 = .ok (.iadd, 1) := dk_96 (dk_at dksL_law_19 1 rfl rfl)
theorem dL_law_548 : decode cL_law 548 = .ok (.iaload, 1) := dk_46 (dk_at dksL_law_19 2 rfl rfl)
theorem dL_law_549 : decode cL_law 549 = .ok (.aload_n 0, 1) := dk_42 (dk_at dksL_law_19 3 rfl rfl)
theorem dL_law_550 : decode cL_law 550 = .ok (.iload_n 3, 1) := dk_29 (dk_at dksL_law_19 4 rfl rfl)
theorem dL_law_551 : decode cL_law 551 = .ok (.iconst 3, 1) := dk_6 (dk_at dksL_law_19 5 rfl rfl)
theorem dL_law_552 : decode cL_law 552 = .ok (.iadd, 1) := dk_96 (dk_at dksL_law_19 6 rfl rfl)
theorem dL_law_553 : decode cL_law 553 = .ok (.iaload, 1) := dk_46 (dk_at dksL_law_19 7 rfl rfl)
theorem dL_law_554 : decode cL_law 554 = .ok (.aload_n 0, 1) := dk_42 (dk_at dksL_law_19 8 rfl rfl)
theorem dL_law_555 : decode cL_law 555 = .ok (.iload_n 3, 1) := dk_29 (dk_at dksL_law_19 9 rfl rfl)
theorem dL_law_556 : decode cL_law 556 = .ok (.iconst 4, 1) := dk_7 (dk_at dksL_law_19 10 rfl rfl)
theorem dL_law_557 : decode cL_law 557 = .ok (.iadd, 1) := dk_96 (dk_at dksL_law_19 11 rfl rfl)
theorem dL_law_558 : decode cL_law 558 = .ok (.iaload, 1) := dk_46 (dk_at dksL_law_19 12 rfl rfl)
theorem dL_law_559 : decode cL_law 559 = .ok (.aload_n 0, 1) := dk_42 (dk_at dksL_law_19 13 rfl rfl)
theorem dL_law_560 : decode cL_law 560 = .ok (.iload_n 3, 1) := dk_29 (dk_at dksL_law_19 14 rfl rfl)
theorem dL_law_561 : decode cL_law 561 = .ok (.iconst 5, 1) := dk_8 (dk_at dksL_law_19 15 rfl rfl)
theorem dL_law_562 : decode cL_law 562 = .ok (.iadd, 1) := dk_96 (dk_at dksL_law_19 16 rfl rfl)
theorem dL_law_563 : decode cL_law 563 = .ok (.iaload, 1) := dk_46 (dk_at dksL_law_19 17 rfl rfl)
theorem dL_law_564 : decode cL_law 564 = .ok (.invokevirtual 59, 3) := dk_182 0 59 (dk_at dksL_law_19 18 rfl rfl)
theorem dL_law_567 : decode cL_law 567 = .ok (.aload_n 2, 1) := dk_44 (dk_at dksL_law_19 21 rfl rfl)
theorem dL_law_568 : decode cL_law 568 = .ok (.aload_n 0, 1) := dk_42 (dk_at dksL_law_19 22 rfl rfl)
theorem dL_law_569 : decode cL_law 569 = .ok (.iload_n 3, 1) := dk_29 (dk_at dksL_law_19 23 rfl rfl)
theorem dL_law_570 : decode cL_law 570 = .ok (.iconst 1, 1) := dk_4 (dk_at dksL_law_20 0 rfl rfl)
theorem dL_law_571 : decode cL_law 571 = .ok (.iadd, 1) := dk_96 (dk_at dksL_law_20 1 rfl rfl)
theorem dL_law_572 : decode cL_law 572 = .ok (.iaload, 1) := dk_46 (dk_at dksL_law_20 2 rfl rfl)
theorem dL_law_573 : decode cL_law 573 = .ok (.aload_n 0, 1) := dk_42 (dk_at dksL_law_20 3 rfl rfl)
theorem dL_law_574 : decode cL_law 574 = .ok (.iload_n 3, 1) := dk_29 (dk_at dksL_law_20 4 rfl rfl)
theorem dL_law_575 : decode cL_law 575 = .ok (.iconst 2, 1) := dk_5 (dk_at dksL_law_20 5 rfl rfl)
theorem dL_law_576 : decode cL_law 576 = .ok (.iadd, 1) := dk_96 (dk_at dksL_law_20 6 rfl rfl)
theorem dL_law_577 : decode cL_law 577 = .ok (.iaload, 1) := dk_46 (dk_at dksL_law_20 7 rfl rfl)
theorem dL_law_578 : decode cL_law 578 = .ok (.aload_n 0, 1) := dk_42 (dk_at dksL_law_20 8 rfl rfl)
theorem dL_law_579 : decode cL_law 579 = .ok (.iload_n 3, 1) := dk_29 (dk_at dksL_law_20 9 rfl rfl)
theorem dL_law_580 : decode cL_law 580 = .ok (.iconst 3, 1) := dk_6 (dk_at dksL_law_20 10 rfl rfl)
theorem dL_law_581 : decode cL_law 581 = .ok (.iadd, 1) := dk_96 (dk_at dksL_law_20 11 rfl rfl)
theorem dL_law_582 : decode cL_law 582 = .ok (.iaload, 1) := dk_46 (dk_at dksL_law_20 12 rfl rfl)
theorem dL_law_583 : decode cL_law 583 = .ok (.aload_n 0, 1) := dk_42 (dk_at dksL_law_20 13 rfl rfl)
theorem dL_law_584 : decode cL_law 584 = .ok (.iload_n 3, 1) := dk_29 (dk_at dksL_law_20 14 rfl rfl)
theorem dL_law_585 : decode cL_law 585 = .ok (.iconst 4, 1) := dk_7 (dk_at dksL_law_20 15 rfl rfl)
theorem dL_law_586 : decode cL_law 586 = .ok (.iadd, 1) := dk_96 (dk_at dksL_law_20 16 rfl rfl)
theorem dL_law_587 : decode cL_law 587 = .ok (.iaload, 1) := dk_46 (dk_at dksL_law_20 17 rfl rfl)
theorem dL_law_588 : decode cL_law 588 = .ok (.aload_n 0, 1) := dk_42 (dk_at dksL_law_20 18 rfl rfl)
theorem dL_law_589 : decode cL_law 589 = .ok (.iload_n 3, 1) := dk_29 (dk_at dksL_law_20 19 rfl rfl)
theorem dL_law_590 : decode cL_law 590 = .ok (.iconst 5, 1) := dk_8 (dk_at dksL_law_20 20 rfl rfl)
theorem dL_law_591 : decode cL_law 591 = .ok (.iadd, 1) := dk_96 (dk_at dksL_law_20 21 rfl rfl)
theorem dL_law_592 : decode cL_law 592 = .ok (.iaload, 1) := dk_46 (dk_at dksL_law_20 22 rfl rfl)
theorem dL_law_593 : decode cL_law 593 = .ok (.invokevirtual 63, 3) := dk_182 0 63 (dk_at dksL_law_21 0 rfl rfl)
theorem dL_law_596 : decode cL_law 596 = .ok (.if_icmp .eq 746, 3) := dk_159 2 234 (dk_at dksL_law_21 3 rfl rfl)
theorem dL_law_599 : decode cL_law 599 = .ok (.iconst 0, 1) := dk_3 (dk_at dksL_law_21 6 rfl rfl)
theorem dL_law_600 : decode cL_law 600 = .ok (.ireturn, 1) := dk_172 (dk_at dksL_law_21 7 rfl rfl)
theorem dL_law_601 : decode cL_law 601 = .ok (.aload_n 1, 1) := dk_43 (dk_at dksL_law_21 8 rfl rfl)
theorem dL_law_602 : decode cL_law 602 = .ok (.aload_n 0, 1) := dk_42 (dk_at dksL_law_21 9 rfl rfl)
theorem dL_law_603 : decode cL_law 603 = .ok (.iload_n 3, 1) := dk_29 (dk_at dksL_law_21 10 rfl rfl)
theorem dL_law_604 : decode cL_law 604 = .ok (.iconst 1, 1) := dk_4 (dk_at dksL_law_21 11 rfl rfl)
theorem dL_law_605 : decode cL_law 605 = .ok (.iadd, 1) := dk_96 (dk_at dksL_law_21 12 rfl rfl)
theorem dL_law_606 : decode cL_law 606 = .ok (.iaload, 1) := dk_46 (dk_at dksL_law_21 13 rfl rfl)
theorem dL_law_607 : decode cL_law 607 = .ok (.aload_n 0, 1) := dk_42 (dk_at dksL_law_21 14 rfl rfl)
theorem dL_law_608 : decode cL_law 608 = .ok (.iload_n 3, 1) := dk_29 (dk_at dksL_law_21 15 rfl rfl)
theorem dL_law_609 : decode cL_law 609 = .ok (.iconst 2, 1) := dk_5 (dk_at dksL_law_21 16 rfl rfl)
theorem dL_law_610 : decode cL_law 610 = .ok (.iadd, 1) := dk_96 (dk_at dksL_law_21 17 rfl rfl)
theorem dL_law_611 : decode cL_law 611 = .ok (.iaload, 1) := dk_46 (dk_at dksL_law_21 18 rfl rfl)
theorem dL_law_612 : decode cL_law 612 = .ok (.aload_n 0, 1) := dk_42 (dk_at dksL_law_21 19 rfl rfl)
theorem dL_law_613 : decode cL_law 613 = .ok (.iload_n 3, 1) := dk_29 (dk_at dksL_law_21 20 rfl rfl)
theorem dL_law_614 : decode cL_law 614 = .ok (.iconst 3, 1) := dk_6 (dk_at dksL_law_21 21 rfl rfl)
theorem dL_law_615 : decode cL_law 615 = .ok (.iadd, 1) := dk_96 (dk_at dksL_law_21 22 rfl rfl)
theorem dL_law_616 : decode cL_law 616 = .ok (.iaload, 1) := dk_46 (dk_at dksL_law_21 23 rfl rfl)
theorem dL_law_617 : decode cL_law 617 = .ok (.aload_n 0, 1) := dk_42 (dk_at dksL_law_22 0 rfl rfl)
theorem dL_law_618 : decode cL_law 618 = .ok (.iload_n 3, 1) := dk_29 (dk_at dksL_law_22 1 rfl rfl)
theorem dL_law_619 : decode cL_law 619 = .ok (.iconst 4, 1) := dk_7 (dk_at dksL_law_22 2 rfl rfl)
theorem dL_law_620 : decode cL_law 620 = .ok (.iadd, 1) := dk_96 (dk_at dksL_law_22 3 rfl rfl)
theorem dL_law_621 : decode cL_law 621 = .ok (.iaload, 1) := dk_46 (dk_at dksL_law_22 4 rfl rfl)
theorem dL_law_622 : decode cL_law 622 = .ok (.aload_n 0, 1) := dk_42 (dk_at dksL_law_22 5 rfl rfl)
theorem dL_law_623 : decode cL_law 623 = .ok (.iload_n 3, 1) := dk_29 (dk_at dksL_law_22 6 rfl rfl)
theorem dL_law_624 : decode cL_law 624 = .ok (.iconst 5, 1) := dk_8 (dk_at dksL_law_22 7 rfl rfl)
theorem dL_law_625 : decode cL_law 625 = .ok (.iadd, 1) := dk_96 (dk_at dksL_law_22 8 rfl rfl)
theorem dL_law_626 : decode cL_law 626 = .ok (.iaload, 1) := dk_46 (dk_at dksL_law_22 9 rfl rfl)
theorem dL_law_627 : decode cL_law 627 = .ok (.invokevirtual 64, 3) := dk_182 0 64 (dk_at dksL_law_22 10 rfl rfl)
theorem dL_law_630 : decode cL_law 630 = .ok (.aload_n 2, 1) := dk_44 (dk_at dksL_law_22 13 rfl rfl)
theorem dL_law_631 : decode cL_law 631 = .ok (.aload_n 0, 1) := dk_42 (dk_at dksL_law_22 14 rfl rfl)
theorem dL_law_632 : decode cL_law 632 = .ok (.iload_n 3, 1) := dk_29 (dk_at dksL_law_22 15 rfl rfl)
theorem dL_law_633 : decode cL_law 633 = .ok (.iconst 1, 1) := dk_4 (dk_at dksL_law_22 16 rfl rfl)
theorem dL_law_634 : decode cL_law 634 = .ok (.iadd, 1) := dk_96 (dk_at dksL_law_22 17 rfl rfl)
theorem dL_law_635 : decode cL_law 635 = .ok (.iaload, 1) := dk_46 (dk_at dksL_law_22 18 rfl rfl)
theorem dL_law_636 : decode cL_law 636 = .ok (.aload_n 0, 1) := dk_42 (dk_at dksL_law_22 19 rfl rfl)
theorem dL_law_637 : decode cL_law 637 = .ok (.iload_n 3, 1) := dk_29 (dk_at dksL_law_22 20 rfl rfl)
theorem dL_law_638 : decode cL_law 638 = .ok (.iconst 2, 1) := dk_5 (dk_at dksL_law_22 21 rfl rfl)
theorem dL_law_639 : decode cL_law 639 = .ok (.iadd, 1) := dk_96 (dk_at dksL_law_22 22 rfl rfl)
theorem dL_law_640 : decode cL_law 640 = .ok (.iaload, 1) := dk_46 (dk_at dksL_law_22 23 rfl rfl)
theorem dL_law_641 : decode cL_law 641 = .ok (.aload_n 0, 1) := dk_42 (dk_at dksL_law_23 0 rfl rfl)
theorem dL_law_642 : decode cL_law 642 = .ok (.iload_n 3, 1) := dk_29 (dk_at dksL_law_23 1 rfl rfl)
theorem dL_law_643 : decode cL_law 643 = .ok (.iconst 3, 1) := dk_6 (dk_at dksL_law_23 2 rfl rfl)
theorem dL_law_644 : decode cL_law 644 = .ok (.iadd, 1) := dk_96 (dk_at dksL_law_23 3 rfl rfl)
theorem dL_law_645 : decode cL_law 645 = .ok (.iaload, 1) := dk_46 (dk_at dksL_law_23 4 rfl rfl)
theorem dL_law_646 : decode cL_law 646 = .ok (.aload_n 0, 1) := dk_42 (dk_at dksL_law_23 5 rfl rfl)
theorem dL_law_647 : decode cL_law 647 = .ok (.iload_n 3, 1) := dk_29 (dk_at dksL_law_23 6 rfl rfl)
theorem dL_law_648 : decode cL_law 648 = .ok (.iconst 4, 1) := dk_7 (dk_at dksL_law_23 7 rfl rfl)
theorem dL_law_649 : decode cL_law 649 = .ok (.iadd, 1) := dk_96 (dk_at dksL_law_23 8 rfl rfl)
theorem dL_law_650 : decode cL_law 650 = .ok (.iaload, 1) := dk_46 (dk_at dksL_law_23 9 rfl rfl)
theorem dL_law_651 : decode cL_law 651 = .ok (.aload_n 0, 1) := dk_42 (dk_at dksL_law_23 10 rfl rfl)
theorem dL_law_652 : decode cL_law 652 = .ok (.iload_n 3, 1) := dk_29 (dk_at dksL_law_23 11 rfl rfl)
theorem dL_law_653 : decode cL_law 653 = .ok (.iconst 5, 1) := dk_8 (dk_at dksL_law_23 12 rfl rfl)
theorem dL_law_654 : decode cL_law 654 = .ok (.iadd, 1) := dk_96 (dk_at dksL_law_23 13 rfl rfl)
theorem dL_law_655 : decode cL_law 655 = .ok (.iaload, 1) := dk_46 (dk_at dksL_law_23 14 rfl rfl)
theorem dL_law_656 : decode cL_law 656 = .ok (.invokevirtual 67, 3) := dk_182 0 67 (dk_at dksL_law_23 15 rfl rfl)
theorem dL_law_659 : decode cL_law 659 = .ok (.if_icmp .eq 683, 3) := dk_159 2 171 (dk_at dksL_law_23 18 rfl rfl)
theorem dL_law_662 : decode cL_law 662 = .ok (.iconst 0, 1) := dk_3 (dk_at dksL_law_23 21 rfl rfl)
theorem dL_law_663 : decode cL_law 663 = .ok (.ireturn, 1) := dk_172 (dk_at dksL_law_23 22 rfl rfl)
theorem dL_law_664 : decode cL_law 664 = .ok (.aload_n 1, 1) := dk_43 (dk_at dksL_law_23 23 rfl rfl)
theorem dL_law_665 : decode cL_law 665 = .ok (.aload_n 0, 1) := dk_42 (dk_at dksL_law_24 0 rfl rfl)
theorem dL_law_666 : decode cL_law 666 = .ok (.iload_n 3, 1) := dk_29 (dk_at dksL_law_24 1 rfl rfl)
theorem dL_law_667 : decode cL_law 667 = .ok (.iconst 1, 1) := dk_4 (dk_at dksL_law_24 2 rfl rfl)
theorem dL_law_668 : decode cL_law 668 = .ok (.iadd, 1) := dk_96 (dk_at dksL_law_24 3 rfl rfl)
theorem dL_law_669 : decode cL_law 669 = .ok (.iaload, 1) := dk_46 (dk_at dksL_law_24 4 rfl rfl)
theorem dL_law_670 : decode cL_law 670 = .ok (.invokevirtual 68, 3) := dk_182 0 68 (dk_at dksL_law_24 5 rfl rfl)
theorem dL_law_673 : decode cL_law 673 = .ok (.aload_n 2, 1) := dk_44 (dk_at dksL_law_24 8 rfl rfl)
theorem dL_law_674 : decode cL_law 674 = .ok (.aload_n 0, 1) := dk_42 (dk_at dksL_law_24 9 rfl rfl)
theorem dL_law_675 : decode cL_law 675 = .ok (.iload_n 3, 1) := dk_29 (dk_at dksL_law_24 10 rfl rfl)
theorem dL_law_676 : decode cL_law 676 = .ok (.iconst 1, 1) := dk_4 (dk_at dksL_law_24 11 rfl rfl)
theorem dL_law_677 : decode cL_law 677 = .ok (.iadd, 1) := dk_96 (dk_at dksL_law_24 12 rfl rfl)
theorem dL_law_678 : decode cL_law 678 = .ok (.iaload, 1) := dk_46 (dk_at dksL_law_24 13 rfl rfl)
theorem dL_law_679 : decode cL_law 679 = .ok (.invokevirtual 71, 3) := dk_182 0 71 (dk_at dksL_law_24 14 rfl rfl)
theorem dL_law_682 : decode cL_law 682 = .ok (.if_icmp .eq 660, 3) := dk_159 2 148 (dk_at dksL_law_24 17 rfl rfl)
theorem dL_law_685 : decode cL_law 685 = .ok (.iconst 0, 1) := dk_3 (dk_at dksL_law_24 20 rfl rfl)
theorem dL_law_686 : decode cL_law 686 = .ok (.ireturn, 1) := dk_172 (dk_at dksL_law_24 21 rfl rfl)
theorem dL_law_687 : decode cL_law 687 = .ok (.aload_n 1, 1) := dk_43 (dk_at dksL_law_24 22 rfl rfl)
theorem dL_law_688 : decode cL_law 688 = .ok (.aload_n 0, 1) := dk_42 (dk_at dksL_law_24 23 rfl rfl)
theorem dL_law_689 : decode cL_law 689 = .ok (.iload_n 3, 1) := dk_29 (dk_at dksL_law_25 0 rfl rfl)
theorem dL_law_690 : decode cL_law 690 = .ok (.iconst 1, 1) := dk_4 (dk_at dksL_law_25 1 rfl rfl)
theorem dL_law_691 : decode cL_law 691 = .ok (.iadd, 1) := dk_96 (dk_at dksL_law_25 2 rfl rfl)
theorem dL_law_692 : decode cL_law 692 = .ok (.iaload, 1) := dk_46 (dk_at dksL_law_25 3 rfl rfl)
theorem dL_law_693 : decode cL_law 693 = .ok (.aload_n 0, 1) := dk_42 (dk_at dksL_law_25 4 rfl rfl)
theorem dL_law_694 : decode cL_law 694 = .ok (.iload_n 3, 1) := dk_29 (dk_at dksL_law_25 5 rfl rfl)
theorem dL_law_695 : decode cL_law 695 = .ok (.iconst 2, 1) := dk_5 (dk_at dksL_law_25 6 rfl rfl)
theorem dL_law_696 : decode cL_law 696 = .ok (.iadd, 1) := dk_96 (dk_at dksL_law_25 7 rfl rfl)
theorem dL_law_697 : decode cL_law 697 = .ok (.iaload, 1) := dk_46 (dk_at dksL_law_25 8 rfl rfl)
theorem dL_law_698 : decode cL_law 698 = .ok (.aload_n 0, 1) := dk_42 (dk_at dksL_law_25 9 rfl rfl)
theorem dL_law_699 : decode cL_law 699 = .ok (.iload_n 3, 1) := dk_29 (dk_at dksL_law_25 10 rfl rfl)
theorem dL_law_700 : decode cL_law 700 = .ok (.iconst 3, 1) := dk_6 (dk_at dksL_law_25 11 rfl rfl)
theorem dL_law_701 : decode cL_law 701 = .ok (.iadd, 1) := dk_96 (dk_at dksL_law_25 12 rfl rfl)
theorem dL_law_702 : decode cL_law 702 = .ok (.iaload, 1) := dk_46 (dk_at dksL_law_25 13 rfl rfl)
theorem dL_law_703 : decode cL_law 703 = .ok (.invokevirtual 72, 3) := dk_182 0 72 (dk_at dksL_law_25 14 rfl rfl)
theorem dL_law_706 : decode cL_law 706 = .ok (.aload_n 2, 1) := dk_44 (dk_at dksL_law_25 17 rfl rfl)
theorem dL_law_707 : decode cL_law 707 = .ok (.aload_n 0, 1) := dk_42 (dk_at dksL_law_25 18 rfl rfl)
theorem dL_law_708 : decode cL_law 708 = .ok (.iload_n 3, 1) := dk_29 (dk_at dksL_law_25 19 rfl rfl)
theorem dL_law_709 : decode cL_law 709 = .ok (.iconst 1, 1) := dk_4 (dk_at dksL_law_25 20 rfl rfl)
theorem dL_law_710 : decode cL_law 710 = .ok (.iadd, 1) := dk_96 (dk_at dksL_law_25 21 rfl rfl)
theorem dL_law_711 : decode cL_law 711 = .ok (.iaload, 1) := dk_46 (dk_at dksL_law_25 22 rfl rfl)
theorem dL_law_712 : decode cL_law 712 = .ok (.aload_n 0, 1) := dk_42 (dk_at dksL_law_25 23 rfl rfl)
theorem dL_law_713 : decode cL_law 713 = .ok (.iload_n 3, 1) := dk_29 (dk_at dksL_law_26 0 rfl rfl)
theorem dL_law_714 : decode cL_law 714 = .ok (.iconst 2, 1) := dk_5 (dk_at dksL_law_26 1 rfl rfl)
theorem dL_law_715 : decode cL_law 715 = .ok (.iadd, 1) := dk_96 (dk_at dksL_law_26 2 rfl rfl)
theorem dL_law_716 : decode cL_law 716 = .ok (.iaload, 1) := dk_46 (dk_at dksL_law_26 3 rfl rfl)
theorem dL_law_717 : decode cL_law 717 = .ok (.aload_n 0, 1) := dk_42 (dk_at dksL_law_26 4 rfl rfl)
theorem dL_law_718 : decode cL_law 718 = .ok (.iload_n 3, 1) := dk_29 (dk_at dksL_law_26 5 rfl rfl)
theorem dL_law_719 : decode cL_law 719 = .ok (.iconst 3, 1) := dk_6 (dk_at dksL_law_26 6 rfl rfl)
theorem dL_law_720 : decode cL_law 720 = .ok (.iadd, 1) := dk_96 (dk_at dksL_law_26 7 rfl rfl)
theorem dL_law_721 : decode cL_law 721 = .ok (.iaload, 1) := dk_46 (dk_at dksL_law_26 8 rfl rfl)
theorem dL_law_722 : decode cL_law 722 = .ok (.invokevirtual 75, 3) := dk_182 0 75 (dk_at dksL_law_26 9 rfl rfl)
theorem dL_law_725 : decode cL_law 725 = .ok (.lcmp, 1) := dk_148 (dk_at dksL_law_26 12 rfl rfl)
theorem dL_law_726 : decode cL_law 726 = .ok (.ifCond .eq 616, 3) := dk_153 2 104 (dk_at dksL_law_26 13 rfl rfl)
theorem dL_law_729 : decode cL_law 729 = .ok (.iconst 0, 1) := dk_3 (dk_at dksL_law_26 16 rfl rfl)
theorem dL_law_730 : decode cL_law 730 = .ok (.ireturn, 1) := dk_172 (dk_at dksL_law_26 17 rfl rfl)
theorem dL_law_731 : decode cL_law 731 = .ok (.aload_n 1, 1) := dk_43 (dk_at dksL_law_26 18 rfl rfl)
theorem dL_law_732 : decode cL_law 732 = .ok (.aload_n 0, 1) := dk_42 (dk_at dksL_law_26 19 rfl rfl)
theorem dL_law_733 : decode cL_law 733 = .ok (.iload_n 3, 1) := dk_29 (dk_at dksL_law_26 20 rfl rfl)
theorem dL_law_734 : decode cL_law 734 = .ok (.iconst 1, 1) := dk_4 (dk_at dksL_law_26 21 rfl rfl)
theorem dL_law_735 : decode cL_law 735 = .ok (.iadd, 1) := dk_96 (dk_at dksL_law_26 22 rfl rfl)
theorem dL_law_736 : decode cL_law 736 = .ok (.iaload, 1) := dk_46 (dk_at dksL_law_26 23 rfl rfl)
theorem dL_law_737 : decode cL_law 737 = .ok (.aload_n 0, 1) := dk_42 (dk_at dksL_law_27 0 rfl rfl)
theorem dL_law_738 : decode cL_law 738 = .ok (.iload_n 3, 1) := dk_29 (dk_at dksL_law_27 1 rfl rfl)
theorem dL_law_739 : decode cL_law 739 = .ok (.iconst 2, 1) := dk_5 (dk_at dksL_law_27 2 rfl rfl)
theorem dL_law_740 : decode cL_law 740 = .ok (.iadd, 1) := dk_96 (dk_at dksL_law_27 3 rfl rfl)
theorem dL_law_741 : decode cL_law 741 = .ok (.iaload, 1) := dk_46 (dk_at dksL_law_27 4 rfl rfl)
theorem dL_law_742 : decode cL_law 742 = .ok (.aload_n 0, 1) := dk_42 (dk_at dksL_law_27 5 rfl rfl)
theorem dL_law_743 : decode cL_law 743 = .ok (.iload_n 3, 1) := dk_29 (dk_at dksL_law_27 6 rfl rfl)
theorem dL_law_744 : decode cL_law 744 = .ok (.iconst 3, 1) := dk_6 (dk_at dksL_law_27 7 rfl rfl)
theorem dL_law_745 : decode cL_law 745 = .ok (.iadd, 1) := dk_96 (dk_at dksL_law_27 8 rfl rfl)
theorem dL_law_746 : decode cL_law 746 = .ok (.iaload, 1) := dk_46 (dk_at dksL_law_27 9 rfl rfl)
theorem dL_law_747 : decode cL_law 747 = .ok (.invokevirtual 76, 3) := dk_182 0 76 (dk_at dksL_law_27 10 rfl rfl)
theorem dL_law_750 : decode cL_law 750 = .ok (.aload_n 2, 1) := dk_44 (dk_at dksL_law_27 13 rfl rfl)
theorem dL_law_751 : decode cL_law 751 = .ok (.aload_n 0, 1) := dk_42 (dk_at dksL_law_27 14 rfl rfl)
theorem dL_law_752 : decode cL_law 752 = .ok (.iload_n 3, 1) := dk_29 (dk_at dksL_law_27 15 rfl rfl)
theorem dL_law_753 : decode cL_law 753 = .ok (.iconst 1, 1) := dk_4 (dk_at dksL_law_27 16 rfl rfl)
theorem dL_law_754 : decode cL_law 754 = .ok (.iadd, 1) := dk_96 (dk_at dksL_law_27 17 rfl rfl)
theorem dL_law_755 : decode cL_law 755 = .ok (.iaload, 1) := dk_46 (dk_at dksL_law_27 18 rfl rfl)
theorem dL_law_756 : decode cL_law 756 = .ok (.aload_n 0, 1) := dk_42 (dk_at dksL_law_27 19 rfl rfl)
theorem dL_law_757 : decode cL_law 757 = .ok (.iload_n 3, 1) := dk_29 (dk_at dksL_law_27 20 rfl rfl)
theorem dL_law_758 : decode cL_law 758 = .ok (.iconst 2, 1) := dk_5 (dk_at dksL_law_27 21 rfl rfl)
theorem dL_law_759 : decode cL_law 759 = .ok (.iadd, 1) := dk_96 (dk_at dksL_law_27 22 rfl rfl)
theorem dL_law_760 : decode cL_law 760 = .ok (.iaload, 1) := dk_46 (dk_at dksL_law_27 23 rfl rfl)
theorem dL_law_761 : decode cL_law 761 = .ok (.aload_n 0, 1) := dk_42 (dk_at dksL_law_28 0 rfl rfl)
theorem dL_law_762 : decode cL_law 762 = .ok (.iload_n 3, 1) := dk_29 (dk_at dksL_law_28 1 rfl rfl)
theorem dL_law_763 : decode cL_law 763 = .ok (.iconst 3, 1) := dk_6 (dk_at dksL_law_28 2 rfl rfl)
theorem dL_law_764 : decode cL_law 764 = .ok (.iadd, 1) := dk_96 (dk_at dksL_law_28 3 rfl rfl)
theorem dL_law_765 : decode cL_law 765 = .ok (.iaload, 1) := dk_46 (dk_at dksL_law_28 4 rfl rfl)
theorem dL_law_766 : decode cL_law 766 = .ok (.invokevirtual 80, 3) := dk_182 0 80 (dk_at dksL_law_28 5 rfl rfl)
theorem dL_law_769 : decode cL_law 769 = .ok (.if_icmp .eq 573, 3) := dk_159 2 61 (dk_at dksL_law_28 8 rfl rfl)
theorem dL_law_772 : decode cL_law 772 = .ok (.iconst 0, 1) := dk_3 (dk_at dksL_law_28 11 rfl rfl)
theorem dL_law_773 : decode cL_law 773 = .ok (.ireturn, 1) := dk_172 (dk_at dksL_law_28 12 rfl rfl)
theorem dL_law_774 : decode cL_law 774 = .ok (.aload_n 1, 1) := dk_43 (dk_at dksL_law_28 13 rfl rfl)
theorem dL_law_775 : decode cL_law 775 = .ok (.aload_n 0, 1) := dk_42 (dk_at dksL_law_28 14 rfl rfl)
theorem dL_law_776 : decode cL_law 776 = .ok (.iload_n 3, 1) := dk_29 (dk_at dksL_law_28 15 rfl rfl)
theorem dL_law_777 : decode cL_law 777 = .ok (.iconst 1, 1) := dk_4 (dk_at dksL_law_28 16 rfl rfl)
theorem dL_law_778 : decode cL_law 778 = .ok (.iadd, 1) := dk_96 (dk_at dksL_law_28 17 rfl rfl)
theorem dL_law_779 : decode cL_law 779 = .ok (.iaload, 1) := dk_46 (dk_at dksL_law_28 18 rfl rfl)
theorem dL_law_780 : decode cL_law 780 = .ok (.aload_n 0, 1) := dk_42 (dk_at dksL_law_28 19 rfl rfl)
theorem dL_law_781 : decode cL_law 781 = .ok (.iload_n 3, 1) := dk_29 (dk_at dksL_law_28 20 rfl rfl)
theorem dL_law_782 : decode cL_law 782 = .ok (.iconst 2, 1) := dk_5 (dk_at dksL_law_28 21 rfl rfl)
theorem dL_law_783 : decode cL_law 783 = .ok (.iadd, 1) := dk_96 (dk_at dksL_law_28 22 rfl rfl)
theorem dL_law_784 : decode cL_law 784 = .ok (.iaload, 1) := dk_46 (dk_at dksL_law_28 23 rfl rfl)
theorem dL_law_785 : decode cL_law 785 = .ok (.invokevirtual 81, 3) := dk_182 0 81 (dk_at dksL_law_29 0 rfl rfl)
theorem dL_law_788 : decode cL_law 788 = .ok (.aload_n 2, 1) := dk_44 (dk_at dksL_law_29 3 rfl rfl)
theorem dL_law_789 : decode cL_law 789 = .ok (.aload_n 0, 1) := dk_42 (dk_at dksL_law_29 4 rfl rfl)
theorem dL_law_790 : decode cL_law 790 = .ok (.iload_n 3, 1) := dk_29 (dk_at dksL_law_29 5 rfl rfl)
theorem dL_law_791 : decode cL_law 791 = .ok (.iconst 1, 1) := dk_4 (dk_at dksL_law_29 6 rfl rfl)
theorem dL_law_792 : decode cL_law 792 = .ok (.iadd, 1) := dk_96 (dk_at dksL_law_29 7 rfl rfl)
theorem dL_law_793 : decode cL_law 793 = .ok (.iaload, 1) := dk_46 (dk_at dksL_law_29 8 rfl rfl)
theorem dL_law_794 : decode cL_law 794 = .ok (.aload_n 0, 1) := dk_42 (dk_at dksL_law_29 9 rfl rfl)
theorem dL_law_795 : decode cL_law 795 = .ok (.iload_n 3, 1) := dk_29 (dk_at dksL_law_29 10 rfl rfl)
theorem dL_law_796 : decode cL_law 796 = .ok (.iconst 2, 1) := dk_5 (dk_at dksL_law_29 11 rfl rfl)
theorem dL_law_797 : decode cL_law 797 = .ok (.iadd, 1) := dk_96 (dk_at dksL_law_29 12 rfl rfl)
theorem dL_law_798 : decode cL_law 798 = .ok (.iaload, 1) := dk_46 (dk_at dksL_law_29 13 rfl rfl)
theorem dL_law_799 : decode cL_law 799 = .ok (.invokevirtual 85, 3) := dk_182 0 85 (dk_at dksL_law_29 14 rfl rfl)
theorem dL_law_802 : decode cL_law 802 = .ok (.lcmp, 1) := dk_148 (dk_at dksL_law_29 17 rfl rfl)
theorem dL_law_803 : decode cL_law 803 = .ok (.ifCond .eq 539, 3) := dk_153 2 27 (dk_at dksL_law_29 18 rfl rfl)
theorem dL_law_806 : decode cL_law 806 = .ok (.iconst 0, 1) := dk_3 (dk_at dksL_law_29 21 rfl rfl)
theorem dL_law_807 : decode cL_law 807 = .ok (.ireturn, 1) := dk_172 (dk_at dksL_law_29 22 rfl rfl)
theorem dL_law_808 : decode cL_law 808 = .ok (.aload_n 1, 1) := dk_43 (dk_at dksL_law_29 23 rfl rfl)
theorem dL_law_809 : decode cL_law 809 = .ok (.aload_n 0, 1) := dk_42 (dk_at dksL_law_30 0 rfl rfl)
theorem dL_law_810 : decode cL_law 810 = .ok (.iload_n 3, 1) := dk_29 (dk_at dksL_law_30 1 rfl rfl)
theorem dL_law_811 : decode cL_law 811 = .ok (.iconst 1, 1) := dk_4 (dk_at dksL_law_30 2 rfl rfl)
theorem dL_law_812 : decode cL_law 812 = .ok (.iadd, 1) := dk_96 (dk_at dksL_law_30 3 rfl rfl)
theorem dL_law_813 : decode cL_law 813 = .ok (.iaload, 1) := dk_46 (dk_at dksL_law_30 4 rfl rfl)
theorem dL_law_814 : decode cL_law 814 = .ok (.aload_n 0, 1) := dk_42 (dk_at dksL_law_30 5 rfl rfl)
theorem dL_law_815 : decode cL_law 815 = .ok (.iload_n 3, 1) := dk_29 (dk_at dksL_law_30 6 rfl rfl)
theorem dL_law_816 : decode cL_law 816 = .ok (.iconst 2, 1) := dk_5 (dk_at dksL_law_30 7 rfl rfl)
theorem dL_law_817 : decode cL_law 817 = .ok (.iadd, 1) := dk_96 (dk_at dksL_law_30 8 rfl rfl)
theorem dL_law_818 : decode cL_law 818 = .ok (.iaload, 1) := dk_46 (dk_at dksL_law_30 9 rfl rfl)
theorem dL_law_819 : decode cL_law 819 = .ok (.invokevirtual 86, 3) := dk_182 0 86 (dk_at dksL_law_30 10 rfl rfl)
theorem dL_law_822 : decode cL_law 822 = .ok (.aload_n 2, 1) := dk_44 (dk_at dksL_law_30 13 rfl rfl)
theorem dL_law_823 : decode cL_law 823 = .ok (.aload_n 0, 1) := dk_42 (dk_at dksL_law_30 14 rfl rfl)
theorem dL_law_824 : decode cL_law 824 = .ok (.iload_n 3, 1) := dk_29 (dk_at dksL_law_30 15 rfl rfl)
theorem dL_law_825 : decode cL_law 825 = .ok (.iconst 1, 1) := dk_4 (dk_at dksL_law_30 16 rfl rfl)
theorem dL_law_826 : decode cL_law 826 = .ok (.iadd, 1) := dk_96 (dk_at dksL_law_30 17 rfl rfl)
theorem dL_law_827 : decode cL_law 827 = .ok (.iaload, 1) := dk_46 (dk_at dksL_law_30 18 rfl rfl)
theorem dL_law_828 : decode cL_law 828 = .ok (.aload_n 0, 1) := dk_42 (dk_at dksL_law_30 19 rfl rfl)
theorem dL_law_829 : decode cL_law 829 = .ok (.iload_n 3, 1) := dk_29 (dk_at dksL_law_30 20 rfl rfl)
theorem dL_law_830 : decode cL_law 830 = .ok (.iconst 2, 1) := dk_5 (dk_at dksL_law_30 21 rfl rfl)
theorem dL_law_831 : decode cL_law 831 = .ok (.iadd, 1) := dk_96 (dk_at dksL_law_30 22 rfl rfl)
theorem dL_law_832 : decode cL_law 832 = .ok (.iaload, 1) := dk_46 (dk_at dksL_law_30 23 rfl rfl)
theorem dL_law_833 : decode cL_law 833 = .ok (.invokevirtual 89, 3) := dk_182 0 89 (dk_at dksL_law_31 0 rfl rfl)
theorem dL_law_836 : decode cL_law 836 = .ok (.if_icmp .eq 506, 3) := dk_159 1 250 (dk_at dksL_law_31 3 rfl rfl)
theorem dL_law_839 : decode cL_law 839 = .ok (.iconst 0, 1) := dk_3 (dk_at dksL_law_31 6 rfl rfl)
theorem dL_law_840 : decode cL_law 840 = .ok (.ireturn, 1) := dk_172 (dk_at dksL_law_31 7 rfl rfl)
theorem dL_law_841 : decode cL_law 841 = .ok (.aload_n 1, 1) := dk_43 (dk_at dksL_law_31 8 rfl rfl)
theorem dL_law_842 : decode cL_law 842 = .ok (.aload_n 0, 1) := dk_42 (dk_at dksL_law_31 9 rfl rfl)
theorem dL_law_843 : decode cL_law 843 = .ok (.iload_n 3, 1) := dk_29 (dk_at dksL_law_31 10 rfl rfl)
theorem dL_law_844 : decode cL_law 844 = .ok (.iconst 1, 1) := dk_4 (dk_at dksL_law_31 11 rfl rfl)
theorem dL_law_845 : decode cL_law 845 = .ok (.iadd, 1) := dk_96 (dk_at dksL_law_31 12 rfl rfl)
theorem dL_law_846 : decode cL_law 846 = .ok (.iaload, 1) := dk_46 (dk_at dksL_law_31 13 rfl rfl)
theorem dL_law_847 : decode cL_law 847 = .ok (.aload_n 0, 1) := dk_42 (dk_at dksL_law_31 14 rfl rfl)
theorem dL_law_848 : decode cL_law 848 = .ok (.iload_n 3, 1) := dk_29 (dk_at dksL_law_31 15 rfl rfl)
theorem dL_law_849 : decode cL_law 849 = .ok (.iconst 2, 1) := dk_5 (dk_at dksL_law_31 16 rfl rfl)
theorem dL_law_850 : decode cL_law 850 = .ok (.iadd, 1) := dk_96 (dk_at dksL_law_31 17 rfl rfl)
theorem dL_law_851 : decode cL_law 851 = .ok (.iaload, 1) := dk_46 (dk_at dksL_law_31 18 rfl rfl)
theorem dL_law_852 : decode cL_law 852 = .ok (.aload_n 0, 1) := dk_42 (dk_at dksL_law_31 19 rfl rfl)
theorem dL_law_853 : decode cL_law 853 = .ok (.iload_n 3, 1) := dk_29 (dk_at dksL_law_31 20 rfl rfl)
theorem dL_law_854 : decode cL_law 854 = .ok (.iconst 3, 1) := dk_6 (dk_at dksL_law_31 21 rfl rfl)
theorem dL_law_855 : decode cL_law 855 = .ok (.iadd, 1) := dk_96 (dk_at dksL_law_31 22 rfl rfl)
theorem dL_law_856 : decode cL_law 856 = .ok (.iaload, 1) := dk_46 (dk_at dksL_law_31 23 rfl rfl)
theorem dL_law_857 : decode cL_law 857 = .ok (.aload_n 0, 1) := dk_42 (dk_at dksL_law_32 0 rfl rfl)
theorem dL_law_858 : decode cL_law 858 = .ok (.iload_n 3, 1) := dk_29 (dk_at dksL_law_32 1 rfl rfl)
theorem dL_law_859 : decode cL_law 859 = .ok (.iconst 4, 1) := dk_7 (dk_at dksL_law_32 2 rfl rfl)
theorem dL_law_860 : decode cL_law 860 = .ok (.iadd, 1) := dk_96 (dk_at dksL_law_32 3 rfl rfl)
theorem dL_law_861 : decode cL_law 861 = .ok (.iaload, 1) := dk_46 (dk_at dksL_law_32 4 rfl rfl)
theorem dL_law_862 : decode cL_law 862 = .ok (.aload_n 0, 1) := dk_42 (dk_at dksL_law_32 5 rfl rfl)
theorem dL_law_863 : decode cL_law 863 = .ok (.iload_n 3, 1) := dk_29 (dk_at dksL_law_32 6 rfl rfl)
theorem dL_law_864 : decode cL_law 864 = .ok (.iconst 5, 1) := dk_8 (dk_at dksL_law_32 7 rfl rfl)
theorem dL_law_865 : decode cL_law 865 = .ok (.iadd, 1) := dk_96 (dk_at dksL_law_32 8 rfl rfl)
theorem dL_law_866 : decode cL_law 866 = .ok (.iaload, 1) := dk_46 (dk_at dksL_law_32 9 rfl rfl)
theorem dL_law_867 : decode cL_law 867 = .ok (.aload_n 0, 1) := dk_42 (dk_at dksL_law_32 10 rfl rfl)
theorem dL_law_868 : decode cL_law 868 = .ok (.iload_n 3, 1) := dk_29 (dk_at dksL_law_32 11 rfl rfl)
theorem dL_law_869 : decode cL_law 869 = .ok (.bipush 6, 2) := dk_16 6 (dk_at dksL_law_32 12 rfl rfl)
theorem dL_law_871 : decode cL_law 871 = .ok (.iadd, 1) := dk_96 (dk_at dksL_law_32 14 rfl rfl)
theorem dL_law_872 : decode cL_law 872 = .ok (.iaload, 1) := dk_46 (dk_at dksL_law_32 15 rfl rfl)
theorem dL_law_873 : decode cL_law 873 = .ok (.invokevirtual 90, 3) := dk_182 0 90 (dk_at dksL_law_32 16 rfl rfl)
theorem dL_law_876 : decode cL_law 876 = .ok (.aload_n 2, 1) := dk_44 (dk_at dksL_law_32 19 rfl rfl)
theorem dL_law_877 : decode cL_law 877 = .ok (.aload_n 0, 1) := dk_42 (dk_at dksL_law_32 20 rfl rfl)
theorem dL_law_878 : decode cL_law 878 = .ok (.iload_n 3, 1) := dk_29 (dk_at dksL_law_32 21 rfl rfl)
theorem dL_law_879 : decode cL_law 879 = .ok (.iconst 1, 1) := dk_4 (dk_at dksL_law_32 22 rfl rfl)
theorem dL_law_880 : decode cL_law 880 = .ok (.iadd, 1) := dk_96 (dk_at dksL_law_32 23 rfl rfl)
theorem dL_law_881 : decode cL_law 881 = .ok (.iaload, 1) := dk_46 (dk_at dksL_law_33 0 rfl rfl)
theorem dL_law_882 : decode cL_law 882 = .ok (.aload_n 0, 1) := dk_42 (dk_at dksL_law_33 1 rfl rfl)
theorem dL_law_883 : decode cL_law 883 = .ok (.iload_n 3, 1) := dk_29 (dk_at dksL_law_33 2 rfl rfl)
theorem dL_law_884 : decode cL_law 884 = .ok (.iconst 2, 1) := dk_5 (dk_at dksL_law_33 3 rfl rfl)
theorem dL_law_885 : decode cL_law 885 = .ok (.iadd, 1) := dk_96 (dk_at dksL_law_33 4 rfl rfl)
theorem dL_law_886 : decode cL_law 886 = .ok (.iaload, 1) := dk_46 (dk_at dksL_law_33 5 rfl rfl)
theorem dL_law_887 : decode cL_law 887 = .ok (.aload_n 0, 1) := dk_42 (dk_at dksL_law_33 6 rfl rfl)
theorem dL_law_888 : decode cL_law 888 = .ok (.iload_n 3, 1) := dk_29 (dk_at dksL_law_33 7 rfl rfl)
theorem dL_law_889 : decode cL_law 889 = .ok (.iconst 3, 1) := dk_6 (dk_at dksL_law_33 8 rfl rfl)
theorem dL_law_890 : decode cL_law 890 = .ok (.iadd, 1) := dk_96 (dk_at dksL_law_33 9 rfl rfl)
theorem dL_law_891 : decode cL_law 891 = .ok (.iaload, 1) := dk_46 (dk_at dksL_law_33 10 rfl rfl)
theorem dL_law_892 : decode cL_law 892 = .ok (.aload_n 0, 1) := dk_42 (dk_at dksL_law_33 11 rfl rfl)
theorem dL_law_893 : decode cL_law 893 = .ok (.iload_n 3, 1) := dk_29 (dk_at dksL_law_33 12 rfl rfl)
theorem dL_law_894 : decode cL_law 894 = .ok (.iconst 4, 1) := dk_7 (dk_at dksL_law_33 13 rfl rfl)
theorem dL_law_895 : decode cL_law 895 = .ok (.iadd, 1) := dk_96 (dk_at dksL_law_33 14 rfl rfl)
theorem dL_law_896 : decode cL_law 896 = .ok (.iaload, 1) := dk_46 (dk_at dksL_law_33 15 rfl rfl)
theorem dL_law_897 : decode cL_law 897 = .ok (.aload_n 0, 1) := dk_42 (dk_at dksL_law_33 16 rfl rfl)
theorem dL_law_898 : decode cL_law 898 = .ok (.iload_n 3, 1) := dk_29 (dk_at dksL_law_33 17 rfl rfl)
theorem dL_law_899 : decode cL_law 899 = .ok (.iconst 5, 1) := dk_8 (dk_at dksL_law_33 18 rfl rfl)
theorem dL_law_900 : decode cL_law 900 = .ok (.iadd, 1) := dk_96 (dk_at dksL_law_33 19 rfl rfl)
theorem dL_law_901 : decode cL_law 901 = .ok (.iaload, 1) := dk_46 (dk_at dksL_law_33 20 rfl rfl)
theorem dL_law_902 : decode cL_law 902 = .ok (.aload_n 0, 1) := dk_42 (dk_at dksL_law_33 21 rfl rfl)
theorem dL_law_903 : decode cL_law 903 = .ok (.iload_n 3, 1) := dk_29 (dk_at dksL_law_33 22 rfl rfl)
theorem dL_law_904 : decode cL_law 904 = .ok (.bipush 6, 2) := dk_16 6 (dk_at dksL_law_34 0 rfl rfl)
theorem dL_law_906 : decode cL_law 906 = .ok (.iadd, 1) := dk_96 (dk_at dksL_law_34 2 rfl rfl)
theorem dL_law_907 : decode cL_law 907 = .ok (.iaload, 1) := dk_46 (dk_at dksL_law_34 3 rfl rfl)
theorem dL_law_908 : decode cL_law 908 = .ok (.invokevirtual 94, 3) := dk_182 0 94 (dk_at dksL_law_34 4 rfl rfl)
theorem dL_law_911 : decode cL_law 911 = .ok (.lcmp, 1) := dk_148 (dk_at dksL_law_34 7 rfl rfl)
theorem dL_law_912 : decode cL_law 912 = .ok (.ifCond .eq 430, 3) := dk_153 1 174 (dk_at dksL_law_34 8 rfl rfl)
theorem dL_law_915 : decode cL_law 915 = .ok (.iconst 0, 1) := dk_3 (dk_at dksL_law_34 11 rfl rfl)
theorem dL_law_916 : decode cL_law 916 = .ok (.ireturn, 1) := dk_172 (dk_at dksL_law_34 12 rfl rfl)
theorem dL_law_917 : decode cL_law 917 = .ok (.aload_n 1, 1) := dk_43 (dk_at dksL_law_34 13 rfl rfl)
theorem dL_law_918 : decode cL_law 918 = .ok (.aload_n 0, 1) := dk_42 (dk_at dksL_law_34 14 rfl rfl)
theorem dL_law_919 : decode cL_law 919 = .ok (.iload_n 3, 1) := dk_29 (dk_at dksL_law_34 15 rfl rfl)
theorem dL_law_920 : decode cL_law 920 = .ok (.iconst 1, 1) := dk_4 (dk_at dksL_law_34 16 rfl rfl)
theorem dL_law_921 : decode cL_law 921 = .ok (.iadd, 1) := dk_96 (dk_at dksL_law_34 17 rfl rfl)
theorem dL_law_922 : decode cL_law 922 = .ok (.iaload, 1) := dk_46 (dk_at dksL_law_34 18 rfl rfl)
theorem dL_law_923 : decode cL_law 923 = .ok (.aload_n 0, 1) := dk_42 (dk_at dksL_law_34 19 rfl rfl)
theorem dL_law_924 : decode cL_law 924 = .ok (.iload_n 3, 1) := dk_29 (dk_at dksL_law_34 20 rfl rfl)
theorem dL_law_925 : decode cL_law 925 = .ok (.iconst 2, 1) := dk_5 (dk_at dksL_law_34 21 rfl rfl)
theorem dL_law_926 : decode cL_law 926 = .ok (.iadd, 1) := dk_96 (dk_at dksL_law_34 22 rfl rfl)
theorem dL_law_927 : decode cL_law 927 = .ok (.iaload, 1) := dk_46 (dk_at dksL_law_34 23 rfl rfl)
theorem dL_law_928 : decode cL_law 928 = .ok (.aload_n 0, 1) := dk_42 (dk_at dksL_law_35 0 rfl rfl)
theorem dL_law_929 : decode cL_law 929 = .ok (.iload_n 3, 1) := dk_29 (dk_at dksL_law_35 1 rfl rfl)
theorem dL_law_930 : decode cL_law 930 = .ok (.iconst 3, 1) := dk_6 (dk_at dksL_law_35 2 rfl rfl)
theorem dL_law_931 : decode cL_law 931 = .ok (.iadd, 1) := dk_96 (dk_at dksL_law_35 3 rfl rfl)
theorem dL_law_932 : decode cL_law 932 = .ok (.iaload, 1) := dk_46 (dk_at dksL_law_35 4 rfl rfl)
theorem dL_law_933 : decode cL_law 933 = .ok (.invokevirtual 95, 3) := dk_182 0 95 (dk_at dksL_law_35 5 rfl rfl)
theorem dL_law_936 : decode cL_law 936 = .ok (.aload_n 2, 1) := dk_44 (dk_at dksL_law_35 8 rfl rfl)
theorem dL_law_937 : decode cL_law 937 = .ok (.aload_n 0, 1) := dk_42 (dk_at dksL_law_35 9 rfl rfl)
theorem dL_law_938 : decode cL_law 938 = .ok (.iload_n 3, 1) := dk_29 (dk_at dksL_law_35 10 rfl rfl)
theorem dL_law_939 : decode cL_law 939 = .ok (.iconst 1, 1) := dk_4 (dk_at dksL_law_35 11 rfl rfl)
theorem dL_law_940 : decode cL_law 940 = .ok (.iadd, 1) := dk_96 (dk_at dksL_law_35 12 rfl rfl)
theorem dL_law_941 : decode cL_law 941 = .ok (.iaload, 1) := dk_46 (dk_at dksL_law_35 13 rfl rfl)
theorem dL_law_942 : decode cL_law 942 = .ok (.aload_n 0, 1) := dk_42 (dk_at dksL_law_35 14 rfl rfl)
theorem dL_law_943 : decode cL_law 943 = .ok (.iload_n 3, 1) := dk_29 (dk_at dksL_law_35 15 rfl rfl)
theorem dL_law_944 : decode cL_law 944 = .ok (.iconst 2, 1) := dk_5 (dk_at dksL_law_35 16 rfl rfl)
theorem dL_law_945 : decode cL_law 945 = .ok (.iadd, 1) := dk_96 (dk_at dksL_law_35 17 rfl rfl)
theorem dL_law_946 : decode cL_law 946 = .ok (.iaload, 1) := dk_46 (dk_at dksL_law_35 18 rfl rfl)
theorem dL_law_947 : decode cL_law 947 = .ok (.aload_n 0, 1) := dk_42 (dk_at dksL_law_35 19 rfl rfl)
theorem dL_law_948 : decode cL_law 948 = .ok (.iload_n 3, 1) := dk_29 (dk_at dksL_law_35 20 rfl rfl)
theorem dL_law_949 : decode cL_law 949 = .ok (.iconst 3, 1) := dk_6 (dk_at dksL_law_35 21 rfl rfl)
theorem dL_law_950 : decode cL_law 950 = .ok (.iadd, 1) := dk_96 (dk_at dksL_law_35 22 rfl rfl)
theorem dL_law_951 : decode cL_law 951 = .ok (.iaload, 1) := dk_46 (dk_at dksL_law_35 23 rfl rfl)
theorem dL_law_952 : decode cL_law 952 = .ok (.invokevirtual 98, 3) := dk_182 0 98 (dk_at dksL_law_36 0 rfl rfl)
theorem dL_law_955 : decode cL_law 955 = .ok (.lcmp, 1) := dk_148 (dk_at dksL_law_36 3 rfl rfl)
theorem dL_law_956 : decode cL_law 956 = .ok (.ifCond .eq 386, 3) := dk_153 1 130 (dk_at dksL_law_36 4 rfl rfl)
theorem dL_law_959 : decode cL_law 959 = .ok (.iconst 0, 1) := dk_3 (dk_at dksL_law_36 7 rfl rfl)
theorem dL_law_960 : decode cL_law 960 = .ok (.ireturn, 1) := dk_172 (dk_at dksL_law_36 8 rfl rfl)
theorem dL_law_961 : decode cL_law 961 = .ok (.aload_n 1, 1) := dk_43 (dk_at dksL_law_36 9 rfl rfl)
theorem dL_law_962 : decode cL_law 962 = .ok (.aload_n 0, 1) := dk_42 (dk_at dksL_law_36 10 rfl rfl)
theorem dL_law_963 : decode cL_law 963 = .ok (.iload_n 3, 1) := dk_29 (dk_at dksL_law_36 11 rfl rfl)
theorem dL_law_964 : decode cL_law 964 = .ok (.iconst 1, 1) := dk_4 (dk_at dksL_law_36 12 rfl rfl)
theorem dL_law_965 : decode cL_law 965 = .ok (.iadd, 1) := dk_96 (dk_at dksL_law_36 13 rfl rfl)
theorem dL_law_966 : decode cL_law 966 = .ok (.iaload, 1) := dk_46 (dk_at dksL_law_36 14 rfl rfl)
theorem dL_law_967 : decode cL_law 967 = .ok (.aload_n 0, 1) := dk_42 (dk_at dksL_law_36 15 rfl rfl)
theorem dL_law_968 : decode cL_law 968 = .ok (.iload_n 3, 1) := dk_29 (dk_at dksL_law_36 16 rfl rfl)
theorem dL_law_969 : decode cL_law 969 = .ok (.iconst 2, 1) := dk_5 (dk_at dksL_law_36 17 rfl rfl)
theorem dL_law_970 : decode cL_law 970 = .ok (.iadd, 1) := dk_96 (dk_at dksL_law_36 18 rfl rfl)
theorem dL_law_971 : decode cL_law 971 = .ok (.iaload, 1) := dk_46 (dk_at dksL_law_36 19 rfl rfl)
theorem dL_law_972 : decode cL_law 972 = .ok (.aload_n 0, 1) := dk_42 (dk_at dksL_law_36 20 rfl rfl)
theorem dL_law_973 : decode cL_law 973 = .ok (.iload_n 3, 1) := dk_29 (dk_at dksL_law_36 21 rfl rfl)
theorem dL_law_974 : decode cL_law 974 = .ok (.iconst 3, 1) := dk_6 (dk_at dksL_law_36 22 rfl rfl)
theorem dL_law_975 : decode cL_law 975 = .ok (.iadd, 1) := dk_96 (dk_at dksL_law_36 23 rfl rfl)
theorem dL_law_976 : decode cL_law 976 = .ok (.iaload, 1) := dk_46 (dk_at dksL_law_37 0 rfl rfl)
theorem dL_law_977 : decode cL_law 977 = .ok (.aload_n 0, 1) := dk_42 (dk_at dksL_law_37 1 rfl rfl)
theorem dL_law_978 : decode cL_law 978 = .ok (.iload_n 3, 1) := dk_29 (dk_at dksL_law_37 2 rfl rfl)
theorem dL_law_979 : decode cL_law 979 = .ok (.iconst 4, 1) := dk_7 (dk_at dksL_law_37 3 rfl rfl)
theorem dL_law_980 : decode cL_law 980 = .ok (.iadd, 1) := dk_96 (dk_at dksL_law_37 4 rfl rfl)
theorem dL_law_981 : decode cL_law 981 = .ok (.iaload, 1) := dk_46 (dk_at dksL_law_37 5 rfl rfl)
theorem dL_law_982 : decode cL_law 982 = .ok (.aload_n 0, 1) := dk_42 (dk_at dksL_law_37 6 rfl rfl)
theorem dL_law_983 : decode cL_law 983 = .ok (.iload_n 3, 1) := dk_29 (dk_at dksL_law_37 7 rfl rfl)
theorem dL_law_984 : decode cL_law 984 = .ok (.iconst 5, 1) := dk_8 (dk_at dksL_law_37 8 rfl rfl)
theorem dL_law_985 : decode cL_law 985 = .ok (.iadd, 1) := dk_96 (dk_at dksL_law_37 9 rfl rfl)
theorem dL_law_986 : decode cL_law 986 = .ok (.iaload, 1) := dk_46 (dk_at dksL_law_37 10 rfl rfl)
theorem dL_law_987 : decode cL_law 987 = .ok (.invokevirtual 99, 3) := dk_182 0 99 (dk_at dksL_law_37 11 rfl rfl)
theorem dL_law_990 : decode cL_law 990 = .ok (.aload_n 2, 1) := dk_44 (dk_at dksL_law_37 14 rfl rfl)
theorem dL_law_991 : decode cL_law 991 = .ok (.aload_n 0, 1) := dk_42 (dk_at dksL_law_37 15 rfl rfl)
theorem dL_law_992 : decode cL_law 992 = .ok (.iload_n 3, 1) := dk_29 (dk_at dksL_law_37 16 rfl rfl)
theorem dL_law_993 : decode cL_law 993 = .ok (.iconst 1, 1) := dk_4 (dk_at dksL_law_37 17 rfl rfl)
theorem dL_law_994 : decode cL_law 994 = .ok (.iadd, 1) := dk_96 (dk_at dksL_law_37 18 rfl rfl)
theorem dL_law_995 : decode cL_law 995 = .ok (.iaload, 1) := dk_46 (dk_at dksL_law_37 19 rfl rfl)
theorem dL_law_996 : decode cL_law 996 = .ok (.aload_n 0, 1) := dk_42 (dk_at dksL_law_37 20 rfl rfl)
theorem dL_law_997 : decode cL_law 997 = .ok (.iload_n 3, 1) := dk_29 (dk_at dksL_law_37 21 rfl rfl)
theorem dL_law_998 : decode cL_law 998 = .ok (.iconst 2, 1) := dk_5 (dk_at dksL_law_37 22 rfl rfl)
theorem dL_law_999 : decode cL_law 999 = .ok (.iadd, 1) := dk_96 (dk_at dksL_law_37 23 rfl rfl)
theorem dL_law_1000 : decode cL_law 1000 = .ok (.iaload, 1) := dk_46 (dk_at dksL_law_38 0 rfl rfl)
theorem dL_law_1001 : decode cL_law 1001 = .ok (.aload_n 0, 1) := dk_42 (dk_at dksL_law_38 1 rfl rfl)
theorem dL_law_1002 : decode cL_law 1002 = .ok (.iload_n 3, 1) := dk_29 (dk_at dksL_law_38 2 rfl rfl)
theorem dL_law_1003 : decode cL_law 1003 = .ok (.iconst 3, 1) := dk_6 (dk_at dksL_law_38 3 rfl rfl)
theorem dL_law_1004 : decode cL_law 1004 = .ok (.iadd, 1) := dk_96 (dk_at dksL_law_38 4 rfl rfl)
theorem dL_law_1005 : decode cL_law 1005 = .ok (.iaload, 1) := dk_46 (dk_at dksL_law_38 5 rfl rfl)
theorem dL_law_1006 : decode cL_law 1006 = .ok (.aload_n 0, 1) := dk_42 (dk_at dksL_law_38 6 rfl rfl)
theorem dL_law_1007 : decode cL_law 1007 = .ok (.iload_n 3, 1) := dk_29 (dk_at dksL_law_38 7 rfl rfl)
theorem dL_law_1008 : decode cL_law 1008 = .ok (.iconst 4, 1) := dk_7 (dk_at dksL_law_38 8 rfl rfl)
theorem dL_law_1009 : decode cL_law 1009 = .ok (.iadd, 1) := dk_96 (dk_at dksL_law_38 9 rfl rfl)
theorem dL_law_1010 : decode cL_law 1010 = .ok (.iaload, 1) := dk_46 (dk_at dksL_law_38 10 rfl rfl)
theorem dL_law_1011 : decode cL_law 1011 = .ok (.aload_n 0, 1) := dk_42 (dk_at dksL_law_38 11 rfl rfl)
theorem dL_law_1012 : decode cL_law 1012 = .ok (.iload_n 3, 1) := dk_29 (dk_at dksL_law_38 12 rfl rfl)
theorem dL_law_1013 : decode cL_law 1013 = .ok (.iconst 5, 1) := dk_8 (dk_at dksL_law_38 13 rfl rfl)
theorem dL_law_1014 : decode cL_law 1014 = .ok (.iadd, 1) := dk_96 (dk_at dksL_law_38 14 rfl rfl)
theorem dL_law_1015 : decode cL_law 1015 = .ok (.iaload, 1) := dk_46 (dk_at dksL_law_38 15 rfl rfl)
theorem dL_law_1016 : decode cL_law 1016 = .ok (.invokevirtual 102, 3) := dk_182 0 102 (dk_at dksL_law_38 16 rfl rfl)
theorem dL_law_1019 : decode cL_law 1019 = .ok (.if_icmp .eq 323, 3) := dk_159 1 67 (dk_at dksL_law_38 19 rfl rfl)
theorem dL_law_1022 : decode cL_law 1022 = .ok (.iconst 0, 1) := dk_3 (dk_at dksL_law_38 22 rfl rfl)
theorem dL_law_1023 : decode cL_law 1023 = .ok (.ireturn, 1) := dk_172 (dk_at dksL_law_38 23 rfl rfl)
theorem dL_law_1024 : decode cL_law 1024 = .ok (.aload_n 1, 1) := dk_43 (dk_at dksL_law_39 0 rfl rfl)
theorem dL_law_1025 : decode cL_law 1025 = .ok (.aload_n 0, 1) := dk_42 (dk_at dksL_law_39 1 rfl rfl)
theorem dL_law_1026 : decode cL_law 1026 = .ok (.iload_n 3, 1) := dk_29 (dk_at dksL_law_39 2 rfl rfl)
theorem dL_law_1027 : decode cL_law 1027 = .ok (.iconst 1, 1) := dk_4 (dk_at dksL_law_39 3 rfl rfl)
theorem dL_law_1028 : decode cL_law 1028 = .ok (.iadd, 1) := dk_96 (dk_at dksL_law_39 4 rfl rfl)
theorem dL_law_1029 : decode cL_law 1029 = .ok (.iaload, 1) := dk_46 (dk_at dksL_law_39 5 rfl rfl)
theorem dL_law_1030 : decode cL_law 1030 = .ok (.aload_n 0, 1) := dk_42 (dk_at dksL_law_39 6 rfl rfl)
theorem dL_law_1031 : decode cL_law 1031 = .ok (.iload_n 3, 1) := dk_29 (dk_at dksL_law_39 7 rfl rfl)
theorem dL_law_1032 : decode cL_law 1032 = .ok (.iconst 2, 1) := dk_5 (dk_at dksL_law_39 8 rfl rfl)
theorem dL_law_1033 : decode cL_law 1033 = .ok (.iadd, 1) := dk_96 (dk_at dksL_law_39 9 rfl rfl)
theorem dL_law_1034 : decode cL_law 1034 = .ok (.iaload, 1) := dk_46 (dk_at dksL_law_39 10 rfl rfl)
theorem dL_law_1035 : decode cL_law 1035 = .ok (.invokevirtual 103, 3) := dk_182 0 103 (dk_at dksL_law_39 11 rfl rfl)
theorem dL_law_1038 : decode cL_law 1038 = .ok (.aload_n 2, 1) := dk_44 (dk_at dksL_law_39 14 rfl rfl)
theorem dL_law_1039 : decode cL_law 1039 = .ok (.aload_n 0, 1) := dk_42 (dk_at dksL_law_39 15 rfl rfl)
theorem dL_law_1040 : decode cL_law 1040 = .ok (.iload_n 3, 1) := dk_29 (dk_at dksL_law_39 16 rfl rfl)
theorem dL_law_1041 : decode cL_law 1041 = .ok (.iconst 1, 1) := dk_4 (dk_at dksL_law_39 17 rfl rfl)
theorem dL_law_1042 : decode cL_law 1042 = .ok (.iadd, 1) := dk_96 (dk_at dksL_law_39 18 rfl rfl)
theorem dL_law_1043 : decode cL_law 1043 = .ok (.iaload, 1) := dk_46 (dk_at dksL_law_39 19 rfl rfl)
theorem dL_law_1044 : decode cL_law 1044 = .ok (.aload_n 0, 1) := dk_42 (dk_at dksL_law_39 20 rfl rfl)
theorem dL_law_1045 : decode cL_law 1045 = .ok (.iload_n 3, 1) := dk_29 (dk_at dksL_law_39 21 rfl rfl)
theorem dL_law_1046 : decode cL_law 1046 = .ok (.iconst 2, 1) := dk_5 (dk_at dksL_law_39 22 rfl rfl)
theorem dL_law_1047 : decode cL_law 1047 = .ok (.iadd, 1) := dk_96 (dk_at dksL_law_39 23 rfl rfl)
theorem dL_law_1048 : decode cL_law 1048 = .ok (.iaload, 1) := dk_46 (dk_at dksL_law_40 0 rfl rfl)
theorem dL_law_1049 : decode cL_law 1049 = .ok (.invokevirtual 106, 3) := dk_182 0 106 (dk_at dksL_law_40 1 rfl rfl)
theorem dL_law_1052 : decode cL_law 1052 = .ok (.if_icmp .eq 290, 3) := dk_159 1 34 (dk_at dksL_law_40 4 rfl rfl)
theorem dL_law_1055 : decode cL_law 1055 = .ok (.iconst 0, 1) := dk_3 (dk_at dksL_law_40 7 rfl rfl)
theorem dL_law_1056 : decode cL_law 1056 = .ok (.ireturn, 1) := dk_172 (dk_at dksL_law_40 8 rfl rfl)
theorem dL_law_1057 : decode cL_law 1057 = .ok (.aload_n 1, 1) := dk_43 (dk_at dksL_law_40 9 rfl rfl)
theorem dL_law_1058 : decode cL_law 1058 = .ok (.aload_n 0, 1) := dk_42 (dk_at dksL_law_40 10 rfl rfl)
theorem dL_law_1059 : decode cL_law 1059 = .ok (.iload_n 3, 1) := dk_29 (dk_at dksL_law_40 11 rfl rfl)
theorem dL_law_1060 : decode cL_law 1060 = .ok (.iconst 1, 1) := dk_4 (dk_at dksL_law_40 12 rfl rfl)
theorem dL_law_1061 : decode cL_law 1061 = .ok (.iadd, 1) := dk_96 (dk_at dksL_law_40 13 rfl rfl)
theorem dL_law_1062 : decode cL_law 1062 = .ok (.iaload, 1) := dk_46 (dk_at dksL_law_40 14 rfl rfl)
theorem dL_law_1063 : decode cL_law 1063 = .ok (.aload_n 0, 1) := dk_42 (dk_at dksL_law_40 15 rfl rfl)
theorem dL_law_1064 : decode cL_law 1064 = .ok (.iload_n 3, 1) := dk_29 (dk_at dksL_law_40 16 rfl rfl)
theorem dL_law_1065 : decode cL_law 1065 = .ok (.iconst 2, 1) := dk_5 (dk_at dksL_law_40 17 rfl rfl)
theorem dL_law_1066 : decode cL_law 1066 = .ok (.iadd, 1) := dk_96 (dk_at dksL_law_40 18 rfl rfl)
theorem dL_law_1067 : decode cL_law 1067 = .ok (.iaload, 1) := dk_46 (dk_at dksL_law_40 19 rfl rfl)
theorem dL_law_1068 : decode cL_law 1068 = .ok (.aload_n 0, 1) := dk_42 (dk_at dksL_law_40 20 rfl rfl)
theorem dL_law_1069 : decode cL_law 1069 = .ok (.iload_n 3, 1) := dk_29 (dk_at dksL_law_40 21 rfl rfl)
theorem dL_law_1070 : decode cL_law 1070 = .ok (.iconst 3, 1) := dk_6 (dk_at dksL_law_40 22 rfl rfl)
theorem dL_law_1071 : decode cL_law 1071 = .ok (.iadd, 1) := dk_96 (dk_at dksL_law_40 23 rfl rfl)
theorem dL_law_1072 : decode cL_law 1072 = .ok (.iaload, 1) := dk_46 (dk_at dksL_law_41 0 rfl rfl)
theorem dL_law_1073 : decode cL_law 1073 = .ok (.aload_n 0, 1) := dk_42 (dk_at dksL_law_41 1 rfl rfl)
theorem dL_law_1074 : decode cL_law 1074 = .ok (.iload_n 3, 1) := dk_29 (dk_at dksL_law_41 2 rfl rfl)
theorem dL_law_1075 : decode cL_law 1075 = .ok (.iconst 4, 1) := dk_7 (dk_at dksL_law_41 3 rfl rfl)
theorem dL_law_1076 : decode cL_law 1076 = .ok (.iadd, 1) := dk_96 (dk_at dksL_law_41 4 rfl rfl)
theorem dL_law_1077 : decode cL_law 1077 = .ok (.iaload, 1) := dk_46 (dk_at dksL_law_41 5 rfl rfl)
theorem dL_law_1078 : decode cL_law 1078 = .ok (.invokevirtual 107, 3) := dk_182 0 107 (dk_at dksL_law_41 6 rfl rfl)
theorem dL_law_1081 : decode cL_law 1081 = .ok (.aload_n 2, 1) := dk_44 (dk_at dksL_law_41 9 rfl rfl)
theorem dL_law_1082 : decode cL_law 1082 = .ok (.aload_n 0, 1) := dk_42 (dk_at dksL_law_41 10 rfl rfl)
theorem dL_law_1083 : decode cL_law 1083 = .ok (.iload_n 3, 1) := dk_29 (dk_at dksL_law_41 11 rfl rfl)
theorem dL_law_1084 : decode cL_law 1084 = .ok (.iconst 1, 1) := dk_4 (dk_at dksL_law_41 12 rfl rfl)
theorem dL_law_1085 : decode cL_law 1085 = .ok (.iadd, 1) := dk_96 (dk_at dksL_law_41 13 rfl rfl)
theorem dL_law_1086 : decode cL_law 1086 = .ok (.iaload, 1) := dk_46 (dk_at dksL_law_41 14 rfl rfl)
theorem dL_law_1087 : decode cL_law 1087 = .ok (.aload_n 0, 1) := dk_42 (dk_at dksL_law_41 15 rfl rfl)
theorem dL_law_1088 : decode cL_law 1088 = .ok (.iload_n 3, 1) := dk_29 (dk_at dksL_law_41 16 rfl rfl)
theorem dL_law_1089 : decode cL_law 1089 = .ok (.iconst 2, 1) := dk_5 (dk_at dksL_law_41 17 rfl rfl)
theorem dL_law_1090 : decode cL_law 1090 = .ok (.iadd, 1) := dk_96 (dk_at dksL_law_41 18 rfl rfl)
theorem dL_law_1091 : decode cL_law 1091 = .ok (.iaload, 1) := dk_46 (dk_at dksL_law_41 19 rfl rfl)
theorem dL_law_1092 : decode cL_law 1092 = .ok (.aload_n 0, 1) := dk_42 (dk_at dksL_law_41 20 rfl rfl)
theorem dL_law_1093 : decode cL_law 1093 = .ok (.iload_n 3, 1) := dk_29 (dk_at dksL_law_41 21 rfl rfl)
theorem dL_law_1094 : decode cL_law 1094 = .ok (.iconst 3, 1) := dk_6 (dk_at dksL_law_41 22 rfl rfl)
theorem dL_law_1095 : decode cL_law 1095 = .ok (.iadd, 1) := dk_96 (dk_at dksL_law_41 23 rfl rfl)
theorem dL_law_1096 : decode cL_law 1096 = .ok (.iaload, 1) := dk_46 (dk_at dksL_law_42 0 rfl rfl)
theorem dL_law_1097 : decode cL_law 1097 = .ok (.aload_n 0, 1) := dk_42 (dk_at dksL_law_42 1 rfl rfl)
theorem dL_law_1098 : decode cL_law 1098 = .ok (.iload_n 3, 1) := dk_29 (dk_at dksL_law_42 2 rfl rfl)
theorem dL_law_1099 : decode cL_law 1099 = .ok (.iconst 4, 1) := dk_7 (dk_at dksL_law_42 3 rfl rfl)
theorem dL_law_1100 : decode cL_law 1100 = .ok (.iadd, 1) := dk_96 (dk_at dksL_law_42 4 rfl rfl)
theorem dL_law_1101 : decode cL_law 1101 = .ok (.iaload, 1) := dk_46 (dk_at dksL_law_42 5 rfl rfl)
theorem dL_law_1102 : decode cL_law 1102 = .ok (.invokevirtual 110, 3) := dk_182 0 110 (dk_at dksL_law_42 6 rfl rfl)
theorem dL_law_1105 : decode cL_law 1105 = .ok (.if_icmp .eq 237, 3) := dk_159 0 237 (dk_at dksL_law_42 9 rfl rfl)
theorem dL_law_1108 : decode cL_law 1108 = .ok (.iconst 0, 1) := dk_3 (dk_at dksL_law_42 12 rfl rfl)
theorem dL_law_1109 : decode cL_law 1109 = .ok (.ireturn, 1) := dk_172 (dk_at dksL_law_42 13 rfl rfl)
theorem dL_law_1110 : decode cL_law 1110 = .ok (.aload_n 1, 1) := dk_43 (dk_at dksL_law_42 14 rfl rfl)
theorem dL_law_1111 : decode cL_law 1111 = .ok (.invokevirtual 111, 3) := dk_182 0 111 (dk_at dksL_law_42 15 rfl rfl)
theorem dL_law_1114 : decode cL_law 1114 = .ok (.aload_n 2, 1) := dk_44 (dk_at dksL_law_42 18 rfl rfl)
theorem dL_law_1115 : decode cL_law 1115 = .ok (.invokevirtual 115, 3) := dk_182 0 115 (dk_at dksL_law_42 19 rfl rfl)
theorem dL_law_1118 : decode cL_law 1118 = .ok (.if_icmp .eq 224, 3) := dk_159 0 224 (dk_at dksL_law_43 0 rfl rfl)
theorem dL_law_1121 : decode cL_law 1121 = .ok (.iconst 0, 1) := dk_3 (dk_at dksL_law_43 3 rfl rfl)
theorem dL_law_1122 : decode cL_law 1122 = .ok (.ireturn, 1) := dk_172 (dk_at dksL_law_43 4 rfl rfl)
theorem dL_law_1123 : decode cL_law 1123 = .ok (.aload_n 1, 1) := dk_43 (dk_at dksL_law_43 5 rfl rfl)
theorem dL_law_1124 : decode cL_law 1124 = .ok (.invokevirtual 116, 3) := dk_182 0 116 (dk_at dksL_law_43 6 rfl rfl)
theorem dL_law_1127 : decode cL_law 1127 = .ok (.aload_n 2, 1) := dk_44 (dk_at dksL_law_43 9 rfl rfl)
theorem dL_law_1128 : decode cL_law 1128 = .ok (.invokevirtual 119, 3) := dk_182 0 119 (dk_at dksL_law_43 10 rfl rfl)
theorem dL_law_1131 : decode cL_law 1131 = .ok (.if_icmp .eq 211, 3) := dk_159 0 211 (dk_at dksL_law_43 13 rfl rfl)
theorem dL_law_1134 : decode cL_law 1134 = .ok (.iconst 0, 1) := dk_3 (dk_at dksL_law_43 16 rfl rfl)
theorem dL_law_1135 : decode cL_law 1135 = .ok (.ireturn, 1) := dk_172 (dk_at dksL_law_43 17 rfl rfl)
theorem dL_law_1136 : decode cL_law 1136 = .ok (.aload_n 1, 1) := dk_43 (dk_at dksL_law_43 18 rfl rfl)
theorem dL_law_1137 : decode cL_law 1137 = .ok (.aload_n 0, 1) := dk_42 (dk_at dksL_law_43 19 rfl rfl)
theorem dL_law_1138 : decode cL_law 1138 = .ok (.iload_n 3, 1) := dk_29 (dk_at dksL_law_43 20 rfl rfl)
theorem dL_law_1139 : decode cL_law 1139 = .ok (.iconst 1, 1) := dk_4 (dk_at dksL_law_43 21 rfl rfl)
theorem dL_law_1140 : decode cL_law 1140 = .ok (.iadd, 1) := dk_96 (dk_at dksL_law_43 22 rfl rfl)
theorem dL_law_1141 : decode cL_law 1141 = .ok (.iaload, 1) := dk_46 (dk_at dksL_law_43 23 rfl rfl)
theorem dL_law_1142 : decode cL_law 1142 = .ok (.invokevirtual 120, 3) := dk_182 0 120 (dk_at dksL_law_44 0 rfl rfl)
theorem dL_law_1145 : decode cL_law 1145 = .ok (.aload_n 2, 1) := dk_44 (dk_at dksL_law_44 3 rfl rfl)
theorem dL_law_1146 : decode cL_law 1146 = .ok (.aload_n 0, 1) := dk_42 (dk_at dksL_law_44 4 rfl rfl)
theorem dL_law_1147 : decode cL_law 1147 = .ok (.iload_n 3, 1) := dk_29 (dk_at dksL_law_44 5 rfl rfl)
theorem dL_law_1148 : decode cL_law 1148 = .ok (.iconst 1, 1) := dk_4 (dk_at dksL_law_44 6 rfl rfl)
theorem dL_law_1149 : decode cL_law 1149 = .ok (.iadd, 1) := dk_96 (dk_at dksL_law_44 7 rfl rfl)
theorem dL_law_1150 : decode cL_law 1150 = .ok (.iaload, 1) := dk_46 (dk_at dksL_law_44 8 rfl rfl)
theorem dL_law_1151 : decode cL_law 1151 = .ok (.invokevirtual 123, 3) := dk_182 0 123 (dk_at dksL_law_44 9 rfl rfl)
theorem dL_law_1154 : decode cL_law 1154 = .ok (.if_icmp .eq 188, 3) := dk_159 0 188 (dk_at dksL_law_44 12 rfl rfl)
theorem dL_law_1157 : decode cL_law 1157 = .ok (.iconst 0, 1) := dk_3 (dk_at dksL_law_44 15 rfl rfl)
theorem dL_law_1158 : decode cL_law 1158 = .ok (.ireturn, 1) := dk_172 (dk_at dksL_law_44 16 rfl rfl)
theorem dL_law_1159 : decode cL_law 1159 = .ok (.aload_n 1, 1) := dk_43 (dk_at dksL_law_44 17 rfl rfl)
theorem dL_law_1160 : decode cL_law 1160 = .ok (.aload_n 0, 1) := dk_42 (dk_at dksL_law_44 18 rfl rfl)
theorem dL_law_1161 : decode cL_law 1161 = .ok (.iload_n 3, 1) := dk_29 (dk_at dksL_law_44 19 rfl rfl)
theorem dL_law_1162 : decode cL_law 1162 = .ok (.iconst 1, 1) := dk_4 (dk_at dksL_law_44 20 rfl rfl)
theorem dL_law_1163 : decode cL_law 1163 = .ok (.iadd, 1) := dk_96 (dk_at dksL_law_44 21 rfl rfl)
theorem dL_law_1164 : decode cL_law 1164 = .ok (.iaload, 1) := dk_46 (dk_at dksL_law_44 22 rfl rfl)
theorem dL_law_1165 : decode cL_law 1165 = .ok (.aload_n 0, 1) := dk_42 (dk_at dksL_law_44 23 rfl rfl)
theorem dL_law_1166 : decode cL_law 1166 = .ok (.iload_n 3, 1) := dk_29 (dk_at dksL_law_45 0 rfl rfl)
theorem dL_law_1167 : decode cL_law 1167 = .ok (.iconst 2, 1) := dk_5 (dk_at dksL_law_45 1 rfl rfl)
theorem dL_law_1168 : decode cL_law 1168 = .ok (.iadd, 1) := dk_96 (dk_at dksL_law_45 2 rfl rfl)
theorem dL_law_1169 : decode cL_law 1169 = .ok (.iaload, 1) := dk_46 (dk_at dksL_law_45 3 rfl rfl)
theorem dL_law_1170 : decode cL_law 1170 = .ok (.aload_n 0, 1) := dk_42 (dk_at dksL_law_45 4 rfl rfl)
theorem dL_law_1171 : decode cL_law 1171 = .ok (.iload_n 3, 1) := dk_29 (dk_at dksL_law_45 5 rfl rfl)
theorem dL_law_1172 : decode cL_law 1172 = .ok (.iconst 3, 1) := dk_6 (dk_at dksL_law_45 6 rfl rfl)
theorem dL_law_1173 : decode cL_law 1173 = .ok (.iadd, 1) := dk_96 (dk_at dksL_law_45 7 rfl rfl)
theorem dL_law_1174 : decode cL_law 1174 = .ok (.iaload, 1) := dk_46 (dk_at dksL_law_45 8 rfl rfl)
theorem dL_law_1175 : decode cL_law 1175 = .ok (.invokevirtual 124, 3) := dk_182 0 124 (dk_at dksL_law_45 9 rfl rfl)
theorem dL_law_1178 : decode cL_law 1178 = .ok (.aload_n 2, 1) := dk_44 (dk_at dksL_law_45 12 rfl rfl)
theorem dL_law_1179 : decode cL_law 1179 = .ok (.aload_n 0, 1) := dk_42 (dk_at dksL_law_45 13 rfl rfl)
theorem dL_law_1180 : decode cL_law 1180 = .ok (.iload_n 3, 1) := dk_29 (dk_at dksL_law_45 14 rfl rfl)
theorem dL_law_1181 : decode cL_law 1181 = .ok (.iconst 1, 1) := dk_4 (dk_at dksL_law_45 15 rfl rfl)
theorem dL_law_1182 : decode cL_law 1182 = .ok (.iadd, 1) := dk_96 (dk_at dksL_law_45 16 rfl rfl)
theorem dL_law_1183 : decode cL_law 1183 = .ok (.iaload, 1) := dk_46 (dk_at dksL_law_45 17 rfl rfl)
theorem dL_law_1184 : decode cL_law 1184 = .ok (.aload_n 0, 1) := dk_42 (dk_at dksL_law_45 18 rfl rfl)
theorem dL_law_1185 : decode cL_law 1185 = .ok (.iload_n 3, 1) := dk_29 (dk_at dksL_law_45 19 rfl rfl)
theorem dL_law_1186 : decode cL_law 1186 = .ok (.iconst 2, 1) := dk_5 (dk_at dksL_law_45 20 rfl rfl)
theorem dL_law_1187 : decode cL_law 1187 = .ok (.iadd, 1) := dk_96 (dk_at dksL_law_45 21 rfl rfl)
theorem dL_law_1188 : decode cL_law 1188 = .ok (.iaload, 1) := dk_46 (dk_at dksL_law_45 22 rfl rfl)
theorem dL_law_1189 : decode cL_law 1189 = .ok (.aload_n 0, 1) := dk_42 (dk_at dksL_law_45 23 rfl rfl)
theorem dL_law_1190 : decode cL_law 1190 = .ok (.iload_n 3, 1) := dk_29 (dk_at dksL_law_46 0 rfl rfl)
theorem dL_law_1191 : decode cL_law 1191 = .ok (.iconst 3, 1) := dk_6 (dk_at dksL_law_46 1 rfl rfl)
theorem dL_law_1192 : decode cL_law 1192 = .ok (.iadd, 1) := dk_96 (dk_at dksL_law_46 2 rfl rfl)
theorem dL_law_1193 : decode cL_law 1193 = .ok (.iaload, 1) := dk_46 (dk_at dksL_law_46 3 rfl rfl)
theorem dL_law_1194 : decode cL_law 1194 = .ok (.invokevirtual 127, 3) := dk_182 0 127 (dk_at dksL_law_46 4 rfl rfl)
theorem dL_law_1197 : decode cL_law 1197 = .ok (.if_icmp .eq 145, 3) := dk_159 0 145 (dk_at dksL_law_46 7 rfl rfl)
theorem dL_law_1200 : decode cL_law 1200 = .ok (.iconst 0, 1) := dk_3 (dk_at dksL_law_46 10 rfl rfl)
theorem dL_law_1201 : decode cL_law 1201 = .ok (.ireturn, 1) := dk_172 (dk_at dksL_law_46 11 rfl rfl)
theorem dL_law_1202 : decode cL_law 1202 = .ok (.aload_n 1, 1) := dk_43 (dk_at dksL_law_46 12 rfl rfl)
theorem dL_law_1203 : decode cL_law 1203 = .ok (.aload_n 0, 1) := dk_42 (dk_at dksL_law_46 13 rfl rfl)
theorem dL_law_1204 : decode cL_law 1204 = .ok (.iload_n 3, 1) := dk_29 (dk_at dksL_law_46 14 rfl rfl)
theorem dL_law_1205 : decode cL_law 1205 = .ok (.iconst 1, 1) := dk_4 (dk_at dksL_law_46 15 rfl rfl)
theorem dL_law_1206 : decode cL_law 1206 = .ok (.iadd, 1) := dk_96 (dk_at dksL_law_46 16 rfl rfl)
theorem dL_law_1207 : decode cL_law 1207 = .ok (.iaload, 1) := dk_46 (dk_at dksL_law_46 17 rfl rfl)
theorem dL_law_1208 : decode cL_law 1208 = .ok (.aload_n 0, 1) := dk_42 (dk_at dksL_law_46 18 rfl rfl)
theorem dL_law_1209 : decode cL_law 1209 = .ok (.iload_n 3, 1) := dk_29 (dk_at dksL_law_46 19 rfl rfl)
theorem dL_law_1210 : decode cL_law 1210 = .ok (.iconst 2, 1) := dk_5 (dk_at dksL_law_46 20 rfl rfl)
theorem dL_law_1211 : decode cL_law 1211 = .ok (.iadd, 1) := dk_96 (dk_at dksL_law_46 21 rfl rfl)
theorem dL_law_1212 : decode cL_law 1212 = .ok (.iaload, 1) := dk_46 (dk_at dksL_law_46 22 rfl rfl)
theorem dL_law_1213 : decode cL_law 1213 = .ok (.aload_n 0, 1) := dk_42 (dk_at dksL_law_46 23 rfl rfl)
theorem dL_law_1214 : decode cL_law 1214 = .ok (.iload_n 3, 1) := dk_29 (dk_at dksL_law_47 0 rfl rfl)
theorem dL_law_1215 : decode cL_law 1215 = .ok (.iconst 3, 1) := dk_6 (dk_at dksL_law_47 1 rfl rfl)
theorem dL_law_1216 : decode cL_law 1216 = .ok (.iadd, 1) := dk_96 (dk_at dksL_law_47 2 rfl rfl)
theorem dL_law_1217 : decode cL_law 1217 = .ok (.iaload, 1) := dk_46 (dk_at dksL_law_47 3 rfl rfl)
theorem dL_law_1218 : decode cL_law 1218 = .ok (.invokevirtual 128, 3) := dk_182 0 128 (dk_at dksL_law_47 4 rfl rfl)
theorem dL_law_1221 : decode cL_law 1221 = .ok (.aload_n 2, 1) := dk_44 (dk_at dksL_law_47 7 rfl rfl)
theorem dL_law_1222 : decode cL_law 1222 = .ok (.aload_n 0, 1) := dk_42 (dk_at dksL_law_47 8 rfl rfl)
theorem dL_law_1223 : decode cL_law 1223 = .ok (.iload_n 3, 1) := dk_29 (dk_at dksL_law_47 9 rfl rfl)
theorem dL_law_1224 : decode cL_law 1224 = .ok (.iconst 1, 1) := dk_4 (dk_at dksL_law_47 10 rfl rfl)
theorem dL_law_1225 : decode cL_law 1225 = .ok (.iadd, 1) := dk_96 (dk_at dksL_law_47 11 rfl rfl)
theorem dL_law_1226 : decode cL_law 1226 = .ok (.iaload, 1) := dk_46 (dk_at dksL_law_47 12 rfl rfl)
theorem dL_law_1227 : decode cL_law 1227 = .ok (.aload_n 0, 1) := dk_42 (dk_at dksL_law_47 13 rfl rfl)
theorem dL_law_1228 : decode cL_law 1228 = .ok (.iload_n 3, 1) := dk_29 (dk_at dksL_law_47 14 rfl rfl)
theorem dL_law_1229 : decode cL_law 1229 = .ok (.iconst 2, 1) := dk_5 (dk_at dksL_law_47 15 rfl rfl)
theorem dL_law_1230 : decode cL_law 1230 = .ok (.iadd, 1) := dk_96 (dk_at dksL_law_47 16 rfl rfl)
theorem dL_law_1231 : decode cL_law 1231 = .ok (.iaload, 1) := dk_46 (dk_at dksL_law_47 17 rfl rfl)
theorem dL_law_1232 : decode cL_law 1232 = .ok (.aload_n 0, 1) := dk_42 (dk_at dksL_law_47 18 rfl rfl)
theorem dL_law_1233 : decode cL_law 1233 = .ok (.iload_n 3, 1) := dk_29 (dk_at dksL_law_47 19 rfl rfl)
theorem dL_law_1234 : decode cL_law 1234 = .ok (.iconst 3, 1) := dk_6 (dk_at dksL_law_47 20 rfl rfl)
theorem dL_law_1235 : decode cL_law 1235 = .ok (.iadd, 1) := dk_96 (dk_at dksL_law_47 21 rfl rfl)
theorem dL_law_1236 : decode cL_law 1236 = .ok (.iaload, 1) := dk_46 (dk_at dksL_law_47 22 rfl rfl)
theorem dL_law_1237 : decode cL_law 1237 = .ok (.invokevirtual 131, 3) := dk_182 0 131 (dk_at dksL_law_48 0 rfl rfl)
theorem dL_law_1240 : decode cL_law 1240 = .ok (.if_icmp .eq 102, 3) := dk_159 0 102 (dk_at dksL_law_48 3 rfl rfl)
theorem dL_law_1243 : decode cL_law 1243 = .ok (.iconst 0, 1) := dk_3 (dk_at dksL_law_48 6 rfl rfl)
theorem dL_law_1244 : decode cL_law 1244 = .ok (.ireturn, 1) := dk_172 (dk_at dksL_law_48 7 rfl rfl)
theorem dL_law_1245 : decode cL_law 1245 = .ok (.aload_n 1, 1) := dk_43 (dk_at dksL_law_48 8 rfl rfl)
theorem dL_law_1246 : decode cL_law 1246 = .ok (.aload_n 0, 1) := dk_42 (dk_at dksL_law_48 9 rfl rfl)
theorem dL_law_1247 : decode cL_law 1247 = .ok (.iload_n 3, 1) := dk_29 (dk_at dksL_law_48 10 rfl rfl)
theorem dL_law_1248 : decode cL_law 1248 = .ok (.iconst 1, 1) := dk_4 (dk_at dksL_law_48 11 rfl rfl)
theorem dL_law_1249 : decode cL_law 1249 = .ok (.iadd, 1) := dk_96 (dk_at dksL_law_48 12 rfl rfl)
theorem dL_law_1250 : decode cL_law 1250 = .ok (.iaload, 1) := dk_46 (dk_at dksL_law_48 13 rfl rfl)
theorem dL_law_1251 : decode cL_law 1251 = .ok (.aload_n 0, 1) := dk_42 (dk_at dksL_law_48 14 rfl rfl)
theorem dL_law_1252 : decode cL_law 1252 = .ok (.iload_n 3, 1) := dk_29 (dk_at dksL_law_48 15 rfl rfl)
theorem dL_law_1253 : decode cL_law 1253 = .ok (.iconst 2, 1) := dk_5 (dk_at dksL_law_48 16 rfl rfl)
theorem dL_law_1254 : decode cL_law 1254 = .ok (.iadd, 1) := dk_96 (dk_at dksL_law_48 17 rfl rfl)
theorem dL_law_1255 : decode cL_law 1255 = .ok (.iaload, 1) := dk_46 (dk_at dksL_law_48 18 rfl rfl)
theorem dL_law_1256 : decode cL_law 1256 = .ok (.invokevirtual 132, 3) := dk_182 0 132 (dk_at dksL_law_48 19 rfl rfl)
theorem dL_law_1259 : decode cL_law 1259 = .ok (.aload_n 2, 1) := dk_44 (dk_at dksL_law_48 22 rfl rfl)
theorem dL_law_1260 : decode cL_law 1260 = .ok (.aload_n 0, 1) := dk_42 (dk_at dksL_law_48 23 rfl rfl)
theorem dL_law_1261 : decode cL_law 1261 = .ok (.iload_n 3, 1) := dk_29 (dk_at dksL_law_49 0 rfl rfl)
theorem dL_law_1262 : decode cL_law 1262 = .ok (.iconst 1, 1) := dk_4 (dk_at dksL_law_49 1 rfl rfl)
theorem dL_law_1263 : decode cL_law 1263 = .ok (.iadd, 1) := dk_96 (dk_at dksL_law_49 2 rfl rfl)
theorem dL_law_1264 : decode cL_law 1264 = .ok (.iaload, 1) := dk_46 (dk_at dksL_law_49 3 rfl rfl)
theorem dL_law_1265 : decode cL_law 1265 = .ok (.aload_n 0, 1) := dk_42 (dk_at dksL_law_49 4 rfl rfl)
theorem dL_law_1266 : decode cL_law 1266 = .ok (.iload_n 3, 1) := dk_29 (dk_at dksL_law_49 5 rfl rfl)
theorem dL_law_1267 : decode cL_law 1267 = .ok (.iconst 2, 1) := dk_5 (dk_at dksL_law_49 6 rfl rfl)
theorem dL_law_1268 : decode cL_law 1268 = .ok (.iadd, 1) := dk_96 (dk_at dksL_law_49 7 rfl rfl)
theorem dL_law_1269 : decode cL_law 1269 = .ok (.iaload, 1) := dk_46 (dk_at dksL_law_49 8 rfl rfl)
theorem dL_law_1270 : decode cL_law 1270 = .ok (.invokevirtual 135, 3) := dk_182 0 135 (dk_at dksL_law_49 9 rfl rfl)
theorem dL_law_1273 : decode cL_law 1273 = .ok (.lcmp, 1) := dk_148 (dk_at dksL_law_49 12 rfl rfl)
theorem dL_law_1274 : decode cL_law 1274 = .ok (.ifCond .eq 68, 3) := dk_153 0 68 (dk_at dksL_law_49 13 rfl rfl)
theorem dL_law_1277 : decode cL_law 1277 = .ok (.iconst 0, 1) := dk_3 (dk_at dksL_law_49 16 rfl rfl)
theorem dL_law_1278 : decode cL_law 1278 = .ok (.ireturn, 1) := dk_172 (dk_at dksL_law_49 17 rfl rfl)
theorem dL_law_1279 : decode cL_law 1279 = .ok (.aload_n 1, 1) := dk_43 (dk_at dksL_law_49 18 rfl rfl)
theorem dL_law_1280 : decode cL_law 1280 = .ok (.aload_n 0, 1) := dk_42 (dk_at dksL_law_49 19 rfl rfl)
theorem dL_law_1281 : decode cL_law 1281 = .ok (.iload_n 3, 1) := dk_29 (dk_at dksL_law_49 20 rfl rfl)
theorem dL_law_1282 : decode cL_law 1282 = .ok (.iconst 1, 1) := dk_4 (dk_at dksL_law_49 21 rfl rfl)
theorem dL_law_1283 : decode cL_law 1283 = .ok (.iadd, 1) := dk_96 (dk_at dksL_law_49 22 rfl rfl)
theorem dL_law_1284 : decode cL_law 1284 = .ok (.iaload, 1) := dk_46 (dk_at dksL_law_49 23 rfl rfl)
theorem dL_law_1285 : decode cL_law 1285 = .ok (.aload_n 0, 1) := dk_42 (dk_at dksL_law_50 0 rfl rfl)
theorem dL_law_1286 : decode cL_law 1286 = .ok (.iload_n 3, 1) := dk_29 (dk_at dksL_law_50 1 rfl rfl)
theorem dL_law_1287 : decode cL_law 1287 = .ok (.iconst 2, 1) := dk_5 (dk_at dksL_law_50 2 rfl rfl)
theorem dL_law_1288 : decode cL_law 1288 = .ok (.iadd, 1) := dk_96 (dk_at dksL_law_50 3 rfl rfl)
theorem dL_law_1289 : decode cL_law 1289 = .ok (.iaload, 1) := dk_46 (dk_at dksL_law_50 4 rfl rfl)
theorem dL_law_1290 : decode cL_law 1290 = .ok (.aload_n 0, 1) := dk_42 (dk_at dksL_law_50 5 rfl rfl)
theorem dL_law_1291 : decode cL_law 1291 = .ok (.iload_n 3, 1) := dk_29 (dk_at dksL_law_50 6 rfl rfl)
theorem dL_law_1292 : decode cL_law 1292 = .ok (.iconst 3, 1) := dk_6 (dk_at dksL_law_50 7 rfl rfl)
theorem dL_law_1293 : decode cL_law 1293 = .ok (.iadd, 1) := dk_96 (dk_at dksL_law_50 8 rfl rfl)
theorem dL_law_1294 : decode cL_law 1294 = .ok (.iaload, 1) := dk_46 (dk_at dksL_law_50 9 rfl rfl)
theorem dL_law_1295 : decode cL_law 1295 = .ok (.aload_n 0, 1) := dk_42 (dk_at dksL_law_50 10 rfl rfl)
theorem dL_law_1296 : decode cL_law 1296 = .ok (.iload_n 3, 1) := dk_29 (dk_at dksL_law_50 11 rfl rfl)
theorem dL_law_1297 : decode cL_law 1297 = .ok (.iconst 4, 1) := dk_7 (dk_at dksL_law_50 12 rfl rfl)
theorem dL_law_1298 : decode cL_law 1298 = .ok (.iadd, 1) := dk_96 (dk_at dksL_law_50 13 rfl rfl)
theorem dL_law_1299 : decode cL_law 1299 = .ok (.iaload, 1) := dk_46 (dk_at dksL_law_50 14 rfl rfl)
theorem dL_law_1300 : decode cL_law 1300 = .ok (.aload_n 0, 1) := dk_42 (dk_at dksL_law_50 15 rfl rfl)
theorem dL_law_1301 : decode cL_law 1301 = .ok (.iload_n 3, 1) := dk_29 (dk_at dksL_law_50 16 rfl rfl)
theorem dL_law_1302 : decode cL_law 1302 = .ok (.iconst 5, 1) := dk_8 (dk_at dksL_law_50 17 rfl rfl)
theorem dL_law_1303 : decode cL_law 1303 = .ok (.iadd, 1) := dk_96 (dk_at dksL_law_50 18 rfl rfl)
theorem dL_law_1304 : decode cL_law 1304 = .ok (.iaload, 1) := dk_46 (dk_at dksL_law_50 19 rfl rfl)
theorem dL_law_1305 : decode cL_law 1305 = .ok (.invokevirtual 136, 3) := dk_182 0 136 (dk_at dksL_law_50 20 rfl rfl)
theorem dL_law_1308 : decode cL_law 1308 = .ok (.aload_n 2, 1) := dk_44 (dk_at dksL_law_50 23 rfl rfl)
theorem dL_law_1309 : decode cL_law 1309 = .ok (.aload_n 0, 1) := dk_42 (dk_at dksL_law_51 0 rfl rfl)
theorem dL_law_1310 : decode cL_law 1310 = .ok (.iload_n 3, 1) := dk_29 (dk_at dksL_law_51 1 rfl rfl)
theorem dL_law_1311 : decode cL_law 1311 = .ok (.iconst 1, 1) := dk_4 (dk_at dksL_law_51 2 rfl rfl)
theorem dL_law_1312 : decode cL_law 1312 = .ok (.iadd, 1) := dk_96 (dk_at dksL_law_51 3 rfl rfl)
theorem dL_law_1313 : decode cL_law 1313 = .ok (.iaload, 1) := dk_46 (dk_at dksL_law_51 4 rfl rfl)
theorem dL_law_1314 : decode cL_law 1314 = .ok (.aload_n 0, 1) := dk_42 (dk_at dksL_law_51 5 rfl rfl)
theorem dL_law_1315 : decode cL_law 1315 = .ok (.iload_n 3, 1) := dk_29 (dk_at dksL_law_51 6 rfl rfl)
theorem dL_law_1316 : decode cL_law 1316 = .ok (.iconst 2, 1) := dk_5 (dk_at dksL_law_51 7 rfl rfl)
theorem dL_law_1317 : decode cL_law 1317 = .ok (.iadd, 1) := dk_96 (dk_at dksL_law_51 8 rfl rfl)
theorem dL_law_1318 : decode cL_law 1318 = .ok (.iaload, 1) := dk_46 (dk_at dksL_law_51 9 rfl rfl)
theorem dL_law_1319 : decode cL_law 1319 = .ok (.aload_n 0, 1) := dk_42 (dk_at dksL_law_51 10 rfl rfl)
theorem dL_law_1320 : decode cL_law 1320 = .ok (.iload_n 3, 1) := dk_29 (dk_at dksL_law_51 11 rfl rfl)
theorem dL_law_1321 : decode cL_law 1321 = .ok (.iconst 3, 1) := dk_6 (dk_at dksL_law_51 12 rfl rfl)
theorem dL_law_1322 : decode cL_law 1322 = .ok (.iadd, 1) := dk_96 (dk_at dksL_law_51 13 rfl rfl)
theorem dL_law_1323 : decode cL_law 1323 = .ok (.iaload, 1) := dk_46 (dk_at dksL_law_51 14 rfl rfl)
theorem dL_law_1324 : decode cL_law 1324 = .ok (.aload_n 0, 1) := dk_42 (dk_at dksL_law_51 15 rfl rfl)
theorem dL_law_1325 : decode cL_law 1325 = .ok (.iload_n 3, 1) := dk_29 (dk_at dksL_law_51 16 rfl rfl)
theorem dL_law_1326 : decode cL_law 1326 = .ok (.iconst 4, 1) := dk_7 (dk_at dksL_law_51 17 rfl rfl)
theorem dL_law_1327 : decode cL_law 1327 = .ok (.iadd, 1) := dk_96 (dk_at dksL_law_51 18 rfl rfl)
theorem dL_law_1328 : decode cL_law 1328 = .ok (.iaload, 1) := dk_46 (dk_at dksL_law_51 19 rfl rfl)
theorem dL_law_1329 : decode cL_law 1329 = .ok (.aload_n 0, 1) := dk_42 (dk_at dksL_law_51 20 rfl rfl)
theorem dL_law_1330 : decode cL_law 1330 = .ok (.iload_n 3, 1) := dk_29 (dk_at dksL_law_51 21 rfl rfl)
theorem dL_law_1331 : decode cL_law 1331 = .ok (.iconst 5, 1) := dk_8 (dk_at dksL_law_51 22 rfl rfl)
theorem dL_law_1332 : decode cL_law 1332 = .ok (.iadd, 1) := dk_96 (dk_at dksL_law_51 23 rfl rfl)
theorem dL_law_1333 : decode cL_law 1333 = .ok (.iaload, 1) := dk_46 (dk_at dksL_law_52 0 rfl rfl)
theorem dL_law_1334 : decode cL_law 1334 = .ok (.invokevirtual 139, 3) := dk_182 0 139 (dk_at dksL_law_52 1 rfl rfl)
theorem dL_law_1337 : decode cL_law 1337 = .ok (.if_icmp .eq 5, 3) := dk_159 0 5 (dk_at dksL_law_52 4 rfl rfl)
theorem dL_law_1340 : decode cL_law 1340 = .ok (.iconst 0, 1) := dk_3 (dk_at dksL_law_52 7 rfl rfl)
theorem dL_law_1341 : decode cL_law 1341 = .ok (.ireturn, 1) := dk_172 (dk_at dksL_law_52 8 rfl rfl)
theorem dL_law_1342 : decode cL_law 1342 = .ok (.iinc 3 7, 3) := dk_132 3 7 (dk_at dksL_law_52 9 rfl rfl)
theorem dL_law_1345 : decode cL_law 1345 = .ok (.goto (-1327), 3) := dk_167 250 209 (dk_at dksL_law_52 12 rfl rfl)
theorem dL_law_1348 : decode cL_law 1348 = .ok (.iconst 1, 1) := dk_4 (dk_at dksL_law_52 15 rfl rfl)
theorem dL_law_1349 : decode cL_law 1349 = .ok (.ireturn, 1) := dk_172 (dk_at dksL_law_52 16 rfl rfl)
/-! WhatIfSheet$Sight -/
set_option maxRecDepth 100000
def RX1 : String := "WhatIfSheet$Sight"
def TX1 : u_T := fun k => match k with
  | 0 => ("WhatIfSheet$Sight", "width", "I", true)
  | 1 => ("WhatIfSheet$Sight", "values", "[D", true)
  | 2 => ("WhatIfSheet$Sight", "results", "[D", true)
  | 3 => ("WhatIfSheet$Sight", "stamps", "[I", true)
  | 4 => ("WhatIfSheet$Sight", "faults", "[B", true)
  | 5 => ("WhatIfSheet$Sight", "blames", "[B", true)
  | 6 => ("WhatIfSheet$Sight", "errors", "[B", true)
  | 7 => ("WhatIfSheet$Sight", "blameds", "[B", true)
  | 8 => ("WhatIfSheet$Sight", "ones", "[D", true)
  | 9 => ("WhatIfSheet$Sight", "others", "[D", true)
  | 10 => ("WhatIfSheet$Sight", "firstOnes", "[B", true)
  | 11 => ("WhatIfSheet$Sight", "firstOthers", "[B", true)
  | _ => ("WhatIfSheet$Sight", "stamp", "I", false)
def tyX1 : Nat → FieldType := fun k => match k with
  | 0 => .int
  | 1 => .array .double
  | 2 => .array .double
  | 3 => .array .int
  | 4 => .array .byte
  | 5 => .array .byte
  | 6 => .array .byte
  | 7 => .array .byte
  | 8 => .array .double
  | 9 => .array .double
  | 10 => .array .byte
  | 11 => .array .byte
  | _ => .int
abbrev wsX10 : List Cond := u_ws RX1 TX1 13
set_option maxRecDepth 100000 in
theorem nmX1 : ∀ a, a < 13 → ∀ b, b < 13 → a ≠ b → (TX1 a).2.1 ≠ (TX1 b).2.1 := by decide +kernel
set_option maxRecDepth 100000 in
theorem tyX1_ok : ∀ k, k < 13 → parseFieldDescriptor (TX1 k).2.2.1 = some (tyX1 k) := by decide +kernel
abbrev cX1_init : ByteArray := prog_25_method_1_code
def yX1_init : MethodName := ⟨RX1, "<init>", "(I)V"⟩
def dkwX1_init_4 : List UInt8 := [181, 0, 45, 42, 27, 188, 8, 181, 0, 48, 177]
abbrev dktX1_init_4 : List UInt8 := dkwX1_init_4 ++ []
def dkwX1_init_3 : List UInt8 := [181, 0, 36, 42, 16, 24, 27, 104, 188, 8, 181, 0, 39, 42, 27, 188, 7, 181, 0, 42, 42, 27, 188, 8]
abbrev dktX1_init_3 : List UInt8 := dkwX1_init_3 ++ dktX1_init_4
def dkwX1_init_2 : List UInt8 := [188, 7, 181, 0, 29, 42, 16, 24, 27, 104, 188, 10, 181, 0, 32, 42, 16, 24, 27, 104, 188, 8]
abbrev dktX1_init_2 : List UInt8 := dkwX1_init_2 ++ dktX1_init_3
def dkwX1_init_1 : List UInt8 := [188, 8, 181, 0, 18, 42, 16, 8, 188, 8, 181, 0, 22, 42, 27, 181, 0, 25, 42, 16, 24, 27, 104]
abbrev dktX1_init_1 : List UInt8 := dkwX1_init_1 ++ dktX1_init_2
def dkwX1_init_0 : List UInt8 := [42, 183, 0, 3, 42, 16, 8, 188, 7, 181, 0, 9, 42, 16, 8, 188, 7, 181, 0, 15, 42, 16, 8]
abbrev dktX1_init_0 : List UInt8 := dkwX1_init_0 ++ dktX1_init_1
theorem dksX1_init_0 : cX1_init.data.toList.drop 0 = dktX1_init_0 := by decide +kernel
theorem dksX1_init_1 : cX1_init.data.toList.drop 23 = dktX1_init_1 := dk_seg dksX1_init_0 23 rfl rfl
theorem dksX1_init_2 : cX1_init.data.toList.drop 46 = dktX1_init_2 := dk_seg dksX1_init_1 23 rfl rfl
theorem dksX1_init_3 : cX1_init.data.toList.drop 68 = dktX1_init_3 := dk_seg dksX1_init_2 22 rfl rfl
theorem dksX1_init_4 : cX1_init.data.toList.drop 92 = dktX1_init_4 := dk_seg dksX1_init_3 24 rfl rfl
theorem dX1_init_0 : decode cX1_init 0 = .ok (.aload_n 0, 1) := dk_42 (dk_at dksX1_init_0 0 rfl rfl)
theorem dX1_init_1 : decode cX1_init 1 = .ok (.invokespecial 3, 3) := dk_183 0 3 (dk_at dksX1_init_0 1 rfl rfl)
theorem dX1_init_4 : decode cX1_init 4 = .ok (.aload_n 0, 1) := dk_42 (dk_at dksX1_init_0 4 rfl rfl)
theorem dX1_init_5 : decode cX1_init 5 = .ok (.bipush 8, 2) := dk_16 8 (dk_at dksX1_init_0 5 rfl rfl)
theorem dX1_init_7 : decode cX1_init 7 = .ok (.newarray .double, 2) := dk_188_7 (dk_at dksX1_init_0 7 rfl rfl)
theorem dX1_init_9 : decode cX1_init 9 = .ok (.putfield 9, 3) := dk_181 0 9 (dk_at dksX1_init_0 9 rfl rfl)
theorem dX1_init_12 : decode cX1_init 12 = .ok (.aload_n 0, 1) := dk_42 (dk_at dksX1_init_0 12 rfl rfl)
theorem dX1_init_13 : decode cX1_init 13 = .ok (.bipush 8, 2) := dk_16 8 (dk_at dksX1_init_0 13 rfl rfl)
theorem dX1_init_15 : decode cX1_init 15 = .ok (.newarray .double, 2) := dk_188_7 (dk_at dksX1_init_0 15 rfl rfl)
theorem dX1_init_17 : decode cX1_init 17 = .ok (.putfield 15, 3) := dk_181 0 15 (dk_at dksX1_init_0 17 rfl rfl)
theorem dX1_init_20 : decode cX1_init 20 = .ok (.aload_n 0, 1) := dk_42 (dk_at dksX1_init_0 20 rfl rfl)
theorem dX1_init_21 : decode cX1_init 21 = .ok (.bipush 8, 2) := dk_16 8 (dk_at dksX1_init_0 21 rfl rfl)
theorem dX1_init_23 : decode cX1_init 23 = .ok (.newarray .byte, 2) := dk_188_8 (dk_at dksX1_init_1 0 rfl rfl)
theorem dX1_init_25 : decode cX1_init 25 = .ok (.putfield 18, 3) := dk_181 0 18 (dk_at dksX1_init_1 2 rfl rfl)
theorem dX1_init_28 : decode cX1_init 28 = .ok (.aload_n 0, 1) := dk_42 (dk_at dksX1_init_1 5 rfl rfl)
theorem dX1_init_29 : decode cX1_init 29 = .ok (.bipush 8, 2) := dk_16 8 (dk_at dksX1_init_1 6 rfl rfl)
theorem dX1_init_31 : decode cX1_init 31 = .ok (.newarray .byte, 2) := dk_188_8 (dk_at dksX1_init_1 8 rfl rfl)
theorem dX1_init_33 : decode cX1_init 33 = .ok (.putfield 22, 3) := dk_181 0 22 (dk_at dksX1_init_1 10 rfl rfl)
theorem dX1_init_36 : decode cX1_init 36 = .ok (.aload_n 0, 1) := dk_42 (dk_at dksX1_init_1 13 rfl rfl)
theorem dX1_init_37 : decode cX1_init 37 = .ok (.iload_n 1, 1) := dk_27 (dk_at dksX1_init_1 14 rfl rfl)
theorem dX1_init_38 : decode cX1_init 38 = .ok (.putfield 25, 3) := dk_181 0 25 (dk_at dksX1_init_1 15 rfl rfl)
theorem dX1_init_41 : decode cX1_init 41 = .ok (.aload_n 0, 1) := dk_42 (dk_at dksX1_init_1 18 rfl rfl)
theorem dX1_init_42 : decode cX1_init 42 = .ok (.bipush 24, 2) := dk_16 24 (dk_at dksX1_init_1 19 rfl rfl)
theorem dX1_init_44 : decode cX1_init 44 = .ok (.iload_n 1, 1) := dk_27 (dk_at dksX1_init_1 21 rfl rfl)
theorem dX1_init_45 : decode cX1_init 45 = .ok (.imul, 1) := dk_104 (dk_at dksX1_init_1 22 rfl rfl)
theorem dX1_init_46 : decode cX1_init 46 = .ok (.newarray .double, 2) := dk_188_7 (dk_at dksX1_init_2 0 rfl rfl)
theorem dX1_init_48 : decode cX1_init 48 = .ok (.putfield 29, 3) := dk_181 0 29 (dk_at dksX1_init_2 2 rfl rfl)
theorem dX1_init_51 : decode cX1_init 51 = .ok (.aload_n 0, 1) := dk_42 (dk_at dksX1_init_2 5 rfl rfl)
theorem dX1_init_52 : decode cX1_init 52 = .ok (.bipush 24, 2) := dk_16 24 (dk_at dksX1_init_2 6 rfl rfl)
theorem dX1_init_54 : decode cX1_init 54 = .ok (.iload_n 1, 1) := dk_27 (dk_at dksX1_init_2 8 rfl rfl)
theorem dX1_init_55 : decode cX1_init 55 = .ok (.imul, 1) := dk_104 (dk_at dksX1_init_2 9 rfl rfl)
theorem dX1_init_56 : decode cX1_init 56 = .ok (.newarray .int, 2) := dk_188_10 (dk_at dksX1_init_2 10 rfl rfl)
theorem dX1_init_58 : decode cX1_init 58 = .ok (.putfield 32, 3) := dk_181 0 32 (dk_at dksX1_init_2 12 rfl rfl)
theorem dX1_init_61 : decode cX1_init 61 = .ok (.aload_n 0, 1) := dk_42 (dk_at dksX1_init_2 15 rfl rfl)
theorem dX1_init_62 : decode cX1_init 62 = .ok (.bipush 24, 2) := dk_16 24 (dk_at dksX1_init_2 16 rfl rfl)
theorem dX1_init_64 : decode cX1_init 64 = .ok (.iload_n 1, 1) := dk_27 (dk_at dksX1_init_2 18 rfl rfl)
theorem dX1_init_65 : decode cX1_init 65 = .ok (.imul, 1) := dk_104 (dk_at dksX1_init_2 19 rfl rfl)
theorem dX1_init_66 : decode cX1_init 66 = .ok (.newarray .byte, 2) := dk_188_8 (dk_at dksX1_init_2 20 rfl rfl)
theorem dX1_init_68 : decode cX1_init 68 = .ok (.putfield 36, 3) := dk_181 0 36 (dk_at dksX1_init_3 0 rfl rfl)
theorem dX1_init_71 : decode cX1_init 71 = .ok (.aload_n 0, 1) := dk_42 (dk_at dksX1_init_3 3 rfl rfl)
theorem dX1_init_72 : decode cX1_init 72 = .ok (.bipush 24, 2) := dk_16 24 (dk_at dksX1_init_3 4 rfl rfl)
theorem dX1_init_74 : decode cX1_init 74 = .ok (.iload_n 1, 1) := dk_27 (dk_at dksX1_init_3 6 rfl rfl)
theorem dX1_init_75 : decode cX1_init 75 = .ok (.imul, 1) := dk_104 (dk_at dksX1_init_3 7 rfl rfl)
theorem dX1_init_76 : decode cX1_init 76 = .ok (.newarray .byte, 2) := dk_188_8 (dk_at dksX1_init_3 8 rfl rfl)
theorem dX1_init_78 : decode cX1_init 78 = .ok (.putfield 39, 3) := dk_181 0 39 (dk_at dksX1_init_3 10 rfl rfl)
theorem dX1_init_81 : decode cX1_init 81 = .ok (.aload_n 0, 1) := dk_42 (dk_at dksX1_init_3 13 rfl rfl)
theorem dX1_init_82 : decode cX1_init 82 = .ok (.iload_n 1, 1) := dk_27 (dk_at dksX1_init_3 14 rfl rfl)
theorem dX1_init_83 : decode cX1_init 83 = .ok (.newarray .double, 2) := dk_188_7 (dk_at dksX1_init_3 15 rfl rfl)
theorem dX1_init_85 : decode cX1_init 85 = .ok (.putfield 42, 3) := dk_181 0 42 (dk_at dksX1_init_3 17 rfl rfl)
theorem dX1_init_88 : decode cX1_init 88 = .ok (.aload_n 0, 1) := dk_42 (dk_at dksX1_init_3 20 rfl rfl)
theorem dX1_init_89 : decode cX1_init 89 = .ok (.iload_n 1, 1) := dk_27 (dk_at dksX1_init_3 21 rfl rfl)
theorem dX1_init_90 : decode cX1_init 90 = .ok (.newarray .byte, 2) := dk_188_8 (dk_at dksX1_init_3 22 rfl rfl)
theorem dX1_init_92 : decode cX1_init 92 = .ok (.putfield 45, 3) := dk_181 0 45 (dk_at dksX1_init_4 0 rfl rfl)
theorem dX1_init_95 : decode cX1_init 95 = .ok (.aload_n 0, 1) := dk_42 (dk_at dksX1_init_4 3 rfl rfl)
theorem dX1_init_96 : decode cX1_init 96 = .ok (.iload_n 1, 1) := dk_27 (dk_at dksX1_init_4 4 rfl rfl)
theorem dX1_init_97 : decode cX1_init 97 = .ok (.newarray .byte, 2) := dk_188_8 (dk_at dksX1_init_4 5 rfl rfl)
theorem dX1_init_99 : decode cX1_init 99 = .ok (.putfield 48, 3) := dk_181 0 48 (dk_at dksX1_init_4 7 rfl rfl)
theorem dX1_init_102 : decode cX1_init 102 = .ok (.return_, 1) := dk_177 (dk_at dksX1_init_4 10 rfl rfl)
abbrev cX1_keeps : ByteArray := prog_25_method_2_code
def yX1_keeps : MethodName := ⟨RX1, "keeps", "(LWhatIfSheet$Axis;LWhatIfSheet$Plain;[D[B)I"⟩
def dkwX1_keeps_3 : List UInt8 := [132, 5, 1, 167, 255, 191, 21, 4, 172]
abbrev dktX1_keeps_3 : List UInt8 := dkwX1_keeps_3 ++ []
def dkwX1_keeps_2 : List UInt8 := [132, 6, 1, 167, 255, 241, 45, 21, 5, 21, 6, 145, 84, 21, 6, 21, 5, 160, 0, 6, 132, 4, 1]
abbrev dktX1_keeps_2 : List UInt8 := dkwX1_keeps_2 ++ dktX1_keeps_3
def dkwX1_keeps_1 : List UInt8 := [21, 5, 49, 182, 0, 60, 82, 3, 54, 6, 44, 21, 6, 49, 44, 21, 5, 49, 151, 153, 0, 9]
abbrev dktX1_keeps_1 : List UInt8 := dkwX1_keeps_1 ++ dktX1_keeps_2
def dkwX1_keeps_0 : List UInt8 := [3, 54, 4, 3, 54, 5, 21, 5, 42, 182, 0, 51, 162, 0, 62, 44, 21, 5, 43, 42, 180, 0, 57]
abbrev dktX1_keeps_0 : List UInt8 := dkwX1_keeps_0 ++ dktX1_keeps_1
theorem dksX1_keeps_0 : cX1_keeps.data.toList.drop 0 = dktX1_keeps_0 := by decide +kernel
theorem dksX1_keeps_1 : cX1_keeps.data.toList.drop 23 = dktX1_keeps_1 := dk_seg dksX1_keeps_0 23 rfl rfl
theorem dksX1_keeps_2 : cX1_keeps.data.toList.drop 45 = dktX1_keeps_2 := dk_seg dksX1_keeps_1 22 rfl rfl
theorem dksX1_keeps_3 : cX1_keeps.data.toList.drop 68 = dktX1_keeps_3 := dk_seg dksX1_keeps_2 23 rfl rfl
theorem dX1_keeps_0 : decode cX1_keeps 0 = .ok (.iconst 0, 1) := dk_3 (dk_at dksX1_keeps_0 0 rfl rfl)
theorem dX1_keeps_1 : decode cX1_keeps 1 = .ok (.istore 4, 2) := dk_54 4 (dk_at dksX1_keeps_0 1 rfl rfl)
theorem dX1_keeps_3 : decode cX1_keeps 3 = .ok (.iconst 0, 1) := dk_3 (dk_at dksX1_keeps_0 3 rfl rfl)
theorem dX1_keeps_4 : decode cX1_keeps 4 = .ok (.istore 5, 2) := dk_54 5 (dk_at dksX1_keeps_0 4 rfl rfl)
theorem dX1_keeps_6 : decode cX1_keeps 6 = .ok (.iload 5, 2) := dk_21 5 (dk_at dksX1_keeps_0 6 rfl rfl)
theorem dX1_keeps_8 : decode cX1_keeps 8 = .ok (.aload_n 0, 1) := dk_42 (dk_at dksX1_keeps_0 8 rfl rfl)
theorem dX1_keeps_9 : decode cX1_keeps 9 = .ok (.invokevirtual 51, 3) := dk_182 0 51 (dk_at dksX1_keeps_0 9 rfl rfl)
theorem dX1_keeps_12 : decode cX1_keeps 12 = .ok (.if_icmp .ge 62, 3) := dk_162 0 62 (dk_at dksX1_keeps_0 12 rfl rfl)
theorem dX1_keeps_15 : decode cX1_keeps 15 = .ok (.aload_n 2, 1) := dk_44 (dk_at dksX1_keeps_0 15 rfl rfl)
theorem dX1_keeps_16 : decode cX1_keeps 16 = .ok (.iload 5, 2) := dk_21 5 (dk_at dksX1_keeps_0 16 rfl rfl)
theorem dX1_keeps_18 : decode cX1_keeps 18 = .ok (.aload_n 1, 1) := dk_43 (dk_at dksX1_keeps_0 18 rfl rfl)
theorem dX1_keeps_19 : decode cX1_keeps 19 = .ok (.aload_n 0, 1) := dk_42 (dk_at dksX1_keeps_0 19 rfl rfl)
theorem dX1_keeps_20 : decode cX1_keeps 20 = .ok (.getfield 57, 3) := dk_180 0 57 (dk_at dksX1_keeps_0 20 rfl rfl)
theorem dX1_keeps_23 : decode cX1_keeps 23 = .ok (.iload 5, 2) := dk_21 5 (dk_at dksX1_keeps_1 0 rfl rfl)
theorem dX1_keeps_25 : decode cX1_keeps 25 = .ok (.daload, 1) := dk_49 (dk_at dksX1_keeps_1 2 rfl rfl)
theorem dX1_keeps_26 : decode cX1_keeps 26 = .ok (.invokevirtual 60, 3) := dk_182 0 60 (dk_at dksX1_keeps_1 3 rfl rfl)
theorem dX1_keeps_29 : decode cX1_keeps 29 = .ok (.dastore, 1) := dk_82 (dk_at dksX1_keeps_1 6 rfl rfl)
theorem dX1_keeps_30 : decode cX1_keeps 30 = .ok (.iconst 0, 1) := dk_3 (dk_at dksX1_keeps_1 7 rfl rfl)
theorem dX1_keeps_31 : decode cX1_keeps 31 = .ok (.istore 6, 2) := dk_54 6 (dk_at dksX1_keeps_1 8 rfl rfl)
theorem dX1_keeps_33 : decode cX1_keeps 33 = .ok (.aload_n 2, 1) := dk_44 (dk_at dksX1_keeps_1 10 rfl rfl)
theorem dX1_keeps_34 : decode cX1_keeps 34 = .ok (.iload 6, 2) := dk_21 6 (dk_at dksX1_keeps_1 11 rfl rfl)
theorem dX1_keeps_36 : decode cX1_keeps 36 = .ok (.daload, 1) := dk_49 (dk_at dksX1_keeps_1 13 rfl rfl)
theorem dX1_keeps_37 : decode cX1_keeps 37 = .ok (.aload_n 2, 1) := dk_44 (dk_at dksX1_keeps_1 14 rfl rfl)
theorem dX1_keeps_38 : decode cX1_keeps 38 = .ok (.iload 5, 2) := dk_21 5 (dk_at dksX1_keeps_1 15 rfl rfl)
theorem dX1_keeps_40 : decode cX1_keeps 40 = .ok (.daload, 1) := dk_49 (dk_at dksX1_keeps_1 17 rfl rfl)
theorem dX1_keeps_41 : decode cX1_keeps 41 = .ok (.dcmp .l, 1) := dk_151 (dk_at dksX1_keeps_1 18 rfl rfl)
theorem dX1_keeps_42 : decode cX1_keeps 42 = .ok (.ifCond .eq 9, 3) := dk_153 0 9 (dk_at dksX1_keeps_1 19 rfl rfl)
theorem dX1_keeps_45 : decode cX1_keeps 45 = .ok (.iinc 6 1, 3) := dk_132 6 1 (dk_at dksX1_keeps_2 0 rfl rfl)
theorem dX1_keeps_48 : decode cX1_keeps 48 = .ok (.goto (-15), 3) := dk_167 255 241 (dk_at dksX1_keeps_2 3 rfl rfl)
theorem dX1_keeps_51 : decode cX1_keeps 51 = .ok (.aload_n 3, 1) := dk_45 (dk_at dksX1_keeps_2 6 rfl rfl)
theorem dX1_keeps_52 : decode cX1_keeps 52 = .ok (.iload 5, 2) := dk_21 5 (dk_at dksX1_keeps_2 7 rfl rfl)
theorem dX1_keeps_54 : decode cX1_keeps 54 = .ok (.iload 6, 2) := dk_21 6 (dk_at dksX1_keeps_2 9 rfl rfl)
theorem dX1_keeps_56 : decode cX1_keeps 56 = .ok (.i2b, 1) := dk_145 (dk_at dksX1_keeps_2 11 rfl rfl)
theorem dX1_keeps_57 : decode cX1_keeps 57 = .ok (.bastore, 1) := dk_84 (dk_at dksX1_keeps_2 12 rfl rfl)
theorem dX1_keeps_58 : decode cX1_keeps 58 = .ok (.iload 6, 2) := dk_21 6 (dk_at dksX1_keeps_2 13 rfl rfl)
theorem dX1_keeps_60 : decode cX1_keeps 60 = .ok (.iload 5, 2) := dk_21 5 (dk_at dksX1_keeps_2 15 rfl rfl)
theorem dX1_keeps_62 : decode cX1_keeps 62 = .ok (.if_icmp .ne 6, 3) := dk_160 0 6 (dk_at dksX1_keeps_2 17 rfl rfl)
theorem dX1_keeps_65 : decode cX1_keeps 65 = .ok (.iinc 4 1, 3) := dk_132 4 1 (dk_at dksX1_keeps_2 20 rfl rfl)
theorem dX1_keeps_68 : decode cX1_keeps 68 = .ok (.iinc 5 1, 3) := dk_132 5 1 (dk_at dksX1_keeps_3 0 rfl rfl)
theorem dX1_keeps_71 : decode cX1_keeps 71 = .ok (.goto (-65), 3) := dk_167 255 191 (dk_at dksX1_keeps_3 3 rfl rfl)
theorem dX1_keeps_74 : decode cX1_keeps 74 = .ok (.iload 4, 2) := dk_21 4 (dk_at dksX1_keeps_3 6 rfl rfl)
theorem dX1_keeps_76 : decode cX1_keeps 76 = .ok (.ireturn, 1) := dk_172 (dk_at dksX1_keeps_3 8 rfl rfl)
theorem q132 : (Jvm.Cond.initialized "WhatIfSheet$Sight") ∈ lw_all := lw_g (lw_at lw_m1 2 rfl) rfl
theorem q214 : (Jvm.Cond.instantiable "WhatIfSheet$Sight" (13 : Nat)) ∈ lw_all := lw_g (lw_at lw_m1 84 rfl) rfl
theorem q216 : (Jvm.Cond.instanceMethod ({ cls := "WhatIfSheet$Sight", name := "<init>", desc := "(I)V" } : Jvm.MethodName)) ∈ lw_all := lw_g (lw_at lw_m1 86 rfl) rfl
theorem q217 : (Jvm.Cond.code ({ cls := "WhatIfSheet$Sight", name := "<init>", desc := "(I)V" } : Jvm.MethodName) prog_25_method_1_code (2 : Nat) (Option.none : Option Jvm.ClassFile.FieldType)) ∈ lw_all := lw_g (lw_at lw_m1 87 rfl) rfl
theorem q218 : (Jvm.Cond.methodLink "WhatIfSheet$Sight" (3 : Nat) ({ cls := "java/lang/Object", name := "<init>", desc := "()V" } : Jvm.MethodName)) ∈ lw_all := lw_g (lw_at lw_m1 88 rfl) rfl
theorem q219 : (Jvm.Cond.fieldLink "WhatIfSheet$Sight" (25 : Nat) "WhatIfSheet$Sight" "width" "I") ∈ lw_all := lw_g (lw_at lw_m1 89 rfl) rfl
theorem q221 : (Jvm.Cond.fieldLink "WhatIfSheet$Sight" (29 : Nat) "WhatIfSheet$Sight" "values" "[D") ∈ lw_all := lw_g (lw_at lw_m1 91 rfl) rfl
theorem q223 : (Jvm.Cond.fieldLink "WhatIfSheet$Sight" (42 : Nat) "WhatIfSheet$Sight" "results" "[D") ∈ lw_all := lw_g (lw_at lw_m1 93 rfl) rfl
theorem q226 : (Jvm.Cond.fieldLink "WhatIfSheet$Sight" (32 : Nat) "WhatIfSheet$Sight" "stamps" "[I") ∈ lw_all := lw_g (lw_at lw_m1 96 rfl) rfl
theorem q228 : (Jvm.Cond.fieldLink "WhatIfSheet$Sight" (36 : Nat) "WhatIfSheet$Sight" "faults" "[B") ∈ lw_all := lw_g (lw_at lw_m1 98 rfl) rfl
theorem q230 : (Jvm.Cond.fieldLink "WhatIfSheet$Sight" (39 : Nat) "WhatIfSheet$Sight" "blames" "[B") ∈ lw_all := lw_g (lw_at lw_m1 100 rfl) rfl
theorem q232 : (Jvm.Cond.fieldLink "WhatIfSheet$Sight" (45 : Nat) "WhatIfSheet$Sight" "errors" "[B") ∈ lw_all := lw_g (lw_at lw_m1 102 rfl) rfl
theorem q237 : (Jvm.Cond.fieldLink "WhatIfSheet$Sight" (48 : Nat) "WhatIfSheet$Sight" "blameds" "[B") ∈ lw_all := lw_g (lw_at lw_m1 107 rfl) rfl
theorem q239 : (Jvm.Cond.fieldLink "WhatIfSheet$Sight" (9 : Nat) "WhatIfSheet$Sight" "ones" "[D") ∈ lw_all := lw_g (lw_at lw_m1 109 rfl) rfl
theorem q241 : (Jvm.Cond.fieldLink "WhatIfSheet$Sight" (15 : Nat) "WhatIfSheet$Sight" "others" "[D") ∈ lw_all := lw_g (lw_at lw_m1 111 rfl) rfl
theorem q243 : (Jvm.Cond.fieldLink "WhatIfSheet$Sight" (18 : Nat) "WhatIfSheet$Sight" "firstOnes" "[B") ∈ lw_all := lw_g (lw_at lw_m1 113 rfl) rfl
theorem q245 : (Jvm.Cond.fieldLink "WhatIfSheet$Sight" (22 : Nat) "WhatIfSheet$Sight" "firstOthers" "[B") ∈ lw_all := lw_g (lw_at lw_m1 115 rfl) rfl
theorem q248 : (Jvm.Cond.laysFinal "WhatIfSheet$Sight" "WhatIfSheet$Sight" "width" "I") ∈ lw_all := lw_g (lw_at lw_m1 118 rfl) rfl
theorem q249 : (Jvm.Cond.soleField "WhatIfSheet$Sight" "width") ∈ lw_all := lw_g (lw_at lw_m1 119 rfl) rfl
theorem q250 : (Jvm.Cond.laysFinal "WhatIfSheet$Sight" "WhatIfSheet$Sight" "values" "[D") ∈ lw_all := lw_g (lw_at lw_m1 120 rfl) rfl
theorem q251 : (Jvm.Cond.soleField "WhatIfSheet$Sight" "values") ∈ lw_all := lw_g (lw_at lw_m1 121 rfl) rfl
theorem q252 : (Jvm.Cond.laysFinal "WhatIfSheet$Sight" "WhatIfSheet$Sight" "results" "[D") ∈ lw_all := lw_g (lw_at lw_m1 122 rfl) rfl
theorem q253 : (Jvm.Cond.soleField "WhatIfSheet$Sight" "results") ∈ lw_all := lw_g (lw_at lw_m1 123 rfl) rfl
theorem q254 : (Jvm.Cond.laysFinal "WhatIfSheet$Sight" "WhatIfSheet$Sight" "stamps" "[I") ∈ lw_all := lw_g (lw_at lw_m1 124 rfl) rfl
theorem q255 : (Jvm.Cond.soleField "WhatIfSheet$Sight" "stamps") ∈ lw_all := lw_g (lw_at lw_m1 125 rfl) rfl
theorem q256 : (Jvm.Cond.laysFinal "WhatIfSheet$Sight" "WhatIfSheet$Sight" "faults" "[B") ∈ lw_all := lw_g (lw_at lw_m1 126 rfl) rfl
theorem q257 : (Jvm.Cond.soleField "WhatIfSheet$Sight" "faults") ∈ lw_all := lw_g (lw_at lw_m1 127 rfl) rfl
theorem q258 : (Jvm.Cond.laysFinal "WhatIfSheet$Sight" "WhatIfSheet$Sight" "blames" "[B") ∈ lw_all := lw_g (lw_at lw_m1 128 rfl) rfl
theorem q259 : (Jvm.Cond.soleField "WhatIfSheet$Sight" "blames") ∈ lw_all := lw_g (lw_at lw_m1 129 rfl) rfl
theorem q260 : (Jvm.Cond.laysFinal "WhatIfSheet$Sight" "WhatIfSheet$Sight" "errors" "[B") ∈ lw_all := lw_g (lw_at lw_m1 130 rfl) rfl
theorem q261 : (Jvm.Cond.soleField "WhatIfSheet$Sight" "errors") ∈ lw_all := lw_g (lw_at lw_m1 131 rfl) rfl
theorem q262 : (Jvm.Cond.laysFinal "WhatIfSheet$Sight" "WhatIfSheet$Sight" "blameds" "[B") ∈ lw_all := lw_g (lw_at lw_m1 132 rfl) rfl
theorem q263 : (Jvm.Cond.soleField "WhatIfSheet$Sight" "blameds") ∈ lw_all := lw_g (lw_at lw_m1 133 rfl) rfl
theorem q264 : (Jvm.Cond.laysFinal "WhatIfSheet$Sight" "WhatIfSheet$Sight" "ones" "[D") ∈ lw_all := lw_g (lw_at lw_m1 134 rfl) rfl
theorem q265 : (Jvm.Cond.soleField "WhatIfSheet$Sight" "ones") ∈ lw_all := lw_g (lw_at lw_m1 135 rfl) rfl
theorem q266 : (Jvm.Cond.laysFinal "WhatIfSheet$Sight" "WhatIfSheet$Sight" "others" "[D") ∈ lw_all := lw_g (lw_at lw_m1 136 rfl) rfl
theorem q267 : (Jvm.Cond.soleField "WhatIfSheet$Sight" "others") ∈ lw_all := lw_g (lw_at lw_m1 137 rfl) rfl
theorem q268 : (Jvm.Cond.laysFinal "WhatIfSheet$Sight" "WhatIfSheet$Sight" "firstOnes" "[B") ∈ lw_all := lw_g (lw_at lw_m1 138 rfl) rfl
theorem q269 : (Jvm.Cond.soleField "WhatIfSheet$Sight" "firstOnes") ∈ lw_all := lw_g (lw_at lw_m1 139 rfl) rfl
theorem q270 : (Jvm.Cond.laysFinal "WhatIfSheet$Sight" "WhatIfSheet$Sight" "firstOthers" "[B") ∈ lw_all := lw_g (lw_at lw_m1 140 rfl) rfl
theorem q271 : (Jvm.Cond.soleField "WhatIfSheet$Sight" "firstOthers") ∈ lw_all := lw_g (lw_at lw_m1 141 rfl) rfl
theorem q272 : (Jvm.Cond.lays "WhatIfSheet$Sight" "WhatIfSheet$Sight" "stamp" "I") ∈ lw_all := lw_g (lw_at lw_m1 142 rfl) rfl
theorem q273 : (Jvm.Cond.soleField "WhatIfSheet$Sight" "stamp") ∈ lw_all := lw_g (lw_at lw_m1 143 rfl) rfl
theorem q274 : (Jvm.Cond.superclass "WhatIfSheet$Sight" "java/lang/Object") ∈ lw_all := lw_g (lw_at lw_m1 144 rfl) rfl
theorem q789 : (Jvm.Cond.selects "WhatIfSheet$Sight" ({ cls := "java/lang/Object", name := "equals", desc := "(Ljava/lang/Object;)Z" } : Jvm.MethodName) ({ cls := "java/lang/Object", name := "equals", desc := "(Ljava/lang/Object;)Z" } : Jvm.MethodName)) ∈ lw_all := lw_g (lw_at lw_m3 179 rfl) rfl
theorem q866 : (Jvm.Cond.selects "WhatIfSheet$Sight" ({ cls := "java/lang/Object", name := "getClass", desc := "()Ljava/lang/Class;" } : Jvm.MethodName) ({ cls := "java/lang/Object", name := "getClass", desc := "()Ljava/lang/Class;" } : Jvm.MethodName)) ∈ lw_all := lw_g (lw_at lw_m4 16 rfl) rfl
theorem q2167 : (Jvm.Cond.static ({ cls := "WhatIfSheet$Sight", name := "keeps", desc := "(LWhatIfSheet$Axis;LWhatIfSheet$Plain;[D[B)I" } : Jvm.MethodName)) ∈ lw_all := lw_g (lw_at lw_m9 117 rfl) rfl
theorem q2168 : (Jvm.Cond.code ({ cls := "WhatIfSheet$Sight", name := "keeps", desc := "(LWhatIfSheet$Axis;LWhatIfSheet$Plain;[D[B)I" } : Jvm.MethodName) prog_25_method_2_code (7 : Nat) (Option.some Jvm.ClassFile.FieldType.int)) ∈ lw_all := lw_g (lw_at lw_m9 118 rfl) rfl
theorem q2169 : (Jvm.Cond.methodLink "WhatIfSheet$Sight" (51 : Nat) ({ cls := "WhatIfSheet$Axis", name := "size", desc := "()I" } : Jvm.MethodName)) ∈ lw_all := lw_g (lw_at lw_m9 119 rfl) rfl
theorem q2170 : (Jvm.Cond.methodLink "WhatIfSheet$Sight" (60 : Nat) ({ cls := "WhatIfSheet$Plain", name := "kept", desc := "(D)D" } : Jvm.MethodName)) ∈ lw_all := lw_g (lw_at lw_m9 120 rfl) rfl
theorem q2357 : (Jvm.Cond.fieldLink "WhatIfSheet$Sight" (57 : Nat) "WhatIfSheet$Axis" "numbers" "[D") ∈ lw_all := lw_g (lw_at lw_m10 67 rfl) rfl
theorem q3393 : (Jvm.Cond.castable "WhatIfSheet$Sight" "java/lang/Object") ∈ lw_tbl := lw_at lw_m14 143 rfl
theorem in_X1 : ∀ w ∈ wsX10, w ∈ lw_all := lw_in wsX10 [248, 250, 252, 254, 256, 258, 260, 262, 264, 266, 268, 270, 272] (by decide +kernel) (by decide +kernel)
/-! WhatIfSheet$Capped -/
set_option maxRecDepth 100000
def RX10 : String := "WhatIfSheet$Capped"
def TX10 : u_T := fun k => match k with
  | 0 => ("WhatIfSheet$Plain", "number", "I", true)
  | 1 => ("WhatIfSheet$Plain", "formula", "LWhatIfSheet$Formula;", false)
  | _ => ("WhatIfSheet$Plain", "own", "D", false)
def tyX10 : Nat → FieldType := fun k => match k with
  | 0 => .int
  | 1 => .object "WhatIfSheet$Formula"
  | _ => .double
abbrev wsX100 : List Cond := u_ws RX10 TX10 3
theorem nmX10 : ∀ a, a < 3 → ∀ b, b < 3 → a ≠ b → (TX10 a).2.1 ≠ (TX10 b).2.1 := by decide +kernel
theorem tyX10_ok : ∀ k, k < 3 → parseFieldDescriptor (TX10 k).2.2.1 = some (tyX10 k) := by decide +kernel
abbrev cX10_fits : ByteArray := prog_5_method_3_code
def yX10_fits : MethodName := ⟨RX10, "fits", "(D)D"⟩
def dkwX10_fits_1 : List UInt8 := [151, 158, 0, 9, 20, 0, 13, 167, 0, 4, 41, 175]
abbrev dktX10_fits_1 : List UInt8 := dkwX10_fits_1 ++ []
def dkwX10_fits_0 : List UInt8 := [42, 39, 183, 0, 7, 74, 41, 20, 0, 11, 152, 156, 0, 9, 20, 0, 11, 167, 0, 18, 41, 20, 0, 13]
abbrev dktX10_fits_0 : List UInt8 := dkwX10_fits_0 ++ dktX10_fits_1
theorem dksX10_fits_0 : cX10_fits.data.toList.drop 0 = dktX10_fits_0 := by decide +kernel
theorem dksX10_fits_1 : cX10_fits.data.toList.drop 24 = dktX10_fits_1 := dk_seg dksX10_fits_0 24 rfl rfl
theorem dX10_fits_0 : decode cX10_fits 0 = .ok (.aload_n 0, 1) := dk_42 (dk_at dksX10_fits_0 0 rfl rfl)
theorem dX10_fits_1 : decode cX10_fits 1 = .ok (.dload_n 1, 1) := dk_39 (dk_at dksX10_fits_0 1 rfl rfl)
theorem dX10_fits_2 : decode cX10_fits 2 = .ok (.invokespecial 7, 3) := dk_183 0 7 (dk_at dksX10_fits_0 2 rfl rfl)
theorem dX10_fits_5 : decode cX10_fits 5 = .ok (.dstore_n 3, 1) := dk_74 (dk_at dksX10_fits_0 5 rfl rfl)
theorem dX10_fits_6 : decode cX10_fits 6 = .ok (.dload_n 3, 1) := dk_41 (dk_at dksX10_fits_0 6 rfl rfl)
theorem dX10_fits_7 : decode cX10_fits 7 = .ok (.ldc2_w 11, 3) := dk_20 0 11 (dk_at dksX10_fits_0 7 rfl rfl)
theorem dX10_fits_10 : decode cX10_fits 10 = .ok (.dcmp .g, 1) := dk_152 (dk_at dksX10_fits_0 10 rfl rfl)
theorem dX10_fits_11 : decode cX10_fits 11 = .ok (.ifCond .ge 9, 3) := dk_156 0 9 (dk_at dksX10_fits_0 11 rfl rfl)
theorem dX10_fits_14 : decode cX10_fits 14 = .ok (.ldc2_w 11, 3) := dk_20 0 11 (dk_at dksX10_fits_0 14 rfl rfl)
theorem dX10_fits_17 : decode cX10_fits 17 = .ok (.goto 18, 3) := dk_167 0 18 (dk_at dksX10_fits_0 17 rfl rfl)
theorem dX10_fits_20 : decode cX10_fits 20 = .ok (.dload_n 3, 1) := dk_41 (dk_at dksX10_fits_0 20 rfl rfl)
theorem dX10_fits_21 : decode cX10_fits 21 = .ok (.ldc2_w 13, 3) := dk_20 0 13 (dk_at dksX10_fits_0 21 rfl rfl)
theorem dX10_fits_24 : decode cX10_fits 24 = .ok (.dcmp .l, 1) := dk_151 (dk_at dksX10_fits_1 0 rfl rfl)
theorem dX10_fits_25 : decode cX10_fits 25 = .ok (.ifCond .le 9, 3) := dk_158 0 9 (dk_at dksX10_fits_1 1 rfl rfl)
theorem dX10_fits_28 : decode cX10_fits 28 = .ok (.ldc2_w 13, 3) := dk_20 0 13 (dk_at dksX10_fits_1 4 rfl rfl)
theorem dX10_fits_31 : decode cX10_fits 31 = .ok (.goto 4, 3) := dk_167 0 4 (dk_at dksX10_fits_1 7 rfl rfl)
theorem dX10_fits_34 : decode cX10_fits 34 = .ok (.dload_n 3, 1) := dk_41 (dk_at dksX10_fits_1 10 rfl rfl)
theorem dX10_fits_35 : decode cX10_fits 35 = .ok (.dreturn, 1) := dk_175 (dk_at dksX10_fits_1 11 rfl rfl)
abbrev cX10_kind : ByteArray := prog_5_method_2_code
def yX10_kind : MethodName := ⟨RX10, "kind", "()I"⟩
theorem dX10_kind_0 : decode cX10_kind 0 = .ok (.iconst 5, 1) := by decide +kernel
theorem dX10_kind_1 : decode cX10_kind 1 = .ok (.ireturn, 1) := by decide +kernel
abbrev cX10_init : ByteArray := prog_5_method_1_code
def yX10_init : MethodName := ⟨RX10, "<init>", "(I)V"⟩
def dkwX10_init_0 : List UInt8 := [42, 27, 183, 0, 1, 177]
abbrev dktX10_init_0 : List UInt8 := dkwX10_init_0 ++ []
theorem dksX10_init_0 : cX10_init.data.toList.drop 0 = dktX10_init_0 := by decide +kernel
theorem dX10_init_0 : decode cX10_init 0 = .ok (.aload_n 0, 1) := dk_42 (dk_at dksX10_init_0 0 rfl rfl)
theorem dX10_init_1 : decode cX10_init 1 = .ok (.iload_n 1, 1) := dk_27 (dk_at dksX10_init_0 1 rfl rfl)
theorem dX10_init_2 : decode cX10_init 2 = .ok (.invokespecial 1, 3) := dk_183 0 1 (dk_at dksX10_init_0 2 rfl rfl)
theorem dX10_init_5 : decode cX10_init 5 = .ok (.return_, 1) := dk_177 (dk_at dksX10_init_0 5 rfl rfl)
theorem q167 : (Jvm.Cond.initialized "WhatIfSheet$Capped") ∈ lw_all := lw_g (lw_at lw_m1 37 rfl) rfl
theorem q770 : (Jvm.Cond.selects "WhatIfSheet$Capped" ({ cls := "java/lang/Object", name := "equals", desc := "(Ljava/lang/Object;)Z" } : Jvm.MethodName) ({ cls := "java/lang/Object", name := "equals", desc := "(Ljava/lang/Object;)Z" } : Jvm.MethodName)) ∈ lw_all := lw_g (lw_at lw_m3 160 rfl) rfl
theorem q847 : (Jvm.Cond.selects "WhatIfSheet$Capped" ({ cls := "java/lang/Object", name := "getClass", desc := "()Ljava/lang/Class;" } : Jvm.MethodName) ({ cls := "java/lang/Object", name := "getClass", desc := "()Ljava/lang/Class;" } : Jvm.MethodName)) ∈ lw_all := lw_g (lw_at lw_m3 237 rfl) rfl
theorem q1973 : (Jvm.Cond.selects "WhatIfSheet$Capped" ({ cls := "WhatIfSheet$Plain", name := "isInput", desc := "()Z" } : Jvm.MethodName) ({ cls := "WhatIfSheet$Plain", name := "isInput", desc := "()Z" } : Jvm.MethodName)) ∈ lw_all := lw_g (lw_at lw_m8 163 rfl) rfl
theorem q1984 : (Jvm.Cond.selects "WhatIfSheet$Capped" ({ cls := "WhatIfSheet$Plain", name := "kept", desc := "(D)D" } : Jvm.MethodName) ({ cls := "WhatIfSheet$Plain", name := "kept", desc := "(D)D" } : Jvm.MethodName)) ∈ lw_all := lw_g (lw_at lw_m8 174 rfl) rfl
theorem q1994 : (Jvm.Cond.selects "WhatIfSheet$Capped" ({ cls := "WhatIfSheet$Plain", name := "fits", desc := "(D)D" } : Jvm.MethodName) ({ cls := "WhatIfSheet$Capped", name := "fits", desc := "(D)D" } : Jvm.MethodName)) ∈ lw_all := lw_g (lw_at lw_m8 184 rfl) rfl
theorem q1995 : (Jvm.Cond.instanceMethod ({ cls := "WhatIfSheet$Capped", name := "fits", desc := "(D)D" } : Jvm.MethodName)) ∈ lw_all := lw_g (lw_at lw_m8 185 rfl) rfl
theorem q1996 : (Jvm.Cond.code ({ cls := "WhatIfSheet$Capped", name := "fits", desc := "(D)D" } : Jvm.MethodName) prog_5_method_3_code (5 : Nat) (Option.some Jvm.ClassFile.FieldType.double)) ∈ lw_all := lw_g (lw_at lw_m8 186 rfl) rfl
theorem q1997 : (Jvm.Cond.methodLink "WhatIfSheet$Capped" (7 : Nat) ({ cls := "WhatIfSheet$Plain", name := "fits", desc := "(D)D" } : Jvm.MethodName)) ∈ lw_all := lw_g (lw_at lw_m8 187 rfl) rfl
theorem q1998 : (Jvm.Cond.superclass "WhatIfSheet$Capped" "WhatIfSheet$Plain") ∈ lw_all := lw_g (lw_at lw_m8 188 rfl) rfl
theorem q1999 : (Jvm.Cond.constantDouble "WhatIfSheet$Capped" (11 : Nat) (13875379345695965184 : UInt64)) ∈ lw_all := lw_g (lw_at lw_m8 189 rfl) rfl
theorem q2000 : (Jvm.Cond.constantDouble "WhatIfSheet$Capped" (13 : Nat) (4652007308841189376 : UInt64)) ∈ lw_all := lw_g (lw_at lw_m8 190 rfl) rfl
theorem q2035 : (Jvm.Cond.selects "WhatIfSheet$Capped" ({ cls := "WhatIfSheet$Plain", name := "kind", desc := "()I" } : Jvm.MethodName) ({ cls := "WhatIfSheet$Capped", name := "kind", desc := "()I" } : Jvm.MethodName)) ∈ lw_all := lw_g (lw_at lw_m8 225 rfl) rfl
theorem q2036 : (Jvm.Cond.instanceMethod ({ cls := "WhatIfSheet$Capped", name := "kind", desc := "()I" } : Jvm.MethodName)) ∈ lw_all := lw_g (lw_at lw_m8 226 rfl) rfl
theorem q2037 : (Jvm.Cond.code ({ cls := "WhatIfSheet$Capped", name := "kind", desc := "()I" } : Jvm.MethodName) prog_5_method_2_code (1 : Nat) (Option.some Jvm.ClassFile.FieldType.int)) ∈ lw_all := lw_g (lw_at lw_m8 227 rfl) rfl
theorem q2091 : (Jvm.Cond.instantiable "WhatIfSheet$Capped" (3 : Nat)) ∈ lw_all := lw_g (lw_at lw_m9 41 rfl) rfl
theorem q2093 : (Jvm.Cond.instanceMethod ({ cls := "WhatIfSheet$Capped", name := "<init>", desc := "(I)V" } : Jvm.MethodName)) ∈ lw_all := lw_g (lw_at lw_m9 43 rfl) rfl
theorem q2094 : (Jvm.Cond.code ({ cls := "WhatIfSheet$Capped", name := "<init>", desc := "(I)V" } : Jvm.MethodName) prog_5_method_1_code (2 : Nat) (Option.none : Option Jvm.ClassFile.FieldType)) ∈ lw_all := lw_g (lw_at lw_m9 44 rfl) rfl
theorem q2095 : (Jvm.Cond.methodLink "WhatIfSheet$Capped" (1 : Nat) ({ cls := "WhatIfSheet$Plain", name := "<init>", desc := "(I)V" } : Jvm.MethodName)) ∈ lw_all := lw_g (lw_at lw_m9 45 rfl) rfl
theorem q2096 : (Jvm.Cond.laysFinal "WhatIfSheet$Capped" "WhatIfSheet$Plain" "number" "I") ∈ lw_all := lw_g (lw_at lw_m9 46 rfl) rfl
theorem q2097 : (Jvm.Cond.lays "WhatIfSheet$Capped" "WhatIfSheet$Plain" "formula" "LWhatIfSheet$Formula;") ∈ lw_all := lw_g (lw_at lw_m9 47 rfl) rfl
theorem q2098 : (Jvm.Cond.lays "WhatIfSheet$Capped" "WhatIfSheet$Plain" "own" "D") ∈ lw_all := lw_g (lw_at lw_m9 48 rfl) rfl
theorem q2103 : (Jvm.Cond.selects "WhatIfSheet$Capped" ({ cls := "WhatIfSheet$Plain", name := "like", desc := "(LWhatIfSheet$Plain;)LWhatIfSheet$Plain;" } : Jvm.MethodName) ({ cls := "WhatIfSheet$Plain", name := "like", desc := "(LWhatIfSheet$Plain;)LWhatIfSheet$Plain;" } : Jvm.MethodName)) ∈ lw_all := lw_g (lw_at lw_m9 53 rfl) rfl
theorem q2113 : (Jvm.Cond.selects "WhatIfSheet$Capped" ({ cls := "WhatIfSheet$Plain", name := "isEmpty", desc := "()Z" } : Jvm.MethodName) ({ cls := "WhatIfSheet$Plain", name := "isEmpty", desc := "()Z" } : Jvm.MethodName)) ∈ lw_all := lw_g (lw_at lw_m9 63 rfl) rfl
theorem q3376 : (Jvm.Cond.selects "WhatIfSheet$Capped" ({ cls := "WhatIfSheet$Capped", name := "kind", desc := "()I" } : Jvm.MethodName) ({ cls := "WhatIfSheet$Capped", name := "kind", desc := "()I" } : Jvm.MethodName)) ∈ lw_all := lw_g (lw_at lw_m14 126 rfl) rfl
theorem q3384 : (Jvm.Cond.castable "WhatIfSheet$Capped" "WhatIfSheet$Plain") ∈ lw_tbl := lw_at lw_m14 134 rfl
theorem q3412 : (Jvm.Cond.castable "WhatIfSheet$Capped" "java/lang/Object") ∈ lw_tbl := lw_at lw_m14 162 rfl
theorem in_X10 : ∀ w ∈ wsX100, w ∈ lw_all := lw_in wsX100 [2096, 2097, 2098] (by decide +kernel) (by decide +kernel)
/-! WhatIfSheet$Reader -/
set_option maxRecDepth 100000
def RX11 : String := "WhatIfSheet$Reader"
def TX11 : u_T := fun k => match k with
  | 0 => ("WhatIfSheet$Reader", "at", "I", false)
  | 1 => ("WhatIfSheet$Reader", "from", "I", false)
  | 2 => ("WhatIfSheet$Reader", "open", "I", false)
  | 3 => ("WhatIfSheet$Reader", "word", "Ljava/lang/String;", false)
  | 4 => ("WhatIfSheet$Reader", "number", "I", false)
  | 5 => ("WhatIfSheet$Reader", "sign", "I", false)
  | 6 => ("WhatIfSheet$Reader", "isPlainNumber", "Z", false)
  | 7 => ("WhatIfSheet$Reader", "names", "Ljava/util/BitSet;", true)
  | 8 => ("WhatIfSheet$Reader", "asks", "Ljava/util/LinkedList;", true)
  | _ => ("WhatIfSheet$Reader", "this$0", "LWhatIfSheet;", true)
def tyX11 : Nat → FieldType := fun k => match k with
  | 0 => .int
  | 1 => .int
  | 2 => .int
  | 3 => .object "java/lang/String"
  | 4 => .int
  | 5 => .int
  | 6 => .boolean
  | 7 => .object "java/util/BitSet"
  | 8 => .object "java/util/LinkedList"
  | _ => .object "WhatIfSheet"
abbrev wsX110 : List Cond := u_ws RX11 TX11 10
theorem nmX11 : ∀ a, a < 10 → ∀ b, b < 10 → a ≠ b → (TX11 a).2.1 ≠ (TX11 b).2.1 := by decide +kernel
theorem tyX11_ok : ∀ k, k < 10 → parseFieldDescriptor (TX11 k).2.2.1 = some (tyX11 k) := by decide +kernel
abbrev cX11_init : ByteArray := prog_22_method_1_code
def yX11_init : MethodName := ⟨RX11, "<init>", "(LWhatIfSheet;)V"⟩
def dkwX11_init_1 : List UInt8 := [187, 0, 24, 89, 183, 0, 26, 181, 0, 27, 177]
abbrev dktX11_init_1 : List UInt8 := dkwX11_init_1 ++ []
def dkwX11_init_0 : List UInt8 := [42, 43, 181, 0, 3, 42, 183, 0, 9, 42, 187, 0, 15, 89, 16, 24, 183, 0, 17, 181, 0, 20, 42]
abbrev dktX11_init_0 : List UInt8 := dkwX11_init_0 ++ dktX11_init_1
theorem dksX11_init_0 : cX11_init.data.toList.drop 0 = dktX11_init_0 := by decide +kernel
theorem dksX11_init_1 : cX11_init.data.toList.drop 23 = dktX11_init_1 := dk_seg dksX11_init_0 23 rfl rfl
theorem dX11_init_0 : decode cX11_init 0 = .ok (.aload_n 0, 1) := dk_42 (dk_at dksX11_init_0 0 rfl rfl)
theorem dX11_init_1 : decode cX11_init 1 = .ok (.aload_n 1, 1) := dk_43 (dk_at dksX11_init_0 1 rfl rfl)
theorem dX11_init_2 : decode cX11_init 2 = .ok (.putfield 3, 3) := dk_181 0 3 (dk_at dksX11_init_0 2 rfl rfl)
theorem dX11_init_5 : decode cX11_init 5 = .ok (.aload_n 0, 1) := dk_42 (dk_at dksX11_init_0 5 rfl rfl)
theorem dX11_init_6 : decode cX11_init 6 = .ok (.invokespecial 9, 3) := dk_183 0 9 (dk_at dksX11_init_0 6 rfl rfl)
theorem dX11_init_9 : decode cX11_init 9 = .ok (.aload_n 0, 1) := dk_42 (dk_at dksX11_init_0 9 rfl rfl)
theorem dX11_init_10 : decode cX11_init 10 = .ok (.new 15, 3) := dk_187 0 15 (dk_at dksX11_init_0 10 rfl rfl)
theorem dX11_init_13 : decode cX11_init 13 = .ok (.dup, 1) := dk_89 (dk_at dksX11_init_0 13 rfl rfl)
theorem dX11_init_14 : decode cX11_init 14 = .ok (.bipush 24, 2) := dk_16 24 (dk_at dksX11_init_0 14 rfl rfl)
theorem dX11_init_16 : decode cX11_init 16 = .ok (.invokespecial 17, 3) := dk_183 0 17 (dk_at dksX11_init_0 16 rfl rfl)
theorem dX11_init_19 : decode cX11_init 19 = .ok (.putfield 20, 3) := dk_181 0 20 (dk_at dksX11_init_0 19 rfl rfl)
theorem dX11_init_22 : decode cX11_init 22 = .ok (.aload_n 0, 1) := dk_42 (dk_at dksX11_init_0 22 rfl rfl)
theorem dX11_init_23 : decode cX11_init 23 = .ok (.new 24, 3) := dk_187 0 24 (dk_at dksX11_init_1 0 rfl rfl)
theorem dX11_init_26 : decode cX11_init 26 = .ok (.dup, 1) := dk_89 (dk_at dksX11_init_1 3 rfl rfl)
theorem dX11_init_27 : decode cX11_init 27 = .ok (.invokespecial 26, 3) := dk_183 0 26 (dk_at dksX11_init_1 4 rfl rfl)
theorem dX11_init_30 : decode cX11_init 30 = .ok (.putfield 27, 3) := dk_181 0 27 (dk_at dksX11_init_1 7 rfl rfl)
theorem dX11_init_33 : decode cX11_init 33 = .ok (.return_, 1) := dk_177 (dk_at dksX11_init_1 10 rfl rfl)
abbrev cX11_whole : ByteArray := prog_22_method_21_code
def yX11_whole : MethodName := ⟨RX11, "whole", "()LWhatIfSheet$Formula;"⟩
def dkwX11_whole_2 : List UInt8 := [180, 0, 27, 183, 1, 9, 176]
abbrev dktX11_whole_2 : List UInt8 := dkwX11_whole_2 ++ []
def dkwX11_whole_1 : List UInt8 := [42, 180, 0, 59, 2, 159, 0, 8, 42, 182, 0, 86, 191, 187, 1, 7, 89, 43, 42, 180, 0, 20, 42]
abbrev dktX11_whole_1 : List UInt8 := dkwX11_whole_1 ++ dktX11_whole_2
def dkwX11_whole_0 : List UInt8 := [42, 182, 0, 115, 42, 182, 0, 164, 76, 42, 180, 0, 52, 199, 0, 19, 42, 180, 0, 56, 2, 160, 0, 11]
abbrev dktX11_whole_0 : List UInt8 := dkwX11_whole_0 ++ dktX11_whole_1
theorem dksX11_whole_0 : cX11_whole.data.toList.drop 0 = dktX11_whole_0 := by decide +kernel
theorem dksX11_whole_1 : cX11_whole.data.toList.drop 24 = dktX11_whole_1 := dk_seg dksX11_whole_0 24 rfl rfl
theorem dksX11_whole_2 : cX11_whole.data.toList.drop 47 = dktX11_whole_2 := dk_seg dksX11_whole_1 23 rfl rfl
theorem dX11_whole_0 : decode cX11_whole 0 = .ok (.aload_n 0, 1) := dk_42 (dk_at dksX11_whole_0 0 rfl rfl)
theorem dX11_whole_1 : decode cX11_whole 1 = .ok (.invokevirtual 115, 3) := dk_182 0 115 (dk_at dksX11_whole_0 1 rfl rfl)
theorem dX11_whole_4 : decode cX11_whole 4 = .ok (.aload_n 0, 1) := dk_42 (dk_at dksX11_whole_0 4 rfl rfl)
theorem dX11_whole_5 : decode cX11_whole 5 = .ok (.invokevirtual 164, 3) := dk_182 0 164 (dk_at dksX11_whole_0 5 rfl rfl)
theorem dX11_whole_8 : decode cX11_whole 8 = .ok (.astore_n 1, 1) := dk_76 (dk_at dksX11_whole_0 8 rfl rfl)
theorem dX11_whole_9 : decode cX11_whole 9 = .ok (.aload_n 0, 1) := dk_42 (dk_at dksX11_whole_0 9 rfl rfl)
theorem dX11_whole_10 : decode cX11_whole 10 = .ok (.getfield 52, 3) := dk_180 0 52 (dk_at dksX11_whole_0 10 rfl rfl)
theorem dX11_whole_13 : decode cX11_whole 13 = .ok (.ifnonnull 19, 3) := dk_199 0 19 (dk_at dksX11_whole_0 13 rfl rfl)
theorem dX11_whole_16 : decode cX11_whole 16 = .ok (.aload_n 0, 1) := dk_42 (dk_at dksX11_whole_0 16 rfl rfl)
theorem dX11_whole_17 : decode cX11_whole 17 = .ok (.getfield 56, 3) := dk_180 0 56 (dk_at dksX11_whole_0 17 rfl rfl)
theorem dX11_whole_20 : decode cX11_whole 20 = .ok (.iconst (-1), 1) := dk_2 (dk_at dksX11_whole_0 20 rfl rfl)
theorem dX11_whole_21 : decode cX11_whole 21 = .ok (.if_icmp .ne 11, 3) := dk_160 0 11 (dk_at dksX11_whole_0 21 rfl rfl)
theorem dX11_whole_24 : decode cX11_whole 24 = .ok (.aload_n 0, 1) := dk_42 (dk_at dksX11_whole_1 0 rfl rfl)
theorem dX11_whole_25 : decode cX11_whole 25 = .ok (.getfield 59, 3) := dk_180 0 59 (dk_at dksX11_whole_1 1 rfl rfl)
theorem dX11_whole_28 : decode cX11_whole 28 = .ok (.iconst (-1), 1) := dk_2 (dk_at dksX11_whole_1 4 rfl rfl)
theorem dX11_whole_29 : decode cX11_whole 29 = .ok (.if_icmp .eq 8, 3) := dk_159 0 8 (dk_at dksX11_whole_1 5 rfl rfl)
theorem dX11_whole_32 : decode cX11_whole 32 = .ok (.aload_n 0, 1) := dk_42 (dk_at dksX11_whole_1 8 rfl rfl)
theorem dX11_whole_33 : decode cX11_whole 33 = .ok (.invokevirtual 86, 3) := dk_182 0 86 (dk_at dksX11_whole_1 9 rfl rfl)
theorem dX11_whole_36 : decode cX11_whole 36 = .ok (.athrow, 1) := dk_191 (dk_at dksX11_whole_1 12 rfl rfl)
theorem dX11_whole_37 : decode cX11_whole 37 = .ok (.new 263, 3) := dk_187 1 7 (dk_at dksX11_whole_1 13 rfl rfl)
theorem dX11_whole_40 : decode cX11_whole 40 = .ok (.dup, 1) := dk_89 (dk_at dksX11_whole_1 16 rfl rfl)
theorem dX11_whole_41 : decode cX11_whole 41 = .ok (.aload_n 1, 1) := dk_43 (dk_at dksX11_whole_1 17 rfl rfl)
theorem dX11_whole_42 : decode cX11_whole 42 = .ok (.aload_n 0, 1) := dk_42 (dk_at dksX11_whole_1 18 rfl rfl)
theorem dX11_whole_43 : decode cX11_whole 43 = .ok (.getfield 20, 3) := dk_180 0 20 (dk_at dksX11_whole_1 19 rfl rfl)
theorem dX11_whole_46 : decode cX11_whole 46 = .ok (.aload_n 0, 1) := dk_42 (dk_at dksX11_whole_1 22 rfl rfl)
theorem dX11_whole_47 : decode cX11_whole 47 = .ok (.getfield 27, 3) := dk_180 0 27 (dk_at dksX11_whole_2 0 rfl rfl)
theorem dX11_whole_50 : decode cX11_whole 50 = .ok (.invokespecial 265, 3) := dk_183 1 9 (dk_at dksX11_whole_2 3 rfl rfl)
theorem dX11_whole_53 : decode cX11_whole 53 = .ok (.areturn, 1) := dk_176 (dk_at dksX11_whole_2 6 rfl rfl)
abbrev cX11_next : ByteArray := prog_22_method_4_code
def yX11_next : MethodName := ⟨RX11, "next", "()V"⟩
def dkwX11_next_6 : List UInt8 := [191, 42, 89, 180, 0, 38, 4, 96, 181, 0, 38, 177]
abbrev dktX11_next_6 : List UInt8 := dkwX11_next_6 ++ []
def dkwX11_next_5 : List UInt8 := [42, 42, 182, 0, 48, 181, 0, 59, 18, 78, 42, 180, 0, 59, 182, 0, 80, 156, 0, 8, 42, 182, 0, 86]
abbrev dktX11_next_5 : List UInt8 := dkwX11_next_5 ++ dktX11_next_6
def dkwX11_next_4 : List UInt8 := [153, 0, 10, 42, 182, 0, 76, 167, 0, 52, 42, 180, 0, 38, 42, 180, 0, 3, 180, 0, 41, 162, 0, 38]
abbrev dktX11_next_4 : List UInt8 := dkwX11_next_4 ++ dktX11_next_5
def dkwX11_next_3 : List UInt8 := [153, 0, 10, 42, 182, 0, 70, 167, 0, 76, 42, 182, 0, 48, 133, 20, 0, 72, 20, 0, 74, 184, 0, 66]
abbrev dktX11_next_3 : List UInt8 := dkwX11_next_3 ++ dktX11_next_4
def dkwX11_next_2 : List UInt8 := [181, 0, 56, 42, 2, 181, 0, 59, 42, 182, 0, 48, 133, 20, 0, 62, 20, 0, 64, 184, 0, 66]
abbrev dktX11_next_2 : List UInt8 := dkwX11_next_2 ++ dktX11_next_3
def dkwX11_next_1 : List UInt8 := [96, 181, 0, 38, 167, 255, 228, 42, 42, 180, 0, 38, 181, 0, 33, 42, 1, 181, 0, 52, 42, 2]
abbrev dktX11_next_1 : List UInt8 := dkwX11_next_1 ++ dktX11_next_2
def dkwX11_next_0 : List UInt8 := [42, 182, 0, 48, 16, 32, 159, 0, 12, 42, 182, 0, 48, 16, 10, 160, 0, 16, 42, 89, 180, 0, 38, 4]
abbrev dktX11_next_0 : List UInt8 := dkwX11_next_0 ++ dktX11_next_1
theorem dksX11_next_0 : cX11_next.data.toList.drop 0 = dktX11_next_0 := by decide +kernel
theorem dksX11_next_1 : cX11_next.data.toList.drop 24 = dktX11_next_1 := dk_seg dksX11_next_0 24 rfl rfl
theorem dksX11_next_2 : cX11_next.data.toList.drop 46 = dktX11_next_2 := dk_seg dksX11_next_1 22 rfl rfl
theorem dksX11_next_3 : cX11_next.data.toList.drop 68 = dktX11_next_3 := dk_seg dksX11_next_2 22 rfl rfl
theorem dksX11_next_4 : cX11_next.data.toList.drop 92 = dktX11_next_4 := dk_seg dksX11_next_3 24 rfl rfl
theorem dksX11_next_5 : cX11_next.data.toList.drop 116 = dktX11_next_5 := dk_seg dksX11_next_4 24 rfl rfl
theorem dksX11_next_6 : cX11_next.data.toList.drop 140 = dktX11_next_6 := dk_seg dksX11_next_5 24 rfl rfl
theorem dX11_next_0 : decode cX11_next 0 = .ok (.aload_n 0, 1) := dk_42 (dk_at dksX11_next_0 0 rfl rfl)
theorem dX11_next_1 : decode cX11_next 1 = .ok (.invokevirtual 48, 3) := dk_182 0 48 (dk_at dksX11_next_0 1 rfl rfl)
theorem dX11_next_4 : decode cX11_next 4 = .ok (.bipush 32, 2) := dk_16 32 (dk_at dksX11_next_0 4 rfl rfl)
theorem dX11_next_6 : decode cX11_next 6 = .ok (.if_icmp .eq 12, 3) := dk_159 0 12 (dk_at dksX11_next_0 6 rfl rfl)
theorem dX11_next_9 : decode cX11_next 9 = .ok (.aload_n 0, 1) := dk_42 (dk_at dksX11_next_0 9 rfl rfl)
theorem dX11_next_10 : decode cX11_next 10 = .ok (.invokevirtual 48, 3) := dk_182 0 48 (dk_at dksX11_next_0 10 rfl rfl)
theorem dX11_next_13 : decode cX11_next 13 = .ok (.bipush 10, 2) := dk_16 10 (dk_at dksX11_next_0 13 rfl rfl)
theorem dX11_next_15 : decode cX11_next 15 = .ok (.if_icmp .ne 16, 3) := dk_160 0 16 (dk_at dksX11_next_0 15 rfl rfl)
theorem dX11_next_18 : decode cX11_next 18 = .ok (.aload_n 0, 1) := dk_42 (dk_at dksX11_next_0 18 rfl rfl)
theorem dX11_next_19 : decode cX11_next 19 = .ok (.dup, 1) := dk_89 (dk_at dksX11_next_0 19 rfl rfl)
theorem dX11_next_20 : decode cX11_next 20 = .ok (.getfield 38, 3) := dk_180 0 38 (dk_at dksX11_next_0 20 rfl rfl)
theorem dX11_next_23 : decode cX11_next 23 = .ok (.iconst 1, 1) := dk_4 (dk_at dksX11_next_0 23 rfl rfl)
theorem dX11_next_24 : decode cX11_next 24 = .ok (.iadd, 1) := dk_96 (dk_at dksX11_next_1 0 rfl rfl)
theorem dX11_next_25 : decode cX11_next 25 = .ok (.putfield 38, 3) := dk_181 0 38 (dk_at dksX11_next_1 1 rfl rfl)
theorem dX11_next_28 : decode cX11_next 28 = .ok (.goto (-28), 3) := dk_167 255 228 (dk_at dksX11_next_1 4 rfl rfl)
theorem dX11_next_31 : decode cX11_next 31 = .ok (.aload_n 0, 1) := dk_42 (dk_at dksX11_next_1 7 rfl rfl)
theorem dX11_next_32 : decode cX11_next 32 = .ok (.aload_n 0, 1) := dk_42 (dk_at dksX11_next_1 8 rfl rfl)
theorem dX11_next_33 : decode cX11_next 33 = .ok (.getfield 38, 3) := dk_180 0 38 (dk_at dksX11_next_1 9 rfl rfl)
theorem dX11_next_36 : decode cX11_next 36 = .ok (.putfield 33, 3) := dk_181 0 33 (dk_at dksX11_next_1 12 rfl rfl)
theorem dX11_next_39 : decode cX11_next 39 = .ok (.aload_n 0, 1) := dk_42 (dk_at dksX11_next_1 15 rfl rfl)
theorem dX11_next_40 : decode cX11_next 40 = .ok (.aconst_null, 1) := dk_1 (dk_at dksX11_next_1 16 rfl rfl)
theorem dX11_next_41 : decode cX11_next 41 = .ok (.putfield 52, 3) := dk_181 0 52 (dk_at dksX11_next_1 17 rfl rfl)
theorem dX11_next_44 : decode cX11_next 44 = .ok (.aload_n 0, 1) := dk_42 (dk_at dksX11_next_1 20 rfl rfl)
theorem dX11_next_45 : decode cX11_next 45 = .ok (.iconst (-1), 1) := dk_2 (dk_at dksX11_next_1 21 rfl rfl)
theorem dX11_next_46 : decode cX11_next 46 = .ok (.putfield 56, 3) := dk_181 0 56 (dk_at dksX11_next_2 0 rfl rfl)
theorem dX11_next_49 : decode cX11_next 49 = .ok (.aload_n 0, 1) := dk_42 (dk_at dksX11_next_2 3 rfl rfl)
theorem dX11_next_50 : decode cX11_next 50 = .ok (.iconst (-1), 1) := dk_2 (dk_at dksX11_next_2 4 rfl rfl)
theorem dX11_next_51 : decode cX11_next 51 = .ok (.putfield 59, 3) := dk_181 0 59 (dk_at dksX11_next_2 5 rfl rfl)
theorem dX11_next_54 : decode cX11_next 54 = .ok (.aload_n 0, 1) := dk_42 (dk_at dksX11_next_2 8 rfl rfl)
theorem dX11_next_55 : decode cX11_next 55 = .ok (.invokevirtual 48, 3) := dk_182 0 48 (dk_at dksX11_next_2 9 rfl rfl)
theorem dX11_next_58 : decode cX11_next 58 = .ok (.i2l, 1) := dk_133 (dk_at dksX11_next_2 12 rfl rfl)
theorem dX11_next_59 : decode cX11_next 59 = .ok (.ldc2_w 62, 3) := dk_20 0 62 (dk_at dksX11_next_2 13 rfl rfl)
theorem dX11_next_62 : decode cX11_next 62 = .ok (.ldc2_w 64, 3) := dk_20 0 64 (dk_at dksX11_next_2 16 rfl rfl)
theorem dX11_next_65 : decode cX11_next 65 = .ok (.invokestatic 66, 3) := dk_184 0 66 (dk_at dksX11_next_2 19 rfl rfl)
theorem dX11_next_68 : decode cX11_next 68 = .ok (.ifCond .eq 10, 3) := dk_153 0 10 (dk_at dksX11_next_3 0 rfl rfl)
theorem dX11_next_71 : decode cX11_next 71 = .ok (.aload_n 0, 1) := dk_42 (dk_at dksX11_next_3 3 rfl rfl)
theorem dX11_next_72 : decode cX11_next 72 = .ok (.invokevirtual 70, 3) := dk_182 0 70 (dk_at dksX11_next_3 4 rfl rfl)
theorem dX11_next_75 : decode cX11_next 75 = .ok (.goto 76, 3) := dk_167 0 76 (dk_at dksX11_next_3 7 rfl rfl)
theorem dX11_next_78 : decode cX11_next 78 = .ok (.aload_n 0, 1) := dk_42 (dk_at dksX11_next_3 10 rfl rfl)
theorem dX11_next_79 : decode cX11_next 79 = .ok (.invokevirtual 48, 3) := dk_182 0 48 (dk_at dksX11_next_3 11 rfl rfl)
theorem dX11_next_82 : decode cX11_next 82 = .ok (.i2l, 1) := dk_133 (dk_at dksX11_next_3 14 rfl rfl)
theorem dX11_next_83 : decode cX11_next 83 = .ok (.ldc2_w 72, 3) := dk_20 0 72 (dk_at dksX11_next_3 15 rfl rfl)
theorem dX11_next_86 : decode cX11_next 86 = .ok (.ldc2_w 74, 3) := dk_20 0 74 (dk_at dksX11_next_3 18 rfl rfl)
theorem dX11_next_89 : decode cX11_next 89 = .ok (.invokestatic 66, 3) := dk_184 0 66 (dk_at dksX11_next_3 21 rfl rfl)
theorem dX11_next_92 : decode cX11_next 92 = .ok (.ifCond .eq 10, 3) := dk_153 0 10 (dk_at dksX11_next_4 0 rfl rfl)
theorem dX11_next_95 : decode cX11_next 95 = .ok (.aload_n 0, 1) := dk_42 (dk_at dksX11_next_4 3 rfl rfl)
theorem dX11_next_96 : decode cX11_next 96 = .ok (.invokevirtual 76, 3) := dk_182 0 76 (dk_at dksX11_next_4 4 rfl rfl)
theorem dX11_next_99 : decode cX11_next 99 = .ok (.goto 52, 3) := dk_167 0 52 (dk_at dksX11_next_4 7 rfl rfl)
theorem dX11_next_102 : decode cX11_next 102 = .ok (.aload_n 0, 1) := dk_42 (dk_at dksX11_next_4 10 rfl rfl)
theorem dX11_next_103 : decode cX11_next 103 = .ok (.getfield 38, 3) := dk_180 0 38 (dk_at dksX11_next_4 11 rfl rfl)
theorem dX11_next_106 : decode cX11_next 106 = .ok (.aload_n 0, 1) := dk_42 (dk_at dksX11_next_4 14 rfl rfl)
theorem dX11_next_107 : decode cX11_next 107 = .ok (.getfield 3, 3) := dk_180 0 3 (dk_at dksX11_next_4 15 rfl rfl)
theorem dX11_next_110 : decode cX11_next 110 = .ok (.getfield 41, 3) := dk_180 0 41 (dk_at dksX11_next_4 18 rfl rfl)
theorem dX11_next_113 : decode cX11_next 113 = .ok (.if_icmp .ge 38, 3) := dk_162 0 38 (dk_at dksX11_next_4 21 rfl rfl)
theorem dX11_next_116 : decode cX11_next 116 = .ok (.aload_n 0, 1) := dk_42 (dk_at dksX11_next_5 0 rfl rfl)
theorem dX11_next_117 : decode cX11_next 117 = .ok (.aload_n 0, 1) := dk_42 (dk_at dksX11_next_5 1 rfl rfl)
theorem dX11_next_118 : decode cX11_next 118 = .ok (.invokevirtual 48, 3) := dk_182 0 48 (dk_at dksX11_next_5 2 rfl rfl)
theorem dX11_next_121 : decode cX11_next 121 = .ok (.putfield 59, 3) := dk_181 0 59 (dk_at dksX11_next_5 5 rfl rfl)
theorem dX11_next_124 : decode cX11_next 124 = .ok (.ldc 78, 2) := dk_18 78 (dk_at dksX11_next_5 8 rfl rfl)
theorem dX11_next_126 : decode cX11_next 126 = .ok (.aload_n 0, 1) := dk_42 (dk_at dksX11_next_5 10 rfl rfl)
theorem dX11_next_127 : decode cX11_next 127 = .ok (.getfield 59, 3) := dk_180 0 59 (dk_at dksX11_next_5 11 rfl rfl)
theorem dX11_next_130 : decode cX11_next 130 = .ok (.invokevirtual 80, 3) := dk_182 0 80 (dk_at dksX11_next_5 14 rfl rfl)
theorem dX11_next_133 : decode cX11_next 133 = .ok (.ifCond .ge 8, 3) := dk_156 0 8 (dk_at dksX11_next_5 17 rfl rfl)
theorem dX11_next_136 : decode cX11_next 136 = .ok (.aload_n 0, 1) := dk_42 (dk_at dksX11_next_5 20 rfl rfl)
theorem dX11_next_137 : decode cX11_next 137 = .ok (.invokevirtual 86, 3) := dk_182 0 86 (dk_at dksX11_next_5 21 rfl rfl)
theorem dX11_next_140 : decode cX11_next 140 = .ok (.athrow, 1) := dk_191 (dk_at dksX11_next_6 0 rfl rfl)
theorem dX11_next_141 : decode cX11_next 141 = .ok (.aload_n 0, 1) := dk_42 (dk_at dksX11_next_6 1 rfl rfl)
theorem dX11_next_142 : decode cX11_next 142 = .ok (.dup, 1) := dk_89 (dk_at dksX11_next_6 2 rfl rfl)
theorem dX11_next_143 : decode cX11_next 143 = .ok (.getfield 38, 3) := dk_180 0 38 (dk_at dksX11_next_6 3 rfl rfl)
theorem dX11_next_146 : decode cX11_next 146 = .ok (.iconst 1, 1) := dk_4 (dk_at dksX11_next_6 6 rfl rfl)
theorem dX11_next_147 : decode cX11_next 147 = .ok (.iadd, 1) := dk_96 (dk_at dksX11_next_6 7 rfl rfl)
theorem dX11_next_148 : decode cX11_next 148 = .ok (.putfield 38, 3) := dk_181 0 38 (dk_at dksX11_next_6 8 rfl rfl)
theorem dX11_next_151 : decode cX11_next 151 = .ok (.return_, 1) := dk_177 (dk_at dksX11_next_6 11 rfl rfl)
abbrev cX11_here : ByteArray := prog_22_method_3_code
def yX11_here : MethodName := ⟨RX11, "here", "()I"⟩
def dkwX11_here_1 : List UInt8 := [180, 0, 38, 51, 17, 0, 255, 126, 167, 0, 4, 2, 172]
abbrev dktX11_here_1 : List UInt8 := dkwX11_here_1 ++ []
def dkwX11_here_0 : List UInt8 := [42, 180, 0, 38, 42, 180, 0, 3, 180, 0, 41, 162, 0, 22, 42, 180, 0, 3, 180, 0, 44, 42]
abbrev dktX11_here_0 : List UInt8 := dkwX11_here_0 ++ dktX11_here_1
theorem dksX11_here_0 : cX11_here.data.toList.drop 0 = dktX11_here_0 := by decide +kernel
theorem dksX11_here_1 : cX11_here.data.toList.drop 22 = dktX11_here_1 := dk_seg dksX11_here_0 22 rfl rfl
theorem dX11_here_0 : decode cX11_here 0 = .ok (.aload_n 0, 1) := dk_42 (dk_at dksX11_here_0 0 rfl rfl)
theorem dX11_here_1 : decode cX11_here 1 = .ok (.getfield 38, 3) := dk_180 0 38 (dk_at dksX11_here_0 1 rfl rfl)
theorem dX11_here_4 : decode cX11_here 4 = .ok (.aload_n 0, 1) := dk_42 (dk_at dksX11_here_0 4 rfl rfl)
theorem dX11_here_5 : decode cX11_here 5 = .ok (.getfield 3, 3) := dk_180 0 3 (dk_at dksX11_here_0 5 rfl rfl)
theorem dX11_here_8 : decode cX11_here 8 = .ok (.getfield 41, 3) := dk_180 0 41 (dk_at dksX11_here_0 8 rfl rfl)
theorem dX11_here_11 : decode cX11_here 11 = .ok (.if_icmp .ge 22, 3) := dk_162 0 22 (dk_at dksX11_here_0 11 rfl rfl)
theorem dX11_here_14 : decode cX11_here 14 = .ok (.aload_n 0, 1) := dk_42 (dk_at dksX11_here_0 14 rfl rfl)
theorem dX11_here_15 : decode cX11_here 15 = .ok (.getfield 3, 3) := dk_180 0 3 (dk_at dksX11_here_0 15 rfl rfl)
theorem dX11_here_18 : decode cX11_here 18 = .ok (.getfield 44, 3) := dk_180 0 44 (dk_at dksX11_here_0 18 rfl rfl)
theorem dX11_here_21 : decode cX11_here 21 = .ok (.aload_n 0, 1) := dk_42 (dk_at dksX11_here_0 21 rfl rfl)
theorem dX11_here_22 : decode cX11_here 22 = .ok (.getfield 38, 3) := dk_180 0 38 (dk_at dksX11_here_1 0 rfl rfl)
theorem dX11_here_25 : decode cX11_here 25 = .ok (.baload, 1) := dk_51 (dk_at dksX11_here_1 3 rfl rfl)
theorem dX11_here_26 : decode cX11_here 26 = .ok (.sipush 255, 3) := dk_17 0 255 (dk_at dksX11_here_1 4 rfl rfl)
theorem dX11_here_29 : decode cX11_here 29 = .ok (.iand, 1) := dk_126 (dk_at dksX11_here_1 7 rfl rfl)
theorem dX11_here_30 : decode cX11_here 30 = .ok (.goto 4, 3) := dk_167 0 4 (dk_at dksX11_here_1 8 rfl rfl)
theorem dX11_here_33 : decode cX11_here 33 = .ok (.iconst (-1), 1) := dk_2 (dk_at dksX11_here_1 11 rfl rfl)
theorem dX11_here_34 : decode cX11_here 34 = .ok (.ireturn, 1) := dk_172 (dk_at dksX11_here_1 12 rfl rfl)
abbrev cX11_word : ByteArray := prog_22_method_5_code
def yX11_word : MethodName := ⟨RX11, "word", "()V"⟩
def dkwX11_word_2 : List UInt8 := [180, 0, 38, 4, 96, 181, 0, 38, 167, 255, 210, 42, 43, 182, 0, 100, 181, 0, 52, 177]
abbrev dktX11_word_2 : List UInt8 := dkwX11_word_2 ++ []
def dkwX11_word_1 : List UInt8 := [153, 0, 35, 43, 182, 0, 93, 16, 6, 162, 0, 13, 43, 42, 182, 0, 48, 146, 182, 0, 96, 87, 42, 89]
abbrev dktX11_word_1 : List UInt8 := dkwX11_word_1 ++ dktX11_word_2
def dkwX11_word_0 : List UInt8 := [187, 0, 90, 89, 16, 8, 183, 0, 92, 76, 42, 182, 0, 48, 133, 20, 0, 62, 20, 0, 64, 184, 0, 66]
abbrev dktX11_word_0 : List UInt8 := dkwX11_word_0 ++ dktX11_word_1
theorem dksX11_word_0 : cX11_word.data.toList.drop 0 = dktX11_word_0 := by decide +kernel
theorem dksX11_word_1 : cX11_word.data.toList.drop 24 = dktX11_word_1 := dk_seg dksX11_word_0 24 rfl rfl
theorem dksX11_word_2 : cX11_word.data.toList.drop 48 = dktX11_word_2 := dk_seg dksX11_word_1 24 rfl rfl
theorem dX11_word_0 : decode cX11_word 0 = .ok (.new 90, 3) := dk_187 0 90 (dk_at dksX11_word_0 0 rfl rfl)
theorem dX11_word_3 : decode cX11_word 3 = .ok (.dup, 1) := dk_89 (dk_at dksX11_word_0 3 rfl rfl)
theorem dX11_word_4 : decode cX11_word 4 = .ok (.bipush 8, 2) := dk_16 8 (dk_at dksX11_word_0 4 rfl rfl)
theorem dX11_word_6 : decode cX11_word 6 = .ok (.invokespecial 92, 3) := dk_183 0 92 (dk_at dksX11_word_0 6 rfl rfl)
theorem dX11_word_9 : decode cX11_word 9 = .ok (.astore_n 1, 1) := dk_76 (dk_at dksX11_word_0 9 rfl rfl)
theorem dX11_word_10 : decode cX11_word 10 = .ok (.aload_n 0, 1) := dk_42 (dk_at dksX11_word_0 10 rfl rfl)
theorem dX11_word_11 : decode cX11_word 11 = .ok (.invokevirtual 48, 3) := dk_182 0 48 (dk_at dksX11_word_0 11 rfl rfl)
theorem dX11_word_14 : decode cX11_word 14 = .ok (.i2l, 1) := dk_133 (dk_at dksX11_word_0 14 rfl rfl)
theorem dX11_word_15 : decode cX11_word 15 = .ok (.ldc2_w 62, 3) := dk_20 0 62 (dk_at dksX11_word_0 15 rfl rfl)
theorem dX11_word_18 : decode cX11_word 18 = .ok (.ldc2_w 64, 3) := dk_20 0 64 (dk_at dksX11_word_0 18 rfl rfl)
theorem dX11_word_21 : decode cX11_word 21 = .ok (.invokestatic 66, 3) := dk_184 0 66 (dk_at dksX11_word_0 21 rfl rfl)
theorem dX11_word_24 : decode cX11_word 24 = .ok (.ifCond .eq 35, 3) := dk_153 0 35 (dk_at dksX11_word_1 0 rfl rfl)
theorem dX11_word_27 : decode cX11_word 27 = .ok (.aload_n 1, 1) := dk_43 (dk_at dksX11_word_1 3 rfl rfl)
theorem dX11_word_28 : decode cX11_word 28 = .ok (.invokevirtual 93, 3) := dk_182 0 93 (dk_at dksX11_word_1 4 rfl rfl)
theorem dX11_word_31 : decode cX11_word 31 = .ok (.bipush 6, 2) := dk_16 6 (dk_at dksX11_word_1 7 rfl rfl)
theorem dX11_word_33 : decode cX11_word 33 = .ok (.if_icmp .ge 13, 3) := dk_162 0 13 (dk_at dksX11_word_1 9 rfl rfl)
theorem dX11_word_36 : decode cX11_word 36 = .ok (.aload_n 1, 1) := dk_43 (dk_at dksX11_word_1 12 rfl rfl)
theorem dX11_word_37 : decode cX11_word 37 = .ok (.aload_n 0, 1) := dk_42 (dk_at dksX11_word_1 13 rfl rfl)
theorem dX11_word_38 : decode cX11_word 38 = .ok (.invokevirtual 48, 3) := dk_182 0 48 (dk_at dksX11_word_1 14 rfl rfl)
theorem dX11_word_41 : decode cX11_word 41 = .ok (.i2c, 1) := dk_146 (dk_at dksX11_word_1 17 rfl rfl)
theorem dX11_word_42 : decode cX11_word 42 = .ok (.invokevirtual 96, 3) := dk_182 0 96 (dk_at dksX11_word_1 18 rfl rfl)
theorem dX11_word_45 : decode cX11_word 45 = .ok (.pop, 1) := dk_87 (dk_at dksX11_word_1 21 rfl rfl)
theorem dX11_word_46 : decode cX11_word 46 = .ok (.aload_n 0, 1) := dk_42 (dk_at dksX11_word_1 22 rfl rfl)
theorem dX11_word_47 : decode cX11_word 47 = .ok (.dup, 1) := dk_89 (dk_at dksX11_word_1 23 rfl rfl)
theorem dX11_word_48 : decode cX11_word 48 = .ok (.getfield 38, 3) := dk_180 0 38 (dk_at dksX11_word_2 0 rfl rfl)
theorem dX11_word_51 : decode cX11_word 51 = .ok (.iconst 1, 1) := dk_4 (dk_at dksX11_word_2 3 rfl rfl)
theorem dX11_word_52 : decode cX11_word 52 = .ok (.iadd, 1) := dk_96 (dk_at dksX11_word_2 4 rfl rfl)
theorem dX11_word_53 : decode cX11_word 53 = .ok (.putfield 38, 3) := dk_181 0 38 (dk_at dksX11_word_2 5 rfl rfl)
theorem dX11_word_56 : decode cX11_word 56 = .ok (.goto (-46), 3) := dk_167 255 210 (dk_at dksX11_word_2 8 rfl rfl)
theorem dX11_word_59 : decode cX11_word 59 = .ok (.aload_n 0, 1) := dk_42 (dk_at dksX11_word_2 11 rfl rfl)
theorem dX11_word_60 : decode cX11_word 60 = .ok (.aload_n 1, 1) := dk_43 (dk_at dksX11_word_2 12 rfl rfl)
theorem dX11_word_61 : decode cX11_word 61 = .ok (.invokevirtual 100, 3) := dk_182 0 100 (dk_at dksX11_word_2 13 rfl rfl)
theorem dX11_word_64 : decode cX11_word 64 = .ok (.putfield 52, 3) := dk_181 0 52 (dk_at dksX11_word_2 16 rfl rfl)
theorem dX11_word_67 : decode cX11_word 67 = .ok (.return_, 1) := dk_177 (dk_at dksX11_word_2 19 rfl rfl)
abbrev cX11_number : ByteArray := prog_22_method_7_code
def yX11_number : MethodName := ⟨RX11, "number", "()V"⟩
def dkwX11_number_2 : List UInt8 := [181, 0, 38, 42, 89, 180, 0, 56, 42, 6, 182, 0, 104, 96, 181, 0, 56, 177]
abbrev dktX11_number_2 : List UInt8 := dkwX11_number_2 ++ []
def dkwX11_number_1 : List UInt8 := [167, 0, 4, 3, 181, 0, 107, 42, 180, 0, 107, 153, 0, 4, 177, 42, 89, 180, 0, 38, 4, 96]
abbrev dktX11_number_1 : List UInt8 := dkwX11_number_1 ++ dktX11_number_2
def dkwX11_number_0 : List UInt8 := [42, 17, 3, 232, 42, 7, 182, 0, 104, 104, 181, 0, 56, 42, 42, 182, 0, 48, 16, 46, 159, 0, 7, 4]
abbrev dktX11_number_0 : List UInt8 := dkwX11_number_0 ++ dktX11_number_1
theorem dksX11_number_0 : cX11_number.data.toList.drop 0 = dktX11_number_0 := by decide +kernel
theorem dksX11_number_1 : cX11_number.data.toList.drop 24 = dktX11_number_1 := dk_seg dksX11_number_0 24 rfl rfl
theorem dksX11_number_2 : cX11_number.data.toList.drop 46 = dktX11_number_2 := dk_seg dksX11_number_1 22 rfl rfl
theorem dX11_number_0 : decode cX11_number 0 = .ok (.aload_n 0, 1) := dk_42 (dk_at dksX11_number_0 0 rfl rfl)
theorem dX11_number_1 : decode cX11_number 1 = .ok (.sipush 1000, 3) := dk_17 3 232 (dk_at dksX11_number_0 1 rfl rfl)
theorem dX11_number_4 : decode cX11_number 4 = .ok (.aload_n 0, 1) := dk_42 (dk_at dksX11_number_0 4 rfl rfl)
theorem dX11_number_5 : decode cX11_number 5 = .ok (.iconst 4, 1) := dk_7 (dk_at dksX11_number_0 5 rfl rfl)
theorem dX11_number_6 : decode cX11_number 6 = .ok (.invokevirtual 104, 3) := dk_182 0 104 (dk_at dksX11_number_0 6 rfl rfl)
theorem dX11_number_9 : decode cX11_number 9 = .ok (.imul, 1) := dk_104 (dk_at dksX11_number_0 9 rfl rfl)
theorem dX11_number_10 : decode cX11_number 10 = .ok (.putfield 56, 3) := dk_181 0 56 (dk_at dksX11_number_0 10 rfl rfl)
theorem dX11_number_13 : decode cX11_number 13 = .ok (.aload_n 0, 1) := dk_42 (dk_at dksX11_number_0 13 rfl rfl)
theorem dX11_number_14 : decode cX11_number 14 = .ok (.aload_n 0, 1) := dk_42 (dk_at dksX11_number_0 14 rfl rfl)
theorem dX11_number_15 : decode cX11_number 15 = .ok (.invokevirtual 48, 3) := dk_182 0 48 (dk_at dksX11_number_0 15 rfl rfl)
theorem dX11_number_18 : decode cX11_number 18 = .ok (.bipush 46, 2) := dk_16 46 (dk_at dksX11_number_0 18 rfl rfl)
theorem dX11_number_20 : decode cX11_number 20 = .ok (.if_icmp .eq 7, 3) := dk_159 0 7 (dk_at dksX11_number_0 20 rfl rfl)
theorem dX11_number_23 : decode cX11_number 23 = .ok (.iconst 1, 1) := dk_4 (dk_at dksX11_number_0 23 rfl rfl)
theorem dX11_number_24 : decode cX11_number 24 = .ok (.goto 4, 3) := dk_167 0 4 (dk_at dksX11_number_1 0 rfl rfl)
theorem dX11_number_27 : decode cX11_number 27 = .ok (.iconst 0, 1) := dk_3 (dk_at dksX11_number_1 3 rfl rfl)
theorem dX11_number_28 : decode cX11_number 28 = .ok (.putfield 107, 3) := dk_181 0 107 (dk_at dksX11_number_1 4 rfl rfl)
theorem dX11_number_31 : decode cX11_number 31 = .ok (.aload_n 0, 1) := dk_42 (dk_at dksX11_number_1 7 rfl rfl)
theorem dX11_number_32 : decode cX11_number 32 = .ok (.getfield 107, 3) := dk_180 0 107 (dk_at dksX11_number_1 8 rfl rfl)
theorem dX11_number_35 : decode cX11_number 35 = .ok (.ifCond .eq 4, 3) := dk_153 0 4 (dk_at dksX11_number_1 11 rfl rfl)
theorem dX11_number_38 : decode cX11_number 38 = .ok (.return_, 1) := dk_177 (dk_at dksX11_number_1 14 rfl rfl)
theorem dX11_number_39 : decode cX11_number 39 = .ok (.aload_n 0, 1) := dk_42 (dk_at dksX11_number_1 15 rfl rfl)
theorem dX11_number_40 : decode cX11_number 40 = .ok (.dup, 1) := dk_89 (dk_at dksX11_number_1 16 rfl rfl)
theorem dX11_number_41 : decode cX11_number 41 = .ok (.getfield 38, 3) := dk_180 0 38 (dk_at dksX11_number_1 17 rfl rfl)
theorem dX11_number_44 : decode cX11_number 44 = .ok (.iconst 1, 1) := dk_4 (dk_at dksX11_number_1 20 rfl rfl)
theorem dX11_number_45 : decode cX11_number 45 = .ok (.iadd, 1) := dk_96 (dk_at dksX11_number_1 21 rfl rfl)
theorem dX11_number_46 : decode cX11_number 46 = .ok (.putfield 38, 3) := dk_181 0 38 (dk_at dksX11_number_2 0 rfl rfl)
theorem dX11_number_49 : decode cX11_number 49 = .ok (.aload_n 0, 1) := dk_42 (dk_at dksX11_number_2 3 rfl rfl)
theorem dX11_number_50 : decode cX11_number 50 = .ok (.dup, 1) := dk_89 (dk_at dksX11_number_2 4 rfl rfl)
theorem dX11_number_51 : decode cX11_number 51 = .ok (.getfield 56, 3) := dk_180 0 56 (dk_at dksX11_number_2 5 rfl rfl)
theorem dX11_number_54 : decode cX11_number 54 = .ok (.aload_n 0, 1) := dk_42 (dk_at dksX11_number_2 8 rfl rfl)
theorem dX11_number_55 : decode cX11_number 55 = .ok (.iconst 3, 1) := dk_6 (dk_at dksX11_number_2 9 rfl rfl)
theorem dX11_number_56 : decode cX11_number 56 = .ok (.invokevirtual 104, 3) := dk_182 0 104 (dk_at dksX11_number_2 10 rfl rfl)
theorem dX11_number_59 : decode cX11_number 59 = .ok (.iadd, 1) := dk_96 (dk_at dksX11_number_2 13 rfl rfl)
theorem dX11_number_60 : decode cX11_number 60 = .ok (.putfield 56, 3) := dk_181 0 56 (dk_at dksX11_number_2 14 rfl rfl)
theorem dX11_number_63 : decode cX11_number 63 = .ok (.return_, 1) := dk_177 (dk_at dksX11_number_2 17 rfl rfl)
abbrev cX11_digits : ByteArray := prog_22_method_6_code
def yX11_digits : MethodName := ⟨RX11, "digits", "(I)I"⟩
def dkwX11_digits_3 : List UInt8 := [160, 0, 19, 29, 6, 162, 0, 14, 28, 16, 10, 104, 61, 132, 3, 1, 167, 255, 238, 28, 172]
abbrev dktX11_digits_3 : List UInt8 := dkwX11_digits_3 ++ []
def dkwX11_digits_2 : List UInt8 := [42, 89, 180, 0, 38, 4, 96, 181, 0, 38, 167, 255, 203, 29, 154, 0, 8, 42, 182, 0, 86, 191, 27, 6]
abbrev dktX11_digits_2 : List UInt8 := dkwX11_digits_2 ++ dktX11_digits_3
def dkwX11_digits_1 : List UInt8 := [160, 0, 8, 42, 182, 0, 86, 191, 16, 10, 28, 104, 42, 182, 0, 48, 96, 16, 48, 100, 61, 132, 3, 1]
abbrev dktX11_digits_1 : List UInt8 := dkwX11_digits_1 ++ dktX11_digits_2
def dkwX11_digits_0 : List UInt8 := [3, 61, 3, 62, 42, 182, 0, 48, 133, 20, 0, 72, 20, 0, 74, 184, 0, 66, 153, 0, 42, 29, 27]
abbrev dktX11_digits_0 : List UInt8 := dkwX11_digits_0 ++ dktX11_digits_1
theorem dksX11_digits_0 : cX11_digits.data.toList.drop 0 = dktX11_digits_0 := by decide +kernel
theorem dksX11_digits_1 : cX11_digits.data.toList.drop 23 = dktX11_digits_1 := dk_seg dksX11_digits_0 23 rfl rfl
theorem dksX11_digits_2 : cX11_digits.data.toList.drop 47 = dktX11_digits_2 := dk_seg dksX11_digits_1 24 rfl rfl
theorem dksX11_digits_3 : cX11_digits.data.toList.drop 71 = dktX11_digits_3 := dk_seg dksX11_digits_2 24 rfl rfl
theorem dX11_digits_0 : decode cX11_digits 0 = .ok (.iconst 0, 1) := dk_3 (dk_at dksX11_digits_0 0 rfl rfl)
theorem dX11_digits_1 : decode cX11_digits 1 = .ok (.istore_n 2, 1) := dk_61 (dk_at dksX11_digits_0 1 rfl rfl)
theorem dX11_digits_2 : decode cX11_digits 2 = .ok (.iconst 0, 1) := dk_3 (dk_at dksX11_digits_0 2 rfl rfl)
theorem dX11_digits_3 : decode cX11_digits 3 = .ok (.istore_n 3, 1) := dk_62 (dk_at dksX11_digits_0 3 rfl rfl)
theorem dX11_digits_4 : decode cX11_digits 4 = .ok (.aload_n 0, 1) := dk_42 (dk_at dksX11_digits_0 4 rfl rfl)
theorem dX11_digits_5 : decode cX11_digits 5 = .ok (.invokevirtual 48, 3) := dk_182 0 48 (dk_at dksX11_digits_0 5 rfl rfl)
theorem dX11_digits_8 : decode cX11_digits 8 = .ok (.i2l, 1) := dk_133 (dk_at dksX11_digits_0 8 rfl rfl)
theorem dX11_digits_9 : decode cX11_digits 9 = .ok (.ldc2_w 72, 3) := dk_20 0 72 (dk_at dksX11_digits_0 9 rfl rfl)
theorem dX11_digits_12 : decode cX11_digits 12 = .ok (.ldc2_w 74, 3) := dk_20 0 74 (dk_at dksX11_digits_0 12 rfl rfl)
theorem dX11_digits_15 : decode cX11_digits 15 = .ok (.invokestatic 66, 3) := dk_184 0 66 (dk_at dksX11_digits_0 15 rfl rfl)
theorem dX11_digits_18 : decode cX11_digits 18 = .ok (.ifCond .eq 42, 3) := dk_153 0 42 (dk_at dksX11_digits_0 18 rfl rfl)
theorem dX11_digits_21 : decode cX11_digits 21 = .ok (.iload_n 3, 1) := dk_29 (dk_at dksX11_digits_0 21 rfl rfl)
theorem dX11_digits_22 : decode cX11_digits 22 = .ok (.iload_n 1, 1) := dk_27 (dk_at dksX11_digits_0 22 rfl rfl)
theorem dX11_digits_23 : decode cX11_digits 23 = .ok (.if_icmp .ne 8, 3) := dk_160 0 8 (dk_at dksX11_digits_1 0 rfl rfl)
theorem dX11_digits_26 : decode cX11_digits 26 = .ok (.aload_n 0, 1) := dk_42 (dk_at dksX11_digits_1 3 rfl rfl)
theorem dX11_digits_27 : decode cX11_digits 27 = .ok (.invokevirtual 86, 3) := dk_182 0 86 (dk_at dksX11_digits_1 4 rfl rfl)
theorem dX11_digits_30 : decode cX11_digits 30 = .ok (.athrow, 1) := dk_191 (dk_at dksX11_digits_1 7 rfl rfl)
theorem dX11_digits_31 : decode cX11_digits 31 = .ok (.bipush 10, 2) := dk_16 10 (dk_at dksX11_digits_1 8 rfl rfl)
theorem dX11_digits_33 : decode cX11_digits 33 = .ok (.iload_n 2, 1) := dk_28 (dk_at dksX11_digits_1 10 rfl rfl)
theorem dX11_digits_34 : decode cX11_digits 34 = .ok (.imul, 1) := dk_104 (dk_at dksX11_digits_1 11 rfl rfl)
theorem dX11_digits_35 : decode cX11_digits 35 = .ok (.aload_n 0, 1) := dk_42 (dk_at dksX11_digits_1 12 rfl rfl)
theorem dX11_digits_36 : decode cX11_digits 36 = .ok (.invokevirtual 48, 3) := dk_182 0 48 (dk_at dksX11_digits_1 13 rfl rfl)
theorem dX11_digits_39 : decode cX11_digits 39 = .ok (.iadd, 1) := dk_96 (dk_at dksX11_digits_1 16 rfl rfl)
theorem dX11_digits_40 : decode cX11_digits 40 = .ok (.bipush 48, 2) := dk_16 48 (dk_at dksX11_digits_1 17 rfl rfl)
theorem dX11_digits_42 : decode cX11_digits 42 = .ok (.isub, 1) := dk_100 (dk_at dksX11_digits_1 19 rfl rfl)
theorem dX11_digits_43 : decode cX11_digits 43 = .ok (.istore_n 2, 1) := dk_61 (dk_at dksX11_digits_1 20 rfl rfl)
theorem dX11_digits_44 : decode cX11_digits 44 = .ok (.iinc 3 1, 3) := dk_132 3 1 (dk_at dksX11_digits_1 21 rfl rfl)
theorem dX11_digits_47 : decode cX11_digits 47 = .ok (.aload_n 0, 1) := dk_42 (dk_at dksX11_digits_2 0 rfl rfl)
theorem dX11_digits_48 : decode cX11_digits 48 = .ok (.dup, 1) := dk_89 (dk_at dksX11_digits_2 1 rfl rfl)
theorem dX11_digits_49 : decode cX11_digits 49 = .ok (.getfield 38, 3) := dk_180 0 38 (dk_at dksX11_digits_2 2 rfl rfl)
theorem dX11_digits_52 : decode cX11_digits 52 = .ok (.iconst 1, 1) := dk_4 (dk_at dksX11_digits_2 5 rfl rfl)
theorem dX11_digits_53 : decode cX11_digits 53 = .ok (.iadd, 1) := dk_96 (dk_at dksX11_digits_2 6 rfl rfl)
theorem dX11_digits_54 : decode cX11_digits 54 = .ok (.putfield 38, 3) := dk_181 0 38 (dk_at dksX11_digits_2 7 rfl rfl)
theorem dX11_digits_57 : decode cX11_digits 57 = .ok (.goto (-53), 3) := dk_167 255 203 (dk_at dksX11_digits_2 10 rfl rfl)
theorem dX11_digits_60 : decode cX11_digits 60 = .ok (.iload_n 3, 1) := dk_29 (dk_at dksX11_digits_2 13 rfl rfl)
theorem dX11_digits_61 : decode cX11_digits 61 = .ok (.ifCond .ne 8, 3) := dk_154 0 8 (dk_at dksX11_digits_2 14 rfl rfl)
theorem dX11_digits_64 : decode cX11_digits 64 = .ok (.aload_n 0, 1) := dk_42 (dk_at dksX11_digits_2 17 rfl rfl)
theorem dX11_digits_65 : decode cX11_digits 65 = .ok (.invokevirtual 86, 3) := dk_182 0 86 (dk_at dksX11_digits_2 18 rfl rfl)
theorem dX11_digits_68 : decode cX11_digits 68 = .ok (.athrow, 1) := dk_191 (dk_at dksX11_digits_2 21 rfl rfl)
theorem dX11_digits_69 : decode cX11_digits 69 = .ok (.iload_n 1, 1) := dk_27 (dk_at dksX11_digits_2 22 rfl rfl)
theorem dX11_digits_70 : decode cX11_digits 70 = .ok (.iconst 3, 1) := dk_6 (dk_at dksX11_digits_2 23 rfl rfl)
theorem dX11_digits_71 : decode cX11_digits 71 = .ok (.if_icmp .ne 19, 3) := dk_160 0 19 (dk_at dksX11_digits_3 0 rfl rfl)
theorem dX11_digits_74 : decode cX11_digits 74 = .ok (.iload_n 3, 1) := dk_29 (dk_at dksX11_digits_3 3 rfl rfl)
theorem dX11_digits_75 : decode cX11_digits 75 = .ok (.iconst 3, 1) := dk_6 (dk_at dksX11_digits_3 4 rfl rfl)
theorem dX11_digits_76 : decode cX11_digits 76 = .ok (.if_icmp .ge 14, 3) := dk_162 0 14 (dk_at dksX11_digits_3 5 rfl rfl)
theorem dX11_digits_79 : decode cX11_digits 79 = .ok (.iload_n 2, 1) := dk_28 (dk_at dksX11_digits_3 8 rfl rfl)
theorem dX11_digits_80 : decode cX11_digits 80 = .ok (.bipush 10, 2) := dk_16 10 (dk_at dksX11_digits_3 9 rfl rfl)
theorem dX11_digits_82 : decode cX11_digits 82 = .ok (.imul, 1) := dk_104 (dk_at dksX11_digits_3 11 rfl rfl)
theorem dX11_digits_83 : decode cX11_digits 83 = .ok (.istore_n 2, 1) := dk_61 (dk_at dksX11_digits_3 12 rfl rfl)
theorem dX11_digits_84 : decode cX11_digits 84 = .ok (.iinc 3 1, 3) := dk_132 3 1 (dk_at dksX11_digits_3 13 rfl rfl)
theorem dX11_digits_87 : decode cX11_digits 87 = .ok (.goto (-18), 3) := dk_167 255 238 (dk_at dksX11_digits_3 16 rfl rfl)
theorem dX11_digits_90 : decode cX11_digits 90 = .ok (.iload_n 2, 1) := dk_28 (dk_at dksX11_digits_3 19 rfl rfl)
theorem dX11_digits_91 : decode cX11_digits 91 = .ok (.ireturn, 1) := dk_172 (dk_at dksX11_digits_3 20 rfl rfl)
abbrev cX11_fault : ByteArray := prog_22_method_2_code
def yX11_fault : MethodName := ⟨RX11, "fault", "()LWhatIfSheet$Fault;"⟩
def dkwX11_fault_0 : List UInt8 := [187, 0, 31, 89, 42, 180, 0, 33, 183, 0, 37, 176]
abbrev dktX11_fault_0 : List UInt8 := dkwX11_fault_0 ++ []
theorem dksX11_fault_0 : cX11_fault.data.toList.drop 0 = dktX11_fault_0 := by decide +kernel
theorem dX11_fault_0 : decode cX11_fault 0 = .ok (.new 31, 3) := dk_187 0 31 (dk_at dksX11_fault_0 0 rfl rfl)
theorem dX11_fault_3 : decode cX11_fault 3 = .ok (.dup, 1) := dk_89 (dk_at dksX11_fault_0 3 rfl rfl)
theorem dX11_fault_4 : decode cX11_fault 4 = .ok (.aload_n 0, 1) := dk_42 (dk_at dksX11_fault_0 4 rfl rfl)
theorem dX11_fault_5 : decode cX11_fault 5 = .ok (.getfield 33, 3) := dk_180 0 33 (dk_at dksX11_fault_0 5 rfl rfl)
theorem dX11_fault_8 : decode cX11_fault 8 = .ok (.invokespecial 37, 3) := dk_183 0 37 (dk_at dksX11_fault_0 8 rfl rfl)
theorem dX11_fault_11 : decode cX11_fault 11 = .ok (.areturn, 1) := dk_176 (dk_at dksX11_fault_0 11 rfl rfl)
abbrev cX11_even : ByteArray := prog_22_method_20_code
def yX11_even : MethodName := ⟨RX11, "even", "()LWhatIfSheet$Node;"⟩
def dkwX11_even_2 : List UInt8 := [42, 180, 0, 3, 28, 43, 42, 182, 1, 0, 183, 1, 4, 176]
abbrev dktX11_even_2 : List UInt8 := dkwX11_even_2 ++ []
def dkwX11_even_1 : List UInt8 := [176, 42, 180, 0, 59, 16, 60, 160, 0, 7, 4, 167, 0, 4, 3, 61, 42, 182, 0, 115, 187, 1, 2, 89]
abbrev dktX11_even_1 : List UInt8 := dkwX11_even_1 ++ dktX11_even_2
def dkwX11_even_0 : List UInt8 := [42, 182, 1, 0, 76, 42, 180, 0, 59, 16, 60, 159, 0, 14, 42, 180, 0, 59, 16, 61, 159, 0, 5, 43]
abbrev dktX11_even_0 : List UInt8 := dkwX11_even_0 ++ dktX11_even_1
theorem dksX11_even_0 : cX11_even.data.toList.drop 0 = dktX11_even_0 := by decide +kernel
theorem dksX11_even_1 : cX11_even.data.toList.drop 24 = dktX11_even_1 := dk_seg dksX11_even_0 24 rfl rfl
theorem dksX11_even_2 : cX11_even.data.toList.drop 48 = dktX11_even_2 := dk_seg dksX11_even_1 24 rfl rfl
theorem dX11_even_0 : decode cX11_even 0 = .ok (.aload_n 0, 1) := dk_42 (dk_at dksX11_even_0 0 rfl rfl)
theorem dX11_even_1 : decode cX11_even 1 = .ok (.invokevirtual 256, 3) := dk_182 1 0 (dk_at dksX11_even_0 1 rfl rfl)
theorem dX11_even_4 : decode cX11_even 4 = .ok (.astore_n 1, 1) := dk_76 (dk_at dksX11_even_0 4 rfl rfl)
theorem dX11_even_5 : decode cX11_even 5 = .ok (.aload_n 0, 1) := dk_42 (dk_at dksX11_even_0 5 rfl rfl)
theorem dX11_even_6 : decode cX11_even 6 = .ok (.getfield 59, 3) := dk_180 0 59 (dk_at dksX11_even_0 6 rfl rfl)
theorem dX11_even_9 : decode cX11_even 9 = .ok (.bipush 60, 2) := dk_16 60 (dk_at dksX11_even_0 9 rfl rfl)
theorem dX11_even_11 : decode cX11_even 11 = .ok (.if_icmp .eq 14, 3) := dk_159 0 14 (dk_at dksX11_even_0 11 rfl rfl)
theorem dX11_even_14 : decode cX11_even 14 = .ok (.aload_n 0, 1) := dk_42 (dk_at dksX11_even_0 14 rfl rfl)
theorem dX11_even_15 : decode cX11_even 15 = .ok (.getfield 59, 3) := dk_180 0 59 (dk_at dksX11_even_0 15 rfl rfl)
theorem dX11_even_18 : decode cX11_even 18 = .ok (.bipush 61, 2) := dk_16 61 (dk_at dksX11_even_0 18 rfl rfl)
theorem dX11_even_20 : decode cX11_even 20 = .ok (.if_icmp .eq 5, 3) := dk_159 0 5 (dk_at dksX11_even_0 20 rfl rfl)
theorem dX11_even_23 : decode cX11_even 23 = .ok (.aload_n 1, 1) := dk_43 (dk_at dksX11_even_0 23 rfl rfl)
theorem dX11_even_24 : decode cX11_even 24 = .ok (.areturn, 1) := dk_176 (dk_at dksX11_even_1 0 rfl rfl)
theorem dX11_even_25 : decode cX11_even 25 = .ok (.aload_n 0, 1) := dk_42 (dk_at dksX11_even_1 1 rfl rfl)
theorem dX11_even_26 : decode cX11_even 26 = .ok (.getfield 59, 3) := dk_180 0 59 (dk_at dksX11_even_1 2 rfl rfl)
theorem dX11_even_29 : decode cX11_even 29 = .ok (.bipush 60, 2) := dk_16 60 (dk_at dksX11_even_1 5 rfl rfl)
theorem dX11_even_31 : decode cX11_even 31 = .ok (.if_icmp .ne 7, 3) := dk_160 0 7 (dk_at dksX11_even_1 7 rfl rfl)
theorem dX11_even_34 : decode cX11_even 34 = .ok (.iconst 1, 1) := dk_4 (dk_at dksX11_even_1 10 rfl rfl)
theorem dX11_even_35 : decode cX11_even 35 = .ok (.goto 4, 3) := dk_167 0 4 (dk_at dksX11_even_1 11 rfl rfl)
theorem dX11_even_38 : decode cX11_even 38 = .ok (.iconst 0, 1) := dk_3 (dk_at dksX11_even_1 14 rfl rfl)
theorem dX11_even_39 : decode cX11_even 39 = .ok (.istore_n 2, 1) := dk_61 (dk_at dksX11_even_1 15 rfl rfl)
theorem dX11_even_40 : decode cX11_even 40 = .ok (.aload_n 0, 1) := dk_42 (dk_at dksX11_even_1 16 rfl rfl)
theorem dX11_even_41 : decode cX11_even 41 = .ok (.invokevirtual 115, 3) := dk_182 0 115 (dk_at dksX11_even_1 17 rfl rfl)
theorem dX11_even_44 : decode cX11_even 44 = .ok (.new 258, 3) := dk_187 1 2 (dk_at dksX11_even_1 20 rfl rfl)
theorem dX11_even_47 : decode cX11_even 47 = .ok (.dup, 1) := dk_89 (dk_at dksX11_even_1 23 rfl rfl)
theorem dX11_even_48 : decode cX11_even 48 = .ok (.aload_n 0, 1) := dk_42 (dk_at dksX11_even_2 0 rfl rfl)
theorem dX11_even_49 : decode cX11_even 49 = .ok (.getfield 3, 3) := dk_180 0 3 (dk_at dksX11_even_2 1 rfl rfl)
theorem dX11_even_52 : decode cX11_even 52 = .ok (.iload_n 2, 1) := dk_28 (dk_at dksX11_even_2 4 rfl rfl)
theorem dX11_even_53 : decode cX11_even 53 = .ok (.aload_n 1, 1) := dk_43 (dk_at dksX11_even_2 5 rfl rfl)
theorem dX11_even_54 : decode cX11_even 54 = .ok (.aload_n 0, 1) := dk_42 (dk_at dksX11_even_2 6 rfl rfl)
theorem dX11_even_55 : decode cX11_even 55 = .ok (.invokevirtual 256, 3) := dk_182 1 0 (dk_at dksX11_even_2 7 rfl rfl)
theorem dX11_even_58 : decode cX11_even 58 = .ok (.invokespecial 260, 3) := dk_183 1 4 (dk_at dksX11_even_2 10 rfl rfl)
theorem dX11_even_61 : decode cX11_even 61 = .ok (.areturn, 1) := dk_176 (dk_at dksX11_even_2 13 rfl rfl)
abbrev cX11_sum : ByteArray := prog_22_method_19_code
def yX11_sum : MethodName := ⟨RX11, "sum", "()LWhatIfSheet$Node;"⟩
def dkwX11_sum_3 : List UInt8 := [167, 0, 4, 44, 176]
abbrev dktX11_sum_3 : List UInt8 := dkwX11_sum_3 ++ []
def dkwX11_sum_2 : List UInt8 := [43, 183, 0, 254, 77, 44, 29, 42, 182, 0, 249, 182, 0, 255, 167, 255, 203, 44, 199, 0, 7, 43]
abbrev dktX11_sum_2 : List UInt8 := dkwX11_sum_2 ++ dktX11_sum_3
def dkwX11_sum_1 : List UInt8 := [160, 0, 41, 42, 180, 0, 59, 62, 42, 182, 0, 115, 44, 199, 0, 16, 187, 0, 252, 89, 42, 180, 0, 3]
abbrev dktX11_sum_1 : List UInt8 := dkwX11_sum_1 ++ dktX11_sum_2
def dkwX11_sum_0 : List UInt8 := [42, 182, 0, 249, 76, 1, 77, 42, 180, 0, 59, 16, 43, 159, 0, 12, 42, 180, 0, 59, 16, 45]
abbrev dktX11_sum_0 : List UInt8 := dkwX11_sum_0 ++ dktX11_sum_1
theorem dksX11_sum_0 : cX11_sum.data.toList.drop 0 = dktX11_sum_0 := by decide +kernel
theorem dksX11_sum_1 : cX11_sum.data.toList.drop 22 = dktX11_sum_1 := dk_seg dksX11_sum_0 22 rfl rfl
theorem dksX11_sum_2 : cX11_sum.data.toList.drop 46 = dktX11_sum_2 := dk_seg dksX11_sum_1 24 rfl rfl
theorem dksX11_sum_3 : cX11_sum.data.toList.drop 68 = dktX11_sum_3 := dk_seg dksX11_sum_2 22 rfl rfl
theorem dX11_sum_0 : decode cX11_sum 0 = .ok (.aload_n 0, 1) := dk_42 (dk_at dksX11_sum_0 0 rfl rfl)
theorem dX11_sum_1 : decode cX11_sum 1 = .ok (.invokevirtual 249, 3) := dk_182 0 249 (dk_at dksX11_sum_0 1 rfl rfl)
theorem dX11_sum_4 : decode cX11_sum 4 = .ok (.astore_n 1, 1) := dk_76 (dk_at dksX11_sum_0 4 rfl rfl)
theorem dX11_sum_5 : decode cX11_sum 5 = .ok (.aconst_null, 1) := dk_1 (dk_at dksX11_sum_0 5 rfl rfl)
theorem dX11_sum_6 : decode cX11_sum 6 = .ok (.astore_n 2, 1) := dk_77 (dk_at dksX11_sum_0 6 rfl rfl)
theorem dX11_sum_7 : decode cX11_sum 7 = .ok (.aload_n 0, 1) := dk_42 (dk_at dksX11_sum_0 7 rfl rfl)
theorem dX11_sum_8 : decode cX11_sum 8 = .ok (.getfield 59, 3) := dk_180 0 59 (dk_at dksX11_sum_0 8 rfl rfl)
theorem dX11_sum_11 : decode cX11_sum 11 = .ok (.bipush 43, 2) := dk_16 43 (dk_at dksX11_sum_0 11 rfl rfl)
theorem dX11_sum_13 : decode cX11_sum 13 = .ok (.if_icmp .eq 12, 3) := dk_159 0 12 (dk_at dksX11_sum_0 13 rfl rfl)
theorem dX11_sum_16 : decode cX11_sum 16 = .ok (.aload_n 0, 1) := dk_42 (dk_at dksX11_sum_0 16 rfl rfl)
theorem dX11_sum_17 : decode cX11_sum 17 = .ok (.getfield 59, 3) := dk_180 0 59 (dk_at dksX11_sum_0 17 rfl rfl)
theorem dX11_sum_20 : decode cX11_sum 20 = .ok (.bipush 45, 2) := dk_16 45 (dk_at dksX11_sum_0 20 rfl rfl)
theorem dX11_sum_22 : decode cX11_sum 22 = .ok (.if_icmp .ne 41, 3) := dk_160 0 41 (dk_at dksX11_sum_1 0 rfl rfl)
theorem dX11_sum_25 : decode cX11_sum 25 = .ok (.aload_n 0, 1) := dk_42 (dk_at dksX11_sum_1 3 rfl rfl)
theorem dX11_sum_26 : decode cX11_sum 26 = .ok (.getfield 59, 3) := dk_180 0 59 (dk_at dksX11_sum_1 4 rfl rfl)
theorem dX11_sum_29 : decode cX11_sum 29 = .ok (.istore_n 3, 1) := dk_62 (dk_at dksX11_sum_1 7 rfl rfl)
theorem dX11_sum_30 : decode cX11_sum 30 = .ok (.aload_n 0, 1) := dk_42 (dk_at dksX11_sum_1 8 rfl rfl)
theorem dX11_sum_31 : decode cX11_sum 31 = .ok (.invokevirtual 115, 3) := dk_182 0 115 (dk_at dksX11_sum_1 9 rfl rfl)
theorem dX11_sum_34 : decode cX11_sum 34 = .ok (.aload_n 2, 1) := dk_44 (dk_at dksX11_sum_1 12 rfl rfl)
theorem dX11_sum_35 : decode cX11_sum 35 = .ok (.ifnonnull 16, 3) := dk_199 0 16 (dk_at dksX11_sum_1 13 rfl rfl)
theorem dX11_sum_38 : decode cX11_sum 38 = .ok (.new 252, 3) := dk_187 0 252 (dk_at dksX11_sum_1 16 rfl rfl)
theorem dX11_sum_41 : decode cX11_sum 41 = .ok (.dup, 1) := dk_89 (dk_at dksX11_sum_1 19 rfl rfl)
theorem dX11_sum_42 : decode cX11_sum 42 = .ok (.aload_n 0, 1) := dk_42 (dk_at dksX11_sum_1 20 rfl rfl)
theorem dX11_sum_43 : decode cX11_sum 43 = .ok (.getfield 3, 3) := dk_180 0 3 (dk_at dksX11_sum_1 21 rfl rfl)
theorem dX11_sum_46 : decode cX11_sum 46 = .ok (.aload_n 1, 1) := dk_43 (dk_at dksX11_sum_2 0 rfl rfl)
theorem dX11_sum_47 : decode cX11_sum 47 = .ok (.invokespecial 254, 3) := dk_183 0 254 (dk_at dksX11_sum_2 1 rfl rfl)
theorem dX11_sum_50 : decode cX11_sum 50 = .ok (.astore_n 2, 1) := dk_77 (dk_at dksX11_sum_2 4 rfl rfl)
theorem dX11_sum_51 : decode cX11_sum 51 = .ok (.aload_n 2, 1) := dk_44 (dk_at dksX11_sum_2 5 rfl rfl)
theorem dX11_sum_52 : decode cX11_sum 52 = .ok (.iload_n 3, 1) := dk_29 (dk_at dksX11_sum_2 6 rfl rfl)
theorem dX11_sum_53 : decode cX11_sum 53 = .ok (.aload_n 0, 1) := dk_42 (dk_at dksX11_sum_2 7 rfl rfl)
theorem dX11_sum_54 : decode cX11_sum 54 = .ok (.invokevirtual 249, 3) := dk_182 0 249 (dk_at dksX11_sum_2 8 rfl rfl)
theorem dX11_sum_57 : decode cX11_sum 57 = .ok (.invokevirtual 255, 3) := dk_182 0 255 (dk_at dksX11_sum_2 11 rfl rfl)
theorem dX11_sum_60 : decode cX11_sum 60 = .ok (.goto (-53), 3) := dk_167 255 203 (dk_at dksX11_sum_2 14 rfl rfl)
theorem dX11_sum_63 : decode cX11_sum 63 = .ok (.aload_n 2, 1) := dk_44 (dk_at dksX11_sum_2 17 rfl rfl)
theorem dX11_sum_64 : decode cX11_sum 64 = .ok (.ifnonnull 7, 3) := dk_199 0 7 (dk_at dksX11_sum_2 18 rfl rfl)
theorem dX11_sum_67 : decode cX11_sum 67 = .ok (.aload_n 1, 1) := dk_43 (dk_at dksX11_sum_2 21 rfl rfl)
theorem dX11_sum_68 : decode cX11_sum 68 = .ok (.goto 4, 3) := dk_167 0 4 (dk_at dksX11_sum_3 0 rfl rfl)
theorem dX11_sum_71 : decode cX11_sum 71 = .ok (.aload_n 2, 1) := dk_44 (dk_at dksX11_sum_3 3 rfl rfl)
theorem dX11_sum_72 : decode cX11_sum 72 = .ok (.areturn, 1) := dk_176 (dk_at dksX11_sum_3 4 rfl rfl)
abbrev cX11_term : ByteArray := prog_22_method_18_code
def yX11_term : MethodName := ⟨RX11, "term", "()LWhatIfSheet$Node;"⟩
def dkwX11_term_3 : List UInt8 := [182, 0, 245, 167, 255, 194, 44, 199, 0, 7, 43, 167, 0, 4, 44, 176]
abbrev dktX11_term_3 : List UInt8 := dkwX11_term_3 ++ []
def dkwX11_term_2 : List UInt8 := [199, 0, 16, 187, 0, 242, 89, 42, 180, 0, 3, 43, 183, 0, 244, 77, 44, 29, 42, 182, 0, 234]
abbrev dktX11_term_2 : List UInt8 := dkwX11_term_2 ++ dktX11_term_3
def dkwX11_term_1 : List UInt8 := [159, 0, 12, 42, 180, 0, 59, 16, 37, 160, 0, 41, 42, 180, 0, 59, 62, 42, 182, 0, 115, 44]
abbrev dktX11_term_1 : List UInt8 := dkwX11_term_1 ++ dktX11_term_2
def dkwX11_term_0 : List UInt8 := [42, 182, 0, 234, 76, 1, 77, 42, 180, 0, 59, 16, 42, 159, 0, 21, 42, 180, 0, 59, 16, 47]
abbrev dktX11_term_0 : List UInt8 := dkwX11_term_0 ++ dktX11_term_1
theorem dksX11_term_0 : cX11_term.data.toList.drop 0 = dktX11_term_0 := by decide +kernel
theorem dksX11_term_1 : cX11_term.data.toList.drop 22 = dktX11_term_1 := dk_seg dksX11_term_0 22 rfl rfl
theorem dksX11_term_2 : cX11_term.data.toList.drop 44 = dktX11_term_2 := dk_seg dksX11_term_1 22 rfl rfl
theorem dksX11_term_3 : cX11_term.data.toList.drop 66 = dktX11_term_3 := dk_seg dksX11_term_2 22 rfl rfl
theorem dX11_term_0 : decode cX11_term 0 = .ok (.aload_n 0, 1) := dk_42 (dk_at dksX11_term_0 0 rfl rfl)
theorem dX11_term_1 : decode cX11_term 1 = .ok (.invokevirtual 234, 3) := dk_182 0 234 (dk_at dksX11_term_0 1 rfl rfl)
theorem dX11_term_4 : decode cX11_term 4 = .ok (.astore_n 1, 1) := dk_76 (dk_at dksX11_term_0 4 rfl rfl)
theorem dX11_term_5 : decode cX11_term 5 = .ok (.aconst_null, 1) := dk_1 (dk_at dksX11_term_0 5 rfl rfl)
theorem dX11_term_6 : decode cX11_term 6 = .ok (.astore_n 2, 1) := dk_77 (dk_at dksX11_term_0 6 rfl rfl)
theorem dX11_term_7 : decode cX11_term 7 = .ok (.aload_n 0, 1) := dk_42 (dk_at dksX11_term_0 7 rfl rfl)
theorem dX11_term_8 : decode cX11_term 8 = .ok (.getfield 59, 3) := dk_180 0 59 (dk_at dksX11_term_0 8 rfl rfl)
theorem dX11_term_11 : decode cX11_term 11 = .ok (.bipush 42, 2) := dk_16 42 (dk_at dksX11_term_0 11 rfl rfl)
theorem dX11_term_13 : decode cX11_term 13 = .ok (.if_icmp .eq 21, 3) := dk_159 0 21 (dk_at dksX11_term_0 13 rfl rfl)
theorem dX11_term_16 : decode cX11_term 16 = .ok (.aload_n 0, 1) := dk_42 (dk_at dksX11_term_0 16 rfl rfl)
theorem dX11_term_17 : decode cX11_term 17 = .ok (.getfield 59, 3) := dk_180 0 59 (dk_at dksX11_term_0 17 rfl rfl)
theorem dX11_term_20 : decode cX11_term 20 = .ok (.bipush 47, 2) := dk_16 47 (dk_at dksX11_term_0 20 rfl rfl)
theorem dX11_term_22 : decode cX11_term 22 = .ok (.if_icmp .eq 12, 3) := dk_159 0 12 (dk_at dksX11_term_1 0 rfl rfl)
theorem dX11_term_25 : decode cX11_term 25 = .ok (.aload_n 0, 1) := dk_42 (dk_at dksX11_term_1 3 rfl rfl)
theorem dX11_term_26 : decode cX11_term 26 = .ok (.getfield 59, 3) := dk_180 0 59 (dk_at dksX11_term_1 4 rfl rfl)
theorem dX11_term_29 : decode cX11_term 29 = .ok (.bipush 37, 2) := dk_16 37 (dk_at dksX11_term_1 7 rfl rfl)
theorem dX11_term_31 : decode cX11_term 31 = .ok (.if_icmp .ne 41, 3) := dk_160 0 41 (dk_at dksX11_term_1 9 rfl rfl)
theorem dX11_term_34 : decode cX11_term 34 = .ok (.aload_n 0, 1) := dk_42 (dk_at dksX11_term_1 12 rfl rfl)
theorem dX11_term_35 : decode cX11_term 35 = .ok (.getfield 59, 3) := dk_180 0 59 (dk_at dksX11_term_1 13 rfl rfl)
theorem dX11_term_38 : decode cX11_term 38 = .ok (.istore_n 3, 1) := dk_62 (dk_at dksX11_term_1 16 rfl rfl)
theorem dX11_term_39 : decode cX11_term 39 = .ok (.aload_n 0, 1) := dk_42 (dk_at dksX11_term_1 17 rfl rfl)
theorem dX11_term_40 : decode cX11_term 40 = .ok (.invokevirtual 115, 3) := dk_182 0 115 (dk_at dksX11_term_1 18 rfl rfl)
theorem dX11_term_43 : decode cX11_term 43 = .ok (.aload_n 2, 1) := dk_44 (dk_at dksX11_term_1 21 rfl rfl)
theorem dX11_term_44 : decode cX11_term 44 = .ok (.ifnonnull 16, 3) := dk_199 0 16 (dk_at dksX11_term_2 0 rfl rfl)
theorem dX11_term_47 : decode cX11_term 47 = .ok (.new 242, 3) := dk_187 0 242 (dk_at dksX11_term_2 3 rfl rfl)
theorem dX11_term_50 : decode cX11_term 50 = .ok (.dup, 1) := dk_89 (dk_at dksX11_term_2 6 rfl rfl)
theorem dX11_term_51 : decode cX11_term 51 = .ok (.aload_n 0, 1) := dk_42 (dk_at dksX11_term_2 7 rfl rfl)
theorem dX11_term_52 : decode cX11_term 52 = .ok (.getfield 3, 3) := dk_180 0 3 (dk_at dksX11_term_2 8 rfl rfl)
theorem dX11_term_55 : decode cX11_term 55 = .ok (.aload_n 1, 1) := dk_43 (dk_at dksX11_term_2 11 rfl rfl)
theorem dX11_term_56 : decode cX11_term 56 = .ok (.invokespecial 244, 3) := dk_183 0 244 (dk_at dksX11_term_2 12 rfl rfl)
theorem dX11_term_59 : decode cX11_term 59 = .ok (.astore_n 2, 1) := dk_77 (dk_at dksX11_term_2 15 rfl rfl)
theorem dX11_term_60 : decode cX11_term 60 = .ok (.aload_n 2, 1) := dk_44 (dk_at dksX11_term_2 16 rfl rfl)
theorem dX11_term_61 : decode cX11_term 61 = .ok (.iload_n 3, 1) := dk_29 (dk_at dksX11_term_2 17 rfl rfl)
theorem dX11_term_62 : decode cX11_term 62 = .ok (.aload_n 0, 1) := dk_42 (dk_at dksX11_term_2 18 rfl rfl)
theorem dX11_term_63 : decode cX11_term 63 = .ok (.invokevirtual 234, 3) := dk_182 0 234 (dk_at dksX11_term_2 19 rfl rfl)
theorem dX11_term_66 : decode cX11_term 66 = .ok (.invokevirtual 245, 3) := dk_182 0 245 (dk_at dksX11_term_3 0 rfl rfl)
theorem dX11_term_69 : decode cX11_term 69 = .ok (.goto (-62), 3) := dk_167 255 194 (dk_at dksX11_term_3 3 rfl rfl)
theorem dX11_term_72 : decode cX11_term 72 = .ok (.aload_n 2, 1) := dk_44 (dk_at dksX11_term_3 6 rfl rfl)
theorem dX11_term_73 : decode cX11_term 73 = .ok (.ifnonnull 7, 3) := dk_199 0 7 (dk_at dksX11_term_3 7 rfl rfl)
theorem dX11_term_76 : decode cX11_term 76 = .ok (.aload_n 1, 1) := dk_43 (dk_at dksX11_term_3 10 rfl rfl)
theorem dX11_term_77 : decode cX11_term 77 = .ok (.goto 4, 3) := dk_167 0 4 (dk_at dksX11_term_3 11 rfl rfl)
theorem dX11_term_80 : decode cX11_term 80 = .ok (.aload_n 2, 1) := dk_44 (dk_at dksX11_term_3 14 rfl rfl)
theorem dX11_term_81 : decode cX11_term 81 = .ok (.areturn, 1) := dk_176 (dk_at dksX11_term_3 15 rfl rfl)
abbrev cX11_one : ByteArray := prog_22_method_17_code
def yX11_one : MethodName := ⟨RX11, "one", "()LWhatIfSheet$Node;"⟩
def dkwX11_one_4 : List UInt8 := [76, 42, 182, 0, 171, 43, 176]
abbrev dktX11_one_4 : List UInt8 := dkwX11_one_4 ++ []
def dkwX11_one_3 : List UInt8 := [181, 0, 118, 187, 0, 237, 89, 42, 180, 0, 3, 43, 183, 0, 239, 176, 42, 182, 0, 161, 42, 182, 0, 164]
abbrev dktX11_one_3 : List UInt8 := dkwX11_one_3 ++ dktX11_one_4
def dkwX11_one_2 : List UInt8 := [180, 0, 59, 16, 45, 160, 0, 35, 42, 182, 0, 121, 42, 182, 0, 234, 76, 42, 89, 180, 0, 118, 4, 100]
abbrev dktX11_one_2 : List UInt8 := dkwX11_one_2 ++ dktX11_one_3
def dkwX11_one_1 : List UInt8 := [135, 20, 0, 227, 111, 72, 42, 182, 0, 115, 187, 0, 229, 89, 42, 180, 0, 3, 39, 183, 0, 231, 176, 42]
abbrev dktX11_one_1 : List UInt8 := dkwX11_one_1 ++ dktX11_one_2
def dkwX11_one_0 : List UInt8 := [42, 180, 0, 52, 198, 0, 8, 42, 182, 0, 224, 176, 42, 180, 0, 56, 2, 159, 0, 30, 42, 180, 0, 56]
abbrev dktX11_one_0 : List UInt8 := dkwX11_one_0 ++ dktX11_one_1
theorem dksX11_one_0 : cX11_one.data.toList.drop 0 = dktX11_one_0 := by decide +kernel
theorem dksX11_one_1 : cX11_one.data.toList.drop 24 = dktX11_one_1 := dk_seg dksX11_one_0 24 rfl rfl
theorem dksX11_one_2 : cX11_one.data.toList.drop 48 = dktX11_one_2 := dk_seg dksX11_one_1 24 rfl rfl
theorem dksX11_one_3 : cX11_one.data.toList.drop 72 = dktX11_one_3 := dk_seg dksX11_one_2 24 rfl rfl
theorem dksX11_one_4 : cX11_one.data.toList.drop 96 = dktX11_one_4 := dk_seg dksX11_one_3 24 rfl rfl
theorem dX11_one_0 : decode cX11_one 0 = .ok (.aload_n 0, 1) := dk_42 (dk_at dksX11_one_0 0 rfl rfl)
theorem dX11_one_1 : decode cX11_one 1 = .ok (.getfield 52, 3) := dk_180 0 52 (dk_at dksX11_one_0 1 rfl rfl)
theorem dX11_one_4 : decode cX11_one 4 = .ok (.ifnull 8, 3) := dk_198 0 8 (dk_at dksX11_one_0 4 rfl rfl)
theorem dX11_one_7 : decode cX11_one 7 = .ok (.aload_n 0, 1) := dk_42 (dk_at dksX11_one_0 7 rfl rfl)
theorem dX11_one_8 : decode cX11_one 8 = .ok (.invokevirtual 224, 3) := dk_182 0 224 (dk_at dksX11_one_0 8 rfl rfl)
theorem dX11_one_11 : decode cX11_one 11 = .ok (.areturn, 1) := dk_176 (dk_at dksX11_one_0 11 rfl rfl)
theorem dX11_one_12 : decode cX11_one 12 = .ok (.aload_n 0, 1) := dk_42 (dk_at dksX11_one_0 12 rfl rfl)
theorem dX11_one_13 : decode cX11_one 13 = .ok (.getfield 56, 3) := dk_180 0 56 (dk_at dksX11_one_0 13 rfl rfl)
theorem dX11_one_16 : decode cX11_one 16 = .ok (.iconst (-1), 1) := dk_2 (dk_at dksX11_one_0 16 rfl rfl)
theorem dX11_one_17 : decode cX11_one 17 = .ok (.if_icmp .eq 30, 3) := dk_159 0 30 (dk_at dksX11_one_0 17 rfl rfl)
theorem dX11_one_20 : decode cX11_one 20 = .ok (.aload_n 0, 1) := dk_42 (dk_at dksX11_one_0 20 rfl rfl)
theorem dX11_one_21 : decode cX11_one 21 = .ok (.getfield 56, 3) := dk_180 0 56 (dk_at dksX11_one_0 21 rfl rfl)
theorem dX11_one_24 : decode cX11_one 24 = .ok (.i2d, 1) := dk_135 (dk_at dksX11_one_1 0 rfl rfl)
theorem dX11_one_25 : decode cX11_one 25 = .ok (.ldc2_w 227, 3) := dk_20 0 227 (dk_at dksX11_one_1 1 rfl rfl)
theorem dX11_one_28 : decode cX11_one 28 = .ok (.ddiv, 1) := dk_111 (dk_at dksX11_one_1 4 rfl rfl)
theorem dX11_one_29 : decode cX11_one 29 = .ok (.dstore_n 1, 1) := dk_72 (dk_at dksX11_one_1 5 rfl rfl)
theorem dX11_one_30 : decode cX11_one 30 = .ok (.aload_n 0, 1) := dk_42 (dk_at dksX11_one_1 6 rfl rfl)
theorem dX11_one_31 : decode cX11_one 31 = .ok (.invokevirtual 115, 3) := dk_182 0 115 (dk_at dksX11_one_1 7 rfl rfl)
theorem dX11_one_34 : decode cX11_one 34 = .ok (.new 229, 3) := dk_187 0 229 (dk_at dksX11_one_1 10 rfl rfl)
theorem dX11_one_37 : decode cX11_one 37 = .ok (.dup, 1) := dk_89 (dk_at dksX11_one_1 13 rfl rfl)
theorem dX11_one_38 : decode cX11_one 38 = .ok (.aload_n 0, 1) := dk_42 (dk_at dksX11_one_1 14 rfl rfl)
theorem dX11_one_39 : decode cX11_one 39 = .ok (.getfield 3, 3) := dk_180 0 3 (dk_at dksX11_one_1 15 rfl rfl)
theorem dX11_one_42 : decode cX11_one 42 = .ok (.dload_n 1, 1) := dk_39 (dk_at dksX11_one_1 18 rfl rfl)
theorem dX11_one_43 : decode cX11_one 43 = .ok (.invokespecial 231, 3) := dk_183 0 231 (dk_at dksX11_one_1 19 rfl rfl)
theorem dX11_one_46 : decode cX11_one 46 = .ok (.areturn, 1) := dk_176 (dk_at dksX11_one_1 22 rfl rfl)
theorem dX11_one_47 : decode cX11_one 47 = .ok (.aload_n 0, 1) := dk_42 (dk_at dksX11_one_1 23 rfl rfl)
theorem dX11_one_48 : decode cX11_one 48 = .ok (.getfield 59, 3) := dk_180 0 59 (dk_at dksX11_one_2 0 rfl rfl)
theorem dX11_one_51 : decode cX11_one 51 = .ok (.bipush 45, 2) := dk_16 45 (dk_at dksX11_one_2 3 rfl rfl)
theorem dX11_one_53 : decode cX11_one 53 = .ok (.if_icmp .ne 35, 3) := dk_160 0 35 (dk_at dksX11_one_2 5 rfl rfl)
theorem dX11_one_56 : decode cX11_one 56 = .ok (.aload_n 0, 1) := dk_42 (dk_at dksX11_one_2 8 rfl rfl)
theorem dX11_one_57 : decode cX11_one 57 = .ok (.invokevirtual 121, 3) := dk_182 0 121 (dk_at dksX11_one_2 9 rfl rfl)
theorem dX11_one_60 : decode cX11_one 60 = .ok (.aload_n 0, 1) := dk_42 (dk_at dksX11_one_2 12 rfl rfl)
theorem dX11_one_61 : decode cX11_one 61 = .ok (.invokevirtual 234, 3) := dk_182 0 234 (dk_at dksX11_one_2 13 rfl rfl)
theorem dX11_one_64 : decode cX11_one 64 = .ok (.astore_n 1, 1) := dk_76 (dk_at dksX11_one_2 16 rfl rfl)
theorem dX11_one_65 : decode cX11_one 65 = .ok (.aload_n 0, 1) := dk_42 (dk_at dksX11_one_2 17 rfl rfl)
theorem dX11_one_66 : decode cX11_one 66 = .ok (.dup, 1) := dk_89 (dk_at dksX11_one_2 18 rfl rfl)
theorem dX11_one_67 : decode cX11_one 67 = .ok (.getfield 118, 3) := dk_180 0 118 (dk_at dksX11_one_2 19 rfl rfl)
theorem dX11_one_70 : decode cX11_one 70 = .ok (.iconst 1, 1) := dk_4 (dk_at dksX11_one_2 22 rfl rfl)
theorem dX11_one_71 : decode cX11_one 71 = .ok (.isub, 1) := dk_100 (dk_at dksX11_one_2 23 rfl rfl)
theorem dX11_one_72 : decode cX11_one 72 = .ok (.putfield 118, 3) := dk_181 0 118 (dk_at dksX11_one_3 0 rfl rfl)
theorem dX11_one_75 : decode cX11_one 75 = .ok (.new 237, 3) := dk_187 0 237 (dk_at dksX11_one_3 3 rfl rfl)
theorem dX11_one_78 : decode cX11_one 78 = .ok (.dup, 1) := dk_89 (dk_at dksX11_one_3 6 rfl rfl)
theorem dX11_one_79 : decode cX11_one 79 = .ok (.aload_n 0, 1) := dk_42 (dk_at dksX11_one_3 7 rfl rfl)
theorem dX11_one_80 : decode cX11_one 80 = .ok (.getfield 3, 3) := dk_180 0 3 (dk_at dksX11_one_3 8 rfl rfl)
theorem dX11_one_83 : decode cX11_one 83 = .ok (.aload_n 1, 1) := dk_43 (dk_at dksX11_one_3 11 rfl rfl)
theorem dX11_one_84 : decode cX11_one 84 = .ok (.invokespecial 239, 3) := dk_183 0 239 (dk_at dksX11_one_3 12 rfl rfl)
theorem dX11_one_87 : decode cX11_one 87 = .ok (.areturn, 1) := dk_176 (dk_at dksX11_one_3 15 rfl rfl)
theorem dX11_one_88 : decode cX11_one 88 = .ok (.aload_n 0, 1) := dk_42 (dk_at dksX11_one_3 16 rfl rfl)
theorem dX11_one_89 : decode cX11_one 89 = .ok (.invokevirtual 161, 3) := dk_182 0 161 (dk_at dksX11_one_3 17 rfl rfl)
theorem dX11_one_92 : decode cX11_one 92 = .ok (.aload_n 0, 1) := dk_42 (dk_at dksX11_one_3 20 rfl rfl)
theorem dX11_one_93 : decode cX11_one 93 = .ok (.invokevirtual 164, 3) := dk_182 0 164 (dk_at dksX11_one_3 21 rfl rfl)
theorem dX11_one_96 : decode cX11_one 96 = .ok (.astore_n 1, 1) := dk_76 (dk_at dksX11_one_4 0 rfl rfl)
theorem dX11_one_97 : decode cX11_one 97 = .ok (.aload_n 0, 1) := dk_42 (dk_at dksX11_one_4 1 rfl rfl)
theorem dX11_one_98 : decode cX11_one 98 = .ok (.invokevirtual 171, 3) := dk_182 0 171 (dk_at dksX11_one_4 2 rfl rfl)
theorem dX11_one_101 : decode cX11_one 101 = .ok (.aload_n 1, 1) := dk_43 (dk_at dksX11_one_4 5 rfl rfl)
theorem dX11_one_102 : decode cX11_one 102 = .ok (.areturn, 1) := dk_176 (dk_at dksX11_one_4 6 rfl rfl)
abbrev cX11_named : ByteArray := prog_22_method_16_code
def yX11_named : MethodName := ⟨RX11, "named", "()LWhatIfSheet$Node;"⟩
def dkwX11_named_6 : List UInt8 := [27, 182, 0, 218, 42, 182, 0, 115, 187, 0, 221, 89, 42, 180, 0, 3, 27, 183, 0, 223, 176]
abbrev dktX11_named_6 : List UInt8 := dkwX11_named_6 ++ []
def dkwX11_named_5 : List UInt8 := [16, 97, 100, 167, 0, 4, 2, 60, 27, 184, 0, 214, 154, 0, 8, 42, 182, 0, 86, 191, 42, 180, 0, 20]
abbrev dktX11_named_5 : List UInt8 := dkwX11_named_5 ++ dktX11_named_6
def dkwX11_named_4 : List UInt8 := [182, 0, 205, 176, 42, 180, 0, 52, 182, 0, 209, 4, 160, 0, 17, 42, 180, 0, 52, 3, 182, 0, 210]
abbrev dktX11_named_4 : List UInt8 := dkwX11_named_4 ++ dktX11_named_5
def dkwX11_named_3 : List UInt8 := [42, 18, 142, 182, 0, 189, 154, 0, 12, 42, 18, 203, 182, 0, 189, 153, 0, 12, 42, 42, 180, 0, 52]
abbrev dktX11_named_3 : List UInt8 := dkwX11_named_3 ++ dktX11_named_4
def dkwX11_named_2 : List UInt8 := [182, 0, 189, 154, 0, 39, 42, 18, 138, 182, 0, 189, 154, 0, 30, 42, 18, 140, 182, 0, 189, 154, 0, 21]
abbrev dktX11_named_2 : List UInt8 := dkwX11_named_2 ++ dktX11_named_3
def dkwX11_named_1 : List UInt8 := [18, 197, 182, 0, 189, 153, 0, 14, 42, 42, 18, 195, 182, 0, 189, 182, 0, 199, 176, 42, 18, 136]
abbrev dktX11_named_1 : List UInt8 := dkwX11_named_1 ++ dktX11_named_2
def dkwX11_named_0 : List UInt8 := [42, 18, 187, 182, 0, 189, 153, 0, 8, 42, 182, 0, 193, 176, 42, 18, 195, 182, 0, 189, 154, 0, 12, 42]
abbrev dktX11_named_0 : List UInt8 := dkwX11_named_0 ++ dktX11_named_1
theorem dksX11_named_0 : cX11_named.data.toList.drop 0 = dktX11_named_0 := by decide +kernel
theorem dksX11_named_1 : cX11_named.data.toList.drop 24 = dktX11_named_1 := dk_seg dksX11_named_0 24 rfl rfl
theorem dksX11_named_2 : cX11_named.data.toList.drop 46 = dktX11_named_2 := dk_seg dksX11_named_1 22 rfl rfl
theorem dksX11_named_3 : cX11_named.data.toList.drop 70 = dktX11_named_3 := dk_seg dksX11_named_2 24 rfl rfl
theorem dksX11_named_4 : cX11_named.data.toList.drop 93 = dktX11_named_4 := dk_seg dksX11_named_3 23 rfl rfl
theorem dksX11_named_5 : cX11_named.data.toList.drop 116 = dktX11_named_5 := dk_seg dksX11_named_4 23 rfl rfl
theorem dksX11_named_6 : cX11_named.data.toList.drop 140 = dktX11_named_6 := dk_seg dksX11_named_5 24 rfl rfl
theorem dX11_named_0 : decode cX11_named 0 = .ok (.aload_n 0, 1) := dk_42 (dk_at dksX11_named_0 0 rfl rfl)
theorem dX11_named_1 : decode cX11_named 1 = .ok (.ldc 187, 2) := dk_18 187 (dk_at dksX11_named_0 1 rfl rfl)
theorem dX11_named_3 : decode cX11_named 3 = .ok (.invokevirtual 189, 3) := dk_182 0 189 (dk_at dksX11_named_0 3 rfl rfl)
theorem dX11_named_6 : decode cX11_named 6 = .ok (.ifCond .eq 8, 3) := dk_153 0 8 (dk_at dksX11_named_0 6 rfl rfl)
theorem dX11_named_9 : decode cX11_named 9 = .ok (.aload_n 0, 1) := dk_42 (dk_at dksX11_named_0 9 rfl rfl)
theorem dX11_named_10 : decode cX11_named 10 = .ok (.invokevirtual 193, 3) := dk_182 0 193 (dk_at dksX11_named_0 10 rfl rfl)
theorem dX11_named_13 : decode cX11_named 13 = .ok (.areturn, 1) := dk_176 (dk_at dksX11_named_0 13 rfl rfl)
theorem dX11_named_14 : decode cX11_named 14 = .ok (.aload_n 0, 1) := dk_42 (dk_at dksX11_named_0 14 rfl rfl)
theorem dX11_named_15 : decode cX11_named 15 = .ok (.ldc 195, 2) := dk_18 195 (dk_at dksX11_named_0 15 rfl rfl)
theorem dX11_named_17 : decode cX11_named 17 = .ok (.invokevirtual 189, 3) := dk_182 0 189 (dk_at dksX11_named_0 17 rfl rfl)
theorem dX11_named_20 : decode cX11_named 20 = .ok (.ifCond .ne 12, 3) := dk_154 0 12 (dk_at dksX11_named_0 20 rfl rfl)
theorem dX11_named_23 : decode cX11_named 23 = .ok (.aload_n 0, 1) := dk_42 (dk_at dksX11_named_0 23 rfl rfl)
theorem dX11_named_24 : decode cX11_named 24 = .ok (.ldc 197, 2) := dk_18 197 (dk_at dksX11_named_1 0 rfl rfl)
theorem dX11_named_26 : decode cX11_named 26 = .ok (.invokevirtual 189, 3) := dk_182 0 189 (dk_at dksX11_named_1 2 rfl rfl)
theorem dX11_named_29 : decode cX11_named 29 = .ok (.ifCond .eq 14, 3) := dk_153 0 14 (dk_at dksX11_named_1 5 rfl rfl)
theorem dX11_named_32 : decode cX11_named 32 = .ok (.aload_n 0, 1) := dk_42 (dk_at dksX11_named_1 8 rfl rfl)
theorem dX11_named_33 : decode cX11_named 33 = .ok (.aload_n 0, 1) := dk_42 (dk_at dksX11_named_1 9 rfl rfl)
theorem dX11_named_34 : decode cX11_named 34 = .ok (.ldc 195, 2) := dk_18 195 (dk_at dksX11_named_1 10 rfl rfl)
theorem dX11_named_36 : decode cX11_named 36 = .ok (.invokevirtual 189, 3) := dk_182 0 189 (dk_at dksX11_named_1 12 rfl rfl)
theorem dX11_named_39 : decode cX11_named 39 = .ok (.invokevirtual 199, 3) := dk_182 0 199 (dk_at dksX11_named_1 15 rfl rfl)
theorem dX11_named_42 : decode cX11_named 42 = .ok (.areturn, 1) := dk_176 (dk_at dksX11_named_1 18 rfl rfl)
theorem dX11_named_43 : decode cX11_named 43 = .ok (.aload_n 0, 1) := dk_42 (dk_at dksX11_named_1 19 rfl rfl)
theorem dX11_named_44 : decode cX11_named 44 = .ok (.ldc 136, 2) := dk_18 136 (dk_at dksX11_named_1 20 rfl rfl)
theorem dX11_named_46 : decode cX11_named 46 = .ok (.invokevirtual 189, 3) := dk_182 0 189 (dk_at dksX11_named_2 0 rfl rfl)
theorem dX11_named_49 : decode cX11_named 49 = .ok (.ifCond .ne 39, 3) := dk_154 0 39 (dk_at dksX11_named_2 3 rfl rfl)
theorem dX11_named_52 : decode cX11_named 52 = .ok (.aload_n 0, 1) := dk_42 (dk_at dksX11_named_2 6 rfl rfl)
theorem dX11_named_53 : decode cX11_named 53 = .ok (.ldc 138, 2) := dk_18 138 (dk_at dksX11_named_2 7 rfl rfl)
theorem dX11_named_55 : decode cX11_named 55 = .ok (.invokevirtual 189, 3) := dk_182 0 189 (dk_at dksX11_named_2 9 rfl rfl)
theorem dX11_named_58 : decode cX11_named 58 = .ok (.ifCond .ne 30, 3) := dk_154 0 30 (dk_at dksX11_named_2 12 rfl rfl)
theorem dX11_named_61 : decode cX11_named 61 = .ok (.aload_n 0, 1) := dk_42 (dk_at dksX11_named_2 15 rfl rfl)
theorem dX11_named_62 : decode cX11_named 62 = .ok (.ldc 140, 2) := dk_18 140 (dk_at dksX11_named_2 16 rfl rfl)
theorem dX11_named_64 : decode cX11_named 64 = .ok (.invokevirtual 189, 3) := dk_182 0 189 (dk_at dksX11_named_2 18 rfl rfl)
theorem dX11_named_67 : decode cX11_named 67 = .ok (.ifCond .ne 21, 3) := dk_154 0 21 (dk_at dksX11_named_2 21 rfl rfl)
theorem dX11_named_70 : decode cX11_named 70 = .ok (.aload_n 0, 1) := dk_42 (dk_at dksX11_named_3 0 rfl rfl)
theorem dX11_named_71 : decode cX11_named 71 = .ok (.ldc 142, 2) := dk_18 142 (dk_at dksX11_named_3 1 rfl rfl)
theorem dX11_named_73 : decode cX11_named 73 = .ok (.invokevirtual 189, 3) := dk_182 0 189 (dk_at dksX11_named_3 3 rfl rfl)
theorem dX11_named_76 : decode cX11_named 76 = .ok (.ifCond .ne 12, 3) := dk_154 0 12 (dk_at dksX11_named_3 6 rfl rfl)
theorem dX11_named_79 : decode cX11_named 79 = .ok (.aload_n 0, 1) := dk_42 (dk_at dksX11_named_3 9 rfl rfl)
theorem dX11_named_80 : decode cX11_named 80 = .ok (.ldc 203, 2) := dk_18 203 (dk_at dksX11_named_3 10 rfl rfl)
theorem dX11_named_82 : decode cX11_named 82 = .ok (.invokevirtual 189, 3) := dk_182 0 189 (dk_at dksX11_named_3 12 rfl rfl)
theorem dX11_named_85 : decode cX11_named 85 = .ok (.ifCond .eq 12, 3) := dk_153 0 12 (dk_at dksX11_named_3 15 rfl rfl)
theorem dX11_named_88 : decode cX11_named 88 = .ok (.aload_n 0, 1) := dk_42 (dk_at dksX11_named_3 18 rfl rfl)
theorem dX11_named_89 : decode cX11_named 89 = .ok (.aload_n 0, 1) := dk_42 (dk_at dksX11_named_3 19 rfl rfl)
theorem dX11_named_90 : decode cX11_named 90 = .ok (.getfield 52, 3) := dk_180 0 52 (dk_at dksX11_named_3 20 rfl rfl)
theorem dX11_named_93 : decode cX11_named 93 = .ok (.invokevirtual 205, 3) := dk_182 0 205 (dk_at dksX11_named_4 0 rfl rfl)
theorem dX11_named_96 : decode cX11_named 96 = .ok (.areturn, 1) := dk_176 (dk_at dksX11_named_4 3 rfl rfl)
theorem dX11_named_97 : decode cX11_named 97 = .ok (.aload_n 0, 1) := dk_42 (dk_at dksX11_named_4 4 rfl rfl)
theorem dX11_named_98 : decode cX11_named 98 = .ok (.getfield 52, 3) := dk_180 0 52 (dk_at dksX11_named_4 5 rfl rfl)
theorem dX11_named_101 : decode cX11_named 101 = .ok (.invokevirtual 209, 3) := dk_182 0 209 (dk_at dksX11_named_4 8 rfl rfl)
theorem dX11_named_104 : decode cX11_named 104 = .ok (.iconst 1, 1) := dk_4 (dk_at dksX11_named_4 11 rfl rfl)
theorem dX11_named_105 : decode cX11_named 105 = .ok (.if_icmp .ne 17, 3) := dk_160 0 17 (dk_at dksX11_named_4 12 rfl rfl)
theorem dX11_named_108 : decode cX11_named 108 = .ok (.aload_n 0, 1) := dk_42 (dk_at dksX11_named_4 15 rfl rfl)
theorem dX11_named_109 : decode cX11_named 109 = .ok (.getfield 52, 3) := dk_180 0 52 (dk_at dksX11_named_4 16 rfl rfl)
theorem dX11_named_112 : decode cX11_named 112 = .ok (.iconst 0, 1) := dk_3 (dk_at dksX11_named_4 19 rfl rfl)
theorem dX11_named_113 : decode cX11_named 113 = .ok (.invokevirtual 210, 3) := dk_182 0 210 (dk_at dksX11_named_4 20 rfl rfl)
theorem dX11_named_116 : decode cX11_named 116 = .ok (.bipush 97, 2) := dk_16 97 (dk_at dksX11_named_5 0 rfl rfl)
theorem dX11_named_118 : decode cX11_named 118 = .ok (.isub, 1) := dk_100 (dk_at dksX11_named_5 2 rfl rfl)
theorem dX11_named_119 : decode cX11_named 119 = .ok (.goto 4, 3) := dk_167 0 4 (dk_at dksX11_named_5 3 rfl rfl)
theorem dX11_named_122 : decode cX11_named 122 = .ok (.iconst (-1), 1) := dk_2 (dk_at dksX11_named_5 6 rfl rfl)
theorem dX11_named_123 : decode cX11_named 123 = .ok (.istore_n 1, 1) := dk_60 (dk_at dksX11_named_5 7 rfl rfl)
theorem dX11_named_124 : decode cX11_named 124 = .ok (.iload_n 1, 1) := dk_27 (dk_at dksX11_named_5 8 rfl rfl)
theorem dX11_named_125 : decode cX11_named 125 = .ok (.invokestatic 214, 3) := dk_184 0 214 (dk_at dksX11_named_5 9 rfl rfl)
theorem dX11_named_128 : decode cX11_named 128 = .ok (.ifCond .ne 8, 3) := dk_154 0 8 (dk_at dksX11_named_5 12 rfl rfl)
theorem dX11_named_131 : decode cX11_named 131 = .ok (.aload_n 0, 1) := dk_42 (dk_at dksX11_named_5 15 rfl rfl)
theorem dX11_named_132 : decode cX11_named 132 = .ok (.invokevirtual 86, 3) := dk_182 0 86 (dk_at dksX11_named_5 16 rfl rfl)
theorem dX11_named_135 : decode cX11_named 135 = .ok (.athrow, 1) := dk_191 (dk_at dksX11_named_5 19 rfl rfl)
theorem dX11_named_136 : decode cX11_named 136 = .ok (.aload_n 0, 1) := dk_42 (dk_at dksX11_named_5 20 rfl rfl)
theorem dX11_named_137 : decode cX11_named 137 = .ok (.getfield 20, 3) := dk_180 0 20 (dk_at dksX11_named_5 21 rfl rfl)
theorem dX11_named_140 : decode cX11_named 140 = .ok (.iload_n 1, 1) := dk_27 (dk_at dksX11_named_6 0 rfl rfl)
theorem dX11_named_141 : decode cX11_named 141 = .ok (.invokevirtual 218, 3) := dk_182 0 218 (dk_at dksX11_named_6 1 rfl rfl)
theorem dX11_named_144 : decode cX11_named 144 = .ok (.aload_n 0, 1) := dk_42 (dk_at dksX11_named_6 4 rfl rfl)
theorem dX11_named_145 : decode cX11_named 145 = .ok (.invokevirtual 115, 3) := dk_182 0 115 (dk_at dksX11_named_6 5 rfl rfl)
theorem dX11_named_148 : decode cX11_named 148 = .ok (.new 221, 3) := dk_187 0 221 (dk_at dksX11_named_6 8 rfl rfl)
theorem dX11_named_151 : decode cX11_named 151 = .ok (.dup, 1) := dk_89 (dk_at dksX11_named_6 11 rfl rfl)
theorem dX11_named_152 : decode cX11_named 152 = .ok (.aload_n 0, 1) := dk_42 (dk_at dksX11_named_6 12 rfl rfl)
theorem dX11_named_153 : decode cX11_named 153 = .ok (.getfield 3, 3) := dk_180 0 3 (dk_at dksX11_named_6 13 rfl rfl)
theorem dX11_named_156 : decode cX11_named 156 = .ok (.iload_n 1, 1) := dk_27 (dk_at dksX11_named_6 16 rfl rfl)
theorem dX11_named_157 : decode cX11_named 157 = .ok (.invokespecial 223, 3) := dk_183 0 223 (dk_at dksX11_named_6 17 rfl rfl)
theorem dX11_named_160 : decode cX11_named 160 = .ok (.areturn, 1) := dk_176 (dk_at dksX11_named_6 20 rfl rfl)
abbrev cX11_is : ByteArray := prog_22_method_8_code
def yX11_is : MethodName := ⟨RX11, "is", "(Ljava/lang/String;)Z"⟩
def dkwX11_is_0 : List UInt8 := [43, 42, 180, 0, 52, 182, 0, 111, 172]
abbrev dktX11_is_0 : List UInt8 := dkwX11_is_0 ++ []
theorem dksX11_is_0 : cX11_is.data.toList.drop 0 = dktX11_is_0 := by decide +kernel
theorem dX11_is_0 : decode cX11_is 0 = .ok (.aload_n 1, 1) := dk_43 (dk_at dksX11_is_0 0 rfl rfl)
theorem dX11_is_1 : decode cX11_is 1 = .ok (.aload_n 0, 1) := dk_42 (dk_at dksX11_is_0 1 rfl rfl)
theorem dX11_is_2 : decode cX11_is 2 = .ok (.getfield 52, 3) := dk_180 0 52 (dk_at dksX11_is_0 2 rfl rfl)
theorem dX11_is_5 : decode cX11_is 5 = .ok (.invokevirtual 111, 3) := dk_182 0 111 (dk_at dksX11_is_0 5 rfl rfl)
theorem dX11_is_8 : decode cX11_is 8 = .ok (.ireturn, 1) := dk_172 (dk_at dksX11_is_0 8 rfl rfl)
abbrev cX11_pick : ByteArray := prog_22_method_14_code
def yX11_pick : MethodName := ⟨RX11, "pick", "()LWhatIfSheet$Node;"⟩
def dkwX11_pick_2 : List UInt8 := [44, 45, 183, 0, 176, 176]
abbrev dktX11_pick_2 : List UInt8 := dkwX11_pick_2 ++ []
def dkwX11_pick_1 : List UInt8 := [42, 16, 44, 182, 0, 168, 42, 182, 0, 164, 78, 42, 182, 0, 171, 187, 0, 174, 89, 42, 180, 0, 3, 43]
abbrev dktX11_pick_1 : List UInt8 := dkwX11_pick_1 ++ dktX11_pick_2
def dkwX11_pick_0 : List UInt8 := [42, 182, 0, 115, 42, 182, 0, 161, 42, 182, 0, 164, 76, 42, 16, 44, 182, 0, 168, 42, 182, 0, 164, 77]
abbrev dktX11_pick_0 : List UInt8 := dkwX11_pick_0 ++ dktX11_pick_1
theorem dksX11_pick_0 : cX11_pick.data.toList.drop 0 = dktX11_pick_0 := by decide +kernel
theorem dksX11_pick_1 : cX11_pick.data.toList.drop 24 = dktX11_pick_1 := dk_seg dksX11_pick_0 24 rfl rfl
theorem dksX11_pick_2 : cX11_pick.data.toList.drop 48 = dktX11_pick_2 := dk_seg dksX11_pick_1 24 rfl rfl
theorem dX11_pick_0 : decode cX11_pick 0 = .ok (.aload_n 0, 1) := dk_42 (dk_at dksX11_pick_0 0 rfl rfl)
theorem dX11_pick_1 : decode cX11_pick 1 = .ok (.invokevirtual 115, 3) := dk_182 0 115 (dk_at dksX11_pick_0 1 rfl rfl)
theorem dX11_pick_4 : decode cX11_pick 4 = .ok (.aload_n 0, 1) := dk_42 (dk_at dksX11_pick_0 4 rfl rfl)
theorem dX11_pick_5 : decode cX11_pick 5 = .ok (.invokevirtual 161, 3) := dk_182 0 161 (dk_at dksX11_pick_0 5 rfl rfl)
theorem dX11_pick_8 : decode cX11_pick 8 = .ok (.aload_n 0, 1) := dk_42 (dk_at dksX11_pick_0 8 rfl rfl)
theorem dX11_pick_9 : decode cX11_pick 9 = .ok (.invokevirtual 164, 3) := dk_182 0 164 (dk_at dksX11_pick_0 9 rfl rfl)
theorem dX11_pick_12 : decode cX11_pick 12 = .ok (.astore_n 1, 1) := dk_76 (dk_at dksX11_pick_0 12 rfl rfl)
theorem dX11_pick_13 : decode cX11_pick 13 = .ok (.aload_n 0, 1) := dk_42 (dk_at dksX11_pick_0 13 rfl rfl)
theorem dX11_pick_14 : decode cX11_pick 14 = .ok (.bipush 44, 2) := dk_16 44 (dk_at dksX11_pick_0 14 rfl rfl)
theorem dX11_pick_16 : decode cX11_pick 16 = .ok (.invokevirtual 168, 3) := dk_182 0 168 (dk_at dksX11_pick_0 16 rfl rfl)
theorem dX11_pick_19 : decode cX11_pick 19 = .ok (.aload_n 0, 1) := dk_42 (dk_at dksX11_pick_0 19 rfl rfl)
theorem dX11_pick_20 : decode cX11_pick 20 = .ok (.invokevirtual 164, 3) := dk_182 0 164 (dk_at dksX11_pick_0 20 rfl rfl)
theorem dX11_pick_23 : decode cX11_pick 23 = .ok (.astore_n 2, 1) := dk_77 (dk_at dksX11_pick_0 23 rfl rfl)
theorem dX11_pick_24 : decode cX11_pick 24 = .ok (.aload_n 0, 1) := dk_42 (dk_at dksX11_pick_1 0 rfl rfl)
theorem dX11_pick_25 : decode cX11_pick 25 = .ok (.bipush 44, 2) := dk_16 44 (dk_at dksX11_pick_1 1 rfl rfl)
theorem dX11_pick_27 : decode cX11_pick 27 = .ok (.invokevirtual 168, 3) := dk_182 0 168 (dk_at dksX11_pick_1 3 rfl rfl)
theorem dX11_pick_30 : decode cX11_pick 30 = .ok (.aload_n 0, 1) := dk_42 (dk_at dksX11_pick_1 6 rfl rfl)
theorem dX11_pick_31 : decode cX11_pick 31 = .ok (.invokevirtual 164, 3) := dk_182 0 164 (dk_at dksX11_pick_1 7 rfl rfl)
theorem dX11_pick_34 : decode cX11_pick 34 = .ok (.astore_n 3, 1) := dk_78 (dk_at dksX11_pick_1 10 rfl rfl)
theorem dX11_pick_35 : decode cX11_pick 35 = .ok (.aload_n 0, 1) := dk_42 (dk_at dksX11_pick_1 11 rfl rfl)
theorem dX11_pick_36 : decode cX11_pick 36 = .ok (.invokevirtual 171, 3) := dk_182 0 171 (dk_at dksX11_pick_1 12 rfl rfl)
theorem dX11_pick_39 : decode cX11_pick 39 = .ok (.new 174, 3) := dk_187 0 174 (dk_at dksX11_pick_1 15 rfl rfl)
theorem dX11_pick_42 : decode cX11_pick 42 = .ok (.dup, 1) := dk_89 (dk_at dksX11_pick_1 18 rfl rfl)
theorem dX11_pick_43 : decode cX11_pick 43 = .ok (.aload_n 0, 1) := dk_42 (dk_at dksX11_pick_1 19 rfl rfl)
theorem dX11_pick_44 : decode cX11_pick 44 = .ok (.getfield 3, 3) := dk_180 0 3 (dk_at dksX11_pick_1 20 rfl rfl)
theorem dX11_pick_47 : decode cX11_pick 47 = .ok (.aload_n 1, 1) := dk_43 (dk_at dksX11_pick_1 23 rfl rfl)
theorem dX11_pick_48 : decode cX11_pick 48 = .ok (.aload_n 2, 1) := dk_44 (dk_at dksX11_pick_2 0 rfl rfl)
theorem dX11_pick_49 : decode cX11_pick 49 = .ok (.aload_n 3, 1) := dk_45 (dk_at dksX11_pick_2 1 rfl rfl)
theorem dX11_pick_50 : decode cX11_pick 50 = .ok (.invokespecial 176, 3) := dk_183 0 176 (dk_at dksX11_pick_2 2 rfl rfl)
theorem dX11_pick_53 : decode cX11_pick 53 = .ok (.areturn, 1) := dk_176 (dk_at dksX11_pick_2 5 rfl rfl)
abbrev cX11_opensRound : ByteArray := prog_22_method_11_code
def yX11_opensRound : MethodName := ⟨RX11, "opensRound", "()V"⟩
def dkwX11_opensRound_0 : List UInt8 := [42, 180, 0, 59, 16, 40, 159, 0, 8, 42, 182, 0, 86, 191, 42, 182, 0, 121, 177]
abbrev dktX11_opensRound_0 : List UInt8 := dkwX11_opensRound_0 ++ []
theorem dksX11_opensRound_0 : cX11_opensRound.data.toList.drop 0 = dktX11_opensRound_0 := by decide +kernel
theorem dX11_opensRound_0 : decode cX11_opensRound 0 = .ok (.aload_n 0, 1) := dk_42 (dk_at dksX11_opensRound_0 0 rfl rfl)
theorem dX11_opensRound_1 : decode cX11_opensRound 1 = .ok (.getfield 59, 3) := dk_180 0 59 (dk_at dksX11_opensRound_0 1 rfl rfl)
theorem dX11_opensRound_4 : decode cX11_opensRound 4 = .ok (.bipush 40, 2) := dk_16 40 (dk_at dksX11_opensRound_0 4 rfl rfl)
theorem dX11_opensRound_6 : decode cX11_opensRound 6 = .ok (.if_icmp .eq 8, 3) := dk_159 0 8 (dk_at dksX11_opensRound_0 6 rfl rfl)
theorem dX11_opensRound_9 : decode cX11_opensRound 9 = .ok (.aload_n 0, 1) := dk_42 (dk_at dksX11_opensRound_0 9 rfl rfl)
theorem dX11_opensRound_10 : decode cX11_opensRound 10 = .ok (.invokevirtual 86, 3) := dk_182 0 86 (dk_at dksX11_opensRound_0 10 rfl rfl)
theorem dX11_opensRound_13 : decode cX11_opensRound 13 = .ok (.athrow, 1) := dk_191 (dk_at dksX11_opensRound_0 13 rfl rfl)
theorem dX11_opensRound_14 : decode cX11_opensRound 14 = .ok (.aload_n 0, 1) := dk_42 (dk_at dksX11_opensRound_0 14 rfl rfl)
theorem dX11_opensRound_15 : decode cX11_opensRound 15 = .ok (.invokevirtual 121, 3) := dk_182 0 121 (dk_at dksX11_opensRound_0 15 rfl rfl)
theorem dX11_opensRound_18 : decode cX11_opensRound 18 = .ok (.return_, 1) := dk_177 (dk_at dksX11_opensRound_0 18 rfl rfl)
abbrev cX11_opens : ByteArray := prog_22_method_10_code
def yX11_opens : MethodName := ⟨RX11, "opens", "()V"⟩
def dkwX11_opens_1 : List UInt8 := [182, 0, 115, 177]
abbrev dktX11_opens_1 : List UInt8 := dkwX11_opens_1 ++ []
def dkwX11_opens_0 : List UInt8 := [42, 180, 0, 118, 7, 160, 0, 8, 42, 182, 0, 86, 191, 42, 89, 180, 0, 118, 4, 96, 181, 0, 118, 42]
abbrev dktX11_opens_0 : List UInt8 := dkwX11_opens_0 ++ dktX11_opens_1
theorem dksX11_opens_0 : cX11_opens.data.toList.drop 0 = dktX11_opens_0 := by decide +kernel
theorem dksX11_opens_1 : cX11_opens.data.toList.drop 24 = dktX11_opens_1 := dk_seg dksX11_opens_0 24 rfl rfl
theorem dX11_opens_0 : decode cX11_opens 0 = .ok (.aload_n 0, 1) := dk_42 (dk_at dksX11_opens_0 0 rfl rfl)
theorem dX11_opens_1 : decode cX11_opens 1 = .ok (.getfield 118, 3) := dk_180 0 118 (dk_at dksX11_opens_0 1 rfl rfl)
theorem dX11_opens_4 : decode cX11_opens 4 = .ok (.iconst 4, 1) := dk_7 (dk_at dksX11_opens_0 4 rfl rfl)
theorem dX11_opens_5 : decode cX11_opens 5 = .ok (.if_icmp .ne 8, 3) := dk_160 0 8 (dk_at dksX11_opens_0 5 rfl rfl)
theorem dX11_opens_8 : decode cX11_opens 8 = .ok (.aload_n 0, 1) := dk_42 (dk_at dksX11_opens_0 8 rfl rfl)
theorem dX11_opens_9 : decode cX11_opens 9 = .ok (.invokevirtual 86, 3) := dk_182 0 86 (dk_at dksX11_opens_0 9 rfl rfl)
theorem dX11_opens_12 : decode cX11_opens 12 = .ok (.athrow, 1) := dk_191 (dk_at dksX11_opens_0 12 rfl rfl)
theorem dX11_opens_13 : decode cX11_opens 13 = .ok (.aload_n 0, 1) := dk_42 (dk_at dksX11_opens_0 13 rfl rfl)
theorem dX11_opens_14 : decode cX11_opens 14 = .ok (.dup, 1) := dk_89 (dk_at dksX11_opens_0 14 rfl rfl)
theorem dX11_opens_15 : decode cX11_opens 15 = .ok (.getfield 118, 3) := dk_180 0 118 (dk_at dksX11_opens_0 15 rfl rfl)
theorem dX11_opens_18 : decode cX11_opens 18 = .ok (.iconst 1, 1) := dk_4 (dk_at dksX11_opens_0 18 rfl rfl)
theorem dX11_opens_19 : decode cX11_opens 19 = .ok (.iadd, 1) := dk_96 (dk_at dksX11_opens_0 19 rfl rfl)
theorem dX11_opens_20 : decode cX11_opens 20 = .ok (.putfield 118, 3) := dk_181 0 118 (dk_at dksX11_opens_0 20 rfl rfl)
theorem dX11_opens_23 : decode cX11_opens 23 = .ok (.aload_n 0, 1) := dk_42 (dk_at dksX11_opens_0 23 rfl rfl)
theorem dX11_opens_24 : decode cX11_opens 24 = .ok (.invokevirtual 115, 3) := dk_182 0 115 (dk_at dksX11_opens_1 0 rfl rfl)
theorem dX11_opens_27 : decode cX11_opens 27 = .ok (.return_, 1) := dk_177 (dk_at dksX11_opens_1 3 rfl rfl)
abbrev cX11_takes : ByteArray := prog_22_method_9_code
def yX11_takes : MethodName := ⟨RX11, "takes", "(I)V"⟩
def dkwX11_takes_0 : List UInt8 := [42, 180, 0, 59, 27, 159, 0, 8, 42, 182, 0, 86, 191, 42, 182, 0, 115, 177]
abbrev dktX11_takes_0 : List UInt8 := dkwX11_takes_0 ++ []
theorem dksX11_takes_0 : cX11_takes.data.toList.drop 0 = dktX11_takes_0 := by decide +kernel
theorem dX11_takes_0 : decode cX11_takes 0 = .ok (.aload_n 0, 1) := dk_42 (dk_at dksX11_takes_0 0 rfl rfl)
theorem dX11_takes_1 : decode cX11_takes 1 = .ok (.getfield 59, 3) := dk_180 0 59 (dk_at dksX11_takes_0 1 rfl rfl)
theorem dX11_takes_4 : decode cX11_takes 4 = .ok (.iload_n 1, 1) := dk_27 (dk_at dksX11_takes_0 4 rfl rfl)
theorem dX11_takes_5 : decode cX11_takes 5 = .ok (.if_icmp .eq 8, 3) := dk_159 0 8 (dk_at dksX11_takes_0 5 rfl rfl)
theorem dX11_takes_8 : decode cX11_takes 8 = .ok (.aload_n 0, 1) := dk_42 (dk_at dksX11_takes_0 8 rfl rfl)
theorem dX11_takes_9 : decode cX11_takes 9 = .ok (.invokevirtual 86, 3) := dk_182 0 86 (dk_at dksX11_takes_0 9 rfl rfl)
theorem dX11_takes_12 : decode cX11_takes 12 = .ok (.athrow, 1) := dk_191 (dk_at dksX11_takes_0 12 rfl rfl)
theorem dX11_takes_13 : decode cX11_takes 13 = .ok (.aload_n 0, 1) := dk_42 (dk_at dksX11_takes_0 13 rfl rfl)
theorem dX11_takes_14 : decode cX11_takes 14 = .ok (.invokevirtual 115, 3) := dk_182 0 115 (dk_at dksX11_takes_0 14 rfl rfl)
theorem dX11_takes_17 : decode cX11_takes 17 = .ok (.return_, 1) := dk_177 (dk_at dksX11_takes_0 17 rfl rfl)
abbrev cX11_closes : ByteArray := prog_22_method_12_code
def yX11_closes : MethodName := ⟨RX11, "closes", "()V"⟩
def dkwX11_closes_1 : List UInt8 := [42, 182, 0, 115, 177]
abbrev dktX11_closes_1 : List UInt8 := dkwX11_closes_1 ++ []
def dkwX11_closes_0 : List UInt8 := [42, 180, 0, 59, 16, 41, 159, 0, 8, 42, 182, 0, 86, 191, 42, 89, 180, 0, 118, 4, 100, 181, 0, 118]
abbrev dktX11_closes_0 : List UInt8 := dkwX11_closes_0 ++ dktX11_closes_1
theorem dksX11_closes_0 : cX11_closes.data.toList.drop 0 = dktX11_closes_0 := by decide +kernel
theorem dksX11_closes_1 : cX11_closes.data.toList.drop 24 = dktX11_closes_1 := dk_seg dksX11_closes_0 24 rfl rfl
theorem dX11_closes_0 : decode cX11_closes 0 = .ok (.aload_n 0, 1) := dk_42 (dk_at dksX11_closes_0 0 rfl rfl)
theorem dX11_closes_1 : decode cX11_closes 1 = .ok (.getfield 59, 3) := dk_180 0 59 (dk_at dksX11_closes_0 1 rfl rfl)
theorem dX11_closes_4 : decode cX11_closes 4 = .ok (.bipush 41, 2) := dk_16 41 (dk_at dksX11_closes_0 4 rfl rfl)
theorem dX11_closes_6 : decode cX11_closes 6 = .ok (.if_icmp .eq 8, 3) := dk_159 0 8 (dk_at dksX11_closes_0 6 rfl rfl)
theorem dX11_closes_9 : decode cX11_closes 9 = .ok (.aload_n 0, 1) := dk_42 (dk_at dksX11_closes_0 9 rfl rfl)
theorem dX11_closes_10 : decode cX11_closes 10 = .ok (.invokevirtual 86, 3) := dk_182 0 86 (dk_at dksX11_closes_0 10 rfl rfl)
theorem dX11_closes_13 : decode cX11_closes 13 = .ok (.athrow, 1) := dk_191 (dk_at dksX11_closes_0 13 rfl rfl)
theorem dX11_closes_14 : decode cX11_closes 14 = .ok (.aload_n 0, 1) := dk_42 (dk_at dksX11_closes_0 14 rfl rfl)
theorem dX11_closes_15 : decode cX11_closes 15 = .ok (.dup, 1) := dk_89 (dk_at dksX11_closes_0 15 rfl rfl)
theorem dX11_closes_16 : decode cX11_closes 16 = .ok (.getfield 118, 3) := dk_180 0 118 (dk_at dksX11_closes_0 16 rfl rfl)
theorem dX11_closes_19 : decode cX11_closes 19 = .ok (.iconst 1, 1) := dk_4 (dk_at dksX11_closes_0 19 rfl rfl)
theorem dX11_closes_20 : decode cX11_closes 20 = .ok (.isub, 1) := dk_100 (dk_at dksX11_closes_0 20 rfl rfl)
theorem dX11_closes_21 : decode cX11_closes 21 = .ok (.putfield 118, 3) := dk_181 0 118 (dk_at dksX11_closes_0 21 rfl rfl)
theorem dX11_closes_24 : decode cX11_closes 24 = .ok (.aload_n 0, 1) := dk_42 (dk_at dksX11_closes_1 0 rfl rfl)
theorem dX11_closes_25 : decode cX11_closes 25 = .ok (.invokevirtual 115, 3) := dk_182 0 115 (dk_at dksX11_closes_1 1 rfl rfl)
theorem dX11_closes_28 : decode cX11_closes 28 = .ok (.return_, 1) := dk_177 (dk_at dksX11_closes_1 4 rfl rfl)
abbrev cX11_two : ByteArray := prog_22_method_15_code
def yX11_two : MethodName := ⟨RX11, "two", "(Z)LWhatIfSheet$Node;"⟩
def dkwX11_two_2 : List UInt8 := [187, 0, 184, 89, 42, 180, 0, 3, 44, 45, 183, 0, 186, 176]
abbrev dktX11_two_2 : List UInt8 := dkwX11_two_2 ++ []
def dkwX11_two_1 : List UInt8 := [42, 182, 0, 171, 27, 153, 0, 19, 187, 0, 179, 89, 42, 180, 0, 3, 44, 45, 183, 0, 181, 167, 0, 16]
abbrev dktX11_two_1 : List UInt8 := dkwX11_two_1 ++ dktX11_two_2
def dkwX11_two_0 : List UInt8 := [42, 182, 0, 115, 42, 182, 0, 161, 42, 182, 0, 164, 77, 42, 16, 44, 182, 0, 168, 42, 182, 0, 164, 78]
abbrev dktX11_two_0 : List UInt8 := dkwX11_two_0 ++ dktX11_two_1
theorem dksX11_two_0 : cX11_two.data.toList.drop 0 = dktX11_two_0 := by decide +kernel
theorem dksX11_two_1 : cX11_two.data.toList.drop 24 = dktX11_two_1 := dk_seg dksX11_two_0 24 rfl rfl
theorem dksX11_two_2 : cX11_two.data.toList.drop 48 = dktX11_two_2 := dk_seg dksX11_two_1 24 rfl rfl
theorem dX11_two_0 : decode cX11_two 0 = .ok (.aload_n 0, 1) := dk_42 (dk_at dksX11_two_0 0 rfl rfl)
theorem dX11_two_1 : decode cX11_two 1 = .ok (.invokevirtual 115, 3) := dk_182 0 115 (dk_at dksX11_two_0 1 rfl rfl)
theorem dX11_two_4 : decode cX11_two 4 = .ok (.aload_n 0, 1) := dk_42 (dk_at dksX11_two_0 4 rfl rfl)
theorem dX11_two_5 : decode cX11_two 5 = .ok (.invokevirtual 161, 3) := dk_182 0 161 (dk_at dksX11_two_0 5 rfl rfl)
theorem dX11_two_8 : decode cX11_two 8 = .ok (.aload_n 0, 1) := dk_42 (dk_at dksX11_two_0 8 rfl rfl)
theorem dX11_two_9 : decode cX11_two 9 = .ok (.invokevirtual 164, 3) := dk_182 0 164 (dk_at dksX11_two_0 9 rfl rfl)
theorem dX11_two_12 : decode cX11_two 12 = .ok (.astore_n 2, 1) := dk_77 (dk_at dksX11_two_0 12 rfl rfl)
theorem dX11_two_13 : decode cX11_two 13 = .ok (.aload_n 0, 1) := dk_42 (dk_at dksX11_two_0 13 rfl rfl)
theorem dX11_two_14 : decode cX11_two 14 = .ok (.bipush 44, 2) := dk_16 44 (dk_at dksX11_two_0 14 rfl rfl)
theorem dX11_two_16 : decode cX11_two 16 = .ok (.invokevirtual 168, 3) := dk_182 0 168 (dk_at dksX11_two_0 16 rfl rfl)
theorem dX11_two_19 : decode cX11_two 19 = .ok (.aload_n 0, 1) := dk_42 (dk_at dksX11_two_0 19 rfl rfl)
theorem dX11_two_20 : decode cX11_two 20 = .ok (.invokevirtual 164, 3) := dk_182 0 164 (dk_at dksX11_two_0 20 rfl rfl)
theorem dX11_two_23 : decode cX11_two 23 = .ok (.astore_n 3, 1) := dk_78 (dk_at dksX11_two_0 23 rfl rfl)
theorem dX11_two_24 : decode cX11_two 24 = .ok (.aload_n 0, 1) := dk_42 (dk_at dksX11_two_1 0 rfl rfl)
theorem dX11_two_25 : decode cX11_two 25 = .ok (.invokevirtual 171, 3) := dk_182 0 171 (dk_at dksX11_two_1 1 rfl rfl)
theorem dX11_two_28 : decode cX11_two 28 = .ok (.iload_n 1, 1) := dk_27 (dk_at dksX11_two_1 4 rfl rfl)
theorem dX11_two_29 : decode cX11_two 29 = .ok (.ifCond .eq 19, 3) := dk_153 0 19 (dk_at dksX11_two_1 5 rfl rfl)
theorem dX11_two_32 : decode cX11_two 32 = .ok (.new 179, 3) := dk_187 0 179 (dk_at dksX11_two_1 8 rfl rfl)
theorem dX11_two_35 : decode cX11_two 35 = .ok (.dup, 1) := dk_89 (dk_at dksX11_two_1 11 rfl rfl)
theorem dX11_two_36 : decode cX11_two 36 = .ok (.aload_n 0, 1) := dk_42 (dk_at dksX11_two_1 12 rfl rfl)
theorem dX11_two_37 : decode cX11_two 37 = .ok (.getfield 3, 3) := dk_180 0 3 (dk_at dksX11_two_1 13 rfl rfl)
theorem dX11_two_40 : decode cX11_two 40 = .ok (.aload_n 2, 1) := dk_44 (dk_at dksX11_two_1 16 rfl rfl)
theorem dX11_two_41 : decode cX11_two 41 = .ok (.aload_n 3, 1) := dk_45 (dk_at dksX11_two_1 17 rfl rfl)
theorem dX11_two_42 : decode cX11_two 42 = .ok (.invokespecial 181, 3) := dk_183 0 181 (dk_at dksX11_two_1 18 rfl rfl)
theorem dX11_two_45 : decode cX11_two 45 = .ok (.goto 16, 3) := dk_167 0 16 (dk_at dksX11_two_1 21 rfl rfl)
theorem dX11_two_48 : decode cX11_two 48 = .ok (.new 184, 3) := dk_187 0 184 (dk_at dksX11_two_2 0 rfl rfl)
theorem dX11_two_51 : decode cX11_two 51 = .ok (.dup, 1) := dk_89 (dk_at dksX11_two_2 3 rfl rfl)
theorem dX11_two_52 : decode cX11_two 52 = .ok (.aload_n 0, 1) := dk_42 (dk_at dksX11_two_2 4 rfl rfl)
theorem dX11_two_53 : decode cX11_two 53 = .ok (.getfield 3, 3) := dk_180 0 3 (dk_at dksX11_two_2 5 rfl rfl)
theorem dX11_two_56 : decode cX11_two 56 = .ok (.aload_n 2, 1) := dk_44 (dk_at dksX11_two_2 8 rfl rfl)
theorem dX11_two_57 : decode cX11_two 57 = .ok (.aload_n 3, 1) := dk_45 (dk_at dksX11_two_2 9 rfl rfl)
theorem dX11_two_58 : decode cX11_two 58 = .ok (.invokespecial 186, 3) := dk_183 0 186 (dk_at dksX11_two_2 10 rfl rfl)
theorem dX11_two_61 : decode cX11_two 61 = .ok (.areturn, 1) := dk_176 (dk_at dksX11_two_2 13 rfl rfl)
abbrev cX11_asked : ByteArray := prog_22_method_13_code
def yX11_asked : MethodName := ⟨RX11, "asked", "(Ljava/lang/String;)LWhatIfSheet$Node;"⟩
def dkwX11_asked_10 : List UInt8 := [180, 0, 3, 28, 183, 0, 157, 176, 187, 0, 158, 89, 42, 180, 0, 3, 28, 183, 0, 160, 176]
abbrev dktX11_asked_10 : List UInt8 := dkwX11_asked_10 ++ []
def dkwX11_asked_9 : List UInt8 := [183, 0, 151, 176, 187, 0, 152, 89, 42, 180, 0, 3, 28, 183, 0, 154, 176, 187, 0, 155, 89, 42]
abbrev dktX11_asked_9 : List UInt8 := dkwX11_asked_9 ++ dktX11_asked_10
def dkwX11_asked_8 : List UInt8 := [187, 0, 144, 89, 42, 180, 0, 3, 28, 183, 0, 146, 176, 187, 0, 149, 89, 42, 180, 0, 3, 28]
abbrev dktX11_asked_8 : List UInt8 := dkwX11_asked_8 ++ dktX11_asked_9
def dkwX11_asked_7 : List UInt8 := [170, 0, 0, 0, 81, 0, 0, 0, 0, 0, 0, 0, 3, 0, 0, 0, 29, 0, 0, 0, 42, 0, 0, 0, 55, 0, 0, 0, 68]
abbrev dktX11_asked_7 : List UInt8 := dkwX11_asked_7 ++ dktX11_asked_8
def dkwX11_asked_6 : List UInt8 := [182, 0, 111, 153, 0, 6, 6, 54, 4, 21, 4]
abbrev dktX11_asked_6 : List UInt8 := dkwX11_asked_6 ++ dktX11_asked_7
def dkwX11_asked_5 : List UInt8 := [4, 54, 4, 167, 0, 30, 45, 18, 140, 182, 0, 111, 153, 0, 21, 5, 54, 4, 167, 0, 15, 45, 18, 142]
abbrev dktX11_asked_5 : List UInt8 := dkwX11_asked_5 ++ dktX11_asked_6
def dkwX11_asked_4 : List UInt8 := [45, 18, 136, 182, 0, 111, 153, 0, 51, 3, 54, 4, 167, 0, 45, 45, 18, 138, 182, 0, 111, 153, 0, 36]
abbrev dktX11_asked_4 : List UInt8 := dkwX11_asked_4 ++ dktX11_asked_5
def dkwX11_asked_3 : List UInt8 := [171, 0, 0, 0, 0, 0, 0, 101, 0, 0, 0, 4, 0, 1, 190, 75, 0, 0, 0, 44, 0, 51, 19, 197, 0, 0, 0, 59, 0, 51, 59, 131, 0, 0, 0, 89, 6, 33, 78, 105, 0, 0, 0, 74]
abbrev dktX11_asked_3 : List UInt8 := dkwX11_asked_3 ++ dktX11_asked_4
def dkwX11_asked_2 : List UInt8 := [28, 184, 0, 124, 182, 0, 130, 87, 42, 182, 0, 115, 43, 78, 2, 54, 4, 45, 182, 0, 133]
abbrev dktX11_asked_2 : List UInt8 := dkwX11_asked_2 ++ dktX11_asked_3
def dkwX11_asked_1 : List UInt8 := [17, 19, 136, 164, 0, 8, 42, 182, 0, 86, 191, 42, 180, 0, 56, 17, 3, 232, 108, 61, 42, 180, 0, 27]
abbrev dktX11_asked_1 : List UInt8 := dkwX11_asked_1 ++ dktX11_asked_2
def dkwX11_asked_0 : List UInt8 := [42, 182, 0, 115, 42, 180, 0, 56, 2, 159, 0, 20, 42, 180, 0, 107, 153, 0, 13, 42, 180, 0, 56]
abbrev dktX11_asked_0 : List UInt8 := dkwX11_asked_0 ++ dktX11_asked_1
theorem dksX11_asked_0 : cX11_asked.data.toList.drop 0 = dktX11_asked_0 := by decide +kernel
theorem dksX11_asked_1 : cX11_asked.data.toList.drop 23 = dktX11_asked_1 := dk_seg dksX11_asked_0 23 rfl rfl
theorem dksX11_asked_2 : cX11_asked.data.toList.drop 47 = dktX11_asked_2 := dk_seg dksX11_asked_1 24 rfl rfl
theorem dksX11_asked_3 : cX11_asked.data.toList.drop 68 = dktX11_asked_3 := dk_seg dksX11_asked_2 21 rfl rfl
theorem dksX11_asked_4 : cX11_asked.data.toList.drop 112 = dktX11_asked_4 := dk_seg dksX11_asked_3 44 rfl rfl
theorem dksX11_asked_5 : cX11_asked.data.toList.drop 136 = dktX11_asked_5 := dk_seg dksX11_asked_4 24 rfl rfl
theorem dksX11_asked_6 : cX11_asked.data.toList.drop 160 = dktX11_asked_6 := dk_seg dksX11_asked_5 24 rfl rfl
theorem dksX11_asked_7 : cX11_asked.data.toList.drop 171 = dktX11_asked_7 := dk_seg dksX11_asked_6 11 rfl rfl
theorem dksX11_asked_8 : cX11_asked.data.toList.drop 200 = dktX11_asked_8 := dk_seg dksX11_asked_7 29 rfl rfl
theorem dksX11_asked_9 : cX11_asked.data.toList.drop 222 = dktX11_asked_9 := dk_seg dksX11_asked_8 22 rfl rfl
theorem dksX11_asked_10 : cX11_asked.data.toList.drop 244 = dktX11_asked_10 := dk_seg dksX11_asked_9 22 rfl rfl
theorem dX11_asked_0 : decode cX11_asked 0 = .ok (.aload_n 0, 1) := dk_42 (dk_at dksX11_asked_0 0 rfl rfl)
theorem dX11_asked_1 : decode cX11_asked 1 = .ok (.invokevirtual 115, 3) := dk_182 0 115 (dk_at dksX11_asked_0 1 rfl rfl)
theorem dX11_asked_4 : decode cX11_asked 4 = .ok (.aload_n 0, 1) := dk_42 (dk_at dksX11_asked_0 4 rfl rfl)
theorem dX11_asked_5 : decode cX11_asked 5 = .ok (.getfield 56, 3) := dk_180 0 56 (dk_at dksX11_asked_0 5 rfl rfl)
theorem dX11_asked_8 : decode cX11_asked 8 = .ok (.iconst (-1), 1) := dk_2 (dk_at dksX11_asked_0 8 rfl rfl)
theorem dX11_asked_9 : decode cX11_asked 9 = .ok (.if_icmp .eq 20, 3) := dk_159 0 20 (dk_at dksX11_asked_0 9 rfl rfl)
theorem dX11_asked_12 : decode cX11_asked 12 = .ok (.aload_n 0, 1) := dk_42 (dk_at dksX11_asked_0 12 rfl rfl)
theorem dX11_asked_13 : decode cX11_asked 13 = .ok (.getfield 107, 3) := dk_180 0 107 (dk_at dksX11_asked_0 13 rfl rfl)
theorem dX11_asked_16 : decode cX11_asked 16 = .ok (.ifCond .eq 13, 3) := dk_153 0 13 (dk_at dksX11_asked_0 16 rfl rfl)
theorem dX11_asked_19 : decode cX11_asked 19 = .ok (.aload_n 0, 1) := dk_42 (dk_at dksX11_asked_0 19 rfl rfl)
theorem dX11_asked_20 : decode cX11_asked 20 = .ok (.getfield 56, 3) := dk_180 0 56 (dk_at dksX11_asked_0 20 rfl rfl)
theorem dX11_asked_23 : decode cX11_asked 23 = .ok (.sipush 5000, 3) := dk_17 19 136 (dk_at dksX11_asked_1 0 rfl rfl)
theorem dX11_asked_26 : decode cX11_asked 26 = .ok (.if_icmp .le 8, 3) := dk_164 0 8 (dk_at dksX11_asked_1 3 rfl rfl)
theorem dX11_asked_29 : decode cX11_asked 29 = .ok (.aload_n 0, 1) := dk_42 (dk_at dksX11_asked_1 6 rfl rfl)
theorem dX11_asked_30 : decode cX11_asked 30 = .ok (.invokevirtual 86, 3) := dk_182 0 86 (dk_at dksX11_asked_1 7 rfl rfl)
theorem dX11_asked_33 : decode cX11_asked 33 = .ok (.athrow, 1) := dk_191 (dk_at dksX11_asked_1 10 rfl rfl)
theorem dX11_asked_34 : decode cX11_asked 34 = .ok (.aload_n 0, 1) := dk_42 (dk_at dksX11_asked_1 11 rfl rfl)
theorem dX11_asked_35 : decode cX11_asked 35 = .ok (.getfield 56, 3) := dk_180 0 56 (dk_at dksX11_asked_1 12 rfl rfl)
theorem dX11_asked_38 : decode cX11_asked 38 = .ok (.sipush 1000, 3) := dk_17 3 232 (dk_at dksX11_asked_1 15 rfl rfl)
theorem dX11_asked_41 : decode cX11_asked 41 = .ok (.idiv, 1) := dk_108 (dk_at dksX11_asked_1 18 rfl rfl)
theorem dX11_asked_42 : decode cX11_asked 42 = .ok (.istore_n 2, 1) := dk_61 (dk_at dksX11_asked_1 19 rfl rfl)
theorem dX11_asked_43 : decode cX11_asked 43 = .ok (.aload_n 0, 1) := dk_42 (dk_at dksX11_asked_1 20 rfl rfl)
theorem dX11_asked_44 : decode cX11_asked 44 = .ok (.getfield 27, 3) := dk_180 0 27 (dk_at dksX11_asked_1 21 rfl rfl)
theorem dX11_asked_47 : decode cX11_asked 47 = .ok (.iload_n 2, 1) := dk_28 (dk_at dksX11_asked_2 0 rfl rfl)
theorem dX11_asked_48 : decode cX11_asked 48 = .ok (.invokestatic 124, 3) := dk_184 0 124 (dk_at dksX11_asked_2 1 rfl rfl)
theorem dX11_asked_51 : decode cX11_asked 51 = .ok (.invokevirtual 130, 3) := dk_182 0 130 (dk_at dksX11_asked_2 4 rfl rfl)
theorem dX11_asked_54 : decode cX11_asked 54 = .ok (.pop, 1) := dk_87 (dk_at dksX11_asked_2 7 rfl rfl)
theorem dX11_asked_55 : decode cX11_asked 55 = .ok (.aload_n 0, 1) := dk_42 (dk_at dksX11_asked_2 8 rfl rfl)
theorem dX11_asked_56 : decode cX11_asked 56 = .ok (.invokevirtual 115, 3) := dk_182 0 115 (dk_at dksX11_asked_2 9 rfl rfl)
theorem dX11_asked_59 : decode cX11_asked 59 = .ok (.aload_n 1, 1) := dk_43 (dk_at dksX11_asked_2 12 rfl rfl)
theorem dX11_asked_60 : decode cX11_asked 60 = .ok (.astore_n 3, 1) := dk_78 (dk_at dksX11_asked_2 13 rfl rfl)
theorem dX11_asked_61 : decode cX11_asked 61 = .ok (.iconst (-1), 1) := dk_2 (dk_at dksX11_asked_2 14 rfl rfl)
theorem dX11_asked_62 : decode cX11_asked 62 = .ok (.istore 4, 2) := dk_54 4 (dk_at dksX11_asked_2 15 rfl rfl)
theorem dX11_asked_64 : decode cX11_asked 64 = .ok (.aload_n 3, 1) := dk_45 (dk_at dksX11_asked_2 17 rfl rfl)
theorem dX11_asked_65 : decode cX11_asked 65 = .ok (.invokevirtual 133, 3) := dk_182 0 133 (dk_at dksX11_asked_2 18 rfl rfl)
theorem dX11_asked_68 : decode cX11_asked 68 = .ok (.lookupswitch 101 #[(114251, 44), (3347397, 59), (3357571, 89), (102846057, 74)], 44) := by decide +kernel
theorem dX11_asked_112 : decode cX11_asked 112 = .ok (.aload_n 3, 1) := dk_45 (dk_at dksX11_asked_4 0 rfl rfl)
theorem dX11_asked_113 : decode cX11_asked 113 = .ok (.ldc 136, 2) := dk_18 136 (dk_at dksX11_asked_4 1 rfl rfl)
theorem dX11_asked_115 : decode cX11_asked 115 = .ok (.invokevirtual 111, 3) := dk_182 0 111 (dk_at dksX11_asked_4 3 rfl rfl)
theorem dX11_asked_118 : decode cX11_asked 118 = .ok (.ifCond .eq 51, 3) := dk_153 0 51 (dk_at dksX11_asked_4 6 rfl rfl)
theorem dX11_asked_121 : decode cX11_asked 121 = .ok (.iconst 0, 1) := dk_3 (dk_at dksX11_asked_4 9 rfl rfl)
theorem dX11_asked_122 : decode cX11_asked 122 = .ok (.istore 4, 2) := dk_54 4 (dk_at dksX11_asked_4 10 rfl rfl)
theorem dX11_asked_124 : decode cX11_asked 124 = .ok (.goto 45, 3) := dk_167 0 45 (dk_at dksX11_asked_4 12 rfl rfl)
theorem dX11_asked_127 : decode cX11_asked 127 = .ok (.aload_n 3, 1) := dk_45 (dk_at dksX11_asked_4 15 rfl rfl)
theorem dX11_asked_128 : decode cX11_asked 128 = .ok (.ldc 138, 2) := dk_18 138 (dk_at dksX11_asked_4 16 rfl rfl)
theorem dX11_asked_130 : decode cX11_asked 130 = .ok (.invokevirtual 111, 3) := dk_182 0 111 (dk_at dksX11_asked_4 18 rfl rfl)
theorem dX11_asked_133 : decode cX11_asked 133 = .ok (.ifCond .eq 36, 3) := dk_153 0 36 (dk_at dksX11_asked_4 21 rfl rfl)
theorem dX11_asked_136 : decode cX11_asked 136 = .ok (.iconst 1, 1) := dk_4 (dk_at dksX11_asked_5 0 rfl rfl)
theorem dX11_asked_137 : decode cX11_asked 137 = .ok (.istore 4, 2) := dk_54 4 (dk_at dksX11_asked_5 1 rfl rfl)
theorem dX11_asked_139 : decode cX11_asked 139 = .ok (.goto 30, 3) := dk_167 0 30 (dk_at dksX11_asked_5 3 rfl rfl)
theorem dX11_asked_142 : decode cX11_asked 142 = .ok (.aload_n 3, 1) := dk_45 (dk_at dksX11_asked_5 6 rfl rfl)
theorem dX11_asked_143 : decode cX11_asked 143 = .ok (.ldc 140, 2) := dk_18 140 (dk_at dksX11_asked_5 7 rfl rfl)
theorem dX11_asked_145 : decode cX11_asked 145 = .ok (.invokevirtual 111, 3) := dk_182 0 111 (dk_at dksX11_asked_5 9 rfl rfl)
theorem dX11_asked_148 : decode cX11_asked 148 = .ok (.ifCond .eq 21, 3) := dk_153 0 21 (dk_at dksX11_asked_5 12 rfl rfl)
theorem dX11_asked_151 : decode cX11_asked 151 = .ok (.iconst 2, 1) := dk_5 (dk_at dksX11_asked_5 15 rfl rfl)
theorem dX11_asked_152 : decode cX11_asked 152 = .ok (.istore 4, 2) := dk_54 4 (dk_at dksX11_asked_5 16 rfl rfl)
theorem dX11_asked_154 : decode cX11_asked 154 = .ok (.goto 15, 3) := dk_167 0 15 (dk_at dksX11_asked_5 18 rfl rfl)
theorem dX11_asked_157 : decode cX11_asked 157 = .ok (.aload_n 3, 1) := dk_45 (dk_at dksX11_asked_5 21 rfl rfl)
theorem dX11_asked_158 : decode cX11_asked 158 = .ok (.ldc 142, 2) := dk_18 142 (dk_at dksX11_asked_5 22 rfl rfl)
theorem dX11_asked_160 : decode cX11_asked 160 = .ok (.invokevirtual 111, 3) := dk_182 0 111 (dk_at dksX11_asked_6 0 rfl rfl)
theorem dX11_asked_163 : decode cX11_asked 163 = .ok (.ifCond .eq 6, 3) := dk_153 0 6 (dk_at dksX11_asked_6 3 rfl rfl)
theorem dX11_asked_166 : decode cX11_asked 166 = .ok (.iconst 3, 1) := dk_6 (dk_at dksX11_asked_6 6 rfl rfl)
theorem dX11_asked_167 : decode cX11_asked 167 = .ok (.istore 4, 2) := dk_54 4 (dk_at dksX11_asked_6 7 rfl rfl)
theorem dX11_asked_169 : decode cX11_asked 169 = .ok (.iload 4, 2) := dk_21 4 (dk_at dksX11_asked_6 9 rfl rfl)
theorem dX11_asked_171 : decode cX11_asked 171 = .ok (.tableswitch 81 0 3 #[29, 42, 55, 68], 29) := by decide +kernel
theorem dX11_asked_200 : decode cX11_asked 200 = .ok (.new 144, 3) := dk_187 0 144 (dk_at dksX11_asked_8 0 rfl rfl)
theorem dX11_asked_203 : decode cX11_asked 203 = .ok (.dup, 1) := dk_89 (dk_at dksX11_asked_8 3 rfl rfl)
theorem dX11_asked_204 : decode cX11_asked 204 = .ok (.aload_n 0, 1) := dk_42 (dk_at dksX11_asked_8 4 rfl rfl)
theorem dX11_asked_205 : decode cX11_asked 205 = .ok (.getfield 3, 3) := dk_180 0 3 (dk_at dksX11_asked_8 5 rfl rfl)
theorem dX11_asked_208 : decode cX11_asked 208 = .ok (.iload_n 2, 1) := dk_28 (dk_at dksX11_asked_8 8 rfl rfl)
theorem dX11_asked_209 : decode cX11_asked 209 = .ok (.invokespecial 146, 3) := dk_183 0 146 (dk_at dksX11_asked_8 9 rfl rfl)
theorem dX11_asked_212 : decode cX11_asked 212 = .ok (.areturn, 1) := dk_176 (dk_at dksX11_asked_8 12 rfl rfl)
theorem dX11_asked_213 : decode cX11_asked 213 = .ok (.new 149, 3) := dk_187 0 149 (dk_at dksX11_asked_8 13 rfl rfl)
theorem dX11_asked_216 : decode cX11_asked 216 = .ok (.dup, 1) := dk_89 (dk_at dksX11_asked_8 16 rfl rfl)
theorem dX11_asked_217 : decode cX11_asked 217 = .ok (.aload_n 0, 1) := dk_42 (dk_at dksX11_asked_8 17 rfl rfl)
theorem dX11_asked_218 : decode cX11_asked 218 = .ok (.getfield 3, 3) := dk_180 0 3 (dk_at dksX11_asked_8 18 rfl rfl)
theorem dX11_asked_221 : decode cX11_asked 221 = .ok (.iload_n 2, 1) := dk_28 (dk_at dksX11_asked_8 21 rfl rfl)
theorem dX11_asked_222 : decode cX11_asked 222 = .ok (.invokespecial 151, 3) := dk_183 0 151 (dk_at dksX11_asked_9 0 rfl rfl)
theorem dX11_asked_225 : decode cX11_asked 225 = .ok (.areturn, 1) := dk_176 (dk_at dksX11_asked_9 3 rfl rfl)
theorem dX11_asked_226 : decode cX11_asked 226 = .ok (.new 152, 3) := dk_187 0 152 (dk_at dksX11_asked_9 4 rfl rfl)
theorem dX11_asked_229 : decode cX11_asked 229 = .ok (.dup, 1) := dk_89 (dk_at dksX11_asked_9 7 rfl rfl)
theorem dX11_asked_230 : decode cX11_asked 230 = .ok (.aload_n 0, 1) := dk_42 (dk_at dksX11_asked_9 8 rfl rfl)
theorem dX11_asked_231 : decode cX11_asked 231 = .ok (.getfield 3, 3) := dk_180 0 3 (dk_at dksX11_asked_9 9 rfl rfl)
theorem dX11_asked_234 : decode cX11_asked 234 = .ok (.iload_n 2, 1) := dk_28 (dk_at dksX11_asked_9 12 rfl rfl)
theorem dX11_asked_235 : decode cX11_asked 235 = .ok (.invokespecial 154, 3) := dk_183 0 154 (dk_at dksX11_asked_9 13 rfl rfl)
theorem dX11_asked_238 : decode cX11_asked 238 = .ok (.areturn, 1) := dk_176 (dk_at dksX11_asked_9 16 rfl rfl)
theorem dX11_asked_239 : decode cX11_asked 239 = .ok (.new 155, 3) := dk_187 0 155 (dk_at dksX11_asked_9 17 rfl rfl)
theorem dX11_asked_242 : decode cX11_asked 242 = .ok (.dup, 1) := dk_89 (dk_at dksX11_asked_9 20 rfl rfl)
theorem dX11_asked_243 : decode cX11_asked 243 = .ok (.aload_n 0, 1) := dk_42 (dk_at dksX11_asked_9 21 rfl rfl)
theorem dX11_asked_244 : decode cX11_asked 244 = .ok (.getfield 3, 3) := dk_180 0 3 (dk_at dksX11_asked_10 0 rfl rfl)
theorem dX11_asked_247 : decode cX11_asked 247 = .ok (.iload_n 2, 1) := dk_28 (dk_at dksX11_asked_10 3 rfl rfl)
theorem dX11_asked_248 : decode cX11_asked 248 = .ok (.invokespecial 157, 3) := dk_183 0 157 (dk_at dksX11_asked_10 4 rfl rfl)
theorem dX11_asked_251 : decode cX11_asked 251 = .ok (.areturn, 1) := dk_176 (dk_at dksX11_asked_10 7 rfl rfl)
theorem dX11_asked_252 : decode cX11_asked 252 = .ok (.new 158, 3) := dk_187 0 158 (dk_at dksX11_asked_10 8 rfl rfl)
theorem dX11_asked_255 : decode cX11_asked 255 = .ok (.dup, 1) := dk_89 (dk_at dksX11_asked_10 11 rfl rfl)
theorem dX11_asked_256 : decode cX11_asked 256 = .ok (.aload_n 0, 1) := dk_42 (dk_at dksX11_asked_10 12 rfl rfl)
theorem dX11_asked_257 : decode cX11_asked 257 = .ok (.getfield 3, 3) := dk_180 0 3 (dk_at dksX11_asked_10 13 rfl rfl)
theorem dX11_asked_260 : decode cX11_asked 260 = .ok (.iload_n 2, 1) := dk_28 (dk_at dksX11_asked_10 16 rfl rfl)
theorem dX11_asked_261 : decode cX11_asked 261 = .ok (.invokespecial 160, 3) := dk_183 0 160 (dk_at dksX11_asked_10 17 rfl rfl)
theorem dX11_asked_264 : decode cX11_asked 264 = .ok (.areturn, 1) := dk_176 (dk_at dksX11_asked_10 20 rfl rfl)
theorem q170 : (Jvm.Cond.initialized "WhatIfSheet$Reader") ∈ lw_all := lw_g (lw_at lw_m1 40 rfl) rfl
theorem q786 : (Jvm.Cond.selects "WhatIfSheet$Reader" ({ cls := "java/lang/Object", name := "equals", desc := "(Ljava/lang/Object;)Z" } : Jvm.MethodName) ({ cls := "java/lang/Object", name := "equals", desc := "(Ljava/lang/Object;)Z" } : Jvm.MethodName)) ∈ lw_all := lw_g (lw_at lw_m3 176 rfl) rfl
theorem q863 : (Jvm.Cond.selects "WhatIfSheet$Reader" ({ cls := "java/lang/Object", name := "getClass", desc := "()Ljava/lang/Class;" } : Jvm.MethodName) ({ cls := "java/lang/Object", name := "getClass", desc := "()Ljava/lang/Class;" } : Jvm.MethodName)) ∈ lw_all := lw_g (lw_at lw_m4 13 rfl) rfl
theorem q1229 : (Jvm.Cond.fieldLinkNest "WhatIfSheet$Reader" (44 : Nat) "WhatIfSheet" "tape" "[B" "WhatIfSheet") ∈ lw_tbl := lw_at lw_m5 139 rfl
theorem q1231 : (Jvm.Cond.fieldLinkNest "WhatIfSheet$Reader" (41 : Nat) "WhatIfSheet" "taped" "I" "WhatIfSheet") ∈ lw_tbl := lw_at lw_m5 141 rfl
theorem q1322 : (Jvm.Cond.instantiable "WhatIfSheet$Reader" (10 : Nat)) ∈ lw_all := lw_g (lw_at lw_m5 232 rfl) rfl
theorem q1324 : (Jvm.Cond.instanceMethod ({ cls := "WhatIfSheet$Reader", name := "<init>", desc := "(LWhatIfSheet;)V" } : Jvm.MethodName)) ∈ lw_all := lw_g (lw_at lw_m5 234 rfl) rfl
theorem q1325 : (Jvm.Cond.code ({ cls := "WhatIfSheet$Reader", name := "<init>", desc := "(LWhatIfSheet;)V" } : Jvm.MethodName) prog_22_method_1_code (2 : Nat) (Option.none : Option Jvm.ClassFile.FieldType)) ∈ lw_all := lw_g (lw_at lw_m5 235 rfl) rfl
theorem q1326 : (Jvm.Cond.methodLink "WhatIfSheet$Reader" (9 : Nat) ({ cls := "java/lang/Object", name := "<init>", desc := "()V" } : Jvm.MethodName)) ∈ lw_all := lw_g (lw_at lw_m5 236 rfl) rfl
theorem q1327 : (Jvm.Cond.classLink "WhatIfSheet$Reader" (15 : Nat) "java/util/BitSet") ∈ lw_all := lw_g (lw_at lw_m5 237 rfl) rfl
theorem q1328 : (Jvm.Cond.methodLink "WhatIfSheet$Reader" (17 : Nat) ({ cls := "java/util/BitSet", name := "<init>", desc := "(I)V" } : Jvm.MethodName)) ∈ lw_all := lw_g (lw_at lw_m5 238 rfl) rfl
theorem q1329 : (Jvm.Cond.classLink "WhatIfSheet$Reader" (24 : Nat) "java/util/LinkedList") ∈ lw_all := lw_g (lw_at lw_m5 239 rfl) rfl
theorem q1330 : (Jvm.Cond.methodLink "WhatIfSheet$Reader" (26 : Nat) ({ cls := "java/util/LinkedList", name := "<init>", desc := "()V" } : Jvm.MethodName)) ∈ lw_all := lw_g (lw_at lw_m6 0 rfl) rfl
theorem q1358 : (Jvm.Cond.fieldLink "WhatIfSheet$Reader" (38 : Nat) "WhatIfSheet$Reader" "at" "I") ∈ lw_all := lw_g (lw_at lw_m6 28 rfl) rfl
theorem q1359 : (Jvm.Cond.fieldLink "WhatIfSheet$Reader" (33 : Nat) "WhatIfSheet$Reader" "from" "I") ∈ lw_all := lw_g (lw_at lw_m6 29 rfl) rfl
theorem q1360 : (Jvm.Cond.fieldLink "WhatIfSheet$Reader" (118 : Nat) "WhatIfSheet$Reader" "open" "I") ∈ lw_all := lw_g (lw_at lw_m6 30 rfl) rfl
theorem q1361 : (Jvm.Cond.fieldLink "WhatIfSheet$Reader" (52 : Nat) "WhatIfSheet$Reader" "word" "Ljava/lang/String;") ∈ lw_all := lw_g (lw_at lw_m6 31 rfl) rfl
theorem q1362 : (Jvm.Cond.fieldLink "WhatIfSheet$Reader" (56 : Nat) "WhatIfSheet$Reader" "number" "I") ∈ lw_all := lw_g (lw_at lw_m6 32 rfl) rfl
theorem q1363 : (Jvm.Cond.fieldLink "WhatIfSheet$Reader" (59 : Nat) "WhatIfSheet$Reader" "sign" "I") ∈ lw_all := lw_g (lw_at lw_m6 33 rfl) rfl
theorem q1364 : (Jvm.Cond.fieldLink "WhatIfSheet$Reader" (107 : Nat) "WhatIfSheet$Reader" "isPlainNumber" "Z") ∈ lw_all := lw_g (lw_at lw_m6 34 rfl) rfl
theorem q1365 : (Jvm.Cond.fieldLink "WhatIfSheet$Reader" (20 : Nat) "WhatIfSheet$Reader" "names" "Ljava/util/BitSet;") ∈ lw_all := lw_g (lw_at lw_m6 35 rfl) rfl
theorem q1366 : (Jvm.Cond.fieldLink "WhatIfSheet$Reader" (27 : Nat) "WhatIfSheet$Reader" "asks" "Ljava/util/LinkedList;") ∈ lw_all := lw_g (lw_at lw_m6 36 rfl) rfl
theorem q1367 : (Jvm.Cond.fieldLink "WhatIfSheet$Reader" (3 : Nat) "WhatIfSheet$Reader" "this$0" "LWhatIfSheet;") ∈ lw_all := lw_g (lw_at lw_m6 37 rfl) rfl
theorem q1368 : (Jvm.Cond.lays "WhatIfSheet$Reader" "WhatIfSheet$Reader" "at" "I") ∈ lw_all := lw_g (lw_at lw_m6 38 rfl) rfl
theorem q1369 : (Jvm.Cond.soleField "WhatIfSheet$Reader" "at") ∈ lw_all := lw_g (lw_at lw_m6 39 rfl) rfl
theorem q1370 : (Jvm.Cond.lays "WhatIfSheet$Reader" "WhatIfSheet$Reader" "from" "I") ∈ lw_all := lw_g (lw_at lw_m6 40 rfl) rfl
theorem q1371 : (Jvm.Cond.soleField "WhatIfSheet$Reader" "from") ∈ lw_all := lw_g (lw_at lw_m6 41 rfl) rfl
theorem q1372 : (Jvm.Cond.lays "WhatIfSheet$Reader" "WhatIfSheet$Reader" "open" "I") ∈ lw_all := lw_g (lw_at lw_m6 42 rfl) rfl
theorem q1373 : (Jvm.Cond.soleField "WhatIfSheet$Reader" "open") ∈ lw_all := lw_g (lw_at lw_m6 43 rfl) rfl
theorem q1374 : (Jvm.Cond.lays "WhatIfSheet$Reader" "WhatIfSheet$Reader" "word" "Ljava/lang/String;") ∈ lw_all := lw_g (lw_at lw_m6 44 rfl) rfl
theorem q1375 : (Jvm.Cond.soleField "WhatIfSheet$Reader" "word") ∈ lw_all := lw_g (lw_at lw_m6 45 rfl) rfl
theorem q1376 : (Jvm.Cond.lays "WhatIfSheet$Reader" "WhatIfSheet$Reader" "number" "I") ∈ lw_all := lw_g (lw_at lw_m6 46 rfl) rfl
theorem q1377 : (Jvm.Cond.soleField "WhatIfSheet$Reader" "number") ∈ lw_all := lw_g (lw_at lw_m6 47 rfl) rfl
theorem q1378 : (Jvm.Cond.lays "WhatIfSheet$Reader" "WhatIfSheet$Reader" "sign" "I") ∈ lw_all := lw_g (lw_at lw_m6 48 rfl) rfl
theorem q1379 : (Jvm.Cond.soleField "WhatIfSheet$Reader" "sign") ∈ lw_all := lw_g (lw_at lw_m6 49 rfl) rfl
theorem q1380 : (Jvm.Cond.lays "WhatIfSheet$Reader" "WhatIfSheet$Reader" "isPlainNumber" "Z") ∈ lw_all := lw_g (lw_at lw_m6 50 rfl) rfl
theorem q1381 : (Jvm.Cond.soleField "WhatIfSheet$Reader" "isPlainNumber") ∈ lw_all := lw_g (lw_at lw_m6 51 rfl) rfl
theorem q1382 : (Jvm.Cond.laysFinal "WhatIfSheet$Reader" "WhatIfSheet$Reader" "names" "Ljava/util/BitSet;") ∈ lw_all := lw_g (lw_at lw_m6 52 rfl) rfl
theorem q1383 : (Jvm.Cond.soleField "WhatIfSheet$Reader" "names") ∈ lw_all := lw_g (lw_at lw_m6 53 rfl) rfl
theorem q1384 : (Jvm.Cond.laysFinal "WhatIfSheet$Reader" "WhatIfSheet$Reader" "asks" "Ljava/util/LinkedList;") ∈ lw_all := lw_g (lw_at lw_m6 54 rfl) rfl
theorem q1385 : (Jvm.Cond.soleField "WhatIfSheet$Reader" "asks") ∈ lw_all := lw_g (lw_at lw_m6 55 rfl) rfl
theorem q1386 : (Jvm.Cond.laysFinal "WhatIfSheet$Reader" "WhatIfSheet$Reader" "this$0" "LWhatIfSheet;") ∈ lw_all := lw_g (lw_at lw_m6 56 rfl) rfl
theorem q1387 : (Jvm.Cond.soleField "WhatIfSheet$Reader" "this$0") ∈ lw_all := lw_g (lw_at lw_m6 57 rfl) rfl
theorem q1388 : (Jvm.Cond.superclass "WhatIfSheet$Reader" "java/lang/Object") ∈ lw_all := lw_g (lw_at lw_m6 58 rfl) rfl
theorem q1390 : (Jvm.Cond.instanceMethod ({ cls := "WhatIfSheet$Reader", name := "whole", desc := "()LWhatIfSheet$Formula;" } : Jvm.MethodName)) ∈ lw_all := lw_g (lw_at lw_m6 60 rfl) rfl
theorem q1391 : (Jvm.Cond.selects "WhatIfSheet$Reader" ({ cls := "WhatIfSheet$Reader", name := "whole", desc := "()LWhatIfSheet$Formula;" } : Jvm.MethodName) ({ cls := "WhatIfSheet$Reader", name := "whole", desc := "()LWhatIfSheet$Formula;" } : Jvm.MethodName)) ∈ lw_all := lw_g (lw_at lw_m6 61 rfl) rfl
theorem q1392 : (Jvm.Cond.code ({ cls := "WhatIfSheet$Reader", name := "whole", desc := "()LWhatIfSheet$Formula;" } : Jvm.MethodName) prog_22_method_21_code (2 : Nat) (Option.some (Jvm.ClassFile.FieldType.object "WhatIfSheet$Formula"))) ∈ lw_all := lw_g (lw_at lw_m6 62 rfl) rfl
theorem q1393 : (Jvm.Cond.methodLink "WhatIfSheet$Reader" (115 : Nat) ({ cls := "WhatIfSheet$Reader", name := "next", desc := "()V" } : Jvm.MethodName)) ∈ lw_all := lw_g (lw_at lw_m6 63 rfl) rfl
theorem q1394 : (Jvm.Cond.privateMethod ({ cls := "WhatIfSheet$Reader", name := "next", desc := "()V" } : Jvm.MethodName)) ∈ lw_tbl := lw_at lw_m6 64 rfl
theorem q1395 : (Jvm.Cond.instanceMethod ({ cls := "WhatIfSheet$Reader", name := "next", desc := "()V" } : Jvm.MethodName)) ∈ lw_all := lw_g (lw_at lw_m6 65 rfl) rfl
theorem q1396 : (Jvm.Cond.code ({ cls := "WhatIfSheet$Reader", name := "next", desc := "()V" } : Jvm.MethodName) prog_22_method_4_code (1 : Nat) (Option.none : Option Jvm.ClassFile.FieldType)) ∈ lw_all := lw_g (lw_at lw_m6 66 rfl) rfl
theorem q1397 : (Jvm.Cond.methodLink "WhatIfSheet$Reader" (48 : Nat) ({ cls := "WhatIfSheet$Reader", name := "here", desc := "()I" } : Jvm.MethodName)) ∈ lw_all := lw_g (lw_at lw_m6 67 rfl) rfl
theorem q1398 : (Jvm.Cond.privateMethod ({ cls := "WhatIfSheet$Reader", name := "here", desc := "()I" } : Jvm.MethodName)) ∈ lw_tbl := lw_at lw_m6 68 rfl
theorem q1399 : (Jvm.Cond.instanceMethod ({ cls := "WhatIfSheet$Reader", name := "here", desc := "()I" } : Jvm.MethodName)) ∈ lw_all := lw_g (lw_at lw_m6 69 rfl) rfl
theorem q1400 : (Jvm.Cond.code ({ cls := "WhatIfSheet$Reader", name := "here", desc := "()I" } : Jvm.MethodName) prog_22_method_3_code (1 : Nat) (Option.some Jvm.ClassFile.FieldType.int)) ∈ lw_all := lw_g (lw_at lw_m6 70 rfl) rfl
theorem q1401 : (Jvm.Cond.constantLong "WhatIfSheet$Reader" (62 : Nat) (97 : Int64)) ∈ lw_all := lw_g (lw_at lw_m6 71 rfl) rfl
theorem q1402 : (Jvm.Cond.constantLong "WhatIfSheet$Reader" (64 : Nat) (122 : Int64)) ∈ lw_all := lw_g (lw_at lw_m6 72 rfl) rfl
theorem q1403 : (Jvm.Cond.methodLinkNest "WhatIfSheet$Reader" (66 : Nat) ({ cls := "WhatIfSheet", name := "in", desc := "(JJJ)Z" } : Jvm.MethodName) "WhatIfSheet") ∈ lw_tbl := lw_at lw_m6 73 rfl
theorem q1404 : (Jvm.Cond.methodLink "WhatIfSheet$Reader" (70 : Nat) ({ cls := "WhatIfSheet$Reader", name := "word", desc := "()V" } : Jvm.MethodName)) ∈ lw_all := lw_g (lw_at lw_m6 74 rfl) rfl
theorem q1405 : (Jvm.Cond.privateMethod ({ cls := "WhatIfSheet$Reader", name := "word", desc := "()V" } : Jvm.MethodName)) ∈ lw_tbl := lw_at lw_m6 75 rfl
theorem q1406 : (Jvm.Cond.instanceMethod ({ cls := "WhatIfSheet$Reader", name := "word", desc := "()V" } : Jvm.MethodName)) ∈ lw_all := lw_g (lw_at lw_m6 76 rfl) rfl
theorem q1407 : (Jvm.Cond.code ({ cls := "WhatIfSheet$Reader", name := "word", desc := "()V" } : Jvm.MethodName) prog_22_method_5_code (2 : Nat) (Option.none : Option Jvm.ClassFile.FieldType)) ∈ lw_all := lw_g (lw_at lw_m6 77 rfl) rfl
theorem q1408 : (Jvm.Cond.classLink "WhatIfSheet$Reader" (90 : Nat) "java/lang/StringBuilder") ∈ lw_all := lw_g (lw_at lw_m6 78 rfl) rfl
theorem q1409 : (Jvm.Cond.methodLink "WhatIfSheet$Reader" (92 : Nat) ({ cls := "java/lang/StringBuilder", name := "<init>", desc := "(I)V" } : Jvm.MethodName)) ∈ lw_all := lw_g (lw_at lw_m6 79 rfl) rfl
theorem q1412 : (Jvm.Cond.methodLink "WhatIfSheet$Reader" (93 : Nat) ({ cls := "java/lang/StringBuilder", name := "length", desc := "()I" } : Jvm.MethodName)) ∈ lw_all := lw_g (lw_at lw_m6 82 rfl) rfl
theorem q1413 : (Jvm.Cond.methodLink "WhatIfSheet$Reader" (96 : Nat) ({ cls := "java/lang/StringBuilder", name := "append", desc := "(C)Ljava/lang/StringBuilder;" } : Jvm.MethodName)) ∈ lw_all := lw_g (lw_at lw_m6 83 rfl) rfl
theorem q1435 : (Jvm.Cond.methodLink "WhatIfSheet$Reader" (100 : Nat) ({ cls := "java/lang/StringBuilder", name := "toString", desc := "()Ljava/lang/String;" } : Jvm.MethodName)) ∈ lw_all := lw_g (lw_at lw_m6 105 rfl) rfl
theorem q1436 : (Jvm.Cond.constantLong "WhatIfSheet$Reader" (72 : Nat) (48 : Int64)) ∈ lw_all := lw_g (lw_at lw_m6 106 rfl) rfl
theorem q1437 : (Jvm.Cond.constantLong "WhatIfSheet$Reader" (74 : Nat) (57 : Int64)) ∈ lw_all := lw_g (lw_at lw_m6 107 rfl) rfl
theorem q1438 : (Jvm.Cond.methodLink "WhatIfSheet$Reader" (76 : Nat) ({ cls := "WhatIfSheet$Reader", name := "number", desc := "()V" } : Jvm.MethodName)) ∈ lw_all := lw_g (lw_at lw_m6 108 rfl) rfl
theorem q1439 : (Jvm.Cond.privateMethod ({ cls := "WhatIfSheet$Reader", name := "number", desc := "()V" } : Jvm.MethodName)) ∈ lw_tbl := lw_at lw_m6 109 rfl
theorem q1440 : (Jvm.Cond.instanceMethod ({ cls := "WhatIfSheet$Reader", name := "number", desc := "()V" } : Jvm.MethodName)) ∈ lw_all := lw_g (lw_at lw_m6 110 rfl) rfl
theorem q1441 : (Jvm.Cond.code ({ cls := "WhatIfSheet$Reader", name := "number", desc := "()V" } : Jvm.MethodName) prog_22_method_7_code (1 : Nat) (Option.none : Option Jvm.ClassFile.FieldType)) ∈ lw_all := lw_g (lw_at lw_m6 111 rfl) rfl
theorem q1442 : (Jvm.Cond.methodLink "WhatIfSheet$Reader" (104 : Nat) ({ cls := "WhatIfSheet$Reader", name := "digits", desc := "(I)I" } : Jvm.MethodName)) ∈ lw_all := lw_g (lw_at lw_m6 112 rfl) rfl
theorem q1443 : (Jvm.Cond.privateMethod ({ cls := "WhatIfSheet$Reader", name := "digits", desc := "(I)I" } : Jvm.MethodName)) ∈ lw_tbl := lw_at lw_m6 113 rfl
theorem q1444 : (Jvm.Cond.instanceMethod ({ cls := "WhatIfSheet$Reader", name := "digits", desc := "(I)I" } : Jvm.MethodName)) ∈ lw_all := lw_g (lw_at lw_m6 114 rfl) rfl
theorem q1445 : (Jvm.Cond.code ({ cls := "WhatIfSheet$Reader", name := "digits", desc := "(I)I" } : Jvm.MethodName) prog_22_method_6_code (4 : Nat) (Option.some Jvm.ClassFile.FieldType.int)) ∈ lw_all := lw_g (lw_at lw_m6 115 rfl) rfl
theorem q1446 : (Jvm.Cond.methodLink "WhatIfSheet$Reader" (86 : Nat) ({ cls := "WhatIfSheet$Reader", name := "fault", desc := "()LWhatIfSheet$Fault;" } : Jvm.MethodName)) ∈ lw_all := lw_g (lw_at lw_m6 116 rfl) rfl
theorem q1447 : (Jvm.Cond.privateMethod ({ cls := "WhatIfSheet$Reader", name := "fault", desc := "()LWhatIfSheet$Fault;" } : Jvm.MethodName)) ∈ lw_tbl := lw_at lw_m6 117 rfl
theorem q1448 : (Jvm.Cond.instanceMethod ({ cls := "WhatIfSheet$Reader", name := "fault", desc := "()LWhatIfSheet$Fault;" } : Jvm.MethodName)) ∈ lw_all := lw_g (lw_at lw_m6 118 rfl) rfl
theorem q1449 : (Jvm.Cond.code ({ cls := "WhatIfSheet$Reader", name := "fault", desc := "()LWhatIfSheet$Fault;" } : Jvm.MethodName) prog_22_method_2_code (1 : Nat) (Option.some (Jvm.ClassFile.FieldType.object "WhatIfSheet$Fault"))) ∈ lw_all := lw_g (lw_at lw_m6 119 rfl) rfl
theorem q1450 : (Jvm.Cond.classLink "WhatIfSheet$Reader" (31 : Nat) "WhatIfSheet$Fault") ∈ lw_all := lw_g (lw_at lw_m6 120 rfl) rfl
theorem q1459 : (Jvm.Cond.methodLink "WhatIfSheet$Reader" (37 : Nat) ({ cls := "WhatIfSheet$Fault", name := "<init>", desc := "(I)V" } : Jvm.MethodName)) ∈ lw_all := lw_g (lw_at lw_m6 129 rfl) rfl
theorem q1472 : (Jvm.Cond.stringRef "WhatIfSheet$Reader" (78 : Nat) "(),+-*/%<=") ∈ lw_tbl := lw_at lw_m6 142 rfl
theorem q1473 : (Jvm.Cond.methodLink "WhatIfSheet$Reader" (80 : Nat) ({ cls := "java/lang/String", name := "indexOf", desc := "(I)I" } : Jvm.MethodName)) ∈ lw_all := lw_g (lw_at lw_m6 143 rfl) rfl
theorem q1523 : (Jvm.Cond.methodLink "WhatIfSheet$Reader" (164 : Nat) ({ cls := "WhatIfSheet$Reader", name := "even", desc := "()LWhatIfSheet$Node;" } : Jvm.MethodName)) ∈ lw_all := lw_g (lw_at lw_m6 193 rfl) rfl
theorem q1524 : (Jvm.Cond.privateMethod ({ cls := "WhatIfSheet$Reader", name := "even", desc := "()LWhatIfSheet$Node;" } : Jvm.MethodName)) ∈ lw_tbl := lw_at lw_m6 194 rfl
theorem q1525 : (Jvm.Cond.instanceMethod ({ cls := "WhatIfSheet$Reader", name := "even", desc := "()LWhatIfSheet$Node;" } : Jvm.MethodName)) ∈ lw_all := lw_g (lw_at lw_m6 195 rfl) rfl
theorem q1526 : (Jvm.Cond.code ({ cls := "WhatIfSheet$Reader", name := "even", desc := "()LWhatIfSheet$Node;" } : Jvm.MethodName) prog_22_method_20_code (3 : Nat) (Option.some (Jvm.ClassFile.FieldType.object "WhatIfSheet$Node"))) ∈ lw_all := lw_g (lw_at lw_m6 196 rfl) rfl
theorem q1527 : (Jvm.Cond.methodLink "WhatIfSheet$Reader" (256 : Nat) ({ cls := "WhatIfSheet$Reader", name := "sum", desc := "()LWhatIfSheet$Node;" } : Jvm.MethodName)) ∈ lw_all := lw_g (lw_at lw_m6 197 rfl) rfl
theorem q1528 : (Jvm.Cond.privateMethod ({ cls := "WhatIfSheet$Reader", name := "sum", desc := "()LWhatIfSheet$Node;" } : Jvm.MethodName)) ∈ lw_tbl := lw_at lw_m6 198 rfl
theorem q1529 : (Jvm.Cond.instanceMethod ({ cls := "WhatIfSheet$Reader", name := "sum", desc := "()LWhatIfSheet$Node;" } : Jvm.MethodName)) ∈ lw_all := lw_g (lw_at lw_m6 199 rfl) rfl
theorem q1530 : (Jvm.Cond.code ({ cls := "WhatIfSheet$Reader", name := "sum", desc := "()LWhatIfSheet$Node;" } : Jvm.MethodName) prog_22_method_19_code (4 : Nat) (Option.some (Jvm.ClassFile.FieldType.object "WhatIfSheet$Node"))) ∈ lw_all := lw_g (lw_at lw_m6 200 rfl) rfl
theorem q1531 : (Jvm.Cond.methodLink "WhatIfSheet$Reader" (249 : Nat) ({ cls := "WhatIfSheet$Reader", name := "term", desc := "()LWhatIfSheet$Node;" } : Jvm.MethodName)) ∈ lw_all := lw_g (lw_at lw_m6 201 rfl) rfl
theorem q1532 : (Jvm.Cond.privateMethod ({ cls := "WhatIfSheet$Reader", name := "term", desc := "()LWhatIfSheet$Node;" } : Jvm.MethodName)) ∈ lw_tbl := lw_at lw_m6 202 rfl
theorem q1533 : (Jvm.Cond.instanceMethod ({ cls := "WhatIfSheet$Reader", name := "term", desc := "()LWhatIfSheet$Node;" } : Jvm.MethodName)) ∈ lw_all := lw_g (lw_at lw_m6 203 rfl) rfl
theorem q1534 : (Jvm.Cond.code ({ cls := "WhatIfSheet$Reader", name := "term", desc := "()LWhatIfSheet$Node;" } : Jvm.MethodName) prog_22_method_18_code (4 : Nat) (Option.some (Jvm.ClassFile.FieldType.object "WhatIfSheet$Node"))) ∈ lw_all := lw_g (lw_at lw_m6 204 rfl) rfl
theorem q1535 : (Jvm.Cond.methodLink "WhatIfSheet$Reader" (234 : Nat) ({ cls := "WhatIfSheet$Reader", name := "one", desc := "()LWhatIfSheet$Node;" } : Jvm.MethodName)) ∈ lw_all := lw_g (lw_at lw_m6 205 rfl) rfl
theorem q1536 : (Jvm.Cond.privateMethod ({ cls := "WhatIfSheet$Reader", name := "one", desc := "()LWhatIfSheet$Node;" } : Jvm.MethodName)) ∈ lw_tbl := lw_at lw_m6 206 rfl
theorem q1537 : (Jvm.Cond.instanceMethod ({ cls := "WhatIfSheet$Reader", name := "one", desc := "()LWhatIfSheet$Node;" } : Jvm.MethodName)) ∈ lw_all := lw_g (lw_at lw_m6 207 rfl) rfl
theorem q1538 : (Jvm.Cond.code ({ cls := "WhatIfSheet$Reader", name := "one", desc := "()LWhatIfSheet$Node;" } : Jvm.MethodName) prog_22_method_17_code (3 : Nat) (Option.some (Jvm.ClassFile.FieldType.object "WhatIfSheet$Node"))) ∈ lw_all := lw_g (lw_at lw_m6 208 rfl) rfl
theorem q1539 : (Jvm.Cond.methodLink "WhatIfSheet$Reader" (224 : Nat) ({ cls := "WhatIfSheet$Reader", name := "named", desc := "()LWhatIfSheet$Node;" } : Jvm.MethodName)) ∈ lw_all := lw_g (lw_at lw_m6 209 rfl) rfl
theorem q1540 : (Jvm.Cond.privateMethod ({ cls := "WhatIfSheet$Reader", name := "named", desc := "()LWhatIfSheet$Node;" } : Jvm.MethodName)) ∈ lw_tbl := lw_at lw_m6 210 rfl
theorem q1541 : (Jvm.Cond.instanceMethod ({ cls := "WhatIfSheet$Reader", name := "named", desc := "()LWhatIfSheet$Node;" } : Jvm.MethodName)) ∈ lw_all := lw_g (lw_at lw_m6 211 rfl) rfl
theorem q1542 : (Jvm.Cond.code ({ cls := "WhatIfSheet$Reader", name := "named", desc := "()LWhatIfSheet$Node;" } : Jvm.MethodName) prog_22_method_16_code (2 : Nat) (Option.some (Jvm.ClassFile.FieldType.object "WhatIfSheet$Node"))) ∈ lw_all := lw_g (lw_at lw_m6 212 rfl) rfl
theorem q1543 : (Jvm.Cond.stringRef "WhatIfSheet$Reader" (187 : Nat) "pick") ∈ lw_tbl := lw_at lw_m6 213 rfl
theorem q1544 : (Jvm.Cond.methodLink "WhatIfSheet$Reader" (189 : Nat) ({ cls := "WhatIfSheet$Reader", name := "is", desc := "(Ljava/lang/String;)Z" } : Jvm.MethodName)) ∈ lw_all := lw_g (lw_at lw_m6 214 rfl) rfl
theorem q1545 : (Jvm.Cond.privateMethod ({ cls := "WhatIfSheet$Reader", name := "is", desc := "(Ljava/lang/String;)Z" } : Jvm.MethodName)) ∈ lw_tbl := lw_at lw_m6 215 rfl
theorem q1546 : (Jvm.Cond.instanceMethod ({ cls := "WhatIfSheet$Reader", name := "is", desc := "(Ljava/lang/String;)Z" } : Jvm.MethodName)) ∈ lw_all := lw_g (lw_at lw_m6 216 rfl) rfl
theorem q1547 : (Jvm.Cond.code ({ cls := "WhatIfSheet$Reader", name := "is", desc := "(Ljava/lang/String;)Z" } : Jvm.MethodName) prog_22_method_8_code (2 : Nat) (Option.some Jvm.ClassFile.FieldType.boolean)) ∈ lw_all := lw_g (lw_at lw_m6 217 rfl) rfl
theorem q1548 : (Jvm.Cond.methodLink "WhatIfSheet$Reader" (111 : Nat) ({ cls := "java/lang/String", name := "equals", desc := "(Ljava/lang/Object;)Z" } : Jvm.MethodName)) ∈ lw_all := lw_g (lw_at lw_m6 218 rfl) rfl
theorem q1549 : (Jvm.Cond.methodLink "WhatIfSheet$Reader" (193 : Nat) ({ cls := "WhatIfSheet$Reader", name := "pick", desc := "()LWhatIfSheet$Node;" } : Jvm.MethodName)) ∈ lw_all := lw_g (lw_at lw_m6 219 rfl) rfl
theorem q1550 : (Jvm.Cond.privateMethod ({ cls := "WhatIfSheet$Reader", name := "pick", desc := "()LWhatIfSheet$Node;" } : Jvm.MethodName)) ∈ lw_tbl := lw_at lw_m6 220 rfl
theorem q1551 : (Jvm.Cond.instanceMethod ({ cls := "WhatIfSheet$Reader", name := "pick", desc := "()LWhatIfSheet$Node;" } : Jvm.MethodName)) ∈ lw_all := lw_g (lw_at lw_m6 221 rfl) rfl
theorem q1552 : (Jvm.Cond.code ({ cls := "WhatIfSheet$Reader", name := "pick", desc := "()LWhatIfSheet$Node;" } : Jvm.MethodName) prog_22_method_14_code (4 : Nat) (Option.some (Jvm.ClassFile.FieldType.object "WhatIfSheet$Node"))) ∈ lw_all := lw_g (lw_at lw_m6 222 rfl) rfl
theorem q1553 : (Jvm.Cond.methodLink "WhatIfSheet$Reader" (161 : Nat) ({ cls := "WhatIfSheet$Reader", name := "opensRound", desc := "()V" } : Jvm.MethodName)) ∈ lw_all := lw_g (lw_at lw_m6 223 rfl) rfl
theorem q1554 : (Jvm.Cond.privateMethod ({ cls := "WhatIfSheet$Reader", name := "opensRound", desc := "()V" } : Jvm.MethodName)) ∈ lw_tbl := lw_at lw_m6 224 rfl
theorem q1555 : (Jvm.Cond.instanceMethod ({ cls := "WhatIfSheet$Reader", name := "opensRound", desc := "()V" } : Jvm.MethodName)) ∈ lw_all := lw_g (lw_at lw_m6 225 rfl) rfl
theorem q1556 : (Jvm.Cond.code ({ cls := "WhatIfSheet$Reader", name := "opensRound", desc := "()V" } : Jvm.MethodName) prog_22_method_11_code (1 : Nat) (Option.none : Option Jvm.ClassFile.FieldType)) ∈ lw_all := lw_g (lw_at lw_m6 226 rfl) rfl
theorem q1557 : (Jvm.Cond.methodLink "WhatIfSheet$Reader" (121 : Nat) ({ cls := "WhatIfSheet$Reader", name := "opens", desc := "()V" } : Jvm.MethodName)) ∈ lw_all := lw_g (lw_at lw_m6 227 rfl) rfl
theorem q1558 : (Jvm.Cond.privateMethod ({ cls := "WhatIfSheet$Reader", name := "opens", desc := "()V" } : Jvm.MethodName)) ∈ lw_tbl := lw_at lw_m6 228 rfl
theorem q1559 : (Jvm.Cond.instanceMethod ({ cls := "WhatIfSheet$Reader", name := "opens", desc := "()V" } : Jvm.MethodName)) ∈ lw_all := lw_g (lw_at lw_m6 229 rfl) rfl
theorem q1560 : (Jvm.Cond.code ({ cls := "WhatIfSheet$Reader", name := "opens", desc := "()V" } : Jvm.MethodName) prog_22_method_10_code (1 : Nat) (Option.none : Option Jvm.ClassFile.FieldType)) ∈ lw_all := lw_g (lw_at lw_m6 230 rfl) rfl
theorem q1561 : (Jvm.Cond.methodLink "WhatIfSheet$Reader" (168 : Nat) ({ cls := "WhatIfSheet$Reader", name := "takes", desc := "(I)V" } : Jvm.MethodName)) ∈ lw_all := lw_g (lw_at lw_m6 231 rfl) rfl
theorem q1562 : (Jvm.Cond.privateMethod ({ cls := "WhatIfSheet$Reader", name := "takes", desc := "(I)V" } : Jvm.MethodName)) ∈ lw_tbl := lw_at lw_m6 232 rfl
theorem q1563 : (Jvm.Cond.instanceMethod ({ cls := "WhatIfSheet$Reader", name := "takes", desc := "(I)V" } : Jvm.MethodName)) ∈ lw_all := lw_g (lw_at lw_m6 233 rfl) rfl
theorem q1564 : (Jvm.Cond.code ({ cls := "WhatIfSheet$Reader", name := "takes", desc := "(I)V" } : Jvm.MethodName) prog_22_method_9_code (2 : Nat) (Option.none : Option Jvm.ClassFile.FieldType)) ∈ lw_all := lw_g (lw_at lw_m6 234 rfl) rfl
theorem q1565 : (Jvm.Cond.methodLink "WhatIfSheet$Reader" (171 : Nat) ({ cls := "WhatIfSheet$Reader", name := "closes", desc := "()V" } : Jvm.MethodName)) ∈ lw_all := lw_g (lw_at lw_m6 235 rfl) rfl
theorem q1566 : (Jvm.Cond.privateMethod ({ cls := "WhatIfSheet$Reader", name := "closes", desc := "()V" } : Jvm.MethodName)) ∈ lw_tbl := lw_at lw_m6 236 rfl
theorem q1567 : (Jvm.Cond.instanceMethod ({ cls := "WhatIfSheet$Reader", name := "closes", desc := "()V" } : Jvm.MethodName)) ∈ lw_all := lw_g (lw_at lw_m6 237 rfl) rfl
theorem q1568 : (Jvm.Cond.code ({ cls := "WhatIfSheet$Reader", name := "closes", desc := "()V" } : Jvm.MethodName) prog_22_method_12_code (1 : Nat) (Option.none : Option Jvm.ClassFile.FieldType)) ∈ lw_all := lw_g (lw_at lw_m6 238 rfl) rfl
theorem q1569 : (Jvm.Cond.classLink "WhatIfSheet$Reader" (174 : Nat) "WhatIfSheet$Pick") ∈ lw_all := lw_g (lw_at lw_m6 239 rfl) rfl
theorem q1571 : (Jvm.Cond.methodLink "WhatIfSheet$Reader" (176 : Nat) ({ cls := "WhatIfSheet$Pick", name := "<init>", desc := "(LWhatIfSheet;LWhatIfSheet$Node;LWhatIfSheet$Node;LWhatIfSheet$Node;)V" } : Jvm.MethodName)) ∈ lw_all := lw_g (lw_at lw_m7 1 rfl) rfl
theorem q1594 : (Jvm.Cond.stringRef "WhatIfSheet$Reader" (195 : Nat) "min") ∈ lw_tbl := lw_at lw_m7 24 rfl
theorem q1595 : (Jvm.Cond.stringRef "WhatIfSheet$Reader" (197 : Nat) "max") ∈ lw_tbl := lw_at lw_m7 25 rfl
theorem q1596 : (Jvm.Cond.methodLink "WhatIfSheet$Reader" (199 : Nat) ({ cls := "WhatIfSheet$Reader", name := "two", desc := "(Z)LWhatIfSheet$Node;" } : Jvm.MethodName)) ∈ lw_all := lw_g (lw_at lw_m7 26 rfl) rfl
theorem q1597 : (Jvm.Cond.privateMethod ({ cls := "WhatIfSheet$Reader", name := "two", desc := "(Z)LWhatIfSheet$Node;" } : Jvm.MethodName)) ∈ lw_tbl := lw_at lw_m7 27 rfl
theorem q1598 : (Jvm.Cond.instanceMethod ({ cls := "WhatIfSheet$Reader", name := "two", desc := "(Z)LWhatIfSheet$Node;" } : Jvm.MethodName)) ∈ lw_all := lw_g (lw_at lw_m7 28 rfl) rfl
theorem q1599 : (Jvm.Cond.code ({ cls := "WhatIfSheet$Reader", name := "two", desc := "(Z)LWhatIfSheet$Node;" } : Jvm.MethodName) prog_22_method_15_code (4 : Nat) (Option.some (Jvm.ClassFile.FieldType.object "WhatIfSheet$Node"))) ∈ lw_all := lw_g (lw_at lw_m7 29 rfl) rfl
theorem q1600 : (Jvm.Cond.classLink "WhatIfSheet$Reader" (179 : Nat) "WhatIfSheet$Lesser") ∈ lw_all := lw_g (lw_at lw_m7 30 rfl) rfl
theorem q1602 : (Jvm.Cond.methodLink "WhatIfSheet$Reader" (181 : Nat) ({ cls := "WhatIfSheet$Lesser", name := "<init>", desc := "(LWhatIfSheet;LWhatIfSheet$Node;LWhatIfSheet$Node;)V" } : Jvm.MethodName)) ∈ lw_all := lw_g (lw_at lw_m7 32 rfl) rfl
theorem q1623 : (Jvm.Cond.classLink "WhatIfSheet$Reader" (184 : Nat) "WhatIfSheet$Greater") ∈ lw_all := lw_g (lw_at lw_m7 53 rfl) rfl
theorem q1625 : (Jvm.Cond.methodLink "WhatIfSheet$Reader" (186 : Nat) ({ cls := "WhatIfSheet$Greater", name := "<init>", desc := "(LWhatIfSheet;LWhatIfSheet$Node;LWhatIfSheet$Node;)V" } : Jvm.MethodName)) ∈ lw_all := lw_g (lw_at lw_m7 55 rfl) rfl
theorem q1638 : (Jvm.Cond.stringRef "WhatIfSheet$Reader" (136 : Nat) "sum") ∈ lw_tbl := lw_at lw_m7 68 rfl
theorem q1639 : (Jvm.Cond.stringRef "WhatIfSheet$Reader" (138 : Nat) "mean") ∈ lw_tbl := lw_at lw_m7 69 rfl
theorem q1640 : (Jvm.Cond.stringRef "WhatIfSheet$Reader" (140 : Nat) "least") ∈ lw_tbl := lw_at lw_m7 70 rfl
theorem q1641 : (Jvm.Cond.stringRef "WhatIfSheet$Reader" (142 : Nat) "most") ∈ lw_tbl := lw_at lw_m7 71 rfl
theorem q1642 : (Jvm.Cond.stringRef "WhatIfSheet$Reader" (203 : Nat) "fails") ∈ lw_tbl := lw_at lw_m7 72 rfl
theorem q1643 : (Jvm.Cond.methodLink "WhatIfSheet$Reader" (205 : Nat) ({ cls := "WhatIfSheet$Reader", name := "asked", desc := "(Ljava/lang/String;)LWhatIfSheet$Node;" } : Jvm.MethodName)) ∈ lw_all := lw_g (lw_at lw_m7 73 rfl) rfl
theorem q1644 : (Jvm.Cond.privateMethod ({ cls := "WhatIfSheet$Reader", name := "asked", desc := "(Ljava/lang/String;)LWhatIfSheet$Node;" } : Jvm.MethodName)) ∈ lw_tbl := lw_at lw_m7 74 rfl
theorem q1645 : (Jvm.Cond.instanceMethod ({ cls := "WhatIfSheet$Reader", name := "asked", desc := "(Ljava/lang/String;)LWhatIfSheet$Node;" } : Jvm.MethodName)) ∈ lw_all := lw_g (lw_at lw_m7 75 rfl) rfl
theorem q1646 : (Jvm.Cond.code ({ cls := "WhatIfSheet$Reader", name := "asked", desc := "(Ljava/lang/String;)LWhatIfSheet$Node;" } : Jvm.MethodName) prog_22_method_13_code (5 : Nat) (Option.some (Jvm.ClassFile.FieldType.object "WhatIfSheet$Node"))) ∈ lw_all := lw_g (lw_at lw_m7 76 rfl) rfl
theorem q1647 : (Jvm.Cond.methodLink "WhatIfSheet$Reader" (124 : Nat) ({ cls := "java/lang/Integer", name := "valueOf", desc := "(I)Ljava/lang/Integer;" } : Jvm.MethodName)) ∈ lw_all := lw_g (lw_at lw_m7 77 rfl) rfl
theorem q1648 : (Jvm.Cond.methodLink "WhatIfSheet$Reader" (130 : Nat) ({ cls := "java/util/LinkedList", name := "add", desc := "(Ljava/lang/Object;)Z" } : Jvm.MethodName)) ∈ lw_all := lw_g (lw_at lw_m7 78 rfl) rfl
theorem q1677 : (Jvm.Cond.methodLink "WhatIfSheet$Reader" (133 : Nat) ({ cls := "java/lang/String", name := "hashCode", desc := "()I" } : Jvm.MethodName)) ∈ lw_all := lw_g (lw_at lw_m7 107 rfl) rfl
theorem q1726 : (Jvm.Cond.classLink "WhatIfSheet$Reader" (144 : Nat) "WhatIfSheet$Asked") ∈ lw_all := lw_g (lw_at lw_m7 156 rfl) rfl
theorem q1728 : (Jvm.Cond.methodLink "WhatIfSheet$Reader" (146 : Nat) ({ cls := "WhatIfSheet$Asked", name := "<init>", desc := "(LWhatIfSheet;I)V" } : Jvm.MethodName)) ∈ lw_all := lw_g (lw_at lw_m7 158 rfl) rfl
theorem q1746 : (Jvm.Cond.classLink "WhatIfSheet$Reader" (149 : Nat) "WhatIfSheet$Mean") ∈ lw_all := lw_g (lw_at lw_m7 176 rfl) rfl
theorem q1748 : (Jvm.Cond.methodLink "WhatIfSheet$Reader" (151 : Nat) ({ cls := "WhatIfSheet$Mean", name := "<init>", desc := "(LWhatIfSheet;I)V" } : Jvm.MethodName)) ∈ lw_all := lw_g (lw_at lw_m7 178 rfl) rfl
theorem q1759 : (Jvm.Cond.classLink "WhatIfSheet$Reader" (152 : Nat) "WhatIfSheet$Least") ∈ lw_all := lw_g (lw_at lw_m7 189 rfl) rfl
theorem q1761 : (Jvm.Cond.methodLink "WhatIfSheet$Reader" (154 : Nat) ({ cls := "WhatIfSheet$Least", name := "<init>", desc := "(LWhatIfSheet;I)V" } : Jvm.MethodName)) ∈ lw_all := lw_g (lw_at lw_m7 191 rfl) rfl
theorem q1773 : (Jvm.Cond.classLink "WhatIfSheet$Reader" (155 : Nat) "WhatIfSheet$Most") ∈ lw_all := lw_g (lw_at lw_m7 203 rfl) rfl
theorem q1775 : (Jvm.Cond.methodLink "WhatIfSheet$Reader" (157 : Nat) ({ cls := "WhatIfSheet$Most", name := "<init>", desc := "(LWhatIfSheet;I)V" } : Jvm.MethodName)) ∈ lw_all := lw_g (lw_at lw_m7 205 rfl) rfl
theorem q1788 : (Jvm.Cond.classLink "WhatIfSheet$Reader" (158 : Nat) "WhatIfSheet$Fails") ∈ lw_all := lw_g (lw_at lw_m7 218 rfl) rfl
theorem q1790 : (Jvm.Cond.methodLink "WhatIfSheet$Reader" (160 : Nat) ({ cls := "WhatIfSheet$Fails", name := "<init>", desc := "(LWhatIfSheet;I)V" } : Jvm.MethodName)) ∈ lw_all := lw_g (lw_at lw_m7 220 rfl) rfl
theorem q1801 : (Jvm.Cond.methodLink "WhatIfSheet$Reader" (209 : Nat) ({ cls := "java/lang/String", name := "length", desc := "()I" } : Jvm.MethodName)) ∈ lw_all := lw_g (lw_at lw_m7 231 rfl) rfl
theorem q1802 : (Jvm.Cond.methodLink "WhatIfSheet$Reader" (210 : Nat) ({ cls := "java/lang/String", name := "charAt", desc := "(I)C" } : Jvm.MethodName)) ∈ lw_all := lw_g (lw_at lw_m7 232 rfl) rfl
theorem q1813 : (Jvm.Cond.methodLinkNest "WhatIfSheet$Reader" (214 : Nat) ({ cls := "WhatIfSheet", name := "isCell", desc := "(I)Z" } : Jvm.MethodName) "WhatIfSheet") ∈ lw_tbl := lw_at lw_m8 3 rfl
theorem q1814 : (Jvm.Cond.methodLink "WhatIfSheet$Reader" (218 : Nat) ({ cls := "java/util/BitSet", name := "set", desc := "(I)V" } : Jvm.MethodName)) ∈ lw_all := lw_g (lw_at lw_m8 4 rfl) rfl
theorem q1815 : (Jvm.Cond.classLink "WhatIfSheet$Reader" (221 : Nat) "WhatIfSheet$Named") ∈ lw_all := lw_g (lw_at lw_m8 5 rfl) rfl
theorem q1817 : (Jvm.Cond.methodLink "WhatIfSheet$Reader" (223 : Nat) ({ cls := "WhatIfSheet$Named", name := "<init>", desc := "(LWhatIfSheet;I)V" } : Jvm.MethodName)) ∈ lw_all := lw_g (lw_at lw_m8 7 rfl) rfl
theorem q1829 : (Jvm.Cond.constantDouble "WhatIfSheet$Reader" (227 : Nat) (4652007308841189376 : UInt64)) ∈ lw_all := lw_g (lw_at lw_m8 19 rfl) rfl
theorem q1830 : (Jvm.Cond.classLink "WhatIfSheet$Reader" (229 : Nat) "WhatIfSheet$Number1") ∈ lw_all := lw_g (lw_at lw_m8 20 rfl) rfl
theorem q1832 : (Jvm.Cond.methodLink "WhatIfSheet$Reader" (231 : Nat) ({ cls := "WhatIfSheet$Number1", name := "<init>", desc := "(LWhatIfSheet;D)V" } : Jvm.MethodName)) ∈ lw_all := lw_g (lw_at lw_m8 22 rfl) rfl
theorem q1844 : (Jvm.Cond.classLink "WhatIfSheet$Reader" (237 : Nat) "WhatIfSheet$Minus") ∈ lw_all := lw_g (lw_at lw_m8 34 rfl) rfl
theorem q1846 : (Jvm.Cond.methodLink "WhatIfSheet$Reader" (239 : Nat) ({ cls := "WhatIfSheet$Minus", name := "<init>", desc := "(LWhatIfSheet;LWhatIfSheet$Node;)V" } : Jvm.MethodName)) ∈ lw_all := lw_g (lw_at lw_m8 36 rfl) rfl
theorem q1858 : (Jvm.Cond.classLink "WhatIfSheet$Reader" (242 : Nat) "WhatIfSheet$Term") ∈ lw_all := lw_g (lw_at lw_m8 48 rfl) rfl
theorem q1860 : (Jvm.Cond.methodLink "WhatIfSheet$Reader" (244 : Nat) ({ cls := "WhatIfSheet$Term", name := "<init>", desc := "(LWhatIfSheet;LWhatIfSheet$Node;)V" } : Jvm.MethodName)) ∈ lw_all := lw_g (lw_at lw_m8 50 rfl) rfl
theorem q1884 : (Jvm.Cond.methodLink "WhatIfSheet$Reader" (245 : Nat) ({ cls := "WhatIfSheet$Term", name := "more", desc := "(ILWhatIfSheet$Node;)V" } : Jvm.MethodName)) ∈ lw_all := lw_g (lw_at lw_m8 74 rfl) rfl
theorem q1908 : (Jvm.Cond.classLink "WhatIfSheet$Reader" (252 : Nat) "WhatIfSheet$Sum") ∈ lw_all := lw_g (lw_at lw_m8 98 rfl) rfl
theorem q1910 : (Jvm.Cond.methodLink "WhatIfSheet$Reader" (254 : Nat) ({ cls := "WhatIfSheet$Sum", name := "<init>", desc := "(LWhatIfSheet;LWhatIfSheet$Node;)V" } : Jvm.MethodName)) ∈ lw_all := lw_g (lw_at lw_m8 100 rfl) rfl
theorem q1917 : (Jvm.Cond.methodLink "WhatIfSheet$Reader" (255 : Nat) ({ cls := "WhatIfSheet$Sum", name := "more", desc := "(ILWhatIfSheet$Node;)V" } : Jvm.MethodName)) ∈ lw_all := lw_g (lw_at lw_m8 107 rfl) rfl
theorem q1918 : (Jvm.Cond.classLink "WhatIfSheet$Reader" (258 : Nat) "WhatIfSheet$Compared") ∈ lw_all := lw_g (lw_at lw_m8 108 rfl) rfl
theorem q1920 : (Jvm.Cond.methodLink "WhatIfSheet$Reader" (260 : Nat) ({ cls := "WhatIfSheet$Compared", name := "<init>", desc := "(LWhatIfSheet;ZLWhatIfSheet$Node;LWhatIfSheet$Node;)V" } : Jvm.MethodName)) ∈ lw_all := lw_g (lw_at lw_m8 110 rfl) rfl
theorem q1935 : (Jvm.Cond.classLink "WhatIfSheet$Reader" (263 : Nat) "WhatIfSheet$Formula") ∈ lw_all := lw_g (lw_at lw_m8 125 rfl) rfl
theorem q1937 : (Jvm.Cond.methodLink "WhatIfSheet$Reader" (265 : Nat) ({ cls := "WhatIfSheet$Formula", name := "<init>", desc := "(LWhatIfSheet$Node;Ljava/util/BitSet;Ljava/util/LinkedList;)V" } : Jvm.MethodName)) ∈ lw_all := lw_g (lw_at lw_m8 127 rfl) rfl
theorem q3414 : (Jvm.Cond.castable "WhatIfSheet$Reader" "java/lang/Object") ∈ lw_tbl := lw_at lw_m14 164 rfl
theorem in_X11 : ∀ w ∈ wsX110, w ∈ lw_all := lw_in wsX110 [1368, 1370, 1372, 1374, 1376, 1378, 1380, 1382, 1384, 1386] (by decide +kernel) (by decide +kernel)
/-! WhatIfSheet$Fault -/
set_option maxRecDepth 100000
def RX12 : String := "WhatIfSheet$Fault"
def TX12 : u_T := fun k => match k with
  | 0 => ("java/lang/Throwable", "cause", "Ljava/lang/Throwable;", false)
  | 1 => ("java/lang/Throwable", "stackTrace", "[Ljava/lang/StackTraceElement;", false)
  | 2 => ("java/lang/Throwable", "suppressedExceptions", "Ljava/util/List;", false)
  | 3 => ("java/lang/Throwable", "detailMessage", "Ljava/lang/String;", false)
  | 4 => ("java/lang/Throwable", "backtrace", "Ljava/lang/Object;", false)
  | 5 => ("java/lang/Throwable", "depth", "I", false)
  | _ => ("WhatIfSheet$Fault", "place", "I", true)
def tyX12 : Nat → FieldType := fun k => match k with
  | 0 => .object "java/lang/Throwable"
  | 1 => .array (.object "java/lang/StackTraceElement")
  | 2 => .object "java/util/List"
  | 3 => .object "java/lang/String"
  | 4 => .object "java/lang/Object"
  | 5 => .int
  | _ => .int
abbrev wsX120 : List Cond := u_ws RX12 TX12 7
theorem nmX12 : ∀ a, a < 7 → ∀ b, b < 7 → a ≠ b → (TX12 a).2.1 ≠ (TX12 b).2.1 := by decide +kernel
theorem tyX12_ok : ∀ k, k < 7 → parseFieldDescriptor (TX12 k).2.2.1 = some (tyX12 k) := by decide +kernel
abbrev cX12_init : ByteArray := prog_8_method_1_code
def yX12_init : MethodName := ⟨RX12, "<init>", "(I)V"⟩
def dkwX12_init_0 : List UInt8 := [42, 1, 1, 3, 3, 183, 0, 1, 42, 27, 181, 0, 7, 177]
abbrev dktX12_init_0 : List UInt8 := dkwX12_init_0 ++ []
theorem dksX12_init_0 : cX12_init.data.toList.drop 0 = dktX12_init_0 := by decide +kernel
theorem dX12_init_0 : decode cX12_init 0 = .ok (.aload_n 0, 1) := dk_42 (dk_at dksX12_init_0 0 rfl rfl)
theorem dX12_init_1 : decode cX12_init 1 = .ok (.aconst_null, 1) := dk_1 (dk_at dksX12_init_0 1 rfl rfl)
theorem dX12_init_2 : decode cX12_init 2 = .ok (.aconst_null, 1) := dk_1 (dk_at dksX12_init_0 2 rfl rfl)
theorem dX12_init_3 : decode cX12_init 3 = .ok (.iconst 0, 1) := dk_3 (dk_at dksX12_init_0 3 rfl rfl)
theorem dX12_init_4 : decode cX12_init 4 = .ok (.iconst 0, 1) := dk_3 (dk_at dksX12_init_0 4 rfl rfl)
theorem dX12_init_5 : decode cX12_init 5 = .ok (.invokespecial 1, 3) := dk_183 0 1 (dk_at dksX12_init_0 5 rfl rfl)
theorem dX12_init_8 : decode cX12_init 8 = .ok (.aload_n 0, 1) := dk_42 (dk_at dksX12_init_0 8 rfl rfl)
theorem dX12_init_9 : decode cX12_init 9 = .ok (.iload_n 1, 1) := dk_27 (dk_at dksX12_init_0 9 rfl rfl)
theorem dX12_init_10 : decode cX12_init 10 = .ok (.putfield 7, 3) := dk_181 0 7 (dk_at dksX12_init_0 10 rfl rfl)
theorem dX12_init_13 : decode cX12_init 13 = .ok (.return_, 1) := dk_177 (dk_at dksX12_init_0 13 rfl rfl)
theorem q174 : (Jvm.Cond.initialized "WhatIfSheet$Fault") ∈ lw_all := lw_g (lw_at lw_m1 44 rfl) rfl
theorem q318 : (Jvm.Cond.selects "WhatIfSheet$Fault" ({ cls := "java/lang/Throwable", name := "fillInStackTrace", desc := "()Ljava/lang/Throwable;" } : Jvm.MethodName) ({ cls := "java/lang/Throwable", name := "fillInStackTrace", desc := "()Ljava/lang/Throwable;" } : Jvm.MethodName)) ∈ lw_all := lw_g (lw_at lw_m1 188 rfl) rfl
theorem q773 : (Jvm.Cond.selects "WhatIfSheet$Fault" ({ cls := "java/lang/Object", name := "equals", desc := "(Ljava/lang/Object;)Z" } : Jvm.MethodName) ({ cls := "java/lang/Object", name := "equals", desc := "(Ljava/lang/Object;)Z" } : Jvm.MethodName)) ∈ lw_all := lw_g (lw_at lw_m3 163 rfl) rfl
theorem q850 : (Jvm.Cond.selects "WhatIfSheet$Fault" ({ cls := "java/lang/Object", name := "getClass", desc := "()Ljava/lang/Class;" } : Jvm.MethodName) ({ cls := "java/lang/Object", name := "getClass", desc := "()Ljava/lang/Class;" } : Jvm.MethodName)) ∈ lw_all := lw_g (lw_at lw_m4 0 rfl) rfl
theorem q1105 : (Jvm.Cond.selects "WhatIfSheet$Fault" ({ cls := "java/lang/Throwable", name := "toString", desc := "()Ljava/lang/String;" } : Jvm.MethodName) ({ cls := "java/lang/Throwable", name := "toString", desc := "()Ljava/lang/String;" } : Jvm.MethodName)) ∈ lw_all := lw_g (lw_at lw_m5 15 rfl) rfl
theorem q1118 : (Jvm.Cond.selects "WhatIfSheet$Fault" ({ cls := "java/lang/Throwable", name := "getLocalizedMessage", desc := "()Ljava/lang/String;" } : Jvm.MethodName) ({ cls := "java/lang/Throwable", name := "getLocalizedMessage", desc := "()Ljava/lang/String;" } : Jvm.MethodName)) ∈ lw_all := lw_g (lw_at lw_m5 28 rfl) rfl
theorem q1130 : (Jvm.Cond.selects "WhatIfSheet$Fault" ({ cls := "java/lang/Throwable", name := "getMessage", desc := "()Ljava/lang/String;" } : Jvm.MethodName) ({ cls := "java/lang/Throwable", name := "getMessage", desc := "()Ljava/lang/String;" } : Jvm.MethodName)) ∈ lw_all := lw_g (lw_at lw_m5 40 rfl) rfl
theorem q1451 : (Jvm.Cond.instantiable "WhatIfSheet$Fault" (7 : Nat)) ∈ lw_all := lw_g (lw_at lw_m6 121 rfl) rfl
theorem q1452 : (Jvm.Cond.castable "WhatIfSheet$Fault" "WhatIfSheet$Fault") ∈ lw_tbl := lw_at lw_m6 122 rfl
theorem q1453 : (Jvm.Cond.selects "WhatIfSheet$Fault" ({ cls := "java/lang/Throwable", name := "fillInStackTrace", desc := "(I)Ljava/lang/Throwable;" } : Jvm.MethodName) ({ cls := "java/lang/Throwable", name := "fillInStackTrace", desc := "(I)Ljava/lang/Throwable;" } : Jvm.MethodName)) ∈ lw_all := lw_g (lw_at lw_m6 123 rfl) rfl
theorem q1454 : (Jvm.Cond.lays "WhatIfSheet$Fault" "java/lang/Throwable" "cause" "Ljava/lang/Throwable;") ∈ lw_all := lw_g (lw_at lw_m6 124 rfl) rfl
theorem q1455 : (Jvm.Cond.lays "WhatIfSheet$Fault" "java/lang/Throwable" "stackTrace" "[Ljava/lang/StackTraceElement;") ∈ lw_all := lw_g (lw_at lw_m6 125 rfl) rfl
theorem q1456 : (Jvm.Cond.lays "WhatIfSheet$Fault" "java/lang/Throwable" "suppressedExceptions" "Ljava/util/List;") ∈ lw_all := lw_g (lw_at lw_m6 126 rfl) rfl
theorem q1457 : (Jvm.Cond.lays "WhatIfSheet$Fault" "java/lang/Throwable" "detailMessage" "Ljava/lang/String;") ∈ lw_all := lw_g (lw_at lw_m6 127 rfl) rfl
theorem q1458 : (Jvm.Cond.lays "WhatIfSheet$Fault" "java/lang/Throwable" "backtrace" "Ljava/lang/Object;") ∈ lw_all := lw_g (lw_at lw_m6 128 rfl) rfl
theorem q1460 : (Jvm.Cond.instanceMethod ({ cls := "WhatIfSheet$Fault", name := "<init>", desc := "(I)V" } : Jvm.MethodName)) ∈ lw_all := lw_g (lw_at lw_m6 130 rfl) rfl
theorem q1461 : (Jvm.Cond.code ({ cls := "WhatIfSheet$Fault", name := "<init>", desc := "(I)V" } : Jvm.MethodName) prog_8_method_1_code (2 : Nat) (Option.none : Option Jvm.ClassFile.FieldType)) ∈ lw_all := lw_g (lw_at lw_m6 131 rfl) rfl
theorem q1462 : (Jvm.Cond.methodLink "WhatIfSheet$Fault" (1 : Nat) ({ cls := "java/lang/RuntimeException", name := "<init>", desc := "(Ljava/lang/String;Ljava/lang/Throwable;ZZ)V" } : Jvm.MethodName)) ∈ lw_all := lw_g (lw_at lw_m6 132 rfl) rfl
theorem q1466 : (Jvm.Cond.fieldLink "WhatIfSheet$Fault" (7 : Nat) "WhatIfSheet$Fault" "place" "I") ∈ lw_all := lw_g (lw_at lw_m6 136 rfl) rfl
theorem q1468 : (Jvm.Cond.laysFinal "WhatIfSheet$Fault" "WhatIfSheet$Fault" "place" "I") ∈ lw_all := lw_g (lw_at lw_m6 138 rfl) rfl
theorem q1469 : (Jvm.Cond.soleField "WhatIfSheet$Fault" "place") ∈ lw_all := lw_g (lw_at lw_m6 139 rfl) rfl
theorem q1470 : (Jvm.Cond.lays "WhatIfSheet$Fault" "java/lang/Throwable" "depth" "I") ∈ lw_all := lw_g (lw_at lw_m6 140 rfl) rfl
theorem q1471 : (Jvm.Cond.superclass "WhatIfSheet$Fault" "java/lang/RuntimeException") ∈ lw_all := lw_g (lw_at lw_m6 141 rfl) rfl
theorem q3416 : (Jvm.Cond.castable "WhatIfSheet$Fault" "java/lang/Object") ∈ lw_tbl := lw_at lw_m14 166 rfl
theorem in_X12 : ∀ w ∈ wsX120, w ∈ lw_all := lw_in wsX120 [1454, 1455, 1456, 1457, 1458, 1470, 1468] (by decide +kernel) (by decide +kernel)
/-! WhatIfSheet$Node -/
set_option maxRecDepth 100000
def RX13 : String := "WhatIfSheet$Node"
abbrev cX13_init : ByteArray := prog_18_method_1_code
def yX13_init : MethodName := ⟨RX13, "<init>", "(LWhatIfSheet;)V"⟩
def dkwX13_init_0 : List UInt8 := [42, 43, 181, 0, 1, 42, 183, 0, 7, 177]
abbrev dktX13_init_0 : List UInt8 := dkwX13_init_0 ++ []
theorem dksX13_init_0 : cX13_init.data.toList.drop 0 = dktX13_init_0 := by decide +kernel
theorem dX13_init_0 : decode cX13_init 0 = .ok (.aload_n 0, 1) := dk_42 (dk_at dksX13_init_0 0 rfl rfl)
theorem dX13_init_1 : decode cX13_init 1 = .ok (.aload_n 1, 1) := dk_43 (dk_at dksX13_init_0 1 rfl rfl)
theorem dX13_init_2 : decode cX13_init 2 = .ok (.putfield 1, 3) := dk_181 0 1 (dk_at dksX13_init_0 2 rfl rfl)
theorem dX13_init_5 : decode cX13_init 5 = .ok (.aload_n 0, 1) := dk_42 (dk_at dksX13_init_0 5 rfl rfl)
theorem dX13_init_6 : decode cX13_init 6 = .ok (.invokespecial 7, 3) := dk_183 0 7 (dk_at dksX13_init_0 6 rfl rfl)
theorem dX13_init_9 : decode cX13_init 9 = .ok (.return_, 1) := dk_177 (dk_at dksX13_init_0 9 rfl rfl)
theorem q176 : (Jvm.Cond.initialized "WhatIfSheet$Node") ∈ lw_all := lw_g (lw_at lw_m1 46 rfl) rfl
theorem q1575 : (Jvm.Cond.instanceMethod ({ cls := "WhatIfSheet$Node", name := "<init>", desc := "(LWhatIfSheet;)V" } : Jvm.MethodName)) ∈ lw_all := lw_g (lw_at lw_m7 5 rfl) rfl
theorem q1576 : (Jvm.Cond.code ({ cls := "WhatIfSheet$Node", name := "<init>", desc := "(LWhatIfSheet;)V" } : Jvm.MethodName) prog_18_method_1_code (2 : Nat) (Option.none : Option Jvm.ClassFile.FieldType)) ∈ lw_all := lw_g (lw_at lw_m7 6 rfl) rfl
theorem q1577 : (Jvm.Cond.methodLink "WhatIfSheet$Node" (7 : Nat) ({ cls := "java/lang/Object", name := "<init>", desc := "()V" } : Jvm.MethodName)) ∈ lw_all := lw_g (lw_at lw_m7 7 rfl) rfl
theorem q1582 : (Jvm.Cond.fieldLink "WhatIfSheet$Node" (1 : Nat) "WhatIfSheet$Node" "this$0" "LWhatIfSheet;") ∈ lw_all := lw_g (lw_at lw_m7 12 rfl) rfl
theorem q1592 : (Jvm.Cond.soleField "WhatIfSheet$Node" "this$0") ∈ lw_all := lw_g (lw_at lw_m7 22 rfl) rfl
theorem q2145 : (Jvm.Cond.declares ({ cls := "WhatIfSheet$Node", name := "worth", desc := "()D" } : Jvm.MethodName)) ∈ lw_tbl := lw_at lw_m9 95 rfl
theorem q2146 : (Jvm.Cond.sameMethod "WhatIfSheet$Node" "WhatIfSheet$Node" "worth" "()D") ∈ lw_all := lw_g (lw_at lw_m9 96 rfl) rfl
/-! WhatIfSheet$Pick -/
set_option maxRecDepth 100000
def RX14 : String := "WhatIfSheet$Pick"
def TX14 : u_T := fun k => match k with
  | 0 => ("WhatIfSheet$Node", "this$0", "LWhatIfSheet;", true)
  | 1 => ("WhatIfSheet$Pick", "which", "LWhatIfSheet$Node;", true)
  | 2 => ("WhatIfSheet$Pick", "one", "LWhatIfSheet$Node;", true)
  | 3 => ("WhatIfSheet$Pick", "other", "LWhatIfSheet$Node;", true)
  | _ => ("WhatIfSheet$Pick", "this$0", "LWhatIfSheet;", true)
def tyX14 : Nat → FieldType := fun k => match k with
  | 0 => .object "WhatIfSheet"
  | 1 => .object "WhatIfSheet$Node"
  | 2 => .object "WhatIfSheet$Node"
  | 3 => .object "WhatIfSheet$Node"
  | _ => .object "WhatIfSheet"
abbrev wsX140 : List Cond := u_ws RX14 TX14 5
-- two fields of one name: no nmX14
theorem tyX14_ok : ∀ k, k < 5 → parseFieldDescriptor (TX14 k).2.2.1 = some (tyX14 k) := by decide +kernel
abbrev cX14_init : ByteArray := prog_20_method_1_code
def yX14_init : MethodName := ⟨RX14, "<init>", "(LWhatIfSheet;LWhatIfSheet$Node;LWhatIfSheet$Node;LWhatIfSheet$Node;)V"⟩
def dkwX14_init_1 : List UInt8 := [181, 0, 20, 177]
abbrev dktX14_init_1 : List UInt8 := dkwX14_init_1 ++ []
def dkwX14_init_0 : List UInt8 := [42, 43, 181, 0, 1, 42, 43, 183, 0, 7, 42, 44, 181, 0, 13, 42, 45, 181, 0, 17, 42, 25, 4]
abbrev dktX14_init_0 : List UInt8 := dkwX14_init_0 ++ dktX14_init_1
theorem dksX14_init_0 : cX14_init.data.toList.drop 0 = dktX14_init_0 := by decide +kernel
theorem dksX14_init_1 : cX14_init.data.toList.drop 23 = dktX14_init_1 := dk_seg dksX14_init_0 23 rfl rfl
theorem dX14_init_0 : decode cX14_init 0 = .ok (.aload_n 0, 1) := dk_42 (dk_at dksX14_init_0 0 rfl rfl)
theorem dX14_init_1 : decode cX14_init 1 = .ok (.aload_n 1, 1) := dk_43 (dk_at dksX14_init_0 1 rfl rfl)
theorem dX14_init_2 : decode cX14_init 2 = .ok (.putfield 1, 3) := dk_181 0 1 (dk_at dksX14_init_0 2 rfl rfl)
theorem dX14_init_5 : decode cX14_init 5 = .ok (.aload_n 0, 1) := dk_42 (dk_at dksX14_init_0 5 rfl rfl)
theorem dX14_init_6 : decode cX14_init 6 = .ok (.aload_n 1, 1) := dk_43 (dk_at dksX14_init_0 6 rfl rfl)
theorem dX14_init_7 : decode cX14_init 7 = .ok (.invokespecial 7, 3) := dk_183 0 7 (dk_at dksX14_init_0 7 rfl rfl)
theorem dX14_init_10 : decode cX14_init 10 = .ok (.aload_n 0, 1) := dk_42 (dk_at dksX14_init_0 10 rfl rfl)
theorem dX14_init_11 : decode cX14_init 11 = .ok (.aload_n 2, 1) := dk_44 (dk_at dksX14_init_0 11 rfl rfl)
theorem dX14_init_12 : decode cX14_init 12 = .ok (.putfield 13, 3) := dk_181 0 13 (dk_at dksX14_init_0 12 rfl rfl)
theorem dX14_init_15 : decode cX14_init 15 = .ok (.aload_n 0, 1) := dk_42 (dk_at dksX14_init_0 15 rfl rfl)
theorem dX14_init_16 : decode cX14_init 16 = .ok (.aload_n 3, 1) := dk_45 (dk_at dksX14_init_0 16 rfl rfl)
theorem dX14_init_17 : decode cX14_init 17 = .ok (.putfield 17, 3) := dk_181 0 17 (dk_at dksX14_init_0 17 rfl rfl)
theorem dX14_init_20 : decode cX14_init 20 = .ok (.aload_n 0, 1) := dk_42 (dk_at dksX14_init_0 20 rfl rfl)
theorem dX14_init_21 : decode cX14_init 21 = .ok (.aload 4, 2) := dk_25 4 (dk_at dksX14_init_0 21 rfl rfl)
theorem dX14_init_23 : decode cX14_init 23 = .ok (.putfield 20, 3) := dk_181 0 20 (dk_at dksX14_init_1 0 rfl rfl)
theorem dX14_init_26 : decode cX14_init 26 = .ok (.return_, 1) := dk_177 (dk_at dksX14_init_1 3 rfl rfl)
abbrev cX14_worth : ByteArray := prog_20_method_2_code
def yX14_worth : MethodName := ⟨RX14, "worth", "()D"⟩
def dkwX14_worth_5 : List UInt8 := [167, 0, 5, 21, 8, 181, 0, 33, 24, 5, 175, 24, 9, 175]
abbrev dktX14_worth_5 : List UInt8 := dkwX14_worth_5 ++ []
def dkwX14_worth_4 : List UInt8 := [153, 0, 7, 29, 167, 0, 5, 21, 7, 181, 0, 27, 42, 180, 0, 1, 29, 153, 0, 8, 21, 4]
abbrev dktX14_worth_4 : List UInt8 := dkwX14_worth_4 ++ dktX14_worth_5
def dkwX14_worth_3 : List UInt8 := [180, 0, 20, 182, 0, 23, 57, 9, 29, 154, 0, 9, 39, 14, 151, 153, 0, 41, 42, 180, 0, 1, 29]
abbrev dktX14_worth_3 : List UInt8 := dkwX14_worth_3 ++ dktX14_worth_4
def dkwX14_worth_2 : List UInt8 := [180, 0, 33, 54, 8, 42, 180, 0, 1, 29, 181, 0, 27, 42, 180, 0, 1, 21, 4, 181, 0, 33, 42]
abbrev dktX14_worth_2 : List UInt8 := dkwX14_worth_2 ++ dktX14_worth_3
def dkwX14_worth_1 : List UInt8 := [54, 4, 42, 180, 0, 17, 182, 0, 23, 57, 5, 42, 180, 0, 1, 180, 0, 27, 54, 7, 42, 180, 0, 1]
abbrev dktX14_worth_1 : List UInt8 := dkwX14_worth_1 ++ dktX14_worth_2
def dkwX14_worth_0 : List UInt8 := [42, 180, 0, 13, 182, 0, 23, 72, 42, 180, 0, 1, 180, 0, 27, 62, 42, 180, 0, 1, 180, 0, 33]
abbrev dktX14_worth_0 : List UInt8 := dkwX14_worth_0 ++ dktX14_worth_1
theorem dksX14_worth_0 : cX14_worth.data.toList.drop 0 = dktX14_worth_0 := by decide +kernel
theorem dksX14_worth_1 : cX14_worth.data.toList.drop 23 = dktX14_worth_1 := dk_seg dksX14_worth_0 23 rfl rfl
theorem dksX14_worth_2 : cX14_worth.data.toList.drop 47 = dktX14_worth_2 := dk_seg dksX14_worth_1 24 rfl rfl
theorem dksX14_worth_3 : cX14_worth.data.toList.drop 70 = dktX14_worth_3 := dk_seg dksX14_worth_2 23 rfl rfl
theorem dksX14_worth_4 : cX14_worth.data.toList.drop 93 = dktX14_worth_4 := dk_seg dksX14_worth_3 23 rfl rfl
theorem dksX14_worth_5 : cX14_worth.data.toList.drop 115 = dktX14_worth_5 := dk_seg dksX14_worth_4 22 rfl rfl
theorem dX14_worth_0 : decode cX14_worth 0 = .ok (.aload_n 0, 1) := dk_42 (dk_at dksX14_worth_0 0 rfl rfl)
theorem dX14_worth_1 : decode cX14_worth 1 = .ok (.getfield 13, 3) := dk_180 0 13 (dk_at dksX14_worth_0 1 rfl rfl)
theorem dX14_worth_4 : decode cX14_worth 4 = .ok (.invokevirtual 23, 3) := dk_182 0 23 (dk_at dksX14_worth_0 4 rfl rfl)
theorem dX14_worth_7 : decode cX14_worth 7 = .ok (.dstore_n 1, 1) := dk_72 (dk_at dksX14_worth_0 7 rfl rfl)
theorem dX14_worth_8 : decode cX14_worth 8 = .ok (.aload_n 0, 1) := dk_42 (dk_at dksX14_worth_0 8 rfl rfl)
theorem dX14_worth_9 : decode cX14_worth 9 = .ok (.getfield 1, 3) := dk_180 0 1 (dk_at dksX14_worth_0 9 rfl rfl)
theorem dX14_worth_12 : decode cX14_worth 12 = .ok (.getfield 27, 3) := dk_180 0 27 (dk_at dksX14_worth_0 12 rfl rfl)
theorem dX14_worth_15 : decode cX14_worth 15 = .ok (.istore_n 3, 1) := dk_62 (dk_at dksX14_worth_0 15 rfl rfl)
theorem dX14_worth_16 : decode cX14_worth 16 = .ok (.aload_n 0, 1) := dk_42 (dk_at dksX14_worth_0 16 rfl rfl)
theorem dX14_worth_17 : decode cX14_worth 17 = .ok (.getfield 1, 3) := dk_180 0 1 (dk_at dksX14_worth_0 17 rfl rfl)
theorem dX14_worth_20 : decode cX14_worth 20 = .ok (.getfield 33, 3) := dk_180 0 33 (dk_at dksX14_worth_0 20 rfl rfl)
theorem dX14_worth_23 : decode cX14_worth 23 = .ok (.istore 4, 2) := dk_54 4 (dk_at dksX14_worth_1 0 rfl rfl)
theorem dX14_worth_25 : decode cX14_worth 25 = .ok (.aload_n 0, 1) := dk_42 (dk_at dksX14_worth_1 2 rfl rfl)
theorem dX14_worth_26 : decode cX14_worth 26 = .ok (.getfield 17, 3) := dk_180 0 17 (dk_at dksX14_worth_1 3 rfl rfl)
theorem dX14_worth_29 : decode cX14_worth 29 = .ok (.invokevirtual 23, 3) := dk_182 0 23 (dk_at dksX14_worth_1 6 rfl rfl)
theorem dX14_worth_32 : decode cX14_worth 32 = .ok (.dstore 5, 2) := dk_57 5 (dk_at dksX14_worth_1 9 rfl rfl)
theorem dX14_worth_34 : decode cX14_worth 34 = .ok (.aload_n 0, 1) := dk_42 (dk_at dksX14_worth_1 11 rfl rfl)
theorem dX14_worth_35 : decode cX14_worth 35 = .ok (.getfield 1, 3) := dk_180 0 1 (dk_at dksX14_worth_1 12 rfl rfl)
theorem dX14_worth_38 : decode cX14_worth 38 = .ok (.getfield 27, 3) := dk_180 0 27 (dk_at dksX14_worth_1 15 rfl rfl)
theorem dX14_worth_41 : decode cX14_worth 41 = .ok (.istore 7, 2) := dk_54 7 (dk_at dksX14_worth_1 18 rfl rfl)
theorem dX14_worth_43 : decode cX14_worth 43 = .ok (.aload_n 0, 1) := dk_42 (dk_at dksX14_worth_1 20 rfl rfl)
theorem dX14_worth_44 : decode cX14_worth 44 = .ok (.getfield 1, 3) := dk_180 0 1 (dk_at dksX14_worth_1 21 rfl rfl)
theorem dX14_worth_47 : decode cX14_worth 47 = .ok (.getfield 33, 3) := dk_180 0 33 (dk_at dksX14_worth_2 0 rfl rfl)
theorem dX14_worth_50 : decode cX14_worth 50 = .ok (.istore 8, 2) := dk_54 8 (dk_at dksX14_worth_2 3 rfl rfl)
theorem dX14_worth_52 : decode cX14_worth 52 = .ok (.aload_n 0, 1) := dk_42 (dk_at dksX14_worth_2 5 rfl rfl)
theorem dX14_worth_53 : decode cX14_worth 53 = .ok (.getfield 1, 3) := dk_180 0 1 (dk_at dksX14_worth_2 6 rfl rfl)
theorem dX14_worth_56 : decode cX14_worth 56 = .ok (.iload_n 3, 1) := dk_29 (dk_at dksX14_worth_2 9 rfl rfl)
theorem dX14_worth_57 : decode cX14_worth 57 = .ok (.putfield 27, 3) := dk_181 0 27 (dk_at dksX14_worth_2 10 rfl rfl)
theorem dX14_worth_60 : decode cX14_worth 60 = .ok (.aload_n 0, 1) := dk_42 (dk_at dksX14_worth_2 13 rfl rfl)
theorem dX14_worth_61 : decode cX14_worth 61 = .ok (.getfield 1, 3) := dk_180 0 1 (dk_at dksX14_worth_2 14 rfl rfl)
theorem dX14_worth_64 : decode cX14_worth 64 = .ok (.iload 4, 2) := dk_21 4 (dk_at dksX14_worth_2 17 rfl rfl)
theorem dX14_worth_66 : decode cX14_worth 66 = .ok (.putfield 33, 3) := dk_181 0 33 (dk_at dksX14_worth_2 19 rfl rfl)
theorem dX14_worth_69 : decode cX14_worth 69 = .ok (.aload_n 0, 1) := dk_42 (dk_at dksX14_worth_2 22 rfl rfl)
theorem dX14_worth_70 : decode cX14_worth 70 = .ok (.getfield 20, 3) := dk_180 0 20 (dk_at dksX14_worth_3 0 rfl rfl)
theorem dX14_worth_73 : decode cX14_worth 73 = .ok (.invokevirtual 23, 3) := dk_182 0 23 (dk_at dksX14_worth_3 3 rfl rfl)
theorem dX14_worth_76 : decode cX14_worth 76 = .ok (.dstore 9, 2) := dk_57 9 (dk_at dksX14_worth_3 6 rfl rfl)
theorem dX14_worth_78 : decode cX14_worth 78 = .ok (.iload_n 3, 1) := dk_29 (dk_at dksX14_worth_3 8 rfl rfl)
theorem dX14_worth_79 : decode cX14_worth 79 = .ok (.ifCond .ne 9, 3) := dk_154 0 9 (dk_at dksX14_worth_3 9 rfl rfl)
theorem dX14_worth_82 : decode cX14_worth 82 = .ok (.dload_n 1, 1) := dk_39 (dk_at dksX14_worth_3 12 rfl rfl)
theorem dX14_worth_83 : decode cX14_worth 83 = .ok (.dconst 0, 1) := dk_14 (dk_at dksX14_worth_3 13 rfl rfl)
theorem dX14_worth_84 : decode cX14_worth 84 = .ok (.dcmp .l, 1) := dk_151 (dk_at dksX14_worth_3 14 rfl rfl)
theorem dX14_worth_85 : decode cX14_worth 85 = .ok (.ifCond .eq 41, 3) := dk_153 0 41 (dk_at dksX14_worth_3 15 rfl rfl)
theorem dX14_worth_88 : decode cX14_worth 88 = .ok (.aload_n 0, 1) := dk_42 (dk_at dksX14_worth_3 18 rfl rfl)
theorem dX14_worth_89 : decode cX14_worth 89 = .ok (.getfield 1, 3) := dk_180 0 1 (dk_at dksX14_worth_3 19 rfl rfl)
theorem dX14_worth_92 : decode cX14_worth 92 = .ok (.iload_n 3, 1) := dk_29 (dk_at dksX14_worth_3 22 rfl rfl)
theorem dX14_worth_93 : decode cX14_worth 93 = .ok (.ifCond .eq 7, 3) := dk_153 0 7 (dk_at dksX14_worth_4 0 rfl rfl)
theorem dX14_worth_96 : decode cX14_worth 96 = .ok (.iload_n 3, 1) := dk_29 (dk_at dksX14_worth_4 3 rfl rfl)
theorem dX14_worth_97 : decode cX14_worth 97 = .ok (.goto 5, 3) := dk_167 0 5 (dk_at dksX14_worth_4 4 rfl rfl)
theorem dX14_worth_100 : decode cX14_worth 100 = .ok (.iload 7, 2) := dk_21 7 (dk_at dksX14_worth_4 7 rfl rfl)
theorem dX14_worth_102 : decode cX14_worth 102 = .ok (.putfield 27, 3) := dk_181 0 27 (dk_at dksX14_worth_4 9 rfl rfl)
theorem dX14_worth_105 : decode cX14_worth 105 = .ok (.aload_n 0, 1) := dk_42 (dk_at dksX14_worth_4 12 rfl rfl)
theorem dX14_worth_106 : decode cX14_worth 106 = .ok (.getfield 1, 3) := dk_180 0 1 (dk_at dksX14_worth_4 13 rfl rfl)
theorem dX14_worth_109 : decode cX14_worth 109 = .ok (.iload_n 3, 1) := dk_29 (dk_at dksX14_worth_4 16 rfl rfl)
theorem dX14_worth_110 : decode cX14_worth 110 = .ok (.ifCond .eq 8, 3) := dk_153 0 8 (dk_at dksX14_worth_4 17 rfl rfl)
theorem dX14_worth_113 : decode cX14_worth 113 = .ok (.iload 4, 2) := dk_21 4 (dk_at dksX14_worth_4 20 rfl rfl)
theorem dX14_worth_115 : decode cX14_worth 115 = .ok (.goto 5, 3) := dk_167 0 5 (dk_at dksX14_worth_5 0 rfl rfl)
theorem dX14_worth_118 : decode cX14_worth 118 = .ok (.iload 8, 2) := dk_21 8 (dk_at dksX14_worth_5 3 rfl rfl)
theorem dX14_worth_120 : decode cX14_worth 120 = .ok (.putfield 33, 3) := dk_181 0 33 (dk_at dksX14_worth_5 5 rfl rfl)
theorem dX14_worth_123 : decode cX14_worth 123 = .ok (.dload 5, 2) := dk_24 5 (dk_at dksX14_worth_5 8 rfl rfl)
theorem dX14_worth_125 : decode cX14_worth 125 = .ok (.dreturn, 1) := dk_175 (dk_at dksX14_worth_5 10 rfl rfl)
theorem dX14_worth_126 : decode cX14_worth 126 = .ok (.dload 9, 2) := dk_24 9 (dk_at dksX14_worth_5 11 rfl rfl)
theorem dX14_worth_128 : decode cX14_worth 128 = .ok (.dreturn, 1) := dk_175 (dk_at dksX14_worth_5 13 rfl rfl)
theorem q177 : (Jvm.Cond.initialized "WhatIfSheet$Pick") ∈ lw_all := lw_g (lw_at lw_m1 47 rfl) rfl
theorem q784 : (Jvm.Cond.selects "WhatIfSheet$Pick" ({ cls := "java/lang/Object", name := "equals", desc := "(Ljava/lang/Object;)Z" } : Jvm.MethodName) ({ cls := "java/lang/Object", name := "equals", desc := "(Ljava/lang/Object;)Z" } : Jvm.MethodName)) ∈ lw_all := lw_g (lw_at lw_m3 174 rfl) rfl
theorem q861 : (Jvm.Cond.selects "WhatIfSheet$Pick" ({ cls := "java/lang/Object", name := "getClass", desc := "()Ljava/lang/Class;" } : Jvm.MethodName) ({ cls := "java/lang/Object", name := "getClass", desc := "()Ljava/lang/Class;" } : Jvm.MethodName)) ∈ lw_all := lw_g (lw_at lw_m4 11 rfl) rfl
theorem q1206 : (Jvm.Cond.fieldLinkNest "WhatIfSheet$Pick" (27 : Nat) "WhatIfSheet" "fault" "I" "WhatIfSheet") ∈ lw_tbl := lw_at lw_m5 116 rfl
theorem q1209 : (Jvm.Cond.fieldLinkNest "WhatIfSheet$Pick" (33 : Nat) "WhatIfSheet" "blamed" "I" "WhatIfSheet") ∈ lw_tbl := lw_at lw_m5 119 rfl
theorem q1570 : (Jvm.Cond.instantiable "WhatIfSheet$Pick" (5 : Nat)) ∈ lw_all := lw_g (lw_at lw_m7 0 rfl) rfl
theorem q1572 : (Jvm.Cond.instanceMethod ({ cls := "WhatIfSheet$Pick", name := "<init>", desc := "(LWhatIfSheet;LWhatIfSheet$Node;LWhatIfSheet$Node;LWhatIfSheet$Node;)V" } : Jvm.MethodName)) ∈ lw_all := lw_g (lw_at lw_m7 2 rfl) rfl
theorem q1573 : (Jvm.Cond.code ({ cls := "WhatIfSheet$Pick", name := "<init>", desc := "(LWhatIfSheet;LWhatIfSheet$Node;LWhatIfSheet$Node;LWhatIfSheet$Node;)V" } : Jvm.MethodName) prog_20_method_1_code (5 : Nat) (Option.none : Option Jvm.ClassFile.FieldType)) ∈ lw_all := lw_g (lw_at lw_m7 3 rfl) rfl
theorem q1574 : (Jvm.Cond.methodLinkNest "WhatIfSheet$Pick" (7 : Nat) ({ cls := "WhatIfSheet$Node", name := "<init>", desc := "(LWhatIfSheet;)V" } : Jvm.MethodName) "WhatIfSheet") ∈ lw_tbl := lw_at lw_m7 4 rfl
theorem q1578 : (Jvm.Cond.fieldLink "WhatIfSheet$Pick" (13 : Nat) "WhatIfSheet$Pick" "which" "LWhatIfSheet$Node;") ∈ lw_all := lw_g (lw_at lw_m7 8 rfl) rfl
theorem q1579 : (Jvm.Cond.fieldLink "WhatIfSheet$Pick" (17 : Nat) "WhatIfSheet$Pick" "one" "LWhatIfSheet$Node;") ∈ lw_all := lw_g (lw_at lw_m7 9 rfl) rfl
theorem q1580 : (Jvm.Cond.fieldLink "WhatIfSheet$Pick" (20 : Nat) "WhatIfSheet$Pick" "other" "LWhatIfSheet$Node;") ∈ lw_all := lw_g (lw_at lw_m7 10 rfl) rfl
theorem q1581 : (Jvm.Cond.fieldLink "WhatIfSheet$Pick" (1 : Nat) "WhatIfSheet$Pick" "this$0" "LWhatIfSheet;") ∈ lw_all := lw_g (lw_at lw_m7 11 rfl) rfl
theorem q1583 : (Jvm.Cond.laysFinal "WhatIfSheet$Pick" "WhatIfSheet$Pick" "which" "LWhatIfSheet$Node;") ∈ lw_all := lw_g (lw_at lw_m7 13 rfl) rfl
theorem q1584 : (Jvm.Cond.soleField "WhatIfSheet$Pick" "which") ∈ lw_all := lw_g (lw_at lw_m7 14 rfl) rfl
theorem q1585 : (Jvm.Cond.laysFinal "WhatIfSheet$Pick" "WhatIfSheet$Pick" "one" "LWhatIfSheet$Node;") ∈ lw_all := lw_g (lw_at lw_m7 15 rfl) rfl
theorem q1586 : (Jvm.Cond.soleField "WhatIfSheet$Pick" "one") ∈ lw_all := lw_g (lw_at lw_m7 16 rfl) rfl
theorem q1587 : (Jvm.Cond.laysFinal "WhatIfSheet$Pick" "WhatIfSheet$Pick" "other" "LWhatIfSheet$Node;") ∈ lw_all := lw_g (lw_at lw_m7 17 rfl) rfl
theorem q1588 : (Jvm.Cond.soleField "WhatIfSheet$Pick" "other") ∈ lw_all := lw_g (lw_at lw_m7 18 rfl) rfl
theorem q1589 : (Jvm.Cond.laysFinal "WhatIfSheet$Pick" "WhatIfSheet$Pick" "this$0" "LWhatIfSheet;") ∈ lw_all := lw_g (lw_at lw_m7 19 rfl) rfl
theorem q1590 : (Jvm.Cond.soleField "WhatIfSheet$Pick" "this$0") ∈ lw_all := lw_g (lw_at lw_m7 20 rfl) rfl
theorem q1591 : (Jvm.Cond.laysFinal "WhatIfSheet$Pick" "WhatIfSheet$Node" "this$0" "LWhatIfSheet;") ∈ lw_all := lw_g (lw_at lw_m7 21 rfl) rfl
theorem q1593 : (Jvm.Cond.superclass "WhatIfSheet$Pick" "WhatIfSheet$Node") ∈ lw_all := lw_g (lw_at lw_m7 23 rfl) rfl
theorem q2242 : (Jvm.Cond.instanceMethod ({ cls := "WhatIfSheet$Pick", name := "worth", desc := "()D" } : Jvm.MethodName)) ∈ lw_all := lw_g (lw_at lw_m9 192 rfl) rfl
theorem q2243 : (Jvm.Cond.code ({ cls := "WhatIfSheet$Pick", name := "worth", desc := "()D" } : Jvm.MethodName) prog_20_method_2_code (11 : Nat) (Option.some Jvm.ClassFile.FieldType.double)) ∈ lw_all := lw_g (lw_at lw_m9 193 rfl) rfl
theorem q2244 : (Jvm.Cond.methodLink "WhatIfSheet$Pick" (23 : Nat) ({ cls := "WhatIfSheet$Node", name := "worth", desc := "()D" } : Jvm.MethodName)) ∈ lw_all := lw_g (lw_at lw_m9 194 rfl) rfl
theorem q2288 : (Jvm.Cond.selects "WhatIfSheet$Pick" ({ cls := "WhatIfSheet$Node", name := "worth", desc := "()D" } : Jvm.MethodName) ({ cls := "WhatIfSheet$Pick", name := "worth", desc := "()D" } : Jvm.MethodName)) ∈ lw_all := lw_g (lw_at lw_m9 238 rfl) rfl
theorem q3417 : (Jvm.Cond.castable "WhatIfSheet$Pick" "java/lang/Object") ∈ lw_tbl := lw_at lw_m14 167 rfl
theorem in_X14 : ∀ w ∈ wsX140, w ∈ lw_all := lw_in wsX140 [1591, 1583, 1585, 1587, 1589] (by decide +kernel) (by decide +kernel)
/-! WhatIfSheet$Two -/
set_option maxRecDepth 100000
def RX15 : String := "WhatIfSheet$Two"
abbrev cX15_init : ByteArray := prog_32_method_1_code
def yX15_init : MethodName := ⟨RX15, "<init>", "(LWhatIfSheet;LWhatIfSheet$Node;LWhatIfSheet$Node;)V"⟩
def dkwX15_init_0 : List UInt8 := [42, 43, 181, 0, 1, 42, 43, 183, 0, 7, 42, 44, 181, 0, 13, 42, 45, 181, 0, 17, 177]
abbrev dktX15_init_0 : List UInt8 := dkwX15_init_0 ++ []
theorem dksX15_init_0 : cX15_init.data.toList.drop 0 = dktX15_init_0 := by decide +kernel
theorem dX15_init_0 : decode cX15_init 0 = .ok (.aload_n 0, 1) := dk_42 (dk_at dksX15_init_0 0 rfl rfl)
theorem dX15_init_1 : decode cX15_init 1 = .ok (.aload_n 1, 1) := dk_43 (dk_at dksX15_init_0 1 rfl rfl)
theorem dX15_init_2 : decode cX15_init 2 = .ok (.putfield 1, 3) := dk_181 0 1 (dk_at dksX15_init_0 2 rfl rfl)
theorem dX15_init_5 : decode cX15_init 5 = .ok (.aload_n 0, 1) := dk_42 (dk_at dksX15_init_0 5 rfl rfl)
theorem dX15_init_6 : decode cX15_init 6 = .ok (.aload_n 1, 1) := dk_43 (dk_at dksX15_init_0 6 rfl rfl)
theorem dX15_init_7 : decode cX15_init 7 = .ok (.invokespecial 7, 3) := dk_183 0 7 (dk_at dksX15_init_0 7 rfl rfl)
theorem dX15_init_10 : decode cX15_init 10 = .ok (.aload_n 0, 1) := dk_42 (dk_at dksX15_init_0 10 rfl rfl)
theorem dX15_init_11 : decode cX15_init 11 = .ok (.aload_n 2, 1) := dk_44 (dk_at dksX15_init_0 11 rfl rfl)
theorem dX15_init_12 : decode cX15_init 12 = .ok (.putfield 13, 3) := dk_181 0 13 (dk_at dksX15_init_0 12 rfl rfl)
theorem dX15_init_15 : decode cX15_init 15 = .ok (.aload_n 0, 1) := dk_42 (dk_at dksX15_init_0 15 rfl rfl)
theorem dX15_init_16 : decode cX15_init 16 = .ok (.aload_n 3, 1) := dk_45 (dk_at dksX15_init_0 16 rfl rfl)
theorem dX15_init_17 : decode cX15_init 17 = .ok (.putfield 17, 3) := dk_181 0 17 (dk_at dksX15_init_0 17 rfl rfl)
theorem dX15_init_20 : decode cX15_init 20 = .ok (.return_, 1) := dk_177 (dk_at dksX15_init_0 20 rfl rfl)
abbrev cX15_worth : ByteArray := prog_32_method_3_code
def yX15_worth : MethodName := ⟨RX15, "worth", "()D"⟩
def dkwX15_worth_0 : List UInt8 := [42, 180, 0, 13, 182, 0, 20, 72, 42, 180, 0, 17, 182, 0, 20, 74, 42, 39, 41, 182, 0, 24, 175]
abbrev dktX15_worth_0 : List UInt8 := dkwX15_worth_0 ++ []
theorem dksX15_worth_0 : cX15_worth.data.toList.drop 0 = dktX15_worth_0 := by decide +kernel
theorem dX15_worth_0 : decode cX15_worth 0 = .ok (.aload_n 0, 1) := dk_42 (dk_at dksX15_worth_0 0 rfl rfl)
theorem dX15_worth_1 : decode cX15_worth 1 = .ok (.getfield 13, 3) := dk_180 0 13 (dk_at dksX15_worth_0 1 rfl rfl)
theorem dX15_worth_4 : decode cX15_worth 4 = .ok (.invokevirtual 20, 3) := dk_182 0 20 (dk_at dksX15_worth_0 4 rfl rfl)
theorem dX15_worth_7 : decode cX15_worth 7 = .ok (.dstore_n 1, 1) := dk_72 (dk_at dksX15_worth_0 7 rfl rfl)
theorem dX15_worth_8 : decode cX15_worth 8 = .ok (.aload_n 0, 1) := dk_42 (dk_at dksX15_worth_0 8 rfl rfl)
theorem dX15_worth_9 : decode cX15_worth 9 = .ok (.getfield 17, 3) := dk_180 0 17 (dk_at dksX15_worth_0 9 rfl rfl)
theorem dX15_worth_12 : decode cX15_worth 12 = .ok (.invokevirtual 20, 3) := dk_182 0 20 (dk_at dksX15_worth_0 12 rfl rfl)
theorem dX15_worth_15 : decode cX15_worth 15 = .ok (.dstore_n 3, 1) := dk_74 (dk_at dksX15_worth_0 15 rfl rfl)
theorem dX15_worth_16 : decode cX15_worth 16 = .ok (.aload_n 0, 1) := dk_42 (dk_at dksX15_worth_0 16 rfl rfl)
theorem dX15_worth_17 : decode cX15_worth 17 = .ok (.dload_n 1, 1) := dk_39 (dk_at dksX15_worth_0 17 rfl rfl)
theorem dX15_worth_18 : decode cX15_worth 18 = .ok (.dload_n 3, 1) := dk_41 (dk_at dksX15_worth_0 18 rfl rfl)
theorem dX15_worth_19 : decode cX15_worth 19 = .ok (.invokevirtual 24, 3) := dk_182 0 24 (dk_at dksX15_worth_0 19 rfl rfl)
theorem dX15_worth_22 : decode cX15_worth 22 = .ok (.dreturn, 1) := dk_175 (dk_at dksX15_worth_0 22 rfl rfl)
theorem q178 : (Jvm.Cond.initialized "WhatIfSheet$Two") ∈ lw_all := lw_g (lw_at lw_m1 48 rfl) rfl
theorem q1606 : (Jvm.Cond.instanceMethod ({ cls := "WhatIfSheet$Two", name := "<init>", desc := "(LWhatIfSheet;LWhatIfSheet$Node;LWhatIfSheet$Node;)V" } : Jvm.MethodName)) ∈ lw_all := lw_g (lw_at lw_m7 36 rfl) rfl
theorem q1607 : (Jvm.Cond.code ({ cls := "WhatIfSheet$Two", name := "<init>", desc := "(LWhatIfSheet;LWhatIfSheet$Node;LWhatIfSheet$Node;)V" } : Jvm.MethodName) prog_32_method_1_code (4 : Nat) (Option.none : Option Jvm.ClassFile.FieldType)) ∈ lw_all := lw_g (lw_at lw_m7 37 rfl) rfl
theorem q1608 : (Jvm.Cond.methodLinkNest "WhatIfSheet$Two" (7 : Nat) ({ cls := "WhatIfSheet$Node", name := "<init>", desc := "(LWhatIfSheet;)V" } : Jvm.MethodName) "WhatIfSheet") ∈ lw_tbl := lw_at lw_m7 38 rfl
theorem q1610 : (Jvm.Cond.fieldLink "WhatIfSheet$Two" (13 : Nat) "WhatIfSheet$Two" "a" "LWhatIfSheet$Node;") ∈ lw_all := lw_g (lw_at lw_m7 40 rfl) rfl
theorem q1611 : (Jvm.Cond.fieldLink "WhatIfSheet$Two" (17 : Nat) "WhatIfSheet$Two" "b" "LWhatIfSheet$Node;") ∈ lw_all := lw_g (lw_at lw_m7 41 rfl) rfl
theorem q1612 : (Jvm.Cond.fieldLink "WhatIfSheet$Two" (1 : Nat) "WhatIfSheet$Two" "this$0" "LWhatIfSheet;") ∈ lw_all := lw_g (lw_at lw_m7 42 rfl) rfl
theorem q1616 : (Jvm.Cond.soleField "WhatIfSheet$Two" "a") ∈ lw_all := lw_g (lw_at lw_m7 46 rfl) rfl
theorem q1618 : (Jvm.Cond.soleField "WhatIfSheet$Two" "b") ∈ lw_all := lw_g (lw_at lw_m7 48 rfl) rfl
theorem q1620 : (Jvm.Cond.soleField "WhatIfSheet$Two" "this$0") ∈ lw_all := lw_g (lw_at lw_m7 50 rfl) rfl
theorem q2231 : (Jvm.Cond.instanceMethod ({ cls := "WhatIfSheet$Two", name := "worth", desc := "()D" } : Jvm.MethodName)) ∈ lw_all := lw_g (lw_at lw_m9 181 rfl) rfl
theorem q2232 : (Jvm.Cond.code ({ cls := "WhatIfSheet$Two", name := "worth", desc := "()D" } : Jvm.MethodName) prog_32_method_3_code (5 : Nat) (Option.some Jvm.ClassFile.FieldType.double)) ∈ lw_all := lw_g (lw_at lw_m9 182 rfl) rfl
theorem q2233 : (Jvm.Cond.methodLink "WhatIfSheet$Two" (20 : Nat) ({ cls := "WhatIfSheet$Node", name := "worth", desc := "()D" } : Jvm.MethodName)) ∈ lw_all := lw_g (lw_at lw_m9 183 rfl) rfl
theorem q2260 : (Jvm.Cond.methodLink "WhatIfSheet$Two" (24 : Nat) ({ cls := "WhatIfSheet$Two", name := "joined", desc := "(DD)D" } : Jvm.MethodName)) ∈ lw_all := lw_g (lw_at lw_m9 210 rfl) rfl
theorem q2261 : (Jvm.Cond.declares ({ cls := "WhatIfSheet$Two", name := "joined", desc := "(DD)D" } : Jvm.MethodName)) ∈ lw_tbl := lw_at lw_m9 211 rfl
theorem q2262 : (Jvm.Cond.sameMethod "WhatIfSheet$Two" "WhatIfSheet$Two" "joined" "(DD)D") ∈ lw_all := lw_g (lw_at lw_m9 212 rfl) rfl
/-! WhatIfSheet$Lesser -/
set_option maxRecDepth 100000
def RX16 : String := "WhatIfSheet$Lesser"
def TX16 : u_T := fun k => match k with
  | 0 => ("WhatIfSheet$Two", "a", "LWhatIfSheet$Node;", true)
  | 1 => ("WhatIfSheet$Two", "b", "LWhatIfSheet$Node;", true)
  | 2 => ("WhatIfSheet$Two", "this$0", "LWhatIfSheet;", true)
  | 3 => ("WhatIfSheet$Node", "this$0", "LWhatIfSheet;", true)
  | _ => ("WhatIfSheet$Lesser", "this$0", "LWhatIfSheet;", true)
def tyX16 : Nat → FieldType := fun k => match k with
  | 0 => .object "WhatIfSheet$Node"
  | 1 => .object "WhatIfSheet$Node"
  | 2 => .object "WhatIfSheet"
  | 3 => .object "WhatIfSheet"
  | _ => .object "WhatIfSheet"
abbrev wsX160 : List Cond := u_ws RX16 TX16 5
-- two fields of one name: no nmX16
theorem tyX16_ok : ∀ k, k < 5 → parseFieldDescriptor (TX16 k).2.2.1 = some (tyX16 k) := by decide +kernel
abbrev cX16_init : ByteArray := prog_12_method_1_code
def yX16_init : MethodName := ⟨RX16, "<init>", "(LWhatIfSheet;LWhatIfSheet$Node;LWhatIfSheet$Node;)V"⟩
def dkwX16_init_0 : List UInt8 := [42, 43, 181, 0, 1, 42, 43, 44, 45, 183, 0, 7, 177]
abbrev dktX16_init_0 : List UInt8 := dkwX16_init_0 ++ []
theorem dksX16_init_0 : cX16_init.data.toList.drop 0 = dktX16_init_0 := by decide +kernel
theorem dX16_init_0 : decode cX16_init 0 = .ok (.aload_n 0, 1) := dk_42 (dk_at dksX16_init_0 0 rfl rfl)
theorem dX16_init_1 : decode cX16_init 1 = .ok (.aload_n 1, 1) := dk_43 (dk_at dksX16_init_0 1 rfl rfl)
theorem dX16_init_2 : decode cX16_init 2 = .ok (.putfield 1, 3) := dk_181 0 1 (dk_at dksX16_init_0 2 rfl rfl)
theorem dX16_init_5 : decode cX16_init 5 = .ok (.aload_n 0, 1) := dk_42 (dk_at dksX16_init_0 5 rfl rfl)
theorem dX16_init_6 : decode cX16_init 6 = .ok (.aload_n 1, 1) := dk_43 (dk_at dksX16_init_0 6 rfl rfl)
theorem dX16_init_7 : decode cX16_init 7 = .ok (.aload_n 2, 1) := dk_44 (dk_at dksX16_init_0 7 rfl rfl)
theorem dX16_init_8 : decode cX16_init 8 = .ok (.aload_n 3, 1) := dk_45 (dk_at dksX16_init_0 8 rfl rfl)
theorem dX16_init_9 : decode cX16_init 9 = .ok (.invokespecial 7, 3) := dk_183 0 7 (dk_at dksX16_init_0 9 rfl rfl)
theorem dX16_init_12 : decode cX16_init 12 = .ok (.return_, 1) := dk_177 (dk_at dksX16_init_0 12 rfl rfl)
abbrev cX16_joined : ByteArray := prog_12_method_3_code
def yX16_joined : MethodName := ⟨RX16, "joined", "(DD)D"⟩
def dkwX16_joined_0 : List UInt8 := [42, 39, 41, 182, 0, 13, 153, 0, 7, 41, 167, 0, 4, 39, 175]
abbrev dktX16_joined_0 : List UInt8 := dkwX16_joined_0 ++ []
theorem dksX16_joined_0 : cX16_joined.data.toList.drop 0 = dktX16_joined_0 := by decide +kernel
theorem dX16_joined_0 : decode cX16_joined 0 = .ok (.aload_n 0, 1) := dk_42 (dk_at dksX16_joined_0 0 rfl rfl)
theorem dX16_joined_1 : decode cX16_joined 1 = .ok (.dload_n 1, 1) := dk_39 (dk_at dksX16_joined_0 1 rfl rfl)
theorem dX16_joined_2 : decode cX16_joined 2 = .ok (.dload_n 3, 1) := dk_41 (dk_at dksX16_joined_0 2 rfl rfl)
theorem dX16_joined_3 : decode cX16_joined 3 = .ok (.invokevirtual 13, 3) := dk_182 0 13 (dk_at dksX16_joined_0 3 rfl rfl)
theorem dX16_joined_6 : decode cX16_joined 6 = .ok (.ifCond .eq 7, 3) := dk_153 0 7 (dk_at dksX16_joined_0 6 rfl rfl)
theorem dX16_joined_9 : decode cX16_joined 9 = .ok (.dload_n 3, 1) := dk_41 (dk_at dksX16_joined_0 9 rfl rfl)
theorem dX16_joined_10 : decode cX16_joined 10 = .ok (.goto 4, 3) := dk_167 0 4 (dk_at dksX16_joined_0 10 rfl rfl)
theorem dX16_joined_13 : decode cX16_joined 13 = .ok (.dload_n 1, 1) := dk_39 (dk_at dksX16_joined_0 13 rfl rfl)
theorem dX16_joined_14 : decode cX16_joined 14 = .ok (.dreturn, 1) := dk_175 (dk_at dksX16_joined_0 14 rfl rfl)
abbrev cX16_takes : ByteArray := prog_12_method_2_code
def yX16_takes : MethodName := ⟨RX16, "takes", "(DD)Z"⟩
def dkwX16_takes_0 : List UInt8 := [41, 39, 152, 156, 0, 7, 4, 167, 0, 4, 3, 172]
abbrev dktX16_takes_0 : List UInt8 := dkwX16_takes_0 ++ []
theorem dksX16_takes_0 : cX16_takes.data.toList.drop 0 = dktX16_takes_0 := by decide +kernel
theorem dX16_takes_0 : decode cX16_takes 0 = .ok (.dload_n 3, 1) := dk_41 (dk_at dksX16_takes_0 0 rfl rfl)
theorem dX16_takes_1 : decode cX16_takes 1 = .ok (.dload_n 1, 1) := dk_39 (dk_at dksX16_takes_0 1 rfl rfl)
theorem dX16_takes_2 : decode cX16_takes 2 = .ok (.dcmp .g, 1) := dk_152 (dk_at dksX16_takes_0 2 rfl rfl)
theorem dX16_takes_3 : decode cX16_takes 3 = .ok (.ifCond .ge 7, 3) := dk_156 0 7 (dk_at dksX16_takes_0 3 rfl rfl)
theorem dX16_takes_6 : decode cX16_takes 6 = .ok (.iconst 1, 1) := dk_4 (dk_at dksX16_takes_0 6 rfl rfl)
theorem dX16_takes_7 : decode cX16_takes 7 = .ok (.goto 4, 3) := dk_167 0 4 (dk_at dksX16_takes_0 7 rfl rfl)
theorem dX16_takes_10 : decode cX16_takes 10 = .ok (.iconst 0, 1) := dk_3 (dk_at dksX16_takes_0 10 rfl rfl)
theorem dX16_takes_11 : decode cX16_takes 11 = .ok (.ireturn, 1) := dk_172 (dk_at dksX16_takes_0 11 rfl rfl)
theorem q179 : (Jvm.Cond.initialized "WhatIfSheet$Lesser") ∈ lw_all := lw_g (lw_at lw_m1 49 rfl) rfl
theorem q777 : (Jvm.Cond.selects "WhatIfSheet$Lesser" ({ cls := "java/lang/Object", name := "equals", desc := "(Ljava/lang/Object;)Z" } : Jvm.MethodName) ({ cls := "java/lang/Object", name := "equals", desc := "(Ljava/lang/Object;)Z" } : Jvm.MethodName)) ∈ lw_all := lw_g (lw_at lw_m3 167 rfl) rfl
theorem q854 : (Jvm.Cond.selects "WhatIfSheet$Lesser" ({ cls := "java/lang/Object", name := "getClass", desc := "()Ljava/lang/Class;" } : Jvm.MethodName) ({ cls := "java/lang/Object", name := "getClass", desc := "()Ljava/lang/Class;" } : Jvm.MethodName)) ∈ lw_all := lw_g (lw_at lw_m4 4 rfl) rfl
theorem q1601 : (Jvm.Cond.instantiable "WhatIfSheet$Lesser" (5 : Nat)) ∈ lw_all := lw_g (lw_at lw_m7 31 rfl) rfl
theorem q1603 : (Jvm.Cond.instanceMethod ({ cls := "WhatIfSheet$Lesser", name := "<init>", desc := "(LWhatIfSheet;LWhatIfSheet$Node;LWhatIfSheet$Node;)V" } : Jvm.MethodName)) ∈ lw_all := lw_g (lw_at lw_m7 33 rfl) rfl
theorem q1604 : (Jvm.Cond.code ({ cls := "WhatIfSheet$Lesser", name := "<init>", desc := "(LWhatIfSheet;LWhatIfSheet$Node;LWhatIfSheet$Node;)V" } : Jvm.MethodName) prog_12_method_1_code (4 : Nat) (Option.none : Option Jvm.ClassFile.FieldType)) ∈ lw_all := lw_g (lw_at lw_m7 34 rfl) rfl
theorem q1605 : (Jvm.Cond.methodLink "WhatIfSheet$Lesser" (7 : Nat) ({ cls := "WhatIfSheet$Two", name := "<init>", desc := "(LWhatIfSheet;LWhatIfSheet$Node;LWhatIfSheet$Node;)V" } : Jvm.MethodName)) ∈ lw_all := lw_g (lw_at lw_m7 35 rfl) rfl
theorem q1609 : (Jvm.Cond.fieldLink "WhatIfSheet$Lesser" (1 : Nat) "WhatIfSheet$Lesser" "this$0" "LWhatIfSheet;") ∈ lw_all := lw_g (lw_at lw_m7 39 rfl) rfl
theorem q1613 : (Jvm.Cond.laysFinal "WhatIfSheet$Lesser" "WhatIfSheet$Lesser" "this$0" "LWhatIfSheet;") ∈ lw_all := lw_g (lw_at lw_m7 43 rfl) rfl
theorem q1614 : (Jvm.Cond.soleField "WhatIfSheet$Lesser" "this$0") ∈ lw_all := lw_g (lw_at lw_m7 44 rfl) rfl
theorem q1615 : (Jvm.Cond.laysFinal "WhatIfSheet$Lesser" "WhatIfSheet$Two" "a" "LWhatIfSheet$Node;") ∈ lw_all := lw_g (lw_at lw_m7 45 rfl) rfl
theorem q1617 : (Jvm.Cond.laysFinal "WhatIfSheet$Lesser" "WhatIfSheet$Two" "b" "LWhatIfSheet$Node;") ∈ lw_all := lw_g (lw_at lw_m7 47 rfl) rfl
theorem q1619 : (Jvm.Cond.laysFinal "WhatIfSheet$Lesser" "WhatIfSheet$Two" "this$0" "LWhatIfSheet;") ∈ lw_all := lw_g (lw_at lw_m7 49 rfl) rfl
theorem q1621 : (Jvm.Cond.laysFinal "WhatIfSheet$Lesser" "WhatIfSheet$Node" "this$0" "LWhatIfSheet;") ∈ lw_all := lw_g (lw_at lw_m7 51 rfl) rfl
theorem q1622 : (Jvm.Cond.superclass "WhatIfSheet$Lesser" "WhatIfSheet$Two") ∈ lw_all := lw_g (lw_at lw_m7 52 rfl) rfl
theorem q2267 : (Jvm.Cond.instanceMethod ({ cls := "WhatIfSheet$Lesser", name := "joined", desc := "(DD)D" } : Jvm.MethodName)) ∈ lw_all := lw_g (lw_at lw_m9 217 rfl) rfl
theorem q2268 : (Jvm.Cond.code ({ cls := "WhatIfSheet$Lesser", name := "joined", desc := "(DD)D" } : Jvm.MethodName) prog_12_method_3_code (5 : Nat) (Option.some Jvm.ClassFile.FieldType.double)) ∈ lw_all := lw_g (lw_at lw_m9 218 rfl) rfl
theorem q2269 : (Jvm.Cond.methodLink "WhatIfSheet$Lesser" (13 : Nat) ({ cls := "WhatIfSheet$Lesser", name := "takes", desc := "(DD)Z" } : Jvm.MethodName)) ∈ lw_all := lw_g (lw_at lw_m9 219 rfl) rfl
theorem q2270 : (Jvm.Cond.instanceMethod ({ cls := "WhatIfSheet$Lesser", name := "takes", desc := "(DD)Z" } : Jvm.MethodName)) ∈ lw_all := lw_g (lw_at lw_m9 220 rfl) rfl
theorem q2271 : (Jvm.Cond.selects "WhatIfSheet$Lesser" ({ cls := "WhatIfSheet$Lesser", name := "takes", desc := "(DD)Z" } : Jvm.MethodName) ({ cls := "WhatIfSheet$Lesser", name := "takes", desc := "(DD)Z" } : Jvm.MethodName)) ∈ lw_all := lw_g (lw_at lw_m9 221 rfl) rfl
theorem q2272 : (Jvm.Cond.sameMethod "WhatIfSheet$Lesser" "WhatIfSheet$Lesser" "takes" "(DD)Z") ∈ lw_all := lw_g (lw_at lw_m9 222 rfl) rfl
theorem q2277 : (Jvm.Cond.code ({ cls := "WhatIfSheet$Lesser", name := "takes", desc := "(DD)Z" } : Jvm.MethodName) prog_12_method_2_code (5 : Nat) (Option.some Jvm.ClassFile.FieldType.boolean)) ∈ lw_all := lw_g (lw_at lw_m9 227 rfl) rfl
theorem q2278 : (Jvm.Cond.selects "WhatIfSheet$Lesser" ({ cls := "WhatIfSheet$Two", name := "joined", desc := "(DD)D" } : Jvm.MethodName) ({ cls := "WhatIfSheet$Lesser", name := "joined", desc := "(DD)D" } : Jvm.MethodName)) ∈ lw_all := lw_g (lw_at lw_m9 228 rfl) rfl
theorem q2282 : (Jvm.Cond.selects "WhatIfSheet$Lesser" ({ cls := "WhatIfSheet$Node", name := "worth", desc := "()D" } : Jvm.MethodName) ({ cls := "WhatIfSheet$Two", name := "worth", desc := "()D" } : Jvm.MethodName)) ∈ lw_all := lw_g (lw_at lw_m9 232 rfl) rfl
theorem q3418 : (Jvm.Cond.castable "WhatIfSheet$Lesser" "java/lang/Object") ∈ lw_tbl := lw_at lw_m14 168 rfl
theorem in_X16 : ∀ w ∈ wsX160, w ∈ lw_all := lw_in wsX160 [1615, 1617, 1619, 1621, 1613] (by decide +kernel) (by decide +kernel)
/-! WhatIfSheet$Greater -/
set_option maxRecDepth 100000
def RX17 : String := "WhatIfSheet$Greater"
def TX17 : u_T := fun k => match k with
  | 0 => ("WhatIfSheet$Two", "a", "LWhatIfSheet$Node;", true)
  | 1 => ("WhatIfSheet$Two", "b", "LWhatIfSheet$Node;", true)
  | 2 => ("WhatIfSheet$Two", "this$0", "LWhatIfSheet;", true)
  | 3 => ("WhatIfSheet$Node", "this$0", "LWhatIfSheet;", true)
  | 4 => ("WhatIfSheet$Lesser", "this$0", "LWhatIfSheet;", true)
  | _ => ("WhatIfSheet$Greater", "this$0", "LWhatIfSheet;", true)
def tyX17 : Nat → FieldType := fun k => match k with
  | 0 => .object "WhatIfSheet$Node"
  | 1 => .object "WhatIfSheet$Node"
  | 2 => .object "WhatIfSheet"
  | 3 => .object "WhatIfSheet"
  | 4 => .object "WhatIfSheet"
  | _ => .object "WhatIfSheet"
abbrev wsX170 : List Cond := u_ws RX17 TX17 6
-- two fields of one name: no nmX17
theorem tyX17_ok : ∀ k, k < 6 → parseFieldDescriptor (TX17 k).2.2.1 = some (tyX17 k) := by decide +kernel
abbrev cX17_init : ByteArray := prog_10_method_1_code
def yX17_init : MethodName := ⟨RX17, "<init>", "(LWhatIfSheet;LWhatIfSheet$Node;LWhatIfSheet$Node;)V"⟩
def dkwX17_init_0 : List UInt8 := [42, 43, 181, 0, 1, 42, 43, 44, 45, 183, 0, 7, 177]
abbrev dktX17_init_0 : List UInt8 := dkwX17_init_0 ++ []
theorem dksX17_init_0 : cX17_init.data.toList.drop 0 = dktX17_init_0 := by decide +kernel
theorem dX17_init_0 : decode cX17_init 0 = .ok (.aload_n 0, 1) := dk_42 (dk_at dksX17_init_0 0 rfl rfl)
theorem dX17_init_1 : decode cX17_init 1 = .ok (.aload_n 1, 1) := dk_43 (dk_at dksX17_init_0 1 rfl rfl)
theorem dX17_init_2 : decode cX17_init 2 = .ok (.putfield 1, 3) := dk_181 0 1 (dk_at dksX17_init_0 2 rfl rfl)
theorem dX17_init_5 : decode cX17_init 5 = .ok (.aload_n 0, 1) := dk_42 (dk_at dksX17_init_0 5 rfl rfl)
theorem dX17_init_6 : decode cX17_init 6 = .ok (.aload_n 1, 1) := dk_43 (dk_at dksX17_init_0 6 rfl rfl)
theorem dX17_init_7 : decode cX17_init 7 = .ok (.aload_n 2, 1) := dk_44 (dk_at dksX17_init_0 7 rfl rfl)
theorem dX17_init_8 : decode cX17_init 8 = .ok (.aload_n 3, 1) := dk_45 (dk_at dksX17_init_0 8 rfl rfl)
theorem dX17_init_9 : decode cX17_init 9 = .ok (.invokespecial 7, 3) := dk_183 0 7 (dk_at dksX17_init_0 9 rfl rfl)
theorem dX17_init_12 : decode cX17_init 12 = .ok (.return_, 1) := dk_177 (dk_at dksX17_init_0 12 rfl rfl)
abbrev cX17_takes : ByteArray := prog_10_method_2_code
def yX17_takes : MethodName := ⟨RX17, "takes", "(DD)Z"⟩
def dkwX17_takes_0 : List UInt8 := [39, 41, 151, 153, 0, 16, 42, 39, 41, 183, 0, 13, 154, 0, 7, 4, 167, 0, 4, 3, 172]
abbrev dktX17_takes_0 : List UInt8 := dkwX17_takes_0 ++ []
theorem dksX17_takes_0 : cX17_takes.data.toList.drop 0 = dktX17_takes_0 := by decide +kernel
theorem dX17_takes_0 : decode cX17_takes 0 = .ok (.dload_n 1, 1) := dk_39 (dk_at dksX17_takes_0 0 rfl rfl)
theorem dX17_takes_1 : decode cX17_takes 1 = .ok (.dload_n 3, 1) := dk_41 (dk_at dksX17_takes_0 1 rfl rfl)
theorem dX17_takes_2 : decode cX17_takes 2 = .ok (.dcmp .l, 1) := dk_151 (dk_at dksX17_takes_0 2 rfl rfl)
theorem dX17_takes_3 : decode cX17_takes 3 = .ok (.ifCond .eq 16, 3) := dk_153 0 16 (dk_at dksX17_takes_0 3 rfl rfl)
theorem dX17_takes_6 : decode cX17_takes 6 = .ok (.aload_n 0, 1) := dk_42 (dk_at dksX17_takes_0 6 rfl rfl)
theorem dX17_takes_7 : decode cX17_takes 7 = .ok (.dload_n 1, 1) := dk_39 (dk_at dksX17_takes_0 7 rfl rfl)
theorem dX17_takes_8 : decode cX17_takes 8 = .ok (.dload_n 3, 1) := dk_41 (dk_at dksX17_takes_0 8 rfl rfl)
theorem dX17_takes_9 : decode cX17_takes 9 = .ok (.invokespecial 13, 3) := dk_183 0 13 (dk_at dksX17_takes_0 9 rfl rfl)
theorem dX17_takes_12 : decode cX17_takes 12 = .ok (.ifCond .ne 7, 3) := dk_154 0 7 (dk_at dksX17_takes_0 12 rfl rfl)
theorem dX17_takes_15 : decode cX17_takes 15 = .ok (.iconst 1, 1) := dk_4 (dk_at dksX17_takes_0 15 rfl rfl)
theorem dX17_takes_16 : decode cX17_takes 16 = .ok (.goto 4, 3) := dk_167 0 4 (dk_at dksX17_takes_0 16 rfl rfl)
theorem dX17_takes_19 : decode cX17_takes 19 = .ok (.iconst 0, 1) := dk_3 (dk_at dksX17_takes_0 19 rfl rfl)
theorem dX17_takes_20 : decode cX17_takes 20 = .ok (.ireturn, 1) := dk_172 (dk_at dksX17_takes_0 20 rfl rfl)
theorem q180 : (Jvm.Cond.initialized "WhatIfSheet$Greater") ∈ lw_all := lw_g (lw_at lw_m1 50 rfl) rfl
theorem q775 : (Jvm.Cond.selects "WhatIfSheet$Greater" ({ cls := "java/lang/Object", name := "equals", desc := "(Ljava/lang/Object;)Z" } : Jvm.MethodName) ({ cls := "java/lang/Object", name := "equals", desc := "(Ljava/lang/Object;)Z" } : Jvm.MethodName)) ∈ lw_all := lw_g (lw_at lw_m3 165 rfl) rfl
theorem q852 : (Jvm.Cond.selects "WhatIfSheet$Greater" ({ cls := "java/lang/Object", name := "getClass", desc := "()Ljava/lang/Class;" } : Jvm.MethodName) ({ cls := "java/lang/Object", name := "getClass", desc := "()Ljava/lang/Class;" } : Jvm.MethodName)) ∈ lw_all := lw_g (lw_at lw_m4 2 rfl) rfl
theorem q1624 : (Jvm.Cond.instantiable "WhatIfSheet$Greater" (6 : Nat)) ∈ lw_all := lw_g (lw_at lw_m7 54 rfl) rfl
theorem q1626 : (Jvm.Cond.instanceMethod ({ cls := "WhatIfSheet$Greater", name := "<init>", desc := "(LWhatIfSheet;LWhatIfSheet$Node;LWhatIfSheet$Node;)V" } : Jvm.MethodName)) ∈ lw_all := lw_g (lw_at lw_m7 56 rfl) rfl
theorem q1627 : (Jvm.Cond.code ({ cls := "WhatIfSheet$Greater", name := "<init>", desc := "(LWhatIfSheet;LWhatIfSheet$Node;LWhatIfSheet$Node;)V" } : Jvm.MethodName) prog_10_method_1_code (4 : Nat) (Option.none : Option Jvm.ClassFile.FieldType)) ∈ lw_all := lw_g (lw_at lw_m7 57 rfl) rfl
theorem q1628 : (Jvm.Cond.methodLink "WhatIfSheet$Greater" (7 : Nat) ({ cls := "WhatIfSheet$Lesser", name := "<init>", desc := "(LWhatIfSheet;LWhatIfSheet$Node;LWhatIfSheet$Node;)V" } : Jvm.MethodName)) ∈ lw_all := lw_g (lw_at lw_m7 58 rfl) rfl
theorem q1629 : (Jvm.Cond.fieldLink "WhatIfSheet$Greater" (1 : Nat) "WhatIfSheet$Greater" "this$0" "LWhatIfSheet;") ∈ lw_all := lw_g (lw_at lw_m7 59 rfl) rfl
theorem q1630 : (Jvm.Cond.laysFinal "WhatIfSheet$Greater" "WhatIfSheet$Greater" "this$0" "LWhatIfSheet;") ∈ lw_all := lw_g (lw_at lw_m7 60 rfl) rfl
theorem q1631 : (Jvm.Cond.soleField "WhatIfSheet$Greater" "this$0") ∈ lw_all := lw_g (lw_at lw_m7 61 rfl) rfl
theorem q1632 : (Jvm.Cond.laysFinal "WhatIfSheet$Greater" "WhatIfSheet$Lesser" "this$0" "LWhatIfSheet;") ∈ lw_all := lw_g (lw_at lw_m7 62 rfl) rfl
theorem q1633 : (Jvm.Cond.laysFinal "WhatIfSheet$Greater" "WhatIfSheet$Two" "a" "LWhatIfSheet$Node;") ∈ lw_all := lw_g (lw_at lw_m7 63 rfl) rfl
theorem q1634 : (Jvm.Cond.laysFinal "WhatIfSheet$Greater" "WhatIfSheet$Two" "b" "LWhatIfSheet$Node;") ∈ lw_all := lw_g (lw_at lw_m7 64 rfl) rfl
theorem q1635 : (Jvm.Cond.laysFinal "WhatIfSheet$Greater" "WhatIfSheet$Two" "this$0" "LWhatIfSheet;") ∈ lw_all := lw_g (lw_at lw_m7 65 rfl) rfl
theorem q1636 : (Jvm.Cond.laysFinal "WhatIfSheet$Greater" "WhatIfSheet$Node" "this$0" "LWhatIfSheet;") ∈ lw_all := lw_g (lw_at lw_m7 66 rfl) rfl
theorem q1637 : (Jvm.Cond.superclass "WhatIfSheet$Greater" "WhatIfSheet$Lesser") ∈ lw_all := lw_g (lw_at lw_m7 67 rfl) rfl
theorem q2266 : (Jvm.Cond.selects "WhatIfSheet$Greater" ({ cls := "WhatIfSheet$Two", name := "joined", desc := "(DD)D" } : Jvm.MethodName) ({ cls := "WhatIfSheet$Lesser", name := "joined", desc := "(DD)D" } : Jvm.MethodName)) ∈ lw_all := lw_g (lw_at lw_m9 216 rfl) rfl
theorem q2273 : (Jvm.Cond.selects "WhatIfSheet$Greater" ({ cls := "WhatIfSheet$Lesser", name := "takes", desc := "(DD)Z" } : Jvm.MethodName) ({ cls := "WhatIfSheet$Greater", name := "takes", desc := "(DD)Z" } : Jvm.MethodName)) ∈ lw_all := lw_g (lw_at lw_m9 223 rfl) rfl
theorem q2274 : (Jvm.Cond.instanceMethod ({ cls := "WhatIfSheet$Greater", name := "takes", desc := "(DD)Z" } : Jvm.MethodName)) ∈ lw_all := lw_g (lw_at lw_m9 224 rfl) rfl
theorem q2275 : (Jvm.Cond.code ({ cls := "WhatIfSheet$Greater", name := "takes", desc := "(DD)Z" } : Jvm.MethodName) prog_10_method_2_code (5 : Nat) (Option.some Jvm.ClassFile.FieldType.boolean)) ∈ lw_all := lw_g (lw_at lw_m9 225 rfl) rfl
theorem q2276 : (Jvm.Cond.methodLink "WhatIfSheet$Greater" (13 : Nat) ({ cls := "WhatIfSheet$Lesser", name := "takes", desc := "(DD)Z" } : Jvm.MethodName)) ∈ lw_all := lw_g (lw_at lw_m9 226 rfl) rfl
theorem q2280 : (Jvm.Cond.selects "WhatIfSheet$Greater" ({ cls := "WhatIfSheet$Node", name := "worth", desc := "()D" } : Jvm.MethodName) ({ cls := "WhatIfSheet$Two", name := "worth", desc := "()D" } : Jvm.MethodName)) ∈ lw_all := lw_g (lw_at lw_m9 230 rfl) rfl
theorem q3419 : (Jvm.Cond.castable "WhatIfSheet$Greater" "java/lang/Object") ∈ lw_tbl := lw_at lw_m14 169 rfl
theorem in_X17 : ∀ w ∈ wsX170, w ∈ lw_all := lw_in wsX170 [1633, 1634, 1635, 1636, 1632, 1630] (by decide +kernel) (by decide +kernel)
/-! WhatIfSheet$Asked -/
set_option maxRecDepth 100000
def RX18 : String := "WhatIfSheet$Asked"
def TX18 : u_T := fun k => match k with
  | 0 => ("WhatIfSheet$Node", "this$0", "LWhatIfSheet;", true)
  | 1 => ("WhatIfSheet$Asked", "t", "I", true)
  | _ => ("WhatIfSheet$Asked", "this$0", "LWhatIfSheet;", true)
def tyX18 : Nat → FieldType := fun k => match k with
  | 0 => .object "WhatIfSheet"
  | 1 => .int
  | _ => .object "WhatIfSheet"
abbrev wsX180 : List Cond := u_ws RX18 TX18 3
-- two fields of one name: no nmX18
theorem tyX18_ok : ∀ k, k < 3 → parseFieldDescriptor (TX18 k).2.2.1 = some (tyX18 k) := by decide +kernel
abbrev cX18_init : ByteArray := prog_2_method_1_code
def yX18_init : MethodName := ⟨RX18, "<init>", "(LWhatIfSheet;I)V"⟩
def dkwX18_init_0 : List UInt8 := [42, 43, 181, 0, 3, 42, 43, 183, 0, 9, 42, 28, 181, 0, 15, 177]
abbrev dktX18_init_0 : List UInt8 := dkwX18_init_0 ++ []
theorem dksX18_init_0 : cX18_init.data.toList.drop 0 = dktX18_init_0 := by decide +kernel
theorem dX18_init_0 : decode cX18_init 0 = .ok (.aload_n 0, 1) := dk_42 (dk_at dksX18_init_0 0 rfl rfl)
theorem dX18_init_1 : decode cX18_init 1 = .ok (.aload_n 1, 1) := dk_43 (dk_at dksX18_init_0 1 rfl rfl)
theorem dX18_init_2 : decode cX18_init 2 = .ok (.putfield 3, 3) := dk_181 0 3 (dk_at dksX18_init_0 2 rfl rfl)
theorem dX18_init_5 : decode cX18_init 5 = .ok (.aload_n 0, 1) := dk_42 (dk_at dksX18_init_0 5 rfl rfl)
theorem dX18_init_6 : decode cX18_init 6 = .ok (.aload_n 1, 1) := dk_43 (dk_at dksX18_init_0 6 rfl rfl)
theorem dX18_init_7 : decode cX18_init 7 = .ok (.invokespecial 9, 3) := dk_183 0 9 (dk_at dksX18_init_0 7 rfl rfl)
theorem dX18_init_10 : decode cX18_init 10 = .ok (.aload_n 0, 1) := dk_42 (dk_at dksX18_init_0 10 rfl rfl)
theorem dX18_init_11 : decode cX18_init 11 = .ok (.iload_n 2, 1) := dk_28 (dk_at dksX18_init_0 11 rfl rfl)
theorem dX18_init_12 : decode cX18_init 12 = .ok (.putfield 15, 3) := dk_181 0 15 (dk_at dksX18_init_0 12 rfl rfl)
theorem dX18_init_15 : decode cX18_init 15 = .ok (.return_, 1) := dk_177 (dk_at dksX18_init_0 15 rfl rfl)
abbrev cX18_worth : ByteArray := prog_2_method_3_code
def yX18_worth : MethodName := ⟨RX18, "worth", "()D"⟩
def dkwX18_worth_1 : List UInt8 := [182, 0, 27, 14, 175, 42, 180, 0, 3, 43, 182, 0, 31, 42, 43, 182, 0, 35, 175]
abbrev dktX18_worth_1 : List UInt8 := dkwX18_worth_1 ++ []
def dkwX18_worth_0 : List UInt8 := [42, 180, 0, 3, 180, 0, 23, 42, 180, 0, 15, 50, 76, 43, 199, 0, 13, 42, 180, 0, 3, 7]
abbrev dktX18_worth_0 : List UInt8 := dkwX18_worth_0 ++ dktX18_worth_1
theorem dksX18_worth_0 : cX18_worth.data.toList.drop 0 = dktX18_worth_0 := by decide +kernel
theorem dksX18_worth_1 : cX18_worth.data.toList.drop 22 = dktX18_worth_1 := dk_seg dksX18_worth_0 22 rfl rfl
theorem dX18_worth_0 : decode cX18_worth 0 = .ok (.aload_n 0, 1) := dk_42 (dk_at dksX18_worth_0 0 rfl rfl)
theorem dX18_worth_1 : decode cX18_worth 1 = .ok (.getfield 3, 3) := dk_180 0 3 (dk_at dksX18_worth_0 1 rfl rfl)
theorem dX18_worth_4 : decode cX18_worth 4 = .ok (.getfield 23, 3) := dk_180 0 23 (dk_at dksX18_worth_0 4 rfl rfl)
theorem dX18_worth_7 : decode cX18_worth 7 = .ok (.aload_n 0, 1) := dk_42 (dk_at dksX18_worth_0 7 rfl rfl)
theorem dX18_worth_8 : decode cX18_worth 8 = .ok (.getfield 15, 3) := dk_180 0 15 (dk_at dksX18_worth_0 8 rfl rfl)
theorem dX18_worth_11 : decode cX18_worth 11 = .ok (.aaload, 1) := dk_50 (dk_at dksX18_worth_0 11 rfl rfl)
theorem dX18_worth_12 : decode cX18_worth 12 = .ok (.astore_n 1, 1) := dk_76 (dk_at dksX18_worth_0 12 rfl rfl)
theorem dX18_worth_13 : decode cX18_worth 13 = .ok (.aload_n 1, 1) := dk_43 (dk_at dksX18_worth_0 13 rfl rfl)
theorem dX18_worth_14 : decode cX18_worth 14 = .ok (.ifnonnull 13, 3) := dk_199 0 13 (dk_at dksX18_worth_0 14 rfl rfl)
theorem dX18_worth_17 : decode cX18_worth 17 = .ok (.aload_n 0, 1) := dk_42 (dk_at dksX18_worth_0 17 rfl rfl)
theorem dX18_worth_18 : decode cX18_worth 18 = .ok (.getfield 3, 3) := dk_180 0 3 (dk_at dksX18_worth_0 18 rfl rfl)
theorem dX18_worth_21 : decode cX18_worth 21 = .ok (.iconst 4, 1) := dk_7 (dk_at dksX18_worth_0 21 rfl rfl)
theorem dX18_worth_22 : decode cX18_worth 22 = .ok (.invokevirtual 27, 3) := dk_182 0 27 (dk_at dksX18_worth_1 0 rfl rfl)
theorem dX18_worth_25 : decode cX18_worth 25 = .ok (.dconst 0, 1) := dk_14 (dk_at dksX18_worth_1 3 rfl rfl)
theorem dX18_worth_26 : decode cX18_worth 26 = .ok (.dreturn, 1) := dk_175 (dk_at dksX18_worth_1 4 rfl rfl)
theorem dX18_worth_27 : decode cX18_worth 27 = .ok (.aload_n 0, 1) := dk_42 (dk_at dksX18_worth_1 5 rfl rfl)
theorem dX18_worth_28 : decode cX18_worth 28 = .ok (.getfield 3, 3) := dk_180 0 3 (dk_at dksX18_worth_1 6 rfl rfl)
theorem dX18_worth_31 : decode cX18_worth 31 = .ok (.aload_n 1, 1) := dk_43 (dk_at dksX18_worth_1 9 rfl rfl)
theorem dX18_worth_32 : decode cX18_worth 32 = .ok (.invokevirtual 31, 3) := dk_182 0 31 (dk_at dksX18_worth_1 10 rfl rfl)
theorem dX18_worth_35 : decode cX18_worth 35 = .ok (.aload_n 0, 1) := dk_42 (dk_at dksX18_worth_1 13 rfl rfl)
theorem dX18_worth_36 : decode cX18_worth 36 = .ok (.aload_n 1, 1) := dk_43 (dk_at dksX18_worth_1 14 rfl rfl)
theorem dX18_worth_37 : decode cX18_worth 37 = .ok (.invokevirtual 35, 3) := dk_182 0 35 (dk_at dksX18_worth_1 15 rfl rfl)
theorem dX18_worth_40 : decode cX18_worth 40 = .ok (.dreturn, 1) := dk_175 (dk_at dksX18_worth_1 18 rfl rfl)
abbrev cX18_of : ByteArray := prog_2_method_2_code
def yX18_of : MethodName := ⟨RX18, "of", "(LWhatIfSheet$Table;)D"⟩
def dkwX18_of_0 : List UInt8 := [42, 180, 0, 3, 43, 182, 0, 19, 175]
abbrev dktX18_of_0 : List UInt8 := dkwX18_of_0 ++ []
theorem dksX18_of_0 : cX18_of.data.toList.drop 0 = dktX18_of_0 := by decide +kernel
theorem dX18_of_0 : decode cX18_of 0 = .ok (.aload_n 0, 1) := dk_42 (dk_at dksX18_of_0 0 rfl rfl)
theorem dX18_of_1 : decode cX18_of 1 = .ok (.getfield 3, 3) := dk_180 0 3 (dk_at dksX18_of_0 1 rfl rfl)
theorem dX18_of_4 : decode cX18_of 4 = .ok (.aload_n 1, 1) := dk_43 (dk_at dksX18_of_0 4 rfl rfl)
theorem dX18_of_5 : decode cX18_of 5 = .ok (.invokevirtual 19, 3) := dk_182 0 19 (dk_at dksX18_of_0 5 rfl rfl)
theorem dX18_of_8 : decode cX18_of 8 = .ok (.dreturn, 1) := dk_175 (dk_at dksX18_of_0 8 rfl rfl)
theorem q182 : (Jvm.Cond.initialized "WhatIfSheet$Asked") ∈ lw_all := lw_g (lw_at lw_m1 52 rfl) rfl
theorem q767 : (Jvm.Cond.selects "WhatIfSheet$Asked" ({ cls := "java/lang/Object", name := "equals", desc := "(Ljava/lang/Object;)Z" } : Jvm.MethodName) ({ cls := "java/lang/Object", name := "equals", desc := "(Ljava/lang/Object;)Z" } : Jvm.MethodName)) ∈ lw_all := lw_g (lw_at lw_m3 157 rfl) rfl
theorem q844 : (Jvm.Cond.selects "WhatIfSheet$Asked" ({ cls := "java/lang/Object", name := "getClass", desc := "()Ljava/lang/Class;" } : Jvm.MethodName) ({ cls := "java/lang/Object", name := "getClass", desc := "()Ljava/lang/Class;" } : Jvm.MethodName)) ∈ lw_all := lw_g (lw_at lw_m3 234 rfl) rfl
theorem q1204 : (Jvm.Cond.fieldLinkNest "WhatIfSheet$Asked" (23 : Nat) "WhatIfSheet" "tables" "[LWhatIfSheet$Table;" "WhatIfSheet") ∈ lw_tbl := lw_at lw_m5 114 rfl
theorem q1727 : (Jvm.Cond.instantiable "WhatIfSheet$Asked" (3 : Nat)) ∈ lw_all := lw_g (lw_at lw_m7 157 rfl) rfl
theorem q1729 : (Jvm.Cond.instanceMethod ({ cls := "WhatIfSheet$Asked", name := "<init>", desc := "(LWhatIfSheet;I)V" } : Jvm.MethodName)) ∈ lw_all := lw_g (lw_at lw_m7 159 rfl) rfl
theorem q1730 : (Jvm.Cond.code ({ cls := "WhatIfSheet$Asked", name := "<init>", desc := "(LWhatIfSheet;I)V" } : Jvm.MethodName) prog_2_method_1_code (3 : Nat) (Option.none : Option Jvm.ClassFile.FieldType)) ∈ lw_all := lw_g (lw_at lw_m7 160 rfl) rfl
theorem q1731 : (Jvm.Cond.methodLinkNest "WhatIfSheet$Asked" (9 : Nat) ({ cls := "WhatIfSheet$Node", name := "<init>", desc := "(LWhatIfSheet;)V" } : Jvm.MethodName) "WhatIfSheet") ∈ lw_tbl := lw_at lw_m7 161 rfl
theorem q1732 : (Jvm.Cond.fieldLink "WhatIfSheet$Asked" (15 : Nat) "WhatIfSheet$Asked" "t" "I") ∈ lw_all := lw_g (lw_at lw_m7 162 rfl) rfl
theorem q1739 : (Jvm.Cond.fieldLink "WhatIfSheet$Asked" (3 : Nat) "WhatIfSheet$Asked" "this$0" "LWhatIfSheet;") ∈ lw_all := lw_g (lw_at lw_m7 169 rfl) rfl
theorem q1740 : (Jvm.Cond.laysFinal "WhatIfSheet$Asked" "WhatIfSheet$Asked" "t" "I") ∈ lw_all := lw_g (lw_at lw_m7 170 rfl) rfl
theorem q1741 : (Jvm.Cond.soleField "WhatIfSheet$Asked" "t") ∈ lw_all := lw_g (lw_at lw_m7 171 rfl) rfl
theorem q1742 : (Jvm.Cond.laysFinal "WhatIfSheet$Asked" "WhatIfSheet$Asked" "this$0" "LWhatIfSheet;") ∈ lw_all := lw_g (lw_at lw_m7 172 rfl) rfl
theorem q1743 : (Jvm.Cond.soleField "WhatIfSheet$Asked" "this$0") ∈ lw_all := lw_g (lw_at lw_m7 173 rfl) rfl
theorem q1744 : (Jvm.Cond.laysFinal "WhatIfSheet$Asked" "WhatIfSheet$Node" "this$0" "LWhatIfSheet;") ∈ lw_all := lw_g (lw_at lw_m7 174 rfl) rfl
theorem q1745 : (Jvm.Cond.superclass "WhatIfSheet$Asked" "WhatIfSheet$Node") ∈ lw_all := lw_g (lw_at lw_m7 175 rfl) rfl
theorem q2147 : (Jvm.Cond.selects "WhatIfSheet$Asked" ({ cls := "WhatIfSheet$Node", name := "worth", desc := "()D" } : Jvm.MethodName) ({ cls := "WhatIfSheet$Asked", name := "worth", desc := "()D" } : Jvm.MethodName)) ∈ lw_all := lw_g (lw_at lw_m9 97 rfl) rfl
theorem q2148 : (Jvm.Cond.instanceMethod ({ cls := "WhatIfSheet$Asked", name := "worth", desc := "()D" } : Jvm.MethodName)) ∈ lw_all := lw_g (lw_at lw_m9 98 rfl) rfl
theorem q2149 : (Jvm.Cond.code ({ cls := "WhatIfSheet$Asked", name := "worth", desc := "()D" } : Jvm.MethodName) prog_2_method_3_code (2 : Nat) (Option.some Jvm.ClassFile.FieldType.double)) ∈ lw_all := lw_g (lw_at lw_m9 99 rfl) rfl
theorem q2150 : (Jvm.Cond.methodLinkNest "WhatIfSheet$Asked" (27 : Nat) ({ cls := "WhatIfSheet", name := "faults", desc := "(I)V" } : Jvm.MethodName) "WhatIfSheet") ∈ lw_tbl := lw_at lw_m9 100 rfl
theorem q2154 : (Jvm.Cond.methodLinkNest "WhatIfSheet$Asked" (31 : Nat) ({ cls := "WhatIfSheet", name := "runsAll", desc := "(LWhatIfSheet$Table;)V" } : Jvm.MethodName) "WhatIfSheet") ∈ lw_tbl := lw_at lw_m9 104 rfl
theorem q2176 : (Jvm.Cond.methodLink "WhatIfSheet$Asked" (35 : Nat) ({ cls := "WhatIfSheet$Asked", name := "of", desc := "(LWhatIfSheet$Table;)D" } : Jvm.MethodName)) ∈ lw_all := lw_g (lw_at lw_m9 126 rfl) rfl
theorem q2177 : (Jvm.Cond.instanceMethod ({ cls := "WhatIfSheet$Asked", name := "of", desc := "(LWhatIfSheet$Table;)D" } : Jvm.MethodName)) ∈ lw_all := lw_g (lw_at lw_m9 127 rfl) rfl
theorem q2178 : (Jvm.Cond.selects "WhatIfSheet$Asked" ({ cls := "WhatIfSheet$Asked", name := "of", desc := "(LWhatIfSheet$Table;)D" } : Jvm.MethodName) ({ cls := "WhatIfSheet$Asked", name := "of", desc := "(LWhatIfSheet$Table;)D" } : Jvm.MethodName)) ∈ lw_all := lw_g (lw_at lw_m9 128 rfl) rfl
theorem q2179 : (Jvm.Cond.sameMethod "WhatIfSheet$Asked" "WhatIfSheet$Asked" "of" "(LWhatIfSheet$Table;)D") ∈ lw_all := lw_g (lw_at lw_m9 129 rfl) rfl
theorem q2218 : (Jvm.Cond.code ({ cls := "WhatIfSheet$Asked", name := "of", desc := "(LWhatIfSheet$Table;)D" } : Jvm.MethodName) prog_2_method_2_code (2 : Nat) (Option.some Jvm.ClassFile.FieldType.double)) ∈ lw_all := lw_g (lw_at lw_m9 168 rfl) rfl
theorem q2219 : (Jvm.Cond.methodLinkNest "WhatIfSheet$Asked" (19 : Nat) ({ cls := "WhatIfSheet", name := "sum", desc := "(LWhatIfSheet$Table;)D" } : Jvm.MethodName) "WhatIfSheet") ∈ lw_tbl := lw_at lw_m9 169 rfl
theorem q3377 : (Jvm.Cond.sameMethod "WhatIfSheet$Asked" "WhatIfSheet$Asked" "worth" "()D") ∈ lw_all := lw_g (lw_at lw_m14 127 rfl) rfl
theorem q3378 : (Jvm.Cond.selects "WhatIfSheet$Asked" ({ cls := "WhatIfSheet$Asked", name := "worth", desc := "()D" } : Jvm.MethodName) ({ cls := "WhatIfSheet$Asked", name := "worth", desc := "()D" } : Jvm.MethodName)) ∈ lw_all := lw_g (lw_at lw_m14 128 rfl) rfl
theorem q3422 : (Jvm.Cond.castable "WhatIfSheet$Asked" "java/lang/Object") ∈ lw_tbl := lw_at lw_m14 172 rfl
theorem in_X18 : ∀ w ∈ wsX180, w ∈ lw_all := lw_in wsX180 [1744, 1740, 1742] (by decide +kernel) (by decide +kernel)
/-! WhatIfSheet$Mean -/
set_option maxRecDepth 100000
def RX19 : String := "WhatIfSheet$Mean"
def TX19 : u_T := fun k => match k with
  | 0 => ("WhatIfSheet$Node", "this$0", "LWhatIfSheet;", true)
  | 1 => ("WhatIfSheet$Asked", "t", "I", true)
  | 2 => ("WhatIfSheet$Asked", "this$0", "LWhatIfSheet;", true)
  | _ => ("WhatIfSheet$Mean", "this$0", "LWhatIfSheet;", true)
def tyX19 : Nat → FieldType := fun k => match k with
  | 0 => .object "WhatIfSheet"
  | 1 => .int
  | 2 => .object "WhatIfSheet"
  | _ => .object "WhatIfSheet"
abbrev wsX190 : List Cond := u_ws RX19 TX19 4
-- two fields of one name: no nmX19
theorem tyX19_ok : ∀ k, k < 4 → parseFieldDescriptor (TX19 k).2.2.1 = some (tyX19 k) := by decide +kernel
abbrev cX19_init : ByteArray := prog_14_method_1_code
def yX19_init : MethodName := ⟨RX19, "<init>", "(LWhatIfSheet;I)V"⟩
def dkwX19_init_0 : List UInt8 := [42, 43, 181, 0, 3, 42, 43, 28, 183, 0, 9, 177]
abbrev dktX19_init_0 : List UInt8 := dkwX19_init_0 ++ []
theorem dksX19_init_0 : cX19_init.data.toList.drop 0 = dktX19_init_0 := by decide +kernel
theorem dX19_init_0 : decode cX19_init 0 = .ok (.aload_n 0, 1) := dk_42 (dk_at dksX19_init_0 0 rfl rfl)
theorem dX19_init_1 : decode cX19_init 1 = .ok (.aload_n 1, 1) := dk_43 (dk_at dksX19_init_0 1 rfl rfl)
theorem dX19_init_2 : decode cX19_init 2 = .ok (.putfield 3, 3) := dk_181 0 3 (dk_at dksX19_init_0 2 rfl rfl)
theorem dX19_init_5 : decode cX19_init 5 = .ok (.aload_n 0, 1) := dk_42 (dk_at dksX19_init_0 5 rfl rfl)
theorem dX19_init_6 : decode cX19_init 6 = .ok (.aload_n 1, 1) := dk_43 (dk_at dksX19_init_0 6 rfl rfl)
theorem dX19_init_7 : decode cX19_init 7 = .ok (.iload_n 2, 1) := dk_28 (dk_at dksX19_init_0 7 rfl rfl)
theorem dX19_init_8 : decode cX19_init 8 = .ok (.invokespecial 9, 3) := dk_183 0 9 (dk_at dksX19_init_0 8 rfl rfl)
theorem dX19_init_11 : decode cX19_init 11 = .ok (.return_, 1) := dk_177 (dk_at dksX19_init_0 11 rfl rfl)
abbrev cX19_good : ByteArray := prog_14_method_2_code
def yX19_good : MethodName := ⟨RX19, "good", "(LWhatIfSheet$Table;)I"⟩
def dkwX19_good_2 : List UInt8 := [180, 0, 3, 7, 182, 0, 35, 28, 172]
abbrev dktX19_good_2 : List UInt8 := dkwX19_good_2 ++ []
def dkwX19_good_1 : List UInt8 := [180, 0, 29, 29, 51, 154, 0, 6, 132, 2, 1, 132, 3, 1, 167, 255, 222, 28, 154, 0, 11, 42]
abbrev dktX19_good_1 : List UInt8 := dkwX19_good_1 ++ dktX19_good_2
def dkwX19_good_0 : List UInt8 := [3, 61, 3, 62, 29, 43, 182, 0, 15, 162, 0, 32, 42, 180, 0, 3, 180, 0, 21, 42, 180, 0, 25, 50]
abbrev dktX19_good_0 : List UInt8 := dkwX19_good_0 ++ dktX19_good_1
theorem dksX19_good_0 : cX19_good.data.toList.drop 0 = dktX19_good_0 := by decide +kernel
theorem dksX19_good_1 : cX19_good.data.toList.drop 24 = dktX19_good_1 := dk_seg dksX19_good_0 24 rfl rfl
theorem dksX19_good_2 : cX19_good.data.toList.drop 46 = dktX19_good_2 := dk_seg dksX19_good_1 22 rfl rfl
theorem dX19_good_0 : decode cX19_good 0 = .ok (.iconst 0, 1) := dk_3 (dk_at dksX19_good_0 0 rfl rfl)
theorem dX19_good_1 : decode cX19_good 1 = .ok (.istore_n 2, 1) := dk_61 (dk_at dksX19_good_0 1 rfl rfl)
theorem dX19_good_2 : decode cX19_good 2 = .ok (.iconst 0, 1) := dk_3 (dk_at dksX19_good_0 2 rfl rfl)
theorem dX19_good_3 : decode cX19_good 3 = .ok (.istore_n 3, 1) := dk_62 (dk_at dksX19_good_0 3 rfl rfl)
theorem dX19_good_4 : decode cX19_good 4 = .ok (.iload_n 3, 1) := dk_29 (dk_at dksX19_good_0 4 rfl rfl)
theorem dX19_good_5 : decode cX19_good 5 = .ok (.aload_n 1, 1) := dk_43 (dk_at dksX19_good_0 5 rfl rfl)
theorem dX19_good_6 : decode cX19_good 6 = .ok (.invokevirtual 15, 3) := dk_182 0 15 (dk_at dksX19_good_0 6 rfl rfl)
theorem dX19_good_9 : decode cX19_good 9 = .ok (.if_icmp .ge 32, 3) := dk_162 0 32 (dk_at dksX19_good_0 9 rfl rfl)
theorem dX19_good_12 : decode cX19_good 12 = .ok (.aload_n 0, 1) := dk_42 (dk_at dksX19_good_0 12 rfl rfl)
theorem dX19_good_13 : decode cX19_good 13 = .ok (.getfield 3, 3) := dk_180 0 3 (dk_at dksX19_good_0 13 rfl rfl)
theorem dX19_good_16 : decode cX19_good 16 = .ok (.getfield 21, 3) := dk_180 0 21 (dk_at dksX19_good_0 16 rfl rfl)
theorem dX19_good_19 : decode cX19_good 19 = .ok (.aload_n 0, 1) := dk_42 (dk_at dksX19_good_0 19 rfl rfl)
theorem dX19_good_20 : decode cX19_good 20 = .ok (.getfield 25, 3) := dk_180 0 25 (dk_at dksX19_good_0 20 rfl rfl)
theorem dX19_good_23 : decode cX19_good 23 = .ok (.aaload, 1) := dk_50 (dk_at dksX19_good_0 23 rfl rfl)
theorem dX19_good_24 : decode cX19_good 24 = .ok (.getfield 29, 3) := dk_180 0 29 (dk_at dksX19_good_1 0 rfl rfl)
theorem dX19_good_27 : decode cX19_good 27 = .ok (.iload_n 3, 1) := dk_29 (dk_at dksX19_good_1 3 rfl rfl)
theorem dX19_good_28 : decode cX19_good 28 = .ok (.baload, 1) := dk_51 (dk_at dksX19_good_1 4 rfl rfl)
theorem dX19_good_29 : decode cX19_good 29 = .ok (.ifCond .ne 6, 3) := dk_154 0 6 (dk_at dksX19_good_1 5 rfl rfl)
theorem dX19_good_32 : decode cX19_good 32 = .ok (.iinc 2 1, 3) := dk_132 2 1 (dk_at dksX19_good_1 8 rfl rfl)
theorem dX19_good_35 : decode cX19_good 35 = .ok (.iinc 3 1, 3) := dk_132 3 1 (dk_at dksX19_good_1 11 rfl rfl)
theorem dX19_good_38 : decode cX19_good 38 = .ok (.goto (-34), 3) := dk_167 255 222 (dk_at dksX19_good_1 14 rfl rfl)
theorem dX19_good_41 : decode cX19_good 41 = .ok (.iload_n 2, 1) := dk_28 (dk_at dksX19_good_1 17 rfl rfl)
theorem dX19_good_42 : decode cX19_good 42 = .ok (.ifCond .ne 11, 3) := dk_154 0 11 (dk_at dksX19_good_1 18 rfl rfl)
theorem dX19_good_45 : decode cX19_good 45 = .ok (.aload_n 0, 1) := dk_42 (dk_at dksX19_good_1 21 rfl rfl)
theorem dX19_good_46 : decode cX19_good 46 = .ok (.getfield 3, 3) := dk_180 0 3 (dk_at dksX19_good_2 0 rfl rfl)
theorem dX19_good_49 : decode cX19_good 49 = .ok (.iconst 4, 1) := dk_7 (dk_at dksX19_good_2 3 rfl rfl)
theorem dX19_good_50 : decode cX19_good 50 = .ok (.invokevirtual 35, 3) := dk_182 0 35 (dk_at dksX19_good_2 4 rfl rfl)
theorem dX19_good_53 : decode cX19_good 53 = .ok (.iload_n 2, 1) := dk_28 (dk_at dksX19_good_2 7 rfl rfl)
theorem dX19_good_54 : decode cX19_good 54 = .ok (.ireturn, 1) := dk_172 (dk_at dksX19_good_2 8 rfl rfl)
abbrev cX19_of : ByteArray := prog_14_method_3_code
def yX19_of : MethodName := ⟨RX19, "of", "(LWhatIfSheet$Table;)D"⟩
def dkwX19_of_1 : List UInt8 := [175]
abbrev dktX19_of_1 : List UInt8 := dkwX19_of_1 ++ []
def dkwX19_of_0 : List UInt8 := [42, 43, 182, 0, 39, 61, 42, 43, 183, 0, 43, 74, 28, 154, 0, 7, 14, 167, 0, 7, 41, 28, 135, 111]
abbrev dktX19_of_0 : List UInt8 := dkwX19_of_0 ++ dktX19_of_1
theorem dksX19_of_0 : cX19_of.data.toList.drop 0 = dktX19_of_0 := by decide +kernel
theorem dksX19_of_1 : cX19_of.data.toList.drop 24 = dktX19_of_1 := dk_seg dksX19_of_0 24 rfl rfl
theorem dX19_of_0 : decode cX19_of 0 = .ok (.aload_n 0, 1) := dk_42 (dk_at dksX19_of_0 0 rfl rfl)
theorem dX19_of_1 : decode cX19_of 1 = .ok (.aload_n 1, 1) := dk_43 (dk_at dksX19_of_0 1 rfl rfl)
theorem dX19_of_2 : decode cX19_of 2 = .ok (.invokevirtual 39, 3) := dk_182 0 39 (dk_at dksX19_of_0 2 rfl rfl)
theorem dX19_of_5 : decode cX19_of 5 = .ok (.istore_n 2, 1) := dk_61 (dk_at dksX19_of_0 5 rfl rfl)
theorem dX19_of_6 : decode cX19_of 6 = .ok (.aload_n 0, 1) := dk_42 (dk_at dksX19_of_0 6 rfl rfl)
theorem dX19_of_7 : decode cX19_of 7 = .ok (.aload_n 1, 1) := dk_43 (dk_at dksX19_of_0 7 rfl rfl)
theorem dX19_of_8 : decode cX19_of 8 = .ok (.invokespecial 43, 3) := dk_183 0 43 (dk_at dksX19_of_0 8 rfl rfl)
theorem dX19_of_11 : decode cX19_of 11 = .ok (.dstore_n 3, 1) := dk_74 (dk_at dksX19_of_0 11 rfl rfl)
theorem dX19_of_12 : decode cX19_of 12 = .ok (.iload_n 2, 1) := dk_28 (dk_at dksX19_of_0 12 rfl rfl)
theorem dX19_of_13 : decode cX19_of 13 = .ok (.ifCond .ne 7, 3) := dk_154 0 7 (dk_at dksX19_of_0 13 rfl rfl)
theorem dX19_of_16 : decode cX19_of 16 = .ok (.dconst 0, 1) := dk_14 (dk_at dksX19_of_0 16 rfl rfl)
theorem dX19_of_17 : decode cX19_of 17 = .ok (.goto 7, 3) := dk_167 0 7 (dk_at dksX19_of_0 17 rfl rfl)
theorem dX19_of_20 : decode cX19_of 20 = .ok (.dload_n 3, 1) := dk_41 (dk_at dksX19_of_0 20 rfl rfl)
theorem dX19_of_21 : decode cX19_of 21 = .ok (.iload_n 2, 1) := dk_28 (dk_at dksX19_of_0 21 rfl rfl)
theorem dX19_of_22 : decode cX19_of 22 = .ok (.i2d, 1) := dk_135 (dk_at dksX19_of_0 22 rfl rfl)
theorem dX19_of_23 : decode cX19_of 23 = .ok (.ddiv, 1) := dk_111 (dk_at dksX19_of_0 23 rfl rfl)
theorem dX19_of_24 : decode cX19_of 24 = .ok (.dreturn, 1) := dk_175 (dk_at dksX19_of_1 0 rfl rfl)
theorem q183 : (Jvm.Cond.initialized "WhatIfSheet$Mean") ∈ lw_all := lw_g (lw_at lw_m1 53 rfl) rfl
theorem q233 : (Jvm.Cond.fieldLink "WhatIfSheet$Mean" (29 : Nat) "WhatIfSheet$Sight" "errors" "[B") ∈ lw_all := lw_g (lw_at lw_m1 103 rfl) rfl
theorem q779 : (Jvm.Cond.selects "WhatIfSheet$Mean" ({ cls := "java/lang/Object", name := "equals", desc := "(Ljava/lang/Object;)Z" } : Jvm.MethodName) ({ cls := "java/lang/Object", name := "equals", desc := "(Ljava/lang/Object;)Z" } : Jvm.MethodName)) ∈ lw_all := lw_g (lw_at lw_m3 169 rfl) rfl
theorem q856 : (Jvm.Cond.selects "WhatIfSheet$Mean" ({ cls := "java/lang/Object", name := "getClass", desc := "()Ljava/lang/Class;" } : Jvm.MethodName) ({ cls := "java/lang/Object", name := "getClass", desc := "()Ljava/lang/Class;" } : Jvm.MethodName)) ∈ lw_all := lw_g (lw_at lw_m4 6 rfl) rfl
theorem q1212 : (Jvm.Cond.fieldLinkNest "WhatIfSheet$Mean" (21 : Nat) "WhatIfSheet" "sights" "[LWhatIfSheet$Sight;" "WhatIfSheet") ∈ lw_tbl := lw_at lw_m5 122 rfl
theorem q1733 : (Jvm.Cond.fieldLink "WhatIfSheet$Mean" (25 : Nat) "WhatIfSheet$Mean" "t" "I") ∈ lw_all := lw_g (lw_at lw_m7 163 rfl) rfl
theorem q1734 : (Jvm.Cond.sameField "WhatIfSheet$Mean" "WhatIfSheet$Asked" "t" "I") ∈ lw_all := lw_g (lw_at lw_m7 164 rfl) rfl
theorem q1747 : (Jvm.Cond.instantiable "WhatIfSheet$Mean" (4 : Nat)) ∈ lw_all := lw_g (lw_at lw_m7 177 rfl) rfl
theorem q1749 : (Jvm.Cond.instanceMethod ({ cls := "WhatIfSheet$Mean", name := "<init>", desc := "(LWhatIfSheet;I)V" } : Jvm.MethodName)) ∈ lw_all := lw_g (lw_at lw_m7 179 rfl) rfl
theorem q1750 : (Jvm.Cond.code ({ cls := "WhatIfSheet$Mean", name := "<init>", desc := "(LWhatIfSheet;I)V" } : Jvm.MethodName) prog_14_method_1_code (3 : Nat) (Option.none : Option Jvm.ClassFile.FieldType)) ∈ lw_all := lw_g (lw_at lw_m7 180 rfl) rfl
theorem q1751 : (Jvm.Cond.methodLink "WhatIfSheet$Mean" (9 : Nat) ({ cls := "WhatIfSheet$Asked", name := "<init>", desc := "(LWhatIfSheet;I)V" } : Jvm.MethodName)) ∈ lw_all := lw_g (lw_at lw_m7 181 rfl) rfl
theorem q1752 : (Jvm.Cond.fieldLink "WhatIfSheet$Mean" (3 : Nat) "WhatIfSheet$Mean" "this$0" "LWhatIfSheet;") ∈ lw_all := lw_g (lw_at lw_m7 182 rfl) rfl
theorem q1753 : (Jvm.Cond.laysFinal "WhatIfSheet$Mean" "WhatIfSheet$Mean" "this$0" "LWhatIfSheet;") ∈ lw_all := lw_g (lw_at lw_m7 183 rfl) rfl
theorem q1754 : (Jvm.Cond.soleField "WhatIfSheet$Mean" "this$0") ∈ lw_all := lw_g (lw_at lw_m7 184 rfl) rfl
theorem q1755 : (Jvm.Cond.laysFinal "WhatIfSheet$Mean" "WhatIfSheet$Asked" "t" "I") ∈ lw_all := lw_g (lw_at lw_m7 185 rfl) rfl
theorem q1756 : (Jvm.Cond.laysFinal "WhatIfSheet$Mean" "WhatIfSheet$Asked" "this$0" "LWhatIfSheet;") ∈ lw_all := lw_g (lw_at lw_m7 186 rfl) rfl
theorem q1757 : (Jvm.Cond.laysFinal "WhatIfSheet$Mean" "WhatIfSheet$Node" "this$0" "LWhatIfSheet;") ∈ lw_all := lw_g (lw_at lw_m7 187 rfl) rfl
theorem q1758 : (Jvm.Cond.superclass "WhatIfSheet$Mean" "WhatIfSheet$Asked") ∈ lw_all := lw_g (lw_at lw_m7 188 rfl) rfl
theorem q2189 : (Jvm.Cond.declares ({ cls := "WhatIfSheet$Mean", name := "good", desc := "(LWhatIfSheet$Table;)I" } : Jvm.MethodName)) ∈ lw_tbl := lw_at lw_m9 139 rfl
theorem q2192 : (Jvm.Cond.instanceMethod ({ cls := "WhatIfSheet$Mean", name := "good", desc := "(LWhatIfSheet$Table;)I" } : Jvm.MethodName)) ∈ lw_all := lw_g (lw_at lw_m9 142 rfl) rfl
theorem q2193 : (Jvm.Cond.code ({ cls := "WhatIfSheet$Mean", name := "good", desc := "(LWhatIfSheet$Table;)I" } : Jvm.MethodName) prog_14_method_2_code (4 : Nat) (Option.some Jvm.ClassFile.FieldType.int)) ∈ lw_all := lw_g (lw_at lw_m9 143 rfl) rfl
theorem q2194 : (Jvm.Cond.methodLink "WhatIfSheet$Mean" (15 : Nat) ({ cls := "WhatIfSheet$Table", name := "cases", desc := "()I" } : Jvm.MethodName)) ∈ lw_all := lw_g (lw_at lw_m9 144 rfl) rfl
theorem q2195 : (Jvm.Cond.methodLinkNest "WhatIfSheet$Mean" (35 : Nat) ({ cls := "WhatIfSheet", name := "faults", desc := "(I)V" } : Jvm.MethodName) "WhatIfSheet") ∈ lw_tbl := lw_at lw_m9 145 rfl
theorem q2212 : (Jvm.Cond.selects "WhatIfSheet$Mean" ({ cls := "WhatIfSheet$Asked", name := "of", desc := "(LWhatIfSheet$Table;)D" } : Jvm.MethodName) ({ cls := "WhatIfSheet$Mean", name := "of", desc := "(LWhatIfSheet$Table;)D" } : Jvm.MethodName)) ∈ lw_all := lw_g (lw_at lw_m9 162 rfl) rfl
theorem q2213 : (Jvm.Cond.instanceMethod ({ cls := "WhatIfSheet$Mean", name := "of", desc := "(LWhatIfSheet$Table;)D" } : Jvm.MethodName)) ∈ lw_all := lw_g (lw_at lw_m9 163 rfl) rfl
theorem q2214 : (Jvm.Cond.code ({ cls := "WhatIfSheet$Mean", name := "of", desc := "(LWhatIfSheet$Table;)D" } : Jvm.MethodName) prog_14_method_3_code (5 : Nat) (Option.some Jvm.ClassFile.FieldType.double)) ∈ lw_all := lw_g (lw_at lw_m9 164 rfl) rfl
theorem q2215 : (Jvm.Cond.methodLink "WhatIfSheet$Mean" (39 : Nat) ({ cls := "WhatIfSheet$Mean", name := "good", desc := "(LWhatIfSheet$Table;)I" } : Jvm.MethodName)) ∈ lw_all := lw_g (lw_at lw_m9 165 rfl) rfl
theorem q2216 : (Jvm.Cond.methodLink "WhatIfSheet$Mean" (43 : Nat) ({ cls := "WhatIfSheet$Asked", name := "of", desc := "(LWhatIfSheet$Table;)D" } : Jvm.MethodName)) ∈ lw_all := lw_g (lw_at lw_m9 166 rfl) rfl
theorem q2283 : (Jvm.Cond.selects "WhatIfSheet$Mean" ({ cls := "WhatIfSheet$Node", name := "worth", desc := "()D" } : Jvm.MethodName) ({ cls := "WhatIfSheet$Asked", name := "worth", desc := "()D" } : Jvm.MethodName)) ∈ lw_all := lw_g (lw_at lw_m9 233 rfl) rfl
theorem q3364 : (Jvm.Cond.sameMethod "WhatIfSheet$Mean" "WhatIfSheet$Mean" "good" "(LWhatIfSheet$Table;)I") ∈ lw_all := lw_g (lw_at lw_m14 114 rfl) rfl
theorem q3366 : (Jvm.Cond.selects "WhatIfSheet$Mean" ({ cls := "WhatIfSheet$Mean", name := "good", desc := "(LWhatIfSheet$Table;)I" } : Jvm.MethodName) ({ cls := "WhatIfSheet$Mean", name := "good", desc := "(LWhatIfSheet$Table;)I" } : Jvm.MethodName)) ∈ lw_all := lw_g (lw_at lw_m14 116 rfl) rfl
theorem q3381 : (Jvm.Cond.selects "WhatIfSheet$Mean" ({ cls := "WhatIfSheet$Asked", name := "worth", desc := "()D" } : Jvm.MethodName) ({ cls := "WhatIfSheet$Asked", name := "worth", desc := "()D" } : Jvm.MethodName)) ∈ lw_all := lw_g (lw_at lw_m14 131 rfl) rfl
theorem q3423 : (Jvm.Cond.castable "WhatIfSheet$Mean" "java/lang/Object") ∈ lw_tbl := lw_at lw_m14 173 rfl
theorem in_X19 : ∀ w ∈ wsX190, w ∈ lw_all := lw_in wsX190 [1757, 1755, 1756, 1753] (by decide +kernel) (by decide +kernel)
/-! WhatIfSheet$Plain -/
set_option maxRecDepth 100000
def RX2 : String := "WhatIfSheet$Plain"
def TX2 : u_T := fun k => match k with
  | 0 => ("WhatIfSheet$Plain", "number", "I", true)
  | 1 => ("WhatIfSheet$Plain", "formula", "LWhatIfSheet$Formula;", false)
  | _ => ("WhatIfSheet$Plain", "own", "D", false)
def tyX2 : Nat → FieldType := fun k => match k with
  | 0 => .int
  | 1 => .object "WhatIfSheet$Formula"
  | _ => .double
abbrev wsX20 : List Cond := u_ws RX2 TX2 3
theorem nmX2 : ∀ a, a < 3 → ∀ b, b < 3 → a ≠ b → (TX2 a).2.1 ≠ (TX2 b).2.1 := by decide +kernel
theorem tyX2_ok : ∀ k, k < 3 → parseFieldDescriptor (TX2 k).2.2.1 = some (tyX2 k) := by decide +kernel
abbrev cX2_init : ByteArray := prog_21_method_1_code
def yX2_init : MethodName := ⟨RX2, "<init>", "(I)V"⟩
def dkwX2_init_0 : List UInt8 := [42, 183, 0, 3, 42, 20, 0, 9, 181, 0, 11, 42, 27, 181, 0, 17, 177]
abbrev dktX2_init_0 : List UInt8 := dkwX2_init_0 ++ []
theorem dksX2_init_0 : cX2_init.data.toList.drop 0 = dktX2_init_0 := by decide +kernel
theorem dX2_init_0 : decode cX2_init 0 = .ok (.aload_n 0, 1) := dk_42 (dk_at dksX2_init_0 0 rfl rfl)
theorem dX2_init_1 : decode cX2_init 1 = .ok (.invokespecial 3, 3) := dk_183 0 3 (dk_at dksX2_init_0 1 rfl rfl)
theorem dX2_init_4 : decode cX2_init 4 = .ok (.aload_n 0, 1) := dk_42 (dk_at dksX2_init_0 4 rfl rfl)
theorem dX2_init_5 : decode cX2_init 5 = .ok (.ldc2_w 9, 3) := dk_20 0 9 (dk_at dksX2_init_0 5 rfl rfl)
theorem dX2_init_8 : decode cX2_init 8 = .ok (.putfield 11, 3) := dk_181 0 11 (dk_at dksX2_init_0 8 rfl rfl)
theorem dX2_init_11 : decode cX2_init 11 = .ok (.aload_n 0, 1) := dk_42 (dk_at dksX2_init_0 11 rfl rfl)
theorem dX2_init_12 : decode cX2_init 12 = .ok (.iload_n 1, 1) := dk_27 (dk_at dksX2_init_0 12 rfl rfl)
theorem dX2_init_13 : decode cX2_init 13 = .ok (.putfield 17, 3) := dk_181 0 17 (dk_at dksX2_init_0 13 rfl rfl)
theorem dX2_init_16 : decode cX2_init 16 = .ok (.return_, 1) := dk_177 (dk_at dksX2_init_0 16 rfl rfl)
abbrev cX2_isInput : ByteArray := prog_21_method_6_code
def yX2_isInput : MethodName := ⟨RX2, "isInput", "()Z"⟩
def dkwX2_isInput_0 : List UInt8 := [42, 180, 0, 25, 199, 0, 7, 4, 167, 0, 4, 3, 172]
abbrev dktX2_isInput_0 : List UInt8 := dkwX2_isInput_0 ++ []
theorem dksX2_isInput_0 : cX2_isInput.data.toList.drop 0 = dktX2_isInput_0 := by decide +kernel
theorem dX2_isInput_0 : decode cX2_isInput 0 = .ok (.aload_n 0, 1) := dk_42 (dk_at dksX2_isInput_0 0 rfl rfl)
theorem dX2_isInput_1 : decode cX2_isInput 1 = .ok (.getfield 25, 3) := dk_180 0 25 (dk_at dksX2_isInput_0 1 rfl rfl)
theorem dX2_isInput_4 : decode cX2_isInput 4 = .ok (.ifnonnull 7, 3) := dk_199 0 7 (dk_at dksX2_isInput_0 4 rfl rfl)
theorem dX2_isInput_7 : decode cX2_isInput 7 = .ok (.iconst 1, 1) := dk_4 (dk_at dksX2_isInput_0 7 rfl rfl)
theorem dX2_isInput_8 : decode cX2_isInput 8 = .ok (.goto 4, 3) := dk_167 0 4 (dk_at dksX2_isInput_0 8 rfl rfl)
theorem dX2_isInput_11 : decode cX2_isInput 11 = .ok (.iconst 0, 1) := dk_3 (dk_at dksX2_isInput_0 11 rfl rfl)
theorem dX2_isInput_12 : decode cX2_isInput 12 = .ok (.ireturn, 1) := dk_172 (dk_at dksX2_isInput_0 12 rfl rfl)
abbrev cX2_kept : ByteArray := prog_21_method_4_code
def yX2_kept : MethodName := ⟨RX2, "kept", "(D)D"⟩
def dkwX2_kept_0 : List UInt8 := [42, 39, 182, 0, 21, 74, 41, 14, 151, 154, 0, 7, 14, 167, 0, 4, 41, 175]
abbrev dktX2_kept_0 : List UInt8 := dkwX2_kept_0 ++ []
theorem dksX2_kept_0 : cX2_kept.data.toList.drop 0 = dktX2_kept_0 := by decide +kernel
theorem dX2_kept_0 : decode cX2_kept 0 = .ok (.aload_n 0, 1) := dk_42 (dk_at dksX2_kept_0 0 rfl rfl)
theorem dX2_kept_1 : decode cX2_kept 1 = .ok (.dload_n 1, 1) := dk_39 (dk_at dksX2_kept_0 1 rfl rfl)
theorem dX2_kept_2 : decode cX2_kept 2 = .ok (.invokevirtual 21, 3) := dk_182 0 21 (dk_at dksX2_kept_0 2 rfl rfl)
theorem dX2_kept_5 : decode cX2_kept 5 = .ok (.dstore_n 3, 1) := dk_74 (dk_at dksX2_kept_0 5 rfl rfl)
theorem dX2_kept_6 : decode cX2_kept 6 = .ok (.dload_n 3, 1) := dk_41 (dk_at dksX2_kept_0 6 rfl rfl)
theorem dX2_kept_7 : decode cX2_kept 7 = .ok (.dconst 0, 1) := dk_14 (dk_at dksX2_kept_0 7 rfl rfl)
theorem dX2_kept_8 : decode cX2_kept 8 = .ok (.dcmp .l, 1) := dk_151 (dk_at dksX2_kept_0 8 rfl rfl)
theorem dX2_kept_9 : decode cX2_kept 9 = .ok (.ifCond .ne 7, 3) := dk_154 0 7 (dk_at dksX2_kept_0 9 rfl rfl)
theorem dX2_kept_12 : decode cX2_kept 12 = .ok (.dconst 0, 1) := dk_14 (dk_at dksX2_kept_0 12 rfl rfl)
theorem dX2_kept_13 : decode cX2_kept 13 = .ok (.goto 4, 3) := dk_167 0 4 (dk_at dksX2_kept_0 13 rfl rfl)
theorem dX2_kept_16 : decode cX2_kept 16 = .ok (.dload_n 3, 1) := dk_41 (dk_at dksX2_kept_0 16 rfl rfl)
theorem dX2_kept_17 : decode cX2_kept 17 = .ok (.dreturn, 1) := dk_175 (dk_at dksX2_kept_0 17 rfl rfl)
abbrev cX2_fits : ByteArray := prog_21_method_3_code
def yX2_fits : MethodName := ⟨RX2, "fits", "(D)D"⟩
theorem dX2_fits_0 : decode cX2_fits 0 = .ok (.dload_n 1, 1) := by decide +kernel
theorem dX2_fits_1 : decode cX2_fits 1 = .ok (.dreturn, 1) := by decide +kernel
abbrev cX2_kind : ByteArray := prog_21_method_2_code
def yX2_kind : MethodName := ⟨RX2, "kind", "()I"⟩
theorem dX2_kind_0 : decode cX2_kind 0 = .ok (.iconst 0, 1) := by decide +kernel
theorem dX2_kind_1 : decode cX2_kind 1 = .ok (.ireturn, 1) := by decide +kernel
abbrev cX2_like : ByteArray := prog_21_method_7_code
def yX2_like : MethodName := ⟨RX2, "like", "(LWhatIfSheet$Plain;)LWhatIfSheet$Plain;"⟩
def dkwX2_like_1 : List UInt8 := [180, 0, 11, 182, 0, 33, 181, 0, 11, 42, 176]
abbrev dktX2_like_1 : List UInt8 := dkwX2_like_1 ++ []
def dkwX2_like_0 : List UInt8 := [42, 43, 180, 0, 25, 181, 0, 25, 42, 43, 182, 0, 29, 153, 0, 9, 20, 0, 9, 167, 0, 11, 42, 43]
abbrev dktX2_like_0 : List UInt8 := dkwX2_like_0 ++ dktX2_like_1
theorem dksX2_like_0 : cX2_like.data.toList.drop 0 = dktX2_like_0 := by decide +kernel
theorem dksX2_like_1 : cX2_like.data.toList.drop 24 = dktX2_like_1 := dk_seg dksX2_like_0 24 rfl rfl
theorem dX2_like_0 : decode cX2_like 0 = .ok (.aload_n 0, 1) := dk_42 (dk_at dksX2_like_0 0 rfl rfl)
theorem dX2_like_1 : decode cX2_like 1 = .ok (.aload_n 1, 1) := dk_43 (dk_at dksX2_like_0 1 rfl rfl)
theorem dX2_like_2 : decode cX2_like 2 = .ok (.getfield 25, 3) := dk_180 0 25 (dk_at dksX2_like_0 2 rfl rfl)
theorem dX2_like_5 : decode cX2_like 5 = .ok (.putfield 25, 3) := dk_181 0 25 (dk_at dksX2_like_0 5 rfl rfl)
theorem dX2_like_8 : decode cX2_like 8 = .ok (.aload_n 0, 1) := dk_42 (dk_at dksX2_like_0 8 rfl rfl)
theorem dX2_like_9 : decode cX2_like 9 = .ok (.aload_n 1, 1) := dk_43 (dk_at dksX2_like_0 9 rfl rfl)
theorem dX2_like_10 : decode cX2_like 10 = .ok (.invokevirtual 29, 3) := dk_182 0 29 (dk_at dksX2_like_0 10 rfl rfl)
theorem dX2_like_13 : decode cX2_like 13 = .ok (.ifCond .eq 9, 3) := dk_153 0 9 (dk_at dksX2_like_0 13 rfl rfl)
theorem dX2_like_16 : decode cX2_like 16 = .ok (.ldc2_w 9, 3) := dk_20 0 9 (dk_at dksX2_like_0 16 rfl rfl)
theorem dX2_like_19 : decode cX2_like 19 = .ok (.goto 11, 3) := dk_167 0 11 (dk_at dksX2_like_0 19 rfl rfl)
theorem dX2_like_22 : decode cX2_like 22 = .ok (.aload_n 0, 1) := dk_42 (dk_at dksX2_like_0 22 rfl rfl)
theorem dX2_like_23 : decode cX2_like 23 = .ok (.aload_n 1, 1) := dk_43 (dk_at dksX2_like_0 23 rfl rfl)
theorem dX2_like_24 : decode cX2_like 24 = .ok (.getfield 11, 3) := dk_180 0 11 (dk_at dksX2_like_1 0 rfl rfl)
theorem dX2_like_27 : decode cX2_like 27 = .ok (.invokevirtual 33, 3) := dk_182 0 33 (dk_at dksX2_like_1 3 rfl rfl)
theorem dX2_like_30 : decode cX2_like 30 = .ok (.putfield 11, 3) := dk_181 0 11 (dk_at dksX2_like_1 6 rfl rfl)
theorem dX2_like_33 : decode cX2_like 33 = .ok (.aload_n 0, 1) := dk_42 (dk_at dksX2_like_1 9 rfl rfl)
theorem dX2_like_34 : decode cX2_like 34 = .ok (.areturn, 1) := dk_176 (dk_at dksX2_like_1 10 rfl rfl)
abbrev cX2_isEmpty : ByteArray := prog_21_method_5_code
def yX2_isEmpty : MethodName := ⟨RX2, "isEmpty", "()Z"⟩
def dkwX2_isEmpty_0 : List UInt8 := [42, 180, 0, 11, 42, 180, 0, 11, 151, 153, 0, 7, 4, 167, 0, 4, 3, 172]
abbrev dktX2_isEmpty_0 : List UInt8 := dkwX2_isEmpty_0 ++ []
theorem dksX2_isEmpty_0 : cX2_isEmpty.data.toList.drop 0 = dktX2_isEmpty_0 := by decide +kernel
theorem dX2_isEmpty_0 : decode cX2_isEmpty 0 = .ok (.aload_n 0, 1) := dk_42 (dk_at dksX2_isEmpty_0 0 rfl rfl)
theorem dX2_isEmpty_1 : decode cX2_isEmpty 1 = .ok (.getfield 11, 3) := dk_180 0 11 (dk_at dksX2_isEmpty_0 1 rfl rfl)
theorem dX2_isEmpty_4 : decode cX2_isEmpty 4 = .ok (.aload_n 0, 1) := dk_42 (dk_at dksX2_isEmpty_0 4 rfl rfl)
theorem dX2_isEmpty_5 : decode cX2_isEmpty 5 = .ok (.getfield 11, 3) := dk_180 0 11 (dk_at dksX2_isEmpty_0 5 rfl rfl)
theorem dX2_isEmpty_8 : decode cX2_isEmpty 8 = .ok (.dcmp .l, 1) := dk_151 (dk_at dksX2_isEmpty_0 8 rfl rfl)
theorem dX2_isEmpty_9 : decode cX2_isEmpty 9 = .ok (.ifCond .eq 7, 3) := dk_153 0 7 (dk_at dksX2_isEmpty_0 9 rfl rfl)
theorem dX2_isEmpty_12 : decode cX2_isEmpty 12 = .ok (.iconst 1, 1) := dk_4 (dk_at dksX2_isEmpty_0 12 rfl rfl)
theorem dX2_isEmpty_13 : decode cX2_isEmpty 13 = .ok (.goto 4, 3) := dk_167 0 4 (dk_at dksX2_isEmpty_0 13 rfl rfl)
theorem dX2_isEmpty_16 : decode cX2_isEmpty 16 = .ok (.iconst 0, 1) := dk_3 (dk_at dksX2_isEmpty_0 16 rfl rfl)
theorem dX2_isEmpty_17 : decode cX2_isEmpty 17 = .ok (.ireturn, 1) := dk_172 (dk_at dksX2_isEmpty_0 17 rfl rfl)
theorem q152 : (Jvm.Cond.initialized "WhatIfSheet$Plain") ∈ lw_all := lw_g (lw_at lw_m1 22 rfl) rfl
theorem q650 : (Jvm.Cond.instantiable "WhatIfSheet$Plain" (3 : Nat)) ∈ lw_all := lw_g (lw_at lw_m3 40 rfl) rfl
theorem q652 : (Jvm.Cond.instanceMethod ({ cls := "WhatIfSheet$Plain", name := "<init>", desc := "(I)V" } : Jvm.MethodName)) ∈ lw_all := lw_g (lw_at lw_m3 42 rfl) rfl
theorem q653 : (Jvm.Cond.code ({ cls := "WhatIfSheet$Plain", name := "<init>", desc := "(I)V" } : Jvm.MethodName) prog_21_method_1_code (2 : Nat) (Option.none : Option Jvm.ClassFile.FieldType)) ∈ lw_all := lw_g (lw_at lw_m3 43 rfl) rfl
theorem q654 : (Jvm.Cond.methodLink "WhatIfSheet$Plain" (3 : Nat) ({ cls := "java/lang/Object", name := "<init>", desc := "()V" } : Jvm.MethodName)) ∈ lw_all := lw_g (lw_at lw_m3 44 rfl) rfl
theorem q655 : (Jvm.Cond.constantDouble "WhatIfSheet$Plain" (9 : Nat) (9221120237041090560 : UInt64)) ∈ lw_all := lw_g (lw_at lw_m3 45 rfl) rfl
theorem q656 : (Jvm.Cond.fieldLink "WhatIfSheet$Plain" (17 : Nat) "WhatIfSheet$Plain" "number" "I") ∈ lw_all := lw_g (lw_at lw_m3 46 rfl) rfl
theorem q658 : (Jvm.Cond.fieldLink "WhatIfSheet$Plain" (25 : Nat) "WhatIfSheet$Plain" "formula" "LWhatIfSheet$Formula;") ∈ lw_all := lw_g (lw_at lw_m3 48 rfl) rfl
theorem q660 : (Jvm.Cond.fieldLink "WhatIfSheet$Plain" (11 : Nat) "WhatIfSheet$Plain" "own" "D") ∈ lw_all := lw_g (lw_at lw_m3 50 rfl) rfl
theorem q663 : (Jvm.Cond.laysFinal "WhatIfSheet$Plain" "WhatIfSheet$Plain" "number" "I") ∈ lw_all := lw_g (lw_at lw_m3 53 rfl) rfl
theorem q664 : (Jvm.Cond.soleField "WhatIfSheet$Plain" "number") ∈ lw_all := lw_g (lw_at lw_m3 54 rfl) rfl
theorem q665 : (Jvm.Cond.lays "WhatIfSheet$Plain" "WhatIfSheet$Plain" "formula" "LWhatIfSheet$Formula;") ∈ lw_all := lw_g (lw_at lw_m3 55 rfl) rfl
theorem q666 : (Jvm.Cond.soleField "WhatIfSheet$Plain" "formula") ∈ lw_all := lw_g (lw_at lw_m3 56 rfl) rfl
theorem q667 : (Jvm.Cond.lays "WhatIfSheet$Plain" "WhatIfSheet$Plain" "own" "D") ∈ lw_all := lw_g (lw_at lw_m3 57 rfl) rfl
theorem q668 : (Jvm.Cond.soleField "WhatIfSheet$Plain" "own") ∈ lw_all := lw_g (lw_at lw_m3 58 rfl) rfl
theorem q669 : (Jvm.Cond.superclass "WhatIfSheet$Plain" "java/lang/Object") ∈ lw_all := lw_g (lw_at lw_m3 59 rfl) rfl
theorem q785 : (Jvm.Cond.selects "WhatIfSheet$Plain" ({ cls := "java/lang/Object", name := "equals", desc := "(Ljava/lang/Object;)Z" } : Jvm.MethodName) ({ cls := "java/lang/Object", name := "equals", desc := "(Ljava/lang/Object;)Z" } : Jvm.MethodName)) ∈ lw_all := lw_g (lw_at lw_m3 175 rfl) rfl
theorem q862 : (Jvm.Cond.selects "WhatIfSheet$Plain" ({ cls := "java/lang/Object", name := "getClass", desc := "()Ljava/lang/Class;" } : Jvm.MethodName) ({ cls := "java/lang/Object", name := "getClass", desc := "()Ljava/lang/Class;" } : Jvm.MethodName)) ∈ lw_all := lw_g (lw_at lw_m4 12 rfl) rfl
theorem q1970 : (Jvm.Cond.instanceMethod ({ cls := "WhatIfSheet$Plain", name := "isInput", desc := "()Z" } : Jvm.MethodName)) ∈ lw_all := lw_g (lw_at lw_m8 160 rfl) rfl
theorem q1971 : (Jvm.Cond.selects "WhatIfSheet$Plain" ({ cls := "WhatIfSheet$Plain", name := "isInput", desc := "()Z" } : Jvm.MethodName) ({ cls := "WhatIfSheet$Plain", name := "isInput", desc := "()Z" } : Jvm.MethodName)) ∈ lw_all := lw_g (lw_at lw_m8 161 rfl) rfl
theorem q1972 : (Jvm.Cond.sameMethod "WhatIfSheet$Plain" "WhatIfSheet$Plain" "isInput" "()Z") ∈ lw_all := lw_g (lw_at lw_m8 162 rfl) rfl
theorem q1978 : (Jvm.Cond.code ({ cls := "WhatIfSheet$Plain", name := "isInput", desc := "()Z" } : Jvm.MethodName) prog_21_method_6_code (1 : Nat) (Option.some Jvm.ClassFile.FieldType.boolean)) ∈ lw_all := lw_g (lw_at lw_m8 168 rfl) rfl
theorem q1981 : (Jvm.Cond.instanceMethod ({ cls := "WhatIfSheet$Plain", name := "kept", desc := "(D)D" } : Jvm.MethodName)) ∈ lw_all := lw_g (lw_at lw_m8 171 rfl) rfl
theorem q1982 : (Jvm.Cond.selects "WhatIfSheet$Plain" ({ cls := "WhatIfSheet$Plain", name := "kept", desc := "(D)D" } : Jvm.MethodName) ({ cls := "WhatIfSheet$Plain", name := "kept", desc := "(D)D" } : Jvm.MethodName)) ∈ lw_all := lw_g (lw_at lw_m8 172 rfl) rfl
theorem q1983 : (Jvm.Cond.sameMethod "WhatIfSheet$Plain" "WhatIfSheet$Plain" "kept" "(D)D") ∈ lw_all := lw_g (lw_at lw_m8 173 rfl) rfl
theorem q1989 : (Jvm.Cond.code ({ cls := "WhatIfSheet$Plain", name := "kept", desc := "(D)D" } : Jvm.MethodName) prog_21_method_4_code (5 : Nat) (Option.some Jvm.ClassFile.FieldType.double)) ∈ lw_all := lw_g (lw_at lw_m8 179 rfl) rfl
theorem q1990 : (Jvm.Cond.methodLink "WhatIfSheet$Plain" (21 : Nat) ({ cls := "WhatIfSheet$Plain", name := "fits", desc := "(D)D" } : Jvm.MethodName)) ∈ lw_all := lw_g (lw_at lw_m8 180 rfl) rfl
theorem q1991 : (Jvm.Cond.instanceMethod ({ cls := "WhatIfSheet$Plain", name := "fits", desc := "(D)D" } : Jvm.MethodName)) ∈ lw_all := lw_g (lw_at lw_m8 181 rfl) rfl
theorem q1992 : (Jvm.Cond.selects "WhatIfSheet$Plain" ({ cls := "WhatIfSheet$Plain", name := "fits", desc := "(D)D" } : Jvm.MethodName) ({ cls := "WhatIfSheet$Plain", name := "fits", desc := "(D)D" } : Jvm.MethodName)) ∈ lw_all := lw_g (lw_at lw_m8 182 rfl) rfl
theorem q1993 : (Jvm.Cond.sameMethod "WhatIfSheet$Plain" "WhatIfSheet$Plain" "fits" "(D)D") ∈ lw_all := lw_g (lw_at lw_m8 183 rfl) rfl
theorem q2022 : (Jvm.Cond.code ({ cls := "WhatIfSheet$Plain", name := "fits", desc := "(D)D" } : Jvm.MethodName) prog_21_method_3_code (3 : Nat) (Option.some Jvm.ClassFile.FieldType.double)) ∈ lw_all := lw_g (lw_at lw_m8 212 rfl) rfl
theorem q2032 : (Jvm.Cond.instanceMethod ({ cls := "WhatIfSheet$Plain", name := "kind", desc := "()I" } : Jvm.MethodName)) ∈ lw_all := lw_g (lw_at lw_m8 222 rfl) rfl
theorem q2033 : (Jvm.Cond.selects "WhatIfSheet$Plain" ({ cls := "WhatIfSheet$Plain", name := "kind", desc := "()I" } : Jvm.MethodName) ({ cls := "WhatIfSheet$Plain", name := "kind", desc := "()I" } : Jvm.MethodName)) ∈ lw_all := lw_g (lw_at lw_m8 223 rfl) rfl
theorem q2034 : (Jvm.Cond.sameMethod "WhatIfSheet$Plain" "WhatIfSheet$Plain" "kind" "()I") ∈ lw_all := lw_g (lw_at lw_m8 224 rfl) rfl
theorem q2050 : (Jvm.Cond.code ({ cls := "WhatIfSheet$Plain", name := "kind", desc := "()I" } : Jvm.MethodName) prog_21_method_2_code (1 : Nat) (Option.some Jvm.ClassFile.FieldType.int)) ∈ lw_all := lw_g (lw_at lw_m9 0 rfl) rfl
theorem q2100 : (Jvm.Cond.instanceMethod ({ cls := "WhatIfSheet$Plain", name := "like", desc := "(LWhatIfSheet$Plain;)LWhatIfSheet$Plain;" } : Jvm.MethodName)) ∈ lw_all := lw_g (lw_at lw_m9 50 rfl) rfl
theorem q2101 : (Jvm.Cond.selects "WhatIfSheet$Plain" ({ cls := "WhatIfSheet$Plain", name := "like", desc := "(LWhatIfSheet$Plain;)LWhatIfSheet$Plain;" } : Jvm.MethodName) ({ cls := "WhatIfSheet$Plain", name := "like", desc := "(LWhatIfSheet$Plain;)LWhatIfSheet$Plain;" } : Jvm.MethodName)) ∈ lw_all := lw_g (lw_at lw_m9 51 rfl) rfl
theorem q2102 : (Jvm.Cond.sameMethod "WhatIfSheet$Plain" "WhatIfSheet$Plain" "like" "(LWhatIfSheet$Plain;)LWhatIfSheet$Plain;") ∈ lw_all := lw_g (lw_at lw_m9 52 rfl) rfl
theorem q2108 : (Jvm.Cond.code ({ cls := "WhatIfSheet$Plain", name := "like", desc := "(LWhatIfSheet$Plain;)LWhatIfSheet$Plain;" } : Jvm.MethodName) prog_21_method_7_code (2 : Nat) (Option.some (Jvm.ClassFile.FieldType.object "WhatIfSheet$Plain"))) ∈ lw_all := lw_g (lw_at lw_m9 58 rfl) rfl
theorem q2109 : (Jvm.Cond.methodLink "WhatIfSheet$Plain" (29 : Nat) ({ cls := "WhatIfSheet$Plain", name := "isEmpty", desc := "()Z" } : Jvm.MethodName)) ∈ lw_all := lw_g (lw_at lw_m9 59 rfl) rfl
theorem q2110 : (Jvm.Cond.instanceMethod ({ cls := "WhatIfSheet$Plain", name := "isEmpty", desc := "()Z" } : Jvm.MethodName)) ∈ lw_all := lw_g (lw_at lw_m9 60 rfl) rfl
theorem q2111 : (Jvm.Cond.selects "WhatIfSheet$Plain" ({ cls := "WhatIfSheet$Plain", name := "isEmpty", desc := "()Z" } : Jvm.MethodName) ({ cls := "WhatIfSheet$Plain", name := "isEmpty", desc := "()Z" } : Jvm.MethodName)) ∈ lw_all := lw_g (lw_at lw_m9 61 rfl) rfl
theorem q2112 : (Jvm.Cond.sameMethod "WhatIfSheet$Plain" "WhatIfSheet$Plain" "isEmpty" "()Z") ∈ lw_all := lw_g (lw_at lw_m9 62 rfl) rfl
theorem q2118 : (Jvm.Cond.code ({ cls := "WhatIfSheet$Plain", name := "isEmpty", desc := "()Z" } : Jvm.MethodName) prog_21_method_5_code (1 : Nat) (Option.some Jvm.ClassFile.FieldType.boolean)) ∈ lw_all := lw_g (lw_at lw_m9 68 rfl) rfl
theorem q2119 : (Jvm.Cond.methodLink "WhatIfSheet$Plain" (33 : Nat) ({ cls := "WhatIfSheet$Plain", name := "kept", desc := "(D)D" } : Jvm.MethodName)) ∈ lw_all := lw_g (lw_at lw_m9 69 rfl) rfl
theorem q3391 : (Jvm.Cond.castable "WhatIfSheet$Plain" "java/lang/Object") ∈ lw_tbl := lw_at lw_m14 141 rfl
theorem in_X2 : ∀ w ∈ wsX20, w ∈ lw_all := lw_in wsX20 [663, 665, 667] (by decide +kernel) (by decide +kernel)
/-! WhatIfSheet$Least -/
set_option maxRecDepth 100000
def RX20 : String := "WhatIfSheet$Least"
def TX20 : u_T := fun k => match k with
  | 0 => ("WhatIfSheet$Node", "this$0", "LWhatIfSheet;", true)
  | 1 => ("WhatIfSheet$Asked", "t", "I", true)
  | 2 => ("WhatIfSheet$Asked", "this$0", "LWhatIfSheet;", true)
  | 3 => ("WhatIfSheet$Mean", "this$0", "LWhatIfSheet;", true)
  | _ => ("WhatIfSheet$Least", "this$0", "LWhatIfSheet;", true)
def tyX20 : Nat → FieldType := fun k => match k with
  | 0 => .object "WhatIfSheet"
  | 1 => .int
  | 2 => .object "WhatIfSheet"
  | 3 => .object "WhatIfSheet"
  | _ => .object "WhatIfSheet"
abbrev wsX200 : List Cond := u_ws RX20 TX20 5
-- two fields of one name: no nmX20
theorem tyX20_ok : ∀ k, k < 5 → parseFieldDescriptor (TX20 k).2.2.1 = some (tyX20 k) := by decide +kernel
abbrev cX20_init : ByteArray := prog_11_method_1_code
def yX20_init : MethodName := ⟨RX20, "<init>", "(LWhatIfSheet;I)V"⟩
def dkwX20_init_0 : List UInt8 := [42, 43, 181, 0, 3, 42, 43, 28, 183, 0, 9, 177]
abbrev dktX20_init_0 : List UInt8 := dkwX20_init_0 ++ []
theorem dksX20_init_0 : cX20_init.data.toList.drop 0 = dktX20_init_0 := by decide +kernel
theorem dX20_init_0 : decode cX20_init 0 = .ok (.aload_n 0, 1) := dk_42 (dk_at dksX20_init_0 0 rfl rfl)
theorem dX20_init_1 : decode cX20_init 1 = .ok (.aload_n 1, 1) := dk_43 (dk_at dksX20_init_0 1 rfl rfl)
theorem dX20_init_2 : decode cX20_init 2 = .ok (.putfield 3, 3) := dk_181 0 3 (dk_at dksX20_init_0 2 rfl rfl)
theorem dX20_init_5 : decode cX20_init 5 = .ok (.aload_n 0, 1) := dk_42 (dk_at dksX20_init_0 5 rfl rfl)
theorem dX20_init_6 : decode cX20_init 6 = .ok (.aload_n 1, 1) := dk_43 (dk_at dksX20_init_0 6 rfl rfl)
theorem dX20_init_7 : decode cX20_init 7 = .ok (.iload_n 2, 1) := dk_28 (dk_at dksX20_init_0 7 rfl rfl)
theorem dX20_init_8 : decode cX20_init 8 = .ok (.invokespecial 9, 3) := dk_183 0 9 (dk_at dksX20_init_0 8 rfl rfl)
theorem dX20_init_11 : decode cX20_init 11 = .ok (.return_, 1) := dk_177 (dk_at dksX20_init_0 11 rfl rfl)
abbrev cX20_of : ByteArray := prog_11_method_4_code
def yX20_of : MethodName := ⟨RX20, "of", "(LWhatIfSheet$Table;)D"⟩
def dkwX20_of_1 : List UInt8 := [180, 0, 35, 42, 43, 182, 0, 47, 49, 175]
abbrev dktX20_of_1 : List UInt8 := dkwX20_of_1 ++ []
def dkwX20_of_0 : List UInt8 := [42, 43, 182, 0, 43, 154, 0, 7, 14, 167, 0, 24, 42, 180, 0, 3, 180, 0, 21, 42, 180, 0, 25, 50]
abbrev dktX20_of_0 : List UInt8 := dkwX20_of_0 ++ dktX20_of_1
theorem dksX20_of_0 : cX20_of.data.toList.drop 0 = dktX20_of_0 := by decide +kernel
theorem dksX20_of_1 : cX20_of.data.toList.drop 24 = dktX20_of_1 := dk_seg dksX20_of_0 24 rfl rfl
theorem dX20_of_0 : decode cX20_of 0 = .ok (.aload_n 0, 1) := dk_42 (dk_at dksX20_of_0 0 rfl rfl)
theorem dX20_of_1 : decode cX20_of 1 = .ok (.aload_n 1, 1) := dk_43 (dk_at dksX20_of_0 1 rfl rfl)
theorem dX20_of_2 : decode cX20_of 2 = .ok (.invokevirtual 43, 3) := dk_182 0 43 (dk_at dksX20_of_0 2 rfl rfl)
theorem dX20_of_5 : decode cX20_of 5 = .ok (.ifCond .ne 7, 3) := dk_154 0 7 (dk_at dksX20_of_0 5 rfl rfl)
theorem dX20_of_8 : decode cX20_of 8 = .ok (.dconst 0, 1) := dk_14 (dk_at dksX20_of_0 8 rfl rfl)
theorem dX20_of_9 : decode cX20_of 9 = .ok (.goto 24, 3) := dk_167 0 24 (dk_at dksX20_of_0 9 rfl rfl)
theorem dX20_of_12 : decode cX20_of 12 = .ok (.aload_n 0, 1) := dk_42 (dk_at dksX20_of_0 12 rfl rfl)
theorem dX20_of_13 : decode cX20_of 13 = .ok (.getfield 3, 3) := dk_180 0 3 (dk_at dksX20_of_0 13 rfl rfl)
theorem dX20_of_16 : decode cX20_of 16 = .ok (.getfield 21, 3) := dk_180 0 21 (dk_at dksX20_of_0 16 rfl rfl)
theorem dX20_of_19 : decode cX20_of 19 = .ok (.aload_n 0, 1) := dk_42 (dk_at dksX20_of_0 19 rfl rfl)
theorem dX20_of_20 : decode cX20_of 20 = .ok (.getfield 25, 3) := dk_180 0 25 (dk_at dksX20_of_0 20 rfl rfl)
theorem dX20_of_23 : decode cX20_of 23 = .ok (.aaload, 1) := dk_50 (dk_at dksX20_of_0 23 rfl rfl)
theorem dX20_of_24 : decode cX20_of 24 = .ok (.getfield 35, 3) := dk_180 0 35 (dk_at dksX20_of_1 0 rfl rfl)
theorem dX20_of_27 : decode cX20_of 27 = .ok (.aload_n 0, 1) := dk_42 (dk_at dksX20_of_1 3 rfl rfl)
theorem dX20_of_28 : decode cX20_of 28 = .ok (.aload_n 1, 1) := dk_43 (dk_at dksX20_of_1 4 rfl rfl)
theorem dX20_of_29 : decode cX20_of 29 = .ok (.invokevirtual 47, 3) := dk_182 0 47 (dk_at dksX20_of_1 5 rfl rfl)
theorem dX20_of_32 : decode cX20_of 32 = .ok (.daload, 1) := dk_49 (dk_at dksX20_of_1 8 rfl rfl)
theorem dX20_of_33 : decode cX20_of 33 = .ok (.dreturn, 1) := dk_175 (dk_at dksX20_of_1 9 rfl rfl)
abbrev cX20_at : ByteArray := prog_11_method_3_code
def yX20_at : MethodName := ⟨RX20, "at", "(LWhatIfSheet$Table;)I"⟩
def dkwX20_at_3 : List UInt8 := [180, 0, 35, 28, 49, 182, 0, 39, 153, 0, 5, 29, 61, 132, 3, 1, 167, 255, 174, 28, 172]
abbrev dktX20_at_3 : List UInt8 := dkwX20_at_3 ++ []
def dkwX20_at_2 : List UInt8 := [42, 180, 0, 25, 50, 180, 0, 35, 29, 49, 42, 180, 0, 3, 180, 0, 21, 42, 180, 0, 25, 50]
abbrev dktX20_at_2 : List UInt8 := dkwX20_at_2 ++ dktX20_at_3
def dkwX20_at_1 : List UInt8 := [180, 0, 29, 29, 51, 153, 0, 6, 167, 0, 51, 28, 2, 159, 0, 44, 42, 42, 180, 0, 3, 180, 0, 21]
abbrev dktX20_at_1 : List UInt8 := dkwX20_at_1 ++ dktX20_at_2
def dkwX20_at_0 : List UInt8 := [2, 61, 3, 62, 29, 43, 182, 0, 15, 162, 0, 80, 42, 180, 0, 3, 180, 0, 21, 42, 180, 0, 25, 50]
abbrev dktX20_at_0 : List UInt8 := dkwX20_at_0 ++ dktX20_at_1
theorem dksX20_at_0 : cX20_at.data.toList.drop 0 = dktX20_at_0 := by decide +kernel
theorem dksX20_at_1 : cX20_at.data.toList.drop 24 = dktX20_at_1 := dk_seg dksX20_at_0 24 rfl rfl
theorem dksX20_at_2 : cX20_at.data.toList.drop 48 = dktX20_at_2 := dk_seg dksX20_at_1 24 rfl rfl
theorem dksX20_at_3 : cX20_at.data.toList.drop 70 = dktX20_at_3 := dk_seg dksX20_at_2 22 rfl rfl
theorem dX20_at_0 : decode cX20_at 0 = .ok (.iconst (-1), 1) := dk_2 (dk_at dksX20_at_0 0 rfl rfl)
theorem dX20_at_1 : decode cX20_at 1 = .ok (.istore_n 2, 1) := dk_61 (dk_at dksX20_at_0 1 rfl rfl)
theorem dX20_at_2 : decode cX20_at 2 = .ok (.iconst 0, 1) := dk_3 (dk_at dksX20_at_0 2 rfl rfl)
theorem dX20_at_3 : decode cX20_at 3 = .ok (.istore_n 3, 1) := dk_62 (dk_at dksX20_at_0 3 rfl rfl)
theorem dX20_at_4 : decode cX20_at 4 = .ok (.iload_n 3, 1) := dk_29 (dk_at dksX20_at_0 4 rfl rfl)
theorem dX20_at_5 : decode cX20_at 5 = .ok (.aload_n 1, 1) := dk_43 (dk_at dksX20_at_0 5 rfl rfl)
theorem dX20_at_6 : decode cX20_at 6 = .ok (.invokevirtual 15, 3) := dk_182 0 15 (dk_at dksX20_at_0 6 rfl rfl)
theorem dX20_at_9 : decode cX20_at 9 = .ok (.if_icmp .ge 80, 3) := dk_162 0 80 (dk_at dksX20_at_0 9 rfl rfl)
theorem dX20_at_12 : decode cX20_at 12 = .ok (.aload_n 0, 1) := dk_42 (dk_at dksX20_at_0 12 rfl rfl)
theorem dX20_at_13 : decode cX20_at 13 = .ok (.getfield 3, 3) := dk_180 0 3 (dk_at dksX20_at_0 13 rfl rfl)
theorem dX20_at_16 : decode cX20_at 16 = .ok (.getfield 21, 3) := dk_180 0 21 (dk_at dksX20_at_0 16 rfl rfl)
theorem dX20_at_19 : decode cX20_at 19 = .ok (.aload_n 0, 1) := dk_42 (dk_at dksX20_at_0 19 rfl rfl)
theorem dX20_at_20 : decode cX20_at 20 = .ok (.getfield 25, 3) := dk_180 0 25 (dk_at dksX20_at_0 20 rfl rfl)
theorem dX20_at_23 : decode cX20_at 23 = .ok (.aaload, 1) := dk_50 (dk_at dksX20_at_0 23 rfl rfl)
theorem dX20_at_24 : decode cX20_at 24 = .ok (.getfield 29, 3) := dk_180 0 29 (dk_at dksX20_at_1 0 rfl rfl)
theorem dX20_at_27 : decode cX20_at 27 = .ok (.iload_n 3, 1) := dk_29 (dk_at dksX20_at_1 3 rfl rfl)
theorem dX20_at_28 : decode cX20_at 28 = .ok (.baload, 1) := dk_51 (dk_at dksX20_at_1 4 rfl rfl)
theorem dX20_at_29 : decode cX20_at 29 = .ok (.ifCond .eq 6, 3) := dk_153 0 6 (dk_at dksX20_at_1 5 rfl rfl)
theorem dX20_at_32 : decode cX20_at 32 = .ok (.goto 51, 3) := dk_167 0 51 (dk_at dksX20_at_1 8 rfl rfl)
theorem dX20_at_35 : decode cX20_at 35 = .ok (.iload_n 2, 1) := dk_28 (dk_at dksX20_at_1 11 rfl rfl)
theorem dX20_at_36 : decode cX20_at 36 = .ok (.iconst (-1), 1) := dk_2 (dk_at dksX20_at_1 12 rfl rfl)
theorem dX20_at_37 : decode cX20_at 37 = .ok (.if_icmp .eq 44, 3) := dk_159 0 44 (dk_at dksX20_at_1 13 rfl rfl)
theorem dX20_at_40 : decode cX20_at 40 = .ok (.aload_n 0, 1) := dk_42 (dk_at dksX20_at_1 16 rfl rfl)
theorem dX20_at_41 : decode cX20_at 41 = .ok (.aload_n 0, 1) := dk_42 (dk_at dksX20_at_1 17 rfl rfl)
theorem dX20_at_42 : decode cX20_at 42 = .ok (.getfield 3, 3) := dk_180 0 3 (dk_at dksX20_at_1 18 rfl rfl)
theorem dX20_at_45 : decode cX20_at 45 = .ok (.getfield 21, 3) := dk_180 0 21 (dk_at dksX20_at_1 21 rfl rfl)
theorem dX20_at_48 : decode cX20_at 48 = .ok (.aload_n 0, 1) := dk_42 (dk_at dksX20_at_2 0 rfl rfl)
theorem dX20_at_49 : decode cX20_at 49 = .ok (.getfield 25, 3) := dk_180 0 25 (dk_at dksX20_at_2 1 rfl rfl)
theorem dX20_at_52 : decode cX20_at 52 = .ok (.aaload, 1) := dk_50 (dk_at dksX20_at_2 4 rfl rfl)
theorem dX20_at_53 : decode cX20_at 53 = .ok (.getfield 35, 3) := dk_180 0 35 (dk_at dksX20_at_2 5 rfl rfl)
theorem dX20_at_56 : decode cX20_at 56 = .ok (.iload_n 3, 1) := dk_29 (dk_at dksX20_at_2 8 rfl rfl)
theorem dX20_at_57 : decode cX20_at 57 = .ok (.daload, 1) := dk_49 (dk_at dksX20_at_2 9 rfl rfl)
theorem dX20_at_58 : decode cX20_at 58 = .ok (.aload_n 0, 1) := dk_42 (dk_at dksX20_at_2 10 rfl rfl)
theorem dX20_at_59 : decode cX20_at 59 = .ok (.getfield 3, 3) := dk_180 0 3 (dk_at dksX20_at_2 11 rfl rfl)
theorem dX20_at_62 : decode cX20_at 62 = .ok (.getfield 21, 3) := dk_180 0 21 (dk_at dksX20_at_2 14 rfl rfl)
theorem dX20_at_65 : decode cX20_at 65 = .ok (.aload_n 0, 1) := dk_42 (dk_at dksX20_at_2 17 rfl rfl)
theorem dX20_at_66 : decode cX20_at 66 = .ok (.getfield 25, 3) := dk_180 0 25 (dk_at dksX20_at_2 18 rfl rfl)
theorem dX20_at_69 : decode cX20_at 69 = .ok (.aaload, 1) := dk_50 (dk_at dksX20_at_2 21 rfl rfl)
theorem dX20_at_70 : decode cX20_at 70 = .ok (.getfield 35, 3) := dk_180 0 35 (dk_at dksX20_at_3 0 rfl rfl)
theorem dX20_at_73 : decode cX20_at 73 = .ok (.iload_n 2, 1) := dk_28 (dk_at dksX20_at_3 3 rfl rfl)
theorem dX20_at_74 : decode cX20_at 74 = .ok (.daload, 1) := dk_49 (dk_at dksX20_at_3 4 rfl rfl)
theorem dX20_at_75 : decode cX20_at 75 = .ok (.invokevirtual 39, 3) := dk_182 0 39 (dk_at dksX20_at_3 5 rfl rfl)
theorem dX20_at_78 : decode cX20_at 78 = .ok (.ifCond .eq 5, 3) := dk_153 0 5 (dk_at dksX20_at_3 8 rfl rfl)
theorem dX20_at_81 : decode cX20_at 81 = .ok (.iload_n 3, 1) := dk_29 (dk_at dksX20_at_3 11 rfl rfl)
theorem dX20_at_82 : decode cX20_at 82 = .ok (.istore_n 2, 1) := dk_61 (dk_at dksX20_at_3 12 rfl rfl)
theorem dX20_at_83 : decode cX20_at 83 = .ok (.iinc 3 1, 3) := dk_132 3 1 (dk_at dksX20_at_3 13 rfl rfl)
theorem dX20_at_86 : decode cX20_at 86 = .ok (.goto (-82), 3) := dk_167 255 174 (dk_at dksX20_at_3 16 rfl rfl)
theorem dX20_at_89 : decode cX20_at 89 = .ok (.iload_n 2, 1) := dk_28 (dk_at dksX20_at_3 19 rfl rfl)
theorem dX20_at_90 : decode cX20_at 90 = .ok (.ireturn, 1) := dk_172 (dk_at dksX20_at_3 20 rfl rfl)
abbrev cX20_isBefore : ByteArray := prog_11_method_2_code
def yX20_isBefore : MethodName := ⟨RX20, "isBefore", "(DD)Z"⟩
def dkwX20_isBefore_0 : List UInt8 := [39, 41, 152, 156, 0, 7, 4, 167, 0, 4, 3, 172]
abbrev dktX20_isBefore_0 : List UInt8 := dkwX20_isBefore_0 ++ []
theorem dksX20_isBefore_0 : cX20_isBefore.data.toList.drop 0 = dktX20_isBefore_0 := by decide +kernel
theorem dX20_isBefore_0 : decode cX20_isBefore 0 = .ok (.dload_n 1, 1) := dk_39 (dk_at dksX20_isBefore_0 0 rfl rfl)
theorem dX20_isBefore_1 : decode cX20_isBefore 1 = .ok (.dload_n 3, 1) := dk_41 (dk_at dksX20_isBefore_0 1 rfl rfl)
theorem dX20_isBefore_2 : decode cX20_isBefore 2 = .ok (.dcmp .g, 1) := dk_152 (dk_at dksX20_isBefore_0 2 rfl rfl)
theorem dX20_isBefore_3 : decode cX20_isBefore 3 = .ok (.ifCond .ge 7, 3) := dk_156 0 7 (dk_at dksX20_isBefore_0 3 rfl rfl)
theorem dX20_isBefore_6 : decode cX20_isBefore 6 = .ok (.iconst 1, 1) := dk_4 (dk_at dksX20_isBefore_0 6 rfl rfl)
theorem dX20_isBefore_7 : decode cX20_isBefore 7 = .ok (.goto 4, 3) := dk_167 0 4 (dk_at dksX20_isBefore_0 7 rfl rfl)
theorem dX20_isBefore_10 : decode cX20_isBefore 10 = .ok (.iconst 0, 1) := dk_3 (dk_at dksX20_isBefore_0 10 rfl rfl)
theorem dX20_isBefore_11 : decode cX20_isBefore 11 = .ok (.ireturn, 1) := dk_172 (dk_at dksX20_isBefore_0 11 rfl rfl)
theorem q184 : (Jvm.Cond.initialized "WhatIfSheet$Least") ∈ lw_all := lw_g (lw_at lw_m1 54 rfl) rfl
theorem q224 : (Jvm.Cond.fieldLink "WhatIfSheet$Least" (35 : Nat) "WhatIfSheet$Sight" "results" "[D") ∈ lw_all := lw_g (lw_at lw_m1 94 rfl) rfl
theorem q235 : (Jvm.Cond.fieldLink "WhatIfSheet$Least" (29 : Nat) "WhatIfSheet$Sight" "errors" "[B") ∈ lw_all := lw_g (lw_at lw_m1 105 rfl) rfl
theorem q776 : (Jvm.Cond.selects "WhatIfSheet$Least" ({ cls := "java/lang/Object", name := "equals", desc := "(Ljava/lang/Object;)Z" } : Jvm.MethodName) ({ cls := "java/lang/Object", name := "equals", desc := "(Ljava/lang/Object;)Z" } : Jvm.MethodName)) ∈ lw_all := lw_g (lw_at lw_m3 166 rfl) rfl
theorem q853 : (Jvm.Cond.selects "WhatIfSheet$Least" ({ cls := "java/lang/Object", name := "getClass", desc := "()Ljava/lang/Class;" } : Jvm.MethodName) ({ cls := "java/lang/Object", name := "getClass", desc := "()Ljava/lang/Class;" } : Jvm.MethodName)) ∈ lw_all := lw_g (lw_at lw_m4 3 rfl) rfl
theorem q1214 : (Jvm.Cond.fieldLinkNest "WhatIfSheet$Least" (21 : Nat) "WhatIfSheet" "sights" "[LWhatIfSheet$Sight;" "WhatIfSheet") ∈ lw_tbl := lw_at lw_m5 124 rfl
theorem q1737 : (Jvm.Cond.fieldLink "WhatIfSheet$Least" (25 : Nat) "WhatIfSheet$Least" "t" "I") ∈ lw_all := lw_g (lw_at lw_m7 167 rfl) rfl
theorem q1738 : (Jvm.Cond.sameField "WhatIfSheet$Least" "WhatIfSheet$Asked" "t" "I") ∈ lw_all := lw_g (lw_at lw_m7 168 rfl) rfl
theorem q1760 : (Jvm.Cond.instantiable "WhatIfSheet$Least" (5 : Nat)) ∈ lw_all := lw_g (lw_at lw_m7 190 rfl) rfl
theorem q1762 : (Jvm.Cond.instanceMethod ({ cls := "WhatIfSheet$Least", name := "<init>", desc := "(LWhatIfSheet;I)V" } : Jvm.MethodName)) ∈ lw_all := lw_g (lw_at lw_m7 192 rfl) rfl
theorem q1763 : (Jvm.Cond.code ({ cls := "WhatIfSheet$Least", name := "<init>", desc := "(LWhatIfSheet;I)V" } : Jvm.MethodName) prog_11_method_1_code (3 : Nat) (Option.none : Option Jvm.ClassFile.FieldType)) ∈ lw_all := lw_g (lw_at lw_m7 193 rfl) rfl
theorem q1764 : (Jvm.Cond.methodLink "WhatIfSheet$Least" (9 : Nat) ({ cls := "WhatIfSheet$Mean", name := "<init>", desc := "(LWhatIfSheet;I)V" } : Jvm.MethodName)) ∈ lw_all := lw_g (lw_at lw_m7 194 rfl) rfl
theorem q1765 : (Jvm.Cond.fieldLink "WhatIfSheet$Least" (3 : Nat) "WhatIfSheet$Least" "this$0" "LWhatIfSheet;") ∈ lw_all := lw_g (lw_at lw_m7 195 rfl) rfl
theorem q1766 : (Jvm.Cond.laysFinal "WhatIfSheet$Least" "WhatIfSheet$Least" "this$0" "LWhatIfSheet;") ∈ lw_all := lw_g (lw_at lw_m7 196 rfl) rfl
theorem q1767 : (Jvm.Cond.soleField "WhatIfSheet$Least" "this$0") ∈ lw_all := lw_g (lw_at lw_m7 197 rfl) rfl
theorem q1768 : (Jvm.Cond.laysFinal "WhatIfSheet$Least" "WhatIfSheet$Mean" "this$0" "LWhatIfSheet;") ∈ lw_all := lw_g (lw_at lw_m7 198 rfl) rfl
theorem q1769 : (Jvm.Cond.laysFinal "WhatIfSheet$Least" "WhatIfSheet$Asked" "t" "I") ∈ lw_all := lw_g (lw_at lw_m7 199 rfl) rfl
theorem q1770 : (Jvm.Cond.laysFinal "WhatIfSheet$Least" "WhatIfSheet$Asked" "this$0" "LWhatIfSheet;") ∈ lw_all := lw_g (lw_at lw_m7 200 rfl) rfl
theorem q1771 : (Jvm.Cond.laysFinal "WhatIfSheet$Least" "WhatIfSheet$Node" "this$0" "LWhatIfSheet;") ∈ lw_all := lw_g (lw_at lw_m7 201 rfl) rfl
theorem q1772 : (Jvm.Cond.superclass "WhatIfSheet$Least" "WhatIfSheet$Mean") ∈ lw_all := lw_g (lw_at lw_m7 202 rfl) rfl
theorem q2184 : (Jvm.Cond.selects "WhatIfSheet$Least" ({ cls := "WhatIfSheet$Asked", name := "of", desc := "(LWhatIfSheet$Table;)D" } : Jvm.MethodName) ({ cls := "WhatIfSheet$Least", name := "of", desc := "(LWhatIfSheet$Table;)D" } : Jvm.MethodName)) ∈ lw_all := lw_g (lw_at lw_m9 134 rfl) rfl
theorem q2185 : (Jvm.Cond.instanceMethod ({ cls := "WhatIfSheet$Least", name := "of", desc := "(LWhatIfSheet$Table;)D" } : Jvm.MethodName)) ∈ lw_all := lw_g (lw_at lw_m9 135 rfl) rfl
theorem q2186 : (Jvm.Cond.code ({ cls := "WhatIfSheet$Least", name := "of", desc := "(LWhatIfSheet$Table;)D" } : Jvm.MethodName) prog_11_method_4_code (2 : Nat) (Option.some Jvm.ClassFile.FieldType.double)) ∈ lw_all := lw_g (lw_at lw_m9 136 rfl) rfl
theorem q2187 : (Jvm.Cond.methodLink "WhatIfSheet$Least" (43 : Nat) ({ cls := "WhatIfSheet$Least", name := "good", desc := "(LWhatIfSheet$Table;)I" } : Jvm.MethodName)) ∈ lw_all := lw_g (lw_at lw_m9 137 rfl) rfl
theorem q2188 : (Jvm.Cond.sameMethod "WhatIfSheet$Least" "WhatIfSheet$Mean" "good" "(LWhatIfSheet$Table;)I") ∈ lw_all := lw_g (lw_at lw_m9 138 rfl) rfl
theorem q2190 : (Jvm.Cond.selects "WhatIfSheet$Least" ({ cls := "WhatIfSheet$Least", name := "good", desc := "(LWhatIfSheet$Table;)I" } : Jvm.MethodName) ({ cls := "WhatIfSheet$Mean", name := "good", desc := "(LWhatIfSheet$Table;)I" } : Jvm.MethodName)) ∈ lw_all := lw_g (lw_at lw_m9 140 rfl) rfl
theorem q2196 : (Jvm.Cond.methodLink "WhatIfSheet$Least" (47 : Nat) ({ cls := "WhatIfSheet$Least", name := "at", desc := "(LWhatIfSheet$Table;)I" } : Jvm.MethodName)) ∈ lw_all := lw_g (lw_at lw_m9 146 rfl) rfl
theorem q2197 : (Jvm.Cond.instanceMethod ({ cls := "WhatIfSheet$Least", name := "at", desc := "(LWhatIfSheet$Table;)I" } : Jvm.MethodName)) ∈ lw_all := lw_g (lw_at lw_m9 147 rfl) rfl
theorem q2198 : (Jvm.Cond.selects "WhatIfSheet$Least" ({ cls := "WhatIfSheet$Least", name := "at", desc := "(LWhatIfSheet$Table;)I" } : Jvm.MethodName) ({ cls := "WhatIfSheet$Least", name := "at", desc := "(LWhatIfSheet$Table;)I" } : Jvm.MethodName)) ∈ lw_all := lw_g (lw_at lw_m9 148 rfl) rfl
theorem q2199 : (Jvm.Cond.sameMethod "WhatIfSheet$Least" "WhatIfSheet$Least" "at" "(LWhatIfSheet$Table;)I") ∈ lw_all := lw_g (lw_at lw_m9 149 rfl) rfl
theorem q2201 : (Jvm.Cond.code ({ cls := "WhatIfSheet$Least", name := "at", desc := "(LWhatIfSheet$Table;)I" } : Jvm.MethodName) prog_11_method_3_code (4 : Nat) (Option.some Jvm.ClassFile.FieldType.int)) ∈ lw_all := lw_g (lw_at lw_m9 151 rfl) rfl
theorem q2202 : (Jvm.Cond.methodLink "WhatIfSheet$Least" (15 : Nat) ({ cls := "WhatIfSheet$Table", name := "cases", desc := "()I" } : Jvm.MethodName)) ∈ lw_all := lw_g (lw_at lw_m9 152 rfl) rfl
theorem q2203 : (Jvm.Cond.methodLink "WhatIfSheet$Least" (39 : Nat) ({ cls := "WhatIfSheet$Least", name := "isBefore", desc := "(DD)Z" } : Jvm.MethodName)) ∈ lw_all := lw_g (lw_at lw_m9 153 rfl) rfl
theorem q2204 : (Jvm.Cond.instanceMethod ({ cls := "WhatIfSheet$Least", name := "isBefore", desc := "(DD)Z" } : Jvm.MethodName)) ∈ lw_all := lw_g (lw_at lw_m9 154 rfl) rfl
theorem q2205 : (Jvm.Cond.selects "WhatIfSheet$Least" ({ cls := "WhatIfSheet$Least", name := "isBefore", desc := "(DD)Z" } : Jvm.MethodName) ({ cls := "WhatIfSheet$Least", name := "isBefore", desc := "(DD)Z" } : Jvm.MethodName)) ∈ lw_all := lw_g (lw_at lw_m9 155 rfl) rfl
theorem q2206 : (Jvm.Cond.sameMethod "WhatIfSheet$Least" "WhatIfSheet$Least" "isBefore" "(DD)Z") ∈ lw_all := lw_g (lw_at lw_m9 156 rfl) rfl
theorem q2211 : (Jvm.Cond.code ({ cls := "WhatIfSheet$Least", name := "isBefore", desc := "(DD)Z" } : Jvm.MethodName) prog_11_method_2_code (5 : Nat) (Option.some Jvm.ClassFile.FieldType.boolean)) ∈ lw_all := lw_g (lw_at lw_m9 161 rfl) rfl
theorem q2281 : (Jvm.Cond.selects "WhatIfSheet$Least" ({ cls := "WhatIfSheet$Node", name := "worth", desc := "()D" } : Jvm.MethodName) ({ cls := "WhatIfSheet$Asked", name := "worth", desc := "()D" } : Jvm.MethodName)) ∈ lw_all := lw_g (lw_at lw_m9 231 rfl) rfl
theorem q3365 : (Jvm.Cond.selects "WhatIfSheet$Least" ({ cls := "WhatIfSheet$Mean", name := "good", desc := "(LWhatIfSheet$Table;)I" } : Jvm.MethodName) ({ cls := "WhatIfSheet$Mean", name := "good", desc := "(LWhatIfSheet$Table;)I" } : Jvm.MethodName)) ∈ lw_all := lw_g (lw_at lw_m14 115 rfl) rfl
theorem q3380 : (Jvm.Cond.selects "WhatIfSheet$Least" ({ cls := "WhatIfSheet$Asked", name := "worth", desc := "()D" } : Jvm.MethodName) ({ cls := "WhatIfSheet$Asked", name := "worth", desc := "()D" } : Jvm.MethodName)) ∈ lw_all := lw_g (lw_at lw_m14 130 rfl) rfl
theorem q3424 : (Jvm.Cond.castable "WhatIfSheet$Least" "java/lang/Object") ∈ lw_tbl := lw_at lw_m14 174 rfl
theorem in_X20 : ∀ w ∈ wsX200, w ∈ lw_all := lw_in wsX200 [1771, 1769, 1770, 1768, 1766] (by decide +kernel) (by decide +kernel)
/-! WhatIfSheet$Most -/
set_option maxRecDepth 100000
def RX21 : String := "WhatIfSheet$Most"
def TX21 : u_T := fun k => match k with
  | 0 => ("WhatIfSheet$Node", "this$0", "LWhatIfSheet;", true)
  | 1 => ("WhatIfSheet$Asked", "t", "I", true)
  | 2 => ("WhatIfSheet$Asked", "this$0", "LWhatIfSheet;", true)
  | 3 => ("WhatIfSheet$Mean", "this$0", "LWhatIfSheet;", true)
  | 4 => ("WhatIfSheet$Least", "this$0", "LWhatIfSheet;", true)
  | _ => ("WhatIfSheet$Most", "this$0", "LWhatIfSheet;", true)
def tyX21 : Nat → FieldType := fun k => match k with
  | 0 => .object "WhatIfSheet"
  | 1 => .int
  | 2 => .object "WhatIfSheet"
  | 3 => .object "WhatIfSheet"
  | 4 => .object "WhatIfSheet"
  | _ => .object "WhatIfSheet"
abbrev wsX210 : List Cond := u_ws RX21 TX21 6
-- two fields of one name: no nmX21
theorem tyX21_ok : ∀ k, k < 6 → parseFieldDescriptor (TX21 k).2.2.1 = some (tyX21 k) := by decide +kernel
abbrev cX21_init : ByteArray := prog_16_method_1_code
def yX21_init : MethodName := ⟨RX21, "<init>", "(LWhatIfSheet;I)V"⟩
def dkwX21_init_0 : List UInt8 := [42, 43, 181, 0, 1, 42, 43, 28, 183, 0, 7, 177]
abbrev dktX21_init_0 : List UInt8 := dkwX21_init_0 ++ []
theorem dksX21_init_0 : cX21_init.data.toList.drop 0 = dktX21_init_0 := by decide +kernel
theorem dX21_init_0 : decode cX21_init 0 = .ok (.aload_n 0, 1) := dk_42 (dk_at dksX21_init_0 0 rfl rfl)
theorem dX21_init_1 : decode cX21_init 1 = .ok (.aload_n 1, 1) := dk_43 (dk_at dksX21_init_0 1 rfl rfl)
theorem dX21_init_2 : decode cX21_init 2 = .ok (.putfield 1, 3) := dk_181 0 1 (dk_at dksX21_init_0 2 rfl rfl)
theorem dX21_init_5 : decode cX21_init 5 = .ok (.aload_n 0, 1) := dk_42 (dk_at dksX21_init_0 5 rfl rfl)
theorem dX21_init_6 : decode cX21_init 6 = .ok (.aload_n 1, 1) := dk_43 (dk_at dksX21_init_0 6 rfl rfl)
theorem dX21_init_7 : decode cX21_init 7 = .ok (.iload_n 2, 1) := dk_28 (dk_at dksX21_init_0 7 rfl rfl)
theorem dX21_init_8 : decode cX21_init 8 = .ok (.invokespecial 7, 3) := dk_183 0 7 (dk_at dksX21_init_0 8 rfl rfl)
theorem dX21_init_11 : decode cX21_init 11 = .ok (.return_, 1) := dk_177 (dk_at dksX21_init_0 11 rfl rfl)
abbrev cX21_isBefore : ByteArray := prog_16_method_2_code
def yX21_isBefore : MethodName := ⟨RX21, "isBefore", "(DD)Z"⟩
def dkwX21_isBefore_0 : List UInt8 := [42, 41, 39, 183, 0, 13, 172]
abbrev dktX21_isBefore_0 : List UInt8 := dkwX21_isBefore_0 ++ []
theorem dksX21_isBefore_0 : cX21_isBefore.data.toList.drop 0 = dktX21_isBefore_0 := by decide +kernel
theorem dX21_isBefore_0 : decode cX21_isBefore 0 = .ok (.aload_n 0, 1) := dk_42 (dk_at dksX21_isBefore_0 0 rfl rfl)
theorem dX21_isBefore_1 : decode cX21_isBefore 1 = .ok (.dload_n 3, 1) := dk_41 (dk_at dksX21_isBefore_0 1 rfl rfl)
theorem dX21_isBefore_2 : decode cX21_isBefore 2 = .ok (.dload_n 1, 1) := dk_39 (dk_at dksX21_isBefore_0 2 rfl rfl)
theorem dX21_isBefore_3 : decode cX21_isBefore 3 = .ok (.invokespecial 13, 3) := dk_183 0 13 (dk_at dksX21_isBefore_0 3 rfl rfl)
theorem dX21_isBefore_6 : decode cX21_isBefore 6 = .ok (.ireturn, 1) := dk_172 (dk_at dksX21_isBefore_0 6 rfl rfl)
theorem q185 : (Jvm.Cond.initialized "WhatIfSheet$Most") ∈ lw_all := lw_g (lw_at lw_m1 55 rfl) rfl
theorem q781 : (Jvm.Cond.selects "WhatIfSheet$Most" ({ cls := "java/lang/Object", name := "equals", desc := "(Ljava/lang/Object;)Z" } : Jvm.MethodName) ({ cls := "java/lang/Object", name := "equals", desc := "(Ljava/lang/Object;)Z" } : Jvm.MethodName)) ∈ lw_all := lw_g (lw_at lw_m3 171 rfl) rfl
theorem q858 : (Jvm.Cond.selects "WhatIfSheet$Most" ({ cls := "java/lang/Object", name := "getClass", desc := "()Ljava/lang/Class;" } : Jvm.MethodName) ({ cls := "java/lang/Object", name := "getClass", desc := "()Ljava/lang/Class;" } : Jvm.MethodName)) ∈ lw_all := lw_g (lw_at lw_m4 8 rfl) rfl
theorem q1774 : (Jvm.Cond.instantiable "WhatIfSheet$Most" (6 : Nat)) ∈ lw_all := lw_g (lw_at lw_m7 204 rfl) rfl
theorem q1776 : (Jvm.Cond.instanceMethod ({ cls := "WhatIfSheet$Most", name := "<init>", desc := "(LWhatIfSheet;I)V" } : Jvm.MethodName)) ∈ lw_all := lw_g (lw_at lw_m7 206 rfl) rfl
theorem q1777 : (Jvm.Cond.code ({ cls := "WhatIfSheet$Most", name := "<init>", desc := "(LWhatIfSheet;I)V" } : Jvm.MethodName) prog_16_method_1_code (3 : Nat) (Option.none : Option Jvm.ClassFile.FieldType)) ∈ lw_all := lw_g (lw_at lw_m7 207 rfl) rfl
theorem q1778 : (Jvm.Cond.methodLink "WhatIfSheet$Most" (7 : Nat) ({ cls := "WhatIfSheet$Least", name := "<init>", desc := "(LWhatIfSheet;I)V" } : Jvm.MethodName)) ∈ lw_all := lw_g (lw_at lw_m7 208 rfl) rfl
theorem q1779 : (Jvm.Cond.fieldLink "WhatIfSheet$Most" (1 : Nat) "WhatIfSheet$Most" "this$0" "LWhatIfSheet;") ∈ lw_all := lw_g (lw_at lw_m7 209 rfl) rfl
theorem q1780 : (Jvm.Cond.laysFinal "WhatIfSheet$Most" "WhatIfSheet$Most" "this$0" "LWhatIfSheet;") ∈ lw_all := lw_g (lw_at lw_m7 210 rfl) rfl
theorem q1781 : (Jvm.Cond.soleField "WhatIfSheet$Most" "this$0") ∈ lw_all := lw_g (lw_at lw_m7 211 rfl) rfl
theorem q1782 : (Jvm.Cond.laysFinal "WhatIfSheet$Most" "WhatIfSheet$Least" "this$0" "LWhatIfSheet;") ∈ lw_all := lw_g (lw_at lw_m7 212 rfl) rfl
theorem q1783 : (Jvm.Cond.laysFinal "WhatIfSheet$Most" "WhatIfSheet$Mean" "this$0" "LWhatIfSheet;") ∈ lw_all := lw_g (lw_at lw_m7 213 rfl) rfl
theorem q1784 : (Jvm.Cond.laysFinal "WhatIfSheet$Most" "WhatIfSheet$Asked" "t" "I") ∈ lw_all := lw_g (lw_at lw_m7 214 rfl) rfl
theorem q1785 : (Jvm.Cond.laysFinal "WhatIfSheet$Most" "WhatIfSheet$Asked" "this$0" "LWhatIfSheet;") ∈ lw_all := lw_g (lw_at lw_m7 215 rfl) rfl
theorem q1786 : (Jvm.Cond.laysFinal "WhatIfSheet$Most" "WhatIfSheet$Node" "this$0" "LWhatIfSheet;") ∈ lw_all := lw_g (lw_at lw_m7 216 rfl) rfl
theorem q1787 : (Jvm.Cond.superclass "WhatIfSheet$Most" "WhatIfSheet$Least") ∈ lw_all := lw_g (lw_at lw_m7 217 rfl) rfl
theorem q2191 : (Jvm.Cond.selects "WhatIfSheet$Most" ({ cls := "WhatIfSheet$Least", name := "good", desc := "(LWhatIfSheet$Table;)I" } : Jvm.MethodName) ({ cls := "WhatIfSheet$Mean", name := "good", desc := "(LWhatIfSheet$Table;)I" } : Jvm.MethodName)) ∈ lw_all := lw_g (lw_at lw_m9 141 rfl) rfl
theorem q2200 : (Jvm.Cond.selects "WhatIfSheet$Most" ({ cls := "WhatIfSheet$Least", name := "at", desc := "(LWhatIfSheet$Table;)I" } : Jvm.MethodName) ({ cls := "WhatIfSheet$Least", name := "at", desc := "(LWhatIfSheet$Table;)I" } : Jvm.MethodName)) ∈ lw_all := lw_g (lw_at lw_m9 150 rfl) rfl
theorem q2207 : (Jvm.Cond.selects "WhatIfSheet$Most" ({ cls := "WhatIfSheet$Least", name := "isBefore", desc := "(DD)Z" } : Jvm.MethodName) ({ cls := "WhatIfSheet$Most", name := "isBefore", desc := "(DD)Z" } : Jvm.MethodName)) ∈ lw_all := lw_g (lw_at lw_m9 157 rfl) rfl
theorem q2208 : (Jvm.Cond.instanceMethod ({ cls := "WhatIfSheet$Most", name := "isBefore", desc := "(DD)Z" } : Jvm.MethodName)) ∈ lw_all := lw_g (lw_at lw_m9 158 rfl) rfl
theorem q2209 : (Jvm.Cond.code ({ cls := "WhatIfSheet$Most", name := "isBefore", desc := "(DD)Z" } : Jvm.MethodName) prog_16_method_2_code (5 : Nat) (Option.some Jvm.ClassFile.FieldType.boolean)) ∈ lw_all := lw_g (lw_at lw_m9 159 rfl) rfl
theorem q2210 : (Jvm.Cond.methodLink "WhatIfSheet$Most" (13 : Nat) ({ cls := "WhatIfSheet$Least", name := "isBefore", desc := "(DD)Z" } : Jvm.MethodName)) ∈ lw_all := lw_g (lw_at lw_m9 160 rfl) rfl
theorem q2217 : (Jvm.Cond.selects "WhatIfSheet$Most" ({ cls := "WhatIfSheet$Asked", name := "of", desc := "(LWhatIfSheet$Table;)D" } : Jvm.MethodName) ({ cls := "WhatIfSheet$Least", name := "of", desc := "(LWhatIfSheet$Table;)D" } : Jvm.MethodName)) ∈ lw_all := lw_g (lw_at lw_m9 167 rfl) rfl
theorem q2285 : (Jvm.Cond.selects "WhatIfSheet$Most" ({ cls := "WhatIfSheet$Node", name := "worth", desc := "()D" } : Jvm.MethodName) ({ cls := "WhatIfSheet$Asked", name := "worth", desc := "()D" } : Jvm.MethodName)) ∈ lw_all := lw_g (lw_at lw_m9 235 rfl) rfl
theorem q3367 : (Jvm.Cond.selects "WhatIfSheet$Most" ({ cls := "WhatIfSheet$Mean", name := "good", desc := "(LWhatIfSheet$Table;)I" } : Jvm.MethodName) ({ cls := "WhatIfSheet$Mean", name := "good", desc := "(LWhatIfSheet$Table;)I" } : Jvm.MethodName)) ∈ lw_all := lw_g (lw_at lw_m14 117 rfl) rfl
theorem q3382 : (Jvm.Cond.selects "WhatIfSheet$Most" ({ cls := "WhatIfSheet$Asked", name := "worth", desc := "()D" } : Jvm.MethodName) ({ cls := "WhatIfSheet$Asked", name := "worth", desc := "()D" } : Jvm.MethodName)) ∈ lw_all := lw_g (lw_at lw_m14 132 rfl) rfl
theorem q3425 : (Jvm.Cond.castable "WhatIfSheet$Most" "java/lang/Object") ∈ lw_tbl := lw_at lw_m14 175 rfl
theorem in_X21 : ∀ w ∈ wsX210, w ∈ lw_all := lw_in wsX210 [1786, 1784, 1785, 1783, 1782, 1780] (by decide +kernel) (by decide +kernel)
/-! WhatIfSheet$Fails -/
set_option maxRecDepth 100000
def RX22 : String := "WhatIfSheet$Fails"
def TX22 : u_T := fun k => match k with
  | 0 => ("WhatIfSheet$Node", "this$0", "LWhatIfSheet;", true)
  | 1 => ("WhatIfSheet$Asked", "t", "I", true)
  | 2 => ("WhatIfSheet$Asked", "this$0", "LWhatIfSheet;", true)
  | _ => ("WhatIfSheet$Fails", "this$0", "LWhatIfSheet;", true)
def tyX22 : Nat → FieldType := fun k => match k with
  | 0 => .object "WhatIfSheet"
  | 1 => .int
  | 2 => .object "WhatIfSheet"
  | _ => .object "WhatIfSheet"
abbrev wsX220 : List Cond := u_ws RX22 TX22 4
-- two fields of one name: no nmX22
theorem tyX22_ok : ∀ k, k < 4 → parseFieldDescriptor (TX22 k).2.2.1 = some (tyX22 k) := by decide +kernel
abbrev cX22_init : ByteArray := prog_7_method_1_code
def yX22_init : MethodName := ⟨RX22, "<init>", "(LWhatIfSheet;I)V"⟩
def dkwX22_init_0 : List UInt8 := [42, 43, 181, 0, 1, 42, 43, 28, 183, 0, 7, 177]
abbrev dktX22_init_0 : List UInt8 := dkwX22_init_0 ++ []
theorem dksX22_init_0 : cX22_init.data.toList.drop 0 = dktX22_init_0 := by decide +kernel
theorem dX22_init_0 : decode cX22_init 0 = .ok (.aload_n 0, 1) := dk_42 (dk_at dksX22_init_0 0 rfl rfl)
theorem dX22_init_1 : decode cX22_init 1 = .ok (.aload_n 1, 1) := dk_43 (dk_at dksX22_init_0 1 rfl rfl)
theorem dX22_init_2 : decode cX22_init 2 = .ok (.putfield 1, 3) := dk_181 0 1 (dk_at dksX22_init_0 2 rfl rfl)
theorem dX22_init_5 : decode cX22_init 5 = .ok (.aload_n 0, 1) := dk_42 (dk_at dksX22_init_0 5 rfl rfl)
theorem dX22_init_6 : decode cX22_init 6 = .ok (.aload_n 1, 1) := dk_43 (dk_at dksX22_init_0 6 rfl rfl)
theorem dX22_init_7 : decode cX22_init 7 = .ok (.iload_n 2, 1) := dk_28 (dk_at dksX22_init_0 7 rfl rfl)
theorem dX22_init_8 : decode cX22_init 8 = .ok (.invokespecial 7, 3) := dk_183 0 7 (dk_at dksX22_init_0 8 rfl rfl)
theorem dX22_init_11 : decode cX22_init 11 = .ok (.return_, 1) := dk_177 (dk_at dksX22_init_0 11 rfl rfl)
abbrev cX22_of : ByteArray := prog_7_method_2_code
def yX22_of : MethodName := ⟨RX22, "of", "(LWhatIfSheet$Table;)D"⟩
def dkwX22_of_2 : List UInt8 := [175]
abbrev dktX22_of_2 : List UInt8 := dkwX22_of_2 ++ []
def dkwX22_of_1 : List UInt8 := [50, 180, 0, 29, 29, 51, 153, 0, 7, 4, 167, 0, 4, 3, 96, 61, 132, 3, 1, 167, 255, 217, 28, 135]
abbrev dktX22_of_1 : List UInt8 := dkwX22_of_1 ++ dktX22_of_2
def dkwX22_of_0 : List UInt8 := [3, 61, 3, 62, 29, 43, 182, 0, 13, 162, 0, 37, 28, 42, 180, 0, 1, 180, 0, 19, 42, 180, 0, 25]
abbrev dktX22_of_0 : List UInt8 := dkwX22_of_0 ++ dktX22_of_1
theorem dksX22_of_0 : cX22_of.data.toList.drop 0 = dktX22_of_0 := by decide +kernel
theorem dksX22_of_1 : cX22_of.data.toList.drop 24 = dktX22_of_1 := dk_seg dksX22_of_0 24 rfl rfl
theorem dksX22_of_2 : cX22_of.data.toList.drop 48 = dktX22_of_2 := dk_seg dksX22_of_1 24 rfl rfl
theorem dX22_of_0 : decode cX22_of 0 = .ok (.iconst 0, 1) := dk_3 (dk_at dksX22_of_0 0 rfl rfl)
theorem dX22_of_1 : decode cX22_of 1 = .ok (.istore_n 2, 1) := dk_61 (dk_at dksX22_of_0 1 rfl rfl)
theorem dX22_of_2 : decode cX22_of 2 = .ok (.iconst 0, 1) := dk_3 (dk_at dksX22_of_0 2 rfl rfl)
theorem dX22_of_3 : decode cX22_of 3 = .ok (.istore_n 3, 1) := dk_62 (dk_at dksX22_of_0 3 rfl rfl)
theorem dX22_of_4 : decode cX22_of 4 = .ok (.iload_n 3, 1) := dk_29 (dk_at dksX22_of_0 4 rfl rfl)
theorem dX22_of_5 : decode cX22_of 5 = .ok (.aload_n 1, 1) := dk_43 (dk_at dksX22_of_0 5 rfl rfl)
theorem dX22_of_6 : decode cX22_of 6 = .ok (.invokevirtual 13, 3) := dk_182 0 13 (dk_at dksX22_of_0 6 rfl rfl)
theorem dX22_of_9 : decode cX22_of 9 = .ok (.if_icmp .ge 37, 3) := dk_162 0 37 (dk_at dksX22_of_0 9 rfl rfl)
theorem dX22_of_12 : decode cX22_of 12 = .ok (.iload_n 2, 1) := dk_28 (dk_at dksX22_of_0 12 rfl rfl)
theorem dX22_of_13 : decode cX22_of 13 = .ok (.aload_n 0, 1) := dk_42 (dk_at dksX22_of_0 13 rfl rfl)
theorem dX22_of_14 : decode cX22_of 14 = .ok (.getfield 1, 3) := dk_180 0 1 (dk_at dksX22_of_0 14 rfl rfl)
theorem dX22_of_17 : decode cX22_of 17 = .ok (.getfield 19, 3) := dk_180 0 19 (dk_at dksX22_of_0 17 rfl rfl)
theorem dX22_of_20 : decode cX22_of 20 = .ok (.aload_n 0, 1) := dk_42 (dk_at dksX22_of_0 20 rfl rfl)
theorem dX22_of_21 : decode cX22_of 21 = .ok (.getfield 25, 3) := dk_180 0 25 (dk_at dksX22_of_0 21 rfl rfl)
theorem dX22_of_24 : decode cX22_of 24 = .ok (.aaload, 1) := dk_50 (dk_at dksX22_of_1 0 rfl rfl)
theorem dX22_of_25 : decode cX22_of 25 = .ok (.getfield 29, 3) := dk_180 0 29 (dk_at dksX22_of_1 1 rfl rfl)
theorem dX22_of_28 : decode cX22_of 28 = .ok (.iload_n 3, 1) := dk_29 (dk_at dksX22_of_1 4 rfl rfl)
theorem dX22_of_29 : decode cX22_of 29 = .ok (.baload, 1) := dk_51 (dk_at dksX22_of_1 5 rfl rfl)
theorem dX22_of_30 : decode cX22_of 30 = .ok (.ifCond .eq 7, 3) := dk_153 0 7 (dk_at dksX22_of_1 6 rfl rfl)
theorem dX22_of_33 : decode cX22_of 33 = .ok (.iconst 1, 1) := dk_4 (dk_at dksX22_of_1 9 rfl rfl)
theorem dX22_of_34 : decode cX22_of 34 = .ok (.goto 4, 3) := dk_167 0 4 (dk_at dksX22_of_1 10 rfl rfl)
theorem dX22_of_37 : decode cX22_of 37 = .ok (.iconst 0, 1) := dk_3 (dk_at dksX22_of_1 13 rfl rfl)
theorem dX22_of_38 : decode cX22_of 38 = .ok (.iadd, 1) := dk_96 (dk_at dksX22_of_1 14 rfl rfl)
theorem dX22_of_39 : decode cX22_of 39 = .ok (.istore_n 2, 1) := dk_61 (dk_at dksX22_of_1 15 rfl rfl)
theorem dX22_of_40 : decode cX22_of 40 = .ok (.iinc 3 1, 3) := dk_132 3 1 (dk_at dksX22_of_1 16 rfl rfl)
theorem dX22_of_43 : decode cX22_of 43 = .ok (.goto (-39), 3) := dk_167 255 217 (dk_at dksX22_of_1 19 rfl rfl)
theorem dX22_of_46 : decode cX22_of 46 = .ok (.iload_n 2, 1) := dk_28 (dk_at dksX22_of_1 22 rfl rfl)
theorem dX22_of_47 : decode cX22_of 47 = .ok (.i2d, 1) := dk_135 (dk_at dksX22_of_1 23 rfl rfl)
theorem dX22_of_48 : decode cX22_of 48 = .ok (.dreturn, 1) := dk_175 (dk_at dksX22_of_2 0 rfl rfl)
theorem q186 : (Jvm.Cond.initialized "WhatIfSheet$Fails") ∈ lw_all := lw_g (lw_at lw_m1 56 rfl) rfl
theorem q234 : (Jvm.Cond.fieldLink "WhatIfSheet$Fails" (29 : Nat) "WhatIfSheet$Sight" "errors" "[B") ∈ lw_all := lw_g (lw_at lw_m1 104 rfl) rfl
theorem q772 : (Jvm.Cond.selects "WhatIfSheet$Fails" ({ cls := "java/lang/Object", name := "equals", desc := "(Ljava/lang/Object;)Z" } : Jvm.MethodName) ({ cls := "java/lang/Object", name := "equals", desc := "(Ljava/lang/Object;)Z" } : Jvm.MethodName)) ∈ lw_all := lw_g (lw_at lw_m3 162 rfl) rfl
theorem q849 : (Jvm.Cond.selects "WhatIfSheet$Fails" ({ cls := "java/lang/Object", name := "getClass", desc := "()Ljava/lang/Class;" } : Jvm.MethodName) ({ cls := "java/lang/Object", name := "getClass", desc := "()Ljava/lang/Class;" } : Jvm.MethodName)) ∈ lw_all := lw_g (lw_at lw_m3 239 rfl) rfl
theorem q1213 : (Jvm.Cond.fieldLinkNest "WhatIfSheet$Fails" (19 : Nat) "WhatIfSheet" "sights" "[LWhatIfSheet$Sight;" "WhatIfSheet") ∈ lw_tbl := lw_at lw_m5 123 rfl
theorem q1735 : (Jvm.Cond.fieldLink "WhatIfSheet$Fails" (25 : Nat) "WhatIfSheet$Fails" "t" "I") ∈ lw_all := lw_g (lw_at lw_m7 165 rfl) rfl
theorem q1736 : (Jvm.Cond.sameField "WhatIfSheet$Fails" "WhatIfSheet$Asked" "t" "I") ∈ lw_all := lw_g (lw_at lw_m7 166 rfl) rfl
theorem q1789 : (Jvm.Cond.instantiable "WhatIfSheet$Fails" (4 : Nat)) ∈ lw_all := lw_g (lw_at lw_m7 219 rfl) rfl
theorem q1791 : (Jvm.Cond.instanceMethod ({ cls := "WhatIfSheet$Fails", name := "<init>", desc := "(LWhatIfSheet;I)V" } : Jvm.MethodName)) ∈ lw_all := lw_g (lw_at lw_m7 221 rfl) rfl
theorem q1792 : (Jvm.Cond.code ({ cls := "WhatIfSheet$Fails", name := "<init>", desc := "(LWhatIfSheet;I)V" } : Jvm.MethodName) prog_7_method_1_code (3 : Nat) (Option.none : Option Jvm.ClassFile.FieldType)) ∈ lw_all := lw_g (lw_at lw_m7 222 rfl) rfl
theorem q1793 : (Jvm.Cond.methodLink "WhatIfSheet$Fails" (7 : Nat) ({ cls := "WhatIfSheet$Asked", name := "<init>", desc := "(LWhatIfSheet;I)V" } : Jvm.MethodName)) ∈ lw_all := lw_g (lw_at lw_m7 223 rfl) rfl
theorem q1794 : (Jvm.Cond.fieldLink "WhatIfSheet$Fails" (1 : Nat) "WhatIfSheet$Fails" "this$0" "LWhatIfSheet;") ∈ lw_all := lw_g (lw_at lw_m7 224 rfl) rfl
theorem q1795 : (Jvm.Cond.laysFinal "WhatIfSheet$Fails" "WhatIfSheet$Fails" "this$0" "LWhatIfSheet;") ∈ lw_all := lw_g (lw_at lw_m7 225 rfl) rfl
theorem q1796 : (Jvm.Cond.soleField "WhatIfSheet$Fails" "this$0") ∈ lw_all := lw_g (lw_at lw_m7 226 rfl) rfl
theorem q1797 : (Jvm.Cond.laysFinal "WhatIfSheet$Fails" "WhatIfSheet$Asked" "t" "I") ∈ lw_all := lw_g (lw_at lw_m7 227 rfl) rfl
theorem q1798 : (Jvm.Cond.laysFinal "WhatIfSheet$Fails" "WhatIfSheet$Asked" "this$0" "LWhatIfSheet;") ∈ lw_all := lw_g (lw_at lw_m7 228 rfl) rfl
theorem q1799 : (Jvm.Cond.laysFinal "WhatIfSheet$Fails" "WhatIfSheet$Node" "this$0" "LWhatIfSheet;") ∈ lw_all := lw_g (lw_at lw_m7 229 rfl) rfl
theorem q1800 : (Jvm.Cond.superclass "WhatIfSheet$Fails" "WhatIfSheet$Asked") ∈ lw_all := lw_g (lw_at lw_m7 230 rfl) rfl
theorem q2180 : (Jvm.Cond.selects "WhatIfSheet$Fails" ({ cls := "WhatIfSheet$Asked", name := "of", desc := "(LWhatIfSheet$Table;)D" } : Jvm.MethodName) ({ cls := "WhatIfSheet$Fails", name := "of", desc := "(LWhatIfSheet$Table;)D" } : Jvm.MethodName)) ∈ lw_all := lw_g (lw_at lw_m9 130 rfl) rfl
theorem q2181 : (Jvm.Cond.instanceMethod ({ cls := "WhatIfSheet$Fails", name := "of", desc := "(LWhatIfSheet$Table;)D" } : Jvm.MethodName)) ∈ lw_all := lw_g (lw_at lw_m9 131 rfl) rfl
theorem q2182 : (Jvm.Cond.code ({ cls := "WhatIfSheet$Fails", name := "of", desc := "(LWhatIfSheet$Table;)D" } : Jvm.MethodName) prog_7_method_2_code (4 : Nat) (Option.some Jvm.ClassFile.FieldType.double)) ∈ lw_all := lw_g (lw_at lw_m9 132 rfl) rfl
theorem q2183 : (Jvm.Cond.methodLink "WhatIfSheet$Fails" (13 : Nat) ({ cls := "WhatIfSheet$Table", name := "cases", desc := "()I" } : Jvm.MethodName)) ∈ lw_all := lw_g (lw_at lw_m9 133 rfl) rfl
theorem q2279 : (Jvm.Cond.selects "WhatIfSheet$Fails" ({ cls := "WhatIfSheet$Node", name := "worth", desc := "()D" } : Jvm.MethodName) ({ cls := "WhatIfSheet$Asked", name := "worth", desc := "()D" } : Jvm.MethodName)) ∈ lw_all := lw_g (lw_at lw_m9 229 rfl) rfl
theorem q3379 : (Jvm.Cond.selects "WhatIfSheet$Fails" ({ cls := "WhatIfSheet$Asked", name := "worth", desc := "()D" } : Jvm.MethodName) ({ cls := "WhatIfSheet$Asked", name := "worth", desc := "()D" } : Jvm.MethodName)) ∈ lw_all := lw_g (lw_at lw_m14 129 rfl) rfl
theorem q3426 : (Jvm.Cond.castable "WhatIfSheet$Fails" "java/lang/Object") ∈ lw_tbl := lw_at lw_m14 176 rfl
theorem in_X22 : ∀ w ∈ wsX220, w ∈ lw_all := lw_in wsX220 [1799, 1797, 1798, 1795] (by decide +kernel) (by decide +kernel)
/-! WhatIfSheet$Named -/
set_option maxRecDepth 100000
def RX23 : String := "WhatIfSheet$Named"
def TX23 : u_T := fun k => match k with
  | 0 => ("WhatIfSheet$Node", "this$0", "LWhatIfSheet;", true)
  | 1 => ("WhatIfSheet$Named", "cell", "I", true)
  | _ => ("WhatIfSheet$Named", "this$0", "LWhatIfSheet;", true)
def tyX23 : Nat → FieldType := fun k => match k with
  | 0 => .object "WhatIfSheet"
  | 1 => .int
  | _ => .object "WhatIfSheet"
abbrev wsX230 : List Cond := u_ws RX23 TX23 3
-- two fields of one name: no nmX23
theorem tyX23_ok : ∀ k, k < 3 → parseFieldDescriptor (TX23 k).2.2.1 = some (tyX23 k) := by decide +kernel
abbrev cX23_init : ByteArray := prog_17_method_1_code
def yX23_init : MethodName := ⟨RX23, "<init>", "(LWhatIfSheet;I)V"⟩
def dkwX23_init_0 : List UInt8 := [42, 43, 181, 0, 1, 42, 43, 183, 0, 7, 42, 28, 181, 0, 13, 177]
abbrev dktX23_init_0 : List UInt8 := dkwX23_init_0 ++ []
theorem dksX23_init_0 : cX23_init.data.toList.drop 0 = dktX23_init_0 := by decide +kernel
theorem dX23_init_0 : decode cX23_init 0 = .ok (.aload_n 0, 1) := dk_42 (dk_at dksX23_init_0 0 rfl rfl)
theorem dX23_init_1 : decode cX23_init 1 = .ok (.aload_n 1, 1) := dk_43 (dk_at dksX23_init_0 1 rfl rfl)
theorem dX23_init_2 : decode cX23_init 2 = .ok (.putfield 1, 3) := dk_181 0 1 (dk_at dksX23_init_0 2 rfl rfl)
theorem dX23_init_5 : decode cX23_init 5 = .ok (.aload_n 0, 1) := dk_42 (dk_at dksX23_init_0 5 rfl rfl)
theorem dX23_init_6 : decode cX23_init 6 = .ok (.aload_n 1, 1) := dk_43 (dk_at dksX23_init_0 6 rfl rfl)
theorem dX23_init_7 : decode cX23_init 7 = .ok (.invokespecial 7, 3) := dk_183 0 7 (dk_at dksX23_init_0 7 rfl rfl)
theorem dX23_init_10 : decode cX23_init 10 = .ok (.aload_n 0, 1) := dk_42 (dk_at dksX23_init_0 10 rfl rfl)
theorem dX23_init_11 : decode cX23_init 11 = .ok (.iload_n 2, 1) := dk_28 (dk_at dksX23_init_0 11 rfl rfl)
theorem dX23_init_12 : decode cX23_init 12 = .ok (.putfield 13, 3) := dk_181 0 13 (dk_at dksX23_init_0 12 rfl rfl)
theorem dX23_init_15 : decode cX23_init 15 = .ok (.return_, 1) := dk_177 (dk_at dksX23_init_0 15 rfl rfl)
abbrev cX23_worth : ByteArray := prog_17_method_2_code
def yX23_worth : MethodName := ⟨RX23, "worth", "()D"⟩
def dkwX23_worth_0 : List UInt8 := [42, 180, 0, 1, 42, 180, 0, 13, 182, 0, 17, 175]
abbrev dktX23_worth_0 : List UInt8 := dkwX23_worth_0 ++ []
theorem dksX23_worth_0 : cX23_worth.data.toList.drop 0 = dktX23_worth_0 := by decide +kernel
theorem dX23_worth_0 : decode cX23_worth 0 = .ok (.aload_n 0, 1) := dk_42 (dk_at dksX23_worth_0 0 rfl rfl)
theorem dX23_worth_1 : decode cX23_worth 1 = .ok (.getfield 1, 3) := dk_180 0 1 (dk_at dksX23_worth_0 1 rfl rfl)
theorem dX23_worth_4 : decode cX23_worth 4 = .ok (.aload_n 0, 1) := dk_42 (dk_at dksX23_worth_0 4 rfl rfl)
theorem dX23_worth_5 : decode cX23_worth 5 = .ok (.getfield 13, 3) := dk_180 0 13 (dk_at dksX23_worth_0 5 rfl rfl)
theorem dX23_worth_8 : decode cX23_worth 8 = .ok (.invokevirtual 17, 3) := dk_182 0 17 (dk_at dksX23_worth_0 8 rfl rfl)
theorem dX23_worth_11 : decode cX23_worth 11 = .ok (.dreturn, 1) := dk_175 (dk_at dksX23_worth_0 11 rfl rfl)
theorem q187 : (Jvm.Cond.initialized "WhatIfSheet$Named") ∈ lw_all := lw_g (lw_at lw_m1 57 rfl) rfl
theorem q782 : (Jvm.Cond.selects "WhatIfSheet$Named" ({ cls := "java/lang/Object", name := "equals", desc := "(Ljava/lang/Object;)Z" } : Jvm.MethodName) ({ cls := "java/lang/Object", name := "equals", desc := "(Ljava/lang/Object;)Z" } : Jvm.MethodName)) ∈ lw_all := lw_g (lw_at lw_m3 172 rfl) rfl
theorem q859 : (Jvm.Cond.selects "WhatIfSheet$Named" ({ cls := "java/lang/Object", name := "getClass", desc := "()Ljava/lang/Class;" } : Jvm.MethodName) ({ cls := "java/lang/Object", name := "getClass", desc := "()Ljava/lang/Class;" } : Jvm.MethodName)) ∈ lw_all := lw_g (lw_at lw_m4 9 rfl) rfl
theorem q1816 : (Jvm.Cond.instantiable "WhatIfSheet$Named" (3 : Nat)) ∈ lw_all := lw_g (lw_at lw_m8 6 rfl) rfl
theorem q1818 : (Jvm.Cond.instanceMethod ({ cls := "WhatIfSheet$Named", name := "<init>", desc := "(LWhatIfSheet;I)V" } : Jvm.MethodName)) ∈ lw_all := lw_g (lw_at lw_m8 8 rfl) rfl
theorem q1819 : (Jvm.Cond.code ({ cls := "WhatIfSheet$Named", name := "<init>", desc := "(LWhatIfSheet;I)V" } : Jvm.MethodName) prog_17_method_1_code (3 : Nat) (Option.none : Option Jvm.ClassFile.FieldType)) ∈ lw_all := lw_g (lw_at lw_m8 9 rfl) rfl
theorem q1820 : (Jvm.Cond.methodLinkNest "WhatIfSheet$Named" (7 : Nat) ({ cls := "WhatIfSheet$Node", name := "<init>", desc := "(LWhatIfSheet;)V" } : Jvm.MethodName) "WhatIfSheet") ∈ lw_tbl := lw_at lw_m8 10 rfl
theorem q1821 : (Jvm.Cond.fieldLink "WhatIfSheet$Named" (13 : Nat) "WhatIfSheet$Named" "cell" "I") ∈ lw_all := lw_g (lw_at lw_m8 11 rfl) rfl
theorem q1822 : (Jvm.Cond.fieldLink "WhatIfSheet$Named" (1 : Nat) "WhatIfSheet$Named" "this$0" "LWhatIfSheet;") ∈ lw_all := lw_g (lw_at lw_m8 12 rfl) rfl
theorem q1823 : (Jvm.Cond.laysFinal "WhatIfSheet$Named" "WhatIfSheet$Named" "cell" "I") ∈ lw_all := lw_g (lw_at lw_m8 13 rfl) rfl
theorem q1824 : (Jvm.Cond.soleField "WhatIfSheet$Named" "cell") ∈ lw_all := lw_g (lw_at lw_m8 14 rfl) rfl
theorem q1825 : (Jvm.Cond.laysFinal "WhatIfSheet$Named" "WhatIfSheet$Named" "this$0" "LWhatIfSheet;") ∈ lw_all := lw_g (lw_at lw_m8 15 rfl) rfl
theorem q1826 : (Jvm.Cond.soleField "WhatIfSheet$Named" "this$0") ∈ lw_all := lw_g (lw_at lw_m8 16 rfl) rfl
theorem q1827 : (Jvm.Cond.laysFinal "WhatIfSheet$Named" "WhatIfSheet$Node" "this$0" "LWhatIfSheet;") ∈ lw_all := lw_g (lw_at lw_m8 17 rfl) rfl
theorem q1828 : (Jvm.Cond.superclass "WhatIfSheet$Named" "WhatIfSheet$Node") ∈ lw_all := lw_g (lw_at lw_m8 18 rfl) rfl
theorem q2237 : (Jvm.Cond.instanceMethod ({ cls := "WhatIfSheet$Named", name := "worth", desc := "()D" } : Jvm.MethodName)) ∈ lw_all := lw_g (lw_at lw_m9 187 rfl) rfl
theorem q2238 : (Jvm.Cond.code ({ cls := "WhatIfSheet$Named", name := "worth", desc := "()D" } : Jvm.MethodName) prog_17_method_2_code (1 : Nat) (Option.some Jvm.ClassFile.FieldType.double)) ∈ lw_all := lw_g (lw_at lw_m9 188 rfl) rfl
theorem q2239 : (Jvm.Cond.methodLinkNest "WhatIfSheet$Named" (17 : Nat) ({ cls := "WhatIfSheet", name := "tell", desc := "(I)D" } : Jvm.MethodName) "WhatIfSheet") ∈ lw_tbl := lw_at lw_m9 189 rfl
theorem q2286 : (Jvm.Cond.selects "WhatIfSheet$Named" ({ cls := "WhatIfSheet$Node", name := "worth", desc := "()D" } : Jvm.MethodName) ({ cls := "WhatIfSheet$Named", name := "worth", desc := "()D" } : Jvm.MethodName)) ∈ lw_all := lw_g (lw_at lw_m9 236 rfl) rfl
theorem q3427 : (Jvm.Cond.castable "WhatIfSheet$Named" "java/lang/Object") ∈ lw_tbl := lw_at lw_m14 177 rfl
theorem in_X23 : ∀ w ∈ wsX230, w ∈ lw_all := lw_in wsX230 [1827, 1823, 1825] (by decide +kernel) (by decide +kernel)
/-! WhatIfSheet$Number1 -/
set_option maxRecDepth 100000
def RX24 : String := "WhatIfSheet$Number1"
def TX24 : u_T := fun k => match k with
  | 0 => ("WhatIfSheet$Node", "this$0", "LWhatIfSheet;", true)
  | 1 => ("WhatIfSheet$Number1", "v", "D", true)
  | _ => ("WhatIfSheet$Number1", "this$0", "LWhatIfSheet;", true)
def tyX24 : Nat → FieldType := fun k => match k with
  | 0 => .object "WhatIfSheet"
  | 1 => .double
  | _ => .object "WhatIfSheet"
abbrev wsX240 : List Cond := u_ws RX24 TX24 3
-- two fields of one name: no nmX24
theorem tyX24_ok : ∀ k, k < 3 → parseFieldDescriptor (TX24 k).2.2.1 = some (tyX24 k) := by decide +kernel
abbrev cX24_init : ByteArray := prog_19_method_1_code
def yX24_init : MethodName := ⟨RX24, "<init>", "(LWhatIfSheet;D)V"⟩
def dkwX24_init_0 : List UInt8 := [42, 43, 181, 0, 1, 42, 43, 183, 0, 7, 42, 40, 181, 0, 13, 177]
abbrev dktX24_init_0 : List UInt8 := dkwX24_init_0 ++ []
theorem dksX24_init_0 : cX24_init.data.toList.drop 0 = dktX24_init_0 := by decide +kernel
theorem dX24_init_0 : decode cX24_init 0 = .ok (.aload_n 0, 1) := dk_42 (dk_at dksX24_init_0 0 rfl rfl)
theorem dX24_init_1 : decode cX24_init 1 = .ok (.aload_n 1, 1) := dk_43 (dk_at dksX24_init_0 1 rfl rfl)
theorem dX24_init_2 : decode cX24_init 2 = .ok (.putfield 1, 3) := dk_181 0 1 (dk_at dksX24_init_0 2 rfl rfl)
theorem dX24_init_5 : decode cX24_init 5 = .ok (.aload_n 0, 1) := dk_42 (dk_at dksX24_init_0 5 rfl rfl)
theorem dX24_init_6 : decode cX24_init 6 = .ok (.aload_n 1, 1) := dk_43 (dk_at dksX24_init_0 6 rfl rfl)
theorem dX24_init_7 : decode cX24_init 7 = .ok (.invokespecial 7, 3) := dk_183 0 7 (dk_at dksX24_init_0 7 rfl rfl)
theorem dX24_init_10 : decode cX24_init 10 = .ok (.aload_n 0, 1) := dk_42 (dk_at dksX24_init_0 10 rfl rfl)
theorem dX24_init_11 : decode cX24_init 11 = .ok (.dload_n 2, 1) := dk_40 (dk_at dksX24_init_0 11 rfl rfl)
theorem dX24_init_12 : decode cX24_init 12 = .ok (.putfield 13, 3) := dk_181 0 13 (dk_at dksX24_init_0 12 rfl rfl)
theorem dX24_init_15 : decode cX24_init 15 = .ok (.return_, 1) := dk_177 (dk_at dksX24_init_0 15 rfl rfl)
abbrev cX24_worth : ByteArray := prog_19_method_2_code
def yX24_worth : MethodName := ⟨RX24, "worth", "()D"⟩
theorem dX24_worth_0 : decode cX24_worth 0 = .ok (.aload_n 0, 1) := by decide +kernel
theorem dX24_worth_1 : decode cX24_worth 1 = .ok (.getfield 13, 3) := by decide +kernel
theorem dX24_worth_4 : decode cX24_worth 4 = .ok (.dreturn, 1) := by decide +kernel
theorem q188 : (Jvm.Cond.initialized "WhatIfSheet$Number1") ∈ lw_all := lw_g (lw_at lw_m1 58 rfl) rfl
theorem q783 : (Jvm.Cond.selects "WhatIfSheet$Number1" ({ cls := "java/lang/Object", name := "equals", desc := "(Ljava/lang/Object;)Z" } : Jvm.MethodName) ({ cls := "java/lang/Object", name := "equals", desc := "(Ljava/lang/Object;)Z" } : Jvm.MethodName)) ∈ lw_all := lw_g (lw_at lw_m3 173 rfl) rfl
theorem q860 : (Jvm.Cond.selects "WhatIfSheet$Number1" ({ cls := "java/lang/Object", name := "getClass", desc := "()Ljava/lang/Class;" } : Jvm.MethodName) ({ cls := "java/lang/Object", name := "getClass", desc := "()Ljava/lang/Class;" } : Jvm.MethodName)) ∈ lw_all := lw_g (lw_at lw_m4 10 rfl) rfl
theorem q1831 : (Jvm.Cond.instantiable "WhatIfSheet$Number1" (3 : Nat)) ∈ lw_all := lw_g (lw_at lw_m8 21 rfl) rfl
theorem q1833 : (Jvm.Cond.instanceMethod ({ cls := "WhatIfSheet$Number1", name := "<init>", desc := "(LWhatIfSheet;D)V" } : Jvm.MethodName)) ∈ lw_all := lw_g (lw_at lw_m8 23 rfl) rfl
theorem q1834 : (Jvm.Cond.code ({ cls := "WhatIfSheet$Number1", name := "<init>", desc := "(LWhatIfSheet;D)V" } : Jvm.MethodName) prog_19_method_1_code (4 : Nat) (Option.none : Option Jvm.ClassFile.FieldType)) ∈ lw_all := lw_g (lw_at lw_m8 24 rfl) rfl
theorem q1835 : (Jvm.Cond.methodLinkNest "WhatIfSheet$Number1" (7 : Nat) ({ cls := "WhatIfSheet$Node", name := "<init>", desc := "(LWhatIfSheet;)V" } : Jvm.MethodName) "WhatIfSheet") ∈ lw_tbl := lw_at lw_m8 25 rfl
theorem q1836 : (Jvm.Cond.fieldLink "WhatIfSheet$Number1" (13 : Nat) "WhatIfSheet$Number1" "v" "D") ∈ lw_all := lw_g (lw_at lw_m8 26 rfl) rfl
theorem q1837 : (Jvm.Cond.fieldLink "WhatIfSheet$Number1" (1 : Nat) "WhatIfSheet$Number1" "this$0" "LWhatIfSheet;") ∈ lw_all := lw_g (lw_at lw_m8 27 rfl) rfl
theorem q1838 : (Jvm.Cond.laysFinal "WhatIfSheet$Number1" "WhatIfSheet$Number1" "v" "D") ∈ lw_all := lw_g (lw_at lw_m8 28 rfl) rfl
theorem q1839 : (Jvm.Cond.soleField "WhatIfSheet$Number1" "v") ∈ lw_all := lw_g (lw_at lw_m8 29 rfl) rfl
theorem q1840 : (Jvm.Cond.laysFinal "WhatIfSheet$Number1" "WhatIfSheet$Number1" "this$0" "LWhatIfSheet;") ∈ lw_all := lw_g (lw_at lw_m8 30 rfl) rfl
theorem q1841 : (Jvm.Cond.soleField "WhatIfSheet$Number1" "this$0") ∈ lw_all := lw_g (lw_at lw_m8 31 rfl) rfl
theorem q1842 : (Jvm.Cond.laysFinal "WhatIfSheet$Number1" "WhatIfSheet$Node" "this$0" "LWhatIfSheet;") ∈ lw_all := lw_g (lw_at lw_m8 32 rfl) rfl
theorem q1843 : (Jvm.Cond.superclass "WhatIfSheet$Number1" "WhatIfSheet$Node") ∈ lw_all := lw_g (lw_at lw_m8 33 rfl) rfl
theorem q2240 : (Jvm.Cond.instanceMethod ({ cls := "WhatIfSheet$Number1", name := "worth", desc := "()D" } : Jvm.MethodName)) ∈ lw_all := lw_g (lw_at lw_m9 190 rfl) rfl
theorem q2241 : (Jvm.Cond.code ({ cls := "WhatIfSheet$Number1", name := "worth", desc := "()D" } : Jvm.MethodName) prog_19_method_2_code (1 : Nat) (Option.some Jvm.ClassFile.FieldType.double)) ∈ lw_all := lw_g (lw_at lw_m9 191 rfl) rfl
theorem q2287 : (Jvm.Cond.selects "WhatIfSheet$Number1" ({ cls := "WhatIfSheet$Node", name := "worth", desc := "()D" } : Jvm.MethodName) ({ cls := "WhatIfSheet$Number1", name := "worth", desc := "()D" } : Jvm.MethodName)) ∈ lw_all := lw_g (lw_at lw_m9 237 rfl) rfl
theorem q3428 : (Jvm.Cond.castable "WhatIfSheet$Number1" "java/lang/Object") ∈ lw_tbl := lw_at lw_m14 178 rfl
theorem in_X24 : ∀ w ∈ wsX240, w ∈ lw_all := lw_in wsX240 [1842, 1838, 1840] (by decide +kernel) (by decide +kernel)
/-! WhatIfSheet$Minus -/
set_option maxRecDepth 100000
def RX25 : String := "WhatIfSheet$Minus"
def TX25 : u_T := fun k => match k with
  | 0 => ("WhatIfSheet$Node", "this$0", "LWhatIfSheet;", true)
  | 1 => ("WhatIfSheet$Minus", "a", "LWhatIfSheet$Node;", true)
  | _ => ("WhatIfSheet$Minus", "this$0", "LWhatIfSheet;", true)
def tyX25 : Nat → FieldType := fun k => match k with
  | 0 => .object "WhatIfSheet"
  | 1 => .object "WhatIfSheet$Node"
  | _ => .object "WhatIfSheet"
abbrev wsX250 : List Cond := u_ws RX25 TX25 3
-- two fields of one name: no nmX25
theorem tyX25_ok : ∀ k, k < 3 → parseFieldDescriptor (TX25 k).2.2.1 = some (tyX25 k) := by decide +kernel
abbrev cX25_init : ByteArray := prog_15_method_1_code
def yX25_init : MethodName := ⟨RX25, "<init>", "(LWhatIfSheet;LWhatIfSheet$Node;)V"⟩
def dkwX25_init_0 : List UInt8 := [42, 43, 181, 0, 1, 42, 43, 183, 0, 7, 42, 44, 181, 0, 13, 177]
abbrev dktX25_init_0 : List UInt8 := dkwX25_init_0 ++ []
theorem dksX25_init_0 : cX25_init.data.toList.drop 0 = dktX25_init_0 := by decide +kernel
theorem dX25_init_0 : decode cX25_init 0 = .ok (.aload_n 0, 1) := dk_42 (dk_at dksX25_init_0 0 rfl rfl)
theorem dX25_init_1 : decode cX25_init 1 = .ok (.aload_n 1, 1) := dk_43 (dk_at dksX25_init_0 1 rfl rfl)
theorem dX25_init_2 : decode cX25_init 2 = .ok (.putfield 1, 3) := dk_181 0 1 (dk_at dksX25_init_0 2 rfl rfl)
theorem dX25_init_5 : decode cX25_init 5 = .ok (.aload_n 0, 1) := dk_42 (dk_at dksX25_init_0 5 rfl rfl)
theorem dX25_init_6 : decode cX25_init 6 = .ok (.aload_n 1, 1) := dk_43 (dk_at dksX25_init_0 6 rfl rfl)
theorem dX25_init_7 : decode cX25_init 7 = .ok (.invokespecial 7, 3) := dk_183 0 7 (dk_at dksX25_init_0 7 rfl rfl)
theorem dX25_init_10 : decode cX25_init 10 = .ok (.aload_n 0, 1) := dk_42 (dk_at dksX25_init_0 10 rfl rfl)
theorem dX25_init_11 : decode cX25_init 11 = .ok (.aload_n 2, 1) := dk_44 (dk_at dksX25_init_0 11 rfl rfl)
theorem dX25_init_12 : decode cX25_init 12 = .ok (.putfield 13, 3) := dk_181 0 13 (dk_at dksX25_init_0 12 rfl rfl)
theorem dX25_init_15 : decode cX25_init 15 = .ok (.return_, 1) := dk_177 (dk_at dksX25_init_0 15 rfl rfl)
abbrev cX25_worth : ByteArray := prog_15_method_2_code
def yX25_worth : MethodName := ⟨RX25, "worth", "()D"⟩
def dkwX25_worth_0 : List UInt8 := [42, 180, 0, 13, 182, 0, 17, 119, 175]
abbrev dktX25_worth_0 : List UInt8 := dkwX25_worth_0 ++ []
theorem dksX25_worth_0 : cX25_worth.data.toList.drop 0 = dktX25_worth_0 := by decide +kernel
theorem dX25_worth_0 : decode cX25_worth 0 = .ok (.aload_n 0, 1) := dk_42 (dk_at dksX25_worth_0 0 rfl rfl)
theorem dX25_worth_1 : decode cX25_worth 1 = .ok (.getfield 13, 3) := dk_180 0 13 (dk_at dksX25_worth_0 1 rfl rfl)
theorem dX25_worth_4 : decode cX25_worth 4 = .ok (.invokevirtual 17, 3) := dk_182 0 17 (dk_at dksX25_worth_0 4 rfl rfl)
theorem dX25_worth_7 : decode cX25_worth 7 = .ok (.dneg, 1) := dk_119 (dk_at dksX25_worth_0 7 rfl rfl)
theorem dX25_worth_8 : decode cX25_worth 8 = .ok (.dreturn, 1) := dk_175 (dk_at dksX25_worth_0 8 rfl rfl)
theorem q189 : (Jvm.Cond.initialized "WhatIfSheet$Minus") ∈ lw_all := lw_g (lw_at lw_m1 59 rfl) rfl
theorem q780 : (Jvm.Cond.selects "WhatIfSheet$Minus" ({ cls := "java/lang/Object", name := "equals", desc := "(Ljava/lang/Object;)Z" } : Jvm.MethodName) ({ cls := "java/lang/Object", name := "equals", desc := "(Ljava/lang/Object;)Z" } : Jvm.MethodName)) ∈ lw_all := lw_g (lw_at lw_m3 170 rfl) rfl
theorem q857 : (Jvm.Cond.selects "WhatIfSheet$Minus" ({ cls := "java/lang/Object", name := "getClass", desc := "()Ljava/lang/Class;" } : Jvm.MethodName) ({ cls := "java/lang/Object", name := "getClass", desc := "()Ljava/lang/Class;" } : Jvm.MethodName)) ∈ lw_all := lw_g (lw_at lw_m4 7 rfl) rfl
theorem q1845 : (Jvm.Cond.instantiable "WhatIfSheet$Minus" (3 : Nat)) ∈ lw_all := lw_g (lw_at lw_m8 35 rfl) rfl
theorem q1847 : (Jvm.Cond.instanceMethod ({ cls := "WhatIfSheet$Minus", name := "<init>", desc := "(LWhatIfSheet;LWhatIfSheet$Node;)V" } : Jvm.MethodName)) ∈ lw_all := lw_g (lw_at lw_m8 37 rfl) rfl
theorem q1848 : (Jvm.Cond.code ({ cls := "WhatIfSheet$Minus", name := "<init>", desc := "(LWhatIfSheet;LWhatIfSheet$Node;)V" } : Jvm.MethodName) prog_15_method_1_code (3 : Nat) (Option.none : Option Jvm.ClassFile.FieldType)) ∈ lw_all := lw_g (lw_at lw_m8 38 rfl) rfl
theorem q1849 : (Jvm.Cond.methodLinkNest "WhatIfSheet$Minus" (7 : Nat) ({ cls := "WhatIfSheet$Node", name := "<init>", desc := "(LWhatIfSheet;)V" } : Jvm.MethodName) "WhatIfSheet") ∈ lw_tbl := lw_at lw_m8 39 rfl
theorem q1850 : (Jvm.Cond.fieldLink "WhatIfSheet$Minus" (13 : Nat) "WhatIfSheet$Minus" "a" "LWhatIfSheet$Node;") ∈ lw_all := lw_g (lw_at lw_m8 40 rfl) rfl
theorem q1851 : (Jvm.Cond.fieldLink "WhatIfSheet$Minus" (1 : Nat) "WhatIfSheet$Minus" "this$0" "LWhatIfSheet;") ∈ lw_all := lw_g (lw_at lw_m8 41 rfl) rfl
theorem q1852 : (Jvm.Cond.laysFinal "WhatIfSheet$Minus" "WhatIfSheet$Minus" "a" "LWhatIfSheet$Node;") ∈ lw_all := lw_g (lw_at lw_m8 42 rfl) rfl
theorem q1853 : (Jvm.Cond.soleField "WhatIfSheet$Minus" "a") ∈ lw_all := lw_g (lw_at lw_m8 43 rfl) rfl
theorem q1854 : (Jvm.Cond.laysFinal "WhatIfSheet$Minus" "WhatIfSheet$Minus" "this$0" "LWhatIfSheet;") ∈ lw_all := lw_g (lw_at lw_m8 44 rfl) rfl
theorem q1855 : (Jvm.Cond.soleField "WhatIfSheet$Minus" "this$0") ∈ lw_all := lw_g (lw_at lw_m8 45 rfl) rfl
theorem q1856 : (Jvm.Cond.laysFinal "WhatIfSheet$Minus" "WhatIfSheet$Node" "this$0" "LWhatIfSheet;") ∈ lw_all := lw_g (lw_at lw_m8 46 rfl) rfl
theorem q1857 : (Jvm.Cond.superclass "WhatIfSheet$Minus" "WhatIfSheet$Node") ∈ lw_all := lw_g (lw_at lw_m8 47 rfl) rfl
theorem q2234 : (Jvm.Cond.instanceMethod ({ cls := "WhatIfSheet$Minus", name := "worth", desc := "()D" } : Jvm.MethodName)) ∈ lw_all := lw_g (lw_at lw_m9 184 rfl) rfl
theorem q2235 : (Jvm.Cond.code ({ cls := "WhatIfSheet$Minus", name := "worth", desc := "()D" } : Jvm.MethodName) prog_15_method_2_code (1 : Nat) (Option.some Jvm.ClassFile.FieldType.double)) ∈ lw_all := lw_g (lw_at lw_m9 185 rfl) rfl
theorem q2236 : (Jvm.Cond.methodLink "WhatIfSheet$Minus" (17 : Nat) ({ cls := "WhatIfSheet$Node", name := "worth", desc := "()D" } : Jvm.MethodName)) ∈ lw_all := lw_g (lw_at lw_m9 186 rfl) rfl
theorem q2284 : (Jvm.Cond.selects "WhatIfSheet$Minus" ({ cls := "WhatIfSheet$Node", name := "worth", desc := "()D" } : Jvm.MethodName) ({ cls := "WhatIfSheet$Minus", name := "worth", desc := "()D" } : Jvm.MethodName)) ∈ lw_all := lw_g (lw_at lw_m9 234 rfl) rfl
theorem q3429 : (Jvm.Cond.castable "WhatIfSheet$Minus" "java/lang/Object") ∈ lw_tbl := lw_at lw_m14 179 rfl
theorem in_X25 : ∀ w ∈ wsX250, w ∈ lw_all := lw_in wsX250 [1856, 1852, 1854] (by decide +kernel) (by decide +kernel)
/-! WhatIfSheet$Sum -/
set_option maxRecDepth 100000
def RX26 : String := "WhatIfSheet$Sum"
def TX26 : u_T := fun k => match k with
  | 0 => ("WhatIfSheet$Node", "this$0", "LWhatIfSheet;", true)
  | 1 => ("WhatIfSheet$Sum", "first", "LWhatIfSheet$Node;", true)
  | 2 => ("WhatIfSheet$Sum", "head", "LWhatIfSheet$Link;", false)
  | 3 => ("WhatIfSheet$Sum", "last", "LWhatIfSheet$Link;", false)
  | _ => ("WhatIfSheet$Sum", "this$0", "LWhatIfSheet;", true)
def tyX26 : Nat → FieldType := fun k => match k with
  | 0 => .object "WhatIfSheet"
  | 1 => .object "WhatIfSheet$Node"
  | 2 => .object "WhatIfSheet$Link"
  | 3 => .object "WhatIfSheet$Link"
  | _ => .object "WhatIfSheet"
abbrev wsX260 : List Cond := u_ws RX26 TX26 5
-- two fields of one name: no nmX26
theorem tyX26_ok : ∀ k, k < 5 → parseFieldDescriptor (TX26 k).2.2.1 = some (tyX26 k) := by decide +kernel
abbrev cX26_init : ByteArray := prog_28_method_1_code
def yX26_init : MethodName := ⟨RX26, "<init>", "(LWhatIfSheet;LWhatIfSheet$Node;)V"⟩
def dkwX26_init_0 : List UInt8 := [42, 43, 181, 0, 1, 42, 43, 183, 0, 7, 42, 44, 181, 0, 13, 177]
abbrev dktX26_init_0 : List UInt8 := dkwX26_init_0 ++ []
theorem dksX26_init_0 : cX26_init.data.toList.drop 0 = dktX26_init_0 := by decide +kernel
theorem dX26_init_0 : decode cX26_init 0 = .ok (.aload_n 0, 1) := dk_42 (dk_at dksX26_init_0 0 rfl rfl)
theorem dX26_init_1 : decode cX26_init 1 = .ok (.aload_n 1, 1) := dk_43 (dk_at dksX26_init_0 1 rfl rfl)
theorem dX26_init_2 : decode cX26_init 2 = .ok (.putfield 1, 3) := dk_181 0 1 (dk_at dksX26_init_0 2 rfl rfl)
theorem dX26_init_5 : decode cX26_init 5 = .ok (.aload_n 0, 1) := dk_42 (dk_at dksX26_init_0 5 rfl rfl)
theorem dX26_init_6 : decode cX26_init 6 = .ok (.aload_n 1, 1) := dk_43 (dk_at dksX26_init_0 6 rfl rfl)
theorem dX26_init_7 : decode cX26_init 7 = .ok (.invokespecial 7, 3) := dk_183 0 7 (dk_at dksX26_init_0 7 rfl rfl)
theorem dX26_init_10 : decode cX26_init 10 = .ok (.aload_n 0, 1) := dk_42 (dk_at dksX26_init_0 10 rfl rfl)
theorem dX26_init_11 : decode cX26_init 11 = .ok (.aload_n 2, 1) := dk_44 (dk_at dksX26_init_0 11 rfl rfl)
theorem dX26_init_12 : decode cX26_init 12 = .ok (.putfield 13, 3) := dk_181 0 13 (dk_at dksX26_init_0 12 rfl rfl)
theorem dX26_init_15 : decode cX26_init 15 = .ok (.return_, 1) := dk_177 (dk_at dksX26_init_0 15 rfl rfl)
abbrev cX26_more : ByteArray := prog_28_method_2_code
def yX26_more : MethodName := ⟨RX26, "more", "(ILWhatIfSheet$Node;)V"⟩
def dkwX26_more_1 : List UInt8 := [167, 0, 11, 42, 180, 0, 22, 45, 181, 0, 29, 42, 45, 181, 0, 22, 177]
abbrev dktX26_more_1 : List UInt8 := dkwX26_more_1 ++ []
def dkwX26_more_0 : List UInt8 := [187, 0, 17, 89, 27, 44, 183, 0, 19, 78, 42, 180, 0, 22, 199, 0, 11, 42, 45, 181, 0, 26]
abbrev dktX26_more_0 : List UInt8 := dkwX26_more_0 ++ dktX26_more_1
theorem dksX26_more_0 : cX26_more.data.toList.drop 0 = dktX26_more_0 := by decide +kernel
theorem dksX26_more_1 : cX26_more.data.toList.drop 22 = dktX26_more_1 := dk_seg dksX26_more_0 22 rfl rfl
theorem dX26_more_0 : decode cX26_more 0 = .ok (.new 17, 3) := dk_187 0 17 (dk_at dksX26_more_0 0 rfl rfl)
theorem dX26_more_3 : decode cX26_more 3 = .ok (.dup, 1) := dk_89 (dk_at dksX26_more_0 3 rfl rfl)
theorem dX26_more_4 : decode cX26_more 4 = .ok (.iload_n 1, 1) := dk_27 (dk_at dksX26_more_0 4 rfl rfl)
theorem dX26_more_5 : decode cX26_more 5 = .ok (.aload_n 2, 1) := dk_44 (dk_at dksX26_more_0 5 rfl rfl)
theorem dX26_more_6 : decode cX26_more 6 = .ok (.invokespecial 19, 3) := dk_183 0 19 (dk_at dksX26_more_0 6 rfl rfl)
theorem dX26_more_9 : decode cX26_more 9 = .ok (.astore_n 3, 1) := dk_78 (dk_at dksX26_more_0 9 rfl rfl)
theorem dX26_more_10 : decode cX26_more 10 = .ok (.aload_n 0, 1) := dk_42 (dk_at dksX26_more_0 10 rfl rfl)
theorem dX26_more_11 : decode cX26_more 11 = .ok (.getfield 22, 3) := dk_180 0 22 (dk_at dksX26_more_0 11 rfl rfl)
theorem dX26_more_14 : decode cX26_more 14 = .ok (.ifnonnull 11, 3) := dk_199 0 11 (dk_at dksX26_more_0 14 rfl rfl)
theorem dX26_more_17 : decode cX26_more 17 = .ok (.aload_n 0, 1) := dk_42 (dk_at dksX26_more_0 17 rfl rfl)
theorem dX26_more_18 : decode cX26_more 18 = .ok (.aload_n 3, 1) := dk_45 (dk_at dksX26_more_0 18 rfl rfl)
theorem dX26_more_19 : decode cX26_more 19 = .ok (.putfield 26, 3) := dk_181 0 26 (dk_at dksX26_more_0 19 rfl rfl)
theorem dX26_more_22 : decode cX26_more 22 = .ok (.goto 11, 3) := dk_167 0 11 (dk_at dksX26_more_1 0 rfl rfl)
theorem dX26_more_25 : decode cX26_more 25 = .ok (.aload_n 0, 1) := dk_42 (dk_at dksX26_more_1 3 rfl rfl)
theorem dX26_more_26 : decode cX26_more 26 = .ok (.getfield 22, 3) := dk_180 0 22 (dk_at dksX26_more_1 4 rfl rfl)
theorem dX26_more_29 : decode cX26_more 29 = .ok (.aload_n 3, 1) := dk_45 (dk_at dksX26_more_1 7 rfl rfl)
theorem dX26_more_30 : decode cX26_more 30 = .ok (.putfield 29, 3) := dk_181 0 29 (dk_at dksX26_more_1 8 rfl rfl)
theorem dX26_more_33 : decode cX26_more 33 = .ok (.aload_n 0, 1) := dk_42 (dk_at dksX26_more_1 11 rfl rfl)
theorem dX26_more_34 : decode cX26_more 34 = .ok (.aload_n 3, 1) := dk_45 (dk_at dksX26_more_1 12 rfl rfl)
theorem dX26_more_35 : decode cX26_more 35 = .ok (.putfield 22, 3) := dk_181 0 22 (dk_at dksX26_more_1 13 rfl rfl)
theorem dX26_more_38 : decode cX26_more 38 = .ok (.return_, 1) := dk_177 (dk_at dksX26_more_1 16 rfl rfl)
abbrev cX26_worth : ByteArray := prog_28_method_4_code
def yX26_worth : MethodName := ⟨RX26, "worth", "()D"⟩
def dkwX26_worth_1 : List UInt8 := [180, 0, 46, 182, 0, 38, 182, 0, 49, 72, 45, 180, 0, 29, 78, 167, 255, 230, 39, 175]
abbrev dktX26_worth_1 : List UInt8 := dkwX26_worth_1 ++ []
def dkwX26_worth_0 : List UInt8 := [42, 180, 0, 13, 182, 0, 38, 72, 42, 180, 0, 26, 78, 45, 198, 0, 28, 42, 39, 45, 180, 0, 42, 45]
abbrev dktX26_worth_0 : List UInt8 := dkwX26_worth_0 ++ dktX26_worth_1
theorem dksX26_worth_0 : cX26_worth.data.toList.drop 0 = dktX26_worth_0 := by decide +kernel
theorem dksX26_worth_1 : cX26_worth.data.toList.drop 24 = dktX26_worth_1 := dk_seg dksX26_worth_0 24 rfl rfl
theorem dX26_worth_0 : decode cX26_worth 0 = .ok (.aload_n 0, 1) := dk_42 (dk_at dksX26_worth_0 0 rfl rfl)
theorem dX26_worth_1 : decode cX26_worth 1 = .ok (.getfield 13, 3) := dk_180 0 13 (dk_at dksX26_worth_0 1 rfl rfl)
theorem dX26_worth_4 : decode cX26_worth 4 = .ok (.invokevirtual 38, 3) := dk_182 0 38 (dk_at dksX26_worth_0 4 rfl rfl)
theorem dX26_worth_7 : decode cX26_worth 7 = .ok (.dstore_n 1, 1) := dk_72 (dk_at dksX26_worth_0 7 rfl rfl)
theorem dX26_worth_8 : decode cX26_worth 8 = .ok (.aload_n 0, 1) := dk_42 (dk_at dksX26_worth_0 8 rfl rfl)
theorem dX26_worth_9 : decode cX26_worth 9 = .ok (.getfield 26, 3) := dk_180 0 26 (dk_at dksX26_worth_0 9 rfl rfl)
theorem dX26_worth_12 : decode cX26_worth 12 = .ok (.astore_n 3, 1) := dk_78 (dk_at dksX26_worth_0 12 rfl rfl)
theorem dX26_worth_13 : decode cX26_worth 13 = .ok (.aload_n 3, 1) := dk_45 (dk_at dksX26_worth_0 13 rfl rfl)
theorem dX26_worth_14 : decode cX26_worth 14 = .ok (.ifnull 28, 3) := dk_198 0 28 (dk_at dksX26_worth_0 14 rfl rfl)
theorem dX26_worth_17 : decode cX26_worth 17 = .ok (.aload_n 0, 1) := dk_42 (dk_at dksX26_worth_0 17 rfl rfl)
theorem dX26_worth_18 : decode cX26_worth 18 = .ok (.dload_n 1, 1) := dk_39 (dk_at dksX26_worth_0 18 rfl rfl)
theorem dX26_worth_19 : decode cX26_worth 19 = .ok (.aload_n 3, 1) := dk_45 (dk_at dksX26_worth_0 19 rfl rfl)
theorem dX26_worth_20 : decode cX26_worth 20 = .ok (.getfield 42, 3) := dk_180 0 42 (dk_at dksX26_worth_0 20 rfl rfl)
theorem dX26_worth_23 : decode cX26_worth 23 = .ok (.aload_n 3, 1) := dk_45 (dk_at dksX26_worth_0 23 rfl rfl)
theorem dX26_worth_24 : decode cX26_worth 24 = .ok (.getfield 46, 3) := dk_180 0 46 (dk_at dksX26_worth_1 0 rfl rfl)
theorem dX26_worth_27 : decode cX26_worth 27 = .ok (.invokevirtual 38, 3) := dk_182 0 38 (dk_at dksX26_worth_1 3 rfl rfl)
theorem dX26_worth_30 : decode cX26_worth 30 = .ok (.invokevirtual 49, 3) := dk_182 0 49 (dk_at dksX26_worth_1 6 rfl rfl)
theorem dX26_worth_33 : decode cX26_worth 33 = .ok (.dstore_n 1, 1) := dk_72 (dk_at dksX26_worth_1 9 rfl rfl)
theorem dX26_worth_34 : decode cX26_worth 34 = .ok (.aload_n 3, 1) := dk_45 (dk_at dksX26_worth_1 10 rfl rfl)
theorem dX26_worth_35 : decode cX26_worth 35 = .ok (.getfield 29, 3) := dk_180 0 29 (dk_at dksX26_worth_1 11 rfl rfl)
theorem dX26_worth_38 : decode cX26_worth 38 = .ok (.astore_n 3, 1) := dk_78 (dk_at dksX26_worth_1 14 rfl rfl)
theorem dX26_worth_39 : decode cX26_worth 39 = .ok (.goto (-26), 3) := dk_167 255 230 (dk_at dksX26_worth_1 15 rfl rfl)
theorem dX26_worth_42 : decode cX26_worth 42 = .ok (.dload_n 1, 1) := dk_39 (dk_at dksX26_worth_1 18 rfl rfl)
theorem dX26_worth_43 : decode cX26_worth 43 = .ok (.dreturn, 1) := dk_175 (dk_at dksX26_worth_1 19 rfl rfl)
abbrev cX26_joins : ByteArray := prog_28_method_3_code
def yX26_joins : MethodName := ⟨RX26, "joins", "(DID)D"⟩
def dkwX26_joins_1 : List UInt8 := [175]
abbrev dktX26_joins_1 : List UInt8 := dkwX26_joins_1 ++ []
def dkwX26_joins_0 : List UInt8 := [42, 180, 0, 1, 29, 16, 43, 160, 0, 10, 39, 24, 4, 99, 167, 0, 7, 39, 24, 4, 103, 182, 0, 32]
abbrev dktX26_joins_0 : List UInt8 := dkwX26_joins_0 ++ dktX26_joins_1
theorem dksX26_joins_0 : cX26_joins.data.toList.drop 0 = dktX26_joins_0 := by decide +kernel
theorem dksX26_joins_1 : cX26_joins.data.toList.drop 24 = dktX26_joins_1 := dk_seg dksX26_joins_0 24 rfl rfl
theorem dX26_joins_0 : decode cX26_joins 0 = .ok (.aload_n 0, 1) := dk_42 (dk_at dksX26_joins_0 0 rfl rfl)
theorem dX26_joins_1 : decode cX26_joins 1 = .ok (.getfield 1, 3) := dk_180 0 1 (dk_at dksX26_joins_0 1 rfl rfl)
theorem dX26_joins_4 : decode cX26_joins 4 = .ok (.iload_n 3, 1) := dk_29 (dk_at dksX26_joins_0 4 rfl rfl)
theorem dX26_joins_5 : decode cX26_joins 5 = .ok (.bipush 43, 2) := dk_16 43 (dk_at dksX26_joins_0 5 rfl rfl)
theorem dX26_joins_7 : decode cX26_joins 7 = .ok (.if_icmp .ne 10, 3) := dk_160 0 10 (dk_at dksX26_joins_0 7 rfl rfl)
theorem dX26_joins_10 : decode cX26_joins 10 = .ok (.dload_n 1, 1) := dk_39 (dk_at dksX26_joins_0 10 rfl rfl)
theorem dX26_joins_11 : decode cX26_joins 11 = .ok (.dload 4, 2) := dk_24 4 (dk_at dksX26_joins_0 11 rfl rfl)
theorem dX26_joins_13 : decode cX26_joins 13 = .ok (.dadd, 1) := dk_99 (dk_at dksX26_joins_0 13 rfl rfl)
theorem dX26_joins_14 : decode cX26_joins 14 = .ok (.goto 7, 3) := dk_167 0 7 (dk_at dksX26_joins_0 14 rfl rfl)
theorem dX26_joins_17 : decode cX26_joins 17 = .ok (.dload_n 1, 1) := dk_39 (dk_at dksX26_joins_0 17 rfl rfl)
theorem dX26_joins_18 : decode cX26_joins 18 = .ok (.dload 4, 2) := dk_24 4 (dk_at dksX26_joins_0 18 rfl rfl)
theorem dX26_joins_20 : decode cX26_joins 20 = .ok (.dsub, 1) := dk_103 (dk_at dksX26_joins_0 20 rfl rfl)
theorem dX26_joins_21 : decode cX26_joins 21 = .ok (.invokevirtual 32, 3) := dk_182 0 32 (dk_at dksX26_joins_0 21 rfl rfl)
theorem dX26_joins_24 : decode cX26_joins 24 = .ok (.dreturn, 1) := dk_175 (dk_at dksX26_joins_1 0 rfl rfl)
theorem q190 : (Jvm.Cond.initialized "WhatIfSheet$Sum") ∈ lw_all := lw_g (lw_at lw_m1 60 rfl) rfl
theorem q792 : (Jvm.Cond.selects "WhatIfSheet$Sum" ({ cls := "java/lang/Object", name := "equals", desc := "(Ljava/lang/Object;)Z" } : Jvm.MethodName) ({ cls := "java/lang/Object", name := "equals", desc := "(Ljava/lang/Object;)Z" } : Jvm.MethodName)) ∈ lw_all := lw_g (lw_at lw_m3 182 rfl) rfl
theorem q869 : (Jvm.Cond.selects "WhatIfSheet$Sum" ({ cls := "java/lang/Object", name := "getClass", desc := "()Ljava/lang/Class;" } : Jvm.MethodName) ({ cls := "java/lang/Object", name := "getClass", desc := "()Ljava/lang/Class;" } : Jvm.MethodName)) ∈ lw_all := lw_g (lw_at lw_m4 19 rfl) rfl
theorem q1864 : (Jvm.Cond.instanceMethod ({ cls := "WhatIfSheet$Sum", name := "<init>", desc := "(LWhatIfSheet;LWhatIfSheet$Node;)V" } : Jvm.MethodName)) ∈ lw_all := lw_g (lw_at lw_m8 54 rfl) rfl
theorem q1865 : (Jvm.Cond.code ({ cls := "WhatIfSheet$Sum", name := "<init>", desc := "(LWhatIfSheet;LWhatIfSheet$Node;)V" } : Jvm.MethodName) prog_28_method_1_code (3 : Nat) (Option.none : Option Jvm.ClassFile.FieldType)) ∈ lw_all := lw_g (lw_at lw_m8 55 rfl) rfl
theorem q1866 : (Jvm.Cond.methodLinkNest "WhatIfSheet$Sum" (7 : Nat) ({ cls := "WhatIfSheet$Node", name := "<init>", desc := "(LWhatIfSheet;)V" } : Jvm.MethodName) "WhatIfSheet") ∈ lw_tbl := lw_at lw_m8 56 rfl
theorem q1868 : (Jvm.Cond.fieldLink "WhatIfSheet$Sum" (13 : Nat) "WhatIfSheet$Sum" "first" "LWhatIfSheet$Node;") ∈ lw_all := lw_g (lw_at lw_m8 58 rfl) rfl
theorem q1869 : (Jvm.Cond.fieldLink "WhatIfSheet$Sum" (26 : Nat) "WhatIfSheet$Sum" "head" "LWhatIfSheet$Link;") ∈ lw_all := lw_g (lw_at lw_m8 59 rfl) rfl
theorem q1870 : (Jvm.Cond.fieldLink "WhatIfSheet$Sum" (22 : Nat) "WhatIfSheet$Sum" "last" "LWhatIfSheet$Link;") ∈ lw_all := lw_g (lw_at lw_m8 60 rfl) rfl
theorem q1871 : (Jvm.Cond.fieldLink "WhatIfSheet$Sum" (1 : Nat) "WhatIfSheet$Sum" "this$0" "LWhatIfSheet;") ∈ lw_all := lw_g (lw_at lw_m8 61 rfl) rfl
theorem q1875 : (Jvm.Cond.soleField "WhatIfSheet$Sum" "first") ∈ lw_all := lw_g (lw_at lw_m8 65 rfl) rfl
theorem q1877 : (Jvm.Cond.soleField "WhatIfSheet$Sum" "head") ∈ lw_all := lw_g (lw_at lw_m8 67 rfl) rfl
theorem q1879 : (Jvm.Cond.soleField "WhatIfSheet$Sum" "last") ∈ lw_all := lw_g (lw_at lw_m8 69 rfl) rfl
theorem q1881 : (Jvm.Cond.soleField "WhatIfSheet$Sum" "this$0") ∈ lw_all := lw_g (lw_at lw_m8 71 rfl) rfl
theorem q1886 : (Jvm.Cond.declares ({ cls := "WhatIfSheet$Sum", name := "more", desc := "(ILWhatIfSheet$Node;)V" } : Jvm.MethodName)) ∈ lw_tbl := lw_at lw_m8 76 rfl
theorem q1888 : (Jvm.Cond.instanceMethod ({ cls := "WhatIfSheet$Sum", name := "more", desc := "(ILWhatIfSheet$Node;)V" } : Jvm.MethodName)) ∈ lw_all := lw_g (lw_at lw_m8 78 rfl) rfl
theorem q1889 : (Jvm.Cond.code ({ cls := "WhatIfSheet$Sum", name := "more", desc := "(ILWhatIfSheet$Node;)V" } : Jvm.MethodName) prog_28_method_2_code (4 : Nat) (Option.none : Option Jvm.ClassFile.FieldType)) ∈ lw_all := lw_g (lw_at lw_m8 79 rfl) rfl
theorem q1890 : (Jvm.Cond.classLink "WhatIfSheet$Sum" (17 : Nat) "WhatIfSheet$Link") ∈ lw_all := lw_g (lw_at lw_m8 80 rfl) rfl
theorem q1892 : (Jvm.Cond.methodLink "WhatIfSheet$Sum" (19 : Nat) ({ cls := "WhatIfSheet$Link", name := "<init>", desc := "(ILWhatIfSheet$Node;)V" } : Jvm.MethodName)) ∈ lw_all := lw_g (lw_at lw_m8 82 rfl) rfl
theorem q1897 : (Jvm.Cond.fieldLink "WhatIfSheet$Sum" (42 : Nat) "WhatIfSheet$Link" "sign" "I") ∈ lw_all := lw_g (lw_at lw_m8 87 rfl) rfl
theorem q1899 : (Jvm.Cond.fieldLink "WhatIfSheet$Sum" (46 : Nat) "WhatIfSheet$Link" "part" "LWhatIfSheet$Node;") ∈ lw_all := lw_g (lw_at lw_m8 89 rfl) rfl
theorem q1900 : (Jvm.Cond.fieldLink "WhatIfSheet$Sum" (29 : Nat) "WhatIfSheet$Link" "next" "LWhatIfSheet$Link;") ∈ lw_all := lw_g (lw_at lw_m8 90 rfl) rfl
theorem q1909 : (Jvm.Cond.instantiable "WhatIfSheet$Sum" (5 : Nat)) ∈ lw_all := lw_g (lw_at lw_m8 99 rfl) rfl
theorem q1911 : (Jvm.Cond.laysFinal "WhatIfSheet$Sum" "WhatIfSheet$Sum" "first" "LWhatIfSheet$Node;") ∈ lw_all := lw_g (lw_at lw_m8 101 rfl) rfl
theorem q1912 : (Jvm.Cond.lays "WhatIfSheet$Sum" "WhatIfSheet$Sum" "head" "LWhatIfSheet$Link;") ∈ lw_all := lw_g (lw_at lw_m8 102 rfl) rfl
theorem q1913 : (Jvm.Cond.lays "WhatIfSheet$Sum" "WhatIfSheet$Sum" "last" "LWhatIfSheet$Link;") ∈ lw_all := lw_g (lw_at lw_m8 103 rfl) rfl
theorem q1914 : (Jvm.Cond.laysFinal "WhatIfSheet$Sum" "WhatIfSheet$Sum" "this$0" "LWhatIfSheet;") ∈ lw_all := lw_g (lw_at lw_m8 104 rfl) rfl
theorem q1915 : (Jvm.Cond.laysFinal "WhatIfSheet$Sum" "WhatIfSheet$Node" "this$0" "LWhatIfSheet;") ∈ lw_all := lw_g (lw_at lw_m8 105 rfl) rfl
theorem q1916 : (Jvm.Cond.superclass "WhatIfSheet$Sum" "WhatIfSheet$Node") ∈ lw_all := lw_g (lw_at lw_m8 106 rfl) rfl
theorem q2245 : (Jvm.Cond.instanceMethod ({ cls := "WhatIfSheet$Sum", name := "worth", desc := "()D" } : Jvm.MethodName)) ∈ lw_all := lw_g (lw_at lw_m9 195 rfl) rfl
theorem q2246 : (Jvm.Cond.code ({ cls := "WhatIfSheet$Sum", name := "worth", desc := "()D" } : Jvm.MethodName) prog_28_method_4_code (4 : Nat) (Option.some Jvm.ClassFile.FieldType.double)) ∈ lw_all := lw_g (lw_at lw_m9 196 rfl) rfl
theorem q2247 : (Jvm.Cond.methodLink "WhatIfSheet$Sum" (38 : Nat) ({ cls := "WhatIfSheet$Node", name := "worth", desc := "()D" } : Jvm.MethodName)) ∈ lw_all := lw_g (lw_at lw_m9 197 rfl) rfl
theorem q2248 : (Jvm.Cond.methodLink "WhatIfSheet$Sum" (49 : Nat) ({ cls := "WhatIfSheet$Sum", name := "joins", desc := "(DID)D" } : Jvm.MethodName)) ∈ lw_all := lw_g (lw_at lw_m9 198 rfl) rfl
theorem q2249 : (Jvm.Cond.instanceMethod ({ cls := "WhatIfSheet$Sum", name := "joins", desc := "(DID)D" } : Jvm.MethodName)) ∈ lw_all := lw_g (lw_at lw_m9 199 rfl) rfl
theorem q2250 : (Jvm.Cond.selects "WhatIfSheet$Sum" ({ cls := "WhatIfSheet$Sum", name := "joins", desc := "(DID)D" } : Jvm.MethodName) ({ cls := "WhatIfSheet$Sum", name := "joins", desc := "(DID)D" } : Jvm.MethodName)) ∈ lw_all := lw_g (lw_at lw_m9 200 rfl) rfl
theorem q2251 : (Jvm.Cond.sameMethod "WhatIfSheet$Sum" "WhatIfSheet$Sum" "joins" "(DID)D") ∈ lw_all := lw_g (lw_at lw_m9 201 rfl) rfl
theorem q2258 : (Jvm.Cond.code ({ cls := "WhatIfSheet$Sum", name := "joins", desc := "(DID)D" } : Jvm.MethodName) prog_28_method_3_code (6 : Nat) (Option.some Jvm.ClassFile.FieldType.double)) ∈ lw_all := lw_g (lw_at lw_m9 208 rfl) rfl
theorem q2259 : (Jvm.Cond.methodLinkNest "WhatIfSheet$Sum" (32 : Nat) ({ cls := "WhatIfSheet", name := "near", desc := "(D)D" } : Jvm.MethodName) "WhatIfSheet") ∈ lw_tbl := lw_at lw_m9 209 rfl
theorem q2289 : (Jvm.Cond.selects "WhatIfSheet$Sum" ({ cls := "WhatIfSheet$Node", name := "worth", desc := "()D" } : Jvm.MethodName) ({ cls := "WhatIfSheet$Sum", name := "worth", desc := "()D" } : Jvm.MethodName)) ∈ lw_all := lw_g (lw_at lw_m9 239 rfl) rfl
theorem q3359 : (Jvm.Cond.sameMethod "WhatIfSheet$Sum" "WhatIfSheet$Sum" "more" "(ILWhatIfSheet$Node;)V") ∈ lw_all := lw_g (lw_at lw_m14 109 rfl) rfl
theorem q3360 : (Jvm.Cond.selects "WhatIfSheet$Sum" ({ cls := "WhatIfSheet$Sum", name := "more", desc := "(ILWhatIfSheet$Node;)V" } : Jvm.MethodName) ({ cls := "WhatIfSheet$Sum", name := "more", desc := "(ILWhatIfSheet$Node;)V" } : Jvm.MethodName)) ∈ lw_all := lw_g (lw_at lw_m14 110 rfl) rfl
theorem q3432 : (Jvm.Cond.castable "WhatIfSheet$Sum" "java/lang/Object") ∈ lw_tbl := lw_at lw_m14 182 rfl
theorem in_X26 : ∀ w ∈ wsX260, w ∈ lw_all := lw_in wsX260 [1915, 1911, 1912, 1913, 1914] (by decide +kernel) (by decide +kernel)
/-! WhatIfSheet$Term -/
set_option maxRecDepth 100000
def RX27 : String := "WhatIfSheet$Term"
def TX27 : u_T := fun k => match k with
  | 0 => ("WhatIfSheet$Node", "this$0", "LWhatIfSheet;", true)
  | 1 => ("WhatIfSheet$Sum", "first", "LWhatIfSheet$Node;", true)
  | 2 => ("WhatIfSheet$Sum", "head", "LWhatIfSheet$Link;", false)
  | 3 => ("WhatIfSheet$Sum", "last", "LWhatIfSheet$Link;", false)
  | 4 => ("WhatIfSheet$Sum", "this$0", "LWhatIfSheet;", true)
  | _ => ("WhatIfSheet$Term", "this$0", "LWhatIfSheet;", true)
def tyX27 : Nat → FieldType := fun k => match k with
  | 0 => .object "WhatIfSheet"
  | 1 => .object "WhatIfSheet$Node"
  | 2 => .object "WhatIfSheet$Link"
  | 3 => .object "WhatIfSheet$Link"
  | 4 => .object "WhatIfSheet"
  | _ => .object "WhatIfSheet"
abbrev wsX270 : List Cond := u_ws RX27 TX27 6
-- two fields of one name: no nmX27
theorem tyX27_ok : ∀ k, k < 6 → parseFieldDescriptor (TX27 k).2.2.1 = some (tyX27 k) := by decide +kernel
abbrev cX27_init : ByteArray := prog_30_method_1_code
def yX27_init : MethodName := ⟨RX27, "<init>", "(LWhatIfSheet;LWhatIfSheet$Node;)V"⟩
def dkwX27_init_0 : List UInt8 := [42, 43, 181, 0, 3, 42, 43, 44, 183, 0, 9, 177]
abbrev dktX27_init_0 : List UInt8 := dkwX27_init_0 ++ []
theorem dksX27_init_0 : cX27_init.data.toList.drop 0 = dktX27_init_0 := by decide +kernel
theorem dX27_init_0 : decode cX27_init 0 = .ok (.aload_n 0, 1) := dk_42 (dk_at dksX27_init_0 0 rfl rfl)
theorem dX27_init_1 : decode cX27_init 1 = .ok (.aload_n 1, 1) := dk_43 (dk_at dksX27_init_0 1 rfl rfl)
theorem dX27_init_2 : decode cX27_init 2 = .ok (.putfield 3, 3) := dk_181 0 3 (dk_at dksX27_init_0 2 rfl rfl)
theorem dX27_init_5 : decode cX27_init 5 = .ok (.aload_n 0, 1) := dk_42 (dk_at dksX27_init_0 5 rfl rfl)
theorem dX27_init_6 : decode cX27_init 6 = .ok (.aload_n 1, 1) := dk_43 (dk_at dksX27_init_0 6 rfl rfl)
theorem dX27_init_7 : decode cX27_init 7 = .ok (.aload_n 2, 1) := dk_44 (dk_at dksX27_init_0 7 rfl rfl)
theorem dX27_init_8 : decode cX27_init 8 = .ok (.invokespecial 9, 3) := dk_183 0 9 (dk_at dksX27_init_0 8 rfl rfl)
theorem dX27_init_11 : decode cX27_init 11 = .ok (.return_, 1) := dk_177 (dk_at dksX27_init_0 11 rfl rfl)
abbrev cX27_joins : ByteArray := prog_30_method_2_code
def yX27_joins : MethodName := ⟨RX27, "joins", "(DID)D"⟩
def dkwX27_joins_2 : List UInt8 := [160, 0, 17, 42, 180, 0, 3, 39, 24, 4, 111, 182, 0, 15, 167, 0, 7, 39, 24, 4, 115, 175]
abbrev dktX27_joins_2 : List UInt8 := dkwX27_joins_2 ++ []
def dkwX27_joins_1 : List UInt8 := [154, 0, 20, 42, 180, 0, 3, 5, 182, 0, 19, 42, 14, 16, 43, 14, 183, 0, 23, 175, 29, 16, 47]
abbrev dktX27_joins_1 : List UInt8 := dkwX27_joins_1 ++ dktX27_joins_2
def dkwX27_joins_0 : List UInt8 := [29, 16, 42, 160, 0, 15, 42, 180, 0, 3, 39, 24, 4, 107, 182, 0, 15, 175, 24, 4, 14, 151]
abbrev dktX27_joins_0 : List UInt8 := dkwX27_joins_0 ++ dktX27_joins_1
theorem dksX27_joins_0 : cX27_joins.data.toList.drop 0 = dktX27_joins_0 := by decide +kernel
theorem dksX27_joins_1 : cX27_joins.data.toList.drop 22 = dktX27_joins_1 := dk_seg dksX27_joins_0 22 rfl rfl
theorem dksX27_joins_2 : cX27_joins.data.toList.drop 45 = dktX27_joins_2 := dk_seg dksX27_joins_1 23 rfl rfl
theorem dX27_joins_0 : decode cX27_joins 0 = .ok (.iload_n 3, 1) := dk_29 (dk_at dksX27_joins_0 0 rfl rfl)
theorem dX27_joins_1 : decode cX27_joins 1 = .ok (.bipush 42, 2) := dk_16 42 (dk_at dksX27_joins_0 1 rfl rfl)
theorem dX27_joins_3 : decode cX27_joins 3 = .ok (.if_icmp .ne 15, 3) := dk_160 0 15 (dk_at dksX27_joins_0 3 rfl rfl)
theorem dX27_joins_6 : decode cX27_joins 6 = .ok (.aload_n 0, 1) := dk_42 (dk_at dksX27_joins_0 6 rfl rfl)
theorem dX27_joins_7 : decode cX27_joins 7 = .ok (.getfield 3, 3) := dk_180 0 3 (dk_at dksX27_joins_0 7 rfl rfl)
theorem dX27_joins_10 : decode cX27_joins 10 = .ok (.dload_n 1, 1) := dk_39 (dk_at dksX27_joins_0 10 rfl rfl)
theorem dX27_joins_11 : decode cX27_joins 11 = .ok (.dload 4, 2) := dk_24 4 (dk_at dksX27_joins_0 11 rfl rfl)
theorem dX27_joins_13 : decode cX27_joins 13 = .ok (.dmul, 1) := dk_107 (dk_at dksX27_joins_0 13 rfl rfl)
theorem dX27_joins_14 : decode cX27_joins 14 = .ok (.invokevirtual 15, 3) := dk_182 0 15 (dk_at dksX27_joins_0 14 rfl rfl)
theorem dX27_joins_17 : decode cX27_joins 17 = .ok (.dreturn, 1) := dk_175 (dk_at dksX27_joins_0 17 rfl rfl)
theorem dX27_joins_18 : decode cX27_joins 18 = .ok (.dload 4, 2) := dk_24 4 (dk_at dksX27_joins_0 18 rfl rfl)
theorem dX27_joins_20 : decode cX27_joins 20 = .ok (.dconst 0, 1) := dk_14 (dk_at dksX27_joins_0 20 rfl rfl)
theorem dX27_joins_21 : decode cX27_joins 21 = .ok (.dcmp .l, 1) := dk_151 (dk_at dksX27_joins_0 21 rfl rfl)
theorem dX27_joins_22 : decode cX27_joins 22 = .ok (.ifCond .ne 20, 3) := dk_154 0 20 (dk_at dksX27_joins_1 0 rfl rfl)
theorem dX27_joins_25 : decode cX27_joins 25 = .ok (.aload_n 0, 1) := dk_42 (dk_at dksX27_joins_1 3 rfl rfl)
theorem dX27_joins_26 : decode cX27_joins 26 = .ok (.getfield 3, 3) := dk_180 0 3 (dk_at dksX27_joins_1 4 rfl rfl)
theorem dX27_joins_29 : decode cX27_joins 29 = .ok (.iconst 2, 1) := dk_5 (dk_at dksX27_joins_1 7 rfl rfl)
theorem dX27_joins_30 : decode cX27_joins 30 = .ok (.invokevirtual 19, 3) := dk_182 0 19 (dk_at dksX27_joins_1 8 rfl rfl)
theorem dX27_joins_33 : decode cX27_joins 33 = .ok (.aload_n 0, 1) := dk_42 (dk_at dksX27_joins_1 11 rfl rfl)
theorem dX27_joins_34 : decode cX27_joins 34 = .ok (.dconst 0, 1) := dk_14 (dk_at dksX27_joins_1 12 rfl rfl)
theorem dX27_joins_35 : decode cX27_joins 35 = .ok (.bipush 43, 2) := dk_16 43 (dk_at dksX27_joins_1 13 rfl rfl)
theorem dX27_joins_37 : decode cX27_joins 37 = .ok (.dconst 0, 1) := dk_14 (dk_at dksX27_joins_1 15 rfl rfl)
theorem dX27_joins_38 : decode cX27_joins 38 = .ok (.invokespecial 23, 3) := dk_183 0 23 (dk_at dksX27_joins_1 16 rfl rfl)
theorem dX27_joins_41 : decode cX27_joins 41 = .ok (.dreturn, 1) := dk_175 (dk_at dksX27_joins_1 19 rfl rfl)
theorem dX27_joins_42 : decode cX27_joins 42 = .ok (.iload_n 3, 1) := dk_29 (dk_at dksX27_joins_1 20 rfl rfl)
theorem dX27_joins_43 : decode cX27_joins 43 = .ok (.bipush 47, 2) := dk_16 47 (dk_at dksX27_joins_1 21 rfl rfl)
theorem dX27_joins_45 : decode cX27_joins 45 = .ok (.if_icmp .ne 17, 3) := dk_160 0 17 (dk_at dksX27_joins_2 0 rfl rfl)
theorem dX27_joins_48 : decode cX27_joins 48 = .ok (.aload_n 0, 1) := dk_42 (dk_at dksX27_joins_2 3 rfl rfl)
theorem dX27_joins_49 : decode cX27_joins 49 = .ok (.getfield 3, 3) := dk_180 0 3 (dk_at dksX27_joins_2 4 rfl rfl)
theorem dX27_joins_52 : decode cX27_joins 52 = .ok (.dload_n 1, 1) := dk_39 (dk_at dksX27_joins_2 7 rfl rfl)
theorem dX27_joins_53 : decode cX27_joins 53 = .ok (.dload 4, 2) := dk_24 4 (dk_at dksX27_joins_2 8 rfl rfl)
theorem dX27_joins_55 : decode cX27_joins 55 = .ok (.ddiv, 1) := dk_111 (dk_at dksX27_joins_2 10 rfl rfl)
theorem dX27_joins_56 : decode cX27_joins 56 = .ok (.invokevirtual 15, 3) := dk_182 0 15 (dk_at dksX27_joins_2 11 rfl rfl)
theorem dX27_joins_59 : decode cX27_joins 59 = .ok (.goto 7, 3) := dk_167 0 7 (dk_at dksX27_joins_2 14 rfl rfl)
theorem dX27_joins_62 : decode cX27_joins 62 = .ok (.dload_n 1, 1) := dk_39 (dk_at dksX27_joins_2 17 rfl rfl)
theorem dX27_joins_63 : decode cX27_joins 63 = .ok (.dload 4, 2) := dk_24 4 (dk_at dksX27_joins_2 18 rfl rfl)
theorem dX27_joins_65 : decode cX27_joins 65 = .ok (.drem, 1) := dk_115 (dk_at dksX27_joins_2 20 rfl rfl)
theorem dX27_joins_66 : decode cX27_joins 66 = .ok (.dreturn, 1) := dk_175 (dk_at dksX27_joins_2 21 rfl rfl)
theorem q191 : (Jvm.Cond.initialized "WhatIfSheet$Term") ∈ lw_all := lw_g (lw_at lw_m1 61 rfl) rfl
theorem q794 : (Jvm.Cond.selects "WhatIfSheet$Term" ({ cls := "java/lang/Object", name := "equals", desc := "(Ljava/lang/Object;)Z" } : Jvm.MethodName) ({ cls := "java/lang/Object", name := "equals", desc := "(Ljava/lang/Object;)Z" } : Jvm.MethodName)) ∈ lw_all := lw_g (lw_at lw_m3 184 rfl) rfl
theorem q871 : (Jvm.Cond.selects "WhatIfSheet$Term" ({ cls := "java/lang/Object", name := "getClass", desc := "()Ljava/lang/Class;" } : Jvm.MethodName) ({ cls := "java/lang/Object", name := "getClass", desc := "()Ljava/lang/Class;" } : Jvm.MethodName)) ∈ lw_all := lw_g (lw_at lw_m4 21 rfl) rfl
theorem q1859 : (Jvm.Cond.instantiable "WhatIfSheet$Term" (6 : Nat)) ∈ lw_all := lw_g (lw_at lw_m8 49 rfl) rfl
theorem q1861 : (Jvm.Cond.instanceMethod ({ cls := "WhatIfSheet$Term", name := "<init>", desc := "(LWhatIfSheet;LWhatIfSheet$Node;)V" } : Jvm.MethodName)) ∈ lw_all := lw_g (lw_at lw_m8 51 rfl) rfl
theorem q1862 : (Jvm.Cond.code ({ cls := "WhatIfSheet$Term", name := "<init>", desc := "(LWhatIfSheet;LWhatIfSheet$Node;)V" } : Jvm.MethodName) prog_30_method_1_code (3 : Nat) (Option.none : Option Jvm.ClassFile.FieldType)) ∈ lw_all := lw_g (lw_at lw_m8 52 rfl) rfl
theorem q1863 : (Jvm.Cond.methodLink "WhatIfSheet$Term" (9 : Nat) ({ cls := "WhatIfSheet$Sum", name := "<init>", desc := "(LWhatIfSheet;LWhatIfSheet$Node;)V" } : Jvm.MethodName)) ∈ lw_all := lw_g (lw_at lw_m8 53 rfl) rfl
theorem q1867 : (Jvm.Cond.fieldLink "WhatIfSheet$Term" (3 : Nat) "WhatIfSheet$Term" "this$0" "LWhatIfSheet;") ∈ lw_all := lw_g (lw_at lw_m8 57 rfl) rfl
theorem q1872 : (Jvm.Cond.laysFinal "WhatIfSheet$Term" "WhatIfSheet$Term" "this$0" "LWhatIfSheet;") ∈ lw_all := lw_g (lw_at lw_m8 62 rfl) rfl
theorem q1873 : (Jvm.Cond.soleField "WhatIfSheet$Term" "this$0") ∈ lw_all := lw_g (lw_at lw_m8 63 rfl) rfl
theorem q1874 : (Jvm.Cond.laysFinal "WhatIfSheet$Term" "WhatIfSheet$Sum" "first" "LWhatIfSheet$Node;") ∈ lw_all := lw_g (lw_at lw_m8 64 rfl) rfl
theorem q1876 : (Jvm.Cond.lays "WhatIfSheet$Term" "WhatIfSheet$Sum" "head" "LWhatIfSheet$Link;") ∈ lw_all := lw_g (lw_at lw_m8 66 rfl) rfl
theorem q1878 : (Jvm.Cond.lays "WhatIfSheet$Term" "WhatIfSheet$Sum" "last" "LWhatIfSheet$Link;") ∈ lw_all := lw_g (lw_at lw_m8 68 rfl) rfl
theorem q1880 : (Jvm.Cond.laysFinal "WhatIfSheet$Term" "WhatIfSheet$Sum" "this$0" "LWhatIfSheet;") ∈ lw_all := lw_g (lw_at lw_m8 70 rfl) rfl
theorem q1882 : (Jvm.Cond.laysFinal "WhatIfSheet$Term" "WhatIfSheet$Node" "this$0" "LWhatIfSheet;") ∈ lw_all := lw_g (lw_at lw_m8 72 rfl) rfl
theorem q1883 : (Jvm.Cond.superclass "WhatIfSheet$Term" "WhatIfSheet$Sum") ∈ lw_all := lw_g (lw_at lw_m8 73 rfl) rfl
theorem q1885 : (Jvm.Cond.sameMethod "WhatIfSheet$Term" "WhatIfSheet$Sum" "more" "(ILWhatIfSheet$Node;)V") ∈ lw_all := lw_g (lw_at lw_m8 75 rfl) rfl
theorem q1887 : (Jvm.Cond.selects "WhatIfSheet$Term" ({ cls := "WhatIfSheet$Term", name := "more", desc := "(ILWhatIfSheet$Node;)V" } : Jvm.MethodName) ({ cls := "WhatIfSheet$Sum", name := "more", desc := "(ILWhatIfSheet$Node;)V" } : Jvm.MethodName)) ∈ lw_all := lw_g (lw_at lw_m8 77 rfl) rfl
theorem q2252 : (Jvm.Cond.selects "WhatIfSheet$Term" ({ cls := "WhatIfSheet$Sum", name := "joins", desc := "(DID)D" } : Jvm.MethodName) ({ cls := "WhatIfSheet$Term", name := "joins", desc := "(DID)D" } : Jvm.MethodName)) ∈ lw_all := lw_g (lw_at lw_m9 202 rfl) rfl
theorem q2253 : (Jvm.Cond.instanceMethod ({ cls := "WhatIfSheet$Term", name := "joins", desc := "(DID)D" } : Jvm.MethodName)) ∈ lw_all := lw_g (lw_at lw_m9 203 rfl) rfl
theorem q2254 : (Jvm.Cond.code ({ cls := "WhatIfSheet$Term", name := "joins", desc := "(DID)D" } : Jvm.MethodName) prog_30_method_2_code (6 : Nat) (Option.some Jvm.ClassFile.FieldType.double)) ∈ lw_all := lw_g (lw_at lw_m9 204 rfl) rfl
theorem q2255 : (Jvm.Cond.methodLinkNest "WhatIfSheet$Term" (15 : Nat) ({ cls := "WhatIfSheet", name := "near", desc := "(D)D" } : Jvm.MethodName) "WhatIfSheet") ∈ lw_tbl := lw_at lw_m9 205 rfl
theorem q2256 : (Jvm.Cond.methodLinkNest "WhatIfSheet$Term" (19 : Nat) ({ cls := "WhatIfSheet", name := "faults", desc := "(I)V" } : Jvm.MethodName) "WhatIfSheet") ∈ lw_tbl := lw_at lw_m9 206 rfl
theorem q2257 : (Jvm.Cond.methodLink "WhatIfSheet$Term" (23 : Nat) ({ cls := "WhatIfSheet$Sum", name := "joins", desc := "(DID)D" } : Jvm.MethodName)) ∈ lw_all := lw_g (lw_at lw_m9 207 rfl) rfl
theorem q2290 : (Jvm.Cond.selects "WhatIfSheet$Term" ({ cls := "WhatIfSheet$Node", name := "worth", desc := "()D" } : Jvm.MethodName) ({ cls := "WhatIfSheet$Sum", name := "worth", desc := "()D" } : Jvm.MethodName)) ∈ lw_all := lw_g (lw_at lw_m10 0 rfl) rfl
theorem q3361 : (Jvm.Cond.selects "WhatIfSheet$Term" ({ cls := "WhatIfSheet$Sum", name := "more", desc := "(ILWhatIfSheet$Node;)V" } : Jvm.MethodName) ({ cls := "WhatIfSheet$Sum", name := "more", desc := "(ILWhatIfSheet$Node;)V" } : Jvm.MethodName)) ∈ lw_all := lw_g (lw_at lw_m14 111 rfl) rfl
theorem q3430 : (Jvm.Cond.castable "WhatIfSheet$Term" "java/lang/Object") ∈ lw_tbl := lw_at lw_m14 180 rfl
theorem in_X27 : ∀ w ∈ wsX270, w ∈ lw_all := lw_in wsX270 [1882, 1874, 1876, 1878, 1880, 1872] (by decide +kernel) (by decide +kernel)
/-! WhatIfSheet$Link -/
set_option maxRecDepth 100000
def RX28 : String := "WhatIfSheet$Link"
def TX28 : u_T := fun k => match k with
  | 0 => ("WhatIfSheet$Link", "sign", "I", true)
  | 1 => ("WhatIfSheet$Link", "part", "LWhatIfSheet$Node;", true)
  | _ => ("WhatIfSheet$Link", "next", "LWhatIfSheet$Link;", false)
def tyX28 : Nat → FieldType := fun k => match k with
  | 0 => .int
  | 1 => .object "WhatIfSheet$Node"
  | _ => .object "WhatIfSheet$Link"
abbrev wsX280 : List Cond := u_ws RX28 TX28 3
theorem nmX28 : ∀ a, a < 3 → ∀ b, b < 3 → a ≠ b → (TX28 a).2.1 ≠ (TX28 b).2.1 := by decide +kernel
theorem tyX28_ok : ∀ k, k < 3 → parseFieldDescriptor (TX28 k).2.2.1 = some (tyX28 k) := by decide +kernel
abbrev cX28_init : ByteArray := prog_13_method_1_code
def yX28_init : MethodName := ⟨RX28, "<init>", "(ILWhatIfSheet$Node;)V"⟩
def dkwX28_init_0 : List UInt8 := [42, 183, 0, 1, 42, 27, 181, 0, 7, 42, 44, 181, 0, 13, 177]
abbrev dktX28_init_0 : List UInt8 := dkwX28_init_0 ++ []
theorem dksX28_init_0 : cX28_init.data.toList.drop 0 = dktX28_init_0 := by decide +kernel
theorem dX28_init_0 : decode cX28_init 0 = .ok (.aload_n 0, 1) := dk_42 (dk_at dksX28_init_0 0 rfl rfl)
theorem dX28_init_1 : decode cX28_init 1 = .ok (.invokespecial 1, 3) := dk_183 0 1 (dk_at dksX28_init_0 1 rfl rfl)
theorem dX28_init_4 : decode cX28_init 4 = .ok (.aload_n 0, 1) := dk_42 (dk_at dksX28_init_0 4 rfl rfl)
theorem dX28_init_5 : decode cX28_init 5 = .ok (.iload_n 1, 1) := dk_27 (dk_at dksX28_init_0 5 rfl rfl)
theorem dX28_init_6 : decode cX28_init 6 = .ok (.putfield 7, 3) := dk_181 0 7 (dk_at dksX28_init_0 6 rfl rfl)
theorem dX28_init_9 : decode cX28_init 9 = .ok (.aload_n 0, 1) := dk_42 (dk_at dksX28_init_0 9 rfl rfl)
theorem dX28_init_10 : decode cX28_init 10 = .ok (.aload_n 2, 1) := dk_44 (dk_at dksX28_init_0 10 rfl rfl)
theorem dX28_init_11 : decode cX28_init 11 = .ok (.putfield 13, 3) := dk_181 0 13 (dk_at dksX28_init_0 11 rfl rfl)
theorem dX28_init_14 : decode cX28_init 14 = .ok (.return_, 1) := dk_177 (dk_at dksX28_init_0 14 rfl rfl)
theorem q192 : (Jvm.Cond.initialized "WhatIfSheet$Link") ∈ lw_all := lw_g (lw_at lw_m1 62 rfl) rfl
theorem q778 : (Jvm.Cond.selects "WhatIfSheet$Link" ({ cls := "java/lang/Object", name := "equals", desc := "(Ljava/lang/Object;)Z" } : Jvm.MethodName) ({ cls := "java/lang/Object", name := "equals", desc := "(Ljava/lang/Object;)Z" } : Jvm.MethodName)) ∈ lw_all := lw_g (lw_at lw_m3 168 rfl) rfl
theorem q855 : (Jvm.Cond.selects "WhatIfSheet$Link" ({ cls := "java/lang/Object", name := "getClass", desc := "()Ljava/lang/Class;" } : Jvm.MethodName) ({ cls := "java/lang/Object", name := "getClass", desc := "()Ljava/lang/Class;" } : Jvm.MethodName)) ∈ lw_all := lw_g (lw_at lw_m4 5 rfl) rfl
theorem q1891 : (Jvm.Cond.instantiable "WhatIfSheet$Link" (3 : Nat)) ∈ lw_all := lw_g (lw_at lw_m8 81 rfl) rfl
theorem q1893 : (Jvm.Cond.instanceMethod ({ cls := "WhatIfSheet$Link", name := "<init>", desc := "(ILWhatIfSheet$Node;)V" } : Jvm.MethodName)) ∈ lw_all := lw_g (lw_at lw_m8 83 rfl) rfl
theorem q1894 : (Jvm.Cond.code ({ cls := "WhatIfSheet$Link", name := "<init>", desc := "(ILWhatIfSheet$Node;)V" } : Jvm.MethodName) prog_13_method_1_code (3 : Nat) (Option.none : Option Jvm.ClassFile.FieldType)) ∈ lw_all := lw_g (lw_at lw_m8 84 rfl) rfl
theorem q1895 : (Jvm.Cond.methodLink "WhatIfSheet$Link" (1 : Nat) ({ cls := "java/lang/Object", name := "<init>", desc := "()V" } : Jvm.MethodName)) ∈ lw_all := lw_g (lw_at lw_m8 85 rfl) rfl
theorem q1896 : (Jvm.Cond.fieldLink "WhatIfSheet$Link" (7 : Nat) "WhatIfSheet$Link" "sign" "I") ∈ lw_all := lw_g (lw_at lw_m8 86 rfl) rfl
theorem q1898 : (Jvm.Cond.fieldLink "WhatIfSheet$Link" (13 : Nat) "WhatIfSheet$Link" "part" "LWhatIfSheet$Node;") ∈ lw_all := lw_g (lw_at lw_m8 88 rfl) rfl
theorem q1901 : (Jvm.Cond.laysFinal "WhatIfSheet$Link" "WhatIfSheet$Link" "sign" "I") ∈ lw_all := lw_g (lw_at lw_m8 91 rfl) rfl
theorem q1902 : (Jvm.Cond.soleField "WhatIfSheet$Link" "sign") ∈ lw_all := lw_g (lw_at lw_m8 92 rfl) rfl
theorem q1903 : (Jvm.Cond.laysFinal "WhatIfSheet$Link" "WhatIfSheet$Link" "part" "LWhatIfSheet$Node;") ∈ lw_all := lw_g (lw_at lw_m8 93 rfl) rfl
theorem q1904 : (Jvm.Cond.soleField "WhatIfSheet$Link" "part") ∈ lw_all := lw_g (lw_at lw_m8 94 rfl) rfl
theorem q1905 : (Jvm.Cond.lays "WhatIfSheet$Link" "WhatIfSheet$Link" "next" "LWhatIfSheet$Link;") ∈ lw_all := lw_g (lw_at lw_m8 95 rfl) rfl
theorem q1906 : (Jvm.Cond.soleField "WhatIfSheet$Link" "next") ∈ lw_all := lw_g (lw_at lw_m8 96 rfl) rfl
theorem q1907 : (Jvm.Cond.superclass "WhatIfSheet$Link" "java/lang/Object") ∈ lw_all := lw_g (lw_at lw_m8 97 rfl) rfl
theorem q3431 : (Jvm.Cond.castable "WhatIfSheet$Link" "java/lang/Object") ∈ lw_tbl := lw_at lw_m14 181 rfl
theorem in_X28 : ∀ w ∈ wsX280, w ∈ lw_all := lw_in wsX280 [1901, 1903, 1905] (by decide +kernel) (by decide +kernel)
/-! WhatIfSheet$Compared -/
set_option maxRecDepth 100000
def RX29 : String := "WhatIfSheet$Compared"
def TX29 : u_T := fun k => match k with
  | 0 => ("WhatIfSheet$Two", "a", "LWhatIfSheet$Node;", true)
  | 1 => ("WhatIfSheet$Two", "b", "LWhatIfSheet$Node;", true)
  | 2 => ("WhatIfSheet$Two", "this$0", "LWhatIfSheet;", true)
  | 3 => ("WhatIfSheet$Node", "this$0", "LWhatIfSheet;", true)
  | 4 => ("WhatIfSheet$Compared", "isLess", "Z", true)
  | _ => ("WhatIfSheet$Compared", "this$0", "LWhatIfSheet;", true)
def tyX29 : Nat → FieldType := fun k => match k with
  | 0 => .object "WhatIfSheet$Node"
  | 1 => .object "WhatIfSheet$Node"
  | 2 => .object "WhatIfSheet"
  | 3 => .object "WhatIfSheet"
  | 4 => .boolean
  | _ => .object "WhatIfSheet"
abbrev wsX290 : List Cond := u_ws RX29 TX29 6
-- two fields of one name: no nmX29
theorem tyX29_ok : ∀ k, k < 6 → parseFieldDescriptor (TX29 k).2.2.1 = some (tyX29 k) := by decide +kernel
abbrev cX29_init : ByteArray := prog_6_method_1_code
def yX29_init : MethodName := ⟨RX29, "<init>", "(LWhatIfSheet;ZLWhatIfSheet$Node;LWhatIfSheet$Node;)V"⟩
def dkwX29_init_0 : List UInt8 := [42, 43, 181, 0, 1, 42, 43, 45, 25, 4, 183, 0, 7, 42, 28, 181, 0, 13, 177]
abbrev dktX29_init_0 : List UInt8 := dkwX29_init_0 ++ []
theorem dksX29_init_0 : cX29_init.data.toList.drop 0 = dktX29_init_0 := by decide +kernel
theorem dX29_init_0 : decode cX29_init 0 = .ok (.aload_n 0, 1) := dk_42 (dk_at dksX29_init_0 0 rfl rfl)
theorem dX29_init_1 : decode cX29_init 1 = .ok (.aload_n 1, 1) := dk_43 (dk_at dksX29_init_0 1 rfl rfl)
theorem dX29_init_2 : decode cX29_init 2 = .ok (.putfield 1, 3) := dk_181 0 1 (dk_at dksX29_init_0 2 rfl rfl)
theorem dX29_init_5 : decode cX29_init 5 = .ok (.aload_n 0, 1) := dk_42 (dk_at dksX29_init_0 5 rfl rfl)
theorem dX29_init_6 : decode cX29_init 6 = .ok (.aload_n 1, 1) := dk_43 (dk_at dksX29_init_0 6 rfl rfl)
theorem dX29_init_7 : decode cX29_init 7 = .ok (.aload_n 3, 1) := dk_45 (dk_at dksX29_init_0 7 rfl rfl)
theorem dX29_init_8 : decode cX29_init 8 = .ok (.aload 4, 2) := dk_25 4 (dk_at dksX29_init_0 8 rfl rfl)
theorem dX29_init_10 : decode cX29_init 10 = .ok (.invokespecial 7, 3) := dk_183 0 7 (dk_at dksX29_init_0 10 rfl rfl)
theorem dX29_init_13 : decode cX29_init 13 = .ok (.aload_n 0, 1) := dk_42 (dk_at dksX29_init_0 13 rfl rfl)
theorem dX29_init_14 : decode cX29_init 14 = .ok (.iload_n 2, 1) := dk_28 (dk_at dksX29_init_0 14 rfl rfl)
theorem dX29_init_15 : decode cX29_init 15 = .ok (.putfield 13, 3) := dk_181 0 13 (dk_at dksX29_init_0 15 rfl rfl)
theorem dX29_init_18 : decode cX29_init 18 = .ok (.return_, 1) := dk_177 (dk_at dksX29_init_0 18 rfl rfl)
abbrev cX29_joined : ByteArray := prog_6_method_2_code
def yX29_joined : MethodName := ⟨RX29, "joined", "(DD)D"⟩
def dkwX29_joined_1 : List UInt8 := [167, 0, 4, 14, 175]
abbrev dktX29_joined_1 : List UInt8 := dkwX29_joined_1 ++ []
def dkwX29_joined_0 : List UInt8 := [42, 180, 0, 13, 153, 0, 12, 39, 41, 152, 156, 0, 16, 167, 0, 9, 39, 41, 151, 154, 0, 7, 15]
abbrev dktX29_joined_0 : List UInt8 := dkwX29_joined_0 ++ dktX29_joined_1
theorem dksX29_joined_0 : cX29_joined.data.toList.drop 0 = dktX29_joined_0 := by decide +kernel
theorem dksX29_joined_1 : cX29_joined.data.toList.drop 23 = dktX29_joined_1 := dk_seg dksX29_joined_0 23 rfl rfl
theorem dX29_joined_0 : decode cX29_joined 0 = .ok (.aload_n 0, 1) := dk_42 (dk_at dksX29_joined_0 0 rfl rfl)
theorem dX29_joined_1 : decode cX29_joined 1 = .ok (.getfield 13, 3) := dk_180 0 13 (dk_at dksX29_joined_0 1 rfl rfl)
theorem dX29_joined_4 : decode cX29_joined 4 = .ok (.ifCond .eq 12, 3) := dk_153 0 12 (dk_at dksX29_joined_0 4 rfl rfl)
theorem dX29_joined_7 : decode cX29_joined 7 = .ok (.dload_n 1, 1) := dk_39 (dk_at dksX29_joined_0 7 rfl rfl)
theorem dX29_joined_8 : decode cX29_joined 8 = .ok (.dload_n 3, 1) := dk_41 (dk_at dksX29_joined_0 8 rfl rfl)
theorem dX29_joined_9 : decode cX29_joined 9 = .ok (.dcmp .g, 1) := dk_152 (dk_at dksX29_joined_0 9 rfl rfl)
theorem dX29_joined_10 : decode cX29_joined 10 = .ok (.ifCond .ge 16, 3) := dk_156 0 16 (dk_at dksX29_joined_0 10 rfl rfl)
theorem dX29_joined_13 : decode cX29_joined 13 = .ok (.goto 9, 3) := dk_167 0 9 (dk_at dksX29_joined_0 13 rfl rfl)
theorem dX29_joined_16 : decode cX29_joined 16 = .ok (.dload_n 1, 1) := dk_39 (dk_at dksX29_joined_0 16 rfl rfl)
theorem dX29_joined_17 : decode cX29_joined 17 = .ok (.dload_n 3, 1) := dk_41 (dk_at dksX29_joined_0 17 rfl rfl)
theorem dX29_joined_18 : decode cX29_joined 18 = .ok (.dcmp .l, 1) := dk_151 (dk_at dksX29_joined_0 18 rfl rfl)
theorem dX29_joined_19 : decode cX29_joined 19 = .ok (.ifCond .ne 7, 3) := dk_154 0 7 (dk_at dksX29_joined_0 19 rfl rfl)
theorem dX29_joined_22 : decode cX29_joined 22 = .ok (.dconst 1, 1) := dk_15 (dk_at dksX29_joined_0 22 rfl rfl)
theorem dX29_joined_23 : decode cX29_joined 23 = .ok (.goto 4, 3) := dk_167 0 4 (dk_at dksX29_joined_1 0 rfl rfl)
theorem dX29_joined_26 : decode cX29_joined 26 = .ok (.dconst 0, 1) := dk_14 (dk_at dksX29_joined_1 3 rfl rfl)
theorem dX29_joined_27 : decode cX29_joined 27 = .ok (.dreturn, 1) := dk_175 (dk_at dksX29_joined_1 4 rfl rfl)
theorem q193 : (Jvm.Cond.initialized "WhatIfSheet$Compared") ∈ lw_all := lw_g (lw_at lw_m1 63 rfl) rfl
theorem q771 : (Jvm.Cond.selects "WhatIfSheet$Compared" ({ cls := "java/lang/Object", name := "equals", desc := "(Ljava/lang/Object;)Z" } : Jvm.MethodName) ({ cls := "java/lang/Object", name := "equals", desc := "(Ljava/lang/Object;)Z" } : Jvm.MethodName)) ∈ lw_all := lw_g (lw_at lw_m3 161 rfl) rfl
theorem q848 : (Jvm.Cond.selects "WhatIfSheet$Compared" ({ cls := "java/lang/Object", name := "getClass", desc := "()Ljava/lang/Class;" } : Jvm.MethodName) ({ cls := "java/lang/Object", name := "getClass", desc := "()Ljava/lang/Class;" } : Jvm.MethodName)) ∈ lw_all := lw_g (lw_at lw_m3 238 rfl) rfl
theorem q1919 : (Jvm.Cond.instantiable "WhatIfSheet$Compared" (6 : Nat)) ∈ lw_all := lw_g (lw_at lw_m8 109 rfl) rfl
theorem q1921 : (Jvm.Cond.instanceMethod ({ cls := "WhatIfSheet$Compared", name := "<init>", desc := "(LWhatIfSheet;ZLWhatIfSheet$Node;LWhatIfSheet$Node;)V" } : Jvm.MethodName)) ∈ lw_all := lw_g (lw_at lw_m8 111 rfl) rfl
theorem q1922 : (Jvm.Cond.code ({ cls := "WhatIfSheet$Compared", name := "<init>", desc := "(LWhatIfSheet;ZLWhatIfSheet$Node;LWhatIfSheet$Node;)V" } : Jvm.MethodName) prog_6_method_1_code (5 : Nat) (Option.none : Option Jvm.ClassFile.FieldType)) ∈ lw_all := lw_g (lw_at lw_m8 112 rfl) rfl
theorem q1923 : (Jvm.Cond.methodLink "WhatIfSheet$Compared" (7 : Nat) ({ cls := "WhatIfSheet$Two", name := "<init>", desc := "(LWhatIfSheet;LWhatIfSheet$Node;LWhatIfSheet$Node;)V" } : Jvm.MethodName)) ∈ lw_all := lw_g (lw_at lw_m8 113 rfl) rfl
theorem q1924 : (Jvm.Cond.fieldLink "WhatIfSheet$Compared" (13 : Nat) "WhatIfSheet$Compared" "isLess" "Z") ∈ lw_all := lw_g (lw_at lw_m8 114 rfl) rfl
theorem q1925 : (Jvm.Cond.fieldLink "WhatIfSheet$Compared" (1 : Nat) "WhatIfSheet$Compared" "this$0" "LWhatIfSheet;") ∈ lw_all := lw_g (lw_at lw_m8 115 rfl) rfl
theorem q1926 : (Jvm.Cond.laysFinal "WhatIfSheet$Compared" "WhatIfSheet$Compared" "isLess" "Z") ∈ lw_all := lw_g (lw_at lw_m8 116 rfl) rfl
theorem q1927 : (Jvm.Cond.soleField "WhatIfSheet$Compared" "isLess") ∈ lw_all := lw_g (lw_at lw_m8 117 rfl) rfl
theorem q1928 : (Jvm.Cond.laysFinal "WhatIfSheet$Compared" "WhatIfSheet$Compared" "this$0" "LWhatIfSheet;") ∈ lw_all := lw_g (lw_at lw_m8 118 rfl) rfl
theorem q1929 : (Jvm.Cond.soleField "WhatIfSheet$Compared" "this$0") ∈ lw_all := lw_g (lw_at lw_m8 119 rfl) rfl
theorem q1930 : (Jvm.Cond.laysFinal "WhatIfSheet$Compared" "WhatIfSheet$Two" "a" "LWhatIfSheet$Node;") ∈ lw_all := lw_g (lw_at lw_m8 120 rfl) rfl
theorem q1931 : (Jvm.Cond.laysFinal "WhatIfSheet$Compared" "WhatIfSheet$Two" "b" "LWhatIfSheet$Node;") ∈ lw_all := lw_g (lw_at lw_m8 121 rfl) rfl
theorem q1932 : (Jvm.Cond.laysFinal "WhatIfSheet$Compared" "WhatIfSheet$Two" "this$0" "LWhatIfSheet;") ∈ lw_all := lw_g (lw_at lw_m8 122 rfl) rfl
theorem q1933 : (Jvm.Cond.laysFinal "WhatIfSheet$Compared" "WhatIfSheet$Node" "this$0" "LWhatIfSheet;") ∈ lw_all := lw_g (lw_at lw_m8 123 rfl) rfl
theorem q1934 : (Jvm.Cond.superclass "WhatIfSheet$Compared" "WhatIfSheet$Two") ∈ lw_all := lw_g (lw_at lw_m8 124 rfl) rfl
theorem q2230 : (Jvm.Cond.selects "WhatIfSheet$Compared" ({ cls := "WhatIfSheet$Node", name := "worth", desc := "()D" } : Jvm.MethodName) ({ cls := "WhatIfSheet$Two", name := "worth", desc := "()D" } : Jvm.MethodName)) ∈ lw_all := lw_g (lw_at lw_m9 180 rfl) rfl
theorem q2263 : (Jvm.Cond.selects "WhatIfSheet$Compared" ({ cls := "WhatIfSheet$Two", name := "joined", desc := "(DD)D" } : Jvm.MethodName) ({ cls := "WhatIfSheet$Compared", name := "joined", desc := "(DD)D" } : Jvm.MethodName)) ∈ lw_all := lw_g (lw_at lw_m9 213 rfl) rfl
theorem q2264 : (Jvm.Cond.instanceMethod ({ cls := "WhatIfSheet$Compared", name := "joined", desc := "(DD)D" } : Jvm.MethodName)) ∈ lw_all := lw_g (lw_at lw_m9 214 rfl) rfl
theorem q2265 : (Jvm.Cond.code ({ cls := "WhatIfSheet$Compared", name := "joined", desc := "(DD)D" } : Jvm.MethodName) prog_6_method_2_code (5 : Nat) (Option.some Jvm.ClassFile.FieldType.double)) ∈ lw_all := lw_g (lw_at lw_m9 215 rfl) rfl
theorem q3433 : (Jvm.Cond.castable "WhatIfSheet$Compared" "java/lang/Object") ∈ lw_tbl := lw_at lw_m14 183 rfl
theorem in_X29 : ∀ w ∈ wsX290, w ∈ lw_all := lw_in wsX290 [1930, 1931, 1932, 1933, 1926, 1928] (by decide +kernel) (by decide +kernel)
/-! WhatIfSheet$Row -/
set_option maxRecDepth 100000
def RX3 : String := "WhatIfSheet$Row"
def TX3 : u_T := fun k => match k with
  | _ => ("WhatIfSheet$Row", "thing", "Ljava/lang/Object;", false)
def tyX3 : Nat → FieldType := fun k => match k with
  | _ => .object "java/lang/Object"
abbrev wsX30 : List Cond := u_ws RX3 TX3 1
theorem nmX3 : ∀ a, a < 1 → ∀ b, b < 1 → a ≠ b → (TX3 a).2.1 ≠ (TX3 b).2.1 := by decide +kernel
theorem tyX3_ok : ∀ k, k < 1 → parseFieldDescriptor (TX3 k).2.2.1 = some (tyX3 k) := by decide +kernel
abbrev cX3_init : ByteArray := prog_24_method_1_code
def yX3_init : MethodName := ⟨RX3, "<init>", "()V"⟩
theorem dX3_init_0 : decode cX3_init 0 = .ok (.aload_n 0, 1) := by decide +kernel
theorem dX3_init_1 : decode cX3_init 1 = .ok (.invokespecial 3, 3) := by decide +kernel
theorem dX3_init_4 : decode cX3_init 4 = .ok (.return_, 1) := by decide +kernel
abbrev cX3_puts : ByteArray := prog_24_method_3_code
def yX3_puts : MethodName := ⟨RX3, "puts", "(II)V"⟩
def dkwX3_puts_3 : List UInt8 := [81, 167, 0, 18, 42, 180, 0, 9, 192, 0, 21, 27, 28, 135, 20, 0, 31, 111, 82, 177]
abbrev dktX3_puts_3 : List UInt8 := dkwX3_puts_3 ++ []
def dkwX3_puts_2 : List UInt8 := [180, 0, 9, 193, 0, 19, 153, 0, 22, 42, 180, 0, 9, 192, 0, 19, 27, 28, 135, 20, 0, 31, 111, 144]
abbrev dktX3_puts_2 : List UInt8 := dkwX3_puts_2 ++ dktX3_puts_3
def dkwX3_puts_1 : List UInt8 := [42, 180, 0, 9, 193, 0, 17, 153, 0, 16, 42, 180, 0, 9, 192, 0, 17, 27, 28, 79, 167, 0, 47, 42]
abbrev dktX3_puts_1 : List UInt8 := dkwX3_puts_1 ++ dktX3_puts_2
def dkwX3_puts_0 : List UInt8 := [42, 180, 0, 9, 193, 0, 15, 153, 0, 17, 42, 180, 0, 9, 192, 0, 15, 27, 28, 145, 84, 167, 0, 70]
abbrev dktX3_puts_0 : List UInt8 := dkwX3_puts_0 ++ dktX3_puts_1
theorem dksX3_puts_0 : cX3_puts.data.toList.drop 0 = dktX3_puts_0 := by decide +kernel
theorem dksX3_puts_1 : cX3_puts.data.toList.drop 24 = dktX3_puts_1 := dk_seg dksX3_puts_0 24 rfl rfl
theorem dksX3_puts_2 : cX3_puts.data.toList.drop 48 = dktX3_puts_2 := dk_seg dksX3_puts_1 24 rfl rfl
theorem dksX3_puts_3 : cX3_puts.data.toList.drop 72 = dktX3_puts_3 := dk_seg dksX3_puts_2 24 rfl rfl
theorem dX3_puts_0 : decode cX3_puts 0 = .ok (.aload_n 0, 1) := dk_42 (dk_at dksX3_puts_0 0 rfl rfl)
theorem dX3_puts_1 : decode cX3_puts 1 = .ok (.getfield 9, 3) := dk_180 0 9 (dk_at dksX3_puts_0 1 rfl rfl)
theorem dX3_puts_4 : decode cX3_puts 4 = .ok (.instanceof 15, 3) := dk_193 0 15 (dk_at dksX3_puts_0 4 rfl rfl)
theorem dX3_puts_7 : decode cX3_puts 7 = .ok (.ifCond .eq 17, 3) := dk_153 0 17 (dk_at dksX3_puts_0 7 rfl rfl)
theorem dX3_puts_10 : decode cX3_puts 10 = .ok (.aload_n 0, 1) := dk_42 (dk_at dksX3_puts_0 10 rfl rfl)
theorem dX3_puts_11 : decode cX3_puts 11 = .ok (.getfield 9, 3) := dk_180 0 9 (dk_at dksX3_puts_0 11 rfl rfl)
theorem dX3_puts_14 : decode cX3_puts 14 = .ok (.checkcast 15, 3) := dk_192 0 15 (dk_at dksX3_puts_0 14 rfl rfl)
theorem dX3_puts_17 : decode cX3_puts 17 = .ok (.iload_n 1, 1) := dk_27 (dk_at dksX3_puts_0 17 rfl rfl)
theorem dX3_puts_18 : decode cX3_puts 18 = .ok (.iload_n 2, 1) := dk_28 (dk_at dksX3_puts_0 18 rfl rfl)
theorem dX3_puts_19 : decode cX3_puts 19 = .ok (.i2b, 1) := dk_145 (dk_at dksX3_puts_0 19 rfl rfl)
theorem dX3_puts_20 : decode cX3_puts 20 = .ok (.bastore, 1) := dk_84 (dk_at dksX3_puts_0 20 rfl rfl)
theorem dX3_puts_21 : decode cX3_puts 21 = .ok (.goto 70, 3) := dk_167 0 70 (dk_at dksX3_puts_0 21 rfl rfl)
theorem dX3_puts_24 : decode cX3_puts 24 = .ok (.aload_n 0, 1) := dk_42 (dk_at dksX3_puts_1 0 rfl rfl)
theorem dX3_puts_25 : decode cX3_puts 25 = .ok (.getfield 9, 3) := dk_180 0 9 (dk_at dksX3_puts_1 1 rfl rfl)
theorem dX3_puts_28 : decode cX3_puts 28 = .ok (.instanceof 17, 3) := dk_193 0 17 (dk_at dksX3_puts_1 4 rfl rfl)
theorem dX3_puts_31 : decode cX3_puts 31 = .ok (.ifCond .eq 16, 3) := dk_153 0 16 (dk_at dksX3_puts_1 7 rfl rfl)
theorem dX3_puts_34 : decode cX3_puts 34 = .ok (.aload_n 0, 1) := dk_42 (dk_at dksX3_puts_1 10 rfl rfl)
theorem dX3_puts_35 : decode cX3_puts 35 = .ok (.getfield 9, 3) := dk_180 0 9 (dk_at dksX3_puts_1 11 rfl rfl)
theorem dX3_puts_38 : decode cX3_puts 38 = .ok (.checkcast 17, 3) := dk_192 0 17 (dk_at dksX3_puts_1 14 rfl rfl)
theorem dX3_puts_41 : decode cX3_puts 41 = .ok (.iload_n 1, 1) := dk_27 (dk_at dksX3_puts_1 17 rfl rfl)
theorem dX3_puts_42 : decode cX3_puts 42 = .ok (.iload_n 2, 1) := dk_28 (dk_at dksX3_puts_1 18 rfl rfl)
theorem dX3_puts_43 : decode cX3_puts 43 = .ok (.iastore, 1) := dk_79 (dk_at dksX3_puts_1 19 rfl rfl)
theorem dX3_puts_44 : decode cX3_puts 44 = .ok (.goto 47, 3) := dk_167 0 47 (dk_at dksX3_puts_1 20 rfl rfl)
theorem dX3_puts_47 : decode cX3_puts 47 = .ok (.aload_n 0, 1) := dk_42 (dk_at dksX3_puts_1 23 rfl rfl)
theorem dX3_puts_48 : decode cX3_puts 48 = .ok (.getfield 9, 3) := dk_180 0 9 (dk_at dksX3_puts_2 0 rfl rfl)
theorem dX3_puts_51 : decode cX3_puts 51 = .ok (.instanceof 19, 3) := dk_193 0 19 (dk_at dksX3_puts_2 3 rfl rfl)
theorem dX3_puts_54 : decode cX3_puts 54 = .ok (.ifCond .eq 22, 3) := dk_153 0 22 (dk_at dksX3_puts_2 6 rfl rfl)
theorem dX3_puts_57 : decode cX3_puts 57 = .ok (.aload_n 0, 1) := dk_42 (dk_at dksX3_puts_2 9 rfl rfl)
theorem dX3_puts_58 : decode cX3_puts 58 = .ok (.getfield 9, 3) := dk_180 0 9 (dk_at dksX3_puts_2 10 rfl rfl)
theorem dX3_puts_61 : decode cX3_puts 61 = .ok (.checkcast 19, 3) := dk_192 0 19 (dk_at dksX3_puts_2 13 rfl rfl)
theorem dX3_puts_64 : decode cX3_puts 64 = .ok (.iload_n 1, 1) := dk_27 (dk_at dksX3_puts_2 16 rfl rfl)
theorem dX3_puts_65 : decode cX3_puts 65 = .ok (.iload_n 2, 1) := dk_28 (dk_at dksX3_puts_2 17 rfl rfl)
theorem dX3_puts_66 : decode cX3_puts 66 = .ok (.i2d, 1) := dk_135 (dk_at dksX3_puts_2 18 rfl rfl)
theorem dX3_puts_67 : decode cX3_puts 67 = .ok (.ldc2_w 31, 3) := dk_20 0 31 (dk_at dksX3_puts_2 19 rfl rfl)
theorem dX3_puts_70 : decode cX3_puts 70 = .ok (.ddiv, 1) := dk_111 (dk_at dksX3_puts_2 22 rfl rfl)
theorem dX3_puts_71 : decode cX3_puts 71 = .ok (.d2f, 1) := dk_144 (dk_at dksX3_puts_2 23 rfl rfl)
theorem dX3_puts_72 : decode cX3_puts 72 = .ok (.fastore, 1) := dk_81 (dk_at dksX3_puts_3 0 rfl rfl)
theorem dX3_puts_73 : decode cX3_puts 73 = .ok (.goto 18, 3) := dk_167 0 18 (dk_at dksX3_puts_3 1 rfl rfl)
theorem dX3_puts_76 : decode cX3_puts 76 = .ok (.aload_n 0, 1) := dk_42 (dk_at dksX3_puts_3 4 rfl rfl)
theorem dX3_puts_77 : decode cX3_puts 77 = .ok (.getfield 9, 3) := dk_180 0 9 (dk_at dksX3_puts_3 5 rfl rfl)
theorem dX3_puts_80 : decode cX3_puts 80 = .ok (.checkcast 21, 3) := dk_192 0 21 (dk_at dksX3_puts_3 8 rfl rfl)
theorem dX3_puts_83 : decode cX3_puts 83 = .ok (.iload_n 1, 1) := dk_27 (dk_at dksX3_puts_3 11 rfl rfl)
theorem dX3_puts_84 : decode cX3_puts 84 = .ok (.iload_n 2, 1) := dk_28 (dk_at dksX3_puts_3 12 rfl rfl)
theorem dX3_puts_85 : decode cX3_puts 85 = .ok (.i2d, 1) := dk_135 (dk_at dksX3_puts_3 13 rfl rfl)
theorem dX3_puts_86 : decode cX3_puts 86 = .ok (.ldc2_w 31, 3) := dk_20 0 31 (dk_at dksX3_puts_3 14 rfl rfl)
theorem dX3_puts_89 : decode cX3_puts 89 = .ok (.ddiv, 1) := dk_111 (dk_at dksX3_puts_3 17 rfl rfl)
theorem dX3_puts_90 : decode cX3_puts 90 = .ok (.dastore, 1) := dk_82 (dk_at dksX3_puts_3 18 rfl rfl)
theorem dX3_puts_91 : decode cX3_puts 91 = .ok (.return_, 1) := dk_177 (dk_at dksX3_puts_3 19 rfl rfl)
abbrev cX3_bits : ByteArray := prog_24_method_2_code
def yX3_bits : MethodName := ⟨RX3, "bits", "(I)J"⟩
def dkwX3_bits_4 : List UInt8 := [184, 0, 25, 173]
abbrev dktX3_bits_4 : List UInt8 := dkwX3_bits_4 ++ []
def dkwX3_bits_3 : List UInt8 := [42, 180, 0, 9, 192, 0, 21, 27, 49, 73, 40, 40, 151, 153, 0, 9, 20, 0, 23, 167, 0, 7, 40]
abbrev dktX3_bits_3 : List UInt8 := dkwX3_bits_3 ++ dktX3_bits_4
def dkwX3_bits_2 : List UInt8 := [42, 180, 0, 9, 193, 0, 19, 153, 0, 17, 42, 180, 0, 9, 192, 0, 19, 27, 48, 141, 73, 167, 0, 13]
abbrev dktX3_bits_2 : List UInt8 := dkwX3_bits_2 ++ dktX3_bits_3
def dkwX3_bits_1 : List UInt8 := [42, 180, 0, 9, 193, 0, 17, 153, 0, 17, 42, 180, 0, 9, 192, 0, 17, 27, 46, 135, 73, 167, 0, 37]
abbrev dktX3_bits_1 : List UInt8 := dkwX3_bits_1 ++ dktX3_bits_2
def dkwX3_bits_0 : List UInt8 := [42, 180, 0, 9, 193, 0, 15, 153, 0, 17, 42, 180, 0, 9, 192, 0, 15, 27, 51, 135, 73, 167, 0, 61]
abbrev dktX3_bits_0 : List UInt8 := dkwX3_bits_0 ++ dktX3_bits_1
theorem dksX3_bits_0 : cX3_bits.data.toList.drop 0 = dktX3_bits_0 := by decide +kernel
theorem dksX3_bits_1 : cX3_bits.data.toList.drop 24 = dktX3_bits_1 := dk_seg dksX3_bits_0 24 rfl rfl
theorem dksX3_bits_2 : cX3_bits.data.toList.drop 48 = dktX3_bits_2 := dk_seg dksX3_bits_1 24 rfl rfl
theorem dksX3_bits_3 : cX3_bits.data.toList.drop 72 = dktX3_bits_3 := dk_seg dksX3_bits_2 24 rfl rfl
theorem dksX3_bits_4 : cX3_bits.data.toList.drop 95 = dktX3_bits_4 := dk_seg dksX3_bits_3 23 rfl rfl
theorem dX3_bits_0 : decode cX3_bits 0 = .ok (.aload_n 0, 1) := dk_42 (dk_at dksX3_bits_0 0 rfl rfl)
theorem dX3_bits_1 : decode cX3_bits 1 = .ok (.getfield 9, 3) := dk_180 0 9 (dk_at dksX3_bits_0 1 rfl rfl)
theorem dX3_bits_4 : decode cX3_bits 4 = .ok (.instanceof 15, 3) := dk_193 0 15 (dk_at dksX3_bits_0 4 rfl rfl)
theorem dX3_bits_7 : decode cX3_bits 7 = .ok (.ifCond .eq 17, 3) := dk_153 0 17 (dk_at dksX3_bits_0 7 rfl rfl)
theorem dX3_bits_10 : decode cX3_bits 10 = .ok (.aload_n 0, 1) := dk_42 (dk_at dksX3_bits_0 10 rfl rfl)
theorem dX3_bits_11 : decode cX3_bits 11 = .ok (.getfield 9, 3) := dk_180 0 9 (dk_at dksX3_bits_0 11 rfl rfl)
theorem dX3_bits_14 : decode cX3_bits 14 = .ok (.checkcast 15, 3) := dk_192 0 15 (dk_at dksX3_bits_0 14 rfl rfl)
theorem dX3_bits_17 : decode cX3_bits 17 = .ok (.iload_n 1, 1) := dk_27 (dk_at dksX3_bits_0 17 rfl rfl)
theorem dX3_bits_18 : decode cX3_bits 18 = .ok (.baload, 1) := dk_51 (dk_at dksX3_bits_0 18 rfl rfl)
theorem dX3_bits_19 : decode cX3_bits 19 = .ok (.i2d, 1) := dk_135 (dk_at dksX3_bits_0 19 rfl rfl)
theorem dX3_bits_20 : decode cX3_bits 20 = .ok (.dstore_n 2, 1) := dk_73 (dk_at dksX3_bits_0 20 rfl rfl)
theorem dX3_bits_21 : decode cX3_bits 21 = .ok (.goto 61, 3) := dk_167 0 61 (dk_at dksX3_bits_0 21 rfl rfl)
theorem dX3_bits_24 : decode cX3_bits 24 = .ok (.aload_n 0, 1) := dk_42 (dk_at dksX3_bits_1 0 rfl rfl)
theorem dX3_bits_25 : decode cX3_bits 25 = .ok (.getfield 9, 3) := dk_180 0 9 (dk_at dksX3_bits_1 1 rfl rfl)
theorem dX3_bits_28 : decode cX3_bits 28 = .ok (.instanceof 17, 3) := dk_193 0 17 (dk_at dksX3_bits_1 4 rfl rfl)
theorem dX3_bits_31 : decode cX3_bits 31 = .ok (.ifCond .eq 17, 3) := dk_153 0 17 (dk_at dksX3_bits_1 7 rfl rfl)
theorem dX3_bits_34 : decode cX3_bits 34 = .ok (.aload_n 0, 1) := dk_42 (dk_at dksX3_bits_1 10 rfl rfl)
theorem dX3_bits_35 : decode cX3_bits 35 = .ok (.getfield 9, 3) := dk_180 0 9 (dk_at dksX3_bits_1 11 rfl rfl)
theorem dX3_bits_38 : decode cX3_bits 38 = .ok (.checkcast 17, 3) := dk_192 0 17 (dk_at dksX3_bits_1 14 rfl rfl)
theorem dX3_bits_41 : decode cX3_bits 41 = .ok (.iload_n 1, 1) := dk_27 (dk_at dksX3_bits_1 17 rfl rfl)
theorem dX3_bits_42 : decode cX3_bits 42 = .ok (.iaload, 1) := dk_46 (dk_at dksX3_bits_1 18 rfl rfl)
theorem dX3_bits_43 : decode cX3_bits 43 = .ok (.i2d, 1) := dk_135 (dk_at dksX3_bits_1 19 rfl rfl)
theorem dX3_bits_44 : decode cX3_bits 44 = .ok (.dstore_n 2, 1) := dk_73 (dk_at dksX3_bits_1 20 rfl rfl)
theorem dX3_bits_45 : decode cX3_bits 45 = .ok (.goto 37, 3) := dk_167 0 37 (dk_at dksX3_bits_1 21 rfl rfl)
theorem dX3_bits_48 : decode cX3_bits 48 = .ok (.aload_n 0, 1) := dk_42 (dk_at dksX3_bits_2 0 rfl rfl)
theorem dX3_bits_49 : decode cX3_bits 49 = .ok (.getfield 9, 3) := dk_180 0 9 (dk_at dksX3_bits_2 1 rfl rfl)
theorem dX3_bits_52 : decode cX3_bits 52 = .ok (.instanceof 19, 3) := dk_193 0 19 (dk_at dksX3_bits_2 4 rfl rfl)
theorem dX3_bits_55 : decode cX3_bits 55 = .ok (.ifCond .eq 17, 3) := dk_153 0 17 (dk_at dksX3_bits_2 7 rfl rfl)
theorem dX3_bits_58 : decode cX3_bits 58 = .ok (.aload_n 0, 1) := dk_42 (dk_at dksX3_bits_2 10 rfl rfl)
theorem dX3_bits_59 : decode cX3_bits 59 = .ok (.getfield 9, 3) := dk_180 0 9 (dk_at dksX3_bits_2 11 rfl rfl)
theorem dX3_bits_62 : decode cX3_bits 62 = .ok (.checkcast 19, 3) := dk_192 0 19 (dk_at dksX3_bits_2 14 rfl rfl)
theorem dX3_bits_65 : decode cX3_bits 65 = .ok (.iload_n 1, 1) := dk_27 (dk_at dksX3_bits_2 17 rfl rfl)
theorem dX3_bits_66 : decode cX3_bits 66 = .ok (.faload, 1) := dk_48 (dk_at dksX3_bits_2 18 rfl rfl)
theorem dX3_bits_67 : decode cX3_bits 67 = .ok (.f2d, 1) := dk_141 (dk_at dksX3_bits_2 19 rfl rfl)
theorem dX3_bits_68 : decode cX3_bits 68 = .ok (.dstore_n 2, 1) := dk_73 (dk_at dksX3_bits_2 20 rfl rfl)
theorem dX3_bits_69 : decode cX3_bits 69 = .ok (.goto 13, 3) := dk_167 0 13 (dk_at dksX3_bits_2 21 rfl rfl)
theorem dX3_bits_72 : decode cX3_bits 72 = .ok (.aload_n 0, 1) := dk_42 (dk_at dksX3_bits_3 0 rfl rfl)
theorem dX3_bits_73 : decode cX3_bits 73 = .ok (.getfield 9, 3) := dk_180 0 9 (dk_at dksX3_bits_3 1 rfl rfl)
theorem dX3_bits_76 : decode cX3_bits 76 = .ok (.checkcast 21, 3) := dk_192 0 21 (dk_at dksX3_bits_3 4 rfl rfl)
theorem dX3_bits_79 : decode cX3_bits 79 = .ok (.iload_n 1, 1) := dk_27 (dk_at dksX3_bits_3 7 rfl rfl)
theorem dX3_bits_80 : decode cX3_bits 80 = .ok (.daload, 1) := dk_49 (dk_at dksX3_bits_3 8 rfl rfl)
theorem dX3_bits_81 : decode cX3_bits 81 = .ok (.dstore_n 2, 1) := dk_73 (dk_at dksX3_bits_3 9 rfl rfl)
theorem dX3_bits_82 : decode cX3_bits 82 = .ok (.dload_n 2, 1) := dk_40 (dk_at dksX3_bits_3 10 rfl rfl)
theorem dX3_bits_83 : decode cX3_bits 83 = .ok (.dload_n 2, 1) := dk_40 (dk_at dksX3_bits_3 11 rfl rfl)
theorem dX3_bits_84 : decode cX3_bits 84 = .ok (.dcmp .l, 1) := dk_151 (dk_at dksX3_bits_3 12 rfl rfl)
theorem dX3_bits_85 : decode cX3_bits 85 = .ok (.ifCond .eq 9, 3) := dk_153 0 9 (dk_at dksX3_bits_3 13 rfl rfl)
theorem dX3_bits_88 : decode cX3_bits 88 = .ok (.ldc2_w 23, 3) := dk_20 0 23 (dk_at dksX3_bits_3 16 rfl rfl)
theorem dX3_bits_91 : decode cX3_bits 91 = .ok (.goto 7, 3) := dk_167 0 7 (dk_at dksX3_bits_3 19 rfl rfl)
theorem dX3_bits_94 : decode cX3_bits 94 = .ok (.dload_n 2, 1) := dk_40 (dk_at dksX3_bits_3 22 rfl rfl)
theorem dX3_bits_95 : decode cX3_bits 95 = .ok (.invokestatic 25, 3) := dk_184 0 25 (dk_at dksX3_bits_4 0 rfl rfl)
theorem dX3_bits_98 : decode cX3_bits 98 = .ok (.lreturn, 1) := dk_173 (dk_at dksX3_bits_4 3 rfl rfl)
theorem q153 : (Jvm.Cond.initialized "WhatIfSheet$Row") ∈ lw_all := lw_g (lw_at lw_m1 23 rfl) rfl
theorem q670 : (Jvm.Cond.instantiable "WhatIfSheet$Row" (1 : Nat)) ∈ lw_all := lw_g (lw_at lw_m3 60 rfl) rfl
theorem q672 : (Jvm.Cond.instanceMethod ({ cls := "WhatIfSheet$Row", name := "<init>", desc := "()V" } : Jvm.MethodName)) ∈ lw_all := lw_g (lw_at lw_m3 62 rfl) rfl
theorem q673 : (Jvm.Cond.code ({ cls := "WhatIfSheet$Row", name := "<init>", desc := "()V" } : Jvm.MethodName) prog_24_method_1_code (1 : Nat) (Option.none : Option Jvm.ClassFile.FieldType)) ∈ lw_all := lw_g (lw_at lw_m3 63 rfl) rfl
theorem q674 : (Jvm.Cond.methodLink "WhatIfSheet$Row" (3 : Nat) ({ cls := "java/lang/Object", name := "<init>", desc := "()V" } : Jvm.MethodName)) ∈ lw_all := lw_g (lw_at lw_m3 64 rfl) rfl
theorem q675 : (Jvm.Cond.fieldLink "WhatIfSheet$Row" (9 : Nat) "WhatIfSheet$Row" "thing" "Ljava/lang/Object;") ∈ lw_all := lw_g (lw_at lw_m3 65 rfl) rfl
theorem q677 : (Jvm.Cond.lays "WhatIfSheet$Row" "WhatIfSheet$Row" "thing" "Ljava/lang/Object;") ∈ lw_all := lw_g (lw_at lw_m3 67 rfl) rfl
theorem q678 : (Jvm.Cond.soleField "WhatIfSheet$Row" "thing") ∈ lw_all := lw_g (lw_at lw_m3 68 rfl) rfl
theorem q679 : (Jvm.Cond.superclass "WhatIfSheet$Row" "java/lang/Object") ∈ lw_all := lw_g (lw_at lw_m3 69 rfl) rfl
theorem q788 : (Jvm.Cond.selects "WhatIfSheet$Row" ({ cls := "java/lang/Object", name := "equals", desc := "(Ljava/lang/Object;)Z" } : Jvm.MethodName) ({ cls := "java/lang/Object", name := "equals", desc := "(Ljava/lang/Object;)Z" } : Jvm.MethodName)) ∈ lw_all := lw_g (lw_at lw_m3 178 rfl) rfl
theorem q865 : (Jvm.Cond.selects "WhatIfSheet$Row" ({ cls := "java/lang/Object", name := "getClass", desc := "()Ljava/lang/Class;" } : Jvm.MethodName) ({ cls := "java/lang/Object", name := "getClass", desc := "()Ljava/lang/Class;" } : Jvm.MethodName)) ∈ lw_all := lw_g (lw_at lw_m4 15 rfl) rfl
theorem q2622 : (Jvm.Cond.instanceMethod ({ cls := "WhatIfSheet$Row", name := "puts", desc := "(II)V" } : Jvm.MethodName)) ∈ lw_all := lw_g (lw_at lw_m11 92 rfl) rfl
theorem q2623 : (Jvm.Cond.selects "WhatIfSheet$Row" ({ cls := "WhatIfSheet$Row", name := "puts", desc := "(II)V" } : Jvm.MethodName) ({ cls := "WhatIfSheet$Row", name := "puts", desc := "(II)V" } : Jvm.MethodName)) ∈ lw_all := lw_g (lw_at lw_m11 93 rfl) rfl
theorem q2624 : (Jvm.Cond.code ({ cls := "WhatIfSheet$Row", name := "puts", desc := "(II)V" } : Jvm.MethodName) prog_24_method_3_code (3 : Nat) (Option.none : Option Jvm.ClassFile.FieldType)) ∈ lw_all := lw_g (lw_at lw_m11 94 rfl) rfl
theorem q2625 : (Jvm.Cond.classLink "WhatIfSheet$Row" (15 : Nat) "[B") ∈ lw_all := lw_g (lw_at lw_m11 95 rfl) rfl
theorem q2626 : (Jvm.Cond.classLink "WhatIfSheet$Row" (17 : Nat) "[I") ∈ lw_all := lw_g (lw_at lw_m11 96 rfl) rfl
theorem q2627 : (Jvm.Cond.classLink "WhatIfSheet$Row" (19 : Nat) "[F") ∈ lw_all := lw_g (lw_at lw_m11 97 rfl) rfl
theorem q2628 : (Jvm.Cond.constantDouble "WhatIfSheet$Row" (31 : Nat) (4620693217682128896 : UInt64)) ∈ lw_all := lw_g (lw_at lw_m11 98 rfl) rfl
theorem q2629 : (Jvm.Cond.classLink "WhatIfSheet$Row" (21 : Nat) "[D") ∈ lw_all := lw_g (lw_at lw_m11 99 rfl) rfl
theorem q2636 : (Jvm.Cond.instanceMethod ({ cls := "WhatIfSheet$Row", name := "bits", desc := "(I)J" } : Jvm.MethodName)) ∈ lw_all := lw_g (lw_at lw_m11 106 rfl) rfl
theorem q2637 : (Jvm.Cond.selects "WhatIfSheet$Row" ({ cls := "WhatIfSheet$Row", name := "bits", desc := "(I)J" } : Jvm.MethodName) ({ cls := "WhatIfSheet$Row", name := "bits", desc := "(I)J" } : Jvm.MethodName)) ∈ lw_all := lw_g (lw_at lw_m11 107 rfl) rfl
theorem q2638 : (Jvm.Cond.code ({ cls := "WhatIfSheet$Row", name := "bits", desc := "(I)J" } : Jvm.MethodName) prog_24_method_2_code (4 : Nat) (Option.some Jvm.ClassFile.FieldType.long)) ∈ lw_all := lw_g (lw_at lw_m11 108 rfl) rfl
theorem q2639 : (Jvm.Cond.constantLong "WhatIfSheet$Row" (23 : Nat) (-1 : Int64)) ∈ lw_all := lw_g (lw_at lw_m11 109 rfl) rfl
theorem q2640 : (Jvm.Cond.methodLink "WhatIfSheet$Row" (25 : Nat) ({ cls := "java/lang/Double", name := "doubleToLongBits", desc := "(D)J" } : Jvm.MethodName)) ∈ lw_all := lw_g (lw_at lw_m11 110 rfl) rfl
theorem q3396 : (Jvm.Cond.castable "WhatIfSheet$Row" "java/lang/Object") ∈ lw_tbl := lw_at lw_m14 146 rfl
theorem in_X3 : ∀ w ∈ wsX30, w ∈ lw_all := lw_in wsX30 [677] (by decide +kernel) (by decide +kernel)
/-! WhatIfSheet$Formula -/
set_option maxRecDepth 100000
def RX30 : String := "WhatIfSheet$Formula"
def TX30 : u_T := fun k => match k with
  | 0 => ("WhatIfSheet$Formula", "root", "LWhatIfSheet$Node;", true)
  | 1 => ("WhatIfSheet$Formula", "names", "Ljava/util/BitSet;", true)
  | _ => ("WhatIfSheet$Formula", "asks", "Ljava/util/LinkedList;", true)
def tyX30 : Nat → FieldType := fun k => match k with
  | 0 => .object "WhatIfSheet$Node"
  | 1 => .object "java/util/BitSet"
  | _ => .object "java/util/LinkedList"
abbrev wsX300 : List Cond := u_ws RX30 TX30 3
theorem nmX30 : ∀ a, a < 3 → ∀ b, b < 3 → a ≠ b → (TX30 a).2.1 ≠ (TX30 b).2.1 := by decide +kernel
theorem tyX30_ok : ∀ k, k < 3 → parseFieldDescriptor (TX30 k).2.2.1 = some (tyX30 k) := by decide +kernel
abbrev cX30_isAsking : ByteArray := prog_9_method_2_code
def yX30_isAsking : MethodName := ⟨RX30, "isAsking", "(I)Z"⟩
def dkwX30_isAsking_0 : List UInt8 := [42, 180, 0, 17, 27, 184, 0, 21, 182, 0, 27, 172]
abbrev dktX30_isAsking_0 : List UInt8 := dkwX30_isAsking_0 ++ []
theorem dksX30_isAsking_0 : cX30_isAsking.data.toList.drop 0 = dktX30_isAsking_0 := by decide +kernel
theorem dX30_isAsking_0 : decode cX30_isAsking 0 = .ok (.aload_n 0, 1) := dk_42 (dk_at dksX30_isAsking_0 0 rfl rfl)
theorem dX30_isAsking_1 : decode cX30_isAsking 1 = .ok (.getfield 17, 3) := dk_180 0 17 (dk_at dksX30_isAsking_0 1 rfl rfl)
theorem dX30_isAsking_4 : decode cX30_isAsking 4 = .ok (.iload_n 1, 1) := dk_27 (dk_at dksX30_isAsking_0 4 rfl rfl)
theorem dX30_isAsking_5 : decode cX30_isAsking 5 = .ok (.invokestatic 21, 3) := dk_184 0 21 (dk_at dksX30_isAsking_0 5 rfl rfl)
theorem dX30_isAsking_8 : decode cX30_isAsking 8 = .ok (.invokevirtual 27, 3) := dk_182 0 27 (dk_at dksX30_isAsking_0 8 rfl rfl)
theorem dX30_isAsking_11 : decode cX30_isAsking 11 = .ok (.ireturn, 1) := dk_172 (dk_at dksX30_isAsking_0 11 rfl rfl)
abbrev cX30_init : ByteArray := prog_9_method_1_code
def yX30_init : MethodName := ⟨RX30, "<init>", "(LWhatIfSheet$Node;Ljava/util/BitSet;Ljava/util/LinkedList;)V"⟩
def dkwX30_init_0 : List UInt8 := [42, 183, 0, 1, 42, 43, 181, 0, 7, 42, 44, 181, 0, 13, 42, 45, 181, 0, 17, 177]
abbrev dktX30_init_0 : List UInt8 := dkwX30_init_0 ++ []
theorem dksX30_init_0 : cX30_init.data.toList.drop 0 = dktX30_init_0 := by decide +kernel
theorem dX30_init_0 : decode cX30_init 0 = .ok (.aload_n 0, 1) := dk_42 (dk_at dksX30_init_0 0 rfl rfl)
theorem dX30_init_1 : decode cX30_init 1 = .ok (.invokespecial 1, 3) := dk_183 0 1 (dk_at dksX30_init_0 1 rfl rfl)
theorem dX30_init_4 : decode cX30_init 4 = .ok (.aload_n 0, 1) := dk_42 (dk_at dksX30_init_0 4 rfl rfl)
theorem dX30_init_5 : decode cX30_init 5 = .ok (.aload_n 1, 1) := dk_43 (dk_at dksX30_init_0 5 rfl rfl)
theorem dX30_init_6 : decode cX30_init 6 = .ok (.putfield 7, 3) := dk_181 0 7 (dk_at dksX30_init_0 6 rfl rfl)
theorem dX30_init_9 : decode cX30_init 9 = .ok (.aload_n 0, 1) := dk_42 (dk_at dksX30_init_0 9 rfl rfl)
theorem dX30_init_10 : decode cX30_init 10 = .ok (.aload_n 2, 1) := dk_44 (dk_at dksX30_init_0 10 rfl rfl)
theorem dX30_init_11 : decode cX30_init 11 = .ok (.putfield 13, 3) := dk_181 0 13 (dk_at dksX30_init_0 11 rfl rfl)
theorem dX30_init_14 : decode cX30_init 14 = .ok (.aload_n 0, 1) := dk_42 (dk_at dksX30_init_0 14 rfl rfl)
theorem dX30_init_15 : decode cX30_init 15 = .ok (.aload_n 3, 1) := dk_45 (dk_at dksX30_init_0 15 rfl rfl)
theorem dX30_init_16 : decode cX30_init 16 = .ok (.putfield 17, 3) := dk_181 0 17 (dk_at dksX30_init_0 16 rfl rfl)
theorem dX30_init_19 : decode cX30_init 19 = .ok (.return_, 1) := dk_177 (dk_at dksX30_init_0 19 rfl rfl)
theorem q194 : (Jvm.Cond.initialized "WhatIfSheet$Formula") ∈ lw_all := lw_g (lw_at lw_m1 64 rfl) rfl
theorem q731 : (Jvm.Cond.instanceMethod ({ cls := "WhatIfSheet$Formula", name := "isAsking", desc := "(I)Z" } : Jvm.MethodName)) ∈ lw_all := lw_g (lw_at lw_m3 121 rfl) rfl
theorem q732 : (Jvm.Cond.selects "WhatIfSheet$Formula" ({ cls := "WhatIfSheet$Formula", name := "isAsking", desc := "(I)Z" } : Jvm.MethodName) ({ cls := "WhatIfSheet$Formula", name := "isAsking", desc := "(I)Z" } : Jvm.MethodName)) ∈ lw_all := lw_g (lw_at lw_m3 122 rfl) rfl
theorem q733 : (Jvm.Cond.code ({ cls := "WhatIfSheet$Formula", name := "isAsking", desc := "(I)Z" } : Jvm.MethodName) prog_9_method_2_code (2 : Nat) (Option.some Jvm.ClassFile.FieldType.boolean)) ∈ lw_all := lw_g (lw_at lw_m3 123 rfl) rfl
theorem q734 : (Jvm.Cond.methodLink "WhatIfSheet$Formula" (21 : Nat) ({ cls := "java/lang/Integer", name := "valueOf", desc := "(I)Ljava/lang/Integer;" } : Jvm.MethodName)) ∈ lw_all := lw_g (lw_at lw_m3 124 rfl) rfl
theorem q754 : (Jvm.Cond.methodLink "WhatIfSheet$Formula" (27 : Nat) ({ cls := "java/util/LinkedList", name := "contains", desc := "(Ljava/lang/Object;)Z" } : Jvm.MethodName)) ∈ lw_all := lw_g (lw_at lw_m3 144 rfl) rfl
theorem q774 : (Jvm.Cond.selects "WhatIfSheet$Formula" ({ cls := "java/lang/Object", name := "equals", desc := "(Ljava/lang/Object;)Z" } : Jvm.MethodName) ({ cls := "java/lang/Object", name := "equals", desc := "(Ljava/lang/Object;)Z" } : Jvm.MethodName)) ∈ lw_all := lw_g (lw_at lw_m3 164 rfl) rfl
theorem q851 : (Jvm.Cond.selects "WhatIfSheet$Formula" ({ cls := "java/lang/Object", name := "getClass", desc := "()Ljava/lang/Class;" } : Jvm.MethodName) ({ cls := "java/lang/Object", name := "getClass", desc := "()Ljava/lang/Class;" } : Jvm.MethodName)) ∈ lw_all := lw_g (lw_at lw_m4 1 rfl) rfl
theorem q1936 : (Jvm.Cond.instantiable "WhatIfSheet$Formula" (3 : Nat)) ∈ lw_all := lw_g (lw_at lw_m8 126 rfl) rfl
theorem q1938 : (Jvm.Cond.instanceMethod ({ cls := "WhatIfSheet$Formula", name := "<init>", desc := "(LWhatIfSheet$Node;Ljava/util/BitSet;Ljava/util/LinkedList;)V" } : Jvm.MethodName)) ∈ lw_all := lw_g (lw_at lw_m8 128 rfl) rfl
theorem q1939 : (Jvm.Cond.code ({ cls := "WhatIfSheet$Formula", name := "<init>", desc := "(LWhatIfSheet$Node;Ljava/util/BitSet;Ljava/util/LinkedList;)V" } : Jvm.MethodName) prog_9_method_1_code (4 : Nat) (Option.none : Option Jvm.ClassFile.FieldType)) ∈ lw_all := lw_g (lw_at lw_m8 129 rfl) rfl
theorem q1940 : (Jvm.Cond.methodLink "WhatIfSheet$Formula" (1 : Nat) ({ cls := "java/lang/Object", name := "<init>", desc := "()V" } : Jvm.MethodName)) ∈ lw_all := lw_g (lw_at lw_m8 130 rfl) rfl
theorem q1941 : (Jvm.Cond.fieldLink "WhatIfSheet$Formula" (7 : Nat) "WhatIfSheet$Formula" "root" "LWhatIfSheet$Node;") ∈ lw_all := lw_g (lw_at lw_m8 131 rfl) rfl
theorem q1943 : (Jvm.Cond.fieldLink "WhatIfSheet$Formula" (13 : Nat) "WhatIfSheet$Formula" "names" "Ljava/util/BitSet;") ∈ lw_all := lw_g (lw_at lw_m8 133 rfl) rfl
theorem q1945 : (Jvm.Cond.fieldLink "WhatIfSheet$Formula" (17 : Nat) "WhatIfSheet$Formula" "asks" "Ljava/util/LinkedList;") ∈ lw_all := lw_g (lw_at lw_m8 135 rfl) rfl
theorem q1947 : (Jvm.Cond.laysFinal "WhatIfSheet$Formula" "WhatIfSheet$Formula" "root" "LWhatIfSheet$Node;") ∈ lw_all := lw_g (lw_at lw_m8 137 rfl) rfl
theorem q1948 : (Jvm.Cond.soleField "WhatIfSheet$Formula" "root") ∈ lw_all := lw_g (lw_at lw_m8 138 rfl) rfl
theorem q1949 : (Jvm.Cond.laysFinal "WhatIfSheet$Formula" "WhatIfSheet$Formula" "names" "Ljava/util/BitSet;") ∈ lw_all := lw_g (lw_at lw_m8 139 rfl) rfl
theorem q1950 : (Jvm.Cond.soleField "WhatIfSheet$Formula" "names") ∈ lw_all := lw_g (lw_at lw_m8 140 rfl) rfl
theorem q1951 : (Jvm.Cond.laysFinal "WhatIfSheet$Formula" "WhatIfSheet$Formula" "asks" "Ljava/util/LinkedList;") ∈ lw_all := lw_g (lw_at lw_m8 141 rfl) rfl
theorem q1952 : (Jvm.Cond.soleField "WhatIfSheet$Formula" "asks") ∈ lw_all := lw_g (lw_at lw_m8 142 rfl) rfl
theorem q1953 : (Jvm.Cond.superclass "WhatIfSheet$Formula" "java/lang/Object") ∈ lw_all := lw_g (lw_at lw_m8 143 rfl) rfl
theorem q3395 : (Jvm.Cond.castable "WhatIfSheet$Formula" "java/lang/Object") ∈ lw_tbl := lw_at lw_m14 145 rfl
theorem in_X30 : ∀ w ∈ wsX300, w ∈ lw_all := lw_in wsX300 [1947, 1949, 1951] (by decide +kernel) (by decide +kernel)
/-! WhatIfSheet$Table -/
set_option maxRecDepth 100000
def RX31 : String := "WhatIfSheet$Table"
def TX31 : u_T := fun k => match k with
  | 0 => ("WhatIfSheet$Table", "number", "I", true)
  | 1 => ("WhatIfSheet$Table", "output", "I", true)
  | 2 => ("WhatIfSheet$Table", "one", "LWhatIfSheet$Axis;", true)
  | _ => ("WhatIfSheet$Table", "other", "LWhatIfSheet$Axis;", true)
def tyX31 : Nat → FieldType := fun k => match k with
  | 0 => .int
  | 1 => .int
  | 2 => .object "WhatIfSheet$Axis"
  | _ => .object "WhatIfSheet$Axis"
abbrev wsX310 : List Cond := u_ws RX31 TX31 4
theorem nmX31 : ∀ a, a < 4 → ∀ b, b < 4 → a ≠ b → (TX31 a).2.1 ≠ (TX31 b).2.1 := by decide +kernel
theorem tyX31_ok : ∀ k, k < 4 → parseFieldDescriptor (TX31 k).2.2.1 = some (tyX31 k) := by decide +kernel
abbrev cX31_cases : ByteArray := prog_29_method_3_code
def yX31_cases : MethodName := ⟨RX31, "cases", "()I"⟩
def dkwX31_cases_0 : List UInt8 := [42, 180, 0, 16, 182, 0, 23, 42, 182, 0, 29, 104, 172]
abbrev dktX31_cases_0 : List UInt8 := dkwX31_cases_0 ++ []
theorem dksX31_cases_0 : cX31_cases.data.toList.drop 0 = dktX31_cases_0 := by decide +kernel
theorem dX31_cases_0 : decode cX31_cases 0 = .ok (.aload_n 0, 1) := dk_42 (dk_at dksX31_cases_0 0 rfl rfl)
theorem dX31_cases_1 : decode cX31_cases 1 = .ok (.getfield 16, 3) := dk_180 0 16 (dk_at dksX31_cases_0 1 rfl rfl)
theorem dX31_cases_4 : decode cX31_cases 4 = .ok (.invokevirtual 23, 3) := dk_182 0 23 (dk_at dksX31_cases_0 4 rfl rfl)
theorem dX31_cases_7 : decode cX31_cases 7 = .ok (.aload_n 0, 1) := dk_42 (dk_at dksX31_cases_0 7 rfl rfl)
theorem dX31_cases_8 : decode cX31_cases 8 = .ok (.invokevirtual 29, 3) := dk_182 0 29 (dk_at dksX31_cases_0 8 rfl rfl)
theorem dX31_cases_11 : decode cX31_cases 11 = .ok (.imul, 1) := dk_104 (dk_at dksX31_cases_0 11 rfl rfl)
theorem dX31_cases_12 : decode cX31_cases 12 = .ok (.ireturn, 1) := dk_172 (dk_at dksX31_cases_0 12 rfl rfl)
abbrev cX31_many : ByteArray := prog_29_method_2_code
def yX31_many : MethodName := ⟨RX31, "many", "()I"⟩
def dkwX31_many_0 : List UInt8 := [42, 180, 0, 20, 199, 0, 7, 4, 167, 0, 10, 42, 180, 0, 20, 182, 0, 23, 172]
abbrev dktX31_many_0 : List UInt8 := dkwX31_many_0 ++ []
theorem dksX31_many_0 : cX31_many.data.toList.drop 0 = dktX31_many_0 := by decide +kernel
theorem dX31_many_0 : decode cX31_many 0 = .ok (.aload_n 0, 1) := dk_42 (dk_at dksX31_many_0 0 rfl rfl)
theorem dX31_many_1 : decode cX31_many 1 = .ok (.getfield 20, 3) := dk_180 0 20 (dk_at dksX31_many_0 1 rfl rfl)
theorem dX31_many_4 : decode cX31_many 4 = .ok (.ifnonnull 7, 3) := dk_199 0 7 (dk_at dksX31_many_0 4 rfl rfl)
theorem dX31_many_7 : decode cX31_many 7 = .ok (.iconst 1, 1) := dk_4 (dk_at dksX31_many_0 7 rfl rfl)
theorem dX31_many_8 : decode cX31_many 8 = .ok (.goto 10, 3) := dk_167 0 10 (dk_at dksX31_many_0 8 rfl rfl)
theorem dX31_many_11 : decode cX31_many 11 = .ok (.aload_n 0, 1) := dk_42 (dk_at dksX31_many_0 11 rfl rfl)
theorem dX31_many_12 : decode cX31_many 12 = .ok (.getfield 20, 3) := dk_180 0 20 (dk_at dksX31_many_0 12 rfl rfl)
theorem dX31_many_15 : decode cX31_many 15 = .ok (.invokevirtual 23, 3) := dk_182 0 23 (dk_at dksX31_many_0 15 rfl rfl)
theorem dX31_many_18 : decode cX31_many 18 = .ok (.ireturn, 1) := dk_172 (dk_at dksX31_many_0 18 rfl rfl)
abbrev cX31_varies : ByteArray := prog_29_method_4_code
def yX31_varies : MethodName := ⟨RX31, "varies", "(I)Z"⟩
def dkwX31_varies_1 : List UInt8 := [180, 0, 32, 27, 160, 0, 7, 4, 167, 0, 4, 3, 172]
abbrev dktX31_varies_1 : List UInt8 := dkwX31_varies_1 ++ []
def dkwX31_varies_0 : List UInt8 := [42, 180, 0, 16, 180, 0, 32, 27, 159, 0, 21, 42, 180, 0, 20, 198, 0, 18, 42, 180, 0, 20]
abbrev dktX31_varies_0 : List UInt8 := dkwX31_varies_0 ++ dktX31_varies_1
theorem dksX31_varies_0 : cX31_varies.data.toList.drop 0 = dktX31_varies_0 := by decide +kernel
theorem dksX31_varies_1 : cX31_varies.data.toList.drop 22 = dktX31_varies_1 := dk_seg dksX31_varies_0 22 rfl rfl
theorem dX31_varies_0 : decode cX31_varies 0 = .ok (.aload_n 0, 1) := dk_42 (dk_at dksX31_varies_0 0 rfl rfl)
theorem dX31_varies_1 : decode cX31_varies 1 = .ok (.getfield 16, 3) := dk_180 0 16 (dk_at dksX31_varies_0 1 rfl rfl)
theorem dX31_varies_4 : decode cX31_varies 4 = .ok (.getfield 32, 3) := dk_180 0 32 (dk_at dksX31_varies_0 4 rfl rfl)
theorem dX31_varies_7 : decode cX31_varies 7 = .ok (.iload_n 1, 1) := dk_27 (dk_at dksX31_varies_0 7 rfl rfl)
theorem dX31_varies_8 : decode cX31_varies 8 = .ok (.if_icmp .eq 21, 3) := dk_159 0 21 (dk_at dksX31_varies_0 8 rfl rfl)
theorem dX31_varies_11 : decode cX31_varies 11 = .ok (.aload_n 0, 1) := dk_42 (dk_at dksX31_varies_0 11 rfl rfl)
theorem dX31_varies_12 : decode cX31_varies 12 = .ok (.getfield 20, 3) := dk_180 0 20 (dk_at dksX31_varies_0 12 rfl rfl)
theorem dX31_varies_15 : decode cX31_varies 15 = .ok (.ifnull 18, 3) := dk_198 0 18 (dk_at dksX31_varies_0 15 rfl rfl)
theorem dX31_varies_18 : decode cX31_varies 18 = .ok (.aload_n 0, 1) := dk_42 (dk_at dksX31_varies_0 18 rfl rfl)
theorem dX31_varies_19 : decode cX31_varies 19 = .ok (.getfield 20, 3) := dk_180 0 20 (dk_at dksX31_varies_0 19 rfl rfl)
theorem dX31_varies_22 : decode cX31_varies 22 = .ok (.getfield 32, 3) := dk_180 0 32 (dk_at dksX31_varies_1 0 rfl rfl)
theorem dX31_varies_25 : decode cX31_varies 25 = .ok (.iload_n 1, 1) := dk_27 (dk_at dksX31_varies_1 3 rfl rfl)
theorem dX31_varies_26 : decode cX31_varies 26 = .ok (.if_icmp .ne 7, 3) := dk_160 0 7 (dk_at dksX31_varies_1 4 rfl rfl)
theorem dX31_varies_29 : decode cX31_varies 29 = .ok (.iconst 1, 1) := dk_4 (dk_at dksX31_varies_1 7 rfl rfl)
theorem dX31_varies_30 : decode cX31_varies 30 = .ok (.goto 4, 3) := dk_167 0 4 (dk_at dksX31_varies_1 8 rfl rfl)
theorem dX31_varies_33 : decode cX31_varies 33 = .ok (.iconst 0, 1) := dk_3 (dk_at dksX31_varies_1 11 rfl rfl)
theorem dX31_varies_34 : decode cX31_varies 34 = .ok (.ireturn, 1) := dk_172 (dk_at dksX31_varies_1 12 rfl rfl)
abbrev cX31_init : ByteArray := prog_29_method_1_code
def yX31_init : MethodName := ⟨RX31, "<init>", "(IILWhatIfSheet$Axis;LWhatIfSheet$Axis;)V"⟩
def dkwX31_init_1 : List UInt8 := [181, 0, 20, 177]
abbrev dktX31_init_1 : List UInt8 := dkwX31_init_1 ++ []
def dkwX31_init_0 : List UInt8 := [42, 183, 0, 1, 42, 27, 181, 0, 7, 42, 28, 181, 0, 13, 42, 45, 181, 0, 16, 42, 25, 4]
abbrev dktX31_init_0 : List UInt8 := dkwX31_init_0 ++ dktX31_init_1
theorem dksX31_init_0 : cX31_init.data.toList.drop 0 = dktX31_init_0 := by decide +kernel
theorem dksX31_init_1 : cX31_init.data.toList.drop 22 = dktX31_init_1 := dk_seg dksX31_init_0 22 rfl rfl
theorem dX31_init_0 : decode cX31_init 0 = .ok (.aload_n 0, 1) := dk_42 (dk_at dksX31_init_0 0 rfl rfl)
theorem dX31_init_1 : decode cX31_init 1 = .ok (.invokespecial 1, 3) := dk_183 0 1 (dk_at dksX31_init_0 1 rfl rfl)
theorem dX31_init_4 : decode cX31_init 4 = .ok (.aload_n 0, 1) := dk_42 (dk_at dksX31_init_0 4 rfl rfl)
theorem dX31_init_5 : decode cX31_init 5 = .ok (.iload_n 1, 1) := dk_27 (dk_at dksX31_init_0 5 rfl rfl)
theorem dX31_init_6 : decode cX31_init 6 = .ok (.putfield 7, 3) := dk_181 0 7 (dk_at dksX31_init_0 6 rfl rfl)
theorem dX31_init_9 : decode cX31_init 9 = .ok (.aload_n 0, 1) := dk_42 (dk_at dksX31_init_0 9 rfl rfl)
theorem dX31_init_10 : decode cX31_init 10 = .ok (.iload_n 2, 1) := dk_28 (dk_at dksX31_init_0 10 rfl rfl)
theorem dX31_init_11 : decode cX31_init 11 = .ok (.putfield 13, 3) := dk_181 0 13 (dk_at dksX31_init_0 11 rfl rfl)
theorem dX31_init_14 : decode cX31_init 14 = .ok (.aload_n 0, 1) := dk_42 (dk_at dksX31_init_0 14 rfl rfl)
theorem dX31_init_15 : decode cX31_init 15 = .ok (.aload_n 3, 1) := dk_45 (dk_at dksX31_init_0 15 rfl rfl)
theorem dX31_init_16 : decode cX31_init 16 = .ok (.putfield 16, 3) := dk_181 0 16 (dk_at dksX31_init_0 16 rfl rfl)
theorem dX31_init_19 : decode cX31_init 19 = .ok (.aload_n 0, 1) := dk_42 (dk_at dksX31_init_0 19 rfl rfl)
theorem dX31_init_20 : decode cX31_init 20 = .ok (.aload 4, 2) := dk_25 4 (dk_at dksX31_init_0 20 rfl rfl)
theorem dX31_init_22 : decode cX31_init 22 = .ok (.putfield 20, 3) := dk_181 0 20 (dk_at dksX31_init_1 0 rfl rfl)
theorem dX31_init_25 : decode cX31_init 25 = .ok (.return_, 1) := dk_177 (dk_at dksX31_init_1 3 rfl rfl)
theorem q195 : (Jvm.Cond.initialized "WhatIfSheet$Table") ∈ lw_all := lw_g (lw_at lw_m1 65 rfl) rfl
theorem q793 : (Jvm.Cond.selects "WhatIfSheet$Table" ({ cls := "java/lang/Object", name := "equals", desc := "(Ljava/lang/Object;)Z" } : Jvm.MethodName) ({ cls := "java/lang/Object", name := "equals", desc := "(Ljava/lang/Object;)Z" } : Jvm.MethodName)) ∈ lw_all := lw_g (lw_at lw_m3 183 rfl) rfl
theorem q870 : (Jvm.Cond.selects "WhatIfSheet$Table" ({ cls := "java/lang/Object", name := "getClass", desc := "()Ljava/lang/Class;" } : Jvm.MethodName) ({ cls := "java/lang/Object", name := "getClass", desc := "()Ljava/lang/Class;" } : Jvm.MethodName)) ∈ lw_all := lw_g (lw_at lw_m4 20 rfl) rfl
theorem q1169 : (Jvm.Cond.instanceMethod ({ cls := "WhatIfSheet$Table", name := "cases", desc := "()I" } : Jvm.MethodName)) ∈ lw_all := lw_g (lw_at lw_m5 79 rfl) rfl
theorem q1170 : (Jvm.Cond.selects "WhatIfSheet$Table" ({ cls := "WhatIfSheet$Table", name := "cases", desc := "()I" } : Jvm.MethodName) ({ cls := "WhatIfSheet$Table", name := "cases", desc := "()I" } : Jvm.MethodName)) ∈ lw_all := lw_g (lw_at lw_m5 80 rfl) rfl
theorem q1171 : (Jvm.Cond.code ({ cls := "WhatIfSheet$Table", name := "cases", desc := "()I" } : Jvm.MethodName) prog_29_method_3_code (1 : Nat) (Option.some Jvm.ClassFile.FieldType.int)) ∈ lw_all := lw_g (lw_at lw_m5 81 rfl) rfl
theorem q1172 : (Jvm.Cond.methodLink "WhatIfSheet$Table" (23 : Nat) ({ cls := "WhatIfSheet$Axis", name := "size", desc := "()I" } : Jvm.MethodName)) ∈ lw_all := lw_g (lw_at lw_m5 82 rfl) rfl
theorem q1176 : (Jvm.Cond.methodLink "WhatIfSheet$Table" (29 : Nat) ({ cls := "WhatIfSheet$Table", name := "many", desc := "()I" } : Jvm.MethodName)) ∈ lw_all := lw_g (lw_at lw_m5 86 rfl) rfl
theorem q1177 : (Jvm.Cond.instanceMethod ({ cls := "WhatIfSheet$Table", name := "many", desc := "()I" } : Jvm.MethodName)) ∈ lw_all := lw_g (lw_at lw_m5 87 rfl) rfl
theorem q1178 : (Jvm.Cond.selects "WhatIfSheet$Table" ({ cls := "WhatIfSheet$Table", name := "many", desc := "()I" } : Jvm.MethodName) ({ cls := "WhatIfSheet$Table", name := "many", desc := "()I" } : Jvm.MethodName)) ∈ lw_all := lw_g (lw_at lw_m5 88 rfl) rfl
theorem q1179 : (Jvm.Cond.code ({ cls := "WhatIfSheet$Table", name := "many", desc := "()I" } : Jvm.MethodName) prog_29_method_2_code (1 : Nat) (Option.some Jvm.ClassFile.FieldType.int)) ∈ lw_all := lw_g (lw_at lw_m5 89 rfl) rfl
theorem q1959 : (Jvm.Cond.instanceMethod ({ cls := "WhatIfSheet$Table", name := "varies", desc := "(I)Z" } : Jvm.MethodName)) ∈ lw_all := lw_g (lw_at lw_m8 149 rfl) rfl
theorem q1960 : (Jvm.Cond.selects "WhatIfSheet$Table" ({ cls := "WhatIfSheet$Table", name := "varies", desc := "(I)Z" } : Jvm.MethodName) ({ cls := "WhatIfSheet$Table", name := "varies", desc := "(I)Z" } : Jvm.MethodName)) ∈ lw_all := lw_g (lw_at lw_m8 150 rfl) rfl
theorem q1961 : (Jvm.Cond.code ({ cls := "WhatIfSheet$Table", name := "varies", desc := "(I)Z" } : Jvm.MethodName) prog_29_method_4_code (2 : Nat) (Option.some Jvm.ClassFile.FieldType.boolean)) ∈ lw_all := lw_g (lw_at lw_m8 151 rfl) rfl
theorem q2346 : (Jvm.Cond.instantiable "WhatIfSheet$Table" (4 : Nat)) ∈ lw_all := lw_g (lw_at lw_m10 56 rfl) rfl
theorem q2354 : (Jvm.Cond.fieldLink "WhatIfSheet$Table" (32 : Nat) "WhatIfSheet$Axis" "input" "I") ∈ lw_all := lw_g (lw_at lw_m10 64 rfl) rfl
theorem q2364 : (Jvm.Cond.instanceMethod ({ cls := "WhatIfSheet$Table", name := "<init>", desc := "(IILWhatIfSheet$Axis;LWhatIfSheet$Axis;)V" } : Jvm.MethodName)) ∈ lw_all := lw_g (lw_at lw_m10 74 rfl) rfl
theorem q2365 : (Jvm.Cond.code ({ cls := "WhatIfSheet$Table", name := "<init>", desc := "(IILWhatIfSheet$Axis;LWhatIfSheet$Axis;)V" } : Jvm.MethodName) prog_29_method_1_code (5 : Nat) (Option.none : Option Jvm.ClassFile.FieldType)) ∈ lw_all := lw_g (lw_at lw_m10 75 rfl) rfl
theorem q2366 : (Jvm.Cond.methodLink "WhatIfSheet$Table" (1 : Nat) ({ cls := "java/lang/Object", name := "<init>", desc := "()V" } : Jvm.MethodName)) ∈ lw_all := lw_g (lw_at lw_m10 76 rfl) rfl
theorem q2367 : (Jvm.Cond.fieldLink "WhatIfSheet$Table" (7 : Nat) "WhatIfSheet$Table" "number" "I") ∈ lw_all := lw_g (lw_at lw_m10 77 rfl) rfl
theorem q2369 : (Jvm.Cond.fieldLink "WhatIfSheet$Table" (13 : Nat) "WhatIfSheet$Table" "output" "I") ∈ lw_all := lw_g (lw_at lw_m10 79 rfl) rfl
theorem q2371 : (Jvm.Cond.fieldLink "WhatIfSheet$Table" (16 : Nat) "WhatIfSheet$Table" "one" "LWhatIfSheet$Axis;") ∈ lw_all := lw_g (lw_at lw_m10 81 rfl) rfl
theorem q2373 : (Jvm.Cond.fieldLink "WhatIfSheet$Table" (20 : Nat) "WhatIfSheet$Table" "other" "LWhatIfSheet$Axis;") ∈ lw_all := lw_g (lw_at lw_m10 83 rfl) rfl
theorem q2375 : (Jvm.Cond.laysFinal "WhatIfSheet$Table" "WhatIfSheet$Table" "number" "I") ∈ lw_all := lw_g (lw_at lw_m10 85 rfl) rfl
theorem q2376 : (Jvm.Cond.soleField "WhatIfSheet$Table" "number") ∈ lw_all := lw_g (lw_at lw_m10 86 rfl) rfl
theorem q2377 : (Jvm.Cond.laysFinal "WhatIfSheet$Table" "WhatIfSheet$Table" "output" "I") ∈ lw_all := lw_g (lw_at lw_m10 87 rfl) rfl
theorem q2378 : (Jvm.Cond.soleField "WhatIfSheet$Table" "output") ∈ lw_all := lw_g (lw_at lw_m10 88 rfl) rfl
theorem q2379 : (Jvm.Cond.laysFinal "WhatIfSheet$Table" "WhatIfSheet$Table" "one" "LWhatIfSheet$Axis;") ∈ lw_all := lw_g (lw_at lw_m10 89 rfl) rfl
theorem q2380 : (Jvm.Cond.soleField "WhatIfSheet$Table" "one") ∈ lw_all := lw_g (lw_at lw_m10 90 rfl) rfl
theorem q2381 : (Jvm.Cond.laysFinal "WhatIfSheet$Table" "WhatIfSheet$Table" "other" "LWhatIfSheet$Axis;") ∈ lw_all := lw_g (lw_at lw_m10 91 rfl) rfl
theorem q2382 : (Jvm.Cond.soleField "WhatIfSheet$Table" "other") ∈ lw_all := lw_g (lw_at lw_m10 92 rfl) rfl
theorem q2383 : (Jvm.Cond.superclass "WhatIfSheet$Table" "java/lang/Object") ∈ lw_all := lw_g (lw_at lw_m10 93 rfl) rfl
theorem q3392 : (Jvm.Cond.castable "WhatIfSheet$Table" "java/lang/Object") ∈ lw_tbl := lw_at lw_m14 142 rfl
theorem in_X31 : ∀ w ∈ wsX310, w ∈ lw_all := lw_in wsX310 [2375, 2377, 2379, 2381] (by decide +kernel) (by decide +kernel)
/-! WhatIfSheet$Axis -/
set_option maxRecDepth 100000
def RX32 : String := "WhatIfSheet$Axis"
def TX32 : u_T := fun k => match k with
  | 0 => ("WhatIfSheet$Axis", "input", "I", true)
  | _ => ("WhatIfSheet$Axis", "numbers", "[D", true)
def tyX32 : Nat → FieldType := fun k => match k with
  | 0 => .int
  | _ => .array .double
abbrev wsX320 : List Cond := u_ws RX32 TX32 2
theorem nmX32 : ∀ a, a < 2 → ∀ b, b < 2 → a ≠ b → (TX32 a).2.1 ≠ (TX32 b).2.1 := by decide +kernel
theorem tyX32_ok : ∀ k, k < 2 → parseFieldDescriptor (TX32 k).2.2.1 = some (tyX32 k) := by decide +kernel
abbrev cX32_size : ByteArray := prog_3_method_2_code
def yX32_size : MethodName := ⟨RX32, "size", "()I"⟩
def dkwX32_size_0 : List UInt8 := [42, 180, 0, 13, 190, 172]
abbrev dktX32_size_0 : List UInt8 := dkwX32_size_0 ++ []
theorem dksX32_size_0 : cX32_size.data.toList.drop 0 = dktX32_size_0 := by decide +kernel
theorem dX32_size_0 : decode cX32_size 0 = .ok (.aload_n 0, 1) := dk_42 (dk_at dksX32_size_0 0 rfl rfl)
theorem dX32_size_1 : decode cX32_size 1 = .ok (.getfield 13, 3) := dk_180 0 13 (dk_at dksX32_size_0 1 rfl rfl)
theorem dX32_size_4 : decode cX32_size 4 = .ok (.arraylength, 1) := dk_190 (dk_at dksX32_size_0 4 rfl rfl)
theorem dX32_size_5 : decode cX32_size 5 = .ok (.ireturn, 1) := dk_172 (dk_at dksX32_size_0 5 rfl rfl)
abbrev cX32_init : ByteArray := prog_3_method_1_code
def yX32_init : MethodName := ⟨RX32, "<init>", "(I[D)V"⟩
def dkwX32_init_0 : List UInt8 := [42, 183, 0, 1, 42, 27, 181, 0, 7, 42, 44, 181, 0, 13, 177]
abbrev dktX32_init_0 : List UInt8 := dkwX32_init_0 ++ []
theorem dksX32_init_0 : cX32_init.data.toList.drop 0 = dktX32_init_0 := by decide +kernel
theorem dX32_init_0 : decode cX32_init 0 = .ok (.aload_n 0, 1) := dk_42 (dk_at dksX32_init_0 0 rfl rfl)
theorem dX32_init_1 : decode cX32_init 1 = .ok (.invokespecial 1, 3) := dk_183 0 1 (dk_at dksX32_init_0 1 rfl rfl)
theorem dX32_init_4 : decode cX32_init 4 = .ok (.aload_n 0, 1) := dk_42 (dk_at dksX32_init_0 4 rfl rfl)
theorem dX32_init_5 : decode cX32_init 5 = .ok (.iload_n 1, 1) := dk_27 (dk_at dksX32_init_0 5 rfl rfl)
theorem dX32_init_6 : decode cX32_init 6 = .ok (.putfield 7, 3) := dk_181 0 7 (dk_at dksX32_init_0 6 rfl rfl)
theorem dX32_init_9 : decode cX32_init 9 = .ok (.aload_n 0, 1) := dk_42 (dk_at dksX32_init_0 9 rfl rfl)
theorem dX32_init_10 : decode cX32_init 10 = .ok (.aload_n 2, 1) := dk_44 (dk_at dksX32_init_0 10 rfl rfl)
theorem dX32_init_11 : decode cX32_init 11 = .ok (.putfield 13, 3) := dk_181 0 13 (dk_at dksX32_init_0 11 rfl rfl)
theorem dX32_init_14 : decode cX32_init 14 = .ok (.return_, 1) := dk_177 (dk_at dksX32_init_0 14 rfl rfl)
theorem q196 : (Jvm.Cond.initialized "WhatIfSheet$Axis") ∈ lw_all := lw_g (lw_at lw_m1 66 rfl) rfl
theorem q768 : (Jvm.Cond.selects "WhatIfSheet$Axis" ({ cls := "java/lang/Object", name := "equals", desc := "(Ljava/lang/Object;)Z" } : Jvm.MethodName) ({ cls := "java/lang/Object", name := "equals", desc := "(Ljava/lang/Object;)Z" } : Jvm.MethodName)) ∈ lw_all := lw_g (lw_at lw_m3 158 rfl) rfl
theorem q845 : (Jvm.Cond.selects "WhatIfSheet$Axis" ({ cls := "java/lang/Object", name := "getClass", desc := "()Ljava/lang/Class;" } : Jvm.MethodName) ({ cls := "java/lang/Object", name := "getClass", desc := "()Ljava/lang/Class;" } : Jvm.MethodName)) ∈ lw_all := lw_g (lw_at lw_m3 235 rfl) rfl
theorem q1173 : (Jvm.Cond.instanceMethod ({ cls := "WhatIfSheet$Axis", name := "size", desc := "()I" } : Jvm.MethodName)) ∈ lw_all := lw_g (lw_at lw_m5 83 rfl) rfl
theorem q1174 : (Jvm.Cond.selects "WhatIfSheet$Axis" ({ cls := "WhatIfSheet$Axis", name := "size", desc := "()I" } : Jvm.MethodName) ({ cls := "WhatIfSheet$Axis", name := "size", desc := "()I" } : Jvm.MethodName)) ∈ lw_all := lw_g (lw_at lw_m5 84 rfl) rfl
theorem q1175 : (Jvm.Cond.code ({ cls := "WhatIfSheet$Axis", name := "size", desc := "()I" } : Jvm.MethodName) prog_3_method_2_code (1 : Nat) (Option.some Jvm.ClassFile.FieldType.int)) ∈ lw_all := lw_g (lw_at lw_m5 85 rfl) rfl
theorem q2348 : (Jvm.Cond.instantiable "WhatIfSheet$Axis" (2 : Nat)) ∈ lw_all := lw_g (lw_at lw_m10 58 rfl) rfl
theorem q2350 : (Jvm.Cond.instanceMethod ({ cls := "WhatIfSheet$Axis", name := "<init>", desc := "(I[D)V" } : Jvm.MethodName)) ∈ lw_all := lw_g (lw_at lw_m10 60 rfl) rfl
theorem q2351 : (Jvm.Cond.code ({ cls := "WhatIfSheet$Axis", name := "<init>", desc := "(I[D)V" } : Jvm.MethodName) prog_3_method_1_code (3 : Nat) (Option.none : Option Jvm.ClassFile.FieldType)) ∈ lw_all := lw_g (lw_at lw_m10 61 rfl) rfl
theorem q2352 : (Jvm.Cond.methodLink "WhatIfSheet$Axis" (1 : Nat) ({ cls := "java/lang/Object", name := "<init>", desc := "()V" } : Jvm.MethodName)) ∈ lw_all := lw_g (lw_at lw_m10 62 rfl) rfl
theorem q2353 : (Jvm.Cond.fieldLink "WhatIfSheet$Axis" (7 : Nat) "WhatIfSheet$Axis" "input" "I") ∈ lw_all := lw_g (lw_at lw_m10 63 rfl) rfl
theorem q2356 : (Jvm.Cond.fieldLink "WhatIfSheet$Axis" (13 : Nat) "WhatIfSheet$Axis" "numbers" "[D") ∈ lw_all := lw_g (lw_at lw_m10 66 rfl) rfl
theorem q2358 : (Jvm.Cond.laysFinal "WhatIfSheet$Axis" "WhatIfSheet$Axis" "input" "I") ∈ lw_all := lw_g (lw_at lw_m10 68 rfl) rfl
theorem q2359 : (Jvm.Cond.soleField "WhatIfSheet$Axis" "input") ∈ lw_all := lw_g (lw_at lw_m10 69 rfl) rfl
theorem q2360 : (Jvm.Cond.laysFinal "WhatIfSheet$Axis" "WhatIfSheet$Axis" "numbers" "[D") ∈ lw_all := lw_g (lw_at lw_m10 70 rfl) rfl
theorem q2361 : (Jvm.Cond.soleField "WhatIfSheet$Axis" "numbers") ∈ lw_all := lw_g (lw_at lw_m10 71 rfl) rfl
theorem q2362 : (Jvm.Cond.superclass "WhatIfSheet$Axis" "java/lang/Object") ∈ lw_all := lw_g (lw_at lw_m10 72 rfl) rfl
theorem q3435 : (Jvm.Cond.castable "WhatIfSheet$Axis" "java/lang/Object") ∈ lw_tbl := lw_at lw_m14 185 rfl
theorem in_X32 : ∀ w ∈ wsX320, w ∈ lw_all := lw_in wsX320 [2358, 2360] (by decide +kernel) (by decide +kernel)
/-! WhatIfSheet$Bracket -/
set_option maxRecDepth 100000
def RX33 : String := "WhatIfSheet$Bracket"
def TX33 : u_T := fun k => match k with
  | 0 => ("WhatIfSheet$Bracket", "input", "LWhatIfSheet$Plain;", true)
  | 1 => ("WhatIfSheet$Bracket", "cell", "I", true)
  | 2 => ("WhatIfSheet$Bracket", "want", "D", true)
  | 3 => ("WhatIfSheet$Bracket", "low", "D", false)
  | 4 => ("WhatIfSheet$Bracket", "high", "D", false)
  | 5 => ("WhatIfSheet$Bracket", "atLow", "D", false)
  | 6 => ("WhatIfSheet$Bracket", "atHigh", "D", false)
  | 7 => ("WhatIfSheet$Bracket", "found", "D", false)
  | 8 => ("WhatIfSheet$Bracket", "there", "D", false)
  | 9 => ("WhatIfSheet$Bracket", "times", "I", false)
  | _ => ("WhatIfSheet$Bracket", "this$0", "LWhatIfSheet;", true)
def tyX33 : Nat → FieldType := fun k => match k with
  | 0 => .object "WhatIfSheet$Plain"
  | 1 => .int
  | 2 => .double
  | 3 => .double
  | 4 => .double
  | 5 => .double
  | 6 => .double
  | 7 => .double
  | 8 => .double
  | 9 => .int
  | _ => .object "WhatIfSheet"
abbrev wsX330 : List Cond := u_ws RX33 TX33 11
theorem nmX33 : ∀ a, a < 11 → ∀ b, b < 11 → a ≠ b → (TX33 a).2.1 ≠ (TX33 b).2.1 := by decide +kernel
theorem tyX33_ok : ∀ k, k < 11 → parseFieldDescriptor (TX33 k).2.2.1 = some (tyX33 k) := by decide +kernel
abbrev cX33_init : ByteArray := prog_4_method_1_code
def yX33_init : MethodName := ⟨RX33, "<init>", "(LWhatIfSheet;LWhatIfSheet$Plain;IDDD)V"⟩
def dkwX33_init_2 : List UInt8 := [181, 0, 38, 177]
abbrev dktX33_init_2 : List UInt8 := dkwX33_init_2 ++ []
def dkwX33_init_1 : List UInt8 := [44, 181, 0, 24, 42, 29, 181, 0, 28, 42, 24, 4, 181, 0, 32, 42, 24, 6, 181, 0, 35, 42, 24, 8]
abbrev dktX33_init_1 : List UInt8 := dkwX33_init_1 ++ dktX33_init_2
def dkwX33_init_0 : List UInt8 := [42, 43, 181, 0, 3, 42, 183, 0, 9, 42, 20, 0, 15, 181, 0, 17, 42, 20, 0, 15, 181, 0, 21, 42]
abbrev dktX33_init_0 : List UInt8 := dkwX33_init_0 ++ dktX33_init_1
theorem dksX33_init_0 : cX33_init.data.toList.drop 0 = dktX33_init_0 := by decide +kernel
theorem dksX33_init_1 : cX33_init.data.toList.drop 24 = dktX33_init_1 := dk_seg dksX33_init_0 24 rfl rfl
theorem dksX33_init_2 : cX33_init.data.toList.drop 48 = dktX33_init_2 := dk_seg dksX33_init_1 24 rfl rfl
theorem dX33_init_0 : decode cX33_init 0 = .ok (.aload_n 0, 1) := dk_42 (dk_at dksX33_init_0 0 rfl rfl)
theorem dX33_init_1 : decode cX33_init 1 = .ok (.aload_n 1, 1) := dk_43 (dk_at dksX33_init_0 1 rfl rfl)
theorem dX33_init_2 : decode cX33_init 2 = .ok (.putfield 3, 3) := dk_181 0 3 (dk_at dksX33_init_0 2 rfl rfl)
theorem dX33_init_5 : decode cX33_init 5 = .ok (.aload_n 0, 1) := dk_42 (dk_at dksX33_init_0 5 rfl rfl)
theorem dX33_init_6 : decode cX33_init 6 = .ok (.invokespecial 9, 3) := dk_183 0 9 (dk_at dksX33_init_0 6 rfl rfl)
theorem dX33_init_9 : decode cX33_init 9 = .ok (.aload_n 0, 1) := dk_42 (dk_at dksX33_init_0 9 rfl rfl)
theorem dX33_init_10 : decode cX33_init 10 = .ok (.ldc2_w 15, 3) := dk_20 0 15 (dk_at dksX33_init_0 10 rfl rfl)
theorem dX33_init_13 : decode cX33_init 13 = .ok (.putfield 17, 3) := dk_181 0 17 (dk_at dksX33_init_0 13 rfl rfl)
theorem dX33_init_16 : decode cX33_init 16 = .ok (.aload_n 0, 1) := dk_42 (dk_at dksX33_init_0 16 rfl rfl)
theorem dX33_init_17 : decode cX33_init 17 = .ok (.ldc2_w 15, 3) := dk_20 0 15 (dk_at dksX33_init_0 17 rfl rfl)
theorem dX33_init_20 : decode cX33_init 20 = .ok (.putfield 21, 3) := dk_181 0 21 (dk_at dksX33_init_0 20 rfl rfl)
theorem dX33_init_23 : decode cX33_init 23 = .ok (.aload_n 0, 1) := dk_42 (dk_at dksX33_init_0 23 rfl rfl)
theorem dX33_init_24 : decode cX33_init 24 = .ok (.aload_n 2, 1) := dk_44 (dk_at dksX33_init_1 0 rfl rfl)
theorem dX33_init_25 : decode cX33_init 25 = .ok (.putfield 24, 3) := dk_181 0 24 (dk_at dksX33_init_1 1 rfl rfl)
theorem dX33_init_28 : decode cX33_init 28 = .ok (.aload_n 0, 1) := dk_42 (dk_at dksX33_init_1 4 rfl rfl)
theorem dX33_init_29 : decode cX33_init 29 = .ok (.iload_n 3, 1) := dk_29 (dk_at dksX33_init_1 5 rfl rfl)
theorem dX33_init_30 : decode cX33_init 30 = .ok (.putfield 28, 3) := dk_181 0 28 (dk_at dksX33_init_1 6 rfl rfl)
theorem dX33_init_33 : decode cX33_init 33 = .ok (.aload_n 0, 1) := dk_42 (dk_at dksX33_init_1 9 rfl rfl)
theorem dX33_init_34 : decode cX33_init 34 = .ok (.dload 4, 2) := dk_24 4 (dk_at dksX33_init_1 10 rfl rfl)
theorem dX33_init_36 : decode cX33_init 36 = .ok (.putfield 32, 3) := dk_181 0 32 (dk_at dksX33_init_1 12 rfl rfl)
theorem dX33_init_39 : decode cX33_init 39 = .ok (.aload_n 0, 1) := dk_42 (dk_at dksX33_init_1 15 rfl rfl)
theorem dX33_init_40 : decode cX33_init 40 = .ok (.dload 6, 2) := dk_24 6 (dk_at dksX33_init_1 16 rfl rfl)
theorem dX33_init_42 : decode cX33_init 42 = .ok (.putfield 35, 3) := dk_181 0 35 (dk_at dksX33_init_1 18 rfl rfl)
theorem dX33_init_45 : decode cX33_init 45 = .ok (.aload_n 0, 1) := dk_42 (dk_at dksX33_init_1 21 rfl rfl)
theorem dX33_init_46 : decode cX33_init 46 = .ok (.dload 8, 2) := dk_24 8 (dk_at dksX33_init_1 22 rfl rfl)
theorem dX33_init_48 : decode cX33_init 48 = .ok (.putfield 38, 3) := dk_181 0 38 (dk_at dksX33_init_2 0 rfl rfl)
theorem dX33_init_51 : decode cX33_init 51 = .ok (.return_, 1) := dk_177 (dk_at dksX33_init_2 3 rfl rfl)
abbrev cX33_seeks : ByteArray := prog_4_method_6_code
def yX33_seeks : MethodName := ⟨RX33, "seeks", "()V"⟩
def dkwX33_seeks_7 : List UInt8 := [180, 0, 24, 39, 181, 0, 50, 167, 0, 14, 78, 42, 180, 0, 24, 39, 181, 0, 50, 45, 191, 177]
abbrev dktX33_seeks_7 : List UInt8 := dkwX33_seeks_7 ++ []
def dkwX33_seeks_6 : List UInt8 := [180, 0, 66, 42, 180, 0, 38, 152, 156, 0, 7, 4, 167, 0, 4, 3, 159, 0, 7, 42, 182, 0, 73, 42]
abbrev dktX33_seeks_6 : List UInt8 := dkwX33_seeks_6 ++ dktX33_seeks_7
def dkwX33_seeks_5 : List UInt8 := [182, 0, 69, 167, 0, 44, 42, 180, 0, 60, 42, 180, 0, 38, 152, 156, 0, 7, 4, 167, 0, 4, 3, 42]
abbrev dktX33_seeks_5 : List UInt8 := dkwX33_seeks_5 ++ dktX33_seeks_6
def dkwX33_seeks_4 : List UInt8 := [167, 0, 71, 42, 180, 0, 66, 42, 180, 0, 38, 151, 154, 0, 18, 42, 42, 180, 0, 35, 42, 180, 0, 66]
abbrev dktX33_seeks_4 : List UInt8 := dkwX33_seeks_4 ++ dktX33_seeks_5
def dkwX33_seeks_3 : List UInt8 := [180, 0, 60, 42, 180, 0, 38, 151, 154, 0, 18, 42, 42, 180, 0, 32, 42, 180, 0, 60, 182, 0, 69]
abbrev dktX33_seeks_3 : List UInt8 := dkwX33_seeks_3 ++ dktX33_seeks_4
def dkwX33_seeks_2 : List UInt8 := [181, 0, 66, 42, 180, 0, 3, 180, 0, 63, 153, 0, 12, 42, 180, 0, 24, 39, 181, 0, 50, 177, 42]
abbrev dktX33_seeks_2 : List UInt8 := dkwX33_seeks_2 ++ dktX33_seeks_3
def dkwX33_seeks_1 : List UInt8 := [180, 0, 63, 153, 0, 12, 42, 180, 0, 24, 39, 181, 0, 50, 177, 42, 42, 42, 180, 0, 35, 182, 0, 57]
abbrev dktX33_seeks_1 : List UInt8 := dkwX33_seeks_1 ++ dktX33_seeks_2
def dkwX33_seeks_0 : List UInt8 := [42, 180, 0, 24, 180, 0, 50, 72, 42, 42, 42, 180, 0, 32, 182, 0, 57, 181, 0, 60, 42, 180, 0, 3]
abbrev dktX33_seeks_0 : List UInt8 := dkwX33_seeks_0 ++ dktX33_seeks_1
theorem dksX33_seeks_0 : cX33_seeks.data.toList.drop 0 = dktX33_seeks_0 := by decide +kernel
theorem dksX33_seeks_1 : cX33_seeks.data.toList.drop 24 = dktX33_seeks_1 := dk_seg dksX33_seeks_0 24 rfl rfl
theorem dksX33_seeks_2 : cX33_seeks.data.toList.drop 48 = dktX33_seeks_2 := dk_seg dksX33_seeks_1 24 rfl rfl
theorem dksX33_seeks_3 : cX33_seeks.data.toList.drop 71 = dktX33_seeks_3 := dk_seg dksX33_seeks_2 23 rfl rfl
theorem dksX33_seeks_4 : cX33_seeks.data.toList.drop 94 = dktX33_seeks_4 := dk_seg dksX33_seeks_3 23 rfl rfl
theorem dksX33_seeks_5 : cX33_seeks.data.toList.drop 118 = dktX33_seeks_5 := dk_seg dksX33_seeks_4 24 rfl rfl
theorem dksX33_seeks_6 : cX33_seeks.data.toList.drop 142 = dktX33_seeks_6 := dk_seg dksX33_seeks_5 24 rfl rfl
theorem dksX33_seeks_7 : cX33_seeks.data.toList.drop 166 = dktX33_seeks_7 := dk_seg dksX33_seeks_6 24 rfl rfl
theorem dX33_seeks_0 : decode cX33_seeks 0 = .ok (.aload_n 0, 1) := dk_42 (dk_at dksX33_seeks_0 0 rfl rfl)
theorem dX33_seeks_1 : decode cX33_seeks 1 = .ok (.getfield 24, 3) := dk_180 0 24 (dk_at dksX33_seeks_0 1 rfl rfl)
theorem dX33_seeks_4 : decode cX33_seeks 4 = .ok (.getfield 50, 3) := dk_180 0 50 (dk_at dksX33_seeks_0 4 rfl rfl)
theorem dX33_seeks_7 : decode cX33_seeks 7 = .ok (.dstore_n 1, 1) := dk_72 (dk_at dksX33_seeks_0 7 rfl rfl)
theorem dX33_seeks_8 : decode cX33_seeks 8 = .ok (.aload_n 0, 1) := dk_42 (dk_at dksX33_seeks_0 8 rfl rfl)
theorem dX33_seeks_9 : decode cX33_seeks 9 = .ok (.aload_n 0, 1) := dk_42 (dk_at dksX33_seeks_0 9 rfl rfl)
theorem dX33_seeks_10 : decode cX33_seeks 10 = .ok (.aload_n 0, 1) := dk_42 (dk_at dksX33_seeks_0 10 rfl rfl)
theorem dX33_seeks_11 : decode cX33_seeks 11 = .ok (.getfield 32, 3) := dk_180 0 32 (dk_at dksX33_seeks_0 11 rfl rfl)
theorem dX33_seeks_14 : decode cX33_seeks 14 = .ok (.invokevirtual 57, 3) := dk_182 0 57 (dk_at dksX33_seeks_0 14 rfl rfl)
theorem dX33_seeks_17 : decode cX33_seeks 17 = .ok (.putfield 60, 3) := dk_181 0 60 (dk_at dksX33_seeks_0 17 rfl rfl)
theorem dX33_seeks_20 : decode cX33_seeks 20 = .ok (.aload_n 0, 1) := dk_42 (dk_at dksX33_seeks_0 20 rfl rfl)
theorem dX33_seeks_21 : decode cX33_seeks 21 = .ok (.getfield 3, 3) := dk_180 0 3 (dk_at dksX33_seeks_0 21 rfl rfl)
theorem dX33_seeks_24 : decode cX33_seeks 24 = .ok (.getfield 63, 3) := dk_180 0 63 (dk_at dksX33_seeks_1 0 rfl rfl)
theorem dX33_seeks_27 : decode cX33_seeks 27 = .ok (.ifCond .eq 12, 3) := dk_153 0 12 (dk_at dksX33_seeks_1 3 rfl rfl)
theorem dX33_seeks_30 : decode cX33_seeks 30 = .ok (.aload_n 0, 1) := dk_42 (dk_at dksX33_seeks_1 6 rfl rfl)
theorem dX33_seeks_31 : decode cX33_seeks 31 = .ok (.getfield 24, 3) := dk_180 0 24 (dk_at dksX33_seeks_1 7 rfl rfl)
theorem dX33_seeks_34 : decode cX33_seeks 34 = .ok (.dload_n 1, 1) := dk_39 (dk_at dksX33_seeks_1 10 rfl rfl)
theorem dX33_seeks_35 : decode cX33_seeks 35 = .ok (.putfield 50, 3) := dk_181 0 50 (dk_at dksX33_seeks_1 11 rfl rfl)
theorem dX33_seeks_38 : decode cX33_seeks 38 = .ok (.return_, 1) := dk_177 (dk_at dksX33_seeks_1 14 rfl rfl)
theorem dX33_seeks_39 : decode cX33_seeks 39 = .ok (.aload_n 0, 1) := dk_42 (dk_at dksX33_seeks_1 15 rfl rfl)
theorem dX33_seeks_40 : decode cX33_seeks 40 = .ok (.aload_n 0, 1) := dk_42 (dk_at dksX33_seeks_1 16 rfl rfl)
theorem dX33_seeks_41 : decode cX33_seeks 41 = .ok (.aload_n 0, 1) := dk_42 (dk_at dksX33_seeks_1 17 rfl rfl)
theorem dX33_seeks_42 : decode cX33_seeks 42 = .ok (.getfield 35, 3) := dk_180 0 35 (dk_at dksX33_seeks_1 18 rfl rfl)
theorem dX33_seeks_45 : decode cX33_seeks 45 = .ok (.invokevirtual 57, 3) := dk_182 0 57 (dk_at dksX33_seeks_1 21 rfl rfl)
theorem dX33_seeks_48 : decode cX33_seeks 48 = .ok (.putfield 66, 3) := dk_181 0 66 (dk_at dksX33_seeks_2 0 rfl rfl)
theorem dX33_seeks_51 : decode cX33_seeks 51 = .ok (.aload_n 0, 1) := dk_42 (dk_at dksX33_seeks_2 3 rfl rfl)
theorem dX33_seeks_52 : decode cX33_seeks 52 = .ok (.getfield 3, 3) := dk_180 0 3 (dk_at dksX33_seeks_2 4 rfl rfl)
theorem dX33_seeks_55 : decode cX33_seeks 55 = .ok (.getfield 63, 3) := dk_180 0 63 (dk_at dksX33_seeks_2 7 rfl rfl)
theorem dX33_seeks_58 : decode cX33_seeks 58 = .ok (.ifCond .eq 12, 3) := dk_153 0 12 (dk_at dksX33_seeks_2 10 rfl rfl)
theorem dX33_seeks_61 : decode cX33_seeks 61 = .ok (.aload_n 0, 1) := dk_42 (dk_at dksX33_seeks_2 13 rfl rfl)
theorem dX33_seeks_62 : decode cX33_seeks 62 = .ok (.getfield 24, 3) := dk_180 0 24 (dk_at dksX33_seeks_2 14 rfl rfl)
theorem dX33_seeks_65 : decode cX33_seeks 65 = .ok (.dload_n 1, 1) := dk_39 (dk_at dksX33_seeks_2 17 rfl rfl)
theorem dX33_seeks_66 : decode cX33_seeks 66 = .ok (.putfield 50, 3) := dk_181 0 50 (dk_at dksX33_seeks_2 18 rfl rfl)
theorem dX33_seeks_69 : decode cX33_seeks 69 = .ok (.return_, 1) := dk_177 (dk_at dksX33_seeks_2 21 rfl rfl)
theorem dX33_seeks_70 : decode cX33_seeks 70 = .ok (.aload_n 0, 1) := dk_42 (dk_at dksX33_seeks_2 22 rfl rfl)
theorem dX33_seeks_71 : decode cX33_seeks 71 = .ok (.getfield 60, 3) := dk_180 0 60 (dk_at dksX33_seeks_3 0 rfl rfl)
theorem dX33_seeks_74 : decode cX33_seeks 74 = .ok (.aload_n 0, 1) := dk_42 (dk_at dksX33_seeks_3 3 rfl rfl)
theorem dX33_seeks_75 : decode cX33_seeks 75 = .ok (.getfield 38, 3) := dk_180 0 38 (dk_at dksX33_seeks_3 4 rfl rfl)
theorem dX33_seeks_78 : decode cX33_seeks 78 = .ok (.dcmp .l, 1) := dk_151 (dk_at dksX33_seeks_3 7 rfl rfl)
theorem dX33_seeks_79 : decode cX33_seeks 79 = .ok (.ifCond .ne 18, 3) := dk_154 0 18 (dk_at dksX33_seeks_3 8 rfl rfl)
theorem dX33_seeks_82 : decode cX33_seeks 82 = .ok (.aload_n 0, 1) := dk_42 (dk_at dksX33_seeks_3 11 rfl rfl)
theorem dX33_seeks_83 : decode cX33_seeks 83 = .ok (.aload_n 0, 1) := dk_42 (dk_at dksX33_seeks_3 12 rfl rfl)
theorem dX33_seeks_84 : decode cX33_seeks 84 = .ok (.getfield 32, 3) := dk_180 0 32 (dk_at dksX33_seeks_3 13 rfl rfl)
theorem dX33_seeks_87 : decode cX33_seeks 87 = .ok (.aload_n 0, 1) := dk_42 (dk_at dksX33_seeks_3 16 rfl rfl)
theorem dX33_seeks_88 : decode cX33_seeks 88 = .ok (.getfield 60, 3) := dk_180 0 60 (dk_at dksX33_seeks_3 17 rfl rfl)
theorem dX33_seeks_91 : decode cX33_seeks 91 = .ok (.invokevirtual 69, 3) := dk_182 0 69 (dk_at dksX33_seeks_3 20 rfl rfl)
theorem dX33_seeks_94 : decode cX33_seeks 94 = .ok (.goto 71, 3) := dk_167 0 71 (dk_at dksX33_seeks_4 0 rfl rfl)
theorem dX33_seeks_97 : decode cX33_seeks 97 = .ok (.aload_n 0, 1) := dk_42 (dk_at dksX33_seeks_4 3 rfl rfl)
theorem dX33_seeks_98 : decode cX33_seeks 98 = .ok (.getfield 66, 3) := dk_180 0 66 (dk_at dksX33_seeks_4 4 rfl rfl)
theorem dX33_seeks_101 : decode cX33_seeks 101 = .ok (.aload_n 0, 1) := dk_42 (dk_at dksX33_seeks_4 7 rfl rfl)
theorem dX33_seeks_102 : decode cX33_seeks 102 = .ok (.getfield 38, 3) := dk_180 0 38 (dk_at dksX33_seeks_4 8 rfl rfl)
theorem dX33_seeks_105 : decode cX33_seeks 105 = .ok (.dcmp .l, 1) := dk_151 (dk_at dksX33_seeks_4 11 rfl rfl)
theorem dX33_seeks_106 : decode cX33_seeks 106 = .ok (.ifCond .ne 18, 3) := dk_154 0 18 (dk_at dksX33_seeks_4 12 rfl rfl)
theorem dX33_seeks_109 : decode cX33_seeks 109 = .ok (.aload_n 0, 1) := dk_42 (dk_at dksX33_seeks_4 15 rfl rfl)
theorem dX33_seeks_110 : decode cX33_seeks 110 = .ok (.aload_n 0, 1) := dk_42 (dk_at dksX33_seeks_4 16 rfl rfl)
theorem dX33_seeks_111 : decode cX33_seeks 111 = .ok (.getfield 35, 3) := dk_180 0 35 (dk_at dksX33_seeks_4 17 rfl rfl)
theorem dX33_seeks_114 : decode cX33_seeks 114 = .ok (.aload_n 0, 1) := dk_42 (dk_at dksX33_seeks_4 20 rfl rfl)
theorem dX33_seeks_115 : decode cX33_seeks 115 = .ok (.getfield 66, 3) := dk_180 0 66 (dk_at dksX33_seeks_4 21 rfl rfl)
theorem dX33_seeks_118 : decode cX33_seeks 118 = .ok (.invokevirtual 69, 3) := dk_182 0 69 (dk_at dksX33_seeks_5 0 rfl rfl)
theorem dX33_seeks_121 : decode cX33_seeks 121 = .ok (.goto 44, 3) := dk_167 0 44 (dk_at dksX33_seeks_5 3 rfl rfl)
theorem dX33_seeks_124 : decode cX33_seeks 124 = .ok (.aload_n 0, 1) := dk_42 (dk_at dksX33_seeks_5 6 rfl rfl)
theorem dX33_seeks_125 : decode cX33_seeks 125 = .ok (.getfield 60, 3) := dk_180 0 60 (dk_at dksX33_seeks_5 7 rfl rfl)
theorem dX33_seeks_128 : decode cX33_seeks 128 = .ok (.aload_n 0, 1) := dk_42 (dk_at dksX33_seeks_5 10 rfl rfl)
theorem dX33_seeks_129 : decode cX33_seeks 129 = .ok (.getfield 38, 3) := dk_180 0 38 (dk_at dksX33_seeks_5 11 rfl rfl)
theorem dX33_seeks_132 : decode cX33_seeks 132 = .ok (.dcmp .g, 1) := dk_152 (dk_at dksX33_seeks_5 14 rfl rfl)
theorem dX33_seeks_133 : decode cX33_seeks 133 = .ok (.ifCond .ge 7, 3) := dk_156 0 7 (dk_at dksX33_seeks_5 15 rfl rfl)
theorem dX33_seeks_136 : decode cX33_seeks 136 = .ok (.iconst 1, 1) := dk_4 (dk_at dksX33_seeks_5 18 rfl rfl)
theorem dX33_seeks_137 : decode cX33_seeks 137 = .ok (.goto 4, 3) := dk_167 0 4 (dk_at dksX33_seeks_5 19 rfl rfl)
theorem dX33_seeks_140 : decode cX33_seeks 140 = .ok (.iconst 0, 1) := dk_3 (dk_at dksX33_seeks_5 22 rfl rfl)
theorem dX33_seeks_141 : decode cX33_seeks 141 = .ok (.aload_n 0, 1) := dk_42 (dk_at dksX33_seeks_5 23 rfl rfl)
theorem dX33_seeks_142 : decode cX33_seeks 142 = .ok (.getfield 66, 3) := dk_180 0 66 (dk_at dksX33_seeks_6 0 rfl rfl)
theorem dX33_seeks_145 : decode cX33_seeks 145 = .ok (.aload_n 0, 1) := dk_42 (dk_at dksX33_seeks_6 3 rfl rfl)
theorem dX33_seeks_146 : decode cX33_seeks 146 = .ok (.getfield 38, 3) := dk_180 0 38 (dk_at dksX33_seeks_6 4 rfl rfl)
theorem dX33_seeks_149 : decode cX33_seeks 149 = .ok (.dcmp .g, 1) := dk_152 (dk_at dksX33_seeks_6 7 rfl rfl)
theorem dX33_seeks_150 : decode cX33_seeks 150 = .ok (.ifCond .ge 7, 3) := dk_156 0 7 (dk_at dksX33_seeks_6 8 rfl rfl)
theorem dX33_seeks_153 : decode cX33_seeks 153 = .ok (.iconst 1, 1) := dk_4 (dk_at dksX33_seeks_6 11 rfl rfl)
theorem dX33_seeks_154 : decode cX33_seeks 154 = .ok (.goto 4, 3) := dk_167 0 4 (dk_at dksX33_seeks_6 12 rfl rfl)
theorem dX33_seeks_157 : decode cX33_seeks 157 = .ok (.iconst 0, 1) := dk_3 (dk_at dksX33_seeks_6 15 rfl rfl)
theorem dX33_seeks_158 : decode cX33_seeks 158 = .ok (.if_icmp .eq 7, 3) := dk_159 0 7 (dk_at dksX33_seeks_6 16 rfl rfl)
theorem dX33_seeks_161 : decode cX33_seeks 161 = .ok (.aload_n 0, 1) := dk_42 (dk_at dksX33_seeks_6 19 rfl rfl)
theorem dX33_seeks_162 : decode cX33_seeks 162 = .ok (.invokevirtual 73, 3) := dk_182 0 73 (dk_at dksX33_seeks_6 20 rfl rfl)
theorem dX33_seeks_165 : decode cX33_seeks 165 = .ok (.aload_n 0, 1) := dk_42 (dk_at dksX33_seeks_6 23 rfl rfl)
theorem dX33_seeks_166 : decode cX33_seeks 166 = .ok (.getfield 24, 3) := dk_180 0 24 (dk_at dksX33_seeks_7 0 rfl rfl)
theorem dX33_seeks_169 : decode cX33_seeks 169 = .ok (.dload_n 1, 1) := dk_39 (dk_at dksX33_seeks_7 3 rfl rfl)
theorem dX33_seeks_170 : decode cX33_seeks 170 = .ok (.putfield 50, 3) := dk_181 0 50 (dk_at dksX33_seeks_7 4 rfl rfl)
theorem dX33_seeks_173 : decode cX33_seeks 173 = .ok (.goto 14, 3) := dk_167 0 14 (dk_at dksX33_seeks_7 7 rfl rfl)
theorem dX33_seeks_176 : decode cX33_seeks 176 = .ok (.astore_n 3, 1) := dk_78 (dk_at dksX33_seeks_7 10 rfl rfl)
theorem dX33_seeks_177 : decode cX33_seeks 177 = .ok (.aload_n 0, 1) := dk_42 (dk_at dksX33_seeks_7 11 rfl rfl)
theorem dX33_seeks_178 : decode cX33_seeks 178 = .ok (.getfield 24, 3) := dk_180 0 24 (dk_at dksX33_seeks_7 12 rfl rfl)
theorem dX33_seeks_181 : decode cX33_seeks 181 = .ok (.dload_n 1, 1) := dk_39 (dk_at dksX33_seeks_7 15 rfl rfl)
theorem dX33_seeks_182 : decode cX33_seeks 182 = .ok (.putfield 50, 3) := dk_181 0 50 (dk_at dksX33_seeks_7 16 rfl rfl)
theorem dX33_seeks_185 : decode cX33_seeks 185 = .ok (.aload_n 3, 1) := dk_45 (dk_at dksX33_seeks_7 19 rfl rfl)
theorem dX33_seeks_186 : decode cX33_seeks 186 = .ok (.athrow, 1) := dk_191 (dk_at dksX33_seeks_7 20 rfl rfl)
theorem dX33_seeks_187 : decode cX33_seeks 187 = .ok (.return_, 1) := dk_177 (dk_at dksX33_seeks_7 21 rfl rfl)
abbrev cX33_of : ByteArray := prog_4_method_2_code
def yX33_of : MethodName := ⟨RX33, "of", "(D)D"⟩
def dkwX33_of_1 : List UInt8 := [181, 0, 50, 42, 180, 0, 3, 42, 180, 0, 28, 182, 0, 53, 175]
abbrev dktX33_of_1 : List UInt8 := dkwX33_of_1 ++ []
def dkwX33_of_0 : List UInt8 := [42, 89, 180, 0, 41, 4, 96, 181, 0, 41, 42, 180, 0, 24, 42, 180, 0, 24, 39, 182, 0, 44]
abbrev dktX33_of_0 : List UInt8 := dkwX33_of_0 ++ dktX33_of_1
theorem dksX33_of_0 : cX33_of.data.toList.drop 0 = dktX33_of_0 := by decide +kernel
theorem dksX33_of_1 : cX33_of.data.toList.drop 22 = dktX33_of_1 := dk_seg dksX33_of_0 22 rfl rfl
theorem dX33_of_0 : decode cX33_of 0 = .ok (.aload_n 0, 1) := dk_42 (dk_at dksX33_of_0 0 rfl rfl)
theorem dX33_of_1 : decode cX33_of 1 = .ok (.dup, 1) := dk_89 (dk_at dksX33_of_0 1 rfl rfl)
theorem dX33_of_2 : decode cX33_of 2 = .ok (.getfield 41, 3) := dk_180 0 41 (dk_at dksX33_of_0 2 rfl rfl)
theorem dX33_of_5 : decode cX33_of 5 = .ok (.iconst 1, 1) := dk_4 (dk_at dksX33_of_0 5 rfl rfl)
theorem dX33_of_6 : decode cX33_of 6 = .ok (.iadd, 1) := dk_96 (dk_at dksX33_of_0 6 rfl rfl)
theorem dX33_of_7 : decode cX33_of 7 = .ok (.putfield 41, 3) := dk_181 0 41 (dk_at dksX33_of_0 7 rfl rfl)
theorem dX33_of_10 : decode cX33_of 10 = .ok (.aload_n 0, 1) := dk_42 (dk_at dksX33_of_0 10 rfl rfl)
theorem dX33_of_11 : decode cX33_of 11 = .ok (.getfield 24, 3) := dk_180 0 24 (dk_at dksX33_of_0 11 rfl rfl)
theorem dX33_of_14 : decode cX33_of 14 = .ok (.aload_n 0, 1) := dk_42 (dk_at dksX33_of_0 14 rfl rfl)
theorem dX33_of_15 : decode cX33_of 15 = .ok (.getfield 24, 3) := dk_180 0 24 (dk_at dksX33_of_0 15 rfl rfl)
theorem dX33_of_18 : decode cX33_of 18 = .ok (.dload_n 1, 1) := dk_39 (dk_at dksX33_of_0 18 rfl rfl)
theorem dX33_of_19 : decode cX33_of 19 = .ok (.invokevirtual 44, 3) := dk_182 0 44 (dk_at dksX33_of_0 19 rfl rfl)
theorem dX33_of_22 : decode cX33_of 22 = .ok (.putfield 50, 3) := dk_181 0 50 (dk_at dksX33_of_1 0 rfl rfl)
theorem dX33_of_25 : decode cX33_of 25 = .ok (.aload_n 0, 1) := dk_42 (dk_at dksX33_of_1 3 rfl rfl)
theorem dX33_of_26 : decode cX33_of 26 = .ok (.getfield 3, 3) := dk_180 0 3 (dk_at dksX33_of_1 4 rfl rfl)
theorem dX33_of_29 : decode cX33_of 29 = .ok (.aload_n 0, 1) := dk_42 (dk_at dksX33_of_1 7 rfl rfl)
theorem dX33_of_30 : decode cX33_of 30 = .ok (.getfield 28, 3) := dk_180 0 28 (dk_at dksX33_of_1 8 rfl rfl)
theorem dX33_of_33 : decode cX33_of 33 = .ok (.invokevirtual 53, 3) := dk_182 0 53 (dk_at dksX33_of_1 11 rfl rfl)
theorem dX33_of_36 : decode cX33_of 36 = .ok (.dreturn, 1) := dk_175 (dk_at dksX33_of_1 14 rfl rfl)
abbrev cX33_finds : ByteArray := prog_4_method_3_code
def yX33_finds : MethodName := ⟨RX33, "finds", "(DD)V"⟩
def dkwX33_finds_0 : List UInt8 := [42, 39, 181, 0, 17, 42, 41, 181, 0, 21, 177]
abbrev dktX33_finds_0 : List UInt8 := dkwX33_finds_0 ++ []
theorem dksX33_finds_0 : cX33_finds.data.toList.drop 0 = dktX33_finds_0 := by decide +kernel
theorem dX33_finds_0 : decode cX33_finds 0 = .ok (.aload_n 0, 1) := dk_42 (dk_at dksX33_finds_0 0 rfl rfl)
theorem dX33_finds_1 : decode cX33_finds 1 = .ok (.dload_n 1, 1) := dk_39 (dk_at dksX33_finds_0 1 rfl rfl)
theorem dX33_finds_2 : decode cX33_finds 2 = .ok (.putfield 17, 3) := dk_181 0 17 (dk_at dksX33_finds_0 2 rfl rfl)
theorem dX33_finds_5 : decode cX33_finds 5 = .ok (.aload_n 0, 1) := dk_42 (dk_at dksX33_finds_0 5 rfl rfl)
theorem dX33_finds_6 : decode cX33_finds 6 = .ok (.dload_n 3, 1) := dk_41 (dk_at dksX33_finds_0 6 rfl rfl)
theorem dX33_finds_7 : decode cX33_finds 7 = .ok (.putfield 21, 3) := dk_181 0 21 (dk_at dksX33_finds_0 7 rfl rfl)
theorem dX33_finds_10 : decode cX33_finds 10 = .ok (.return_, 1) := dk_177 (dk_at dksX33_finds_0 10 rfl rfl)
abbrev cX33_closesIn : ByteArray := prog_4_method_7_code
def yX33_closesIn : MethodName := ⟨RX33, "closesIn", "()V"⟩
def dkwX33_closesIn_12 : List UInt8 := [180, 0, 32, 42, 180, 0, 60, 182, 0, 69, 177]
abbrev dktX33_closesIn_12 : List UInt8 := dkwX33_closesIn_12 ++ []
def dkwX33_closesIn_11 : List UInt8 := [182, 0, 82, 152, 156, 0, 18, 42, 42, 180, 0, 35, 42, 180, 0, 66, 182, 0, 69, 167, 0, 15, 42, 42]
abbrev dktX33_closesIn_11 : List UInt8 := dkwX33_closesIn_11 ++ dktX33_closesIn_12
def dkwX33_closesIn_10 : List UInt8 := [167, 0, 4, 3, 60, 132, 2, 1, 167, 255, 17, 42, 42, 180, 0, 66, 182, 0, 82, 42, 42, 180, 0, 60]
abbrev dktX33_closesIn_10 : List UInt8 := dkwX33_closesIn_10 ++ dktX33_closesIn_11
def dkwX33_closesIn_9 : List UInt8 := [181, 0, 66, 42, 180, 0, 35, 42, 180, 0, 32, 103, 24, 7, 20, 0, 76, 111, 152, 157, 0, 7, 4]
abbrev dktX33_closesIn_9 : List UInt8 := dkwX33_closesIn_9 ++ dktX33_closesIn_10
def dkwX33_closesIn_8 : List UInt8 := [42, 41, 181, 0, 32, 42, 24, 5, 181, 0, 60, 167, 0, 14, 42, 41, 181, 0, 35, 42, 24, 5]
abbrev dktX33_closesIn_8 : List UInt8 := dkwX33_closesIn_8 ++ dktX33_closesIn_9
def dkwX33_closesIn_7 : List UInt8 := [167, 0, 4, 3, 42, 180, 0, 60, 42, 180, 0, 38, 152, 156, 0, 7, 4, 167, 0, 4, 3, 160, 0, 17]
abbrev dktX33_closesIn_7 : List UInt8 := dkwX33_closesIn_7 ++ dktX33_closesIn_8
def dkwX33_closesIn_6 : List UInt8 := [177, 42, 180, 0, 35, 42, 180, 0, 32, 103, 57, 7, 24, 5, 42, 180, 0, 38, 152, 156, 0, 7, 4]
abbrev dktX33_closesIn_6 : List UInt8 := dkwX33_closesIn_6 ++ dktX33_closesIn_7
def dkwX33_closesIn_5 : List UInt8 := [180, 0, 63, 153, 0, 4, 177, 24, 5, 42, 180, 0, 38, 151, 154, 0, 11, 42, 41, 24, 5, 182, 0, 69]
abbrev dktX33_closesIn_5 : List UInt8 := dkwX33_closesIn_5 ++ dktX33_closesIn_6
def dkwX33_closesIn_4 : List UInt8 := [99, 74, 42, 41, 182, 0, 78, 154, 0, 6, 167, 0, 141, 42, 41, 182, 0, 57, 57, 5, 42, 180, 0, 3]
abbrev dktX33_closesIn_4 : List UInt8 := dkwX33_closesIn_4 ++ dktX33_closesIn_5
def dkwX33_closesIn_3 : List UInt8 := [41, 182, 0, 78, 154, 0, 22, 42, 180, 0, 32, 42, 180, 0, 35, 42, 180, 0, 32, 103, 20, 0, 76, 111]
abbrev dktX33_closesIn_3 : List UInt8 := dkwX33_closesIn_3 ++ dktX33_closesIn_4
def dkwX33_closesIn_2 : List UInt8 := [99, 167, 0, 21, 42, 180, 0, 32, 42, 180, 0, 35, 42, 180, 0, 32, 103, 20, 0, 76, 111, 99, 74, 42]
abbrev dktX33_closesIn_2 : List UInt8 := dkwX33_closesIn_2 ++ dktX33_closesIn_3
def dkwX33_closesIn_1 : List UInt8 := [180, 0, 60, 103, 42, 180, 0, 35, 42, 180, 0, 32, 103, 107, 42, 180, 0, 66, 42, 180, 0, 60, 103, 111]
abbrev dktX33_closesIn_1 : List UInt8 := dkwX33_closesIn_1 ++ dktX33_closesIn_2
def dkwX33_closesIn_0 : List UInt8 := [3, 60, 3, 61, 28, 16, 40, 162, 0, 239, 27, 153, 0, 40, 42, 180, 0, 32, 42, 180, 0, 38, 42]
abbrev dktX33_closesIn_0 : List UInt8 := dkwX33_closesIn_0 ++ dktX33_closesIn_1
theorem dksX33_closesIn_0 : cX33_closesIn.data.toList.drop 0 = dktX33_closesIn_0 := by decide +kernel
theorem dksX33_closesIn_1 : cX33_closesIn.data.toList.drop 23 = dktX33_closesIn_1 := dk_seg dksX33_closesIn_0 23 rfl rfl
theorem dksX33_closesIn_2 : cX33_closesIn.data.toList.drop 47 = dktX33_closesIn_2 := dk_seg dksX33_closesIn_1 24 rfl rfl
theorem dksX33_closesIn_3 : cX33_closesIn.data.toList.drop 71 = dktX33_closesIn_3 := dk_seg dksX33_closesIn_2 24 rfl rfl
theorem dksX33_closesIn_4 : cX33_closesIn.data.toList.drop 95 = dktX33_closesIn_4 := dk_seg dksX33_closesIn_3 24 rfl rfl
theorem dksX33_closesIn_5 : cX33_closesIn.data.toList.drop 119 = dktX33_closesIn_5 := dk_seg dksX33_closesIn_4 24 rfl rfl
theorem dksX33_closesIn_6 : cX33_closesIn.data.toList.drop 143 = dktX33_closesIn_6 := dk_seg dksX33_closesIn_5 24 rfl rfl
theorem dksX33_closesIn_7 : cX33_closesIn.data.toList.drop 166 = dktX33_closesIn_7 := dk_seg dksX33_closesIn_6 23 rfl rfl
theorem dksX33_closesIn_8 : cX33_closesIn.data.toList.drop 190 = dktX33_closesIn_8 := dk_seg dksX33_closesIn_7 24 rfl rfl
theorem dksX33_closesIn_9 : cX33_closesIn.data.toList.drop 212 = dktX33_closesIn_9 := dk_seg dksX33_closesIn_8 22 rfl rfl
theorem dksX33_closesIn_10 : cX33_closesIn.data.toList.drop 235 = dktX33_closesIn_10 := dk_seg dksX33_closesIn_9 23 rfl rfl
theorem dksX33_closesIn_11 : cX33_closesIn.data.toList.drop 259 = dktX33_closesIn_11 := dk_seg dksX33_closesIn_10 24 rfl rfl
theorem dksX33_closesIn_12 : cX33_closesIn.data.toList.drop 283 = dktX33_closesIn_12 := dk_seg dksX33_closesIn_11 24 rfl rfl
theorem dX33_closesIn_0 : decode cX33_closesIn 0 = .ok (.iconst 0, 1) := dk_3 (dk_at dksX33_closesIn_0 0 rfl rfl)
theorem dX33_closesIn_1 : decode cX33_closesIn 1 = .ok (.istore_n 1, 1) := dk_60 (dk_at dksX33_closesIn_0 1 rfl rfl)
theorem dX33_closesIn_2 : decode cX33_closesIn 2 = .ok (.iconst 0, 1) := dk_3 (dk_at dksX33_closesIn_0 2 rfl rfl)
theorem dX33_closesIn_3 : decode cX33_closesIn 3 = .ok (.istore_n 2, 1) := dk_61 (dk_at dksX33_closesIn_0 3 rfl rfl)
theorem dX33_closesIn_4 : decode cX33_closesIn 4 = .ok (.iload_n 2, 1) := dk_28 (dk_at dksX33_closesIn_0 4 rfl rfl)
theorem dX33_closesIn_5 : decode cX33_closesIn 5 = .ok (.bipush 40, 2) := dk_16 40 (dk_at dksX33_closesIn_0 5 rfl rfl)
theorem dX33_closesIn_7 : decode cX33_closesIn 7 = .ok (.if_icmp .ge 239, 3) := dk_162 0 239 (dk_at dksX33_closesIn_0 7 rfl rfl)
theorem dX33_closesIn_10 : decode cX33_closesIn 10 = .ok (.iload_n 1, 1) := dk_27 (dk_at dksX33_closesIn_0 10 rfl rfl)
theorem dX33_closesIn_11 : decode cX33_closesIn 11 = .ok (.ifCond .eq 40, 3) := dk_153 0 40 (dk_at dksX33_closesIn_0 11 rfl rfl)
theorem dX33_closesIn_14 : decode cX33_closesIn 14 = .ok (.aload_n 0, 1) := dk_42 (dk_at dksX33_closesIn_0 14 rfl rfl)
theorem dX33_closesIn_15 : decode cX33_closesIn 15 = .ok (.getfield 32, 3) := dk_180 0 32 (dk_at dksX33_closesIn_0 15 rfl rfl)
theorem dX33_closesIn_18 : decode cX33_closesIn 18 = .ok (.aload_n 0, 1) := dk_42 (dk_at dksX33_closesIn_0 18 rfl rfl)
theorem dX33_closesIn_19 : decode cX33_closesIn 19 = .ok (.getfield 38, 3) := dk_180 0 38 (dk_at dksX33_closesIn_0 19 rfl rfl)
theorem dX33_closesIn_22 : decode cX33_closesIn 22 = .ok (.aload_n 0, 1) := dk_42 (dk_at dksX33_closesIn_0 22 rfl rfl)
theorem dX33_closesIn_23 : decode cX33_closesIn 23 = .ok (.getfield 60, 3) := dk_180 0 60 (dk_at dksX33_closesIn_1 0 rfl rfl)
theorem dX33_closesIn_26 : decode cX33_closesIn 26 = .ok (.dsub, 1) := dk_103 (dk_at dksX33_closesIn_1 3 rfl rfl)
theorem dX33_closesIn_27 : decode cX33_closesIn 27 = .ok (.aload_n 0, 1) := dk_42 (dk_at dksX33_closesIn_1 4 rfl rfl)
theorem dX33_closesIn_28 : decode cX33_closesIn 28 = .ok (.getfield 35, 3) := dk_180 0 35 (dk_at dksX33_closesIn_1 5 rfl rfl)
theorem dX33_closesIn_31 : decode cX33_closesIn 31 = .ok (.aload_n 0, 1) := dk_42 (dk_at dksX33_closesIn_1 8 rfl rfl)
theorem dX33_closesIn_32 : decode cX33_closesIn 32 = .ok (.getfield 32, 3) := dk_180 0 32 (dk_at dksX33_closesIn_1 9 rfl rfl)
theorem dX33_closesIn_35 : decode cX33_closesIn 35 = .ok (.dsub, 1) := dk_103 (dk_at dksX33_closesIn_1 12 rfl rfl)
theorem dX33_closesIn_36 : decode cX33_closesIn 36 = .ok (.dmul, 1) := dk_107 (dk_at dksX33_closesIn_1 13 rfl rfl)
theorem dX33_closesIn_37 : decode cX33_closesIn 37 = .ok (.aload_n 0, 1) := dk_42 (dk_at dksX33_closesIn_1 14 rfl rfl)
theorem dX33_closesIn_38 : decode cX33_closesIn 38 = .ok (.getfield 66, 3) := dk_180 0 66 (dk_at dksX33_closesIn_1 15 rfl rfl)
theorem dX33_closesIn_41 : decode cX33_closesIn 41 = .ok (.aload_n 0, 1) := dk_42 (dk_at dksX33_closesIn_1 18 rfl rfl)
theorem dX33_closesIn_42 : decode cX33_closesIn 42 = .ok (.getfield 60, 3) := dk_180 0 60 (dk_at dksX33_closesIn_1 19 rfl rfl)
theorem dX33_closesIn_45 : decode cX33_closesIn 45 = .ok (.dsub, 1) := dk_103 (dk_at dksX33_closesIn_1 22 rfl rfl)
theorem dX33_closesIn_46 : decode cX33_closesIn 46 = .ok (.ddiv, 1) := dk_111 (dk_at dksX33_closesIn_1 23 rfl rfl)
theorem dX33_closesIn_47 : decode cX33_closesIn 47 = .ok (.dadd, 1) := dk_99 (dk_at dksX33_closesIn_2 0 rfl rfl)
theorem dX33_closesIn_48 : decode cX33_closesIn 48 = .ok (.goto 21, 3) := dk_167 0 21 (dk_at dksX33_closesIn_2 1 rfl rfl)
theorem dX33_closesIn_51 : decode cX33_closesIn 51 = .ok (.aload_n 0, 1) := dk_42 (dk_at dksX33_closesIn_2 4 rfl rfl)
theorem dX33_closesIn_52 : decode cX33_closesIn 52 = .ok (.getfield 32, 3) := dk_180 0 32 (dk_at dksX33_closesIn_2 5 rfl rfl)
theorem dX33_closesIn_55 : decode cX33_closesIn 55 = .ok (.aload_n 0, 1) := dk_42 (dk_at dksX33_closesIn_2 8 rfl rfl)
theorem dX33_closesIn_56 : decode cX33_closesIn 56 = .ok (.getfield 35, 3) := dk_180 0 35 (dk_at dksX33_closesIn_2 9 rfl rfl)
theorem dX33_closesIn_59 : decode cX33_closesIn 59 = .ok (.aload_n 0, 1) := dk_42 (dk_at dksX33_closesIn_2 12 rfl rfl)
theorem dX33_closesIn_60 : decode cX33_closesIn 60 = .ok (.getfield 32, 3) := dk_180 0 32 (dk_at dksX33_closesIn_2 13 rfl rfl)
theorem dX33_closesIn_63 : decode cX33_closesIn 63 = .ok (.dsub, 1) := dk_103 (dk_at dksX33_closesIn_2 16 rfl rfl)
theorem dX33_closesIn_64 : decode cX33_closesIn 64 = .ok (.ldc2_w 76, 3) := dk_20 0 76 (dk_at dksX33_closesIn_2 17 rfl rfl)
theorem dX33_closesIn_67 : decode cX33_closesIn 67 = .ok (.ddiv, 1) := dk_111 (dk_at dksX33_closesIn_2 20 rfl rfl)
theorem dX33_closesIn_68 : decode cX33_closesIn 68 = .ok (.dadd, 1) := dk_99 (dk_at dksX33_closesIn_2 21 rfl rfl)
theorem dX33_closesIn_69 : decode cX33_closesIn 69 = .ok (.dstore_n 3, 1) := dk_74 (dk_at dksX33_closesIn_2 22 rfl rfl)
theorem dX33_closesIn_70 : decode cX33_closesIn 70 = .ok (.aload_n 0, 1) := dk_42 (dk_at dksX33_closesIn_2 23 rfl rfl)
theorem dX33_closesIn_71 : decode cX33_closesIn 71 = .ok (.dload_n 3, 1) := dk_41 (dk_at dksX33_closesIn_3 0 rfl rfl)
theorem dX33_closesIn_72 : decode cX33_closesIn 72 = .ok (.invokevirtual 78, 3) := dk_182 0 78 (dk_at dksX33_closesIn_3 1 rfl rfl)
theorem dX33_closesIn_75 : decode cX33_closesIn 75 = .ok (.ifCond .ne 22, 3) := dk_154 0 22 (dk_at dksX33_closesIn_3 4 rfl rfl)
theorem dX33_closesIn_78 : decode cX33_closesIn 78 = .ok (.aload_n 0, 1) := dk_42 (dk_at dksX33_closesIn_3 7 rfl rfl)
theorem dX33_closesIn_79 : decode cX33_closesIn 79 = .ok (.getfield 32, 3) := dk_180 0 32 (dk_at dksX33_closesIn_3 8 rfl rfl)
theorem dX33_closesIn_82 : decode cX33_closesIn 82 = .ok (.aload_n 0, 1) := dk_42 (dk_at dksX33_closesIn_3 11 rfl rfl)
theorem dX33_closesIn_83 : decode cX33_closesIn 83 = .ok (.getfield 35, 3) := dk_180 0 35 (dk_at dksX33_closesIn_3 12 rfl rfl)
theorem dX33_closesIn_86 : decode cX33_closesIn 86 = .ok (.aload_n 0, 1) := dk_42 (dk_at dksX33_closesIn_3 15 rfl rfl)
theorem dX33_closesIn_87 : decode cX33_closesIn 87 = .ok (.getfield 32, 3) := dk_180 0 32 (dk_at dksX33_closesIn_3 16 rfl rfl)
theorem dX33_closesIn_90 : decode cX33_closesIn 90 = .ok (.dsub, 1) := dk_103 (dk_at dksX33_closesIn_3 19 rfl rfl)
theorem dX33_closesIn_91 : decode cX33_closesIn 91 = .ok (.ldc2_w 76, 3) := dk_20 0 76 (dk_at dksX33_closesIn_3 20 rfl rfl)
theorem dX33_closesIn_94 : decode cX33_closesIn 94 = .ok (.ddiv, 1) := dk_111 (dk_at dksX33_closesIn_3 23 rfl rfl)
theorem dX33_closesIn_95 : decode cX33_closesIn 95 = .ok (.dadd, 1) := dk_99 (dk_at dksX33_closesIn_4 0 rfl rfl)
theorem dX33_closesIn_96 : decode cX33_closesIn 96 = .ok (.dstore_n 3, 1) := dk_74 (dk_at dksX33_closesIn_4 1 rfl rfl)
theorem dX33_closesIn_97 : decode cX33_closesIn 97 = .ok (.aload_n 0, 1) := dk_42 (dk_at dksX33_closesIn_4 2 rfl rfl)
theorem dX33_closesIn_98 : decode cX33_closesIn 98 = .ok (.dload_n 3, 1) := dk_41 (dk_at dksX33_closesIn_4 3 rfl rfl)
theorem dX33_closesIn_99 : decode cX33_closesIn 99 = .ok (.invokevirtual 78, 3) := dk_182 0 78 (dk_at dksX33_closesIn_4 4 rfl rfl)
theorem dX33_closesIn_102 : decode cX33_closesIn 102 = .ok (.ifCond .ne 6, 3) := dk_154 0 6 (dk_at dksX33_closesIn_4 7 rfl rfl)
theorem dX33_closesIn_105 : decode cX33_closesIn 105 = .ok (.goto 141, 3) := dk_167 0 141 (dk_at dksX33_closesIn_4 10 rfl rfl)
theorem dX33_closesIn_108 : decode cX33_closesIn 108 = .ok (.aload_n 0, 1) := dk_42 (dk_at dksX33_closesIn_4 13 rfl rfl)
theorem dX33_closesIn_109 : decode cX33_closesIn 109 = .ok (.dload_n 3, 1) := dk_41 (dk_at dksX33_closesIn_4 14 rfl rfl)
theorem dX33_closesIn_110 : decode cX33_closesIn 110 = .ok (.invokevirtual 57, 3) := dk_182 0 57 (dk_at dksX33_closesIn_4 15 rfl rfl)
theorem dX33_closesIn_113 : decode cX33_closesIn 113 = .ok (.dstore 5, 2) := dk_57 5 (dk_at dksX33_closesIn_4 18 rfl rfl)
theorem dX33_closesIn_115 : decode cX33_closesIn 115 = .ok (.aload_n 0, 1) := dk_42 (dk_at dksX33_closesIn_4 20 rfl rfl)
theorem dX33_closesIn_116 : decode cX33_closesIn 116 = .ok (.getfield 3, 3) := dk_180 0 3 (dk_at dksX33_closesIn_4 21 rfl rfl)
theorem dX33_closesIn_119 : decode cX33_closesIn 119 = .ok (.getfield 63, 3) := dk_180 0 63 (dk_at dksX33_closesIn_5 0 rfl rfl)
theorem dX33_closesIn_122 : decode cX33_closesIn 122 = .ok (.ifCond .eq 4, 3) := dk_153 0 4 (dk_at dksX33_closesIn_5 3 rfl rfl)
theorem dX33_closesIn_125 : decode cX33_closesIn 125 = .ok (.return_, 1) := dk_177 (dk_at dksX33_closesIn_5 6 rfl rfl)
theorem dX33_closesIn_126 : decode cX33_closesIn 126 = .ok (.dload 5, 2) := dk_24 5 (dk_at dksX33_closesIn_5 7 rfl rfl)
theorem dX33_closesIn_128 : decode cX33_closesIn 128 = .ok (.aload_n 0, 1) := dk_42 (dk_at dksX33_closesIn_5 9 rfl rfl)
theorem dX33_closesIn_129 : decode cX33_closesIn 129 = .ok (.getfield 38, 3) := dk_180 0 38 (dk_at dksX33_closesIn_5 10 rfl rfl)
theorem dX33_closesIn_132 : decode cX33_closesIn 132 = .ok (.dcmp .l, 1) := dk_151 (dk_at dksX33_closesIn_5 13 rfl rfl)
theorem dX33_closesIn_133 : decode cX33_closesIn 133 = .ok (.ifCond .ne 11, 3) := dk_154 0 11 (dk_at dksX33_closesIn_5 14 rfl rfl)
theorem dX33_closesIn_136 : decode cX33_closesIn 136 = .ok (.aload_n 0, 1) := dk_42 (dk_at dksX33_closesIn_5 17 rfl rfl)
theorem dX33_closesIn_137 : decode cX33_closesIn 137 = .ok (.dload_n 3, 1) := dk_41 (dk_at dksX33_closesIn_5 18 rfl rfl)
theorem dX33_closesIn_138 : decode cX33_closesIn 138 = .ok (.dload 5, 2) := dk_24 5 (dk_at dksX33_closesIn_5 19 rfl rfl)
theorem dX33_closesIn_140 : decode cX33_closesIn 140 = .ok (.invokevirtual 69, 3) := dk_182 0 69 (dk_at dksX33_closesIn_5 21 rfl rfl)
theorem dX33_closesIn_143 : decode cX33_closesIn 143 = .ok (.return_, 1) := dk_177 (dk_at dksX33_closesIn_6 0 rfl rfl)
theorem dX33_closesIn_144 : decode cX33_closesIn 144 = .ok (.aload_n 0, 1) := dk_42 (dk_at dksX33_closesIn_6 1 rfl rfl)
theorem dX33_closesIn_145 : decode cX33_closesIn 145 = .ok (.getfield 35, 3) := dk_180 0 35 (dk_at dksX33_closesIn_6 2 rfl rfl)
theorem dX33_closesIn_148 : decode cX33_closesIn 148 = .ok (.aload_n 0, 1) := dk_42 (dk_at dksX33_closesIn_6 5 rfl rfl)
theorem dX33_closesIn_149 : decode cX33_closesIn 149 = .ok (.getfield 32, 3) := dk_180 0 32 (dk_at dksX33_closesIn_6 6 rfl rfl)
theorem dX33_closesIn_152 : decode cX33_closesIn 152 = .ok (.dsub, 1) := dk_103 (dk_at dksX33_closesIn_6 9 rfl rfl)
theorem dX33_closesIn_153 : decode cX33_closesIn 153 = .ok (.dstore 7, 2) := dk_57 7 (dk_at dksX33_closesIn_6 10 rfl rfl)
theorem dX33_closesIn_155 : decode cX33_closesIn 155 = .ok (.dload 5, 2) := dk_24 5 (dk_at dksX33_closesIn_6 12 rfl rfl)
theorem dX33_closesIn_157 : decode cX33_closesIn 157 = .ok (.aload_n 0, 1) := dk_42 (dk_at dksX33_closesIn_6 14 rfl rfl)
theorem dX33_closesIn_158 : decode cX33_closesIn 158 = .ok (.getfield 38, 3) := dk_180 0 38 (dk_at dksX33_closesIn_6 15 rfl rfl)
theorem dX33_closesIn_161 : decode cX33_closesIn 161 = .ok (.dcmp .g, 1) := dk_152 (dk_at dksX33_closesIn_6 18 rfl rfl)
theorem dX33_closesIn_162 : decode cX33_closesIn 162 = .ok (.ifCond .ge 7, 3) := dk_156 0 7 (dk_at dksX33_closesIn_6 19 rfl rfl)
theorem dX33_closesIn_165 : decode cX33_closesIn 165 = .ok (.iconst 1, 1) := dk_4 (dk_at dksX33_closesIn_6 22 rfl rfl)
theorem dX33_closesIn_166 : decode cX33_closesIn 166 = .ok (.goto 4, 3) := dk_167 0 4 (dk_at dksX33_closesIn_7 0 rfl rfl)
theorem dX33_closesIn_169 : decode cX33_closesIn 169 = .ok (.iconst 0, 1) := dk_3 (dk_at dksX33_closesIn_7 3 rfl rfl)
theorem dX33_closesIn_170 : decode cX33_closesIn 170 = .ok (.aload_n 0, 1) := dk_42 (dk_at dksX33_closesIn_7 4 rfl rfl)
theorem dX33_closesIn_171 : decode cX33_closesIn 171 = .ok (.getfield 60, 3) := dk_180 0 60 (dk_at dksX33_closesIn_7 5 rfl rfl)
theorem dX33_closesIn_174 : decode cX33_closesIn 174 = .ok (.aload_n 0, 1) := dk_42 (dk_at dksX33_closesIn_7 8 rfl rfl)
theorem dX33_closesIn_175 : decode cX33_closesIn 175 = .ok (.getfield 38, 3) := dk_180 0 38 (dk_at dksX33_closesIn_7 9 rfl rfl)
theorem dX33_closesIn_178 : decode cX33_closesIn 178 = .ok (.dcmp .g, 1) := dk_152 (dk_at dksX33_closesIn_7 12 rfl rfl)
theorem dX33_closesIn_179 : decode cX33_closesIn 179 = .ok (.ifCond .ge 7, 3) := dk_156 0 7 (dk_at dksX33_closesIn_7 13 rfl rfl)
theorem dX33_closesIn_182 : decode cX33_closesIn 182 = .ok (.iconst 1, 1) := dk_4 (dk_at dksX33_closesIn_7 16 rfl rfl)
theorem dX33_closesIn_183 : decode cX33_closesIn 183 = .ok (.goto 4, 3) := dk_167 0 4 (dk_at dksX33_closesIn_7 17 rfl rfl)
theorem dX33_closesIn_186 : decode cX33_closesIn 186 = .ok (.iconst 0, 1) := dk_3 (dk_at dksX33_closesIn_7 20 rfl rfl)
theorem dX33_closesIn_187 : decode cX33_closesIn 187 = .ok (.if_icmp .ne 17, 3) := dk_160 0 17 (dk_at dksX33_closesIn_7 21 rfl rfl)
theorem dX33_closesIn_190 : decode cX33_closesIn 190 = .ok (.aload_n 0, 1) := dk_42 (dk_at dksX33_closesIn_8 0 rfl rfl)
theorem dX33_closesIn_191 : decode cX33_closesIn 191 = .ok (.dload_n 3, 1) := dk_41 (dk_at dksX33_closesIn_8 1 rfl rfl)
theorem dX33_closesIn_192 : decode cX33_closesIn 192 = .ok (.putfield 32, 3) := dk_181 0 32 (dk_at dksX33_closesIn_8 2 rfl rfl)
theorem dX33_closesIn_195 : decode cX33_closesIn 195 = .ok (.aload_n 0, 1) := dk_42 (dk_at dksX33_closesIn_8 5 rfl rfl)
theorem dX33_closesIn_196 : decode cX33_closesIn 196 = .ok (.dload 5, 2) := dk_24 5 (dk_at dksX33_closesIn_8 6 rfl rfl)
theorem dX33_closesIn_198 : decode cX33_closesIn 198 = .ok (.putfield 60, 3) := dk_181 0 60 (dk_at dksX33_closesIn_8 8 rfl rfl)
theorem dX33_closesIn_201 : decode cX33_closesIn 201 = .ok (.goto 14, 3) := dk_167 0 14 (dk_at dksX33_closesIn_8 11 rfl rfl)
theorem dX33_closesIn_204 : decode cX33_closesIn 204 = .ok (.aload_n 0, 1) := dk_42 (dk_at dksX33_closesIn_8 14 rfl rfl)
theorem dX33_closesIn_205 : decode cX33_closesIn 205 = .ok (.dload_n 3, 1) := dk_41 (dk_at dksX33_closesIn_8 15 rfl rfl)
theorem dX33_closesIn_206 : decode cX33_closesIn 206 = .ok (.putfield 35, 3) := dk_181 0 35 (dk_at dksX33_closesIn_8 16 rfl rfl)
theorem dX33_closesIn_209 : decode cX33_closesIn 209 = .ok (.aload_n 0, 1) := dk_42 (dk_at dksX33_closesIn_8 19 rfl rfl)
theorem dX33_closesIn_210 : decode cX33_closesIn 210 = .ok (.dload 5, 2) := dk_24 5 (dk_at dksX33_closesIn_8 20 rfl rfl)
theorem dX33_closesIn_212 : decode cX33_closesIn 212 = .ok (.putfield 66, 3) := dk_181 0 66 (dk_at dksX33_closesIn_9 0 rfl rfl)
theorem dX33_closesIn_215 : decode cX33_closesIn 215 = .ok (.aload_n 0, 1) := dk_42 (dk_at dksX33_closesIn_9 3 rfl rfl)
theorem dX33_closesIn_216 : decode cX33_closesIn 216 = .ok (.getfield 35, 3) := dk_180 0 35 (dk_at dksX33_closesIn_9 4 rfl rfl)
theorem dX33_closesIn_219 : decode cX33_closesIn 219 = .ok (.aload_n 0, 1) := dk_42 (dk_at dksX33_closesIn_9 7 rfl rfl)
theorem dX33_closesIn_220 : decode cX33_closesIn 220 = .ok (.getfield 32, 3) := dk_180 0 32 (dk_at dksX33_closesIn_9 8 rfl rfl)
theorem dX33_closesIn_223 : decode cX33_closesIn 223 = .ok (.dsub, 1) := dk_103 (dk_at dksX33_closesIn_9 11 rfl rfl)
theorem dX33_closesIn_224 : decode cX33_closesIn 224 = .ok (.dload 7, 2) := dk_24 7 (dk_at dksX33_closesIn_9 12 rfl rfl)
theorem dX33_closesIn_226 : decode cX33_closesIn 226 = .ok (.ldc2_w 76, 3) := dk_20 0 76 (dk_at dksX33_closesIn_9 14 rfl rfl)
theorem dX33_closesIn_229 : decode cX33_closesIn 229 = .ok (.ddiv, 1) := dk_111 (dk_at dksX33_closesIn_9 17 rfl rfl)
theorem dX33_closesIn_230 : decode cX33_closesIn 230 = .ok (.dcmp .g, 1) := dk_152 (dk_at dksX33_closesIn_9 18 rfl rfl)
theorem dX33_closesIn_231 : decode cX33_closesIn 231 = .ok (.ifCond .gt 7, 3) := dk_157 0 7 (dk_at dksX33_closesIn_9 19 rfl rfl)
theorem dX33_closesIn_234 : decode cX33_closesIn 234 = .ok (.iconst 1, 1) := dk_4 (dk_at dksX33_closesIn_9 22 rfl rfl)
theorem dX33_closesIn_235 : decode cX33_closesIn 235 = .ok (.goto 4, 3) := dk_167 0 4 (dk_at dksX33_closesIn_10 0 rfl rfl)
theorem dX33_closesIn_238 : decode cX33_closesIn 238 = .ok (.iconst 0, 1) := dk_3 (dk_at dksX33_closesIn_10 3 rfl rfl)
theorem dX33_closesIn_239 : decode cX33_closesIn 239 = .ok (.istore_n 1, 1) := dk_60 (dk_at dksX33_closesIn_10 4 rfl rfl)
theorem dX33_closesIn_240 : decode cX33_closesIn 240 = .ok (.iinc 2 1, 3) := dk_132 2 1 (dk_at dksX33_closesIn_10 5 rfl rfl)
theorem dX33_closesIn_243 : decode cX33_closesIn 243 = .ok (.goto (-239), 3) := dk_167 255 17 (dk_at dksX33_closesIn_10 8 rfl rfl)
theorem dX33_closesIn_246 : decode cX33_closesIn 246 = .ok (.aload_n 0, 1) := dk_42 (dk_at dksX33_closesIn_10 11 rfl rfl)
theorem dX33_closesIn_247 : decode cX33_closesIn 247 = .ok (.aload_n 0, 1) := dk_42 (dk_at dksX33_closesIn_10 12 rfl rfl)
theorem dX33_closesIn_248 : decode cX33_closesIn 248 = .ok (.getfield 66, 3) := dk_180 0 66 (dk_at dksX33_closesIn_10 13 rfl rfl)
theorem dX33_closesIn_251 : decode cX33_closesIn 251 = .ok (.invokevirtual 82, 3) := dk_182 0 82 (dk_at dksX33_closesIn_10 16 rfl rfl)
theorem dX33_closesIn_254 : decode cX33_closesIn 254 = .ok (.aload_n 0, 1) := dk_42 (dk_at dksX33_closesIn_10 19 rfl rfl)
theorem dX33_closesIn_255 : decode cX33_closesIn 255 = .ok (.aload_n 0, 1) := dk_42 (dk_at dksX33_closesIn_10 20 rfl rfl)
theorem dX33_closesIn_256 : decode cX33_closesIn 256 = .ok (.getfield 60, 3) := dk_180 0 60 (dk_at dksX33_closesIn_10 21 rfl rfl)
theorem dX33_closesIn_259 : decode cX33_closesIn 259 = .ok (.invokevirtual 82, 3) := dk_182 0 82 (dk_at dksX33_closesIn_11 0 rfl rfl)
theorem dX33_closesIn_262 : decode cX33_closesIn 262 = .ok (.dcmp .g, 1) := dk_152 (dk_at dksX33_closesIn_11 3 rfl rfl)
theorem dX33_closesIn_263 : decode cX33_closesIn 263 = .ok (.ifCond .ge 18, 3) := dk_156 0 18 (dk_at dksX33_closesIn_11 4 rfl rfl)
theorem dX33_closesIn_266 : decode cX33_closesIn 266 = .ok (.aload_n 0, 1) := dk_42 (dk_at dksX33_closesIn_11 7 rfl rfl)
theorem dX33_closesIn_267 : decode cX33_closesIn 267 = .ok (.aload_n 0, 1) := dk_42 (dk_at dksX33_closesIn_11 8 rfl rfl)
theorem dX33_closesIn_268 : decode cX33_closesIn 268 = .ok (.getfield 35, 3) := dk_180 0 35 (dk_at dksX33_closesIn_11 9 rfl rfl)
theorem dX33_closesIn_271 : decode cX33_closesIn 271 = .ok (.aload_n 0, 1) := dk_42 (dk_at dksX33_closesIn_11 12 rfl rfl)
theorem dX33_closesIn_272 : decode cX33_closesIn 272 = .ok (.getfield 66, 3) := dk_180 0 66 (dk_at dksX33_closesIn_11 13 rfl rfl)
theorem dX33_closesIn_275 : decode cX33_closesIn 275 = .ok (.invokevirtual 69, 3) := dk_182 0 69 (dk_at dksX33_closesIn_11 16 rfl rfl)
theorem dX33_closesIn_278 : decode cX33_closesIn 278 = .ok (.goto 15, 3) := dk_167 0 15 (dk_at dksX33_closesIn_11 19 rfl rfl)
theorem dX33_closesIn_281 : decode cX33_closesIn 281 = .ok (.aload_n 0, 1) := dk_42 (dk_at dksX33_closesIn_11 22 rfl rfl)
theorem dX33_closesIn_282 : decode cX33_closesIn 282 = .ok (.aload_n 0, 1) := dk_42 (dk_at dksX33_closesIn_11 23 rfl rfl)
theorem dX33_closesIn_283 : decode cX33_closesIn 283 = .ok (.getfield 32, 3) := dk_180 0 32 (dk_at dksX33_closesIn_12 0 rfl rfl)
theorem dX33_closesIn_286 : decode cX33_closesIn 286 = .ok (.aload_n 0, 1) := dk_42 (dk_at dksX33_closesIn_12 3 rfl rfl)
theorem dX33_closesIn_287 : decode cX33_closesIn 287 = .ok (.getfield 60, 3) := dk_180 0 60 (dk_at dksX33_closesIn_12 4 rfl rfl)
theorem dX33_closesIn_290 : decode cX33_closesIn 290 = .ok (.invokevirtual 69, 3) := dk_182 0 69 (dk_at dksX33_closesIn_12 7 rfl rfl)
theorem dX33_closesIn_293 : decode cX33_closesIn 293 = .ok (.return_, 1) := dk_177 (dk_at dksX33_closesIn_12 10 rfl rfl)
abbrev cX33_isInside : ByteArray := prog_4_method_4_code
def yX33_isInside : MethodName := ⟨RX33, "isInside", "(D)Z"⟩
def dkwX33_isInside_0 : List UInt8 := [39, 42, 180, 0, 32, 151, 158, 0, 16, 39, 42, 180, 0, 35, 152, 156, 0, 7, 4, 167, 0, 4, 3, 172]
abbrev dktX33_isInside_0 : List UInt8 := dkwX33_isInside_0 ++ []
theorem dksX33_isInside_0 : cX33_isInside.data.toList.drop 0 = dktX33_isInside_0 := by decide +kernel
theorem dX33_isInside_0 : decode cX33_isInside 0 = .ok (.dload_n 1, 1) := dk_39 (dk_at dksX33_isInside_0 0 rfl rfl)
theorem dX33_isInside_1 : decode cX33_isInside 1 = .ok (.aload_n 0, 1) := dk_42 (dk_at dksX33_isInside_0 1 rfl rfl)
theorem dX33_isInside_2 : decode cX33_isInside 2 = .ok (.getfield 32, 3) := dk_180 0 32 (dk_at dksX33_isInside_0 2 rfl rfl)
theorem dX33_isInside_5 : decode cX33_isInside 5 = .ok (.dcmp .l, 1) := dk_151 (dk_at dksX33_isInside_0 5 rfl rfl)
theorem dX33_isInside_6 : decode cX33_isInside 6 = .ok (.ifCond .le 16, 3) := dk_158 0 16 (dk_at dksX33_isInside_0 6 rfl rfl)
theorem dX33_isInside_9 : decode cX33_isInside 9 = .ok (.dload_n 1, 1) := dk_39 (dk_at dksX33_isInside_0 9 rfl rfl)
theorem dX33_isInside_10 : decode cX33_isInside 10 = .ok (.aload_n 0, 1) := dk_42 (dk_at dksX33_isInside_0 10 rfl rfl)
theorem dX33_isInside_11 : decode cX33_isInside 11 = .ok (.getfield 35, 3) := dk_180 0 35 (dk_at dksX33_isInside_0 11 rfl rfl)
theorem dX33_isInside_14 : decode cX33_isInside 14 = .ok (.dcmp .g, 1) := dk_152 (dk_at dksX33_isInside_0 14 rfl rfl)
theorem dX33_isInside_15 : decode cX33_isInside 15 = .ok (.ifCond .ge 7, 3) := dk_156 0 7 (dk_at dksX33_isInside_0 15 rfl rfl)
theorem dX33_isInside_18 : decode cX33_isInside 18 = .ok (.iconst 1, 1) := dk_4 (dk_at dksX33_isInside_0 18 rfl rfl)
theorem dX33_isInside_19 : decode cX33_isInside 19 = .ok (.goto 4, 3) := dk_167 0 4 (dk_at dksX33_isInside_0 19 rfl rfl)
theorem dX33_isInside_22 : decode cX33_isInside 22 = .ok (.iconst 0, 1) := dk_3 (dk_at dksX33_isInside_0 22 rfl rfl)
theorem dX33_isInside_23 : decode cX33_isInside 23 = .ok (.ireturn, 1) := dk_172 (dk_at dksX33_isInside_0 23 rfl rfl)
abbrev cX33_apart : ByteArray := prog_4_method_5_code
def yX33_apart : MethodName := ⟨RX33, "apart", "(D)D"⟩
def dkwX33_apart_1 : List UInt8 := [175]
abbrev dktX33_apart_1 : List UInt8 := dkwX33_apart_1 ++ []
def dkwX33_apart_0 : List UInt8 := [39, 42, 180, 0, 38, 152, 156, 0, 12, 42, 180, 0, 38, 39, 103, 167, 0, 9, 39, 42, 180, 0, 38, 103]
abbrev dktX33_apart_0 : List UInt8 := dkwX33_apart_0 ++ dktX33_apart_1
theorem dksX33_apart_0 : cX33_apart.data.toList.drop 0 = dktX33_apart_0 := by decide +kernel
theorem dksX33_apart_1 : cX33_apart.data.toList.drop 24 = dktX33_apart_1 := dk_seg dksX33_apart_0 24 rfl rfl
theorem dX33_apart_0 : decode cX33_apart 0 = .ok (.dload_n 1, 1) := dk_39 (dk_at dksX33_apart_0 0 rfl rfl)
theorem dX33_apart_1 : decode cX33_apart 1 = .ok (.aload_n 0, 1) := dk_42 (dk_at dksX33_apart_0 1 rfl rfl)
theorem dX33_apart_2 : decode cX33_apart 2 = .ok (.getfield 38, 3) := dk_180 0 38 (dk_at dksX33_apart_0 2 rfl rfl)
theorem dX33_apart_5 : decode cX33_apart 5 = .ok (.dcmp .g, 1) := dk_152 (dk_at dksX33_apart_0 5 rfl rfl)
theorem dX33_apart_6 : decode cX33_apart 6 = .ok (.ifCond .ge 12, 3) := dk_156 0 12 (dk_at dksX33_apart_0 6 rfl rfl)
theorem dX33_apart_9 : decode cX33_apart 9 = .ok (.aload_n 0, 1) := dk_42 (dk_at dksX33_apart_0 9 rfl rfl)
theorem dX33_apart_10 : decode cX33_apart 10 = .ok (.getfield 38, 3) := dk_180 0 38 (dk_at dksX33_apart_0 10 rfl rfl)
theorem dX33_apart_13 : decode cX33_apart 13 = .ok (.dload_n 1, 1) := dk_39 (dk_at dksX33_apart_0 13 rfl rfl)
theorem dX33_apart_14 : decode cX33_apart 14 = .ok (.dsub, 1) := dk_103 (dk_at dksX33_apart_0 14 rfl rfl)
theorem dX33_apart_15 : decode cX33_apart 15 = .ok (.goto 9, 3) := dk_167 0 9 (dk_at dksX33_apart_0 15 rfl rfl)
theorem dX33_apart_18 : decode cX33_apart 18 = .ok (.dload_n 1, 1) := dk_39 (dk_at dksX33_apart_0 18 rfl rfl)
theorem dX33_apart_19 : decode cX33_apart 19 = .ok (.aload_n 0, 1) := dk_42 (dk_at dksX33_apart_0 19 rfl rfl)
theorem dX33_apart_20 : decode cX33_apart 20 = .ok (.getfield 38, 3) := dk_180 0 38 (dk_at dksX33_apart_0 20 rfl rfl)
theorem dX33_apart_23 : decode cX33_apart 23 = .ok (.dsub, 1) := dk_103 (dk_at dksX33_apart_0 23 rfl rfl)
theorem dX33_apart_24 : decode cX33_apart 24 = .ok (.dreturn, 1) := dk_175 (dk_at dksX33_apart_1 0 rfl rfl)
theorem q198 : (Jvm.Cond.initialized "WhatIfSheet$Bracket") ∈ lw_all := lw_g (lw_at lw_m1 68 rfl) rfl
theorem q661 : (Jvm.Cond.fieldLink "WhatIfSheet$Bracket" (50 : Nat) "WhatIfSheet$Plain" "own" "D") ∈ lw_all := lw_g (lw_at lw_m3 51 rfl) rfl
theorem q769 : (Jvm.Cond.selects "WhatIfSheet$Bracket" ({ cls := "java/lang/Object", name := "equals", desc := "(Ljava/lang/Object;)Z" } : Jvm.MethodName) ({ cls := "java/lang/Object", name := "equals", desc := "(Ljava/lang/Object;)Z" } : Jvm.MethodName)) ∈ lw_all := lw_g (lw_at lw_m3 159 rfl) rfl
theorem q846 : (Jvm.Cond.selects "WhatIfSheet$Bracket" ({ cls := "java/lang/Object", name := "getClass", desc := "()Ljava/lang/Class;" } : Jvm.MethodName) ({ cls := "java/lang/Object", name := "getClass", desc := "()Ljava/lang/Class;" } : Jvm.MethodName)) ∈ lw_all := lw_g (lw_at lw_m3 236 rfl) rfl
theorem q1208 : (Jvm.Cond.fieldLinkNest "WhatIfSheet$Bracket" (63 : Nat) "WhatIfSheet" "fault" "I" "WhatIfSheet") ∈ lw_tbl := lw_at lw_m5 118 rfl
theorem q2487 : (Jvm.Cond.instantiable "WhatIfSheet$Bracket" (11 : Nat)) ∈ lw_all := lw_g (lw_at lw_m10 197 rfl) rfl
theorem q2489 : (Jvm.Cond.instanceMethod ({ cls := "WhatIfSheet$Bracket", name := "<init>", desc := "(LWhatIfSheet;LWhatIfSheet$Plain;IDDD)V" } : Jvm.MethodName)) ∈ lw_all := lw_g (lw_at lw_m10 199 rfl) rfl
theorem q2490 : (Jvm.Cond.code ({ cls := "WhatIfSheet$Bracket", name := "<init>", desc := "(LWhatIfSheet;LWhatIfSheet$Plain;IDDD)V" } : Jvm.MethodName) prog_4_method_1_code (10 : Nat) (Option.none : Option Jvm.ClassFile.FieldType)) ∈ lw_all := lw_g (lw_at lw_m10 200 rfl) rfl
theorem q2491 : (Jvm.Cond.methodLink "WhatIfSheet$Bracket" (9 : Nat) ({ cls := "java/lang/Object", name := "<init>", desc := "()V" } : Jvm.MethodName)) ∈ lw_all := lw_g (lw_at lw_m10 201 rfl) rfl
theorem q2492 : (Jvm.Cond.constantDouble "WhatIfSheet$Bracket" (15 : Nat) (9221120237041090560 : UInt64)) ∈ lw_all := lw_g (lw_at lw_m10 202 rfl) rfl
theorem q2493 : (Jvm.Cond.fieldLink "WhatIfSheet$Bracket" (24 : Nat) "WhatIfSheet$Bracket" "input" "LWhatIfSheet$Plain;") ∈ lw_all := lw_g (lw_at lw_m10 203 rfl) rfl
theorem q2494 : (Jvm.Cond.fieldLink "WhatIfSheet$Bracket" (28 : Nat) "WhatIfSheet$Bracket" "cell" "I") ∈ lw_all := lw_g (lw_at lw_m10 204 rfl) rfl
theorem q2495 : (Jvm.Cond.fieldLink "WhatIfSheet$Bracket" (38 : Nat) "WhatIfSheet$Bracket" "want" "D") ∈ lw_all := lw_g (lw_at lw_m10 205 rfl) rfl
theorem q2496 : (Jvm.Cond.fieldLink "WhatIfSheet$Bracket" (32 : Nat) "WhatIfSheet$Bracket" "low" "D") ∈ lw_all := lw_g (lw_at lw_m10 206 rfl) rfl
theorem q2497 : (Jvm.Cond.fieldLink "WhatIfSheet$Bracket" (35 : Nat) "WhatIfSheet$Bracket" "high" "D") ∈ lw_all := lw_g (lw_at lw_m10 207 rfl) rfl
theorem q2498 : (Jvm.Cond.fieldLink "WhatIfSheet$Bracket" (60 : Nat) "WhatIfSheet$Bracket" "atLow" "D") ∈ lw_all := lw_g (lw_at lw_m10 208 rfl) rfl
theorem q2499 : (Jvm.Cond.fieldLink "WhatIfSheet$Bracket" (66 : Nat) "WhatIfSheet$Bracket" "atHigh" "D") ∈ lw_all := lw_g (lw_at lw_m10 209 rfl) rfl
theorem q2500 : (Jvm.Cond.fieldLink "WhatIfSheet$Bracket" (17 : Nat) "WhatIfSheet$Bracket" "found" "D") ∈ lw_all := lw_g (lw_at lw_m10 210 rfl) rfl
theorem q2502 : (Jvm.Cond.fieldLink "WhatIfSheet$Bracket" (21 : Nat) "WhatIfSheet$Bracket" "there" "D") ∈ lw_all := lw_g (lw_at lw_m10 212 rfl) rfl
theorem q2504 : (Jvm.Cond.fieldLink "WhatIfSheet$Bracket" (41 : Nat) "WhatIfSheet$Bracket" "times" "I") ∈ lw_all := lw_g (lw_at lw_m10 214 rfl) rfl
theorem q2506 : (Jvm.Cond.fieldLink "WhatIfSheet$Bracket" (3 : Nat) "WhatIfSheet$Bracket" "this$0" "LWhatIfSheet;") ∈ lw_all := lw_g (lw_at lw_m10 216 rfl) rfl
theorem q2507 : (Jvm.Cond.laysFinal "WhatIfSheet$Bracket" "WhatIfSheet$Bracket" "input" "LWhatIfSheet$Plain;") ∈ lw_all := lw_g (lw_at lw_m10 217 rfl) rfl
theorem q2508 : (Jvm.Cond.soleField "WhatIfSheet$Bracket" "input") ∈ lw_all := lw_g (lw_at lw_m10 218 rfl) rfl
theorem q2509 : (Jvm.Cond.laysFinal "WhatIfSheet$Bracket" "WhatIfSheet$Bracket" "cell" "I") ∈ lw_all := lw_g (lw_at lw_m10 219 rfl) rfl
theorem q2510 : (Jvm.Cond.soleField "WhatIfSheet$Bracket" "cell") ∈ lw_all := lw_g (lw_at lw_m10 220 rfl) rfl
theorem q2511 : (Jvm.Cond.laysFinal "WhatIfSheet$Bracket" "WhatIfSheet$Bracket" "want" "D") ∈ lw_all := lw_g (lw_at lw_m10 221 rfl) rfl
theorem q2512 : (Jvm.Cond.soleField "WhatIfSheet$Bracket" "want") ∈ lw_all := lw_g (lw_at lw_m10 222 rfl) rfl
theorem q2513 : (Jvm.Cond.lays "WhatIfSheet$Bracket" "WhatIfSheet$Bracket" "low" "D") ∈ lw_all := lw_g (lw_at lw_m10 223 rfl) rfl
theorem q2514 : (Jvm.Cond.soleField "WhatIfSheet$Bracket" "low") ∈ lw_all := lw_g (lw_at lw_m10 224 rfl) rfl
theorem q2515 : (Jvm.Cond.lays "WhatIfSheet$Bracket" "WhatIfSheet$Bracket" "high" "D") ∈ lw_all := lw_g (lw_at lw_m10 225 rfl) rfl
theorem q2516 : (Jvm.Cond.soleField "WhatIfSheet$Bracket" "high") ∈ lw_all := lw_g (lw_at lw_m10 226 rfl) rfl
theorem q2517 : (Jvm.Cond.lays "WhatIfSheet$Bracket" "WhatIfSheet$Bracket" "atLow" "D") ∈ lw_all := lw_g (lw_at lw_m10 227 rfl) rfl
theorem q2518 : (Jvm.Cond.soleField "WhatIfSheet$Bracket" "atLow") ∈ lw_all := lw_g (lw_at lw_m10 228 rfl) rfl
theorem q2519 : (Jvm.Cond.lays "WhatIfSheet$Bracket" "WhatIfSheet$Bracket" "atHigh" "D") ∈ lw_all := lw_g (lw_at lw_m10 229 rfl) rfl
theorem q2520 : (Jvm.Cond.soleField "WhatIfSheet$Bracket" "atHigh") ∈ lw_all := lw_g (lw_at lw_m10 230 rfl) rfl
theorem q2521 : (Jvm.Cond.lays "WhatIfSheet$Bracket" "WhatIfSheet$Bracket" "found" "D") ∈ lw_all := lw_g (lw_at lw_m10 231 rfl) rfl
theorem q2522 : (Jvm.Cond.soleField "WhatIfSheet$Bracket" "found") ∈ lw_all := lw_g (lw_at lw_m10 232 rfl) rfl
theorem q2523 : (Jvm.Cond.lays "WhatIfSheet$Bracket" "WhatIfSheet$Bracket" "there" "D") ∈ lw_all := lw_g (lw_at lw_m10 233 rfl) rfl
theorem q2524 : (Jvm.Cond.soleField "WhatIfSheet$Bracket" "there") ∈ lw_all := lw_g (lw_at lw_m10 234 rfl) rfl
theorem q2525 : (Jvm.Cond.lays "WhatIfSheet$Bracket" "WhatIfSheet$Bracket" "times" "I") ∈ lw_all := lw_g (lw_at lw_m10 235 rfl) rfl
theorem q2526 : (Jvm.Cond.soleField "WhatIfSheet$Bracket" "times") ∈ lw_all := lw_g (lw_at lw_m10 236 rfl) rfl
theorem q2527 : (Jvm.Cond.laysFinal "WhatIfSheet$Bracket" "WhatIfSheet$Bracket" "this$0" "LWhatIfSheet;") ∈ lw_all := lw_g (lw_at lw_m10 237 rfl) rfl
theorem q2528 : (Jvm.Cond.soleField "WhatIfSheet$Bracket" "this$0") ∈ lw_all := lw_g (lw_at lw_m10 238 rfl) rfl
theorem q2529 : (Jvm.Cond.superclass "WhatIfSheet$Bracket" "java/lang/Object") ∈ lw_all := lw_g (lw_at lw_m10 239 rfl) rfl
theorem q2531 : (Jvm.Cond.instanceMethod ({ cls := "WhatIfSheet$Bracket", name := "seeks", desc := "()V" } : Jvm.MethodName)) ∈ lw_all := lw_g (lw_at lw_m11 1 rfl) rfl
theorem q2532 : (Jvm.Cond.selects "WhatIfSheet$Bracket" ({ cls := "WhatIfSheet$Bracket", name := "seeks", desc := "()V" } : Jvm.MethodName) ({ cls := "WhatIfSheet$Bracket", name := "seeks", desc := "()V" } : Jvm.MethodName)) ∈ lw_all := lw_g (lw_at lw_m11 2 rfl) rfl
theorem q2533 : (Jvm.Cond.codeWith ({ cls := "WhatIfSheet$Bracket", name := "seeks", desc := "()V" } : Jvm.MethodName) prog_4_method_6_code (4 : Nat) (Option.none : Option Jvm.ClassFile.FieldType) [((8 : Nat), (30 : Nat), (176 : Nat), (0 : Nat)), ((39 : Nat), (61 : Nat), (176 : Nat), (0 : Nat)), ((70 : Nat), (165 : Nat), (176 : Nat), (0 : Nat))]) ∈ lw_all := lw_g (lw_at lw_m11 3 rfl) rfl
theorem q2534 : (Jvm.Cond.methodLink "WhatIfSheet$Bracket" (57 : Nat) ({ cls := "WhatIfSheet$Bracket", name := "of", desc := "(D)D" } : Jvm.MethodName)) ∈ lw_all := lw_g (lw_at lw_m11 4 rfl) rfl
theorem q2535 : (Jvm.Cond.privateMethod ({ cls := "WhatIfSheet$Bracket", name := "of", desc := "(D)D" } : Jvm.MethodName)) ∈ lw_tbl := lw_at lw_m11 5 rfl
theorem q2536 : (Jvm.Cond.instanceMethod ({ cls := "WhatIfSheet$Bracket", name := "of", desc := "(D)D" } : Jvm.MethodName)) ∈ lw_all := lw_g (lw_at lw_m11 6 rfl) rfl
theorem q2537 : (Jvm.Cond.code ({ cls := "WhatIfSheet$Bracket", name := "of", desc := "(D)D" } : Jvm.MethodName) prog_4_method_2_code (3 : Nat) (Option.some Jvm.ClassFile.FieldType.double)) ∈ lw_all := lw_g (lw_at lw_m11 7 rfl) rfl
theorem q2538 : (Jvm.Cond.methodLink "WhatIfSheet$Bracket" (44 : Nat) ({ cls := "WhatIfSheet$Plain", name := "kept", desc := "(D)D" } : Jvm.MethodName)) ∈ lw_all := lw_g (lw_at lw_m11 8 rfl) rfl
theorem q2539 : (Jvm.Cond.methodLinkNest "WhatIfSheet$Bracket" (53 : Nat) ({ cls := "WhatIfSheet", name := "asked", desc := "(I)D" } : Jvm.MethodName) "WhatIfSheet") ∈ lw_tbl := lw_at lw_m11 9 rfl
theorem q2540 : (Jvm.Cond.methodLink "WhatIfSheet$Bracket" (69 : Nat) ({ cls := "WhatIfSheet$Bracket", name := "finds", desc := "(DD)V" } : Jvm.MethodName)) ∈ lw_all := lw_g (lw_at lw_m11 10 rfl) rfl
theorem q2541 : (Jvm.Cond.privateMethod ({ cls := "WhatIfSheet$Bracket", name := "finds", desc := "(DD)V" } : Jvm.MethodName)) ∈ lw_tbl := lw_at lw_m11 11 rfl
theorem q2542 : (Jvm.Cond.instanceMethod ({ cls := "WhatIfSheet$Bracket", name := "finds", desc := "(DD)V" } : Jvm.MethodName)) ∈ lw_all := lw_g (lw_at lw_m11 12 rfl) rfl
theorem q2543 : (Jvm.Cond.code ({ cls := "WhatIfSheet$Bracket", name := "finds", desc := "(DD)V" } : Jvm.MethodName) prog_4_method_3_code (5 : Nat) (Option.none : Option Jvm.ClassFile.FieldType)) ∈ lw_all := lw_g (lw_at lw_m11 13 rfl) rfl
theorem q2544 : (Jvm.Cond.methodLink "WhatIfSheet$Bracket" (73 : Nat) ({ cls := "WhatIfSheet$Bracket", name := "closesIn", desc := "()V" } : Jvm.MethodName)) ∈ lw_all := lw_g (lw_at lw_m11 14 rfl) rfl
theorem q2545 : (Jvm.Cond.privateMethod ({ cls := "WhatIfSheet$Bracket", name := "closesIn", desc := "()V" } : Jvm.MethodName)) ∈ lw_tbl := lw_at lw_m11 15 rfl
theorem q2546 : (Jvm.Cond.instanceMethod ({ cls := "WhatIfSheet$Bracket", name := "closesIn", desc := "()V" } : Jvm.MethodName)) ∈ lw_all := lw_g (lw_at lw_m11 16 rfl) rfl
theorem q2547 : (Jvm.Cond.code ({ cls := "WhatIfSheet$Bracket", name := "closesIn", desc := "()V" } : Jvm.MethodName) prog_4_method_7_code (9 : Nat) (Option.none : Option Jvm.ClassFile.FieldType)) ∈ lw_all := lw_g (lw_at lw_m11 17 rfl) rfl
theorem q2548 : (Jvm.Cond.constantDouble "WhatIfSheet$Bracket" (76 : Nat) (4611686018427387904 : UInt64)) ∈ lw_all := lw_g (lw_at lw_m11 18 rfl) rfl
theorem q2549 : (Jvm.Cond.methodLink "WhatIfSheet$Bracket" (78 : Nat) ({ cls := "WhatIfSheet$Bracket", name := "isInside", desc := "(D)Z" } : Jvm.MethodName)) ∈ lw_all := lw_g (lw_at lw_m11 19 rfl) rfl
theorem q2550 : (Jvm.Cond.privateMethod ({ cls := "WhatIfSheet$Bracket", name := "isInside", desc := "(D)Z" } : Jvm.MethodName)) ∈ lw_tbl := lw_at lw_m11 20 rfl
theorem q2551 : (Jvm.Cond.instanceMethod ({ cls := "WhatIfSheet$Bracket", name := "isInside", desc := "(D)Z" } : Jvm.MethodName)) ∈ lw_all := lw_g (lw_at lw_m11 21 rfl) rfl
theorem q2552 : (Jvm.Cond.code ({ cls := "WhatIfSheet$Bracket", name := "isInside", desc := "(D)Z" } : Jvm.MethodName) prog_4_method_4_code (3 : Nat) (Option.some Jvm.ClassFile.FieldType.boolean)) ∈ lw_all := lw_g (lw_at lw_m11 22 rfl) rfl
theorem q2553 : (Jvm.Cond.methodLink "WhatIfSheet$Bracket" (82 : Nat) ({ cls := "WhatIfSheet$Bracket", name := "apart", desc := "(D)D" } : Jvm.MethodName)) ∈ lw_all := lw_g (lw_at lw_m11 23 rfl) rfl
theorem q2554 : (Jvm.Cond.privateMethod ({ cls := "WhatIfSheet$Bracket", name := "apart", desc := "(D)D" } : Jvm.MethodName)) ∈ lw_tbl := lw_at lw_m11 24 rfl
theorem q2555 : (Jvm.Cond.instanceMethod ({ cls := "WhatIfSheet$Bracket", name := "apart", desc := "(D)D" } : Jvm.MethodName)) ∈ lw_all := lw_g (lw_at lw_m11 25 rfl) rfl
theorem q2556 : (Jvm.Cond.code ({ cls := "WhatIfSheet$Bracket", name := "apart", desc := "(D)D" } : Jvm.MethodName) prog_4_method_5_code (3 : Nat) (Option.some Jvm.ClassFile.FieldType.double)) ∈ lw_all := lw_g (lw_at lw_m11 26 rfl) rfl
theorem q3437 : (Jvm.Cond.castable "WhatIfSheet$Bracket" "java/lang/Object") ∈ lw_tbl := lw_at lw_m14 187 rfl
theorem in_X33 : ∀ w ∈ wsX330, w ∈ lw_all := lw_in wsX330 [2507, 2509, 2511, 2513, 2515, 2517, 2519, 2521, 2523, 2525, 2527] (by decide +kernel) (by decide +kernel)
/-! WhatIfSheet$Refused -/
set_option maxRecDepth 100000
def RX4 : String := "WhatIfSheet$Refused"
def TX4 : u_T := fun k => match k with
  | 0 => ("java/lang/Throwable", "cause", "Ljava/lang/Throwable;", false)
  | 1 => ("java/lang/Throwable", "stackTrace", "[Ljava/lang/StackTraceElement;", false)
  | 2 => ("java/lang/Throwable", "suppressedExceptions", "Ljava/util/List;", false)
  | 3 => ("java/lang/Throwable", "detailMessage", "Ljava/lang/String;", false)
  | 4 => ("java/lang/Throwable", "backtrace", "Ljava/lang/Object;", false)
  | 5 => ("java/lang/Throwable", "depth", "I", false)
  | _ => ("WhatIfSheet$Refused", "code", "I", true)
def tyX4 : Nat → FieldType := fun k => match k with
  | 0 => .object "java/lang/Throwable"
  | 1 => .array (.object "java/lang/StackTraceElement")
  | 2 => .object "java/util/List"
  | 3 => .object "java/lang/String"
  | 4 => .object "java/lang/Object"
  | 5 => .int
  | _ => .int
abbrev wsX40 : List Cond := u_ws RX4 TX4 7
theorem nmX4 : ∀ a, a < 7 → ∀ b, b < 7 → a ≠ b → (TX4 a).2.1 ≠ (TX4 b).2.1 := by decide +kernel
theorem tyX4_ok : ∀ k, k < 7 → parseFieldDescriptor (TX4 k).2.2.1 = some (tyX4 k) := by decide +kernel
abbrev cX4_init : ByteArray := prog_23_method_1_code
def yX4_init : MethodName := ⟨RX4, "<init>", "(I)V"⟩
def dkwX4_init_0 : List UInt8 := [42, 1, 1, 3, 3, 183, 0, 1, 42, 27, 181, 0, 7, 177]
abbrev dktX4_init_0 : List UInt8 := dkwX4_init_0 ++ []
theorem dksX4_init_0 : cX4_init.data.toList.drop 0 = dktX4_init_0 := by decide +kernel
theorem dX4_init_0 : decode cX4_init 0 = .ok (.aload_n 0, 1) := dk_42 (dk_at dksX4_init_0 0 rfl rfl)
theorem dX4_init_1 : decode cX4_init 1 = .ok (.aconst_null, 1) := dk_1 (dk_at dksX4_init_0 1 rfl rfl)
theorem dX4_init_2 : decode cX4_init 2 = .ok (.aconst_null, 1) := dk_1 (dk_at dksX4_init_0 2 rfl rfl)
theorem dX4_init_3 : decode cX4_init 3 = .ok (.iconst 0, 1) := dk_3 (dk_at dksX4_init_0 3 rfl rfl)
theorem dX4_init_4 : decode cX4_init 4 = .ok (.iconst 0, 1) := dk_3 (dk_at dksX4_init_0 4 rfl rfl)
theorem dX4_init_5 : decode cX4_init 5 = .ok (.invokespecial 1, 3) := dk_183 0 1 (dk_at dksX4_init_0 5 rfl rfl)
theorem dX4_init_8 : decode cX4_init 8 = .ok (.aload_n 0, 1) := dk_42 (dk_at dksX4_init_0 8 rfl rfl)
theorem dX4_init_9 : decode cX4_init 9 = .ok (.iload_n 1, 1) := dk_27 (dk_at dksX4_init_0 9 rfl rfl)
theorem dX4_init_10 : decode cX4_init 10 = .ok (.putfield 7, 3) := dk_181 0 7 (dk_at dksX4_init_0 10 rfl rfl)
theorem dX4_init_13 : decode cX4_init 13 = .ok (.return_, 1) := dk_177 (dk_at dksX4_init_0 13 rfl rfl)
theorem q161 : (Jvm.Cond.initialized "WhatIfSheet$Refused") ∈ lw_all := lw_g (lw_at lw_m1 31 rfl) rfl
theorem q319 : (Jvm.Cond.selects "WhatIfSheet$Refused" ({ cls := "java/lang/Throwable", name := "fillInStackTrace", desc := "()Ljava/lang/Throwable;" } : Jvm.MethodName) ({ cls := "java/lang/Throwable", name := "fillInStackTrace", desc := "()Ljava/lang/Throwable;" } : Jvm.MethodName)) ∈ lw_all := lw_g (lw_at lw_m1 189 rfl) rfl
theorem q787 : (Jvm.Cond.selects "WhatIfSheet$Refused" ({ cls := "java/lang/Object", name := "equals", desc := "(Ljava/lang/Object;)Z" } : Jvm.MethodName) ({ cls := "java/lang/Object", name := "equals", desc := "(Ljava/lang/Object;)Z" } : Jvm.MethodName)) ∈ lw_all := lw_g (lw_at lw_m3 177 rfl) rfl
theorem q864 : (Jvm.Cond.selects "WhatIfSheet$Refused" ({ cls := "java/lang/Object", name := "getClass", desc := "()Ljava/lang/Class;" } : Jvm.MethodName) ({ cls := "java/lang/Object", name := "getClass", desc := "()Ljava/lang/Class;" } : Jvm.MethodName)) ∈ lw_all := lw_g (lw_at lw_m4 14 rfl) rfl
theorem q1106 : (Jvm.Cond.selects "WhatIfSheet$Refused" ({ cls := "java/lang/Throwable", name := "toString", desc := "()Ljava/lang/String;" } : Jvm.MethodName) ({ cls := "java/lang/Throwable", name := "toString", desc := "()Ljava/lang/String;" } : Jvm.MethodName)) ∈ lw_all := lw_g (lw_at lw_m5 16 rfl) rfl
theorem q1119 : (Jvm.Cond.selects "WhatIfSheet$Refused" ({ cls := "java/lang/Throwable", name := "getLocalizedMessage", desc := "()Ljava/lang/String;" } : Jvm.MethodName) ({ cls := "java/lang/Throwable", name := "getLocalizedMessage", desc := "()Ljava/lang/String;" } : Jvm.MethodName)) ∈ lw_all := lw_g (lw_at lw_m5 29 rfl) rfl
theorem q1131 : (Jvm.Cond.selects "WhatIfSheet$Refused" ({ cls := "java/lang/Throwable", name := "getMessage", desc := "()Ljava/lang/String;" } : Jvm.MethodName) ({ cls := "java/lang/Throwable", name := "getMessage", desc := "()Ljava/lang/String;" } : Jvm.MethodName)) ∈ lw_all := lw_g (lw_at lw_m5 41 rfl) rfl
theorem q1180 : (Jvm.Cond.instantiable "WhatIfSheet$Refused" (7 : Nat)) ∈ lw_all := lw_g (lw_at lw_m5 90 rfl) rfl
theorem q1181 : (Jvm.Cond.castable "WhatIfSheet$Refused" "WhatIfSheet$Refused") ∈ lw_tbl := lw_at lw_m5 91 rfl
theorem q1182 : (Jvm.Cond.selects "WhatIfSheet$Refused" ({ cls := "java/lang/Throwable", name := "fillInStackTrace", desc := "(I)Ljava/lang/Throwable;" } : Jvm.MethodName) ({ cls := "java/lang/Throwable", name := "fillInStackTrace", desc := "(I)Ljava/lang/Throwable;" } : Jvm.MethodName)) ∈ lw_all := lw_g (lw_at lw_m5 92 rfl) rfl
theorem q1183 : (Jvm.Cond.lays "WhatIfSheet$Refused" "java/lang/Throwable" "cause" "Ljava/lang/Throwable;") ∈ lw_all := lw_g (lw_at lw_m5 93 rfl) rfl
theorem q1184 : (Jvm.Cond.lays "WhatIfSheet$Refused" "java/lang/Throwable" "stackTrace" "[Ljava/lang/StackTraceElement;") ∈ lw_all := lw_g (lw_at lw_m5 94 rfl) rfl
theorem q1185 : (Jvm.Cond.lays "WhatIfSheet$Refused" "java/lang/Throwable" "suppressedExceptions" "Ljava/util/List;") ∈ lw_all := lw_g (lw_at lw_m5 95 rfl) rfl
theorem q1186 : (Jvm.Cond.lays "WhatIfSheet$Refused" "java/lang/Throwable" "detailMessage" "Ljava/lang/String;") ∈ lw_all := lw_g (lw_at lw_m5 96 rfl) rfl
theorem q1187 : (Jvm.Cond.lays "WhatIfSheet$Refused" "java/lang/Throwable" "backtrace" "Ljava/lang/Object;") ∈ lw_all := lw_g (lw_at lw_m5 97 rfl) rfl
theorem q1189 : (Jvm.Cond.instanceMethod ({ cls := "WhatIfSheet$Refused", name := "<init>", desc := "(I)V" } : Jvm.MethodName)) ∈ lw_all := lw_g (lw_at lw_m5 99 rfl) rfl
theorem q1190 : (Jvm.Cond.code ({ cls := "WhatIfSheet$Refused", name := "<init>", desc := "(I)V" } : Jvm.MethodName) prog_23_method_1_code (2 : Nat) (Option.none : Option Jvm.ClassFile.FieldType)) ∈ lw_all := lw_g (lw_at lw_m5 100 rfl) rfl
theorem q1191 : (Jvm.Cond.methodLink "WhatIfSheet$Refused" (1 : Nat) ({ cls := "java/lang/Exception", name := "<init>", desc := "(Ljava/lang/String;Ljava/lang/Throwable;ZZ)V" } : Jvm.MethodName)) ∈ lw_all := lw_g (lw_at lw_m5 101 rfl) rfl
theorem q1197 : (Jvm.Cond.fieldLink "WhatIfSheet$Refused" (7 : Nat) "WhatIfSheet$Refused" "code" "I") ∈ lw_all := lw_g (lw_at lw_m5 107 rfl) rfl
theorem q1199 : (Jvm.Cond.laysFinal "WhatIfSheet$Refused" "WhatIfSheet$Refused" "code" "I") ∈ lw_all := lw_g (lw_at lw_m5 109 rfl) rfl
theorem q1200 : (Jvm.Cond.soleField "WhatIfSheet$Refused" "code") ∈ lw_all := lw_g (lw_at lw_m5 110 rfl) rfl
theorem q1201 : (Jvm.Cond.lays "WhatIfSheet$Refused" "java/lang/Throwable" "depth" "I") ∈ lw_all := lw_g (lw_at lw_m5 111 rfl) rfl
theorem q1202 : (Jvm.Cond.superclass "WhatIfSheet$Refused" "java/lang/Exception") ∈ lw_all := lw_g (lw_at lw_m5 112 rfl) rfl
theorem q3406 : (Jvm.Cond.castable "WhatIfSheet$Refused" "java/lang/Object") ∈ lw_tbl := lw_at lw_m14 156 rfl
theorem in_X4 : ∀ w ∈ wsX40, w ∈ lw_all := lw_in wsX40 [1183, 1184, 1185, 1186, 1187, 1201, 1199] (by decide +kernel) (by decide +kernel)
/-! WhatIfSheet$Whole -/
set_option maxRecDepth 100000
def RX6 : String := "WhatIfSheet$Whole"
def TX6 : u_T := fun k => match k with
  | 0 => ("WhatIfSheet$Plain", "number", "I", true)
  | 1 => ("WhatIfSheet$Plain", "formula", "LWhatIfSheet$Formula;", false)
  | _ => ("WhatIfSheet$Plain", "own", "D", false)
def tyX6 : Nat → FieldType := fun k => match k with
  | 0 => .int
  | 1 => .object "WhatIfSheet$Formula"
  | _ => .double
abbrev wsX60 : List Cond := u_ws RX6 TX6 3
theorem nmX6 : ∀ a, a < 3 → ∀ b, b < 3 → a ≠ b → (TX6 a).2.1 ≠ (TX6 b).2.1 := by decide +kernel
theorem tyX6_ok : ∀ k, k < 3 → parseFieldDescriptor (TX6 k).2.2.1 = some (tyX6 k) := by decide +kernel
abbrev cX6_fits : ByteArray := prog_33_method_3_code
def yX6_fits : MethodName := ⟨RX6, "fits", "(D)D"⟩
def dkwX6_fits_0 : List UInt8 := [42, 39, 183, 0, 7, 143, 138, 175]
abbrev dktX6_fits_0 : List UInt8 := dkwX6_fits_0 ++ []
theorem dksX6_fits_0 : cX6_fits.data.toList.drop 0 = dktX6_fits_0 := by decide +kernel
theorem dX6_fits_0 : decode cX6_fits 0 = .ok (.aload_n 0, 1) := dk_42 (dk_at dksX6_fits_0 0 rfl rfl)
theorem dX6_fits_1 : decode cX6_fits 1 = .ok (.dload_n 1, 1) := dk_39 (dk_at dksX6_fits_0 1 rfl rfl)
theorem dX6_fits_2 : decode cX6_fits 2 = .ok (.invokespecial 7, 3) := dk_183 0 7 (dk_at dksX6_fits_0 2 rfl rfl)
theorem dX6_fits_5 : decode cX6_fits 5 = .ok (.d2l, 1) := dk_143 (dk_at dksX6_fits_0 5 rfl rfl)
theorem dX6_fits_6 : decode cX6_fits 6 = .ok (.l2d, 1) := dk_138 (dk_at dksX6_fits_0 6 rfl rfl)
theorem dX6_fits_7 : decode cX6_fits 7 = .ok (.dreturn, 1) := dk_175 (dk_at dksX6_fits_0 7 rfl rfl)
abbrev cX6_kind : ByteArray := prog_33_method_2_code
def yX6_kind : MethodName := ⟨RX6, "kind", "()I"⟩
theorem dX6_kind_0 : decode cX6_kind 0 = .ok (.iconst 1, 1) := by decide +kernel
theorem dX6_kind_1 : decode cX6_kind 1 = .ok (.ireturn, 1) := by decide +kernel
abbrev cX6_init : ByteArray := prog_33_method_1_code
def yX6_init : MethodName := ⟨RX6, "<init>", "(I)V"⟩
def dkwX6_init_0 : List UInt8 := [42, 27, 183, 0, 1, 177]
abbrev dktX6_init_0 : List UInt8 := dkwX6_init_0 ++ []
theorem dksX6_init_0 : cX6_init.data.toList.drop 0 = dktX6_init_0 := by decide +kernel
theorem dX6_init_0 : decode cX6_init 0 = .ok (.aload_n 0, 1) := dk_42 (dk_at dksX6_init_0 0 rfl rfl)
theorem dX6_init_1 : decode cX6_init 1 = .ok (.iload_n 1, 1) := dk_27 (dk_at dksX6_init_0 1 rfl rfl)
theorem dX6_init_2 : decode cX6_init 2 = .ok (.invokespecial 1, 3) := dk_183 0 1 (dk_at dksX6_init_0 2 rfl rfl)
theorem dX6_init_5 : decode cX6_init 5 = .ok (.return_, 1) := dk_177 (dk_at dksX6_init_0 5 rfl rfl)
theorem q163 : (Jvm.Cond.initialized "WhatIfSheet$Whole") ∈ lw_all := lw_g (lw_at lw_m1 33 rfl) rfl
theorem q796 : (Jvm.Cond.selects "WhatIfSheet$Whole" ({ cls := "java/lang/Object", name := "equals", desc := "(Ljava/lang/Object;)Z" } : Jvm.MethodName) ({ cls := "java/lang/Object", name := "equals", desc := "(Ljava/lang/Object;)Z" } : Jvm.MethodName)) ∈ lw_all := lw_g (lw_at lw_m3 186 rfl) rfl
theorem q873 : (Jvm.Cond.selects "WhatIfSheet$Whole" ({ cls := "java/lang/Object", name := "getClass", desc := "()Ljava/lang/Class;" } : Jvm.MethodName) ({ cls := "java/lang/Object", name := "getClass", desc := "()Ljava/lang/Class;" } : Jvm.MethodName)) ∈ lw_all := lw_g (lw_at lw_m4 23 rfl) rfl
theorem q1977 : (Jvm.Cond.selects "WhatIfSheet$Whole" ({ cls := "WhatIfSheet$Plain", name := "isInput", desc := "()Z" } : Jvm.MethodName) ({ cls := "WhatIfSheet$Plain", name := "isInput", desc := "()Z" } : Jvm.MethodName)) ∈ lw_all := lw_g (lw_at lw_m8 167 rfl) rfl
theorem q1988 : (Jvm.Cond.selects "WhatIfSheet$Whole" ({ cls := "WhatIfSheet$Plain", name := "kept", desc := "(D)D" } : Jvm.MethodName) ({ cls := "WhatIfSheet$Plain", name := "kept", desc := "(D)D" } : Jvm.MethodName)) ∈ lw_all := lw_g (lw_at lw_m8 178 rfl) rfl
theorem q2011 : (Jvm.Cond.instanceMethod ({ cls := "WhatIfSheet$Whole", name := "fits", desc := "(D)D" } : Jvm.MethodName)) ∈ lw_all := lw_g (lw_at lw_m8 201 rfl) rfl
theorem q2012 : (Jvm.Cond.code ({ cls := "WhatIfSheet$Whole", name := "fits", desc := "(D)D" } : Jvm.MethodName) prog_33_method_3_code (3 : Nat) (Option.some Jvm.ClassFile.FieldType.double)) ∈ lw_all := lw_g (lw_at lw_m8 202 rfl) rfl
theorem q2013 : (Jvm.Cond.methodLink "WhatIfSheet$Whole" (7 : Nat) ({ cls := "WhatIfSheet$Plain", name := "fits", desc := "(D)D" } : Jvm.MethodName)) ∈ lw_all := lw_g (lw_at lw_m8 203 rfl) rfl
theorem q2014 : (Jvm.Cond.superclass "WhatIfSheet$Whole" "WhatIfSheet$Plain") ∈ lw_all := lw_g (lw_at lw_m8 204 rfl) rfl
theorem q2021 : (Jvm.Cond.selects "WhatIfSheet$Whole" ({ cls := "WhatIfSheet$Plain", name := "fits", desc := "(D)D" } : Jvm.MethodName) ({ cls := "WhatIfSheet$Whole", name := "fits", desc := "(D)D" } : Jvm.MethodName)) ∈ lw_all := lw_g (lw_at lw_m8 211 rfl) rfl
theorem q2047 : (Jvm.Cond.selects "WhatIfSheet$Whole" ({ cls := "WhatIfSheet$Plain", name := "kind", desc := "()I" } : Jvm.MethodName) ({ cls := "WhatIfSheet$Whole", name := "kind", desc := "()I" } : Jvm.MethodName)) ∈ lw_all := lw_g (lw_at lw_m8 237 rfl) rfl
theorem q2048 : (Jvm.Cond.instanceMethod ({ cls := "WhatIfSheet$Whole", name := "kind", desc := "()I" } : Jvm.MethodName)) ∈ lw_all := lw_g (lw_at lw_m8 238 rfl) rfl
theorem q2049 : (Jvm.Cond.code ({ cls := "WhatIfSheet$Whole", name := "kind", desc := "()I" } : Jvm.MethodName) prog_33_method_2_code (1 : Nat) (Option.some Jvm.ClassFile.FieldType.int)) ∈ lw_all := lw_g (lw_at lw_m8 239 rfl) rfl
theorem q2055 : (Jvm.Cond.instantiable "WhatIfSheet$Whole" (3 : Nat)) ∈ lw_all := lw_g (lw_at lw_m9 5 rfl) rfl
theorem q2057 : (Jvm.Cond.instanceMethod ({ cls := "WhatIfSheet$Whole", name := "<init>", desc := "(I)V" } : Jvm.MethodName)) ∈ lw_all := lw_g (lw_at lw_m9 7 rfl) rfl
theorem q2058 : (Jvm.Cond.code ({ cls := "WhatIfSheet$Whole", name := "<init>", desc := "(I)V" } : Jvm.MethodName) prog_33_method_1_code (2 : Nat) (Option.none : Option Jvm.ClassFile.FieldType)) ∈ lw_all := lw_g (lw_at lw_m9 8 rfl) rfl
theorem q2059 : (Jvm.Cond.methodLink "WhatIfSheet$Whole" (1 : Nat) ({ cls := "WhatIfSheet$Plain", name := "<init>", desc := "(I)V" } : Jvm.MethodName)) ∈ lw_all := lw_g (lw_at lw_m9 9 rfl) rfl
theorem q2060 : (Jvm.Cond.laysFinal "WhatIfSheet$Whole" "WhatIfSheet$Plain" "number" "I") ∈ lw_all := lw_g (lw_at lw_m9 10 rfl) rfl
theorem q2061 : (Jvm.Cond.lays "WhatIfSheet$Whole" "WhatIfSheet$Plain" "formula" "LWhatIfSheet$Formula;") ∈ lw_all := lw_g (lw_at lw_m9 11 rfl) rfl
theorem q2062 : (Jvm.Cond.lays "WhatIfSheet$Whole" "WhatIfSheet$Plain" "own" "D") ∈ lw_all := lw_g (lw_at lw_m9 12 rfl) rfl
theorem q2107 : (Jvm.Cond.selects "WhatIfSheet$Whole" ({ cls := "WhatIfSheet$Plain", name := "like", desc := "(LWhatIfSheet$Plain;)LWhatIfSheet$Plain;" } : Jvm.MethodName) ({ cls := "WhatIfSheet$Plain", name := "like", desc := "(LWhatIfSheet$Plain;)LWhatIfSheet$Plain;" } : Jvm.MethodName)) ∈ lw_all := lw_g (lw_at lw_m9 57 rfl) rfl
theorem q2117 : (Jvm.Cond.selects "WhatIfSheet$Whole" ({ cls := "WhatIfSheet$Plain", name := "isEmpty", desc := "()Z" } : Jvm.MethodName) ({ cls := "WhatIfSheet$Plain", name := "isEmpty", desc := "()Z" } : Jvm.MethodName)) ∈ lw_all := lw_g (lw_at lw_m9 67 rfl) rfl
theorem q3362 : (Jvm.Cond.sameMethod "WhatIfSheet$Whole" "WhatIfSheet$Whole" "fits" "(D)D") ∈ lw_all := lw_g (lw_at lw_m14 112 rfl) rfl
theorem q3368 : (Jvm.Cond.sameMethod "WhatIfSheet$Whole" "WhatIfSheet$Whole" "kind" "()I") ∈ lw_all := lw_g (lw_at lw_m14 118 rfl) rfl
theorem q3370 : (Jvm.Cond.selects "WhatIfSheet$Whole" ({ cls := "WhatIfSheet$Whole", name := "kind", desc := "()I" } : Jvm.MethodName) ({ cls := "WhatIfSheet$Whole", name := "kind", desc := "()I" } : Jvm.MethodName)) ∈ lw_all := lw_g (lw_at lw_m14 120 rfl) rfl
theorem q3388 : (Jvm.Cond.castable "WhatIfSheet$Whole" "WhatIfSheet$Plain") ∈ lw_tbl := lw_at lw_m14 138 rfl
theorem q3408 : (Jvm.Cond.castable "WhatIfSheet$Whole" "java/lang/Object") ∈ lw_tbl := lw_at lw_m14 158 rfl
theorem in_X6 : ∀ w ∈ wsX60, w ∈ lw_all := lw_in wsX60 [2060, 2061, 2062] (by decide +kernel) (by decide +kernel)
/-! WhatIfSheet$Single -/
set_option maxRecDepth 100000
def RX7 : String := "WhatIfSheet$Single"
def TX7 : u_T := fun k => match k with
  | 0 => ("WhatIfSheet$Plain", "number", "I", true)
  | 1 => ("WhatIfSheet$Plain", "formula", "LWhatIfSheet$Formula;", false)
  | _ => ("WhatIfSheet$Plain", "own", "D", false)
def tyX7 : Nat → FieldType := fun k => match k with
  | 0 => .int
  | 1 => .object "WhatIfSheet$Formula"
  | _ => .double
abbrev wsX70 : List Cond := u_ws RX7 TX7 3
theorem nmX7 : ∀ a, a < 3 → ∀ b, b < 3 → a ≠ b → (TX7 a).2.1 ≠ (TX7 b).2.1 := by decide +kernel
theorem tyX7_ok : ∀ k, k < 3 → parseFieldDescriptor (TX7 k).2.2.1 = some (tyX7 k) := by decide +kernel
abbrev cX7_fits : ByteArray := prog_26_method_3_code
def yX7_fits : MethodName := ⟨RX7, "fits", "(D)D"⟩
def dkwX7_fits_0 : List UInt8 := [42, 39, 183, 0, 7, 144, 141, 175]
abbrev dktX7_fits_0 : List UInt8 := dkwX7_fits_0 ++ []
theorem dksX7_fits_0 : cX7_fits.data.toList.drop 0 = dktX7_fits_0 := by decide +kernel
theorem dX7_fits_0 : decode cX7_fits 0 = .ok (.aload_n 0, 1) := dk_42 (dk_at dksX7_fits_0 0 rfl rfl)
theorem dX7_fits_1 : decode cX7_fits 1 = .ok (.dload_n 1, 1) := dk_39 (dk_at dksX7_fits_0 1 rfl rfl)
theorem dX7_fits_2 : decode cX7_fits 2 = .ok (.invokespecial 7, 3) := dk_183 0 7 (dk_at dksX7_fits_0 2 rfl rfl)
theorem dX7_fits_5 : decode cX7_fits 5 = .ok (.d2f, 1) := dk_144 (dk_at dksX7_fits_0 5 rfl rfl)
theorem dX7_fits_6 : decode cX7_fits 6 = .ok (.f2d, 1) := dk_141 (dk_at dksX7_fits_0 6 rfl rfl)
theorem dX7_fits_7 : decode cX7_fits 7 = .ok (.dreturn, 1) := dk_175 (dk_at dksX7_fits_0 7 rfl rfl)
abbrev cX7_kind : ByteArray := prog_26_method_2_code
def yX7_kind : MethodName := ⟨RX7, "kind", "()I"⟩
theorem dX7_kind_0 : decode cX7_kind 0 = .ok (.iconst 2, 1) := by decide +kernel
theorem dX7_kind_1 : decode cX7_kind 1 = .ok (.ireturn, 1) := by decide +kernel
abbrev cX7_init : ByteArray := prog_26_method_1_code
def yX7_init : MethodName := ⟨RX7, "<init>", "(I)V"⟩
def dkwX7_init_0 : List UInt8 := [42, 27, 183, 0, 1, 177]
abbrev dktX7_init_0 : List UInt8 := dkwX7_init_0 ++ []
theorem dksX7_init_0 : cX7_init.data.toList.drop 0 = dktX7_init_0 := by decide +kernel
theorem dX7_init_0 : decode cX7_init 0 = .ok (.aload_n 0, 1) := dk_42 (dk_at dksX7_init_0 0 rfl rfl)
theorem dX7_init_1 : decode cX7_init 1 = .ok (.iload_n 1, 1) := dk_27 (dk_at dksX7_init_0 1 rfl rfl)
theorem dX7_init_2 : decode cX7_init 2 = .ok (.invokespecial 1, 3) := dk_183 0 1 (dk_at dksX7_init_0 2 rfl rfl)
theorem dX7_init_5 : decode cX7_init 5 = .ok (.return_, 1) := dk_177 (dk_at dksX7_init_0 5 rfl rfl)
theorem q164 : (Jvm.Cond.initialized "WhatIfSheet$Single") ∈ lw_all := lw_g (lw_at lw_m1 34 rfl) rfl
theorem q790 : (Jvm.Cond.selects "WhatIfSheet$Single" ({ cls := "java/lang/Object", name := "equals", desc := "(Ljava/lang/Object;)Z" } : Jvm.MethodName) ({ cls := "java/lang/Object", name := "equals", desc := "(Ljava/lang/Object;)Z" } : Jvm.MethodName)) ∈ lw_all := lw_g (lw_at lw_m3 180 rfl) rfl
theorem q867 : (Jvm.Cond.selects "WhatIfSheet$Single" ({ cls := "java/lang/Object", name := "getClass", desc := "()Ljava/lang/Class;" } : Jvm.MethodName) ({ cls := "java/lang/Object", name := "getClass", desc := "()Ljava/lang/Class;" } : Jvm.MethodName)) ∈ lw_all := lw_g (lw_at lw_m4 17 rfl) rfl
theorem q1974 : (Jvm.Cond.selects "WhatIfSheet$Single" ({ cls := "WhatIfSheet$Plain", name := "isInput", desc := "()Z" } : Jvm.MethodName) ({ cls := "WhatIfSheet$Plain", name := "isInput", desc := "()Z" } : Jvm.MethodName)) ∈ lw_all := lw_g (lw_at lw_m8 164 rfl) rfl
theorem q1985 : (Jvm.Cond.selects "WhatIfSheet$Single" ({ cls := "WhatIfSheet$Plain", name := "kept", desc := "(D)D" } : Jvm.MethodName) ({ cls := "WhatIfSheet$Plain", name := "kept", desc := "(D)D" } : Jvm.MethodName)) ∈ lw_all := lw_g (lw_at lw_m8 175 rfl) rfl
theorem q2001 : (Jvm.Cond.selects "WhatIfSheet$Single" ({ cls := "WhatIfSheet$Plain", name := "fits", desc := "(D)D" } : Jvm.MethodName) ({ cls := "WhatIfSheet$Single", name := "fits", desc := "(D)D" } : Jvm.MethodName)) ∈ lw_all := lw_g (lw_at lw_m8 191 rfl) rfl
theorem q2002 : (Jvm.Cond.instanceMethod ({ cls := "WhatIfSheet$Single", name := "fits", desc := "(D)D" } : Jvm.MethodName)) ∈ lw_all := lw_g (lw_at lw_m8 192 rfl) rfl
theorem q2003 : (Jvm.Cond.code ({ cls := "WhatIfSheet$Single", name := "fits", desc := "(D)D" } : Jvm.MethodName) prog_26_method_3_code (3 : Nat) (Option.some Jvm.ClassFile.FieldType.double)) ∈ lw_all := lw_g (lw_at lw_m8 193 rfl) rfl
theorem q2004 : (Jvm.Cond.methodLink "WhatIfSheet$Single" (7 : Nat) ({ cls := "WhatIfSheet$Plain", name := "fits", desc := "(D)D" } : Jvm.MethodName)) ∈ lw_all := lw_g (lw_at lw_m8 194 rfl) rfl
theorem q2005 : (Jvm.Cond.superclass "WhatIfSheet$Single" "WhatIfSheet$Plain") ∈ lw_all := lw_g (lw_at lw_m8 195 rfl) rfl
theorem q2038 : (Jvm.Cond.selects "WhatIfSheet$Single" ({ cls := "WhatIfSheet$Plain", name := "kind", desc := "()I" } : Jvm.MethodName) ({ cls := "WhatIfSheet$Single", name := "kind", desc := "()I" } : Jvm.MethodName)) ∈ lw_all := lw_g (lw_at lw_m8 228 rfl) rfl
theorem q2039 : (Jvm.Cond.instanceMethod ({ cls := "WhatIfSheet$Single", name := "kind", desc := "()I" } : Jvm.MethodName)) ∈ lw_all := lw_g (lw_at lw_m8 229 rfl) rfl
theorem q2040 : (Jvm.Cond.code ({ cls := "WhatIfSheet$Single", name := "kind", desc := "()I" } : Jvm.MethodName) prog_26_method_2_code (1 : Nat) (Option.some Jvm.ClassFile.FieldType.int)) ∈ lw_all := lw_g (lw_at lw_m8 230 rfl) rfl
theorem q2064 : (Jvm.Cond.instantiable "WhatIfSheet$Single" (3 : Nat)) ∈ lw_all := lw_g (lw_at lw_m9 14 rfl) rfl
theorem q2066 : (Jvm.Cond.instanceMethod ({ cls := "WhatIfSheet$Single", name := "<init>", desc := "(I)V" } : Jvm.MethodName)) ∈ lw_all := lw_g (lw_at lw_m9 16 rfl) rfl
theorem q2067 : (Jvm.Cond.code ({ cls := "WhatIfSheet$Single", name := "<init>", desc := "(I)V" } : Jvm.MethodName) prog_26_method_1_code (2 : Nat) (Option.none : Option Jvm.ClassFile.FieldType)) ∈ lw_all := lw_g (lw_at lw_m9 17 rfl) rfl
theorem q2068 : (Jvm.Cond.methodLink "WhatIfSheet$Single" (1 : Nat) ({ cls := "WhatIfSheet$Plain", name := "<init>", desc := "(I)V" } : Jvm.MethodName)) ∈ lw_all := lw_g (lw_at lw_m9 18 rfl) rfl
theorem q2069 : (Jvm.Cond.laysFinal "WhatIfSheet$Single" "WhatIfSheet$Plain" "number" "I") ∈ lw_all := lw_g (lw_at lw_m9 19 rfl) rfl
theorem q2070 : (Jvm.Cond.lays "WhatIfSheet$Single" "WhatIfSheet$Plain" "formula" "LWhatIfSheet$Formula;") ∈ lw_all := lw_g (lw_at lw_m9 20 rfl) rfl
theorem q2071 : (Jvm.Cond.lays "WhatIfSheet$Single" "WhatIfSheet$Plain" "own" "D") ∈ lw_all := lw_g (lw_at lw_m9 21 rfl) rfl
theorem q2104 : (Jvm.Cond.selects "WhatIfSheet$Single" ({ cls := "WhatIfSheet$Plain", name := "like", desc := "(LWhatIfSheet$Plain;)LWhatIfSheet$Plain;" } : Jvm.MethodName) ({ cls := "WhatIfSheet$Plain", name := "like", desc := "(LWhatIfSheet$Plain;)LWhatIfSheet$Plain;" } : Jvm.MethodName)) ∈ lw_all := lw_g (lw_at lw_m9 54 rfl) rfl
theorem q2114 : (Jvm.Cond.selects "WhatIfSheet$Single" ({ cls := "WhatIfSheet$Plain", name := "isEmpty", desc := "()Z" } : Jvm.MethodName) ({ cls := "WhatIfSheet$Plain", name := "isEmpty", desc := "()Z" } : Jvm.MethodName)) ∈ lw_all := lw_g (lw_at lw_m9 64 rfl) rfl
theorem q3363 : (Jvm.Cond.sameMethod "WhatIfSheet$Single" "WhatIfSheet$Single" "fits" "(D)D") ∈ lw_all := lw_g (lw_at lw_m14 113 rfl) rfl
theorem q3371 : (Jvm.Cond.sameMethod "WhatIfSheet$Single" "WhatIfSheet$Single" "kind" "()I") ∈ lw_all := lw_g (lw_at lw_m14 121 rfl) rfl
theorem q3372 : (Jvm.Cond.selects "WhatIfSheet$Single" ({ cls := "WhatIfSheet$Single", name := "kind", desc := "()I" } : Jvm.MethodName) ({ cls := "WhatIfSheet$Single", name := "kind", desc := "()I" } : Jvm.MethodName)) ∈ lw_all := lw_g (lw_at lw_m14 122 rfl) rfl
theorem q3385 : (Jvm.Cond.castable "WhatIfSheet$Single" "WhatIfSheet$Plain") ∈ lw_tbl := lw_at lw_m14 135 rfl
theorem q3409 : (Jvm.Cond.castable "WhatIfSheet$Single" "java/lang/Object") ∈ lw_tbl := lw_at lw_m14 159 rfl
theorem in_X7 : ∀ w ∈ wsX70, w ∈ lw_all := lw_in wsX70 [2069, 2070, 2071] (by decide +kernel) (by decide +kernel)
/-! WhatIfSheet$Small -/
set_option maxRecDepth 100000
def RX8 : String := "WhatIfSheet$Small"
def TX8 : u_T := fun k => match k with
  | 0 => ("WhatIfSheet$Plain", "number", "I", true)
  | 1 => ("WhatIfSheet$Plain", "formula", "LWhatIfSheet$Formula;", false)
  | _ => ("WhatIfSheet$Plain", "own", "D", false)
def tyX8 : Nat → FieldType := fun k => match k with
  | 0 => .int
  | 1 => .object "WhatIfSheet$Formula"
  | _ => .double
abbrev wsX80 : List Cond := u_ws RX8 TX8 3
theorem nmX8 : ∀ a, a < 3 → ∀ b, b < 3 → a ≠ b → (TX8 a).2.1 ≠ (TX8 b).2.1 := by decide +kernel
theorem tyX8_ok : ∀ k, k < 3 → parseFieldDescriptor (TX8 k).2.2.1 = some (tyX8 k) := by decide +kernel
abbrev cX8_fits : ByteArray := prog_27_method_3_code
def yX8_fits : MethodName := ⟨RX8, "fits", "(D)D"⟩
def dkwX8_fits_0 : List UInt8 := [42, 39, 183, 0, 7, 143, 136, 145, 135, 175]
abbrev dktX8_fits_0 : List UInt8 := dkwX8_fits_0 ++ []
theorem dksX8_fits_0 : cX8_fits.data.toList.drop 0 = dktX8_fits_0 := by decide +kernel
theorem dX8_fits_0 : decode cX8_fits 0 = .ok (.aload_n 0, 1) := dk_42 (dk_at dksX8_fits_0 0 rfl rfl)
theorem dX8_fits_1 : decode cX8_fits 1 = .ok (.dload_n 1, 1) := dk_39 (dk_at dksX8_fits_0 1 rfl rfl)
theorem dX8_fits_2 : decode cX8_fits 2 = .ok (.invokespecial 7, 3) := dk_183 0 7 (dk_at dksX8_fits_0 2 rfl rfl)
theorem dX8_fits_5 : decode cX8_fits 5 = .ok (.d2l, 1) := dk_143 (dk_at dksX8_fits_0 5 rfl rfl)
theorem dX8_fits_6 : decode cX8_fits 6 = .ok (.l2i, 1) := dk_136 (dk_at dksX8_fits_0 6 rfl rfl)
theorem dX8_fits_7 : decode cX8_fits 7 = .ok (.i2b, 1) := dk_145 (dk_at dksX8_fits_0 7 rfl rfl)
theorem dX8_fits_8 : decode cX8_fits 8 = .ok (.i2d, 1) := dk_135 (dk_at dksX8_fits_0 8 rfl rfl)
theorem dX8_fits_9 : decode cX8_fits 9 = .ok (.dreturn, 1) := dk_175 (dk_at dksX8_fits_0 9 rfl rfl)
abbrev cX8_kind : ByteArray := prog_27_method_2_code
def yX8_kind : MethodName := ⟨RX8, "kind", "()I"⟩
theorem dX8_kind_0 : decode cX8_kind 0 = .ok (.iconst 3, 1) := by decide +kernel
theorem dX8_kind_1 : decode cX8_kind 1 = .ok (.ireturn, 1) := by decide +kernel
abbrev cX8_init : ByteArray := prog_27_method_1_code
def yX8_init : MethodName := ⟨RX8, "<init>", "(I)V"⟩
def dkwX8_init_0 : List UInt8 := [42, 27, 183, 0, 1, 177]
abbrev dktX8_init_0 : List UInt8 := dkwX8_init_0 ++ []
theorem dksX8_init_0 : cX8_init.data.toList.drop 0 = dktX8_init_0 := by decide +kernel
theorem dX8_init_0 : decode cX8_init 0 = .ok (.aload_n 0, 1) := dk_42 (dk_at dksX8_init_0 0 rfl rfl)
theorem dX8_init_1 : decode cX8_init 1 = .ok (.iload_n 1, 1) := dk_27 (dk_at dksX8_init_0 1 rfl rfl)
theorem dX8_init_2 : decode cX8_init 2 = .ok (.invokespecial 1, 3) := dk_183 0 1 (dk_at dksX8_init_0 2 rfl rfl)
theorem dX8_init_5 : decode cX8_init 5 = .ok (.return_, 1) := dk_177 (dk_at dksX8_init_0 5 rfl rfl)
theorem q165 : (Jvm.Cond.initialized "WhatIfSheet$Small") ∈ lw_all := lw_g (lw_at lw_m1 35 rfl) rfl
theorem q791 : (Jvm.Cond.selects "WhatIfSheet$Small" ({ cls := "java/lang/Object", name := "equals", desc := "(Ljava/lang/Object;)Z" } : Jvm.MethodName) ({ cls := "java/lang/Object", name := "equals", desc := "(Ljava/lang/Object;)Z" } : Jvm.MethodName)) ∈ lw_all := lw_g (lw_at lw_m3 181 rfl) rfl
theorem q868 : (Jvm.Cond.selects "WhatIfSheet$Small" ({ cls := "java/lang/Object", name := "getClass", desc := "()Ljava/lang/Class;" } : Jvm.MethodName) ({ cls := "java/lang/Object", name := "getClass", desc := "()Ljava/lang/Class;" } : Jvm.MethodName)) ∈ lw_all := lw_g (lw_at lw_m4 18 rfl) rfl
theorem q1975 : (Jvm.Cond.selects "WhatIfSheet$Small" ({ cls := "WhatIfSheet$Plain", name := "isInput", desc := "()Z" } : Jvm.MethodName) ({ cls := "WhatIfSheet$Plain", name := "isInput", desc := "()Z" } : Jvm.MethodName)) ∈ lw_all := lw_g (lw_at lw_m8 165 rfl) rfl
theorem q1986 : (Jvm.Cond.selects "WhatIfSheet$Small" ({ cls := "WhatIfSheet$Plain", name := "kept", desc := "(D)D" } : Jvm.MethodName) ({ cls := "WhatIfSheet$Plain", name := "kept", desc := "(D)D" } : Jvm.MethodName)) ∈ lw_all := lw_g (lw_at lw_m8 176 rfl) rfl
theorem q2006 : (Jvm.Cond.selects "WhatIfSheet$Small" ({ cls := "WhatIfSheet$Plain", name := "fits", desc := "(D)D" } : Jvm.MethodName) ({ cls := "WhatIfSheet$Small", name := "fits", desc := "(D)D" } : Jvm.MethodName)) ∈ lw_all := lw_g (lw_at lw_m8 196 rfl) rfl
theorem q2007 : (Jvm.Cond.instanceMethod ({ cls := "WhatIfSheet$Small", name := "fits", desc := "(D)D" } : Jvm.MethodName)) ∈ lw_all := lw_g (lw_at lw_m8 197 rfl) rfl
theorem q2008 : (Jvm.Cond.code ({ cls := "WhatIfSheet$Small", name := "fits", desc := "(D)D" } : Jvm.MethodName) prog_27_method_3_code (3 : Nat) (Option.some Jvm.ClassFile.FieldType.double)) ∈ lw_all := lw_g (lw_at lw_m8 198 rfl) rfl
theorem q2009 : (Jvm.Cond.methodLink "WhatIfSheet$Small" (7 : Nat) ({ cls := "WhatIfSheet$Whole", name := "fits", desc := "(D)D" } : Jvm.MethodName)) ∈ lw_all := lw_g (lw_at lw_m8 199 rfl) rfl
theorem q2010 : (Jvm.Cond.superclass "WhatIfSheet$Small" "WhatIfSheet$Whole") ∈ lw_all := lw_g (lw_at lw_m8 200 rfl) rfl
theorem q2041 : (Jvm.Cond.selects "WhatIfSheet$Small" ({ cls := "WhatIfSheet$Plain", name := "kind", desc := "()I" } : Jvm.MethodName) ({ cls := "WhatIfSheet$Small", name := "kind", desc := "()I" } : Jvm.MethodName)) ∈ lw_all := lw_g (lw_at lw_m8 231 rfl) rfl
theorem q2042 : (Jvm.Cond.instanceMethod ({ cls := "WhatIfSheet$Small", name := "kind", desc := "()I" } : Jvm.MethodName)) ∈ lw_all := lw_g (lw_at lw_m8 232 rfl) rfl
theorem q2043 : (Jvm.Cond.code ({ cls := "WhatIfSheet$Small", name := "kind", desc := "()I" } : Jvm.MethodName) prog_27_method_2_code (1 : Nat) (Option.some Jvm.ClassFile.FieldType.int)) ∈ lw_all := lw_g (lw_at lw_m8 233 rfl) rfl
theorem q2073 : (Jvm.Cond.instantiable "WhatIfSheet$Small" (3 : Nat)) ∈ lw_all := lw_g (lw_at lw_m9 23 rfl) rfl
theorem q2075 : (Jvm.Cond.instanceMethod ({ cls := "WhatIfSheet$Small", name := "<init>", desc := "(I)V" } : Jvm.MethodName)) ∈ lw_all := lw_g (lw_at lw_m9 25 rfl) rfl
theorem q2076 : (Jvm.Cond.code ({ cls := "WhatIfSheet$Small", name := "<init>", desc := "(I)V" } : Jvm.MethodName) prog_27_method_1_code (2 : Nat) (Option.none : Option Jvm.ClassFile.FieldType)) ∈ lw_all := lw_g (lw_at lw_m9 26 rfl) rfl
theorem q2077 : (Jvm.Cond.methodLink "WhatIfSheet$Small" (1 : Nat) ({ cls := "WhatIfSheet$Whole", name := "<init>", desc := "(I)V" } : Jvm.MethodName)) ∈ lw_all := lw_g (lw_at lw_m9 27 rfl) rfl
theorem q2078 : (Jvm.Cond.laysFinal "WhatIfSheet$Small" "WhatIfSheet$Plain" "number" "I") ∈ lw_all := lw_g (lw_at lw_m9 28 rfl) rfl
theorem q2079 : (Jvm.Cond.lays "WhatIfSheet$Small" "WhatIfSheet$Plain" "formula" "LWhatIfSheet$Formula;") ∈ lw_all := lw_g (lw_at lw_m9 29 rfl) rfl
theorem q2080 : (Jvm.Cond.lays "WhatIfSheet$Small" "WhatIfSheet$Plain" "own" "D") ∈ lw_all := lw_g (lw_at lw_m9 30 rfl) rfl
theorem q2105 : (Jvm.Cond.selects "WhatIfSheet$Small" ({ cls := "WhatIfSheet$Plain", name := "like", desc := "(LWhatIfSheet$Plain;)LWhatIfSheet$Plain;" } : Jvm.MethodName) ({ cls := "WhatIfSheet$Plain", name := "like", desc := "(LWhatIfSheet$Plain;)LWhatIfSheet$Plain;" } : Jvm.MethodName)) ∈ lw_all := lw_g (lw_at lw_m9 55 rfl) rfl
theorem q2115 : (Jvm.Cond.selects "WhatIfSheet$Small" ({ cls := "WhatIfSheet$Plain", name := "isEmpty", desc := "()Z" } : Jvm.MethodName) ({ cls := "WhatIfSheet$Plain", name := "isEmpty", desc := "()Z" } : Jvm.MethodName)) ∈ lw_all := lw_g (lw_at lw_m9 65 rfl) rfl
theorem q3369 : (Jvm.Cond.selects "WhatIfSheet$Small" ({ cls := "WhatIfSheet$Whole", name := "kind", desc := "()I" } : Jvm.MethodName) ({ cls := "WhatIfSheet$Small", name := "kind", desc := "()I" } : Jvm.MethodName)) ∈ lw_all := lw_g (lw_at lw_m14 119 rfl) rfl
theorem q3374 : (Jvm.Cond.selects "WhatIfSheet$Small" ({ cls := "WhatIfSheet$Small", name := "kind", desc := "()I" } : Jvm.MethodName) ({ cls := "WhatIfSheet$Small", name := "kind", desc := "()I" } : Jvm.MethodName)) ∈ lw_all := lw_g (lw_at lw_m14 124 rfl) rfl
theorem q3386 : (Jvm.Cond.castable "WhatIfSheet$Small" "WhatIfSheet$Plain") ∈ lw_tbl := lw_at lw_m14 136 rfl
theorem q3389 : (Jvm.Cond.castable "WhatIfSheet$Small" "WhatIfSheet$Whole") ∈ lw_tbl := lw_at lw_m14 139 rfl
theorem q3410 : (Jvm.Cond.castable "WhatIfSheet$Small" "java/lang/Object") ∈ lw_tbl := lw_at lw_m14 160 rfl
theorem in_X8 : ∀ w ∈ wsX80, w ∈ lw_all := lw_in wsX80 [2078, 2079, 2080] (by decide +kernel) (by decide +kernel)
/-! WhatIfSheet$Turn -/
set_option maxRecDepth 100000
def RX9 : String := "WhatIfSheet$Turn"
def TX9 : u_T := fun k => match k with
  | 0 => ("WhatIfSheet$Plain", "number", "I", true)
  | 1 => ("WhatIfSheet$Plain", "formula", "LWhatIfSheet$Formula;", false)
  | _ => ("WhatIfSheet$Plain", "own", "D", false)
def tyX9 : Nat → FieldType := fun k => match k with
  | 0 => .int
  | 1 => .object "WhatIfSheet$Formula"
  | _ => .double
abbrev wsX90 : List Cond := u_ws RX9 TX9 3
theorem nmX9 : ∀ a, a < 3 → ∀ b, b < 3 → a ≠ b → (TX9 a).2.1 ≠ (TX9 b).2.1 := by decide +kernel
theorem tyX9_ok : ∀ k, k < 3 → parseFieldDescriptor (TX9 k).2.2.1 = some (tyX9 k) := by decide +kernel
abbrev cX9_fits : ByteArray := prog_31_method_3_code
def yX9_fits : MethodName := ⟨RX9, "fits", "(D)D"⟩
def dkwX9_fits_0 : List UInt8 := [42, 39, 183, 0, 7, 144, 18, 11, 114, 141, 175]
abbrev dktX9_fits_0 : List UInt8 := dkwX9_fits_0 ++ []
theorem dksX9_fits_0 : cX9_fits.data.toList.drop 0 = dktX9_fits_0 := by decide +kernel
theorem dX9_fits_0 : decode cX9_fits 0 = .ok (.aload_n 0, 1) := dk_42 (dk_at dksX9_fits_0 0 rfl rfl)
theorem dX9_fits_1 : decode cX9_fits 1 = .ok (.dload_n 1, 1) := dk_39 (dk_at dksX9_fits_0 1 rfl rfl)
theorem dX9_fits_2 : decode cX9_fits 2 = .ok (.invokespecial 7, 3) := dk_183 0 7 (dk_at dksX9_fits_0 2 rfl rfl)
theorem dX9_fits_5 : decode cX9_fits 5 = .ok (.d2f, 1) := dk_144 (dk_at dksX9_fits_0 5 rfl rfl)
theorem dX9_fits_6 : decode cX9_fits 6 = .ok (.ldc 11, 2) := dk_18 11 (dk_at dksX9_fits_0 6 rfl rfl)
theorem dX9_fits_8 : decode cX9_fits 8 = .ok (.frem, 1) := dk_114 (dk_at dksX9_fits_0 8 rfl rfl)
theorem dX9_fits_9 : decode cX9_fits 9 = .ok (.f2d, 1) := dk_141 (dk_at dksX9_fits_0 9 rfl rfl)
theorem dX9_fits_10 : decode cX9_fits 10 = .ok (.dreturn, 1) := dk_175 (dk_at dksX9_fits_0 10 rfl rfl)
abbrev cX9_kind : ByteArray := prog_31_method_2_code
def yX9_kind : MethodName := ⟨RX9, "kind", "()I"⟩
theorem dX9_kind_0 : decode cX9_kind 0 = .ok (.iconst 4, 1) := by decide +kernel
theorem dX9_kind_1 : decode cX9_kind 1 = .ok (.ireturn, 1) := by decide +kernel
abbrev cX9_init : ByteArray := prog_31_method_1_code
def yX9_init : MethodName := ⟨RX9, "<init>", "(I)V"⟩
def dkwX9_init_0 : List UInt8 := [42, 27, 183, 0, 1, 177]
abbrev dktX9_init_0 : List UInt8 := dkwX9_init_0 ++ []
theorem dksX9_init_0 : cX9_init.data.toList.drop 0 = dktX9_init_0 := by decide +kernel
theorem dX9_init_0 : decode cX9_init 0 = .ok (.aload_n 0, 1) := dk_42 (dk_at dksX9_init_0 0 rfl rfl)
theorem dX9_init_1 : decode cX9_init 1 = .ok (.iload_n 1, 1) := dk_27 (dk_at dksX9_init_0 1 rfl rfl)
theorem dX9_init_2 : decode cX9_init 2 = .ok (.invokespecial 1, 3) := dk_183 0 1 (dk_at dksX9_init_0 2 rfl rfl)
theorem dX9_init_5 : decode cX9_init 5 = .ok (.return_, 1) := dk_177 (dk_at dksX9_init_0 5 rfl rfl)
theorem q166 : (Jvm.Cond.initialized "WhatIfSheet$Turn") ∈ lw_all := lw_g (lw_at lw_m1 36 rfl) rfl
theorem q795 : (Jvm.Cond.selects "WhatIfSheet$Turn" ({ cls := "java/lang/Object", name := "equals", desc := "(Ljava/lang/Object;)Z" } : Jvm.MethodName) ({ cls := "java/lang/Object", name := "equals", desc := "(Ljava/lang/Object;)Z" } : Jvm.MethodName)) ∈ lw_all := lw_g (lw_at lw_m3 185 rfl) rfl
theorem q872 : (Jvm.Cond.selects "WhatIfSheet$Turn" ({ cls := "java/lang/Object", name := "getClass", desc := "()Ljava/lang/Class;" } : Jvm.MethodName) ({ cls := "java/lang/Object", name := "getClass", desc := "()Ljava/lang/Class;" } : Jvm.MethodName)) ∈ lw_all := lw_g (lw_at lw_m4 22 rfl) rfl
theorem q1976 : (Jvm.Cond.selects "WhatIfSheet$Turn" ({ cls := "WhatIfSheet$Plain", name := "isInput", desc := "()Z" } : Jvm.MethodName) ({ cls := "WhatIfSheet$Plain", name := "isInput", desc := "()Z" } : Jvm.MethodName)) ∈ lw_all := lw_g (lw_at lw_m8 166 rfl) rfl
theorem q1987 : (Jvm.Cond.selects "WhatIfSheet$Turn" ({ cls := "WhatIfSheet$Plain", name := "kept", desc := "(D)D" } : Jvm.MethodName) ({ cls := "WhatIfSheet$Plain", name := "kept", desc := "(D)D" } : Jvm.MethodName)) ∈ lw_all := lw_g (lw_at lw_m8 177 rfl) rfl
theorem q2015 : (Jvm.Cond.selects "WhatIfSheet$Turn" ({ cls := "WhatIfSheet$Plain", name := "fits", desc := "(D)D" } : Jvm.MethodName) ({ cls := "WhatIfSheet$Turn", name := "fits", desc := "(D)D" } : Jvm.MethodName)) ∈ lw_all := lw_g (lw_at lw_m8 205 rfl) rfl
theorem q2016 : (Jvm.Cond.instanceMethod ({ cls := "WhatIfSheet$Turn", name := "fits", desc := "(D)D" } : Jvm.MethodName)) ∈ lw_all := lw_g (lw_at lw_m8 206 rfl) rfl
theorem q2017 : (Jvm.Cond.code ({ cls := "WhatIfSheet$Turn", name := "fits", desc := "(D)D" } : Jvm.MethodName) prog_31_method_3_code (3 : Nat) (Option.some Jvm.ClassFile.FieldType.double)) ∈ lw_all := lw_g (lw_at lw_m8 207 rfl) rfl
theorem q2018 : (Jvm.Cond.methodLink "WhatIfSheet$Turn" (7 : Nat) ({ cls := "WhatIfSheet$Single", name := "fits", desc := "(D)D" } : Jvm.MethodName)) ∈ lw_all := lw_g (lw_at lw_m8 208 rfl) rfl
theorem q2019 : (Jvm.Cond.superclass "WhatIfSheet$Turn" "WhatIfSheet$Single") ∈ lw_all := lw_g (lw_at lw_m8 209 rfl) rfl
theorem q2020 : (Jvm.Cond.constantFloat "WhatIfSheet$Turn" (11 : Nat) (1135869952 : UInt32)) ∈ lw_all := lw_g (lw_at lw_m8 210 rfl) rfl
theorem q2044 : (Jvm.Cond.selects "WhatIfSheet$Turn" ({ cls := "WhatIfSheet$Plain", name := "kind", desc := "()I" } : Jvm.MethodName) ({ cls := "WhatIfSheet$Turn", name := "kind", desc := "()I" } : Jvm.MethodName)) ∈ lw_all := lw_g (lw_at lw_m8 234 rfl) rfl
theorem q2045 : (Jvm.Cond.instanceMethod ({ cls := "WhatIfSheet$Turn", name := "kind", desc := "()I" } : Jvm.MethodName)) ∈ lw_all := lw_g (lw_at lw_m8 235 rfl) rfl
theorem q2046 : (Jvm.Cond.code ({ cls := "WhatIfSheet$Turn", name := "kind", desc := "()I" } : Jvm.MethodName) prog_31_method_2_code (1 : Nat) (Option.some Jvm.ClassFile.FieldType.int)) ∈ lw_all := lw_g (lw_at lw_m8 236 rfl) rfl
theorem q2082 : (Jvm.Cond.instantiable "WhatIfSheet$Turn" (3 : Nat)) ∈ lw_all := lw_g (lw_at lw_m9 32 rfl) rfl
theorem q2084 : (Jvm.Cond.instanceMethod ({ cls := "WhatIfSheet$Turn", name := "<init>", desc := "(I)V" } : Jvm.MethodName)) ∈ lw_all := lw_g (lw_at lw_m9 34 rfl) rfl
theorem q2085 : (Jvm.Cond.code ({ cls := "WhatIfSheet$Turn", name := "<init>", desc := "(I)V" } : Jvm.MethodName) prog_31_method_1_code (2 : Nat) (Option.none : Option Jvm.ClassFile.FieldType)) ∈ lw_all := lw_g (lw_at lw_m9 35 rfl) rfl
theorem q2086 : (Jvm.Cond.methodLink "WhatIfSheet$Turn" (1 : Nat) ({ cls := "WhatIfSheet$Single", name := "<init>", desc := "(I)V" } : Jvm.MethodName)) ∈ lw_all := lw_g (lw_at lw_m9 36 rfl) rfl
theorem q2087 : (Jvm.Cond.laysFinal "WhatIfSheet$Turn" "WhatIfSheet$Plain" "number" "I") ∈ lw_all := lw_g (lw_at lw_m9 37 rfl) rfl
theorem q2088 : (Jvm.Cond.lays "WhatIfSheet$Turn" "WhatIfSheet$Plain" "formula" "LWhatIfSheet$Formula;") ∈ lw_all := lw_g (lw_at lw_m9 38 rfl) rfl
theorem q2089 : (Jvm.Cond.lays "WhatIfSheet$Turn" "WhatIfSheet$Plain" "own" "D") ∈ lw_all := lw_g (lw_at lw_m9 39 rfl) rfl
theorem q2106 : (Jvm.Cond.selects "WhatIfSheet$Turn" ({ cls := "WhatIfSheet$Plain", name := "like", desc := "(LWhatIfSheet$Plain;)LWhatIfSheet$Plain;" } : Jvm.MethodName) ({ cls := "WhatIfSheet$Plain", name := "like", desc := "(LWhatIfSheet$Plain;)LWhatIfSheet$Plain;" } : Jvm.MethodName)) ∈ lw_all := lw_g (lw_at lw_m9 56 rfl) rfl
theorem q2116 : (Jvm.Cond.selects "WhatIfSheet$Turn" ({ cls := "WhatIfSheet$Plain", name := "isEmpty", desc := "()Z" } : Jvm.MethodName) ({ cls := "WhatIfSheet$Plain", name := "isEmpty", desc := "()Z" } : Jvm.MethodName)) ∈ lw_all := lw_g (lw_at lw_m9 66 rfl) rfl
theorem q3373 : (Jvm.Cond.selects "WhatIfSheet$Turn" ({ cls := "WhatIfSheet$Single", name := "kind", desc := "()I" } : Jvm.MethodName) ({ cls := "WhatIfSheet$Turn", name := "kind", desc := "()I" } : Jvm.MethodName)) ∈ lw_all := lw_g (lw_at lw_m14 123 rfl) rfl
theorem q3375 : (Jvm.Cond.selects "WhatIfSheet$Turn" ({ cls := "WhatIfSheet$Turn", name := "kind", desc := "()I" } : Jvm.MethodName) ({ cls := "WhatIfSheet$Turn", name := "kind", desc := "()I" } : Jvm.MethodName)) ∈ lw_all := lw_g (lw_at lw_m14 125 rfl) rfl
theorem q3387 : (Jvm.Cond.castable "WhatIfSheet$Turn" "WhatIfSheet$Plain") ∈ lw_tbl := lw_at lw_m14 137 rfl
theorem q3390 : (Jvm.Cond.castable "WhatIfSheet$Turn" "WhatIfSheet$Single") ∈ lw_tbl := lw_at lw_m14 140 rfl
theorem q3411 : (Jvm.Cond.castable "WhatIfSheet$Turn" "java/lang/Object") ∈ lw_tbl := lw_at lw_m14 161 rfl
theorem in_X9 : ∀ w ∈ wsX90, w ∈ lw_all := lw_in wsX90 [2087, 2088, 2089] (by decide +kernel) (by decide +kernel)
theorem q130 : (Jvm.Cond.initialized "WhatIfSheetLaw") ∈ lw_all := lw_g (lw_at lw_m1 0 rfl) rfl
set_option maxRecDepth 100000
theorem q200 : (Jvm.Cond.classLink "WhatIfSheetLaw" (7 : Nat) "WhatIfSheet") ∈ lw_all := lw_g (lw_at lw_m1 70 rfl) rfl
theorem q202 : (Jvm.Cond.methodLink "WhatIfSheetLaw" (9 : Nat) ({ cls := "WhatIfSheet", name := "<init>", desc := "()V" } : Jvm.MethodName)) ∈ lw_all := lw_g (lw_at lw_m1 72 rfl) rfl
theorem q1303 : (Jvm.Cond.methodLink "WhatIfSheetLaw" (45 : Nat) ({ cls := "WhatIfSheet", name := "feed", desc := "(IIIIII)I" } : Jvm.MethodName)) ∈ lw_all := lw_g (lw_at lw_m5 213 rfl) rfl
theorem q1312 : (Jvm.Cond.methodLink "WhatIfSheetLaw" (50 : Nat) ({ cls := "WhatIfSheet", name := "formula", desc := "(I)I" } : Jvm.MethodName)) ∈ lw_all := lw_g (lw_at lw_m5 222 rfl) rfl
theorem q1963 : (Jvm.Cond.methodLink "WhatIfSheetLaw" (13 : Nat) ({ cls := "WhatIfSheet", name := "set", desc := "(II)I" } : Jvm.MethodName)) ∈ lw_all := lw_g (lw_at lw_m8 153 rfl) rfl
theorem q2023 : (Jvm.Cond.methodLink "WhatIfSheetLaw" (18 : Nat) ({ cls := "WhatIfSheet", name := "clear", desc := "(I)I" } : Jvm.MethodName)) ∈ lw_all := lw_g (lw_at lw_m8 213 rfl) rfl
theorem q2027 : (Jvm.Cond.methodLink "WhatIfSheetLaw" (23 : Nat) ({ cls := "WhatIfSheet", name := "kind", desc := "(II)I" } : Jvm.MethodName)) ∈ lw_all := lw_g (lw_at lw_m8 217 rfl) rfl
theorem q2120 : (Jvm.Cond.methodLink "WhatIfSheetLaw" (27 : Nat) ({ cls := "WhatIfSheet", name := "told", desc := "(II)I" } : Jvm.MethodName)) ∈ lw_all := lw_g (lw_at lw_m9 70 rfl) rfl
theorem q2291 : (Jvm.Cond.methodLink "WhatIfSheetLaw" (31 : Nat) ({ cls := "WhatIfSheet", name := "value", desc := "(I)J" } : Jvm.MethodName)) ∈ lw_all := lw_g (lw_at lw_m10 1 rfl) rfl
theorem q2311 : (Jvm.Cond.methodLink "WhatIfSheetLaw" (36 : Nat) ({ cls := "WhatIfSheet", name := "would", desc := "(III)J" } : Jvm.MethodName)) ∈ lw_all := lw_g (lw_at lw_m10 21 rfl) rfl
theorem q2316 : (Jvm.Cond.methodLink "WhatIfSheetLaw" (41 : Nat) ({ cls := "WhatIfSheet", name := "taken", desc := "(II)I" } : Jvm.MethodName)) ∈ lw_all := lw_g (lw_at lw_m10 26 rfl) rfl
theorem q2339 : (Jvm.Cond.methodLink "WhatIfSheetLaw" (54 : Nat) ({ cls := "WhatIfSheet", name := "table", desc := "(IIII)I" } : Jvm.MethodName)) ∈ lw_all := lw_g (lw_at lw_m10 49 rfl) rfl
theorem q2388 : (Jvm.Cond.methodLink "WhatIfSheetLaw" (59 : Nat) ({ cls := "WhatIfSheet", name := "axis", desc := "(IIIII)I" } : Jvm.MethodName)) ∈ lw_all := lw_g (lw_at lw_m10 98 rfl) rfl
theorem q2405 : (Jvm.Cond.methodLink "WhatIfSheetLaw" (64 : Nat) ({ cls := "WhatIfSheet", name := "axisBy", desc := "(IIIII)I" } : Jvm.MethodName)) ∈ lw_all := lw_g (lw_at lw_m10 115 rfl) rfl
theorem q2430 : (Jvm.Cond.methodLink "WhatIfSheetLaw" (68 : Nat) ({ cls := "WhatIfSheet", name := "drop", desc := "(I)I" } : Jvm.MethodName)) ∈ lw_all := lw_g (lw_at lw_m10 140 rfl) rfl
theorem q2434 : (Jvm.Cond.methodLink "WhatIfSheetLaw" (72 : Nat) ({ cls := "WhatIfSheet", name := "at", desc := "(III)J" } : Jvm.MethodName)) ∈ lw_all := lw_g (lw_at lw_m10 144 rfl) rfl
theorem q2443 : (Jvm.Cond.methodLink "WhatIfSheetLaw" (76 : Nat) ({ cls := "WhatIfSheet", name := "blame", desc := "(III)I" } : Jvm.MethodName)) ∈ lw_all := lw_g (lw_at lw_m10 153 rfl) rfl
theorem q2447 : (Jvm.Cond.methodLink "WhatIfSheetLaw" (81 : Nat) ({ cls := "WhatIfSheet", name := "adds", desc := "(II)J" } : Jvm.MethodName)) ∈ lw_all := lw_g (lw_at lw_m10 157 rfl) rfl
theorem q2467 : (Jvm.Cond.methodLink "WhatIfSheetLaw" (86 : Nat) ({ cls := "WhatIfSheet", name := "asks", desc := "(II)I" } : Jvm.MethodName)) ∈ lw_all := lw_g (lw_at lw_m10 177 rfl) rfl
theorem q2481 : (Jvm.Cond.methodLink "WhatIfSheetLaw" (90 : Nat) ({ cls := "WhatIfSheet", name := "seek", desc := "(IIIIII)J" } : Jvm.MethodName)) ∈ lw_all := lw_g (lw_at lw_m10 191 rfl) rfl
theorem q2558 : (Jvm.Cond.methodLink "WhatIfSheetLaw" (95 : Nat) ({ cls := "WhatIfSheet", name := "swing", desc := "(III)J" } : Jvm.MethodName)) ∈ lw_all := lw_g (lw_at lw_m11 28 rfl) rfl
theorem q2562 : (Jvm.Cond.methodLink "WhatIfSheetLaw" (99 : Nat) ({ cls := "WhatIfSheet", name := "chance", desc := "(IIIII)I" } : Jvm.MethodName)) ∈ lw_all := lw_g (lw_at lw_m11 32 rfl) rfl
theorem q2572 : (Jvm.Cond.methodLink "WhatIfSheetLaw" (103 : Nat) ({ cls := "WhatIfSheet", name := "film", desc := "(II)I" } : Jvm.MethodName)) ∈ lw_all := lw_g (lw_at lw_m11 42 rfl) rfl
theorem q2576 : (Jvm.Cond.methodLink "WhatIfSheetLaw" (107 : Nat) ({ cls := "WhatIfSheet", name := "tells", desc := "(IIII)I" } : Jvm.MethodName)) ∈ lw_all := lw_g (lw_at lw_m11 46 rfl) rfl
theorem q2592 : (Jvm.Cond.methodLink "WhatIfSheetLaw" (111 : Nat) ({ cls := "WhatIfSheet", name := "image", desc := "()I" } : Jvm.MethodName)) ∈ lw_all := lw_g (lw_at lw_m11 62 rfl) rfl
theorem q2600 : (Jvm.Cond.methodLink "WhatIfSheetLaw" (116 : Nat) ({ cls := "WhatIfSheet", name := "back", desc := "()I" } : Jvm.MethodName)) ∈ lw_all := lw_g (lw_at lw_m11 70 rfl) rfl
theorem q2604 : (Jvm.Cond.methodLink "WhatIfSheetLaw" (120 : Nat) ({ cls := "WhatIfSheet", name := "count", desc := "(I)I" } : Jvm.MethodName)) ∈ lw_all := lw_g (lw_at lw_m11 74 rfl) rfl
theorem q2608 : (Jvm.Cond.methodLink "WhatIfSheetLaw" (124 : Nat) ({ cls := "WhatIfSheet", name := "row", desc := "(III)I" } : Jvm.MethodName)) ∈ lw_all := lw_g (lw_at lw_m11 78 rfl) rfl
theorem q2617 : (Jvm.Cond.methodLink "WhatIfSheetLaw" (128 : Nat) ({ cls := "WhatIfSheet", name := "put", desc := "(III)I" } : Jvm.MethodName)) ∈ lw_all := lw_g (lw_at lw_m11 87 rfl) rfl
theorem q2630 : (Jvm.Cond.methodLink "WhatIfSheetLaw" (132 : Nat) ({ cls := "WhatIfSheet", name := "item", desc := "(II)J" } : Jvm.MethodName)) ∈ lw_all := lw_g (lw_at lw_m11 100 rfl) rfl
theorem q2642 : (Jvm.Cond.methodLink "WhatIfSheetLaw" (136 : Nat) ({ cls := "WhatIfSheet", name := "copy", desc := "(IIIII)I" } : Jvm.MethodName)) ∈ lw_all := lw_g (lw_at lw_m11 112 rfl) rfl
theorem q2662 : (Jvm.Cond.classLink "WhatIfSheetLaw" (10 : Nat) "WhatIfSheetModel") ∈ lw_all := lw_g (lw_at lw_m11 132 rfl) rfl
theorem q2664 : (Jvm.Cond.methodLink "WhatIfSheetLaw" (12 : Nat) ({ cls := "WhatIfSheetModel", name := "<init>", desc := "()V" } : Jvm.MethodName)) ∈ lw_all := lw_g (lw_at lw_m11 134 rfl) rfl
theorem q2904 : (Jvm.Cond.methodLink "WhatIfSheetLaw" (17 : Nat) ({ cls := "WhatIfSheetModel", name := "set", desc := "(II)I" } : Jvm.MethodName)) ∈ lw_all := lw_g (lw_at lw_m12 134 rfl) rfl
theorem q2933 : (Jvm.Cond.methodLink "WhatIfSheetLaw" (22 : Nat) ({ cls := "WhatIfSheetModel", name := "clear", desc := "(I)I" } : Jvm.MethodName)) ∈ lw_all := lw_g (lw_at lw_m12 163 rfl) rfl
theorem q2941 : (Jvm.Cond.methodLink "WhatIfSheetLaw" (26 : Nat) ({ cls := "WhatIfSheetModel", name := "kind", desc := "(II)I" } : Jvm.MethodName)) ∈ lw_all := lw_g (lw_at lw_m12 171 rfl) rfl
theorem q2945 : (Jvm.Cond.methodLink "WhatIfSheetLaw" (30 : Nat) ({ cls := "WhatIfSheetModel", name := "told", desc := "(II)I" } : Jvm.MethodName)) ∈ lw_all := lw_g (lw_at lw_m12 175 rfl) rfl
theorem q3033 : (Jvm.Cond.methodLink "WhatIfSheetLaw" (35 : Nat) ({ cls := "WhatIfSheetModel", name := "value", desc := "(I)J" } : Jvm.MethodName)) ∈ lw_all := lw_g (lw_at lw_m13 23 rfl) rfl
theorem q3054 : (Jvm.Cond.methodLink "WhatIfSheetLaw" (40 : Nat) ({ cls := "WhatIfSheetModel", name := "would", desc := "(III)J" } : Jvm.MethodName)) ∈ lw_all := lw_g (lw_at lw_m13 44 rfl) rfl
theorem q3063 : (Jvm.Cond.methodLink "WhatIfSheetLaw" (44 : Nat) ({ cls := "WhatIfSheetModel", name := "taken", desc := "(II)I" } : Jvm.MethodName)) ∈ lw_all := lw_g (lw_at lw_m13 53 rfl) rfl
theorem q3067 : (Jvm.Cond.methodLink "WhatIfSheetLaw" (49 : Nat) ({ cls := "WhatIfSheetModel", name := "feed", desc := "(IIIIII)I" } : Jvm.MethodName)) ∈ lw_all := lw_g (lw_at lw_m13 57 rfl) rfl
theorem q3074 : (Jvm.Cond.methodLink "WhatIfSheetLaw" (53 : Nat) ({ cls := "WhatIfSheetModel", name := "formula", desc := "(I)I" } : Jvm.MethodName)) ∈ lw_all := lw_g (lw_at lw_m13 64 rfl) rfl
theorem q3177 : (Jvm.Cond.methodLink "WhatIfSheetLaw" (58 : Nat) ({ cls := "WhatIfSheetModel", name := "table", desc := "(IIII)I" } : Jvm.MethodName)) ∈ lw_all := lw_g (lw_at lw_m13 167 rfl) rfl
theorem q3184 : (Jvm.Cond.methodLink "WhatIfSheetLaw" (63 : Nat) ({ cls := "WhatIfSheetModel", name := "axis", desc := "(IIIII)I" } : Jvm.MethodName)) ∈ lw_all := lw_g (lw_at lw_m13 174 rfl) rfl
theorem q3194 : (Jvm.Cond.methodLink "WhatIfSheetLaw" (67 : Nat) ({ cls := "WhatIfSheetModel", name := "axisBy", desc := "(IIIII)I" } : Jvm.MethodName)) ∈ lw_all := lw_g (lw_at lw_m13 184 rfl) rfl
theorem q3201 : (Jvm.Cond.methodLink "WhatIfSheetLaw" (71 : Nat) ({ cls := "WhatIfSheetModel", name := "drop", desc := "(I)I" } : Jvm.MethodName)) ∈ lw_all := lw_g (lw_at lw_m13 191 rfl) rfl
theorem q3205 : (Jvm.Cond.methodLink "WhatIfSheetLaw" (75 : Nat) ({ cls := "WhatIfSheetModel", name := "at", desc := "(III)J" } : Jvm.MethodName)) ∈ lw_all := lw_g (lw_at lw_m13 195 rfl) rfl
theorem q3217 : (Jvm.Cond.methodLink "WhatIfSheetLaw" (80 : Nat) ({ cls := "WhatIfSheetModel", name := "blame", desc := "(III)I" } : Jvm.MethodName)) ∈ lw_all := lw_g (lw_at lw_m13 207 rfl) rfl
theorem q3221 : (Jvm.Cond.methodLink "WhatIfSheetLaw" (85 : Nat) ({ cls := "WhatIfSheetModel", name := "adds", desc := "(II)J" } : Jvm.MethodName)) ∈ lw_all := lw_g (lw_at lw_m13 211 rfl) rfl
theorem q3225 : (Jvm.Cond.methodLink "WhatIfSheetLaw" (89 : Nat) ({ cls := "WhatIfSheetModel", name := "asks", desc := "(II)I" } : Jvm.MethodName)) ∈ lw_all := lw_g (lw_at lw_m13 215 rfl) rfl
theorem q3245 : (Jvm.Cond.methodLink "WhatIfSheetLaw" (94 : Nat) ({ cls := "WhatIfSheetModel", name := "seek", desc := "(IIIIII)J" } : Jvm.MethodName)) ∈ lw_all := lw_g (lw_at lw_m13 235 rfl) rfl
theorem q3274 : (Jvm.Cond.methodLink "WhatIfSheetLaw" (98 : Nat) ({ cls := "WhatIfSheetModel", name := "swing", desc := "(III)J" } : Jvm.MethodName)) ∈ lw_all := lw_g (lw_at lw_m14 24 rfl) rfl
theorem q3278 : (Jvm.Cond.methodLink "WhatIfSheetLaw" (102 : Nat) ({ cls := "WhatIfSheetModel", name := "chance", desc := "(IIIII)I" } : Jvm.MethodName)) ∈ lw_all := lw_g (lw_at lw_m14 28 rfl) rfl
theorem q3290 : (Jvm.Cond.methodLink "WhatIfSheetLaw" (106 : Nat) ({ cls := "WhatIfSheetModel", name := "film", desc := "(II)I" } : Jvm.MethodName)) ∈ lw_all := lw_g (lw_at lw_m14 40 rfl) rfl
theorem q3294 : (Jvm.Cond.methodLink "WhatIfSheetLaw" (110 : Nat) ({ cls := "WhatIfSheetModel", name := "tells", desc := "(IIII)I" } : Jvm.MethodName)) ∈ lw_all := lw_g (lw_at lw_m14 44 rfl) rfl
theorem q3310 : (Jvm.Cond.methodLink "WhatIfSheetLaw" (115 : Nat) ({ cls := "WhatIfSheetModel", name := "image", desc := "()I" } : Jvm.MethodName)) ∈ lw_all := lw_g (lw_at lw_m14 60 rfl) rfl
theorem q3318 : (Jvm.Cond.methodLink "WhatIfSheetLaw" (119 : Nat) ({ cls := "WhatIfSheetModel", name := "back", desc := "()I" } : Jvm.MethodName)) ∈ lw_all := lw_g (lw_at lw_m14 68 rfl) rfl
theorem q3322 : (Jvm.Cond.methodLink "WhatIfSheetLaw" (123 : Nat) ({ cls := "WhatIfSheetModel", name := "count", desc := "(I)I" } : Jvm.MethodName)) ∈ lw_all := lw_g (lw_at lw_m14 72 rfl) rfl
theorem q3326 : (Jvm.Cond.methodLink "WhatIfSheetLaw" (127 : Nat) ({ cls := "WhatIfSheetModel", name := "row", desc := "(III)I" } : Jvm.MethodName)) ∈ lw_all := lw_g (lw_at lw_m14 76 rfl) rfl
theorem q3330 : (Jvm.Cond.methodLink "WhatIfSheetLaw" (131 : Nat) ({ cls := "WhatIfSheetModel", name := "put", desc := "(III)I" } : Jvm.MethodName)) ∈ lw_all := lw_g (lw_at lw_m14 80 rfl) rfl
theorem q3338 : (Jvm.Cond.methodLink "WhatIfSheetLaw" (135 : Nat) ({ cls := "WhatIfSheetModel", name := "item", desc := "(II)J" } : Jvm.MethodName)) ∈ lw_all := lw_g (lw_at lw_m14 88 rfl) rfl
theorem q3342 : (Jvm.Cond.methodLink "WhatIfSheetLaw" (139 : Nat) ({ cls := "WhatIfSheetModel", name := "copy", desc := "(IIIII)I" } : Jvm.MethodName)) ∈ lw_all := lw_g (lw_at lw_m14 92 rfl) rfl
theorem q421 : (Jvm.Cond.sameMethod "[B" "java/lang/Object" "clone" "()Ljava/lang/Object;") ∈ lw_all := lw_g (lw_at lw_m2 51 rfl) rfl
set_option maxRecDepth 100000
theorem q424 : (Jvm.Cond.selects "[B" ({ cls := "[B", name := "clone", desc := "()Ljava/lang/Object;" } : Jvm.MethodName) ({ cls := "java/lang/Object", name := "clone", desc := "()Ljava/lang/Object;" } : Jvm.MethodName)) ∈ lw_all := lw_g (lw_at lw_m2 54 rfl) rfl
theorem q425 : (Jvm.Cond.castable "[B" "java/lang/Cloneable") ∈ lw_tbl := lw_at lw_m2 55 rfl
theorem q3447 : (Jvm.Cond.castable "[B" "java/lang/Object") ∈ lw_tbl := lw_at lw_m14 197 rfl
theorem q3446 : (Jvm.Cond.castable "[D" "java/lang/Object") ∈ lw_tbl := lw_at lw_m14 196 rfl
set_option maxRecDepth 100000
theorem q3454 : (Jvm.Cond.castable "[F" "java/lang/Object") ∈ lw_tbl := lw_at lw_m14 204 rfl
set_option maxRecDepth 100000
theorem q3448 : (Jvm.Cond.castable "[I" "java/lang/Object") ∈ lw_tbl := lw_at lw_m14 198 rfl
set_option maxRecDepth 100000
theorem q940 : (Jvm.Cond.sameMethod "[J" "java/lang/Object" "clone" "()Ljava/lang/Object;") ∈ lw_all := lw_g (lw_at lw_m4 90 rfl) rfl
set_option maxRecDepth 100000
theorem q941 : (Jvm.Cond.selects "[J" ({ cls := "[J", name := "clone", desc := "()Ljava/lang/Object;" } : Jvm.MethodName) ({ cls := "java/lang/Object", name := "clone", desc := "()Ljava/lang/Object;" } : Jvm.MethodName)) ∈ lw_all := lw_g (lw_at lw_m4 91 rfl) rfl
theorem q942 : (Jvm.Cond.castable "[J" "java/lang/Cloneable") ∈ lw_tbl := lw_at lw_m4 92 rfl
theorem q3450 : (Jvm.Cond.castable "[J" "java/lang/Object") ∈ lw_tbl := lw_at lw_m14 200 rfl
theorem q3452 : (Jvm.Cond.castable "[LWhatIfSheet$Formula;" "java/lang/Object") ∈ lw_tbl := lw_at lw_m14 202 rfl
set_option maxRecDepth 100000
theorem q3443 : (Jvm.Cond.castable "[LWhatIfSheet$Plain;" "java/lang/Object") ∈ lw_tbl := lw_at lw_m14 193 rfl
set_option maxRecDepth 100000
theorem q3453 : (Jvm.Cond.castable "[LWhatIfSheet$Row;" "java/lang/Object") ∈ lw_tbl := lw_at lw_m14 203 rfl
set_option maxRecDepth 100000
theorem q3445 : (Jvm.Cond.castable "[LWhatIfSheet$Sight;" "java/lang/Object") ∈ lw_tbl := lw_at lw_m14 195 rfl
set_option maxRecDepth 100000
theorem q3444 : (Jvm.Cond.castable "[LWhatIfSheet$Table;" "java/lang/Object") ∈ lw_tbl := lw_at lw_m14 194 rfl
set_option maxRecDepth 100000
theorem q3440 : (Jvm.Cond.sameMethod "[Ljava/lang/Object;" "java/lang/Object" "getClass" "()Ljava/lang/Class;") ∈ lw_all := lw_g (lw_at lw_m14 190 rfl) rfl
set_option maxRecDepth 100000
theorem q3441 : (Jvm.Cond.selects "[Ljava/lang/Object;" ({ cls := "java/lang/Object", name := "getClass", desc := "()Ljava/lang/Class;" } : Jvm.MethodName) ({ cls := "java/lang/Object", name := "getClass", desc := "()Ljava/lang/Class;" } : Jvm.MethodName)) ∈ lw_all := lw_g (lw_at lw_m14 191 rfl) rfl
theorem q3451 : (Jvm.Cond.castable "[Ljava/lang/Object;" "java/lang/Object") ∈ lw_tbl := lw_at lw_m14 201 rfl
theorem q3449 : (Jvm.Cond.castable "[Ljava/util/BitSet;" "java/lang/Object") ∈ lw_tbl := lw_at lw_m14 199 rfl
set_option maxRecDepth 100000
theorem q3458 : (Jvm.Cond.castable "[Z" "java/lang/Object") ∈ lw_tbl := lw_at lw_m14 208 rfl
set_option maxRecDepth 100000
theorem q3456 : (Jvm.Cond.castable "[[D" "java/lang/Object") ∈ lw_tbl := lw_at lw_m14 206 rfl
set_option maxRecDepth 100000
theorem q3455 : (Jvm.Cond.castable "[[I" "java/lang/Object") ∈ lw_tbl := lw_at lw_m14 205 rfl
set_option maxRecDepth 100000
theorem q3457 : (Jvm.Cond.castable "[[Z" "java/lang/Object") ∈ lw_tbl := lw_at lw_m14 207 rfl
set_option maxRecDepth 100000
theorem q155 : (Jvm.Cond.initialized "java/lang/Integer$IntegerCache") ∈ lw_all := lw_g (lw_at lw_m1 25 rfl) rfl
set_option maxRecDepth 100000
theorem q738 : (Jvm.Cond.laysStatic "java/lang/Integer$IntegerCache" "high" "I") ∈ lw_tbl := lw_at lw_m3 128 rfl
theorem q740 : (Jvm.Cond.laysStatic "java/lang/Integer$IntegerCache" "cache" "[Ljava/lang/Integer;") ∈ lw_tbl := lw_at lw_m3 130 rfl
theorem q145 : (Jvm.Cond.initialized "java/lang/System") ∈ lw_all := lw_g (lw_at lw_m1 15 rfl) rfl
set_option maxRecDepth 100000
theorem q431 : (Jvm.Cond.static ({ cls := "java/lang/System", name := "arraycopy", desc := "(Ljava/lang/Object;ILjava/lang/Object;II)V" } : Jvm.MethodName)) ∈ lw_all := lw_g (lw_at lw_m2 61 rfl) rfl
theorem q432 : (Jvm.Cond.native ({ cls := "java/lang/System", name := "arraycopy", desc := "(Ljava/lang/Object;ILjava/lang/Object;II)V" } : Jvm.MethodName)) ∈ lw_all := lw_g (lw_at lw_m2 62 rfl) rfl
theorem q158 : (Jvm.Cond.initialized "java/util/AbstractList$ListItr") ∈ lw_all := lw_g (lw_at lw_m1 28 rfl) rfl
set_option maxRecDepth 100000
theorem q884 : (Jvm.Cond.selects "java/util/AbstractList$ListItr" ({ cls := "java/lang/Object", name := "getClass", desc := "()Ljava/lang/Class;" } : Jvm.MethodName) ({ cls := "java/lang/Object", name := "getClass", desc := "()Ljava/lang/Class;" } : Jvm.MethodName)) ∈ lw_all := lw_g (lw_at lw_m4 34 rfl) rfl
theorem q1034 : (Jvm.Cond.castable "java/util/AbstractList$ListItr" "java/util/Iterator") ∈ lw_tbl := lw_at lw_m4 184 rfl
theorem q1035 : (Jvm.Cond.selects "java/util/AbstractList$ListItr" ({ cls := "java/util/Iterator", name := "hasNext", desc := "()Z" } : Jvm.MethodName) ({ cls := "java/util/AbstractList$Itr", name := "hasNext", desc := "()Z" } : Jvm.MethodName)) ∈ lw_all := lw_g (lw_at lw_m4 185 rfl) rfl
theorem q1036 : (Jvm.Cond.unhidden "java/util/AbstractList$ListItr" "hasNext" "()Z") ∈ lw_tbl := lw_at lw_m4 186 rfl
theorem q1056 : (Jvm.Cond.selects "java/util/AbstractList$ListItr" ({ cls := "java/util/Iterator", name := "next", desc := "()Ljava/lang/Object;" } : Jvm.MethodName) ({ cls := "java/util/AbstractList$Itr", name := "next", desc := "()Ljava/lang/Object;" } : Jvm.MethodName)) ∈ lw_all := lw_g (lw_at lw_m4 206 rfl) rfl
theorem q1057 : (Jvm.Cond.unhidden "java/util/AbstractList$ListItr" "next" "()Ljava/lang/Object;") ∈ lw_tbl := lw_at lw_m4 207 rfl
theorem q1064 : (Jvm.Cond.selects "java/util/AbstractList$ListItr" ({ cls := "java/util/AbstractList$Itr", name := "checkForComodification", desc := "()V" } : Jvm.MethodName) ({ cls := "java/util/AbstractList$Itr", name := "checkForComodification", desc := "()V" } : Jvm.MethodName)) ∈ lw_all := lw_g (lw_at lw_m4 214 rfl) rfl
theorem q3404 : (Jvm.Cond.castable "java/util/AbstractList$ListItr" "java/lang/Object") ∈ lw_tbl := lw_at lw_m14 154 rfl
theorem q3461 : (Jvm.Cond.fieldLink "java/util/AbstractList$ListItr" (1 : Nat) "java/util/AbstractList$ListItr" "this$0" "Ljava/util/AbstractList;") ∈ lw_all := lw_g (lw_at lw_m14 211 rfl) rfl
theorem q3466 : (Jvm.Cond.fieldLink "java/util/AbstractList$ListItr" (13 : Nat) "java/util/AbstractList$ListItr" "cursor" "I") ∈ lw_all := lw_g (lw_at lw_m14 216 rfl) rfl
theorem q3467 : (Jvm.Cond.sameField "java/util/AbstractList$ListItr" "java/util/AbstractList$Itr" "cursor" "I") ∈ lw_all := lw_g (lw_at lw_m14 217 rfl) rfl
theorem q1032 : (Jvm.Cond.interfaceMethod "java/util/Iterator" "java/util/Iterator" "hasNext" "()Z") ∈ lw_tbl := lw_at lw_m4 182 rfl
set_option maxRecDepth 100000
theorem q1033 : (Jvm.Cond.declares ({ cls := "java/util/Iterator", name := "hasNext", desc := "()Z" } : Jvm.MethodName)) ∈ lw_tbl := lw_at lw_m4 183 rfl
theorem q1054 : (Jvm.Cond.interfaceMethod "java/util/Iterator" "java/util/Iterator" "next" "()Ljava/lang/Object;") ∈ lw_tbl := lw_at lw_m4 204 rfl
theorem q1055 : (Jvm.Cond.declares ({ cls := "java/util/Iterator", name := "next", desc := "()Ljava/lang/Object;" } : Jvm.MethodName)) ∈ lw_tbl := lw_at lw_m4 205 rfl
theorem q1698 : (Jvm.Cond.interfaceMethod "jdk/internal/access/JavaLangAccess" "jdk/internal/access/JavaLangAccess" "getUTF16Char" "([BI)C") ∈ lw_tbl := lw_at lw_m7 128 rfl
set_option maxRecDepth 100000
theorem q1699 : (Jvm.Cond.declares ({ cls := "jdk/internal/access/JavaLangAccess", name := "getUTF16Char", desc := "([BI)C" } : Jvm.MethodName)) ∈ lw_tbl := lw_at lw_m7 129 rfl
theorem q209 : (Jvm.Cond.arrayOver (Jvm.ClassFile.FieldType.object "WhatIfSheet$Plain")) ∈ lw_tbl := lw_at lw_m1 79 rfl
set_option maxRecDepth 100000
theorem q211 : (Jvm.Cond.arrayOver (Jvm.ClassFile.FieldType.object "WhatIfSheet$Table")) ∈ lw_tbl := lw_at lw_m1 81 rfl
theorem q213 : (Jvm.Cond.arrayOver (Jvm.ClassFile.FieldType.object "WhatIfSheet$Sight")) ∈ lw_tbl := lw_at lw_m1 83 rfl
theorem q275 : (Jvm.Cond.arrayClass Jvm.ClassFile.FieldType.double) ∈ lw_all := lw_g (lw_at lw_m1 145 rfl) rfl
theorem q276 : (Jvm.Cond.arrayClass Jvm.ClassFile.FieldType.byte) ∈ lw_all := lw_g (lw_at lw_m1 146 rfl) rfl
theorem q277 : (Jvm.Cond.arrayClass Jvm.ClassFile.FieldType.int) ∈ lw_all := lw_g (lw_at lw_m1 147 rfl) rfl
theorem q279 : (Jvm.Cond.arrayOver (Jvm.ClassFile.FieldType.object "java/util/BitSet")) ∈ lw_tbl := lw_at lw_m1 149 rfl
theorem q623 : (Jvm.Cond.arrayClass Jvm.ClassFile.FieldType.long) ∈ lw_all := lw_g (lw_at lw_m3 13 rfl) rfl
theorem q635 : (Jvm.Cond.arrayOver (Jvm.ClassFile.FieldType.object "java/lang/Object")) ∈ lw_tbl := lw_at lw_m3 25 rfl
theorem q647 : (Jvm.Cond.arrayOver (Jvm.ClassFile.FieldType.object "WhatIfSheet$Formula")) ∈ lw_tbl := lw_at lw_m3 37 rfl
theorem q649 : (Jvm.Cond.arrayOver (Jvm.ClassFile.FieldType.object "WhatIfSheet$Row")) ∈ lw_tbl := lw_at lw_m3 39 rfl
theorem q2616 : (Jvm.Cond.arrayClass Jvm.ClassFile.FieldType.float) ∈ lw_all := lw_g (lw_at lw_m11 86 rfl) rfl
theorem q2669 : (Jvm.Cond.arrayOver (Jvm.ClassFile.FieldType.array Jvm.ClassFile.FieldType.int)) ∈ lw_tbl := lw_at lw_m11 139 rfl
theorem q2671 : (Jvm.Cond.arrayOver (Jvm.ClassFile.FieldType.array Jvm.ClassFile.FieldType.double)) ∈ lw_tbl := lw_at lw_m11 141 rfl
theorem q2673 : (Jvm.Cond.arrayOver (Jvm.ClassFile.FieldType.array Jvm.ClassFile.FieldType.boolean)) ∈ lw_tbl := lw_at lw_m11 143 rfl
theorem q2903 : (Jvm.Cond.arrayClass Jvm.ClassFile.FieldType.boolean) ∈ lw_all := lw_g (lw_at lw_m12 133 rfl) rfl
theorem q3459 : (Jvm.Cond.arrayClass Jvm.ClassFile.FieldType.char) ∈ lw_all := lw_g (lw_at lw_m14 209 rfl) rfl
theorem q3460 : (Jvm.Cond.arrayClass Jvm.ClassFile.FieldType.short) ∈ lw_all := lw_g (lw_at lw_m14 210 rfl) rfl
