/-! the law's own entry -/
set_option maxRecDepth 100000
abbrev cL_law : ByteArray := code
def dkwL_law_61 : List UInt8 := [182, 0, 170, 159, 0, 5, 3, 172, 132, 4, 4, 167, 250, 57, 4, 172]
abbrev dktL_law_61 : List UInt8 := dkwL_law_61 ++ []
def dkwL_law_60 : List UInt8 := [154, 0, 15, 45, 3, 47, 21, 6, 133, 148, 153, 0, 5, 3, 172, 167, 0, 16, 43, 182, 0, 167, 44]
abbrev dktL_law_60 : List UInt8 := dkwL_law_60 ++ dktL_law_61
def dkwL_law_59 : List UInt8 := [21, 4, 4, 96, 46, 182, 0, 166, 54, 6, 44, 182, 0, 92, 21, 5, 159, 0, 5, 3, 172, 21, 5]
abbrev dktL_law_59 : List UInt8 := dkwL_law_59 ++ dktL_law_60
def dkwL_law_58 : List UInt8 := [153, 0, 5, 3, 172, 167, 0, 72, 43, 42, 21, 4, 4, 96, 46, 45, 184, 0, 164, 54, 5, 44, 42]
abbrev dktL_law_58 : List UInt8 := dkwL_law_58 ++ dktL_law_59
def dkwL_law_57 : List UInt8 := [182, 0, 92, 21, 5, 159, 0, 5, 3, 172, 21, 5, 154, 0, 15, 45, 3, 47, 21, 6, 133, 148]
abbrev dktL_law_57 : List UInt8 := dkwL_law_57 ++ dktL_law_58
def dkwL_law_56 : List UInt8 := [21, 4, 4, 96, 46, 45, 184, 0, 161, 54, 5, 44, 42, 21, 4, 4, 96, 46, 182, 0, 163, 54, 6, 44]
abbrev dktL_law_56 : List UInt8 := dkwL_law_56 ++ dktL_law_57
def dkwL_law_55 : List UInt8 := [153, 0, 5, 3, 172, 167, 0, 141, 43, 182, 0, 157, 44, 182, 0, 160, 159, 0, 130, 3, 172, 43, 42]
abbrev dktL_law_55 : List UInt8 := dkwL_law_55 ++ dktL_law_56
def dkwL_law_54 : List UInt8 := [182, 0, 92, 21, 5, 159, 0, 5, 3, 172, 21, 5, 154, 0, 15, 45, 3, 47, 21, 6, 133, 148]
abbrev dktL_law_54 : List UInt8 := dkwL_law_54 ++ dktL_law_55
def dkwL_law_53 : List UInt8 := [184, 0, 154, 54, 5, 44, 42, 21, 4, 4, 96, 46, 42, 21, 4, 5, 96, 46, 182, 0, 156, 54, 6, 44]
abbrev dktL_law_53 : List UInt8 := dkwL_law_53 ++ dktL_law_54
def dkwL_law_52 : List UInt8 := [153, 0, 5, 3, 172, 167, 0, 209, 43, 42, 21, 4, 4, 96, 46, 42, 21, 4, 5, 96, 46, 45]
abbrev dktL_law_52 : List UInt8 := dkwL_law_52 ++ dktL_law_53
def dkwL_law_51 : List UInt8 := [182, 0, 92, 21, 5, 159, 0, 5, 3, 172, 21, 5, 154, 0, 15, 45, 3, 47, 21, 6, 133, 148]
abbrev dktL_law_51 : List UInt8 := dkwL_law_51 ++ dktL_law_52
def dkwL_law_50 : List UInt8 := [184, 0, 151, 54, 5, 44, 42, 21, 4, 4, 96, 46, 42, 21, 4, 5, 96, 46, 182, 0, 153, 54, 6, 44]
abbrev dktL_law_50 : List UInt8 := dkwL_law_50 ++ dktL_law_51
def dkwL_law_49 : List UInt8 := [148, 153, 0, 5, 3, 172, 167, 1, 21, 43, 42, 21, 4, 4, 96, 46, 42, 21, 4, 5, 96, 46, 45]
abbrev dktL_law_49 : List UInt8 := dkwL_law_49 ++ dktL_law_50
def dkwL_law_48 : List UInt8 := [54, 6, 44, 182, 0, 92, 21, 5, 159, 0, 5, 3, 172, 21, 5, 154, 0, 15, 45, 3, 47, 21, 6, 133]
abbrev dktL_law_48 : List UInt8 := dkwL_law_48 ++ dktL_law_49
def dkwL_law_47 : List UInt8 := [46, 45, 184, 0, 148, 54, 5, 44, 42, 21, 4, 4, 96, 46, 42, 21, 4, 5, 96, 46, 182, 0, 150]
abbrev dktL_law_47 : List UInt8 := dkwL_law_47 ++ dktL_law_48
def dkwL_law_46 : List UInt8 := [21, 6, 133, 148, 153, 0, 5, 3, 172, 167, 1, 89, 43, 42, 21, 4, 4, 96, 46, 42, 21, 4, 5, 96]
abbrev dktL_law_46 : List UInt8 := dkwL_law_46 ++ dktL_law_47
def dkwL_law_45 : List UInt8 := [182, 0, 147, 54, 6, 44, 182, 0, 92, 21, 5, 159, 0, 5, 3, 172, 21, 5, 154, 0, 15, 45, 3, 47]
abbrev dktL_law_45 : List UInt8 := dkwL_law_45 ++ dktL_law_46
def dkwL_law_44 : List UInt8 := [167, 1, 145, 43, 42, 21, 4, 4, 96, 46, 45, 184, 0, 145, 54, 5, 44, 42, 21, 4, 4, 96, 46]
abbrev dktL_law_44 : List UInt8 := dkwL_law_44 ++ dktL_law_45
def dkwL_law_43 : List UInt8 := [21, 5, 159, 0, 5, 3, 172, 21, 5, 154, 0, 15, 45, 3, 47, 21, 6, 133, 148, 153, 0, 5, 3, 172]
abbrev dktL_law_43 : List UInt8 := dkwL_law_43 ++ dktL_law_44
def dkwL_law_42 : List UInt8 := [46, 45, 184, 0, 142, 54, 5, 44, 42, 21, 4, 4, 96, 46, 182, 0, 144, 54, 6, 44, 182, 0, 92]
abbrev dktL_law_42 : List UInt8 := dkwL_law_42 ++ dktL_law_43
def dkwL_law_41 : List UInt8 := [154, 0, 15, 45, 3, 47, 21, 6, 133, 148, 153, 0, 5, 3, 172, 167, 1, 201, 43, 42, 21, 4, 4, 96]
abbrev dktL_law_41 : List UInt8 := dkwL_law_41 ++ dktL_law_42
def dkwL_law_40 : List UInt8 := [21, 4, 4, 96, 46, 182, 0, 141, 54, 6, 44, 182, 0, 92, 21, 5, 159, 0, 5, 3, 172, 21, 5]
abbrev dktL_law_40 : List UInt8 := dkwL_law_40 ++ dktL_law_41
def dkwL_law_39 : List UInt8 := [153, 0, 5, 3, 172, 167, 2, 1, 43, 42, 21, 4, 4, 96, 46, 45, 184, 0, 139, 54, 5, 44, 42]
abbrev dktL_law_39 : List UInt8 := dkwL_law_39 ++ dktL_law_40
def dkwL_law_38 : List UInt8 := [44, 182, 0, 92, 21, 5, 159, 0, 5, 3, 172, 21, 5, 154, 0, 15, 45, 3, 47, 21, 6, 133, 148]
abbrev dktL_law_38 : List UInt8 := dkwL_law_38 ++ dktL_law_39
def dkwL_law_37 : List UInt8 := [21, 4, 4, 96, 46, 42, 21, 4, 5, 96, 46, 153, 0, 7, 4, 167, 0, 4, 3, 182, 0, 138, 54, 6]
abbrev dktL_law_37 : List UInt8 := dkwL_law_37 ++ dktL_law_38
def dkwL_law_36 : List UInt8 := [46, 42, 21, 4, 5, 96, 46, 153, 0, 7, 4, 167, 0, 4, 3, 45, 184, 0, 135, 54, 5, 44, 42]
abbrev dktL_law_36 : List UInt8 := dkwL_law_36 ++ dktL_law_37
def dkwL_law_35 : List UInt8 := [154, 0, 15, 45, 3, 47, 21, 6, 133, 148, 153, 0, 5, 3, 172, 167, 2, 85, 43, 42, 21, 4, 4, 96]
abbrev dktL_law_35 : List UInt8 := dkwL_law_35 ++ dktL_law_36
def dkwL_law_34 : List UInt8 := [21, 4, 6, 96, 46, 182, 0, 134, 54, 6, 44, 182, 0, 92, 21, 5, 159, 0, 5, 3, 172, 21, 5]
abbrev dktL_law_34 : List UInt8 := dkwL_law_34 ++ dktL_law_35
def dkwL_law_33 : List UInt8 := [6, 96, 46, 45, 184, 0, 131, 54, 5, 44, 42, 21, 4, 4, 96, 46, 42, 21, 4, 5, 96, 46, 42]
abbrev dktL_law_33 : List UInt8 := dkwL_law_33 ++ dktL_law_34
def dkwL_law_32 : List UInt8 := [153, 0, 5, 3, 172, 167, 2, 165, 43, 42, 21, 4, 4, 96, 46, 42, 21, 4, 5, 96, 46, 42, 21, 4]
abbrev dktL_law_32 : List UInt8 := dkwL_law_32 ++ dktL_law_33
def dkwL_law_31 : List UInt8 := [182, 0, 92, 21, 5, 159, 0, 5, 3, 172, 21, 5, 154, 0, 15, 45, 3, 47, 21, 6, 133, 148]
abbrev dktL_law_31 : List UInt8 := dkwL_law_31 ++ dktL_law_32
def dkwL_law_30 : List UInt8 := [184, 0, 128, 54, 5, 44, 42, 21, 4, 4, 96, 46, 42, 21, 4, 5, 96, 46, 182, 0, 130, 54, 6, 44]
abbrev dktL_law_30 : List UInt8 := dkwL_law_30 ++ dktL_law_31
def dkwL_law_29 : List UInt8 := [153, 0, 5, 3, 172, 167, 2, 233, 43, 42, 21, 4, 4, 96, 46, 42, 21, 4, 5, 96, 46, 45]
abbrev dktL_law_29 : List UInt8 := dkwL_law_29 ++ dktL_law_30
def dkwL_law_28 : List UInt8 := [182, 0, 92, 21, 5, 159, 0, 5, 3, 172, 21, 5, 154, 0, 15, 45, 3, 47, 21, 6, 133, 148]
abbrev dktL_law_28 : List UInt8 := dkwL_law_28 ++ dktL_law_29
def dkwL_law_27 : List UInt8 := [184, 0, 125, 54, 5, 44, 42, 21, 4, 4, 96, 46, 42, 21, 4, 5, 96, 46, 182, 0, 127, 54, 6, 44]
abbrev dktL_law_27 : List UInt8 := dkwL_law_27 ++ dktL_law_28
def dkwL_law_26 : List UInt8 := [153, 0, 5, 3, 172, 167, 3, 45, 43, 42, 21, 4, 4, 96, 46, 42, 21, 4, 5, 96, 46, 45]
abbrev dktL_law_26 : List UInt8 := dkwL_law_26 ++ dktL_law_27
def dkwL_law_25 : List UInt8 := [182, 0, 92, 21, 5, 159, 0, 5, 3, 172, 21, 5, 154, 0, 15, 45, 3, 47, 21, 6, 133, 148]
abbrev dktL_law_25 : List UInt8 := dkwL_law_25 ++ dktL_law_26
def dkwL_law_24 : List UInt8 := [184, 0, 122, 54, 5, 44, 42, 21, 4, 4, 96, 46, 42, 21, 4, 5, 96, 46, 182, 0, 124, 54, 6, 44]
abbrev dktL_law_24 : List UInt8 := dkwL_law_24 ++ dktL_law_25
def dkwL_law_23 : List UInt8 := [153, 0, 5, 3, 172, 167, 3, 113, 43, 42, 21, 4, 4, 96, 46, 42, 21, 4, 5, 96, 46, 45]
abbrev dktL_law_23 : List UInt8 := dkwL_law_23 ++ dktL_law_24
def dkwL_law_22 : List UInt8 := [182, 0, 92, 21, 5, 159, 0, 5, 3, 172, 21, 5, 154, 0, 15, 45, 3, 47, 21, 6, 133, 148]
abbrev dktL_law_22 : List UInt8 := dkwL_law_22 ++ dktL_law_23
def dkwL_law_21 : List UInt8 := [21, 4, 4, 96, 46, 45, 184, 0, 119, 54, 5, 44, 42, 21, 4, 4, 96, 46, 182, 0, 121, 54, 6, 44]
abbrev dktL_law_21 : List UInt8 := dkwL_law_21 ++ dktL_law_22
def dkwL_law_20 : List UInt8 := [172, 21, 5, 154, 0, 15, 45, 3, 47, 21, 6, 133, 148, 153, 0, 5, 3, 172, 167, 3, 169, 43, 42]
abbrev dktL_law_20 : List UInt8 := dkwL_law_20 ++ dktL_law_21
def dkwL_law_19 : List UInt8 := [54, 5, 44, 42, 21, 4, 4, 96, 46, 182, 0, 118, 54, 6, 44, 182, 0, 92, 21, 5, 159, 0, 5, 3]
abbrev dktL_law_19 : List UInt8 := dkwL_law_19 ++ dktL_law_20
def dkwL_law_18 : List UInt8 := [21, 6, 133, 148, 153, 0, 5, 3, 172, 167, 3, 225, 43, 42, 21, 4, 4, 96, 46, 45, 184, 0, 116]
abbrev dktL_law_18 : List UInt8 := dkwL_law_18 ++ dktL_law_19
def dkwL_law_17 : List UInt8 := [182, 0, 115, 54, 6, 44, 182, 0, 92, 21, 5, 159, 0, 5, 3, 172, 21, 5, 154, 0, 15, 45, 3, 47]
abbrev dktL_law_17 : List UInt8 := dkwL_law_17 ++ dktL_law_18
def dkwL_law_16 : List UInt8 := [167, 4, 25, 43, 42, 21, 4, 4, 96, 46, 45, 184, 0, 113, 54, 5, 44, 42, 21, 4, 4, 96, 46]
abbrev dktL_law_16 : List UInt8 := dkwL_law_16 ++ dktL_law_17
def dkwL_law_15 : List UInt8 := [21, 5, 159, 0, 5, 3, 172, 21, 5, 154, 0, 15, 45, 3, 47, 21, 6, 133, 148, 153, 0, 5, 3, 172]
abbrev dktL_law_15 : List UInt8 := dkwL_law_15 ++ dktL_law_16
def dkwL_law_14 : List UInt8 := [46, 45, 184, 0, 110, 54, 5, 44, 42, 21, 4, 4, 96, 46, 182, 0, 112, 54, 6, 44, 182, 0, 92]
abbrev dktL_law_14 : List UInt8 := dkwL_law_14 ++ dktL_law_15
def dkwL_law_13 : List UInt8 := [154, 0, 15, 45, 3, 47, 21, 6, 133, 148, 153, 0, 5, 3, 172, 167, 4, 81, 43, 42, 21, 4, 4, 96]
abbrev dktL_law_13 : List UInt8 := dkwL_law_13 ++ dktL_law_14
def dkwL_law_12 : List UInt8 := [21, 4, 4, 96, 46, 182, 0, 109, 54, 6, 44, 182, 0, 92, 21, 5, 159, 0, 5, 3, 172, 21, 5]
abbrev dktL_law_12 : List UInt8 := dkwL_law_12 ++ dktL_law_13
def dkwL_law_11 : List UInt8 := [182, 0, 106, 159, 4, 139, 3, 172, 43, 42, 21, 4, 4, 96, 46, 45, 184, 0, 107, 54, 5, 44, 42]
abbrev dktL_law_11 : List UInt8 := dkwL_law_11 ++ dktL_law_12
def dkwL_law_10 : List UInt8 := [154, 0, 15, 45, 3, 47, 21, 6, 133, 148, 153, 0, 5, 3, 172, 167, 4, 150, 43, 182, 0, 103, 44]
abbrev dktL_law_10 : List UInt8 := dkwL_law_10 ++ dktL_law_11
def dkwL_law_9 : List UInt8 := [21, 4, 4, 96, 46, 182, 0, 102, 54, 6, 44, 182, 0, 92, 21, 5, 159, 0, 5, 3, 172, 21, 5]
abbrev dktL_law_9 : List UInt8 := dkwL_law_9 ++ dktL_law_10
def dkwL_law_8 : List UInt8 := [153, 0, 5, 3, 172, 167, 4, 206, 43, 42, 21, 4, 4, 96, 46, 45, 184, 0, 100, 54, 5, 44, 42]
abbrev dktL_law_8 : List UInt8 := dkwL_law_8 ++ dktL_law_9
def dkwL_law_7 : List UInt8 := [182, 0, 92, 21, 5, 159, 0, 5, 3, 172, 21, 5, 154, 0, 15, 45, 3, 47, 21, 6, 133, 148]
abbrev dktL_law_7 : List UInt8 := dkwL_law_7 ++ dktL_law_8
def dkwL_law_6 : List UInt8 := [184, 0, 96, 54, 5, 44, 42, 21, 4, 4, 96, 46, 42, 21, 4, 5, 96, 46, 182, 0, 99, 54, 6, 44]
abbrev dktL_law_6 : List UInt8 := dkwL_law_6 ++ dktL_law_7
def dkwL_law_5 : List UInt8 := [148, 153, 0, 5, 3, 172, 167, 5, 18, 43, 42, 21, 4, 4, 96, 46, 42, 21, 4, 5, 96, 46, 45]
abbrev dktL_law_5 : List UInt8 := dkwL_law_5 ++ dktL_law_6
def dkwL_law_4 : List UInt8 := [54, 6, 44, 182, 0, 92, 21, 5, 159, 0, 5, 3, 172, 21, 5, 154, 0, 15, 45, 3, 47, 21, 6, 133]
abbrev dktL_law_4 : List UInt8 := dkwL_law_4 ++ dktL_law_5
def dkwL_law_3 : List UInt8 := [43, 42, 21, 4, 4, 96, 46, 45, 184, 0, 86, 54, 5, 44, 42, 21, 4, 4, 96, 46, 182, 0, 91]
abbrev dktL_law_3 : List UInt8 := dkwL_law_3 ++ dktL_law_4
def dkwL_law_2 : List UInt8 := [170, 0, 0, 5, 180, 0, 0, 0, 0, 0, 0, 0, 23, 0, 0, 0, 109, 0, 0, 0, 165, 0, 0, 0, 233, 0, 0, 1, 33, 0, 0, 1, 46, 0, 0, 1, 102, 0, 0, 1, 158, 0, 0, 1, 214, 0, 0, 2, 14, 0, 0, 2, 70, 0, 0, 2, 138, 0, 0, 2, 206, 0, 0, 3, 18, 0, 0, 3, 98, 0, 0, 3, 182, 0, 0, 3, 238, 0, 0, 4, 38, 0, 0, 4, 94, 0, 0, 4, 162, 0, 0, 4, 230, 0, 0, 5, 42, 0, 0, 5, 55, 0, 0, 5, 111, 0, 0, 5, 167]
abbrev dktL_law_2 : List UInt8 := dkwL_law_2 ++ dktL_law_3
def dkwL_law_1 : List UInt8 := [21, 4, 42, 190, 7, 100, 163, 5, 196, 42, 21, 4, 46, 16, 31, 126]
abbrev dktL_law_1 : List UInt8 := dkwL_law_1 ++ dktL_law_2
def dkwL_law_0 : List UInt8 := [187, 0, 8, 89, 183, 0, 82, 76, 187, 0, 83, 89, 183, 0, 85, 77, 4, 188, 11, 78, 3, 54, 4]
abbrev dktL_law_0 : List UInt8 := dkwL_law_0 ++ dktL_law_1
theorem dksL_law_0 : cL_law.data.toList.drop 0 = dktL_law_0 := by decide +kernel
theorem dksL_law_1 : cL_law.data.toList.drop 23 = dktL_law_1 := dk_seg dksL_law_0 23 rfl rfl
theorem dksL_law_2 : cL_law.data.toList.drop 39 = dktL_law_2 := dk_seg dksL_law_1 16 rfl rfl
theorem dksL_law_3 : cL_law.data.toList.drop 148 = dktL_law_3 := dk_seg dksL_law_2 109 rfl rfl
theorem dksL_law_4 : cL_law.data.toList.drop 171 = dktL_law_4 := dk_seg dksL_law_3 23 rfl rfl
theorem dksL_law_5 : cL_law.data.toList.drop 195 = dktL_law_5 := dk_seg dksL_law_4 24 rfl rfl
theorem dksL_law_6 : cL_law.data.toList.drop 218 = dktL_law_6 := dk_seg dksL_law_5 23 rfl rfl
theorem dksL_law_7 : cL_law.data.toList.drop 242 = dktL_law_7 := dk_seg dksL_law_6 24 rfl rfl
theorem dksL_law_8 : cL_law.data.toList.drop 264 = dktL_law_8 := dk_seg dksL_law_7 22 rfl rfl
theorem dksL_law_9 : cL_law.data.toList.drop 287 = dktL_law_9 := dk_seg dksL_law_8 23 rfl rfl
theorem dksL_law_10 : cL_law.data.toList.drop 310 = dktL_law_10 := dk_seg dksL_law_9 23 rfl rfl
theorem dksL_law_11 : cL_law.data.toList.drop 333 = dktL_law_11 := dk_seg dksL_law_10 23 rfl rfl
theorem dksL_law_12 : cL_law.data.toList.drop 356 = dktL_law_12 := dk_seg dksL_law_11 23 rfl rfl
theorem dksL_law_13 : cL_law.data.toList.drop 379 = dktL_law_13 := dk_seg dksL_law_12 23 rfl rfl
theorem dksL_law_14 : cL_law.data.toList.drop 403 = dktL_law_14 := dk_seg dksL_law_13 24 rfl rfl
theorem dksL_law_15 : cL_law.data.toList.drop 426 = dktL_law_15 := dk_seg dksL_law_14 23 rfl rfl
theorem dksL_law_16 : cL_law.data.toList.drop 450 = dktL_law_16 := dk_seg dksL_law_15 24 rfl rfl
theorem dksL_law_17 : cL_law.data.toList.drop 473 = dktL_law_17 := dk_seg dksL_law_16 23 rfl rfl
theorem dksL_law_18 : cL_law.data.toList.drop 497 = dktL_law_18 := dk_seg dksL_law_17 24 rfl rfl
theorem dksL_law_19 : cL_law.data.toList.drop 520 = dktL_law_19 := dk_seg dksL_law_18 23 rfl rfl
theorem dksL_law_20 : cL_law.data.toList.drop 544 = dktL_law_20 := dk_seg dksL_law_19 24 rfl rfl
theorem dksL_law_21 : cL_law.data.toList.drop 567 = dktL_law_21 := dk_seg dksL_law_20 23 rfl rfl
theorem dksL_law_22 : cL_law.data.toList.drop 591 = dktL_law_22 := dk_seg dksL_law_21 24 rfl rfl
theorem dksL_law_23 : cL_law.data.toList.drop 613 = dktL_law_23 := dk_seg dksL_law_22 22 rfl rfl
theorem dksL_law_24 : cL_law.data.toList.drop 635 = dktL_law_24 := dk_seg dksL_law_23 22 rfl rfl
theorem dksL_law_25 : cL_law.data.toList.drop 659 = dktL_law_25 := dk_seg dksL_law_24 24 rfl rfl
theorem dksL_law_26 : cL_law.data.toList.drop 681 = dktL_law_26 := dk_seg dksL_law_25 22 rfl rfl
theorem dksL_law_27 : cL_law.data.toList.drop 703 = dktL_law_27 := dk_seg dksL_law_26 22 rfl rfl
theorem dksL_law_28 : cL_law.data.toList.drop 727 = dktL_law_28 := dk_seg dksL_law_27 24 rfl rfl
theorem dksL_law_29 : cL_law.data.toList.drop 749 = dktL_law_29 := dk_seg dksL_law_28 22 rfl rfl
theorem dksL_law_30 : cL_law.data.toList.drop 771 = dktL_law_30 := dk_seg dksL_law_29 22 rfl rfl
theorem dksL_law_31 : cL_law.data.toList.drop 795 = dktL_law_31 := dk_seg dksL_law_30 24 rfl rfl
theorem dksL_law_32 : cL_law.data.toList.drop 817 = dktL_law_32 := dk_seg dksL_law_31 22 rfl rfl
theorem dksL_law_33 : cL_law.data.toList.drop 841 = dktL_law_33 := dk_seg dksL_law_32 24 rfl rfl
theorem dksL_law_34 : cL_law.data.toList.drop 864 = dktL_law_34 := dk_seg dksL_law_33 23 rfl rfl
theorem dksL_law_35 : cL_law.data.toList.drop 887 = dktL_law_35 := dk_seg dksL_law_34 23 rfl rfl
theorem dksL_law_36 : cL_law.data.toList.drop 911 = dktL_law_36 := dk_seg dksL_law_35 24 rfl rfl
theorem dksL_law_37 : cL_law.data.toList.drop 934 = dktL_law_37 := dk_seg dksL_law_36 23 rfl rfl
theorem dksL_law_38 : cL_law.data.toList.drop 958 = dktL_law_38 := dk_seg dksL_law_37 24 rfl rfl
theorem dksL_law_39 : cL_law.data.toList.drop 981 = dktL_law_39 := dk_seg dksL_law_38 23 rfl rfl
theorem dksL_law_40 : cL_law.data.toList.drop 1004 = dktL_law_40 := dk_seg dksL_law_39 23 rfl rfl
theorem dksL_law_41 : cL_law.data.toList.drop 1027 = dktL_law_41 := dk_seg dksL_law_40 23 rfl rfl
theorem dksL_law_42 : cL_law.data.toList.drop 1051 = dktL_law_42 := dk_seg dksL_law_41 24 rfl rfl
theorem dksL_law_43 : cL_law.data.toList.drop 1074 = dktL_law_43 := dk_seg dksL_law_42 23 rfl rfl
theorem dksL_law_44 : cL_law.data.toList.drop 1098 = dktL_law_44 := dk_seg dksL_law_43 24 rfl rfl
theorem dksL_law_45 : cL_law.data.toList.drop 1121 = dktL_law_45 := dk_seg dksL_law_44 23 rfl rfl
theorem dksL_law_46 : cL_law.data.toList.drop 1145 = dktL_law_46 := dk_seg dksL_law_45 24 rfl rfl
theorem dksL_law_47 : cL_law.data.toList.drop 1169 = dktL_law_47 := dk_seg dksL_law_46 24 rfl rfl
theorem dksL_law_48 : cL_law.data.toList.drop 1192 = dktL_law_48 := dk_seg dksL_law_47 23 rfl rfl
theorem dksL_law_49 : cL_law.data.toList.drop 1216 = dktL_law_49 := dk_seg dksL_law_48 24 rfl rfl
theorem dksL_law_50 : cL_law.data.toList.drop 1239 = dktL_law_50 := dk_seg dksL_law_49 23 rfl rfl
theorem dksL_law_51 : cL_law.data.toList.drop 1263 = dktL_law_51 := dk_seg dksL_law_50 24 rfl rfl
theorem dksL_law_52 : cL_law.data.toList.drop 1285 = dktL_law_52 := dk_seg dksL_law_51 22 rfl rfl
theorem dksL_law_53 : cL_law.data.toList.drop 1307 = dktL_law_53 := dk_seg dksL_law_52 22 rfl rfl
theorem dksL_law_54 : cL_law.data.toList.drop 1331 = dktL_law_54 := dk_seg dksL_law_53 24 rfl rfl
theorem dksL_law_55 : cL_law.data.toList.drop 1353 = dktL_law_55 := dk_seg dksL_law_54 22 rfl rfl
theorem dksL_law_56 : cL_law.data.toList.drop 1376 = dktL_law_56 := dk_seg dksL_law_55 23 rfl rfl
theorem dksL_law_57 : cL_law.data.toList.drop 1400 = dktL_law_57 := dk_seg dksL_law_56 24 rfl rfl
theorem dksL_law_58 : cL_law.data.toList.drop 1422 = dktL_law_58 := dk_seg dksL_law_57 22 rfl rfl
theorem dksL_law_59 : cL_law.data.toList.drop 1445 = dktL_law_59 := dk_seg dksL_law_58 23 rfl rfl
theorem dksL_law_60 : cL_law.data.toList.drop 1468 = dktL_law_60 := dk_seg dksL_law_59 23 rfl rfl
theorem dksL_law_61 : cL_law.data.toList.drop 1491 = dktL_law_61 := dk_seg dksL_law_60 23 rfl rfl
theorem dL_law_0 : decode cL_law 0 = .ok (.new 8, 3) := dk_187 0 8 (dk_at dksL_law_0 0 rfl rfl)
theorem dL_law_3 : decode cL_law 3 = .ok (.dup, 1) := dk_89 (dk_at dksL_law_0 3 rfl rfl)
theorem dL_law_4 : decode cL_law 4 = .ok (.invokespecial 82, 3) := dk_183 0 82 (dk_at dksL_law_0 4 rfl rfl)
theorem dL_law_7 : decode cL_law 7 = .ok (.astore_n 1, 1) := dk_76 (dk_at dksL_law_0 7 rfl rfl)
theorem dL_law_8 : decode cL_law 8 = .ok (.new 83, 3) := dk_187 0 83 (dk_at dksL_law_0 8 rfl rfl)
theorem dL_law_11 : decode cL_law 11 = .ok (.dup, 1) := dk_89 (dk_at dksL_law_0 11 rfl rfl)
theorem dL_law_12 : decode cL_law 12 = .ok (.invokespecial 85, 3) := dk_183 0 85 (dk_at dksL_law_0 12 rfl rfl)
theorem dL_law_15 : decode cL_law 15 = .ok (.astore_n 2, 1) := dk_77 (dk_at dksL_law_0 15 rfl rfl)
theorem dL_law_16 : decode cL_law 16 = .ok (.iconst 1, 1) := dk_4 (dk_at dksL_law_0 16 rfl rfl)
theorem dL_law_17 : decode cL_law 17 = .ok (.newarray .long, 2) := dk_188_11 (dk_at dksL_law_0 17 rfl rfl)
theorem dL_law_19 : decode cL_law 19 = .ok (.astore_n 3, 1) := dk_78 (dk_at dksL_law_0 19 rfl rfl)
theorem dL_law_20 : decode cL_law 20 = .ok (.iconst 0, 1) := dk_3 (dk_at dksL_law_0 20 rfl rfl)
theorem dL_law_21 : decode cL_law 21 = .ok (.istore 4, 2) := dk_54 4 (dk_at dksL_law_0 21 rfl rfl)
theorem dL_law_23 : decode cL_law 23 = .ok (.iload 4, 2) := dk_21 4 (dk_at dksL_law_1 0 rfl rfl)
theorem dL_law_25 : decode cL_law 25 = .ok (.aload_n 0, 1) := dk_42 (dk_at dksL_law_1 2 rfl rfl)
theorem dL_law_26 : decode cL_law 26 = .ok (.arraylength, 1) := dk_190 (dk_at dksL_law_1 3 rfl rfl)
theorem dL_law_27 : decode cL_law 27 = .ok (.iconst 4, 1) := dk_7 (dk_at dksL_law_1 4 rfl rfl)
theorem dL_law_28 : decode cL_law 28 = .ok (.isub, 1) := dk_100 (dk_at dksL_law_1 5 rfl rfl)
theorem dL_law_29 : decode cL_law 29 = .ok (.if_icmp .gt 1476, 3) := dk_163 5 196 (dk_at dksL_law_1 6 rfl rfl)
theorem dL_law_32 : decode cL_law 32 = .ok (.aload_n 0, 1) := dk_42 (dk_at dksL_law_1 9 rfl rfl)
theorem dL_law_33 : decode cL_law 33 = .ok (.iload 4, 2) := dk_21 4 (dk_at dksL_law_1 10 rfl rfl)
theorem dL_law_35 : decode cL_law 35 = .ok (.iaload, 1) := dk_46 (dk_at dksL_law_1 12 rfl rfl)
theorem dL_law_36 : decode cL_law 36 = .ok (.bipush 31, 2) := dk_16 31 (dk_at dksL_law_1 13 rfl rfl)
theorem dL_law_38 : decode cL_law 38 = .ok (.iand, 1) := dk_126 (dk_at dksL_law_1 15 rfl rfl)
theorem dL_law_39 : decode cL_law 39 = .ok (.tableswitch 1460 0 23 #[109, 165, 233, 289, 302, 358, 414, 470, 526, 582, 650, 718, 786, 866, 950, 1006, 1062, 1118, 1186, 1254, 1322, 1335, 1391, 1447], 109) := by decide +kernel
theorem dL_law_148 : decode cL_law 148 = .ok (.aload_n 1, 1) := dk_43 (dk_at dksL_law_3 0 rfl rfl)
theorem dL_law_149 : decode cL_law 149 = .ok (.aload_n 0, 1) := dk_42 (dk_at dksL_law_3 1 rfl rfl)
theorem dL_law_150 : decode cL_law 150 = .ok (.iload 4, 2) := dk_21 4 (dk_at dksL_law_3 2 rfl rfl)
theorem dL_law_152 : decode cL_law 152 = .ok (.iconst 1, 1) := dk_4 (dk_at dksL_law_3 4 rfl rfl)
theorem dL_law_153 : decode cL_law 153 = .ok (.iadd, 1) := dk_96 (dk_at dksL_law_3 5 rfl rfl)
theorem dL_law_154 : decode cL_law 154 = .ok (.iaload, 1) := dk_46 (dk_at dksL_law_3 6 rfl rfl)
theorem dL_law_155 : decode cL_law 155 = .ok (.aload_n 3, 1) := dk_45 (dk_at dksL_law_3 7 rfl rfl)
theorem dL_law_156 : decode cL_law 156 = .ok (.invokestatic 86, 3) := dk_184 0 86 (dk_at dksL_law_3 8 rfl rfl)
theorem dL_law_159 : decode cL_law 159 = .ok (.istore 5, 2) := dk_54 5 (dk_at dksL_law_3 11 rfl rfl)
theorem dL_law_161 : decode cL_law 161 = .ok (.aload_n 2, 1) := dk_44 (dk_at dksL_law_3 13 rfl rfl)
theorem dL_law_162 : decode cL_law 162 = .ok (.aload_n 0, 1) := dk_42 (dk_at dksL_law_3 14 rfl rfl)
theorem dL_law_163 : decode cL_law 163 = .ok (.iload 4, 2) := dk_21 4 (dk_at dksL_law_3 15 rfl rfl)
theorem dL_law_165 : decode cL_law 165 = .ok (.iconst 1, 1) := dk_4 (dk_at dksL_law_3 17 rfl rfl)
theorem dL_law_166 : decode cL_law 166 = .ok (.iadd, 1) := dk_96 (dk_at dksL_law_3 18 rfl rfl)
theorem dL_law_167 : decode cL_law 167 = .ok (.iaload, 1) := dk_46 (dk_at dksL_law_3 19 rfl rfl)
theorem dL_law_168 : decode cL_law 168 = .ok (.invokevirtual 91, 3) := dk_182 0 91 (dk_at dksL_law_3 20 rfl rfl)
theorem dL_law_171 : decode cL_law 171 = .ok (.istore 6, 2) := dk_54 6 (dk_at dksL_law_4 0 rfl rfl)
theorem dL_law_173 : decode cL_law 173 = .ok (.aload_n 2, 1) := dk_44 (dk_at dksL_law_4 2 rfl rfl)
theorem dL_law_174 : decode cL_law 174 = .ok (.invokevirtual 92, 3) := dk_182 0 92 (dk_at dksL_law_4 3 rfl rfl)
theorem dL_law_177 : decode cL_law 177 = .ok (.iload 5, 2) := dk_21 5 (dk_at dksL_law_4 6 rfl rfl)
theorem dL_law_179 : decode cL_law 179 = .ok (.if_icmp .eq 5, 3) := dk_159 0 5 (dk_at dksL_law_4 8 rfl rfl)
theorem dL_law_182 : decode cL_law 182 = .ok (.iconst 0, 1) := dk_3 (dk_at dksL_law_4 11 rfl rfl)
theorem dL_law_183 : decode cL_law 183 = .ok (.ireturn, 1) := dk_172 (dk_at dksL_law_4 12 rfl rfl)
theorem dL_law_184 : decode cL_law 184 = .ok (.iload 5, 2) := dk_21 5 (dk_at dksL_law_4 13 rfl rfl)
theorem dL_law_186 : decode cL_law 186 = .ok (.ifCond .ne 15, 3) := dk_154 0 15 (dk_at dksL_law_4 15 rfl rfl)
theorem dL_law_189 : decode cL_law 189 = .ok (.aload_n 3, 1) := dk_45 (dk_at dksL_law_4 18 rfl rfl)
theorem dL_law_190 : decode cL_law 190 = .ok (.iconst 0, 1) := dk_3 (dk_at dksL_law_4 19 rfl rfl)
theorem dL_law_191 : decode cL_law 191 = .ok (.laload, 1) := dk_47 (dk_at dksL_law_4 20 rfl rfl)
theorem dL_law_192 : decode cL_law 192 = .ok (.iload 6, 2) := dk_21 6 (dk_at dksL_law_4 21 rfl rfl)
theorem dL_law_194 : decode cL_law 194 = .ok (.i2l, 1) := dk_133 (dk_at dksL_law_4 23 rfl rfl)
theorem dL_law_195 : decode cL_law 195 = .ok (.lcmp, 1) := dk_148 (dk_at dksL_law_5 0 rfl rfl)
theorem dL_law_196 : decode cL_law 196 = .ok (.ifCond .eq 5, 3) := dk_153 0 5 (dk_at dksL_law_5 1 rfl rfl)
theorem dL_law_199 : decode cL_law 199 = .ok (.iconst 0, 1) := dk_3 (dk_at dksL_law_5 4 rfl rfl)
theorem dL_law_200 : decode cL_law 200 = .ok (.ireturn, 1) := dk_172 (dk_at dksL_law_5 5 rfl rfl)
theorem dL_law_201 : decode cL_law 201 = .ok (.goto 1298, 3) := dk_167 5 18 (dk_at dksL_law_5 6 rfl rfl)
theorem dL_law_204 : decode cL_law 204 = .ok (.aload_n 1, 1) := dk_43 (dk_at dksL_law_5 9 rfl rfl)
theorem dL_law_205 : decode cL_law 205 = .ok (.aload_n 0, 1) := dk_42 (dk_at dksL_law_5 10 rfl rfl)
theorem dL_law_206 : decode cL_law 206 = .ok (.iload 4, 2) := dk_21 4 (dk_at dksL_law_5 11 rfl rfl)
theorem dL_law_208 : decode cL_law 208 = .ok (.iconst 1, 1) := dk_4 (dk_at dksL_law_5 13 rfl rfl)
theorem dL_law_209 : decode cL_law 209 = .ok (.iadd, 1) := dk_96 (dk_at dksL_law_5 14 rfl rfl)
theorem dL_law_210 : decode cL_law 210 = .ok (.iaload, 1) := dk_46 (dk_at dksL_law_5 15 rfl rfl)
theorem dL_law_211 : decode cL_law 211 = .ok (.aload_n 0, 1) := dk_42 (dk_at dksL_law_5 16 rfl rfl)
theorem dL_law_212 : decode cL_law 212 = .ok (.iload 4, 2) := dk_21 4 (dk_at dksL_law_5 17 rfl rfl)
theorem dL_law_214 : decode cL_law 214 = .ok (.iconst 2, 1) := dk_5 (dk_at dksL_law_5 19 rfl rfl)
theorem dL_law_215 : decode cL_law 215 = .ok (.iadd, 1) := dk_96 (dk_at dksL_law_5 20 rfl rfl)
theorem dL_law_216 : decode cL_law 216 = .ok (.iaload, 1) := dk_46 (dk_at dksL_law_5 21 rfl rfl)
theorem dL_law_217 : decode cL_law 217 = .ok (.aload_n 3, 1) := dk_45 (dk_at dksL_law_5 22 rfl rfl)
theorem dL_law_218 : decode cL_law 218 = .ok (.invokestatic 96, 3) := dk_184 0 96 (dk_at dksL_law_6 0 rfl rfl)
theorem dL_law_221 : decode cL_law 221 = .ok (.istore 5, 2) := dk_54 5 (dk_at dksL_law_6 3 rfl rfl)
theorem dL_law_223 : decode cL_law 223 = .ok (.aload_n 2, 1) := dk_44 (dk_at dksL_law_6 5 rfl rfl)
theorem dL_law_224 : decode cL_law 224 = .ok (.aload_n 0, 1) := dk_42 (dk_at dksL_law_6 6 rfl rfl)
theorem dL_law_225 : decode cL_law 225 = .ok (.iload 4, 2) := dk_21 4 (dk_at dksL_law_6 7 rfl rfl)
theorem dL_law_227 : decode cL_law 227 = .ok (.iconst 1, 1) := dk_4 (dk_at dksL_law_6 9 rfl rfl)
theorem dL_law_228 : decode cL_law 228 = .ok (.iadd, 1) := dk_96 (dk_at dksL_law_6 10 rfl rfl)
theorem dL_law_229 : decode cL_law 229 = .ok (.iaload, 1) := dk_46 (dk_at dksL_law_6 11 rfl rfl)
theorem dL_law_230 : decode cL_law 230 = .ok (.aload_n 0, 1) := dk_42 (dk_at dksL_law_6 12 rfl rfl)
theorem dL_law_231 : decode cL_law 231 = .ok (.iload 4, 2) := dk_21 4 (dk_at dksL_law_6 13 rfl rfl)
theorem dL_law_233 : decode cL_law 233 = .ok (.iconst 2, 1) := dk_5 (dk_at dksL_law_6 15 rfl rfl)
theorem dL_law_234 : decode cL_law 234 = .ok (.iadd, 1) := dk_96 (dk_at dksL_law_6 16 rfl rfl)
theorem dL_law_235 : decode cL_law 235 = .ok (.iaload, 1) := dk_46 (dk_at dksL_law_6 17 rfl rfl)
theorem dL_law_236 : decode cL_law 236 = .ok (.invokevirtual 99, 3) := dk_182 0 99 (dk_at dksL_law_6 18 rfl rfl)
theorem dL_law_239 : decode cL_law 239 = .ok (.istore 6, 2) := dk_54 6 (dk_at dksL_law_6 21 rfl rfl)
theorem dL_law_241 : decode cL_law 241 = .ok (.aload_n 2, 1) := dk_44 (dk_at dksL_law_6 23 rfl rfl)
theorem dL_law_242 : decode cL_law 242 = .ok (.invokevirtual 92, 3) := dk_182 0 92 (dk_at dksL_law_7 0 rfl rfl)
theorem dL_law_245 : decode cL_law 245 = .ok (.iload 5, 2) := dk_21 5 (dk_at dksL_law_7 3 rfl rfl)
theorem dL_law_247 : decode cL_law 247 = .ok (.if_icmp .eq 5, 3) := dk_159 0 5 (dk_at dksL_law_7 5 rfl rfl)
theorem dL_law_250 : decode cL_law 250 = .ok (.iconst 0, 1) := dk_3 (dk_at dksL_law_7 8 rfl rfl)
theorem dL_law_251 : decode cL_law 251 = .ok (.ireturn, 1) := dk_172 (dk_at dksL_law_7 9 rfl rfl)
theorem dL_law_252 : decode cL_law 252 = .ok (.iload 5, 2) := dk_21 5 (dk_at dksL_law_7 10 rfl rfl)
theorem dL_law_254 : decode cL_law 254 = .ok (.ifCond .ne 15, 3) := dk_154 0 15 (dk_at dksL_law_7 12 rfl rfl)
theorem dL_law_257 : decode cL_law 257 = .ok (.aload_n 3, 1) := dk_45 (dk_at dksL_law_7 15 rfl rfl)
theorem dL_law_258 : decode cL_law 258 = .ok (.iconst 0, 1) := dk_3 (dk_at dksL_law_7 16 rfl rfl)
theorem dL_law_259 : decode cL_law 259 = .ok (.laload, 1) := dk_47 (dk_at dksL_law_7 17 rfl rfl)
theorem dL_law_260 : decode cL_law 260 = .ok (.iload 6, 2) := dk_21 6 (dk_at dksL_law_7 18 rfl rfl)
theorem dL_law_262 : decode cL_law 262 = .ok (.i2l, 1) := dk_133 (dk_at dksL_law_7 20 rfl rfl)
theorem dL_law_263 : decode cL_law 263 = .ok (.lcmp, 1) := dk_148 (dk_at dksL_law_7 21 rfl rfl)
theorem dL_law_264 : decode cL_law 264 = .ok (.ifCond .eq 5, 3) := dk_153 0 5 (dk_at dksL_law_8 0 rfl rfl)
theorem dL_law_267 : decode cL_law 267 = .ok (.iconst 0, 1) := dk_3 (dk_at dksL_law_8 3 rfl rfl)
theorem dL_law_268 : decode cL_law 268 = .ok (.ireturn, 1) := dk_172 (dk_at dksL_law_8 4 rfl rfl)
theorem dL_law_269 : decode cL_law 269 = .ok (.goto 1230, 3) := dk_167 4 206 (dk_at dksL_law_8 5 rfl rfl)
theorem dL_law_272 : decode cL_law 272 = .ok (.aload_n 1, 1) := dk_43 (dk_at dksL_law_8 8 rfl rfl)
theorem dL_law_273 : decode cL_law 273 = .ok (.aload_n 0, 1) := dk_42 (dk_at dksL_law_8 9 rfl rfl)
theorem dL_law_274 : decode cL_law 274 = .ok (.iload 4, 2) := dk_21 4 (dk_at dksL_law_8 10 rfl rfl)
theorem dL_law_276 : decode cL_law 276 = .ok (.iconst 1, 1) := dk_4 (dk_at dksL_law_8 12 rfl rfl)
theorem dL_law_277 : decode cL_law 277 = .ok (.iadd, 1) := dk_96 (dk_at dksL_law_8 13 rfl rfl)
theorem dL_law_278 : decode cL_law 278 = .ok (.iaload, 1) := dk_46 (dk_at dksL_law_8 14 rfl rfl)
theorem dL_law_279 : decode cL_law 279 = .ok (.aload_n 3, 1) := dk_45 (dk_at dksL_law_8 15 rfl rfl)
theorem dL_law_280 : decode cL_law 280 = .ok (.invokestatic 100, 3) := dk_184 0 100 (dk_at dksL_law_8 16 rfl rfl)
theorem dL_law_283 : decode cL_law 283 = .ok (.istore 5, 2) := dk_54 5 (dk_at dksL_law_8 19 rfl rfl)
theorem dL_law_285 : decode cL_law 285 = .ok (.aload_n 2, 1) := dk_44 (dk_at dksL_law_8 21 rfl rfl)
theorem dL_law_286 : decode cL_law 286 = .ok (.aload_n 0, 1) := dk_42 (dk_at dksL_law_8 22 rfl rfl)
theorem dL_law_287 : decode cL_law 287 = .ok (.iload 4, 2) := dk_21 4 (dk_at dksL_law_9 0 rfl rfl)
theorem dL_law_289 : decode cL_law 289 = .ok (.iconst 1, 1) := dk_4 (dk_at dksL_law_9 2 rfl rfl)
theorem dL_law_290 : decode cL_law 290 = .ok (.iadd, 1) := dk_96 (dk_at dksL_law_9 3 rfl rfl)
theorem dL_law_291 : decode cL_law 291 = .ok (.iaload, 1) := dk_46 (dk_at dksL_law_9 4 rfl rfl)
theorem dL_law_292 : decode cL_law 292 = .ok (.invokevirtual 102, 3) := dk_182 0 102 (dk_at dksL_law_9 5 rfl rfl)
theorem dL_law_295 : decode cL_law 295 = .ok (.istore 6, 2) := dk_54 6 (dk_at dksL_law_9 8 rfl rfl)
theorem dL_law_297 : decode cL_law 297 = .ok (.aload_n 2, 1) := dk_44 (dk_at dksL_law_9 10 rfl rfl)
theorem dL_law_298 : decode cL_law 298 = .ok (.invokevirtual 92, 3) := dk_182 0 92 (dk_at dksL_law_9 11 rfl rfl)
theorem dL_law_301 : decode cL_law 301 = .ok (.iload 5, 2) := dk_21 5 (dk_at dksL_law_9 14 rfl rfl)
theorem dL_law_303 : decode cL_law 303 = .ok (.if_icmp .eq 5, 3) := dk_159 0 5 (dk_at dksL_law_9 16 rfl rfl)
theorem dL_law_306 : decode cL_law 306 = .ok (.iconst 0, 1) := dk_3 (dk_at dksL_law_9 19 rfl rfl)
theorem dL_law_307 : decode cL_law 307 = .ok (.ireturn, 1) := dk_172 (dk_at dksL_law_9 20 rfl rfl)
theorem dL_law_308 : decode cL_law 308 = .ok (.iload 5, 2) := dk_21 5 (dk_at dksL_law_9 21 rfl rfl)
theorem dL_law_310 : decode cL_law 310 = .ok (.ifCond .ne 15, 3) := dk_154 0 15 (dk_at dksL_law_10 0 rfl rfl)
theorem dL_law_313 : decode cL_law 313 = .ok (.aload_n 3, 1) := dk_45 (dk_at dksL_law_10 3 rfl rfl)
theorem dL_law_314 : decode cL_law 314 = .ok (.iconst 0, 1) := dk_3 (dk_at dksL_law_10 4 rfl rfl)
theorem dL_law_315 : decode cL_law 315 = .ok (.laload, 1) := dk_47 (dk_at dksL_law_10 5 rfl rfl)
theorem dL_law_316 : decode cL_law 316 = .ok (.iload 6, 2) := dk_21 6 (dk_at dksL_law_10 6 rfl rfl)
theorem dL_law_318 : decode cL_law 318 = .ok (.i2l, 1) := dk_133 (dk_at dksL_law_10 8 rfl rfl)
theorem dL_law_319 : decode cL_law 319 = .ok (.lcmp, 1) := dk_148 (dk_at dksL_law_10 9 rfl rfl)
theorem dL_law_320 : decode cL_law 320 = .ok (.ifCond .eq 5, 3) := dk_153 0 5 (dk_at dksL_law_10 10 rfl rfl)
theorem dL_law_323 : decode cL_law 323 = .ok (.iconst 0, 1) := dk_3 (dk_at dksL_law_10 13 rfl rfl)
theorem dL_law_324 : decode cL_law 324 = .ok (.ireturn, 1) := dk_172 (dk_at dksL_law_10 14 rfl rfl)
theorem dL_law_325 : decode cL_law 325 = .ok (.goto 1174, 3) := dk_167 4 150 (dk_at dksL_law_10 15 rfl rfl)
theorem dL_law_328 : decode cL_law 328 = .ok (.aload_n 1, 1) := dk_43 (dk_at dksL_law_10 18 rfl rfl)
theorem dL_law_329 : decode cL_law 329 = .ok (.invokevirtual 103, 3) := dk_182 0 103 (dk_at dksL_law_10 19 rfl rfl)
theorem dL_law_332 : decode cL_law 332 = .ok (.aload_n 2, 1) := dk_44 (dk_at dksL_law_10 22 rfl rfl)
theorem dL_law_333 : decode cL_law 333 = .ok (.invokevirtual 106, 3) := dk_182 0 106 (dk_at dksL_law_11 0 rfl rfl)
theorem dL_law_336 : decode cL_law 336 = .ok (.if_icmp .eq 1163, 3) := dk_159 4 139 (dk_at dksL_law_11 3 rfl rfl)
theorem dL_law_339 : decode cL_law 339 = .ok (.iconst 0, 1) := dk_3 (dk_at dksL_law_11 6 rfl rfl)
theorem dL_law_340 : decode cL_law 340 = .ok (.ireturn, 1) := dk_172 (dk_at dksL_law_11 7 rfl rfl)
theorem dL_law_341 : decode cL_law 341 = .ok (.aload_n 1, 1) := dk_43 (dk_at dksL_law_11 8 rfl rfl)
theorem dL_law_342 : decode cL_law 342 = .ok (.aload_n 0, 1) := dk_42 (dk_at dksL_law_11 9 rfl rfl)
theorem dL_law_343 : decode cL_law 343 = .ok (.iload 4, 2) := dk_21 4 (dk_at dksL_law_11 10 rfl rfl)
theorem dL_law_345 : decode cL_law 345 = .ok (.iconst 1, 1) := dk_4 (dk_at dksL_law_11 12 rfl rfl)
theorem dL_law_346 : decode cL_law 346 = .ok (.iadd, 1) := dk_96 (dk_at dksL_law_11 13 rfl rfl)
theorem dL_law_347 : decode cL_law 347 = .ok (.iaload, 1) := dk_46 (dk_at dksL_law_11 14 rfl rfl)
theorem dL_law_348 : decode cL_law 348 = .ok (.aload_n 3, 1) := dk_45 (dk_at dksL_law_11 15 rfl rfl)
theorem dL_law_349 : decode cL_law 349 = .ok (.invokestatic 107, 3) := dk_184 0 107 (dk_at dksL_law_11 16 rfl rfl)
theorem dL_law_352 : decode cL_law 352 = .ok (.istore 5, 2) := dk_54 5 (dk_at dksL_law_11 19 rfl rfl)
theorem dL_law_354 : decode cL_law 354 = .ok (.aload_n 2, 1) := dk_44 (dk_at dksL_law_11 21 rfl rfl)
theorem dL_law_355 : decode cL_law 355 = .ok (.aload_n 0, 1) := dk_42 (dk_at dksL_law_11 22 rfl rfl)
theorem dL_law_356 : decode cL_law 356 = .ok (.iload 4, 2) := dk_21 4 (dk_at dksL_law_12 0 rfl rfl)
theorem dL_law_358 : decode cL_law 358 = .ok (.iconst 1, 1) := dk_4 (dk_at dksL_law_12 2 rfl rfl)
theorem dL_law_359 : decode cL_law 359 = .ok (.iadd, 1) := dk_96 (dk_at dksL_law_12 3 rfl rfl)
theorem dL_law_360 : decode cL_law 360 = .ok (.iaload, 1) := dk_46 (dk_at dksL_law_12 4 rfl rfl)
theorem dL_law_361 : decode cL_law 361 = .ok (.invokevirtual 109, 3) := dk_182 0 109 (dk_at dksL_law_12 5 rfl rfl)
theorem dL_law_364 : decode cL_law 364 = .ok (.istore 6, 2) := dk_54 6 (dk_at dksL_law_12 8 rfl rfl)
theorem dL_law_366 : decode cL_law 366 = .ok (.aload_n 2, 1) := dk_44 (dk_at dksL_law_12 10 rfl rfl)
theorem dL_law_367 : decode cL_law 367 = .ok (.invokevirtual 92, 3) := dk_182 0 92 (dk_at dksL_law_12 11 rfl rfl)
theorem dL_law_370 : decode cL_law 370 = .ok (.iload 5, 2) := dk_21 5 (dk_at dksL_law_12 14 rfl rfl)
theorem dL_law_372 : decode cL_law 372 = .ok (.if_icmp .eq 5, 3) := dk_159 0 5 (dk_at dksL_law_12 16 rfl rfl)
theorem dL_law_375 : decode cL_law 375 = .ok (.iconst 0, 1) := dk_3 (dk_at dksL_law_12 19 rfl rfl)
theorem dL_law_376 : decode cL_law 376 = .ok (.ireturn, 1) := dk_172 (dk_at dksL_law_12 20 rfl rfl)
theorem dL_law_377 : decode cL_law 377 = .ok (.iload 5, 2) := dk_21 5 (dk_at dksL_law_12 21 rfl rfl)
theorem dL_law_379 : decode cL_law 379 = .ok (.ifCond .ne 15, 3) := dk_154 0 15 (dk_at dksL_law_13 0 rfl rfl)
theorem dL_law_382 : decode cL_law 382 = .ok (.aload_n 3, 1) := dk_45 (dk_at dksL_law_13 3 rfl rfl)
theorem dL_law_383 : decode cL_law 383 = .ok (.iconst 0, 1) := dk_3 (dk_at dksL_law_13 4 rfl rfl)
theorem dL_law_384 : decode cL_law 384 = .ok (.laload, 1) := dk_47 (dk_at dksL_law_13 5 rfl rfl)
theorem dL_law_385 : decode cL_law 385 = .ok (.iload 6, 2) := dk_21 6 (dk_at dksL_law_13 6 rfl rfl)
theorem dL_law_387 : decode cL_law 387 = .ok (.i2l, 1) := dk_133 (dk_at dksL_law_13 8 rfl rfl)
theorem dL_law_388 : decode cL_law 388 = .ok (.lcmp, 1) := dk_148 (dk_at dksL_law_13 9 rfl rfl)
theorem dL_law_389 : decode cL_law 389 = .ok (.ifCond .eq 5, 3) := dk_153 0 5 (dk_at dksL_law_13 10 rfl rfl)
theorem dL_law_392 : decode cL_law 392 = .ok (.iconst 0, 1) := dk_3 (dk_at dksL_law_13 13 rfl rfl)
theorem dL_law_393 : decode cL_law 393 = .ok (.ireturn, 1) := dk_172 (dk_at dksL_law_13 14 rfl rfl)
theorem dL_law_394 : decode cL_law 394 = .ok (.goto 1105, 3) := dk_167 4 81 (dk_at dksL_law_13 15 rfl rfl)
theorem dL_law_397 : decode cL_law 397 = .ok (.aload_n 1, 1) := dk_43 (dk_at dksL_law_13 18 rfl rfl)
theorem dL_law_398 : decode cL_law 398 = .ok (.aload_n 0, 1) := dk_42 (dk_at dksL_law_13 19 rfl rfl)
theorem dL_law_399 : decode cL_law 399 = .ok (.iload 4, 2) := dk_21 4 (dk_at dksL_law_13 20 rfl rfl)
theorem dL_law_401 : decode cL_law 401 = .ok (.iconst 1, 1) := dk_4 (dk_at dksL_law_13 22 rfl rfl)
theorem dL_law_402 : decode cL_law 402 = .ok (.iadd, 1) := dk_96 (dk_at dksL_law_13 23 rfl rfl)
theorem dL_law_403 : decode cL_law 403 = .ok (.iaload, 1) := dk_46 (dk_at dksL_law_14 0 rfl rfl)
theorem dL_law_404 : decode cL_law 404 = .ok (.aload_n 3, 1) := dk_45 (dk_at dksL_law_14 1 rfl rfl)
theorem dL_law_405 : decode cL_law 405 = .ok (.invokestatic 110, 3) := dk_184 0 110 (dk_at dksL_law_14 2 rfl rfl)
theorem dL_law_408 : decode cL_law 408 = .ok (.istore 5, 2) := dk_54 5 (dk_at dksL_law_14 5 rfl rfl)
theorem dL_law_410 : decode cL_law 410 = .ok (.aload_n 2, 1) := dk_44 (dk_at dksL_law_14 7 rfl rfl)
theorem dL_law_411 : decode cL_law 411 = .ok (.aload_n 0, 1) := dk_42 (dk_at dksL_law_14 8 rfl rfl)
theorem dL_law_412 : decode cL_law 412 = .ok (.iload 4, 2) := dk_21 4 (dk_at dksL_law_14 9 rfl rfl)
theorem dL_law_414 : decode cL_law 414 = .ok (.iconst 1, 1) := dk_4 (dk_at dksL_law_14 11 rfl rfl)
theorem dL_law_415 : decode cL_law 415 = .ok (.iadd, 1) := dk_96 (dk_at dksL_law_14 12 rfl rfl)
theorem dL_law_416 : decode cL_law 416 = .ok (.iaload, 1) := dk_46 (dk_at dksL_law_14 13 rfl rfl)
theorem dL_law_417 : decode cL_law 417 = .ok (.invokevirtual 112, 3) := dk_182 0 112 (dk_at dksL_law_14 14 rfl rfl)
theorem dL_law_420 : decode cL_law 420 = .ok (.istore 6, 2) := dk_54 6 (dk_at dksL_law_14 17 rfl rfl)
theorem dL_law_422 : decode cL_law 422 = .ok (.aload_n 2, 1) := dk_44 (dk_at dksL_law_14 19 rfl rfl)
theorem dL_law_423 : decode cL_law 423 = .ok (.invokevirtual 92, 3) := dk_182 0 92 (dk_at dksL_law_14 20 rfl rfl)
theorem dL_law_426 : decode cL_law 426 = .ok (.iload 5, 2) := dk_21 5 (dk_at dksL_law_15 0 rfl rfl)
theorem dL_law_428 : decode cL_law 428 = .ok (.if_icmp .eq 5, 3) := dk_159 0 5 (dk_at dksL_law_15 2 rfl rfl)
theorem dL_law_431 : decode cL_law 431 = .ok (.iconst 0, 1) := dk_3 (dk_at dksL_law_15 5 rfl rfl)
theorem dL_law_432 : decode cL_law 432 = .ok (.ireturn, 1) := dk_172 (dk_at dksL_law_15 6 rfl rfl)
theorem dL_law_433 : decode cL_law 433 = .ok (.iload 5, 2) := dk_21 5 (dk_at dksL_law_15 7 rfl rfl)
theorem dL_law_435 : decode cL_law 435 = .ok (.ifCond .ne 15, 3) := dk_154 0 15 (dk_at dksL_law_15 9 rfl rfl)
theorem dL_law_438 : decode cL_law 438 = .ok (.aload_n 3, 1) := dk_45 (dk_at dksL_law_15 12 rfl rfl)
theorem dL_law_439 : decode cL_law 439 = .ok (.iconst 0, 1) := dk_3 (dk_at dksL_law_15 13 rfl rfl)
theorem dL_law_440 : decode cL_law 440 = .ok (.laload, 1) := dk_47 (dk_at dksL_law_15 14 rfl rfl)
theorem dL_law_441 : decode cL_law 441 = .ok (.iload 6, 2) := dk_21 6 (dk_at dksL_law_15 15 rfl rfl)
theorem dL_law_443 : decode cL_law 443 = .ok (.i2l, 1) := dk_133 (dk_at dksL_law_15 17 rfl rfl)
theorem dL_law_444 : decode cL_law 444 = .ok (.lcmp, 1) := dk_148 (dk_at dksL_law_15 18 rfl rfl)
theorem dL_law_445 : decode cL_law 445 = .ok (.ifCond .eq 5, 3) := dk_153 0 5 (dk_at dksL_law_15 19 rfl rfl)
theorem dL_law_448 : decode cL_law 448 = .ok (.iconst 0, 1) := dk_3 (dk_at dksL_law_15 22 rfl rfl)
theorem dL_law_449 : decode cL_law 449 = .ok (.ireturn, 1) := dk_172 (dk_at dksL_law_15 23 rfl rfl)
theorem dL_law_450 : decode cL_law 450 = .ok (.goto 1049, 3) := dk_167 4 25 (dk_at dksL_law_16 0 rfl rfl)
theorem dL_law_453 : decode cL_law 453 = .ok (.aload_n 1, 1) := dk_43 (dk_at dksL_law_16 3 rfl rfl)
theorem dL_law_454 : decode cL_law 454 = .ok (.aload_n 0, 1) := dk_42 (dk_at dksL_law_16 4 rfl rfl)
theorem dL_law_455 : decode cL_law 455 = .ok (.iload 4, 2) := dk_21 4 (dk_at dksL_law_16 5 rfl rfl)
theorem dL_law_457 : decode cL_law 457 = .ok (.iconst 1, 1) := dk_4 (dk_at dksL_law_16 7 rfl rfl)
theorem dL_law_458 : decode cL_law 458 = .ok (.iadd, 1) := dk_96 (dk_at dksL_law_16 8 rfl rfl)
theorem dL_law_459 : decode cL_law 459 = .ok (.iaload, 1) := dk_46 (dk_at dksL_law_16 9 rfl rfl)
theorem dL_law_460 : decode cL_law 460 = .ok (.aload_n 3, 1) := dk_45 (dk_at dksL_law_16 10 rfl rfl)
theorem dL_law_461 : decode cL_law 461 = .ok (.invokestatic 113, 3) := dk_184 0 113 (dk_at dksL_law_16 11 rfl rfl)
theorem dL_law_464 : decode cL_law 464 = .ok (.istore 5, 2) := dk_54 5 (dk_at dksL_law_16 14 rfl rfl)
theorem dL_law_466 : decode cL_law 466 = .ok (.aload_n 2, 1) := dk_44 (dk_at dksL_law_16 16 rfl rfl)
theorem dL_law_467 : decode cL_law 467 = .ok (.aload_n 0, 1) := dk_42 (dk_at dksL_law_16 17 rfl rfl)
theorem dL_law_468 : decode cL_law 468 = .ok (.iload 4, 2) := dk_21 4 (dk_at dksL_law_16 18 rfl rfl)
theorem dL_law_470 : decode cL_law 470 = .ok (.iconst 1, 1) := dk_4 (dk_at dksL_law_16 20 rfl rfl)
theorem dL_law_471 : decode cL_law 471 = .ok (.iadd, 1) := dk_96 (dk_at dksL_law_16 21 rfl rfl)
theorem dL_law_472 : decode cL_law 472 = .ok (.iaload, 1) := dk_46 (dk_at dksL_law_16 22 rfl rfl)
theorem dL_law_473 : decode cL_law 473 = .ok (.invokevirtual 115, 3) := dk_182 0 115 (dk_at dksL_law_17 0 rfl rfl)
theorem dL_law_476 : decode cL_law 476 = .ok (.istore 6, 2) := dk_54 6 (dk_at dksL_law_17 3 rfl rfl)
theorem dL_law_478 : decode cL_law 478 = .ok (.aload_n 2, 1) := dk_44 (dk_at dksL_law_17 5 rfl rfl)
theorem dL_law_479 : decode cL_law 479 = .ok (.invokevirtual 92, 3) := dk_182 0 92 (dk_at dksL_law_17 6 rfl rfl)
theorem dL_law_482 : decode cL_law 482 = .ok (.iload 5, 2) := dk_21 5 (dk_at dksL_law_17 9 rfl rfl)
theorem dL_law_484 : decode cL_law 484 = .ok (.if_icmp .eq 5, 3) := dk_159 0 5 (dk_at dksL_law_17 11 rfl rfl)
theorem dL_law_487 : decode cL_law 487 = .ok (.iconst 0, 1) := dk_3 (dk_at dksL_law_17 14 rfl rfl)
theorem dL_law_488 : decode cL_law 488 = .ok (.ireturn, 1) := dk_172 (dk_at dksL_law_17 15 rfl rfl)
theorem dL_law_489 : decode cL_law 489 = .ok (.iload 5, 2) := dk_21 5 (dk_at dksL_law_17 16 rfl rfl)
theorem dL_law_491 : decode cL_law 491 = .ok (.ifCond .ne 15, 3) := dk_154 0 15 (dk_at dksL_law_17 18 rfl rfl)
theorem dL_law_494 : decode cL_law 494 = .ok (.aload_n 3, 1) := dk_45 (dk_at dksL_law_17 21 rfl rfl)
theorem dL_law_495 : decode cL_law 495 = .ok (.iconst 0, 1) := dk_3 (dk_at dksL_law_17 22 rfl rfl)
theorem dL_law_496 : decode cL_law 496 = .ok (.laload, 1) := dk_47 (dk_at dksL_law_17 23 rfl rfl)
theorem dL_law_497 : decode cL_law 497 = .ok (.iload 6, 2) := dk_21 6 (dk_at dksL_law_18 0 rfl rfl)
theorem dL_law_499 : decode cL_law 499 = .ok (.i2l, 1) := dk_133 (dk_at dksL_law_18 2 rfl rfl)
theorem dL_law_500 : decode cL_law 500 = .ok (.lcmp, 1) := dk_148 (dk_at dksL_law_18 3 rfl rfl)
theorem dL_law_501 : decode cL_law 501 = .ok (.ifCond .eq 5, 3) := dk_153 0 5 (dk_at dksL_law_18 4 rfl rfl)
theorem dL_law_504 : decode cL_law 504 = .ok (.iconst 0, 1) := dk_3 (dk_at dksL_law_18 7 rfl rfl)
theorem dL_law_505 : decode cL_law 505 = .ok (.ireturn, 1) := dk_172 (dk_at dksL_law_18 8 rfl rfl)
theorem dL_law_506 : decode cL_law 506 = .ok (.goto 993, 3) := dk_167 3 225 (dk_at dksL_law_18 9 rfl rfl)
theorem dL_law_509 : decode cL_law 509 = .ok (.aload_n 1, 1) := dk_43 (dk_at dksL_law_18 12 rfl rfl)
theorem dL_law_510 : decode cL_law 510 = .ok (.aload_n 0, 1) := dk_42 (dk_at dksL_law_18 13 rfl rfl)
theorem dL_law_511 : decode cL_law 511 = .ok (.iload 4, 2) := dk_21 4 (dk_at dksL_law_18 14 rfl rfl)
theorem dL_law_513 : decode cL_law 513 = .ok (.iconst 1, 1) := dk_4 (dk_at dksL_law_18 16 rfl rfl)
theorem dL_law_514 : decode cL_law 514 = .ok (.iadd, 1) := dk_96 (dk_at dksL_law_18 17 rfl rfl)
theorem dL_law_515 : decode cL_law 515 = .ok (.iaload, 1) := dk_46 (dk_at dksL_law_18 18 rfl rfl)
theorem dL_law_516 : decode cL_law 516 = .ok (.aload_n 3, 1) := dk_45 (dk_at dksL_law_18 19 rfl rfl)
theorem dL_law_517 : decode cL_law 517 = .ok (.invokestatic 116, 3) := dk_184 0 116 (dk_at dksL_law_18 20 rfl rfl)
theorem dL_law_520 : decode cL_law 520 = .ok (.istore 5, 2) := dk_54 5 (dk_at dksL_law_19 0 rfl rfl)
theorem dL_law_522 : decode cL_law 522 = .ok (.aload_n 2, 1) := dk_44 (dk_at dksL_law_19 2 rfl rfl)
theorem dL_law_523 : decode cL_law 523 = .ok (.aload_n 0, 1) := dk_42 (dk_at dksL_law_19 3 rfl rfl)
theorem dL_law_524 : decode cL_law 524 = .ok (.iload 4, 2) := dk_21 4 (dk_at dksL_law_19 4 rfl rfl)
theorem dL_law_526 : decode cL_law 526 = .ok (.iconst 1, 1) := dk_4 (dk_at dksL_law_19 6 rfl rfl)
theorem dL_law_527 : decode cL_law 527 = .ok (.iadd, 1) := dk_96 (dk_at dksL_law_19 7 rfl rfl)
theorem dL_law_528 : decode cL_law 528 = .ok (.iaload, 1) := dk_46 (dk_at dksL_law_19 8 rfl rfl)
theorem dL_law_529 : decode cL_law 529 = .ok (.invokevirtual 118, 3) := dk_182 0 118 (dk_at dksL_law_19 9 rfl rfl)
theorem dL_law_532 : decode cL_law 532 = .ok (.istore 6, 2) := dk_54 6 (dk_at dksL_law_19 12 rfl rfl)
theorem dL_law_534 : decode cL_law 534 = .ok (.aload_n 2, 1) := dk_44 (dk_at dksL_law_19 14 rfl rfl)
theorem dL_law_535 : decode cL_law 535 = .ok (.invokevirtual 92, 3) := dk_182 0 92 (dk_at dksL_law_19 15 rfl rfl)
theorem dL_law_538 : decode cL_law 538 = .ok (.iload 5, 2) := dk_21 5 (dk_at dksL_law_19 18 rfl rfl)
theorem dL_law_540 : decode cL_law 540 = .ok (.if_icmp .eq 5, 3) := dk_159 0 5 (dk_at dksL_law_19 20 rfl rfl)
theorem dL_law_543 : decode cL_law 543 = .ok (.iconst 0, 1) := dk_3 (dk_at dksL_law_19 23 rfl rfl)
theorem dL_law_544 : decode cL_law 544 = .ok (.ireturn, 1) := dk_172 (dk_at dksL_law_20 0 rfl rfl)
theorem dL_law_545 : decode cL_law 545 = .ok (.iload 5, 2) := dk_21 5 (dk_at dksL_law_20 1 rfl rfl)
theorem dL_law_547 : decode cL_law 547 = .ok (.ifCond .ne 15, 3) := dk_154 0 15 (dk_at dksL_law_20 3 rfl rfl)
theorem dL_law_550 : decode cL_law 550 = .ok (.aload_n 3, 1) := dk_45 (dk_at dksL_law_20 6 rfl rfl)
theorem dL_law_551 : decode cL_law 551 = .ok (.iconst 0, 1) := dk_3 (dk_at dksL_law_20 7 rfl rfl)
theorem dL_law_552 : decode cL_law 552 = .ok (.laload, 1) := dk_47 (dk_at dksL_law_20 8 rfl rfl)
theorem dL_law_553 : decode cL_law 553 = .ok (.iload 6, 2) := dk_21 6 (dk_at dksL_law_20 9 rfl rfl)
theorem dL_law_555 : decode cL_law 555 = .ok (.i2l, 1) := dk_133 (dk_at dksL_law_20 11 rfl rfl)
theorem dL_law_556 : decode cL_law 556 = .ok (.lcmp, 1) := dk_148 (dk_at dksL_law_20 12 rfl rfl)
theorem dL_law_557 : decode cL_law 557 = .ok (.ifCond .eq 5, 3) := dk_153 0 5 (dk_at dksL_law_20 13 rfl rfl)
theorem dL_law_560 : decode cL_law 560 = .ok (.iconst 0, 1) := dk_3 (dk_at dksL_law_20 16 rfl rfl)
theorem dL_law_561 : decode cL_law 561 = .ok (.ireturn, 1) := dk_172 (dk_at dksL_law_20 17 rfl rfl)
theorem dL_law_562 : decode cL_law 562 = .ok (.goto 937, 3) := dk_167 3 169 (dk_at dksL_law_20 18 rfl rfl)
theorem dL_law_565 : decode cL_law 565 = .ok (.aload_n 1, 1) := dk_43 (dk_at dksL_law_20 21 rfl rfl)
theorem dL_law_566 : decode cL_law 566 = .ok (.aload_n 0, 1) := dk_42 (dk_at dksL_law_20 22 rfl rfl)
theorem dL_law_567 : decode cL_law 567 = .ok (.iload 4, 2) := dk_21 4 (dk_at dksL_law_21 0 rfl rfl)
theorem dL_law_569 : decode cL_law 569 = .ok (.iconst 1, 1) := dk_4 (dk_at dksL_law_21 2 rfl rfl)
theorem dL_law_570 : decode cL_law 570 = .ok (.iadd, 1) := dk_96 (dk_at dksL_law_21 3 rfl rfl)
theorem dL_law_571 : decode cL_law 571 = .ok (.iaload, 1) := dk_46 (dk_at dksL_law_21 4 rfl rfl)
theorem dL_law_572 : decode cL_law 572 = .ok (.aload_n 3, 1) := dk_45 (dk_at dksL_law_21 5 rfl rfl)
theorem dL_law_573 : decode cL_law 573 = .ok (.invokestatic 119, 3) := dk_184 0 119 (dk_at dksL_law_21 6 rfl rfl)
theorem dL_law_576 : decode cL_law 576 = .ok (.istore 5, 2) := dk_54 5 (dk_at dksL_law_21 9 rfl rfl)
theorem dL_law_578 : decode cL_law 578 = .ok (.aload_n 2, 1) := dk_44 (dk_at dksL_law_21 11 rfl rfl)
theorem dL_law_579 : decode cL_law 579 = .ok (.aload_n 0, 1) := dk_42 (dk_at dksL_law_21 12 rfl rfl)
theorem dL_law_580 : decode cL_law 580 = .ok (.iload 4, 2) := dk_21 4 (dk_at dksL_law_21 13 rfl rfl)
theorem dL_law_582 : decode cL_law 582 = .ok (.iconst 1, 1) := dk_4 (dk_at dksL_law_21 15 rfl rfl)
theorem dL_law_583 : decode cL_law 583 = .ok (.iadd, 1) := dk_96 (dk_at dksL_law_21 16 rfl rfl)
theorem dL_law_584 : decode cL_law 584 = .ok (.iaload, 1) := dk_46 (dk_at dksL_law_21 17 rfl rfl)
theorem dL_law_585 : decode cL_law 585 = .ok (.invokevirtual 121, 3) := dk_182 0 121 (dk_at dksL_law_21 18 rfl rfl)
theorem dL_law_588 : decode cL_law 588 = .ok (.istore 6, 2) := dk_54 6 (dk_at dksL_law_21 21 rfl rfl)
theorem dL_law_590 : decode cL_law 590 = .ok (.aload_n 2, 1) := dk_44 (dk_at dksL_law_21 23 rfl rfl)
theorem dL_law_591 : decode cL_law 591 = .ok (.invokevirtual 92, 3) := dk_182 0 92 (dk_at dksL_law_22 0 rfl rfl)
theorem dL_law_594 : decode cL_law 594 = .ok (.iload 5, 2) := dk_21 5 (dk_at dksL_law_22 3 rfl rfl)
theorem dL_law_596 : decode cL_law 596 = .ok (.if_icmp .eq 5, 3) := dk_159 0 5 (dk_at dksL_law_22 5 rfl rfl)
theorem dL_law_599 : decode cL_law 599 = .ok (.iconst 0, 1) := dk_3 (dk_at dksL_law_22 8 rfl rfl)
theorem dL_law_600 : decode cL_law 600 = .ok (.ireturn, 1) := dk_172 (dk_at dksL_law_22 9 rfl rfl)
theorem dL_law_601 : decode cL_law 601 = .ok (.iload 5, 2) := dk_21 5 (dk_at dksL_law_22 10 rfl rfl)
theorem dL_law_603 : decode cL_law 603 = .ok (.ifCond .ne 15, 3) := dk_154 0 15 (dk_at dksL_law_22 12 rfl rfl)
theorem dL_law_606 : decode cL_law 606 = .ok (.aload_n 3, 1) := dk_45 (dk_at dksL_law_22 15 rfl rfl)
theorem dL_law_607 : decode cL_law 607 = .ok (.iconst 0, 1) := dk_3 (dk_at dksL_law_22 16 rfl rfl)
theorem dL_law_608 : decode cL_law 608 = .ok (.laload, 1) := dk_47 (dk_at dksL_law_22 17 rfl rfl)
theorem dL_law_609 : decode cL_law 609 = .ok (.iload 6, 2) := dk_21 6 (dk_at dksL_law_22 18 rfl rfl)
theorem dL_law_611 : decode cL_law 611 = .ok (.i2l, 1) := dk_133 (dk_at dksL_law_22 20 rfl rfl)
theorem dL_law_612 : decode cL_law 612 = .ok (.lcmp, 1) := dk_148 (dk_at dksL_law_22 21 rfl rfl)
theorem dL_law_613 : decode cL_law 613 = .ok (.ifCond .eq 5, 3) := dk_153 0 5 (dk_at dksL_law_23 0 rfl rfl)
theorem dL_law_616 : decode cL_law 616 = .ok (.iconst 0, 1) := dk_3 (dk_at dksL_law_23 3 rfl rfl)
theorem dL_law_617 : decode cL_law 617 = .ok (.ireturn, 1) := dk_172 (dk_at dksL_law_23 4 rfl rfl)
theorem dL_law_618 : decode cL_law 618 = .ok (.goto 881, 3) := dk_167 3 113 (dk_at dksL_law_23 5 rfl rfl)
theorem dL_law_621 : decode cL_law 621 = .ok (.aload_n 1, 1) := dk_43 (dk_at dksL_law_23 8 rfl rfl)
theorem dL_law_622 : decode cL_law 622 = .ok (.aload_n 0, 1) := dk_42 (dk_at dksL_law_23 9 rfl rfl)
theorem dL_law_623 : decode cL_law 623 = .ok (.iload 4, 2) := dk_21 4 (dk_at dksL_law_23 10 rfl rfl)
theorem dL_law_625 : decode cL_law 625 = .ok (.iconst 1, 1) := dk_4 (dk_at dksL_law_23 12 rfl rfl)
theorem dL_law_626 : decode cL_law 626 = .ok (.iadd, 1) := dk_96 (dk_at dksL_law_23 13 rfl rfl)
theorem dL_law_627 : decode cL_law 627 = .ok (.iaload, 1) := dk_46 (dk_at dksL_law_23 14 rfl rfl)
theorem dL_law_628 : decode cL_law 628 = .ok (.aload_n 0, 1) := dk_42 (dk_at dksL_law_23 15 rfl rfl)
theorem dL_law_629 : decode cL_law 629 = .ok (.iload 4, 2) := dk_21 4 (dk_at dksL_law_23 16 rfl rfl)
theorem dL_law_631 : decode cL_law 631 = .ok (.iconst 2, 1) := dk_5 (dk_at dksL_law_23 18 rfl rfl)
theorem dL_law_632 : decode cL_law 632 = .ok (.iadd, 1) := dk_96 (dk_at dksL_law_23 19 rfl rfl)
theorem dL_law_633 : decode cL_law 633 = .ok (.iaload, 1) := dk_46 (dk_at dksL_law_23 20 rfl rfl)
theorem dL_law_634 : decode cL_law 634 = .ok (.aload_n 3, 1) := dk_45 (dk_at dksL_law_23 21 rfl rfl)
theorem dL_law_635 : decode cL_law 635 = .ok (.invokestatic 122, 3) := dk_184 0 122 (dk_at dksL_law_24 0 rfl rfl)
theorem dL_law_638 : decode cL_law 638 = .ok (.istore 5, 2) := dk_54 5 (dk_at dksL_law_24 3 rfl rfl)
theorem dL_law_640 : decode cL_law 640 = .ok (.aload_n 2, 1) := dk_44 (dk_at dksL_law_24 5 rfl rfl)
theorem dL_law_641 : decode cL_law 641 = .ok (.aload_n 0, 1) := dk_42 (dk_at dksL_law_24 6 rfl rfl)
theorem dL_law_642 : decode cL_law 642 = .ok (.iload 4, 2) := dk_21 4 (dk_at dksL_law_24 7 rfl rfl)
theorem dL_law_644 : decode cL_law 644 = .ok (.iconst 1, 1) := dk_4 (dk_at dksL_law_24 9 rfl rfl)
theorem dL_law_645 : decode cL_law 645 = .ok (.iadd, 1) := dk_96 (dk_at dksL_law_24 10 rfl rfl)
theorem dL_law_646 : decode cL_law 646 = .ok (.iaload, 1) := dk_46 (dk_at dksL_law_24 11 rfl rfl)
theorem dL_law_647 : decode cL_law 647 = .ok (.aload_n 0, 1) := dk_42 (dk_at dksL_law_24 12 rfl rfl)
theorem dL_law_648 : decode cL_law 648 = .ok (.iload 4, 2) := dk_21 4 (dk_at dksL_law_24 13 rfl rfl)
theorem dL_law_650 : decode cL_law 650 = .ok (.iconst 2, 1) := dk_5 (dk_at dksL_law_24 15 rfl rfl)
theorem dL_law_651 : decode cL_law 651 = .ok (.iadd, 1) := dk_96 (dk_at dksL_law_24 16 rfl rfl)
theorem dL_law_652 : decode cL_law 652 = .ok (.iaload, 1) := dk_46 (dk_at dksL_law_24 17 rfl rfl)
theorem dL_law_653 : decode cL_law 653 = .ok (.invokevirtual 124, 3) := dk_182 0 124 (dk_at dksL_law_24 18 rfl rfl)
theorem dL_law_656 : decode cL_law 656 = .ok (.istore 6, 2) := dk_54 6 (dk_at dksL_law_24 21 rfl rfl)
theorem dL_law_658 : decode cL_law 658 = .ok (.aload_n 2, 1) := dk_44 (dk_at dksL_law_24 23 rfl rfl)
theorem dL_law_659 : decode cL_law 659 = .ok (.invokevirtual 92, 3) := dk_182 0 92 (dk_at dksL_law_25 0 rfl rfl)
theorem dL_law_662 : decode cL_law 662 = .ok (.iload 5, 2) := dk_21 5 (dk_at dksL_law_25 3 rfl rfl)
theorem dL_law_664 : decode cL_law 664 = .ok (.if_icmp .eq 5, 3) := dk_159 0 5 (dk_at dksL_law_25 5 rfl rfl)
theorem dL_law_667 : decode cL_law 667 = .ok (.iconst 0, 1) := dk_3 (dk_at dksL_law_25 8 rfl rfl)
theorem dL_law_668 : decode cL_law 668 = .ok (.ireturn, 1) := dk_172 (dk_at dksL_law_25 9 rfl rfl)
theorem dL_law_669 : decode cL_law 669 = .ok (.iload 5, 2) := dk_21 5 (dk_at dksL_law_25 10 rfl rfl)
theorem dL_law_671 : decode cL_law 671 = .ok (.ifCond .ne 15, 3) := dk_154 0 15 (dk_at dksL_law_25 12 rfl rfl)
theorem dL_law_674 : decode cL_law 674 = .ok (.aload_n 3, 1) := dk_45 (dk_at dksL_law_25 15 rfl rfl)
theorem dL_law_675 : decode cL_law 675 = .ok (.iconst 0, 1) := dk_3 (dk_at dksL_law_25 16 rfl rfl)
theorem dL_law_676 : decode cL_law 676 = .ok (.laload, 1) := dk_47 (dk_at dksL_law_25 17 rfl rfl)
theorem dL_law_677 : decode cL_law 677 = .ok (.iload 6, 2) := dk_21 6 (dk_at dksL_law_25 18 rfl rfl)
theorem dL_law_679 : decode cL_law 679 = .ok (.i2l, 1) := dk_133 (dk_at dksL_law_25 20 rfl rfl)
theorem dL_law_680 : decode cL_law 680 = .ok (.lcmp, 1) := dk_148 (dk_at dksL_law_25 21 rfl rfl)
theorem dL_law_681 : decode cL_law 681 = .ok (.ifCond .eq 5, 3) := dk_153 0 5 (dk_at dksL_law_26 0 rfl rfl)
theorem dL_law_684 : decode cL_law 684 = .ok (.iconst 0, 1) := dk_3 (dk_at dksL_law_26 3 rfl rfl)
theorem dL_law_685 : decode cL_law 685 = .ok (.ireturn, 1) := dk_172 (dk_at dksL_law_26 4 rfl rfl)
theorem dL_law_686 : decode cL_law 686 = .ok (.goto 813, 3) := dk_167 3 45 (dk_at dksL_law_26 5 rfl rfl)
theorem dL_law_689 : decode cL_law 689 = .ok (.aload_n 1, 1) := dk_43 (dk_at dksL_law_26 8 rfl rfl)
theorem dL_law_690 : decode cL_law 690 = .ok (.aload_n 0, 1) := dk_42 (dk_at dksL_law_26 9 rfl rfl)
theorem dL_law_691 : decode cL_law 691 = .ok (.iload 4, 2) := dk_21 4 (dk_at dksL_law_26 10 rfl rfl)
theorem dL_law_693 : decode cL_law 693 = .ok (.iconst 1, 1) := dk_4 (dk_at dksL_law_26 12 rfl rfl)
theorem dL_law_694 : decode cL_law 694 = .ok (.iadd, 1) := dk_96 (dk_at dksL_law_26 13 rfl rfl)
theorem dL_law_695 : decode cL_law 695 = .ok (.iaload, 1) := dk_46 (dk_at dksL_law_26 14 rfl rfl)
theorem dL_law_696 : decode cL_law 696 = .ok (.aload_n 0, 1) := dk_42 (dk_at dksL_law_26 15 rfl rfl)
theorem dL_law_697 : decode cL_law 697 = .ok (.iload 4, 2) := dk_21 4 (dk_at dksL_law_26 16 rfl rfl)
theorem dL_law_699 : decode cL_law 699 = .ok (.iconst 2, 1) := dk_5 (dk_at dksL_law_26 18 rfl rfl)
theorem dL_law_700 : decode cL_law 700 = .ok (.iadd, 1) := dk_96 (dk_at dksL_law_26 19 rfl rfl)
theorem dL_law_701 : decode cL_law 701 = .ok (.iaload, 1) := dk_46 (dk_at dksL_law_26 20 rfl rfl)
theorem dL_law_702 : decode cL_law 702 = .ok (.aload_n 3, 1) := dk_45 (dk_at dksL_law_26 21 rfl rfl)
theorem dL_law_703 : decode cL_law 703 = .ok (.invokestatic 125, 3) := dk_184 0 125 (dk_at dksL_law_27 0 rfl rfl)
theorem dL_law_706 : decode cL_law 706 = .ok (.istore 5, 2) := dk_54 5 (dk_at dksL_law_27 3 rfl rfl)
theorem dL_law_708 : decode cL_law 708 = .ok (.aload_n 2, 1) := dk_44 (dk_at dksL_law_27 5 rfl rfl)
theorem dL_law_709 : decode cL_law 709 = .ok (.aload_n 0, 1) := dk_42 (dk_at dksL_law_27 6 rfl rfl)
theorem dL_law_710 : decode cL_law 710 = .ok (.iload 4, 2) := dk_21 4 (dk_at dksL_law_27 7 rfl rfl)
theorem dL_law_712 : decode cL_law 712 = .ok (.iconst 1, 1) := dk_4 (dk_at dksL_law_27 9 rfl rfl)
theorem dL_law_713 : decode cL_law 713 = .ok (.iadd, 1) := dk_96 (dk_at dksL_law_27 10 rfl rfl)
theorem dL_law_714 : decode cL_law 714 = .ok (.iaload, 1) := dk_46 (dk_at dksL_law_27 11 rfl rfl)
theorem dL_law_715 : decode cL_law 715 = .ok (.aload_n 0, 1) := dk_42 (dk_at dksL_law_27 12 rfl rfl)
theorem dL_law_716 : decode cL_law 716 = .ok (.iload 4, 2) := dk_21 4 (dk_at dksL_law_27 13 rfl rfl)
theorem dL_law_718 : decode cL_law 718 = .ok (.iconst 2, 1) := dk_5 (dk_at dksL_law_27 15 rfl rfl)
theorem dL_law_719 : decode cL_law 719 = .ok (.iadd, 1) := dk_96 (dk_at dksL_law_27 16 rfl rfl)
theorem dL_law_720 : decode cL_law 720 = .ok (.iaload, 1) := dk_46 (dk_at dksL_law_27 17 rfl rfl)
theorem dL_law_721 : decode cL_law 721 = .ok (.invokevirtual 127, 3) := dk_182 0 127 (dk_at dksL_law_27 18 rfl rfl)
theorem dL_law_724 : decode cL_law 724 = .ok (.istore 6, 2) := dk_54 6 (dk_at dksL_law_27 21 rfl rfl)
theorem dL_law_726 : decode cL_law 726 = .ok (.aload_n 2, 1) := dk_44 (dk_at dksL_law_27 23 rfl rfl)
theorem dL_law_727 : decode cL_law 727 = .ok (.invokevirtual 92, 3) := dk_182 0 92 (dk_at dksL_law_28 0 rfl rfl)
theorem dL_law_730 : decode cL_law 730 = .ok (.iload 5, 2) := dk_21 5 (dk_at dksL_law_28 3 rfl rfl)
theorem dL_law_732 : decode cL_law 732 = .ok (.if_icmp .eq 5, 3) := dk_159 0 5 (dk_at dksL_law_28 5 rfl rfl)
theorem dL_law_735 : decode cL_law 735 = .ok (.iconst 0, 1) := dk_3 (dk_at dksL_law_28 8 rfl rfl)
theorem dL_law_736 : decode cL_law 736 = .ok (.ireturn, 1) := dk_172 (dk_at dksL_law_28 9 rfl rfl)
theorem dL_law_737 : decode cL_law 737 = .ok (.iload 5, 2) := dk_21 5 (dk_at dksL_law_28 10 rfl rfl)
theorem dL_law_739 : decode cL_law 739 = .ok (.ifCond .ne 15, 3) := dk_154 0 15 (dk_at dksL_law_28 12 rfl rfl)
theorem dL_law_742 : decode cL_law 742 = .ok (.aload_n 3, 1) := dk_45 (dk_at dksL_law_28 15 rfl rfl)
theorem dL_law_743 : decode cL_law 743 = .ok (.iconst 0, 1) := dk_3 (dk_at dksL_law_28 16 rfl rfl)
theorem dL_law_744 : decode cL_law 744 = .ok (.laload, 1) := dk_47 (dk_at dksL_law_28 17 rfl rfl)
theorem dL_law_745 : decode cL_law 745 = .ok (.iload 6, 2) := dk_21 6 (dk_at dksL_law_28 18 rfl rfl)
theorem dL_law_747 : decode cL_law 747 = .ok (.i2l, 1) := dk_133 (dk_at dksL_law_28 20 rfl rfl)
theorem dL_law_748 : decode cL_law 748 = .ok (.lcmp, 1) := dk_148 (dk_at dksL_law_28 21 rfl rfl)
theorem dL_law_749 : decode cL_law 749 = .ok (.ifCond .eq 5, 3) := dk_153 0 5 (dk_at dksL_law_29 0 rfl rfl)
theorem dL_law_752 : decode cL_law 752 = .ok (.iconst 0, 1) := dk_3 (dk_at dksL_law_29 3 rfl rfl)
theorem dL_law_753 : decode cL_law 753 = .ok (.ireturn, 1) := dk_172 (dk_at dksL_law_29 4 rfl rfl)
theorem dL_law_754 : decode cL_law 754 = .ok (.goto 745, 3) := dk_167 2 233 (dk_at dksL_law_29 5 rfl rfl)
theorem dL_law_757 : decode cL_law 757 = .ok (.aload_n 1, 1) := dk_43 (dk_at dksL_law_29 8 rfl rfl)
theorem dL_law_758 : decode cL_law 758 = .ok (.aload_n 0, 1) := dk_42 (dk_at dksL_law_29 9 rfl rfl)
theorem dL_law_759 : decode cL_law 759 = .ok (.iload 4, 2) := dk_21 4 (dk_at dksL_law_29 10 rfl rfl)
theorem dL_law_761 : decode cL_law 761 = .ok (.iconst 1, 1) := dk_4 (dk_at dksL_law_29 12 rfl rfl)
theorem dL_law_762 : decode cL_law 762 = .ok (.iadd, 1) := dk_96 (dk_at dksL_law_29 13 rfl rfl)
theorem dL_law_763 : decode cL_law 763 = .ok (.iaload, 1) := dk_46 (dk_at dksL_law_29 14 rfl rfl)
theorem dL_law_764 : decode cL_law 764 = .ok (.aload_n 0, 1) := dk_42 (dk_at dksL_law_29 15 rfl rfl)
theorem dL_law_765 : decode cL_law 765 = .ok (.iload 4, 2) := dk_21 4 (dk_at dksL_law_29 16 rfl rfl)
theorem dL_law_767 : decode cL_law 767 = .ok (.iconst 2, 1) := dk_5 (dk_at dksL_law_29 18 rfl rfl)
theorem dL_law_768 : decode cL_law 768 = .ok (.iadd, 1) := dk_96 (dk_at dksL_law_29 19 rfl rfl)
theorem dL_law_769 : decode cL_law 769 = .ok (.iaload, 1) := dk_46 (dk_at dksL_law_29 20 rfl rfl)
theorem dL_law_770 : decode cL_law 770 = .ok (.aload_n 3, 1) := dk_45 (dk_at dksL_law_29 21 rfl rfl)
theorem dL_law_771 : decode cL_law 771 = .ok (.invokestatic 128, 3) := dk_184 0 128 (dk_at dksL_law_30 0 rfl rfl)
theorem dL_law_774 : decode cL_law 774 = .ok (.istore 5, 2) := dk_54 5 (dk_at dksL_law_30 3 rfl rfl)
theorem dL_law_776 : decode cL_law 776 = .ok (.aload_n 2, 1) := dk_44 (dk_at dksL_law_30 5 rfl rfl)
theorem dL_law_777 : decode cL_law 777 = .ok (.aload_n 0, 1) := dk_42 (dk_at dksL_law_30 6 rfl rfl)
theorem dL_law_778 : decode cL_law 778 = .ok (.iload 4, 2) := dk_21 4 (dk_at dksL_law_30 7 rfl rfl)
theorem dL_law_780 : decode cL_law 780 = .ok (.iconst 1, 1) := dk_4 (dk_at dksL_law_30 9 rfl rfl)
theorem dL_law_781 : decode cL_law 781 = .ok (.iadd, 1) := dk_96 (dk_at dksL_law_30 10 rfl rfl)
theorem dL_law_782 : decode cL_law 782 = .ok (.iaload, 1) := dk_46 (dk_at dksL_law_30 11 rfl rfl)
theorem dL_law_783 : decode cL_law 783 = .ok (.aload_n 0, 1) := dk_42 (dk_at dksL_law_30 12 rfl rfl)
theorem dL_law_784 : decode cL_law 784 = .ok (.iload 4, 2) := dk_21 4 (dk_at dksL_law_30 13 rfl rfl)
theorem dL_law_786 : decode cL_law 786 = .ok (.iconst 2, 1) := dk_5 (dk_at dksL_law_30 15 rfl rfl)
theorem dL_law_787 : decode cL_law 787 = .ok (.iadd, 1) := dk_96 (dk_at dksL_law_30 16 rfl rfl)
theorem dL_law_788 : decode cL_law 788 = .ok (.iaload, 1) := dk_46 (dk_at dksL_law_30 17 rfl rfl)
theorem dL_law_789 : decode cL_law 789 = .ok (.invokevirtual 130, 3) := dk_182 0 130 (dk_at dksL_law_30 18 rfl rfl)
theorem dL_law_792 : decode cL_law 792 = .ok (.istore 6, 2) := dk_54 6 (dk_at dksL_law_30 21 rfl rfl)
theorem dL_law_794 : decode cL_law 794 = .ok (.aload_n 2, 1) := dk_44 (dk_at dksL_law_30 23 rfl rfl)
theorem dL_law_795 : decode cL_law 795 = .ok (.invokevirtual 92, 3) := dk_182 0 92 (dk_at dksL_law_31 0 rfl rfl)
theorem dL_law_798 : decode cL_law 798 = .ok (.iload 5, 2) := dk_21 5 (dk_at dksL_law_31 3 rfl rfl)
theorem dL_law_800 : decode cL_law 800 = .ok (.if_icmp .eq 5, 3) := dk_159 0 5 (dk_at dksL_law_31 5 rfl rfl)
theorem dL_law_803 : decode cL_law 803 = .ok (.iconst 0, 1) := dk_3 (dk_at dksL_law_31 8 rfl rfl)
theorem dL_law_804 : decode cL_law 804 = .ok (.ireturn, 1) := dk_172 (dk_at dksL_law_31 9 rfl rfl)
theorem dL_law_805 : decode cL_law 805 = .ok (.iload 5, 2) := dk_21 5 (dk_at dksL_law_31 10 rfl rfl)
theorem dL_law_807 : decode cL_law 807 = .ok (.ifCond .ne 15, 3) := dk_154 0 15 (dk_at dksL_law_31 12 rfl rfl)
theorem dL_law_810 : decode cL_law 810 = .ok (.aload_n 3, 1) := dk_45 (dk_at dksL_law_31 15 rfl rfl)
theorem dL_law_811 : decode cL_law 811 = .ok (.iconst 0, 1) := dk_3 (dk_at dksL_law_31 16 rfl rfl)
theorem dL_law_812 : decode cL_law 812 = .ok (.laload, 1) := dk_47 (dk_at dksL_law_31 17 rfl rfl)
theorem dL_law_813 : decode cL_law 813 = .ok (.iload 6, 2) := dk_21 6 (dk_at dksL_law_31 18 rfl rfl)
theorem dL_law_815 : decode cL_law 815 = .ok (.i2l, 1) := dk_133 (dk_at dksL_law_31 20 rfl rfl)
theorem dL_law_816 : decode cL_law 816 = .ok (.lcmp, 1) := dk_148 (dk_at dksL_law_31 21 rfl rfl)
theorem dL_law_817 : decode cL_law 817 = .ok (.ifCond .eq 5, 3) := dk_153 0 5 (dk_at dksL_law_32 0 rfl rfl)
theorem dL_law_820 : decode cL_law 820 = .ok (.iconst 0, 1) := dk_3 (dk_at dksL_law_32 3 rfl rfl)
theorem dL_law_821 : decode cL_law 821 = .ok (.ireturn, 1) := dk_172 (dk_at dksL_law_32 4 rfl rfl)
theorem dL_law_822 : decode cL_law 822 = .ok (.goto 677, 3) := dk_167 2 165 (dk_at dksL_law_32 5 rfl rfl)
theorem dL_law_825 : decode cL_law 825 = .ok (.aload_n 1, 1) := dk_43 (dk_at dksL_law_32 8 rfl rfl)
theorem dL_law_826 : decode cL_law 826 = .ok (.aload_n 0, 1) := dk_42 (dk_at dksL_law_32 9 rfl rfl)
theorem dL_law_827 : decode cL_law 827 = .ok (.iload 4, 2) := dk_21 4 (dk_at dksL_law_32 10 rfl rfl)
theorem dL_law_829 : decode cL_law 829 = .ok (.iconst 1, 1) := dk_4 (dk_at dksL_law_32 12 rfl rfl)
theorem dL_law_830 : decode cL_law 830 = .ok (.iadd, 1) := dk_96 (dk_at dksL_law_32 13 rfl rfl)
theorem dL_law_831 : decode cL_law 831 = .ok (.iaload, 1) := dk_46 (dk_at dksL_law_32 14 rfl rfl)
theorem dL_law_832 : decode cL_law 832 = .ok (.aload_n 0, 1) := dk_42 (dk_at dksL_law_32 15 rfl rfl)
theorem dL_law_833 : decode cL_law 833 = .ok (.iload 4, 2) := dk_21 4 (dk_at dksL_law_32 16 rfl rfl)
theorem dL_law_835 : decode cL_law 835 = .ok (.iconst 2, 1) := dk_5 (dk_at dksL_law_32 18 rfl rfl)
theorem dL_law_836 : decode cL_law 836 = .ok (.iadd, 1) := dk_96 (dk_at dksL_law_32 19 rfl rfl)
theorem dL_law_837 : decode cL_law 837 = .ok (.iaload, 1) := dk_46 (dk_at dksL_law_32 20 rfl rfl)
theorem dL_law_838 : decode cL_law 838 = .ok (.aload_n 0, 1) := dk_42 (dk_at dksL_law_32 21 rfl rfl)
theorem dL_law_839 : decode cL_law 839 = .ok (.iload 4, 2) := dk_21 4 (dk_at dksL_law_32 22 rfl rfl)
theorem dL_law_841 : decode cL_law 841 = .ok (.iconst 3, 1) := dk_6 (dk_at dksL_law_33 0 rfl rfl)
theorem dL_law_842 : decode cL_law 842 = .ok (.iadd, 1) := dk_96 (dk_at dksL_law_33 1 rfl rfl)
theorem dL_law_843 : decode cL_law 843 = .ok (.iaload, 1) := dk_46 (dk_at dksL_law_33 2 rfl rfl)
theorem dL_law_844 : decode cL_law 844 = .ok (.aload_n 3, 1) := dk_45 (dk_at dksL_law_33 3 rfl rfl)
theorem dL_law_845 : decode cL_law 845 = .ok (.invokestatic 131, 3) := dk_184 0 131 (dk_at dksL_law_33 4 rfl rfl)
theorem dL_law_848 : decode cL_law 848 = .ok (.istore 5, 2) := dk_54 5 (dk_at dksL_law_33 7 rfl rfl)
theorem dL_law_850 : decode cL_law 850 = .ok (.aload_n 2, 1) := dk_44 (dk_at dksL_law_33 9 rfl rfl)
theorem dL_law_851 : decode cL_law 851 = .ok (.aload_n 0, 1) := dk_42 (dk_at dksL_law_33 10 rfl rfl)
theorem dL_law_852 : decode cL_law 852 = .ok (.iload 4, 2) := dk_21 4 (dk_at dksL_law_33 11 rfl rfl)
theorem dL_law_854 : decode cL_law 854 = .ok (.iconst 1, 1) := dk_4 (dk_at dksL_law_33 13 rfl rfl)
theorem dL_law_855 : decode cL_law 855 = .ok (.iadd, 1) := dk_96 (dk_at dksL_law_33 14 rfl rfl)
theorem dL_law_856 : decode cL_law 856 = .ok (.iaload, 1) := dk_46 (dk_at dksL_law_33 15 rfl rfl)
theorem dL_law_857 : decode cL_law 857 = .ok (.aload_n 0, 1) := dk_42 (dk_at dksL_law_33 16 rfl rfl)
theorem dL_law_858 : decode cL_law 858 = .ok (.iload 4, 2) := dk_21 4 (dk_at dksL_law_33 17 rfl rfl)
theorem dL_law_860 : decode cL_law 860 = .ok (.iconst 2, 1) := dk_5 (dk_at dksL_law_33 19 rfl rfl)
theorem dL_law_861 : decode cL_law 861 = .ok (.iadd, 1) := dk_96 (dk_at dksL_law_33 20 rfl rfl)
theorem dL_law_862 : decode cL_law 862 = .ok (.iaload, 1) := dk_46 (dk_at dksL_law_33 21 rfl rfl)
theorem dL_law_863 : decode cL_law 863 = .ok (.aload_n 0, 1) := dk_42 (dk_at dksL_law_33 22 rfl rfl)
theorem dL_law_864 : decode cL_law 864 = .ok (.iload 4, 2) := dk_21 4 (dk_at dksL_law_34 0 rfl rfl)
theorem dL_law_866 : decode cL_law 866 = .ok (.iconst 3, 1) := dk_6 (dk_at dksL_law_34 2 rfl rfl)
theorem dL_law_867 : decode cL_law 867 = .ok (.iadd, 1) := dk_96 (dk_at dksL_law_34 3 rfl rfl)
theorem dL_law_868 : decode cL_law 868 = .ok (.iaload, 1) := dk_46 (dk_at dksL_law_34 4 rfl rfl)
theorem dL_law_869 : decode cL_law 869 = .ok (.invokevirtual 134, 3) := dk_182 0 134 (dk_at dksL_law_34 5 rfl rfl)
theorem dL_law_872 : decode cL_law 872 = .ok (.istore 6, 2) := dk_54 6 (dk_at dksL_law_34 8 rfl rfl)
theorem dL_law_874 : decode cL_law 874 = .ok (.aload_n 2, 1) := dk_44 (dk_at dksL_law_34 10 rfl rfl)
theorem dL_law_875 : decode cL_law 875 = .ok (.invokevirtual 92, 3) := dk_182 0 92 (dk_at dksL_law_34 11 rfl rfl)
theorem dL_law_878 : decode cL_law 878 = .ok (.iload 5, 2) := dk_21 5 (dk_at dksL_law_34 14 rfl rfl)
theorem dL_law_880 : decode cL_law 880 = .ok (.if_icmp .eq 5, 3) := dk_159 0 5 (dk_at dksL_law_34 16 rfl rfl)
theorem dL_law_883 : decode cL_law 883 = .ok (.iconst 0, 1) := dk_3 (dk_at dksL_law_34 19 rfl rfl)
theorem dL_law_884 : decode cL_law 884 = .ok (.ireturn, 1) := dk_172 (dk_at dksL_law_34 20 rfl rfl)
theorem dL_law_885 : decode cL_law 885 = .ok (.iload 5, 2) := dk_21 5 (dk_at dksL_law_34 21 rfl rfl)
theorem dL_law_887 : decode cL_law 887 = .ok (.ifCond .ne 15, 3) := dk_154 0 15 (dk_at dksL_law_35 0 rfl rfl)
theorem dL_law_890 : decode cL_law 890 = .ok (.aload_n 3, 1) := dk_45 (dk_at dksL_law_35 3 rfl rfl)
theorem dL_law_891 : decode cL_law 891 = .ok (.iconst 0, 1) := dk_3 (dk_at dksL_law_35 4 rfl rfl)
theorem dL_law_892 : decode cL_law 892 = .ok (.laload, 1) := dk_47 (dk_at dksL_law_35 5 rfl rfl)
theorem dL_law_893 : decode cL_law 893 = .ok (.iload 6, 2) := dk_21 6 (dk_at dksL_law_35 6 rfl rfl)
theorem dL_law_895 : decode cL_law 895 = .ok (.i2l, 1) := dk_133 (dk_at dksL_law_35 8 rfl rfl)
theorem dL_law_896 : decode cL_law 896 = .ok (.lcmp, 1) := dk_148 (dk_at dksL_law_35 9 rfl rfl)
theorem dL_law_897 : decode cL_law 897 = .ok (.ifCond .eq 5, 3) := dk_153 0 5 (dk_at dksL_law_35 10 rfl rfl)
theorem dL_law_900 : decode cL_law 900 = .ok (.iconst 0, 1) := dk_3 (dk_at dksL_law_35 13 rfl rfl)
theorem dL_law_901 : decode cL_law 901 = .ok (.ireturn, 1) := dk_172 (dk_at dksL_law_35 14 rfl rfl)
theorem dL_law_902 : decode cL_law 902 = .ok (.goto 597, 3) := dk_167 2 85 (dk_at dksL_law_35 15 rfl rfl)
theorem dL_law_905 : decode cL_law 905 = .ok (.aload_n 1, 1) := dk_43 (dk_at dksL_law_35 18 rfl rfl)
theorem dL_law_906 : decode cL_law 906 = .ok (.aload_n 0, 1) := dk_42 (dk_at dksL_law_35 19 rfl rfl)
theorem dL_law_907 : decode cL_law 907 = .ok (.iload 4, 2) := dk_21 4 (dk_at dksL_law_35 20 rfl rfl)
theorem dL_law_909 : decode cL_law 909 = .ok (.iconst 1, 1) := dk_4 (dk_at dksL_law_35 22 rfl rfl)
theorem dL_law_910 : decode cL_law 910 = .ok (.iadd, 1) := dk_96 (dk_at dksL_law_35 23 rfl rfl)
theorem dL_law_911 : decode cL_law 911 = .ok (.iaload, 1) := dk_46 (dk_at dksL_law_36 0 rfl rfl)
theorem dL_law_912 : decode cL_law 912 = .ok (.aload_n 0, 1) := dk_42 (dk_at dksL_law_36 1 rfl rfl)
theorem dL_law_913 : decode cL_law 913 = .ok (.iload 4, 2) := dk_21 4 (dk_at dksL_law_36 2 rfl rfl)
theorem dL_law_915 : decode cL_law 915 = .ok (.iconst 2, 1) := dk_5 (dk_at dksL_law_36 4 rfl rfl)
theorem dL_law_916 : decode cL_law 916 = .ok (.iadd, 1) := dk_96 (dk_at dksL_law_36 5 rfl rfl)
theorem dL_law_917 : decode cL_law 917 = .ok (.iaload, 1) := dk_46 (dk_at dksL_law_36 6 rfl rfl)
theorem dL_law_918 : decode cL_law 918 = .ok (.ifCond .eq 7, 3) := dk_153 0 7 (dk_at dksL_law_36 7 rfl rfl)
theorem dL_law_921 : decode cL_law 921 = .ok (.iconst 1, 1) := dk_4 (dk_at dksL_law_36 10 rfl rfl)
theorem dL_law_922 : decode cL_law 922 = .ok (.goto 4, 3) := dk_167 0 4 (dk_at dksL_law_36 11 rfl rfl)
theorem dL_law_925 : decode cL_law 925 = .ok (.iconst 0, 1) := dk_3 (dk_at dksL_law_36 14 rfl rfl)
theorem dL_law_926 : decode cL_law 926 = .ok (.aload_n 3, 1) := dk_45 (dk_at dksL_law_36 15 rfl rfl)
theorem dL_law_927 : decode cL_law 927 = .ok (.invokestatic 135, 3) := dk_184 0 135 (dk_at dksL_law_36 16 rfl rfl)
theorem dL_law_930 : decode cL_law 930 = .ok (.istore 5, 2) := dk_54 5 (dk_at dksL_law_36 19 rfl rfl)
theorem dL_law_932 : decode cL_law 932 = .ok (.aload_n 2, 1) := dk_44 (dk_at dksL_law_36 21 rfl rfl)
theorem dL_law_933 : decode cL_law 933 = .ok (.aload_n 0, 1) := dk_42 (dk_at dksL_law_36 22 rfl rfl)
theorem dL_law_934 : decode cL_law 934 = .ok (.iload 4, 2) := dk_21 4 (dk_at dksL_law_37 0 rfl rfl)
theorem dL_law_936 : decode cL_law 936 = .ok (.iconst 1, 1) := dk_4 (dk_at dksL_law_37 2 rfl rfl)
theorem dL_law_937 : decode cL_law 937 = .ok (.iadd, 1) := dk_96 (dk_at dksL_law_37 3 rfl rfl)
theorem dL_law_938 : decode cL_law 938 = .ok (.iaload, 1) := dk_46 (dk_at dksL_law_37 4 rfl rfl)
theorem dL_law_939 : decode cL_law 939 = .ok (.aload_n 0, 1) := dk_42 (dk_at dksL_law_37 5 rfl rfl)
theorem dL_law_940 : decode cL_law 940 = .ok (.iload 4, 2) := dk_21 4 (dk_at dksL_law_37 6 rfl rfl)
theorem dL_law_942 : decode cL_law 942 = .ok (.iconst 2, 1) := dk_5 (dk_at dksL_law_37 8 rfl rfl)
theorem dL_law_943 : decode cL_law 943 = .ok (.iadd, 1) := dk_96 (dk_at dksL_law_37 9 rfl rfl)
theorem dL_law_944 : decode cL_law 944 = .ok (.iaload, 1) := dk_46 (dk_at dksL_law_37 10 rfl rfl)
theorem dL_law_945 : decode cL_law 945 = .ok (.ifCond .eq 7, 3) := dk_153 0 7 (dk_at dksL_law_37 11 rfl rfl)
theorem dL_law_948 : decode cL_law 948 = .ok (.iconst 1, 1) := dk_4 (dk_at dksL_law_37 14 rfl rfl)
theorem dL_law_949 : decode cL_law 949 = .ok (.goto 4, 3) := dk_167 0 4 (dk_at dksL_law_37 15 rfl rfl)
theorem dL_law_952 : decode cL_law 952 = .ok (.iconst 0, 1) := dk_3 (dk_at dksL_law_37 18 rfl rfl)
theorem dL_law_953 : decode cL_law 953 = .ok (.invokevirtual 138, 3) := dk_182 0 138 (dk_at dksL_law_37 19 rfl rfl)
theorem dL_law_956 : decode cL_law 956 = .ok (.istore 6, 2) := dk_54 6 (dk_at dksL_law_37 22 rfl rfl)
theorem dL_law_958 : decode cL_law 958 = .ok (.aload_n 2, 1) := dk_44 (dk_at dksL_law_38 0 rfl rfl)
theorem dL_law_959 : decode cL_law 959 = .ok (.invokevirtual 92, 3) := dk_182 0 92 (dk_at dksL_law_38 1 rfl rfl)
theorem dL_law_962 : decode cL_law 962 = .ok (.iload 5, 2) := dk_21 5 (dk_at dksL_law_38 4 rfl rfl)
theorem dL_law_964 : decode cL_law 964 = .ok (.if_icmp .eq 5, 3) := dk_159 0 5 (dk_at dksL_law_38 6 rfl rfl)
theorem dL_law_967 : decode cL_law 967 = .ok (.iconst 0, 1) := dk_3 (dk_at dksL_law_38 9 rfl rfl)
theorem dL_law_968 : decode cL_law 968 = .ok (.ireturn, 1) := dk_172 (dk_at dksL_law_38 10 rfl rfl)
theorem dL_law_969 : decode cL_law 969 = .ok (.iload 5, 2) := dk_21 5 (dk_at dksL_law_38 11 rfl rfl)
theorem dL_law_971 : decode cL_law 971 = .ok (.ifCond .ne 15, 3) := dk_154 0 15 (dk_at dksL_law_38 13 rfl rfl)
theorem dL_law_974 : decode cL_law 974 = .ok (.aload_n 3, 1) := dk_45 (dk_at dksL_law_38 16 rfl rfl)
theorem dL_law_975 : decode cL_law 975 = .ok (.iconst 0, 1) := dk_3 (dk_at dksL_law_38 17 rfl rfl)
theorem dL_law_976 : decode cL_law 976 = .ok (.laload, 1) := dk_47 (dk_at dksL_law_38 18 rfl rfl)
theorem dL_law_977 : decode cL_law 977 = .ok (.iload 6, 2) := dk_21 6 (dk_at dksL_law_38 19 rfl rfl)
theorem dL_law_979 : decode cL_law 979 = .ok (.i2l, 1) := dk_133 (dk_at dksL_law_38 21 rfl rfl)
theorem dL_law_980 : decode cL_law 980 = .ok (.lcmp, 1) := dk_148 (dk_at dksL_law_38 22 rfl rfl)
theorem dL_law_981 : decode cL_law 981 = .ok (.ifCond .eq 5, 3) := dk_153 0 5 (dk_at dksL_law_39 0 rfl rfl)
theorem dL_law_984 : decode cL_law 984 = .ok (.iconst 0, 1) := dk_3 (dk_at dksL_law_39 3 rfl rfl)
theorem dL_law_985 : decode cL_law 985 = .ok (.ireturn, 1) := dk_172 (dk_at dksL_law_39 4 rfl rfl)
theorem dL_law_986 : decode cL_law 986 = .ok (.goto 513, 3) := dk_167 2 1 (dk_at dksL_law_39 5 rfl rfl)
theorem dL_law_989 : decode cL_law 989 = .ok (.aload_n 1, 1) := dk_43 (dk_at dksL_law_39 8 rfl rfl)
theorem dL_law_990 : decode cL_law 990 = .ok (.aload_n 0, 1) := dk_42 (dk_at dksL_law_39 9 rfl rfl)
theorem dL_law_991 : decode cL_law 991 = .ok (.iload 4, 2) := dk_21 4 (dk_at dksL_law_39 10 rfl rfl)
theorem dL_law_993 : decode cL_law 993 = .ok (.iconst 1, 1) := dk_4 (dk_at dksL_law_39 12 rfl rfl)
theorem dL_law_994 : decode cL_law 994 = .ok (.iadd, 1) := dk_96 (dk_at dksL_law_39 13 rfl rfl)
theorem dL_law_995 : decode cL_law 995 = .ok (.iaload, 1) := dk_46 (dk_at dksL_law_39 14 rfl rfl)
theorem dL_law_996 : decode cL_law 996 = .ok (.aload_n 3, 1) := dk_45 (dk_at dksL_law_39 15 rfl rfl)
theorem dL_law_997 : decode cL_law 997 = .ok (.invokestatic 139, 3) := dk_184 0 139 (dk_at dksL_law_39 16 rfl rfl)
theorem dL_law_1000 : decode cL_law 1000 = .ok (.istore 5, 2) := dk_54 5 (dk_at dksL_law_39 19 rfl rfl)
theorem dL_law_1002 : decode cL_law 1002 = .ok (.aload_n 2, 1) := dk_44 (dk_at dksL_law_39 21 rfl rfl)
theorem dL_law_1003 : decode cL_law 1003 = .ok (.aload_n 0, 1) := dk_42 (dk_at dksL_law_39 22 rfl rfl)
theorem dL_law_1004 : decode cL_law 1004 = .ok (.iload 4, 2) := dk_21 4 (dk_at dksL_law_40 0 rfl rfl)
theorem dL_law_1006 : decode cL_law 1006 = .ok (.iconst 1, 1) := dk_4 (dk_at dksL_law_40 2 rfl rfl)
theorem dL_law_1007 : decode cL_law 1007 = .ok (.iadd, 1) := dk_96 (dk_at dksL_law_40 3 rfl rfl)
theorem dL_law_1008 : decode cL_law 1008 = .ok (.iaload, 1) := dk_46 (dk_at dksL_law_40 4 rfl rfl)
theorem dL_law_1009 : decode cL_law 1009 = .ok (.invokevirtual 141, 3) := dk_182 0 141 (dk_at dksL_law_40 5 rfl rfl)
theorem dL_law_1012 : decode cL_law 1012 = .ok (.istore 6, 2) := dk_54 6 (dk_at dksL_law_40 8 rfl rfl)
theorem dL_law_1014 : decode cL_law 1014 = .ok (.aload_n 2, 1) := dk_44 (dk_at dksL_law_40 10 rfl rfl)
theorem dL_law_1015 : decode cL_law 1015 = .ok (.invokevirtual 92, 3) := dk_182 0 92 (dk_at dksL_law_40 11 rfl rfl)
theorem dL_law_1018 : decode cL_law 1018 = .ok (.iload 5, 2) := dk_21 5 (dk_at dksL_law_40 14 rfl rfl)
theorem dL_law_1020 : decode cL_law 1020 = .ok (.if_icmp .eq 5, 3) := dk_159 0 5 (dk_at dksL_law_40 16 rfl rfl)
theorem dL_law_1023 : decode cL_law 1023 = .ok (.iconst 0, 1) := dk_3 (dk_at dksL_law_40 19 rfl rfl)
theorem dL_law_1024 : decode cL_law 1024 = .ok (.ireturn, 1) := dk_172 (dk_at dksL_law_40 20 rfl rfl)
theorem dL_law_1025 : decode cL_law 1025 = .ok (.iload 5, 2) := dk_21 5 (dk_at dksL_law_40 21 rfl rfl)
theorem dL_law_1027 : decode cL_law 1027 = .ok (.ifCond .ne 15, 3) := dk_154 0 15 (dk_at dksL_law_41 0 rfl rfl)
theorem dL_law_1030 : decode cL_law 1030 = .ok (.aload_n 3, 1) := dk_45 (dk_at dksL_law_41 3 rfl rfl)
theorem dL_law_1031 : decode cL_law 1031 = .ok (.iconst 0, 1) := dk_3 (dk_at dksL_law_41 4 rfl rfl)
theorem dL_law_1032 : decode cL_law 1032 = .ok (.laload, 1) := dk_47 (dk_at dksL_law_41 5 rfl rfl)
theorem dL_law_1033 : decode cL_law 1033 = .ok (.iload 6, 2) := dk_21 6 (dk_at dksL_law_41 6 rfl rfl)
theorem dL_law_1035 : decode cL_law 1035 = .ok (.i2l, 1) := dk_133 (dk_at dksL_law_41 8 rfl rfl)
theorem dL_law_1036 : decode cL_law 1036 = .ok (.lcmp, 1) := dk_148 (dk_at dksL_law_41 9 rfl rfl)
theorem dL_law_1037 : decode cL_law 1037 = .ok (.ifCond .eq 5, 3) := dk_153 0 5 (dk_at dksL_law_41 10 rfl rfl)
theorem dL_law_1040 : decode cL_law 1040 = .ok (.iconst 0, 1) := dk_3 (dk_at dksL_law_41 13 rfl rfl)
theorem dL_law_1041 : decode cL_law 1041 = .ok (.ireturn, 1) := dk_172 (dk_at dksL_law_41 14 rfl rfl)
theorem dL_law_1042 : decode cL_law 1042 = .ok (.goto 457, 3) := dk_167 1 201 (dk_at dksL_law_41 15 rfl rfl)
theorem dL_law_1045 : decode cL_law 1045 = .ok (.aload_n 1, 1) := dk_43 (dk_at dksL_law_41 18 rfl rfl)
theorem dL_law_1046 : decode cL_law 1046 = .ok (.aload_n 0, 1) := dk_42 (dk_at dksL_law_41 19 rfl rfl)
theorem dL_law_1047 : decode cL_law 1047 = .ok (.iload 4, 2) := dk_21 4 (dk_at dksL_law_41 20 rfl rfl)
theorem dL_law_1049 : decode cL_law 1049 = .ok (.iconst 1, 1) := dk_4 (dk_at dksL_law_41 22 rfl rfl)
theorem dL_law_1050 : decode cL_law 1050 = .ok (.iadd, 1) := dk_96 (dk_at dksL_law_41 23 rfl rfl)
theorem dL_law_1051 : decode cL_law 1051 = .ok (.iaload, 1) := dk_46 (dk_at dksL_law_42 0 rfl rfl)
theorem dL_law_1052 : decode cL_law 1052 = .ok (.aload_n 3, 1) := dk_45 (dk_at dksL_law_42 1 rfl rfl)
theorem dL_law_1053 : decode cL_law 1053 = .ok (.invokestatic 142, 3) := dk_184 0 142 (dk_at dksL_law_42 2 rfl rfl)
theorem dL_law_1056 : decode cL_law 1056 = .ok (.istore 5, 2) := dk_54 5 (dk_at dksL_law_42 5 rfl rfl)
theorem dL_law_1058 : decode cL_law 1058 = .ok (.aload_n 2, 1) := dk_44 (dk_at dksL_law_42 7 rfl rfl)
theorem dL_law_1059 : decode cL_law 1059 = .ok (.aload_n 0, 1) := dk_42 (dk_at dksL_law_42 8 rfl rfl)
theorem dL_law_1060 : decode cL_law 1060 = .ok (.iload 4, 2) := dk_21 4 (dk_at dksL_law_42 9 rfl rfl)
theorem dL_law_1062 : decode cL_law 1062 = .ok (.iconst 1, 1) := dk_4 (dk_at dksL_law_42 11 rfl rfl)
theorem dL_law_1063 : decode cL_law 1063 = .ok (.iadd, 1) := dk_96 (dk_at dksL_law_42 12 rfl rfl)
theorem dL_law_1064 : decode cL_law 1064 = .ok (.iaload, 1) := dk_46 (dk_at dksL_law_42 13 rfl rfl)
theorem dL_law_1065 : decode cL_law 1065 = .ok (.invokevirtual 144, 3) := dk_182 0 144 (dk_at dksL_law_42 14 rfl rfl)
theorem dL_law_1068 : decode cL_law 1068 = .ok (.istore 6, 2) := dk_54 6 (dk_at dksL_law_42 17 rfl rfl)
theorem dL_law_1070 : decode cL_law 1070 = .ok (.aload_n 2, 1) := dk_44 (dk_at dksL_law_42 19 rfl rfl)
theorem dL_law_1071 : decode cL_law 1071 = .ok (.invokevirtual 92, 3) := dk_182 0 92 (dk_at dksL_law_42 20 rfl rfl)
theorem dL_law_1074 : decode cL_law 1074 = .ok (.iload 5, 2) := dk_21 5 (dk_at dksL_law_43 0 rfl rfl)
theorem dL_law_1076 : decode cL_law 1076 = .ok (.if_icmp .eq 5, 3) := dk_159 0 5 (dk_at dksL_law_43 2 rfl rfl)
theorem dL_law_1079 : decode cL_law 1079 = .ok (.iconst 0, 1) := dk_3 (dk_at dksL_law_43 5 rfl rfl)
theorem dL_law_1080 : decode cL_law 1080 = .ok (.ireturn, 1) := dk_172 (dk_at dksL_law_43 6 rfl rfl)
theorem dL_law_1081 : decode cL_law 1081 = .ok (.iload 5, 2) := dk_21 5 (dk_at dksL_law_43 7 rfl rfl)
theorem dL_law_1083 : decode cL_law 1083 = .ok (.ifCond .ne 15, 3) := dk_154 0 15 (dk_at dksL_law_43 9 rfl rfl)
theorem dL_law_1086 : decode cL_law 1086 = .ok (.aload_n 3, 1) := dk_45 (dk_at dksL_law_43 12 rfl rfl)
theorem dL_law_1087 : decode cL_law 1087 = .ok (.iconst 0, 1) := dk_3 (dk_at dksL_law_43 13 rfl rfl)
theorem dL_law_1088 : decode cL_law 1088 = .ok (.laload, 1) := dk_47 (dk_at dksL_law_43 14 rfl rfl)
theorem dL_law_1089 : decode cL_law 1089 = .ok (.iload 6, 2) := dk_21 6 (dk_at dksL_law_43 15 rfl rfl)
theorem dL_law_1091 : decode cL_law 1091 = .ok (.i2l, 1) := dk_133 (dk_at dksL_law_43 17 rfl rfl)
theorem dL_law_1092 : decode cL_law 1092 = .ok (.lcmp, 1) := dk_148 (dk_at dksL_law_43 18 rfl rfl)
theorem dL_law_1093 : decode cL_law 1093 = .ok (.ifCond .eq 5, 3) := dk_153 0 5 (dk_at dksL_law_43 19 rfl rfl)
theorem dL_law_1096 : decode cL_law 1096 = .ok (.iconst 0, 1) := dk_3 (dk_at dksL_law_43 22 rfl rfl)
theorem dL_law_1097 : decode cL_law 1097 = .ok (.ireturn, 1) := dk_172 (dk_at dksL_law_43 23 rfl rfl)
theorem dL_law_1098 : decode cL_law 1098 = .ok (.goto 401, 3) := dk_167 1 145 (dk_at dksL_law_44 0 rfl rfl)
theorem dL_law_1101 : decode cL_law 1101 = .ok (.aload_n 1, 1) := dk_43 (dk_at dksL_law_44 3 rfl rfl)
theorem dL_law_1102 : decode cL_law 1102 = .ok (.aload_n 0, 1) := dk_42 (dk_at dksL_law_44 4 rfl rfl)
theorem dL_law_1103 : decode cL_law 1103 = .ok (.iload 4, 2) := dk_21 4 (dk_at dksL_law_44 5 rfl rfl)
theorem dL_law_1105 : decode cL_law 1105 = .ok (.iconst 1, 1) := dk_4 (dk_at dksL_law_44 7 rfl rfl)
theorem dL_law_1106 : decode cL_law 1106 = .ok (.iadd, 1) := dk_96 (dk_at dksL_law_44 8 rfl rfl)
theorem dL_law_1107 : decode cL_law 1107 = .ok (.iaload, 1) := dk_46 (dk_at dksL_law_44 9 rfl rfl)
theorem dL_law_1108 : decode cL_law 1108 = .ok (.aload_n 3, 1) := dk_45 (dk_at dksL_law_44 10 rfl rfl)
theorem dL_law_1109 : decode cL_law 1109 = .ok (.invokestatic 145, 3) := dk_184 0 145 (dk_at dksL_law_44 11 rfl rfl)
theorem dL_law_1112 : decode cL_law 1112 = .ok (.istore 5, 2) := dk_54 5 (dk_at dksL_law_44 14 rfl rfl)
theorem dL_law_1114 : decode cL_law 1114 = .ok (.aload_n 2, 1) := dk_44 (dk_at dksL_law_44 16 rfl rfl)
theorem dL_law_1115 : decode cL_law 1115 = .ok (.aload_n 0, 1) := dk_42 (dk_at dksL_law_44 17 rfl rfl)
theorem dL_law_1116 : decode cL_law 1116 = .ok (.iload 4, 2) := dk_21 4 (dk_at dksL_law_44 18 rfl rfl)
theorem dL_law_1118 : decode cL_law 1118 = .ok (.iconst 1, 1) := dk_4 (dk_at dksL_law_44 20 rfl rfl)
theorem dL_law_1119 : decode cL_law 1119 = .ok (.iadd, 1) := dk_96 (dk_at dksL_law_44 21 rfl rfl)
theorem dL_law_1120 : decode cL_law 1120 = .ok (.iaload, 1) := dk_46 (dk_at dksL_law_44 22 rfl rfl)
theorem dL_law_1121 : decode cL_law 1121 = .ok (.invokevirtual 147, 3) := dk_182 0 147 (dk_at dksL_law_45 0 rfl rfl)
theorem dL_law_1124 : decode cL_law 1124 = .ok (.istore 6, 2) := dk_54 6 (dk_at dksL_law_45 3 rfl rfl)
theorem dL_law_1126 : decode cL_law 1126 = .ok (.aload_n 2, 1) := dk_44 (dk_at dksL_law_45 5 rfl rfl)
theorem dL_law_1127 : decode cL_law 1127 = .ok (.invokevirtual 92, 3) := dk_182 0 92 (dk_at dksL_law_45 6 rfl rfl)
theorem dL_law_1130 : decode cL_law 1130 = .ok (.iload 5, 2) := dk_21 5 (dk_at dksL_law_45 9 rfl rfl)
theorem dL_law_1132 : decode cL_law 1132 = .ok (.if_icmp .eq 5, 3) := dk_159 0 5 (dk_at dksL_law_45 11 rfl rfl)
theorem dL_law_1135 : decode cL_law 1135 = .ok (.iconst 0, 1) := dk_3 (dk_at dksL_law_45 14 rfl rfl)
theorem dL_law_1136 : decode cL_law 1136 = .ok (.ireturn, 1) := dk_172 (dk_at dksL_law_45 15 rfl rfl)
theorem dL_law_1137 : decode cL_law 1137 = .ok (.iload 5, 2) := dk_21 5 (dk_at dksL_law_45 16 rfl rfl)
theorem dL_law_1139 : decode cL_law 1139 = .ok (.ifCond .ne 15, 3) := dk_154 0 15 (dk_at dksL_law_45 18 rfl rfl)
theorem dL_law_1142 : decode cL_law 1142 = .ok (.aload_n 3, 1) := dk_45 (dk_at dksL_law_45 21 rfl rfl)
theorem dL_law_1143 : decode cL_law 1143 = .ok (.iconst 0, 1) := dk_3 (dk_at dksL_law_45 22 rfl rfl)
theorem dL_law_1144 : decode cL_law 1144 = .ok (.laload, 1) := dk_47 (dk_at dksL_law_45 23 rfl rfl)
theorem dL_law_1145 : decode cL_law 1145 = .ok (.iload 6, 2) := dk_21 6 (dk_at dksL_law_46 0 rfl rfl)
theorem dL_law_1147 : decode cL_law 1147 = .ok (.i2l, 1) := dk_133 (dk_at dksL_law_46 2 rfl rfl)
theorem dL_law_1148 : decode cL_law 1148 = .ok (.lcmp, 1) := dk_148 (dk_at dksL_law_46 3 rfl rfl)
theorem dL_law_1149 : decode cL_law 1149 = .ok (.ifCond .eq 5, 3) := dk_153 0 5 (dk_at dksL_law_46 4 rfl rfl)
theorem dL_law_1152 : decode cL_law 1152 = .ok (.iconst 0, 1) := dk_3 (dk_at dksL_law_46 7 rfl rfl)
theorem dL_law_1153 : decode cL_law 1153 = .ok (.ireturn, 1) := dk_172 (dk_at dksL_law_46 8 rfl rfl)
theorem dL_law_1154 : decode cL_law 1154 = .ok (.goto 345, 3) := dk_167 1 89 (dk_at dksL_law_46 9 rfl rfl)
theorem dL_law_1157 : decode cL_law 1157 = .ok (.aload_n 1, 1) := dk_43 (dk_at dksL_law_46 12 rfl rfl)
theorem dL_law_1158 : decode cL_law 1158 = .ok (.aload_n 0, 1) := dk_42 (dk_at dksL_law_46 13 rfl rfl)
theorem dL_law_1159 : decode cL_law 1159 = .ok (.iload 4, 2) := dk_21 4 (dk_at dksL_law_46 14 rfl rfl)
theorem dL_law_1161 : decode cL_law 1161 = .ok (.iconst 1, 1) := dk_4 (dk_at dksL_law_46 16 rfl rfl)
theorem dL_law_1162 : decode cL_law 1162 = .ok (.iadd, 1) := dk_96 (dk_at dksL_law_46 17 rfl rfl)
theorem dL_law_1163 : decode cL_law 1163 = .ok (.iaload, 1) := dk_46 (dk_at dksL_law_46 18 rfl rfl)
theorem dL_law_1164 : decode cL_law 1164 = .ok (.aload_n 0, 1) := dk_42 (dk_at dksL_law_46 19 rfl rfl)
theorem dL_law_1165 : decode cL_law 1165 = .ok (.iload 4, 2) := dk_21 4 (dk_at dksL_law_46 20 rfl rfl)
theorem dL_law_1167 : decode cL_law 1167 = .ok (.iconst 2, 1) := dk_5 (dk_at dksL_law_46 22 rfl rfl)
theorem dL_law_1168 : decode cL_law 1168 = .ok (.iadd, 1) := dk_96 (dk_at dksL_law_46 23 rfl rfl)
theorem dL_law_1169 : decode cL_law 1169 = .ok (.iaload, 1) := dk_46 (dk_at dksL_law_47 0 rfl rfl)
theorem dL_law_1170 : decode cL_law 1170 = .ok (.aload_n 3, 1) := dk_45 (dk_at dksL_law_47 1 rfl rfl)
theorem dL_law_1171 : decode cL_law 1171 = .ok (.invokestatic 148, 3) := dk_184 0 148 (dk_at dksL_law_47 2 rfl rfl)
theorem dL_law_1174 : decode cL_law 1174 = .ok (.istore 5, 2) := dk_54 5 (dk_at dksL_law_47 5 rfl rfl)
theorem dL_law_1176 : decode cL_law 1176 = .ok (.aload_n 2, 1) := dk_44 (dk_at dksL_law_47 7 rfl rfl)
theorem dL_law_1177 : decode cL_law 1177 = .ok (.aload_n 0, 1) := dk_42 (dk_at dksL_law_47 8 rfl rfl)
theorem dL_law_1178 : decode cL_law 1178 = .ok (.iload 4, 2) := dk_21 4 (dk_at dksL_law_47 9 rfl rfl)
theorem dL_law_1180 : decode cL_law 1180 = .ok (.iconst 1, 1) := dk_4 (dk_at dksL_law_47 11 rfl rfl)
theorem dL_law_1181 : decode cL_law 1181 = .ok (.iadd, 1) := dk_96 (dk_at dksL_law_47 12 rfl rfl)
theorem dL_law_1182 : decode cL_law 1182 = .ok (.iaload, 1) := dk_46 (dk_at dksL_law_47 13 rfl rfl)
theorem dL_law_1183 : decode cL_law 1183 = .ok (.aload_n 0, 1) := dk_42 (dk_at dksL_law_47 14 rfl rfl)
theorem dL_law_1184 : decode cL_law 1184 = .ok (.iload 4, 2) := dk_21 4 (dk_at dksL_law_47 15 rfl rfl)
theorem dL_law_1186 : decode cL_law 1186 = .ok (.iconst 2, 1) := dk_5 (dk_at dksL_law_47 17 rfl rfl)
theorem dL_law_1187 : decode cL_law 1187 = .ok (.iadd, 1) := dk_96 (dk_at dksL_law_47 18 rfl rfl)
theorem dL_law_1188 : decode cL_law 1188 = .ok (.iaload, 1) := dk_46 (dk_at dksL_law_47 19 rfl rfl)
theorem dL_law_1189 : decode cL_law 1189 = .ok (.invokevirtual 150, 3) := dk_182 0 150 (dk_at dksL_law_47 20 rfl rfl)
theorem dL_law_1192 : decode cL_law 1192 = .ok (.istore 6, 2) := dk_54 6 (dk_at dksL_law_48 0 rfl rfl)
theorem dL_law_1194 : decode cL_law 1194 = .ok (.aload_n 2, 1) := dk_44 (dk_at dksL_law_48 2 rfl rfl)
theorem dL_law_1195 : decode cL_law 1195 = .ok (.invokevirtual 92, 3) := dk_182 0 92 (dk_at dksL_law_48 3 rfl rfl)
theorem dL_law_1198 : decode cL_law 1198 = .ok (.iload 5, 2) := dk_21 5 (dk_at dksL_law_48 6 rfl rfl)
theorem dL_law_1200 : decode cL_law 1200 = .ok (.if_icmp .eq 5, 3) := dk_159 0 5 (dk_at dksL_law_48 8 rfl rfl)
theorem dL_law_1203 : decode cL_law 1203 = .ok (.iconst 0, 1) := dk_3 (dk_at dksL_law_48 11 rfl rfl)
theorem dL_law_1204 : decode cL_law 1204 = .ok (.ireturn, 1) := dk_172 (dk_at dksL_law_48 12 rfl rfl)
theorem dL_law_1205 : decode cL_law 1205 = .ok (.iload 5, 2) := dk_21 5 (dk_at dksL_law_48 13 rfl rfl)
theorem dL_law_1207 : decode cL_law 1207 = .ok (.ifCond .ne 15, 3) := dk_154 0 15 (dk_at dksL_law_48 15 rfl rfl)
theorem dL_law_1210 : decode cL_law 1210 = .ok (.aload_n 3, 1) := dk_45 (dk_at dksL_law_48 18 rfl rfl)
theorem dL_law_1211 : decode cL_law 1211 = .ok (.iconst 0, 1) := dk_3 (dk_at dksL_law_48 19 rfl rfl)
theorem dL_law_1212 : decode cL_law 1212 = .ok (.laload, 1) := dk_47 (dk_at dksL_law_48 20 rfl rfl)
theorem dL_law_1213 : decode cL_law 1213 = .ok (.iload 6, 2) := dk_21 6 (dk_at dksL_law_48 21 rfl rfl)
theorem dL_law_1215 : decode cL_law 1215 = .ok (.i2l, 1) := dk_133 (dk_at dksL_law_48 23 rfl rfl)
theorem dL_law_1216 : decode cL_law 1216 = .ok (.lcmp, 1) := dk_148 (dk_at dksL_law_49 0 rfl rfl)
theorem dL_law_1217 : decode cL_law 1217 = .ok (.ifCond .eq 5, 3) := dk_153 0 5 (dk_at dksL_law_49 1 rfl rfl)
theorem dL_law_1220 : decode cL_law 1220 = .ok (.iconst 0, 1) := dk_3 (dk_at dksL_law_49 4 rfl rfl)
theorem dL_law_1221 : decode cL_law 1221 = .ok (.ireturn, 1) := dk_172 (dk_at dksL_law_49 5 rfl rfl)
theorem dL_law_1222 : decode cL_law 1222 = .ok (.goto 277, 3) := dk_167 1 21 (dk_at dksL_law_49 6 rfl rfl)
theorem dL_law_1225 : decode cL_law 1225 = .ok (.aload_n 1, 1) := dk_43 (dk_at dksL_law_49 9 rfl rfl)
theorem dL_law_1226 : decode cL_law 1226 = .ok (.aload_n 0, 1) := dk_42 (dk_at dksL_law_49 10 rfl rfl)
theorem dL_law_1227 : decode cL_law 1227 = .ok (.iload 4, 2) := dk_21 4 (dk_at dksL_law_49 11 rfl rfl)
theorem dL_law_1229 : decode cL_law 1229 = .ok (.iconst 1, 1) := dk_4 (dk_at dksL_law_49 13 rfl rfl)
theorem dL_law_1230 : decode cL_law 1230 = .ok (.iadd, 1) := dk_96 (dk_at dksL_law_49 14 rfl rfl)
theorem dL_law_1231 : decode cL_law 1231 = .ok (.iaload, 1) := dk_46 (dk_at dksL_law_49 15 rfl rfl)
theorem dL_law_1232 : decode cL_law 1232 = .ok (.aload_n 0, 1) := dk_42 (dk_at dksL_law_49 16 rfl rfl)
theorem dL_law_1233 : decode cL_law 1233 = .ok (.iload 4, 2) := dk_21 4 (dk_at dksL_law_49 17 rfl rfl)
theorem dL_law_1235 : decode cL_law 1235 = .ok (.iconst 2, 1) := dk_5 (dk_at dksL_law_49 19 rfl rfl)
theorem dL_law_1236 : decode cL_law 1236 = .ok (.iadd, 1) := dk_96 (dk_at dksL_law_49 20 rfl rfl)
theorem dL_law_1237 : decode cL_law 1237 = .ok (.iaload, 1) := dk_46 (dk_at dksL_law_49 21 rfl rfl)
theorem dL_law_1238 : decode cL_law 1238 = .ok (.aload_n 3, 1) := dk_45 (dk_at dksL_law_49 22 rfl rfl)
theorem dL_law_1239 : decode cL_law 1239 = .ok (.invokestatic 151, 3) := dk_184 0 151 (dk_at dksL_law_50 0 rfl rfl)
theorem dL_law_1242 : decode cL_law 1242 = .ok (.istore 5, 2) := dk_54 5 (dk_at dksL_law_50 3 rfl rfl)
theorem dL_law_1244 : decode cL_law 1244 = .ok (.aload_n 2, 1) := dk_44 (dk_at dksL_law_50 5 rfl rfl)
theorem dL_law_1245 : decode cL_law 1245 = .ok (.aload_n 0, 1) := dk_42 (dk_at dksL_law_50 6 rfl rfl)
theorem dL_law_1246 : decode cL_law 1246 = .ok (.iload 4, 2) := dk_21 4 (dk_at dksL_law_50 7 rfl rfl)
theorem dL_law_1248 : decode cL_law 1248 = .ok (.iconst 1, 1) := dk_4 (dk_at dksL_law_50 9 rfl rfl)
theorem dL_law_1249 : decode cL_law 1249 = .ok (.iadd, 1) := dk_96 (dk_at dksL_law_50 10 rfl rfl)
theorem dL_law_1250 : decode cL_law 1250 = .ok (.iaload, 1) := dk_46 (dk_at dksL_law_50 11 rfl rfl)
theorem dL_law_1251 : decode cL_law 1251 = .ok (.aload_n 0, 1) := dk_42 (dk_at dksL_law_50 12 rfl rfl)
theorem dL_law_1252 : decode cL_law 1252 = .ok (.iload 4, 2) := dk_21 4 (dk_at dksL_law_50 13 rfl rfl)
theorem dL_law_1254 : decode cL_law 1254 = .ok (.iconst 2, 1) := dk_5 (dk_at dksL_law_50 15 rfl rfl)
theorem dL_law_1255 : decode cL_law 1255 = .ok (.iadd, 1) := dk_96 (dk_at dksL_law_50 16 rfl rfl)
theorem dL_law_1256 : decode cL_law 1256 = .ok (.iaload, 1) := dk_46 (dk_at dksL_law_50 17 rfl rfl)
theorem dL_law_1257 : decode cL_law 1257 = .ok (.invokevirtual 153, 3) := dk_182 0 153 (dk_at dksL_law_50 18 rfl rfl)
theorem dL_law_1260 : decode cL_law 1260 = .ok (.istore 6, 2) := dk_54 6 (dk_at dksL_law_50 21 rfl rfl)
theorem dL_law_1262 : decode cL_law 1262 = .ok (.aload_n 2, 1) := dk_44 (dk_at dksL_law_50 23 rfl rfl)
theorem dL_law_1263 : decode cL_law 1263 = .ok (.invokevirtual 92, 3) := dk_182 0 92 (dk_at dksL_law_51 0 rfl rfl)
theorem dL_law_1266 : decode cL_law 1266 = .ok (.iload 5, 2) := dk_21 5 (dk_at dksL_law_51 3 rfl rfl)
theorem dL_law_1268 : decode cL_law 1268 = .ok (.if_icmp .eq 5, 3) := dk_159 0 5 (dk_at dksL_law_51 5 rfl rfl)
theorem dL_law_1271 : decode cL_law 1271 = .ok (.iconst 0, 1) := dk_3 (dk_at dksL_law_51 8 rfl rfl)
theorem dL_law_1272 : decode cL_law 1272 = .ok (.ireturn, 1) := dk_172 (dk_at dksL_law_51 9 rfl rfl)
theorem dL_law_1273 : decode cL_law 1273 = .ok (.iload 5, 2) := dk_21 5 (dk_at dksL_law_51 10 rfl rfl)
theorem dL_law_1275 : decode cL_law 1275 = .ok (.ifCond .ne 15, 3) := dk_154 0 15 (dk_at dksL_law_51 12 rfl rfl)
theorem dL_law_1278 : decode cL_law 1278 = .ok (.aload_n 3, 1) := dk_45 (dk_at dksL_law_51 15 rfl rfl)
theorem dL_law_1279 : decode cL_law 1279 = .ok (.iconst 0, 1) := dk_3 (dk_at dksL_law_51 16 rfl rfl)
theorem dL_law_1280 : decode cL_law 1280 = .ok (.laload, 1) := dk_47 (dk_at dksL_law_51 17 rfl rfl)
theorem dL_law_1281 : decode cL_law 1281 = .ok (.iload 6, 2) := dk_21 6 (dk_at dksL_law_51 18 rfl rfl)
theorem dL_law_1283 : decode cL_law 1283 = .ok (.i2l, 1) := dk_133 (dk_at dksL_law_51 20 rfl rfl)
theorem dL_law_1284 : decode cL_law 1284 = .ok (.lcmp, 1) := dk_148 (dk_at dksL_law_51 21 rfl rfl)
theorem dL_law_1285 : decode cL_law 1285 = .ok (.ifCond .eq 5, 3) := dk_153 0 5 (dk_at dksL_law_52 0 rfl rfl)
theorem dL_law_1288 : decode cL_law 1288 = .ok (.iconst 0, 1) := dk_3 (dk_at dksL_law_52 3 rfl rfl)
theorem dL_law_1289 : decode cL_law 1289 = .ok (.ireturn, 1) := dk_172 (dk_at dksL_law_52 4 rfl rfl)
theorem dL_law_1290 : decode cL_law 1290 = .ok (.goto 209, 3) := dk_167 0 209 (dk_at dksL_law_52 5 rfl rfl)
theorem dL_law_1293 : decode cL_law 1293 = .ok (.aload_n 1, 1) := dk_43 (dk_at dksL_law_52 8 rfl rfl)
theorem dL_law_1294 : decode cL_law 1294 = .ok (.aload_n 0, 1) := dk_42 (dk_at dksL_law_52 9 rfl rfl)
theorem dL_law_1295 : decode cL_law 1295 = .ok (.iload 4, 2) := dk_21 4 (dk_at dksL_law_52 10 rfl rfl)
theorem dL_law_1297 : decode cL_law 1297 = .ok (.iconst 1, 1) := dk_4 (dk_at dksL_law_52 12 rfl rfl)
theorem dL_law_1298 : decode cL_law 1298 = .ok (.iadd, 1) := dk_96 (dk_at dksL_law_52 13 rfl rfl)
theorem dL_law_1299 : decode cL_law 1299 = .ok (.iaload, 1) := dk_46 (dk_at dksL_law_52 14 rfl rfl)
theorem dL_law_1300 : decode cL_law 1300 = .ok (.aload_n 0, 1) := dk_42 (dk_at dksL_law_52 15 rfl rfl)
theorem dL_law_1301 : decode cL_law 1301 = .ok (.iload 4, 2) := dk_21 4 (dk_at dksL_law_52 16 rfl rfl)
theorem dL_law_1303 : decode cL_law 1303 = .ok (.iconst 2, 1) := dk_5 (dk_at dksL_law_52 18 rfl rfl)
theorem dL_law_1304 : decode cL_law 1304 = .ok (.iadd, 1) := dk_96 (dk_at dksL_law_52 19 rfl rfl)
theorem dL_law_1305 : decode cL_law 1305 = .ok (.iaload, 1) := dk_46 (dk_at dksL_law_52 20 rfl rfl)
theorem dL_law_1306 : decode cL_law 1306 = .ok (.aload_n 3, 1) := dk_45 (dk_at dksL_law_52 21 rfl rfl)
theorem dL_law_1307 : decode cL_law 1307 = .ok (.invokestatic 154, 3) := dk_184 0 154 (dk_at dksL_law_53 0 rfl rfl)
theorem dL_law_1310 : decode cL_law 1310 = .ok (.istore 5, 2) := dk_54 5 (dk_at dksL_law_53 3 rfl rfl)
theorem dL_law_1312 : decode cL_law 1312 = .ok (.aload_n 2, 1) := dk_44 (dk_at dksL_law_53 5 rfl rfl)
theorem dL_law_1313 : decode cL_law 1313 = .ok (.aload_n 0, 1) := dk_42 (dk_at dksL_law_53 6 rfl rfl)
theorem dL_law_1314 : decode cL_law 1314 = .ok (.iload 4, 2) := dk_21 4 (dk_at dksL_law_53 7 rfl rfl)
theorem dL_law_1316 : decode cL_law 1316 = .ok (.iconst 1, 1) := dk_4 (dk_at dksL_law_53 9 rfl rfl)
theorem dL_law_1317 : decode cL_law 1317 = .ok (.iadd, 1) := dk_96 (dk_at dksL_law_53 10 rfl rfl)
theorem dL_law_1318 : decode cL_law 1318 = .ok (.iaload, 1) := dk_46 (dk_at dksL_law_53 11 rfl rfl)
theorem dL_law_1319 : decode cL_law 1319 = .ok (.aload_n 0, 1) := dk_42 (dk_at dksL_law_53 12 rfl rfl)
theorem dL_law_1320 : decode cL_law 1320 = .ok (.iload 4, 2) := dk_21 4 (dk_at dksL_law_53 13 rfl rfl)
theorem dL_law_1322 : decode cL_law 1322 = .ok (.iconst 2, 1) := dk_5 (dk_at dksL_law_53 15 rfl rfl)
theorem dL_law_1323 : decode cL_law 1323 = .ok (.iadd, 1) := dk_96 (dk_at dksL_law_53 16 rfl rfl)
theorem dL_law_1324 : decode cL_law 1324 = .ok (.iaload, 1) := dk_46 (dk_at dksL_law_53 17 rfl rfl)
theorem dL_law_1325 : decode cL_law 1325 = .ok (.invokevirtual 156, 3) := dk_182 0 156 (dk_at dksL_law_53 18 rfl rfl)
theorem dL_law_1328 : decode cL_law 1328 = .ok (.istore 6, 2) := dk_54 6 (dk_at dksL_law_53 21 rfl rfl)
theorem dL_law_1330 : decode cL_law 1330 = .ok (.aload_n 2, 1) := dk_44 (dk_at dksL_law_53 23 rfl rfl)
theorem dL_law_1331 : decode cL_law 1331 = .ok (.invokevirtual 92, 3) := dk_182 0 92 (dk_at dksL_law_54 0 rfl rfl)
theorem dL_law_1334 : decode cL_law 1334 = .ok (.iload 5, 2) := dk_21 5 (dk_at dksL_law_54 3 rfl rfl)
theorem dL_law_1336 : decode cL_law 1336 = .ok (.if_icmp .eq 5, 3) := dk_159 0 5 (dk_at dksL_law_54 5 rfl rfl)
theorem dL_law_1339 : decode cL_law 1339 = .ok (.iconst 0, 1) := dk_3 (dk_at dksL_law_54 8 rfl rfl)
theorem dL_law_1340 : decode cL_law 1340 = .ok (.ireturn, 1) := dk_172 (dk_at dksL_law_54 9 rfl rfl)
theorem dL_law_1341 : decode cL_law 1341 = .ok (.iload 5, 2) := dk_21 5 (dk_at dksL_law_54 10 rfl rfl)
theorem dL_law_1343 : decode cL_law 1343 = .ok (.ifCond .ne 15, 3) := dk_154 0 15 (dk_at dksL_law_54 12 rfl rfl)
theorem dL_law_1346 : decode cL_law 1346 = .ok (.aload_n 3, 1) := dk_45 (dk_at dksL_law_54 15 rfl rfl)
theorem dL_law_1347 : decode cL_law 1347 = .ok (.iconst 0, 1) := dk_3 (dk_at dksL_law_54 16 rfl rfl)
theorem dL_law_1348 : decode cL_law 1348 = .ok (.laload, 1) := dk_47 (dk_at dksL_law_54 17 rfl rfl)
theorem dL_law_1349 : decode cL_law 1349 = .ok (.iload 6, 2) := dk_21 6 (dk_at dksL_law_54 18 rfl rfl)
theorem dL_law_1351 : decode cL_law 1351 = .ok (.i2l, 1) := dk_133 (dk_at dksL_law_54 20 rfl rfl)
theorem dL_law_1352 : decode cL_law 1352 = .ok (.lcmp, 1) := dk_148 (dk_at dksL_law_54 21 rfl rfl)
theorem dL_law_1353 : decode cL_law 1353 = .ok (.ifCond .eq 5, 3) := dk_153 0 5 (dk_at dksL_law_55 0 rfl rfl)
theorem dL_law_1356 : decode cL_law 1356 = .ok (.iconst 0, 1) := dk_3 (dk_at dksL_law_55 3 rfl rfl)
theorem dL_law_1357 : decode cL_law 1357 = .ok (.ireturn, 1) := dk_172 (dk_at dksL_law_55 4 rfl rfl)
theorem dL_law_1358 : decode cL_law 1358 = .ok (.goto 141, 3) := dk_167 0 141 (dk_at dksL_law_55 5 rfl rfl)
theorem dL_law_1361 : decode cL_law 1361 = .ok (.aload_n 1, 1) := dk_43 (dk_at dksL_law_55 8 rfl rfl)
theorem dL_law_1362 : decode cL_law 1362 = .ok (.invokevirtual 157, 3) := dk_182 0 157 (dk_at dksL_law_55 9 rfl rfl)
theorem dL_law_1365 : decode cL_law 1365 = .ok (.aload_n 2, 1) := dk_44 (dk_at dksL_law_55 12 rfl rfl)
theorem dL_law_1366 : decode cL_law 1366 = .ok (.invokevirtual 160, 3) := dk_182 0 160 (dk_at dksL_law_55 13 rfl rfl)
theorem dL_law_1369 : decode cL_law 1369 = .ok (.if_icmp .eq 130, 3) := dk_159 0 130 (dk_at dksL_law_55 16 rfl rfl)
theorem dL_law_1372 : decode cL_law 1372 = .ok (.iconst 0, 1) := dk_3 (dk_at dksL_law_55 19 rfl rfl)
theorem dL_law_1373 : decode cL_law 1373 = .ok (.ireturn, 1) := dk_172 (dk_at dksL_law_55 20 rfl rfl)
theorem dL_law_1374 : decode cL_law 1374 = .ok (.aload_n 1, 1) := dk_43 (dk_at dksL_law_55 21 rfl rfl)
theorem dL_law_1375 : decode cL_law 1375 = .ok (.aload_n 0, 1) := dk_42 (dk_at dksL_law_55 22 rfl rfl)
theorem dL_law_1376 : decode cL_law 1376 = .ok (.iload 4, 2) := dk_21 4 (dk_at dksL_law_56 0 rfl rfl)
theorem dL_law_1378 : decode cL_law 1378 = .ok (.iconst 1, 1) := dk_4 (dk_at dksL_law_56 2 rfl rfl)
theorem dL_law_1379 : decode cL_law 1379 = .ok (.iadd, 1) := dk_96 (dk_at dksL_law_56 3 rfl rfl)
theorem dL_law_1380 : decode cL_law 1380 = .ok (.iaload, 1) := dk_46 (dk_at dksL_law_56 4 rfl rfl)
theorem dL_law_1381 : decode cL_law 1381 = .ok (.aload_n 3, 1) := dk_45 (dk_at dksL_law_56 5 rfl rfl)
theorem dL_law_1382 : decode cL_law 1382 = .ok (.invokestatic 161, 3) := dk_184 0 161 (dk_at dksL_law_56 6 rfl rfl)
theorem dL_law_1385 : decode cL_law 1385 = .ok (.istore 5, 2) := dk_54 5 (dk_at dksL_law_56 9 rfl rfl)
theorem dL_law_1387 : decode cL_law 1387 = .ok (.aload_n 2, 1) := dk_44 (dk_at dksL_law_56 11 rfl rfl)
theorem dL_law_1388 : decode cL_law 1388 = .ok (.aload_n 0, 1) := dk_42 (dk_at dksL_law_56 12 rfl rfl)
theorem dL_law_1389 : decode cL_law 1389 = .ok (.iload 4, 2) := dk_21 4 (dk_at dksL_law_56 13 rfl rfl)
theorem dL_law_1391 : decode cL_law 1391 = .ok (.iconst 1, 1) := dk_4 (dk_at dksL_law_56 15 rfl rfl)
theorem dL_law_1392 : decode cL_law 1392 = .ok (.iadd, 1) := dk_96 (dk_at dksL_law_56 16 rfl rfl)
theorem dL_law_1393 : decode cL_law 1393 = .ok (.iaload, 1) := dk_46 (dk_at dksL_law_56 17 rfl rfl)
theorem dL_law_1394 : decode cL_law 1394 = .ok (.invokevirtual 163, 3) := dk_182 0 163 (dk_at dksL_law_56 18 rfl rfl)
theorem dL_law_1397 : decode cL_law 1397 = .ok (.istore 6, 2) := dk_54 6 (dk_at dksL_law_56 21 rfl rfl)
theorem dL_law_1399 : decode cL_law 1399 = .ok (.aload_n 2, 1) := dk_44 (dk_at dksL_law_56 23 rfl rfl)
theorem dL_law_1400 : decode cL_law 1400 = .ok (.invokevirtual 92, 3) := dk_182 0 92 (dk_at dksL_law_57 0 rfl rfl)
theorem dL_law_1403 : decode cL_law 1403 = .ok (.iload 5, 2) := dk_21 5 (dk_at dksL_law_57 3 rfl rfl)
theorem dL_law_1405 : decode cL_law 1405 = .ok (.if_icmp .eq 5, 3) := dk_159 0 5 (dk_at dksL_law_57 5 rfl rfl)
theorem dL_law_1408 : decode cL_law 1408 = .ok (.iconst 0, 1) := dk_3 (dk_at dksL_law_57 8 rfl rfl)
theorem dL_law_1409 : decode cL_law 1409 = .ok (.ireturn, 1) := dk_172 (dk_at dksL_law_57 9 rfl rfl)
theorem dL_law_1410 : decode cL_law 1410 = .ok (.iload 5, 2) := dk_21 5 (dk_at dksL_law_57 10 rfl rfl)
theorem dL_law_1412 : decode cL_law 1412 = .ok (.ifCond .ne 15, 3) := dk_154 0 15 (dk_at dksL_law_57 12 rfl rfl)
theorem dL_law_1415 : decode cL_law 1415 = .ok (.aload_n 3, 1) := dk_45 (dk_at dksL_law_57 15 rfl rfl)
theorem dL_law_1416 : decode cL_law 1416 = .ok (.iconst 0, 1) := dk_3 (dk_at dksL_law_57 16 rfl rfl)
theorem dL_law_1417 : decode cL_law 1417 = .ok (.laload, 1) := dk_47 (dk_at dksL_law_57 17 rfl rfl)
theorem dL_law_1418 : decode cL_law 1418 = .ok (.iload 6, 2) := dk_21 6 (dk_at dksL_law_57 18 rfl rfl)
theorem dL_law_1420 : decode cL_law 1420 = .ok (.i2l, 1) := dk_133 (dk_at dksL_law_57 20 rfl rfl)
theorem dL_law_1421 : decode cL_law 1421 = .ok (.lcmp, 1) := dk_148 (dk_at dksL_law_57 21 rfl rfl)
theorem dL_law_1422 : decode cL_law 1422 = .ok (.ifCond .eq 5, 3) := dk_153 0 5 (dk_at dksL_law_58 0 rfl rfl)
theorem dL_law_1425 : decode cL_law 1425 = .ok (.iconst 0, 1) := dk_3 (dk_at dksL_law_58 3 rfl rfl)
theorem dL_law_1426 : decode cL_law 1426 = .ok (.ireturn, 1) := dk_172 (dk_at dksL_law_58 4 rfl rfl)
theorem dL_law_1427 : decode cL_law 1427 = .ok (.goto 72, 3) := dk_167 0 72 (dk_at dksL_law_58 5 rfl rfl)
theorem dL_law_1430 : decode cL_law 1430 = .ok (.aload_n 1, 1) := dk_43 (dk_at dksL_law_58 8 rfl rfl)
theorem dL_law_1431 : decode cL_law 1431 = .ok (.aload_n 0, 1) := dk_42 (dk_at dksL_law_58 9 rfl rfl)
theorem dL_law_1432 : decode cL_law 1432 = .ok (.iload 4, 2) := dk_21 4 (dk_at dksL_law_58 10 rfl rfl)
theorem dL_law_1434 : decode cL_law 1434 = .ok (.iconst 1, 1) := dk_4 (dk_at dksL_law_58 12 rfl rfl)
theorem dL_law_1435 : decode cL_law 1435 = .ok (.iadd, 1) := dk_96 (dk_at dksL_law_58 13 rfl rfl)
theorem dL_law_1436 : decode cL_law 1436 = .ok (.iaload, 1) := dk_46 (dk_at dksL_law_58 14 rfl rfl)
theorem dL_law_1437 : decode cL_law 1437 = .ok (.aload_n 3, 1) := dk_45 (dk_at dksL_law_58 15 rfl rfl)
theorem dL_law_1438 : decode cL_law 1438 = .ok (.invokestatic 164, 3) := dk_184 0 164 (dk_at dksL_law_58 16 rfl rfl)
theorem dL_law_1441 : decode cL_law 1441 = .ok (.istore 5, 2) := dk_54 5 (dk_at dksL_law_58 19 rfl rfl)
theorem dL_law_1443 : decode cL_law 1443 = .ok (.aload_n 2, 1) := dk_44 (dk_at dksL_law_58 21 rfl rfl)
theorem dL_law_1444 : decode cL_law 1444 = .ok (.aload_n 0, 1) := dk_42 (dk_at dksL_law_58 22 rfl rfl)
theorem dL_law_1445 : decode cL_law 1445 = .ok (.iload 4, 2) := dk_21 4 (dk_at dksL_law_59 0 rfl rfl)
theorem dL_law_1447 : decode cL_law 1447 = .ok (.iconst 1, 1) := dk_4 (dk_at dksL_law_59 2 rfl rfl)
theorem dL_law_1448 : decode cL_law 1448 = .ok (.iadd, 1) := dk_96 (dk_at dksL_law_59 3 rfl rfl)
theorem dL_law_1449 : decode cL_law 1449 = .ok (.iaload, 1) := dk_46 (dk_at dksL_law_59 4 rfl rfl)
theorem dL_law_1450 : decode cL_law 1450 = .ok (.invokevirtual 166, 3) := dk_182 0 166 (dk_at dksL_law_59 5 rfl rfl)
theorem dL_law_1453 : decode cL_law 1453 = .ok (.istore 6, 2) := dk_54 6 (dk_at dksL_law_59 8 rfl rfl)
theorem dL_law_1455 : decode cL_law 1455 = .ok (.aload_n 2, 1) := dk_44 (dk_at dksL_law_59 10 rfl rfl)
theorem dL_law_1456 : decode cL_law 1456 = .ok (.invokevirtual 92, 3) := dk_182 0 92 (dk_at dksL_law_59 11 rfl rfl)
theorem dL_law_1459 : decode cL_law 1459 = .ok (.iload 5, 2) := dk_21 5 (dk_at dksL_law_59 14 rfl rfl)
theorem dL_law_1461 : decode cL_law 1461 = .ok (.if_icmp .eq 5, 3) := dk_159 0 5 (dk_at dksL_law_59 16 rfl rfl)
theorem dL_law_1464 : decode cL_law 1464 = .ok (.iconst 0, 1) := dk_3 (dk_at dksL_law_59 19 rfl rfl)
theorem dL_law_1465 : decode cL_law 1465 = .ok (.ireturn, 1) := dk_172 (dk_at dksL_law_59 20 rfl rfl)
theorem dL_law_1466 : decode cL_law 1466 = .ok (.iload 5, 2) := dk_21 5 (dk_at dksL_law_59 21 rfl rfl)
theorem dL_law_1468 : decode cL_law 1468 = .ok (.ifCond .ne 15, 3) := dk_154 0 15 (dk_at dksL_law_60 0 rfl rfl)
theorem dL_law_1471 : decode cL_law 1471 = .ok (.aload_n 3, 1) := dk_45 (dk_at dksL_law_60 3 rfl rfl)
theorem dL_law_1472 : decode cL_law 1472 = .ok (.iconst 0, 1) := dk_3 (dk_at dksL_law_60 4 rfl rfl)
theorem dL_law_1473 : decode cL_law 1473 = .ok (.laload, 1) := dk_47 (dk_at dksL_law_60 5 rfl rfl)
theorem dL_law_1474 : decode cL_law 1474 = .ok (.iload 6, 2) := dk_21 6 (dk_at dksL_law_60 6 rfl rfl)
theorem dL_law_1476 : decode cL_law 1476 = .ok (.i2l, 1) := dk_133 (dk_at dksL_law_60 8 rfl rfl)
theorem dL_law_1477 : decode cL_law 1477 = .ok (.lcmp, 1) := dk_148 (dk_at dksL_law_60 9 rfl rfl)
theorem dL_law_1478 : decode cL_law 1478 = .ok (.ifCond .eq 5, 3) := dk_153 0 5 (dk_at dksL_law_60 10 rfl rfl)
theorem dL_law_1481 : decode cL_law 1481 = .ok (.iconst 0, 1) := dk_3 (dk_at dksL_law_60 13 rfl rfl)
theorem dL_law_1482 : decode cL_law 1482 = .ok (.ireturn, 1) := dk_172 (dk_at dksL_law_60 14 rfl rfl)
theorem dL_law_1483 : decode cL_law 1483 = .ok (.goto 16, 3) := dk_167 0 16 (dk_at dksL_law_60 15 rfl rfl)
theorem dL_law_1486 : decode cL_law 1486 = .ok (.aload_n 1, 1) := dk_43 (dk_at dksL_law_60 18 rfl rfl)
theorem dL_law_1487 : decode cL_law 1487 = .ok (.invokevirtual 167, 3) := dk_182 0 167 (dk_at dksL_law_60 19 rfl rfl)
theorem dL_law_1490 : decode cL_law 1490 = .ok (.aload_n 2, 1) := dk_44 (dk_at dksL_law_60 22 rfl rfl)
theorem dL_law_1491 : decode cL_law 1491 = .ok (.invokevirtual 170, 3) := dk_182 0 170 (dk_at dksL_law_61 0 rfl rfl)
theorem dL_law_1494 : decode cL_law 1494 = .ok (.if_icmp .eq 5, 3) := dk_159 0 5 (dk_at dksL_law_61 3 rfl rfl)
theorem dL_law_1497 : decode cL_law 1497 = .ok (.iconst 0, 1) := dk_3 (dk_at dksL_law_61 6 rfl rfl)
theorem dL_law_1498 : decode cL_law 1498 = .ok (.ireturn, 1) := dk_172 (dk_at dksL_law_61 7 rfl rfl)
theorem dL_law_1499 : decode cL_law 1499 = .ok (.iinc 4 4, 3) := dk_132 4 4 (dk_at dksL_law_61 8 rfl rfl)
theorem dL_law_1502 : decode cL_law 1502 = .ok (.goto (-1479), 3) := dk_167 250 57 (dk_at dksL_law_61 11 rfl rfl)
theorem dL_law_1505 : decode cL_law 1505 = .ok (.iconst 1, 1) := dk_4 (dk_at dksL_law_61 14 rfl rfl)
theorem dL_law_1506 : decode cL_law 1506 = .ok (.ireturn, 1) := dk_172 (dk_at dksL_law_61 15 rfl rfl)
/-! TwinphaseLaw -/
set_option maxRecDepth 100000
def RX0 : String := "TwinphaseLaw"
abbrev cX0_pass : ByteArray := method_3_code
def yX0_pass : MethodName := ⟨RX0, "pass", "(LTwinphase;I[J)I"⟩
def dkwX0_pass_0 : List UInt8 := [44, 3, 42, 27, 182, 0, 7, 133, 80, 167, 0, 9, 78, 4, 172, 78, 5, 172, 3, 172]
abbrev dktX0_pass_0 : List UInt8 := dkwX0_pass_0 ++ []
theorem dksX0_pass_0 : cX0_pass.data.toList.drop 0 = dktX0_pass_0 := by decide +kernel
theorem dX0_pass_0 : decode cX0_pass 0 = .ok (.aload_n 2, 1) := dk_44 (dk_at dksX0_pass_0 0 rfl rfl)
theorem dX0_pass_1 : decode cX0_pass 1 = .ok (.iconst 0, 1) := dk_3 (dk_at dksX0_pass_0 1 rfl rfl)
theorem dX0_pass_2 : decode cX0_pass 2 = .ok (.aload_n 0, 1) := dk_42 (dk_at dksX0_pass_0 2 rfl rfl)
theorem dX0_pass_3 : decode cX0_pass 3 = .ok (.iload_n 1, 1) := dk_27 (dk_at dksX0_pass_0 3 rfl rfl)
theorem dX0_pass_4 : decode cX0_pass 4 = .ok (.invokevirtual 7, 3) := dk_182 0 7 (dk_at dksX0_pass_0 4 rfl rfl)
theorem dX0_pass_7 : decode cX0_pass 7 = .ok (.i2l, 1) := dk_133 (dk_at dksX0_pass_0 7 rfl rfl)
theorem dX0_pass_8 : decode cX0_pass 8 = .ok (.lastore, 1) := dk_80 (dk_at dksX0_pass_0 8 rfl rfl)
theorem dX0_pass_9 : decode cX0_pass 9 = .ok (.goto 9, 3) := dk_167 0 9 (dk_at dksX0_pass_0 9 rfl rfl)
theorem dX0_pass_12 : decode cX0_pass 12 = .ok (.astore_n 3, 1) := dk_78 (dk_at dksX0_pass_0 12 rfl rfl)
theorem dX0_pass_13 : decode cX0_pass 13 = .ok (.iconst 1, 1) := dk_4 (dk_at dksX0_pass_0 13 rfl rfl)
theorem dX0_pass_14 : decode cX0_pass 14 = .ok (.ireturn, 1) := dk_172 (dk_at dksX0_pass_0 14 rfl rfl)
theorem dX0_pass_15 : decode cX0_pass 15 = .ok (.astore_n 3, 1) := dk_78 (dk_at dksX0_pass_0 15 rfl rfl)
theorem dX0_pass_16 : decode cX0_pass 16 = .ok (.iconst 2, 1) := dk_5 (dk_at dksX0_pass_0 16 rfl rfl)
theorem dX0_pass_17 : decode cX0_pass 17 = .ok (.ireturn, 1) := dk_172 (dk_at dksX0_pass_0 17 rfl rfl)
theorem dX0_pass_18 : decode cX0_pass 18 = .ok (.iconst 0, 1) := dk_3 (dk_at dksX0_pass_0 18 rfl rfl)
theorem dX0_pass_19 : decode cX0_pass 19 = .ok (.ireturn, 1) := dk_172 (dk_at dksX0_pass_0 19 rfl rfl)
abbrev cX0_skew : ByteArray := method_4_code
def yX0_skew : MethodName := ⟨RX0, "skew", "(LTwinphase;II[J)I"⟩
def dkwX0_skew_0 : List UInt8 := [45, 3, 42, 27, 28, 182, 0, 17, 133, 80, 167, 0, 11, 58, 4, 4, 172, 58, 4, 5, 172, 3, 172]
abbrev dktX0_skew_0 : List UInt8 := dkwX0_skew_0 ++ []
theorem dksX0_skew_0 : cX0_skew.data.toList.drop 0 = dktX0_skew_0 := by decide +kernel
theorem dX0_skew_0 : decode cX0_skew 0 = .ok (.aload_n 3, 1) := dk_45 (dk_at dksX0_skew_0 0 rfl rfl)
theorem dX0_skew_1 : decode cX0_skew 1 = .ok (.iconst 0, 1) := dk_3 (dk_at dksX0_skew_0 1 rfl rfl)
theorem dX0_skew_2 : decode cX0_skew 2 = .ok (.aload_n 0, 1) := dk_42 (dk_at dksX0_skew_0 2 rfl rfl)
theorem dX0_skew_3 : decode cX0_skew 3 = .ok (.iload_n 1, 1) := dk_27 (dk_at dksX0_skew_0 3 rfl rfl)
theorem dX0_skew_4 : decode cX0_skew 4 = .ok (.iload_n 2, 1) := dk_28 (dk_at dksX0_skew_0 4 rfl rfl)
theorem dX0_skew_5 : decode cX0_skew 5 = .ok (.invokevirtual 17, 3) := dk_182 0 17 (dk_at dksX0_skew_0 5 rfl rfl)
theorem dX0_skew_8 : decode cX0_skew 8 = .ok (.i2l, 1) := dk_133 (dk_at dksX0_skew_0 8 rfl rfl)
theorem dX0_skew_9 : decode cX0_skew 9 = .ok (.lastore, 1) := dk_80 (dk_at dksX0_skew_0 9 rfl rfl)
theorem dX0_skew_10 : decode cX0_skew 10 = .ok (.goto 11, 3) := dk_167 0 11 (dk_at dksX0_skew_0 10 rfl rfl)
theorem dX0_skew_13 : decode cX0_skew 13 = .ok (.astore 4, 2) := dk_58 4 (dk_at dksX0_skew_0 13 rfl rfl)
theorem dX0_skew_15 : decode cX0_skew 15 = .ok (.iconst 1, 1) := dk_4 (dk_at dksX0_skew_0 15 rfl rfl)
theorem dX0_skew_16 : decode cX0_skew 16 = .ok (.ireturn, 1) := dk_172 (dk_at dksX0_skew_0 16 rfl rfl)
theorem dX0_skew_17 : decode cX0_skew 17 = .ok (.astore 4, 2) := dk_58 4 (dk_at dksX0_skew_0 17 rfl rfl)
theorem dX0_skew_19 : decode cX0_skew 19 = .ok (.iconst 2, 1) := dk_5 (dk_at dksX0_skew_0 19 rfl rfl)
theorem dX0_skew_20 : decode cX0_skew 20 = .ok (.ireturn, 1) := dk_172 (dk_at dksX0_skew_0 20 rfl rfl)
theorem dX0_skew_21 : decode cX0_skew 21 = .ok (.iconst 0, 1) := dk_3 (dk_at dksX0_skew_0 21 rfl rfl)
theorem dX0_skew_22 : decode cX0_skew 22 = .ok (.ireturn, 1) := dk_172 (dk_at dksX0_skew_0 22 rfl rfl)
abbrev cX0_clock : ByteArray := method_5_code
def yX0_clock : MethodName := ⟨RX0, "clock", "(LTwinphase;I[J)I"⟩
def dkwX0_clock_0 : List UInt8 := [44, 3, 42, 27, 182, 0, 23, 133, 80, 167, 0, 9, 78, 4, 172, 78, 5, 172, 3, 172]
abbrev dktX0_clock_0 : List UInt8 := dkwX0_clock_0 ++ []
theorem dksX0_clock_0 : cX0_clock.data.toList.drop 0 = dktX0_clock_0 := by decide +kernel
theorem dX0_clock_0 : decode cX0_clock 0 = .ok (.aload_n 2, 1) := dk_44 (dk_at dksX0_clock_0 0 rfl rfl)
theorem dX0_clock_1 : decode cX0_clock 1 = .ok (.iconst 0, 1) := dk_3 (dk_at dksX0_clock_0 1 rfl rfl)
theorem dX0_clock_2 : decode cX0_clock 2 = .ok (.aload_n 0, 1) := dk_42 (dk_at dksX0_clock_0 2 rfl rfl)
theorem dX0_clock_3 : decode cX0_clock 3 = .ok (.iload_n 1, 1) := dk_27 (dk_at dksX0_clock_0 3 rfl rfl)
theorem dX0_clock_4 : decode cX0_clock 4 = .ok (.invokevirtual 23, 3) := dk_182 0 23 (dk_at dksX0_clock_0 4 rfl rfl)
theorem dX0_clock_7 : decode cX0_clock 7 = .ok (.i2l, 1) := dk_133 (dk_at dksX0_clock_0 7 rfl rfl)
theorem dX0_clock_8 : decode cX0_clock 8 = .ok (.lastore, 1) := dk_80 (dk_at dksX0_clock_0 8 rfl rfl)
theorem dX0_clock_9 : decode cX0_clock 9 = .ok (.goto 9, 3) := dk_167 0 9 (dk_at dksX0_clock_0 9 rfl rfl)
theorem dX0_clock_12 : decode cX0_clock 12 = .ok (.astore_n 3, 1) := dk_78 (dk_at dksX0_clock_0 12 rfl rfl)
theorem dX0_clock_13 : decode cX0_clock 13 = .ok (.iconst 1, 1) := dk_4 (dk_at dksX0_clock_0 13 rfl rfl)
theorem dX0_clock_14 : decode cX0_clock 14 = .ok (.ireturn, 1) := dk_172 (dk_at dksX0_clock_0 14 rfl rfl)
theorem dX0_clock_15 : decode cX0_clock 15 = .ok (.astore_n 3, 1) := dk_78 (dk_at dksX0_clock_0 15 rfl rfl)
theorem dX0_clock_16 : decode cX0_clock 16 = .ok (.iconst 2, 1) := dk_5 (dk_at dksX0_clock_0 16 rfl rfl)
theorem dX0_clock_17 : decode cX0_clock 17 = .ok (.ireturn, 1) := dk_172 (dk_at dksX0_clock_0 17 rfl rfl)
theorem dX0_clock_18 : decode cX0_clock 18 = .ok (.iconst 0, 1) := dk_3 (dk_at dksX0_clock_0 18 rfl rfl)
theorem dX0_clock_19 : decode cX0_clock 19 = .ok (.ireturn, 1) := dk_172 (dk_at dksX0_clock_0 19 rfl rfl)
abbrev cX0_down : ByteArray := method_6_code
def yX0_down : MethodName := ⟨RX0, "down", "(LTwinphase;I[J)I"⟩
def dkwX0_down_0 : List UInt8 := [44, 3, 42, 27, 182, 0, 26, 133, 80, 167, 0, 9, 78, 4, 172, 78, 5, 172, 3, 172]
abbrev dktX0_down_0 : List UInt8 := dkwX0_down_0 ++ []
theorem dksX0_down_0 : cX0_down.data.toList.drop 0 = dktX0_down_0 := by decide +kernel
theorem dX0_down_0 : decode cX0_down 0 = .ok (.aload_n 2, 1) := dk_44 (dk_at dksX0_down_0 0 rfl rfl)
theorem dX0_down_1 : decode cX0_down 1 = .ok (.iconst 0, 1) := dk_3 (dk_at dksX0_down_0 1 rfl rfl)
theorem dX0_down_2 : decode cX0_down 2 = .ok (.aload_n 0, 1) := dk_42 (dk_at dksX0_down_0 2 rfl rfl)
theorem dX0_down_3 : decode cX0_down 3 = .ok (.iload_n 1, 1) := dk_27 (dk_at dksX0_down_0 3 rfl rfl)
theorem dX0_down_4 : decode cX0_down 4 = .ok (.invokevirtual 26, 3) := dk_182 0 26 (dk_at dksX0_down_0 4 rfl rfl)
theorem dX0_down_7 : decode cX0_down 7 = .ok (.i2l, 1) := dk_133 (dk_at dksX0_down_0 7 rfl rfl)
theorem dX0_down_8 : decode cX0_down 8 = .ok (.lastore, 1) := dk_80 (dk_at dksX0_down_0 8 rfl rfl)
theorem dX0_down_9 : decode cX0_down 9 = .ok (.goto 9, 3) := dk_167 0 9 (dk_at dksX0_down_0 9 rfl rfl)
theorem dX0_down_12 : decode cX0_down 12 = .ok (.astore_n 3, 1) := dk_78 (dk_at dksX0_down_0 12 rfl rfl)
theorem dX0_down_13 : decode cX0_down 13 = .ok (.iconst 1, 1) := dk_4 (dk_at dksX0_down_0 13 rfl rfl)
theorem dX0_down_14 : decode cX0_down 14 = .ok (.ireturn, 1) := dk_172 (dk_at dksX0_down_0 14 rfl rfl)
theorem dX0_down_15 : decode cX0_down 15 = .ok (.astore_n 3, 1) := dk_78 (dk_at dksX0_down_0 15 rfl rfl)
theorem dX0_down_16 : decode cX0_down 16 = .ok (.iconst 2, 1) := dk_5 (dk_at dksX0_down_0 16 rfl rfl)
theorem dX0_down_17 : decode cX0_down 17 = .ok (.ireturn, 1) := dk_172 (dk_at dksX0_down_0 17 rfl rfl)
theorem dX0_down_18 : decode cX0_down 18 = .ok (.iconst 0, 1) := dk_3 (dk_at dksX0_down_0 18 rfl rfl)
theorem dX0_down_19 : decode cX0_down 19 = .ok (.ireturn, 1) := dk_172 (dk_at dksX0_down_0 19 rfl rfl)
abbrev cX0_up : ByteArray := method_7_code
def yX0_up : MethodName := ⟨RX0, "up", "(LTwinphase;I[J)I"⟩
def dkwX0_up_0 : List UInt8 := [44, 3, 42, 27, 182, 0, 29, 133, 80, 167, 0, 9, 78, 4, 172, 78, 5, 172, 3, 172]
abbrev dktX0_up_0 : List UInt8 := dkwX0_up_0 ++ []
theorem dksX0_up_0 : cX0_up.data.toList.drop 0 = dktX0_up_0 := by decide +kernel
theorem dX0_up_0 : decode cX0_up 0 = .ok (.aload_n 2, 1) := dk_44 (dk_at dksX0_up_0 0 rfl rfl)
theorem dX0_up_1 : decode cX0_up 1 = .ok (.iconst 0, 1) := dk_3 (dk_at dksX0_up_0 1 rfl rfl)
theorem dX0_up_2 : decode cX0_up 2 = .ok (.aload_n 0, 1) := dk_42 (dk_at dksX0_up_0 2 rfl rfl)
theorem dX0_up_3 : decode cX0_up 3 = .ok (.iload_n 1, 1) := dk_27 (dk_at dksX0_up_0 3 rfl rfl)
theorem dX0_up_4 : decode cX0_up 4 = .ok (.invokevirtual 29, 3) := dk_182 0 29 (dk_at dksX0_up_0 4 rfl rfl)
theorem dX0_up_7 : decode cX0_up 7 = .ok (.i2l, 1) := dk_133 (dk_at dksX0_up_0 7 rfl rfl)
theorem dX0_up_8 : decode cX0_up 8 = .ok (.lastore, 1) := dk_80 (dk_at dksX0_up_0 8 rfl rfl)
theorem dX0_up_9 : decode cX0_up 9 = .ok (.goto 9, 3) := dk_167 0 9 (dk_at dksX0_up_0 9 rfl rfl)
theorem dX0_up_12 : decode cX0_up 12 = .ok (.astore_n 3, 1) := dk_78 (dk_at dksX0_up_0 12 rfl rfl)
theorem dX0_up_13 : decode cX0_up 13 = .ok (.iconst 1, 1) := dk_4 (dk_at dksX0_up_0 13 rfl rfl)
theorem dX0_up_14 : decode cX0_up 14 = .ok (.ireturn, 1) := dk_172 (dk_at dksX0_up_0 14 rfl rfl)
theorem dX0_up_15 : decode cX0_up 15 = .ok (.astore_n 3, 1) := dk_78 (dk_at dksX0_up_0 15 rfl rfl)
theorem dX0_up_16 : decode cX0_up 16 = .ok (.iconst 2, 1) := dk_5 (dk_at dksX0_up_0 16 rfl rfl)
theorem dX0_up_17 : decode cX0_up 17 = .ok (.ireturn, 1) := dk_172 (dk_at dksX0_up_0 17 rfl rfl)
theorem dX0_up_18 : decode cX0_up 18 = .ok (.iconst 0, 1) := dk_3 (dk_at dksX0_up_0 18 rfl rfl)
theorem dX0_up_19 : decode cX0_up 19 = .ok (.ireturn, 1) := dk_172 (dk_at dksX0_up_0 19 rfl rfl)
abbrev cX0_sync : ByteArray := method_8_code
def yX0_sync : MethodName := ⟨RX0, "sync", "(LTwinphase;I[J)I"⟩
def dkwX0_sync_0 : List UInt8 := [44, 3, 42, 27, 182, 0, 32, 133, 80, 167, 0, 9, 78, 4, 172, 78, 5, 172, 3, 172]
abbrev dktX0_sync_0 : List UInt8 := dkwX0_sync_0 ++ []
theorem dksX0_sync_0 : cX0_sync.data.toList.drop 0 = dktX0_sync_0 := by decide +kernel
theorem dX0_sync_0 : decode cX0_sync 0 = .ok (.aload_n 2, 1) := dk_44 (dk_at dksX0_sync_0 0 rfl rfl)
theorem dX0_sync_1 : decode cX0_sync 1 = .ok (.iconst 0, 1) := dk_3 (dk_at dksX0_sync_0 1 rfl rfl)
theorem dX0_sync_2 : decode cX0_sync 2 = .ok (.aload_n 0, 1) := dk_42 (dk_at dksX0_sync_0 2 rfl rfl)
theorem dX0_sync_3 : decode cX0_sync 3 = .ok (.iload_n 1, 1) := dk_27 (dk_at dksX0_sync_0 3 rfl rfl)
theorem dX0_sync_4 : decode cX0_sync 4 = .ok (.invokevirtual 32, 3) := dk_182 0 32 (dk_at dksX0_sync_0 4 rfl rfl)
theorem dX0_sync_7 : decode cX0_sync 7 = .ok (.i2l, 1) := dk_133 (dk_at dksX0_sync_0 7 rfl rfl)
theorem dX0_sync_8 : decode cX0_sync 8 = .ok (.lastore, 1) := dk_80 (dk_at dksX0_sync_0 8 rfl rfl)
theorem dX0_sync_9 : decode cX0_sync 9 = .ok (.goto 9, 3) := dk_167 0 9 (dk_at dksX0_sync_0 9 rfl rfl)
theorem dX0_sync_12 : decode cX0_sync 12 = .ok (.astore_n 3, 1) := dk_78 (dk_at dksX0_sync_0 12 rfl rfl)
theorem dX0_sync_13 : decode cX0_sync 13 = .ok (.iconst 1, 1) := dk_4 (dk_at dksX0_sync_0 13 rfl rfl)
theorem dX0_sync_14 : decode cX0_sync 14 = .ok (.ireturn, 1) := dk_172 (dk_at dksX0_sync_0 14 rfl rfl)
theorem dX0_sync_15 : decode cX0_sync 15 = .ok (.astore_n 3, 1) := dk_78 (dk_at dksX0_sync_0 15 rfl rfl)
theorem dX0_sync_16 : decode cX0_sync 16 = .ok (.iconst 2, 1) := dk_5 (dk_at dksX0_sync_0 16 rfl rfl)
theorem dX0_sync_17 : decode cX0_sync 17 = .ok (.ireturn, 1) := dk_172 (dk_at dksX0_sync_0 17 rfl rfl)
theorem dX0_sync_18 : decode cX0_sync 18 = .ok (.iconst 0, 1) := dk_3 (dk_at dksX0_sync_0 18 rfl rfl)
theorem dX0_sync_19 : decode cX0_sync 19 = .ok (.ireturn, 1) := dk_172 (dk_at dksX0_sync_0 19 rfl rfl)
abbrev cX0_split : ByteArray := method_9_code
def yX0_split : MethodName := ⟨RX0, "split", "(LTwinphase;I[J)I"⟩
def dkwX0_split_0 : List UInt8 := [44, 3, 42, 27, 182, 0, 35, 133, 80, 167, 0, 9, 78, 4, 172, 78, 5, 172, 3, 172]
abbrev dktX0_split_0 : List UInt8 := dkwX0_split_0 ++ []
theorem dksX0_split_0 : cX0_split.data.toList.drop 0 = dktX0_split_0 := by decide +kernel
theorem dX0_split_0 : decode cX0_split 0 = .ok (.aload_n 2, 1) := dk_44 (dk_at dksX0_split_0 0 rfl rfl)
theorem dX0_split_1 : decode cX0_split 1 = .ok (.iconst 0, 1) := dk_3 (dk_at dksX0_split_0 1 rfl rfl)
theorem dX0_split_2 : decode cX0_split 2 = .ok (.aload_n 0, 1) := dk_42 (dk_at dksX0_split_0 2 rfl rfl)
theorem dX0_split_3 : decode cX0_split 3 = .ok (.iload_n 1, 1) := dk_27 (dk_at dksX0_split_0 3 rfl rfl)
theorem dX0_split_4 : decode cX0_split 4 = .ok (.invokevirtual 35, 3) := dk_182 0 35 (dk_at dksX0_split_0 4 rfl rfl)
theorem dX0_split_7 : decode cX0_split 7 = .ok (.i2l, 1) := dk_133 (dk_at dksX0_split_0 7 rfl rfl)
theorem dX0_split_8 : decode cX0_split 8 = .ok (.lastore, 1) := dk_80 (dk_at dksX0_split_0 8 rfl rfl)
theorem dX0_split_9 : decode cX0_split 9 = .ok (.goto 9, 3) := dk_167 0 9 (dk_at dksX0_split_0 9 rfl rfl)
theorem dX0_split_12 : decode cX0_split 12 = .ok (.astore_n 3, 1) := dk_78 (dk_at dksX0_split_0 12 rfl rfl)
theorem dX0_split_13 : decode cX0_split 13 = .ok (.iconst 1, 1) := dk_4 (dk_at dksX0_split_0 13 rfl rfl)
theorem dX0_split_14 : decode cX0_split 14 = .ok (.ireturn, 1) := dk_172 (dk_at dksX0_split_0 14 rfl rfl)
theorem dX0_split_15 : decode cX0_split 15 = .ok (.astore_n 3, 1) := dk_78 (dk_at dksX0_split_0 15 rfl rfl)
theorem dX0_split_16 : decode cX0_split 16 = .ok (.iconst 2, 1) := dk_5 (dk_at dksX0_split_0 16 rfl rfl)
theorem dX0_split_17 : decode cX0_split 17 = .ok (.ireturn, 1) := dk_172 (dk_at dksX0_split_0 17 rfl rfl)
theorem dX0_split_18 : decode cX0_split 18 = .ok (.iconst 0, 1) := dk_3 (dk_at dksX0_split_0 18 rfl rfl)
theorem dX0_split_19 : decode cX0_split 19 = .ok (.ireturn, 1) := dk_172 (dk_at dksX0_split_0 19 rfl rfl)
abbrev cX0_merge : ByteArray := method_10_code
def yX0_merge : MethodName := ⟨RX0, "merge", "(LTwinphase;I[J)I"⟩
def dkwX0_merge_0 : List UInt8 := [44, 3, 42, 27, 182, 0, 38, 133, 80, 167, 0, 9, 78, 4, 172, 78, 5, 172, 3, 172]
abbrev dktX0_merge_0 : List UInt8 := dkwX0_merge_0 ++ []
theorem dksX0_merge_0 : cX0_merge.data.toList.drop 0 = dktX0_merge_0 := by decide +kernel
theorem dX0_merge_0 : decode cX0_merge 0 = .ok (.aload_n 2, 1) := dk_44 (dk_at dksX0_merge_0 0 rfl rfl)
theorem dX0_merge_1 : decode cX0_merge 1 = .ok (.iconst 0, 1) := dk_3 (dk_at dksX0_merge_0 1 rfl rfl)
theorem dX0_merge_2 : decode cX0_merge 2 = .ok (.aload_n 0, 1) := dk_42 (dk_at dksX0_merge_0 2 rfl rfl)
theorem dX0_merge_3 : decode cX0_merge 3 = .ok (.iload_n 1, 1) := dk_27 (dk_at dksX0_merge_0 3 rfl rfl)
theorem dX0_merge_4 : decode cX0_merge 4 = .ok (.invokevirtual 38, 3) := dk_182 0 38 (dk_at dksX0_merge_0 4 rfl rfl)
theorem dX0_merge_7 : decode cX0_merge 7 = .ok (.i2l, 1) := dk_133 (dk_at dksX0_merge_0 7 rfl rfl)
theorem dX0_merge_8 : decode cX0_merge 8 = .ok (.lastore, 1) := dk_80 (dk_at dksX0_merge_0 8 rfl rfl)
theorem dX0_merge_9 : decode cX0_merge 9 = .ok (.goto 9, 3) := dk_167 0 9 (dk_at dksX0_merge_0 9 rfl rfl)
theorem dX0_merge_12 : decode cX0_merge 12 = .ok (.astore_n 3, 1) := dk_78 (dk_at dksX0_merge_0 12 rfl rfl)
theorem dX0_merge_13 : decode cX0_merge 13 = .ok (.iconst 1, 1) := dk_4 (dk_at dksX0_merge_0 13 rfl rfl)
theorem dX0_merge_14 : decode cX0_merge 14 = .ok (.ireturn, 1) := dk_172 (dk_at dksX0_merge_0 14 rfl rfl)
theorem dX0_merge_15 : decode cX0_merge 15 = .ok (.astore_n 3, 1) := dk_78 (dk_at dksX0_merge_0 15 rfl rfl)
theorem dX0_merge_16 : decode cX0_merge 16 = .ok (.iconst 2, 1) := dk_5 (dk_at dksX0_merge_0 16 rfl rfl)
theorem dX0_merge_17 : decode cX0_merge 17 = .ok (.ireturn, 1) := dk_172 (dk_at dksX0_merge_0 17 rfl rfl)
theorem dX0_merge_18 : decode cX0_merge 18 = .ok (.iconst 0, 1) := dk_3 (dk_at dksX0_merge_0 18 rfl rfl)
theorem dX0_merge_19 : decode cX0_merge 19 = .ok (.ireturn, 1) := dk_172 (dk_at dksX0_merge_0 19 rfl rfl)
abbrev cX0_move : ByteArray := method_11_code
def yX0_move : MethodName := ⟨RX0, "move", "(LTwinphase;II[J)I"⟩
def dkwX0_move_0 : List UInt8 := [45, 3, 42, 27, 28, 182, 0, 41, 133, 80, 167, 0, 11, 58, 4, 4, 172, 58, 4, 5, 172, 3, 172]
abbrev dktX0_move_0 : List UInt8 := dkwX0_move_0 ++ []
theorem dksX0_move_0 : cX0_move.data.toList.drop 0 = dktX0_move_0 := by decide +kernel
theorem dX0_move_0 : decode cX0_move 0 = .ok (.aload_n 3, 1) := dk_45 (dk_at dksX0_move_0 0 rfl rfl)
theorem dX0_move_1 : decode cX0_move 1 = .ok (.iconst 0, 1) := dk_3 (dk_at dksX0_move_0 1 rfl rfl)
theorem dX0_move_2 : decode cX0_move 2 = .ok (.aload_n 0, 1) := dk_42 (dk_at dksX0_move_0 2 rfl rfl)
theorem dX0_move_3 : decode cX0_move 3 = .ok (.iload_n 1, 1) := dk_27 (dk_at dksX0_move_0 3 rfl rfl)
theorem dX0_move_4 : decode cX0_move 4 = .ok (.iload_n 2, 1) := dk_28 (dk_at dksX0_move_0 4 rfl rfl)
theorem dX0_move_5 : decode cX0_move 5 = .ok (.invokevirtual 41, 3) := dk_182 0 41 (dk_at dksX0_move_0 5 rfl rfl)
theorem dX0_move_8 : decode cX0_move 8 = .ok (.i2l, 1) := dk_133 (dk_at dksX0_move_0 8 rfl rfl)
theorem dX0_move_9 : decode cX0_move 9 = .ok (.lastore, 1) := dk_80 (dk_at dksX0_move_0 9 rfl rfl)
theorem dX0_move_10 : decode cX0_move 10 = .ok (.goto 11, 3) := dk_167 0 11 (dk_at dksX0_move_0 10 rfl rfl)
theorem dX0_move_13 : decode cX0_move 13 = .ok (.astore 4, 2) := dk_58 4 (dk_at dksX0_move_0 13 rfl rfl)
theorem dX0_move_15 : decode cX0_move 15 = .ok (.iconst 1, 1) := dk_4 (dk_at dksX0_move_0 15 rfl rfl)
theorem dX0_move_16 : decode cX0_move 16 = .ok (.ireturn, 1) := dk_172 (dk_at dksX0_move_0 16 rfl rfl)
theorem dX0_move_17 : decode cX0_move 17 = .ok (.astore 4, 2) := dk_58 4 (dk_at dksX0_move_0 17 rfl rfl)
theorem dX0_move_19 : decode cX0_move 19 = .ok (.iconst 2, 1) := dk_5 (dk_at dksX0_move_0 19 rfl rfl)
theorem dX0_move_20 : decode cX0_move 20 = .ok (.ireturn, 1) := dk_172 (dk_at dksX0_move_0 20 rfl rfl)
theorem dX0_move_21 : decode cX0_move 21 = .ok (.iconst 0, 1) := dk_3 (dk_at dksX0_move_0 21 rfl rfl)
theorem dX0_move_22 : decode cX0_move 22 = .ok (.ireturn, 1) := dk_172 (dk_at dksX0_move_0 22 rfl rfl)
abbrev cX0_begin : ByteArray := method_12_code
def yX0_begin : MethodName := ⟨RX0, "begin", "(LTwinphase;II[J)I"⟩
def dkwX0_begin_1 : List UInt8 := [172, 3, 172]
abbrev dktX0_begin_1 : List UInt8 := dkwX0_begin_1 ++ []
def dkwX0_begin_0 : List UInt8 := [45, 3, 42, 27, 28, 182, 0, 44, 133, 80, 167, 0, 15, 58, 4, 4, 172, 58, 4, 5, 172, 58, 4, 6]
abbrev dktX0_begin_0 : List UInt8 := dkwX0_begin_0 ++ dktX0_begin_1
theorem dksX0_begin_0 : cX0_begin.data.toList.drop 0 = dktX0_begin_0 := by decide +kernel
theorem dksX0_begin_1 : cX0_begin.data.toList.drop 24 = dktX0_begin_1 := dk_seg dksX0_begin_0 24 rfl rfl
theorem dX0_begin_0 : decode cX0_begin 0 = .ok (.aload_n 3, 1) := dk_45 (dk_at dksX0_begin_0 0 rfl rfl)
theorem dX0_begin_1 : decode cX0_begin 1 = .ok (.iconst 0, 1) := dk_3 (dk_at dksX0_begin_0 1 rfl rfl)
theorem dX0_begin_2 : decode cX0_begin 2 = .ok (.aload_n 0, 1) := dk_42 (dk_at dksX0_begin_0 2 rfl rfl)
theorem dX0_begin_3 : decode cX0_begin 3 = .ok (.iload_n 1, 1) := dk_27 (dk_at dksX0_begin_0 3 rfl rfl)
theorem dX0_begin_4 : decode cX0_begin 4 = .ok (.iload_n 2, 1) := dk_28 (dk_at dksX0_begin_0 4 rfl rfl)
theorem dX0_begin_5 : decode cX0_begin 5 = .ok (.invokevirtual 44, 3) := dk_182 0 44 (dk_at dksX0_begin_0 5 rfl rfl)
theorem dX0_begin_8 : decode cX0_begin 8 = .ok (.i2l, 1) := dk_133 (dk_at dksX0_begin_0 8 rfl rfl)
theorem dX0_begin_9 : decode cX0_begin 9 = .ok (.lastore, 1) := dk_80 (dk_at dksX0_begin_0 9 rfl rfl)
theorem dX0_begin_10 : decode cX0_begin 10 = .ok (.goto 15, 3) := dk_167 0 15 (dk_at dksX0_begin_0 10 rfl rfl)
theorem dX0_begin_13 : decode cX0_begin 13 = .ok (.astore 4, 2) := dk_58 4 (dk_at dksX0_begin_0 13 rfl rfl)
theorem dX0_begin_15 : decode cX0_begin 15 = .ok (.iconst 1, 1) := dk_4 (dk_at dksX0_begin_0 15 rfl rfl)
theorem dX0_begin_16 : decode cX0_begin 16 = .ok (.ireturn, 1) := dk_172 (dk_at dksX0_begin_0 16 rfl rfl)
theorem dX0_begin_17 : decode cX0_begin 17 = .ok (.astore 4, 2) := dk_58 4 (dk_at dksX0_begin_0 17 rfl rfl)
theorem dX0_begin_19 : decode cX0_begin 19 = .ok (.iconst 2, 1) := dk_5 (dk_at dksX0_begin_0 19 rfl rfl)
theorem dX0_begin_20 : decode cX0_begin 20 = .ok (.ireturn, 1) := dk_172 (dk_at dksX0_begin_0 20 rfl rfl)
theorem dX0_begin_21 : decode cX0_begin 21 = .ok (.astore 4, 2) := dk_58 4 (dk_at dksX0_begin_0 21 rfl rfl)
theorem dX0_begin_23 : decode cX0_begin 23 = .ok (.iconst 3, 1) := dk_6 (dk_at dksX0_begin_0 23 rfl rfl)
theorem dX0_begin_24 : decode cX0_begin 24 = .ok (.ireturn, 1) := dk_172 (dk_at dksX0_begin_1 0 rfl rfl)
theorem dX0_begin_25 : decode cX0_begin 25 = .ok (.iconst 0, 1) := dk_3 (dk_at dksX0_begin_1 1 rfl rfl)
theorem dX0_begin_26 : decode cX0_begin 26 = .ok (.ireturn, 1) := dk_172 (dk_at dksX0_begin_1 2 rfl rfl)
abbrev cX0_get : ByteArray := method_13_code
def yX0_get : MethodName := ⟨RX0, "get", "(LTwinphase;II[J)I"⟩
def dkwX0_get_0 : List UInt8 := [45, 3, 42, 27, 28, 182, 0, 47, 133, 80, 167, 0, 7, 58, 4, 4, 172, 3, 172]
abbrev dktX0_get_0 : List UInt8 := dkwX0_get_0 ++ []
theorem dksX0_get_0 : cX0_get.data.toList.drop 0 = dktX0_get_0 := by decide +kernel
theorem dX0_get_0 : decode cX0_get 0 = .ok (.aload_n 3, 1) := dk_45 (dk_at dksX0_get_0 0 rfl rfl)
theorem dX0_get_1 : decode cX0_get 1 = .ok (.iconst 0, 1) := dk_3 (dk_at dksX0_get_0 1 rfl rfl)
theorem dX0_get_2 : decode cX0_get 2 = .ok (.aload_n 0, 1) := dk_42 (dk_at dksX0_get_0 2 rfl rfl)
theorem dX0_get_3 : decode cX0_get 3 = .ok (.iload_n 1, 1) := dk_27 (dk_at dksX0_get_0 3 rfl rfl)
theorem dX0_get_4 : decode cX0_get 4 = .ok (.iload_n 2, 1) := dk_28 (dk_at dksX0_get_0 4 rfl rfl)
theorem dX0_get_5 : decode cX0_get 5 = .ok (.invokevirtual 47, 3) := dk_182 0 47 (dk_at dksX0_get_0 5 rfl rfl)
theorem dX0_get_8 : decode cX0_get 8 = .ok (.i2l, 1) := dk_133 (dk_at dksX0_get_0 8 rfl rfl)
theorem dX0_get_9 : decode cX0_get 9 = .ok (.lastore, 1) := dk_80 (dk_at dksX0_get_0 9 rfl rfl)
theorem dX0_get_10 : decode cX0_get 10 = .ok (.goto 7, 3) := dk_167 0 7 (dk_at dksX0_get_0 10 rfl rfl)
theorem dX0_get_13 : decode cX0_get 13 = .ok (.astore 4, 2) := dk_58 4 (dk_at dksX0_get_0 13 rfl rfl)
theorem dX0_get_15 : decode cX0_get 15 = .ok (.iconst 1, 1) := dk_4 (dk_at dksX0_get_0 15 rfl rfl)
theorem dX0_get_16 : decode cX0_get 16 = .ok (.ireturn, 1) := dk_172 (dk_at dksX0_get_0 16 rfl rfl)
theorem dX0_get_17 : decode cX0_get 17 = .ok (.iconst 0, 1) := dk_3 (dk_at dksX0_get_0 17 rfl rfl)
theorem dX0_get_18 : decode cX0_get 18 = .ok (.ireturn, 1) := dk_172 (dk_at dksX0_get_0 18 rfl rfl)
abbrev cX0_put : ByteArray := method_14_code
def yX0_put : MethodName := ⟨RX0, "put", "(LTwinphase;III[J)I"⟩
def dkwX0_put_1 : List UInt8 := [172]
abbrev dktX0_put_1 : List UInt8 := dkwX0_put_1 ++ []
def dkwX0_put_0 : List UInt8 := [25, 4, 3, 42, 27, 28, 29, 182, 0, 50, 133, 80, 167, 0, 11, 58, 5, 4, 172, 58, 5, 5, 172, 3]
abbrev dktX0_put_0 : List UInt8 := dkwX0_put_0 ++ dktX0_put_1
theorem dksX0_put_0 : cX0_put.data.toList.drop 0 = dktX0_put_0 := by decide +kernel
theorem dksX0_put_1 : cX0_put.data.toList.drop 24 = dktX0_put_1 := dk_seg dksX0_put_0 24 rfl rfl
theorem dX0_put_0 : decode cX0_put 0 = .ok (.aload 4, 2) := dk_25 4 (dk_at dksX0_put_0 0 rfl rfl)
theorem dX0_put_2 : decode cX0_put 2 = .ok (.iconst 0, 1) := dk_3 (dk_at dksX0_put_0 2 rfl rfl)
theorem dX0_put_3 : decode cX0_put 3 = .ok (.aload_n 0, 1) := dk_42 (dk_at dksX0_put_0 3 rfl rfl)
theorem dX0_put_4 : decode cX0_put 4 = .ok (.iload_n 1, 1) := dk_27 (dk_at dksX0_put_0 4 rfl rfl)
theorem dX0_put_5 : decode cX0_put 5 = .ok (.iload_n 2, 1) := dk_28 (dk_at dksX0_put_0 5 rfl rfl)
theorem dX0_put_6 : decode cX0_put 6 = .ok (.iload_n 3, 1) := dk_29 (dk_at dksX0_put_0 6 rfl rfl)
theorem dX0_put_7 : decode cX0_put 7 = .ok (.invokevirtual 50, 3) := dk_182 0 50 (dk_at dksX0_put_0 7 rfl rfl)
theorem dX0_put_10 : decode cX0_put 10 = .ok (.i2l, 1) := dk_133 (dk_at dksX0_put_0 10 rfl rfl)
theorem dX0_put_11 : decode cX0_put 11 = .ok (.lastore, 1) := dk_80 (dk_at dksX0_put_0 11 rfl rfl)
theorem dX0_put_12 : decode cX0_put 12 = .ok (.goto 11, 3) := dk_167 0 11 (dk_at dksX0_put_0 12 rfl rfl)
theorem dX0_put_15 : decode cX0_put 15 = .ok (.astore 5, 2) := dk_58 5 (dk_at dksX0_put_0 15 rfl rfl)
theorem dX0_put_17 : decode cX0_put 17 = .ok (.iconst 1, 1) := dk_4 (dk_at dksX0_put_0 17 rfl rfl)
theorem dX0_put_18 : decode cX0_put 18 = .ok (.ireturn, 1) := dk_172 (dk_at dksX0_put_0 18 rfl rfl)
theorem dX0_put_19 : decode cX0_put 19 = .ok (.astore 5, 2) := dk_58 5 (dk_at dksX0_put_0 19 rfl rfl)
theorem dX0_put_21 : decode cX0_put 21 = .ok (.iconst 2, 1) := dk_5 (dk_at dksX0_put_0 21 rfl rfl)
theorem dX0_put_22 : decode cX0_put 22 = .ok (.ireturn, 1) := dk_172 (dk_at dksX0_put_0 22 rfl rfl)
theorem dX0_put_23 : decode cX0_put 23 = .ok (.iconst 0, 1) := dk_3 (dk_at dksX0_put_0 23 rfl rfl)
theorem dX0_put_24 : decode cX0_put 24 = .ok (.ireturn, 1) := dk_172 (dk_at dksX0_put_1 0 rfl rfl)
abbrev cX0_commit : ByteArray := method_15_code
def yX0_commit : MethodName := ⟨RX0, "commit", "(LTwinphase;IZ[J)I"⟩
def dkwX0_commit_0 : List UInt8 := [45, 3, 42, 27, 28, 182, 0, 54, 133, 80, 167, 0, 7, 58, 4, 4, 172, 3, 172]
abbrev dktX0_commit_0 : List UInt8 := dkwX0_commit_0 ++ []
theorem dksX0_commit_0 : cX0_commit.data.toList.drop 0 = dktX0_commit_0 := by decide +kernel
theorem dX0_commit_0 : decode cX0_commit 0 = .ok (.aload_n 3, 1) := dk_45 (dk_at dksX0_commit_0 0 rfl rfl)
theorem dX0_commit_1 : decode cX0_commit 1 = .ok (.iconst 0, 1) := dk_3 (dk_at dksX0_commit_0 1 rfl rfl)
theorem dX0_commit_2 : decode cX0_commit 2 = .ok (.aload_n 0, 1) := dk_42 (dk_at dksX0_commit_0 2 rfl rfl)
theorem dX0_commit_3 : decode cX0_commit 3 = .ok (.iload_n 1, 1) := dk_27 (dk_at dksX0_commit_0 3 rfl rfl)
theorem dX0_commit_4 : decode cX0_commit 4 = .ok (.iload_n 2, 1) := dk_28 (dk_at dksX0_commit_0 4 rfl rfl)
theorem dX0_commit_5 : decode cX0_commit 5 = .ok (.invokevirtual 54, 3) := dk_182 0 54 (dk_at dksX0_commit_0 5 rfl rfl)
theorem dX0_commit_8 : decode cX0_commit 8 = .ok (.i2l, 1) := dk_133 (dk_at dksX0_commit_0 8 rfl rfl)
theorem dX0_commit_9 : decode cX0_commit 9 = .ok (.lastore, 1) := dk_80 (dk_at dksX0_commit_0 9 rfl rfl)
theorem dX0_commit_10 : decode cX0_commit 10 = .ok (.goto 7, 3) := dk_167 0 7 (dk_at dksX0_commit_0 10 rfl rfl)
theorem dX0_commit_13 : decode cX0_commit 13 = .ok (.astore 4, 2) := dk_58 4 (dk_at dksX0_commit_0 13 rfl rfl)
theorem dX0_commit_15 : decode cX0_commit 15 = .ok (.iconst 1, 1) := dk_4 (dk_at dksX0_commit_0 15 rfl rfl)
theorem dX0_commit_16 : decode cX0_commit 16 = .ok (.ireturn, 1) := dk_172 (dk_at dksX0_commit_0 16 rfl rfl)
theorem dX0_commit_17 : decode cX0_commit 17 = .ok (.iconst 0, 1) := dk_3 (dk_at dksX0_commit_0 17 rfl rfl)
theorem dX0_commit_18 : decode cX0_commit 18 = .ok (.ireturn, 1) := dk_172 (dk_at dksX0_commit_0 18 rfl rfl)
abbrev cX0_abort : ByteArray := method_16_code
def yX0_abort : MethodName := ⟨RX0, "abort", "(LTwinphase;I[J)I"⟩
def dkwX0_abort_0 : List UInt8 := [44, 3, 42, 27, 182, 0, 58, 133, 80, 167, 0, 6, 78, 4, 172, 3, 172]
abbrev dktX0_abort_0 : List UInt8 := dkwX0_abort_0 ++ []
theorem dksX0_abort_0 : cX0_abort.data.toList.drop 0 = dktX0_abort_0 := by decide +kernel
theorem dX0_abort_0 : decode cX0_abort 0 = .ok (.aload_n 2, 1) := dk_44 (dk_at dksX0_abort_0 0 rfl rfl)
theorem dX0_abort_1 : decode cX0_abort 1 = .ok (.iconst 0, 1) := dk_3 (dk_at dksX0_abort_0 1 rfl rfl)
theorem dX0_abort_2 : decode cX0_abort 2 = .ok (.aload_n 0, 1) := dk_42 (dk_at dksX0_abort_0 2 rfl rfl)
theorem dX0_abort_3 : decode cX0_abort 3 = .ok (.iload_n 1, 1) := dk_27 (dk_at dksX0_abort_0 3 rfl rfl)
theorem dX0_abort_4 : decode cX0_abort 4 = .ok (.invokevirtual 58, 3) := dk_182 0 58 (dk_at dksX0_abort_0 4 rfl rfl)
theorem dX0_abort_7 : decode cX0_abort 7 = .ok (.i2l, 1) := dk_133 (dk_at dksX0_abort_0 7 rfl rfl)
theorem dX0_abort_8 : decode cX0_abort 8 = .ok (.lastore, 1) := dk_80 (dk_at dksX0_abort_0 8 rfl rfl)
theorem dX0_abort_9 : decode cX0_abort 9 = .ok (.goto 6, 3) := dk_167 0 6 (dk_at dksX0_abort_0 9 rfl rfl)
theorem dX0_abort_12 : decode cX0_abort 12 = .ok (.astore_n 3, 1) := dk_78 (dk_at dksX0_abort_0 12 rfl rfl)
theorem dX0_abort_13 : decode cX0_abort 13 = .ok (.iconst 1, 1) := dk_4 (dk_at dksX0_abort_0 13 rfl rfl)
theorem dX0_abort_14 : decode cX0_abort 14 = .ok (.ireturn, 1) := dk_172 (dk_at dksX0_abort_0 14 rfl rfl)
theorem dX0_abort_15 : decode cX0_abort 15 = .ok (.iconst 0, 1) := dk_3 (dk_at dksX0_abort_0 15 rfl rfl)
theorem dX0_abort_16 : decode cX0_abort 16 = .ok (.ireturn, 1) := dk_172 (dk_at dksX0_abort_0 16 rfl rfl)
abbrev cX0_recover : ByteArray := method_17_code
def yX0_recover : MethodName := ⟨RX0, "recover", "(LTwinphase;I[J)I"⟩
def dkwX0_recover_0 : List UInt8 := [44, 3, 42, 27, 182, 0, 61, 133, 80, 167, 0, 6, 78, 4, 172, 3, 172]
abbrev dktX0_recover_0 : List UInt8 := dkwX0_recover_0 ++ []
theorem dksX0_recover_0 : cX0_recover.data.toList.drop 0 = dktX0_recover_0 := by decide +kernel
theorem dX0_recover_0 : decode cX0_recover 0 = .ok (.aload_n 2, 1) := dk_44 (dk_at dksX0_recover_0 0 rfl rfl)
theorem dX0_recover_1 : decode cX0_recover 1 = .ok (.iconst 0, 1) := dk_3 (dk_at dksX0_recover_0 1 rfl rfl)
theorem dX0_recover_2 : decode cX0_recover 2 = .ok (.aload_n 0, 1) := dk_42 (dk_at dksX0_recover_0 2 rfl rfl)
theorem dX0_recover_3 : decode cX0_recover 3 = .ok (.iload_n 1, 1) := dk_27 (dk_at dksX0_recover_0 3 rfl rfl)
theorem dX0_recover_4 : decode cX0_recover 4 = .ok (.invokevirtual 61, 3) := dk_182 0 61 (dk_at dksX0_recover_0 4 rfl rfl)
theorem dX0_recover_7 : decode cX0_recover 7 = .ok (.i2l, 1) := dk_133 (dk_at dksX0_recover_0 7 rfl rfl)
theorem dX0_recover_8 : decode cX0_recover 8 = .ok (.lastore, 1) := dk_80 (dk_at dksX0_recover_0 8 rfl rfl)
theorem dX0_recover_9 : decode cX0_recover 9 = .ok (.goto 6, 3) := dk_167 0 6 (dk_at dksX0_recover_0 9 rfl rfl)
theorem dX0_recover_12 : decode cX0_recover 12 = .ok (.astore_n 3, 1) := dk_78 (dk_at dksX0_recover_0 12 rfl rfl)
theorem dX0_recover_13 : decode cX0_recover 13 = .ok (.iconst 1, 1) := dk_4 (dk_at dksX0_recover_0 13 rfl rfl)
theorem dX0_recover_14 : decode cX0_recover 14 = .ok (.ireturn, 1) := dk_172 (dk_at dksX0_recover_0 14 rfl rfl)
theorem dX0_recover_15 : decode cX0_recover 15 = .ok (.iconst 0, 1) := dk_3 (dk_at dksX0_recover_0 15 rfl rfl)
theorem dX0_recover_16 : decode cX0_recover 16 = .ok (.ireturn, 1) := dk_172 (dk_at dksX0_recover_0 16 rfl rfl)
abbrev cX0_beat : ByteArray := method_18_code
def yX0_beat : MethodName := ⟨RX0, "beat", "(LTwinphase;I[J)I"⟩
def dkwX0_beat_0 : List UInt8 := [44, 3, 42, 27, 182, 0, 64, 133, 80, 167, 0, 6, 78, 4, 172, 3, 172]
abbrev dktX0_beat_0 : List UInt8 := dkwX0_beat_0 ++ []
theorem dksX0_beat_0 : cX0_beat.data.toList.drop 0 = dktX0_beat_0 := by decide +kernel
theorem dX0_beat_0 : decode cX0_beat 0 = .ok (.aload_n 2, 1) := dk_44 (dk_at dksX0_beat_0 0 rfl rfl)
theorem dX0_beat_1 : decode cX0_beat 1 = .ok (.iconst 0, 1) := dk_3 (dk_at dksX0_beat_0 1 rfl rfl)
theorem dX0_beat_2 : decode cX0_beat 2 = .ok (.aload_n 0, 1) := dk_42 (dk_at dksX0_beat_0 2 rfl rfl)
theorem dX0_beat_3 : decode cX0_beat 3 = .ok (.iload_n 1, 1) := dk_27 (dk_at dksX0_beat_0 3 rfl rfl)
theorem dX0_beat_4 : decode cX0_beat 4 = .ok (.invokevirtual 64, 3) := dk_182 0 64 (dk_at dksX0_beat_0 4 rfl rfl)
theorem dX0_beat_7 : decode cX0_beat 7 = .ok (.i2l, 1) := dk_133 (dk_at dksX0_beat_0 7 rfl rfl)
theorem dX0_beat_8 : decode cX0_beat 8 = .ok (.lastore, 1) := dk_80 (dk_at dksX0_beat_0 8 rfl rfl)
theorem dX0_beat_9 : decode cX0_beat 9 = .ok (.goto 6, 3) := dk_167 0 6 (dk_at dksX0_beat_0 9 rfl rfl)
theorem dX0_beat_12 : decode cX0_beat 12 = .ok (.astore_n 3, 1) := dk_78 (dk_at dksX0_beat_0 12 rfl rfl)
theorem dX0_beat_13 : decode cX0_beat 13 = .ok (.iconst 1, 1) := dk_4 (dk_at dksX0_beat_0 13 rfl rfl)
theorem dX0_beat_14 : decode cX0_beat 14 = .ok (.ireturn, 1) := dk_172 (dk_at dksX0_beat_0 14 rfl rfl)
theorem dX0_beat_15 : decode cX0_beat 15 = .ok (.iconst 0, 1) := dk_3 (dk_at dksX0_beat_0 15 rfl rfl)
theorem dX0_beat_16 : decode cX0_beat 16 = .ok (.ireturn, 1) := dk_172 (dk_at dksX0_beat_0 16 rfl rfl)
abbrev cX0_told : ByteArray := method_19_code
def yX0_told : MethodName := ⟨RX0, "told", "(LTwinphase;II[J)I"⟩
def dkwX0_told_0 : List UInt8 := [45, 3, 42, 27, 28, 182, 0, 67, 133, 80, 167, 0, 11, 58, 4, 4, 172, 58, 4, 5, 172, 3, 172]
abbrev dktX0_told_0 : List UInt8 := dkwX0_told_0 ++ []
theorem dksX0_told_0 : cX0_told.data.toList.drop 0 = dktX0_told_0 := by decide +kernel
theorem dX0_told_0 : decode cX0_told 0 = .ok (.aload_n 3, 1) := dk_45 (dk_at dksX0_told_0 0 rfl rfl)
theorem dX0_told_1 : decode cX0_told 1 = .ok (.iconst 0, 1) := dk_3 (dk_at dksX0_told_0 1 rfl rfl)
theorem dX0_told_2 : decode cX0_told 2 = .ok (.aload_n 0, 1) := dk_42 (dk_at dksX0_told_0 2 rfl rfl)
theorem dX0_told_3 : decode cX0_told 3 = .ok (.iload_n 1, 1) := dk_27 (dk_at dksX0_told_0 3 rfl rfl)
theorem dX0_told_4 : decode cX0_told 4 = .ok (.iload_n 2, 1) := dk_28 (dk_at dksX0_told_0 4 rfl rfl)
theorem dX0_told_5 : decode cX0_told 5 = .ok (.invokevirtual 67, 3) := dk_182 0 67 (dk_at dksX0_told_0 5 rfl rfl)
theorem dX0_told_8 : decode cX0_told 8 = .ok (.i2l, 1) := dk_133 (dk_at dksX0_told_0 8 rfl rfl)
theorem dX0_told_9 : decode cX0_told 9 = .ok (.lastore, 1) := dk_80 (dk_at dksX0_told_0 9 rfl rfl)
theorem dX0_told_10 : decode cX0_told 10 = .ok (.goto 11, 3) := dk_167 0 11 (dk_at dksX0_told_0 10 rfl rfl)
theorem dX0_told_13 : decode cX0_told 13 = .ok (.astore 4, 2) := dk_58 4 (dk_at dksX0_told_0 13 rfl rfl)
theorem dX0_told_15 : decode cX0_told 15 = .ok (.iconst 1, 1) := dk_4 (dk_at dksX0_told_0 15 rfl rfl)
theorem dX0_told_16 : decode cX0_told 16 = .ok (.ireturn, 1) := dk_172 (dk_at dksX0_told_0 16 rfl rfl)
theorem dX0_told_17 : decode cX0_told 17 = .ok (.astore 4, 2) := dk_58 4 (dk_at dksX0_told_0 17 rfl rfl)
theorem dX0_told_19 : decode cX0_told 19 = .ok (.iconst 2, 1) := dk_5 (dk_at dksX0_told_0 19 rfl rfl)
theorem dX0_told_20 : decode cX0_told 20 = .ok (.ireturn, 1) := dk_172 (dk_at dksX0_told_0 20 rfl rfl)
theorem dX0_told_21 : decode cX0_told 21 = .ok (.iconst 0, 1) := dk_3 (dk_at dksX0_told_0 21 rfl rfl)
theorem dX0_told_22 : decode cX0_told 22 = .ok (.ireturn, 1) := dk_172 (dk_at dksX0_told_0 22 rfl rfl)
abbrev cX0_key : ByteArray := method_20_code
def yX0_key : MethodName := ⟨RX0, "key", "(LTwinphase;II[J)I"⟩
def dkwX0_key_0 : List UInt8 := [45, 3, 42, 27, 28, 182, 0, 70, 133, 80, 167, 0, 11, 58, 4, 4, 172, 58, 4, 5, 172, 3, 172]
abbrev dktX0_key_0 : List UInt8 := dkwX0_key_0 ++ []
theorem dksX0_key_0 : cX0_key.data.toList.drop 0 = dktX0_key_0 := by decide +kernel
theorem dX0_key_0 : decode cX0_key 0 = .ok (.aload_n 3, 1) := dk_45 (dk_at dksX0_key_0 0 rfl rfl)
theorem dX0_key_1 : decode cX0_key 1 = .ok (.iconst 0, 1) := dk_3 (dk_at dksX0_key_0 1 rfl rfl)
theorem dX0_key_2 : decode cX0_key 2 = .ok (.aload_n 0, 1) := dk_42 (dk_at dksX0_key_0 2 rfl rfl)
theorem dX0_key_3 : decode cX0_key 3 = .ok (.iload_n 1, 1) := dk_27 (dk_at dksX0_key_0 3 rfl rfl)
theorem dX0_key_4 : decode cX0_key 4 = .ok (.iload_n 2, 1) := dk_28 (dk_at dksX0_key_0 4 rfl rfl)
theorem dX0_key_5 : decode cX0_key 5 = .ok (.invokevirtual 70, 3) := dk_182 0 70 (dk_at dksX0_key_0 5 rfl rfl)
theorem dX0_key_8 : decode cX0_key 8 = .ok (.i2l, 1) := dk_133 (dk_at dksX0_key_0 8 rfl rfl)
theorem dX0_key_9 : decode cX0_key 9 = .ok (.lastore, 1) := dk_80 (dk_at dksX0_key_0 9 rfl rfl)
theorem dX0_key_10 : decode cX0_key 10 = .ok (.goto 11, 3) := dk_167 0 11 (dk_at dksX0_key_0 10 rfl rfl)
theorem dX0_key_13 : decode cX0_key 13 = .ok (.astore 4, 2) := dk_58 4 (dk_at dksX0_key_0 13 rfl rfl)
theorem dX0_key_15 : decode cX0_key 15 = .ok (.iconst 1, 1) := dk_4 (dk_at dksX0_key_0 15 rfl rfl)
theorem dX0_key_16 : decode cX0_key 16 = .ok (.ireturn, 1) := dk_172 (dk_at dksX0_key_0 16 rfl rfl)
theorem dX0_key_17 : decode cX0_key 17 = .ok (.astore 4, 2) := dk_58 4 (dk_at dksX0_key_0 17 rfl rfl)
theorem dX0_key_19 : decode cX0_key 19 = .ok (.iconst 2, 1) := dk_5 (dk_at dksX0_key_0 19 rfl rfl)
theorem dX0_key_20 : decode cX0_key 20 = .ok (.ireturn, 1) := dk_172 (dk_at dksX0_key_0 20 rfl rfl)
theorem dX0_key_21 : decode cX0_key 21 = .ok (.iconst 0, 1) := dk_3 (dk_at dksX0_key_0 21 rfl rfl)
theorem dX0_key_22 : decode cX0_key 22 = .ok (.ireturn, 1) := dk_172 (dk_at dksX0_key_0 22 rfl rfl)
abbrev cX0_asOf : ByteArray := method_21_code
def yX0_asOf : MethodName := ⟨RX0, "asOf", "(LTwinphase;II[J)I"⟩
def dkwX0_asOf_0 : List UInt8 := [45, 3, 42, 27, 28, 182, 0, 73, 133, 80, 167, 0, 11, 58, 4, 4, 172, 58, 4, 5, 172, 3, 172]
abbrev dktX0_asOf_0 : List UInt8 := dkwX0_asOf_0 ++ []
theorem dksX0_asOf_0 : cX0_asOf.data.toList.drop 0 = dktX0_asOf_0 := by decide +kernel
theorem dX0_asOf_0 : decode cX0_asOf 0 = .ok (.aload_n 3, 1) := dk_45 (dk_at dksX0_asOf_0 0 rfl rfl)
theorem dX0_asOf_1 : decode cX0_asOf 1 = .ok (.iconst 0, 1) := dk_3 (dk_at dksX0_asOf_0 1 rfl rfl)
theorem dX0_asOf_2 : decode cX0_asOf 2 = .ok (.aload_n 0, 1) := dk_42 (dk_at dksX0_asOf_0 2 rfl rfl)
theorem dX0_asOf_3 : decode cX0_asOf 3 = .ok (.iload_n 1, 1) := dk_27 (dk_at dksX0_asOf_0 3 rfl rfl)
theorem dX0_asOf_4 : decode cX0_asOf 4 = .ok (.iload_n 2, 1) := dk_28 (dk_at dksX0_asOf_0 4 rfl rfl)
theorem dX0_asOf_5 : decode cX0_asOf 5 = .ok (.invokevirtual 73, 3) := dk_182 0 73 (dk_at dksX0_asOf_0 5 rfl rfl)
theorem dX0_asOf_8 : decode cX0_asOf 8 = .ok (.i2l, 1) := dk_133 (dk_at dksX0_asOf_0 8 rfl rfl)
theorem dX0_asOf_9 : decode cX0_asOf 9 = .ok (.lastore, 1) := dk_80 (dk_at dksX0_asOf_0 9 rfl rfl)
theorem dX0_asOf_10 : decode cX0_asOf 10 = .ok (.goto 11, 3) := dk_167 0 11 (dk_at dksX0_asOf_0 10 rfl rfl)
theorem dX0_asOf_13 : decode cX0_asOf 13 = .ok (.astore 4, 2) := dk_58 4 (dk_at dksX0_asOf_0 13 rfl rfl)
theorem dX0_asOf_15 : decode cX0_asOf 15 = .ok (.iconst 1, 1) := dk_4 (dk_at dksX0_asOf_0 15 rfl rfl)
theorem dX0_asOf_16 : decode cX0_asOf 16 = .ok (.ireturn, 1) := dk_172 (dk_at dksX0_asOf_0 16 rfl rfl)
theorem dX0_asOf_17 : decode cX0_asOf 17 = .ok (.astore 4, 2) := dk_58 4 (dk_at dksX0_asOf_0 17 rfl rfl)
theorem dX0_asOf_19 : decode cX0_asOf 19 = .ok (.iconst 2, 1) := dk_5 (dk_at dksX0_asOf_0 19 rfl rfl)
theorem dX0_asOf_20 : decode cX0_asOf 20 = .ok (.ireturn, 1) := dk_172 (dk_at dksX0_asOf_0 20 rfl rfl)
theorem dX0_asOf_21 : decode cX0_asOf 21 = .ok (.iconst 0, 1) := dk_3 (dk_at dksX0_asOf_0 21 rfl rfl)
theorem dX0_asOf_22 : decode cX0_asOf 22 = .ok (.ireturn, 1) := dk_172 (dk_at dksX0_asOf_0 22 rfl rfl)
abbrev cX0_feed : ByteArray := method_22_code
def yX0_feed : MethodName := ⟨RX0, "feed", "(LTwinphase;I[J)I"⟩
def dkwX0_feed_0 : List UInt8 := [44, 3, 42, 27, 182, 0, 76, 133, 80, 167, 0, 6, 78, 4, 172, 3, 172]
abbrev dktX0_feed_0 : List UInt8 := dkwX0_feed_0 ++ []
theorem dksX0_feed_0 : cX0_feed.data.toList.drop 0 = dktX0_feed_0 := by decide +kernel
theorem dX0_feed_0 : decode cX0_feed 0 = .ok (.aload_n 2, 1) := dk_44 (dk_at dksX0_feed_0 0 rfl rfl)
theorem dX0_feed_1 : decode cX0_feed 1 = .ok (.iconst 0, 1) := dk_3 (dk_at dksX0_feed_0 1 rfl rfl)
theorem dX0_feed_2 : decode cX0_feed 2 = .ok (.aload_n 0, 1) := dk_42 (dk_at dksX0_feed_0 2 rfl rfl)
theorem dX0_feed_3 : decode cX0_feed 3 = .ok (.iload_n 1, 1) := dk_27 (dk_at dksX0_feed_0 3 rfl rfl)
theorem dX0_feed_4 : decode cX0_feed 4 = .ok (.invokevirtual 76, 3) := dk_182 0 76 (dk_at dksX0_feed_0 4 rfl rfl)
theorem dX0_feed_7 : decode cX0_feed 7 = .ok (.i2l, 1) := dk_133 (dk_at dksX0_feed_0 7 rfl rfl)
theorem dX0_feed_8 : decode cX0_feed 8 = .ok (.lastore, 1) := dk_80 (dk_at dksX0_feed_0 8 rfl rfl)
theorem dX0_feed_9 : decode cX0_feed 9 = .ok (.goto 6, 3) := dk_167 0 6 (dk_at dksX0_feed_0 9 rfl rfl)
theorem dX0_feed_12 : decode cX0_feed 12 = .ok (.astore_n 3, 1) := dk_78 (dk_at dksX0_feed_0 12 rfl rfl)
theorem dX0_feed_13 : decode cX0_feed 13 = .ok (.iconst 1, 1) := dk_4 (dk_at dksX0_feed_0 13 rfl rfl)
theorem dX0_feed_14 : decode cX0_feed 14 = .ok (.ireturn, 1) := dk_172 (dk_at dksX0_feed_0 14 rfl rfl)
theorem dX0_feed_15 : decode cX0_feed 15 = .ok (.iconst 0, 1) := dk_3 (dk_at dksX0_feed_0 15 rfl rfl)
theorem dX0_feed_16 : decode cX0_feed 16 = .ok (.ireturn, 1) := dk_172 (dk_at dksX0_feed_0 16 rfl rfl)
abbrev cX0_order : ByteArray := method_23_code
def yX0_order : MethodName := ⟨RX0, "order", "(LTwinphase;I[J)I"⟩
def dkwX0_order_0 : List UInt8 := [44, 3, 42, 27, 182, 0, 79, 133, 80, 167, 0, 6, 78, 4, 172, 3, 172]
abbrev dktX0_order_0 : List UInt8 := dkwX0_order_0 ++ []
theorem dksX0_order_0 : cX0_order.data.toList.drop 0 = dktX0_order_0 := by decide +kernel
theorem dX0_order_0 : decode cX0_order 0 = .ok (.aload_n 2, 1) := dk_44 (dk_at dksX0_order_0 0 rfl rfl)
theorem dX0_order_1 : decode cX0_order 1 = .ok (.iconst 0, 1) := dk_3 (dk_at dksX0_order_0 1 rfl rfl)
theorem dX0_order_2 : decode cX0_order 2 = .ok (.aload_n 0, 1) := dk_42 (dk_at dksX0_order_0 2 rfl rfl)
theorem dX0_order_3 : decode cX0_order 3 = .ok (.iload_n 1, 1) := dk_27 (dk_at dksX0_order_0 3 rfl rfl)
theorem dX0_order_4 : decode cX0_order 4 = .ok (.invokevirtual 79, 3) := dk_182 0 79 (dk_at dksX0_order_0 4 rfl rfl)
theorem dX0_order_7 : decode cX0_order 7 = .ok (.i2l, 1) := dk_133 (dk_at dksX0_order_0 7 rfl rfl)
theorem dX0_order_8 : decode cX0_order 8 = .ok (.lastore, 1) := dk_80 (dk_at dksX0_order_0 8 rfl rfl)
theorem dX0_order_9 : decode cX0_order 9 = .ok (.goto 6, 3) := dk_167 0 6 (dk_at dksX0_order_0 9 rfl rfl)
theorem dX0_order_12 : decode cX0_order 12 = .ok (.astore_n 3, 1) := dk_78 (dk_at dksX0_order_0 12 rfl rfl)
theorem dX0_order_13 : decode cX0_order 13 = .ok (.iconst 1, 1) := dk_4 (dk_at dksX0_order_0 13 rfl rfl)
theorem dX0_order_14 : decode cX0_order 14 = .ok (.ireturn, 1) := dk_172 (dk_at dksX0_order_0 14 rfl rfl)
theorem dX0_order_15 : decode cX0_order 15 = .ok (.iconst 0, 1) := dk_3 (dk_at dksX0_order_0 15 rfl rfl)
theorem dX0_order_16 : decode cX0_order 16 = .ok (.ireturn, 1) := dk_172 (dk_at dksX0_order_0 16 rfl rfl)
theorem q47 : (Jvm.Cond.initialized "TwinphaseLaw") ∈ lw_all := lw_g (lw_at lw_m1 0 rfl) rfl
theorem q98 : (Jvm.Cond.classLink "TwinphaseLaw" (8 : Nat) "Twinphase") ∈ lw_all := lw_g (lw_at lw_m1 51 rfl) rfl
theorem q100 : (Jvm.Cond.methodLink "TwinphaseLaw" (82 : Nat) ({ cls := "Twinphase", name := "<init>", desc := "()V" } : Jvm.MethodName)) ∈ lw_all := lw_g (lw_at lw_m1 53 rfl) rfl
theorem q612 : (Jvm.Cond.methodLink "TwinphaseLaw" (103 : Nat) ({ cls := "Twinphase", name := "closed", desc := "()I" } : Jvm.MethodName)) ∈ lw_all := lw_g (lw_at lw_m3 85 rfl) rfl
theorem q621 : (Jvm.Cond.methodLink "TwinphaseLaw" (157 : Nat) ({ cls := "Twinphase", name := "resolved", desc := "()I" } : Jvm.MethodName)) ∈ lw_all := lw_g (lw_at lw_m3 94 rfl) rfl
theorem q714 : (Jvm.Cond.methodLink "TwinphaseLaw" (167 : Nat) ({ cls := "Twinphase", name := "judged", desc := "()I" } : Jvm.MethodName)) ∈ lw_all := lw_g (lw_at lw_m3 187 rfl) rfl
theorem q1492 : (Jvm.Cond.methodLink "TwinphaseLaw" (86 : Nat) ({ cls := "TwinphaseLaw", name := "pass", desc := "(LTwinphase;I[J)I" } : Jvm.MethodName)) ∈ lw_all := lw_g (lw_at lw_m7 5 rfl) rfl
theorem q1493 : (Jvm.Cond.static ({ cls := "TwinphaseLaw", name := "pass", desc := "(LTwinphase;I[J)I" } : Jvm.MethodName)) ∈ lw_all := lw_g (lw_at lw_m7 6 rfl) rfl
theorem q1494 : (Jvm.Cond.codeWith ({ cls := "TwinphaseLaw", name := "pass", desc := "(LTwinphase;I[J)I" } : Jvm.MethodName) method_3_code (4 : Nat) (Option.some Jvm.ClassFile.FieldType.int) [((0 : Nat), (9 : Nat), (12 : Nat), (13 : Nat)), ((0 : Nat), (9 : Nat), (15 : Nat), (15 : Nat))]) ∈ lw_all := lw_g (lw_at lw_m7 7 rfl) rfl
theorem q1495 : (Jvm.Cond.classLink "TwinphaseLaw" (13 : Nat) "java/lang/IllegalArgumentException") ∈ lw_all := lw_g (lw_at lw_m7 8 rfl) rfl
theorem q1496 : (Jvm.Cond.classLink "TwinphaseLaw" (15 : Nat) "java/lang/IllegalStateException") ∈ lw_all := lw_g (lw_at lw_m7 9 rfl) rfl
theorem q1497 : (Jvm.Cond.methodLink "TwinphaseLaw" (7 : Nat) ({ cls := "Twinphase", name := "pass", desc := "(I)I" } : Jvm.MethodName)) ∈ lw_all := lw_g (lw_at lw_m7 10 rfl) rfl
theorem q1533 : (Jvm.Cond.methodLink "TwinphaseLaw" (96 : Nat) ({ cls := "TwinphaseLaw", name := "skew", desc := "(LTwinphase;II[J)I" } : Jvm.MethodName)) ∈ lw_all := lw_g (lw_at lw_m7 46 rfl) rfl
theorem q1534 : (Jvm.Cond.static ({ cls := "TwinphaseLaw", name := "skew", desc := "(LTwinphase;II[J)I" } : Jvm.MethodName)) ∈ lw_all := lw_g (lw_at lw_m7 47 rfl) rfl
theorem q1535 : (Jvm.Cond.codeWith ({ cls := "TwinphaseLaw", name := "skew", desc := "(LTwinphase;II[J)I" } : Jvm.MethodName) method_4_code (5 : Nat) (Option.some Jvm.ClassFile.FieldType.int) [((0 : Nat), (10 : Nat), (13 : Nat), (21 : Nat)), ((0 : Nat), (10 : Nat), (17 : Nat), (13 : Nat))]) ∈ lw_all := lw_g (lw_at lw_m7 48 rfl) rfl
theorem q1536 : (Jvm.Cond.classLink "TwinphaseLaw" (21 : Nat) "java/lang/IndexOutOfBoundsException") ∈ lw_all := lw_g (lw_at lw_m7 49 rfl) rfl
theorem q1552 : (Jvm.Cond.methodLink "TwinphaseLaw" (17 : Nat) ({ cls := "Twinphase", name := "skew", desc := "(II)I" } : Jvm.MethodName)) ∈ lw_all := lw_g (lw_at lw_m7 65 rfl) rfl
theorem q1568 : (Jvm.Cond.methodLink "TwinphaseLaw" (100 : Nat) ({ cls := "TwinphaseLaw", name := "clock", desc := "(LTwinphase;I[J)I" } : Jvm.MethodName)) ∈ lw_all := lw_g (lw_at lw_m7 81 rfl) rfl
theorem q1569 : (Jvm.Cond.static ({ cls := "TwinphaseLaw", name := "clock", desc := "(LTwinphase;I[J)I" } : Jvm.MethodName)) ∈ lw_all := lw_g (lw_at lw_m7 82 rfl) rfl
theorem q1570 : (Jvm.Cond.codeWith ({ cls := "TwinphaseLaw", name := "clock", desc := "(LTwinphase;I[J)I" } : Jvm.MethodName) method_5_code (4 : Nat) (Option.some Jvm.ClassFile.FieldType.int) [((0 : Nat), (9 : Nat), (12 : Nat), (21 : Nat)), ((0 : Nat), (9 : Nat), (15 : Nat), (15 : Nat))]) ∈ lw_all := lw_g (lw_at lw_m7 83 rfl) rfl
theorem q1571 : (Jvm.Cond.methodLink "TwinphaseLaw" (23 : Nat) ({ cls := "Twinphase", name := "clock", desc := "(I)I" } : Jvm.MethodName)) ∈ lw_all := lw_g (lw_at lw_m7 84 rfl) rfl
theorem q1580 : (Jvm.Cond.methodLink "TwinphaseLaw" (107 : Nat) ({ cls := "TwinphaseLaw", name := "down", desc := "(LTwinphase;I[J)I" } : Jvm.MethodName)) ∈ lw_all := lw_g (lw_at lw_m7 93 rfl) rfl
theorem q1581 : (Jvm.Cond.static ({ cls := "TwinphaseLaw", name := "down", desc := "(LTwinphase;I[J)I" } : Jvm.MethodName)) ∈ lw_all := lw_g (lw_at lw_m7 94 rfl) rfl
theorem q1582 : (Jvm.Cond.codeWith ({ cls := "TwinphaseLaw", name := "down", desc := "(LTwinphase;I[J)I" } : Jvm.MethodName) method_6_code (4 : Nat) (Option.some Jvm.ClassFile.FieldType.int) [((0 : Nat), (9 : Nat), (12 : Nat), (21 : Nat)), ((0 : Nat), (9 : Nat), (15 : Nat), (15 : Nat))]) ∈ lw_all := lw_g (lw_at lw_m7 95 rfl) rfl
theorem q1583 : (Jvm.Cond.methodLink "TwinphaseLaw" (26 : Nat) ({ cls := "Twinphase", name := "down", desc := "(I)I" } : Jvm.MethodName)) ∈ lw_all := lw_g (lw_at lw_m7 96 rfl) rfl
theorem q1595 : (Jvm.Cond.methodLink "TwinphaseLaw" (110 : Nat) ({ cls := "TwinphaseLaw", name := "up", desc := "(LTwinphase;I[J)I" } : Jvm.MethodName)) ∈ lw_all := lw_g (lw_at lw_m7 108 rfl) rfl
theorem q1596 : (Jvm.Cond.static ({ cls := "TwinphaseLaw", name := "up", desc := "(LTwinphase;I[J)I" } : Jvm.MethodName)) ∈ lw_all := lw_g (lw_at lw_m7 109 rfl) rfl
theorem q1597 : (Jvm.Cond.codeWith ({ cls := "TwinphaseLaw", name := "up", desc := "(LTwinphase;I[J)I" } : Jvm.MethodName) method_7_code (4 : Nat) (Option.some Jvm.ClassFile.FieldType.int) [((0 : Nat), (9 : Nat), (12 : Nat), (21 : Nat)), ((0 : Nat), (9 : Nat), (15 : Nat), (15 : Nat))]) ∈ lw_all := lw_g (lw_at lw_m7 110 rfl) rfl
theorem q1598 : (Jvm.Cond.methodLink "TwinphaseLaw" (29 : Nat) ({ cls := "Twinphase", name := "up", desc := "(I)I" } : Jvm.MethodName)) ∈ lw_all := lw_g (lw_at lw_m7 111 rfl) rfl
theorem q1610 : (Jvm.Cond.methodLink "TwinphaseLaw" (113 : Nat) ({ cls := "TwinphaseLaw", name := "sync", desc := "(LTwinphase;I[J)I" } : Jvm.MethodName)) ∈ lw_all := lw_g (lw_at lw_m7 123 rfl) rfl
theorem q1611 : (Jvm.Cond.static ({ cls := "TwinphaseLaw", name := "sync", desc := "(LTwinphase;I[J)I" } : Jvm.MethodName)) ∈ lw_all := lw_g (lw_at lw_m7 124 rfl) rfl
theorem q1612 : (Jvm.Cond.codeWith ({ cls := "TwinphaseLaw", name := "sync", desc := "(LTwinphase;I[J)I" } : Jvm.MethodName) method_8_code (4 : Nat) (Option.some Jvm.ClassFile.FieldType.int) [((0 : Nat), (9 : Nat), (12 : Nat), (21 : Nat)), ((0 : Nat), (9 : Nat), (15 : Nat), (15 : Nat))]) ∈ lw_all := lw_g (lw_at lw_m7 125 rfl) rfl
theorem q1613 : (Jvm.Cond.methodLink "TwinphaseLaw" (32 : Nat) ({ cls := "Twinphase", name := "sync", desc := "(I)I" } : Jvm.MethodName)) ∈ lw_all := lw_g (lw_at lw_m7 126 rfl) rfl
theorem q1617 : (Jvm.Cond.methodLink "TwinphaseLaw" (116 : Nat) ({ cls := "TwinphaseLaw", name := "split", desc := "(LTwinphase;I[J)I" } : Jvm.MethodName)) ∈ lw_all := lw_g (lw_at lw_m7 130 rfl) rfl
theorem q1618 : (Jvm.Cond.static ({ cls := "TwinphaseLaw", name := "split", desc := "(LTwinphase;I[J)I" } : Jvm.MethodName)) ∈ lw_all := lw_g (lw_at lw_m7 131 rfl) rfl
theorem q1619 : (Jvm.Cond.codeWith ({ cls := "TwinphaseLaw", name := "split", desc := "(LTwinphase;I[J)I" } : Jvm.MethodName) method_9_code (4 : Nat) (Option.some Jvm.ClassFile.FieldType.int) [((0 : Nat), (9 : Nat), (12 : Nat), (21 : Nat)), ((0 : Nat), (9 : Nat), (15 : Nat), (15 : Nat))]) ∈ lw_all := lw_g (lw_at lw_m7 132 rfl) rfl
theorem q1620 : (Jvm.Cond.methodLink "TwinphaseLaw" (35 : Nat) ({ cls := "Twinphase", name := "split", desc := "(I)I" } : Jvm.MethodName)) ∈ lw_all := lw_g (lw_at lw_m7 133 rfl) rfl
theorem q1624 : (Jvm.Cond.methodLink "TwinphaseLaw" (119 : Nat) ({ cls := "TwinphaseLaw", name := "merge", desc := "(LTwinphase;I[J)I" } : Jvm.MethodName)) ∈ lw_all := lw_g (lw_at lw_m7 137 rfl) rfl
theorem q1625 : (Jvm.Cond.static ({ cls := "TwinphaseLaw", name := "merge", desc := "(LTwinphase;I[J)I" } : Jvm.MethodName)) ∈ lw_all := lw_g (lw_at lw_m7 138 rfl) rfl
theorem q1626 : (Jvm.Cond.codeWith ({ cls := "TwinphaseLaw", name := "merge", desc := "(LTwinphase;I[J)I" } : Jvm.MethodName) method_10_code (4 : Nat) (Option.some Jvm.ClassFile.FieldType.int) [((0 : Nat), (9 : Nat), (12 : Nat), (21 : Nat)), ((0 : Nat), (9 : Nat), (15 : Nat), (15 : Nat))]) ∈ lw_all := lw_g (lw_at lw_m7 139 rfl) rfl
theorem q1627 : (Jvm.Cond.methodLink "TwinphaseLaw" (38 : Nat) ({ cls := "Twinphase", name := "merge", desc := "(I)I" } : Jvm.MethodName)) ∈ lw_all := lw_g (lw_at lw_m7 140 rfl) rfl
theorem q1644 : (Jvm.Cond.methodLink "TwinphaseLaw" (122 : Nat) ({ cls := "TwinphaseLaw", name := "move", desc := "(LTwinphase;II[J)I" } : Jvm.MethodName)) ∈ lw_all := lw_g (lw_at lw_m7 157 rfl) rfl
theorem q1645 : (Jvm.Cond.static ({ cls := "TwinphaseLaw", name := "move", desc := "(LTwinphase;II[J)I" } : Jvm.MethodName)) ∈ lw_all := lw_g (lw_at lw_m7 158 rfl) rfl
theorem q1646 : (Jvm.Cond.codeWith ({ cls := "TwinphaseLaw", name := "move", desc := "(LTwinphase;II[J)I" } : Jvm.MethodName) method_11_code (5 : Nat) (Option.some Jvm.ClassFile.FieldType.int) [((0 : Nat), (10 : Nat), (13 : Nat), (21 : Nat)), ((0 : Nat), (10 : Nat), (17 : Nat), (15 : Nat))]) ∈ lw_all := lw_g (lw_at lw_m7 159 rfl) rfl
theorem q1647 : (Jvm.Cond.methodLink "TwinphaseLaw" (41 : Nat) ({ cls := "Twinphase", name := "move", desc := "(II)I" } : Jvm.MethodName)) ∈ lw_all := lw_g (lw_at lw_m7 160 rfl) rfl
theorem q1655 : (Jvm.Cond.methodLink "TwinphaseLaw" (125 : Nat) ({ cls := "TwinphaseLaw", name := "begin", desc := "(LTwinphase;II[J)I" } : Jvm.MethodName)) ∈ lw_all := lw_g (lw_at lw_m7 168 rfl) rfl
theorem q1656 : (Jvm.Cond.static ({ cls := "TwinphaseLaw", name := "begin", desc := "(LTwinphase;II[J)I" } : Jvm.MethodName)) ∈ lw_all := lw_g (lw_at lw_m7 169 rfl) rfl
theorem q1657 : (Jvm.Cond.codeWith ({ cls := "TwinphaseLaw", name := "begin", desc := "(LTwinphase;II[J)I" } : Jvm.MethodName) method_12_code (5 : Nat) (Option.some Jvm.ClassFile.FieldType.int) [((0 : Nat), (10 : Nat), (13 : Nat), (21 : Nat)), ((0 : Nat), (10 : Nat), (17 : Nat), (13 : Nat)), ((0 : Nat), (10 : Nat), (21 : Nat), (15 : Nat))]) ∈ lw_all := lw_g (lw_at lw_m7 170 rfl) rfl
theorem q1658 : (Jvm.Cond.methodLink "TwinphaseLaw" (44 : Nat) ({ cls := "Twinphase", name := "begin", desc := "(II)I" } : Jvm.MethodName)) ∈ lw_all := lw_g (lw_at lw_m7 171 rfl) rfl
theorem q1723 : (Jvm.Cond.methodLink "TwinphaseLaw" (128 : Nat) ({ cls := "TwinphaseLaw", name := "get", desc := "(LTwinphase;II[J)I" } : Jvm.MethodName)) ∈ lw_all := lw_g (lw_at lw_m7 236 rfl) rfl
theorem q1724 : (Jvm.Cond.static ({ cls := "TwinphaseLaw", name := "get", desc := "(LTwinphase;II[J)I" } : Jvm.MethodName)) ∈ lw_all := lw_g (lw_at lw_m7 237 rfl) rfl
theorem q1725 : (Jvm.Cond.codeWith ({ cls := "TwinphaseLaw", name := "get", desc := "(LTwinphase;II[J)I" } : Jvm.MethodName) method_13_code (5 : Nat) (Option.some Jvm.ClassFile.FieldType.int) [((0 : Nat), (10 : Nat), (13 : Nat), (21 : Nat))]) ∈ lw_all := lw_g (lw_at lw_m7 238 rfl) rfl
theorem q1726 : (Jvm.Cond.methodLink "TwinphaseLaw" (47 : Nat) ({ cls := "Twinphase", name := "get", desc := "(II)I" } : Jvm.MethodName)) ∈ lw_all := lw_g (lw_at lw_m7 239 rfl) rfl
theorem q1896 : (Jvm.Cond.methodLink "TwinphaseLaw" (131 : Nat) ({ cls := "TwinphaseLaw", name := "put", desc := "(LTwinphase;III[J)I" } : Jvm.MethodName)) ∈ lw_all := lw_g (lw_at lw_m8 169 rfl) rfl
theorem q1897 : (Jvm.Cond.static ({ cls := "TwinphaseLaw", name := "put", desc := "(LTwinphase;III[J)I" } : Jvm.MethodName)) ∈ lw_all := lw_g (lw_at lw_m8 170 rfl) rfl
theorem q1898 : (Jvm.Cond.codeWith ({ cls := "TwinphaseLaw", name := "put", desc := "(LTwinphase;III[J)I" } : Jvm.MethodName) method_14_code (6 : Nat) (Option.some Jvm.ClassFile.FieldType.int) [((0 : Nat), (12 : Nat), (15 : Nat), (21 : Nat)), ((0 : Nat), (12 : Nat), (19 : Nat), (13 : Nat))]) ∈ lw_all := lw_g (lw_at lw_m8 171 rfl) rfl
theorem q1899 : (Jvm.Cond.methodLink "TwinphaseLaw" (50 : Nat) ({ cls := "Twinphase", name := "put", desc := "(III)I" } : Jvm.MethodName)) ∈ lw_all := lw_g (lw_at lw_m8 172 rfl) rfl
theorem q1939 : (Jvm.Cond.methodLink "TwinphaseLaw" (135 : Nat) ({ cls := "TwinphaseLaw", name := "commit", desc := "(LTwinphase;IZ[J)I" } : Jvm.MethodName)) ∈ lw_all := lw_g (lw_at lw_m8 212 rfl) rfl
theorem q1940 : (Jvm.Cond.static ({ cls := "TwinphaseLaw", name := "commit", desc := "(LTwinphase;IZ[J)I" } : Jvm.MethodName)) ∈ lw_all := lw_g (lw_at lw_m8 213 rfl) rfl
theorem q1941 : (Jvm.Cond.codeWith ({ cls := "TwinphaseLaw", name := "commit", desc := "(LTwinphase;IZ[J)I" } : Jvm.MethodName) method_15_code (5 : Nat) (Option.some Jvm.ClassFile.FieldType.int) [((0 : Nat), (10 : Nat), (13 : Nat), (21 : Nat))]) ∈ lw_all := lw_g (lw_at lw_m8 214 rfl) rfl
theorem q1942 : (Jvm.Cond.methodLink "TwinphaseLaw" (54 : Nat) ({ cls := "Twinphase", name := "commit", desc := "(IZ)I" } : Jvm.MethodName)) ∈ lw_all := lw_g (lw_at lw_m8 215 rfl) rfl
theorem q1978 : (Jvm.Cond.methodLink "TwinphaseLaw" (139 : Nat) ({ cls := "TwinphaseLaw", name := "abort", desc := "(LTwinphase;I[J)I" } : Jvm.MethodName)) ∈ lw_all := lw_g (lw_at lw_m9 11 rfl) rfl
theorem q1979 : (Jvm.Cond.static ({ cls := "TwinphaseLaw", name := "abort", desc := "(LTwinphase;I[J)I" } : Jvm.MethodName)) ∈ lw_all := lw_g (lw_at lw_m9 12 rfl) rfl
theorem q1980 : (Jvm.Cond.codeWith ({ cls := "TwinphaseLaw", name := "abort", desc := "(LTwinphase;I[J)I" } : Jvm.MethodName) method_16_code (4 : Nat) (Option.some Jvm.ClassFile.FieldType.int) [((0 : Nat), (9 : Nat), (12 : Nat), (21 : Nat))]) ∈ lw_all := lw_g (lw_at lw_m9 13 rfl) rfl
theorem q1981 : (Jvm.Cond.methodLink "TwinphaseLaw" (58 : Nat) ({ cls := "Twinphase", name := "abort", desc := "(I)I" } : Jvm.MethodName)) ∈ lw_all := lw_g (lw_at lw_m9 14 rfl) rfl
theorem q1985 : (Jvm.Cond.methodLink "TwinphaseLaw" (142 : Nat) ({ cls := "TwinphaseLaw", name := "recover", desc := "(LTwinphase;I[J)I" } : Jvm.MethodName)) ∈ lw_all := lw_g (lw_at lw_m9 18 rfl) rfl
theorem q1986 : (Jvm.Cond.static ({ cls := "TwinphaseLaw", name := "recover", desc := "(LTwinphase;I[J)I" } : Jvm.MethodName)) ∈ lw_all := lw_g (lw_at lw_m9 19 rfl) rfl
theorem q1987 : (Jvm.Cond.codeWith ({ cls := "TwinphaseLaw", name := "recover", desc := "(LTwinphase;I[J)I" } : Jvm.MethodName) method_17_code (4 : Nat) (Option.some Jvm.ClassFile.FieldType.int) [((0 : Nat), (9 : Nat), (12 : Nat), (21 : Nat))]) ∈ lw_all := lw_g (lw_at lw_m9 20 rfl) rfl
theorem q1988 : (Jvm.Cond.methodLink "TwinphaseLaw" (61 : Nat) ({ cls := "Twinphase", name := "recover", desc := "(I)I" } : Jvm.MethodName)) ∈ lw_all := lw_g (lw_at lw_m9 21 rfl) rfl
theorem q1992 : (Jvm.Cond.methodLink "TwinphaseLaw" (145 : Nat) ({ cls := "TwinphaseLaw", name := "beat", desc := "(LTwinphase;I[J)I" } : Jvm.MethodName)) ∈ lw_all := lw_g (lw_at lw_m9 25 rfl) rfl
theorem q1993 : (Jvm.Cond.static ({ cls := "TwinphaseLaw", name := "beat", desc := "(LTwinphase;I[J)I" } : Jvm.MethodName)) ∈ lw_all := lw_g (lw_at lw_m9 26 rfl) rfl
theorem q1994 : (Jvm.Cond.codeWith ({ cls := "TwinphaseLaw", name := "beat", desc := "(LTwinphase;I[J)I" } : Jvm.MethodName) method_18_code (4 : Nat) (Option.some Jvm.ClassFile.FieldType.int) [((0 : Nat), (9 : Nat), (12 : Nat), (21 : Nat))]) ∈ lw_all := lw_g (lw_at lw_m9 27 rfl) rfl
theorem q1995 : (Jvm.Cond.methodLink "TwinphaseLaw" (64 : Nat) ({ cls := "Twinphase", name := "beat", desc := "(I)I" } : Jvm.MethodName)) ∈ lw_all := lw_g (lw_at lw_m9 28 rfl) rfl
theorem q1999 : (Jvm.Cond.methodLink "TwinphaseLaw" (148 : Nat) ({ cls := "TwinphaseLaw", name := "told", desc := "(LTwinphase;II[J)I" } : Jvm.MethodName)) ∈ lw_all := lw_g (lw_at lw_m9 32 rfl) rfl
theorem q2000 : (Jvm.Cond.static ({ cls := "TwinphaseLaw", name := "told", desc := "(LTwinphase;II[J)I" } : Jvm.MethodName)) ∈ lw_all := lw_g (lw_at lw_m9 33 rfl) rfl
theorem q2001 : (Jvm.Cond.codeWith ({ cls := "TwinphaseLaw", name := "told", desc := "(LTwinphase;II[J)I" } : Jvm.MethodName) method_19_code (5 : Nat) (Option.some Jvm.ClassFile.FieldType.int) [((0 : Nat), (10 : Nat), (13 : Nat), (21 : Nat)), ((0 : Nat), (10 : Nat), (17 : Nat), (13 : Nat))]) ∈ lw_all := lw_g (lw_at lw_m9 34 rfl) rfl
theorem q2002 : (Jvm.Cond.methodLink "TwinphaseLaw" (67 : Nat) ({ cls := "Twinphase", name := "told", desc := "(II)I" } : Jvm.MethodName)) ∈ lw_all := lw_g (lw_at lw_m9 35 rfl) rfl
theorem q2008 : (Jvm.Cond.methodLink "TwinphaseLaw" (151 : Nat) ({ cls := "TwinphaseLaw", name := "key", desc := "(LTwinphase;II[J)I" } : Jvm.MethodName)) ∈ lw_all := lw_g (lw_at lw_m9 41 rfl) rfl
theorem q2009 : (Jvm.Cond.static ({ cls := "TwinphaseLaw", name := "key", desc := "(LTwinphase;II[J)I" } : Jvm.MethodName)) ∈ lw_all := lw_g (lw_at lw_m9 42 rfl) rfl
theorem q2010 : (Jvm.Cond.codeWith ({ cls := "TwinphaseLaw", name := "key", desc := "(LTwinphase;II[J)I" } : Jvm.MethodName) method_20_code (5 : Nat) (Option.some Jvm.ClassFile.FieldType.int) [((0 : Nat), (10 : Nat), (13 : Nat), (21 : Nat)), ((0 : Nat), (10 : Nat), (17 : Nat), (13 : Nat))]) ∈ lw_all := lw_g (lw_at lw_m9 43 rfl) rfl
theorem q2011 : (Jvm.Cond.methodLink "TwinphaseLaw" (70 : Nat) ({ cls := "Twinphase", name := "key", desc := "(II)I" } : Jvm.MethodName)) ∈ lw_all := lw_g (lw_at lw_m9 44 rfl) rfl
theorem q2015 : (Jvm.Cond.methodLink "TwinphaseLaw" (154 : Nat) ({ cls := "TwinphaseLaw", name := "asOf", desc := "(LTwinphase;II[J)I" } : Jvm.MethodName)) ∈ lw_all := lw_g (lw_at lw_m9 48 rfl) rfl
theorem q2016 : (Jvm.Cond.static ({ cls := "TwinphaseLaw", name := "asOf", desc := "(LTwinphase;II[J)I" } : Jvm.MethodName)) ∈ lw_all := lw_g (lw_at lw_m9 49 rfl) rfl
theorem q2017 : (Jvm.Cond.codeWith ({ cls := "TwinphaseLaw", name := "asOf", desc := "(LTwinphase;II[J)I" } : Jvm.MethodName) method_21_code (5 : Nat) (Option.some Jvm.ClassFile.FieldType.int) [((0 : Nat), (10 : Nat), (13 : Nat), (21 : Nat)), ((0 : Nat), (10 : Nat), (17 : Nat), (13 : Nat))]) ∈ lw_all := lw_g (lw_at lw_m9 50 rfl) rfl
theorem q2018 : (Jvm.Cond.methodLink "TwinphaseLaw" (73 : Nat) ({ cls := "Twinphase", name := "asOf", desc := "(II)I" } : Jvm.MethodName)) ∈ lw_all := lw_g (lw_at lw_m9 51 rfl) rfl
theorem q2022 : (Jvm.Cond.methodLink "TwinphaseLaw" (161 : Nat) ({ cls := "TwinphaseLaw", name := "feed", desc := "(LTwinphase;I[J)I" } : Jvm.MethodName)) ∈ lw_all := lw_g (lw_at lw_m9 55 rfl) rfl
theorem q2023 : (Jvm.Cond.static ({ cls := "TwinphaseLaw", name := "feed", desc := "(LTwinphase;I[J)I" } : Jvm.MethodName)) ∈ lw_all := lw_g (lw_at lw_m9 56 rfl) rfl
theorem q2024 : (Jvm.Cond.codeWith ({ cls := "TwinphaseLaw", name := "feed", desc := "(LTwinphase;I[J)I" } : Jvm.MethodName) method_22_code (4 : Nat) (Option.some Jvm.ClassFile.FieldType.int) [((0 : Nat), (9 : Nat), (12 : Nat), (21 : Nat))]) ∈ lw_all := lw_g (lw_at lw_m9 57 rfl) rfl
theorem q2025 : (Jvm.Cond.methodLink "TwinphaseLaw" (76 : Nat) ({ cls := "Twinphase", name := "feed", desc := "(I)I" } : Jvm.MethodName)) ∈ lw_all := lw_g (lw_at lw_m9 58 rfl) rfl
theorem q2030 : (Jvm.Cond.methodLink "TwinphaseLaw" (164 : Nat) ({ cls := "TwinphaseLaw", name := "order", desc := "(LTwinphase;I[J)I" } : Jvm.MethodName)) ∈ lw_all := lw_g (lw_at lw_m9 63 rfl) rfl
theorem q2031 : (Jvm.Cond.static ({ cls := "TwinphaseLaw", name := "order", desc := "(LTwinphase;I[J)I" } : Jvm.MethodName)) ∈ lw_all := lw_g (lw_at lw_m9 64 rfl) rfl
theorem q2032 : (Jvm.Cond.codeWith ({ cls := "TwinphaseLaw", name := "order", desc := "(LTwinphase;I[J)I" } : Jvm.MethodName) method_23_code (4 : Nat) (Option.some Jvm.ClassFile.FieldType.int) [((0 : Nat), (9 : Nat), (12 : Nat), (21 : Nat))]) ∈ lw_all := lw_g (lw_at lw_m9 65 rfl) rfl
theorem q2033 : (Jvm.Cond.methodLink "TwinphaseLaw" (79 : Nat) ({ cls := "Twinphase", name := "order", desc := "(I)I" } : Jvm.MethodName)) ∈ lw_all := lw_g (lw_at lw_m9 66 rfl) rfl
theorem q2037 : (Jvm.Cond.classLink "TwinphaseLaw" (83 : Nat) "TwinphaseModel") ∈ lw_all := lw_g (lw_at lw_m9 70 rfl) rfl
theorem q2039 : (Jvm.Cond.methodLink "TwinphaseLaw" (85 : Nat) ({ cls := "TwinphaseModel", name := "<init>", desc := "()V" } : Jvm.MethodName)) ∈ lw_all := lw_g (lw_at lw_m9 72 rfl) rfl
theorem q2141 : (Jvm.Cond.methodLink "TwinphaseLaw" (92 : Nat) ({ cls := "TwinphaseModel", name := "thrown", desc := "()I" } : Jvm.MethodName)) ∈ lw_all := lw_g (lw_at lw_m9 174 rfl) rfl
theorem q2145 : (Jvm.Cond.methodLink "TwinphaseLaw" (91 : Nat) ({ cls := "TwinphaseModel", name := "pass", desc := "(I)I" } : Jvm.MethodName)) ∈ lw_all := lw_g (lw_at lw_m9 178 rfl) rfl
theorem q2152 : (Jvm.Cond.methodLink "TwinphaseLaw" (99 : Nat) ({ cls := "TwinphaseModel", name := "skew", desc := "(II)I" } : Jvm.MethodName)) ∈ lw_all := lw_g (lw_at lw_m9 185 rfl) rfl
theorem q2156 : (Jvm.Cond.methodLink "TwinphaseLaw" (102 : Nat) ({ cls := "TwinphaseModel", name := "clock", desc := "(I)I" } : Jvm.MethodName)) ∈ lw_all := lw_g (lw_at lw_m9 189 rfl) rfl
theorem q2167 : (Jvm.Cond.methodLink "TwinphaseLaw" (106 : Nat) ({ cls := "TwinphaseModel", name := "closed", desc := "()I" } : Jvm.MethodName)) ∈ lw_all := lw_g (lw_at lw_m9 200 rfl) rfl
theorem q2175 : (Jvm.Cond.methodLink "TwinphaseLaw" (109 : Nat) ({ cls := "TwinphaseModel", name := "down", desc := "(I)I" } : Jvm.MethodName)) ∈ lw_all := lw_g (lw_at lw_m9 208 rfl) rfl
theorem q2187 : (Jvm.Cond.methodLink "TwinphaseLaw" (112 : Nat) ({ cls := "TwinphaseModel", name := "up", desc := "(I)I" } : Jvm.MethodName)) ∈ lw_all := lw_g (lw_at lw_m9 220 rfl) rfl
theorem q2195 : (Jvm.Cond.methodLink "TwinphaseLaw" (115 : Nat) ({ cls := "TwinphaseModel", name := "sync", desc := "(I)I" } : Jvm.MethodName)) ∈ lw_all := lw_g (lw_at lw_m9 228 rfl) rfl
theorem q2199 : (Jvm.Cond.methodLink "TwinphaseLaw" (118 : Nat) ({ cls := "TwinphaseModel", name := "split", desc := "(I)I" } : Jvm.MethodName)) ∈ lw_all := lw_g (lw_at lw_m9 232 rfl) rfl
theorem q2203 : (Jvm.Cond.methodLink "TwinphaseLaw" (121 : Nat) ({ cls := "TwinphaseModel", name := "merge", desc := "(I)I" } : Jvm.MethodName)) ∈ lw_all := lw_g (lw_at lw_m9 236 rfl) rfl
theorem q2207 : (Jvm.Cond.methodLink "TwinphaseLaw" (124 : Nat) ({ cls := "TwinphaseModel", name := "move", desc := "(II)I" } : Jvm.MethodName)) ∈ lw_all := lw_g (lw_at lw_m10 0 rfl) rfl
theorem q2211 : (Jvm.Cond.methodLink "TwinphaseLaw" (127 : Nat) ({ cls := "TwinphaseModel", name := "begin", desc := "(II)I" } : Jvm.MethodName)) ∈ lw_all := lw_g (lw_at lw_m10 4 rfl) rfl
theorem q2219 : (Jvm.Cond.methodLink "TwinphaseLaw" (130 : Nat) ({ cls := "TwinphaseModel", name := "get", desc := "(II)I" } : Jvm.MethodName)) ∈ lw_all := lw_g (lw_at lw_m10 12 rfl) rfl
theorem q2283 : (Jvm.Cond.methodLink "TwinphaseLaw" (134 : Nat) ({ cls := "TwinphaseModel", name := "put", desc := "(III)I" } : Jvm.MethodName)) ∈ lw_all := lw_g (lw_at lw_m10 76 rfl) rfl
theorem q2288 : (Jvm.Cond.methodLink "TwinphaseLaw" (138 : Nat) ({ cls := "TwinphaseModel", name := "commit", desc := "(IZ)I" } : Jvm.MethodName)) ∈ lw_all := lw_g (lw_at lw_m10 81 rfl) rfl
theorem q2300 : (Jvm.Cond.methodLink "TwinphaseLaw" (141 : Nat) ({ cls := "TwinphaseModel", name := "abort", desc := "(I)I" } : Jvm.MethodName)) ∈ lw_all := lw_g (lw_at lw_m10 93 rfl) rfl
theorem q2304 : (Jvm.Cond.methodLink "TwinphaseLaw" (144 : Nat) ({ cls := "TwinphaseModel", name := "recover", desc := "(I)I" } : Jvm.MethodName)) ∈ lw_all := lw_g (lw_at lw_m10 97 rfl) rfl
theorem q2308 : (Jvm.Cond.methodLink "TwinphaseLaw" (147 : Nat) ({ cls := "TwinphaseModel", name := "beat", desc := "(I)I" } : Jvm.MethodName)) ∈ lw_all := lw_g (lw_at lw_m10 101 rfl) rfl
theorem q2312 : (Jvm.Cond.methodLink "TwinphaseLaw" (150 : Nat) ({ cls := "TwinphaseModel", name := "told", desc := "(II)I" } : Jvm.MethodName)) ∈ lw_all := lw_g (lw_at lw_m10 105 rfl) rfl
theorem q2316 : (Jvm.Cond.methodLink "TwinphaseLaw" (153 : Nat) ({ cls := "TwinphaseModel", name := "key", desc := "(II)I" } : Jvm.MethodName)) ∈ lw_all := lw_g (lw_at lw_m10 109 rfl) rfl
theorem q2320 : (Jvm.Cond.methodLink "TwinphaseLaw" (156 : Nat) ({ cls := "TwinphaseModel", name := "asOf", desc := "(II)I" } : Jvm.MethodName)) ∈ lw_all := lw_g (lw_at lw_m10 113 rfl) rfl
theorem q2324 : (Jvm.Cond.methodLink "TwinphaseLaw" (160 : Nat) ({ cls := "TwinphaseModel", name := "resolved", desc := "()I" } : Jvm.MethodName)) ∈ lw_all := lw_g (lw_at lw_m10 117 rfl) rfl
theorem q2332 : (Jvm.Cond.methodLink "TwinphaseLaw" (163 : Nat) ({ cls := "TwinphaseModel", name := "feed", desc := "(I)I" } : Jvm.MethodName)) ∈ lw_all := lw_g (lw_at lw_m10 125 rfl) rfl
theorem q2336 : (Jvm.Cond.methodLink "TwinphaseLaw" (166 : Nat) ({ cls := "TwinphaseModel", name := "order", desc := "(I)I" } : Jvm.MethodName)) ∈ lw_all := lw_g (lw_at lw_m10 129 rfl) rfl
theorem q2348 : (Jvm.Cond.methodLink "TwinphaseLaw" (170 : Nat) ({ cls := "TwinphaseModel", name := "judged", desc := "()I" } : Jvm.MethodName)) ∈ lw_all := lw_g (lw_at lw_m10 141 rfl) rfl
