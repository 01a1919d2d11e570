/-! the law's own entry -/
set_option maxRecDepth 100000
abbrev cL_law : ByteArray := code
def dkwL_law_60 : List UInt8 := [132, 4, 4, 167, 250, 93, 4, 172]
abbrev dktL_law_60 : List UInt8 := dkwL_law_60 ++ []
def dkwL_law_59 : List UInt8 := [46, 182, 0, 163, 159, 0, 18, 3, 172, 43, 182, 0, 164, 44, 182, 0, 167, 159, 0, 5, 3, 172]
abbrev dktL_law_59 : List UInt8 := dkwL_law_59 ++ dktL_law_60
def dkwL_law_58 : List UInt8 := [182, 0, 159, 159, 0, 43, 3, 172, 43, 42, 21, 4, 4, 96, 46, 182, 0, 160, 44, 42, 21, 4, 4, 96]
abbrev dktL_law_58 : List UInt8 := dkwL_law_58 ++ dktL_law_59
def dkwL_law_57 : List UInt8 := [46, 182, 0, 151, 44, 42, 21, 4, 4, 96, 46, 182, 0, 155, 159, 0, 56, 3, 172, 43, 182, 0, 156, 44]
abbrev dktL_law_57 : List UInt8 := dkwL_law_57 ++ dktL_law_58
def dkwL_law_56 : List UInt8 := [154, 0, 15, 45, 3, 47, 21, 6, 133, 148, 153, 0, 5, 3, 172, 167, 0, 79, 43, 42, 21, 4, 4, 96]
abbrev dktL_law_56 : List UInt8 := dkwL_law_56 ++ dktL_law_57
def dkwL_law_55 : List UInt8 := [21, 4, 4, 96, 46, 182, 0, 150, 54, 6, 44, 182, 0, 90, 21, 5, 159, 0, 5, 3, 172, 21, 5]
abbrev dktL_law_55 : List UInt8 := dkwL_law_55 ++ dktL_law_56
def dkwL_law_54 : List UInt8 := [153, 0, 5, 3, 172, 167, 0, 135, 43, 42, 21, 4, 4, 96, 46, 45, 184, 0, 148, 54, 5, 44, 42]
abbrev dktL_law_54 : List UInt8 := dkwL_law_54 ++ dktL_law_55
def dkwL_law_53 : List UInt8 := [182, 0, 90, 21, 5, 159, 0, 5, 3, 172, 21, 5, 154, 0, 15, 45, 3, 47, 21, 6, 133, 148]
abbrev dktL_law_53 : List UInt8 := dkwL_law_53 ++ dktL_law_54
def dkwL_law_52 : List UInt8 := [184, 0, 145, 54, 5, 44, 42, 21, 4, 4, 96, 46, 42, 21, 4, 5, 96, 46, 182, 0, 147, 54, 6, 44]
abbrev dktL_law_52 : List UInt8 := dkwL_law_52 ++ dktL_law_53
def dkwL_law_51 : List UInt8 := [153, 0, 5, 3, 172, 167, 0, 203, 43, 42, 21, 4, 4, 96, 46, 42, 21, 4, 5, 96, 46, 45]
abbrev dktL_law_51 : List UInt8 := dkwL_law_51 ++ dktL_law_52
def dkwL_law_50 : List UInt8 := [182, 0, 90, 21, 5, 159, 0, 5, 3, 172, 21, 5, 154, 0, 15, 45, 3, 47, 21, 6, 133, 148]
abbrev dktL_law_50 : List UInt8 := dkwL_law_50 ++ dktL_law_51
def dkwL_law_49 : List UInt8 := [184, 0, 142, 54, 5, 44, 42, 21, 4, 4, 96, 46, 42, 21, 4, 5, 96, 46, 182, 0, 144, 54, 6, 44]
abbrev dktL_law_49 : List UInt8 := dkwL_law_49 ++ dktL_law_50
def dkwL_law_48 : List UInt8 := [153, 0, 5, 3, 172, 167, 1, 15, 43, 42, 21, 4, 4, 96, 46, 42, 21, 4, 5, 96, 46, 45]
abbrev dktL_law_48 : List UInt8 := dkwL_law_48 ++ dktL_law_49
def dkwL_law_47 : List UInt8 := [182, 0, 90, 21, 5, 159, 0, 5, 3, 172, 21, 5, 154, 0, 15, 45, 3, 47, 21, 6, 133, 148]
abbrev dktL_law_47 : List UInt8 := dkwL_law_47 ++ dktL_law_48
def dkwL_law_46 : List UInt8 := [21, 4, 4, 96, 46, 45, 184, 0, 139, 54, 5, 44, 42, 21, 4, 4, 96, 46, 182, 0, 141, 54, 6, 44]
abbrev dktL_law_46 : List UInt8 := dkwL_law_46 ++ dktL_law_47
def dkwL_law_45 : List UInt8 := [172, 21, 5, 154, 0, 15, 45, 3, 47, 21, 6, 133, 148, 153, 0, 5, 3, 172, 167, 1, 71, 43, 42]
abbrev dktL_law_45 : List UInt8 := dkwL_law_45 ++ dktL_law_46
def dkwL_law_44 : List UInt8 := [54, 5, 44, 42, 21, 4, 4, 96, 46, 182, 0, 138, 54, 6, 44, 182, 0, 90, 21, 5, 159, 0, 5, 3]
abbrev dktL_law_44 : List UInt8 := dkwL_law_44 ++ dktL_law_45
def dkwL_law_43 : List UInt8 := [21, 6, 133, 148, 153, 0, 5, 3, 172, 167, 1, 127, 43, 42, 21, 4, 4, 96, 46, 45, 184, 0, 136]
abbrev dktL_law_43 : List UInt8 := dkwL_law_43 ++ dktL_law_44
def dkwL_law_42 : List UInt8 := [182, 0, 135, 54, 6, 44, 182, 0, 90, 21, 5, 159, 0, 5, 3, 172, 21, 5, 154, 0, 15, 45, 3, 47]
abbrev dktL_law_42 : List UInt8 := dkwL_law_42 ++ dktL_law_43
def dkwL_law_41 : List UInt8 := [167, 1, 183, 43, 42, 21, 4, 4, 96, 46, 45, 184, 0, 133, 54, 5, 44, 42, 21, 4, 4, 96, 46]
abbrev dktL_law_41 : List UInt8 := dkwL_law_41 ++ dktL_law_42
def dkwL_law_40 : List UInt8 := [21, 5, 154, 0, 22, 45, 3, 47, 21, 6, 153, 0, 7, 10, 167, 0, 4, 9, 148, 153, 0, 5, 3, 172]
abbrev dktL_law_40 : List UInt8 := dkwL_law_40 ++ dktL_law_41
def dkwL_law_39 : List UInt8 := [153, 0, 7, 4, 167, 0, 4, 3, 182, 0, 132, 54, 6, 44, 182, 0, 90, 21, 5, 159, 0, 5, 3, 172]
abbrev dktL_law_39 : List UInt8 := dkwL_law_39 ++ dktL_law_40
def dkwL_law_38 : List UInt8 := [4, 167, 0, 4, 3, 45, 184, 0, 129, 54, 5, 44, 42, 21, 4, 4, 96, 46, 42, 21, 4, 5, 96, 46]
abbrev dktL_law_38 : List UInt8 := dkwL_law_38 ++ dktL_law_39
def dkwL_law_37 : List UInt8 := [153, 0, 5, 3, 172, 167, 2, 18, 43, 42, 21, 4, 4, 96, 46, 42, 21, 4, 5, 96, 46, 153, 0, 7]
abbrev dktL_law_37 : List UInt8 := dkwL_law_37 ++ dktL_law_38
def dkwL_law_36 : List UInt8 := [182, 0, 90, 21, 5, 159, 0, 5, 3, 172, 21, 5, 154, 0, 15, 45, 3, 47, 21, 6, 133, 148]
abbrev dktL_law_36 : List UInt8 := dkwL_law_36 ++ dktL_law_37
def dkwL_law_35 : List UInt8 := [184, 0, 126, 54, 5, 44, 42, 21, 4, 4, 96, 46, 42, 21, 4, 5, 96, 46, 182, 0, 128, 54, 6, 44]
abbrev dktL_law_35 : List UInt8 := dkwL_law_35 ++ dktL_law_36
def dkwL_law_34 : List UInt8 := [153, 0, 5, 3, 172, 167, 2, 86, 43, 42, 21, 4, 4, 96, 46, 42, 21, 4, 5, 96, 46, 45]
abbrev dktL_law_34 : List UInt8 := dkwL_law_34 ++ dktL_law_35
def dkwL_law_33 : List UInt8 := [182, 0, 90, 21, 5, 159, 0, 5, 3, 172, 21, 5, 154, 0, 15, 45, 3, 47, 21, 6, 133, 148]
abbrev dktL_law_33 : List UInt8 := dkwL_law_33 ++ dktL_law_34
def dkwL_law_32 : List UInt8 := [184, 0, 123, 54, 5, 44, 42, 21, 4, 4, 96, 46, 42, 21, 4, 5, 96, 46, 182, 0, 125, 54, 6, 44]
abbrev dktL_law_32 : List UInt8 := dkwL_law_32 ++ dktL_law_33
def dkwL_law_31 : List UInt8 := [153, 0, 5, 3, 172, 167, 2, 154, 43, 42, 21, 4, 4, 96, 46, 42, 21, 4, 5, 96, 46, 45]
abbrev dktL_law_31 : List UInt8 := dkwL_law_31 ++ dktL_law_32
def dkwL_law_30 : List UInt8 := [182, 0, 90, 21, 5, 159, 0, 5, 3, 172, 21, 5, 154, 0, 15, 45, 3, 47, 21, 6, 133, 148]
abbrev dktL_law_30 : List UInt8 := dkwL_law_30 ++ dktL_law_31
def dkwL_law_29 : List UInt8 := [184, 0, 120, 54, 5, 44, 42, 21, 4, 4, 96, 46, 42, 21, 4, 5, 96, 46, 182, 0, 122, 54, 6, 44]
abbrev dktL_law_29 : List UInt8 := dkwL_law_29 ++ dktL_law_30
def dkwL_law_28 : List UInt8 := [148, 153, 0, 5, 3, 172, 167, 2, 222, 43, 42, 21, 4, 4, 96, 46, 42, 21, 4, 5, 96, 46, 45]
abbrev dktL_law_28 : List UInt8 := dkwL_law_28 ++ dktL_law_29
def dkwL_law_27 : List UInt8 := [54, 6, 44, 182, 0, 90, 21, 5, 159, 0, 5, 3, 172, 21, 5, 154, 0, 15, 45, 3, 47, 21, 6, 133]
abbrev dktL_law_27 : List UInt8 := dkwL_law_27 ++ dktL_law_28
def dkwL_law_26 : List UInt8 := [46, 45, 184, 0, 117, 54, 5, 44, 42, 21, 4, 4, 96, 46, 42, 21, 4, 5, 96, 46, 182, 0, 119]
abbrev dktL_law_26 : List UInt8 := dkwL_law_26 ++ dktL_law_27
def dkwL_law_25 : List UInt8 := [21, 6, 133, 148, 153, 0, 5, 3, 172, 167, 3, 34, 43, 42, 21, 4, 4, 96, 46, 42, 21, 4, 5, 96]
abbrev dktL_law_25 : List UInt8 := dkwL_law_25 ++ dktL_law_26
def dkwL_law_24 : List UInt8 := [182, 0, 116, 54, 6, 44, 182, 0, 90, 21, 5, 159, 0, 5, 3, 172, 21, 5, 154, 0, 15, 45, 3, 47]
abbrev dktL_law_24 : List UInt8 := dkwL_law_24 ++ dktL_law_25
def dkwL_law_23 : List UInt8 := [184, 0, 113, 54, 5, 44, 42, 21, 4, 4, 96, 46, 42, 21, 4, 5, 96, 46, 42, 21, 4, 6, 96, 46]
abbrev dktL_law_23 : List UInt8 := dkwL_law_23 ++ dktL_law_24
def dkwL_law_22 : List UInt8 := [167, 3, 114, 43, 42, 21, 4, 4, 96, 46, 42, 21, 4, 5, 96, 46, 42, 21, 4, 6, 96, 46, 45]
abbrev dktL_law_22 : List UInt8 := dkwL_law_22 ++ dktL_law_23
def dkwL_law_21 : List UInt8 := [159, 0, 5, 3, 172, 21, 5, 154, 0, 15, 45, 3, 47, 21, 6, 133, 148, 153, 0, 5, 3, 172]
abbrev dktL_law_21 : List UInt8 := dkwL_law_21 ++ dktL_law_22
def dkwL_law_20 : List UInt8 := [21, 4, 4, 96, 46, 42, 21, 4, 5, 96, 46, 182, 0, 112, 54, 6, 44, 182, 0, 90, 21, 5]
abbrev dktL_law_20 : List UInt8 := dkwL_law_20 ++ dktL_law_21
def dkwL_law_19 : List UInt8 := [167, 3, 182, 43, 42, 21, 4, 4, 96, 46, 42, 21, 4, 5, 96, 46, 45, 184, 0, 110, 54, 5, 44, 42]
abbrev dktL_law_19 : List UInt8 := dkwL_law_19 ++ dktL_law_20
def dkwL_law_18 : List UInt8 := [21, 5, 159, 0, 5, 3, 172, 21, 5, 154, 0, 15, 45, 3, 47, 21, 6, 133, 148, 153, 0, 5, 3, 172]
abbrev dktL_law_18 : List UInt8 := dkwL_law_18 ++ dktL_law_19
def dkwL_law_17 : List UInt8 := [46, 45, 184, 0, 107, 54, 5, 44, 42, 21, 4, 4, 96, 46, 182, 0, 109, 54, 6, 44, 182, 0, 90]
abbrev dktL_law_17 : List UInt8 := dkwL_law_17 ++ dktL_law_18
def dkwL_law_16 : List UInt8 := [154, 0, 15, 45, 3, 47, 21, 6, 133, 148, 153, 0, 5, 3, 172, 167, 3, 238, 43, 42, 21, 4, 4, 96]
abbrev dktL_law_16 : List UInt8 := dkwL_law_16 ++ dktL_law_17
def dkwL_law_15 : List UInt8 := [21, 4, 4, 96, 46, 182, 0, 106, 54, 6, 44, 182, 0, 90, 21, 5, 159, 0, 5, 3, 172, 21, 5]
abbrev dktL_law_15 : List UInt8 := dkwL_law_15 ++ dktL_law_16
def dkwL_law_14 : List UInt8 := [153, 0, 5, 3, 172, 167, 4, 38, 43, 42, 21, 4, 4, 96, 46, 45, 184, 0, 104, 54, 5, 44, 42]
abbrev dktL_law_14 : List UInt8 := dkwL_law_14 ++ dktL_law_15
def dkwL_law_13 : List UInt8 := [182, 0, 90, 21, 5, 159, 0, 5, 3, 172, 21, 5, 154, 0, 15, 45, 3, 47, 21, 6, 133, 148]
abbrev dktL_law_13 : List UInt8 := dkwL_law_13 ++ dktL_law_14
def dkwL_law_12 : List UInt8 := [184, 0, 101, 54, 5, 44, 42, 21, 4, 4, 96, 46, 42, 21, 4, 5, 96, 46, 182, 0, 103, 54, 6, 44]
abbrev dktL_law_12 : List UInt8 := dkwL_law_12 ++ dktL_law_13
def dkwL_law_11 : List UInt8 := [153, 0, 5, 3, 172, 167, 4, 106, 43, 42, 21, 4, 4, 96, 46, 42, 21, 4, 5, 96, 46, 45]
abbrev dktL_law_11 : List UInt8 := dkwL_law_11 ++ dktL_law_12
def dkwL_law_10 : List UInt8 := [182, 0, 90, 21, 5, 159, 0, 5, 3, 172, 21, 5, 154, 0, 15, 45, 3, 47, 21, 6, 133, 148]
abbrev dktL_law_10 : List UInt8 := dkwL_law_10 ++ dktL_law_11
def dkwL_law_9 : List UInt8 := [184, 0, 98, 54, 5, 44, 42, 21, 4, 4, 96, 46, 42, 21, 4, 5, 96, 46, 182, 0, 100, 54, 6, 44]
abbrev dktL_law_9 : List UInt8 := dkwL_law_9 ++ dktL_law_10
def dkwL_law_8 : List UInt8 := [153, 0, 5, 3, 172, 167, 4, 174, 43, 42, 21, 4, 4, 96, 46, 42, 21, 4, 5, 96, 46, 45]
abbrev dktL_law_8 : List UInt8 := dkwL_law_8 ++ dktL_law_9
def dkwL_law_7 : List UInt8 := [182, 0, 90, 21, 5, 159, 0, 5, 3, 172, 21, 5, 154, 0, 15, 45, 3, 47, 21, 6, 133, 148]
abbrev dktL_law_7 : List UInt8 := dkwL_law_7 ++ dktL_law_8
def dkwL_law_6 : List UInt8 := [4, 96, 46, 45, 184, 0, 94, 54, 5, 44, 42, 21, 4, 4, 96, 46, 182, 0, 97, 54, 6, 44]
abbrev dktL_law_6 : List UInt8 := dkwL_law_6 ++ dktL_law_7
def dkwL_law_5 : List UInt8 := [21, 5, 154, 0, 15, 45, 3, 47, 21, 6, 133, 148, 153, 0, 5, 3, 172, 167, 4, 230, 43, 42, 21, 4]
abbrev dktL_law_5 : List UInt8 := dkwL_law_5 ++ dktL_law_6
def dkwL_law_4 : List UInt8 := [96, 46, 42, 21, 4, 5, 96, 46, 182, 0, 89, 54, 6, 44, 182, 0, 90, 21, 5, 159, 0, 5, 3, 172]
abbrev dktL_law_4 : List UInt8 := dkwL_law_4 ++ dktL_law_5
def dkwL_law_3 : List UInt8 := [43, 42, 21, 4, 4, 96, 46, 42, 21, 4, 5, 96, 46, 45, 184, 0, 84, 54, 5, 44, 42, 21, 4, 4]
abbrev dktL_law_3 : List UInt8 := dkwL_law_3 ++ dktL_law_4
def dkwL_law_2 : List UInt8 := [170, 0, 0, 5, 144, 0, 0, 0, 0, 0, 0, 0, 22, 0, 0, 0, 105, 0, 0, 0, 173, 0, 0, 0, 229, 0, 0, 1, 41, 0, 0, 1, 109, 0, 0, 1, 165, 0, 0, 1, 221, 0, 0, 2, 33, 0, 0, 2, 113, 0, 0, 2, 181, 0, 0, 2, 249, 0, 0, 3, 61, 0, 0, 3, 129, 0, 0, 3, 220, 0, 0, 4, 20, 0, 0, 4, 76, 0, 0, 4, 132, 0, 0, 4, 200, 0, 0, 5, 12, 0, 0, 5, 68, 0, 0, 5, 93, 0, 0, 5, 106, 0, 0, 5, 131]
abbrev dktL_law_2 : List UInt8 := dkwL_law_2 ++ dktL_law_3
def dkwL_law_1 : List UInt8 := [21, 4, 42, 190, 7, 100, 163, 5, 160, 42, 21, 4, 46, 16, 31, 126]
abbrev dktL_law_1 : List UInt8 := dkwL_law_1 ++ dktL_law_2
def dkwL_law_0 : List UInt8 := [187, 0, 8, 89, 183, 0, 80, 76, 187, 0, 81, 89, 183, 0, 83, 77, 4, 188, 11, 78, 3, 54, 4]
abbrev dktL_law_0 : List UInt8 := dkwL_law_0 ++ dktL_law_1
theorem dksL_law_0 : cL_law.data.toList.drop 0 = dktL_law_0 := by decide +kernel
theorem dksL_law_1 : cL_law.data.toList.drop 23 = dktL_law_1 := dk_seg dksL_law_0 23 rfl rfl
theorem dksL_law_2 : cL_law.data.toList.drop 39 = dktL_law_2 := dk_seg dksL_law_1 16 rfl rfl
theorem dksL_law_3 : cL_law.data.toList.drop 144 = dktL_law_3 := dk_seg dksL_law_2 105 rfl rfl
theorem dksL_law_4 : cL_law.data.toList.drop 168 = dktL_law_4 := dk_seg dksL_law_3 24 rfl rfl
theorem dksL_law_5 : cL_law.data.toList.drop 192 = dktL_law_5 := dk_seg dksL_law_4 24 rfl rfl
theorem dksL_law_6 : cL_law.data.toList.drop 216 = dktL_law_6 := dk_seg dksL_law_5 24 rfl rfl
theorem dksL_law_7 : cL_law.data.toList.drop 238 = dktL_law_7 := dk_seg dksL_law_6 22 rfl rfl
theorem dksL_law_8 : cL_law.data.toList.drop 260 = dktL_law_8 := dk_seg dksL_law_7 22 rfl rfl
theorem dksL_law_9 : cL_law.data.toList.drop 282 = dktL_law_9 := dk_seg dksL_law_8 22 rfl rfl
theorem dksL_law_10 : cL_law.data.toList.drop 306 = dktL_law_10 := dk_seg dksL_law_9 24 rfl rfl
theorem dksL_law_11 : cL_law.data.toList.drop 328 = dktL_law_11 := dk_seg dksL_law_10 22 rfl rfl
theorem dksL_law_12 : cL_law.data.toList.drop 350 = dktL_law_12 := dk_seg dksL_law_11 22 rfl rfl
theorem dksL_law_13 : cL_law.data.toList.drop 374 = dktL_law_13 := dk_seg dksL_law_12 24 rfl rfl
theorem dksL_law_14 : cL_law.data.toList.drop 396 = dktL_law_14 := dk_seg dksL_law_13 22 rfl rfl
theorem dksL_law_15 : cL_law.data.toList.drop 419 = dktL_law_15 := dk_seg dksL_law_14 23 rfl rfl
theorem dksL_law_16 : cL_law.data.toList.drop 442 = dktL_law_16 := dk_seg dksL_law_15 23 rfl rfl
theorem dksL_law_17 : cL_law.data.toList.drop 466 = dktL_law_17 := dk_seg dksL_law_16 24 rfl rfl
theorem dksL_law_18 : cL_law.data.toList.drop 489 = dktL_law_18 := dk_seg dksL_law_17 23 rfl rfl
theorem dksL_law_19 : cL_law.data.toList.drop 513 = dktL_law_19 := dk_seg dksL_law_18 24 rfl rfl
theorem dksL_law_20 : cL_law.data.toList.drop 537 = dktL_law_20 := dk_seg dksL_law_19 24 rfl rfl
theorem dksL_law_21 : cL_law.data.toList.drop 559 = dktL_law_21 := dk_seg dksL_law_20 22 rfl rfl
theorem dksL_law_22 : cL_law.data.toList.drop 581 = dktL_law_22 := dk_seg dksL_law_21 22 rfl rfl
theorem dksL_law_23 : cL_law.data.toList.drop 604 = dktL_law_23 := dk_seg dksL_law_22 23 rfl rfl
theorem dksL_law_24 : cL_law.data.toList.drop 628 = dktL_law_24 := dk_seg dksL_law_23 24 rfl rfl
theorem dksL_law_25 : cL_law.data.toList.drop 652 = dktL_law_25 := dk_seg dksL_law_24 24 rfl rfl
theorem dksL_law_26 : cL_law.data.toList.drop 676 = dktL_law_26 := dk_seg dksL_law_25 24 rfl rfl
theorem dksL_law_27 : cL_law.data.toList.drop 699 = dktL_law_27 := dk_seg dksL_law_26 23 rfl rfl
theorem dksL_law_28 : cL_law.data.toList.drop 723 = dktL_law_28 := dk_seg dksL_law_27 24 rfl rfl
theorem dksL_law_29 : cL_law.data.toList.drop 746 = dktL_law_29 := dk_seg dksL_law_28 23 rfl rfl
theorem dksL_law_30 : cL_law.data.toList.drop 770 = dktL_law_30 := dk_seg dksL_law_29 24 rfl rfl
theorem dksL_law_31 : cL_law.data.toList.drop 792 = dktL_law_31 := dk_seg dksL_law_30 22 rfl rfl
theorem dksL_law_32 : cL_law.data.toList.drop 814 = dktL_law_32 := dk_seg dksL_law_31 22 rfl rfl
theorem dksL_law_33 : cL_law.data.toList.drop 838 = dktL_law_33 := dk_seg dksL_law_32 24 rfl rfl
theorem dksL_law_34 : cL_law.data.toList.drop 860 = dktL_law_34 := dk_seg dksL_law_33 22 rfl rfl
theorem dksL_law_35 : cL_law.data.toList.drop 882 = dktL_law_35 := dk_seg dksL_law_34 22 rfl rfl
theorem dksL_law_36 : cL_law.data.toList.drop 906 = dktL_law_36 := dk_seg dksL_law_35 24 rfl rfl
theorem dksL_law_37 : cL_law.data.toList.drop 928 = dktL_law_37 := dk_seg dksL_law_36 22 rfl rfl
theorem dksL_law_38 : cL_law.data.toList.drop 952 = dktL_law_38 := dk_seg dksL_law_37 24 rfl rfl
theorem dksL_law_39 : cL_law.data.toList.drop 976 = dktL_law_39 := dk_seg dksL_law_38 24 rfl rfl
theorem dksL_law_40 : cL_law.data.toList.drop 1000 = dktL_law_40 := dk_seg dksL_law_39 24 rfl rfl
theorem dksL_law_41 : cL_law.data.toList.drop 1024 = dktL_law_41 := dk_seg dksL_law_40 24 rfl rfl
theorem dksL_law_42 : cL_law.data.toList.drop 1047 = dktL_law_42 := dk_seg dksL_law_41 23 rfl rfl
theorem dksL_law_43 : cL_law.data.toList.drop 1071 = dktL_law_43 := dk_seg dksL_law_42 24 rfl rfl
theorem dksL_law_44 : cL_law.data.toList.drop 1094 = dktL_law_44 := dk_seg dksL_law_43 23 rfl rfl
theorem dksL_law_45 : cL_law.data.toList.drop 1118 = dktL_law_45 := dk_seg dksL_law_44 24 rfl rfl
theorem dksL_law_46 : cL_law.data.toList.drop 1141 = dktL_law_46 := dk_seg dksL_law_45 23 rfl rfl
theorem dksL_law_47 : cL_law.data.toList.drop 1165 = dktL_law_47 := dk_seg dksL_law_46 24 rfl rfl
theorem dksL_law_48 : cL_law.data.toList.drop 1187 = dktL_law_48 := dk_seg dksL_law_47 22 rfl rfl
theorem dksL_law_49 : cL_law.data.toList.drop 1209 = dktL_law_49 := dk_seg dksL_law_48 22 rfl rfl
theorem dksL_law_50 : cL_law.data.toList.drop 1233 = dktL_law_50 := dk_seg dksL_law_49 24 rfl rfl
theorem dksL_law_51 : cL_law.data.toList.drop 1255 = dktL_law_51 := dk_seg dksL_law_50 22 rfl rfl
theorem dksL_law_52 : cL_law.data.toList.drop 1277 = dktL_law_52 := dk_seg dksL_law_51 22 rfl rfl
theorem dksL_law_53 : cL_law.data.toList.drop 1301 = dktL_law_53 := dk_seg dksL_law_52 24 rfl rfl
theorem dksL_law_54 : cL_law.data.toList.drop 1323 = dktL_law_54 := dk_seg dksL_law_53 22 rfl rfl
theorem dksL_law_55 : cL_law.data.toList.drop 1346 = dktL_law_55 := dk_seg dksL_law_54 23 rfl rfl
theorem dksL_law_56 : cL_law.data.toList.drop 1369 = dktL_law_56 := dk_seg dksL_law_55 23 rfl rfl
theorem dksL_law_57 : cL_law.data.toList.drop 1393 = dktL_law_57 := dk_seg dksL_law_56 24 rfl rfl
theorem dksL_law_58 : cL_law.data.toList.drop 1417 = dktL_law_58 := dk_seg dksL_law_57 24 rfl rfl
theorem dksL_law_59 : cL_law.data.toList.drop 1441 = dktL_law_59 := dk_seg dksL_law_58 24 rfl rfl
theorem dksL_law_60 : cL_law.data.toList.drop 1463 = dktL_law_60 := dk_seg dksL_law_59 22 rfl rfl
theorem dL_law_0 : decode cL_law 0 = .ok (.new 8, 3) := dk_187 0 8 (dk_at dksL_law_0 0 rfl rfl)
theorem dL_law_3 : decode cL_law 3 = .ok (.dup, 1) := dk_89 (dk_at dksL_law_0 3 rfl rfl)
theorem dL_law_4 : decode cL_law 4 = .ok (.invokespecial 80, 3) := dk_183 0 80 (dk_at dksL_law_0 4 rfl rfl)
theorem dL_law_7 : decode cL_law 7 = .ok (.astore_n 1, 1) := dk_76 (dk_at dksL_law_0 7 rfl rfl)
theorem dL_law_8 : decode cL_law 8 = .ok (.new 81, 3) := dk_187 0 81 (dk_at dksL_law_0 8 rfl rfl)
theorem dL_law_11 : decode cL_law 11 = .ok (.dup, 1) := dk_89 (dk_at dksL_law_0 11 rfl rfl)
theorem dL_law_12 : decode cL_law 12 = .ok (.invokespecial 83, 3) := dk_183 0 83 (dk_at dksL_law_0 12 rfl rfl)
theorem dL_law_15 : decode cL_law 15 = .ok (.astore_n 2, 1) := dk_77 (dk_at dksL_law_0 15 rfl rfl)
theorem dL_law_16 : decode cL_law 16 = .ok (.iconst 1, 1) := dk_4 (dk_at dksL_law_0 16 rfl rfl)
theorem dL_law_17 : decode cL_law 17 = .ok (.newarray .long, 2) := dk_188_11 (dk_at dksL_law_0 17 rfl rfl)
theorem dL_law_19 : decode cL_law 19 = .ok (.astore_n 3, 1) := dk_78 (dk_at dksL_law_0 19 rfl rfl)
theorem dL_law_20 : decode cL_law 20 = .ok (.iconst 0, 1) := dk_3 (dk_at dksL_law_0 20 rfl rfl)
theorem dL_law_21 : decode cL_law 21 = .ok (.istore 4, 2) := dk_54 4 (dk_at dksL_law_0 21 rfl rfl)
theorem dL_law_23 : decode cL_law 23 = .ok (.iload 4, 2) := dk_21 4 (dk_at dksL_law_1 0 rfl rfl)
theorem dL_law_25 : decode cL_law 25 = .ok (.aload_n 0, 1) := dk_42 (dk_at dksL_law_1 2 rfl rfl)
theorem dL_law_26 : decode cL_law 26 = .ok (.arraylength, 1) := dk_190 (dk_at dksL_law_1 3 rfl rfl)
theorem dL_law_27 : decode cL_law 27 = .ok (.iconst 4, 1) := dk_7 (dk_at dksL_law_1 4 rfl rfl)
theorem dL_law_28 : decode cL_law 28 = .ok (.isub, 1) := dk_100 (dk_at dksL_law_1 5 rfl rfl)
theorem dL_law_29 : decode cL_law 29 = .ok (.if_icmp .gt 1440, 3) := dk_163 5 160 (dk_at dksL_law_1 6 rfl rfl)
theorem dL_law_32 : decode cL_law 32 = .ok (.aload_n 0, 1) := dk_42 (dk_at dksL_law_1 9 rfl rfl)
theorem dL_law_33 : decode cL_law 33 = .ok (.iload 4, 2) := dk_21 4 (dk_at dksL_law_1 10 rfl rfl)
theorem dL_law_35 : decode cL_law 35 = .ok (.iaload, 1) := dk_46 (dk_at dksL_law_1 12 rfl rfl)
theorem dL_law_36 : decode cL_law 36 = .ok (.bipush 31, 2) := dk_16 31 (dk_at dksL_law_1 13 rfl rfl)
theorem dL_law_38 : decode cL_law 38 = .ok (.iand, 1) := dk_126 (dk_at dksL_law_1 15 rfl rfl)
theorem dL_law_39 : decode cL_law 39 = .ok (.tableswitch 1424 0 22 #[105, 173, 229, 297, 365, 421, 477, 545, 625, 693, 761, 829, 897, 988, 1044, 1100, 1156, 1224, 1292, 1348, 1373, 1386, 1411], 105) := by decide +kernel
theorem dL_law_144 : decode cL_law 144 = .ok (.aload_n 1, 1) := dk_43 (dk_at dksL_law_3 0 rfl rfl)
theorem dL_law_145 : decode cL_law 145 = .ok (.aload_n 0, 1) := dk_42 (dk_at dksL_law_3 1 rfl rfl)
theorem dL_law_146 : decode cL_law 146 = .ok (.iload 4, 2) := dk_21 4 (dk_at dksL_law_3 2 rfl rfl)
theorem dL_law_148 : decode cL_law 148 = .ok (.iconst 1, 1) := dk_4 (dk_at dksL_law_3 4 rfl rfl)
theorem dL_law_149 : decode cL_law 149 = .ok (.iadd, 1) := dk_96 (dk_at dksL_law_3 5 rfl rfl)
theorem dL_law_150 : decode cL_law 150 = .ok (.iaload, 1) := dk_46 (dk_at dksL_law_3 6 rfl rfl)
theorem dL_law_151 : decode cL_law 151 = .ok (.aload_n 0, 1) := dk_42 (dk_at dksL_law_3 7 rfl rfl)
theorem dL_law_152 : decode cL_law 152 = .ok (.iload 4, 2) := dk_21 4 (dk_at dksL_law_3 8 rfl rfl)
theorem dL_law_154 : decode cL_law 154 = .ok (.iconst 2, 1) := dk_5 (dk_at dksL_law_3 10 rfl rfl)
theorem dL_law_155 : decode cL_law 155 = .ok (.iadd, 1) := dk_96 (dk_at dksL_law_3 11 rfl rfl)
theorem dL_law_156 : decode cL_law 156 = .ok (.iaload, 1) := dk_46 (dk_at dksL_law_3 12 rfl rfl)
theorem dL_law_157 : decode cL_law 157 = .ok (.aload_n 3, 1) := dk_45 (dk_at dksL_law_3 13 rfl rfl)
theorem dL_law_158 : decode cL_law 158 = .ok (.invokestatic 84, 3) := dk_184 0 84 (dk_at dksL_law_3 14 rfl rfl)
theorem dL_law_161 : decode cL_law 161 = .ok (.istore 5, 2) := dk_54 5 (dk_at dksL_law_3 17 rfl rfl)
theorem dL_law_163 : decode cL_law 163 = .ok (.aload_n 2, 1) := dk_44 (dk_at dksL_law_3 19 rfl rfl)
theorem dL_law_164 : decode cL_law 164 = .ok (.aload_n 0, 1) := dk_42 (dk_at dksL_law_3 20 rfl rfl)
theorem dL_law_165 : decode cL_law 165 = .ok (.iload 4, 2) := dk_21 4 (dk_at dksL_law_3 21 rfl rfl)
theorem dL_law_167 : decode cL_law 167 = .ok (.iconst 1, 1) := dk_4 (dk_at dksL_law_3 23 rfl rfl)
theorem dL_law_168 : decode cL_law 168 = .ok (.iadd, 1) := dk_96 (dk_at dksL_law_4 0 rfl rfl)
theorem dL_law_169 : decode cL_law 169 = .ok (.iaload, 1) := dk_46 (dk_at dksL_law_4 1 rfl rfl)
theorem dL_law_170 : decode cL_law 170 = .ok (.aload_n 0, 1) := dk_42 (dk_at dksL_law_4 2 rfl rfl)
theorem dL_law_171 : decode cL_law 171 = .ok (.iload 4, 2) := dk_21 4 (dk_at dksL_law_4 3 rfl rfl)
theorem dL_law_173 : decode cL_law 173 = .ok (.iconst 2, 1) := dk_5 (dk_at dksL_law_4 5 rfl rfl)
theorem dL_law_174 : decode cL_law 174 = .ok (.iadd, 1) := dk_96 (dk_at dksL_law_4 6 rfl rfl)
theorem dL_law_175 : decode cL_law 175 = .ok (.iaload, 1) := dk_46 (dk_at dksL_law_4 7 rfl rfl)
theorem dL_law_176 : decode cL_law 176 = .ok (.invokevirtual 89, 3) := dk_182 0 89 (dk_at dksL_law_4 8 rfl rfl)
theorem dL_law_179 : decode cL_law 179 = .ok (.istore 6, 2) := dk_54 6 (dk_at dksL_law_4 11 rfl rfl)
theorem dL_law_181 : decode cL_law 181 = .ok (.aload_n 2, 1) := dk_44 (dk_at dksL_law_4 13 rfl rfl)
theorem dL_law_182 : decode cL_law 182 = .ok (.invokevirtual 90, 3) := dk_182 0 90 (dk_at dksL_law_4 14 rfl rfl)
theorem dL_law_185 : decode cL_law 185 = .ok (.iload 5, 2) := dk_21 5 (dk_at dksL_law_4 17 rfl rfl)
theorem dL_law_187 : decode cL_law 187 = .ok (.if_icmp .eq 5, 3) := dk_159 0 5 (dk_at dksL_law_4 19 rfl rfl)
theorem dL_law_190 : decode cL_law 190 = .ok (.iconst 0, 1) := dk_3 (dk_at dksL_law_4 22 rfl rfl)
theorem dL_law_191 : decode cL_law 191 = .ok (.ireturn, 1) := dk_172 (dk_at dksL_law_4 23 rfl rfl)
theorem dL_law_192 : decode cL_law 192 = .ok (.iload 5, 2) := dk_21 5 (dk_at dksL_law_5 0 rfl rfl)
theorem dL_law_194 : decode cL_law 194 = .ok (.ifCond .ne 15, 3) := dk_154 0 15 (dk_at dksL_law_5 2 rfl rfl)
theorem dL_law_197 : decode cL_law 197 = .ok (.aload_n 3, 1) := dk_45 (dk_at dksL_law_5 5 rfl rfl)
theorem dL_law_198 : decode cL_law 198 = .ok (.iconst 0, 1) := dk_3 (dk_at dksL_law_5 6 rfl rfl)
theorem dL_law_199 : decode cL_law 199 = .ok (.laload, 1) := dk_47 (dk_at dksL_law_5 7 rfl rfl)
theorem dL_law_200 : decode cL_law 200 = .ok (.iload 6, 2) := dk_21 6 (dk_at dksL_law_5 8 rfl rfl)
theorem dL_law_202 : decode cL_law 202 = .ok (.i2l, 1) := dk_133 (dk_at dksL_law_5 10 rfl rfl)
theorem dL_law_203 : decode cL_law 203 = .ok (.lcmp, 1) := dk_148 (dk_at dksL_law_5 11 rfl rfl)
theorem dL_law_204 : decode cL_law 204 = .ok (.ifCond .eq 5, 3) := dk_153 0 5 (dk_at dksL_law_5 12 rfl rfl)
theorem dL_law_207 : decode cL_law 207 = .ok (.iconst 0, 1) := dk_3 (dk_at dksL_law_5 15 rfl rfl)
theorem dL_law_208 : decode cL_law 208 = .ok (.ireturn, 1) := dk_172 (dk_at dksL_law_5 16 rfl rfl)
theorem dL_law_209 : decode cL_law 209 = .ok (.goto 1254, 3) := dk_167 4 230 (dk_at dksL_law_5 17 rfl rfl)
theorem dL_law_212 : decode cL_law 212 = .ok (.aload_n 1, 1) := dk_43 (dk_at dksL_law_5 20 rfl rfl)
theorem dL_law_213 : decode cL_law 213 = .ok (.aload_n 0, 1) := dk_42 (dk_at dksL_law_5 21 rfl rfl)
theorem dL_law_214 : decode cL_law 214 = .ok (.iload 4, 2) := dk_21 4 (dk_at dksL_law_5 22 rfl rfl)
theorem dL_law_216 : decode cL_law 216 = .ok (.iconst 1, 1) := dk_4 (dk_at dksL_law_6 0 rfl rfl)
theorem dL_law_217 : decode cL_law 217 = .ok (.iadd, 1) := dk_96 (dk_at dksL_law_6 1 rfl rfl)
theorem dL_law_218 : decode cL_law 218 = .ok (.iaload, 1) := dk_46 (dk_at dksL_law_6 2 rfl rfl)
theorem dL_law_219 : decode cL_law 219 = .ok (.aload_n 3, 1) := dk_45 (dk_at dksL_law_6 3 rfl rfl)
theorem dL_law_220 : decode cL_law 220 = .ok (.invokestatic 94, 3) := dk_184 0 94 (dk_at dksL_law_6 4 rfl rfl)
theorem dL_law_223 : decode cL_law 223 = .ok (.istore 5, 2) := dk_54 5 (dk_at dksL_law_6 7 rfl rfl)
theorem dL_law_225 : decode cL_law 225 = .ok (.aload_n 2, 1) := dk_44 (dk_at dksL_law_6 9 rfl rfl)
theorem dL_law_226 : decode cL_law 226 = .ok (.aload_n 0, 1) := dk_42 (dk_at dksL_law_6 10 rfl rfl)
theorem dL_law_227 : decode cL_law 227 = .ok (.iload 4, 2) := dk_21 4 (dk_at dksL_law_6 11 rfl rfl)
theorem dL_law_229 : decode cL_law 229 = .ok (.iconst 1, 1) := dk_4 (dk_at dksL_law_6 13 rfl rfl)
theorem dL_law_230 : decode cL_law 230 = .ok (.iadd, 1) := dk_96 (dk_at dksL_law_6 14 rfl rfl)
theorem dL_law_231 : decode cL_law 231 = .ok (.iaload, 1) := dk_46 (dk_at dksL_law_6 15 rfl rfl)
theorem dL_law_232 : decode cL_law 232 = .ok (.invokevirtual 97, 3) := dk_182 0 97 (dk_at dksL_law_6 16 rfl rfl)
theorem dL_law_235 : decode cL_law 235 = .ok (.istore 6, 2) := dk_54 6 (dk_at dksL_law_6 19 rfl rfl)
theorem dL_law_237 : decode cL_law 237 = .ok (.aload_n 2, 1) := dk_44 (dk_at dksL_law_6 21 rfl rfl)
theorem dL_law_238 : decode cL_law 238 = .ok (.invokevirtual 90, 3) := dk_182 0 90 (dk_at dksL_law_7 0 rfl rfl)
theorem dL_law_241 : decode cL_law 241 = .ok (.iload 5, 2) := dk_21 5 (dk_at dksL_law_7 3 rfl rfl)
theorem dL_law_243 : decode cL_law 243 = .ok (.if_icmp .eq 5, 3) := dk_159 0 5 (dk_at dksL_law_7 5 rfl rfl)
theorem dL_law_246 : decode cL_law 246 = .ok (.iconst 0, 1) := dk_3 (dk_at dksL_law_7 8 rfl rfl)
theorem dL_law_247 : decode cL_law 247 = .ok (.ireturn, 1) := dk_172 (dk_at dksL_law_7 9 rfl rfl)
theorem dL_law_248 : decode cL_law 248 = .ok (.iload 5, 2) := dk_21 5 (dk_at dksL_law_7 10 rfl rfl)
theorem dL_law_250 : decode cL_law 250 = .ok (.ifCond .ne 15, 3) := dk_154 0 15 (dk_at dksL_law_7 12 rfl rfl)
theorem dL_law_253 : decode cL_law 253 = .ok (.aload_n 3, 1) := dk_45 (dk_at dksL_law_7 15 rfl rfl)
theorem dL_law_254 : decode cL_law 254 = .ok (.iconst 0, 1) := dk_3 (dk_at dksL_law_7 16 rfl rfl)
theorem dL_law_255 : decode cL_law 255 = .ok (.laload, 1) := dk_47 (dk_at dksL_law_7 17 rfl rfl)
theorem dL_law_256 : decode cL_law 256 = .ok (.iload 6, 2) := dk_21 6 (dk_at dksL_law_7 18 rfl rfl)
theorem dL_law_258 : decode cL_law 258 = .ok (.i2l, 1) := dk_133 (dk_at dksL_law_7 20 rfl rfl)
theorem dL_law_259 : decode cL_law 259 = .ok (.lcmp, 1) := dk_148 (dk_at dksL_law_7 21 rfl rfl)
theorem dL_law_260 : decode cL_law 260 = .ok (.ifCond .eq 5, 3) := dk_153 0 5 (dk_at dksL_law_8 0 rfl rfl)
theorem dL_law_263 : decode cL_law 263 = .ok (.iconst 0, 1) := dk_3 (dk_at dksL_law_8 3 rfl rfl)
theorem dL_law_264 : decode cL_law 264 = .ok (.ireturn, 1) := dk_172 (dk_at dksL_law_8 4 rfl rfl)
theorem dL_law_265 : decode cL_law 265 = .ok (.goto 1198, 3) := dk_167 4 174 (dk_at dksL_law_8 5 rfl rfl)
theorem dL_law_268 : decode cL_law 268 = .ok (.aload_n 1, 1) := dk_43 (dk_at dksL_law_8 8 rfl rfl)
theorem dL_law_269 : decode cL_law 269 = .ok (.aload_n 0, 1) := dk_42 (dk_at dksL_law_8 9 rfl rfl)
theorem dL_law_270 : decode cL_law 270 = .ok (.iload 4, 2) := dk_21 4 (dk_at dksL_law_8 10 rfl rfl)
theorem dL_law_272 : decode cL_law 272 = .ok (.iconst 1, 1) := dk_4 (dk_at dksL_law_8 12 rfl rfl)
theorem dL_law_273 : decode cL_law 273 = .ok (.iadd, 1) := dk_96 (dk_at dksL_law_8 13 rfl rfl)
theorem dL_law_274 : decode cL_law 274 = .ok (.iaload, 1) := dk_46 (dk_at dksL_law_8 14 rfl rfl)
theorem dL_law_275 : decode cL_law 275 = .ok (.aload_n 0, 1) := dk_42 (dk_at dksL_law_8 15 rfl rfl)
theorem dL_law_276 : decode cL_law 276 = .ok (.iload 4, 2) := dk_21 4 (dk_at dksL_law_8 16 rfl rfl)
theorem dL_law_278 : decode cL_law 278 = .ok (.iconst 2, 1) := dk_5 (dk_at dksL_law_8 18 rfl rfl)
theorem dL_law_279 : decode cL_law 279 = .ok (.iadd, 1) := dk_96 (dk_at dksL_law_8 19 rfl rfl)
theorem dL_law_280 : decode cL_law 280 = .ok (.iaload, 1) := dk_46 (dk_at dksL_law_8 20 rfl rfl)
theorem dL_law_281 : decode cL_law 281 = .ok (.aload_n 3, 1) := dk_45 (dk_at dksL_law_8 21 rfl rfl)
theorem dL_law_282 : decode cL_law 282 = .ok (.invokestatic 98, 3) := dk_184 0 98 (dk_at dksL_law_9 0 rfl rfl)
theorem dL_law_285 : decode cL_law 285 = .ok (.istore 5, 2) := dk_54 5 (dk_at dksL_law_9 3 rfl rfl)
theorem dL_law_287 : decode cL_law 287 = .ok (.aload_n 2, 1) := dk_44 (dk_at dksL_law_9 5 rfl rfl)
theorem dL_law_288 : decode cL_law 288 = .ok (.aload_n 0, 1) := dk_42 (dk_at dksL_law_9 6 rfl rfl)
theorem dL_law_289 : decode cL_law 289 = .ok (.iload 4, 2) := dk_21 4 (dk_at dksL_law_9 7 rfl rfl)
theorem dL_law_291 : decode cL_law 291 = .ok (.iconst 1, 1) := dk_4 (dk_at dksL_law_9 9 rfl rfl)
theorem dL_law_292 : decode cL_law 292 = .ok (.iadd, 1) := dk_96 (dk_at dksL_law_9 10 rfl rfl)
theorem dL_law_293 : decode cL_law 293 = .ok (.iaload, 1) := dk_46 (dk_at dksL_law_9 11 rfl rfl)
theorem dL_law_294 : decode cL_law 294 = .ok (.aload_n 0, 1) := dk_42 (dk_at dksL_law_9 12 rfl rfl)
theorem dL_law_295 : decode cL_law 295 = .ok (.iload 4, 2) := dk_21 4 (dk_at dksL_law_9 13 rfl rfl)
theorem dL_law_297 : decode cL_law 297 = .ok (.iconst 2, 1) := dk_5 (dk_at dksL_law_9 15 rfl rfl)
theorem dL_law_298 : decode cL_law 298 = .ok (.iadd, 1) := dk_96 (dk_at dksL_law_9 16 rfl rfl)
theorem dL_law_299 : decode cL_law 299 = .ok (.iaload, 1) := dk_46 (dk_at dksL_law_9 17 rfl rfl)
theorem dL_law_300 : decode cL_law 300 = .ok (.invokevirtual 100, 3) := dk_182 0 100 (dk_at dksL_law_9 18 rfl rfl)
theorem dL_law_303 : decode cL_law 303 = .ok (.istore 6, 2) := dk_54 6 (dk_at dksL_law_9 21 rfl rfl)
theorem dL_law_305 : decode cL_law 305 = .ok (.aload_n 2, 1) := dk_44 (dk_at dksL_law_9 23 rfl rfl)
theorem dL_law_306 : decode cL_law 306 = .ok (.invokevirtual 90, 3) := dk_182 0 90 (dk_at dksL_law_10 0 rfl rfl)
theorem dL_law_309 : decode cL_law 309 = .ok (.iload 5, 2) := dk_21 5 (dk_at dksL_law_10 3 rfl rfl)
theorem dL_law_311 : decode cL_law 311 = .ok (.if_icmp .eq 5, 3) := dk_159 0 5 (dk_at dksL_law_10 5 rfl rfl)
theorem dL_law_314 : decode cL_law 314 = .ok (.iconst 0, 1) := dk_3 (dk_at dksL_law_10 8 rfl rfl)
theorem dL_law_315 : decode cL_law 315 = .ok (.ireturn, 1) := dk_172 (dk_at dksL_law_10 9 rfl rfl)
theorem dL_law_316 : decode cL_law 316 = .ok (.iload 5, 2) := dk_21 5 (dk_at dksL_law_10 10 rfl rfl)
theorem dL_law_318 : decode cL_law 318 = .ok (.ifCond .ne 15, 3) := dk_154 0 15 (dk_at dksL_law_10 12 rfl rfl)
theorem dL_law_321 : decode cL_law 321 = .ok (.aload_n 3, 1) := dk_45 (dk_at dksL_law_10 15 rfl rfl)
theorem dL_law_322 : decode cL_law 322 = .ok (.iconst 0, 1) := dk_3 (dk_at dksL_law_10 16 rfl rfl)
theorem dL_law_323 : decode cL_law 323 = .ok (.laload, 1) := dk_47 (dk_at dksL_law_10 17 rfl rfl)
theorem dL_law_324 : decode cL_law 324 = .ok (.iload 6, 2) := dk_21 6 (dk_at dksL_law_10 18 rfl rfl)
theorem dL_law_326 : decode cL_law 326 = .ok (.i2l, 1) := dk_133 (dk_at dksL_law_10 20 rfl rfl)
theorem dL_law_327 : decode cL_law 327 = .ok (.lcmp, 1) := dk_148 (dk_at dksL_law_10 21 rfl rfl)
theorem dL_law_328 : decode cL_law 328 = .ok (.ifCond .eq 5, 3) := dk_153 0 5 (dk_at dksL_law_11 0 rfl rfl)
theorem dL_law_331 : decode cL_law 331 = .ok (.iconst 0, 1) := dk_3 (dk_at dksL_law_11 3 rfl rfl)
theorem dL_law_332 : decode cL_law 332 = .ok (.ireturn, 1) := dk_172 (dk_at dksL_law_11 4 rfl rfl)
theorem dL_law_333 : decode cL_law 333 = .ok (.goto 1130, 3) := dk_167 4 106 (dk_at dksL_law_11 5 rfl rfl)
theorem dL_law_336 : decode cL_law 336 = .ok (.aload_n 1, 1) := dk_43 (dk_at dksL_law_11 8 rfl rfl)
theorem dL_law_337 : decode cL_law 337 = .ok (.aload_n 0, 1) := dk_42 (dk_at dksL_law_11 9 rfl rfl)
theorem dL_law_338 : decode cL_law 338 = .ok (.iload 4, 2) := dk_21 4 (dk_at dksL_law_11 10 rfl rfl)
theorem dL_law_340 : decode cL_law 340 = .ok (.iconst 1, 1) := dk_4 (dk_at dksL_law_11 12 rfl rfl)
theorem dL_law_341 : decode cL_law 341 = .ok (.iadd, 1) := dk_96 (dk_at dksL_law_11 13 rfl rfl)
theorem dL_law_342 : decode cL_law 342 = .ok (.iaload, 1) := dk_46 (dk_at dksL_law_11 14 rfl rfl)
theorem dL_law_343 : decode cL_law 343 = .ok (.aload_n 0, 1) := dk_42 (dk_at dksL_law_11 15 rfl rfl)
theorem dL_law_344 : decode cL_law 344 = .ok (.iload 4, 2) := dk_21 4 (dk_at dksL_law_11 16 rfl rfl)
theorem dL_law_346 : decode cL_law 346 = .ok (.iconst 2, 1) := dk_5 (dk_at dksL_law_11 18 rfl rfl)
theorem dL_law_347 : decode cL_law 347 = .ok (.iadd, 1) := dk_96 (dk_at dksL_law_11 19 rfl rfl)
theorem dL_law_348 : decode cL_law 348 = .ok (.iaload, 1) := dk_46 (dk_at dksL_law_11 20 rfl rfl)
theorem dL_law_349 : decode cL_law 349 = .ok (.aload_n 3, 1) := dk_45 (dk_at dksL_law_11 21 rfl rfl)
theorem dL_law_350 : decode cL_law 350 = .ok (.invokestatic 101, 3) := dk_184 0 101 (dk_at dksL_law_12 0 rfl rfl)
theorem dL_law_353 : decode cL_law 353 = .ok (.istore 5, 2) := dk_54 5 (dk_at dksL_law_12 3 rfl rfl)
theorem dL_law_355 : decode cL_law 355 = .ok (.aload_n 2, 1) := dk_44 (dk_at dksL_law_12 5 rfl rfl)
theorem dL_law_356 : decode cL_law 356 = .ok (.aload_n 0, 1) := dk_42 (dk_at dksL_law_12 6 rfl rfl)
theorem dL_law_357 : decode cL_law 357 = .ok (.iload 4, 2) := dk_21 4 (dk_at dksL_law_12 7 rfl rfl)
theorem dL_law_359 : decode cL_law 359 = .ok (.iconst 1, 1) := dk_4 (dk_at dksL_law_12 9 rfl rfl)
theorem dL_law_360 : decode cL_law 360 = .ok (.iadd, 1) := dk_96 (dk_at dksL_law_12 10 rfl rfl)
theorem dL_law_361 : decode cL_law 361 = .ok (.iaload, 1) := dk_46 (dk_at dksL_law_12 11 rfl rfl)
theorem dL_law_362 : decode cL_law 362 = .ok (.aload_n 0, 1) := dk_42 (dk_at dksL_law_12 12 rfl rfl)
theorem dL_law_363 : decode cL_law 363 = .ok (.iload 4, 2) := dk_21 4 (dk_at dksL_law_12 13 rfl rfl)
theorem dL_law_365 : decode cL_law 365 = .ok (.iconst 2, 1) := dk_5 (dk_at dksL_law_12 15 rfl rfl)
theorem dL_law_366 : decode cL_law 366 = .ok (.iadd, 1) := dk_96 (dk_at dksL_law_12 16 rfl rfl)
theorem dL_law_367 : decode cL_law 367 = .ok (.iaload, 1) := dk_46 (dk_at dksL_law_12 17 rfl rfl)
theorem dL_law_368 : decode cL_law 368 = .ok (.invokevirtual 103, 3) := dk_182 0 103 (dk_at dksL_law_12 18 rfl rfl)
theorem dL_law_371 : decode cL_law 371 = .ok (.istore 6, 2) := dk_54 6 (dk_at dksL_law_12 21 rfl rfl)
theorem dL_law_373 : decode cL_law 373 = .ok (.aload_n 2, 1) := dk_44 (dk_at dksL_law_12 23 rfl rfl)
theorem dL_law_374 : decode cL_law 374 = .ok (.invokevirtual 90, 3) := dk_182 0 90 (dk_at dksL_law_13 0 rfl rfl)
theorem dL_law_377 : decode cL_law 377 = .ok (.iload 5, 2) := dk_21 5 (dk_at dksL_law_13 3 rfl rfl)
theorem dL_law_379 : decode cL_law 379 = .ok (.if_icmp .eq 5, 3) := dk_159 0 5 (dk_at dksL_law_13 5 rfl rfl)
theorem dL_law_382 : decode cL_law 382 = .ok (.iconst 0, 1) := dk_3 (dk_at dksL_law_13 8 rfl rfl)
theorem dL_law_383 : decode cL_law 383 = .ok (.ireturn, 1) := dk_172 (dk_at dksL_law_13 9 rfl rfl)
theorem dL_law_384 : decode cL_law 384 = .ok (.iload 5, 2) := dk_21 5 (dk_at dksL_law_13 10 rfl rfl)
theorem dL_law_386 : decode cL_law 386 = .ok (.ifCond .ne 15, 3) := dk_154 0 15 (dk_at dksL_law_13 12 rfl rfl)
theorem dL_law_389 : decode cL_law 389 = .ok (.aload_n 3, 1) := dk_45 (dk_at dksL_law_13 15 rfl rfl)
theorem dL_law_390 : decode cL_law 390 = .ok (.iconst 0, 1) := dk_3 (dk_at dksL_law_13 16 rfl rfl)
theorem dL_law_391 : decode cL_law 391 = .ok (.laload, 1) := dk_47 (dk_at dksL_law_13 17 rfl rfl)
theorem dL_law_392 : decode cL_law 392 = .ok (.iload 6, 2) := dk_21 6 (dk_at dksL_law_13 18 rfl rfl)
theorem dL_law_394 : decode cL_law 394 = .ok (.i2l, 1) := dk_133 (dk_at dksL_law_13 20 rfl rfl)
theorem dL_law_395 : decode cL_law 395 = .ok (.lcmp, 1) := dk_148 (dk_at dksL_law_13 21 rfl rfl)
theorem dL_law_396 : decode cL_law 396 = .ok (.ifCond .eq 5, 3) := dk_153 0 5 (dk_at dksL_law_14 0 rfl rfl)
theorem dL_law_399 : decode cL_law 399 = .ok (.iconst 0, 1) := dk_3 (dk_at dksL_law_14 3 rfl rfl)
theorem dL_law_400 : decode cL_law 400 = .ok (.ireturn, 1) := dk_172 (dk_at dksL_law_14 4 rfl rfl)
theorem dL_law_401 : decode cL_law 401 = .ok (.goto 1062, 3) := dk_167 4 38 (dk_at dksL_law_14 5 rfl rfl)
theorem dL_law_404 : decode cL_law 404 = .ok (.aload_n 1, 1) := dk_43 (dk_at dksL_law_14 8 rfl rfl)
theorem dL_law_405 : decode cL_law 405 = .ok (.aload_n 0, 1) := dk_42 (dk_at dksL_law_14 9 rfl rfl)
theorem dL_law_406 : decode cL_law 406 = .ok (.iload 4, 2) := dk_21 4 (dk_at dksL_law_14 10 rfl rfl)
theorem dL_law_408 : decode cL_law 408 = .ok (.iconst 1, 1) := dk_4 (dk_at dksL_law_14 12 rfl rfl)
theorem dL_law_409 : decode cL_law 409 = .ok (.iadd, 1) := dk_96 (dk_at dksL_law_14 13 rfl rfl)
theorem dL_law_410 : decode cL_law 410 = .ok (.iaload, 1) := dk_46 (dk_at dksL_law_14 14 rfl rfl)
theorem dL_law_411 : decode cL_law 411 = .ok (.aload_n 3, 1) := dk_45 (dk_at dksL_law_14 15 rfl rfl)
theorem dL_law_412 : decode cL_law 412 = .ok (.invokestatic 104, 3) := dk_184 0 104 (dk_at dksL_law_14 16 rfl rfl)
theorem dL_law_415 : decode cL_law 415 = .ok (.istore 5, 2) := dk_54 5 (dk_at dksL_law_14 19 rfl rfl)
theorem dL_law_417 : decode cL_law 417 = .ok (.aload_n 2, 1) := dk_44 (dk_at dksL_law_14 21 rfl rfl)
theorem dL_law_418 : decode cL_law 418 = .ok (.aload_n 0, 1) := dk_42 (dk_at dksL_law_14 22 rfl rfl)
theorem dL_law_419 : decode cL_law 419 = .ok (.iload 4, 2) := dk_21 4 (dk_at dksL_law_15 0 rfl rfl)
theorem dL_law_421 : decode cL_law 421 = .ok (.iconst 1, 1) := dk_4 (dk_at dksL_law_15 2 rfl rfl)
theorem dL_law_422 : decode cL_law 422 = .ok (.iadd, 1) := dk_96 (dk_at dksL_law_15 3 rfl rfl)
theorem dL_law_423 : decode cL_law 423 = .ok (.iaload, 1) := dk_46 (dk_at dksL_law_15 4 rfl rfl)
theorem dL_law_424 : decode cL_law 424 = .ok (.invokevirtual 106, 3) := dk_182 0 106 (dk_at dksL_law_15 5 rfl rfl)
theorem dL_law_427 : decode cL_law 427 = .ok (.istore 6, 2) := dk_54 6 (dk_at dksL_law_15 8 rfl rfl)
theorem dL_law_429 : decode cL_law 429 = .ok (.aload_n 2, 1) := dk_44 (dk_at dksL_law_15 10 rfl rfl)
theorem dL_law_430 : decode cL_law 430 = .ok (.invokevirtual 90, 3) := dk_182 0 90 (dk_at dksL_law_15 11 rfl rfl)
theorem dL_law_433 : decode cL_law 433 = .ok (.iload 5, 2) := dk_21 5 (dk_at dksL_law_15 14 rfl rfl)
theorem dL_law_435 : decode cL_law 435 = .ok (.if_icmp .eq 5, 3) := dk_159 0 5 (dk_at dksL_law_15 16 rfl rfl)
theorem dL_law_438 : decode cL_law 438 = .ok (.iconst 0, 1) := dk_3 (dk_at dksL_law_15 19 rfl rfl)
theorem dL_law_439 : decode cL_law 439 = .ok (.ireturn, 1) := dk_172 (dk_at dksL_law_15 20 rfl rfl)
theorem dL_law_440 : decode cL_law 440 = .ok (.iload 5, 2) := dk_21 5 (dk_at dksL_law_15 21 rfl rfl)
theorem dL_law_442 : decode cL_law 442 = .ok (.ifCond .ne 15, 3) := dk_154 0 15 (dk_at dksL_law_16 0 rfl rfl)
theorem dL_law_445 : decode cL_law 445 = .ok (.aload_n 3, 1) := dk_45 (dk_at dksL_law_16 3 rfl rfl)
theorem dL_law_446 : decode cL_law 446 = .ok (.iconst 0, 1) := dk_3 (dk_at dksL_law_16 4 rfl rfl)
theorem dL_law_447 : decode cL_law 447 = .ok (.laload, 1) := dk_47 (dk_at dksL_law_16 5 rfl rfl)
theorem dL_law_448 : decode cL_law 448 = .ok (.iload 6, 2) := dk_21 6 (dk_at dksL_law_16 6 rfl rfl)
theorem dL_law_450 : decode cL_law 450 = .ok (.i2l, 1) := dk_133 (dk_at dksL_law_16 8 rfl rfl)
theorem dL_law_451 : decode cL_law 451 = .ok (.lcmp, 1) := dk_148 (dk_at dksL_law_16 9 rfl rfl)
theorem dL_law_452 : decode cL_law 452 = .ok (.ifCond .eq 5, 3) := dk_153 0 5 (dk_at dksL_law_16 10 rfl rfl)
theorem dL_law_455 : decode cL_law 455 = .ok (.iconst 0, 1) := dk_3 (dk_at dksL_law_16 13 rfl rfl)
theorem dL_law_456 : decode cL_law 456 = .ok (.ireturn, 1) := dk_172 (dk_at dksL_law_16 14 rfl rfl)
theorem dL_law_457 : decode cL_law 457 = .ok (.goto 1006, 3) := dk_167 3 238 (dk_at dksL_law_16 15 rfl rfl)
theorem dL_law_460 : decode cL_law 460 = .ok (.aload_n 1, 1) := dk_43 (dk_at dksL_law_16 18 rfl rfl)
theorem dL_law_461 : decode cL_law 461 = .ok (.aload_n 0, 1) := dk_42 (dk_at dksL_law_16 19 rfl rfl)
theorem dL_law_462 : decode cL_law 462 = .ok (.iload 4, 2) := dk_21 4 (dk_at dksL_law_16 20 rfl rfl)
theorem dL_law_464 : decode cL_law 464 = .ok (.iconst 1, 1) := dk_4 (dk_at dksL_law_16 22 rfl rfl)
theorem dL_law_465 : decode cL_law 465 = .ok (.iadd, 1) := dk_96 (dk_at dksL_law_16 23 rfl rfl)
theorem dL_law_466 : decode cL_law 466 = .ok (.iaload, 1) := dk_46 (dk_at dksL_law_17 0 rfl rfl)
theorem dL_law_467 : decode cL_law 467 = .ok (.aload_n 3, 1) := dk_45 (dk_at dksL_law_17 1 rfl rfl)
theorem dL_law_468 : decode cL_law 468 = .ok (.invokestatic 107, 3) := dk_184 0 107 (dk_at dksL_law_17 2 rfl rfl)
theorem dL_law_471 : decode cL_law 471 = .ok (.istore 5, 2) := dk_54 5 (dk_at dksL_law_17 5 rfl rfl)
theorem dL_law_473 : decode cL_law 473 = .ok (.aload_n 2, 1) := dk_44 (dk_at dksL_law_17 7 rfl rfl)
theorem dL_law_474 : decode cL_law 474 = .ok (.aload_n 0, 1) := dk_42 (dk_at dksL_law_17 8 rfl rfl)
theorem dL_law_475 : decode cL_law 475 = .ok (.iload 4, 2) := dk_21 4 (dk_at dksL_law_17 9 rfl rfl)
theorem dL_law_477 : decode cL_law 477 = .ok (.iconst 1, 1) := dk_4 (dk_at dksL_law_17 11 rfl rfl)
theorem dL_law_478 : decode cL_law 478 = .ok (.iadd, 1) := dk_96 (dk_at dksL_law_17 12 rfl rfl)
theorem dL_law_479 : decode cL_law 479 = .ok (.iaload, 1) := dk_46 (dk_at dksL_law_17 13 rfl rfl)
theorem dL_law_480 : decode cL_law 480 = .ok (.invokevirtual 109, 3) := dk_182 0 109 (dk_at dksL_law_17 14 rfl rfl)
theorem dL_law_483 : decode cL_law 483 = .ok (.istore 6, 2) := dk_54 6 (dk_at dksL_law_17 17 rfl rfl)
theorem dL_law_485 : decode cL_law 485 = .ok (.aload_n 2, 1) := dk_44 (dk_at dksL_law_17 19 rfl rfl)
theorem dL_law_486 : decode cL_law 486 = .ok (.invokevirtual 90, 3) := dk_182 0 90 (dk_at dksL_law_17 20 rfl rfl)
theorem dL_law_489 : decode cL_law 489 = .ok (.iload 5, 2) := dk_21 5 (dk_at dksL_law_18 0 rfl rfl)
theorem dL_law_491 : decode cL_law 491 = .ok (.if_icmp .eq 5, 3) := dk_159 0 5 (dk_at dksL_law_18 2 rfl rfl)
theorem dL_law_494 : decode cL_law 494 = .ok (.iconst 0, 1) := dk_3 (dk_at dksL_law_18 5 rfl rfl)
theorem dL_law_495 : decode cL_law 495 = .ok (.ireturn, 1) := dk_172 (dk_at dksL_law_18 6 rfl rfl)
theorem dL_law_496 : decode cL_law 496 = .ok (.iload 5, 2) := dk_21 5 (dk_at dksL_law_18 7 rfl rfl)
theorem dL_law_498 : decode cL_law 498 = .ok (.ifCond .ne 15, 3) := dk_154 0 15 (dk_at dksL_law_18 9 rfl rfl)
theorem dL_law_501 : decode cL_law 501 = .ok (.aload_n 3, 1) := dk_45 (dk_at dksL_law_18 12 rfl rfl)
theorem dL_law_502 : decode cL_law 502 = .ok (.iconst 0, 1) := dk_3 (dk_at dksL_law_18 13 rfl rfl)
theorem dL_law_503 : decode cL_law 503 = .ok (.laload, 1) := dk_47 (dk_at dksL_law_18 14 rfl rfl)
theorem dL_law_504 : decode cL_law 504 = .ok (.iload 6, 2) := dk_21 6 (dk_at dksL_law_18 15 rfl rfl)
theorem dL_law_506 : decode cL_law 506 = .ok (.i2l, 1) := dk_133 (dk_at dksL_law_18 17 rfl rfl)
theorem dL_law_507 : decode cL_law 507 = .ok (.lcmp, 1) := dk_148 (dk_at dksL_law_18 18 rfl rfl)
theorem dL_law_508 : decode cL_law 508 = .ok (.ifCond .eq 5, 3) := dk_153 0 5 (dk_at dksL_law_18 19 rfl rfl)
theorem dL_law_511 : decode cL_law 511 = .ok (.iconst 0, 1) := dk_3 (dk_at dksL_law_18 22 rfl rfl)
theorem dL_law_512 : decode cL_law 512 = .ok (.ireturn, 1) := dk_172 (dk_at dksL_law_18 23 rfl rfl)
theorem dL_law_513 : decode cL_law 513 = .ok (.goto 950, 3) := dk_167 3 182 (dk_at dksL_law_19 0 rfl rfl)
theorem dL_law_516 : decode cL_law 516 = .ok (.aload_n 1, 1) := dk_43 (dk_at dksL_law_19 3 rfl rfl)
theorem dL_law_517 : decode cL_law 517 = .ok (.aload_n 0, 1) := dk_42 (dk_at dksL_law_19 4 rfl rfl)
theorem dL_law_518 : decode cL_law 518 = .ok (.iload 4, 2) := dk_21 4 (dk_at dksL_law_19 5 rfl rfl)
theorem dL_law_520 : decode cL_law 520 = .ok (.iconst 1, 1) := dk_4 (dk_at dksL_law_19 7 rfl rfl)
theorem dL_law_521 : decode cL_law 521 = .ok (.iadd, 1) := dk_96 (dk_at dksL_law_19 8 rfl rfl)
theorem dL_law_522 : decode cL_law 522 = .ok (.iaload, 1) := dk_46 (dk_at dksL_law_19 9 rfl rfl)
theorem dL_law_523 : decode cL_law 523 = .ok (.aload_n 0, 1) := dk_42 (dk_at dksL_law_19 10 rfl rfl)
theorem dL_law_524 : decode cL_law 524 = .ok (.iload 4, 2) := dk_21 4 (dk_at dksL_law_19 11 rfl rfl)
theorem dL_law_526 : decode cL_law 526 = .ok (.iconst 2, 1) := dk_5 (dk_at dksL_law_19 13 rfl rfl)
theorem dL_law_527 : decode cL_law 527 = .ok (.iadd, 1) := dk_96 (dk_at dksL_law_19 14 rfl rfl)
theorem dL_law_528 : decode cL_law 528 = .ok (.iaload, 1) := dk_46 (dk_at dksL_law_19 15 rfl rfl)
theorem dL_law_529 : decode cL_law 529 = .ok (.aload_n 3, 1) := dk_45 (dk_at dksL_law_19 16 rfl rfl)
theorem dL_law_530 : decode cL_law 530 = .ok (.invokestatic 110, 3) := dk_184 0 110 (dk_at dksL_law_19 17 rfl rfl)
theorem dL_law_533 : decode cL_law 533 = .ok (.istore 5, 2) := dk_54 5 (dk_at dksL_law_19 20 rfl rfl)
theorem dL_law_535 : decode cL_law 535 = .ok (.aload_n 2, 1) := dk_44 (dk_at dksL_law_19 22 rfl rfl)
theorem dL_law_536 : decode cL_law 536 = .ok (.aload_n 0, 1) := dk_42 (dk_at dksL_law_19 23 rfl rfl)
theorem dL_law_537 : decode cL_law 537 = .ok (.iload 4, 2) := dk_21 4 (dk_at dksL_law_20 0 rfl rfl)
theorem dL_law_539 : decode cL_law 539 = .ok (.iconst 1, 1) := dk_4 (dk_at dksL_law_20 2 rfl rfl)
theorem dL_law_540 : decode cL_law 540 = .ok (.iadd, 1) := dk_96 (dk_at dksL_law_20 3 rfl rfl)
theorem dL_law_541 : decode cL_law 541 = .ok (.iaload, 1) := dk_46 (dk_at dksL_law_20 4 rfl rfl)
theorem dL_law_542 : decode cL_law 542 = .ok (.aload_n 0, 1) := dk_42 (dk_at dksL_law_20 5 rfl rfl)
theorem dL_law_543 : decode cL_law 543 = .ok (.iload 4, 2) := dk_21 4 (dk_at dksL_law_20 6 rfl rfl)
theorem dL_law_545 : decode cL_law 545 = .ok (.iconst 2, 1) := dk_5 (dk_at dksL_law_20 8 rfl rfl)
theorem dL_law_546 : decode cL_law 546 = .ok (.iadd, 1) := dk_96 (dk_at dksL_law_20 9 rfl rfl)
theorem dL_law_547 : decode cL_law 547 = .ok (.iaload, 1) := dk_46 (dk_at dksL_law_20 10 rfl rfl)
theorem dL_law_548 : decode cL_law 548 = .ok (.invokevirtual 112, 3) := dk_182 0 112 (dk_at dksL_law_20 11 rfl rfl)
theorem dL_law_551 : decode cL_law 551 = .ok (.istore 6, 2) := dk_54 6 (dk_at dksL_law_20 14 rfl rfl)
theorem dL_law_553 : decode cL_law 553 = .ok (.aload_n 2, 1) := dk_44 (dk_at dksL_law_20 16 rfl rfl)
theorem dL_law_554 : decode cL_law 554 = .ok (.invokevirtual 90, 3) := dk_182 0 90 (dk_at dksL_law_20 17 rfl rfl)
theorem dL_law_557 : decode cL_law 557 = .ok (.iload 5, 2) := dk_21 5 (dk_at dksL_law_20 20 rfl rfl)
theorem dL_law_559 : decode cL_law 559 = .ok (.if_icmp .eq 5, 3) := dk_159 0 5 (dk_at dksL_law_21 0 rfl rfl)
theorem dL_law_562 : decode cL_law 562 = .ok (.iconst 0, 1) := dk_3 (dk_at dksL_law_21 3 rfl rfl)
theorem dL_law_563 : decode cL_law 563 = .ok (.ireturn, 1) := dk_172 (dk_at dksL_law_21 4 rfl rfl)
theorem dL_law_564 : decode cL_law 564 = .ok (.iload 5, 2) := dk_21 5 (dk_at dksL_law_21 5 rfl rfl)
theorem dL_law_566 : decode cL_law 566 = .ok (.ifCond .ne 15, 3) := dk_154 0 15 (dk_at dksL_law_21 7 rfl rfl)
theorem dL_law_569 : decode cL_law 569 = .ok (.aload_n 3, 1) := dk_45 (dk_at dksL_law_21 10 rfl rfl)
theorem dL_law_570 : decode cL_law 570 = .ok (.iconst 0, 1) := dk_3 (dk_at dksL_law_21 11 rfl rfl)
theorem dL_law_571 : decode cL_law 571 = .ok (.laload, 1) := dk_47 (dk_at dksL_law_21 12 rfl rfl)
theorem dL_law_572 : decode cL_law 572 = .ok (.iload 6, 2) := dk_21 6 (dk_at dksL_law_21 13 rfl rfl)
theorem dL_law_574 : decode cL_law 574 = .ok (.i2l, 1) := dk_133 (dk_at dksL_law_21 15 rfl rfl)
theorem dL_law_575 : decode cL_law 575 = .ok (.lcmp, 1) := dk_148 (dk_at dksL_law_21 16 rfl rfl)
theorem dL_law_576 : decode cL_law 576 = .ok (.ifCond .eq 5, 3) := dk_153 0 5 (dk_at dksL_law_21 17 rfl rfl)
theorem dL_law_579 : decode cL_law 579 = .ok (.iconst 0, 1) := dk_3 (dk_at dksL_law_21 20 rfl rfl)
theorem dL_law_580 : decode cL_law 580 = .ok (.ireturn, 1) := dk_172 (dk_at dksL_law_21 21 rfl rfl)
theorem dL_law_581 : decode cL_law 581 = .ok (.goto 882, 3) := dk_167 3 114 (dk_at dksL_law_22 0 rfl rfl)
theorem dL_law_584 : decode cL_law 584 = .ok (.aload_n 1, 1) := dk_43 (dk_at dksL_law_22 3 rfl rfl)
theorem dL_law_585 : decode cL_law 585 = .ok (.aload_n 0, 1) := dk_42 (dk_at dksL_law_22 4 rfl rfl)
theorem dL_law_586 : decode cL_law 586 = .ok (.iload 4, 2) := dk_21 4 (dk_at dksL_law_22 5 rfl rfl)
theorem dL_law_588 : decode cL_law 588 = .ok (.iconst 1, 1) := dk_4 (dk_at dksL_law_22 7 rfl rfl)
theorem dL_law_589 : decode cL_law 589 = .ok (.iadd, 1) := dk_96 (dk_at dksL_law_22 8 rfl rfl)
theorem dL_law_590 : decode cL_law 590 = .ok (.iaload, 1) := dk_46 (dk_at dksL_law_22 9 rfl rfl)
theorem dL_law_591 : decode cL_law 591 = .ok (.aload_n 0, 1) := dk_42 (dk_at dksL_law_22 10 rfl rfl)
theorem dL_law_592 : decode cL_law 592 = .ok (.iload 4, 2) := dk_21 4 (dk_at dksL_law_22 11 rfl rfl)
theorem dL_law_594 : decode cL_law 594 = .ok (.iconst 2, 1) := dk_5 (dk_at dksL_law_22 13 rfl rfl)
theorem dL_law_595 : decode cL_law 595 = .ok (.iadd, 1) := dk_96 (dk_at dksL_law_22 14 rfl rfl)
theorem dL_law_596 : decode cL_law 596 = .ok (.iaload, 1) := dk_46 (dk_at dksL_law_22 15 rfl rfl)
theorem dL_law_597 : decode cL_law 597 = .ok (.aload_n 0, 1) := dk_42 (dk_at dksL_law_22 16 rfl rfl)
theorem dL_law_598 : decode cL_law 598 = .ok (.iload 4, 2) := dk_21 4 (dk_at dksL_law_22 17 rfl rfl)
theorem dL_law_600 : decode cL_law 600 = .ok (.iconst 3, 1) := dk_6 (dk_at dksL_law_22 19 rfl rfl)
theorem dL_law_601 : decode cL_law 601 = .ok (.iadd, 1) := dk_96 (dk_at dksL_law_22 20 rfl rfl)
theorem dL_law_602 : decode cL_law 602 = .ok (.iaload, 1) := dk_46 (dk_at dksL_law_22 21 rfl rfl)
theorem dL_law_603 : decode cL_law 603 = .ok (.aload_n 3, 1) := dk_45 (dk_at dksL_law_22 22 rfl rfl)
theorem dL_law_604 : decode cL_law 604 = .ok (.invokestatic 113, 3) := dk_184 0 113 (dk_at dksL_law_23 0 rfl rfl)
theorem dL_law_607 : decode cL_law 607 = .ok (.istore 5, 2) := dk_54 5 (dk_at dksL_law_23 3 rfl rfl)
theorem dL_law_609 : decode cL_law 609 = .ok (.aload_n 2, 1) := dk_44 (dk_at dksL_law_23 5 rfl rfl)
theorem dL_law_610 : decode cL_law 610 = .ok (.aload_n 0, 1) := dk_42 (dk_at dksL_law_23 6 rfl rfl)
theorem dL_law_611 : decode cL_law 611 = .ok (.iload 4, 2) := dk_21 4 (dk_at dksL_law_23 7 rfl rfl)
theorem dL_law_613 : decode cL_law 613 = .ok (.iconst 1, 1) := dk_4 (dk_at dksL_law_23 9 rfl rfl)
theorem dL_law_614 : decode cL_law 614 = .ok (.iadd, 1) := dk_96 (dk_at dksL_law_23 10 rfl rfl)
theorem dL_law_615 : decode cL_law 615 = .ok (.iaload, 1) := dk_46 (dk_at dksL_law_23 11 rfl rfl)
theorem dL_law_616 : decode cL_law 616 = .ok (.aload_n 0, 1) := dk_42 (dk_at dksL_law_23 12 rfl rfl)
theorem dL_law_617 : decode cL_law 617 = .ok (.iload 4, 2) := dk_21 4 (dk_at dksL_law_23 13 rfl rfl)
theorem dL_law_619 : decode cL_law 619 = .ok (.iconst 2, 1) := dk_5 (dk_at dksL_law_23 15 rfl rfl)
theorem dL_law_620 : decode cL_law 620 = .ok (.iadd, 1) := dk_96 (dk_at dksL_law_23 16 rfl rfl)
theorem dL_law_621 : decode cL_law 621 = .ok (.iaload, 1) := dk_46 (dk_at dksL_law_23 17 rfl rfl)
theorem dL_law_622 : decode cL_law 622 = .ok (.aload_n 0, 1) := dk_42 (dk_at dksL_law_23 18 rfl rfl)
theorem dL_law_623 : decode cL_law 623 = .ok (.iload 4, 2) := dk_21 4 (dk_at dksL_law_23 19 rfl rfl)
theorem dL_law_625 : decode cL_law 625 = .ok (.iconst 3, 1) := dk_6 (dk_at dksL_law_23 21 rfl rfl)
theorem dL_law_626 : decode cL_law 626 = .ok (.iadd, 1) := dk_96 (dk_at dksL_law_23 22 rfl rfl)
theorem dL_law_627 : decode cL_law 627 = .ok (.iaload, 1) := dk_46 (dk_at dksL_law_23 23 rfl rfl)
theorem dL_law_628 : decode cL_law 628 = .ok (.invokevirtual 116, 3) := dk_182 0 116 (dk_at dksL_law_24 0 rfl rfl)
theorem dL_law_631 : decode cL_law 631 = .ok (.istore 6, 2) := dk_54 6 (dk_at dksL_law_24 3 rfl rfl)
theorem dL_law_633 : decode cL_law 633 = .ok (.aload_n 2, 1) := dk_44 (dk_at dksL_law_24 5 rfl rfl)
theorem dL_law_634 : decode cL_law 634 = .ok (.invokevirtual 90, 3) := dk_182 0 90 (dk_at dksL_law_24 6 rfl rfl)
theorem dL_law_637 : decode cL_law 637 = .ok (.iload 5, 2) := dk_21 5 (dk_at dksL_law_24 9 rfl rfl)
theorem dL_law_639 : decode cL_law 639 = .ok (.if_icmp .eq 5, 3) := dk_159 0 5 (dk_at dksL_law_24 11 rfl rfl)
theorem dL_law_642 : decode cL_law 642 = .ok (.iconst 0, 1) := dk_3 (dk_at dksL_law_24 14 rfl rfl)
theorem dL_law_643 : decode cL_law 643 = .ok (.ireturn, 1) := dk_172 (dk_at dksL_law_24 15 rfl rfl)
theorem dL_law_644 : decode cL_law 644 = .ok (.iload 5, 2) := dk_21 5 (dk_at dksL_law_24 16 rfl rfl)
theorem dL_law_646 : decode cL_law 646 = .ok (.ifCond .ne 15, 3) := dk_154 0 15 (dk_at dksL_law_24 18 rfl rfl)
theorem dL_law_649 : decode cL_law 649 = .ok (.aload_n 3, 1) := dk_45 (dk_at dksL_law_24 21 rfl rfl)
theorem dL_law_650 : decode cL_law 650 = .ok (.iconst 0, 1) := dk_3 (dk_at dksL_law_24 22 rfl rfl)
theorem dL_law_651 : decode cL_law 651 = .ok (.laload, 1) := dk_47 (dk_at dksL_law_24 23 rfl rfl)
theorem dL_law_652 : decode cL_law 652 = .ok (.iload 6, 2) := dk_21 6 (dk_at dksL_law_25 0 rfl rfl)
theorem dL_law_654 : decode cL_law 654 = .ok (.i2l, 1) := dk_133 (dk_at dksL_law_25 2 rfl rfl)
theorem dL_law_655 : decode cL_law 655 = .ok (.lcmp, 1) := dk_148 (dk_at dksL_law_25 3 rfl rfl)
theorem dL_law_656 : decode cL_law 656 = .ok (.ifCond .eq 5, 3) := dk_153 0 5 (dk_at dksL_law_25 4 rfl rfl)
theorem dL_law_659 : decode cL_law 659 = .ok (.iconst 0, 1) := dk_3 (dk_at dksL_law_25 7 rfl rfl)
theorem dL_law_660 : decode cL_law 660 = .ok (.ireturn, 1) := dk_172 (dk_at dksL_law_25 8 rfl rfl)
theorem dL_law_661 : decode cL_law 661 = .ok (.goto 802, 3) := dk_167 3 34 (dk_at dksL_law_25 9 rfl rfl)
theorem dL_law_664 : decode cL_law 664 = .ok (.aload_n 1, 1) := dk_43 (dk_at dksL_law_25 12 rfl rfl)
theorem dL_law_665 : decode cL_law 665 = .ok (.aload_n 0, 1) := dk_42 (dk_at dksL_law_25 13 rfl rfl)
theorem dL_law_666 : decode cL_law 666 = .ok (.iload 4, 2) := dk_21 4 (dk_at dksL_law_25 14 rfl rfl)
theorem dL_law_668 : decode cL_law 668 = .ok (.iconst 1, 1) := dk_4 (dk_at dksL_law_25 16 rfl rfl)
theorem dL_law_669 : decode cL_law 669 = .ok (.iadd, 1) := dk_96 (dk_at dksL_law_25 17 rfl rfl)
theorem dL_law_670 : decode cL_law 670 = .ok (.iaload, 1) := dk_46 (dk_at dksL_law_25 18 rfl rfl)
theorem dL_law_671 : decode cL_law 671 = .ok (.aload_n 0, 1) := dk_42 (dk_at dksL_law_25 19 rfl rfl)
theorem dL_law_672 : decode cL_law 672 = .ok (.iload 4, 2) := dk_21 4 (dk_at dksL_law_25 20 rfl rfl)
theorem dL_law_674 : decode cL_law 674 = .ok (.iconst 2, 1) := dk_5 (dk_at dksL_law_25 22 rfl rfl)
theorem dL_law_675 : decode cL_law 675 = .ok (.iadd, 1) := dk_96 (dk_at dksL_law_25 23 rfl rfl)
theorem dL_law_676 : decode cL_law 676 = .ok (.iaload, 1) := dk_46 (dk_at dksL_law_26 0 rfl rfl)
theorem dL_law_677 : decode cL_law 677 = .ok (.aload_n 3, 1) := dk_45 (dk_at dksL_law_26 1 rfl rfl)
theorem dL_law_678 : decode cL_law 678 = .ok (.invokestatic 117, 3) := dk_184 0 117 (dk_at dksL_law_26 2 rfl rfl)
theorem dL_law_681 : decode cL_law 681 = .ok (.istore 5, 2) := dk_54 5 (dk_at dksL_law_26 5 rfl rfl)
theorem dL_law_683 : decode cL_law 683 = .ok (.aload_n 2, 1) := dk_44 (dk_at dksL_law_26 7 rfl rfl)
theorem dL_law_684 : decode cL_law 684 = .ok (.aload_n 0, 1) := dk_42 (dk_at dksL_law_26 8 rfl rfl)
theorem dL_law_685 : decode cL_law 685 = .ok (.iload 4, 2) := dk_21 4 (dk_at dksL_law_26 9 rfl rfl)
theorem dL_law_687 : decode cL_law 687 = .ok (.iconst 1, 1) := dk_4 (dk_at dksL_law_26 11 rfl rfl)
theorem dL_law_688 : decode cL_law 688 = .ok (.iadd, 1) := dk_96 (dk_at dksL_law_26 12 rfl rfl)
theorem dL_law_689 : decode cL_law 689 = .ok (.iaload, 1) := dk_46 (dk_at dksL_law_26 13 rfl rfl)
theorem dL_law_690 : decode cL_law 690 = .ok (.aload_n 0, 1) := dk_42 (dk_at dksL_law_26 14 rfl rfl)
theorem dL_law_691 : decode cL_law 691 = .ok (.iload 4, 2) := dk_21 4 (dk_at dksL_law_26 15 rfl rfl)
theorem dL_law_693 : decode cL_law 693 = .ok (.iconst 2, 1) := dk_5 (dk_at dksL_law_26 17 rfl rfl)
theorem dL_law_694 : decode cL_law 694 = .ok (.iadd, 1) := dk_96 (dk_at dksL_law_26 18 rfl rfl)
theorem dL_law_695 : decode cL_law 695 = .ok (.iaload, 1) := dk_46 (dk_at dksL_law_26 19 rfl rfl)
theorem dL_law_696 : decode cL_law 696 = .ok (.invokevirtual 119, 3) := dk_182 0 119 (dk_at dksL_law_26 20 rfl rfl)
theorem dL_law_699 : decode cL_law 699 = .ok (.istore 6, 2) := dk_54 6 (dk_at dksL_law_27 0 rfl rfl)
theorem dL_law_701 : decode cL_law 701 = .ok (.aload_n 2, 1) := dk_44 (dk_at dksL_law_27 2 rfl rfl)
theorem dL_law_702 : decode cL_law 702 = .ok (.invokevirtual 90, 3) := dk_182 0 90 (dk_at dksL_law_27 3 rfl rfl)
theorem dL_law_705 : decode cL_law 705 = .ok (.iload 5, 2) := dk_21 5 (dk_at dksL_law_27 6 rfl rfl)
theorem dL_law_707 : decode cL_law 707 = .ok (.if_icmp .eq 5, 3) := dk_159 0 5 (dk_at dksL_law_27 8 rfl rfl)
theorem dL_law_710 : decode cL_law 710 = .ok (.iconst 0, 1) := dk_3 (dk_at dksL_law_27 11 rfl rfl)
theorem dL_law_711 : decode cL_law 711 = .ok (.ireturn, 1) := dk_172 (dk_at dksL_law_27 12 rfl rfl)
theorem dL_law_712 : decode cL_law 712 = .ok (.iload 5, 2) := dk_21 5 (dk_at dksL_law_27 13 rfl rfl)
theorem dL_law_714 : decode cL_law 714 = .ok (.ifCond .ne 15, 3) := dk_154 0 15 (dk_at dksL_law_27 15 rfl rfl)
theorem dL_law_717 : decode cL_law 717 = .ok (.aload_n 3, 1) := dk_45 (dk_at dksL_law_27 18 rfl rfl)
theorem dL_law_718 : decode cL_law 718 = .ok (.iconst 0, 1) := dk_3 (dk_at dksL_law_27 19 rfl rfl)
theorem dL_law_719 : decode cL_law 719 = .ok (.laload, 1) := dk_47 (dk_at dksL_law_27 20 rfl rfl)
theorem dL_law_720 : decode cL_law 720 = .ok (.iload 6, 2) := dk_21 6 (dk_at dksL_law_27 21 rfl rfl)
theorem dL_law_722 : decode cL_law 722 = .ok (.i2l, 1) := dk_133 (dk_at dksL_law_27 23 rfl rfl)
theorem dL_law_723 : decode cL_law 723 = .ok (.lcmp, 1) := dk_148 (dk_at dksL_law_28 0 rfl rfl)
theorem dL_law_724 : decode cL_law 724 = .ok (.ifCond .eq 5, 3) := dk_153 0 5 (dk_at dksL_law_28 1 rfl rfl)
theorem dL_law_727 : decode cL_law 727 = .ok (.iconst 0, 1) := dk_3 (dk_at dksL_law_28 4 rfl rfl)
theorem dL_law_728 : decode cL_law 728 = .ok (.ireturn, 1) := dk_172 (dk_at dksL_law_28 5 rfl rfl)
theorem dL_law_729 : decode cL_law 729 = .ok (.goto 734, 3) := dk_167 2 222 (dk_at dksL_law_28 6 rfl rfl)
theorem dL_law_732 : decode cL_law 732 = .ok (.aload_n 1, 1) := dk_43 (dk_at dksL_law_28 9 rfl rfl)
theorem dL_law_733 : decode cL_law 733 = .ok (.aload_n 0, 1) := dk_42 (dk_at dksL_law_28 10 rfl rfl)
theorem dL_law_734 : decode cL_law 734 = .ok (.iload 4, 2) := dk_21 4 (dk_at dksL_law_28 11 rfl rfl)
theorem dL_law_736 : decode cL_law 736 = .ok (.iconst 1, 1) := dk_4 (dk_at dksL_law_28 13 rfl rfl)
theorem dL_law_737 : decode cL_law 737 = .ok (.iadd, 1) := dk_96 (dk_at dksL_law_28 14 rfl rfl)
theorem dL_law_738 : decode cL_law 738 = .ok (.iaload, 1) := dk_46 (dk_at dksL_law_28 15 rfl rfl)
theorem dL_law_739 : decode cL_law 739 = .ok (.aload_n 0, 1) := dk_42 (dk_at dksL_law_28 16 rfl rfl)
theorem dL_law_740 : decode cL_law 740 = .ok (.iload 4, 2) := dk_21 4 (dk_at dksL_law_28 17 rfl rfl)
theorem dL_law_742 : decode cL_law 742 = .ok (.iconst 2, 1) := dk_5 (dk_at dksL_law_28 19 rfl rfl)
theorem dL_law_743 : decode cL_law 743 = .ok (.iadd, 1) := dk_96 (dk_at dksL_law_28 20 rfl rfl)
theorem dL_law_744 : decode cL_law 744 = .ok (.iaload, 1) := dk_46 (dk_at dksL_law_28 21 rfl rfl)
theorem dL_law_745 : decode cL_law 745 = .ok (.aload_n 3, 1) := dk_45 (dk_at dksL_law_28 22 rfl rfl)
theorem dL_law_746 : decode cL_law 746 = .ok (.invokestatic 120, 3) := dk_184 0 120 (dk_at dksL_law_29 0 rfl rfl)
theorem dL_law_749 : decode cL_law 749 = .ok (.istore 5, 2) := dk_54 5 (dk_at dksL_law_29 3 rfl rfl)
theorem dL_law_751 : decode cL_law 751 = .ok (.aload_n 2, 1) := dk_44 (dk_at dksL_law_29 5 rfl rfl)
theorem dL_law_752 : decode cL_law 752 = .ok (.aload_n 0, 1) := dk_42 (dk_at dksL_law_29 6 rfl rfl)
theorem dL_law_753 : decode cL_law 753 = .ok (.iload 4, 2) := dk_21 4 (dk_at dksL_law_29 7 rfl rfl)
theorem dL_law_755 : decode cL_law 755 = .ok (.iconst 1, 1) := dk_4 (dk_at dksL_law_29 9 rfl rfl)
theorem dL_law_756 : decode cL_law 756 = .ok (.iadd, 1) := dk_96 (dk_at dksL_law_29 10 rfl rfl)
theorem dL_law_757 : decode cL_law 757 = .ok (.iaload, 1) := dk_46 (dk_at dksL_law_29 11 rfl rfl)
theorem dL_law_758 : decode cL_law 758 = .ok (.aload_n 0, 1) := dk_42 (dk_at dksL_law_29 12 rfl rfl)
theorem dL_law_759 : decode cL_law 759 = .ok (.iload 4, 2) := dk_21 4 (dk_at dksL_law_29 13 rfl rfl)
theorem dL_law_761 : decode cL_law 761 = .ok (.iconst 2, 1) := dk_5 (dk_at dksL_law_29 15 rfl rfl)
theorem dL_law_762 : decode cL_law 762 = .ok (.iadd, 1) := dk_96 (dk_at dksL_law_29 16 rfl rfl)
theorem dL_law_763 : decode cL_law 763 = .ok (.iaload, 1) := dk_46 (dk_at dksL_law_29 17 rfl rfl)
theorem dL_law_764 : decode cL_law 764 = .ok (.invokevirtual 122, 3) := dk_182 0 122 (dk_at dksL_law_29 18 rfl rfl)
theorem dL_law_767 : decode cL_law 767 = .ok (.istore 6, 2) := dk_54 6 (dk_at dksL_law_29 21 rfl rfl)
theorem dL_law_769 : decode cL_law 769 = .ok (.aload_n 2, 1) := dk_44 (dk_at dksL_law_29 23 rfl rfl)
theorem dL_law_770 : decode cL_law 770 = .ok (.invokevirtual 90, 3) := dk_182 0 90 (dk_at dksL_law_30 0 rfl rfl)
theorem dL_law_773 : decode cL_law 773 = .ok (.iload 5, 2) := dk_21 5 (dk_at dksL_law_30 3 rfl rfl)
theorem dL_law_775 : decode cL_law 775 = .ok (.if_icmp .eq 5, 3) := dk_159 0 5 (dk_at dksL_law_30 5 rfl rfl)
theorem dL_law_778 : decode cL_law 778 = .ok (.iconst 0, 1) := dk_3 (dk_at dksL_law_30 8 rfl rfl)
theorem dL_law_779 : decode cL_law 779 = .ok (.ireturn, 1) := dk_172 (dk_at dksL_law_30 9 rfl rfl)
theorem dL_law_780 : decode cL_law 780 = .ok (.iload 5, 2) := dk_21 5 (dk_at dksL_law_30 10 rfl rfl)
theorem dL_law_782 : decode cL_law 782 = .ok (.ifCond .ne 15, 3) := dk_154 0 15 (dk_at dksL_law_30 12 rfl rfl)
theorem dL_law_785 : decode cL_law 785 = .ok (.aload_n 3, 1) := dk_45 (dk_at dksL_law_30 15 rfl rfl)
theorem dL_law_786 : decode cL_law 786 = .ok (.iconst 0, 1) := dk_3 (dk_at dksL_law_30 16 rfl rfl)
theorem dL_law_787 : decode cL_law 787 = .ok (.laload, 1) := dk_47 (dk_at dksL_law_30 17 rfl rfl)
theorem dL_law_788 : decode cL_law 788 = .ok (.iload 6, 2) := dk_21 6 (dk_at dksL_law_30 18 rfl rfl)
theorem dL_law_790 : decode cL_law 790 = .ok (.i2l, 1) := dk_133 (dk_at dksL_law_30 20 rfl rfl)
theorem dL_law_791 : decode cL_law 791 = .ok (.lcmp, 1) := dk_148 (dk_at dksL_law_30 21 rfl rfl)
theorem dL_law_792 : decode cL_law 792 = .ok (.ifCond .eq 5, 3) := dk_153 0 5 (dk_at dksL_law_31 0 rfl rfl)
theorem dL_law_795 : decode cL_law 795 = .ok (.iconst 0, 1) := dk_3 (dk_at dksL_law_31 3 rfl rfl)
theorem dL_law_796 : decode cL_law 796 = .ok (.ireturn, 1) := dk_172 (dk_at dksL_law_31 4 rfl rfl)
theorem dL_law_797 : decode cL_law 797 = .ok (.goto 666, 3) := dk_167 2 154 (dk_at dksL_law_31 5 rfl rfl)
theorem dL_law_800 : decode cL_law 800 = .ok (.aload_n 1, 1) := dk_43 (dk_at dksL_law_31 8 rfl rfl)
theorem dL_law_801 : decode cL_law 801 = .ok (.aload_n 0, 1) := dk_42 (dk_at dksL_law_31 9 rfl rfl)
theorem dL_law_802 : decode cL_law 802 = .ok (.iload 4, 2) := dk_21 4 (dk_at dksL_law_31 10 rfl rfl)
theorem dL_law_804 : decode cL_law 804 = .ok (.iconst 1, 1) := dk_4 (dk_at dksL_law_31 12 rfl rfl)
theorem dL_law_805 : decode cL_law 805 = .ok (.iadd, 1) := dk_96 (dk_at dksL_law_31 13 rfl rfl)
theorem dL_law_806 : decode cL_law 806 = .ok (.iaload, 1) := dk_46 (dk_at dksL_law_31 14 rfl rfl)
theorem dL_law_807 : decode cL_law 807 = .ok (.aload_n 0, 1) := dk_42 (dk_at dksL_law_31 15 rfl rfl)
theorem dL_law_808 : decode cL_law 808 = .ok (.iload 4, 2) := dk_21 4 (dk_at dksL_law_31 16 rfl rfl)
theorem dL_law_810 : decode cL_law 810 = .ok (.iconst 2, 1) := dk_5 (dk_at dksL_law_31 18 rfl rfl)
theorem dL_law_811 : decode cL_law 811 = .ok (.iadd, 1) := dk_96 (dk_at dksL_law_31 19 rfl rfl)
theorem dL_law_812 : decode cL_law 812 = .ok (.iaload, 1) := dk_46 (dk_at dksL_law_31 20 rfl rfl)
theorem dL_law_813 : decode cL_law 813 = .ok (.aload_n 3, 1) := dk_45 (dk_at dksL_law_31 21 rfl rfl)
theorem dL_law_814 : decode cL_law 814 = .ok (.invokestatic 123, 3) := dk_184 0 123 (dk_at dksL_law_32 0 rfl rfl)
theorem dL_law_817 : decode cL_law 817 = .ok (.istore 5, 2) := dk_54 5 (dk_at dksL_law_32 3 rfl rfl)
theorem dL_law_819 : decode cL_law 819 = .ok (.aload_n 2, 1) := dk_44 (dk_at dksL_law_32 5 rfl rfl)
theorem dL_law_820 : decode cL_law 820 = .ok (.aload_n 0, 1) := dk_42 (dk_at dksL_law_32 6 rfl rfl)
theorem dL_law_821 : decode cL_law 821 = .ok (.iload 4, 2) := dk_21 4 (dk_at dksL_law_32 7 rfl rfl)
theorem dL_law_823 : decode cL_law 823 = .ok (.iconst 1, 1) := dk_4 (dk_at dksL_law_32 9 rfl rfl)
theorem dL_law_824 : decode cL_law 824 = .ok (.iadd, 1) := dk_96 (dk_at dksL_law_32 10 rfl rfl)
theorem dL_law_825 : decode cL_law 825 = .ok (.iaload, 1) := dk_46 (dk_at dksL_law_32 11 rfl rfl)
theorem dL_law_826 : decode cL_law 826 = .ok (.aload_n 0, 1) := dk_42 (dk_at dksL_law_32 12 rfl rfl)
theorem dL_law_827 : decode cL_law 827 = .ok (.iload 4, 2) := dk_21 4 (dk_at dksL_law_32 13 rfl rfl)
theorem dL_law_829 : decode cL_law 829 = .ok (.iconst 2, 1) := dk_5 (dk_at dksL_law_32 15 rfl rfl)
theorem dL_law_830 : decode cL_law 830 = .ok (.iadd, 1) := dk_96 (dk_at dksL_law_32 16 rfl rfl)
theorem dL_law_831 : decode cL_law 831 = .ok (.iaload, 1) := dk_46 (dk_at dksL_law_32 17 rfl rfl)
theorem dL_law_832 : decode cL_law 832 = .ok (.invokevirtual 125, 3) := dk_182 0 125 (dk_at dksL_law_32 18 rfl rfl)
theorem dL_law_835 : decode cL_law 835 = .ok (.istore 6, 2) := dk_54 6 (dk_at dksL_law_32 21 rfl rfl)
theorem dL_law_837 : decode cL_law 837 = .ok (.aload_n 2, 1) := dk_44 (dk_at dksL_law_32 23 rfl rfl)
theorem dL_law_838 : decode cL_law 838 = .ok (.invokevirtual 90, 3) := dk_182 0 90 (dk_at dksL_law_33 0 rfl rfl)
theorem dL_law_841 : decode cL_law 841 = .ok (.iload 5, 2) := dk_21 5 (dk_at dksL_law_33 3 rfl rfl)
theorem dL_law_843 : decode cL_law 843 = .ok (.if_icmp .eq 5, 3) := dk_159 0 5 (dk_at dksL_law_33 5 rfl rfl)
theorem dL_law_846 : decode cL_law 846 = .ok (.iconst 0, 1) := dk_3 (dk_at dksL_law_33 8 rfl rfl)
theorem dL_law_847 : decode cL_law 847 = .ok (.ireturn, 1) := dk_172 (dk_at dksL_law_33 9 rfl rfl)
theorem dL_law_848 : decode cL_law 848 = .ok (.iload 5, 2) := dk_21 5 (dk_at dksL_law_33 10 rfl rfl)
theorem dL_law_850 : decode cL_law 850 = .ok (.ifCond .ne 15, 3) := dk_154 0 15 (dk_at dksL_law_33 12 rfl rfl)
theorem dL_law_853 : decode cL_law 853 = .ok (.aload_n 3, 1) := dk_45 (dk_at dksL_law_33 15 rfl rfl)
theorem dL_law_854 : decode cL_law 854 = .ok (.iconst 0, 1) := dk_3 (dk_at dksL_law_33 16 rfl rfl)
theorem dL_law_855 : decode cL_law 855 = .ok (.laload, 1) := dk_47 (dk_at dksL_law_33 17 rfl rfl)
theorem dL_law_856 : decode cL_law 856 = .ok (.iload 6, 2) := dk_21 6 (dk_at dksL_law_33 18 rfl rfl)
theorem dL_law_858 : decode cL_law 858 = .ok (.i2l, 1) := dk_133 (dk_at dksL_law_33 20 rfl rfl)
theorem dL_law_859 : decode cL_law 859 = .ok (.lcmp, 1) := dk_148 (dk_at dksL_law_33 21 rfl rfl)
theorem dL_law_860 : decode cL_law 860 = .ok (.ifCond .eq 5, 3) := dk_153 0 5 (dk_at dksL_law_34 0 rfl rfl)
theorem dL_law_863 : decode cL_law 863 = .ok (.iconst 0, 1) := dk_3 (dk_at dksL_law_34 3 rfl rfl)
theorem dL_law_864 : decode cL_law 864 = .ok (.ireturn, 1) := dk_172 (dk_at dksL_law_34 4 rfl rfl)
theorem dL_law_865 : decode cL_law 865 = .ok (.goto 598, 3) := dk_167 2 86 (dk_at dksL_law_34 5 rfl rfl)
theorem dL_law_868 : decode cL_law 868 = .ok (.aload_n 1, 1) := dk_43 (dk_at dksL_law_34 8 rfl rfl)
theorem dL_law_869 : decode cL_law 869 = .ok (.aload_n 0, 1) := dk_42 (dk_at dksL_law_34 9 rfl rfl)
theorem dL_law_870 : decode cL_law 870 = .ok (.iload 4, 2) := dk_21 4 (dk_at dksL_law_34 10 rfl rfl)
theorem dL_law_872 : decode cL_law 872 = .ok (.iconst 1, 1) := dk_4 (dk_at dksL_law_34 12 rfl rfl)
theorem dL_law_873 : decode cL_law 873 = .ok (.iadd, 1) := dk_96 (dk_at dksL_law_34 13 rfl rfl)
theorem dL_law_874 : decode cL_law 874 = .ok (.iaload, 1) := dk_46 (dk_at dksL_law_34 14 rfl rfl)
theorem dL_law_875 : decode cL_law 875 = .ok (.aload_n 0, 1) := dk_42 (dk_at dksL_law_34 15 rfl rfl)
theorem dL_law_876 : decode cL_law 876 = .ok (.iload 4, 2) := dk_21 4 (dk_at dksL_law_34 16 rfl rfl)
theorem dL_law_878 : decode cL_law 878 = .ok (.iconst 2, 1) := dk_5 (dk_at dksL_law_34 18 rfl rfl)
theorem dL_law_879 : decode cL_law 879 = .ok (.iadd, 1) := dk_96 (dk_at dksL_law_34 19 rfl rfl)
theorem dL_law_880 : decode cL_law 880 = .ok (.iaload, 1) := dk_46 (dk_at dksL_law_34 20 rfl rfl)
theorem dL_law_881 : decode cL_law 881 = .ok (.aload_n 3, 1) := dk_45 (dk_at dksL_law_34 21 rfl rfl)
theorem dL_law_882 : decode cL_law 882 = .ok (.invokestatic 126, 3) := dk_184 0 126 (dk_at dksL_law_35 0 rfl rfl)
theorem dL_law_885 : decode cL_law 885 = .ok (.istore 5, 2) := dk_54 5 (dk_at dksL_law_35 3 rfl rfl)
theorem dL_law_887 : decode cL_law 887 = .ok (.aload_n 2, 1) := dk_44 (dk_at dksL_law_35 5 rfl rfl)
theorem dL_law_888 : decode cL_law 888 = .ok (.aload_n 0, 1) := dk_42 (dk_at dksL_law_35 6 rfl rfl)
theorem dL_law_889 : decode cL_law 889 = .ok (.iload 4, 2) := dk_21 4 (dk_at dksL_law_35 7 rfl rfl)
theorem dL_law_891 : decode cL_law 891 = .ok (.iconst 1, 1) := dk_4 (dk_at dksL_law_35 9 rfl rfl)
theorem dL_law_892 : decode cL_law 892 = .ok (.iadd, 1) := dk_96 (dk_at dksL_law_35 10 rfl rfl)
theorem dL_law_893 : decode cL_law 893 = .ok (.iaload, 1) := dk_46 (dk_at dksL_law_35 11 rfl rfl)
theorem dL_law_894 : decode cL_law 894 = .ok (.aload_n 0, 1) := dk_42 (dk_at dksL_law_35 12 rfl rfl)
theorem dL_law_895 : decode cL_law 895 = .ok (.iload 4, 2) := dk_21 4 (dk_at dksL_law_35 13 rfl rfl)
theorem dL_law_897 : decode cL_law 897 = .ok (.iconst 2, 1) := dk_5 (dk_at dksL_law_35 15 rfl rfl)
theorem dL_law_898 : decode cL_law 898 = .ok (.iadd, 1) := dk_96 (dk_at dksL_law_35 16 rfl rfl)
theorem dL_law_899 : decode cL_law 899 = .ok (.iaload, 1) := dk_46 (dk_at dksL_law_35 17 rfl rfl)
theorem dL_law_900 : decode cL_law 900 = .ok (.invokevirtual 128, 3) := dk_182 0 128 (dk_at dksL_law_35 18 rfl rfl)
theorem dL_law_903 : decode cL_law 903 = .ok (.istore 6, 2) := dk_54 6 (dk_at dksL_law_35 21 rfl rfl)
theorem dL_law_905 : decode cL_law 905 = .ok (.aload_n 2, 1) := dk_44 (dk_at dksL_law_35 23 rfl rfl)
theorem dL_law_906 : decode cL_law 906 = .ok (.invokevirtual 90, 3) := dk_182 0 90 (dk_at dksL_law_36 0 rfl rfl)
theorem dL_law_909 : decode cL_law 909 = .ok (.iload 5, 2) := dk_21 5 (dk_at dksL_law_36 3 rfl rfl)
theorem dL_law_911 : decode cL_law 911 = .ok (.if_icmp .eq 5, 3) := dk_159 0 5 (dk_at dksL_law_36 5 rfl rfl)
theorem dL_law_914 : decode cL_law 914 = .ok (.iconst 0, 1) := dk_3 (dk_at dksL_law_36 8 rfl rfl)
theorem dL_law_915 : decode cL_law 915 = .ok (.ireturn, 1) := dk_172 (dk_at dksL_law_36 9 rfl rfl)
theorem dL_law_916 : decode cL_law 916 = .ok (.iload 5, 2) := dk_21 5 (dk_at dksL_law_36 10 rfl rfl)
theorem dL_law_918 : decode cL_law 918 = .ok (.ifCond .ne 15, 3) := dk_154 0 15 (dk_at dksL_law_36 12 rfl rfl)
theorem dL_law_921 : decode cL_law 921 = .ok (.aload_n 3, 1) := dk_45 (dk_at dksL_law_36 15 rfl rfl)
theorem dL_law_922 : decode cL_law 922 = .ok (.iconst 0, 1) := dk_3 (dk_at dksL_law_36 16 rfl rfl)
theorem dL_law_923 : decode cL_law 923 = .ok (.laload, 1) := dk_47 (dk_at dksL_law_36 17 rfl rfl)
theorem dL_law_924 : decode cL_law 924 = .ok (.iload 6, 2) := dk_21 6 (dk_at dksL_law_36 18 rfl rfl)
theorem dL_law_926 : decode cL_law 926 = .ok (.i2l, 1) := dk_133 (dk_at dksL_law_36 20 rfl rfl)
theorem dL_law_927 : decode cL_law 927 = .ok (.lcmp, 1) := dk_148 (dk_at dksL_law_36 21 rfl rfl)
theorem dL_law_928 : decode cL_law 928 = .ok (.ifCond .eq 5, 3) := dk_153 0 5 (dk_at dksL_law_37 0 rfl rfl)
theorem dL_law_931 : decode cL_law 931 = .ok (.iconst 0, 1) := dk_3 (dk_at dksL_law_37 3 rfl rfl)
theorem dL_law_932 : decode cL_law 932 = .ok (.ireturn, 1) := dk_172 (dk_at dksL_law_37 4 rfl rfl)
theorem dL_law_933 : decode cL_law 933 = .ok (.goto 530, 3) := dk_167 2 18 (dk_at dksL_law_37 5 rfl rfl)
theorem dL_law_936 : decode cL_law 936 = .ok (.aload_n 1, 1) := dk_43 (dk_at dksL_law_37 8 rfl rfl)
theorem dL_law_937 : decode cL_law 937 = .ok (.aload_n 0, 1) := dk_42 (dk_at dksL_law_37 9 rfl rfl)
theorem dL_law_938 : decode cL_law 938 = .ok (.iload 4, 2) := dk_21 4 (dk_at dksL_law_37 10 rfl rfl)
theorem dL_law_940 : decode cL_law 940 = .ok (.iconst 1, 1) := dk_4 (dk_at dksL_law_37 12 rfl rfl)
theorem dL_law_941 : decode cL_law 941 = .ok (.iadd, 1) := dk_96 (dk_at dksL_law_37 13 rfl rfl)
theorem dL_law_942 : decode cL_law 942 = .ok (.iaload, 1) := dk_46 (dk_at dksL_law_37 14 rfl rfl)
theorem dL_law_943 : decode cL_law 943 = .ok (.aload_n 0, 1) := dk_42 (dk_at dksL_law_37 15 rfl rfl)
theorem dL_law_944 : decode cL_law 944 = .ok (.iload 4, 2) := dk_21 4 (dk_at dksL_law_37 16 rfl rfl)
theorem dL_law_946 : decode cL_law 946 = .ok (.iconst 2, 1) := dk_5 (dk_at dksL_law_37 18 rfl rfl)
theorem dL_law_947 : decode cL_law 947 = .ok (.iadd, 1) := dk_96 (dk_at dksL_law_37 19 rfl rfl)
theorem dL_law_948 : decode cL_law 948 = .ok (.iaload, 1) := dk_46 (dk_at dksL_law_37 20 rfl rfl)
theorem dL_law_949 : decode cL_law 949 = .ok (.ifCond .eq 7, 3) := dk_153 0 7 (dk_at dksL_law_37 21 rfl rfl)
theorem dL_law_952 : decode cL_law 952 = .ok (.iconst 1, 1) := dk_4 (dk_at dksL_law_38 0 rfl rfl)
theorem dL_law_953 : decode cL_law 953 = .ok (.goto 4, 3) := dk_167 0 4 (dk_at dksL_law_38 1 rfl rfl)
theorem dL_law_956 : decode cL_law 956 = .ok (.iconst 0, 1) := dk_3 (dk_at dksL_law_38 4 rfl rfl)
theorem dL_law_957 : decode cL_law 957 = .ok (.aload_n 3, 1) := dk_45 (dk_at dksL_law_38 5 rfl rfl)
theorem dL_law_958 : decode cL_law 958 = .ok (.invokestatic 129, 3) := dk_184 0 129 (dk_at dksL_law_38 6 rfl rfl)
theorem dL_law_961 : decode cL_law 961 = .ok (.istore 5, 2) := dk_54 5 (dk_at dksL_law_38 9 rfl rfl)
theorem dL_law_963 : decode cL_law 963 = .ok (.aload_n 2, 1) := dk_44 (dk_at dksL_law_38 11 rfl rfl)
theorem dL_law_964 : decode cL_law 964 = .ok (.aload_n 0, 1) := dk_42 (dk_at dksL_law_38 12 rfl rfl)
theorem dL_law_965 : decode cL_law 965 = .ok (.iload 4, 2) := dk_21 4 (dk_at dksL_law_38 13 rfl rfl)
theorem dL_law_967 : decode cL_law 967 = .ok (.iconst 1, 1) := dk_4 (dk_at dksL_law_38 15 rfl rfl)
theorem dL_law_968 : decode cL_law 968 = .ok (.iadd, 1) := dk_96 (dk_at dksL_law_38 16 rfl rfl)
theorem dL_law_969 : decode cL_law 969 = .ok (.iaload, 1) := dk_46 (dk_at dksL_law_38 17 rfl rfl)
theorem dL_law_970 : decode cL_law 970 = .ok (.aload_n 0, 1) := dk_42 (dk_at dksL_law_38 18 rfl rfl)
theorem dL_law_971 : decode cL_law 971 = .ok (.iload 4, 2) := dk_21 4 (dk_at dksL_law_38 19 rfl rfl)
theorem dL_law_973 : decode cL_law 973 = .ok (.iconst 2, 1) := dk_5 (dk_at dksL_law_38 21 rfl rfl)
theorem dL_law_974 : decode cL_law 974 = .ok (.iadd, 1) := dk_96 (dk_at dksL_law_38 22 rfl rfl)
theorem dL_law_975 : decode cL_law 975 = .ok (.iaload, 1) := dk_46 (dk_at dksL_law_38 23 rfl rfl)
theorem dL_law_976 : decode cL_law 976 = .ok (.ifCond .eq 7, 3) := dk_153 0 7 (dk_at dksL_law_39 0 rfl rfl)
theorem dL_law_979 : decode cL_law 979 = .ok (.iconst 1, 1) := dk_4 (dk_at dksL_law_39 3 rfl rfl)
theorem dL_law_980 : decode cL_law 980 = .ok (.goto 4, 3) := dk_167 0 4 (dk_at dksL_law_39 4 rfl rfl)
theorem dL_law_983 : decode cL_law 983 = .ok (.iconst 0, 1) := dk_3 (dk_at dksL_law_39 7 rfl rfl)
theorem dL_law_984 : decode cL_law 984 = .ok (.invokevirtual 132, 3) := dk_182 0 132 (dk_at dksL_law_39 8 rfl rfl)
theorem dL_law_987 : decode cL_law 987 = .ok (.istore 6, 2) := dk_54 6 (dk_at dksL_law_39 11 rfl rfl)
theorem dL_law_989 : decode cL_law 989 = .ok (.aload_n 2, 1) := dk_44 (dk_at dksL_law_39 13 rfl rfl)
theorem dL_law_990 : decode cL_law 990 = .ok (.invokevirtual 90, 3) := dk_182 0 90 (dk_at dksL_law_39 14 rfl rfl)
theorem dL_law_993 : decode cL_law 993 = .ok (.iload 5, 2) := dk_21 5 (dk_at dksL_law_39 17 rfl rfl)
theorem dL_law_995 : decode cL_law 995 = .ok (.if_icmp .eq 5, 3) := dk_159 0 5 (dk_at dksL_law_39 19 rfl rfl)
theorem dL_law_998 : decode cL_law 998 = .ok (.iconst 0, 1) := dk_3 (dk_at dksL_law_39 22 rfl rfl)
theorem dL_law_999 : decode cL_law 999 = .ok (.ireturn, 1) := dk_172 (dk_at dksL_law_39 23 rfl rfl)
theorem dL_law_1000 : decode cL_law 1000 = .ok (.iload 5, 2) := dk_21 5 (dk_at dksL_law_40 0 rfl rfl)
theorem dL_law_1002 : decode cL_law 1002 = .ok (.ifCond .ne 22, 3) := dk_154 0 22 (dk_at dksL_law_40 2 rfl rfl)
theorem dL_law_1005 : decode cL_law 1005 = .ok (.aload_n 3, 1) := dk_45 (dk_at dksL_law_40 5 rfl rfl)
theorem dL_law_1006 : decode cL_law 1006 = .ok (.iconst 0, 1) := dk_3 (dk_at dksL_law_40 6 rfl rfl)
theorem dL_law_1007 : decode cL_law 1007 = .ok (.laload, 1) := dk_47 (dk_at dksL_law_40 7 rfl rfl)
theorem dL_law_1008 : decode cL_law 1008 = .ok (.iload 6, 2) := dk_21 6 (dk_at dksL_law_40 8 rfl rfl)
theorem dL_law_1010 : decode cL_law 1010 = .ok (.ifCond .eq 7, 3) := dk_153 0 7 (dk_at dksL_law_40 10 rfl rfl)
theorem dL_law_1013 : decode cL_law 1013 = .ok (.lconst 1, 1) := dk_10 (dk_at dksL_law_40 13 rfl rfl)
theorem dL_law_1014 : decode cL_law 1014 = .ok (.goto 4, 3) := dk_167 0 4 (dk_at dksL_law_40 14 rfl rfl)
theorem dL_law_1017 : decode cL_law 1017 = .ok (.lconst 0, 1) := dk_9 (dk_at dksL_law_40 17 rfl rfl)
theorem dL_law_1018 : decode cL_law 1018 = .ok (.lcmp, 1) := dk_148 (dk_at dksL_law_40 18 rfl rfl)
theorem dL_law_1019 : decode cL_law 1019 = .ok (.ifCond .eq 5, 3) := dk_153 0 5 (dk_at dksL_law_40 19 rfl rfl)
theorem dL_law_1022 : decode cL_law 1022 = .ok (.iconst 0, 1) := dk_3 (dk_at dksL_law_40 22 rfl rfl)
theorem dL_law_1023 : decode cL_law 1023 = .ok (.ireturn, 1) := dk_172 (dk_at dksL_law_40 23 rfl rfl)
theorem dL_law_1024 : decode cL_law 1024 = .ok (.goto 439, 3) := dk_167 1 183 (dk_at dksL_law_41 0 rfl rfl)
theorem dL_law_1027 : decode cL_law 1027 = .ok (.aload_n 1, 1) := dk_43 (dk_at dksL_law_41 3 rfl rfl)
theorem dL_law_1028 : decode cL_law 1028 = .ok (.aload_n 0, 1) := dk_42 (dk_at dksL_law_41 4 rfl rfl)
theorem dL_law_1029 : decode cL_law 1029 = .ok (.iload 4, 2) := dk_21 4 (dk_at dksL_law_41 5 rfl rfl)
theorem dL_law_1031 : decode cL_law 1031 = .ok (.iconst 1, 1) := dk_4 (dk_at dksL_law_41 7 rfl rfl)
theorem dL_law_1032 : decode cL_law 1032 = .ok (.iadd, 1) := dk_96 (dk_at dksL_law_41 8 rfl rfl)
theorem dL_law_1033 : decode cL_law 1033 = .ok (.iaload, 1) := dk_46 (dk_at dksL_law_41 9 rfl rfl)
theorem dL_law_1034 : decode cL_law 1034 = .ok (.aload_n 3, 1) := dk_45 (dk_at dksL_law_41 10 rfl rfl)
theorem dL_law_1035 : decode cL_law 1035 = .ok (.invokestatic 133, 3) := dk_184 0 133 (dk_at dksL_law_41 11 rfl rfl)
theorem dL_law_1038 : decode cL_law 1038 = .ok (.istore 5, 2) := dk_54 5 (dk_at dksL_law_41 14 rfl rfl)
theorem dL_law_1040 : decode cL_law 1040 = .ok (.aload_n 2, 1) := dk_44 (dk_at dksL_law_41 16 rfl rfl)
theorem dL_law_1041 : decode cL_law 1041 = .ok (.aload_n 0, 1) := dk_42 (dk_at dksL_law_41 17 rfl rfl)
theorem dL_law_1042 : decode cL_law 1042 = .ok (.iload 4, 2) := dk_21 4 (dk_at dksL_law_41 18 rfl rfl)
theorem dL_law_1044 : decode cL_law 1044 = .ok (.iconst 1, 1) := dk_4 (dk_at dksL_law_41 20 rfl rfl)
theorem dL_law_1045 : decode cL_law 1045 = .ok (.iadd, 1) := dk_96 (dk_at dksL_law_41 21 rfl rfl)
theorem dL_law_1046 : decode cL_law 1046 = .ok (.iaload, 1) := dk_46 (dk_at dksL_law_41 22 rfl rfl)
theorem dL_law_1047 : decode cL_law 1047 = .ok (.invokevirtual 135, 3) := dk_182 0 135 (dk_at dksL_law_42 0 rfl rfl)
theorem dL_law_1050 : decode cL_law 1050 = .ok (.istore 6, 2) := dk_54 6 (dk_at dksL_law_42 3 rfl rfl)
theorem dL_law_1052 : decode cL_law 1052 = .ok (.aload_n 2, 1) := dk_44 (dk_at dksL_law_42 5 rfl rfl)
theorem dL_law_1053 : decode cL_law 1053 = .ok (.invokevirtual 90, 3) := dk_182 0 90 (dk_at dksL_law_42 6 rfl rfl)
theorem dL_law_1056 : decode cL_law 1056 = .ok (.iload 5, 2) := dk_21 5 (dk_at dksL_law_42 9 rfl rfl)
theorem dL_law_1058 : decode cL_law 1058 = .ok (.if_icmp .eq 5, 3) := dk_159 0 5 (dk_at dksL_law_42 11 rfl rfl)
theorem dL_law_1061 : decode cL_law 1061 = .ok (.iconst 0, 1) := dk_3 (dk_at dksL_law_42 14 rfl rfl)
theorem dL_law_1062 : decode cL_law 1062 = .ok (.ireturn, 1) := dk_172 (dk_at dksL_law_42 15 rfl rfl)
theorem dL_law_1063 : decode cL_law 1063 = .ok (.iload 5, 2) := dk_21 5 (dk_at dksL_law_42 16 rfl rfl)
theorem dL_law_1065 : decode cL_law 1065 = .ok (.ifCond .ne 15, 3) := dk_154 0 15 (dk_at dksL_law_42 18 rfl rfl)
theorem dL_law_1068 : decode cL_law 1068 = .ok (.aload_n 3, 1) := dk_45 (dk_at dksL_law_42 21 rfl rfl)
theorem dL_law_1069 : decode cL_law 1069 = .ok (.iconst 0, 1) := dk_3 (dk_at dksL_law_42 22 rfl rfl)
theorem dL_law_1070 : decode cL_law 1070 = .ok (.laload, 1) := dk_47 (dk_at dksL_law_42 23 rfl rfl)
theorem dL_law_1071 : decode cL_law 1071 = .ok (.iload 6, 2) := dk_21 6 (dk_at dksL_law_43 0 rfl rfl)
theorem dL_law_1073 : decode cL_law 1073 = .ok (.i2l, 1) := dk_133 (dk_at dksL_law_43 2 rfl rfl)
theorem dL_law_1074 : decode cL_law 1074 = .ok (.lcmp, 1) := dk_148 (dk_at dksL_law_43 3 rfl rfl)
theorem dL_law_1075 : decode cL_law 1075 = .ok (.ifCond .eq 5, 3) := dk_153 0 5 (dk_at dksL_law_43 4 rfl rfl)
theorem dL_law_1078 : decode cL_law 1078 = .ok (.iconst 0, 1) := dk_3 (dk_at dksL_law_43 7 rfl rfl)
theorem dL_law_1079 : decode cL_law 1079 = .ok (.ireturn, 1) := dk_172 (dk_at dksL_law_43 8 rfl rfl)
theorem dL_law_1080 : decode cL_law 1080 = .ok (.goto 383, 3) := dk_167 1 127 (dk_at dksL_law_43 9 rfl rfl)
theorem dL_law_1083 : decode cL_law 1083 = .ok (.aload_n 1, 1) := dk_43 (dk_at dksL_law_43 12 rfl rfl)
theorem dL_law_1084 : decode cL_law 1084 = .ok (.aload_n 0, 1) := dk_42 (dk_at dksL_law_43 13 rfl rfl)
theorem dL_law_1085 : decode cL_law 1085 = .ok (.iload 4, 2) := dk_21 4 (dk_at dksL_law_43 14 rfl rfl)
theorem dL_law_1087 : decode cL_law 1087 = .ok (.iconst 1, 1) := dk_4 (dk_at dksL_law_43 16 rfl rfl)
theorem dL_law_1088 : decode cL_law 1088 = .ok (.iadd, 1) := dk_96 (dk_at dksL_law_43 17 rfl rfl)
theorem dL_law_1089 : decode cL_law 1089 = .ok (.iaload, 1) := dk_46 (dk_at dksL_law_43 18 rfl rfl)
theorem dL_law_1090 : decode cL_law 1090 = .ok (.aload_n 3, 1) := dk_45 (dk_at dksL_law_43 19 rfl rfl)
theorem dL_law_1091 : decode cL_law 1091 = .ok (.invokestatic 136, 3) := dk_184 0 136 (dk_at dksL_law_43 20 rfl rfl)
theorem dL_law_1094 : decode cL_law 1094 = .ok (.istore 5, 2) := dk_54 5 (dk_at dksL_law_44 0 rfl rfl)
theorem dL_law_1096 : decode cL_law 1096 = .ok (.aload_n 2, 1) := dk_44 (dk_at dksL_law_44 2 rfl rfl)
theorem dL_law_1097 : decode cL_law 1097 = .ok (.aload_n 0, 1) := dk_42 (dk_at dksL_law_44 3 rfl rfl)
theorem dL_law_1098 : decode cL_law 1098 = .ok (.iload 4, 2) := dk_21 4 (dk_at dksL_law_44 4 rfl rfl)
theorem dL_law_1100 : decode cL_law 1100 = .ok (.iconst 1, 1) := dk_4 (dk_at dksL_law_44 6 rfl rfl)
theorem dL_law_1101 : decode cL_law 1101 = .ok (.iadd, 1) := dk_96 (dk_at dksL_law_44 7 rfl rfl)
theorem dL_law_1102 : decode cL_law 1102 = .ok (.iaload, 1) := dk_46 (dk_at dksL_law_44 8 rfl rfl)
theorem dL_law_1103 : decode cL_law 1103 = .ok (.invokevirtual 138, 3) := dk_182 0 138 (dk_at dksL_law_44 9 rfl rfl)
theorem dL_law_1106 : decode cL_law 1106 = .ok (.istore 6, 2) := dk_54 6 (dk_at dksL_law_44 12 rfl rfl)
theorem dL_law_1108 : decode cL_law 1108 = .ok (.aload_n 2, 1) := dk_44 (dk_at dksL_law_44 14 rfl rfl)
theorem dL_law_1109 : decode cL_law 1109 = .ok (.invokevirtual 90, 3) := dk_182 0 90 (dk_at dksL_law_44 15 rfl rfl)
theorem dL_law_1112 : decode cL_law 1112 = .ok (.iload 5, 2) := dk_21 5 (dk_at dksL_law_44 18 rfl rfl)
theorem dL_law_1114 : decode cL_law 1114 = .ok (.if_icmp .eq 5, 3) := dk_159 0 5 (dk_at dksL_law_44 20 rfl rfl)
theorem dL_law_1117 : decode cL_law 1117 = .ok (.iconst 0, 1) := dk_3 (dk_at dksL_law_44 23 rfl rfl)
theorem dL_law_1118 : decode cL_law 1118 = .ok (.ireturn, 1) := dk_172 (dk_at dksL_law_45 0 rfl rfl)
theorem dL_law_1119 : decode cL_law 1119 = .ok (.iload 5, 2) := dk_21 5 (dk_at dksL_law_45 1 rfl rfl)
theorem dL_law_1121 : decode cL_law 1121 = .ok (.ifCond .ne 15, 3) := dk_154 0 15 (dk_at dksL_law_45 3 rfl rfl)
theorem dL_law_1124 : decode cL_law 1124 = .ok (.aload_n 3, 1) := dk_45 (dk_at dksL_law_45 6 rfl rfl)
theorem dL_law_1125 : decode cL_law 1125 = .ok (.iconst 0, 1) := dk_3 (dk_at dksL_law_45 7 rfl rfl)
theorem dL_law_1126 : decode cL_law 1126 = .ok (.laload, 1) := dk_47 (dk_at dksL_law_45 8 rfl rfl)
theorem dL_law_1127 : decode cL_law 1127 = .ok (.iload 6, 2) := dk_21 6 (dk_at dksL_law_45 9 rfl rfl)
theorem dL_law_1129 : decode cL_law 1129 = .ok (.i2l, 1) := dk_133 (dk_at dksL_law_45 11 rfl rfl)
theorem dL_law_1130 : decode cL_law 1130 = .ok (.lcmp, 1) := dk_148 (dk_at dksL_law_45 12 rfl rfl)
theorem dL_law_1131 : decode cL_law 1131 = .ok (.ifCond .eq 5, 3) := dk_153 0 5 (dk_at dksL_law_45 13 rfl rfl)
theorem dL_law_1134 : decode cL_law 1134 = .ok (.iconst 0, 1) := dk_3 (dk_at dksL_law_45 16 rfl rfl)
theorem dL_law_1135 : decode cL_law 1135 = .ok (.ireturn, 1) := dk_172 (dk_at dksL_law_45 17 rfl rfl)
theorem dL_law_1136 : decode cL_law 1136 = .ok (.goto 327, 3) := dk_167 1 71 (dk_at dksL_law_45 18 rfl rfl)
theorem dL_law_1139 : decode cL_law 1139 = .ok (.aload_n 1, 1) := dk_43 (dk_at dksL_law_45 21 rfl rfl)
theorem dL_law_1140 : decode cL_law 1140 = .ok (.aload_n 0, 1) := dk_42 (dk_at dksL_law_45 22 rfl rfl)
theorem dL_law_1141 : decode cL_law 1141 = .ok (.iload 4, 2) := dk_21 4 (dk_at dksL_law_46 0 rfl rfl)
theorem dL_law_1143 : decode cL_law 1143 = .ok (.iconst 1, 1) := dk_4 (dk_at dksL_law_46 2 rfl rfl)
theorem dL_law_1144 : decode cL_law 1144 = .ok (.iadd, 1) := dk_96 (dk_at dksL_law_46 3 rfl rfl)
theorem dL_law_1145 : decode cL_law 1145 = .ok (.iaload, 1) := dk_46 (dk_at dksL_law_46 4 rfl rfl)
theorem dL_law_1146 : decode cL_law 1146 = .ok (.aload_n 3, 1) := dk_45 (dk_at dksL_law_46 5 rfl rfl)
theorem dL_law_1147 : decode cL_law 1147 = .ok (.invokestatic 139, 3) := dk_184 0 139 (dk_at dksL_law_46 6 rfl rfl)
theorem dL_law_1150 : decode cL_law 1150 = .ok (.istore 5, 2) := dk_54 5 (dk_at dksL_law_46 9 rfl rfl)
theorem dL_law_1152 : decode cL_law 1152 = .ok (.aload_n 2, 1) := dk_44 (dk_at dksL_law_46 11 rfl rfl)
theorem dL_law_1153 : decode cL_law 1153 = .ok (.aload_n 0, 1) := dk_42 (dk_at dksL_law_46 12 rfl rfl)
theorem dL_law_1154 : decode cL_law 1154 = .ok (.iload 4, 2) := dk_21 4 (dk_at dksL_law_46 13 rfl rfl)
theorem dL_law_1156 : decode cL_law 1156 = .ok (.iconst 1, 1) := dk_4 (dk_at dksL_law_46 15 rfl rfl)
theorem dL_law_1157 : decode cL_law 1157 = .ok (.iadd, 1) := dk_96 (dk_at dksL_law_46 16 rfl rfl)
theorem dL_law_1158 : decode cL_law 1158 = .ok (.iaload, 1) := dk_46 (dk_at dksL_law_46 17 rfl rfl)
theorem dL_law_1159 : decode cL_law 1159 = .ok (.invokevirtual 141, 3) := dk_182 0 141 (dk_at dksL_law_46 18 rfl rfl)
theorem dL_law_1162 : decode cL_law 1162 = .ok (.istore 6, 2) := dk_54 6 (dk_at dksL_law_46 21 rfl rfl)
theorem dL_law_1164 : decode cL_law 1164 = .ok (.aload_n 2, 1) := dk_44 (dk_at dksL_law_46 23 rfl rfl)
theorem dL_law_1165 : decode cL_law 1165 = .ok (.invokevirtual 90, 3) := dk_182 0 90 (dk_at dksL_law_47 0 rfl rfl)
theorem dL_law_1168 : decode cL_law 1168 = .ok (.iload 5, 2) := dk_21 5 (dk_at dksL_law_47 3 rfl rfl)
theorem dL_law_1170 : decode cL_law 1170 = .ok (.if_icmp .eq 5, 3) := dk_159 0 5 (dk_at dksL_law_47 5 rfl rfl)
theorem dL_law_1173 : decode cL_law 1173 = .ok (.iconst 0, 1) := dk_3 (dk_at dksL_law_47 8 rfl rfl)
theorem dL_law_1174 : decode cL_law 1174 = .ok (.ireturn, 1) := dk_172 (dk_at dksL_law_47 9 rfl rfl)
theorem dL_law_1175 : decode cL_law 1175 = .ok (.iload 5, 2) := dk_21 5 (dk_at dksL_law_47 10 rfl rfl)
theorem dL_law_1177 : decode cL_law 1177 = .ok (.ifCond .ne 15, 3) := dk_154 0 15 (dk_at dksL_law_47 12 rfl rfl)
theorem dL_law_1180 : decode cL_law 1180 = .ok (.aload_n 3, 1) := dk_45 (dk_at dksL_law_47 15 rfl rfl)
theorem dL_law_1181 : decode cL_law 1181 = .ok (.iconst 0, 1) := dk_3 (dk_at dksL_law_47 16 rfl rfl)
theorem dL_law_1182 : decode cL_law 1182 = .ok (.laload, 1) := dk_47 (dk_at dksL_law_47 17 rfl rfl)
theorem dL_law_1183 : decode cL_law 1183 = .ok (.iload 6, 2) := dk_21 6 (dk_at dksL_law_47 18 rfl rfl)
theorem dL_law_1185 : decode cL_law 1185 = .ok (.i2l, 1) := dk_133 (dk_at dksL_law_47 20 rfl rfl)
theorem dL_law_1186 : decode cL_law 1186 = .ok (.lcmp, 1) := dk_148 (dk_at dksL_law_47 21 rfl rfl)
theorem dL_law_1187 : decode cL_law 1187 = .ok (.ifCond .eq 5, 3) := dk_153 0 5 (dk_at dksL_law_48 0 rfl rfl)
theorem dL_law_1190 : decode cL_law 1190 = .ok (.iconst 0, 1) := dk_3 (dk_at dksL_law_48 3 rfl rfl)
theorem dL_law_1191 : decode cL_law 1191 = .ok (.ireturn, 1) := dk_172 (dk_at dksL_law_48 4 rfl rfl)
theorem dL_law_1192 : decode cL_law 1192 = .ok (.goto 271, 3) := dk_167 1 15 (dk_at dksL_law_48 5 rfl rfl)
theorem dL_law_1195 : decode cL_law 1195 = .ok (.aload_n 1, 1) := dk_43 (dk_at dksL_law_48 8 rfl rfl)
theorem dL_law_1196 : decode cL_law 1196 = .ok (.aload_n 0, 1) := dk_42 (dk_at dksL_law_48 9 rfl rfl)
theorem dL_law_1197 : decode cL_law 1197 = .ok (.iload 4, 2) := dk_21 4 (dk_at dksL_law_48 10 rfl rfl)
theorem dL_law_1199 : decode cL_law 1199 = .ok (.iconst 1, 1) := dk_4 (dk_at dksL_law_48 12 rfl rfl)
theorem dL_law_1200 : decode cL_law 1200 = .ok (.iadd, 1) := dk_96 (dk_at dksL_law_48 13 rfl rfl)
theorem dL_law_1201 : decode cL_law 1201 = .ok (.iaload, 1) := dk_46 (dk_at dksL_law_48 14 rfl rfl)
theorem dL_law_1202 : decode cL_law 1202 = .ok (.aload_n 0, 1) := dk_42 (dk_at dksL_law_48 15 rfl rfl)
theorem dL_law_1203 : decode cL_law 1203 = .ok (.iload 4, 2) := dk_21 4 (dk_at dksL_law_48 16 rfl rfl)
theorem dL_law_1205 : decode cL_law 1205 = .ok (.iconst 2, 1) := dk_5 (dk_at dksL_law_48 18 rfl rfl)
theorem dL_law_1206 : decode cL_law 1206 = .ok (.iadd, 1) := dk_96 (dk_at dksL_law_48 19 rfl rfl)
theorem dL_law_1207 : decode cL_law 1207 = .ok (.iaload, 1) := dk_46 (dk_at dksL_law_48 20 rfl rfl)
theorem dL_law_1208 : decode cL_law 1208 = .ok (.aload_n 3, 1) := dk_45 (dk_at dksL_law_48 21 rfl rfl)
theorem dL_law_1209 : decode cL_law 1209 = .ok (.invokestatic 142, 3) := dk_184 0 142 (dk_at dksL_law_49 0 rfl rfl)
theorem dL_law_1212 : decode cL_law 1212 = .ok (.istore 5, 2) := dk_54 5 (dk_at dksL_law_49 3 rfl rfl)
theorem dL_law_1214 : decode cL_law 1214 = .ok (.aload_n 2, 1) := dk_44 (dk_at dksL_law_49 5 rfl rfl)
theorem dL_law_1215 : decode cL_law 1215 = .ok (.aload_n 0, 1) := dk_42 (dk_at dksL_law_49 6 rfl rfl)
theorem dL_law_1216 : decode cL_law 1216 = .ok (.iload 4, 2) := dk_21 4 (dk_at dksL_law_49 7 rfl rfl)
theorem dL_law_1218 : decode cL_law 1218 = .ok (.iconst 1, 1) := dk_4 (dk_at dksL_law_49 9 rfl rfl)
theorem dL_law_1219 : decode cL_law 1219 = .ok (.iadd, 1) := dk_96 (dk_at dksL_law_49 10 rfl rfl)
theorem dL_law_1220 : decode cL_law 1220 = .ok (.iaload, 1) := dk_46 (dk_at dksL_law_49 11 rfl rfl)
theorem dL_law_1221 : decode cL_law 1221 = .ok (.aload_n 0, 1) := dk_42 (dk_at dksL_law_49 12 rfl rfl)
theorem dL_law_1222 : decode cL_law 1222 = .ok (.iload 4, 2) := dk_21 4 (dk_at dksL_law_49 13 rfl rfl)
theorem dL_law_1224 : decode cL_law 1224 = .ok (.iconst 2, 1) := dk_5 (dk_at dksL_law_49 15 rfl rfl)
theorem dL_law_1225 : decode cL_law 1225 = .ok (.iadd, 1) := dk_96 (dk_at dksL_law_49 16 rfl rfl)
theorem dL_law_1226 : decode cL_law 1226 = .ok (.iaload, 1) := dk_46 (dk_at dksL_law_49 17 rfl rfl)
theorem dL_law_1227 : decode cL_law 1227 = .ok (.invokevirtual 144, 3) := dk_182 0 144 (dk_at dksL_law_49 18 rfl rfl)
theorem dL_law_1230 : decode cL_law 1230 = .ok (.istore 6, 2) := dk_54 6 (dk_at dksL_law_49 21 rfl rfl)
theorem dL_law_1232 : decode cL_law 1232 = .ok (.aload_n 2, 1) := dk_44 (dk_at dksL_law_49 23 rfl rfl)
theorem dL_law_1233 : decode cL_law 1233 = .ok (.invokevirtual 90, 3) := dk_182 0 90 (dk_at dksL_law_50 0 rfl rfl)
theorem dL_law_1236 : decode cL_law 1236 = .ok (.iload 5, 2) := dk_21 5 (dk_at dksL_law_50 3 rfl rfl)
theorem dL_law_1238 : decode cL_law 1238 = .ok (.if_icmp .eq 5, 3) := dk_159 0 5 (dk_at dksL_law_50 5 rfl rfl)
theorem dL_law_1241 : decode cL_law 1241 = .ok (.iconst 0, 1) := dk_3 (dk_at dksL_law_50 8 rfl rfl)
theorem dL_law_1242 : decode cL_law 1242 = .ok (.ireturn, 1) := dk_172 (dk_at dksL_law_50 9 rfl rfl)
theorem dL_law_1243 : decode cL_law 1243 = .ok (.iload 5, 2) := dk_21 5 (dk_at dksL_law_50 10 rfl rfl)
theorem dL_law_1245 : decode cL_law 1245 = .ok (.ifCond .ne 15, 3) := dk_154 0 15 (dk_at dksL_law_50 12 rfl rfl)
theorem dL_law_1248 : decode cL_law 1248 = .ok (.aload_n 3, 1) := dk_45 (dk_at dksL_law_50 15 rfl rfl)
theorem dL_law_1249 : decode cL_law 1249 = .ok (.iconst 0, 1) := dk_3 (dk_at dksL_law_50 16 rfl rfl)
theorem dL_law_1250 : decode cL_law 1250 = .ok (.laload, 1) := dk_47 (dk_at dksL_law_50 17 rfl rfl)
theorem dL_law_1251 : decode cL_law 1251 = .ok (.iload 6, 2) := dk_21 6 (dk_at dksL_law_50 18 rfl rfl)
theorem dL_law_1253 : decode cL_law 1253 = .ok (.i2l, 1) := dk_133 (dk_at dksL_law_50 20 rfl rfl)
theorem dL_law_1254 : decode cL_law 1254 = .ok (.lcmp, 1) := dk_148 (dk_at dksL_law_50 21 rfl rfl)
theorem dL_law_1255 : decode cL_law 1255 = .ok (.ifCond .eq 5, 3) := dk_153 0 5 (dk_at dksL_law_51 0 rfl rfl)
theorem dL_law_1258 : decode cL_law 1258 = .ok (.iconst 0, 1) := dk_3 (dk_at dksL_law_51 3 rfl rfl)
theorem dL_law_1259 : decode cL_law 1259 = .ok (.ireturn, 1) := dk_172 (dk_at dksL_law_51 4 rfl rfl)
theorem dL_law_1260 : decode cL_law 1260 = .ok (.goto 203, 3) := dk_167 0 203 (dk_at dksL_law_51 5 rfl rfl)
theorem dL_law_1263 : decode cL_law 1263 = .ok (.aload_n 1, 1) := dk_43 (dk_at dksL_law_51 8 rfl rfl)
theorem dL_law_1264 : decode cL_law 1264 = .ok (.aload_n 0, 1) := dk_42 (dk_at dksL_law_51 9 rfl rfl)
theorem dL_law_1265 : decode cL_law 1265 = .ok (.iload 4, 2) := dk_21 4 (dk_at dksL_law_51 10 rfl rfl)
theorem dL_law_1267 : decode cL_law 1267 = .ok (.iconst 1, 1) := dk_4 (dk_at dksL_law_51 12 rfl rfl)
theorem dL_law_1268 : decode cL_law 1268 = .ok (.iadd, 1) := dk_96 (dk_at dksL_law_51 13 rfl rfl)
theorem dL_law_1269 : decode cL_law 1269 = .ok (.iaload, 1) := dk_46 (dk_at dksL_law_51 14 rfl rfl)
theorem dL_law_1270 : decode cL_law 1270 = .ok (.aload_n 0, 1) := dk_42 (dk_at dksL_law_51 15 rfl rfl)
theorem dL_law_1271 : decode cL_law 1271 = .ok (.iload 4, 2) := dk_21 4 (dk_at dksL_law_51 16 rfl rfl)
theorem dL_law_1273 : decode cL_law 1273 = .ok (.iconst 2, 1) := dk_5 (dk_at dksL_law_51 18 rfl rfl)
theorem dL_law_1274 : decode cL_law 1274 = .ok (.iadd, 1) := dk_96 (dk_at dksL_law_51 19 rfl rfl)
theorem dL_law_1275 : decode cL_law 1275 = .ok (.iaload, 1) := dk_46 (dk_at dksL_law_51 20 rfl rfl)
theorem dL_law_1276 : decode cL_law 1276 = .ok (.aload_n 3, 1) := dk_45 (dk_at dksL_law_51 21 rfl rfl)
theorem dL_law_1277 : decode cL_law 1277 = .ok (.invokestatic 145, 3) := dk_184 0 145 (dk_at dksL_law_52 0 rfl rfl)
theorem dL_law_1280 : decode cL_law 1280 = .ok (.istore 5, 2) := dk_54 5 (dk_at dksL_law_52 3 rfl rfl)
theorem dL_law_1282 : decode cL_law 1282 = .ok (.aload_n 2, 1) := dk_44 (dk_at dksL_law_52 5 rfl rfl)
theorem dL_law_1283 : decode cL_law 1283 = .ok (.aload_n 0, 1) := dk_42 (dk_at dksL_law_52 6 rfl rfl)
theorem dL_law_1284 : decode cL_law 1284 = .ok (.iload 4, 2) := dk_21 4 (dk_at dksL_law_52 7 rfl rfl)
theorem dL_law_1286 : decode cL_law 1286 = .ok (.iconst 1, 1) := dk_4 (dk_at dksL_law_52 9 rfl rfl)
theorem dL_law_1287 : decode cL_law 1287 = .ok (.iadd, 1) := dk_96 (dk_at dksL_law_52 10 rfl rfl)
theorem dL_law_1288 : decode cL_law 1288 = .ok (.iaload, 1) := dk_46 (dk_at dksL_law_52 11 rfl rfl)
theorem dL_law_1289 : decode cL_law 1289 = .ok (.aload_n 0, 1) := dk_42 (dk_at dksL_law_52 12 rfl rfl)
theorem dL_law_1290 : decode cL_law 1290 = .ok (.iload 4, 2) := dk_21 4 (dk_at dksL_law_52 13 rfl rfl)
theorem dL_law_1292 : decode cL_law 1292 = .ok (.iconst 2, 1) := dk_5 (dk_at dksL_law_52 15 rfl rfl)
theorem dL_law_1293 : decode cL_law 1293 = .ok (.iadd, 1) := dk_96 (dk_at dksL_law_52 16 rfl rfl)
theorem dL_law_1294 : decode cL_law 1294 = .ok (.iaload, 1) := dk_46 (dk_at dksL_law_52 17 rfl rfl)
theorem dL_law_1295 : decode cL_law 1295 = .ok (.invokevirtual 147, 3) := dk_182 0 147 (dk_at dksL_law_52 18 rfl rfl)
theorem dL_law_1298 : decode cL_law 1298 = .ok (.istore 6, 2) := dk_54 6 (dk_at dksL_law_52 21 rfl rfl)
theorem dL_law_1300 : decode cL_law 1300 = .ok (.aload_n 2, 1) := dk_44 (dk_at dksL_law_52 23 rfl rfl)
theorem dL_law_1301 : decode cL_law 1301 = .ok (.invokevirtual 90, 3) := dk_182 0 90 (dk_at dksL_law_53 0 rfl rfl)
theorem dL_law_1304 : decode cL_law 1304 = .ok (.iload 5, 2) := dk_21 5 (dk_at dksL_law_53 3 rfl rfl)
theorem dL_law_1306 : decode cL_law 1306 = .ok (.if_icmp .eq 5, 3) := dk_159 0 5 (dk_at dksL_law_53 5 rfl rfl)
theorem dL_law_1309 : decode cL_law 1309 = .ok (.iconst 0, 1) := dk_3 (dk_at dksL_law_53 8 rfl rfl)
theorem dL_law_1310 : decode cL_law 1310 = .ok (.ireturn, 1) := dk_172 (dk_at dksL_law_53 9 rfl rfl)
theorem dL_law_1311 : decode cL_law 1311 = .ok (.iload 5, 2) := dk_21 5 (dk_at dksL_law_53 10 rfl rfl)
theorem dL_law_1313 : decode cL_law 1313 = .ok (.ifCond .ne 15, 3) := dk_154 0 15 (dk_at dksL_law_53 12 rfl rfl)
theorem dL_law_1316 : decode cL_law 1316 = .ok (.aload_n 3, 1) := dk_45 (dk_at dksL_law_53 15 rfl rfl)
theorem dL_law_1317 : decode cL_law 1317 = .ok (.iconst 0, 1) := dk_3 (dk_at dksL_law_53 16 rfl rfl)
theorem dL_law_1318 : decode cL_law 1318 = .ok (.laload, 1) := dk_47 (dk_at dksL_law_53 17 rfl rfl)
theorem dL_law_1319 : decode cL_law 1319 = .ok (.iload 6, 2) := dk_21 6 (dk_at dksL_law_53 18 rfl rfl)
theorem dL_law_1321 : decode cL_law 1321 = .ok (.i2l, 1) := dk_133 (dk_at dksL_law_53 20 rfl rfl)
theorem dL_law_1322 : decode cL_law 1322 = .ok (.lcmp, 1) := dk_148 (dk_at dksL_law_53 21 rfl rfl)
theorem dL_law_1323 : decode cL_law 1323 = .ok (.ifCond .eq 5, 3) := dk_153 0 5 (dk_at dksL_law_54 0 rfl rfl)
theorem dL_law_1326 : decode cL_law 1326 = .ok (.iconst 0, 1) := dk_3 (dk_at dksL_law_54 3 rfl rfl)
theorem dL_law_1327 : decode cL_law 1327 = .ok (.ireturn, 1) := dk_172 (dk_at dksL_law_54 4 rfl rfl)
theorem dL_law_1328 : decode cL_law 1328 = .ok (.goto 135, 3) := dk_167 0 135 (dk_at dksL_law_54 5 rfl rfl)
theorem dL_law_1331 : decode cL_law 1331 = .ok (.aload_n 1, 1) := dk_43 (dk_at dksL_law_54 8 rfl rfl)
theorem dL_law_1332 : decode cL_law 1332 = .ok (.aload_n 0, 1) := dk_42 (dk_at dksL_law_54 9 rfl rfl)
theorem dL_law_1333 : decode cL_law 1333 = .ok (.iload 4, 2) := dk_21 4 (dk_at dksL_law_54 10 rfl rfl)
theorem dL_law_1335 : decode cL_law 1335 = .ok (.iconst 1, 1) := dk_4 (dk_at dksL_law_54 12 rfl rfl)
theorem dL_law_1336 : decode cL_law 1336 = .ok (.iadd, 1) := dk_96 (dk_at dksL_law_54 13 rfl rfl)
theorem dL_law_1337 : decode cL_law 1337 = .ok (.iaload, 1) := dk_46 (dk_at dksL_law_54 14 rfl rfl)
theorem dL_law_1338 : decode cL_law 1338 = .ok (.aload_n 3, 1) := dk_45 (dk_at dksL_law_54 15 rfl rfl)
theorem dL_law_1339 : decode cL_law 1339 = .ok (.invokestatic 148, 3) := dk_184 0 148 (dk_at dksL_law_54 16 rfl rfl)
theorem dL_law_1342 : decode cL_law 1342 = .ok (.istore 5, 2) := dk_54 5 (dk_at dksL_law_54 19 rfl rfl)
theorem dL_law_1344 : decode cL_law 1344 = .ok (.aload_n 2, 1) := dk_44 (dk_at dksL_law_54 21 rfl rfl)
theorem dL_law_1345 : decode cL_law 1345 = .ok (.aload_n 0, 1) := dk_42 (dk_at dksL_law_54 22 rfl rfl)
theorem dL_law_1346 : decode cL_law 1346 = .ok (.iload 4, 2) := dk_21 4 (dk_at dksL_law_55 0 rfl rfl)
theorem dL_law_1348 : decode cL_law 1348 = .ok (.iconst 1, 1) := dk_4 (dk_at dksL_law_55 2 rfl rfl)
theorem dL_law_1349 : decode cL_law 1349 = .ok (.iadd, 1) := dk_96 (dk_at dksL_law_55 3 rfl rfl)
theorem dL_law_1350 : decode cL_law 1350 = .ok (.iaload, 1) := dk_46 (dk_at dksL_law_55 4 rfl rfl)
theorem dL_law_1351 : decode cL_law 1351 = .ok (.invokevirtual 150, 3) := dk_182 0 150 (dk_at dksL_law_55 5 rfl rfl)
theorem dL_law_1354 : decode cL_law 1354 = .ok (.istore 6, 2) := dk_54 6 (dk_at dksL_law_55 8 rfl rfl)
theorem dL_law_1356 : decode cL_law 1356 = .ok (.aload_n 2, 1) := dk_44 (dk_at dksL_law_55 10 rfl rfl)
theorem dL_law_1357 : decode cL_law 1357 = .ok (.invokevirtual 90, 3) := dk_182 0 90 (dk_at dksL_law_55 11 rfl rfl)
theorem dL_law_1360 : decode cL_law 1360 = .ok (.iload 5, 2) := dk_21 5 (dk_at dksL_law_55 14 rfl rfl)
theorem dL_law_1362 : decode cL_law 1362 = .ok (.if_icmp .eq 5, 3) := dk_159 0 5 (dk_at dksL_law_55 16 rfl rfl)
theorem dL_law_1365 : decode cL_law 1365 = .ok (.iconst 0, 1) := dk_3 (dk_at dksL_law_55 19 rfl rfl)
theorem dL_law_1366 : decode cL_law 1366 = .ok (.ireturn, 1) := dk_172 (dk_at dksL_law_55 20 rfl rfl)
theorem dL_law_1367 : decode cL_law 1367 = .ok (.iload 5, 2) := dk_21 5 (dk_at dksL_law_55 21 rfl rfl)
theorem dL_law_1369 : decode cL_law 1369 = .ok (.ifCond .ne 15, 3) := dk_154 0 15 (dk_at dksL_law_56 0 rfl rfl)
theorem dL_law_1372 : decode cL_law 1372 = .ok (.aload_n 3, 1) := dk_45 (dk_at dksL_law_56 3 rfl rfl)
theorem dL_law_1373 : decode cL_law 1373 = .ok (.iconst 0, 1) := dk_3 (dk_at dksL_law_56 4 rfl rfl)
theorem dL_law_1374 : decode cL_law 1374 = .ok (.laload, 1) := dk_47 (dk_at dksL_law_56 5 rfl rfl)
theorem dL_law_1375 : decode cL_law 1375 = .ok (.iload 6, 2) := dk_21 6 (dk_at dksL_law_56 6 rfl rfl)
theorem dL_law_1377 : decode cL_law 1377 = .ok (.i2l, 1) := dk_133 (dk_at dksL_law_56 8 rfl rfl)
theorem dL_law_1378 : decode cL_law 1378 = .ok (.lcmp, 1) := dk_148 (dk_at dksL_law_56 9 rfl rfl)
theorem dL_law_1379 : decode cL_law 1379 = .ok (.ifCond .eq 5, 3) := dk_153 0 5 (dk_at dksL_law_56 10 rfl rfl)
theorem dL_law_1382 : decode cL_law 1382 = .ok (.iconst 0, 1) := dk_3 (dk_at dksL_law_56 13 rfl rfl)
theorem dL_law_1383 : decode cL_law 1383 = .ok (.ireturn, 1) := dk_172 (dk_at dksL_law_56 14 rfl rfl)
theorem dL_law_1384 : decode cL_law 1384 = .ok (.goto 79, 3) := dk_167 0 79 (dk_at dksL_law_56 15 rfl rfl)
theorem dL_law_1387 : decode cL_law 1387 = .ok (.aload_n 1, 1) := dk_43 (dk_at dksL_law_56 18 rfl rfl)
theorem dL_law_1388 : decode cL_law 1388 = .ok (.aload_n 0, 1) := dk_42 (dk_at dksL_law_56 19 rfl rfl)
theorem dL_law_1389 : decode cL_law 1389 = .ok (.iload 4, 2) := dk_21 4 (dk_at dksL_law_56 20 rfl rfl)
theorem dL_law_1391 : decode cL_law 1391 = .ok (.iconst 1, 1) := dk_4 (dk_at dksL_law_56 22 rfl rfl)
theorem dL_law_1392 : decode cL_law 1392 = .ok (.iadd, 1) := dk_96 (dk_at dksL_law_56 23 rfl rfl)
theorem dL_law_1393 : decode cL_law 1393 = .ok (.iaload, 1) := dk_46 (dk_at dksL_law_57 0 rfl rfl)
theorem dL_law_1394 : decode cL_law 1394 = .ok (.invokevirtual 151, 3) := dk_182 0 151 (dk_at dksL_law_57 1 rfl rfl)
theorem dL_law_1397 : decode cL_law 1397 = .ok (.aload_n 2, 1) := dk_44 (dk_at dksL_law_57 4 rfl rfl)
theorem dL_law_1398 : decode cL_law 1398 = .ok (.aload_n 0, 1) := dk_42 (dk_at dksL_law_57 5 rfl rfl)
theorem dL_law_1399 : decode cL_law 1399 = .ok (.iload 4, 2) := dk_21 4 (dk_at dksL_law_57 6 rfl rfl)
theorem dL_law_1401 : decode cL_law 1401 = .ok (.iconst 1, 1) := dk_4 (dk_at dksL_law_57 8 rfl rfl)
theorem dL_law_1402 : decode cL_law 1402 = .ok (.iadd, 1) := dk_96 (dk_at dksL_law_57 9 rfl rfl)
theorem dL_law_1403 : decode cL_law 1403 = .ok (.iaload, 1) := dk_46 (dk_at dksL_law_57 10 rfl rfl)
theorem dL_law_1404 : decode cL_law 1404 = .ok (.invokevirtual 155, 3) := dk_182 0 155 (dk_at dksL_law_57 11 rfl rfl)
theorem dL_law_1407 : decode cL_law 1407 = .ok (.if_icmp .eq 56, 3) := dk_159 0 56 (dk_at dksL_law_57 14 rfl rfl)
theorem dL_law_1410 : decode cL_law 1410 = .ok (.iconst 0, 1) := dk_3 (dk_at dksL_law_57 17 rfl rfl)
theorem dL_law_1411 : decode cL_law 1411 = .ok (.ireturn, 1) := dk_172 (dk_at dksL_law_57 18 rfl rfl)
theorem dL_law_1412 : decode cL_law 1412 = .ok (.aload_n 1, 1) := dk_43 (dk_at dksL_law_57 19 rfl rfl)
theorem dL_law_1413 : decode cL_law 1413 = .ok (.invokevirtual 156, 3) := dk_182 0 156 (dk_at dksL_law_57 20 rfl rfl)
theorem dL_law_1416 : decode cL_law 1416 = .ok (.aload_n 2, 1) := dk_44 (dk_at dksL_law_57 23 rfl rfl)
theorem dL_law_1417 : decode cL_law 1417 = .ok (.invokevirtual 159, 3) := dk_182 0 159 (dk_at dksL_law_58 0 rfl rfl)
theorem dL_law_1420 : decode cL_law 1420 = .ok (.if_icmp .eq 43, 3) := dk_159 0 43 (dk_at dksL_law_58 3 rfl rfl)
theorem dL_law_1423 : decode cL_law 1423 = .ok (.iconst 0, 1) := dk_3 (dk_at dksL_law_58 6 rfl rfl)
theorem dL_law_1424 : decode cL_law 1424 = .ok (.ireturn, 1) := dk_172 (dk_at dksL_law_58 7 rfl rfl)
theorem dL_law_1425 : decode cL_law 1425 = .ok (.aload_n 1, 1) := dk_43 (dk_at dksL_law_58 8 rfl rfl)
theorem dL_law_1426 : decode cL_law 1426 = .ok (.aload_n 0, 1) := dk_42 (dk_at dksL_law_58 9 rfl rfl)
theorem dL_law_1427 : decode cL_law 1427 = .ok (.iload 4, 2) := dk_21 4 (dk_at dksL_law_58 10 rfl rfl)
theorem dL_law_1429 : decode cL_law 1429 = .ok (.iconst 1, 1) := dk_4 (dk_at dksL_law_58 12 rfl rfl)
theorem dL_law_1430 : decode cL_law 1430 = .ok (.iadd, 1) := dk_96 (dk_at dksL_law_58 13 rfl rfl)
theorem dL_law_1431 : decode cL_law 1431 = .ok (.iaload, 1) := dk_46 (dk_at dksL_law_58 14 rfl rfl)
theorem dL_law_1432 : decode cL_law 1432 = .ok (.invokevirtual 160, 3) := dk_182 0 160 (dk_at dksL_law_58 15 rfl rfl)
theorem dL_law_1435 : decode cL_law 1435 = .ok (.aload_n 2, 1) := dk_44 (dk_at dksL_law_58 18 rfl rfl)
theorem dL_law_1436 : decode cL_law 1436 = .ok (.aload_n 0, 1) := dk_42 (dk_at dksL_law_58 19 rfl rfl)
theorem dL_law_1437 : decode cL_law 1437 = .ok (.iload 4, 2) := dk_21 4 (dk_at dksL_law_58 20 rfl rfl)
theorem dL_law_1439 : decode cL_law 1439 = .ok (.iconst 1, 1) := dk_4 (dk_at dksL_law_58 22 rfl rfl)
theorem dL_law_1440 : decode cL_law 1440 = .ok (.iadd, 1) := dk_96 (dk_at dksL_law_58 23 rfl rfl)
theorem dL_law_1441 : decode cL_law 1441 = .ok (.iaload, 1) := dk_46 (dk_at dksL_law_59 0 rfl rfl)
theorem dL_law_1442 : decode cL_law 1442 = .ok (.invokevirtual 163, 3) := dk_182 0 163 (dk_at dksL_law_59 1 rfl rfl)
theorem dL_law_1445 : decode cL_law 1445 = .ok (.if_icmp .eq 18, 3) := dk_159 0 18 (dk_at dksL_law_59 4 rfl rfl)
theorem dL_law_1448 : decode cL_law 1448 = .ok (.iconst 0, 1) := dk_3 (dk_at dksL_law_59 7 rfl rfl)
theorem dL_law_1449 : decode cL_law 1449 = .ok (.ireturn, 1) := dk_172 (dk_at dksL_law_59 8 rfl rfl)
theorem dL_law_1450 : decode cL_law 1450 = .ok (.aload_n 1, 1) := dk_43 (dk_at dksL_law_59 9 rfl rfl)
theorem dL_law_1451 : decode cL_law 1451 = .ok (.invokevirtual 164, 3) := dk_182 0 164 (dk_at dksL_law_59 10 rfl rfl)
theorem dL_law_1454 : decode cL_law 1454 = .ok (.aload_n 2, 1) := dk_44 (dk_at dksL_law_59 13 rfl rfl)
theorem dL_law_1455 : decode cL_law 1455 = .ok (.invokevirtual 167, 3) := dk_182 0 167 (dk_at dksL_law_59 14 rfl rfl)
theorem dL_law_1458 : decode cL_law 1458 = .ok (.if_icmp .eq 5, 3) := dk_159 0 5 (dk_at dksL_law_59 17 rfl rfl)
theorem dL_law_1461 : decode cL_law 1461 = .ok (.iconst 0, 1) := dk_3 (dk_at dksL_law_59 20 rfl rfl)
theorem dL_law_1462 : decode cL_law 1462 = .ok (.ireturn, 1) := dk_172 (dk_at dksL_law_59 21 rfl rfl)
theorem dL_law_1463 : decode cL_law 1463 = .ok (.iinc 4 4, 3) := dk_132 4 4 (dk_at dksL_law_60 0 rfl rfl)
theorem dL_law_1466 : decode cL_law 1466 = .ok (.goto (-1443), 3) := dk_167 250 93 (dk_at dksL_law_60 3 rfl rfl)
theorem dL_law_1469 : decode cL_law 1469 = .ok (.iconst 1, 1) := dk_4 (dk_at dksL_law_60 6 rfl rfl)
theorem dL_law_1470 : decode cL_law 1470 = .ok (.ireturn, 1) := dk_172 (dk_at dksL_law_60 7 rfl rfl)

/-! PageBanksLaw -/
set_option maxRecDepth 100000
def RX0 : String := "PageBanksLaw"
abbrev cX0_bank : ByteArray := method_3_code
def yX0_bank : MethodName := ⟨RX0, "bank", "(LPageBanks;II[J)I"⟩
def dkwX0_bank_1 : List UInt8 := [172, 58, 4, 7, 172, 3, 172]
abbrev dktX0_bank_1 : List UInt8 := dkwX0_bank_1 ++ []
def dkwX0_bank_0 : List UInt8 := [45, 3, 42, 27, 28, 182, 0, 7, 133, 80, 167, 0, 19, 58, 4, 4, 172, 58, 4, 5, 172, 58, 4, 6]
abbrev dktX0_bank_0 : List UInt8 := dkwX0_bank_0 ++ dktX0_bank_1
theorem dksX0_bank_0 : cX0_bank.data.toList.drop 0 = dktX0_bank_0 := by decide +kernel
theorem dksX0_bank_1 : cX0_bank.data.toList.drop 24 = dktX0_bank_1 := dk_seg dksX0_bank_0 24 rfl rfl
theorem dX0_bank_0 : decode cX0_bank 0 = .ok (.aload_n 3, 1) := dk_45 (dk_at dksX0_bank_0 0 rfl rfl)
theorem dX0_bank_1 : decode cX0_bank 1 = .ok (.iconst 0, 1) := dk_3 (dk_at dksX0_bank_0 1 rfl rfl)
theorem dX0_bank_2 : decode cX0_bank 2 = .ok (.aload_n 0, 1) := dk_42 (dk_at dksX0_bank_0 2 rfl rfl)
theorem dX0_bank_3 : decode cX0_bank 3 = .ok (.iload_n 1, 1) := dk_27 (dk_at dksX0_bank_0 3 rfl rfl)
theorem dX0_bank_4 : decode cX0_bank 4 = .ok (.iload_n 2, 1) := dk_28 (dk_at dksX0_bank_0 4 rfl rfl)
theorem dX0_bank_5 : decode cX0_bank 5 = .ok (.invokevirtual 7, 3) := dk_182 0 7 (dk_at dksX0_bank_0 5 rfl rfl)
theorem dX0_bank_8 : decode cX0_bank 8 = .ok (.i2l, 1) := dk_133 (dk_at dksX0_bank_0 8 rfl rfl)
theorem dX0_bank_9 : decode cX0_bank 9 = .ok (.lastore, 1) := dk_80 (dk_at dksX0_bank_0 9 rfl rfl)
theorem dX0_bank_10 : decode cX0_bank 10 = .ok (.goto 19, 3) := dk_167 0 19 (dk_at dksX0_bank_0 10 rfl rfl)
theorem dX0_bank_13 : decode cX0_bank 13 = .ok (.astore 4, 2) := dk_58 4 (dk_at dksX0_bank_0 13 rfl rfl)
theorem dX0_bank_15 : decode cX0_bank 15 = .ok (.iconst 1, 1) := dk_4 (dk_at dksX0_bank_0 15 rfl rfl)
theorem dX0_bank_16 : decode cX0_bank 16 = .ok (.ireturn, 1) := dk_172 (dk_at dksX0_bank_0 16 rfl rfl)
theorem dX0_bank_17 : decode cX0_bank 17 = .ok (.astore 4, 2) := dk_58 4 (dk_at dksX0_bank_0 17 rfl rfl)
theorem dX0_bank_19 : decode cX0_bank 19 = .ok (.iconst 2, 1) := dk_5 (dk_at dksX0_bank_0 19 rfl rfl)
theorem dX0_bank_20 : decode cX0_bank 20 = .ok (.ireturn, 1) := dk_172 (dk_at dksX0_bank_0 20 rfl rfl)
theorem dX0_bank_21 : decode cX0_bank 21 = .ok (.astore 4, 2) := dk_58 4 (dk_at dksX0_bank_0 21 rfl rfl)
theorem dX0_bank_23 : decode cX0_bank 23 = .ok (.iconst 3, 1) := dk_6 (dk_at dksX0_bank_0 23 rfl rfl)
theorem dX0_bank_24 : decode cX0_bank 24 = .ok (.ireturn, 1) := dk_172 (dk_at dksX0_bank_1 0 rfl rfl)
theorem dX0_bank_25 : decode cX0_bank 25 = .ok (.astore 4, 2) := dk_58 4 (dk_at dksX0_bank_1 1 rfl rfl)
theorem dX0_bank_27 : decode cX0_bank 27 = .ok (.iconst 4, 1) := dk_7 (dk_at dksX0_bank_1 3 rfl rfl)
theorem dX0_bank_28 : decode cX0_bank 28 = .ok (.ireturn, 1) := dk_172 (dk_at dksX0_bank_1 4 rfl rfl)
theorem dX0_bank_29 : decode cX0_bank 29 = .ok (.iconst 0, 1) := dk_3 (dk_at dksX0_bank_1 5 rfl rfl)
theorem dX0_bank_30 : decode cX0_bank 30 = .ok (.ireturn, 1) := dk_172 (dk_at dksX0_bank_1 6 rfl rfl)
abbrev cX0_buy : ByteArray := method_4_code
def yX0_buy : MethodName := ⟨RX0, "buy", "(LPageBanks;I[J)I"⟩
def dkwX0_buy_0 : List UInt8 := [44, 3, 42, 27, 182, 0, 21, 133, 80, 167, 0, 12, 78, 4, 172, 78, 5, 172, 78, 6, 172, 3, 172]
abbrev dktX0_buy_0 : List UInt8 := dkwX0_buy_0 ++ []
theorem dksX0_buy_0 : cX0_buy.data.toList.drop 0 = dktX0_buy_0 := by decide +kernel
theorem dX0_buy_0 : decode cX0_buy 0 = .ok (.aload_n 2, 1) := dk_44 (dk_at dksX0_buy_0 0 rfl rfl)
theorem dX0_buy_1 : decode cX0_buy 1 = .ok (.iconst 0, 1) := dk_3 (dk_at dksX0_buy_0 1 rfl rfl)
theorem dX0_buy_2 : decode cX0_buy 2 = .ok (.aload_n 0, 1) := dk_42 (dk_at dksX0_buy_0 2 rfl rfl)
theorem dX0_buy_3 : decode cX0_buy 3 = .ok (.iload_n 1, 1) := dk_27 (dk_at dksX0_buy_0 3 rfl rfl)
theorem dX0_buy_4 : decode cX0_buy 4 = .ok (.invokevirtual 21, 3) := dk_182 0 21 (dk_at dksX0_buy_0 4 rfl rfl)
theorem dX0_buy_7 : decode cX0_buy 7 = .ok (.i2l, 1) := dk_133 (dk_at dksX0_buy_0 7 rfl rfl)
theorem dX0_buy_8 : decode cX0_buy 8 = .ok (.lastore, 1) := dk_80 (dk_at dksX0_buy_0 8 rfl rfl)
theorem dX0_buy_9 : decode cX0_buy 9 = .ok (.goto 12, 3) := dk_167 0 12 (dk_at dksX0_buy_0 9 rfl rfl)
theorem dX0_buy_12 : decode cX0_buy 12 = .ok (.astore_n 3, 1) := dk_78 (dk_at dksX0_buy_0 12 rfl rfl)
theorem dX0_buy_13 : decode cX0_buy 13 = .ok (.iconst 1, 1) := dk_4 (dk_at dksX0_buy_0 13 rfl rfl)
theorem dX0_buy_14 : decode cX0_buy 14 = .ok (.ireturn, 1) := dk_172 (dk_at dksX0_buy_0 14 rfl rfl)
theorem dX0_buy_15 : decode cX0_buy 15 = .ok (.astore_n 3, 1) := dk_78 (dk_at dksX0_buy_0 15 rfl rfl)
theorem dX0_buy_16 : decode cX0_buy 16 = .ok (.iconst 2, 1) := dk_5 (dk_at dksX0_buy_0 16 rfl rfl)
theorem dX0_buy_17 : decode cX0_buy 17 = .ok (.ireturn, 1) := dk_172 (dk_at dksX0_buy_0 17 rfl rfl)
theorem dX0_buy_18 : decode cX0_buy 18 = .ok (.astore_n 3, 1) := dk_78 (dk_at dksX0_buy_0 18 rfl rfl)
theorem dX0_buy_19 : decode cX0_buy 19 = .ok (.iconst 3, 1) := dk_6 (dk_at dksX0_buy_0 19 rfl rfl)
theorem dX0_buy_20 : decode cX0_buy 20 = .ok (.ireturn, 1) := dk_172 (dk_at dksX0_buy_0 20 rfl rfl)
theorem dX0_buy_21 : decode cX0_buy 21 = .ok (.iconst 0, 1) := dk_3 (dk_at dksX0_buy_0 21 rfl rfl)
theorem dX0_buy_22 : decode cX0_buy 22 = .ok (.ireturn, 1) := dk_172 (dk_at dksX0_buy_0 22 rfl rfl)
abbrev cX0_buyRun : ByteArray := method_5_code
def yX0_buyRun : MethodName := ⟨RX0, "buyRun", "(LPageBanks;II[J)I"⟩
def dkwX0_buyRun_1 : List UInt8 := [172, 58, 4, 7, 172, 3, 172]
abbrev dktX0_buyRun_1 : List UInt8 := dkwX0_buyRun_1 ++ []
def dkwX0_buyRun_0 : List UInt8 := [45, 3, 42, 27, 28, 182, 0, 25, 133, 80, 167, 0, 19, 58, 4, 4, 172, 58, 4, 5, 172, 58, 4, 6]
abbrev dktX0_buyRun_0 : List UInt8 := dkwX0_buyRun_0 ++ dktX0_buyRun_1
theorem dksX0_buyRun_0 : cX0_buyRun.data.toList.drop 0 = dktX0_buyRun_0 := by decide +kernel
theorem dksX0_buyRun_1 : cX0_buyRun.data.toList.drop 24 = dktX0_buyRun_1 := dk_seg dksX0_buyRun_0 24 rfl rfl
theorem dX0_buyRun_0 : decode cX0_buyRun 0 = .ok (.aload_n 3, 1) := dk_45 (dk_at dksX0_buyRun_0 0 rfl rfl)
theorem dX0_buyRun_1 : decode cX0_buyRun 1 = .ok (.iconst 0, 1) := dk_3 (dk_at dksX0_buyRun_0 1 rfl rfl)
theorem dX0_buyRun_2 : decode cX0_buyRun 2 = .ok (.aload_n 0, 1) := dk_42 (dk_at dksX0_buyRun_0 2 rfl rfl)
theorem dX0_buyRun_3 : decode cX0_buyRun 3 = .ok (.iload_n 1, 1) := dk_27 (dk_at dksX0_buyRun_0 3 rfl rfl)
theorem dX0_buyRun_4 : decode cX0_buyRun 4 = .ok (.iload_n 2, 1) := dk_28 (dk_at dksX0_buyRun_0 4 rfl rfl)
theorem dX0_buyRun_5 : decode cX0_buyRun 5 = .ok (.invokevirtual 25, 3) := dk_182 0 25 (dk_at dksX0_buyRun_0 5 rfl rfl)
theorem dX0_buyRun_8 : decode cX0_buyRun 8 = .ok (.i2l, 1) := dk_133 (dk_at dksX0_buyRun_0 8 rfl rfl)
theorem dX0_buyRun_9 : decode cX0_buyRun 9 = .ok (.lastore, 1) := dk_80 (dk_at dksX0_buyRun_0 9 rfl rfl)
theorem dX0_buyRun_10 : decode cX0_buyRun 10 = .ok (.goto 19, 3) := dk_167 0 19 (dk_at dksX0_buyRun_0 10 rfl rfl)
theorem dX0_buyRun_13 : decode cX0_buyRun 13 = .ok (.astore 4, 2) := dk_58 4 (dk_at dksX0_buyRun_0 13 rfl rfl)
theorem dX0_buyRun_15 : decode cX0_buyRun 15 = .ok (.iconst 1, 1) := dk_4 (dk_at dksX0_buyRun_0 15 rfl rfl)
theorem dX0_buyRun_16 : decode cX0_buyRun 16 = .ok (.ireturn, 1) := dk_172 (dk_at dksX0_buyRun_0 16 rfl rfl)
theorem dX0_buyRun_17 : decode cX0_buyRun 17 = .ok (.astore 4, 2) := dk_58 4 (dk_at dksX0_buyRun_0 17 rfl rfl)
theorem dX0_buyRun_19 : decode cX0_buyRun 19 = .ok (.iconst 2, 1) := dk_5 (dk_at dksX0_buyRun_0 19 rfl rfl)
theorem dX0_buyRun_20 : decode cX0_buyRun 20 = .ok (.ireturn, 1) := dk_172 (dk_at dksX0_buyRun_0 20 rfl rfl)
theorem dX0_buyRun_21 : decode cX0_buyRun 21 = .ok (.astore 4, 2) := dk_58 4 (dk_at dksX0_buyRun_0 21 rfl rfl)
theorem dX0_buyRun_23 : decode cX0_buyRun 23 = .ok (.iconst 3, 1) := dk_6 (dk_at dksX0_buyRun_0 23 rfl rfl)
theorem dX0_buyRun_24 : decode cX0_buyRun 24 = .ok (.ireturn, 1) := dk_172 (dk_at dksX0_buyRun_1 0 rfl rfl)
theorem dX0_buyRun_25 : decode cX0_buyRun 25 = .ok (.astore 4, 2) := dk_58 4 (dk_at dksX0_buyRun_1 1 rfl rfl)
theorem dX0_buyRun_27 : decode cX0_buyRun 27 = .ok (.iconst 4, 1) := dk_7 (dk_at dksX0_buyRun_1 3 rfl rfl)
theorem dX0_buyRun_28 : decode cX0_buyRun 28 = .ok (.ireturn, 1) := dk_172 (dk_at dksX0_buyRun_1 4 rfl rfl)
theorem dX0_buyRun_29 : decode cX0_buyRun 29 = .ok (.iconst 0, 1) := dk_3 (dk_at dksX0_buyRun_1 5 rfl rfl)
theorem dX0_buyRun_30 : decode cX0_buyRun 30 = .ok (.ireturn, 1) := dk_172 (dk_at dksX0_buyRun_1 6 rfl rfl)
abbrev cX0_runKey : ByteArray := method_6_code
def yX0_runKey : MethodName := ⟨RX0, "runKey", "(LPageBanks;II[J)I"⟩
def dkwX0_runKey_0 : List UInt8 := [45, 3, 42, 27, 28, 182, 0, 28, 133, 80, 167, 0, 11, 58, 4, 4, 172, 58, 4, 5, 172, 3, 172]
abbrev dktX0_runKey_0 : List UInt8 := dkwX0_runKey_0 ++ []
theorem dksX0_runKey_0 : cX0_runKey.data.toList.drop 0 = dktX0_runKey_0 := by decide +kernel
theorem dX0_runKey_0 : decode cX0_runKey 0 = .ok (.aload_n 3, 1) := dk_45 (dk_at dksX0_runKey_0 0 rfl rfl)
theorem dX0_runKey_1 : decode cX0_runKey 1 = .ok (.iconst 0, 1) := dk_3 (dk_at dksX0_runKey_0 1 rfl rfl)
theorem dX0_runKey_2 : decode cX0_runKey 2 = .ok (.aload_n 0, 1) := dk_42 (dk_at dksX0_runKey_0 2 rfl rfl)
theorem dX0_runKey_3 : decode cX0_runKey 3 = .ok (.iload_n 1, 1) := dk_27 (dk_at dksX0_runKey_0 3 rfl rfl)
theorem dX0_runKey_4 : decode cX0_runKey 4 = .ok (.iload_n 2, 1) := dk_28 (dk_at dksX0_runKey_0 4 rfl rfl)
theorem dX0_runKey_5 : decode cX0_runKey 5 = .ok (.invokevirtual 28, 3) := dk_182 0 28 (dk_at dksX0_runKey_0 5 rfl rfl)
theorem dX0_runKey_8 : decode cX0_runKey 8 = .ok (.i2l, 1) := dk_133 (dk_at dksX0_runKey_0 8 rfl rfl)
theorem dX0_runKey_9 : decode cX0_runKey 9 = .ok (.lastore, 1) := dk_80 (dk_at dksX0_runKey_0 9 rfl rfl)
theorem dX0_runKey_10 : decode cX0_runKey 10 = .ok (.goto 11, 3) := dk_167 0 11 (dk_at dksX0_runKey_0 10 rfl rfl)
theorem dX0_runKey_13 : decode cX0_runKey 13 = .ok (.astore 4, 2) := dk_58 4 (dk_at dksX0_runKey_0 13 rfl rfl)
theorem dX0_runKey_15 : decode cX0_runKey 15 = .ok (.iconst 1, 1) := dk_4 (dk_at dksX0_runKey_0 15 rfl rfl)
theorem dX0_runKey_16 : decode cX0_runKey 16 = .ok (.ireturn, 1) := dk_172 (dk_at dksX0_runKey_0 16 rfl rfl)
theorem dX0_runKey_17 : decode cX0_runKey 17 = .ok (.astore 4, 2) := dk_58 4 (dk_at dksX0_runKey_0 17 rfl rfl)
theorem dX0_runKey_19 : decode cX0_runKey 19 = .ok (.iconst 2, 1) := dk_5 (dk_at dksX0_runKey_0 19 rfl rfl)
theorem dX0_runKey_20 : decode cX0_runKey 20 = .ok (.ireturn, 1) := dk_172 (dk_at dksX0_runKey_0 20 rfl rfl)
theorem dX0_runKey_21 : decode cX0_runKey 21 = .ok (.iconst 0, 1) := dk_3 (dk_at dksX0_runKey_0 21 rfl rfl)
theorem dX0_runKey_22 : decode cX0_runKey 22 = .ok (.ireturn, 1) := dk_172 (dk_at dksX0_runKey_0 22 rfl rfl)
abbrev cX0_sell : ByteArray := method_7_code
def yX0_sell : MethodName := ⟨RX0, "sell", "(LPageBanks;I[J)I"⟩
def dkwX0_sell_0 : List UInt8 := [44, 3, 42, 27, 182, 0, 33, 133, 80, 167, 0, 9, 78, 4, 172, 78, 5, 172, 3, 172]
abbrev dktX0_sell_0 : List UInt8 := dkwX0_sell_0 ++ []
theorem dksX0_sell_0 : cX0_sell.data.toList.drop 0 = dktX0_sell_0 := by decide +kernel
theorem dX0_sell_0 : decode cX0_sell 0 = .ok (.aload_n 2, 1) := dk_44 (dk_at dksX0_sell_0 0 rfl rfl)
theorem dX0_sell_1 : decode cX0_sell 1 = .ok (.iconst 0, 1) := dk_3 (dk_at dksX0_sell_0 1 rfl rfl)
theorem dX0_sell_2 : decode cX0_sell 2 = .ok (.aload_n 0, 1) := dk_42 (dk_at dksX0_sell_0 2 rfl rfl)
theorem dX0_sell_3 : decode cX0_sell 3 = .ok (.iload_n 1, 1) := dk_27 (dk_at dksX0_sell_0 3 rfl rfl)
theorem dX0_sell_4 : decode cX0_sell 4 = .ok (.invokevirtual 33, 3) := dk_182 0 33 (dk_at dksX0_sell_0 4 rfl rfl)
theorem dX0_sell_7 : decode cX0_sell 7 = .ok (.i2l, 1) := dk_133 (dk_at dksX0_sell_0 7 rfl rfl)
theorem dX0_sell_8 : decode cX0_sell 8 = .ok (.lastore, 1) := dk_80 (dk_at dksX0_sell_0 8 rfl rfl)
theorem dX0_sell_9 : decode cX0_sell 9 = .ok (.goto 9, 3) := dk_167 0 9 (dk_at dksX0_sell_0 9 rfl rfl)
theorem dX0_sell_12 : decode cX0_sell 12 = .ok (.astore_n 3, 1) := dk_78 (dk_at dksX0_sell_0 12 rfl rfl)
theorem dX0_sell_13 : decode cX0_sell 13 = .ok (.iconst 1, 1) := dk_4 (dk_at dksX0_sell_0 13 rfl rfl)
theorem dX0_sell_14 : decode cX0_sell 14 = .ok (.ireturn, 1) := dk_172 (dk_at dksX0_sell_0 14 rfl rfl)
theorem dX0_sell_15 : decode cX0_sell 15 = .ok (.astore_n 3, 1) := dk_78 (dk_at dksX0_sell_0 15 rfl rfl)
theorem dX0_sell_16 : decode cX0_sell 16 = .ok (.iconst 2, 1) := dk_5 (dk_at dksX0_sell_0 16 rfl rfl)
theorem dX0_sell_17 : decode cX0_sell 17 = .ok (.ireturn, 1) := dk_172 (dk_at dksX0_sell_0 17 rfl rfl)
theorem dX0_sell_18 : decode cX0_sell 18 = .ok (.iconst 0, 1) := dk_3 (dk_at dksX0_sell_0 18 rfl rfl)
theorem dX0_sell_19 : decode cX0_sell 19 = .ok (.ireturn, 1) := dk_172 (dk_at dksX0_sell_0 19 rfl rfl)
abbrev cX0_weak : ByteArray := method_8_code
def yX0_weak : MethodName := ⟨RX0, "weak", "(LPageBanks;I[J)I"⟩
def dkwX0_weak_0 : List UInt8 := [44, 3, 42, 27, 182, 0, 36, 133, 80, 167, 0, 6, 78, 4, 172, 3, 172]
abbrev dktX0_weak_0 : List UInt8 := dkwX0_weak_0 ++ []
theorem dksX0_weak_0 : cX0_weak.data.toList.drop 0 = dktX0_weak_0 := by decide +kernel
theorem dX0_weak_0 : decode cX0_weak 0 = .ok (.aload_n 2, 1) := dk_44 (dk_at dksX0_weak_0 0 rfl rfl)
theorem dX0_weak_1 : decode cX0_weak 1 = .ok (.iconst 0, 1) := dk_3 (dk_at dksX0_weak_0 1 rfl rfl)
theorem dX0_weak_2 : decode cX0_weak 2 = .ok (.aload_n 0, 1) := dk_42 (dk_at dksX0_weak_0 2 rfl rfl)
theorem dX0_weak_3 : decode cX0_weak 3 = .ok (.iload_n 1, 1) := dk_27 (dk_at dksX0_weak_0 3 rfl rfl)
theorem dX0_weak_4 : decode cX0_weak 4 = .ok (.invokevirtual 36, 3) := dk_182 0 36 (dk_at dksX0_weak_0 4 rfl rfl)
theorem dX0_weak_7 : decode cX0_weak 7 = .ok (.i2l, 1) := dk_133 (dk_at dksX0_weak_0 7 rfl rfl)
theorem dX0_weak_8 : decode cX0_weak 8 = .ok (.lastore, 1) := dk_80 (dk_at dksX0_weak_0 8 rfl rfl)
theorem dX0_weak_9 : decode cX0_weak 9 = .ok (.goto 6, 3) := dk_167 0 6 (dk_at dksX0_weak_0 9 rfl rfl)
theorem dX0_weak_12 : decode cX0_weak 12 = .ok (.astore_n 3, 1) := dk_78 (dk_at dksX0_weak_0 12 rfl rfl)
theorem dX0_weak_13 : decode cX0_weak 13 = .ok (.iconst 1, 1) := dk_4 (dk_at dksX0_weak_0 13 rfl rfl)
theorem dX0_weak_14 : decode cX0_weak 14 = .ok (.ireturn, 1) := dk_172 (dk_at dksX0_weak_0 14 rfl rfl)
theorem dX0_weak_15 : decode cX0_weak 15 = .ok (.iconst 0, 1) := dk_3 (dk_at dksX0_weak_0 15 rfl rfl)
theorem dX0_weak_16 : decode cX0_weak 16 = .ok (.ireturn, 1) := dk_172 (dk_at dksX0_weak_0 16 rfl rfl)
abbrev cX0_read : ByteArray := method_9_code
def yX0_read : MethodName := ⟨RX0, "read", "(LPageBanks;II[J)I"⟩
def dkwX0_read_0 : List UInt8 := [45, 3, 42, 27, 28, 182, 0, 39, 133, 80, 167, 0, 11, 58, 4, 4, 172, 58, 4, 5, 172, 3, 172]
abbrev dktX0_read_0 : List UInt8 := dkwX0_read_0 ++ []
theorem dksX0_read_0 : cX0_read.data.toList.drop 0 = dktX0_read_0 := by decide +kernel
theorem dX0_read_0 : decode cX0_read 0 = .ok (.aload_n 3, 1) := dk_45 (dk_at dksX0_read_0 0 rfl rfl)
theorem dX0_read_1 : decode cX0_read 1 = .ok (.iconst 0, 1) := dk_3 (dk_at dksX0_read_0 1 rfl rfl)
theorem dX0_read_2 : decode cX0_read 2 = .ok (.aload_n 0, 1) := dk_42 (dk_at dksX0_read_0 2 rfl rfl)
theorem dX0_read_3 : decode cX0_read 3 = .ok (.iload_n 1, 1) := dk_27 (dk_at dksX0_read_0 3 rfl rfl)
theorem dX0_read_4 : decode cX0_read 4 = .ok (.iload_n 2, 1) := dk_28 (dk_at dksX0_read_0 4 rfl rfl)
theorem dX0_read_5 : decode cX0_read 5 = .ok (.invokevirtual 39, 3) := dk_182 0 39 (dk_at dksX0_read_0 5 rfl rfl)
theorem dX0_read_8 : decode cX0_read 8 = .ok (.i2l, 1) := dk_133 (dk_at dksX0_read_0 8 rfl rfl)
theorem dX0_read_9 : decode cX0_read 9 = .ok (.lastore, 1) := dk_80 (dk_at dksX0_read_0 9 rfl rfl)
theorem dX0_read_10 : decode cX0_read 10 = .ok (.goto 11, 3) := dk_167 0 11 (dk_at dksX0_read_0 10 rfl rfl)
theorem dX0_read_13 : decode cX0_read 13 = .ok (.astore 4, 2) := dk_58 4 (dk_at dksX0_read_0 13 rfl rfl)
theorem dX0_read_15 : decode cX0_read 15 = .ok (.iconst 1, 1) := dk_4 (dk_at dksX0_read_0 15 rfl rfl)
theorem dX0_read_16 : decode cX0_read 16 = .ok (.ireturn, 1) := dk_172 (dk_at dksX0_read_0 16 rfl rfl)
theorem dX0_read_17 : decode cX0_read 17 = .ok (.astore 4, 2) := dk_58 4 (dk_at dksX0_read_0 17 rfl rfl)
theorem dX0_read_19 : decode cX0_read 19 = .ok (.iconst 2, 1) := dk_5 (dk_at dksX0_read_0 19 rfl rfl)
theorem dX0_read_20 : decode cX0_read 20 = .ok (.ireturn, 1) := dk_172 (dk_at dksX0_read_0 20 rfl rfl)
theorem dX0_read_21 : decode cX0_read 21 = .ok (.iconst 0, 1) := dk_3 (dk_at dksX0_read_0 21 rfl rfl)
theorem dX0_read_22 : decode cX0_read 22 = .ok (.ireturn, 1) := dk_172 (dk_at dksX0_read_0 22 rfl rfl)
abbrev cX0_write : ByteArray := method_10_code
def yX0_write : MethodName := ⟨RX0, "write", "(LPageBanks;III[J)I"⟩
def dkwX0_write_1 : List UInt8 := [58, 5, 6, 172, 3, 172]
abbrev dktX0_write_1 : List UInt8 := dkwX0_write_1 ++ []
def dkwX0_write_0 : List UInt8 := [25, 4, 3, 42, 27, 28, 29, 182, 0, 42, 133, 80, 167, 0, 15, 58, 5, 4, 172, 58, 5, 5, 172]
abbrev dktX0_write_0 : List UInt8 := dkwX0_write_0 ++ dktX0_write_1
theorem dksX0_write_0 : cX0_write.data.toList.drop 0 = dktX0_write_0 := by decide +kernel
theorem dksX0_write_1 : cX0_write.data.toList.drop 23 = dktX0_write_1 := dk_seg dksX0_write_0 23 rfl rfl
theorem dX0_write_0 : decode cX0_write 0 = .ok (.aload 4, 2) := dk_25 4 (dk_at dksX0_write_0 0 rfl rfl)
theorem dX0_write_2 : decode cX0_write 2 = .ok (.iconst 0, 1) := dk_3 (dk_at dksX0_write_0 2 rfl rfl)
theorem dX0_write_3 : decode cX0_write 3 = .ok (.aload_n 0, 1) := dk_42 (dk_at dksX0_write_0 3 rfl rfl)
theorem dX0_write_4 : decode cX0_write 4 = .ok (.iload_n 1, 1) := dk_27 (dk_at dksX0_write_0 4 rfl rfl)
theorem dX0_write_5 : decode cX0_write 5 = .ok (.iload_n 2, 1) := dk_28 (dk_at dksX0_write_0 5 rfl rfl)
theorem dX0_write_6 : decode cX0_write 6 = .ok (.iload_n 3, 1) := dk_29 (dk_at dksX0_write_0 6 rfl rfl)
theorem dX0_write_7 : decode cX0_write 7 = .ok (.invokevirtual 42, 3) := dk_182 0 42 (dk_at dksX0_write_0 7 rfl rfl)
theorem dX0_write_10 : decode cX0_write 10 = .ok (.i2l, 1) := dk_133 (dk_at dksX0_write_0 10 rfl rfl)
theorem dX0_write_11 : decode cX0_write 11 = .ok (.lastore, 1) := dk_80 (dk_at dksX0_write_0 11 rfl rfl)
theorem dX0_write_12 : decode cX0_write 12 = .ok (.goto 15, 3) := dk_167 0 15 (dk_at dksX0_write_0 12 rfl rfl)
theorem dX0_write_15 : decode cX0_write 15 = .ok (.astore 5, 2) := dk_58 5 (dk_at dksX0_write_0 15 rfl rfl)
theorem dX0_write_17 : decode cX0_write 17 = .ok (.iconst 1, 1) := dk_4 (dk_at dksX0_write_0 17 rfl rfl)
theorem dX0_write_18 : decode cX0_write 18 = .ok (.ireturn, 1) := dk_172 (dk_at dksX0_write_0 18 rfl rfl)
theorem dX0_write_19 : decode cX0_write 19 = .ok (.astore 5, 2) := dk_58 5 (dk_at dksX0_write_0 19 rfl rfl)
theorem dX0_write_21 : decode cX0_write 21 = .ok (.iconst 2, 1) := dk_5 (dk_at dksX0_write_0 21 rfl rfl)
theorem dX0_write_22 : decode cX0_write 22 = .ok (.ireturn, 1) := dk_172 (dk_at dksX0_write_0 22 rfl rfl)
theorem dX0_write_23 : decode cX0_write 23 = .ok (.astore 5, 2) := dk_58 5 (dk_at dksX0_write_1 0 rfl rfl)
theorem dX0_write_25 : decode cX0_write 25 = .ok (.iconst 3, 1) := dk_6 (dk_at dksX0_write_1 2 rfl rfl)
theorem dX0_write_26 : decode cX0_write 26 = .ok (.ireturn, 1) := dk_172 (dk_at dksX0_write_1 3 rfl rfl)
theorem dX0_write_27 : decode cX0_write 27 = .ok (.iconst 0, 1) := dk_3 (dk_at dksX0_write_1 4 rfl rfl)
theorem dX0_write_28 : decode cX0_write 28 = .ok (.ireturn, 1) := dk_172 (dk_at dksX0_write_1 5 rfl rfl)
abbrev cX0_move : ByteArray := method_11_code
def yX0_move : MethodName := ⟨RX0, "move", "(LPageBanks;II[J)I"⟩
def dkwX0_move_1 : List UInt8 := [172, 58, 4, 7, 172, 58, 4, 8, 172, 3, 172]
abbrev dktX0_move_1 : List UInt8 := dkwX0_move_1 ++ []
def dkwX0_move_0 : List UInt8 := [45, 3, 42, 27, 28, 182, 0, 46, 133, 80, 167, 0, 23, 58, 4, 4, 172, 58, 4, 5, 172, 58, 4, 6]
abbrev dktX0_move_0 : List UInt8 := dkwX0_move_0 ++ dktX0_move_1
theorem dksX0_move_0 : cX0_move.data.toList.drop 0 = dktX0_move_0 := by decide +kernel
theorem dksX0_move_1 : cX0_move.data.toList.drop 24 = dktX0_move_1 := dk_seg dksX0_move_0 24 rfl rfl
theorem dX0_move_0 : decode cX0_move 0 = .ok (.aload_n 3, 1) := dk_45 (dk_at dksX0_move_0 0 rfl rfl)
theorem dX0_move_1 : decode cX0_move 1 = .ok (.iconst 0, 1) := dk_3 (dk_at dksX0_move_0 1 rfl rfl)
theorem dX0_move_2 : decode cX0_move 2 = .ok (.aload_n 0, 1) := dk_42 (dk_at dksX0_move_0 2 rfl rfl)
theorem dX0_move_3 : decode cX0_move 3 = .ok (.iload_n 1, 1) := dk_27 (dk_at dksX0_move_0 3 rfl rfl)
theorem dX0_move_4 : decode cX0_move 4 = .ok (.iload_n 2, 1) := dk_28 (dk_at dksX0_move_0 4 rfl rfl)
theorem dX0_move_5 : decode cX0_move 5 = .ok (.invokevirtual 46, 3) := dk_182 0 46 (dk_at dksX0_move_0 5 rfl rfl)
theorem dX0_move_8 : decode cX0_move 8 = .ok (.i2l, 1) := dk_133 (dk_at dksX0_move_0 8 rfl rfl)
theorem dX0_move_9 : decode cX0_move 9 = .ok (.lastore, 1) := dk_80 (dk_at dksX0_move_0 9 rfl rfl)
theorem dX0_move_10 : decode cX0_move 10 = .ok (.goto 23, 3) := dk_167 0 23 (dk_at dksX0_move_0 10 rfl rfl)
theorem dX0_move_13 : decode cX0_move 13 = .ok (.astore 4, 2) := dk_58 4 (dk_at dksX0_move_0 13 rfl rfl)
theorem dX0_move_15 : decode cX0_move 15 = .ok (.iconst 1, 1) := dk_4 (dk_at dksX0_move_0 15 rfl rfl)
theorem dX0_move_16 : decode cX0_move 16 = .ok (.ireturn, 1) := dk_172 (dk_at dksX0_move_0 16 rfl rfl)
theorem dX0_move_17 : decode cX0_move 17 = .ok (.astore 4, 2) := dk_58 4 (dk_at dksX0_move_0 17 rfl rfl)
theorem dX0_move_19 : decode cX0_move 19 = .ok (.iconst 2, 1) := dk_5 (dk_at dksX0_move_0 19 rfl rfl)
theorem dX0_move_20 : decode cX0_move 20 = .ok (.ireturn, 1) := dk_172 (dk_at dksX0_move_0 20 rfl rfl)
theorem dX0_move_21 : decode cX0_move 21 = .ok (.astore 4, 2) := dk_58 4 (dk_at dksX0_move_0 21 rfl rfl)
theorem dX0_move_23 : decode cX0_move 23 = .ok (.iconst 3, 1) := dk_6 (dk_at dksX0_move_0 23 rfl rfl)
theorem dX0_move_24 : decode cX0_move 24 = .ok (.ireturn, 1) := dk_172 (dk_at dksX0_move_1 0 rfl rfl)
theorem dX0_move_25 : decode cX0_move 25 = .ok (.astore 4, 2) := dk_58 4 (dk_at dksX0_move_1 1 rfl rfl)
theorem dX0_move_27 : decode cX0_move 27 = .ok (.iconst 4, 1) := dk_7 (dk_at dksX0_move_1 3 rfl rfl)
theorem dX0_move_28 : decode cX0_move 28 = .ok (.ireturn, 1) := dk_172 (dk_at dksX0_move_1 4 rfl rfl)
theorem dX0_move_29 : decode cX0_move 29 = .ok (.astore 4, 2) := dk_58 4 (dk_at dksX0_move_1 5 rfl rfl)
theorem dX0_move_31 : decode cX0_move 31 = .ok (.iconst 5, 1) := dk_8 (dk_at dksX0_move_1 7 rfl rfl)
theorem dX0_move_32 : decode cX0_move 32 = .ok (.ireturn, 1) := dk_172 (dk_at dksX0_move_1 8 rfl rfl)
theorem dX0_move_33 : decode cX0_move 33 = .ok (.iconst 0, 1) := dk_3 (dk_at dksX0_move_1 9 rfl rfl)
theorem dX0_move_34 : decode cX0_move 34 = .ok (.ireturn, 1) := dk_172 (dk_at dksX0_move_1 10 rfl rfl)
abbrev cX0_limit : ByteArray := method_12_code
def yX0_limit : MethodName := ⟨RX0, "limit", "(LPageBanks;II[J)I"⟩
def dkwX0_limit_1 : List UInt8 := [172, 3, 172]
abbrev dktX0_limit_1 : List UInt8 := dkwX0_limit_1 ++ []
def dkwX0_limit_0 : List UInt8 := [45, 3, 42, 27, 28, 182, 0, 49, 133, 80, 167, 0, 15, 58, 4, 4, 172, 58, 4, 5, 172, 58, 4, 6]
abbrev dktX0_limit_0 : List UInt8 := dkwX0_limit_0 ++ dktX0_limit_1
theorem dksX0_limit_0 : cX0_limit.data.toList.drop 0 = dktX0_limit_0 := by decide +kernel
theorem dksX0_limit_1 : cX0_limit.data.toList.drop 24 = dktX0_limit_1 := dk_seg dksX0_limit_0 24 rfl rfl
theorem dX0_limit_0 : decode cX0_limit 0 = .ok (.aload_n 3, 1) := dk_45 (dk_at dksX0_limit_0 0 rfl rfl)
theorem dX0_limit_1 : decode cX0_limit 1 = .ok (.iconst 0, 1) := dk_3 (dk_at dksX0_limit_0 1 rfl rfl)
theorem dX0_limit_2 : decode cX0_limit 2 = .ok (.aload_n 0, 1) := dk_42 (dk_at dksX0_limit_0 2 rfl rfl)
theorem dX0_limit_3 : decode cX0_limit 3 = .ok (.iload_n 1, 1) := dk_27 (dk_at dksX0_limit_0 3 rfl rfl)
theorem dX0_limit_4 : decode cX0_limit 4 = .ok (.iload_n 2, 1) := dk_28 (dk_at dksX0_limit_0 4 rfl rfl)
theorem dX0_limit_5 : decode cX0_limit 5 = .ok (.invokevirtual 49, 3) := dk_182 0 49 (dk_at dksX0_limit_0 5 rfl rfl)
theorem dX0_limit_8 : decode cX0_limit 8 = .ok (.i2l, 1) := dk_133 (dk_at dksX0_limit_0 8 rfl rfl)
theorem dX0_limit_9 : decode cX0_limit 9 = .ok (.lastore, 1) := dk_80 (dk_at dksX0_limit_0 9 rfl rfl)
theorem dX0_limit_10 : decode cX0_limit 10 = .ok (.goto 15, 3) := dk_167 0 15 (dk_at dksX0_limit_0 10 rfl rfl)
theorem dX0_limit_13 : decode cX0_limit 13 = .ok (.astore 4, 2) := dk_58 4 (dk_at dksX0_limit_0 13 rfl rfl)
theorem dX0_limit_15 : decode cX0_limit 15 = .ok (.iconst 1, 1) := dk_4 (dk_at dksX0_limit_0 15 rfl rfl)
theorem dX0_limit_16 : decode cX0_limit 16 = .ok (.ireturn, 1) := dk_172 (dk_at dksX0_limit_0 16 rfl rfl)
theorem dX0_limit_17 : decode cX0_limit 17 = .ok (.astore 4, 2) := dk_58 4 (dk_at dksX0_limit_0 17 rfl rfl)
theorem dX0_limit_19 : decode cX0_limit 19 = .ok (.iconst 2, 1) := dk_5 (dk_at dksX0_limit_0 19 rfl rfl)
theorem dX0_limit_20 : decode cX0_limit 20 = .ok (.ireturn, 1) := dk_172 (dk_at dksX0_limit_0 20 rfl rfl)
theorem dX0_limit_21 : decode cX0_limit 21 = .ok (.astore 4, 2) := dk_58 4 (dk_at dksX0_limit_0 21 rfl rfl)
theorem dX0_limit_23 : decode cX0_limit 23 = .ok (.iconst 3, 1) := dk_6 (dk_at dksX0_limit_0 23 rfl rfl)
theorem dX0_limit_24 : decode cX0_limit 24 = .ok (.ireturn, 1) := dk_172 (dk_at dksX0_limit_1 0 rfl rfl)
theorem dX0_limit_25 : decode cX0_limit 25 = .ok (.iconst 0, 1) := dk_3 (dk_at dksX0_limit_1 1 rfl rfl)
theorem dX0_limit_26 : decode cX0_limit 26 = .ok (.ireturn, 1) := dk_172 (dk_at dksX0_limit_1 2 rfl rfl)
abbrev cX0_reserve : ByteArray := method_13_code
def yX0_reserve : MethodName := ⟨RX0, "reserve", "(LPageBanks;II[J)I"⟩
def dkwX0_reserve_1 : List UInt8 := [172, 58, 4, 7, 172, 3, 172]
abbrev dktX0_reserve_1 : List UInt8 := dkwX0_reserve_1 ++ []
def dkwX0_reserve_0 : List UInt8 := [45, 3, 42, 27, 28, 182, 0, 52, 133, 80, 167, 0, 19, 58, 4, 4, 172, 58, 4, 5, 172, 58, 4, 6]
abbrev dktX0_reserve_0 : List UInt8 := dkwX0_reserve_0 ++ dktX0_reserve_1
theorem dksX0_reserve_0 : cX0_reserve.data.toList.drop 0 = dktX0_reserve_0 := by decide +kernel
theorem dksX0_reserve_1 : cX0_reserve.data.toList.drop 24 = dktX0_reserve_1 := dk_seg dksX0_reserve_0 24 rfl rfl
theorem dX0_reserve_0 : decode cX0_reserve 0 = .ok (.aload_n 3, 1) := dk_45 (dk_at dksX0_reserve_0 0 rfl rfl)
theorem dX0_reserve_1 : decode cX0_reserve 1 = .ok (.iconst 0, 1) := dk_3 (dk_at dksX0_reserve_0 1 rfl rfl)
theorem dX0_reserve_2 : decode cX0_reserve 2 = .ok (.aload_n 0, 1) := dk_42 (dk_at dksX0_reserve_0 2 rfl rfl)
theorem dX0_reserve_3 : decode cX0_reserve 3 = .ok (.iload_n 1, 1) := dk_27 (dk_at dksX0_reserve_0 3 rfl rfl)
theorem dX0_reserve_4 : decode cX0_reserve 4 = .ok (.iload_n 2, 1) := dk_28 (dk_at dksX0_reserve_0 4 rfl rfl)
theorem dX0_reserve_5 : decode cX0_reserve 5 = .ok (.invokevirtual 52, 3) := dk_182 0 52 (dk_at dksX0_reserve_0 5 rfl rfl)
theorem dX0_reserve_8 : decode cX0_reserve 8 = .ok (.i2l, 1) := dk_133 (dk_at dksX0_reserve_0 8 rfl rfl)
theorem dX0_reserve_9 : decode cX0_reserve 9 = .ok (.lastore, 1) := dk_80 (dk_at dksX0_reserve_0 9 rfl rfl)
theorem dX0_reserve_10 : decode cX0_reserve 10 = .ok (.goto 19, 3) := dk_167 0 19 (dk_at dksX0_reserve_0 10 rfl rfl)
theorem dX0_reserve_13 : decode cX0_reserve 13 = .ok (.astore 4, 2) := dk_58 4 (dk_at dksX0_reserve_0 13 rfl rfl)
theorem dX0_reserve_15 : decode cX0_reserve 15 = .ok (.iconst 1, 1) := dk_4 (dk_at dksX0_reserve_0 15 rfl rfl)
theorem dX0_reserve_16 : decode cX0_reserve 16 = .ok (.ireturn, 1) := dk_172 (dk_at dksX0_reserve_0 16 rfl rfl)
theorem dX0_reserve_17 : decode cX0_reserve 17 = .ok (.astore 4, 2) := dk_58 4 (dk_at dksX0_reserve_0 17 rfl rfl)
theorem dX0_reserve_19 : decode cX0_reserve 19 = .ok (.iconst 2, 1) := dk_5 (dk_at dksX0_reserve_0 19 rfl rfl)
theorem dX0_reserve_20 : decode cX0_reserve 20 = .ok (.ireturn, 1) := dk_172 (dk_at dksX0_reserve_0 20 rfl rfl)
theorem dX0_reserve_21 : decode cX0_reserve 21 = .ok (.astore 4, 2) := dk_58 4 (dk_at dksX0_reserve_0 21 rfl rfl)
theorem dX0_reserve_23 : decode cX0_reserve 23 = .ok (.iconst 3, 1) := dk_6 (dk_at dksX0_reserve_0 23 rfl rfl)
theorem dX0_reserve_24 : decode cX0_reserve 24 = .ok (.ireturn, 1) := dk_172 (dk_at dksX0_reserve_1 0 rfl rfl)
theorem dX0_reserve_25 : decode cX0_reserve 25 = .ok (.astore 4, 2) := dk_58 4 (dk_at dksX0_reserve_1 1 rfl rfl)
theorem dX0_reserve_27 : decode cX0_reserve 27 = .ok (.iconst 4, 1) := dk_7 (dk_at dksX0_reserve_1 3 rfl rfl)
theorem dX0_reserve_28 : decode cX0_reserve 28 = .ok (.ireturn, 1) := dk_172 (dk_at dksX0_reserve_1 4 rfl rfl)
theorem dX0_reserve_29 : decode cX0_reserve 29 = .ok (.iconst 0, 1) := dk_3 (dk_at dksX0_reserve_1 5 rfl rfl)
theorem dX0_reserve_30 : decode cX0_reserve 30 = .ok (.ireturn, 1) := dk_172 (dk_at dksX0_reserve_1 6 rfl rfl)
abbrev cX0_unreserve : ByteArray := method_14_code
def yX0_unreserve : MethodName := ⟨RX0, "unreserve", "(LPageBanks;II[J)I"⟩
def dkwX0_unreserve_0 : List UInt8 := [45, 3, 42, 27, 28, 182, 0, 55, 133, 80, 167, 0, 11, 58, 4, 4, 172, 58, 4, 5, 172, 3, 172]
abbrev dktX0_unreserve_0 : List UInt8 := dkwX0_unreserve_0 ++ []
theorem dksX0_unreserve_0 : cX0_unreserve.data.toList.drop 0 = dktX0_unreserve_0 := by decide +kernel
theorem dX0_unreserve_0 : decode cX0_unreserve 0 = .ok (.aload_n 3, 1) := dk_45 (dk_at dksX0_unreserve_0 0 rfl rfl)
theorem dX0_unreserve_1 : decode cX0_unreserve 1 = .ok (.iconst 0, 1) := dk_3 (dk_at dksX0_unreserve_0 1 rfl rfl)
theorem dX0_unreserve_2 : decode cX0_unreserve 2 = .ok (.aload_n 0, 1) := dk_42 (dk_at dksX0_unreserve_0 2 rfl rfl)
theorem dX0_unreserve_3 : decode cX0_unreserve 3 = .ok (.iload_n 1, 1) := dk_27 (dk_at dksX0_unreserve_0 3 rfl rfl)
theorem dX0_unreserve_4 : decode cX0_unreserve 4 = .ok (.iload_n 2, 1) := dk_28 (dk_at dksX0_unreserve_0 4 rfl rfl)
theorem dX0_unreserve_5 : decode cX0_unreserve 5 = .ok (.invokevirtual 55, 3) := dk_182 0 55 (dk_at dksX0_unreserve_0 5 rfl rfl)
theorem dX0_unreserve_8 : decode cX0_unreserve 8 = .ok (.i2l, 1) := dk_133 (dk_at dksX0_unreserve_0 8 rfl rfl)
theorem dX0_unreserve_9 : decode cX0_unreserve 9 = .ok (.lastore, 1) := dk_80 (dk_at dksX0_unreserve_0 9 rfl rfl)
theorem dX0_unreserve_10 : decode cX0_unreserve 10 = .ok (.goto 11, 3) := dk_167 0 11 (dk_at dksX0_unreserve_0 10 rfl rfl)
theorem dX0_unreserve_13 : decode cX0_unreserve 13 = .ok (.astore 4, 2) := dk_58 4 (dk_at dksX0_unreserve_0 13 rfl rfl)
theorem dX0_unreserve_15 : decode cX0_unreserve 15 = .ok (.iconst 1, 1) := dk_4 (dk_at dksX0_unreserve_0 15 rfl rfl)
theorem dX0_unreserve_16 : decode cX0_unreserve 16 = .ok (.ireturn, 1) := dk_172 (dk_at dksX0_unreserve_0 16 rfl rfl)
theorem dX0_unreserve_17 : decode cX0_unreserve 17 = .ok (.astore 4, 2) := dk_58 4 (dk_at dksX0_unreserve_0 17 rfl rfl)
theorem dX0_unreserve_19 : decode cX0_unreserve 19 = .ok (.iconst 2, 1) := dk_5 (dk_at dksX0_unreserve_0 19 rfl rfl)
theorem dX0_unreserve_20 : decode cX0_unreserve 20 = .ok (.ireturn, 1) := dk_172 (dk_at dksX0_unreserve_0 20 rfl rfl)
theorem dX0_unreserve_21 : decode cX0_unreserve 21 = .ok (.iconst 0, 1) := dk_3 (dk_at dksX0_unreserve_0 21 rfl rfl)
theorem dX0_unreserve_22 : decode cX0_unreserve 22 = .ok (.ireturn, 1) := dk_172 (dk_at dksX0_unreserve_0 22 rfl rfl)
abbrev cX0_freeze : ByteArray := method_15_code
def yX0_freeze : MethodName := ⟨RX0, "freeze", "(LPageBanks;IZ[J)I"⟩
def dkwX0_freeze_1 : List UInt8 := [58, 4, 5, 172, 58, 4, 6, 172, 3, 172]
abbrev dktX0_freeze_1 : List UInt8 := dkwX0_freeze_1 ++ []
def dkwX0_freeze_0 : List UInt8 := [45, 3, 42, 27, 28, 182, 0, 58, 153, 0, 7, 10, 167, 0, 4, 9, 80, 167, 0, 15, 58, 4, 4, 172]
abbrev dktX0_freeze_0 : List UInt8 := dkwX0_freeze_0 ++ dktX0_freeze_1
theorem dksX0_freeze_0 : cX0_freeze.data.toList.drop 0 = dktX0_freeze_0 := by decide +kernel
theorem dksX0_freeze_1 : cX0_freeze.data.toList.drop 24 = dktX0_freeze_1 := dk_seg dksX0_freeze_0 24 rfl rfl
theorem dX0_freeze_0 : decode cX0_freeze 0 = .ok (.aload_n 3, 1) := dk_45 (dk_at dksX0_freeze_0 0 rfl rfl)
theorem dX0_freeze_1 : decode cX0_freeze 1 = .ok (.iconst 0, 1) := dk_3 (dk_at dksX0_freeze_0 1 rfl rfl)
theorem dX0_freeze_2 : decode cX0_freeze 2 = .ok (.aload_n 0, 1) := dk_42 (dk_at dksX0_freeze_0 2 rfl rfl)
theorem dX0_freeze_3 : decode cX0_freeze 3 = .ok (.iload_n 1, 1) := dk_27 (dk_at dksX0_freeze_0 3 rfl rfl)
theorem dX0_freeze_4 : decode cX0_freeze 4 = .ok (.iload_n 2, 1) := dk_28 (dk_at dksX0_freeze_0 4 rfl rfl)
theorem dX0_freeze_5 : decode cX0_freeze 5 = .ok (.invokevirtual 58, 3) := dk_182 0 58 (dk_at dksX0_freeze_0 5 rfl rfl)
theorem dX0_freeze_8 : decode cX0_freeze 8 = .ok (.ifCond .eq 7, 3) := dk_153 0 7 (dk_at dksX0_freeze_0 8 rfl rfl)
theorem dX0_freeze_11 : decode cX0_freeze 11 = .ok (.lconst 1, 1) := dk_10 (dk_at dksX0_freeze_0 11 rfl rfl)
theorem dX0_freeze_12 : decode cX0_freeze 12 = .ok (.goto 4, 3) := dk_167 0 4 (dk_at dksX0_freeze_0 12 rfl rfl)
theorem dX0_freeze_15 : decode cX0_freeze 15 = .ok (.lconst 0, 1) := dk_9 (dk_at dksX0_freeze_0 15 rfl rfl)
theorem dX0_freeze_16 : decode cX0_freeze 16 = .ok (.lastore, 1) := dk_80 (dk_at dksX0_freeze_0 16 rfl rfl)
theorem dX0_freeze_17 : decode cX0_freeze 17 = .ok (.goto 15, 3) := dk_167 0 15 (dk_at dksX0_freeze_0 17 rfl rfl)
theorem dX0_freeze_20 : decode cX0_freeze 20 = .ok (.astore 4, 2) := dk_58 4 (dk_at dksX0_freeze_0 20 rfl rfl)
theorem dX0_freeze_22 : decode cX0_freeze 22 = .ok (.iconst 1, 1) := dk_4 (dk_at dksX0_freeze_0 22 rfl rfl)
theorem dX0_freeze_23 : decode cX0_freeze 23 = .ok (.ireturn, 1) := dk_172 (dk_at dksX0_freeze_0 23 rfl rfl)
theorem dX0_freeze_24 : decode cX0_freeze 24 = .ok (.astore 4, 2) := dk_58 4 (dk_at dksX0_freeze_1 0 rfl rfl)
theorem dX0_freeze_26 : decode cX0_freeze 26 = .ok (.iconst 2, 1) := dk_5 (dk_at dksX0_freeze_1 2 rfl rfl)
theorem dX0_freeze_27 : decode cX0_freeze 27 = .ok (.ireturn, 1) := dk_172 (dk_at dksX0_freeze_1 3 rfl rfl)
theorem dX0_freeze_28 : decode cX0_freeze 28 = .ok (.astore 4, 2) := dk_58 4 (dk_at dksX0_freeze_1 4 rfl rfl)
theorem dX0_freeze_30 : decode cX0_freeze 30 = .ok (.iconst 3, 1) := dk_6 (dk_at dksX0_freeze_1 6 rfl rfl)
theorem dX0_freeze_31 : decode cX0_freeze 31 = .ok (.ireturn, 1) := dk_172 (dk_at dksX0_freeze_1 7 rfl rfl)
theorem dX0_freeze_32 : decode cX0_freeze 32 = .ok (.iconst 0, 1) := dk_3 (dk_at dksX0_freeze_1 8 rfl rfl)
theorem dX0_freeze_33 : decode cX0_freeze 33 = .ok (.ireturn, 1) := dk_172 (dk_at dksX0_freeze_1 9 rfl rfl)
abbrev cX0_destroy : ByteArray := method_16_code
def yX0_destroy : MethodName := ⟨RX0, "destroy", "(LPageBanks;I[J)I"⟩
def dkwX0_destroy_0 : List UInt8 := [44, 3, 42, 27, 182, 0, 62, 133, 80, 167, 0, 12, 78, 4, 172, 78, 5, 172, 78, 6, 172, 3, 172]
abbrev dktX0_destroy_0 : List UInt8 := dkwX0_destroy_0 ++ []
theorem dksX0_destroy_0 : cX0_destroy.data.toList.drop 0 = dktX0_destroy_0 := by decide +kernel
theorem dX0_destroy_0 : decode cX0_destroy 0 = .ok (.aload_n 2, 1) := dk_44 (dk_at dksX0_destroy_0 0 rfl rfl)
theorem dX0_destroy_1 : decode cX0_destroy 1 = .ok (.iconst 0, 1) := dk_3 (dk_at dksX0_destroy_0 1 rfl rfl)
theorem dX0_destroy_2 : decode cX0_destroy 2 = .ok (.aload_n 0, 1) := dk_42 (dk_at dksX0_destroy_0 2 rfl rfl)
theorem dX0_destroy_3 : decode cX0_destroy 3 = .ok (.iload_n 1, 1) := dk_27 (dk_at dksX0_destroy_0 3 rfl rfl)
theorem dX0_destroy_4 : decode cX0_destroy 4 = .ok (.invokevirtual 62, 3) := dk_182 0 62 (dk_at dksX0_destroy_0 4 rfl rfl)
theorem dX0_destroy_7 : decode cX0_destroy 7 = .ok (.i2l, 1) := dk_133 (dk_at dksX0_destroy_0 7 rfl rfl)
theorem dX0_destroy_8 : decode cX0_destroy 8 = .ok (.lastore, 1) := dk_80 (dk_at dksX0_destroy_0 8 rfl rfl)
theorem dX0_destroy_9 : decode cX0_destroy 9 = .ok (.goto 12, 3) := dk_167 0 12 (dk_at dksX0_destroy_0 9 rfl rfl)
theorem dX0_destroy_12 : decode cX0_destroy 12 = .ok (.astore_n 3, 1) := dk_78 (dk_at dksX0_destroy_0 12 rfl rfl)
theorem dX0_destroy_13 : decode cX0_destroy 13 = .ok (.iconst 1, 1) := dk_4 (dk_at dksX0_destroy_0 13 rfl rfl)
theorem dX0_destroy_14 : decode cX0_destroy 14 = .ok (.ireturn, 1) := dk_172 (dk_at dksX0_destroy_0 14 rfl rfl)
theorem dX0_destroy_15 : decode cX0_destroy 15 = .ok (.astore_n 3, 1) := dk_78 (dk_at dksX0_destroy_0 15 rfl rfl)
theorem dX0_destroy_16 : decode cX0_destroy 16 = .ok (.iconst 2, 1) := dk_5 (dk_at dksX0_destroy_0 16 rfl rfl)
theorem dX0_destroy_17 : decode cX0_destroy 17 = .ok (.ireturn, 1) := dk_172 (dk_at dksX0_destroy_0 17 rfl rfl)
theorem dX0_destroy_18 : decode cX0_destroy 18 = .ok (.astore_n 3, 1) := dk_78 (dk_at dksX0_destroy_0 18 rfl rfl)
theorem dX0_destroy_19 : decode cX0_destroy 19 = .ok (.iconst 3, 1) := dk_6 (dk_at dksX0_destroy_0 19 rfl rfl)
theorem dX0_destroy_20 : decode cX0_destroy 20 = .ok (.ireturn, 1) := dk_172 (dk_at dksX0_destroy_0 20 rfl rfl)
theorem dX0_destroy_21 : decode cX0_destroy 21 = .ok (.iconst 0, 1) := dk_3 (dk_at dksX0_destroy_0 21 rfl rfl)
theorem dX0_destroy_22 : decode cX0_destroy 22 = .ok (.ireturn, 1) := dk_172 (dk_at dksX0_destroy_0 22 rfl rfl)
abbrev cX0_work : ByteArray := method_17_code
def yX0_work : MethodName := ⟨RX0, "work", "(LPageBanks;I[J)I"⟩
def dkwX0_work_0 : List UInt8 := [44, 3, 42, 27, 182, 0, 65, 133, 80, 167, 0, 6, 78, 4, 172, 3, 172]
abbrev dktX0_work_0 : List UInt8 := dkwX0_work_0 ++ []
theorem dksX0_work_0 : cX0_work.data.toList.drop 0 = dktX0_work_0 := by decide +kernel
theorem dX0_work_0 : decode cX0_work 0 = .ok (.aload_n 2, 1) := dk_44 (dk_at dksX0_work_0 0 rfl rfl)
theorem dX0_work_1 : decode cX0_work 1 = .ok (.iconst 0, 1) := dk_3 (dk_at dksX0_work_0 1 rfl rfl)
theorem dX0_work_2 : decode cX0_work 2 = .ok (.aload_n 0, 1) := dk_42 (dk_at dksX0_work_0 2 rfl rfl)
theorem dX0_work_3 : decode cX0_work 3 = .ok (.iload_n 1, 1) := dk_27 (dk_at dksX0_work_0 3 rfl rfl)
theorem dX0_work_4 : decode cX0_work 4 = .ok (.invokevirtual 65, 3) := dk_182 0 65 (dk_at dksX0_work_0 4 rfl rfl)
theorem dX0_work_7 : decode cX0_work 7 = .ok (.i2l, 1) := dk_133 (dk_at dksX0_work_0 7 rfl rfl)
theorem dX0_work_8 : decode cX0_work 8 = .ok (.lastore, 1) := dk_80 (dk_at dksX0_work_0 8 rfl rfl)
theorem dX0_work_9 : decode cX0_work 9 = .ok (.goto 6, 3) := dk_167 0 6 (dk_at dksX0_work_0 9 rfl rfl)
theorem dX0_work_12 : decode cX0_work 12 = .ok (.astore_n 3, 1) := dk_78 (dk_at dksX0_work_0 12 rfl rfl)
theorem dX0_work_13 : decode cX0_work 13 = .ok (.iconst 1, 1) := dk_4 (dk_at dksX0_work_0 13 rfl rfl)
theorem dX0_work_14 : decode cX0_work 14 = .ok (.ireturn, 1) := dk_172 (dk_at dksX0_work_0 14 rfl rfl)
theorem dX0_work_15 : decode cX0_work 15 = .ok (.iconst 0, 1) := dk_3 (dk_at dksX0_work_0 15 rfl rfl)
theorem dX0_work_16 : decode cX0_work 16 = .ok (.ireturn, 1) := dk_172 (dk_at dksX0_work_0 16 rfl rfl)
abbrev cX0_handUp : ByteArray := method_18_code
def yX0_handUp : MethodName := ⟨RX0, "handUp", "(LPageBanks;I[J)I"⟩
def dkwX0_handUp_0 : List UInt8 := [44, 3, 42, 27, 182, 0, 68, 133, 80, 167, 0, 12, 78, 4, 172, 78, 5, 172, 78, 6, 172, 3, 172]
abbrev dktX0_handUp_0 : List UInt8 := dkwX0_handUp_0 ++ []
theorem dksX0_handUp_0 : cX0_handUp.data.toList.drop 0 = dktX0_handUp_0 := by decide +kernel
theorem dX0_handUp_0 : decode cX0_handUp 0 = .ok (.aload_n 2, 1) := dk_44 (dk_at dksX0_handUp_0 0 rfl rfl)
theorem dX0_handUp_1 : decode cX0_handUp 1 = .ok (.iconst 0, 1) := dk_3 (dk_at dksX0_handUp_0 1 rfl rfl)
theorem dX0_handUp_2 : decode cX0_handUp 2 = .ok (.aload_n 0, 1) := dk_42 (dk_at dksX0_handUp_0 2 rfl rfl)
theorem dX0_handUp_3 : decode cX0_handUp 3 = .ok (.iload_n 1, 1) := dk_27 (dk_at dksX0_handUp_0 3 rfl rfl)
theorem dX0_handUp_4 : decode cX0_handUp 4 = .ok (.invokevirtual 68, 3) := dk_182 0 68 (dk_at dksX0_handUp_0 4 rfl rfl)
theorem dX0_handUp_7 : decode cX0_handUp 7 = .ok (.i2l, 1) := dk_133 (dk_at dksX0_handUp_0 7 rfl rfl)
theorem dX0_handUp_8 : decode cX0_handUp 8 = .ok (.lastore, 1) := dk_80 (dk_at dksX0_handUp_0 8 rfl rfl)
theorem dX0_handUp_9 : decode cX0_handUp 9 = .ok (.goto 12, 3) := dk_167 0 12 (dk_at dksX0_handUp_0 9 rfl rfl)
theorem dX0_handUp_12 : decode cX0_handUp 12 = .ok (.astore_n 3, 1) := dk_78 (dk_at dksX0_handUp_0 12 rfl rfl)
theorem dX0_handUp_13 : decode cX0_handUp 13 = .ok (.iconst 1, 1) := dk_4 (dk_at dksX0_handUp_0 13 rfl rfl)
theorem dX0_handUp_14 : decode cX0_handUp 14 = .ok (.ireturn, 1) := dk_172 (dk_at dksX0_handUp_0 14 rfl rfl)
theorem dX0_handUp_15 : decode cX0_handUp 15 = .ok (.astore_n 3, 1) := dk_78 (dk_at dksX0_handUp_0 15 rfl rfl)
theorem dX0_handUp_16 : decode cX0_handUp 16 = .ok (.iconst 2, 1) := dk_5 (dk_at dksX0_handUp_0 16 rfl rfl)
theorem dX0_handUp_17 : decode cX0_handUp 17 = .ok (.ireturn, 1) := dk_172 (dk_at dksX0_handUp_0 17 rfl rfl)
theorem dX0_handUp_18 : decode cX0_handUp 18 = .ok (.astore_n 3, 1) := dk_78 (dk_at dksX0_handUp_0 18 rfl rfl)
theorem dX0_handUp_19 : decode cX0_handUp 19 = .ok (.iconst 3, 1) := dk_6 (dk_at dksX0_handUp_0 19 rfl rfl)
theorem dX0_handUp_20 : decode cX0_handUp 20 = .ok (.ireturn, 1) := dk_172 (dk_at dksX0_handUp_0 20 rfl rfl)
theorem dX0_handUp_21 : decode cX0_handUp 21 = .ok (.iconst 0, 1) := dk_3 (dk_at dksX0_handUp_0 21 rfl rfl)
theorem dX0_handUp_22 : decode cX0_handUp 22 = .ok (.ireturn, 1) := dk_172 (dk_at dksX0_handUp_0 22 rfl rfl)
abbrev cX0_told : ByteArray := method_19_code
def yX0_told : MethodName := ⟨RX0, "told", "(LPageBanks;II[J)I"⟩
def dkwX0_told_0 : List UInt8 := [45, 3, 42, 27, 28, 182, 0, 71, 133, 80, 167, 0, 11, 58, 4, 4, 172, 58, 4, 5, 172, 3, 172]
abbrev dktX0_told_0 : List UInt8 := dkwX0_told_0 ++ []
theorem dksX0_told_0 : cX0_told.data.toList.drop 0 = dktX0_told_0 := by decide +kernel
theorem dX0_told_0 : decode cX0_told 0 = .ok (.aload_n 3, 1) := dk_45 (dk_at dksX0_told_0 0 rfl rfl)
theorem dX0_told_1 : decode cX0_told 1 = .ok (.iconst 0, 1) := dk_3 (dk_at dksX0_told_0 1 rfl rfl)
theorem dX0_told_2 : decode cX0_told 2 = .ok (.aload_n 0, 1) := dk_42 (dk_at dksX0_told_0 2 rfl rfl)
theorem dX0_told_3 : decode cX0_told 3 = .ok (.iload_n 1, 1) := dk_27 (dk_at dksX0_told_0 3 rfl rfl)
theorem dX0_told_4 : decode cX0_told 4 = .ok (.iload_n 2, 1) := dk_28 (dk_at dksX0_told_0 4 rfl rfl)
theorem dX0_told_5 : decode cX0_told 5 = .ok (.invokevirtual 71, 3) := dk_182 0 71 (dk_at dksX0_told_0 5 rfl rfl)
theorem dX0_told_8 : decode cX0_told 8 = .ok (.i2l, 1) := dk_133 (dk_at dksX0_told_0 8 rfl rfl)
theorem dX0_told_9 : decode cX0_told 9 = .ok (.lastore, 1) := dk_80 (dk_at dksX0_told_0 9 rfl rfl)
theorem dX0_told_10 : decode cX0_told 10 = .ok (.goto 11, 3) := dk_167 0 11 (dk_at dksX0_told_0 10 rfl rfl)
theorem dX0_told_13 : decode cX0_told 13 = .ok (.astore 4, 2) := dk_58 4 (dk_at dksX0_told_0 13 rfl rfl)
theorem dX0_told_15 : decode cX0_told 15 = .ok (.iconst 1, 1) := dk_4 (dk_at dksX0_told_0 15 rfl rfl)
theorem dX0_told_16 : decode cX0_told 16 = .ok (.ireturn, 1) := dk_172 (dk_at dksX0_told_0 16 rfl rfl)
theorem dX0_told_17 : decode cX0_told 17 = .ok (.astore 4, 2) := dk_58 4 (dk_at dksX0_told_0 17 rfl rfl)
theorem dX0_told_19 : decode cX0_told 19 = .ok (.iconst 2, 1) := dk_5 (dk_at dksX0_told_0 19 rfl rfl)
theorem dX0_told_20 : decode cX0_told 20 = .ok (.ireturn, 1) := dk_172 (dk_at dksX0_told_0 20 rfl rfl)
theorem dX0_told_21 : decode cX0_told 21 = .ok (.iconst 0, 1) := dk_3 (dk_at dksX0_told_0 21 rfl rfl)
theorem dX0_told_22 : decode cX0_told 22 = .ok (.ireturn, 1) := dk_172 (dk_at dksX0_told_0 22 rfl rfl)
abbrev cX0_page : ByteArray := method_20_code
def yX0_page : MethodName := ⟨RX0, "page", "(LPageBanks;II[J)I"⟩
def dkwX0_page_0 : List UInt8 := [45, 3, 42, 27, 28, 182, 0, 74, 133, 80, 167, 0, 7, 58, 4, 4, 172, 3, 172]
abbrev dktX0_page_0 : List UInt8 := dkwX0_page_0 ++ []
theorem dksX0_page_0 : cX0_page.data.toList.drop 0 = dktX0_page_0 := by decide +kernel
theorem dX0_page_0 : decode cX0_page 0 = .ok (.aload_n 3, 1) := dk_45 (dk_at dksX0_page_0 0 rfl rfl)
theorem dX0_page_1 : decode cX0_page 1 = .ok (.iconst 0, 1) := dk_3 (dk_at dksX0_page_0 1 rfl rfl)
theorem dX0_page_2 : decode cX0_page 2 = .ok (.aload_n 0, 1) := dk_42 (dk_at dksX0_page_0 2 rfl rfl)
theorem dX0_page_3 : decode cX0_page 3 = .ok (.iload_n 1, 1) := dk_27 (dk_at dksX0_page_0 3 rfl rfl)
theorem dX0_page_4 : decode cX0_page 4 = .ok (.iload_n 2, 1) := dk_28 (dk_at dksX0_page_0 4 rfl rfl)
theorem dX0_page_5 : decode cX0_page 5 = .ok (.invokevirtual 74, 3) := dk_182 0 74 (dk_at dksX0_page_0 5 rfl rfl)
theorem dX0_page_8 : decode cX0_page 8 = .ok (.i2l, 1) := dk_133 (dk_at dksX0_page_0 8 rfl rfl)
theorem dX0_page_9 : decode cX0_page 9 = .ok (.lastore, 1) := dk_80 (dk_at dksX0_page_0 9 rfl rfl)
theorem dX0_page_10 : decode cX0_page 10 = .ok (.goto 7, 3) := dk_167 0 7 (dk_at dksX0_page_0 10 rfl rfl)
theorem dX0_page_13 : decode cX0_page 13 = .ok (.astore 4, 2) := dk_58 4 (dk_at dksX0_page_0 13 rfl rfl)
theorem dX0_page_15 : decode cX0_page 15 = .ok (.iconst 1, 1) := dk_4 (dk_at dksX0_page_0 15 rfl rfl)
theorem dX0_page_16 : decode cX0_page 16 = .ok (.ireturn, 1) := dk_172 (dk_at dksX0_page_0 16 rfl rfl)
theorem dX0_page_17 : decode cX0_page 17 = .ok (.iconst 0, 1) := dk_3 (dk_at dksX0_page_0 17 rfl rfl)
theorem dX0_page_18 : decode cX0_page 18 = .ok (.ireturn, 1) := dk_172 (dk_at dksX0_page_0 18 rfl rfl)
abbrev cX0_owner : ByteArray := method_21_code
def yX0_owner : MethodName := ⟨RX0, "owner", "(LPageBanks;I[J)I"⟩
def dkwX0_owner_0 : List UInt8 := [44, 3, 42, 27, 182, 0, 77, 133, 80, 167, 0, 6, 78, 4, 172, 3, 172]
abbrev dktX0_owner_0 : List UInt8 := dkwX0_owner_0 ++ []
theorem dksX0_owner_0 : cX0_owner.data.toList.drop 0 = dktX0_owner_0 := by decide +kernel
theorem dX0_owner_0 : decode cX0_owner 0 = .ok (.aload_n 2, 1) := dk_44 (dk_at dksX0_owner_0 0 rfl rfl)
theorem dX0_owner_1 : decode cX0_owner 1 = .ok (.iconst 0, 1) := dk_3 (dk_at dksX0_owner_0 1 rfl rfl)
theorem dX0_owner_2 : decode cX0_owner 2 = .ok (.aload_n 0, 1) := dk_42 (dk_at dksX0_owner_0 2 rfl rfl)
theorem dX0_owner_3 : decode cX0_owner 3 = .ok (.iload_n 1, 1) := dk_27 (dk_at dksX0_owner_0 3 rfl rfl)
theorem dX0_owner_4 : decode cX0_owner 4 = .ok (.invokevirtual 77, 3) := dk_182 0 77 (dk_at dksX0_owner_0 4 rfl rfl)
theorem dX0_owner_7 : decode cX0_owner 7 = .ok (.i2l, 1) := dk_133 (dk_at dksX0_owner_0 7 rfl rfl)
theorem dX0_owner_8 : decode cX0_owner 8 = .ok (.lastore, 1) := dk_80 (dk_at dksX0_owner_0 8 rfl rfl)
theorem dX0_owner_9 : decode cX0_owner 9 = .ok (.goto 6, 3) := dk_167 0 6 (dk_at dksX0_owner_0 9 rfl rfl)
theorem dX0_owner_12 : decode cX0_owner 12 = .ok (.astore_n 3, 1) := dk_78 (dk_at dksX0_owner_0 12 rfl rfl)
theorem dX0_owner_13 : decode cX0_owner 13 = .ok (.iconst 1, 1) := dk_4 (dk_at dksX0_owner_0 13 rfl rfl)
theorem dX0_owner_14 : decode cX0_owner 14 = .ok (.ireturn, 1) := dk_172 (dk_at dksX0_owner_0 14 rfl rfl)
theorem dX0_owner_15 : decode cX0_owner 15 = .ok (.iconst 0, 1) := dk_3 (dk_at dksX0_owner_0 15 rfl rfl)
theorem dX0_owner_16 : decode cX0_owner 16 = .ok (.ireturn, 1) := dk_172 (dk_at dksX0_owner_0 16 rfl rfl)
theorem q40 : (Jvm.Cond.initialized "PageBanksLaw") ∈ lw_all := lw_g (lw_at lw_m1 0 rfl) rfl
theorem q80 : (Jvm.Cond.classLink "PageBanksLaw" (8 : Nat) "PageBanks") ∈ lw_all := lw_g (lw_at lw_m1 40 rfl) rfl
theorem q82 : (Jvm.Cond.methodLink "PageBanksLaw" (80 : Nat) ({ cls := "PageBanks", name := "<init>", desc := "()V" } : Jvm.MethodName)) ∈ lw_all := lw_g (lw_at lw_m1 42 rfl) rfl
theorem q350 : (Jvm.Cond.methodLink "PageBanksLaw" (151 : Nat) ({ cls := "PageBanks", name := "isAlive", desc := "(I)Z" } : Jvm.MethodName)) ∈ lw_all := lw_g (lw_at lw_m2 70 rfl) rfl
theorem q364 : (Jvm.Cond.methodLink "PageBanksLaw" (156 : Nat) ({ cls := "PageBanks", name := "refused", desc := "()I" } : Jvm.MethodName)) ∈ lw_all := lw_g (lw_at lw_m2 84 rfl) rfl
theorem q368 : (Jvm.Cond.methodLink "PageBanksLaw" (160 : Nat) ({ cls := "PageBanks", name := "count", desc := "(I)I" } : Jvm.MethodName)) ∈ lw_all := lw_g (lw_at lw_m2 88 rfl) rfl
theorem q372 : (Jvm.Cond.methodLink "PageBanksLaw" (164 : Nat) ({ cls := "PageBanks", name := "astray", desc := "()I" } : Jvm.MethodName)) ∈ lw_all := lw_g (lw_at lw_m2 92 rfl) rfl
theorem q559 : (Jvm.Cond.methodLink "PageBanksLaw" (84 : Nat) ({ cls := "PageBanksLaw", name := "bank", desc := "(LPageBanks;II[J)I" } : Jvm.MethodName)) ∈ lw_all := lw_g (lw_at lw_m3 39 rfl) rfl
theorem q560 : (Jvm.Cond.static ({ cls := "PageBanksLaw", name := "bank", desc := "(LPageBanks;II[J)I" } : Jvm.MethodName)) ∈ lw_all := lw_g (lw_at lw_m3 40 rfl) rfl
theorem q561 : (Jvm.Cond.codeWith ({ cls := "PageBanksLaw", name := "bank", desc := "(LPageBanks;II[J)I" } : Jvm.MethodName) method_3_code (5 : Nat) (Option.some Jvm.ClassFile.FieldType.int) [((0 : Nat), (10 : Nat), (13 : Nat), (13 : Nat)), ((0 : Nat), (10 : Nat), (17 : Nat), (15 : Nat)), ((0 : Nat), (10 : Nat), (21 : Nat), (17 : Nat)), ((0 : Nat), (10 : Nat), (25 : Nat), (19 : Nat))]) ∈ lw_all := lw_g (lw_at lw_m3 41 rfl) rfl
theorem q562 : (Jvm.Cond.classLink "PageBanksLaw" (13 : Nat) "java/lang/IndexOutOfBoundsException") ∈ lw_all := lw_g (lw_at lw_m3 42 rfl) rfl
theorem q595 : (Jvm.Cond.classLink "PageBanksLaw" (15 : Nat) "java/lang/IllegalArgumentException") ∈ lw_all := lw_g (lw_at lw_m3 75 rfl) rfl
theorem q596 : (Jvm.Cond.classLink "PageBanksLaw" (17 : Nat) "java/lang/IllegalStateException") ∈ lw_all := lw_g (lw_at lw_m3 76 rfl) rfl
theorem q597 : (Jvm.Cond.classLink "PageBanksLaw" (19 : Nat) "java/lang/UnsupportedOperationException") ∈ lw_all := lw_g (lw_at lw_m3 77 rfl) rfl
theorem q598 : (Jvm.Cond.methodLink "PageBanksLaw" (7 : Nat) ({ cls := "PageBanks", name := "bank", desc := "(II)I" } : Jvm.MethodName)) ∈ lw_all := lw_g (lw_at lw_m3 78 rfl) rfl
theorem q838 : (Jvm.Cond.methodLink "PageBanksLaw" (94 : Nat) ({ cls := "PageBanksLaw", name := "buy", desc := "(LPageBanks;I[J)I" } : Jvm.MethodName)) ∈ lw_all := lw_g (lw_at lw_m4 78 rfl) rfl
theorem q839 : (Jvm.Cond.static ({ cls := "PageBanksLaw", name := "buy", desc := "(LPageBanks;I[J)I" } : Jvm.MethodName)) ∈ lw_all := lw_g (lw_at lw_m4 79 rfl) rfl
theorem q840 : (Jvm.Cond.codeWith ({ cls := "PageBanksLaw", name := "buy", desc := "(LPageBanks;I[J)I" } : Jvm.MethodName) method_4_code (4 : Nat) (Option.some Jvm.ClassFile.FieldType.int) [((0 : Nat), (9 : Nat), (12 : Nat), (13 : Nat)), ((0 : Nat), (9 : Nat), (15 : Nat), (17 : Nat)), ((0 : Nat), (9 : Nat), (18 : Nat), (19 : Nat))]) ∈ lw_all := lw_g (lw_at lw_m4 80 rfl) rfl
theorem q841 : (Jvm.Cond.methodLink "PageBanksLaw" (21 : Nat) ({ cls := "PageBanks", name := "buy", desc := "(I)I" } : Jvm.MethodName)) ∈ lw_all := lw_g (lw_at lw_m4 81 rfl) rfl
theorem q885 : (Jvm.Cond.methodLink "PageBanksLaw" (98 : Nat) ({ cls := "PageBanksLaw", name := "buyRun", desc := "(LPageBanks;II[J)I" } : Jvm.MethodName)) ∈ lw_all := lw_g (lw_at lw_m4 125 rfl) rfl
theorem q886 : (Jvm.Cond.static ({ cls := "PageBanksLaw", name := "buyRun", desc := "(LPageBanks;II[J)I" } : Jvm.MethodName)) ∈ lw_all := lw_g (lw_at lw_m4 126 rfl) rfl
theorem q887 : (Jvm.Cond.codeWith ({ cls := "PageBanksLaw", name := "buyRun", desc := "(LPageBanks;II[J)I" } : Jvm.MethodName) method_5_code (5 : Nat) (Option.some Jvm.ClassFile.FieldType.int) [((0 : Nat), (10 : Nat), (13 : Nat), (13 : Nat)), ((0 : Nat), (10 : Nat), (17 : Nat), (15 : Nat)), ((0 : Nat), (10 : Nat), (21 : Nat), (17 : Nat)), ((0 : Nat), (10 : Nat), (25 : Nat), (19 : Nat))]) ∈ lw_all := lw_g (lw_at lw_m4 127 rfl) rfl
theorem q888 : (Jvm.Cond.methodLink "PageBanksLaw" (25 : Nat) ({ cls := "PageBanks", name := "buyRun", desc := "(II)I" } : Jvm.MethodName)) ∈ lw_all := lw_g (lw_at lw_m4 128 rfl) rfl
theorem q897 : (Jvm.Cond.methodLink "PageBanksLaw" (101 : Nat) ({ cls := "PageBanksLaw", name := "runKey", desc := "(LPageBanks;II[J)I" } : Jvm.MethodName)) ∈ lw_all := lw_g (lw_at lw_m4 137 rfl) rfl
theorem q898 : (Jvm.Cond.static ({ cls := "PageBanksLaw", name := "runKey", desc := "(LPageBanks;II[J)I" } : Jvm.MethodName)) ∈ lw_all := lw_g (lw_at lw_m4 138 rfl) rfl
theorem q899 : (Jvm.Cond.codeWith ({ cls := "PageBanksLaw", name := "runKey", desc := "(LPageBanks;II[J)I" } : Jvm.MethodName) method_6_code (5 : Nat) (Option.some Jvm.ClassFile.FieldType.int) [((0 : Nat), (10 : Nat), (13 : Nat), (31 : Nat)), ((0 : Nat), (10 : Nat), (17 : Nat), (15 : Nat))]) ∈ lw_all := lw_g (lw_at lw_m4 139 rfl) rfl
theorem q900 : (Jvm.Cond.classLink "PageBanksLaw" (31 : Nat) "java/util/NoSuchElementException") ∈ lw_all := lw_g (lw_at lw_m4 140 rfl) rfl
theorem q901 : (Jvm.Cond.methodLink "PageBanksLaw" (28 : Nat) ({ cls := "PageBanks", name := "runKey", desc := "(II)I" } : Jvm.MethodName)) ∈ lw_all := lw_g (lw_at lw_m4 141 rfl) rfl
theorem q918 : (Jvm.Cond.methodLink "PageBanksLaw" (104 : Nat) ({ cls := "PageBanksLaw", name := "sell", desc := "(LPageBanks;I[J)I" } : Jvm.MethodName)) ∈ lw_all := lw_g (lw_at lw_m4 158 rfl) rfl
theorem q919 : (Jvm.Cond.static ({ cls := "PageBanksLaw", name := "sell", desc := "(LPageBanks;I[J)I" } : Jvm.MethodName)) ∈ lw_all := lw_g (lw_at lw_m4 159 rfl) rfl
theorem q920 : (Jvm.Cond.codeWith ({ cls := "PageBanksLaw", name := "sell", desc := "(LPageBanks;I[J)I" } : Jvm.MethodName) method_7_code (4 : Nat) (Option.some Jvm.ClassFile.FieldType.int) [((0 : Nat), (9 : Nat), (12 : Nat), (31 : Nat)), ((0 : Nat), (9 : Nat), (15 : Nat), (15 : Nat))]) ∈ lw_all := lw_g (lw_at lw_m4 160 rfl) rfl
theorem q921 : (Jvm.Cond.methodLink "PageBanksLaw" (33 : Nat) ({ cls := "PageBanks", name := "sell", desc := "(I)I" } : Jvm.MethodName)) ∈ lw_all := lw_g (lw_at lw_m4 161 rfl) rfl
theorem q933 : (Jvm.Cond.methodLink "PageBanksLaw" (107 : Nat) ({ cls := "PageBanksLaw", name := "weak", desc := "(LPageBanks;I[J)I" } : Jvm.MethodName)) ∈ lw_all := lw_g (lw_at lw_m4 173 rfl) rfl
theorem q934 : (Jvm.Cond.static ({ cls := "PageBanksLaw", name := "weak", desc := "(LPageBanks;I[J)I" } : Jvm.MethodName)) ∈ lw_all := lw_g (lw_at lw_m4 174 rfl) rfl
theorem q935 : (Jvm.Cond.codeWith ({ cls := "PageBanksLaw", name := "weak", desc := "(LPageBanks;I[J)I" } : Jvm.MethodName) method_8_code (4 : Nat) (Option.some Jvm.ClassFile.FieldType.int) [((0 : Nat), (9 : Nat), (12 : Nat), (31 : Nat))]) ∈ lw_all := lw_g (lw_at lw_m4 175 rfl) rfl
theorem q936 : (Jvm.Cond.methodLink "PageBanksLaw" (36 : Nat) ({ cls := "PageBanks", name := "weak", desc := "(I)I" } : Jvm.MethodName)) ∈ lw_all := lw_g (lw_at lw_m4 176 rfl) rfl
theorem q940 : (Jvm.Cond.methodLink "PageBanksLaw" (110 : Nat) ({ cls := "PageBanksLaw", name := "read", desc := "(LPageBanks;II[J)I" } : Jvm.MethodName)) ∈ lw_all := lw_g (lw_at lw_m4 180 rfl) rfl
theorem q941 : (Jvm.Cond.static ({ cls := "PageBanksLaw", name := "read", desc := "(LPageBanks;II[J)I" } : Jvm.MethodName)) ∈ lw_all := lw_g (lw_at lw_m4 181 rfl) rfl
theorem q942 : (Jvm.Cond.codeWith ({ cls := "PageBanksLaw", name := "read", desc := "(LPageBanks;II[J)I" } : Jvm.MethodName) method_9_code (5 : Nat) (Option.some Jvm.ClassFile.FieldType.int) [((0 : Nat), (10 : Nat), (13 : Nat), (31 : Nat)), ((0 : Nat), (10 : Nat), (17 : Nat), (13 : Nat))]) ∈ lw_all := lw_g (lw_at lw_m4 182 rfl) rfl
theorem q943 : (Jvm.Cond.methodLink "PageBanksLaw" (39 : Nat) ({ cls := "PageBanks", name := "read", desc := "(II)I" } : Jvm.MethodName)) ∈ lw_all := lw_g (lw_at lw_m4 183 rfl) rfl
theorem q950 : (Jvm.Cond.methodLink "PageBanksLaw" (113 : Nat) ({ cls := "PageBanksLaw", name := "write", desc := "(LPageBanks;III[J)I" } : Jvm.MethodName)) ∈ lw_all := lw_g (lw_at lw_m4 190 rfl) rfl
theorem q951 : (Jvm.Cond.static ({ cls := "PageBanksLaw", name := "write", desc := "(LPageBanks;III[J)I" } : Jvm.MethodName)) ∈ lw_all := lw_g (lw_at lw_m4 191 rfl) rfl
theorem q952 : (Jvm.Cond.codeWith ({ cls := "PageBanksLaw", name := "write", desc := "(LPageBanks;III[J)I" } : Jvm.MethodName) method_10_code (6 : Nat) (Option.some Jvm.ClassFile.FieldType.int) [((0 : Nat), (12 : Nat), (15 : Nat), (31 : Nat)), ((0 : Nat), (12 : Nat), (19 : Nat), (15 : Nat)), ((0 : Nat), (12 : Nat), (23 : Nat), (13 : Nat))]) ∈ lw_all := lw_g (lw_at lw_m4 192 rfl) rfl
theorem q953 : (Jvm.Cond.methodLink "PageBanksLaw" (42 : Nat) ({ cls := "PageBanks", name := "write", desc := "(III)I" } : Jvm.MethodName)) ∈ lw_all := lw_g (lw_at lw_m4 193 rfl) rfl
theorem q957 : (Jvm.Cond.methodLink "PageBanksLaw" (117 : Nat) ({ cls := "PageBanksLaw", name := "move", desc := "(LPageBanks;II[J)I" } : Jvm.MethodName)) ∈ lw_all := lw_g (lw_at lw_m4 197 rfl) rfl
theorem q958 : (Jvm.Cond.static ({ cls := "PageBanksLaw", name := "move", desc := "(LPageBanks;II[J)I" } : Jvm.MethodName)) ∈ lw_all := lw_g (lw_at lw_m4 198 rfl) rfl
theorem q959 : (Jvm.Cond.codeWith ({ cls := "PageBanksLaw", name := "move", desc := "(LPageBanks;II[J)I" } : Jvm.MethodName) method_11_code (5 : Nat) (Option.some Jvm.ClassFile.FieldType.int) [((0 : Nat), (10 : Nat), (13 : Nat), (31 : Nat)), ((0 : Nat), (10 : Nat), (17 : Nat), (15 : Nat)), ((0 : Nat), (10 : Nat), (21 : Nat), (13 : Nat)), ((0 : Nat), (10 : Nat), (25 : Nat), (17 : Nat)), ((0 : Nat), (10 : Nat), (29 : Nat), (19 : Nat))]) ∈ lw_all := lw_g (lw_at lw_m4 199 rfl) rfl
theorem q960 : (Jvm.Cond.methodLink "PageBanksLaw" (46 : Nat) ({ cls := "PageBanks", name := "move", desc := "(II)I" } : Jvm.MethodName)) ∈ lw_all := lw_g (lw_at lw_m4 200 rfl) rfl
theorem q964 : (Jvm.Cond.methodLink "PageBanksLaw" (120 : Nat) ({ cls := "PageBanksLaw", name := "limit", desc := "(LPageBanks;II[J)I" } : Jvm.MethodName)) ∈ lw_all := lw_g (lw_at lw_m4 204 rfl) rfl
theorem q965 : (Jvm.Cond.static ({ cls := "PageBanksLaw", name := "limit", desc := "(LPageBanks;II[J)I" } : Jvm.MethodName)) ∈ lw_all := lw_g (lw_at lw_m4 205 rfl) rfl
theorem q966 : (Jvm.Cond.codeWith ({ cls := "PageBanksLaw", name := "limit", desc := "(LPageBanks;II[J)I" } : Jvm.MethodName) method_12_code (5 : Nat) (Option.some Jvm.ClassFile.FieldType.int) [((0 : Nat), (10 : Nat), (13 : Nat), (13 : Nat)), ((0 : Nat), (10 : Nat), (17 : Nat), (15 : Nat)), ((0 : Nat), (10 : Nat), (21 : Nat), (17 : Nat))]) ∈ lw_all := lw_g (lw_at lw_m4 206 rfl) rfl
theorem q967 : (Jvm.Cond.methodLink "PageBanksLaw" (49 : Nat) ({ cls := "PageBanks", name := "limit", desc := "(II)I" } : Jvm.MethodName)) ∈ lw_all := lw_g (lw_at lw_m4 207 rfl) rfl
theorem q972 : (Jvm.Cond.methodLink "PageBanksLaw" (123 : Nat) ({ cls := "PageBanksLaw", name := "reserve", desc := "(LPageBanks;II[J)I" } : Jvm.MethodName)) ∈ lw_all := lw_g (lw_at lw_m4 212 rfl) rfl
theorem q973 : (Jvm.Cond.static ({ cls := "PageBanksLaw", name := "reserve", desc := "(LPageBanks;II[J)I" } : Jvm.MethodName)) ∈ lw_all := lw_g (lw_at lw_m4 213 rfl) rfl
theorem q974 : (Jvm.Cond.codeWith ({ cls := "PageBanksLaw", name := "reserve", desc := "(LPageBanks;II[J)I" } : Jvm.MethodName) method_13_code (5 : Nat) (Option.some Jvm.ClassFile.FieldType.int) [((0 : Nat), (10 : Nat), (13 : Nat), (13 : Nat)), ((0 : Nat), (10 : Nat), (17 : Nat), (15 : Nat)), ((0 : Nat), (10 : Nat), (21 : Nat), (17 : Nat)), ((0 : Nat), (10 : Nat), (25 : Nat), (19 : Nat))]) ∈ lw_all := lw_g (lw_at lw_m4 214 rfl) rfl
theorem q975 : (Jvm.Cond.methodLink "PageBanksLaw" (52 : Nat) ({ cls := "PageBanks", name := "reserve", desc := "(II)I" } : Jvm.MethodName)) ∈ lw_all := lw_g (lw_at lw_m4 215 rfl) rfl
theorem q979 : (Jvm.Cond.methodLink "PageBanksLaw" (126 : Nat) ({ cls := "PageBanksLaw", name := "unreserve", desc := "(LPageBanks;II[J)I" } : Jvm.MethodName)) ∈ lw_all := lw_g (lw_at lw_m4 219 rfl) rfl
theorem q980 : (Jvm.Cond.static ({ cls := "PageBanksLaw", name := "unreserve", desc := "(LPageBanks;II[J)I" } : Jvm.MethodName)) ∈ lw_all := lw_g (lw_at lw_m4 220 rfl) rfl
theorem q981 : (Jvm.Cond.codeWith ({ cls := "PageBanksLaw", name := "unreserve", desc := "(LPageBanks;II[J)I" } : Jvm.MethodName) method_14_code (5 : Nat) (Option.some Jvm.ClassFile.FieldType.int) [((0 : Nat), (10 : Nat), (13 : Nat), (13 : Nat)), ((0 : Nat), (10 : Nat), (17 : Nat), (15 : Nat))]) ∈ lw_all := lw_g (lw_at lw_m4 221 rfl) rfl
theorem q982 : (Jvm.Cond.methodLink "PageBanksLaw" (55 : Nat) ({ cls := "PageBanks", name := "unreserve", desc := "(II)I" } : Jvm.MethodName)) ∈ lw_all := lw_g (lw_at lw_m4 222 rfl) rfl
theorem q986 : (Jvm.Cond.methodLink "PageBanksLaw" (129 : Nat) ({ cls := "PageBanksLaw", name := "freeze", desc := "(LPageBanks;IZ[J)I" } : Jvm.MethodName)) ∈ lw_all := lw_g (lw_at lw_m4 226 rfl) rfl
theorem q987 : (Jvm.Cond.static ({ cls := "PageBanksLaw", name := "freeze", desc := "(LPageBanks;IZ[J)I" } : Jvm.MethodName)) ∈ lw_all := lw_g (lw_at lw_m4 227 rfl) rfl
theorem q988 : (Jvm.Cond.codeWith ({ cls := "PageBanksLaw", name := "freeze", desc := "(LPageBanks;IZ[J)I" } : Jvm.MethodName) method_15_code (5 : Nat) (Option.some Jvm.ClassFile.FieldType.int) [((0 : Nat), (17 : Nat), (20 : Nat), (13 : Nat)), ((0 : Nat), (17 : Nat), (24 : Nat), (15 : Nat)), ((0 : Nat), (17 : Nat), (28 : Nat), (17 : Nat))]) ∈ lw_all := lw_g (lw_at lw_m4 228 rfl) rfl
theorem q989 : (Jvm.Cond.methodLink "PageBanksLaw" (58 : Nat) ({ cls := "PageBanks", name := "freeze", desc := "(IZ)Z" } : Jvm.MethodName)) ∈ lw_all := lw_g (lw_at lw_m4 229 rfl) rfl
theorem q996 : (Jvm.Cond.methodLink "PageBanksLaw" (133 : Nat) ({ cls := "PageBanksLaw", name := "destroy", desc := "(LPageBanks;I[J)I" } : Jvm.MethodName)) ∈ lw_all := lw_g (lw_at lw_m4 236 rfl) rfl
theorem q997 : (Jvm.Cond.static ({ cls := "PageBanksLaw", name := "destroy", desc := "(LPageBanks;I[J)I" } : Jvm.MethodName)) ∈ lw_all := lw_g (lw_at lw_m4 237 rfl) rfl
theorem q998 : (Jvm.Cond.codeWith ({ cls := "PageBanksLaw", name := "destroy", desc := "(LPageBanks;I[J)I" } : Jvm.MethodName) method_16_code (4 : Nat) (Option.some Jvm.ClassFile.FieldType.int) [((0 : Nat), (9 : Nat), (12 : Nat), (13 : Nat)), ((0 : Nat), (9 : Nat), (15 : Nat), (15 : Nat)), ((0 : Nat), (9 : Nat), (18 : Nat), (17 : Nat))]) ∈ lw_all := lw_g (lw_at lw_m4 238 rfl) rfl
theorem q999 : (Jvm.Cond.methodLink "PageBanksLaw" (62 : Nat) ({ cls := "PageBanks", name := "destroy", desc := "(I)I" } : Jvm.MethodName)) ∈ lw_all := lw_g (lw_at lw_m4 239 rfl) rfl
theorem q1067 : (Jvm.Cond.methodLink "PageBanksLaw" (136 : Nat) ({ cls := "PageBanksLaw", name := "work", desc := "(LPageBanks;I[J)I" } : Jvm.MethodName)) ∈ lw_all := lw_g (lw_at lw_m5 67 rfl) rfl
theorem q1068 : (Jvm.Cond.static ({ cls := "PageBanksLaw", name := "work", desc := "(LPageBanks;I[J)I" } : Jvm.MethodName)) ∈ lw_all := lw_g (lw_at lw_m5 68 rfl) rfl
theorem q1069 : (Jvm.Cond.codeWith ({ cls := "PageBanksLaw", name := "work", desc := "(LPageBanks;I[J)I" } : Jvm.MethodName) method_17_code (4 : Nat) (Option.some Jvm.ClassFile.FieldType.int) [((0 : Nat), (9 : Nat), (12 : Nat), (15 : Nat))]) ∈ lw_all := lw_g (lw_at lw_m5 69 rfl) rfl
theorem q1070 : (Jvm.Cond.methodLink "PageBanksLaw" (65 : Nat) ({ cls := "PageBanks", name := "work", desc := "(I)I" } : Jvm.MethodName)) ∈ lw_all := lw_g (lw_at lw_m5 70 rfl) rfl
theorem q1078 : (Jvm.Cond.methodLink "PageBanksLaw" (139 : Nat) ({ cls := "PageBanksLaw", name := "handUp", desc := "(LPageBanks;I[J)I" } : Jvm.MethodName)) ∈ lw_all := lw_g (lw_at lw_m5 78 rfl) rfl
theorem q1079 : (Jvm.Cond.static ({ cls := "PageBanksLaw", name := "handUp", desc := "(LPageBanks;I[J)I" } : Jvm.MethodName)) ∈ lw_all := lw_g (lw_at lw_m5 79 rfl) rfl
theorem q1080 : (Jvm.Cond.codeWith ({ cls := "PageBanksLaw", name := "handUp", desc := "(LPageBanks;I[J)I" } : Jvm.MethodName) method_18_code (4 : Nat) (Option.some Jvm.ClassFile.FieldType.int) [((0 : Nat), (9 : Nat), (12 : Nat), (13 : Nat)), ((0 : Nat), (9 : Nat), (15 : Nat), (15 : Nat)), ((0 : Nat), (9 : Nat), (18 : Nat), (17 : Nat))]) ∈ lw_all := lw_g (lw_at lw_m5 80 rfl) rfl
theorem q1081 : (Jvm.Cond.methodLink "PageBanksLaw" (68 : Nat) ({ cls := "PageBanks", name := "handUp", desc := "(I)I" } : Jvm.MethodName)) ∈ lw_all := lw_g (lw_at lw_m5 81 rfl) rfl
theorem q1095 : (Jvm.Cond.methodLink "PageBanksLaw" (142 : Nat) ({ cls := "PageBanksLaw", name := "told", desc := "(LPageBanks;II[J)I" } : Jvm.MethodName)) ∈ lw_all := lw_g (lw_at lw_m5 95 rfl) rfl
theorem q1096 : (Jvm.Cond.static ({ cls := "PageBanksLaw", name := "told", desc := "(LPageBanks;II[J)I" } : Jvm.MethodName)) ∈ lw_all := lw_g (lw_at lw_m5 96 rfl) rfl
theorem q1097 : (Jvm.Cond.codeWith ({ cls := "PageBanksLaw", name := "told", desc := "(LPageBanks;II[J)I" } : Jvm.MethodName) method_19_code (5 : Nat) (Option.some Jvm.ClassFile.FieldType.int) [((0 : Nat), (10 : Nat), (13 : Nat), (13 : Nat)), ((0 : Nat), (10 : Nat), (17 : Nat), (15 : Nat))]) ∈ lw_all := lw_g (lw_at lw_m5 97 rfl) rfl
theorem q1098 : (Jvm.Cond.methodLink "PageBanksLaw" (71 : Nat) ({ cls := "PageBanks", name := "told", desc := "(II)I" } : Jvm.MethodName)) ∈ lw_all := lw_g (lw_at lw_m5 98 rfl) rfl
theorem q1109 : (Jvm.Cond.methodLink "PageBanksLaw" (145 : Nat) ({ cls := "PageBanksLaw", name := "page", desc := "(LPageBanks;II[J)I" } : Jvm.MethodName)) ∈ lw_all := lw_g (lw_at lw_m5 109 rfl) rfl
theorem q1110 : (Jvm.Cond.static ({ cls := "PageBanksLaw", name := "page", desc := "(LPageBanks;II[J)I" } : Jvm.MethodName)) ∈ lw_all := lw_g (lw_at lw_m5 110 rfl) rfl
theorem q1111 : (Jvm.Cond.codeWith ({ cls := "PageBanksLaw", name := "page", desc := "(LPageBanks;II[J)I" } : Jvm.MethodName) method_20_code (5 : Nat) (Option.some Jvm.ClassFile.FieldType.int) [((0 : Nat), (10 : Nat), (13 : Nat), (13 : Nat))]) ∈ lw_all := lw_g (lw_at lw_m5 111 rfl) rfl
theorem q1112 : (Jvm.Cond.methodLink "PageBanksLaw" (74 : Nat) ({ cls := "PageBanks", name := "page", desc := "(II)I" } : Jvm.MethodName)) ∈ lw_all := lw_g (lw_at lw_m5 112 rfl) rfl
theorem q1116 : (Jvm.Cond.methodLink "PageBanksLaw" (148 : Nat) ({ cls := "PageBanksLaw", name := "owner", desc := "(LPageBanks;I[J)I" } : Jvm.MethodName)) ∈ lw_all := lw_g (lw_at lw_m5 116 rfl) rfl
theorem q1117 : (Jvm.Cond.static ({ cls := "PageBanksLaw", name := "owner", desc := "(LPageBanks;I[J)I" } : Jvm.MethodName)) ∈ lw_all := lw_g (lw_at lw_m5 117 rfl) rfl
theorem q1118 : (Jvm.Cond.codeWith ({ cls := "PageBanksLaw", name := "owner", desc := "(LPageBanks;I[J)I" } : Jvm.MethodName) method_21_code (4 : Nat) (Option.some Jvm.ClassFile.FieldType.int) [((0 : Nat), (9 : Nat), (12 : Nat), (31 : Nat))]) ∈ lw_all := lw_g (lw_at lw_m5 118 rfl) rfl
theorem q1119 : (Jvm.Cond.methodLink "PageBanksLaw" (77 : Nat) ({ cls := "PageBanks", name := "owner", desc := "(I)I" } : Jvm.MethodName)) ∈ lw_all := lw_g (lw_at lw_m5 119 rfl) rfl
theorem q1123 : (Jvm.Cond.classLink "PageBanksLaw" (81 : Nat) "PageBanksModel") ∈ lw_all := lw_g (lw_at lw_m5 123 rfl) rfl
theorem q1125 : (Jvm.Cond.methodLink "PageBanksLaw" (83 : Nat) ({ cls := "PageBanksModel", name := "<init>", desc := "()V" } : Jvm.MethodName)) ∈ lw_all := lw_g (lw_at lw_m5 125 rfl) rfl
theorem q1173 : (Jvm.Cond.methodLink "PageBanksLaw" (90 : Nat) ({ cls := "PageBanksModel", name := "thrown", desc := "()I" } : Jvm.MethodName)) ∈ lw_all := lw_g (lw_at lw_m5 173 rfl) rfl
theorem q1177 : (Jvm.Cond.methodLink "PageBanksLaw" (89 : Nat) ({ cls := "PageBanksModel", name := "bank", desc := "(II)I" } : Jvm.MethodName)) ∈ lw_all := lw_g (lw_at lw_m5 177 rfl) rfl
theorem q1200 : (Jvm.Cond.methodLink "PageBanksLaw" (97 : Nat) ({ cls := "PageBanksModel", name := "buy", desc := "(I)I" } : Jvm.MethodName)) ∈ lw_all := lw_g (lw_at lw_m5 200 rfl) rfl
theorem q1239 : (Jvm.Cond.methodLink "PageBanksLaw" (100 : Nat) ({ cls := "PageBanksModel", name := "buyRun", desc := "(II)I" } : Jvm.MethodName)) ∈ lw_all := lw_g (lw_at lw_m5 239 rfl) rfl
theorem q1243 : (Jvm.Cond.methodLink "PageBanksLaw" (103 : Nat) ({ cls := "PageBanksModel", name := "runKey", desc := "(II)I" } : Jvm.MethodName)) ∈ lw_all := lw_g (lw_at lw_m6 3 rfl) rfl
theorem q1257 : (Jvm.Cond.methodLink "PageBanksLaw" (106 : Nat) ({ cls := "PageBanksModel", name := "sell", desc := "(I)I" } : Jvm.MethodName)) ∈ lw_all := lw_g (lw_at lw_m6 17 rfl) rfl
theorem q1261 : (Jvm.Cond.methodLink "PageBanksLaw" (109 : Nat) ({ cls := "PageBanksModel", name := "weak", desc := "(I)I" } : Jvm.MethodName)) ∈ lw_all := lw_g (lw_at lw_m6 21 rfl) rfl
theorem q1265 : (Jvm.Cond.methodLink "PageBanksLaw" (112 : Nat) ({ cls := "PageBanksModel", name := "read", desc := "(II)I" } : Jvm.MethodName)) ∈ lw_all := lw_g (lw_at lw_m6 25 rfl) rfl
theorem q1269 : (Jvm.Cond.methodLink "PageBanksLaw" (116 : Nat) ({ cls := "PageBanksModel", name := "write", desc := "(III)I" } : Jvm.MethodName)) ∈ lw_all := lw_g (lw_at lw_m6 29 rfl) rfl
theorem q1273 : (Jvm.Cond.methodLink "PageBanksLaw" (119 : Nat) ({ cls := "PageBanksModel", name := "move", desc := "(II)I" } : Jvm.MethodName)) ∈ lw_all := lw_g (lw_at lw_m6 33 rfl) rfl
theorem q1277 : (Jvm.Cond.methodLink "PageBanksLaw" (122 : Nat) ({ cls := "PageBanksModel", name := "limit", desc := "(II)I" } : Jvm.MethodName)) ∈ lw_all := lw_g (lw_at lw_m6 37 rfl) rfl
theorem q1281 : (Jvm.Cond.methodLink "PageBanksLaw" (125 : Nat) ({ cls := "PageBanksModel", name := "reserve", desc := "(II)I" } : Jvm.MethodName)) ∈ lw_all := lw_g (lw_at lw_m6 41 rfl) rfl
theorem q1285 : (Jvm.Cond.methodLink "PageBanksLaw" (128 : Nat) ({ cls := "PageBanksModel", name := "unreserve", desc := "(II)I" } : Jvm.MethodName)) ∈ lw_all := lw_g (lw_at lw_m6 45 rfl) rfl
theorem q1289 : (Jvm.Cond.methodLink "PageBanksLaw" (132 : Nat) ({ cls := "PageBanksModel", name := "freeze", desc := "(IZ)Z" } : Jvm.MethodName)) ∈ lw_all := lw_g (lw_at lw_m6 49 rfl) rfl
theorem q1297 : (Jvm.Cond.methodLink "PageBanksLaw" (135 : Nat) ({ cls := "PageBanksModel", name := "destroy", desc := "(I)I" } : Jvm.MethodName)) ∈ lw_all := lw_g (lw_at lw_m6 57 rfl) rfl
theorem q1317 : (Jvm.Cond.methodLink "PageBanksLaw" (138 : Nat) ({ cls := "PageBanksModel", name := "work", desc := "(I)I" } : Jvm.MethodName)) ∈ lw_all := lw_g (lw_at lw_m6 77 rfl) rfl
theorem q1321 : (Jvm.Cond.methodLink "PageBanksLaw" (141 : Nat) ({ cls := "PageBanksModel", name := "handUp", desc := "(I)I" } : Jvm.MethodName)) ∈ lw_all := lw_g (lw_at lw_m6 81 rfl) rfl
theorem q1329 : (Jvm.Cond.methodLink "PageBanksLaw" (144 : Nat) ({ cls := "PageBanksModel", name := "told", desc := "(II)I" } : Jvm.MethodName)) ∈ lw_all := lw_g (lw_at lw_m6 89 rfl) rfl
theorem q1337 : (Jvm.Cond.methodLink "PageBanksLaw" (147 : Nat) ({ cls := "PageBanksModel", name := "page", desc := "(II)I" } : Jvm.MethodName)) ∈ lw_all := lw_g (lw_at lw_m6 97 rfl) rfl
theorem q1341 : (Jvm.Cond.methodLink "PageBanksLaw" (150 : Nat) ({ cls := "PageBanksModel", name := "owner", desc := "(I)I" } : Jvm.MethodName)) ∈ lw_all := lw_g (lw_at lw_m6 101 rfl) rfl
theorem q1345 : (Jvm.Cond.methodLink "PageBanksLaw" (155 : Nat) ({ cls := "PageBanksModel", name := "isAlive", desc := "(I)Z" } : Jvm.MethodName)) ∈ lw_all := lw_g (lw_at lw_m6 105 rfl) rfl
theorem q1349 : (Jvm.Cond.methodLink "PageBanksLaw" (159 : Nat) ({ cls := "PageBanksModel", name := "refused", desc := "()I" } : Jvm.MethodName)) ∈ lw_all := lw_g (lw_at lw_m6 109 rfl) rfl
theorem q1353 : (Jvm.Cond.methodLink "PageBanksLaw" (163 : Nat) ({ cls := "PageBanksModel", name := "count", desc := "(I)I" } : Jvm.MethodName)) ∈ lw_all := lw_g (lw_at lw_m6 113 rfl) rfl
theorem q1357 : (Jvm.Cond.methodLink "PageBanksLaw" (167 : Nat) ({ cls := "PageBanksModel", name := "astray", desc := "()I" } : Jvm.MethodName)) ∈ lw_all := lw_g (lw_at lw_m6 117 rfl) rfl
