/-! the law's own entry -/
set_option maxRecDepth 100000
abbrev cL_law : ByteArray := code
def dkwL_law_76 : List UInt8 := [21, 6, 159, 0, 5, 3, 172, 167, 0, 3, 132, 5, 4, 167, 248, 141, 4, 172]
abbrev dktL_law_76 : List UInt8 := dkwL_law_76 ++ []
def dkwL_law_75 : List UInt8 := [182, 0, 235, 44, 182, 0, 238, 167, 0, 27, 43, 184, 0, 239, 54, 6, 44, 182, 0, 242, 44, 182, 0, 116]
abbrev dktL_law_75 : List UInt8 := dkwL_law_75 ++ dktL_law_76
def dkwL_law_74 : List UInt8 := [49, 25, 4, 3, 49, 151, 153, 0, 11, 23, 7, 23, 7, 149, 154, 0, 5, 3, 172, 167, 0, 38, 43]
abbrev dktL_law_74 : List UInt8 := dkwL_law_74 ++ dktL_law_75
def dkwL_law_73 : List UInt8 := [159, 0, 5, 3, 172, 21, 6, 154, 0, 36, 25, 4, 3, 49, 23, 7, 141, 151, 153, 0, 25, 25, 4, 3]
abbrev dktL_law_73 : List UInt8 := dkwL_law_73 ++ dktL_law_74
def dkwL_law_72 : List UInt8 := [172, 167, 0, 104, 43, 25, 4, 184, 0, 232, 54, 6, 44, 182, 0, 234, 56, 7, 44, 182, 0, 116, 21, 6]
abbrev dktL_law_72 : List UInt8 := dkwL_law_72 ++ dktL_law_73
def dkwL_law_71 : List UInt8 := [153, 0, 25, 25, 4, 3, 49, 25, 4, 3, 49, 151, 153, 0, 11, 24, 7, 24, 7, 151, 154, 0, 5, 3]
abbrev dktL_law_71 : List UInt8 := dkwL_law_71 ++ dktL_law_72
def dkwL_law_70 : List UInt8 := [182, 0, 116, 21, 6, 159, 0, 5, 3, 172, 21, 6, 154, 0, 35, 25, 4, 3, 49, 24, 7, 151]
abbrev dktL_law_70 : List UInt8 := dkwL_law_70 ++ dktL_law_71
def dkwL_law_69 : List UInt8 := [182, 0, 227, 159, 0, 171, 3, 172, 43, 25, 4, 184, 0, 228, 54, 6, 44, 182, 0, 231, 57, 7, 44]
abbrev dktL_law_69 : List UInt8 := dkwL_law_69 ++ dktL_law_70
def dkwL_law_68 : List UInt8 := [3, 172, 167, 0, 195, 43, 182, 0, 220, 44, 182, 0, 223, 159, 0, 184, 3, 172, 43, 182, 0, 224, 44]
abbrev dktL_law_68 : List UInt8 := dkwL_law_68 ++ dktL_law_69
def dkwL_law_67 : List UInt8 := [182, 0, 116, 21, 6, 159, 0, 5, 3, 172, 21, 6, 154, 0, 14, 45, 3, 47, 22, 7, 148, 153, 0, 5]
abbrev dktL_law_67 : List UInt8 := dkwL_law_67 ++ dktL_law_68
def dkwL_law_66 : List UInt8 := [184, 0, 217, 54, 6, 44, 42, 21, 5, 4, 96, 46, 42, 21, 5, 5, 96, 46, 182, 0, 219, 55, 7, 44]
abbrev dktL_law_66 : List UInt8 := dkwL_law_66 ++ dktL_law_67
def dkwL_law_65 : List UInt8 := [153, 0, 5, 3, 172, 167, 1, 6, 43, 42, 21, 5, 4, 96, 46, 42, 21, 5, 5, 96, 46, 45]
abbrev dktL_law_65 : List UInt8 := dkwL_law_65 ++ dktL_law_66
def dkwL_law_64 : List UInt8 := [55, 7, 44, 182, 0, 116, 21, 6, 159, 0, 5, 3, 172, 21, 6, 154, 0, 14, 45, 3, 47, 22, 7, 148]
abbrev dktL_law_64 : List UInt8 := dkwL_law_64 ++ dktL_law_65
def dkwL_law_63 : List UInt8 := [172, 43, 42, 21, 5, 4, 96, 46, 45, 184, 0, 214, 54, 6, 44, 42, 21, 5, 4, 96, 46, 182, 0, 216]
abbrev dktL_law_63 : List UInt8 := dkwL_law_63 ++ dktL_law_64
def dkwL_law_62 : List UInt8 := [21, 7, 133, 148, 153, 0, 5, 3, 172, 167, 1, 74, 43, 182, 0, 210, 44, 182, 0, 213, 159, 1, 63, 3]
abbrev dktL_law_62 : List UInt8 := dkwL_law_62 ++ dktL_law_63
def dkwL_law_61 : List UInt8 := [182, 0, 209, 54, 7, 44, 182, 0, 116, 21, 6, 159, 0, 5, 3, 172, 21, 6, 154, 0, 15, 45, 3, 47]
abbrev dktL_law_61 : List UInt8 := dkwL_law_61 ++ dktL_law_62
def dkwL_law_60 : List UInt8 := [167, 1, 130, 43, 42, 21, 5, 4, 96, 46, 45, 184, 0, 207, 54, 6, 44, 42, 21, 5, 4, 96, 46]
abbrev dktL_law_60 : List UInt8 := dkwL_law_60 ++ dktL_law_61
def dkwL_law_59 : List UInt8 := [154, 0, 22, 45, 3, 47, 21, 7, 153, 0, 7, 10, 167, 0, 4, 9, 148, 153, 0, 5, 3, 172]
abbrev dktL_law_59 : List UInt8 := dkwL_law_59 ++ dktL_law_60
def dkwL_law_58 : List UInt8 := [21, 5, 4, 96, 46, 182, 0, 206, 54, 7, 44, 182, 0, 116, 21, 6, 159, 0, 5, 3, 172, 21, 6]
abbrev dktL_law_58 : List UInt8 := dkwL_law_58 ++ dktL_law_59
def dkwL_law_57 : List UInt8 := [153, 0, 5, 3, 172, 167, 1, 193, 43, 42, 21, 5, 4, 96, 46, 45, 184, 0, 204, 54, 6, 44, 42]
abbrev dktL_law_57 : List UInt8 := dkwL_law_57 ++ dktL_law_58
def dkwL_law_56 : List UInt8 := [159, 0, 5, 3, 172, 21, 6, 154, 0, 22, 45, 3, 47, 21, 7, 153, 0, 7, 10, 167, 0, 4, 9, 148]
abbrev dktL_law_56 : List UInt8 := dkwL_law_56 ++ dktL_law_57
def dkwL_law_55 : List UInt8 := [45, 184, 0, 201, 54, 6, 44, 42, 21, 5, 4, 96, 46, 182, 0, 203, 54, 7, 44, 182, 0, 116, 21, 6]
abbrev dktL_law_55 : List UInt8 := dkwL_law_55 ++ dktL_law_56
def dkwL_law_54 : List UInt8 := [154, 0, 14, 45, 3, 47, 22, 7, 148, 153, 0, 5, 3, 172, 167, 2, 0, 43, 42, 21, 5, 4, 96, 46]
abbrev dktL_law_54 : List UInt8 := dkwL_law_54 ++ dktL_law_55
def dkwL_law_53 : List UInt8 := [21, 5, 4, 96, 46, 182, 0, 200, 55, 7, 44, 182, 0, 116, 21, 6, 159, 0, 5, 3, 172, 21, 6]
abbrev dktL_law_53 : List UInt8 := dkwL_law_53 ++ dktL_law_54
def dkwL_law_52 : List UInt8 := [44, 182, 0, 197, 159, 2, 57, 3, 172, 43, 42, 21, 5, 4, 96, 46, 45, 184, 0, 198, 54, 6, 44, 42]
abbrev dktL_law_52 : List UInt8 := dkwL_law_52 ++ dktL_law_53
def dkwL_law_51 : List UInt8 := [47, 21, 7, 153, 0, 7, 10, 167, 0, 4, 9, 148, 153, 0, 5, 3, 172, 167, 2, 68, 43, 182, 0, 194]
abbrev dktL_law_51 : List UInt8 := dkwL_law_51 ++ dktL_law_52
def dkwL_law_50 : List UInt8 := [46, 182, 0, 193, 54, 7, 44, 182, 0, 116, 21, 6, 159, 0, 5, 3, 172, 21, 6, 154, 0, 22, 45, 3]
abbrev dktL_law_50 : List UInt8 := dkwL_law_50 ++ dktL_law_51
def dkwL_law_49 : List UInt8 := [42, 21, 5, 5, 96, 46, 45, 184, 0, 191, 54, 6, 44, 42, 21, 5, 4, 96, 46, 42, 21, 5, 5, 96]
abbrev dktL_law_49 : List UInt8 := dkwL_law_49 ++ dktL_law_50
def dkwL_law_48 : List UInt8 := [154, 0, 14, 45, 3, 47, 22, 7, 148, 153, 0, 5, 3, 172, 167, 2, 143, 43, 42, 21, 5, 4, 96, 46]
abbrev dktL_law_48 : List UInt8 := dkwL_law_48 ++ dktL_law_49
def dkwL_law_47 : List UInt8 := [21, 5, 4, 96, 46, 182, 0, 190, 55, 7, 44, 182, 0, 116, 21, 6, 159, 0, 5, 3, 172, 21, 6]
abbrev dktL_law_47 : List UInt8 := dkwL_law_47 ++ dktL_law_48
def dkwL_law_46 : List UInt8 := [182, 0, 187, 159, 2, 200, 3, 172, 43, 42, 21, 5, 4, 96, 46, 45, 184, 0, 188, 54, 6, 44, 42]
abbrev dktL_law_46 : List UInt8 := dkwL_law_46 ++ dktL_law_47
def dkwL_law_45 : List UInt8 := [154, 0, 15, 45, 3, 47, 21, 7, 133, 148, 153, 0, 5, 3, 172, 167, 2, 211, 43, 182, 0, 184, 44]
abbrev dktL_law_45 : List UInt8 := dkwL_law_45 ++ dktL_law_46
def dkwL_law_44 : List UInt8 := [21, 5, 5, 96, 46, 182, 0, 183, 54, 7, 44, 182, 0, 116, 21, 6, 159, 0, 5, 3, 172, 21, 6]
abbrev dktL_law_44 : List UInt8 := dkwL_law_44 ++ dktL_law_45
def dkwL_law_43 : List UInt8 := [4, 96, 46, 42, 21, 5, 5, 96, 46, 45, 184, 0, 181, 54, 6, 44, 42, 21, 5, 4, 96, 46, 42]
abbrev dktL_law_43 : List UInt8 := dkwL_law_43 ++ dktL_law_44
def dkwL_law_42 : List UInt8 := [21, 6, 154, 0, 15, 45, 3, 47, 21, 7, 133, 148, 153, 0, 5, 3, 172, 167, 3, 23, 43, 42, 21, 5]
abbrev dktL_law_42 : List UInt8 := dkwL_law_42 ++ dktL_law_43
def dkwL_law_41 : List UInt8 := [96, 46, 42, 21, 5, 5, 96, 46, 182, 0, 180, 54, 7, 44, 182, 0, 116, 21, 6, 159, 0, 5, 3, 172]
abbrev dktL_law_41 : List UInt8 := dkwL_law_41 ++ dktL_law_42
def dkwL_law_40 : List UInt8 := [43, 42, 21, 5, 4, 96, 46, 42, 21, 5, 5, 96, 46, 45, 184, 0, 178, 54, 6, 44, 42, 21, 5, 4]
abbrev dktL_law_40 : List UInt8 := dkwL_law_40 ++ dktL_law_41
def dkwL_law_39 : List UInt8 := [22, 7, 148, 153, 0, 5, 3, 172, 167, 3, 104, 43, 182, 0, 174, 44, 182, 0, 177, 159, 3, 93, 3, 172]
abbrev dktL_law_39 : List UInt8 := dkwL_law_39 ++ dktL_law_40
def dkwL_law_38 : List UInt8 := [182, 0, 173, 55, 7, 44, 182, 0, 116, 21, 6, 159, 0, 5, 3, 172, 21, 6, 154, 0, 14, 45, 3, 47]
abbrev dktL_law_38 : List UInt8 := dkwL_law_38 ++ dktL_law_39
def dkwL_law_37 : List UInt8 := [172, 167, 3, 159, 43, 42, 21, 5, 4, 96, 46, 45, 184, 0, 171, 54, 6, 44, 42, 21, 5, 4, 96, 46]
abbrev dktL_law_37 : List UInt8 := dkwL_law_37 ++ dktL_law_38
def dkwL_law_36 : List UInt8 := [172, 21, 6, 154, 0, 22, 45, 3, 47, 21, 7, 153, 0, 7, 10, 167, 0, 4, 9, 148, 153, 0, 5, 3]
abbrev dktL_law_36 : List UInt8 := dkwL_law_36 ++ dktL_law_37
def dkwL_law_35 : List UInt8 := [4, 96, 46, 42, 21, 5, 5, 96, 46, 182, 0, 170, 54, 7, 44, 182, 0, 116, 21, 6, 159, 0, 5, 3]
abbrev dktL_law_35 : List UInt8 := dkwL_law_35 ++ dktL_law_36
def dkwL_law_34 : List UInt8 := [172, 43, 42, 21, 5, 4, 96, 46, 42, 21, 5, 5, 96, 46, 45, 184, 0, 168, 54, 6, 44, 42, 21, 5]
abbrev dktL_law_34 : List UInt8 := dkwL_law_34 ++ dktL_law_35
def dkwL_law_33 : List UInt8 := [47, 22, 7, 148, 153, 0, 5, 3, 172, 167, 3, 247, 43, 182, 0, 164, 44, 182, 0, 167, 159, 3, 236, 3]
abbrev dktL_law_33 : List UInt8 := dkwL_law_33 ++ dktL_law_34
def dkwL_law_32 : List UInt8 := [46, 182, 0, 163, 55, 7, 44, 182, 0, 116, 21, 6, 159, 0, 5, 3, 172, 21, 6, 154, 0, 14, 45, 3]
abbrev dktL_law_32 : List UInt8 := dkwL_law_32 ++ dktL_law_33
def dkwL_law_31 : List UInt8 := [42, 21, 5, 5, 96, 46, 45, 184, 0, 161, 54, 6, 44, 42, 21, 5, 4, 96, 46, 42, 21, 5, 5, 96]
abbrev dktL_law_31 : List UInt8 := dkwL_law_31 ++ dktL_law_32
def dkwL_law_30 : List UInt8 := [154, 0, 14, 45, 3, 47, 22, 7, 148, 153, 0, 5, 3, 172, 167, 4, 58, 43, 42, 21, 5, 4, 96, 46]
abbrev dktL_law_30 : List UInt8 := dkwL_law_30 ++ dktL_law_31
def dkwL_law_29 : List UInt8 := [21, 5, 5, 96, 46, 182, 0, 160, 55, 7, 44, 182, 0, 116, 21, 6, 159, 0, 5, 3, 172, 21, 6]
abbrev dktL_law_29 : List UInt8 := dkwL_law_29 ++ dktL_law_30
def dkwL_law_28 : List UInt8 := [4, 96, 46, 42, 21, 5, 5, 96, 46, 45, 184, 0, 158, 54, 6, 44, 42, 21, 5, 4, 96, 46, 42]
abbrev dktL_law_28 : List UInt8 := dkwL_law_28 ++ dktL_law_29
def dkwL_law_27 : List UInt8 := [172, 21, 6, 154, 0, 14, 45, 3, 47, 22, 7, 148, 153, 0, 5, 3, 172, 167, 4, 125, 43, 42, 21, 5]
abbrev dktL_law_27 : List UInt8 := dkwL_law_27 ++ dktL_law_28
def dkwL_law_26 : List UInt8 := [54, 6, 44, 42, 21, 5, 4, 96, 46, 182, 0, 157, 55, 7, 44, 182, 0, 116, 21, 6, 159, 0, 5, 3]
abbrev dktL_law_26 : List UInt8 := dkwL_law_26 ++ dktL_law_27
def dkwL_law_25 : List UInt8 := [21, 7, 133, 148, 153, 0, 5, 3, 172, 167, 4, 180, 43, 42, 21, 5, 4, 96, 46, 45, 184, 0, 155]
abbrev dktL_law_25 : List UInt8 := dkwL_law_25 ++ dktL_law_26
def dkwL_law_24 : List UInt8 := [182, 0, 154, 54, 7, 44, 182, 0, 116, 21, 6, 159, 0, 5, 3, 172, 21, 6, 154, 0, 15, 45, 3, 47]
abbrev dktL_law_24 : List UInt8 := dkwL_law_24 ++ dktL_law_25
def dkwL_law_23 : List UInt8 := [184, 0, 151, 54, 6, 44, 42, 21, 5, 4, 96, 46, 42, 21, 5, 5, 96, 46, 42, 21, 5, 6, 96, 46]
abbrev dktL_law_23 : List UInt8 := dkwL_law_23 ++ dktL_law_24
def dkwL_law_22 : List UInt8 := [167, 5, 4, 43, 42, 21, 5, 4, 96, 46, 42, 21, 5, 5, 96, 46, 42, 21, 5, 6, 96, 46, 45]
abbrev dktL_law_22 : List UInt8 := dkwL_law_22 ++ dktL_law_23
def dkwL_law_21 : List UInt8 := [159, 0, 5, 3, 172, 21, 6, 154, 0, 15, 45, 3, 47, 21, 7, 133, 148, 153, 0, 5, 3, 172]
abbrev dktL_law_21 : List UInt8 := dkwL_law_21 ++ dktL_law_22
def dkwL_law_20 : List UInt8 := [21, 5, 4, 96, 46, 42, 21, 5, 5, 96, 46, 182, 0, 150, 54, 7, 44, 182, 0, 116, 21, 6]
abbrev dktL_law_20 : List UInt8 := dkwL_law_20 ++ dktL_law_21
def dkwL_law_19 : List UInt8 := [167, 5, 72, 43, 42, 21, 5, 4, 96, 46, 42, 21, 5, 5, 96, 46, 45, 184, 0, 147, 54, 6, 44, 42]
abbrev dktL_law_19 : List UInt8 := dkwL_law_19 ++ dktL_law_20
def dkwL_law_18 : List UInt8 := [21, 6, 159, 0, 5, 3, 172, 21, 6, 154, 0, 15, 45, 3, 47, 21, 7, 133, 148, 153, 0, 5, 3, 172]
abbrev dktL_law_18 : List UInt8 := dkwL_law_18 ++ dktL_law_19
def dkwL_law_17 : List UInt8 := [46, 45, 184, 0, 144, 54, 6, 44, 42, 21, 5, 4, 96, 46, 182, 0, 146, 54, 7, 44, 182, 0, 116]
abbrev dktL_law_17 : List UInt8 := dkwL_law_17 ++ dktL_law_18
def dkwL_law_16 : List UInt8 := [154, 0, 15, 45, 3, 47, 21, 7, 133, 148, 153, 0, 5, 3, 172, 167, 5, 128, 43, 42, 21, 5, 4, 96]
abbrev dktL_law_16 : List UInt8 := dkwL_law_16 ++ dktL_law_17
def dkwL_law_15 : List UInt8 := [21, 5, 4, 96, 46, 182, 0, 143, 54, 7, 44, 182, 0, 116, 21, 6, 159, 0, 5, 3, 172, 21, 6]
abbrev dktL_law_15 : List UInt8 := dkwL_law_15 ++ dktL_law_16
def dkwL_law_14 : List UInt8 := [182, 0, 140, 159, 5, 186, 3, 172, 43, 42, 21, 5, 4, 96, 46, 45, 184, 0, 141, 54, 6, 44, 42]
abbrev dktL_law_14 : List UInt8 := dkwL_law_14 ++ dktL_law_15
def dkwL_law_13 : List UInt8 := [154, 0, 15, 45, 3, 47, 21, 7, 133, 148, 153, 0, 5, 3, 172, 167, 5, 197, 43, 182, 0, 137, 44]
abbrev dktL_law_13 : List UInt8 := dkwL_law_13 ++ dktL_law_14
def dkwL_law_12 : List UInt8 := [21, 5, 4, 96, 46, 182, 0, 136, 54, 7, 44, 182, 0, 116, 21, 6, 159, 0, 5, 3, 172, 21, 6]
abbrev dktL_law_12 : List UInt8 := dkwL_law_12 ++ dktL_law_13
def dkwL_law_11 : List UInt8 := [153, 0, 5, 3, 172, 167, 5, 253, 43, 42, 21, 5, 4, 96, 46, 45, 184, 0, 134, 54, 6, 44, 42]
abbrev dktL_law_11 : List UInt8 := dkwL_law_11 ++ dktL_law_12
def dkwL_law_10 : List UInt8 := [182, 0, 116, 21, 6, 159, 0, 5, 3, 172, 21, 6, 154, 0, 15, 45, 3, 47, 21, 7, 133, 148]
abbrev dktL_law_10 : List UInt8 := dkwL_law_10 ++ dktL_law_11
def dkwL_law_9 : List UInt8 := [21, 5, 4, 96, 46, 45, 184, 0, 131, 54, 6, 44, 42, 21, 5, 4, 96, 46, 182, 0, 133, 54, 7, 44]
abbrev dktL_law_9 : List UInt8 := dkwL_law_9 ++ dktL_law_10
def dkwL_law_8 : List UInt8 := [182, 0, 126, 159, 6, 68, 3, 172, 43, 182, 0, 127, 44, 182, 0, 130, 159, 6, 55, 3, 172, 43, 42]
abbrev dktL_law_8 : List UInt8 := dkwL_law_8 ++ dktL_law_9
def dkwL_law_7 : List UInt8 := [154, 0, 15, 45, 3, 47, 21, 7, 133, 148, 153, 0, 5, 3, 172, 167, 6, 79, 43, 182, 0, 123, 44]
abbrev dktL_law_7 : List UInt8 := dkwL_law_7 ++ dktL_law_8
def dkwL_law_6 : List UInt8 := [21, 5, 4, 96, 46, 182, 0, 122, 54, 7, 44, 182, 0, 116, 21, 6, 159, 0, 5, 3, 172, 21, 6]
abbrev dktL_law_6 : List UInt8 := dkwL_law_6 ++ dktL_law_7
def dkwL_law_5 : List UInt8 := [148, 153, 0, 5, 3, 172, 167, 6, 135, 43, 42, 21, 5, 4, 96, 46, 45, 184, 0, 120, 54, 6, 44, 42]
abbrev dktL_law_5 : List UInt8 := dkwL_law_5 ++ dktL_law_6
def dkwL_law_4 : List UInt8 := [54, 7, 44, 182, 0, 116, 21, 6, 159, 0, 5, 3, 172, 21, 6, 154, 0, 15, 45, 3, 47, 21, 7, 133]
abbrev dktL_law_4 : List UInt8 := dkwL_law_4 ++ dktL_law_5
def dkwL_law_3 : List UInt8 := [43, 42, 21, 5, 4, 96, 46, 45, 184, 0, 110, 54, 6, 44, 42, 21, 5, 4, 96, 46, 182, 0, 115]
abbrev dktL_law_3 : List UInt8 := dkwL_law_3 ++ dktL_law_4
def dkwL_law_2 : List UInt8 := [170, 0, 0, 0, 0, 0, 7, 96, 0, 0, 0, 0, 0, 0, 0, 36, 0, 0, 0, 164, 0, 0, 0, 220, 0, 0, 1, 20, 0, 0, 1, 33, 0, 0, 1, 46, 0, 0, 1, 102, 0, 0, 1, 158, 0, 0, 1, 171, 0, 0, 1, 227, 0, 0, 2, 27, 0, 0, 2, 95, 0, 0, 2, 175, 0, 0, 2, 230, 0, 0, 3, 41, 0, 0, 3, 108, 0, 0, 3, 121, 0, 0, 3, 196, 0, 0, 3, 251, 0, 0, 4, 8, 0, 0, 4, 76, 0, 0, 4, 144, 0, 0, 4, 157, 0, 0, 4, 212, 0, 0, 5, 31, 0, 0, 5, 44, 0, 0, 5, 99, 0, 0, 5, 162, 0, 0, 5, 225, 0, 0, 6, 25, 0, 0, 6, 38, 0, 0, 6, 93, 0, 0, 6, 160, 0, 0, 6, 173, 0, 0, 6, 186, 0, 0, 6, 251, 0, 0, 7, 61, 0, 0, 7, 72]
abbrev dktL_law_2 : List UInt8 := dkwL_law_2 ++ dktL_law_3
def dkwL_law_1 : List UInt8 := [58, 4, 3, 54, 5, 21, 5, 42, 190, 7, 100, 163, 7, 112, 42, 21, 5, 46, 16, 63, 126]
abbrev dktL_law_1 : List UInt8 := dkwL_law_1 ++ dktL_law_2
def dkwL_law_0 : List UInt8 := [187, 0, 8, 89, 183, 0, 106, 76, 187, 0, 107, 89, 183, 0, 109, 77, 4, 188, 11, 78, 4, 188, 7]
abbrev dktL_law_0 : List UInt8 := dkwL_law_0 ++ dktL_law_1
theorem dksL_law_0 : cL_law.data.toList.drop 0 = dktL_law_0 := by decide +kernel
theorem dksL_law_1 : cL_law.data.toList.drop 23 = dktL_law_1 := dk_seg dksL_law_0 23 rfl rfl
theorem dksL_law_2 : cL_law.data.toList.drop 44 = dktL_law_2 := dk_seg dksL_law_1 21 rfl rfl
theorem dksL_law_3 : cL_law.data.toList.drop 208 = dktL_law_3 := dk_seg dksL_law_2 164 rfl rfl
theorem dksL_law_4 : cL_law.data.toList.drop 231 = dktL_law_4 := dk_seg dksL_law_3 23 rfl rfl
theorem dksL_law_5 : cL_law.data.toList.drop 255 = dktL_law_5 := dk_seg dksL_law_4 24 rfl rfl
theorem dksL_law_6 : cL_law.data.toList.drop 279 = dktL_law_6 := dk_seg dksL_law_5 24 rfl rfl
theorem dksL_law_7 : cL_law.data.toList.drop 302 = dktL_law_7 := dk_seg dksL_law_6 23 rfl rfl
theorem dksL_law_8 : cL_law.data.toList.drop 325 = dktL_law_8 := dk_seg dksL_law_7 23 rfl rfl
theorem dksL_law_9 : cL_law.data.toList.drop 348 = dktL_law_9 := dk_seg dksL_law_8 23 rfl rfl
theorem dksL_law_10 : cL_law.data.toList.drop 372 = dktL_law_10 := dk_seg dksL_law_9 24 rfl rfl
theorem dksL_law_11 : cL_law.data.toList.drop 394 = dktL_law_11 := dk_seg dksL_law_10 22 rfl rfl
theorem dksL_law_12 : cL_law.data.toList.drop 417 = dktL_law_12 := dk_seg dksL_law_11 23 rfl rfl
theorem dksL_law_13 : cL_law.data.toList.drop 440 = dktL_law_13 := dk_seg dksL_law_12 23 rfl rfl
theorem dksL_law_14 : cL_law.data.toList.drop 463 = dktL_law_14 := dk_seg dksL_law_13 23 rfl rfl
theorem dksL_law_15 : cL_law.data.toList.drop 486 = dktL_law_15 := dk_seg dksL_law_14 23 rfl rfl
theorem dksL_law_16 : cL_law.data.toList.drop 509 = dktL_law_16 := dk_seg dksL_law_15 23 rfl rfl
theorem dksL_law_17 : cL_law.data.toList.drop 533 = dktL_law_17 := dk_seg dksL_law_16 24 rfl rfl
theorem dksL_law_18 : cL_law.data.toList.drop 556 = dktL_law_18 := dk_seg dksL_law_17 23 rfl rfl
theorem dksL_law_19 : cL_law.data.toList.drop 580 = dktL_law_19 := dk_seg dksL_law_18 24 rfl rfl
theorem dksL_law_20 : cL_law.data.toList.drop 604 = dktL_law_20 := dk_seg dksL_law_19 24 rfl rfl
theorem dksL_law_21 : cL_law.data.toList.drop 626 = dktL_law_21 := dk_seg dksL_law_20 22 rfl rfl
theorem dksL_law_22 : cL_law.data.toList.drop 648 = dktL_law_22 := dk_seg dksL_law_21 22 rfl rfl
theorem dksL_law_23 : cL_law.data.toList.drop 671 = dktL_law_23 := dk_seg dksL_law_22 23 rfl rfl
theorem dksL_law_24 : cL_law.data.toList.drop 695 = dktL_law_24 := dk_seg dksL_law_23 24 rfl rfl
theorem dksL_law_25 : cL_law.data.toList.drop 719 = dktL_law_25 := dk_seg dksL_law_24 24 rfl rfl
theorem dksL_law_26 : cL_law.data.toList.drop 742 = dktL_law_26 := dk_seg dksL_law_25 23 rfl rfl
theorem dksL_law_27 : cL_law.data.toList.drop 766 = dktL_law_27 := dk_seg dksL_law_26 24 rfl rfl
theorem dksL_law_28 : cL_law.data.toList.drop 790 = dktL_law_28 := dk_seg dksL_law_27 24 rfl rfl
theorem dksL_law_29 : cL_law.data.toList.drop 813 = dktL_law_29 := dk_seg dksL_law_28 23 rfl rfl
theorem dksL_law_30 : cL_law.data.toList.drop 836 = dktL_law_30 := dk_seg dksL_law_29 23 rfl rfl
theorem dksL_law_31 : cL_law.data.toList.drop 860 = dktL_law_31 := dk_seg dksL_law_30 24 rfl rfl
theorem dksL_law_32 : cL_law.data.toList.drop 884 = dktL_law_32 := dk_seg dksL_law_31 24 rfl rfl
theorem dksL_law_33 : cL_law.data.toList.drop 908 = dktL_law_33 := dk_seg dksL_law_32 24 rfl rfl
theorem dksL_law_34 : cL_law.data.toList.drop 932 = dktL_law_34 := dk_seg dksL_law_33 24 rfl rfl
theorem dksL_law_35 : cL_law.data.toList.drop 956 = dktL_law_35 := dk_seg dksL_law_34 24 rfl rfl
theorem dksL_law_36 : cL_law.data.toList.drop 980 = dktL_law_36 := dk_seg dksL_law_35 24 rfl rfl
theorem dksL_law_37 : cL_law.data.toList.drop 1004 = dktL_law_37 := dk_seg dksL_law_36 24 rfl rfl
theorem dksL_law_38 : cL_law.data.toList.drop 1028 = dktL_law_38 := dk_seg dksL_law_37 24 rfl rfl
theorem dksL_law_39 : cL_law.data.toList.drop 1052 = dktL_law_39 := dk_seg dksL_law_38 24 rfl rfl
theorem dksL_law_40 : cL_law.data.toList.drop 1076 = dktL_law_40 := dk_seg dksL_law_39 24 rfl rfl
theorem dksL_law_41 : cL_law.data.toList.drop 1100 = dktL_law_41 := dk_seg dksL_law_40 24 rfl rfl
theorem dksL_law_42 : cL_law.data.toList.drop 1124 = dktL_law_42 := dk_seg dksL_law_41 24 rfl rfl
theorem dksL_law_43 : cL_law.data.toList.drop 1148 = dktL_law_43 := dk_seg dksL_law_42 24 rfl rfl
theorem dksL_law_44 : cL_law.data.toList.drop 1171 = dktL_law_44 := dk_seg dksL_law_43 23 rfl rfl
theorem dksL_law_45 : cL_law.data.toList.drop 1194 = dktL_law_45 := dk_seg dksL_law_44 23 rfl rfl
theorem dksL_law_46 : cL_law.data.toList.drop 1217 = dktL_law_46 := dk_seg dksL_law_45 23 rfl rfl
theorem dksL_law_47 : cL_law.data.toList.drop 1240 = dktL_law_47 := dk_seg dksL_law_46 23 rfl rfl
theorem dksL_law_48 : cL_law.data.toList.drop 1263 = dktL_law_48 := dk_seg dksL_law_47 23 rfl rfl
theorem dksL_law_49 : cL_law.data.toList.drop 1287 = dktL_law_49 := dk_seg dksL_law_48 24 rfl rfl
theorem dksL_law_50 : cL_law.data.toList.drop 1311 = dktL_law_50 := dk_seg dksL_law_49 24 rfl rfl
theorem dksL_law_51 : cL_law.data.toList.drop 1335 = dktL_law_51 := dk_seg dksL_law_50 24 rfl rfl
theorem dksL_law_52 : cL_law.data.toList.drop 1359 = dktL_law_52 := dk_seg dksL_law_51 24 rfl rfl
theorem dksL_law_53 : cL_law.data.toList.drop 1383 = dktL_law_53 := dk_seg dksL_law_52 24 rfl rfl
theorem dksL_law_54 : cL_law.data.toList.drop 1406 = dktL_law_54 := dk_seg dksL_law_53 23 rfl rfl
theorem dksL_law_55 : cL_law.data.toList.drop 1430 = dktL_law_55 := dk_seg dksL_law_54 24 rfl rfl
theorem dksL_law_56 : cL_law.data.toList.drop 1454 = dktL_law_56 := dk_seg dksL_law_55 24 rfl rfl
theorem dksL_law_57 : cL_law.data.toList.drop 1478 = dktL_law_57 := dk_seg dksL_law_56 24 rfl rfl
theorem dksL_law_58 : cL_law.data.toList.drop 1501 = dktL_law_58 := dk_seg dksL_law_57 23 rfl rfl
theorem dksL_law_59 : cL_law.data.toList.drop 1524 = dktL_law_59 := dk_seg dksL_law_58 23 rfl rfl
theorem dksL_law_60 : cL_law.data.toList.drop 1546 = dktL_law_60 := dk_seg dksL_law_59 22 rfl rfl
theorem dksL_law_61 : cL_law.data.toList.drop 1569 = dktL_law_61 := dk_seg dksL_law_60 23 rfl rfl
theorem dksL_law_62 : cL_law.data.toList.drop 1593 = dktL_law_62 := dk_seg dksL_law_61 24 rfl rfl
theorem dksL_law_63 : cL_law.data.toList.drop 1617 = dktL_law_63 := dk_seg dksL_law_62 24 rfl rfl
theorem dksL_law_64 : cL_law.data.toList.drop 1641 = dktL_law_64 := dk_seg dksL_law_63 24 rfl rfl
theorem dksL_law_65 : cL_law.data.toList.drop 1665 = dktL_law_65 := dk_seg dksL_law_64 24 rfl rfl
theorem dksL_law_66 : cL_law.data.toList.drop 1687 = dktL_law_66 := dk_seg dksL_law_65 22 rfl rfl
theorem dksL_law_67 : cL_law.data.toList.drop 1711 = dktL_law_67 := dk_seg dksL_law_66 24 rfl rfl
theorem dksL_law_68 : cL_law.data.toList.drop 1735 = dktL_law_68 := dk_seg dksL_law_67 24 rfl rfl
theorem dksL_law_69 : cL_law.data.toList.drop 1758 = dktL_law_69 := dk_seg dksL_law_68 23 rfl rfl
theorem dksL_law_70 : cL_law.data.toList.drop 1781 = dktL_law_70 := dk_seg dksL_law_69 23 rfl rfl
theorem dksL_law_71 : cL_law.data.toList.drop 1803 = dktL_law_71 := dk_seg dksL_law_70 22 rfl rfl
theorem dksL_law_72 : cL_law.data.toList.drop 1827 = dktL_law_72 := dk_seg dksL_law_71 24 rfl rfl
theorem dksL_law_73 : cL_law.data.toList.drop 1851 = dktL_law_73 := dk_seg dksL_law_72 24 rfl rfl
theorem dksL_law_74 : cL_law.data.toList.drop 1875 = dktL_law_74 := dk_seg dksL_law_73 24 rfl rfl
theorem dksL_law_75 : cL_law.data.toList.drop 1898 = dktL_law_75 := dk_seg dksL_law_74 23 rfl rfl
theorem dksL_law_76 : cL_law.data.toList.drop 1922 = dktL_law_76 := dk_seg dksL_law_75 24 rfl rfl
theorem dL_law_0 : decode cL_law 0 = .ok (.new 8, 3) := dk_187 0 8 (dk_at dksL_law_0 0 rfl rfl)
theorem dL_law_3 : decode cL_law 3 = .ok (.dup, 1) := dk_89 (dk_at dksL_law_0 3 rfl rfl)
theorem dL_law_4 : decode cL_law 4 = .ok (.invokespecial 106, 3) := dk_183 0 106 (dk_at dksL_law_0 4 rfl rfl)
theorem dL_law_7 : decode cL_law 7 = .ok (.astore_n 1, 1) := dk_76 (dk_at dksL_law_0 7 rfl rfl)
theorem dL_law_8 : decode cL_law 8 = .ok (.new 107, 3) := dk_187 0 107 (dk_at dksL_law_0 8 rfl rfl)
theorem dL_law_11 : decode cL_law 11 = .ok (.dup, 1) := dk_89 (dk_at dksL_law_0 11 rfl rfl)
theorem dL_law_12 : decode cL_law 12 = .ok (.invokespecial 109, 3) := dk_183 0 109 (dk_at dksL_law_0 12 rfl rfl)
theorem dL_law_15 : decode cL_law 15 = .ok (.astore_n 2, 1) := dk_77 (dk_at dksL_law_0 15 rfl rfl)
theorem dL_law_16 : decode cL_law 16 = .ok (.iconst 1, 1) := dk_4 (dk_at dksL_law_0 16 rfl rfl)
theorem dL_law_17 : decode cL_law 17 = .ok (.newarray .long, 2) := dk_188_11 (dk_at dksL_law_0 17 rfl rfl)
theorem dL_law_19 : decode cL_law 19 = .ok (.astore_n 3, 1) := dk_78 (dk_at dksL_law_0 19 rfl rfl)
theorem dL_law_20 : decode cL_law 20 = .ok (.iconst 1, 1) := dk_4 (dk_at dksL_law_0 20 rfl rfl)
theorem dL_law_21 : decode cL_law 21 = .ok (.newarray .double, 2) := dk_188_7 (dk_at dksL_law_0 21 rfl rfl)
theorem dL_law_23 : decode cL_law 23 = .ok (.astore 4, 2) := dk_58 4 (dk_at dksL_law_1 0 rfl rfl)
theorem dL_law_25 : decode cL_law 25 = .ok (.iconst 0, 1) := dk_3 (dk_at dksL_law_1 2 rfl rfl)
theorem dL_law_26 : decode cL_law 26 = .ok (.istore 5, 2) := dk_54 5 (dk_at dksL_law_1 3 rfl rfl)
theorem dL_law_28 : decode cL_law 28 = .ok (.iload 5, 2) := dk_21 5 (dk_at dksL_law_1 5 rfl rfl)
theorem dL_law_30 : decode cL_law 30 = .ok (.aload_n 0, 1) := dk_42 (dk_at dksL_law_1 7 rfl rfl)
theorem dL_law_31 : decode cL_law 31 = .ok (.arraylength, 1) := dk_190 (dk_at dksL_law_1 8 rfl rfl)
theorem dL_law_32 : decode cL_law 32 = .ok (.iconst 4, 1) := dk_7 (dk_at dksL_law_1 9 rfl rfl)
theorem dL_law_33 : decode cL_law 33 = .ok (.isub, 1) := dk_100 (dk_at dksL_law_1 10 rfl rfl)
theorem dL_law_34 : decode cL_law 34 = .ok (.if_icmp .gt 1904, 3) := dk_163 7 112 (dk_at dksL_law_1 11 rfl rfl)
theorem dL_law_37 : decode cL_law 37 = .ok (.aload_n 0, 1) := dk_42 (dk_at dksL_law_1 14 rfl rfl)
theorem dL_law_38 : decode cL_law 38 = .ok (.iload 5, 2) := dk_21 5 (dk_at dksL_law_1 15 rfl rfl)
theorem dL_law_40 : decode cL_law 40 = .ok (.iaload, 1) := dk_46 (dk_at dksL_law_1 17 rfl rfl)
theorem dL_law_41 : decode cL_law 41 = .ok (.bipush 63, 2) := dk_16 63 (dk_at dksL_law_1 18 rfl rfl)
theorem dL_law_43 : decode cL_law 43 = .ok (.iand, 1) := dk_126 (dk_at dksL_law_1 20 rfl rfl)
theorem dL_law_44 : decode cL_law 44 = .ok (.tableswitch 1888 0 36 #[164, 220, 276, 289, 302, 358, 414, 427, 483, 539, 607, 687, 742, 809, 876, 889, 964, 1019, 1032, 1100, 1168, 1181, 1236, 1311, 1324, 1379, 1442, 1505, 1561, 1574, 1629, 1696, 1709, 1722, 1787, 1853, 1864], 164) := by decide +kernel
theorem dL_law_208 : decode cL_law 208 = .ok (.aload_n 1, 1) := dk_43 (dk_at dksL_law_3 0 rfl rfl)
theorem dL_law_209 : decode cL_law 209 = .ok (.aload_n 0, 1) := dk_42 (dk_at dksL_law_3 1 rfl rfl)
theorem dL_law_210 : decode cL_law 210 = .ok (.iload 5, 2) := dk_21 5 (dk_at dksL_law_3 2 rfl rfl)
theorem dL_law_212 : decode cL_law 212 = .ok (.iconst 1, 1) := dk_4 (dk_at dksL_law_3 4 rfl rfl)
theorem dL_law_213 : decode cL_law 213 = .ok (.iadd, 1) := dk_96 (dk_at dksL_law_3 5 rfl rfl)
theorem dL_law_214 : decode cL_law 214 = .ok (.iaload, 1) := dk_46 (dk_at dksL_law_3 6 rfl rfl)
theorem dL_law_215 : decode cL_law 215 = .ok (.aload_n 3, 1) := dk_45 (dk_at dksL_law_3 7 rfl rfl)
theorem dL_law_216 : decode cL_law 216 = .ok (.invokestatic 110, 3) := dk_184 0 110 (dk_at dksL_law_3 8 rfl rfl)
theorem dL_law_219 : decode cL_law 219 = .ok (.istore 6, 2) := dk_54 6 (dk_at dksL_law_3 11 rfl rfl)
theorem dL_law_221 : decode cL_law 221 = .ok (.aload_n 2, 1) := dk_44 (dk_at dksL_law_3 13 rfl rfl)
theorem dL_law_222 : decode cL_law 222 = .ok (.aload_n 0, 1) := dk_42 (dk_at dksL_law_3 14 rfl rfl)
theorem dL_law_223 : decode cL_law 223 = .ok (.iload 5, 2) := dk_21 5 (dk_at dksL_law_3 15 rfl rfl)
theorem dL_law_225 : decode cL_law 225 = .ok (.iconst 1, 1) := dk_4 (dk_at dksL_law_3 17 rfl rfl)
theorem dL_law_226 : decode cL_law 226 = .ok (.iadd, 1) := dk_96 (dk_at dksL_law_3 18 rfl rfl)
theorem dL_law_227 : decode cL_law 227 = .ok (.iaload, 1) := dk_46 (dk_at dksL_law_3 19 rfl rfl)
theorem dL_law_228 : decode cL_law 228 = .ok (.invokevirtual 115, 3) := dk_182 0 115 (dk_at dksL_law_3 20 rfl rfl)
theorem dL_law_231 : decode cL_law 231 = .ok (.istore 7, 2) := dk_54 7 (dk_at dksL_law_4 0 rfl rfl)
theorem dL_law_233 : decode cL_law 233 = .ok (.aload_n 2, 1) := dk_44 (dk_at dksL_law_4 2 rfl rfl)
theorem dL_law_234 : decode cL_law 234 = .ok (.invokevirtual 116, 3) := dk_182 0 116 (dk_at dksL_law_4 3 rfl rfl)
theorem dL_law_237 : decode cL_law 237 = .ok (.iload 6, 2) := dk_21 6 (dk_at dksL_law_4 6 rfl rfl)
theorem dL_law_239 : decode cL_law 239 = .ok (.if_icmp .eq 5, 3) := dk_159 0 5 (dk_at dksL_law_4 8 rfl rfl)
theorem dL_law_242 : decode cL_law 242 = .ok (.iconst 0, 1) := dk_3 (dk_at dksL_law_4 11 rfl rfl)
theorem dL_law_243 : decode cL_law 243 = .ok (.ireturn, 1) := dk_172 (dk_at dksL_law_4 12 rfl rfl)
theorem dL_law_244 : decode cL_law 244 = .ok (.iload 6, 2) := dk_21 6 (dk_at dksL_law_4 13 rfl rfl)
theorem dL_law_246 : decode cL_law 246 = .ok (.ifCond .ne 15, 3) := dk_154 0 15 (dk_at dksL_law_4 15 rfl rfl)
theorem dL_law_249 : decode cL_law 249 = .ok (.aload_n 3, 1) := dk_45 (dk_at dksL_law_4 18 rfl rfl)
theorem dL_law_250 : decode cL_law 250 = .ok (.iconst 0, 1) := dk_3 (dk_at dksL_law_4 19 rfl rfl)
theorem dL_law_251 : decode cL_law 251 = .ok (.laload, 1) := dk_47 (dk_at dksL_law_4 20 rfl rfl)
theorem dL_law_252 : decode cL_law 252 = .ok (.iload 7, 2) := dk_21 7 (dk_at dksL_law_4 21 rfl rfl)
theorem dL_law_254 : decode cL_law 254 = .ok (.i2l, 1) := dk_133 (dk_at dksL_law_4 23 rfl rfl)
theorem dL_law_255 : decode cL_law 255 = .ok (.lcmp, 1) := dk_148 (dk_at dksL_law_5 0 rfl rfl)
theorem dL_law_256 : decode cL_law 256 = .ok (.ifCond .eq 5, 3) := dk_153 0 5 (dk_at dksL_law_5 1 rfl rfl)
theorem dL_law_259 : decode cL_law 259 = .ok (.iconst 0, 1) := dk_3 (dk_at dksL_law_5 4 rfl rfl)
theorem dL_law_260 : decode cL_law 260 = .ok (.ireturn, 1) := dk_172 (dk_at dksL_law_5 5 rfl rfl)
theorem dL_law_261 : decode cL_law 261 = .ok (.goto 1671, 3) := dk_167 6 135 (dk_at dksL_law_5 6 rfl rfl)
theorem dL_law_264 : decode cL_law 264 = .ok (.aload_n 1, 1) := dk_43 (dk_at dksL_law_5 9 rfl rfl)
theorem dL_law_265 : decode cL_law 265 = .ok (.aload_n 0, 1) := dk_42 (dk_at dksL_law_5 10 rfl rfl)
theorem dL_law_266 : decode cL_law 266 = .ok (.iload 5, 2) := dk_21 5 (dk_at dksL_law_5 11 rfl rfl)
theorem dL_law_268 : decode cL_law 268 = .ok (.iconst 1, 1) := dk_4 (dk_at dksL_law_5 13 rfl rfl)
theorem dL_law_269 : decode cL_law 269 = .ok (.iadd, 1) := dk_96 (dk_at dksL_law_5 14 rfl rfl)
theorem dL_law_270 : decode cL_law 270 = .ok (.iaload, 1) := dk_46 (dk_at dksL_law_5 15 rfl rfl)
theorem dL_law_271 : decode cL_law 271 = .ok (.aload_n 3, 1) := dk_45 (dk_at dksL_law_5 16 rfl rfl)
theorem dL_law_272 : decode cL_law 272 = .ok (.invokestatic 120, 3) := dk_184 0 120 (dk_at dksL_law_5 17 rfl rfl)
theorem dL_law_275 : decode cL_law 275 = .ok (.istore 6, 2) := dk_54 6 (dk_at dksL_law_5 20 rfl rfl)
theorem dL_law_277 : decode cL_law 277 = .ok (.aload_n 2, 1) := dk_44 (dk_at dksL_law_5 22 rfl rfl)
theorem dL_law_278 : decode cL_law 278 = .ok (.aload_n 0, 1) := dk_42 (dk_at dksL_law_5 23 rfl rfl)
theorem dL_law_279 : decode cL_law 279 = .ok (.iload 5, 2) := dk_21 5 (dk_at dksL_law_6 0 rfl rfl)
theorem dL_law_281 : decode cL_law 281 = .ok (.iconst 1, 1) := dk_4 (dk_at dksL_law_6 2 rfl rfl)
theorem dL_law_282 : decode cL_law 282 = .ok (.iadd, 1) := dk_96 (dk_at dksL_law_6 3 rfl rfl)
theorem dL_law_283 : decode cL_law 283 = .ok (.iaload, 1) := dk_46 (dk_at dksL_law_6 4 rfl rfl)
theorem dL_law_284 : decode cL_law 284 = .ok (.invokevirtual 122, 3) := dk_182 0 122 (dk_at dksL_law_6 5 rfl rfl)
theorem dL_law_287 : decode cL_law 287 = .ok (.istore 7, 2) := dk_54 7 (dk_at dksL_law_6 8 rfl rfl)
theorem dL_law_289 : decode cL_law 289 = .ok (.aload_n 2, 1) := dk_44 (dk_at dksL_law_6 10 rfl rfl)
theorem dL_law_290 : decode cL_law 290 = .ok (.invokevirtual 116, 3) := dk_182 0 116 (dk_at dksL_law_6 11 rfl rfl)
theorem dL_law_293 : decode cL_law 293 = .ok (.iload 6, 2) := dk_21 6 (dk_at dksL_law_6 14 rfl rfl)
theorem dL_law_295 : decode cL_law 295 = .ok (.if_icmp .eq 5, 3) := dk_159 0 5 (dk_at dksL_law_6 16 rfl rfl)
theorem dL_law_298 : decode cL_law 298 = .ok (.iconst 0, 1) := dk_3 (dk_at dksL_law_6 19 rfl rfl)
theorem dL_law_299 : decode cL_law 299 = .ok (.ireturn, 1) := dk_172 (dk_at dksL_law_6 20 rfl rfl)
theorem dL_law_300 : decode cL_law 300 = .ok (.iload 6, 2) := dk_21 6 (dk_at dksL_law_6 21 rfl rfl)
theorem dL_law_302 : decode cL_law 302 = .ok (.ifCond .ne 15, 3) := dk_154 0 15 (dk_at dksL_law_7 0 rfl rfl)
theorem dL_law_305 : decode cL_law 305 = .ok (.aload_n 3, 1) := dk_45 (dk_at dksL_law_7 3 rfl rfl)
theorem dL_law_306 : decode cL_law 306 = .ok (.iconst 0, 1) := dk_3 (dk_at dksL_law_7 4 rfl rfl)
theorem dL_law_307 : decode cL_law 307 = .ok (.laload, 1) := dk_47 (dk_at dksL_law_7 5 rfl rfl)
theorem dL_law_308 : decode cL_law 308 = .ok (.iload 7, 2) := dk_21 7 (dk_at dksL_law_7 6 rfl rfl)
theorem dL_law_310 : decode cL_law 310 = .ok (.i2l, 1) := dk_133 (dk_at dksL_law_7 8 rfl rfl)
theorem dL_law_311 : decode cL_law 311 = .ok (.lcmp, 1) := dk_148 (dk_at dksL_law_7 9 rfl rfl)
theorem dL_law_312 : decode cL_law 312 = .ok (.ifCond .eq 5, 3) := dk_153 0 5 (dk_at dksL_law_7 10 rfl rfl)
theorem dL_law_315 : decode cL_law 315 = .ok (.iconst 0, 1) := dk_3 (dk_at dksL_law_7 13 rfl rfl)
theorem dL_law_316 : decode cL_law 316 = .ok (.ireturn, 1) := dk_172 (dk_at dksL_law_7 14 rfl rfl)
theorem dL_law_317 : decode cL_law 317 = .ok (.goto 1615, 3) := dk_167 6 79 (dk_at dksL_law_7 15 rfl rfl)
theorem dL_law_320 : decode cL_law 320 = .ok (.aload_n 1, 1) := dk_43 (dk_at dksL_law_7 18 rfl rfl)
theorem dL_law_321 : decode cL_law 321 = .ok (.invokevirtual 123, 3) := dk_182 0 123 (dk_at dksL_law_7 19 rfl rfl)
theorem dL_law_324 : decode cL_law 324 = .ok (.aload_n 2, 1) := dk_44 (dk_at dksL_law_7 22 rfl rfl)
theorem dL_law_325 : decode cL_law 325 = .ok (.invokevirtual 126, 3) := dk_182 0 126 (dk_at dksL_law_8 0 rfl rfl)
theorem dL_law_328 : decode cL_law 328 = .ok (.if_icmp .eq 1604, 3) := dk_159 6 68 (dk_at dksL_law_8 3 rfl rfl)
theorem dL_law_331 : decode cL_law 331 = .ok (.iconst 0, 1) := dk_3 (dk_at dksL_law_8 6 rfl rfl)
theorem dL_law_332 : decode cL_law 332 = .ok (.ireturn, 1) := dk_172 (dk_at dksL_law_8 7 rfl rfl)
theorem dL_law_333 : decode cL_law 333 = .ok (.aload_n 1, 1) := dk_43 (dk_at dksL_law_8 8 rfl rfl)
theorem dL_law_334 : decode cL_law 334 = .ok (.invokevirtual 127, 3) := dk_182 0 127 (dk_at dksL_law_8 9 rfl rfl)
theorem dL_law_337 : decode cL_law 337 = .ok (.aload_n 2, 1) := dk_44 (dk_at dksL_law_8 12 rfl rfl)
theorem dL_law_338 : decode cL_law 338 = .ok (.invokevirtual 130, 3) := dk_182 0 130 (dk_at dksL_law_8 13 rfl rfl)
theorem dL_law_341 : decode cL_law 341 = .ok (.if_icmp .eq 1591, 3) := dk_159 6 55 (dk_at dksL_law_8 16 rfl rfl)
theorem dL_law_344 : decode cL_law 344 = .ok (.iconst 0, 1) := dk_3 (dk_at dksL_law_8 19 rfl rfl)
theorem dL_law_345 : decode cL_law 345 = .ok (.ireturn, 1) := dk_172 (dk_at dksL_law_8 20 rfl rfl)
theorem dL_law_346 : decode cL_law 346 = .ok (.aload_n 1, 1) := dk_43 (dk_at dksL_law_8 21 rfl rfl)
theorem dL_law_347 : decode cL_law 347 = .ok (.aload_n 0, 1) := dk_42 (dk_at dksL_law_8 22 rfl rfl)
theorem dL_law_348 : decode cL_law 348 = .ok (.iload 5, 2) := dk_21 5 (dk_at dksL_law_9 0 rfl rfl)
theorem dL_law_350 : decode cL_law 350 = .ok (.iconst 1, 1) := dk_4 (dk_at dksL_law_9 2 rfl rfl)
theorem dL_law_351 : decode cL_law 351 = .ok (.iadd, 1) := dk_96 (dk_at dksL_law_9 3 rfl rfl)
theorem dL_law_352 : decode cL_law 352 = .ok (.iaload, 1) := dk_46 (dk_at dksL_law_9 4 rfl rfl)
theorem dL_law_353 : decode cL_law 353 = .ok (.aload_n 3, 1) := dk_45 (dk_at dksL_law_9 5 rfl rfl)
theorem dL_law_354 : decode cL_law 354 = .ok (.invokestatic 131, 3) := dk_184 0 131 (dk_at dksL_law_9 6 rfl rfl)
theorem dL_law_357 : decode cL_law 357 = .ok (.istore 6, 2) := dk_54 6 (dk_at dksL_law_9 9 rfl rfl)
theorem dL_law_359 : decode cL_law 359 = .ok (.aload_n 2, 1) := dk_44 (dk_at dksL_law_9 11 rfl rfl)
theorem dL_law_360 : decode cL_law 360 = .ok (.aload_n 0, 1) := dk_42 (dk_at dksL_law_9 12 rfl rfl)
theorem dL_law_361 : decode cL_law 361 = .ok (.iload 5, 2) := dk_21 5 (dk_at dksL_law_9 13 rfl rfl)
theorem dL_law_363 : decode cL_law 363 = .ok (.iconst 1, 1) := dk_4 (dk_at dksL_law_9 15 rfl rfl)
theorem dL_law_364 : decode cL_law 364 = .ok (.iadd, 1) := dk_96 (dk_at dksL_law_9 16 rfl rfl)
theorem dL_law_365 : decode cL_law 365 = .ok (.iaload, 1) := dk_46 (dk_at dksL_law_9 17 rfl rfl)
theorem dL_law_366 : decode cL_law 366 = .ok (.invokevirtual 133, 3) := dk_182 0 133 (dk_at dksL_law_9 18 rfl rfl)
theorem dL_law_369 : decode cL_law 369 = .ok (.istore 7, 2) := dk_54 7 (dk_at dksL_law_9 21 rfl rfl)
theorem dL_law_371 : decode cL_law 371 = .ok (.aload_n 2, 1) := dk_44 (dk_at dksL_law_9 23 rfl rfl)
theorem dL_law_372 : decode cL_law 372 = .ok (.invokevirtual 116, 3) := dk_182 0 116 (dk_at dksL_law_10 0 rfl rfl)
theorem dL_law_375 : decode cL_law 375 = .ok (.iload 6, 2) := dk_21 6 (dk_at dksL_law_10 3 rfl rfl)
theorem dL_law_377 : decode cL_law 377 = .ok (.if_icmp .eq 5, 3) := dk_159 0 5 (dk_at dksL_law_10 5 rfl rfl)
theorem dL_law_380 : decode cL_law 380 = .ok (.iconst 0, 1) := dk_3 (dk_at dksL_law_10 8 rfl rfl)
theorem dL_law_381 : decode cL_law 381 = .ok (.ireturn, 1) := dk_172 (dk_at dksL_law_10 9 rfl rfl)
theorem dL_law_382 : decode cL_law 382 = .ok (.iload 6, 2) := dk_21 6 (dk_at dksL_law_10 10 rfl rfl)
theorem dL_law_384 : decode cL_law 384 = .ok (.ifCond .ne 15, 3) := dk_154 0 15 (dk_at dksL_law_10 12 rfl rfl)
theorem dL_law_387 : decode cL_law 387 = .ok (.aload_n 3, 1) := dk_45 (dk_at dksL_law_10 15 rfl rfl)
theorem dL_law_388 : decode cL_law 388 = .ok (.iconst 0, 1) := dk_3 (dk_at dksL_law_10 16 rfl rfl)
theorem dL_law_389 : decode cL_law 389 = .ok (.laload, 1) := dk_47 (dk_at dksL_law_10 17 rfl rfl)
theorem dL_law_390 : decode cL_law 390 = .ok (.iload 7, 2) := dk_21 7 (dk_at dksL_law_10 18 rfl rfl)
theorem dL_law_392 : decode cL_law 392 = .ok (.i2l, 1) := dk_133 (dk_at dksL_law_10 20 rfl rfl)
theorem dL_law_393 : decode cL_law 393 = .ok (.lcmp, 1) := dk_148 (dk_at dksL_law_10 21 rfl rfl)
theorem dL_law_394 : decode cL_law 394 = .ok (.ifCond .eq 5, 3) := dk_153 0 5 (dk_at dksL_law_11 0 rfl rfl)
theorem dL_law_397 : decode cL_law 397 = .ok (.iconst 0, 1) := dk_3 (dk_at dksL_law_11 3 rfl rfl)
theorem dL_law_398 : decode cL_law 398 = .ok (.ireturn, 1) := dk_172 (dk_at dksL_law_11 4 rfl rfl)
theorem dL_law_399 : decode cL_law 399 = .ok (.goto 1533, 3) := dk_167 5 253 (dk_at dksL_law_11 5 rfl rfl)
theorem dL_law_402 : decode cL_law 402 = .ok (.aload_n 1, 1) := dk_43 (dk_at dksL_law_11 8 rfl rfl)
theorem dL_law_403 : decode cL_law 403 = .ok (.aload_n 0, 1) := dk_42 (dk_at dksL_law_11 9 rfl rfl)
theorem dL_law_404 : decode cL_law 404 = .ok (.iload 5, 2) := dk_21 5 (dk_at dksL_law_11 10 rfl rfl)
theorem dL_law_406 : decode cL_law 406 = .ok (.iconst 1, 1) := dk_4 (dk_at dksL_law_11 12 rfl rfl)
theorem dL_law_407 : decode cL_law 407 = .ok (.iadd, 1) := dk_96 (dk_at dksL_law_11 13 rfl rfl)
theorem dL_law_408 : decode cL_law 408 = .ok (.iaload, 1) := dk_46 (dk_at dksL_law_11 14 rfl rfl)
theorem dL_law_409 : decode cL_law 409 = .ok (.aload_n 3, 1) := dk_45 (dk_at dksL_law_11 15 rfl rfl)
theorem dL_law_410 : decode cL_law 410 = .ok (.invokestatic 134, 3) := dk_184 0 134 (dk_at dksL_law_11 16 rfl rfl)
theorem dL_law_413 : decode cL_law 413 = .ok (.istore 6, 2) := dk_54 6 (dk_at dksL_law_11 19 rfl rfl)
theorem dL_law_415 : decode cL_law 415 = .ok (.aload_n 2, 1) := dk_44 (dk_at dksL_law_11 21 rfl rfl)
theorem dL_law_416 : decode cL_law 416 = .ok (.aload_n 0, 1) := dk_42 (dk_at dksL_law_11 22 rfl rfl)
theorem dL_law_417 : decode cL_law 417 = .ok (.iload 5, 2) := dk_21 5 (dk_at dksL_law_12 0 rfl rfl)
theorem dL_law_419 : decode cL_law 419 = .ok (.iconst 1, 1) := dk_4 (dk_at dksL_law_12 2 rfl rfl)
theorem dL_law_420 : decode cL_law 420 = .ok (.iadd, 1) := dk_96 (dk_at dksL_law_12 3 rfl rfl)
theorem dL_law_421 : decode cL_law 421 = .ok (.iaload, 1) := dk_46 (dk_at dksL_law_12 4 rfl rfl)
theorem dL_law_422 : decode cL_law 422 = .ok (.invokevirtual 136, 3) := dk_182 0 136 (dk_at dksL_law_12 5 rfl rfl)
theorem dL_law_425 : decode cL_law 425 = .ok (.istore 7, 2) := dk_54 7 (dk_at dksL_law_12 8 rfl rfl)
theorem dL_law_427 : decode cL_law 427 = .ok (.aload_n 2, 1) := dk_44 (dk_at dksL_law_12 10 rfl rfl)
theorem dL_law_428 : decode cL_law 428 = .ok (.invokevirtual 116, 3) := dk_182 0 116 (dk_at dksL_law_12 11 rfl rfl)
theorem dL_law_431 : decode cL_law 431 = .ok (.iload 6, 2) := dk_21 6 (dk_at dksL_law_12 14 rfl rfl)
theorem dL_law_433 : decode cL_law 433 = .ok (.if_icmp .eq 5, 3) := dk_159 0 5 (dk_at dksL_law_12 16 rfl rfl)
theorem dL_law_436 : decode cL_law 436 = .ok (.iconst 0, 1) := dk_3 (dk_at dksL_law_12 19 rfl rfl)
theorem dL_law_437 : decode cL_law 437 = .ok (.ireturn, 1) := dk_172 (dk_at dksL_law_12 20 rfl rfl)
theorem dL_law_438 : decode cL_law 438 = .ok (.iload 6, 2) := dk_21 6 (dk_at dksL_law_12 21 rfl rfl)
theorem dL_law_440 : decode cL_law 440 = .ok (.ifCond .ne 15, 3) := dk_154 0 15 (dk_at dksL_law_13 0 rfl rfl)
theorem dL_law_443 : decode cL_law 443 = .ok (.aload_n 3, 1) := dk_45 (dk_at dksL_law_13 3 rfl rfl)
theorem dL_law_444 : decode cL_law 444 = .ok (.iconst 0, 1) := dk_3 (dk_at dksL_law_13 4 rfl rfl)
theorem dL_law_445 : decode cL_law 445 = .ok (.laload, 1) := dk_47 (dk_at dksL_law_13 5 rfl rfl)
theorem dL_law_446 : decode cL_law 446 = .ok (.iload 7, 2) := dk_21 7 (dk_at dksL_law_13 6 rfl rfl)
theorem dL_law_448 : decode cL_law 448 = .ok (.i2l, 1) := dk_133 (dk_at dksL_law_13 8 rfl rfl)
theorem dL_law_449 : decode cL_law 449 = .ok (.lcmp, 1) := dk_148 (dk_at dksL_law_13 9 rfl rfl)
theorem dL_law_450 : decode cL_law 450 = .ok (.ifCond .eq 5, 3) := dk_153 0 5 (dk_at dksL_law_13 10 rfl rfl)
theorem dL_law_453 : decode cL_law 453 = .ok (.iconst 0, 1) := dk_3 (dk_at dksL_law_13 13 rfl rfl)
theorem dL_law_454 : decode cL_law 454 = .ok (.ireturn, 1) := dk_172 (dk_at dksL_law_13 14 rfl rfl)
theorem dL_law_455 : decode cL_law 455 = .ok (.goto 1477, 3) := dk_167 5 197 (dk_at dksL_law_13 15 rfl rfl)
theorem dL_law_458 : decode cL_law 458 = .ok (.aload_n 1, 1) := dk_43 (dk_at dksL_law_13 18 rfl rfl)
theorem dL_law_459 : decode cL_law 459 = .ok (.invokevirtual 137, 3) := dk_182 0 137 (dk_at dksL_law_13 19 rfl rfl)
theorem dL_law_462 : decode cL_law 462 = .ok (.aload_n 2, 1) := dk_44 (dk_at dksL_law_13 22 rfl rfl)
theorem dL_law_463 : decode cL_law 463 = .ok (.invokevirtual 140, 3) := dk_182 0 140 (dk_at dksL_law_14 0 rfl rfl)
theorem dL_law_466 : decode cL_law 466 = .ok (.if_icmp .eq 1466, 3) := dk_159 5 186 (dk_at dksL_law_14 3 rfl rfl)
theorem dL_law_469 : decode cL_law 469 = .ok (.iconst 0, 1) := dk_3 (dk_at dksL_law_14 6 rfl rfl)
theorem dL_law_470 : decode cL_law 470 = .ok (.ireturn, 1) := dk_172 (dk_at dksL_law_14 7 rfl rfl)
theorem dL_law_471 : decode cL_law 471 = .ok (.aload_n 1, 1) := dk_43 (dk_at dksL_law_14 8 rfl rfl)
theorem dL_law_472 : decode cL_law 472 = .ok (.aload_n 0, 1) := dk_42 (dk_at dksL_law_14 9 rfl rfl)
theorem dL_law_473 : decode cL_law 473 = .ok (.iload 5, 2) := dk_21 5 (dk_at dksL_law_14 10 rfl rfl)
theorem dL_law_475 : decode cL_law 475 = .ok (.iconst 1, 1) := dk_4 (dk_at dksL_law_14 12 rfl rfl)
theorem dL_law_476 : decode cL_law 476 = .ok (.iadd, 1) := dk_96 (dk_at dksL_law_14 13 rfl rfl)
theorem dL_law_477 : decode cL_law 477 = .ok (.iaload, 1) := dk_46 (dk_at dksL_law_14 14 rfl rfl)
theorem dL_law_478 : decode cL_law 478 = .ok (.aload_n 3, 1) := dk_45 (dk_at dksL_law_14 15 rfl rfl)
theorem dL_law_479 : decode cL_law 479 = .ok (.invokestatic 141, 3) := dk_184 0 141 (dk_at dksL_law_14 16 rfl rfl)
theorem dL_law_482 : decode cL_law 482 = .ok (.istore 6, 2) := dk_54 6 (dk_at dksL_law_14 19 rfl rfl)
theorem dL_law_484 : decode cL_law 484 = .ok (.aload_n 2, 1) := dk_44 (dk_at dksL_law_14 21 rfl rfl)
theorem dL_law_485 : decode cL_law 485 = .ok (.aload_n 0, 1) := dk_42 (dk_at dksL_law_14 22 rfl rfl)
theorem dL_law_486 : decode cL_law 486 = .ok (.iload 5, 2) := dk_21 5 (dk_at dksL_law_15 0 rfl rfl)
theorem dL_law_488 : decode cL_law 488 = .ok (.iconst 1, 1) := dk_4 (dk_at dksL_law_15 2 rfl rfl)
theorem dL_law_489 : decode cL_law 489 = .ok (.iadd, 1) := dk_96 (dk_at dksL_law_15 3 rfl rfl)
theorem dL_law_490 : decode cL_law 490 = .ok (.iaload, 1) := dk_46 (dk_at dksL_law_15 4 rfl rfl)
theorem dL_law_491 : decode cL_law 491 = .ok (.invokevirtual 143, 3) := dk_182 0 143 (dk_at dksL_law_15 5 rfl rfl)
theorem dL_law_494 : decode cL_law 494 = .ok (.istore 7, 2) := dk_54 7 (dk_at dksL_law_15 8 rfl rfl)
theorem dL_law_496 : decode cL_law 496 = .ok (.aload_n 2, 1) := dk_44 (dk_at dksL_law_15 10 rfl rfl)
theorem dL_law_497 : decode cL_law 497 = .ok (.invokevirtual 116, 3) := dk_182 0 116 (dk_at dksL_law_15 11 rfl rfl)
theorem dL_law_500 : decode cL_law 500 = .ok (.iload 6, 2) := dk_21 6 (dk_at dksL_law_15 14 rfl rfl)
theorem dL_law_502 : decode cL_law 502 = .ok (.if_icmp .eq 5, 3) := dk_159 0 5 (dk_at dksL_law_15 16 rfl rfl)
theorem dL_law_505 : decode cL_law 505 = .ok (.iconst 0, 1) := dk_3 (dk_at dksL_law_15 19 rfl rfl)
theorem dL_law_506 : decode cL_law 506 = .ok (.ireturn, 1) := dk_172 (dk_at dksL_law_15 20 rfl rfl)
theorem dL_law_507 : decode cL_law 507 = .ok (.iload 6, 2) := dk_21 6 (dk_at dksL_law_15 21 rfl rfl)
theorem dL_law_509 : decode cL_law 509 = .ok (.ifCond .ne 15, 3) := dk_154 0 15 (dk_at dksL_law_16 0 rfl rfl)
theorem dL_law_512 : decode cL_law 512 = .ok (.aload_n 3, 1) := dk_45 (dk_at dksL_law_16 3 rfl rfl)
theorem dL_law_513 : decode cL_law 513 = .ok (.iconst 0, 1) := dk_3 (dk_at dksL_law_16 4 rfl rfl)
theorem dL_law_514 : decode cL_law 514 = .ok (.laload, 1) := dk_47 (dk_at dksL_law_16 5 rfl rfl)
theorem dL_law_515 : decode cL_law 515 = .ok (.iload 7, 2) := dk_21 7 (dk_at dksL_law_16 6 rfl rfl)
theorem dL_law_517 : decode cL_law 517 = .ok (.i2l, 1) := dk_133 (dk_at dksL_law_16 8 rfl rfl)
theorem dL_law_518 : decode cL_law 518 = .ok (.lcmp, 1) := dk_148 (dk_at dksL_law_16 9 rfl rfl)
theorem dL_law_519 : decode cL_law 519 = .ok (.ifCond .eq 5, 3) := dk_153 0 5 (dk_at dksL_law_16 10 rfl rfl)
theorem dL_law_522 : decode cL_law 522 = .ok (.iconst 0, 1) := dk_3 (dk_at dksL_law_16 13 rfl rfl)
theorem dL_law_523 : decode cL_law 523 = .ok (.ireturn, 1) := dk_172 (dk_at dksL_law_16 14 rfl rfl)
theorem dL_law_524 : decode cL_law 524 = .ok (.goto 1408, 3) := dk_167 5 128 (dk_at dksL_law_16 15 rfl rfl)
theorem dL_law_527 : decode cL_law 527 = .ok (.aload_n 1, 1) := dk_43 (dk_at dksL_law_16 18 rfl rfl)
theorem dL_law_528 : decode cL_law 528 = .ok (.aload_n 0, 1) := dk_42 (dk_at dksL_law_16 19 rfl rfl)
theorem dL_law_529 : decode cL_law 529 = .ok (.iload 5, 2) := dk_21 5 (dk_at dksL_law_16 20 rfl rfl)
theorem dL_law_531 : decode cL_law 531 = .ok (.iconst 1, 1) := dk_4 (dk_at dksL_law_16 22 rfl rfl)
theorem dL_law_532 : decode cL_law 532 = .ok (.iadd, 1) := dk_96 (dk_at dksL_law_16 23 rfl rfl)
theorem dL_law_533 : decode cL_law 533 = .ok (.iaload, 1) := dk_46 (dk_at dksL_law_17 0 rfl rfl)
theorem dL_law_534 : decode cL_law 534 = .ok (.aload_n 3, 1) := dk_45 (dk_at dksL_law_17 1 rfl rfl)
theorem dL_law_535 : decode cL_law 535 = .ok (.invokestatic 144, 3) := dk_184 0 144 (dk_at dksL_law_17 2 rfl rfl)
theorem dL_law_538 : decode cL_law 538 = .ok (.istore 6, 2) := dk_54 6 (dk_at dksL_law_17 5 rfl rfl)
theorem dL_law_540 : decode cL_law 540 = .ok (.aload_n 2, 1) := dk_44 (dk_at dksL_law_17 7 rfl rfl)
theorem dL_law_541 : decode cL_law 541 = .ok (.aload_n 0, 1) := dk_42 (dk_at dksL_law_17 8 rfl rfl)
theorem dL_law_542 : decode cL_law 542 = .ok (.iload 5, 2) := dk_21 5 (dk_at dksL_law_17 9 rfl rfl)
theorem dL_law_544 : decode cL_law 544 = .ok (.iconst 1, 1) := dk_4 (dk_at dksL_law_17 11 rfl rfl)
theorem dL_law_545 : decode cL_law 545 = .ok (.iadd, 1) := dk_96 (dk_at dksL_law_17 12 rfl rfl)
theorem dL_law_546 : decode cL_law 546 = .ok (.iaload, 1) := dk_46 (dk_at dksL_law_17 13 rfl rfl)
theorem dL_law_547 : decode cL_law 547 = .ok (.invokevirtual 146, 3) := dk_182 0 146 (dk_at dksL_law_17 14 rfl rfl)
theorem dL_law_550 : decode cL_law 550 = .ok (.istore 7, 2) := dk_54 7 (dk_at dksL_law_17 17 rfl rfl)
theorem dL_law_552 : decode cL_law 552 = .ok (.aload_n 2, 1) := dk_44 (dk_at dksL_law_17 19 rfl rfl)
theorem dL_law_553 : decode cL_law 553 = .ok (.invokevirtual 116, 3) := dk_182 0 116 (dk_at dksL_law_17 20 rfl rfl)
theorem dL_law_556 : decode cL_law 556 = .ok (.iload 6, 2) := dk_21 6 (dk_at dksL_law_18 0 rfl rfl)
theorem dL_law_558 : decode cL_law 558 = .ok (.if_icmp .eq 5, 3) := dk_159 0 5 (dk_at dksL_law_18 2 rfl rfl)
theorem dL_law_561 : decode cL_law 561 = .ok (.iconst 0, 1) := dk_3 (dk_at dksL_law_18 5 rfl rfl)
theorem dL_law_562 : decode cL_law 562 = .ok (.ireturn, 1) := dk_172 (dk_at dksL_law_18 6 rfl rfl)
theorem dL_law_563 : decode cL_law 563 = .ok (.iload 6, 2) := dk_21 6 (dk_at dksL_law_18 7 rfl rfl)
theorem dL_law_565 : decode cL_law 565 = .ok (.ifCond .ne 15, 3) := dk_154 0 15 (dk_at dksL_law_18 9 rfl rfl)
theorem dL_law_568 : decode cL_law 568 = .ok (.aload_n 3, 1) := dk_45 (dk_at dksL_law_18 12 rfl rfl)
theorem dL_law_569 : decode cL_law 569 = .ok (.iconst 0, 1) := dk_3 (dk_at dksL_law_18 13 rfl rfl)
theorem dL_law_570 : decode cL_law 570 = .ok (.laload, 1) := dk_47 (dk_at dksL_law_18 14 rfl rfl)
theorem dL_law_571 : decode cL_law 571 = .ok (.iload 7, 2) := dk_21 7 (dk_at dksL_law_18 15 rfl rfl)
theorem dL_law_573 : decode cL_law 573 = .ok (.i2l, 1) := dk_133 (dk_at dksL_law_18 17 rfl rfl)
theorem dL_law_574 : decode cL_law 574 = .ok (.lcmp, 1) := dk_148 (dk_at dksL_law_18 18 rfl rfl)
theorem dL_law_575 : decode cL_law 575 = .ok (.ifCond .eq 5, 3) := dk_153 0 5 (dk_at dksL_law_18 19 rfl rfl)
theorem dL_law_578 : decode cL_law 578 = .ok (.iconst 0, 1) := dk_3 (dk_at dksL_law_18 22 rfl rfl)
theorem dL_law_579 : decode cL_law 579 = .ok (.ireturn, 1) := dk_172 (dk_at dksL_law_18 23 rfl rfl)
theorem dL_law_580 : decode cL_law 580 = .ok (.goto 1352, 3) := dk_167 5 72 (dk_at dksL_law_19 0 rfl rfl)
theorem dL_law_583 : decode cL_law 583 = .ok (.aload_n 1, 1) := dk_43 (dk_at dksL_law_19 3 rfl rfl)
theorem dL_law_584 : decode cL_law 584 = .ok (.aload_n 0, 1) := dk_42 (dk_at dksL_law_19 4 rfl rfl)
theorem dL_law_585 : decode cL_law 585 = .ok (.iload 5, 2) := dk_21 5 (dk_at dksL_law_19 5 rfl rfl)
theorem dL_law_587 : decode cL_law 587 = .ok (.iconst 1, 1) := dk_4 (dk_at dksL_law_19 7 rfl rfl)
theorem dL_law_588 : decode cL_law 588 = .ok (.iadd, 1) := dk_96 (dk_at dksL_law_19 8 rfl rfl)
theorem dL_law_589 : decode cL_law 589 = .ok (.iaload, 1) := dk_46 (dk_at dksL_law_19 9 rfl rfl)
theorem dL_law_590 : decode cL_law 590 = .ok (.aload_n 0, 1) := dk_42 (dk_at dksL_law_19 10 rfl rfl)
theorem dL_law_591 : decode cL_law 591 = .ok (.iload 5, 2) := dk_21 5 (dk_at dksL_law_19 11 rfl rfl)
theorem dL_law_593 : decode cL_law 593 = .ok (.iconst 2, 1) := dk_5 (dk_at dksL_law_19 13 rfl rfl)
theorem dL_law_594 : decode cL_law 594 = .ok (.iadd, 1) := dk_96 (dk_at dksL_law_19 14 rfl rfl)
theorem dL_law_595 : decode cL_law 595 = .ok (.iaload, 1) := dk_46 (dk_at dksL_law_19 15 rfl rfl)
theorem dL_law_596 : decode cL_law 596 = .ok (.aload_n 3, 1) := dk_45 (dk_at dksL_law_19 16 rfl rfl)
theorem dL_law_597 : decode cL_law 597 = .ok (.invokestatic 147, 3) := dk_184 0 147 (dk_at dksL_law_19 17 rfl rfl)
theorem dL_law_600 : decode cL_law 600 = .ok (.istore 6, 2) := dk_54 6 (dk_at dksL_law_19 20 rfl rfl)
theorem dL_law_602 : decode cL_law 602 = .ok (.aload_n 2, 1) := dk_44 (dk_at dksL_law_19 22 rfl rfl)
theorem dL_law_603 : decode cL_law 603 = .ok (.aload_n 0, 1) := dk_42 (dk_at dksL_law_19 23 rfl rfl)
theorem dL_law_604 : decode cL_law 604 = .ok (.iload 5, 2) := dk_21 5 (dk_at dksL_law_20 0 rfl rfl)
theorem dL_law_606 : decode cL_law 606 = .ok (.iconst 1, 1) := dk_4 (dk_at dksL_law_20 2 rfl rfl)
theorem dL_law_607 : decode cL_law 607 = .ok (.iadd, 1) := dk_96 (dk_at dksL_law_20 3 rfl rfl)
theorem dL_law_608 : decode cL_law 608 = .ok (.iaload, 1) := dk_46 (dk_at dksL_law_20 4 rfl rfl)
theorem dL_law_609 : decode cL_law 609 = .ok (.aload_n 0, 1) := dk_42 (dk_at dksL_law_20 5 rfl rfl)
theorem dL_law_610 : decode cL_law 610 = .ok (.iload 5, 2) := dk_21 5 (dk_at dksL_law_20 6 rfl rfl)
theorem dL_law_612 : decode cL_law 612 = .ok (.iconst 2, 1) := dk_5 (dk_at dksL_law_20 8 rfl rfl)
theorem dL_law_613 : decode cL_law 613 = .ok (.iadd, 1) := dk_96 (dk_at dksL_law_20 9 rfl rfl)
theorem dL_law_614 : decode cL_law 614 = .ok (.iaload, 1) := dk_46 (dk_at dksL_law_20 10 rfl rfl)
theorem dL_law_615 : decode cL_law 615 = .ok (.invokevirtual 150, 3) := dk_182 0 150 (dk_at dksL_law_20 11 rfl rfl)
theorem dL_law_618 : decode cL_law 618 = .ok (.istore 7, 2) := dk_54 7 (dk_at dksL_law_20 14 rfl rfl)
theorem dL_law_620 : decode cL_law 620 = .ok (.aload_n 2, 1) := dk_44 (dk_at dksL_law_20 16 rfl rfl)
theorem dL_law_621 : decode cL_law 621 = .ok (.invokevirtual 116, 3) := dk_182 0 116 (dk_at dksL_law_20 17 rfl rfl)
theorem dL_law_624 : decode cL_law 624 = .ok (.iload 6, 2) := dk_21 6 (dk_at dksL_law_20 20 rfl rfl)
theorem dL_law_626 : decode cL_law 626 = .ok (.if_icmp .eq 5, 3) := dk_159 0 5 (dk_at dksL_law_21 0 rfl rfl)
theorem dL_law_629 : decode cL_law 629 = .ok (.iconst 0, 1) := dk_3 (dk_at dksL_law_21 3 rfl rfl)
theorem dL_law_630 : decode cL_law 630 = .ok (.ireturn, 1) := dk_172 (dk_at dksL_law_21 4 rfl rfl)
theorem dL_law_631 : decode cL_law 631 = .ok (.iload 6, 2) := dk_21 6 (dk_at dksL_law_21 5 rfl rfl)
theorem dL_law_633 : decode cL_law 633 = .ok (.ifCond .ne 15, 3) := dk_154 0 15 (dk_at dksL_law_21 7 rfl rfl)
theorem dL_law_636 : decode cL_law 636 = .ok (.aload_n 3, 1) := dk_45 (dk_at dksL_law_21 10 rfl rfl)
theorem dL_law_637 : decode cL_law 637 = .ok (.iconst 0, 1) := dk_3 (dk_at dksL_law_21 11 rfl rfl)
theorem dL_law_638 : decode cL_law 638 = .ok (.laload, 1) := dk_47 (dk_at dksL_law_21 12 rfl rfl)
theorem dL_law_639 : decode cL_law 639 = .ok (.iload 7, 2) := dk_21 7 (dk_at dksL_law_21 13 rfl rfl)
theorem dL_law_641 : decode cL_law 641 = .ok (.i2l, 1) := dk_133 (dk_at dksL_law_21 15 rfl rfl)
theorem dL_law_642 : decode cL_law 642 = .ok (.lcmp, 1) := dk_148 (dk_at dksL_law_21 16 rfl rfl)
theorem dL_law_643 : decode cL_law 643 = .ok (.ifCond .eq 5, 3) := dk_153 0 5 (dk_at dksL_law_21 17 rfl rfl)
theorem dL_law_646 : decode cL_law 646 = .ok (.iconst 0, 1) := dk_3 (dk_at dksL_law_21 20 rfl rfl)
theorem dL_law_647 : decode cL_law 647 = .ok (.ireturn, 1) := dk_172 (dk_at dksL_law_21 21 rfl rfl)
theorem dL_law_648 : decode cL_law 648 = .ok (.goto 1284, 3) := dk_167 5 4 (dk_at dksL_law_22 0 rfl rfl)
theorem dL_law_651 : decode cL_law 651 = .ok (.aload_n 1, 1) := dk_43 (dk_at dksL_law_22 3 rfl rfl)
theorem dL_law_652 : decode cL_law 652 = .ok (.aload_n 0, 1) := dk_42 (dk_at dksL_law_22 4 rfl rfl)
theorem dL_law_653 : decode cL_law 653 = .ok (.iload 5, 2) := dk_21 5 (dk_at dksL_law_22 5 rfl rfl)
theorem dL_law_655 : decode cL_law 655 = .ok (.iconst 1, 1) := dk_4 (dk_at dksL_law_22 7 rfl rfl)
theorem dL_law_656 : decode cL_law 656 = .ok (.iadd, 1) := dk_96 (dk_at dksL_law_22 8 rfl rfl)
theorem dL_law_657 : decode cL_law 657 = .ok (.iaload, 1) := dk_46 (dk_at dksL_law_22 9 rfl rfl)
theorem dL_law_658 : decode cL_law 658 = .ok (.aload_n 0, 1) := dk_42 (dk_at dksL_law_22 10 rfl rfl)
theorem dL_law_659 : decode cL_law 659 = .ok (.iload 5, 2) := dk_21 5 (dk_at dksL_law_22 11 rfl rfl)
theorem dL_law_661 : decode cL_law 661 = .ok (.iconst 2, 1) := dk_5 (dk_at dksL_law_22 13 rfl rfl)
theorem dL_law_662 : decode cL_law 662 = .ok (.iadd, 1) := dk_96 (dk_at dksL_law_22 14 rfl rfl)
theorem dL_law_663 : decode cL_law 663 = .ok (.iaload, 1) := dk_46 (dk_at dksL_law_22 15 rfl rfl)
theorem dL_law_664 : decode cL_law 664 = .ok (.aload_n 0, 1) := dk_42 (dk_at dksL_law_22 16 rfl rfl)
theorem dL_law_665 : decode cL_law 665 = .ok (.iload 5, 2) := dk_21 5 (dk_at dksL_law_22 17 rfl rfl)
theorem dL_law_667 : decode cL_law 667 = .ok (.iconst 3, 1) := dk_6 (dk_at dksL_law_22 19 rfl rfl)
theorem dL_law_668 : decode cL_law 668 = .ok (.iadd, 1) := dk_96 (dk_at dksL_law_22 20 rfl rfl)
theorem dL_law_669 : decode cL_law 669 = .ok (.iaload, 1) := dk_46 (dk_at dksL_law_22 21 rfl rfl)
theorem dL_law_670 : decode cL_law 670 = .ok (.aload_n 3, 1) := dk_45 (dk_at dksL_law_22 22 rfl rfl)
theorem dL_law_671 : decode cL_law 671 = .ok (.invokestatic 151, 3) := dk_184 0 151 (dk_at dksL_law_23 0 rfl rfl)
theorem dL_law_674 : decode cL_law 674 = .ok (.istore 6, 2) := dk_54 6 (dk_at dksL_law_23 3 rfl rfl)
theorem dL_law_676 : decode cL_law 676 = .ok (.aload_n 2, 1) := dk_44 (dk_at dksL_law_23 5 rfl rfl)
theorem dL_law_677 : decode cL_law 677 = .ok (.aload_n 0, 1) := dk_42 (dk_at dksL_law_23 6 rfl rfl)
theorem dL_law_678 : decode cL_law 678 = .ok (.iload 5, 2) := dk_21 5 (dk_at dksL_law_23 7 rfl rfl)
theorem dL_law_680 : decode cL_law 680 = .ok (.iconst 1, 1) := dk_4 (dk_at dksL_law_23 9 rfl rfl)
theorem dL_law_681 : decode cL_law 681 = .ok (.iadd, 1) := dk_96 (dk_at dksL_law_23 10 rfl rfl)
theorem dL_law_682 : decode cL_law 682 = .ok (.iaload, 1) := dk_46 (dk_at dksL_law_23 11 rfl rfl)
theorem dL_law_683 : decode cL_law 683 = .ok (.aload_n 0, 1) := dk_42 (dk_at dksL_law_23 12 rfl rfl)
theorem dL_law_684 : decode cL_law 684 = .ok (.iload 5, 2) := dk_21 5 (dk_at dksL_law_23 13 rfl rfl)
theorem dL_law_686 : decode cL_law 686 = .ok (.iconst 2, 1) := dk_5 (dk_at dksL_law_23 15 rfl rfl)
theorem dL_law_687 : decode cL_law 687 = .ok (.iadd, 1) := dk_96 (dk_at dksL_law_23 16 rfl rfl)
theorem dL_law_688 : decode cL_law 688 = .ok (.iaload, 1) := dk_46 (dk_at dksL_law_23 17 rfl rfl)
theorem dL_law_689 : decode cL_law 689 = .ok (.aload_n 0, 1) := dk_42 (dk_at dksL_law_23 18 rfl rfl)
theorem dL_law_690 : decode cL_law 690 = .ok (.iload 5, 2) := dk_21 5 (dk_at dksL_law_23 19 rfl rfl)
theorem dL_law_692 : decode cL_law 692 = .ok (.iconst 3, 1) := dk_6 (dk_at dksL_law_23 21 rfl rfl)
theorem dL_law_693 : decode cL_law 693 = .ok (.iadd, 1) := dk_96 (dk_at dksL_law_23 22 rfl rfl)
theorem dL_law_694 : decode cL_law 694 = .ok (.iaload, 1) := dk_46 (dk_at dksL_law_23 23 rfl rfl)
theorem dL_law_695 : decode cL_law 695 = .ok (.invokevirtual 154, 3) := dk_182 0 154 (dk_at dksL_law_24 0 rfl rfl)
theorem dL_law_698 : decode cL_law 698 = .ok (.istore 7, 2) := dk_54 7 (dk_at dksL_law_24 3 rfl rfl)
theorem dL_law_700 : decode cL_law 700 = .ok (.aload_n 2, 1) := dk_44 (dk_at dksL_law_24 5 rfl rfl)
theorem dL_law_701 : decode cL_law 701 = .ok (.invokevirtual 116, 3) := dk_182 0 116 (dk_at dksL_law_24 6 rfl rfl)
theorem dL_law_704 : decode cL_law 704 = .ok (.iload 6, 2) := dk_21 6 (dk_at dksL_law_24 9 rfl rfl)
theorem dL_law_706 : decode cL_law 706 = .ok (.if_icmp .eq 5, 3) := dk_159 0 5 (dk_at dksL_law_24 11 rfl rfl)
theorem dL_law_709 : decode cL_law 709 = .ok (.iconst 0, 1) := dk_3 (dk_at dksL_law_24 14 rfl rfl)
theorem dL_law_710 : decode cL_law 710 = .ok (.ireturn, 1) := dk_172 (dk_at dksL_law_24 15 rfl rfl)
theorem dL_law_711 : decode cL_law 711 = .ok (.iload 6, 2) := dk_21 6 (dk_at dksL_law_24 16 rfl rfl)
theorem dL_law_713 : decode cL_law 713 = .ok (.ifCond .ne 15, 3) := dk_154 0 15 (dk_at dksL_law_24 18 rfl rfl)
theorem dL_law_716 : decode cL_law 716 = .ok (.aload_n 3, 1) := dk_45 (dk_at dksL_law_24 21 rfl rfl)
theorem dL_law_717 : decode cL_law 717 = .ok (.iconst 0, 1) := dk_3 (dk_at dksL_law_24 22 rfl rfl)
theorem dL_law_718 : decode cL_law 718 = .ok (.laload, 1) := dk_47 (dk_at dksL_law_24 23 rfl rfl)
theorem dL_law_719 : decode cL_law 719 = .ok (.iload 7, 2) := dk_21 7 (dk_at dksL_law_25 0 rfl rfl)
theorem dL_law_721 : decode cL_law 721 = .ok (.i2l, 1) := dk_133 (dk_at dksL_law_25 2 rfl rfl)
theorem dL_law_722 : decode cL_law 722 = .ok (.lcmp, 1) := dk_148 (dk_at dksL_law_25 3 rfl rfl)
theorem dL_law_723 : decode cL_law 723 = .ok (.ifCond .eq 5, 3) := dk_153 0 5 (dk_at dksL_law_25 4 rfl rfl)
theorem dL_law_726 : decode cL_law 726 = .ok (.iconst 0, 1) := dk_3 (dk_at dksL_law_25 7 rfl rfl)
theorem dL_law_727 : decode cL_law 727 = .ok (.ireturn, 1) := dk_172 (dk_at dksL_law_25 8 rfl rfl)
theorem dL_law_728 : decode cL_law 728 = .ok (.goto 1204, 3) := dk_167 4 180 (dk_at dksL_law_25 9 rfl rfl)
theorem dL_law_731 : decode cL_law 731 = .ok (.aload_n 1, 1) := dk_43 (dk_at dksL_law_25 12 rfl rfl)
theorem dL_law_732 : decode cL_law 732 = .ok (.aload_n 0, 1) := dk_42 (dk_at dksL_law_25 13 rfl rfl)
theorem dL_law_733 : decode cL_law 733 = .ok (.iload 5, 2) := dk_21 5 (dk_at dksL_law_25 14 rfl rfl)
theorem dL_law_735 : decode cL_law 735 = .ok (.iconst 1, 1) := dk_4 (dk_at dksL_law_25 16 rfl rfl)
theorem dL_law_736 : decode cL_law 736 = .ok (.iadd, 1) := dk_96 (dk_at dksL_law_25 17 rfl rfl)
theorem dL_law_737 : decode cL_law 737 = .ok (.iaload, 1) := dk_46 (dk_at dksL_law_25 18 rfl rfl)
theorem dL_law_738 : decode cL_law 738 = .ok (.aload_n 3, 1) := dk_45 (dk_at dksL_law_25 19 rfl rfl)
theorem dL_law_739 : decode cL_law 739 = .ok (.invokestatic 155, 3) := dk_184 0 155 (dk_at dksL_law_25 20 rfl rfl)
theorem dL_law_742 : decode cL_law 742 = .ok (.istore 6, 2) := dk_54 6 (dk_at dksL_law_26 0 rfl rfl)
theorem dL_law_744 : decode cL_law 744 = .ok (.aload_n 2, 1) := dk_44 (dk_at dksL_law_26 2 rfl rfl)
theorem dL_law_745 : decode cL_law 745 = .ok (.aload_n 0, 1) := dk_42 (dk_at dksL_law_26 3 rfl rfl)
theorem dL_law_746 : decode cL_law 746 = .ok (.iload 5, 2) := dk_21 5 (dk_at dksL_law_26 4 rfl rfl)
theorem dL_law_748 : decode cL_law 748 = .ok (.iconst 1, 1) := dk_4 (dk_at dksL_law_26 6 rfl rfl)
theorem dL_law_749 : decode cL_law 749 = .ok (.iadd, 1) := dk_96 (dk_at dksL_law_26 7 rfl rfl)
theorem dL_law_750 : decode cL_law 750 = .ok (.iaload, 1) := dk_46 (dk_at dksL_law_26 8 rfl rfl)
theorem dL_law_751 : decode cL_law 751 = .ok (.invokevirtual 157, 3) := dk_182 0 157 (dk_at dksL_law_26 9 rfl rfl)
theorem dL_law_754 : decode cL_law 754 = .ok (.lstore 7, 2) := dk_55 7 (dk_at dksL_law_26 12 rfl rfl)
theorem dL_law_756 : decode cL_law 756 = .ok (.aload_n 2, 1) := dk_44 (dk_at dksL_law_26 14 rfl rfl)
theorem dL_law_757 : decode cL_law 757 = .ok (.invokevirtual 116, 3) := dk_182 0 116 (dk_at dksL_law_26 15 rfl rfl)
theorem dL_law_760 : decode cL_law 760 = .ok (.iload 6, 2) := dk_21 6 (dk_at dksL_law_26 18 rfl rfl)
theorem dL_law_762 : decode cL_law 762 = .ok (.if_icmp .eq 5, 3) := dk_159 0 5 (dk_at dksL_law_26 20 rfl rfl)
theorem dL_law_765 : decode cL_law 765 = .ok (.iconst 0, 1) := dk_3 (dk_at dksL_law_26 23 rfl rfl)
theorem dL_law_766 : decode cL_law 766 = .ok (.ireturn, 1) := dk_172 (dk_at dksL_law_27 0 rfl rfl)
theorem dL_law_767 : decode cL_law 767 = .ok (.iload 6, 2) := dk_21 6 (dk_at dksL_law_27 1 rfl rfl)
theorem dL_law_769 : decode cL_law 769 = .ok (.ifCond .ne 14, 3) := dk_154 0 14 (dk_at dksL_law_27 3 rfl rfl)
theorem dL_law_772 : decode cL_law 772 = .ok (.aload_n 3, 1) := dk_45 (dk_at dksL_law_27 6 rfl rfl)
theorem dL_law_773 : decode cL_law 773 = .ok (.iconst 0, 1) := dk_3 (dk_at dksL_law_27 7 rfl rfl)
theorem dL_law_774 : decode cL_law 774 = .ok (.laload, 1) := dk_47 (dk_at dksL_law_27 8 rfl rfl)
theorem dL_law_775 : decode cL_law 775 = .ok (.lload 7, 2) := dk_22 7 (dk_at dksL_law_27 9 rfl rfl)
theorem dL_law_777 : decode cL_law 777 = .ok (.lcmp, 1) := dk_148 (dk_at dksL_law_27 11 rfl rfl)
theorem dL_law_778 : decode cL_law 778 = .ok (.ifCond .eq 5, 3) := dk_153 0 5 (dk_at dksL_law_27 12 rfl rfl)
theorem dL_law_781 : decode cL_law 781 = .ok (.iconst 0, 1) := dk_3 (dk_at dksL_law_27 15 rfl rfl)
theorem dL_law_782 : decode cL_law 782 = .ok (.ireturn, 1) := dk_172 (dk_at dksL_law_27 16 rfl rfl)
theorem dL_law_783 : decode cL_law 783 = .ok (.goto 1149, 3) := dk_167 4 125 (dk_at dksL_law_27 17 rfl rfl)
theorem dL_law_786 : decode cL_law 786 = .ok (.aload_n 1, 1) := dk_43 (dk_at dksL_law_27 20 rfl rfl)
theorem dL_law_787 : decode cL_law 787 = .ok (.aload_n 0, 1) := dk_42 (dk_at dksL_law_27 21 rfl rfl)
theorem dL_law_788 : decode cL_law 788 = .ok (.iload 5, 2) := dk_21 5 (dk_at dksL_law_27 22 rfl rfl)
theorem dL_law_790 : decode cL_law 790 = .ok (.iconst 1, 1) := dk_4 (dk_at dksL_law_28 0 rfl rfl)
theorem dL_law_791 : decode cL_law 791 = .ok (.iadd, 1) := dk_96 (dk_at dksL_law_28 1 rfl rfl)
theorem dL_law_792 : decode cL_law 792 = .ok (.iaload, 1) := dk_46 (dk_at dksL_law_28 2 rfl rfl)
theorem dL_law_793 : decode cL_law 793 = .ok (.aload_n 0, 1) := dk_42 (dk_at dksL_law_28 3 rfl rfl)
theorem dL_law_794 : decode cL_law 794 = .ok (.iload 5, 2) := dk_21 5 (dk_at dksL_law_28 4 rfl rfl)
theorem dL_law_796 : decode cL_law 796 = .ok (.iconst 2, 1) := dk_5 (dk_at dksL_law_28 6 rfl rfl)
theorem dL_law_797 : decode cL_law 797 = .ok (.iadd, 1) := dk_96 (dk_at dksL_law_28 7 rfl rfl)
theorem dL_law_798 : decode cL_law 798 = .ok (.iaload, 1) := dk_46 (dk_at dksL_law_28 8 rfl rfl)
theorem dL_law_799 : decode cL_law 799 = .ok (.aload_n 3, 1) := dk_45 (dk_at dksL_law_28 9 rfl rfl)
theorem dL_law_800 : decode cL_law 800 = .ok (.invokestatic 158, 3) := dk_184 0 158 (dk_at dksL_law_28 10 rfl rfl)
theorem dL_law_803 : decode cL_law 803 = .ok (.istore 6, 2) := dk_54 6 (dk_at dksL_law_28 13 rfl rfl)
theorem dL_law_805 : decode cL_law 805 = .ok (.aload_n 2, 1) := dk_44 (dk_at dksL_law_28 15 rfl rfl)
theorem dL_law_806 : decode cL_law 806 = .ok (.aload_n 0, 1) := dk_42 (dk_at dksL_law_28 16 rfl rfl)
theorem dL_law_807 : decode cL_law 807 = .ok (.iload 5, 2) := dk_21 5 (dk_at dksL_law_28 17 rfl rfl)
theorem dL_law_809 : decode cL_law 809 = .ok (.iconst 1, 1) := dk_4 (dk_at dksL_law_28 19 rfl rfl)
theorem dL_law_810 : decode cL_law 810 = .ok (.iadd, 1) := dk_96 (dk_at dksL_law_28 20 rfl rfl)
theorem dL_law_811 : decode cL_law 811 = .ok (.iaload, 1) := dk_46 (dk_at dksL_law_28 21 rfl rfl)
theorem dL_law_812 : decode cL_law 812 = .ok (.aload_n 0, 1) := dk_42 (dk_at dksL_law_28 22 rfl rfl)
theorem dL_law_813 : decode cL_law 813 = .ok (.iload 5, 2) := dk_21 5 (dk_at dksL_law_29 0 rfl rfl)
theorem dL_law_815 : decode cL_law 815 = .ok (.iconst 2, 1) := dk_5 (dk_at dksL_law_29 2 rfl rfl)
theorem dL_law_816 : decode cL_law 816 = .ok (.iadd, 1) := dk_96 (dk_at dksL_law_29 3 rfl rfl)
theorem dL_law_817 : decode cL_law 817 = .ok (.iaload, 1) := dk_46 (dk_at dksL_law_29 4 rfl rfl)
theorem dL_law_818 : decode cL_law 818 = .ok (.invokevirtual 160, 3) := dk_182 0 160 (dk_at dksL_law_29 5 rfl rfl)
theorem dL_law_821 : decode cL_law 821 = .ok (.lstore 7, 2) := dk_55 7 (dk_at dksL_law_29 8 rfl rfl)
theorem dL_law_823 : decode cL_law 823 = .ok (.aload_n 2, 1) := dk_44 (dk_at dksL_law_29 10 rfl rfl)
theorem dL_law_824 : decode cL_law 824 = .ok (.invokevirtual 116, 3) := dk_182 0 116 (dk_at dksL_law_29 11 rfl rfl)
theorem dL_law_827 : decode cL_law 827 = .ok (.iload 6, 2) := dk_21 6 (dk_at dksL_law_29 14 rfl rfl)
theorem dL_law_829 : decode cL_law 829 = .ok (.if_icmp .eq 5, 3) := dk_159 0 5 (dk_at dksL_law_29 16 rfl rfl)
theorem dL_law_832 : decode cL_law 832 = .ok (.iconst 0, 1) := dk_3 (dk_at dksL_law_29 19 rfl rfl)
theorem dL_law_833 : decode cL_law 833 = .ok (.ireturn, 1) := dk_172 (dk_at dksL_law_29 20 rfl rfl)
theorem dL_law_834 : decode cL_law 834 = .ok (.iload 6, 2) := dk_21 6 (dk_at dksL_law_29 21 rfl rfl)
theorem dL_law_836 : decode cL_law 836 = .ok (.ifCond .ne 14, 3) := dk_154 0 14 (dk_at dksL_law_30 0 rfl rfl)
theorem dL_law_839 : decode cL_law 839 = .ok (.aload_n 3, 1) := dk_45 (dk_at dksL_law_30 3 rfl rfl)
theorem dL_law_840 : decode cL_law 840 = .ok (.iconst 0, 1) := dk_3 (dk_at dksL_law_30 4 rfl rfl)
theorem dL_law_841 : decode cL_law 841 = .ok (.laload, 1) := dk_47 (dk_at dksL_law_30 5 rfl rfl)
theorem dL_law_842 : decode cL_law 842 = .ok (.lload 7, 2) := dk_22 7 (dk_at dksL_law_30 6 rfl rfl)
theorem dL_law_844 : decode cL_law 844 = .ok (.lcmp, 1) := dk_148 (dk_at dksL_law_30 8 rfl rfl)
theorem dL_law_845 : decode cL_law 845 = .ok (.ifCond .eq 5, 3) := dk_153 0 5 (dk_at dksL_law_30 9 rfl rfl)
theorem dL_law_848 : decode cL_law 848 = .ok (.iconst 0, 1) := dk_3 (dk_at dksL_law_30 12 rfl rfl)
theorem dL_law_849 : decode cL_law 849 = .ok (.ireturn, 1) := dk_172 (dk_at dksL_law_30 13 rfl rfl)
theorem dL_law_850 : decode cL_law 850 = .ok (.goto 1082, 3) := dk_167 4 58 (dk_at dksL_law_30 14 rfl rfl)
theorem dL_law_853 : decode cL_law 853 = .ok (.aload_n 1, 1) := dk_43 (dk_at dksL_law_30 17 rfl rfl)
theorem dL_law_854 : decode cL_law 854 = .ok (.aload_n 0, 1) := dk_42 (dk_at dksL_law_30 18 rfl rfl)
theorem dL_law_855 : decode cL_law 855 = .ok (.iload 5, 2) := dk_21 5 (dk_at dksL_law_30 19 rfl rfl)
theorem dL_law_857 : decode cL_law 857 = .ok (.iconst 1, 1) := dk_4 (dk_at dksL_law_30 21 rfl rfl)
theorem dL_law_858 : decode cL_law 858 = .ok (.iadd, 1) := dk_96 (dk_at dksL_law_30 22 rfl rfl)
theorem dL_law_859 : decode cL_law 859 = .ok (.iaload, 1) := dk_46 (dk_at dksL_law_30 23 rfl rfl)
theorem dL_law_860 : decode cL_law 860 = .ok (.aload_n 0, 1) := dk_42 (dk_at dksL_law_31 0 rfl rfl)
theorem dL_law_861 : decode cL_law 861 = .ok (.iload 5, 2) := dk_21 5 (dk_at dksL_law_31 1 rfl rfl)
theorem dL_law_863 : decode cL_law 863 = .ok (.iconst 2, 1) := dk_5 (dk_at dksL_law_31 3 rfl rfl)
theorem dL_law_864 : decode cL_law 864 = .ok (.iadd, 1) := dk_96 (dk_at dksL_law_31 4 rfl rfl)
theorem dL_law_865 : decode cL_law 865 = .ok (.iaload, 1) := dk_46 (dk_at dksL_law_31 5 rfl rfl)
theorem dL_law_866 : decode cL_law 866 = .ok (.aload_n 3, 1) := dk_45 (dk_at dksL_law_31 6 rfl rfl)
theorem dL_law_867 : decode cL_law 867 = .ok (.invokestatic 161, 3) := dk_184 0 161 (dk_at dksL_law_31 7 rfl rfl)
theorem dL_law_870 : decode cL_law 870 = .ok (.istore 6, 2) := dk_54 6 (dk_at dksL_law_31 10 rfl rfl)
theorem dL_law_872 : decode cL_law 872 = .ok (.aload_n 2, 1) := dk_44 (dk_at dksL_law_31 12 rfl rfl)
theorem dL_law_873 : decode cL_law 873 = .ok (.aload_n 0, 1) := dk_42 (dk_at dksL_law_31 13 rfl rfl)
theorem dL_law_874 : decode cL_law 874 = .ok (.iload 5, 2) := dk_21 5 (dk_at dksL_law_31 14 rfl rfl)
theorem dL_law_876 : decode cL_law 876 = .ok (.iconst 1, 1) := dk_4 (dk_at dksL_law_31 16 rfl rfl)
theorem dL_law_877 : decode cL_law 877 = .ok (.iadd, 1) := dk_96 (dk_at dksL_law_31 17 rfl rfl)
theorem dL_law_878 : decode cL_law 878 = .ok (.iaload, 1) := dk_46 (dk_at dksL_law_31 18 rfl rfl)
theorem dL_law_879 : decode cL_law 879 = .ok (.aload_n 0, 1) := dk_42 (dk_at dksL_law_31 19 rfl rfl)
theorem dL_law_880 : decode cL_law 880 = .ok (.iload 5, 2) := dk_21 5 (dk_at dksL_law_31 20 rfl rfl)
theorem dL_law_882 : decode cL_law 882 = .ok (.iconst 2, 1) := dk_5 (dk_at dksL_law_31 22 rfl rfl)
theorem dL_law_883 : decode cL_law 883 = .ok (.iadd, 1) := dk_96 (dk_at dksL_law_31 23 rfl rfl)
theorem dL_law_884 : decode cL_law 884 = .ok (.iaload, 1) := dk_46 (dk_at dksL_law_32 0 rfl rfl)
theorem dL_law_885 : decode cL_law 885 = .ok (.invokevirtual 163, 3) := dk_182 0 163 (dk_at dksL_law_32 1 rfl rfl)
theorem dL_law_888 : decode cL_law 888 = .ok (.lstore 7, 2) := dk_55 7 (dk_at dksL_law_32 4 rfl rfl)
theorem dL_law_890 : decode cL_law 890 = .ok (.aload_n 2, 1) := dk_44 (dk_at dksL_law_32 6 rfl rfl)
theorem dL_law_891 : decode cL_law 891 = .ok (.invokevirtual 116, 3) := dk_182 0 116 (dk_at dksL_law_32 7 rfl rfl)
theorem dL_law_894 : decode cL_law 894 = .ok (.iload 6, 2) := dk_21 6 (dk_at dksL_law_32 10 rfl rfl)
theorem dL_law_896 : decode cL_law 896 = .ok (.if_icmp .eq 5, 3) := dk_159 0 5 (dk_at dksL_law_32 12 rfl rfl)
theorem dL_law_899 : decode cL_law 899 = .ok (.iconst 0, 1) := dk_3 (dk_at dksL_law_32 15 rfl rfl)
theorem dL_law_900 : decode cL_law 900 = .ok (.ireturn, 1) := dk_172 (dk_at dksL_law_32 16 rfl rfl)
theorem dL_law_901 : decode cL_law 901 = .ok (.iload 6, 2) := dk_21 6 (dk_at dksL_law_32 17 rfl rfl)
theorem dL_law_903 : decode cL_law 903 = .ok (.ifCond .ne 14, 3) := dk_154 0 14 (dk_at dksL_law_32 19 rfl rfl)
theorem dL_law_906 : decode cL_law 906 = .ok (.aload_n 3, 1) := dk_45 (dk_at dksL_law_32 22 rfl rfl)
theorem dL_law_907 : decode cL_law 907 = .ok (.iconst 0, 1) := dk_3 (dk_at dksL_law_32 23 rfl rfl)
theorem dL_law_908 : decode cL_law 908 = .ok (.laload, 1) := dk_47 (dk_at dksL_law_33 0 rfl rfl)
theorem dL_law_909 : decode cL_law 909 = .ok (.lload 7, 2) := dk_22 7 (dk_at dksL_law_33 1 rfl rfl)
theorem dL_law_911 : decode cL_law 911 = .ok (.lcmp, 1) := dk_148 (dk_at dksL_law_33 3 rfl rfl)
theorem dL_law_912 : decode cL_law 912 = .ok (.ifCond .eq 5, 3) := dk_153 0 5 (dk_at dksL_law_33 4 rfl rfl)
theorem dL_law_915 : decode cL_law 915 = .ok (.iconst 0, 1) := dk_3 (dk_at dksL_law_33 7 rfl rfl)
theorem dL_law_916 : decode cL_law 916 = .ok (.ireturn, 1) := dk_172 (dk_at dksL_law_33 8 rfl rfl)
theorem dL_law_917 : decode cL_law 917 = .ok (.goto 1015, 3) := dk_167 3 247 (dk_at dksL_law_33 9 rfl rfl)
theorem dL_law_920 : decode cL_law 920 = .ok (.aload_n 1, 1) := dk_43 (dk_at dksL_law_33 12 rfl rfl)
theorem dL_law_921 : decode cL_law 921 = .ok (.invokevirtual 164, 3) := dk_182 0 164 (dk_at dksL_law_33 13 rfl rfl)
theorem dL_law_924 : decode cL_law 924 = .ok (.aload_n 2, 1) := dk_44 (dk_at dksL_law_33 16 rfl rfl)
theorem dL_law_925 : decode cL_law 925 = .ok (.invokevirtual 167, 3) := dk_182 0 167 (dk_at dksL_law_33 17 rfl rfl)
theorem dL_law_928 : decode cL_law 928 = .ok (.if_icmp .eq 1004, 3) := dk_159 3 236 (dk_at dksL_law_33 20 rfl rfl)
theorem dL_law_931 : decode cL_law 931 = .ok (.iconst 0, 1) := dk_3 (dk_at dksL_law_33 23 rfl rfl)
theorem dL_law_932 : decode cL_law 932 = .ok (.ireturn, 1) := dk_172 (dk_at dksL_law_34 0 rfl rfl)
theorem dL_law_933 : decode cL_law 933 = .ok (.aload_n 1, 1) := dk_43 (dk_at dksL_law_34 1 rfl rfl)
theorem dL_law_934 : decode cL_law 934 = .ok (.aload_n 0, 1) := dk_42 (dk_at dksL_law_34 2 rfl rfl)
theorem dL_law_935 : decode cL_law 935 = .ok (.iload 5, 2) := dk_21 5 (dk_at dksL_law_34 3 rfl rfl)
theorem dL_law_937 : decode cL_law 937 = .ok (.iconst 1, 1) := dk_4 (dk_at dksL_law_34 5 rfl rfl)
theorem dL_law_938 : decode cL_law 938 = .ok (.iadd, 1) := dk_96 (dk_at dksL_law_34 6 rfl rfl)
theorem dL_law_939 : decode cL_law 939 = .ok (.iaload, 1) := dk_46 (dk_at dksL_law_34 7 rfl rfl)
theorem dL_law_940 : decode cL_law 940 = .ok (.aload_n 0, 1) := dk_42 (dk_at dksL_law_34 8 rfl rfl)
theorem dL_law_941 : decode cL_law 941 = .ok (.iload 5, 2) := dk_21 5 (dk_at dksL_law_34 9 rfl rfl)
theorem dL_law_943 : decode cL_law 943 = .ok (.iconst 2, 1) := dk_5 (dk_at dksL_law_34 11 rfl rfl)
theorem dL_law_944 : decode cL_law 944 = .ok (.iadd, 1) := dk_96 (dk_at dksL_law_34 12 rfl rfl)
theorem dL_law_945 : decode cL_law 945 = .ok (.iaload, 1) := dk_46 (dk_at dksL_law_34 13 rfl rfl)
theorem dL_law_946 : decode cL_law 946 = .ok (.aload_n 3, 1) := dk_45 (dk_at dksL_law_34 14 rfl rfl)
theorem dL_law_947 : decode cL_law 947 = .ok (.invokestatic 168, 3) := dk_184 0 168 (dk_at dksL_law_34 15 rfl rfl)
theorem dL_law_950 : decode cL_law 950 = .ok (.istore 6, 2) := dk_54 6 (dk_at dksL_law_34 18 rfl rfl)
theorem dL_law_952 : decode cL_law 952 = .ok (.aload_n 2, 1) := dk_44 (dk_at dksL_law_34 20 rfl rfl)
theorem dL_law_953 : decode cL_law 953 = .ok (.aload_n 0, 1) := dk_42 (dk_at dksL_law_34 21 rfl rfl)
theorem dL_law_954 : decode cL_law 954 = .ok (.iload 5, 2) := dk_21 5 (dk_at dksL_law_34 22 rfl rfl)
theorem dL_law_956 : decode cL_law 956 = .ok (.iconst 1, 1) := dk_4 (dk_at dksL_law_35 0 rfl rfl)
theorem dL_law_957 : decode cL_law 957 = .ok (.iadd, 1) := dk_96 (dk_at dksL_law_35 1 rfl rfl)
theorem dL_law_958 : decode cL_law 958 = .ok (.iaload, 1) := dk_46 (dk_at dksL_law_35 2 rfl rfl)
theorem dL_law_959 : decode cL_law 959 = .ok (.aload_n 0, 1) := dk_42 (dk_at dksL_law_35 3 rfl rfl)
theorem dL_law_960 : decode cL_law 960 = .ok (.iload 5, 2) := dk_21 5 (dk_at dksL_law_35 4 rfl rfl)
theorem dL_law_962 : decode cL_law 962 = .ok (.iconst 2, 1) := dk_5 (dk_at dksL_law_35 6 rfl rfl)
theorem dL_law_963 : decode cL_law 963 = .ok (.iadd, 1) := dk_96 (dk_at dksL_law_35 7 rfl rfl)
theorem dL_law_964 : decode cL_law 964 = .ok (.iaload, 1) := dk_46 (dk_at dksL_law_35 8 rfl rfl)
theorem dL_law_965 : decode cL_law 965 = .ok (.invokevirtual 170, 3) := dk_182 0 170 (dk_at dksL_law_35 9 rfl rfl)
theorem dL_law_968 : decode cL_law 968 = .ok (.istore 7, 2) := dk_54 7 (dk_at dksL_law_35 12 rfl rfl)
theorem dL_law_970 : decode cL_law 970 = .ok (.aload_n 2, 1) := dk_44 (dk_at dksL_law_35 14 rfl rfl)
theorem dL_law_971 : decode cL_law 971 = .ok (.invokevirtual 116, 3) := dk_182 0 116 (dk_at dksL_law_35 15 rfl rfl)
theorem dL_law_974 : decode cL_law 974 = .ok (.iload 6, 2) := dk_21 6 (dk_at dksL_law_35 18 rfl rfl)
theorem dL_law_976 : decode cL_law 976 = .ok (.if_icmp .eq 5, 3) := dk_159 0 5 (dk_at dksL_law_35 20 rfl rfl)
theorem dL_law_979 : decode cL_law 979 = .ok (.iconst 0, 1) := dk_3 (dk_at dksL_law_35 23 rfl rfl)
theorem dL_law_980 : decode cL_law 980 = .ok (.ireturn, 1) := dk_172 (dk_at dksL_law_36 0 rfl rfl)
theorem dL_law_981 : decode cL_law 981 = .ok (.iload 6, 2) := dk_21 6 (dk_at dksL_law_36 1 rfl rfl)
theorem dL_law_983 : decode cL_law 983 = .ok (.ifCond .ne 22, 3) := dk_154 0 22 (dk_at dksL_law_36 3 rfl rfl)
theorem dL_law_986 : decode cL_law 986 = .ok (.aload_n 3, 1) := dk_45 (dk_at dksL_law_36 6 rfl rfl)
theorem dL_law_987 : decode cL_law 987 = .ok (.iconst 0, 1) := dk_3 (dk_at dksL_law_36 7 rfl rfl)
theorem dL_law_988 : decode cL_law 988 = .ok (.laload, 1) := dk_47 (dk_at dksL_law_36 8 rfl rfl)
theorem dL_law_989 : decode cL_law 989 = .ok (.iload 7, 2) := dk_21 7 (dk_at dksL_law_36 9 rfl rfl)
theorem dL_law_991 : decode cL_law 991 = .ok (.ifCond .eq 7, 3) := dk_153 0 7 (dk_at dksL_law_36 11 rfl rfl)
theorem dL_law_994 : decode cL_law 994 = .ok (.lconst 1, 1) := dk_10 (dk_at dksL_law_36 14 rfl rfl)
theorem dL_law_995 : decode cL_law 995 = .ok (.goto 4, 3) := dk_167 0 4 (dk_at dksL_law_36 15 rfl rfl)
theorem dL_law_998 : decode cL_law 998 = .ok (.lconst 0, 1) := dk_9 (dk_at dksL_law_36 18 rfl rfl)
theorem dL_law_999 : decode cL_law 999 = .ok (.lcmp, 1) := dk_148 (dk_at dksL_law_36 19 rfl rfl)
theorem dL_law_1000 : decode cL_law 1000 = .ok (.ifCond .eq 5, 3) := dk_153 0 5 (dk_at dksL_law_36 20 rfl rfl)
theorem dL_law_1003 : decode cL_law 1003 = .ok (.iconst 0, 1) := dk_3 (dk_at dksL_law_36 23 rfl rfl)
theorem dL_law_1004 : decode cL_law 1004 = .ok (.ireturn, 1) := dk_172 (dk_at dksL_law_37 0 rfl rfl)
theorem dL_law_1005 : decode cL_law 1005 = .ok (.goto 927, 3) := dk_167 3 159 (dk_at dksL_law_37 1 rfl rfl)
theorem dL_law_1008 : decode cL_law 1008 = .ok (.aload_n 1, 1) := dk_43 (dk_at dksL_law_37 4 rfl rfl)
theorem dL_law_1009 : decode cL_law 1009 = .ok (.aload_n 0, 1) := dk_42 (dk_at dksL_law_37 5 rfl rfl)
theorem dL_law_1010 : decode cL_law 1010 = .ok (.iload 5, 2) := dk_21 5 (dk_at dksL_law_37 6 rfl rfl)
theorem dL_law_1012 : decode cL_law 1012 = .ok (.iconst 1, 1) := dk_4 (dk_at dksL_law_37 8 rfl rfl)
theorem dL_law_1013 : decode cL_law 1013 = .ok (.iadd, 1) := dk_96 (dk_at dksL_law_37 9 rfl rfl)
theorem dL_law_1014 : decode cL_law 1014 = .ok (.iaload, 1) := dk_46 (dk_at dksL_law_37 10 rfl rfl)
theorem dL_law_1015 : decode cL_law 1015 = .ok (.aload_n 3, 1) := dk_45 (dk_at dksL_law_37 11 rfl rfl)
theorem dL_law_1016 : decode cL_law 1016 = .ok (.invokestatic 171, 3) := dk_184 0 171 (dk_at dksL_law_37 12 rfl rfl)
theorem dL_law_1019 : decode cL_law 1019 = .ok (.istore 6, 2) := dk_54 6 (dk_at dksL_law_37 15 rfl rfl)
theorem dL_law_1021 : decode cL_law 1021 = .ok (.aload_n 2, 1) := dk_44 (dk_at dksL_law_37 17 rfl rfl)
theorem dL_law_1022 : decode cL_law 1022 = .ok (.aload_n 0, 1) := dk_42 (dk_at dksL_law_37 18 rfl rfl)
theorem dL_law_1023 : decode cL_law 1023 = .ok (.iload 5, 2) := dk_21 5 (dk_at dksL_law_37 19 rfl rfl)
theorem dL_law_1025 : decode cL_law 1025 = .ok (.iconst 1, 1) := dk_4 (dk_at dksL_law_37 21 rfl rfl)
theorem dL_law_1026 : decode cL_law 1026 = .ok (.iadd, 1) := dk_96 (dk_at dksL_law_37 22 rfl rfl)
theorem dL_law_1027 : decode cL_law 1027 = .ok (.iaload, 1) := dk_46 (dk_at dksL_law_37 23 rfl rfl)
theorem dL_law_1028 : decode cL_law 1028 = .ok (.invokevirtual 173, 3) := dk_182 0 173 (dk_at dksL_law_38 0 rfl rfl)
theorem dL_law_1031 : decode cL_law 1031 = .ok (.lstore 7, 2) := dk_55 7 (dk_at dksL_law_38 3 rfl rfl)
theorem dL_law_1033 : decode cL_law 1033 = .ok (.aload_n 2, 1) := dk_44 (dk_at dksL_law_38 5 rfl rfl)
theorem dL_law_1034 : decode cL_law 1034 = .ok (.invokevirtual 116, 3) := dk_182 0 116 (dk_at dksL_law_38 6 rfl rfl)
theorem dL_law_1037 : decode cL_law 1037 = .ok (.iload 6, 2) := dk_21 6 (dk_at dksL_law_38 9 rfl rfl)
theorem dL_law_1039 : decode cL_law 1039 = .ok (.if_icmp .eq 5, 3) := dk_159 0 5 (dk_at dksL_law_38 11 rfl rfl)
theorem dL_law_1042 : decode cL_law 1042 = .ok (.iconst 0, 1) := dk_3 (dk_at dksL_law_38 14 rfl rfl)
theorem dL_law_1043 : decode cL_law 1043 = .ok (.ireturn, 1) := dk_172 (dk_at dksL_law_38 15 rfl rfl)
theorem dL_law_1044 : decode cL_law 1044 = .ok (.iload 6, 2) := dk_21 6 (dk_at dksL_law_38 16 rfl rfl)
theorem dL_law_1046 : decode cL_law 1046 = .ok (.ifCond .ne 14, 3) := dk_154 0 14 (dk_at dksL_law_38 18 rfl rfl)
theorem dL_law_1049 : decode cL_law 1049 = .ok (.aload_n 3, 1) := dk_45 (dk_at dksL_law_38 21 rfl rfl)
theorem dL_law_1050 : decode cL_law 1050 = .ok (.iconst 0, 1) := dk_3 (dk_at dksL_law_38 22 rfl rfl)
theorem dL_law_1051 : decode cL_law 1051 = .ok (.laload, 1) := dk_47 (dk_at dksL_law_38 23 rfl rfl)
theorem dL_law_1052 : decode cL_law 1052 = .ok (.lload 7, 2) := dk_22 7 (dk_at dksL_law_39 0 rfl rfl)
theorem dL_law_1054 : decode cL_law 1054 = .ok (.lcmp, 1) := dk_148 (dk_at dksL_law_39 2 rfl rfl)
theorem dL_law_1055 : decode cL_law 1055 = .ok (.ifCond .eq 5, 3) := dk_153 0 5 (dk_at dksL_law_39 3 rfl rfl)
theorem dL_law_1058 : decode cL_law 1058 = .ok (.iconst 0, 1) := dk_3 (dk_at dksL_law_39 6 rfl rfl)
theorem dL_law_1059 : decode cL_law 1059 = .ok (.ireturn, 1) := dk_172 (dk_at dksL_law_39 7 rfl rfl)
theorem dL_law_1060 : decode cL_law 1060 = .ok (.goto 872, 3) := dk_167 3 104 (dk_at dksL_law_39 8 rfl rfl)
theorem dL_law_1063 : decode cL_law 1063 = .ok (.aload_n 1, 1) := dk_43 (dk_at dksL_law_39 11 rfl rfl)
theorem dL_law_1064 : decode cL_law 1064 = .ok (.invokevirtual 174, 3) := dk_182 0 174 (dk_at dksL_law_39 12 rfl rfl)
theorem dL_law_1067 : decode cL_law 1067 = .ok (.aload_n 2, 1) := dk_44 (dk_at dksL_law_39 15 rfl rfl)
theorem dL_law_1068 : decode cL_law 1068 = .ok (.invokevirtual 177, 3) := dk_182 0 177 (dk_at dksL_law_39 16 rfl rfl)
theorem dL_law_1071 : decode cL_law 1071 = .ok (.if_icmp .eq 861, 3) := dk_159 3 93 (dk_at dksL_law_39 19 rfl rfl)
theorem dL_law_1074 : decode cL_law 1074 = .ok (.iconst 0, 1) := dk_3 (dk_at dksL_law_39 22 rfl rfl)
theorem dL_law_1075 : decode cL_law 1075 = .ok (.ireturn, 1) := dk_172 (dk_at dksL_law_39 23 rfl rfl)
theorem dL_law_1076 : decode cL_law 1076 = .ok (.aload_n 1, 1) := dk_43 (dk_at dksL_law_40 0 rfl rfl)
theorem dL_law_1077 : decode cL_law 1077 = .ok (.aload_n 0, 1) := dk_42 (dk_at dksL_law_40 1 rfl rfl)
theorem dL_law_1078 : decode cL_law 1078 = .ok (.iload 5, 2) := dk_21 5 (dk_at dksL_law_40 2 rfl rfl)
theorem dL_law_1080 : decode cL_law 1080 = .ok (.iconst 1, 1) := dk_4 (dk_at dksL_law_40 4 rfl rfl)
theorem dL_law_1081 : decode cL_law 1081 = .ok (.iadd, 1) := dk_96 (dk_at dksL_law_40 5 rfl rfl)
theorem dL_law_1082 : decode cL_law 1082 = .ok (.iaload, 1) := dk_46 (dk_at dksL_law_40 6 rfl rfl)
theorem dL_law_1083 : decode cL_law 1083 = .ok (.aload_n 0, 1) := dk_42 (dk_at dksL_law_40 7 rfl rfl)
theorem dL_law_1084 : decode cL_law 1084 = .ok (.iload 5, 2) := dk_21 5 (dk_at dksL_law_40 8 rfl rfl)
theorem dL_law_1086 : decode cL_law 1086 = .ok (.iconst 2, 1) := dk_5 (dk_at dksL_law_40 10 rfl rfl)
theorem dL_law_1087 : decode cL_law 1087 = .ok (.iadd, 1) := dk_96 (dk_at dksL_law_40 11 rfl rfl)
theorem dL_law_1088 : decode cL_law 1088 = .ok (.iaload, 1) := dk_46 (dk_at dksL_law_40 12 rfl rfl)
theorem dL_law_1089 : decode cL_law 1089 = .ok (.aload_n 3, 1) := dk_45 (dk_at dksL_law_40 13 rfl rfl)
theorem dL_law_1090 : decode cL_law 1090 = .ok (.invokestatic 178, 3) := dk_184 0 178 (dk_at dksL_law_40 14 rfl rfl)
theorem dL_law_1093 : decode cL_law 1093 = .ok (.istore 6, 2) := dk_54 6 (dk_at dksL_law_40 17 rfl rfl)
theorem dL_law_1095 : decode cL_law 1095 = .ok (.aload_n 2, 1) := dk_44 (dk_at dksL_law_40 19 rfl rfl)
theorem dL_law_1096 : decode cL_law 1096 = .ok (.aload_n 0, 1) := dk_42 (dk_at dksL_law_40 20 rfl rfl)
theorem dL_law_1097 : decode cL_law 1097 = .ok (.iload 5, 2) := dk_21 5 (dk_at dksL_law_40 21 rfl rfl)
theorem dL_law_1099 : decode cL_law 1099 = .ok (.iconst 1, 1) := dk_4 (dk_at dksL_law_40 23 rfl rfl)
theorem dL_law_1100 : decode cL_law 1100 = .ok (.iadd, 1) := dk_96 (dk_at dksL_law_41 0 rfl rfl)
theorem dL_law_1101 : decode cL_law 1101 = .ok (.iaload, 1) := dk_46 (dk_at dksL_law_41 1 rfl rfl)
theorem dL_law_1102 : decode cL_law 1102 = .ok (.aload_n 0, 1) := dk_42 (dk_at dksL_law_41 2 rfl rfl)
theorem dL_law_1103 : decode cL_law 1103 = .ok (.iload 5, 2) := dk_21 5 (dk_at dksL_law_41 3 rfl rfl)
theorem dL_law_1105 : decode cL_law 1105 = .ok (.iconst 2, 1) := dk_5 (dk_at dksL_law_41 5 rfl rfl)
theorem dL_law_1106 : decode cL_law 1106 = .ok (.iadd, 1) := dk_96 (dk_at dksL_law_41 6 rfl rfl)
theorem dL_law_1107 : decode cL_law 1107 = .ok (.iaload, 1) := dk_46 (dk_at dksL_law_41 7 rfl rfl)
theorem dL_law_1108 : decode cL_law 1108 = .ok (.invokevirtual 180, 3) := dk_182 0 180 (dk_at dksL_law_41 8 rfl rfl)
theorem dL_law_1111 : decode cL_law 1111 = .ok (.istore 7, 2) := dk_54 7 (dk_at dksL_law_41 11 rfl rfl)
theorem dL_law_1113 : decode cL_law 1113 = .ok (.aload_n 2, 1) := dk_44 (dk_at dksL_law_41 13 rfl rfl)
theorem dL_law_1114 : decode cL_law 1114 = .ok (.invokevirtual 116, 3) := dk_182 0 116 (dk_at dksL_law_41 14 rfl rfl)
theorem dL_law_1117 : decode cL_law 1117 = .ok (.iload 6, 2) := dk_21 6 (dk_at dksL_law_41 17 rfl rfl)
theorem dL_law_1119 : decode cL_law 1119 = .ok (.if_icmp .eq 5, 3) := dk_159 0 5 (dk_at dksL_law_41 19 rfl rfl)
theorem dL_law_1122 : decode cL_law 1122 = .ok (.iconst 0, 1) := dk_3 (dk_at dksL_law_41 22 rfl rfl)
theorem dL_law_1123 : decode cL_law 1123 = .ok (.ireturn, 1) := dk_172 (dk_at dksL_law_41 23 rfl rfl)
theorem dL_law_1124 : decode cL_law 1124 = .ok (.iload 6, 2) := dk_21 6 (dk_at dksL_law_42 0 rfl rfl)
theorem dL_law_1126 : decode cL_law 1126 = .ok (.ifCond .ne 15, 3) := dk_154 0 15 (dk_at dksL_law_42 2 rfl rfl)
theorem dL_law_1129 : decode cL_law 1129 = .ok (.aload_n 3, 1) := dk_45 (dk_at dksL_law_42 5 rfl rfl)
theorem dL_law_1130 : decode cL_law 1130 = .ok (.iconst 0, 1) := dk_3 (dk_at dksL_law_42 6 rfl rfl)
theorem dL_law_1131 : decode cL_law 1131 = .ok (.laload, 1) := dk_47 (dk_at dksL_law_42 7 rfl rfl)
theorem dL_law_1132 : decode cL_law 1132 = .ok (.iload 7, 2) := dk_21 7 (dk_at dksL_law_42 8 rfl rfl)
theorem dL_law_1134 : decode cL_law 1134 = .ok (.i2l, 1) := dk_133 (dk_at dksL_law_42 10 rfl rfl)
theorem dL_law_1135 : decode cL_law 1135 = .ok (.lcmp, 1) := dk_148 (dk_at dksL_law_42 11 rfl rfl)
theorem dL_law_1136 : decode cL_law 1136 = .ok (.ifCond .eq 5, 3) := dk_153 0 5 (dk_at dksL_law_42 12 rfl rfl)
theorem dL_law_1139 : decode cL_law 1139 = .ok (.iconst 0, 1) := dk_3 (dk_at dksL_law_42 15 rfl rfl)
theorem dL_law_1140 : decode cL_law 1140 = .ok (.ireturn, 1) := dk_172 (dk_at dksL_law_42 16 rfl rfl)
theorem dL_law_1141 : decode cL_law 1141 = .ok (.goto 791, 3) := dk_167 3 23 (dk_at dksL_law_42 17 rfl rfl)
theorem dL_law_1144 : decode cL_law 1144 = .ok (.aload_n 1, 1) := dk_43 (dk_at dksL_law_42 20 rfl rfl)
theorem dL_law_1145 : decode cL_law 1145 = .ok (.aload_n 0, 1) := dk_42 (dk_at dksL_law_42 21 rfl rfl)
theorem dL_law_1146 : decode cL_law 1146 = .ok (.iload 5, 2) := dk_21 5 (dk_at dksL_law_42 22 rfl rfl)
theorem dL_law_1148 : decode cL_law 1148 = .ok (.iconst 1, 1) := dk_4 (dk_at dksL_law_43 0 rfl rfl)
theorem dL_law_1149 : decode cL_law 1149 = .ok (.iadd, 1) := dk_96 (dk_at dksL_law_43 1 rfl rfl)
theorem dL_law_1150 : decode cL_law 1150 = .ok (.iaload, 1) := dk_46 (dk_at dksL_law_43 2 rfl rfl)
theorem dL_law_1151 : decode cL_law 1151 = .ok (.aload_n 0, 1) := dk_42 (dk_at dksL_law_43 3 rfl rfl)
theorem dL_law_1152 : decode cL_law 1152 = .ok (.iload 5, 2) := dk_21 5 (dk_at dksL_law_43 4 rfl rfl)
theorem dL_law_1154 : decode cL_law 1154 = .ok (.iconst 2, 1) := dk_5 (dk_at dksL_law_43 6 rfl rfl)
theorem dL_law_1155 : decode cL_law 1155 = .ok (.iadd, 1) := dk_96 (dk_at dksL_law_43 7 rfl rfl)
theorem dL_law_1156 : decode cL_law 1156 = .ok (.iaload, 1) := dk_46 (dk_at dksL_law_43 8 rfl rfl)
theorem dL_law_1157 : decode cL_law 1157 = .ok (.aload_n 3, 1) := dk_45 (dk_at dksL_law_43 9 rfl rfl)
theorem dL_law_1158 : decode cL_law 1158 = .ok (.invokestatic 181, 3) := dk_184 0 181 (dk_at dksL_law_43 10 rfl rfl)
theorem dL_law_1161 : decode cL_law 1161 = .ok (.istore 6, 2) := dk_54 6 (dk_at dksL_law_43 13 rfl rfl)
theorem dL_law_1163 : decode cL_law 1163 = .ok (.aload_n 2, 1) := dk_44 (dk_at dksL_law_43 15 rfl rfl)
theorem dL_law_1164 : decode cL_law 1164 = .ok (.aload_n 0, 1) := dk_42 (dk_at dksL_law_43 16 rfl rfl)
theorem dL_law_1165 : decode cL_law 1165 = .ok (.iload 5, 2) := dk_21 5 (dk_at dksL_law_43 17 rfl rfl)
theorem dL_law_1167 : decode cL_law 1167 = .ok (.iconst 1, 1) := dk_4 (dk_at dksL_law_43 19 rfl rfl)
theorem dL_law_1168 : decode cL_law 1168 = .ok (.iadd, 1) := dk_96 (dk_at dksL_law_43 20 rfl rfl)
theorem dL_law_1169 : decode cL_law 1169 = .ok (.iaload, 1) := dk_46 (dk_at dksL_law_43 21 rfl rfl)
theorem dL_law_1170 : decode cL_law 1170 = .ok (.aload_n 0, 1) := dk_42 (dk_at dksL_law_43 22 rfl rfl)
theorem dL_law_1171 : decode cL_law 1171 = .ok (.iload 5, 2) := dk_21 5 (dk_at dksL_law_44 0 rfl rfl)
theorem dL_law_1173 : decode cL_law 1173 = .ok (.iconst 2, 1) := dk_5 (dk_at dksL_law_44 2 rfl rfl)
theorem dL_law_1174 : decode cL_law 1174 = .ok (.iadd, 1) := dk_96 (dk_at dksL_law_44 3 rfl rfl)
theorem dL_law_1175 : decode cL_law 1175 = .ok (.iaload, 1) := dk_46 (dk_at dksL_law_44 4 rfl rfl)
theorem dL_law_1176 : decode cL_law 1176 = .ok (.invokevirtual 183, 3) := dk_182 0 183 (dk_at dksL_law_44 5 rfl rfl)
theorem dL_law_1179 : decode cL_law 1179 = .ok (.istore 7, 2) := dk_54 7 (dk_at dksL_law_44 8 rfl rfl)
theorem dL_law_1181 : decode cL_law 1181 = .ok (.aload_n 2, 1) := dk_44 (dk_at dksL_law_44 10 rfl rfl)
theorem dL_law_1182 : decode cL_law 1182 = .ok (.invokevirtual 116, 3) := dk_182 0 116 (dk_at dksL_law_44 11 rfl rfl)
theorem dL_law_1185 : decode cL_law 1185 = .ok (.iload 6, 2) := dk_21 6 (dk_at dksL_law_44 14 rfl rfl)
theorem dL_law_1187 : decode cL_law 1187 = .ok (.if_icmp .eq 5, 3) := dk_159 0 5 (dk_at dksL_law_44 16 rfl rfl)
theorem dL_law_1190 : decode cL_law 1190 = .ok (.iconst 0, 1) := dk_3 (dk_at dksL_law_44 19 rfl rfl)
theorem dL_law_1191 : decode cL_law 1191 = .ok (.ireturn, 1) := dk_172 (dk_at dksL_law_44 20 rfl rfl)
theorem dL_law_1192 : decode cL_law 1192 = .ok (.iload 6, 2) := dk_21 6 (dk_at dksL_law_44 21 rfl rfl)
theorem dL_law_1194 : decode cL_law 1194 = .ok (.ifCond .ne 15, 3) := dk_154 0 15 (dk_at dksL_law_45 0 rfl rfl)
theorem dL_law_1197 : decode cL_law 1197 = .ok (.aload_n 3, 1) := dk_45 (dk_at dksL_law_45 3 rfl rfl)
theorem dL_law_1198 : decode cL_law 1198 = .ok (.iconst 0, 1) := dk_3 (dk_at dksL_law_45 4 rfl rfl)
theorem dL_law_1199 : decode cL_law 1199 = .ok (.laload, 1) := dk_47 (dk_at dksL_law_45 5 rfl rfl)
theorem dL_law_1200 : decode cL_law 1200 = .ok (.iload 7, 2) := dk_21 7 (dk_at dksL_law_45 6 rfl rfl)
theorem dL_law_1202 : decode cL_law 1202 = .ok (.i2l, 1) := dk_133 (dk_at dksL_law_45 8 rfl rfl)
theorem dL_law_1203 : decode cL_law 1203 = .ok (.lcmp, 1) := dk_148 (dk_at dksL_law_45 9 rfl rfl)
theorem dL_law_1204 : decode cL_law 1204 = .ok (.ifCond .eq 5, 3) := dk_153 0 5 (dk_at dksL_law_45 10 rfl rfl)
theorem dL_law_1207 : decode cL_law 1207 = .ok (.iconst 0, 1) := dk_3 (dk_at dksL_law_45 13 rfl rfl)
theorem dL_law_1208 : decode cL_law 1208 = .ok (.ireturn, 1) := dk_172 (dk_at dksL_law_45 14 rfl rfl)
theorem dL_law_1209 : decode cL_law 1209 = .ok (.goto 723, 3) := dk_167 2 211 (dk_at dksL_law_45 15 rfl rfl)
theorem dL_law_1212 : decode cL_law 1212 = .ok (.aload_n 1, 1) := dk_43 (dk_at dksL_law_45 18 rfl rfl)
theorem dL_law_1213 : decode cL_law 1213 = .ok (.invokevirtual 184, 3) := dk_182 0 184 (dk_at dksL_law_45 19 rfl rfl)
theorem dL_law_1216 : decode cL_law 1216 = .ok (.aload_n 2, 1) := dk_44 (dk_at dksL_law_45 22 rfl rfl)
theorem dL_law_1217 : decode cL_law 1217 = .ok (.invokevirtual 187, 3) := dk_182 0 187 (dk_at dksL_law_46 0 rfl rfl)
theorem dL_law_1220 : decode cL_law 1220 = .ok (.if_icmp .eq 712, 3) := dk_159 2 200 (dk_at dksL_law_46 3 rfl rfl)
theorem dL_law_1223 : decode cL_law 1223 = .ok (.iconst 0, 1) := dk_3 (dk_at dksL_law_46 6 rfl rfl)
theorem dL_law_1224 : decode cL_law 1224 = .ok (.ireturn, 1) := dk_172 (dk_at dksL_law_46 7 rfl rfl)
theorem dL_law_1225 : decode cL_law 1225 = .ok (.aload_n 1, 1) := dk_43 (dk_at dksL_law_46 8 rfl rfl)
theorem dL_law_1226 : decode cL_law 1226 = .ok (.aload_n 0, 1) := dk_42 (dk_at dksL_law_46 9 rfl rfl)
theorem dL_law_1227 : decode cL_law 1227 = .ok (.iload 5, 2) := dk_21 5 (dk_at dksL_law_46 10 rfl rfl)
theorem dL_law_1229 : decode cL_law 1229 = .ok (.iconst 1, 1) := dk_4 (dk_at dksL_law_46 12 rfl rfl)
theorem dL_law_1230 : decode cL_law 1230 = .ok (.iadd, 1) := dk_96 (dk_at dksL_law_46 13 rfl rfl)
theorem dL_law_1231 : decode cL_law 1231 = .ok (.iaload, 1) := dk_46 (dk_at dksL_law_46 14 rfl rfl)
theorem dL_law_1232 : decode cL_law 1232 = .ok (.aload_n 3, 1) := dk_45 (dk_at dksL_law_46 15 rfl rfl)
theorem dL_law_1233 : decode cL_law 1233 = .ok (.invokestatic 188, 3) := dk_184 0 188 (dk_at dksL_law_46 16 rfl rfl)
theorem dL_law_1236 : decode cL_law 1236 = .ok (.istore 6, 2) := dk_54 6 (dk_at dksL_law_46 19 rfl rfl)
theorem dL_law_1238 : decode cL_law 1238 = .ok (.aload_n 2, 1) := dk_44 (dk_at dksL_law_46 21 rfl rfl)
theorem dL_law_1239 : decode cL_law 1239 = .ok (.aload_n 0, 1) := dk_42 (dk_at dksL_law_46 22 rfl rfl)
theorem dL_law_1240 : decode cL_law 1240 = .ok (.iload 5, 2) := dk_21 5 (dk_at dksL_law_47 0 rfl rfl)
theorem dL_law_1242 : decode cL_law 1242 = .ok (.iconst 1, 1) := dk_4 (dk_at dksL_law_47 2 rfl rfl)
theorem dL_law_1243 : decode cL_law 1243 = .ok (.iadd, 1) := dk_96 (dk_at dksL_law_47 3 rfl rfl)
theorem dL_law_1244 : decode cL_law 1244 = .ok (.iaload, 1) := dk_46 (dk_at dksL_law_47 4 rfl rfl)
theorem dL_law_1245 : decode cL_law 1245 = .ok (.invokevirtual 190, 3) := dk_182 0 190 (dk_at dksL_law_47 5 rfl rfl)
theorem dL_law_1248 : decode cL_law 1248 = .ok (.lstore 7, 2) := dk_55 7 (dk_at dksL_law_47 8 rfl rfl)
theorem dL_law_1250 : decode cL_law 1250 = .ok (.aload_n 2, 1) := dk_44 (dk_at dksL_law_47 10 rfl rfl)
theorem dL_law_1251 : decode cL_law 1251 = .ok (.invokevirtual 116, 3) := dk_182 0 116 (dk_at dksL_law_47 11 rfl rfl)
theorem dL_law_1254 : decode cL_law 1254 = .ok (.iload 6, 2) := dk_21 6 (dk_at dksL_law_47 14 rfl rfl)
theorem dL_law_1256 : decode cL_law 1256 = .ok (.if_icmp .eq 5, 3) := dk_159 0 5 (dk_at dksL_law_47 16 rfl rfl)
theorem dL_law_1259 : decode cL_law 1259 = .ok (.iconst 0, 1) := dk_3 (dk_at dksL_law_47 19 rfl rfl)
theorem dL_law_1260 : decode cL_law 1260 = .ok (.ireturn, 1) := dk_172 (dk_at dksL_law_47 20 rfl rfl)
theorem dL_law_1261 : decode cL_law 1261 = .ok (.iload 6, 2) := dk_21 6 (dk_at dksL_law_47 21 rfl rfl)
theorem dL_law_1263 : decode cL_law 1263 = .ok (.ifCond .ne 14, 3) := dk_154 0 14 (dk_at dksL_law_48 0 rfl rfl)
theorem dL_law_1266 : decode cL_law 1266 = .ok (.aload_n 3, 1) := dk_45 (dk_at dksL_law_48 3 rfl rfl)
theorem dL_law_1267 : decode cL_law 1267 = .ok (.iconst 0, 1) := dk_3 (dk_at dksL_law_48 4 rfl rfl)
theorem dL_law_1268 : decode cL_law 1268 = .ok (.laload, 1) := dk_47 (dk_at dksL_law_48 5 rfl rfl)
theorem dL_law_1269 : decode cL_law 1269 = .ok (.lload 7, 2) := dk_22 7 (dk_at dksL_law_48 6 rfl rfl)
theorem dL_law_1271 : decode cL_law 1271 = .ok (.lcmp, 1) := dk_148 (dk_at dksL_law_48 8 rfl rfl)
theorem dL_law_1272 : decode cL_law 1272 = .ok (.ifCond .eq 5, 3) := dk_153 0 5 (dk_at dksL_law_48 9 rfl rfl)
theorem dL_law_1275 : decode cL_law 1275 = .ok (.iconst 0, 1) := dk_3 (dk_at dksL_law_48 12 rfl rfl)
theorem dL_law_1276 : decode cL_law 1276 = .ok (.ireturn, 1) := dk_172 (dk_at dksL_law_48 13 rfl rfl)
theorem dL_law_1277 : decode cL_law 1277 = .ok (.goto 655, 3) := dk_167 2 143 (dk_at dksL_law_48 14 rfl rfl)
theorem dL_law_1280 : decode cL_law 1280 = .ok (.aload_n 1, 1) := dk_43 (dk_at dksL_law_48 17 rfl rfl)
theorem dL_law_1281 : decode cL_law 1281 = .ok (.aload_n 0, 1) := dk_42 (dk_at dksL_law_48 18 rfl rfl)
theorem dL_law_1282 : decode cL_law 1282 = .ok (.iload 5, 2) := dk_21 5 (dk_at dksL_law_48 19 rfl rfl)
theorem dL_law_1284 : decode cL_law 1284 = .ok (.iconst 1, 1) := dk_4 (dk_at dksL_law_48 21 rfl rfl)
theorem dL_law_1285 : decode cL_law 1285 = .ok (.iadd, 1) := dk_96 (dk_at dksL_law_48 22 rfl rfl)
theorem dL_law_1286 : decode cL_law 1286 = .ok (.iaload, 1) := dk_46 (dk_at dksL_law_48 23 rfl rfl)
theorem dL_law_1287 : decode cL_law 1287 = .ok (.aload_n 0, 1) := dk_42 (dk_at dksL_law_49 0 rfl rfl)
theorem dL_law_1288 : decode cL_law 1288 = .ok (.iload 5, 2) := dk_21 5 (dk_at dksL_law_49 1 rfl rfl)
theorem dL_law_1290 : decode cL_law 1290 = .ok (.iconst 2, 1) := dk_5 (dk_at dksL_law_49 3 rfl rfl)
theorem dL_law_1291 : decode cL_law 1291 = .ok (.iadd, 1) := dk_96 (dk_at dksL_law_49 4 rfl rfl)
theorem dL_law_1292 : decode cL_law 1292 = .ok (.iaload, 1) := dk_46 (dk_at dksL_law_49 5 rfl rfl)
theorem dL_law_1293 : decode cL_law 1293 = .ok (.aload_n 3, 1) := dk_45 (dk_at dksL_law_49 6 rfl rfl)
theorem dL_law_1294 : decode cL_law 1294 = .ok (.invokestatic 191, 3) := dk_184 0 191 (dk_at dksL_law_49 7 rfl rfl)
theorem dL_law_1297 : decode cL_law 1297 = .ok (.istore 6, 2) := dk_54 6 (dk_at dksL_law_49 10 rfl rfl)
theorem dL_law_1299 : decode cL_law 1299 = .ok (.aload_n 2, 1) := dk_44 (dk_at dksL_law_49 12 rfl rfl)
theorem dL_law_1300 : decode cL_law 1300 = .ok (.aload_n 0, 1) := dk_42 (dk_at dksL_law_49 13 rfl rfl)
theorem dL_law_1301 : decode cL_law 1301 = .ok (.iload 5, 2) := dk_21 5 (dk_at dksL_law_49 14 rfl rfl)
theorem dL_law_1303 : decode cL_law 1303 = .ok (.iconst 1, 1) := dk_4 (dk_at dksL_law_49 16 rfl rfl)
theorem dL_law_1304 : decode cL_law 1304 = .ok (.iadd, 1) := dk_96 (dk_at dksL_law_49 17 rfl rfl)
theorem dL_law_1305 : decode cL_law 1305 = .ok (.iaload, 1) := dk_46 (dk_at dksL_law_49 18 rfl rfl)
theorem dL_law_1306 : decode cL_law 1306 = .ok (.aload_n 0, 1) := dk_42 (dk_at dksL_law_49 19 rfl rfl)
theorem dL_law_1307 : decode cL_law 1307 = .ok (.iload 5, 2) := dk_21 5 (dk_at dksL_law_49 20 rfl rfl)
theorem dL_law_1309 : decode cL_law 1309 = .ok (.iconst 2, 1) := dk_5 (dk_at dksL_law_49 22 rfl rfl)
theorem dL_law_1310 : decode cL_law 1310 = .ok (.iadd, 1) := dk_96 (dk_at dksL_law_49 23 rfl rfl)
theorem dL_law_1311 : decode cL_law 1311 = .ok (.iaload, 1) := dk_46 (dk_at dksL_law_50 0 rfl rfl)
theorem dL_law_1312 : decode cL_law 1312 = .ok (.invokevirtual 193, 3) := dk_182 0 193 (dk_at dksL_law_50 1 rfl rfl)
theorem dL_law_1315 : decode cL_law 1315 = .ok (.istore 7, 2) := dk_54 7 (dk_at dksL_law_50 4 rfl rfl)
theorem dL_law_1317 : decode cL_law 1317 = .ok (.aload_n 2, 1) := dk_44 (dk_at dksL_law_50 6 rfl rfl)
theorem dL_law_1318 : decode cL_law 1318 = .ok (.invokevirtual 116, 3) := dk_182 0 116 (dk_at dksL_law_50 7 rfl rfl)
theorem dL_law_1321 : decode cL_law 1321 = .ok (.iload 6, 2) := dk_21 6 (dk_at dksL_law_50 10 rfl rfl)
theorem dL_law_1323 : decode cL_law 1323 = .ok (.if_icmp .eq 5, 3) := dk_159 0 5 (dk_at dksL_law_50 12 rfl rfl)
theorem dL_law_1326 : decode cL_law 1326 = .ok (.iconst 0, 1) := dk_3 (dk_at dksL_law_50 15 rfl rfl)
theorem dL_law_1327 : decode cL_law 1327 = .ok (.ireturn, 1) := dk_172 (dk_at dksL_law_50 16 rfl rfl)
theorem dL_law_1328 : decode cL_law 1328 = .ok (.iload 6, 2) := dk_21 6 (dk_at dksL_law_50 17 rfl rfl)
theorem dL_law_1330 : decode cL_law 1330 = .ok (.ifCond .ne 22, 3) := dk_154 0 22 (dk_at dksL_law_50 19 rfl rfl)
theorem dL_law_1333 : decode cL_law 1333 = .ok (.aload_n 3, 1) := dk_45 (dk_at dksL_law_50 22 rfl rfl)
theorem dL_law_1334 : decode cL_law 1334 = .ok (.iconst 0, 1) := dk_3 (dk_at dksL_law_50 23 rfl rfl)
theorem dL_law_1335 : decode cL_law 1335 = .ok (.laload, 1) := dk_47 (dk_at dksL_law_51 0 rfl rfl)
theorem dL_law_1336 : decode cL_law 1336 = .ok (.iload 7, 2) := dk_21 7 (dk_at dksL_law_51 1 rfl rfl)
theorem dL_law_1338 : decode cL_law 1338 = .ok (.ifCond .eq 7, 3) := dk_153 0 7 (dk_at dksL_law_51 3 rfl rfl)
theorem dL_law_1341 : decode cL_law 1341 = .ok (.lconst 1, 1) := dk_10 (dk_at dksL_law_51 6 rfl rfl)
theorem dL_law_1342 : decode cL_law 1342 = .ok (.goto 4, 3) := dk_167 0 4 (dk_at dksL_law_51 7 rfl rfl)
theorem dL_law_1345 : decode cL_law 1345 = .ok (.lconst 0, 1) := dk_9 (dk_at dksL_law_51 10 rfl rfl)
theorem dL_law_1346 : decode cL_law 1346 = .ok (.lcmp, 1) := dk_148 (dk_at dksL_law_51 11 rfl rfl)
theorem dL_law_1347 : decode cL_law 1347 = .ok (.ifCond .eq 5, 3) := dk_153 0 5 (dk_at dksL_law_51 12 rfl rfl)
theorem dL_law_1350 : decode cL_law 1350 = .ok (.iconst 0, 1) := dk_3 (dk_at dksL_law_51 15 rfl rfl)
theorem dL_law_1351 : decode cL_law 1351 = .ok (.ireturn, 1) := dk_172 (dk_at dksL_law_51 16 rfl rfl)
theorem dL_law_1352 : decode cL_law 1352 = .ok (.goto 580, 3) := dk_167 2 68 (dk_at dksL_law_51 17 rfl rfl)
theorem dL_law_1355 : decode cL_law 1355 = .ok (.aload_n 1, 1) := dk_43 (dk_at dksL_law_51 20 rfl rfl)
theorem dL_law_1356 : decode cL_law 1356 = .ok (.invokevirtual 194, 3) := dk_182 0 194 (dk_at dksL_law_51 21 rfl rfl)
theorem dL_law_1359 : decode cL_law 1359 = .ok (.aload_n 2, 1) := dk_44 (dk_at dksL_law_52 0 rfl rfl)
theorem dL_law_1360 : decode cL_law 1360 = .ok (.invokevirtual 197, 3) := dk_182 0 197 (dk_at dksL_law_52 1 rfl rfl)
theorem dL_law_1363 : decode cL_law 1363 = .ok (.if_icmp .eq 569, 3) := dk_159 2 57 (dk_at dksL_law_52 4 rfl rfl)
theorem dL_law_1366 : decode cL_law 1366 = .ok (.iconst 0, 1) := dk_3 (dk_at dksL_law_52 7 rfl rfl)
theorem dL_law_1367 : decode cL_law 1367 = .ok (.ireturn, 1) := dk_172 (dk_at dksL_law_52 8 rfl rfl)
theorem dL_law_1368 : decode cL_law 1368 = .ok (.aload_n 1, 1) := dk_43 (dk_at dksL_law_52 9 rfl rfl)
theorem dL_law_1369 : decode cL_law 1369 = .ok (.aload_n 0, 1) := dk_42 (dk_at dksL_law_52 10 rfl rfl)
theorem dL_law_1370 : decode cL_law 1370 = .ok (.iload 5, 2) := dk_21 5 (dk_at dksL_law_52 11 rfl rfl)
theorem dL_law_1372 : decode cL_law 1372 = .ok (.iconst 1, 1) := dk_4 (dk_at dksL_law_52 13 rfl rfl)
theorem dL_law_1373 : decode cL_law 1373 = .ok (.iadd, 1) := dk_96 (dk_at dksL_law_52 14 rfl rfl)
theorem dL_law_1374 : decode cL_law 1374 = .ok (.iaload, 1) := dk_46 (dk_at dksL_law_52 15 rfl rfl)
theorem dL_law_1375 : decode cL_law 1375 = .ok (.aload_n 3, 1) := dk_45 (dk_at dksL_law_52 16 rfl rfl)
theorem dL_law_1376 : decode cL_law 1376 = .ok (.invokestatic 198, 3) := dk_184 0 198 (dk_at dksL_law_52 17 rfl rfl)
theorem dL_law_1379 : decode cL_law 1379 = .ok (.istore 6, 2) := dk_54 6 (dk_at dksL_law_52 20 rfl rfl)
theorem dL_law_1381 : decode cL_law 1381 = .ok (.aload_n 2, 1) := dk_44 (dk_at dksL_law_52 22 rfl rfl)
theorem dL_law_1382 : decode cL_law 1382 = .ok (.aload_n 0, 1) := dk_42 (dk_at dksL_law_52 23 rfl rfl)
theorem dL_law_1383 : decode cL_law 1383 = .ok (.iload 5, 2) := dk_21 5 (dk_at dksL_law_53 0 rfl rfl)
theorem dL_law_1385 : decode cL_law 1385 = .ok (.iconst 1, 1) := dk_4 (dk_at dksL_law_53 2 rfl rfl)
theorem dL_law_1386 : decode cL_law 1386 = .ok (.iadd, 1) := dk_96 (dk_at dksL_law_53 3 rfl rfl)
theorem dL_law_1387 : decode cL_law 1387 = .ok (.iaload, 1) := dk_46 (dk_at dksL_law_53 4 rfl rfl)
theorem dL_law_1388 : decode cL_law 1388 = .ok (.invokevirtual 200, 3) := dk_182 0 200 (dk_at dksL_law_53 5 rfl rfl)
theorem dL_law_1391 : decode cL_law 1391 = .ok (.lstore 7, 2) := dk_55 7 (dk_at dksL_law_53 8 rfl rfl)
theorem dL_law_1393 : decode cL_law 1393 = .ok (.aload_n 2, 1) := dk_44 (dk_at dksL_law_53 10 rfl rfl)
theorem dL_law_1394 : decode cL_law 1394 = .ok (.invokevirtual 116, 3) := dk_182 0 116 (dk_at dksL_law_53 11 rfl rfl)
theorem dL_law_1397 : decode cL_law 1397 = .ok (.iload 6, 2) := dk_21 6 (dk_at dksL_law_53 14 rfl rfl)
theorem dL_law_1399 : decode cL_law 1399 = .ok (.if_icmp .eq 5, 3) := dk_159 0 5 (dk_at dksL_law_53 16 rfl rfl)
theorem dL_law_1402 : decode cL_law 1402 = .ok (.iconst 0, 1) := dk_3 (dk_at dksL_law_53 19 rfl rfl)
theorem dL_law_1403 : decode cL_law 1403 = .ok (.ireturn, 1) := dk_172 (dk_at dksL_law_53 20 rfl rfl)
theorem dL_law_1404 : decode cL_law 1404 = .ok (.iload 6, 2) := dk_21 6 (dk_at dksL_law_53 21 rfl rfl)
theorem dL_law_1406 : decode cL_law 1406 = .ok (.ifCond .ne 14, 3) := dk_154 0 14 (dk_at dksL_law_54 0 rfl rfl)
theorem dL_law_1409 : decode cL_law 1409 = .ok (.aload_n 3, 1) := dk_45 (dk_at dksL_law_54 3 rfl rfl)
theorem dL_law_1410 : decode cL_law 1410 = .ok (.iconst 0, 1) := dk_3 (dk_at dksL_law_54 4 rfl rfl)
theorem dL_law_1411 : decode cL_law 1411 = .ok (.laload, 1) := dk_47 (dk_at dksL_law_54 5 rfl rfl)
theorem dL_law_1412 : decode cL_law 1412 = .ok (.lload 7, 2) := dk_22 7 (dk_at dksL_law_54 6 rfl rfl)
theorem dL_law_1414 : decode cL_law 1414 = .ok (.lcmp, 1) := dk_148 (dk_at dksL_law_54 8 rfl rfl)
theorem dL_law_1415 : decode cL_law 1415 = .ok (.ifCond .eq 5, 3) := dk_153 0 5 (dk_at dksL_law_54 9 rfl rfl)
theorem dL_law_1418 : decode cL_law 1418 = .ok (.iconst 0, 1) := dk_3 (dk_at dksL_law_54 12 rfl rfl)
theorem dL_law_1419 : decode cL_law 1419 = .ok (.ireturn, 1) := dk_172 (dk_at dksL_law_54 13 rfl rfl)
theorem dL_law_1420 : decode cL_law 1420 = .ok (.goto 512, 3) := dk_167 2 0 (dk_at dksL_law_54 14 rfl rfl)
theorem dL_law_1423 : decode cL_law 1423 = .ok (.aload_n 1, 1) := dk_43 (dk_at dksL_law_54 17 rfl rfl)
theorem dL_law_1424 : decode cL_law 1424 = .ok (.aload_n 0, 1) := dk_42 (dk_at dksL_law_54 18 rfl rfl)
theorem dL_law_1425 : decode cL_law 1425 = .ok (.iload 5, 2) := dk_21 5 (dk_at dksL_law_54 19 rfl rfl)
theorem dL_law_1427 : decode cL_law 1427 = .ok (.iconst 1, 1) := dk_4 (dk_at dksL_law_54 21 rfl rfl)
theorem dL_law_1428 : decode cL_law 1428 = .ok (.iadd, 1) := dk_96 (dk_at dksL_law_54 22 rfl rfl)
theorem dL_law_1429 : decode cL_law 1429 = .ok (.iaload, 1) := dk_46 (dk_at dksL_law_54 23 rfl rfl)
theorem dL_law_1430 : decode cL_law 1430 = .ok (.aload_n 3, 1) := dk_45 (dk_at dksL_law_55 0 rfl rfl)
theorem dL_law_1431 : decode cL_law 1431 = .ok (.invokestatic 201, 3) := dk_184 0 201 (dk_at dksL_law_55 1 rfl rfl)
theorem dL_law_1434 : decode cL_law 1434 = .ok (.istore 6, 2) := dk_54 6 (dk_at dksL_law_55 4 rfl rfl)
theorem dL_law_1436 : decode cL_law 1436 = .ok (.aload_n 2, 1) := dk_44 (dk_at dksL_law_55 6 rfl rfl)
theorem dL_law_1437 : decode cL_law 1437 = .ok (.aload_n 0, 1) := dk_42 (dk_at dksL_law_55 7 rfl rfl)
theorem dL_law_1438 : decode cL_law 1438 = .ok (.iload 5, 2) := dk_21 5 (dk_at dksL_law_55 8 rfl rfl)
theorem dL_law_1440 : decode cL_law 1440 = .ok (.iconst 1, 1) := dk_4 (dk_at dksL_law_55 10 rfl rfl)
theorem dL_law_1441 : decode cL_law 1441 = .ok (.iadd, 1) := dk_96 (dk_at dksL_law_55 11 rfl rfl)
theorem dL_law_1442 : decode cL_law 1442 = .ok (.iaload, 1) := dk_46 (dk_at dksL_law_55 12 rfl rfl)
theorem dL_law_1443 : decode cL_law 1443 = .ok (.invokevirtual 203, 3) := dk_182 0 203 (dk_at dksL_law_55 13 rfl rfl)
theorem dL_law_1446 : decode cL_law 1446 = .ok (.istore 7, 2) := dk_54 7 (dk_at dksL_law_55 16 rfl rfl)
theorem dL_law_1448 : decode cL_law 1448 = .ok (.aload_n 2, 1) := dk_44 (dk_at dksL_law_55 18 rfl rfl)
theorem dL_law_1449 : decode cL_law 1449 = .ok (.invokevirtual 116, 3) := dk_182 0 116 (dk_at dksL_law_55 19 rfl rfl)
theorem dL_law_1452 : decode cL_law 1452 = .ok (.iload 6, 2) := dk_21 6 (dk_at dksL_law_55 22 rfl rfl)
theorem dL_law_1454 : decode cL_law 1454 = .ok (.if_icmp .eq 5, 3) := dk_159 0 5 (dk_at dksL_law_56 0 rfl rfl)
theorem dL_law_1457 : decode cL_law 1457 = .ok (.iconst 0, 1) := dk_3 (dk_at dksL_law_56 3 rfl rfl)
theorem dL_law_1458 : decode cL_law 1458 = .ok (.ireturn, 1) := dk_172 (dk_at dksL_law_56 4 rfl rfl)
theorem dL_law_1459 : decode cL_law 1459 = .ok (.iload 6, 2) := dk_21 6 (dk_at dksL_law_56 5 rfl rfl)
theorem dL_law_1461 : decode cL_law 1461 = .ok (.ifCond .ne 22, 3) := dk_154 0 22 (dk_at dksL_law_56 7 rfl rfl)
theorem dL_law_1464 : decode cL_law 1464 = .ok (.aload_n 3, 1) := dk_45 (dk_at dksL_law_56 10 rfl rfl)
theorem dL_law_1465 : decode cL_law 1465 = .ok (.iconst 0, 1) := dk_3 (dk_at dksL_law_56 11 rfl rfl)
theorem dL_law_1466 : decode cL_law 1466 = .ok (.laload, 1) := dk_47 (dk_at dksL_law_56 12 rfl rfl)
theorem dL_law_1467 : decode cL_law 1467 = .ok (.iload 7, 2) := dk_21 7 (dk_at dksL_law_56 13 rfl rfl)
theorem dL_law_1469 : decode cL_law 1469 = .ok (.ifCond .eq 7, 3) := dk_153 0 7 (dk_at dksL_law_56 15 rfl rfl)
theorem dL_law_1472 : decode cL_law 1472 = .ok (.lconst 1, 1) := dk_10 (dk_at dksL_law_56 18 rfl rfl)
theorem dL_law_1473 : decode cL_law 1473 = .ok (.goto 4, 3) := dk_167 0 4 (dk_at dksL_law_56 19 rfl rfl)
theorem dL_law_1476 : decode cL_law 1476 = .ok (.lconst 0, 1) := dk_9 (dk_at dksL_law_56 22 rfl rfl)
theorem dL_law_1477 : decode cL_law 1477 = .ok (.lcmp, 1) := dk_148 (dk_at dksL_law_56 23 rfl rfl)
theorem dL_law_1478 : decode cL_law 1478 = .ok (.ifCond .eq 5, 3) := dk_153 0 5 (dk_at dksL_law_57 0 rfl rfl)
theorem dL_law_1481 : decode cL_law 1481 = .ok (.iconst 0, 1) := dk_3 (dk_at dksL_law_57 3 rfl rfl)
theorem dL_law_1482 : decode cL_law 1482 = .ok (.ireturn, 1) := dk_172 (dk_at dksL_law_57 4 rfl rfl)
theorem dL_law_1483 : decode cL_law 1483 = .ok (.goto 449, 3) := dk_167 1 193 (dk_at dksL_law_57 5 rfl rfl)
theorem dL_law_1486 : decode cL_law 1486 = .ok (.aload_n 1, 1) := dk_43 (dk_at dksL_law_57 8 rfl rfl)
theorem dL_law_1487 : decode cL_law 1487 = .ok (.aload_n 0, 1) := dk_42 (dk_at dksL_law_57 9 rfl rfl)
theorem dL_law_1488 : decode cL_law 1488 = .ok (.iload 5, 2) := dk_21 5 (dk_at dksL_law_57 10 rfl rfl)
theorem dL_law_1490 : decode cL_law 1490 = .ok (.iconst 1, 1) := dk_4 (dk_at dksL_law_57 12 rfl rfl)
theorem dL_law_1491 : decode cL_law 1491 = .ok (.iadd, 1) := dk_96 (dk_at dksL_law_57 13 rfl rfl)
theorem dL_law_1492 : decode cL_law 1492 = .ok (.iaload, 1) := dk_46 (dk_at dksL_law_57 14 rfl rfl)
theorem dL_law_1493 : decode cL_law 1493 = .ok (.aload_n 3, 1) := dk_45 (dk_at dksL_law_57 15 rfl rfl)
theorem dL_law_1494 : decode cL_law 1494 = .ok (.invokestatic 204, 3) := dk_184 0 204 (dk_at dksL_law_57 16 rfl rfl)
theorem dL_law_1497 : decode cL_law 1497 = .ok (.istore 6, 2) := dk_54 6 (dk_at dksL_law_57 19 rfl rfl)
theorem dL_law_1499 : decode cL_law 1499 = .ok (.aload_n 2, 1) := dk_44 (dk_at dksL_law_57 21 rfl rfl)
theorem dL_law_1500 : decode cL_law 1500 = .ok (.aload_n 0, 1) := dk_42 (dk_at dksL_law_57 22 rfl rfl)
theorem dL_law_1501 : decode cL_law 1501 = .ok (.iload 5, 2) := dk_21 5 (dk_at dksL_law_58 0 rfl rfl)
theorem dL_law_1503 : decode cL_law 1503 = .ok (.iconst 1, 1) := dk_4 (dk_at dksL_law_58 2 rfl rfl)
theorem dL_law_1504 : decode cL_law 1504 = .ok (.iadd, 1) := dk_96 (dk_at dksL_law_58 3 rfl rfl)
theorem dL_law_1505 : decode cL_law 1505 = .ok (.iaload, 1) := dk_46 (dk_at dksL_law_58 4 rfl rfl)
theorem dL_law_1506 : decode cL_law 1506 = .ok (.invokevirtual 206, 3) := dk_182 0 206 (dk_at dksL_law_58 5 rfl rfl)
theorem dL_law_1509 : decode cL_law 1509 = .ok (.istore 7, 2) := dk_54 7 (dk_at dksL_law_58 8 rfl rfl)
theorem dL_law_1511 : decode cL_law 1511 = .ok (.aload_n 2, 1) := dk_44 (dk_at dksL_law_58 10 rfl rfl)
theorem dL_law_1512 : decode cL_law 1512 = .ok (.invokevirtual 116, 3) := dk_182 0 116 (dk_at dksL_law_58 11 rfl rfl)
theorem dL_law_1515 : decode cL_law 1515 = .ok (.iload 6, 2) := dk_21 6 (dk_at dksL_law_58 14 rfl rfl)
theorem dL_law_1517 : decode cL_law 1517 = .ok (.if_icmp .eq 5, 3) := dk_159 0 5 (dk_at dksL_law_58 16 rfl rfl)
theorem dL_law_1520 : decode cL_law 1520 = .ok (.iconst 0, 1) := dk_3 (dk_at dksL_law_58 19 rfl rfl)
theorem dL_law_1521 : decode cL_law 1521 = .ok (.ireturn, 1) := dk_172 (dk_at dksL_law_58 20 rfl rfl)
theorem dL_law_1522 : decode cL_law 1522 = .ok (.iload 6, 2) := dk_21 6 (dk_at dksL_law_58 21 rfl rfl)
theorem dL_law_1524 : decode cL_law 1524 = .ok (.ifCond .ne 22, 3) := dk_154 0 22 (dk_at dksL_law_59 0 rfl rfl)
theorem dL_law_1527 : decode cL_law 1527 = .ok (.aload_n 3, 1) := dk_45 (dk_at dksL_law_59 3 rfl rfl)
theorem dL_law_1528 : decode cL_law 1528 = .ok (.iconst 0, 1) := dk_3 (dk_at dksL_law_59 4 rfl rfl)
theorem dL_law_1529 : decode cL_law 1529 = .ok (.laload, 1) := dk_47 (dk_at dksL_law_59 5 rfl rfl)
theorem dL_law_1530 : decode cL_law 1530 = .ok (.iload 7, 2) := dk_21 7 (dk_at dksL_law_59 6 rfl rfl)
theorem dL_law_1532 : decode cL_law 1532 = .ok (.ifCond .eq 7, 3) := dk_153 0 7 (dk_at dksL_law_59 8 rfl rfl)
theorem dL_law_1535 : decode cL_law 1535 = .ok (.lconst 1, 1) := dk_10 (dk_at dksL_law_59 11 rfl rfl)
theorem dL_law_1536 : decode cL_law 1536 = .ok (.goto 4, 3) := dk_167 0 4 (dk_at dksL_law_59 12 rfl rfl)
theorem dL_law_1539 : decode cL_law 1539 = .ok (.lconst 0, 1) := dk_9 (dk_at dksL_law_59 15 rfl rfl)
theorem dL_law_1540 : decode cL_law 1540 = .ok (.lcmp, 1) := dk_148 (dk_at dksL_law_59 16 rfl rfl)
theorem dL_law_1541 : decode cL_law 1541 = .ok (.ifCond .eq 5, 3) := dk_153 0 5 (dk_at dksL_law_59 17 rfl rfl)
theorem dL_law_1544 : decode cL_law 1544 = .ok (.iconst 0, 1) := dk_3 (dk_at dksL_law_59 20 rfl rfl)
theorem dL_law_1545 : decode cL_law 1545 = .ok (.ireturn, 1) := dk_172 (dk_at dksL_law_59 21 rfl rfl)
theorem dL_law_1546 : decode cL_law 1546 = .ok (.goto 386, 3) := dk_167 1 130 (dk_at dksL_law_60 0 rfl rfl)
theorem dL_law_1549 : decode cL_law 1549 = .ok (.aload_n 1, 1) := dk_43 (dk_at dksL_law_60 3 rfl rfl)
theorem dL_law_1550 : decode cL_law 1550 = .ok (.aload_n 0, 1) := dk_42 (dk_at dksL_law_60 4 rfl rfl)
theorem dL_law_1551 : decode cL_law 1551 = .ok (.iload 5, 2) := dk_21 5 (dk_at dksL_law_60 5 rfl rfl)
theorem dL_law_1553 : decode cL_law 1553 = .ok (.iconst 1, 1) := dk_4 (dk_at dksL_law_60 7 rfl rfl)
theorem dL_law_1554 : decode cL_law 1554 = .ok (.iadd, 1) := dk_96 (dk_at dksL_law_60 8 rfl rfl)
theorem dL_law_1555 : decode cL_law 1555 = .ok (.iaload, 1) := dk_46 (dk_at dksL_law_60 9 rfl rfl)
theorem dL_law_1556 : decode cL_law 1556 = .ok (.aload_n 3, 1) := dk_45 (dk_at dksL_law_60 10 rfl rfl)
theorem dL_law_1557 : decode cL_law 1557 = .ok (.invokestatic 207, 3) := dk_184 0 207 (dk_at dksL_law_60 11 rfl rfl)
theorem dL_law_1560 : decode cL_law 1560 = .ok (.istore 6, 2) := dk_54 6 (dk_at dksL_law_60 14 rfl rfl)
theorem dL_law_1562 : decode cL_law 1562 = .ok (.aload_n 2, 1) := dk_44 (dk_at dksL_law_60 16 rfl rfl)
theorem dL_law_1563 : decode cL_law 1563 = .ok (.aload_n 0, 1) := dk_42 (dk_at dksL_law_60 17 rfl rfl)
theorem dL_law_1564 : decode cL_law 1564 = .ok (.iload 5, 2) := dk_21 5 (dk_at dksL_law_60 18 rfl rfl)
theorem dL_law_1566 : decode cL_law 1566 = .ok (.iconst 1, 1) := dk_4 (dk_at dksL_law_60 20 rfl rfl)
theorem dL_law_1567 : decode cL_law 1567 = .ok (.iadd, 1) := dk_96 (dk_at dksL_law_60 21 rfl rfl)
theorem dL_law_1568 : decode cL_law 1568 = .ok (.iaload, 1) := dk_46 (dk_at dksL_law_60 22 rfl rfl)
theorem dL_law_1569 : decode cL_law 1569 = .ok (.invokevirtual 209, 3) := dk_182 0 209 (dk_at dksL_law_61 0 rfl rfl)
theorem dL_law_1572 : decode cL_law 1572 = .ok (.istore 7, 2) := dk_54 7 (dk_at dksL_law_61 3 rfl rfl)
theorem dL_law_1574 : decode cL_law 1574 = .ok (.aload_n 2, 1) := dk_44 (dk_at dksL_law_61 5 rfl rfl)
theorem dL_law_1575 : decode cL_law 1575 = .ok (.invokevirtual 116, 3) := dk_182 0 116 (dk_at dksL_law_61 6 rfl rfl)
theorem dL_law_1578 : decode cL_law 1578 = .ok (.iload 6, 2) := dk_21 6 (dk_at dksL_law_61 9 rfl rfl)
theorem dL_law_1580 : decode cL_law 1580 = .ok (.if_icmp .eq 5, 3) := dk_159 0 5 (dk_at dksL_law_61 11 rfl rfl)
theorem dL_law_1583 : decode cL_law 1583 = .ok (.iconst 0, 1) := dk_3 (dk_at dksL_law_61 14 rfl rfl)
theorem dL_law_1584 : decode cL_law 1584 = .ok (.ireturn, 1) := dk_172 (dk_at dksL_law_61 15 rfl rfl)
theorem dL_law_1585 : decode cL_law 1585 = .ok (.iload 6, 2) := dk_21 6 (dk_at dksL_law_61 16 rfl rfl)
theorem dL_law_1587 : decode cL_law 1587 = .ok (.ifCond .ne 15, 3) := dk_154 0 15 (dk_at dksL_law_61 18 rfl rfl)
theorem dL_law_1590 : decode cL_law 1590 = .ok (.aload_n 3, 1) := dk_45 (dk_at dksL_law_61 21 rfl rfl)
theorem dL_law_1591 : decode cL_law 1591 = .ok (.iconst 0, 1) := dk_3 (dk_at dksL_law_61 22 rfl rfl)
theorem dL_law_1592 : decode cL_law 1592 = .ok (.laload, 1) := dk_47 (dk_at dksL_law_61 23 rfl rfl)
theorem dL_law_1593 : decode cL_law 1593 = .ok (.iload 7, 2) := dk_21 7 (dk_at dksL_law_62 0 rfl rfl)
theorem dL_law_1595 : decode cL_law 1595 = .ok (.i2l, 1) := dk_133 (dk_at dksL_law_62 2 rfl rfl)
theorem dL_law_1596 : decode cL_law 1596 = .ok (.lcmp, 1) := dk_148 (dk_at dksL_law_62 3 rfl rfl)
theorem dL_law_1597 : decode cL_law 1597 = .ok (.ifCond .eq 5, 3) := dk_153 0 5 (dk_at dksL_law_62 4 rfl rfl)
theorem dL_law_1600 : decode cL_law 1600 = .ok (.iconst 0, 1) := dk_3 (dk_at dksL_law_62 7 rfl rfl)
theorem dL_law_1601 : decode cL_law 1601 = .ok (.ireturn, 1) := dk_172 (dk_at dksL_law_62 8 rfl rfl)
theorem dL_law_1602 : decode cL_law 1602 = .ok (.goto 330, 3) := dk_167 1 74 (dk_at dksL_law_62 9 rfl rfl)
theorem dL_law_1605 : decode cL_law 1605 = .ok (.aload_n 1, 1) := dk_43 (dk_at dksL_law_62 12 rfl rfl)
theorem dL_law_1606 : decode cL_law 1606 = .ok (.invokevirtual 210, 3) := dk_182 0 210 (dk_at dksL_law_62 13 rfl rfl)
theorem dL_law_1609 : decode cL_law 1609 = .ok (.aload_n 2, 1) := dk_44 (dk_at dksL_law_62 16 rfl rfl)
theorem dL_law_1610 : decode cL_law 1610 = .ok (.invokevirtual 213, 3) := dk_182 0 213 (dk_at dksL_law_62 17 rfl rfl)
theorem dL_law_1613 : decode cL_law 1613 = .ok (.if_icmp .eq 319, 3) := dk_159 1 63 (dk_at dksL_law_62 20 rfl rfl)
theorem dL_law_1616 : decode cL_law 1616 = .ok (.iconst 0, 1) := dk_3 (dk_at dksL_law_62 23 rfl rfl)
theorem dL_law_1617 : decode cL_law 1617 = .ok (.ireturn, 1) := dk_172 (dk_at dksL_law_63 0 rfl rfl)
theorem dL_law_1618 : decode cL_law 1618 = .ok (.aload_n 1, 1) := dk_43 (dk_at dksL_law_63 1 rfl rfl)
theorem dL_law_1619 : decode cL_law 1619 = .ok (.aload_n 0, 1) := dk_42 (dk_at dksL_law_63 2 rfl rfl)
theorem dL_law_1620 : decode cL_law 1620 = .ok (.iload 5, 2) := dk_21 5 (dk_at dksL_law_63 3 rfl rfl)
theorem dL_law_1622 : decode cL_law 1622 = .ok (.iconst 1, 1) := dk_4 (dk_at dksL_law_63 5 rfl rfl)
theorem dL_law_1623 : decode cL_law 1623 = .ok (.iadd, 1) := dk_96 (dk_at dksL_law_63 6 rfl rfl)
theorem dL_law_1624 : decode cL_law 1624 = .ok (.iaload, 1) := dk_46 (dk_at dksL_law_63 7 rfl rfl)
theorem dL_law_1625 : decode cL_law 1625 = .ok (.aload_n 3, 1) := dk_45 (dk_at dksL_law_63 8 rfl rfl)
theorem dL_law_1626 : decode cL_law 1626 = .ok (.invokestatic 214, 3) := dk_184 0 214 (dk_at dksL_law_63 9 rfl rfl)
theorem dL_law_1629 : decode cL_law 1629 = .ok (.istore 6, 2) := dk_54 6 (dk_at dksL_law_63 12 rfl rfl)
theorem dL_law_1631 : decode cL_law 1631 = .ok (.aload_n 2, 1) := dk_44 (dk_at dksL_law_63 14 rfl rfl)
theorem dL_law_1632 : decode cL_law 1632 = .ok (.aload_n 0, 1) := dk_42 (dk_at dksL_law_63 15 rfl rfl)
theorem dL_law_1633 : decode cL_law 1633 = .ok (.iload 5, 2) := dk_21 5 (dk_at dksL_law_63 16 rfl rfl)
theorem dL_law_1635 : decode cL_law 1635 = .ok (.iconst 1, 1) := dk_4 (dk_at dksL_law_63 18 rfl rfl)
theorem dL_law_1636 : decode cL_law 1636 = .ok (.iadd, 1) := dk_96 (dk_at dksL_law_63 19 rfl rfl)
theorem dL_law_1637 : decode cL_law 1637 = .ok (.iaload, 1) := dk_46 (dk_at dksL_law_63 20 rfl rfl)
theorem dL_law_1638 : decode cL_law 1638 = .ok (.invokevirtual 216, 3) := dk_182 0 216 (dk_at dksL_law_63 21 rfl rfl)
theorem dL_law_1641 : decode cL_law 1641 = .ok (.lstore 7, 2) := dk_55 7 (dk_at dksL_law_64 0 rfl rfl)
theorem dL_law_1643 : decode cL_law 1643 = .ok (.aload_n 2, 1) := dk_44 (dk_at dksL_law_64 2 rfl rfl)
theorem dL_law_1644 : decode cL_law 1644 = .ok (.invokevirtual 116, 3) := dk_182 0 116 (dk_at dksL_law_64 3 rfl rfl)
theorem dL_law_1647 : decode cL_law 1647 = .ok (.iload 6, 2) := dk_21 6 (dk_at dksL_law_64 6 rfl rfl)
theorem dL_law_1649 : decode cL_law 1649 = .ok (.if_icmp .eq 5, 3) := dk_159 0 5 (dk_at dksL_law_64 8 rfl rfl)
theorem dL_law_1652 : decode cL_law 1652 = .ok (.iconst 0, 1) := dk_3 (dk_at dksL_law_64 11 rfl rfl)
theorem dL_law_1653 : decode cL_law 1653 = .ok (.ireturn, 1) := dk_172 (dk_at dksL_law_64 12 rfl rfl)
theorem dL_law_1654 : decode cL_law 1654 = .ok (.iload 6, 2) := dk_21 6 (dk_at dksL_law_64 13 rfl rfl)
theorem dL_law_1656 : decode cL_law 1656 = .ok (.ifCond .ne 14, 3) := dk_154 0 14 (dk_at dksL_law_64 15 rfl rfl)
theorem dL_law_1659 : decode cL_law 1659 = .ok (.aload_n 3, 1) := dk_45 (dk_at dksL_law_64 18 rfl rfl)
theorem dL_law_1660 : decode cL_law 1660 = .ok (.iconst 0, 1) := dk_3 (dk_at dksL_law_64 19 rfl rfl)
theorem dL_law_1661 : decode cL_law 1661 = .ok (.laload, 1) := dk_47 (dk_at dksL_law_64 20 rfl rfl)
theorem dL_law_1662 : decode cL_law 1662 = .ok (.lload 7, 2) := dk_22 7 (dk_at dksL_law_64 21 rfl rfl)
theorem dL_law_1664 : decode cL_law 1664 = .ok (.lcmp, 1) := dk_148 (dk_at dksL_law_64 23 rfl rfl)
theorem dL_law_1665 : decode cL_law 1665 = .ok (.ifCond .eq 5, 3) := dk_153 0 5 (dk_at dksL_law_65 0 rfl rfl)
theorem dL_law_1668 : decode cL_law 1668 = .ok (.iconst 0, 1) := dk_3 (dk_at dksL_law_65 3 rfl rfl)
theorem dL_law_1669 : decode cL_law 1669 = .ok (.ireturn, 1) := dk_172 (dk_at dksL_law_65 4 rfl rfl)
theorem dL_law_1670 : decode cL_law 1670 = .ok (.goto 262, 3) := dk_167 1 6 (dk_at dksL_law_65 5 rfl rfl)
theorem dL_law_1673 : decode cL_law 1673 = .ok (.aload_n 1, 1) := dk_43 (dk_at dksL_law_65 8 rfl rfl)
theorem dL_law_1674 : decode cL_law 1674 = .ok (.aload_n 0, 1) := dk_42 (dk_at dksL_law_65 9 rfl rfl)
theorem dL_law_1675 : decode cL_law 1675 = .ok (.iload 5, 2) := dk_21 5 (dk_at dksL_law_65 10 rfl rfl)
theorem dL_law_1677 : decode cL_law 1677 = .ok (.iconst 1, 1) := dk_4 (dk_at dksL_law_65 12 rfl rfl)
theorem dL_law_1678 : decode cL_law 1678 = .ok (.iadd, 1) := dk_96 (dk_at dksL_law_65 13 rfl rfl)
theorem dL_law_1679 : decode cL_law 1679 = .ok (.iaload, 1) := dk_46 (dk_at dksL_law_65 14 rfl rfl)
theorem dL_law_1680 : decode cL_law 1680 = .ok (.aload_n 0, 1) := dk_42 (dk_at dksL_law_65 15 rfl rfl)
theorem dL_law_1681 : decode cL_law 1681 = .ok (.iload 5, 2) := dk_21 5 (dk_at dksL_law_65 16 rfl rfl)
theorem dL_law_1683 : decode cL_law 1683 = .ok (.iconst 2, 1) := dk_5 (dk_at dksL_law_65 18 rfl rfl)
theorem dL_law_1684 : decode cL_law 1684 = .ok (.iadd, 1) := dk_96 (dk_at dksL_law_65 19 rfl rfl)
theorem dL_law_1685 : decode cL_law 1685 = .ok (.iaload, 1) := dk_46 (dk_at dksL_law_65 20 rfl rfl)
theorem dL_law_1686 : decode cL_law 1686 = .ok (.aload_n 3, 1) := dk_45 (dk_at dksL_law_65 21 rfl rfl)
theorem dL_law_1687 : decode cL_law 1687 = .ok (.invokestatic 217, 3) := dk_184 0 217 (dk_at dksL_law_66 0 rfl rfl)
theorem dL_law_1690 : decode cL_law 1690 = .ok (.istore 6, 2) := dk_54 6 (dk_at dksL_law_66 3 rfl rfl)
theorem dL_law_1692 : decode cL_law 1692 = .ok (.aload_n 2, 1) := dk_44 (dk_at dksL_law_66 5 rfl rfl)
theorem dL_law_1693 : decode cL_law 1693 = .ok (.aload_n 0, 1) := dk_42 (dk_at dksL_law_66 6 rfl rfl)
theorem dL_law_1694 : decode cL_law 1694 = .ok (.iload 5, 2) := dk_21 5 (dk_at dksL_law_66 7 rfl rfl)
theorem dL_law_1696 : decode cL_law 1696 = .ok (.iconst 1, 1) := dk_4 (dk_at dksL_law_66 9 rfl rfl)
theorem dL_law_1697 : decode cL_law 1697 = .ok (.iadd, 1) := dk_96 (dk_at dksL_law_66 10 rfl rfl)
theorem dL_law_1698 : decode cL_law 1698 = .ok (.iaload, 1) := dk_46 (dk_at dksL_law_66 11 rfl rfl)
theorem dL_law_1699 : decode cL_law 1699 = .ok (.aload_n 0, 1) := dk_42 (dk_at dksL_law_66 12 rfl rfl)
theorem dL_law_1700 : decode cL_law 1700 = .ok (.iload 5, 2) := dk_21 5 (dk_at dksL_law_66 13 rfl rfl)
theorem dL_law_1702 : decode cL_law 1702 = .ok (.iconst 2, 1) := dk_5 (dk_at dksL_law_66 15 rfl rfl)
theorem dL_law_1703 : decode cL_law 1703 = .ok (.iadd, 1) := dk_96 (dk_at dksL_law_66 16 rfl rfl)
theorem dL_law_1704 : decode cL_law 1704 = .ok (.iaload, 1) := dk_46 (dk_at dksL_law_66 17 rfl rfl)
theorem dL_law_1705 : decode cL_law 1705 = .ok (.invokevirtual 219, 3) := dk_182 0 219 (dk_at dksL_law_66 18 rfl rfl)
theorem dL_law_1708 : decode cL_law 1708 = .ok (.lstore 7, 2) := dk_55 7 (dk_at dksL_law_66 21 rfl rfl)
theorem dL_law_1710 : decode cL_law 1710 = .ok (.aload_n 2, 1) := dk_44 (dk_at dksL_law_66 23 rfl rfl)
theorem dL_law_1711 : decode cL_law 1711 = .ok (.invokevirtual 116, 3) := dk_182 0 116 (dk_at dksL_law_67 0 rfl rfl)
theorem dL_law_1714 : decode cL_law 1714 = .ok (.iload 6, 2) := dk_21 6 (dk_at dksL_law_67 3 rfl rfl)
theorem dL_law_1716 : decode cL_law 1716 = .ok (.if_icmp .eq 5, 3) := dk_159 0 5 (dk_at dksL_law_67 5 rfl rfl)
theorem dL_law_1719 : decode cL_law 1719 = .ok (.iconst 0, 1) := dk_3 (dk_at dksL_law_67 8 rfl rfl)
theorem dL_law_1720 : decode cL_law 1720 = .ok (.ireturn, 1) := dk_172 (dk_at dksL_law_67 9 rfl rfl)
theorem dL_law_1721 : decode cL_law 1721 = .ok (.iload 6, 2) := dk_21 6 (dk_at dksL_law_67 10 rfl rfl)
theorem dL_law_1723 : decode cL_law 1723 = .ok (.ifCond .ne 14, 3) := dk_154 0 14 (dk_at dksL_law_67 12 rfl rfl)
theorem dL_law_1726 : decode cL_law 1726 = .ok (.aload_n 3, 1) := dk_45 (dk_at dksL_law_67 15 rfl rfl)
theorem dL_law_1727 : decode cL_law 1727 = .ok (.iconst 0, 1) := dk_3 (dk_at dksL_law_67 16 rfl rfl)
theorem dL_law_1728 : decode cL_law 1728 = .ok (.laload, 1) := dk_47 (dk_at dksL_law_67 17 rfl rfl)
theorem dL_law_1729 : decode cL_law 1729 = .ok (.lload 7, 2) := dk_22 7 (dk_at dksL_law_67 18 rfl rfl)
theorem dL_law_1731 : decode cL_law 1731 = .ok (.lcmp, 1) := dk_148 (dk_at dksL_law_67 20 rfl rfl)
theorem dL_law_1732 : decode cL_law 1732 = .ok (.ifCond .eq 5, 3) := dk_153 0 5 (dk_at dksL_law_67 21 rfl rfl)
theorem dL_law_1735 : decode cL_law 1735 = .ok (.iconst 0, 1) := dk_3 (dk_at dksL_law_68 0 rfl rfl)
theorem dL_law_1736 : decode cL_law 1736 = .ok (.ireturn, 1) := dk_172 (dk_at dksL_law_68 1 rfl rfl)
theorem dL_law_1737 : decode cL_law 1737 = .ok (.goto 195, 3) := dk_167 0 195 (dk_at dksL_law_68 2 rfl rfl)
theorem dL_law_1740 : decode cL_law 1740 = .ok (.aload_n 1, 1) := dk_43 (dk_at dksL_law_68 5 rfl rfl)
theorem dL_law_1741 : decode cL_law 1741 = .ok (.invokevirtual 220, 3) := dk_182 0 220 (dk_at dksL_law_68 6 rfl rfl)
theorem dL_law_1744 : decode cL_law 1744 = .ok (.aload_n 2, 1) := dk_44 (dk_at dksL_law_68 9 rfl rfl)
theorem dL_law_1745 : decode cL_law 1745 = .ok (.invokevirtual 223, 3) := dk_182 0 223 (dk_at dksL_law_68 10 rfl rfl)
theorem dL_law_1748 : decode cL_law 1748 = .ok (.if_icmp .eq 184, 3) := dk_159 0 184 (dk_at dksL_law_68 13 rfl rfl)
theorem dL_law_1751 : decode cL_law 1751 = .ok (.iconst 0, 1) := dk_3 (dk_at dksL_law_68 16 rfl rfl)
theorem dL_law_1752 : decode cL_law 1752 = .ok (.ireturn, 1) := dk_172 (dk_at dksL_law_68 17 rfl rfl)
theorem dL_law_1753 : decode cL_law 1753 = .ok (.aload_n 1, 1) := dk_43 (dk_at dksL_law_68 18 rfl rfl)
theorem dL_law_1754 : decode cL_law 1754 = .ok (.invokevirtual 224, 3) := dk_182 0 224 (dk_at dksL_law_68 19 rfl rfl)
theorem dL_law_1757 : decode cL_law 1757 = .ok (.aload_n 2, 1) := dk_44 (dk_at dksL_law_68 22 rfl rfl)
theorem dL_law_1758 : decode cL_law 1758 = .ok (.invokevirtual 227, 3) := dk_182 0 227 (dk_at dksL_law_69 0 rfl rfl)
theorem dL_law_1761 : decode cL_law 1761 = .ok (.if_icmp .eq 171, 3) := dk_159 0 171 (dk_at dksL_law_69 3 rfl rfl)
theorem dL_law_1764 : decode cL_law 1764 = .ok (.iconst 0, 1) := dk_3 (dk_at dksL_law_69 6 rfl rfl)
theorem dL_law_1765 : decode cL_law 1765 = .ok (.ireturn, 1) := dk_172 (dk_at dksL_law_69 7 rfl rfl)
theorem dL_law_1766 : decode cL_law 1766 = .ok (.aload_n 1, 1) := dk_43 (dk_at dksL_law_69 8 rfl rfl)
theorem dL_law_1767 : decode cL_law 1767 = .ok (.aload 4, 2) := dk_25 4 (dk_at dksL_law_69 9 rfl rfl)
theorem dL_law_1769 : decode cL_law 1769 = .ok (.invokestatic 228, 3) := dk_184 0 228 (dk_at dksL_law_69 11 rfl rfl)
theorem dL_law_1772 : decode cL_law 1772 = .ok (.istore 6, 2) := dk_54 6 (dk_at dksL_law_69 14 rfl rfl)
theorem dL_law_1774 : decode cL_law 1774 = .ok (.aload_n 2, 1) := dk_44 (dk_at dksL_law_69 16 rfl rfl)
theorem dL_law_1775 : decode cL_law 1775 = .ok (.invokevirtual 231, 3) := dk_182 0 231 (dk_at dksL_law_69 17 rfl rfl)
theorem dL_law_1778 : decode cL_law 1778 = .ok (.dstore 7, 2) := dk_57 7 (dk_at dksL_law_69 20 rfl rfl)
theorem dL_law_1780 : decode cL_law 1780 = .ok (.aload_n 2, 1) := dk_44 (dk_at dksL_law_69 22 rfl rfl)
theorem dL_law_1781 : decode cL_law 1781 = .ok (.invokevirtual 116, 3) := dk_182 0 116 (dk_at dksL_law_70 0 rfl rfl)
theorem dL_law_1784 : decode cL_law 1784 = .ok (.iload 6, 2) := dk_21 6 (dk_at dksL_law_70 3 rfl rfl)
theorem dL_law_1786 : decode cL_law 1786 = .ok (.if_icmp .eq 5, 3) := dk_159 0 5 (dk_at dksL_law_70 5 rfl rfl)
theorem dL_law_1789 : decode cL_law 1789 = .ok (.iconst 0, 1) := dk_3 (dk_at dksL_law_70 8 rfl rfl)
theorem dL_law_1790 : decode cL_law 1790 = .ok (.ireturn, 1) := dk_172 (dk_at dksL_law_70 9 rfl rfl)
theorem dL_law_1791 : decode cL_law 1791 = .ok (.iload 6, 2) := dk_21 6 (dk_at dksL_law_70 10 rfl rfl)
theorem dL_law_1793 : decode cL_law 1793 = .ok (.ifCond .ne 35, 3) := dk_154 0 35 (dk_at dksL_law_70 12 rfl rfl)
theorem dL_law_1796 : decode cL_law 1796 = .ok (.aload 4, 2) := dk_25 4 (dk_at dksL_law_70 15 rfl rfl)
theorem dL_law_1798 : decode cL_law 1798 = .ok (.iconst 0, 1) := dk_3 (dk_at dksL_law_70 17 rfl rfl)
theorem dL_law_1799 : decode cL_law 1799 = .ok (.daload, 1) := dk_49 (dk_at dksL_law_70 18 rfl rfl)
theorem dL_law_1800 : decode cL_law 1800 = .ok (.dload 7, 2) := dk_24 7 (dk_at dksL_law_70 19 rfl rfl)
theorem dL_law_1802 : decode cL_law 1802 = .ok (.dcmp .l, 1) := dk_151 (dk_at dksL_law_70 21 rfl rfl)
theorem dL_law_1803 : decode cL_law 1803 = .ok (.ifCond .eq 25, 3) := dk_153 0 25 (dk_at dksL_law_71 0 rfl rfl)
theorem dL_law_1806 : decode cL_law 1806 = .ok (.aload 4, 2) := dk_25 4 (dk_at dksL_law_71 3 rfl rfl)
theorem dL_law_1808 : decode cL_law 1808 = .ok (.iconst 0, 1) := dk_3 (dk_at dksL_law_71 5 rfl rfl)
theorem dL_law_1809 : decode cL_law 1809 = .ok (.daload, 1) := dk_49 (dk_at dksL_law_71 6 rfl rfl)
theorem dL_law_1810 : decode cL_law 1810 = .ok (.aload 4, 2) := dk_25 4 (dk_at dksL_law_71 7 rfl rfl)
theorem dL_law_1812 : decode cL_law 1812 = .ok (.iconst 0, 1) := dk_3 (dk_at dksL_law_71 9 rfl rfl)
theorem dL_law_1813 : decode cL_law 1813 = .ok (.daload, 1) := dk_49 (dk_at dksL_law_71 10 rfl rfl)
theorem dL_law_1814 : decode cL_law 1814 = .ok (.dcmp .l, 1) := dk_151 (dk_at dksL_law_71 11 rfl rfl)
theorem dL_law_1815 : decode cL_law 1815 = .ok (.ifCond .eq 11, 3) := dk_153 0 11 (dk_at dksL_law_71 12 rfl rfl)
theorem dL_law_1818 : decode cL_law 1818 = .ok (.dload 7, 2) := dk_24 7 (dk_at dksL_law_71 15 rfl rfl)
theorem dL_law_1820 : decode cL_law 1820 = .ok (.dload 7, 2) := dk_24 7 (dk_at dksL_law_71 17 rfl rfl)
theorem dL_law_1822 : decode cL_law 1822 = .ok (.dcmp .l, 1) := dk_151 (dk_at dksL_law_71 19 rfl rfl)
theorem dL_law_1823 : decode cL_law 1823 = .ok (.ifCond .ne 5, 3) := dk_154 0 5 (dk_at dksL_law_71 20 rfl rfl)
theorem dL_law_1826 : decode cL_law 1826 = .ok (.iconst 0, 1) := dk_3 (dk_at dksL_law_71 23 rfl rfl)
theorem dL_law_1827 : decode cL_law 1827 = .ok (.ireturn, 1) := dk_172 (dk_at dksL_law_72 0 rfl rfl)
theorem dL_law_1828 : decode cL_law 1828 = .ok (.goto 104, 3) := dk_167 0 104 (dk_at dksL_law_72 1 rfl rfl)
theorem dL_law_1831 : decode cL_law 1831 = .ok (.aload_n 1, 1) := dk_43 (dk_at dksL_law_72 4 rfl rfl)
theorem dL_law_1832 : decode cL_law 1832 = .ok (.aload 4, 2) := dk_25 4 (dk_at dksL_law_72 5 rfl rfl)
theorem dL_law_1834 : decode cL_law 1834 = .ok (.invokestatic 232, 3) := dk_184 0 232 (dk_at dksL_law_72 7 rfl rfl)
theorem dL_law_1837 : decode cL_law 1837 = .ok (.istore 6, 2) := dk_54 6 (dk_at dksL_law_72 10 rfl rfl)
theorem dL_law_1839 : decode cL_law 1839 = .ok (.aload_n 2, 1) := dk_44 (dk_at dksL_law_72 12 rfl rfl)
theorem dL_law_1840 : decode cL_law 1840 = .ok (.invokevirtual 234, 3) := dk_182 0 234 (dk_at dksL_law_72 13 rfl rfl)
theorem dL_law_1843 : decode cL_law 1843 = .ok (.fstore 7, 2) := dk_56 7 (dk_at dksL_law_72 16 rfl rfl)
theorem dL_law_1845 : decode cL_law 1845 = .ok (.aload_n 2, 1) := dk_44 (dk_at dksL_law_72 18 rfl rfl)
theorem dL_law_1846 : decode cL_law 1846 = .ok (.invokevirtual 116, 3) := dk_182 0 116 (dk_at dksL_law_72 19 rfl rfl)
theorem dL_law_1849 : decode cL_law 1849 = .ok (.iload 6, 2) := dk_21 6 (dk_at dksL_law_72 22 rfl rfl)
theorem dL_law_1851 : decode cL_law 1851 = .ok (.if_icmp .eq 5, 3) := dk_159 0 5 (dk_at dksL_law_73 0 rfl rfl)
theorem dL_law_1854 : decode cL_law 1854 = .ok (.iconst 0, 1) := dk_3 (dk_at dksL_law_73 3 rfl rfl)
theorem dL_law_1855 : decode cL_law 1855 = .ok (.ireturn, 1) := dk_172 (dk_at dksL_law_73 4 rfl rfl)
theorem dL_law_1856 : decode cL_law 1856 = .ok (.iload 6, 2) := dk_21 6 (dk_at dksL_law_73 5 rfl rfl)
theorem dL_law_1858 : decode cL_law 1858 = .ok (.ifCond .ne 36, 3) := dk_154 0 36 (dk_at dksL_law_73 7 rfl rfl)
theorem dL_law_1861 : decode cL_law 1861 = .ok (.aload 4, 2) := dk_25 4 (dk_at dksL_law_73 10 rfl rfl)
theorem dL_law_1863 : decode cL_law 1863 = .ok (.iconst 0, 1) := dk_3 (dk_at dksL_law_73 12 rfl rfl)
theorem dL_law_1864 : decode cL_law 1864 = .ok (.daload, 1) := dk_49 (dk_at dksL_law_73 13 rfl rfl)
theorem dL_law_1865 : decode cL_law 1865 = .ok (.fload 7, 2) := dk_23 7 (dk_at dksL_law_73 14 rfl rfl)
theorem dL_law_1867 : decode cL_law 1867 = .ok (.f2d, 1) := dk_141 (dk_at dksL_law_73 16 rfl rfl)
theorem dL_law_1868 : decode cL_law 1868 = .ok (.dcmp .l, 1) := dk_151 (dk_at dksL_law_73 17 rfl rfl)
theorem dL_law_1869 : decode cL_law 1869 = .ok (.ifCond .eq 25, 3) := dk_153 0 25 (dk_at dksL_law_73 18 rfl rfl)
theorem dL_law_1872 : decode cL_law 1872 = .ok (.aload 4, 2) := dk_25 4 (dk_at dksL_law_73 21 rfl rfl)
theorem dL_law_1874 : decode cL_law 1874 = .ok (.iconst 0, 1) := dk_3 (dk_at dksL_law_73 23 rfl rfl)
theorem dL_law_1875 : decode cL_law 1875 = .ok (.daload, 1) := dk_49 (dk_at dksL_law_74 0 rfl rfl)
theorem dL_law_1876 : decode cL_law 1876 = .ok (.aload 4, 2) := dk_25 4 (dk_at dksL_law_74 1 rfl rfl)
theorem dL_law_1878 : decode cL_law 1878 = .ok (.iconst 0, 1) := dk_3 (dk_at dksL_law_74 3 rfl rfl)
theorem dL_law_1879 : decode cL_law 1879 = .ok (.daload, 1) := dk_49 (dk_at dksL_law_74 4 rfl rfl)
theorem dL_law_1880 : decode cL_law 1880 = .ok (.dcmp .l, 1) := dk_151 (dk_at dksL_law_74 5 rfl rfl)
theorem dL_law_1881 : decode cL_law 1881 = .ok (.ifCond .eq 11, 3) := dk_153 0 11 (dk_at dksL_law_74 6 rfl rfl)
theorem dL_law_1884 : decode cL_law 1884 = .ok (.fload 7, 2) := dk_23 7 (dk_at dksL_law_74 9 rfl rfl)
theorem dL_law_1886 : decode cL_law 1886 = .ok (.fload 7, 2) := dk_23 7 (dk_at dksL_law_74 11 rfl rfl)
theorem dL_law_1888 : decode cL_law 1888 = .ok (.fcmp .l, 1) := dk_149 (dk_at dksL_law_74 13 rfl rfl)
theorem dL_law_1889 : decode cL_law 1889 = .ok (.ifCond .ne 5, 3) := dk_154 0 5 (dk_at dksL_law_74 14 rfl rfl)
theorem dL_law_1892 : decode cL_law 1892 = .ok (.iconst 0, 1) := dk_3 (dk_at dksL_law_74 17 rfl rfl)
theorem dL_law_1893 : decode cL_law 1893 = .ok (.ireturn, 1) := dk_172 (dk_at dksL_law_74 18 rfl rfl)
theorem dL_law_1894 : decode cL_law 1894 = .ok (.goto 38, 3) := dk_167 0 38 (dk_at dksL_law_74 19 rfl rfl)
theorem dL_law_1897 : decode cL_law 1897 = .ok (.aload_n 1, 1) := dk_43 (dk_at dksL_law_74 22 rfl rfl)
theorem dL_law_1898 : decode cL_law 1898 = .ok (.invokevirtual 235, 3) := dk_182 0 235 (dk_at dksL_law_75 0 rfl rfl)
theorem dL_law_1901 : decode cL_law 1901 = .ok (.aload_n 2, 1) := dk_44 (dk_at dksL_law_75 3 rfl rfl)
theorem dL_law_1902 : decode cL_law 1902 = .ok (.invokevirtual 238, 3) := dk_182 0 238 (dk_at dksL_law_75 4 rfl rfl)
theorem dL_law_1905 : decode cL_law 1905 = .ok (.goto 27, 3) := dk_167 0 27 (dk_at dksL_law_75 7 rfl rfl)
theorem dL_law_1908 : decode cL_law 1908 = .ok (.aload_n 1, 1) := dk_43 (dk_at dksL_law_75 10 rfl rfl)
theorem dL_law_1909 : decode cL_law 1909 = .ok (.invokestatic 239, 3) := dk_184 0 239 (dk_at dksL_law_75 11 rfl rfl)
theorem dL_law_1912 : decode cL_law 1912 = .ok (.istore 6, 2) := dk_54 6 (dk_at dksL_law_75 14 rfl rfl)
theorem dL_law_1914 : decode cL_law 1914 = .ok (.aload_n 2, 1) := dk_44 (dk_at dksL_law_75 16 rfl rfl)
theorem dL_law_1915 : decode cL_law 1915 = .ok (.invokevirtual 242, 3) := dk_182 0 242 (dk_at dksL_law_75 17 rfl rfl)
theorem dL_law_1918 : decode cL_law 1918 = .ok (.aload_n 2, 1) := dk_44 (dk_at dksL_law_75 20 rfl rfl)
theorem dL_law_1919 : decode cL_law 1919 = .ok (.invokevirtual 116, 3) := dk_182 0 116 (dk_at dksL_law_75 21 rfl rfl)
theorem dL_law_1922 : decode cL_law 1922 = .ok (.iload 6, 2) := dk_21 6 (dk_at dksL_law_76 0 rfl rfl)
theorem dL_law_1924 : decode cL_law 1924 = .ok (.if_icmp .eq 5, 3) := dk_159 0 5 (dk_at dksL_law_76 2 rfl rfl)
theorem dL_law_1927 : decode cL_law 1927 = .ok (.iconst 0, 1) := dk_3 (dk_at dksL_law_76 5 rfl rfl)
theorem dL_law_1928 : decode cL_law 1928 = .ok (.ireturn, 1) := dk_172 (dk_at dksL_law_76 6 rfl rfl)
theorem dL_law_1929 : decode cL_law 1929 = .ok (.goto 3, 3) := dk_167 0 3 (dk_at dksL_law_76 7 rfl rfl)
theorem dL_law_1932 : decode cL_law 1932 = .ok (.iinc 5 4, 3) := dk_132 5 4 (dk_at dksL_law_76 10 rfl rfl)
theorem dL_law_1935 : decode cL_law 1935 = .ok (.goto (-1907), 3) := dk_167 248 141 (dk_at dksL_law_76 13 rfl rfl)
theorem dL_law_1938 : decode cL_law 1938 = .ok (.iconst 1, 1) := dk_4 (dk_at dksL_law_76 16 rfl rfl)
theorem dL_law_1939 : decode cL_law 1939 = .ok (.ireturn, 1) := dk_172 (dk_at dksL_law_76 17 rfl rfl)

/-! PointerAnalyzerLaw -/
set_option maxRecDepth 100000
def RX0 : String := "PointerAnalyzerLaw"
abbrev cX0_appendCharacter : ByteArray := method_3_code
def yX0_appendCharacter : MethodName := ⟨RX0, "appendCharacter", "(LPointerAnalyzer;I[J)I"⟩
def dkwX0_appendCharacter_0 : List UInt8 := [44, 3, 42, 27, 182, 0, 7, 133, 80, 167, 0, 9, 78, 4, 172, 78, 5, 172, 3, 172]
abbrev dktX0_appendCharacter_0 : List UInt8 := dkwX0_appendCharacter_0 ++ []
theorem dksX0_appendCharacter_0 : cX0_appendCharacter.data.toList.drop 0 = dktX0_appendCharacter_0 := by decide +kernel
theorem dX0_appendCharacter_0 : decode cX0_appendCharacter 0 = .ok (.aload_n 2, 1) := dk_44 (dk_at dksX0_appendCharacter_0 0 rfl rfl)
theorem dX0_appendCharacter_1 : decode cX0_appendCharacter 1 = .ok (.iconst 0, 1) := dk_3 (dk_at dksX0_appendCharacter_0 1 rfl rfl)
theorem dX0_appendCharacter_2 : decode cX0_appendCharacter 2 = .ok (.aload_n 0, 1) := dk_42 (dk_at dksX0_appendCharacter_0 2 rfl rfl)
theorem dX0_appendCharacter_3 : decode cX0_appendCharacter 3 = .ok (.iload_n 1, 1) := dk_27 (dk_at dksX0_appendCharacter_0 3 rfl rfl)
theorem dX0_appendCharacter_4 : decode cX0_appendCharacter 4 = .ok (.invokevirtual 7, 3) := dk_182 0 7 (dk_at dksX0_appendCharacter_0 4 rfl rfl)
theorem dX0_appendCharacter_7 : decode cX0_appendCharacter 7 = .ok (.i2l, 1) := dk_133 (dk_at dksX0_appendCharacter_0 7 rfl rfl)
theorem dX0_appendCharacter_8 : decode cX0_appendCharacter 8 = .ok (.lastore, 1) := dk_80 (dk_at dksX0_appendCharacter_0 8 rfl rfl)
theorem dX0_appendCharacter_9 : decode cX0_appendCharacter 9 = .ok (.goto 9, 3) := dk_167 0 9 (dk_at dksX0_appendCharacter_0 9 rfl rfl)
theorem dX0_appendCharacter_12 : decode cX0_appendCharacter 12 = .ok (.astore_n 3, 1) := dk_78 (dk_at dksX0_appendCharacter_0 12 rfl rfl)
theorem dX0_appendCharacter_13 : decode cX0_appendCharacter 13 = .ok (.iconst 1, 1) := dk_4 (dk_at dksX0_appendCharacter_0 13 rfl rfl)
theorem dX0_appendCharacter_14 : decode cX0_appendCharacter 14 = .ok (.ireturn, 1) := dk_172 (dk_at dksX0_appendCharacter_0 14 rfl rfl)
theorem dX0_appendCharacter_15 : decode cX0_appendCharacter 15 = .ok (.astore_n 3, 1) := dk_78 (dk_at dksX0_appendCharacter_0 15 rfl rfl)
theorem dX0_appendCharacter_16 : decode cX0_appendCharacter 16 = .ok (.iconst 2, 1) := dk_5 (dk_at dksX0_appendCharacter_0 16 rfl rfl)
theorem dX0_appendCharacter_17 : decode cX0_appendCharacter 17 = .ok (.ireturn, 1) := dk_172 (dk_at dksX0_appendCharacter_0 17 rfl rfl)
theorem dX0_appendCharacter_18 : decode cX0_appendCharacter 18 = .ok (.iconst 0, 1) := dk_3 (dk_at dksX0_appendCharacter_0 18 rfl rfl)
theorem dX0_appendCharacter_19 : decode cX0_appendCharacter 19 = .ok (.ireturn, 1) := dk_172 (dk_at dksX0_appendCharacter_0 19 rfl rfl)
abbrev cX0_setBody : ByteArray := method_4_code
def yX0_setBody : MethodName := ⟨RX0, "setBody", "(LPointerAnalyzer;I[J)I"⟩
def dkwX0_setBody_0 : List UInt8 := [44, 3, 42, 27, 182, 0, 17, 133, 80, 167, 0, 12, 78, 4, 172, 78, 5, 172, 78, 6, 172, 3, 172]
abbrev dktX0_setBody_0 : List UInt8 := dkwX0_setBody_0 ++ []
theorem dksX0_setBody_0 : cX0_setBody.data.toList.drop 0 = dktX0_setBody_0 := by decide +kernel
theorem dX0_setBody_0 : decode cX0_setBody 0 = .ok (.aload_n 2, 1) := dk_44 (dk_at dksX0_setBody_0 0 rfl rfl)
theorem dX0_setBody_1 : decode cX0_setBody 1 = .ok (.iconst 0, 1) := dk_3 (dk_at dksX0_setBody_0 1 rfl rfl)
theorem dX0_setBody_2 : decode cX0_setBody 2 = .ok (.aload_n 0, 1) := dk_42 (dk_at dksX0_setBody_0 2 rfl rfl)
theorem dX0_setBody_3 : decode cX0_setBody 3 = .ok (.iload_n 1, 1) := dk_27 (dk_at dksX0_setBody_0 3 rfl rfl)
theorem dX0_setBody_4 : decode cX0_setBody 4 = .ok (.invokevirtual 17, 3) := dk_182 0 17 (dk_at dksX0_setBody_0 4 rfl rfl)
theorem dX0_setBody_7 : decode cX0_setBody 7 = .ok (.i2l, 1) := dk_133 (dk_at dksX0_setBody_0 7 rfl rfl)
theorem dX0_setBody_8 : decode cX0_setBody 8 = .ok (.lastore, 1) := dk_80 (dk_at dksX0_setBody_0 8 rfl rfl)
theorem dX0_setBody_9 : decode cX0_setBody 9 = .ok (.goto 12, 3) := dk_167 0 12 (dk_at dksX0_setBody_0 9 rfl rfl)
theorem dX0_setBody_12 : decode cX0_setBody 12 = .ok (.astore_n 3, 1) := dk_78 (dk_at dksX0_setBody_0 12 rfl rfl)
theorem dX0_setBody_13 : decode cX0_setBody 13 = .ok (.iconst 1, 1) := dk_4 (dk_at dksX0_setBody_0 13 rfl rfl)
theorem dX0_setBody_14 : decode cX0_setBody 14 = .ok (.ireturn, 1) := dk_172 (dk_at dksX0_setBody_0 14 rfl rfl)
theorem dX0_setBody_15 : decode cX0_setBody 15 = .ok (.astore_n 3, 1) := dk_78 (dk_at dksX0_setBody_0 15 rfl rfl)
theorem dX0_setBody_16 : decode cX0_setBody 16 = .ok (.iconst 2, 1) := dk_5 (dk_at dksX0_setBody_0 16 rfl rfl)
theorem dX0_setBody_17 : decode cX0_setBody 17 = .ok (.ireturn, 1) := dk_172 (dk_at dksX0_setBody_0 17 rfl rfl)
theorem dX0_setBody_18 : decode cX0_setBody 18 = .ok (.astore_n 3, 1) := dk_78 (dk_at dksX0_setBody_0 18 rfl rfl)
theorem dX0_setBody_19 : decode cX0_setBody 19 = .ok (.iconst 3, 1) := dk_6 (dk_at dksX0_setBody_0 19 rfl rfl)
theorem dX0_setBody_20 : decode cX0_setBody 20 = .ok (.ireturn, 1) := dk_172 (dk_at dksX0_setBody_0 20 rfl rfl)
theorem dX0_setBody_21 : decode cX0_setBody 21 = .ok (.iconst 0, 1) := dk_3 (dk_at dksX0_setBody_0 21 rfl rfl)
theorem dX0_setBody_22 : decode cX0_setBody 22 = .ok (.ireturn, 1) := dk_172 (dk_at dksX0_setBody_0 22 rfl rfl)
abbrev cX0_kind : ByteArray := method_5_code
def yX0_kind : MethodName := ⟨RX0, "kind", "(LPointerAnalyzer;I[J)I"⟩
def dkwX0_kind_0 : List UInt8 := [44, 3, 42, 27, 182, 0, 22, 133, 80, 167, 0, 6, 78, 4, 172, 3, 172]
abbrev dktX0_kind_0 : List UInt8 := dkwX0_kind_0 ++ []
theorem dksX0_kind_0 : cX0_kind.data.toList.drop 0 = dktX0_kind_0 := by decide +kernel
theorem dX0_kind_0 : decode cX0_kind 0 = .ok (.aload_n 2, 1) := dk_44 (dk_at dksX0_kind_0 0 rfl rfl)
theorem dX0_kind_1 : decode cX0_kind 1 = .ok (.iconst 0, 1) := dk_3 (dk_at dksX0_kind_0 1 rfl rfl)
theorem dX0_kind_2 : decode cX0_kind 2 = .ok (.aload_n 0, 1) := dk_42 (dk_at dksX0_kind_0 2 rfl rfl)
theorem dX0_kind_3 : decode cX0_kind 3 = .ok (.iload_n 1, 1) := dk_27 (dk_at dksX0_kind_0 3 rfl rfl)
theorem dX0_kind_4 : decode cX0_kind 4 = .ok (.invokevirtual 22, 3) := dk_182 0 22 (dk_at dksX0_kind_0 4 rfl rfl)
theorem dX0_kind_7 : decode cX0_kind 7 = .ok (.i2l, 1) := dk_133 (dk_at dksX0_kind_0 7 rfl rfl)
theorem dX0_kind_8 : decode cX0_kind 8 = .ok (.lastore, 1) := dk_80 (dk_at dksX0_kind_0 8 rfl rfl)
theorem dX0_kind_9 : decode cX0_kind 9 = .ok (.goto 6, 3) := dk_167 0 6 (dk_at dksX0_kind_0 9 rfl rfl)
theorem dX0_kind_12 : decode cX0_kind 12 = .ok (.astore_n 3, 1) := dk_78 (dk_at dksX0_kind_0 12 rfl rfl)
theorem dX0_kind_13 : decode cX0_kind 13 = .ok (.iconst 1, 1) := dk_4 (dk_at dksX0_kind_0 13 rfl rfl)
theorem dX0_kind_14 : decode cX0_kind 14 = .ok (.ireturn, 1) := dk_172 (dk_at dksX0_kind_0 14 rfl rfl)
theorem dX0_kind_15 : decode cX0_kind 15 = .ok (.iconst 0, 1) := dk_3 (dk_at dksX0_kind_0 15 rfl rfl)
theorem dX0_kind_16 : decode cX0_kind 16 = .ok (.ireturn, 1) := dk_172 (dk_at dksX0_kind_0 16 rfl rfl)
abbrev cX0_functionOf : ByteArray := method_6_code
def yX0_functionOf : MethodName := ⟨RX0, "functionOf", "(LPointerAnalyzer;I[J)I"⟩
def dkwX0_functionOf_0 : List UInt8 := [44, 3, 42, 27, 182, 0, 25, 133, 80, 167, 0, 6, 78, 4, 172, 3, 172]
abbrev dktX0_functionOf_0 : List UInt8 := dkwX0_functionOf_0 ++ []
theorem dksX0_functionOf_0 : cX0_functionOf.data.toList.drop 0 = dktX0_functionOf_0 := by decide +kernel
theorem dX0_functionOf_0 : decode cX0_functionOf 0 = .ok (.aload_n 2, 1) := dk_44 (dk_at dksX0_functionOf_0 0 rfl rfl)
theorem dX0_functionOf_1 : decode cX0_functionOf 1 = .ok (.iconst 0, 1) := dk_3 (dk_at dksX0_functionOf_0 1 rfl rfl)
theorem dX0_functionOf_2 : decode cX0_functionOf 2 = .ok (.aload_n 0, 1) := dk_42 (dk_at dksX0_functionOf_0 2 rfl rfl)
theorem dX0_functionOf_3 : decode cX0_functionOf 3 = .ok (.iload_n 1, 1) := dk_27 (dk_at dksX0_functionOf_0 3 rfl rfl)
theorem dX0_functionOf_4 : decode cX0_functionOf 4 = .ok (.invokevirtual 25, 3) := dk_182 0 25 (dk_at dksX0_functionOf_0 4 rfl rfl)
theorem dX0_functionOf_7 : decode cX0_functionOf 7 = .ok (.i2l, 1) := dk_133 (dk_at dksX0_functionOf_0 7 rfl rfl)
theorem dX0_functionOf_8 : decode cX0_functionOf 8 = .ok (.lastore, 1) := dk_80 (dk_at dksX0_functionOf_0 8 rfl rfl)
theorem dX0_functionOf_9 : decode cX0_functionOf 9 = .ok (.goto 6, 3) := dk_167 0 6 (dk_at dksX0_functionOf_0 9 rfl rfl)
theorem dX0_functionOf_12 : decode cX0_functionOf 12 = .ok (.astore_n 3, 1) := dk_78 (dk_at dksX0_functionOf_0 12 rfl rfl)
theorem dX0_functionOf_13 : decode cX0_functionOf 13 = .ok (.iconst 1, 1) := dk_4 (dk_at dksX0_functionOf_0 13 rfl rfl)
theorem dX0_functionOf_14 : decode cX0_functionOf 14 = .ok (.ireturn, 1) := dk_172 (dk_at dksX0_functionOf_0 14 rfl rfl)
theorem dX0_functionOf_15 : decode cX0_functionOf 15 = .ok (.iconst 0, 1) := dk_3 (dk_at dksX0_functionOf_0 15 rfl rfl)
theorem dX0_functionOf_16 : decode cX0_functionOf 16 = .ok (.ireturn, 1) := dk_172 (dk_at dksX0_functionOf_0 16 rfl rfl)
abbrev cX0_setLimit : ByteArray := method_7_code
def yX0_setLimit : MethodName := ⟨RX0, "setLimit", "(LPointerAnalyzer;I[J)I"⟩
def dkwX0_setLimit_0 : List UInt8 := [44, 3, 42, 27, 182, 0, 28, 133, 80, 167, 0, 6, 78, 4, 172, 3, 172]
abbrev dktX0_setLimit_0 : List UInt8 := dkwX0_setLimit_0 ++ []
theorem dksX0_setLimit_0 : cX0_setLimit.data.toList.drop 0 = dktX0_setLimit_0 := by decide +kernel
theorem dX0_setLimit_0 : decode cX0_setLimit 0 = .ok (.aload_n 2, 1) := dk_44 (dk_at dksX0_setLimit_0 0 rfl rfl)
theorem dX0_setLimit_1 : decode cX0_setLimit 1 = .ok (.iconst 0, 1) := dk_3 (dk_at dksX0_setLimit_0 1 rfl rfl)
theorem dX0_setLimit_2 : decode cX0_setLimit 2 = .ok (.aload_n 0, 1) := dk_42 (dk_at dksX0_setLimit_0 2 rfl rfl)
theorem dX0_setLimit_3 : decode cX0_setLimit 3 = .ok (.iload_n 1, 1) := dk_27 (dk_at dksX0_setLimit_0 3 rfl rfl)
theorem dX0_setLimit_4 : decode cX0_setLimit 4 = .ok (.invokevirtual 28, 3) := dk_182 0 28 (dk_at dksX0_setLimit_0 4 rfl rfl)
theorem dX0_setLimit_7 : decode cX0_setLimit 7 = .ok (.i2l, 1) := dk_133 (dk_at dksX0_setLimit_0 7 rfl rfl)
theorem dX0_setLimit_8 : decode cX0_setLimit 8 = .ok (.lastore, 1) := dk_80 (dk_at dksX0_setLimit_0 8 rfl rfl)
theorem dX0_setLimit_9 : decode cX0_setLimit 9 = .ok (.goto 6, 3) := dk_167 0 6 (dk_at dksX0_setLimit_0 9 rfl rfl)
theorem dX0_setLimit_12 : decode cX0_setLimit 12 = .ok (.astore_n 3, 1) := dk_78 (dk_at dksX0_setLimit_0 12 rfl rfl)
theorem dX0_setLimit_13 : decode cX0_setLimit 13 = .ok (.iconst 1, 1) := dk_4 (dk_at dksX0_setLimit_0 13 rfl rfl)
theorem dX0_setLimit_14 : decode cX0_setLimit 14 = .ok (.ireturn, 1) := dk_172 (dk_at dksX0_setLimit_0 14 rfl rfl)
theorem dX0_setLimit_15 : decode cX0_setLimit 15 = .ok (.iconst 0, 1) := dk_3 (dk_at dksX0_setLimit_0 15 rfl rfl)
theorem dX0_setLimit_16 : decode cX0_setLimit 16 = .ok (.ireturn, 1) := dk_172 (dk_at dksX0_setLimit_0 16 rfl rfl)
abbrev cX0_contextCount : ByteArray := method_8_code
def yX0_contextCount : MethodName := ⟨RX0, "contextCount", "(LPointerAnalyzer;I[J)I"⟩
def dkwX0_contextCount_0 : List UInt8 := [44, 3, 42, 27, 182, 0, 31, 133, 80, 167, 0, 6, 78, 4, 172, 3, 172]
abbrev dktX0_contextCount_0 : List UInt8 := dkwX0_contextCount_0 ++ []
theorem dksX0_contextCount_0 : cX0_contextCount.data.toList.drop 0 = dktX0_contextCount_0 := by decide +kernel
theorem dX0_contextCount_0 : decode cX0_contextCount 0 = .ok (.aload_n 2, 1) := dk_44 (dk_at dksX0_contextCount_0 0 rfl rfl)
theorem dX0_contextCount_1 : decode cX0_contextCount 1 = .ok (.iconst 0, 1) := dk_3 (dk_at dksX0_contextCount_0 1 rfl rfl)
theorem dX0_contextCount_2 : decode cX0_contextCount 2 = .ok (.aload_n 0, 1) := dk_42 (dk_at dksX0_contextCount_0 2 rfl rfl)
theorem dX0_contextCount_3 : decode cX0_contextCount 3 = .ok (.iload_n 1, 1) := dk_27 (dk_at dksX0_contextCount_0 3 rfl rfl)
theorem dX0_contextCount_4 : decode cX0_contextCount 4 = .ok (.invokevirtual 31, 3) := dk_182 0 31 (dk_at dksX0_contextCount_0 4 rfl rfl)
theorem dX0_contextCount_7 : decode cX0_contextCount 7 = .ok (.i2l, 1) := dk_133 (dk_at dksX0_contextCount_0 7 rfl rfl)
theorem dX0_contextCount_8 : decode cX0_contextCount 8 = .ok (.lastore, 1) := dk_80 (dk_at dksX0_contextCount_0 8 rfl rfl)
theorem dX0_contextCount_9 : decode cX0_contextCount 9 = .ok (.goto 6, 3) := dk_167 0 6 (dk_at dksX0_contextCount_0 9 rfl rfl)
theorem dX0_contextCount_12 : decode cX0_contextCount 12 = .ok (.astore_n 3, 1) := dk_78 (dk_at dksX0_contextCount_0 12 rfl rfl)
theorem dX0_contextCount_13 : decode cX0_contextCount 13 = .ok (.iconst 1, 1) := dk_4 (dk_at dksX0_contextCount_0 13 rfl rfl)
theorem dX0_contextCount_14 : decode cX0_contextCount 14 = .ok (.ireturn, 1) := dk_172 (dk_at dksX0_contextCount_0 14 rfl rfl)
theorem dX0_contextCount_15 : decode cX0_contextCount 15 = .ok (.iconst 0, 1) := dk_3 (dk_at dksX0_contextCount_0 15 rfl rfl)
theorem dX0_contextCount_16 : decode cX0_contextCount 16 = .ok (.ireturn, 1) := dk_172 (dk_at dksX0_contextCount_0 16 rfl rfl)
abbrev cX0_contextLength : ByteArray := method_9_code
def yX0_contextLength : MethodName := ⟨RX0, "contextLength", "(LPointerAnalyzer;II[J)I"⟩
def dkwX0_contextLength_0 : List UInt8 := [45, 3, 42, 27, 28, 182, 0, 34, 133, 80, 167, 0, 7, 58, 4, 4, 172, 3, 172]
abbrev dktX0_contextLength_0 : List UInt8 := dkwX0_contextLength_0 ++ []
theorem dksX0_contextLength_0 : cX0_contextLength.data.toList.drop 0 = dktX0_contextLength_0 := by decide +kernel
theorem dX0_contextLength_0 : decode cX0_contextLength 0 = .ok (.aload_n 3, 1) := dk_45 (dk_at dksX0_contextLength_0 0 rfl rfl)
theorem dX0_contextLength_1 : decode cX0_contextLength 1 = .ok (.iconst 0, 1) := dk_3 (dk_at dksX0_contextLength_0 1 rfl rfl)
theorem dX0_contextLength_2 : decode cX0_contextLength 2 = .ok (.aload_n 0, 1) := dk_42 (dk_at dksX0_contextLength_0 2 rfl rfl)
theorem dX0_contextLength_3 : decode cX0_contextLength 3 = .ok (.iload_n 1, 1) := dk_27 (dk_at dksX0_contextLength_0 3 rfl rfl)
theorem dX0_contextLength_4 : decode cX0_contextLength 4 = .ok (.iload_n 2, 1) := dk_28 (dk_at dksX0_contextLength_0 4 rfl rfl)
theorem dX0_contextLength_5 : decode cX0_contextLength 5 = .ok (.invokevirtual 34, 3) := dk_182 0 34 (dk_at dksX0_contextLength_0 5 rfl rfl)
theorem dX0_contextLength_8 : decode cX0_contextLength 8 = .ok (.i2l, 1) := dk_133 (dk_at dksX0_contextLength_0 8 rfl rfl)
theorem dX0_contextLength_9 : decode cX0_contextLength 9 = .ok (.lastore, 1) := dk_80 (dk_at dksX0_contextLength_0 9 rfl rfl)
theorem dX0_contextLength_10 : decode cX0_contextLength 10 = .ok (.goto 7, 3) := dk_167 0 7 (dk_at dksX0_contextLength_0 10 rfl rfl)
theorem dX0_contextLength_13 : decode cX0_contextLength 13 = .ok (.astore 4, 2) := dk_58 4 (dk_at dksX0_contextLength_0 13 rfl rfl)
theorem dX0_contextLength_15 : decode cX0_contextLength 15 = .ok (.iconst 1, 1) := dk_4 (dk_at dksX0_contextLength_0 15 rfl rfl)
theorem dX0_contextLength_16 : decode cX0_contextLength 16 = .ok (.ireturn, 1) := dk_172 (dk_at dksX0_contextLength_0 16 rfl rfl)
theorem dX0_contextLength_17 : decode cX0_contextLength 17 = .ok (.iconst 0, 1) := dk_3 (dk_at dksX0_contextLength_0 17 rfl rfl)
theorem dX0_contextLength_18 : decode cX0_contextLength 18 = .ok (.ireturn, 1) := dk_172 (dk_at dksX0_contextLength_0 18 rfl rfl)
abbrev cX0_contextCall : ByteArray := method_10_code
def yX0_contextCall : MethodName := ⟨RX0, "contextCall", "(LPointerAnalyzer;III[J)I"⟩
def dkwX0_contextCall_0 : List UInt8 := [25, 4, 3, 42, 27, 28, 29, 182, 0, 38, 133, 80, 167, 0, 7, 58, 5, 4, 172, 3, 172]
abbrev dktX0_contextCall_0 : List UInt8 := dkwX0_contextCall_0 ++ []
theorem dksX0_contextCall_0 : cX0_contextCall.data.toList.drop 0 = dktX0_contextCall_0 := by decide +kernel
theorem dX0_contextCall_0 : decode cX0_contextCall 0 = .ok (.aload 4, 2) := dk_25 4 (dk_at dksX0_contextCall_0 0 rfl rfl)
theorem dX0_contextCall_2 : decode cX0_contextCall 2 = .ok (.iconst 0, 1) := dk_3 (dk_at dksX0_contextCall_0 2 rfl rfl)
theorem dX0_contextCall_3 : decode cX0_contextCall 3 = .ok (.aload_n 0, 1) := dk_42 (dk_at dksX0_contextCall_0 3 rfl rfl)
theorem dX0_contextCall_4 : decode cX0_contextCall 4 = .ok (.iload_n 1, 1) := dk_27 (dk_at dksX0_contextCall_0 4 rfl rfl)
theorem dX0_contextCall_5 : decode cX0_contextCall 5 = .ok (.iload_n 2, 1) := dk_28 (dk_at dksX0_contextCall_0 5 rfl rfl)
theorem dX0_contextCall_6 : decode cX0_contextCall 6 = .ok (.iload_n 3, 1) := dk_29 (dk_at dksX0_contextCall_0 6 rfl rfl)
theorem dX0_contextCall_7 : decode cX0_contextCall 7 = .ok (.invokevirtual 38, 3) := dk_182 0 38 (dk_at dksX0_contextCall_0 7 rfl rfl)
theorem dX0_contextCall_10 : decode cX0_contextCall 10 = .ok (.i2l, 1) := dk_133 (dk_at dksX0_contextCall_0 10 rfl rfl)
theorem dX0_contextCall_11 : decode cX0_contextCall 11 = .ok (.lastore, 1) := dk_80 (dk_at dksX0_contextCall_0 11 rfl rfl)
theorem dX0_contextCall_12 : decode cX0_contextCall 12 = .ok (.goto 7, 3) := dk_167 0 7 (dk_at dksX0_contextCall_0 12 rfl rfl)
theorem dX0_contextCall_15 : decode cX0_contextCall 15 = .ok (.astore 5, 2) := dk_58 5 (dk_at dksX0_contextCall_0 15 rfl rfl)
theorem dX0_contextCall_17 : decode cX0_contextCall 17 = .ok (.iconst 1, 1) := dk_4 (dk_at dksX0_contextCall_0 17 rfl rfl)
theorem dX0_contextCall_18 : decode cX0_contextCall 18 = .ok (.ireturn, 1) := dk_172 (dk_at dksX0_contextCall_0 18 rfl rfl)
theorem dX0_contextCall_19 : decode cX0_contextCall 19 = .ok (.iconst 0, 1) := dk_3 (dk_at dksX0_contextCall_0 19 rfl rfl)
theorem dX0_contextCall_20 : decode cX0_contextCall 20 = .ok (.ireturn, 1) := dk_172 (dk_at dksX0_contextCall_0 20 rfl rfl)
abbrev cX0_pointsTo : ByteArray := method_11_code
def yX0_pointsTo : MethodName := ⟨RX0, "pointsTo", "(LPointerAnalyzer;I[J)I"⟩
def dkwX0_pointsTo_0 : List UInt8 := [44, 3, 42, 27, 182, 0, 42, 80, 167, 0, 6, 78, 4, 172, 3, 172]
abbrev dktX0_pointsTo_0 : List UInt8 := dkwX0_pointsTo_0 ++ []
theorem dksX0_pointsTo_0 : cX0_pointsTo.data.toList.drop 0 = dktX0_pointsTo_0 := by decide +kernel
theorem dX0_pointsTo_0 : decode cX0_pointsTo 0 = .ok (.aload_n 2, 1) := dk_44 (dk_at dksX0_pointsTo_0 0 rfl rfl)
theorem dX0_pointsTo_1 : decode cX0_pointsTo 1 = .ok (.iconst 0, 1) := dk_3 (dk_at dksX0_pointsTo_0 1 rfl rfl)
theorem dX0_pointsTo_2 : decode cX0_pointsTo 2 = .ok (.aload_n 0, 1) := dk_42 (dk_at dksX0_pointsTo_0 2 rfl rfl)
theorem dX0_pointsTo_3 : decode cX0_pointsTo 3 = .ok (.iload_n 1, 1) := dk_27 (dk_at dksX0_pointsTo_0 3 rfl rfl)
theorem dX0_pointsTo_4 : decode cX0_pointsTo 4 = .ok (.invokevirtual 42, 3) := dk_182 0 42 (dk_at dksX0_pointsTo_0 4 rfl rfl)
theorem dX0_pointsTo_7 : decode cX0_pointsTo 7 = .ok (.lastore, 1) := dk_80 (dk_at dksX0_pointsTo_0 7 rfl rfl)
theorem dX0_pointsTo_8 : decode cX0_pointsTo 8 = .ok (.goto 6, 3) := dk_167 0 6 (dk_at dksX0_pointsTo_0 8 rfl rfl)
theorem dX0_pointsTo_11 : decode cX0_pointsTo 11 = .ok (.astore_n 3, 1) := dk_78 (dk_at dksX0_pointsTo_0 11 rfl rfl)
theorem dX0_pointsTo_12 : decode cX0_pointsTo 12 = .ok (.iconst 1, 1) := dk_4 (dk_at dksX0_pointsTo_0 12 rfl rfl)
theorem dX0_pointsTo_13 : decode cX0_pointsTo 13 = .ok (.ireturn, 1) := dk_172 (dk_at dksX0_pointsTo_0 13 rfl rfl)
theorem dX0_pointsTo_14 : decode cX0_pointsTo 14 = .ok (.iconst 0, 1) := dk_3 (dk_at dksX0_pointsTo_0 14 rfl rfl)
theorem dX0_pointsTo_15 : decode cX0_pointsTo 15 = .ok (.ireturn, 1) := dk_172 (dk_at dksX0_pointsTo_0 15 rfl rfl)
abbrev cX0_pointsToIn : ByteArray := method_12_code
def yX0_pointsToIn : MethodName := ⟨RX0, "pointsToIn", "(LPointerAnalyzer;II[J)I"⟩
def dkwX0_pointsToIn_0 : List UInt8 := [45, 3, 42, 27, 28, 182, 0, 46, 80, 167, 0, 7, 58, 4, 4, 172, 3, 172]
abbrev dktX0_pointsToIn_0 : List UInt8 := dkwX0_pointsToIn_0 ++ []
theorem dksX0_pointsToIn_0 : cX0_pointsToIn.data.toList.drop 0 = dktX0_pointsToIn_0 := by decide +kernel
theorem dX0_pointsToIn_0 : decode cX0_pointsToIn 0 = .ok (.aload_n 3, 1) := dk_45 (dk_at dksX0_pointsToIn_0 0 rfl rfl)
theorem dX0_pointsToIn_1 : decode cX0_pointsToIn 1 = .ok (.iconst 0, 1) := dk_3 (dk_at dksX0_pointsToIn_0 1 rfl rfl)
theorem dX0_pointsToIn_2 : decode cX0_pointsToIn 2 = .ok (.aload_n 0, 1) := dk_42 (dk_at dksX0_pointsToIn_0 2 rfl rfl)
theorem dX0_pointsToIn_3 : decode cX0_pointsToIn 3 = .ok (.iload_n 1, 1) := dk_27 (dk_at dksX0_pointsToIn_0 3 rfl rfl)
theorem dX0_pointsToIn_4 : decode cX0_pointsToIn 4 = .ok (.iload_n 2, 1) := dk_28 (dk_at dksX0_pointsToIn_0 4 rfl rfl)
theorem dX0_pointsToIn_5 : decode cX0_pointsToIn 5 = .ok (.invokevirtual 46, 3) := dk_182 0 46 (dk_at dksX0_pointsToIn_0 5 rfl rfl)
theorem dX0_pointsToIn_8 : decode cX0_pointsToIn 8 = .ok (.lastore, 1) := dk_80 (dk_at dksX0_pointsToIn_0 8 rfl rfl)
theorem dX0_pointsToIn_9 : decode cX0_pointsToIn 9 = .ok (.goto 7, 3) := dk_167 0 7 (dk_at dksX0_pointsToIn_0 9 rfl rfl)
theorem dX0_pointsToIn_12 : decode cX0_pointsToIn 12 = .ok (.astore 4, 2) := dk_58 4 (dk_at dksX0_pointsToIn_0 12 rfl rfl)
theorem dX0_pointsToIn_14 : decode cX0_pointsToIn 14 = .ok (.iconst 1, 1) := dk_4 (dk_at dksX0_pointsToIn_0 14 rfl rfl)
theorem dX0_pointsToIn_15 : decode cX0_pointsToIn 15 = .ok (.ireturn, 1) := dk_172 (dk_at dksX0_pointsToIn_0 15 rfl rfl)
theorem dX0_pointsToIn_16 : decode cX0_pointsToIn 16 = .ok (.iconst 0, 1) := dk_3 (dk_at dksX0_pointsToIn_0 16 rfl rfl)
theorem dX0_pointsToIn_17 : decode cX0_pointsToIn 17 = .ok (.ireturn, 1) := dk_172 (dk_at dksX0_pointsToIn_0 17 rfl rfl)
abbrev cX0_fieldPointsTo : ByteArray := method_13_code
def yX0_fieldPointsTo : MethodName := ⟨RX0, "fieldPointsTo", "(LPointerAnalyzer;II[J)I"⟩
def dkwX0_fieldPointsTo_0 : List UInt8 := [45, 3, 42, 27, 28, 182, 0, 50, 80, 167, 0, 7, 58, 4, 4, 172, 3, 172]
abbrev dktX0_fieldPointsTo_0 : List UInt8 := dkwX0_fieldPointsTo_0 ++ []
theorem dksX0_fieldPointsTo_0 : cX0_fieldPointsTo.data.toList.drop 0 = dktX0_fieldPointsTo_0 := by decide +kernel
theorem dX0_fieldPointsTo_0 : decode cX0_fieldPointsTo 0 = .ok (.aload_n 3, 1) := dk_45 (dk_at dksX0_fieldPointsTo_0 0 rfl rfl)
theorem dX0_fieldPointsTo_1 : decode cX0_fieldPointsTo 1 = .ok (.iconst 0, 1) := dk_3 (dk_at dksX0_fieldPointsTo_0 1 rfl rfl)
theorem dX0_fieldPointsTo_2 : decode cX0_fieldPointsTo 2 = .ok (.aload_n 0, 1) := dk_42 (dk_at dksX0_fieldPointsTo_0 2 rfl rfl)
theorem dX0_fieldPointsTo_3 : decode cX0_fieldPointsTo 3 = .ok (.iload_n 1, 1) := dk_27 (dk_at dksX0_fieldPointsTo_0 3 rfl rfl)
theorem dX0_fieldPointsTo_4 : decode cX0_fieldPointsTo 4 = .ok (.iload_n 2, 1) := dk_28 (dk_at dksX0_fieldPointsTo_0 4 rfl rfl)
theorem dX0_fieldPointsTo_5 : decode cX0_fieldPointsTo 5 = .ok (.invokevirtual 50, 3) := dk_182 0 50 (dk_at dksX0_fieldPointsTo_0 5 rfl rfl)
theorem dX0_fieldPointsTo_8 : decode cX0_fieldPointsTo 8 = .ok (.lastore, 1) := dk_80 (dk_at dksX0_fieldPointsTo_0 8 rfl rfl)
theorem dX0_fieldPointsTo_9 : decode cX0_fieldPointsTo 9 = .ok (.goto 7, 3) := dk_167 0 7 (dk_at dksX0_fieldPointsTo_0 9 rfl rfl)
theorem dX0_fieldPointsTo_12 : decode cX0_fieldPointsTo 12 = .ok (.astore 4, 2) := dk_58 4 (dk_at dksX0_fieldPointsTo_0 12 rfl rfl)
theorem dX0_fieldPointsTo_14 : decode cX0_fieldPointsTo 14 = .ok (.iconst 1, 1) := dk_4 (dk_at dksX0_fieldPointsTo_0 14 rfl rfl)
theorem dX0_fieldPointsTo_15 : decode cX0_fieldPointsTo 15 = .ok (.ireturn, 1) := dk_172 (dk_at dksX0_fieldPointsTo_0 15 rfl rfl)
theorem dX0_fieldPointsTo_16 : decode cX0_fieldPointsTo 16 = .ok (.iconst 0, 1) := dk_3 (dk_at dksX0_fieldPointsTo_0 16 rfl rfl)
theorem dX0_fieldPointsTo_17 : decode cX0_fieldPointsTo 17 = .ok (.ireturn, 1) := dk_172 (dk_at dksX0_fieldPointsTo_0 17 rfl rfl)
abbrev cX0_mayAlias : ByteArray := method_14_code
def yX0_mayAlias : MethodName := ⟨RX0, "mayAlias", "(LPointerAnalyzer;II[J)I"⟩
def dkwX0_mayAlias_1 : List UInt8 := [3, 172]
abbrev dktX0_mayAlias_1 : List UInt8 := dkwX0_mayAlias_1 ++ []
def dkwX0_mayAlias_0 : List UInt8 := [45, 3, 42, 27, 28, 182, 0, 53, 153, 0, 7, 10, 167, 0, 4, 9, 80, 167, 0, 7, 58, 4, 4, 172]
abbrev dktX0_mayAlias_0 : List UInt8 := dkwX0_mayAlias_0 ++ dktX0_mayAlias_1
theorem dksX0_mayAlias_0 : cX0_mayAlias.data.toList.drop 0 = dktX0_mayAlias_0 := by decide +kernel
theorem dksX0_mayAlias_1 : cX0_mayAlias.data.toList.drop 24 = dktX0_mayAlias_1 := dk_seg dksX0_mayAlias_0 24 rfl rfl
theorem dX0_mayAlias_0 : decode cX0_mayAlias 0 = .ok (.aload_n 3, 1) := dk_45 (dk_at dksX0_mayAlias_0 0 rfl rfl)
theorem dX0_mayAlias_1 : decode cX0_mayAlias 1 = .ok (.iconst 0, 1) := dk_3 (dk_at dksX0_mayAlias_0 1 rfl rfl)
theorem dX0_mayAlias_2 : decode cX0_mayAlias 2 = .ok (.aload_n 0, 1) := dk_42 (dk_at dksX0_mayAlias_0 2 rfl rfl)
theorem dX0_mayAlias_3 : decode cX0_mayAlias 3 = .ok (.iload_n 1, 1) := dk_27 (dk_at dksX0_mayAlias_0 3 rfl rfl)
theorem dX0_mayAlias_4 : decode cX0_mayAlias 4 = .ok (.iload_n 2, 1) := dk_28 (dk_at dksX0_mayAlias_0 4 rfl rfl)
theorem dX0_mayAlias_5 : decode cX0_mayAlias 5 = .ok (.invokevirtual 53, 3) := dk_182 0 53 (dk_at dksX0_mayAlias_0 5 rfl rfl)
theorem dX0_mayAlias_8 : decode cX0_mayAlias 8 = .ok (.ifCond .eq 7, 3) := dk_153 0 7 (dk_at dksX0_mayAlias_0 8 rfl rfl)
theorem dX0_mayAlias_11 : decode cX0_mayAlias 11 = .ok (.lconst 1, 1) := dk_10 (dk_at dksX0_mayAlias_0 11 rfl rfl)
theorem dX0_mayAlias_12 : decode cX0_mayAlias 12 = .ok (.goto 4, 3) := dk_167 0 4 (dk_at dksX0_mayAlias_0 12 rfl rfl)
theorem dX0_mayAlias_15 : decode cX0_mayAlias 15 = .ok (.lconst 0, 1) := dk_9 (dk_at dksX0_mayAlias_0 15 rfl rfl)
theorem dX0_mayAlias_16 : decode cX0_mayAlias 16 = .ok (.lastore, 1) := dk_80 (dk_at dksX0_mayAlias_0 16 rfl rfl)
theorem dX0_mayAlias_17 : decode cX0_mayAlias 17 = .ok (.goto 7, 3) := dk_167 0 7 (dk_at dksX0_mayAlias_0 17 rfl rfl)
theorem dX0_mayAlias_20 : decode cX0_mayAlias 20 = .ok (.astore 4, 2) := dk_58 4 (dk_at dksX0_mayAlias_0 20 rfl rfl)
theorem dX0_mayAlias_22 : decode cX0_mayAlias 22 = .ok (.iconst 1, 1) := dk_4 (dk_at dksX0_mayAlias_0 22 rfl rfl)
theorem dX0_mayAlias_23 : decode cX0_mayAlias 23 = .ok (.ireturn, 1) := dk_172 (dk_at dksX0_mayAlias_0 23 rfl rfl)
theorem dX0_mayAlias_24 : decode cX0_mayAlias 24 = .ok (.iconst 0, 1) := dk_3 (dk_at dksX0_mayAlias_1 0 rfl rfl)
theorem dX0_mayAlias_25 : decode cX0_mayAlias 25 = .ok (.ireturn, 1) := dk_172 (dk_at dksX0_mayAlias_1 1 rfl rfl)
abbrev cX0_reach : ByteArray := method_15_code
def yX0_reach : MethodName := ⟨RX0, "reach", "(LPointerAnalyzer;I[J)I"⟩
def dkwX0_reach_0 : List UInt8 := [44, 3, 42, 27, 182, 0, 57, 80, 167, 0, 6, 78, 4, 172, 3, 172]
abbrev dktX0_reach_0 : List UInt8 := dkwX0_reach_0 ++ []
theorem dksX0_reach_0 : cX0_reach.data.toList.drop 0 = dktX0_reach_0 := by decide +kernel
theorem dX0_reach_0 : decode cX0_reach 0 = .ok (.aload_n 2, 1) := dk_44 (dk_at dksX0_reach_0 0 rfl rfl)
theorem dX0_reach_1 : decode cX0_reach 1 = .ok (.iconst 0, 1) := dk_3 (dk_at dksX0_reach_0 1 rfl rfl)
theorem dX0_reach_2 : decode cX0_reach 2 = .ok (.aload_n 0, 1) := dk_42 (dk_at dksX0_reach_0 2 rfl rfl)
theorem dX0_reach_3 : decode cX0_reach 3 = .ok (.iload_n 1, 1) := dk_27 (dk_at dksX0_reach_0 3 rfl rfl)
theorem dX0_reach_4 : decode cX0_reach 4 = .ok (.invokevirtual 57, 3) := dk_182 0 57 (dk_at dksX0_reach_0 4 rfl rfl)
theorem dX0_reach_7 : decode cX0_reach 7 = .ok (.lastore, 1) := dk_80 (dk_at dksX0_reach_0 7 rfl rfl)
theorem dX0_reach_8 : decode cX0_reach 8 = .ok (.goto 6, 3) := dk_167 0 6 (dk_at dksX0_reach_0 8 rfl rfl)
theorem dX0_reach_11 : decode cX0_reach 11 = .ok (.astore_n 3, 1) := dk_78 (dk_at dksX0_reach_0 11 rfl rfl)
theorem dX0_reach_12 : decode cX0_reach 12 = .ok (.iconst 1, 1) := dk_4 (dk_at dksX0_reach_0 12 rfl rfl)
theorem dX0_reach_13 : decode cX0_reach 13 = .ok (.ireturn, 1) := dk_172 (dk_at dksX0_reach_0 13 rfl rfl)
theorem dX0_reach_14 : decode cX0_reach 14 = .ok (.iconst 0, 1) := dk_3 (dk_at dksX0_reach_0 14 rfl rfl)
theorem dX0_reach_15 : decode cX0_reach 15 = .ok (.ireturn, 1) := dk_172 (dk_at dksX0_reach_0 15 rfl rfl)
abbrev cX0_rank : ByteArray := method_16_code
def yX0_rank : MethodName := ⟨RX0, "rank", "(LPointerAnalyzer;II[J)I"⟩
def dkwX0_rank_0 : List UInt8 := [45, 3, 42, 27, 28, 182, 0, 60, 133, 80, 167, 0, 11, 58, 4, 4, 172, 58, 4, 5, 172, 3, 172]
abbrev dktX0_rank_0 : List UInt8 := dkwX0_rank_0 ++ []
theorem dksX0_rank_0 : cX0_rank.data.toList.drop 0 = dktX0_rank_0 := by decide +kernel
theorem dX0_rank_0 : decode cX0_rank 0 = .ok (.aload_n 3, 1) := dk_45 (dk_at dksX0_rank_0 0 rfl rfl)
theorem dX0_rank_1 : decode cX0_rank 1 = .ok (.iconst 0, 1) := dk_3 (dk_at dksX0_rank_0 1 rfl rfl)
theorem dX0_rank_2 : decode cX0_rank 2 = .ok (.aload_n 0, 1) := dk_42 (dk_at dksX0_rank_0 2 rfl rfl)
theorem dX0_rank_3 : decode cX0_rank 3 = .ok (.iload_n 1, 1) := dk_27 (dk_at dksX0_rank_0 3 rfl rfl)
theorem dX0_rank_4 : decode cX0_rank 4 = .ok (.iload_n 2, 1) := dk_28 (dk_at dksX0_rank_0 4 rfl rfl)
theorem dX0_rank_5 : decode cX0_rank 5 = .ok (.invokevirtual 60, 3) := dk_182 0 60 (dk_at dksX0_rank_0 5 rfl rfl)
theorem dX0_rank_8 : decode cX0_rank 8 = .ok (.i2l, 1) := dk_133 (dk_at dksX0_rank_0 8 rfl rfl)
theorem dX0_rank_9 : decode cX0_rank 9 = .ok (.lastore, 1) := dk_80 (dk_at dksX0_rank_0 9 rfl rfl)
theorem dX0_rank_10 : decode cX0_rank 10 = .ok (.goto 11, 3) := dk_167 0 11 (dk_at dksX0_rank_0 10 rfl rfl)
theorem dX0_rank_13 : decode cX0_rank 13 = .ok (.astore 4, 2) := dk_58 4 (dk_at dksX0_rank_0 13 rfl rfl)
theorem dX0_rank_15 : decode cX0_rank 15 = .ok (.iconst 1, 1) := dk_4 (dk_at dksX0_rank_0 15 rfl rfl)
theorem dX0_rank_16 : decode cX0_rank 16 = .ok (.ireturn, 1) := dk_172 (dk_at dksX0_rank_0 16 rfl rfl)
theorem dX0_rank_17 : decode cX0_rank 17 = .ok (.astore 4, 2) := dk_58 4 (dk_at dksX0_rank_0 17 rfl rfl)
theorem dX0_rank_19 : decode cX0_rank 19 = .ok (.iconst 2, 1) := dk_5 (dk_at dksX0_rank_0 19 rfl rfl)
theorem dX0_rank_20 : decode cX0_rank 20 = .ok (.ireturn, 1) := dk_172 (dk_at dksX0_rank_0 20 rfl rfl)
theorem dX0_rank_21 : decode cX0_rank 21 = .ok (.iconst 0, 1) := dk_3 (dk_at dksX0_rank_0 21 rfl rfl)
theorem dX0_rank_22 : decode cX0_rank 22 = .ok (.ireturn, 1) := dk_172 (dk_at dksX0_rank_0 22 rfl rfl)
abbrev cX0_reason : ByteArray := method_17_code
def yX0_reason : MethodName := ⟨RX0, "reason", "(LPointerAnalyzer;II[J)I"⟩
def dkwX0_reason_0 : List UInt8 := [45, 3, 42, 27, 28, 182, 0, 65, 133, 80, 167, 0, 11, 58, 4, 4, 172, 58, 4, 5, 172, 3, 172]
abbrev dktX0_reason_0 : List UInt8 := dkwX0_reason_0 ++ []
theorem dksX0_reason_0 : cX0_reason.data.toList.drop 0 = dktX0_reason_0 := by decide +kernel
theorem dX0_reason_0 : decode cX0_reason 0 = .ok (.aload_n 3, 1) := dk_45 (dk_at dksX0_reason_0 0 rfl rfl)
theorem dX0_reason_1 : decode cX0_reason 1 = .ok (.iconst 0, 1) := dk_3 (dk_at dksX0_reason_0 1 rfl rfl)
theorem dX0_reason_2 : decode cX0_reason 2 = .ok (.aload_n 0, 1) := dk_42 (dk_at dksX0_reason_0 2 rfl rfl)
theorem dX0_reason_3 : decode cX0_reason 3 = .ok (.iload_n 1, 1) := dk_27 (dk_at dksX0_reason_0 3 rfl rfl)
theorem dX0_reason_4 : decode cX0_reason 4 = .ok (.iload_n 2, 1) := dk_28 (dk_at dksX0_reason_0 4 rfl rfl)
theorem dX0_reason_5 : decode cX0_reason 5 = .ok (.invokevirtual 65, 3) := dk_182 0 65 (dk_at dksX0_reason_0 5 rfl rfl)
theorem dX0_reason_8 : decode cX0_reason 8 = .ok (.i2l, 1) := dk_133 (dk_at dksX0_reason_0 8 rfl rfl)
theorem dX0_reason_9 : decode cX0_reason 9 = .ok (.lastore, 1) := dk_80 (dk_at dksX0_reason_0 9 rfl rfl)
theorem dX0_reason_10 : decode cX0_reason 10 = .ok (.goto 11, 3) := dk_167 0 11 (dk_at dksX0_reason_0 10 rfl rfl)
theorem dX0_reason_13 : decode cX0_reason 13 = .ok (.astore 4, 2) := dk_58 4 (dk_at dksX0_reason_0 13 rfl rfl)
theorem dX0_reason_15 : decode cX0_reason 15 = .ok (.iconst 1, 1) := dk_4 (dk_at dksX0_reason_0 15 rfl rfl)
theorem dX0_reason_16 : decode cX0_reason 16 = .ok (.ireturn, 1) := dk_172 (dk_at dksX0_reason_0 16 rfl rfl)
theorem dX0_reason_17 : decode cX0_reason 17 = .ok (.astore 4, 2) := dk_58 4 (dk_at dksX0_reason_0 17 rfl rfl)
theorem dX0_reason_19 : decode cX0_reason 19 = .ok (.iconst 2, 1) := dk_5 (dk_at dksX0_reason_0 19 rfl rfl)
theorem dX0_reason_20 : decode cX0_reason 20 = .ok (.ireturn, 1) := dk_172 (dk_at dksX0_reason_0 20 rfl rfl)
theorem dX0_reason_21 : decode cX0_reason 21 = .ok (.iconst 0, 1) := dk_3 (dk_at dksX0_reason_0 21 rfl rfl)
theorem dX0_reason_22 : decode cX0_reason 22 = .ok (.ireturn, 1) := dk_172 (dk_at dksX0_reason_0 22 rfl rfl)
abbrev cX0_unifiedTargets : ByteArray := method_18_code
def yX0_unifiedTargets : MethodName := ⟨RX0, "unifiedTargets", "(LPointerAnalyzer;I[J)I"⟩
def dkwX0_unifiedTargets_0 : List UInt8 := [44, 3, 42, 27, 182, 0, 68, 80, 167, 0, 6, 78, 4, 172, 3, 172]
abbrev dktX0_unifiedTargets_0 : List UInt8 := dkwX0_unifiedTargets_0 ++ []
theorem dksX0_unifiedTargets_0 : cX0_unifiedTargets.data.toList.drop 0 = dktX0_unifiedTargets_0 := by decide +kernel
theorem dX0_unifiedTargets_0 : decode cX0_unifiedTargets 0 = .ok (.aload_n 2, 1) := dk_44 (dk_at dksX0_unifiedTargets_0 0 rfl rfl)
theorem dX0_unifiedTargets_1 : decode cX0_unifiedTargets 1 = .ok (.iconst 0, 1) := dk_3 (dk_at dksX0_unifiedTargets_0 1 rfl rfl)
theorem dX0_unifiedTargets_2 : decode cX0_unifiedTargets 2 = .ok (.aload_n 0, 1) := dk_42 (dk_at dksX0_unifiedTargets_0 2 rfl rfl)
theorem dX0_unifiedTargets_3 : decode cX0_unifiedTargets 3 = .ok (.iload_n 1, 1) := dk_27 (dk_at dksX0_unifiedTargets_0 3 rfl rfl)
theorem dX0_unifiedTargets_4 : decode cX0_unifiedTargets 4 = .ok (.invokevirtual 68, 3) := dk_182 0 68 (dk_at dksX0_unifiedTargets_0 4 rfl rfl)
theorem dX0_unifiedTargets_7 : decode cX0_unifiedTargets 7 = .ok (.lastore, 1) := dk_80 (dk_at dksX0_unifiedTargets_0 7 rfl rfl)
theorem dX0_unifiedTargets_8 : decode cX0_unifiedTargets 8 = .ok (.goto 6, 3) := dk_167 0 6 (dk_at dksX0_unifiedTargets_0 8 rfl rfl)
theorem dX0_unifiedTargets_11 : decode cX0_unifiedTargets 11 = .ok (.astore_n 3, 1) := dk_78 (dk_at dksX0_unifiedTargets_0 11 rfl rfl)
theorem dX0_unifiedTargets_12 : decode cX0_unifiedTargets 12 = .ok (.iconst 1, 1) := dk_4 (dk_at dksX0_unifiedTargets_0 12 rfl rfl)
theorem dX0_unifiedTargets_13 : decode cX0_unifiedTargets 13 = .ok (.ireturn, 1) := dk_172 (dk_at dksX0_unifiedTargets_0 13 rfl rfl)
theorem dX0_unifiedTargets_14 : decode cX0_unifiedTargets 14 = .ok (.iconst 0, 1) := dk_3 (dk_at dksX0_unifiedTargets_0 14 rfl rfl)
theorem dX0_unifiedTargets_15 : decode cX0_unifiedTargets 15 = .ok (.ireturn, 1) := dk_172 (dk_at dksX0_unifiedTargets_0 15 rfl rfl)
abbrev cX0_areUnified : ByteArray := method_19_code
def yX0_areUnified : MethodName := ⟨RX0, "areUnified", "(LPointerAnalyzer;II[J)I"⟩
def dkwX0_areUnified_1 : List UInt8 := [3, 172]
abbrev dktX0_areUnified_1 : List UInt8 := dkwX0_areUnified_1 ++ []
def dkwX0_areUnified_0 : List UInt8 := [45, 3, 42, 27, 28, 182, 0, 71, 153, 0, 7, 10, 167, 0, 4, 9, 80, 167, 0, 7, 58, 4, 4, 172]
abbrev dktX0_areUnified_0 : List UInt8 := dkwX0_areUnified_0 ++ dktX0_areUnified_1
theorem dksX0_areUnified_0 : cX0_areUnified.data.toList.drop 0 = dktX0_areUnified_0 := by decide +kernel
theorem dksX0_areUnified_1 : cX0_areUnified.data.toList.drop 24 = dktX0_areUnified_1 := dk_seg dksX0_areUnified_0 24 rfl rfl
theorem dX0_areUnified_0 : decode cX0_areUnified 0 = .ok (.aload_n 3, 1) := dk_45 (dk_at dksX0_areUnified_0 0 rfl rfl)
theorem dX0_areUnified_1 : decode cX0_areUnified 1 = .ok (.iconst 0, 1) := dk_3 (dk_at dksX0_areUnified_0 1 rfl rfl)
theorem dX0_areUnified_2 : decode cX0_areUnified 2 = .ok (.aload_n 0, 1) := dk_42 (dk_at dksX0_areUnified_0 2 rfl rfl)
theorem dX0_areUnified_3 : decode cX0_areUnified 3 = .ok (.iload_n 1, 1) := dk_27 (dk_at dksX0_areUnified_0 3 rfl rfl)
theorem dX0_areUnified_4 : decode cX0_areUnified 4 = .ok (.iload_n 2, 1) := dk_28 (dk_at dksX0_areUnified_0 4 rfl rfl)
theorem dX0_areUnified_5 : decode cX0_areUnified 5 = .ok (.invokevirtual 71, 3) := dk_182 0 71 (dk_at dksX0_areUnified_0 5 rfl rfl)
theorem dX0_areUnified_8 : decode cX0_areUnified 8 = .ok (.ifCond .eq 7, 3) := dk_153 0 7 (dk_at dksX0_areUnified_0 8 rfl rfl)
theorem dX0_areUnified_11 : decode cX0_areUnified 11 = .ok (.lconst 1, 1) := dk_10 (dk_at dksX0_areUnified_0 11 rfl rfl)
theorem dX0_areUnified_12 : decode cX0_areUnified 12 = .ok (.goto 4, 3) := dk_167 0 4 (dk_at dksX0_areUnified_0 12 rfl rfl)
theorem dX0_areUnified_15 : decode cX0_areUnified 15 = .ok (.lconst 0, 1) := dk_9 (dk_at dksX0_areUnified_0 15 rfl rfl)
theorem dX0_areUnified_16 : decode cX0_areUnified 16 = .ok (.lastore, 1) := dk_80 (dk_at dksX0_areUnified_0 16 rfl rfl)
theorem dX0_areUnified_17 : decode cX0_areUnified 17 = .ok (.goto 7, 3) := dk_167 0 7 (dk_at dksX0_areUnified_0 17 rfl rfl)
theorem dX0_areUnified_20 : decode cX0_areUnified 20 = .ok (.astore 4, 2) := dk_58 4 (dk_at dksX0_areUnified_0 20 rfl rfl)
theorem dX0_areUnified_22 : decode cX0_areUnified 22 = .ok (.iconst 1, 1) := dk_4 (dk_at dksX0_areUnified_0 22 rfl rfl)
theorem dX0_areUnified_23 : decode cX0_areUnified 23 = .ok (.ireturn, 1) := dk_172 (dk_at dksX0_areUnified_0 23 rfl rfl)
theorem dX0_areUnified_24 : decode cX0_areUnified 24 = .ok (.iconst 0, 1) := dk_3 (dk_at dksX0_areUnified_1 0 rfl rfl)
theorem dX0_areUnified_25 : decode cX0_areUnified 25 = .ok (.ireturn, 1) := dk_172 (dk_at dksX0_areUnified_1 1 rfl rfl)
abbrev cX0_modifies : ByteArray := method_20_code
def yX0_modifies : MethodName := ⟨RX0, "modifies", "(LPointerAnalyzer;I[J)I"⟩
def dkwX0_modifies_0 : List UInt8 := [44, 3, 42, 27, 182, 0, 74, 80, 167, 0, 6, 78, 4, 172, 3, 172]
abbrev dktX0_modifies_0 : List UInt8 := dkwX0_modifies_0 ++ []
theorem dksX0_modifies_0 : cX0_modifies.data.toList.drop 0 = dktX0_modifies_0 := by decide +kernel
theorem dX0_modifies_0 : decode cX0_modifies 0 = .ok (.aload_n 2, 1) := dk_44 (dk_at dksX0_modifies_0 0 rfl rfl)
theorem dX0_modifies_1 : decode cX0_modifies 1 = .ok (.iconst 0, 1) := dk_3 (dk_at dksX0_modifies_0 1 rfl rfl)
theorem dX0_modifies_2 : decode cX0_modifies 2 = .ok (.aload_n 0, 1) := dk_42 (dk_at dksX0_modifies_0 2 rfl rfl)
theorem dX0_modifies_3 : decode cX0_modifies 3 = .ok (.iload_n 1, 1) := dk_27 (dk_at dksX0_modifies_0 3 rfl rfl)
theorem dX0_modifies_4 : decode cX0_modifies 4 = .ok (.invokevirtual 74, 3) := dk_182 0 74 (dk_at dksX0_modifies_0 4 rfl rfl)
theorem dX0_modifies_7 : decode cX0_modifies 7 = .ok (.lastore, 1) := dk_80 (dk_at dksX0_modifies_0 7 rfl rfl)
theorem dX0_modifies_8 : decode cX0_modifies 8 = .ok (.goto 6, 3) := dk_167 0 6 (dk_at dksX0_modifies_0 8 rfl rfl)
theorem dX0_modifies_11 : decode cX0_modifies 11 = .ok (.astore_n 3, 1) := dk_78 (dk_at dksX0_modifies_0 11 rfl rfl)
theorem dX0_modifies_12 : decode cX0_modifies 12 = .ok (.iconst 1, 1) := dk_4 (dk_at dksX0_modifies_0 12 rfl rfl)
theorem dX0_modifies_13 : decode cX0_modifies 13 = .ok (.ireturn, 1) := dk_172 (dk_at dksX0_modifies_0 13 rfl rfl)
theorem dX0_modifies_14 : decode cX0_modifies 14 = .ok (.iconst 0, 1) := dk_3 (dk_at dksX0_modifies_0 14 rfl rfl)
theorem dX0_modifies_15 : decode cX0_modifies 15 = .ok (.ireturn, 1) := dk_172 (dk_at dksX0_modifies_0 15 rfl rfl)
abbrev cX0_isReachable : ByteArray := method_21_code
def yX0_isReachable : MethodName := ⟨RX0, "isReachable", "(LPointerAnalyzer;I[J)I"⟩
def dkwX0_isReachable_0 : List UInt8 := [44, 3, 42, 27, 182, 0, 77, 153, 0, 7, 10, 167, 0, 4, 9, 80, 167, 0, 6, 78, 4, 172, 3, 172]
abbrev dktX0_isReachable_0 : List UInt8 := dkwX0_isReachable_0 ++ []
theorem dksX0_isReachable_0 : cX0_isReachable.data.toList.drop 0 = dktX0_isReachable_0 := by decide +kernel
theorem dX0_isReachable_0 : decode cX0_isReachable 0 = .ok (.aload_n 2, 1) := dk_44 (dk_at dksX0_isReachable_0 0 rfl rfl)
theorem dX0_isReachable_1 : decode cX0_isReachable 1 = .ok (.iconst 0, 1) := dk_3 (dk_at dksX0_isReachable_0 1 rfl rfl)
theorem dX0_isReachable_2 : decode cX0_isReachable 2 = .ok (.aload_n 0, 1) := dk_42 (dk_at dksX0_isReachable_0 2 rfl rfl)
theorem dX0_isReachable_3 : decode cX0_isReachable 3 = .ok (.iload_n 1, 1) := dk_27 (dk_at dksX0_isReachable_0 3 rfl rfl)
theorem dX0_isReachable_4 : decode cX0_isReachable 4 = .ok (.invokevirtual 77, 3) := dk_182 0 77 (dk_at dksX0_isReachable_0 4 rfl rfl)
theorem dX0_isReachable_7 : decode cX0_isReachable 7 = .ok (.ifCond .eq 7, 3) := dk_153 0 7 (dk_at dksX0_isReachable_0 7 rfl rfl)
theorem dX0_isReachable_10 : decode cX0_isReachable 10 = .ok (.lconst 1, 1) := dk_10 (dk_at dksX0_isReachable_0 10 rfl rfl)
theorem dX0_isReachable_11 : decode cX0_isReachable 11 = .ok (.goto 4, 3) := dk_167 0 4 (dk_at dksX0_isReachable_0 11 rfl rfl)
theorem dX0_isReachable_14 : decode cX0_isReachable 14 = .ok (.lconst 0, 1) := dk_9 (dk_at dksX0_isReachable_0 14 rfl rfl)
theorem dX0_isReachable_15 : decode cX0_isReachable 15 = .ok (.lastore, 1) := dk_80 (dk_at dksX0_isReachable_0 15 rfl rfl)
theorem dX0_isReachable_16 : decode cX0_isReachable 16 = .ok (.goto 6, 3) := dk_167 0 6 (dk_at dksX0_isReachable_0 16 rfl rfl)
theorem dX0_isReachable_19 : decode cX0_isReachable 19 = .ok (.astore_n 3, 1) := dk_78 (dk_at dksX0_isReachable_0 19 rfl rfl)
theorem dX0_isReachable_20 : decode cX0_isReachable 20 = .ok (.iconst 1, 1) := dk_4 (dk_at dksX0_isReachable_0 20 rfl rfl)
theorem dX0_isReachable_21 : decode cX0_isReachable 21 = .ok (.ireturn, 1) := dk_172 (dk_at dksX0_isReachable_0 21 rfl rfl)
theorem dX0_isReachable_22 : decode cX0_isReachable 22 = .ok (.iconst 0, 1) := dk_3 (dk_at dksX0_isReachable_0 22 rfl rfl)
theorem dX0_isReachable_23 : decode cX0_isReachable 23 = .ok (.ireturn, 1) := dk_172 (dk_at dksX0_isReachable_0 23 rfl rfl)
abbrev cX0_isRecursive : ByteArray := method_22_code
def yX0_isRecursive : MethodName := ⟨RX0, "isRecursive", "(LPointerAnalyzer;I[J)I"⟩
def dkwX0_isRecursive_0 : List UInt8 := [44, 3, 42, 27, 182, 0, 81, 153, 0, 7, 10, 167, 0, 4, 9, 80, 167, 0, 6, 78, 4, 172, 3, 172]
abbrev dktX0_isRecursive_0 : List UInt8 := dkwX0_isRecursive_0 ++ []
theorem dksX0_isRecursive_0 : cX0_isRecursive.data.toList.drop 0 = dktX0_isRecursive_0 := by decide +kernel
theorem dX0_isRecursive_0 : decode cX0_isRecursive 0 = .ok (.aload_n 2, 1) := dk_44 (dk_at dksX0_isRecursive_0 0 rfl rfl)
theorem dX0_isRecursive_1 : decode cX0_isRecursive 1 = .ok (.iconst 0, 1) := dk_3 (dk_at dksX0_isRecursive_0 1 rfl rfl)
theorem dX0_isRecursive_2 : decode cX0_isRecursive 2 = .ok (.aload_n 0, 1) := dk_42 (dk_at dksX0_isRecursive_0 2 rfl rfl)
theorem dX0_isRecursive_3 : decode cX0_isRecursive 3 = .ok (.iload_n 1, 1) := dk_27 (dk_at dksX0_isRecursive_0 3 rfl rfl)
theorem dX0_isRecursive_4 : decode cX0_isRecursive 4 = .ok (.invokevirtual 81, 3) := dk_182 0 81 (dk_at dksX0_isRecursive_0 4 rfl rfl)
theorem dX0_isRecursive_7 : decode cX0_isRecursive 7 = .ok (.ifCond .eq 7, 3) := dk_153 0 7 (dk_at dksX0_isRecursive_0 7 rfl rfl)
theorem dX0_isRecursive_10 : decode cX0_isRecursive 10 = .ok (.lconst 1, 1) := dk_10 (dk_at dksX0_isRecursive_0 10 rfl rfl)
theorem dX0_isRecursive_11 : decode cX0_isRecursive 11 = .ok (.goto 4, 3) := dk_167 0 4 (dk_at dksX0_isRecursive_0 11 rfl rfl)
theorem dX0_isRecursive_14 : decode cX0_isRecursive 14 = .ok (.lconst 0, 1) := dk_9 (dk_at dksX0_isRecursive_0 14 rfl rfl)
theorem dX0_isRecursive_15 : decode cX0_isRecursive 15 = .ok (.lastore, 1) := dk_80 (dk_at dksX0_isRecursive_0 15 rfl rfl)
theorem dX0_isRecursive_16 : decode cX0_isRecursive 16 = .ok (.goto 6, 3) := dk_167 0 6 (dk_at dksX0_isRecursive_0 16 rfl rfl)
theorem dX0_isRecursive_19 : decode cX0_isRecursive 19 = .ok (.astore_n 3, 1) := dk_78 (dk_at dksX0_isRecursive_0 19 rfl rfl)
theorem dX0_isRecursive_20 : decode cX0_isRecursive 20 = .ok (.iconst 1, 1) := dk_4 (dk_at dksX0_isRecursive_0 20 rfl rfl)
theorem dX0_isRecursive_21 : decode cX0_isRecursive 21 = .ok (.ireturn, 1) := dk_172 (dk_at dksX0_isRecursive_0 21 rfl rfl)
theorem dX0_isRecursive_22 : decode cX0_isRecursive 22 = .ok (.iconst 0, 1) := dk_3 (dk_at dksX0_isRecursive_0 22 rfl rfl)
theorem dX0_isRecursive_23 : decode cX0_isRecursive 23 = .ok (.ireturn, 1) := dk_172 (dk_at dksX0_isRecursive_0 23 rfl rfl)
abbrev cX0_cycleOf : ByteArray := method_23_code
def yX0_cycleOf : MethodName := ⟨RX0, "cycleOf", "(LPointerAnalyzer;I[J)I"⟩
def dkwX0_cycleOf_0 : List UInt8 := [44, 3, 42, 27, 182, 0, 84, 133, 80, 167, 0, 6, 78, 4, 172, 3, 172]
abbrev dktX0_cycleOf_0 : List UInt8 := dkwX0_cycleOf_0 ++ []
theorem dksX0_cycleOf_0 : cX0_cycleOf.data.toList.drop 0 = dktX0_cycleOf_0 := by decide +kernel
theorem dX0_cycleOf_0 : decode cX0_cycleOf 0 = .ok (.aload_n 2, 1) := dk_44 (dk_at dksX0_cycleOf_0 0 rfl rfl)
theorem dX0_cycleOf_1 : decode cX0_cycleOf 1 = .ok (.iconst 0, 1) := dk_3 (dk_at dksX0_cycleOf_0 1 rfl rfl)
theorem dX0_cycleOf_2 : decode cX0_cycleOf 2 = .ok (.aload_n 0, 1) := dk_42 (dk_at dksX0_cycleOf_0 2 rfl rfl)
theorem dX0_cycleOf_3 : decode cX0_cycleOf 3 = .ok (.iload_n 1, 1) := dk_27 (dk_at dksX0_cycleOf_0 3 rfl rfl)
theorem dX0_cycleOf_4 : decode cX0_cycleOf 4 = .ok (.invokevirtual 84, 3) := dk_182 0 84 (dk_at dksX0_cycleOf_0 4 rfl rfl)
theorem dX0_cycleOf_7 : decode cX0_cycleOf 7 = .ok (.i2l, 1) := dk_133 (dk_at dksX0_cycleOf_0 7 rfl rfl)
theorem dX0_cycleOf_8 : decode cX0_cycleOf 8 = .ok (.lastore, 1) := dk_80 (dk_at dksX0_cycleOf_0 8 rfl rfl)
theorem dX0_cycleOf_9 : decode cX0_cycleOf 9 = .ok (.goto 6, 3) := dk_167 0 6 (dk_at dksX0_cycleOf_0 9 rfl rfl)
theorem dX0_cycleOf_12 : decode cX0_cycleOf 12 = .ok (.astore_n 3, 1) := dk_78 (dk_at dksX0_cycleOf_0 12 rfl rfl)
theorem dX0_cycleOf_13 : decode cX0_cycleOf 13 = .ok (.iconst 1, 1) := dk_4 (dk_at dksX0_cycleOf_0 13 rfl rfl)
theorem dX0_cycleOf_14 : decode cX0_cycleOf 14 = .ok (.ireturn, 1) := dk_172 (dk_at dksX0_cycleOf_0 14 rfl rfl)
theorem dX0_cycleOf_15 : decode cX0_cycleOf 15 = .ok (.iconst 0, 1) := dk_3 (dk_at dksX0_cycleOf_0 15 rfl rfl)
theorem dX0_cycleOf_16 : decode cX0_cycleOf 16 = .ok (.ireturn, 1) := dk_172 (dk_at dksX0_cycleOf_0 16 rfl rfl)
abbrev cX0_observed : ByteArray := method_24_code
def yX0_observed : MethodName := ⟨RX0, "observed", "(LPointerAnalyzer;I[J)I"⟩
def dkwX0_observed_0 : List UInt8 := [44, 3, 42, 27, 182, 0, 87, 80, 167, 0, 6, 78, 4, 172, 3, 172]
abbrev dktX0_observed_0 : List UInt8 := dkwX0_observed_0 ++ []
theorem dksX0_observed_0 : cX0_observed.data.toList.drop 0 = dktX0_observed_0 := by decide +kernel
theorem dX0_observed_0 : decode cX0_observed 0 = .ok (.aload_n 2, 1) := dk_44 (dk_at dksX0_observed_0 0 rfl rfl)
theorem dX0_observed_1 : decode cX0_observed 1 = .ok (.iconst 0, 1) := dk_3 (dk_at dksX0_observed_0 1 rfl rfl)
theorem dX0_observed_2 : decode cX0_observed 2 = .ok (.aload_n 0, 1) := dk_42 (dk_at dksX0_observed_0 2 rfl rfl)
theorem dX0_observed_3 : decode cX0_observed 3 = .ok (.iload_n 1, 1) := dk_27 (dk_at dksX0_observed_0 3 rfl rfl)
theorem dX0_observed_4 : decode cX0_observed 4 = .ok (.invokevirtual 87, 3) := dk_182 0 87 (dk_at dksX0_observed_0 4 rfl rfl)
theorem dX0_observed_7 : decode cX0_observed 7 = .ok (.lastore, 1) := dk_80 (dk_at dksX0_observed_0 7 rfl rfl)
theorem dX0_observed_8 : decode cX0_observed 8 = .ok (.goto 6, 3) := dk_167 0 6 (dk_at dksX0_observed_0 8 rfl rfl)
theorem dX0_observed_11 : decode cX0_observed 11 = .ok (.astore_n 3, 1) := dk_78 (dk_at dksX0_observed_0 11 rfl rfl)
theorem dX0_observed_12 : decode cX0_observed 12 = .ok (.iconst 1, 1) := dk_4 (dk_at dksX0_observed_0 12 rfl rfl)
theorem dX0_observed_13 : decode cX0_observed 13 = .ok (.ireturn, 1) := dk_172 (dk_at dksX0_observed_0 13 rfl rfl)
theorem dX0_observed_14 : decode cX0_observed 14 = .ok (.iconst 0, 1) := dk_3 (dk_at dksX0_observed_0 14 rfl rfl)
theorem dX0_observed_15 : decode cX0_observed 15 = .ok (.ireturn, 1) := dk_172 (dk_at dksX0_observed_0 15 rfl rfl)
abbrev cX0_fieldObserved : ByteArray := method_25_code
def yX0_fieldObserved : MethodName := ⟨RX0, "fieldObserved", "(LPointerAnalyzer;II[J)I"⟩
def dkwX0_fieldObserved_0 : List UInt8 := [45, 3, 42, 27, 28, 182, 0, 90, 80, 167, 0, 7, 58, 4, 4, 172, 3, 172]
abbrev dktX0_fieldObserved_0 : List UInt8 := dkwX0_fieldObserved_0 ++ []
theorem dksX0_fieldObserved_0 : cX0_fieldObserved.data.toList.drop 0 = dktX0_fieldObserved_0 := by decide +kernel
theorem dX0_fieldObserved_0 : decode cX0_fieldObserved 0 = .ok (.aload_n 3, 1) := dk_45 (dk_at dksX0_fieldObserved_0 0 rfl rfl)
theorem dX0_fieldObserved_1 : decode cX0_fieldObserved 1 = .ok (.iconst 0, 1) := dk_3 (dk_at dksX0_fieldObserved_0 1 rfl rfl)
theorem dX0_fieldObserved_2 : decode cX0_fieldObserved 2 = .ok (.aload_n 0, 1) := dk_42 (dk_at dksX0_fieldObserved_0 2 rfl rfl)
theorem dX0_fieldObserved_3 : decode cX0_fieldObserved 3 = .ok (.iload_n 1, 1) := dk_27 (dk_at dksX0_fieldObserved_0 3 rfl rfl)
theorem dX0_fieldObserved_4 : decode cX0_fieldObserved 4 = .ok (.iload_n 2, 1) := dk_28 (dk_at dksX0_fieldObserved_0 4 rfl rfl)
theorem dX0_fieldObserved_5 : decode cX0_fieldObserved 5 = .ok (.invokevirtual 90, 3) := dk_182 0 90 (dk_at dksX0_fieldObserved_0 5 rfl rfl)
theorem dX0_fieldObserved_8 : decode cX0_fieldObserved 8 = .ok (.lastore, 1) := dk_80 (dk_at dksX0_fieldObserved_0 8 rfl rfl)
theorem dX0_fieldObserved_9 : decode cX0_fieldObserved 9 = .ok (.goto 7, 3) := dk_167 0 7 (dk_at dksX0_fieldObserved_0 9 rfl rfl)
theorem dX0_fieldObserved_12 : decode cX0_fieldObserved 12 = .ok (.astore 4, 2) := dk_58 4 (dk_at dksX0_fieldObserved_0 12 rfl rfl)
theorem dX0_fieldObserved_14 : decode cX0_fieldObserved 14 = .ok (.iconst 1, 1) := dk_4 (dk_at dksX0_fieldObserved_0 14 rfl rfl)
theorem dX0_fieldObserved_15 : decode cX0_fieldObserved 15 = .ok (.ireturn, 1) := dk_172 (dk_at dksX0_fieldObserved_0 15 rfl rfl)
theorem dX0_fieldObserved_16 : decode cX0_fieldObserved 16 = .ok (.iconst 0, 1) := dk_3 (dk_at dksX0_fieldObserved_0 16 rfl rfl)
theorem dX0_fieldObserved_17 : decode cX0_fieldObserved 17 = .ok (.ireturn, 1) := dk_172 (dk_at dksX0_fieldObserved_0 17 rfl rfl)
abbrev cX0_precision : ByteArray := method_26_code
def yX0_precision : MethodName := ⟨RX0, "precision", "(LPointerAnalyzer;[D)I"⟩
def dkwX0_precision_0 : List UInt8 := [43, 3, 42, 182, 0, 93, 82, 167, 0, 6, 77, 4, 172, 3, 172]
abbrev dktX0_precision_0 : List UInt8 := dkwX0_precision_0 ++ []
theorem dksX0_precision_0 : cX0_precision.data.toList.drop 0 = dktX0_precision_0 := by decide +kernel
theorem dX0_precision_0 : decode cX0_precision 0 = .ok (.aload_n 1, 1) := dk_43 (dk_at dksX0_precision_0 0 rfl rfl)
theorem dX0_precision_1 : decode cX0_precision 1 = .ok (.iconst 0, 1) := dk_3 (dk_at dksX0_precision_0 1 rfl rfl)
theorem dX0_precision_2 : decode cX0_precision 2 = .ok (.aload_n 0, 1) := dk_42 (dk_at dksX0_precision_0 2 rfl rfl)
theorem dX0_precision_3 : decode cX0_precision 3 = .ok (.invokevirtual 93, 3) := dk_182 0 93 (dk_at dksX0_precision_0 3 rfl rfl)
theorem dX0_precision_6 : decode cX0_precision 6 = .ok (.dastore, 1) := dk_82 (dk_at dksX0_precision_0 6 rfl rfl)
theorem dX0_precision_7 : decode cX0_precision 7 = .ok (.goto 6, 3) := dk_167 0 6 (dk_at dksX0_precision_0 7 rfl rfl)
theorem dX0_precision_10 : decode cX0_precision 10 = .ok (.astore_n 2, 1) := dk_77 (dk_at dksX0_precision_0 10 rfl rfl)
theorem dX0_precision_11 : decode cX0_precision 11 = .ok (.iconst 1, 1) := dk_4 (dk_at dksX0_precision_0 11 rfl rfl)
theorem dX0_precision_12 : decode cX0_precision 12 = .ok (.ireturn, 1) := dk_172 (dk_at dksX0_precision_0 12 rfl rfl)
theorem dX0_precision_13 : decode cX0_precision 13 = .ok (.iconst 0, 1) := dk_3 (dk_at dksX0_precision_0 13 rfl rfl)
theorem dX0_precision_14 : decode cX0_precision 14 = .ok (.ireturn, 1) := dk_172 (dk_at dksX0_precision_0 14 rfl rfl)
abbrev cX0_averageTargets : ByteArray := method_27_code
def yX0_averageTargets : MethodName := ⟨RX0, "averageTargets", "(LPointerAnalyzer;[D)I"⟩
def dkwX0_averageTargets_0 : List UInt8 := [43, 3, 42, 182, 0, 99, 141, 82, 167, 0, 6, 77, 4, 172, 3, 172]
abbrev dktX0_averageTargets_0 : List UInt8 := dkwX0_averageTargets_0 ++ []
theorem dksX0_averageTargets_0 : cX0_averageTargets.data.toList.drop 0 = dktX0_averageTargets_0 := by decide +kernel
theorem dX0_averageTargets_0 : decode cX0_averageTargets 0 = .ok (.aload_n 1, 1) := dk_43 (dk_at dksX0_averageTargets_0 0 rfl rfl)
theorem dX0_averageTargets_1 : decode cX0_averageTargets 1 = .ok (.iconst 0, 1) := dk_3 (dk_at dksX0_averageTargets_0 1 rfl rfl)
theorem dX0_averageTargets_2 : decode cX0_averageTargets 2 = .ok (.aload_n 0, 1) := dk_42 (dk_at dksX0_averageTargets_0 2 rfl rfl)
theorem dX0_averageTargets_3 : decode cX0_averageTargets 3 = .ok (.invokevirtual 99, 3) := dk_182 0 99 (dk_at dksX0_averageTargets_0 3 rfl rfl)
theorem dX0_averageTargets_6 : decode cX0_averageTargets 6 = .ok (.f2d, 1) := dk_141 (dk_at dksX0_averageTargets_0 6 rfl rfl)
theorem dX0_averageTargets_7 : decode cX0_averageTargets 7 = .ok (.dastore, 1) := dk_82 (dk_at dksX0_averageTargets_0 7 rfl rfl)
theorem dX0_averageTargets_8 : decode cX0_averageTargets 8 = .ok (.goto 6, 3) := dk_167 0 6 (dk_at dksX0_averageTargets_0 8 rfl rfl)
theorem dX0_averageTargets_11 : decode cX0_averageTargets 11 = .ok (.astore_n 2, 1) := dk_77 (dk_at dksX0_averageTargets_0 11 rfl rfl)
theorem dX0_averageTargets_12 : decode cX0_averageTargets 12 = .ok (.iconst 1, 1) := dk_4 (dk_at dksX0_averageTargets_0 12 rfl rfl)
theorem dX0_averageTargets_13 : decode cX0_averageTargets 13 = .ok (.ireturn, 1) := dk_172 (dk_at dksX0_averageTargets_0 13 rfl rfl)
theorem dX0_averageTargets_14 : decode cX0_averageTargets 14 = .ok (.iconst 0, 1) := dk_3 (dk_at dksX0_averageTargets_0 14 rfl rfl)
theorem dX0_averageTargets_15 : decode cX0_averageTargets 15 = .ok (.ireturn, 1) := dk_172 (dk_at dksX0_averageTargets_0 15 rfl rfl)
abbrev cX0_restore : ByteArray := method_28_code
def yX0_restore : MethodName := ⟨RX0, "restore", "(LPointerAnalyzer;)I"⟩
def dkwX0_restore_0 : List UInt8 := [42, 182, 0, 103, 167, 0, 6, 76, 4, 172, 3, 172]
abbrev dktX0_restore_0 : List UInt8 := dkwX0_restore_0 ++ []
theorem dksX0_restore_0 : cX0_restore.data.toList.drop 0 = dktX0_restore_0 := by decide +kernel
theorem dX0_restore_0 : decode cX0_restore 0 = .ok (.aload_n 0, 1) := dk_42 (dk_at dksX0_restore_0 0 rfl rfl)
theorem dX0_restore_1 : decode cX0_restore 1 = .ok (.invokevirtual 103, 3) := dk_182 0 103 (dk_at dksX0_restore_0 1 rfl rfl)
theorem dX0_restore_4 : decode cX0_restore 4 = .ok (.goto 6, 3) := dk_167 0 6 (dk_at dksX0_restore_0 4 rfl rfl)
theorem dX0_restore_7 : decode cX0_restore 7 = .ok (.astore_n 1, 1) := dk_76 (dk_at dksX0_restore_0 7 rfl rfl)
theorem dX0_restore_8 : decode cX0_restore 8 = .ok (.iconst 1, 1) := dk_4 (dk_at dksX0_restore_0 8 rfl rfl)
theorem dX0_restore_9 : decode cX0_restore 9 = .ok (.ireturn, 1) := dk_172 (dk_at dksX0_restore_0 9 rfl rfl)
theorem dX0_restore_10 : decode cX0_restore 10 = .ok (.iconst 0, 1) := dk_3 (dk_at dksX0_restore_0 10 rfl rfl)
theorem dX0_restore_11 : decode cX0_restore 11 = .ok (.ireturn, 1) := dk_172 (dk_at dksX0_restore_0 11 rfl rfl)
theorem q122 : (Jvm.Cond.initialized "PointerAnalyzerLaw") ∈ lw_all := lw_g (lw_at lw_m1 0 rfl) rfl
theorem q190 : (Jvm.Cond.classLink "PointerAnalyzerLaw" (8 : Nat) "PointerAnalyzer") ∈ lw_all := lw_g (lw_at lw_m1 68 rfl) rfl
theorem q192 : (Jvm.Cond.methodLink "PointerAnalyzerLaw" (106 : Nat) ({ cls := "PointerAnalyzer", name := "<init>", desc := "()V" } : Jvm.MethodName)) ∈ lw_all := lw_g (lw_at lw_m1 70 rfl) rfl
theorem q1276 : (Jvm.Cond.methodLink "PointerAnalyzerLaw" (123 : Nat) ({ cls := "PointerAnalyzer", name := "faultPosition", desc := "()I" } : Jvm.MethodName)) ∈ lw_all := lw_g (lw_at lw_m5 194 rfl) rfl
theorem q1280 : (Jvm.Cond.methodLink "PointerAnalyzerLaw" (127 : Nat) ({ cls := "PointerAnalyzer", name := "statementCount", desc := "()I" } : Jvm.MethodName)) ∈ lw_all := lw_g (lw_at lw_m5 198 rfl) rfl
theorem q1285 : (Jvm.Cond.methodLink "PointerAnalyzerLaw" (137 : Nat) ({ cls := "PointerAnalyzer", name := "siteCount", desc := "()I" } : Jvm.MethodName)) ∈ lw_all := lw_g (lw_at lw_m5 203 rfl) rfl
theorem q1289 : (Jvm.Cond.methodLink "PointerAnalyzerLaw" (164 : Nat) ({ cls := "PointerAnalyzer", name := "factCount", desc := "()I" } : Jvm.MethodName)) ∈ lw_all := lw_g (lw_at lw_m5 207 rfl) rfl
theorem q2112 : (Jvm.Cond.methodLink "PointerAnalyzerLaw" (174 : Nat) ({ cls := "PointerAnalyzer", name := "escapingSites", desc := "()I" } : Jvm.MethodName)) ∈ lw_all := lw_g (lw_at lw_m9 70 rfl) rfl
theorem q2134 : (Jvm.Cond.methodLink "PointerAnalyzerLaw" (184 : Nat) ({ cls := "PointerAnalyzer", name := "roundCount", desc := "()I" } : Jvm.MethodName)) ∈ lw_all := lw_g (lw_at lw_m9 92 rfl) rfl
theorem q2200 : (Jvm.Cond.methodLink "PointerAnalyzerLaw" (194 : Nat) ({ cls := "PointerAnalyzer", name := "unifiedClasses", desc := "()I" } : Jvm.MethodName)) ∈ lw_all := lw_g (lw_at lw_m9 158 rfl) rfl
theorem q2259 : (Jvm.Cond.methodLink "PointerAnalyzerLaw" (210 : Nat) ({ cls := "PointerAnalyzer", name := "run", desc := "()I" } : Jvm.MethodName)) ∈ lw_all := lw_g (lw_at lw_m9 217 rfl) rfl
theorem q2378 : (Jvm.Cond.methodLink "PointerAnalyzerLaw" (220 : Nat) ({ cls := "PointerAnalyzer", name := "faults", desc := "()I" } : Jvm.MethodName)) ∈ lw_all := lw_g (lw_at lw_m10 96 rfl) rfl
theorem q2382 : (Jvm.Cond.methodLink "PointerAnalyzerLaw" (224 : Nat) ({ cls := "PointerAnalyzer", name := "objects", desc := "()I" } : Jvm.MethodName)) ∈ lw_all := lw_g (lw_at lw_m10 100 rfl) rfl
theorem q2386 : (Jvm.Cond.methodLink "PointerAnalyzerLaw" (235 : Nat) ({ cls := "PointerAnalyzer", name := "save", desc := "()V" } : Jvm.MethodName)) ∈ lw_all := lw_g (lw_at lw_m10 104 rfl) rfl
theorem q2390 : (Jvm.Cond.methodLink "PointerAnalyzerLaw" (110 : Nat) ({ cls := "PointerAnalyzerLaw", name := "appendCharacter", desc := "(LPointerAnalyzer;I[J)I" } : Jvm.MethodName)) ∈ lw_all := lw_g (lw_at lw_m10 108 rfl) rfl
theorem q2391 : (Jvm.Cond.static ({ cls := "PointerAnalyzerLaw", name := "appendCharacter", desc := "(LPointerAnalyzer;I[J)I" } : Jvm.MethodName)) ∈ lw_all := lw_g (lw_at lw_m10 109 rfl) rfl
theorem q2392 : (Jvm.Cond.codeWith ({ cls := "PointerAnalyzerLaw", name := "appendCharacter", desc := "(LPointerAnalyzer;I[J)I" } : Jvm.MethodName) method_3_code (4 : Nat) (Option.some Jvm.ClassFile.FieldType.int) [((0 : Nat), (9 : Nat), (12 : Nat), (13 : Nat)), ((0 : Nat), (9 : Nat), (15 : Nat), (15 : Nat))]) ∈ lw_all := lw_g (lw_at lw_m10 110 rfl) rfl
theorem q2393 : (Jvm.Cond.classLink "PointerAnalyzerLaw" (13 : Nat) "java/lang/IllegalArgumentException") ∈ lw_all := lw_g (lw_at lw_m10 111 rfl) rfl
theorem q2394 : (Jvm.Cond.classLink "PointerAnalyzerLaw" (15 : Nat) "java/lang/IllegalStateException") ∈ lw_all := lw_g (lw_at lw_m10 112 rfl) rfl
theorem q2395 : (Jvm.Cond.methodLink "PointerAnalyzerLaw" (7 : Nat) ({ cls := "PointerAnalyzer", name := "appendCharacter", desc := "(I)I" } : Jvm.MethodName)) ∈ lw_all := lw_g (lw_at lw_m10 113 rfl) rfl
theorem q2425 : (Jvm.Cond.methodLink "PointerAnalyzerLaw" (120 : Nat) ({ cls := "PointerAnalyzerLaw", name := "setBody", desc := "(LPointerAnalyzer;I[J)I" } : Jvm.MethodName)) ∈ lw_all := lw_g (lw_at lw_m10 143 rfl) rfl
theorem q2426 : (Jvm.Cond.static ({ cls := "PointerAnalyzerLaw", name := "setBody", desc := "(LPointerAnalyzer;I[J)I" } : Jvm.MethodName)) ∈ lw_all := lw_g (lw_at lw_m10 144 rfl) rfl
theorem q2427 : (Jvm.Cond.codeWith ({ cls := "PointerAnalyzerLaw", name := "setBody", desc := "(LPointerAnalyzer;I[J)I" } : Jvm.MethodName) method_4_code (4 : Nat) (Option.some Jvm.ClassFile.FieldType.int) [((0 : Nat), (9 : Nat), (12 : Nat), (20 : Nat)), ((0 : Nat), (9 : Nat), (15 : Nat), (13 : Nat)), ((0 : Nat), (9 : Nat), (18 : Nat), (15 : Nat))]) ∈ lw_all := lw_g (lw_at lw_m10 145 rfl) rfl
theorem q2428 : (Jvm.Cond.classLink "PointerAnalyzerLaw" (20 : Nat) "java/lang/IndexOutOfBoundsException") ∈ lw_all := lw_g (lw_at lw_m10 146 rfl) rfl
theorem q2444 : (Jvm.Cond.methodLink "PointerAnalyzerLaw" (17 : Nat) ({ cls := "PointerAnalyzer", name := "setBody", desc := "(I)I" } : Jvm.MethodName)) ∈ lw_all := lw_g (lw_at lw_m10 162 rfl) rfl
theorem q2659 : (Jvm.Cond.methodLink "PointerAnalyzerLaw" (131 : Nat) ({ cls := "PointerAnalyzerLaw", name := "kind", desc := "(LPointerAnalyzer;I[J)I" } : Jvm.MethodName)) ∈ lw_all := lw_g (lw_at lw_m11 137 rfl) rfl
theorem q2660 : (Jvm.Cond.static ({ cls := "PointerAnalyzerLaw", name := "kind", desc := "(LPointerAnalyzer;I[J)I" } : Jvm.MethodName)) ∈ lw_all := lw_g (lw_at lw_m11 138 rfl) rfl
theorem q2661 : (Jvm.Cond.codeWith ({ cls := "PointerAnalyzerLaw", name := "kind", desc := "(LPointerAnalyzer;I[J)I" } : Jvm.MethodName) method_5_code (4 : Nat) (Option.some Jvm.ClassFile.FieldType.int) [((0 : Nat), (9 : Nat), (12 : Nat), (20 : Nat))]) ∈ lw_all := lw_g (lw_at lw_m11 139 rfl) rfl
theorem q2662 : (Jvm.Cond.methodLink "PointerAnalyzerLaw" (22 : Nat) ({ cls := "PointerAnalyzer", name := "kind", desc := "(I)I" } : Jvm.MethodName)) ∈ lw_all := lw_g (lw_at lw_m11 140 rfl) rfl
theorem q2672 : (Jvm.Cond.methodLink "PointerAnalyzerLaw" (134 : Nat) ({ cls := "PointerAnalyzerLaw", name := "functionOf", desc := "(LPointerAnalyzer;I[J)I" } : Jvm.MethodName)) ∈ lw_all := lw_g (lw_at lw_m11 150 rfl) rfl
theorem q2673 : (Jvm.Cond.static ({ cls := "PointerAnalyzerLaw", name := "functionOf", desc := "(LPointerAnalyzer;I[J)I" } : Jvm.MethodName)) ∈ lw_all := lw_g (lw_at lw_m11 151 rfl) rfl
theorem q2674 : (Jvm.Cond.codeWith ({ cls := "PointerAnalyzerLaw", name := "functionOf", desc := "(LPointerAnalyzer;I[J)I" } : Jvm.MethodName) method_6_code (4 : Nat) (Option.some Jvm.ClassFile.FieldType.int) [((0 : Nat), (9 : Nat), (12 : Nat), (20 : Nat))]) ∈ lw_all := lw_g (lw_at lw_m11 152 rfl) rfl
theorem q2675 : (Jvm.Cond.methodLink "PointerAnalyzerLaw" (25 : Nat) ({ cls := "PointerAnalyzer", name := "functionOf", desc := "(I)I" } : Jvm.MethodName)) ∈ lw_all := lw_g (lw_at lw_m11 153 rfl) rfl
theorem q2679 : (Jvm.Cond.methodLink "PointerAnalyzerLaw" (141 : Nat) ({ cls := "PointerAnalyzerLaw", name := "setLimit", desc := "(LPointerAnalyzer;I[J)I" } : Jvm.MethodName)) ∈ lw_all := lw_g (lw_at lw_m11 157 rfl) rfl
theorem q2680 : (Jvm.Cond.static ({ cls := "PointerAnalyzerLaw", name := "setLimit", desc := "(LPointerAnalyzer;I[J)I" } : Jvm.MethodName)) ∈ lw_all := lw_g (lw_at lw_m11 158 rfl) rfl
theorem q2681 : (Jvm.Cond.codeWith ({ cls := "PointerAnalyzerLaw", name := "setLimit", desc := "(LPointerAnalyzer;I[J)I" } : Jvm.MethodName) method_7_code (4 : Nat) (Option.some Jvm.ClassFile.FieldType.int) [((0 : Nat), (9 : Nat), (12 : Nat), (13 : Nat))]) ∈ lw_all := lw_g (lw_at lw_m11 159 rfl) rfl
theorem q2682 : (Jvm.Cond.methodLink "PointerAnalyzerLaw" (28 : Nat) ({ cls := "PointerAnalyzer", name := "setLimit", desc := "(I)I" } : Jvm.MethodName)) ∈ lw_all := lw_g (lw_at lw_m11 160 rfl) rfl
theorem q2686 : (Jvm.Cond.methodLink "PointerAnalyzerLaw" (144 : Nat) ({ cls := "PointerAnalyzerLaw", name := "contextCount", desc := "(LPointerAnalyzer;I[J)I" } : Jvm.MethodName)) ∈ lw_all := lw_g (lw_at lw_m11 164 rfl) rfl
theorem q2687 : (Jvm.Cond.static ({ cls := "PointerAnalyzerLaw", name := "contextCount", desc := "(LPointerAnalyzer;I[J)I" } : Jvm.MethodName)) ∈ lw_all := lw_g (lw_at lw_m11 165 rfl) rfl
theorem q2688 : (Jvm.Cond.codeWith ({ cls := "PointerAnalyzerLaw", name := "contextCount", desc := "(LPointerAnalyzer;I[J)I" } : Jvm.MethodName) method_8_code (4 : Nat) (Option.some Jvm.ClassFile.FieldType.int) [((0 : Nat), (9 : Nat), (12 : Nat), (20 : Nat))]) ∈ lw_all := lw_g (lw_at lw_m11 166 rfl) rfl
theorem q2689 : (Jvm.Cond.methodLink "PointerAnalyzerLaw" (31 : Nat) ({ cls := "PointerAnalyzer", name := "contextCount", desc := "(I)I" } : Jvm.MethodName)) ∈ lw_all := lw_g (lw_at lw_m11 167 rfl) rfl
theorem q2694 : (Jvm.Cond.methodLink "PointerAnalyzerLaw" (147 : Nat) ({ cls := "PointerAnalyzerLaw", name := "contextLength", desc := "(LPointerAnalyzer;II[J)I" } : Jvm.MethodName)) ∈ lw_all := lw_g (lw_at lw_m11 172 rfl) rfl
theorem q2695 : (Jvm.Cond.static ({ cls := "PointerAnalyzerLaw", name := "contextLength", desc := "(LPointerAnalyzer;II[J)I" } : Jvm.MethodName)) ∈ lw_all := lw_g (lw_at lw_m11 173 rfl) rfl
theorem q2696 : (Jvm.Cond.codeWith ({ cls := "PointerAnalyzerLaw", name := "contextLength", desc := "(LPointerAnalyzer;II[J)I" } : Jvm.MethodName) method_9_code (5 : Nat) (Option.some Jvm.ClassFile.FieldType.int) [((0 : Nat), (10 : Nat), (13 : Nat), (20 : Nat))]) ∈ lw_all := lw_g (lw_at lw_m11 174 rfl) rfl
theorem q2697 : (Jvm.Cond.methodLink "PointerAnalyzerLaw" (34 : Nat) ({ cls := "PointerAnalyzer", name := "contextLength", desc := "(II)I" } : Jvm.MethodName)) ∈ lw_all := lw_g (lw_at lw_m11 175 rfl) rfl
theorem q2706 : (Jvm.Cond.methodLink "PointerAnalyzerLaw" (151 : Nat) ({ cls := "PointerAnalyzerLaw", name := "contextCall", desc := "(LPointerAnalyzer;III[J)I" } : Jvm.MethodName)) ∈ lw_all := lw_g (lw_at lw_m11 184 rfl) rfl
theorem q2707 : (Jvm.Cond.static ({ cls := "PointerAnalyzerLaw", name := "contextCall", desc := "(LPointerAnalyzer;III[J)I" } : Jvm.MethodName)) ∈ lw_all := lw_g (lw_at lw_m11 185 rfl) rfl
theorem q2708 : (Jvm.Cond.codeWith ({ cls := "PointerAnalyzerLaw", name := "contextCall", desc := "(LPointerAnalyzer;III[J)I" } : Jvm.MethodName) method_10_code (6 : Nat) (Option.some Jvm.ClassFile.FieldType.int) [((0 : Nat), (12 : Nat), (15 : Nat), (20 : Nat))]) ∈ lw_all := lw_g (lw_at lw_m11 186 rfl) rfl
theorem q2709 : (Jvm.Cond.methodLink "PointerAnalyzerLaw" (38 : Nat) ({ cls := "PointerAnalyzer", name := "contextCall", desc := "(III)I" } : Jvm.MethodName)) ∈ lw_all := lw_g (lw_at lw_m11 187 rfl) rfl
theorem q2713 : (Jvm.Cond.methodLink "PointerAnalyzerLaw" (155 : Nat) ({ cls := "PointerAnalyzerLaw", name := "pointsTo", desc := "(LPointerAnalyzer;I[J)I" } : Jvm.MethodName)) ∈ lw_all := lw_g (lw_at lw_m11 191 rfl) rfl
theorem q2714 : (Jvm.Cond.static ({ cls := "PointerAnalyzerLaw", name := "pointsTo", desc := "(LPointerAnalyzer;I[J)I" } : Jvm.MethodName)) ∈ lw_all := lw_g (lw_at lw_m11 192 rfl) rfl
theorem q2715 : (Jvm.Cond.codeWith ({ cls := "PointerAnalyzerLaw", name := "pointsTo", desc := "(LPointerAnalyzer;I[J)I" } : Jvm.MethodName) method_11_code (4 : Nat) (Option.some Jvm.ClassFile.FieldType.int) [((0 : Nat), (8 : Nat), (11 : Nat), (20 : Nat))]) ∈ lw_all := lw_g (lw_at lw_m11 193 rfl) rfl
theorem q2716 : (Jvm.Cond.methodLink "PointerAnalyzerLaw" (42 : Nat) ({ cls := "PointerAnalyzer", name := "pointsTo", desc := "(I)J" } : Jvm.MethodName)) ∈ lw_all := lw_g (lw_at lw_m11 194 rfl) rfl
theorem q2723 : (Jvm.Cond.methodLink "PointerAnalyzerLaw" (158 : Nat) ({ cls := "PointerAnalyzerLaw", name := "pointsToIn", desc := "(LPointerAnalyzer;II[J)I" } : Jvm.MethodName)) ∈ lw_all := lw_g (lw_at lw_m11 201 rfl) rfl
theorem q2724 : (Jvm.Cond.static ({ cls := "PointerAnalyzerLaw", name := "pointsToIn", desc := "(LPointerAnalyzer;II[J)I" } : Jvm.MethodName)) ∈ lw_all := lw_g (lw_at lw_m11 202 rfl) rfl
theorem q2725 : (Jvm.Cond.codeWith ({ cls := "PointerAnalyzerLaw", name := "pointsToIn", desc := "(LPointerAnalyzer;II[J)I" } : Jvm.MethodName) method_12_code (5 : Nat) (Option.some Jvm.ClassFile.FieldType.int) [((0 : Nat), (9 : Nat), (12 : Nat), (20 : Nat))]) ∈ lw_all := lw_g (lw_at lw_m11 203 rfl) rfl
theorem q2726 : (Jvm.Cond.methodLink "PointerAnalyzerLaw" (46 : Nat) ({ cls := "PointerAnalyzer", name := "pointsToIn", desc := "(II)J" } : Jvm.MethodName)) ∈ lw_all := lw_g (lw_at lw_m11 204 rfl) rfl
theorem q2733 : (Jvm.Cond.methodLink "PointerAnalyzerLaw" (161 : Nat) ({ cls := "PointerAnalyzerLaw", name := "fieldPointsTo", desc := "(LPointerAnalyzer;II[J)I" } : Jvm.MethodName)) ∈ lw_all := lw_g (lw_at lw_m11 211 rfl) rfl
theorem q2734 : (Jvm.Cond.static ({ cls := "PointerAnalyzerLaw", name := "fieldPointsTo", desc := "(LPointerAnalyzer;II[J)I" } : Jvm.MethodName)) ∈ lw_all := lw_g (lw_at lw_m11 212 rfl) rfl
theorem q2735 : (Jvm.Cond.codeWith ({ cls := "PointerAnalyzerLaw", name := "fieldPointsTo", desc := "(LPointerAnalyzer;II[J)I" } : Jvm.MethodName) method_13_code (5 : Nat) (Option.some Jvm.ClassFile.FieldType.int) [((0 : Nat), (9 : Nat), (12 : Nat), (20 : Nat))]) ∈ lw_all := lw_g (lw_at lw_m11 213 rfl) rfl
theorem q2736 : (Jvm.Cond.methodLink "PointerAnalyzerLaw" (50 : Nat) ({ cls := "PointerAnalyzer", name := "fieldPointsTo", desc := "(II)J" } : Jvm.MethodName)) ∈ lw_all := lw_g (lw_at lw_m11 214 rfl) rfl
theorem q2744 : (Jvm.Cond.methodLink "PointerAnalyzerLaw" (168 : Nat) ({ cls := "PointerAnalyzerLaw", name := "mayAlias", desc := "(LPointerAnalyzer;II[J)I" } : Jvm.MethodName)) ∈ lw_all := lw_g (lw_at lw_m11 222 rfl) rfl
theorem q2745 : (Jvm.Cond.static ({ cls := "PointerAnalyzerLaw", name := "mayAlias", desc := "(LPointerAnalyzer;II[J)I" } : Jvm.MethodName)) ∈ lw_all := lw_g (lw_at lw_m11 223 rfl) rfl
theorem q2746 : (Jvm.Cond.codeWith ({ cls := "PointerAnalyzerLaw", name := "mayAlias", desc := "(LPointerAnalyzer;II[J)I" } : Jvm.MethodName) method_14_code (5 : Nat) (Option.some Jvm.ClassFile.FieldType.int) [((0 : Nat), (17 : Nat), (20 : Nat), (20 : Nat))]) ∈ lw_all := lw_g (lw_at lw_m11 224 rfl) rfl
theorem q2747 : (Jvm.Cond.methodLink "PointerAnalyzerLaw" (53 : Nat) ({ cls := "PointerAnalyzer", name := "mayAlias", desc := "(II)Z" } : Jvm.MethodName)) ∈ lw_all := lw_g (lw_at lw_m11 225 rfl) rfl
theorem q2751 : (Jvm.Cond.methodLink "PointerAnalyzerLaw" (171 : Nat) ({ cls := "PointerAnalyzerLaw", name := "reach", desc := "(LPointerAnalyzer;I[J)I" } : Jvm.MethodName)) ∈ lw_all := lw_g (lw_at lw_m11 229 rfl) rfl
theorem q2752 : (Jvm.Cond.static ({ cls := "PointerAnalyzerLaw", name := "reach", desc := "(LPointerAnalyzer;I[J)I" } : Jvm.MethodName)) ∈ lw_all := lw_g (lw_at lw_m11 230 rfl) rfl
theorem q2753 : (Jvm.Cond.codeWith ({ cls := "PointerAnalyzerLaw", name := "reach", desc := "(LPointerAnalyzer;I[J)I" } : Jvm.MethodName) method_15_code (4 : Nat) (Option.some Jvm.ClassFile.FieldType.int) [((0 : Nat), (8 : Nat), (11 : Nat), (20 : Nat))]) ∈ lw_all := lw_g (lw_at lw_m11 231 rfl) rfl
theorem q2754 : (Jvm.Cond.methodLink "PointerAnalyzerLaw" (57 : Nat) ({ cls := "PointerAnalyzer", name := "reach", desc := "(I)J" } : Jvm.MethodName)) ∈ lw_all := lw_g (lw_at lw_m11 232 rfl) rfl
theorem q2758 : (Jvm.Cond.methodLink "PointerAnalyzerLaw" (178 : Nat) ({ cls := "PointerAnalyzerLaw", name := "rank", desc := "(LPointerAnalyzer;II[J)I" } : Jvm.MethodName)) ∈ lw_all := lw_g (lw_at lw_m11 236 rfl) rfl
theorem q2759 : (Jvm.Cond.static ({ cls := "PointerAnalyzerLaw", name := "rank", desc := "(LPointerAnalyzer;II[J)I" } : Jvm.MethodName)) ∈ lw_all := lw_g (lw_at lw_m11 237 rfl) rfl
theorem q2760 : (Jvm.Cond.codeWith ({ cls := "PointerAnalyzerLaw", name := "rank", desc := "(LPointerAnalyzer;II[J)I" } : Jvm.MethodName) method_16_code (5 : Nat) (Option.some Jvm.ClassFile.FieldType.int) [((0 : Nat), (10 : Nat), (13 : Nat), (20 : Nat)), ((0 : Nat), (10 : Nat), (17 : Nat), (63 : Nat))]) ∈ lw_all := lw_g (lw_at lw_m11 238 rfl) rfl
theorem q2761 : (Jvm.Cond.classLink "PointerAnalyzerLaw" (63 : Nat) "java/util/NoSuchElementException") ∈ lw_all := lw_g (lw_at lw_m11 239 rfl) rfl
theorem q2762 : (Jvm.Cond.methodLink "PointerAnalyzerLaw" (60 : Nat) ({ cls := "PointerAnalyzer", name := "rank", desc := "(II)I" } : Jvm.MethodName)) ∈ lw_all := lw_g (lw_at lw_m12 0 rfl) rfl
theorem q2772 : (Jvm.Cond.methodLink "PointerAnalyzerLaw" (181 : Nat) ({ cls := "PointerAnalyzerLaw", name := "reason", desc := "(LPointerAnalyzer;II[J)I" } : Jvm.MethodName)) ∈ lw_all := lw_g (lw_at lw_m12 10 rfl) rfl
theorem q2773 : (Jvm.Cond.static ({ cls := "PointerAnalyzerLaw", name := "reason", desc := "(LPointerAnalyzer;II[J)I" } : Jvm.MethodName)) ∈ lw_all := lw_g (lw_at lw_m12 11 rfl) rfl
theorem q2774 : (Jvm.Cond.codeWith ({ cls := "PointerAnalyzerLaw", name := "reason", desc := "(LPointerAnalyzer;II[J)I" } : Jvm.MethodName) method_17_code (5 : Nat) (Option.some Jvm.ClassFile.FieldType.int) [((0 : Nat), (10 : Nat), (13 : Nat), (20 : Nat)), ((0 : Nat), (10 : Nat), (17 : Nat), (63 : Nat))]) ∈ lw_all := lw_g (lw_at lw_m12 12 rfl) rfl
theorem q2775 : (Jvm.Cond.methodLink "PointerAnalyzerLaw" (65 : Nat) ({ cls := "PointerAnalyzer", name := "reason", desc := "(II)I" } : Jvm.MethodName)) ∈ lw_all := lw_g (lw_at lw_m12 13 rfl) rfl
theorem q2779 : (Jvm.Cond.methodLink "PointerAnalyzerLaw" (188 : Nat) ({ cls := "PointerAnalyzerLaw", name := "unifiedTargets", desc := "(LPointerAnalyzer;I[J)I" } : Jvm.MethodName)) ∈ lw_all := lw_g (lw_at lw_m12 17 rfl) rfl
theorem q2780 : (Jvm.Cond.static ({ cls := "PointerAnalyzerLaw", name := "unifiedTargets", desc := "(LPointerAnalyzer;I[J)I" } : Jvm.MethodName)) ∈ lw_all := lw_g (lw_at lw_m12 18 rfl) rfl
theorem q2781 : (Jvm.Cond.codeWith ({ cls := "PointerAnalyzerLaw", name := "unifiedTargets", desc := "(LPointerAnalyzer;I[J)I" } : Jvm.MethodName) method_18_code (4 : Nat) (Option.some Jvm.ClassFile.FieldType.int) [((0 : Nat), (8 : Nat), (11 : Nat), (20 : Nat))]) ∈ lw_all := lw_g (lw_at lw_m12 19 rfl) rfl
theorem q2782 : (Jvm.Cond.methodLink "PointerAnalyzerLaw" (68 : Nat) ({ cls := "PointerAnalyzer", name := "unifiedTargets", desc := "(I)J" } : Jvm.MethodName)) ∈ lw_all := lw_g (lw_at lw_m12 20 rfl) rfl
theorem q2792 : (Jvm.Cond.methodLink "PointerAnalyzerLaw" (191 : Nat) ({ cls := "PointerAnalyzerLaw", name := "areUnified", desc := "(LPointerAnalyzer;II[J)I" } : Jvm.MethodName)) ∈ lw_all := lw_g (lw_at lw_m12 30 rfl) rfl
theorem q2793 : (Jvm.Cond.static ({ cls := "PointerAnalyzerLaw", name := "areUnified", desc := "(LPointerAnalyzer;II[J)I" } : Jvm.MethodName)) ∈ lw_all := lw_g (lw_at lw_m12 31 rfl) rfl
theorem q2794 : (Jvm.Cond.codeWith ({ cls := "PointerAnalyzerLaw", name := "areUnified", desc := "(LPointerAnalyzer;II[J)I" } : Jvm.MethodName) method_19_code (5 : Nat) (Option.some Jvm.ClassFile.FieldType.int) [((0 : Nat), (17 : Nat), (20 : Nat), (20 : Nat))]) ∈ lw_all := lw_g (lw_at lw_m12 32 rfl) rfl
theorem q2795 : (Jvm.Cond.methodLink "PointerAnalyzerLaw" (71 : Nat) ({ cls := "PointerAnalyzer", name := "areUnified", desc := "(II)Z" } : Jvm.MethodName)) ∈ lw_all := lw_g (lw_at lw_m12 33 rfl) rfl
theorem q2800 : (Jvm.Cond.methodLink "PointerAnalyzerLaw" (198 : Nat) ({ cls := "PointerAnalyzerLaw", name := "modifies", desc := "(LPointerAnalyzer;I[J)I" } : Jvm.MethodName)) ∈ lw_all := lw_g (lw_at lw_m12 38 rfl) rfl
theorem q2801 : (Jvm.Cond.static ({ cls := "PointerAnalyzerLaw", name := "modifies", desc := "(LPointerAnalyzer;I[J)I" } : Jvm.MethodName)) ∈ lw_all := lw_g (lw_at lw_m12 39 rfl) rfl
theorem q2802 : (Jvm.Cond.codeWith ({ cls := "PointerAnalyzerLaw", name := "modifies", desc := "(LPointerAnalyzer;I[J)I" } : Jvm.MethodName) method_20_code (4 : Nat) (Option.some Jvm.ClassFile.FieldType.int) [((0 : Nat), (8 : Nat), (11 : Nat), (20 : Nat))]) ∈ lw_all := lw_g (lw_at lw_m12 40 rfl) rfl
theorem q2803 : (Jvm.Cond.methodLink "PointerAnalyzerLaw" (74 : Nat) ({ cls := "PointerAnalyzer", name := "modifies", desc := "(I)J" } : Jvm.MethodName)) ∈ lw_all := lw_g (lw_at lw_m12 41 rfl) rfl
theorem q2809 : (Jvm.Cond.methodLink "PointerAnalyzerLaw" (201 : Nat) ({ cls := "PointerAnalyzerLaw", name := "isReachable", desc := "(LPointerAnalyzer;I[J)I" } : Jvm.MethodName)) ∈ lw_all := lw_g (lw_at lw_m12 47 rfl) rfl
theorem q2810 : (Jvm.Cond.static ({ cls := "PointerAnalyzerLaw", name := "isReachable", desc := "(LPointerAnalyzer;I[J)I" } : Jvm.MethodName)) ∈ lw_all := lw_g (lw_at lw_m12 48 rfl) rfl
theorem q2811 : (Jvm.Cond.codeWith ({ cls := "PointerAnalyzerLaw", name := "isReachable", desc := "(LPointerAnalyzer;I[J)I" } : Jvm.MethodName) method_21_code (4 : Nat) (Option.some Jvm.ClassFile.FieldType.int) [((0 : Nat), (16 : Nat), (19 : Nat), (20 : Nat))]) ∈ lw_all := lw_g (lw_at lw_m12 49 rfl) rfl
theorem q2812 : (Jvm.Cond.methodLink "PointerAnalyzerLaw" (77 : Nat) ({ cls := "PointerAnalyzer", name := "isReachable", desc := "(I)Z" } : Jvm.MethodName)) ∈ lw_all := lw_g (lw_at lw_m12 50 rfl) rfl
theorem q2816 : (Jvm.Cond.methodLink "PointerAnalyzerLaw" (204 : Nat) ({ cls := "PointerAnalyzerLaw", name := "isRecursive", desc := "(LPointerAnalyzer;I[J)I" } : Jvm.MethodName)) ∈ lw_all := lw_g (lw_at lw_m12 54 rfl) rfl
theorem q2817 : (Jvm.Cond.static ({ cls := "PointerAnalyzerLaw", name := "isRecursive", desc := "(LPointerAnalyzer;I[J)I" } : Jvm.MethodName)) ∈ lw_all := lw_g (lw_at lw_m12 55 rfl) rfl
theorem q2818 : (Jvm.Cond.codeWith ({ cls := "PointerAnalyzerLaw", name := "isRecursive", desc := "(LPointerAnalyzer;I[J)I" } : Jvm.MethodName) method_22_code (4 : Nat) (Option.some Jvm.ClassFile.FieldType.int) [((0 : Nat), (16 : Nat), (19 : Nat), (20 : Nat))]) ∈ lw_all := lw_g (lw_at lw_m12 56 rfl) rfl
theorem q2819 : (Jvm.Cond.methodLink "PointerAnalyzerLaw" (81 : Nat) ({ cls := "PointerAnalyzer", name := "isRecursive", desc := "(I)Z" } : Jvm.MethodName)) ∈ lw_all := lw_g (lw_at lw_m12 57 rfl) rfl
theorem q2823 : (Jvm.Cond.methodLink "PointerAnalyzerLaw" (207 : Nat) ({ cls := "PointerAnalyzerLaw", name := "cycleOf", desc := "(LPointerAnalyzer;I[J)I" } : Jvm.MethodName)) ∈ lw_all := lw_g (lw_at lw_m12 61 rfl) rfl
theorem q2824 : (Jvm.Cond.static ({ cls := "PointerAnalyzerLaw", name := "cycleOf", desc := "(LPointerAnalyzer;I[J)I" } : Jvm.MethodName)) ∈ lw_all := lw_g (lw_at lw_m12 62 rfl) rfl
theorem q2825 : (Jvm.Cond.codeWith ({ cls := "PointerAnalyzerLaw", name := "cycleOf", desc := "(LPointerAnalyzer;I[J)I" } : Jvm.MethodName) method_23_code (4 : Nat) (Option.some Jvm.ClassFile.FieldType.int) [((0 : Nat), (9 : Nat), (12 : Nat), (20 : Nat))]) ∈ lw_all := lw_g (lw_at lw_m12 63 rfl) rfl
theorem q2826 : (Jvm.Cond.methodLink "PointerAnalyzerLaw" (84 : Nat) ({ cls := "PointerAnalyzer", name := "cycleOf", desc := "(I)I" } : Jvm.MethodName)) ∈ lw_all := lw_g (lw_at lw_m12 64 rfl) rfl
theorem q2836 : (Jvm.Cond.methodLink "PointerAnalyzerLaw" (214 : Nat) ({ cls := "PointerAnalyzerLaw", name := "observed", desc := "(LPointerAnalyzer;I[J)I" } : Jvm.MethodName)) ∈ lw_all := lw_g (lw_at lw_m12 74 rfl) rfl
theorem q2837 : (Jvm.Cond.static ({ cls := "PointerAnalyzerLaw", name := "observed", desc := "(LPointerAnalyzer;I[J)I" } : Jvm.MethodName)) ∈ lw_all := lw_g (lw_at lw_m12 75 rfl) rfl
theorem q2838 : (Jvm.Cond.codeWith ({ cls := "PointerAnalyzerLaw", name := "observed", desc := "(LPointerAnalyzer;I[J)I" } : Jvm.MethodName) method_24_code (4 : Nat) (Option.some Jvm.ClassFile.FieldType.int) [((0 : Nat), (8 : Nat), (11 : Nat), (20 : Nat))]) ∈ lw_all := lw_g (lw_at lw_m12 76 rfl) rfl
theorem q2839 : (Jvm.Cond.methodLink "PointerAnalyzerLaw" (87 : Nat) ({ cls := "PointerAnalyzer", name := "observed", desc := "(I)J" } : Jvm.MethodName)) ∈ lw_all := lw_g (lw_at lw_m12 77 rfl) rfl
theorem q2843 : (Jvm.Cond.methodLink "PointerAnalyzerLaw" (217 : Nat) ({ cls := "PointerAnalyzerLaw", name := "fieldObserved", desc := "(LPointerAnalyzer;II[J)I" } : Jvm.MethodName)) ∈ lw_all := lw_g (lw_at lw_m12 81 rfl) rfl
theorem q2844 : (Jvm.Cond.static ({ cls := "PointerAnalyzerLaw", name := "fieldObserved", desc := "(LPointerAnalyzer;II[J)I" } : Jvm.MethodName)) ∈ lw_all := lw_g (lw_at lw_m12 82 rfl) rfl
theorem q2845 : (Jvm.Cond.codeWith ({ cls := "PointerAnalyzerLaw", name := "fieldObserved", desc := "(LPointerAnalyzer;II[J)I" } : Jvm.MethodName) method_25_code (5 : Nat) (Option.some Jvm.ClassFile.FieldType.int) [((0 : Nat), (9 : Nat), (12 : Nat), (20 : Nat))]) ∈ lw_all := lw_g (lw_at lw_m12 83 rfl) rfl
theorem q2846 : (Jvm.Cond.methodLink "PointerAnalyzerLaw" (90 : Nat) ({ cls := "PointerAnalyzer", name := "fieldObserved", desc := "(II)J" } : Jvm.MethodName)) ∈ lw_all := lw_g (lw_at lw_m12 84 rfl) rfl
theorem q2850 : (Jvm.Cond.methodLink "PointerAnalyzerLaw" (228 : Nat) ({ cls := "PointerAnalyzerLaw", name := "precision", desc := "(LPointerAnalyzer;[D)I" } : Jvm.MethodName)) ∈ lw_all := lw_g (lw_at lw_m12 88 rfl) rfl
theorem q2851 : (Jvm.Cond.static ({ cls := "PointerAnalyzerLaw", name := "precision", desc := "(LPointerAnalyzer;[D)I" } : Jvm.MethodName)) ∈ lw_all := lw_g (lw_at lw_m12 89 rfl) rfl
theorem q2852 : (Jvm.Cond.codeWith ({ cls := "PointerAnalyzerLaw", name := "precision", desc := "(LPointerAnalyzer;[D)I" } : Jvm.MethodName) method_26_code (3 : Nat) (Option.some Jvm.ClassFile.FieldType.int) [((0 : Nat), (7 : Nat), (10 : Nat), (97 : Nat))]) ∈ lw_all := lw_g (lw_at lw_m12 90 rfl) rfl
theorem q2853 : (Jvm.Cond.classLink "PointerAnalyzerLaw" (97 : Nat) "java/lang/ArithmeticException") ∈ lw_all := lw_g (lw_at lw_m12 91 rfl) rfl
theorem q2867 : (Jvm.Cond.methodLink "PointerAnalyzerLaw" (93 : Nat) ({ cls := "PointerAnalyzer", name := "precision", desc := "()D" } : Jvm.MethodName)) ∈ lw_all := lw_g (lw_at lw_m12 105 rfl) rfl
theorem q2877 : (Jvm.Cond.methodLink "PointerAnalyzerLaw" (232 : Nat) ({ cls := "PointerAnalyzerLaw", name := "averageTargets", desc := "(LPointerAnalyzer;[D)I" } : Jvm.MethodName)) ∈ lw_all := lw_g (lw_at lw_m12 115 rfl) rfl
theorem q2878 : (Jvm.Cond.static ({ cls := "PointerAnalyzerLaw", name := "averageTargets", desc := "(LPointerAnalyzer;[D)I" } : Jvm.MethodName)) ∈ lw_all := lw_g (lw_at lw_m12 116 rfl) rfl
theorem q2879 : (Jvm.Cond.codeWith ({ cls := "PointerAnalyzerLaw", name := "averageTargets", desc := "(LPointerAnalyzer;[D)I" } : Jvm.MethodName) method_27_code (3 : Nat) (Option.some Jvm.ClassFile.FieldType.int) [((0 : Nat), (8 : Nat), (11 : Nat), (97 : Nat))]) ∈ lw_all := lw_g (lw_at lw_m12 117 rfl) rfl
theorem q2880 : (Jvm.Cond.methodLink "PointerAnalyzerLaw" (99 : Nat) ({ cls := "PointerAnalyzer", name := "averageTargets", desc := "()F" } : Jvm.MethodName)) ∈ lw_all := lw_g (lw_at lw_m12 118 rfl) rfl
theorem q2884 : (Jvm.Cond.methodLink "PointerAnalyzerLaw" (239 : Nat) ({ cls := "PointerAnalyzerLaw", name := "restore", desc := "(LPointerAnalyzer;)I" } : Jvm.MethodName)) ∈ lw_all := lw_g (lw_at lw_m12 122 rfl) rfl
theorem q2885 : (Jvm.Cond.static ({ cls := "PointerAnalyzerLaw", name := "restore", desc := "(LPointerAnalyzer;)I" } : Jvm.MethodName)) ∈ lw_all := lw_g (lw_at lw_m12 123 rfl) rfl
theorem q2886 : (Jvm.Cond.codeWith ({ cls := "PointerAnalyzerLaw", name := "restore", desc := "(LPointerAnalyzer;)I" } : Jvm.MethodName) method_28_code (2 : Nat) (Option.some Jvm.ClassFile.FieldType.int) [((0 : Nat), (4 : Nat), (7 : Nat), (15 : Nat))]) ∈ lw_all := lw_g (lw_at lw_m12 124 rfl) rfl
theorem q2887 : (Jvm.Cond.methodLink "PointerAnalyzerLaw" (103 : Nat) ({ cls := "PointerAnalyzer", name := "restore", desc := "()V" } : Jvm.MethodName)) ∈ lw_all := lw_g (lw_at lw_m12 125 rfl) rfl
theorem q2891 : (Jvm.Cond.classLink "PointerAnalyzerLaw" (107 : Nat) "PointerAnalyzerModel") ∈ lw_all := lw_g (lw_at lw_m12 129 rfl) rfl
theorem q2893 : (Jvm.Cond.methodLink "PointerAnalyzerLaw" (109 : Nat) ({ cls := "PointerAnalyzerModel", name := "<init>", desc := "()V" } : Jvm.MethodName)) ∈ lw_all := lw_g (lw_at lw_m12 131 rfl) rfl
theorem q3032 : (Jvm.Cond.methodLink "PointerAnalyzerLaw" (116 : Nat) ({ cls := "PointerAnalyzerModel", name := "thrown", desc := "()I" } : Jvm.MethodName)) ∈ lw_all := lw_g (lw_at lw_m13 30 rfl) rfl
theorem q3036 : (Jvm.Cond.methodLink "PointerAnalyzerLaw" (115 : Nat) ({ cls := "PointerAnalyzerModel", name := "appendCharacter", desc := "(I)I" } : Jvm.MethodName)) ∈ lw_all := lw_g (lw_at lw_m13 34 rfl) rfl
theorem q3047 : (Jvm.Cond.methodLink "PointerAnalyzerLaw" (122 : Nat) ({ cls := "PointerAnalyzerModel", name := "setBody", desc := "(I)I" } : Jvm.MethodName)) ∈ lw_all := lw_g (lw_at lw_m13 45 rfl) rfl
theorem q3102 : (Jvm.Cond.methodLink "PointerAnalyzerLaw" (126 : Nat) ({ cls := "PointerAnalyzerModel", name := "faultPosition", desc := "()I" } : Jvm.MethodName)) ∈ lw_all := lw_g (lw_at lw_m13 100 rfl) rfl
theorem q3106 : (Jvm.Cond.methodLink "PointerAnalyzerLaw" (130 : Nat) ({ cls := "PointerAnalyzerModel", name := "statementCount", desc := "()I" } : Jvm.MethodName)) ∈ lw_all := lw_g (lw_at lw_m13 104 rfl) rfl
theorem q3114 : (Jvm.Cond.methodLink "PointerAnalyzerLaw" (133 : Nat) ({ cls := "PointerAnalyzerModel", name := "kind", desc := "(I)I" } : Jvm.MethodName)) ∈ lw_all := lw_g (lw_at lw_m13 112 rfl) rfl
theorem q3126 : (Jvm.Cond.methodLink "PointerAnalyzerLaw" (136 : Nat) ({ cls := "PointerAnalyzerModel", name := "functionOf", desc := "(I)I" } : Jvm.MethodName)) ∈ lw_all := lw_g (lw_at lw_m13 124 rfl) rfl
theorem q3130 : (Jvm.Cond.methodLink "PointerAnalyzerLaw" (140 : Nat) ({ cls := "PointerAnalyzerModel", name := "siteCount", desc := "()I" } : Jvm.MethodName)) ∈ lw_all := lw_g (lw_at lw_m13 128 rfl) rfl
theorem q3138 : (Jvm.Cond.methodLink "PointerAnalyzerLaw" (143 : Nat) ({ cls := "PointerAnalyzerModel", name := "setLimit", desc := "(I)I" } : Jvm.MethodName)) ∈ lw_all := lw_g (lw_at lw_m13 136 rfl) rfl
theorem q3142 : (Jvm.Cond.methodLink "PointerAnalyzerLaw" (146 : Nat) ({ cls := "PointerAnalyzerModel", name := "contextCount", desc := "(I)I" } : Jvm.MethodName)) ∈ lw_all := lw_g (lw_at lw_m13 140 rfl) rfl
theorem q3236 : (Jvm.Cond.methodLink "PointerAnalyzerLaw" (150 : Nat) ({ cls := "PointerAnalyzerModel", name := "contextLength", desc := "(II)I" } : Jvm.MethodName)) ∈ lw_all := lw_g (lw_at lw_m13 234 rfl) rfl
theorem q3248 : (Jvm.Cond.methodLink "PointerAnalyzerLaw" (154 : Nat) ({ cls := "PointerAnalyzerModel", name := "contextCall", desc := "(III)I" } : Jvm.MethodName)) ∈ lw_all := lw_g (lw_at lw_m14 6 rfl) rfl
theorem q3252 : (Jvm.Cond.methodLink "PointerAnalyzerLaw" (157 : Nat) ({ cls := "PointerAnalyzerModel", name := "pointsTo", desc := "(I)J" } : Jvm.MethodName)) ∈ lw_all := lw_g (lw_at lw_m14 10 rfl) rfl
theorem q3267 : (Jvm.Cond.methodLink "PointerAnalyzerLaw" (160 : Nat) ({ cls := "PointerAnalyzerModel", name := "pointsToIn", desc := "(II)J" } : Jvm.MethodName)) ∈ lw_all := lw_g (lw_at lw_m14 25 rfl) rfl
theorem q3271 : (Jvm.Cond.methodLink "PointerAnalyzerLaw" (163 : Nat) ({ cls := "PointerAnalyzerModel", name := "fieldPointsTo", desc := "(II)J" } : Jvm.MethodName)) ∈ lw_all := lw_g (lw_at lw_m14 29 rfl) rfl
theorem q3279 : (Jvm.Cond.methodLink "PointerAnalyzerLaw" (167 : Nat) ({ cls := "PointerAnalyzerModel", name := "factCount", desc := "()I" } : Jvm.MethodName)) ∈ lw_all := lw_g (lw_at lw_m14 37 rfl) rfl
theorem q3286 : (Jvm.Cond.methodLink "PointerAnalyzerLaw" (170 : Nat) ({ cls := "PointerAnalyzerModel", name := "mayAlias", desc := "(II)Z" } : Jvm.MethodName)) ∈ lw_all := lw_g (lw_at lw_m14 44 rfl) rfl
theorem q3294 : (Jvm.Cond.methodLink "PointerAnalyzerLaw" (173 : Nat) ({ cls := "PointerAnalyzerModel", name := "reach", desc := "(I)J" } : Jvm.MethodName)) ∈ lw_all := lw_g (lw_at lw_m14 52 rfl) rfl
theorem q3302 : (Jvm.Cond.methodLink "PointerAnalyzerLaw" (177 : Nat) ({ cls := "PointerAnalyzerModel", name := "escapingSites", desc := "()I" } : Jvm.MethodName)) ∈ lw_all := lw_g (lw_at lw_m14 60 rfl) rfl
theorem q3307 : (Jvm.Cond.methodLink "PointerAnalyzerLaw" (180 : Nat) ({ cls := "PointerAnalyzerModel", name := "rank", desc := "(II)I" } : Jvm.MethodName)) ∈ lw_all := lw_g (lw_at lw_m14 65 rfl) rfl
theorem q3319 : (Jvm.Cond.methodLink "PointerAnalyzerLaw" (183 : Nat) ({ cls := "PointerAnalyzerModel", name := "reason", desc := "(II)I" } : Jvm.MethodName)) ∈ lw_all := lw_g (lw_at lw_m14 77 rfl) rfl
theorem q3323 : (Jvm.Cond.methodLink "PointerAnalyzerLaw" (187 : Nat) ({ cls := "PointerAnalyzerModel", name := "roundCount", desc := "()I" } : Jvm.MethodName)) ∈ lw_all := lw_g (lw_at lw_m14 81 rfl) rfl
theorem q3327 : (Jvm.Cond.methodLink "PointerAnalyzerLaw" (190 : Nat) ({ cls := "PointerAnalyzerModel", name := "unifiedTargets", desc := "(I)J" } : Jvm.MethodName)) ∈ lw_all := lw_g (lw_at lw_m14 85 rfl) rfl
theorem q3335 : (Jvm.Cond.methodLink "PointerAnalyzerLaw" (193 : Nat) ({ cls := "PointerAnalyzerModel", name := "areUnified", desc := "(II)Z" } : Jvm.MethodName)) ∈ lw_all := lw_g (lw_at lw_m14 93 rfl) rfl
theorem q3339 : (Jvm.Cond.methodLink "PointerAnalyzerLaw" (197 : Nat) ({ cls := "PointerAnalyzerModel", name := "unifiedClasses", desc := "()I" } : Jvm.MethodName)) ∈ lw_all := lw_g (lw_at lw_m14 97 rfl) rfl
theorem q3343 : (Jvm.Cond.methodLink "PointerAnalyzerLaw" (200 : Nat) ({ cls := "PointerAnalyzerModel", name := "modifies", desc := "(I)J" } : Jvm.MethodName)) ∈ lw_all := lw_g (lw_at lw_m14 101 rfl) rfl
theorem q3351 : (Jvm.Cond.methodLink "PointerAnalyzerLaw" (203 : Nat) ({ cls := "PointerAnalyzerModel", name := "isReachable", desc := "(I)Z" } : Jvm.MethodName)) ∈ lw_all := lw_g (lw_at lw_m14 109 rfl) rfl
theorem q3355 : (Jvm.Cond.methodLink "PointerAnalyzerLaw" (206 : Nat) ({ cls := "PointerAnalyzerModel", name := "isRecursive", desc := "(I)Z" } : Jvm.MethodName)) ∈ lw_all := lw_g (lw_at lw_m14 113 rfl) rfl
theorem q3359 : (Jvm.Cond.methodLink "PointerAnalyzerLaw" (209 : Nat) ({ cls := "PointerAnalyzerModel", name := "cycleOf", desc := "(I)I" } : Jvm.MethodName)) ∈ lw_all := lw_g (lw_at lw_m14 117 rfl) rfl
theorem q3370 : (Jvm.Cond.methodLink "PointerAnalyzerLaw" (213 : Nat) ({ cls := "PointerAnalyzerModel", name := "run", desc := "()I" } : Jvm.MethodName)) ∈ lw_all := lw_g (lw_at lw_m14 128 rfl) rfl
theorem q3402 : (Jvm.Cond.methodLink "PointerAnalyzerLaw" (216 : Nat) ({ cls := "PointerAnalyzerModel", name := "observed", desc := "(I)J" } : Jvm.MethodName)) ∈ lw_all := lw_g (lw_at lw_m14 160 rfl) rfl
theorem q3406 : (Jvm.Cond.methodLink "PointerAnalyzerLaw" (219 : Nat) ({ cls := "PointerAnalyzerModel", name := "fieldObserved", desc := "(II)J" } : Jvm.MethodName)) ∈ lw_all := lw_g (lw_at lw_m14 164 rfl) rfl
theorem q3410 : (Jvm.Cond.methodLink "PointerAnalyzerLaw" (223 : Nat) ({ cls := "PointerAnalyzerModel", name := "faults", desc := "()I" } : Jvm.MethodName)) ∈ lw_all := lw_g (lw_at lw_m14 168 rfl) rfl
theorem q3414 : (Jvm.Cond.methodLink "PointerAnalyzerLaw" (227 : Nat) ({ cls := "PointerAnalyzerModel", name := "objects", desc := "()I" } : Jvm.MethodName)) ∈ lw_all := lw_g (lw_at lw_m14 172 rfl) rfl
theorem q3418 : (Jvm.Cond.methodLink "PointerAnalyzerLaw" (231 : Nat) ({ cls := "PointerAnalyzerModel", name := "precision", desc := "()D" } : Jvm.MethodName)) ∈ lw_all := lw_g (lw_at lw_m14 176 rfl) rfl
theorem q3422 : (Jvm.Cond.methodLink "PointerAnalyzerLaw" (234 : Nat) ({ cls := "PointerAnalyzerModel", name := "averageTargets", desc := "()F" } : Jvm.MethodName)) ∈ lw_all := lw_g (lw_at lw_m14 180 rfl) rfl
theorem q3426 : (Jvm.Cond.methodLink "PointerAnalyzerLaw" (238 : Nat) ({ cls := "PointerAnalyzerModel", name := "save", desc := "()V" } : Jvm.MethodName)) ∈ lw_all := lw_g (lw_at lw_m14 184 rfl) rfl
theorem q3438 : (Jvm.Cond.methodLink "PointerAnalyzerLaw" (242 : Nat) ({ cls := "PointerAnalyzerModel", name := "restore", desc := "()V" } : Jvm.MethodName)) ∈ lw_all := lw_g (lw_at lw_m14 196 rfl) rfl
