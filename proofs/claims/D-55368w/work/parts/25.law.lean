/-! the law: rows of the code, functions, walks, contracts (printed) -/
set_option maxRecDepth 100000
abbrev cL_law : ByteArray := code
def dkwL_law_90 : List UInt8 := [167, 0, 3, 132, 5, 4, 167, 247, 84, 4, 172]
abbrev dktL_law_90 : List UInt8 := dkwL_law_90 ++ []
def dkwL_law_89 : List UInt8 := [159, 0, 5, 3, 172, 21, 6, 154, 0, 15, 45, 3, 47, 21, 7, 133, 148, 153, 0, 5, 3, 172]
abbrev dktL_law_89 : List UInt8 := dkwL_law_89 ++ dktL_law_90
def dkwL_law_88 : List UInt8 := [159, 0, 49, 3, 172, 43, 45, 184, 1, 2, 54, 6, 44, 182, 1, 4, 54, 7, 44, 182, 0, 139, 21, 6]
abbrev dktL_law_88 : List UInt8 := dkwL_law_88 ++ dktL_law_89
def dkwL_law_87 : List UInt8 := [45, 3, 47, 21, 7, 133, 148, 153, 0, 5, 3, 172, 167, 0, 60, 43, 182, 0, 254, 44, 182, 1, 1]
abbrev dktL_law_87 : List UInt8 := dkwL_law_87 ++ dktL_law_88
def dkwL_law_86 : List UInt8 := [54, 6, 44, 182, 0, 253, 54, 7, 44, 182, 0, 139, 21, 6, 159, 0, 5, 3, 172, 21, 6, 154, 0, 15]
abbrev dktL_law_86 : List UInt8 := dkwL_law_86 ++ dktL_law_87
def dkwL_law_85 : List UInt8 := [154, 0, 15, 45, 3, 47, 21, 7, 133, 148, 153, 0, 5, 3, 172, 167, 0, 104, 43, 45, 184, 0, 251]
abbrev dktL_law_85 : List UInt8 := dkwL_law_85 ++ dktL_law_86
def dkwL_law_84 : List UInt8 := [184, 0, 248, 54, 6, 44, 182, 0, 250, 54, 7, 44, 182, 0, 139, 21, 6, 159, 0, 5, 3, 172, 21, 6]
abbrev dktL_law_84 : List UInt8 := dkwL_law_84 ++ dktL_law_85
def dkwL_law_83 : List UInt8 := [3, 172, 21, 6, 154, 0, 15, 45, 3, 47, 21, 7, 133, 148, 153, 0, 5, 3, 172, 167, 0, 148, 43, 45]
abbrev dktL_law_83 : List UInt8 := dkwL_law_83 ++ dktL_law_84
def dkwL_law_82 : List UInt8 := [54, 6, 44, 42, 21, 5, 4, 96, 46, 146, 182, 0, 247, 54, 7, 44, 182, 0, 139, 21, 6, 159, 0, 5]
abbrev dktL_law_82 : List UInt8 := dkwL_law_82 ++ dktL_law_83
def dkwL_law_81 : List UInt8 := [21, 7, 133, 148, 153, 0, 5, 3, 172, 167, 0, 206, 43, 42, 21, 5, 4, 96, 46, 146, 45, 184, 0, 244]
abbrev dktL_law_81 : List UInt8 := dkwL_law_81 ++ dktL_law_82
def dkwL_law_80 : List UInt8 := [182, 0, 243, 54, 7, 44, 182, 0, 139, 21, 6, 159, 0, 5, 3, 172, 21, 6, 154, 0, 15, 45, 3, 47]
abbrev dktL_law_80 : List UInt8 := dkwL_law_80 ++ dktL_law_81
def dkwL_law_79 : List UInt8 := [167, 1, 6, 43, 42, 21, 5, 4, 96, 46, 45, 184, 0, 241, 54, 6, 44, 42, 21, 5, 4, 96, 46]
abbrev dktL_law_79 : List UInt8 := dkwL_law_79 ++ dktL_law_80
def dkwL_law_78 : List UInt8 := [159, 0, 5, 3, 172, 21, 6, 154, 0, 15, 45, 3, 47, 21, 7, 133, 148, 153, 0, 5, 3, 172]
abbrev dktL_law_78 : List UInt8 := dkwL_law_78 ++ dktL_law_79
def dkwL_law_77 : List UInt8 := [21, 5, 5, 96, 46, 153, 0, 7, 4, 167, 0, 4, 3, 182, 0, 240, 54, 7, 44, 182, 0, 139, 21, 6]
abbrev dktL_law_77 : List UInt8 := dkwL_law_77 ++ dktL_law_78
def dkwL_law_76 : List UInt8 := [96, 46, 153, 0, 7, 4, 167, 0, 4, 3, 45, 184, 0, 238, 54, 6, 44, 42, 21, 5, 4, 96, 46, 42]
abbrev dktL_law_76 : List UInt8 := dkwL_law_76 ++ dktL_law_77
def dkwL_law_75 : List UInt8 := [23, 7, 23, 7, 149, 154, 0, 5, 3, 172, 167, 1, 90, 43, 42, 21, 5, 4, 96, 46, 42, 21, 5, 5]
abbrev dktL_law_75 : List UInt8 := dkwL_law_75 ++ dktL_law_76
def dkwL_law_74 : List UInt8 := [25, 4, 3, 49, 23, 7, 141, 151, 153, 0, 25, 25, 4, 3, 49, 25, 4, 3, 49, 151, 153, 0, 11]
abbrev dktL_law_74 : List UInt8 := dkwL_law_74 ++ dktL_law_75
def dkwL_law_73 : List UInt8 := [54, 6, 44, 182, 0, 237, 56, 7, 44, 182, 0, 139, 21, 6, 159, 0, 5, 3, 172, 21, 6, 154, 0, 36]
abbrev dktL_law_73 : List UInt8 := dkwL_law_73 ++ dktL_law_74
def dkwL_law_72 : List UInt8 := [49, 151, 153, 0, 11, 24, 7, 24, 7, 151, 154, 0, 5, 3, 172, 167, 1, 156, 43, 25, 4, 184, 0, 235]
abbrev dktL_law_72 : List UInt8 := dkwL_law_72 ++ dktL_law_73
def dkwL_law_71 : List UInt8 := [3, 172, 21, 6, 154, 0, 35, 25, 4, 3, 49, 24, 7, 151, 153, 0, 25, 25, 4, 3, 49, 25, 4, 3]
abbrev dktL_law_71 : List UInt8 := dkwL_law_71 ++ dktL_law_72
def dkwL_law_70 : List UInt8 := [172, 43, 25, 4, 184, 0, 231, 54, 6, 44, 182, 0, 234, 57, 7, 44, 182, 0, 139, 21, 6, 159, 0, 5]
abbrev dktL_law_70 : List UInt8 := dkwL_law_70 ++ dktL_law_71
def dkwL_law_69 : List UInt8 := [21, 7, 133, 148, 153, 0, 5, 3, 172, 167, 1, 234, 43, 182, 0, 226, 44, 182, 0, 230, 159, 1, 223, 3]
abbrev dktL_law_69 : List UInt8 := dkwL_law_69 ++ dktL_law_70
def dkwL_law_68 : List UInt8 := [182, 0, 225, 54, 7, 44, 182, 0, 139, 21, 6, 159, 0, 5, 3, 172, 21, 6, 154, 0, 15, 45, 3, 47]
abbrev dktL_law_68 : List UInt8 := dkwL_law_68 ++ dktL_law_69
def dkwL_law_67 : List UInt8 := [167, 2, 34, 43, 42, 21, 5, 4, 96, 46, 45, 184, 0, 223, 54, 6, 44, 42, 21, 5, 4, 96, 46]
abbrev dktL_law_67 : List UInt8 := dkwL_law_67 ++ dktL_law_68
def dkwL_law_66 : List UInt8 := [159, 0, 5, 3, 172, 21, 6, 154, 0, 15, 45, 3, 47, 21, 7, 133, 148, 153, 0, 5, 3, 172]
abbrev dktL_law_66 : List UInt8 := dkwL_law_66 ++ dktL_law_67
def dkwL_law_65 : List UInt8 := [184, 0, 220, 54, 6, 44, 42, 21, 5, 4, 96, 46, 182, 0, 222, 54, 7, 44, 182, 0, 139, 21, 6]
abbrev dktL_law_65 : List UInt8 := dkwL_law_65 ++ dktL_law_66
def dkwL_law_64 : List UInt8 := [172, 43, 182, 0, 216, 44, 182, 0, 219, 159, 2, 92, 3, 172, 43, 42, 21, 5, 4, 96, 46, 45]
abbrev dktL_law_64 : List UInt8 := dkwL_law_64 ++ dktL_law_65
def dkwL_law_63 : List UInt8 := [21, 7, 133, 148, 153, 0, 5, 3, 172, 167, 2, 116, 43, 182, 0, 212, 44, 182, 0, 215, 159, 2, 105, 3]
abbrev dktL_law_63 : List UInt8 := dkwL_law_63 ++ dktL_law_64
def dkwL_law_62 : List UInt8 := [182, 0, 211, 54, 7, 44, 182, 0, 139, 21, 6, 159, 0, 5, 3, 172, 21, 6, 154, 0, 15, 45, 3, 47]
abbrev dktL_law_62 : List UInt8 := dkwL_law_62 ++ dktL_law_63
def dkwL_law_61 : List UInt8 := [167, 2, 172, 43, 42, 21, 5, 4, 96, 46, 45, 184, 0, 209, 54, 6, 44, 42, 21, 5, 4, 96, 46]
abbrev dktL_law_61 : List UInt8 := dkwL_law_61 ++ dktL_law_62
def dkwL_law_60 : List UInt8 := [21, 6, 159, 0, 5, 3, 172, 21, 6, 154, 0, 15, 45, 3, 47, 21, 7, 133, 148, 153, 0, 5, 3, 172]
abbrev dktL_law_60 : List UInt8 := dkwL_law_60 ++ dktL_law_61
def dkwL_law_59 : List UInt8 := [46, 45, 184, 0, 206, 54, 6, 44, 42, 21, 5, 4, 96, 46, 182, 0, 208, 54, 7, 44, 182, 0, 139]
abbrev dktL_law_59 : List UInt8 := dkwL_law_59 ++ dktL_law_60
def dkwL_law_58 : List UInt8 := [154, 0, 15, 45, 3, 47, 21, 7, 133, 148, 153, 0, 5, 3, 172, 167, 2, 228, 43, 42, 21, 5, 4, 96]
abbrev dktL_law_58 : List UInt8 := dkwL_law_58 ++ dktL_law_59
def dkwL_law_57 : List UInt8 := [21, 5, 4, 96, 46, 182, 0, 205, 54, 7, 44, 182, 0, 139, 21, 6, 159, 0, 5, 3, 172, 21, 6]
abbrev dktL_law_57 : List UInt8 := dkwL_law_57 ++ dktL_law_58
def dkwL_law_56 : List UInt8 := [153, 0, 5, 3, 172, 167, 3, 28, 43, 42, 21, 5, 4, 96, 46, 45, 184, 0, 203, 54, 6, 44, 42]
abbrev dktL_law_56 : List UInt8 := dkwL_law_56 ++ dktL_law_57
def dkwL_law_55 : List UInt8 := [182, 0, 139, 21, 6, 159, 0, 5, 3, 172, 21, 6, 154, 0, 15, 45, 3, 47, 21, 7, 133, 148]
abbrev dktL_law_55 : List UInt8 := dkwL_law_55 ++ dktL_law_56
def dkwL_law_54 : List UInt8 := [21, 5, 4, 96, 46, 45, 184, 0, 200, 54, 6, 44, 42, 21, 5, 4, 96, 46, 182, 0, 202, 54, 7, 44]
abbrev dktL_law_54 : List UInt8 := dkwL_law_54 ++ dktL_law_55
def dkwL_law_53 : List UInt8 := [172, 21, 6, 154, 0, 15, 45, 3, 47, 21, 7, 133, 148, 153, 0, 5, 3, 172, 167, 3, 84, 43, 42]
abbrev dktL_law_53 : List UInt8 := dkwL_law_53 ++ dktL_law_54
def dkwL_law_52 : List UInt8 := [54, 6, 44, 42, 21, 5, 4, 96, 46, 182, 0, 199, 54, 7, 44, 182, 0, 139, 21, 6, 159, 0, 5, 3]
abbrev dktL_law_52 : List UInt8 := dkwL_law_52 ++ dktL_law_53
def dkwL_law_51 : List UInt8 := [21, 7, 133, 148, 153, 0, 5, 3, 172, 167, 3, 140, 43, 42, 21, 5, 4, 96, 46, 45, 184, 0, 197]
abbrev dktL_law_51 : List UInt8 := dkwL_law_51 ++ dktL_law_52
def dkwL_law_50 : List UInt8 := [182, 0, 196, 54, 7, 44, 182, 0, 139, 21, 6, 159, 0, 5, 3, 172, 21, 6, 154, 0, 15, 45, 3, 47]
abbrev dktL_law_50 : List UInt8 := dkwL_law_50 ++ dktL_law_51
def dkwL_law_49 : List UInt8 := [5, 96, 46, 45, 184, 0, 194, 54, 6, 44, 42, 21, 5, 4, 96, 46, 42, 21, 5, 5, 96, 46]
abbrev dktL_law_49 : List UInt8 := dkwL_law_49 ++ dktL_law_50
def dkwL_law_48 : List UInt8 := [3, 47, 21, 7, 133, 148, 153, 0, 5, 3, 172, 167, 3, 208, 43, 42, 21, 5, 4, 96, 46, 42, 21, 5]
abbrev dktL_law_48 : List UInt8 := dkwL_law_48 ++ dktL_law_49
def dkwL_law_47 : List UInt8 := [96, 46, 182, 0, 193, 54, 7, 44, 182, 0, 139, 21, 6, 159, 0, 5, 3, 172, 21, 6, 154, 0, 15, 45]
abbrev dktL_law_47 : List UInt8 := dkwL_law_47 ++ dktL_law_48
def dkwL_law_46 : List UInt8 := [46, 42, 21, 5, 5, 96, 46, 45, 184, 0, 191, 54, 6, 44, 42, 21, 5, 4, 96, 46, 42, 21, 5, 5]
abbrev dktL_law_46 : List UInt8 := dkwL_law_46 ++ dktL_law_47
def dkwL_law_45 : List UInt8 := [154, 0, 15, 45, 3, 47, 21, 7, 133, 148, 153, 0, 5, 3, 172, 167, 4, 20, 43, 42, 21, 5, 4, 96]
abbrev dktL_law_45 : List UInt8 := dkwL_law_45 ++ dktL_law_46
def dkwL_law_44 : List UInt8 := [21, 5, 6, 96, 46, 182, 0, 190, 54, 7, 44, 182, 0, 139, 21, 6, 159, 0, 5, 3, 172, 21, 6]
abbrev dktL_law_44 : List UInt8 := dkwL_law_44 ++ dktL_law_45
def dkwL_law_43 : List UInt8 := [6, 96, 46, 45, 184, 0, 187, 54, 6, 44, 42, 21, 5, 4, 96, 46, 42, 21, 5, 5, 96, 46, 42]
abbrev dktL_law_43 : List UInt8 := dkwL_law_43 ++ dktL_law_44
def dkwL_law_42 : List UInt8 := [153, 0, 5, 3, 172, 167, 4, 100, 43, 42, 21, 5, 4, 96, 46, 42, 21, 5, 5, 96, 46, 42, 21, 5]
abbrev dktL_law_42 : List UInt8 := dkwL_law_42 ++ dktL_law_43
def dkwL_law_41 : List UInt8 := [182, 0, 139, 21, 6, 159, 0, 5, 3, 172, 21, 6, 154, 0, 15, 45, 3, 47, 21, 7, 133, 148]
abbrev dktL_law_41 : List UInt8 := dkwL_law_41 ++ dktL_law_42
def dkwL_law_40 : List UInt8 := [21, 5, 4, 96, 46, 45, 184, 0, 184, 54, 6, 44, 42, 21, 5, 4, 96, 46, 182, 0, 186, 54, 7, 44]
abbrev dktL_law_40 : List UInt8 := dkwL_law_40 ++ dktL_law_41
def dkwL_law_39 : List UInt8 := [172, 21, 6, 154, 0, 15, 45, 3, 47, 21, 7, 133, 148, 153, 0, 5, 3, 172, 167, 4, 156, 43, 42]
abbrev dktL_law_39 : List UInt8 := dkwL_law_39 ++ dktL_law_40
def dkwL_law_38 : List UInt8 := [54, 6, 44, 42, 21, 5, 4, 96, 46, 182, 0, 183, 54, 7, 44, 182, 0, 139, 21, 6, 159, 0, 5, 3]
abbrev dktL_law_38 : List UInt8 := dkwL_law_38 ++ dktL_law_39
def dkwL_law_37 : List UInt8 := [21, 7, 133, 148, 153, 0, 5, 3, 172, 167, 4, 212, 43, 42, 21, 5, 4, 96, 46, 45, 184, 0, 181]
abbrev dktL_law_37 : List UInt8 := dkwL_law_37 ++ dktL_law_38
def dkwL_law_36 : List UInt8 := [182, 0, 180, 54, 7, 44, 182, 0, 139, 21, 6, 159, 0, 5, 3, 172, 21, 6, 154, 0, 15, 45, 3, 47]
abbrev dktL_law_36 : List UInt8 := dkwL_law_36 ++ dktL_law_37
def dkwL_law_35 : List UInt8 := [167, 5, 12, 43, 42, 21, 5, 4, 96, 46, 45, 184, 0, 178, 54, 6, 44, 42, 21, 5, 4, 96, 46]
abbrev dktL_law_35 : List UInt8 := dkwL_law_35 ++ dktL_law_36
def dkwL_law_34 : List UInt8 := [21, 6, 159, 0, 5, 3, 172, 21, 6, 154, 0, 15, 45, 3, 47, 21, 7, 133, 148, 153, 0, 5, 3, 172]
abbrev dktL_law_34 : List UInt8 := dkwL_law_34 ++ dktL_law_35
def dkwL_law_33 : List UInt8 := [46, 45, 184, 0, 175, 54, 6, 44, 42, 21, 5, 4, 96, 46, 182, 0, 177, 54, 7, 44, 182, 0, 139]
abbrev dktL_law_33 : List UInt8 := dkwL_law_33 ++ dktL_law_34
def dkwL_law_32 : List UInt8 := [154, 0, 15, 45, 3, 47, 21, 7, 133, 148, 153, 0, 5, 3, 172, 167, 5, 68, 43, 42, 21, 5, 4, 96]
abbrev dktL_law_32 : List UInt8 := dkwL_law_32 ++ dktL_law_33
def dkwL_law_31 : List UInt8 := [21, 5, 4, 96, 46, 182, 0, 174, 54, 7, 44, 182, 0, 139, 21, 6, 159, 0, 5, 3, 172, 21, 6]
abbrev dktL_law_31 : List UInt8 := dkwL_law_31 ++ dktL_law_32
def dkwL_law_30 : List UInt8 := [148, 153, 0, 5, 3, 172, 167, 5, 124, 43, 42, 21, 5, 4, 96, 46, 45, 184, 0, 172, 54, 6, 44, 42]
abbrev dktL_law_30 : List UInt8 := dkwL_law_30 ++ dktL_law_31
def dkwL_law_29 : List UInt8 := [54, 7, 44, 182, 0, 139, 21, 6, 159, 0, 5, 3, 172, 21, 6, 154, 0, 15, 45, 3, 47, 21, 7, 133]
abbrev dktL_law_29 : List UInt8 := dkwL_law_29 ++ dktL_law_30
def dkwL_law_28 : List UInt8 := [46, 45, 184, 0, 169, 54, 6, 44, 42, 21, 5, 4, 96, 46, 42, 21, 5, 5, 96, 46, 182, 0, 171]
abbrev dktL_law_28 : List UInt8 := dkwL_law_28 ++ dktL_law_29
def dkwL_law_27 : List UInt8 := [21, 7, 133, 148, 153, 0, 5, 3, 172, 167, 5, 192, 43, 42, 21, 5, 4, 96, 46, 42, 21, 5, 5, 96]
abbrev dktL_law_27 : List UInt8 := dkwL_law_27 ++ dktL_law_28
def dkwL_law_26 : List UInt8 := [182, 0, 168, 54, 7, 44, 182, 0, 139, 21, 6, 159, 0, 5, 3, 172, 21, 6, 154, 0, 15, 45, 3, 47]
abbrev dktL_law_26 : List UInt8 := dkwL_law_26 ++ dktL_law_27
def dkwL_law_25 : List UInt8 := [167, 5, 248, 43, 42, 21, 5, 4, 96, 46, 45, 184, 0, 166, 54, 6, 44, 42, 21, 5, 4, 96, 46]
abbrev dktL_law_25 : List UInt8 := dkwL_law_25 ++ dktL_law_26
def dkwL_law_24 : List UInt8 := [159, 0, 5, 3, 172, 21, 6, 154, 0, 15, 45, 3, 47, 21, 7, 133, 148, 153, 0, 5, 3, 172]
abbrev dktL_law_24 : List UInt8 := dkwL_law_24 ++ dktL_law_25
def dkwL_law_23 : List UInt8 := [21, 5, 4, 96, 46, 42, 21, 5, 5, 96, 46, 182, 0, 165, 54, 7, 44, 182, 0, 139, 21, 6]
abbrev dktL_law_23 : List UInt8 := dkwL_law_23 ++ dktL_law_24
def dkwL_law_22 : List UInt8 := [167, 6, 60, 43, 42, 21, 5, 4, 96, 46, 42, 21, 5, 5, 96, 46, 45, 184, 0, 163, 54, 6, 44, 42]
abbrev dktL_law_22 : List UInt8 := dkwL_law_22 ++ dktL_law_23
def dkwL_law_21 : List UInt8 := [159, 0, 5, 3, 172, 21, 6, 154, 0, 15, 45, 3, 47, 21, 7, 133, 148, 153, 0, 5, 3, 172]
abbrev dktL_law_21 : List UInt8 := dkwL_law_21 ++ dktL_law_22
def dkwL_law_20 : List UInt8 := [21, 5, 4, 96, 46, 42, 21, 5, 5, 96, 46, 182, 0, 162, 54, 7, 44, 182, 0, 139, 21, 6]
abbrev dktL_law_20 : List UInt8 := dkwL_law_20 ++ dktL_law_21
def dkwL_law_19 : List UInt8 := [167, 6, 128, 43, 42, 21, 5, 4, 96, 46, 42, 21, 5, 5, 96, 46, 45, 184, 0, 160, 54, 6, 44, 42]
abbrev dktL_law_19 : List UInt8 := dkwL_law_19 ++ dktL_law_20
def dkwL_law_18 : List UInt8 := [21, 6, 159, 0, 5, 3, 172, 21, 6, 154, 0, 15, 45, 3, 47, 21, 7, 133, 148, 153, 0, 5, 3, 172]
abbrev dktL_law_18 : List UInt8 := dkwL_law_18 ++ dktL_law_19
def dkwL_law_17 : List UInt8 := [46, 45, 184, 0, 157, 54, 6, 44, 42, 21, 5, 4, 96, 46, 182, 0, 159, 54, 7, 44, 182, 0, 139]
abbrev dktL_law_17 : List UInt8 := dkwL_law_17 ++ dktL_law_18
def dkwL_law_16 : List UInt8 := [154, 0, 15, 45, 3, 47, 21, 7, 133, 148, 153, 0, 5, 3, 172, 167, 6, 184, 43, 42, 21, 5, 4, 96]
abbrev dktL_law_16 : List UInt8 := dkwL_law_16 ++ dktL_law_17
def dkwL_law_15 : List UInt8 := [21, 5, 4, 96, 46, 182, 0, 156, 54, 7, 44, 182, 0, 139, 21, 6, 159, 0, 5, 3, 172, 21, 6]
abbrev dktL_law_15 : List UInt8 := dkwL_law_15 ++ dktL_law_16
def dkwL_law_14 : List UInt8 := [148, 153, 0, 5, 3, 172, 167, 6, 240, 43, 42, 21, 5, 4, 96, 46, 45, 184, 0, 153, 54, 6, 44, 42]
abbrev dktL_law_14 : List UInt8 := dkwL_law_14 ++ dktL_law_15
def dkwL_law_13 : List UInt8 := [54, 7, 44, 182, 0, 139, 21, 6, 159, 0, 5, 3, 172, 21, 6, 154, 0, 15, 45, 3, 47, 21, 7, 133]
abbrev dktL_law_13 : List UInt8 := dkwL_law_13 ++ dktL_law_14
def dkwL_law_12 : List UInt8 := [46, 45, 184, 0, 150, 54, 6, 44, 42, 21, 5, 4, 96, 46, 42, 21, 5, 5, 96, 46, 182, 0, 152]
abbrev dktL_law_12 : List UInt8 := dkwL_law_12 ++ dktL_law_13
def dkwL_law_11 : List UInt8 := [21, 7, 133, 148, 153, 0, 5, 3, 172, 167, 7, 52, 43, 42, 21, 5, 4, 96, 46, 42, 21, 5, 5, 96]
abbrev dktL_law_11 : List UInt8 := dkwL_law_11 ++ dktL_law_12
def dkwL_law_10 : List UInt8 := [182, 0, 149, 54, 7, 44, 182, 0, 139, 21, 6, 159, 0, 5, 3, 172, 21, 6, 154, 0, 15, 45, 3, 47]
abbrev dktL_law_10 : List UInt8 := dkwL_law_10 ++ dktL_law_11
def dkwL_law_9 : List UInt8 := [3, 47, 21, 7, 133, 148, 153, 0, 5, 3, 172, 167, 7, 96, 43, 45, 184, 0, 146, 54, 6, 44]
abbrev dktL_law_9 : List UInt8 := dkwL_law_9 ++ dktL_law_10
def dkwL_law_8 : List UInt8 := [96, 46, 182, 0, 145, 54, 7, 44, 182, 0, 139, 21, 6, 159, 0, 5, 3, 172, 21, 6, 154, 0, 15, 45]
abbrev dktL_law_8 : List UInt8 := dkwL_law_8 ++ dktL_law_9
def dkwL_law_7 : List UInt8 := [46, 42, 21, 5, 5, 96, 46, 45, 184, 0, 142, 54, 6, 44, 42, 21, 5, 4, 96, 46, 42, 21, 5, 5]
abbrev dktL_law_7 : List UInt8 := dkwL_law_7 ++ dktL_law_8
def dkwL_law_6 : List UInt8 := [154, 0, 15, 45, 3, 47, 21, 7, 133, 148, 153, 0, 5, 3, 172, 167, 7, 164, 43, 42, 21, 5, 4, 96]
abbrev dktL_law_6 : List UInt8 := dkwL_law_6 ++ dktL_law_7
def dkwL_law_5 : List UInt8 := [167, 0, 4, 3, 182, 0, 138, 54, 7, 44, 182, 0, 139, 21, 6, 159, 0, 5, 3, 172, 21, 6]
abbrev dktL_law_5 : List UInt8 := dkwL_law_5 ++ dktL_law_6
def dkwL_law_4 : List UInt8 := [184, 0, 133, 54, 6, 44, 42, 21, 5, 4, 96, 46, 42, 21, 5, 5, 96, 46, 153, 0, 7, 4]
abbrev dktL_law_4 : List UInt8 := dkwL_law_4 ++ dktL_law_5
def dkwL_law_3 : List UInt8 := [43, 42, 21, 5, 4, 96, 46, 42, 21, 5, 5, 96, 46, 153, 0, 7, 4, 167, 0, 4, 3, 45]
abbrev dktL_law_3 : List UInt8 := dkwL_law_3 ++ dktL_law_4
def dkwL_law_2 : List UInt8 := [170, 0, 0, 0, 0, 0, 8, 153, 0, 0, 0, 0, 0, 0, 0, 36, 0, 0, 0, 164, 0, 0, 0, 248, 0, 0, 1, 60, 0, 0, 1, 104, 0, 0, 1, 172, 0, 0, 1, 228, 0, 0, 2, 28, 0, 0, 2, 96, 0, 0, 2, 164, 0, 0, 2, 220, 0, 0, 3, 32, 0, 0, 3, 88, 0, 0, 3, 144, 0, 0, 3, 200, 0, 0, 4, 0, 0, 0, 4, 56, 0, 0, 4, 136, 0, 0, 4, 204, 0, 0, 5, 16, 0, 0, 5, 72, 0, 0, 5, 128, 0, 0, 5, 184, 0, 0, 5, 240, 0, 0, 6, 40, 0, 0, 6, 53, 0, 0, 6, 66, 0, 0, 6, 122, 0, 0, 6, 178, 0, 0, 6, 191, 0, 0, 7, 0, 0, 0, 7, 66, 0, 0, 7, 150, 0, 0, 7, 206, 0, 0, 8, 8, 0, 0, 8, 52, 0, 0, 8, 96, 0, 0, 8, 109]
abbrev dktL_law_2 : List UInt8 := dkwL_law_2 ++ dktL_law_3
def dkwL_law_1 : List UInt8 := [58, 4, 3, 54, 5, 21, 5, 42, 190, 7, 100, 163, 8, 169, 42, 21, 5, 46, 16, 63, 126]
abbrev dktL_law_1 : List UInt8 := dkwL_law_1 ++ dktL_law_2
def dkwL_law_0 : List UInt8 := [187, 0, 8, 89, 183, 0, 129, 76, 187, 0, 130, 89, 183, 0, 132, 77, 4, 188, 11, 78, 4, 188, 7]
abbrev dktL_law_0 : List UInt8 := dkwL_law_0 ++ dktL_law_1
theorem dksL_law_0 : cL_law.data.toList.drop 0 = dktL_law_0 := by decide +kernel
theorem dksL_law_1 : cL_law.data.toList.drop 23 = dktL_law_1 := dk_seg dksL_law_0 23 rfl rfl
theorem dksL_law_2 : cL_law.data.toList.drop 44 = dktL_law_2 := dk_seg dksL_law_1 21 rfl rfl
theorem dksL_law_3 : cL_law.data.toList.drop 208 = dktL_law_3 := dk_seg dksL_law_2 164 rfl rfl
theorem dksL_law_4 : cL_law.data.toList.drop 230 = dktL_law_4 := dk_seg dksL_law_3 22 rfl rfl
theorem dksL_law_5 : cL_law.data.toList.drop 252 = dktL_law_5 := dk_seg dksL_law_4 22 rfl rfl
theorem dksL_law_6 : cL_law.data.toList.drop 274 = dktL_law_6 := dk_seg dksL_law_5 22 rfl rfl
theorem dksL_law_7 : cL_law.data.toList.drop 298 = dktL_law_7 := dk_seg dksL_law_6 24 rfl rfl
theorem dksL_law_8 : cL_law.data.toList.drop 322 = dktL_law_8 := dk_seg dksL_law_7 24 rfl rfl
theorem dksL_law_9 : cL_law.data.toList.drop 346 = dktL_law_9 := dk_seg dksL_law_8 24 rfl rfl
theorem dksL_law_10 : cL_law.data.toList.drop 368 = dktL_law_10 := dk_seg dksL_law_9 22 rfl rfl
theorem dksL_law_11 : cL_law.data.toList.drop 392 = dktL_law_11 := dk_seg dksL_law_10 24 rfl rfl
theorem dksL_law_12 : cL_law.data.toList.drop 416 = dktL_law_12 := dk_seg dksL_law_11 24 rfl rfl
theorem dksL_law_13 : cL_law.data.toList.drop 439 = dktL_law_13 := dk_seg dksL_law_12 23 rfl rfl
theorem dksL_law_14 : cL_law.data.toList.drop 463 = dktL_law_14 := dk_seg dksL_law_13 24 rfl rfl
theorem dksL_law_15 : cL_law.data.toList.drop 487 = dktL_law_15 := dk_seg dksL_law_14 24 rfl rfl
theorem dksL_law_16 : cL_law.data.toList.drop 510 = dktL_law_16 := dk_seg dksL_law_15 23 rfl rfl
theorem dksL_law_17 : cL_law.data.toList.drop 534 = dktL_law_17 := dk_seg dksL_law_16 24 rfl rfl
theorem dksL_law_18 : cL_law.data.toList.drop 557 = dktL_law_18 := dk_seg dksL_law_17 23 rfl rfl
theorem dksL_law_19 : cL_law.data.toList.drop 581 = dktL_law_19 := dk_seg dksL_law_18 24 rfl rfl
theorem dksL_law_20 : cL_law.data.toList.drop 605 = dktL_law_20 := dk_seg dksL_law_19 24 rfl rfl
theorem dksL_law_21 : cL_law.data.toList.drop 627 = dktL_law_21 := dk_seg dksL_law_20 22 rfl rfl
theorem dksL_law_22 : cL_law.data.toList.drop 649 = dktL_law_22 := dk_seg dksL_law_21 22 rfl rfl
theorem dksL_law_23 : cL_law.data.toList.drop 673 = dktL_law_23 := dk_seg dksL_law_22 24 rfl rfl
theorem dksL_law_24 : cL_law.data.toList.drop 695 = dktL_law_24 := dk_seg dksL_law_23 22 rfl rfl
theorem dksL_law_25 : cL_law.data.toList.drop 717 = dktL_law_25 := dk_seg dksL_law_24 22 rfl rfl
theorem dksL_law_26 : cL_law.data.toList.drop 740 = dktL_law_26 := dk_seg dksL_law_25 23 rfl rfl
theorem dksL_law_27 : cL_law.data.toList.drop 764 = dktL_law_27 := dk_seg dksL_law_26 24 rfl rfl
theorem dksL_law_28 : cL_law.data.toList.drop 788 = dktL_law_28 := dk_seg dksL_law_27 24 rfl rfl
theorem dksL_law_29 : cL_law.data.toList.drop 811 = dktL_law_29 := dk_seg dksL_law_28 23 rfl rfl
theorem dksL_law_30 : cL_law.data.toList.drop 835 = dktL_law_30 := dk_seg dksL_law_29 24 rfl rfl
theorem dksL_law_31 : cL_law.data.toList.drop 859 = dktL_law_31 := dk_seg dksL_law_30 24 rfl rfl
theorem dksL_law_32 : cL_law.data.toList.drop 882 = dktL_law_32 := dk_seg dksL_law_31 23 rfl rfl
theorem dksL_law_33 : cL_law.data.toList.drop 906 = dktL_law_33 := dk_seg dksL_law_32 24 rfl rfl
theorem dksL_law_34 : cL_law.data.toList.drop 929 = dktL_law_34 := dk_seg dksL_law_33 23 rfl rfl
theorem dksL_law_35 : cL_law.data.toList.drop 953 = dktL_law_35 := dk_seg dksL_law_34 24 rfl rfl
theorem dksL_law_36 : cL_law.data.toList.drop 976 = dktL_law_36 := dk_seg dksL_law_35 23 rfl rfl
theorem dksL_law_37 : cL_law.data.toList.drop 1000 = dktL_law_37 := dk_seg dksL_law_36 24 rfl rfl
theorem dksL_law_38 : cL_law.data.toList.drop 1023 = dktL_law_38 := dk_seg dksL_law_37 23 rfl rfl
theorem dksL_law_39 : cL_law.data.toList.drop 1047 = dktL_law_39 := dk_seg dksL_law_38 24 rfl rfl
theorem dksL_law_40 : cL_law.data.toList.drop 1070 = dktL_law_40 := dk_seg dksL_law_39 23 rfl rfl
theorem dksL_law_41 : cL_law.data.toList.drop 1094 = dktL_law_41 := dk_seg dksL_law_40 24 rfl rfl
theorem dksL_law_42 : cL_law.data.toList.drop 1116 = dktL_law_42 := dk_seg dksL_law_41 22 rfl rfl
theorem dksL_law_43 : cL_law.data.toList.drop 1140 = dktL_law_43 := dk_seg dksL_law_42 24 rfl rfl
theorem dksL_law_44 : cL_law.data.toList.drop 1163 = dktL_law_44 := dk_seg dksL_law_43 23 rfl rfl
theorem dksL_law_45 : cL_law.data.toList.drop 1186 = dktL_law_45 := dk_seg dksL_law_44 23 rfl rfl
theorem dksL_law_46 : cL_law.data.toList.drop 1210 = dktL_law_46 := dk_seg dksL_law_45 24 rfl rfl
theorem dksL_law_47 : cL_law.data.toList.drop 1234 = dktL_law_47 := dk_seg dksL_law_46 24 rfl rfl
theorem dksL_law_48 : cL_law.data.toList.drop 1258 = dktL_law_48 := dk_seg dksL_law_47 24 rfl rfl
theorem dksL_law_49 : cL_law.data.toList.drop 1282 = dktL_law_49 := dk_seg dksL_law_48 24 rfl rfl
theorem dksL_law_50 : cL_law.data.toList.drop 1304 = dktL_law_50 := dk_seg dksL_law_49 22 rfl rfl
theorem dksL_law_51 : cL_law.data.toList.drop 1328 = dktL_law_51 := dk_seg dksL_law_50 24 rfl rfl
theorem dksL_law_52 : cL_law.data.toList.drop 1351 = dktL_law_52 := dk_seg dksL_law_51 23 rfl rfl
theorem dksL_law_53 : cL_law.data.toList.drop 1375 = dktL_law_53 := dk_seg dksL_law_52 24 rfl rfl
theorem dksL_law_54 : cL_law.data.toList.drop 1398 = dktL_law_54 := dk_seg dksL_law_53 23 rfl rfl
theorem dksL_law_55 : cL_law.data.toList.drop 1422 = dktL_law_55 := dk_seg dksL_law_54 24 rfl rfl
theorem dksL_law_56 : cL_law.data.toList.drop 1444 = dktL_law_56 := dk_seg dksL_law_55 22 rfl rfl
theorem dksL_law_57 : cL_law.data.toList.drop 1467 = dktL_law_57 := dk_seg dksL_law_56 23 rfl rfl
theorem dksL_law_58 : cL_law.data.toList.drop 1490 = dktL_law_58 := dk_seg dksL_law_57 23 rfl rfl
theorem dksL_law_59 : cL_law.data.toList.drop 1514 = dktL_law_59 := dk_seg dksL_law_58 24 rfl rfl
theorem dksL_law_60 : cL_law.data.toList.drop 1537 = dktL_law_60 := dk_seg dksL_law_59 23 rfl rfl
theorem dksL_law_61 : cL_law.data.toList.drop 1561 = dktL_law_61 := dk_seg dksL_law_60 24 rfl rfl
theorem dksL_law_62 : cL_law.data.toList.drop 1584 = dktL_law_62 := dk_seg dksL_law_61 23 rfl rfl
theorem dksL_law_63 : cL_law.data.toList.drop 1608 = dktL_law_63 := dk_seg dksL_law_62 24 rfl rfl
theorem dksL_law_64 : cL_law.data.toList.drop 1632 = dktL_law_64 := dk_seg dksL_law_63 24 rfl rfl
theorem dksL_law_65 : cL_law.data.toList.drop 1654 = dktL_law_65 := dk_seg dksL_law_64 22 rfl rfl
theorem dksL_law_66 : cL_law.data.toList.drop 1677 = dktL_law_66 := dk_seg dksL_law_65 23 rfl rfl
theorem dksL_law_67 : cL_law.data.toList.drop 1699 = dktL_law_67 := dk_seg dksL_law_66 22 rfl rfl
theorem dksL_law_68 : cL_law.data.toList.drop 1722 = dktL_law_68 := dk_seg dksL_law_67 23 rfl rfl
theorem dksL_law_69 : cL_law.data.toList.drop 1746 = dktL_law_69 := dk_seg dksL_law_68 24 rfl rfl
theorem dksL_law_70 : cL_law.data.toList.drop 1770 = dktL_law_70 := dk_seg dksL_law_69 24 rfl rfl
theorem dksL_law_71 : cL_law.data.toList.drop 1794 = dktL_law_71 := dk_seg dksL_law_70 24 rfl rfl
theorem dksL_law_72 : cL_law.data.toList.drop 1818 = dktL_law_72 := dk_seg dksL_law_71 24 rfl rfl
theorem dksL_law_73 : cL_law.data.toList.drop 1842 = dktL_law_73 := dk_seg dksL_law_72 24 rfl rfl
theorem dksL_law_74 : cL_law.data.toList.drop 1866 = dktL_law_74 := dk_seg dksL_law_73 24 rfl rfl
theorem dksL_law_75 : cL_law.data.toList.drop 1889 = dktL_law_75 := dk_seg dksL_law_74 23 rfl rfl
theorem dksL_law_76 : cL_law.data.toList.drop 1913 = dktL_law_76 := dk_seg dksL_law_75 24 rfl rfl
theorem dksL_law_77 : cL_law.data.toList.drop 1937 = dktL_law_77 := dk_seg dksL_law_76 24 rfl rfl
theorem dksL_law_78 : cL_law.data.toList.drop 1961 = dktL_law_78 := dk_seg dksL_law_77 24 rfl rfl
theorem dksL_law_79 : cL_law.data.toList.drop 1983 = dktL_law_79 := dk_seg dksL_law_78 22 rfl rfl
theorem dksL_law_80 : cL_law.data.toList.drop 2006 = dktL_law_80 := dk_seg dksL_law_79 23 rfl rfl
theorem dksL_law_81 : cL_law.data.toList.drop 2030 = dktL_law_81 := dk_seg dksL_law_80 24 rfl rfl
theorem dksL_law_82 : cL_law.data.toList.drop 2054 = dktL_law_82 := dk_seg dksL_law_81 24 rfl rfl
theorem dksL_law_83 : cL_law.data.toList.drop 2078 = dktL_law_83 := dk_seg dksL_law_82 24 rfl rfl
theorem dksL_law_84 : cL_law.data.toList.drop 2102 = dktL_law_84 := dk_seg dksL_law_83 24 rfl rfl
theorem dksL_law_85 : cL_law.data.toList.drop 2126 = dktL_law_85 := dk_seg dksL_law_84 24 rfl rfl
theorem dksL_law_86 : cL_law.data.toList.drop 2149 = dktL_law_86 := dk_seg dksL_law_85 23 rfl rfl
theorem dksL_law_87 : cL_law.data.toList.drop 2173 = dktL_law_87 := dk_seg dksL_law_86 24 rfl rfl
theorem dksL_law_88 : cL_law.data.toList.drop 2196 = dktL_law_88 := dk_seg dksL_law_87 23 rfl rfl
theorem dksL_law_89 : cL_law.data.toList.drop 2220 = dktL_law_89 := dk_seg dksL_law_88 24 rfl rfl
theorem dksL_law_90 : cL_law.data.toList.drop 2242 = dktL_law_90 := dk_seg dksL_law_89 22 rfl rfl
theorem dL_law_0 : decode cL_law 0 = .ok (.new 8, 3) := dk_187 0 8 (dk_at dksL_law_0 0 rfl rfl)
theorem dL_law_3 : decode cL_law 3 = .ok (.dup, 1) := dk_89 (dk_at dksL_law_0 3 rfl rfl)
theorem dL_law_4 : decode cL_law 4 = .ok (.invokespecial 129, 3) := dk_183 0 129 (dk_at dksL_law_0 4 rfl rfl)
theorem dL_law_7 : decode cL_law 7 = .ok (.astore_n 1, 1) := dk_76 (dk_at dksL_law_0 7 rfl rfl)
theorem dL_law_8 : decode cL_law 8 = .ok (.new 130, 3) := dk_187 0 130 (dk_at dksL_law_0 8 rfl rfl)
theorem dL_law_11 : decode cL_law 11 = .ok (.dup, 1) := dk_89 (dk_at dksL_law_0 11 rfl rfl)
theorem dL_law_12 : decode cL_law 12 = .ok (.invokespecial 132, 3) := dk_183 0 132 (dk_at dksL_law_0 12 rfl rfl)
theorem dL_law_15 : decode cL_law 15 = .ok (.astore_n 2, 1) := dk_77 (dk_at dksL_law_0 15 rfl rfl)
theorem dL_law_16 : decode cL_law 16 = .ok (.iconst 1, 1) := dk_4 (dk_at dksL_law_0 16 rfl rfl)
theorem dL_law_17 : decode cL_law 17 = .ok (.newarray .long, 2) := dk_188_11 (dk_at dksL_law_0 17 rfl rfl)
theorem dL_law_19 : decode cL_law 19 = .ok (.astore_n 3, 1) := dk_78 (dk_at dksL_law_0 19 rfl rfl)
theorem dL_law_20 : decode cL_law 20 = .ok (.iconst 1, 1) := dk_4 (dk_at dksL_law_0 20 rfl rfl)
theorem dL_law_21 : decode cL_law 21 = .ok (.newarray .double, 2) := dk_188_7 (dk_at dksL_law_0 21 rfl rfl)
theorem dL_law_23 : decode cL_law 23 = .ok (.astore 4, 2) := dk_58 4 (dk_at dksL_law_1 0 rfl rfl)
theorem dL_law_25 : decode cL_law 25 = .ok (.iconst 0, 1) := dk_3 (dk_at dksL_law_1 2 rfl rfl)
theorem dL_law_26 : decode cL_law 26 = .ok (.istore 5, 2) := dk_54 5 (dk_at dksL_law_1 3 rfl rfl)
theorem dL_law_28 : decode cL_law 28 = .ok (.iload 5, 2) := dk_21 5 (dk_at dksL_law_1 5 rfl rfl)
theorem dL_law_30 : decode cL_law 30 = .ok (.aload_n 0, 1) := dk_42 (dk_at dksL_law_1 7 rfl rfl)
theorem dL_law_31 : decode cL_law 31 = .ok (.arraylength, 1) := dk_190 (dk_at dksL_law_1 8 rfl rfl)
theorem dL_law_32 : decode cL_law 32 = .ok (.iconst 4, 1) := dk_7 (dk_at dksL_law_1 9 rfl rfl)
theorem dL_law_33 : decode cL_law 33 = .ok (.isub, 1) := dk_100 (dk_at dksL_law_1 10 rfl rfl)
theorem dL_law_34 : decode cL_law 34 = .ok (.if_icmp .gt 2217, 3) := dk_163 8 169 (dk_at dksL_law_1 11 rfl rfl)
theorem dL_law_37 : decode cL_law 37 = .ok (.aload_n 0, 1) := dk_42 (dk_at dksL_law_1 14 rfl rfl)
theorem dL_law_38 : decode cL_law 38 = .ok (.iload 5, 2) := dk_21 5 (dk_at dksL_law_1 15 rfl rfl)
theorem dL_law_40 : decode cL_law 40 = .ok (.iaload, 1) := dk_46 (dk_at dksL_law_1 17 rfl rfl)
theorem dL_law_41 : decode cL_law 41 = .ok (.bipush 63, 2) := dk_16 63 (dk_at dksL_law_1 18 rfl rfl)
theorem dL_law_43 : decode cL_law 43 = .ok (.iand, 1) := dk_126 (dk_at dksL_law_1 20 rfl rfl)
theorem dL_law_44 : decode cL_law 44 = .ok (.tableswitch 2201 0 36 #[164, 248, 316, 360, 428, 484, 540, 608, 676, 732, 800, 856, 912, 968, 1024, 1080, 1160, 1228, 1296, 1352, 1408, 1464, 1520, 1576, 1589, 1602, 1658, 1714, 1727, 1792, 1858, 1942, 1998, 2056, 2100, 2144, 2157], 164) := by decide +kernel
theorem dL_law_208 : decode cL_law 208 = .ok (.aload_n 1, 1) := dk_43 (dk_at dksL_law_3 0 rfl rfl)
theorem dL_law_209 : decode cL_law 209 = .ok (.aload_n 0, 1) := dk_42 (dk_at dksL_law_3 1 rfl rfl)
theorem dL_law_210 : decode cL_law 210 = .ok (.iload 5, 2) := dk_21 5 (dk_at dksL_law_3 2 rfl rfl)
theorem dL_law_212 : decode cL_law 212 = .ok (.iconst 1, 1) := dk_4 (dk_at dksL_law_3 4 rfl rfl)
theorem dL_law_213 : decode cL_law 213 = .ok (.iadd, 1) := dk_96 (dk_at dksL_law_3 5 rfl rfl)
theorem dL_law_214 : decode cL_law 214 = .ok (.iaload, 1) := dk_46 (dk_at dksL_law_3 6 rfl rfl)
theorem dL_law_215 : decode cL_law 215 = .ok (.aload_n 0, 1) := dk_42 (dk_at dksL_law_3 7 rfl rfl)
theorem dL_law_216 : decode cL_law 216 = .ok (.iload 5, 2) := dk_21 5 (dk_at dksL_law_3 8 rfl rfl)
theorem dL_law_218 : decode cL_law 218 = .ok (.iconst 2, 1) := dk_5 (dk_at dksL_law_3 10 rfl rfl)
theorem dL_law_219 : decode cL_law 219 = .ok (.iadd, 1) := dk_96 (dk_at dksL_law_3 11 rfl rfl)
theorem dL_law_220 : decode cL_law 220 = .ok (.iaload, 1) := dk_46 (dk_at dksL_law_3 12 rfl rfl)
theorem dL_law_221 : decode cL_law 221 = .ok (.ifCond .eq 7, 3) := dk_153 0 7 (dk_at dksL_law_3 13 rfl rfl)
theorem dL_law_224 : decode cL_law 224 = .ok (.iconst 1, 1) := dk_4 (dk_at dksL_law_3 16 rfl rfl)
theorem dL_law_225 : decode cL_law 225 = .ok (.goto 4, 3) := dk_167 0 4 (dk_at dksL_law_3 17 rfl rfl)
theorem dL_law_228 : decode cL_law 228 = .ok (.iconst 0, 1) := dk_3 (dk_at dksL_law_3 20 rfl rfl)
theorem dL_law_229 : decode cL_law 229 = .ok (.aload_n 3, 1) := dk_45 (dk_at dksL_law_3 21 rfl rfl)
theorem dL_law_230 : decode cL_law 230 = .ok (.invokestatic 133, 3) := dk_184 0 133 (dk_at dksL_law_4 0 rfl rfl)
theorem dL_law_233 : decode cL_law 233 = .ok (.istore 6, 2) := dk_54 6 (dk_at dksL_law_4 3 rfl rfl)
theorem dL_law_235 : decode cL_law 235 = .ok (.aload_n 2, 1) := dk_44 (dk_at dksL_law_4 5 rfl rfl)
theorem dL_law_236 : decode cL_law 236 = .ok (.aload_n 0, 1) := dk_42 (dk_at dksL_law_4 6 rfl rfl)
theorem dL_law_237 : decode cL_law 237 = .ok (.iload 5, 2) := dk_21 5 (dk_at dksL_law_4 7 rfl rfl)
theorem dL_law_239 : decode cL_law 239 = .ok (.iconst 1, 1) := dk_4 (dk_at dksL_law_4 9 rfl rfl)
theorem dL_law_240 : decode cL_law 240 = .ok (.iadd, 1) := dk_96 (dk_at dksL_law_4 10 rfl rfl)
theorem dL_law_241 : decode cL_law 241 = .ok (.iaload, 1) := dk_46 (dk_at dksL_law_4 11 rfl rfl)
theorem dL_law_242 : decode cL_law 242 = .ok (.aload_n 0, 1) := dk_42 (dk_at dksL_law_4 12 rfl rfl)
theorem dL_law_243 : decode cL_law 243 = .ok (.iload 5, 2) := dk_21 5 (dk_at dksL_law_4 13 rfl rfl)
theorem dL_law_245 : decode cL_law 245 = .ok (.iconst 2, 1) := dk_5 (dk_at dksL_law_4 15 rfl rfl)
theorem dL_law_246 : decode cL_law 246 = .ok (.iadd, 1) := dk_96 (dk_at dksL_law_4 16 rfl rfl)
theorem dL_law_247 : decode cL_law 247 = .ok (.iaload, 1) := dk_46 (dk_at dksL_law_4 17 rfl rfl)
theorem dL_law_248 : decode cL_law 248 = .ok (.ifCond .eq 7, 3) := dk_153 0 7 (dk_at dksL_law_4 18 rfl rfl)
theorem dL_law_251 : decode cL_law 251 = .ok (.iconst 1, 1) := dk_4 (dk_at dksL_law_4 21 rfl rfl)
theorem dL_law_252 : decode cL_law 252 = .ok (.goto 4, 3) := dk_167 0 4 (dk_at dksL_law_5 0 rfl rfl)
theorem dL_law_255 : decode cL_law 255 = .ok (.iconst 0, 1) := dk_3 (dk_at dksL_law_5 3 rfl rfl)
theorem dL_law_256 : decode cL_law 256 = .ok (.invokevirtual 138, 3) := dk_182 0 138 (dk_at dksL_law_5 4 rfl rfl)
theorem dL_law_259 : decode cL_law 259 = .ok (.istore 7, 2) := dk_54 7 (dk_at dksL_law_5 7 rfl rfl)
theorem dL_law_261 : decode cL_law 261 = .ok (.aload_n 2, 1) := dk_44 (dk_at dksL_law_5 9 rfl rfl)
theorem dL_law_262 : decode cL_law 262 = .ok (.invokevirtual 139, 3) := dk_182 0 139 (dk_at dksL_law_5 10 rfl rfl)
theorem dL_law_265 : decode cL_law 265 = .ok (.iload 6, 2) := dk_21 6 (dk_at dksL_law_5 13 rfl rfl)
theorem dL_law_267 : decode cL_law 267 = .ok (.if_icmp .eq 5, 3) := dk_159 0 5 (dk_at dksL_law_5 15 rfl rfl)
theorem dL_law_270 : decode cL_law 270 = .ok (.iconst 0, 1) := dk_3 (dk_at dksL_law_5 18 rfl rfl)
theorem dL_law_271 : decode cL_law 271 = .ok (.ireturn, 1) := dk_172 (dk_at dksL_law_5 19 rfl rfl)
theorem dL_law_272 : decode cL_law 272 = .ok (.iload 6, 2) := dk_21 6 (dk_at dksL_law_5 20 rfl rfl)
theorem dL_law_274 : decode cL_law 274 = .ok (.ifCond .ne 15, 3) := dk_154 0 15 (dk_at dksL_law_6 0 rfl rfl)
theorem dL_law_277 : decode cL_law 277 = .ok (.aload_n 3, 1) := dk_45 (dk_at dksL_law_6 3 rfl rfl)
theorem dL_law_278 : decode cL_law 278 = .ok (.iconst 0, 1) := dk_3 (dk_at dksL_law_6 4 rfl rfl)
theorem dL_law_279 : decode cL_law 279 = .ok (.laload, 1) := dk_47 (dk_at dksL_law_6 5 rfl rfl)
theorem dL_law_280 : decode cL_law 280 = .ok (.iload 7, 2) := dk_21 7 (dk_at dksL_law_6 6 rfl rfl)
theorem dL_law_282 : decode cL_law 282 = .ok (.i2l, 1) := dk_133 (dk_at dksL_law_6 8 rfl rfl)
theorem dL_law_283 : decode cL_law 283 = .ok (.lcmp, 1) := dk_148 (dk_at dksL_law_6 9 rfl rfl)
theorem dL_law_284 : decode cL_law 284 = .ok (.ifCond .eq 5, 3) := dk_153 0 5 (dk_at dksL_law_6 10 rfl rfl)
theorem dL_law_287 : decode cL_law 287 = .ok (.iconst 0, 1) := dk_3 (dk_at dksL_law_6 13 rfl rfl)
theorem dL_law_288 : decode cL_law 288 = .ok (.ireturn, 1) := dk_172 (dk_at dksL_law_6 14 rfl rfl)
theorem dL_law_289 : decode cL_law 289 = .ok (.goto 1956, 3) := dk_167 7 164 (dk_at dksL_law_6 15 rfl rfl)
theorem dL_law_292 : decode cL_law 292 = .ok (.aload_n 1, 1) := dk_43 (dk_at dksL_law_6 18 rfl rfl)
theorem dL_law_293 : decode cL_law 293 = .ok (.aload_n 0, 1) := dk_42 (dk_at dksL_law_6 19 rfl rfl)
theorem dL_law_294 : decode cL_law 294 = .ok (.iload 5, 2) := dk_21 5 (dk_at dksL_law_6 20 rfl rfl)
theorem dL_law_296 : decode cL_law 296 = .ok (.iconst 1, 1) := dk_4 (dk_at dksL_law_6 22 rfl rfl)
theorem dL_law_297 : decode cL_law 297 = .ok (.iadd, 1) := dk_96 (dk_at dksL_law_6 23 rfl rfl)
theorem dL_law_298 : decode cL_law 298 = .ok (.iaload, 1) := dk_46 (dk_at dksL_law_7 0 rfl rfl)
theorem dL_law_299 : decode cL_law 299 = .ok (.aload_n 0, 1) := dk_42 (dk_at dksL_law_7 1 rfl rfl)
theorem dL_law_300 : decode cL_law 300 = .ok (.iload 5, 2) := dk_21 5 (dk_at dksL_law_7 2 rfl rfl)
theorem dL_law_302 : decode cL_law 302 = .ok (.iconst 2, 1) := dk_5 (dk_at dksL_law_7 4 rfl rfl)
theorem dL_law_303 : decode cL_law 303 = .ok (.iadd, 1) := dk_96 (dk_at dksL_law_7 5 rfl rfl)
theorem dL_law_304 : decode cL_law 304 = .ok (.iaload, 1) := dk_46 (dk_at dksL_law_7 6 rfl rfl)
theorem dL_law_305 : decode cL_law 305 = .ok (.aload_n 3, 1) := dk_45 (dk_at dksL_law_7 7 rfl rfl)
theorem dL_law_306 : decode cL_law 306 = .ok (.invokestatic 142, 3) := dk_184 0 142 (dk_at dksL_law_7 8 rfl rfl)
theorem dL_law_309 : decode cL_law 309 = .ok (.istore 6, 2) := dk_54 6 (dk_at dksL_law_7 11 rfl rfl)
theorem dL_law_311 : decode cL_law 311 = .ok (.aload_n 2, 1) := dk_44 (dk_at dksL_law_7 13 rfl rfl)
theorem dL_law_312 : decode cL_law 312 = .ok (.aload_n 0, 1) := dk_42 (dk_at dksL_law_7 14 rfl rfl)
theorem dL_law_313 : decode cL_law 313 = .ok (.iload 5, 2) := dk_21 5 (dk_at dksL_law_7 15 rfl rfl)
theorem dL_law_315 : decode cL_law 315 = .ok (.iconst 1, 1) := dk_4 (dk_at dksL_law_7 17 rfl rfl)
theorem dL_law_316 : decode cL_law 316 = .ok (.iadd, 1) := dk_96 (dk_at dksL_law_7 18 rfl rfl)
theorem dL_law_317 : decode cL_law 317 = .ok (.iaload, 1) := dk_46 (dk_at dksL_law_7 19 rfl rfl)
theorem dL_law_318 : decode cL_law 318 = .ok (.aload_n 0, 1) := dk_42 (dk_at dksL_law_7 20 rfl rfl)
theorem dL_law_319 : decode cL_law 319 = .ok (.iload 5, 2) := dk_21 5 (dk_at dksL_law_7 21 rfl rfl)
theorem dL_law_321 : decode cL_law 321 = .ok (.iconst 2, 1) := dk_5 (dk_at dksL_law_7 23 rfl rfl)
theorem dL_law_322 : decode cL_law 322 = .ok (.iadd, 1) := dk_96 (dk_at dksL_law_8 0 rfl rfl)
theorem dL_law_323 : decode cL_law 323 = .ok (.iaload, 1) := dk_46 (dk_at dksL_law_8 1 rfl rfl)
theorem dL_law_324 : decode cL_law 324 = .ok (.invokevirtual 145, 3) := dk_182 0 145 (dk_at dksL_law_8 2 rfl rfl)
theorem dL_law_327 : decode cL_law 327 = .ok (.istore 7, 2) := dk_54 7 (dk_at dksL_law_8 5 rfl rfl)
theorem dL_law_329 : decode cL_law 329 = .ok (.aload_n 2, 1) := dk_44 (dk_at dksL_law_8 7 rfl rfl)
theorem dL_law_330 : decode cL_law 330 = .ok (.invokevirtual 139, 3) := dk_182 0 139 (dk_at dksL_law_8 8 rfl rfl)
theorem dL_law_333 : decode cL_law 333 = .ok (.iload 6, 2) := dk_21 6 (dk_at dksL_law_8 11 rfl rfl)
theorem dL_law_335 : decode cL_law 335 = .ok (.if_icmp .eq 5, 3) := dk_159 0 5 (dk_at dksL_law_8 13 rfl rfl)
theorem dL_law_338 : decode cL_law 338 = .ok (.iconst 0, 1) := dk_3 (dk_at dksL_law_8 16 rfl rfl)
theorem dL_law_339 : decode cL_law 339 = .ok (.ireturn, 1) := dk_172 (dk_at dksL_law_8 17 rfl rfl)
theorem dL_law_340 : decode cL_law 340 = .ok (.iload 6, 2) := dk_21 6 (dk_at dksL_law_8 18 rfl rfl)
theorem dL_law_342 : decode cL_law 342 = .ok (.ifCond .ne 15, 3) := dk_154 0 15 (dk_at dksL_law_8 20 rfl rfl)
theorem dL_law_345 : decode cL_law 345 = .ok (.aload_n 3, 1) := dk_45 (dk_at dksL_law_8 23 rfl rfl)
theorem dL_law_346 : decode cL_law 346 = .ok (.iconst 0, 1) := dk_3 (dk_at dksL_law_9 0 rfl rfl)
theorem dL_law_347 : decode cL_law 347 = .ok (.laload, 1) := dk_47 (dk_at dksL_law_9 1 rfl rfl)
theorem dL_law_348 : decode cL_law 348 = .ok (.iload 7, 2) := dk_21 7 (dk_at dksL_law_9 2 rfl rfl)
theorem dL_law_350 : decode cL_law 350 = .ok (.i2l, 1) := dk_133 (dk_at dksL_law_9 4 rfl rfl)
theorem dL_law_351 : decode cL_law 351 = .ok (.lcmp, 1) := dk_148 (dk_at dksL_law_9 5 rfl rfl)
theorem dL_law_352 : decode cL_law 352 = .ok (.ifCond .eq 5, 3) := dk_153 0 5 (dk_at dksL_law_9 6 rfl rfl)
theorem dL_law_355 : decode cL_law 355 = .ok (.iconst 0, 1) := dk_3 (dk_at dksL_law_9 9 rfl rfl)
theorem dL_law_356 : decode cL_law 356 = .ok (.ireturn, 1) := dk_172 (dk_at dksL_law_9 10 rfl rfl)
theorem dL_law_357 : decode cL_law 357 = .ok (.goto 1888, 3) := dk_167 7 96 (dk_at dksL_law_9 11 rfl rfl)
theorem dL_law_360 : decode cL_law 360 = .ok (.aload_n 1, 1) := dk_43 (dk_at dksL_law_9 14 rfl rfl)
theorem dL_law_361 : decode cL_law 361 = .ok (.aload_n 3, 1) := dk_45 (dk_at dksL_law_9 15 rfl rfl)
theorem dL_law_362 : decode cL_law 362 = .ok (.invokestatic 146, 3) := dk_184 0 146 (dk_at dksL_law_9 16 rfl rfl)
theorem dL_law_365 : decode cL_law 365 = .ok (.istore 6, 2) := dk_54 6 (dk_at dksL_law_9 19 rfl rfl)
theorem dL_law_367 : decode cL_law 367 = .ok (.aload_n 2, 1) := dk_44 (dk_at dksL_law_9 21 rfl rfl)
theorem dL_law_368 : decode cL_law 368 = .ok (.invokevirtual 149, 3) := dk_182 0 149 (dk_at dksL_law_10 0 rfl rfl)
theorem dL_law_371 : decode cL_law 371 = .ok (.istore 7, 2) := dk_54 7 (dk_at dksL_law_10 3 rfl rfl)
theorem dL_law_373 : decode cL_law 373 = .ok (.aload_n 2, 1) := dk_44 (dk_at dksL_law_10 5 rfl rfl)
theorem dL_law_374 : decode cL_law 374 = .ok (.invokevirtual 139, 3) := dk_182 0 139 (dk_at dksL_law_10 6 rfl rfl)
theorem dL_law_377 : decode cL_law 377 = .ok (.iload 6, 2) := dk_21 6 (dk_at dksL_law_10 9 rfl rfl)
theorem dL_law_379 : decode cL_law 379 = .ok (.if_icmp .eq 5, 3) := dk_159 0 5 (dk_at dksL_law_10 11 rfl rfl)
theorem dL_law_382 : decode cL_law 382 = .ok (.iconst 0, 1) := dk_3 (dk_at dksL_law_10 14 rfl rfl)
theorem dL_law_383 : decode cL_law 383 = .ok (.ireturn, 1) := dk_172 (dk_at dksL_law_10 15 rfl rfl)
theorem dL_law_384 : decode cL_law 384 = .ok (.iload 6, 2) := dk_21 6 (dk_at dksL_law_10 16 rfl rfl)
theorem dL_law_386 : decode cL_law 386 = .ok (.ifCond .ne 15, 3) := dk_154 0 15 (dk_at dksL_law_10 18 rfl rfl)
theorem dL_law_389 : decode cL_law 389 = .ok (.aload_n 3, 1) := dk_45 (dk_at dksL_law_10 21 rfl rfl)
theorem dL_law_390 : decode cL_law 390 = .ok (.iconst 0, 1) := dk_3 (dk_at dksL_law_10 22 rfl rfl)
theorem dL_law_391 : decode cL_law 391 = .ok (.laload, 1) := dk_47 (dk_at dksL_law_10 23 rfl rfl)
theorem dL_law_392 : decode cL_law 392 = .ok (.iload 7, 2) := dk_21 7 (dk_at dksL_law_11 0 rfl rfl)
theorem dL_law_394 : decode cL_law 394 = .ok (.i2l, 1) := dk_133 (dk_at dksL_law_11 2 rfl rfl)
theorem dL_law_395 : decode cL_law 395 = .ok (.lcmp, 1) := dk_148 (dk_at dksL_law_11 3 rfl rfl)
theorem dL_law_396 : decode cL_law 396 = .ok (.ifCond .eq 5, 3) := dk_153 0 5 (dk_at dksL_law_11 4 rfl rfl)
theorem dL_law_399 : decode cL_law 399 = .ok (.iconst 0, 1) := dk_3 (dk_at dksL_law_11 7 rfl rfl)
theorem dL_law_400 : decode cL_law 400 = .ok (.ireturn, 1) := dk_172 (dk_at dksL_law_11 8 rfl rfl)
theorem dL_law_401 : decode cL_law 401 = .ok (.goto 1844, 3) := dk_167 7 52 (dk_at dksL_law_11 9 rfl rfl)
theorem dL_law_404 : decode cL_law 404 = .ok (.aload_n 1, 1) := dk_43 (dk_at dksL_law_11 12 rfl rfl)
theorem dL_law_405 : decode cL_law 405 = .ok (.aload_n 0, 1) := dk_42 (dk_at dksL_law_11 13 rfl rfl)
theorem dL_law_406 : decode cL_law 406 = .ok (.iload 5, 2) := dk_21 5 (dk_at dksL_law_11 14 rfl rfl)
theorem dL_law_408 : decode cL_law 408 = .ok (.iconst 1, 1) := dk_4 (dk_at dksL_law_11 16 rfl rfl)
theorem dL_law_409 : decode cL_law 409 = .ok (.iadd, 1) := dk_96 (dk_at dksL_law_11 17 rfl rfl)
theorem dL_law_410 : decode cL_law 410 = .ok (.iaload, 1) := dk_46 (dk_at dksL_law_11 18 rfl rfl)
theorem dL_law_411 : decode cL_law 411 = .ok (.aload_n 0, 1) := dk_42 (dk_at dksL_law_11 19 rfl rfl)
theorem dL_law_412 : decode cL_law 412 = .ok (.iload 5, 2) := dk_21 5 (dk_at dksL_law_11 20 rfl rfl)
theorem dL_law_414 : decode cL_law 414 = .ok (.iconst 2, 1) := dk_5 (dk_at dksL_law_11 22 rfl rfl)
theorem dL_law_415 : decode cL_law 415 = .ok (.iadd, 1) := dk_96 (dk_at dksL_law_11 23 rfl rfl)
theorem dL_law_416 : decode cL_law 416 = .ok (.iaload, 1) := dk_46 (dk_at dksL_law_12 0 rfl rfl)
theorem dL_law_417 : decode cL_law 417 = .ok (.aload_n 3, 1) := dk_45 (dk_at dksL_law_12 1 rfl rfl)
theorem dL_law_418 : decode cL_law 418 = .ok (.invokestatic 150, 3) := dk_184 0 150 (dk_at dksL_law_12 2 rfl rfl)
theorem dL_law_421 : decode cL_law 421 = .ok (.istore 6, 2) := dk_54 6 (dk_at dksL_law_12 5 rfl rfl)
theorem dL_law_423 : decode cL_law 423 = .ok (.aload_n 2, 1) := dk_44 (dk_at dksL_law_12 7 rfl rfl)
theorem dL_law_424 : decode cL_law 424 = .ok (.aload_n 0, 1) := dk_42 (dk_at dksL_law_12 8 rfl rfl)
theorem dL_law_425 : decode cL_law 425 = .ok (.iload 5, 2) := dk_21 5 (dk_at dksL_law_12 9 rfl rfl)
theorem dL_law_427 : decode cL_law 427 = .ok (.iconst 1, 1) := dk_4 (dk_at dksL_law_12 11 rfl rfl)
theorem dL_law_428 : decode cL_law 428 = .ok (.iadd, 1) := dk_96 (dk_at dksL_law_12 12 rfl rfl)
theorem dL_law_429 : decode cL_law 429 = .ok (.iaload, 1) := dk_46 (dk_at dksL_law_12 13 rfl rfl)
theorem dL_law_430 : decode cL_law 430 = .ok (.aload_n 0, 1) := dk_42 (dk_at dksL_law_12 14 rfl rfl)
theorem dL_law_431 : decode cL_law 431 = .ok (.iload 5, 2) := dk_21 5 (dk_at dksL_law_12 15 rfl rfl)
theorem dL_law_433 : decode cL_law 433 = .ok (.iconst 2, 1) := dk_5 (dk_at dksL_law_12 17 rfl rfl)
theorem dL_law_434 : decode cL_law 434 = .ok (.iadd, 1) := dk_96 (dk_at dksL_law_12 18 rfl rfl)
theorem dL_law_435 : decode cL_law 435 = .ok (.iaload, 1) := dk_46 (dk_at dksL_law_12 19 rfl rfl)
theorem dL_law_436 : decode cL_law 436 = .ok (.invokevirtual 152, 3) := dk_182 0 152 (dk_at dksL_law_12 20 rfl rfl)
theorem dL_law_439 : decode cL_law 439 = .ok (.istore 7, 2) := dk_54 7 (dk_at dksL_law_13 0 rfl rfl)
theorem dL_law_441 : decode cL_law 441 = .ok (.aload_n 2, 1) := dk_44 (dk_at dksL_law_13 2 rfl rfl)
theorem dL_law_442 : decode cL_law 442 = .ok (.invokevirtual 139, 3) := dk_182 0 139 (dk_at dksL_law_13 3 rfl rfl)
theorem dL_law_445 : decode cL_law 445 = .ok (.iload 6, 2) := dk_21 6 (dk_at dksL_law_13 6 rfl rfl)
theorem dL_law_447 : decode cL_law 447 = .ok (.if_icmp .eq 5, 3) := dk_159 0 5 (dk_at dksL_law_13 8 rfl rfl)
theorem dL_law_450 : decode cL_law 450 = .ok (.iconst 0, 1) := dk_3 (dk_at dksL_law_13 11 rfl rfl)
theorem dL_law_451 : decode cL_law 451 = .ok (.ireturn, 1) := dk_172 (dk_at dksL_law_13 12 rfl rfl)
theorem dL_law_452 : decode cL_law 452 = .ok (.iload 6, 2) := dk_21 6 (dk_at dksL_law_13 13 rfl rfl)
theorem dL_law_454 : decode cL_law 454 = .ok (.ifCond .ne 15, 3) := dk_154 0 15 (dk_at dksL_law_13 15 rfl rfl)
theorem dL_law_457 : decode cL_law 457 = .ok (.aload_n 3, 1) := dk_45 (dk_at dksL_law_13 18 rfl rfl)
theorem dL_law_458 : decode cL_law 458 = .ok (.iconst 0, 1) := dk_3 (dk_at dksL_law_13 19 rfl rfl)
theorem dL_law_459 : decode cL_law 459 = .ok (.laload, 1) := dk_47 (dk_at dksL_law_13 20 rfl rfl)
theorem dL_law_460 : decode cL_law 460 = .ok (.iload 7, 2) := dk_21 7 (dk_at dksL_law_13 21 rfl rfl)
theorem dL_law_462 : decode cL_law 462 = .ok (.i2l, 1) := dk_133 (dk_at dksL_law_13 23 rfl rfl)
theorem dL_law_463 : decode cL_law 463 = .ok (.lcmp, 1) := dk_148 (dk_at dksL_law_14 0 rfl rfl)
theorem dL_law_464 : decode cL_law 464 = .ok (.ifCond .eq 5, 3) := dk_153 0 5 (dk_at dksL_law_14 1 rfl rfl)
theorem dL_law_467 : decode cL_law 467 = .ok (.iconst 0, 1) := dk_3 (dk_at dksL_law_14 4 rfl rfl)
theorem dL_law_468 : decode cL_law 468 = .ok (.ireturn, 1) := dk_172 (dk_at dksL_law_14 5 rfl rfl)
theorem dL_law_469 : decode cL_law 469 = .ok (.goto 1776, 3) := dk_167 6 240 (dk_at dksL_law_14 6 rfl rfl)
theorem dL_law_472 : decode cL_law 472 = .ok (.aload_n 1, 1) := dk_43 (dk_at dksL_law_14 9 rfl rfl)
theorem dL_law_473 : decode cL_law 473 = .ok (.aload_n 0, 1) := dk_42 (dk_at dksL_law_14 10 rfl rfl)
theorem dL_law_474 : decode cL_law 474 = .ok (.iload 5, 2) := dk_21 5 (dk_at dksL_law_14 11 rfl rfl)
theorem dL_law_476 : decode cL_law 476 = .ok (.iconst 1, 1) := dk_4 (dk_at dksL_law_14 13 rfl rfl)
theorem dL_law_477 : decode cL_law 477 = .ok (.iadd, 1) := dk_96 (dk_at dksL_law_14 14 rfl rfl)
theorem dL_law_478 : decode cL_law 478 = .ok (.iaload, 1) := dk_46 (dk_at dksL_law_14 15 rfl rfl)
theorem dL_law_479 : decode cL_law 479 = .ok (.aload_n 3, 1) := dk_45 (dk_at dksL_law_14 16 rfl rfl)
theorem dL_law_480 : decode cL_law 480 = .ok (.invokestatic 153, 3) := dk_184 0 153 (dk_at dksL_law_14 17 rfl rfl)
theorem dL_law_483 : decode cL_law 483 = .ok (.istore 6, 2) := dk_54 6 (dk_at dksL_law_14 20 rfl rfl)
theorem dL_law_485 : decode cL_law 485 = .ok (.aload_n 2, 1) := dk_44 (dk_at dksL_law_14 22 rfl rfl)
theorem dL_law_486 : decode cL_law 486 = .ok (.aload_n 0, 1) := dk_42 (dk_at dksL_law_14 23 rfl rfl)
theorem dL_law_487 : decode cL_law 487 = .ok (.iload 5, 2) := dk_21 5 (dk_at dksL_law_15 0 rfl rfl)
theorem dL_law_489 : decode cL_law 489 = .ok (.iconst 1, 1) := dk_4 (dk_at dksL_law_15 2 rfl rfl)
theorem dL_law_490 : decode cL_law 490 = .ok (.iadd, 1) := dk_96 (dk_at dksL_law_15 3 rfl rfl)
theorem dL_law_491 : decode cL_law 491 = .ok (.iaload, 1) := dk_46 (dk_at dksL_law_15 4 rfl rfl)
theorem dL_law_492 : decode cL_law 492 = .ok (.invokevirtual 156, 3) := dk_182 0 156 (dk_at dksL_law_15 5 rfl rfl)
theorem dL_law_495 : decode cL_law 495 = .ok (.istore 7, 2) := dk_54 7 (dk_at dksL_law_15 8 rfl rfl)
theorem dL_law_497 : decode cL_law 497 = .ok (.aload_n 2, 1) := dk_44 (dk_at dksL_law_15 10 rfl rfl)
theorem dL_law_498 : decode cL_law 498 = .ok (.invokevirtual 139, 3) := dk_182 0 139 (dk_at dksL_law_15 11 rfl rfl)
theorem dL_law_501 : decode cL_law 501 = .ok (.iload 6, 2) := dk_21 6 (dk_at dksL_law_15 14 rfl rfl)
theorem dL_law_503 : decode cL_law 503 = .ok (.if_icmp .eq 5, 3) := dk_159 0 5 (dk_at dksL_law_15 16 rfl rfl)
theorem dL_law_506 : decode cL_law 506 = .ok (.iconst 0, 1) := dk_3 (dk_at dksL_law_15 19 rfl rfl)
theorem dL_law_507 : decode cL_law 507 = .ok (.ireturn, 1) := dk_172 (dk_at dksL_law_15 20 rfl rfl)
theorem dL_law_508 : decode cL_law 508 = .ok (.iload 6, 2) := dk_21 6 (dk_at dksL_law_15 21 rfl rfl)
theorem dL_law_510 : decode cL_law 510 = .ok (.ifCond .ne 15, 3) := dk_154 0 15 (dk_at dksL_law_16 0 rfl rfl)
theorem dL_law_513 : decode cL_law 513 = .ok (.aload_n 3, 1) := dk_45 (dk_at dksL_law_16 3 rfl rfl)
theorem dL_law_514 : decode cL_law 514 = .ok (.iconst 0, 1) := dk_3 (dk_at dksL_law_16 4 rfl rfl)
theorem dL_law_515 : decode cL_law 515 = .ok (.laload, 1) := dk_47 (dk_at dksL_law_16 5 rfl rfl)
theorem dL_law_516 : decode cL_law 516 = .ok (.iload 7, 2) := dk_21 7 (dk_at dksL_law_16 6 rfl rfl)
theorem dL_law_518 : decode cL_law 518 = .ok (.i2l, 1) := dk_133 (dk_at dksL_law_16 8 rfl rfl)
theorem dL_law_519 : decode cL_law 519 = .ok (.lcmp, 1) := dk_148 (dk_at dksL_law_16 9 rfl rfl)
theorem dL_law_520 : decode cL_law 520 = .ok (.ifCond .eq 5, 3) := dk_153 0 5 (dk_at dksL_law_16 10 rfl rfl)
theorem dL_law_523 : decode cL_law 523 = .ok (.iconst 0, 1) := dk_3 (dk_at dksL_law_16 13 rfl rfl)
theorem dL_law_524 : decode cL_law 524 = .ok (.ireturn, 1) := dk_172 (dk_at dksL_law_16 14 rfl rfl)
theorem dL_law_525 : decode cL_law 525 = .ok (.goto 1720, 3) := dk_167 6 184 (dk_at dksL_law_16 15 rfl rfl)
theorem dL_law_528 : decode cL_law 528 = .ok (.aload_n 1, 1) := dk_43 (dk_at dksL_law_16 18 rfl rfl)
theorem dL_law_529 : decode cL_law 529 = .ok (.aload_n 0, 1) := dk_42 (dk_at dksL_law_16 19 rfl rfl)
theorem dL_law_530 : decode cL_law 530 = .ok (.iload 5, 2) := dk_21 5 (dk_at dksL_law_16 20 rfl rfl)
theorem dL_law_532 : decode cL_law 532 = .ok (.iconst 1, 1) := dk_4 (dk_at dksL_law_16 22 rfl rfl)
theorem dL_law_533 : decode cL_law 533 = .ok (.iadd, 1) := dk_96 (dk_at dksL_law_16 23 rfl rfl)
theorem dL_law_534 : decode cL_law 534 = .ok (.iaload, 1) := dk_46 (dk_at dksL_law_17 0 rfl rfl)
theorem dL_law_535 : decode cL_law 535 = .ok (.aload_n 3, 1) := dk_45 (dk_at dksL_law_17 1 rfl rfl)
theorem dL_law_536 : decode cL_law 536 = .ok (.invokestatic 157, 3) := dk_184 0 157 (dk_at dksL_law_17 2 rfl rfl)
theorem dL_law_539 : decode cL_law 539 = .ok (.istore 6, 2) := dk_54 6 (dk_at dksL_law_17 5 rfl rfl)
theorem dL_law_541 : decode cL_law 541 = .ok (.aload_n 2, 1) := dk_44 (dk_at dksL_law_17 7 rfl rfl)
theorem dL_law_542 : decode cL_law 542 = .ok (.aload_n 0, 1) := dk_42 (dk_at dksL_law_17 8 rfl rfl)
theorem dL_law_543 : decode cL_law 543 = .ok (.iload 5, 2) := dk_21 5 (dk_at dksL_law_17 9 rfl rfl)
theorem dL_law_545 : decode cL_law 545 = .ok (.iconst 1, 1) := dk_4 (dk_at dksL_law_17 11 rfl rfl)
theorem dL_law_546 : decode cL_law 546 = .ok (.iadd, 1) := dk_96 (dk_at dksL_law_17 12 rfl rfl)
theorem dL_law_547 : decode cL_law 547 = .ok (.iaload, 1) := dk_46 (dk_at dksL_law_17 13 rfl rfl)
theorem dL_law_548 : decode cL_law 548 = .ok (.invokevirtual 159, 3) := dk_182 0 159 (dk_at dksL_law_17 14 rfl rfl)
theorem dL_law_551 : decode cL_law 551 = .ok (.istore 7, 2) := dk_54 7 (dk_at dksL_law_17 17 rfl rfl)
theorem dL_law_553 : decode cL_law 553 = .ok (.aload_n 2, 1) := dk_44 (dk_at dksL_law_17 19 rfl rfl)
theorem dL_law_554 : decode cL_law 554 = .ok (.invokevirtual 139, 3) := dk_182 0 139 (dk_at dksL_law_17 20 rfl rfl)
theorem dL_law_557 : decode cL_law 557 = .ok (.iload 6, 2) := dk_21 6 (dk_at dksL_law_18 0 rfl rfl)
theorem dL_law_559 : decode cL_law 559 = .ok (.if_icmp .eq 5, 3) := dk_159 0 5 (dk_at dksL_law_18 2 rfl rfl)
theorem dL_law_562 : decode cL_law 562 = .ok (.iconst 0, 1) := dk_3 (dk_at dksL_law_18 5 rfl rfl)
theorem dL_law_563 : decode cL_law 563 = .ok (.ireturn, 1) := dk_172 (dk_at dksL_law_18 6 rfl rfl)
theorem dL_law_564 : decode cL_law 564 = .ok (.iload 6, 2) := dk_21 6 (dk_at dksL_law_18 7 rfl rfl)
theorem dL_law_566 : decode cL_law 566 = .ok (.ifCond .ne 15, 3) := dk_154 0 15 (dk_at dksL_law_18 9 rfl rfl)
theorem dL_law_569 : decode cL_law 569 = .ok (.aload_n 3, 1) := dk_45 (dk_at dksL_law_18 12 rfl rfl)
theorem dL_law_570 : decode cL_law 570 = .ok (.iconst 0, 1) := dk_3 (dk_at dksL_law_18 13 rfl rfl)
theorem dL_law_571 : decode cL_law 571 = .ok (.laload, 1) := dk_47 (dk_at dksL_law_18 14 rfl rfl)
theorem dL_law_572 : decode cL_law 572 = .ok (.iload 7, 2) := dk_21 7 (dk_at dksL_law_18 15 rfl rfl)
theorem dL_law_574 : decode cL_law 574 = .ok (.i2l, 1) := dk_133 (dk_at dksL_law_18 17 rfl rfl)
theorem dL_law_575 : decode cL_law 575 = .ok (.lcmp, 1) := dk_148 (dk_at dksL_law_18 18 rfl rfl)
theorem dL_law_576 : decode cL_law 576 = .ok (.ifCond .eq 5, 3) := dk_153 0 5 (dk_at dksL_law_18 19 rfl rfl)
theorem dL_law_579 : decode cL_law 579 = .ok (.iconst 0, 1) := dk_3 (dk_at dksL_law_18 22 rfl rfl)
theorem dL_law_580 : decode cL_law 580 = .ok (.ireturn, 1) := dk_172 (dk_at dksL_law_18 23 rfl rfl)
theorem dL_law_581 : decode cL_law 581 = .ok (.goto 1664, 3) := dk_167 6 128 (dk_at dksL_law_19 0 rfl rfl)
theorem dL_law_584 : decode cL_law 584 = .ok (.aload_n 1, 1) := dk_43 (dk_at dksL_law_19 3 rfl rfl)
theorem dL_law_585 : decode cL_law 585 = .ok (.aload_n 0, 1) := dk_42 (dk_at dksL_law_19 4 rfl rfl)
theorem dL_law_586 : decode cL_law 586 = .ok (.iload 5, 2) := dk_21 5 (dk_at dksL_law_19 5 rfl rfl)
theorem dL_law_588 : decode cL_law 588 = .ok (.iconst 1, 1) := dk_4 (dk_at dksL_law_19 7 rfl rfl)
theorem dL_law_589 : decode cL_law 589 = .ok (.iadd, 1) := dk_96 (dk_at dksL_law_19 8 rfl rfl)
theorem dL_law_590 : decode cL_law 590 = .ok (.iaload, 1) := dk_46 (dk_at dksL_law_19 9 rfl rfl)
theorem dL_law_591 : decode cL_law 591 = .ok (.aload_n 0, 1) := dk_42 (dk_at dksL_law_19 10 rfl rfl)
theorem dL_law_592 : decode cL_law 592 = .ok (.iload 5, 2) := dk_21 5 (dk_at dksL_law_19 11 rfl rfl)
theorem dL_law_594 : decode cL_law 594 = .ok (.iconst 2, 1) := dk_5 (dk_at dksL_law_19 13 rfl rfl)
theorem dL_law_595 : decode cL_law 595 = .ok (.iadd, 1) := dk_96 (dk_at dksL_law_19 14 rfl rfl)
theorem dL_law_596 : decode cL_law 596 = .ok (.iaload, 1) := dk_46 (dk_at dksL_law_19 15 rfl rfl)
theorem dL_law_597 : decode cL_law 597 = .ok (.aload_n 3, 1) := dk_45 (dk_at dksL_law_19 16 rfl rfl)
theorem dL_law_598 : decode cL_law 598 = .ok (.invokestatic 160, 3) := dk_184 0 160 (dk_at dksL_law_19 17 rfl rfl)
theorem dL_law_601 : decode cL_law 601 = .ok (.istore 6, 2) := dk_54 6 (dk_at dksL_law_19 20 rfl rfl)
theorem dL_law_603 : decode cL_law 603 = .ok (.aload_n 2, 1) := dk_44 (dk_at dksL_law_19 22 rfl rfl)
theorem dL_law_604 : decode cL_law 604 = .ok (.aload_n 0, 1) := dk_42 (dk_at dksL_law_19 23 rfl rfl)
theorem dL_law_605 : decode cL_law 605 = .ok (.iload 5, 2) := dk_21 5 (dk_at dksL_law_20 0 rfl rfl)
theorem dL_law_607 : decode cL_law 607 = .ok (.iconst 1, 1) := dk_4 (dk_at dksL_law_20 2 rfl rfl)
theorem dL_law_608 : decode cL_law 608 = .ok (.iadd, 1) := dk_96 (dk_at dksL_law_20 3 rfl rfl)
theorem dL_law_609 : decode cL_law 609 = .ok (.iaload, 1) := dk_46 (dk_at dksL_law_20 4 rfl rfl)
theorem dL_law_610 : decode cL_law 610 = .ok (.aload_n 0, 1) := dk_42 (dk_at dksL_law_20 5 rfl rfl)
theorem dL_law_611 : decode cL_law 611 = .ok (.iload 5, 2) := dk_21 5 (dk_at dksL_law_20 6 rfl rfl)
theorem dL_law_613 : decode cL_law 613 = .ok (.iconst 2, 1) := dk_5 (dk_at dksL_law_20 8 rfl rfl)
theorem dL_law_614 : decode cL_law 614 = .ok (.iadd, 1) := dk_96 (dk_at dksL_law_20 9 rfl rfl)
theorem dL_law_615 : decode cL_law 615 = .ok (.iaload, 1) := dk_46 (dk_at dksL_law_20 10 rfl rfl)
theorem dL_law_616 : decode cL_law 616 = .ok (.invokevirtual 162, 3) := dk_182 0 162 (dk_at dksL_law_20 11 rfl rfl)
theorem dL_law_619 : decode cL_law 619 = .ok (.istore 7, 2) := dk_54 7 (dk_at dksL_law_20 14 rfl rfl)
theorem dL_law_621 : decode cL_law 621 = .ok (.aload_n 2, 1) := dk_44 (dk_at dksL_law_20 16 rfl rfl)
theorem dL_law_622 : decode cL_law 622 = .ok (.invokevirtual 139, 3) := dk_182 0 139 (dk_at dksL_law_20 17 rfl rfl)
theorem dL_law_625 : decode cL_law 625 = .ok (.iload 6, 2) := dk_21 6 (dk_at dksL_law_20 20 rfl rfl)
theorem dL_law_627 : decode cL_law 627 = .ok (.if_icmp .eq 5, 3) := dk_159 0 5 (dk_at dksL_law_21 0 rfl rfl)
theorem dL_law_630 : decode cL_law 630 = .ok (.iconst 0, 1) := dk_3 (dk_at dksL_law_21 3 rfl rfl)
theorem dL_law_631 : decode cL_law 631 = .ok (.ireturn, 1) := dk_172 (dk_at dksL_law_21 4 rfl rfl)
theorem dL_law_632 : decode cL_law 632 = .ok (.iload 6, 2) := dk_21 6 (dk_at dksL_law_21 5 rfl rfl)
theorem dL_law_634 : decode cL_law 634 = .ok (.ifCond .ne 15, 3) := dk_154 0 15 (dk_at dksL_law_21 7 rfl rfl)
theorem dL_law_637 : decode cL_law 637 = .ok (.aload_n 3, 1) := dk_45 (dk_at dksL_law_21 10 rfl rfl)
theorem dL_law_638 : decode cL_law 638 = .ok (.iconst 0, 1) := dk_3 (dk_at dksL_law_21 11 rfl rfl)
theorem dL_law_639 : decode cL_law 639 = .ok (.laload, 1) := dk_47 (dk_at dksL_law_21 12 rfl rfl)
theorem dL_law_640 : decode cL_law 640 = .ok (.iload 7, 2) := dk_21 7 (dk_at dksL_law_21 13 rfl rfl)
theorem dL_law_642 : decode cL_law 642 = .ok (.i2l, 1) := dk_133 (dk_at dksL_law_21 15 rfl rfl)
theorem dL_law_643 : decode cL_law 643 = .ok (.lcmp, 1) := dk_148 (dk_at dksL_law_21 16 rfl rfl)
theorem dL_law_644 : decode cL_law 644 = .ok (.ifCond .eq 5, 3) := dk_153 0 5 (dk_at dksL_law_21 17 rfl rfl)
theorem dL_law_647 : decode cL_law 647 = .ok (.iconst 0, 1) := dk_3 (dk_at dksL_law_21 20 rfl rfl)
theorem dL_law_648 : decode cL_law 648 = .ok (.ireturn, 1) := dk_172 (dk_at dksL_law_21 21 rfl rfl)
theorem dL_law_649 : decode cL_law 649 = .ok (.goto 1596, 3) := dk_167 6 60 (dk_at dksL_law_22 0 rfl rfl)
theorem dL_law_652 : decode cL_law 652 = .ok (.aload_n 1, 1) := dk_43 (dk_at dksL_law_22 3 rfl rfl)
theorem dL_law_653 : decode cL_law 653 = .ok (.aload_n 0, 1) := dk_42 (dk_at dksL_law_22 4 rfl rfl)
theorem dL_law_654 : decode cL_law 654 = .ok (.iload 5, 2) := dk_21 5 (dk_at dksL_law_22 5 rfl rfl)
theorem dL_law_656 : decode cL_law 656 = .ok (.iconst 1, 1) := dk_4 (dk_at dksL_law_22 7 rfl rfl)
theorem dL_law_657 : decode cL_law 657 = .ok (.iadd, 1) := dk_96 (dk_at dksL_law_22 8 rfl rfl)
theorem dL_law_658 : decode cL_law 658 = .ok (.iaload, 1) := dk_46 (dk_at dksL_law_22 9 rfl rfl)
theorem dL_law_659 : decode cL_law 659 = .ok (.aload_n 0, 1) := dk_42 (dk_at dksL_law_22 10 rfl rfl)
theorem dL_law_660 : decode cL_law 660 = .ok (.iload 5, 2) := dk_21 5 (dk_at dksL_law_22 11 rfl rfl)
theorem dL_law_662 : decode cL_law 662 = .ok (.iconst 2, 1) := dk_5 (dk_at dksL_law_22 13 rfl rfl)
theorem dL_law_663 : decode cL_law 663 = .ok (.iadd, 1) := dk_96 (dk_at dksL_law_22 14 rfl rfl)
theorem dL_law_664 : decode cL_law 664 = .ok (.iaload, 1) := dk_46 (dk_at dksL_law_22 15 rfl rfl)
theorem dL_law_665 : decode cL_law 665 = .ok (.aload_n 3, 1) := dk_45 (dk_at dksL_law_22 16 rfl rfl)
theorem dL_law_666 : decode cL_law 666 = .ok (.invokestatic 163, 3) := dk_184 0 163 (dk_at dksL_law_22 17 rfl rfl)
theorem dL_law_669 : decode cL_law 669 = .ok (.istore 6, 2) := dk_54 6 (dk_at dksL_law_22 20 rfl rfl)
theorem dL_law_671 : decode cL_law 671 = .ok (.aload_n 2, 1) := dk_44 (dk_at dksL_law_22 22 rfl rfl)
theorem dL_law_672 : decode cL_law 672 = .ok (.aload_n 0, 1) := dk_42 (dk_at dksL_law_22 23 rfl rfl)
theorem dL_law_673 : decode cL_law 673 = .ok (.iload 5, 2) := dk_21 5 (dk_at dksL_law_23 0 rfl rfl)
theorem dL_law_675 : decode cL_law 675 = .ok (.iconst 1, 1) := dk_4 (dk_at dksL_law_23 2 rfl rfl)
theorem dL_law_676 : decode cL_law 676 = .ok (.iadd, 1) := dk_96 (dk_at dksL_law_23 3 rfl rfl)
theorem dL_law_677 : decode cL_law 677 = .ok (.iaload, 1) := dk_46 (dk_at dksL_law_23 4 rfl rfl)
theorem dL_law_678 : decode cL_law 678 = .ok (.aload_n 0, 1) := dk_42 (dk_at dksL_law_23 5 rfl rfl)
theorem dL_law_679 : decode cL_law 679 = .ok (.iload 5, 2) := dk_21 5 (dk_at dksL_law_23 6 rfl rfl)
theorem dL_law_681 : decode cL_law 681 = .ok (.iconst 2, 1) := dk_5 (dk_at dksL_law_23 8 rfl rfl)
theorem dL_law_682 : decode cL_law 682 = .ok (.iadd, 1) := dk_96 (dk_at dksL_law_23 9 rfl rfl)
theorem dL_law_683 : decode cL_law 683 = .ok (.iaload, 1) := dk_46 (dk_at dksL_law_23 10 rfl rfl)
theorem dL_law_684 : decode cL_law 684 = .ok (.invokevirtual 165, 3) := dk_182 0 165 (dk_at dksL_law_23 11 rfl rfl)
theorem dL_law_687 : decode cL_law 687 = .ok (.istore 7, 2) := dk_54 7 (dk_at dksL_law_23 14 rfl rfl)
theorem dL_law_689 : decode cL_law 689 = .ok (.aload_n 2, 1) := dk_44 (dk_at dksL_law_23 16 rfl rfl)
theorem dL_law_690 : decode cL_law 690 = .ok (.invokevirtual 139, 3) := dk_182 0 139 (dk_at dksL_law_23 17 rfl rfl)
theorem dL_law_693 : decode cL_law 693 = .ok (.iload 6, 2) := dk_21 6 (dk_at dksL_law_23 20 rfl rfl)
theorem dL_law_695 : decode cL_law 695 = .ok (.if_icmp .eq 5, 3) := dk_159 0 5 (dk_at dksL_law_24 0 rfl rfl)
theorem dL_law_698 : decode cL_law 698 = .ok (.iconst 0, 1) := dk_3 (dk_at dksL_law_24 3 rfl rfl)
theorem dL_law_699 : decode cL_law 699 = .ok (.ireturn, 1) := dk_172 (dk_at dksL_law_24 4 rfl rfl)
theorem dL_law_700 : decode cL_law 700 = .ok (.iload 6, 2) := dk_21 6 (dk_at dksL_law_24 5 rfl rfl)
theorem dL_law_702 : decode cL_law 702 = .ok (.ifCond .ne 15, 3) := dk_154 0 15 (dk_at dksL_law_24 7 rfl rfl)
theorem dL_law_705 : decode cL_law 705 = .ok (.aload_n 3, 1) := dk_45 (dk_at dksL_law_24 10 rfl rfl)
theorem dL_law_706 : decode cL_law 706 = .ok (.iconst 0, 1) := dk_3 (dk_at dksL_law_24 11 rfl rfl)
theorem dL_law_707 : decode cL_law 707 = .ok (.laload, 1) := dk_47 (dk_at dksL_law_24 12 rfl rfl)
theorem dL_law_708 : decode cL_law 708 = .ok (.iload 7, 2) := dk_21 7 (dk_at dksL_law_24 13 rfl rfl)
theorem dL_law_710 : decode cL_law 710 = .ok (.i2l, 1) := dk_133 (dk_at dksL_law_24 15 rfl rfl)
theorem dL_law_711 : decode cL_law 711 = .ok (.lcmp, 1) := dk_148 (dk_at dksL_law_24 16 rfl rfl)
theorem dL_law_712 : decode cL_law 712 = .ok (.ifCond .eq 5, 3) := dk_153 0 5 (dk_at dksL_law_24 17 rfl rfl)
theorem dL_law_715 : decode cL_law 715 = .ok (.iconst 0, 1) := dk_3 (dk_at dksL_law_24 20 rfl rfl)
theorem dL_law_716 : decode cL_law 716 = .ok (.ireturn, 1) := dk_172 (dk_at dksL_law_24 21 rfl rfl)
theorem dL_law_717 : decode cL_law 717 = .ok (.goto 1528, 3) := dk_167 5 248 (dk_at dksL_law_25 0 rfl rfl)
theorem dL_law_720 : decode cL_law 720 = .ok (.aload_n 1, 1) := dk_43 (dk_at dksL_law_25 3 rfl rfl)
theorem dL_law_721 : decode cL_law 721 = .ok (.aload_n 0, 1) := dk_42 (dk_at dksL_law_25 4 rfl rfl)
theorem dL_law_722 : decode cL_law 722 = .ok (.iload 5, 2) := dk_21 5 (dk_at dksL_law_25 5 rfl rfl)
theorem dL_law_724 : decode cL_law 724 = .ok (.iconst 1, 1) := dk_4 (dk_at dksL_law_25 7 rfl rfl)
theorem dL_law_725 : decode cL_law 725 = .ok (.iadd, 1) := dk_96 (dk_at dksL_law_25 8 rfl rfl)
theorem dL_law_726 : decode cL_law 726 = .ok (.iaload, 1) := dk_46 (dk_at dksL_law_25 9 rfl rfl)
theorem dL_law_727 : decode cL_law 727 = .ok (.aload_n 3, 1) := dk_45 (dk_at dksL_law_25 10 rfl rfl)
theorem dL_law_728 : decode cL_law 728 = .ok (.invokestatic 166, 3) := dk_184 0 166 (dk_at dksL_law_25 11 rfl rfl)
theorem dL_law_731 : decode cL_law 731 = .ok (.istore 6, 2) := dk_54 6 (dk_at dksL_law_25 14 rfl rfl)
theorem dL_law_733 : decode cL_law 733 = .ok (.aload_n 2, 1) := dk_44 (dk_at dksL_law_25 16 rfl rfl)
theorem dL_law_734 : decode cL_law 734 = .ok (.aload_n 0, 1) := dk_42 (dk_at dksL_law_25 17 rfl rfl)
theorem dL_law_735 : decode cL_law 735 = .ok (.iload 5, 2) := dk_21 5 (dk_at dksL_law_25 18 rfl rfl)
theorem dL_law_737 : decode cL_law 737 = .ok (.iconst 1, 1) := dk_4 (dk_at dksL_law_25 20 rfl rfl)
theorem dL_law_738 : decode cL_law 738 = .ok (.iadd, 1) := dk_96 (dk_at dksL_law_25 21 rfl rfl)
theorem dL_law_739 : decode cL_law 739 = .ok (.iaload, 1) := dk_46 (dk_at dksL_law_25 22 rfl rfl)
theorem dL_law_740 : decode cL_law 740 = .ok (.invokevirtual 168, 3) := dk_182 0 168 (dk_at dksL_law_26 0 rfl rfl)
theorem dL_law_743 : decode cL_law 743 = .ok (.istore 7, 2) := dk_54 7 (dk_at dksL_law_26 3 rfl rfl)
theorem dL_law_745 : decode cL_law 745 = .ok (.aload_n 2, 1) := dk_44 (dk_at dksL_law_26 5 rfl rfl)
theorem dL_law_746 : decode cL_law 746 = .ok (.invokevirtual 139, 3) := dk_182 0 139 (dk_at dksL_law_26 6 rfl rfl)
theorem dL_law_749 : decode cL_law 749 = .ok (.iload 6, 2) := dk_21 6 (dk_at dksL_law_26 9 rfl rfl)
theorem dL_law_751 : decode cL_law 751 = .ok (.if_icmp .eq 5, 3) := dk_159 0 5 (dk_at dksL_law_26 11 rfl rfl)
theorem dL_law_754 : decode cL_law 754 = .ok (.iconst 0, 1) := dk_3 (dk_at dksL_law_26 14 rfl rfl)
theorem dL_law_755 : decode cL_law 755 = .ok (.ireturn, 1) := dk_172 (dk_at dksL_law_26 15 rfl rfl)
theorem dL_law_756 : decode cL_law 756 = .ok (.iload 6, 2) := dk_21 6 (dk_at dksL_law_26 16 rfl rfl)
theorem dL_law_758 : decode cL_law 758 = .ok (.ifCond .ne 15, 3) := dk_154 0 15 (dk_at dksL_law_26 18 rfl rfl)
theorem dL_law_761 : decode cL_law 761 = .ok (.aload_n 3, 1) := dk_45 (dk_at dksL_law_26 21 rfl rfl)
theorem dL_law_762 : decode cL_law 762 = .ok (.iconst 0, 1) := dk_3 (dk_at dksL_law_26 22 rfl rfl)
theorem dL_law_763 : decode cL_law 763 = .ok (.laload, 1) := dk_47 (dk_at dksL_law_26 23 rfl rfl)
theorem dL_law_764 : decode cL_law 764 = .ok (.iload 7, 2) := dk_21 7 (dk_at dksL_law_27 0 rfl rfl)
theorem dL_law_766 : decode cL_law 766 = .ok (.i2l, 1) := dk_133 (dk_at dksL_law_27 2 rfl rfl)
theorem dL_law_767 : decode cL_law 767 = .ok (.lcmp, 1) := dk_148 (dk_at dksL_law_27 3 rfl rfl)
theorem dL_law_768 : decode cL_law 768 = .ok (.ifCond .eq 5, 3) := dk_153 0 5 (dk_at dksL_law_27 4 rfl rfl)
theorem dL_law_771 : decode cL_law 771 = .ok (.iconst 0, 1) := dk_3 (dk_at dksL_law_27 7 rfl rfl)
theorem dL_law_772 : decode cL_law 772 = .ok (.ireturn, 1) := dk_172 (dk_at dksL_law_27 8 rfl rfl)
theorem dL_law_773 : decode cL_law 773 = .ok (.goto 1472, 3) := dk_167 5 192 (dk_at dksL_law_27 9 rfl rfl)
theorem dL_law_776 : decode cL_law 776 = .ok (.aload_n 1, 1) := dk_43 (dk_at dksL_law_27 12 rfl rfl)
theorem dL_law_777 : decode cL_law 777 = .ok (.aload_n 0, 1) := dk_42 (dk_at dksL_law_27 13 rfl rfl)
theorem dL_law_778 : decode cL_law 778 = .ok (.iload 5, 2) := dk_21 5 (dk_at dksL_law_27 14 rfl rfl)
theorem dL_law_780 : decode cL_law 780 = .ok (.iconst 1, 1) := dk_4 (dk_at dksL_law_27 16 rfl rfl)
theorem dL_law_781 : decode cL_law 781 = .ok (.iadd, 1) := dk_96 (dk_at dksL_law_27 17 rfl rfl)
theorem dL_law_782 : decode cL_law 782 = .ok (.iaload, 1) := dk_46 (dk_at dksL_law_27 18 rfl rfl)
theorem dL_law_783 : decode cL_law 783 = .ok (.aload_n 0, 1) := dk_42 (dk_at dksL_law_27 19 rfl rfl)
theorem dL_law_784 : decode cL_law 784 = .ok (.iload 5, 2) := dk_21 5 (dk_at dksL_law_27 20 rfl rfl)
theorem dL_law_786 : decode cL_law 786 = .ok (.iconst 2, 1) := dk_5 (dk_at dksL_law_27 22 rfl rfl)
theorem dL_law_787 : decode cL_law 787 = .ok (.iadd, 1) := dk_96 (dk_at dksL_law_27 23 rfl rfl)
theorem dL_law_788 : decode cL_law 788 = .ok (.iaload, 1) := dk_46 (dk_at dksL_law_28 0 rfl rfl)
theorem dL_law_789 : decode cL_law 789 = .ok (.aload_n 3, 1) := dk_45 (dk_at dksL_law_28 1 rfl rfl)
theorem dL_law_790 : decode cL_law 790 = .ok (.invokestatic 169, 3) := dk_184 0 169 (dk_at dksL_law_28 2 rfl rfl)
theorem dL_law_793 : decode cL_law 793 = .ok (.istore 6, 2) := dk_54 6 (dk_at dksL_law_28 5 rfl rfl)
theorem dL_law_795 : decode cL_law 795 = .ok (.aload_n 2, 1) := dk_44 (dk_at dksL_law_28 7 rfl rfl)
theorem dL_law_796 : decode cL_law 796 = .ok (.aload_n 0, 1) := dk_42 (dk_at dksL_law_28 8 rfl rfl)
theorem dL_law_797 : decode cL_law 797 = .ok (.iload 5, 2) := dk_21 5 (dk_at dksL_law_28 9 rfl rfl)
theorem dL_law_799 : decode cL_law 799 = .ok (.iconst 1, 1) := dk_4 (dk_at dksL_law_28 11 rfl rfl)
theorem dL_law_800 : decode cL_law 800 = .ok (.iadd, 1) := dk_96 (dk_at dksL_law_28 12 rfl rfl)
theorem dL_law_801 : decode cL_law 801 = .ok (.iaload, 1) := dk_46 (dk_at dksL_law_28 13 rfl rfl)
theorem dL_law_802 : decode cL_law 802 = .ok (.aload_n 0, 1) := dk_42 (dk_at dksL_law_28 14 rfl rfl)
theorem dL_law_803 : decode cL_law 803 = .ok (.iload 5, 2) := dk_21 5 (dk_at dksL_law_28 15 rfl rfl)
theorem dL_law_805 : decode cL_law 805 = .ok (.iconst 2, 1) := dk_5 (dk_at dksL_law_28 17 rfl rfl)
theorem dL_law_806 : decode cL_law 806 = .ok (.iadd, 1) := dk_96 (dk_at dksL_law_28 18 rfl rfl)
theorem dL_law_807 : decode cL_law 807 = .ok (.iaload, 1) := dk_46 (dk_at dksL_law_28 19 rfl rfl)
theorem dL_law_808 : decode cL_law 808 = .ok (.invokevirtual 171, 3) := dk_182 0 171 (dk_at dksL_law_28 20 rfl rfl)
theorem dL_law_811 : decode cL_law 811 = .ok (.istore 7, 2) := dk_54 7 (dk_at dksL_law_29 0 rfl rfl)
theorem dL_law_813 : decode cL_law 813 = .ok (.aload_n 2, 1) := dk_44 (dk_at dksL_law_29 2 rfl rfl)
theorem dL_law_814 : decode cL_law 814 = .ok (.invokevirtual 139, 3) := dk_182 0 139 (dk_at dksL_law_29 3 rfl rfl)
theorem dL_law_817 : decode cL_law 817 = .ok (.iload 6, 2) := dk_21 6 (dk_at dksL_law_29 6 rfl rfl)
theorem dL_law_819 : decode cL_law 819 = .ok (.if_icmp .eq 5, 3) := dk_159 0 5 (dk_at dksL_law_29 8 rfl rfl)
theorem dL_law_822 : decode cL_law 822 = .ok (.iconst 0, 1) := dk_3 (dk_at dksL_law_29 11 rfl rfl)
theorem dL_law_823 : decode cL_law 823 = .ok (.ireturn, 1) := dk_172 (dk_at dksL_law_29 12 rfl rfl)
theorem dL_law_824 : decode cL_law 824 = .ok (.iload 6, 2) := dk_21 6 (dk_at dksL_law_29 13 rfl rfl)
theorem dL_law_826 : decode cL_law 826 = .ok (.ifCond .ne 15, 3) := dk_154 0 15 (dk_at dksL_law_29 15 rfl rfl)
theorem dL_law_829 : decode cL_law 829 = .ok (.aload_n 3, 1) := dk_45 (dk_at dksL_law_29 18 rfl rfl)
theorem dL_law_830 : decode cL_law 830 = .ok (.iconst 0, 1) := dk_3 (dk_at dksL_law_29 19 rfl rfl)
theorem dL_law_831 : decode cL_law 831 = .ok (.laload, 1) := dk_47 (dk_at dksL_law_29 20 rfl rfl)
theorem dL_law_832 : decode cL_law 832 = .ok (.iload 7, 2) := dk_21 7 (dk_at dksL_law_29 21 rfl rfl)
theorem dL_law_834 : decode cL_law 834 = .ok (.i2l, 1) := dk_133 (dk_at dksL_law_29 23 rfl rfl)
theorem dL_law_835 : decode cL_law 835 = .ok (.lcmp, 1) := dk_148 (dk_at dksL_law_30 0 rfl rfl)
theorem dL_law_836 : decode cL_law 836 = .ok (.ifCond .eq 5, 3) := dk_153 0 5 (dk_at dksL_law_30 1 rfl rfl)
theorem dL_law_839 : decode cL_law 839 = .ok (.iconst 0, 1) := dk_3 (dk_at dksL_law_30 4 rfl rfl)
theorem dL_law_840 : decode cL_law 840 = .ok (.ireturn, 1) := dk_172 (dk_at dksL_law_30 5 rfl rfl)
theorem dL_law_841 : decode cL_law 841 = .ok (.goto 1404, 3) := dk_167 5 124 (dk_at dksL_law_30 6 rfl rfl)
theorem dL_law_844 : decode cL_law 844 = .ok (.aload_n 1, 1) := dk_43 (dk_at dksL_law_30 9 rfl rfl)
theorem dL_law_845 : decode cL_law 845 = .ok (.aload_n 0, 1) := dk_42 (dk_at dksL_law_30 10 rfl rfl)
theorem dL_law_846 : decode cL_law 846 = .ok (.iload 5, 2) := dk_21 5 (dk_at dksL_law_30 11 rfl rfl)
theorem dL_law_848 : decode cL_law 848 = .ok (.iconst 1, 1) := dk_4 (dk_at dksL_law_30 13 rfl rfl)
theorem dL_law_849 : decode cL_law 849 = .ok (.iadd, 1) := dk_96 (dk_at dksL_law_30 14 rfl rfl)
theorem dL_law_850 : decode cL_law 850 = .ok (.iaload, 1) := dk_46 (dk_at dksL_law_30 15 rfl rfl)
theorem dL_law_851 : decode cL_law 851 = .ok (.aload_n 3, 1) := dk_45 (dk_at dksL_law_30 16 rfl rfl)
theorem dL_law_852 : decode cL_law 852 = .ok (.invokestatic 172, 3) := dk_184 0 172 (dk_at dksL_law_30 17 rfl rfl)
theorem dL_law_855 : decode cL_law 855 = .ok (.istore 6, 2) := dk_54 6 (dk_at dksL_law_30 20 rfl rfl)
theorem dL_law_857 : decode cL_law 857 = .ok (.aload_n 2, 1) := dk_44 (dk_at dksL_law_30 22 rfl rfl)
theorem dL_law_858 : decode cL_law 858 = .ok (.aload_n 0, 1) := dk_42 (dk_at dksL_law_30 23 rfl rfl)
theorem dL_law_859 : decode cL_law 859 = .ok (.iload 5, 2) := dk_21 5 (dk_at dksL_law_31 0 rfl rfl)
theorem dL_law_861 : decode cL_law 861 = .ok (.iconst 1, 1) := dk_4 (dk_at dksL_law_31 2 rfl rfl)
theorem dL_law_862 : decode cL_law 862 = .ok (.iadd, 1) := dk_96 (dk_at dksL_law_31 3 rfl rfl)
theorem dL_law_863 : decode cL_law 863 = .ok (.iaload, 1) := dk_46 (dk_at dksL_law_31 4 rfl rfl)
theorem dL_law_864 : decode cL_law 864 = .ok (.invokevirtual 174, 3) := dk_182 0 174 (dk_at dksL_law_31 5 rfl rfl)
theorem dL_law_867 : decode cL_law 867 = .ok (.istore 7, 2) := dk_54 7 (dk_at dksL_law_31 8 rfl rfl)
theorem dL_law_869 : decode cL_law 869 = .ok (.aload_n 2, 1) := dk_44 (dk_at dksL_law_31 10 rfl rfl)
theorem dL_law_870 : decode cL_law 870 = .ok (.invokevirtual 139, 3) := dk_182 0 139 (dk_at dksL_law_31 11 rfl rfl)
theorem dL_law_873 : decode cL_law 873 = .ok (.iload 6, 2) := dk_21 6 (dk_at dksL_law_31 14 rfl rfl)
theorem dL_law_875 : decode cL_law 875 = .ok (.if_icmp .eq 5, 3) := dk_159 0 5 (dk_at dksL_law_31 16 rfl rfl)
theorem dL_law_878 : decode cL_law 878 = .ok (.iconst 0, 1) := dk_3 (dk_at dksL_law_31 19 rfl rfl)
theorem dL_law_879 : decode cL_law 879 = .ok (.ireturn, 1) := dk_172 (dk_at dksL_law_31 20 rfl rfl)
theorem dL_law_880 : decode cL_law 880 = .ok (.iload 6, 2) := dk_21 6 (dk_at dksL_law_31 21 rfl rfl)
theorem dL_law_882 : decode cL_law 882 = .ok (.ifCond .ne 15, 3) := dk_154 0 15 (dk_at dksL_law_32 0 rfl rfl)
theorem dL_law_885 : decode cL_law 885 = .ok (.aload_n 3, 1) := dk_45 (dk_at dksL_law_32 3 rfl rfl)
theorem dL_law_886 : decode cL_law 886 = .ok (.iconst 0, 1) := dk_3 (dk_at dksL_law_32 4 rfl rfl)
theorem dL_law_887 : decode cL_law 887 = .ok (.laload, 1) := dk_47 (dk_at dksL_law_32 5 rfl rfl)
theorem dL_law_888 : decode cL_law 888 = .ok (.iload 7, 2) := dk_21 7 (dk_at dksL_law_32 6 rfl rfl)
theorem dL_law_890 : decode cL_law 890 = .ok (.i2l, 1) := dk_133 (dk_at dksL_law_32 8 rfl rfl)
theorem dL_law_891 : decode cL_law 891 = .ok (.lcmp, 1) := dk_148 (dk_at dksL_law_32 9 rfl rfl)
theorem dL_law_892 : decode cL_law 892 = .ok (.ifCond .eq 5, 3) := dk_153 0 5 (dk_at dksL_law_32 10 rfl rfl)
theorem dL_law_895 : decode cL_law 895 = .ok (.iconst 0, 1) := dk_3 (dk_at dksL_law_32 13 rfl rfl)
theorem dL_law_896 : decode cL_law 896 = .ok (.ireturn, 1) := dk_172 (dk_at dksL_law_32 14 rfl rfl)
theorem dL_law_897 : decode cL_law 897 = .ok (.goto 1348, 3) := dk_167 5 68 (dk_at dksL_law_32 15 rfl rfl)
theorem dL_law_900 : decode cL_law 900 = .ok (.aload_n 1, 1) := dk_43 (dk_at dksL_law_32 18 rfl rfl)
theorem dL_law_901 : decode cL_law 901 = .ok (.aload_n 0, 1) := dk_42 (dk_at dksL_law_32 19 rfl rfl)
theorem dL_law_902 : decode cL_law 902 = .ok (.iload 5, 2) := dk_21 5 (dk_at dksL_law_32 20 rfl rfl)
theorem dL_law_904 : decode cL_law 904 = .ok (.iconst 1, 1) := dk_4 (dk_at dksL_law_32 22 rfl rfl)
theorem dL_law_905 : decode cL_law 905 = .ok (.iadd, 1) := dk_96 (dk_at dksL_law_32 23 rfl rfl)
theorem dL_law_906 : decode cL_law 906 = .ok (.iaload, 1) := dk_46 (dk_at dksL_law_33 0 rfl rfl)
theorem dL_law_907 : decode cL_law 907 = .ok (.aload_n 3, 1) := dk_45 (dk_at dksL_law_33 1 rfl rfl)
theorem dL_law_908 : decode cL_law 908 = .ok (.invokestatic 175, 3) := dk_184 0 175 (dk_at dksL_law_33 2 rfl rfl)
theorem dL_law_911 : decode cL_law 911 = .ok (.istore 6, 2) := dk_54 6 (dk_at dksL_law_33 5 rfl rfl)
theorem dL_law_913 : decode cL_law 913 = .ok (.aload_n 2, 1) := dk_44 (dk_at dksL_law_33 7 rfl rfl)
theorem dL_law_914 : decode cL_law 914 = .ok (.aload_n 0, 1) := dk_42 (dk_at dksL_law_33 8 rfl rfl)
theorem dL_law_915 : decode cL_law 915 = .ok (.iload 5, 2) := dk_21 5 (dk_at dksL_law_33 9 rfl rfl)
theorem dL_law_917 : decode cL_law 917 = .ok (.iconst 1, 1) := dk_4 (dk_at dksL_law_33 11 rfl rfl)
theorem dL_law_918 : decode cL_law 918 = .ok (.iadd, 1) := dk_96 (dk_at dksL_law_33 12 rfl rfl)
theorem dL_law_919 : decode cL_law 919 = .ok (.iaload, 1) := dk_46 (dk_at dksL_law_33 13 rfl rfl)
theorem dL_law_920 : decode cL_law 920 = .ok (.invokevirtual 177, 3) := dk_182 0 177 (dk_at dksL_law_33 14 rfl rfl)
theorem dL_law_923 : decode cL_law 923 = .ok (.istore 7, 2) := dk_54 7 (dk_at dksL_law_33 17 rfl rfl)
theorem dL_law_925 : decode cL_law 925 = .ok (.aload_n 2, 1) := dk_44 (dk_at dksL_law_33 19 rfl rfl)
theorem dL_law_926 : decode cL_law 926 = .ok (.invokevirtual 139, 3) := dk_182 0 139 (dk_at dksL_law_33 20 rfl rfl)
theorem dL_law_929 : decode cL_law 929 = .ok (.iload 6, 2) := dk_21 6 (dk_at dksL_law_34 0 rfl rfl)
theorem dL_law_931 : decode cL_law 931 = .ok (.if_icmp .eq 5, 3) := dk_159 0 5 (dk_at dksL_law_34 2 rfl rfl)
theorem dL_law_934 : decode cL_law 934 = .ok (.iconst 0, 1) := dk_3 (dk_at dksL_law_34 5 rfl rfl)
theorem dL_law_935 : decode cL_law 935 = .ok (.ireturn, 1) := dk_172 (dk_at dksL_law_34 6 rfl rfl)
theorem dL_law_936 : decode cL_law 936 = .ok (.iload 6, 2) := dk_21 6 (dk_at dksL_law_34 7 rfl rfl)
theorem dL_law_938 : decode cL_law 938 = .ok (.ifCond .ne 15, 3) := dk_154 0 15 (dk_at dksL_law_34 9 rfl rfl)
theorem dL_law_941 : decode cL_law 941 = .ok (.aload_n 3, 1) := dk_45 (dk_at dksL_law_34 12 rfl rfl)
theorem dL_law_942 : decode cL_law 942 = .ok (.iconst 0, 1) := dk_3 (dk_at dksL_law_34 13 rfl rfl)
theorem dL_law_943 : decode cL_law 943 = .ok (.laload, 1) := dk_47 (dk_at dksL_law_34 14 rfl rfl)
theorem dL_law_944 : decode cL_law 944 = .ok (.iload 7, 2) := dk_21 7 (dk_at dksL_law_34 15 rfl rfl)
theorem dL_law_946 : decode cL_law 946 = .ok (.i2l, 1) := dk_133 (dk_at dksL_law_34 17 rfl rfl)
theorem dL_law_947 : decode cL_law 947 = .ok (.lcmp, 1) := dk_148 (dk_at dksL_law_34 18 rfl rfl)
theorem dL_law_948 : decode cL_law 948 = .ok (.ifCond .eq 5, 3) := dk_153 0 5 (dk_at dksL_law_34 19 rfl rfl)
theorem dL_law_951 : decode cL_law 951 = .ok (.iconst 0, 1) := dk_3 (dk_at dksL_law_34 22 rfl rfl)
theorem dL_law_952 : decode cL_law 952 = .ok (.ireturn, 1) := dk_172 (dk_at dksL_law_34 23 rfl rfl)
theorem dL_law_953 : decode cL_law 953 = .ok (.goto 1292, 3) := dk_167 5 12 (dk_at dksL_law_35 0 rfl rfl)
theorem dL_law_956 : decode cL_law 956 = .ok (.aload_n 1, 1) := dk_43 (dk_at dksL_law_35 3 rfl rfl)
theorem dL_law_957 : decode cL_law 957 = .ok (.aload_n 0, 1) := dk_42 (dk_at dksL_law_35 4 rfl rfl)
theorem dL_law_958 : decode cL_law 958 = .ok (.iload 5, 2) := dk_21 5 (dk_at dksL_law_35 5 rfl rfl)
theorem dL_law_960 : decode cL_law 960 = .ok (.iconst 1, 1) := dk_4 (dk_at dksL_law_35 7 rfl rfl)
theorem dL_law_961 : decode cL_law 961 = .ok (.iadd, 1) := dk_96 (dk_at dksL_law_35 8 rfl rfl)
theorem dL_law_962 : decode cL_law 962 = .ok (.iaload, 1) := dk_46 (dk_at dksL_law_35 9 rfl rfl)
theorem dL_law_963 : decode cL_law 963 = .ok (.aload_n 3, 1) := dk_45 (dk_at dksL_law_35 10 rfl rfl)
theorem dL_law_964 : decode cL_law 964 = .ok (.invokestatic 178, 3) := dk_184 0 178 (dk_at dksL_law_35 11 rfl rfl)
theorem dL_law_967 : decode cL_law 967 = .ok (.istore 6, 2) := dk_54 6 (dk_at dksL_law_35 14 rfl rfl)
theorem dL_law_969 : decode cL_law 969 = .ok (.aload_n 2, 1) := dk_44 (dk_at dksL_law_35 16 rfl rfl)
theorem dL_law_970 : decode cL_law 970 = .ok (.aload_n 0, 1) := dk_42 (dk_at dksL_law_35 17 rfl rfl)
theorem dL_law_971 : decode cL_law 971 = .ok (.iload 5, 2) := dk_21 5 (dk_at dksL_law_35 18 rfl rfl)
theorem dL_law_973 : decode cL_law 973 = .ok (.iconst 1, 1) := dk_4 (dk_at dksL_law_35 20 rfl rfl)
theorem dL_law_974 : decode cL_law 974 = .ok (.iadd, 1) := dk_96 (dk_at dksL_law_35 21 rfl rfl)
theorem dL_law_975 : decode cL_law 975 = .ok (.iaload, 1) := dk_46 (dk_at dksL_law_35 22 rfl rfl)
theorem dL_law_976 : decode cL_law 976 = .ok (.invokevirtual 180, 3) := dk_182 0 180 (dk_at dksL_law_36 0 rfl rfl)
theorem dL_law_979 : decode cL_law 979 = .ok (.istore 7, 2) := dk_54 7 (dk_at dksL_law_36 3 rfl rfl)
theorem dL_law_981 : decode cL_law 981 = .ok (.aload_n 2, 1) := dk_44 (dk_at dksL_law_36 5 rfl rfl)
theorem dL_law_982 : decode cL_law 982 = .ok (.invokevirtual 139, 3) := dk_182 0 139 (dk_at dksL_law_36 6 rfl rfl)
theorem dL_law_985 : decode cL_law 985 = .ok (.iload 6, 2) := dk_21 6 (dk_at dksL_law_36 9 rfl rfl)
theorem dL_law_987 : decode cL_law 987 = .ok (.if_icmp .eq 5, 3) := dk_159 0 5 (dk_at dksL_law_36 11 rfl rfl)
theorem dL_law_990 : decode cL_law 990 = .ok (.iconst 0, 1) := dk_3 (dk_at dksL_law_36 14 rfl rfl)
theorem dL_law_991 : decode cL_law 991 = .ok (.ireturn, 1) := dk_172 (dk_at dksL_law_36 15 rfl rfl)
theorem dL_law_992 : decode cL_law 992 = .ok (.iload 6, 2) := dk_21 6 (dk_at dksL_law_36 16 rfl rfl)
theorem dL_law_994 : decode cL_law 994 = .ok (.ifCond .ne 15, 3) := dk_154 0 15 (dk_at dksL_law_36 18 rfl rfl)
theorem dL_law_997 : decode cL_law 997 = .ok (.aload_n 3, 1) := dk_45 (dk_at dksL_law_36 21 rfl rfl)
theorem dL_law_998 : decode cL_law 998 = .ok (.iconst 0, 1) := dk_3 (dk_at dksL_law_36 22 rfl rfl)
theorem dL_law_999 : decode cL_law 999 = .ok (.laload, 1) := dk_47 (dk_at dksL_law_36 23 rfl rfl)
theorem dL_law_1000 : decode cL_law 1000 = .ok (.iload 7, 2) := dk_21 7 (dk_at dksL_law_37 0 rfl rfl)
theorem dL_law_1002 : decode cL_law 1002 = .ok (.i2l, 1) := dk_133 (dk_at dksL_law_37 2 rfl rfl)
theorem dL_law_1003 : decode cL_law 1003 = .ok (.lcmp, 1) := dk_148 (dk_at dksL_law_37 3 rfl rfl)
theorem dL_law_1004 : decode cL_law 1004 = .ok (.ifCond .eq 5, 3) := dk_153 0 5 (dk_at dksL_law_37 4 rfl rfl)
theorem dL_law_1007 : decode cL_law 1007 = .ok (.iconst 0, 1) := dk_3 (dk_at dksL_law_37 7 rfl rfl)
theorem dL_law_1008 : decode cL_law 1008 = .ok (.ireturn, 1) := dk_172 (dk_at dksL_law_37 8 rfl rfl)
theorem dL_law_1009 : decode cL_law 1009 = .ok (.goto 1236, 3) := dk_167 4 212 (dk_at dksL_law_37 9 rfl rfl)
theorem dL_law_1012 : decode cL_law 1012 = .ok (.aload_n 1, 1) := dk_43 (dk_at dksL_law_37 12 rfl rfl)
theorem dL_law_1013 : decode cL_law 1013 = .ok (.aload_n 0, 1) := dk_42 (dk_at dksL_law_37 13 rfl rfl)
theorem dL_law_1014 : decode cL_law 1014 = .ok (.iload 5, 2) := dk_21 5 (dk_at dksL_law_37 14 rfl rfl)
theorem dL_law_1016 : decode cL_law 1016 = .ok (.iconst 1, 1) := dk_4 (dk_at dksL_law_37 16 rfl rfl)
theorem dL_law_1017 : decode cL_law 1017 = .ok (.iadd, 1) := dk_96 (dk_at dksL_law_37 17 rfl rfl)
theorem dL_law_1018 : decode cL_law 1018 = .ok (.iaload, 1) := dk_46 (dk_at dksL_law_37 18 rfl rfl)
theorem dL_law_1019 : decode cL_law 1019 = .ok (.aload_n 3, 1) := dk_45 (dk_at dksL_law_37 19 rfl rfl)
theorem dL_law_1020 : decode cL_law 1020 = .ok (.invokestatic 181, 3) := dk_184 0 181 (dk_at dksL_law_37 20 rfl rfl)
theorem dL_law_1023 : decode cL_law 1023 = .ok (.istore 6, 2) := dk_54 6 (dk_at dksL_law_38 0 rfl rfl)
theorem dL_law_1025 : decode cL_law 1025 = .ok (.aload_n 2, 1) := dk_44 (dk_at dksL_law_38 2 rfl rfl)
theorem dL_law_1026 : decode cL_law 1026 = .ok (.aload_n 0, 1) := dk_42 (dk_at dksL_law_38 3 rfl rfl)
theorem dL_law_1027 : decode cL_law 1027 = .ok (.iload 5, 2) := dk_21 5 (dk_at dksL_law_38 4 rfl rfl)
theorem dL_law_1029 : decode cL_law 1029 = .ok (.iconst 1, 1) := dk_4 (dk_at dksL_law_38 6 rfl rfl)
theorem dL_law_1030 : decode cL_law 1030 = .ok (.iadd, 1) := dk_96 (dk_at dksL_law_38 7 rfl rfl)
theorem dL_law_1031 : decode cL_law 1031 = .ok (.iaload, 1) := dk_46 (dk_at dksL_law_38 8 rfl rfl)
theorem dL_law_1032 : decode cL_law 1032 = .ok (.invokevirtual 183, 3) := dk_182 0 183 (dk_at dksL_law_38 9 rfl rfl)
theorem dL_law_1035 : decode cL_law 1035 = .ok (.istore 7, 2) := dk_54 7 (dk_at dksL_law_38 12 rfl rfl)
theorem dL_law_1037 : decode cL_law 1037 = .ok (.aload_n 2, 1) := dk_44 (dk_at dksL_law_38 14 rfl rfl)
theorem dL_law_1038 : decode cL_law 1038 = .ok (.invokevirtual 139, 3) := dk_182 0 139 (dk_at dksL_law_38 15 rfl rfl)
theorem dL_law_1041 : decode cL_law 1041 = .ok (.iload 6, 2) := dk_21 6 (dk_at dksL_law_38 18 rfl rfl)
theorem dL_law_1043 : decode cL_law 1043 = .ok (.if_icmp .eq 5, 3) := dk_159 0 5 (dk_at dksL_law_38 20 rfl rfl)
theorem dL_law_1046 : decode cL_law 1046 = .ok (.iconst 0, 1) := dk_3 (dk_at dksL_law_38 23 rfl rfl)
theorem dL_law_1047 : decode cL_law 1047 = .ok (.ireturn, 1) := dk_172 (dk_at dksL_law_39 0 rfl rfl)
theorem dL_law_1048 : decode cL_law 1048 = .ok (.iload 6, 2) := dk_21 6 (dk_at dksL_law_39 1 rfl rfl)
theorem dL_law_1050 : decode cL_law 1050 = .ok (.ifCond .ne 15, 3) := dk_154 0 15 (dk_at dksL_law_39 3 rfl rfl)
theorem dL_law_1053 : decode cL_law 1053 = .ok (.aload_n 3, 1) := dk_45 (dk_at dksL_law_39 6 rfl rfl)
theorem dL_law_1054 : decode cL_law 1054 = .ok (.iconst 0, 1) := dk_3 (dk_at dksL_law_39 7 rfl rfl)
theorem dL_law_1055 : decode cL_law 1055 = .ok (.laload, 1) := dk_47 (dk_at dksL_law_39 8 rfl rfl)
theorem dL_law_1056 : decode cL_law 1056 = .ok (.iload 7, 2) := dk_21 7 (dk_at dksL_law_39 9 rfl rfl)
theorem dL_law_1058 : decode cL_law 1058 = .ok (.i2l, 1) := dk_133 (dk_at dksL_law_39 11 rfl rfl)
theorem dL_law_1059 : decode cL_law 1059 = .ok (.lcmp, 1) := dk_148 (dk_at dksL_law_39 12 rfl rfl)
theorem dL_law_1060 : decode cL_law 1060 = .ok (.ifCond .eq 5, 3) := dk_153 0 5 (dk_at dksL_law_39 13 rfl rfl)
theorem dL_law_1063 : decode cL_law 1063 = .ok (.iconst 0, 1) := dk_3 (dk_at dksL_law_39 16 rfl rfl)
theorem dL_law_1064 : decode cL_law 1064 = .ok (.ireturn, 1) := dk_172 (dk_at dksL_law_39 17 rfl rfl)
theorem dL_law_1065 : decode cL_law 1065 = .ok (.goto 1180, 3) := dk_167 4 156 (dk_at dksL_law_39 18 rfl rfl)
theorem dL_law_1068 : decode cL_law 1068 = .ok (.aload_n 1, 1) := dk_43 (dk_at dksL_law_39 21 rfl rfl)
theorem dL_law_1069 : decode cL_law 1069 = .ok (.aload_n 0, 1) := dk_42 (dk_at dksL_law_39 22 rfl rfl)
theorem dL_law_1070 : decode cL_law 1070 = .ok (.iload 5, 2) := dk_21 5 (dk_at dksL_law_40 0 rfl rfl)
theorem dL_law_1072 : decode cL_law 1072 = .ok (.iconst 1, 1) := dk_4 (dk_at dksL_law_40 2 rfl rfl)
theorem dL_law_1073 : decode cL_law 1073 = .ok (.iadd, 1) := dk_96 (dk_at dksL_law_40 3 rfl rfl)
theorem dL_law_1074 : decode cL_law 1074 = .ok (.iaload, 1) := dk_46 (dk_at dksL_law_40 4 rfl rfl)
theorem dL_law_1075 : decode cL_law 1075 = .ok (.aload_n 3, 1) := dk_45 (dk_at dksL_law_40 5 rfl rfl)
theorem dL_law_1076 : decode cL_law 1076 = .ok (.invokestatic 184, 3) := dk_184 0 184 (dk_at dksL_law_40 6 rfl rfl)
theorem dL_law_1079 : decode cL_law 1079 = .ok (.istore 6, 2) := dk_54 6 (dk_at dksL_law_40 9 rfl rfl)
theorem dL_law_1081 : decode cL_law 1081 = .ok (.aload_n 2, 1) := dk_44 (dk_at dksL_law_40 11 rfl rfl)
theorem dL_law_1082 : decode cL_law 1082 = .ok (.aload_n 0, 1) := dk_42 (dk_at dksL_law_40 12 rfl rfl)
theorem dL_law_1083 : decode cL_law 1083 = .ok (.iload 5, 2) := dk_21 5 (dk_at dksL_law_40 13 rfl rfl)
theorem dL_law_1085 : decode cL_law 1085 = .ok (.iconst 1, 1) := dk_4 (dk_at dksL_law_40 15 rfl rfl)
theorem dL_law_1086 : decode cL_law 1086 = .ok (.iadd, 1) := dk_96 (dk_at dksL_law_40 16 rfl rfl)
theorem dL_law_1087 : decode cL_law 1087 = .ok (.iaload, 1) := dk_46 (dk_at dksL_law_40 17 rfl rfl)
theorem dL_law_1088 : decode cL_law 1088 = .ok (.invokevirtual 186, 3) := dk_182 0 186 (dk_at dksL_law_40 18 rfl rfl)
theorem dL_law_1091 : decode cL_law 1091 = .ok (.istore 7, 2) := dk_54 7 (dk_at dksL_law_40 21 rfl rfl)
theorem dL_law_1093 : decode cL_law 1093 = .ok (.aload_n 2, 1) := dk_44 (dk_at dksL_law_40 23 rfl rfl)
theorem dL_law_1094 : decode cL_law 1094 = .ok (.invokevirtual 139, 3) := dk_182 0 139 (dk_at dksL_law_41 0 rfl rfl)
theorem dL_law_1097 : decode cL_law 1097 = .ok (.iload 6, 2) := dk_21 6 (dk_at dksL_law_41 3 rfl rfl)
theorem dL_law_1099 : decode cL_law 1099 = .ok (.if_icmp .eq 5, 3) := dk_159 0 5 (dk_at dksL_law_41 5 rfl rfl)
theorem dL_law_1102 : decode cL_law 1102 = .ok (.iconst 0, 1) := dk_3 (dk_at dksL_law_41 8 rfl rfl)
theorem dL_law_1103 : decode cL_law 1103 = .ok (.ireturn, 1) := dk_172 (dk_at dksL_law_41 9 rfl rfl)
theorem dL_law_1104 : decode cL_law 1104 = .ok (.iload 6, 2) := dk_21 6 (dk_at dksL_law_41 10 rfl rfl)
theorem dL_law_1106 : decode cL_law 1106 = .ok (.ifCond .ne 15, 3) := dk_154 0 15 (dk_at dksL_law_41 12 rfl rfl)
theorem dL_law_1109 : decode cL_law 1109 = .ok (.aload_n 3, 1) := dk_45 (dk_at dksL_law_41 15 rfl rfl)
theorem dL_law_1110 : decode cL_law 1110 = .ok (.iconst 0, 1) := dk_3 (dk_at dksL_law_41 16 rfl rfl)
theorem dL_law_1111 : decode cL_law 1111 = .ok (.laload, 1) := dk_47 (dk_at dksL_law_41 17 rfl rfl)
theorem dL_law_1112 : decode cL_law 1112 = .ok (.iload 7, 2) := dk_21 7 (dk_at dksL_law_41 18 rfl rfl)
theorem dL_law_1114 : decode cL_law 1114 = .ok (.i2l, 1) := dk_133 (dk_at dksL_law_41 20 rfl rfl)
theorem dL_law_1115 : decode cL_law 1115 = .ok (.lcmp, 1) := dk_148 (dk_at dksL_law_41 21 rfl rfl)
theorem dL_law_1116 : decode cL_law 1116 = .ok (.ifCond .eq 5, 3) := dk_153 0 5 (dk_at dksL_law_42 0 rfl rfl)
theorem dL_law_1119 : decode cL_law 1119 = .ok (.iconst 0, 1) := dk_3 (dk_at dksL_law_42 3 rfl rfl)
theorem dL_law_1120 : decode cL_law 1120 = .ok (.ireturn, 1) := dk_172 (dk_at dksL_law_42 4 rfl rfl)
theorem dL_law_1121 : decode cL_law 1121 = .ok (.goto 1124, 3) := dk_167 4 100 (dk_at dksL_law_42 5 rfl rfl)
theorem dL_law_1124 : decode cL_law 1124 = .ok (.aload_n 1, 1) := dk_43 (dk_at dksL_law_42 8 rfl rfl)
theorem dL_law_1125 : decode cL_law 1125 = .ok (.aload_n 0, 1) := dk_42 (dk_at dksL_law_42 9 rfl rfl)
theorem dL_law_1126 : decode cL_law 1126 = .ok (.iload 5, 2) := dk_21 5 (dk_at dksL_law_42 10 rfl rfl)
theorem dL_law_1128 : decode cL_law 1128 = .ok (.iconst 1, 1) := dk_4 (dk_at dksL_law_42 12 rfl rfl)
theorem dL_law_1129 : decode cL_law 1129 = .ok (.iadd, 1) := dk_96 (dk_at dksL_law_42 13 rfl rfl)
theorem dL_law_1130 : decode cL_law 1130 = .ok (.iaload, 1) := dk_46 (dk_at dksL_law_42 14 rfl rfl)
theorem dL_law_1131 : decode cL_law 1131 = .ok (.aload_n 0, 1) := dk_42 (dk_at dksL_law_42 15 rfl rfl)
theorem dL_law_1132 : decode cL_law 1132 = .ok (.iload 5, 2) := dk_21 5 (dk_at dksL_law_42 16 rfl rfl)
theorem dL_law_1134 : decode cL_law 1134 = .ok (.iconst 2, 1) := dk_5 (dk_at dksL_law_42 18 rfl rfl)
theorem dL_law_1135 : decode cL_law 1135 = .ok (.iadd, 1) := dk_96 (dk_at dksL_law_42 19 rfl rfl)
theorem dL_law_1136 : decode cL_law 1136 = .ok (.iaload, 1) := dk_46 (dk_at dksL_law_42 20 rfl rfl)
theorem dL_law_1137 : decode cL_law 1137 = .ok (.aload_n 0, 1) := dk_42 (dk_at dksL_law_42 21 rfl rfl)
theorem dL_law_1138 : decode cL_law 1138 = .ok (.iload 5, 2) := dk_21 5 (dk_at dksL_law_42 22 rfl rfl)
theorem dL_law_1140 : decode cL_law 1140 = .ok (.iconst 3, 1) := dk_6 (dk_at dksL_law_43 0 rfl rfl)
theorem dL_law_1141 : decode cL_law 1141 = .ok (.iadd, 1) := dk_96 (dk_at dksL_law_43 1 rfl rfl)
theorem dL_law_1142 : decode cL_law 1142 = .ok (.iaload, 1) := dk_46 (dk_at dksL_law_43 2 rfl rfl)
theorem dL_law_1143 : decode cL_law 1143 = .ok (.aload_n 3, 1) := dk_45 (dk_at dksL_law_43 3 rfl rfl)
theorem dL_law_1144 : decode cL_law 1144 = .ok (.invokestatic 187, 3) := dk_184 0 187 (dk_at dksL_law_43 4 rfl rfl)
theorem dL_law_1147 : decode cL_law 1147 = .ok (.istore 6, 2) := dk_54 6 (dk_at dksL_law_43 7 rfl rfl)
theorem dL_law_1149 : decode cL_law 1149 = .ok (.aload_n 2, 1) := dk_44 (dk_at dksL_law_43 9 rfl rfl)
theorem dL_law_1150 : decode cL_law 1150 = .ok (.aload_n 0, 1) := dk_42 (dk_at dksL_law_43 10 rfl rfl)
theorem dL_law_1151 : decode cL_law 1151 = .ok (.iload 5, 2) := dk_21 5 (dk_at dksL_law_43 11 rfl rfl)
theorem dL_law_1153 : decode cL_law 1153 = .ok (.iconst 1, 1) := dk_4 (dk_at dksL_law_43 13 rfl rfl)
theorem dL_law_1154 : decode cL_law 1154 = .ok (.iadd, 1) := dk_96 (dk_at dksL_law_43 14 rfl rfl)
theorem dL_law_1155 : decode cL_law 1155 = .ok (.iaload, 1) := dk_46 (dk_at dksL_law_43 15 rfl rfl)
theorem dL_law_1156 : decode cL_law 1156 = .ok (.aload_n 0, 1) := dk_42 (dk_at dksL_law_43 16 rfl rfl)
theorem dL_law_1157 : decode cL_law 1157 = .ok (.iload 5, 2) := dk_21 5 (dk_at dksL_law_43 17 rfl rfl)
theorem dL_law_1159 : decode cL_law 1159 = .ok (.iconst 2, 1) := dk_5 (dk_at dksL_law_43 19 rfl rfl)
theorem dL_law_1160 : decode cL_law 1160 = .ok (.iadd, 1) := dk_96 (dk_at dksL_law_43 20 rfl rfl)
theorem dL_law_1161 : decode cL_law 1161 = .ok (.iaload, 1) := dk_46 (dk_at dksL_law_43 21 rfl rfl)
theorem dL_law_1162 : decode cL_law 1162 = .ok (.aload_n 0, 1) := dk_42 (dk_at dksL_law_43 22 rfl rfl)
theorem dL_law_1163 : decode cL_law 1163 = .ok (.iload 5, 2) := dk_21 5 (dk_at dksL_law_44 0 rfl rfl)
theorem dL_law_1165 : decode cL_law 1165 = .ok (.iconst 3, 1) := dk_6 (dk_at dksL_law_44 2 rfl rfl)
theorem dL_law_1166 : decode cL_law 1166 = .ok (.iadd, 1) := dk_96 (dk_at dksL_law_44 3 rfl rfl)
theorem dL_law_1167 : decode cL_law 1167 = .ok (.iaload, 1) := dk_46 (dk_at dksL_law_44 4 rfl rfl)
theorem dL_law_1168 : decode cL_law 1168 = .ok (.invokevirtual 190, 3) := dk_182 0 190 (dk_at dksL_law_44 5 rfl rfl)
theorem dL_law_1171 : decode cL_law 1171 = .ok (.istore 7, 2) := dk_54 7 (dk_at dksL_law_44 8 rfl rfl)
theorem dL_law_1173 : decode cL_law 1173 = .ok (.aload_n 2, 1) := dk_44 (dk_at dksL_law_44 10 rfl rfl)
theorem dL_law_1174 : decode cL_law 1174 = .ok (.invokevirtual 139, 3) := dk_182 0 139 (dk_at dksL_law_44 11 rfl rfl)
theorem dL_law_1177 : decode cL_law 1177 = .ok (.iload 6, 2) := dk_21 6 (dk_at dksL_law_44 14 rfl rfl)
theorem dL_law_1179 : decode cL_law 1179 = .ok (.if_icmp .eq 5, 3) := dk_159 0 5 (dk_at dksL_law_44 16 rfl rfl)
theorem dL_law_1182 : decode cL_law 1182 = .ok (.iconst 0, 1) := dk_3 (dk_at dksL_law_44 19 rfl rfl)
theorem dL_law_1183 : decode cL_law 1183 = .ok (.ireturn, 1) := dk_172 (dk_at dksL_law_44 20 rfl rfl)
theorem dL_law_1184 : decode cL_law 1184 = .ok (.iload 6, 2) := dk_21 6 (dk_at dksL_law_44 21 rfl rfl)
theorem dL_law_1186 : decode cL_law 1186 = .ok (.ifCond .ne 15, 3) := dk_154 0 15 (dk_at dksL_law_45 0 rfl rfl)
theorem dL_law_1189 : decode cL_law 1189 = .ok (.aload_n 3, 1) := dk_45 (dk_at dksL_law_45 3 rfl rfl)
theorem dL_law_1190 : decode cL_law 1190 = .ok (.iconst 0, 1) := dk_3 (dk_at dksL_law_45 4 rfl rfl)
theorem dL_law_1191 : decode cL_law 1191 = .ok (.laload, 1) := dk_47 (dk_at dksL_law_45 5 rfl rfl)
theorem dL_law_1192 : decode cL_law 1192 = .ok (.iload 7, 2) := dk_21 7 (dk_at dksL_law_45 6 rfl rfl)
theorem dL_law_1194 : decode cL_law 1194 = .ok (.i2l, 1) := dk_133 (dk_at dksL_law_45 8 rfl rfl)
theorem dL_law_1195 : decode cL_law 1195 = .ok (.lcmp, 1) := dk_148 (dk_at dksL_law_45 9 rfl rfl)
theorem dL_law_1196 : decode cL_law 1196 = .ok (.ifCond .eq 5, 3) := dk_153 0 5 (dk_at dksL_law_45 10 rfl rfl)
theorem dL_law_1199 : decode cL_law 1199 = .ok (.iconst 0, 1) := dk_3 (dk_at dksL_law_45 13 rfl rfl)
theorem dL_law_1200 : decode cL_law 1200 = .ok (.ireturn, 1) := dk_172 (dk_at dksL_law_45 14 rfl rfl)
theorem dL_law_1201 : decode cL_law 1201 = .ok (.goto 1044, 3) := dk_167 4 20 (dk_at dksL_law_45 15 rfl rfl)
theorem dL_law_1204 : decode cL_law 1204 = .ok (.aload_n 1, 1) := dk_43 (dk_at dksL_law_45 18 rfl rfl)
theorem dL_law_1205 : decode cL_law 1205 = .ok (.aload_n 0, 1) := dk_42 (dk_at dksL_law_45 19 rfl rfl)
theorem dL_law_1206 : decode cL_law 1206 = .ok (.iload 5, 2) := dk_21 5 (dk_at dksL_law_45 20 rfl rfl)
theorem dL_law_1208 : decode cL_law 1208 = .ok (.iconst 1, 1) := dk_4 (dk_at dksL_law_45 22 rfl rfl)
theorem dL_law_1209 : decode cL_law 1209 = .ok (.iadd, 1) := dk_96 (dk_at dksL_law_45 23 rfl rfl)
theorem dL_law_1210 : decode cL_law 1210 = .ok (.iaload, 1) := dk_46 (dk_at dksL_law_46 0 rfl rfl)
theorem dL_law_1211 : decode cL_law 1211 = .ok (.aload_n 0, 1) := dk_42 (dk_at dksL_law_46 1 rfl rfl)
theorem dL_law_1212 : decode cL_law 1212 = .ok (.iload 5, 2) := dk_21 5 (dk_at dksL_law_46 2 rfl rfl)
theorem dL_law_1214 : decode cL_law 1214 = .ok (.iconst 2, 1) := dk_5 (dk_at dksL_law_46 4 rfl rfl)
theorem dL_law_1215 : decode cL_law 1215 = .ok (.iadd, 1) := dk_96 (dk_at dksL_law_46 5 rfl rfl)
theorem dL_law_1216 : decode cL_law 1216 = .ok (.iaload, 1) := dk_46 (dk_at dksL_law_46 6 rfl rfl)
theorem dL_law_1217 : decode cL_law 1217 = .ok (.aload_n 3, 1) := dk_45 (dk_at dksL_law_46 7 rfl rfl)
theorem dL_law_1218 : decode cL_law 1218 = .ok (.invokestatic 191, 3) := dk_184 0 191 (dk_at dksL_law_46 8 rfl rfl)
theorem dL_law_1221 : decode cL_law 1221 = .ok (.istore 6, 2) := dk_54 6 (dk_at dksL_law_46 11 rfl rfl)
theorem dL_law_1223 : decode cL_law 1223 = .ok (.aload_n 2, 1) := dk_44 (dk_at dksL_law_46 13 rfl rfl)
theorem dL_law_1224 : decode cL_law 1224 = .ok (.aload_n 0, 1) := dk_42 (dk_at dksL_law_46 14 rfl rfl)
theorem dL_law_1225 : decode cL_law 1225 = .ok (.iload 5, 2) := dk_21 5 (dk_at dksL_law_46 15 rfl rfl)
theorem dL_law_1227 : decode cL_law 1227 = .ok (.iconst 1, 1) := dk_4 (dk_at dksL_law_46 17 rfl rfl)
theorem dL_law_1228 : decode cL_law 1228 = .ok (.iadd, 1) := dk_96 (dk_at dksL_law_46 18 rfl rfl)
theorem dL_law_1229 : decode cL_law 1229 = .ok (.iaload, 1) := dk_46 (dk_at dksL_law_46 19 rfl rfl)
theorem dL_law_1230 : decode cL_law 1230 = .ok (.aload_n 0, 1) := dk_42 (dk_at dksL_law_46 20 rfl rfl)
theorem dL_law_1231 : decode cL_law 1231 = .ok (.iload 5, 2) := dk_21 5 (dk_at dksL_law_46 21 rfl rfl)
theorem dL_law_1233 : decode cL_law 1233 = .ok (.iconst 2, 1) := dk_5 (dk_at dksL_law_46 23 rfl rfl)
theorem dL_law_1234 : decode cL_law 1234 = .ok (.iadd, 1) := dk_96 (dk_at dksL_law_47 0 rfl rfl)
theorem dL_law_1235 : decode cL_law 1235 = .ok (.iaload, 1) := dk_46 (dk_at dksL_law_47 1 rfl rfl)
theorem dL_law_1236 : decode cL_law 1236 = .ok (.invokevirtual 193, 3) := dk_182 0 193 (dk_at dksL_law_47 2 rfl rfl)
theorem dL_law_1239 : decode cL_law 1239 = .ok (.istore 7, 2) := dk_54 7 (dk_at dksL_law_47 5 rfl rfl)
theorem dL_law_1241 : decode cL_law 1241 = .ok (.aload_n 2, 1) := dk_44 (dk_at dksL_law_47 7 rfl rfl)
theorem dL_law_1242 : decode cL_law 1242 = .ok (.invokevirtual 139, 3) := dk_182 0 139 (dk_at dksL_law_47 8 rfl rfl)
theorem dL_law_1245 : decode cL_law 1245 = .ok (.iload 6, 2) := dk_21 6 (dk_at dksL_law_47 11 rfl rfl)
theorem dL_law_1247 : decode cL_law 1247 = .ok (.if_icmp .eq 5, 3) := dk_159 0 5 (dk_at dksL_law_47 13 rfl rfl)
theorem dL_law_1250 : decode cL_law 1250 = .ok (.iconst 0, 1) := dk_3 (dk_at dksL_law_47 16 rfl rfl)
theorem dL_law_1251 : decode cL_law 1251 = .ok (.ireturn, 1) := dk_172 (dk_at dksL_law_47 17 rfl rfl)
theorem dL_law_1252 : decode cL_law 1252 = .ok (.iload 6, 2) := dk_21 6 (dk_at dksL_law_47 18 rfl rfl)
theorem dL_law_1254 : decode cL_law 1254 = .ok (.ifCond .ne 15, 3) := dk_154 0 15 (dk_at dksL_law_47 20 rfl rfl)
theorem dL_law_1257 : decode cL_law 1257 = .ok (.aload_n 3, 1) := dk_45 (dk_at dksL_law_47 23 rfl rfl)
theorem dL_law_1258 : decode cL_law 1258 = .ok (.iconst 0, 1) := dk_3 (dk_at dksL_law_48 0 rfl rfl)
theorem dL_law_1259 : decode cL_law 1259 = .ok (.laload, 1) := dk_47 (dk_at dksL_law_48 1 rfl rfl)
theorem dL_law_1260 : decode cL_law 1260 = .ok (.iload 7, 2) := dk_21 7 (dk_at dksL_law_48 2 rfl rfl)
theorem dL_law_1262 : decode cL_law 1262 = .ok (.i2l, 1) := dk_133 (dk_at dksL_law_48 4 rfl rfl)
theorem dL_law_1263 : decode cL_law 1263 = .ok (.lcmp, 1) := dk_148 (dk_at dksL_law_48 5 rfl rfl)
theorem dL_law_1264 : decode cL_law 1264 = .ok (.ifCond .eq 5, 3) := dk_153 0 5 (dk_at dksL_law_48 6 rfl rfl)
theorem dL_law_1267 : decode cL_law 1267 = .ok (.iconst 0, 1) := dk_3 (dk_at dksL_law_48 9 rfl rfl)
theorem dL_law_1268 : decode cL_law 1268 = .ok (.ireturn, 1) := dk_172 (dk_at dksL_law_48 10 rfl rfl)
theorem dL_law_1269 : decode cL_law 1269 = .ok (.goto 976, 3) := dk_167 3 208 (dk_at dksL_law_48 11 rfl rfl)
theorem dL_law_1272 : decode cL_law 1272 = .ok (.aload_n 1, 1) := dk_43 (dk_at dksL_law_48 14 rfl rfl)
theorem dL_law_1273 : decode cL_law 1273 = .ok (.aload_n 0, 1) := dk_42 (dk_at dksL_law_48 15 rfl rfl)
theorem dL_law_1274 : decode cL_law 1274 = .ok (.iload 5, 2) := dk_21 5 (dk_at dksL_law_48 16 rfl rfl)
theorem dL_law_1276 : decode cL_law 1276 = .ok (.iconst 1, 1) := dk_4 (dk_at dksL_law_48 18 rfl rfl)
theorem dL_law_1277 : decode cL_law 1277 = .ok (.iadd, 1) := dk_96 (dk_at dksL_law_48 19 rfl rfl)
theorem dL_law_1278 : decode cL_law 1278 = .ok (.iaload, 1) := dk_46 (dk_at dksL_law_48 20 rfl rfl)
theorem dL_law_1279 : decode cL_law 1279 = .ok (.aload_n 0, 1) := dk_42 (dk_at dksL_law_48 21 rfl rfl)
theorem dL_law_1280 : decode cL_law 1280 = .ok (.iload 5, 2) := dk_21 5 (dk_at dksL_law_48 22 rfl rfl)
theorem dL_law_1282 : decode cL_law 1282 = .ok (.iconst 2, 1) := dk_5 (dk_at dksL_law_49 0 rfl rfl)
theorem dL_law_1283 : decode cL_law 1283 = .ok (.iadd, 1) := dk_96 (dk_at dksL_law_49 1 rfl rfl)
theorem dL_law_1284 : decode cL_law 1284 = .ok (.iaload, 1) := dk_46 (dk_at dksL_law_49 2 rfl rfl)
theorem dL_law_1285 : decode cL_law 1285 = .ok (.aload_n 3, 1) := dk_45 (dk_at dksL_law_49 3 rfl rfl)
theorem dL_law_1286 : decode cL_law 1286 = .ok (.invokestatic 194, 3) := dk_184 0 194 (dk_at dksL_law_49 4 rfl rfl)
theorem dL_law_1289 : decode cL_law 1289 = .ok (.istore 6, 2) := dk_54 6 (dk_at dksL_law_49 7 rfl rfl)
theorem dL_law_1291 : decode cL_law 1291 = .ok (.aload_n 2, 1) := dk_44 (dk_at dksL_law_49 9 rfl rfl)
theorem dL_law_1292 : decode cL_law 1292 = .ok (.aload_n 0, 1) := dk_42 (dk_at dksL_law_49 10 rfl rfl)
theorem dL_law_1293 : decode cL_law 1293 = .ok (.iload 5, 2) := dk_21 5 (dk_at dksL_law_49 11 rfl rfl)
theorem dL_law_1295 : decode cL_law 1295 = .ok (.iconst 1, 1) := dk_4 (dk_at dksL_law_49 13 rfl rfl)
theorem dL_law_1296 : decode cL_law 1296 = .ok (.iadd, 1) := dk_96 (dk_at dksL_law_49 14 rfl rfl)
theorem dL_law_1297 : decode cL_law 1297 = .ok (.iaload, 1) := dk_46 (dk_at dksL_law_49 15 rfl rfl)
theorem dL_law_1298 : decode cL_law 1298 = .ok (.aload_n 0, 1) := dk_42 (dk_at dksL_law_49 16 rfl rfl)
theorem dL_law_1299 : decode cL_law 1299 = .ok (.iload 5, 2) := dk_21 5 (dk_at dksL_law_49 17 rfl rfl)
theorem dL_law_1301 : decode cL_law 1301 = .ok (.iconst 2, 1) := dk_5 (dk_at dksL_law_49 19 rfl rfl)
theorem dL_law_1302 : decode cL_law 1302 = .ok (.iadd, 1) := dk_96 (dk_at dksL_law_49 20 rfl rfl)
theorem dL_law_1303 : decode cL_law 1303 = .ok (.iaload, 1) := dk_46 (dk_at dksL_law_49 21 rfl rfl)
theorem dL_law_1304 : decode cL_law 1304 = .ok (.invokevirtual 196, 3) := dk_182 0 196 (dk_at dksL_law_50 0 rfl rfl)
theorem dL_law_1307 : decode cL_law 1307 = .ok (.istore 7, 2) := dk_54 7 (dk_at dksL_law_50 3 rfl rfl)
theorem dL_law_1309 : decode cL_law 1309 = .ok (.aload_n 2, 1) := dk_44 (dk_at dksL_law_50 5 rfl rfl)
theorem dL_law_1310 : decode cL_law 1310 = .ok (.invokevirtual 139, 3) := dk_182 0 139 (dk_at dksL_law_50 6 rfl rfl)
theorem dL_law_1313 : decode cL_law 1313 = .ok (.iload 6, 2) := dk_21 6 (dk_at dksL_law_50 9 rfl rfl)
theorem dL_law_1315 : decode cL_law 1315 = .ok (.if_icmp .eq 5, 3) := dk_159 0 5 (dk_at dksL_law_50 11 rfl rfl)
theorem dL_law_1318 : decode cL_law 1318 = .ok (.iconst 0, 1) := dk_3 (dk_at dksL_law_50 14 rfl rfl)
theorem dL_law_1319 : decode cL_law 1319 = .ok (.ireturn, 1) := dk_172 (dk_at dksL_law_50 15 rfl rfl)
theorem dL_law_1320 : decode cL_law 1320 = .ok (.iload 6, 2) := dk_21 6 (dk_at dksL_law_50 16 rfl rfl)
theorem dL_law_1322 : decode cL_law 1322 = .ok (.ifCond .ne 15, 3) := dk_154 0 15 (dk_at dksL_law_50 18 rfl rfl)
theorem dL_law_1325 : decode cL_law 1325 = .ok (.aload_n 3, 1) := dk_45 (dk_at dksL_law_50 21 rfl rfl)
theorem dL_law_1326 : decode cL_law 1326 = .ok (.iconst 0, 1) := dk_3 (dk_at dksL_law_50 22 rfl rfl)
theorem dL_law_1327 : decode cL_law 1327 = .ok (.laload, 1) := dk_47 (dk_at dksL_law_50 23 rfl rfl)
theorem dL_law_1328 : decode cL_law 1328 = .ok (.iload 7, 2) := dk_21 7 (dk_at dksL_law_51 0 rfl rfl)
theorem dL_law_1330 : decode cL_law 1330 = .ok (.i2l, 1) := dk_133 (dk_at dksL_law_51 2 rfl rfl)
theorem dL_law_1331 : decode cL_law 1331 = .ok (.lcmp, 1) := dk_148 (dk_at dksL_law_51 3 rfl rfl)
theorem dL_law_1332 : decode cL_law 1332 = .ok (.ifCond .eq 5, 3) := dk_153 0 5 (dk_at dksL_law_51 4 rfl rfl)
theorem dL_law_1335 : decode cL_law 1335 = .ok (.iconst 0, 1) := dk_3 (dk_at dksL_law_51 7 rfl rfl)
theorem dL_law_1336 : decode cL_law 1336 = .ok (.ireturn, 1) := dk_172 (dk_at dksL_law_51 8 rfl rfl)
theorem dL_law_1337 : decode cL_law 1337 = .ok (.goto 908, 3) := dk_167 3 140 (dk_at dksL_law_51 9 rfl rfl)
theorem dL_law_1340 : decode cL_law 1340 = .ok (.aload_n 1, 1) := dk_43 (dk_at dksL_law_51 12 rfl rfl)
theorem dL_law_1341 : decode cL_law 1341 = .ok (.aload_n 0, 1) := dk_42 (dk_at dksL_law_51 13 rfl rfl)
theorem dL_law_1342 : decode cL_law 1342 = .ok (.iload 5, 2) := dk_21 5 (dk_at dksL_law_51 14 rfl rfl)
theorem dL_law_1344 : decode cL_law 1344 = .ok (.iconst 1, 1) := dk_4 (dk_at dksL_law_51 16 rfl rfl)
theorem dL_law_1345 : decode cL_law 1345 = .ok (.iadd, 1) := dk_96 (dk_at dksL_law_51 17 rfl rfl)
theorem dL_law_1346 : decode cL_law 1346 = .ok (.iaload, 1) := dk_46 (dk_at dksL_law_51 18 rfl rfl)
theorem dL_law_1347 : decode cL_law 1347 = .ok (.aload_n 3, 1) := dk_45 (dk_at dksL_law_51 19 rfl rfl)
theorem dL_law_1348 : decode cL_law 1348 = .ok (.invokestatic 197, 3) := dk_184 0 197 (dk_at dksL_law_51 20 rfl rfl)
theorem dL_law_1351 : decode cL_law 1351 = .ok (.istore 6, 2) := dk_54 6 (dk_at dksL_law_52 0 rfl rfl)
theorem dL_law_1353 : decode cL_law 1353 = .ok (.aload_n 2, 1) := dk_44 (dk_at dksL_law_52 2 rfl rfl)
theorem dL_law_1354 : decode cL_law 1354 = .ok (.aload_n 0, 1) := dk_42 (dk_at dksL_law_52 3 rfl rfl)
theorem dL_law_1355 : decode cL_law 1355 = .ok (.iload 5, 2) := dk_21 5 (dk_at dksL_law_52 4 rfl rfl)
theorem dL_law_1357 : decode cL_law 1357 = .ok (.iconst 1, 1) := dk_4 (dk_at dksL_law_52 6 rfl rfl)
theorem dL_law_1358 : decode cL_law 1358 = .ok (.iadd, 1) := dk_96 (dk_at dksL_law_52 7 rfl rfl)
theorem dL_law_1359 : decode cL_law 1359 = .ok (.iaload, 1) := dk_46 (dk_at dksL_law_52 8 rfl rfl)
theorem dL_law_1360 : decode cL_law 1360 = .ok (.invokevirtual 199, 3) := dk_182 0 199 (dk_at dksL_law_52 9 rfl rfl)
theorem dL_law_1363 : decode cL_law 1363 = .ok (.istore 7, 2) := dk_54 7 (dk_at dksL_law_52 12 rfl rfl)
theorem dL_law_1365 : decode cL_law 1365 = .ok (.aload_n 2, 1) := dk_44 (dk_at dksL_law_52 14 rfl rfl)
theorem dL_law_1366 : decode cL_law 1366 = .ok (.invokevirtual 139, 3) := dk_182 0 139 (dk_at dksL_law_52 15 rfl rfl)
theorem dL_law_1369 : decode cL_law 1369 = .ok (.iload 6, 2) := dk_21 6 (dk_at dksL_law_52 18 rfl rfl)
theorem dL_law_1371 : decode cL_law 1371 = .ok (.if_icmp .eq 5, 3) := dk_159 0 5 (dk_at dksL_law_52 20 rfl rfl)
theorem dL_law_1374 : decode cL_law 1374 = .ok (.iconst 0, 1) := dk_3 (dk_at dksL_law_52 23 rfl rfl)
theorem dL_law_1375 : decode cL_law 1375 = .ok (.ireturn, 1) := dk_172 (dk_at dksL_law_53 0 rfl rfl)
theorem dL_law_1376 : decode cL_law 1376 = .ok (.iload 6, 2) := dk_21 6 (dk_at dksL_law_53 1 rfl rfl)
theorem dL_law_1378 : decode cL_law 1378 = .ok (.ifCond .ne 15, 3) := dk_154 0 15 (dk_at dksL_law_53 3 rfl rfl)
theorem dL_law_1381 : decode cL_law 1381 = .ok (.aload_n 3, 1) := dk_45 (dk_at dksL_law_53 6 rfl rfl)
theorem dL_law_1382 : decode cL_law 1382 = .ok (.iconst 0, 1) := dk_3 (dk_at dksL_law_53 7 rfl rfl)
theorem dL_law_1383 : decode cL_law 1383 = .ok (.laload, 1) := dk_47 (dk_at dksL_law_53 8 rfl rfl)
theorem dL_law_1384 : decode cL_law 1384 = .ok (.iload 7, 2) := dk_21 7 (dk_at dksL_law_53 9 rfl rfl)
theorem dL_law_1386 : decode cL_law 1386 = .ok (.i2l, 1) := dk_133 (dk_at dksL_law_53 11 rfl rfl)
theorem dL_law_1387 : decode cL_law 1387 = .ok (.lcmp, 1) := dk_148 (dk_at dksL_law_53 12 rfl rfl)
theorem dL_law_1388 : decode cL_law 1388 = .ok (.ifCond .eq 5, 3) := dk_153 0 5 (dk_at dksL_law_53 13 rfl rfl)
theorem dL_law_1391 : decode cL_law 1391 = .ok (.iconst 0, 1) := dk_3 (dk_at dksL_law_53 16 rfl rfl)
theorem dL_law_1392 : decode cL_law 1392 = .ok (.ireturn, 1) := dk_172 (dk_at dksL_law_53 17 rfl rfl)
theorem dL_law_1393 : decode cL_law 1393 = .ok (.goto 852, 3) := dk_167 3 84 (dk_at dksL_law_53 18 rfl rfl)
theorem dL_law_1396 : decode cL_law 1396 = .ok (.aload_n 1, 1) := dk_43 (dk_at dksL_law_53 21 rfl rfl)
theorem dL_law_1397 : decode cL_law 1397 = .ok (.aload_n 0, 1) := dk_42 (dk_at dksL_law_53 22 rfl rfl)
theorem dL_law_1398 : decode cL_law 1398 = .ok (.iload 5, 2) := dk_21 5 (dk_at dksL_law_54 0 rfl rfl)
theorem dL_law_1400 : decode cL_law 1400 = .ok (.iconst 1, 1) := dk_4 (dk_at dksL_law_54 2 rfl rfl)
theorem dL_law_1401 : decode cL_law 1401 = .ok (.iadd, 1) := dk_96 (dk_at dksL_law_54 3 rfl rfl)
theorem dL_law_1402 : decode cL_law 1402 = .ok (.iaload, 1) := dk_46 (dk_at dksL_law_54 4 rfl rfl)
theorem dL_law_1403 : decode cL_law 1403 = .ok (.aload_n 3, 1) := dk_45 (dk_at dksL_law_54 5 rfl rfl)
theorem dL_law_1404 : decode cL_law 1404 = .ok (.invokestatic 200, 3) := dk_184 0 200 (dk_at dksL_law_54 6 rfl rfl)
theorem dL_law_1407 : decode cL_law 1407 = .ok (.istore 6, 2) := dk_54 6 (dk_at dksL_law_54 9 rfl rfl)
theorem dL_law_1409 : decode cL_law 1409 = .ok (.aload_n 2, 1) := dk_44 (dk_at dksL_law_54 11 rfl rfl)
theorem dL_law_1410 : decode cL_law 1410 = .ok (.aload_n 0, 1) := dk_42 (dk_at dksL_law_54 12 rfl rfl)
theorem dL_law_1411 : decode cL_law 1411 = .ok (.iload 5, 2) := dk_21 5 (dk_at dksL_law_54 13 rfl rfl)
theorem dL_law_1413 : decode cL_law 1413 = .ok (.iconst 1, 1) := dk_4 (dk_at dksL_law_54 15 rfl rfl)
theorem dL_law_1414 : decode cL_law 1414 = .ok (.iadd, 1) := dk_96 (dk_at dksL_law_54 16 rfl rfl)
theorem dL_law_1415 : decode cL_law 1415 = .ok (.iaload, 1) := dk_46 (dk_at dksL_law_54 17 rfl rfl)
theorem dL_law_1416 : decode cL_law 1416 = .ok (.invokevirtual 202, 3) := dk_182 0 202 (dk_at dksL_law_54 18 rfl rfl)
theorem dL_law_1419 : decode cL_law 1419 = .ok (.istore 7, 2) := dk_54 7 (dk_at dksL_law_54 21 rfl rfl)
theorem dL_law_1421 : decode cL_law 1421 = .ok (.aload_n 2, 1) := dk_44 (dk_at dksL_law_54 23 rfl rfl)
theorem dL_law_1422 : decode cL_law 1422 = .ok (.invokevirtual 139, 3) := dk_182 0 139 (dk_at dksL_law_55 0 rfl rfl)
theorem dL_law_1425 : decode cL_law 1425 = .ok (.iload 6, 2) := dk_21 6 (dk_at dksL_law_55 3 rfl rfl)
theorem dL_law_1427 : decode cL_law 1427 = .ok (.if_icmp .eq 5, 3) := dk_159 0 5 (dk_at dksL_law_55 5 rfl rfl)
theorem dL_law_1430 : decode cL_law 1430 = .ok (.iconst 0, 1) := dk_3 (dk_at dksL_law_55 8 rfl rfl)
theorem dL_law_1431 : decode cL_law 1431 = .ok (.ireturn, 1) := dk_172 (dk_at dksL_law_55 9 rfl rfl)
theorem dL_law_1432 : decode cL_law 1432 = .ok (.iload 6, 2) := dk_21 6 (dk_at dksL_law_55 10 rfl rfl)
theorem dL_law_1434 : decode cL_law 1434 = .ok (.ifCond .ne 15, 3) := dk_154 0 15 (dk_at dksL_law_55 12 rfl rfl)
theorem dL_law_1437 : decode cL_law 1437 = .ok (.aload_n 3, 1) := dk_45 (dk_at dksL_law_55 15 rfl rfl)
theorem dL_law_1438 : decode cL_law 1438 = .ok (.iconst 0, 1) := dk_3 (dk_at dksL_law_55 16 rfl rfl)
theorem dL_law_1439 : decode cL_law 1439 = .ok (.laload, 1) := dk_47 (dk_at dksL_law_55 17 rfl rfl)
theorem dL_law_1440 : decode cL_law 1440 = .ok (.iload 7, 2) := dk_21 7 (dk_at dksL_law_55 18 rfl rfl)
theorem dL_law_1442 : decode cL_law 1442 = .ok (.i2l, 1) := dk_133 (dk_at dksL_law_55 20 rfl rfl)
theorem dL_law_1443 : decode cL_law 1443 = .ok (.lcmp, 1) := dk_148 (dk_at dksL_law_55 21 rfl rfl)
theorem dL_law_1444 : decode cL_law 1444 = .ok (.ifCond .eq 5, 3) := dk_153 0 5 (dk_at dksL_law_56 0 rfl rfl)
theorem dL_law_1447 : decode cL_law 1447 = .ok (.iconst 0, 1) := dk_3 (dk_at dksL_law_56 3 rfl rfl)
theorem dL_law_1448 : decode cL_law 1448 = .ok (.ireturn, 1) := dk_172 (dk_at dksL_law_56 4 rfl rfl)
theorem dL_law_1449 : decode cL_law 1449 = .ok (.goto 796, 3) := dk_167 3 28 (dk_at dksL_law_56 5 rfl rfl)
theorem dL_law_1452 : decode cL_law 1452 = .ok (.aload_n 1, 1) := dk_43 (dk_at dksL_law_56 8 rfl rfl)
theorem dL_law_1453 : decode cL_law 1453 = .ok (.aload_n 0, 1) := dk_42 (dk_at dksL_law_56 9 rfl rfl)
theorem dL_law_1454 : decode cL_law 1454 = .ok (.iload 5, 2) := dk_21 5 (dk_at dksL_law_56 10 rfl rfl)
theorem dL_law_1456 : decode cL_law 1456 = .ok (.iconst 1, 1) := dk_4 (dk_at dksL_law_56 12 rfl rfl)
theorem dL_law_1457 : decode cL_law 1457 = .ok (.iadd, 1) := dk_96 (dk_at dksL_law_56 13 rfl rfl)
theorem dL_law_1458 : decode cL_law 1458 = .ok (.iaload, 1) := dk_46 (dk_at dksL_law_56 14 rfl rfl)
theorem dL_law_1459 : decode cL_law 1459 = .ok (.aload_n 3, 1) := dk_45 (dk_at dksL_law_56 15 rfl rfl)
theorem dL_law_1460 : decode cL_law 1460 = .ok (.invokestatic 203, 3) := dk_184 0 203 (dk_at dksL_law_56 16 rfl rfl)
theorem dL_law_1463 : decode cL_law 1463 = .ok (.istore 6, 2) := dk_54 6 (dk_at dksL_law_56 19 rfl rfl)
theorem dL_law_1465 : decode cL_law 1465 = .ok (.aload_n 2, 1) := dk_44 (dk_at dksL_law_56 21 rfl rfl)
theorem dL_law_1466 : decode cL_law 1466 = .ok (.aload_n 0, 1) := dk_42 (dk_at dksL_law_56 22 rfl rfl)
theorem dL_law_1467 : decode cL_law 1467 = .ok (.iload 5, 2) := dk_21 5 (dk_at dksL_law_57 0 rfl rfl)
theorem dL_law_1469 : decode cL_law 1469 = .ok (.iconst 1, 1) := dk_4 (dk_at dksL_law_57 2 rfl rfl)
theorem dL_law_1470 : decode cL_law 1470 = .ok (.iadd, 1) := dk_96 (dk_at dksL_law_57 3 rfl rfl)
theorem dL_law_1471 : decode cL_law 1471 = .ok (.iaload, 1) := dk_46 (dk_at dksL_law_57 4 rfl rfl)
theorem dL_law_1472 : decode cL_law 1472 = .ok (.invokevirtual 205, 3) := dk_182 0 205 (dk_at dksL_law_57 5 rfl rfl)
theorem dL_law_1475 : decode cL_law 1475 = .ok (.istore 7, 2) := dk_54 7 (dk_at dksL_law_57 8 rfl rfl)
theorem dL_law_1477 : decode cL_law 1477 = .ok (.aload_n 2, 1) := dk_44 (dk_at dksL_law_57 10 rfl rfl)
theorem dL_law_1478 : decode cL_law 1478 = .ok (.invokevirtual 139, 3) := dk_182 0 139 (dk_at dksL_law_57 11 rfl rfl)
theorem dL_law_1481 : decode cL_law 1481 = .ok (.iload 6, 2) := dk_21 6 (dk_at dksL_law_57 14 rfl rfl)
theorem dL_law_1483 : decode cL_law 1483 = .ok (.if_icmp .eq 5, 3) := dk_159 0 5 (dk_at dksL_law_57 16 rfl rfl)
theorem dL_law_1486 : decode cL_law 1486 = .ok (.iconst 0, 1) := dk_3 (dk_at dksL_law_57 19 rfl rfl)
theorem dL_law_1487 : decode cL_law 1487 = .ok (.ireturn, 1) := dk_172 (dk_at dksL_law_57 20 rfl rfl)
theorem dL_law_1488 : decode cL_law 1488 = .ok (.iload 6, 2) := dk_21 6 (dk_at dksL_law_57 21 rfl rfl)
theorem dL_law_1490 : decode cL_law 1490 = .ok (.ifCond .ne 15, 3) := dk_154 0 15 (dk_at dksL_law_58 0 rfl rfl)
theorem dL_law_1493 : decode cL_law 1493 = .ok (.aload_n 3, 1) := dk_45 (dk_at dksL_law_58 3 rfl rfl)
theorem dL_law_1494 : decode cL_law 1494 = .ok (.iconst 0, 1) := dk_3 (dk_at dksL_law_58 4 rfl rfl)
theorem dL_law_1495 : decode cL_law 1495 = .ok (.laload, 1) := dk_47 (dk_at dksL_law_58 5 rfl rfl)
theorem dL_law_1496 : decode cL_law 1496 = .ok (.iload 7, 2) := dk_21 7 (dk_at dksL_law_58 6 rfl rfl)
theorem dL_law_1498 : decode cL_law 1498 = .ok (.i2l, 1) := dk_133 (dk_at dksL_law_58 8 rfl rfl)
theorem dL_law_1499 : decode cL_law 1499 = .ok (.lcmp, 1) := dk_148 (dk_at dksL_law_58 9 rfl rfl)
theorem dL_law_1500 : decode cL_law 1500 = .ok (.ifCond .eq 5, 3) := dk_153 0 5 (dk_at dksL_law_58 10 rfl rfl)
theorem dL_law_1503 : decode cL_law 1503 = .ok (.iconst 0, 1) := dk_3 (dk_at dksL_law_58 13 rfl rfl)
theorem dL_law_1504 : decode cL_law 1504 = .ok (.ireturn, 1) := dk_172 (dk_at dksL_law_58 14 rfl rfl)
theorem dL_law_1505 : decode cL_law 1505 = .ok (.goto 740, 3) := dk_167 2 228 (dk_at dksL_law_58 15 rfl rfl)
theorem dL_law_1508 : decode cL_law 1508 = .ok (.aload_n 1, 1) := dk_43 (dk_at dksL_law_58 18 rfl rfl)
theorem dL_law_1509 : decode cL_law 1509 = .ok (.aload_n 0, 1) := dk_42 (dk_at dksL_law_58 19 rfl rfl)
theorem dL_law_1510 : decode cL_law 1510 = .ok (.iload 5, 2) := dk_21 5 (dk_at dksL_law_58 20 rfl rfl)
theorem dL_law_1512 : decode cL_law 1512 = .ok (.iconst 1, 1) := dk_4 (dk_at dksL_law_58 22 rfl rfl)
theorem dL_law_1513 : decode cL_law 1513 = .ok (.iadd, 1) := dk_96 (dk_at dksL_law_58 23 rfl rfl)
theorem dL_law_1514 : decode cL_law 1514 = .ok (.iaload, 1) := dk_46 (dk_at dksL_law_59 0 rfl rfl)
theorem dL_law_1515 : decode cL_law 1515 = .ok (.aload_n 3, 1) := dk_45 (dk_at dksL_law_59 1 rfl rfl)
theorem dL_law_1516 : decode cL_law 1516 = .ok (.invokestatic 206, 3) := dk_184 0 206 (dk_at dksL_law_59 2 rfl rfl)
theorem dL_law_1519 : decode cL_law 1519 = .ok (.istore 6, 2) := dk_54 6 (dk_at dksL_law_59 5 rfl rfl)
theorem dL_law_1521 : decode cL_law 1521 = .ok (.aload_n 2, 1) := dk_44 (dk_at dksL_law_59 7 rfl rfl)
theorem dL_law_1522 : decode cL_law 1522 = .ok (.aload_n 0, 1) := dk_42 (dk_at dksL_law_59 8 rfl rfl)
theorem dL_law_1523 : decode cL_law 1523 = .ok (.iload 5, 2) := dk_21 5 (dk_at dksL_law_59 9 rfl rfl)
theorem dL_law_1525 : decode cL_law 1525 = .ok (.iconst 1, 1) := dk_4 (dk_at dksL_law_59 11 rfl rfl)
theorem dL_law_1526 : decode cL_law 1526 = .ok (.iadd, 1) := dk_96 (dk_at dksL_law_59 12 rfl rfl)
theorem dL_law_1527 : decode cL_law 1527 = .ok (.iaload, 1) := dk_46 (dk_at dksL_law_59 13 rfl rfl)
theorem dL_law_1528 : decode cL_law 1528 = .ok (.invokevirtual 208, 3) := dk_182 0 208 (dk_at dksL_law_59 14 rfl rfl)
theorem dL_law_1531 : decode cL_law 1531 = .ok (.istore 7, 2) := dk_54 7 (dk_at dksL_law_59 17 rfl rfl)
theorem dL_law_1533 : decode cL_law 1533 = .ok (.aload_n 2, 1) := dk_44 (dk_at dksL_law_59 19 rfl rfl)
theorem dL_law_1534 : decode cL_law 1534 = .ok (.invokevirtual 139, 3) := dk_182 0 139 (dk_at dksL_law_59 20 rfl rfl)
theorem dL_law_1537 : decode cL_law 1537 = .ok (.iload 6, 2) := dk_21 6 (dk_at dksL_law_60 0 rfl rfl)
theorem dL_law_1539 : decode cL_law 1539 = .ok (.if_icmp .eq 5, 3) := dk_159 0 5 (dk_at dksL_law_60 2 rfl rfl)
theorem dL_law_1542 : decode cL_law 1542 = .ok (.iconst 0, 1) := dk_3 (dk_at dksL_law_60 5 rfl rfl)
theorem dL_law_1543 : decode cL_law 1543 = .ok (.ireturn, 1) := dk_172 (dk_at dksL_law_60 6 rfl rfl)
theorem dL_law_1544 : decode cL_law 1544 = .ok (.iload 6, 2) := dk_21 6 (dk_at dksL_law_60 7 rfl rfl)
theorem dL_law_1546 : decode cL_law 1546 = .ok (.ifCond .ne 15, 3) := dk_154 0 15 (dk_at dksL_law_60 9 rfl rfl)
theorem dL_law_1549 : decode cL_law 1549 = .ok (.aload_n 3, 1) := dk_45 (dk_at dksL_law_60 12 rfl rfl)
theorem dL_law_1550 : decode cL_law 1550 = .ok (.iconst 0, 1) := dk_3 (dk_at dksL_law_60 13 rfl rfl)
theorem dL_law_1551 : decode cL_law 1551 = .ok (.laload, 1) := dk_47 (dk_at dksL_law_60 14 rfl rfl)
theorem dL_law_1552 : decode cL_law 1552 = .ok (.iload 7, 2) := dk_21 7 (dk_at dksL_law_60 15 rfl rfl)
theorem dL_law_1554 : decode cL_law 1554 = .ok (.i2l, 1) := dk_133 (dk_at dksL_law_60 17 rfl rfl)
theorem dL_law_1555 : decode cL_law 1555 = .ok (.lcmp, 1) := dk_148 (dk_at dksL_law_60 18 rfl rfl)
theorem dL_law_1556 : decode cL_law 1556 = .ok (.ifCond .eq 5, 3) := dk_153 0 5 (dk_at dksL_law_60 19 rfl rfl)
theorem dL_law_1559 : decode cL_law 1559 = .ok (.iconst 0, 1) := dk_3 (dk_at dksL_law_60 22 rfl rfl)
theorem dL_law_1560 : decode cL_law 1560 = .ok (.ireturn, 1) := dk_172 (dk_at dksL_law_60 23 rfl rfl)
theorem dL_law_1561 : decode cL_law 1561 = .ok (.goto 684, 3) := dk_167 2 172 (dk_at dksL_law_61 0 rfl rfl)
theorem dL_law_1564 : decode cL_law 1564 = .ok (.aload_n 1, 1) := dk_43 (dk_at dksL_law_61 3 rfl rfl)
theorem dL_law_1565 : decode cL_law 1565 = .ok (.aload_n 0, 1) := dk_42 (dk_at dksL_law_61 4 rfl rfl)
theorem dL_law_1566 : decode cL_law 1566 = .ok (.iload 5, 2) := dk_21 5 (dk_at dksL_law_61 5 rfl rfl)
theorem dL_law_1568 : decode cL_law 1568 = .ok (.iconst 1, 1) := dk_4 (dk_at dksL_law_61 7 rfl rfl)
theorem dL_law_1569 : decode cL_law 1569 = .ok (.iadd, 1) := dk_96 (dk_at dksL_law_61 8 rfl rfl)
theorem dL_law_1570 : decode cL_law 1570 = .ok (.iaload, 1) := dk_46 (dk_at dksL_law_61 9 rfl rfl)
theorem dL_law_1571 : decode cL_law 1571 = .ok (.aload_n 3, 1) := dk_45 (dk_at dksL_law_61 10 rfl rfl)
theorem dL_law_1572 : decode cL_law 1572 = .ok (.invokestatic 209, 3) := dk_184 0 209 (dk_at dksL_law_61 11 rfl rfl)
theorem dL_law_1575 : decode cL_law 1575 = .ok (.istore 6, 2) := dk_54 6 (dk_at dksL_law_61 14 rfl rfl)
theorem dL_law_1577 : decode cL_law 1577 = .ok (.aload_n 2, 1) := dk_44 (dk_at dksL_law_61 16 rfl rfl)
theorem dL_law_1578 : decode cL_law 1578 = .ok (.aload_n 0, 1) := dk_42 (dk_at dksL_law_61 17 rfl rfl)
theorem dL_law_1579 : decode cL_law 1579 = .ok (.iload 5, 2) := dk_21 5 (dk_at dksL_law_61 18 rfl rfl)
theorem dL_law_1581 : decode cL_law 1581 = .ok (.iconst 1, 1) := dk_4 (dk_at dksL_law_61 20 rfl rfl)
theorem dL_law_1582 : decode cL_law 1582 = .ok (.iadd, 1) := dk_96 (dk_at dksL_law_61 21 rfl rfl)
theorem dL_law_1583 : decode cL_law 1583 = .ok (.iaload, 1) := dk_46 (dk_at dksL_law_61 22 rfl rfl)
theorem dL_law_1584 : decode cL_law 1584 = .ok (.invokevirtual 211, 3) := dk_182 0 211 (dk_at dksL_law_62 0 rfl rfl)
theorem dL_law_1587 : decode cL_law 1587 = .ok (.istore 7, 2) := dk_54 7 (dk_at dksL_law_62 3 rfl rfl)
theorem dL_law_1589 : decode cL_law 1589 = .ok (.aload_n 2, 1) := dk_44 (dk_at dksL_law_62 5 rfl rfl)
theorem dL_law_1590 : decode cL_law 1590 = .ok (.invokevirtual 139, 3) := dk_182 0 139 (dk_at dksL_law_62 6 rfl rfl)
theorem dL_law_1593 : decode cL_law 1593 = .ok (.iload 6, 2) := dk_21 6 (dk_at dksL_law_62 9 rfl rfl)
theorem dL_law_1595 : decode cL_law 1595 = .ok (.if_icmp .eq 5, 3) := dk_159 0 5 (dk_at dksL_law_62 11 rfl rfl)
theorem dL_law_1598 : decode cL_law 1598 = .ok (.iconst 0, 1) := dk_3 (dk_at dksL_law_62 14 rfl rfl)
theorem dL_law_1599 : decode cL_law 1599 = .ok (.ireturn, 1) := dk_172 (dk_at dksL_law_62 15 rfl rfl)
theorem dL_law_1600 : decode cL_law 1600 = .ok (.iload 6, 2) := dk_21 6 (dk_at dksL_law_62 16 rfl rfl)
theorem dL_law_1602 : decode cL_law 1602 = .ok (.ifCond .ne 15, 3) := dk_154 0 15 (dk_at dksL_law_62 18 rfl rfl)
theorem dL_law_1605 : decode cL_law 1605 = .ok (.aload_n 3, 1) := dk_45 (dk_at dksL_law_62 21 rfl rfl)
theorem dL_law_1606 : decode cL_law 1606 = .ok (.iconst 0, 1) := dk_3 (dk_at dksL_law_62 22 rfl rfl)
theorem dL_law_1607 : decode cL_law 1607 = .ok (.laload, 1) := dk_47 (dk_at dksL_law_62 23 rfl rfl)
theorem dL_law_1608 : decode cL_law 1608 = .ok (.iload 7, 2) := dk_21 7 (dk_at dksL_law_63 0 rfl rfl)
theorem dL_law_1610 : decode cL_law 1610 = .ok (.i2l, 1) := dk_133 (dk_at dksL_law_63 2 rfl rfl)
theorem dL_law_1611 : decode cL_law 1611 = .ok (.lcmp, 1) := dk_148 (dk_at dksL_law_63 3 rfl rfl)
theorem dL_law_1612 : decode cL_law 1612 = .ok (.ifCond .eq 5, 3) := dk_153 0 5 (dk_at dksL_law_63 4 rfl rfl)
theorem dL_law_1615 : decode cL_law 1615 = .ok (.iconst 0, 1) := dk_3 (dk_at dksL_law_63 7 rfl rfl)
theorem dL_law_1616 : decode cL_law 1616 = .ok (.ireturn, 1) := dk_172 (dk_at dksL_law_63 8 rfl rfl)
theorem dL_law_1617 : decode cL_law 1617 = .ok (.goto 628, 3) := dk_167 2 116 (dk_at dksL_law_63 9 rfl rfl)
theorem dL_law_1620 : decode cL_law 1620 = .ok (.aload_n 1, 1) := dk_43 (dk_at dksL_law_63 12 rfl rfl)
theorem dL_law_1621 : decode cL_law 1621 = .ok (.invokevirtual 212, 3) := dk_182 0 212 (dk_at dksL_law_63 13 rfl rfl)
theorem dL_law_1624 : decode cL_law 1624 = .ok (.aload_n 2, 1) := dk_44 (dk_at dksL_law_63 16 rfl rfl)
theorem dL_law_1625 : decode cL_law 1625 = .ok (.invokevirtual 215, 3) := dk_182 0 215 (dk_at dksL_law_63 17 rfl rfl)
theorem dL_law_1628 : decode cL_law 1628 = .ok (.if_icmp .eq 617, 3) := dk_159 2 105 (dk_at dksL_law_63 20 rfl rfl)
theorem dL_law_1631 : decode cL_law 1631 = .ok (.iconst 0, 1) := dk_3 (dk_at dksL_law_63 23 rfl rfl)
theorem dL_law_1632 : decode cL_law 1632 = .ok (.ireturn, 1) := dk_172 (dk_at dksL_law_64 0 rfl rfl)
theorem dL_law_1633 : decode cL_law 1633 = .ok (.aload_n 1, 1) := dk_43 (dk_at dksL_law_64 1 rfl rfl)
theorem dL_law_1634 : decode cL_law 1634 = .ok (.invokevirtual 216, 3) := dk_182 0 216 (dk_at dksL_law_64 2 rfl rfl)
theorem dL_law_1637 : decode cL_law 1637 = .ok (.aload_n 2, 1) := dk_44 (dk_at dksL_law_64 5 rfl rfl)
theorem dL_law_1638 : decode cL_law 1638 = .ok (.invokevirtual 219, 3) := dk_182 0 219 (dk_at dksL_law_64 6 rfl rfl)
theorem dL_law_1641 : decode cL_law 1641 = .ok (.if_icmp .eq 604, 3) := dk_159 2 92 (dk_at dksL_law_64 9 rfl rfl)
theorem dL_law_1644 : decode cL_law 1644 = .ok (.iconst 0, 1) := dk_3 (dk_at dksL_law_64 12 rfl rfl)
theorem dL_law_1645 : decode cL_law 1645 = .ok (.ireturn, 1) := dk_172 (dk_at dksL_law_64 13 rfl rfl)
theorem dL_law_1646 : decode cL_law 1646 = .ok (.aload_n 1, 1) := dk_43 (dk_at dksL_law_64 14 rfl rfl)
theorem dL_law_1647 : decode cL_law 1647 = .ok (.aload_n 0, 1) := dk_42 (dk_at dksL_law_64 15 rfl rfl)
theorem dL_law_1648 : decode cL_law 1648 = .ok (.iload 5, 2) := dk_21 5 (dk_at dksL_law_64 16 rfl rfl)
theorem dL_law_1650 : decode cL_law 1650 = .ok (.iconst 1, 1) := dk_4 (dk_at dksL_law_64 18 rfl rfl)
theorem dL_law_1651 : decode cL_law 1651 = .ok (.iadd, 1) := dk_96 (dk_at dksL_law_64 19 rfl rfl)
theorem dL_law_1652 : decode cL_law 1652 = .ok (.iaload, 1) := dk_46 (dk_at dksL_law_64 20 rfl rfl)
theorem dL_law_1653 : decode cL_law 1653 = .ok (.aload_n 3, 1) := dk_45 (dk_at dksL_law_64 21 rfl rfl)
theorem dL_law_1654 : decode cL_law 1654 = .ok (.invokestatic 220, 3) := dk_184 0 220 (dk_at dksL_law_65 0 rfl rfl)
theorem dL_law_1657 : decode cL_law 1657 = .ok (.istore 6, 2) := dk_54 6 (dk_at dksL_law_65 3 rfl rfl)
theorem dL_law_1659 : decode cL_law 1659 = .ok (.aload_n 2, 1) := dk_44 (dk_at dksL_law_65 5 rfl rfl)
theorem dL_law_1660 : decode cL_law 1660 = .ok (.aload_n 0, 1) := dk_42 (dk_at dksL_law_65 6 rfl rfl)
theorem dL_law_1661 : decode cL_law 1661 = .ok (.iload 5, 2) := dk_21 5 (dk_at dksL_law_65 7 rfl rfl)
theorem dL_law_1663 : decode cL_law 1663 = .ok (.iconst 1, 1) := dk_4 (dk_at dksL_law_65 9 rfl rfl)
theorem dL_law_1664 : decode cL_law 1664 = .ok (.iadd, 1) := dk_96 (dk_at dksL_law_65 10 rfl rfl)
theorem dL_law_1665 : decode cL_law 1665 = .ok (.iaload, 1) := dk_46 (dk_at dksL_law_65 11 rfl rfl)
theorem dL_law_1666 : decode cL_law 1666 = .ok (.invokevirtual 222, 3) := dk_182 0 222 (dk_at dksL_law_65 12 rfl rfl)
theorem dL_law_1669 : decode cL_law 1669 = .ok (.istore 7, 2) := dk_54 7 (dk_at dksL_law_65 15 rfl rfl)
theorem dL_law_1671 : decode cL_law 1671 = .ok (.aload_n 2, 1) := dk_44 (dk_at dksL_law_65 17 rfl rfl)
theorem dL_law_1672 : decode cL_law 1672 = .ok (.invokevirtual 139, 3) := dk_182 0 139 (dk_at dksL_law_65 18 rfl rfl)
theorem dL_law_1675 : decode cL_law 1675 = .ok (.iload 6, 2) := dk_21 6 (dk_at dksL_law_65 21 rfl rfl)
theorem dL_law_1677 : decode cL_law 1677 = .ok (.if_icmp .eq 5, 3) := dk_159 0 5 (dk_at dksL_law_66 0 rfl rfl)
theorem dL_law_1680 : decode cL_law 1680 = .ok (.iconst 0, 1) := dk_3 (dk_at dksL_law_66 3 rfl rfl)
theorem dL_law_1681 : decode cL_law 1681 = .ok (.ireturn, 1) := dk_172 (dk_at dksL_law_66 4 rfl rfl)
theorem dL_law_1682 : decode cL_law 1682 = .ok (.iload 6, 2) := dk_21 6 (dk_at dksL_law_66 5 rfl rfl)
theorem dL_law_1684 : decode cL_law 1684 = .ok (.ifCond .ne 15, 3) := dk_154 0 15 (dk_at dksL_law_66 7 rfl rfl)
theorem dL_law_1687 : decode cL_law 1687 = .ok (.aload_n 3, 1) := dk_45 (dk_at dksL_law_66 10 rfl rfl)
theorem dL_law_1688 : decode cL_law 1688 = .ok (.iconst 0, 1) := dk_3 (dk_at dksL_law_66 11 rfl rfl)
theorem dL_law_1689 : decode cL_law 1689 = .ok (.laload, 1) := dk_47 (dk_at dksL_law_66 12 rfl rfl)
theorem dL_law_1690 : decode cL_law 1690 = .ok (.iload 7, 2) := dk_21 7 (dk_at dksL_law_66 13 rfl rfl)
theorem dL_law_1692 : decode cL_law 1692 = .ok (.i2l, 1) := dk_133 (dk_at dksL_law_66 15 rfl rfl)
theorem dL_law_1693 : decode cL_law 1693 = .ok (.lcmp, 1) := dk_148 (dk_at dksL_law_66 16 rfl rfl)
theorem dL_law_1694 : decode cL_law 1694 = .ok (.ifCond .eq 5, 3) := dk_153 0 5 (dk_at dksL_law_66 17 rfl rfl)
theorem dL_law_1697 : decode cL_law 1697 = .ok (.iconst 0, 1) := dk_3 (dk_at dksL_law_66 20 rfl rfl)
theorem dL_law_1698 : decode cL_law 1698 = .ok (.ireturn, 1) := dk_172 (dk_at dksL_law_66 21 rfl rfl)
theorem dL_law_1699 : decode cL_law 1699 = .ok (.goto 546, 3) := dk_167 2 34 (dk_at dksL_law_67 0 rfl rfl)
theorem dL_law_1702 : decode cL_law 1702 = .ok (.aload_n 1, 1) := dk_43 (dk_at dksL_law_67 3 rfl rfl)
theorem dL_law_1703 : decode cL_law 1703 = .ok (.aload_n 0, 1) := dk_42 (dk_at dksL_law_67 4 rfl rfl)
theorem dL_law_1704 : decode cL_law 1704 = .ok (.iload 5, 2) := dk_21 5 (dk_at dksL_law_67 5 rfl rfl)
theorem dL_law_1706 : decode cL_law 1706 = .ok (.iconst 1, 1) := dk_4 (dk_at dksL_law_67 7 rfl rfl)
theorem dL_law_1707 : decode cL_law 1707 = .ok (.iadd, 1) := dk_96 (dk_at dksL_law_67 8 rfl rfl)
theorem dL_law_1708 : decode cL_law 1708 = .ok (.iaload, 1) := dk_46 (dk_at dksL_law_67 9 rfl rfl)
theorem dL_law_1709 : decode cL_law 1709 = .ok (.aload_n 3, 1) := dk_45 (dk_at dksL_law_67 10 rfl rfl)
theorem dL_law_1710 : decode cL_law 1710 = .ok (.invokestatic 223, 3) := dk_184 0 223 (dk_at dksL_law_67 11 rfl rfl)
theorem dL_law_1713 : decode cL_law 1713 = .ok (.istore 6, 2) := dk_54 6 (dk_at dksL_law_67 14 rfl rfl)
theorem dL_law_1715 : decode cL_law 1715 = .ok (.aload_n 2, 1) := dk_44 (dk_at dksL_law_67 16 rfl rfl)
theorem dL_law_1716 : decode cL_law 1716 = .ok (.aload_n 0, 1) := dk_42 (dk_at dksL_law_67 17 rfl rfl)
theorem dL_law_1717 : decode cL_law 1717 = .ok (.iload 5, 2) := dk_21 5 (dk_at dksL_law_67 18 rfl rfl)
theorem dL_law_1719 : decode cL_law 1719 = .ok (.iconst 1, 1) := dk_4 (dk_at dksL_law_67 20 rfl rfl)
theorem dL_law_1720 : decode cL_law 1720 = .ok (.iadd, 1) := dk_96 (dk_at dksL_law_67 21 rfl rfl)
theorem dL_law_1721 : decode cL_law 1721 = .ok (.iaload, 1) := dk_46 (dk_at dksL_law_67 22 rfl rfl)
theorem dL_law_1722 : decode cL_law 1722 = .ok (.invokevirtual 225, 3) := dk_182 0 225 (dk_at dksL_law_68 0 rfl rfl)
theorem dL_law_1725 : decode cL_law 1725 = .ok (.istore 7, 2) := dk_54 7 (dk_at dksL_law_68 3 rfl rfl)
theorem dL_law_1727 : decode cL_law 1727 = .ok (.aload_n 2, 1) := dk_44 (dk_at dksL_law_68 5 rfl rfl)
theorem dL_law_1728 : decode cL_law 1728 = .ok (.invokevirtual 139, 3) := dk_182 0 139 (dk_at dksL_law_68 6 rfl rfl)
theorem dL_law_1731 : decode cL_law 1731 = .ok (.iload 6, 2) := dk_21 6 (dk_at dksL_law_68 9 rfl rfl)
theorem dL_law_1733 : decode cL_law 1733 = .ok (.if_icmp .eq 5, 3) := dk_159 0 5 (dk_at dksL_law_68 11 rfl rfl)
theorem dL_law_1736 : decode cL_law 1736 = .ok (.iconst 0, 1) := dk_3 (dk_at dksL_law_68 14 rfl rfl)
theorem dL_law_1737 : decode cL_law 1737 = .ok (.ireturn, 1) := dk_172 (dk_at dksL_law_68 15 rfl rfl)
theorem dL_law_1738 : decode cL_law 1738 = .ok (.iload 6, 2) := dk_21 6 (dk_at dksL_law_68 16 rfl rfl)
theorem dL_law_1740 : decode cL_law 1740 = .ok (.ifCond .ne 15, 3) := dk_154 0 15 (dk_at dksL_law_68 18 rfl rfl)
theorem dL_law_1743 : decode cL_law 1743 = .ok (.aload_n 3, 1) := dk_45 (dk_at dksL_law_68 21 rfl rfl)
theorem dL_law_1744 : decode cL_law 1744 = .ok (.iconst 0, 1) := dk_3 (dk_at dksL_law_68 22 rfl rfl)
theorem dL_law_1745 : decode cL_law 1745 = .ok (.laload, 1) := dk_47 (dk_at dksL_law_68 23 rfl rfl)
theorem dL_law_1746 : decode cL_law 1746 = .ok (.iload 7, 2) := dk_21 7 (dk_at dksL_law_69 0 rfl rfl)
theorem dL_law_1748 : decode cL_law 1748 = .ok (.i2l, 1) := dk_133 (dk_at dksL_law_69 2 rfl rfl)
theorem dL_law_1749 : decode cL_law 1749 = .ok (.lcmp, 1) := dk_148 (dk_at dksL_law_69 3 rfl rfl)
theorem dL_law_1750 : decode cL_law 1750 = .ok (.ifCond .eq 5, 3) := dk_153 0 5 (dk_at dksL_law_69 4 rfl rfl)
theorem dL_law_1753 : decode cL_law 1753 = .ok (.iconst 0, 1) := dk_3 (dk_at dksL_law_69 7 rfl rfl)
theorem dL_law_1754 : decode cL_law 1754 = .ok (.ireturn, 1) := dk_172 (dk_at dksL_law_69 8 rfl rfl)
theorem dL_law_1755 : decode cL_law 1755 = .ok (.goto 490, 3) := dk_167 1 234 (dk_at dksL_law_69 9 rfl rfl)
theorem dL_law_1758 : decode cL_law 1758 = .ok (.aload_n 1, 1) := dk_43 (dk_at dksL_law_69 12 rfl rfl)
theorem dL_law_1759 : decode cL_law 1759 = .ok (.invokevirtual 226, 3) := dk_182 0 226 (dk_at dksL_law_69 13 rfl rfl)
theorem dL_law_1762 : decode cL_law 1762 = .ok (.aload_n 2, 1) := dk_44 (dk_at dksL_law_69 16 rfl rfl)
theorem dL_law_1763 : decode cL_law 1763 = .ok (.invokevirtual 230, 3) := dk_182 0 230 (dk_at dksL_law_69 17 rfl rfl)
theorem dL_law_1766 : decode cL_law 1766 = .ok (.if_icmp .eq 479, 3) := dk_159 1 223 (dk_at dksL_law_69 20 rfl rfl)
theorem dL_law_1769 : decode cL_law 1769 = .ok (.iconst 0, 1) := dk_3 (dk_at dksL_law_69 23 rfl rfl)
theorem dL_law_1770 : decode cL_law 1770 = .ok (.ireturn, 1) := dk_172 (dk_at dksL_law_70 0 rfl rfl)
theorem dL_law_1771 : decode cL_law 1771 = .ok (.aload_n 1, 1) := dk_43 (dk_at dksL_law_70 1 rfl rfl)
theorem dL_law_1772 : decode cL_law 1772 = .ok (.aload 4, 2) := dk_25 4 (dk_at dksL_law_70 2 rfl rfl)
theorem dL_law_1774 : decode cL_law 1774 = .ok (.invokestatic 231, 3) := dk_184 0 231 (dk_at dksL_law_70 4 rfl rfl)
theorem dL_law_1777 : decode cL_law 1777 = .ok (.istore 6, 2) := dk_54 6 (dk_at dksL_law_70 7 rfl rfl)
theorem dL_law_1779 : decode cL_law 1779 = .ok (.aload_n 2, 1) := dk_44 (dk_at dksL_law_70 9 rfl rfl)
theorem dL_law_1780 : decode cL_law 1780 = .ok (.invokevirtual 234, 3) := dk_182 0 234 (dk_at dksL_law_70 10 rfl rfl)
theorem dL_law_1783 : decode cL_law 1783 = .ok (.dstore 7, 2) := dk_57 7 (dk_at dksL_law_70 13 rfl rfl)
theorem dL_law_1785 : decode cL_law 1785 = .ok (.aload_n 2, 1) := dk_44 (dk_at dksL_law_70 15 rfl rfl)
theorem dL_law_1786 : decode cL_law 1786 = .ok (.invokevirtual 139, 3) := dk_182 0 139 (dk_at dksL_law_70 16 rfl rfl)
theorem dL_law_1789 : decode cL_law 1789 = .ok (.iload 6, 2) := dk_21 6 (dk_at dksL_law_70 19 rfl rfl)
theorem dL_law_1791 : decode cL_law 1791 = .ok (.if_icmp .eq 5, 3) := dk_159 0 5 (dk_at dksL_law_70 21 rfl rfl)
theorem dL_law_1794 : decode cL_law 1794 = .ok (.iconst 0, 1) := dk_3 (dk_at dksL_law_71 0 rfl rfl)
theorem dL_law_1795 : decode cL_law 1795 = .ok (.ireturn, 1) := dk_172 (dk_at dksL_law_71 1 rfl rfl)
theorem dL_law_1796 : decode cL_law 1796 = .ok (.iload 6, 2) := dk_21 6 (dk_at dksL_law_71 2 rfl rfl)
theorem dL_law_1798 : decode cL_law 1798 = .ok (.ifCond .ne 35, 3) := dk_154 0 35 (dk_at dksL_law_71 4 rfl rfl)
theorem dL_law_1801 : decode cL_law 1801 = .ok (.aload 4, 2) := dk_25 4 (dk_at dksL_law_71 7 rfl rfl)
theorem dL_law_1803 : decode cL_law 1803 = .ok (.iconst 0, 1) := dk_3 (dk_at dksL_law_71 9 rfl rfl)
theorem dL_law_1804 : decode cL_law 1804 = .ok (.daload, 1) := dk_49 (dk_at dksL_law_71 10 rfl rfl)
theorem dL_law_1805 : decode cL_law 1805 = .ok (.dload 7, 2) := dk_24 7 (dk_at dksL_law_71 11 rfl rfl)
theorem dL_law_1807 : decode cL_law 1807 = .ok (.dcmp .l, 1) := dk_151 (dk_at dksL_law_71 13 rfl rfl)
theorem dL_law_1808 : decode cL_law 1808 = .ok (.ifCond .eq 25, 3) := dk_153 0 25 (dk_at dksL_law_71 14 rfl rfl)
theorem dL_law_1811 : decode cL_law 1811 = .ok (.aload 4, 2) := dk_25 4 (dk_at dksL_law_71 17 rfl rfl)
theorem dL_law_1813 : decode cL_law 1813 = .ok (.iconst 0, 1) := dk_3 (dk_at dksL_law_71 19 rfl rfl)
theorem dL_law_1814 : decode cL_law 1814 = .ok (.daload, 1) := dk_49 (dk_at dksL_law_71 20 rfl rfl)
theorem dL_law_1815 : decode cL_law 1815 = .ok (.aload 4, 2) := dk_25 4 (dk_at dksL_law_71 21 rfl rfl)
theorem dL_law_1817 : decode cL_law 1817 = .ok (.iconst 0, 1) := dk_3 (dk_at dksL_law_71 23 rfl rfl)
theorem dL_law_1818 : decode cL_law 1818 = .ok (.daload, 1) := dk_49 (dk_at dksL_law_72 0 rfl rfl)
theorem dL_law_1819 : decode cL_law 1819 = .ok (.dcmp .l, 1) := dk_151 (dk_at dksL_law_72 1 rfl rfl)
theorem dL_law_1820 : decode cL_law 1820 = .ok (.ifCond .eq 11, 3) := dk_153 0 11 (dk_at dksL_law_72 2 rfl rfl)
theorem dL_law_1823 : decode cL_law 1823 = .ok (.dload 7, 2) := dk_24 7 (dk_at dksL_law_72 5 rfl rfl)
theorem dL_law_1825 : decode cL_law 1825 = .ok (.dload 7, 2) := dk_24 7 (dk_at dksL_law_72 7 rfl rfl)
theorem dL_law_1827 : decode cL_law 1827 = .ok (.dcmp .l, 1) := dk_151 (dk_at dksL_law_72 9 rfl rfl)
theorem dL_law_1828 : decode cL_law 1828 = .ok (.ifCond .ne 5, 3) := dk_154 0 5 (dk_at dksL_law_72 10 rfl rfl)
theorem dL_law_1831 : decode cL_law 1831 = .ok (.iconst 0, 1) := dk_3 (dk_at dksL_law_72 13 rfl rfl)
theorem dL_law_1832 : decode cL_law 1832 = .ok (.ireturn, 1) := dk_172 (dk_at dksL_law_72 14 rfl rfl)
theorem dL_law_1833 : decode cL_law 1833 = .ok (.goto 412, 3) := dk_167 1 156 (dk_at dksL_law_72 15 rfl rfl)
theorem dL_law_1836 : decode cL_law 1836 = .ok (.aload_n 1, 1) := dk_43 (dk_at dksL_law_72 18 rfl rfl)
theorem dL_law_1837 : decode cL_law 1837 = .ok (.aload 4, 2) := dk_25 4 (dk_at dksL_law_72 19 rfl rfl)
theorem dL_law_1839 : decode cL_law 1839 = .ok (.invokestatic 235, 3) := dk_184 0 235 (dk_at dksL_law_72 21 rfl rfl)
theorem dL_law_1842 : decode cL_law 1842 = .ok (.istore 6, 2) := dk_54 6 (dk_at dksL_law_73 0 rfl rfl)
theorem dL_law_1844 : decode cL_law 1844 = .ok (.aload_n 2, 1) := dk_44 (dk_at dksL_law_73 2 rfl rfl)
theorem dL_law_1845 : decode cL_law 1845 = .ok (.invokevirtual 237, 3) := dk_182 0 237 (dk_at dksL_law_73 3 rfl rfl)
theorem dL_law_1848 : decode cL_law 1848 = .ok (.fstore 7, 2) := dk_56 7 (dk_at dksL_law_73 6 rfl rfl)
theorem dL_law_1850 : decode cL_law 1850 = .ok (.aload_n 2, 1) := dk_44 (dk_at dksL_law_73 8 rfl rfl)
theorem dL_law_1851 : decode cL_law 1851 = .ok (.invokevirtual 139, 3) := dk_182 0 139 (dk_at dksL_law_73 9 rfl rfl)
theorem dL_law_1854 : decode cL_law 1854 = .ok (.iload 6, 2) := dk_21 6 (dk_at dksL_law_73 12 rfl rfl)
theorem dL_law_1856 : decode cL_law 1856 = .ok (.if_icmp .eq 5, 3) := dk_159 0 5 (dk_at dksL_law_73 14 rfl rfl)
theorem dL_law_1859 : decode cL_law 1859 = .ok (.iconst 0, 1) := dk_3 (dk_at dksL_law_73 17 rfl rfl)
theorem dL_law_1860 : decode cL_law 1860 = .ok (.ireturn, 1) := dk_172 (dk_at dksL_law_73 18 rfl rfl)
theorem dL_law_1861 : decode cL_law 1861 = .ok (.iload 6, 2) := dk_21 6 (dk_at dksL_law_73 19 rfl rfl)
theorem dL_law_1863 : decode cL_law 1863 = .ok (.ifCond .ne 36, 3) := dk_154 0 36 (dk_at dksL_law_73 21 rfl rfl)
theorem dL_law_1866 : decode cL_law 1866 = .ok (.aload 4, 2) := dk_25 4 (dk_at dksL_law_74 0 rfl rfl)
theorem dL_law_1868 : decode cL_law 1868 = .ok (.iconst 0, 1) := dk_3 (dk_at dksL_law_74 2 rfl rfl)
theorem dL_law_1869 : decode cL_law 1869 = .ok (.daload, 1) := dk_49 (dk_at dksL_law_74 3 rfl rfl)
theorem dL_law_1870 : decode cL_law 1870 = .ok (.fload 7, 2) := dk_23 7 (dk_at dksL_law_74 4 rfl rfl)
theorem dL_law_1872 : decode cL_law 1872 = .ok (.f2d, 1) := dk_141 (dk_at dksL_law_74 6 rfl rfl)
theorem dL_law_1873 : decode cL_law 1873 = .ok (.dcmp .l, 1) := dk_151 (dk_at dksL_law_74 7 rfl rfl)
theorem dL_law_1874 : decode cL_law 1874 = .ok (.ifCond .eq 25, 3) := dk_153 0 25 (dk_at dksL_law_74 8 rfl rfl)
theorem dL_law_1877 : decode cL_law 1877 = .ok (.aload 4, 2) := dk_25 4 (dk_at dksL_law_74 11 rfl rfl)
theorem dL_law_1879 : decode cL_law 1879 = .ok (.iconst 0, 1) := dk_3 (dk_at dksL_law_74 13 rfl rfl)
theorem dL_law_1880 : decode cL_law 1880 = .ok (.daload, 1) := dk_49 (dk_at dksL_law_74 14 rfl rfl)
theorem dL_law_1881 : decode cL_law 1881 = .ok (.aload 4, 2) := dk_25 4 (dk_at dksL_law_74 15 rfl rfl)
theorem dL_law_1883 : decode cL_law 1883 = .ok (.iconst 0, 1) := dk_3 (dk_at dksL_law_74 17 rfl rfl)
theorem dL_law_1884 : decode cL_law 1884 = .ok (.daload, 1) := dk_49 (dk_at dksL_law_74 18 rfl rfl)
theorem dL_law_1885 : decode cL_law 1885 = .ok (.dcmp .l, 1) := dk_151 (dk_at dksL_law_74 19 rfl rfl)
theorem dL_law_1886 : decode cL_law 1886 = .ok (.ifCond .eq 11, 3) := dk_153 0 11 (dk_at dksL_law_74 20 rfl rfl)
theorem dL_law_1889 : decode cL_law 1889 = .ok (.fload 7, 2) := dk_23 7 (dk_at dksL_law_75 0 rfl rfl)
theorem dL_law_1891 : decode cL_law 1891 = .ok (.fload 7, 2) := dk_23 7 (dk_at dksL_law_75 2 rfl rfl)
theorem dL_law_1893 : decode cL_law 1893 = .ok (.fcmp .l, 1) := dk_149 (dk_at dksL_law_75 4 rfl rfl)
theorem dL_law_1894 : decode cL_law 1894 = .ok (.ifCond .ne 5, 3) := dk_154 0 5 (dk_at dksL_law_75 5 rfl rfl)
theorem dL_law_1897 : decode cL_law 1897 = .ok (.iconst 0, 1) := dk_3 (dk_at dksL_law_75 8 rfl rfl)
theorem dL_law_1898 : decode cL_law 1898 = .ok (.ireturn, 1) := dk_172 (dk_at dksL_law_75 9 rfl rfl)
theorem dL_law_1899 : decode cL_law 1899 = .ok (.goto 346, 3) := dk_167 1 90 (dk_at dksL_law_75 10 rfl rfl)
theorem dL_law_1902 : decode cL_law 1902 = .ok (.aload_n 1, 1) := dk_43 (dk_at dksL_law_75 13 rfl rfl)
theorem dL_law_1903 : decode cL_law 1903 = .ok (.aload_n 0, 1) := dk_42 (dk_at dksL_law_75 14 rfl rfl)
theorem dL_law_1904 : decode cL_law 1904 = .ok (.iload 5, 2) := dk_21 5 (dk_at dksL_law_75 15 rfl rfl)
theorem dL_law_1906 : decode cL_law 1906 = .ok (.iconst 1, 1) := dk_4 (dk_at dksL_law_75 17 rfl rfl)
theorem dL_law_1907 : decode cL_law 1907 = .ok (.iadd, 1) := dk_96 (dk_at dksL_law_75 18 rfl rfl)
theorem dL_law_1908 : decode cL_law 1908 = .ok (.iaload, 1) := dk_46 (dk_at dksL_law_75 19 rfl rfl)
theorem dL_law_1909 : decode cL_law 1909 = .ok (.aload_n 0, 1) := dk_42 (dk_at dksL_law_75 20 rfl rfl)
theorem dL_law_1910 : decode cL_law 1910 = .ok (.iload 5, 2) := dk_21 5 (dk_at dksL_law_75 21 rfl rfl)
theorem dL_law_1912 : decode cL_law 1912 = .ok (.iconst 2, 1) := dk_5 (dk_at dksL_law_75 23 rfl rfl)
theorem dL_law_1913 : decode cL_law 1913 = .ok (.iadd, 1) := dk_96 (dk_at dksL_law_76 0 rfl rfl)
theorem dL_law_1914 : decode cL_law 1914 = .ok (.iaload, 1) := dk_46 (dk_at dksL_law_76 1 rfl rfl)
theorem dL_law_1915 : decode cL_law 1915 = .ok (.ifCond .eq 7, 3) := dk_153 0 7 (dk_at dksL_law_76 2 rfl rfl)
theorem dL_law_1918 : decode cL_law 1918 = .ok (.iconst 1, 1) := dk_4 (dk_at dksL_law_76 5 rfl rfl)
theorem dL_law_1919 : decode cL_law 1919 = .ok (.goto 4, 3) := dk_167 0 4 (dk_at dksL_law_76 6 rfl rfl)
theorem dL_law_1922 : decode cL_law 1922 = .ok (.iconst 0, 1) := dk_3 (dk_at dksL_law_76 9 rfl rfl)
theorem dL_law_1923 : decode cL_law 1923 = .ok (.aload_n 3, 1) := dk_45 (dk_at dksL_law_76 10 rfl rfl)
theorem dL_law_1924 : decode cL_law 1924 = .ok (.invokestatic 238, 3) := dk_184 0 238 (dk_at dksL_law_76 11 rfl rfl)
theorem dL_law_1927 : decode cL_law 1927 = .ok (.istore 6, 2) := dk_54 6 (dk_at dksL_law_76 14 rfl rfl)
theorem dL_law_1929 : decode cL_law 1929 = .ok (.aload_n 2, 1) := dk_44 (dk_at dksL_law_76 16 rfl rfl)
theorem dL_law_1930 : decode cL_law 1930 = .ok (.aload_n 0, 1) := dk_42 (dk_at dksL_law_76 17 rfl rfl)
theorem dL_law_1931 : decode cL_law 1931 = .ok (.iload 5, 2) := dk_21 5 (dk_at dksL_law_76 18 rfl rfl)
theorem dL_law_1933 : decode cL_law 1933 = .ok (.iconst 1, 1) := dk_4 (dk_at dksL_law_76 20 rfl rfl)
theorem dL_law_1934 : decode cL_law 1934 = .ok (.iadd, 1) := dk_96 (dk_at dksL_law_76 21 rfl rfl)
theorem dL_law_1935 : decode cL_law 1935 = .ok (.iaload, 1) := dk_46 (dk_at dksL_law_76 22 rfl rfl)
theorem dL_law_1936 : decode cL_law 1936 = .ok (.aload_n 0, 1) := dk_42 (dk_at dksL_law_76 23 rfl rfl)
theorem dL_law_1937 : decode cL_law 1937 = .ok (.iload 5, 2) := dk_21 5 (dk_at dksL_law_77 0 rfl rfl)
theorem dL_law_1939 : decode cL_law 1939 = .ok (.iconst 2, 1) := dk_5 (dk_at dksL_law_77 2 rfl rfl)
theorem dL_law_1940 : decode cL_law 1940 = .ok (.iadd, 1) := dk_96 (dk_at dksL_law_77 3 rfl rfl)
theorem dL_law_1941 : decode cL_law 1941 = .ok (.iaload, 1) := dk_46 (dk_at dksL_law_77 4 rfl rfl)
theorem dL_law_1942 : decode cL_law 1942 = .ok (.ifCond .eq 7, 3) := dk_153 0 7 (dk_at dksL_law_77 5 rfl rfl)
theorem dL_law_1945 : decode cL_law 1945 = .ok (.iconst 1, 1) := dk_4 (dk_at dksL_law_77 8 rfl rfl)
theorem dL_law_1946 : decode cL_law 1946 = .ok (.goto 4, 3) := dk_167 0 4 (dk_at dksL_law_77 9 rfl rfl)
theorem dL_law_1949 : decode cL_law 1949 = .ok (.iconst 0, 1) := dk_3 (dk_at dksL_law_77 12 rfl rfl)
theorem dL_law_1950 : decode cL_law 1950 = .ok (.invokevirtual 240, 3) := dk_182 0 240 (dk_at dksL_law_77 13 rfl rfl)
theorem dL_law_1953 : decode cL_law 1953 = .ok (.istore 7, 2) := dk_54 7 (dk_at dksL_law_77 16 rfl rfl)
theorem dL_law_1955 : decode cL_law 1955 = .ok (.aload_n 2, 1) := dk_44 (dk_at dksL_law_77 18 rfl rfl)
theorem dL_law_1956 : decode cL_law 1956 = .ok (.invokevirtual 139, 3) := dk_182 0 139 (dk_at dksL_law_77 19 rfl rfl)
theorem dL_law_1959 : decode cL_law 1959 = .ok (.iload 6, 2) := dk_21 6 (dk_at dksL_law_77 22 rfl rfl)
theorem dL_law_1961 : decode cL_law 1961 = .ok (.if_icmp .eq 5, 3) := dk_159 0 5 (dk_at dksL_law_78 0 rfl rfl)
theorem dL_law_1964 : decode cL_law 1964 = .ok (.iconst 0, 1) := dk_3 (dk_at dksL_law_78 3 rfl rfl)
theorem dL_law_1965 : decode cL_law 1965 = .ok (.ireturn, 1) := dk_172 (dk_at dksL_law_78 4 rfl rfl)
theorem dL_law_1966 : decode cL_law 1966 = .ok (.iload 6, 2) := dk_21 6 (dk_at dksL_law_78 5 rfl rfl)
theorem dL_law_1968 : decode cL_law 1968 = .ok (.ifCond .ne 15, 3) := dk_154 0 15 (dk_at dksL_law_78 7 rfl rfl)
theorem dL_law_1971 : decode cL_law 1971 = .ok (.aload_n 3, 1) := dk_45 (dk_at dksL_law_78 10 rfl rfl)
theorem dL_law_1972 : decode cL_law 1972 = .ok (.iconst 0, 1) := dk_3 (dk_at dksL_law_78 11 rfl rfl)
theorem dL_law_1973 : decode cL_law 1973 = .ok (.laload, 1) := dk_47 (dk_at dksL_law_78 12 rfl rfl)
theorem dL_law_1974 : decode cL_law 1974 = .ok (.iload 7, 2) := dk_21 7 (dk_at dksL_law_78 13 rfl rfl)
theorem dL_law_1976 : decode cL_law 1976 = .ok (.i2l, 1) := dk_133 (dk_at dksL_law_78 15 rfl rfl)
theorem dL_law_1977 : decode cL_law 1977 = .ok (.lcmp, 1) := dk_148 (dk_at dksL_law_78 16 rfl rfl)
theorem dL_law_1978 : decode cL_law 1978 = .ok (.ifCond .eq 5, 3) := dk_153 0 5 (dk_at dksL_law_78 17 rfl rfl)
theorem dL_law_1981 : decode cL_law 1981 = .ok (.iconst 0, 1) := dk_3 (dk_at dksL_law_78 20 rfl rfl)
theorem dL_law_1982 : decode cL_law 1982 = .ok (.ireturn, 1) := dk_172 (dk_at dksL_law_78 21 rfl rfl)
theorem dL_law_1983 : decode cL_law 1983 = .ok (.goto 262, 3) := dk_167 1 6 (dk_at dksL_law_79 0 rfl rfl)
theorem dL_law_1986 : decode cL_law 1986 = .ok (.aload_n 1, 1) := dk_43 (dk_at dksL_law_79 3 rfl rfl)
theorem dL_law_1987 : decode cL_law 1987 = .ok (.aload_n 0, 1) := dk_42 (dk_at dksL_law_79 4 rfl rfl)
theorem dL_law_1988 : decode cL_law 1988 = .ok (.iload 5, 2) := dk_21 5 (dk_at dksL_law_79 5 rfl rfl)
theorem dL_law_1990 : decode cL_law 1990 = .ok (.iconst 1, 1) := dk_4 (dk_at dksL_law_79 7 rfl rfl)
theorem dL_law_1991 : decode cL_law 1991 = .ok (.iadd, 1) := dk_96 (dk_at dksL_law_79 8 rfl rfl)
theorem dL_law_1992 : decode cL_law 1992 = .ok (.iaload, 1) := dk_46 (dk_at dksL_law_79 9 rfl rfl)
theorem dL_law_1993 : decode cL_law 1993 = .ok (.aload_n 3, 1) := dk_45 (dk_at dksL_law_79 10 rfl rfl)
theorem dL_law_1994 : decode cL_law 1994 = .ok (.invokestatic 241, 3) := dk_184 0 241 (dk_at dksL_law_79 11 rfl rfl)
theorem dL_law_1997 : decode cL_law 1997 = .ok (.istore 6, 2) := dk_54 6 (dk_at dksL_law_79 14 rfl rfl)
theorem dL_law_1999 : decode cL_law 1999 = .ok (.aload_n 2, 1) := dk_44 (dk_at dksL_law_79 16 rfl rfl)
theorem dL_law_2000 : decode cL_law 2000 = .ok (.aload_n 0, 1) := dk_42 (dk_at dksL_law_79 17 rfl rfl)
theorem dL_law_2001 : decode cL_law 2001 = .ok (.iload 5, 2) := dk_21 5 (dk_at dksL_law_79 18 rfl rfl)
theorem dL_law_2003 : decode cL_law 2003 = .ok (.iconst 1, 1) := dk_4 (dk_at dksL_law_79 20 rfl rfl)
theorem dL_law_2004 : decode cL_law 2004 = .ok (.iadd, 1) := dk_96 (dk_at dksL_law_79 21 rfl rfl)
theorem dL_law_2005 : decode cL_law 2005 = .ok (.iaload, 1) := dk_46 (dk_at dksL_law_79 22 rfl rfl)
theorem dL_law_2006 : decode cL_law 2006 = .ok (.invokevirtual 243, 3) := dk_182 0 243 (dk_at dksL_law_80 0 rfl rfl)
theorem dL_law_2009 : decode cL_law 2009 = .ok (.istore 7, 2) := dk_54 7 (dk_at dksL_law_80 3 rfl rfl)
theorem dL_law_2011 : decode cL_law 2011 = .ok (.aload_n 2, 1) := dk_44 (dk_at dksL_law_80 5 rfl rfl)
theorem dL_law_2012 : decode cL_law 2012 = .ok (.invokevirtual 139, 3) := dk_182 0 139 (dk_at dksL_law_80 6 rfl rfl)
theorem dL_law_2015 : decode cL_law 2015 = .ok (.iload 6, 2) := dk_21 6 (dk_at dksL_law_80 9 rfl rfl)
theorem dL_law_2017 : decode cL_law 2017 = .ok (.if_icmp .eq 5, 3) := dk_159 0 5 (dk_at dksL_law_80 11 rfl rfl)
theorem dL_law_2020 : decode cL_law 2020 = .ok (.iconst 0, 1) := dk_3 (dk_at dksL_law_80 14 rfl rfl)
theorem dL_law_2021 : decode cL_law 2021 = .ok (.ireturn, 1) := dk_172 (dk_at dksL_law_80 15 rfl rfl)
theorem dL_law_2022 : decode cL_law 2022 = .ok (.iload 6, 2) := dk_21 6 (dk_at dksL_law_80 16 rfl rfl)
theorem dL_law_2024 : decode cL_law 2024 = .ok (.ifCond .ne 15, 3) := dk_154 0 15 (dk_at dksL_law_80 18 rfl rfl)
theorem dL_law_2027 : decode cL_law 2027 = .ok (.aload_n 3, 1) := dk_45 (dk_at dksL_law_80 21 rfl rfl)
theorem dL_law_2028 : decode cL_law 2028 = .ok (.iconst 0, 1) := dk_3 (dk_at dksL_law_80 22 rfl rfl)
theorem dL_law_2029 : decode cL_law 2029 = .ok (.laload, 1) := dk_47 (dk_at dksL_law_80 23 rfl rfl)
theorem dL_law_2030 : decode cL_law 2030 = .ok (.iload 7, 2) := dk_21 7 (dk_at dksL_law_81 0 rfl rfl)
theorem dL_law_2032 : decode cL_law 2032 = .ok (.i2l, 1) := dk_133 (dk_at dksL_law_81 2 rfl rfl)
theorem dL_law_2033 : decode cL_law 2033 = .ok (.lcmp, 1) := dk_148 (dk_at dksL_law_81 3 rfl rfl)
theorem dL_law_2034 : decode cL_law 2034 = .ok (.ifCond .eq 5, 3) := dk_153 0 5 (dk_at dksL_law_81 4 rfl rfl)
theorem dL_law_2037 : decode cL_law 2037 = .ok (.iconst 0, 1) := dk_3 (dk_at dksL_law_81 7 rfl rfl)
theorem dL_law_2038 : decode cL_law 2038 = .ok (.ireturn, 1) := dk_172 (dk_at dksL_law_81 8 rfl rfl)
theorem dL_law_2039 : decode cL_law 2039 = .ok (.goto 206, 3) := dk_167 0 206 (dk_at dksL_law_81 9 rfl rfl)
theorem dL_law_2042 : decode cL_law 2042 = .ok (.aload_n 1, 1) := dk_43 (dk_at dksL_law_81 12 rfl rfl)
theorem dL_law_2043 : decode cL_law 2043 = .ok (.aload_n 0, 1) := dk_42 (dk_at dksL_law_81 13 rfl rfl)
theorem dL_law_2044 : decode cL_law 2044 = .ok (.iload 5, 2) := dk_21 5 (dk_at dksL_law_81 14 rfl rfl)
theorem dL_law_2046 : decode cL_law 2046 = .ok (.iconst 1, 1) := dk_4 (dk_at dksL_law_81 16 rfl rfl)
theorem dL_law_2047 : decode cL_law 2047 = .ok (.iadd, 1) := dk_96 (dk_at dksL_law_81 17 rfl rfl)
theorem dL_law_2048 : decode cL_law 2048 = .ok (.iaload, 1) := dk_46 (dk_at dksL_law_81 18 rfl rfl)
theorem dL_law_2049 : decode cL_law 2049 = .ok (.i2c, 1) := dk_146 (dk_at dksL_law_81 19 rfl rfl)
theorem dL_law_2050 : decode cL_law 2050 = .ok (.aload_n 3, 1) := dk_45 (dk_at dksL_law_81 20 rfl rfl)
theorem dL_law_2051 : decode cL_law 2051 = .ok (.invokestatic 244, 3) := dk_184 0 244 (dk_at dksL_law_81 21 rfl rfl)
theorem dL_law_2054 : decode cL_law 2054 = .ok (.istore 6, 2) := dk_54 6 (dk_at dksL_law_82 0 rfl rfl)
theorem dL_law_2056 : decode cL_law 2056 = .ok (.aload_n 2, 1) := dk_44 (dk_at dksL_law_82 2 rfl rfl)
theorem dL_law_2057 : decode cL_law 2057 = .ok (.aload_n 0, 1) := dk_42 (dk_at dksL_law_82 3 rfl rfl)
theorem dL_law_2058 : decode cL_law 2058 = .ok (.iload 5, 2) := dk_21 5 (dk_at dksL_law_82 4 rfl rfl)
theorem dL_law_2060 : decode cL_law 2060 = .ok (.iconst 1, 1) := dk_4 (dk_at dksL_law_82 6 rfl rfl)
theorem dL_law_2061 : decode cL_law 2061 = .ok (.iadd, 1) := dk_96 (dk_at dksL_law_82 7 rfl rfl)
theorem dL_law_2062 : decode cL_law 2062 = .ok (.iaload, 1) := dk_46 (dk_at dksL_law_82 8 rfl rfl)
theorem dL_law_2063 : decode cL_law 2063 = .ok (.i2c, 1) := dk_146 (dk_at dksL_law_82 9 rfl rfl)
theorem dL_law_2064 : decode cL_law 2064 = .ok (.invokevirtual 247, 3) := dk_182 0 247 (dk_at dksL_law_82 10 rfl rfl)
theorem dL_law_2067 : decode cL_law 2067 = .ok (.istore 7, 2) := dk_54 7 (dk_at dksL_law_82 13 rfl rfl)
theorem dL_law_2069 : decode cL_law 2069 = .ok (.aload_n 2, 1) := dk_44 (dk_at dksL_law_82 15 rfl rfl)
theorem dL_law_2070 : decode cL_law 2070 = .ok (.invokevirtual 139, 3) := dk_182 0 139 (dk_at dksL_law_82 16 rfl rfl)
theorem dL_law_2073 : decode cL_law 2073 = .ok (.iload 6, 2) := dk_21 6 (dk_at dksL_law_82 19 rfl rfl)
theorem dL_law_2075 : decode cL_law 2075 = .ok (.if_icmp .eq 5, 3) := dk_159 0 5 (dk_at dksL_law_82 21 rfl rfl)
theorem dL_law_2078 : decode cL_law 2078 = .ok (.iconst 0, 1) := dk_3 (dk_at dksL_law_83 0 rfl rfl)
theorem dL_law_2079 : decode cL_law 2079 = .ok (.ireturn, 1) := dk_172 (dk_at dksL_law_83 1 rfl rfl)
theorem dL_law_2080 : decode cL_law 2080 = .ok (.iload 6, 2) := dk_21 6 (dk_at dksL_law_83 2 rfl rfl)
theorem dL_law_2082 : decode cL_law 2082 = .ok (.ifCond .ne 15, 3) := dk_154 0 15 (dk_at dksL_law_83 4 rfl rfl)
theorem dL_law_2085 : decode cL_law 2085 = .ok (.aload_n 3, 1) := dk_45 (dk_at dksL_law_83 7 rfl rfl)
theorem dL_law_2086 : decode cL_law 2086 = .ok (.iconst 0, 1) := dk_3 (dk_at dksL_law_83 8 rfl rfl)
theorem dL_law_2087 : decode cL_law 2087 = .ok (.laload, 1) := dk_47 (dk_at dksL_law_83 9 rfl rfl)
theorem dL_law_2088 : decode cL_law 2088 = .ok (.iload 7, 2) := dk_21 7 (dk_at dksL_law_83 10 rfl rfl)
theorem dL_law_2090 : decode cL_law 2090 = .ok (.i2l, 1) := dk_133 (dk_at dksL_law_83 12 rfl rfl)
theorem dL_law_2091 : decode cL_law 2091 = .ok (.lcmp, 1) := dk_148 (dk_at dksL_law_83 13 rfl rfl)
theorem dL_law_2092 : decode cL_law 2092 = .ok (.ifCond .eq 5, 3) := dk_153 0 5 (dk_at dksL_law_83 14 rfl rfl)
theorem dL_law_2095 : decode cL_law 2095 = .ok (.iconst 0, 1) := dk_3 (dk_at dksL_law_83 17 rfl rfl)
theorem dL_law_2096 : decode cL_law 2096 = .ok (.ireturn, 1) := dk_172 (dk_at dksL_law_83 18 rfl rfl)
theorem dL_law_2097 : decode cL_law 2097 = .ok (.goto 148, 3) := dk_167 0 148 (dk_at dksL_law_83 19 rfl rfl)
theorem dL_law_2100 : decode cL_law 2100 = .ok (.aload_n 1, 1) := dk_43 (dk_at dksL_law_83 22 rfl rfl)
theorem dL_law_2101 : decode cL_law 2101 = .ok (.aload_n 3, 1) := dk_45 (dk_at dksL_law_83 23 rfl rfl)
theorem dL_law_2102 : decode cL_law 2102 = .ok (.invokestatic 248, 3) := dk_184 0 248 (dk_at dksL_law_84 0 rfl rfl)
theorem dL_law_2105 : decode cL_law 2105 = .ok (.istore 6, 2) := dk_54 6 (dk_at dksL_law_84 3 rfl rfl)
theorem dL_law_2107 : decode cL_law 2107 = .ok (.aload_n 2, 1) := dk_44 (dk_at dksL_law_84 5 rfl rfl)
theorem dL_law_2108 : decode cL_law 2108 = .ok (.invokevirtual 250, 3) := dk_182 0 250 (dk_at dksL_law_84 6 rfl rfl)
theorem dL_law_2111 : decode cL_law 2111 = .ok (.istore 7, 2) := dk_54 7 (dk_at dksL_law_84 9 rfl rfl)
theorem dL_law_2113 : decode cL_law 2113 = .ok (.aload_n 2, 1) := dk_44 (dk_at dksL_law_84 11 rfl rfl)
theorem dL_law_2114 : decode cL_law 2114 = .ok (.invokevirtual 139, 3) := dk_182 0 139 (dk_at dksL_law_84 12 rfl rfl)
theorem dL_law_2117 : decode cL_law 2117 = .ok (.iload 6, 2) := dk_21 6 (dk_at dksL_law_84 15 rfl rfl)
theorem dL_law_2119 : decode cL_law 2119 = .ok (.if_icmp .eq 5, 3) := dk_159 0 5 (dk_at dksL_law_84 17 rfl rfl)
theorem dL_law_2122 : decode cL_law 2122 = .ok (.iconst 0, 1) := dk_3 (dk_at dksL_law_84 20 rfl rfl)
theorem dL_law_2123 : decode cL_law 2123 = .ok (.ireturn, 1) := dk_172 (dk_at dksL_law_84 21 rfl rfl)
theorem dL_law_2124 : decode cL_law 2124 = .ok (.iload 6, 2) := dk_21 6 (dk_at dksL_law_84 22 rfl rfl)
theorem dL_law_2126 : decode cL_law 2126 = .ok (.ifCond .ne 15, 3) := dk_154 0 15 (dk_at dksL_law_85 0 rfl rfl)
theorem dL_law_2129 : decode cL_law 2129 = .ok (.aload_n 3, 1) := dk_45 (dk_at dksL_law_85 3 rfl rfl)
theorem dL_law_2130 : decode cL_law 2130 = .ok (.iconst 0, 1) := dk_3 (dk_at dksL_law_85 4 rfl rfl)
theorem dL_law_2131 : decode cL_law 2131 = .ok (.laload, 1) := dk_47 (dk_at dksL_law_85 5 rfl rfl)
theorem dL_law_2132 : decode cL_law 2132 = .ok (.iload 7, 2) := dk_21 7 (dk_at dksL_law_85 6 rfl rfl)
theorem dL_law_2134 : decode cL_law 2134 = .ok (.i2l, 1) := dk_133 (dk_at dksL_law_85 8 rfl rfl)
theorem dL_law_2135 : decode cL_law 2135 = .ok (.lcmp, 1) := dk_148 (dk_at dksL_law_85 9 rfl rfl)
theorem dL_law_2136 : decode cL_law 2136 = .ok (.ifCond .eq 5, 3) := dk_153 0 5 (dk_at dksL_law_85 10 rfl rfl)
theorem dL_law_2139 : decode cL_law 2139 = .ok (.iconst 0, 1) := dk_3 (dk_at dksL_law_85 13 rfl rfl)
theorem dL_law_2140 : decode cL_law 2140 = .ok (.ireturn, 1) := dk_172 (dk_at dksL_law_85 14 rfl rfl)
theorem dL_law_2141 : decode cL_law 2141 = .ok (.goto 104, 3) := dk_167 0 104 (dk_at dksL_law_85 15 rfl rfl)
theorem dL_law_2144 : decode cL_law 2144 = .ok (.aload_n 1, 1) := dk_43 (dk_at dksL_law_85 18 rfl rfl)
theorem dL_law_2145 : decode cL_law 2145 = .ok (.aload_n 3, 1) := dk_45 (dk_at dksL_law_85 19 rfl rfl)
theorem dL_law_2146 : decode cL_law 2146 = .ok (.invokestatic 251, 3) := dk_184 0 251 (dk_at dksL_law_85 20 rfl rfl)
theorem dL_law_2149 : decode cL_law 2149 = .ok (.istore 6, 2) := dk_54 6 (dk_at dksL_law_86 0 rfl rfl)
theorem dL_law_2151 : decode cL_law 2151 = .ok (.aload_n 2, 1) := dk_44 (dk_at dksL_law_86 2 rfl rfl)
theorem dL_law_2152 : decode cL_law 2152 = .ok (.invokevirtual 253, 3) := dk_182 0 253 (dk_at dksL_law_86 3 rfl rfl)
theorem dL_law_2155 : decode cL_law 2155 = .ok (.istore 7, 2) := dk_54 7 (dk_at dksL_law_86 6 rfl rfl)
theorem dL_law_2157 : decode cL_law 2157 = .ok (.aload_n 2, 1) := dk_44 (dk_at dksL_law_86 8 rfl rfl)
theorem dL_law_2158 : decode cL_law 2158 = .ok (.invokevirtual 139, 3) := dk_182 0 139 (dk_at dksL_law_86 9 rfl rfl)
theorem dL_law_2161 : decode cL_law 2161 = .ok (.iload 6, 2) := dk_21 6 (dk_at dksL_law_86 12 rfl rfl)
theorem dL_law_2163 : decode cL_law 2163 = .ok (.if_icmp .eq 5, 3) := dk_159 0 5 (dk_at dksL_law_86 14 rfl rfl)
theorem dL_law_2166 : decode cL_law 2166 = .ok (.iconst 0, 1) := dk_3 (dk_at dksL_law_86 17 rfl rfl)
theorem dL_law_2167 : decode cL_law 2167 = .ok (.ireturn, 1) := dk_172 (dk_at dksL_law_86 18 rfl rfl)
theorem dL_law_2168 : decode cL_law 2168 = .ok (.iload 6, 2) := dk_21 6 (dk_at dksL_law_86 19 rfl rfl)
theorem dL_law_2170 : decode cL_law 2170 = .ok (.ifCond .ne 15, 3) := dk_154 0 15 (dk_at dksL_law_86 21 rfl rfl)
theorem dL_law_2173 : decode cL_law 2173 = .ok (.aload_n 3, 1) := dk_45 (dk_at dksL_law_87 0 rfl rfl)
theorem dL_law_2174 : decode cL_law 2174 = .ok (.iconst 0, 1) := dk_3 (dk_at dksL_law_87 1 rfl rfl)
theorem dL_law_2175 : decode cL_law 2175 = .ok (.laload, 1) := dk_47 (dk_at dksL_law_87 2 rfl rfl)
theorem dL_law_2176 : decode cL_law 2176 = .ok (.iload 7, 2) := dk_21 7 (dk_at dksL_law_87 3 rfl rfl)
theorem dL_law_2178 : decode cL_law 2178 = .ok (.i2l, 1) := dk_133 (dk_at dksL_law_87 5 rfl rfl)
theorem dL_law_2179 : decode cL_law 2179 = .ok (.lcmp, 1) := dk_148 (dk_at dksL_law_87 6 rfl rfl)
theorem dL_law_2180 : decode cL_law 2180 = .ok (.ifCond .eq 5, 3) := dk_153 0 5 (dk_at dksL_law_87 7 rfl rfl)
theorem dL_law_2183 : decode cL_law 2183 = .ok (.iconst 0, 1) := dk_3 (dk_at dksL_law_87 10 rfl rfl)
theorem dL_law_2184 : decode cL_law 2184 = .ok (.ireturn, 1) := dk_172 (dk_at dksL_law_87 11 rfl rfl)
theorem dL_law_2185 : decode cL_law 2185 = .ok (.goto 60, 3) := dk_167 0 60 (dk_at dksL_law_87 12 rfl rfl)
theorem dL_law_2188 : decode cL_law 2188 = .ok (.aload_n 1, 1) := dk_43 (dk_at dksL_law_87 15 rfl rfl)
theorem dL_law_2189 : decode cL_law 2189 = .ok (.invokevirtual 254, 3) := dk_182 0 254 (dk_at dksL_law_87 16 rfl rfl)
theorem dL_law_2192 : decode cL_law 2192 = .ok (.aload_n 2, 1) := dk_44 (dk_at dksL_law_87 19 rfl rfl)
theorem dL_law_2193 : decode cL_law 2193 = .ok (.invokevirtual 257, 3) := dk_182 1 1 (dk_at dksL_law_87 20 rfl rfl)
theorem dL_law_2196 : decode cL_law 2196 = .ok (.if_icmp .eq 49, 3) := dk_159 0 49 (dk_at dksL_law_88 0 rfl rfl)
theorem dL_law_2199 : decode cL_law 2199 = .ok (.iconst 0, 1) := dk_3 (dk_at dksL_law_88 3 rfl rfl)
theorem dL_law_2200 : decode cL_law 2200 = .ok (.ireturn, 1) := dk_172 (dk_at dksL_law_88 4 rfl rfl)
theorem dL_law_2201 : decode cL_law 2201 = .ok (.aload_n 1, 1) := dk_43 (dk_at dksL_law_88 5 rfl rfl)
theorem dL_law_2202 : decode cL_law 2202 = .ok (.aload_n 3, 1) := dk_45 (dk_at dksL_law_88 6 rfl rfl)
theorem dL_law_2203 : decode cL_law 2203 = .ok (.invokestatic 258, 3) := dk_184 1 2 (dk_at dksL_law_88 7 rfl rfl)
theorem dL_law_2206 : decode cL_law 2206 = .ok (.istore 6, 2) := dk_54 6 (dk_at dksL_law_88 10 rfl rfl)
theorem dL_law_2208 : decode cL_law 2208 = .ok (.aload_n 2, 1) := dk_44 (dk_at dksL_law_88 12 rfl rfl)
theorem dL_law_2209 : decode cL_law 2209 = .ok (.invokevirtual 260, 3) := dk_182 1 4 (dk_at dksL_law_88 13 rfl rfl)
theorem dL_law_2212 : decode cL_law 2212 = .ok (.istore 7, 2) := dk_54 7 (dk_at dksL_law_88 16 rfl rfl)
theorem dL_law_2214 : decode cL_law 2214 = .ok (.aload_n 2, 1) := dk_44 (dk_at dksL_law_88 18 rfl rfl)
theorem dL_law_2215 : decode cL_law 2215 = .ok (.invokevirtual 139, 3) := dk_182 0 139 (dk_at dksL_law_88 19 rfl rfl)
theorem dL_law_2218 : decode cL_law 2218 = .ok (.iload 6, 2) := dk_21 6 (dk_at dksL_law_88 22 rfl rfl)
theorem dL_law_2220 : decode cL_law 2220 = .ok (.if_icmp .eq 5, 3) := dk_159 0 5 (dk_at dksL_law_89 0 rfl rfl)
theorem dL_law_2223 : decode cL_law 2223 = .ok (.iconst 0, 1) := dk_3 (dk_at dksL_law_89 3 rfl rfl)
theorem dL_law_2224 : decode cL_law 2224 = .ok (.ireturn, 1) := dk_172 (dk_at dksL_law_89 4 rfl rfl)
theorem dL_law_2225 : decode cL_law 2225 = .ok (.iload 6, 2) := dk_21 6 (dk_at dksL_law_89 5 rfl rfl)
theorem dL_law_2227 : decode cL_law 2227 = .ok (.ifCond .ne 15, 3) := dk_154 0 15 (dk_at dksL_law_89 7 rfl rfl)
theorem dL_law_2230 : decode cL_law 2230 = .ok (.aload_n 3, 1) := dk_45 (dk_at dksL_law_89 10 rfl rfl)
theorem dL_law_2231 : decode cL_law 2231 = .ok (.iconst 0, 1) := dk_3 (dk_at dksL_law_89 11 rfl rfl)
theorem dL_law_2232 : decode cL_law 2232 = .ok (.laload, 1) := dk_47 (dk_at dksL_law_89 12 rfl rfl)
theorem dL_law_2233 : decode cL_law 2233 = .ok (.iload 7, 2) := dk_21 7 (dk_at dksL_law_89 13 rfl rfl)
theorem dL_law_2235 : decode cL_law 2235 = .ok (.i2l, 1) := dk_133 (dk_at dksL_law_89 15 rfl rfl)
theorem dL_law_2236 : decode cL_law 2236 = .ok (.lcmp, 1) := dk_148 (dk_at dksL_law_89 16 rfl rfl)
theorem dL_law_2237 : decode cL_law 2237 = .ok (.ifCond .eq 5, 3) := dk_153 0 5 (dk_at dksL_law_89 17 rfl rfl)
theorem dL_law_2240 : decode cL_law 2240 = .ok (.iconst 0, 1) := dk_3 (dk_at dksL_law_89 20 rfl rfl)
theorem dL_law_2241 : decode cL_law 2241 = .ok (.ireturn, 1) := dk_172 (dk_at dksL_law_89 21 rfl rfl)
theorem dL_law_2242 : decode cL_law 2242 = .ok (.goto 3, 3) := dk_167 0 3 (dk_at dksL_law_90 0 rfl rfl)
theorem dL_law_2245 : decode cL_law 2245 = .ok (.iinc 5 4, 3) := dk_132 5 4 (dk_at dksL_law_90 3 rfl rfl)
theorem dL_law_2248 : decode cL_law 2248 = .ok (.goto (-2220), 3) := dk_167 247 84 (dk_at dksL_law_90 6 rfl rfl)
theorem dL_law_2251 : decode cL_law 2251 = .ok (.iconst 1, 1) := dk_4 (dk_at dksL_law_90 9 rfl rfl)
theorem dL_law_2252 : decode cL_law 2252 = .ok (.ireturn, 1) := dk_172 (dk_at dksL_law_90 10 rfl rfl)

theorem q124 : (Jvm.Cond.classLink "GargoyleTowerLaw" (8 : Nat) "GargoyleTower") ∈ lw_all := lw_g (lw_at lw_m1 50 rfl) rfl
theorem q125 : (Jvm.Cond.instantiable "GargoyleTower" (7 : Nat)) ∈ lw_all := lw_g (lw_at lw_m1 51 rfl) rfl
theorem q126 : (Jvm.Cond.methodLink "GargoyleTowerLaw" (129 : Nat) ({ cls := "GargoyleTower", name := "<init>", desc := "()V" } : Jvm.MethodName)) ∈ lw_all := lw_g (lw_at lw_m1 52 rfl) rfl
theorem q127 : (Jvm.Cond.instanceMethod ({ cls := "GargoyleTower", name := "<init>", desc := "()V" } : Jvm.MethodName)) ∈ lw_all := lw_g (lw_at lw_m1 53 rfl) rfl
theorem q296 : (Jvm.Cond.methodLink "GargoyleTowerLaw" (212 : Nat) ({ cls := "GargoyleTower", name := "coins", desc := "()I" } : Jvm.MethodName)) ∈ lw_all := lw_g (lw_at lw_m1 222 rfl) rfl
theorem q297 : (Jvm.Cond.instanceMethod ({ cls := "GargoyleTower", name := "coins", desc := "()I" } : Jvm.MethodName)) ∈ lw_all := lw_g (lw_at lw_m1 223 rfl) rfl
theorem q298 : (Jvm.Cond.selects "GargoyleTower" ({ cls := "GargoyleTower", name := "coins", desc := "()I" } : Jvm.MethodName) ({ cls := "GargoyleTower", name := "coins", desc := "()I" } : Jvm.MethodName)) ∈ lw_all := lw_g (lw_at lw_m1 224 rfl) rfl
theorem q300 : (Jvm.Cond.methodLink "GargoyleTowerLaw" (216 : Nat) ({ cls := "GargoyleTower", name := "coinsAgain", desc := "()I" } : Jvm.MethodName)) ∈ lw_all := lw_g (lw_at lw_m1 226 rfl) rfl
theorem q872 : (Jvm.Cond.methodLink "GargoyleTowerLaw" (226 : Nat) ({ cls := "GargoyleTower", name := "isBalanced", desc := "()Z" } : Jvm.MethodName)) ∈ lw_all := lw_g (lw_at lw_m4 78 rfl) rfl
theorem q873 : (Jvm.Cond.instanceMethod ({ cls := "GargoyleTower", name := "isBalanced", desc := "()Z" } : Jvm.MethodName)) ∈ lw_all := lw_g (lw_at lw_m4 79 rfl) rfl
theorem q874 : (Jvm.Cond.selects "GargoyleTower" ({ cls := "GargoyleTower", name := "isBalanced", desc := "()Z" } : Jvm.MethodName) ({ cls := "GargoyleTower", name := "isBalanced", desc := "()Z" } : Jvm.MethodName)) ∈ lw_all := lw_g (lw_at lw_m4 80 rfl) rfl
theorem q957 : (Jvm.Cond.methodLink "GargoyleTowerLaw" (254 : Nat) ({ cls := "GargoyleTower", name := "save", desc := "()I" } : Jvm.MethodName)) ∈ lw_all := lw_g (lw_at lw_m4 163 rfl) rfl
theorem q958 : (Jvm.Cond.instanceMethod ({ cls := "GargoyleTower", name := "save", desc := "()I" } : Jvm.MethodName)) ∈ lw_all := lw_g (lw_at lw_m4 164 rfl) rfl
theorem q959 : (Jvm.Cond.selects "GargoyleTower" ({ cls := "GargoyleTower", name := "save", desc := "()I" } : Jvm.MethodName) ({ cls := "GargoyleTower", name := "save", desc := "()I" } : Jvm.MethodName)) ∈ lw_all := lw_g (lw_at lw_m4 165 rfl) rfl
theorem q1097 : (Jvm.Cond.methodLink "GargoyleTowerLaw" (133 : Nat) ({ cls := "GargoyleTowerLaw", name := "block", desc := "(LGargoyleTower;IZ[J)I" } : Jvm.MethodName)) ∈ lw_all := lw_g (lw_at lw_m5 63 rfl) rfl
theorem q1098 : (Jvm.Cond.static ({ cls := "GargoyleTowerLaw", name := "block", desc := "(LGargoyleTower;IZ[J)I" } : Jvm.MethodName)) ∈ lw_all := lw_g (lw_at lw_m5 64 rfl) rfl
theorem q1479 : (Jvm.Cond.methodLink "GargoyleTowerLaw" (142 : Nat) ({ cls := "GargoyleTowerLaw", name := "carve", desc := "(LGargoyleTower;II[J)I" } : Jvm.MethodName)) ∈ lw_all := lw_g (lw_at lw_m6 205 rfl) rfl
theorem q1480 : (Jvm.Cond.static ({ cls := "GargoyleTowerLaw", name := "carve", desc := "(LGargoyleTower;II[J)I" } : Jvm.MethodName)) ∈ lw_all := lw_g (lw_at lw_m6 206 rfl) rfl
theorem q1503 : (Jvm.Cond.methodLink "GargoyleTowerLaw" (146 : Nat) ({ cls := "GargoyleTowerLaw", name := "whet", desc := "(LGargoyleTower;[J)I" } : Jvm.MethodName)) ∈ lw_all := lw_g (lw_at lw_m6 229 rfl) rfl
theorem q1504 : (Jvm.Cond.static ({ cls := "GargoyleTowerLaw", name := "whet", desc := "(LGargoyleTower;[J)I" } : Jvm.MethodName)) ∈ lw_all := lw_g (lw_at lw_m6 230 rfl) rfl
theorem q1511 : (Jvm.Cond.methodLink "GargoyleTowerLaw" (150 : Nat) ({ cls := "GargoyleTowerLaw", name := "blockOf", desc := "(LGargoyleTower;II[J)I" } : Jvm.MethodName)) ∈ lw_all := lw_g (lw_at lw_m6 237 rfl) rfl
theorem q1512 : (Jvm.Cond.static ({ cls := "GargoyleTowerLaw", name := "blockOf", desc := "(LGargoyleTower;II[J)I" } : Jvm.MethodName)) ∈ lw_all := lw_g (lw_at lw_m6 238 rfl) rfl
theorem q1520 : (Jvm.Cond.methodLink "GargoyleTowerLaw" (153 : Nat) ({ cls := "GargoyleTowerLaw", name := "ranked", desc := "(LGargoyleTower;I[J)I" } : Jvm.MethodName)) ∈ lw_all := lw_g (lw_at lw_m7 6 rfl) rfl
theorem q1521 : (Jvm.Cond.static ({ cls := "GargoyleTowerLaw", name := "ranked", desc := "(LGargoyleTower;I[J)I" } : Jvm.MethodName)) ∈ lw_all := lw_g (lw_at lw_m7 7 rfl) rfl
theorem q1599 : (Jvm.Cond.methodLink "GargoyleTowerLaw" (157 : Nat) ({ cls := "GargoyleTowerLaw", name := "rope", desc := "(LGargoyleTower;I[J)I" } : Jvm.MethodName)) ∈ lw_all := lw_g (lw_at lw_m7 85 rfl) rfl
theorem q1600 : (Jvm.Cond.static ({ cls := "GargoyleTowerLaw", name := "rope", desc := "(LGargoyleTower;I[J)I" } : Jvm.MethodName)) ∈ lw_all := lw_g (lw_at lw_m7 86 rfl) rfl
theorem q1607 : (Jvm.Cond.methodLink "GargoyleTowerLaw" (160 : Nat) ({ cls := "GargoyleTowerLaw", name := "ropeOf", desc := "(LGargoyleTower;II[J)I" } : Jvm.MethodName)) ∈ lw_all := lw_g (lw_at lw_m7 93 rfl) rfl
theorem q1608 : (Jvm.Cond.static ({ cls := "GargoyleTowerLaw", name := "ropeOf", desc := "(LGargoyleTower;II[J)I" } : Jvm.MethodName)) ∈ lw_all := lw_g (lw_at lw_m7 94 rfl) rfl
theorem q1615 : (Jvm.Cond.methodLink "GargoyleTowerLaw" (163 : Nat) ({ cls := "GargoyleTowerLaw", name := "hoist", desc := "(LGargoyleTower;II[J)I" } : Jvm.MethodName)) ∈ lw_all := lw_g (lw_at lw_m7 101 rfl) rfl
theorem q1616 : (Jvm.Cond.static ({ cls := "GargoyleTowerLaw", name := "hoist", desc := "(LGargoyleTower;II[J)I" } : Jvm.MethodName)) ∈ lw_all := lw_g (lw_at lw_m7 102 rfl) rfl
theorem q1623 : (Jvm.Cond.methodLink "GargoyleTowerLaw" (166 : Nat) ({ cls := "GargoyleTowerLaw", name := "lower", desc := "(LGargoyleTower;I[J)I" } : Jvm.MethodName)) ∈ lw_all := lw_g (lw_at lw_m7 109 rfl) rfl
theorem q1624 : (Jvm.Cond.static ({ cls := "GargoyleTowerLaw", name := "lower", desc := "(LGargoyleTower;I[J)I" } : Jvm.MethodName)) ∈ lw_all := lw_g (lw_at lw_m7 110 rfl) rfl
theorem q1631 : (Jvm.Cond.methodLink "GargoyleTowerLaw" (169 : Nat) ({ cls := "GargoyleTowerLaw", name := "set", desc := "(LGargoyleTower;II[J)I" } : Jvm.MethodName)) ∈ lw_all := lw_g (lw_at lw_m7 117 rfl) rfl
theorem q1632 : (Jvm.Cond.static ({ cls := "GargoyleTowerLaw", name := "set", desc := "(LGargoyleTower;II[J)I" } : Jvm.MethodName)) ∈ lw_all := lw_g (lw_at lw_m7 118 rfl) rfl
theorem q1639 : (Jvm.Cond.methodLink "GargoyleTowerLaw" (172 : Nat) ({ cls := "GargoyleTowerLaw", name := "blockIn", desc := "(LGargoyleTower;I[J)I" } : Jvm.MethodName)) ∈ lw_all := lw_g (lw_at lw_m7 125 rfl) rfl
theorem q1640 : (Jvm.Cond.static ({ cls := "GargoyleTowerLaw", name := "blockIn", desc := "(LGargoyleTower;I[J)I" } : Jvm.MethodName)) ∈ lw_all := lw_g (lw_at lw_m7 126 rfl) rfl
theorem q1647 : (Jvm.Cond.methodLink "GargoyleTowerLaw" (175 : Nat) ({ cls := "GargoyleTowerLaw", name := "weightOn", desc := "(LGargoyleTower;I[J)I" } : Jvm.MethodName)) ∈ lw_all := lw_g (lw_at lw_m7 133 rfl) rfl
theorem q1648 : (Jvm.Cond.static ({ cls := "GargoyleTowerLaw", name := "weightOn", desc := "(LGargoyleTower;I[J)I" } : Jvm.MethodName)) ∈ lw_all := lw_g (lw_at lw_m7 134 rfl) rfl
theorem q1654 : (Jvm.Cond.methodLink "GargoyleTowerLaw" (178 : Nat) ({ cls := "GargoyleTowerLaw", name := "wouldFall", desc := "(LGargoyleTower;I[J)I" } : Jvm.MethodName)) ∈ lw_all := lw_g (lw_at lw_m7 140 rfl) rfl
theorem q1655 : (Jvm.Cond.static ({ cls := "GargoyleTowerLaw", name := "wouldFall", desc := "(LGargoyleTower;I[J)I" } : Jvm.MethodName)) ∈ lw_all := lw_g (lw_at lw_m7 141 rfl) rfl
theorem q1662 : (Jvm.Cond.methodLink "GargoyleTowerLaw" (181 : Nat) ({ cls := "GargoyleTowerLaw", name := "wouldFallAgain", desc := "(LGargoyleTower;I[J)I" } : Jvm.MethodName)) ∈ lw_all := lw_g (lw_at lw_m7 148 rfl) rfl
theorem q1663 : (Jvm.Cond.static ({ cls := "GargoyleTowerLaw", name := "wouldFallAgain", desc := "(LGargoyleTower;I[J)I" } : Jvm.MethodName)) ∈ lw_all := lw_g (lw_at lw_m7 149 rfl) rfl
theorem q1675 : (Jvm.Cond.methodLink "GargoyleTowerLaw" (184 : Nat) ({ cls := "GargoyleTowerLaw", name := "push", desc := "(LGargoyleTower;I[J)I" } : Jvm.MethodName)) ∈ lw_all := lw_g (lw_at lw_m7 161 rfl) rfl
theorem q1676 : (Jvm.Cond.static ({ cls := "GargoyleTowerLaw", name := "push", desc := "(LGargoyleTower;I[J)I" } : Jvm.MethodName)) ∈ lw_all := lw_g (lw_at lw_m7 162 rfl) rfl
theorem q1683 : (Jvm.Cond.methodLink "GargoyleTowerLaw" (187 : Nat) ({ cls := "GargoyleTowerLaw", name := "commission", desc := "(LGargoyleTower;III[J)I" } : Jvm.MethodName)) ∈ lw_all := lw_g (lw_at lw_m7 169 rfl) rfl
theorem q1684 : (Jvm.Cond.static ({ cls := "GargoyleTowerLaw", name := "commission", desc := "(LGargoyleTower;III[J)I" } : Jvm.MethodName)) ∈ lw_all := lw_g (lw_at lw_m7 170 rfl) rfl
theorem q1692 : (Jvm.Cond.methodLink "GargoyleTowerLaw" (191 : Nat) ({ cls := "GargoyleTowerLaw", name := "deliver", desc := "(LGargoyleTower;II[J)I" } : Jvm.MethodName)) ∈ lw_all := lw_g (lw_at lw_m7 178 rfl) rfl
theorem q1693 : (Jvm.Cond.static ({ cls := "GargoyleTowerLaw", name := "deliver", desc := "(LGargoyleTower;II[J)I" } : Jvm.MethodName)) ∈ lw_all := lw_g (lw_at lw_m7 179 rfl) rfl
theorem q1700 : (Jvm.Cond.methodLink "GargoyleTowerLaw" (194 : Nat) ({ cls := "GargoyleTowerLaw", name := "commissionOf", desc := "(LGargoyleTower;II[J)I" } : Jvm.MethodName)) ∈ lw_all := lw_g (lw_at lw_m7 186 rfl) rfl
theorem q1701 : (Jvm.Cond.static ({ cls := "GargoyleTowerLaw", name := "commissionOf", desc := "(LGargoyleTower;II[J)I" } : Jvm.MethodName)) ∈ lw_all := lw_g (lw_at lw_m7 187 rfl) rfl
theorem q1712 : (Jvm.Cond.methodLink "GargoyleTowerLaw" (197 : Nat) ({ cls := "GargoyleTowerLaw", name := "paidFor", desc := "(LGargoyleTower;I[J)I" } : Jvm.MethodName)) ∈ lw_all := lw_g (lw_at lw_m7 198 rfl) rfl
theorem q1713 : (Jvm.Cond.static ({ cls := "GargoyleTowerLaw", name := "paidFor", desc := "(LGargoyleTower;I[J)I" } : Jvm.MethodName)) ∈ lw_all := lw_g (lw_at lw_m7 199 rfl) rfl
theorem q1719 : (Jvm.Cond.methodLink "GargoyleTowerLaw" (200 : Nat) ({ cls := "GargoyleTowerLaw", name := "seed", desc := "(LGargoyleTower;I[J)I" } : Jvm.MethodName)) ∈ lw_all := lw_g (lw_at lw_m7 205 rfl) rfl
theorem q1720 : (Jvm.Cond.static ({ cls := "GargoyleTowerLaw", name := "seed", desc := "(LGargoyleTower;I[J)I" } : Jvm.MethodName)) ∈ lw_all := lw_g (lw_at lw_m7 206 rfl) rfl
theorem q1727 : (Jvm.Cond.methodLink "GargoyleTowerLaw" (203 : Nat) ({ cls := "GargoyleTowerLaw", name := "weather", desc := "(LGargoyleTower;I[J)I" } : Jvm.MethodName)) ∈ lw_all := lw_g (lw_at lw_m7 213 rfl) rfl
theorem q1728 : (Jvm.Cond.static ({ cls := "GargoyleTowerLaw", name := "weather", desc := "(LGargoyleTower;I[J)I" } : Jvm.MethodName)) ∈ lw_all := lw_g (lw_at lw_m7 214 rfl) rfl
theorem q1739 : (Jvm.Cond.methodLink "GargoyleTowerLaw" (206 : Nat) ({ cls := "GargoyleTowerLaw", name := "pass", desc := "(LGargoyleTower;I[J)I" } : Jvm.MethodName)) ∈ lw_all := lw_g (lw_at lw_m7 225 rfl) rfl
theorem q1740 : (Jvm.Cond.static ({ cls := "GargoyleTowerLaw", name := "pass", desc := "(LGargoyleTower;I[J)I" } : Jvm.MethodName)) ∈ lw_all := lw_g (lw_at lw_m7 226 rfl) rfl
theorem q1747 : (Jvm.Cond.methodLink "GargoyleTowerLaw" (209 : Nat) ({ cls := "GargoyleTowerLaw", name := "brokenIn", desc := "(LGargoyleTower;I[J)I" } : Jvm.MethodName)) ∈ lw_all := lw_g (lw_at lw_m7 233 rfl) rfl
theorem q1748 : (Jvm.Cond.static ({ cls := "GargoyleTowerLaw", name := "brokenIn", desc := "(LGargoyleTower;I[J)I" } : Jvm.MethodName)) ∈ lw_all := lw_g (lw_at lw_m7 234 rfl) rfl
theorem q1755 : (Jvm.Cond.methodLink "GargoyleTowerLaw" (220 : Nat) ({ cls := "GargoyleTowerLaw", name := "line", desc := "(LGargoyleTower;I[J)I" } : Jvm.MethodName)) ∈ lw_all := lw_g (lw_at lw_m8 1 rfl) rfl
theorem q1756 : (Jvm.Cond.static ({ cls := "GargoyleTowerLaw", name := "line", desc := "(LGargoyleTower;I[J)I" } : Jvm.MethodName)) ∈ lw_all := lw_g (lw_at lw_m8 2 rfl) rfl
theorem q1956 : (Jvm.Cond.methodLink "GargoyleTowerLaw" (223 : Nat) ({ cls := "GargoyleTowerLaw", name := "character", desc := "(LGargoyleTower;I[J)I" } : Jvm.MethodName)) ∈ lw_all := lw_g (lw_at lw_m8 202 rfl) rfl
theorem q1957 : (Jvm.Cond.static ({ cls := "GargoyleTowerLaw", name := "character", desc := "(LGargoyleTower;I[J)I" } : Jvm.MethodName)) ∈ lw_all := lw_g (lw_at lw_m8 203 rfl) rfl
theorem q1964 : (Jvm.Cond.methodLink "GargoyleTowerLaw" (231 : Nat) ({ cls := "GargoyleTowerLaw", name := "meanDetail", desc := "(LGargoyleTower;[D)I" } : Jvm.MethodName)) ∈ lw_all := lw_g (lw_at lw_m8 210 rfl) rfl
theorem q1965 : (Jvm.Cond.static ({ cls := "GargoyleTowerLaw", name := "meanDetail", desc := "(LGargoyleTower;[D)I" } : Jvm.MethodName)) ∈ lw_all := lw_g (lw_at lw_m8 211 rfl) rfl
theorem q1994 : (Jvm.Cond.methodLink "GargoyleTowerLaw" (235 : Nat) ({ cls := "GargoyleTowerLaw", name := "brokenShare", desc := "(LGargoyleTower;[D)I" } : Jvm.MethodName)) ∈ lw_all := lw_g (lw_at lw_m9 0 rfl) rfl
theorem q1995 : (Jvm.Cond.static ({ cls := "GargoyleTowerLaw", name := "brokenShare", desc := "(LGargoyleTower;[D)I" } : Jvm.MethodName)) ∈ lw_all := lw_g (lw_at lw_m9 1 rfl) rfl
theorem q2006 : (Jvm.Cond.methodLink "GargoyleTowerLaw" (238 : Nat) ({ cls := "GargoyleTowerLaw", name := "reason", desc := "(LGargoyleTower;IZ[J)I" } : Jvm.MethodName)) ∈ lw_all := lw_g (lw_at lw_m9 12 rfl) rfl
theorem q2007 : (Jvm.Cond.static ({ cls := "GargoyleTowerLaw", name := "reason", desc := "(LGargoyleTower;IZ[J)I" } : Jvm.MethodName)) ∈ lw_all := lw_g (lw_at lw_m9 13 rfl) rfl
theorem q2027 : (Jvm.Cond.methodLink "GargoyleTowerLaw" (241 : Nat) ({ cls := "GargoyleTowerLaw", name := "account", desc := "(LGargoyleTower;I[J)I" } : Jvm.MethodName)) ∈ lw_all := lw_g (lw_at lw_m9 33 rfl) rfl
theorem q2028 : (Jvm.Cond.static ({ cls := "GargoyleTowerLaw", name := "account", desc := "(LGargoyleTower;I[J)I" } : Jvm.MethodName)) ∈ lw_all := lw_g (lw_at lw_m9 34 rfl) rfl
theorem q2042 : (Jvm.Cond.methodLink "GargoyleTowerLaw" (244 : Nat) ({ cls := "GargoyleTowerLaw", name := "feed", desc := "(LGargoyleTower;C[J)I" } : Jvm.MethodName)) ∈ lw_all := lw_g (lw_at lw_m9 48 rfl) rfl
theorem q2043 : (Jvm.Cond.static ({ cls := "GargoyleTowerLaw", name := "feed", desc := "(LGargoyleTower;C[J)I" } : Jvm.MethodName)) ∈ lw_all := lw_g (lw_at lw_m9 49 rfl) rfl
theorem q2058 : (Jvm.Cond.methodLink "GargoyleTowerLaw" (248 : Nat) ({ cls := "GargoyleTowerLaw", name := "perform", desc := "(LGargoyleTower;[J)I" } : Jvm.MethodName)) ∈ lw_all := lw_g (lw_at lw_m9 64 rfl) rfl
theorem q2059 : (Jvm.Cond.static ({ cls := "GargoyleTowerLaw", name := "perform", desc := "(LGargoyleTower;[J)I" } : Jvm.MethodName)) ∈ lw_all := lw_g (lw_at lw_m9 65 rfl) rfl
theorem q2261 : (Jvm.Cond.methodLink "GargoyleTowerLaw" (251 : Nat) ({ cls := "GargoyleTowerLaw", name := "undo", desc := "(LGargoyleTower;[J)I" } : Jvm.MethodName)) ∈ lw_all := lw_g (lw_at lw_m10 27 rfl) rfl
theorem q2262 : (Jvm.Cond.static ({ cls := "GargoyleTowerLaw", name := "undo", desc := "(LGargoyleTower;[J)I" } : Jvm.MethodName)) ∈ lw_all := lw_g (lw_at lw_m10 28 rfl) rfl
theorem q2283 : (Jvm.Cond.methodLink "GargoyleTowerLaw" (258 : Nat) ({ cls := "GargoyleTowerLaw", name := "restore", desc := "(LGargoyleTower;[J)I" } : Jvm.MethodName)) ∈ lw_all := lw_g (lw_at lw_m10 49 rfl) rfl
theorem q2284 : (Jvm.Cond.static ({ cls := "GargoyleTowerLaw", name := "restore", desc := "(LGargoyleTower;[J)I" } : Jvm.MethodName)) ∈ lw_all := lw_g (lw_at lw_m10 50 rfl) rfl
theorem q2297 : (Jvm.Cond.classLink "GargoyleTowerLaw" (130 : Nat) "GargoyleTowerModel") ∈ lw_all := lw_g (lw_at lw_m10 63 rfl) rfl
theorem q2298 : (Jvm.Cond.instantiable "GargoyleTowerModel" (24 : Nat)) ∈ lw_all := lw_g (lw_at lw_m10 64 rfl) rfl
theorem q2299 : (Jvm.Cond.methodLink "GargoyleTowerLaw" (132 : Nat) ({ cls := "GargoyleTowerModel", name := "<init>", desc := "()V" } : Jvm.MethodName)) ∈ lw_all := lw_g (lw_at lw_m10 65 rfl) rfl
theorem q2300 : (Jvm.Cond.instanceMethod ({ cls := "GargoyleTowerModel", name := "<init>", desc := "()V" } : Jvm.MethodName)) ∈ lw_all := lw_g (lw_at lw_m10 66 rfl) rfl
theorem q2377 : (Jvm.Cond.methodLink "GargoyleTowerLaw" (139 : Nat) ({ cls := "GargoyleTowerModel", name := "thrown", desc := "()I" } : Jvm.MethodName)) ∈ lw_all := lw_g (lw_at lw_m10 143 rfl) rfl
theorem q2378 : (Jvm.Cond.instanceMethod ({ cls := "GargoyleTowerModel", name := "thrown", desc := "()I" } : Jvm.MethodName)) ∈ lw_all := lw_g (lw_at lw_m10 144 rfl) rfl
theorem q2379 : (Jvm.Cond.selects "GargoyleTowerModel" ({ cls := "GargoyleTowerModel", name := "thrown", desc := "()I" } : Jvm.MethodName) ({ cls := "GargoyleTowerModel", name := "thrown", desc := "()I" } : Jvm.MethodName)) ∈ lw_all := lw_g (lw_at lw_m10 145 rfl) rfl
theorem q2381 : (Jvm.Cond.methodLink "GargoyleTowerLaw" (138 : Nat) ({ cls := "GargoyleTowerModel", name := "block", desc := "(IZ)I" } : Jvm.MethodName)) ∈ lw_all := lw_g (lw_at lw_m10 147 rfl) rfl
theorem q2382 : (Jvm.Cond.instanceMethod ({ cls := "GargoyleTowerModel", name := "block", desc := "(IZ)I" } : Jvm.MethodName)) ∈ lw_all := lw_g (lw_at lw_m10 148 rfl) rfl
theorem q2383 : (Jvm.Cond.selects "GargoyleTowerModel" ({ cls := "GargoyleTowerModel", name := "block", desc := "(IZ)I" } : Jvm.MethodName) ({ cls := "GargoyleTowerModel", name := "block", desc := "(IZ)I" } : Jvm.MethodName)) ∈ lw_all := lw_g (lw_at lw_m10 149 rfl) rfl
theorem q2414 : (Jvm.Cond.methodLink "GargoyleTowerLaw" (145 : Nat) ({ cls := "GargoyleTowerModel", name := "carve", desc := "(II)I" } : Jvm.MethodName)) ∈ lw_all := lw_g (lw_at lw_m10 180 rfl) rfl
theorem q2415 : (Jvm.Cond.instanceMethod ({ cls := "GargoyleTowerModel", name := "carve", desc := "(II)I" } : Jvm.MethodName)) ∈ lw_all := lw_g (lw_at lw_m10 181 rfl) rfl
theorem q2416 : (Jvm.Cond.selects "GargoyleTowerModel" ({ cls := "GargoyleTowerModel", name := "carve", desc := "(II)I" } : Jvm.MethodName) ({ cls := "GargoyleTowerModel", name := "carve", desc := "(II)I" } : Jvm.MethodName)) ∈ lw_all := lw_g (lw_at lw_m10 182 rfl) rfl
theorem q2430 : (Jvm.Cond.methodLink "GargoyleTowerLaw" (149 : Nat) ({ cls := "GargoyleTowerModel", name := "whet", desc := "()I" } : Jvm.MethodName)) ∈ lw_all := lw_g (lw_at lw_m10 196 rfl) rfl
theorem q2431 : (Jvm.Cond.instanceMethod ({ cls := "GargoyleTowerModel", name := "whet", desc := "()I" } : Jvm.MethodName)) ∈ lw_all := lw_g (lw_at lw_m10 197 rfl) rfl
theorem q2432 : (Jvm.Cond.selects "GargoyleTowerModel" ({ cls := "GargoyleTowerModel", name := "whet", desc := "()I" } : Jvm.MethodName) ({ cls := "GargoyleTowerModel", name := "whet", desc := "()I" } : Jvm.MethodName)) ∈ lw_all := lw_g (lw_at lw_m10 198 rfl) rfl
theorem q2438 : (Jvm.Cond.methodLink "GargoyleTowerLaw" (152 : Nat) ({ cls := "GargoyleTowerModel", name := "blockOf", desc := "(II)I" } : Jvm.MethodName)) ∈ lw_all := lw_g (lw_at lw_m10 204 rfl) rfl
theorem q2439 : (Jvm.Cond.instanceMethod ({ cls := "GargoyleTowerModel", name := "blockOf", desc := "(II)I" } : Jvm.MethodName)) ∈ lw_all := lw_g (lw_at lw_m10 205 rfl) rfl
theorem q2440 : (Jvm.Cond.selects "GargoyleTowerModel" ({ cls := "GargoyleTowerModel", name := "blockOf", desc := "(II)I" } : Jvm.MethodName) ({ cls := "GargoyleTowerModel", name := "blockOf", desc := "(II)I" } : Jvm.MethodName)) ∈ lw_all := lw_g (lw_at lw_m10 206 rfl) rfl
theorem q2442 : (Jvm.Cond.methodLink "GargoyleTowerLaw" (156 : Nat) ({ cls := "GargoyleTowerModel", name := "ranked", desc := "(I)I" } : Jvm.MethodName)) ∈ lw_all := lw_g (lw_at lw_m10 208 rfl) rfl
theorem q2443 : (Jvm.Cond.instanceMethod ({ cls := "GargoyleTowerModel", name := "ranked", desc := "(I)I" } : Jvm.MethodName)) ∈ lw_all := lw_g (lw_at lw_m10 209 rfl) rfl
theorem q2444 : (Jvm.Cond.selects "GargoyleTowerModel" ({ cls := "GargoyleTowerModel", name := "ranked", desc := "(I)I" } : Jvm.MethodName) ({ cls := "GargoyleTowerModel", name := "ranked", desc := "(I)I" } : Jvm.MethodName)) ∈ lw_all := lw_g (lw_at lw_m10 210 rfl) rfl
theorem q2450 : (Jvm.Cond.methodLink "GargoyleTowerLaw" (159 : Nat) ({ cls := "GargoyleTowerModel", name := "rope", desc := "(I)I" } : Jvm.MethodName)) ∈ lw_all := lw_g (lw_at lw_m10 216 rfl) rfl
theorem q2451 : (Jvm.Cond.instanceMethod ({ cls := "GargoyleTowerModel", name := "rope", desc := "(I)I" } : Jvm.MethodName)) ∈ lw_all := lw_g (lw_at lw_m10 217 rfl) rfl
theorem q2452 : (Jvm.Cond.selects "GargoyleTowerModel" ({ cls := "GargoyleTowerModel", name := "rope", desc := "(I)I" } : Jvm.MethodName) ({ cls := "GargoyleTowerModel", name := "rope", desc := "(I)I" } : Jvm.MethodName)) ∈ lw_all := lw_g (lw_at lw_m10 218 rfl) rfl
theorem q2457 : (Jvm.Cond.methodLink "GargoyleTowerLaw" (162 : Nat) ({ cls := "GargoyleTowerModel", name := "ropeOf", desc := "(II)I" } : Jvm.MethodName)) ∈ lw_all := lw_g (lw_at lw_m10 223 rfl) rfl
theorem q2458 : (Jvm.Cond.instanceMethod ({ cls := "GargoyleTowerModel", name := "ropeOf", desc := "(II)I" } : Jvm.MethodName)) ∈ lw_all := lw_g (lw_at lw_m10 224 rfl) rfl
theorem q2459 : (Jvm.Cond.selects "GargoyleTowerModel" ({ cls := "GargoyleTowerModel", name := "ropeOf", desc := "(II)I" } : Jvm.MethodName) ({ cls := "GargoyleTowerModel", name := "ropeOf", desc := "(II)I" } : Jvm.MethodName)) ∈ lw_all := lw_g (lw_at lw_m10 225 rfl) rfl
theorem q2469 : (Jvm.Cond.methodLink "GargoyleTowerLaw" (165 : Nat) ({ cls := "GargoyleTowerModel", name := "hoist", desc := "(II)I" } : Jvm.MethodName)) ∈ lw_all := lw_g (lw_at lw_m10 235 rfl) rfl
theorem q2470 : (Jvm.Cond.instanceMethod ({ cls := "GargoyleTowerModel", name := "hoist", desc := "(II)I" } : Jvm.MethodName)) ∈ lw_all := lw_g (lw_at lw_m10 236 rfl) rfl
theorem q2471 : (Jvm.Cond.selects "GargoyleTowerModel" ({ cls := "GargoyleTowerModel", name := "hoist", desc := "(II)I" } : Jvm.MethodName) ({ cls := "GargoyleTowerModel", name := "hoist", desc := "(II)I" } : Jvm.MethodName)) ∈ lw_all := lw_g (lw_at lw_m10 237 rfl) rfl
theorem q2477 : (Jvm.Cond.methodLink "GargoyleTowerLaw" (168 : Nat) ({ cls := "GargoyleTowerModel", name := "lower", desc := "(I)I" } : Jvm.MethodName)) ∈ lw_all := lw_g (lw_at lw_m11 3 rfl) rfl
theorem q2478 : (Jvm.Cond.instanceMethod ({ cls := "GargoyleTowerModel", name := "lower", desc := "(I)I" } : Jvm.MethodName)) ∈ lw_all := lw_g (lw_at lw_m11 4 rfl) rfl
theorem q2479 : (Jvm.Cond.selects "GargoyleTowerModel" ({ cls := "GargoyleTowerModel", name := "lower", desc := "(I)I" } : Jvm.MethodName) ({ cls := "GargoyleTowerModel", name := "lower", desc := "(I)I" } : Jvm.MethodName)) ∈ lw_all := lw_g (lw_at lw_m11 5 rfl) rfl
theorem q2485 : (Jvm.Cond.methodLink "GargoyleTowerLaw" (171 : Nat) ({ cls := "GargoyleTowerModel", name := "set", desc := "(II)I" } : Jvm.MethodName)) ∈ lw_all := lw_g (lw_at lw_m11 11 rfl) rfl
theorem q2486 : (Jvm.Cond.instanceMethod ({ cls := "GargoyleTowerModel", name := "set", desc := "(II)I" } : Jvm.MethodName)) ∈ lw_all := lw_g (lw_at lw_m11 12 rfl) rfl
theorem q2487 : (Jvm.Cond.selects "GargoyleTowerModel" ({ cls := "GargoyleTowerModel", name := "set", desc := "(II)I" } : Jvm.MethodName) ({ cls := "GargoyleTowerModel", name := "set", desc := "(II)I" } : Jvm.MethodName)) ∈ lw_all := lw_g (lw_at lw_m11 13 rfl) rfl
theorem q2504 : (Jvm.Cond.methodLink "GargoyleTowerLaw" (174 : Nat) ({ cls := "GargoyleTowerModel", name := "blockIn", desc := "(I)I" } : Jvm.MethodName)) ∈ lw_all := lw_g (lw_at lw_m11 30 rfl) rfl
theorem q2505 : (Jvm.Cond.instanceMethod ({ cls := "GargoyleTowerModel", name := "blockIn", desc := "(I)I" } : Jvm.MethodName)) ∈ lw_all := lw_g (lw_at lw_m11 31 rfl) rfl
theorem q2506 : (Jvm.Cond.selects "GargoyleTowerModel" ({ cls := "GargoyleTowerModel", name := "blockIn", desc := "(I)I" } : Jvm.MethodName) ({ cls := "GargoyleTowerModel", name := "blockIn", desc := "(I)I" } : Jvm.MethodName)) ∈ lw_all := lw_g (lw_at lw_m11 32 rfl) rfl
theorem q2508 : (Jvm.Cond.methodLink "GargoyleTowerLaw" (177 : Nat) ({ cls := "GargoyleTowerModel", name := "weightOn", desc := "(I)I" } : Jvm.MethodName)) ∈ lw_all := lw_g (lw_at lw_m11 34 rfl) rfl
theorem q2509 : (Jvm.Cond.instanceMethod ({ cls := "GargoyleTowerModel", name := "weightOn", desc := "(I)I" } : Jvm.MethodName)) ∈ lw_all := lw_g (lw_at lw_m11 35 rfl) rfl
theorem q2510 : (Jvm.Cond.selects "GargoyleTowerModel" ({ cls := "GargoyleTowerModel", name := "weightOn", desc := "(I)I" } : Jvm.MethodName) ({ cls := "GargoyleTowerModel", name := "weightOn", desc := "(I)I" } : Jvm.MethodName)) ∈ lw_all := lw_g (lw_at lw_m11 36 rfl) rfl
theorem q2515 : (Jvm.Cond.methodLink "GargoyleTowerLaw" (180 : Nat) ({ cls := "GargoyleTowerModel", name := "wouldFall", desc := "(I)I" } : Jvm.MethodName)) ∈ lw_all := lw_g (lw_at lw_m11 41 rfl) rfl
theorem q2523 : (Jvm.Cond.methodLink "GargoyleTowerLaw" (183 : Nat) ({ cls := "GargoyleTowerModel", name := "wouldFallAgain", desc := "(I)I" } : Jvm.MethodName)) ∈ lw_all := lw_g (lw_at lw_m11 49 rfl) rfl
theorem q2524 : (Jvm.Cond.instanceMethod ({ cls := "GargoyleTowerModel", name := "wouldFallAgain", desc := "(I)I" } : Jvm.MethodName)) ∈ lw_all := lw_g (lw_at lw_m11 50 rfl) rfl
theorem q2525 : (Jvm.Cond.selects "GargoyleTowerModel" ({ cls := "GargoyleTowerModel", name := "wouldFallAgain", desc := "(I)I" } : Jvm.MethodName) ({ cls := "GargoyleTowerModel", name := "wouldFallAgain", desc := "(I)I" } : Jvm.MethodName)) ∈ lw_all := lw_g (lw_at lw_m11 51 rfl) rfl
theorem q2528 : (Jvm.Cond.methodLink "GargoyleTowerLaw" (186 : Nat) ({ cls := "GargoyleTowerModel", name := "push", desc := "(I)I" } : Jvm.MethodName)) ∈ lw_all := lw_g (lw_at lw_m11 54 rfl) rfl
theorem q2529 : (Jvm.Cond.instanceMethod ({ cls := "GargoyleTowerModel", name := "push", desc := "(I)I" } : Jvm.MethodName)) ∈ lw_all := lw_g (lw_at lw_m11 55 rfl) rfl
theorem q2530 : (Jvm.Cond.selects "GargoyleTowerModel" ({ cls := "GargoyleTowerModel", name := "push", desc := "(I)I" } : Jvm.MethodName) ({ cls := "GargoyleTowerModel", name := "push", desc := "(I)I" } : Jvm.MethodName)) ∈ lw_all := lw_g (lw_at lw_m11 56 rfl) rfl
theorem q2539 : (Jvm.Cond.methodLink "GargoyleTowerLaw" (190 : Nat) ({ cls := "GargoyleTowerModel", name := "commission", desc := "(III)I" } : Jvm.MethodName)) ∈ lw_all := lw_g (lw_at lw_m11 65 rfl) rfl
theorem q2540 : (Jvm.Cond.instanceMethod ({ cls := "GargoyleTowerModel", name := "commission", desc := "(III)I" } : Jvm.MethodName)) ∈ lw_all := lw_g (lw_at lw_m11 66 rfl) rfl
theorem q2541 : (Jvm.Cond.selects "GargoyleTowerModel" ({ cls := "GargoyleTowerModel", name := "commission", desc := "(III)I" } : Jvm.MethodName) ({ cls := "GargoyleTowerModel", name := "commission", desc := "(III)I" } : Jvm.MethodName)) ∈ lw_all := lw_g (lw_at lw_m11 67 rfl) rfl
theorem q2546 : (Jvm.Cond.methodLink "GargoyleTowerLaw" (193 : Nat) ({ cls := "GargoyleTowerModel", name := "deliver", desc := "(II)I" } : Jvm.MethodName)) ∈ lw_all := lw_g (lw_at lw_m11 72 rfl) rfl
theorem q2547 : (Jvm.Cond.instanceMethod ({ cls := "GargoyleTowerModel", name := "deliver", desc := "(II)I" } : Jvm.MethodName)) ∈ lw_all := lw_g (lw_at lw_m11 73 rfl) rfl
theorem q2548 : (Jvm.Cond.selects "GargoyleTowerModel" ({ cls := "GargoyleTowerModel", name := "deliver", desc := "(II)I" } : Jvm.MethodName) ({ cls := "GargoyleTowerModel", name := "deliver", desc := "(II)I" } : Jvm.MethodName)) ∈ lw_all := lw_g (lw_at lw_m11 74 rfl) rfl
theorem q2562 : (Jvm.Cond.methodLink "GargoyleTowerLaw" (196 : Nat) ({ cls := "GargoyleTowerModel", name := "commissionOf", desc := "(II)I" } : Jvm.MethodName)) ∈ lw_all := lw_g (lw_at lw_m11 88 rfl) rfl
theorem q2563 : (Jvm.Cond.instanceMethod ({ cls := "GargoyleTowerModel", name := "commissionOf", desc := "(II)I" } : Jvm.MethodName)) ∈ lw_all := lw_g (lw_at lw_m11 89 rfl) rfl
theorem q2564 : (Jvm.Cond.selects "GargoyleTowerModel" ({ cls := "GargoyleTowerModel", name := "commissionOf", desc := "(II)I" } : Jvm.MethodName) ({ cls := "GargoyleTowerModel", name := "commissionOf", desc := "(II)I" } : Jvm.MethodName)) ∈ lw_all := lw_g (lw_at lw_m11 90 rfl) rfl
theorem q2570 : (Jvm.Cond.methodLink "GargoyleTowerLaw" (199 : Nat) ({ cls := "GargoyleTowerModel", name := "paidFor", desc := "(I)I" } : Jvm.MethodName)) ∈ lw_all := lw_g (lw_at lw_m11 96 rfl) rfl
theorem q2571 : (Jvm.Cond.instanceMethod ({ cls := "GargoyleTowerModel", name := "paidFor", desc := "(I)I" } : Jvm.MethodName)) ∈ lw_all := lw_g (lw_at lw_m11 97 rfl) rfl
theorem q2572 : (Jvm.Cond.selects "GargoyleTowerModel" ({ cls := "GargoyleTowerModel", name := "paidFor", desc := "(I)I" } : Jvm.MethodName) ({ cls := "GargoyleTowerModel", name := "paidFor", desc := "(I)I" } : Jvm.MethodName)) ∈ lw_all := lw_g (lw_at lw_m11 98 rfl) rfl
theorem q2574 : (Jvm.Cond.methodLink "GargoyleTowerLaw" (202 : Nat) ({ cls := "GargoyleTowerModel", name := "seed", desc := "(I)I" } : Jvm.MethodName)) ∈ lw_all := lw_g (lw_at lw_m11 100 rfl) rfl
theorem q2575 : (Jvm.Cond.instanceMethod ({ cls := "GargoyleTowerModel", name := "seed", desc := "(I)I" } : Jvm.MethodName)) ∈ lw_all := lw_g (lw_at lw_m11 101 rfl) rfl
theorem q2576 : (Jvm.Cond.selects "GargoyleTowerModel" ({ cls := "GargoyleTowerModel", name := "seed", desc := "(I)I" } : Jvm.MethodName) ({ cls := "GargoyleTowerModel", name := "seed", desc := "(I)I" } : Jvm.MethodName)) ∈ lw_all := lw_g (lw_at lw_m11 102 rfl) rfl
theorem q2578 : (Jvm.Cond.methodLink "GargoyleTowerLaw" (205 : Nat) ({ cls := "GargoyleTowerModel", name := "weather", desc := "(I)I" } : Jvm.MethodName)) ∈ lw_all := lw_g (lw_at lw_m11 104 rfl) rfl
theorem q2579 : (Jvm.Cond.instanceMethod ({ cls := "GargoyleTowerModel", name := "weather", desc := "(I)I" } : Jvm.MethodName)) ∈ lw_all := lw_g (lw_at lw_m11 105 rfl) rfl
theorem q2580 : (Jvm.Cond.selects "GargoyleTowerModel" ({ cls := "GargoyleTowerModel", name := "weather", desc := "(I)I" } : Jvm.MethodName) ({ cls := "GargoyleTowerModel", name := "weather", desc := "(I)I" } : Jvm.MethodName)) ∈ lw_all := lw_g (lw_at lw_m11 106 rfl) rfl
theorem q2588 : (Jvm.Cond.methodLink "GargoyleTowerLaw" (208 : Nat) ({ cls := "GargoyleTowerModel", name := "pass", desc := "(I)I" } : Jvm.MethodName)) ∈ lw_all := lw_g (lw_at lw_m11 114 rfl) rfl
theorem q2589 : (Jvm.Cond.instanceMethod ({ cls := "GargoyleTowerModel", name := "pass", desc := "(I)I" } : Jvm.MethodName)) ∈ lw_all := lw_g (lw_at lw_m11 115 rfl) rfl
theorem q2590 : (Jvm.Cond.selects "GargoyleTowerModel" ({ cls := "GargoyleTowerModel", name := "pass", desc := "(I)I" } : Jvm.MethodName) ({ cls := "GargoyleTowerModel", name := "pass", desc := "(I)I" } : Jvm.MethodName)) ∈ lw_all := lw_g (lw_at lw_m11 116 rfl) rfl
theorem q2600 : (Jvm.Cond.methodLink "GargoyleTowerLaw" (211 : Nat) ({ cls := "GargoyleTowerModel", name := "brokenIn", desc := "(I)I" } : Jvm.MethodName)) ∈ lw_all := lw_g (lw_at lw_m11 126 rfl) rfl
theorem q2601 : (Jvm.Cond.instanceMethod ({ cls := "GargoyleTowerModel", name := "brokenIn", desc := "(I)I" } : Jvm.MethodName)) ∈ lw_all := lw_g (lw_at lw_m11 127 rfl) rfl
theorem q2602 : (Jvm.Cond.selects "GargoyleTowerModel" ({ cls := "GargoyleTowerModel", name := "brokenIn", desc := "(I)I" } : Jvm.MethodName) ({ cls := "GargoyleTowerModel", name := "brokenIn", desc := "(I)I" } : Jvm.MethodName)) ∈ lw_all := lw_g (lw_at lw_m11 128 rfl) rfl
theorem q2604 : (Jvm.Cond.methodLink "GargoyleTowerLaw" (215 : Nat) ({ cls := "GargoyleTowerModel", name := "coins", desc := "()I" } : Jvm.MethodName)) ∈ lw_all := lw_g (lw_at lw_m11 130 rfl) rfl
theorem q2608 : (Jvm.Cond.methodLink "GargoyleTowerLaw" (219 : Nat) ({ cls := "GargoyleTowerModel", name := "coinsAgain", desc := "()I" } : Jvm.MethodName)) ∈ lw_all := lw_g (lw_at lw_m11 134 rfl) rfl
theorem q2609 : (Jvm.Cond.instanceMethod ({ cls := "GargoyleTowerModel", name := "coinsAgain", desc := "()I" } : Jvm.MethodName)) ∈ lw_all := lw_g (lw_at lw_m11 135 rfl) rfl
theorem q2610 : (Jvm.Cond.selects "GargoyleTowerModel" ({ cls := "GargoyleTowerModel", name := "coinsAgain", desc := "()I" } : Jvm.MethodName) ({ cls := "GargoyleTowerModel", name := "coinsAgain", desc := "()I" } : Jvm.MethodName)) ∈ lw_all := lw_g (lw_at lw_m11 136 rfl) rfl
theorem q2613 : (Jvm.Cond.methodLink "GargoyleTowerLaw" (222 : Nat) ({ cls := "GargoyleTowerModel", name := "line", desc := "(I)I" } : Jvm.MethodName)) ∈ lw_all := lw_g (lw_at lw_m11 139 rfl) rfl
theorem q2614 : (Jvm.Cond.instanceMethod ({ cls := "GargoyleTowerModel", name := "line", desc := "(I)I" } : Jvm.MethodName)) ∈ lw_all := lw_g (lw_at lw_m11 140 rfl) rfl
theorem q2615 : (Jvm.Cond.selects "GargoyleTowerModel" ({ cls := "GargoyleTowerModel", name := "line", desc := "(I)I" } : Jvm.MethodName) ({ cls := "GargoyleTowerModel", name := "line", desc := "(I)I" } : Jvm.MethodName)) ∈ lw_all := lw_g (lw_at lw_m11 141 rfl) rfl
theorem q2625 : (Jvm.Cond.methodLink "GargoyleTowerLaw" (225 : Nat) ({ cls := "GargoyleTowerModel", name := "character", desc := "(I)C" } : Jvm.MethodName)) ∈ lw_all := lw_g (lw_at lw_m11 151 rfl) rfl
theorem q2626 : (Jvm.Cond.instanceMethod ({ cls := "GargoyleTowerModel", name := "character", desc := "(I)C" } : Jvm.MethodName)) ∈ lw_all := lw_g (lw_at lw_m11 152 rfl) rfl
theorem q2627 : (Jvm.Cond.selects "GargoyleTowerModel" ({ cls := "GargoyleTowerModel", name := "character", desc := "(I)C" } : Jvm.MethodName) ({ cls := "GargoyleTowerModel", name := "character", desc := "(I)C" } : Jvm.MethodName)) ∈ lw_all := lw_g (lw_at lw_m11 153 rfl) rfl
theorem q2629 : (Jvm.Cond.methodLink "GargoyleTowerLaw" (230 : Nat) ({ cls := "GargoyleTowerModel", name := "isBalanced", desc := "()Z" } : Jvm.MethodName)) ∈ lw_all := lw_g (lw_at lw_m11 155 rfl) rfl
theorem q2630 : (Jvm.Cond.instanceMethod ({ cls := "GargoyleTowerModel", name := "isBalanced", desc := "()Z" } : Jvm.MethodName)) ∈ lw_all := lw_g (lw_at lw_m11 156 rfl) rfl
theorem q2631 : (Jvm.Cond.selects "GargoyleTowerModel" ({ cls := "GargoyleTowerModel", name := "isBalanced", desc := "()Z" } : Jvm.MethodName) ({ cls := "GargoyleTowerModel", name := "isBalanced", desc := "()Z" } : Jvm.MethodName)) ∈ lw_all := lw_g (lw_at lw_m11 157 rfl) rfl
theorem q2633 : (Jvm.Cond.methodLink "GargoyleTowerLaw" (234 : Nat) ({ cls := "GargoyleTowerModel", name := "meanDetail", desc := "()D" } : Jvm.MethodName)) ∈ lw_all := lw_g (lw_at lw_m11 159 rfl) rfl
theorem q2634 : (Jvm.Cond.instanceMethod ({ cls := "GargoyleTowerModel", name := "meanDetail", desc := "()D" } : Jvm.MethodName)) ∈ lw_all := lw_g (lw_at lw_m11 160 rfl) rfl
theorem q2635 : (Jvm.Cond.selects "GargoyleTowerModel" ({ cls := "GargoyleTowerModel", name := "meanDetail", desc := "()D" } : Jvm.MethodName) ({ cls := "GargoyleTowerModel", name := "meanDetail", desc := "()D" } : Jvm.MethodName)) ∈ lw_all := lw_g (lw_at lw_m11 161 rfl) rfl
theorem q2645 : (Jvm.Cond.methodLink "GargoyleTowerLaw" (237 : Nat) ({ cls := "GargoyleTowerModel", name := "brokenShare", desc := "()F" } : Jvm.MethodName)) ∈ lw_all := lw_g (lw_at lw_m11 171 rfl) rfl
theorem q2646 : (Jvm.Cond.instanceMethod ({ cls := "GargoyleTowerModel", name := "brokenShare", desc := "()F" } : Jvm.MethodName)) ∈ lw_all := lw_g (lw_at lw_m11 172 rfl) rfl
theorem q2647 : (Jvm.Cond.selects "GargoyleTowerModel" ({ cls := "GargoyleTowerModel", name := "brokenShare", desc := "()F" } : Jvm.MethodName) ({ cls := "GargoyleTowerModel", name := "brokenShare", desc := "()F" } : Jvm.MethodName)) ∈ lw_all := lw_g (lw_at lw_m11 173 rfl) rfl
theorem q2649 : (Jvm.Cond.methodLink "GargoyleTowerLaw" (240 : Nat) ({ cls := "GargoyleTowerModel", name := "reason", desc := "(IZ)I" } : Jvm.MethodName)) ∈ lw_all := lw_g (lw_at lw_m11 175 rfl) rfl
theorem q2650 : (Jvm.Cond.instanceMethod ({ cls := "GargoyleTowerModel", name := "reason", desc := "(IZ)I" } : Jvm.MethodName)) ∈ lw_all := lw_g (lw_at lw_m11 176 rfl) rfl
theorem q2651 : (Jvm.Cond.selects "GargoyleTowerModel" ({ cls := "GargoyleTowerModel", name := "reason", desc := "(IZ)I" } : Jvm.MethodName) ({ cls := "GargoyleTowerModel", name := "reason", desc := "(IZ)I" } : Jvm.MethodName)) ∈ lw_all := lw_g (lw_at lw_m11 177 rfl) rfl
theorem q2653 : (Jvm.Cond.methodLink "GargoyleTowerLaw" (243 : Nat) ({ cls := "GargoyleTowerModel", name := "account", desc := "(I)I" } : Jvm.MethodName)) ∈ lw_all := lw_g (lw_at lw_m11 179 rfl) rfl
theorem q2654 : (Jvm.Cond.instanceMethod ({ cls := "GargoyleTowerModel", name := "account", desc := "(I)I" } : Jvm.MethodName)) ∈ lw_all := lw_g (lw_at lw_m11 180 rfl) rfl
theorem q2655 : (Jvm.Cond.selects "GargoyleTowerModel" ({ cls := "GargoyleTowerModel", name := "account", desc := "(I)I" } : Jvm.MethodName) ({ cls := "GargoyleTowerModel", name := "account", desc := "(I)I" } : Jvm.MethodName)) ∈ lw_all := lw_g (lw_at lw_m11 181 rfl) rfl
theorem q2665 : (Jvm.Cond.methodLink "GargoyleTowerLaw" (247 : Nat) ({ cls := "GargoyleTowerModel", name := "feed", desc := "(C)I" } : Jvm.MethodName)) ∈ lw_all := lw_g (lw_at lw_m11 191 rfl) rfl
theorem q2666 : (Jvm.Cond.instanceMethod ({ cls := "GargoyleTowerModel", name := "feed", desc := "(C)I" } : Jvm.MethodName)) ∈ lw_all := lw_g (lw_at lw_m11 192 rfl) rfl
theorem q2667 : (Jvm.Cond.selects "GargoyleTowerModel" ({ cls := "GargoyleTowerModel", name := "feed", desc := "(C)I" } : Jvm.MethodName) ({ cls := "GargoyleTowerModel", name := "feed", desc := "(C)I" } : Jvm.MethodName)) ∈ lw_all := lw_g (lw_at lw_m11 193 rfl) rfl
theorem q2669 : (Jvm.Cond.methodLink "GargoyleTowerLaw" (250 : Nat) ({ cls := "GargoyleTowerModel", name := "perform", desc := "()I" } : Jvm.MethodName)) ∈ lw_all := lw_g (lw_at lw_m11 195 rfl) rfl
theorem q2670 : (Jvm.Cond.instanceMethod ({ cls := "GargoyleTowerModel", name := "perform", desc := "()I" } : Jvm.MethodName)) ∈ lw_all := lw_g (lw_at lw_m11 196 rfl) rfl
theorem q2671 : (Jvm.Cond.selects "GargoyleTowerModel" ({ cls := "GargoyleTowerModel", name := "perform", desc := "()I" } : Jvm.MethodName) ({ cls := "GargoyleTowerModel", name := "perform", desc := "()I" } : Jvm.MethodName)) ∈ lw_all := lw_g (lw_at lw_m11 197 rfl) rfl
theorem q2701 : (Jvm.Cond.methodLink "GargoyleTowerLaw" (253 : Nat) ({ cls := "GargoyleTowerModel", name := "undo", desc := "()I" } : Jvm.MethodName)) ∈ lw_all := lw_g (lw_at lw_m11 227 rfl) rfl
theorem q2702 : (Jvm.Cond.instanceMethod ({ cls := "GargoyleTowerModel", name := "undo", desc := "()I" } : Jvm.MethodName)) ∈ lw_all := lw_g (lw_at lw_m11 228 rfl) rfl
theorem q2703 : (Jvm.Cond.selects "GargoyleTowerModel" ({ cls := "GargoyleTowerModel", name := "undo", desc := "()I" } : Jvm.MethodName) ({ cls := "GargoyleTowerModel", name := "undo", desc := "()I" } : Jvm.MethodName)) ∈ lw_all := lw_g (lw_at lw_m11 229 rfl) rfl
theorem q2705 : (Jvm.Cond.methodLink "GargoyleTowerLaw" (257 : Nat) ({ cls := "GargoyleTowerModel", name := "save", desc := "()I" } : Jvm.MethodName)) ∈ lw_all := lw_g (lw_at lw_m11 231 rfl) rfl
theorem q2706 : (Jvm.Cond.instanceMethod ({ cls := "GargoyleTowerModel", name := "save", desc := "()I" } : Jvm.MethodName)) ∈ lw_all := lw_g (lw_at lw_m11 232 rfl) rfl
theorem q2707 : (Jvm.Cond.selects "GargoyleTowerModel" ({ cls := "GargoyleTowerModel", name := "save", desc := "()I" } : Jvm.MethodName) ({ cls := "GargoyleTowerModel", name := "save", desc := "()I" } : Jvm.MethodName)) ∈ lw_all := lw_g (lw_at lw_m11 233 rfl) rfl
theorem q2709 : (Jvm.Cond.methodLink "GargoyleTowerLaw" (260 : Nat) ({ cls := "GargoyleTowerModel", name := "restore", desc := "()I" } : Jvm.MethodName)) ∈ lw_all := lw_g (lw_at lw_m11 235 rfl) rfl
theorem q2710 : (Jvm.Cond.instanceMethod ({ cls := "GargoyleTowerModel", name := "restore", desc := "()I" } : Jvm.MethodName)) ∈ lw_all := lw_g (lw_at lw_m11 236 rfl) rfl
theorem q2711 : (Jvm.Cond.selects "GargoyleTowerModel" ({ cls := "GargoyleTowerModel", name := "restore", desc := "()I" } : Jvm.MethodName) ({ cls := "GargoyleTowerModel", name := "restore", desc := "()I" } : Jvm.MethodName)) ∈ lw_all := lw_g (lw_at lw_m11 237 rfl) rfl
theorem q2713 : (Jvm.Cond.arrayClass Jvm.ClassFile.FieldType.long) ∈ lw_all := lw_g (lw_at lw_m11 239 rfl) rfl
theorem q2714 : (Jvm.Cond.arrayClass Jvm.ClassFile.FieldType.double) ∈ lw_all := lw_g (lw_at lw_m12 0 rfl) rfl
theorem np91 : gh_np "(LGargoyleTower;IZ[J)I" 4 := by unfold gh_np; decide +kernel
theorem np92 : gh_np "(LGargoyleTower;II[J)I" 4 := by unfold gh_np; decide +kernel
theorem np93 : gh_np "(LGargoyleTower;[J)I" 2 := by unfold gh_np; decide +kernel
theorem np94 : gh_np "(LGargoyleTower;I[J)I" 3 := by unfold gh_np; decide +kernel
theorem np95 : gh_np "(LGargoyleTower;III[J)I" 5 := by unfold gh_np; decide +kernel
theorem np96 : gh_np "(LGargoyleTower;[D)I" 2 := by unfold gh_np; decide +kernel
theorem np97 : gh_np "(LGargoyleTower;C[J)I" 3 := by unfold gh_np; decide +kernel
theorem mh_X0 : gh_mh "GargoyleTowerLaw" := ⟨by decide, by decide⟩
theorem gh_tout36 {a : Int32} (k0 : ¬ a = (0 : Int32)) (k1 : ¬ a = (1 : Int32)) (k2 : ¬ a = (2 : Int32)) (k3 : ¬ a = (3 : Int32)) (k4 : ¬ a = (4 : Int32)) (k5 : ¬ a = (5 : Int32)) (k6 : ¬ a = (6 : Int32)) (k7 : ¬ a = (7 : Int32)) (k8 : ¬ a = (8 : Int32)) (k9 : ¬ a = (9 : Int32)) (k10 : ¬ a = (10 : Int32)) (k11 : ¬ a = (11 : Int32)) (k12 : ¬ a = (12 : Int32)) (k13 : ¬ a = (13 : Int32)) (k14 : ¬ a = (14 : Int32)) (k15 : ¬ a = (15 : Int32)) (k16 : ¬ a = (16 : Int32)) (k17 : ¬ a = (17 : Int32)) (k18 : ¬ a = (18 : Int32)) (k19 : ¬ a = (19 : Int32)) (k20 : ¬ a = (20 : Int32)) (k21 : ¬ a = (21 : Int32)) (k22 : ¬ a = (22 : Int32)) (k23 : ¬ a = (23 : Int32)) (k24 : ¬ a = (24 : Int32)) (k25 : ¬ a = (25 : Int32)) (k26 : ¬ a = (26 : Int32)) (k27 : ¬ a = (27 : Int32)) (k28 : ¬ a = (28 : Int32)) (k29 : ¬ a = (29 : Int32)) (k30 : ¬ a = (30 : Int32)) (k31 : ¬ a = (31 : Int32)) (k32 : ¬ a = (32 : Int32)) (k33 : ¬ a = (33 : Int32)) (k34 : ¬ a = (34 : Int32)) (k35 : ¬ a = (35 : Int32)) (k36 : ¬ a = (36 : Int32)) : a.toInt < 0 ∨ (36 : Int) < a.toInt := gh_tout (n := 36) (by decide) (gh_allS (gh_allS (gh_allS (gh_allS (gh_allS (gh_allS (gh_allS (gh_allS (gh_allS (gh_allS (gh_allS (gh_allS (gh_allS (gh_allS (gh_allS (gh_allS (gh_allS (gh_allS (gh_allS (gh_allS (gh_allS (gh_allS (gh_allS (gh_allS (gh_allS (gh_allS (gh_allS (gh_allS (gh_allS (gh_allS (gh_allS (gh_allS (gh_allS (gh_allS (gh_allS (gh_allS (gh_all0 (p := fun k => ¬ a = nI k) k0) k1) k2) k3) k4) k5) k6) k7) k8) k9) k10) k11) k12) k13) k14) k15) k16) k17) k18) k19) k20) k21) k22) k23) k24) k25) k26) k27) k28) k29) k30) k31) k32) k33) k34) k35) k36)
-- GargoyleTowerLaw.law([I)Z
def gp_L_law_28 (x : gh_C) (u28_0 : Option Nat) (u28_1 : Option Nat) (u28_2 : Option Nat) (u28_3 : Option Nat) (u28_4 : Option Nat) (st : Int32) (g : gh_G) : Prop := ∀ ls : Array Slot, gh_lv ls 9 [(0, va_rf u28_0), (1, va_rf u28_1), (2, va_rf u28_2), (3, va_rf u28_3), (4, va_rf u28_4), (5, .int st)] → gh_Wd x g (F0 (gh_cm x) 28 ls [])
noncomputable def f_L_law_2245 (u28_0 : Option Nat) (u28_1 : Option Nat) (u28_2 : Option Nat) (u28_3 : Option Nat) (u28_4 : Option Nat) (p5 : Int32) : gh_M ((Int32) ⊕ Int32) :=
  gh_ret (.inl (p5 + (4 : Int32)))
theorem w_L_law_2245 {x : gh_C} {g : gh_G} {o : (((Int32) ⊕ Int32) ⊕ gh_X) × gh_G} {ls : Array Slot} (C : gh_K x cL_law "GargoyleTowerLaw" 9 (some .boolean) "law" 57 1233 []) (u28_0 : Option Nat) (u28_1 : Option Nat) (u28_2 : Option Nat) (u28_3 : Option Nat) (u28_4 : Option Nat) (p5 : Int32) (hl : gh_lv ls 9 [(0, va_rf u28_0), (1, va_rf u28_1), (2, va_rf u28_2), (3, va_rf u28_3), (4, va_rf u28_4), (5, .int p5)]) (h : gh_run (f_L_law_2245 u28_0 u28_1 u28_2 u28_3 u28_4 p5) g = some o) (hk : (gh_K1 x (gh_K0 x gh_rI) (gp_L_law_28 x u28_0 u28_1 u28_2 u28_3 u28_4)) o) : gh_Wd x g (F0 (gh_cm x) 2245 ls []) := by
  unfold f_L_law_2245 at h
  refine gr_iinc (pc := 2245) (i := 5) (z := 5) (v := p5 + (4 : Int32)) (l' := [(5, .int (p5 + (4 : Int32))), (0, va_rf u28_0), (1, va_rf u28_1), (2, va_rf u28_2), (3, va_rf u28_3), (4, va_rf u28_4)]) C hl rfl rfl (Nat.le_of_ble_eq_true rfl) rfl dL_law_2245 fun ls hl => ?_
  refine gr_goto (pc := 2248) (tgt := 28) C rfl dL_law_2248 ?_
  exact gh_K1_in h hk ls (gl_sub hl [1, 2, 3, 4, 5, 0] rfl)

noncomputable def f_L_law_2242 (u28_0 : Option Nat) (u28_1 : Option Nat) (u28_2 : Option Nat) (u28_3 : Option Nat) (u28_4 : Option Nat) (p5 : Int32) : gh_M ((Int32) ⊕ Int32) :=
  f_L_law_2245 u28_0 u28_1 u28_2 u28_3 u28_4 p5
theorem w_L_law_2242 {x : gh_C} {g : gh_G} {o : (((Int32) ⊕ Int32) ⊕ gh_X) × gh_G} {ls : Array Slot} (C : gh_K x cL_law "GargoyleTowerLaw" 9 (some .boolean) "law" 57 1233 []) (u28_0 : Option Nat) (u28_1 : Option Nat) (u28_2 : Option Nat) (u28_3 : Option Nat) (u28_4 : Option Nat) (p5 : Int32) (hl : gh_lv ls 9 [(0, va_rf u28_0), (1, va_rf u28_1), (2, va_rf u28_2), (3, va_rf u28_3), (4, va_rf u28_4), (5, .int p5)]) (h : gh_run (f_L_law_2242 u28_0 u28_1 u28_2 u28_3 u28_4 p5) g = some o) (hk : (gh_K1 x (gh_K0 x gh_rI) (gp_L_law_28 x u28_0 u28_1 u28_2 u28_3 u28_4)) o) : gh_Wd x g (F0 (gh_cm x) 2242 ls []) := by
  unfold f_L_law_2242 at h
  refine gr_goto (pc := 2242) (tgt := 2245) C rfl dL_law_2242 ?_
  exact w_L_law_2245 C u28_0 u28_1 u28_2 u28_3 u28_4 p5 (gl_sub hl [0, 1, 2, 3, 4, 5] rfl) h hk

noncomputable def f_L_law_2185 (u28_0 : Option Nat) (u28_1 : Option Nat) (u28_2 : Option Nat) (u28_3 : Option Nat) (u28_4 : Option Nat) (p5 : Int32) : gh_M ((Int32) ⊕ Int32) :=
  f_L_law_2245 u28_0 u28_1 u28_2 u28_3 u28_4 p5
theorem w_L_law_2185 {x : gh_C} {g : gh_G} {o : (((Int32) ⊕ Int32) ⊕ gh_X) × gh_G} {ls : Array Slot} (C : gh_K x cL_law "GargoyleTowerLaw" 9 (some .boolean) "law" 57 1233 []) (u28_0 : Option Nat) (u28_1 : Option Nat) (u28_2 : Option Nat) (u28_3 : Option Nat) (u28_4 : Option Nat) (p5 : Int32) (hl : gh_lv ls 9 [(0, va_rf u28_0), (1, va_rf u28_1), (2, va_rf u28_2), (3, va_rf u28_3), (4, va_rf u28_4), (5, .int p5)]) (h : gh_run (f_L_law_2185 u28_0 u28_1 u28_2 u28_3 u28_4 p5) g = some o) (hk : (gh_K1 x (gh_K0 x gh_rI) (gp_L_law_28 x u28_0 u28_1 u28_2 u28_3 u28_4)) o) : gh_Wd x g (F0 (gh_cm x) 2185 ls []) := by
  unfold f_L_law_2185 at h
  refine gr_goto (pc := 2185) (tgt := 2245) C rfl dL_law_2185 ?_
  exact w_L_law_2245 C u28_0 u28_1 u28_2 u28_3 u28_4 p5 (gl_sub hl [0, 1, 2, 3, 4, 5] rfl) h hk

noncomputable def f_L_law_2141 (u28_0 : Option Nat) (u28_1 : Option Nat) (u28_2 : Option Nat) (u28_3 : Option Nat) (u28_4 : Option Nat) (p5 : Int32) : gh_M ((Int32) ⊕ Int32) :=
  f_L_law_2245 u28_0 u28_1 u28_2 u28_3 u28_4 p5
theorem w_L_law_2141 {x : gh_C} {g : gh_G} {o : (((Int32) ⊕ Int32) ⊕ gh_X) × gh_G} {ls : Array Slot} (C : gh_K x cL_law "GargoyleTowerLaw" 9 (some .boolean) "law" 57 1233 []) (u28_0 : Option Nat) (u28_1 : Option Nat) (u28_2 : Option Nat) (u28_3 : Option Nat) (u28_4 : Option Nat) (p5 : Int32) (hl : gh_lv ls 9 [(0, va_rf u28_0), (1, va_rf u28_1), (2, va_rf u28_2), (3, va_rf u28_3), (4, va_rf u28_4), (5, .int p5)]) (h : gh_run (f_L_law_2141 u28_0 u28_1 u28_2 u28_3 u28_4 p5) g = some o) (hk : (gh_K1 x (gh_K0 x gh_rI) (gp_L_law_28 x u28_0 u28_1 u28_2 u28_3 u28_4)) o) : gh_Wd x g (F0 (gh_cm x) 2141 ls []) := by
  unfold f_L_law_2141 at h
  refine gr_goto (pc := 2141) (tgt := 2245) C rfl dL_law_2141 ?_
  exact w_L_law_2245 C u28_0 u28_1 u28_2 u28_3 u28_4 p5 (gl_sub hl [0, 1, 2, 3, 4, 5] rfl) h hk

noncomputable def f_L_law_2097 (u28_0 : Option Nat) (u28_1 : Option Nat) (u28_2 : Option Nat) (u28_3 : Option Nat) (u28_4 : Option Nat) (p5 : Int32) : gh_M ((Int32) ⊕ Int32) :=
  f_L_law_2245 u28_0 u28_1 u28_2 u28_3 u28_4 p5
theorem w_L_law_2097 {x : gh_C} {g : gh_G} {o : (((Int32) ⊕ Int32) ⊕ gh_X) × gh_G} {ls : Array Slot} (C : gh_K x cL_law "GargoyleTowerLaw" 9 (some .boolean) "law" 57 1233 []) (u28_0 : Option Nat) (u28_1 : Option Nat) (u28_2 : Option Nat) (u28_3 : Option Nat) (u28_4 : Option Nat) (p5 : Int32) (hl : gh_lv ls 9 [(0, va_rf u28_0), (1, va_rf u28_1), (2, va_rf u28_2), (3, va_rf u28_3), (4, va_rf u28_4), (5, .int p5)]) (h : gh_run (f_L_law_2097 u28_0 u28_1 u28_2 u28_3 u28_4 p5) g = some o) (hk : (gh_K1 x (gh_K0 x gh_rI) (gp_L_law_28 x u28_0 u28_1 u28_2 u28_3 u28_4)) o) : gh_Wd x g (F0 (gh_cm x) 2097 ls []) := by
  unfold f_L_law_2097 at h
  refine gr_goto (pc := 2097) (tgt := 2245) C rfl dL_law_2097 ?_
  exact w_L_law_2245 C u28_0 u28_1 u28_2 u28_3 u28_4 p5 (gl_sub hl [0, 1, 2, 3, 4, 5] rfl) h hk

noncomputable def f_L_law_2039 (u28_0 : Option Nat) (u28_1 : Option Nat) (u28_2 : Option Nat) (u28_3 : Option Nat) (u28_4 : Option Nat) (p5 : Int32) : gh_M ((Int32) ⊕ Int32) :=
  f_L_law_2245 u28_0 u28_1 u28_2 u28_3 u28_4 p5
theorem w_L_law_2039 {x : gh_C} {g : gh_G} {o : (((Int32) ⊕ Int32) ⊕ gh_X) × gh_G} {ls : Array Slot} (C : gh_K x cL_law "GargoyleTowerLaw" 9 (some .boolean) "law" 57 1233 []) (u28_0 : Option Nat) (u28_1 : Option Nat) (u28_2 : Option Nat) (u28_3 : Option Nat) (u28_4 : Option Nat) (p5 : Int32) (hl : gh_lv ls 9 [(0, va_rf u28_0), (1, va_rf u28_1), (2, va_rf u28_2), (3, va_rf u28_3), (4, va_rf u28_4), (5, .int p5)]) (h : gh_run (f_L_law_2039 u28_0 u28_1 u28_2 u28_3 u28_4 p5) g = some o) (hk : (gh_K1 x (gh_K0 x gh_rI) (gp_L_law_28 x u28_0 u28_1 u28_2 u28_3 u28_4)) o) : gh_Wd x g (F0 (gh_cm x) 2039 ls []) := by
  unfold f_L_law_2039 at h
  refine gr_goto (pc := 2039) (tgt := 2245) C rfl dL_law_2039 ?_
  exact w_L_law_2245 C u28_0 u28_1 u28_2 u28_3 u28_4 p5 (gl_sub hl [0, 1, 2, 3, 4, 5] rfl) h hk

noncomputable def f_L_law_1983 (u28_0 : Option Nat) (u28_1 : Option Nat) (u28_2 : Option Nat) (u28_3 : Option Nat) (u28_4 : Option Nat) (p5 : Int32) : gh_M ((Int32) ⊕ Int32) :=
  f_L_law_2245 u28_0 u28_1 u28_2 u28_3 u28_4 p5
theorem w_L_law_1983 {x : gh_C} {g : gh_G} {o : (((Int32) ⊕ Int32) ⊕ gh_X) × gh_G} {ls : Array Slot} (C : gh_K x cL_law "GargoyleTowerLaw" 9 (some .boolean) "law" 57 1233 []) (u28_0 : Option Nat) (u28_1 : Option Nat) (u28_2 : Option Nat) (u28_3 : Option Nat) (u28_4 : Option Nat) (p5 : Int32) (hl : gh_lv ls 9 [(0, va_rf u28_0), (1, va_rf u28_1), (2, va_rf u28_2), (3, va_rf u28_3), (4, va_rf u28_4), (5, .int p5)]) (h : gh_run (f_L_law_1983 u28_0 u28_1 u28_2 u28_3 u28_4 p5) g = some o) (hk : (gh_K1 x (gh_K0 x gh_rI) (gp_L_law_28 x u28_0 u28_1 u28_2 u28_3 u28_4)) o) : gh_Wd x g (F0 (gh_cm x) 1983 ls []) := by
  unfold f_L_law_1983 at h
  refine gr_goto (pc := 1983) (tgt := 2245) C rfl dL_law_1983 ?_
  exact w_L_law_2245 C u28_0 u28_1 u28_2 u28_3 u28_4 p5 (gl_sub hl [0, 1, 2, 3, 4, 5] rfl) h hk

noncomputable def f_L_law_1950 (u28_0 : Option Nat) (u28_1 : Option Nat) (u28_2 : Option Nat) (u28_3 : Option Nat) (u28_4 : Option Nat) (p5 : Int32) (p6 : Int32) (s0 : Option Nat) (s1 : Int32) (s2 : Int32) : gh_M ((Int32) ⊕ Int32) :=
  gh_nn s0 fun a1 =>
  gh_bd (gh_is a1 3) fun _ =>
  gh_bd (f_X4_reason a1 s1 s2) fun v2 =>
  gh_nn u28_2 fun a3 =>
  gh_bd (gh_is a3 3) fun _ =>
  gh_bd (f_X4_thrown a3) fun v4 =>
  if v4 = p6 then
  (if p6 = 0 then
  (gh_nn u28_3 fun a5 =>
  gh_bd (gh_lald a5 (0 : Int32)) fun v6 =>
  if (gh_lc v6 v2.toInt64) = 0 then
  (f_L_law_1983 u28_0 u28_1 (some a3) (some a5) u28_4 p5)
  else
  (gh_up (gh_rz .boolean (0 : Int32))))
  else
  (f_L_law_1983 u28_0 u28_1 (some a3) u28_3 u28_4 p5))
  else
  (gh_up (gh_rz .boolean (0 : Int32)))
theorem w_L_law_1950 {x : gh_C} {g : gh_G} {o : (((Int32) ⊕ Int32) ⊕ gh_X) × gh_G} {ls : Array Slot} (C : gh_K x cL_law "GargoyleTowerLaw" 9 (some .boolean) "law" 57 1233 []) (u28_0 : Option Nat) (u28_1 : Option Nat) (u28_2 : Option Nat) (u28_3 : Option Nat) (u28_4 : Option Nat) (p5 : Int32) (p6 : Int32) (s0 : Option Nat) (s1 : Int32) (s2 : Int32) (hl : gh_lv ls 9 [(0, va_rf u28_0), (1, va_rf u28_1), (2, va_rf u28_2), (3, va_rf u28_3), (4, va_rf u28_4), (5, .int p5), (6, .int p6)]) (h : gh_run (f_L_law_1950 u28_0 u28_1 u28_2 u28_3 u28_4 p5 p6 s0 s1 s2) g = some o) (hk : (gh_K1 x (gh_K0 x gh_rI) (gp_L_law_28 x u28_0 u28_1 u28_2 u28_3 u28_4)) o) : gh_Wd x g (F0 (gh_cm x) 1950 ls [.int s2, .int s1, va_rf s0]) := by
  unfold f_L_law_1950 at h
  rcases s0 with _ | a1
  · exact gh_stk_inv h
  replace h := gh_nn_ss h
  obtain ⟨⟨fs9, hg9⟩, h⟩ := gh_is_inv h
  refine gh_callI (pc := 1950) (rest := []) C (k_X4_reason C.tr a1 s1 s2) (Nat.le_of_ble_eq_true rfl) (Nat.le_of_ble_eq_true rfl) (gh_r4 (Nat.le_of_ble_eq_true rfl)) (fun H9 L9 hp9 => gi_V C hp9 hg9 gh_cX4 q2649 q2650 q2651 q2652 mh_X4 np62 rfl hl.1.1 dL_law_1950 rfl) h ((gh_K1_b gh_K0_b) _ hk) (fun v2 g h => ?_) (fun e g h => ?_)
  rotate_left
  ·
    obtain ⟨o, h, hk⟩ := gh_K1_thr h hk
    exact gh_out C (fun _ h => nomatch h) h hk
  refine gr_istore (pc := 1953) (i := 7) (l' := [(7, .int v2), (0, va_rf u28_0), (1, va_rf u28_1), (2, va_rf u28_2), (3, va_rf u28_3), (4, va_rf u28_4), (5, .int p5), (6, .int p6)]) C hl (Nat.le_of_ble_eq_true rfl) rfl dL_law_1953 fun ls hl => ?_
  refine gr_aload_n (pc := 1955) (i := 2) C rfl (gl_at hl 3 rfl) dL_law_1955 ?_
  rcases u28_2 with _ | a3
  · exact gh_stk_inv h
  replace h := gh_nn_ss h
  obtain ⟨⟨fs9, hg9⟩, h⟩ := gh_is_inv h
  refine gh_callI (pc := 1956) (rest := []) C (k_X4_thrown C.tr a3) (Nat.le_of_ble_eq_true rfl) (Nat.le_of_ble_eq_true rfl) (gh_r4 (Nat.le_of_ble_eq_true rfl)) (fun H9 L9 hp9 => gi_V C hp9 hg9 gh_cX4 q2377 q2378 q2379 q2380 mh_X4 np0 rfl hl.1.1 dL_law_1956 rfl) h ((gh_K1_b gh_K0_b) _ hk) (fun v4 g h => ?_) (fun e g h => ?_)
  rotate_left
  ·
    obtain ⟨o, h, hk⟩ := gh_K1_thr h hk
    exact gh_out C (fun _ h => nomatch h) h hk
  refine gr_iload (pc := 1959) (i := 6) C (gl_at hl 7 rfl) dL_law_1959 ?_
  refine gr_icmp_eq (pc := 1961) (tgt := 1966) C rfl dL_law_1961 (fun c9 => ?_) (fun c9 => ?_)
  · replace h := gh_ift h c9
    refine gr_iload (pc := 1966) (i := 6) C (gl_at hl 7 rfl) dL_law_1966 ?_
    refine gr_if_ne (pc := 1968) (tgt := 1983) C rfl dL_law_1968 (fun c9 => ?_) (fun c9 => ?_)
    · replace h := gh_iff h c9
      exact w_L_law_1983 C u28_0 u28_1 (some a3) u28_3 u28_4 p5 (gl_sub hl [1, 2, 3, 4, 5, 6] rfl) h hk
    · replace h := gh_ift h c9
      refine gr_aload_n (pc := 1971) (i := 3) C rfl (gl_at hl 4 rfl) dL_law_1971 ?_
      refine gr_iconst (pc := 1972) (v := (0 : Int32)) C rfl dL_law_1972 ?_
      rcases u28_3 with _ | a5
      · exact gh_stk_inv h
      replace h := gh_nn_ss h
      refine gr_lald (pc := 1973) C dL_law_1973 h fun v6 h => ?_
      refine gr_iload (pc := 1974) (i := 7) C (gl_at hl 0 rfl) dL_law_1974 ?_
      refine gr_i2l (pc := 1976) (v := v2.toInt64) C rfl dL_law_1976 ?_
      refine gr_lcmp (pc := 1977) C dL_law_1977 ?_
      refine gr_if_eq (pc := 1978) (tgt := 1983) C rfl dL_law_1978 (fun c9 => ?_) (fun c9 => ?_)
      · replace h := gh_ift h c9
        exact w_L_law_1983 C u28_0 u28_1 (some a3) (some a5) u28_4 p5 (gl_sub hl [1, 2, 3, 4, 5, 6] rfl) h hk
      · replace h := gh_iff h c9
        refine gr_iconst (pc := 1981) (v := (0 : Int32)) C rfl dL_law_1981 ?_
        obtain ⟨o, h, hk⟩ := gh_K1_up h hk
        exact gr_bret (pc := 1982) C dL_law_1982 h hk
  · replace h := gh_iff h c9
    refine gr_iconst (pc := 1964) (v := (0 : Int32)) C rfl dL_law_1964 ?_
    obtain ⟨o, h, hk⟩ := gh_K1_up h hk
    exact gr_bret (pc := 1965) C dL_law_1965 h hk

noncomputable def f_L_law_1923 (u28_0 : Option Nat) (u28_1 : Option Nat) (u28_2 : Option Nat) (u28_3 : Option Nat) (u28_4 : Option Nat) (p5 : Int32) (s0 : Option Nat) (s1 : Int32) (s2 : Int32) : gh_M ((Int32) ⊕ Int32) :=
  gh_bd (f_X0_reason s0 s1 s2 u28_3) fun v1 =>
  gh_nn u28_0 fun a2 =>
  gh_bd (gh_iald 0 a2 (p5 + (1 : Int32))) fun v3 =>
  gh_bd (gh_iald 0 a2 (p5 + (2 : Int32))) fun v4 =>
  if v4 = 0 then
  (f_L_law_1950 (some a2) u28_1 u28_2 u28_3 u28_4 p5 v1 u28_2 v3 (0 : Int32))
  else
  (f_L_law_1950 (some a2) u28_1 u28_2 u28_3 u28_4 p5 v1 u28_2 v3 (1 : Int32))
theorem w_L_law_1923 {x : gh_C} {g : gh_G} {o : (((Int32) ⊕ Int32) ⊕ gh_X) × gh_G} {ls : Array Slot} (C : gh_K x cL_law "GargoyleTowerLaw" 9 (some .boolean) "law" 57 1233 []) (u28_0 : Option Nat) (u28_1 : Option Nat) (u28_2 : Option Nat) (u28_3 : Option Nat) (u28_4 : Option Nat) (p5 : Int32) (s0 : Option Nat) (s1 : Int32) (s2 : Int32) (hl : gh_lv ls 9 [(0, va_rf u28_0), (1, va_rf u28_1), (2, va_rf u28_2), (3, va_rf u28_3), (4, va_rf u28_4), (5, .int p5)]) (h : gh_run (f_L_law_1923 u28_0 u28_1 u28_2 u28_3 u28_4 p5 s0 s1 s2) g = some o) (hk : (gh_K1 x (gh_K0 x gh_rI) (gp_L_law_28 x u28_0 u28_1 u28_2 u28_3 u28_4)) o) : gh_Wd x g (F0 (gh_cm x) 1923 ls [.int s2, .int s1, va_rf s0]) := by
  unfold f_L_law_1923 at h
  refine gr_aload_n (pc := 1923) (i := 3) C rfl (gl_at hl 3 rfl) dL_law_1923 ?_
  refine gh_callI (pc := 1924) (rest := []) C (k_X0_reason C.tr s0 s1 s2 u28_3) (Nat.le_of_ble_eq_true rfl) (Nat.le_of_ble_eq_true rfl) (gh_r4 (Nat.le_of_ble_eq_true rfl)) (fun H9 L9 hp9 => gi_SX C q2006 q2007 q74 q2008 mh_X0 np91 rfl hl.1.1 dL_law_1924 rfl) h ((gh_K1_b gh_K0_b) _ hk) (fun v1 g h => ?_) (fun e g h => ?_)
  rotate_left
  ·
    obtain ⟨o, h, hk⟩ := gh_K1_thr h hk
    exact gh_out C (fun _ h => nomatch h) h hk
  refine gr_istore (pc := 1927) (i := 6) (l' := [(6, .int v1), (0, va_rf u28_0), (1, va_rf u28_1), (2, va_rf u28_2), (3, va_rf u28_3), (4, va_rf u28_4), (5, .int p5)]) C hl (Nat.le_of_ble_eq_true rfl) rfl dL_law_1927 fun ls hl => ?_
  refine gr_aload_n (pc := 1929) (i := 2) C rfl (gl_at hl 3 rfl) dL_law_1929 ?_
  refine gr_aload_n (pc := 1930) (i := 0) C rfl (gl_at hl 1 rfl) dL_law_1930 ?_
  refine gr_iload (pc := 1931) (i := 5) C (gl_at hl 6 rfl) dL_law_1931 ?_
  refine gr_iconst (pc := 1933) (v := (1 : Int32)) C rfl dL_law_1933 ?_
  refine gr_iadd (pc := 1934) C dL_law_1934 ?_
  rcases u28_0 with _ | a2
  · exact gh_stk_inv h
  replace h := gh_nn_ss h
  refine gr_iald (pc := 1935) C dL_law_1935 h fun v3 h => ?_
  refine gr_aload_n (pc := 1936) (i := 0) C rfl (gl_at hl 1 rfl) dL_law_1936 ?_
  refine gr_iload (pc := 1937) (i := 5) C (gl_at hl 6 rfl) dL_law_1937 ?_
  refine gr_iconst (pc := 1939) (v := (2 : Int32)) C rfl dL_law_1939 ?_
  refine gr_iadd (pc := 1940) C dL_law_1940 ?_
  refine gr_iald (pc := 1941) C dL_law_1941 h fun v4 h => ?_
  refine gr_if_eq (pc := 1942) (tgt := 1949) C rfl dL_law_1942 (fun c9 => ?_) (fun c9 => ?_)
  · replace h := gh_ift h c9
    refine gr_iconst (pc := 1949) (v := (0 : Int32)) C rfl dL_law_1949 ?_
    exact w_L_law_1950 C (some a2) u28_1 u28_2 u28_3 u28_4 p5 v1 u28_2 v3 (0 : Int32) (gl_sub hl [1, 2, 3, 4, 5, 6, 0] rfl) h hk
  · replace h := gh_iff h c9
    refine gr_iconst (pc := 1945) (v := (1 : Int32)) C rfl dL_law_1945 ?_
    refine gr_goto (pc := 1946) (tgt := 1950) C rfl dL_law_1946 ?_
    exact w_L_law_1950 C (some a2) u28_1 u28_2 u28_3 u28_4 p5 v1 u28_2 v3 (1 : Int32) (gl_sub hl [1, 2, 3, 4, 5, 6, 0] rfl) h hk

noncomputable def f_L_law_1899 (u28_0 : Option Nat) (u28_1 : Option Nat) (u28_2 : Option Nat) (u28_3 : Option Nat) (u28_4 : Option Nat) (p5 : Int32) : gh_M ((Int32) ⊕ Int32) :=
  f_L_law_2245 u28_0 u28_1 u28_2 u28_3 u28_4 p5
theorem w_L_law_1899 {x : gh_C} {g : gh_G} {o : (((Int32) ⊕ Int32) ⊕ gh_X) × gh_G} {ls : Array Slot} (C : gh_K x cL_law "GargoyleTowerLaw" 9 (some .boolean) "law" 57 1233 []) (u28_0 : Option Nat) (u28_1 : Option Nat) (u28_2 : Option Nat) (u28_3 : Option Nat) (u28_4 : Option Nat) (p5 : Int32) (hl : gh_lv ls 9 [(0, va_rf u28_0), (1, va_rf u28_1), (2, va_rf u28_2), (3, va_rf u28_3), (4, va_rf u28_4), (5, .int p5)]) (h : gh_run (f_L_law_1899 u28_0 u28_1 u28_2 u28_3 u28_4 p5) g = some o) (hk : (gh_K1 x (gh_K0 x gh_rI) (gp_L_law_28 x u28_0 u28_1 u28_2 u28_3 u28_4)) o) : gh_Wd x g (F0 (gh_cm x) 1899 ls []) := by
  unfold f_L_law_1899 at h
  refine gr_goto (pc := 1899) (tgt := 2245) C rfl dL_law_1899 ?_
  exact w_L_law_2245 C u28_0 u28_1 u28_2 u28_3 u28_4 p5 (gl_sub hl [0, 1, 2, 3, 4, 5] rfl) h hk

noncomputable def f_L_law_1833 (u28_0 : Option Nat) (u28_1 : Option Nat) (u28_2 : Option Nat) (u28_3 : Option Nat) (u28_4 : Option Nat) (p5 : Int32) : gh_M ((Int32) ⊕ Int32) :=
  f_L_law_2245 u28_0 u28_1 u28_2 u28_3 u28_4 p5
theorem w_L_law_1833 {x : gh_C} {g : gh_G} {o : (((Int32) ⊕ Int32) ⊕ gh_X) × gh_G} {ls : Array Slot} (C : gh_K x cL_law "GargoyleTowerLaw" 9 (some .boolean) "law" 57 1233 []) (u28_0 : Option Nat) (u28_1 : Option Nat) (u28_2 : Option Nat) (u28_3 : Option Nat) (u28_4 : Option Nat) (p5 : Int32) (hl : gh_lv ls 9 [(0, va_rf u28_0), (1, va_rf u28_1), (2, va_rf u28_2), (3, va_rf u28_3), (4, va_rf u28_4), (5, .int p5)]) (h : gh_run (f_L_law_1833 u28_0 u28_1 u28_2 u28_3 u28_4 p5) g = some o) (hk : (gh_K1 x (gh_K0 x gh_rI) (gp_L_law_28 x u28_0 u28_1 u28_2 u28_3 u28_4)) o) : gh_Wd x g (F0 (gh_cm x) 1833 ls []) := by
  unfold f_L_law_1833 at h
  refine gr_goto (pc := 1833) (tgt := 2245) C rfl dL_law_1833 ?_
  exact w_L_law_2245 C u28_0 u28_1 u28_2 u28_3 u28_4 p5 (gl_sub hl [0, 1, 2, 3, 4, 5] rfl) h hk

noncomputable def f_L_law_1755 (u28_0 : Option Nat) (u28_1 : Option Nat) (u28_2 : Option Nat) (u28_3 : Option Nat) (u28_4 : Option Nat) (p5 : Int32) : gh_M ((Int32) ⊕ Int32) :=
  f_L_law_2245 u28_0 u28_1 u28_2 u28_3 u28_4 p5
theorem w_L_law_1755 {x : gh_C} {g : gh_G} {o : (((Int32) ⊕ Int32) ⊕ gh_X) × gh_G} {ls : Array Slot} (C : gh_K x cL_law "GargoyleTowerLaw" 9 (some .boolean) "law" 57 1233 []) (u28_0 : Option Nat) (u28_1 : Option Nat) (u28_2 : Option Nat) (u28_3 : Option Nat) (u28_4 : Option Nat) (p5 : Int32) (hl : gh_lv ls 9 [(0, va_rf u28_0), (1, va_rf u28_1), (2, va_rf u28_2), (3, va_rf u28_3), (4, va_rf u28_4), (5, .int p5)]) (h : gh_run (f_L_law_1755 u28_0 u28_1 u28_2 u28_3 u28_4 p5) g = some o) (hk : (gh_K1 x (gh_K0 x gh_rI) (gp_L_law_28 x u28_0 u28_1 u28_2 u28_3 u28_4)) o) : gh_Wd x g (F0 (gh_cm x) 1755 ls []) := by
  unfold f_L_law_1755 at h
  refine gr_goto (pc := 1755) (tgt := 2245) C rfl dL_law_1755 ?_
  exact w_L_law_2245 C u28_0 u28_1 u28_2 u28_3 u28_4 p5 (gl_sub hl [0, 1, 2, 3, 4, 5] rfl) h hk

noncomputable def f_L_law_1699 (u28_0 : Option Nat) (u28_1 : Option Nat) (u28_2 : Option Nat) (u28_3 : Option Nat) (u28_4 : Option Nat) (p5 : Int32) : gh_M ((Int32) ⊕ Int32) :=
  f_L_law_2245 u28_0 u28_1 u28_2 u28_3 u28_4 p5
theorem w_L_law_1699 {x : gh_C} {g : gh_G} {o : (((Int32) ⊕ Int32) ⊕ gh_X) × gh_G} {ls : Array Slot} (C : gh_K x cL_law "GargoyleTowerLaw" 9 (some .boolean) "law" 57 1233 []) (u28_0 : Option Nat) (u28_1 : Option Nat) (u28_2 : Option Nat) (u28_3 : Option Nat) (u28_4 : Option Nat) (p5 : Int32) (hl : gh_lv ls 9 [(0, va_rf u28_0), (1, va_rf u28_1), (2, va_rf u28_2), (3, va_rf u28_3), (4, va_rf u28_4), (5, .int p5)]) (h : gh_run (f_L_law_1699 u28_0 u28_1 u28_2 u28_3 u28_4 p5) g = some o) (hk : (gh_K1 x (gh_K0 x gh_rI) (gp_L_law_28 x u28_0 u28_1 u28_2 u28_3 u28_4)) o) : gh_Wd x g (F0 (gh_cm x) 1699 ls []) := by
  unfold f_L_law_1699 at h
  refine gr_goto (pc := 1699) (tgt := 2245) C rfl dL_law_1699 ?_
  exact w_L_law_2245 C u28_0 u28_1 u28_2 u28_3 u28_4 p5 (gl_sub hl [0, 1, 2, 3, 4, 5] rfl) h hk

noncomputable def f_L_law_1617 (u28_0 : Option Nat) (u28_1 : Option Nat) (u28_2 : Option Nat) (u28_3 : Option Nat) (u28_4 : Option Nat) (p5 : Int32) : gh_M ((Int32) ⊕ Int32) :=
  f_L_law_2245 u28_0 u28_1 u28_2 u28_3 u28_4 p5
theorem w_L_law_1617 {x : gh_C} {g : gh_G} {o : (((Int32) ⊕ Int32) ⊕ gh_X) × gh_G} {ls : Array Slot} (C : gh_K x cL_law "GargoyleTowerLaw" 9 (some .boolean) "law" 57 1233 []) (u28_0 : Option Nat) (u28_1 : Option Nat) (u28_2 : Option Nat) (u28_3 : Option Nat) (u28_4 : Option Nat) (p5 : Int32) (hl : gh_lv ls 9 [(0, va_rf u28_0), (1, va_rf u28_1), (2, va_rf u28_2), (3, va_rf u28_3), (4, va_rf u28_4), (5, .int p5)]) (h : gh_run (f_L_law_1617 u28_0 u28_1 u28_2 u28_3 u28_4 p5) g = some o) (hk : (gh_K1 x (gh_K0 x gh_rI) (gp_L_law_28 x u28_0 u28_1 u28_2 u28_3 u28_4)) o) : gh_Wd x g (F0 (gh_cm x) 1617 ls []) := by
  unfold f_L_law_1617 at h
  refine gr_goto (pc := 1617) (tgt := 2245) C rfl dL_law_1617 ?_
  exact w_L_law_2245 C u28_0 u28_1 u28_2 u28_3 u28_4 p5 (gl_sub hl [0, 1, 2, 3, 4, 5] rfl) h hk

noncomputable def f_L_law_1561 (u28_0 : Option Nat) (u28_1 : Option Nat) (u28_2 : Option Nat) (u28_3 : Option Nat) (u28_4 : Option Nat) (p5 : Int32) : gh_M ((Int32) ⊕ Int32) :=
  f_L_law_2245 u28_0 u28_1 u28_2 u28_3 u28_4 p5
theorem w_L_law_1561 {x : gh_C} {g : gh_G} {o : (((Int32) ⊕ Int32) ⊕ gh_X) × gh_G} {ls : Array Slot} (C : gh_K x cL_law "GargoyleTowerLaw" 9 (some .boolean) "law" 57 1233 []) (u28_0 : Option Nat) (u28_1 : Option Nat) (u28_2 : Option Nat) (u28_3 : Option Nat) (u28_4 : Option Nat) (p5 : Int32) (hl : gh_lv ls 9 [(0, va_rf u28_0), (1, va_rf u28_1), (2, va_rf u28_2), (3, va_rf u28_3), (4, va_rf u28_4), (5, .int p5)]) (h : gh_run (f_L_law_1561 u28_0 u28_1 u28_2 u28_3 u28_4 p5) g = some o) (hk : (gh_K1 x (gh_K0 x gh_rI) (gp_L_law_28 x u28_0 u28_1 u28_2 u28_3 u28_4)) o) : gh_Wd x g (F0 (gh_cm x) 1561 ls []) := by
  unfold f_L_law_1561 at h
  refine gr_goto (pc := 1561) (tgt := 2245) C rfl dL_law_1561 ?_
  exact w_L_law_2245 C u28_0 u28_1 u28_2 u28_3 u28_4 p5 (gl_sub hl [0, 1, 2, 3, 4, 5] rfl) h hk

noncomputable def f_L_law_1505 (u28_0 : Option Nat) (u28_1 : Option Nat) (u28_2 : Option Nat) (u28_3 : Option Nat) (u28_4 : Option Nat) (p5 : Int32) : gh_M ((Int32) ⊕ Int32) :=
  f_L_law_2245 u28_0 u28_1 u28_2 u28_3 u28_4 p5
theorem w_L_law_1505 {x : gh_C} {g : gh_G} {o : (((Int32) ⊕ Int32) ⊕ gh_X) × gh_G} {ls : Array Slot} (C : gh_K x cL_law "GargoyleTowerLaw" 9 (some .boolean) "law" 57 1233 []) (u28_0 : Option Nat) (u28_1 : Option Nat) (u28_2 : Option Nat) (u28_3 : Option Nat) (u28_4 : Option Nat) (p5 : Int32) (hl : gh_lv ls 9 [(0, va_rf u28_0), (1, va_rf u28_1), (2, va_rf u28_2), (3, va_rf u28_3), (4, va_rf u28_4), (5, .int p5)]) (h : gh_run (f_L_law_1505 u28_0 u28_1 u28_2 u28_3 u28_4 p5) g = some o) (hk : (gh_K1 x (gh_K0 x gh_rI) (gp_L_law_28 x u28_0 u28_1 u28_2 u28_3 u28_4)) o) : gh_Wd x g (F0 (gh_cm x) 1505 ls []) := by
  unfold f_L_law_1505 at h
  refine gr_goto (pc := 1505) (tgt := 2245) C rfl dL_law_1505 ?_
  exact w_L_law_2245 C u28_0 u28_1 u28_2 u28_3 u28_4 p5 (gl_sub hl [0, 1, 2, 3, 4, 5] rfl) h hk

noncomputable def f_L_law_1449 (u28_0 : Option Nat) (u28_1 : Option Nat) (u28_2 : Option Nat) (u28_3 : Option Nat) (u28_4 : Option Nat) (p5 : Int32) : gh_M ((Int32) ⊕ Int32) :=
  f_L_law_2245 u28_0 u28_1 u28_2 u28_3 u28_4 p5
theorem w_L_law_1449 {x : gh_C} {g : gh_G} {o : (((Int32) ⊕ Int32) ⊕ gh_X) × gh_G} {ls : Array Slot} (C : gh_K x cL_law "GargoyleTowerLaw" 9 (some .boolean) "law" 57 1233 []) (u28_0 : Option Nat) (u28_1 : Option Nat) (u28_2 : Option Nat) (u28_3 : Option Nat) (u28_4 : Option Nat) (p5 : Int32) (hl : gh_lv ls 9 [(0, va_rf u28_0), (1, va_rf u28_1), (2, va_rf u28_2), (3, va_rf u28_3), (4, va_rf u28_4), (5, .int p5)]) (h : gh_run (f_L_law_1449 u28_0 u28_1 u28_2 u28_3 u28_4 p5) g = some o) (hk : (gh_K1 x (gh_K0 x gh_rI) (gp_L_law_28 x u28_0 u28_1 u28_2 u28_3 u28_4)) o) : gh_Wd x g (F0 (gh_cm x) 1449 ls []) := by
  unfold f_L_law_1449 at h
  refine gr_goto (pc := 1449) (tgt := 2245) C rfl dL_law_1449 ?_
  exact w_L_law_2245 C u28_0 u28_1 u28_2 u28_3 u28_4 p5 (gl_sub hl [0, 1, 2, 3, 4, 5] rfl) h hk

noncomputable def f_L_law_1393 (u28_0 : Option Nat) (u28_1 : Option Nat) (u28_2 : Option Nat) (u28_3 : Option Nat) (u28_4 : Option Nat) (p5 : Int32) : gh_M ((Int32) ⊕ Int32) :=
  f_L_law_2245 u28_0 u28_1 u28_2 u28_3 u28_4 p5
theorem w_L_law_1393 {x : gh_C} {g : gh_G} {o : (((Int32) ⊕ Int32) ⊕ gh_X) × gh_G} {ls : Array Slot} (C : gh_K x cL_law "GargoyleTowerLaw" 9 (some .boolean) "law" 57 1233 []) (u28_0 : Option Nat) (u28_1 : Option Nat) (u28_2 : Option Nat) (u28_3 : Option Nat) (u28_4 : Option Nat) (p5 : Int32) (hl : gh_lv ls 9 [(0, va_rf u28_0), (1, va_rf u28_1), (2, va_rf u28_2), (3, va_rf u28_3), (4, va_rf u28_4), (5, .int p5)]) (h : gh_run (f_L_law_1393 u28_0 u28_1 u28_2 u28_3 u28_4 p5) g = some o) (hk : (gh_K1 x (gh_K0 x gh_rI) (gp_L_law_28 x u28_0 u28_1 u28_2 u28_3 u28_4)) o) : gh_Wd x g (F0 (gh_cm x) 1393 ls []) := by
  unfold f_L_law_1393 at h
  refine gr_goto (pc := 1393) (tgt := 2245) C rfl dL_law_1393 ?_
  exact w_L_law_2245 C u28_0 u28_1 u28_2 u28_3 u28_4 p5 (gl_sub hl [0, 1, 2, 3, 4, 5] rfl) h hk

noncomputable def f_L_law_1337 (u28_0 : Option Nat) (u28_1 : Option Nat) (u28_2 : Option Nat) (u28_3 : Option Nat) (u28_4 : Option Nat) (p5 : Int32) : gh_M ((Int32) ⊕ Int32) :=
  f_L_law_2245 u28_0 u28_1 u28_2 u28_3 u28_4 p5
theorem w_L_law_1337 {x : gh_C} {g : gh_G} {o : (((Int32) ⊕ Int32) ⊕ gh_X) × gh_G} {ls : Array Slot} (C : gh_K x cL_law "GargoyleTowerLaw" 9 (some .boolean) "law" 57 1233 []) (u28_0 : Option Nat) (u28_1 : Option Nat) (u28_2 : Option Nat) (u28_3 : Option Nat) (u28_4 : Option Nat) (p5 : Int32) (hl : gh_lv ls 9 [(0, va_rf u28_0), (1, va_rf u28_1), (2, va_rf u28_2), (3, va_rf u28_3), (4, va_rf u28_4), (5, .int p5)]) (h : gh_run (f_L_law_1337 u28_0 u28_1 u28_2 u28_3 u28_4 p5) g = some o) (hk : (gh_K1 x (gh_K0 x gh_rI) (gp_L_law_28 x u28_0 u28_1 u28_2 u28_3 u28_4)) o) : gh_Wd x g (F0 (gh_cm x) 1337 ls []) := by
  unfold f_L_law_1337 at h
  refine gr_goto (pc := 1337) (tgt := 2245) C rfl dL_law_1337 ?_
  exact w_L_law_2245 C u28_0 u28_1 u28_2 u28_3 u28_4 p5 (gl_sub hl [0, 1, 2, 3, 4, 5] rfl) h hk

noncomputable def f_L_law_1269 (u28_0 : Option Nat) (u28_1 : Option Nat) (u28_2 : Option Nat) (u28_3 : Option Nat) (u28_4 : Option Nat) (p5 : Int32) : gh_M ((Int32) ⊕ Int32) :=
  f_L_law_2245 u28_0 u28_1 u28_2 u28_3 u28_4 p5
theorem w_L_law_1269 {x : gh_C} {g : gh_G} {o : (((Int32) ⊕ Int32) ⊕ gh_X) × gh_G} {ls : Array Slot} (C : gh_K x cL_law "GargoyleTowerLaw" 9 (some .boolean) "law" 57 1233 []) (u28_0 : Option Nat) (u28_1 : Option Nat) (u28_2 : Option Nat) (u28_3 : Option Nat) (u28_4 : Option Nat) (p5 : Int32) (hl : gh_lv ls 9 [(0, va_rf u28_0), (1, va_rf u28_1), (2, va_rf u28_2), (3, va_rf u28_3), (4, va_rf u28_4), (5, .int p5)]) (h : gh_run (f_L_law_1269 u28_0 u28_1 u28_2 u28_3 u28_4 p5) g = some o) (hk : (gh_K1 x (gh_K0 x gh_rI) (gp_L_law_28 x u28_0 u28_1 u28_2 u28_3 u28_4)) o) : gh_Wd x g (F0 (gh_cm x) 1269 ls []) := by
  unfold f_L_law_1269 at h
  refine gr_goto (pc := 1269) (tgt := 2245) C rfl dL_law_1269 ?_
  exact w_L_law_2245 C u28_0 u28_1 u28_2 u28_3 u28_4 p5 (gl_sub hl [0, 1, 2, 3, 4, 5] rfl) h hk

noncomputable def f_L_law_1201 (u28_0 : Option Nat) (u28_1 : Option Nat) (u28_2 : Option Nat) (u28_3 : Option Nat) (u28_4 : Option Nat) (p5 : Int32) : gh_M ((Int32) ⊕ Int32) :=
  f_L_law_2245 u28_0 u28_1 u28_2 u28_3 u28_4 p5
theorem w_L_law_1201 {x : gh_C} {g : gh_G} {o : (((Int32) ⊕ Int32) ⊕ gh_X) × gh_G} {ls : Array Slot} (C : gh_K x cL_law "GargoyleTowerLaw" 9 (some .boolean) "law" 57 1233 []) (u28_0 : Option Nat) (u28_1 : Option Nat) (u28_2 : Option Nat) (u28_3 : Option Nat) (u28_4 : Option Nat) (p5 : Int32) (hl : gh_lv ls 9 [(0, va_rf u28_0), (1, va_rf u28_1), (2, va_rf u28_2), (3, va_rf u28_3), (4, va_rf u28_4), (5, .int p5)]) (h : gh_run (f_L_law_1201 u28_0 u28_1 u28_2 u28_3 u28_4 p5) g = some o) (hk : (gh_K1 x (gh_K0 x gh_rI) (gp_L_law_28 x u28_0 u28_1 u28_2 u28_3 u28_4)) o) : gh_Wd x g (F0 (gh_cm x) 1201 ls []) := by
  unfold f_L_law_1201 at h
  refine gr_goto (pc := 1201) (tgt := 2245) C rfl dL_law_1201 ?_
  exact w_L_law_2245 C u28_0 u28_1 u28_2 u28_3 u28_4 p5 (gl_sub hl [0, 1, 2, 3, 4, 5] rfl) h hk

noncomputable def f_L_law_1121 (u28_0 : Option Nat) (u28_1 : Option Nat) (u28_2 : Option Nat) (u28_3 : Option Nat) (u28_4 : Option Nat) (p5 : Int32) : gh_M ((Int32) ⊕ Int32) :=
  f_L_law_2245 u28_0 u28_1 u28_2 u28_3 u28_4 p5
theorem w_L_law_1121 {x : gh_C} {g : gh_G} {o : (((Int32) ⊕ Int32) ⊕ gh_X) × gh_G} {ls : Array Slot} (C : gh_K x cL_law "GargoyleTowerLaw" 9 (some .boolean) "law" 57 1233 []) (u28_0 : Option Nat) (u28_1 : Option Nat) (u28_2 : Option Nat) (u28_3 : Option Nat) (u28_4 : Option Nat) (p5 : Int32) (hl : gh_lv ls 9 [(0, va_rf u28_0), (1, va_rf u28_1), (2, va_rf u28_2), (3, va_rf u28_3), (4, va_rf u28_4), (5, .int p5)]) (h : gh_run (f_L_law_1121 u28_0 u28_1 u28_2 u28_3 u28_4 p5) g = some o) (hk : (gh_K1 x (gh_K0 x gh_rI) (gp_L_law_28 x u28_0 u28_1 u28_2 u28_3 u28_4)) o) : gh_Wd x g (F0 (gh_cm x) 1121 ls []) := by
  unfold f_L_law_1121 at h
  refine gr_goto (pc := 1121) (tgt := 2245) C rfl dL_law_1121 ?_
  exact w_L_law_2245 C u28_0 u28_1 u28_2 u28_3 u28_4 p5 (gl_sub hl [0, 1, 2, 3, 4, 5] rfl) h hk

noncomputable def f_L_law_1065 (u28_0 : Option Nat) (u28_1 : Option Nat) (u28_2 : Option Nat) (u28_3 : Option Nat) (u28_4 : Option Nat) (p5 : Int32) : gh_M ((Int32) ⊕ Int32) :=
  f_L_law_2245 u28_0 u28_1 u28_2 u28_3 u28_4 p5
theorem w_L_law_1065 {x : gh_C} {g : gh_G} {o : (((Int32) ⊕ Int32) ⊕ gh_X) × gh_G} {ls : Array Slot} (C : gh_K x cL_law "GargoyleTowerLaw" 9 (some .boolean) "law" 57 1233 []) (u28_0 : Option Nat) (u28_1 : Option Nat) (u28_2 : Option Nat) (u28_3 : Option Nat) (u28_4 : Option Nat) (p5 : Int32) (hl : gh_lv ls 9 [(0, va_rf u28_0), (1, va_rf u28_1), (2, va_rf u28_2), (3, va_rf u28_3), (4, va_rf u28_4), (5, .int p5)]) (h : gh_run (f_L_law_1065 u28_0 u28_1 u28_2 u28_3 u28_4 p5) g = some o) (hk : (gh_K1 x (gh_K0 x gh_rI) (gp_L_law_28 x u28_0 u28_1 u28_2 u28_3 u28_4)) o) : gh_Wd x g (F0 (gh_cm x) 1065 ls []) := by
  unfold f_L_law_1065 at h
  refine gr_goto (pc := 1065) (tgt := 2245) C rfl dL_law_1065 ?_
  exact w_L_law_2245 C u28_0 u28_1 u28_2 u28_3 u28_4 p5 (gl_sub hl [0, 1, 2, 3, 4, 5] rfl) h hk

noncomputable def f_L_law_1009 (u28_0 : Option Nat) (u28_1 : Option Nat) (u28_2 : Option Nat) (u28_3 : Option Nat) (u28_4 : Option Nat) (p5 : Int32) : gh_M ((Int32) ⊕ Int32) :=
  f_L_law_2245 u28_0 u28_1 u28_2 u28_3 u28_4 p5
theorem w_L_law_1009 {x : gh_C} {g : gh_G} {o : (((Int32) ⊕ Int32) ⊕ gh_X) × gh_G} {ls : Array Slot} (C : gh_K x cL_law "GargoyleTowerLaw" 9 (some .boolean) "law" 57 1233 []) (u28_0 : Option Nat) (u28_1 : Option Nat) (u28_2 : Option Nat) (u28_3 : Option Nat) (u28_4 : Option Nat) (p5 : Int32) (hl : gh_lv ls 9 [(0, va_rf u28_0), (1, va_rf u28_1), (2, va_rf u28_2), (3, va_rf u28_3), (4, va_rf u28_4), (5, .int p5)]) (h : gh_run (f_L_law_1009 u28_0 u28_1 u28_2 u28_3 u28_4 p5) g = some o) (hk : (gh_K1 x (gh_K0 x gh_rI) (gp_L_law_28 x u28_0 u28_1 u28_2 u28_3 u28_4)) o) : gh_Wd x g (F0 (gh_cm x) 1009 ls []) := by
  unfold f_L_law_1009 at h
  refine gr_goto (pc := 1009) (tgt := 2245) C rfl dL_law_1009 ?_
  exact w_L_law_2245 C u28_0 u28_1 u28_2 u28_3 u28_4 p5 (gl_sub hl [0, 1, 2, 3, 4, 5] rfl) h hk

noncomputable def f_L_law_953 (u28_0 : Option Nat) (u28_1 : Option Nat) (u28_2 : Option Nat) (u28_3 : Option Nat) (u28_4 : Option Nat) (p5 : Int32) : gh_M ((Int32) ⊕ Int32) :=
  f_L_law_2245 u28_0 u28_1 u28_2 u28_3 u28_4 p5
theorem w_L_law_953 {x : gh_C} {g : gh_G} {o : (((Int32) ⊕ Int32) ⊕ gh_X) × gh_G} {ls : Array Slot} (C : gh_K x cL_law "GargoyleTowerLaw" 9 (some .boolean) "law" 57 1233 []) (u28_0 : Option Nat) (u28_1 : Option Nat) (u28_2 : Option Nat) (u28_3 : Option Nat) (u28_4 : Option Nat) (p5 : Int32) (hl : gh_lv ls 9 [(0, va_rf u28_0), (1, va_rf u28_1), (2, va_rf u28_2), (3, va_rf u28_3), (4, va_rf u28_4), (5, .int p5)]) (h : gh_run (f_L_law_953 u28_0 u28_1 u28_2 u28_3 u28_4 p5) g = some o) (hk : (gh_K1 x (gh_K0 x gh_rI) (gp_L_law_28 x u28_0 u28_1 u28_2 u28_3 u28_4)) o) : gh_Wd x g (F0 (gh_cm x) 953 ls []) := by
  unfold f_L_law_953 at h
  refine gr_goto (pc := 953) (tgt := 2245) C rfl dL_law_953 ?_
  exact w_L_law_2245 C u28_0 u28_1 u28_2 u28_3 u28_4 p5 (gl_sub hl [0, 1, 2, 3, 4, 5] rfl) h hk

noncomputable def f_L_law_897 (u28_0 : Option Nat) (u28_1 : Option Nat) (u28_2 : Option Nat) (u28_3 : Option Nat) (u28_4 : Option Nat) (p5 : Int32) : gh_M ((Int32) ⊕ Int32) :=
  f_L_law_2245 u28_0 u28_1 u28_2 u28_3 u28_4 p5
theorem w_L_law_897 {x : gh_C} {g : gh_G} {o : (((Int32) ⊕ Int32) ⊕ gh_X) × gh_G} {ls : Array Slot} (C : gh_K x cL_law "GargoyleTowerLaw" 9 (some .boolean) "law" 57 1233 []) (u28_0 : Option Nat) (u28_1 : Option Nat) (u28_2 : Option Nat) (u28_3 : Option Nat) (u28_4 : Option Nat) (p5 : Int32) (hl : gh_lv ls 9 [(0, va_rf u28_0), (1, va_rf u28_1), (2, va_rf u28_2), (3, va_rf u28_3), (4, va_rf u28_4), (5, .int p5)]) (h : gh_run (f_L_law_897 u28_0 u28_1 u28_2 u28_3 u28_4 p5) g = some o) (hk : (gh_K1 x (gh_K0 x gh_rI) (gp_L_law_28 x u28_0 u28_1 u28_2 u28_3 u28_4)) o) : gh_Wd x g (F0 (gh_cm x) 897 ls []) := by
  unfold f_L_law_897 at h
  refine gr_goto (pc := 897) (tgt := 2245) C rfl dL_law_897 ?_
  exact w_L_law_2245 C u28_0 u28_1 u28_2 u28_3 u28_4 p5 (gl_sub hl [0, 1, 2, 3, 4, 5] rfl) h hk

noncomputable def f_L_law_841 (u28_0 : Option Nat) (u28_1 : Option Nat) (u28_2 : Option Nat) (u28_3 : Option Nat) (u28_4 : Option Nat) (p5 : Int32) : gh_M ((Int32) ⊕ Int32) :=
  f_L_law_2245 u28_0 u28_1 u28_2 u28_3 u28_4 p5
theorem w_L_law_841 {x : gh_C} {g : gh_G} {o : (((Int32) ⊕ Int32) ⊕ gh_X) × gh_G} {ls : Array Slot} (C : gh_K x cL_law "GargoyleTowerLaw" 9 (some .boolean) "law" 57 1233 []) (u28_0 : Option Nat) (u28_1 : Option Nat) (u28_2 : Option Nat) (u28_3 : Option Nat) (u28_4 : Option Nat) (p5 : Int32) (hl : gh_lv ls 9 [(0, va_rf u28_0), (1, va_rf u28_1), (2, va_rf u28_2), (3, va_rf u28_3), (4, va_rf u28_4), (5, .int p5)]) (h : gh_run (f_L_law_841 u28_0 u28_1 u28_2 u28_3 u28_4 p5) g = some o) (hk : (gh_K1 x (gh_K0 x gh_rI) (gp_L_law_28 x u28_0 u28_1 u28_2 u28_3 u28_4)) o) : gh_Wd x g (F0 (gh_cm x) 841 ls []) := by
  unfold f_L_law_841 at h
  refine gr_goto (pc := 841) (tgt := 2245) C rfl dL_law_841 ?_
  exact w_L_law_2245 C u28_0 u28_1 u28_2 u28_3 u28_4 p5 (gl_sub hl [0, 1, 2, 3, 4, 5] rfl) h hk

noncomputable def f_L_law_773 (u28_0 : Option Nat) (u28_1 : Option Nat) (u28_2 : Option Nat) (u28_3 : Option Nat) (u28_4 : Option Nat) (p5 : Int32) : gh_M ((Int32) ⊕ Int32) :=
  f_L_law_2245 u28_0 u28_1 u28_2 u28_3 u28_4 p5
theorem w_L_law_773 {x : gh_C} {g : gh_G} {o : (((Int32) ⊕ Int32) ⊕ gh_X) × gh_G} {ls : Array Slot} (C : gh_K x cL_law "GargoyleTowerLaw" 9 (some .boolean) "law" 57 1233 []) (u28_0 : Option Nat) (u28_1 : Option Nat) (u28_2 : Option Nat) (u28_3 : Option Nat) (u28_4 : Option Nat) (p5 : Int32) (hl : gh_lv ls 9 [(0, va_rf u28_0), (1, va_rf u28_1), (2, va_rf u28_2), (3, va_rf u28_3), (4, va_rf u28_4), (5, .int p5)]) (h : gh_run (f_L_law_773 u28_0 u28_1 u28_2 u28_3 u28_4 p5) g = some o) (hk : (gh_K1 x (gh_K0 x gh_rI) (gp_L_law_28 x u28_0 u28_1 u28_2 u28_3 u28_4)) o) : gh_Wd x g (F0 (gh_cm x) 773 ls []) := by
  unfold f_L_law_773 at h
  refine gr_goto (pc := 773) (tgt := 2245) C rfl dL_law_773 ?_
  exact w_L_law_2245 C u28_0 u28_1 u28_2 u28_3 u28_4 p5 (gl_sub hl [0, 1, 2, 3, 4, 5] rfl) h hk

noncomputable def f_L_law_717 (u28_0 : Option Nat) (u28_1 : Option Nat) (u28_2 : Option Nat) (u28_3 : Option Nat) (u28_4 : Option Nat) (p5 : Int32) : gh_M ((Int32) ⊕ Int32) :=
  f_L_law_2245 u28_0 u28_1 u28_2 u28_3 u28_4 p5
theorem w_L_law_717 {x : gh_C} {g : gh_G} {o : (((Int32) ⊕ Int32) ⊕ gh_X) × gh_G} {ls : Array Slot} (C : gh_K x cL_law "GargoyleTowerLaw" 9 (some .boolean) "law" 57 1233 []) (u28_0 : Option Nat) (u28_1 : Option Nat) (u28_2 : Option Nat) (u28_3 : Option Nat) (u28_4 : Option Nat) (p5 : Int32) (hl : gh_lv ls 9 [(0, va_rf u28_0), (1, va_rf u28_1), (2, va_rf u28_2), (3, va_rf u28_3), (4, va_rf u28_4), (5, .int p5)]) (h : gh_run (f_L_law_717 u28_0 u28_1 u28_2 u28_3 u28_4 p5) g = some o) (hk : (gh_K1 x (gh_K0 x gh_rI) (gp_L_law_28 x u28_0 u28_1 u28_2 u28_3 u28_4)) o) : gh_Wd x g (F0 (gh_cm x) 717 ls []) := by
  unfold f_L_law_717 at h
  refine gr_goto (pc := 717) (tgt := 2245) C rfl dL_law_717 ?_
  exact w_L_law_2245 C u28_0 u28_1 u28_2 u28_3 u28_4 p5 (gl_sub hl [0, 1, 2, 3, 4, 5] rfl) h hk

noncomputable def f_L_law_649 (u28_0 : Option Nat) (u28_1 : Option Nat) (u28_2 : Option Nat) (u28_3 : Option Nat) (u28_4 : Option Nat) (p5 : Int32) : gh_M ((Int32) ⊕ Int32) :=
  f_L_law_2245 u28_0 u28_1 u28_2 u28_3 u28_4 p5
theorem w_L_law_649 {x : gh_C} {g : gh_G} {o : (((Int32) ⊕ Int32) ⊕ gh_X) × gh_G} {ls : Array Slot} (C : gh_K x cL_law "GargoyleTowerLaw" 9 (some .boolean) "law" 57 1233 []) (u28_0 : Option Nat) (u28_1 : Option Nat) (u28_2 : Option Nat) (u28_3 : Option Nat) (u28_4 : Option Nat) (p5 : Int32) (hl : gh_lv ls 9 [(0, va_rf u28_0), (1, va_rf u28_1), (2, va_rf u28_2), (3, va_rf u28_3), (4, va_rf u28_4), (5, .int p5)]) (h : gh_run (f_L_law_649 u28_0 u28_1 u28_2 u28_3 u28_4 p5) g = some o) (hk : (gh_K1 x (gh_K0 x gh_rI) (gp_L_law_28 x u28_0 u28_1 u28_2 u28_3 u28_4)) o) : gh_Wd x g (F0 (gh_cm x) 649 ls []) := by
  unfold f_L_law_649 at h
  refine gr_goto (pc := 649) (tgt := 2245) C rfl dL_law_649 ?_
  exact w_L_law_2245 C u28_0 u28_1 u28_2 u28_3 u28_4 p5 (gl_sub hl [0, 1, 2, 3, 4, 5] rfl) h hk

noncomputable def f_L_law_581 (u28_0 : Option Nat) (u28_1 : Option Nat) (u28_2 : Option Nat) (u28_3 : Option Nat) (u28_4 : Option Nat) (p5 : Int32) : gh_M ((Int32) ⊕ Int32) :=
  f_L_law_2245 u28_0 u28_1 u28_2 u28_3 u28_4 p5
theorem w_L_law_581 {x : gh_C} {g : gh_G} {o : (((Int32) ⊕ Int32) ⊕ gh_X) × gh_G} {ls : Array Slot} (C : gh_K x cL_law "GargoyleTowerLaw" 9 (some .boolean) "law" 57 1233 []) (u28_0 : Option Nat) (u28_1 : Option Nat) (u28_2 : Option Nat) (u28_3 : Option Nat) (u28_4 : Option Nat) (p5 : Int32) (hl : gh_lv ls 9 [(0, va_rf u28_0), (1, va_rf u28_1), (2, va_rf u28_2), (3, va_rf u28_3), (4, va_rf u28_4), (5, .int p5)]) (h : gh_run (f_L_law_581 u28_0 u28_1 u28_2 u28_3 u28_4 p5) g = some o) (hk : (gh_K1 x (gh_K0 x gh_rI) (gp_L_law_28 x u28_0 u28_1 u28_2 u28_3 u28_4)) o) : gh_Wd x g (F0 (gh_cm x) 581 ls []) := by
  unfold f_L_law_581 at h
  refine gr_goto (pc := 581) (tgt := 2245) C rfl dL_law_581 ?_
  exact w_L_law_2245 C u28_0 u28_1 u28_2 u28_3 u28_4 p5 (gl_sub hl [0, 1, 2, 3, 4, 5] rfl) h hk

noncomputable def f_L_law_525 (u28_0 : Option Nat) (u28_1 : Option Nat) (u28_2 : Option Nat) (u28_3 : Option Nat) (u28_4 : Option Nat) (p5 : Int32) : gh_M ((Int32) ⊕ Int32) :=
  f_L_law_2245 u28_0 u28_1 u28_2 u28_3 u28_4 p5
theorem w_L_law_525 {x : gh_C} {g : gh_G} {o : (((Int32) ⊕ Int32) ⊕ gh_X) × gh_G} {ls : Array Slot} (C : gh_K x cL_law "GargoyleTowerLaw" 9 (some .boolean) "law" 57 1233 []) (u28_0 : Option Nat) (u28_1 : Option Nat) (u28_2 : Option Nat) (u28_3 : Option Nat) (u28_4 : Option Nat) (p5 : Int32) (hl : gh_lv ls 9 [(0, va_rf u28_0), (1, va_rf u28_1), (2, va_rf u28_2), (3, va_rf u28_3), (4, va_rf u28_4), (5, .int p5)]) (h : gh_run (f_L_law_525 u28_0 u28_1 u28_2 u28_3 u28_4 p5) g = some o) (hk : (gh_K1 x (gh_K0 x gh_rI) (gp_L_law_28 x u28_0 u28_1 u28_2 u28_3 u28_4)) o) : gh_Wd x g (F0 (gh_cm x) 525 ls []) := by
  unfold f_L_law_525 at h
  refine gr_goto (pc := 525) (tgt := 2245) C rfl dL_law_525 ?_
  exact w_L_law_2245 C u28_0 u28_1 u28_2 u28_3 u28_4 p5 (gl_sub hl [0, 1, 2, 3, 4, 5] rfl) h hk

noncomputable def f_L_law_469 (u28_0 : Option Nat) (u28_1 : Option Nat) (u28_2 : Option Nat) (u28_3 : Option Nat) (u28_4 : Option Nat) (p5 : Int32) : gh_M ((Int32) ⊕ Int32) :=
  f_L_law_2245 u28_0 u28_1 u28_2 u28_3 u28_4 p5
theorem w_L_law_469 {x : gh_C} {g : gh_G} {o : (((Int32) ⊕ Int32) ⊕ gh_X) × gh_G} {ls : Array Slot} (C : gh_K x cL_law "GargoyleTowerLaw" 9 (some .boolean) "law" 57 1233 []) (u28_0 : Option Nat) (u28_1 : Option Nat) (u28_2 : Option Nat) (u28_3 : Option Nat) (u28_4 : Option Nat) (p5 : Int32) (hl : gh_lv ls 9 [(0, va_rf u28_0), (1, va_rf u28_1), (2, va_rf u28_2), (3, va_rf u28_3), (4, va_rf u28_4), (5, .int p5)]) (h : gh_run (f_L_law_469 u28_0 u28_1 u28_2 u28_3 u28_4 p5) g = some o) (hk : (gh_K1 x (gh_K0 x gh_rI) (gp_L_law_28 x u28_0 u28_1 u28_2 u28_3 u28_4)) o) : gh_Wd x g (F0 (gh_cm x) 469 ls []) := by
  unfold f_L_law_469 at h
  refine gr_goto (pc := 469) (tgt := 2245) C rfl dL_law_469 ?_
  exact w_L_law_2245 C u28_0 u28_1 u28_2 u28_3 u28_4 p5 (gl_sub hl [0, 1, 2, 3, 4, 5] rfl) h hk

noncomputable def f_L_law_401 (u28_0 : Option Nat) (u28_1 : Option Nat) (u28_2 : Option Nat) (u28_3 : Option Nat) (u28_4 : Option Nat) (p5 : Int32) : gh_M ((Int32) ⊕ Int32) :=
  f_L_law_2245 u28_0 u28_1 u28_2 u28_3 u28_4 p5
theorem w_L_law_401 {x : gh_C} {g : gh_G} {o : (((Int32) ⊕ Int32) ⊕ gh_X) × gh_G} {ls : Array Slot} (C : gh_K x cL_law "GargoyleTowerLaw" 9 (some .boolean) "law" 57 1233 []) (u28_0 : Option Nat) (u28_1 : Option Nat) (u28_2 : Option Nat) (u28_3 : Option Nat) (u28_4 : Option Nat) (p5 : Int32) (hl : gh_lv ls 9 [(0, va_rf u28_0), (1, va_rf u28_1), (2, va_rf u28_2), (3, va_rf u28_3), (4, va_rf u28_4), (5, .int p5)]) (h : gh_run (f_L_law_401 u28_0 u28_1 u28_2 u28_3 u28_4 p5) g = some o) (hk : (gh_K1 x (gh_K0 x gh_rI) (gp_L_law_28 x u28_0 u28_1 u28_2 u28_3 u28_4)) o) : gh_Wd x g (F0 (gh_cm x) 401 ls []) := by
  unfold f_L_law_401 at h
  refine gr_goto (pc := 401) (tgt := 2245) C rfl dL_law_401 ?_
  exact w_L_law_2245 C u28_0 u28_1 u28_2 u28_3 u28_4 p5 (gl_sub hl [0, 1, 2, 3, 4, 5] rfl) h hk

noncomputable def f_L_law_357 (u28_0 : Option Nat) (u28_1 : Option Nat) (u28_2 : Option Nat) (u28_3 : Option Nat) (u28_4 : Option Nat) (p5 : Int32) : gh_M ((Int32) ⊕ Int32) :=
  f_L_law_2245 u28_0 u28_1 u28_2 u28_3 u28_4 p5
theorem w_L_law_357 {x : gh_C} {g : gh_G} {o : (((Int32) ⊕ Int32) ⊕ gh_X) × gh_G} {ls : Array Slot} (C : gh_K x cL_law "GargoyleTowerLaw" 9 (some .boolean) "law" 57 1233 []) (u28_0 : Option Nat) (u28_1 : Option Nat) (u28_2 : Option Nat) (u28_3 : Option Nat) (u28_4 : Option Nat) (p5 : Int32) (hl : gh_lv ls 9 [(0, va_rf u28_0), (1, va_rf u28_1), (2, va_rf u28_2), (3, va_rf u28_3), (4, va_rf u28_4), (5, .int p5)]) (h : gh_run (f_L_law_357 u28_0 u28_1 u28_2 u28_3 u28_4 p5) g = some o) (hk : (gh_K1 x (gh_K0 x gh_rI) (gp_L_law_28 x u28_0 u28_1 u28_2 u28_3 u28_4)) o) : gh_Wd x g (F0 (gh_cm x) 357 ls []) := by
  unfold f_L_law_357 at h
  refine gr_goto (pc := 357) (tgt := 2245) C rfl dL_law_357 ?_
  exact w_L_law_2245 C u28_0 u28_1 u28_2 u28_3 u28_4 p5 (gl_sub hl [0, 1, 2, 3, 4, 5] rfl) h hk

noncomputable def f_L_law_289 (u28_0 : Option Nat) (u28_1 : Option Nat) (u28_2 : Option Nat) (u28_3 : Option Nat) (u28_4 : Option Nat) (p5 : Int32) : gh_M ((Int32) ⊕ Int32) :=
  f_L_law_2245 u28_0 u28_1 u28_2 u28_3 u28_4 p5
theorem w_L_law_289 {x : gh_C} {g : gh_G} {o : (((Int32) ⊕ Int32) ⊕ gh_X) × gh_G} {ls : Array Slot} (C : gh_K x cL_law "GargoyleTowerLaw" 9 (some .boolean) "law" 57 1233 []) (u28_0 : Option Nat) (u28_1 : Option Nat) (u28_2 : Option Nat) (u28_3 : Option Nat) (u28_4 : Option Nat) (p5 : Int32) (hl : gh_lv ls 9 [(0, va_rf u28_0), (1, va_rf u28_1), (2, va_rf u28_2), (3, va_rf u28_3), (4, va_rf u28_4), (5, .int p5)]) (h : gh_run (f_L_law_289 u28_0 u28_1 u28_2 u28_3 u28_4 p5) g = some o) (hk : (gh_K1 x (gh_K0 x gh_rI) (gp_L_law_28 x u28_0 u28_1 u28_2 u28_3 u28_4)) o) : gh_Wd x g (F0 (gh_cm x) 289 ls []) := by
  unfold f_L_law_289 at h
  refine gr_goto (pc := 289) (tgt := 2245) C rfl dL_law_289 ?_
  exact w_L_law_2245 C u28_0 u28_1 u28_2 u28_3 u28_4 p5 (gl_sub hl [0, 1, 2, 3, 4, 5] rfl) h hk

noncomputable def f_L_law_256 (u28_0 : Option Nat) (u28_1 : Option Nat) (u28_2 : Option Nat) (u28_3 : Option Nat) (u28_4 : Option Nat) (p5 : Int32) (p6 : Int32) (s0 : Option Nat) (s1 : Int32) (s2 : Int32) : gh_M ((Int32) ⊕ Int32) :=
  gh_nn s0 fun a1 =>
  gh_bd (gh_is a1 3) fun _ =>
  gh_bd (f_X4_block a1 s1 s2) fun v2 =>
  gh_nn u28_2 fun a3 =>
  gh_bd (gh_is a3 3) fun _ =>
  gh_bd (f_X4_thrown a3) fun v4 =>
  if v4 = p6 then
  (if p6 = 0 then
  (gh_nn u28_3 fun a5 =>
  gh_bd (gh_lald a5 (0 : Int32)) fun v6 =>
  if (gh_lc v6 v2.toInt64) = 0 then
  (f_L_law_289 u28_0 u28_1 (some a3) (some a5) u28_4 p5)
  else
  (gh_up (gh_rz .boolean (0 : Int32))))
  else
  (f_L_law_289 u28_0 u28_1 (some a3) u28_3 u28_4 p5))
  else
  (gh_up (gh_rz .boolean (0 : Int32)))
theorem w_L_law_256 {x : gh_C} {g : gh_G} {o : (((Int32) ⊕ Int32) ⊕ gh_X) × gh_G} {ls : Array Slot} (C : gh_K x cL_law "GargoyleTowerLaw" 9 (some .boolean) "law" 57 1233 []) (u28_0 : Option Nat) (u28_1 : Option Nat) (u28_2 : Option Nat) (u28_3 : Option Nat) (u28_4 : Option Nat) (p5 : Int32) (p6 : Int32) (s0 : Option Nat) (s1 : Int32) (s2 : Int32) (hl : gh_lv ls 9 [(0, va_rf u28_0), (1, va_rf u28_1), (2, va_rf u28_2), (3, va_rf u28_3), (4, va_rf u28_4), (5, .int p5), (6, .int p6)]) (h : gh_run (f_L_law_256 u28_0 u28_1 u28_2 u28_3 u28_4 p5 p6 s0 s1 s2) g = some o) (hk : (gh_K1 x (gh_K0 x gh_rI) (gp_L_law_28 x u28_0 u28_1 u28_2 u28_3 u28_4)) o) : gh_Wd x g (F0 (gh_cm x) 256 ls [.int s2, .int s1, va_rf s0]) := by
  unfold f_L_law_256 at h
  rcases s0 with _ | a1
  · exact gh_stk_inv h
  replace h := gh_nn_ss h
  obtain ⟨⟨fs9, hg9⟩, h⟩ := gh_is_inv h
  refine gh_callI (pc := 256) (rest := []) C (k_X4_block C.tr a1 s1 s2) (Nat.le_of_ble_eq_true rfl) (Nat.le_of_ble_eq_true rfl) (gh_r4 (Nat.le_of_ble_eq_true rfl)) (fun H9 L9 hp9 => gi_V C hp9 hg9 gh_cX4 q2381 q2382 q2383 q2384 mh_X4 np62 rfl hl.1.1 dL_law_256 rfl) h ((gh_K1_b gh_K0_b) _ hk) (fun v2 g h => ?_) (fun e g h => ?_)
  rotate_left
  ·
    obtain ⟨o, h, hk⟩ := gh_K1_thr h hk
    exact gh_out C (fun _ h => nomatch h) h hk
  refine gr_istore (pc := 259) (i := 7) (l' := [(7, .int v2), (0, va_rf u28_0), (1, va_rf u28_1), (2, va_rf u28_2), (3, va_rf u28_3), (4, va_rf u28_4), (5, .int p5), (6, .int p6)]) C hl (Nat.le_of_ble_eq_true rfl) rfl dL_law_259 fun ls hl => ?_
  refine gr_aload_n (pc := 261) (i := 2) C rfl (gl_at hl 3 rfl) dL_law_261 ?_
  rcases u28_2 with _ | a3
  · exact gh_stk_inv h
  replace h := gh_nn_ss h
  obtain ⟨⟨fs9, hg9⟩, h⟩ := gh_is_inv h
  refine gh_callI (pc := 262) (rest := []) C (k_X4_thrown C.tr a3) (Nat.le_of_ble_eq_true rfl) (Nat.le_of_ble_eq_true rfl) (gh_r4 (Nat.le_of_ble_eq_true rfl)) (fun H9 L9 hp9 => gi_V C hp9 hg9 gh_cX4 q2377 q2378 q2379 q2380 mh_X4 np0 rfl hl.1.1 dL_law_262 rfl) h ((gh_K1_b gh_K0_b) _ hk) (fun v4 g h => ?_) (fun e g h => ?_)
  rotate_left
  ·
    obtain ⟨o, h, hk⟩ := gh_K1_thr h hk
    exact gh_out C (fun _ h => nomatch h) h hk
  refine gr_iload (pc := 265) (i := 6) C (gl_at hl 7 rfl) dL_law_265 ?_
  refine gr_icmp_eq (pc := 267) (tgt := 272) C rfl dL_law_267 (fun c9 => ?_) (fun c9 => ?_)
  · replace h := gh_ift h c9
    refine gr_iload (pc := 272) (i := 6) C (gl_at hl 7 rfl) dL_law_272 ?_
    refine gr_if_ne (pc := 274) (tgt := 289) C rfl dL_law_274 (fun c9 => ?_) (fun c9 => ?_)
    · replace h := gh_iff h c9
      exact w_L_law_289 C u28_0 u28_1 (some a3) u28_3 u28_4 p5 (gl_sub hl [1, 2, 3, 4, 5, 6] rfl) h hk
    · replace h := gh_ift h c9
      refine gr_aload_n (pc := 277) (i := 3) C rfl (gl_at hl 4 rfl) dL_law_277 ?_
      refine gr_iconst (pc := 278) (v := (0 : Int32)) C rfl dL_law_278 ?_
      rcases u28_3 with _ | a5
      · exact gh_stk_inv h
      replace h := gh_nn_ss h
      refine gr_lald (pc := 279) C dL_law_279 h fun v6 h => ?_
      refine gr_iload (pc := 280) (i := 7) C (gl_at hl 0 rfl) dL_law_280 ?_
      refine gr_i2l (pc := 282) (v := v2.toInt64) C rfl dL_law_282 ?_
      refine gr_lcmp (pc := 283) C dL_law_283 ?_
      refine gr_if_eq (pc := 284) (tgt := 289) C rfl dL_law_284 (fun c9 => ?_) (fun c9 => ?_)
      · replace h := gh_ift h c9
        exact w_L_law_289 C u28_0 u28_1 (some a3) (some a5) u28_4 p5 (gl_sub hl [1, 2, 3, 4, 5, 6] rfl) h hk
      · replace h := gh_iff h c9
        refine gr_iconst (pc := 287) (v := (0 : Int32)) C rfl dL_law_287 ?_
        obtain ⟨o, h, hk⟩ := gh_K1_up h hk
        exact gr_bret (pc := 288) C dL_law_288 h hk
  · replace h := gh_iff h c9
    refine gr_iconst (pc := 270) (v := (0 : Int32)) C rfl dL_law_270 ?_
    obtain ⟨o, h, hk⟩ := gh_K1_up h hk
    exact gr_bret (pc := 271) C dL_law_271 h hk

noncomputable def f_L_law_229 (u28_0 : Option Nat) (u28_1 : Option Nat) (u28_2 : Option Nat) (u28_3 : Option Nat) (u28_4 : Option Nat) (p5 : Int32) (s0 : Option Nat) (s1 : Int32) (s2 : Int32) : gh_M ((Int32) ⊕ Int32) :=
  gh_bd (f_X0_block s0 s1 s2 u28_3) fun v1 =>
  gh_nn u28_0 fun a2 =>
  gh_bd (gh_iald 0 a2 (p5 + (1 : Int32))) fun v3 =>
  gh_bd (gh_iald 0 a2 (p5 + (2 : Int32))) fun v4 =>
  if v4 = 0 then
  (f_L_law_256 (some a2) u28_1 u28_2 u28_3 u28_4 p5 v1 u28_2 v3 (0 : Int32))
  else
  (f_L_law_256 (some a2) u28_1 u28_2 u28_3 u28_4 p5 v1 u28_2 v3 (1 : Int32))
theorem w_L_law_229 {x : gh_C} {g : gh_G} {o : (((Int32) ⊕ Int32) ⊕ gh_X) × gh_G} {ls : Array Slot} (C : gh_K x cL_law "GargoyleTowerLaw" 9 (some .boolean) "law" 57 1233 []) (u28_0 : Option Nat) (u28_1 : Option Nat) (u28_2 : Option Nat) (u28_3 : Option Nat) (u28_4 : Option Nat) (p5 : Int32) (s0 : Option Nat) (s1 : Int32) (s2 : Int32) (hl : gh_lv ls 9 [(0, va_rf u28_0), (1, va_rf u28_1), (2, va_rf u28_2), (3, va_rf u28_3), (4, va_rf u28_4), (5, .int p5)]) (h : gh_run (f_L_law_229 u28_0 u28_1 u28_2 u28_3 u28_4 p5 s0 s1 s2) g = some o) (hk : (gh_K1 x (gh_K0 x gh_rI) (gp_L_law_28 x u28_0 u28_1 u28_2 u28_3 u28_4)) o) : gh_Wd x g (F0 (gh_cm x) 229 ls [.int s2, .int s1, va_rf s0]) := by
  unfold f_L_law_229 at h
  refine gr_aload_n (pc := 229) (i := 3) C rfl (gl_at hl 3 rfl) dL_law_229 ?_
  refine gh_callI (pc := 230) (rest := []) C (k_X0_block C.tr s0 s1 s2 u28_3) (Nat.le_of_ble_eq_true rfl) (Nat.le_of_ble_eq_true rfl) (gh_r4 (Nat.le_of_ble_eq_true rfl)) (fun H9 L9 hp9 => gi_SX C q1097 q1098 q74 q1099 mh_X0 np91 rfl hl.1.1 dL_law_230 rfl) h ((gh_K1_b gh_K0_b) _ hk) (fun v1 g h => ?_) (fun e g h => ?_)
  rotate_left
  ·
    obtain ⟨o, h, hk⟩ := gh_K1_thr h hk
    exact gh_out C (fun _ h => nomatch h) h hk
  refine gr_istore (pc := 233) (i := 6) (l' := [(6, .int v1), (0, va_rf u28_0), (1, va_rf u28_1), (2, va_rf u28_2), (3, va_rf u28_3), (4, va_rf u28_4), (5, .int p5)]) C hl (Nat.le_of_ble_eq_true rfl) rfl dL_law_233 fun ls hl => ?_
  refine gr_aload_n (pc := 235) (i := 2) C rfl (gl_at hl 3 rfl) dL_law_235 ?_
  refine gr_aload_n (pc := 236) (i := 0) C rfl (gl_at hl 1 rfl) dL_law_236 ?_
  refine gr_iload (pc := 237) (i := 5) C (gl_at hl 6 rfl) dL_law_237 ?_
  refine gr_iconst (pc := 239) (v := (1 : Int32)) C rfl dL_law_239 ?_
  refine gr_iadd (pc := 240) C dL_law_240 ?_
  rcases u28_0 with _ | a2
  · exact gh_stk_inv h
  replace h := gh_nn_ss h
  refine gr_iald (pc := 241) C dL_law_241 h fun v3 h => ?_
  refine gr_aload_n (pc := 242) (i := 0) C rfl (gl_at hl 1 rfl) dL_law_242 ?_
  refine gr_iload (pc := 243) (i := 5) C (gl_at hl 6 rfl) dL_law_243 ?_
  refine gr_iconst (pc := 245) (v := (2 : Int32)) C rfl dL_law_245 ?_
  refine gr_iadd (pc := 246) C dL_law_246 ?_
  refine gr_iald (pc := 247) C dL_law_247 h fun v4 h => ?_
  refine gr_if_eq (pc := 248) (tgt := 255) C rfl dL_law_248 (fun c9 => ?_) (fun c9 => ?_)
  · replace h := gh_ift h c9
    refine gr_iconst (pc := 255) (v := (0 : Int32)) C rfl dL_law_255 ?_
    exact w_L_law_256 C (some a2) u28_1 u28_2 u28_3 u28_4 p5 v1 u28_2 v3 (0 : Int32) (gl_sub hl [1, 2, 3, 4, 5, 6, 0] rfl) h hk
  · replace h := gh_iff h c9
    refine gr_iconst (pc := 251) (v := (1 : Int32)) C rfl dL_law_251 ?_
    refine gr_goto (pc := 252) (tgt := 256) C rfl dL_law_252 ?_
    exact w_L_law_256 C (some a2) u28_1 u28_2 u28_3 u28_4 p5 v1 u28_2 v3 (1 : Int32) (gl_sub hl [1, 2, 3, 4, 5, 6, 0] rfl) h hk

noncomputable def f_L_law_28_l (u28_0 : Option Nat) (u28_1 : Option Nat) (u28_2 : Option Nat) (u28_3 : Option Nat) (u28_4 : Option Nat) (p5 : Int32) : gh_M ((Int32) ⊕ Int32) :=
  gh_nn u28_0 fun a1 =>
  gh_bd (gh_alen a1) fun v2 =>
  if (v2 - (4 : Int32)) < p5 then
  (gh_up (gh_rz .boolean (1 : Int32)))
  else
  (gh_bd (gh_iald 0 a1 p5) fun v3 =>
  if (v3 &&& (63 : Int32)) = (0 : Int32) then
  (gh_bd (gh_iald 0 a1 (p5 + (1 : Int32))) fun v4 =>
  gh_bd (gh_iald 0 a1 (p5 + (2 : Int32))) fun v5 =>
  if v5 = 0 then
  (f_L_law_229 (some a1) u28_1 u28_2 u28_3 u28_4 p5 u28_1 v4 (0 : Int32))
  else
  (f_L_law_229 (some a1) u28_1 u28_2 u28_3 u28_4 p5 u28_1 v4 (1 : Int32)))
  else if (v3 &&& (63 : Int32)) = (1 : Int32) then
  (gh_bd (gh_iald 0 a1 (p5 + (1 : Int32))) fun v6 =>
  gh_bd (gh_iald 0 a1 (p5 + (2 : Int32))) fun v7 =>
  gh_bd (f_X0_carve u28_1 v6 v7 u28_3) fun v8 =>
  gh_bd (gh_iald 0 a1 (p5 + (1 : Int32))) fun v9 =>
  gh_bd (gh_iald 0 a1 (p5 + (2 : Int32))) fun v10 =>
  gh_nn u28_2 fun a11 =>
  gh_bd (gh_is a11 3) fun _ =>
  gh_bd (f_X4_carve a11 v9 v10) fun v12 =>
  gh_bd (gh_is a11 3) fun _ =>
  gh_bd (f_X4_thrown a11) fun v13 =>
  if v13 = v8 then
  (if v8 = 0 then
  (gh_nn u28_3 fun a14 =>
  gh_bd (gh_lald a14 (0 : Int32)) fun v15 =>
  if (gh_lc v15 v12.toInt64) = 0 then
  (f_L_law_357 (some a1) u28_1 (some a11) (some a14) u28_4 p5)
  else
  (gh_up (gh_rz .boolean (0 : Int32))))
  else
  (f_L_law_357 (some a1) u28_1 (some a11) u28_3 u28_4 p5))
  else
  (gh_up (gh_rz .boolean (0 : Int32))))
  else if (v3 &&& (63 : Int32)) = (2 : Int32) then
  (gh_bd (f_X0_whet u28_1 u28_3) fun v16 =>
  gh_nn u28_2 fun a17 =>
  gh_bd (gh_is a17 3) fun _ =>
  gh_bd (f_X4_whet a17) fun v18 =>
  gh_bd (gh_is a17 3) fun _ =>
  gh_bd (f_X4_thrown a17) fun v19 =>
  if v19 = v16 then
  (if v16 = 0 then
  (gh_nn u28_3 fun a20 =>
  gh_bd (gh_lald a20 (0 : Int32)) fun v21 =>
  if (gh_lc v21 v18.toInt64) = 0 then
  (f_L_law_401 (some a1) u28_1 (some a17) (some a20) u28_4 p5)
  else
  (gh_up (gh_rz .boolean (0 : Int32))))
  else
  (f_L_law_401 (some a1) u28_1 (some a17) u28_3 u28_4 p5))
  else
  (gh_up (gh_rz .boolean (0 : Int32))))
  else if (v3 &&& (63 : Int32)) = (3 : Int32) then
  (gh_bd (gh_iald 0 a1 (p5 + (1 : Int32))) fun v22 =>
  gh_bd (gh_iald 0 a1 (p5 + (2 : Int32))) fun v23 =>
  gh_bd (f_X0_blockOf u28_1 v22 v23 u28_3) fun v24 =>
  gh_bd (gh_iald 0 a1 (p5 + (1 : Int32))) fun v25 =>
  gh_bd (gh_iald 0 a1 (p5 + (2 : Int32))) fun v26 =>
  gh_nn u28_2 fun a27 =>
  gh_bd (gh_is a27 3) fun _ =>
  gh_bd (f_X4_blockOf a27 v25 v26) fun v28 =>
  gh_bd (gh_is a27 3) fun _ =>
  gh_bd (f_X4_thrown a27) fun v29 =>
  if v29 = v24 then
  (if v24 = 0 then
  (gh_nn u28_3 fun a30 =>
  gh_bd (gh_lald a30 (0 : Int32)) fun v31 =>
  if (gh_lc v31 v28.toInt64) = 0 then
  (f_L_law_469 (some a1) u28_1 (some a27) (some a30) u28_4 p5)
  else
  (gh_up (gh_rz .boolean (0 : Int32))))
  else
  (f_L_law_469 (some a1) u28_1 (some a27) u28_3 u28_4 p5))
  else
  (gh_up (gh_rz .boolean (0 : Int32))))
  else if (v3 &&& (63 : Int32)) = (4 : Int32) then
  (gh_bd (gh_iald 0 a1 (p5 + (1 : Int32))) fun v32 =>
  gh_bd (f_X0_ranked u28_1 v32 u28_3) fun v33 =>
  gh_bd (gh_iald 0 a1 (p5 + (1 : Int32))) fun v34 =>
  gh_nn u28_2 fun a35 =>
  gh_bd (gh_is a35 3) fun _ =>
  gh_bd (f_X4_ranked a35 v34) fun v36 =>
  gh_bd (gh_is a35 3) fun _ =>
  gh_bd (f_X4_thrown a35) fun v37 =>
  if v37 = v33 then
  (if v33 = 0 then
  (gh_nn u28_3 fun a38 =>
  gh_bd (gh_lald a38 (0 : Int32)) fun v39 =>
  if (gh_lc v39 v36.toInt64) = 0 then
  (f_L_law_525 (some a1) u28_1 (some a35) (some a38) u28_4 p5)
  else
  (gh_up (gh_rz .boolean (0 : Int32))))
  else
  (f_L_law_525 (some a1) u28_1 (some a35) u28_3 u28_4 p5))
  else
  (gh_up (gh_rz .boolean (0 : Int32))))
  else if (v3 &&& (63 : Int32)) = (5 : Int32) then
  (gh_bd (gh_iald 0 a1 (p5 + (1 : Int32))) fun v40 =>
  gh_bd (f_X0_rope u28_1 v40 u28_3) fun v41 =>
  gh_bd (gh_iald 0 a1 (p5 + (1 : Int32))) fun v42 =>
  gh_nn u28_2 fun a43 =>
  gh_bd (gh_is a43 3) fun _ =>
  gh_bd (f_X4_rope a43 v42) fun v44 =>
  gh_bd (gh_is a43 3) fun _ =>
  gh_bd (f_X4_thrown a43) fun v45 =>
  if v45 = v41 then
  (if v41 = 0 then
  (gh_nn u28_3 fun a46 =>
  gh_bd (gh_lald a46 (0 : Int32)) fun v47 =>
  if (gh_lc v47 v44.toInt64) = 0 then
  (f_L_law_581 (some a1) u28_1 (some a43) (some a46) u28_4 p5)
  else
  (gh_up (gh_rz .boolean (0 : Int32))))
  else
  (f_L_law_581 (some a1) u28_1 (some a43) u28_3 u28_4 p5))
  else
  (gh_up (gh_rz .boolean (0 : Int32))))
  else if (v3 &&& (63 : Int32)) = (6 : Int32) then
  (gh_bd (gh_iald 0 a1 (p5 + (1 : Int32))) fun v48 =>
  gh_bd (gh_iald 0 a1 (p5 + (2 : Int32))) fun v49 =>
  gh_bd (f_X0_ropeOf u28_1 v48 v49 u28_3) fun v50 =>
  gh_bd (gh_iald 0 a1 (p5 + (1 : Int32))) fun v51 =>
  gh_bd (gh_iald 0 a1 (p5 + (2 : Int32))) fun v52 =>
  gh_nn u28_2 fun a53 =>
  gh_bd (gh_is a53 3) fun _ =>
  gh_bd (f_X4_ropeOf a53 v51 v52) fun v54 =>
  gh_bd (gh_is a53 3) fun _ =>
  gh_bd (f_X4_thrown a53) fun v55 =>
  if v55 = v50 then
  (if v50 = 0 then
  (gh_nn u28_3 fun a56 =>
  gh_bd (gh_lald a56 (0 : Int32)) fun v57 =>
  if (gh_lc v57 v54.toInt64) = 0 then
  (f_L_law_649 (some a1) u28_1 (some a53) (some a56) u28_4 p5)
  else
  (gh_up (gh_rz .boolean (0 : Int32))))
  else
  (f_L_law_649 (some a1) u28_1 (some a53) u28_3 u28_4 p5))
  else
  (gh_up (gh_rz .boolean (0 : Int32))))
  else if (v3 &&& (63 : Int32)) = (7 : Int32) then
  (gh_bd (gh_iald 0 a1 (p5 + (1 : Int32))) fun v58 =>
  gh_bd (gh_iald 0 a1 (p5 + (2 : Int32))) fun v59 =>
  gh_bd (f_X0_hoist u28_1 v58 v59 u28_3) fun v60 =>
  gh_bd (gh_iald 0 a1 (p5 + (1 : Int32))) fun v61 =>
  gh_bd (gh_iald 0 a1 (p5 + (2 : Int32))) fun v62 =>
  gh_nn u28_2 fun a63 =>
  gh_bd (gh_is a63 3) fun _ =>
  gh_bd (f_X4_hoist a63 v61 v62) fun v64 =>
  gh_bd (gh_is a63 3) fun _ =>
  gh_bd (f_X4_thrown a63) fun v65 =>
  if v65 = v60 then
  (if v60 = 0 then
  (gh_nn u28_3 fun a66 =>
  gh_bd (gh_lald a66 (0 : Int32)) fun v67 =>
  if (gh_lc v67 v64.toInt64) = 0 then
  (f_L_law_717 (some a1) u28_1 (some a63) (some a66) u28_4 p5)
  else
  (gh_up (gh_rz .boolean (0 : Int32))))
  else
  (f_L_law_717 (some a1) u28_1 (some a63) u28_3 u28_4 p5))
  else
  (gh_up (gh_rz .boolean (0 : Int32))))
  else if (v3 &&& (63 : Int32)) = (8 : Int32) then
  (gh_bd (gh_iald 0 a1 (p5 + (1 : Int32))) fun v68 =>
  gh_bd (f_X0_lower u28_1 v68 u28_3) fun v69 =>
  gh_bd (gh_iald 0 a1 (p5 + (1 : Int32))) fun v70 =>
  gh_nn u28_2 fun a71 =>
  gh_bd (gh_is a71 3) fun _ =>
  gh_bd (f_X4_lower a71 v70) fun v72 =>
  gh_bd (gh_is a71 3) fun _ =>
  gh_bd (f_X4_thrown a71) fun v73 =>
  if v73 = v69 then
  (if v69 = 0 then
  (gh_nn u28_3 fun a74 =>
  gh_bd (gh_lald a74 (0 : Int32)) fun v75 =>
  if (gh_lc v75 v72.toInt64) = 0 then
  (f_L_law_773 (some a1) u28_1 (some a71) (some a74) u28_4 p5)
  else
  (gh_up (gh_rz .boolean (0 : Int32))))
  else
  (f_L_law_773 (some a1) u28_1 (some a71) u28_3 u28_4 p5))
  else
  (gh_up (gh_rz .boolean (0 : Int32))))
  else if (v3 &&& (63 : Int32)) = (9 : Int32) then
  (gh_bd (gh_iald 0 a1 (p5 + (1 : Int32))) fun v76 =>
  gh_bd (gh_iald 0 a1 (p5 + (2 : Int32))) fun v77 =>
  gh_bd (f_X0_set u28_1 v76 v77 u28_3) fun v78 =>
  gh_bd (gh_iald 0 a1 (p5 + (1 : Int32))) fun v79 =>
  gh_bd (gh_iald 0 a1 (p5 + (2 : Int32))) fun v80 =>
  gh_nn u28_2 fun a81 =>
  gh_bd (gh_is a81 3) fun _ =>
  gh_bd (f_X4_set a81 v79 v80) fun v82 =>
  gh_bd (gh_is a81 3) fun _ =>
  gh_bd (f_X4_thrown a81) fun v83 =>
  if v83 = v78 then
  (if v78 = 0 then
  (gh_nn u28_3 fun a84 =>
  gh_bd (gh_lald a84 (0 : Int32)) fun v85 =>
  if (gh_lc v85 v82.toInt64) = 0 then
  (f_L_law_841 (some a1) u28_1 (some a81) (some a84) u28_4 p5)
  else
  (gh_up (gh_rz .boolean (0 : Int32))))
  else
  (f_L_law_841 (some a1) u28_1 (some a81) u28_3 u28_4 p5))
  else
  (gh_up (gh_rz .boolean (0 : Int32))))
  else if (v3 &&& (63 : Int32)) = (10 : Int32) then
  (gh_bd (gh_iald 0 a1 (p5 + (1 : Int32))) fun v86 =>
  gh_bd (f_X0_blockIn u28_1 v86 u28_3) fun v87 =>
  gh_bd (gh_iald 0 a1 (p5 + (1 : Int32))) fun v88 =>
  gh_nn u28_2 fun a89 =>
  gh_bd (gh_is a89 3) fun _ =>
  gh_bd (f_X4_blockIn a89 v88) fun v90 =>
  gh_bd (gh_is a89 3) fun _ =>
  gh_bd (f_X4_thrown a89) fun v91 =>
  if v91 = v87 then
  (if v87 = 0 then
  (gh_nn u28_3 fun a92 =>
  gh_bd (gh_lald a92 (0 : Int32)) fun v93 =>
  if (gh_lc v93 v90.toInt64) = 0 then
  (f_L_law_897 (some a1) u28_1 (some a89) (some a92) u28_4 p5)
  else
  (gh_up (gh_rz .boolean (0 : Int32))))
  else
  (f_L_law_897 (some a1) u28_1 (some a89) u28_3 u28_4 p5))
  else
  (gh_up (gh_rz .boolean (0 : Int32))))
  else if (v3 &&& (63 : Int32)) = (11 : Int32) then
  (gh_bd (gh_iald 0 a1 (p5 + (1 : Int32))) fun v94 =>
  gh_bd (f_X0_weightOn u28_1 v94 u28_3) fun v95 =>
  gh_bd (gh_iald 0 a1 (p5 + (1 : Int32))) fun v96 =>
  gh_nn u28_2 fun a97 =>
  gh_bd (gh_is a97 3) fun _ =>
  gh_bd (f_X4_weightOn a97 v96) fun v98 =>
  gh_bd (gh_is a97 3) fun _ =>
  gh_bd (f_X4_thrown a97) fun v99 =>
  if v99 = v95 then
  (if v95 = 0 then
  (gh_nn u28_3 fun a100 =>
  gh_bd (gh_lald a100 (0 : Int32)) fun v101 =>
  if (gh_lc v101 v98.toInt64) = 0 then
  (f_L_law_953 (some a1) u28_1 (some a97) (some a100) u28_4 p5)
  else
  (gh_up (gh_rz .boolean (0 : Int32))))
  else
  (f_L_law_953 (some a1) u28_1 (some a97) u28_3 u28_4 p5))
  else
  (gh_up (gh_rz .boolean (0 : Int32))))
  else if (v3 &&& (63 : Int32)) = (12 : Int32) then
  (gh_bd (gh_iald 0 a1 (p5 + (1 : Int32))) fun v102 =>
  gh_bd (f_X0_wouldFall u28_1 v102 u28_3) fun v103 =>
  gh_bd (gh_iald 0 a1 (p5 + (1 : Int32))) fun v104 =>
  gh_nn u28_2 fun a105 =>
  gh_bd (gh_is a105 3) fun _ =>
  gh_bd (f_X4_wouldFall a105 v104) fun v106 =>
  gh_bd (gh_is a105 3) fun _ =>
  gh_bd (f_X4_thrown a105) fun v107 =>
  if v107 = v103 then
  (if v103 = 0 then
  (gh_nn u28_3 fun a108 =>
  gh_bd (gh_lald a108 (0 : Int32)) fun v109 =>
  if (gh_lc v109 v106.toInt64) = 0 then
  (f_L_law_1009 (some a1) u28_1 (some a105) (some a108) u28_4 p5)
  else
  (gh_up (gh_rz .boolean (0 : Int32))))
  else
  (f_L_law_1009 (some a1) u28_1 (some a105) u28_3 u28_4 p5))
  else
  (gh_up (gh_rz .boolean (0 : Int32))))
  else if (v3 &&& (63 : Int32)) = (13 : Int32) then
  (gh_bd (gh_iald 0 a1 (p5 + (1 : Int32))) fun v110 =>
  gh_bd (f_X0_wouldFallAgain u28_1 v110 u28_3) fun v111 =>
  gh_bd (gh_iald 0 a1 (p5 + (1 : Int32))) fun v112 =>
  gh_nn u28_2 fun a113 =>
  gh_bd (gh_is a113 3) fun _ =>
  gh_bd (f_X4_wouldFallAgain a113 v112) fun v114 =>
  gh_bd (gh_is a113 3) fun _ =>
  gh_bd (f_X4_thrown a113) fun v115 =>
  if v115 = v111 then
  (if v111 = 0 then
  (gh_nn u28_3 fun a116 =>
  gh_bd (gh_lald a116 (0 : Int32)) fun v117 =>
  if (gh_lc v117 v114.toInt64) = 0 then
  (f_L_law_1065 (some a1) u28_1 (some a113) (some a116) u28_4 p5)
  else
  (gh_up (gh_rz .boolean (0 : Int32))))
  else
  (f_L_law_1065 (some a1) u28_1 (some a113) u28_3 u28_4 p5))
  else
  (gh_up (gh_rz .boolean (0 : Int32))))
  else if (v3 &&& (63 : Int32)) = (14 : Int32) then
  (gh_bd (gh_iald 0 a1 (p5 + (1 : Int32))) fun v118 =>
  gh_bd (f_X0_push u28_1 v118 u28_3) fun v119 =>
  gh_bd (gh_iald 0 a1 (p5 + (1 : Int32))) fun v120 =>
  gh_nn u28_2 fun a121 =>
  gh_bd (gh_is a121 3) fun _ =>
  gh_bd (f_X4_push a121 v120) fun v122 =>
  gh_bd (gh_is a121 3) fun _ =>
  gh_bd (f_X4_thrown a121) fun v123 =>
  if v123 = v119 then
  (if v119 = 0 then
  (gh_nn u28_3 fun a124 =>
  gh_bd (gh_lald a124 (0 : Int32)) fun v125 =>
  if (gh_lc v125 v122.toInt64) = 0 then
  (f_L_law_1121 (some a1) u28_1 (some a121) (some a124) u28_4 p5)
  else
  (gh_up (gh_rz .boolean (0 : Int32))))
  else
  (f_L_law_1121 (some a1) u28_1 (some a121) u28_3 u28_4 p5))
  else
  (gh_up (gh_rz .boolean (0 : Int32))))
  else if (v3 &&& (63 : Int32)) = (15 : Int32) then
  (gh_bd (gh_iald 0 a1 (p5 + (1 : Int32))) fun v126 =>
  gh_bd (gh_iald 0 a1 (p5 + (2 : Int32))) fun v127 =>
  gh_bd (gh_iald 0 a1 (p5 + (3 : Int32))) fun v128 =>
  gh_bd (f_X0_commission u28_1 v126 v127 v128 u28_3) fun v129 =>
  gh_bd (gh_iald 0 a1 (p5 + (1 : Int32))) fun v130 =>
  gh_bd (gh_iald 0 a1 (p5 + (2 : Int32))) fun v131 =>
  gh_bd (gh_iald 0 a1 (p5 + (3 : Int32))) fun v132 =>
  gh_nn u28_2 fun a133 =>
  gh_bd (gh_is a133 3) fun _ =>
  gh_bd (f_X4_commission a133 v130 v131 v132) fun v134 =>
  gh_bd (gh_is a133 3) fun _ =>
  gh_bd (f_X4_thrown a133) fun v135 =>
  if v135 = v129 then
  (if v129 = 0 then
  (gh_nn u28_3 fun a136 =>
  gh_bd (gh_lald a136 (0 : Int32)) fun v137 =>
  if (gh_lc v137 v134.toInt64) = 0 then
  (f_L_law_1201 (some a1) u28_1 (some a133) (some a136) u28_4 p5)
  else
  (gh_up (gh_rz .boolean (0 : Int32))))
  else
  (f_L_law_1201 (some a1) u28_1 (some a133) u28_3 u28_4 p5))
  else
  (gh_up (gh_rz .boolean (0 : Int32))))
  else if (v3 &&& (63 : Int32)) = (16 : Int32) then
  (gh_bd (gh_iald 0 a1 (p5 + (1 : Int32))) fun v138 =>
  gh_bd (gh_iald 0 a1 (p5 + (2 : Int32))) fun v139 =>
  gh_bd (f_X0_deliver u28_1 v138 v139 u28_3) fun v140 =>
  gh_bd (gh_iald 0 a1 (p5 + (1 : Int32))) fun v141 =>
  gh_bd (gh_iald 0 a1 (p5 + (2 : Int32))) fun v142 =>
  gh_nn u28_2 fun a143 =>
  gh_bd (gh_is a143 3) fun _ =>
  gh_bd (f_X4_deliver a143 v141 v142) fun v144 =>
  gh_bd (gh_is a143 3) fun _ =>
  gh_bd (f_X4_thrown a143) fun v145 =>
  if v145 = v140 then
  (if v140 = 0 then
  (gh_nn u28_3 fun a146 =>
  gh_bd (gh_lald a146 (0 : Int32)) fun v147 =>
  if (gh_lc v147 v144.toInt64) = 0 then
  (f_L_law_1269 (some a1) u28_1 (some a143) (some a146) u28_4 p5)
  else
  (gh_up (gh_rz .boolean (0 : Int32))))
  else
  (f_L_law_1269 (some a1) u28_1 (some a143) u28_3 u28_4 p5))
  else
  (gh_up (gh_rz .boolean (0 : Int32))))
  else if (v3 &&& (63 : Int32)) = (17 : Int32) then
  (gh_bd (gh_iald 0 a1 (p5 + (1 : Int32))) fun v148 =>
  gh_bd (gh_iald 0 a1 (p5 + (2 : Int32))) fun v149 =>
  gh_bd (f_X0_commissionOf u28_1 v148 v149 u28_3) fun v150 =>
  gh_bd (gh_iald 0 a1 (p5 + (1 : Int32))) fun v151 =>
  gh_bd (gh_iald 0 a1 (p5 + (2 : Int32))) fun v152 =>
  gh_nn u28_2 fun a153 =>
  gh_bd (gh_is a153 3) fun _ =>
  gh_bd (f_X4_commissionOf a153 v151 v152) fun v154 =>
  gh_bd (gh_is a153 3) fun _ =>
  gh_bd (f_X4_thrown a153) fun v155 =>
  if v155 = v150 then
  (if v150 = 0 then
  (gh_nn u28_3 fun a156 =>
  gh_bd (gh_lald a156 (0 : Int32)) fun v157 =>
  if (gh_lc v157 v154.toInt64) = 0 then
  (f_L_law_1337 (some a1) u28_1 (some a153) (some a156) u28_4 p5)
  else
  (gh_up (gh_rz .boolean (0 : Int32))))
  else
  (f_L_law_1337 (some a1) u28_1 (some a153) u28_3 u28_4 p5))
  else
  (gh_up (gh_rz .boolean (0 : Int32))))
  else if (v3 &&& (63 : Int32)) = (18 : Int32) then
  (gh_bd (gh_iald 0 a1 (p5 + (1 : Int32))) fun v158 =>
  gh_bd (f_X0_paidFor u28_1 v158 u28_3) fun v159 =>
  gh_bd (gh_iald 0 a1 (p5 + (1 : Int32))) fun v160 =>
  gh_nn u28_2 fun a161 =>
  gh_bd (gh_is a161 3) fun _ =>
  gh_bd (f_X4_paidFor a161 v160) fun v162 =>
  gh_bd (gh_is a161 3) fun _ =>
  gh_bd (f_X4_thrown a161) fun v163 =>
  if v163 = v159 then
  (if v159 = 0 then
  (gh_nn u28_3 fun a164 =>
  gh_bd (gh_lald a164 (0 : Int32)) fun v165 =>
  if (gh_lc v165 v162.toInt64) = 0 then
  (f_L_law_1393 (some a1) u28_1 (some a161) (some a164) u28_4 p5)
  else
  (gh_up (gh_rz .boolean (0 : Int32))))
  else
  (f_L_law_1393 (some a1) u28_1 (some a161) u28_3 u28_4 p5))
  else
  (gh_up (gh_rz .boolean (0 : Int32))))
  else if (v3 &&& (63 : Int32)) = (19 : Int32) then
  (gh_bd (gh_iald 0 a1 (p5 + (1 : Int32))) fun v166 =>
  gh_bd (f_X0_seed u28_1 v166 u28_3) fun v167 =>
  gh_bd (gh_iald 0 a1 (p5 + (1 : Int32))) fun v168 =>
  gh_nn u28_2 fun a169 =>
  gh_bd (gh_is a169 3) fun _ =>
  gh_bd (f_X4_seed a169 v168) fun v170 =>
  gh_bd (gh_is a169 3) fun _ =>
  gh_bd (f_X4_thrown a169) fun v171 =>
  if v171 = v167 then
  (if v167 = 0 then
  (gh_nn u28_3 fun a172 =>
  gh_bd (gh_lald a172 (0 : Int32)) fun v173 =>
  if (gh_lc v173 v170.toInt64) = 0 then
  (f_L_law_1449 (some a1) u28_1 (some a169) (some a172) u28_4 p5)
  else
  (gh_up (gh_rz .boolean (0 : Int32))))
  else
  (f_L_law_1449 (some a1) u28_1 (some a169) u28_3 u28_4 p5))
  else
  (gh_up (gh_rz .boolean (0 : Int32))))
  else if (v3 &&& (63 : Int32)) = (20 : Int32) then
  (gh_bd (gh_iald 0 a1 (p5 + (1 : Int32))) fun v174 =>
  gh_bd (f_X0_weather u28_1 v174 u28_3) fun v175 =>
  gh_bd (gh_iald 0 a1 (p5 + (1 : Int32))) fun v176 =>
  gh_nn u28_2 fun a177 =>
  gh_bd (gh_is a177 3) fun _ =>
  gh_bd (f_X4_weather a177 v176) fun v178 =>
  gh_bd (gh_is a177 3) fun _ =>
  gh_bd (f_X4_thrown a177) fun v179 =>
  if v179 = v175 then
  (if v175 = 0 then
  (gh_nn u28_3 fun a180 =>
  gh_bd (gh_lald a180 (0 : Int32)) fun v181 =>
  if (gh_lc v181 v178.toInt64) = 0 then
  (f_L_law_1505 (some a1) u28_1 (some a177) (some a180) u28_4 p5)
  else
  (gh_up (gh_rz .boolean (0 : Int32))))
  else
  (f_L_law_1505 (some a1) u28_1 (some a177) u28_3 u28_4 p5))
  else
  (gh_up (gh_rz .boolean (0 : Int32))))
  else if (v3 &&& (63 : Int32)) = (21 : Int32) then
  (gh_bd (gh_iald 0 a1 (p5 + (1 : Int32))) fun v182 =>
  gh_bd (f_X0_pass u28_1 v182 u28_3) fun v183 =>
  gh_bd (gh_iald 0 a1 (p5 + (1 : Int32))) fun v184 =>
  gh_nn u28_2 fun a185 =>
  gh_bd (gh_is a185 3) fun _ =>
  gh_bd (f_X4_pass a185 v184) fun v186 =>
  gh_bd (gh_is a185 3) fun _ =>
  gh_bd (f_X4_thrown a185) fun v187 =>
  if v187 = v183 then
  (if v183 = 0 then
  (gh_nn u28_3 fun a188 =>
  gh_bd (gh_lald a188 (0 : Int32)) fun v189 =>
  if (gh_lc v189 v186.toInt64) = 0 then
  (f_L_law_1561 (some a1) u28_1 (some a185) (some a188) u28_4 p5)
  else
  (gh_up (gh_rz .boolean (0 : Int32))))
  else
  (f_L_law_1561 (some a1) u28_1 (some a185) u28_3 u28_4 p5))
  else
  (gh_up (gh_rz .boolean (0 : Int32))))
  else if (v3 &&& (63 : Int32)) = (22 : Int32) then
  (gh_bd (gh_iald 0 a1 (p5 + (1 : Int32))) fun v190 =>
  gh_bd (f_X0_brokenIn u28_1 v190 u28_3) fun v191 =>
  gh_bd (gh_iald 0 a1 (p5 + (1 : Int32))) fun v192 =>
  gh_nn u28_2 fun a193 =>
  gh_bd (gh_is a193 3) fun _ =>
  gh_bd (f_X4_brokenIn a193 v192) fun v194 =>
  gh_bd (gh_is a193 3) fun _ =>
  gh_bd (f_X4_thrown a193) fun v195 =>
  if v195 = v191 then
  (if v191 = 0 then
  (gh_nn u28_3 fun a196 =>
  gh_bd (gh_lald a196 (0 : Int32)) fun v197 =>
  if (gh_lc v197 v194.toInt64) = 0 then
  (f_L_law_1617 (some a1) u28_1 (some a193) (some a196) u28_4 p5)
  else
  (gh_up (gh_rz .boolean (0 : Int32))))
  else
  (f_L_law_1617 (some a1) u28_1 (some a193) u28_3 u28_4 p5))
  else
  (gh_up (gh_rz .boolean (0 : Int32))))
  else if (v3 &&& (63 : Int32)) = (23 : Int32) then
  (gh_nn u28_1 fun a198 =>
  gh_bd (gh_is a198 0) fun _ =>
  gh_bd (f_X1_coins a198) fun v199 =>
  gh_nn u28_2 fun a200 =>
  gh_bd (gh_is a200 3) fun _ =>
  gh_bd (f_X4_coins a200) fun v201 =>
  if v199 = v201 then
  (f_L_law_2245 (some a1) (some a198) (some a200) u28_3 u28_4 p5)
  else
  (gh_up (gh_rz .boolean (0 : Int32))))
  else if (v3 &&& (63 : Int32)) = (24 : Int32) then
  (gh_nn u28_1 fun a202 =>
  gh_bd (gh_is a202 0) fun _ =>
  gh_bd (f_X1_coinsAgain a202) fun v203 =>
  gh_nn u28_2 fun a204 =>
  gh_bd (gh_is a204 3) fun _ =>
  gh_bd (f_X4_coinsAgain a204) fun v205 =>
  if v203 = v205 then
  (f_L_law_2245 (some a1) (some a202) (some a204) u28_3 u28_4 p5)
  else
  (gh_up (gh_rz .boolean (0 : Int32))))
  else if (v3 &&& (63 : Int32)) = (25 : Int32) then
  (gh_bd (gh_iald 0 a1 (p5 + (1 : Int32))) fun v206 =>
  gh_bd (f_X0_line u28_1 v206 u28_3) fun v207 =>
  gh_bd (gh_iald 0 a1 (p5 + (1 : Int32))) fun v208 =>
  gh_nn u28_2 fun a209 =>
  gh_bd (gh_is a209 3) fun _ =>
  gh_bd (f_X4_line a209 v208) fun v210 =>
  gh_bd (gh_is a209 3) fun _ =>
  gh_bd (f_X4_thrown a209) fun v211 =>
  if v211 = v207 then
  (if v207 = 0 then
  (gh_nn u28_3 fun a212 =>
  gh_bd (gh_lald a212 (0 : Int32)) fun v213 =>
  if (gh_lc v213 v210.toInt64) = 0 then
  (f_L_law_1699 (some a1) u28_1 (some a209) (some a212) u28_4 p5)
  else
  (gh_up (gh_rz .boolean (0 : Int32))))
  else
  (f_L_law_1699 (some a1) u28_1 (some a209) u28_3 u28_4 p5))
  else
  (gh_up (gh_rz .boolean (0 : Int32))))
  else if (v3 &&& (63 : Int32)) = (26 : Int32) then
  (gh_bd (gh_iald 0 a1 (p5 + (1 : Int32))) fun v214 =>
  gh_bd (f_X0_character u28_1 v214 u28_3) fun v215 =>
  gh_bd (gh_iald 0 a1 (p5 + (1 : Int32))) fun v216 =>
  gh_nn u28_2 fun a217 =>
  gh_bd (gh_is a217 3) fun _ =>
  gh_bd (f_X4_character a217 v216) fun v218 =>
  gh_bd (gh_is a217 3) fun _ =>
  gh_bd (f_X4_thrown a217) fun v219 =>
  if v219 = v215 then
  (if v215 = 0 then
  (gh_nn u28_3 fun a220 =>
  gh_bd (gh_lald a220 (0 : Int32)) fun v221 =>
  if (gh_lc v221 v218.toInt64) = 0 then
  (f_L_law_1755 (some a1) u28_1 (some a217) (some a220) u28_4 p5)
  else
  (gh_up (gh_rz .boolean (0 : Int32))))
  else
  (f_L_law_1755 (some a1) u28_1 (some a217) u28_3 u28_4 p5))
  else
  (gh_up (gh_rz .boolean (0 : Int32))))
  else if (v3 &&& (63 : Int32)) = (27 : Int32) then
  (gh_nn u28_1 fun a222 =>
  gh_bd (gh_is a222 0) fun _ =>
  gh_bd (f_X1_isBalanced a222) fun v223 =>
  gh_nn u28_2 fun a224 =>
  gh_bd (gh_is a224 3) fun _ =>
  gh_bd (f_X4_isBalanced a224) fun v225 =>
  if v223 = v225 then
  (f_L_law_2245 (some a1) (some a222) (some a224) u28_3 u28_4 p5)
  else
  (gh_up (gh_rz .boolean (0 : Int32))))
  else if (v3 &&& (63 : Int32)) = (28 : Int32) then
  (gh_bd (f_X0_meanDetail u28_1 u28_4) fun v226 =>
  gh_nn u28_2 fun a227 =>
  gh_bd (gh_is a227 3) fun _ =>
  gh_bd (f_X4_meanDetail a227) fun v228 =>
  gh_bd (gh_is a227 3) fun _ =>
  gh_bd (f_X4_thrown a227) fun v229 =>
  if v229 = v226 then
  (if v226 = 0 then
  (gh_nn u28_4 fun a230 =>
  gh_bd (gh_dald a230 (0 : Int32)) fun v231 =>
  if (Op.cmpValue (FP.dcmp v231 v228) .l) = 0 then
  (f_L_law_1833 (some a1) u28_1 (some a227) u28_3 (some a230) p5)
  else
  (gh_bd (gh_dald a230 (0 : Int32)) fun v232 =>
  gh_bd (gh_dald a230 (0 : Int32)) fun v233 =>
  if (Op.cmpValue (FP.dcmp v232 v233) .l) = 0 then
  (gh_up (gh_rz .boolean (0 : Int32)))
  else
  (if (Op.cmpValue (FP.dcmp v228 v228) .l) = 0 then
  (gh_up (gh_rz .boolean (0 : Int32)))
  else
  (f_L_law_1833 (some a1) u28_1 (some a227) u28_3 (some a230) p5))))
  else
  (f_L_law_1833 (some a1) u28_1 (some a227) u28_3 u28_4 p5))
  else
  (gh_up (gh_rz .boolean (0 : Int32))))
  else if (v3 &&& (63 : Int32)) = (29 : Int32) then
  (gh_bd (f_X0_brokenShare u28_1 u28_4) fun v234 =>
  gh_nn u28_2 fun a235 =>
  gh_bd (gh_is a235 3) fun _ =>
  gh_bd (f_X4_brokenShare a235) fun v236 =>
  gh_bd (gh_is a235 3) fun _ =>
  gh_bd (f_X4_thrown a235) fun v237 =>
  if v237 = v234 then
  (if v234 = 0 then
  (gh_nn u28_4 fun a238 =>
  gh_bd (gh_dald a238 (0 : Int32)) fun v239 =>
  gh_ok (gh_n64 (FP.f2d v236)) <|
  if (Op.cmpValue (FP.dcmp v239 (FP.f2d v236)) .l) = 0 then
  (f_L_law_1899 (some a1) u28_1 (some a235) u28_3 (some a238) p5)
  else
  (gh_bd (gh_dald a238 (0 : Int32)) fun v240 =>
  gh_bd (gh_dald a238 (0 : Int32)) fun v241 =>
  if (Op.cmpValue (FP.dcmp v240 v241) .l) = 0 then
  (gh_up (gh_rz .boolean (0 : Int32)))
  else
  (if (Op.cmpValue (FP.fcmp v236 v236) .l) = 0 then
  (gh_up (gh_rz .boolean (0 : Int32)))
  else
  (f_L_law_1899 (some a1) u28_1 (some a235) u28_3 (some a238) p5))))
  else
  (f_L_law_1899 (some a1) u28_1 (some a235) u28_3 u28_4 p5))
  else
  (gh_up (gh_rz .boolean (0 : Int32))))
  else if (v3 &&& (63 : Int32)) = (30 : Int32) then
  (gh_bd (gh_iald 0 a1 (p5 + (1 : Int32))) fun v242 =>
  gh_bd (gh_iald 0 a1 (p5 + (2 : Int32))) fun v243 =>
  if v243 = 0 then
  (f_L_law_1923 (some a1) u28_1 u28_2 u28_3 u28_4 p5 u28_1 v242 (0 : Int32))
  else
  (f_L_law_1923 (some a1) u28_1 u28_2 u28_3 u28_4 p5 u28_1 v242 (1 : Int32)))
  else if (v3 &&& (63 : Int32)) = (31 : Int32) then
  (gh_bd (gh_iald 0 a1 (p5 + (1 : Int32))) fun v244 =>
  gh_bd (f_X0_account u28_1 v244 u28_3) fun v245 =>
  gh_bd (gh_iald 0 a1 (p5 + (1 : Int32))) fun v246 =>
  gh_nn u28_2 fun a247 =>
  gh_bd (gh_is a247 3) fun _ =>
  gh_bd (f_X4_account a247 v246) fun v248 =>
  gh_bd (gh_is a247 3) fun _ =>
  gh_bd (f_X4_thrown a247) fun v249 =>
  if v249 = v245 then
  (if v245 = 0 then
  (gh_nn u28_3 fun a250 =>
  gh_bd (gh_lald a250 (0 : Int32)) fun v251 =>
  if (gh_lc v251 v248.toInt64) = 0 then
  (f_L_law_2039 (some a1) u28_1 (some a247) (some a250) u28_4 p5)
  else
  (gh_up (gh_rz .boolean (0 : Int32))))
  else
  (f_L_law_2039 (some a1) u28_1 (some a247) u28_3 u28_4 p5))
  else
  (gh_up (gh_rz .boolean (0 : Int32))))
  else if (v3 &&& (63 : Int32)) = (32 : Int32) then
  (gh_bd (gh_iald 0 a1 (p5 + (1 : Int32))) fun v252 =>
  gh_bd (f_X0_feed u28_1 ((v252.toUInt32 % 65536).toInt32) u28_3) fun v253 =>
  gh_bd (gh_iald 0 a1 (p5 + (1 : Int32))) fun v254 =>
  gh_nn u28_2 fun a255 =>
  gh_bd (gh_is a255 3) fun _ =>
  gh_bd (f_X4_feed a255 ((v254.toUInt32 % 65536).toInt32)) fun v256 =>
  gh_bd (gh_is a255 3) fun _ =>
  gh_bd (f_X4_thrown a255) fun v257 =>
  if v257 = v253 then
  (if v253 = 0 then
  (gh_nn u28_3 fun a258 =>
  gh_bd (gh_lald a258 (0 : Int32)) fun v259 =>
  if (gh_lc v259 v256.toInt64) = 0 then
  (f_L_law_2097 (some a1) u28_1 (some a255) (some a258) u28_4 p5)
  else
  (gh_up (gh_rz .boolean (0 : Int32))))
  else
  (f_L_law_2097 (some a1) u28_1 (some a255) u28_3 u28_4 p5))
  else
  (gh_up (gh_rz .boolean (0 : Int32))))
  else if (v3 &&& (63 : Int32)) = (33 : Int32) then
  (gh_bd (f_X0_perform u28_1 u28_3) fun v260 =>
  gh_nn u28_2 fun a261 =>
  gh_bd (gh_is a261 3) fun _ =>
  gh_bd (f_X4_perform a261) fun v262 =>
  gh_bd (gh_is a261 3) fun _ =>
  gh_bd (f_X4_thrown a261) fun v263 =>
  if v263 = v260 then
  (if v260 = 0 then
  (gh_nn u28_3 fun a264 =>
  gh_bd (gh_lald a264 (0 : Int32)) fun v265 =>
  if (gh_lc v265 v262.toInt64) = 0 then
  (f_L_law_2141 (some a1) u28_1 (some a261) (some a264) u28_4 p5)
  else
  (gh_up (gh_rz .boolean (0 : Int32))))
  else
  (f_L_law_2141 (some a1) u28_1 (some a261) u28_3 u28_4 p5))
  else
  (gh_up (gh_rz .boolean (0 : Int32))))
  else if (v3 &&& (63 : Int32)) = (34 : Int32) then
  (gh_bd (f_X0_undo u28_1 u28_3) fun v266 =>
  gh_nn u28_2 fun a267 =>
  gh_bd (gh_is a267 3) fun _ =>
  gh_bd (f_X4_undo a267) fun v268 =>
  gh_bd (gh_is a267 3) fun _ =>
  gh_bd (f_X4_thrown a267) fun v269 =>
  if v269 = v266 then
  (if v266 = 0 then
  (gh_nn u28_3 fun a270 =>
  gh_bd (gh_lald a270 (0 : Int32)) fun v271 =>
  if (gh_lc v271 v268.toInt64) = 0 then
  (f_L_law_2185 (some a1) u28_1 (some a267) (some a270) u28_4 p5)
  else
  (gh_up (gh_rz .boolean (0 : Int32))))
  else
  (f_L_law_2185 (some a1) u28_1 (some a267) u28_3 u28_4 p5))
  else
  (gh_up (gh_rz .boolean (0 : Int32))))
  else if (v3 &&& (63 : Int32)) = (35 : Int32) then
  (gh_nn u28_1 fun a272 =>
  gh_bd (gh_is a272 0) fun _ =>
  gh_bd (f_X1_save a272) fun v273 =>
  gh_nn u28_2 fun a274 =>
  gh_bd (gh_is a274 3) fun _ =>
  gh_bd (f_X4_save a274) fun v275 =>
  if v273 = v275 then
  (f_L_law_2245 (some a1) (some a272) (some a274) u28_3 u28_4 p5)
  else
  (gh_up (gh_rz .boolean (0 : Int32))))
  else if (v3 &&& (63 : Int32)) = (36 : Int32) then
  (gh_bd (f_X0_restore u28_1 u28_3) fun v276 =>
  gh_nn u28_2 fun a277 =>
  gh_bd (gh_is a277 3) fun _ =>
  gh_bd (f_X4_restore a277) fun v278 =>
  gh_bd (gh_is a277 3) fun _ =>
  gh_bd (f_X4_thrown a277) fun v279 =>
  if v279 = v276 then
  (if v276 = 0 then
  (gh_nn u28_3 fun a280 =>
  gh_bd (gh_lald a280 (0 : Int32)) fun v281 =>
  if (gh_lc v281 v278.toInt64) = 0 then
  (f_L_law_2242 (some a1) u28_1 (some a277) (some a280) u28_4 p5)
  else
  (gh_up (gh_rz .boolean (0 : Int32))))
  else
  (f_L_law_2242 (some a1) u28_1 (some a277) u28_3 u28_4 p5))
  else
  (gh_up (gh_rz .boolean (0 : Int32))))
  else (f_L_law_2245 (some a1) u28_1 u28_2 u28_3 u28_4 p5))
theorem w_L_law_28_l {x : gh_C} {g : gh_G} {o : (((Int32) ⊕ Int32) ⊕ gh_X) × gh_G} {ls : Array Slot} (C : gh_K x cL_law "GargoyleTowerLaw" 9 (some .boolean) "law" 57 1233 []) (u28_0 : Option Nat) (u28_1 : Option Nat) (u28_2 : Option Nat) (u28_3 : Option Nat) (u28_4 : Option Nat) (p5 : Int32) (hl : gh_lv ls 9 [(0, va_rf u28_0), (1, va_rf u28_1), (2, va_rf u28_2), (3, va_rf u28_3), (4, va_rf u28_4), (5, .int p5)]) (h : gh_run (f_L_law_28_l u28_0 u28_1 u28_2 u28_3 u28_4 p5) g = some o) (hk : (gh_K1 x (gh_K0 x gh_rI) (gp_L_law_28 x u28_0 u28_1 u28_2 u28_3 u28_4)) o) : gh_Wd x g (F0 (gh_cm x) 28 ls []) := by
  unfold f_L_law_28_l at h
  refine gr_iload (pc := 28) (i := 5) C (gl_at hl 5 rfl) dL_law_28 ?_
  refine gr_aload_n (pc := 30) (i := 0) C rfl (gl_at hl 0 rfl) dL_law_30 ?_
  rcases u28_0 with _ | a1
  · exact gh_stk_inv h
  replace h := gh_nn_ss h
  refine gr_alen (pc := 31) C dL_law_31 h fun v2 h => ?_
  refine gr_iconst (pc := 32) (v := (4 : Int32)) C rfl dL_law_32 ?_
  refine gr_isub (pc := 33) C dL_law_33 ?_
  refine gr_icmp_gt (pc := 34) (tgt := 2251) C rfl dL_law_34 (fun c9 => ?_) (fun c9 => ?_)
  · replace h := gh_ift h c9
    refine gr_iconst (pc := 2251) (v := (1 : Int32)) C rfl dL_law_2251 ?_
    obtain ⟨o, h, hk⟩ := gh_K1_up h hk
    exact gr_bret (pc := 2252) C dL_law_2252 h hk
  · replace h := gh_iff h c9
    refine gr_aload_n (pc := 37) (i := 0) C rfl (gl_at hl 0 rfl) dL_law_37 ?_
    refine gr_iload (pc := 38) (i := 5) C (gl_at hl 5 rfl) dL_law_38 ?_
    refine gr_iald (pc := 40) C dL_law_40 h fun v3 h => ?_
    refine gr_bipush (pc := 41) (v := (63 : Int32)) C rfl dL_law_41 ?_
    refine gr_iand (pc := 43) C dL_law_43 ?_
    by_cases k0 : (v3 &&& (63 : Int32)) = (0 : Int32)
    · replace h := gh_ift h k0
      refine gr_table (pc := 44) (v := (0 : Int32)) (off := 164) (tgt := 208) C k0 (by decide) (by decide) (by decide) rfl dL_law_44 ?_
      refine gr_aload_n (pc := 208) (i := 1) C rfl (gl_at hl 1 rfl) dL_law_208 ?_
      refine gr_aload_n (pc := 209) (i := 0) C rfl (gl_at hl 0 rfl) dL_law_209 ?_
      refine gr_iload (pc := 210) (i := 5) C (gl_at hl 5 rfl) dL_law_210 ?_
      refine gr_iconst (pc := 212) (v := (1 : Int32)) C rfl dL_law_212 ?_
      refine gr_iadd (pc := 213) C dL_law_213 ?_
      refine gr_iald (pc := 214) C dL_law_214 h fun v4 h => ?_
      refine gr_aload_n (pc := 215) (i := 0) C rfl (gl_at hl 0 rfl) dL_law_215 ?_
      refine gr_iload (pc := 216) (i := 5) C (gl_at hl 5 rfl) dL_law_216 ?_
      refine gr_iconst (pc := 218) (v := (2 : Int32)) C rfl dL_law_218 ?_
      refine gr_iadd (pc := 219) C dL_law_219 ?_
      refine gr_iald (pc := 220) C dL_law_220 h fun v5 h => ?_
      refine gr_if_eq (pc := 221) (tgt := 228) C rfl dL_law_221 (fun c9 => ?_) (fun c9 => ?_)
      · replace h := gh_ift h c9
        refine gr_iconst (pc := 228) (v := (0 : Int32)) C rfl dL_law_228 ?_
        exact w_L_law_229 C (some a1) u28_1 u28_2 u28_3 u28_4 p5 u28_1 v4 (0 : Int32) (gl_sub hl [0, 1, 2, 3, 4, 5] rfl) h hk
      · replace h := gh_iff h c9
        refine gr_iconst (pc := 224) (v := (1 : Int32)) C rfl dL_law_224 ?_
        refine gr_goto (pc := 225) (tgt := 229) C rfl dL_law_225 ?_
        exact w_L_law_229 C (some a1) u28_1 u28_2 u28_3 u28_4 p5 u28_1 v4 (1 : Int32) (gl_sub hl [0, 1, 2, 3, 4, 5] rfl) h hk
    replace h := gh_iff h k0
    by_cases k1 : (v3 &&& (63 : Int32)) = (1 : Int32)
    · replace h := gh_ift h k1
      refine gr_table (pc := 44) (v := (1 : Int32)) (off := 248) (tgt := 292) C k1 (by decide) (by decide) (by decide) rfl dL_law_44 ?_
      refine gr_aload_n (pc := 292) (i := 1) C rfl (gl_at hl 1 rfl) dL_law_292 ?_
      refine gr_aload_n (pc := 293) (i := 0) C rfl (gl_at hl 0 rfl) dL_law_293 ?_
      refine gr_iload (pc := 294) (i := 5) C (gl_at hl 5 rfl) dL_law_294 ?_
      refine gr_iconst (pc := 296) (v := (1 : Int32)) C rfl dL_law_296 ?_
      refine gr_iadd (pc := 297) C dL_law_297 ?_
      refine gr_iald (pc := 298) C dL_law_298 h fun v6 h => ?_
      refine gr_aload_n (pc := 299) (i := 0) C rfl (gl_at hl 0 rfl) dL_law_299 ?_
      refine gr_iload (pc := 300) (i := 5) C (gl_at hl 5 rfl) dL_law_300 ?_
      refine gr_iconst (pc := 302) (v := (2 : Int32)) C rfl dL_law_302 ?_
      refine gr_iadd (pc := 303) C dL_law_303 ?_
      refine gr_iald (pc := 304) C dL_law_304 h fun v7 h => ?_
      refine gr_aload_n (pc := 305) (i := 3) C rfl (gl_at hl 3 rfl) dL_law_305 ?_
      refine gh_callI (pc := 306) (rest := []) C (k_X0_carve C.tr u28_1 v6 v7 u28_3) (Nat.le_of_ble_eq_true rfl) (Nat.le_of_ble_eq_true rfl) (gh_r4 (Nat.le_of_ble_eq_true rfl)) (fun H9 L9 hp9 => gi_SX C q1479 q1480 q74 q1481 mh_X0 np92 rfl hl.1.1 dL_law_306 rfl) h ((gh_K1_b gh_K0_b) _ hk) (fun v8 g h => ?_) (fun e g h => ?_)
      rotate_left
      ·
        obtain ⟨o, h, hk⟩ := gh_K1_thr h hk
        exact gh_out C (fun _ h => nomatch h) h hk
      refine gr_istore (pc := 309) (i := 6) (l' := [(6, .int v8), (0, va_rf (some a1)), (1, va_rf u28_1), (2, va_rf u28_2), (3, va_rf u28_3), (4, va_rf u28_4), (5, .int p5)]) C hl (Nat.le_of_ble_eq_true rfl) rfl dL_law_309 fun ls hl => ?_
      refine gr_aload_n (pc := 311) (i := 2) C rfl (gl_at hl 3 rfl) dL_law_311 ?_
      refine gr_aload_n (pc := 312) (i := 0) C rfl (gl_at hl 1 rfl) dL_law_312 ?_
      refine gr_iload (pc := 313) (i := 5) C (gl_at hl 6 rfl) dL_law_313 ?_
      refine gr_iconst (pc := 315) (v := (1 : Int32)) C rfl dL_law_315 ?_
      refine gr_iadd (pc := 316) C dL_law_316 ?_
      refine gr_iald (pc := 317) C dL_law_317 h fun v9 h => ?_
      refine gr_aload_n (pc := 318) (i := 0) C rfl (gl_at hl 1 rfl) dL_law_318 ?_
      refine gr_iload (pc := 319) (i := 5) C (gl_at hl 6 rfl) dL_law_319 ?_
      refine gr_iconst (pc := 321) (v := (2 : Int32)) C rfl dL_law_321 ?_
      refine gr_iadd (pc := 322) C dL_law_322 ?_
      refine gr_iald (pc := 323) C dL_law_323 h fun v10 h => ?_
      rcases u28_2 with _ | a11
      · exact gh_stk_inv h
      replace h := gh_nn_ss h
      obtain ⟨⟨fs9, hg9⟩, h⟩ := gh_is_inv h
      refine gh_callI (pc := 324) (rest := []) C (k_X4_carve C.tr a11 v9 v10) (Nat.le_of_ble_eq_true rfl) (Nat.le_of_ble_eq_true rfl) (gh_r4 (Nat.le_of_ble_eq_true rfl)) (fun H9 L9 hp9 => gi_V C hp9 hg9 gh_cX4 q2414 q2415 q2416 q2417 mh_X4 np1 rfl hl.1.1 dL_law_324 rfl) h ((gh_K1_b gh_K0_b) _ hk) (fun v12 g h => ?_) (fun e g h => ?_)
      rotate_left
      ·
        obtain ⟨o, h, hk⟩ := gh_K1_thr h hk
        exact gh_out C (fun _ h => nomatch h) h hk
      refine gr_istore (pc := 327) (i := 7) (l' := [(7, .int v12), (6, .int v8), (0, va_rf (some a1)), (1, va_rf u28_1), (2, va_rf (some a11)), (3, va_rf u28_3), (4, va_rf u28_4), (5, .int p5)]) C hl (Nat.le_of_ble_eq_true rfl) rfl dL_law_327 fun ls hl => ?_
      refine gr_aload_n (pc := 329) (i := 2) C rfl (gl_at hl 4 rfl) dL_law_329 ?_
      obtain ⟨⟨fs9, hg9⟩, h⟩ := gh_is_inv h
      refine gh_callI (pc := 330) (rest := []) C (k_X4_thrown C.tr a11) (Nat.le_of_ble_eq_true rfl) (Nat.le_of_ble_eq_true rfl) (gh_r4 (Nat.le_of_ble_eq_true rfl)) (fun H9 L9 hp9 => gi_V C hp9 hg9 gh_cX4 q2377 q2378 q2379 q2380 mh_X4 np0 rfl hl.1.1 dL_law_330 rfl) h ((gh_K1_b gh_K0_b) _ hk) (fun v13 g h => ?_) (fun e g h => ?_)
      rotate_left
      ·
        obtain ⟨o, h, hk⟩ := gh_K1_thr h hk
        exact gh_out C (fun _ h => nomatch h) h hk
      refine gr_iload (pc := 333) (i := 6) C (gl_at hl 1 rfl) dL_law_333 ?_
      refine gr_icmp_eq (pc := 335) (tgt := 340) C rfl dL_law_335 (fun c9 => ?_) (fun c9 => ?_)
      · replace h := gh_ift h c9
        refine gr_iload (pc := 340) (i := 6) C (gl_at hl 1 rfl) dL_law_340 ?_
        refine gr_if_ne (pc := 342) (tgt := 357) C rfl dL_law_342 (fun c9 => ?_) (fun c9 => ?_)
        · replace h := gh_iff h c9
          exact w_L_law_357 C (some a1) u28_1 (some a11) u28_3 u28_4 p5 (gl_sub hl [2, 3, 4, 5, 6, 7] rfl) h hk
        · replace h := gh_ift h c9
          refine gr_aload_n (pc := 345) (i := 3) C rfl (gl_at hl 5 rfl) dL_law_345 ?_
          refine gr_iconst (pc := 346) (v := (0 : Int32)) C rfl dL_law_346 ?_
          rcases u28_3 with _ | a14
          · exact gh_stk_inv h
          replace h := gh_nn_ss h
          refine gr_lald (pc := 347) C dL_law_347 h fun v15 h => ?_
          refine gr_iload (pc := 348) (i := 7) C (gl_at hl 0 rfl) dL_law_348 ?_
          refine gr_i2l (pc := 350) (v := v12.toInt64) C rfl dL_law_350 ?_
          refine gr_lcmp (pc := 351) C dL_law_351 ?_
          refine gr_if_eq (pc := 352) (tgt := 357) C rfl dL_law_352 (fun c9 => ?_) (fun c9 => ?_)
          · replace h := gh_ift h c9
            exact w_L_law_357 C (some a1) u28_1 (some a11) (some a14) u28_4 p5 (gl_sub hl [2, 3, 4, 5, 6, 7] rfl) h hk
          · replace h := gh_iff h c9
            refine gr_iconst (pc := 355) (v := (0 : Int32)) C rfl dL_law_355 ?_
            obtain ⟨o, h, hk⟩ := gh_K1_up h hk
            exact gr_bret (pc := 356) C dL_law_356 h hk
      · replace h := gh_iff h c9
        refine gr_iconst (pc := 338) (v := (0 : Int32)) C rfl dL_law_338 ?_
        obtain ⟨o, h, hk⟩ := gh_K1_up h hk
        exact gr_bret (pc := 339) C dL_law_339 h hk
    replace h := gh_iff h k1
    by_cases k2 : (v3 &&& (63 : Int32)) = (2 : Int32)
    · replace h := gh_ift h k2
      refine gr_table (pc := 44) (v := (2 : Int32)) (off := 316) (tgt := 360) C k2 (by decide) (by decide) (by decide) rfl dL_law_44 ?_
      refine gr_aload_n (pc := 360) (i := 1) C rfl (gl_at hl 1 rfl) dL_law_360 ?_
      refine gr_aload_n (pc := 361) (i := 3) C rfl (gl_at hl 3 rfl) dL_law_361 ?_
      refine gh_callI (pc := 362) (rest := []) C (k_X0_whet C.tr u28_1 u28_3) (Nat.le_of_ble_eq_true rfl) (Nat.le_of_ble_eq_true rfl) (gh_r4 (Nat.le_of_ble_eq_true rfl)) (fun H9 L9 hp9 => gi_SX C q1503 q1504 q74 q1505 mh_X0 np93 rfl hl.1.1 dL_law_362 rfl) h ((gh_K1_b gh_K0_b) _ hk) (fun v16 g h => ?_) (fun e g h => ?_)
      rotate_left
      ·
        obtain ⟨o, h, hk⟩ := gh_K1_thr h hk
        exact gh_out C (fun _ h => nomatch h) h hk
      refine gr_istore (pc := 365) (i := 6) (l' := [(6, .int v16), (0, va_rf (some a1)), (1, va_rf u28_1), (2, va_rf u28_2), (3, va_rf u28_3), (4, va_rf u28_4), (5, .int p5)]) C hl (Nat.le_of_ble_eq_true rfl) rfl dL_law_365 fun ls hl => ?_
      refine gr_aload_n (pc := 367) (i := 2) C rfl (gl_at hl 3 rfl) dL_law_367 ?_
      rcases u28_2 with _ | a17
      · exact gh_stk_inv h
      replace h := gh_nn_ss h
      obtain ⟨⟨fs9, hg9⟩, h⟩ := gh_is_inv h
      refine gh_callI (pc := 368) (rest := []) C (k_X4_whet C.tr a17) (Nat.le_of_ble_eq_true rfl) (Nat.le_of_ble_eq_true rfl) (gh_r4 (Nat.le_of_ble_eq_true rfl)) (fun H9 L9 hp9 => gi_V C hp9 hg9 gh_cX4 q2430 q2431 q2432 q2433 mh_X4 np0 rfl hl.1.1 dL_law_368 rfl) h ((gh_K1_b gh_K0_b) _ hk) (fun v18 g h => ?_) (fun e g h => ?_)
      rotate_left
      ·
        obtain ⟨o, h, hk⟩ := gh_K1_thr h hk
        exact gh_out C (fun _ h => nomatch h) h hk
      refine gr_istore (pc := 371) (i := 7) (l' := [(7, .int v18), (6, .int v16), (0, va_rf (some a1)), (1, va_rf u28_1), (2, va_rf (some a17)), (3, va_rf u28_3), (4, va_rf u28_4), (5, .int p5)]) C hl (Nat.le_of_ble_eq_true rfl) rfl dL_law_371 fun ls hl => ?_
      refine gr_aload_n (pc := 373) (i := 2) C rfl (gl_at hl 4 rfl) dL_law_373 ?_
      obtain ⟨⟨fs9, hg9⟩, h⟩ := gh_is_inv h
      refine gh_callI (pc := 374) (rest := []) C (k_X4_thrown C.tr a17) (Nat.le_of_ble_eq_true rfl) (Nat.le_of_ble_eq_true rfl) (gh_r4 (Nat.le_of_ble_eq_true rfl)) (fun H9 L9 hp9 => gi_V C hp9 hg9 gh_cX4 q2377 q2378 q2379 q2380 mh_X4 np0 rfl hl.1.1 dL_law_374 rfl) h ((gh_K1_b gh_K0_b) _ hk) (fun v19 g h => ?_) (fun e g h => ?_)
      rotate_left
      ·
        obtain ⟨o, h, hk⟩ := gh_K1_thr h hk
        exact gh_out C (fun _ h => nomatch h) h hk
      refine gr_iload (pc := 377) (i := 6) C (gl_at hl 1 rfl) dL_law_377 ?_
      refine gr_icmp_eq (pc := 379) (tgt := 384) C rfl dL_law_379 (fun c9 => ?_) (fun c9 => ?_)
      · replace h := gh_ift h c9
        refine gr_iload (pc := 384) (i := 6) C (gl_at hl 1 rfl) dL_law_384 ?_
        refine gr_if_ne (pc := 386) (tgt := 401) C rfl dL_law_386 (fun c9 => ?_) (fun c9 => ?_)
        · replace h := gh_iff h c9
          exact w_L_law_401 C (some a1) u28_1 (some a17) u28_3 u28_4 p5 (gl_sub hl [2, 3, 4, 5, 6, 7] rfl) h hk
        · replace h := gh_ift h c9
          refine gr_aload_n (pc := 389) (i := 3) C rfl (gl_at hl 5 rfl) dL_law_389 ?_
          refine gr_iconst (pc := 390) (v := (0 : Int32)) C rfl dL_law_390 ?_
          rcases u28_3 with _ | a20
          · exact gh_stk_inv h
          replace h := gh_nn_ss h
          refine gr_lald (pc := 391) C dL_law_391 h fun v21 h => ?_
          refine gr_iload (pc := 392) (i := 7) C (gl_at hl 0 rfl) dL_law_392 ?_
          refine gr_i2l (pc := 394) (v := v18.toInt64) C rfl dL_law_394 ?_
          refine gr_lcmp (pc := 395) C dL_law_395 ?_
          refine gr_if_eq (pc := 396) (tgt := 401) C rfl dL_law_396 (fun c9 => ?_) (fun c9 => ?_)
          · replace h := gh_ift h c9
            exact w_L_law_401 C (some a1) u28_1 (some a17) (some a20) u28_4 p5 (gl_sub hl [2, 3, 4, 5, 6, 7] rfl) h hk
          · replace h := gh_iff h c9
            refine gr_iconst (pc := 399) (v := (0 : Int32)) C rfl dL_law_399 ?_
            obtain ⟨o, h, hk⟩ := gh_K1_up h hk
            exact gr_bret (pc := 400) C dL_law_400 h hk
      · replace h := gh_iff h c9
        refine gr_iconst (pc := 382) (v := (0 : Int32)) C rfl dL_law_382 ?_
        obtain ⟨o, h, hk⟩ := gh_K1_up h hk
        exact gr_bret (pc := 383) C dL_law_383 h hk
    replace h := gh_iff h k2
    by_cases k3 : (v3 &&& (63 : Int32)) = (3 : Int32)
    · replace h := gh_ift h k3
      refine gr_table (pc := 44) (v := (3 : Int32)) (off := 360) (tgt := 404) C k3 (by decide) (by decide) (by decide) rfl dL_law_44 ?_
      refine gr_aload_n (pc := 404) (i := 1) C rfl (gl_at hl 1 rfl) dL_law_404 ?_
      refine gr_aload_n (pc := 405) (i := 0) C rfl (gl_at hl 0 rfl) dL_law_405 ?_
      refine gr_iload (pc := 406) (i := 5) C (gl_at hl 5 rfl) dL_law_406 ?_
      refine gr_iconst (pc := 408) (v := (1 : Int32)) C rfl dL_law_408 ?_
      refine gr_iadd (pc := 409) C dL_law_409 ?_
      refine gr_iald (pc := 410) C dL_law_410 h fun v22 h => ?_
      refine gr_aload_n (pc := 411) (i := 0) C rfl (gl_at hl 0 rfl) dL_law_411 ?_
      refine gr_iload (pc := 412) (i := 5) C (gl_at hl 5 rfl) dL_law_412 ?_
      refine gr_iconst (pc := 414) (v := (2 : Int32)) C rfl dL_law_414 ?_
      refine gr_iadd (pc := 415) C dL_law_415 ?_
      refine gr_iald (pc := 416) C dL_law_416 h fun v23 h => ?_
      refine gr_aload_n (pc := 417) (i := 3) C rfl (gl_at hl 3 rfl) dL_law_417 ?_
      refine gh_callI (pc := 418) (rest := []) C (k_X0_blockOf C.tr u28_1 v22 v23 u28_3) (Nat.le_of_ble_eq_true rfl) (Nat.le_of_ble_eq_true rfl) (gh_r4 (Nat.le_of_ble_eq_true rfl)) (fun H9 L9 hp9 => gi_SX C q1511 q1512 q74 q1513 mh_X0 np92 rfl hl.1.1 dL_law_418 rfl) h ((gh_K1_b gh_K0_b) _ hk) (fun v24 g h => ?_) (fun e g h => ?_)
      rotate_left
      ·
        obtain ⟨o, h, hk⟩ := gh_K1_thr h hk
        exact gh_out C (fun _ h => nomatch h) h hk
      refine gr_istore (pc := 421) (i := 6) (l' := [(6, .int v24), (0, va_rf (some a1)), (1, va_rf u28_1), (2, va_rf u28_2), (3, va_rf u28_3), (4, va_rf u28_4), (5, .int p5)]) C hl (Nat.le_of_ble_eq_true rfl) rfl dL_law_421 fun ls hl => ?_
      refine gr_aload_n (pc := 423) (i := 2) C rfl (gl_at hl 3 rfl) dL_law_423 ?_
      refine gr_aload_n (pc := 424) (i := 0) C rfl (gl_at hl 1 rfl) dL_law_424 ?_
      refine gr_iload (pc := 425) (i := 5) C (gl_at hl 6 rfl) dL_law_425 ?_
      refine gr_iconst (pc := 427) (v := (1 : Int32)) C rfl dL_law_427 ?_
      refine gr_iadd (pc := 428) C dL_law_428 ?_
      refine gr_iald (pc := 429) C dL_law_429 h fun v25 h => ?_
      refine gr_aload_n (pc := 430) (i := 0) C rfl (gl_at hl 1 rfl) dL_law_430 ?_
      refine gr_iload (pc := 431) (i := 5) C (gl_at hl 6 rfl) dL_law_431 ?_
      refine gr_iconst (pc := 433) (v := (2 : Int32)) C rfl dL_law_433 ?_
      refine gr_iadd (pc := 434) C dL_law_434 ?_
      refine gr_iald (pc := 435) C dL_law_435 h fun v26 h => ?_
      rcases u28_2 with _ | a27
      · exact gh_stk_inv h
      replace h := gh_nn_ss h
      obtain ⟨⟨fs9, hg9⟩, h⟩ := gh_is_inv h
      refine gh_callI (pc := 436) (rest := []) C (k_X4_blockOf C.tr a27 v25 v26) (Nat.le_of_ble_eq_true rfl) (Nat.le_of_ble_eq_true rfl) (gh_r4 (Nat.le_of_ble_eq_true rfl)) (fun H9 L9 hp9 => gi_V C hp9 hg9 gh_cX4 q2438 q2439 q2440 q2441 mh_X4 np1 rfl hl.1.1 dL_law_436 rfl) h ((gh_K1_b gh_K0_b) _ hk) (fun v28 g h => ?_) (fun e g h => ?_)
      rotate_left
      ·
        obtain ⟨o, h, hk⟩ := gh_K1_thr h hk
        exact gh_out C (fun _ h => nomatch h) h hk
      refine gr_istore (pc := 439) (i := 7) (l' := [(7, .int v28), (6, .int v24), (0, va_rf (some a1)), (1, va_rf u28_1), (2, va_rf (some a27)), (3, va_rf u28_3), (4, va_rf u28_4), (5, .int p5)]) C hl (Nat.le_of_ble_eq_true rfl) rfl dL_law_439 fun ls hl => ?_
      refine gr_aload_n (pc := 441) (i := 2) C rfl (gl_at hl 4 rfl) dL_law_441 ?_
      obtain ⟨⟨fs9, hg9⟩, h⟩ := gh_is_inv h
      refine gh_callI (pc := 442) (rest := []) C (k_X4_thrown C.tr a27) (Nat.le_of_ble_eq_true rfl) (Nat.le_of_ble_eq_true rfl) (gh_r4 (Nat.le_of_ble_eq_true rfl)) (fun H9 L9 hp9 => gi_V C hp9 hg9 gh_cX4 q2377 q2378 q2379 q2380 mh_X4 np0 rfl hl.1.1 dL_law_442 rfl) h ((gh_K1_b gh_K0_b) _ hk) (fun v29 g h => ?_) (fun e g h => ?_)
      rotate_left
      ·
        obtain ⟨o, h, hk⟩ := gh_K1_thr h hk
        exact gh_out C (fun _ h => nomatch h) h hk
      refine gr_iload (pc := 445) (i := 6) C (gl_at hl 1 rfl) dL_law_445 ?_
      refine gr_icmp_eq (pc := 447) (tgt := 452) C rfl dL_law_447 (fun c9 => ?_) (fun c9 => ?_)
      · replace h := gh_ift h c9
        refine gr_iload (pc := 452) (i := 6) C (gl_at hl 1 rfl) dL_law_452 ?_
        refine gr_if_ne (pc := 454) (tgt := 469) C rfl dL_law_454 (fun c9 => ?_) (fun c9 => ?_)
        · replace h := gh_iff h c9
          exact w_L_law_469 C (some a1) u28_1 (some a27) u28_3 u28_4 p5 (gl_sub hl [2, 3, 4, 5, 6, 7] rfl) h hk
        · replace h := gh_ift h c9
          refine gr_aload_n (pc := 457) (i := 3) C rfl (gl_at hl 5 rfl) dL_law_457 ?_
          refine gr_iconst (pc := 458) (v := (0 : Int32)) C rfl dL_law_458 ?_
          rcases u28_3 with _ | a30
          · exact gh_stk_inv h
          replace h := gh_nn_ss h
          refine gr_lald (pc := 459) C dL_law_459 h fun v31 h => ?_
          refine gr_iload (pc := 460) (i := 7) C (gl_at hl 0 rfl) dL_law_460 ?_
          refine gr_i2l (pc := 462) (v := v28.toInt64) C rfl dL_law_462 ?_
          refine gr_lcmp (pc := 463) C dL_law_463 ?_
          refine gr_if_eq (pc := 464) (tgt := 469) C rfl dL_law_464 (fun c9 => ?_) (fun c9 => ?_)
          · replace h := gh_ift h c9
            exact w_L_law_469 C (some a1) u28_1 (some a27) (some a30) u28_4 p5 (gl_sub hl [2, 3, 4, 5, 6, 7] rfl) h hk
          · replace h := gh_iff h c9
            refine gr_iconst (pc := 467) (v := (0 : Int32)) C rfl dL_law_467 ?_
            obtain ⟨o, h, hk⟩ := gh_K1_up h hk
            exact gr_bret (pc := 468) C dL_law_468 h hk
      · replace h := gh_iff h c9
        refine gr_iconst (pc := 450) (v := (0 : Int32)) C rfl dL_law_450 ?_
        obtain ⟨o, h, hk⟩ := gh_K1_up h hk
        exact gr_bret (pc := 451) C dL_law_451 h hk
    replace h := gh_iff h k3
    by_cases k4 : (v3 &&& (63 : Int32)) = (4 : Int32)
    · replace h := gh_ift h k4
      refine gr_table (pc := 44) (v := (4 : Int32)) (off := 428) (tgt := 472) C k4 (by decide) (by decide) (by decide) rfl dL_law_44 ?_
      refine gr_aload_n (pc := 472) (i := 1) C rfl (gl_at hl 1 rfl) dL_law_472 ?_
      refine gr_aload_n (pc := 473) (i := 0) C rfl (gl_at hl 0 rfl) dL_law_473 ?_
      refine gr_iload (pc := 474) (i := 5) C (gl_at hl 5 rfl) dL_law_474 ?_
      refine gr_iconst (pc := 476) (v := (1 : Int32)) C rfl dL_law_476 ?_
      refine gr_iadd (pc := 477) C dL_law_477 ?_
      refine gr_iald (pc := 478) C dL_law_478 h fun v32 h => ?_
      refine gr_aload_n (pc := 479) (i := 3) C rfl (gl_at hl 3 rfl) dL_law_479 ?_
      refine gh_callI (pc := 480) (rest := []) C (k_X0_ranked C.tr u28_1 v32 u28_3) (Nat.le_of_ble_eq_true rfl) (Nat.le_of_ble_eq_true rfl) (gh_r4 (Nat.le_of_ble_eq_true rfl)) (fun H9 L9 hp9 => gi_SX C q1520 q1521 q74 q1522 mh_X0 np94 rfl hl.1.1 dL_law_480 rfl) h ((gh_K1_b gh_K0_b) _ hk) (fun v33 g h => ?_) (fun e g h => ?_)
      rotate_left
      ·
        obtain ⟨o, h, hk⟩ := gh_K1_thr h hk
        exact gh_out C (fun _ h => nomatch h) h hk
      refine gr_istore (pc := 483) (i := 6) (l' := [(6, .int v33), (0, va_rf (some a1)), (1, va_rf u28_1), (2, va_rf u28_2), (3, va_rf u28_3), (4, va_rf u28_4), (5, .int p5)]) C hl (Nat.le_of_ble_eq_true rfl) rfl dL_law_483 fun ls hl => ?_
      refine gr_aload_n (pc := 485) (i := 2) C rfl (gl_at hl 3 rfl) dL_law_485 ?_
      refine gr_aload_n (pc := 486) (i := 0) C rfl (gl_at hl 1 rfl) dL_law_486 ?_
      refine gr_iload (pc := 487) (i := 5) C (gl_at hl 6 rfl) dL_law_487 ?_
      refine gr_iconst (pc := 489) (v := (1 : Int32)) C rfl dL_law_489 ?_
      refine gr_iadd (pc := 490) C dL_law_490 ?_
      refine gr_iald (pc := 491) C dL_law_491 h fun v34 h => ?_
      rcases u28_2 with _ | a35
      · exact gh_stk_inv h
      replace h := gh_nn_ss h
      obtain ⟨⟨fs9, hg9⟩, h⟩ := gh_is_inv h
      refine gh_callI (pc := 492) (rest := []) C (k_X4_ranked C.tr a35 v34) (Nat.le_of_ble_eq_true rfl) (Nat.le_of_ble_eq_true rfl) (gh_r4 (Nat.le_of_ble_eq_true rfl)) (fun H9 L9 hp9 => gi_V C hp9 hg9 gh_cX4 q2442 q2443 q2444 q2445 mh_X4 np6 rfl hl.1.1 dL_law_492 rfl) h ((gh_K1_b gh_K0_b) _ hk) (fun v36 g h => ?_) (fun e g h => ?_)
      rotate_left
      ·
        obtain ⟨o, h, hk⟩ := gh_K1_thr h hk
        exact gh_out C (fun _ h => nomatch h) h hk
      refine gr_istore (pc := 495) (i := 7) (l' := [(7, .int v36), (6, .int v33), (0, va_rf (some a1)), (1, va_rf u28_1), (2, va_rf (some a35)), (3, va_rf u28_3), (4, va_rf u28_4), (5, .int p5)]) C hl (Nat.le_of_ble_eq_true rfl) rfl dL_law_495 fun ls hl => ?_
      refine gr_aload_n (pc := 497) (i := 2) C rfl (gl_at hl 4 rfl) dL_law_497 ?_
      obtain ⟨⟨fs9, hg9⟩, h⟩ := gh_is_inv h
      refine gh_callI (pc := 498) (rest := []) C (k_X4_thrown C.tr a35) (Nat.le_of_ble_eq_true rfl) (Nat.le_of_ble_eq_true rfl) (gh_r4 (Nat.le_of_ble_eq_true rfl)) (fun H9 L9 hp9 => gi_V C hp9 hg9 gh_cX4 q2377 q2378 q2379 q2380 mh_X4 np0 rfl hl.1.1 dL_law_498 rfl) h ((gh_K1_b gh_K0_b) _ hk) (fun v37 g h => ?_) (fun e g h => ?_)
      rotate_left
      ·
        obtain ⟨o, h, hk⟩ := gh_K1_thr h hk
        exact gh_out C (fun _ h => nomatch h) h hk
      refine gr_iload (pc := 501) (i := 6) C (gl_at hl 1 rfl) dL_law_501 ?_
      refine gr_icmp_eq (pc := 503) (tgt := 508) C rfl dL_law_503 (fun c9 => ?_) (fun c9 => ?_)
      · replace h := gh_ift h c9
        refine gr_iload (pc := 508) (i := 6) C (gl_at hl 1 rfl) dL_law_508 ?_
        refine gr_if_ne (pc := 510) (tgt := 525) C rfl dL_law_510 (fun c9 => ?_) (fun c9 => ?_)
        · replace h := gh_iff h c9
          exact w_L_law_525 C (some a1) u28_1 (some a35) u28_3 u28_4 p5 (gl_sub hl [2, 3, 4, 5, 6, 7] rfl) h hk
        · replace h := gh_ift h c9
          refine gr_aload_n (pc := 513) (i := 3) C rfl (gl_at hl 5 rfl) dL_law_513 ?_
          refine gr_iconst (pc := 514) (v := (0 : Int32)) C rfl dL_law_514 ?_
          rcases u28_3 with _ | a38
          · exact gh_stk_inv h
          replace h := gh_nn_ss h
          refine gr_lald (pc := 515) C dL_law_515 h fun v39 h => ?_
          refine gr_iload (pc := 516) (i := 7) C (gl_at hl 0 rfl) dL_law_516 ?_
          refine gr_i2l (pc := 518) (v := v36.toInt64) C rfl dL_law_518 ?_
          refine gr_lcmp (pc := 519) C dL_law_519 ?_
          refine gr_if_eq (pc := 520) (tgt := 525) C rfl dL_law_520 (fun c9 => ?_) (fun c9 => ?_)
          · replace h := gh_ift h c9
            exact w_L_law_525 C (some a1) u28_1 (some a35) (some a38) u28_4 p5 (gl_sub hl [2, 3, 4, 5, 6, 7] rfl) h hk
          · replace h := gh_iff h c9
            refine gr_iconst (pc := 523) (v := (0 : Int32)) C rfl dL_law_523 ?_
            obtain ⟨o, h, hk⟩ := gh_K1_up h hk
            exact gr_bret (pc := 524) C dL_law_524 h hk
      · replace h := gh_iff h c9
        refine gr_iconst (pc := 506) (v := (0 : Int32)) C rfl dL_law_506 ?_
        obtain ⟨o, h, hk⟩ := gh_K1_up h hk
        exact gr_bret (pc := 507) C dL_law_507 h hk
    replace h := gh_iff h k4
    by_cases k5 : (v3 &&& (63 : Int32)) = (5 : Int32)
    · replace h := gh_ift h k5
      refine gr_table (pc := 44) (v := (5 : Int32)) (off := 484) (tgt := 528) C k5 (by decide) (by decide) (by decide) rfl dL_law_44 ?_
      refine gr_aload_n (pc := 528) (i := 1) C rfl (gl_at hl 1 rfl) dL_law_528 ?_
      refine gr_aload_n (pc := 529) (i := 0) C rfl (gl_at hl 0 rfl) dL_law_529 ?_
      refine gr_iload (pc := 530) (i := 5) C (gl_at hl 5 rfl) dL_law_530 ?_
      refine gr_iconst (pc := 532) (v := (1 : Int32)) C rfl dL_law_532 ?_
      refine gr_iadd (pc := 533) C dL_law_533 ?_
      refine gr_iald (pc := 534) C dL_law_534 h fun v40 h => ?_
      refine gr_aload_n (pc := 535) (i := 3) C rfl (gl_at hl 3 rfl) dL_law_535 ?_
      refine gh_callI (pc := 536) (rest := []) C (k_X0_rope C.tr u28_1 v40 u28_3) (Nat.le_of_ble_eq_true rfl) (Nat.le_of_ble_eq_true rfl) (gh_r4 (Nat.le_of_ble_eq_true rfl)) (fun H9 L9 hp9 => gi_SX C q1599 q1600 q74 q1601 mh_X0 np94 rfl hl.1.1 dL_law_536 rfl) h ((gh_K1_b gh_K0_b) _ hk) (fun v41 g h => ?_) (fun e g h => ?_)
      rotate_left
      ·
        obtain ⟨o, h, hk⟩ := gh_K1_thr h hk
        exact gh_out C (fun _ h => nomatch h) h hk
      refine gr_istore (pc := 539) (i := 6) (l' := [(6, .int v41), (0, va_rf (some a1)), (1, va_rf u28_1), (2, va_rf u28_2), (3, va_rf u28_3), (4, va_rf u28_4), (5, .int p5)]) C hl (Nat.le_of_ble_eq_true rfl) rfl dL_law_539 fun ls hl => ?_
      refine gr_aload_n (pc := 541) (i := 2) C rfl (gl_at hl 3 rfl) dL_law_541 ?_
      refine gr_aload_n (pc := 542) (i := 0) C rfl (gl_at hl 1 rfl) dL_law_542 ?_
      refine gr_iload (pc := 543) (i := 5) C (gl_at hl 6 rfl) dL_law_543 ?_
      refine gr_iconst (pc := 545) (v := (1 : Int32)) C rfl dL_law_545 ?_
      refine gr_iadd (pc := 546) C dL_law_546 ?_
      refine gr_iald (pc := 547) C dL_law_547 h fun v42 h => ?_
      rcases u28_2 with _ | a43
      · exact gh_stk_inv h
      replace h := gh_nn_ss h
      obtain ⟨⟨fs9, hg9⟩, h⟩ := gh_is_inv h
      refine gh_callI (pc := 548) (rest := []) C (k_X4_rope C.tr a43 v42) (Nat.le_of_ble_eq_true rfl) (Nat.le_of_ble_eq_true rfl) (gh_r4 (Nat.le_of_ble_eq_true rfl)) (fun H9 L9 hp9 => gi_V C hp9 hg9 gh_cX4 q2450 q2451 q2452 q2453 mh_X4 np6 rfl hl.1.1 dL_law_548 rfl) h ((gh_K1_b gh_K0_b) _ hk) (fun v44 g h => ?_) (fun e g h => ?_)
      rotate_left
      ·
        obtain ⟨o, h, hk⟩ := gh_K1_thr h hk
        exact gh_out C (fun _ h => nomatch h) h hk
      refine gr_istore (pc := 551) (i := 7) (l' := [(7, .int v44), (6, .int v41), (0, va_rf (some a1)), (1, va_rf u28_1), (2, va_rf (some a43)), (3, va_rf u28_3), (4, va_rf u28_4), (5, .int p5)]) C hl (Nat.le_of_ble_eq_true rfl) rfl dL_law_551 fun ls hl => ?_
      refine gr_aload_n (pc := 553) (i := 2) C rfl (gl_at hl 4 rfl) dL_law_553 ?_
      obtain ⟨⟨fs9, hg9⟩, h⟩ := gh_is_inv h
      refine gh_callI (pc := 554) (rest := []) C (k_X4_thrown C.tr a43) (Nat.le_of_ble_eq_true rfl) (Nat.le_of_ble_eq_true rfl) (gh_r4 (Nat.le_of_ble_eq_true rfl)) (fun H9 L9 hp9 => gi_V C hp9 hg9 gh_cX4 q2377 q2378 q2379 q2380 mh_X4 np0 rfl hl.1.1 dL_law_554 rfl) h ((gh_K1_b gh_K0_b) _ hk) (fun v45 g h => ?_) (fun e g h => ?_)
      rotate_left
      ·
        obtain ⟨o, h, hk⟩ := gh_K1_thr h hk
        exact gh_out C (fun _ h => nomatch h) h hk
      refine gr_iload (pc := 557) (i := 6) C (gl_at hl 1 rfl) dL_law_557 ?_
      refine gr_icmp_eq (pc := 559) (tgt := 564) C rfl dL_law_559 (fun c9 => ?_) (fun c9 => ?_)
      · replace h := gh_ift h c9
        refine gr_iload (pc := 564) (i := 6) C (gl_at hl 1 rfl) dL_law_564 ?_
        refine gr_if_ne (pc := 566) (tgt := 581) C rfl dL_law_566 (fun c9 => ?_) (fun c9 => ?_)
        · replace h := gh_iff h c9
          exact w_L_law_581 C (some a1) u28_1 (some a43) u28_3 u28_4 p5 (gl_sub hl [2, 3, 4, 5, 6, 7] rfl) h hk
        · replace h := gh_ift h c9
          refine gr_aload_n (pc := 569) (i := 3) C rfl (gl_at hl 5 rfl) dL_law_569 ?_
          refine gr_iconst (pc := 570) (v := (0 : Int32)) C rfl dL_law_570 ?_
          rcases u28_3 with _ | a46
          · exact gh_stk_inv h
          replace h := gh_nn_ss h
          refine gr_lald (pc := 571) C dL_law_571 h fun v47 h => ?_
          refine gr_iload (pc := 572) (i := 7) C (gl_at hl 0 rfl) dL_law_572 ?_
          refine gr_i2l (pc := 574) (v := v44.toInt64) C rfl dL_law_574 ?_
          refine gr_lcmp (pc := 575) C dL_law_575 ?_
          refine gr_if_eq (pc := 576) (tgt := 581) C rfl dL_law_576 (fun c9 => ?_) (fun c9 => ?_)
          · replace h := gh_ift h c9
            exact w_L_law_581 C (some a1) u28_1 (some a43) (some a46) u28_4 p5 (gl_sub hl [2, 3, 4, 5, 6, 7] rfl) h hk
          · replace h := gh_iff h c9
            refine gr_iconst (pc := 579) (v := (0 : Int32)) C rfl dL_law_579 ?_
            obtain ⟨o, h, hk⟩ := gh_K1_up h hk
            exact gr_bret (pc := 580) C dL_law_580 h hk
      · replace h := gh_iff h c9
        refine gr_iconst (pc := 562) (v := (0 : Int32)) C rfl dL_law_562 ?_
        obtain ⟨o, h, hk⟩ := gh_K1_up h hk
        exact gr_bret (pc := 563) C dL_law_563 h hk
    replace h := gh_iff h k5
    by_cases k6 : (v3 &&& (63 : Int32)) = (6 : Int32)
    · replace h := gh_ift h k6
      refine gr_table (pc := 44) (v := (6 : Int32)) (off := 540) (tgt := 584) C k6 (by decide) (by decide) (by decide) rfl dL_law_44 ?_
      refine gr_aload_n (pc := 584) (i := 1) C rfl (gl_at hl 1 rfl) dL_law_584 ?_
      refine gr_aload_n (pc := 585) (i := 0) C rfl (gl_at hl 0 rfl) dL_law_585 ?_
      refine gr_iload (pc := 586) (i := 5) C (gl_at hl 5 rfl) dL_law_586 ?_
      refine gr_iconst (pc := 588) (v := (1 : Int32)) C rfl dL_law_588 ?_
      refine gr_iadd (pc := 589) C dL_law_589 ?_
      refine gr_iald (pc := 590) C dL_law_590 h fun v48 h => ?_
      refine gr_aload_n (pc := 591) (i := 0) C rfl (gl_at hl 0 rfl) dL_law_591 ?_
      refine gr_iload (pc := 592) (i := 5) C (gl_at hl 5 rfl) dL_law_592 ?_
      refine gr_iconst (pc := 594) (v := (2 : Int32)) C rfl dL_law_594 ?_
      refine gr_iadd (pc := 595) C dL_law_595 ?_
      refine gr_iald (pc := 596) C dL_law_596 h fun v49 h => ?_
      refine gr_aload_n (pc := 597) (i := 3) C rfl (gl_at hl 3 rfl) dL_law_597 ?_
      refine gh_callI (pc := 598) (rest := []) C (k_X0_ropeOf C.tr u28_1 v48 v49 u28_3) (Nat.le_of_ble_eq_true rfl) (Nat.le_of_ble_eq_true rfl) (gh_r4 (Nat.le_of_ble_eq_true rfl)) (fun H9 L9 hp9 => gi_SX C q1607 q1608 q74 q1609 mh_X0 np92 rfl hl.1.1 dL_law_598 rfl) h ((gh_K1_b gh_K0_b) _ hk) (fun v50 g h => ?_) (fun e g h => ?_)
      rotate_left
      ·
        obtain ⟨o, h, hk⟩ := gh_K1_thr h hk
        exact gh_out C (fun _ h => nomatch h) h hk
      refine gr_istore (pc := 601) (i := 6) (l' := [(6, .int v50), (0, va_rf (some a1)), (1, va_rf u28_1), (2, va_rf u28_2), (3, va_rf u28_3), (4, va_rf u28_4), (5, .int p5)]) C hl (Nat.le_of_ble_eq_true rfl) rfl dL_law_601 fun ls hl => ?_
      refine gr_aload_n (pc := 603) (i := 2) C rfl (gl_at hl 3 rfl) dL_law_603 ?_
      refine gr_aload_n (pc := 604) (i := 0) C rfl (gl_at hl 1 rfl) dL_law_604 ?_
      refine gr_iload (pc := 605) (i := 5) C (gl_at hl 6 rfl) dL_law_605 ?_
      refine gr_iconst (pc := 607) (v := (1 : Int32)) C rfl dL_law_607 ?_
      refine gr_iadd (pc := 608) C dL_law_608 ?_
      refine gr_iald (pc := 609) C dL_law_609 h fun v51 h => ?_
      refine gr_aload_n (pc := 610) (i := 0) C rfl (gl_at hl 1 rfl) dL_law_610 ?_
      refine gr_iload (pc := 611) (i := 5) C (gl_at hl 6 rfl) dL_law_611 ?_
      refine gr_iconst (pc := 613) (v := (2 : Int32)) C rfl dL_law_613 ?_
      refine gr_iadd (pc := 614) C dL_law_614 ?_
      refine gr_iald (pc := 615) C dL_law_615 h fun v52 h => ?_
      rcases u28_2 with _ | a53
      · exact gh_stk_inv h
      replace h := gh_nn_ss h
      obtain ⟨⟨fs9, hg9⟩, h⟩ := gh_is_inv h
      refine gh_callI (pc := 616) (rest := []) C (k_X4_ropeOf C.tr a53 v51 v52) (Nat.le_of_ble_eq_true rfl) (Nat.le_of_ble_eq_true rfl) (gh_r4 (Nat.le_of_ble_eq_true rfl)) (fun H9 L9 hp9 => gi_V C hp9 hg9 gh_cX4 q2457 q2458 q2459 q2460 mh_X4 np1 rfl hl.1.1 dL_law_616 rfl) h ((gh_K1_b gh_K0_b) _ hk) (fun v54 g h => ?_) (fun e g h => ?_)
      rotate_left
      ·
        obtain ⟨o, h, hk⟩ := gh_K1_thr h hk
        exact gh_out C (fun _ h => nomatch h) h hk
      refine gr_istore (pc := 619) (i := 7) (l' := [(7, .int v54), (6, .int v50), (0, va_rf (some a1)), (1, va_rf u28_1), (2, va_rf (some a53)), (3, va_rf u28_3), (4, va_rf u28_4), (5, .int p5)]) C hl (Nat.le_of_ble_eq_true rfl) rfl dL_law_619 fun ls hl => ?_
      refine gr_aload_n (pc := 621) (i := 2) C rfl (gl_at hl 4 rfl) dL_law_621 ?_
      obtain ⟨⟨fs9, hg9⟩, h⟩ := gh_is_inv h
      refine gh_callI (pc := 622) (rest := []) C (k_X4_thrown C.tr a53) (Nat.le_of_ble_eq_true rfl) (Nat.le_of_ble_eq_true rfl) (gh_r4 (Nat.le_of_ble_eq_true rfl)) (fun H9 L9 hp9 => gi_V C hp9 hg9 gh_cX4 q2377 q2378 q2379 q2380 mh_X4 np0 rfl hl.1.1 dL_law_622 rfl) h ((gh_K1_b gh_K0_b) _ hk) (fun v55 g h => ?_) (fun e g h => ?_)
      rotate_left
      ·
        obtain ⟨o, h, hk⟩ := gh_K1_thr h hk
        exact gh_out C (fun _ h => nomatch h) h hk
      refine gr_iload (pc := 625) (i := 6) C (gl_at hl 1 rfl) dL_law_625 ?_
      refine gr_icmp_eq (pc := 627) (tgt := 632) C rfl dL_law_627 (fun c9 => ?_) (fun c9 => ?_)
      · replace h := gh_ift h c9
        refine gr_iload (pc := 632) (i := 6) C (gl_at hl 1 rfl) dL_law_632 ?_
        refine gr_if_ne (pc := 634) (tgt := 649) C rfl dL_law_634 (fun c9 => ?_) (fun c9 => ?_)
        · replace h := gh_iff h c9
          exact w_L_law_649 C (some a1) u28_1 (some a53) u28_3 u28_4 p5 (gl_sub hl [2, 3, 4, 5, 6, 7] rfl) h hk
        · replace h := gh_ift h c9
          refine gr_aload_n (pc := 637) (i := 3) C rfl (gl_at hl 5 rfl) dL_law_637 ?_
          refine gr_iconst (pc := 638) (v := (0 : Int32)) C rfl dL_law_638 ?_
          rcases u28_3 with _ | a56
          · exact gh_stk_inv h
          replace h := gh_nn_ss h
          refine gr_lald (pc := 639) C dL_law_639 h fun v57 h => ?_
          refine gr_iload (pc := 640) (i := 7) C (gl_at hl 0 rfl) dL_law_640 ?_
          refine gr_i2l (pc := 642) (v := v54.toInt64) C rfl dL_law_642 ?_
          refine gr_lcmp (pc := 643) C dL_law_643 ?_
          refine gr_if_eq (pc := 644) (tgt := 649) C rfl dL_law_644 (fun c9 => ?_) (fun c9 => ?_)
          · replace h := gh_ift h c9
            exact w_L_law_649 C (some a1) u28_1 (some a53) (some a56) u28_4 p5 (gl_sub hl [2, 3, 4, 5, 6, 7] rfl) h hk
          · replace h := gh_iff h c9
            refine gr_iconst (pc := 647) (v := (0 : Int32)) C rfl dL_law_647 ?_
            obtain ⟨o, h, hk⟩ := gh_K1_up h hk
            exact gr_bret (pc := 648) C dL_law_648 h hk
      · replace h := gh_iff h c9
        refine gr_iconst (pc := 630) (v := (0 : Int32)) C rfl dL_law_630 ?_
        obtain ⟨o, h, hk⟩ := gh_K1_up h hk
        exact gr_bret (pc := 631) C dL_law_631 h hk
    replace h := gh_iff h k6
    by_cases k7 : (v3 &&& (63 : Int32)) = (7 : Int32)
    · replace h := gh_ift h k7
      refine gr_table (pc := 44) (v := (7 : Int32)) (off := 608) (tgt := 652) C k7 (by decide) (by decide) (by decide) rfl dL_law_44 ?_
      refine gr_aload_n (pc := 652) (i := 1) C rfl (gl_at hl 1 rfl) dL_law_652 ?_
      refine gr_aload_n (pc := 653) (i := 0) C rfl (gl_at hl 0 rfl) dL_law_653 ?_
      refine gr_iload (pc := 654) (i := 5) C (gl_at hl 5 rfl) dL_law_654 ?_
      refine gr_iconst (pc := 656) (v := (1 : Int32)) C rfl dL_law_656 ?_
      refine gr_iadd (pc := 657) C dL_law_657 ?_
      refine gr_iald (pc := 658) C dL_law_658 h fun v58 h => ?_
      refine gr_aload_n (pc := 659) (i := 0) C rfl (gl_at hl 0 rfl) dL_law_659 ?_
      refine gr_iload (pc := 660) (i := 5) C (gl_at hl 5 rfl) dL_law_660 ?_
      refine gr_iconst (pc := 662) (v := (2 : Int32)) C rfl dL_law_662 ?_
      refine gr_iadd (pc := 663) C dL_law_663 ?_
      refine gr_iald (pc := 664) C dL_law_664 h fun v59 h => ?_
      refine gr_aload_n (pc := 665) (i := 3) C rfl (gl_at hl 3 rfl) dL_law_665 ?_
      refine gh_callI (pc := 666) (rest := []) C (k_X0_hoist C.tr u28_1 v58 v59 u28_3) (Nat.le_of_ble_eq_true rfl) (Nat.le_of_ble_eq_true rfl) (gh_r4 (Nat.le_of_ble_eq_true rfl)) (fun H9 L9 hp9 => gi_SX C q1615 q1616 q74 q1617 mh_X0 np92 rfl hl.1.1 dL_law_666 rfl) h ((gh_K1_b gh_K0_b) _ hk) (fun v60 g h => ?_) (fun e g h => ?_)
      rotate_left
      ·
        obtain ⟨o, h, hk⟩ := gh_K1_thr h hk
        exact gh_out C (fun _ h => nomatch h) h hk
      refine gr_istore (pc := 669) (i := 6) (l' := [(6, .int v60), (0, va_rf (some a1)), (1, va_rf u28_1), (2, va_rf u28_2), (3, va_rf u28_3), (4, va_rf u28_4), (5, .int p5)]) C hl (Nat.le_of_ble_eq_true rfl) rfl dL_law_669 fun ls hl => ?_
      refine gr_aload_n (pc := 671) (i := 2) C rfl (gl_at hl 3 rfl) dL_law_671 ?_
      refine gr_aload_n (pc := 672) (i := 0) C rfl (gl_at hl 1 rfl) dL_law_672 ?_
      refine gr_iload (pc := 673) (i := 5) C (gl_at hl 6 rfl) dL_law_673 ?_
      refine gr_iconst (pc := 675) (v := (1 : Int32)) C rfl dL_law_675 ?_
      refine gr_iadd (pc := 676) C dL_law_676 ?_
      refine gr_iald (pc := 677) C dL_law_677 h fun v61 h => ?_
      refine gr_aload_n (pc := 678) (i := 0) C rfl (gl_at hl 1 rfl) dL_law_678 ?_
      refine gr_iload (pc := 679) (i := 5) C (gl_at hl 6 rfl) dL_law_679 ?_
      refine gr_iconst (pc := 681) (v := (2 : Int32)) C rfl dL_law_681 ?_
      refine gr_iadd (pc := 682) C dL_law_682 ?_
      refine gr_iald (pc := 683) C dL_law_683 h fun v62 h => ?_
      rcases u28_2 with _ | a63
      · exact gh_stk_inv h
      replace h := gh_nn_ss h
      obtain ⟨⟨fs9, hg9⟩, h⟩ := gh_is_inv h
      refine gh_callI (pc := 684) (rest := []) C (k_X4_hoist C.tr a63 v61 v62) (Nat.le_of_ble_eq_true rfl) (Nat.le_of_ble_eq_true rfl) (gh_r4 (Nat.le_of_ble_eq_true rfl)) (fun H9 L9 hp9 => gi_V C hp9 hg9 gh_cX4 q2469 q2470 q2471 q2472 mh_X4 np1 rfl hl.1.1 dL_law_684 rfl) h ((gh_K1_b gh_K0_b) _ hk) (fun v64 g h => ?_) (fun e g h => ?_)
      rotate_left
      ·
        obtain ⟨o, h, hk⟩ := gh_K1_thr h hk
        exact gh_out C (fun _ h => nomatch h) h hk
      refine gr_istore (pc := 687) (i := 7) (l' := [(7, .int v64), (6, .int v60), (0, va_rf (some a1)), (1, va_rf u28_1), (2, va_rf (some a63)), (3, va_rf u28_3), (4, va_rf u28_4), (5, .int p5)]) C hl (Nat.le_of_ble_eq_true rfl) rfl dL_law_687 fun ls hl => ?_
      refine gr_aload_n (pc := 689) (i := 2) C rfl (gl_at hl 4 rfl) dL_law_689 ?_
      obtain ⟨⟨fs9, hg9⟩, h⟩ := gh_is_inv h
      refine gh_callI (pc := 690) (rest := []) C (k_X4_thrown C.tr a63) (Nat.le_of_ble_eq_true rfl) (Nat.le_of_ble_eq_true rfl) (gh_r4 (Nat.le_of_ble_eq_true rfl)) (fun H9 L9 hp9 => gi_V C hp9 hg9 gh_cX4 q2377 q2378 q2379 q2380 mh_X4 np0 rfl hl.1.1 dL_law_690 rfl) h ((gh_K1_b gh_K0_b) _ hk) (fun v65 g h => ?_) (fun e g h => ?_)
      rotate_left
      ·
        obtain ⟨o, h, hk⟩ := gh_K1_thr h hk
        exact gh_out C (fun _ h => nomatch h) h hk
      refine gr_iload (pc := 693) (i := 6) C (gl_at hl 1 rfl) dL_law_693 ?_
      refine gr_icmp_eq (pc := 695) (tgt := 700) C rfl dL_law_695 (fun c9 => ?_) (fun c9 => ?_)
      · replace h := gh_ift h c9
        refine gr_iload (pc := 700) (i := 6) C (gl_at hl 1 rfl) dL_law_700 ?_
        refine gr_if_ne (pc := 702) (tgt := 717) C rfl dL_law_702 (fun c9 => ?_) (fun c9 => ?_)
        · replace h := gh_iff h c9
          exact w_L_law_717 C (some a1) u28_1 (some a63) u28_3 u28_4 p5 (gl_sub hl [2, 3, 4, 5, 6, 7] rfl) h hk
        · replace h := gh_ift h c9
          refine gr_aload_n (pc := 705) (i := 3) C rfl (gl_at hl 5 rfl) dL_law_705 ?_
          refine gr_iconst (pc := 706) (v := (0 : Int32)) C rfl dL_law_706 ?_
          rcases u28_3 with _ | a66
          · exact gh_stk_inv h
          replace h := gh_nn_ss h
          refine gr_lald (pc := 707) C dL_law_707 h fun v67 h => ?_
          refine gr_iload (pc := 708) (i := 7) C (gl_at hl 0 rfl) dL_law_708 ?_
          refine gr_i2l (pc := 710) (v := v64.toInt64) C rfl dL_law_710 ?_
          refine gr_lcmp (pc := 711) C dL_law_711 ?_
          refine gr_if_eq (pc := 712) (tgt := 717) C rfl dL_law_712 (fun c9 => ?_) (fun c9 => ?_)
          · replace h := gh_ift h c9
            exact w_L_law_717 C (some a1) u28_1 (some a63) (some a66) u28_4 p5 (gl_sub hl [2, 3, 4, 5, 6, 7] rfl) h hk
          · replace h := gh_iff h c9
            refine gr_iconst (pc := 715) (v := (0 : Int32)) C rfl dL_law_715 ?_
            obtain ⟨o, h, hk⟩ := gh_K1_up h hk
            exact gr_bret (pc := 716) C dL_law_716 h hk
      · replace h := gh_iff h c9
        refine gr_iconst (pc := 698) (v := (0 : Int32)) C rfl dL_law_698 ?_
        obtain ⟨o, h, hk⟩ := gh_K1_up h hk
        exact gr_bret (pc := 699) C dL_law_699 h hk
    replace h := gh_iff h k7
    by_cases k8 : (v3 &&& (63 : Int32)) = (8 : Int32)
    · replace h := gh_ift h k8
      refine gr_table (pc := 44) (v := (8 : Int32)) (off := 676) (tgt := 720) C k8 (by decide) (by decide) (by decide) rfl dL_law_44 ?_
      refine gr_aload_n (pc := 720) (i := 1) C rfl (gl_at hl 1 rfl) dL_law_720 ?_
      refine gr_aload_n (pc := 721) (i := 0) C rfl (gl_at hl 0 rfl) dL_law_721 ?_
      refine gr_iload (pc := 722) (i := 5) C (gl_at hl 5 rfl) dL_law_722 ?_
      refine gr_iconst (pc := 724) (v := (1 : Int32)) C rfl dL_law_724 ?_
      refine gr_iadd (pc := 725) C dL_law_725 ?_
      refine gr_iald (pc := 726) C dL_law_726 h fun v68 h => ?_
      refine gr_aload_n (pc := 727) (i := 3) C rfl (gl_at hl 3 rfl) dL_law_727 ?_
      refine gh_callI (pc := 728) (rest := []) C (k_X0_lower C.tr u28_1 v68 u28_3) (Nat.le_of_ble_eq_true rfl) (Nat.le_of_ble_eq_true rfl) (gh_r4 (Nat.le_of_ble_eq_true rfl)) (fun H9 L9 hp9 => gi_SX C q1623 q1624 q74 q1625 mh_X0 np94 rfl hl.1.1 dL_law_728 rfl) h ((gh_K1_b gh_K0_b) _ hk) (fun v69 g h => ?_) (fun e g h => ?_)
      rotate_left
      ·
        obtain ⟨o, h, hk⟩ := gh_K1_thr h hk
        exact gh_out C (fun _ h => nomatch h) h hk
      refine gr_istore (pc := 731) (i := 6) (l' := [(6, .int v69), (0, va_rf (some a1)), (1, va_rf u28_1), (2, va_rf u28_2), (3, va_rf u28_3), (4, va_rf u28_4), (5, .int p5)]) C hl (Nat.le_of_ble_eq_true rfl) rfl dL_law_731 fun ls hl => ?_
      refine gr_aload_n (pc := 733) (i := 2) C rfl (gl_at hl 3 rfl) dL_law_733 ?_
      refine gr_aload_n (pc := 734) (i := 0) C rfl (gl_at hl 1 rfl) dL_law_734 ?_
      refine gr_iload (pc := 735) (i := 5) C (gl_at hl 6 rfl) dL_law_735 ?_
      refine gr_iconst (pc := 737) (v := (1 : Int32)) C rfl dL_law_737 ?_
      refine gr_iadd (pc := 738) C dL_law_738 ?_
      refine gr_iald (pc := 739) C dL_law_739 h fun v70 h => ?_
      rcases u28_2 with _ | a71
      · exact gh_stk_inv h
      replace h := gh_nn_ss h
      obtain ⟨⟨fs9, hg9⟩, h⟩ := gh_is_inv h
      refine gh_callI (pc := 740) (rest := []) C (k_X4_lower C.tr a71 v70) (Nat.le_of_ble_eq_true rfl) (Nat.le_of_ble_eq_true rfl) (gh_r4 (Nat.le_of_ble_eq_true rfl)) (fun H9 L9 hp9 => gi_V C hp9 hg9 gh_cX4 q2477 q2478 q2479 q2480 mh_X4 np6 rfl hl.1.1 dL_law_740 rfl) h ((gh_K1_b gh_K0_b) _ hk) (fun v72 g h => ?_) (fun e g h => ?_)
      rotate_left
      ·
        obtain ⟨o, h, hk⟩ := gh_K1_thr h hk
        exact gh_out C (fun _ h => nomatch h) h hk
      refine gr_istore (pc := 743) (i := 7) (l' := [(7, .int v72), (6, .int v69), (0, va_rf (some a1)), (1, va_rf u28_1), (2, va_rf (some a71)), (3, va_rf u28_3), (4, va_rf u28_4), (5, .int p5)]) C hl (Nat.le_of_ble_eq_true rfl) rfl dL_law_743 fun ls hl => ?_
      refine gr_aload_n (pc := 745) (i := 2) C rfl (gl_at hl 4 rfl) dL_law_745 ?_
      obtain ⟨⟨fs9, hg9⟩, h⟩ := gh_is_inv h
      refine gh_callI (pc := 746) (rest := []) C (k_X4_thrown C.tr a71) (Nat.le_of_ble_eq_true rfl) (Nat.le_of_ble_eq_true rfl) (gh_r4 (Nat.le_of_ble_eq_true rfl)) (fun H9 L9 hp9 => gi_V C hp9 hg9 gh_cX4 q2377 q2378 q2379 q2380 mh_X4 np0 rfl hl.1.1 dL_law_746 rfl) h ((gh_K1_b gh_K0_b) _ hk) (fun v73 g h => ?_) (fun e g h => ?_)
      rotate_left
      ·
        obtain ⟨o, h, hk⟩ := gh_K1_thr h hk
        exact gh_out C (fun _ h => nomatch h) h hk
      refine gr_iload (pc := 749) (i := 6) C (gl_at hl 1 rfl) dL_law_749 ?_
      refine gr_icmp_eq (pc := 751) (tgt := 756) C rfl dL_law_751 (fun c9 => ?_) (fun c9 => ?_)
      · replace h := gh_ift h c9
        refine gr_iload (pc := 756) (i := 6) C (gl_at hl 1 rfl) dL_law_756 ?_
        refine gr_if_ne (pc := 758) (tgt := 773) C rfl dL_law_758 (fun c9 => ?_) (fun c9 => ?_)
        · replace h := gh_iff h c9
          exact w_L_law_773 C (some a1) u28_1 (some a71) u28_3 u28_4 p5 (gl_sub hl [2, 3, 4, 5, 6, 7] rfl) h hk
        · replace h := gh_ift h c9
          refine gr_aload_n (pc := 761) (i := 3) C rfl (gl_at hl 5 rfl) dL_law_761 ?_
          refine gr_iconst (pc := 762) (v := (0 : Int32)) C rfl dL_law_762 ?_
          rcases u28_3 with _ | a74
          · exact gh_stk_inv h
          replace h := gh_nn_ss h
          refine gr_lald (pc := 763) C dL_law_763 h fun v75 h => ?_
          refine gr_iload (pc := 764) (i := 7) C (gl_at hl 0 rfl) dL_law_764 ?_
          refine gr_i2l (pc := 766) (v := v72.toInt64) C rfl dL_law_766 ?_
          refine gr_lcmp (pc := 767) C dL_law_767 ?_
          refine gr_if_eq (pc := 768) (tgt := 773) C rfl dL_law_768 (fun c9 => ?_) (fun c9 => ?_)
          · replace h := gh_ift h c9
            exact w_L_law_773 C (some a1) u28_1 (some a71) (some a74) u28_4 p5 (gl_sub hl [2, 3, 4, 5, 6, 7] rfl) h hk
          · replace h := gh_iff h c9
            refine gr_iconst (pc := 771) (v := (0 : Int32)) C rfl dL_law_771 ?_
            obtain ⟨o, h, hk⟩ := gh_K1_up h hk
            exact gr_bret (pc := 772) C dL_law_772 h hk
      · replace h := gh_iff h c9
        refine gr_iconst (pc := 754) (v := (0 : Int32)) C rfl dL_law_754 ?_
        obtain ⟨o, h, hk⟩ := gh_K1_up h hk
        exact gr_bret (pc := 755) C dL_law_755 h hk
    replace h := gh_iff h k8
    by_cases k9 : (v3 &&& (63 : Int32)) = (9 : Int32)
    · replace h := gh_ift h k9
      refine gr_table (pc := 44) (v := (9 : Int32)) (off := 732) (tgt := 776) C k9 (by decide) (by decide) (by decide) rfl dL_law_44 ?_
      refine gr_aload_n (pc := 776) (i := 1) C rfl (gl_at hl 1 rfl) dL_law_776 ?_
      refine gr_aload_n (pc := 777) (i := 0) C rfl (gl_at hl 0 rfl) dL_law_777 ?_
      refine gr_iload (pc := 778) (i := 5) C (gl_at hl 5 rfl) dL_law_778 ?_
      refine gr_iconst (pc := 780) (v := (1 : Int32)) C rfl dL_law_780 ?_
      refine gr_iadd (pc := 781) C dL_law_781 ?_
      refine gr_iald (pc := 782) C dL_law_782 h fun v76 h => ?_
      refine gr_aload_n (pc := 783) (i := 0) C rfl (gl_at hl 0 rfl) dL_law_783 ?_
      refine gr_iload (pc := 784) (i := 5) C (gl_at hl 5 rfl) dL_law_784 ?_
      refine gr_iconst (pc := 786) (v := (2 : Int32)) C rfl dL_law_786 ?_
      refine gr_iadd (pc := 787) C dL_law_787 ?_
      refine gr_iald (pc := 788) C dL_law_788 h fun v77 h => ?_
      refine gr_aload_n (pc := 789) (i := 3) C rfl (gl_at hl 3 rfl) dL_law_789 ?_
      refine gh_callI (pc := 790) (rest := []) C (k_X0_set C.tr u28_1 v76 v77 u28_3) (Nat.le_of_ble_eq_true rfl) (Nat.le_of_ble_eq_true rfl) (gh_r4 (Nat.le_of_ble_eq_true rfl)) (fun H9 L9 hp9 => gi_SX C q1631 q1632 q74 q1633 mh_X0 np92 rfl hl.1.1 dL_law_790 rfl) h ((gh_K1_b gh_K0_b) _ hk) (fun v78 g h => ?_) (fun e g h => ?_)
      rotate_left
      ·
        obtain ⟨o, h, hk⟩ := gh_K1_thr h hk
        exact gh_out C (fun _ h => nomatch h) h hk
      refine gr_istore (pc := 793) (i := 6) (l' := [(6, .int v78), (0, va_rf (some a1)), (1, va_rf u28_1), (2, va_rf u28_2), (3, va_rf u28_3), (4, va_rf u28_4), (5, .int p5)]) C hl (Nat.le_of_ble_eq_true rfl) rfl dL_law_793 fun ls hl => ?_
      refine gr_aload_n (pc := 795) (i := 2) C rfl (gl_at hl 3 rfl) dL_law_795 ?_
      refine gr_aload_n (pc := 796) (i := 0) C rfl (gl_at hl 1 rfl) dL_law_796 ?_
      refine gr_iload (pc := 797) (i := 5) C (gl_at hl 6 rfl) dL_law_797 ?_
      refine gr_iconst (pc := 799) (v := (1 : Int32)) C rfl dL_law_799 ?_
      refine gr_iadd (pc := 800) C dL_law_800 ?_
      refine gr_iald (pc := 801) C dL_law_801 h fun v79 h => ?_
      refine gr_aload_n (pc := 802) (i := 0) C rfl (gl_at hl 1 rfl) dL_law_802 ?_
      refine gr_iload (pc := 803) (i := 5) C (gl_at hl 6 rfl) dL_law_803 ?_
      refine gr_iconst (pc := 805) (v := (2 : Int32)) C rfl dL_law_805 ?_
      refine gr_iadd (pc := 806) C dL_law_806 ?_
      refine gr_iald (pc := 807) C dL_law_807 h fun v80 h => ?_
      rcases u28_2 with _ | a81
      · exact gh_stk_inv h
      replace h := gh_nn_ss h
      obtain ⟨⟨fs9, hg9⟩, h⟩ := gh_is_inv h
      refine gh_callI (pc := 808) (rest := []) C (k_X4_set C.tr a81 v79 v80) (Nat.le_of_ble_eq_true rfl) (Nat.le_of_ble_eq_true rfl) (gh_r4 (Nat.le_of_ble_eq_true rfl)) (fun H9 L9 hp9 => gi_V C hp9 hg9 gh_cX4 q2485 q2486 q2487 q2488 mh_X4 np1 rfl hl.1.1 dL_law_808 rfl) h ((gh_K1_b gh_K0_b) _ hk) (fun v82 g h => ?_) (fun e g h => ?_)
      rotate_left
      ·
        obtain ⟨o, h, hk⟩ := gh_K1_thr h hk
        exact gh_out C (fun _ h => nomatch h) h hk
      refine gr_istore (pc := 811) (i := 7) (l' := [(7, .int v82), (6, .int v78), (0, va_rf (some a1)), (1, va_rf u28_1), (2, va_rf (some a81)), (3, va_rf u28_3), (4, va_rf u28_4), (5, .int p5)]) C hl (Nat.le_of_ble_eq_true rfl) rfl dL_law_811 fun ls hl => ?_
      refine gr_aload_n (pc := 813) (i := 2) C rfl (gl_at hl 4 rfl) dL_law_813 ?_
      obtain ⟨⟨fs9, hg9⟩, h⟩ := gh_is_inv h
      refine gh_callI (pc := 814) (rest := []) C (k_X4_thrown C.tr a81) (Nat.le_of_ble_eq_true rfl) (Nat.le_of_ble_eq_true rfl) (gh_r4 (Nat.le_of_ble_eq_true rfl)) (fun H9 L9 hp9 => gi_V C hp9 hg9 gh_cX4 q2377 q2378 q2379 q2380 mh_X4 np0 rfl hl.1.1 dL_law_814 rfl) h ((gh_K1_b gh_K0_b) _ hk) (fun v83 g h => ?_) (fun e g h => ?_)
      rotate_left
      ·
        obtain ⟨o, h, hk⟩ := gh_K1_thr h hk
        exact gh_out C (fun _ h => nomatch h) h hk
      refine gr_iload (pc := 817) (i := 6) C (gl_at hl 1 rfl) dL_law_817 ?_
      refine gr_icmp_eq (pc := 819) (tgt := 824) C rfl dL_law_819 (fun c9 => ?_) (fun c9 => ?_)
      · replace h := gh_ift h c9
        refine gr_iload (pc := 824) (i := 6) C (gl_at hl 1 rfl) dL_law_824 ?_
        refine gr_if_ne (pc := 826) (tgt := 841) C rfl dL_law_826 (fun c9 => ?_) (fun c9 => ?_)
        · replace h := gh_iff h c9
          exact w_L_law_841 C (some a1) u28_1 (some a81) u28_3 u28_4 p5 (gl_sub hl [2, 3, 4, 5, 6, 7] rfl) h hk
        · replace h := gh_ift h c9
          refine gr_aload_n (pc := 829) (i := 3) C rfl (gl_at hl 5 rfl) dL_law_829 ?_
          refine gr_iconst (pc := 830) (v := (0 : Int32)) C rfl dL_law_830 ?_
          rcases u28_3 with _ | a84
          · exact gh_stk_inv h
          replace h := gh_nn_ss h
          refine gr_lald (pc := 831) C dL_law_831 h fun v85 h => ?_
          refine gr_iload (pc := 832) (i := 7) C (gl_at hl 0 rfl) dL_law_832 ?_
          refine gr_i2l (pc := 834) (v := v82.toInt64) C rfl dL_law_834 ?_
          refine gr_lcmp (pc := 835) C dL_law_835 ?_
          refine gr_if_eq (pc := 836) (tgt := 841) C rfl dL_law_836 (fun c9 => ?_) (fun c9 => ?_)
          · replace h := gh_ift h c9
            exact w_L_law_841 C (some a1) u28_1 (some a81) (some a84) u28_4 p5 (gl_sub hl [2, 3, 4, 5, 6, 7] rfl) h hk
          · replace h := gh_iff h c9
            refine gr_iconst (pc := 839) (v := (0 : Int32)) C rfl dL_law_839 ?_
            obtain ⟨o, h, hk⟩ := gh_K1_up h hk
            exact gr_bret (pc := 840) C dL_law_840 h hk
      · replace h := gh_iff h c9
        refine gr_iconst (pc := 822) (v := (0 : Int32)) C rfl dL_law_822 ?_
        obtain ⟨o, h, hk⟩ := gh_K1_up h hk
        exact gr_bret (pc := 823) C dL_law_823 h hk
    replace h := gh_iff h k9
    by_cases k10 : (v3 &&& (63 : Int32)) = (10 : Int32)
    · replace h := gh_ift h k10
      refine gr_table (pc := 44) (v := (10 : Int32)) (off := 800) (tgt := 844) C k10 (by decide) (by decide) (by decide) rfl dL_law_44 ?_
      refine gr_aload_n (pc := 844) (i := 1) C rfl (gl_at hl 1 rfl) dL_law_844 ?_
      refine gr_aload_n (pc := 845) (i := 0) C rfl (gl_at hl 0 rfl) dL_law_845 ?_
      refine gr_iload (pc := 846) (i := 5) C (gl_at hl 5 rfl) dL_law_846 ?_
      refine gr_iconst (pc := 848) (v := (1 : Int32)) C rfl dL_law_848 ?_
      refine gr_iadd (pc := 849) C dL_law_849 ?_
      refine gr_iald (pc := 850) C dL_law_850 h fun v86 h => ?_
      refine gr_aload_n (pc := 851) (i := 3) C rfl (gl_at hl 3 rfl) dL_law_851 ?_
      refine gh_callI (pc := 852) (rest := []) C (k_X0_blockIn C.tr u28_1 v86 u28_3) (Nat.le_of_ble_eq_true rfl) (Nat.le_of_ble_eq_true rfl) (gh_r4 (Nat.le_of_ble_eq_true rfl)) (fun H9 L9 hp9 => gi_SX C q1639 q1640 q74 q1641 mh_X0 np94 rfl hl.1.1 dL_law_852 rfl) h ((gh_K1_b gh_K0_b) _ hk) (fun v87 g h => ?_) (fun e g h => ?_)
      rotate_left
      ·
        obtain ⟨o, h, hk⟩ := gh_K1_thr h hk
        exact gh_out C (fun _ h => nomatch h) h hk
      refine gr_istore (pc := 855) (i := 6) (l' := [(6, .int v87), (0, va_rf (some a1)), (1, va_rf u28_1), (2, va_rf u28_2), (3, va_rf u28_3), (4, va_rf u28_4), (5, .int p5)]) C hl (Nat.le_of_ble_eq_true rfl) rfl dL_law_855 fun ls hl => ?_
      refine gr_aload_n (pc := 857) (i := 2) C rfl (gl_at hl 3 rfl) dL_law_857 ?_
      refine gr_aload_n (pc := 858) (i := 0) C rfl (gl_at hl 1 rfl) dL_law_858 ?_
      refine gr_iload (pc := 859) (i := 5) C (gl_at hl 6 rfl) dL_law_859 ?_
      refine gr_iconst (pc := 861) (v := (1 : Int32)) C rfl dL_law_861 ?_
      refine gr_iadd (pc := 862) C dL_law_862 ?_
      refine gr_iald (pc := 863) C dL_law_863 h fun v88 h => ?_
      rcases u28_2 with _ | a89
      · exact gh_stk_inv h
      replace h := gh_nn_ss h
      obtain ⟨⟨fs9, hg9⟩, h⟩ := gh_is_inv h
      refine gh_callI (pc := 864) (rest := []) C (k_X4_blockIn C.tr a89 v88) (Nat.le_of_ble_eq_true rfl) (Nat.le_of_ble_eq_true rfl) (gh_r4 (Nat.le_of_ble_eq_true rfl)) (fun H9 L9 hp9 => gi_V C hp9 hg9 gh_cX4 q2504 q2505 q2506 q2507 mh_X4 np6 rfl hl.1.1 dL_law_864 rfl) h ((gh_K1_b gh_K0_b) _ hk) (fun v90 g h => ?_) (fun e g h => ?_)
      rotate_left
      ·
        obtain ⟨o, h, hk⟩ := gh_K1_thr h hk
        exact gh_out C (fun _ h => nomatch h) h hk
      refine gr_istore (pc := 867) (i := 7) (l' := [(7, .int v90), (6, .int v87), (0, va_rf (some a1)), (1, va_rf u28_1), (2, va_rf (some a89)), (3, va_rf u28_3), (4, va_rf u28_4), (5, .int p5)]) C hl (Nat.le_of_ble_eq_true rfl) rfl dL_law_867 fun ls hl => ?_
      refine gr_aload_n (pc := 869) (i := 2) C rfl (gl_at hl 4 rfl) dL_law_869 ?_
      obtain ⟨⟨fs9, hg9⟩, h⟩ := gh_is_inv h
      refine gh_callI (pc := 870) (rest := []) C (k_X4_thrown C.tr a89) (Nat.le_of_ble_eq_true rfl) (Nat.le_of_ble_eq_true rfl) (gh_r4 (Nat.le_of_ble_eq_true rfl)) (fun H9 L9 hp9 => gi_V C hp9 hg9 gh_cX4 q2377 q2378 q2379 q2380 mh_X4 np0 rfl hl.1.1 dL_law_870 rfl) h ((gh_K1_b gh_K0_b) _ hk) (fun v91 g h => ?_) (fun e g h => ?_)
      rotate_left
      ·
        obtain ⟨o, h, hk⟩ := gh_K1_thr h hk
        exact gh_out C (fun _ h => nomatch h) h hk
      refine gr_iload (pc := 873) (i := 6) C (gl_at hl 1 rfl) dL_law_873 ?_
      refine gr_icmp_eq (pc := 875) (tgt := 880) C rfl dL_law_875 (fun c9 => ?_) (fun c9 => ?_)
      · replace h := gh_ift h c9
        refine gr_iload (pc := 880) (i := 6) C (gl_at hl 1 rfl) dL_law_880 ?_
        refine gr_if_ne (pc := 882) (tgt := 897) C rfl dL_law_882 (fun c9 => ?_) (fun c9 => ?_)
        · replace h := gh_iff h c9
          exact w_L_law_897 C (some a1) u28_1 (some a89) u28_3 u28_4 p5 (gl_sub hl [2, 3, 4, 5, 6, 7] rfl) h hk
        · replace h := gh_ift h c9
          refine gr_aload_n (pc := 885) (i := 3) C rfl (gl_at hl 5 rfl) dL_law_885 ?_
          refine gr_iconst (pc := 886) (v := (0 : Int32)) C rfl dL_law_886 ?_
          rcases u28_3 with _ | a92
          · exact gh_stk_inv h
          replace h := gh_nn_ss h
          refine gr_lald (pc := 887) C dL_law_887 h fun v93 h => ?_
          refine gr_iload (pc := 888) (i := 7) C (gl_at hl 0 rfl) dL_law_888 ?_
          refine gr_i2l (pc := 890) (v := v90.toInt64) C rfl dL_law_890 ?_
          refine gr_lcmp (pc := 891) C dL_law_891 ?_
          refine gr_if_eq (pc := 892) (tgt := 897) C rfl dL_law_892 (fun c9 => ?_) (fun c9 => ?_)
          · replace h := gh_ift h c9
            exact w_L_law_897 C (some a1) u28_1 (some a89) (some a92) u28_4 p5 (gl_sub hl [2, 3, 4, 5, 6, 7] rfl) h hk
          · replace h := gh_iff h c9
            refine gr_iconst (pc := 895) (v := (0 : Int32)) C rfl dL_law_895 ?_
            obtain ⟨o, h, hk⟩ := gh_K1_up h hk
            exact gr_bret (pc := 896) C dL_law_896 h hk
      · replace h := gh_iff h c9
        refine gr_iconst (pc := 878) (v := (0 : Int32)) C rfl dL_law_878 ?_
        obtain ⟨o, h, hk⟩ := gh_K1_up h hk
        exact gr_bret (pc := 879) C dL_law_879 h hk
    replace h := gh_iff h k10
    by_cases k11 : (v3 &&& (63 : Int32)) = (11 : Int32)
    · replace h := gh_ift h k11
      refine gr_table (pc := 44) (v := (11 : Int32)) (off := 856) (tgt := 900) C k11 (by decide) (by decide) (by decide) rfl dL_law_44 ?_
      refine gr_aload_n (pc := 900) (i := 1) C rfl (gl_at hl 1 rfl) dL_law_900 ?_
      refine gr_aload_n (pc := 901) (i := 0) C rfl (gl_at hl 0 rfl) dL_law_901 ?_
      refine gr_iload (pc := 902) (i := 5) C (gl_at hl 5 rfl) dL_law_902 ?_
      refine gr_iconst (pc := 904) (v := (1 : Int32)) C rfl dL_law_904 ?_
      refine gr_iadd (pc := 905) C dL_law_905 ?_
      refine gr_iald (pc := 906) C dL_law_906 h fun v94 h => ?_
      refine gr_aload_n (pc := 907) (i := 3) C rfl (gl_at hl 3 rfl) dL_law_907 ?_
      refine gh_callI (pc := 908) (rest := []) C (k_X0_weightOn C.tr u28_1 v94 u28_3) (Nat.le_of_ble_eq_true rfl) (Nat.le_of_ble_eq_true rfl) (gh_r4 (Nat.le_of_ble_eq_true rfl)) (fun H9 L9 hp9 => gi_SX C q1647 q1648 q74 q1649 mh_X0 np94 rfl hl.1.1 dL_law_908 rfl) h ((gh_K1_b gh_K0_b) _ hk) (fun v95 g h => ?_) (fun e g h => ?_)
      rotate_left
      ·
        obtain ⟨o, h, hk⟩ := gh_K1_thr h hk
        exact gh_out C (fun _ h => nomatch h) h hk
      refine gr_istore (pc := 911) (i := 6) (l' := [(6, .int v95), (0, va_rf (some a1)), (1, va_rf u28_1), (2, va_rf u28_2), (3, va_rf u28_3), (4, va_rf u28_4), (5, .int p5)]) C hl (Nat.le_of_ble_eq_true rfl) rfl dL_law_911 fun ls hl => ?_
      refine gr_aload_n (pc := 913) (i := 2) C rfl (gl_at hl 3 rfl) dL_law_913 ?_
      refine gr_aload_n (pc := 914) (i := 0) C rfl (gl_at hl 1 rfl) dL_law_914 ?_
      refine gr_iload (pc := 915) (i := 5) C (gl_at hl 6 rfl) dL_law_915 ?_
      refine gr_iconst (pc := 917) (v := (1 : Int32)) C rfl dL_law_917 ?_
      refine gr_iadd (pc := 918) C dL_law_918 ?_
      refine gr_iald (pc := 919) C dL_law_919 h fun v96 h => ?_
      rcases u28_2 with _ | a97
      · exact gh_stk_inv h
      replace h := gh_nn_ss h
      obtain ⟨⟨fs9, hg9⟩, h⟩ := gh_is_inv h
      refine gh_callI (pc := 920) (rest := []) C (k_X4_weightOn C.tr a97 v96) (Nat.le_of_ble_eq_true rfl) (Nat.le_of_ble_eq_true rfl) (gh_r4 (Nat.le_of_ble_eq_true rfl)) (fun H9 L9 hp9 => gi_V C hp9 hg9 gh_cX4 q2508 q2509 q2510 q2511 mh_X4 np6 rfl hl.1.1 dL_law_920 rfl) h ((gh_K1_b gh_K0_b) _ hk) (fun v98 g h => ?_) (fun e g h => ?_)
      rotate_left
      ·
        obtain ⟨o, h, hk⟩ := gh_K1_thr h hk
        exact gh_out C (fun _ h => nomatch h) h hk
      refine gr_istore (pc := 923) (i := 7) (l' := [(7, .int v98), (6, .int v95), (0, va_rf (some a1)), (1, va_rf u28_1), (2, va_rf (some a97)), (3, va_rf u28_3), (4, va_rf u28_4), (5, .int p5)]) C hl (Nat.le_of_ble_eq_true rfl) rfl dL_law_923 fun ls hl => ?_
      refine gr_aload_n (pc := 925) (i := 2) C rfl (gl_at hl 4 rfl) dL_law_925 ?_
      obtain ⟨⟨fs9, hg9⟩, h⟩ := gh_is_inv h
      refine gh_callI (pc := 926) (rest := []) C (k_X4_thrown C.tr a97) (Nat.le_of_ble_eq_true rfl) (Nat.le_of_ble_eq_true rfl) (gh_r4 (Nat.le_of_ble_eq_true rfl)) (fun H9 L9 hp9 => gi_V C hp9 hg9 gh_cX4 q2377 q2378 q2379 q2380 mh_X4 np0 rfl hl.1.1 dL_law_926 rfl) h ((gh_K1_b gh_K0_b) _ hk) (fun v99 g h => ?_) (fun e g h => ?_)
      rotate_left
      ·
        obtain ⟨o, h, hk⟩ := gh_K1_thr h hk
        exact gh_out C (fun _ h => nomatch h) h hk
      refine gr_iload (pc := 929) (i := 6) C (gl_at hl 1 rfl) dL_law_929 ?_
      refine gr_icmp_eq (pc := 931) (tgt := 936) C rfl dL_law_931 (fun c9 => ?_) (fun c9 => ?_)
      · replace h := gh_ift h c9
        refine gr_iload (pc := 936) (i := 6) C (gl_at hl 1 rfl) dL_law_936 ?_
        refine gr_if_ne (pc := 938) (tgt := 953) C rfl dL_law_938 (fun c9 => ?_) (fun c9 => ?_)
        · replace h := gh_iff h c9
          exact w_L_law_953 C (some a1) u28_1 (some a97) u28_3 u28_4 p5 (gl_sub hl [2, 3, 4, 5, 6, 7] rfl) h hk
        · replace h := gh_ift h c9
          refine gr_aload_n (pc := 941) (i := 3) C rfl (gl_at hl 5 rfl) dL_law_941 ?_
          refine gr_iconst (pc := 942) (v := (0 : Int32)) C rfl dL_law_942 ?_
          rcases u28_3 with _ | a100
          · exact gh_stk_inv h
          replace h := gh_nn_ss h
          refine gr_lald (pc := 943) C dL_law_943 h fun v101 h => ?_
          refine gr_iload (pc := 944) (i := 7) C (gl_at hl 0 rfl) dL_law_944 ?_
          refine gr_i2l (pc := 946) (v := v98.toInt64) C rfl dL_law_946 ?_
          refine gr_lcmp (pc := 947) C dL_law_947 ?_
          refine gr_if_eq (pc := 948) (tgt := 953) C rfl dL_law_948 (fun c9 => ?_) (fun c9 => ?_)
          · replace h := gh_ift h c9
            exact w_L_law_953 C (some a1) u28_1 (some a97) (some a100) u28_4 p5 (gl_sub hl [2, 3, 4, 5, 6, 7] rfl) h hk
          · replace h := gh_iff h c9
            refine gr_iconst (pc := 951) (v := (0 : Int32)) C rfl dL_law_951 ?_
            obtain ⟨o, h, hk⟩ := gh_K1_up h hk
            exact gr_bret (pc := 952) C dL_law_952 h hk
      · replace h := gh_iff h c9
        refine gr_iconst (pc := 934) (v := (0 : Int32)) C rfl dL_law_934 ?_
        obtain ⟨o, h, hk⟩ := gh_K1_up h hk
        exact gr_bret (pc := 935) C dL_law_935 h hk
    replace h := gh_iff h k11
    by_cases k12 : (v3 &&& (63 : Int32)) = (12 : Int32)
    · replace h := gh_ift h k12
      refine gr_table (pc := 44) (v := (12 : Int32)) (off := 912) (tgt := 956) C k12 (by decide) (by decide) (by decide) rfl dL_law_44 ?_
      refine gr_aload_n (pc := 956) (i := 1) C rfl (gl_at hl 1 rfl) dL_law_956 ?_
      refine gr_aload_n (pc := 957) (i := 0) C rfl (gl_at hl 0 rfl) dL_law_957 ?_
      refine gr_iload (pc := 958) (i := 5) C (gl_at hl 5 rfl) dL_law_958 ?_
      refine gr_iconst (pc := 960) (v := (1 : Int32)) C rfl dL_law_960 ?_
      refine gr_iadd (pc := 961) C dL_law_961 ?_
      refine gr_iald (pc := 962) C dL_law_962 h fun v102 h => ?_
      refine gr_aload_n (pc := 963) (i := 3) C rfl (gl_at hl 3 rfl) dL_law_963 ?_
      refine gh_callI (pc := 964) (rest := []) C (k_X0_wouldFall C.tr u28_1 v102 u28_3) (Nat.le_of_ble_eq_true rfl) (Nat.le_of_ble_eq_true rfl) (gh_r4 (Nat.le_of_ble_eq_true rfl)) (fun H9 L9 hp9 => gi_SX C q1654 q1655 q74 q1656 mh_X0 np94 rfl hl.1.1 dL_law_964 rfl) h ((gh_K1_b gh_K0_b) _ hk) (fun v103 g h => ?_) (fun e g h => ?_)
      rotate_left
      ·
        obtain ⟨o, h, hk⟩ := gh_K1_thr h hk
        exact gh_out C (fun _ h => nomatch h) h hk
      refine gr_istore (pc := 967) (i := 6) (l' := [(6, .int v103), (0, va_rf (some a1)), (1, va_rf u28_1), (2, va_rf u28_2), (3, va_rf u28_3), (4, va_rf u28_4), (5, .int p5)]) C hl (Nat.le_of_ble_eq_true rfl) rfl dL_law_967 fun ls hl => ?_
      refine gr_aload_n (pc := 969) (i := 2) C rfl (gl_at hl 3 rfl) dL_law_969 ?_
      refine gr_aload_n (pc := 970) (i := 0) C rfl (gl_at hl 1 rfl) dL_law_970 ?_
      refine gr_iload (pc := 971) (i := 5) C (gl_at hl 6 rfl) dL_law_971 ?_
      refine gr_iconst (pc := 973) (v := (1 : Int32)) C rfl dL_law_973 ?_
      refine gr_iadd (pc := 974) C dL_law_974 ?_
      refine gr_iald (pc := 975) C dL_law_975 h fun v104 h => ?_
      rcases u28_2 with _ | a105
      · exact gh_stk_inv h
      replace h := gh_nn_ss h
      obtain ⟨⟨fs9, hg9⟩, h⟩ := gh_is_inv h
      refine gh_callI (pc := 976) (rest := []) C (k_X4_wouldFall C.tr a105 v104) (Nat.le_of_ble_eq_true rfl) (Nat.le_of_ble_eq_true rfl) (gh_r4 (Nat.le_of_ble_eq_true rfl)) (fun H9 L9 hp9 => gi_V C hp9 hg9 gh_cX4 q2515 q2516 q2517 q2518 mh_X4 np6 rfl hl.1.1 dL_law_976 rfl) h ((gh_K1_b gh_K0_b) _ hk) (fun v106 g h => ?_) (fun e g h => ?_)
      rotate_left
      ·
        obtain ⟨o, h, hk⟩ := gh_K1_thr h hk
        exact gh_out C (fun _ h => nomatch h) h hk
      refine gr_istore (pc := 979) (i := 7) (l' := [(7, .int v106), (6, .int v103), (0, va_rf (some a1)), (1, va_rf u28_1), (2, va_rf (some a105)), (3, va_rf u28_3), (4, va_rf u28_4), (5, .int p5)]) C hl (Nat.le_of_ble_eq_true rfl) rfl dL_law_979 fun ls hl => ?_
      refine gr_aload_n (pc := 981) (i := 2) C rfl (gl_at hl 4 rfl) dL_law_981 ?_
      obtain ⟨⟨fs9, hg9⟩, h⟩ := gh_is_inv h
      refine gh_callI (pc := 982) (rest := []) C (k_X4_thrown C.tr a105) (Nat.le_of_ble_eq_true rfl) (Nat.le_of_ble_eq_true rfl) (gh_r4 (Nat.le_of_ble_eq_true rfl)) (fun H9 L9 hp9 => gi_V C hp9 hg9 gh_cX4 q2377 q2378 q2379 q2380 mh_X4 np0 rfl hl.1.1 dL_law_982 rfl) h ((gh_K1_b gh_K0_b) _ hk) (fun v107 g h => ?_) (fun e g h => ?_)
      rotate_left
      ·
        obtain ⟨o, h, hk⟩ := gh_K1_thr h hk
        exact gh_out C (fun _ h => nomatch h) h hk
      refine gr_iload (pc := 985) (i := 6) C (gl_at hl 1 rfl) dL_law_985 ?_
      refine gr_icmp_eq (pc := 987) (tgt := 992) C rfl dL_law_987 (fun c9 => ?_) (fun c9 => ?_)
      · replace h := gh_ift h c9
        refine gr_iload (pc := 992) (i := 6) C (gl_at hl 1 rfl) dL_law_992 ?_
        refine gr_if_ne (pc := 994) (tgt := 1009) C rfl dL_law_994 (fun c9 => ?_) (fun c9 => ?_)
        · replace h := gh_iff h c9
          exact w_L_law_1009 C (some a1) u28_1 (some a105) u28_3 u28_4 p5 (gl_sub hl [2, 3, 4, 5, 6, 7] rfl) h hk
        · replace h := gh_ift h c9
          refine gr_aload_n (pc := 997) (i := 3) C rfl (gl_at hl 5 rfl) dL_law_997 ?_
          refine gr_iconst (pc := 998) (v := (0 : Int32)) C rfl dL_law_998 ?_
          rcases u28_3 with _ | a108
          · exact gh_stk_inv h
          replace h := gh_nn_ss h
          refine gr_lald (pc := 999) C dL_law_999 h fun v109 h => ?_
          refine gr_iload (pc := 1000) (i := 7) C (gl_at hl 0 rfl) dL_law_1000 ?_
          refine gr_i2l (pc := 1002) (v := v106.toInt64) C rfl dL_law_1002 ?_
          refine gr_lcmp (pc := 1003) C dL_law_1003 ?_
          refine gr_if_eq (pc := 1004) (tgt := 1009) C rfl dL_law_1004 (fun c9 => ?_) (fun c9 => ?_)
          · replace h := gh_ift h c9
            exact w_L_law_1009 C (some a1) u28_1 (some a105) (some a108) u28_4 p5 (gl_sub hl [2, 3, 4, 5, 6, 7] rfl) h hk
          · replace h := gh_iff h c9
            refine gr_iconst (pc := 1007) (v := (0 : Int32)) C rfl dL_law_1007 ?_
            obtain ⟨o, h, hk⟩ := gh_K1_up h hk
            exact gr_bret (pc := 1008) C dL_law_1008 h hk
      · replace h := gh_iff h c9
        refine gr_iconst (pc := 990) (v := (0 : Int32)) C rfl dL_law_990 ?_
        obtain ⟨o, h, hk⟩ := gh_K1_up h hk
        exact gr_bret (pc := 991) C dL_law_991 h hk
    replace h := gh_iff h k12
    by_cases k13 : (v3 &&& (63 : Int32)) = (13 : Int32)
    · replace h := gh_ift h k13
      refine gr_table (pc := 44) (v := (13 : Int32)) (off := 968) (tgt := 1012) C k13 (by decide) (by decide) (by decide) rfl dL_law_44 ?_
      refine gr_aload_n (pc := 1012) (i := 1) C rfl (gl_at hl 1 rfl) dL_law_1012 ?_
      refine gr_aload_n (pc := 1013) (i := 0) C rfl (gl_at hl 0 rfl) dL_law_1013 ?_
      refine gr_iload (pc := 1014) (i := 5) C (gl_at hl 5 rfl) dL_law_1014 ?_
      refine gr_iconst (pc := 1016) (v := (1 : Int32)) C rfl dL_law_1016 ?_
      refine gr_iadd (pc := 1017) C dL_law_1017 ?_
      refine gr_iald (pc := 1018) C dL_law_1018 h fun v110 h => ?_
      refine gr_aload_n (pc := 1019) (i := 3) C rfl (gl_at hl 3 rfl) dL_law_1019 ?_
      refine gh_callI (pc := 1020) (rest := []) C (k_X0_wouldFallAgain C.tr u28_1 v110 u28_3) (Nat.le_of_ble_eq_true rfl) (Nat.le_of_ble_eq_true rfl) (gh_r4 (Nat.le_of_ble_eq_true rfl)) (fun H9 L9 hp9 => gi_SX C q1662 q1663 q74 q1664 mh_X0 np94 rfl hl.1.1 dL_law_1020 rfl) h ((gh_K1_b gh_K0_b) _ hk) (fun v111 g h => ?_) (fun e g h => ?_)
      rotate_left
      ·
        obtain ⟨o, h, hk⟩ := gh_K1_thr h hk
        exact gh_out C (fun _ h => nomatch h) h hk
      refine gr_istore (pc := 1023) (i := 6) (l' := [(6, .int v111), (0, va_rf (some a1)), (1, va_rf u28_1), (2, va_rf u28_2), (3, va_rf u28_3), (4, va_rf u28_4), (5, .int p5)]) C hl (Nat.le_of_ble_eq_true rfl) rfl dL_law_1023 fun ls hl => ?_
      refine gr_aload_n (pc := 1025) (i := 2) C rfl (gl_at hl 3 rfl) dL_law_1025 ?_
      refine gr_aload_n (pc := 1026) (i := 0) C rfl (gl_at hl 1 rfl) dL_law_1026 ?_
      refine gr_iload (pc := 1027) (i := 5) C (gl_at hl 6 rfl) dL_law_1027 ?_
      refine gr_iconst (pc := 1029) (v := (1 : Int32)) C rfl dL_law_1029 ?_
      refine gr_iadd (pc := 1030) C dL_law_1030 ?_
      refine gr_iald (pc := 1031) C dL_law_1031 h fun v112 h => ?_
      rcases u28_2 with _ | a113
      · exact gh_stk_inv h
      replace h := gh_nn_ss h
      obtain ⟨⟨fs9, hg9⟩, h⟩ := gh_is_inv h
      refine gh_callI (pc := 1032) (rest := []) C (k_X4_wouldFallAgain C.tr a113 v112) (Nat.le_of_ble_eq_true rfl) (Nat.le_of_ble_eq_true rfl) (gh_r4 (Nat.le_of_ble_eq_true rfl)) (fun H9 L9 hp9 => gi_V C hp9 hg9 gh_cX4 q2523 q2524 q2525 q2526 mh_X4 np6 rfl hl.1.1 dL_law_1032 rfl) h ((gh_K1_b gh_K0_b) _ hk) (fun v114 g h => ?_) (fun e g h => ?_)
      rotate_left
      ·
        obtain ⟨o, h, hk⟩ := gh_K1_thr h hk
        exact gh_out C (fun _ h => nomatch h) h hk
      refine gr_istore (pc := 1035) (i := 7) (l' := [(7, .int v114), (6, .int v111), (0, va_rf (some a1)), (1, va_rf u28_1), (2, va_rf (some a113)), (3, va_rf u28_3), (4, va_rf u28_4), (5, .int p5)]) C hl (Nat.le_of_ble_eq_true rfl) rfl dL_law_1035 fun ls hl => ?_
      refine gr_aload_n (pc := 1037) (i := 2) C rfl (gl_at hl 4 rfl) dL_law_1037 ?_
      obtain ⟨⟨fs9, hg9⟩, h⟩ := gh_is_inv h
      refine gh_callI (pc := 1038) (rest := []) C (k_X4_thrown C.tr a113) (Nat.le_of_ble_eq_true rfl) (Nat.le_of_ble_eq_true rfl) (gh_r4 (Nat.le_of_ble_eq_true rfl)) (fun H9 L9 hp9 => gi_V C hp9 hg9 gh_cX4 q2377 q2378 q2379 q2380 mh_X4 np0 rfl hl.1.1 dL_law_1038 rfl) h ((gh_K1_b gh_K0_b) _ hk) (fun v115 g h => ?_) (fun e g h => ?_)
      rotate_left
      ·
        obtain ⟨o, h, hk⟩ := gh_K1_thr h hk
        exact gh_out C (fun _ h => nomatch h) h hk
      refine gr_iload (pc := 1041) (i := 6) C (gl_at hl 1 rfl) dL_law_1041 ?_
      refine gr_icmp_eq (pc := 1043) (tgt := 1048) C rfl dL_law_1043 (fun c9 => ?_) (fun c9 => ?_)
      · replace h := gh_ift h c9
        refine gr_iload (pc := 1048) (i := 6) C (gl_at hl 1 rfl) dL_law_1048 ?_
        refine gr_if_ne (pc := 1050) (tgt := 1065) C rfl dL_law_1050 (fun c9 => ?_) (fun c9 => ?_)
        · replace h := gh_iff h c9
          exact w_L_law_1065 C (some a1) u28_1 (some a113) u28_3 u28_4 p5 (gl_sub hl [2, 3, 4, 5, 6, 7] rfl) h hk
        · replace h := gh_ift h c9
          refine gr_aload_n (pc := 1053) (i := 3) C rfl (gl_at hl 5 rfl) dL_law_1053 ?_
          refine gr_iconst (pc := 1054) (v := (0 : Int32)) C rfl dL_law_1054 ?_
          rcases u28_3 with _ | a116
          · exact gh_stk_inv h
          replace h := gh_nn_ss h
          refine gr_lald (pc := 1055) C dL_law_1055 h fun v117 h => ?_
          refine gr_iload (pc := 1056) (i := 7) C (gl_at hl 0 rfl) dL_law_1056 ?_
          refine gr_i2l (pc := 1058) (v := v114.toInt64) C rfl dL_law_1058 ?_
          refine gr_lcmp (pc := 1059) C dL_law_1059 ?_
          refine gr_if_eq (pc := 1060) (tgt := 1065) C rfl dL_law_1060 (fun c9 => ?_) (fun c9 => ?_)
          · replace h := gh_ift h c9
            exact w_L_law_1065 C (some a1) u28_1 (some a113) (some a116) u28_4 p5 (gl_sub hl [2, 3, 4, 5, 6, 7] rfl) h hk
          · replace h := gh_iff h c9
            refine gr_iconst (pc := 1063) (v := (0 : Int32)) C rfl dL_law_1063 ?_
            obtain ⟨o, h, hk⟩ := gh_K1_up h hk
            exact gr_bret (pc := 1064) C dL_law_1064 h hk
      · replace h := gh_iff h c9
        refine gr_iconst (pc := 1046) (v := (0 : Int32)) C rfl dL_law_1046 ?_
        obtain ⟨o, h, hk⟩ := gh_K1_up h hk
        exact gr_bret (pc := 1047) C dL_law_1047 h hk
    replace h := gh_iff h k13
    by_cases k14 : (v3 &&& (63 : Int32)) = (14 : Int32)
    · replace h := gh_ift h k14
      refine gr_table (pc := 44) (v := (14 : Int32)) (off := 1024) (tgt := 1068) C k14 (by decide) (by decide) (by decide) rfl dL_law_44 ?_
      refine gr_aload_n (pc := 1068) (i := 1) C rfl (gl_at hl 1 rfl) dL_law_1068 ?_
      refine gr_aload_n (pc := 1069) (i := 0) C rfl (gl_at hl 0 rfl) dL_law_1069 ?_
      refine gr_iload (pc := 1070) (i := 5) C (gl_at hl 5 rfl) dL_law_1070 ?_
      refine gr_iconst (pc := 1072) (v := (1 : Int32)) C rfl dL_law_1072 ?_
      refine gr_iadd (pc := 1073) C dL_law_1073 ?_
      refine gr_iald (pc := 1074) C dL_law_1074 h fun v118 h => ?_
      refine gr_aload_n (pc := 1075) (i := 3) C rfl (gl_at hl 3 rfl) dL_law_1075 ?_
      refine gh_callI (pc := 1076) (rest := []) C (k_X0_push C.tr u28_1 v118 u28_3) (Nat.le_of_ble_eq_true rfl) (Nat.le_of_ble_eq_true rfl) (gh_r4 (Nat.le_of_ble_eq_true rfl)) (fun H9 L9 hp9 => gi_SX C q1675 q1676 q74 q1677 mh_X0 np94 rfl hl.1.1 dL_law_1076 rfl) h ((gh_K1_b gh_K0_b) _ hk) (fun v119 g h => ?_) (fun e g h => ?_)
      rotate_left
      ·
        obtain ⟨o, h, hk⟩ := gh_K1_thr h hk
        exact gh_out C (fun _ h => nomatch h) h hk
      refine gr_istore (pc := 1079) (i := 6) (l' := [(6, .int v119), (0, va_rf (some a1)), (1, va_rf u28_1), (2, va_rf u28_2), (3, va_rf u28_3), (4, va_rf u28_4), (5, .int p5)]) C hl (Nat.le_of_ble_eq_true rfl) rfl dL_law_1079 fun ls hl => ?_
      refine gr_aload_n (pc := 1081) (i := 2) C rfl (gl_at hl 3 rfl) dL_law_1081 ?_
      refine gr_aload_n (pc := 1082) (i := 0) C rfl (gl_at hl 1 rfl) dL_law_1082 ?_
      refine gr_iload (pc := 1083) (i := 5) C (gl_at hl 6 rfl) dL_law_1083 ?_
      refine gr_iconst (pc := 1085) (v := (1 : Int32)) C rfl dL_law_1085 ?_
      refine gr_iadd (pc := 1086) C dL_law_1086 ?_
      refine gr_iald (pc := 1087) C dL_law_1087 h fun v120 h => ?_
      rcases u28_2 with _ | a121
      · exact gh_stk_inv h
      replace h := gh_nn_ss h
      obtain ⟨⟨fs9, hg9⟩, h⟩ := gh_is_inv h
      refine gh_callI (pc := 1088) (rest := []) C (k_X4_push C.tr a121 v120) (Nat.le_of_ble_eq_true rfl) (Nat.le_of_ble_eq_true rfl) (gh_r4 (Nat.le_of_ble_eq_true rfl)) (fun H9 L9 hp9 => gi_V C hp9 hg9 gh_cX4 q2528 q2529 q2530 q2531 mh_X4 np6 rfl hl.1.1 dL_law_1088 rfl) h ((gh_K1_b gh_K0_b) _ hk) (fun v122 g h => ?_) (fun e g h => ?_)
      rotate_left
      ·
        obtain ⟨o, h, hk⟩ := gh_K1_thr h hk
        exact gh_out C (fun _ h => nomatch h) h hk
      refine gr_istore (pc := 1091) (i := 7) (l' := [(7, .int v122), (6, .int v119), (0, va_rf (some a1)), (1, va_rf u28_1), (2, va_rf (some a121)), (3, va_rf u28_3), (4, va_rf u28_4), (5, .int p5)]) C hl (Nat.le_of_ble_eq_true rfl) rfl dL_law_1091 fun ls hl => ?_
      refine gr_aload_n (pc := 1093) (i := 2) C rfl (gl_at hl 4 rfl) dL_law_1093 ?_
      obtain ⟨⟨fs9, hg9⟩, h⟩ := gh_is_inv h
      refine gh_callI (pc := 1094) (rest := []) C (k_X4_thrown C.tr a121) (Nat.le_of_ble_eq_true rfl) (Nat.le_of_ble_eq_true rfl) (gh_r4 (Nat.le_of_ble_eq_true rfl)) (fun H9 L9 hp9 => gi_V C hp9 hg9 gh_cX4 q2377 q2378 q2379 q2380 mh_X4 np0 rfl hl.1.1 dL_law_1094 rfl) h ((gh_K1_b gh_K0_b) _ hk) (fun v123 g h => ?_) (fun e g h => ?_)
      rotate_left
      ·
        obtain ⟨o, h, hk⟩ := gh_K1_thr h hk
        exact gh_out C (fun _ h => nomatch h) h hk
      refine gr_iload (pc := 1097) (i := 6) C (gl_at hl 1 rfl) dL_law_1097 ?_
      refine gr_icmp_eq (pc := 1099) (tgt := 1104) C rfl dL_law_1099 (fun c9 => ?_) (fun c9 => ?_)
      · replace h := gh_ift h c9
        refine gr_iload (pc := 1104) (i := 6) C (gl_at hl 1 rfl) dL_law_1104 ?_
        refine gr_if_ne (pc := 1106) (tgt := 1121) C rfl dL_law_1106 (fun c9 => ?_) (fun c9 => ?_)
        · replace h := gh_iff h c9
          exact w_L_law_1121 C (some a1) u28_1 (some a121) u28_3 u28_4 p5 (gl_sub hl [2, 3, 4, 5, 6, 7] rfl) h hk
        · replace h := gh_ift h c9
          refine gr_aload_n (pc := 1109) (i := 3) C rfl (gl_at hl 5 rfl) dL_law_1109 ?_
          refine gr_iconst (pc := 1110) (v := (0 : Int32)) C rfl dL_law_1110 ?_
          rcases u28_3 with _ | a124
          · exact gh_stk_inv h
          replace h := gh_nn_ss h
          refine gr_lald (pc := 1111) C dL_law_1111 h fun v125 h => ?_
          refine gr_iload (pc := 1112) (i := 7) C (gl_at hl 0 rfl) dL_law_1112 ?_
          refine gr_i2l (pc := 1114) (v := v122.toInt64) C rfl dL_law_1114 ?_
          refine gr_lcmp (pc := 1115) C dL_law_1115 ?_
          refine gr_if_eq (pc := 1116) (tgt := 1121) C rfl dL_law_1116 (fun c9 => ?_) (fun c9 => ?_)
          · replace h := gh_ift h c9
            exact w_L_law_1121 C (some a1) u28_1 (some a121) (some a124) u28_4 p5 (gl_sub hl [2, 3, 4, 5, 6, 7] rfl) h hk
          · replace h := gh_iff h c9
            refine gr_iconst (pc := 1119) (v := (0 : Int32)) C rfl dL_law_1119 ?_
            obtain ⟨o, h, hk⟩ := gh_K1_up h hk
            exact gr_bret (pc := 1120) C dL_law_1120 h hk
      · replace h := gh_iff h c9
        refine gr_iconst (pc := 1102) (v := (0 : Int32)) C rfl dL_law_1102 ?_
        obtain ⟨o, h, hk⟩ := gh_K1_up h hk
        exact gr_bret (pc := 1103) C dL_law_1103 h hk
    replace h := gh_iff h k14
    by_cases k15 : (v3 &&& (63 : Int32)) = (15 : Int32)
    · replace h := gh_ift h k15
      refine gr_table (pc := 44) (v := (15 : Int32)) (off := 1080) (tgt := 1124) C k15 (by decide) (by decide) (by decide) rfl dL_law_44 ?_
      refine gr_aload_n (pc := 1124) (i := 1) C rfl (gl_at hl 1 rfl) dL_law_1124 ?_
      refine gr_aload_n (pc := 1125) (i := 0) C rfl (gl_at hl 0 rfl) dL_law_1125 ?_
      refine gr_iload (pc := 1126) (i := 5) C (gl_at hl 5 rfl) dL_law_1126 ?_
      refine gr_iconst (pc := 1128) (v := (1 : Int32)) C rfl dL_law_1128 ?_
      refine gr_iadd (pc := 1129) C dL_law_1129 ?_
      refine gr_iald (pc := 1130) C dL_law_1130 h fun v126 h => ?_
      refine gr_aload_n (pc := 1131) (i := 0) C rfl (gl_at hl 0 rfl) dL_law_1131 ?_
      refine gr_iload (pc := 1132) (i := 5) C (gl_at hl 5 rfl) dL_law_1132 ?_
      refine gr_iconst (pc := 1134) (v := (2 : Int32)) C rfl dL_law_1134 ?_
      refine gr_iadd (pc := 1135) C dL_law_1135 ?_
      refine gr_iald (pc := 1136) C dL_law_1136 h fun v127 h => ?_
      refine gr_aload_n (pc := 1137) (i := 0) C rfl (gl_at hl 0 rfl) dL_law_1137 ?_
      refine gr_iload (pc := 1138) (i := 5) C (gl_at hl 5 rfl) dL_law_1138 ?_
      refine gr_iconst (pc := 1140) (v := (3 : Int32)) C rfl dL_law_1140 ?_
      refine gr_iadd (pc := 1141) C dL_law_1141 ?_
      refine gr_iald (pc := 1142) C dL_law_1142 h fun v128 h => ?_
      refine gr_aload_n (pc := 1143) (i := 3) C rfl (gl_at hl 3 rfl) dL_law_1143 ?_
      refine gh_callI (pc := 1144) (rest := []) C (k_X0_commission C.tr u28_1 v126 v127 v128 u28_3) (Nat.le_of_ble_eq_true rfl) (Nat.le_of_ble_eq_true rfl) (gh_r4 (Nat.le_of_ble_eq_true rfl)) (fun H9 L9 hp9 => gi_SX C q1683 q1684 q74 q1685 mh_X0 np95 rfl hl.1.1 dL_law_1144 rfl) h ((gh_K1_b gh_K0_b) _ hk) (fun v129 g h => ?_) (fun e g h => ?_)
      rotate_left
      ·
        obtain ⟨o, h, hk⟩ := gh_K1_thr h hk
        exact gh_out C (fun _ h => nomatch h) h hk
      refine gr_istore (pc := 1147) (i := 6) (l' := [(6, .int v129), (0, va_rf (some a1)), (1, va_rf u28_1), (2, va_rf u28_2), (3, va_rf u28_3), (4, va_rf u28_4), (5, .int p5)]) C hl (Nat.le_of_ble_eq_true rfl) rfl dL_law_1147 fun ls hl => ?_
      refine gr_aload_n (pc := 1149) (i := 2) C rfl (gl_at hl 3 rfl) dL_law_1149 ?_
      refine gr_aload_n (pc := 1150) (i := 0) C rfl (gl_at hl 1 rfl) dL_law_1150 ?_
      refine gr_iload (pc := 1151) (i := 5) C (gl_at hl 6 rfl) dL_law_1151 ?_
      refine gr_iconst (pc := 1153) (v := (1 : Int32)) C rfl dL_law_1153 ?_
      refine gr_iadd (pc := 1154) C dL_law_1154 ?_
      refine gr_iald (pc := 1155) C dL_law_1155 h fun v130 h => ?_
      refine gr_aload_n (pc := 1156) (i := 0) C rfl (gl_at hl 1 rfl) dL_law_1156 ?_
      refine gr_iload (pc := 1157) (i := 5) C (gl_at hl 6 rfl) dL_law_1157 ?_
      refine gr_iconst (pc := 1159) (v := (2 : Int32)) C rfl dL_law_1159 ?_
      refine gr_iadd (pc := 1160) C dL_law_1160 ?_
      refine gr_iald (pc := 1161) C dL_law_1161 h fun v131 h => ?_
      refine gr_aload_n (pc := 1162) (i := 0) C rfl (gl_at hl 1 rfl) dL_law_1162 ?_
      refine gr_iload (pc := 1163) (i := 5) C (gl_at hl 6 rfl) dL_law_1163 ?_
      refine gr_iconst (pc := 1165) (v := (3 : Int32)) C rfl dL_law_1165 ?_
      refine gr_iadd (pc := 1166) C dL_law_1166 ?_
      refine gr_iald (pc := 1167) C dL_law_1167 h fun v132 h => ?_
      rcases u28_2 with _ | a133
      · exact gh_stk_inv h
      replace h := gh_nn_ss h
      obtain ⟨⟨fs9, hg9⟩, h⟩ := gh_is_inv h
      refine gh_callI (pc := 1168) (rest := []) C (k_X4_commission C.tr a133 v130 v131 v132) (Nat.le_of_ble_eq_true rfl) (Nat.le_of_ble_eq_true rfl) (gh_r4 (Nat.le_of_ble_eq_true rfl)) (fun H9 L9 hp9 => gi_V C hp9 hg9 gh_cX4 q2539 q2540 q2541 q2542 mh_X4 np11 rfl hl.1.1 dL_law_1168 rfl) h ((gh_K1_b gh_K0_b) _ hk) (fun v134 g h => ?_) (fun e g h => ?_)
      rotate_left
      ·
        obtain ⟨o, h, hk⟩ := gh_K1_thr h hk
        exact gh_out C (fun _ h => nomatch h) h hk
      refine gr_istore (pc := 1171) (i := 7) (l' := [(7, .int v134), (6, .int v129), (0, va_rf (some a1)), (1, va_rf u28_1), (2, va_rf (some a133)), (3, va_rf u28_3), (4, va_rf u28_4), (5, .int p5)]) C hl (Nat.le_of_ble_eq_true rfl) rfl dL_law_1171 fun ls hl => ?_
      refine gr_aload_n (pc := 1173) (i := 2) C rfl (gl_at hl 4 rfl) dL_law_1173 ?_
      obtain ⟨⟨fs9, hg9⟩, h⟩ := gh_is_inv h
      refine gh_callI (pc := 1174) (rest := []) C (k_X4_thrown C.tr a133) (Nat.le_of_ble_eq_true rfl) (Nat.le_of_ble_eq_true rfl) (gh_r4 (Nat.le_of_ble_eq_true rfl)) (fun H9 L9 hp9 => gi_V C hp9 hg9 gh_cX4 q2377 q2378 q2379 q2380 mh_X4 np0 rfl hl.1.1 dL_law_1174 rfl) h ((gh_K1_b gh_K0_b) _ hk) (fun v135 g h => ?_) (fun e g h => ?_)
      rotate_left
      ·
        obtain ⟨o, h, hk⟩ := gh_K1_thr h hk
        exact gh_out C (fun _ h => nomatch h) h hk
      refine gr_iload (pc := 1177) (i := 6) C (gl_at hl 1 rfl) dL_law_1177 ?_
      refine gr_icmp_eq (pc := 1179) (tgt := 1184) C rfl dL_law_1179 (fun c9 => ?_) (fun c9 => ?_)
      · replace h := gh_ift h c9
        refine gr_iload (pc := 1184) (i := 6) C (gl_at hl 1 rfl) dL_law_1184 ?_
        refine gr_if_ne (pc := 1186) (tgt := 1201) C rfl dL_law_1186 (fun c9 => ?_) (fun c9 => ?_)
        · replace h := gh_iff h c9
          exact w_L_law_1201 C (some a1) u28_1 (some a133) u28_3 u28_4 p5 (gl_sub hl [2, 3, 4, 5, 6, 7] rfl) h hk
        · replace h := gh_ift h c9
          refine gr_aload_n (pc := 1189) (i := 3) C rfl (gl_at hl 5 rfl) dL_law_1189 ?_
          refine gr_iconst (pc := 1190) (v := (0 : Int32)) C rfl dL_law_1190 ?_
          rcases u28_3 with _ | a136
          · exact gh_stk_inv h
          replace h := gh_nn_ss h
          refine gr_lald (pc := 1191) C dL_law_1191 h fun v137 h => ?_
          refine gr_iload (pc := 1192) (i := 7) C (gl_at hl 0 rfl) dL_law_1192 ?_
          refine gr_i2l (pc := 1194) (v := v134.toInt64) C rfl dL_law_1194 ?_
          refine gr_lcmp (pc := 1195) C dL_law_1195 ?_
          refine gr_if_eq (pc := 1196) (tgt := 1201) C rfl dL_law_1196 (fun c9 => ?_) (fun c9 => ?_)
          · replace h := gh_ift h c9
            exact w_L_law_1201 C (some a1) u28_1 (some a133) (some a136) u28_4 p5 (gl_sub hl [2, 3, 4, 5, 6, 7] rfl) h hk
          · replace h := gh_iff h c9
            refine gr_iconst (pc := 1199) (v := (0 : Int32)) C rfl dL_law_1199 ?_
            obtain ⟨o, h, hk⟩ := gh_K1_up h hk
            exact gr_bret (pc := 1200) C dL_law_1200 h hk
      · replace h := gh_iff h c9
        refine gr_iconst (pc := 1182) (v := (0 : Int32)) C rfl dL_law_1182 ?_
        obtain ⟨o, h, hk⟩ := gh_K1_up h hk
        exact gr_bret (pc := 1183) C dL_law_1183 h hk
    replace h := gh_iff h k15
    by_cases k16 : (v3 &&& (63 : Int32)) = (16 : Int32)
    · replace h := gh_ift h k16
      refine gr_table (pc := 44) (v := (16 : Int32)) (off := 1160) (tgt := 1204) C k16 (by decide) (by decide) (by decide) rfl dL_law_44 ?_
      refine gr_aload_n (pc := 1204) (i := 1) C rfl (gl_at hl 1 rfl) dL_law_1204 ?_
      refine gr_aload_n (pc := 1205) (i := 0) C rfl (gl_at hl 0 rfl) dL_law_1205 ?_
      refine gr_iload (pc := 1206) (i := 5) C (gl_at hl 5 rfl) dL_law_1206 ?_
      refine gr_iconst (pc := 1208) (v := (1 : Int32)) C rfl dL_law_1208 ?_
      refine gr_iadd (pc := 1209) C dL_law_1209 ?_
      refine gr_iald (pc := 1210) C dL_law_1210 h fun v138 h => ?_
      refine gr_aload_n (pc := 1211) (i := 0) C rfl (gl_at hl 0 rfl) dL_law_1211 ?_
      refine gr_iload (pc := 1212) (i := 5) C (gl_at hl 5 rfl) dL_law_1212 ?_
      refine gr_iconst (pc := 1214) (v := (2 : Int32)) C rfl dL_law_1214 ?_
      refine gr_iadd (pc := 1215) C dL_law_1215 ?_
      refine gr_iald (pc := 1216) C dL_law_1216 h fun v139 h => ?_
      refine gr_aload_n (pc := 1217) (i := 3) C rfl (gl_at hl 3 rfl) dL_law_1217 ?_
      refine gh_callI (pc := 1218) (rest := []) C (k_X0_deliver C.tr u28_1 v138 v139 u28_3) (Nat.le_of_ble_eq_true rfl) (Nat.le_of_ble_eq_true rfl) (gh_r4 (Nat.le_of_ble_eq_true rfl)) (fun H9 L9 hp9 => gi_SX C q1692 q1693 q74 q1694 mh_X0 np92 rfl hl.1.1 dL_law_1218 rfl) h ((gh_K1_b gh_K0_b) _ hk) (fun v140 g h => ?_) (fun e g h => ?_)
      rotate_left
      ·
        obtain ⟨o, h, hk⟩ := gh_K1_thr h hk
        exact gh_out C (fun _ h => nomatch h) h hk
      refine gr_istore (pc := 1221) (i := 6) (l' := [(6, .int v140), (0, va_rf (some a1)), (1, va_rf u28_1), (2, va_rf u28_2), (3, va_rf u28_3), (4, va_rf u28_4), (5, .int p5)]) C hl (Nat.le_of_ble_eq_true rfl) rfl dL_law_1221 fun ls hl => ?_
      refine gr_aload_n (pc := 1223) (i := 2) C rfl (gl_at hl 3 rfl) dL_law_1223 ?_
      refine gr_aload_n (pc := 1224) (i := 0) C rfl (gl_at hl 1 rfl) dL_law_1224 ?_
      refine gr_iload (pc := 1225) (i := 5) C (gl_at hl 6 rfl) dL_law_1225 ?_
      refine gr_iconst (pc := 1227) (v := (1 : Int32)) C rfl dL_law_1227 ?_
      refine gr_iadd (pc := 1228) C dL_law_1228 ?_
      refine gr_iald (pc := 1229) C dL_law_1229 h fun v141 h => ?_
      refine gr_aload_n (pc := 1230) (i := 0) C rfl (gl_at hl 1 rfl) dL_law_1230 ?_
      refine gr_iload (pc := 1231) (i := 5) C (gl_at hl 6 rfl) dL_law_1231 ?_
      refine gr_iconst (pc := 1233) (v := (2 : Int32)) C rfl dL_law_1233 ?_
      refine gr_iadd (pc := 1234) C dL_law_1234 ?_
      refine gr_iald (pc := 1235) C dL_law_1235 h fun v142 h => ?_
      rcases u28_2 with _ | a143
      · exact gh_stk_inv h
      replace h := gh_nn_ss h
      obtain ⟨⟨fs9, hg9⟩, h⟩ := gh_is_inv h
      refine gh_callI (pc := 1236) (rest := []) C (k_X4_deliver C.tr a143 v141 v142) (Nat.le_of_ble_eq_true rfl) (Nat.le_of_ble_eq_true rfl) (gh_r4 (Nat.le_of_ble_eq_true rfl)) (fun H9 L9 hp9 => gi_V C hp9 hg9 gh_cX4 q2546 q2547 q2548 q2549 mh_X4 np1 rfl hl.1.1 dL_law_1236 rfl) h ((gh_K1_b gh_K0_b) _ hk) (fun v144 g h => ?_) (fun e g h => ?_)
      rotate_left
      ·
        obtain ⟨o, h, hk⟩ := gh_K1_thr h hk
        exact gh_out C (fun _ h => nomatch h) h hk
      refine gr_istore (pc := 1239) (i := 7) (l' := [(7, .int v144), (6, .int v140), (0, va_rf (some a1)), (1, va_rf u28_1), (2, va_rf (some a143)), (3, va_rf u28_3), (4, va_rf u28_4), (5, .int p5)]) C hl (Nat.le_of_ble_eq_true rfl) rfl dL_law_1239 fun ls hl => ?_
      refine gr_aload_n (pc := 1241) (i := 2) C rfl (gl_at hl 4 rfl) dL_law_1241 ?_
      obtain ⟨⟨fs9, hg9⟩, h⟩ := gh_is_inv h
      refine gh_callI (pc := 1242) (rest := []) C (k_X4_thrown C.tr a143) (Nat.le_of_ble_eq_true rfl) (Nat.le_of_ble_eq_true rfl) (gh_r4 (Nat.le_of_ble_eq_true rfl)) (fun H9 L9 hp9 => gi_V C hp9 hg9 gh_cX4 q2377 q2378 q2379 q2380 mh_X4 np0 rfl hl.1.1 dL_law_1242 rfl) h ((gh_K1_b gh_K0_b) _ hk) (fun v145 g h => ?_) (fun e g h => ?_)
      rotate_left
      ·
        obtain ⟨o, h, hk⟩ := gh_K1_thr h hk
        exact gh_out C (fun _ h => nomatch h) h hk
      refine gr_iload (pc := 1245) (i := 6) C (gl_at hl 1 rfl) dL_law_1245 ?_
      refine gr_icmp_eq (pc := 1247) (tgt := 1252) C rfl dL_law_1247 (fun c9 => ?_) (fun c9 => ?_)
      · replace h := gh_ift h c9
        refine gr_iload (pc := 1252) (i := 6) C (gl_at hl 1 rfl) dL_law_1252 ?_
        refine gr_if_ne (pc := 1254) (tgt := 1269) C rfl dL_law_1254 (fun c9 => ?_) (fun c9 => ?_)
        · replace h := gh_iff h c9
          exact w_L_law_1269 C (some a1) u28_1 (some a143) u28_3 u28_4 p5 (gl_sub hl [2, 3, 4, 5, 6, 7] rfl) h hk
        · replace h := gh_ift h c9
          refine gr_aload_n (pc := 1257) (i := 3) C rfl (gl_at hl 5 rfl) dL_law_1257 ?_
          refine gr_iconst (pc := 1258) (v := (0 : Int32)) C rfl dL_law_1258 ?_
          rcases u28_3 with _ | a146
          · exact gh_stk_inv h
          replace h := gh_nn_ss h
          refine gr_lald (pc := 1259) C dL_law_1259 h fun v147 h => ?_
          refine gr_iload (pc := 1260) (i := 7) C (gl_at hl 0 rfl) dL_law_1260 ?_
          refine gr_i2l (pc := 1262) (v := v144.toInt64) C rfl dL_law_1262 ?_
          refine gr_lcmp (pc := 1263) C dL_law_1263 ?_
          refine gr_if_eq (pc := 1264) (tgt := 1269) C rfl dL_law_1264 (fun c9 => ?_) (fun c9 => ?_)
          · replace h := gh_ift h c9
            exact w_L_law_1269 C (some a1) u28_1 (some a143) (some a146) u28_4 p5 (gl_sub hl [2, 3, 4, 5, 6, 7] rfl) h hk
          · replace h := gh_iff h c9
            refine gr_iconst (pc := 1267) (v := (0 : Int32)) C rfl dL_law_1267 ?_
            obtain ⟨o, h, hk⟩ := gh_K1_up h hk
            exact gr_bret (pc := 1268) C dL_law_1268 h hk
      · replace h := gh_iff h c9
        refine gr_iconst (pc := 1250) (v := (0 : Int32)) C rfl dL_law_1250 ?_
        obtain ⟨o, h, hk⟩ := gh_K1_up h hk
        exact gr_bret (pc := 1251) C dL_law_1251 h hk
    replace h := gh_iff h k16
    by_cases k17 : (v3 &&& (63 : Int32)) = (17 : Int32)
    · replace h := gh_ift h k17
      refine gr_table (pc := 44) (v := (17 : Int32)) (off := 1228) (tgt := 1272) C k17 (by decide) (by decide) (by decide) rfl dL_law_44 ?_
      refine gr_aload_n (pc := 1272) (i := 1) C rfl (gl_at hl 1 rfl) dL_law_1272 ?_
      refine gr_aload_n (pc := 1273) (i := 0) C rfl (gl_at hl 0 rfl) dL_law_1273 ?_
      refine gr_iload (pc := 1274) (i := 5) C (gl_at hl 5 rfl) dL_law_1274 ?_
      refine gr_iconst (pc := 1276) (v := (1 : Int32)) C rfl dL_law_1276 ?_
      refine gr_iadd (pc := 1277) C dL_law_1277 ?_
      refine gr_iald (pc := 1278) C dL_law_1278 h fun v148 h => ?_
      refine gr_aload_n (pc := 1279) (i := 0) C rfl (gl_at hl 0 rfl) dL_law_1279 ?_
      refine gr_iload (pc := 1280) (i := 5) C (gl_at hl 5 rfl) dL_law_1280 ?_
      refine gr_iconst (pc := 1282) (v := (2 : Int32)) C rfl dL_law_1282 ?_
      refine gr_iadd (pc := 1283) C dL_law_1283 ?_
      refine gr_iald (pc := 1284) C dL_law_1284 h fun v149 h => ?_
      refine gr_aload_n (pc := 1285) (i := 3) C rfl (gl_at hl 3 rfl) dL_law_1285 ?_
      refine gh_callI (pc := 1286) (rest := []) C (k_X0_commissionOf C.tr u28_1 v148 v149 u28_3) (Nat.le_of_ble_eq_true rfl) (Nat.le_of_ble_eq_true rfl) (gh_r4 (Nat.le_of_ble_eq_true rfl)) (fun H9 L9 hp9 => gi_SX C q1700 q1701 q74 q1702 mh_X0 np92 rfl hl.1.1 dL_law_1286 rfl) h ((gh_K1_b gh_K0_b) _ hk) (fun v150 g h => ?_) (fun e g h => ?_)
      rotate_left
      ·
        obtain ⟨o, h, hk⟩ := gh_K1_thr h hk
        exact gh_out C (fun _ h => nomatch h) h hk
      refine gr_istore (pc := 1289) (i := 6) (l' := [(6, .int v150), (0, va_rf (some a1)), (1, va_rf u28_1), (2, va_rf u28_2), (3, va_rf u28_3), (4, va_rf u28_4), (5, .int p5)]) C hl (Nat.le_of_ble_eq_true rfl) rfl dL_law_1289 fun ls hl => ?_
      refine gr_aload_n (pc := 1291) (i := 2) C rfl (gl_at hl 3 rfl) dL_law_1291 ?_
      refine gr_aload_n (pc := 1292) (i := 0) C rfl (gl_at hl 1 rfl) dL_law_1292 ?_
      refine gr_iload (pc := 1293) (i := 5) C (gl_at hl 6 rfl) dL_law_1293 ?_
      refine gr_iconst (pc := 1295) (v := (1 : Int32)) C rfl dL_law_1295 ?_
      refine gr_iadd (pc := 1296) C dL_law_1296 ?_
      refine gr_iald (pc := 1297) C dL_law_1297 h fun v151 h => ?_
      refine gr_aload_n (pc := 1298) (i := 0) C rfl (gl_at hl 1 rfl) dL_law_1298 ?_
      refine gr_iload (pc := 1299) (i := 5) C (gl_at hl 6 rfl) dL_law_1299 ?_
      refine gr_iconst (pc := 1301) (v := (2 : Int32)) C rfl dL_law_1301 ?_
      refine gr_iadd (pc := 1302) C dL_law_1302 ?_
      refine gr_iald (pc := 1303) C dL_law_1303 h fun v152 h => ?_
      rcases u28_2 with _ | a153
      · exact gh_stk_inv h
      replace h := gh_nn_ss h
      obtain ⟨⟨fs9, hg9⟩, h⟩ := gh_is_inv h
      refine gh_callI (pc := 1304) (rest := []) C (k_X4_commissionOf C.tr a153 v151 v152) (Nat.le_of_ble_eq_true rfl) (Nat.le_of_ble_eq_true rfl) (gh_r4 (Nat.le_of_ble_eq_true rfl)) (fun H9 L9 hp9 => gi_V C hp9 hg9 gh_cX4 q2562 q2563 q2564 q2565 mh_X4 np1 rfl hl.1.1 dL_law_1304 rfl) h ((gh_K1_b gh_K0_b) _ hk) (fun v154 g h => ?_) (fun e g h => ?_)
      rotate_left
      ·
        obtain ⟨o, h, hk⟩ := gh_K1_thr h hk
        exact gh_out C (fun _ h => nomatch h) h hk
      refine gr_istore (pc := 1307) (i := 7) (l' := [(7, .int v154), (6, .int v150), (0, va_rf (some a1)), (1, va_rf u28_1), (2, va_rf (some a153)), (3, va_rf u28_3), (4, va_rf u28_4), (5, .int p5)]) C hl (Nat.le_of_ble_eq_true rfl) rfl dL_law_1307 fun ls hl => ?_
      refine gr_aload_n (pc := 1309) (i := 2) C rfl (gl_at hl 4 rfl) dL_law_1309 ?_
      obtain ⟨⟨fs9, hg9⟩, h⟩ := gh_is_inv h
      refine gh_callI (pc := 1310) (rest := []) C (k_X4_thrown C.tr a153) (Nat.le_of_ble_eq_true rfl) (Nat.le_of_ble_eq_true rfl) (gh_r4 (Nat.le_of_ble_eq_true rfl)) (fun H9 L9 hp9 => gi_V C hp9 hg9 gh_cX4 q2377 q2378 q2379 q2380 mh_X4 np0 rfl hl.1.1 dL_law_1310 rfl) h ((gh_K1_b gh_K0_b) _ hk) (fun v155 g h => ?_) (fun e g h => ?_)
      rotate_left
      ·
        obtain ⟨o, h, hk⟩ := gh_K1_thr h hk
        exact gh_out C (fun _ h => nomatch h) h hk
      refine gr_iload (pc := 1313) (i := 6) C (gl_at hl 1 rfl) dL_law_1313 ?_
      refine gr_icmp_eq (pc := 1315) (tgt := 1320) C rfl dL_law_1315 (fun c9 => ?_) (fun c9 => ?_)
      · replace h := gh_ift h c9
        refine gr_iload (pc := 1320) (i := 6) C (gl_at hl 1 rfl) dL_law_1320 ?_
        refine gr_if_ne (pc := 1322) (tgt := 1337) C rfl dL_law_1322 (fun c9 => ?_) (fun c9 => ?_)
        · replace h := gh_iff h c9
          exact w_L_law_1337 C (some a1) u28_1 (some a153) u28_3 u28_4 p5 (gl_sub hl [2, 3, 4, 5, 6, 7] rfl) h hk
        · replace h := gh_ift h c9
          refine gr_aload_n (pc := 1325) (i := 3) C rfl (gl_at hl 5 rfl) dL_law_1325 ?_
          refine gr_iconst (pc := 1326) (v := (0 : Int32)) C rfl dL_law_1326 ?_
          rcases u28_3 with _ | a156
          · exact gh_stk_inv h
          replace h := gh_nn_ss h
          refine gr_lald (pc := 1327) C dL_law_1327 h fun v157 h => ?_
          refine gr_iload (pc := 1328) (i := 7) C (gl_at hl 0 rfl) dL_law_1328 ?_
          refine gr_i2l (pc := 1330) (v := v154.toInt64) C rfl dL_law_1330 ?_
          refine gr_lcmp (pc := 1331) C dL_law_1331 ?_
          refine gr_if_eq (pc := 1332) (tgt := 1337) C rfl dL_law_1332 (fun c9 => ?_) (fun c9 => ?_)
          · replace h := gh_ift h c9
            exact w_L_law_1337 C (some a1) u28_1 (some a153) (some a156) u28_4 p5 (gl_sub hl [2, 3, 4, 5, 6, 7] rfl) h hk
          · replace h := gh_iff h c9
            refine gr_iconst (pc := 1335) (v := (0 : Int32)) C rfl dL_law_1335 ?_
            obtain ⟨o, h, hk⟩ := gh_K1_up h hk
            exact gr_bret (pc := 1336) C dL_law_1336 h hk
      · replace h := gh_iff h c9
        refine gr_iconst (pc := 1318) (v := (0 : Int32)) C rfl dL_law_1318 ?_
        obtain ⟨o, h, hk⟩ := gh_K1_up h hk
        exact gr_bret (pc := 1319) C dL_law_1319 h hk
    replace h := gh_iff h k17
    by_cases k18 : (v3 &&& (63 : Int32)) = (18 : Int32)
    · replace h := gh_ift h k18
      refine gr_table (pc := 44) (v := (18 : Int32)) (off := 1296) (tgt := 1340) C k18 (by decide) (by decide) (by decide) rfl dL_law_44 ?_
      refine gr_aload_n (pc := 1340) (i := 1) C rfl (gl_at hl 1 rfl) dL_law_1340 ?_
      refine gr_aload_n (pc := 1341) (i := 0) C rfl (gl_at hl 0 rfl) dL_law_1341 ?_
      refine gr_iload (pc := 1342) (i := 5) C (gl_at hl 5 rfl) dL_law_1342 ?_
      refine gr_iconst (pc := 1344) (v := (1 : Int32)) C rfl dL_law_1344 ?_
      refine gr_iadd (pc := 1345) C dL_law_1345 ?_
      refine gr_iald (pc := 1346) C dL_law_1346 h fun v158 h => ?_
      refine gr_aload_n (pc := 1347) (i := 3) C rfl (gl_at hl 3 rfl) dL_law_1347 ?_
      refine gh_callI (pc := 1348) (rest := []) C (k_X0_paidFor C.tr u28_1 v158 u28_3) (Nat.le_of_ble_eq_true rfl) (Nat.le_of_ble_eq_true rfl) (gh_r4 (Nat.le_of_ble_eq_true rfl)) (fun H9 L9 hp9 => gi_SX C q1712 q1713 q74 q1714 mh_X0 np94 rfl hl.1.1 dL_law_1348 rfl) h ((gh_K1_b gh_K0_b) _ hk) (fun v159 g h => ?_) (fun e g h => ?_)
      rotate_left
      ·
        obtain ⟨o, h, hk⟩ := gh_K1_thr h hk
        exact gh_out C (fun _ h => nomatch h) h hk
      refine gr_istore (pc := 1351) (i := 6) (l' := [(6, .int v159), (0, va_rf (some a1)), (1, va_rf u28_1), (2, va_rf u28_2), (3, va_rf u28_3), (4, va_rf u28_4), (5, .int p5)]) C hl (Nat.le_of_ble_eq_true rfl) rfl dL_law_1351 fun ls hl => ?_
      refine gr_aload_n (pc := 1353) (i := 2) C rfl (gl_at hl 3 rfl) dL_law_1353 ?_
      refine gr_aload_n (pc := 1354) (i := 0) C rfl (gl_at hl 1 rfl) dL_law_1354 ?_
      refine gr_iload (pc := 1355) (i := 5) C (gl_at hl 6 rfl) dL_law_1355 ?_
      refine gr_iconst (pc := 1357) (v := (1 : Int32)) C rfl dL_law_1357 ?_
      refine gr_iadd (pc := 1358) C dL_law_1358 ?_
      refine gr_iald (pc := 1359) C dL_law_1359 h fun v160 h => ?_
      rcases u28_2 with _ | a161
      · exact gh_stk_inv h
      replace h := gh_nn_ss h
      obtain ⟨⟨fs9, hg9⟩, h⟩ := gh_is_inv h
      refine gh_callI (pc := 1360) (rest := []) C (k_X4_paidFor C.tr a161 v160) (Nat.le_of_ble_eq_true rfl) (Nat.le_of_ble_eq_true rfl) (gh_r4 (Nat.le_of_ble_eq_true rfl)) (fun H9 L9 hp9 => gi_V C hp9 hg9 gh_cX4 q2570 q2571 q2572 q2573 mh_X4 np6 rfl hl.1.1 dL_law_1360 rfl) h ((gh_K1_b gh_K0_b) _ hk) (fun v162 g h => ?_) (fun e g h => ?_)
      rotate_left
      ·
        obtain ⟨o, h, hk⟩ := gh_K1_thr h hk
        exact gh_out C (fun _ h => nomatch h) h hk
      refine gr_istore (pc := 1363) (i := 7) (l' := [(7, .int v162), (6, .int v159), (0, va_rf (some a1)), (1, va_rf u28_1), (2, va_rf (some a161)), (3, va_rf u28_3), (4, va_rf u28_4), (5, .int p5)]) C hl (Nat.le_of_ble_eq_true rfl) rfl dL_law_1363 fun ls hl => ?_
      refine gr_aload_n (pc := 1365) (i := 2) C rfl (gl_at hl 4 rfl) dL_law_1365 ?_
      obtain ⟨⟨fs9, hg9⟩, h⟩ := gh_is_inv h
      refine gh_callI (pc := 1366) (rest := []) C (k_X4_thrown C.tr a161) (Nat.le_of_ble_eq_true rfl) (Nat.le_of_ble_eq_true rfl) (gh_r4 (Nat.le_of_ble_eq_true rfl)) (fun H9 L9 hp9 => gi_V C hp9 hg9 gh_cX4 q2377 q2378 q2379 q2380 mh_X4 np0 rfl hl.1.1 dL_law_1366 rfl) h ((gh_K1_b gh_K0_b) _ hk) (fun v163 g h => ?_) (fun e g h => ?_)
      rotate_left
      ·
        obtain ⟨o, h, hk⟩ := gh_K1_thr h hk
        exact gh_out C (fun _ h => nomatch h) h hk
      refine gr_iload (pc := 1369) (i := 6) C (gl_at hl 1 rfl) dL_law_1369 ?_
      refine gr_icmp_eq (pc := 1371) (tgt := 1376) C rfl dL_law_1371 (fun c9 => ?_) (fun c9 => ?_)
      · replace h := gh_ift h c9
        refine gr_iload (pc := 1376) (i := 6) C (gl_at hl 1 rfl) dL_law_1376 ?_
        refine gr_if_ne (pc := 1378) (tgt := 1393) C rfl dL_law_1378 (fun c9 => ?_) (fun c9 => ?_)
        · replace h := gh_iff h c9
          exact w_L_law_1393 C (some a1) u28_1 (some a161) u28_3 u28_4 p5 (gl_sub hl [2, 3, 4, 5, 6, 7] rfl) h hk
        · replace h := gh_ift h c9
          refine gr_aload_n (pc := 1381) (i := 3) C rfl (gl_at hl 5 rfl) dL_law_1381 ?_
          refine gr_iconst (pc := 1382) (v := (0 : Int32)) C rfl dL_law_1382 ?_
          rcases u28_3 with _ | a164
          · exact gh_stk_inv h
          replace h := gh_nn_ss h
          refine gr_lald (pc := 1383) C dL_law_1383 h fun v165 h => ?_
          refine gr_iload (pc := 1384) (i := 7) C (gl_at hl 0 rfl) dL_law_1384 ?_
          refine gr_i2l (pc := 1386) (v := v162.toInt64) C rfl dL_law_1386 ?_
          refine gr_lcmp (pc := 1387) C dL_law_1387 ?_
          refine gr_if_eq (pc := 1388) (tgt := 1393) C rfl dL_law_1388 (fun c9 => ?_) (fun c9 => ?_)
          · replace h := gh_ift h c9
            exact w_L_law_1393 C (some a1) u28_1 (some a161) (some a164) u28_4 p5 (gl_sub hl [2, 3, 4, 5, 6, 7] rfl) h hk
          · replace h := gh_iff h c9
            refine gr_iconst (pc := 1391) (v := (0 : Int32)) C rfl dL_law_1391 ?_
            obtain ⟨o, h, hk⟩ := gh_K1_up h hk
            exact gr_bret (pc := 1392) C dL_law_1392 h hk
      · replace h := gh_iff h c9
        refine gr_iconst (pc := 1374) (v := (0 : Int32)) C rfl dL_law_1374 ?_
        obtain ⟨o, h, hk⟩ := gh_K1_up h hk
        exact gr_bret (pc := 1375) C dL_law_1375 h hk
    replace h := gh_iff h k18
    by_cases k19 : (v3 &&& (63 : Int32)) = (19 : Int32)
    · replace h := gh_ift h k19
      refine gr_table (pc := 44) (v := (19 : Int32)) (off := 1352) (tgt := 1396) C k19 (by decide) (by decide) (by decide) rfl dL_law_44 ?_
      refine gr_aload_n (pc := 1396) (i := 1) C rfl (gl_at hl 1 rfl) dL_law_1396 ?_
      refine gr_aload_n (pc := 1397) (i := 0) C rfl (gl_at hl 0 rfl) dL_law_1397 ?_
      refine gr_iload (pc := 1398) (i := 5) C (gl_at hl 5 rfl) dL_law_1398 ?_
      refine gr_iconst (pc := 1400) (v := (1 : Int32)) C rfl dL_law_1400 ?_
      refine gr_iadd (pc := 1401) C dL_law_1401 ?_
      refine gr_iald (pc := 1402) C dL_law_1402 h fun v166 h => ?_
      refine gr_aload_n (pc := 1403) (i := 3) C rfl (gl_at hl 3 rfl) dL_law_1403 ?_
      refine gh_callI (pc := 1404) (rest := []) C (k_X0_seed C.tr u28_1 v166 u28_3) (Nat.le_of_ble_eq_true rfl) (Nat.le_of_ble_eq_true rfl) (gh_r4 (Nat.le_of_ble_eq_true rfl)) (fun H9 L9 hp9 => gi_SX C q1719 q1720 q74 q1721 mh_X0 np94 rfl hl.1.1 dL_law_1404 rfl) h ((gh_K1_b gh_K0_b) _ hk) (fun v167 g h => ?_) (fun e g h => ?_)
      rotate_left
      ·
        obtain ⟨o, h, hk⟩ := gh_K1_thr h hk
        exact gh_out C (fun _ h => nomatch h) h hk
      refine gr_istore (pc := 1407) (i := 6) (l' := [(6, .int v167), (0, va_rf (some a1)), (1, va_rf u28_1), (2, va_rf u28_2), (3, va_rf u28_3), (4, va_rf u28_4), (5, .int p5)]) C hl (Nat.le_of_ble_eq_true rfl) rfl dL_law_1407 fun ls hl => ?_
      refine gr_aload_n (pc := 1409) (i := 2) C rfl (gl_at hl 3 rfl) dL_law_1409 ?_
      refine gr_aload_n (pc := 1410) (i := 0) C rfl (gl_at hl 1 rfl) dL_law_1410 ?_
      refine gr_iload (pc := 1411) (i := 5) C (gl_at hl 6 rfl) dL_law_1411 ?_
      refine gr_iconst (pc := 1413) (v := (1 : Int32)) C rfl dL_law_1413 ?_
      refine gr_iadd (pc := 1414) C dL_law_1414 ?_
      refine gr_iald (pc := 1415) C dL_law_1415 h fun v168 h => ?_
      rcases u28_2 with _ | a169
      · exact gh_stk_inv h
      replace h := gh_nn_ss h
      obtain ⟨⟨fs9, hg9⟩, h⟩ := gh_is_inv h
      refine gh_callI (pc := 1416) (rest := []) C (k_X4_seed C.tr a169 v168) (Nat.le_of_ble_eq_true rfl) (Nat.le_of_ble_eq_true rfl) (gh_r4 (Nat.le_of_ble_eq_true rfl)) (fun H9 L9 hp9 => gi_V C hp9 hg9 gh_cX4 q2574 q2575 q2576 q2577 mh_X4 np6 rfl hl.1.1 dL_law_1416 rfl) h ((gh_K1_b gh_K0_b) _ hk) (fun v170 g h => ?_) (fun e g h => ?_)
      rotate_left
      ·
        obtain ⟨o, h, hk⟩ := gh_K1_thr h hk
        exact gh_out C (fun _ h => nomatch h) h hk
      refine gr_istore (pc := 1419) (i := 7) (l' := [(7, .int v170), (6, .int v167), (0, va_rf (some a1)), (1, va_rf u28_1), (2, va_rf (some a169)), (3, va_rf u28_3), (4, va_rf u28_4), (5, .int p5)]) C hl (Nat.le_of_ble_eq_true rfl) rfl dL_law_1419 fun ls hl => ?_
      refine gr_aload_n (pc := 1421) (i := 2) C rfl (gl_at hl 4 rfl) dL_law_1421 ?_
      obtain ⟨⟨fs9, hg9⟩, h⟩ := gh_is_inv h
      refine gh_callI (pc := 1422) (rest := []) C (k_X4_thrown C.tr a169) (Nat.le_of_ble_eq_true rfl) (Nat.le_of_ble_eq_true rfl) (gh_r4 (Nat.le_of_ble_eq_true rfl)) (fun H9 L9 hp9 => gi_V C hp9 hg9 gh_cX4 q2377 q2378 q2379 q2380 mh_X4 np0 rfl hl.1.1 dL_law_1422 rfl) h ((gh_K1_b gh_K0_b) _ hk) (fun v171 g h => ?_) (fun e g h => ?_)
      rotate_left
      ·
        obtain ⟨o, h, hk⟩ := gh_K1_thr h hk
        exact gh_out C (fun _ h => nomatch h) h hk
      refine gr_iload (pc := 1425) (i := 6) C (gl_at hl 1 rfl) dL_law_1425 ?_
      refine gr_icmp_eq (pc := 1427) (tgt := 1432) C rfl dL_law_1427 (fun c9 => ?_) (fun c9 => ?_)
      · replace h := gh_ift h c9
        refine gr_iload (pc := 1432) (i := 6) C (gl_at hl 1 rfl) dL_law_1432 ?_
        refine gr_if_ne (pc := 1434) (tgt := 1449) C rfl dL_law_1434 (fun c9 => ?_) (fun c9 => ?_)
        · replace h := gh_iff h c9
          exact w_L_law_1449 C (some a1) u28_1 (some a169) u28_3 u28_4 p5 (gl_sub hl [2, 3, 4, 5, 6, 7] rfl) h hk
        · replace h := gh_ift h c9
          refine gr_aload_n (pc := 1437) (i := 3) C rfl (gl_at hl 5 rfl) dL_law_1437 ?_
          refine gr_iconst (pc := 1438) (v := (0 : Int32)) C rfl dL_law_1438 ?_
          rcases u28_3 with _ | a172
          · exact gh_stk_inv h
          replace h := gh_nn_ss h
          refine gr_lald (pc := 1439) C dL_law_1439 h fun v173 h => ?_
          refine gr_iload (pc := 1440) (i := 7) C (gl_at hl 0 rfl) dL_law_1440 ?_
          refine gr_i2l (pc := 1442) (v := v170.toInt64) C rfl dL_law_1442 ?_
          refine gr_lcmp (pc := 1443) C dL_law_1443 ?_
          refine gr_if_eq (pc := 1444) (tgt := 1449) C rfl dL_law_1444 (fun c9 => ?_) (fun c9 => ?_)
          · replace h := gh_ift h c9
            exact w_L_law_1449 C (some a1) u28_1 (some a169) (some a172) u28_4 p5 (gl_sub hl [2, 3, 4, 5, 6, 7] rfl) h hk
          · replace h := gh_iff h c9
            refine gr_iconst (pc := 1447) (v := (0 : Int32)) C rfl dL_law_1447 ?_
            obtain ⟨o, h, hk⟩ := gh_K1_up h hk
            exact gr_bret (pc := 1448) C dL_law_1448 h hk
      · replace h := gh_iff h c9
        refine gr_iconst (pc := 1430) (v := (0 : Int32)) C rfl dL_law_1430 ?_
        obtain ⟨o, h, hk⟩ := gh_K1_up h hk
        exact gr_bret (pc := 1431) C dL_law_1431 h hk
    replace h := gh_iff h k19
    by_cases k20 : (v3 &&& (63 : Int32)) = (20 : Int32)
    · replace h := gh_ift h k20
      refine gr_table (pc := 44) (v := (20 : Int32)) (off := 1408) (tgt := 1452) C k20 (by decide) (by decide) (by decide) rfl dL_law_44 ?_
      refine gr_aload_n (pc := 1452) (i := 1) C rfl (gl_at hl 1 rfl) dL_law_1452 ?_
      refine gr_aload_n (pc := 1453) (i := 0) C rfl (gl_at hl 0 rfl) dL_law_1453 ?_
      refine gr_iload (pc := 1454) (i := 5) C (gl_at hl 5 rfl) dL_law_1454 ?_
      refine gr_iconst (pc := 1456) (v := (1 : Int32)) C rfl dL_law_1456 ?_
      refine gr_iadd (pc := 1457) C dL_law_1457 ?_
      refine gr_iald (pc := 1458) C dL_law_1458 h fun v174 h => ?_
      refine gr_aload_n (pc := 1459) (i := 3) C rfl (gl_at hl 3 rfl) dL_law_1459 ?_
      refine gh_callI (pc := 1460) (rest := []) C (k_X0_weather C.tr u28_1 v174 u28_3) (Nat.le_of_ble_eq_true rfl) (Nat.le_of_ble_eq_true rfl) (gh_r4 (Nat.le_of_ble_eq_true rfl)) (fun H9 L9 hp9 => gi_SX C q1727 q1728 q74 q1729 mh_X0 np94 rfl hl.1.1 dL_law_1460 rfl) h ((gh_K1_b gh_K0_b) _ hk) (fun v175 g h => ?_) (fun e g h => ?_)
      rotate_left
      ·
        obtain ⟨o, h, hk⟩ := gh_K1_thr h hk
        exact gh_out C (fun _ h => nomatch h) h hk
      refine gr_istore (pc := 1463) (i := 6) (l' := [(6, .int v175), (0, va_rf (some a1)), (1, va_rf u28_1), (2, va_rf u28_2), (3, va_rf u28_3), (4, va_rf u28_4), (5, .int p5)]) C hl (Nat.le_of_ble_eq_true rfl) rfl dL_law_1463 fun ls hl => ?_
      refine gr_aload_n (pc := 1465) (i := 2) C rfl (gl_at hl 3 rfl) dL_law_1465 ?_
      refine gr_aload_n (pc := 1466) (i := 0) C rfl (gl_at hl 1 rfl) dL_law_1466 ?_
      refine gr_iload (pc := 1467) (i := 5) C (gl_at hl 6 rfl) dL_law_1467 ?_
      refine gr_iconst (pc := 1469) (v := (1 : Int32)) C rfl dL_law_1469 ?_
      refine gr_iadd (pc := 1470) C dL_law_1470 ?_
      refine gr_iald (pc := 1471) C dL_law_1471 h fun v176 h => ?_
      rcases u28_2 with _ | a177
      · exact gh_stk_inv h
      replace h := gh_nn_ss h
      obtain ⟨⟨fs9, hg9⟩, h⟩ := gh_is_inv h
      refine gh_callI (pc := 1472) (rest := []) C (k_X4_weather C.tr a177 v176) (Nat.le_of_ble_eq_true rfl) (Nat.le_of_ble_eq_true rfl) (gh_r4 (Nat.le_of_ble_eq_true rfl)) (fun H9 L9 hp9 => gi_V C hp9 hg9 gh_cX4 q2578 q2579 q2580 q2581 mh_X4 np6 rfl hl.1.1 dL_law_1472 rfl) h ((gh_K1_b gh_K0_b) _ hk) (fun v178 g h => ?_) (fun e g h => ?_)
      rotate_left
      ·
        obtain ⟨o, h, hk⟩ := gh_K1_thr h hk
        exact gh_out C (fun _ h => nomatch h) h hk
      refine gr_istore (pc := 1475) (i := 7) (l' := [(7, .int v178), (6, .int v175), (0, va_rf (some a1)), (1, va_rf u28_1), (2, va_rf (some a177)), (3, va_rf u28_3), (4, va_rf u28_4), (5, .int p5)]) C hl (Nat.le_of_ble_eq_true rfl) rfl dL_law_1475 fun ls hl => ?_
      refine gr_aload_n (pc := 1477) (i := 2) C rfl (gl_at hl 4 rfl) dL_law_1477 ?_
      obtain ⟨⟨fs9, hg9⟩, h⟩ := gh_is_inv h
      refine gh_callI (pc := 1478) (rest := []) C (k_X4_thrown C.tr a177) (Nat.le_of_ble_eq_true rfl) (Nat.le_of_ble_eq_true rfl) (gh_r4 (Nat.le_of_ble_eq_true rfl)) (fun H9 L9 hp9 => gi_V C hp9 hg9 gh_cX4 q2377 q2378 q2379 q2380 mh_X4 np0 rfl hl.1.1 dL_law_1478 rfl) h ((gh_K1_b gh_K0_b) _ hk) (fun v179 g h => ?_) (fun e g h => ?_)
      rotate_left
      ·
        obtain ⟨o, h, hk⟩ := gh_K1_thr h hk
        exact gh_out C (fun _ h => nomatch h) h hk
      refine gr_iload (pc := 1481) (i := 6) C (gl_at hl 1 rfl) dL_law_1481 ?_
      refine gr_icmp_eq (pc := 1483) (tgt := 1488) C rfl dL_law_1483 (fun c9 => ?_) (fun c9 => ?_)
      · replace h := gh_ift h c9
        refine gr_iload (pc := 1488) (i := 6) C (gl_at hl 1 rfl) dL_law_1488 ?_
        refine gr_if_ne (pc := 1490) (tgt := 1505) C rfl dL_law_1490 (fun c9 => ?_) (fun c9 => ?_)
        · replace h := gh_iff h c9
          exact w_L_law_1505 C (some a1) u28_1 (some a177) u28_3 u28_4 p5 (gl_sub hl [2, 3, 4, 5, 6, 7] rfl) h hk
        · replace h := gh_ift h c9
          refine gr_aload_n (pc := 1493) (i := 3) C rfl (gl_at hl 5 rfl) dL_law_1493 ?_
          refine gr_iconst (pc := 1494) (v := (0 : Int32)) C rfl dL_law_1494 ?_
          rcases u28_3 with _ | a180
          · exact gh_stk_inv h
          replace h := gh_nn_ss h
          refine gr_lald (pc := 1495) C dL_law_1495 h fun v181 h => ?_
          refine gr_iload (pc := 1496) (i := 7) C (gl_at hl 0 rfl) dL_law_1496 ?_
          refine gr_i2l (pc := 1498) (v := v178.toInt64) C rfl dL_law_1498 ?_
          refine gr_lcmp (pc := 1499) C dL_law_1499 ?_
          refine gr_if_eq (pc := 1500) (tgt := 1505) C rfl dL_law_1500 (fun c9 => ?_) (fun c9 => ?_)
          · replace h := gh_ift h c9
            exact w_L_law_1505 C (some a1) u28_1 (some a177) (some a180) u28_4 p5 (gl_sub hl [2, 3, 4, 5, 6, 7] rfl) h hk
          · replace h := gh_iff h c9
            refine gr_iconst (pc := 1503) (v := (0 : Int32)) C rfl dL_law_1503 ?_
            obtain ⟨o, h, hk⟩ := gh_K1_up h hk
            exact gr_bret (pc := 1504) C dL_law_1504 h hk
      · replace h := gh_iff h c9
        refine gr_iconst (pc := 1486) (v := (0 : Int32)) C rfl dL_law_1486 ?_
        obtain ⟨o, h, hk⟩ := gh_K1_up h hk
        exact gr_bret (pc := 1487) C dL_law_1487 h hk
    replace h := gh_iff h k20
    by_cases k21 : (v3 &&& (63 : Int32)) = (21 : Int32)
    · replace h := gh_ift h k21
      refine gr_table (pc := 44) (v := (21 : Int32)) (off := 1464) (tgt := 1508) C k21 (by decide) (by decide) (by decide) rfl dL_law_44 ?_
      refine gr_aload_n (pc := 1508) (i := 1) C rfl (gl_at hl 1 rfl) dL_law_1508 ?_
      refine gr_aload_n (pc := 1509) (i := 0) C rfl (gl_at hl 0 rfl) dL_law_1509 ?_
      refine gr_iload (pc := 1510) (i := 5) C (gl_at hl 5 rfl) dL_law_1510 ?_
      refine gr_iconst (pc := 1512) (v := (1 : Int32)) C rfl dL_law_1512 ?_
      refine gr_iadd (pc := 1513) C dL_law_1513 ?_
      refine gr_iald (pc := 1514) C dL_law_1514 h fun v182 h => ?_
      refine gr_aload_n (pc := 1515) (i := 3) C rfl (gl_at hl 3 rfl) dL_law_1515 ?_
      refine gh_callI (pc := 1516) (rest := []) C (k_X0_pass C.tr u28_1 v182 u28_3) (Nat.le_of_ble_eq_true rfl) (Nat.le_of_ble_eq_true rfl) (gh_r4 (Nat.le_of_ble_eq_true rfl)) (fun H9 L9 hp9 => gi_SX C q1739 q1740 q74 q1741 mh_X0 np94 rfl hl.1.1 dL_law_1516 rfl) h ((gh_K1_b gh_K0_b) _ hk) (fun v183 g h => ?_) (fun e g h => ?_)
      rotate_left
      ·
        obtain ⟨o, h, hk⟩ := gh_K1_thr h hk
        exact gh_out C (fun _ h => nomatch h) h hk
      refine gr_istore (pc := 1519) (i := 6) (l' := [(6, .int v183), (0, va_rf (some a1)), (1, va_rf u28_1), (2, va_rf u28_2), (3, va_rf u28_3), (4, va_rf u28_4), (5, .int p5)]) C hl (Nat.le_of_ble_eq_true rfl) rfl dL_law_1519 fun ls hl => ?_
      refine gr_aload_n (pc := 1521) (i := 2) C rfl (gl_at hl 3 rfl) dL_law_1521 ?_
      refine gr_aload_n (pc := 1522) (i := 0) C rfl (gl_at hl 1 rfl) dL_law_1522 ?_
      refine gr_iload (pc := 1523) (i := 5) C (gl_at hl 6 rfl) dL_law_1523 ?_
      refine gr_iconst (pc := 1525) (v := (1 : Int32)) C rfl dL_law_1525 ?_
      refine gr_iadd (pc := 1526) C dL_law_1526 ?_
      refine gr_iald (pc := 1527) C dL_law_1527 h fun v184 h => ?_
      rcases u28_2 with _ | a185
      · exact gh_stk_inv h
      replace h := gh_nn_ss h
      obtain ⟨⟨fs9, hg9⟩, h⟩ := gh_is_inv h
      refine gh_callI (pc := 1528) (rest := []) C (k_X4_pass C.tr a185 v184) (Nat.le_of_ble_eq_true rfl) (Nat.le_of_ble_eq_true rfl) (gh_r4 (Nat.le_of_ble_eq_true rfl)) (fun H9 L9 hp9 => gi_V C hp9 hg9 gh_cX4 q2588 q2589 q2590 q2591 mh_X4 np6 rfl hl.1.1 dL_law_1528 rfl) h ((gh_K1_b gh_K0_b) _ hk) (fun v186 g h => ?_) (fun e g h => ?_)
      rotate_left
      ·
        obtain ⟨o, h, hk⟩ := gh_K1_thr h hk
        exact gh_out C (fun _ h => nomatch h) h hk
      refine gr_istore (pc := 1531) (i := 7) (l' := [(7, .int v186), (6, .int v183), (0, va_rf (some a1)), (1, va_rf u28_1), (2, va_rf (some a185)), (3, va_rf u28_3), (4, va_rf u28_4), (5, .int p5)]) C hl (Nat.le_of_ble_eq_true rfl) rfl dL_law_1531 fun ls hl => ?_
      refine gr_aload_n (pc := 1533) (i := 2) C rfl (gl_at hl 4 rfl) dL_law_1533 ?_
      obtain ⟨⟨fs9, hg9⟩, h⟩ := gh_is_inv h
      refine gh_callI (pc := 1534) (rest := []) C (k_X4_thrown C.tr a185) (Nat.le_of_ble_eq_true rfl) (Nat.le_of_ble_eq_true rfl) (gh_r4 (Nat.le_of_ble_eq_true rfl)) (fun H9 L9 hp9 => gi_V C hp9 hg9 gh_cX4 q2377 q2378 q2379 q2380 mh_X4 np0 rfl hl.1.1 dL_law_1534 rfl) h ((gh_K1_b gh_K0_b) _ hk) (fun v187 g h => ?_) (fun e g h => ?_)
      rotate_left
      ·
        obtain ⟨o, h, hk⟩ := gh_K1_thr h hk
        exact gh_out C (fun _ h => nomatch h) h hk
      refine gr_iload (pc := 1537) (i := 6) C (gl_at hl 1 rfl) dL_law_1537 ?_
      refine gr_icmp_eq (pc := 1539) (tgt := 1544) C rfl dL_law_1539 (fun c9 => ?_) (fun c9 => ?_)
      · replace h := gh_ift h c9
        refine gr_iload (pc := 1544) (i := 6) C (gl_at hl 1 rfl) dL_law_1544 ?_
        refine gr_if_ne (pc := 1546) (tgt := 1561) C rfl dL_law_1546 (fun c9 => ?_) (fun c9 => ?_)
        · replace h := gh_iff h c9
          exact w_L_law_1561 C (some a1) u28_1 (some a185) u28_3 u28_4 p5 (gl_sub hl [2, 3, 4, 5, 6, 7] rfl) h hk
        · replace h := gh_ift h c9
          refine gr_aload_n (pc := 1549) (i := 3) C rfl (gl_at hl 5 rfl) dL_law_1549 ?_
          refine gr_iconst (pc := 1550) (v := (0 : Int32)) C rfl dL_law_1550 ?_
          rcases u28_3 with _ | a188
          · exact gh_stk_inv h
          replace h := gh_nn_ss h
          refine gr_lald (pc := 1551) C dL_law_1551 h fun v189 h => ?_
          refine gr_iload (pc := 1552) (i := 7) C (gl_at hl 0 rfl) dL_law_1552 ?_
          refine gr_i2l (pc := 1554) (v := v186.toInt64) C rfl dL_law_1554 ?_
          refine gr_lcmp (pc := 1555) C dL_law_1555 ?_
          refine gr_if_eq (pc := 1556) (tgt := 1561) C rfl dL_law_1556 (fun c9 => ?_) (fun c9 => ?_)
          · replace h := gh_ift h c9
            exact w_L_law_1561 C (some a1) u28_1 (some a185) (some a188) u28_4 p5 (gl_sub hl [2, 3, 4, 5, 6, 7] rfl) h hk
          · replace h := gh_iff h c9
            refine gr_iconst (pc := 1559) (v := (0 : Int32)) C rfl dL_law_1559 ?_
            obtain ⟨o, h, hk⟩ := gh_K1_up h hk
            exact gr_bret (pc := 1560) C dL_law_1560 h hk
      · replace h := gh_iff h c9
        refine gr_iconst (pc := 1542) (v := (0 : Int32)) C rfl dL_law_1542 ?_
        obtain ⟨o, h, hk⟩ := gh_K1_up h hk
        exact gr_bret (pc := 1543) C dL_law_1543 h hk
    replace h := gh_iff h k21
    by_cases k22 : (v3 &&& (63 : Int32)) = (22 : Int32)
    · replace h := gh_ift h k22
      refine gr_table (pc := 44) (v := (22 : Int32)) (off := 1520) (tgt := 1564) C k22 (by decide) (by decide) (by decide) rfl dL_law_44 ?_
      refine gr_aload_n (pc := 1564) (i := 1) C rfl (gl_at hl 1 rfl) dL_law_1564 ?_
      refine gr_aload_n (pc := 1565) (i := 0) C rfl (gl_at hl 0 rfl) dL_law_1565 ?_
      refine gr_iload (pc := 1566) (i := 5) C (gl_at hl 5 rfl) dL_law_1566 ?_
      refine gr_iconst (pc := 1568) (v := (1 : Int32)) C rfl dL_law_1568 ?_
      refine gr_iadd (pc := 1569) C dL_law_1569 ?_
      refine gr_iald (pc := 1570) C dL_law_1570 h fun v190 h => ?_
      refine gr_aload_n (pc := 1571) (i := 3) C rfl (gl_at hl 3 rfl) dL_law_1571 ?_
      refine gh_callI (pc := 1572) (rest := []) C (k_X0_brokenIn C.tr u28_1 v190 u28_3) (Nat.le_of_ble_eq_true rfl) (Nat.le_of_ble_eq_true rfl) (gh_r4 (Nat.le_of_ble_eq_true rfl)) (fun H9 L9 hp9 => gi_SX C q1747 q1748 q74 q1749 mh_X0 np94 rfl hl.1.1 dL_law_1572 rfl) h ((gh_K1_b gh_K0_b) _ hk) (fun v191 g h => ?_) (fun e g h => ?_)
      rotate_left
      ·
        obtain ⟨o, h, hk⟩ := gh_K1_thr h hk
        exact gh_out C (fun _ h => nomatch h) h hk
      refine gr_istore (pc := 1575) (i := 6) (l' := [(6, .int v191), (0, va_rf (some a1)), (1, va_rf u28_1), (2, va_rf u28_2), (3, va_rf u28_3), (4, va_rf u28_4), (5, .int p5)]) C hl (Nat.le_of_ble_eq_true rfl) rfl dL_law_1575 fun ls hl => ?_
      refine gr_aload_n (pc := 1577) (i := 2) C rfl (gl_at hl 3 rfl) dL_law_1577 ?_
      refine gr_aload_n (pc := 1578) (i := 0) C rfl (gl_at hl 1 rfl) dL_law_1578 ?_
      refine gr_iload (pc := 1579) (i := 5) C (gl_at hl 6 rfl) dL_law_1579 ?_
      refine gr_iconst (pc := 1581) (v := (1 : Int32)) C rfl dL_law_1581 ?_
      refine gr_iadd (pc := 1582) C dL_law_1582 ?_
      refine gr_iald (pc := 1583) C dL_law_1583 h fun v192 h => ?_
      rcases u28_2 with _ | a193
      · exact gh_stk_inv h
      replace h := gh_nn_ss h
      obtain ⟨⟨fs9, hg9⟩, h⟩ := gh_is_inv h
      refine gh_callI (pc := 1584) (rest := []) C (k_X4_brokenIn C.tr a193 v192) (Nat.le_of_ble_eq_true rfl) (Nat.le_of_ble_eq_true rfl) (gh_r4 (Nat.le_of_ble_eq_true rfl)) (fun H9 L9 hp9 => gi_V C hp9 hg9 gh_cX4 q2600 q2601 q2602 q2603 mh_X4 np6 rfl hl.1.1 dL_law_1584 rfl) h ((gh_K1_b gh_K0_b) _ hk) (fun v194 g h => ?_) (fun e g h => ?_)
      rotate_left
      ·
        obtain ⟨o, h, hk⟩ := gh_K1_thr h hk
        exact gh_out C (fun _ h => nomatch h) h hk
      refine gr_istore (pc := 1587) (i := 7) (l' := [(7, .int v194), (6, .int v191), (0, va_rf (some a1)), (1, va_rf u28_1), (2, va_rf (some a193)), (3, va_rf u28_3), (4, va_rf u28_4), (5, .int p5)]) C hl (Nat.le_of_ble_eq_true rfl) rfl dL_law_1587 fun ls hl => ?_
      refine gr_aload_n (pc := 1589) (i := 2) C rfl (gl_at hl 4 rfl) dL_law_1589 ?_
      obtain ⟨⟨fs9, hg9⟩, h⟩ := gh_is_inv h
      refine gh_callI (pc := 1590) (rest := []) C (k_X4_thrown C.tr a193) (Nat.le_of_ble_eq_true rfl) (Nat.le_of_ble_eq_true rfl) (gh_r4 (Nat.le_of_ble_eq_true rfl)) (fun H9 L9 hp9 => gi_V C hp9 hg9 gh_cX4 q2377 q2378 q2379 q2380 mh_X4 np0 rfl hl.1.1 dL_law_1590 rfl) h ((gh_K1_b gh_K0_b) _ hk) (fun v195 g h => ?_) (fun e g h => ?_)
      rotate_left
      ·
        obtain ⟨o, h, hk⟩ := gh_K1_thr h hk
        exact gh_out C (fun _ h => nomatch h) h hk
      refine gr_iload (pc := 1593) (i := 6) C (gl_at hl 1 rfl) dL_law_1593 ?_
      refine gr_icmp_eq (pc := 1595) (tgt := 1600) C rfl dL_law_1595 (fun c9 => ?_) (fun c9 => ?_)
      · replace h := gh_ift h c9
        refine gr_iload (pc := 1600) (i := 6) C (gl_at hl 1 rfl) dL_law_1600 ?_
        refine gr_if_ne (pc := 1602) (tgt := 1617) C rfl dL_law_1602 (fun c9 => ?_) (fun c9 => ?_)
        · replace h := gh_iff h c9
          exact w_L_law_1617 C (some a1) u28_1 (some a193) u28_3 u28_4 p5 (gl_sub hl [2, 3, 4, 5, 6, 7] rfl) h hk
        · replace h := gh_ift h c9
          refine gr_aload_n (pc := 1605) (i := 3) C rfl (gl_at hl 5 rfl) dL_law_1605 ?_
          refine gr_iconst (pc := 1606) (v := (0 : Int32)) C rfl dL_law_1606 ?_
          rcases u28_3 with _ | a196
          · exact gh_stk_inv h
          replace h := gh_nn_ss h
          refine gr_lald (pc := 1607) C dL_law_1607 h fun v197 h => ?_
          refine gr_iload (pc := 1608) (i := 7) C (gl_at hl 0 rfl) dL_law_1608 ?_
          refine gr_i2l (pc := 1610) (v := v194.toInt64) C rfl dL_law_1610 ?_
          refine gr_lcmp (pc := 1611) C dL_law_1611 ?_
          refine gr_if_eq (pc := 1612) (tgt := 1617) C rfl dL_law_1612 (fun c9 => ?_) (fun c9 => ?_)
          · replace h := gh_ift h c9
            exact w_L_law_1617 C (some a1) u28_1 (some a193) (some a196) u28_4 p5 (gl_sub hl [2, 3, 4, 5, 6, 7] rfl) h hk
          · replace h := gh_iff h c9
            refine gr_iconst (pc := 1615) (v := (0 : Int32)) C rfl dL_law_1615 ?_
            obtain ⟨o, h, hk⟩ := gh_K1_up h hk
            exact gr_bret (pc := 1616) C dL_law_1616 h hk
      · replace h := gh_iff h c9
        refine gr_iconst (pc := 1598) (v := (0 : Int32)) C rfl dL_law_1598 ?_
        obtain ⟨o, h, hk⟩ := gh_K1_up h hk
        exact gr_bret (pc := 1599) C dL_law_1599 h hk
    replace h := gh_iff h k22
    by_cases k23 : (v3 &&& (63 : Int32)) = (23 : Int32)
    · replace h := gh_ift h k23
      refine gr_table (pc := 44) (v := (23 : Int32)) (off := 1576) (tgt := 1620) C k23 (by decide) (by decide) (by decide) rfl dL_law_44 ?_
      refine gr_aload_n (pc := 1620) (i := 1) C rfl (gl_at hl 1 rfl) dL_law_1620 ?_
      rcases u28_1 with _ | a198
      · exact gh_stk_inv h
      replace h := gh_nn_ss h
      obtain ⟨⟨fs9, hg9⟩, h⟩ := gh_is_inv h
      refine gh_callI (pc := 1621) (rest := []) C (k_X1_coins C.tr a198) (Nat.le_of_ble_eq_true rfl) (Nat.le_of_ble_eq_true rfl) (gh_r4 (Nat.le_of_ble_eq_true rfl)) (fun H9 L9 hp9 => gi_V C hp9 hg9 gh_cX1 q296 q297 q298 q299 mh_X1 np0 rfl hl.1.1 dL_law_1621 rfl) h ((gh_K1_b gh_K0_b) _ hk) (fun v199 g h => ?_) (fun e g h => ?_)
      rotate_left
      ·
        obtain ⟨o, h, hk⟩ := gh_K1_thr h hk
        exact gh_out C (fun _ h => nomatch h) h hk
      refine gr_aload_n (pc := 1624) (i := 2) C rfl (gl_at hl 2 rfl) dL_law_1624 ?_
      rcases u28_2 with _ | a200
      · exact gh_stk_inv h
      replace h := gh_nn_ss h
      obtain ⟨⟨fs9, hg9⟩, h⟩ := gh_is_inv h
      refine gh_callI (pc := 1625) (rest := [.int v199]) C (k_X4_coins C.tr a200) (Nat.le_of_ble_eq_true rfl) (Nat.le_of_ble_eq_true rfl) (gh_r4 (Nat.le_of_ble_eq_true rfl)) (fun H9 L9 hp9 => gi_V C hp9 hg9 gh_cX4 q2604 q2605 q2606 q2607 mh_X4 np0 rfl hl.1.1 dL_law_1625 rfl) h ((gh_K1_b gh_K0_b) _ hk) (fun v201 g h => ?_) (fun e g h => ?_)
      rotate_left
      ·
        obtain ⟨o, h, hk⟩ := gh_K1_thr h hk
        exact gh_out C (fun _ h => nomatch h) h hk
      refine gr_icmp_eq (pc := 1628) (tgt := 2245) C rfl dL_law_1628 (fun c9 => ?_) (fun c9 => ?_)
      · replace h := gh_ift h c9
        exact w_L_law_2245 C (some a1) (some a198) (some a200) u28_3 u28_4 p5 (gl_sub hl [0, 1, 2, 3, 4, 5] rfl) h hk
      · replace h := gh_iff h c9
        refine gr_iconst (pc := 1631) (v := (0 : Int32)) C rfl dL_law_1631 ?_
        obtain ⟨o, h, hk⟩ := gh_K1_up h hk
        exact gr_bret (pc := 1632) C dL_law_1632 h hk
    replace h := gh_iff h k23
    by_cases k24 : (v3 &&& (63 : Int32)) = (24 : Int32)
    · replace h := gh_ift h k24
      refine gr_table (pc := 44) (v := (24 : Int32)) (off := 1589) (tgt := 1633) C k24 (by decide) (by decide) (by decide) rfl dL_law_44 ?_
      refine gr_aload_n (pc := 1633) (i := 1) C rfl (gl_at hl 1 rfl) dL_law_1633 ?_
      rcases u28_1 with _ | a202
      · exact gh_stk_inv h
      replace h := gh_nn_ss h
      obtain ⟨⟨fs9, hg9⟩, h⟩ := gh_is_inv h
      refine gh_callI (pc := 1634) (rest := []) C (k_X1_coinsAgain C.tr a202) (Nat.le_of_ble_eq_true rfl) (Nat.le_of_ble_eq_true rfl) (gh_r4 (Nat.le_of_ble_eq_true rfl)) (fun H9 L9 hp9 => gi_V C hp9 hg9 gh_cX1 q300 q301 q302 q303 mh_X1 np0 rfl hl.1.1 dL_law_1634 rfl) h ((gh_K1_b gh_K0_b) _ hk) (fun v203 g h => ?_) (fun e g h => ?_)
      rotate_left
      ·
        obtain ⟨o, h, hk⟩ := gh_K1_thr h hk
        exact gh_out C (fun _ h => nomatch h) h hk
      refine gr_aload_n (pc := 1637) (i := 2) C rfl (gl_at hl 2 rfl) dL_law_1637 ?_
      rcases u28_2 with _ | a204
      · exact gh_stk_inv h
      replace h := gh_nn_ss h
      obtain ⟨⟨fs9, hg9⟩, h⟩ := gh_is_inv h
      refine gh_callI (pc := 1638) (rest := [.int v203]) C (k_X4_coinsAgain C.tr a204) (Nat.le_of_ble_eq_true rfl) (Nat.le_of_ble_eq_true rfl) (gh_r4 (Nat.le_of_ble_eq_true rfl)) (fun H9 L9 hp9 => gi_V C hp9 hg9 gh_cX4 q2608 q2609 q2610 q2611 mh_X4 np0 rfl hl.1.1 dL_law_1638 rfl) h ((gh_K1_b gh_K0_b) _ hk) (fun v205 g h => ?_) (fun e g h => ?_)
      rotate_left
      ·
        obtain ⟨o, h, hk⟩ := gh_K1_thr h hk
        exact gh_out C (fun _ h => nomatch h) h hk
      refine gr_icmp_eq (pc := 1641) (tgt := 2245) C rfl dL_law_1641 (fun c9 => ?_) (fun c9 => ?_)
      · replace h := gh_ift h c9
        exact w_L_law_2245 C (some a1) (some a202) (some a204) u28_3 u28_4 p5 (gl_sub hl [0, 1, 2, 3, 4, 5] rfl) h hk
      · replace h := gh_iff h c9
        refine gr_iconst (pc := 1644) (v := (0 : Int32)) C rfl dL_law_1644 ?_
        obtain ⟨o, h, hk⟩ := gh_K1_up h hk
        exact gr_bret (pc := 1645) C dL_law_1645 h hk
    replace h := gh_iff h k24
    by_cases k25 : (v3 &&& (63 : Int32)) = (25 : Int32)
    · replace h := gh_ift h k25
      refine gr_table (pc := 44) (v := (25 : Int32)) (off := 1602) (tgt := 1646) C k25 (by decide) (by decide) (by decide) rfl dL_law_44 ?_
      refine gr_aload_n (pc := 1646) (i := 1) C rfl (gl_at hl 1 rfl) dL_law_1646 ?_
      refine gr_aload_n (pc := 1647) (i := 0) C rfl (gl_at hl 0 rfl) dL_law_1647 ?_
      refine gr_iload (pc := 1648) (i := 5) C (gl_at hl 5 rfl) dL_law_1648 ?_
      refine gr_iconst (pc := 1650) (v := (1 : Int32)) C rfl dL_law_1650 ?_
      refine gr_iadd (pc := 1651) C dL_law_1651 ?_
      refine gr_iald (pc := 1652) C dL_law_1652 h fun v206 h => ?_
      refine gr_aload_n (pc := 1653) (i := 3) C rfl (gl_at hl 3 rfl) dL_law_1653 ?_
      refine gh_callI (pc := 1654) (rest := []) C (k_X0_line C.tr u28_1 v206 u28_3) (Nat.le_of_ble_eq_true rfl) (Nat.le_of_ble_eq_true rfl) (gh_r4 (Nat.le_of_ble_eq_true rfl)) (fun H9 L9 hp9 => gi_SX C q1755 q1756 q74 q1757 mh_X0 np94 rfl hl.1.1 dL_law_1654 rfl) h ((gh_K1_b gh_K0_b) _ hk) (fun v207 g h => ?_) (fun e g h => ?_)
      rotate_left
      ·
        obtain ⟨o, h, hk⟩ := gh_K1_thr h hk
        exact gh_out C (fun _ h => nomatch h) h hk
      refine gr_istore (pc := 1657) (i := 6) (l' := [(6, .int v207), (0, va_rf (some a1)), (1, va_rf u28_1), (2, va_rf u28_2), (3, va_rf u28_3), (4, va_rf u28_4), (5, .int p5)]) C hl (Nat.le_of_ble_eq_true rfl) rfl dL_law_1657 fun ls hl => ?_
      refine gr_aload_n (pc := 1659) (i := 2) C rfl (gl_at hl 3 rfl) dL_law_1659 ?_
      refine gr_aload_n (pc := 1660) (i := 0) C rfl (gl_at hl 1 rfl) dL_law_1660 ?_
      refine gr_iload (pc := 1661) (i := 5) C (gl_at hl 6 rfl) dL_law_1661 ?_
      refine gr_iconst (pc := 1663) (v := (1 : Int32)) C rfl dL_law_1663 ?_
      refine gr_iadd (pc := 1664) C dL_law_1664 ?_
      refine gr_iald (pc := 1665) C dL_law_1665 h fun v208 h => ?_
      rcases u28_2 with _ | a209
      · exact gh_stk_inv h
      replace h := gh_nn_ss h
      obtain ⟨⟨fs9, hg9⟩, h⟩ := gh_is_inv h
      refine gh_callI (pc := 1666) (rest := []) C (k_X4_line C.tr a209 v208) (Nat.le_of_ble_eq_true rfl) (Nat.le_of_ble_eq_true rfl) (gh_r4 (Nat.le_of_ble_eq_true rfl)) (fun H9 L9 hp9 => gi_V C hp9 hg9 gh_cX4 q2613 q2614 q2615 q2616 mh_X4 np6 rfl hl.1.1 dL_law_1666 rfl) h ((gh_K1_b gh_K0_b) _ hk) (fun v210 g h => ?_) (fun e g h => ?_)
      rotate_left
      ·
        obtain ⟨o, h, hk⟩ := gh_K1_thr h hk
        exact gh_out C (fun _ h => nomatch h) h hk
      refine gr_istore (pc := 1669) (i := 7) (l' := [(7, .int v210), (6, .int v207), (0, va_rf (some a1)), (1, va_rf u28_1), (2, va_rf (some a209)), (3, va_rf u28_3), (4, va_rf u28_4), (5, .int p5)]) C hl (Nat.le_of_ble_eq_true rfl) rfl dL_law_1669 fun ls hl => ?_
      refine gr_aload_n (pc := 1671) (i := 2) C rfl (gl_at hl 4 rfl) dL_law_1671 ?_
      obtain ⟨⟨fs9, hg9⟩, h⟩ := gh_is_inv h
      refine gh_callI (pc := 1672) (rest := []) C (k_X4_thrown C.tr a209) (Nat.le_of_ble_eq_true rfl) (Nat.le_of_ble_eq_true rfl) (gh_r4 (Nat.le_of_ble_eq_true rfl)) (fun H9 L9 hp9 => gi_V C hp9 hg9 gh_cX4 q2377 q2378 q2379 q2380 mh_X4 np0 rfl hl.1.1 dL_law_1672 rfl) h ((gh_K1_b gh_K0_b) _ hk) (fun v211 g h => ?_) (fun e g h => ?_)
      rotate_left
      ·
        obtain ⟨o, h, hk⟩ := gh_K1_thr h hk
        exact gh_out C (fun _ h => nomatch h) h hk
      refine gr_iload (pc := 1675) (i := 6) C (gl_at hl 1 rfl) dL_law_1675 ?_
      refine gr_icmp_eq (pc := 1677) (tgt := 1682) C rfl dL_law_1677 (fun c9 => ?_) (fun c9 => ?_)
      · replace h := gh_ift h c9
        refine gr_iload (pc := 1682) (i := 6) C (gl_at hl 1 rfl) dL_law_1682 ?_
        refine gr_if_ne (pc := 1684) (tgt := 1699) C rfl dL_law_1684 (fun c9 => ?_) (fun c9 => ?_)
        · replace h := gh_iff h c9
          exact w_L_law_1699 C (some a1) u28_1 (some a209) u28_3 u28_4 p5 (gl_sub hl [2, 3, 4, 5, 6, 7] rfl) h hk
        · replace h := gh_ift h c9
          refine gr_aload_n (pc := 1687) (i := 3) C rfl (gl_at hl 5 rfl) dL_law_1687 ?_
          refine gr_iconst (pc := 1688) (v := (0 : Int32)) C rfl dL_law_1688 ?_
          rcases u28_3 with _ | a212
          · exact gh_stk_inv h
          replace h := gh_nn_ss h
          refine gr_lald (pc := 1689) C dL_law_1689 h fun v213 h => ?_
          refine gr_iload (pc := 1690) (i := 7) C (gl_at hl 0 rfl) dL_law_1690 ?_
          refine gr_i2l (pc := 1692) (v := v210.toInt64) C rfl dL_law_1692 ?_
          refine gr_lcmp (pc := 1693) C dL_law_1693 ?_
          refine gr_if_eq (pc := 1694) (tgt := 1699) C rfl dL_law_1694 (fun c9 => ?_) (fun c9 => ?_)
          · replace h := gh_ift h c9
            exact w_L_law_1699 C (some a1) u28_1 (some a209) (some a212) u28_4 p5 (gl_sub hl [2, 3, 4, 5, 6, 7] rfl) h hk
          · replace h := gh_iff h c9
            refine gr_iconst (pc := 1697) (v := (0 : Int32)) C rfl dL_law_1697 ?_
            obtain ⟨o, h, hk⟩ := gh_K1_up h hk
            exact gr_bret (pc := 1698) C dL_law_1698 h hk
      · replace h := gh_iff h c9
        refine gr_iconst (pc := 1680) (v := (0 : Int32)) C rfl dL_law_1680 ?_
        obtain ⟨o, h, hk⟩ := gh_K1_up h hk
        exact gr_bret (pc := 1681) C dL_law_1681 h hk
    replace h := gh_iff h k25
    by_cases k26 : (v3 &&& (63 : Int32)) = (26 : Int32)
    · replace h := gh_ift h k26
      refine gr_table (pc := 44) (v := (26 : Int32)) (off := 1658) (tgt := 1702) C k26 (by decide) (by decide) (by decide) rfl dL_law_44 ?_
      refine gr_aload_n (pc := 1702) (i := 1) C rfl (gl_at hl 1 rfl) dL_law_1702 ?_
      refine gr_aload_n (pc := 1703) (i := 0) C rfl (gl_at hl 0 rfl) dL_law_1703 ?_
      refine gr_iload (pc := 1704) (i := 5) C (gl_at hl 5 rfl) dL_law_1704 ?_
      refine gr_iconst (pc := 1706) (v := (1 : Int32)) C rfl dL_law_1706 ?_
      refine gr_iadd (pc := 1707) C dL_law_1707 ?_
      refine gr_iald (pc := 1708) C dL_law_1708 h fun v214 h => ?_
      refine gr_aload_n (pc := 1709) (i := 3) C rfl (gl_at hl 3 rfl) dL_law_1709 ?_
      refine gh_callI (pc := 1710) (rest := []) C (k_X0_character C.tr u28_1 v214 u28_3) (Nat.le_of_ble_eq_true rfl) (Nat.le_of_ble_eq_true rfl) (gh_r4 (Nat.le_of_ble_eq_true rfl)) (fun H9 L9 hp9 => gi_SX C q1956 q1957 q74 q1958 mh_X0 np94 rfl hl.1.1 dL_law_1710 rfl) h ((gh_K1_b gh_K0_b) _ hk) (fun v215 g h => ?_) (fun e g h => ?_)
      rotate_left
      ·
        obtain ⟨o, h, hk⟩ := gh_K1_thr h hk
        exact gh_out C (fun _ h => nomatch h) h hk
      refine gr_istore (pc := 1713) (i := 6) (l' := [(6, .int v215), (0, va_rf (some a1)), (1, va_rf u28_1), (2, va_rf u28_2), (3, va_rf u28_3), (4, va_rf u28_4), (5, .int p5)]) C hl (Nat.le_of_ble_eq_true rfl) rfl dL_law_1713 fun ls hl => ?_
      refine gr_aload_n (pc := 1715) (i := 2) C rfl (gl_at hl 3 rfl) dL_law_1715 ?_
      refine gr_aload_n (pc := 1716) (i := 0) C rfl (gl_at hl 1 rfl) dL_law_1716 ?_
      refine gr_iload (pc := 1717) (i := 5) C (gl_at hl 6 rfl) dL_law_1717 ?_
      refine gr_iconst (pc := 1719) (v := (1 : Int32)) C rfl dL_law_1719 ?_
      refine gr_iadd (pc := 1720) C dL_law_1720 ?_
      refine gr_iald (pc := 1721) C dL_law_1721 h fun v216 h => ?_
      rcases u28_2 with _ | a217
      · exact gh_stk_inv h
      replace h := gh_nn_ss h
      obtain ⟨⟨fs9, hg9⟩, h⟩ := gh_is_inv h
      refine gh_callI (pc := 1722) (rest := []) C (k_X4_character C.tr a217 v216) (Nat.le_of_ble_eq_true rfl) (Nat.le_of_ble_eq_true rfl) (gh_r4 (Nat.le_of_ble_eq_true rfl)) (fun H9 L9 hp9 => gi_V C hp9 hg9 gh_cX4 q2625 q2626 q2627 q2628 mh_X4 np38 rfl hl.1.1 dL_law_1722 rfl) h ((gh_K1_b gh_K0_b) _ hk) (fun v218 g h => ?_) (fun e g h => ?_)
      rotate_left
      ·
        obtain ⟨o, h, hk⟩ := gh_K1_thr h hk
        exact gh_out C (fun _ h => nomatch h) h hk
      refine gr_istore (pc := 1725) (i := 7) (l' := [(7, .int v218), (6, .int v215), (0, va_rf (some a1)), (1, va_rf u28_1), (2, va_rf (some a217)), (3, va_rf u28_3), (4, va_rf u28_4), (5, .int p5)]) C hl (Nat.le_of_ble_eq_true rfl) rfl dL_law_1725 fun ls hl => ?_
      refine gr_aload_n (pc := 1727) (i := 2) C rfl (gl_at hl 4 rfl) dL_law_1727 ?_
      obtain ⟨⟨fs9, hg9⟩, h⟩ := gh_is_inv h
      refine gh_callI (pc := 1728) (rest := []) C (k_X4_thrown C.tr a217) (Nat.le_of_ble_eq_true rfl) (Nat.le_of_ble_eq_true rfl) (gh_r4 (Nat.le_of_ble_eq_true rfl)) (fun H9 L9 hp9 => gi_V C hp9 hg9 gh_cX4 q2377 q2378 q2379 q2380 mh_X4 np0 rfl hl.1.1 dL_law_1728 rfl) h ((gh_K1_b gh_K0_b) _ hk) (fun v219 g h => ?_) (fun e g h => ?_)
      rotate_left
      ·
        obtain ⟨o, h, hk⟩ := gh_K1_thr h hk
        exact gh_out C (fun _ h => nomatch h) h hk
      refine gr_iload (pc := 1731) (i := 6) C (gl_at hl 1 rfl) dL_law_1731 ?_
      refine gr_icmp_eq (pc := 1733) (tgt := 1738) C rfl dL_law_1733 (fun c9 => ?_) (fun c9 => ?_)
      · replace h := gh_ift h c9
        refine gr_iload (pc := 1738) (i := 6) C (gl_at hl 1 rfl) dL_law_1738 ?_
        refine gr_if_ne (pc := 1740) (tgt := 1755) C rfl dL_law_1740 (fun c9 => ?_) (fun c9 => ?_)
        · replace h := gh_iff h c9
          exact w_L_law_1755 C (some a1) u28_1 (some a217) u28_3 u28_4 p5 (gl_sub hl [2, 3, 4, 5, 6, 7] rfl) h hk
        · replace h := gh_ift h c9
          refine gr_aload_n (pc := 1743) (i := 3) C rfl (gl_at hl 5 rfl) dL_law_1743 ?_
          refine gr_iconst (pc := 1744) (v := (0 : Int32)) C rfl dL_law_1744 ?_
          rcases u28_3 with _ | a220
          · exact gh_stk_inv h
          replace h := gh_nn_ss h
          refine gr_lald (pc := 1745) C dL_law_1745 h fun v221 h => ?_
          refine gr_iload (pc := 1746) (i := 7) C (gl_at hl 0 rfl) dL_law_1746 ?_
          refine gr_i2l (pc := 1748) (v := v218.toInt64) C rfl dL_law_1748 ?_
          refine gr_lcmp (pc := 1749) C dL_law_1749 ?_
          refine gr_if_eq (pc := 1750) (tgt := 1755) C rfl dL_law_1750 (fun c9 => ?_) (fun c9 => ?_)
          · replace h := gh_ift h c9
            exact w_L_law_1755 C (some a1) u28_1 (some a217) (some a220) u28_4 p5 (gl_sub hl [2, 3, 4, 5, 6, 7] rfl) h hk
          · replace h := gh_iff h c9
            refine gr_iconst (pc := 1753) (v := (0 : Int32)) C rfl dL_law_1753 ?_
            obtain ⟨o, h, hk⟩ := gh_K1_up h hk
            exact gr_bret (pc := 1754) C dL_law_1754 h hk
      · replace h := gh_iff h c9
        refine gr_iconst (pc := 1736) (v := (0 : Int32)) C rfl dL_law_1736 ?_
        obtain ⟨o, h, hk⟩ := gh_K1_up h hk
        exact gr_bret (pc := 1737) C dL_law_1737 h hk
    replace h := gh_iff h k26
    by_cases k27 : (v3 &&& (63 : Int32)) = (27 : Int32)
    · replace h := gh_ift h k27
      refine gr_table (pc := 44) (v := (27 : Int32)) (off := 1714) (tgt := 1758) C k27 (by decide) (by decide) (by decide) rfl dL_law_44 ?_
      refine gr_aload_n (pc := 1758) (i := 1) C rfl (gl_at hl 1 rfl) dL_law_1758 ?_
      rcases u28_1 with _ | a222
      · exact gh_stk_inv h
      replace h := gh_nn_ss h
      obtain ⟨⟨fs9, hg9⟩, h⟩ := gh_is_inv h
      refine gh_callI (pc := 1759) (rest := []) C (k_X1_isBalanced C.tr a222) (Nat.le_of_ble_eq_true rfl) (Nat.le_of_ble_eq_true rfl) (gh_r4 (Nat.le_of_ble_eq_true rfl)) (fun H9 L9 hp9 => gi_V C hp9 hg9 gh_cX1 q872 q873 q874 q875 mh_X1 np7 rfl hl.1.1 dL_law_1759 rfl) h ((gh_K1_b gh_K0_b) _ hk) (fun v223 g h => ?_) (fun e g h => ?_)
      rotate_left
      ·
        obtain ⟨o, h, hk⟩ := gh_K1_thr h hk
        exact gh_out C (fun _ h => nomatch h) h hk
      refine gr_aload_n (pc := 1762) (i := 2) C rfl (gl_at hl 2 rfl) dL_law_1762 ?_
      rcases u28_2 with _ | a224
      · exact gh_stk_inv h
      replace h := gh_nn_ss h
      obtain ⟨⟨fs9, hg9⟩, h⟩ := gh_is_inv h
      refine gh_callI (pc := 1763) (rest := [.int v223]) C (k_X4_isBalanced C.tr a224) (Nat.le_of_ble_eq_true rfl) (Nat.le_of_ble_eq_true rfl) (gh_r4 (Nat.le_of_ble_eq_true rfl)) (fun H9 L9 hp9 => gi_V C hp9 hg9 gh_cX4 q2629 q2630 q2631 q2632 mh_X4 np7 rfl hl.1.1 dL_law_1763 rfl) h ((gh_K1_b gh_K0_b) _ hk) (fun v225 g h => ?_) (fun e g h => ?_)
      rotate_left
      ·
        obtain ⟨o, h, hk⟩ := gh_K1_thr h hk
        exact gh_out C (fun _ h => nomatch h) h hk
      refine gr_icmp_eq (pc := 1766) (tgt := 2245) C rfl dL_law_1766 (fun c9 => ?_) (fun c9 => ?_)
      · replace h := gh_ift h c9
        exact w_L_law_2245 C (some a1) (some a222) (some a224) u28_3 u28_4 p5 (gl_sub hl [0, 1, 2, 3, 4, 5] rfl) h hk
      · replace h := gh_iff h c9
        refine gr_iconst (pc := 1769) (v := (0 : Int32)) C rfl dL_law_1769 ?_
        obtain ⟨o, h, hk⟩ := gh_K1_up h hk
        exact gr_bret (pc := 1770) C dL_law_1770 h hk
    replace h := gh_iff h k27
    by_cases k28 : (v3 &&& (63 : Int32)) = (28 : Int32)
    · replace h := gh_ift h k28
      refine gr_table (pc := 44) (v := (28 : Int32)) (off := 1727) (tgt := 1771) C k28 (by decide) (by decide) (by decide) rfl dL_law_44 ?_
      refine gr_aload_n (pc := 1771) (i := 1) C rfl (gl_at hl 1 rfl) dL_law_1771 ?_
      refine gr_aload (pc := 1772) (i := 4) C (gl_at hl 4 rfl) dL_law_1772 ?_
      refine gh_callI (pc := 1774) (rest := []) C (k_X0_meanDetail C.tr u28_1 u28_4) (Nat.le_of_ble_eq_true rfl) (Nat.le_of_ble_eq_true rfl) (gh_r4 (Nat.le_of_ble_eq_true rfl)) (fun H9 L9 hp9 => gi_SX C q1964 q1965 q74 q1966 mh_X0 np96 rfl hl.1.1 dL_law_1774 rfl) h ((gh_K1_b gh_K0_b) _ hk) (fun v226 g h => ?_) (fun e g h => ?_)
      rotate_left
      ·
        obtain ⟨o, h, hk⟩ := gh_K1_thr h hk
        exact gh_out C (fun _ h => nomatch h) h hk
      refine gr_istore (pc := 1777) (i := 6) (l' := [(6, .int v226), (0, va_rf (some a1)), (1, va_rf u28_1), (2, va_rf u28_2), (3, va_rf u28_3), (4, va_rf u28_4), (5, .int p5)]) C hl (Nat.le_of_ble_eq_true rfl) rfl dL_law_1777 fun ls hl => ?_
      refine gr_aload_n (pc := 1779) (i := 2) C rfl (gl_at hl 3 rfl) dL_law_1779 ?_
      rcases u28_2 with _ | a227
      · exact gh_stk_inv h
      replace h := gh_nn_ss h
      obtain ⟨⟨fs9, hg9⟩, h⟩ := gh_is_inv h
      refine gh_callD (pc := 1780) (rest := []) C (k_X4_meanDetail C.tr a227) (Nat.le_of_ble_eq_true rfl) (Nat.le_of_ble_eq_true rfl) (gh_r4 (Nat.le_of_ble_eq_true rfl)) (fun H9 L9 hp9 => gi_V C hp9 hg9 gh_cX4 q2633 q2634 q2635 q2636 mh_X4 np88 rfl hl.1.1 dL_law_1780 rfl) h ((gh_K1_b gh_K0_b) _ hk) (fun v228 g h => ?_) (fun e g h => ?_)
      rotate_left
      ·
        obtain ⟨o, h, hk⟩ := gh_K1_thr h hk
        exact gh_out C (fun _ h => nomatch h) h hk
      refine gr_dstore (pc := 1783) (i := 7) (l' := [(6, .int v226), (0, va_rf (some a1)), (1, va_rf u28_1), (2, va_rf (some a227)), (3, va_rf u28_3), (4, va_rf u28_4), (5, .int p5)]) C hl (Nat.le_of_ble_eq_true rfl) rfl dL_law_1783 fun ls hl hd7 => ?_
      refine gr_aload_n (pc := 1785) (i := 2) C rfl (gl_at hl 3 rfl) dL_law_1785 ?_
      obtain ⟨⟨fs9, hg9⟩, h⟩ := gh_is_inv h
      refine gh_callI (pc := 1786) (rest := []) C (k_X4_thrown C.tr a227) (Nat.le_of_ble_eq_true rfl) (Nat.le_of_ble_eq_true rfl) (gh_r4 (Nat.le_of_ble_eq_true rfl)) (fun H9 L9 hp9 => gi_V C hp9 hg9 gh_cX4 q2377 q2378 q2379 q2380 mh_X4 np0 rfl hl.1.1 dL_law_1786 rfl) h ((gh_K1_b gh_K0_b) _ hk) (fun v229 g h => ?_) (fun e g h => ?_)
      rotate_left
      ·
        obtain ⟨o, h, hk⟩ := gh_K1_thr h hk
        exact gh_out C (fun _ h => nomatch h) h hk
      refine gr_iload (pc := 1789) (i := 6) C (gl_at hl 0 rfl) dL_law_1789 ?_
      refine gr_icmp_eq (pc := 1791) (tgt := 1796) C rfl dL_law_1791 (fun c9 => ?_) (fun c9 => ?_)
      · replace h := gh_ift h c9
        refine gr_iload (pc := 1796) (i := 6) C (gl_at hl 0 rfl) dL_law_1796 ?_
        refine gr_if_ne (pc := 1798) (tgt := 1833) C rfl dL_law_1798 (fun c9 => ?_) (fun c9 => ?_)
        · replace h := gh_iff h c9
          exact w_L_law_1833 C (some a1) u28_1 (some a227) u28_3 u28_4 p5 (gl_sub hl [1, 2, 3, 4, 5, 6] rfl) h hk
        · replace h := gh_ift h c9
          refine gr_aload (pc := 1801) (i := 4) C (gl_at hl 5 rfl) dL_law_1801 ?_
          refine gr_iconst (pc := 1803) (v := (0 : Int32)) C rfl dL_law_1803 ?_
          rcases u28_4 with _ | a230
          · exact gh_stk_inv h
          replace h := gh_nn_ss h
          refine gr_dald (pc := 1804) C dL_law_1804 h fun v231 h => ?_
          refine gr_dload (pc := 1805) (i := 7) C hd7 dL_law_1805 ?_
          refine gr_dcmp (pc := 1807) C dL_law_1807 ?_
          refine gr_if_eq (pc := 1808) (tgt := 1833) C rfl dL_law_1808 (fun c9 => ?_) (fun c9 => ?_)
          · replace h := gh_ift h c9
            exact w_L_law_1833 C (some a1) u28_1 (some a227) u28_3 (some a230) p5 (gl_sub hl [1, 2, 3, 4, 5, 6] rfl) h hk
          · replace h := gh_iff h c9
            refine gr_aload (pc := 1811) (i := 4) C (gl_at hl 5 rfl) dL_law_1811 ?_
            refine gr_iconst (pc := 1813) (v := (0 : Int32)) C rfl dL_law_1813 ?_
            refine gr_dald (pc := 1814) C dL_law_1814 h fun v232 h => ?_
            refine gr_aload (pc := 1815) (i := 4) C (gl_at hl 5 rfl) dL_law_1815 ?_
            refine gr_iconst (pc := 1817) (v := (0 : Int32)) C rfl dL_law_1817 ?_
            refine gr_dald (pc := 1818) C dL_law_1818 h fun v233 h => ?_
            refine gr_dcmp (pc := 1819) C dL_law_1819 ?_
            refine gr_if_eq (pc := 1820) (tgt := 1831) C rfl dL_law_1820 (fun c9 => ?_) (fun c9 => ?_)
            · replace h := gh_ift h c9
              refine gr_iconst (pc := 1831) (v := (0 : Int32)) C rfl dL_law_1831 ?_
              obtain ⟨o, h, hk⟩ := gh_K1_up h hk
              exact gr_bret (pc := 1832) C dL_law_1832 h hk
            · replace h := gh_iff h c9
              refine gr_dload (pc := 1823) (i := 7) C hd7 dL_law_1823 ?_
              refine gr_dload (pc := 1825) (i := 7) C hd7 dL_law_1825 ?_
              refine gr_dcmp (pc := 1827) C dL_law_1827 ?_
              refine gr_if_ne (pc := 1828) (tgt := 1833) C rfl dL_law_1828 (fun c9 => ?_) (fun c9 => ?_)
              · replace h := gh_iff h c9
                exact w_L_law_1833 C (some a1) u28_1 (some a227) u28_3 (some a230) p5 (gl_sub hl [1, 2, 3, 4, 5, 6] rfl) h hk
              · replace h := gh_ift h c9
                refine gr_iconst (pc := 1831) (v := (0 : Int32)) C rfl dL_law_1831 ?_
                obtain ⟨o, h, hk⟩ := gh_K1_up h hk
                exact gr_bret (pc := 1832) C dL_law_1832 h hk
      · replace h := gh_iff h c9
        refine gr_iconst (pc := 1794) (v := (0 : Int32)) C rfl dL_law_1794 ?_
        obtain ⟨o, h, hk⟩ := gh_K1_up h hk
        exact gr_bret (pc := 1795) C dL_law_1795 h hk
    replace h := gh_iff h k28
    by_cases k29 : (v3 &&& (63 : Int32)) = (29 : Int32)
    · replace h := gh_ift h k29
      refine gr_table (pc := 44) (v := (29 : Int32)) (off := 1792) (tgt := 1836) C k29 (by decide) (by decide) (by decide) rfl dL_law_44 ?_
      refine gr_aload_n (pc := 1836) (i := 1) C rfl (gl_at hl 1 rfl) dL_law_1836 ?_
      refine gr_aload (pc := 1837) (i := 4) C (gl_at hl 4 rfl) dL_law_1837 ?_
      refine gh_callI (pc := 1839) (rest := []) C (k_X0_brokenShare C.tr u28_1 u28_4) (Nat.le_of_ble_eq_true rfl) (Nat.le_of_ble_eq_true rfl) (gh_r4 (Nat.le_of_ble_eq_true rfl)) (fun H9 L9 hp9 => gi_SX C q1994 q1995 q74 q1996 mh_X0 np96 rfl hl.1.1 dL_law_1839 rfl) h ((gh_K1_b gh_K0_b) _ hk) (fun v234 g h => ?_) (fun e g h => ?_)
      rotate_left
      ·
        obtain ⟨o, h, hk⟩ := gh_K1_thr h hk
        exact gh_out C (fun _ h => nomatch h) h hk
      refine gr_istore (pc := 1842) (i := 6) (l' := [(6, .int v234), (0, va_rf (some a1)), (1, va_rf u28_1), (2, va_rf u28_2), (3, va_rf u28_3), (4, va_rf u28_4), (5, .int p5)]) C hl (Nat.le_of_ble_eq_true rfl) rfl dL_law_1842 fun ls hl => ?_
      refine gr_aload_n (pc := 1844) (i := 2) C rfl (gl_at hl 3 rfl) dL_law_1844 ?_
      rcases u28_2 with _ | a235
      · exact gh_stk_inv h
      replace h := gh_nn_ss h
      obtain ⟨⟨fs9, hg9⟩, h⟩ := gh_is_inv h
      refine gh_callF (pc := 1845) (rest := []) C (k_X4_brokenShare C.tr a235) (Nat.le_of_ble_eq_true rfl) (Nat.le_of_ble_eq_true rfl) (gh_r4 (Nat.le_of_ble_eq_true rfl)) (fun H9 L9 hp9 => gi_V C hp9 hg9 gh_cX4 q2645 q2646 q2647 q2648 mh_X4 np89 rfl hl.1.1 dL_law_1845 rfl) h ((gh_K1_b gh_K0_b) _ hk) (fun v236 g h => ?_) (fun e g h => ?_)
      rotate_left
      ·
        obtain ⟨o, h, hk⟩ := gh_K1_thr h hk
        exact gh_out C (fun _ h => nomatch h) h hk
      refine gr_fstore (pc := 1848) (i := 7) (l' := [(7, .float v236), (6, .int v234), (0, va_rf (some a1)), (1, va_rf u28_1), (2, va_rf (some a235)), (3, va_rf u28_3), (4, va_rf u28_4), (5, .int p5)]) C hl (Nat.le_of_ble_eq_true rfl) rfl dL_law_1848 fun ls hl => ?_
      refine gr_aload_n (pc := 1850) (i := 2) C rfl (gl_at hl 4 rfl) dL_law_1850 ?_
      obtain ⟨⟨fs9, hg9⟩, h⟩ := gh_is_inv h
      refine gh_callI (pc := 1851) (rest := []) C (k_X4_thrown C.tr a235) (Nat.le_of_ble_eq_true rfl) (Nat.le_of_ble_eq_true rfl) (gh_r4 (Nat.le_of_ble_eq_true rfl)) (fun H9 L9 hp9 => gi_V C hp9 hg9 gh_cX4 q2377 q2378 q2379 q2380 mh_X4 np0 rfl hl.1.1 dL_law_1851 rfl) h ((gh_K1_b gh_K0_b) _ hk) (fun v237 g h => ?_) (fun e g h => ?_)
      rotate_left
      ·
        obtain ⟨o, h, hk⟩ := gh_K1_thr h hk
        exact gh_out C (fun _ h => nomatch h) h hk
      refine gr_iload (pc := 1854) (i := 6) C (gl_at hl 1 rfl) dL_law_1854 ?_
      refine gr_icmp_eq (pc := 1856) (tgt := 1861) C rfl dL_law_1856 (fun c9 => ?_) (fun c9 => ?_)
      · replace h := gh_ift h c9
        refine gr_iload (pc := 1861) (i := 6) C (gl_at hl 1 rfl) dL_law_1861 ?_
        refine gr_if_ne (pc := 1863) (tgt := 1899) C rfl dL_law_1863 (fun c9 => ?_) (fun c9 => ?_)
        · replace h := gh_iff h c9
          exact w_L_law_1899 C (some a1) u28_1 (some a235) u28_3 u28_4 p5 (gl_sub hl [2, 3, 4, 5, 6, 7] rfl) h hk
        · replace h := gh_ift h c9
          refine gr_aload (pc := 1866) (i := 4) C (gl_at hl 6 rfl) dL_law_1866 ?_
          refine gr_iconst (pc := 1868) (v := (0 : Int32)) C rfl dL_law_1868 ?_
          rcases u28_4 with _ | a238
          · exact gh_stk_inv h
          replace h := gh_nn_ss h
          refine gr_dald (pc := 1869) C dL_law_1869 h fun v239 h => ?_
          refine gr_fload (pc := 1870) (i := 7) C (gl_at hl 0 rfl) dL_law_1870 ?_
          obtain ⟨hz9, h⟩ := gh_ok_inv h
          refine gr_f2d (pc := 1872) C (gh_n64_of hz9) dL_law_1872 ?_
          refine gr_dcmp (pc := 1873) C dL_law_1873 ?_
          refine gr_if_eq (pc := 1874) (tgt := 1899) C rfl dL_law_1874 (fun c9 => ?_) (fun c9 => ?_)
          · replace h := gh_ift h c9
            exact w_L_law_1899 C (some a1) u28_1 (some a235) u28_3 (some a238) p5 (gl_sub hl [2, 3, 4, 5, 6, 7] rfl) h hk
          · replace h := gh_iff h c9
            refine gr_aload (pc := 1877) (i := 4) C (gl_at hl 6 rfl) dL_law_1877 ?_
            refine gr_iconst (pc := 1879) (v := (0 : Int32)) C rfl dL_law_1879 ?_
            refine gr_dald (pc := 1880) C dL_law_1880 h fun v240 h => ?_
            refine gr_aload (pc := 1881) (i := 4) C (gl_at hl 6 rfl) dL_law_1881 ?_
            refine gr_iconst (pc := 1883) (v := (0 : Int32)) C rfl dL_law_1883 ?_
            refine gr_dald (pc := 1884) C dL_law_1884 h fun v241 h => ?_
            refine gr_dcmp (pc := 1885) C dL_law_1885 ?_
            refine gr_if_eq (pc := 1886) (tgt := 1897) C rfl dL_law_1886 (fun c9 => ?_) (fun c9 => ?_)
            · replace h := gh_ift h c9
              refine gr_iconst (pc := 1897) (v := (0 : Int32)) C rfl dL_law_1897 ?_
              obtain ⟨o, h, hk⟩ := gh_K1_up h hk
              exact gr_bret (pc := 1898) C dL_law_1898 h hk
            · replace h := gh_iff h c9
              refine gr_fload (pc := 1889) (i := 7) C (gl_at hl 0 rfl) dL_law_1889 ?_
              refine gr_fload (pc := 1891) (i := 7) C (gl_at hl 0 rfl) dL_law_1891 ?_
              refine gr_fcmp (pc := 1893) C dL_law_1893 ?_
              refine gr_if_ne (pc := 1894) (tgt := 1899) C rfl dL_law_1894 (fun c9 => ?_) (fun c9 => ?_)
              · replace h := gh_iff h c9
                exact w_L_law_1899 C (some a1) u28_1 (some a235) u28_3 (some a238) p5 (gl_sub hl [2, 3, 4, 5, 6, 7] rfl) h hk
              · replace h := gh_ift h c9
                refine gr_iconst (pc := 1897) (v := (0 : Int32)) C rfl dL_law_1897 ?_
                obtain ⟨o, h, hk⟩ := gh_K1_up h hk
                exact gr_bret (pc := 1898) C dL_law_1898 h hk
      · replace h := gh_iff h c9
        refine gr_iconst (pc := 1859) (v := (0 : Int32)) C rfl dL_law_1859 ?_
        obtain ⟨o, h, hk⟩ := gh_K1_up h hk
        exact gr_bret (pc := 1860) C dL_law_1860 h hk
    replace h := gh_iff h k29
    by_cases k30 : (v3 &&& (63 : Int32)) = (30 : Int32)
    · replace h := gh_ift h k30
      refine gr_table (pc := 44) (v := (30 : Int32)) (off := 1858) (tgt := 1902) C k30 (by decide) (by decide) (by decide) rfl dL_law_44 ?_
      refine gr_aload_n (pc := 1902) (i := 1) C rfl (gl_at hl 1 rfl) dL_law_1902 ?_
      refine gr_aload_n (pc := 1903) (i := 0) C rfl (gl_at hl 0 rfl) dL_law_1903 ?_
      refine gr_iload (pc := 1904) (i := 5) C (gl_at hl 5 rfl) dL_law_1904 ?_
      refine gr_iconst (pc := 1906) (v := (1 : Int32)) C rfl dL_law_1906 ?_
      refine gr_iadd (pc := 1907) C dL_law_1907 ?_
      refine gr_iald (pc := 1908) C dL_law_1908 h fun v242 h => ?_
      refine gr_aload_n (pc := 1909) (i := 0) C rfl (gl_at hl 0 rfl) dL_law_1909 ?_
      refine gr_iload (pc := 1910) (i := 5) C (gl_at hl 5 rfl) dL_law_1910 ?_
      refine gr_iconst (pc := 1912) (v := (2 : Int32)) C rfl dL_law_1912 ?_
      refine gr_iadd (pc := 1913) C dL_law_1913 ?_
      refine gr_iald (pc := 1914) C dL_law_1914 h fun v243 h => ?_
      refine gr_if_eq (pc := 1915) (tgt := 1922) C rfl dL_law_1915 (fun c9 => ?_) (fun c9 => ?_)
      · replace h := gh_ift h c9
        refine gr_iconst (pc := 1922) (v := (0 : Int32)) C rfl dL_law_1922 ?_
        exact w_L_law_1923 C (some a1) u28_1 u28_2 u28_3 u28_4 p5 u28_1 v242 (0 : Int32) (gl_sub hl [0, 1, 2, 3, 4, 5] rfl) h hk
      · replace h := gh_iff h c9
        refine gr_iconst (pc := 1918) (v := (1 : Int32)) C rfl dL_law_1918 ?_
        refine gr_goto (pc := 1919) (tgt := 1923) C rfl dL_law_1919 ?_
        exact w_L_law_1923 C (some a1) u28_1 u28_2 u28_3 u28_4 p5 u28_1 v242 (1 : Int32) (gl_sub hl [0, 1, 2, 3, 4, 5] rfl) h hk
    replace h := gh_iff h k30
    by_cases k31 : (v3 &&& (63 : Int32)) = (31 : Int32)
    · replace h := gh_ift h k31
      refine gr_table (pc := 44) (v := (31 : Int32)) (off := 1942) (tgt := 1986) C k31 (by decide) (by decide) (by decide) rfl dL_law_44 ?_
      refine gr_aload_n (pc := 1986) (i := 1) C rfl (gl_at hl 1 rfl) dL_law_1986 ?_
      refine gr_aload_n (pc := 1987) (i := 0) C rfl (gl_at hl 0 rfl) dL_law_1987 ?_
      refine gr_iload (pc := 1988) (i := 5) C (gl_at hl 5 rfl) dL_law_1988 ?_
      refine gr_iconst (pc := 1990) (v := (1 : Int32)) C rfl dL_law_1990 ?_
      refine gr_iadd (pc := 1991) C dL_law_1991 ?_
      refine gr_iald (pc := 1992) C dL_law_1992 h fun v244 h => ?_
      refine gr_aload_n (pc := 1993) (i := 3) C rfl (gl_at hl 3 rfl) dL_law_1993 ?_
      refine gh_callI (pc := 1994) (rest := []) C (k_X0_account C.tr u28_1 v244 u28_3) (Nat.le_of_ble_eq_true rfl) (Nat.le_of_ble_eq_true rfl) (gh_r4 (Nat.le_of_ble_eq_true rfl)) (fun H9 L9 hp9 => gi_SX C q2027 q2028 q74 q2029 mh_X0 np94 rfl hl.1.1 dL_law_1994 rfl) h ((gh_K1_b gh_K0_b) _ hk) (fun v245 g h => ?_) (fun e g h => ?_)
      rotate_left
      ·
        obtain ⟨o, h, hk⟩ := gh_K1_thr h hk
        exact gh_out C (fun _ h => nomatch h) h hk
      refine gr_istore (pc := 1997) (i := 6) (l' := [(6, .int v245), (0, va_rf (some a1)), (1, va_rf u28_1), (2, va_rf u28_2), (3, va_rf u28_3), (4, va_rf u28_4), (5, .int p5)]) C hl (Nat.le_of_ble_eq_true rfl) rfl dL_law_1997 fun ls hl => ?_
      refine gr_aload_n (pc := 1999) (i := 2) C rfl (gl_at hl 3 rfl) dL_law_1999 ?_
      refine gr_aload_n (pc := 2000) (i := 0) C rfl (gl_at hl 1 rfl) dL_law_2000 ?_
      refine gr_iload (pc := 2001) (i := 5) C (gl_at hl 6 rfl) dL_law_2001 ?_
      refine gr_iconst (pc := 2003) (v := (1 : Int32)) C rfl dL_law_2003 ?_
      refine gr_iadd (pc := 2004) C dL_law_2004 ?_
      refine gr_iald (pc := 2005) C dL_law_2005 h fun v246 h => ?_
      rcases u28_2 with _ | a247
      · exact gh_stk_inv h
      replace h := gh_nn_ss h
      obtain ⟨⟨fs9, hg9⟩, h⟩ := gh_is_inv h
      refine gh_callI (pc := 2006) (rest := []) C (k_X4_account C.tr a247 v246) (Nat.le_of_ble_eq_true rfl) (Nat.le_of_ble_eq_true rfl) (gh_r4 (Nat.le_of_ble_eq_true rfl)) (fun H9 L9 hp9 => gi_V C hp9 hg9 gh_cX4 q2653 q2654 q2655 q2656 mh_X4 np6 rfl hl.1.1 dL_law_2006 rfl) h ((gh_K1_b gh_K0_b) _ hk) (fun v248 g h => ?_) (fun e g h => ?_)
      rotate_left
      ·
        obtain ⟨o, h, hk⟩ := gh_K1_thr h hk
        exact gh_out C (fun _ h => nomatch h) h hk
      refine gr_istore (pc := 2009) (i := 7) (l' := [(7, .int v248), (6, .int v245), (0, va_rf (some a1)), (1, va_rf u28_1), (2, va_rf (some a247)), (3, va_rf u28_3), (4, va_rf u28_4), (5, .int p5)]) C hl (Nat.le_of_ble_eq_true rfl) rfl dL_law_2009 fun ls hl => ?_
      refine gr_aload_n (pc := 2011) (i := 2) C rfl (gl_at hl 4 rfl) dL_law_2011 ?_
      obtain ⟨⟨fs9, hg9⟩, h⟩ := gh_is_inv h
      refine gh_callI (pc := 2012) (rest := []) C (k_X4_thrown C.tr a247) (Nat.le_of_ble_eq_true rfl) (Nat.le_of_ble_eq_true rfl) (gh_r4 (Nat.le_of_ble_eq_true rfl)) (fun H9 L9 hp9 => gi_V C hp9 hg9 gh_cX4 q2377 q2378 q2379 q2380 mh_X4 np0 rfl hl.1.1 dL_law_2012 rfl) h ((gh_K1_b gh_K0_b) _ hk) (fun v249 g h => ?_) (fun e g h => ?_)
      rotate_left
      ·
        obtain ⟨o, h, hk⟩ := gh_K1_thr h hk
        exact gh_out C (fun _ h => nomatch h) h hk
      refine gr_iload (pc := 2015) (i := 6) C (gl_at hl 1 rfl) dL_law_2015 ?_
      refine gr_icmp_eq (pc := 2017) (tgt := 2022) C rfl dL_law_2017 (fun c9 => ?_) (fun c9 => ?_)
      · replace h := gh_ift h c9
        refine gr_iload (pc := 2022) (i := 6) C (gl_at hl 1 rfl) dL_law_2022 ?_
        refine gr_if_ne (pc := 2024) (tgt := 2039) C rfl dL_law_2024 (fun c9 => ?_) (fun c9 => ?_)
        · replace h := gh_iff h c9
          exact w_L_law_2039 C (some a1) u28_1 (some a247) u28_3 u28_4 p5 (gl_sub hl [2, 3, 4, 5, 6, 7] rfl) h hk
        · replace h := gh_ift h c9
          refine gr_aload_n (pc := 2027) (i := 3) C rfl (gl_at hl 5 rfl) dL_law_2027 ?_
          refine gr_iconst (pc := 2028) (v := (0 : Int32)) C rfl dL_law_2028 ?_
          rcases u28_3 with _ | a250
          · exact gh_stk_inv h
          replace h := gh_nn_ss h
          refine gr_lald (pc := 2029) C dL_law_2029 h fun v251 h => ?_
          refine gr_iload (pc := 2030) (i := 7) C (gl_at hl 0 rfl) dL_law_2030 ?_
          refine gr_i2l (pc := 2032) (v := v248.toInt64) C rfl dL_law_2032 ?_
          refine gr_lcmp (pc := 2033) C dL_law_2033 ?_
          refine gr_if_eq (pc := 2034) (tgt := 2039) C rfl dL_law_2034 (fun c9 => ?_) (fun c9 => ?_)
          · replace h := gh_ift h c9
            exact w_L_law_2039 C (some a1) u28_1 (some a247) (some a250) u28_4 p5 (gl_sub hl [2, 3, 4, 5, 6, 7] rfl) h hk
          · replace h := gh_iff h c9
            refine gr_iconst (pc := 2037) (v := (0 : Int32)) C rfl dL_law_2037 ?_
            obtain ⟨o, h, hk⟩ := gh_K1_up h hk
            exact gr_bret (pc := 2038) C dL_law_2038 h hk
      · replace h := gh_iff h c9
        refine gr_iconst (pc := 2020) (v := (0 : Int32)) C rfl dL_law_2020 ?_
        obtain ⟨o, h, hk⟩ := gh_K1_up h hk
        exact gr_bret (pc := 2021) C dL_law_2021 h hk
    replace h := gh_iff h k31
    by_cases k32 : (v3 &&& (63 : Int32)) = (32 : Int32)
    · replace h := gh_ift h k32
      refine gr_table (pc := 44) (v := (32 : Int32)) (off := 1998) (tgt := 2042) C k32 (by decide) (by decide) (by decide) rfl dL_law_44 ?_
      refine gr_aload_n (pc := 2042) (i := 1) C rfl (gl_at hl 1 rfl) dL_law_2042 ?_
      refine gr_aload_n (pc := 2043) (i := 0) C rfl (gl_at hl 0 rfl) dL_law_2043 ?_
      refine gr_iload (pc := 2044) (i := 5) C (gl_at hl 5 rfl) dL_law_2044 ?_
      refine gr_iconst (pc := 2046) (v := (1 : Int32)) C rfl dL_law_2046 ?_
      refine gr_iadd (pc := 2047) C dL_law_2047 ?_
      refine gr_iald (pc := 2048) C dL_law_2048 h fun v252 h => ?_
      refine gr_i2c (pc := 2049) (v := (v252.toUInt32 % 65536).toInt32) C rfl dL_law_2049 ?_
      refine gr_aload_n (pc := 2050) (i := 3) C rfl (gl_at hl 3 rfl) dL_law_2050 ?_
      refine gh_callI (pc := 2051) (rest := []) C (k_X0_feed C.tr u28_1 ((v252.toUInt32 % 65536).toInt32) u28_3) (Nat.le_of_ble_eq_true rfl) (Nat.le_of_ble_eq_true rfl) (gh_r4 (Nat.le_of_ble_eq_true rfl)) (fun H9 L9 hp9 => gi_SX C q2042 q2043 q74 q2044 mh_X0 np97 rfl hl.1.1 dL_law_2051 rfl) h ((gh_K1_b gh_K0_b) _ hk) (fun v253 g h => ?_) (fun e g h => ?_)
      rotate_left
      ·
        obtain ⟨o, h, hk⟩ := gh_K1_thr h hk
        exact gh_out C (fun _ h => nomatch h) h hk
      refine gr_istore (pc := 2054) (i := 6) (l' := [(6, .int v253), (0, va_rf (some a1)), (1, va_rf u28_1), (2, va_rf u28_2), (3, va_rf u28_3), (4, va_rf u28_4), (5, .int p5)]) C hl (Nat.le_of_ble_eq_true rfl) rfl dL_law_2054 fun ls hl => ?_
      refine gr_aload_n (pc := 2056) (i := 2) C rfl (gl_at hl 3 rfl) dL_law_2056 ?_
      refine gr_aload_n (pc := 2057) (i := 0) C rfl (gl_at hl 1 rfl) dL_law_2057 ?_
      refine gr_iload (pc := 2058) (i := 5) C (gl_at hl 6 rfl) dL_law_2058 ?_
      refine gr_iconst (pc := 2060) (v := (1 : Int32)) C rfl dL_law_2060 ?_
      refine gr_iadd (pc := 2061) C dL_law_2061 ?_
      refine gr_iald (pc := 2062) C dL_law_2062 h fun v254 h => ?_
      refine gr_i2c (pc := 2063) (v := (v254.toUInt32 % 65536).toInt32) C rfl dL_law_2063 ?_
      rcases u28_2 with _ | a255
      · exact gh_stk_inv h
      replace h := gh_nn_ss h
      obtain ⟨⟨fs9, hg9⟩, h⟩ := gh_is_inv h
      refine gh_callI (pc := 2064) (rest := []) C (k_X4_feed C.tr a255 ((v254.toUInt32 % 65536).toInt32)) (Nat.le_of_ble_eq_true rfl) (Nat.le_of_ble_eq_true rfl) (gh_r4 (Nat.le_of_ble_eq_true rfl)) (fun H9 L9 hp9 => gi_V C hp9 hg9 gh_cX4 q2665 q2666 q2667 q2668 mh_X4 np90 rfl hl.1.1 dL_law_2064 rfl) h ((gh_K1_b gh_K0_b) _ hk) (fun v256 g h => ?_) (fun e g h => ?_)
      rotate_left
      ·
        obtain ⟨o, h, hk⟩ := gh_K1_thr h hk
        exact gh_out C (fun _ h => nomatch h) h hk
      refine gr_istore (pc := 2067) (i := 7) (l' := [(7, .int v256), (6, .int v253), (0, va_rf (some a1)), (1, va_rf u28_1), (2, va_rf (some a255)), (3, va_rf u28_3), (4, va_rf u28_4), (5, .int p5)]) C hl (Nat.le_of_ble_eq_true rfl) rfl dL_law_2067 fun ls hl => ?_
      refine gr_aload_n (pc := 2069) (i := 2) C rfl (gl_at hl 4 rfl) dL_law_2069 ?_
      obtain ⟨⟨fs9, hg9⟩, h⟩ := gh_is_inv h
      refine gh_callI (pc := 2070) (rest := []) C (k_X4_thrown C.tr a255) (Nat.le_of_ble_eq_true rfl) (Nat.le_of_ble_eq_true rfl) (gh_r4 (Nat.le_of_ble_eq_true rfl)) (fun H9 L9 hp9 => gi_V C hp9 hg9 gh_cX4 q2377 q2378 q2379 q2380 mh_X4 np0 rfl hl.1.1 dL_law_2070 rfl) h ((gh_K1_b gh_K0_b) _ hk) (fun v257 g h => ?_) (fun e g h => ?_)
      rotate_left
      ·
        obtain ⟨o, h, hk⟩ := gh_K1_thr h hk
        exact gh_out C (fun _ h => nomatch h) h hk
      refine gr_iload (pc := 2073) (i := 6) C (gl_at hl 1 rfl) dL_law_2073 ?_
      refine gr_icmp_eq (pc := 2075) (tgt := 2080) C rfl dL_law_2075 (fun c9 => ?_) (fun c9 => ?_)
      · replace h := gh_ift h c9
        refine gr_iload (pc := 2080) (i := 6) C (gl_at hl 1 rfl) dL_law_2080 ?_
        refine gr_if_ne (pc := 2082) (tgt := 2097) C rfl dL_law_2082 (fun c9 => ?_) (fun c9 => ?_)
        · replace h := gh_iff h c9
          exact w_L_law_2097 C (some a1) u28_1 (some a255) u28_3 u28_4 p5 (gl_sub hl [2, 3, 4, 5, 6, 7] rfl) h hk
        · replace h := gh_ift h c9
          refine gr_aload_n (pc := 2085) (i := 3) C rfl (gl_at hl 5 rfl) dL_law_2085 ?_
          refine gr_iconst (pc := 2086) (v := (0 : Int32)) C rfl dL_law_2086 ?_
          rcases u28_3 with _ | a258
          · exact gh_stk_inv h
          replace h := gh_nn_ss h
          refine gr_lald (pc := 2087) C dL_law_2087 h fun v259 h => ?_
          refine gr_iload (pc := 2088) (i := 7) C (gl_at hl 0 rfl) dL_law_2088 ?_
          refine gr_i2l (pc := 2090) (v := v256.toInt64) C rfl dL_law_2090 ?_
          refine gr_lcmp (pc := 2091) C dL_law_2091 ?_
          refine gr_if_eq (pc := 2092) (tgt := 2097) C rfl dL_law_2092 (fun c9 => ?_) (fun c9 => ?_)
          · replace h := gh_ift h c9
            exact w_L_law_2097 C (some a1) u28_1 (some a255) (some a258) u28_4 p5 (gl_sub hl [2, 3, 4, 5, 6, 7] rfl) h hk
          · replace h := gh_iff h c9
            refine gr_iconst (pc := 2095) (v := (0 : Int32)) C rfl dL_law_2095 ?_
            obtain ⟨o, h, hk⟩ := gh_K1_up h hk
            exact gr_bret (pc := 2096) C dL_law_2096 h hk
      · replace h := gh_iff h c9
        refine gr_iconst (pc := 2078) (v := (0 : Int32)) C rfl dL_law_2078 ?_
        obtain ⟨o, h, hk⟩ := gh_K1_up h hk
        exact gr_bret (pc := 2079) C dL_law_2079 h hk
    replace h := gh_iff h k32
    by_cases k33 : (v3 &&& (63 : Int32)) = (33 : Int32)
    · replace h := gh_ift h k33
      refine gr_table (pc := 44) (v := (33 : Int32)) (off := 2056) (tgt := 2100) C k33 (by decide) (by decide) (by decide) rfl dL_law_44 ?_
      refine gr_aload_n (pc := 2100) (i := 1) C rfl (gl_at hl 1 rfl) dL_law_2100 ?_
      refine gr_aload_n (pc := 2101) (i := 3) C rfl (gl_at hl 3 rfl) dL_law_2101 ?_
      refine gh_callI (pc := 2102) (rest := []) C (k_X0_perform C.tr u28_1 u28_3) (Nat.le_of_ble_eq_true rfl) (Nat.le_of_ble_eq_true rfl) (gh_r4 (Nat.le_of_ble_eq_true rfl)) (fun H9 L9 hp9 => gi_SX C q2058 q2059 q74 q2060 mh_X0 np93 rfl hl.1.1 dL_law_2102 rfl) h ((gh_K1_b gh_K0_b) _ hk) (fun v260 g h => ?_) (fun e g h => ?_)
      rotate_left
      ·
        obtain ⟨o, h, hk⟩ := gh_K1_thr h hk
        exact gh_out C (fun _ h => nomatch h) h hk
      refine gr_istore (pc := 2105) (i := 6) (l' := [(6, .int v260), (0, va_rf (some a1)), (1, va_rf u28_1), (2, va_rf u28_2), (3, va_rf u28_3), (4, va_rf u28_4), (5, .int p5)]) C hl (Nat.le_of_ble_eq_true rfl) rfl dL_law_2105 fun ls hl => ?_
      refine gr_aload_n (pc := 2107) (i := 2) C rfl (gl_at hl 3 rfl) dL_law_2107 ?_
      rcases u28_2 with _ | a261
      · exact gh_stk_inv h
      replace h := gh_nn_ss h
      obtain ⟨⟨fs9, hg9⟩, h⟩ := gh_is_inv h
      refine gh_callI (pc := 2108) (rest := []) C (k_X4_perform C.tr a261) (Nat.le_of_ble_eq_true rfl) (Nat.le_of_ble_eq_true rfl) (gh_r4 (Nat.le_of_ble_eq_true rfl)) (fun H9 L9 hp9 => gi_V C hp9 hg9 gh_cX4 q2669 q2670 q2671 q2672 mh_X4 np0 rfl hl.1.1 dL_law_2108 rfl) h ((gh_K1_b gh_K0_b) _ hk) (fun v262 g h => ?_) (fun e g h => ?_)
      rotate_left
      ·
        obtain ⟨o, h, hk⟩ := gh_K1_thr h hk
        exact gh_out C (fun _ h => nomatch h) h hk
      refine gr_istore (pc := 2111) (i := 7) (l' := [(7, .int v262), (6, .int v260), (0, va_rf (some a1)), (1, va_rf u28_1), (2, va_rf (some a261)), (3, va_rf u28_3), (4, va_rf u28_4), (5, .int p5)]) C hl (Nat.le_of_ble_eq_true rfl) rfl dL_law_2111 fun ls hl => ?_
      refine gr_aload_n (pc := 2113) (i := 2) C rfl (gl_at hl 4 rfl) dL_law_2113 ?_
      obtain ⟨⟨fs9, hg9⟩, h⟩ := gh_is_inv h
      refine gh_callI (pc := 2114) (rest := []) C (k_X4_thrown C.tr a261) (Nat.le_of_ble_eq_true rfl) (Nat.le_of_ble_eq_true rfl) (gh_r4 (Nat.le_of_ble_eq_true rfl)) (fun H9 L9 hp9 => gi_V C hp9 hg9 gh_cX4 q2377 q2378 q2379 q2380 mh_X4 np0 rfl hl.1.1 dL_law_2114 rfl) h ((gh_K1_b gh_K0_b) _ hk) (fun v263 g h => ?_) (fun e g h => ?_)
      rotate_left
      ·
        obtain ⟨o, h, hk⟩ := gh_K1_thr h hk
        exact gh_out C (fun _ h => nomatch h) h hk
      refine gr_iload (pc := 2117) (i := 6) C (gl_at hl 1 rfl) dL_law_2117 ?_
      refine gr_icmp_eq (pc := 2119) (tgt := 2124) C rfl dL_law_2119 (fun c9 => ?_) (fun c9 => ?_)
      · replace h := gh_ift h c9
        refine gr_iload (pc := 2124) (i := 6) C (gl_at hl 1 rfl) dL_law_2124 ?_
        refine gr_if_ne (pc := 2126) (tgt := 2141) C rfl dL_law_2126 (fun c9 => ?_) (fun c9 => ?_)
        · replace h := gh_iff h c9
          exact w_L_law_2141 C (some a1) u28_1 (some a261) u28_3 u28_4 p5 (gl_sub hl [2, 3, 4, 5, 6, 7] rfl) h hk
        · replace h := gh_ift h c9
          refine gr_aload_n (pc := 2129) (i := 3) C rfl (gl_at hl 5 rfl) dL_law_2129 ?_
          refine gr_iconst (pc := 2130) (v := (0 : Int32)) C rfl dL_law_2130 ?_
          rcases u28_3 with _ | a264
          · exact gh_stk_inv h
          replace h := gh_nn_ss h
          refine gr_lald (pc := 2131) C dL_law_2131 h fun v265 h => ?_
          refine gr_iload (pc := 2132) (i := 7) C (gl_at hl 0 rfl) dL_law_2132 ?_
          refine gr_i2l (pc := 2134) (v := v262.toInt64) C rfl dL_law_2134 ?_
          refine gr_lcmp (pc := 2135) C dL_law_2135 ?_
          refine gr_if_eq (pc := 2136) (tgt := 2141) C rfl dL_law_2136 (fun c9 => ?_) (fun c9 => ?_)
          · replace h := gh_ift h c9
            exact w_L_law_2141 C (some a1) u28_1 (some a261) (some a264) u28_4 p5 (gl_sub hl [2, 3, 4, 5, 6, 7] rfl) h hk
          · replace h := gh_iff h c9
            refine gr_iconst (pc := 2139) (v := (0 : Int32)) C rfl dL_law_2139 ?_
            obtain ⟨o, h, hk⟩ := gh_K1_up h hk
            exact gr_bret (pc := 2140) C dL_law_2140 h hk
      · replace h := gh_iff h c9
        refine gr_iconst (pc := 2122) (v := (0 : Int32)) C rfl dL_law_2122 ?_
        obtain ⟨o, h, hk⟩ := gh_K1_up h hk
        exact gr_bret (pc := 2123) C dL_law_2123 h hk
    replace h := gh_iff h k33
    by_cases k34 : (v3 &&& (63 : Int32)) = (34 : Int32)
    · replace h := gh_ift h k34
      refine gr_table (pc := 44) (v := (34 : Int32)) (off := 2100) (tgt := 2144) C k34 (by decide) (by decide) (by decide) rfl dL_law_44 ?_
      refine gr_aload_n (pc := 2144) (i := 1) C rfl (gl_at hl 1 rfl) dL_law_2144 ?_
      refine gr_aload_n (pc := 2145) (i := 3) C rfl (gl_at hl 3 rfl) dL_law_2145 ?_
      refine gh_callI (pc := 2146) (rest := []) C (k_X0_undo C.tr u28_1 u28_3) (Nat.le_of_ble_eq_true rfl) (Nat.le_of_ble_eq_true rfl) (gh_r4 (Nat.le_of_ble_eq_true rfl)) (fun H9 L9 hp9 => gi_SX C q2261 q2262 q74 q2263 mh_X0 np93 rfl hl.1.1 dL_law_2146 rfl) h ((gh_K1_b gh_K0_b) _ hk) (fun v266 g h => ?_) (fun e g h => ?_)
      rotate_left
      ·
        obtain ⟨o, h, hk⟩ := gh_K1_thr h hk
        exact gh_out C (fun _ h => nomatch h) h hk
      refine gr_istore (pc := 2149) (i := 6) (l' := [(6, .int v266), (0, va_rf (some a1)), (1, va_rf u28_1), (2, va_rf u28_2), (3, va_rf u28_3), (4, va_rf u28_4), (5, .int p5)]) C hl (Nat.le_of_ble_eq_true rfl) rfl dL_law_2149 fun ls hl => ?_
      refine gr_aload_n (pc := 2151) (i := 2) C rfl (gl_at hl 3 rfl) dL_law_2151 ?_
      rcases u28_2 with _ | a267
      · exact gh_stk_inv h
      replace h := gh_nn_ss h
      obtain ⟨⟨fs9, hg9⟩, h⟩ := gh_is_inv h
      refine gh_callI (pc := 2152) (rest := []) C (k_X4_undo C.tr a267) (Nat.le_of_ble_eq_true rfl) (Nat.le_of_ble_eq_true rfl) (gh_r4 (Nat.le_of_ble_eq_true rfl)) (fun H9 L9 hp9 => gi_V C hp9 hg9 gh_cX4 q2701 q2702 q2703 q2704 mh_X4 np0 rfl hl.1.1 dL_law_2152 rfl) h ((gh_K1_b gh_K0_b) _ hk) (fun v268 g h => ?_) (fun e g h => ?_)
      rotate_left
      ·
        obtain ⟨o, h, hk⟩ := gh_K1_thr h hk
        exact gh_out C (fun _ h => nomatch h) h hk
      refine gr_istore (pc := 2155) (i := 7) (l' := [(7, .int v268), (6, .int v266), (0, va_rf (some a1)), (1, va_rf u28_1), (2, va_rf (some a267)), (3, va_rf u28_3), (4, va_rf u28_4), (5, .int p5)]) C hl (Nat.le_of_ble_eq_true rfl) rfl dL_law_2155 fun ls hl => ?_
      refine gr_aload_n (pc := 2157) (i := 2) C rfl (gl_at hl 4 rfl) dL_law_2157 ?_
      obtain ⟨⟨fs9, hg9⟩, h⟩ := gh_is_inv h
      refine gh_callI (pc := 2158) (rest := []) C (k_X4_thrown C.tr a267) (Nat.le_of_ble_eq_true rfl) (Nat.le_of_ble_eq_true rfl) (gh_r4 (Nat.le_of_ble_eq_true rfl)) (fun H9 L9 hp9 => gi_V C hp9 hg9 gh_cX4 q2377 q2378 q2379 q2380 mh_X4 np0 rfl hl.1.1 dL_law_2158 rfl) h ((gh_K1_b gh_K0_b) _ hk) (fun v269 g h => ?_) (fun e g h => ?_)
      rotate_left
      ·
        obtain ⟨o, h, hk⟩ := gh_K1_thr h hk
        exact gh_out C (fun _ h => nomatch h) h hk
      refine gr_iload (pc := 2161) (i := 6) C (gl_at hl 1 rfl) dL_law_2161 ?_
      refine gr_icmp_eq (pc := 2163) (tgt := 2168) C rfl dL_law_2163 (fun c9 => ?_) (fun c9 => ?_)
      · replace h := gh_ift h c9
        refine gr_iload (pc := 2168) (i := 6) C (gl_at hl 1 rfl) dL_law_2168 ?_
        refine gr_if_ne (pc := 2170) (tgt := 2185) C rfl dL_law_2170 (fun c9 => ?_) (fun c9 => ?_)
        · replace h := gh_iff h c9
          exact w_L_law_2185 C (some a1) u28_1 (some a267) u28_3 u28_4 p5 (gl_sub hl [2, 3, 4, 5, 6, 7] rfl) h hk
        · replace h := gh_ift h c9
          refine gr_aload_n (pc := 2173) (i := 3) C rfl (gl_at hl 5 rfl) dL_law_2173 ?_
          refine gr_iconst (pc := 2174) (v := (0 : Int32)) C rfl dL_law_2174 ?_
          rcases u28_3 with _ | a270
          · exact gh_stk_inv h
          replace h := gh_nn_ss h
          refine gr_lald (pc := 2175) C dL_law_2175 h fun v271 h => ?_
          refine gr_iload (pc := 2176) (i := 7) C (gl_at hl 0 rfl) dL_law_2176 ?_
          refine gr_i2l (pc := 2178) (v := v268.toInt64) C rfl dL_law_2178 ?_
          refine gr_lcmp (pc := 2179) C dL_law_2179 ?_
          refine gr_if_eq (pc := 2180) (tgt := 2185) C rfl dL_law_2180 (fun c9 => ?_) (fun c9 => ?_)
          · replace h := gh_ift h c9
            exact w_L_law_2185 C (some a1) u28_1 (some a267) (some a270) u28_4 p5 (gl_sub hl [2, 3, 4, 5, 6, 7] rfl) h hk
          · replace h := gh_iff h c9
            refine gr_iconst (pc := 2183) (v := (0 : Int32)) C rfl dL_law_2183 ?_
            obtain ⟨o, h, hk⟩ := gh_K1_up h hk
            exact gr_bret (pc := 2184) C dL_law_2184 h hk
      · replace h := gh_iff h c9
        refine gr_iconst (pc := 2166) (v := (0 : Int32)) C rfl dL_law_2166 ?_
        obtain ⟨o, h, hk⟩ := gh_K1_up h hk
        exact gr_bret (pc := 2167) C dL_law_2167 h hk
    replace h := gh_iff h k34
    by_cases k35 : (v3 &&& (63 : Int32)) = (35 : Int32)
    · replace h := gh_ift h k35
      refine gr_table (pc := 44) (v := (35 : Int32)) (off := 2144) (tgt := 2188) C k35 (by decide) (by decide) (by decide) rfl dL_law_44 ?_
      refine gr_aload_n (pc := 2188) (i := 1) C rfl (gl_at hl 1 rfl) dL_law_2188 ?_
      rcases u28_1 with _ | a272
      · exact gh_stk_inv h
      replace h := gh_nn_ss h
      obtain ⟨⟨fs9, hg9⟩, h⟩ := gh_is_inv h
      refine gh_callI (pc := 2189) (rest := []) C (k_X1_save C.tr a272) (Nat.le_of_ble_eq_true rfl) (Nat.le_of_ble_eq_true rfl) (gh_r4 (Nat.le_of_ble_eq_true rfl)) (fun H9 L9 hp9 => gi_V C hp9 hg9 gh_cX1 q957 q958 q959 q960 mh_X1 np0 rfl hl.1.1 dL_law_2189 rfl) h ((gh_K1_b gh_K0_b) _ hk) (fun v273 g h => ?_) (fun e g h => ?_)
      rotate_left
      ·
        obtain ⟨o, h, hk⟩ := gh_K1_thr h hk
        exact gh_out C (fun _ h => nomatch h) h hk
      refine gr_aload_n (pc := 2192) (i := 2) C rfl (gl_at hl 2 rfl) dL_law_2192 ?_
      rcases u28_2 with _ | a274
      · exact gh_stk_inv h
      replace h := gh_nn_ss h
      obtain ⟨⟨fs9, hg9⟩, h⟩ := gh_is_inv h
      refine gh_callI (pc := 2193) (rest := [.int v273]) C (k_X4_save C.tr a274) (Nat.le_of_ble_eq_true rfl) (Nat.le_of_ble_eq_true rfl) (gh_r4 (Nat.le_of_ble_eq_true rfl)) (fun H9 L9 hp9 => gi_V C hp9 hg9 gh_cX4 q2705 q2706 q2707 q2708 mh_X4 np0 rfl hl.1.1 dL_law_2193 rfl) h ((gh_K1_b gh_K0_b) _ hk) (fun v275 g h => ?_) (fun e g h => ?_)
      rotate_left
      ·
        obtain ⟨o, h, hk⟩ := gh_K1_thr h hk
        exact gh_out C (fun _ h => nomatch h) h hk
      refine gr_icmp_eq (pc := 2196) (tgt := 2245) C rfl dL_law_2196 (fun c9 => ?_) (fun c9 => ?_)
      · replace h := gh_ift h c9
        exact w_L_law_2245 C (some a1) (some a272) (some a274) u28_3 u28_4 p5 (gl_sub hl [0, 1, 2, 3, 4, 5] rfl) h hk
      · replace h := gh_iff h c9
        refine gr_iconst (pc := 2199) (v := (0 : Int32)) C rfl dL_law_2199 ?_
        obtain ⟨o, h, hk⟩ := gh_K1_up h hk
        exact gr_bret (pc := 2200) C dL_law_2200 h hk
    replace h := gh_iff h k35
    by_cases k36 : (v3 &&& (63 : Int32)) = (36 : Int32)
    · replace h := gh_ift h k36
      refine gr_table (pc := 44) (v := (36 : Int32)) (off := 2157) (tgt := 2201) C k36 (by decide) (by decide) (by decide) rfl dL_law_44 ?_
      refine gr_aload_n (pc := 2201) (i := 1) C rfl (gl_at hl 1 rfl) dL_law_2201 ?_
      refine gr_aload_n (pc := 2202) (i := 3) C rfl (gl_at hl 3 rfl) dL_law_2202 ?_
      refine gh_callI (pc := 2203) (rest := []) C (k_X0_restore C.tr u28_1 u28_3) (Nat.le_of_ble_eq_true rfl) (Nat.le_of_ble_eq_true rfl) (gh_r4 (Nat.le_of_ble_eq_true rfl)) (fun H9 L9 hp9 => gi_SX C q2283 q2284 q74 q2285 mh_X0 np93 rfl hl.1.1 dL_law_2203 rfl) h ((gh_K1_b gh_K0_b) _ hk) (fun v276 g h => ?_) (fun e g h => ?_)
      rotate_left
      ·
        obtain ⟨o, h, hk⟩ := gh_K1_thr h hk
        exact gh_out C (fun _ h => nomatch h) h hk
      refine gr_istore (pc := 2206) (i := 6) (l' := [(6, .int v276), (0, va_rf (some a1)), (1, va_rf u28_1), (2, va_rf u28_2), (3, va_rf u28_3), (4, va_rf u28_4), (5, .int p5)]) C hl (Nat.le_of_ble_eq_true rfl) rfl dL_law_2206 fun ls hl => ?_
      refine gr_aload_n (pc := 2208) (i := 2) C rfl (gl_at hl 3 rfl) dL_law_2208 ?_
      rcases u28_2 with _ | a277
      · exact gh_stk_inv h
      replace h := gh_nn_ss h
      obtain ⟨⟨fs9, hg9⟩, h⟩ := gh_is_inv h
      refine gh_callI (pc := 2209) (rest := []) C (k_X4_restore C.tr a277) (Nat.le_of_ble_eq_true rfl) (Nat.le_of_ble_eq_true rfl) (gh_r4 (Nat.le_of_ble_eq_true rfl)) (fun H9 L9 hp9 => gi_V C hp9 hg9 gh_cX4 q2709 q2710 q2711 q2712 mh_X4 np0 rfl hl.1.1 dL_law_2209 rfl) h ((gh_K1_b gh_K0_b) _ hk) (fun v278 g h => ?_) (fun e g h => ?_)
      rotate_left
      ·
        obtain ⟨o, h, hk⟩ := gh_K1_thr h hk
        exact gh_out C (fun _ h => nomatch h) h hk
      refine gr_istore (pc := 2212) (i := 7) (l' := [(7, .int v278), (6, .int v276), (0, va_rf (some a1)), (1, va_rf u28_1), (2, va_rf (some a277)), (3, va_rf u28_3), (4, va_rf u28_4), (5, .int p5)]) C hl (Nat.le_of_ble_eq_true rfl) rfl dL_law_2212 fun ls hl => ?_
      refine gr_aload_n (pc := 2214) (i := 2) C rfl (gl_at hl 4 rfl) dL_law_2214 ?_
      obtain ⟨⟨fs9, hg9⟩, h⟩ := gh_is_inv h
      refine gh_callI (pc := 2215) (rest := []) C (k_X4_thrown C.tr a277) (Nat.le_of_ble_eq_true rfl) (Nat.le_of_ble_eq_true rfl) (gh_r4 (Nat.le_of_ble_eq_true rfl)) (fun H9 L9 hp9 => gi_V C hp9 hg9 gh_cX4 q2377 q2378 q2379 q2380 mh_X4 np0 rfl hl.1.1 dL_law_2215 rfl) h ((gh_K1_b gh_K0_b) _ hk) (fun v279 g h => ?_) (fun e g h => ?_)
      rotate_left
      ·
        obtain ⟨o, h, hk⟩ := gh_K1_thr h hk
        exact gh_out C (fun _ h => nomatch h) h hk
      refine gr_iload (pc := 2218) (i := 6) C (gl_at hl 1 rfl) dL_law_2218 ?_
      refine gr_icmp_eq (pc := 2220) (tgt := 2225) C rfl dL_law_2220 (fun c9 => ?_) (fun c9 => ?_)
      · replace h := gh_ift h c9
        refine gr_iload (pc := 2225) (i := 6) C (gl_at hl 1 rfl) dL_law_2225 ?_
        refine gr_if_ne (pc := 2227) (tgt := 2242) C rfl dL_law_2227 (fun c9 => ?_) (fun c9 => ?_)
        · replace h := gh_iff h c9
          exact w_L_law_2242 C (some a1) u28_1 (some a277) u28_3 u28_4 p5 (gl_sub hl [2, 3, 4, 5, 6, 7] rfl) h hk
        · replace h := gh_ift h c9
          refine gr_aload_n (pc := 2230) (i := 3) C rfl (gl_at hl 5 rfl) dL_law_2230 ?_
          refine gr_iconst (pc := 2231) (v := (0 : Int32)) C rfl dL_law_2231 ?_
          rcases u28_3 with _ | a280
          · exact gh_stk_inv h
          replace h := gh_nn_ss h
          refine gr_lald (pc := 2232) C dL_law_2232 h fun v281 h => ?_
          refine gr_iload (pc := 2233) (i := 7) C (gl_at hl 0 rfl) dL_law_2233 ?_
          refine gr_i2l (pc := 2235) (v := v278.toInt64) C rfl dL_law_2235 ?_
          refine gr_lcmp (pc := 2236) C dL_law_2236 ?_
          refine gr_if_eq (pc := 2237) (tgt := 2242) C rfl dL_law_2237 (fun c9 => ?_) (fun c9 => ?_)
          · replace h := gh_ift h c9
            exact w_L_law_2242 C (some a1) u28_1 (some a277) (some a280) u28_4 p5 (gl_sub hl [2, 3, 4, 5, 6, 7] rfl) h hk
          · replace h := gh_iff h c9
            refine gr_iconst (pc := 2240) (v := (0 : Int32)) C rfl dL_law_2240 ?_
            obtain ⟨o, h, hk⟩ := gh_K1_up h hk
            exact gr_bret (pc := 2241) C dL_law_2241 h hk
      · replace h := gh_iff h c9
        refine gr_iconst (pc := 2223) (v := (0 : Int32)) C rfl dL_law_2223 ?_
        obtain ⟨o, h, hk⟩ := gh_K1_up h hk
        exact gr_bret (pc := 2224) C dL_law_2224 h hk
    replace h := gh_iff h k36
    refine gr_tableD (pc := 44) (tgt := 2245) C (gh_tout36 k0 k1 k2 k3 k4 k5 k6 k7 k8 k9 k10 k11 k12 k13 k14 k15 k16 k17 k18 k19 k20 k21 k22 k23 k24 k25 k26 k27 k28 k29 k30 k31 k32 k33 k34 k35 k36) rfl dL_law_44 ?_
    exact w_L_law_2245 C (some a1) u28_1 u28_2 u28_3 u28_4 p5 (gl_sub hl [0, 1, 2, 3, 4, 5] rfl) h hk

noncomputable def f_L_law_28 (p0 : Option Nat) (p1 : Option Nat) (p2 : Option Nat) (p3 : Option Nat) (p4 : Option Nat) (p5 : Int32) : gh_M Int32 := gh_it (fun st : Int32 => f_L_law_28_l p0 p1 p2 p3 p4 st) (p5)
theorem w_L_law_28 {x : gh_C} {g : gh_G} {o : (Int32 ⊕ gh_X) × gh_G} {ls : Array Slot} (C : gh_K x cL_law "GargoyleTowerLaw" 9 (some .boolean) "law" 57 1233 []) (p0 : Option Nat) (p1 : Option Nat) (p2 : Option Nat) (p3 : Option Nat) (p4 : Option Nat) (p5 : Int32) (hl : gh_lv ls 9 [(0, va_rf p0), (1, va_rf p1), (2, va_rf p2), (3, va_rf p3), (4, va_rf p4), (5, .int p5)]) (h : gh_run (f_L_law_28 p0 p1 p2 p3 p4 p5) g = some o) (hk : (gh_K0 x gh_rI) o) : gh_Wd x g (F0 (gh_cm x) 28 ls []) := by
  unfold f_L_law_28 at h
  exact gh_loop gh_K0_b (fun st : Int32 => f_L_law_28_l p0 p1 p2 p3 p4 st) (gp_L_law_28 x p0 p1 p2 p3 p4) (fun st g o h hk ls hl => w_L_law_28_l C p0 p1 p2 p3 p4 st hl h hk) _ g o h hk ls hl
noncomputable def f_L_law (p0 : Option Nat) : gh_M Int32 :=
  gh_bd (gh_new 0 7 gh_nX1) fun a1 =>
  gh_bd (f_X1_init a1) fun _ =>
  gh_bd (gh_new 3 24 gh_nX4) fun a3 =>
  gh_bd (f_X4_init a3) fun _ =>
  gh_bd (gh_newa 1 (1 : Int32)) fun a5 =>
  gh_bd (gh_newa 2 (1 : Int32)) fun a6 =>
  f_L_law_28 p0 (some a1) (some a3) (some a5) (some a6) (0 : Int32)
theorem w_L_law {x : gh_C} {g : gh_G} {o : (Int32 ⊕ gh_X) × gh_G} {ls : Array Slot} (C : gh_K x cL_law "GargoyleTowerLaw" 9 (some .boolean) "law" 57 1233 []) (p0 : Option Nat) (hl : gh_lv ls 9 [(0, va_rf p0)]) (h : gh_run (f_L_law p0) g = some o) (hk : (gh_K0 x gh_rI) o) : gh_Wd x g (F0 (gh_cm x) 0 ls []) := by
  unfold f_L_law at h
  refine gr_newo (pc := 0) C gh_bX1 q124 q125 q75 gh_dX1 dL_law_0 h (gh_K0_b _ hk) fun a1 g h => ?_
  refine gr_dup (pc := 3) C (gh_cat _) dL_law_3 ?_
  refine gh_callV (pc := 4) (rest := [va_rf (some a1)]) C (k_X1_init C.tr a1) (Nat.le_of_ble_eq_true rfl) (Nat.le_of_ble_eq_true rfl) (gh_r4 (Nat.le_of_ble_eq_true rfl)) (fun H9 L9 hp9 => gi_I C q126 rfl q127 q128 mh_X1 np8 rfl hl.1.1 dL_law_4 rfl) h (gh_K0_b _ hk) (fun g h => ?_) (fun e g h => ?_)
  rotate_left
  ·
    exact gh_out C (fun _ h => nomatch h) h hk
  refine gr_astore_n (pc := 7) (i := 1) (l' := [(1, va_rf (some a1)), (0, va_rf p0)]) C rfl hl (Nat.le_of_ble_eq_true rfl) rfl dL_law_7 fun ls hl => ?_
  refine gr_newo (pc := 8) C gh_bX4 q2297 q2298 q86 gh_dX4 dL_law_8 h (gh_K0_b _ hk) fun a3 g h => ?_
  refine gr_dup (pc := 11) C (gh_cat _) dL_law_11 ?_
  refine gh_callV (pc := 12) (rest := [va_rf (some a3)]) C (k_X4_init C.tr a3) (Nat.le_of_ble_eq_true rfl) (Nat.le_of_ble_eq_true rfl) (gh_r4 (Nat.le_of_ble_eq_true rfl)) (fun H9 L9 hp9 => gi_I C q2299 rfl q2300 q2301 mh_X4 np8 rfl hl.1.1 dL_law_12 rfl) h (gh_K0_b _ hk) (fun g h => ?_) (fun e g h => ?_)
  rotate_left
  ·
    exact gh_out C (fun _ h => nomatch h) h hk
  refine gr_astore_n (pc := 15) (i := 2) (l' := [(2, va_rf (some a3)), (1, va_rf (some a1)), (0, va_rf p0)]) C rfl hl (Nat.le_of_ble_eq_true rfl) rfl dL_law_15 fun ls hl => ?_
  refine gr_iconst (pc := 16) (v := (1 : Int32)) C rfl dL_law_16 ?_
  refine gr_newa (pc := 17) (k := 1) (atype := .long) C (by decide) q2713 dL_law_17 h (gh_K0_b _ hk) fun a5 g h => ?_
  refine gr_astore_n (pc := 19) (i := 3) (l' := [(3, va_rf (some a5)), (2, va_rf (some a3)), (1, va_rf (some a1)), (0, va_rf p0)]) C rfl hl (Nat.le_of_ble_eq_true rfl) rfl dL_law_19 fun ls hl => ?_
  refine gr_iconst (pc := 20) (v := (1 : Int32)) C rfl dL_law_20 ?_
  refine gr_newa (pc := 21) (k := 2) (atype := .double) C (by decide) q2714 dL_law_21 h (gh_K0_b _ hk) fun a6 g h => ?_
  refine gr_astore (pc := 23) (i := 4) (l' := [(4, va_rf (some a6)), (3, va_rf (some a5)), (2, va_rf (some a3)), (1, va_rf (some a1)), (0, va_rf p0)]) C hl (Nat.le_of_ble_eq_true rfl) rfl dL_law_23 fun ls hl => ?_
  refine gr_iconst (pc := 25) (v := (0 : Int32)) C rfl dL_law_25 ?_
  refine gr_istore (pc := 26) (i := 5) (l' := [(5, .int (0 : Int32)), (4, va_rf (some a6)), (3, va_rf (some a5)), (2, va_rf (some a3)), (1, va_rf (some a1)), (0, va_rf p0)]) C hl (Nat.le_of_ble_eq_true rfl) rfl dL_law_26 fun ls hl => ?_
  exact w_L_law_28 C p0 (some a1) (some a3) (some a5) (some a6) (0 : Int32) (gl_sub hl [5, 4, 3, 2, 1, 0] rfl) h hk


