set_option maxRecDepth 100000
/-! the law's own entry -/
abbrev cL_law : ByteArray := code
def dkwL_law_93 : List UInt8 := [167, 0, 16, 43, 182, 1, 41, 44, 182, 1, 44, 159, 0, 5, 3, 172, 132, 4, 6, 167, 246, 209, 4, 172]
abbrev dktL_law_93 : List UInt8 := dkwL_law_93 ++ []
def dkwL_law_92 : List UInt8 := [21, 5, 159, 0, 5, 3, 172, 21, 5, 154, 0, 15, 45, 3, 47, 21, 6, 133, 148, 153, 0, 5, 3, 172]
abbrev dktL_law_92 : List UInt8 := dkwL_law_92 ++ dktL_law_93
def dkwL_law_91 : List UInt8 := [46, 45, 184, 1, 38, 54, 5, 44, 42, 21, 4, 4, 96, 46, 182, 1, 40, 54, 6, 44, 182, 0, 134]
abbrev dktL_law_91 : List UInt8 := dkwL_law_91 ++ dktL_law_92
def dkwL_law_90 : List UInt8 := [154, 0, 15, 45, 3, 47, 21, 6, 133, 148, 153, 0, 5, 3, 172, 167, 0, 72, 43, 42, 21, 4, 4, 96]
abbrev dktL_law_90 : List UInt8 := dkwL_law_90 ++ dktL_law_91
def dkwL_law_89 : List UInt8 := [184, 1, 35, 54, 5, 44, 182, 1, 37, 54, 6, 44, 182, 0, 134, 21, 5, 159, 0, 5, 3, 172, 21, 5]
abbrev dktL_law_89 : List UInt8 := dkwL_law_89 ++ dktL_law_90
def dkwL_law_88 : List UInt8 := [153, 0, 5, 3, 172, 167, 0, 129, 43, 182, 1, 31, 44, 182, 1, 34, 159, 0, 118, 3, 172, 43, 45]
abbrev dktL_law_88 : List UInt8 := dkwL_law_88 ++ dktL_law_89
def dkwL_law_87 : List UInt8 := [182, 0, 134, 21, 5, 159, 0, 5, 3, 172, 21, 5, 154, 0, 15, 45, 3, 47, 21, 6, 133, 148]
abbrev dktL_law_87 : List UInt8 := dkwL_law_87 ++ dktL_law_88
def dkwL_law_86 : List UInt8 := [21, 4, 5, 96, 46, 42, 21, 4, 6, 96, 46, 42, 21, 4, 7, 96, 46, 182, 1, 30, 54, 6, 44]
abbrev dktL_law_86 : List UInt8 := dkwL_law_86 ++ dktL_law_87
def dkwL_law_85 : List UInt8 := [6, 96, 46, 42, 21, 4, 7, 96, 46, 45, 184, 1, 27, 54, 5, 44, 42, 21, 4, 4, 96, 46, 42]
abbrev dktL_law_85 : List UInt8 := dkwL_law_85 ++ dktL_law_86
def dkwL_law_84 : List UInt8 := [153, 0, 5, 3, 172, 167, 0, 221, 43, 42, 21, 4, 4, 96, 46, 42, 21, 4, 5, 96, 46, 42, 21, 4]
abbrev dktL_law_84 : List UInt8 := dkwL_law_84 ++ dktL_law_85
def dkwL_law_83 : List UInt8 := [182, 0, 134, 21, 5, 159, 0, 5, 3, 172, 21, 5, 154, 0, 15, 45, 3, 47, 21, 6, 133, 148]
abbrev dktL_law_83 : List UInt8 := dkwL_law_83 ++ dktL_law_84
def dkwL_law_82 : List UInt8 := [21, 4, 4, 96, 46, 45, 184, 1, 24, 54, 5, 44, 42, 21, 4, 4, 96, 46, 182, 1, 26, 54, 6, 44]
abbrev dktL_law_82 : List UInt8 := dkwL_law_82 ++ dktL_law_83
def dkwL_law_81 : List UInt8 := [172, 21, 5, 154, 0, 15, 45, 3, 47, 21, 6, 133, 148, 153, 0, 5, 3, 172, 167, 1, 21, 43, 42]
abbrev dktL_law_81 : List UInt8 := dkwL_law_81 ++ dktL_law_82
def dkwL_law_80 : List UInt8 := [54, 5, 44, 42, 21, 4, 4, 96, 46, 182, 1, 23, 54, 6, 44, 182, 0, 134, 21, 5, 159, 0, 5, 3]
abbrev dktL_law_80 : List UInt8 := dkwL_law_80 ++ dktL_law_81
def dkwL_law_79 : List UInt8 := [182, 1, 16, 44, 182, 1, 20, 159, 1, 79, 3, 172, 43, 42, 21, 4, 4, 96, 46, 45, 184, 1, 21]
abbrev dktL_law_79 : List UInt8 := dkwL_law_79 ++ dktL_law_80
def dkwL_law_78 : List UInt8 := [153, 0, 5, 3, 172, 167, 1, 103, 43, 182, 1, 12, 44, 182, 1, 15, 159, 1, 92, 3, 172, 43]
abbrev dktL_law_78 : List UInt8 := dkwL_law_78 ++ dktL_law_79
def dkwL_law_77 : List UInt8 := [182, 0, 134, 21, 5, 159, 0, 5, 3, 172, 21, 5, 154, 0, 15, 45, 3, 47, 21, 6, 133, 148]
abbrev dktL_law_77 : List UInt8 := dkwL_law_77 ++ dktL_law_78
def dkwL_law_76 : List UInt8 := [184, 1, 9, 54, 5, 44, 42, 21, 4, 4, 96, 46, 42, 21, 4, 5, 96, 46, 182, 1, 11, 54, 6, 44]
abbrev dktL_law_76 : List UInt8 := dkwL_law_76 ++ dktL_law_77
def dkwL_law_75 : List UInt8 := [148, 153, 0, 5, 3, 172, 167, 1, 171, 43, 42, 21, 4, 4, 96, 46, 42, 21, 4, 5, 96, 46, 45]
abbrev dktL_law_75 : List UInt8 := dkwL_law_75 ++ dktL_law_76
def dkwL_law_74 : List UInt8 := [54, 6, 44, 182, 0, 134, 21, 5, 159, 0, 5, 3, 172, 21, 5, 154, 0, 15, 45, 3, 47, 21, 6, 133]
abbrev dktL_law_74 : List UInt8 := dkwL_law_74 ++ dktL_law_75
def dkwL_law_73 : List UInt8 := [172, 43, 42, 21, 4, 4, 96, 46, 45, 184, 1, 6, 54, 5, 44, 42, 21, 4, 4, 96, 46, 182, 1, 8]
abbrev dktL_law_73 : List UInt8 := dkwL_law_73 ++ dktL_law_74
def dkwL_law_72 : List UInt8 := [21, 6, 133, 148, 153, 0, 5, 3, 172, 167, 1, 240, 43, 182, 1, 2, 44, 182, 1, 5, 159, 1, 229, 3]
abbrev dktL_law_72 : List UInt8 := dkwL_law_72 ++ dktL_law_73
def dkwL_law_71 : List UInt8 := [182, 1, 1, 54, 6, 44, 182, 0, 134, 21, 5, 159, 0, 5, 3, 172, 21, 5, 154, 0, 15, 45, 3, 47]
abbrev dktL_law_71 : List UInt8 := dkwL_law_71 ++ dktL_law_72
def dkwL_law_70 : List UInt8 := [21, 4, 5, 96, 46, 45, 184, 0, 255, 54, 5, 44, 42, 21, 4, 4, 96, 46, 42, 21, 4, 5, 96, 46]
abbrev dktL_law_70 : List UInt8 := dkwL_law_70 ++ dktL_law_71
def dkwL_law_69 : List UInt8 := [167, 2, 65, 43, 182, 0, 251, 44, 182, 0, 254, 159, 2, 54, 3, 172, 43, 42, 21, 4, 4, 96, 46, 42]
abbrev dktL_law_69 : List UInt8 := dkwL_law_69 ++ dktL_law_70
def dkwL_law_68 : List UInt8 := [159, 0, 5, 3, 172, 21, 5, 154, 0, 15, 45, 3, 47, 21, 6, 133, 148, 153, 0, 5, 3, 172]
abbrev dktL_law_68 : List UInt8 := dkwL_law_68 ++ dktL_law_69
def dkwL_law_67 : List UInt8 := [184, 0, 248, 54, 5, 44, 42, 21, 4, 4, 96, 46, 182, 0, 250, 54, 6, 44, 182, 0, 134, 21, 5]
abbrev dktL_law_67 : List UInt8 := dkwL_law_67 ++ dktL_law_68
def dkwL_law_66 : List UInt8 := [167, 2, 134, 43, 182, 0, 244, 44, 182, 0, 247, 159, 2, 123, 3, 172, 43, 42, 21, 4, 4, 96, 46, 45]
abbrev dktL_law_66 : List UInt8 := dkwL_law_66 ++ dktL_law_67
def dkwL_law_65 : List UInt8 := [159, 0, 5, 3, 172, 21, 5, 154, 0, 15, 45, 3, 47, 21, 6, 133, 148, 153, 0, 5, 3, 172]
abbrev dktL_law_65 : List UInt8 := dkwL_law_65 ++ dktL_law_66
def dkwL_law_64 : List UInt8 := [184, 0, 241, 54, 5, 44, 42, 21, 4, 4, 96, 46, 182, 0, 243, 54, 6, 44, 182, 0, 134, 21, 5]
abbrev dktL_law_64 : List UInt8 := dkwL_law_64 ++ dktL_law_65
def dkwL_law_63 : List UInt8 := [167, 2, 203, 43, 182, 0, 237, 44, 182, 0, 240, 159, 2, 192, 3, 172, 43, 42, 21, 4, 4, 96, 46, 45]
abbrev dktL_law_63 : List UInt8 := dkwL_law_63 ++ dktL_law_64
def dkwL_law_62 : List UInt8 := [21, 5, 159, 0, 5, 3, 172, 21, 5, 154, 0, 15, 45, 3, 47, 21, 6, 133, 148, 153, 0, 5, 3, 172]
abbrev dktL_law_62 : List UInt8 := dkwL_law_62 ++ dktL_law_63
def dkwL_law_61 : List UInt8 := [46, 45, 184, 0, 234, 54, 5, 44, 42, 21, 4, 4, 96, 46, 182, 0, 236, 54, 6, 44, 182, 0, 134]
abbrev dktL_law_61 : List UInt8 := dkwL_law_61 ++ dktL_law_62
def dkwL_law_60 : List UInt8 := [154, 0, 15, 45, 3, 47, 21, 6, 133, 148, 153, 0, 5, 3, 172, 167, 3, 3, 43, 42, 21, 4, 4, 96]
abbrev dktL_law_60 : List UInt8 := dkwL_law_60 ++ dktL_law_61
def dkwL_law_59 : List UInt8 := [21, 4, 4, 96, 46, 182, 0, 233, 54, 6, 44, 182, 0, 134, 21, 5, 159, 0, 5, 3, 172, 21, 5]
abbrev dktL_law_59 : List UInt8 := dkwL_law_59 ++ dktL_law_60
def dkwL_law_58 : List UInt8 := [148, 153, 0, 5, 3, 172, 167, 3, 59, 43, 42, 21, 4, 4, 96, 46, 45, 184, 0, 231, 54, 5, 44, 42]
abbrev dktL_law_58 : List UInt8 := dkwL_law_58 ++ dktL_law_59
def dkwL_law_57 : List UInt8 := [54, 6, 44, 182, 0, 134, 21, 5, 159, 0, 5, 3, 172, 21, 5, 154, 0, 15, 45, 3, 47, 21, 6, 133]
abbrev dktL_law_57 : List UInt8 := dkwL_law_57 ++ dktL_law_58
def dkwL_law_56 : List UInt8 := [172, 43, 42, 21, 4, 4, 96, 46, 45, 184, 0, 228, 54, 5, 44, 42, 21, 4, 4, 96, 46, 182, 0, 230]
abbrev dktL_law_56 : List UInt8 := dkwL_law_56 ++ dktL_law_57
def dkwL_law_55 : List UInt8 := [182, 0, 220, 44, 182, 0, 223, 159, 3, 130, 3, 172, 43, 182, 0, 224, 44, 182, 0, 227, 159, 3, 117, 3]
abbrev dktL_law_55 : List UInt8 := dkwL_law_55 ++ dktL_law_56
def dkwL_law_54 : List UInt8 := [182, 0, 215, 159, 3, 156, 3, 172, 43, 182, 0, 216, 44, 182, 0, 219, 159, 3, 143, 3, 172, 43]
abbrev dktL_law_54 : List UInt8 := dkwL_law_54 ++ dktL_law_55
def dkwL_law_53 : List UInt8 := [159, 3, 182, 3, 172, 43, 182, 0, 208, 44, 182, 0, 211, 159, 3, 169, 3, 172, 43, 182, 0, 212, 44]
abbrev dktL_law_53 : List UInt8 := dkwL_law_53 ++ dktL_law_54
def dkwL_law_52 : List UInt8 := [172, 43, 182, 0, 200, 44, 182, 0, 203, 159, 3, 195, 3, 172, 43, 182, 0, 204, 44, 182, 0, 207]
abbrev dktL_law_52 : List UInt8 := dkwL_law_52 ++ dktL_law_53
def dkwL_law_51 : List UInt8 := [21, 6, 133, 148, 153, 0, 5, 3, 172, 167, 3, 219, 43, 182, 0, 196, 44, 182, 0, 199, 159, 3, 208, 3]
abbrev dktL_law_51 : List UInt8 := dkwL_law_51 ++ dktL_law_52
def dkwL_law_50 : List UInt8 := [182, 0, 195, 54, 6, 44, 182, 0, 134, 21, 5, 159, 0, 5, 3, 172, 21, 5, 154, 0, 15, 45, 3, 47]
abbrev dktL_law_50 : List UInt8 := dkwL_law_50 ++ dktL_law_51
def dkwL_law_49 : List UInt8 := [167, 4, 19, 43, 42, 21, 4, 4, 96, 46, 45, 184, 0, 193, 54, 5, 44, 42, 21, 4, 4, 96, 46]
abbrev dktL_law_49 : List UInt8 := dkwL_law_49 ++ dktL_law_50
def dkwL_law_48 : List UInt8 := [159, 0, 5, 3, 172, 21, 5, 154, 0, 15, 45, 3, 47, 21, 6, 133, 148, 153, 0, 5, 3, 172]
abbrev dktL_law_48 : List UInt8 := dkwL_law_48 ++ dktL_law_49
def dkwL_law_47 : List UInt8 := [184, 0, 190, 54, 5, 44, 42, 21, 4, 4, 96, 46, 182, 0, 192, 54, 6, 44, 182, 0, 134, 21, 5]
abbrev dktL_law_47 : List UInt8 := dkwL_law_47 ++ dktL_law_48
def dkwL_law_46 : List UInt8 := [3, 47, 21, 6, 133, 148, 153, 0, 5, 3, 172, 167, 4, 75, 43, 42, 21, 4, 4, 96, 46, 45]
abbrev dktL_law_46 : List UInt8 := dkwL_law_46 ++ dktL_law_47
def dkwL_law_45 : List UInt8 := [96, 46, 182, 0, 189, 54, 6, 44, 182, 0, 134, 21, 5, 159, 0, 5, 3, 172, 21, 5, 154, 0, 15, 45]
abbrev dktL_law_45 : List UInt8 := dkwL_law_45 ++ dktL_law_46
def dkwL_law_44 : List UInt8 := [46, 42, 21, 4, 5, 96, 46, 45, 184, 0, 187, 54, 5, 44, 42, 21, 4, 4, 96, 46, 42, 21, 4, 5]
abbrev dktL_law_44 : List UInt8 := dkwL_law_44 ++ dktL_law_45
def dkwL_law_43 : List UInt8 := [154, 0, 15, 45, 3, 47, 21, 6, 133, 148, 153, 0, 5, 3, 172, 167, 4, 143, 43, 42, 21, 4, 4, 96]
abbrev dktL_law_43 : List UInt8 := dkwL_law_43 ++ dktL_law_44
def dkwL_law_42 : List UInt8 := [21, 4, 4, 96, 46, 182, 0, 186, 54, 6, 44, 182, 0, 134, 21, 5, 159, 0, 5, 3, 172, 21, 5]
abbrev dktL_law_42 : List UInt8 := dkwL_law_42 ++ dktL_law_43
def dkwL_law_41 : List UInt8 := [148, 153, 0, 5, 3, 172, 167, 4, 199, 43, 42, 21, 4, 4, 96, 46, 45, 184, 0, 184, 54, 5, 44, 42]
abbrev dktL_law_41 : List UInt8 := dkwL_law_41 ++ dktL_law_42
def dkwL_law_40 : List UInt8 := [54, 6, 44, 182, 0, 134, 21, 5, 159, 0, 5, 3, 172, 21, 5, 154, 0, 15, 45, 3, 47, 21, 6, 133]
abbrev dktL_law_40 : List UInt8 := dkwL_law_40 ++ dktL_law_41
def dkwL_law_39 : List UInt8 := [21, 6, 133, 148, 153, 0, 5, 3, 172, 167, 4, 243, 43, 45, 184, 0, 181, 54, 5, 44, 182, 0, 183]
abbrev dktL_law_39 : List UInt8 := dkwL_law_39 ++ dktL_law_40
def dkwL_law_38 : List UInt8 := [182, 0, 180, 54, 6, 44, 182, 0, 134, 21, 5, 159, 0, 5, 3, 172, 21, 5, 154, 0, 15, 45, 3, 47]
abbrev dktL_law_38 : List UInt8 := dkwL_law_38 ++ dktL_law_39
def dkwL_law_37 : List UInt8 := [45, 3, 47, 21, 6, 133, 148, 153, 0, 5, 3, 172, 167, 5, 31, 43, 45, 184, 0, 178, 54, 5, 44]
abbrev dktL_law_37 : List UInt8 := dkwL_law_37 ++ dktL_law_38
def dkwL_law_36 : List UInt8 := [54, 5, 44, 182, 0, 177, 54, 6, 44, 182, 0, 134, 21, 5, 159, 0, 5, 3, 172, 21, 5, 154, 0, 15]
abbrev dktL_law_36 : List UInt8 := dkwL_law_36 ++ dktL_law_37
def dkwL_law_35 : List UInt8 := [154, 0, 15, 45, 3, 47, 21, 6, 133, 148, 153, 0, 5, 3, 172, 167, 5, 75, 43, 45, 184, 0, 175]
abbrev dktL_law_35 : List UInt8 := dkwL_law_35 ++ dktL_law_36
def dkwL_law_34 : List UInt8 := [21, 4, 4, 96, 46, 182, 0, 174, 54, 6, 44, 182, 0, 134, 21, 5, 159, 0, 5, 3, 172, 21, 5]
abbrev dktL_law_34 : List UInt8 := dkwL_law_34 ++ dktL_law_35
def dkwL_law_33 : List UInt8 := [153, 0, 5, 3, 172, 167, 5, 131, 43, 42, 21, 4, 4, 96, 46, 45, 184, 0, 172, 54, 5, 44, 42]
abbrev dktL_law_33 : List UInt8 := dkwL_law_33 ++ dktL_law_34
def dkwL_law_32 : List UInt8 := [182, 0, 134, 21, 5, 159, 0, 5, 3, 172, 21, 5, 154, 0, 15, 45, 3, 47, 21, 6, 133, 148]
abbrev dktL_law_32 : List UInt8 := dkwL_law_32 ++ dktL_law_33
def dkwL_law_31 : List UInt8 := [182, 0, 168, 159, 5, 177, 3, 172, 43, 45, 184, 0, 169, 54, 5, 44, 182, 0, 171, 54, 6, 44]
abbrev dktL_law_31 : List UInt8 := dkwL_law_31 ++ dktL_law_32
def dkwL_law_30 : List UInt8 := [154, 0, 15, 45, 3, 47, 21, 6, 133, 148, 153, 0, 5, 3, 172, 167, 5, 188, 43, 182, 0, 165, 44]
abbrev dktL_law_30 : List UInt8 := dkwL_law_30 ++ dktL_law_31
def dkwL_law_29 : List UInt8 := [42, 21, 4, 8, 96, 46, 182, 0, 164, 54, 6, 44, 182, 0, 134, 21, 5, 159, 0, 5, 3, 172, 21, 5]
abbrev dktL_law_29 : List UInt8 := dkwL_law_29 ++ dktL_law_30
def dkwL_law_28 : List UInt8 := [42, 21, 4, 4, 96, 46, 42, 21, 4, 5, 96, 46, 42, 21, 4, 6, 96, 46, 42, 21, 4, 7, 96, 46]
abbrev dktL_law_28 : List UInt8 := dkwL_law_28 ++ dktL_law_29
def dkwL_law_27 : List UInt8 := [21, 4, 6, 96, 46, 42, 21, 4, 7, 96, 46, 42, 21, 4, 8, 96, 46, 45, 184, 0, 162, 54, 5, 44]
abbrev dktL_law_27 : List UInt8 := dkwL_law_27 ++ dktL_law_28
def dkwL_law_26 : List UInt8 := [148, 153, 0, 5, 3, 172, 167, 6, 36, 43, 42, 21, 4, 4, 96, 46, 42, 21, 4, 5, 96, 46, 42]
abbrev dktL_law_26 : List UInt8 := dkwL_law_26 ++ dktL_law_27
def dkwL_law_25 : List UInt8 := [54, 6, 44, 182, 0, 134, 21, 5, 159, 0, 5, 3, 172, 21, 5, 154, 0, 15, 45, 3, 47, 21, 6, 133]
abbrev dktL_law_25 : List UInt8 := dkwL_law_25 ++ dktL_law_26
def dkwL_law_24 : List UInt8 := [21, 6, 133, 148, 153, 0, 5, 3, 172, 167, 6, 80, 43, 45, 184, 0, 158, 54, 5, 44, 182, 0, 161]
abbrev dktL_law_24 : List UInt8 := dkwL_law_24 ++ dktL_law_25
def dkwL_law_23 : List UInt8 := [182, 0, 157, 54, 6, 44, 182, 0, 134, 21, 5, 159, 0, 5, 3, 172, 21, 5, 154, 0, 15, 45, 3, 47]
abbrev dktL_law_23 : List UInt8 := dkwL_law_23 ++ dktL_law_24
def dkwL_law_22 : List UInt8 := [167, 6, 136, 43, 42, 21, 4, 4, 96, 46, 45, 184, 0, 155, 54, 5, 44, 42, 21, 4, 4, 96, 46]
abbrev dktL_law_22 : List UInt8 := dkwL_law_22 ++ dktL_law_23
def dkwL_law_21 : List UInt8 := [21, 5, 159, 0, 5, 3, 172, 21, 5, 154, 0, 15, 45, 3, 47, 21, 6, 133, 148, 153, 0, 5, 3, 172]
abbrev dktL_law_21 : List UInt8 := dkwL_law_21 ++ dktL_law_22
def dkwL_law_20 : List UInt8 := [96, 46, 42, 21, 4, 5, 96, 46, 42, 21, 4, 6, 96, 46, 182, 0, 154, 54, 6, 44, 182, 0, 134]
abbrev dktL_law_20 : List UInt8 := dkwL_law_20 ++ dktL_law_21
def dkwL_law_19 : List UInt8 := [46, 42, 21, 4, 5, 96, 46, 42, 21, 4, 6, 96, 46, 45, 184, 0, 151, 54, 5, 44, 42, 21, 4, 4]
abbrev dktL_law_19 : List UInt8 := dkwL_law_19 ++ dktL_law_20
def dkwL_law_18 : List UInt8 := [154, 0, 15, 45, 3, 47, 21, 6, 133, 148, 153, 0, 5, 3, 172, 167, 6, 216, 43, 42, 21, 4, 4, 96]
abbrev dktL_law_18 : List UInt8 := dkwL_law_18 ++ dktL_law_19
def dkwL_law_17 : List UInt8 := [21, 4, 4, 96, 46, 182, 0, 150, 54, 6, 44, 182, 0, 134, 21, 5, 159, 0, 5, 3, 172, 21, 5]
abbrev dktL_law_17 : List UInt8 := dkwL_law_17 ++ dktL_law_18
def dkwL_law_16 : List UInt8 := [153, 0, 5, 3, 172, 167, 7, 16, 43, 42, 21, 4, 4, 96, 46, 45, 184, 0, 148, 54, 5, 44, 42]
abbrev dktL_law_16 : List UInt8 := dkwL_law_16 ++ dktL_law_17
def dkwL_law_15 : List UInt8 := [182, 0, 134, 21, 5, 159, 0, 5, 3, 172, 21, 5, 154, 0, 15, 45, 3, 47, 21, 6, 133, 148]
abbrev dktL_law_15 : List UInt8 := dkwL_law_15 ++ dktL_law_16
def dkwL_law_14 : List UInt8 := [184, 0, 144, 54, 5, 44, 42, 21, 4, 4, 96, 46, 42, 21, 4, 5, 96, 46, 182, 0, 147, 54, 6, 44]
abbrev dktL_law_14 : List UInt8 := dkwL_law_14 ++ dktL_law_15
def dkwL_law_13 : List UInt8 := [153, 0, 5, 3, 172, 167, 7, 84, 43, 42, 21, 4, 4, 96, 46, 42, 21, 4, 5, 96, 46, 45]
abbrev dktL_law_13 : List UInt8 := dkwL_law_13 ++ dktL_law_14
def dkwL_law_12 : List UInt8 := [182, 0, 134, 21, 5, 159, 0, 5, 3, 172, 21, 5, 154, 0, 15, 45, 3, 47, 21, 6, 133, 148]
abbrev dktL_law_12 : List UInt8 := dkwL_law_12 ++ dktL_law_13
def dkwL_law_11 : List UInt8 := [42, 21, 4, 6, 96, 46, 42, 21, 4, 7, 96, 46, 42, 21, 4, 8, 96, 46, 182, 0, 143, 54, 6, 44]
abbrev dktL_law_11 : List UInt8 := dkwL_law_11 ++ dktL_law_12
def dkwL_law_10 : List UInt8 := [21, 4, 8, 96, 46, 45, 184, 0, 140, 54, 5, 44, 42, 21, 4, 4, 96, 46, 42, 21, 4, 5, 96, 46]
abbrev dktL_law_10 : List UInt8 := dkwL_law_10 ++ dktL_law_11
def dkwL_law_9 : List UInt8 := [21, 4, 4, 96, 46, 42, 21, 4, 5, 96, 46, 42, 21, 4, 6, 96, 46, 42, 21, 4, 7, 96, 46, 42]
abbrev dktL_law_9 : List UInt8 := dkwL_law_9 ++ dktL_law_10
def dkwL_law_8 : List UInt8 := [172, 21, 5, 154, 0, 15, 45, 3, 47, 21, 6, 133, 148, 153, 0, 5, 3, 172, 167, 7, 188, 43, 42]
abbrev dktL_law_8 : List UInt8 := dkwL_law_8 ++ dktL_law_9
def dkwL_law_7 : List UInt8 := [54, 5, 44, 42, 21, 4, 4, 96, 46, 182, 0, 139, 54, 6, 44, 182, 0, 134, 21, 5, 159, 0, 5, 3]
abbrev dktL_law_7 : List UInt8 := dkwL_law_7 ++ dktL_law_8
def dkwL_law_6 : List UInt8 := [21, 6, 133, 148, 153, 0, 5, 3, 172, 167, 7, 244, 43, 42, 21, 4, 4, 96, 46, 45, 184, 0, 137]
abbrev dktL_law_6 : List UInt8 := dkwL_law_6 ++ dktL_law_7
def dkwL_law_5 : List UInt8 := [182, 0, 133, 54, 6, 44, 182, 0, 134, 21, 5, 159, 0, 5, 3, 172, 21, 5, 154, 0, 15, 45, 3, 47]
abbrev dktL_law_5 : List UInt8 := dkwL_law_5 ++ dktL_law_6
def dkwL_law_4 : List UInt8 := [3, 172, 43, 42, 21, 4, 4, 96, 46, 45, 184, 0, 128, 54, 5, 44, 42, 21, 4, 4, 96, 46]
abbrev dktL_law_4 : List UInt8 := dkwL_law_4 ++ dktL_law_5
def dkwL_law_3 : List UInt8 := [43, 182, 0, 120, 44, 182, 0, 123, 159, 8, 59, 3, 172, 43, 182, 0, 124, 44, 182, 0, 127, 159, 8, 46]
abbrev dktL_law_3 : List UInt8 := dkwL_law_3 ++ dktL_law_4
def dkwL_law_2 : List UInt8 := [170, 0, 0, 0, 0, 0, 9, 27, 0, 0, 0, 0, 0, 0, 0, 49, 0, 0, 0, 216, 0, 0, 0, 229, 0, 0, 0, 242, 0, 0, 1, 42, 0, 0, 1, 98, 0, 0, 1, 202, 0, 0, 2, 14, 0, 0, 2, 70, 0, 0, 2, 150, 0, 0, 2, 206, 0, 0, 2, 250, 0, 0, 3, 98, 0, 0, 3, 111, 0, 0, 3, 155, 0, 0, 3, 211, 0, 0, 3, 255, 0, 0, 4, 43, 0, 0, 4, 87, 0, 0, 4, 143, 0, 0, 4, 211, 0, 0, 5, 11, 0, 0, 5, 67, 0, 0, 5, 80, 0, 0, 5, 93, 0, 0, 5, 106, 0, 0, 5, 119, 0, 0, 5, 132, 0, 0, 5, 145, 0, 0, 5, 158, 0, 0, 5, 171, 0, 0, 5, 227, 0, 0, 6, 27, 0, 0, 6, 83, 0, 0, 6, 96, 0, 0, 6, 152, 0, 0, 6, 165, 0, 0, 6, 221, 0, 0, 6, 234, 0, 0, 7, 46, 0, 0, 7, 59, 0, 0, 7, 115, 0, 0, 7, 183, 0, 0, 7, 196, 0, 0, 7, 209, 0, 0, 8, 9, 0, 0, 8, 65, 0, 0, 8, 157, 0, 0, 8, 170, 0, 0, 8, 214, 0, 0, 9, 14]
abbrev dktL_law_2 : List UInt8 := dkwL_law_2 ++ dktL_law_3
def dkwL_law_1 : List UInt8 := [21, 4, 42, 190, 16, 6, 100, 163, 9, 43, 42, 21, 4, 46, 16, 63, 126]
abbrev dktL_law_1 : List UInt8 := dkwL_law_1 ++ dktL_law_2
def dkwL_law_0 : List UInt8 := [187, 0, 8, 89, 183, 0, 116, 76, 187, 0, 117, 89, 183, 0, 119, 77, 4, 188, 11, 78, 3, 54, 4]
abbrev dktL_law_0 : List UInt8 := dkwL_law_0 ++ dktL_law_1
theorem dksL_law_0 : cL_law.data.toList.drop 0 = dktL_law_0 := by decide +kernel
theorem dksL_law_1 : cL_law.data.toList.drop 23 = dktL_law_1 := dk_seg dksL_law_0 23 rfl rfl
theorem dksL_law_2 : cL_law.data.toList.drop 40 = dktL_law_2 := dk_seg dksL_law_1 17 rfl rfl
theorem dksL_law_3 : cL_law.data.toList.drop 256 = dktL_law_3 := dk_seg dksL_law_2 216 rfl rfl
theorem dksL_law_4 : cL_law.data.toList.drop 280 = dktL_law_4 := dk_seg dksL_law_3 24 rfl rfl
theorem dksL_law_5 : cL_law.data.toList.drop 302 = dktL_law_5 := dk_seg dksL_law_4 22 rfl rfl
theorem dksL_law_6 : cL_law.data.toList.drop 326 = dktL_law_6 := dk_seg dksL_law_5 24 rfl rfl
theorem dksL_law_7 : cL_law.data.toList.drop 349 = dktL_law_7 := dk_seg dksL_law_6 23 rfl rfl
theorem dksL_law_8 : cL_law.data.toList.drop 373 = dktL_law_8 := dk_seg dksL_law_7 24 rfl rfl
theorem dksL_law_9 : cL_law.data.toList.drop 396 = dktL_law_9 := dk_seg dksL_law_8 23 rfl rfl
theorem dksL_law_10 : cL_law.data.toList.drop 420 = dktL_law_10 := dk_seg dksL_law_9 24 rfl rfl
theorem dksL_law_11 : cL_law.data.toList.drop 444 = dktL_law_11 := dk_seg dksL_law_10 24 rfl rfl
theorem dksL_law_12 : cL_law.data.toList.drop 468 = dktL_law_12 := dk_seg dksL_law_11 24 rfl rfl
theorem dksL_law_13 : cL_law.data.toList.drop 490 = dktL_law_13 := dk_seg dksL_law_12 22 rfl rfl
theorem dksL_law_14 : cL_law.data.toList.drop 512 = dktL_law_14 := dk_seg dksL_law_13 22 rfl rfl
theorem dksL_law_15 : cL_law.data.toList.drop 536 = dktL_law_15 := dk_seg dksL_law_14 24 rfl rfl
theorem dksL_law_16 : cL_law.data.toList.drop 558 = dktL_law_16 := dk_seg dksL_law_15 22 rfl rfl
theorem dksL_law_17 : cL_law.data.toList.drop 581 = dktL_law_17 := dk_seg dksL_law_16 23 rfl rfl
theorem dksL_law_18 : cL_law.data.toList.drop 604 = dktL_law_18 := dk_seg dksL_law_17 23 rfl rfl
theorem dksL_law_19 : cL_law.data.toList.drop 628 = dktL_law_19 := dk_seg dksL_law_18 24 rfl rfl
theorem dksL_law_20 : cL_law.data.toList.drop 652 = dktL_law_20 := dk_seg dksL_law_19 24 rfl rfl
theorem dksL_law_21 : cL_law.data.toList.drop 675 = dktL_law_21 := dk_seg dksL_law_20 23 rfl rfl
theorem dksL_law_22 : cL_law.data.toList.drop 699 = dktL_law_22 := dk_seg dksL_law_21 24 rfl rfl
theorem dksL_law_23 : cL_law.data.toList.drop 722 = dktL_law_23 := dk_seg dksL_law_22 23 rfl rfl
theorem dksL_law_24 : cL_law.data.toList.drop 746 = dktL_law_24 := dk_seg dksL_law_23 24 rfl rfl
theorem dksL_law_25 : cL_law.data.toList.drop 769 = dktL_law_25 := dk_seg dksL_law_24 23 rfl rfl
theorem dksL_law_26 : cL_law.data.toList.drop 793 = dktL_law_26 := dk_seg dksL_law_25 24 rfl rfl
theorem dksL_law_27 : cL_law.data.toList.drop 816 = dktL_law_27 := dk_seg dksL_law_26 23 rfl rfl
theorem dksL_law_28 : cL_law.data.toList.drop 840 = dktL_law_28 := dk_seg dksL_law_27 24 rfl rfl
theorem dksL_law_29 : cL_law.data.toList.drop 864 = dktL_law_29 := dk_seg dksL_law_28 24 rfl rfl
theorem dksL_law_30 : cL_law.data.toList.drop 888 = dktL_law_30 := dk_seg dksL_law_29 24 rfl rfl
theorem dksL_law_31 : cL_law.data.toList.drop 911 = dktL_law_31 := dk_seg dksL_law_30 23 rfl rfl
theorem dksL_law_32 : cL_law.data.toList.drop 933 = dktL_law_32 := dk_seg dksL_law_31 22 rfl rfl
theorem dksL_law_33 : cL_law.data.toList.drop 955 = dktL_law_33 := dk_seg dksL_law_32 22 rfl rfl
theorem dksL_law_34 : cL_law.data.toList.drop 978 = dktL_law_34 := dk_seg dksL_law_33 23 rfl rfl
theorem dksL_law_35 : cL_law.data.toList.drop 1001 = dktL_law_35 := dk_seg dksL_law_34 23 rfl rfl
theorem dksL_law_36 : cL_law.data.toList.drop 1024 = dktL_law_36 := dk_seg dksL_law_35 23 rfl rfl
theorem dksL_law_37 : cL_law.data.toList.drop 1048 = dktL_law_37 := dk_seg dksL_law_36 24 rfl rfl
theorem dksL_law_38 : cL_law.data.toList.drop 1071 = dktL_law_38 := dk_seg dksL_law_37 23 rfl rfl
theorem dksL_law_39 : cL_law.data.toList.drop 1095 = dktL_law_39 := dk_seg dksL_law_38 24 rfl rfl
theorem dksL_law_40 : cL_law.data.toList.drop 1118 = dktL_law_40 := dk_seg dksL_law_39 23 rfl rfl
theorem dksL_law_41 : cL_law.data.toList.drop 1142 = dktL_law_41 := dk_seg dksL_law_40 24 rfl rfl
theorem dksL_law_42 : cL_law.data.toList.drop 1166 = dktL_law_42 := dk_seg dksL_law_41 24 rfl rfl
theorem dksL_law_43 : cL_law.data.toList.drop 1189 = dktL_law_43 := dk_seg dksL_law_42 23 rfl rfl
theorem dksL_law_44 : cL_law.data.toList.drop 1213 = dktL_law_44 := dk_seg dksL_law_43 24 rfl rfl
theorem dksL_law_45 : cL_law.data.toList.drop 1237 = dktL_law_45 := dk_seg dksL_law_44 24 rfl rfl
theorem dksL_law_46 : cL_law.data.toList.drop 1261 = dktL_law_46 := dk_seg dksL_law_45 24 rfl rfl
theorem dksL_law_47 : cL_law.data.toList.drop 1283 = dktL_law_47 := dk_seg dksL_law_46 22 rfl rfl
theorem dksL_law_48 : cL_law.data.toList.drop 1306 = dktL_law_48 := dk_seg dksL_law_47 23 rfl rfl
theorem dksL_law_49 : cL_law.data.toList.drop 1328 = dktL_law_49 := dk_seg dksL_law_48 22 rfl rfl
theorem dksL_law_50 : cL_law.data.toList.drop 1351 = dktL_law_50 := dk_seg dksL_law_49 23 rfl rfl
theorem dksL_law_51 : cL_law.data.toList.drop 1375 = dktL_law_51 := dk_seg dksL_law_50 24 rfl rfl
theorem dksL_law_52 : cL_law.data.toList.drop 1399 = dktL_law_52 := dk_seg dksL_law_51 24 rfl rfl
theorem dksL_law_53 : cL_law.data.toList.drop 1421 = dktL_law_53 := dk_seg dksL_law_52 22 rfl rfl
theorem dksL_law_54 : cL_law.data.toList.drop 1444 = dktL_law_54 := dk_seg dksL_law_53 23 rfl rfl
theorem dksL_law_55 : cL_law.data.toList.drop 1466 = dktL_law_55 := dk_seg dksL_law_54 22 rfl rfl
theorem dksL_law_56 : cL_law.data.toList.drop 1490 = dktL_law_56 := dk_seg dksL_law_55 24 rfl rfl
theorem dksL_law_57 : cL_law.data.toList.drop 1514 = dktL_law_57 := dk_seg dksL_law_56 24 rfl rfl
theorem dksL_law_58 : cL_law.data.toList.drop 1538 = dktL_law_58 := dk_seg dksL_law_57 24 rfl rfl
theorem dksL_law_59 : cL_law.data.toList.drop 1562 = dktL_law_59 := dk_seg dksL_law_58 24 rfl rfl
theorem dksL_law_60 : cL_law.data.toList.drop 1585 = dktL_law_60 := dk_seg dksL_law_59 23 rfl rfl
theorem dksL_law_61 : cL_law.data.toList.drop 1609 = dktL_law_61 := dk_seg dksL_law_60 24 rfl rfl
theorem dksL_law_62 : cL_law.data.toList.drop 1632 = dktL_law_62 := dk_seg dksL_law_61 23 rfl rfl
theorem dksL_law_63 : cL_law.data.toList.drop 1656 = dktL_law_63 := dk_seg dksL_law_62 24 rfl rfl
theorem dksL_law_64 : cL_law.data.toList.drop 1680 = dktL_law_64 := dk_seg dksL_law_63 24 rfl rfl
theorem dksL_law_65 : cL_law.data.toList.drop 1703 = dktL_law_65 := dk_seg dksL_law_64 23 rfl rfl
theorem dksL_law_66 : cL_law.data.toList.drop 1725 = dktL_law_66 := dk_seg dksL_law_65 22 rfl rfl
theorem dksL_law_67 : cL_law.data.toList.drop 1749 = dktL_law_67 := dk_seg dksL_law_66 24 rfl rfl
theorem dksL_law_68 : cL_law.data.toList.drop 1772 = dktL_law_68 := dk_seg dksL_law_67 23 rfl rfl
theorem dksL_law_69 : cL_law.data.toList.drop 1794 = dktL_law_69 := dk_seg dksL_law_68 22 rfl rfl
theorem dksL_law_70 : cL_law.data.toList.drop 1818 = dktL_law_70 := dk_seg dksL_law_69 24 rfl rfl
theorem dksL_law_71 : cL_law.data.toList.drop 1842 = dktL_law_71 := dk_seg dksL_law_70 24 rfl rfl
theorem dksL_law_72 : cL_law.data.toList.drop 1866 = dktL_law_72 := dk_seg dksL_law_71 24 rfl rfl
theorem dksL_law_73 : cL_law.data.toList.drop 1890 = dktL_law_73 := dk_seg dksL_law_72 24 rfl rfl
theorem dksL_law_74 : cL_law.data.toList.drop 1914 = dktL_law_74 := dk_seg dksL_law_73 24 rfl rfl
theorem dksL_law_75 : cL_law.data.toList.drop 1938 = dktL_law_75 := dk_seg dksL_law_74 24 rfl rfl
theorem dksL_law_76 : cL_law.data.toList.drop 1961 = dktL_law_76 := dk_seg dksL_law_75 23 rfl rfl
theorem dksL_law_77 : cL_law.data.toList.drop 1985 = dktL_law_77 := dk_seg dksL_law_76 24 rfl rfl
theorem dksL_law_78 : cL_law.data.toList.drop 2007 = dktL_law_78 := dk_seg dksL_law_77 22 rfl rfl
theorem dksL_law_79 : cL_law.data.toList.drop 2029 = dktL_law_79 := dk_seg dksL_law_78 22 rfl rfl
theorem dksL_law_80 : cL_law.data.toList.drop 2052 = dktL_law_80 := dk_seg dksL_law_79 23 rfl rfl
theorem dksL_law_81 : cL_law.data.toList.drop 2076 = dktL_law_81 := dk_seg dksL_law_80 24 rfl rfl
theorem dksL_law_82 : cL_law.data.toList.drop 2099 = dktL_law_82 := dk_seg dksL_law_81 23 rfl rfl
theorem dksL_law_83 : cL_law.data.toList.drop 2123 = dktL_law_83 := dk_seg dksL_law_82 24 rfl rfl
theorem dksL_law_84 : cL_law.data.toList.drop 2145 = dktL_law_84 := dk_seg dksL_law_83 22 rfl rfl
theorem dksL_law_85 : cL_law.data.toList.drop 2169 = dktL_law_85 := dk_seg dksL_law_84 24 rfl rfl
theorem dksL_law_86 : cL_law.data.toList.drop 2192 = dktL_law_86 := dk_seg dksL_law_85 23 rfl rfl
theorem dksL_law_87 : cL_law.data.toList.drop 2215 = dktL_law_87 := dk_seg dksL_law_86 23 rfl rfl
theorem dksL_law_88 : cL_law.data.toList.drop 2237 = dktL_law_88 := dk_seg dksL_law_87 22 rfl rfl
theorem dksL_law_89 : cL_law.data.toList.drop 2260 = dktL_law_89 := dk_seg dksL_law_88 23 rfl rfl
theorem dksL_law_90 : cL_law.data.toList.drop 2284 = dktL_law_90 := dk_seg dksL_law_89 24 rfl rfl
theorem dksL_law_91 : cL_law.data.toList.drop 2308 = dktL_law_91 := dk_seg dksL_law_90 24 rfl rfl
theorem dksL_law_92 : cL_law.data.toList.drop 2331 = dktL_law_92 := dk_seg dksL_law_91 23 rfl rfl
theorem dksL_law_93 : cL_law.data.toList.drop 2355 = dktL_law_93 := dk_seg dksL_law_92 24 rfl rfl
theorem dL_law_0 : decode cL_law 0 = .ok (.new 8, 3) := dk_187 0 8 (dk_at dksL_law_0 0 rfl rfl)
theorem dL_law_3 : decode cL_law 3 = .ok (.dup, 1) := dk_89 (dk_at dksL_law_0 3 rfl rfl)
theorem dL_law_4 : decode cL_law 4 = .ok (.invokespecial 116, 3) := dk_183 0 116 (dk_at dksL_law_0 4 rfl rfl)
theorem dL_law_7 : decode cL_law 7 = .ok (.astore_n 1, 1) := dk_76 (dk_at dksL_law_0 7 rfl rfl)
theorem dL_law_8 : decode cL_law 8 = .ok (.new 117, 3) := dk_187 0 117 (dk_at dksL_law_0 8 rfl rfl)
theorem dL_law_11 : decode cL_law 11 = .ok (.dup, 1) := dk_89 (dk_at dksL_law_0 11 rfl rfl)
theorem dL_law_12 : decode cL_law 12 = .ok (.invokespecial 119, 3) := dk_183 0 119 (dk_at dksL_law_0 12 rfl rfl)
theorem dL_law_15 : decode cL_law 15 = .ok (.astore_n 2, 1) := dk_77 (dk_at dksL_law_0 15 rfl rfl)
theorem dL_law_16 : decode cL_law 16 = .ok (.iconst 1, 1) := dk_4 (dk_at dksL_law_0 16 rfl rfl)
theorem dL_law_17 : decode cL_law 17 = .ok (.newarray .long, 2) := dk_188_11 (dk_at dksL_law_0 17 rfl rfl)
theorem dL_law_19 : decode cL_law 19 = .ok (.astore_n 3, 1) := dk_78 (dk_at dksL_law_0 19 rfl rfl)
theorem dL_law_20 : decode cL_law 20 = .ok (.iconst 0, 1) := dk_3 (dk_at dksL_law_0 20 rfl rfl)
theorem dL_law_21 : decode cL_law 21 = .ok (.istore 4, 2) := dk_54 4 (dk_at dksL_law_0 21 rfl rfl)
theorem dL_law_23 : decode cL_law 23 = .ok (.iload 4, 2) := dk_21 4 (dk_at dksL_law_1 0 rfl rfl)
theorem dL_law_25 : decode cL_law 25 = .ok (.aload_n 0, 1) := dk_42 (dk_at dksL_law_1 2 rfl rfl)
theorem dL_law_26 : decode cL_law 26 = .ok (.arraylength, 1) := dk_190 (dk_at dksL_law_1 3 rfl rfl)
theorem dL_law_27 : decode cL_law 27 = .ok (.bipush 6, 2) := dk_16 6 (dk_at dksL_law_1 4 rfl rfl)
theorem dL_law_29 : decode cL_law 29 = .ok (.isub, 1) := dk_100 (dk_at dksL_law_1 6 rfl rfl)
theorem dL_law_30 : decode cL_law 30 = .ok (.if_icmp .gt 2347, 3) := dk_163 9 43 (dk_at dksL_law_1 7 rfl rfl)
theorem dL_law_33 : decode cL_law 33 = .ok (.aload_n 0, 1) := dk_42 (dk_at dksL_law_1 10 rfl rfl)
theorem dL_law_34 : decode cL_law 34 = .ok (.iload 4, 2) := dk_21 4 (dk_at dksL_law_1 11 rfl rfl)
theorem dL_law_36 : decode cL_law 36 = .ok (.iaload, 1) := dk_46 (dk_at dksL_law_1 13 rfl rfl)
theorem dL_law_37 : decode cL_law 37 = .ok (.bipush 63, 2) := dk_16 63 (dk_at dksL_law_1 14 rfl rfl)
theorem dL_law_39 : decode cL_law 39 = .ok (.iand, 1) := dk_126 (dk_at dksL_law_1 16 rfl rfl)
theorem dL_law_40 : decode cL_law 40 = .ok (.tableswitch 2331 0 49 #[216, 229, 242, 298, 354, 458, 526, 582, 662, 718, 762, 866, 879, 923, 979, 1023, 1067, 1111, 1167, 1235, 1291, 1347, 1360, 1373, 1386, 1399, 1412, 1425, 1438, 1451, 1507, 1563, 1619, 1632, 1688, 1701, 1757, 1770, 1838, 1851, 1907, 1975, 1988, 2001, 2057, 2113, 2205, 2218, 2262, 2318], 216) := by decide +kernel
theorem dL_law_256 : decode cL_law 256 = .ok (.aload_n 1, 1) := dk_43 (dk_at dksL_law_3 0 rfl rfl)
theorem dL_law_257 : decode cL_law 257 = .ok (.invokevirtual 120, 3) := dk_182 0 120 (dk_at dksL_law_3 1 rfl rfl)
theorem dL_law_260 : decode cL_law 260 = .ok (.aload_n 2, 1) := dk_44 (dk_at dksL_law_3 4 rfl rfl)
theorem dL_law_261 : decode cL_law 261 = .ok (.invokevirtual 123, 3) := dk_182 0 123 (dk_at dksL_law_3 5 rfl rfl)
theorem dL_law_264 : decode cL_law 264 = .ok (.if_icmp .eq 2107, 3) := dk_159 8 59 (dk_at dksL_law_3 8 rfl rfl)
theorem dL_law_267 : decode cL_law 267 = .ok (.iconst 0, 1) := dk_3 (dk_at dksL_law_3 11 rfl rfl)
theorem dL_law_268 : decode cL_law 268 = .ok (.ireturn, 1) := dk_172 (dk_at dksL_law_3 12 rfl rfl)
theorem dL_law_269 : decode cL_law 269 = .ok (.aload_n 1, 1) := dk_43 (dk_at dksL_law_3 13 rfl rfl)
theorem dL_law_270 : decode cL_law 270 = .ok (.invokevirtual 124, 3) := dk_182 0 124 (dk_at dksL_law_3 14 rfl rfl)
theorem dL_law_273 : decode cL_law 273 = .ok (.aload_n 2, 1) := dk_44 (dk_at dksL_law_3 17 rfl rfl)
theorem dL_law_274 : decode cL_law 274 = .ok (.invokevirtual 127, 3) := dk_182 0 127 (dk_at dksL_law_3 18 rfl rfl)
theorem dL_law_277 : decode cL_law 277 = .ok (.if_icmp .eq 2094, 3) := dk_159 8 46 (dk_at dksL_law_3 21 rfl rfl)
theorem dL_law_280 : decode cL_law 280 = .ok (.iconst 0, 1) := dk_3 (dk_at dksL_law_4 0 rfl rfl)
theorem dL_law_281 : decode cL_law 281 = .ok (.ireturn, 1) := dk_172 (dk_at dksL_law_4 1 rfl rfl)
theorem dL_law_282 : decode cL_law 282 = .ok (.aload_n 1, 1) := dk_43 (dk_at dksL_law_4 2 rfl rfl)
theorem dL_law_283 : decode cL_law 283 = .ok (.aload_n 0, 1) := dk_42 (dk_at dksL_law_4 3 rfl rfl)
theorem dL_law_284 : decode cL_law 284 = .ok (.iload 4, 2) := dk_21 4 (dk_at dksL_law_4 4 rfl rfl)
theorem dL_law_286 : decode cL_law 286 = .ok (.iconst 1, 1) := dk_4 (dk_at dksL_law_4 6 rfl rfl)
theorem dL_law_287 : decode cL_law 287 = .ok (.iadd, 1) := dk_96 (dk_at dksL_law_4 7 rfl rfl)
theorem dL_law_288 : decode cL_law 288 = .ok (.iaload, 1) := dk_46 (dk_at dksL_law_4 8 rfl rfl)
theorem dL_law_289 : decode cL_law 289 = .ok (.aload_n 3, 1) := dk_45 (dk_at dksL_law_4 9 rfl rfl)
theorem dL_law_290 : decode cL_law 290 = .ok (.invokestatic 128, 3) := dk_184 0 128 (dk_at dksL_law_4 10 rfl rfl)
theorem dL_law_293 : decode cL_law 293 = .ok (.istore 5, 2) := dk_54 5 (dk_at dksL_law_4 13 rfl rfl)
theorem dL_law_295 : decode cL_law 295 = .ok (.aload_n 2, 1) := dk_44 (dk_at dksL_law_4 15 rfl rfl)
theorem dL_law_296 : decode cL_law 296 = .ok (.aload_n 0, 1) := dk_42 (dk_at dksL_law_4 16 rfl rfl)
theorem dL_law_297 : decode cL_law 297 = .ok (.iload 4, 2) := dk_21 4 (dk_at dksL_law_4 17 rfl rfl)
theorem dL_law_299 : decode cL_law 299 = .ok (.iconst 1, 1) := dk_4 (dk_at dksL_law_4 19 rfl rfl)
theorem dL_law_300 : decode cL_law 300 = .ok (.iadd, 1) := dk_96 (dk_at dksL_law_4 20 rfl rfl)
theorem dL_law_301 : decode cL_law 301 = .ok (.iaload, 1) := dk_46 (dk_at dksL_law_4 21 rfl rfl)
theorem dL_law_302 : decode cL_law 302 = .ok (.invokevirtual 133, 3) := dk_182 0 133 (dk_at dksL_law_5 0 rfl rfl)
theorem dL_law_305 : decode cL_law 305 = .ok (.istore 6, 2) := dk_54 6 (dk_at dksL_law_5 3 rfl rfl)
theorem dL_law_307 : decode cL_law 307 = .ok (.aload_n 2, 1) := dk_44 (dk_at dksL_law_5 5 rfl rfl)
theorem dL_law_308 : decode cL_law 308 = .ok (.invokevirtual 134, 3) := dk_182 0 134 (dk_at dksL_law_5 6 rfl rfl)
theorem dL_law_311 : decode cL_law 311 = .ok (.iload 5, 2) := dk_21 5 (dk_at dksL_law_5 9 rfl rfl)
theorem dL_law_313 : decode cL_law 313 = .ok (.if_icmp .eq 5, 3) := dk_159 0 5 (dk_at dksL_law_5 11 rfl rfl)
theorem dL_law_316 : decode cL_law 316 = .ok (.iconst 0, 1) := dk_3 (dk_at dksL_law_5 14 rfl rfl)
theorem dL_law_317 : decode cL_law 317 = .ok (.ireturn, 1) := dk_172 (dk_at dksL_law_5 15 rfl rfl)
theorem dL_law_318 : decode cL_law 318 = .ok (.iload 5, 2) := dk_21 5 (dk_at dksL_law_5 16 rfl rfl)
theorem dL_law_320 : decode cL_law 320 = .ok (.ifCond .ne 15, 3) := dk_154 0 15 (dk_at dksL_law_5 18 rfl rfl)
theorem dL_law_323 : decode cL_law 323 = .ok (.aload_n 3, 1) := dk_45 (dk_at dksL_law_5 21 rfl rfl)
theorem dL_law_324 : decode cL_law 324 = .ok (.iconst 0, 1) := dk_3 (dk_at dksL_law_5 22 rfl rfl)
theorem dL_law_325 : decode cL_law 325 = .ok (.laload, 1) := dk_47 (dk_at dksL_law_5 23 rfl rfl)
theorem dL_law_326 : decode cL_law 326 = .ok (.iload 6, 2) := dk_21 6 (dk_at dksL_law_6 0 rfl rfl)
theorem dL_law_328 : decode cL_law 328 = .ok (.i2l, 1) := dk_133 (dk_at dksL_law_6 2 rfl rfl)
theorem dL_law_329 : decode cL_law 329 = .ok (.lcmp, 1) := dk_148 (dk_at dksL_law_6 3 rfl rfl)
theorem dL_law_330 : decode cL_law 330 = .ok (.ifCond .eq 5, 3) := dk_153 0 5 (dk_at dksL_law_6 4 rfl rfl)
theorem dL_law_333 : decode cL_law 333 = .ok (.iconst 0, 1) := dk_3 (dk_at dksL_law_6 7 rfl rfl)
theorem dL_law_334 : decode cL_law 334 = .ok (.ireturn, 1) := dk_172 (dk_at dksL_law_6 8 rfl rfl)
theorem dL_law_335 : decode cL_law 335 = .ok (.goto 2036, 3) := dk_167 7 244 (dk_at dksL_law_6 9 rfl rfl)
theorem dL_law_338 : decode cL_law 338 = .ok (.aload_n 1, 1) := dk_43 (dk_at dksL_law_6 12 rfl rfl)
theorem dL_law_339 : decode cL_law 339 = .ok (.aload_n 0, 1) := dk_42 (dk_at dksL_law_6 13 rfl rfl)
theorem dL_law_340 : decode cL_law 340 = .ok (.iload 4, 2) := dk_21 4 (dk_at dksL_law_6 14 rfl rfl)
theorem dL_law_342 : decode cL_law 342 = .ok (.iconst 1, 1) := dk_4 (dk_at dksL_law_6 16 rfl rfl)
theorem dL_law_343 : decode cL_law 343 = .ok (.iadd, 1) := dk_96 (dk_at dksL_law_6 17 rfl rfl)
theorem dL_law_344 : decode cL_law 344 = .ok (.iaload, 1) := dk_46 (dk_at dksL_law_6 18 rfl rfl)
theorem dL_law_345 : decode cL_law 345 = .ok (.aload_n 3, 1) := dk_45 (dk_at dksL_law_6 19 rfl rfl)
theorem dL_law_346 : decode cL_law 346 = .ok (.invokestatic 137, 3) := dk_184 0 137 (dk_at dksL_law_6 20 rfl rfl)
theorem dL_law_349 : decode cL_law 349 = .ok (.istore 5, 2) := dk_54 5 (dk_at dksL_law_7 0 rfl rfl)
theorem dL_law_351 : decode cL_law 351 = .ok (.aload_n 2, 1) := dk_44 (dk_at dksL_law_7 2 rfl rfl)
theorem dL_law_352 : decode cL_law 352 = .ok (.aload_n 0, 1) := dk_42 (dk_at dksL_law_7 3 rfl rfl)
theorem dL_law_353 : decode cL_law 353 = .ok (.iload 4, 2) := dk_21 4 (dk_at dksL_law_7 4 rfl rfl)
theorem dL_law_355 : decode cL_law 355 = .ok (.iconst 1, 1) := dk_4 (dk_at dksL_law_7 6 rfl rfl)
theorem dL_law_356 : decode cL_law 356 = .ok (.iadd, 1) := dk_96 (dk_at dksL_law_7 7 rfl rfl)
theorem dL_law_357 : decode cL_law 357 = .ok (.iaload, 1) := dk_46 (dk_at dksL_law_7 8 rfl rfl)
theorem dL_law_358 : decode cL_law 358 = .ok (.invokevirtual 139, 3) := dk_182 0 139 (dk_at dksL_law_7 9 rfl rfl)
theorem dL_law_361 : decode cL_law 361 = .ok (.istore 6, 2) := dk_54 6 (dk_at dksL_law_7 12 rfl rfl)
theorem dL_law_363 : decode cL_law 363 = .ok (.aload_n 2, 1) := dk_44 (dk_at dksL_law_7 14 rfl rfl)
theorem dL_law_364 : decode cL_law 364 = .ok (.invokevirtual 134, 3) := dk_182 0 134 (dk_at dksL_law_7 15 rfl rfl)
theorem dL_law_367 : decode cL_law 367 = .ok (.iload 5, 2) := dk_21 5 (dk_at dksL_law_7 18 rfl rfl)
theorem dL_law_369 : decode cL_law 369 = .ok (.if_icmp .eq 5, 3) := dk_159 0 5 (dk_at dksL_law_7 20 rfl rfl)
theorem dL_law_372 : decode cL_law 372 = .ok (.iconst 0, 1) := dk_3 (dk_at dksL_law_7 23 rfl rfl)
theorem dL_law_373 : decode cL_law 373 = .ok (.ireturn, 1) := dk_172 (dk_at dksL_law_8 0 rfl rfl)
theorem dL_law_374 : decode cL_law 374 = .ok (.iload 5, 2) := dk_21 5 (dk_at dksL_law_8 1 rfl rfl)
theorem dL_law_376 : decode cL_law 376 = .ok (.ifCond .ne 15, 3) := dk_154 0 15 (dk_at dksL_law_8 3 rfl rfl)
theorem dL_law_379 : decode cL_law 379 = .ok (.aload_n 3, 1) := dk_45 (dk_at dksL_law_8 6 rfl rfl)
theorem dL_law_380 : decode cL_law 380 = .ok (.iconst 0, 1) := dk_3 (dk_at dksL_law_8 7 rfl rfl)
theorem dL_law_381 : decode cL_law 381 = .ok (.laload, 1) := dk_47 (dk_at dksL_law_8 8 rfl rfl)
theorem dL_law_382 : decode cL_law 382 = .ok (.iload 6, 2) := dk_21 6 (dk_at dksL_law_8 9 rfl rfl)
theorem dL_law_384 : decode cL_law 384 = .ok (.i2l, 1) := dk_133 (dk_at dksL_law_8 11 rfl rfl)
theorem dL_law_385 : decode cL_law 385 = .ok (.lcmp, 1) := dk_148 (dk_at dksL_law_8 12 rfl rfl)
theorem dL_law_386 : decode cL_law 386 = .ok (.ifCond .eq 5, 3) := dk_153 0 5 (dk_at dksL_law_8 13 rfl rfl)
theorem dL_law_389 : decode cL_law 389 = .ok (.iconst 0, 1) := dk_3 (dk_at dksL_law_8 16 rfl rfl)
theorem dL_law_390 : decode cL_law 390 = .ok (.ireturn, 1) := dk_172 (dk_at dksL_law_8 17 rfl rfl)
theorem dL_law_391 : decode cL_law 391 = .ok (.goto 1980, 3) := dk_167 7 188 (dk_at dksL_law_8 18 rfl rfl)
theorem dL_law_394 : decode cL_law 394 = .ok (.aload_n 1, 1) := dk_43 (dk_at dksL_law_8 21 rfl rfl)
theorem dL_law_395 : decode cL_law 395 = .ok (.aload_n 0, 1) := dk_42 (dk_at dksL_law_8 22 rfl rfl)
theorem dL_law_396 : decode cL_law 396 = .ok (.iload 4, 2) := dk_21 4 (dk_at dksL_law_9 0 rfl rfl)
theorem dL_law_398 : decode cL_law 398 = .ok (.iconst 1, 1) := dk_4 (dk_at dksL_law_9 2 rfl rfl)
theorem dL_law_399 : decode cL_law 399 = .ok (.iadd, 1) := dk_96 (dk_at dksL_law_9 3 rfl rfl)
theorem dL_law_400 : decode cL_law 400 = .ok (.iaload, 1) := dk_46 (dk_at dksL_law_9 4 rfl rfl)
theorem dL_law_401 : decode cL_law 401 = .ok (.aload_n 0, 1) := dk_42 (dk_at dksL_law_9 5 rfl rfl)
theorem dL_law_402 : decode cL_law 402 = .ok (.iload 4, 2) := dk_21 4 (dk_at dksL_law_9 6 rfl rfl)
theorem dL_law_404 : decode cL_law 404 = .ok (.iconst 2, 1) := dk_5 (dk_at dksL_law_9 8 rfl rfl)
theorem dL_law_405 : decode cL_law 405 = .ok (.iadd, 1) := dk_96 (dk_at dksL_law_9 9 rfl rfl)
theorem dL_law_406 : decode cL_law 406 = .ok (.iaload, 1) := dk_46 (dk_at dksL_law_9 10 rfl rfl)
theorem dL_law_407 : decode cL_law 407 = .ok (.aload_n 0, 1) := dk_42 (dk_at dksL_law_9 11 rfl rfl)
theorem dL_law_408 : decode cL_law 408 = .ok (.iload 4, 2) := dk_21 4 (dk_at dksL_law_9 12 rfl rfl)
theorem dL_law_410 : decode cL_law 410 = .ok (.iconst 3, 1) := dk_6 (dk_at dksL_law_9 14 rfl rfl)
theorem dL_law_411 : decode cL_law 411 = .ok (.iadd, 1) := dk_96 (dk_at dksL_law_9 15 rfl rfl)
theorem dL_law_412 : decode cL_law 412 = .ok (.iaload, 1) := dk_46 (dk_at dksL_law_9 16 rfl rfl)
theorem dL_law_413 : decode cL_law 413 = .ok (.aload_n 0, 1) := dk_42 (dk_at dksL_law_9 17 rfl rfl)
theorem dL_law_414 : decode cL_law 414 = .ok (.iload 4, 2) := dk_21 4 (dk_at dksL_law_9 18 rfl rfl)
theorem dL_law_416 : decode cL_law 416 = .ok (.iconst 4, 1) := dk_7 (dk_at dksL_law_9 20 rfl rfl)
theorem dL_law_417 : decode cL_law 417 = .ok (.iadd, 1) := dk_96 (dk_at dksL_law_9 21 rfl rfl)
theorem dL_law_418 : decode cL_law 418 = .ok (.iaload, 1) := dk_46 (dk_at dksL_law_9 22 rfl rfl)
theorem dL_law_419 : decode cL_law 419 = .ok (.aload_n 0, 1) := dk_42 (dk_at dksL_law_9 23 rfl rfl)
theorem dL_law_420 : decode cL_law 420 = .ok (.iload 4, 2) := dk_21 4 (dk_at dksL_law_10 0 rfl rfl)
theorem dL_law_422 : decode cL_law 422 = .ok (.iconst 5, 1) := dk_8 (dk_at dksL_law_10 2 rfl rfl)
theorem dL_law_423 : decode cL_law 423 = .ok (.iadd, 1) := dk_96 (dk_at dksL_law_10 3 rfl rfl)
theorem dL_law_424 : decode cL_law 424 = .ok (.iaload, 1) := dk_46 (dk_at dksL_law_10 4 rfl rfl)
theorem dL_law_425 : decode cL_law 425 = .ok (.aload_n 3, 1) := dk_45 (dk_at dksL_law_10 5 rfl rfl)
theorem dL_law_426 : decode cL_law 426 = .ok (.invokestatic 140, 3) := dk_184 0 140 (dk_at dksL_law_10 6 rfl rfl)
theorem dL_law_429 : decode cL_law 429 = .ok (.istore 5, 2) := dk_54 5 (dk_at dksL_law_10 9 rfl rfl)
theorem dL_law_431 : decode cL_law 431 = .ok (.aload_n 2, 1) := dk_44 (dk_at dksL_law_10 11 rfl rfl)
theorem dL_law_432 : decode cL_law 432 = .ok (.aload_n 0, 1) := dk_42 (dk_at dksL_law_10 12 rfl rfl)
theorem dL_law_433 : decode cL_law 433 = .ok (.iload 4, 2) := dk_21 4 (dk_at dksL_law_10 13 rfl rfl)
theorem dL_law_435 : decode cL_law 435 = .ok (.iconst 1, 1) := dk_4 (dk_at dksL_law_10 15 rfl rfl)
theorem dL_law_436 : decode cL_law 436 = .ok (.iadd, 1) := dk_96 (dk_at dksL_law_10 16 rfl rfl)
theorem dL_law_437 : decode cL_law 437 = .ok (.iaload, 1) := dk_46 (dk_at dksL_law_10 17 rfl rfl)
theorem dL_law_438 : decode cL_law 438 = .ok (.aload_n 0, 1) := dk_42 (dk_at dksL_law_10 18 rfl rfl)
theorem dL_law_439 : decode cL_law 439 = .ok (.iload 4, 2) := dk_21 4 (dk_at dksL_law_10 19 rfl rfl)
theorem dL_law_441 : decode cL_law 441 = .ok (.iconst 2, 1) := dk_5 (dk_at dksL_law_10 21 rfl rfl)
theorem dL_law_442 : decode cL_law 442 = .ok (.iadd, 1) := dk_96 (dk_at dksL_law_10 22 rfl rfl)
theorem dL_law_443 : decode cL_law 443 = .ok (.iaload, 1) := dk_46 (dk_at dksL_law_10 23 rfl rfl)
theorem dL_law_444 : decode cL_law 444 = .ok (.aload_n 0, 1) := dk_42 (dk_at dksL_law_11 0 rfl rfl)
theorem dL_law_445 : decode cL_law 445 = .ok (.iload 4, 2) := dk_21 4 (dk_at dksL_law_11 1 rfl rfl)
theorem dL_law_447 : decode cL_law 447 = .ok (.iconst 3, 1) := dk_6 (dk_at dksL_law_11 3 rfl rfl)
theorem dL_law_448 : decode cL_law 448 = .ok (.iadd, 1) := dk_96 (dk_at dksL_law_11 4 rfl rfl)
theorem dL_law_449 : decode cL_law 449 = .ok (.iaload, 1) := dk_46 (dk_at dksL_law_11 5 rfl rfl)
theorem dL_law_450 : decode cL_law 450 = .ok (.aload_n 0, 1) := dk_42 (dk_at dksL_law_11 6 rfl rfl)
theorem dL_law_451 : decode cL_law 451 = .ok (.iload 4, 2) := dk_21 4 (dk_at dksL_law_11 7 rfl rfl)
theorem dL_law_453 : decode cL_law 453 = .ok (.iconst 4, 1) := dk_7 (dk_at dksL_law_11 9 rfl rfl)
theorem dL_law_454 : decode cL_law 454 = .ok (.iadd, 1) := dk_96 (dk_at dksL_law_11 10 rfl rfl)
theorem dL_law_455 : decode cL_law 455 = .ok (.iaload, 1) := dk_46 (dk_at dksL_law_11 11 rfl rfl)
theorem dL_law_456 : decode cL_law 456 = .ok (.aload_n 0, 1) := dk_42 (dk_at dksL_law_11 12 rfl rfl)
theorem dL_law_457 : decode cL_law 457 = .ok (.iload 4, 2) := dk_21 4 (dk_at dksL_law_11 13 rfl rfl)
theorem dL_law_459 : decode cL_law 459 = .ok (.iconst 5, 1) := dk_8 (dk_at dksL_law_11 15 rfl rfl)
theorem dL_law_460 : decode cL_law 460 = .ok (.iadd, 1) := dk_96 (dk_at dksL_law_11 16 rfl rfl)
theorem dL_law_461 : decode cL_law 461 = .ok (.iaload, 1) := dk_46 (dk_at dksL_law_11 17 rfl rfl)
theorem dL_law_462 : decode cL_law 462 = .ok (.invokevirtual 143, 3) := dk_182 0 143 (dk_at dksL_law_11 18 rfl rfl)
theorem dL_law_465 : decode cL_law 465 = .ok (.istore 6, 2) := dk_54 6 (dk_at dksL_law_11 21 rfl rfl)
theorem dL_law_467 : decode cL_law 467 = .ok (.aload_n 2, 1) := dk_44 (dk_at dksL_law_11 23 rfl rfl)
theorem dL_law_468 : decode cL_law 468 = .ok (.invokevirtual 134, 3) := dk_182 0 134 (dk_at dksL_law_12 0 rfl rfl)
theorem dL_law_471 : decode cL_law 471 = .ok (.iload 5, 2) := dk_21 5 (dk_at dksL_law_12 3 rfl rfl)
theorem dL_law_473 : decode cL_law 473 = .ok (.if_icmp .eq 5, 3) := dk_159 0 5 (dk_at dksL_law_12 5 rfl rfl)
theorem dL_law_476 : decode cL_law 476 = .ok (.iconst 0, 1) := dk_3 (dk_at dksL_law_12 8 rfl rfl)
theorem dL_law_477 : decode cL_law 477 = .ok (.ireturn, 1) := dk_172 (dk_at dksL_law_12 9 rfl rfl)
theorem dL_law_478 : decode cL_law 478 = .ok (.iload 5, 2) := dk_21 5 (dk_at dksL_law_12 10 rfl rfl)
theorem dL_law_480 : decode cL_law 480 = .ok (.ifCond .ne 15, 3) := dk_154 0 15 (dk_at dksL_law_12 12 rfl rfl)
theorem dL_law_483 : decode cL_law 483 = .ok (.aload_n 3, 1) := dk_45 (dk_at dksL_law_12 15 rfl rfl)
theorem dL_law_484 : decode cL_law 484 = .ok (.iconst 0, 1) := dk_3 (dk_at dksL_law_12 16 rfl rfl)
theorem dL_law_485 : decode cL_law 485 = .ok (.laload, 1) := dk_47 (dk_at dksL_law_12 17 rfl rfl)
theorem dL_law_486 : decode cL_law 486 = .ok (.iload 6, 2) := dk_21 6 (dk_at dksL_law_12 18 rfl rfl)
theorem dL_law_488 : decode cL_law 488 = .ok (.i2l, 1) := dk_133 (dk_at dksL_law_12 20 rfl rfl)
theorem dL_law_489 : decode cL_law 489 = .ok (.lcmp, 1) := dk_148 (dk_at dksL_law_12 21 rfl rfl)
theorem dL_law_490 : decode cL_law 490 = .ok (.ifCond .eq 5, 3) := dk_153 0 5 (dk_at dksL_law_13 0 rfl rfl)
theorem dL_law_493 : decode cL_law 493 = .ok (.iconst 0, 1) := dk_3 (dk_at dksL_law_13 3 rfl rfl)
theorem dL_law_494 : decode cL_law 494 = .ok (.ireturn, 1) := dk_172 (dk_at dksL_law_13 4 rfl rfl)
theorem dL_law_495 : decode cL_law 495 = .ok (.goto 1876, 3) := dk_167 7 84 (dk_at dksL_law_13 5 rfl rfl)
theorem dL_law_498 : decode cL_law 498 = .ok (.aload_n 1, 1) := dk_43 (dk_at dksL_law_13 8 rfl rfl)
theorem dL_law_499 : decode cL_law 499 = .ok (.aload_n 0, 1) := dk_42 (dk_at dksL_law_13 9 rfl rfl)
theorem dL_law_500 : decode cL_law 500 = .ok (.iload 4, 2) := dk_21 4 (dk_at dksL_law_13 10 rfl rfl)
theorem dL_law_502 : decode cL_law 502 = .ok (.iconst 1, 1) := dk_4 (dk_at dksL_law_13 12 rfl rfl)
theorem dL_law_503 : decode cL_law 503 = .ok (.iadd, 1) := dk_96 (dk_at dksL_law_13 13 rfl rfl)
theorem dL_law_504 : decode cL_law 504 = .ok (.iaload, 1) := dk_46 (dk_at dksL_law_13 14 rfl rfl)
theorem dL_law_505 : decode cL_law 505 = .ok (.aload_n 0, 1) := dk_42 (dk_at dksL_law_13 15 rfl rfl)
theorem dL_law_506 : decode cL_law 506 = .ok (.iload 4, 2) := dk_21 4 (dk_at dksL_law_13 16 rfl rfl)
theorem dL_law_508 : decode cL_law 508 = .ok (.iconst 2, 1) := dk_5 (dk_at dksL_law_13 18 rfl rfl)
theorem dL_law_509 : decode cL_law 509 = .ok (.iadd, 1) := dk_96 (dk_at dksL_law_13 19 rfl rfl)
theorem dL_law_510 : decode cL_law 510 = .ok (.iaload, 1) := dk_46 (dk_at dksL_law_13 20 rfl rfl)
theorem dL_law_511 : decode cL_law 511 = .ok (.aload_n 3, 1) := dk_45 (dk_at dksL_law_13 21 rfl rfl)
theorem dL_law_512 : decode cL_law 512 = .ok (.invokestatic 144, 3) := dk_184 0 144 (dk_at dksL_law_14 0 rfl rfl)
theorem dL_law_515 : decode cL_law 515 = .ok (.istore 5, 2) := dk_54 5 (dk_at dksL_law_14 3 rfl rfl)
theorem dL_law_517 : decode cL_law 517 = .ok (.aload_n 2, 1) := dk_44 (dk_at dksL_law_14 5 rfl rfl)
theorem dL_law_518 : decode cL_law 518 = .ok (.aload_n 0, 1) := dk_42 (dk_at dksL_law_14 6 rfl rfl)
theorem dL_law_519 : decode cL_law 519 = .ok (.iload 4, 2) := dk_21 4 (dk_at dksL_law_14 7 rfl rfl)
theorem dL_law_521 : decode cL_law 521 = .ok (.iconst 1, 1) := dk_4 (dk_at dksL_law_14 9 rfl rfl)
theorem dL_law_522 : decode cL_law 522 = .ok (.iadd, 1) := dk_96 (dk_at dksL_law_14 10 rfl rfl)
theorem dL_law_523 : decode cL_law 523 = .ok (.iaload, 1) := dk_46 (dk_at dksL_law_14 11 rfl rfl)
theorem dL_law_524 : decode cL_law 524 = .ok (.aload_n 0, 1) := dk_42 (dk_at dksL_law_14 12 rfl rfl)
theorem dL_law_525 : decode cL_law 525 = .ok (.iload 4, 2) := dk_21 4 (dk_at dksL_law_14 13 rfl rfl)
theorem dL_law_527 : decode cL_law 527 = .ok (.iconst 2, 1) := dk_5 (dk_at dksL_law_14 15 rfl rfl)
theorem dL_law_528 : decode cL_law 528 = .ok (.iadd, 1) := dk_96 (dk_at dksL_law_14 16 rfl rfl)
theorem dL_law_529 : decode cL_law 529 = .ok (.iaload, 1) := dk_46 (dk_at dksL_law_14 17 rfl rfl)
theorem dL_law_530 : decode cL_law 530 = .ok (.invokevirtual 147, 3) := dk_182 0 147 (dk_at dksL_law_14 18 rfl rfl)
theorem dL_law_533 : decode cL_law 533 = .ok (.istore 6, 2) := dk_54 6 (dk_at dksL_law_14 21 rfl rfl)
theorem dL_law_535 : decode cL_law 535 = .ok (.aload_n 2, 1) := dk_44 (dk_at dksL_law_14 23 rfl rfl)
theorem dL_law_536 : decode cL_law 536 = .ok (.invokevirtual 134, 3) := dk_182 0 134 (dk_at dksL_law_15 0 rfl rfl)
theorem dL_law_539 : decode cL_law 539 = .ok (.iload 5, 2) := dk_21 5 (dk_at dksL_law_15 3 rfl rfl)
theorem dL_law_541 : decode cL_law 541 = .ok (.if_icmp .eq 5, 3) := dk_159 0 5 (dk_at dksL_law_15 5 rfl rfl)
theorem dL_law_544 : decode cL_law 544 = .ok (.iconst 0, 1) := dk_3 (dk_at dksL_law_15 8 rfl rfl)
theorem dL_law_545 : decode cL_law 545 = .ok (.ireturn, 1) := dk_172 (dk_at dksL_law_15 9 rfl rfl)
theorem dL_law_546 : decode cL_law 546 = .ok (.iload 5, 2) := dk_21 5 (dk_at dksL_law_15 10 rfl rfl)
theorem dL_law_548 : decode cL_law 548 = .ok (.ifCond .ne 15, 3) := dk_154 0 15 (dk_at dksL_law_15 12 rfl rfl)
theorem dL_law_551 : decode cL_law 551 = .ok (.aload_n 3, 1) := dk_45 (dk_at dksL_law_15 15 rfl rfl)
theorem dL_law_552 : decode cL_law 552 = .ok (.iconst 0, 1) := dk_3 (dk_at dksL_law_15 16 rfl rfl)
theorem dL_law_553 : decode cL_law 553 = .ok (.laload, 1) := dk_47 (dk_at dksL_law_15 17 rfl rfl)
theorem dL_law_554 : decode cL_law 554 = .ok (.iload 6, 2) := dk_21 6 (dk_at dksL_law_15 18 rfl rfl)
theorem dL_law_556 : decode cL_law 556 = .ok (.i2l, 1) := dk_133 (dk_at dksL_law_15 20 rfl rfl)
theorem dL_law_557 : decode cL_law 557 = .ok (.lcmp, 1) := dk_148 (dk_at dksL_law_15 21 rfl rfl)
theorem dL_law_558 : decode cL_law 558 = .ok (.ifCond .eq 5, 3) := dk_153 0 5 (dk_at dksL_law_16 0 rfl rfl)
theorem dL_law_561 : decode cL_law 561 = .ok (.iconst 0, 1) := dk_3 (dk_at dksL_law_16 3 rfl rfl)
theorem dL_law_562 : decode cL_law 562 = .ok (.ireturn, 1) := dk_172 (dk_at dksL_law_16 4 rfl rfl)
theorem dL_law_563 : decode cL_law 563 = .ok (.goto 1808, 3) := dk_167 7 16 (dk_at dksL_law_16 5 rfl rfl)
theorem dL_law_566 : decode cL_law 566 = .ok (.aload_n 1, 1) := dk_43 (dk_at dksL_law_16 8 rfl rfl)
theorem dL_law_567 : decode cL_law 567 = .ok (.aload_n 0, 1) := dk_42 (dk_at dksL_law_16 9 rfl rfl)
theorem dL_law_568 : decode cL_law 568 = .ok (.iload 4, 2) := dk_21 4 (dk_at dksL_law_16 10 rfl rfl)
theorem dL_law_570 : decode cL_law 570 = .ok (.iconst 1, 1) := dk_4 (dk_at dksL_law_16 12 rfl rfl)
theorem dL_law_571 : decode cL_law 571 = .ok (.iadd, 1) := dk_96 (dk_at dksL_law_16 13 rfl rfl)
theorem dL_law_572 : decode cL_law 572 = .ok (.iaload, 1) := dk_46 (dk_at dksL_law_16 14 rfl rfl)
theorem dL_law_573 : decode cL_law 573 = .ok (.aload_n 3, 1) := dk_45 (dk_at dksL_law_16 15 rfl rfl)
theorem dL_law_574 : decode cL_law 574 = .ok (.invokestatic 148, 3) := dk_184 0 148 (dk_at dksL_law_16 16 rfl rfl)
theorem dL_law_577 : decode cL_law 577 = .ok (.istore 5, 2) := dk_54 5 (dk_at dksL_law_16 19 rfl rfl)
theorem dL_law_579 : decode cL_law 579 = .ok (.aload_n 2, 1) := dk_44 (dk_at dksL_law_16 21 rfl rfl)
theorem dL_law_580 : decode cL_law 580 = .ok (.aload_n 0, 1) := dk_42 (dk_at dksL_law_16 22 rfl rfl)
theorem dL_law_581 : decode cL_law 581 = .ok (.iload 4, 2) := dk_21 4 (dk_at dksL_law_17 0 rfl rfl)
theorem dL_law_583 : decode cL_law 583 = .ok (.iconst 1, 1) := dk_4 (dk_at dksL_law_17 2 rfl rfl)
theorem dL_law_584 : decode cL_law 584 = .ok (.iadd, 1) := dk_96 (dk_at dksL_law_17 3 rfl rfl)
theorem dL_law_585 : decode cL_law 585 = .ok (.iaload, 1) := dk_46 (dk_at dksL_law_17 4 rfl rfl)
theorem dL_law_586 : decode cL_law 586 = .ok (.invokevirtual 150, 3) := dk_182 0 150 (dk_at dksL_law_17 5 rfl rfl)
theorem dL_law_589 : decode cL_law 589 = .ok (.istore 6, 2) := dk_54 6 (dk_at dksL_law_17 8 rfl rfl)
theorem dL_law_591 : decode cL_law 591 = .ok (.aload_n 2, 1) := dk_44 (dk_at dksL_law_17 10 rfl rfl)
theorem dL_law_592 : decode cL_law 592 = .ok (.invokevirtual 134, 3) := dk_182 0 134 (dk_at dksL_law_17 11 rfl rfl)
theorem dL_law_595 : decode cL_law 595 = .ok (.iload 5, 2) := dk_21 5 (dk_at dksL_law_17 14 rfl rfl)
theorem dL_law_597 : decode cL_law 597 = .ok (.if_icmp .eq 5, 3) := dk_159 0 5 (dk_at dksL_law_17 16 rfl rfl)
theorem dL_law_600 : decode cL_law 600 = .ok (.iconst 0, 1) := dk_3 (dk_at dksL_law_17 19 rfl rfl)
theorem dL_law_601 : decode cL_law 601 = .ok (.ireturn, 1) := dk_172 (dk_at dksL_law_17 20 rfl rfl)
theorem dL_law_602 : decode cL_law 602 = .ok (.iload 5, 2) := dk_21 5 (dk_at dksL_law_17 21 rfl rfl)
theorem dL_law_604 : decode cL_law 604 = .ok (.ifCond .ne 15, 3) := dk_154 0 15 (dk_at dksL_law_18 0 rfl rfl)
theorem dL_law_607 : decode cL_law 607 = .ok (.aload_n 3, 1) := dk_45 (dk_at dksL_law_18 3 rfl rfl)
theorem dL_law_608 : decode cL_law 608 = .ok (.iconst 0, 1) := dk_3 (dk_at dksL_law_18 4 rfl rfl)
theorem dL_law_609 : decode cL_law 609 = .ok (.laload, 1) := dk_47 (dk_at dksL_law_18 5 rfl rfl)
theorem dL_law_610 : decode cL_law 610 = .ok (.iload 6, 2) := dk_21 6 (dk_at dksL_law_18 6 rfl rfl)
theorem dL_law_612 : decode cL_law 612 = .ok (.i2l, 1) := dk_133 (dk_at dksL_law_18 8 rfl rfl)
theorem dL_law_613 : decode cL_law 613 = .ok (.lcmp, 1) := dk_148 (dk_at dksL_law_18 9 rfl rfl)
theorem dL_law_614 : decode cL_law 614 = .ok (.ifCond .eq 5, 3) := dk_153 0 5 (dk_at dksL_law_18 10 rfl rfl)
theorem dL_law_617 : decode cL_law 617 = .ok (.iconst 0, 1) := dk_3 (dk_at dksL_law_18 13 rfl rfl)
theorem dL_law_618 : decode cL_law 618 = .ok (.ireturn, 1) := dk_172 (dk_at dksL_law_18 14 rfl rfl)
theorem dL_law_619 : decode cL_law 619 = .ok (.goto 1752, 3) := dk_167 6 216 (dk_at dksL_law_18 15 rfl rfl)
theorem dL_law_622 : decode cL_law 622 = .ok (.aload_n 1, 1) := dk_43 (dk_at dksL_law_18 18 rfl rfl)
theorem dL_law_623 : decode cL_law 623 = .ok (.aload_n 0, 1) := dk_42 (dk_at dksL_law_18 19 rfl rfl)
theorem dL_law_624 : decode cL_law 624 = .ok (.iload 4, 2) := dk_21 4 (dk_at dksL_law_18 20 rfl rfl)
theorem dL_law_626 : decode cL_law 626 = .ok (.iconst 1, 1) := dk_4 (dk_at dksL_law_18 22 rfl rfl)
theorem dL_law_627 : decode cL_law 627 = .ok (.iadd, 1) := dk_96 (dk_at dksL_law_18 23 rfl rfl)
theorem dL_law_628 : decode cL_law 628 = .ok (.iaload, 1) := dk_46 (dk_at dksL_law_19 0 rfl rfl)
theorem dL_law_629 : decode cL_law 629 = .ok (.aload_n 0, 1) := dk_42 (dk_at dksL_law_19 1 rfl rfl)
theorem dL_law_630 : decode cL_law 630 = .ok (.iload 4, 2) := dk_21 4 (dk_at dksL_law_19 2 rfl rfl)
theorem dL_law_632 : decode cL_law 632 = .ok (.iconst 2, 1) := dk_5 (dk_at dksL_law_19 4 rfl rfl)
theorem dL_law_633 : decode cL_law 633 = .ok (.iadd, 1) := dk_96 (dk_at dksL_law_19 5 rfl rfl)
theorem dL_law_634 : decode cL_law 634 = .ok (.iaload, 1) := dk_46 (dk_at dksL_law_19 6 rfl rfl)
theorem dL_law_635 : decode cL_law 635 = .ok (.aload_n 0, 1) := dk_42 (dk_at dksL_law_19 7 rfl rfl)
theorem dL_law_636 : decode cL_law 636 = .ok (.iload 4, 2) := dk_21 4 (dk_at dksL_law_19 8 rfl rfl)
theorem dL_law_638 : decode cL_law 638 = .ok (.iconst 3, 1) := dk_6 (dk_at dksL_law_19 10 rfl rfl)
theorem dL_law_639 : decode cL_law 639 = .ok (.iadd, 1) := dk_96 (dk_at dksL_law_19 11 rfl rfl)
theorem dL_law_640 : decode cL_law 640 = .ok (.iaload, 1) := dk_46 (dk_at dksL_law_19 12 rfl rfl)
theorem dL_law_641 : decode cL_law 641 = .ok (.aload_n 3, 1) := dk_45 (dk_at dksL_law_19 13 rfl rfl)
theorem dL_law_642 : decode cL_law 642 = .ok (.invokestatic 151, 3) := dk_184 0 151 (dk_at dksL_law_19 14 rfl rfl)
theorem dL_law_645 : decode cL_law 645 = .ok (.istore 5, 2) := dk_54 5 (dk_at dksL_law_19 17 rfl rfl)
theorem dL_law_647 : decode cL_law 647 = .ok (.aload_n 2, 1) := dk_44 (dk_at dksL_law_19 19 rfl rfl)
theorem dL_law_648 : decode cL_law 648 = .ok (.aload_n 0, 1) := dk_42 (dk_at dksL_law_19 20 rfl rfl)
theorem dL_law_649 : decode cL_law 649 = .ok (.iload 4, 2) := dk_21 4 (dk_at dksL_law_19 21 rfl rfl)
theorem dL_law_651 : decode cL_law 651 = .ok (.iconst 1, 1) := dk_4 (dk_at dksL_law_19 23 rfl rfl)
theorem dL_law_652 : decode cL_law 652 = .ok (.iadd, 1) := dk_96 (dk_at dksL_law_20 0 rfl rfl)
theorem dL_law_653 : decode cL_law 653 = .ok (.iaload, 1) := dk_46 (dk_at dksL_law_20 1 rfl rfl)
theorem dL_law_654 : decode cL_law 654 = .ok (.aload_n 0, 1) := dk_42 (dk_at dksL_law_20 2 rfl rfl)
theorem dL_law_655 : decode cL_law 655 = .ok (.iload 4, 2) := dk_21 4 (dk_at dksL_law_20 3 rfl rfl)
theorem dL_law_657 : decode cL_law 657 = .ok (.iconst 2, 1) := dk_5 (dk_at dksL_law_20 5 rfl rfl)
theorem dL_law_658 : decode cL_law 658 = .ok (.iadd, 1) := dk_96 (dk_at dksL_law_20 6 rfl rfl)
theorem dL_law_659 : decode cL_law 659 = .ok (.iaload, 1) := dk_46 (dk_at dksL_law_20 7 rfl rfl)
theorem dL_law_660 : decode cL_law 660 = .ok (.aload_n 0, 1) := dk_42 (dk_at dksL_law_20 8 rfl rfl)
theorem dL_law_661 : decode cL_law 661 = .ok (.iload 4, 2) := dk_21 4 (dk_at dksL_law_20 9 rfl rfl)
theorem dL_law_663 : decode cL_law 663 = .ok (.iconst 3, 1) := dk_6 (dk_at dksL_law_20 11 rfl rfl)
theorem dL_law_664 : decode cL_law 664 = .ok (.iadd, 1) := dk_96 (dk_at dksL_law_20 12 rfl rfl)
theorem dL_law_665 : decode cL_law 665 = .ok (.iaload, 1) := dk_46 (dk_at dksL_law_20 13 rfl rfl)
theorem dL_law_666 : decode cL_law 666 = .ok (.invokevirtual 154, 3) := dk_182 0 154 (dk_at dksL_law_20 14 rfl rfl)
theorem dL_law_669 : decode cL_law 669 = .ok (.istore 6, 2) := dk_54 6 (dk_at dksL_law_20 17 rfl rfl)
theorem dL_law_671 : decode cL_law 671 = .ok (.aload_n 2, 1) := dk_44 (dk_at dksL_law_20 19 rfl rfl)
theorem dL_law_672 : decode cL_law 672 = .ok (.invokevirtual 134, 3) := dk_182 0 134 (dk_at dksL_law_20 20 rfl rfl)
theorem dL_law_675 : decode cL_law 675 = .ok (.iload 5, 2) := dk_21 5 (dk_at dksL_law_21 0 rfl rfl)
theorem dL_law_677 : decode cL_law 677 = .ok (.if_icmp .eq 5, 3) := dk_159 0 5 (dk_at dksL_law_21 2 rfl rfl)
theorem dL_law_680 : decode cL_law 680 = .ok (.iconst 0, 1) := dk_3 (dk_at dksL_law_21 5 rfl rfl)
theorem dL_law_681 : decode cL_law 681 = .ok (.ireturn, 1) := dk_172 (dk_at dksL_law_21 6 rfl rfl)
theorem dL_law_682 : decode cL_law 682 = .ok (.iload 5, 2) := dk_21 5 (dk_at dksL_law_21 7 rfl rfl)
theorem dL_law_684 : decode cL_law 684 = .ok (.ifCond .ne 15, 3) := dk_154 0 15 (dk_at dksL_law_21 9 rfl rfl)
theorem dL_law_687 : decode cL_law 687 = .ok (.aload_n 3, 1) := dk_45 (dk_at dksL_law_21 12 rfl rfl)
theorem dL_law_688 : decode cL_law 688 = .ok (.iconst 0, 1) := dk_3 (dk_at dksL_law_21 13 rfl rfl)
theorem dL_law_689 : decode cL_law 689 = .ok (.laload, 1) := dk_47 (dk_at dksL_law_21 14 rfl rfl)
theorem dL_law_690 : decode cL_law 690 = .ok (.iload 6, 2) := dk_21 6 (dk_at dksL_law_21 15 rfl rfl)
theorem dL_law_692 : decode cL_law 692 = .ok (.i2l, 1) := dk_133 (dk_at dksL_law_21 17 rfl rfl)
theorem dL_law_693 : decode cL_law 693 = .ok (.lcmp, 1) := dk_148 (dk_at dksL_law_21 18 rfl rfl)
theorem dL_law_694 : decode cL_law 694 = .ok (.ifCond .eq 5, 3) := dk_153 0 5 (dk_at dksL_law_21 19 rfl rfl)
theorem dL_law_697 : decode cL_law 697 = .ok (.iconst 0, 1) := dk_3 (dk_at dksL_law_21 22 rfl rfl)
theorem dL_law_698 : decode cL_law 698 = .ok (.ireturn, 1) := dk_172 (dk_at dksL_law_21 23 rfl rfl)
theorem dL_law_699 : decode cL_law 699 = .ok (.goto 1672, 3) := dk_167 6 136 (dk_at dksL_law_22 0 rfl rfl)
theorem dL_law_702 : decode cL_law 702 = .ok (.aload_n 1, 1) := dk_43 (dk_at dksL_law_22 3 rfl rfl)
theorem dL_law_703 : decode cL_law 703 = .ok (.aload_n 0, 1) := dk_42 (dk_at dksL_law_22 4 rfl rfl)
theorem dL_law_704 : decode cL_law 704 = .ok (.iload 4, 2) := dk_21 4 (dk_at dksL_law_22 5 rfl rfl)
theorem dL_law_706 : decode cL_law 706 = .ok (.iconst 1, 1) := dk_4 (dk_at dksL_law_22 7 rfl rfl)
theorem dL_law_707 : decode cL_law 707 = .ok (.iadd, 1) := dk_96 (dk_at dksL_law_22 8 rfl rfl)
theorem dL_law_708 : decode cL_law 708 = .ok (.iaload, 1) := dk_46 (dk_at dksL_law_22 9 rfl rfl)
theorem dL_law_709 : decode cL_law 709 = .ok (.aload_n 3, 1) := dk_45 (dk_at dksL_law_22 10 rfl rfl)
theorem dL_law_710 : decode cL_law 710 = .ok (.invokestatic 155, 3) := dk_184 0 155 (dk_at dksL_law_22 11 rfl rfl)
theorem dL_law_713 : decode cL_law 713 = .ok (.istore 5, 2) := dk_54 5 (dk_at dksL_law_22 14 rfl rfl)
theorem dL_law_715 : decode cL_law 715 = .ok (.aload_n 2, 1) := dk_44 (dk_at dksL_law_22 16 rfl rfl)
theorem dL_law_716 : decode cL_law 716 = .ok (.aload_n 0, 1) := dk_42 (dk_at dksL_law_22 17 rfl rfl)
theorem dL_law_717 : decode cL_law 717 = .ok (.iload 4, 2) := dk_21 4 (dk_at dksL_law_22 18 rfl rfl)
theorem dL_law_719 : decode cL_law 719 = .ok (.iconst 1, 1) := dk_4 (dk_at dksL_law_22 20 rfl rfl)
theorem dL_law_720 : decode cL_law 720 = .ok (.iadd, 1) := dk_96 (dk_at dksL_law_22 21 rfl rfl)
theorem dL_law_721 : decode cL_law 721 = .ok (.iaload, 1) := dk_46 (dk_at dksL_law_22 22 rfl rfl)
theorem dL_law_722 : decode cL_law 722 = .ok (.invokevirtual 157, 3) := dk_182 0 157 (dk_at dksL_law_23 0 rfl rfl)
theorem dL_law_725 : decode cL_law 725 = .ok (.istore 6, 2) := dk_54 6 (dk_at dksL_law_23 3 rfl rfl)
theorem dL_law_727 : decode cL_law 727 = .ok (.aload_n 2, 1) := dk_44 (dk_at dksL_law_23 5 rfl rfl)
theorem dL_law_728 : decode cL_law 728 = .ok (.invokevirtual 134, 3) := dk_182 0 134 (dk_at dksL_law_23 6 rfl rfl)
theorem dL_law_731 : decode cL_law 731 = .ok (.iload 5, 2) := dk_21 5 (dk_at dksL_law_23 9 rfl rfl)
theorem dL_law_733 : decode cL_law 733 = .ok (.if_icmp .eq 5, 3) := dk_159 0 5 (dk_at dksL_law_23 11 rfl rfl)
theorem dL_law_736 : decode cL_law 736 = .ok (.iconst 0, 1) := dk_3 (dk_at dksL_law_23 14 rfl rfl)
theorem dL_law_737 : decode cL_law 737 = .ok (.ireturn, 1) := dk_172 (dk_at dksL_law_23 15 rfl rfl)
theorem dL_law_738 : decode cL_law 738 = .ok (.iload 5, 2) := dk_21 5 (dk_at dksL_law_23 16 rfl rfl)
theorem dL_law_740 : decode cL_law 740 = .ok (.ifCond .ne 15, 3) := dk_154 0 15 (dk_at dksL_law_23 18 rfl rfl)
theorem dL_law_743 : decode cL_law 743 = .ok (.aload_n 3, 1) := dk_45 (dk_at dksL_law_23 21 rfl rfl)
theorem dL_law_744 : decode cL_law 744 = .ok (.iconst 0, 1) := dk_3 (dk_at dksL_law_23 22 rfl rfl)
theorem dL_law_745 : decode cL_law 745 = .ok (.laload, 1) := dk_47 (dk_at dksL_law_23 23 rfl rfl)
theorem dL_law_746 : decode cL_law 746 = .ok (.iload 6, 2) := dk_21 6 (dk_at dksL_law_24 0 rfl rfl)
theorem dL_law_748 : decode cL_law 748 = .ok (.i2l, 1) := dk_133 (dk_at dksL_law_24 2 rfl rfl)
theorem dL_law_749 : decode cL_law 749 = .ok (.lcmp, 1) := dk_148 (dk_at dksL_law_24 3 rfl rfl)
theorem dL_law_750 : decode cL_law 750 = .ok (.ifCond .eq 5, 3) := dk_153 0 5 (dk_at dksL_law_24 4 rfl rfl)
theorem dL_law_753 : decode cL_law 753 = .ok (.iconst 0, 1) := dk_3 (dk_at dksL_law_24 7 rfl rfl)
theorem dL_law_754 : decode cL_law 754 = .ok (.ireturn, 1) := dk_172 (dk_at dksL_law_24 8 rfl rfl)
theorem dL_law_755 : decode cL_law 755 = .ok (.goto 1616, 3) := dk_167 6 80 (dk_at dksL_law_24 9 rfl rfl)
theorem dL_law_758 : decode cL_law 758 = .ok (.aload_n 1, 1) := dk_43 (dk_at dksL_law_24 12 rfl rfl)
theorem dL_law_759 : decode cL_law 759 = .ok (.aload_n 3, 1) := dk_45 (dk_at dksL_law_24 13 rfl rfl)
theorem dL_law_760 : decode cL_law 760 = .ok (.invokestatic 158, 3) := dk_184 0 158 (dk_at dksL_law_24 14 rfl rfl)
theorem dL_law_763 : decode cL_law 763 = .ok (.istore 5, 2) := dk_54 5 (dk_at dksL_law_24 17 rfl rfl)
theorem dL_law_765 : decode cL_law 765 = .ok (.aload_n 2, 1) := dk_44 (dk_at dksL_law_24 19 rfl rfl)
theorem dL_law_766 : decode cL_law 766 = .ok (.invokevirtual 161, 3) := dk_182 0 161 (dk_at dksL_law_24 20 rfl rfl)
theorem dL_law_769 : decode cL_law 769 = .ok (.istore 6, 2) := dk_54 6 (dk_at dksL_law_25 0 rfl rfl)
theorem dL_law_771 : decode cL_law 771 = .ok (.aload_n 2, 1) := dk_44 (dk_at dksL_law_25 2 rfl rfl)
theorem dL_law_772 : decode cL_law 772 = .ok (.invokevirtual 134, 3) := dk_182 0 134 (dk_at dksL_law_25 3 rfl rfl)
theorem dL_law_775 : decode cL_law 775 = .ok (.iload 5, 2) := dk_21 5 (dk_at dksL_law_25 6 rfl rfl)
theorem dL_law_777 : decode cL_law 777 = .ok (.if_icmp .eq 5, 3) := dk_159 0 5 (dk_at dksL_law_25 8 rfl rfl)
theorem dL_law_780 : decode cL_law 780 = .ok (.iconst 0, 1) := dk_3 (dk_at dksL_law_25 11 rfl rfl)
theorem dL_law_781 : decode cL_law 781 = .ok (.ireturn, 1) := dk_172 (dk_at dksL_law_25 12 rfl rfl)
theorem dL_law_782 : decode cL_law 782 = .ok (.iload 5, 2) := dk_21 5 (dk_at dksL_law_25 13 rfl rfl)
theorem dL_law_784 : decode cL_law 784 = .ok (.ifCond .ne 15, 3) := dk_154 0 15 (dk_at dksL_law_25 15 rfl rfl)
theorem dL_law_787 : decode cL_law 787 = .ok (.aload_n 3, 1) := dk_45 (dk_at dksL_law_25 18 rfl rfl)
theorem dL_law_788 : decode cL_law 788 = .ok (.iconst 0, 1) := dk_3 (dk_at dksL_law_25 19 rfl rfl)
theorem dL_law_789 : decode cL_law 789 = .ok (.laload, 1) := dk_47 (dk_at dksL_law_25 20 rfl rfl)
theorem dL_law_790 : decode cL_law 790 = .ok (.iload 6, 2) := dk_21 6 (dk_at dksL_law_25 21 rfl rfl)
theorem dL_law_792 : decode cL_law 792 = .ok (.i2l, 1) := dk_133 (dk_at dksL_law_25 23 rfl rfl)
theorem dL_law_793 : decode cL_law 793 = .ok (.lcmp, 1) := dk_148 (dk_at dksL_law_26 0 rfl rfl)
theorem dL_law_794 : decode cL_law 794 = .ok (.ifCond .eq 5, 3) := dk_153 0 5 (dk_at dksL_law_26 1 rfl rfl)
theorem dL_law_797 : decode cL_law 797 = .ok (.iconst 0, 1) := dk_3 (dk_at dksL_law_26 4 rfl rfl)
theorem dL_law_798 : decode cL_law 798 = .ok (.ireturn, 1) := dk_172 (dk_at dksL_law_26 5 rfl rfl)
theorem dL_law_799 : decode cL_law 799 = .ok (.goto 1572, 3) := dk_167 6 36 (dk_at dksL_law_26 6 rfl rfl)
theorem dL_law_802 : decode cL_law 802 = .ok (.aload_n 1, 1) := dk_43 (dk_at dksL_law_26 9 rfl rfl)
theorem dL_law_803 : decode cL_law 803 = .ok (.aload_n 0, 1) := dk_42 (dk_at dksL_law_26 10 rfl rfl)
theorem dL_law_804 : decode cL_law 804 = .ok (.iload 4, 2) := dk_21 4 (dk_at dksL_law_26 11 rfl rfl)
theorem dL_law_806 : decode cL_law 806 = .ok (.iconst 1, 1) := dk_4 (dk_at dksL_law_26 13 rfl rfl)
theorem dL_law_807 : decode cL_law 807 = .ok (.iadd, 1) := dk_96 (dk_at dksL_law_26 14 rfl rfl)
theorem dL_law_808 : decode cL_law 808 = .ok (.iaload, 1) := dk_46 (dk_at dksL_law_26 15 rfl rfl)
theorem dL_law_809 : decode cL_law 809 = .ok (.aload_n 0, 1) := dk_42 (dk_at dksL_law_26 16 rfl rfl)
theorem dL_law_810 : decode cL_law 810 = .ok (.iload 4, 2) := dk_21 4 (dk_at dksL_law_26 17 rfl rfl)
theorem dL_law_812 : decode cL_law 812 = .ok (.iconst 2, 1) := dk_5 (dk_at dksL_law_26 19 rfl rfl)
theorem dL_law_813 : decode cL_law 813 = .ok (.iadd, 1) := dk_96 (dk_at dksL_law_26 20 rfl rfl)
theorem dL_law_814 : decode cL_law 814 = .ok (.iaload, 1) := dk_46 (dk_at dksL_law_26 21 rfl rfl)
theorem dL_law_815 : decode cL_law 815 = .ok (.aload_n 0, 1) := dk_42 (dk_at dksL_law_26 22 rfl rfl)
theorem dL_law_816 : decode cL_law 816 = .ok (.iload 4, 2) := dk_21 4 (dk_at dksL_law_27 0 rfl rfl)
theorem dL_law_818 : decode cL_law 818 = .ok (.iconst 3, 1) := dk_6 (dk_at dksL_law_27 2 rfl rfl)
theorem dL_law_819 : decode cL_law 819 = .ok (.iadd, 1) := dk_96 (dk_at dksL_law_27 3 rfl rfl)
theorem dL_law_820 : decode cL_law 820 = .ok (.iaload, 1) := dk_46 (dk_at dksL_law_27 4 rfl rfl)
theorem dL_law_821 : decode cL_law 821 = .ok (.aload_n 0, 1) := dk_42 (dk_at dksL_law_27 5 rfl rfl)
theorem dL_law_822 : decode cL_law 822 = .ok (.iload 4, 2) := dk_21 4 (dk_at dksL_law_27 6 rfl rfl)
theorem dL_law_824 : decode cL_law 824 = .ok (.iconst 4, 1) := dk_7 (dk_at dksL_law_27 8 rfl rfl)
theorem dL_law_825 : decode cL_law 825 = .ok (.iadd, 1) := dk_96 (dk_at dksL_law_27 9 rfl rfl)
theorem dL_law_826 : decode cL_law 826 = .ok (.iaload, 1) := dk_46 (dk_at dksL_law_27 10 rfl rfl)
theorem dL_law_827 : decode cL_law 827 = .ok (.aload_n 0, 1) := dk_42 (dk_at dksL_law_27 11 rfl rfl)
theorem dL_law_828 : decode cL_law 828 = .ok (.iload 4, 2) := dk_21 4 (dk_at dksL_law_27 12 rfl rfl)
theorem dL_law_830 : decode cL_law 830 = .ok (.iconst 5, 1) := dk_8 (dk_at dksL_law_27 14 rfl rfl)
theorem dL_law_831 : decode cL_law 831 = .ok (.iadd, 1) := dk_96 (dk_at dksL_law_27 15 rfl rfl)
theorem dL_law_832 : decode cL_law 832 = .ok (.iaload, 1) := dk_46 (dk_at dksL_law_27 16 rfl rfl)
theorem dL_law_833 : decode cL_law 833 = .ok (.aload_n 3, 1) := dk_45 (dk_at dksL_law_27 17 rfl rfl)
theorem dL_law_834 : decode cL_law 834 = .ok (.invokestatic 162, 3) := dk_184 0 162 (dk_at dksL_law_27 18 rfl rfl)
theorem dL_law_837 : decode cL_law 837 = .ok (.istore 5, 2) := dk_54 5 (dk_at dksL_law_27 21 rfl rfl)
theorem dL_law_839 : decode cL_law 839 = .ok (.aload_n 2, 1) := dk_44 (dk_at dksL_law_27 23 rfl rfl)
theorem dL_law_840 : decode cL_law 840 = .ok (.aload_n 0, 1) := dk_42 (dk_at dksL_law_28 0 rfl rfl)
theorem dL_law_841 : decode cL_law 841 = .ok (.iload 4, 2) := dk_21 4 (dk_at dksL_law_28 1 rfl rfl)
theorem dL_law_843 : decode cL_law 843 = .ok (.iconst 1, 1) := dk_4 (dk_at dksL_law_28 3 rfl rfl)
theorem dL_law_844 : decode cL_law 844 = .ok (.iadd, 1) := dk_96 (dk_at dksL_law_28 4 rfl rfl)
theorem dL_law_845 : decode cL_law 845 = .ok (.iaload, 1) := dk_46 (dk_at dksL_law_28 5 rfl rfl)
theorem dL_law_846 : decode cL_law 846 = .ok (.aload_n 0, 1) := dk_42 (dk_at dksL_law_28 6 rfl rfl)
theorem dL_law_847 : decode cL_law 847 = .ok (.iload 4, 2) := dk_21 4 (dk_at dksL_law_28 7 rfl rfl)
theorem dL_law_849 : decode cL_law 849 = .ok (.iconst 2, 1) := dk_5 (dk_at dksL_law_28 9 rfl rfl)
theorem dL_law_850 : decode cL_law 850 = .ok (.iadd, 1) := dk_96 (dk_at dksL_law_28 10 rfl rfl)
theorem dL_law_851 : decode cL_law 851 = .ok (.iaload, 1) := dk_46 (dk_at dksL_law_28 11 rfl rfl)
theorem dL_law_852 : decode cL_law 852 = .ok (.aload_n 0, 1) := dk_42 (dk_at dksL_law_28 12 rfl rfl)
theorem dL_law_853 : decode cL_law 853 = .ok (.iload 4, 2) := dk_21 4 (dk_at dksL_law_28 13 rfl rfl)
theorem dL_law_855 : decode cL_law 855 = .ok (.iconst 3, 1) := dk_6 (dk_at dksL_law_28 15 rfl rfl)
theorem dL_law_856 : decode cL_law 856 = .ok (.iadd, 1) := dk_96 (dk_at dksL_law_28 16 rfl rfl)
theorem dL_law_857 : decode cL_law 857 = .ok (.iaload, 1) := dk_46 (dk_at dksL_law_28 17 rfl rfl)
theorem dL_law_858 : decode cL_law 858 = .ok (.aload_n 0, 1) := dk_42 (dk_at dksL_law_28 18 rfl rfl)
theorem dL_law_859 : decode cL_law 859 = .ok (.iload 4, 2) := dk_21 4 (dk_at dksL_law_28 19 rfl rfl)
theorem dL_law_861 : decode cL_law 861 = .ok (.iconst 4, 1) := dk_7 (dk_at dksL_law_28 21 rfl rfl)
theorem dL_law_862 : decode cL_law 862 = .ok (.iadd, 1) := dk_96 (dk_at dksL_law_28 22 rfl rfl)
theorem dL_law_863 : decode cL_law 863 = .ok (.iaload, 1) := dk_46 (dk_at dksL_law_28 23 rfl rfl)
theorem dL_law_864 : decode cL_law 864 = .ok (.aload_n 0, 1) := dk_42 (dk_at dksL_law_29 0 rfl rfl)
theorem dL_law_865 : decode cL_law 865 = .ok (.iload 4, 2) := dk_21 4 (dk_at dksL_law_29 1 rfl rfl)
theorem dL_law_867 : decode cL_law 867 = .ok (.iconst 5, 1) := dk_8 (dk_at dksL_law_29 3 rfl rfl)
theorem dL_law_868 : decode cL_law 868 = .ok (.iadd, 1) := dk_96 (dk_at dksL_law_29 4 rfl rfl)
theorem dL_law_869 : decode cL_law 869 = .ok (.iaload, 1) := dk_46 (dk_at dksL_law_29 5 rfl rfl)
theorem dL_law_870 : decode cL_law 870 = .ok (.invokevirtual 164, 3) := dk_182 0 164 (dk_at dksL_law_29 6 rfl rfl)
theorem dL_law_873 : decode cL_law 873 = .ok (.istore 6, 2) := dk_54 6 (dk_at dksL_law_29 9 rfl rfl)
theorem dL_law_875 : decode cL_law 875 = .ok (.aload_n 2, 1) := dk_44 (dk_at dksL_law_29 11 rfl rfl)
theorem dL_law_876 : decode cL_law 876 = .ok (.invokevirtual 134, 3) := dk_182 0 134 (dk_at dksL_law_29 12 rfl rfl)
theorem dL_law_879 : decode cL_law 879 = .ok (.iload 5, 2) := dk_21 5 (dk_at dksL_law_29 15 rfl rfl)
theorem dL_law_881 : decode cL_law 881 = .ok (.if_icmp .eq 5, 3) := dk_159 0 5 (dk_at dksL_law_29 17 rfl rfl)
theorem dL_law_884 : decode cL_law 884 = .ok (.iconst 0, 1) := dk_3 (dk_at dksL_law_29 20 rfl rfl)
theorem dL_law_885 : decode cL_law 885 = .ok (.ireturn, 1) := dk_172 (dk_at dksL_law_29 21 rfl rfl)
theorem dL_law_886 : decode cL_law 886 = .ok (.iload 5, 2) := dk_21 5 (dk_at dksL_law_29 22 rfl rfl)
theorem dL_law_888 : decode cL_law 888 = .ok (.ifCond .ne 15, 3) := dk_154 0 15 (dk_at dksL_law_30 0 rfl rfl)
theorem dL_law_891 : decode cL_law 891 = .ok (.aload_n 3, 1) := dk_45 (dk_at dksL_law_30 3 rfl rfl)
theorem dL_law_892 : decode cL_law 892 = .ok (.iconst 0, 1) := dk_3 (dk_at dksL_law_30 4 rfl rfl)
theorem dL_law_893 : decode cL_law 893 = .ok (.laload, 1) := dk_47 (dk_at dksL_law_30 5 rfl rfl)
theorem dL_law_894 : decode cL_law 894 = .ok (.iload 6, 2) := dk_21 6 (dk_at dksL_law_30 6 rfl rfl)
theorem dL_law_896 : decode cL_law 896 = .ok (.i2l, 1) := dk_133 (dk_at dksL_law_30 8 rfl rfl)
theorem dL_law_897 : decode cL_law 897 = .ok (.lcmp, 1) := dk_148 (dk_at dksL_law_30 9 rfl rfl)
theorem dL_law_898 : decode cL_law 898 = .ok (.ifCond .eq 5, 3) := dk_153 0 5 (dk_at dksL_law_30 10 rfl rfl)
theorem dL_law_901 : decode cL_law 901 = .ok (.iconst 0, 1) := dk_3 (dk_at dksL_law_30 13 rfl rfl)
theorem dL_law_902 : decode cL_law 902 = .ok (.ireturn, 1) := dk_172 (dk_at dksL_law_30 14 rfl rfl)
theorem dL_law_903 : decode cL_law 903 = .ok (.goto 1468, 3) := dk_167 5 188 (dk_at dksL_law_30 15 rfl rfl)
theorem dL_law_906 : decode cL_law 906 = .ok (.aload_n 1, 1) := dk_43 (dk_at dksL_law_30 18 rfl rfl)
theorem dL_law_907 : decode cL_law 907 = .ok (.invokevirtual 165, 3) := dk_182 0 165 (dk_at dksL_law_30 19 rfl rfl)
theorem dL_law_910 : decode cL_law 910 = .ok (.aload_n 2, 1) := dk_44 (dk_at dksL_law_30 22 rfl rfl)
theorem dL_law_911 : decode cL_law 911 = .ok (.invokevirtual 168, 3) := dk_182 0 168 (dk_at dksL_law_31 0 rfl rfl)
theorem dL_law_914 : decode cL_law 914 = .ok (.if_icmp .eq 1457, 3) := dk_159 5 177 (dk_at dksL_law_31 3 rfl rfl)
theorem dL_law_917 : decode cL_law 917 = .ok (.iconst 0, 1) := dk_3 (dk_at dksL_law_31 6 rfl rfl)
theorem dL_law_918 : decode cL_law 918 = .ok (.ireturn, 1) := dk_172 (dk_at dksL_law_31 7 rfl rfl)
theorem dL_law_919 : decode cL_law 919 = .ok (.aload_n 1, 1) := dk_43 (dk_at dksL_law_31 8 rfl rfl)
theorem dL_law_920 : decode cL_law 920 = .ok (.aload_n 3, 1) := dk_45 (dk_at dksL_law_31 9 rfl rfl)
theorem dL_law_921 : decode cL_law 921 = .ok (.invokestatic 169, 3) := dk_184 0 169 (dk_at dksL_law_31 10 rfl rfl)
theorem dL_law_924 : decode cL_law 924 = .ok (.istore 5, 2) := dk_54 5 (dk_at dksL_law_31 13 rfl rfl)
theorem dL_law_926 : decode cL_law 926 = .ok (.aload_n 2, 1) := dk_44 (dk_at dksL_law_31 15 rfl rfl)
theorem dL_law_927 : decode cL_law 927 = .ok (.invokevirtual 171, 3) := dk_182 0 171 (dk_at dksL_law_31 16 rfl rfl)
theorem dL_law_930 : decode cL_law 930 = .ok (.istore 6, 2) := dk_54 6 (dk_at dksL_law_31 19 rfl rfl)
theorem dL_law_932 : decode cL_law 932 = .ok (.aload_n 2, 1) := dk_44 (dk_at dksL_law_31 21 rfl rfl)
theorem dL_law_933 : decode cL_law 933 = .ok (.invokevirtual 134, 3) := dk_182 0 134 (dk_at dksL_law_32 0 rfl rfl)
theorem dL_law_936 : decode cL_law 936 = .ok (.iload 5, 2) := dk_21 5 (dk_at dksL_law_32 3 rfl rfl)
theorem dL_law_938 : decode cL_law 938 = .ok (.if_icmp .eq 5, 3) := dk_159 0 5 (dk_at dksL_law_32 5 rfl rfl)
theorem dL_law_941 : decode cL_law 941 = .ok (.iconst 0, 1) := dk_3 (dk_at dksL_law_32 8 rfl rfl)
theorem dL_law_942 : decode cL_law 942 = .ok (.ireturn, 1) := dk_172 (dk_at dksL_law_32 9 rfl rfl)
theorem dL_law_943 : decode cL_law 943 = .ok (.iload 5, 2) := dk_21 5 (dk_at dksL_law_32 10 rfl rfl)
theorem dL_law_945 : decode cL_law 945 = .ok (.ifCond .ne 15, 3) := dk_154 0 15 (dk_at dksL_law_32 12 rfl rfl)
theorem dL_law_948 : decode cL_law 948 = .ok (.aload_n 3, 1) := dk_45 (dk_at dksL_law_32 15 rfl rfl)
theorem dL_law_949 : decode cL_law 949 = .ok (.iconst 0, 1) := dk_3 (dk_at dksL_law_32 16 rfl rfl)
theorem dL_law_950 : decode cL_law 950 = .ok (.laload, 1) := dk_47 (dk_at dksL_law_32 17 rfl rfl)
theorem dL_law_951 : decode cL_law 951 = .ok (.iload 6, 2) := dk_21 6 (dk_at dksL_law_32 18 rfl rfl)
theorem dL_law_953 : decode cL_law 953 = .ok (.i2l, 1) := dk_133 (dk_at dksL_law_32 20 rfl rfl)
theorem dL_law_954 : decode cL_law 954 = .ok (.lcmp, 1) := dk_148 (dk_at dksL_law_32 21 rfl rfl)
theorem dL_law_955 : decode cL_law 955 = .ok (.ifCond .eq 5, 3) := dk_153 0 5 (dk_at dksL_law_33 0 rfl rfl)
theorem dL_law_958 : decode cL_law 958 = .ok (.iconst 0, 1) := dk_3 (dk_at dksL_law_33 3 rfl rfl)
theorem dL_law_959 : decode cL_law 959 = .ok (.ireturn, 1) := dk_172 (dk_at dksL_law_33 4 rfl rfl)
theorem dL_law_960 : decode cL_law 960 = .ok (.goto 1411, 3) := dk_167 5 131 (dk_at dksL_law_33 5 rfl rfl)
theorem dL_law_963 : decode cL_law 963 = .ok (.aload_n 1, 1) := dk_43 (dk_at dksL_law_33 8 rfl rfl)
theorem dL_law_964 : decode cL_law 964 = .ok (.aload_n 0, 1) := dk_42 (dk_at dksL_law_33 9 rfl rfl)
theorem dL_law_965 : decode cL_law 965 = .ok (.iload 4, 2) := dk_21 4 (dk_at dksL_law_33 10 rfl rfl)
theorem dL_law_967 : decode cL_law 967 = .ok (.iconst 1, 1) := dk_4 (dk_at dksL_law_33 12 rfl rfl)
theorem dL_law_968 : decode cL_law 968 = .ok (.iadd, 1) := dk_96 (dk_at dksL_law_33 13 rfl rfl)
theorem dL_law_969 : decode cL_law 969 = .ok (.iaload, 1) := dk_46 (dk_at dksL_law_33 14 rfl rfl)
theorem dL_law_970 : decode cL_law 970 = .ok (.aload_n 3, 1) := dk_45 (dk_at dksL_law_33 15 rfl rfl)
theorem dL_law_971 : decode cL_law 971 = .ok (.invokestatic 172, 3) := dk_184 0 172 (dk_at dksL_law_33 16 rfl rfl)
theorem dL_law_974 : decode cL_law 974 = .ok (.istore 5, 2) := dk_54 5 (dk_at dksL_law_33 19 rfl rfl)
theorem dL_law_976 : decode cL_law 976 = .ok (.aload_n 2, 1) := dk_44 (dk_at dksL_law_33 21 rfl rfl)
theorem dL_law_977 : decode cL_law 977 = .ok (.aload_n 0, 1) := dk_42 (dk_at dksL_law_33 22 rfl rfl)
theorem dL_law_978 : decode cL_law 978 = .ok (.iload 4, 2) := dk_21 4 (dk_at dksL_law_34 0 rfl rfl)
theorem dL_law_980 : decode cL_law 980 = .ok (.iconst 1, 1) := dk_4 (dk_at dksL_law_34 2 rfl rfl)
theorem dL_law_981 : decode cL_law 981 = .ok (.iadd, 1) := dk_96 (dk_at dksL_law_34 3 rfl rfl)
theorem dL_law_982 : decode cL_law 982 = .ok (.iaload, 1) := dk_46 (dk_at dksL_law_34 4 rfl rfl)
theorem dL_law_983 : decode cL_law 983 = .ok (.invokevirtual 174, 3) := dk_182 0 174 (dk_at dksL_law_34 5 rfl rfl)
theorem dL_law_986 : decode cL_law 986 = .ok (.istore 6, 2) := dk_54 6 (dk_at dksL_law_34 8 rfl rfl)
theorem dL_law_988 : decode cL_law 988 = .ok (.aload_n 2, 1) := dk_44 (dk_at dksL_law_34 10 rfl rfl)
theorem dL_law_989 : decode cL_law 989 = .ok (.invokevirtual 134, 3) := dk_182 0 134 (dk_at dksL_law_34 11 rfl rfl)
theorem dL_law_992 : decode cL_law 992 = .ok (.iload 5, 2) := dk_21 5 (dk_at dksL_law_34 14 rfl rfl)
theorem dL_law_994 : decode cL_law 994 = .ok (.if_icmp .eq 5, 3) := dk_159 0 5 (dk_at dksL_law_34 16 rfl rfl)
theorem dL_law_997 : decode cL_law 997 = .ok (.iconst 0, 1) := dk_3 (dk_at dksL_law_34 19 rfl rfl)
theorem dL_law_998 : decode cL_law 998 = .ok (.ireturn, 1) := dk_172 (dk_at dksL_law_34 20 rfl rfl)
theorem dL_law_999 : decode cL_law 999 = .ok (.iload 5, 2) := dk_21 5 (dk_at dksL_law_34 21 rfl rfl)
theorem dL_law_1001 : decode cL_law 1001 = .ok (.ifCond .ne 15, 3) := dk_154 0 15 (dk_at dksL_law_35 0 rfl rfl)
theorem dL_law_1004 : decode cL_law 1004 = .ok (.aload_n 3, 1) := dk_45 (dk_at dksL_law_35 3 rfl rfl)
theorem dL_law_1005 : decode cL_law 1005 = .ok (.iconst 0, 1) := dk_3 (dk_at dksL_law_35 4 rfl rfl)
theorem dL_law_1006 : decode cL_law 1006 = .ok (.laload, 1) := dk_47 (dk_at dksL_law_35 5 rfl rfl)
theorem dL_law_1007 : decode cL_law 1007 = .ok (.iload 6, 2) := dk_21 6 (dk_at dksL_law_35 6 rfl rfl)
theorem dL_law_1009 : decode cL_law 1009 = .ok (.i2l, 1) := dk_133 (dk_at dksL_law_35 8 rfl rfl)
theorem dL_law_1010 : decode cL_law 1010 = .ok (.lcmp, 1) := dk_148 (dk_at dksL_law_35 9 rfl rfl)
theorem dL_law_1011 : decode cL_law 1011 = .ok (.ifCond .eq 5, 3) := dk_153 0 5 (dk_at dksL_law_35 10 rfl rfl)
theorem dL_law_1014 : decode cL_law 1014 = .ok (.iconst 0, 1) := dk_3 (dk_at dksL_law_35 13 rfl rfl)
theorem dL_law_1015 : decode cL_law 1015 = .ok (.ireturn, 1) := dk_172 (dk_at dksL_law_35 14 rfl rfl)
theorem dL_law_1016 : decode cL_law 1016 = .ok (.goto 1355, 3) := dk_167 5 75 (dk_at dksL_law_35 15 rfl rfl)
theorem dL_law_1019 : decode cL_law 1019 = .ok (.aload_n 1, 1) := dk_43 (dk_at dksL_law_35 18 rfl rfl)
theorem dL_law_1020 : decode cL_law 1020 = .ok (.aload_n 3, 1) := dk_45 (dk_at dksL_law_35 19 rfl rfl)
theorem dL_law_1021 : decode cL_law 1021 = .ok (.invokestatic 175, 3) := dk_184 0 175 (dk_at dksL_law_35 20 rfl rfl)
theorem dL_law_1024 : decode cL_law 1024 = .ok (.istore 5, 2) := dk_54 5 (dk_at dksL_law_36 0 rfl rfl)
theorem dL_law_1026 : decode cL_law 1026 = .ok (.aload_n 2, 1) := dk_44 (dk_at dksL_law_36 2 rfl rfl)
theorem dL_law_1027 : decode cL_law 1027 = .ok (.invokevirtual 177, 3) := dk_182 0 177 (dk_at dksL_law_36 3 rfl rfl)
theorem dL_law_1030 : decode cL_law 1030 = .ok (.istore 6, 2) := dk_54 6 (dk_at dksL_law_36 6 rfl rfl)
theorem dL_law_1032 : decode cL_law 1032 = .ok (.aload_n 2, 1) := dk_44 (dk_at dksL_law_36 8 rfl rfl)
theorem dL_law_1033 : decode cL_law 1033 = .ok (.invokevirtual 134, 3) := dk_182 0 134 (dk_at dksL_law_36 9 rfl rfl)
theorem dL_law_1036 : decode cL_law 1036 = .ok (.iload 5, 2) := dk_21 5 (dk_at dksL_law_36 12 rfl rfl)
theorem dL_law_1038 : decode cL_law 1038 = .ok (.if_icmp .eq 5, 3) := dk_159 0 5 (dk_at dksL_law_36 14 rfl rfl)
theorem dL_law_1041 : decode cL_law 1041 = .ok (.iconst 0, 1) := dk_3 (dk_at dksL_law_36 17 rfl rfl)
theorem dL_law_1042 : decode cL_law 1042 = .ok (.ireturn, 1) := dk_172 (dk_at dksL_law_36 18 rfl rfl)
theorem dL_law_1043 : decode cL_law 1043 = .ok (.iload 5, 2) := dk_21 5 (dk_at dksL_law_36 19 rfl rfl)
theorem dL_law_1045 : decode cL_law 1045 = .ok (.ifCond .ne 15, 3) := dk_154 0 15 (dk_at dksL_law_36 21 rfl rfl)
theorem dL_law_1048 : decode cL_law 1048 = .ok (.aload_n 3, 1) := dk_45 (dk_at dksL_law_37 0 rfl rfl)
theorem dL_law_1049 : decode cL_law 1049 = .ok (.iconst 0, 1) := dk_3 (dk_at dksL_law_37 1 rfl rfl)
theorem dL_law_1050 : decode cL_law 1050 = .ok (.laload, 1) := dk_47 (dk_at dksL_law_37 2 rfl rfl)
theorem dL_law_1051 : decode cL_law 1051 = .ok (.iload 6, 2) := dk_21 6 (dk_at dksL_law_37 3 rfl rfl)
theorem dL_law_1053 : decode cL_law 1053 = .ok (.i2l, 1) := dk_133 (dk_at dksL_law_37 5 rfl rfl)
theorem dL_law_1054 : decode cL_law 1054 = .ok (.lcmp, 1) := dk_148 (dk_at dksL_law_37 6 rfl rfl)
theorem dL_law_1055 : decode cL_law 1055 = .ok (.ifCond .eq 5, 3) := dk_153 0 5 (dk_at dksL_law_37 7 rfl rfl)
theorem dL_law_1058 : decode cL_law 1058 = .ok (.iconst 0, 1) := dk_3 (dk_at dksL_law_37 10 rfl rfl)
theorem dL_law_1059 : decode cL_law 1059 = .ok (.ireturn, 1) := dk_172 (dk_at dksL_law_37 11 rfl rfl)
theorem dL_law_1060 : decode cL_law 1060 = .ok (.goto 1311, 3) := dk_167 5 31 (dk_at dksL_law_37 12 rfl rfl)
theorem dL_law_1063 : decode cL_law 1063 = .ok (.aload_n 1, 1) := dk_43 (dk_at dksL_law_37 15 rfl rfl)
theorem dL_law_1064 : decode cL_law 1064 = .ok (.aload_n 3, 1) := dk_45 (dk_at dksL_law_37 16 rfl rfl)
theorem dL_law_1065 : decode cL_law 1065 = .ok (.invokestatic 178, 3) := dk_184 0 178 (dk_at dksL_law_37 17 rfl rfl)
theorem dL_law_1068 : decode cL_law 1068 = .ok (.istore 5, 2) := dk_54 5 (dk_at dksL_law_37 20 rfl rfl)
theorem dL_law_1070 : decode cL_law 1070 = .ok (.aload_n 2, 1) := dk_44 (dk_at dksL_law_37 22 rfl rfl)
theorem dL_law_1071 : decode cL_law 1071 = .ok (.invokevirtual 180, 3) := dk_182 0 180 (dk_at dksL_law_38 0 rfl rfl)
theorem dL_law_1074 : decode cL_law 1074 = .ok (.istore 6, 2) := dk_54 6 (dk_at dksL_law_38 3 rfl rfl)
theorem dL_law_1076 : decode cL_law 1076 = .ok (.aload_n 2, 1) := dk_44 (dk_at dksL_law_38 5 rfl rfl)
theorem dL_law_1077 : decode cL_law 1077 = .ok (.invokevirtual 134, 3) := dk_182 0 134 (dk_at dksL_law_38 6 rfl rfl)
theorem dL_law_1080 : decode cL_law 1080 = .ok (.iload 5, 2) := dk_21 5 (dk_at dksL_law_38 9 rfl rfl)
theorem dL_law_1082 : decode cL_law 1082 = .ok (.if_icmp .eq 5, 3) := dk_159 0 5 (dk_at dksL_law_38 11 rfl rfl)
theorem dL_law_1085 : decode cL_law 1085 = .ok (.iconst 0, 1) := dk_3 (dk_at dksL_law_38 14 rfl rfl)
theorem dL_law_1086 : decode cL_law 1086 = .ok (.ireturn, 1) := dk_172 (dk_at dksL_law_38 15 rfl rfl)
theorem dL_law_1087 : decode cL_law 1087 = .ok (.iload 5, 2) := dk_21 5 (dk_at dksL_law_38 16 rfl rfl)
theorem dL_law_1089 : decode cL_law 1089 = .ok (.ifCond .ne 15, 3) := dk_154 0 15 (dk_at dksL_law_38 18 rfl rfl)
theorem dL_law_1092 : decode cL_law 1092 = .ok (.aload_n 3, 1) := dk_45 (dk_at dksL_law_38 21 rfl rfl)
theorem dL_law_1093 : decode cL_law 1093 = .ok (.iconst 0, 1) := dk_3 (dk_at dksL_law_38 22 rfl rfl)
theorem dL_law_1094 : decode cL_law 1094 = .ok (.laload, 1) := dk_47 (dk_at dksL_law_38 23 rfl rfl)
theorem dL_law_1095 : decode cL_law 1095 = .ok (.iload 6, 2) := dk_21 6 (dk_at dksL_law_39 0 rfl rfl)
theorem dL_law_1097 : decode cL_law 1097 = .ok (.i2l, 1) := dk_133 (dk_at dksL_law_39 2 rfl rfl)
theorem dL_law_1098 : decode cL_law 1098 = .ok (.lcmp, 1) := dk_148 (dk_at dksL_law_39 3 rfl rfl)
theorem dL_law_1099 : decode cL_law 1099 = .ok (.ifCond .eq 5, 3) := dk_153 0 5 (dk_at dksL_law_39 4 rfl rfl)
theorem dL_law_1102 : decode cL_law 1102 = .ok (.iconst 0, 1) := dk_3 (dk_at dksL_law_39 7 rfl rfl)
theorem dL_law_1103 : decode cL_law 1103 = .ok (.ireturn, 1) := dk_172 (dk_at dksL_law_39 8 rfl rfl)
theorem dL_law_1104 : decode cL_law 1104 = .ok (.goto 1267, 3) := dk_167 4 243 (dk_at dksL_law_39 9 rfl rfl)
theorem dL_law_1107 : decode cL_law 1107 = .ok (.aload_n 1, 1) := dk_43 (dk_at dksL_law_39 12 rfl rfl)
theorem dL_law_1108 : decode cL_law 1108 = .ok (.aload_n 3, 1) := dk_45 (dk_at dksL_law_39 13 rfl rfl)
theorem dL_law_1109 : decode cL_law 1109 = .ok (.invokestatic 181, 3) := dk_184 0 181 (dk_at dksL_law_39 14 rfl rfl)
theorem dL_law_1112 : decode cL_law 1112 = .ok (.istore 5, 2) := dk_54 5 (dk_at dksL_law_39 17 rfl rfl)
theorem dL_law_1114 : decode cL_law 1114 = .ok (.aload_n 2, 1) := dk_44 (dk_at dksL_law_39 19 rfl rfl)
theorem dL_law_1115 : decode cL_law 1115 = .ok (.invokevirtual 183, 3) := dk_182 0 183 (dk_at dksL_law_39 20 rfl rfl)
theorem dL_law_1118 : decode cL_law 1118 = .ok (.istore 6, 2) := dk_54 6 (dk_at dksL_law_40 0 rfl rfl)
theorem dL_law_1120 : decode cL_law 1120 = .ok (.aload_n 2, 1) := dk_44 (dk_at dksL_law_40 2 rfl rfl)
theorem dL_law_1121 : decode cL_law 1121 = .ok (.invokevirtual 134, 3) := dk_182 0 134 (dk_at dksL_law_40 3 rfl rfl)
theorem dL_law_1124 : decode cL_law 1124 = .ok (.iload 5, 2) := dk_21 5 (dk_at dksL_law_40 6 rfl rfl)
theorem dL_law_1126 : decode cL_law 1126 = .ok (.if_icmp .eq 5, 3) := dk_159 0 5 (dk_at dksL_law_40 8 rfl rfl)
theorem dL_law_1129 : decode cL_law 1129 = .ok (.iconst 0, 1) := dk_3 (dk_at dksL_law_40 11 rfl rfl)
theorem dL_law_1130 : decode cL_law 1130 = .ok (.ireturn, 1) := dk_172 (dk_at dksL_law_40 12 rfl rfl)
theorem dL_law_1131 : decode cL_law 1131 = .ok (.iload 5, 2) := dk_21 5 (dk_at dksL_law_40 13 rfl rfl)
theorem dL_law_1133 : decode cL_law 1133 = .ok (.ifCond .ne 15, 3) := dk_154 0 15 (dk_at dksL_law_40 15 rfl rfl)
theorem dL_law_1136 : decode cL_law 1136 = .ok (.aload_n 3, 1) := dk_45 (dk_at dksL_law_40 18 rfl rfl)
theorem dL_law_1137 : decode cL_law 1137 = .ok (.iconst 0, 1) := dk_3 (dk_at dksL_law_40 19 rfl rfl)
theorem dL_law_1138 : decode cL_law 1138 = .ok (.laload, 1) := dk_47 (dk_at dksL_law_40 20 rfl rfl)
theorem dL_law_1139 : decode cL_law 1139 = .ok (.iload 6, 2) := dk_21 6 (dk_at dksL_law_40 21 rfl rfl)
theorem dL_law_1141 : decode cL_law 1141 = .ok (.i2l, 1) := dk_133 (dk_at dksL_law_40 23 rfl rfl)
theorem dL_law_1142 : decode cL_law 1142 = .ok (.lcmp, 1) := dk_148 (dk_at dksL_law_41 0 rfl rfl)
theorem dL_law_1143 : decode cL_law 1143 = .ok (.ifCond .eq 5, 3) := dk_153 0 5 (dk_at dksL_law_41 1 rfl rfl)
theorem dL_law_1146 : decode cL_law 1146 = .ok (.iconst 0, 1) := dk_3 (dk_at dksL_law_41 4 rfl rfl)
theorem dL_law_1147 : decode cL_law 1147 = .ok (.ireturn, 1) := dk_172 (dk_at dksL_law_41 5 rfl rfl)
theorem dL_law_1148 : decode cL_law 1148 = .ok (.goto 1223, 3) := dk_167 4 199 (dk_at dksL_law_41 6 rfl rfl)
theorem dL_law_1151 : decode cL_law 1151 = .ok (.aload_n 1, 1) := dk_43 (dk_at dksL_law_41 9 rfl rfl)
theorem dL_law_1152 : decode cL_law 1152 = .ok (.aload_n 0, 1) := dk_42 (dk_at dksL_law_41 10 rfl rfl)
theorem dL_law_1153 : decode cL_law 1153 = .ok (.iload 4, 2) := dk_21 4 (dk_at dksL_law_41 11 rfl rfl)
theorem dL_law_1155 : decode cL_law 1155 = .ok (.iconst 1, 1) := dk_4 (dk_at dksL_law_41 13 rfl rfl)
theorem dL_law_1156 : decode cL_law 1156 = .ok (.iadd, 1) := dk_96 (dk_at dksL_law_41 14 rfl rfl)
theorem dL_law_1157 : decode cL_law 1157 = .ok (.iaload, 1) := dk_46 (dk_at dksL_law_41 15 rfl rfl)
theorem dL_law_1158 : decode cL_law 1158 = .ok (.aload_n 3, 1) := dk_45 (dk_at dksL_law_41 16 rfl rfl)
theorem dL_law_1159 : decode cL_law 1159 = .ok (.invokestatic 184, 3) := dk_184 0 184 (dk_at dksL_law_41 17 rfl rfl)
theorem dL_law_1162 : decode cL_law 1162 = .ok (.istore 5, 2) := dk_54 5 (dk_at dksL_law_41 20 rfl rfl)
theorem dL_law_1164 : decode cL_law 1164 = .ok (.aload_n 2, 1) := dk_44 (dk_at dksL_law_41 22 rfl rfl)
theorem dL_law_1165 : decode cL_law 1165 = .ok (.aload_n 0, 1) := dk_42 (dk_at dksL_law_41 23 rfl rfl)
theorem dL_law_1166 : decode cL_law 1166 = .ok (.iload 4, 2) := dk_21 4 (dk_at dksL_law_42 0 rfl rfl)
theorem dL_law_1168 : decode cL_law 1168 = .ok (.iconst 1, 1) := dk_4 (dk_at dksL_law_42 2 rfl rfl)
theorem dL_law_1169 : decode cL_law 1169 = .ok (.iadd, 1) := dk_96 (dk_at dksL_law_42 3 rfl rfl)
theorem dL_law_1170 : decode cL_law 1170 = .ok (.iaload, 1) := dk_46 (dk_at dksL_law_42 4 rfl rfl)
theorem dL_law_1171 : decode cL_law 1171 = .ok (.invokevirtual 186, 3) := dk_182 0 186 (dk_at dksL_law_42 5 rfl rfl)
theorem dL_law_1174 : decode cL_law 1174 = .ok (.istore 6, 2) := dk_54 6 (dk_at dksL_law_42 8 rfl rfl)
theorem dL_law_1176 : decode cL_law 1176 = .ok (.aload_n 2, 1) := dk_44 (dk_at dksL_law_42 10 rfl rfl)
theorem dL_law_1177 : decode cL_law 1177 = .ok (.invokevirtual 134, 3) := dk_182 0 134 (dk_at dksL_law_42 11 rfl rfl)
theorem dL_law_1180 : decode cL_law 1180 = .ok (.iload 5, 2) := dk_21 5 (dk_at dksL_law_42 14 rfl rfl)
theorem dL_law_1182 : decode cL_law 1182 = .ok (.if_icmp .eq 5, 3) := dk_159 0 5 (dk_at dksL_law_42 16 rfl rfl)
theorem dL_law_1185 : decode cL_law 1185 = .ok (.iconst 0, 1) := dk_3 (dk_at dksL_law_42 19 rfl rfl)
theorem dL_law_1186 : decode cL_law 1186 = .ok (.ireturn, 1) := dk_172 (dk_at dksL_law_42 20 rfl rfl)
theorem dL_law_1187 : decode cL_law 1187 = .ok (.iload 5, 2) := dk_21 5 (dk_at dksL_law_42 21 rfl rfl)
theorem dL_law_1189 : decode cL_law 1189 = .ok (.ifCond .ne 15, 3) := dk_154 0 15 (dk_at dksL_law_43 0 rfl rfl)
theorem dL_law_1192 : decode cL_law 1192 = .ok (.aload_n 3, 1) := dk_45 (dk_at dksL_law_43 3 rfl rfl)
theorem dL_law_1193 : decode cL_law 1193 = .ok (.iconst 0, 1) := dk_3 (dk_at dksL_law_43 4 rfl rfl)
theorem dL_law_1194 : decode cL_law 1194 = .ok (.laload, 1) := dk_47 (dk_at dksL_law_43 5 rfl rfl)
theorem dL_law_1195 : decode cL_law 1195 = .ok (.iload 6, 2) := dk_21 6 (dk_at dksL_law_43 6 rfl rfl)
theorem dL_law_1197 : decode cL_law 1197 = .ok (.i2l, 1) := dk_133 (dk_at dksL_law_43 8 rfl rfl)
theorem dL_law_1198 : decode cL_law 1198 = .ok (.lcmp, 1) := dk_148 (dk_at dksL_law_43 9 rfl rfl)
theorem dL_law_1199 : decode cL_law 1199 = .ok (.ifCond .eq 5, 3) := dk_153 0 5 (dk_at dksL_law_43 10 rfl rfl)
theorem dL_law_1202 : decode cL_law 1202 = .ok (.iconst 0, 1) := dk_3 (dk_at dksL_law_43 13 rfl rfl)
theorem dL_law_1203 : decode cL_law 1203 = .ok (.ireturn, 1) := dk_172 (dk_at dksL_law_43 14 rfl rfl)
theorem dL_law_1204 : decode cL_law 1204 = .ok (.goto 1167, 3) := dk_167 4 143 (dk_at dksL_law_43 15 rfl rfl)
theorem dL_law_1207 : decode cL_law 1207 = .ok (.aload_n 1, 1) := dk_43 (dk_at dksL_law_43 18 rfl rfl)
theorem dL_law_1208 : decode cL_law 1208 = .ok (.aload_n 0, 1) := dk_42 (dk_at dksL_law_43 19 rfl rfl)
theorem dL_law_1209 : decode cL_law 1209 = .ok (.iload 4, 2) := dk_21 4 (dk_at dksL_law_43 20 rfl rfl)
theorem dL_law_1211 : decode cL_law 1211 = .ok (.iconst 1, 1) := dk_4 (dk_at dksL_law_43 22 rfl rfl)
theorem dL_law_1212 : decode cL_law 1212 = .ok (.iadd, 1) := dk_96 (dk_at dksL_law_43 23 rfl rfl)
theorem dL_law_1213 : decode cL_law 1213 = .ok (.iaload, 1) := dk_46 (dk_at dksL_law_44 0 rfl rfl)
theorem dL_law_1214 : decode cL_law 1214 = .ok (.aload_n 0, 1) := dk_42 (dk_at dksL_law_44 1 rfl rfl)
theorem dL_law_1215 : decode cL_law 1215 = .ok (.iload 4, 2) := dk_21 4 (dk_at dksL_law_44 2 rfl rfl)
theorem dL_law_1217 : decode cL_law 1217 = .ok (.iconst 2, 1) := dk_5 (dk_at dksL_law_44 4 rfl rfl)
theorem dL_law_1218 : decode cL_law 1218 = .ok (.iadd, 1) := dk_96 (dk_at dksL_law_44 5 rfl rfl)
theorem dL_law_1219 : decode cL_law 1219 = .ok (.iaload, 1) := dk_46 (dk_at dksL_law_44 6 rfl rfl)
theorem dL_law_1220 : decode cL_law 1220 = .ok (.aload_n 3, 1) := dk_45 (dk_at dksL_law_44 7 rfl rfl)
theorem dL_law_1221 : decode cL_law 1221 = .ok (.invokestatic 187, 3) := dk_184 0 187 (dk_at dksL_law_44 8 rfl rfl)
theorem dL_law_1224 : decode cL_law 1224 = .ok (.istore 5, 2) := dk_54 5 (dk_at dksL_law_44 11 rfl rfl)
theorem dL_law_1226 : decode cL_law 1226 = .ok (.aload_n 2, 1) := dk_44 (dk_at dksL_law_44 13 rfl rfl)
theorem dL_law_1227 : decode cL_law 1227 = .ok (.aload_n 0, 1) := dk_42 (dk_at dksL_law_44 14 rfl rfl)
theorem dL_law_1228 : decode cL_law 1228 = .ok (.iload 4, 2) := dk_21 4 (dk_at dksL_law_44 15 rfl rfl)
theorem dL_law_1230 : decode cL_law 1230 = .ok (.iconst 1, 1) := dk_4 (dk_at dksL_law_44 17 rfl rfl)
theorem dL_law_1231 : decode cL_law 1231 = .ok (.iadd, 1) := dk_96 (dk_at dksL_law_44 18 rfl rfl)
theorem dL_law_1232 : decode cL_law 1232 = .ok (.iaload, 1) := dk_46 (dk_at dksL_law_44 19 rfl rfl)
theorem dL_law_1233 : decode cL_law 1233 = .ok (.aload_n 0, 1) := dk_42 (dk_at dksL_law_44 20 rfl rfl)
theorem dL_law_1234 : decode cL_law 1234 = .ok (.iload 4, 2) := dk_21 4 (dk_at dksL_law_44 21 rfl rfl)
theorem dL_law_1236 : decode cL_law 1236 = .ok (.iconst 2, 1) := dk_5 (dk_at dksL_law_44 23 rfl rfl)
theorem dL_law_1237 : decode cL_law 1237 = .ok (.iadd, 1) := dk_96 (dk_at dksL_law_45 0 rfl rfl)
theorem dL_law_1238 : decode cL_law 1238 = .ok (.iaload, 1) := dk_46 (dk_at dksL_law_45 1 rfl rfl)
theorem dL_law_1239 : decode cL_law 1239 = .ok (.invokevirtual 189, 3) := dk_182 0 189 (dk_at dksL_law_45 2 rfl rfl)
theorem dL_law_1242 : decode cL_law 1242 = .ok (.istore 6, 2) := dk_54 6 (dk_at dksL_law_45 5 rfl rfl)
theorem dL_law_1244 : decode cL_law 1244 = .ok (.aload_n 2, 1) := dk_44 (dk_at dksL_law_45 7 rfl rfl)
theorem dL_law_1245 : decode cL_law 1245 = .ok (.invokevirtual 134, 3) := dk_182 0 134 (dk_at dksL_law_45 8 rfl rfl)
theorem dL_law_1248 : decode cL_law 1248 = .ok (.iload 5, 2) := dk_21 5 (dk_at dksL_law_45 11 rfl rfl)
theorem dL_law_1250 : decode cL_law 1250 = .ok (.if_icmp .eq 5, 3) := dk_159 0 5 (dk_at dksL_law_45 13 rfl rfl)
theorem dL_law_1253 : decode cL_law 1253 = .ok (.iconst 0, 1) := dk_3 (dk_at dksL_law_45 16 rfl rfl)
theorem dL_law_1254 : decode cL_law 1254 = .ok (.ireturn, 1) := dk_172 (dk_at dksL_law_45 17 rfl rfl)
theorem dL_law_1255 : decode cL_law 1255 = .ok (.iload 5, 2) := dk_21 5 (dk_at dksL_law_45 18 rfl rfl)
theorem dL_law_1257 : decode cL_law 1257 = .ok (.ifCond .ne 15, 3) := dk_154 0 15 (dk_at dksL_law_45 20 rfl rfl)
theorem dL_law_1260 : decode cL_law 1260 = .ok (.aload_n 3, 1) := dk_45 (dk_at dksL_law_45 23 rfl rfl)
theorem dL_law_1261 : decode cL_law 1261 = .ok (.iconst 0, 1) := dk_3 (dk_at dksL_law_46 0 rfl rfl)
theorem dL_law_1262 : decode cL_law 1262 = .ok (.laload, 1) := dk_47 (dk_at dksL_law_46 1 rfl rfl)
theorem dL_law_1263 : decode cL_law 1263 = .ok (.iload 6, 2) := dk_21 6 (dk_at dksL_law_46 2 rfl rfl)
theorem dL_law_1265 : decode cL_law 1265 = .ok (.i2l, 1) := dk_133 (dk_at dksL_law_46 4 rfl rfl)
theorem dL_law_1266 : decode cL_law 1266 = .ok (.lcmp, 1) := dk_148 (dk_at dksL_law_46 5 rfl rfl)
theorem dL_law_1267 : decode cL_law 1267 = .ok (.ifCond .eq 5, 3) := dk_153 0 5 (dk_at dksL_law_46 6 rfl rfl)
theorem dL_law_1270 : decode cL_law 1270 = .ok (.iconst 0, 1) := dk_3 (dk_at dksL_law_46 9 rfl rfl)
theorem dL_law_1271 : decode cL_law 1271 = .ok (.ireturn, 1) := dk_172 (dk_at dksL_law_46 10 rfl rfl)
theorem dL_law_1272 : decode cL_law 1272 = .ok (.goto 1099, 3) := dk_167 4 75 (dk_at dksL_law_46 11 rfl rfl)
theorem dL_law_1275 : decode cL_law 1275 = .ok (.aload_n 1, 1) := dk_43 (dk_at dksL_law_46 14 rfl rfl)
theorem dL_law_1276 : decode cL_law 1276 = .ok (.aload_n 0, 1) := dk_42 (dk_at dksL_law_46 15 rfl rfl)
theorem dL_law_1277 : decode cL_law 1277 = .ok (.iload 4, 2) := dk_21 4 (dk_at dksL_law_46 16 rfl rfl)
theorem dL_law_1279 : decode cL_law 1279 = .ok (.iconst 1, 1) := dk_4 (dk_at dksL_law_46 18 rfl rfl)
theorem dL_law_1280 : decode cL_law 1280 = .ok (.iadd, 1) := dk_96 (dk_at dksL_law_46 19 rfl rfl)
theorem dL_law_1281 : decode cL_law 1281 = .ok (.iaload, 1) := dk_46 (dk_at dksL_law_46 20 rfl rfl)
theorem dL_law_1282 : decode cL_law 1282 = .ok (.aload_n 3, 1) := dk_45 (dk_at dksL_law_46 21 rfl rfl)
theorem dL_law_1283 : decode cL_law 1283 = .ok (.invokestatic 190, 3) := dk_184 0 190 (dk_at dksL_law_47 0 rfl rfl)
theorem dL_law_1286 : decode cL_law 1286 = .ok (.istore 5, 2) := dk_54 5 (dk_at dksL_law_47 3 rfl rfl)
theorem dL_law_1288 : decode cL_law 1288 = .ok (.aload_n 2, 1) := dk_44 (dk_at dksL_law_47 5 rfl rfl)
theorem dL_law_1289 : decode cL_law 1289 = .ok (.aload_n 0, 1) := dk_42 (dk_at dksL_law_47 6 rfl rfl)
theorem dL_law_1290 : decode cL_law 1290 = .ok (.iload 4, 2) := dk_21 4 (dk_at dksL_law_47 7 rfl rfl)
theorem dL_law_1292 : decode cL_law 1292 = .ok (.iconst 1, 1) := dk_4 (dk_at dksL_law_47 9 rfl rfl)
theorem dL_law_1293 : decode cL_law 1293 = .ok (.iadd, 1) := dk_96 (dk_at dksL_law_47 10 rfl rfl)
theorem dL_law_1294 : decode cL_law 1294 = .ok (.iaload, 1) := dk_46 (dk_at dksL_law_47 11 rfl rfl)
theorem dL_law_1295 : decode cL_law 1295 = .ok (.invokevirtual 192, 3) := dk_182 0 192 (dk_at dksL_law_47 12 rfl rfl)
theorem dL_law_1298 : decode cL_law 1298 = .ok (.istore 6, 2) := dk_54 6 (dk_at dksL_law_47 15 rfl rfl)
theorem dL_law_1300 : decode cL_law 1300 = .ok (.aload_n 2, 1) := dk_44 (dk_at dksL_law_47 17 rfl rfl)
theorem dL_law_1301 : decode cL_law 1301 = .ok (.invokevirtual 134, 3) := dk_182 0 134 (dk_at dksL_law_47 18 rfl rfl)
theorem dL_law_1304 : decode cL_law 1304 = .ok (.iload 5, 2) := dk_21 5 (dk_at dksL_law_47 21 rfl rfl)
theorem dL_law_1306 : decode cL_law 1306 = .ok (.if_icmp .eq 5, 3) := dk_159 0 5 (dk_at dksL_law_48 0 rfl rfl)
theorem dL_law_1309 : decode cL_law 1309 = .ok (.iconst 0, 1) := dk_3 (dk_at dksL_law_48 3 rfl rfl)
theorem dL_law_1310 : decode cL_law 1310 = .ok (.ireturn, 1) := dk_172 (dk_at dksL_law_48 4 rfl rfl)
theorem dL_law_1311 : decode cL_law 1311 = .ok (.iload 5, 2) := dk_21 5 (dk_at dksL_law_48 5 rfl rfl)
theorem dL_law_1313 : decode cL_law 1313 = .ok (.ifCond .ne 15, 3) := dk_154 0 15 (dk_at dksL_law_48 7 rfl rfl)
theorem dL_law_1316 : decode cL_law 1316 = .ok (.aload_n 3, 1) := dk_45 (dk_at dksL_law_48 10 rfl rfl)
theorem dL_law_1317 : decode cL_law 1317 = .ok (.iconst 0, 1) := dk_3 (dk_at dksL_law_48 11 rfl rfl)
theorem dL_law_1318 : decode cL_law 1318 = .ok (.laload, 1) := dk_47 (dk_at dksL_law_48 12 rfl rfl)
theorem dL_law_1319 : decode cL_law 1319 = .ok (.iload 6, 2) := dk_21 6 (dk_at dksL_law_48 13 rfl rfl)
theorem dL_law_1321 : decode cL_law 1321 = .ok (.i2l, 1) := dk_133 (dk_at dksL_law_48 15 rfl rfl)
theorem dL_law_1322 : decode cL_law 1322 = .ok (.lcmp, 1) := dk_148 (dk_at dksL_law_48 16 rfl rfl)
theorem dL_law_1323 : decode cL_law 1323 = .ok (.ifCond .eq 5, 3) := dk_153 0 5 (dk_at dksL_law_48 17 rfl rfl)
theorem dL_law_1326 : decode cL_law 1326 = .ok (.iconst 0, 1) := dk_3 (dk_at dksL_law_48 20 rfl rfl)
theorem dL_law_1327 : decode cL_law 1327 = .ok (.ireturn, 1) := dk_172 (dk_at dksL_law_48 21 rfl rfl)
theorem dL_law_1328 : decode cL_law 1328 = .ok (.goto 1043, 3) := dk_167 4 19 (dk_at dksL_law_49 0 rfl rfl)
theorem dL_law_1331 : decode cL_law 1331 = .ok (.aload_n 1, 1) := dk_43 (dk_at dksL_law_49 3 rfl rfl)
theorem dL_law_1332 : decode cL_law 1332 = .ok (.aload_n 0, 1) := dk_42 (dk_at dksL_law_49 4 rfl rfl)
theorem dL_law_1333 : decode cL_law 1333 = .ok (.iload 4, 2) := dk_21 4 (dk_at dksL_law_49 5 rfl rfl)
theorem dL_law_1335 : decode cL_law 1335 = .ok (.iconst 1, 1) := dk_4 (dk_at dksL_law_49 7 rfl rfl)
theorem dL_law_1336 : decode cL_law 1336 = .ok (.iadd, 1) := dk_96 (dk_at dksL_law_49 8 rfl rfl)
theorem dL_law_1337 : decode cL_law 1337 = .ok (.iaload, 1) := dk_46 (dk_at dksL_law_49 9 rfl rfl)
theorem dL_law_1338 : decode cL_law 1338 = .ok (.aload_n 3, 1) := dk_45 (dk_at dksL_law_49 10 rfl rfl)
theorem dL_law_1339 : decode cL_law 1339 = .ok (.invokestatic 193, 3) := dk_184 0 193 (dk_at dksL_law_49 11 rfl rfl)
theorem dL_law_1342 : decode cL_law 1342 = .ok (.istore 5, 2) := dk_54 5 (dk_at dksL_law_49 14 rfl rfl)
theorem dL_law_1344 : decode cL_law 1344 = .ok (.aload_n 2, 1) := dk_44 (dk_at dksL_law_49 16 rfl rfl)
theorem dL_law_1345 : decode cL_law 1345 = .ok (.aload_n 0, 1) := dk_42 (dk_at dksL_law_49 17 rfl rfl)
theorem dL_law_1346 : decode cL_law 1346 = .ok (.iload 4, 2) := dk_21 4 (dk_at dksL_law_49 18 rfl rfl)
theorem dL_law_1348 : decode cL_law 1348 = .ok (.iconst 1, 1) := dk_4 (dk_at dksL_law_49 20 rfl rfl)
theorem dL_law_1349 : decode cL_law 1349 = .ok (.iadd, 1) := dk_96 (dk_at dksL_law_49 21 rfl rfl)
theorem dL_law_1350 : decode cL_law 1350 = .ok (.iaload, 1) := dk_46 (dk_at dksL_law_49 22 rfl rfl)
theorem dL_law_1351 : decode cL_law 1351 = .ok (.invokevirtual 195, 3) := dk_182 0 195 (dk_at dksL_law_50 0 rfl rfl)
theorem dL_law_1354 : decode cL_law 1354 = .ok (.istore 6, 2) := dk_54 6 (dk_at dksL_law_50 3 rfl rfl)
theorem dL_law_1356 : decode cL_law 1356 = .ok (.aload_n 2, 1) := dk_44 (dk_at dksL_law_50 5 rfl rfl)
theorem dL_law_1357 : decode cL_law 1357 = .ok (.invokevirtual 134, 3) := dk_182 0 134 (dk_at dksL_law_50 6 rfl rfl)
theorem dL_law_1360 : decode cL_law 1360 = .ok (.iload 5, 2) := dk_21 5 (dk_at dksL_law_50 9 rfl rfl)
theorem dL_law_1362 : decode cL_law 1362 = .ok (.if_icmp .eq 5, 3) := dk_159 0 5 (dk_at dksL_law_50 11 rfl rfl)
theorem dL_law_1365 : decode cL_law 1365 = .ok (.iconst 0, 1) := dk_3 (dk_at dksL_law_50 14 rfl rfl)
theorem dL_law_1366 : decode cL_law 1366 = .ok (.ireturn, 1) := dk_172 (dk_at dksL_law_50 15 rfl rfl)
theorem dL_law_1367 : decode cL_law 1367 = .ok (.iload 5, 2) := dk_21 5 (dk_at dksL_law_50 16 rfl rfl)
theorem dL_law_1369 : decode cL_law 1369 = .ok (.ifCond .ne 15, 3) := dk_154 0 15 (dk_at dksL_law_50 18 rfl rfl)
theorem dL_law_1372 : decode cL_law 1372 = .ok (.aload_n 3, 1) := dk_45 (dk_at dksL_law_50 21 rfl rfl)
theorem dL_law_1373 : decode cL_law 1373 = .ok (.iconst 0, 1) := dk_3 (dk_at dksL_law_50 22 rfl rfl)
theorem dL_law_1374 : decode cL_law 1374 = .ok (.laload, 1) := dk_47 (dk_at dksL_law_50 23 rfl rfl)
theorem dL_law_1375 : decode cL_law 1375 = .ok (.iload 6, 2) := dk_21 6 (dk_at dksL_law_51 0 rfl rfl)
theorem dL_law_1377 : decode cL_law 1377 = .ok (.i2l, 1) := dk_133 (dk_at dksL_law_51 2 rfl rfl)
theorem dL_law_1378 : decode cL_law 1378 = .ok (.lcmp, 1) := dk_148 (dk_at dksL_law_51 3 rfl rfl)
theorem dL_law_1379 : decode cL_law 1379 = .ok (.ifCond .eq 5, 3) := dk_153 0 5 (dk_at dksL_law_51 4 rfl rfl)
theorem dL_law_1382 : decode cL_law 1382 = .ok (.iconst 0, 1) := dk_3 (dk_at dksL_law_51 7 rfl rfl)
theorem dL_law_1383 : decode cL_law 1383 = .ok (.ireturn, 1) := dk_172 (dk_at dksL_law_51 8 rfl rfl)
theorem dL_law_1384 : decode cL_law 1384 = .ok (.goto 987, 3) := dk_167 3 219 (dk_at dksL_law_51 9 rfl rfl)
theorem dL_law_1387 : decode cL_law 1387 = .ok (.aload_n 1, 1) := dk_43 (dk_at dksL_law_51 12 rfl rfl)
theorem dL_law_1388 : decode cL_law 1388 = .ok (.invokevirtual 196, 3) := dk_182 0 196 (dk_at dksL_law_51 13 rfl rfl)
theorem dL_law_1391 : decode cL_law 1391 = .ok (.aload_n 2, 1) := dk_44 (dk_at dksL_law_51 16 rfl rfl)
theorem dL_law_1392 : decode cL_law 1392 = .ok (.invokevirtual 199, 3) := dk_182 0 199 (dk_at dksL_law_51 17 rfl rfl)
theorem dL_law_1395 : decode cL_law 1395 = .ok (.if_icmp .eq 976, 3) := dk_159 3 208 (dk_at dksL_law_51 20 rfl rfl)
theorem dL_law_1398 : decode cL_law 1398 = .ok (.iconst 0, 1) := dk_3 (dk_at dksL_law_51 23 rfl rfl)
theorem dL_law_1399 : decode cL_law 1399 = .ok (.ireturn, 1) := dk_172 (dk_at dksL_law_52 0 rfl rfl)
theorem dL_law_1400 : decode cL_law 1400 = .ok (.aload_n 1, 1) := dk_43 (dk_at dksL_law_52 1 rfl rfl)
theorem dL_law_1401 : decode cL_law 1401 = .ok (.invokevirtual 200, 3) := dk_182 0 200 (dk_at dksL_law_52 2 rfl rfl)
theorem dL_law_1404 : decode cL_law 1404 = .ok (.aload_n 2, 1) := dk_44 (dk_at dksL_law_52 5 rfl rfl)
theorem dL_law_1405 : decode cL_law 1405 = .ok (.invokevirtual 203, 3) := dk_182 0 203 (dk_at dksL_law_52 6 rfl rfl)
theorem dL_law_1408 : decode cL_law 1408 = .ok (.if_icmp .eq 963, 3) := dk_159 3 195 (dk_at dksL_law_52 9 rfl rfl)
theorem dL_law_1411 : decode cL_law 1411 = .ok (.iconst 0, 1) := dk_3 (dk_at dksL_law_52 12 rfl rfl)
theorem dL_law_1412 : decode cL_law 1412 = .ok (.ireturn, 1) := dk_172 (dk_at dksL_law_52 13 rfl rfl)
theorem dL_law_1413 : decode cL_law 1413 = .ok (.aload_n 1, 1) := dk_43 (dk_at dksL_law_52 14 rfl rfl)
theorem dL_law_1414 : decode cL_law 1414 = .ok (.invokevirtual 204, 3) := dk_182 0 204 (dk_at dksL_law_52 15 rfl rfl)
theorem dL_law_1417 : decode cL_law 1417 = .ok (.aload_n 2, 1) := dk_44 (dk_at dksL_law_52 18 rfl rfl)
theorem dL_law_1418 : decode cL_law 1418 = .ok (.invokevirtual 207, 3) := dk_182 0 207 (dk_at dksL_law_52 19 rfl rfl)
theorem dL_law_1421 : decode cL_law 1421 = .ok (.if_icmp .eq 950, 3) := dk_159 3 182 (dk_at dksL_law_53 0 rfl rfl)
theorem dL_law_1424 : decode cL_law 1424 = .ok (.iconst 0, 1) := dk_3 (dk_at dksL_law_53 3 rfl rfl)
theorem dL_law_1425 : decode cL_law 1425 = .ok (.ireturn, 1) := dk_172 (dk_at dksL_law_53 4 rfl rfl)
theorem dL_law_1426 : decode cL_law 1426 = .ok (.aload_n 1, 1) := dk_43 (dk_at dksL_law_53 5 rfl rfl)
theorem dL_law_1427 : decode cL_law 1427 = .ok (.invokevirtual 208, 3) := dk_182 0 208 (dk_at dksL_law_53 6 rfl rfl)
theorem dL_law_1430 : decode cL_law 1430 = .ok (.aload_n 2, 1) := dk_44 (dk_at dksL_law_53 9 rfl rfl)
theorem dL_law_1431 : decode cL_law 1431 = .ok (.invokevirtual 211, 3) := dk_182 0 211 (dk_at dksL_law_53 10 rfl rfl)
theorem dL_law_1434 : decode cL_law 1434 = .ok (.if_icmp .eq 937, 3) := dk_159 3 169 (dk_at dksL_law_53 13 rfl rfl)
theorem dL_law_1437 : decode cL_law 1437 = .ok (.iconst 0, 1) := dk_3 (dk_at dksL_law_53 16 rfl rfl)
theorem dL_law_1438 : decode cL_law 1438 = .ok (.ireturn, 1) := dk_172 (dk_at dksL_law_53 17 rfl rfl)
theorem dL_law_1439 : decode cL_law 1439 = .ok (.aload_n 1, 1) := dk_43 (dk_at dksL_law_53 18 rfl rfl)
theorem dL_law_1440 : decode cL_law 1440 = .ok (.invokevirtual 212, 3) := dk_182 0 212 (dk_at dksL_law_53 19 rfl rfl)
theorem dL_law_1443 : decode cL_law 1443 = .ok (.aload_n 2, 1) := dk_44 (dk_at dksL_law_53 22 rfl rfl)
theorem dL_law_1444 : decode cL_law 1444 = .ok (.invokevirtual 215, 3) := dk_182 0 215 (dk_at dksL_law_54 0 rfl rfl)
theorem dL_law_1447 : decode cL_law 1447 = .ok (.if_icmp .eq 924, 3) := dk_159 3 156 (dk_at dksL_law_54 3 rfl rfl)
theorem dL_law_1450 : decode cL_law 1450 = .ok (.iconst 0, 1) := dk_3 (dk_at dksL_law_54 6 rfl rfl)
theorem dL_law_1451 : decode cL_law 1451 = .ok (.ireturn, 1) := dk_172 (dk_at dksL_law_54 7 rfl rfl)
theorem dL_law_1452 : decode cL_law 1452 = .ok (.aload_n 1, 1) := dk_43 (dk_at dksL_law_54 8 rfl rfl)
theorem dL_law_1453 : decode cL_law 1453 = .ok (.invokevirtual 216, 3) := dk_182 0 216 (dk_at dksL_law_54 9 rfl rfl)
theorem dL_law_1456 : decode cL_law 1456 = .ok (.aload_n 2, 1) := dk_44 (dk_at dksL_law_54 12 rfl rfl)
theorem dL_law_1457 : decode cL_law 1457 = .ok (.invokevirtual 219, 3) := dk_182 0 219 (dk_at dksL_law_54 13 rfl rfl)
theorem dL_law_1460 : decode cL_law 1460 = .ok (.if_icmp .eq 911, 3) := dk_159 3 143 (dk_at dksL_law_54 16 rfl rfl)
theorem dL_law_1463 : decode cL_law 1463 = .ok (.iconst 0, 1) := dk_3 (dk_at dksL_law_54 19 rfl rfl)
theorem dL_law_1464 : decode cL_law 1464 = .ok (.ireturn, 1) := dk_172 (dk_at dksL_law_54 20 rfl rfl)
theorem dL_law_1465 : decode cL_law 1465 = .ok (.aload_n 1, 1) := dk_43 (dk_at dksL_law_54 21 rfl rfl)
theorem dL_law_1466 : decode cL_law 1466 = .ok (.invokevirtual 220, 3) := dk_182 0 220 (dk_at dksL_law_55 0 rfl rfl)
theorem dL_law_1469 : decode cL_law 1469 = .ok (.aload_n 2, 1) := dk_44 (dk_at dksL_law_55 3 rfl rfl)
theorem dL_law_1470 : decode cL_law 1470 = .ok (.invokevirtual 223, 3) := dk_182 0 223 (dk_at dksL_law_55 4 rfl rfl)
theorem dL_law_1473 : decode cL_law 1473 = .ok (.if_icmp .eq 898, 3) := dk_159 3 130 (dk_at dksL_law_55 7 rfl rfl)
theorem dL_law_1476 : decode cL_law 1476 = .ok (.iconst 0, 1) := dk_3 (dk_at dksL_law_55 10 rfl rfl)
theorem dL_law_1477 : decode cL_law 1477 = .ok (.ireturn, 1) := dk_172 (dk_at dksL_law_55 11 rfl rfl)
theorem dL_law_1478 : decode cL_law 1478 = .ok (.aload_n 1, 1) := dk_43 (dk_at dksL_law_55 12 rfl rfl)
theorem dL_law_1479 : decode cL_law 1479 = .ok (.invokevirtual 224, 3) := dk_182 0 224 (dk_at dksL_law_55 13 rfl rfl)
theorem dL_law_1482 : decode cL_law 1482 = .ok (.aload_n 2, 1) := dk_44 (dk_at dksL_law_55 16 rfl rfl)
theorem dL_law_1483 : decode cL_law 1483 = .ok (.invokevirtual 227, 3) := dk_182 0 227 (dk_at dksL_law_55 17 rfl rfl)
theorem dL_law_1486 : decode cL_law 1486 = .ok (.if_icmp .eq 885, 3) := dk_159 3 117 (dk_at dksL_law_55 20 rfl rfl)
theorem dL_law_1489 : decode cL_law 1489 = .ok (.iconst 0, 1) := dk_3 (dk_at dksL_law_55 23 rfl rfl)
theorem dL_law_1490 : decode cL_law 1490 = .ok (.ireturn, 1) := dk_172 (dk_at dksL_law_56 0 rfl rfl)
theorem dL_law_1491 : decode cL_law 1491 = .ok (.aload_n 1, 1) := dk_43 (dk_at dksL_law_56 1 rfl rfl)
theorem dL_law_1492 : decode cL_law 1492 = .ok (.aload_n 0, 1) := dk_42 (dk_at dksL_law_56 2 rfl rfl)
theorem dL_law_1493 : decode cL_law 1493 = .ok (.iload 4, 2) := dk_21 4 (dk_at dksL_law_56 3 rfl rfl)
theorem dL_law_1495 : decode cL_law 1495 = .ok (.iconst 1, 1) := dk_4 (dk_at dksL_law_56 5 rfl rfl)
theorem dL_law_1496 : decode cL_law 1496 = .ok (.iadd, 1) := dk_96 (dk_at dksL_law_56 6 rfl rfl)
theorem dL_law_1497 : decode cL_law 1497 = .ok (.iaload, 1) := dk_46 (dk_at dksL_law_56 7 rfl rfl)
theorem dL_law_1498 : decode cL_law 1498 = .ok (.aload_n 3, 1) := dk_45 (dk_at dksL_law_56 8 rfl rfl)
theorem dL_law_1499 : decode cL_law 1499 = .ok (.invokestatic 228, 3) := dk_184 0 228 (dk_at dksL_law_56 9 rfl rfl)
theorem dL_law_1502 : decode cL_law 1502 = .ok (.istore 5, 2) := dk_54 5 (dk_at dksL_law_56 12 rfl rfl)
theorem dL_law_1504 : decode cL_law 1504 = .ok (.aload_n 2, 1) := dk_44 (dk_at dksL_law_56 14 rfl rfl)
theorem dL_law_1505 : decode cL_law 1505 = .ok (.aload_n 0, 1) := dk_42 (dk_at dksL_law_56 15 rfl rfl)
theorem dL_law_1506 : decode cL_law 1506 = .ok (.iload 4, 2) := dk_21 4 (dk_at dksL_law_56 16 rfl rfl)
theorem dL_law_1508 : decode cL_law 1508 = .ok (.iconst 1, 1) := dk_4 (dk_at dksL_law_56 18 rfl rfl)
theorem dL_law_1509 : decode cL_law 1509 = .ok (.iadd, 1) := dk_96 (dk_at dksL_law_56 19 rfl rfl)
theorem dL_law_1510 : decode cL_law 1510 = .ok (.iaload, 1) := dk_46 (dk_at dksL_law_56 20 rfl rfl)
theorem dL_law_1511 : decode cL_law 1511 = .ok (.invokevirtual 230, 3) := dk_182 0 230 (dk_at dksL_law_56 21 rfl rfl)
theorem dL_law_1514 : decode cL_law 1514 = .ok (.istore 6, 2) := dk_54 6 (dk_at dksL_law_57 0 rfl rfl)
theorem dL_law_1516 : decode cL_law 1516 = .ok (.aload_n 2, 1) := dk_44 (dk_at dksL_law_57 2 rfl rfl)
theorem dL_law_1517 : decode cL_law 1517 = .ok (.invokevirtual 134, 3) := dk_182 0 134 (dk_at dksL_law_57 3 rfl rfl)
theorem dL_law_1520 : decode cL_law 1520 = .ok (.iload 5, 2) := dk_21 5 (dk_at dksL_law_57 6 rfl rfl)
theorem dL_law_1522 : decode cL_law 1522 = .ok (.if_icmp .eq 5, 3) := dk_159 0 5 (dk_at dksL_law_57 8 rfl rfl)
theorem dL_law_1525 : decode cL_law 1525 = .ok (.iconst 0, 1) := dk_3 (dk_at dksL_law_57 11 rfl rfl)
theorem dL_law_1526 : decode cL_law 1526 = .ok (.ireturn, 1) := dk_172 (dk_at dksL_law_57 12 rfl rfl)
theorem dL_law_1527 : decode cL_law 1527 = .ok (.iload 5, 2) := dk_21 5 (dk_at dksL_law_57 13 rfl rfl)
theorem dL_law_1529 : decode cL_law 1529 = .ok (.ifCond .ne 15, 3) := dk_154 0 15 (dk_at dksL_law_57 15 rfl rfl)
theorem dL_law_1532 : decode cL_law 1532 = .ok (.aload_n 3, 1) := dk_45 (dk_at dksL_law_57 18 rfl rfl)
theorem dL_law_1533 : decode cL_law 1533 = .ok (.iconst 0, 1) := dk_3 (dk_at dksL_law_57 19 rfl rfl)
theorem dL_law_1534 : decode cL_law 1534 = .ok (.laload, 1) := dk_47 (dk_at dksL_law_57 20 rfl rfl)
theorem dL_law_1535 : decode cL_law 1535 = .ok (.iload 6, 2) := dk_21 6 (dk_at dksL_law_57 21 rfl rfl)
theorem dL_law_1537 : decode cL_law 1537 = .ok (.i2l, 1) := dk_133 (dk_at dksL_law_57 23 rfl rfl)
theorem dL_law_1538 : decode cL_law 1538 = .ok (.lcmp, 1) := dk_148 (dk_at dksL_law_58 0 rfl rfl)
theorem dL_law_1539 : decode cL_law 1539 = .ok (.ifCond .eq 5, 3) := dk_153 0 5 (dk_at dksL_law_58 1 rfl rfl)
theorem dL_law_1542 : decode cL_law 1542 = .ok (.iconst 0, 1) := dk_3 (dk_at dksL_law_58 4 rfl rfl)
theorem dL_law_1543 : decode cL_law 1543 = .ok (.ireturn, 1) := dk_172 (dk_at dksL_law_58 5 rfl rfl)
theorem dL_law_1544 : decode cL_law 1544 = .ok (.goto 827, 3) := dk_167 3 59 (dk_at dksL_law_58 6 rfl rfl)
theorem dL_law_1547 : decode cL_law 1547 = .ok (.aload_n 1, 1) := dk_43 (dk_at dksL_law_58 9 rfl rfl)
theorem dL_law_1548 : decode cL_law 1548 = .ok (.aload_n 0, 1) := dk_42 (dk_at dksL_law_58 10 rfl rfl)
theorem dL_law_1549 : decode cL_law 1549 = .ok (.iload 4, 2) := dk_21 4 (dk_at dksL_law_58 11 rfl rfl)
theorem dL_law_1551 : decode cL_law 1551 = .ok (.iconst 1, 1) := dk_4 (dk_at dksL_law_58 13 rfl rfl)
theorem dL_law_1552 : decode cL_law 1552 = .ok (.iadd, 1) := dk_96 (dk_at dksL_law_58 14 rfl rfl)
theorem dL_law_1553 : decode cL_law 1553 = .ok (.iaload, 1) := dk_46 (dk_at dksL_law_58 15 rfl rfl)
theorem dL_law_1554 : decode cL_law 1554 = .ok (.aload_n 3, 1) := dk_45 (dk_at dksL_law_58 16 rfl rfl)
theorem dL_law_1555 : decode cL_law 1555 = .ok (.invokestatic 231, 3) := dk_184 0 231 (dk_at dksL_law_58 17 rfl rfl)
theorem dL_law_1558 : decode cL_law 1558 = .ok (.istore 5, 2) := dk_54 5 (dk_at dksL_law_58 20 rfl rfl)
theorem dL_law_1560 : decode cL_law 1560 = .ok (.aload_n 2, 1) := dk_44 (dk_at dksL_law_58 22 rfl rfl)
theorem dL_law_1561 : decode cL_law 1561 = .ok (.aload_n 0, 1) := dk_42 (dk_at dksL_law_58 23 rfl rfl)
theorem dL_law_1562 : decode cL_law 1562 = .ok (.iload 4, 2) := dk_21 4 (dk_at dksL_law_59 0 rfl rfl)
theorem dL_law_1564 : decode cL_law 1564 = .ok (.iconst 1, 1) := dk_4 (dk_at dksL_law_59 2 rfl rfl)
theorem dL_law_1565 : decode cL_law 1565 = .ok (.iadd, 1) := dk_96 (dk_at dksL_law_59 3 rfl rfl)
theorem dL_law_1566 : decode cL_law 1566 = .ok (.iaload, 1) := dk_46 (dk_at dksL_law_59 4 rfl rfl)
theorem dL_law_1567 : decode cL_law 1567 = .ok (.invokevirtual 233, 3) := dk_182 0 233 (dk_at dksL_law_59 5 rfl rfl)
theorem dL_law_1570 : decode cL_law 1570 = .ok (.istore 6, 2) := dk_54 6 (dk_at dksL_law_59 8 rfl rfl)
theorem dL_law_1572 : decode cL_law 1572 = .ok (.aload_n 2, 1) := dk_44 (dk_at dksL_law_59 10 rfl rfl)
theorem dL_law_1573 : decode cL_law 1573 = .ok (.invokevirtual 134, 3) := dk_182 0 134 (dk_at dksL_law_59 11 rfl rfl)
theorem dL_law_1576 : decode cL_law 1576 = .ok (.iload 5, 2) := dk_21 5 (dk_at dksL_law_59 14 rfl rfl)
theorem dL_law_1578 : decode cL_law 1578 = .ok (.if_icmp .eq 5, 3) := dk_159 0 5 (dk_at dksL_law_59 16 rfl rfl)
theorem dL_law_1581 : decode cL_law 1581 = .ok (.iconst 0, 1) := dk_3 (dk_at dksL_law_59 19 rfl rfl)
theorem dL_law_1582 : decode cL_law 1582 = .ok (.ireturn, 1) := dk_172 (dk_at dksL_law_59 20 rfl rfl)
theorem dL_law_1583 : decode cL_law 1583 = .ok (.iload 5, 2) := dk_21 5 (dk_at dksL_law_59 21 rfl rfl)
theorem dL_law_1585 : decode cL_law 1585 = .ok (.ifCond .ne 15, 3) := dk_154 0 15 (dk_at dksL_law_60 0 rfl rfl)
theorem dL_law_1588 : decode cL_law 1588 = .ok (.aload_n 3, 1) := dk_45 (dk_at dksL_law_60 3 rfl rfl)
theorem dL_law_1589 : decode cL_law 1589 = .ok (.iconst 0, 1) := dk_3 (dk_at dksL_law_60 4 rfl rfl)
theorem dL_law_1590 : decode cL_law 1590 = .ok (.laload, 1) := dk_47 (dk_at dksL_law_60 5 rfl rfl)
theorem dL_law_1591 : decode cL_law 1591 = .ok (.iload 6, 2) := dk_21 6 (dk_at dksL_law_60 6 rfl rfl)
theorem dL_law_1593 : decode cL_law 1593 = .ok (.i2l, 1) := dk_133 (dk_at dksL_law_60 8 rfl rfl)
theorem dL_law_1594 : decode cL_law 1594 = .ok (.lcmp, 1) := dk_148 (dk_at dksL_law_60 9 rfl rfl)
theorem dL_law_1595 : decode cL_law 1595 = .ok (.ifCond .eq 5, 3) := dk_153 0 5 (dk_at dksL_law_60 10 rfl rfl)
theorem dL_law_1598 : decode cL_law 1598 = .ok (.iconst 0, 1) := dk_3 (dk_at dksL_law_60 13 rfl rfl)
theorem dL_law_1599 : decode cL_law 1599 = .ok (.ireturn, 1) := dk_172 (dk_at dksL_law_60 14 rfl rfl)
theorem dL_law_1600 : decode cL_law 1600 = .ok (.goto 771, 3) := dk_167 3 3 (dk_at dksL_law_60 15 rfl rfl)
theorem dL_law_1603 : decode cL_law 1603 = .ok (.aload_n 1, 1) := dk_43 (dk_at dksL_law_60 18 rfl rfl)
theorem dL_law_1604 : decode cL_law 1604 = .ok (.aload_n 0, 1) := dk_42 (dk_at dksL_law_60 19 rfl rfl)
theorem dL_law_1605 : decode cL_law 1605 = .ok (.iload 4, 2) := dk_21 4 (dk_at dksL_law_60 20 rfl rfl)
theorem dL_law_1607 : decode cL_law 1607 = .ok (.iconst 1, 1) := dk_4 (dk_at dksL_law_60 22 rfl rfl)
theorem dL_law_1608 : decode cL_law 1608 = .ok (.iadd, 1) := dk_96 (dk_at dksL_law_60 23 rfl rfl)
theorem dL_law_1609 : decode cL_law 1609 = .ok (.iaload, 1) := dk_46 (dk_at dksL_law_61 0 rfl rfl)
theorem dL_law_1610 : decode cL_law 1610 = .ok (.aload_n 3, 1) := dk_45 (dk_at dksL_law_61 1 rfl rfl)
theorem dL_law_1611 : decode cL_law 1611 = .ok (.invokestatic 234, 3) := dk_184 0 234 (dk_at dksL_law_61 2 rfl rfl)
theorem dL_law_1614 : decode cL_law 1614 = .ok (.istore 5, 2) := dk_54 5 (dk_at dksL_law_61 5 rfl rfl)
theorem dL_law_1616 : decode cL_law 1616 = .ok (.aload_n 2, 1) := dk_44 (dk_at dksL_law_61 7 rfl rfl)
theorem dL_law_1617 : decode cL_law 1617 = .ok (.aload_n 0, 1) := dk_42 (dk_at dksL_law_61 8 rfl rfl)
theorem dL_law_1618 : decode cL_law 1618 = .ok (.iload 4, 2) := dk_21 4 (dk_at dksL_law_61 9 rfl rfl)
theorem dL_law_1620 : decode cL_law 1620 = .ok (.iconst 1, 1) := dk_4 (dk_at dksL_law_61 11 rfl rfl)
theorem dL_law_1621 : decode cL_law 1621 = .ok (.iadd, 1) := dk_96 (dk_at dksL_law_61 12 rfl rfl)
theorem dL_law_1622 : decode cL_law 1622 = .ok (.iaload, 1) := dk_46 (dk_at dksL_law_61 13 rfl rfl)
theorem dL_law_1623 : decode cL_law 1623 = .ok (.invokevirtual 236, 3) := dk_182 0 236 (dk_at dksL_law_61 14 rfl rfl)
theorem dL_law_1626 : decode cL_law 1626 = .ok (.istore 6, 2) := dk_54 6 (dk_at dksL_law_61 17 rfl rfl)
theorem dL_law_1628 : decode cL_law 1628 = .ok (.aload_n 2, 1) := dk_44 (dk_at dksL_law_61 19 rfl rfl)
theorem dL_law_1629 : decode cL_law 1629 = .ok (.invokevirtual 134, 3) := dk_182 0 134 (dk_at dksL_law_61 20 rfl rfl)
theorem dL_law_1632 : decode cL_law 1632 = .ok (.iload 5, 2) := dk_21 5 (dk_at dksL_law_62 0 rfl rfl)
theorem dL_law_1634 : decode cL_law 1634 = .ok (.if_icmp .eq 5, 3) := dk_159 0 5 (dk_at dksL_law_62 2 rfl rfl)
theorem dL_law_1637 : decode cL_law 1637 = .ok (.iconst 0, 1) := dk_3 (dk_at dksL_law_62 5 rfl rfl)
theorem dL_law_1638 : decode cL_law 1638 = .ok (.ireturn, 1) := dk_172 (dk_at dksL_law_62 6 rfl rfl)
theorem dL_law_1639 : decode cL_law 1639 = .ok (.iload 5, 2) := dk_21 5 (dk_at dksL_law_62 7 rfl rfl)
theorem dL_law_1641 : decode cL_law 1641 = .ok (.ifCond .ne 15, 3) := dk_154 0 15 (dk_at dksL_law_62 9 rfl rfl)
theorem dL_law_1644 : decode cL_law 1644 = .ok (.aload_n 3, 1) := dk_45 (dk_at dksL_law_62 12 rfl rfl)
theorem dL_law_1645 : decode cL_law 1645 = .ok (.iconst 0, 1) := dk_3 (dk_at dksL_law_62 13 rfl rfl)
theorem dL_law_1646 : decode cL_law 1646 = .ok (.laload, 1) := dk_47 (dk_at dksL_law_62 14 rfl rfl)
theorem dL_law_1647 : decode cL_law 1647 = .ok (.iload 6, 2) := dk_21 6 (dk_at dksL_law_62 15 rfl rfl)
theorem dL_law_1649 : decode cL_law 1649 = .ok (.i2l, 1) := dk_133 (dk_at dksL_law_62 17 rfl rfl)
theorem dL_law_1650 : decode cL_law 1650 = .ok (.lcmp, 1) := dk_148 (dk_at dksL_law_62 18 rfl rfl)
theorem dL_law_1651 : decode cL_law 1651 = .ok (.ifCond .eq 5, 3) := dk_153 0 5 (dk_at dksL_law_62 19 rfl rfl)
theorem dL_law_1654 : decode cL_law 1654 = .ok (.iconst 0, 1) := dk_3 (dk_at dksL_law_62 22 rfl rfl)
theorem dL_law_1655 : decode cL_law 1655 = .ok (.ireturn, 1) := dk_172 (dk_at dksL_law_62 23 rfl rfl)
theorem dL_law_1656 : decode cL_law 1656 = .ok (.goto 715, 3) := dk_167 2 203 (dk_at dksL_law_63 0 rfl rfl)
theorem dL_law_1659 : decode cL_law 1659 = .ok (.aload_n 1, 1) := dk_43 (dk_at dksL_law_63 3 rfl rfl)
theorem dL_law_1660 : decode cL_law 1660 = .ok (.invokevirtual 237, 3) := dk_182 0 237 (dk_at dksL_law_63 4 rfl rfl)
theorem dL_law_1663 : decode cL_law 1663 = .ok (.aload_n 2, 1) := dk_44 (dk_at dksL_law_63 7 rfl rfl)
theorem dL_law_1664 : decode cL_law 1664 = .ok (.invokevirtual 240, 3) := dk_182 0 240 (dk_at dksL_law_63 8 rfl rfl)
theorem dL_law_1667 : decode cL_law 1667 = .ok (.if_icmp .eq 704, 3) := dk_159 2 192 (dk_at dksL_law_63 11 rfl rfl)
theorem dL_law_1670 : decode cL_law 1670 = .ok (.iconst 0, 1) := dk_3 (dk_at dksL_law_63 14 rfl rfl)
theorem dL_law_1671 : decode cL_law 1671 = .ok (.ireturn, 1) := dk_172 (dk_at dksL_law_63 15 rfl rfl)
theorem dL_law_1672 : decode cL_law 1672 = .ok (.aload_n 1, 1) := dk_43 (dk_at dksL_law_63 16 rfl rfl)
theorem dL_law_1673 : decode cL_law 1673 = .ok (.aload_n 0, 1) := dk_42 (dk_at dksL_law_63 17 rfl rfl)
theorem dL_law_1674 : decode cL_law 1674 = .ok (.iload 4, 2) := dk_21 4 (dk_at dksL_law_63 18 rfl rfl)
theorem dL_law_1676 : decode cL_law 1676 = .ok (.iconst 1, 1) := dk_4 (dk_at dksL_law_63 20 rfl rfl)
theorem dL_law_1677 : decode cL_law 1677 = .ok (.iadd, 1) := dk_96 (dk_at dksL_law_63 21 rfl rfl)
theorem dL_law_1678 : decode cL_law 1678 = .ok (.iaload, 1) := dk_46 (dk_at dksL_law_63 22 rfl rfl)
theorem dL_law_1679 : decode cL_law 1679 = .ok (.aload_n 3, 1) := dk_45 (dk_at dksL_law_63 23 rfl rfl)
theorem dL_law_1680 : decode cL_law 1680 = .ok (.invokestatic 241, 3) := dk_184 0 241 (dk_at dksL_law_64 0 rfl rfl)
theorem dL_law_1683 : decode cL_law 1683 = .ok (.istore 5, 2) := dk_54 5 (dk_at dksL_law_64 3 rfl rfl)
theorem dL_law_1685 : decode cL_law 1685 = .ok (.aload_n 2, 1) := dk_44 (dk_at dksL_law_64 5 rfl rfl)
theorem dL_law_1686 : decode cL_law 1686 = .ok (.aload_n 0, 1) := dk_42 (dk_at dksL_law_64 6 rfl rfl)
theorem dL_law_1687 : decode cL_law 1687 = .ok (.iload 4, 2) := dk_21 4 (dk_at dksL_law_64 7 rfl rfl)
theorem dL_law_1689 : decode cL_law 1689 = .ok (.iconst 1, 1) := dk_4 (dk_at dksL_law_64 9 rfl rfl)
theorem dL_law_1690 : decode cL_law 1690 = .ok (.iadd, 1) := dk_96 (dk_at dksL_law_64 10 rfl rfl)
theorem dL_law_1691 : decode cL_law 1691 = .ok (.iaload, 1) := dk_46 (dk_at dksL_law_64 11 rfl rfl)
theorem dL_law_1692 : decode cL_law 1692 = .ok (.invokevirtual 243, 3) := dk_182 0 243 (dk_at dksL_law_64 12 rfl rfl)
theorem dL_law_1695 : decode cL_law 1695 = .ok (.istore 6, 2) := dk_54 6 (dk_at dksL_law_64 15 rfl rfl)
theorem dL_law_1697 : decode cL_law 1697 = .ok (.aload_n 2, 1) := dk_44 (dk_at dksL_law_64 17 rfl rfl)
theorem dL_law_1698 : decode cL_law 1698 = .ok (.invokevirtual 134, 3) := dk_182 0 134 (dk_at dksL_law_64 18 rfl rfl)
theorem dL_law_1701 : decode cL_law 1701 = .ok (.iload 5, 2) := dk_21 5 (dk_at dksL_law_64 21 rfl rfl)
theorem dL_law_1703 : decode cL_law 1703 = .ok (.if_icmp .eq 5, 3) := dk_159 0 5 (dk_at dksL_law_65 0 rfl rfl)
theorem dL_law_1706 : decode cL_law 1706 = .ok (.iconst 0, 1) := dk_3 (dk_at dksL_law_65 3 rfl rfl)
theorem dL_law_1707 : decode cL_law 1707 = .ok (.ireturn, 1) := dk_172 (dk_at dksL_law_65 4 rfl rfl)
theorem dL_law_1708 : decode cL_law 1708 = .ok (.iload 5, 2) := dk_21 5 (dk_at dksL_law_65 5 rfl rfl)
theorem dL_law_1710 : decode cL_law 1710 = .ok (.ifCond .ne 15, 3) := dk_154 0 15 (dk_at dksL_law_65 7 rfl rfl)
theorem dL_law_1713 : decode cL_law 1713 = .ok (.aload_n 3, 1) := dk_45 (dk_at dksL_law_65 10 rfl rfl)
theorem dL_law_1714 : decode cL_law 1714 = .ok (.iconst 0, 1) := dk_3 (dk_at dksL_law_65 11 rfl rfl)
theorem dL_law_1715 : decode cL_law 1715 = .ok (.laload, 1) := dk_47 (dk_at dksL_law_65 12 rfl rfl)
theorem dL_law_1716 : decode cL_law 1716 = .ok (.iload 6, 2) := dk_21 6 (dk_at dksL_law_65 13 rfl rfl)
theorem dL_law_1718 : decode cL_law 1718 = .ok (.i2l, 1) := dk_133 (dk_at dksL_law_65 15 rfl rfl)
theorem dL_law_1719 : decode cL_law 1719 = .ok (.lcmp, 1) := dk_148 (dk_at dksL_law_65 16 rfl rfl)
theorem dL_law_1720 : decode cL_law 1720 = .ok (.ifCond .eq 5, 3) := dk_153 0 5 (dk_at dksL_law_65 17 rfl rfl)
theorem dL_law_1723 : decode cL_law 1723 = .ok (.iconst 0, 1) := dk_3 (dk_at dksL_law_65 20 rfl rfl)
theorem dL_law_1724 : decode cL_law 1724 = .ok (.ireturn, 1) := dk_172 (dk_at dksL_law_65 21 rfl rfl)
theorem dL_law_1725 : decode cL_law 1725 = .ok (.goto 646, 3) := dk_167 2 134 (dk_at dksL_law_66 0 rfl rfl)
theorem dL_law_1728 : decode cL_law 1728 = .ok (.aload_n 1, 1) := dk_43 (dk_at dksL_law_66 3 rfl rfl)
theorem dL_law_1729 : decode cL_law 1729 = .ok (.invokevirtual 244, 3) := dk_182 0 244 (dk_at dksL_law_66 4 rfl rfl)
theorem dL_law_1732 : decode cL_law 1732 = .ok (.aload_n 2, 1) := dk_44 (dk_at dksL_law_66 7 rfl rfl)
theorem dL_law_1733 : decode cL_law 1733 = .ok (.invokevirtual 247, 3) := dk_182 0 247 (dk_at dksL_law_66 8 rfl rfl)
theorem dL_law_1736 : decode cL_law 1736 = .ok (.if_icmp .eq 635, 3) := dk_159 2 123 (dk_at dksL_law_66 11 rfl rfl)
theorem dL_law_1739 : decode cL_law 1739 = .ok (.iconst 0, 1) := dk_3 (dk_at dksL_law_66 14 rfl rfl)
theorem dL_law_1740 : decode cL_law 1740 = .ok (.ireturn, 1) := dk_172 (dk_at dksL_law_66 15 rfl rfl)
theorem dL_law_1741 : decode cL_law 1741 = .ok (.aload_n 1, 1) := dk_43 (dk_at dksL_law_66 16 rfl rfl)
theorem dL_law_1742 : decode cL_law 1742 = .ok (.aload_n 0, 1) := dk_42 (dk_at dksL_law_66 17 rfl rfl)
theorem dL_law_1743 : decode cL_law 1743 = .ok (.iload 4, 2) := dk_21 4 (dk_at dksL_law_66 18 rfl rfl)
theorem dL_law_1745 : decode cL_law 1745 = .ok (.iconst 1, 1) := dk_4 (dk_at dksL_law_66 20 rfl rfl)
theorem dL_law_1746 : decode cL_law 1746 = .ok (.iadd, 1) := dk_96 (dk_at dksL_law_66 21 rfl rfl)
theorem dL_law_1747 : decode cL_law 1747 = .ok (.iaload, 1) := dk_46 (dk_at dksL_law_66 22 rfl rfl)
theorem dL_law_1748 : decode cL_law 1748 = .ok (.aload_n 3, 1) := dk_45 (dk_at dksL_law_66 23 rfl rfl)
theorem dL_law_1749 : decode cL_law 1749 = .ok (.invokestatic 248, 3) := dk_184 0 248 (dk_at dksL_law_67 0 rfl rfl)
theorem dL_law_1752 : decode cL_law 1752 = .ok (.istore 5, 2) := dk_54 5 (dk_at dksL_law_67 3 rfl rfl)
theorem dL_law_1754 : decode cL_law 1754 = .ok (.aload_n 2, 1) := dk_44 (dk_at dksL_law_67 5 rfl rfl)
theorem dL_law_1755 : decode cL_law 1755 = .ok (.aload_n 0, 1) := dk_42 (dk_at dksL_law_67 6 rfl rfl)
theorem dL_law_1756 : decode cL_law 1756 = .ok (.iload 4, 2) := dk_21 4 (dk_at dksL_law_67 7 rfl rfl)
theorem dL_law_1758 : decode cL_law 1758 = .ok (.iconst 1, 1) := dk_4 (dk_at dksL_law_67 9 rfl rfl)
theorem dL_law_1759 : decode cL_law 1759 = .ok (.iadd, 1) := dk_96 (dk_at dksL_law_67 10 rfl rfl)
theorem dL_law_1760 : decode cL_law 1760 = .ok (.iaload, 1) := dk_46 (dk_at dksL_law_67 11 rfl rfl)
theorem dL_law_1761 : decode cL_law 1761 = .ok (.invokevirtual 250, 3) := dk_182 0 250 (dk_at dksL_law_67 12 rfl rfl)
theorem dL_law_1764 : decode cL_law 1764 = .ok (.istore 6, 2) := dk_54 6 (dk_at dksL_law_67 15 rfl rfl)
theorem dL_law_1766 : decode cL_law 1766 = .ok (.aload_n 2, 1) := dk_44 (dk_at dksL_law_67 17 rfl rfl)
theorem dL_law_1767 : decode cL_law 1767 = .ok (.invokevirtual 134, 3) := dk_182 0 134 (dk_at dksL_law_67 18 rfl rfl)
theorem dL_law_1770 : decode cL_law 1770 = .ok (.iload 5, 2) := dk_21 5 (dk_at dksL_law_67 21 rfl rfl)
theorem dL_law_1772 : decode cL_law 1772 = .ok (.if_icmp .eq 5, 3) := dk_159 0 5 (dk_at dksL_law_68 0 rfl rfl)
theorem dL_law_1775 : decode cL_law 1775 = .ok (.iconst 0, 1) := dk_3 (dk_at dksL_law_68 3 rfl rfl)
theorem dL_law_1776 : decode cL_law 1776 = .ok (.ireturn, 1) := dk_172 (dk_at dksL_law_68 4 rfl rfl)
theorem dL_law_1777 : decode cL_law 1777 = .ok (.iload 5, 2) := dk_21 5 (dk_at dksL_law_68 5 rfl rfl)
theorem dL_law_1779 : decode cL_law 1779 = .ok (.ifCond .ne 15, 3) := dk_154 0 15 (dk_at dksL_law_68 7 rfl rfl)
theorem dL_law_1782 : decode cL_law 1782 = .ok (.aload_n 3, 1) := dk_45 (dk_at dksL_law_68 10 rfl rfl)
theorem dL_law_1783 : decode cL_law 1783 = .ok (.iconst 0, 1) := dk_3 (dk_at dksL_law_68 11 rfl rfl)
theorem dL_law_1784 : decode cL_law 1784 = .ok (.laload, 1) := dk_47 (dk_at dksL_law_68 12 rfl rfl)
theorem dL_law_1785 : decode cL_law 1785 = .ok (.iload 6, 2) := dk_21 6 (dk_at dksL_law_68 13 rfl rfl)
theorem dL_law_1787 : decode cL_law 1787 = .ok (.i2l, 1) := dk_133 (dk_at dksL_law_68 15 rfl rfl)
theorem dL_law_1788 : decode cL_law 1788 = .ok (.lcmp, 1) := dk_148 (dk_at dksL_law_68 16 rfl rfl)
theorem dL_law_1789 : decode cL_law 1789 = .ok (.ifCond .eq 5, 3) := dk_153 0 5 (dk_at dksL_law_68 17 rfl rfl)
theorem dL_law_1792 : decode cL_law 1792 = .ok (.iconst 0, 1) := dk_3 (dk_at dksL_law_68 20 rfl rfl)
theorem dL_law_1793 : decode cL_law 1793 = .ok (.ireturn, 1) := dk_172 (dk_at dksL_law_68 21 rfl rfl)
theorem dL_law_1794 : decode cL_law 1794 = .ok (.goto 577, 3) := dk_167 2 65 (dk_at dksL_law_69 0 rfl rfl)
theorem dL_law_1797 : decode cL_law 1797 = .ok (.aload_n 1, 1) := dk_43 (dk_at dksL_law_69 3 rfl rfl)
theorem dL_law_1798 : decode cL_law 1798 = .ok (.invokevirtual 251, 3) := dk_182 0 251 (dk_at dksL_law_69 4 rfl rfl)
theorem dL_law_1801 : decode cL_law 1801 = .ok (.aload_n 2, 1) := dk_44 (dk_at dksL_law_69 7 rfl rfl)
theorem dL_law_1802 : decode cL_law 1802 = .ok (.invokevirtual 254, 3) := dk_182 0 254 (dk_at dksL_law_69 8 rfl rfl)
theorem dL_law_1805 : decode cL_law 1805 = .ok (.if_icmp .eq 566, 3) := dk_159 2 54 (dk_at dksL_law_69 11 rfl rfl)
theorem dL_law_1808 : decode cL_law 1808 = .ok (.iconst 0, 1) := dk_3 (dk_at dksL_law_69 14 rfl rfl)
theorem dL_law_1809 : decode cL_law 1809 = .ok (.ireturn, 1) := dk_172 (dk_at dksL_law_69 15 rfl rfl)
theorem dL_law_1810 : decode cL_law 1810 = .ok (.aload_n 1, 1) := dk_43 (dk_at dksL_law_69 16 rfl rfl)
theorem dL_law_1811 : decode cL_law 1811 = .ok (.aload_n 0, 1) := dk_42 (dk_at dksL_law_69 17 rfl rfl)
theorem dL_law_1812 : decode cL_law 1812 = .ok (.iload 4, 2) := dk_21 4 (dk_at dksL_law_69 18 rfl rfl)
theorem dL_law_1814 : decode cL_law 1814 = .ok (.iconst 1, 1) := dk_4 (dk_at dksL_law_69 20 rfl rfl)
theorem dL_law_1815 : decode cL_law 1815 = .ok (.iadd, 1) := dk_96 (dk_at dksL_law_69 21 rfl rfl)
theorem dL_law_1816 : decode cL_law 1816 = .ok (.iaload, 1) := dk_46 (dk_at dksL_law_69 22 rfl rfl)
theorem dL_law_1817 : decode cL_law 1817 = .ok (.aload_n 0, 1) := dk_42 (dk_at dksL_law_69 23 rfl rfl)
theorem dL_law_1818 : decode cL_law 1818 = .ok (.iload 4, 2) := dk_21 4 (dk_at dksL_law_70 0 rfl rfl)
theorem dL_law_1820 : decode cL_law 1820 = .ok (.iconst 2, 1) := dk_5 (dk_at dksL_law_70 2 rfl rfl)
theorem dL_law_1821 : decode cL_law 1821 = .ok (.iadd, 1) := dk_96 (dk_at dksL_law_70 3 rfl rfl)
theorem dL_law_1822 : decode cL_law 1822 = .ok (.iaload, 1) := dk_46 (dk_at dksL_law_70 4 rfl rfl)
theorem dL_law_1823 : decode cL_law 1823 = .ok (.aload_n 3, 1) := dk_45 (dk_at dksL_law_70 5 rfl rfl)
theorem dL_law_1824 : decode cL_law 1824 = .ok (.invokestatic 255, 3) := dk_184 0 255 (dk_at dksL_law_70 6 rfl rfl)
theorem dL_law_1827 : decode cL_law 1827 = .ok (.istore 5, 2) := dk_54 5 (dk_at dksL_law_70 9 rfl rfl)
theorem dL_law_1829 : decode cL_law 1829 = .ok (.aload_n 2, 1) := dk_44 (dk_at dksL_law_70 11 rfl rfl)
theorem dL_law_1830 : decode cL_law 1830 = .ok (.aload_n 0, 1) := dk_42 (dk_at dksL_law_70 12 rfl rfl)
theorem dL_law_1831 : decode cL_law 1831 = .ok (.iload 4, 2) := dk_21 4 (dk_at dksL_law_70 13 rfl rfl)
theorem dL_law_1833 : decode cL_law 1833 = .ok (.iconst 1, 1) := dk_4 (dk_at dksL_law_70 15 rfl rfl)
theorem dL_law_1834 : decode cL_law 1834 = .ok (.iadd, 1) := dk_96 (dk_at dksL_law_70 16 rfl rfl)
theorem dL_law_1835 : decode cL_law 1835 = .ok (.iaload, 1) := dk_46 (dk_at dksL_law_70 17 rfl rfl)
theorem dL_law_1836 : decode cL_law 1836 = .ok (.aload_n 0, 1) := dk_42 (dk_at dksL_law_70 18 rfl rfl)
theorem dL_law_1837 : decode cL_law 1837 = .ok (.iload 4, 2) := dk_21 4 (dk_at dksL_law_70 19 rfl rfl)
theorem dL_law_1839 : decode cL_law 1839 = .ok (.iconst 2, 1) := dk_5 (dk_at dksL_law_70 21 rfl rfl)
theorem dL_law_1840 : decode cL_law 1840 = .ok (.iadd, 1) := dk_96 (dk_at dksL_law_70 22 rfl rfl)
theorem dL_law_1841 : decode cL_law 1841 = .ok (.iaload, 1) := dk_46 (dk_at dksL_law_70 23 rfl rfl)
theorem dL_law_1842 : decode cL_law 1842 = .ok (.invokevirtual 257, 3) := dk_182 1 1 (dk_at dksL_law_71 0 rfl rfl)
theorem dL_law_1845 : decode cL_law 1845 = .ok (.istore 6, 2) := dk_54 6 (dk_at dksL_law_71 3 rfl rfl)
theorem dL_law_1847 : decode cL_law 1847 = .ok (.aload_n 2, 1) := dk_44 (dk_at dksL_law_71 5 rfl rfl)
theorem dL_law_1848 : decode cL_law 1848 = .ok (.invokevirtual 134, 3) := dk_182 0 134 (dk_at dksL_law_71 6 rfl rfl)
theorem dL_law_1851 : decode cL_law 1851 = .ok (.iload 5, 2) := dk_21 5 (dk_at dksL_law_71 9 rfl rfl)
theorem dL_law_1853 : decode cL_law 1853 = .ok (.if_icmp .eq 5, 3) := dk_159 0 5 (dk_at dksL_law_71 11 rfl rfl)
theorem dL_law_1856 : decode cL_law 1856 = .ok (.iconst 0, 1) := dk_3 (dk_at dksL_law_71 14 rfl rfl)
theorem dL_law_1857 : decode cL_law 1857 = .ok (.ireturn, 1) := dk_172 (dk_at dksL_law_71 15 rfl rfl)
theorem dL_law_1858 : decode cL_law 1858 = .ok (.iload 5, 2) := dk_21 5 (dk_at dksL_law_71 16 rfl rfl)
theorem dL_law_1860 : decode cL_law 1860 = .ok (.ifCond .ne 15, 3) := dk_154 0 15 (dk_at dksL_law_71 18 rfl rfl)
theorem dL_law_1863 : decode cL_law 1863 = .ok (.aload_n 3, 1) := dk_45 (dk_at dksL_law_71 21 rfl rfl)
theorem dL_law_1864 : decode cL_law 1864 = .ok (.iconst 0, 1) := dk_3 (dk_at dksL_law_71 22 rfl rfl)
theorem dL_law_1865 : decode cL_law 1865 = .ok (.laload, 1) := dk_47 (dk_at dksL_law_71 23 rfl rfl)
theorem dL_law_1866 : decode cL_law 1866 = .ok (.iload 6, 2) := dk_21 6 (dk_at dksL_law_72 0 rfl rfl)
theorem dL_law_1868 : decode cL_law 1868 = .ok (.i2l, 1) := dk_133 (dk_at dksL_law_72 2 rfl rfl)
theorem dL_law_1869 : decode cL_law 1869 = .ok (.lcmp, 1) := dk_148 (dk_at dksL_law_72 3 rfl rfl)
theorem dL_law_1870 : decode cL_law 1870 = .ok (.ifCond .eq 5, 3) := dk_153 0 5 (dk_at dksL_law_72 4 rfl rfl)
theorem dL_law_1873 : decode cL_law 1873 = .ok (.iconst 0, 1) := dk_3 (dk_at dksL_law_72 7 rfl rfl)
theorem dL_law_1874 : decode cL_law 1874 = .ok (.ireturn, 1) := dk_172 (dk_at dksL_law_72 8 rfl rfl)
theorem dL_law_1875 : decode cL_law 1875 = .ok (.goto 496, 3) := dk_167 1 240 (dk_at dksL_law_72 9 rfl rfl)
theorem dL_law_1878 : decode cL_law 1878 = .ok (.aload_n 1, 1) := dk_43 (dk_at dksL_law_72 12 rfl rfl)
theorem dL_law_1879 : decode cL_law 1879 = .ok (.invokevirtual 258, 3) := dk_182 1 2 (dk_at dksL_law_72 13 rfl rfl)
theorem dL_law_1882 : decode cL_law 1882 = .ok (.aload_n 2, 1) := dk_44 (dk_at dksL_law_72 16 rfl rfl)
theorem dL_law_1883 : decode cL_law 1883 = .ok (.invokevirtual 261, 3) := dk_182 1 5 (dk_at dksL_law_72 17 rfl rfl)
theorem dL_law_1886 : decode cL_law 1886 = .ok (.if_icmp .eq 485, 3) := dk_159 1 229 (dk_at dksL_law_72 20 rfl rfl)
theorem dL_law_1889 : decode cL_law 1889 = .ok (.iconst 0, 1) := dk_3 (dk_at dksL_law_72 23 rfl rfl)
theorem dL_law_1890 : decode cL_law 1890 = .ok (.ireturn, 1) := dk_172 (dk_at dksL_law_73 0 rfl rfl)
theorem dL_law_1891 : decode cL_law 1891 = .ok (.aload_n 1, 1) := dk_43 (dk_at dksL_law_73 1 rfl rfl)
theorem dL_law_1892 : decode cL_law 1892 = .ok (.aload_n 0, 1) := dk_42 (dk_at dksL_law_73 2 rfl rfl)
theorem dL_law_1893 : decode cL_law 1893 = .ok (.iload 4, 2) := dk_21 4 (dk_at dksL_law_73 3 rfl rfl)
theorem dL_law_1895 : decode cL_law 1895 = .ok (.iconst 1, 1) := dk_4 (dk_at dksL_law_73 5 rfl rfl)
theorem dL_law_1896 : decode cL_law 1896 = .ok (.iadd, 1) := dk_96 (dk_at dksL_law_73 6 rfl rfl)
theorem dL_law_1897 : decode cL_law 1897 = .ok (.iaload, 1) := dk_46 (dk_at dksL_law_73 7 rfl rfl)
theorem dL_law_1898 : decode cL_law 1898 = .ok (.aload_n 3, 1) := dk_45 (dk_at dksL_law_73 8 rfl rfl)
theorem dL_law_1899 : decode cL_law 1899 = .ok (.invokestatic 262, 3) := dk_184 1 6 (dk_at dksL_law_73 9 rfl rfl)
theorem dL_law_1902 : decode cL_law 1902 = .ok (.istore 5, 2) := dk_54 5 (dk_at dksL_law_73 12 rfl rfl)
theorem dL_law_1904 : decode cL_law 1904 = .ok (.aload_n 2, 1) := dk_44 (dk_at dksL_law_73 14 rfl rfl)
theorem dL_law_1905 : decode cL_law 1905 = .ok (.aload_n 0, 1) := dk_42 (dk_at dksL_law_73 15 rfl rfl)
theorem dL_law_1906 : decode cL_law 1906 = .ok (.iload 4, 2) := dk_21 4 (dk_at dksL_law_73 16 rfl rfl)
theorem dL_law_1908 : decode cL_law 1908 = .ok (.iconst 1, 1) := dk_4 (dk_at dksL_law_73 18 rfl rfl)
theorem dL_law_1909 : decode cL_law 1909 = .ok (.iadd, 1) := dk_96 (dk_at dksL_law_73 19 rfl rfl)
theorem dL_law_1910 : decode cL_law 1910 = .ok (.iaload, 1) := dk_46 (dk_at dksL_law_73 20 rfl rfl)
theorem dL_law_1911 : decode cL_law 1911 = .ok (.invokevirtual 264, 3) := dk_182 1 8 (dk_at dksL_law_73 21 rfl rfl)
theorem dL_law_1914 : decode cL_law 1914 = .ok (.istore 6, 2) := dk_54 6 (dk_at dksL_law_74 0 rfl rfl)
theorem dL_law_1916 : decode cL_law 1916 = .ok (.aload_n 2, 1) := dk_44 (dk_at dksL_law_74 2 rfl rfl)
theorem dL_law_1917 : decode cL_law 1917 = .ok (.invokevirtual 134, 3) := dk_182 0 134 (dk_at dksL_law_74 3 rfl rfl)
theorem dL_law_1920 : decode cL_law 1920 = .ok (.iload 5, 2) := dk_21 5 (dk_at dksL_law_74 6 rfl rfl)
theorem dL_law_1922 : decode cL_law 1922 = .ok (.if_icmp .eq 5, 3) := dk_159 0 5 (dk_at dksL_law_74 8 rfl rfl)
theorem dL_law_1925 : decode cL_law 1925 = .ok (.iconst 0, 1) := dk_3 (dk_at dksL_law_74 11 rfl rfl)
theorem dL_law_1926 : decode cL_law 1926 = .ok (.ireturn, 1) := dk_172 (dk_at dksL_law_74 12 rfl rfl)
theorem dL_law_1927 : decode cL_law 1927 = .ok (.iload 5, 2) := dk_21 5 (dk_at dksL_law_74 13 rfl rfl)
theorem dL_law_1929 : decode cL_law 1929 = .ok (.ifCond .ne 15, 3) := dk_154 0 15 (dk_at dksL_law_74 15 rfl rfl)
theorem dL_law_1932 : decode cL_law 1932 = .ok (.aload_n 3, 1) := dk_45 (dk_at dksL_law_74 18 rfl rfl)
theorem dL_law_1933 : decode cL_law 1933 = .ok (.iconst 0, 1) := dk_3 (dk_at dksL_law_74 19 rfl rfl)
theorem dL_law_1934 : decode cL_law 1934 = .ok (.laload, 1) := dk_47 (dk_at dksL_law_74 20 rfl rfl)
theorem dL_law_1935 : decode cL_law 1935 = .ok (.iload 6, 2) := dk_21 6 (dk_at dksL_law_74 21 rfl rfl)
theorem dL_law_1937 : decode cL_law 1937 = .ok (.i2l, 1) := dk_133 (dk_at dksL_law_74 23 rfl rfl)
theorem dL_law_1938 : decode cL_law 1938 = .ok (.lcmp, 1) := dk_148 (dk_at dksL_law_75 0 rfl rfl)
theorem dL_law_1939 : decode cL_law 1939 = .ok (.ifCond .eq 5, 3) := dk_153 0 5 (dk_at dksL_law_75 1 rfl rfl)
theorem dL_law_1942 : decode cL_law 1942 = .ok (.iconst 0, 1) := dk_3 (dk_at dksL_law_75 4 rfl rfl)
theorem dL_law_1943 : decode cL_law 1943 = .ok (.ireturn, 1) := dk_172 (dk_at dksL_law_75 5 rfl rfl)
theorem dL_law_1944 : decode cL_law 1944 = .ok (.goto 427, 3) := dk_167 1 171 (dk_at dksL_law_75 6 rfl rfl)
theorem dL_law_1947 : decode cL_law 1947 = .ok (.aload_n 1, 1) := dk_43 (dk_at dksL_law_75 9 rfl rfl)
theorem dL_law_1948 : decode cL_law 1948 = .ok (.aload_n 0, 1) := dk_42 (dk_at dksL_law_75 10 rfl rfl)
theorem dL_law_1949 : decode cL_law 1949 = .ok (.iload 4, 2) := dk_21 4 (dk_at dksL_law_75 11 rfl rfl)
theorem dL_law_1951 : decode cL_law 1951 = .ok (.iconst 1, 1) := dk_4 (dk_at dksL_law_75 13 rfl rfl)
theorem dL_law_1952 : decode cL_law 1952 = .ok (.iadd, 1) := dk_96 (dk_at dksL_law_75 14 rfl rfl)
theorem dL_law_1953 : decode cL_law 1953 = .ok (.iaload, 1) := dk_46 (dk_at dksL_law_75 15 rfl rfl)
theorem dL_law_1954 : decode cL_law 1954 = .ok (.aload_n 0, 1) := dk_42 (dk_at dksL_law_75 16 rfl rfl)
theorem dL_law_1955 : decode cL_law 1955 = .ok (.iload 4, 2) := dk_21 4 (dk_at dksL_law_75 17 rfl rfl)
theorem dL_law_1957 : decode cL_law 1957 = .ok (.iconst 2, 1) := dk_5 (dk_at dksL_law_75 19 rfl rfl)
theorem dL_law_1958 : decode cL_law 1958 = .ok (.iadd, 1) := dk_96 (dk_at dksL_law_75 20 rfl rfl)
theorem dL_law_1959 : decode cL_law 1959 = .ok (.iaload, 1) := dk_46 (dk_at dksL_law_75 21 rfl rfl)
theorem dL_law_1960 : decode cL_law 1960 = .ok (.aload_n 3, 1) := dk_45 (dk_at dksL_law_75 22 rfl rfl)
theorem dL_law_1961 : decode cL_law 1961 = .ok (.invokestatic 265, 3) := dk_184 1 9 (dk_at dksL_law_76 0 rfl rfl)
theorem dL_law_1964 : decode cL_law 1964 = .ok (.istore 5, 2) := dk_54 5 (dk_at dksL_law_76 3 rfl rfl)
theorem dL_law_1966 : decode cL_law 1966 = .ok (.aload_n 2, 1) := dk_44 (dk_at dksL_law_76 5 rfl rfl)
theorem dL_law_1967 : decode cL_law 1967 = .ok (.aload_n 0, 1) := dk_42 (dk_at dksL_law_76 6 rfl rfl)
theorem dL_law_1968 : decode cL_law 1968 = .ok (.iload 4, 2) := dk_21 4 (dk_at dksL_law_76 7 rfl rfl)
theorem dL_law_1970 : decode cL_law 1970 = .ok (.iconst 1, 1) := dk_4 (dk_at dksL_law_76 9 rfl rfl)
theorem dL_law_1971 : decode cL_law 1971 = .ok (.iadd, 1) := dk_96 (dk_at dksL_law_76 10 rfl rfl)
theorem dL_law_1972 : decode cL_law 1972 = .ok (.iaload, 1) := dk_46 (dk_at dksL_law_76 11 rfl rfl)
theorem dL_law_1973 : decode cL_law 1973 = .ok (.aload_n 0, 1) := dk_42 (dk_at dksL_law_76 12 rfl rfl)
theorem dL_law_1974 : decode cL_law 1974 = .ok (.iload 4, 2) := dk_21 4 (dk_at dksL_law_76 13 rfl rfl)
theorem dL_law_1976 : decode cL_law 1976 = .ok (.iconst 2, 1) := dk_5 (dk_at dksL_law_76 15 rfl rfl)
theorem dL_law_1977 : decode cL_law 1977 = .ok (.iadd, 1) := dk_96 (dk_at dksL_law_76 16 rfl rfl)
theorem dL_law_1978 : decode cL_law 1978 = .ok (.iaload, 1) := dk_46 (dk_at dksL_law_76 17 rfl rfl)
theorem dL_law_1979 : decode cL_law 1979 = .ok (.invokevirtual 267, 3) := dk_182 1 11 (dk_at dksL_law_76 18 rfl rfl)
theorem dL_law_1982 : decode cL_law 1982 = .ok (.istore 6, 2) := dk_54 6 (dk_at dksL_law_76 21 rfl rfl)
theorem dL_law_1984 : decode cL_law 1984 = .ok (.aload_n 2, 1) := dk_44 (dk_at dksL_law_76 23 rfl rfl)
theorem dL_law_1985 : decode cL_law 1985 = .ok (.invokevirtual 134, 3) := dk_182 0 134 (dk_at dksL_law_77 0 rfl rfl)
theorem dL_law_1988 : decode cL_law 1988 = .ok (.iload 5, 2) := dk_21 5 (dk_at dksL_law_77 3 rfl rfl)
theorem dL_law_1990 : decode cL_law 1990 = .ok (.if_icmp .eq 5, 3) := dk_159 0 5 (dk_at dksL_law_77 5 rfl rfl)
theorem dL_law_1993 : decode cL_law 1993 = .ok (.iconst 0, 1) := dk_3 (dk_at dksL_law_77 8 rfl rfl)
theorem dL_law_1994 : decode cL_law 1994 = .ok (.ireturn, 1) := dk_172 (dk_at dksL_law_77 9 rfl rfl)
theorem dL_law_1995 : decode cL_law 1995 = .ok (.iload 5, 2) := dk_21 5 (dk_at dksL_law_77 10 rfl rfl)
theorem dL_law_1997 : decode cL_law 1997 = .ok (.ifCond .ne 15, 3) := dk_154 0 15 (dk_at dksL_law_77 12 rfl rfl)
theorem dL_law_2000 : decode cL_law 2000 = .ok (.aload_n 3, 1) := dk_45 (dk_at dksL_law_77 15 rfl rfl)
theorem dL_law_2001 : decode cL_law 2001 = .ok (.iconst 0, 1) := dk_3 (dk_at dksL_law_77 16 rfl rfl)
theorem dL_law_2002 : decode cL_law 2002 = .ok (.laload, 1) := dk_47 (dk_at dksL_law_77 17 rfl rfl)
theorem dL_law_2003 : decode cL_law 2003 = .ok (.iload 6, 2) := dk_21 6 (dk_at dksL_law_77 18 rfl rfl)
theorem dL_law_2005 : decode cL_law 2005 = .ok (.i2l, 1) := dk_133 (dk_at dksL_law_77 20 rfl rfl)
theorem dL_law_2006 : decode cL_law 2006 = .ok (.lcmp, 1) := dk_148 (dk_at dksL_law_77 21 rfl rfl)
theorem dL_law_2007 : decode cL_law 2007 = .ok (.ifCond .eq 5, 3) := dk_153 0 5 (dk_at dksL_law_78 0 rfl rfl)
theorem dL_law_2010 : decode cL_law 2010 = .ok (.iconst 0, 1) := dk_3 (dk_at dksL_law_78 3 rfl rfl)
theorem dL_law_2011 : decode cL_law 2011 = .ok (.ireturn, 1) := dk_172 (dk_at dksL_law_78 4 rfl rfl)
theorem dL_law_2012 : decode cL_law 2012 = .ok (.goto 359, 3) := dk_167 1 103 (dk_at dksL_law_78 5 rfl rfl)
theorem dL_law_2015 : decode cL_law 2015 = .ok (.aload_n 1, 1) := dk_43 (dk_at dksL_law_78 8 rfl rfl)
theorem dL_law_2016 : decode cL_law 2016 = .ok (.invokevirtual 268, 3) := dk_182 1 12 (dk_at dksL_law_78 9 rfl rfl)
theorem dL_law_2019 : decode cL_law 2019 = .ok (.aload_n 2, 1) := dk_44 (dk_at dksL_law_78 12 rfl rfl)
theorem dL_law_2020 : decode cL_law 2020 = .ok (.invokevirtual 271, 3) := dk_182 1 15 (dk_at dksL_law_78 13 rfl rfl)
theorem dL_law_2023 : decode cL_law 2023 = .ok (.if_icmp .eq 348, 3) := dk_159 1 92 (dk_at dksL_law_78 16 rfl rfl)
theorem dL_law_2026 : decode cL_law 2026 = .ok (.iconst 0, 1) := dk_3 (dk_at dksL_law_78 19 rfl rfl)
theorem dL_law_2027 : decode cL_law 2027 = .ok (.ireturn, 1) := dk_172 (dk_at dksL_law_78 20 rfl rfl)
theorem dL_law_2028 : decode cL_law 2028 = .ok (.aload_n 1, 1) := dk_43 (dk_at dksL_law_78 21 rfl rfl)
theorem dL_law_2029 : decode cL_law 2029 = .ok (.invokevirtual 272, 3) := dk_182 1 16 (dk_at dksL_law_79 0 rfl rfl)
theorem dL_law_2032 : decode cL_law 2032 = .ok (.aload_n 2, 1) := dk_44 (dk_at dksL_law_79 3 rfl rfl)
theorem dL_law_2033 : decode cL_law 2033 = .ok (.invokevirtual 276, 3) := dk_182 1 20 (dk_at dksL_law_79 4 rfl rfl)
theorem dL_law_2036 : decode cL_law 2036 = .ok (.if_icmp .eq 335, 3) := dk_159 1 79 (dk_at dksL_law_79 7 rfl rfl)
theorem dL_law_2039 : decode cL_law 2039 = .ok (.iconst 0, 1) := dk_3 (dk_at dksL_law_79 10 rfl rfl)
theorem dL_law_2040 : decode cL_law 2040 = .ok (.ireturn, 1) := dk_172 (dk_at dksL_law_79 11 rfl rfl)
theorem dL_law_2041 : decode cL_law 2041 = .ok (.aload_n 1, 1) := dk_43 (dk_at dksL_law_79 12 rfl rfl)
theorem dL_law_2042 : decode cL_law 2042 = .ok (.aload_n 0, 1) := dk_42 (dk_at dksL_law_79 13 rfl rfl)
theorem dL_law_2043 : decode cL_law 2043 = .ok (.iload 4, 2) := dk_21 4 (dk_at dksL_law_79 14 rfl rfl)
theorem dL_law_2045 : decode cL_law 2045 = .ok (.iconst 1, 1) := dk_4 (dk_at dksL_law_79 16 rfl rfl)
theorem dL_law_2046 : decode cL_law 2046 = .ok (.iadd, 1) := dk_96 (dk_at dksL_law_79 17 rfl rfl)
theorem dL_law_2047 : decode cL_law 2047 = .ok (.iaload, 1) := dk_46 (dk_at dksL_law_79 18 rfl rfl)
theorem dL_law_2048 : decode cL_law 2048 = .ok (.aload_n 3, 1) := dk_45 (dk_at dksL_law_79 19 rfl rfl)
theorem dL_law_2049 : decode cL_law 2049 = .ok (.invokestatic 277, 3) := dk_184 1 21 (dk_at dksL_law_79 20 rfl rfl)
theorem dL_law_2052 : decode cL_law 2052 = .ok (.istore 5, 2) := dk_54 5 (dk_at dksL_law_80 0 rfl rfl)
theorem dL_law_2054 : decode cL_law 2054 = .ok (.aload_n 2, 1) := dk_44 (dk_at dksL_law_80 2 rfl rfl)
theorem dL_law_2055 : decode cL_law 2055 = .ok (.aload_n 0, 1) := dk_42 (dk_at dksL_law_80 3 rfl rfl)
theorem dL_law_2056 : decode cL_law 2056 = .ok (.iload 4, 2) := dk_21 4 (dk_at dksL_law_80 4 rfl rfl)
theorem dL_law_2058 : decode cL_law 2058 = .ok (.iconst 1, 1) := dk_4 (dk_at dksL_law_80 6 rfl rfl)
theorem dL_law_2059 : decode cL_law 2059 = .ok (.iadd, 1) := dk_96 (dk_at dksL_law_80 7 rfl rfl)
theorem dL_law_2060 : decode cL_law 2060 = .ok (.iaload, 1) := dk_46 (dk_at dksL_law_80 8 rfl rfl)
theorem dL_law_2061 : decode cL_law 2061 = .ok (.invokevirtual 279, 3) := dk_182 1 23 (dk_at dksL_law_80 9 rfl rfl)
theorem dL_law_2064 : decode cL_law 2064 = .ok (.istore 6, 2) := dk_54 6 (dk_at dksL_law_80 12 rfl rfl)
theorem dL_law_2066 : decode cL_law 2066 = .ok (.aload_n 2, 1) := dk_44 (dk_at dksL_law_80 14 rfl rfl)
theorem dL_law_2067 : decode cL_law 2067 = .ok (.invokevirtual 134, 3) := dk_182 0 134 (dk_at dksL_law_80 15 rfl rfl)
theorem dL_law_2070 : decode cL_law 2070 = .ok (.iload 5, 2) := dk_21 5 (dk_at dksL_law_80 18 rfl rfl)
theorem dL_law_2072 : decode cL_law 2072 = .ok (.if_icmp .eq 5, 3) := dk_159 0 5 (dk_at dksL_law_80 20 rfl rfl)
theorem dL_law_2075 : decode cL_law 2075 = .ok (.iconst 0, 1) := dk_3 (dk_at dksL_law_80 23 rfl rfl)
theorem dL_law_2076 : decode cL_law 2076 = .ok (.ireturn, 1) := dk_172 (dk_at dksL_law_81 0 rfl rfl)
theorem dL_law_2077 : decode cL_law 2077 = .ok (.iload 5, 2) := dk_21 5 (dk_at dksL_law_81 1 rfl rfl)
theorem dL_law_2079 : decode cL_law 2079 = .ok (.ifCond .ne 15, 3) := dk_154 0 15 (dk_at dksL_law_81 3 rfl rfl)
theorem dL_law_2082 : decode cL_law 2082 = .ok (.aload_n 3, 1) := dk_45 (dk_at dksL_law_81 6 rfl rfl)
theorem dL_law_2083 : decode cL_law 2083 = .ok (.iconst 0, 1) := dk_3 (dk_at dksL_law_81 7 rfl rfl)
theorem dL_law_2084 : decode cL_law 2084 = .ok (.laload, 1) := dk_47 (dk_at dksL_law_81 8 rfl rfl)
theorem dL_law_2085 : decode cL_law 2085 = .ok (.iload 6, 2) := dk_21 6 (dk_at dksL_law_81 9 rfl rfl)
theorem dL_law_2087 : decode cL_law 2087 = .ok (.i2l, 1) := dk_133 (dk_at dksL_law_81 11 rfl rfl)
theorem dL_law_2088 : decode cL_law 2088 = .ok (.lcmp, 1) := dk_148 (dk_at dksL_law_81 12 rfl rfl)
theorem dL_law_2089 : decode cL_law 2089 = .ok (.ifCond .eq 5, 3) := dk_153 0 5 (dk_at dksL_law_81 13 rfl rfl)
theorem dL_law_2092 : decode cL_law 2092 = .ok (.iconst 0, 1) := dk_3 (dk_at dksL_law_81 16 rfl rfl)
theorem dL_law_2093 : decode cL_law 2093 = .ok (.ireturn, 1) := dk_172 (dk_at dksL_law_81 17 rfl rfl)
theorem dL_law_2094 : decode cL_law 2094 = .ok (.goto 277, 3) := dk_167 1 21 (dk_at dksL_law_81 18 rfl rfl)
theorem dL_law_2097 : decode cL_law 2097 = .ok (.aload_n 1, 1) := dk_43 (dk_at dksL_law_81 21 rfl rfl)
theorem dL_law_2098 : decode cL_law 2098 = .ok (.aload_n 0, 1) := dk_42 (dk_at dksL_law_81 22 rfl rfl)
theorem dL_law_2099 : decode cL_law 2099 = .ok (.iload 4, 2) := dk_21 4 (dk_at dksL_law_82 0 rfl rfl)
theorem dL_law_2101 : decode cL_law 2101 = .ok (.iconst 1, 1) := dk_4 (dk_at dksL_law_82 2 rfl rfl)
theorem dL_law_2102 : decode cL_law 2102 = .ok (.iadd, 1) := dk_96 (dk_at dksL_law_82 3 rfl rfl)
theorem dL_law_2103 : decode cL_law 2103 = .ok (.iaload, 1) := dk_46 (dk_at dksL_law_82 4 rfl rfl)
theorem dL_law_2104 : decode cL_law 2104 = .ok (.aload_n 3, 1) := dk_45 (dk_at dksL_law_82 5 rfl rfl)
theorem dL_law_2105 : decode cL_law 2105 = .ok (.invokestatic 280, 3) := dk_184 1 24 (dk_at dksL_law_82 6 rfl rfl)
theorem dL_law_2108 : decode cL_law 2108 = .ok (.istore 5, 2) := dk_54 5 (dk_at dksL_law_82 9 rfl rfl)
theorem dL_law_2110 : decode cL_law 2110 = .ok (.aload_n 2, 1) := dk_44 (dk_at dksL_law_82 11 rfl rfl)
theorem dL_law_2111 : decode cL_law 2111 = .ok (.aload_n 0, 1) := dk_42 (dk_at dksL_law_82 12 rfl rfl)
theorem dL_law_2112 : decode cL_law 2112 = .ok (.iload 4, 2) := dk_21 4 (dk_at dksL_law_82 13 rfl rfl)
theorem dL_law_2114 : decode cL_law 2114 = .ok (.iconst 1, 1) := dk_4 (dk_at dksL_law_82 15 rfl rfl)
theorem dL_law_2115 : decode cL_law 2115 = .ok (.iadd, 1) := dk_96 (dk_at dksL_law_82 16 rfl rfl)
theorem dL_law_2116 : decode cL_law 2116 = .ok (.iaload, 1) := dk_46 (dk_at dksL_law_82 17 rfl rfl)
theorem dL_law_2117 : decode cL_law 2117 = .ok (.invokevirtual 282, 3) := dk_182 1 26 (dk_at dksL_law_82 18 rfl rfl)
theorem dL_law_2120 : decode cL_law 2120 = .ok (.istore 6, 2) := dk_54 6 (dk_at dksL_law_82 21 rfl rfl)
theorem dL_law_2122 : decode cL_law 2122 = .ok (.aload_n 2, 1) := dk_44 (dk_at dksL_law_82 23 rfl rfl)
theorem dL_law_2123 : decode cL_law 2123 = .ok (.invokevirtual 134, 3) := dk_182 0 134 (dk_at dksL_law_83 0 rfl rfl)
theorem dL_law_2126 : decode cL_law 2126 = .ok (.iload 5, 2) := dk_21 5 (dk_at dksL_law_83 3 rfl rfl)
theorem dL_law_2128 : decode cL_law 2128 = .ok (.if_icmp .eq 5, 3) := dk_159 0 5 (dk_at dksL_law_83 5 rfl rfl)
theorem dL_law_2131 : decode cL_law 2131 = .ok (.iconst 0, 1) := dk_3 (dk_at dksL_law_83 8 rfl rfl)
theorem dL_law_2132 : decode cL_law 2132 = .ok (.ireturn, 1) := dk_172 (dk_at dksL_law_83 9 rfl rfl)
theorem dL_law_2133 : decode cL_law 2133 = .ok (.iload 5, 2) := dk_21 5 (dk_at dksL_law_83 10 rfl rfl)
theorem dL_law_2135 : decode cL_law 2135 = .ok (.ifCond .ne 15, 3) := dk_154 0 15 (dk_at dksL_law_83 12 rfl rfl)
theorem dL_law_2138 : decode cL_law 2138 = .ok (.aload_n 3, 1) := dk_45 (dk_at dksL_law_83 15 rfl rfl)
theorem dL_law_2139 : decode cL_law 2139 = .ok (.iconst 0, 1) := dk_3 (dk_at dksL_law_83 16 rfl rfl)
theorem dL_law_2140 : decode cL_law 2140 = .ok (.laload, 1) := dk_47 (dk_at dksL_law_83 17 rfl rfl)
theorem dL_law_2141 : decode cL_law 2141 = .ok (.iload 6, 2) := dk_21 6 (dk_at dksL_law_83 18 rfl rfl)
theorem dL_law_2143 : decode cL_law 2143 = .ok (.i2l, 1) := dk_133 (dk_at dksL_law_83 20 rfl rfl)
theorem dL_law_2144 : decode cL_law 2144 = .ok (.lcmp, 1) := dk_148 (dk_at dksL_law_83 21 rfl rfl)
theorem dL_law_2145 : decode cL_law 2145 = .ok (.ifCond .eq 5, 3) := dk_153 0 5 (dk_at dksL_law_84 0 rfl rfl)
theorem dL_law_2148 : decode cL_law 2148 = .ok (.iconst 0, 1) := dk_3 (dk_at dksL_law_84 3 rfl rfl)
theorem dL_law_2149 : decode cL_law 2149 = .ok (.ireturn, 1) := dk_172 (dk_at dksL_law_84 4 rfl rfl)
theorem dL_law_2150 : decode cL_law 2150 = .ok (.goto 221, 3) := dk_167 0 221 (dk_at dksL_law_84 5 rfl rfl)
theorem dL_law_2153 : decode cL_law 2153 = .ok (.aload_n 1, 1) := dk_43 (dk_at dksL_law_84 8 rfl rfl)
theorem dL_law_2154 : decode cL_law 2154 = .ok (.aload_n 0, 1) := dk_42 (dk_at dksL_law_84 9 rfl rfl)
theorem dL_law_2155 : decode cL_law 2155 = .ok (.iload 4, 2) := dk_21 4 (dk_at dksL_law_84 10 rfl rfl)
theorem dL_law_2157 : decode cL_law 2157 = .ok (.iconst 1, 1) := dk_4 (dk_at dksL_law_84 12 rfl rfl)
theorem dL_law_2158 : decode cL_law 2158 = .ok (.iadd, 1) := dk_96 (dk_at dksL_law_84 13 rfl rfl)
theorem dL_law_2159 : decode cL_law 2159 = .ok (.iaload, 1) := dk_46 (dk_at dksL_law_84 14 rfl rfl)
theorem dL_law_2160 : decode cL_law 2160 = .ok (.aload_n 0, 1) := dk_42 (dk_at dksL_law_84 15 rfl rfl)
theorem dL_law_2161 : decode cL_law 2161 = .ok (.iload 4, 2) := dk_21 4 (dk_at dksL_law_84 16 rfl rfl)
theorem dL_law_2163 : decode cL_law 2163 = .ok (.iconst 2, 1) := dk_5 (dk_at dksL_law_84 18 rfl rfl)
theorem dL_law_2164 : decode cL_law 2164 = .ok (.iadd, 1) := dk_96 (dk_at dksL_law_84 19 rfl rfl)
theorem dL_law_2165 : decode cL_law 2165 = .ok (.iaload, 1) := dk_46 (dk_at dksL_law_84 20 rfl rfl)
theorem dL_law_2166 : decode cL_law 2166 = .ok (.aload_n 0, 1) := dk_42 (dk_at dksL_law_84 21 rfl rfl)
theorem dL_law_2167 : decode cL_law 2167 = .ok (.iload 4, 2) := dk_21 4 (dk_at dksL_law_84 22 rfl rfl)
theorem dL_law_2169 : decode cL_law 2169 = .ok (.iconst 3, 1) := dk_6 (dk_at dksL_law_85 0 rfl rfl)
theorem dL_law_2170 : decode cL_law 2170 = .ok (.iadd, 1) := dk_96 (dk_at dksL_law_85 1 rfl rfl)
theorem dL_law_2171 : decode cL_law 2171 = .ok (.iaload, 1) := dk_46 (dk_at dksL_law_85 2 rfl rfl)
theorem dL_law_2172 : decode cL_law 2172 = .ok (.aload_n 0, 1) := dk_42 (dk_at dksL_law_85 3 rfl rfl)
theorem dL_law_2173 : decode cL_law 2173 = .ok (.iload 4, 2) := dk_21 4 (dk_at dksL_law_85 4 rfl rfl)
theorem dL_law_2175 : decode cL_law 2175 = .ok (.iconst 4, 1) := dk_7 (dk_at dksL_law_85 6 rfl rfl)
theorem dL_law_2176 : decode cL_law 2176 = .ok (.iadd, 1) := dk_96 (dk_at dksL_law_85 7 rfl rfl)
theorem dL_law_2177 : decode cL_law 2177 = .ok (.iaload, 1) := dk_46 (dk_at dksL_law_85 8 rfl rfl)
theorem dL_law_2178 : decode cL_law 2178 = .ok (.aload_n 3, 1) := dk_45 (dk_at dksL_law_85 9 rfl rfl)
theorem dL_law_2179 : decode cL_law 2179 = .ok (.invokestatic 283, 3) := dk_184 1 27 (dk_at dksL_law_85 10 rfl rfl)
theorem dL_law_2182 : decode cL_law 2182 = .ok (.istore 5, 2) := dk_54 5 (dk_at dksL_law_85 13 rfl rfl)
theorem dL_law_2184 : decode cL_law 2184 = .ok (.aload_n 2, 1) := dk_44 (dk_at dksL_law_85 15 rfl rfl)
theorem dL_law_2185 : decode cL_law 2185 = .ok (.aload_n 0, 1) := dk_42 (dk_at dksL_law_85 16 rfl rfl)
theorem dL_law_2186 : decode cL_law 2186 = .ok (.iload 4, 2) := dk_21 4 (dk_at dksL_law_85 17 rfl rfl)
theorem dL_law_2188 : decode cL_law 2188 = .ok (.iconst 1, 1) := dk_4 (dk_at dksL_law_85 19 rfl rfl)
theorem dL_law_2189 : decode cL_law 2189 = .ok (.iadd, 1) := dk_96 (dk_at dksL_law_85 20 rfl rfl)
theorem dL_law_2190 : decode cL_law 2190 = .ok (.iaload, 1) := dk_46 (dk_at dksL_law_85 21 rfl rfl)
theorem dL_law_2191 : decode cL_law 2191 = .ok (.aload_n 0, 1) := dk_42 (dk_at dksL_law_85 22 rfl rfl)
theorem dL_law_2192 : decode cL_law 2192 = .ok (.iload 4, 2) := dk_21 4 (dk_at dksL_law_86 0 rfl rfl)
theorem dL_law_2194 : decode cL_law 2194 = .ok (.iconst 2, 1) := dk_5 (dk_at dksL_law_86 2 rfl rfl)
theorem dL_law_2195 : decode cL_law 2195 = .ok (.iadd, 1) := dk_96 (dk_at dksL_law_86 3 rfl rfl)
theorem dL_law_2196 : decode cL_law 2196 = .ok (.iaload, 1) := dk_46 (dk_at dksL_law_86 4 rfl rfl)
theorem dL_law_2197 : decode cL_law 2197 = .ok (.aload_n 0, 1) := dk_42 (dk_at dksL_law_86 5 rfl rfl)
theorem dL_law_2198 : decode cL_law 2198 = .ok (.iload 4, 2) := dk_21 4 (dk_at dksL_law_86 6 rfl rfl)
theorem dL_law_2200 : decode cL_law 2200 = .ok (.iconst 3, 1) := dk_6 (dk_at dksL_law_86 8 rfl rfl)
theorem dL_law_2201 : decode cL_law 2201 = .ok (.iadd, 1) := dk_96 (dk_at dksL_law_86 9 rfl rfl)
theorem dL_law_2202 : decode cL_law 2202 = .ok (.iaload, 1) := dk_46 (dk_at dksL_law_86 10 rfl rfl)
theorem dL_law_2203 : decode cL_law 2203 = .ok (.aload_n 0, 1) := dk_42 (dk_at dksL_law_86 11 rfl rfl)
theorem dL_law_2204 : decode cL_law 2204 = .ok (.iload 4, 2) := dk_21 4 (dk_at dksL_law_86 12 rfl rfl)
theorem dL_law_2206 : decode cL_law 2206 = .ok (.iconst 4, 1) := dk_7 (dk_at dksL_law_86 14 rfl rfl)
theorem dL_law_2207 : decode cL_law 2207 = .ok (.iadd, 1) := dk_96 (dk_at dksL_law_86 15 rfl rfl)
theorem dL_law_2208 : decode cL_law 2208 = .ok (.iaload, 1) := dk_46 (dk_at dksL_law_86 16 rfl rfl)
theorem dL_law_2209 : decode cL_law 2209 = .ok (.invokevirtual 286, 3) := dk_182 1 30 (dk_at dksL_law_86 17 rfl rfl)
theorem dL_law_2212 : decode cL_law 2212 = .ok (.istore 6, 2) := dk_54 6 (dk_at dksL_law_86 20 rfl rfl)
theorem dL_law_2214 : decode cL_law 2214 = .ok (.aload_n 2, 1) := dk_44 (dk_at dksL_law_86 22 rfl rfl)
theorem dL_law_2215 : decode cL_law 2215 = .ok (.invokevirtual 134, 3) := dk_182 0 134 (dk_at dksL_law_87 0 rfl rfl)
theorem dL_law_2218 : decode cL_law 2218 = .ok (.iload 5, 2) := dk_21 5 (dk_at dksL_law_87 3 rfl rfl)
theorem dL_law_2220 : decode cL_law 2220 = .ok (.if_icmp .eq 5, 3) := dk_159 0 5 (dk_at dksL_law_87 5 rfl rfl)
theorem dL_law_2223 : decode cL_law 2223 = .ok (.iconst 0, 1) := dk_3 (dk_at dksL_law_87 8 rfl rfl)
theorem dL_law_2224 : decode cL_law 2224 = .ok (.ireturn, 1) := dk_172 (dk_at dksL_law_87 9 rfl rfl)
theorem dL_law_2225 : decode cL_law 2225 = .ok (.iload 5, 2) := dk_21 5 (dk_at dksL_law_87 10 rfl rfl)
theorem dL_law_2227 : decode cL_law 2227 = .ok (.ifCond .ne 15, 3) := dk_154 0 15 (dk_at dksL_law_87 12 rfl rfl)
theorem dL_law_2230 : decode cL_law 2230 = .ok (.aload_n 3, 1) := dk_45 (dk_at dksL_law_87 15 rfl rfl)
theorem dL_law_2231 : decode cL_law 2231 = .ok (.iconst 0, 1) := dk_3 (dk_at dksL_law_87 16 rfl rfl)
theorem dL_law_2232 : decode cL_law 2232 = .ok (.laload, 1) := dk_47 (dk_at dksL_law_87 17 rfl rfl)
theorem dL_law_2233 : decode cL_law 2233 = .ok (.iload 6, 2) := dk_21 6 (dk_at dksL_law_87 18 rfl rfl)
theorem dL_law_2235 : decode cL_law 2235 = .ok (.i2l, 1) := dk_133 (dk_at dksL_law_87 20 rfl rfl)
theorem dL_law_2236 : decode cL_law 2236 = .ok (.lcmp, 1) := dk_148 (dk_at dksL_law_87 21 rfl rfl)
theorem dL_law_2237 : decode cL_law 2237 = .ok (.ifCond .eq 5, 3) := dk_153 0 5 (dk_at dksL_law_88 0 rfl rfl)
theorem dL_law_2240 : decode cL_law 2240 = .ok (.iconst 0, 1) := dk_3 (dk_at dksL_law_88 3 rfl rfl)
theorem dL_law_2241 : decode cL_law 2241 = .ok (.ireturn, 1) := dk_172 (dk_at dksL_law_88 4 rfl rfl)
theorem dL_law_2242 : decode cL_law 2242 = .ok (.goto 129, 3) := dk_167 0 129 (dk_at dksL_law_88 5 rfl rfl)
theorem dL_law_2245 : decode cL_law 2245 = .ok (.aload_n 1, 1) := dk_43 (dk_at dksL_law_88 8 rfl rfl)
theorem dL_law_2246 : decode cL_law 2246 = .ok (.invokevirtual 287, 3) := dk_182 1 31 (dk_at dksL_law_88 9 rfl rfl)
theorem dL_law_2249 : decode cL_law 2249 = .ok (.aload_n 2, 1) := dk_44 (dk_at dksL_law_88 12 rfl rfl)
theorem dL_law_2250 : decode cL_law 2250 = .ok (.invokevirtual 290, 3) := dk_182 1 34 (dk_at dksL_law_88 13 rfl rfl)
theorem dL_law_2253 : decode cL_law 2253 = .ok (.if_icmp .eq 118, 3) := dk_159 0 118 (dk_at dksL_law_88 16 rfl rfl)
theorem dL_law_2256 : decode cL_law 2256 = .ok (.iconst 0, 1) := dk_3 (dk_at dksL_law_88 19 rfl rfl)
theorem dL_law_2257 : decode cL_law 2257 = .ok (.ireturn, 1) := dk_172 (dk_at dksL_law_88 20 rfl rfl)
theorem dL_law_2258 : decode cL_law 2258 = .ok (.aload_n 1, 1) := dk_43 (dk_at dksL_law_88 21 rfl rfl)
theorem dL_law_2259 : decode cL_law 2259 = .ok (.aload_n 3, 1) := dk_45 (dk_at dksL_law_88 22 rfl rfl)
theorem dL_law_2260 : decode cL_law 2260 = .ok (.invokestatic 291, 3) := dk_184 1 35 (dk_at dksL_law_89 0 rfl rfl)
theorem dL_law_2263 : decode cL_law 2263 = .ok (.istore 5, 2) := dk_54 5 (dk_at dksL_law_89 3 rfl rfl)
theorem dL_law_2265 : decode cL_law 2265 = .ok (.aload_n 2, 1) := dk_44 (dk_at dksL_law_89 5 rfl rfl)
theorem dL_law_2266 : decode cL_law 2266 = .ok (.invokevirtual 293, 3) := dk_182 1 37 (dk_at dksL_law_89 6 rfl rfl)
theorem dL_law_2269 : decode cL_law 2269 = .ok (.istore 6, 2) := dk_54 6 (dk_at dksL_law_89 9 rfl rfl)
theorem dL_law_2271 : decode cL_law 2271 = .ok (.aload_n 2, 1) := dk_44 (dk_at dksL_law_89 11 rfl rfl)
theorem dL_law_2272 : decode cL_law 2272 = .ok (.invokevirtual 134, 3) := dk_182 0 134 (dk_at dksL_law_89 12 rfl rfl)
theorem dL_law_2275 : decode cL_law 2275 = .ok (.iload 5, 2) := dk_21 5 (dk_at dksL_law_89 15 rfl rfl)
theorem dL_law_2277 : decode cL_law 2277 = .ok (.if_icmp .eq 5, 3) := dk_159 0 5 (dk_at dksL_law_89 17 rfl rfl)
theorem dL_law_2280 : decode cL_law 2280 = .ok (.iconst 0, 1) := dk_3 (dk_at dksL_law_89 20 rfl rfl)
theorem dL_law_2281 : decode cL_law 2281 = .ok (.ireturn, 1) := dk_172 (dk_at dksL_law_89 21 rfl rfl)
theorem dL_law_2282 : decode cL_law 2282 = .ok (.iload 5, 2) := dk_21 5 (dk_at dksL_law_89 22 rfl rfl)
theorem dL_law_2284 : decode cL_law 2284 = .ok (.ifCond .ne 15, 3) := dk_154 0 15 (dk_at dksL_law_90 0 rfl rfl)
theorem dL_law_2287 : decode cL_law 2287 = .ok (.aload_n 3, 1) := dk_45 (dk_at dksL_law_90 3 rfl rfl)
theorem dL_law_2288 : decode cL_law 2288 = .ok (.iconst 0, 1) := dk_3 (dk_at dksL_law_90 4 rfl rfl)
theorem dL_law_2289 : decode cL_law 2289 = .ok (.laload, 1) := dk_47 (dk_at dksL_law_90 5 rfl rfl)
theorem dL_law_2290 : decode cL_law 2290 = .ok (.iload 6, 2) := dk_21 6 (dk_at dksL_law_90 6 rfl rfl)
theorem dL_law_2292 : decode cL_law 2292 = .ok (.i2l, 1) := dk_133 (dk_at dksL_law_90 8 rfl rfl)
theorem dL_law_2293 : decode cL_law 2293 = .ok (.lcmp, 1) := dk_148 (dk_at dksL_law_90 9 rfl rfl)
theorem dL_law_2294 : decode cL_law 2294 = .ok (.ifCond .eq 5, 3) := dk_153 0 5 (dk_at dksL_law_90 10 rfl rfl)
theorem dL_law_2297 : decode cL_law 2297 = .ok (.iconst 0, 1) := dk_3 (dk_at dksL_law_90 13 rfl rfl)
theorem dL_law_2298 : decode cL_law 2298 = .ok (.ireturn, 1) := dk_172 (dk_at dksL_law_90 14 rfl rfl)
theorem dL_law_2299 : decode cL_law 2299 = .ok (.goto 72, 3) := dk_167 0 72 (dk_at dksL_law_90 15 rfl rfl)
theorem dL_law_2302 : decode cL_law 2302 = .ok (.aload_n 1, 1) := dk_43 (dk_at dksL_law_90 18 rfl rfl)
theorem dL_law_2303 : decode cL_law 2303 = .ok (.aload_n 0, 1) := dk_42 (dk_at dksL_law_90 19 rfl rfl)
theorem dL_law_2304 : decode cL_law 2304 = .ok (.iload 4, 2) := dk_21 4 (dk_at dksL_law_90 20 rfl rfl)
theorem dL_law_2306 : decode cL_law 2306 = .ok (.iconst 1, 1) := dk_4 (dk_at dksL_law_90 22 rfl rfl)
theorem dL_law_2307 : decode cL_law 2307 = .ok (.iadd, 1) := dk_96 (dk_at dksL_law_90 23 rfl rfl)
theorem dL_law_2308 : decode cL_law 2308 = .ok (.iaload, 1) := dk_46 (dk_at dksL_law_91 0 rfl rfl)
theorem dL_law_2309 : decode cL_law 2309 = .ok (.aload_n 3, 1) := dk_45 (dk_at dksL_law_91 1 rfl rfl)
theorem dL_law_2310 : decode cL_law 2310 = .ok (.invokestatic 294, 3) := dk_184 1 38 (dk_at dksL_law_91 2 rfl rfl)
theorem dL_law_2313 : decode cL_law 2313 = .ok (.istore 5, 2) := dk_54 5 (dk_at dksL_law_91 5 rfl rfl)
theorem dL_law_2315 : decode cL_law 2315 = .ok (.aload_n 2, 1) := dk_44 (dk_at dksL_law_91 7 rfl rfl)
theorem dL_law_2316 : decode cL_law 2316 = .ok (.aload_n 0, 1) := dk_42 (dk_at dksL_law_91 8 rfl rfl)
theorem dL_law_2317 : decode cL_law 2317 = .ok (.iload 4, 2) := dk_21 4 (dk_at dksL_law_91 9 rfl rfl)
theorem dL_law_2319 : decode cL_law 2319 = .ok (.iconst 1, 1) := dk_4 (dk_at dksL_law_91 11 rfl rfl)
theorem dL_law_2320 : decode cL_law 2320 = .ok (.iadd, 1) := dk_96 (dk_at dksL_law_91 12 rfl rfl)
theorem dL_law_2321 : decode cL_law 2321 = .ok (.iaload, 1) := dk_46 (dk_at dksL_law_91 13 rfl rfl)
theorem dL_law_2322 : decode cL_law 2322 = .ok (.invokevirtual 296, 3) := dk_182 1 40 (dk_at dksL_law_91 14 rfl rfl)
theorem dL_law_2325 : decode cL_law 2325 = .ok (.istore 6, 2) := dk_54 6 (dk_at dksL_law_91 17 rfl rfl)
theorem dL_law_2327 : decode cL_law 2327 = .ok (.aload_n 2, 1) := dk_44 (dk_at dksL_law_91 19 rfl rfl)
theorem dL_law_2328 : decode cL_law 2328 = .ok (.invokevirtual 134, 3) := dk_182 0 134 (dk_at dksL_law_91 20 rfl rfl)
theorem dL_law_2331 : decode cL_law 2331 = .ok (.iload 5, 2) := dk_21 5 (dk_at dksL_law_92 0 rfl rfl)
theorem dL_law_2333 : decode cL_law 2333 = .ok (.if_icmp .eq 5, 3) := dk_159 0 5 (dk_at dksL_law_92 2 rfl rfl)
theorem dL_law_2336 : decode cL_law 2336 = .ok (.iconst 0, 1) := dk_3 (dk_at dksL_law_92 5 rfl rfl)
theorem dL_law_2337 : decode cL_law 2337 = .ok (.ireturn, 1) := dk_172 (dk_at dksL_law_92 6 rfl rfl)
theorem dL_law_2338 : decode cL_law 2338 = .ok (.iload 5, 2) := dk_21 5 (dk_at dksL_law_92 7 rfl rfl)
theorem dL_law_2340 : decode cL_law 2340 = .ok (.ifCond .ne 15, 3) := dk_154 0 15 (dk_at dksL_law_92 9 rfl rfl)
theorem dL_law_2343 : decode cL_law 2343 = .ok (.aload_n 3, 1) := dk_45 (dk_at dksL_law_92 12 rfl rfl)
theorem dL_law_2344 : decode cL_law 2344 = .ok (.iconst 0, 1) := dk_3 (dk_at dksL_law_92 13 rfl rfl)
theorem dL_law_2345 : decode cL_law 2345 = .ok (.laload, 1) := dk_47 (dk_at dksL_law_92 14 rfl rfl)
theorem dL_law_2346 : decode cL_law 2346 = .ok (.iload 6, 2) := dk_21 6 (dk_at dksL_law_92 15 rfl rfl)
theorem dL_law_2348 : decode cL_law 2348 = .ok (.i2l, 1) := dk_133 (dk_at dksL_law_92 17 rfl rfl)
theorem dL_law_2349 : decode cL_law 2349 = .ok (.lcmp, 1) := dk_148 (dk_at dksL_law_92 18 rfl rfl)
theorem dL_law_2350 : decode cL_law 2350 = .ok (.ifCond .eq 5, 3) := dk_153 0 5 (dk_at dksL_law_92 19 rfl rfl)
theorem dL_law_2353 : decode cL_law 2353 = .ok (.iconst 0, 1) := dk_3 (dk_at dksL_law_92 22 rfl rfl)
theorem dL_law_2354 : decode cL_law 2354 = .ok (.ireturn, 1) := dk_172 (dk_at dksL_law_92 23 rfl rfl)
theorem dL_law_2355 : decode cL_law 2355 = .ok (.goto 16, 3) := dk_167 0 16 (dk_at dksL_law_93 0 rfl rfl)
theorem dL_law_2358 : decode cL_law 2358 = .ok (.aload_n 1, 1) := dk_43 (dk_at dksL_law_93 3 rfl rfl)
theorem dL_law_2359 : decode cL_law 2359 = .ok (.invokevirtual 297, 3) := dk_182 1 41 (dk_at dksL_law_93 4 rfl rfl)
theorem dL_law_2362 : decode cL_law 2362 = .ok (.aload_n 2, 1) := dk_44 (dk_at dksL_law_93 7 rfl rfl)
theorem dL_law_2363 : decode cL_law 2363 = .ok (.invokevirtual 300, 3) := dk_182 1 44 (dk_at dksL_law_93 8 rfl rfl)
theorem dL_law_2366 : decode cL_law 2366 = .ok (.if_icmp .eq 5, 3) := dk_159 0 5 (dk_at dksL_law_93 11 rfl rfl)
theorem dL_law_2369 : decode cL_law 2369 = .ok (.iconst 0, 1) := dk_3 (dk_at dksL_law_93 14 rfl rfl)
theorem dL_law_2370 : decode cL_law 2370 = .ok (.ireturn, 1) := dk_172 (dk_at dksL_law_93 15 rfl rfl)
theorem dL_law_2371 : decode cL_law 2371 = .ok (.iinc 4 6, 3) := dk_132 4 6 (dk_at dksL_law_93 16 rfl rfl)
theorem dL_law_2374 : decode cL_law 2374 = .ok (.goto (-2351), 3) := dk_167 246 209 (dk_at dksL_law_93 19 rfl rfl)
theorem dL_law_2377 : decode cL_law 2377 = .ok (.iconst 1, 1) := dk_4 (dk_at dksL_law_93 22 rfl rfl)
theorem dL_law_2378 : decode cL_law 2378 = .ok (.ireturn, 1) := dk_172 (dk_at dksL_law_93 23 rfl rfl)

/-! KernelGymLaw -/
def RX0 : String := "KernelGymLaw"
abbrev cX0_section : ByteArray := method_3_code
def yX0_section : MethodName := ⟨RX0, "section", "(LKernelGym;I[J)I"⟩
def dkwX0_section_0 : List UInt8 := [44, 3, 42, 27, 182, 0, 7, 133, 80, 167, 0, 9, 78, 4, 172, 78, 5, 172, 3, 172]
abbrev dktX0_section_0 : List UInt8 := dkwX0_section_0 ++ []
theorem dksX0_section_0 : cX0_section.data.toList.drop 0 = dktX0_section_0 := by decide +kernel
theorem dX0_section_0 : decode cX0_section 0 = .ok (.aload_n 2, 1) := dk_44 (dk_at dksX0_section_0 0 rfl rfl)
theorem dX0_section_1 : decode cX0_section 1 = .ok (.iconst 0, 1) := dk_3 (dk_at dksX0_section_0 1 rfl rfl)
theorem dX0_section_2 : decode cX0_section 2 = .ok (.aload_n 0, 1) := dk_42 (dk_at dksX0_section_0 2 rfl rfl)
theorem dX0_section_3 : decode cX0_section 3 = .ok (.iload_n 1, 1) := dk_27 (dk_at dksX0_section_0 3 rfl rfl)
theorem dX0_section_4 : decode cX0_section 4 = .ok (.invokevirtual 7, 3) := dk_182 0 7 (dk_at dksX0_section_0 4 rfl rfl)
theorem dX0_section_7 : decode cX0_section 7 = .ok (.i2l, 1) := dk_133 (dk_at dksX0_section_0 7 rfl rfl)
theorem dX0_section_8 : decode cX0_section 8 = .ok (.lastore, 1) := dk_80 (dk_at dksX0_section_0 8 rfl rfl)
theorem dX0_section_9 : decode cX0_section 9 = .ok (.goto 9, 3) := dk_167 0 9 (dk_at dksX0_section_0 9 rfl rfl)
theorem dX0_section_12 : decode cX0_section 12 = .ok (.astore_n 3, 1) := dk_78 (dk_at dksX0_section_0 12 rfl rfl)
theorem dX0_section_13 : decode cX0_section 13 = .ok (.iconst 1, 1) := dk_4 (dk_at dksX0_section_0 13 rfl rfl)
theorem dX0_section_14 : decode cX0_section 14 = .ok (.ireturn, 1) := dk_172 (dk_at dksX0_section_0 14 rfl rfl)
theorem dX0_section_15 : decode cX0_section 15 = .ok (.astore_n 3, 1) := dk_78 (dk_at dksX0_section_0 15 rfl rfl)
theorem dX0_section_16 : decode cX0_section 16 = .ok (.iconst 2, 1) := dk_5 (dk_at dksX0_section_0 16 rfl rfl)
theorem dX0_section_17 : decode cX0_section 17 = .ok (.ireturn, 1) := dk_172 (dk_at dksX0_section_0 17 rfl rfl)
theorem dX0_section_18 : decode cX0_section 18 = .ok (.iconst 0, 1) := dk_3 (dk_at dksX0_section_0 18 rfl rfl)
theorem dX0_section_19 : decode cX0_section 19 = .ok (.ireturn, 1) := dk_172 (dk_at dksX0_section_0 19 rfl rfl)
abbrev cX0_label : ByteArray := method_4_code
def yX0_label : MethodName := ⟨RX0, "label", "(LKernelGym;I[J)I"⟩
def dkwX0_label_0 : List UInt8 := [44, 3, 42, 27, 182, 0, 17, 133, 80, 167, 0, 9, 78, 4, 172, 78, 5, 172, 3, 172]
abbrev dktX0_label_0 : List UInt8 := dkwX0_label_0 ++ []
theorem dksX0_label_0 : cX0_label.data.toList.drop 0 = dktX0_label_0 := by decide +kernel
theorem dX0_label_0 : decode cX0_label 0 = .ok (.aload_n 2, 1) := dk_44 (dk_at dksX0_label_0 0 rfl rfl)
theorem dX0_label_1 : decode cX0_label 1 = .ok (.iconst 0, 1) := dk_3 (dk_at dksX0_label_0 1 rfl rfl)
theorem dX0_label_2 : decode cX0_label 2 = .ok (.aload_n 0, 1) := dk_42 (dk_at dksX0_label_0 2 rfl rfl)
theorem dX0_label_3 : decode cX0_label 3 = .ok (.iload_n 1, 1) := dk_27 (dk_at dksX0_label_0 3 rfl rfl)
theorem dX0_label_4 : decode cX0_label 4 = .ok (.invokevirtual 17, 3) := dk_182 0 17 (dk_at dksX0_label_0 4 rfl rfl)
theorem dX0_label_7 : decode cX0_label 7 = .ok (.i2l, 1) := dk_133 (dk_at dksX0_label_0 7 rfl rfl)
theorem dX0_label_8 : decode cX0_label 8 = .ok (.lastore, 1) := dk_80 (dk_at dksX0_label_0 8 rfl rfl)
theorem dX0_label_9 : decode cX0_label 9 = .ok (.goto 9, 3) := dk_167 0 9 (dk_at dksX0_label_0 9 rfl rfl)
theorem dX0_label_12 : decode cX0_label 12 = .ok (.astore_n 3, 1) := dk_78 (dk_at dksX0_label_0 12 rfl rfl)
theorem dX0_label_13 : decode cX0_label 13 = .ok (.iconst 1, 1) := dk_4 (dk_at dksX0_label_0 13 rfl rfl)
theorem dX0_label_14 : decode cX0_label 14 = .ok (.ireturn, 1) := dk_172 (dk_at dksX0_label_0 14 rfl rfl)
theorem dX0_label_15 : decode cX0_label 15 = .ok (.astore_n 3, 1) := dk_78 (dk_at dksX0_label_0 15 rfl rfl)
theorem dX0_label_16 : decode cX0_label 16 = .ok (.iconst 2, 1) := dk_5 (dk_at dksX0_label_0 16 rfl rfl)
theorem dX0_label_17 : decode cX0_label 17 = .ok (.ireturn, 1) := dk_172 (dk_at dksX0_label_0 17 rfl rfl)
theorem dX0_label_18 : decode cX0_label 18 = .ok (.iconst 0, 1) := dk_3 (dk_at dksX0_label_0 18 rfl rfl)
theorem dX0_label_19 : decode cX0_label 19 = .ok (.ireturn, 1) := dk_172 (dk_at dksX0_label_0 19 rfl rfl)
abbrev cX0_code : ByteArray := method_5_code
def yX0_code : MethodName := ⟨RX0, "code", "(LKernelGym;IIIII[J)I"⟩
def dkwX0_code_1 : List UInt8 := [58, 7, 5, 172, 3, 172]
abbrev dktX0_code_1 : List UInt8 := dkwX0_code_1 ++ []
def dkwX0_code_0 : List UInt8 := [25, 6, 3, 42, 27, 28, 29, 21, 4, 21, 5, 182, 0, 20, 133, 80, 167, 0, 11, 58, 7, 4, 172]
abbrev dktX0_code_0 : List UInt8 := dkwX0_code_0 ++ dktX0_code_1
theorem dksX0_code_0 : cX0_code.data.toList.drop 0 = dktX0_code_0 := by decide +kernel
theorem dksX0_code_1 : cX0_code.data.toList.drop 23 = dktX0_code_1 := dk_seg dksX0_code_0 23 rfl rfl
theorem dX0_code_0 : decode cX0_code 0 = .ok (.aload 6, 2) := dk_25 6 (dk_at dksX0_code_0 0 rfl rfl)
theorem dX0_code_2 : decode cX0_code 2 = .ok (.iconst 0, 1) := dk_3 (dk_at dksX0_code_0 2 rfl rfl)
theorem dX0_code_3 : decode cX0_code 3 = .ok (.aload_n 0, 1) := dk_42 (dk_at dksX0_code_0 3 rfl rfl)
theorem dX0_code_4 : decode cX0_code 4 = .ok (.iload_n 1, 1) := dk_27 (dk_at dksX0_code_0 4 rfl rfl)
theorem dX0_code_5 : decode cX0_code 5 = .ok (.iload_n 2, 1) := dk_28 (dk_at dksX0_code_0 5 rfl rfl)
theorem dX0_code_6 : decode cX0_code 6 = .ok (.iload_n 3, 1) := dk_29 (dk_at dksX0_code_0 6 rfl rfl)
theorem dX0_code_7 : decode cX0_code 7 = .ok (.iload 4, 2) := dk_21 4 (dk_at dksX0_code_0 7 rfl rfl)
theorem dX0_code_9 : decode cX0_code 9 = .ok (.iload 5, 2) := dk_21 5 (dk_at dksX0_code_0 9 rfl rfl)
theorem dX0_code_11 : decode cX0_code 11 = .ok (.invokevirtual 20, 3) := dk_182 0 20 (dk_at dksX0_code_0 11 rfl rfl)
theorem dX0_code_14 : decode cX0_code 14 = .ok (.i2l, 1) := dk_133 (dk_at dksX0_code_0 14 rfl rfl)
theorem dX0_code_15 : decode cX0_code 15 = .ok (.lastore, 1) := dk_80 (dk_at dksX0_code_0 15 rfl rfl)
theorem dX0_code_16 : decode cX0_code 16 = .ok (.goto 11, 3) := dk_167 0 11 (dk_at dksX0_code_0 16 rfl rfl)
theorem dX0_code_19 : decode cX0_code 19 = .ok (.astore 7, 2) := dk_58 7 (dk_at dksX0_code_0 19 rfl rfl)
theorem dX0_code_21 : decode cX0_code 21 = .ok (.iconst 1, 1) := dk_4 (dk_at dksX0_code_0 21 rfl rfl)
theorem dX0_code_22 : decode cX0_code 22 = .ok (.ireturn, 1) := dk_172 (dk_at dksX0_code_0 22 rfl rfl)
theorem dX0_code_23 : decode cX0_code 23 = .ok (.astore 7, 2) := dk_58 7 (dk_at dksX0_code_1 0 rfl rfl)
theorem dX0_code_25 : decode cX0_code 25 = .ok (.iconst 2, 1) := dk_5 (dk_at dksX0_code_1 2 rfl rfl)
theorem dX0_code_26 : decode cX0_code 26 = .ok (.ireturn, 1) := dk_172 (dk_at dksX0_code_1 3 rfl rfl)
theorem dX0_code_27 : decode cX0_code 27 = .ok (.iconst 0, 1) := dk_3 (dk_at dksX0_code_1 4 rfl rfl)
theorem dX0_code_28 : decode cX0_code 28 = .ok (.ireturn, 1) := dk_172 (dk_at dksX0_code_1 5 rfl rfl)
abbrev cX0_word : ByteArray := method_6_code
def yX0_word : MethodName := ⟨RX0, "word", "(LKernelGym;II[J)I"⟩
def dkwX0_word_0 : List UInt8 := [45, 3, 42, 27, 28, 182, 0, 24, 133, 80, 167, 0, 11, 58, 4, 4, 172, 58, 4, 5, 172, 3, 172]
abbrev dktX0_word_0 : List UInt8 := dkwX0_word_0 ++ []
theorem dksX0_word_0 : cX0_word.data.toList.drop 0 = dktX0_word_0 := by decide +kernel
theorem dX0_word_0 : decode cX0_word 0 = .ok (.aload_n 3, 1) := dk_45 (dk_at dksX0_word_0 0 rfl rfl)
theorem dX0_word_1 : decode cX0_word 1 = .ok (.iconst 0, 1) := dk_3 (dk_at dksX0_word_0 1 rfl rfl)
theorem dX0_word_2 : decode cX0_word 2 = .ok (.aload_n 0, 1) := dk_42 (dk_at dksX0_word_0 2 rfl rfl)
theorem dX0_word_3 : decode cX0_word 3 = .ok (.iload_n 1, 1) := dk_27 (dk_at dksX0_word_0 3 rfl rfl)
theorem dX0_word_4 : decode cX0_word 4 = .ok (.iload_n 2, 1) := dk_28 (dk_at dksX0_word_0 4 rfl rfl)
theorem dX0_word_5 : decode cX0_word 5 = .ok (.invokevirtual 24, 3) := dk_182 0 24 (dk_at dksX0_word_0 5 rfl rfl)
theorem dX0_word_8 : decode cX0_word 8 = .ok (.i2l, 1) := dk_133 (dk_at dksX0_word_0 8 rfl rfl)
theorem dX0_word_9 : decode cX0_word 9 = .ok (.lastore, 1) := dk_80 (dk_at dksX0_word_0 9 rfl rfl)
theorem dX0_word_10 : decode cX0_word 10 = .ok (.goto 11, 3) := dk_167 0 11 (dk_at dksX0_word_0 10 rfl rfl)
theorem dX0_word_13 : decode cX0_word 13 = .ok (.astore 4, 2) := dk_58 4 (dk_at dksX0_word_0 13 rfl rfl)
theorem dX0_word_15 : decode cX0_word 15 = .ok (.iconst 1, 1) := dk_4 (dk_at dksX0_word_0 15 rfl rfl)
theorem dX0_word_16 : decode cX0_word 16 = .ok (.ireturn, 1) := dk_172 (dk_at dksX0_word_0 16 rfl rfl)
theorem dX0_word_17 : decode cX0_word 17 = .ok (.astore 4, 2) := dk_58 4 (dk_at dksX0_word_0 17 rfl rfl)
theorem dX0_word_19 : decode cX0_word 19 = .ok (.iconst 2, 1) := dk_5 (dk_at dksX0_word_0 19 rfl rfl)
theorem dX0_word_20 : decode cX0_word 20 = .ok (.ireturn, 1) := dk_172 (dk_at dksX0_word_0 20 rfl rfl)
theorem dX0_word_21 : decode cX0_word 21 = .ok (.iconst 0, 1) := dk_3 (dk_at dksX0_word_0 21 rfl rfl)
theorem dX0_word_22 : decode cX0_word 22 = .ok (.ireturn, 1) := dk_172 (dk_at dksX0_word_0 22 rfl rfl)
abbrev cX0_space : ByteArray := method_7_code
def yX0_space : MethodName := ⟨RX0, "space", "(LKernelGym;I[J)I"⟩
def dkwX0_space_0 : List UInt8 := [44, 3, 42, 27, 182, 0, 28, 133, 80, 167, 0, 9, 78, 4, 172, 78, 5, 172, 3, 172]
abbrev dktX0_space_0 : List UInt8 := dkwX0_space_0 ++ []
theorem dksX0_space_0 : cX0_space.data.toList.drop 0 = dktX0_space_0 := by decide +kernel
theorem dX0_space_0 : decode cX0_space 0 = .ok (.aload_n 2, 1) := dk_44 (dk_at dksX0_space_0 0 rfl rfl)
theorem dX0_space_1 : decode cX0_space 1 = .ok (.iconst 0, 1) := dk_3 (dk_at dksX0_space_0 1 rfl rfl)
theorem dX0_space_2 : decode cX0_space 2 = .ok (.aload_n 0, 1) := dk_42 (dk_at dksX0_space_0 2 rfl rfl)
theorem dX0_space_3 : decode cX0_space 3 = .ok (.iload_n 1, 1) := dk_27 (dk_at dksX0_space_0 3 rfl rfl)
theorem dX0_space_4 : decode cX0_space 4 = .ok (.invokevirtual 28, 3) := dk_182 0 28 (dk_at dksX0_space_0 4 rfl rfl)
theorem dX0_space_7 : decode cX0_space 7 = .ok (.i2l, 1) := dk_133 (dk_at dksX0_space_0 7 rfl rfl)
theorem dX0_space_8 : decode cX0_space 8 = .ok (.lastore, 1) := dk_80 (dk_at dksX0_space_0 8 rfl rfl)
theorem dX0_space_9 : decode cX0_space 9 = .ok (.goto 9, 3) := dk_167 0 9 (dk_at dksX0_space_0 9 rfl rfl)
theorem dX0_space_12 : decode cX0_space 12 = .ok (.astore_n 3, 1) := dk_78 (dk_at dksX0_space_0 12 rfl rfl)
theorem dX0_space_13 : decode cX0_space 13 = .ok (.iconst 1, 1) := dk_4 (dk_at dksX0_space_0 13 rfl rfl)
theorem dX0_space_14 : decode cX0_space 14 = .ok (.ireturn, 1) := dk_172 (dk_at dksX0_space_0 14 rfl rfl)
theorem dX0_space_15 : decode cX0_space 15 = .ok (.astore_n 3, 1) := dk_78 (dk_at dksX0_space_0 15 rfl rfl)
theorem dX0_space_16 : decode cX0_space 16 = .ok (.iconst 2, 1) := dk_5 (dk_at dksX0_space_0 16 rfl rfl)
theorem dX0_space_17 : decode cX0_space 17 = .ok (.ireturn, 1) := dk_172 (dk_at dksX0_space_0 17 rfl rfl)
theorem dX0_space_18 : decode cX0_space 18 = .ok (.iconst 0, 1) := dk_3 (dk_at dksX0_space_0 18 rfl rfl)
theorem dX0_space_19 : decode cX0_space 19 = .ok (.ireturn, 1) := dk_172 (dk_at dksX0_space_0 19 rfl rfl)
abbrev cX0_vector : ByteArray := method_8_code
def yX0_vector : MethodName := ⟨RX0, "vector", "(LKernelGym;III[J)I"⟩
def dkwX0_vector_1 : List UInt8 := [172]
abbrev dktX0_vector_1 : List UInt8 := dkwX0_vector_1 ++ []
def dkwX0_vector_0 : List UInt8 := [25, 4, 3, 42, 27, 28, 29, 182, 0, 31, 133, 80, 167, 0, 11, 58, 5, 4, 172, 58, 5, 5, 172, 3]
abbrev dktX0_vector_0 : List UInt8 := dkwX0_vector_0 ++ dktX0_vector_1
theorem dksX0_vector_0 : cX0_vector.data.toList.drop 0 = dktX0_vector_0 := by decide +kernel
theorem dksX0_vector_1 : cX0_vector.data.toList.drop 24 = dktX0_vector_1 := dk_seg dksX0_vector_0 24 rfl rfl
theorem dX0_vector_0 : decode cX0_vector 0 = .ok (.aload 4, 2) := dk_25 4 (dk_at dksX0_vector_0 0 rfl rfl)
theorem dX0_vector_2 : decode cX0_vector 2 = .ok (.iconst 0, 1) := dk_3 (dk_at dksX0_vector_0 2 rfl rfl)
theorem dX0_vector_3 : decode cX0_vector 3 = .ok (.aload_n 0, 1) := dk_42 (dk_at dksX0_vector_0 3 rfl rfl)
theorem dX0_vector_4 : decode cX0_vector 4 = .ok (.iload_n 1, 1) := dk_27 (dk_at dksX0_vector_0 4 rfl rfl)
theorem dX0_vector_5 : decode cX0_vector 5 = .ok (.iload_n 2, 1) := dk_28 (dk_at dksX0_vector_0 5 rfl rfl)
theorem dX0_vector_6 : decode cX0_vector 6 = .ok (.iload_n 3, 1) := dk_29 (dk_at dksX0_vector_0 6 rfl rfl)
theorem dX0_vector_7 : decode cX0_vector 7 = .ok (.invokevirtual 31, 3) := dk_182 0 31 (dk_at dksX0_vector_0 7 rfl rfl)
theorem dX0_vector_10 : decode cX0_vector 10 = .ok (.i2l, 1) := dk_133 (dk_at dksX0_vector_0 10 rfl rfl)
theorem dX0_vector_11 : decode cX0_vector 11 = .ok (.lastore, 1) := dk_80 (dk_at dksX0_vector_0 11 rfl rfl)
theorem dX0_vector_12 : decode cX0_vector 12 = .ok (.goto 11, 3) := dk_167 0 11 (dk_at dksX0_vector_0 12 rfl rfl)
theorem dX0_vector_15 : decode cX0_vector 15 = .ok (.astore 5, 2) := dk_58 5 (dk_at dksX0_vector_0 15 rfl rfl)
theorem dX0_vector_17 : decode cX0_vector 17 = .ok (.iconst 1, 1) := dk_4 (dk_at dksX0_vector_0 17 rfl rfl)
theorem dX0_vector_18 : decode cX0_vector 18 = .ok (.ireturn, 1) := dk_172 (dk_at dksX0_vector_0 18 rfl rfl)
theorem dX0_vector_19 : decode cX0_vector 19 = .ok (.astore 5, 2) := dk_58 5 (dk_at dksX0_vector_0 19 rfl rfl)
theorem dX0_vector_21 : decode cX0_vector 21 = .ok (.iconst 2, 1) := dk_5 (dk_at dksX0_vector_0 21 rfl rfl)
theorem dX0_vector_22 : decode cX0_vector 22 = .ok (.ireturn, 1) := dk_172 (dk_at dksX0_vector_0 22 rfl rfl)
theorem dX0_vector_23 : decode cX0_vector 23 = .ok (.iconst 0, 1) := dk_3 (dk_at dksX0_vector_0 23 rfl rfl)
theorem dX0_vector_24 : decode cX0_vector 24 = .ok (.ireturn, 1) := dk_172 (dk_at dksX0_vector_1 0 rfl rfl)
abbrev cX0_macro : ByteArray := method_9_code
def yX0_macro : MethodName := ⟨RX0, "macro", "(LKernelGym;I[J)I"⟩
def dkwX0_macro_0 : List UInt8 := [44, 3, 42, 27, 182, 0, 35, 133, 80, 167, 0, 9, 78, 4, 172, 78, 5, 172, 3, 172]
abbrev dktX0_macro_0 : List UInt8 := dkwX0_macro_0 ++ []
theorem dksX0_macro_0 : cX0_macro.data.toList.drop 0 = dktX0_macro_0 := by decide +kernel
theorem dX0_macro_0 : decode cX0_macro 0 = .ok (.aload_n 2, 1) := dk_44 (dk_at dksX0_macro_0 0 rfl rfl)
theorem dX0_macro_1 : decode cX0_macro 1 = .ok (.iconst 0, 1) := dk_3 (dk_at dksX0_macro_0 1 rfl rfl)
theorem dX0_macro_2 : decode cX0_macro 2 = .ok (.aload_n 0, 1) := dk_42 (dk_at dksX0_macro_0 2 rfl rfl)
theorem dX0_macro_3 : decode cX0_macro 3 = .ok (.iload_n 1, 1) := dk_27 (dk_at dksX0_macro_0 3 rfl rfl)
theorem dX0_macro_4 : decode cX0_macro 4 = .ok (.invokevirtual 35, 3) := dk_182 0 35 (dk_at dksX0_macro_0 4 rfl rfl)
theorem dX0_macro_7 : decode cX0_macro 7 = .ok (.i2l, 1) := dk_133 (dk_at dksX0_macro_0 7 rfl rfl)
theorem dX0_macro_8 : decode cX0_macro 8 = .ok (.lastore, 1) := dk_80 (dk_at dksX0_macro_0 8 rfl rfl)
theorem dX0_macro_9 : decode cX0_macro 9 = .ok (.goto 9, 3) := dk_167 0 9 (dk_at dksX0_macro_0 9 rfl rfl)
theorem dX0_macro_12 : decode cX0_macro 12 = .ok (.astore_n 3, 1) := dk_78 (dk_at dksX0_macro_0 12 rfl rfl)
theorem dX0_macro_13 : decode cX0_macro 13 = .ok (.iconst 1, 1) := dk_4 (dk_at dksX0_macro_0 13 rfl rfl)
theorem dX0_macro_14 : decode cX0_macro 14 = .ok (.ireturn, 1) := dk_172 (dk_at dksX0_macro_0 14 rfl rfl)
theorem dX0_macro_15 : decode cX0_macro 15 = .ok (.astore_n 3, 1) := dk_78 (dk_at dksX0_macro_0 15 rfl rfl)
theorem dX0_macro_16 : decode cX0_macro 16 = .ok (.iconst 2, 1) := dk_5 (dk_at dksX0_macro_0 16 rfl rfl)
theorem dX0_macro_17 : decode cX0_macro 17 = .ok (.ireturn, 1) := dk_172 (dk_at dksX0_macro_0 17 rfl rfl)
theorem dX0_macro_18 : decode cX0_macro 18 = .ok (.iconst 0, 1) := dk_3 (dk_at dksX0_macro_0 18 rfl rfl)
theorem dX0_macro_19 : decode cX0_macro 19 = .ok (.ireturn, 1) := dk_172 (dk_at dksX0_macro_0 19 rfl rfl)
abbrev cX0_endMacro : ByteArray := method_10_code
def yX0_endMacro : MethodName := ⟨RX0, "endMacro", "(LKernelGym;[J)I"⟩
def dkwX0_endMacro_0 : List UInt8 := [43, 3, 42, 182, 0, 38, 133, 80, 167, 0, 6, 77, 4, 172, 3, 172]
abbrev dktX0_endMacro_0 : List UInt8 := dkwX0_endMacro_0 ++ []
theorem dksX0_endMacro_0 : cX0_endMacro.data.toList.drop 0 = dktX0_endMacro_0 := by decide +kernel
theorem dX0_endMacro_0 : decode cX0_endMacro 0 = .ok (.aload_n 1, 1) := dk_43 (dk_at dksX0_endMacro_0 0 rfl rfl)
theorem dX0_endMacro_1 : decode cX0_endMacro 1 = .ok (.iconst 0, 1) := dk_3 (dk_at dksX0_endMacro_0 1 rfl rfl)
theorem dX0_endMacro_2 : decode cX0_endMacro 2 = .ok (.aload_n 0, 1) := dk_42 (dk_at dksX0_endMacro_0 2 rfl rfl)
theorem dX0_endMacro_3 : decode cX0_endMacro 3 = .ok (.invokevirtual 38, 3) := dk_182 0 38 (dk_at dksX0_endMacro_0 3 rfl rfl)
theorem dX0_endMacro_6 : decode cX0_endMacro 6 = .ok (.i2l, 1) := dk_133 (dk_at dksX0_endMacro_0 6 rfl rfl)
theorem dX0_endMacro_7 : decode cX0_endMacro 7 = .ok (.lastore, 1) := dk_80 (dk_at dksX0_endMacro_0 7 rfl rfl)
theorem dX0_endMacro_8 : decode cX0_endMacro 8 = .ok (.goto 6, 3) := dk_167 0 6 (dk_at dksX0_endMacro_0 8 rfl rfl)
theorem dX0_endMacro_11 : decode cX0_endMacro 11 = .ok (.astore_n 2, 1) := dk_77 (dk_at dksX0_endMacro_0 11 rfl rfl)
theorem dX0_endMacro_12 : decode cX0_endMacro 12 = .ok (.iconst 1, 1) := dk_4 (dk_at dksX0_endMacro_0 12 rfl rfl)
theorem dX0_endMacro_13 : decode cX0_endMacro 13 = .ok (.ireturn, 1) := dk_172 (dk_at dksX0_endMacro_0 13 rfl rfl)
theorem dX0_endMacro_14 : decode cX0_endMacro 14 = .ok (.iconst 0, 1) := dk_3 (dk_at dksX0_endMacro_0 14 rfl rfl)
theorem dX0_endMacro_15 : decode cX0_endMacro 15 = .ok (.ireturn, 1) := dk_172 (dk_at dksX0_endMacro_0 15 rfl rfl)
abbrev cX0_use : ByteArray := method_11_code
def yX0_use : MethodName := ⟨RX0, "use", "(LKernelGym;IIIII[J)I"⟩
def dkwX0_use_1 : List UInt8 := [58, 7, 5, 172, 3, 172]
abbrev dktX0_use_1 : List UInt8 := dkwX0_use_1 ++ []
def dkwX0_use_0 : List UInt8 := [25, 6, 3, 42, 27, 28, 29, 21, 4, 21, 5, 182, 0, 42, 133, 80, 167, 0, 11, 58, 7, 4, 172]
abbrev dktX0_use_0 : List UInt8 := dkwX0_use_0 ++ dktX0_use_1
theorem dksX0_use_0 : cX0_use.data.toList.drop 0 = dktX0_use_0 := by decide +kernel
theorem dksX0_use_1 : cX0_use.data.toList.drop 23 = dktX0_use_1 := dk_seg dksX0_use_0 23 rfl rfl
theorem dX0_use_0 : decode cX0_use 0 = .ok (.aload 6, 2) := dk_25 6 (dk_at dksX0_use_0 0 rfl rfl)
theorem dX0_use_2 : decode cX0_use 2 = .ok (.iconst 0, 1) := dk_3 (dk_at dksX0_use_0 2 rfl rfl)
theorem dX0_use_3 : decode cX0_use 3 = .ok (.aload_n 0, 1) := dk_42 (dk_at dksX0_use_0 3 rfl rfl)
theorem dX0_use_4 : decode cX0_use 4 = .ok (.iload_n 1, 1) := dk_27 (dk_at dksX0_use_0 4 rfl rfl)
theorem dX0_use_5 : decode cX0_use 5 = .ok (.iload_n 2, 1) := dk_28 (dk_at dksX0_use_0 5 rfl rfl)
theorem dX0_use_6 : decode cX0_use 6 = .ok (.iload_n 3, 1) := dk_29 (dk_at dksX0_use_0 6 rfl rfl)
theorem dX0_use_7 : decode cX0_use 7 = .ok (.iload 4, 2) := dk_21 4 (dk_at dksX0_use_0 7 rfl rfl)
theorem dX0_use_9 : decode cX0_use 9 = .ok (.iload 5, 2) := dk_21 5 (dk_at dksX0_use_0 9 rfl rfl)
theorem dX0_use_11 : decode cX0_use 11 = .ok (.invokevirtual 42, 3) := dk_182 0 42 (dk_at dksX0_use_0 11 rfl rfl)
theorem dX0_use_14 : decode cX0_use 14 = .ok (.i2l, 1) := dk_133 (dk_at dksX0_use_0 14 rfl rfl)
theorem dX0_use_15 : decode cX0_use 15 = .ok (.lastore, 1) := dk_80 (dk_at dksX0_use_0 15 rfl rfl)
theorem dX0_use_16 : decode cX0_use 16 = .ok (.goto 11, 3) := dk_167 0 11 (dk_at dksX0_use_0 16 rfl rfl)
theorem dX0_use_19 : decode cX0_use 19 = .ok (.astore 7, 2) := dk_58 7 (dk_at dksX0_use_0 19 rfl rfl)
theorem dX0_use_21 : decode cX0_use 21 = .ok (.iconst 1, 1) := dk_4 (dk_at dksX0_use_0 21 rfl rfl)
theorem dX0_use_22 : decode cX0_use 22 = .ok (.ireturn, 1) := dk_172 (dk_at dksX0_use_0 22 rfl rfl)
theorem dX0_use_23 : decode cX0_use 23 = .ok (.astore 7, 2) := dk_58 7 (dk_at dksX0_use_1 0 rfl rfl)
theorem dX0_use_25 : decode cX0_use 25 = .ok (.iconst 2, 1) := dk_5 (dk_at dksX0_use_1 2 rfl rfl)
theorem dX0_use_26 : decode cX0_use 26 = .ok (.ireturn, 1) := dk_172 (dk_at dksX0_use_1 3 rfl rfl)
theorem dX0_use_27 : decode cX0_use 27 = .ok (.iconst 0, 1) := dk_3 (dk_at dksX0_use_1 4 rfl rfl)
theorem dX0_use_28 : decode cX0_use 28 = .ok (.ireturn, 1) := dk_172 (dk_at dksX0_use_1 5 rfl rfl)
abbrev cX0_assemble : ByteArray := method_12_code
def yX0_assemble : MethodName := ⟨RX0, "assemble", "(LKernelGym;[J)I"⟩
def dkwX0_assemble_0 : List UInt8 := [43, 3, 42, 182, 0, 45, 133, 80, 167, 0, 6, 77, 4, 172, 3, 172]
abbrev dktX0_assemble_0 : List UInt8 := dkwX0_assemble_0 ++ []
theorem dksX0_assemble_0 : cX0_assemble.data.toList.drop 0 = dktX0_assemble_0 := by decide +kernel
theorem dX0_assemble_0 : decode cX0_assemble 0 = .ok (.aload_n 1, 1) := dk_43 (dk_at dksX0_assemble_0 0 rfl rfl)
theorem dX0_assemble_1 : decode cX0_assemble 1 = .ok (.iconst 0, 1) := dk_3 (dk_at dksX0_assemble_0 1 rfl rfl)
theorem dX0_assemble_2 : decode cX0_assemble 2 = .ok (.aload_n 0, 1) := dk_42 (dk_at dksX0_assemble_0 2 rfl rfl)
theorem dX0_assemble_3 : decode cX0_assemble 3 = .ok (.invokevirtual 45, 3) := dk_182 0 45 (dk_at dksX0_assemble_0 3 rfl rfl)
theorem dX0_assemble_6 : decode cX0_assemble 6 = .ok (.i2l, 1) := dk_133 (dk_at dksX0_assemble_0 6 rfl rfl)
theorem dX0_assemble_7 : decode cX0_assemble 7 = .ok (.lastore, 1) := dk_80 (dk_at dksX0_assemble_0 7 rfl rfl)
theorem dX0_assemble_8 : decode cX0_assemble 8 = .ok (.goto 6, 3) := dk_167 0 6 (dk_at dksX0_assemble_0 8 rfl rfl)
theorem dX0_assemble_11 : decode cX0_assemble 11 = .ok (.astore_n 2, 1) := dk_77 (dk_at dksX0_assemble_0 11 rfl rfl)
theorem dX0_assemble_12 : decode cX0_assemble 12 = .ok (.iconst 1, 1) := dk_4 (dk_at dksX0_assemble_0 12 rfl rfl)
theorem dX0_assemble_13 : decode cX0_assemble 13 = .ok (.ireturn, 1) := dk_172 (dk_at dksX0_assemble_0 13 rfl rfl)
theorem dX0_assemble_14 : decode cX0_assemble 14 = .ok (.iconst 0, 1) := dk_3 (dk_at dksX0_assemble_0 14 rfl rfl)
theorem dX0_assemble_15 : decode cX0_assemble 15 = .ok (.ireturn, 1) := dk_172 (dk_at dksX0_assemble_0 15 rfl rfl)
abbrev cX0_image : ByteArray := method_13_code
def yX0_image : MethodName := ⟨RX0, "image", "(LKernelGym;I[J)I"⟩
def dkwX0_image_0 : List UInt8 := [44, 3, 42, 27, 182, 0, 48, 133, 80, 167, 0, 9, 78, 4, 172, 78, 5, 172, 3, 172]
abbrev dktX0_image_0 : List UInt8 := dkwX0_image_0 ++ []
theorem dksX0_image_0 : cX0_image.data.toList.drop 0 = dktX0_image_0 := by decide +kernel
theorem dX0_image_0 : decode cX0_image 0 = .ok (.aload_n 2, 1) := dk_44 (dk_at dksX0_image_0 0 rfl rfl)
theorem dX0_image_1 : decode cX0_image 1 = .ok (.iconst 0, 1) := dk_3 (dk_at dksX0_image_0 1 rfl rfl)
theorem dX0_image_2 : decode cX0_image 2 = .ok (.aload_n 0, 1) := dk_42 (dk_at dksX0_image_0 2 rfl rfl)
theorem dX0_image_3 : decode cX0_image 3 = .ok (.iload_n 1, 1) := dk_27 (dk_at dksX0_image_0 3 rfl rfl)
theorem dX0_image_4 : decode cX0_image 4 = .ok (.invokevirtual 48, 3) := dk_182 0 48 (dk_at dksX0_image_0 4 rfl rfl)
theorem dX0_image_7 : decode cX0_image 7 = .ok (.i2l, 1) := dk_133 (dk_at dksX0_image_0 7 rfl rfl)
theorem dX0_image_8 : decode cX0_image 8 = .ok (.lastore, 1) := dk_80 (dk_at dksX0_image_0 8 rfl rfl)
theorem dX0_image_9 : decode cX0_image 9 = .ok (.goto 9, 3) := dk_167 0 9 (dk_at dksX0_image_0 9 rfl rfl)
theorem dX0_image_12 : decode cX0_image 12 = .ok (.astore_n 3, 1) := dk_78 (dk_at dksX0_image_0 12 rfl rfl)
theorem dX0_image_13 : decode cX0_image 13 = .ok (.iconst 1, 1) := dk_4 (dk_at dksX0_image_0 13 rfl rfl)
theorem dX0_image_14 : decode cX0_image 14 = .ok (.ireturn, 1) := dk_172 (dk_at dksX0_image_0 14 rfl rfl)
theorem dX0_image_15 : decode cX0_image 15 = .ok (.astore_n 3, 1) := dk_78 (dk_at dksX0_image_0 15 rfl rfl)
theorem dX0_image_16 : decode cX0_image 16 = .ok (.iconst 2, 1) := dk_5 (dk_at dksX0_image_0 16 rfl rfl)
theorem dX0_image_17 : decode cX0_image 17 = .ok (.ireturn, 1) := dk_172 (dk_at dksX0_image_0 17 rfl rfl)
theorem dX0_image_18 : decode cX0_image 18 = .ok (.iconst 0, 1) := dk_3 (dk_at dksX0_image_0 18 rfl rfl)
theorem dX0_image_19 : decode cX0_image 19 = .ok (.ireturn, 1) := dk_172 (dk_at dksX0_image_0 19 rfl rfl)
abbrev cX0_start : ByteArray := method_14_code
def yX0_start : MethodName := ⟨RX0, "start", "(LKernelGym;[J)I"⟩
def dkwX0_start_0 : List UInt8 := [43, 3, 42, 182, 0, 51, 133, 80, 167, 0, 6, 77, 4, 172, 3, 172]
abbrev dktX0_start_0 : List UInt8 := dkwX0_start_0 ++ []
theorem dksX0_start_0 : cX0_start.data.toList.drop 0 = dktX0_start_0 := by decide +kernel
theorem dX0_start_0 : decode cX0_start 0 = .ok (.aload_n 1, 1) := dk_43 (dk_at dksX0_start_0 0 rfl rfl)
theorem dX0_start_1 : decode cX0_start 1 = .ok (.iconst 0, 1) := dk_3 (dk_at dksX0_start_0 1 rfl rfl)
theorem dX0_start_2 : decode cX0_start 2 = .ok (.aload_n 0, 1) := dk_42 (dk_at dksX0_start_0 2 rfl rfl)
theorem dX0_start_3 : decode cX0_start 3 = .ok (.invokevirtual 51, 3) := dk_182 0 51 (dk_at dksX0_start_0 3 rfl rfl)
theorem dX0_start_6 : decode cX0_start 6 = .ok (.i2l, 1) := dk_133 (dk_at dksX0_start_0 6 rfl rfl)
theorem dX0_start_7 : decode cX0_start 7 = .ok (.lastore, 1) := dk_80 (dk_at dksX0_start_0 7 rfl rfl)
theorem dX0_start_8 : decode cX0_start 8 = .ok (.goto 6, 3) := dk_167 0 6 (dk_at dksX0_start_0 8 rfl rfl)
theorem dX0_start_11 : decode cX0_start 11 = .ok (.astore_n 2, 1) := dk_77 (dk_at dksX0_start_0 11 rfl rfl)
theorem dX0_start_12 : decode cX0_start 12 = .ok (.iconst 1, 1) := dk_4 (dk_at dksX0_start_0 12 rfl rfl)
theorem dX0_start_13 : decode cX0_start 13 = .ok (.ireturn, 1) := dk_172 (dk_at dksX0_start_0 13 rfl rfl)
theorem dX0_start_14 : decode cX0_start 14 = .ok (.iconst 0, 1) := dk_3 (dk_at dksX0_start_0 14 rfl rfl)
theorem dX0_start_15 : decode cX0_start 15 = .ok (.ireturn, 1) := dk_172 (dk_at dksX0_start_0 15 rfl rfl)
abbrev cX0_crash : ByteArray := method_15_code
def yX0_crash : MethodName := ⟨RX0, "crash", "(LKernelGym;[J)I"⟩
def dkwX0_crash_0 : List UInt8 := [43, 3, 42, 182, 0, 54, 133, 80, 167, 0, 6, 77, 4, 172, 3, 172]
abbrev dktX0_crash_0 : List UInt8 := dkwX0_crash_0 ++ []
theorem dksX0_crash_0 : cX0_crash.data.toList.drop 0 = dktX0_crash_0 := by decide +kernel
theorem dX0_crash_0 : decode cX0_crash 0 = .ok (.aload_n 1, 1) := dk_43 (dk_at dksX0_crash_0 0 rfl rfl)
theorem dX0_crash_1 : decode cX0_crash 1 = .ok (.iconst 0, 1) := dk_3 (dk_at dksX0_crash_0 1 rfl rfl)
theorem dX0_crash_2 : decode cX0_crash 2 = .ok (.aload_n 0, 1) := dk_42 (dk_at dksX0_crash_0 2 rfl rfl)
theorem dX0_crash_3 : decode cX0_crash 3 = .ok (.invokevirtual 54, 3) := dk_182 0 54 (dk_at dksX0_crash_0 3 rfl rfl)
theorem dX0_crash_6 : decode cX0_crash 6 = .ok (.i2l, 1) := dk_133 (dk_at dksX0_crash_0 6 rfl rfl)
theorem dX0_crash_7 : decode cX0_crash 7 = .ok (.lastore, 1) := dk_80 (dk_at dksX0_crash_0 7 rfl rfl)
theorem dX0_crash_8 : decode cX0_crash 8 = .ok (.goto 6, 3) := dk_167 0 6 (dk_at dksX0_crash_0 8 rfl rfl)
theorem dX0_crash_11 : decode cX0_crash 11 = .ok (.astore_n 2, 1) := dk_77 (dk_at dksX0_crash_0 11 rfl rfl)
theorem dX0_crash_12 : decode cX0_crash 12 = .ok (.iconst 1, 1) := dk_4 (dk_at dksX0_crash_0 12 rfl rfl)
theorem dX0_crash_13 : decode cX0_crash 13 = .ok (.ireturn, 1) := dk_172 (dk_at dksX0_crash_0 13 rfl rfl)
theorem dX0_crash_14 : decode cX0_crash 14 = .ok (.iconst 0, 1) := dk_3 (dk_at dksX0_crash_0 14 rfl rfl)
theorem dX0_crash_15 : decode cX0_crash 15 = .ok (.ireturn, 1) := dk_172 (dk_at dksX0_crash_0 15 rfl rfl)
abbrev cX0_format : ByteArray := method_16_code
def yX0_format : MethodName := ⟨RX0, "format", "(LKernelGym;[J)I"⟩
def dkwX0_format_0 : List UInt8 := [43, 3, 42, 182, 0, 57, 133, 80, 167, 0, 6, 77, 4, 172, 3, 172]
abbrev dktX0_format_0 : List UInt8 := dkwX0_format_0 ++ []
theorem dksX0_format_0 : cX0_format.data.toList.drop 0 = dktX0_format_0 := by decide +kernel
theorem dX0_format_0 : decode cX0_format 0 = .ok (.aload_n 1, 1) := dk_43 (dk_at dksX0_format_0 0 rfl rfl)
theorem dX0_format_1 : decode cX0_format 1 = .ok (.iconst 0, 1) := dk_3 (dk_at dksX0_format_0 1 rfl rfl)
theorem dX0_format_2 : decode cX0_format 2 = .ok (.aload_n 0, 1) := dk_42 (dk_at dksX0_format_0 2 rfl rfl)
theorem dX0_format_3 : decode cX0_format 3 = .ok (.invokevirtual 57, 3) := dk_182 0 57 (dk_at dksX0_format_0 3 rfl rfl)
theorem dX0_format_6 : decode cX0_format 6 = .ok (.i2l, 1) := dk_133 (dk_at dksX0_format_0 6 rfl rfl)
theorem dX0_format_7 : decode cX0_format 7 = .ok (.lastore, 1) := dk_80 (dk_at dksX0_format_0 7 rfl rfl)
theorem dX0_format_8 : decode cX0_format 8 = .ok (.goto 6, 3) := dk_167 0 6 (dk_at dksX0_format_0 8 rfl rfl)
theorem dX0_format_11 : decode cX0_format 11 = .ok (.astore_n 2, 1) := dk_77 (dk_at dksX0_format_0 11 rfl rfl)
theorem dX0_format_12 : decode cX0_format 12 = .ok (.iconst 1, 1) := dk_4 (dk_at dksX0_format_0 12 rfl rfl)
theorem dX0_format_13 : decode cX0_format 13 = .ok (.ireturn, 1) := dk_172 (dk_at dksX0_format_0 13 rfl rfl)
theorem dX0_format_14 : decode cX0_format 14 = .ok (.iconst 0, 1) := dk_3 (dk_at dksX0_format_0 14 rfl rfl)
theorem dX0_format_15 : decode cX0_format 15 = .ok (.ireturn, 1) := dk_172 (dk_at dksX0_format_0 15 rfl rfl)
abbrev cX0_step : ByteArray := method_17_code
def yX0_step : MethodName := ⟨RX0, "step", "(LKernelGym;I[J)I"⟩
def dkwX0_step_0 : List UInt8 := [44, 3, 42, 27, 182, 0, 60, 133, 80, 167, 0, 9, 78, 4, 172, 78, 5, 172, 3, 172]
abbrev dktX0_step_0 : List UInt8 := dkwX0_step_0 ++ []
theorem dksX0_step_0 : cX0_step.data.toList.drop 0 = dktX0_step_0 := by decide +kernel
theorem dX0_step_0 : decode cX0_step 0 = .ok (.aload_n 2, 1) := dk_44 (dk_at dksX0_step_0 0 rfl rfl)
theorem dX0_step_1 : decode cX0_step 1 = .ok (.iconst 0, 1) := dk_3 (dk_at dksX0_step_0 1 rfl rfl)
theorem dX0_step_2 : decode cX0_step 2 = .ok (.aload_n 0, 1) := dk_42 (dk_at dksX0_step_0 2 rfl rfl)
theorem dX0_step_3 : decode cX0_step 3 = .ok (.iload_n 1, 1) := dk_27 (dk_at dksX0_step_0 3 rfl rfl)
theorem dX0_step_4 : decode cX0_step 4 = .ok (.invokevirtual 60, 3) := dk_182 0 60 (dk_at dksX0_step_0 4 rfl rfl)
theorem dX0_step_7 : decode cX0_step 7 = .ok (.i2l, 1) := dk_133 (dk_at dksX0_step_0 7 rfl rfl)
theorem dX0_step_8 : decode cX0_step 8 = .ok (.lastore, 1) := dk_80 (dk_at dksX0_step_0 8 rfl rfl)
theorem dX0_step_9 : decode cX0_step 9 = .ok (.goto 9, 3) := dk_167 0 9 (dk_at dksX0_step_0 9 rfl rfl)
theorem dX0_step_12 : decode cX0_step 12 = .ok (.astore_n 3, 1) := dk_78 (dk_at dksX0_step_0 12 rfl rfl)
theorem dX0_step_13 : decode cX0_step 13 = .ok (.iconst 1, 1) := dk_4 (dk_at dksX0_step_0 13 rfl rfl)
theorem dX0_step_14 : decode cX0_step 14 = .ok (.ireturn, 1) := dk_172 (dk_at dksX0_step_0 14 rfl rfl)
theorem dX0_step_15 : decode cX0_step 15 = .ok (.astore_n 3, 1) := dk_78 (dk_at dksX0_step_0 15 rfl rfl)
theorem dX0_step_16 : decode cX0_step 16 = .ok (.iconst 2, 1) := dk_5 (dk_at dksX0_step_0 16 rfl rfl)
theorem dX0_step_17 : decode cX0_step 17 = .ok (.ireturn, 1) := dk_172 (dk_at dksX0_step_0 17 rfl rfl)
theorem dX0_step_18 : decode cX0_step 18 = .ok (.iconst 0, 1) := dk_3 (dk_at dksX0_step_0 18 rfl rfl)
theorem dX0_step_19 : decode cX0_step 19 = .ok (.ireturn, 1) := dk_172 (dk_at dksX0_step_0 19 rfl rfl)
abbrev cX0_runTo : ByteArray := method_18_code
def yX0_runTo : MethodName := ⟨RX0, "runTo", "(LKernelGym;II[J)I"⟩
def dkwX0_runTo_0 : List UInt8 := [45, 3, 42, 27, 28, 182, 0, 63, 133, 80, 167, 0, 11, 58, 4, 4, 172, 58, 4, 5, 172, 3, 172]
abbrev dktX0_runTo_0 : List UInt8 := dkwX0_runTo_0 ++ []
theorem dksX0_runTo_0 : cX0_runTo.data.toList.drop 0 = dktX0_runTo_0 := by decide +kernel
theorem dX0_runTo_0 : decode cX0_runTo 0 = .ok (.aload_n 3, 1) := dk_45 (dk_at dksX0_runTo_0 0 rfl rfl)
theorem dX0_runTo_1 : decode cX0_runTo 1 = .ok (.iconst 0, 1) := dk_3 (dk_at dksX0_runTo_0 1 rfl rfl)
theorem dX0_runTo_2 : decode cX0_runTo 2 = .ok (.aload_n 0, 1) := dk_42 (dk_at dksX0_runTo_0 2 rfl rfl)
theorem dX0_runTo_3 : decode cX0_runTo 3 = .ok (.iload_n 1, 1) := dk_27 (dk_at dksX0_runTo_0 3 rfl rfl)
theorem dX0_runTo_4 : decode cX0_runTo 4 = .ok (.iload_n 2, 1) := dk_28 (dk_at dksX0_runTo_0 4 rfl rfl)
theorem dX0_runTo_5 : decode cX0_runTo 5 = .ok (.invokevirtual 63, 3) := dk_182 0 63 (dk_at dksX0_runTo_0 5 rfl rfl)
theorem dX0_runTo_8 : decode cX0_runTo 8 = .ok (.i2l, 1) := dk_133 (dk_at dksX0_runTo_0 8 rfl rfl)
theorem dX0_runTo_9 : decode cX0_runTo 9 = .ok (.lastore, 1) := dk_80 (dk_at dksX0_runTo_0 9 rfl rfl)
theorem dX0_runTo_10 : decode cX0_runTo 10 = .ok (.goto 11, 3) := dk_167 0 11 (dk_at dksX0_runTo_0 10 rfl rfl)
theorem dX0_runTo_13 : decode cX0_runTo 13 = .ok (.astore 4, 2) := dk_58 4 (dk_at dksX0_runTo_0 13 rfl rfl)
theorem dX0_runTo_15 : decode cX0_runTo 15 = .ok (.iconst 1, 1) := dk_4 (dk_at dksX0_runTo_0 15 rfl rfl)
theorem dX0_runTo_16 : decode cX0_runTo 16 = .ok (.ireturn, 1) := dk_172 (dk_at dksX0_runTo_0 16 rfl rfl)
theorem dX0_runTo_17 : decode cX0_runTo 17 = .ok (.astore 4, 2) := dk_58 4 (dk_at dksX0_runTo_0 17 rfl rfl)
theorem dX0_runTo_19 : decode cX0_runTo 19 = .ok (.iconst 2, 1) := dk_5 (dk_at dksX0_runTo_0 19 rfl rfl)
theorem dX0_runTo_20 : decode cX0_runTo 20 = .ok (.ireturn, 1) := dk_172 (dk_at dksX0_runTo_0 20 rfl rfl)
theorem dX0_runTo_21 : decode cX0_runTo 21 = .ok (.iconst 0, 1) := dk_3 (dk_at dksX0_runTo_0 21 rfl rfl)
theorem dX0_runTo_22 : decode cX0_runTo 22 = .ok (.ireturn, 1) := dk_172 (dk_at dksX0_runTo_0 22 rfl rfl)
abbrev cX0_back : ByteArray := method_19_code
def yX0_back : MethodName := ⟨RX0, "back", "(LKernelGym;I[J)I"⟩
def dkwX0_back_0 : List UInt8 := [44, 3, 42, 27, 182, 0, 66, 133, 80, 167, 0, 9, 78, 4, 172, 78, 5, 172, 3, 172]
abbrev dktX0_back_0 : List UInt8 := dkwX0_back_0 ++ []
theorem dksX0_back_0 : cX0_back.data.toList.drop 0 = dktX0_back_0 := by decide +kernel
theorem dX0_back_0 : decode cX0_back 0 = .ok (.aload_n 2, 1) := dk_44 (dk_at dksX0_back_0 0 rfl rfl)
theorem dX0_back_1 : decode cX0_back 1 = .ok (.iconst 0, 1) := dk_3 (dk_at dksX0_back_0 1 rfl rfl)
theorem dX0_back_2 : decode cX0_back 2 = .ok (.aload_n 0, 1) := dk_42 (dk_at dksX0_back_0 2 rfl rfl)
theorem dX0_back_3 : decode cX0_back 3 = .ok (.iload_n 1, 1) := dk_27 (dk_at dksX0_back_0 3 rfl rfl)
theorem dX0_back_4 : decode cX0_back 4 = .ok (.invokevirtual 66, 3) := dk_182 0 66 (dk_at dksX0_back_0 4 rfl rfl)
theorem dX0_back_7 : decode cX0_back 7 = .ok (.i2l, 1) := dk_133 (dk_at dksX0_back_0 7 rfl rfl)
theorem dX0_back_8 : decode cX0_back 8 = .ok (.lastore, 1) := dk_80 (dk_at dksX0_back_0 8 rfl rfl)
theorem dX0_back_9 : decode cX0_back 9 = .ok (.goto 9, 3) := dk_167 0 9 (dk_at dksX0_back_0 9 rfl rfl)
theorem dX0_back_12 : decode cX0_back 12 = .ok (.astore_n 3, 1) := dk_78 (dk_at dksX0_back_0 12 rfl rfl)
theorem dX0_back_13 : decode cX0_back 13 = .ok (.iconst 1, 1) := dk_4 (dk_at dksX0_back_0 13 rfl rfl)
theorem dX0_back_14 : decode cX0_back 14 = .ok (.ireturn, 1) := dk_172 (dk_at dksX0_back_0 14 rfl rfl)
theorem dX0_back_15 : decode cX0_back 15 = .ok (.astore_n 3, 1) := dk_78 (dk_at dksX0_back_0 15 rfl rfl)
theorem dX0_back_16 : decode cX0_back 16 = .ok (.iconst 2, 1) := dk_5 (dk_at dksX0_back_0 16 rfl rfl)
theorem dX0_back_17 : decode cX0_back 17 = .ok (.ireturn, 1) := dk_172 (dk_at dksX0_back_0 17 rfl rfl)
theorem dX0_back_18 : decode cX0_back 18 = .ok (.iconst 0, 1) := dk_3 (dk_at dksX0_back_0 18 rfl rfl)
theorem dX0_back_19 : decode cX0_back 19 = .ok (.ireturn, 1) := dk_172 (dk_at dksX0_back_0 19 rfl rfl)
abbrev cX0_press : ByteArray := method_20_code
def yX0_press : MethodName := ⟨RX0, "press", "(LKernelGym;I[J)I"⟩
def dkwX0_press_0 : List UInt8 := [44, 3, 42, 27, 182, 0, 69, 133, 80, 167, 0, 9, 78, 4, 172, 78, 5, 172, 3, 172]
abbrev dktX0_press_0 : List UInt8 := dkwX0_press_0 ++ []
theorem dksX0_press_0 : cX0_press.data.toList.drop 0 = dktX0_press_0 := by decide +kernel
theorem dX0_press_0 : decode cX0_press 0 = .ok (.aload_n 2, 1) := dk_44 (dk_at dksX0_press_0 0 rfl rfl)
theorem dX0_press_1 : decode cX0_press 1 = .ok (.iconst 0, 1) := dk_3 (dk_at dksX0_press_0 1 rfl rfl)
theorem dX0_press_2 : decode cX0_press 2 = .ok (.aload_n 0, 1) := dk_42 (dk_at dksX0_press_0 2 rfl rfl)
theorem dX0_press_3 : decode cX0_press 3 = .ok (.iload_n 1, 1) := dk_27 (dk_at dksX0_press_0 3 rfl rfl)
theorem dX0_press_4 : decode cX0_press 4 = .ok (.invokevirtual 69, 3) := dk_182 0 69 (dk_at dksX0_press_0 4 rfl rfl)
theorem dX0_press_7 : decode cX0_press 7 = .ok (.i2l, 1) := dk_133 (dk_at dksX0_press_0 7 rfl rfl)
theorem dX0_press_8 : decode cX0_press 8 = .ok (.lastore, 1) := dk_80 (dk_at dksX0_press_0 8 rfl rfl)
theorem dX0_press_9 : decode cX0_press 9 = .ok (.goto 9, 3) := dk_167 0 9 (dk_at dksX0_press_0 9 rfl rfl)
theorem dX0_press_12 : decode cX0_press 12 = .ok (.astore_n 3, 1) := dk_78 (dk_at dksX0_press_0 12 rfl rfl)
theorem dX0_press_13 : decode cX0_press 13 = .ok (.iconst 1, 1) := dk_4 (dk_at dksX0_press_0 13 rfl rfl)
theorem dX0_press_14 : decode cX0_press 14 = .ok (.ireturn, 1) := dk_172 (dk_at dksX0_press_0 14 rfl rfl)
theorem dX0_press_15 : decode cX0_press 15 = .ok (.astore_n 3, 1) := dk_78 (dk_at dksX0_press_0 15 rfl rfl)
theorem dX0_press_16 : decode cX0_press 16 = .ok (.iconst 2, 1) := dk_5 (dk_at dksX0_press_0 16 rfl rfl)
theorem dX0_press_17 : decode cX0_press 17 = .ok (.ireturn, 1) := dk_172 (dk_at dksX0_press_0 17 rfl rfl)
theorem dX0_press_18 : decode cX0_press 18 = .ok (.iconst 0, 1) := dk_3 (dk_at dksX0_press_0 18 rfl rfl)
theorem dX0_press_19 : decode cX0_press 19 = .ok (.ireturn, 1) := dk_172 (dk_at dksX0_press_0 19 rfl rfl)
abbrev cX0_register : ByteArray := method_21_code
def yX0_register : MethodName := ⟨RX0, "register", "(LKernelGym;I[J)I"⟩
def dkwX0_register_0 : List UInt8 := [44, 3, 42, 27, 182, 0, 72, 133, 80, 167, 0, 6, 78, 4, 172, 3, 172]
abbrev dktX0_register_0 : List UInt8 := dkwX0_register_0 ++ []
theorem dksX0_register_0 : cX0_register.data.toList.drop 0 = dktX0_register_0 := by decide +kernel
theorem dX0_register_0 : decode cX0_register 0 = .ok (.aload_n 2, 1) := dk_44 (dk_at dksX0_register_0 0 rfl rfl)
theorem dX0_register_1 : decode cX0_register 1 = .ok (.iconst 0, 1) := dk_3 (dk_at dksX0_register_0 1 rfl rfl)
theorem dX0_register_2 : decode cX0_register 2 = .ok (.aload_n 0, 1) := dk_42 (dk_at dksX0_register_0 2 rfl rfl)
theorem dX0_register_3 : decode cX0_register 3 = .ok (.iload_n 1, 1) := dk_27 (dk_at dksX0_register_0 3 rfl rfl)
theorem dX0_register_4 : decode cX0_register 4 = .ok (.invokevirtual 72, 3) := dk_182 0 72 (dk_at dksX0_register_0 4 rfl rfl)
theorem dX0_register_7 : decode cX0_register 7 = .ok (.i2l, 1) := dk_133 (dk_at dksX0_register_0 7 rfl rfl)
theorem dX0_register_8 : decode cX0_register 8 = .ok (.lastore, 1) := dk_80 (dk_at dksX0_register_0 8 rfl rfl)
theorem dX0_register_9 : decode cX0_register 9 = .ok (.goto 6, 3) := dk_167 0 6 (dk_at dksX0_register_0 9 rfl rfl)
theorem dX0_register_12 : decode cX0_register 12 = .ok (.astore_n 3, 1) := dk_78 (dk_at dksX0_register_0 12 rfl rfl)
theorem dX0_register_13 : decode cX0_register 13 = .ok (.iconst 1, 1) := dk_4 (dk_at dksX0_register_0 13 rfl rfl)
theorem dX0_register_14 : decode cX0_register 14 = .ok (.ireturn, 1) := dk_172 (dk_at dksX0_register_0 14 rfl rfl)
theorem dX0_register_15 : decode cX0_register 15 = .ok (.iconst 0, 1) := dk_3 (dk_at dksX0_register_0 15 rfl rfl)
theorem dX0_register_16 : decode cX0_register 16 = .ok (.ireturn, 1) := dk_172 (dk_at dksX0_register_0 16 rfl rfl)
abbrev cX0_memory : ByteArray := method_22_code
def yX0_memory : MethodName := ⟨RX0, "memory", "(LKernelGym;I[J)I"⟩
def dkwX0_memory_0 : List UInt8 := [44, 3, 42, 27, 182, 0, 75, 133, 80, 167, 0, 6, 78, 4, 172, 3, 172]
abbrev dktX0_memory_0 : List UInt8 := dkwX0_memory_0 ++ []
theorem dksX0_memory_0 : cX0_memory.data.toList.drop 0 = dktX0_memory_0 := by decide +kernel
theorem dX0_memory_0 : decode cX0_memory 0 = .ok (.aload_n 2, 1) := dk_44 (dk_at dksX0_memory_0 0 rfl rfl)
theorem dX0_memory_1 : decode cX0_memory 1 = .ok (.iconst 0, 1) := dk_3 (dk_at dksX0_memory_0 1 rfl rfl)
theorem dX0_memory_2 : decode cX0_memory 2 = .ok (.aload_n 0, 1) := dk_42 (dk_at dksX0_memory_0 2 rfl rfl)
theorem dX0_memory_3 : decode cX0_memory 3 = .ok (.iload_n 1, 1) := dk_27 (dk_at dksX0_memory_0 3 rfl rfl)
theorem dX0_memory_4 : decode cX0_memory 4 = .ok (.invokevirtual 75, 3) := dk_182 0 75 (dk_at dksX0_memory_0 4 rfl rfl)
theorem dX0_memory_7 : decode cX0_memory 7 = .ok (.i2l, 1) := dk_133 (dk_at dksX0_memory_0 7 rfl rfl)
theorem dX0_memory_8 : decode cX0_memory 8 = .ok (.lastore, 1) := dk_80 (dk_at dksX0_memory_0 8 rfl rfl)
theorem dX0_memory_9 : decode cX0_memory 9 = .ok (.goto 6, 3) := dk_167 0 6 (dk_at dksX0_memory_0 9 rfl rfl)
theorem dX0_memory_12 : decode cX0_memory 12 = .ok (.astore_n 3, 1) := dk_78 (dk_at dksX0_memory_0 12 rfl rfl)
theorem dX0_memory_13 : decode cX0_memory 13 = .ok (.iconst 1, 1) := dk_4 (dk_at dksX0_memory_0 13 rfl rfl)
theorem dX0_memory_14 : decode cX0_memory 14 = .ok (.ireturn, 1) := dk_172 (dk_at dksX0_memory_0 14 rfl rfl)
theorem dX0_memory_15 : decode cX0_memory 15 = .ok (.iconst 0, 1) := dk_3 (dk_at dksX0_memory_0 15 rfl rfl)
theorem dX0_memory_16 : decode cX0_memory 16 = .ok (.ireturn, 1) := dk_172 (dk_at dksX0_memory_0 16 rfl rfl)
abbrev cX0_changedAt : ByteArray := method_23_code
def yX0_changedAt : MethodName := ⟨RX0, "changedAt", "(LKernelGym;I[J)I"⟩
def dkwX0_changedAt_0 : List UInt8 := [44, 3, 42, 27, 182, 0, 78, 133, 80, 167, 0, 6, 78, 4, 172, 3, 172]
abbrev dktX0_changedAt_0 : List UInt8 := dkwX0_changedAt_0 ++ []
theorem dksX0_changedAt_0 : cX0_changedAt.data.toList.drop 0 = dktX0_changedAt_0 := by decide +kernel
theorem dX0_changedAt_0 : decode cX0_changedAt 0 = .ok (.aload_n 2, 1) := dk_44 (dk_at dksX0_changedAt_0 0 rfl rfl)
theorem dX0_changedAt_1 : decode cX0_changedAt 1 = .ok (.iconst 0, 1) := dk_3 (dk_at dksX0_changedAt_0 1 rfl rfl)
theorem dX0_changedAt_2 : decode cX0_changedAt 2 = .ok (.aload_n 0, 1) := dk_42 (dk_at dksX0_changedAt_0 2 rfl rfl)
theorem dX0_changedAt_3 : decode cX0_changedAt 3 = .ok (.iload_n 1, 1) := dk_27 (dk_at dksX0_changedAt_0 3 rfl rfl)
theorem dX0_changedAt_4 : decode cX0_changedAt 4 = .ok (.invokevirtual 78, 3) := dk_182 0 78 (dk_at dksX0_changedAt_0 4 rfl rfl)
theorem dX0_changedAt_7 : decode cX0_changedAt 7 = .ok (.i2l, 1) := dk_133 (dk_at dksX0_changedAt_0 7 rfl rfl)
theorem dX0_changedAt_8 : decode cX0_changedAt 8 = .ok (.lastore, 1) := dk_80 (dk_at dksX0_changedAt_0 8 rfl rfl)
theorem dX0_changedAt_9 : decode cX0_changedAt 9 = .ok (.goto 6, 3) := dk_167 0 6 (dk_at dksX0_changedAt_0 9 rfl rfl)
theorem dX0_changedAt_12 : decode cX0_changedAt 12 = .ok (.astore_n 3, 1) := dk_78 (dk_at dksX0_changedAt_0 12 rfl rfl)
theorem dX0_changedAt_13 : decode cX0_changedAt 13 = .ok (.iconst 1, 1) := dk_4 (dk_at dksX0_changedAt_0 13 rfl rfl)
theorem dX0_changedAt_14 : decode cX0_changedAt 14 = .ok (.ireturn, 1) := dk_172 (dk_at dksX0_changedAt_0 14 rfl rfl)
theorem dX0_changedAt_15 : decode cX0_changedAt 15 = .ok (.iconst 0, 1) := dk_3 (dk_at dksX0_changedAt_0 15 rfl rfl)
theorem dX0_changedAt_16 : decode cX0_changedAt 16 = .ok (.ireturn, 1) := dk_172 (dk_at dksX0_changedAt_0 16 rfl rfl)
abbrev cX0_tapeAt : ByteArray := method_24_code
def yX0_tapeAt : MethodName := ⟨RX0, "tapeAt", "(LKernelGym;I[J)I"⟩
def dkwX0_tapeAt_0 : List UInt8 := [44, 3, 42, 27, 182, 0, 81, 133, 80, 167, 0, 6, 78, 4, 172, 3, 172]
abbrev dktX0_tapeAt_0 : List UInt8 := dkwX0_tapeAt_0 ++ []
theorem dksX0_tapeAt_0 : cX0_tapeAt.data.toList.drop 0 = dktX0_tapeAt_0 := by decide +kernel
theorem dX0_tapeAt_0 : decode cX0_tapeAt 0 = .ok (.aload_n 2, 1) := dk_44 (dk_at dksX0_tapeAt_0 0 rfl rfl)
theorem dX0_tapeAt_1 : decode cX0_tapeAt 1 = .ok (.iconst 0, 1) := dk_3 (dk_at dksX0_tapeAt_0 1 rfl rfl)
theorem dX0_tapeAt_2 : decode cX0_tapeAt 2 = .ok (.aload_n 0, 1) := dk_42 (dk_at dksX0_tapeAt_0 2 rfl rfl)
theorem dX0_tapeAt_3 : decode cX0_tapeAt 3 = .ok (.iload_n 1, 1) := dk_27 (dk_at dksX0_tapeAt_0 3 rfl rfl)
theorem dX0_tapeAt_4 : decode cX0_tapeAt 4 = .ok (.invokevirtual 81, 3) := dk_182 0 81 (dk_at dksX0_tapeAt_0 4 rfl rfl)
theorem dX0_tapeAt_7 : decode cX0_tapeAt 7 = .ok (.i2l, 1) := dk_133 (dk_at dksX0_tapeAt_0 7 rfl rfl)
theorem dX0_tapeAt_8 : decode cX0_tapeAt 8 = .ok (.lastore, 1) := dk_80 (dk_at dksX0_tapeAt_0 8 rfl rfl)
theorem dX0_tapeAt_9 : decode cX0_tapeAt 9 = .ok (.goto 6, 3) := dk_167 0 6 (dk_at dksX0_tapeAt_0 9 rfl rfl)
theorem dX0_tapeAt_12 : decode cX0_tapeAt 12 = .ok (.astore_n 3, 1) := dk_78 (dk_at dksX0_tapeAt_0 12 rfl rfl)
theorem dX0_tapeAt_13 : decode cX0_tapeAt 13 = .ok (.iconst 1, 1) := dk_4 (dk_at dksX0_tapeAt_0 13 rfl rfl)
theorem dX0_tapeAt_14 : decode cX0_tapeAt 14 = .ok (.ireturn, 1) := dk_172 (dk_at dksX0_tapeAt_0 14 rfl rfl)
theorem dX0_tapeAt_15 : decode cX0_tapeAt 15 = .ok (.iconst 0, 1) := dk_3 (dk_at dksX0_tapeAt_0 15 rfl rfl)
theorem dX0_tapeAt_16 : decode cX0_tapeAt 16 = .ok (.ireturn, 1) := dk_172 (dk_at dksX0_tapeAt_0 16 rfl rfl)
abbrev cX0_sumAnew : ByteArray := method_25_code
def yX0_sumAnew : MethodName := ⟨RX0, "sumAnew", "(LKernelGym;I[J)I"⟩
def dkwX0_sumAnew_0 : List UInt8 := [44, 3, 42, 27, 182, 0, 86, 133, 80, 167, 0, 9, 78, 4, 172, 78, 5, 172, 3, 172]
abbrev dktX0_sumAnew_0 : List UInt8 := dkwX0_sumAnew_0 ++ []
theorem dksX0_sumAnew_0 : cX0_sumAnew.data.toList.drop 0 = dktX0_sumAnew_0 := by decide +kernel
theorem dX0_sumAnew_0 : decode cX0_sumAnew 0 = .ok (.aload_n 2, 1) := dk_44 (dk_at dksX0_sumAnew_0 0 rfl rfl)
theorem dX0_sumAnew_1 : decode cX0_sumAnew 1 = .ok (.iconst 0, 1) := dk_3 (dk_at dksX0_sumAnew_0 1 rfl rfl)
theorem dX0_sumAnew_2 : decode cX0_sumAnew 2 = .ok (.aload_n 0, 1) := dk_42 (dk_at dksX0_sumAnew_0 2 rfl rfl)
theorem dX0_sumAnew_3 : decode cX0_sumAnew 3 = .ok (.iload_n 1, 1) := dk_27 (dk_at dksX0_sumAnew_0 3 rfl rfl)
theorem dX0_sumAnew_4 : decode cX0_sumAnew 4 = .ok (.invokevirtual 86, 3) := dk_182 0 86 (dk_at dksX0_sumAnew_0 4 rfl rfl)
theorem dX0_sumAnew_7 : decode cX0_sumAnew 7 = .ok (.i2l, 1) := dk_133 (dk_at dksX0_sumAnew_0 7 rfl rfl)
theorem dX0_sumAnew_8 : decode cX0_sumAnew 8 = .ok (.lastore, 1) := dk_80 (dk_at dksX0_sumAnew_0 8 rfl rfl)
theorem dX0_sumAnew_9 : decode cX0_sumAnew 9 = .ok (.goto 9, 3) := dk_167 0 9 (dk_at dksX0_sumAnew_0 9 rfl rfl)
theorem dX0_sumAnew_12 : decode cX0_sumAnew 12 = .ok (.astore_n 3, 1) := dk_78 (dk_at dksX0_sumAnew_0 12 rfl rfl)
theorem dX0_sumAnew_13 : decode cX0_sumAnew 13 = .ok (.iconst 1, 1) := dk_4 (dk_at dksX0_sumAnew_0 13 rfl rfl)
theorem dX0_sumAnew_14 : decode cX0_sumAnew 14 = .ok (.ireturn, 1) := dk_172 (dk_at dksX0_sumAnew_0 14 rfl rfl)
theorem dX0_sumAnew_15 : decode cX0_sumAnew 15 = .ok (.astore_n 3, 1) := dk_78 (dk_at dksX0_sumAnew_0 15 rfl rfl)
theorem dX0_sumAnew_16 : decode cX0_sumAnew 16 = .ok (.iconst 2, 1) := dk_5 (dk_at dksX0_sumAnew_0 16 rfl rfl)
theorem dX0_sumAnew_17 : decode cX0_sumAnew 17 = .ok (.ireturn, 1) := dk_172 (dk_at dksX0_sumAnew_0 17 rfl rfl)
theorem dX0_sumAnew_18 : decode cX0_sumAnew 18 = .ok (.iconst 0, 1) := dk_3 (dk_at dksX0_sumAnew_0 18 rfl rfl)
theorem dX0_sumAnew_19 : decode cX0_sumAnew 19 = .ok (.ireturn, 1) := dk_172 (dk_at dksX0_sumAnew_0 19 rfl rfl)
abbrev cX0_disk : ByteArray := method_26_code
def yX0_disk : MethodName := ⟨RX0, "disk", "(LKernelGym;II[J)I"⟩
def dkwX0_disk_0 : List UInt8 := [45, 3, 42, 27, 28, 182, 0, 89, 133, 80, 167, 0, 7, 58, 4, 4, 172, 3, 172]
abbrev dktX0_disk_0 : List UInt8 := dkwX0_disk_0 ++ []
theorem dksX0_disk_0 : cX0_disk.data.toList.drop 0 = dktX0_disk_0 := by decide +kernel
theorem dX0_disk_0 : decode cX0_disk 0 = .ok (.aload_n 3, 1) := dk_45 (dk_at dksX0_disk_0 0 rfl rfl)
theorem dX0_disk_1 : decode cX0_disk 1 = .ok (.iconst 0, 1) := dk_3 (dk_at dksX0_disk_0 1 rfl rfl)
theorem dX0_disk_2 : decode cX0_disk 2 = .ok (.aload_n 0, 1) := dk_42 (dk_at dksX0_disk_0 2 rfl rfl)
theorem dX0_disk_3 : decode cX0_disk 3 = .ok (.iload_n 1, 1) := dk_27 (dk_at dksX0_disk_0 3 rfl rfl)
theorem dX0_disk_4 : decode cX0_disk 4 = .ok (.iload_n 2, 1) := dk_28 (dk_at dksX0_disk_0 4 rfl rfl)
theorem dX0_disk_5 : decode cX0_disk 5 = .ok (.invokevirtual 89, 3) := dk_182 0 89 (dk_at dksX0_disk_0 5 rfl rfl)
theorem dX0_disk_8 : decode cX0_disk 8 = .ok (.i2l, 1) := dk_133 (dk_at dksX0_disk_0 8 rfl rfl)
theorem dX0_disk_9 : decode cX0_disk 9 = .ok (.lastore, 1) := dk_80 (dk_at dksX0_disk_0 9 rfl rfl)
theorem dX0_disk_10 : decode cX0_disk 10 = .ok (.goto 7, 3) := dk_167 0 7 (dk_at dksX0_disk_0 10 rfl rfl)
theorem dX0_disk_13 : decode cX0_disk 13 = .ok (.astore 4, 2) := dk_58 4 (dk_at dksX0_disk_0 13 rfl rfl)
theorem dX0_disk_15 : decode cX0_disk 15 = .ok (.iconst 1, 1) := dk_4 (dk_at dksX0_disk_0 15 rfl rfl)
theorem dX0_disk_16 : decode cX0_disk 16 = .ok (.ireturn, 1) := dk_172 (dk_at dksX0_disk_0 16 rfl rfl)
theorem dX0_disk_17 : decode cX0_disk 17 = .ok (.iconst 0, 1) := dk_3 (dk_at dksX0_disk_0 17 rfl rfl)
theorem dX0_disk_18 : decode cX0_disk 18 = .ok (.ireturn, 1) := dk_172 (dk_at dksX0_disk_0 18 rfl rfl)
abbrev cX0_size : ByteArray := method_27_code
def yX0_size : MethodName := ⟨RX0, "size", "(LKernelGym;I[J)I"⟩
def dkwX0_size_0 : List UInt8 := [44, 3, 42, 27, 182, 0, 92, 133, 80, 167, 0, 9, 78, 4, 172, 78, 5, 172, 3, 172]
abbrev dktX0_size_0 : List UInt8 := dkwX0_size_0 ++ []
theorem dksX0_size_0 : cX0_size.data.toList.drop 0 = dktX0_size_0 := by decide +kernel
theorem dX0_size_0 : decode cX0_size 0 = .ok (.aload_n 2, 1) := dk_44 (dk_at dksX0_size_0 0 rfl rfl)
theorem dX0_size_1 : decode cX0_size 1 = .ok (.iconst 0, 1) := dk_3 (dk_at dksX0_size_0 1 rfl rfl)
theorem dX0_size_2 : decode cX0_size 2 = .ok (.aload_n 0, 1) := dk_42 (dk_at dksX0_size_0 2 rfl rfl)
theorem dX0_size_3 : decode cX0_size 3 = .ok (.iload_n 1, 1) := dk_27 (dk_at dksX0_size_0 3 rfl rfl)
theorem dX0_size_4 : decode cX0_size 4 = .ok (.invokevirtual 92, 3) := dk_182 0 92 (dk_at dksX0_size_0 4 rfl rfl)
theorem dX0_size_7 : decode cX0_size 7 = .ok (.i2l, 1) := dk_133 (dk_at dksX0_size_0 7 rfl rfl)
theorem dX0_size_8 : decode cX0_size 8 = .ok (.lastore, 1) := dk_80 (dk_at dksX0_size_0 8 rfl rfl)
theorem dX0_size_9 : decode cX0_size 9 = .ok (.goto 9, 3) := dk_167 0 9 (dk_at dksX0_size_0 9 rfl rfl)
theorem dX0_size_12 : decode cX0_size 12 = .ok (.astore_n 3, 1) := dk_78 (dk_at dksX0_size_0 12 rfl rfl)
theorem dX0_size_13 : decode cX0_size 13 = .ok (.iconst 1, 1) := dk_4 (dk_at dksX0_size_0 13 rfl rfl)
theorem dX0_size_14 : decode cX0_size 14 = .ok (.ireturn, 1) := dk_172 (dk_at dksX0_size_0 14 rfl rfl)
theorem dX0_size_15 : decode cX0_size 15 = .ok (.astore_n 3, 1) := dk_78 (dk_at dksX0_size_0 15 rfl rfl)
theorem dX0_size_16 : decode cX0_size 16 = .ok (.iconst 2, 1) := dk_5 (dk_at dksX0_size_0 16 rfl rfl)
theorem dX0_size_17 : decode cX0_size 17 = .ok (.ireturn, 1) := dk_172 (dk_at dksX0_size_0 17 rfl rfl)
theorem dX0_size_18 : decode cX0_size 18 = .ok (.iconst 0, 1) := dk_3 (dk_at dksX0_size_0 18 rfl rfl)
theorem dX0_size_19 : decode cX0_size 19 = .ok (.ireturn, 1) := dk_172 (dk_at dksX0_size_0 19 rfl rfl)
abbrev cX0_wordOf : ByteArray := method_28_code
def yX0_wordOf : MethodName := ⟨RX0, "wordOf", "(LKernelGym;II[J)I"⟩
def dkwX0_wordOf_1 : List UInt8 := [172, 3, 172]
abbrev dktX0_wordOf_1 : List UInt8 := dkwX0_wordOf_1 ++ []
def dkwX0_wordOf_0 : List UInt8 := [45, 3, 42, 27, 28, 182, 0, 97, 133, 80, 167, 0, 15, 58, 4, 4, 172, 58, 4, 5, 172, 58, 4, 6]
abbrev dktX0_wordOf_0 : List UInt8 := dkwX0_wordOf_0 ++ dktX0_wordOf_1
theorem dksX0_wordOf_0 : cX0_wordOf.data.toList.drop 0 = dktX0_wordOf_0 := by decide +kernel
theorem dksX0_wordOf_1 : cX0_wordOf.data.toList.drop 24 = dktX0_wordOf_1 := dk_seg dksX0_wordOf_0 24 rfl rfl
theorem dX0_wordOf_0 : decode cX0_wordOf 0 = .ok (.aload_n 3, 1) := dk_45 (dk_at dksX0_wordOf_0 0 rfl rfl)
theorem dX0_wordOf_1 : decode cX0_wordOf 1 = .ok (.iconst 0, 1) := dk_3 (dk_at dksX0_wordOf_0 1 rfl rfl)
theorem dX0_wordOf_2 : decode cX0_wordOf 2 = .ok (.aload_n 0, 1) := dk_42 (dk_at dksX0_wordOf_0 2 rfl rfl)
theorem dX0_wordOf_3 : decode cX0_wordOf 3 = .ok (.iload_n 1, 1) := dk_27 (dk_at dksX0_wordOf_0 3 rfl rfl)
theorem dX0_wordOf_4 : decode cX0_wordOf 4 = .ok (.iload_n 2, 1) := dk_28 (dk_at dksX0_wordOf_0 4 rfl rfl)
theorem dX0_wordOf_5 : decode cX0_wordOf 5 = .ok (.invokevirtual 97, 3) := dk_182 0 97 (dk_at dksX0_wordOf_0 5 rfl rfl)
theorem dX0_wordOf_8 : decode cX0_wordOf 8 = .ok (.i2l, 1) := dk_133 (dk_at dksX0_wordOf_0 8 rfl rfl)
theorem dX0_wordOf_9 : decode cX0_wordOf 9 = .ok (.lastore, 1) := dk_80 (dk_at dksX0_wordOf_0 9 rfl rfl)
theorem dX0_wordOf_10 : decode cX0_wordOf 10 = .ok (.goto 15, 3) := dk_167 0 15 (dk_at dksX0_wordOf_0 10 rfl rfl)
theorem dX0_wordOf_13 : decode cX0_wordOf 13 = .ok (.astore 4, 2) := dk_58 4 (dk_at dksX0_wordOf_0 13 rfl rfl)
theorem dX0_wordOf_15 : decode cX0_wordOf 15 = .ok (.iconst 1, 1) := dk_4 (dk_at dksX0_wordOf_0 15 rfl rfl)
theorem dX0_wordOf_16 : decode cX0_wordOf 16 = .ok (.ireturn, 1) := dk_172 (dk_at dksX0_wordOf_0 16 rfl rfl)
theorem dX0_wordOf_17 : decode cX0_wordOf 17 = .ok (.astore 4, 2) := dk_58 4 (dk_at dksX0_wordOf_0 17 rfl rfl)
theorem dX0_wordOf_19 : decode cX0_wordOf 19 = .ok (.iconst 2, 1) := dk_5 (dk_at dksX0_wordOf_0 19 rfl rfl)
theorem dX0_wordOf_20 : decode cX0_wordOf 20 = .ok (.ireturn, 1) := dk_172 (dk_at dksX0_wordOf_0 20 rfl rfl)
theorem dX0_wordOf_21 : decode cX0_wordOf 21 = .ok (.astore 4, 2) := dk_58 4 (dk_at dksX0_wordOf_0 21 rfl rfl)
theorem dX0_wordOf_23 : decode cX0_wordOf 23 = .ok (.iconst 3, 1) := dk_6 (dk_at dksX0_wordOf_0 23 rfl rfl)
theorem dX0_wordOf_24 : decode cX0_wordOf 24 = .ok (.ireturn, 1) := dk_172 (dk_at dksX0_wordOf_1 0 rfl rfl)
theorem dX0_wordOf_25 : decode cX0_wordOf 25 = .ok (.iconst 0, 1) := dk_3 (dk_at dksX0_wordOf_1 1 rfl rfl)
theorem dX0_wordOf_26 : decode cX0_wordOf 26 = .ok (.ireturn, 1) := dk_172 (dk_at dksX0_wordOf_1 2 rfl rfl)
abbrev cX0_testKey : ByteArray := method_29_code
def yX0_testKey : MethodName := ⟨RX0, "testKey", "(LKernelGym;I[J)I"⟩
def dkwX0_testKey_0 : List UInt8 := [44, 3, 42, 27, 182, 0, 100, 133, 80, 167, 0, 9, 78, 4, 172, 78, 5, 172, 3, 172]
abbrev dktX0_testKey_0 : List UInt8 := dkwX0_testKey_0 ++ []
theorem dksX0_testKey_0 : cX0_testKey.data.toList.drop 0 = dktX0_testKey_0 := by decide +kernel
theorem dX0_testKey_0 : decode cX0_testKey 0 = .ok (.aload_n 2, 1) := dk_44 (dk_at dksX0_testKey_0 0 rfl rfl)
theorem dX0_testKey_1 : decode cX0_testKey 1 = .ok (.iconst 0, 1) := dk_3 (dk_at dksX0_testKey_0 1 rfl rfl)
theorem dX0_testKey_2 : decode cX0_testKey 2 = .ok (.aload_n 0, 1) := dk_42 (dk_at dksX0_testKey_0 2 rfl rfl)
theorem dX0_testKey_3 : decode cX0_testKey 3 = .ok (.iload_n 1, 1) := dk_27 (dk_at dksX0_testKey_0 3 rfl rfl)
theorem dX0_testKey_4 : decode cX0_testKey 4 = .ok (.invokevirtual 100, 3) := dk_182 0 100 (dk_at dksX0_testKey_0 4 rfl rfl)
theorem dX0_testKey_7 : decode cX0_testKey 7 = .ok (.i2l, 1) := dk_133 (dk_at dksX0_testKey_0 7 rfl rfl)
theorem dX0_testKey_8 : decode cX0_testKey 8 = .ok (.lastore, 1) := dk_80 (dk_at dksX0_testKey_0 8 rfl rfl)
theorem dX0_testKey_9 : decode cX0_testKey 9 = .ok (.goto 9, 3) := dk_167 0 9 (dk_at dksX0_testKey_0 9 rfl rfl)
theorem dX0_testKey_12 : decode cX0_testKey 12 = .ok (.astore_n 3, 1) := dk_78 (dk_at dksX0_testKey_0 12 rfl rfl)
theorem dX0_testKey_13 : decode cX0_testKey 13 = .ok (.iconst 1, 1) := dk_4 (dk_at dksX0_testKey_0 13 rfl rfl)
theorem dX0_testKey_14 : decode cX0_testKey 14 = .ok (.ireturn, 1) := dk_172 (dk_at dksX0_testKey_0 14 rfl rfl)
theorem dX0_testKey_15 : decode cX0_testKey 15 = .ok (.astore_n 3, 1) := dk_78 (dk_at dksX0_testKey_0 15 rfl rfl)
theorem dX0_testKey_16 : decode cX0_testKey 16 = .ok (.iconst 2, 1) := dk_5 (dk_at dksX0_testKey_0 16 rfl rfl)
theorem dX0_testKey_17 : decode cX0_testKey 17 = .ok (.ireturn, 1) := dk_172 (dk_at dksX0_testKey_0 17 rfl rfl)
theorem dX0_testKey_18 : decode cX0_testKey 18 = .ok (.iconst 0, 1) := dk_3 (dk_at dksX0_testKey_0 18 rfl rfl)
theorem dX0_testKey_19 : decode cX0_testKey 19 = .ok (.ireturn, 1) := dk_172 (dk_at dksX0_testKey_0 19 rfl rfl)
abbrev cX0_testWord : ByteArray := method_30_code
def yX0_testWord : MethodName := ⟨RX0, "testWord", "(LKernelGym;I[J)I"⟩
def dkwX0_testWord_0 : List UInt8 := [44, 3, 42, 27, 182, 0, 103, 133, 80, 167, 0, 9, 78, 4, 172, 78, 5, 172, 3, 172]
abbrev dktX0_testWord_0 : List UInt8 := dkwX0_testWord_0 ++ []
theorem dksX0_testWord_0 : cX0_testWord.data.toList.drop 0 = dktX0_testWord_0 := by decide +kernel
theorem dX0_testWord_0 : decode cX0_testWord 0 = .ok (.aload_n 2, 1) := dk_44 (dk_at dksX0_testWord_0 0 rfl rfl)
theorem dX0_testWord_1 : decode cX0_testWord 1 = .ok (.iconst 0, 1) := dk_3 (dk_at dksX0_testWord_0 1 rfl rfl)
theorem dX0_testWord_2 : decode cX0_testWord 2 = .ok (.aload_n 0, 1) := dk_42 (dk_at dksX0_testWord_0 2 rfl rfl)
theorem dX0_testWord_3 : decode cX0_testWord 3 = .ok (.iload_n 1, 1) := dk_27 (dk_at dksX0_testWord_0 3 rfl rfl)
theorem dX0_testWord_4 : decode cX0_testWord 4 = .ok (.invokevirtual 103, 3) := dk_182 0 103 (dk_at dksX0_testWord_0 4 rfl rfl)
theorem dX0_testWord_7 : decode cX0_testWord 7 = .ok (.i2l, 1) := dk_133 (dk_at dksX0_testWord_0 7 rfl rfl)
theorem dX0_testWord_8 : decode cX0_testWord 8 = .ok (.lastore, 1) := dk_80 (dk_at dksX0_testWord_0 8 rfl rfl)
theorem dX0_testWord_9 : decode cX0_testWord 9 = .ok (.goto 9, 3) := dk_167 0 9 (dk_at dksX0_testWord_0 9 rfl rfl)
theorem dX0_testWord_12 : decode cX0_testWord 12 = .ok (.astore_n 3, 1) := dk_78 (dk_at dksX0_testWord_0 12 rfl rfl)
theorem dX0_testWord_13 : decode cX0_testWord 13 = .ok (.iconst 1, 1) := dk_4 (dk_at dksX0_testWord_0 13 rfl rfl)
theorem dX0_testWord_14 : decode cX0_testWord 14 = .ok (.ireturn, 1) := dk_172 (dk_at dksX0_testWord_0 14 rfl rfl)
theorem dX0_testWord_15 : decode cX0_testWord 15 = .ok (.astore_n 3, 1) := dk_78 (dk_at dksX0_testWord_0 15 rfl rfl)
theorem dX0_testWord_16 : decode cX0_testWord 16 = .ok (.iconst 2, 1) := dk_5 (dk_at dksX0_testWord_0 16 rfl rfl)
theorem dX0_testWord_17 : decode cX0_testWord 17 = .ok (.ireturn, 1) := dk_172 (dk_at dksX0_testWord_0 17 rfl rfl)
theorem dX0_testWord_18 : decode cX0_testWord 18 = .ok (.iconst 0, 1) := dk_3 (dk_at dksX0_testWord_0 18 rfl rfl)
theorem dX0_testWord_19 : decode cX0_testWord 19 = .ok (.ireturn, 1) := dk_172 (dk_at dksX0_testWord_0 19 rfl rfl)
abbrev cX0_addTest : ByteArray := method_31_code
def yX0_addTest : MethodName := ⟨RX0, "addTest", "(LKernelGym;IIII[J)I"⟩
def dkwX0_addTest_1 : List UInt8 := [172, 3, 172]
abbrev dktX0_addTest_1 : List UInt8 := dkwX0_addTest_1 ++ []
def dkwX0_addTest_0 : List UInt8 := [25, 5, 3, 42, 27, 28, 29, 21, 4, 182, 0, 106, 133, 80, 167, 0, 11, 58, 6, 4, 172, 58, 6, 5]
abbrev dktX0_addTest_0 : List UInt8 := dkwX0_addTest_0 ++ dktX0_addTest_1
theorem dksX0_addTest_0 : cX0_addTest.data.toList.drop 0 = dktX0_addTest_0 := by decide +kernel
theorem dksX0_addTest_1 : cX0_addTest.data.toList.drop 24 = dktX0_addTest_1 := dk_seg dksX0_addTest_0 24 rfl rfl
theorem dX0_addTest_0 : decode cX0_addTest 0 = .ok (.aload 5, 2) := dk_25 5 (dk_at dksX0_addTest_0 0 rfl rfl)
theorem dX0_addTest_2 : decode cX0_addTest 2 = .ok (.iconst 0, 1) := dk_3 (dk_at dksX0_addTest_0 2 rfl rfl)
theorem dX0_addTest_3 : decode cX0_addTest 3 = .ok (.aload_n 0, 1) := dk_42 (dk_at dksX0_addTest_0 3 rfl rfl)
theorem dX0_addTest_4 : decode cX0_addTest 4 = .ok (.iload_n 1, 1) := dk_27 (dk_at dksX0_addTest_0 4 rfl rfl)
theorem dX0_addTest_5 : decode cX0_addTest 5 = .ok (.iload_n 2, 1) := dk_28 (dk_at dksX0_addTest_0 5 rfl rfl)
theorem dX0_addTest_6 : decode cX0_addTest 6 = .ok (.iload_n 3, 1) := dk_29 (dk_at dksX0_addTest_0 6 rfl rfl)
theorem dX0_addTest_7 : decode cX0_addTest 7 = .ok (.iload 4, 2) := dk_21 4 (dk_at dksX0_addTest_0 7 rfl rfl)
theorem dX0_addTest_9 : decode cX0_addTest 9 = .ok (.invokevirtual 106, 3) := dk_182 0 106 (dk_at dksX0_addTest_0 9 rfl rfl)
theorem dX0_addTest_12 : decode cX0_addTest 12 = .ok (.i2l, 1) := dk_133 (dk_at dksX0_addTest_0 12 rfl rfl)
theorem dX0_addTest_13 : decode cX0_addTest 13 = .ok (.lastore, 1) := dk_80 (dk_at dksX0_addTest_0 13 rfl rfl)
theorem dX0_addTest_14 : decode cX0_addTest 14 = .ok (.goto 11, 3) := dk_167 0 11 (dk_at dksX0_addTest_0 14 rfl rfl)
theorem dX0_addTest_17 : decode cX0_addTest 17 = .ok (.astore 6, 2) := dk_58 6 (dk_at dksX0_addTest_0 17 rfl rfl)
theorem dX0_addTest_19 : decode cX0_addTest 19 = .ok (.iconst 1, 1) := dk_4 (dk_at dksX0_addTest_0 19 rfl rfl)
theorem dX0_addTest_20 : decode cX0_addTest 20 = .ok (.ireturn, 1) := dk_172 (dk_at dksX0_addTest_0 20 rfl rfl)
theorem dX0_addTest_21 : decode cX0_addTest 21 = .ok (.astore 6, 2) := dk_58 6 (dk_at dksX0_addTest_0 21 rfl rfl)
theorem dX0_addTest_23 : decode cX0_addTest 23 = .ok (.iconst 2, 1) := dk_5 (dk_at dksX0_addTest_0 23 rfl rfl)
theorem dX0_addTest_24 : decode cX0_addTest 24 = .ok (.ireturn, 1) := dk_172 (dk_at dksX0_addTest_1 0 rfl rfl)
theorem dX0_addTest_25 : decode cX0_addTest 25 = .ok (.iconst 0, 1) := dk_3 (dk_at dksX0_addTest_1 1 rfl rfl)
theorem dX0_addTest_26 : decode cX0_addTest 26 = .ok (.ireturn, 1) := dk_172 (dk_at dksX0_addTest_1 2 rfl rfl)
abbrev cX0_submit : ByteArray := method_32_code
def yX0_submit : MethodName := ⟨RX0, "submit", "(LKernelGym;[J)I"⟩
def dkwX0_submit_0 : List UInt8 := [43, 3, 42, 182, 0, 110, 133, 80, 167, 0, 6, 77, 4, 172, 3, 172]
abbrev dktX0_submit_0 : List UInt8 := dkwX0_submit_0 ++ []
theorem dksX0_submit_0 : cX0_submit.data.toList.drop 0 = dktX0_submit_0 := by decide +kernel
theorem dX0_submit_0 : decode cX0_submit 0 = .ok (.aload_n 1, 1) := dk_43 (dk_at dksX0_submit_0 0 rfl rfl)
theorem dX0_submit_1 : decode cX0_submit 1 = .ok (.iconst 0, 1) := dk_3 (dk_at dksX0_submit_0 1 rfl rfl)
theorem dX0_submit_2 : decode cX0_submit 2 = .ok (.aload_n 0, 1) := dk_42 (dk_at dksX0_submit_0 2 rfl rfl)
theorem dX0_submit_3 : decode cX0_submit 3 = .ok (.invokevirtual 110, 3) := dk_182 0 110 (dk_at dksX0_submit_0 3 rfl rfl)
theorem dX0_submit_6 : decode cX0_submit 6 = .ok (.i2l, 1) := dk_133 (dk_at dksX0_submit_0 6 rfl rfl)
theorem dX0_submit_7 : decode cX0_submit 7 = .ok (.lastore, 1) := dk_80 (dk_at dksX0_submit_0 7 rfl rfl)
theorem dX0_submit_8 : decode cX0_submit 8 = .ok (.goto 6, 3) := dk_167 0 6 (dk_at dksX0_submit_0 8 rfl rfl)
theorem dX0_submit_11 : decode cX0_submit 11 = .ok (.astore_n 2, 1) := dk_77 (dk_at dksX0_submit_0 11 rfl rfl)
theorem dX0_submit_12 : decode cX0_submit 12 = .ok (.iconst 1, 1) := dk_4 (dk_at dksX0_submit_0 12 rfl rfl)
theorem dX0_submit_13 : decode cX0_submit 13 = .ok (.ireturn, 1) := dk_172 (dk_at dksX0_submit_0 13 rfl rfl)
theorem dX0_submit_14 : decode cX0_submit 14 = .ok (.iconst 0, 1) := dk_3 (dk_at dksX0_submit_0 14 rfl rfl)
theorem dX0_submit_15 : decode cX0_submit 15 = .ok (.ireturn, 1) := dk_172 (dk_at dksX0_submit_0 15 rfl rfl)
abbrev cX0_result : ByteArray := method_33_code
def yX0_result : MethodName := ⟨RX0, "result", "(LKernelGym;I[J)I"⟩
def dkwX0_result_0 : List UInt8 := [44, 3, 42, 27, 182, 0, 113, 133, 80, 167, 0, 6, 78, 4, 172, 3, 172]
abbrev dktX0_result_0 : List UInt8 := dkwX0_result_0 ++ []
theorem dksX0_result_0 : cX0_result.data.toList.drop 0 = dktX0_result_0 := by decide +kernel
theorem dX0_result_0 : decode cX0_result 0 = .ok (.aload_n 2, 1) := dk_44 (dk_at dksX0_result_0 0 rfl rfl)
theorem dX0_result_1 : decode cX0_result 1 = .ok (.iconst 0, 1) := dk_3 (dk_at dksX0_result_0 1 rfl rfl)
theorem dX0_result_2 : decode cX0_result 2 = .ok (.aload_n 0, 1) := dk_42 (dk_at dksX0_result_0 2 rfl rfl)
theorem dX0_result_3 : decode cX0_result 3 = .ok (.iload_n 1, 1) := dk_27 (dk_at dksX0_result_0 3 rfl rfl)
theorem dX0_result_4 : decode cX0_result 4 = .ok (.invokevirtual 113, 3) := dk_182 0 113 (dk_at dksX0_result_0 4 rfl rfl)
theorem dX0_result_7 : decode cX0_result 7 = .ok (.i2l, 1) := dk_133 (dk_at dksX0_result_0 7 rfl rfl)
theorem dX0_result_8 : decode cX0_result 8 = .ok (.lastore, 1) := dk_80 (dk_at dksX0_result_0 8 rfl rfl)
theorem dX0_result_9 : decode cX0_result 9 = .ok (.goto 6, 3) := dk_167 0 6 (dk_at dksX0_result_0 9 rfl rfl)
theorem dX0_result_12 : decode cX0_result 12 = .ok (.astore_n 3, 1) := dk_78 (dk_at dksX0_result_0 12 rfl rfl)
theorem dX0_result_13 : decode cX0_result 13 = .ok (.iconst 1, 1) := dk_4 (dk_at dksX0_result_0 13 rfl rfl)
theorem dX0_result_14 : decode cX0_result 14 = .ok (.ireturn, 1) := dk_172 (dk_at dksX0_result_0 14 rfl rfl)
theorem dX0_result_15 : decode cX0_result 15 = .ok (.iconst 0, 1) := dk_3 (dk_at dksX0_result_0 15 rfl rfl)
theorem dX0_result_16 : decode cX0_result 16 = .ok (.ireturn, 1) := dk_172 (dk_at dksX0_result_0 16 rfl rfl)
theorem q117 : (Jvm.Cond.initialized "KernelGymLaw") ∈ lw_all := lw_g (lw_at lw_m1 0 rfl) rfl
theorem q183 : (Jvm.Cond.classLink "KernelGymLaw" (8 : Nat) "KernelGym") ∈ lw_all := lw_g (lw_at lw_m1 66 rfl) rfl
theorem q185 : (Jvm.Cond.methodLink "KernelGymLaw" (116 : Nat) ({ cls := "KernelGym", name := "<init>", desc := "()V" } : Jvm.MethodName)) ∈ lw_all := lw_g (lw_at lw_m1 68 rfl) rfl
theorem q341 : (Jvm.Cond.methodLink "KernelGymLaw" (120 : Nat) ({ cls := "KernelGym", name := "clear", desc := "()I" } : Jvm.MethodName)) ∈ lw_all := lw_g (lw_at lw_m1 224 rfl) rfl
theorem q375 : (Jvm.Cond.methodLink "KernelGymLaw" (124 : Nat) ({ cls := "KernelGym", name := "lines", desc := "()I" } : Jvm.MethodName)) ∈ lw_all := lw_g (lw_at lw_m2 18 rfl) rfl
theorem q379 : (Jvm.Cond.methodLink "KernelGymLaw" (165 : Nat) ({ cls := "KernelGym", name := "error", desc := "()I" } : Jvm.MethodName)) ∈ lw_all := lw_g (lw_at lw_m2 22 rfl) rfl
theorem q1192 : (Jvm.Cond.methodLink "KernelGymLaw" (196 : Nat) ({ cls := "KernelGym", name := "state", desc := "()I" } : Jvm.MethodName)) ∈ lw_all := lw_g (lw_at lw_m5 115 rfl) rfl
theorem q1196 : (Jvm.Cond.methodLink "KernelGymLaw" (200 : Nat) ({ cls := "KernelGym", name := "fault", desc := "()I" } : Jvm.MethodName)) ∈ lw_all := lw_g (lw_at lw_m5 119 rfl) rfl
theorem q1200 : (Jvm.Cond.methodLink "KernelGymLaw" (204 : Nat) ({ cls := "KernelGym", name := "steps", desc := "()I" } : Jvm.MethodName)) ∈ lw_all := lw_g (lw_at lw_m5 123 rfl) rfl
theorem q1204 : (Jvm.Cond.methodLink "KernelGymLaw" (208 : Nat) ({ cls := "KernelGym", name := "kept", desc := "()I" } : Jvm.MethodName)) ∈ lw_all := lw_g (lw_at lw_m5 127 rfl) rfl
theorem q1215 : (Jvm.Cond.methodLink "KernelGymLaw" (212 : Nat) ({ cls := "KernelGym", name := "counter", desc := "()I" } : Jvm.MethodName)) ∈ lw_all := lw_g (lw_at lw_m5 138 rfl) rfl
theorem q1219 : (Jvm.Cond.methodLink "KernelGymLaw" (216 : Nat) ({ cls := "KernelGym", name := "stack", desc := "()I" } : Jvm.MethodName)) ∈ lw_all := lw_g (lw_at lw_m5 142 rfl) rfl
theorem q1223 : (Jvm.Cond.methodLink "KernelGymLaw" (220 : Nat) ({ cls := "KernelGym", name := "flags", desc := "()I" } : Jvm.MethodName)) ∈ lw_all := lw_g (lw_at lw_m5 146 rfl) rfl
theorem q1231 : (Jvm.Cond.methodLink "KernelGymLaw" (224 : Nat) ({ cls := "KernelGym", name := "writesLeft", desc := "()I" } : Jvm.MethodName)) ∈ lw_all := lw_g (lw_at lw_m5 154 rfl) rfl
theorem q1239 : (Jvm.Cond.methodLink "KernelGymLaw" (237 : Nat) ({ cls := "KernelGym", name := "tape", desc := "()I" } : Jvm.MethodName)) ∈ lw_all := lw_g (lw_at lw_m5 162 rfl) rfl
theorem q1243 : (Jvm.Cond.methodLink "KernelGymLaw" (244 : Nat) ({ cls := "KernelGym", name := "sum", desc := "()I" } : Jvm.MethodName)) ∈ lw_all := lw_g (lw_at lw_m5 166 rfl) rfl
theorem q1261 : (Jvm.Cond.methodLink "KernelGymLaw" (251 : Nat) ({ cls := "KernelGym", name := "written", desc := "()I" } : Jvm.MethodName)) ∈ lw_all := lw_g (lw_at lw_m5 184 rfl) rfl
theorem q1265 : (Jvm.Cond.methodLink "KernelGymLaw" (258 : Nat) ({ cls := "KernelGym", name := "files", desc := "()I" } : Jvm.MethodName)) ∈ lw_all := lw_g (lw_at lw_m5 188 rfl) rfl
theorem q1273 : (Jvm.Cond.methodLink "KernelGymLaw" (268 : Nat) ({ cls := "KernelGym", name := "freeBlocks", desc := "()I" } : Jvm.MethodName)) ∈ lw_all := lw_g (lw_at lw_m5 196 rfl) rfl
theorem q1281 : (Jvm.Cond.methodLink "KernelGymLaw" (272 : Nat) ({ cls := "KernelGym", name := "isWhole", desc := "()Z" } : Jvm.MethodName)) ∈ lw_all := lw_g (lw_at lw_m5 204 rfl) rfl
theorem q1370 : (Jvm.Cond.methodLink "KernelGymLaw" (287 : Nat) ({ cls := "KernelGym", name := "tests", desc := "()I" } : Jvm.MethodName)) ∈ lw_all := lw_g (lw_at lw_m6 53 rfl) rfl
theorem q1374 : (Jvm.Cond.methodLink "KernelGymLaw" (297 : Nat) ({ cls := "KernelGym", name := "mark", desc := "()I" } : Jvm.MethodName)) ∈ lw_all := lw_g (lw_at lw_m6 57 rfl) rfl
theorem q1679 : (Jvm.Cond.methodLink "KernelGymLaw" (128 : Nat) ({ cls := "KernelGymLaw", name := "section", desc := "(LKernelGym;I[J)I" } : Jvm.MethodName)) ∈ lw_all := lw_g (lw_at lw_m7 122 rfl) rfl
theorem q1680 : (Jvm.Cond.static ({ cls := "KernelGymLaw", name := "section", desc := "(LKernelGym;I[J)I" } : Jvm.MethodName)) ∈ lw_all := lw_g (lw_at lw_m7 123 rfl) rfl
theorem q1681 : (Jvm.Cond.codeWith ({ cls := "KernelGymLaw", name := "section", desc := "(LKernelGym;I[J)I" } : Jvm.MethodName) method_3_code (4 : Nat) (Option.some Jvm.ClassFile.FieldType.int) [((0 : Nat), (9 : Nat), (12 : Nat), (13 : Nat)), ((0 : Nat), (9 : Nat), (15 : Nat), (15 : Nat))]) ∈ lw_all := lw_g (lw_at lw_m7 124 rfl) rfl
theorem q1682 : (Jvm.Cond.classLink "KernelGymLaw" (13 : Nat) "java/lang/IllegalArgumentException") ∈ lw_all := lw_g (lw_at lw_m7 125 rfl) rfl
theorem q1683 : (Jvm.Cond.classLink "KernelGymLaw" (15 : Nat) "java/lang/IllegalStateException") ∈ lw_all := lw_g (lw_at lw_m7 126 rfl) rfl
theorem q1684 : (Jvm.Cond.methodLink "KernelGymLaw" (7 : Nat) ({ cls := "KernelGym", name := "section", desc := "(I)I" } : Jvm.MethodName)) ∈ lw_all := lw_g (lw_at lw_m7 127 rfl) rfl
theorem q1735 : (Jvm.Cond.methodLink "KernelGymLaw" (137 : Nat) ({ cls := "KernelGymLaw", name := "label", desc := "(LKernelGym;I[J)I" } : Jvm.MethodName)) ∈ lw_all := lw_g (lw_at lw_m7 178 rfl) rfl
theorem q1736 : (Jvm.Cond.static ({ cls := "KernelGymLaw", name := "label", desc := "(LKernelGym;I[J)I" } : Jvm.MethodName)) ∈ lw_all := lw_g (lw_at lw_m7 179 rfl) rfl
theorem q1737 : (Jvm.Cond.codeWith ({ cls := "KernelGymLaw", name := "label", desc := "(LKernelGym;I[J)I" } : Jvm.MethodName) method_4_code (4 : Nat) (Option.some Jvm.ClassFile.FieldType.int) [((0 : Nat), (9 : Nat), (12 : Nat), (13 : Nat)), ((0 : Nat), (9 : Nat), (15 : Nat), (15 : Nat))]) ∈ lw_all := lw_g (lw_at lw_m7 180 rfl) rfl
theorem q1738 : (Jvm.Cond.methodLink "KernelGymLaw" (17 : Nat) ({ cls := "KernelGym", name := "label", desc := "(I)I" } : Jvm.MethodName)) ∈ lw_all := lw_g (lw_at lw_m7 181 rfl) rfl
theorem q1755 : (Jvm.Cond.methodLink "KernelGymLaw" (140 : Nat) ({ cls := "KernelGymLaw", name := "code", desc := "(LKernelGym;IIIII[J)I" } : Jvm.MethodName)) ∈ lw_all := lw_g (lw_at lw_m7 198 rfl) rfl
theorem q1756 : (Jvm.Cond.static ({ cls := "KernelGymLaw", name := "code", desc := "(LKernelGym;IIIII[J)I" } : Jvm.MethodName)) ∈ lw_all := lw_g (lw_at lw_m7 199 rfl) rfl
theorem q1757 : (Jvm.Cond.codeWith ({ cls := "KernelGymLaw", name := "code", desc := "(LKernelGym;IIIII[J)I" } : Jvm.MethodName) method_5_code (8 : Nat) (Option.some Jvm.ClassFile.FieldType.int) [((0 : Nat), (16 : Nat), (19 : Nat), (13 : Nat)), ((0 : Nat), (16 : Nat), (23 : Nat), (15 : Nat))]) ∈ lw_all := lw_g (lw_at lw_m7 200 rfl) rfl
theorem q1758 : (Jvm.Cond.methodLink "KernelGymLaw" (20 : Nat) ({ cls := "KernelGym", name := "code", desc := "(IIIII)I" } : Jvm.MethodName)) ∈ lw_all := lw_g (lw_at lw_m7 201 rfl) rfl
theorem q1803 : (Jvm.Cond.methodLink "KernelGymLaw" (144 : Nat) ({ cls := "KernelGymLaw", name := "word", desc := "(LKernelGym;II[J)I" } : Jvm.MethodName)) ∈ lw_all := lw_g (lw_at lw_m8 6 rfl) rfl
theorem q1804 : (Jvm.Cond.static ({ cls := "KernelGymLaw", name := "word", desc := "(LKernelGym;II[J)I" } : Jvm.MethodName)) ∈ lw_all := lw_g (lw_at lw_m8 7 rfl) rfl
theorem q1805 : (Jvm.Cond.codeWith ({ cls := "KernelGymLaw", name := "word", desc := "(LKernelGym;II[J)I" } : Jvm.MethodName) method_6_code (5 : Nat) (Option.some Jvm.ClassFile.FieldType.int) [((0 : Nat), (10 : Nat), (13 : Nat), (13 : Nat)), ((0 : Nat), (10 : Nat), (17 : Nat), (15 : Nat))]) ∈ lw_all := lw_g (lw_at lw_m8 8 rfl) rfl
theorem q1806 : (Jvm.Cond.methodLink "KernelGymLaw" (24 : Nat) ({ cls := "KernelGym", name := "word", desc := "(II)I" } : Jvm.MethodName)) ∈ lw_all := lw_g (lw_at lw_m8 9 rfl) rfl
theorem q1823 : (Jvm.Cond.methodLink "KernelGymLaw" (148 : Nat) ({ cls := "KernelGymLaw", name := "space", desc := "(LKernelGym;I[J)I" } : Jvm.MethodName)) ∈ lw_all := lw_g (lw_at lw_m8 26 rfl) rfl
theorem q1824 : (Jvm.Cond.static ({ cls := "KernelGymLaw", name := "space", desc := "(LKernelGym;I[J)I" } : Jvm.MethodName)) ∈ lw_all := lw_g (lw_at lw_m8 27 rfl) rfl
theorem q1825 : (Jvm.Cond.codeWith ({ cls := "KernelGymLaw", name := "space", desc := "(LKernelGym;I[J)I" } : Jvm.MethodName) method_7_code (4 : Nat) (Option.some Jvm.ClassFile.FieldType.int) [((0 : Nat), (9 : Nat), (12 : Nat), (13 : Nat)), ((0 : Nat), (9 : Nat), (15 : Nat), (15 : Nat))]) ∈ lw_all := lw_g (lw_at lw_m8 28 rfl) rfl
theorem q1826 : (Jvm.Cond.methodLink "KernelGymLaw" (28 : Nat) ({ cls := "KernelGym", name := "space", desc := "(I)I" } : Jvm.MethodName)) ∈ lw_all := lw_g (lw_at lw_m8 29 rfl) rfl
theorem q1843 : (Jvm.Cond.methodLink "KernelGymLaw" (151 : Nat) ({ cls := "KernelGymLaw", name := "vector", desc := "(LKernelGym;III[J)I" } : Jvm.MethodName)) ∈ lw_all := lw_g (lw_at lw_m8 46 rfl) rfl
theorem q1844 : (Jvm.Cond.static ({ cls := "KernelGymLaw", name := "vector", desc := "(LKernelGym;III[J)I" } : Jvm.MethodName)) ∈ lw_all := lw_g (lw_at lw_m8 47 rfl) rfl
theorem q1845 : (Jvm.Cond.codeWith ({ cls := "KernelGymLaw", name := "vector", desc := "(LKernelGym;III[J)I" } : Jvm.MethodName) method_8_code (6 : Nat) (Option.some Jvm.ClassFile.FieldType.int) [((0 : Nat), (12 : Nat), (15 : Nat), (13 : Nat)), ((0 : Nat), (12 : Nat), (19 : Nat), (15 : Nat))]) ∈ lw_all := lw_g (lw_at lw_m8 48 rfl) rfl
theorem q1846 : (Jvm.Cond.methodLink "KernelGymLaw" (31 : Nat) ({ cls := "KernelGym", name := "vector", desc := "(III)I" } : Jvm.MethodName)) ∈ lw_all := lw_g (lw_at lw_m8 49 rfl) rfl
theorem q1866 : (Jvm.Cond.methodLink "KernelGymLaw" (155 : Nat) ({ cls := "KernelGymLaw", name := "macro", desc := "(LKernelGym;I[J)I" } : Jvm.MethodName)) ∈ lw_all := lw_g (lw_at lw_m8 69 rfl) rfl
theorem q1867 : (Jvm.Cond.static ({ cls := "KernelGymLaw", name := "macro", desc := "(LKernelGym;I[J)I" } : Jvm.MethodName)) ∈ lw_all := lw_g (lw_at lw_m8 70 rfl) rfl
theorem q1868 : (Jvm.Cond.codeWith ({ cls := "KernelGymLaw", name := "macro", desc := "(LKernelGym;I[J)I" } : Jvm.MethodName) method_9_code (4 : Nat) (Option.some Jvm.ClassFile.FieldType.int) [((0 : Nat), (9 : Nat), (12 : Nat), (13 : Nat)), ((0 : Nat), (9 : Nat), (15 : Nat), (15 : Nat))]) ∈ lw_all := lw_g (lw_at lw_m8 71 rfl) rfl
theorem q1869 : (Jvm.Cond.methodLink "KernelGymLaw" (35 : Nat) ({ cls := "KernelGym", name := "macro", desc := "(I)I" } : Jvm.MethodName)) ∈ lw_all := lw_g (lw_at lw_m8 72 rfl) rfl
theorem q1886 : (Jvm.Cond.methodLink "KernelGymLaw" (158 : Nat) ({ cls := "KernelGymLaw", name := "endMacro", desc := "(LKernelGym;[J)I" } : Jvm.MethodName)) ∈ lw_all := lw_g (lw_at lw_m8 89 rfl) rfl
theorem q1887 : (Jvm.Cond.static ({ cls := "KernelGymLaw", name := "endMacro", desc := "(LKernelGym;[J)I" } : Jvm.MethodName)) ∈ lw_all := lw_g (lw_at lw_m8 90 rfl) rfl
theorem q1888 : (Jvm.Cond.codeWith ({ cls := "KernelGymLaw", name := "endMacro", desc := "(LKernelGym;[J)I" } : Jvm.MethodName) method_10_code (3 : Nat) (Option.some Jvm.ClassFile.FieldType.int) [((0 : Nat), (8 : Nat), (11 : Nat), (15 : Nat))]) ∈ lw_all := lw_g (lw_at lw_m8 91 rfl) rfl
theorem q1889 : (Jvm.Cond.methodLink "KernelGymLaw" (38 : Nat) ({ cls := "KernelGym", name := "endMacro", desc := "()I" } : Jvm.MethodName)) ∈ lw_all := lw_g (lw_at lw_m8 92 rfl) rfl
theorem q1903 : (Jvm.Cond.methodLink "KernelGymLaw" (162 : Nat) ({ cls := "KernelGymLaw", name := "use", desc := "(LKernelGym;IIIII[J)I" } : Jvm.MethodName)) ∈ lw_all := lw_g (lw_at lw_m8 106 rfl) rfl
theorem q1904 : (Jvm.Cond.static ({ cls := "KernelGymLaw", name := "use", desc := "(LKernelGym;IIIII[J)I" } : Jvm.MethodName)) ∈ lw_all := lw_g (lw_at lw_m8 107 rfl) rfl
theorem q1905 : (Jvm.Cond.codeWith ({ cls := "KernelGymLaw", name := "use", desc := "(LKernelGym;IIIII[J)I" } : Jvm.MethodName) method_11_code (8 : Nat) (Option.some Jvm.ClassFile.FieldType.int) [((0 : Nat), (16 : Nat), (19 : Nat), (13 : Nat)), ((0 : Nat), (16 : Nat), (23 : Nat), (15 : Nat))]) ∈ lw_all := lw_g (lw_at lw_m8 108 rfl) rfl
theorem q1906 : (Jvm.Cond.methodLink "KernelGymLaw" (42 : Nat) ({ cls := "KernelGym", name := "use", desc := "(IIIII)I" } : Jvm.MethodName)) ∈ lw_all := lw_g (lw_at lw_m8 109 rfl) rfl
theorem q1929 : (Jvm.Cond.methodLink "KernelGymLaw" (169 : Nat) ({ cls := "KernelGymLaw", name := "assemble", desc := "(LKernelGym;[J)I" } : Jvm.MethodName)) ∈ lw_all := lw_g (lw_at lw_m8 132 rfl) rfl
theorem q1930 : (Jvm.Cond.static ({ cls := "KernelGymLaw", name := "assemble", desc := "(LKernelGym;[J)I" } : Jvm.MethodName)) ∈ lw_all := lw_g (lw_at lw_m8 133 rfl) rfl
theorem q1931 : (Jvm.Cond.codeWith ({ cls := "KernelGymLaw", name := "assemble", desc := "(LKernelGym;[J)I" } : Jvm.MethodName) method_12_code (3 : Nat) (Option.some Jvm.ClassFile.FieldType.int) [((0 : Nat), (8 : Nat), (11 : Nat), (15 : Nat))]) ∈ lw_all := lw_g (lw_at lw_m8 134 rfl) rfl
theorem q1932 : (Jvm.Cond.methodLink "KernelGymLaw" (45 : Nat) ({ cls := "KernelGym", name := "assemble", desc := "()I" } : Jvm.MethodName)) ∈ lw_all := lw_g (lw_at lw_m8 135 rfl) rfl
theorem q1949 : (Jvm.Cond.methodLink "KernelGymLaw" (172 : Nat) ({ cls := "KernelGymLaw", name := "image", desc := "(LKernelGym;I[J)I" } : Jvm.MethodName)) ∈ lw_all := lw_g (lw_at lw_m8 152 rfl) rfl
theorem q1950 : (Jvm.Cond.static ({ cls := "KernelGymLaw", name := "image", desc := "(LKernelGym;I[J)I" } : Jvm.MethodName)) ∈ lw_all := lw_g (lw_at lw_m8 153 rfl) rfl
theorem q1951 : (Jvm.Cond.codeWith ({ cls := "KernelGymLaw", name := "image", desc := "(LKernelGym;I[J)I" } : Jvm.MethodName) method_13_code (4 : Nat) (Option.some Jvm.ClassFile.FieldType.int) [((0 : Nat), (9 : Nat), (12 : Nat), (13 : Nat)), ((0 : Nat), (9 : Nat), (15 : Nat), (15 : Nat))]) ∈ lw_all := lw_g (lw_at lw_m8 154 rfl) rfl
theorem q1952 : (Jvm.Cond.methodLink "KernelGymLaw" (48 : Nat) ({ cls := "KernelGym", name := "image", desc := "(I)I" } : Jvm.MethodName)) ∈ lw_all := lw_g (lw_at lw_m8 155 rfl) rfl
theorem q1956 : (Jvm.Cond.methodLink "KernelGymLaw" (175 : Nat) ({ cls := "KernelGymLaw", name := "start", desc := "(LKernelGym;[J)I" } : Jvm.MethodName)) ∈ lw_all := lw_g (lw_at lw_m8 159 rfl) rfl
theorem q1957 : (Jvm.Cond.static ({ cls := "KernelGymLaw", name := "start", desc := "(LKernelGym;[J)I" } : Jvm.MethodName)) ∈ lw_all := lw_g (lw_at lw_m8 160 rfl) rfl
theorem q1958 : (Jvm.Cond.codeWith ({ cls := "KernelGymLaw", name := "start", desc := "(LKernelGym;[J)I" } : Jvm.MethodName) method_14_code (3 : Nat) (Option.some Jvm.ClassFile.FieldType.int) [((0 : Nat), (8 : Nat), (11 : Nat), (15 : Nat))]) ∈ lw_all := lw_g (lw_at lw_m8 161 rfl) rfl
theorem q1959 : (Jvm.Cond.methodLink "KernelGymLaw" (51 : Nat) ({ cls := "KernelGym", name := "start", desc := "()I" } : Jvm.MethodName)) ∈ lw_all := lw_g (lw_at lw_m8 162 rfl) rfl
theorem q1985 : (Jvm.Cond.methodLink "KernelGymLaw" (178 : Nat) ({ cls := "KernelGymLaw", name := "crash", desc := "(LKernelGym;[J)I" } : Jvm.MethodName)) ∈ lw_all := lw_g (lw_at lw_m8 188 rfl) rfl
theorem q1986 : (Jvm.Cond.static ({ cls := "KernelGymLaw", name := "crash", desc := "(LKernelGym;[J)I" } : Jvm.MethodName)) ∈ lw_all := lw_g (lw_at lw_m8 189 rfl) rfl
theorem q1987 : (Jvm.Cond.codeWith ({ cls := "KernelGymLaw", name := "crash", desc := "(LKernelGym;[J)I" } : Jvm.MethodName) method_15_code (3 : Nat) (Option.some Jvm.ClassFile.FieldType.int) [((0 : Nat), (8 : Nat), (11 : Nat), (15 : Nat))]) ∈ lw_all := lw_g (lw_at lw_m8 190 rfl) rfl
theorem q1988 : (Jvm.Cond.methodLink "KernelGymLaw" (54 : Nat) ({ cls := "KernelGym", name := "crash", desc := "()I" } : Jvm.MethodName)) ∈ lw_all := lw_g (lw_at lw_m8 191 rfl) rfl
theorem q2004 : (Jvm.Cond.methodLink "KernelGymLaw" (181 : Nat) ({ cls := "KernelGymLaw", name := "format", desc := "(LKernelGym;[J)I" } : Jvm.MethodName)) ∈ lw_all := lw_g (lw_at lw_m8 207 rfl) rfl
theorem q2005 : (Jvm.Cond.static ({ cls := "KernelGymLaw", name := "format", desc := "(LKernelGym;[J)I" } : Jvm.MethodName)) ∈ lw_all := lw_g (lw_at lw_m8 208 rfl) rfl
theorem q2006 : (Jvm.Cond.codeWith ({ cls := "KernelGymLaw", name := "format", desc := "(LKernelGym;[J)I" } : Jvm.MethodName) method_16_code (3 : Nat) (Option.some Jvm.ClassFile.FieldType.int) [((0 : Nat), (8 : Nat), (11 : Nat), (15 : Nat))]) ∈ lw_all := lw_g (lw_at lw_m8 209 rfl) rfl
theorem q2007 : (Jvm.Cond.methodLink "KernelGymLaw" (57 : Nat) ({ cls := "KernelGym", name := "format", desc := "()I" } : Jvm.MethodName)) ∈ lw_all := lw_g (lw_at lw_m8 210 rfl) rfl
theorem q2013 : (Jvm.Cond.methodLink "KernelGymLaw" (184 : Nat) ({ cls := "KernelGymLaw", name := "step", desc := "(LKernelGym;I[J)I" } : Jvm.MethodName)) ∈ lw_all := lw_g (lw_at lw_m8 216 rfl) rfl
theorem q2014 : (Jvm.Cond.static ({ cls := "KernelGymLaw", name := "step", desc := "(LKernelGym;I[J)I" } : Jvm.MethodName)) ∈ lw_all := lw_g (lw_at lw_m8 217 rfl) rfl
theorem q2015 : (Jvm.Cond.codeWith ({ cls := "KernelGymLaw", name := "step", desc := "(LKernelGym;I[J)I" } : Jvm.MethodName) method_17_code (4 : Nat) (Option.some Jvm.ClassFile.FieldType.int) [((0 : Nat), (9 : Nat), (12 : Nat), (13 : Nat)), ((0 : Nat), (9 : Nat), (15 : Nat), (15 : Nat))]) ∈ lw_all := lw_g (lw_at lw_m8 218 rfl) rfl
theorem q2016 : (Jvm.Cond.methodLink "KernelGymLaw" (60 : Nat) ({ cls := "KernelGym", name := "step", desc := "(I)I" } : Jvm.MethodName)) ∈ lw_all := lw_g (lw_at lw_m8 219 rfl) rfl
theorem q2291 : (Jvm.Cond.methodLink "KernelGymLaw" (187 : Nat) ({ cls := "KernelGymLaw", name := "runTo", desc := "(LKernelGym;II[J)I" } : Jvm.MethodName)) ∈ lw_all := lw_g (lw_at lw_m10 14 rfl) rfl
theorem q2292 : (Jvm.Cond.static ({ cls := "KernelGymLaw", name := "runTo", desc := "(LKernelGym;II[J)I" } : Jvm.MethodName)) ∈ lw_all := lw_g (lw_at lw_m10 15 rfl) rfl
theorem q2293 : (Jvm.Cond.codeWith ({ cls := "KernelGymLaw", name := "runTo", desc := "(LKernelGym;II[J)I" } : Jvm.MethodName) method_18_code (5 : Nat) (Option.some Jvm.ClassFile.FieldType.int) [((0 : Nat), (10 : Nat), (13 : Nat), (13 : Nat)), ((0 : Nat), (10 : Nat), (17 : Nat), (15 : Nat))]) ∈ lw_all := lw_g (lw_at lw_m10 16 rfl) rfl
theorem q2294 : (Jvm.Cond.methodLink "KernelGymLaw" (63 : Nat) ({ cls := "KernelGym", name := "runTo", desc := "(II)I" } : Jvm.MethodName)) ∈ lw_all := lw_g (lw_at lw_m10 17 rfl) rfl
theorem q2298 : (Jvm.Cond.methodLink "KernelGymLaw" (190 : Nat) ({ cls := "KernelGymLaw", name := "back", desc := "(LKernelGym;I[J)I" } : Jvm.MethodName)) ∈ lw_all := lw_g (lw_at lw_m10 21 rfl) rfl
theorem q2299 : (Jvm.Cond.static ({ cls := "KernelGymLaw", name := "back", desc := "(LKernelGym;I[J)I" } : Jvm.MethodName)) ∈ lw_all := lw_g (lw_at lw_m10 22 rfl) rfl
theorem q2300 : (Jvm.Cond.codeWith ({ cls := "KernelGymLaw", name := "back", desc := "(LKernelGym;I[J)I" } : Jvm.MethodName) method_19_code (4 : Nat) (Option.some Jvm.ClassFile.FieldType.int) [((0 : Nat), (9 : Nat), (12 : Nat), (13 : Nat)), ((0 : Nat), (9 : Nat), (15 : Nat), (15 : Nat))]) ∈ lw_all := lw_g (lw_at lw_m10 23 rfl) rfl
theorem q2301 : (Jvm.Cond.methodLink "KernelGymLaw" (66 : Nat) ({ cls := "KernelGym", name := "back", desc := "(I)I" } : Jvm.MethodName)) ∈ lw_all := lw_g (lw_at lw_m10 24 rfl) rfl
theorem q2322 : (Jvm.Cond.methodLink "KernelGymLaw" (193 : Nat) ({ cls := "KernelGymLaw", name := "press", desc := "(LKernelGym;I[J)I" } : Jvm.MethodName)) ∈ lw_all := lw_g (lw_at lw_m10 45 rfl) rfl
theorem q2323 : (Jvm.Cond.static ({ cls := "KernelGymLaw", name := "press", desc := "(LKernelGym;I[J)I" } : Jvm.MethodName)) ∈ lw_all := lw_g (lw_at lw_m10 46 rfl) rfl
theorem q2324 : (Jvm.Cond.codeWith ({ cls := "KernelGymLaw", name := "press", desc := "(LKernelGym;I[J)I" } : Jvm.MethodName) method_20_code (4 : Nat) (Option.some Jvm.ClassFile.FieldType.int) [((0 : Nat), (9 : Nat), (12 : Nat), (13 : Nat)), ((0 : Nat), (9 : Nat), (15 : Nat), (15 : Nat))]) ∈ lw_all := lw_g (lw_at lw_m10 47 rfl) rfl
theorem q2325 : (Jvm.Cond.methodLink "KernelGymLaw" (69 : Nat) ({ cls := "KernelGym", name := "press", desc := "(I)I" } : Jvm.MethodName)) ∈ lw_all := lw_g (lw_at lw_m10 48 rfl) rfl
theorem q2467 : (Jvm.Cond.methodLink "KernelGymLaw" (228 : Nat) ({ cls := "KernelGymLaw", name := "register", desc := "(LKernelGym;I[J)I" } : Jvm.MethodName)) ∈ lw_all := lw_g (lw_at lw_m10 190 rfl) rfl
theorem q2468 : (Jvm.Cond.static ({ cls := "KernelGymLaw", name := "register", desc := "(LKernelGym;I[J)I" } : Jvm.MethodName)) ∈ lw_all := lw_g (lw_at lw_m10 191 rfl) rfl
theorem q2469 : (Jvm.Cond.codeWith ({ cls := "KernelGymLaw", name := "register", desc := "(LKernelGym;I[J)I" } : Jvm.MethodName) method_21_code (4 : Nat) (Option.some Jvm.ClassFile.FieldType.int) [((0 : Nat), (9 : Nat), (12 : Nat), (13 : Nat))]) ∈ lw_all := lw_g (lw_at lw_m10 192 rfl) rfl
theorem q2470 : (Jvm.Cond.methodLink "KernelGymLaw" (72 : Nat) ({ cls := "KernelGym", name := "register", desc := "(I)I" } : Jvm.MethodName)) ∈ lw_all := lw_g (lw_at lw_m10 193 rfl) rfl
theorem q2474 : (Jvm.Cond.methodLink "KernelGymLaw" (231 : Nat) ({ cls := "KernelGymLaw", name := "memory", desc := "(LKernelGym;I[J)I" } : Jvm.MethodName)) ∈ lw_all := lw_g (lw_at lw_m10 197 rfl) rfl
theorem q2475 : (Jvm.Cond.static ({ cls := "KernelGymLaw", name := "memory", desc := "(LKernelGym;I[J)I" } : Jvm.MethodName)) ∈ lw_all := lw_g (lw_at lw_m10 198 rfl) rfl
theorem q2476 : (Jvm.Cond.codeWith ({ cls := "KernelGymLaw", name := "memory", desc := "(LKernelGym;I[J)I" } : Jvm.MethodName) method_22_code (4 : Nat) (Option.some Jvm.ClassFile.FieldType.int) [((0 : Nat), (9 : Nat), (12 : Nat), (13 : Nat))]) ∈ lw_all := lw_g (lw_at lw_m10 199 rfl) rfl
theorem q2477 : (Jvm.Cond.methodLink "KernelGymLaw" (75 : Nat) ({ cls := "KernelGym", name := "memory", desc := "(I)I" } : Jvm.MethodName)) ∈ lw_all := lw_g (lw_at lw_m10 200 rfl) rfl
theorem q2481 : (Jvm.Cond.methodLink "KernelGymLaw" (234 : Nat) ({ cls := "KernelGymLaw", name := "changedAt", desc := "(LKernelGym;I[J)I" } : Jvm.MethodName)) ∈ lw_all := lw_g (lw_at lw_m10 204 rfl) rfl
theorem q2482 : (Jvm.Cond.static ({ cls := "KernelGymLaw", name := "changedAt", desc := "(LKernelGym;I[J)I" } : Jvm.MethodName)) ∈ lw_all := lw_g (lw_at lw_m10 205 rfl) rfl
theorem q2483 : (Jvm.Cond.codeWith ({ cls := "KernelGymLaw", name := "changedAt", desc := "(LKernelGym;I[J)I" } : Jvm.MethodName) method_23_code (4 : Nat) (Option.some Jvm.ClassFile.FieldType.int) [((0 : Nat), (9 : Nat), (12 : Nat), (13 : Nat))]) ∈ lw_all := lw_g (lw_at lw_m10 206 rfl) rfl
theorem q2484 : (Jvm.Cond.methodLink "KernelGymLaw" (78 : Nat) ({ cls := "KernelGym", name := "changedAt", desc := "(I)I" } : Jvm.MethodName)) ∈ lw_all := lw_g (lw_at lw_m10 207 rfl) rfl
theorem q2536 : (Jvm.Cond.methodLink "KernelGymLaw" (241 : Nat) ({ cls := "KernelGymLaw", name := "tapeAt", desc := "(LKernelGym;I[J)I" } : Jvm.MethodName)) ∈ lw_all := lw_g (lw_at lw_m11 19 rfl) rfl
theorem q2537 : (Jvm.Cond.static ({ cls := "KernelGymLaw", name := "tapeAt", desc := "(LKernelGym;I[J)I" } : Jvm.MethodName)) ∈ lw_all := lw_g (lw_at lw_m11 20 rfl) rfl
theorem q2538 : (Jvm.Cond.codeWith ({ cls := "KernelGymLaw", name := "tapeAt", desc := "(LKernelGym;I[J)I" } : Jvm.MethodName) method_24_code (4 : Nat) (Option.some Jvm.ClassFile.FieldType.int) [((0 : Nat), (9 : Nat), (12 : Nat), (84 : Nat))]) ∈ lw_all := lw_g (lw_at lw_m11 21 rfl) rfl
theorem q2539 : (Jvm.Cond.classLink "KernelGymLaw" (84 : Nat) "java/lang/IndexOutOfBoundsException") ∈ lw_all := lw_g (lw_at lw_m11 22 rfl) rfl
theorem q2555 : (Jvm.Cond.methodLink "KernelGymLaw" (81 : Nat) ({ cls := "KernelGym", name := "tapeAt", desc := "(I)I" } : Jvm.MethodName)) ∈ lw_all := lw_g (lw_at lw_m11 38 rfl) rfl
theorem q2562 : (Jvm.Cond.methodLink "KernelGymLaw" (248 : Nat) ({ cls := "KernelGymLaw", name := "sumAnew", desc := "(LKernelGym;I[J)I" } : Jvm.MethodName)) ∈ lw_all := lw_g (lw_at lw_m11 45 rfl) rfl
theorem q2563 : (Jvm.Cond.static ({ cls := "KernelGymLaw", name := "sumAnew", desc := "(LKernelGym;I[J)I" } : Jvm.MethodName)) ∈ lw_all := lw_g (lw_at lw_m11 46 rfl) rfl
theorem q2564 : (Jvm.Cond.codeWith ({ cls := "KernelGymLaw", name := "sumAnew", desc := "(LKernelGym;I[J)I" } : Jvm.MethodName) method_25_code (4 : Nat) (Option.some Jvm.ClassFile.FieldType.int) [((0 : Nat), (9 : Nat), (12 : Nat), (15 : Nat)), ((0 : Nat), (9 : Nat), (15 : Nat), (13 : Nat))]) ∈ lw_all := lw_g (lw_at lw_m11 47 rfl) rfl
theorem q2565 : (Jvm.Cond.methodLink "KernelGymLaw" (86 : Nat) ({ cls := "KernelGym", name := "sumAnew", desc := "(I)I" } : Jvm.MethodName)) ∈ lw_all := lw_g (lw_at lw_m11 48 rfl) rfl
theorem q2581 : (Jvm.Cond.methodLink "KernelGymLaw" (255 : Nat) ({ cls := "KernelGymLaw", name := "disk", desc := "(LKernelGym;II[J)I" } : Jvm.MethodName)) ∈ lw_all := lw_g (lw_at lw_m11 64 rfl) rfl
theorem q2582 : (Jvm.Cond.static ({ cls := "KernelGymLaw", name := "disk", desc := "(LKernelGym;II[J)I" } : Jvm.MethodName)) ∈ lw_all := lw_g (lw_at lw_m11 65 rfl) rfl
theorem q2583 : (Jvm.Cond.codeWith ({ cls := "KernelGymLaw", name := "disk", desc := "(LKernelGym;II[J)I" } : Jvm.MethodName) method_26_code (5 : Nat) (Option.some Jvm.ClassFile.FieldType.int) [((0 : Nat), (10 : Nat), (13 : Nat), (13 : Nat))]) ∈ lw_all := lw_g (lw_at lw_m11 66 rfl) rfl
theorem q2584 : (Jvm.Cond.methodLink "KernelGymLaw" (89 : Nat) ({ cls := "KernelGym", name := "disk", desc := "(II)I" } : Jvm.MethodName)) ∈ lw_all := lw_g (lw_at lw_m11 67 rfl) rfl
theorem q2588 : (Jvm.Cond.methodLink "KernelGymLaw" (262 : Nat) ({ cls := "KernelGymLaw", name := "size", desc := "(LKernelGym;I[J)I" } : Jvm.MethodName)) ∈ lw_all := lw_g (lw_at lw_m11 71 rfl) rfl
theorem q2589 : (Jvm.Cond.static ({ cls := "KernelGymLaw", name := "size", desc := "(LKernelGym;I[J)I" } : Jvm.MethodName)) ∈ lw_all := lw_g (lw_at lw_m11 72 rfl) rfl
theorem q2590 : (Jvm.Cond.codeWith ({ cls := "KernelGymLaw", name := "size", desc := "(LKernelGym;I[J)I" } : Jvm.MethodName) method_27_code (4 : Nat) (Option.some Jvm.ClassFile.FieldType.int) [((0 : Nat), (9 : Nat), (12 : Nat), (13 : Nat)), ((0 : Nat), (9 : Nat), (15 : Nat), (95 : Nat))]) ∈ lw_all := lw_g (lw_at lw_m11 73 rfl) rfl
theorem q2591 : (Jvm.Cond.classLink "KernelGymLaw" (95 : Nat) "java/util/NoSuchElementException") ∈ lw_all := lw_g (lw_at lw_m11 74 rfl) rfl
theorem q2592 : (Jvm.Cond.methodLink "KernelGymLaw" (92 : Nat) ({ cls := "KernelGym", name := "size", desc := "(I)I" } : Jvm.MethodName)) ∈ lw_all := lw_g (lw_at lw_m11 75 rfl) rfl
theorem q2607 : (Jvm.Cond.methodLink "KernelGymLaw" (265 : Nat) ({ cls := "KernelGymLaw", name := "wordOf", desc := "(LKernelGym;II[J)I" } : Jvm.MethodName)) ∈ lw_all := lw_g (lw_at lw_m11 90 rfl) rfl
theorem q2608 : (Jvm.Cond.static ({ cls := "KernelGymLaw", name := "wordOf", desc := "(LKernelGym;II[J)I" } : Jvm.MethodName)) ∈ lw_all := lw_g (lw_at lw_m11 91 rfl) rfl
theorem q2609 : (Jvm.Cond.codeWith ({ cls := "KernelGymLaw", name := "wordOf", desc := "(LKernelGym;II[J)I" } : Jvm.MethodName) method_28_code (5 : Nat) (Option.some Jvm.ClassFile.FieldType.int) [((0 : Nat), (10 : Nat), (13 : Nat), (13 : Nat)), ((0 : Nat), (10 : Nat), (17 : Nat), (95 : Nat)), ((0 : Nat), (10 : Nat), (21 : Nat), (84 : Nat))]) ∈ lw_all := lw_g (lw_at lw_m11 92 rfl) rfl
theorem q2610 : (Jvm.Cond.methodLink "KernelGymLaw" (97 : Nat) ({ cls := "KernelGym", name := "wordOf", desc := "(II)I" } : Jvm.MethodName)) ∈ lw_all := lw_g (lw_at lw_m11 93 rfl) rfl
theorem q2616 : (Jvm.Cond.methodLink "KernelGymLaw" (277 : Nat) ({ cls := "KernelGymLaw", name := "testKey", desc := "(LKernelGym;I[J)I" } : Jvm.MethodName)) ∈ lw_all := lw_g (lw_at lw_m11 99 rfl) rfl
theorem q2617 : (Jvm.Cond.static ({ cls := "KernelGymLaw", name := "testKey", desc := "(LKernelGym;I[J)I" } : Jvm.MethodName)) ∈ lw_all := lw_g (lw_at lw_m11 100 rfl) rfl
theorem q2618 : (Jvm.Cond.codeWith ({ cls := "KernelGymLaw", name := "testKey", desc := "(LKernelGym;I[J)I" } : Jvm.MethodName) method_29_code (4 : Nat) (Option.some Jvm.ClassFile.FieldType.int) [((0 : Nat), (9 : Nat), (12 : Nat), (13 : Nat)), ((0 : Nat), (9 : Nat), (15 : Nat), (15 : Nat))]) ∈ lw_all := lw_g (lw_at lw_m11 101 rfl) rfl
theorem q2619 : (Jvm.Cond.methodLink "KernelGymLaw" (100 : Nat) ({ cls := "KernelGym", name := "testKey", desc := "(I)I" } : Jvm.MethodName)) ∈ lw_all := lw_g (lw_at lw_m11 102 rfl) rfl
theorem q2647 : (Jvm.Cond.methodLink "KernelGymLaw" (280 : Nat) ({ cls := "KernelGymLaw", name := "testWord", desc := "(LKernelGym;I[J)I" } : Jvm.MethodName)) ∈ lw_all := lw_g (lw_at lw_m11 130 rfl) rfl
theorem q2648 : (Jvm.Cond.static ({ cls := "KernelGymLaw", name := "testWord", desc := "(LKernelGym;I[J)I" } : Jvm.MethodName)) ∈ lw_all := lw_g (lw_at lw_m11 131 rfl) rfl
theorem q2649 : (Jvm.Cond.codeWith ({ cls := "KernelGymLaw", name := "testWord", desc := "(LKernelGym;I[J)I" } : Jvm.MethodName) method_30_code (4 : Nat) (Option.some Jvm.ClassFile.FieldType.int) [((0 : Nat), (9 : Nat), (12 : Nat), (13 : Nat)), ((0 : Nat), (9 : Nat), (15 : Nat), (15 : Nat))]) ∈ lw_all := lw_g (lw_at lw_m11 132 rfl) rfl
theorem q2650 : (Jvm.Cond.methodLink "KernelGymLaw" (103 : Nat) ({ cls := "KernelGym", name := "testWord", desc := "(I)I" } : Jvm.MethodName)) ∈ lw_all := lw_g (lw_at lw_m11 133 rfl) rfl
theorem q2654 : (Jvm.Cond.methodLink "KernelGymLaw" (283 : Nat) ({ cls := "KernelGymLaw", name := "addTest", desc := "(LKernelGym;IIII[J)I" } : Jvm.MethodName)) ∈ lw_all := lw_g (lw_at lw_m11 137 rfl) rfl
theorem q2655 : (Jvm.Cond.static ({ cls := "KernelGymLaw", name := "addTest", desc := "(LKernelGym;IIII[J)I" } : Jvm.MethodName)) ∈ lw_all := lw_g (lw_at lw_m11 138 rfl) rfl
theorem q2656 : (Jvm.Cond.codeWith ({ cls := "KernelGymLaw", name := "addTest", desc := "(LKernelGym;IIII[J)I" } : Jvm.MethodName) method_31_code (7 : Nat) (Option.some Jvm.ClassFile.FieldType.int) [((0 : Nat), (14 : Nat), (17 : Nat), (13 : Nat)), ((0 : Nat), (14 : Nat), (21 : Nat), (15 : Nat))]) ∈ lw_all := lw_g (lw_at lw_m11 139 rfl) rfl
theorem q2657 : (Jvm.Cond.methodLink "KernelGymLaw" (106 : Nat) ({ cls := "KernelGym", name := "addTest", desc := "(IIII)I" } : Jvm.MethodName)) ∈ lw_all := lw_g (lw_at lw_m11 140 rfl) rfl
theorem q2710 : (Jvm.Cond.methodLink "KernelGymLaw" (291 : Nat) ({ cls := "KernelGymLaw", name := "submit", desc := "(LKernelGym;[J)I" } : Jvm.MethodName)) ∈ lw_all := lw_g (lw_at lw_m11 193 rfl) rfl
theorem q2711 : (Jvm.Cond.static ({ cls := "KernelGymLaw", name := "submit", desc := "(LKernelGym;[J)I" } : Jvm.MethodName)) ∈ lw_all := lw_g (lw_at lw_m11 194 rfl) rfl
theorem q2712 : (Jvm.Cond.codeWith ({ cls := "KernelGymLaw", name := "submit", desc := "(LKernelGym;[J)I" } : Jvm.MethodName) method_32_code (3 : Nat) (Option.some Jvm.ClassFile.FieldType.int) [((0 : Nat), (8 : Nat), (11 : Nat), (15 : Nat))]) ∈ lw_all := lw_g (lw_at lw_m11 195 rfl) rfl
theorem q2713 : (Jvm.Cond.methodLink "KernelGymLaw" (110 : Nat) ({ cls := "KernelGym", name := "submit", desc := "()I" } : Jvm.MethodName)) ∈ lw_all := lw_g (lw_at lw_m11 196 rfl) rfl
theorem q2733 : (Jvm.Cond.methodLink "KernelGymLaw" (294 : Nat) ({ cls := "KernelGymLaw", name := "result", desc := "(LKernelGym;I[J)I" } : Jvm.MethodName)) ∈ lw_all := lw_g (lw_at lw_m11 216 rfl) rfl
theorem q2734 : (Jvm.Cond.static ({ cls := "KernelGymLaw", name := "result", desc := "(LKernelGym;I[J)I" } : Jvm.MethodName)) ∈ lw_all := lw_g (lw_at lw_m11 217 rfl) rfl
theorem q2735 : (Jvm.Cond.codeWith ({ cls := "KernelGymLaw", name := "result", desc := "(LKernelGym;I[J)I" } : Jvm.MethodName) method_33_code (4 : Nat) (Option.some Jvm.ClassFile.FieldType.int) [((0 : Nat), (9 : Nat), (12 : Nat), (84 : Nat))]) ∈ lw_all := lw_g (lw_at lw_m11 218 rfl) rfl
theorem q2736 : (Jvm.Cond.methodLink "KernelGymLaw" (113 : Nat) ({ cls := "KernelGym", name := "result", desc := "(I)I" } : Jvm.MethodName)) ∈ lw_all := lw_g (lw_at lw_m11 219 rfl) rfl
theorem q2743 : (Jvm.Cond.classLink "KernelGymLaw" (117 : Nat) "KernelGymModel") ∈ lw_all := lw_g (lw_at lw_m11 226 rfl) rfl
theorem q2745 : (Jvm.Cond.methodLink "KernelGymLaw" (119 : Nat) ({ cls := "KernelGymModel", name := "<init>", desc := "()V" } : Jvm.MethodName)) ∈ lw_all := lw_g (lw_at lw_m11 228 rfl) rfl
theorem q2976 : (Jvm.Cond.methodLink "KernelGymLaw" (134 : Nat) ({ cls := "KernelGymModel", name := "thrown", desc := "()I" } : Jvm.MethodName)) ∈ lw_all := lw_g (lw_at lw_m12 219 rfl) rfl
theorem q2980 : (Jvm.Cond.methodLink "KernelGymLaw" (123 : Nat) ({ cls := "KernelGymModel", name := "clear", desc := "()I" } : Jvm.MethodName)) ∈ lw_all := lw_g (lw_at lw_m12 223 rfl) rfl
theorem q2984 : (Jvm.Cond.methodLink "KernelGymLaw" (127 : Nat) ({ cls := "KernelGymModel", name := "lines", desc := "()I" } : Jvm.MethodName)) ∈ lw_all := lw_g (lw_at lw_m12 227 rfl) rfl
theorem q2988 : (Jvm.Cond.methodLink "KernelGymLaw" (133 : Nat) ({ cls := "KernelGymModel", name := "section", desc := "(I)I" } : Jvm.MethodName)) ∈ lw_all := lw_g (lw_at lw_m12 231 rfl) rfl
theorem q3003 : (Jvm.Cond.methodLink "KernelGymLaw" (139 : Nat) ({ cls := "KernelGymModel", name := "label", desc := "(I)I" } : Jvm.MethodName)) ∈ lw_all := lw_g (lw_at lw_m13 6 rfl) rfl
theorem q3007 : (Jvm.Cond.methodLink "KernelGymLaw" (143 : Nat) ({ cls := "KernelGymModel", name := "code", desc := "(IIIII)I" } : Jvm.MethodName)) ∈ lw_all := lw_g (lw_at lw_m13 10 rfl) rfl
theorem q3015 : (Jvm.Cond.methodLink "KernelGymLaw" (147 : Nat) ({ cls := "KernelGymModel", name := "word", desc := "(II)I" } : Jvm.MethodName)) ∈ lw_all := lw_g (lw_at lw_m13 18 rfl) rfl
theorem q3019 : (Jvm.Cond.methodLink "KernelGymLaw" (150 : Nat) ({ cls := "KernelGymModel", name := "space", desc := "(I)I" } : Jvm.MethodName)) ∈ lw_all := lw_g (lw_at lw_m13 22 rfl) rfl
theorem q3023 : (Jvm.Cond.methodLink "KernelGymLaw" (154 : Nat) ({ cls := "KernelGymModel", name := "vector", desc := "(III)I" } : Jvm.MethodName)) ∈ lw_all := lw_g (lw_at lw_m13 26 rfl) rfl
theorem q3027 : (Jvm.Cond.methodLink "KernelGymLaw" (157 : Nat) ({ cls := "KernelGymModel", name := "macro", desc := "(I)I" } : Jvm.MethodName)) ∈ lw_all := lw_g (lw_at lw_m13 30 rfl) rfl
theorem q3031 : (Jvm.Cond.methodLink "KernelGymLaw" (161 : Nat) ({ cls := "KernelGymModel", name := "endMacro", desc := "()I" } : Jvm.MethodName)) ∈ lw_all := lw_g (lw_at lw_m13 34 rfl) rfl
theorem q3035 : (Jvm.Cond.methodLink "KernelGymLaw" (164 : Nat) ({ cls := "KernelGymModel", name := "use", desc := "(IIIII)I" } : Jvm.MethodName)) ∈ lw_all := lw_g (lw_at lw_m13 38 rfl) rfl
theorem q3039 : (Jvm.Cond.methodLink "KernelGymLaw" (168 : Nat) ({ cls := "KernelGymModel", name := "error", desc := "()I" } : Jvm.MethodName)) ∈ lw_all := lw_g (lw_at lw_m13 42 rfl) rfl
theorem q3096 : (Jvm.Cond.methodLink "KernelGymLaw" (171 : Nat) ({ cls := "KernelGymModel", name := "assemble", desc := "()I" } : Jvm.MethodName)) ∈ lw_all := lw_g (lw_at lw_m13 99 rfl) rfl
theorem q3100 : (Jvm.Cond.methodLink "KernelGymLaw" (174 : Nat) ({ cls := "KernelGymModel", name := "image", desc := "(I)I" } : Jvm.MethodName)) ∈ lw_all := lw_g (lw_at lw_m13 103 rfl) rfl
theorem q3104 : (Jvm.Cond.methodLink "KernelGymLaw" (177 : Nat) ({ cls := "KernelGymModel", name := "start", desc := "()I" } : Jvm.MethodName)) ∈ lw_all := lw_g (lw_at lw_m13 107 rfl) rfl
theorem q3135 : (Jvm.Cond.methodLink "KernelGymLaw" (180 : Nat) ({ cls := "KernelGymModel", name := "crash", desc := "()I" } : Jvm.MethodName)) ∈ lw_all := lw_g (lw_at lw_m13 138 rfl) rfl
theorem q3139 : (Jvm.Cond.methodLink "KernelGymLaw" (183 : Nat) ({ cls := "KernelGymModel", name := "format", desc := "()I" } : Jvm.MethodName)) ∈ lw_all := lw_g (lw_at lw_m13 142 rfl) rfl
theorem q3150 : (Jvm.Cond.methodLink "KernelGymLaw" (186 : Nat) ({ cls := "KernelGymModel", name := "step", desc := "(I)I" } : Jvm.MethodName)) ∈ lw_all := lw_g (lw_at lw_m13 153 rfl) rfl
theorem q3281 : (Jvm.Cond.methodLink "KernelGymLaw" (189 : Nat) ({ cls := "KernelGymModel", name := "runTo", desc := "(II)I" } : Jvm.MethodName)) ∈ lw_all := lw_g (lw_at lw_m14 44 rfl) rfl
theorem q3285 : (Jvm.Cond.methodLink "KernelGymLaw" (192 : Nat) ({ cls := "KernelGymModel", name := "back", desc := "(I)I" } : Jvm.MethodName)) ∈ lw_all := lw_g (lw_at lw_m14 48 rfl) rfl
theorem q3293 : (Jvm.Cond.methodLink "KernelGymLaw" (195 : Nat) ({ cls := "KernelGymModel", name := "press", desc := "(I)I" } : Jvm.MethodName)) ∈ lw_all := lw_g (lw_at lw_m14 56 rfl) rfl
theorem q3297 : (Jvm.Cond.methodLink "KernelGymLaw" (199 : Nat) ({ cls := "KernelGymModel", name := "state", desc := "()I" } : Jvm.MethodName)) ∈ lw_all := lw_g (lw_at lw_m14 60 rfl) rfl
theorem q3301 : (Jvm.Cond.methodLink "KernelGymLaw" (203 : Nat) ({ cls := "KernelGymModel", name := "fault", desc := "()I" } : Jvm.MethodName)) ∈ lw_all := lw_g (lw_at lw_m14 64 rfl) rfl
theorem q3305 : (Jvm.Cond.methodLink "KernelGymLaw" (207 : Nat) ({ cls := "KernelGymModel", name := "steps", desc := "()I" } : Jvm.MethodName)) ∈ lw_all := lw_g (lw_at lw_m14 68 rfl) rfl
theorem q3309 : (Jvm.Cond.methodLink "KernelGymLaw" (211 : Nat) ({ cls := "KernelGymModel", name := "kept", desc := "()I" } : Jvm.MethodName)) ∈ lw_all := lw_g (lw_at lw_m14 72 rfl) rfl
theorem q3313 : (Jvm.Cond.methodLink "KernelGymLaw" (215 : Nat) ({ cls := "KernelGymModel", name := "counter", desc := "()I" } : Jvm.MethodName)) ∈ lw_all := lw_g (lw_at lw_m14 76 rfl) rfl
theorem q3317 : (Jvm.Cond.methodLink "KernelGymLaw" (219 : Nat) ({ cls := "KernelGymModel", name := "stack", desc := "()I" } : Jvm.MethodName)) ∈ lw_all := lw_g (lw_at lw_m14 80 rfl) rfl
theorem q3321 : (Jvm.Cond.methodLink "KernelGymLaw" (223 : Nat) ({ cls := "KernelGymModel", name := "flags", desc := "()I" } : Jvm.MethodName)) ∈ lw_all := lw_g (lw_at lw_m14 84 rfl) rfl
theorem q3329 : (Jvm.Cond.methodLink "KernelGymLaw" (227 : Nat) ({ cls := "KernelGymModel", name := "writesLeft", desc := "()I" } : Jvm.MethodName)) ∈ lw_all := lw_g (lw_at lw_m14 92 rfl) rfl
theorem q3333 : (Jvm.Cond.methodLink "KernelGymLaw" (230 : Nat) ({ cls := "KernelGymModel", name := "register", desc := "(I)I" } : Jvm.MethodName)) ∈ lw_all := lw_g (lw_at lw_m14 96 rfl) rfl
theorem q3337 : (Jvm.Cond.methodLink "KernelGymLaw" (233 : Nat) ({ cls := "KernelGymModel", name := "memory", desc := "(I)I" } : Jvm.MethodName)) ∈ lw_all := lw_g (lw_at lw_m14 100 rfl) rfl
theorem q3344 : (Jvm.Cond.methodLink "KernelGymLaw" (236 : Nat) ({ cls := "KernelGymModel", name := "changedAt", desc := "(I)I" } : Jvm.MethodName)) ∈ lw_all := lw_g (lw_at lw_m14 107 rfl) rfl
theorem q3348 : (Jvm.Cond.methodLink "KernelGymLaw" (240 : Nat) ({ cls := "KernelGymModel", name := "tape", desc := "()I" } : Jvm.MethodName)) ∈ lw_all := lw_g (lw_at lw_m14 111 rfl) rfl
theorem q3352 : (Jvm.Cond.methodLink "KernelGymLaw" (243 : Nat) ({ cls := "KernelGymModel", name := "tapeAt", desc := "(I)I" } : Jvm.MethodName)) ∈ lw_all := lw_g (lw_at lw_m14 115 rfl) rfl
theorem q3356 : (Jvm.Cond.methodLink "KernelGymLaw" (247 : Nat) ({ cls := "KernelGymModel", name := "sum", desc := "()I" } : Jvm.MethodName)) ∈ lw_all := lw_g (lw_at lw_m14 119 rfl) rfl
theorem q3369 : (Jvm.Cond.methodLink "KernelGymLaw" (250 : Nat) ({ cls := "KernelGymModel", name := "sumAnew", desc := "(I)I" } : Jvm.MethodName)) ∈ lw_all := lw_g (lw_at lw_m14 132 rfl) rfl
theorem q3373 : (Jvm.Cond.methodLink "KernelGymLaw" (254 : Nat) ({ cls := "KernelGymModel", name := "written", desc := "()I" } : Jvm.MethodName)) ∈ lw_all := lw_g (lw_at lw_m14 136 rfl) rfl
theorem q3377 : (Jvm.Cond.methodLink "KernelGymLaw" (257 : Nat) ({ cls := "KernelGymModel", name := "disk", desc := "(II)I" } : Jvm.MethodName)) ∈ lw_all := lw_g (lw_at lw_m14 140 rfl) rfl
theorem q3381 : (Jvm.Cond.methodLink "KernelGymLaw" (261 : Nat) ({ cls := "KernelGymModel", name := "files", desc := "()I" } : Jvm.MethodName)) ∈ lw_all := lw_g (lw_at lw_m14 144 rfl) rfl
theorem q3385 : (Jvm.Cond.methodLink "KernelGymLaw" (264 : Nat) ({ cls := "KernelGymModel", name := "size", desc := "(I)I" } : Jvm.MethodName)) ∈ lw_all := lw_g (lw_at lw_m14 148 rfl) rfl
theorem q3393 : (Jvm.Cond.methodLink "KernelGymLaw" (267 : Nat) ({ cls := "KernelGymModel", name := "wordOf", desc := "(II)I" } : Jvm.MethodName)) ∈ lw_all := lw_g (lw_at lw_m14 156 rfl) rfl
theorem q3397 : (Jvm.Cond.methodLink "KernelGymLaw" (271 : Nat) ({ cls := "KernelGymModel", name := "freeBlocks", desc := "()I" } : Jvm.MethodName)) ∈ lw_all := lw_g (lw_at lw_m14 160 rfl) rfl
theorem q3401 : (Jvm.Cond.methodLink "KernelGymLaw" (276 : Nat) ({ cls := "KernelGymModel", name := "isWhole", desc := "()Z" } : Jvm.MethodName)) ∈ lw_all := lw_g (lw_at lw_m14 164 rfl) rfl
theorem q3413 : (Jvm.Cond.methodLink "KernelGymLaw" (279 : Nat) ({ cls := "KernelGymModel", name := "testKey", desc := "(I)I" } : Jvm.MethodName)) ∈ lw_all := lw_g (lw_at lw_m14 176 rfl) rfl
theorem q3417 : (Jvm.Cond.methodLink "KernelGymLaw" (282 : Nat) ({ cls := "KernelGymModel", name := "testWord", desc := "(I)I" } : Jvm.MethodName)) ∈ lw_all := lw_g (lw_at lw_m14 180 rfl) rfl
theorem q3421 : (Jvm.Cond.methodLink "KernelGymLaw" (286 : Nat) ({ cls := "KernelGymModel", name := "addTest", desc := "(IIII)I" } : Jvm.MethodName)) ∈ lw_all := lw_g (lw_at lw_m14 184 rfl) rfl
theorem q3425 : (Jvm.Cond.methodLink "KernelGymLaw" (290 : Nat) ({ cls := "KernelGymModel", name := "tests", desc := "()I" } : Jvm.MethodName)) ∈ lw_all := lw_g (lw_at lw_m14 188 rfl) rfl
theorem q3429 : (Jvm.Cond.methodLink "KernelGymLaw" (293 : Nat) ({ cls := "KernelGymModel", name := "submit", desc := "()I" } : Jvm.MethodName)) ∈ lw_all := lw_g (lw_at lw_m14 192 rfl) rfl
theorem q3441 : (Jvm.Cond.methodLink "KernelGymLaw" (296 : Nat) ({ cls := "KernelGymModel", name := "result", desc := "(I)I" } : Jvm.MethodName)) ∈ lw_all := lw_g (lw_at lw_m14 204 rfl) rfl
theorem q3445 : (Jvm.Cond.methodLink "KernelGymLaw" (300 : Nat) ({ cls := "KernelGymModel", name := "mark", desc := "()I" } : Jvm.MethodName)) ∈ lw_all := lw_g (lw_at lw_m14 208 rfl) rfl

