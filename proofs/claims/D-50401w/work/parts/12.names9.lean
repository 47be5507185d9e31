/-! the law's own entry -/
set_option maxRecDepth 100000
abbrev cL_law : ByteArray := code
def dkwL_law_114 : List UInt8 := [167, 0, 3, 132, 4, 7, 167, 244, 245, 4, 172]
abbrev dktL_law_114 : List UInt8 := dkwL_law_114 ++ []
def dkwL_law_113 : List UInt8 := [159, 0, 5, 3, 172, 21, 5, 154, 0, 15, 45, 3, 47, 21, 6, 133, 148, 153, 0, 5, 3, 172]
abbrev dktL_law_113 : List UInt8 := dkwL_law_113 ++ dktL_law_114
def dkwL_law_112 : List UInt8 := [159, 0, 49, 3, 172, 43, 45, 184, 1, 46, 54, 5, 44, 182, 1, 48, 54, 6, 44, 182, 0, 156, 21, 5]
abbrev dktL_law_112 : List UInt8 := dkwL_law_112 ++ dktL_law_113
def dkwL_law_111 : List UInt8 := [44, 42, 21, 4, 4, 96, 46, 182, 1, 41, 159, 0, 62, 3, 172, 43, 182, 1, 42, 44, 182, 1, 45]
abbrev dktL_law_111 : List UInt8 := dkwL_law_111 ++ dktL_law_112
def dkwL_law_110 : List UInt8 := [3, 47, 21, 6, 133, 148, 153, 0, 5, 3, 172, 167, 0, 85, 43, 42, 21, 4, 4, 96, 46, 182, 1, 38]
abbrev dktL_law_110 : List UInt8 := dkwL_law_110 ++ dktL_law_111
def dkwL_law_109 : List UInt8 := [96, 46, 182, 1, 37, 54, 6, 44, 182, 0, 156, 21, 5, 159, 0, 5, 3, 172, 21, 5, 154, 0, 15, 45]
abbrev dktL_law_109 : List UInt8 := dkwL_law_109 ++ dktL_law_110
def dkwL_law_108 : List UInt8 := [46, 42, 21, 4, 5, 96, 46, 45, 184, 1, 35, 54, 5, 44, 42, 21, 4, 4, 96, 46, 42, 21, 4, 5]
abbrev dktL_law_108 : List UInt8 := dkwL_law_108 ++ dktL_law_109
def dkwL_law_107 : List UInt8 := [154, 0, 15, 45, 3, 47, 21, 6, 133, 148, 153, 0, 5, 3, 172, 167, 0, 153, 43, 42, 21, 4, 4, 96]
abbrev dktL_law_107 : List UInt8 := dkwL_law_107 ++ dktL_law_108
def dkwL_law_106 : List UInt8 := [21, 4, 4, 96, 46, 182, 1, 34, 54, 6, 44, 182, 0, 156, 21, 5, 159, 0, 5, 3, 172, 21, 5]
abbrev dktL_law_106 : List UInt8 := dkwL_law_106 ++ dktL_law_107
def dkwL_law_105 : List UInt8 := [153, 0, 5, 3, 172, 167, 0, 209, 43, 42, 21, 4, 4, 96, 46, 45, 184, 1, 32, 54, 5, 44, 42]
abbrev dktL_law_105 : List UInt8 := dkwL_law_105 ++ dktL_law_106
def dkwL_law_104 : List UInt8 := [182, 0, 156, 21, 5, 159, 0, 5, 3, 172, 21, 5, 154, 0, 15, 45, 3, 47, 21, 6, 133, 148]
abbrev dktL_law_104 : List UInt8 := dkwL_law_104 ++ dktL_law_105
def dkwL_law_103 : List UInt8 := [182, 1, 27, 159, 0, 255, 3, 172, 43, 45, 184, 1, 28, 54, 5, 44, 182, 1, 31, 54, 6, 44]
abbrev dktL_law_103 : List UInt8 := dkwL_law_103 ++ dktL_law_104
def dkwL_law_102 : List UInt8 := [167, 0, 4, 3, 182, 1, 23, 44, 42, 21, 4, 4, 96, 46, 153, 0, 7, 4, 167, 0, 4, 3]
abbrev dktL_law_102 : List UInt8 := dkwL_law_102 ++ dktL_law_103
def dkwL_law_101 : List UInt8 := [21, 6, 133, 148, 153, 0, 5, 3, 172, 167, 1, 38, 43, 42, 21, 4, 4, 96, 46, 153, 0, 7, 4]
abbrev dktL_law_101 : List UInt8 := dkwL_law_101 ++ dktL_law_102
def dkwL_law_100 : List UInt8 := [182, 1, 22, 54, 6, 44, 182, 0, 156, 21, 5, 159, 0, 5, 3, 172, 21, 5, 154, 0, 15, 45, 3, 47]
abbrev dktL_law_100 : List UInt8 := dkwL_law_100 ++ dktL_law_101
def dkwL_law_99 : List UInt8 := [167, 1, 94, 43, 42, 21, 4, 4, 96, 46, 45, 184, 1, 20, 54, 5, 44, 42, 21, 4, 4, 96, 46]
abbrev dktL_law_99 : List UInt8 := dkwL_law_99 ++ dktL_law_100
def dkwL_law_98 : List UInt8 := [159, 0, 5, 3, 172, 21, 5, 154, 0, 15, 45, 3, 47, 21, 6, 133, 148, 153, 0, 5, 3, 172]
abbrev dktL_law_98 : List UInt8 := dkwL_law_98 ++ dktL_law_99
def dkwL_law_97 : List UInt8 := [21, 4, 4, 96, 46, 42, 21, 4, 5, 96, 46, 182, 1, 19, 54, 6, 44, 182, 0, 156, 21, 5]
abbrev dktL_law_97 : List UInt8 := dkwL_law_97 ++ dktL_law_98
def dkwL_law_96 : List UInt8 := [167, 1, 162, 43, 42, 21, 4, 4, 96, 46, 42, 21, 4, 5, 96, 46, 45, 184, 1, 17, 54, 5, 44, 42]
abbrev dktL_law_96 : List UInt8 := dkwL_law_96 ++ dktL_law_97
def dkwL_law_95 : List UInt8 := [159, 0, 5, 3, 172, 21, 5, 154, 0, 15, 45, 3, 47, 21, 6, 133, 148, 153, 0, 5, 3, 172]
abbrev dktL_law_95 : List UInt8 := dkwL_law_95 ++ dktL_law_96
def dkwL_law_94 : List UInt8 := [21, 4, 4, 96, 46, 42, 21, 4, 5, 96, 46, 182, 1, 16, 54, 6, 44, 182, 0, 156, 21, 5]
abbrev dktL_law_94 : List UInt8 := dkwL_law_94 ++ dktL_law_95
def dkwL_law_93 : List UInt8 := [167, 1, 230, 43, 42, 21, 4, 4, 96, 46, 42, 21, 4, 5, 96, 46, 45, 184, 1, 14, 54, 5, 44, 42]
abbrev dktL_law_93 : List UInt8 := dkwL_law_93 ++ dktL_law_94
def dkwL_law_92 : List UInt8 := [21, 5, 159, 0, 5, 3, 172, 21, 5, 154, 0, 15, 45, 3, 47, 21, 6, 133, 148, 153, 0, 5, 3, 172]
abbrev dktL_law_92 : List UInt8 := dkwL_law_92 ++ dktL_law_93
def dkwL_law_91 : List UInt8 := [46, 45, 184, 1, 11, 54, 5, 44, 42, 21, 4, 4, 96, 46, 182, 1, 13, 54, 6, 44, 182, 0, 156]
abbrev dktL_law_91 : List UInt8 := dkwL_law_91 ++ dktL_law_92
def dkwL_law_90 : List UInt8 := [154, 0, 15, 45, 3, 47, 21, 6, 133, 148, 153, 0, 5, 3, 172, 167, 2, 30, 43, 42, 21, 4, 4, 96]
abbrev dktL_law_90 : List UInt8 := dkwL_law_90 ++ dktL_law_91
def dkwL_law_89 : List UInt8 := [42, 21, 4, 6, 96, 46, 182, 1, 10, 54, 6, 44, 182, 0, 156, 21, 5, 159, 0, 5, 3, 172, 21, 5]
abbrev dktL_law_89 : List UInt8 := dkwL_law_89 ++ dktL_law_90
def dkwL_law_88 : List UInt8 := [21, 4, 6, 96, 46, 45, 184, 1, 8, 54, 5, 44, 42, 21, 4, 4, 96, 46, 42, 21, 4, 5, 96, 46]
abbrev dktL_law_88 : List UInt8 := dkwL_law_88 ++ dktL_law_89
def dkwL_law_87 : List UInt8 := [148, 153, 0, 5, 3, 172, 167, 2, 110, 43, 42, 21, 4, 4, 96, 46, 42, 21, 4, 5, 96, 46, 42]
abbrev dktL_law_87 : List UInt8 := dkwL_law_87 ++ dktL_law_88
def dkwL_law_86 : List UInt8 := [54, 6, 44, 182, 0, 156, 21, 5, 159, 0, 5, 3, 172, 21, 5, 154, 0, 15, 45, 3, 47, 21, 6, 133]
abbrev dktL_law_86 : List UInt8 := dkwL_law_86 ++ dktL_law_87
def dkwL_law_85 : List UInt8 := [46, 42, 21, 4, 7, 96, 46, 42, 21, 4, 8, 96, 46, 42, 21, 4, 16, 6, 96, 46, 182, 1, 7]
abbrev dktL_law_85 : List UInt8 := dkwL_law_85 ++ dktL_law_86
def dkwL_law_84 : List UInt8 := [45, 184, 1, 4, 54, 5, 44, 42, 21, 4, 4, 96, 46, 42, 21, 4, 5, 96, 46, 42, 21, 4, 6, 96]
abbrev dktL_law_84 : List UInt8 := dkwL_law_84 ++ dktL_law_85
def dkwL_law_83 : List UInt8 := [21, 4, 6, 96, 46, 42, 21, 4, 7, 96, 46, 42, 21, 4, 8, 96, 46, 42, 21, 4, 16, 6, 96, 46]
abbrev dktL_law_83 : List UInt8 := dkwL_law_83 ++ dktL_law_84
def dkwL_law_82 : List UInt8 := [148, 153, 0, 5, 3, 172, 167, 2, 228, 43, 42, 21, 4, 4, 96, 46, 42, 21, 4, 5, 96, 46, 42]
abbrev dktL_law_82 : List UInt8 := dkwL_law_82 ++ dktL_law_83
def dkwL_law_81 : List UInt8 := [54, 6, 44, 182, 0, 156, 21, 5, 159, 0, 5, 3, 172, 21, 5, 154, 0, 15, 45, 3, 47, 21, 6, 133]
abbrev dktL_law_81 : List UInt8 := dkwL_law_81 ++ dktL_law_82
def dkwL_law_80 : List UInt8 := [43, 42, 21, 4, 4, 96, 46, 45, 184, 1, 1, 54, 5, 44, 42, 21, 4, 4, 96, 46, 182, 1, 3]
abbrev dktL_law_80 : List UInt8 := dkwL_law_80 ++ dktL_law_81
def dkwL_law_79 : List UInt8 := [153, 0, 21, 24, 5, 24, 5, 151, 153, 0, 11, 24, 7, 24, 7, 151, 154, 0, 5, 3, 172, 167, 3, 28]
abbrev dktL_law_79 : List UInt8 := dkwL_law_79 ++ dktL_law_80
def dkwL_law_78 : List UInt8 := [3, 172, 167, 3, 71, 43, 182, 0, 252, 141, 57, 5, 44, 182, 1, 0, 141, 57, 7, 24, 5, 24, 7, 151]
abbrev dktL_law_78 : List UInt8 := dkwL_law_78 ++ dktL_law_79
def dkwL_law_77 : List UInt8 := [24, 5, 24, 7, 151, 153, 0, 21, 24, 5, 24, 5, 151, 153, 0, 11, 24, 7, 24, 7, 151, 154, 0, 5]
abbrev dktL_law_77 : List UInt8 := dkwL_law_77 ++ dktL_law_78
def dkwL_law_76 : List UInt8 := [182, 0, 243, 44, 182, 0, 246, 159, 3, 114, 3, 172, 43, 182, 0, 247, 57, 5, 44, 182, 0, 251, 57, 7]
abbrev dktL_law_76 : List UInt8 := dkwL_law_76 ++ dktL_law_77
def dkwL_law_75 : List UInt8 := [172, 21, 5, 154, 0, 15, 45, 3, 47, 21, 6, 133, 148, 153, 0, 5, 3, 172, 167, 3, 125, 43]
abbrev dktL_law_75 : List UInt8 := dkwL_law_75 ++ dktL_law_76
def dkwL_law_74 : List UInt8 := [54, 5, 44, 42, 21, 4, 4, 96, 46, 182, 0, 242, 54, 6, 44, 182, 0, 156, 21, 5, 159, 0, 5, 3]
abbrev dktL_law_74 : List UInt8 := dkwL_law_74 ++ dktL_law_75
def dkwL_law_73 : List UInt8 := [21, 6, 133, 148, 153, 0, 5, 3, 172, 167, 3, 181, 43, 42, 21, 4, 4, 96, 46, 45, 184, 0, 240]
abbrev dktL_law_73 : List UInt8 := dkwL_law_73 ++ dktL_law_74
def dkwL_law_72 : List UInt8 := [182, 0, 239, 54, 6, 44, 182, 0, 156, 21, 5, 159, 0, 5, 3, 172, 21, 5, 154, 0, 15, 45, 3, 47]
abbrev dktL_law_72 : List UInt8 := dkwL_law_72 ++ dktL_law_73
def dkwL_law_71 : List UInt8 := [167, 3, 237, 43, 42, 21, 4, 4, 96, 46, 45, 184, 0, 237, 54, 5, 44, 42, 21, 4, 4, 96, 46]
abbrev dktL_law_71 : List UInt8 := dkwL_law_71 ++ dktL_law_72
def dkwL_law_70 : List UInt8 := [21, 5, 159, 0, 5, 3, 172, 21, 5, 154, 0, 15, 45, 3, 47, 21, 6, 133, 148, 153, 0, 5, 3, 172]
abbrev dktL_law_70 : List UInt8 := dkwL_law_70 ++ dktL_law_71
def dkwL_law_69 : List UInt8 := [96, 46, 42, 21, 4, 5, 96, 46, 42, 21, 4, 6, 96, 46, 182, 0, 236, 54, 6, 44, 182, 0, 156]
abbrev dktL_law_69 : List UInt8 := dkwL_law_69 ++ dktL_law_70
def dkwL_law_68 : List UInt8 := [46, 42, 21, 4, 5, 96, 46, 42, 21, 4, 6, 96, 46, 45, 184, 0, 234, 54, 5, 44, 42, 21, 4, 4]
abbrev dktL_law_68 : List UInt8 := dkwL_law_68 ++ dktL_law_69
def dkwL_law_67 : List UInt8 := [154, 0, 15, 45, 3, 47, 21, 6, 133, 148, 153, 0, 5, 3, 172, 167, 4, 61, 43, 42, 21, 4, 4, 96]
abbrev dktL_law_67 : List UInt8 := dkwL_law_67 ++ dktL_law_68
def dkwL_law_66 : List UInt8 := [21, 4, 4, 96, 46, 182, 0, 233, 54, 6, 44, 182, 0, 156, 21, 5, 159, 0, 5, 3, 172, 21, 5]
abbrev dktL_law_66 : List UInt8 := dkwL_law_66 ++ dktL_law_67
def dkwL_law_65 : List UInt8 := [148, 153, 0, 5, 3, 172, 167, 4, 117, 43, 42, 21, 4, 4, 96, 46, 45, 184, 0, 231, 54, 5, 44, 42]
abbrev dktL_law_65 : List UInt8 := dkwL_law_65 ++ dktL_law_66
def dkwL_law_64 : List UInt8 := [54, 6, 44, 182, 0, 156, 21, 5, 159, 0, 5, 3, 172, 21, 5, 154, 0, 15, 45, 3, 47, 21, 6, 133]
abbrev dktL_law_64 : List UInt8 := dkwL_law_64 ++ dktL_law_65
def dkwL_law_63 : List UInt8 := [172, 43, 42, 21, 4, 4, 96, 46, 45, 184, 0, 228, 54, 5, 44, 42, 21, 4, 4, 96, 46, 182, 0, 230]
abbrev dktL_law_63 : List UInt8 := dkwL_law_63 ++ dktL_law_64
def dkwL_law_62 : List UInt8 := [21, 6, 133, 148, 153, 0, 5, 3, 172, 167, 4, 186, 43, 182, 0, 224, 44, 182, 0, 227, 159, 4, 175, 3]
abbrev dktL_law_62 : List UInt8 := dkwL_law_62 ++ dktL_law_63
def dkwL_law_61 : List UInt8 := [182, 0, 223, 54, 6, 44, 182, 0, 156, 21, 5, 159, 0, 5, 3, 172, 21, 5, 154, 0, 15, 45, 3, 47]
abbrev dktL_law_61 : List UInt8 := dkwL_law_61 ++ dktL_law_62
def dkwL_law_60 : List UInt8 := [184, 0, 221, 54, 5, 44, 42, 21, 4, 4, 96, 46, 42, 21, 4, 5, 96, 46, 42, 21, 4, 6, 96, 46]
abbrev dktL_law_60 : List UInt8 := dkwL_law_60 ++ dktL_law_61
def dkwL_law_59 : List UInt8 := [167, 5, 10, 43, 42, 21, 4, 4, 96, 46, 42, 21, 4, 5, 96, 46, 42, 21, 4, 6, 96, 46, 45]
abbrev dktL_law_59 : List UInt8 := dkwL_law_59 ++ dktL_law_60
def dkwL_law_58 : List UInt8 := [21, 5, 159, 0, 5, 3, 172, 21, 5, 154, 0, 15, 45, 3, 47, 21, 6, 133, 148, 153, 0, 5, 3, 172]
abbrev dktL_law_58 : List UInt8 := dkwL_law_58 ++ dktL_law_59
def dkwL_law_57 : List UInt8 := [46, 45, 184, 0, 218, 54, 5, 44, 42, 21, 4, 4, 96, 46, 182, 0, 220, 54, 6, 44, 182, 0, 156]
abbrev dktL_law_57 : List UInt8 := dkwL_law_57 ++ dktL_law_58
def dkwL_law_56 : List UInt8 := [154, 0, 15, 45, 3, 47, 21, 6, 133, 148, 153, 0, 5, 3, 172, 167, 5, 66, 43, 42, 21, 4, 4, 96]
abbrev dktL_law_56 : List UInt8 := dkwL_law_56 ++ dktL_law_57
def dkwL_law_55 : List UInt8 := [21, 4, 4, 96, 46, 182, 0, 217, 54, 6, 44, 182, 0, 156, 21, 5, 159, 0, 5, 3, 172, 21, 5]
abbrev dktL_law_55 : List UInt8 := dkwL_law_55 ++ dktL_law_56
def dkwL_law_54 : List UInt8 := [153, 0, 5, 3, 172, 167, 5, 122, 43, 42, 21, 4, 4, 96, 46, 45, 184, 0, 215, 54, 5, 44, 42]
abbrev dktL_law_54 : List UInt8 := dkwL_law_54 ++ dktL_law_55
def dkwL_law_53 : List UInt8 := [182, 0, 156, 21, 5, 159, 0, 5, 3, 172, 21, 5, 154, 0, 15, 45, 3, 47, 21, 6, 133, 148]
abbrev dktL_law_53 : List UInt8 := dkwL_law_53 ++ dktL_law_54
def dkwL_law_52 : List UInt8 := [21, 4, 4, 96, 46, 42, 21, 4, 5, 96, 46, 42, 21, 4, 6, 96, 46, 182, 0, 214, 54, 6, 44]
abbrev dktL_law_52 : List UInt8 := dkwL_law_52 ++ dktL_law_53
def dkwL_law_51 : List UInt8 := [4, 96, 46, 42, 21, 4, 5, 96, 46, 42, 21, 4, 6, 96, 46, 45, 184, 0, 212, 54, 5, 44, 42]
abbrev dktL_law_51 : List UInt8 := dkwL_law_51 ++ dktL_law_52
def dkwL_law_50 : List UInt8 := [21, 5, 154, 0, 15, 45, 3, 47, 21, 6, 133, 148, 153, 0, 5, 3, 172, 167, 5, 202, 43, 42, 21, 4]
abbrev dktL_law_50 : List UInt8 := dkwL_law_50 ++ dktL_law_51
def dkwL_law_49 : List UInt8 := [96, 46, 42, 21, 4, 6, 96, 46, 182, 0, 211, 54, 6, 44, 182, 0, 156, 21, 5, 159, 0, 5, 3, 172]
abbrev dktL_law_49 : List UInt8 := dkwL_law_49 ++ dktL_law_50
def dkwL_law_48 : List UInt8 := [46, 42, 21, 4, 6, 96, 46, 45, 184, 0, 209, 54, 5, 44, 42, 21, 4, 4, 96, 46, 42, 21, 4, 5]
abbrev dktL_law_48 : List UInt8 := dkwL_law_48 ++ dktL_law_49
def dkwL_law_47 : List UInt8 := [182, 0, 205, 44, 182, 0, 208, 159, 6, 28, 3, 172, 43, 42, 21, 4, 4, 96, 46, 42, 21, 4, 5, 96]
abbrev dktL_law_47 : List UInt8 := dkwL_law_47 ++ dktL_law_48
def dkwL_law_46 : List UInt8 := [182, 0, 200, 159, 6, 54, 3, 172, 43, 182, 0, 201, 44, 182, 0, 204, 159, 6, 41, 3, 172, 43]
abbrev dktL_law_46 : List UInt8 := dkwL_law_46 ++ dktL_law_47
def dkwL_law_45 : List UInt8 := [154, 0, 15, 45, 3, 47, 21, 6, 133, 148, 153, 0, 5, 3, 172, 167, 6, 65, 43, 182, 0, 197, 44]
abbrev dktL_law_45 : List UInt8 := dkwL_law_45 ++ dktL_law_46
def dkwL_law_44 : List UInt8 := [21, 4, 4, 96, 46, 182, 0, 196, 54, 6, 44, 182, 0, 156, 21, 5, 159, 0, 5, 3, 172, 21, 5]
abbrev dktL_law_44 : List UInt8 := dkwL_law_44 ++ dktL_law_45
def dkwL_law_43 : List UInt8 := [153, 0, 5, 3, 172, 167, 6, 121, 43, 42, 21, 4, 4, 96, 46, 45, 184, 0, 194, 54, 5, 44, 42]
abbrev dktL_law_43 : List UInt8 := dkwL_law_43 ++ dktL_law_44
def dkwL_law_42 : List UInt8 := [182, 0, 156, 21, 5, 159, 0, 5, 3, 172, 21, 5, 154, 0, 15, 45, 3, 47, 21, 6, 133, 148]
abbrev dktL_law_42 : List UInt8 := dkwL_law_42 ++ dktL_law_43
def dkwL_law_41 : List UInt8 := [184, 0, 191, 54, 5, 44, 42, 21, 4, 4, 96, 46, 42, 21, 4, 5, 96, 46, 182, 0, 193, 54, 6, 44]
abbrev dktL_law_41 : List UInt8 := dkwL_law_41 ++ dktL_law_42
def dkwL_law_40 : List UInt8 := [148, 153, 0, 5, 3, 172, 167, 6, 189, 43, 42, 21, 4, 4, 96, 46, 42, 21, 4, 5, 96, 46, 45]
abbrev dktL_law_40 : List UInt8 := dkwL_law_40 ++ dktL_law_41
def dkwL_law_39 : List UInt8 := [54, 6, 44, 182, 0, 156, 21, 5, 159, 0, 5, 3, 172, 21, 5, 154, 0, 15, 45, 3, 47, 21, 6, 133]
abbrev dktL_law_39 : List UInt8 := dkwL_law_39 ++ dktL_law_40
def dkwL_law_38 : List UInt8 := [46, 45, 184, 0, 188, 54, 5, 44, 42, 21, 4, 4, 96, 46, 42, 21, 4, 5, 96, 46, 182, 0, 190]
abbrev dktL_law_38 : List UInt8 := dkwL_law_38 ++ dktL_law_39
def dkwL_law_37 : List UInt8 := [21, 6, 133, 148, 153, 0, 5, 3, 172, 167, 7, 1, 43, 42, 21, 4, 4, 96, 46, 42, 21, 4, 5, 96]
abbrev dktL_law_37 : List UInt8 := dkwL_law_37 ++ dktL_law_38
def dkwL_law_36 : List UInt8 := [182, 0, 187, 54, 6, 44, 182, 0, 156, 21, 5, 159, 0, 5, 3, 172, 21, 5, 154, 0, 15, 45, 3, 47]
abbrev dktL_law_36 : List UInt8 := dkwL_law_36 ++ dktL_law_37
def dkwL_law_35 : List UInt8 := [167, 7, 57, 43, 42, 21, 4, 4, 96, 46, 45, 184, 0, 185, 54, 5, 44, 42, 21, 4, 4, 96, 46]
abbrev dktL_law_35 : List UInt8 := dkwL_law_35 ++ dktL_law_36
def dkwL_law_34 : List UInt8 := [21, 5, 159, 0, 5, 3, 172, 21, 5, 154, 0, 15, 45, 3, 47, 21, 6, 133, 148, 153, 0, 5, 3, 172]
abbrev dktL_law_34 : List UInt8 := dkwL_law_34 ++ dktL_law_35
def dkwL_law_33 : List UInt8 := [46, 45, 184, 0, 182, 54, 5, 44, 42, 21, 4, 4, 96, 46, 182, 0, 184, 54, 6, 44, 182, 0, 156]
abbrev dktL_law_33 : List UInt8 := dkwL_law_33 ++ dktL_law_34
def dkwL_law_32 : List UInt8 := [154, 0, 15, 45, 3, 47, 21, 6, 133, 148, 153, 0, 5, 3, 172, 167, 7, 113, 43, 42, 21, 4, 4, 96]
abbrev dktL_law_32 : List UInt8 := dkwL_law_32 ++ dktL_law_33
def dkwL_law_31 : List UInt8 := [21, 4, 6, 96, 46, 182, 0, 181, 54, 6, 44, 182, 0, 156, 21, 5, 159, 0, 5, 3, 172, 21, 5]
abbrev dktL_law_31 : List UInt8 := dkwL_law_31 ++ dktL_law_32
def dkwL_law_30 : List UInt8 := [6, 96, 46, 45, 184, 0, 179, 54, 5, 44, 42, 21, 4, 4, 96, 46, 42, 21, 4, 5, 96, 46, 42]
abbrev dktL_law_30 : List UInt8 := dkwL_law_30 ++ dktL_law_31
def dkwL_law_29 : List UInt8 := [153, 0, 5, 3, 172, 167, 7, 193, 43, 42, 21, 4, 4, 96, 46, 42, 21, 4, 5, 96, 46, 42, 21, 4]
abbrev dktL_law_29 : List UInt8 := dkwL_law_29 ++ dktL_law_30
def dkwL_law_28 : List UInt8 := [182, 0, 156, 21, 5, 159, 0, 5, 3, 172, 21, 5, 154, 0, 15, 45, 3, 47, 21, 6, 133, 148]
abbrev dktL_law_28 : List UInt8 := dkwL_law_28 ++ dktL_law_29
def dkwL_law_27 : List UInt8 := [184, 0, 176, 54, 5, 44, 42, 21, 4, 4, 96, 46, 42, 21, 4, 5, 96, 46, 182, 0, 178, 54, 6, 44]
abbrev dktL_law_27 : List UInt8 := dkwL_law_27 ++ dktL_law_28
def dkwL_law_26 : List UInt8 := [148, 153, 0, 5, 3, 172, 167, 8, 5, 43, 42, 21, 4, 4, 96, 46, 42, 21, 4, 5, 96, 46, 45]
abbrev dktL_law_26 : List UInt8 := dkwL_law_26 ++ dktL_law_27
def dkwL_law_25 : List UInt8 := [54, 6, 44, 182, 0, 156, 21, 5, 159, 0, 5, 3, 172, 21, 5, 154, 0, 15, 45, 3, 47, 21, 6, 133]
abbrev dktL_law_25 : List UInt8 := dkwL_law_25 ++ dktL_law_26
def dkwL_law_24 : List UInt8 := [46, 45, 184, 0, 173, 54, 5, 44, 42, 21, 4, 4, 96, 46, 42, 21, 4, 5, 96, 46, 182, 0, 175]
abbrev dktL_law_24 : List UInt8 := dkwL_law_24 ++ dktL_law_25
def dkwL_law_23 : List UInt8 := [21, 6, 133, 148, 153, 0, 5, 3, 172, 167, 8, 73, 43, 42, 21, 4, 4, 96, 46, 42, 21, 4, 5, 96]
abbrev dktL_law_23 : List UInt8 := dkwL_law_23 ++ dktL_law_24
def dkwL_law_22 : List UInt8 := [182, 0, 172, 54, 6, 44, 182, 0, 156, 21, 5, 159, 0, 5, 3, 172, 21, 5, 154, 0, 15, 45, 3, 47]
abbrev dktL_law_22 : List UInt8 := dkwL_law_22 ++ dktL_law_23
def dkwL_law_21 : List UInt8 := [184, 0, 169, 54, 5, 44, 42, 21, 4, 4, 96, 46, 42, 21, 4, 5, 96, 46, 42, 21, 4, 6, 96, 46]
abbrev dktL_law_21 : List UInt8 := dkwL_law_21 ++ dktL_law_22
def dkwL_law_20 : List UInt8 := [167, 8, 153, 43, 42, 21, 4, 4, 96, 46, 42, 21, 4, 5, 96, 46, 42, 21, 4, 6, 96, 46, 45]
abbrev dktL_law_20 : List UInt8 := dkwL_law_20 ++ dktL_law_21
def dkwL_law_19 : List UInt8 := [159, 0, 5, 3, 172, 21, 5, 154, 0, 15, 45, 3, 47, 21, 6, 133, 148, 153, 0, 5, 3, 172]
abbrev dktL_law_19 : List UInt8 := dkwL_law_19 ++ dktL_law_20
def dkwL_law_18 : List UInt8 := [21, 4, 4, 96, 46, 42, 21, 4, 5, 96, 46, 182, 0, 168, 54, 6, 44, 182, 0, 156, 21, 5]
abbrev dktL_law_18 : List UInt8 := dkwL_law_18 ++ dktL_law_19
def dkwL_law_17 : List UInt8 := [167, 8, 221, 43, 42, 21, 4, 4, 96, 46, 42, 21, 4, 5, 96, 46, 45, 184, 0, 166, 54, 5, 44, 42]
abbrev dktL_law_17 : List UInt8 := dkwL_law_17 ++ dktL_law_18
def dkwL_law_16 : List UInt8 := [159, 0, 5, 3, 172, 21, 5, 154, 0, 15, 45, 3, 47, 21, 6, 133, 148, 153, 0, 5, 3, 172]
abbrev dktL_law_16 : List UInt8 := dkwL_law_16 ++ dktL_law_17
def dkwL_law_15 : List UInt8 := [21, 4, 4, 96, 46, 42, 21, 4, 5, 96, 46, 182, 0, 165, 54, 6, 44, 182, 0, 156, 21, 5]
abbrev dktL_law_15 : List UInt8 := dkwL_law_15 ++ dktL_law_16
def dkwL_law_14 : List UInt8 := [167, 9, 33, 43, 42, 21, 4, 4, 96, 46, 42, 21, 4, 5, 96, 46, 45, 184, 0, 163, 54, 5, 44, 42]
abbrev dktL_law_14 : List UInt8 := dkwL_law_14 ++ dktL_law_15
def dkwL_law_13 : List UInt8 := [159, 0, 5, 3, 172, 21, 5, 154, 0, 15, 45, 3, 47, 21, 6, 133, 148, 153, 0, 5, 3, 172]
abbrev dktL_law_13 : List UInt8 := dkwL_law_13 ++ dktL_law_14
def dkwL_law_12 : List UInt8 := [21, 4, 4, 96, 46, 42, 21, 4, 5, 96, 46, 182, 0, 162, 54, 6, 44, 182, 0, 156, 21, 5]
abbrev dktL_law_12 : List UInt8 := dkwL_law_12 ++ dktL_law_13
def dkwL_law_11 : List UInt8 := [167, 9, 101, 43, 42, 21, 4, 4, 96, 46, 42, 21, 4, 5, 96, 46, 45, 184, 0, 159, 54, 5, 44, 42]
abbrev dktL_law_11 : List UInt8 := dkwL_law_11 ++ dktL_law_12
def dkwL_law_10 : List UInt8 := [21, 5, 159, 0, 5, 3, 172, 21, 5, 154, 0, 15, 45, 3, 47, 21, 6, 133, 148, 153, 0, 5, 3, 172]
abbrev dktL_law_10 : List UInt8 := dkwL_law_10 ++ dktL_law_11
def dkwL_law_9 : List UInt8 := [46, 45, 184, 0, 150, 54, 5, 44, 42, 21, 4, 4, 96, 46, 182, 0, 155, 54, 6, 44, 182, 0, 156]
abbrev dktL_law_9 : List UInt8 := dkwL_law_9 ++ dktL_law_10
def dkwL_law_8 : List UInt8 := [159, 9, 172, 3, 172, 43, 182, 0, 146, 44, 182, 0, 149, 159, 9, 159, 3, 172, 43, 42, 21, 4, 4, 96]
abbrev dktL_law_8 : List UInt8 := dkwL_law_8 ++ dktL_law_9
def dkwL_law_7 : List UInt8 := [3, 172, 43, 182, 0, 138, 44, 182, 0, 141, 159, 9, 185, 3, 172, 43, 182, 0, 142, 44, 182, 0, 145]
abbrev dktL_law_7 : List UInt8 := dkwL_law_7 ++ dktL_law_8
def dkwL_law_6 : List UInt8 := [172, 43, 42, 21, 4, 4, 96, 46, 182, 0, 133, 44, 42, 21, 4, 4, 96, 46, 182, 0, 137, 159, 9, 198]
abbrev dktL_law_6 : List UInt8 := dkwL_law_6 ++ dktL_law_7
def dkwL_law_5 : List UInt8 := [21, 4, 6, 96, 46, 42, 21, 4, 7, 96, 46, 42, 21, 4, 8, 96, 46, 182, 0, 132, 159, 9, 223, 3]
abbrev dktL_law_5 : List UInt8 := dkwL_law_5 ++ dktL_law_6
def dkwL_law_4 : List UInt8 := [46, 42, 21, 4, 8, 96, 46, 182, 0, 128, 44, 42, 21, 4, 4, 96, 46, 42, 21, 4, 5, 96, 46, 42]
abbrev dktL_law_4 : List UInt8 := dkwL_law_4 ++ dktL_law_5
def dkwL_law_3 : List UInt8 := [43, 42, 21, 4, 4, 96, 46, 42, 21, 4, 5, 96, 46, 42, 21, 4, 6, 96, 46, 42, 21, 4, 7, 96]
abbrev dktL_law_3 : List UInt8 := dkwL_law_3 ++ dktL_law_4
def dkwL_law_2 : List UInt8 := [170, 0, 0, 0, 0, 0, 10, 247, 0, 0, 0, 0, 0, 0, 0, 48, 0, 0, 0, 212, 0, 0, 1, 29, 0, 0, 1, 54, 0, 0, 1, 67, 0, 0, 1, 80, 0, 0, 1, 93, 0, 0, 1, 149, 0, 0, 1, 217, 0, 0, 2, 29, 0, 0, 2, 97, 0, 0, 2, 177, 0, 0, 2, 245, 0, 0, 3, 57, 0, 0, 3, 137, 0, 0, 3, 193, 0, 0, 3, 249, 0, 0, 4, 61, 0, 0, 4, 129, 0, 0, 4, 185, 0, 0, 4, 198, 0, 0, 4, 211, 0, 0, 4, 224, 0, 0, 5, 48, 0, 0, 5, 128, 0, 0, 5, 184, 0, 0, 5, 240, 0, 0, 6, 64, 0, 0, 6, 77, 0, 0, 6, 133, 0, 0, 6, 189, 0, 0, 7, 13, 0, 0, 7, 69, 0, 0, 7, 125, 0, 0, 7, 138, 0, 0, 7, 179, 0, 0, 7, 222, 0, 0, 8, 22, 0, 0, 8, 140, 0, 0, 8, 220, 0, 0, 9, 20, 0, 0, 9, 88, 0, 0, 9, 156, 0, 0, 9, 212, 0, 0, 9, 253, 0, 0, 10, 41, 0, 0, 10, 97, 0, 0, 10, 165, 0, 0, 10, 190, 0, 0, 10, 203]
abbrev dktL_law_2 : List UInt8 := dkwL_law_2 ++ dktL_law_3
def dkwL_law_1 : List UInt8 := [21, 4, 42, 190, 16, 7, 100, 163, 11, 7, 42, 21, 4, 46, 16, 63, 126]
abbrev dktL_law_1 : List UInt8 := dkwL_law_1 ++ dktL_law_2
def dkwL_law_0 : List UInt8 := [187, 0, 8, 89, 183, 0, 124, 76, 187, 0, 125, 89, 183, 0, 127, 77, 4, 188, 11, 78, 3, 54, 4]
abbrev dktL_law_0 : List UInt8 := dkwL_law_0 ++ dktL_law_1
theorem dksL_law_0 : cL_law.data.toList.drop 0 = dktL_law_0 := by decide +kernel
theorem dksL_law_1 : cL_law.data.toList.drop 23 = dktL_law_1 := dk_seg dksL_law_0 23 rfl rfl
theorem dksL_law_2 : cL_law.data.toList.drop 40 = dktL_law_2 := dk_seg dksL_law_1 17 rfl rfl
theorem dksL_law_3 : cL_law.data.toList.drop 252 = dktL_law_3 := dk_seg dksL_law_2 212 rfl rfl
theorem dksL_law_4 : cL_law.data.toList.drop 276 = dktL_law_4 := dk_seg dksL_law_3 24 rfl rfl
theorem dksL_law_5 : cL_law.data.toList.drop 300 = dktL_law_5 := dk_seg dksL_law_4 24 rfl rfl
theorem dksL_law_6 : cL_law.data.toList.drop 324 = dktL_law_6 := dk_seg dksL_law_5 24 rfl rfl
theorem dksL_law_7 : cL_law.data.toList.drop 348 = dktL_law_7 := dk_seg dksL_law_6 24 rfl rfl
theorem dksL_law_8 : cL_law.data.toList.drop 371 = dktL_law_8 := dk_seg dksL_law_7 23 rfl rfl
theorem dksL_law_9 : cL_law.data.toList.drop 395 = dktL_law_9 := dk_seg dksL_law_8 24 rfl rfl
theorem dksL_law_10 : cL_law.data.toList.drop 418 = dktL_law_10 := dk_seg dksL_law_9 23 rfl rfl
theorem dksL_law_11 : cL_law.data.toList.drop 442 = dktL_law_11 := dk_seg dksL_law_10 24 rfl rfl
theorem dksL_law_12 : cL_law.data.toList.drop 466 = dktL_law_12 := dk_seg dksL_law_11 24 rfl rfl
theorem dksL_law_13 : cL_law.data.toList.drop 488 = dktL_law_13 := dk_seg dksL_law_12 22 rfl rfl
theorem dksL_law_14 : cL_law.data.toList.drop 510 = dktL_law_14 := dk_seg dksL_law_13 22 rfl rfl
theorem dksL_law_15 : cL_law.data.toList.drop 534 = dktL_law_15 := dk_seg dksL_law_14 24 rfl rfl
theorem dksL_law_16 : cL_law.data.toList.drop 556 = dktL_law_16 := dk_seg dksL_law_15 22 rfl rfl
theorem dksL_law_17 : cL_law.data.toList.drop 578 = dktL_law_17 := dk_seg dksL_law_16 22 rfl rfl
theorem dksL_law_18 : cL_law.data.toList.drop 602 = dktL_law_18 := dk_seg dksL_law_17 24 rfl rfl
theorem dksL_law_19 : cL_law.data.toList.drop 624 = dktL_law_19 := dk_seg dksL_law_18 22 rfl rfl
theorem dksL_law_20 : cL_law.data.toList.drop 646 = dktL_law_20 := dk_seg dksL_law_19 22 rfl rfl
theorem dksL_law_21 : cL_law.data.toList.drop 669 = dktL_law_21 := dk_seg dksL_law_20 23 rfl rfl
theorem dksL_law_22 : cL_law.data.toList.drop 693 = dktL_law_22 := dk_seg dksL_law_21 24 rfl rfl
theorem dksL_law_23 : cL_law.data.toList.drop 717 = dktL_law_23 := dk_seg dksL_law_22 24 rfl rfl
theorem dksL_law_24 : cL_law.data.toList.drop 741 = dktL_law_24 := dk_seg dksL_law_23 24 rfl rfl
theorem dksL_law_25 : cL_law.data.toList.drop 764 = dktL_law_25 := dk_seg dksL_law_24 23 rfl rfl
theorem dksL_law_26 : cL_law.data.toList.drop 788 = dktL_law_26 := dk_seg dksL_law_25 24 rfl rfl
theorem dksL_law_27 : cL_law.data.toList.drop 811 = dktL_law_27 := dk_seg dksL_law_26 23 rfl rfl
theorem dksL_law_28 : cL_law.data.toList.drop 835 = dktL_law_28 := dk_seg dksL_law_27 24 rfl rfl
theorem dksL_law_29 : cL_law.data.toList.drop 857 = dktL_law_29 := dk_seg dksL_law_28 22 rfl rfl
theorem dksL_law_30 : cL_law.data.toList.drop 881 = dktL_law_30 := dk_seg dksL_law_29 24 rfl rfl
theorem dksL_law_31 : cL_law.data.toList.drop 904 = dktL_law_31 := dk_seg dksL_law_30 23 rfl rfl
theorem dksL_law_32 : cL_law.data.toList.drop 927 = dktL_law_32 := dk_seg dksL_law_31 23 rfl rfl
theorem dksL_law_33 : cL_law.data.toList.drop 951 = dktL_law_33 := dk_seg dksL_law_32 24 rfl rfl
theorem dksL_law_34 : cL_law.data.toList.drop 974 = dktL_law_34 := dk_seg dksL_law_33 23 rfl rfl
theorem dksL_law_35 : cL_law.data.toList.drop 998 = dktL_law_35 := dk_seg dksL_law_34 24 rfl rfl
theorem dksL_law_36 : cL_law.data.toList.drop 1021 = dktL_law_36 := dk_seg dksL_law_35 23 rfl rfl
theorem dksL_law_37 : cL_law.data.toList.drop 1045 = dktL_law_37 := dk_seg dksL_law_36 24 rfl rfl
theorem dksL_law_38 : cL_law.data.toList.drop 1069 = dktL_law_38 := dk_seg dksL_law_37 24 rfl rfl
theorem dksL_law_39 : cL_law.data.toList.drop 1092 = dktL_law_39 := dk_seg dksL_law_38 23 rfl rfl
theorem dksL_law_40 : cL_law.data.toList.drop 1116 = dktL_law_40 := dk_seg dksL_law_39 24 rfl rfl
theorem dksL_law_41 : cL_law.data.toList.drop 1139 = dktL_law_41 := dk_seg dksL_law_40 23 rfl rfl
theorem dksL_law_42 : cL_law.data.toList.drop 1163 = dktL_law_42 := dk_seg dksL_law_41 24 rfl rfl
theorem dksL_law_43 : cL_law.data.toList.drop 1185 = dktL_law_43 := dk_seg dksL_law_42 22 rfl rfl
theorem dksL_law_44 : cL_law.data.toList.drop 1208 = dktL_law_44 := dk_seg dksL_law_43 23 rfl rfl
theorem dksL_law_45 : cL_law.data.toList.drop 1231 = dktL_law_45 := dk_seg dksL_law_44 23 rfl rfl
theorem dksL_law_46 : cL_law.data.toList.drop 1254 = dktL_law_46 := dk_seg dksL_law_45 23 rfl rfl
theorem dksL_law_47 : cL_law.data.toList.drop 1276 = dktL_law_47 := dk_seg dksL_law_46 22 rfl rfl
theorem dksL_law_48 : cL_law.data.toList.drop 1300 = dktL_law_48 := dk_seg dksL_law_47 24 rfl rfl
theorem dksL_law_49 : cL_law.data.toList.drop 1324 = dktL_law_49 := dk_seg dksL_law_48 24 rfl rfl
theorem dksL_law_50 : cL_law.data.toList.drop 1348 = dktL_law_50 := dk_seg dksL_law_49 24 rfl rfl
theorem dksL_law_51 : cL_law.data.toList.drop 1372 = dktL_law_51 := dk_seg dksL_law_50 24 rfl rfl
theorem dksL_law_52 : cL_law.data.toList.drop 1395 = dktL_law_52 := dk_seg dksL_law_51 23 rfl rfl
theorem dksL_law_53 : cL_law.data.toList.drop 1418 = dktL_law_53 := dk_seg dksL_law_52 23 rfl rfl
theorem dksL_law_54 : cL_law.data.toList.drop 1440 = dktL_law_54 := dk_seg dksL_law_53 22 rfl rfl
theorem dksL_law_55 : cL_law.data.toList.drop 1463 = dktL_law_55 := dk_seg dksL_law_54 23 rfl rfl
theorem dksL_law_56 : cL_law.data.toList.drop 1486 = dktL_law_56 := dk_seg dksL_law_55 23 rfl rfl
theorem dksL_law_57 : cL_law.data.toList.drop 1510 = dktL_law_57 := dk_seg dksL_law_56 24 rfl rfl
theorem dksL_law_58 : cL_law.data.toList.drop 1533 = dktL_law_58 := dk_seg dksL_law_57 23 rfl rfl
theorem dksL_law_59 : cL_law.data.toList.drop 1557 = dktL_law_59 := dk_seg dksL_law_58 24 rfl rfl
theorem dksL_law_60 : cL_law.data.toList.drop 1580 = dktL_law_60 := dk_seg dksL_law_59 23 rfl rfl
theorem dksL_law_61 : cL_law.data.toList.drop 1604 = dktL_law_61 := dk_seg dksL_law_60 24 rfl rfl
theorem dksL_law_62 : cL_law.data.toList.drop 1628 = dktL_law_62 := dk_seg dksL_law_61 24 rfl rfl
theorem dksL_law_63 : cL_law.data.toList.drop 1652 = dktL_law_63 := dk_seg dksL_law_62 24 rfl rfl
theorem dksL_law_64 : cL_law.data.toList.drop 1676 = dktL_law_64 := dk_seg dksL_law_63 24 rfl rfl
theorem dksL_law_65 : cL_law.data.toList.drop 1700 = dktL_law_65 := dk_seg dksL_law_64 24 rfl rfl
theorem dksL_law_66 : cL_law.data.toList.drop 1724 = dktL_law_66 := dk_seg dksL_law_65 24 rfl rfl
theorem dksL_law_67 : cL_law.data.toList.drop 1747 = dktL_law_67 := dk_seg dksL_law_66 23 rfl rfl
theorem dksL_law_68 : cL_law.data.toList.drop 1771 = dktL_law_68 := dk_seg dksL_law_67 24 rfl rfl
theorem dksL_law_69 : cL_law.data.toList.drop 1795 = dktL_law_69 := dk_seg dksL_law_68 24 rfl rfl
theorem dksL_law_70 : cL_law.data.toList.drop 1818 = dktL_law_70 := dk_seg dksL_law_69 23 rfl rfl
theorem dksL_law_71 : cL_law.data.toList.drop 1842 = dktL_law_71 := dk_seg dksL_law_70 24 rfl rfl
theorem dksL_law_72 : cL_law.data.toList.drop 1865 = dktL_law_72 := dk_seg dksL_law_71 23 rfl rfl
theorem dksL_law_73 : cL_law.data.toList.drop 1889 = dktL_law_73 := dk_seg dksL_law_72 24 rfl rfl
theorem dksL_law_74 : cL_law.data.toList.drop 1912 = dktL_law_74 := dk_seg dksL_law_73 23 rfl rfl
theorem dksL_law_75 : cL_law.data.toList.drop 1936 = dktL_law_75 := dk_seg dksL_law_74 24 rfl rfl
theorem dksL_law_76 : cL_law.data.toList.drop 1958 = dktL_law_76 := dk_seg dksL_law_75 22 rfl rfl
theorem dksL_law_77 : cL_law.data.toList.drop 1982 = dktL_law_77 := dk_seg dksL_law_76 24 rfl rfl
theorem dksL_law_78 : cL_law.data.toList.drop 2006 = dktL_law_78 := dk_seg dksL_law_77 24 rfl rfl
theorem dksL_law_79 : cL_law.data.toList.drop 2030 = dktL_law_79 := dk_seg dksL_law_78 24 rfl rfl
theorem dksL_law_80 : cL_law.data.toList.drop 2054 = dktL_law_80 := dk_seg dksL_law_79 24 rfl rfl
theorem dksL_law_81 : cL_law.data.toList.drop 2077 = dktL_law_81 := dk_seg dksL_law_80 23 rfl rfl
theorem dksL_law_82 : cL_law.data.toList.drop 2101 = dktL_law_82 := dk_seg dksL_law_81 24 rfl rfl
theorem dksL_law_83 : cL_law.data.toList.drop 2124 = dktL_law_83 := dk_seg dksL_law_82 23 rfl rfl
theorem dksL_law_84 : cL_law.data.toList.drop 2148 = dktL_law_84 := dk_seg dksL_law_83 24 rfl rfl
theorem dksL_law_85 : cL_law.data.toList.drop 2172 = dktL_law_85 := dk_seg dksL_law_84 24 rfl rfl
theorem dksL_law_86 : cL_law.data.toList.drop 2195 = dktL_law_86 := dk_seg dksL_law_85 23 rfl rfl
theorem dksL_law_87 : cL_law.data.toList.drop 2219 = dktL_law_87 := dk_seg dksL_law_86 24 rfl rfl
theorem dksL_law_88 : cL_law.data.toList.drop 2242 = dktL_law_88 := dk_seg dksL_law_87 23 rfl rfl
theorem dksL_law_89 : cL_law.data.toList.drop 2266 = dktL_law_89 := dk_seg dksL_law_88 24 rfl rfl
theorem dksL_law_90 : cL_law.data.toList.drop 2290 = dktL_law_90 := dk_seg dksL_law_89 24 rfl rfl
theorem dksL_law_91 : cL_law.data.toList.drop 2314 = dktL_law_91 := dk_seg dksL_law_90 24 rfl rfl
theorem dksL_law_92 : cL_law.data.toList.drop 2337 = dktL_law_92 := dk_seg dksL_law_91 23 rfl rfl
theorem dksL_law_93 : cL_law.data.toList.drop 2361 = dktL_law_93 := dk_seg dksL_law_92 24 rfl rfl
theorem dksL_law_94 : cL_law.data.toList.drop 2385 = dktL_law_94 := dk_seg dksL_law_93 24 rfl rfl
theorem dksL_law_95 : cL_law.data.toList.drop 2407 = dktL_law_95 := dk_seg dksL_law_94 22 rfl rfl
theorem dksL_law_96 : cL_law.data.toList.drop 2429 = dktL_law_96 := dk_seg dksL_law_95 22 rfl rfl
theorem dksL_law_97 : cL_law.data.toList.drop 2453 = dktL_law_97 := dk_seg dksL_law_96 24 rfl rfl
theorem dksL_law_98 : cL_law.data.toList.drop 2475 = dktL_law_98 := dk_seg dksL_law_97 22 rfl rfl
theorem dksL_law_99 : cL_law.data.toList.drop 2497 = dktL_law_99 := dk_seg dksL_law_98 22 rfl rfl
theorem dksL_law_100 : cL_law.data.toList.drop 2520 = dktL_law_100 := dk_seg dksL_law_99 23 rfl rfl
theorem dksL_law_101 : cL_law.data.toList.drop 2544 = dktL_law_101 := dk_seg dksL_law_100 24 rfl rfl
theorem dksL_law_102 : cL_law.data.toList.drop 2567 = dktL_law_102 := dk_seg dksL_law_101 23 rfl rfl
theorem dksL_law_103 : cL_law.data.toList.drop 2589 = dktL_law_103 := dk_seg dksL_law_102 22 rfl rfl
theorem dksL_law_104 : cL_law.data.toList.drop 2611 = dktL_law_104 := dk_seg dksL_law_103 22 rfl rfl
theorem dksL_law_105 : cL_law.data.toList.drop 2633 = dktL_law_105 := dk_seg dksL_law_104 22 rfl rfl
theorem dksL_law_106 : cL_law.data.toList.drop 2656 = dktL_law_106 := dk_seg dksL_law_105 23 rfl rfl
theorem dksL_law_107 : cL_law.data.toList.drop 2679 = dktL_law_107 := dk_seg dksL_law_106 23 rfl rfl
theorem dksL_law_108 : cL_law.data.toList.drop 2703 = dktL_law_108 := dk_seg dksL_law_107 24 rfl rfl
theorem dksL_law_109 : cL_law.data.toList.drop 2727 = dktL_law_109 := dk_seg dksL_law_108 24 rfl rfl
theorem dksL_law_110 : cL_law.data.toList.drop 2751 = dktL_law_110 := dk_seg dksL_law_109 24 rfl rfl
theorem dksL_law_111 : cL_law.data.toList.drop 2775 = dktL_law_111 := dk_seg dksL_law_110 24 rfl rfl
theorem dksL_law_112 : cL_law.data.toList.drop 2798 = dktL_law_112 := dk_seg dksL_law_111 23 rfl rfl
theorem dksL_law_113 : cL_law.data.toList.drop 2822 = dktL_law_113 := dk_seg dksL_law_112 24 rfl rfl
theorem dksL_law_114 : cL_law.data.toList.drop 2844 = dktL_law_114 := dk_seg dksL_law_113 22 rfl rfl
theorem dL_law_0 : decode cL_law 0 = .ok (.new 8, 3) := dk_187 0 8 (dk_at dksL_law_0 0 rfl rfl)
theorem dL_law_3 : decode cL_law 3 = .ok (.dup, 1) := dk_89 (dk_at dksL_law_0 3 rfl rfl)
theorem dL_law_4 : decode cL_law 4 = .ok (.invokespecial 124, 3) := dk_183 0 124 (dk_at dksL_law_0 4 rfl rfl)
theorem dL_law_7 : decode cL_law 7 = .ok (.astore_n 1, 1) := dk_76 (dk_at dksL_law_0 7 rfl rfl)
theorem dL_law_8 : decode cL_law 8 = .ok (.new 125, 3) := dk_187 0 125 (dk_at dksL_law_0 8 rfl rfl)
theorem dL_law_11 : decode cL_law 11 = .ok (.dup, 1) := dk_89 (dk_at dksL_law_0 11 rfl rfl)
theorem dL_law_12 : decode cL_law 12 = .ok (.invokespecial 127, 3) := dk_183 0 127 (dk_at dksL_law_0 12 rfl rfl)
theorem dL_law_15 : decode cL_law 15 = .ok (.astore_n 2, 1) := dk_77 (dk_at dksL_law_0 15 rfl rfl)
theorem dL_law_16 : decode cL_law 16 = .ok (.iconst 1, 1) := dk_4 (dk_at dksL_law_0 16 rfl rfl)
theorem dL_law_17 : decode cL_law 17 = .ok (.newarray .long, 2) := dk_188_11 (dk_at dksL_law_0 17 rfl rfl)
theorem dL_law_19 : decode cL_law 19 = .ok (.astore_n 3, 1) := dk_78 (dk_at dksL_law_0 19 rfl rfl)
theorem dL_law_20 : decode cL_law 20 = .ok (.iconst 0, 1) := dk_3 (dk_at dksL_law_0 20 rfl rfl)
theorem dL_law_21 : decode cL_law 21 = .ok (.istore 4, 2) := dk_54 4 (dk_at dksL_law_0 21 rfl rfl)
theorem dL_law_23 : decode cL_law 23 = .ok (.iload 4, 2) := dk_21 4 (dk_at dksL_law_1 0 rfl rfl)
theorem dL_law_25 : decode cL_law 25 = .ok (.aload_n 0, 1) := dk_42 (dk_at dksL_law_1 2 rfl rfl)
theorem dL_law_26 : decode cL_law 26 = .ok (.arraylength, 1) := dk_190 (dk_at dksL_law_1 3 rfl rfl)
theorem dL_law_27 : decode cL_law 27 = .ok (.bipush 7, 2) := dk_16 7 (dk_at dksL_law_1 4 rfl rfl)
theorem dL_law_29 : decode cL_law 29 = .ok (.isub, 1) := dk_100 (dk_at dksL_law_1 6 rfl rfl)
theorem dL_law_30 : decode cL_law 30 = .ok (.if_icmp .gt 2823, 3) := dk_163 11 7 (dk_at dksL_law_1 7 rfl rfl)
theorem dL_law_33 : decode cL_law 33 = .ok (.aload_n 0, 1) := dk_42 (dk_at dksL_law_1 10 rfl rfl)
theorem dL_law_34 : decode cL_law 34 = .ok (.iload 4, 2) := dk_21 4 (dk_at dksL_law_1 11 rfl rfl)
theorem dL_law_36 : decode cL_law 36 = .ok (.iaload, 1) := dk_46 (dk_at dksL_law_1 13 rfl rfl)
theorem dL_law_37 : decode cL_law 37 = .ok (.bipush 63, 2) := dk_16 63 (dk_at dksL_law_1 14 rfl rfl)
theorem dL_law_39 : decode cL_law 39 = .ok (.iand, 1) := dk_126 (dk_at dksL_law_1 16 rfl rfl)
theorem dL_law_40 : decode cL_law 40 = .ok (.tableswitch 2807 0 48 #[212, 285, 310, 323, 336, 349, 405, 473, 541, 609, 689, 757, 825, 905, 961, 1017, 1085, 1153, 1209, 1222, 1235, 1248, 1328, 1408, 1464, 1520, 1600, 1613, 1669, 1725, 1805, 1861, 1917, 1930, 1971, 2014, 2070, 2188, 2268, 2324, 2392, 2460, 2516, 2557, 2601, 2657, 2725, 2750, 2763], 212) := by decide +kernel
theorem dL_law_252 : decode cL_law 252 = .ok (.aload_n 1, 1) := dk_43 (dk_at dksL_law_3 0 rfl rfl)
theorem dL_law_253 : decode cL_law 253 = .ok (.aload_n 0, 1) := dk_42 (dk_at dksL_law_3 1 rfl rfl)
theorem dL_law_254 : decode cL_law 254 = .ok (.iload 4, 2) := dk_21 4 (dk_at dksL_law_3 2 rfl rfl)
theorem dL_law_256 : decode cL_law 256 = .ok (.iconst 1, 1) := dk_4 (dk_at dksL_law_3 4 rfl rfl)
theorem dL_law_257 : decode cL_law 257 = .ok (.iadd, 1) := dk_96 (dk_at dksL_law_3 5 rfl rfl)
theorem dL_law_258 : decode cL_law 258 = .ok (.iaload, 1) := dk_46 (dk_at dksL_law_3 6 rfl rfl)
theorem dL_law_259 : decode cL_law 259 = .ok (.aload_n 0, 1) := dk_42 (dk_at dksL_law_3 7 rfl rfl)
theorem dL_law_260 : decode cL_law 260 = .ok (.iload 4, 2) := dk_21 4 (dk_at dksL_law_3 8 rfl rfl)
theorem dL_law_262 : decode cL_law 262 = .ok (.iconst 2, 1) := dk_5 (dk_at dksL_law_3 10 rfl rfl)
theorem dL_law_263 : decode cL_law 263 = .ok (.iadd, 1) := dk_96 (dk_at dksL_law_3 11 rfl rfl)
theorem dL_law_264 : decode cL_law 264 = .ok (.iaload, 1) := dk_46 (dk_at dksL_law_3 12 rfl rfl)
theorem dL_law_265 : decode cL_law 265 = .ok (.aload_n 0, 1) := dk_42 (dk_at dksL_law_3 13 rfl rfl)
theorem dL_law_266 : decode cL_law 266 = .ok (.iload 4, 2) := dk_21 4 (dk_at dksL_law_3 14 rfl rfl)
theorem dL_law_268 : decode cL_law 268 = .ok (.iconst 3, 1) := dk_6 (dk_at dksL_law_3 16 rfl rfl)
theorem dL_law_269 : decode cL_law 269 = .ok (.iadd, 1) := dk_96 (dk_at dksL_law_3 17 rfl rfl)
theorem dL_law_270 : decode cL_law 270 = .ok (.iaload, 1) := dk_46 (dk_at dksL_law_3 18 rfl rfl)
theorem dL_law_271 : decode cL_law 271 = .ok (.aload_n 0, 1) := dk_42 (dk_at dksL_law_3 19 rfl rfl)
theorem dL_law_272 : decode cL_law 272 = .ok (.iload 4, 2) := dk_21 4 (dk_at dksL_law_3 20 rfl rfl)
theorem dL_law_274 : decode cL_law 274 = .ok (.iconst 4, 1) := dk_7 (dk_at dksL_law_3 22 rfl rfl)
theorem dL_law_275 : decode cL_law 275 = .ok (.iadd, 1) := dk_96 (dk_at dksL_law_3 23 rfl rfl)
theorem dL_law_276 : decode cL_law 276 = .ok (.iaload, 1) := dk_46 (dk_at dksL_law_4 0 rfl rfl)
theorem dL_law_277 : decode cL_law 277 = .ok (.aload_n 0, 1) := dk_42 (dk_at dksL_law_4 1 rfl rfl)
theorem dL_law_278 : decode cL_law 278 = .ok (.iload 4, 2) := dk_21 4 (dk_at dksL_law_4 2 rfl rfl)
theorem dL_law_280 : decode cL_law 280 = .ok (.iconst 5, 1) := dk_8 (dk_at dksL_law_4 4 rfl rfl)
theorem dL_law_281 : decode cL_law 281 = .ok (.iadd, 1) := dk_96 (dk_at dksL_law_4 5 rfl rfl)
theorem dL_law_282 : decode cL_law 282 = .ok (.iaload, 1) := dk_46 (dk_at dksL_law_4 6 rfl rfl)
theorem dL_law_283 : decode cL_law 283 = .ok (.invokevirtual 128, 3) := dk_182 0 128 (dk_at dksL_law_4 7 rfl rfl)
theorem dL_law_286 : decode cL_law 286 = .ok (.aload_n 2, 1) := dk_44 (dk_at dksL_law_4 10 rfl rfl)
theorem dL_law_287 : decode cL_law 287 = .ok (.aload_n 0, 1) := dk_42 (dk_at dksL_law_4 11 rfl rfl)
theorem dL_law_288 : decode cL_law 288 = .ok (.iload 4, 2) := dk_21 4 (dk_at dksL_law_4 12 rfl rfl)
theorem dL_law_290 : decode cL_law 290 = .ok (.iconst 1, 1) := dk_4 (dk_at dksL_law_4 14 rfl rfl)
theorem dL_law_291 : decode cL_law 291 = .ok (.iadd, 1) := dk_96 (dk_at dksL_law_4 15 rfl rfl)
theorem dL_law_292 : decode cL_law 292 = .ok (.iaload, 1) := dk_46 (dk_at dksL_law_4 16 rfl rfl)
theorem dL_law_293 : decode cL_law 293 = .ok (.aload_n 0, 1) := dk_42 (dk_at dksL_law_4 17 rfl rfl)
theorem dL_law_294 : decode cL_law 294 = .ok (.iload 4, 2) := dk_21 4 (dk_at dksL_law_4 18 rfl rfl)
theorem dL_law_296 : decode cL_law 296 = .ok (.iconst 2, 1) := dk_5 (dk_at dksL_law_4 20 rfl rfl)
theorem dL_law_297 : decode cL_law 297 = .ok (.iadd, 1) := dk_96 (dk_at dksL_law_4 21 rfl rfl)
theorem dL_law_298 : decode cL_law 298 = .ok (.iaload, 1) := dk_46 (dk_at dksL_law_4 22 rfl rfl)
theorem dL_law_299 : decode cL_law 299 = .ok (.aload_n 0, 1) := dk_42 (dk_at dksL_law_4 23 rfl rfl)
theorem dL_law_300 : decode cL_law 300 = .ok (.iload 4, 2) := dk_21 4 (dk_at dksL_law_5 0 rfl rfl)
theorem dL_law_302 : decode cL_law 302 = .ok (.iconst 3, 1) := dk_6 (dk_at dksL_law_5 2 rfl rfl)
theorem dL_law_303 : decode cL_law 303 = .ok (.iadd, 1) := dk_96 (dk_at dksL_law_5 3 rfl rfl)
theorem dL_law_304 : decode cL_law 304 = .ok (.iaload, 1) := dk_46 (dk_at dksL_law_5 4 rfl rfl)
theorem dL_law_305 : decode cL_law 305 = .ok (.aload_n 0, 1) := dk_42 (dk_at dksL_law_5 5 rfl rfl)
theorem dL_law_306 : decode cL_law 306 = .ok (.iload 4, 2) := dk_21 4 (dk_at dksL_law_5 6 rfl rfl)
theorem dL_law_308 : decode cL_law 308 = .ok (.iconst 4, 1) := dk_7 (dk_at dksL_law_5 8 rfl rfl)
theorem dL_law_309 : decode cL_law 309 = .ok (.iadd, 1) := dk_96 (dk_at dksL_law_5 9 rfl rfl)
theorem dL_law_310 : decode cL_law 310 = .ok (.iaload, 1) := dk_46 (dk_at dksL_law_5 10 rfl rfl)
theorem dL_law_311 : decode cL_law 311 = .ok (.aload_n 0, 1) := dk_42 (dk_at dksL_law_5 11 rfl rfl)
theorem dL_law_312 : decode cL_law 312 = .ok (.iload 4, 2) := dk_21 4 (dk_at dksL_law_5 12 rfl rfl)
theorem dL_law_314 : decode cL_law 314 = .ok (.iconst 5, 1) := dk_8 (dk_at dksL_law_5 14 rfl rfl)
theorem dL_law_315 : decode cL_law 315 = .ok (.iadd, 1) := dk_96 (dk_at dksL_law_5 15 rfl rfl)
theorem dL_law_316 : decode cL_law 316 = .ok (.iaload, 1) := dk_46 (dk_at dksL_law_5 16 rfl rfl)
theorem dL_law_317 : decode cL_law 317 = .ok (.invokevirtual 132, 3) := dk_182 0 132 (dk_at dksL_law_5 17 rfl rfl)
theorem dL_law_320 : decode cL_law 320 = .ok (.if_icmp .eq 2527, 3) := dk_159 9 223 (dk_at dksL_law_5 20 rfl rfl)
theorem dL_law_323 : decode cL_law 323 = .ok (.iconst 0, 1) := dk_3 (dk_at dksL_law_5 23 rfl rfl)
theorem dL_law_324 : decode cL_law 324 = .ok (.ireturn, 1) := dk_172 (dk_at dksL_law_6 0 rfl rfl)
theorem dL_law_325 : decode cL_law 325 = .ok (.aload_n 1, 1) := dk_43 (dk_at dksL_law_6 1 rfl rfl)
theorem dL_law_326 : decode cL_law 326 = .ok (.aload_n 0, 1) := dk_42 (dk_at dksL_law_6 2 rfl rfl)
theorem dL_law_327 : decode cL_law 327 = .ok (.iload 4, 2) := dk_21 4 (dk_at dksL_law_6 3 rfl rfl)
theorem dL_law_329 : decode cL_law 329 = .ok (.iconst 1, 1) := dk_4 (dk_at dksL_law_6 5 rfl rfl)
theorem dL_law_330 : decode cL_law 330 = .ok (.iadd, 1) := dk_96 (dk_at dksL_law_6 6 rfl rfl)
theorem dL_law_331 : decode cL_law 331 = .ok (.iaload, 1) := dk_46 (dk_at dksL_law_6 7 rfl rfl)
theorem dL_law_332 : decode cL_law 332 = .ok (.invokevirtual 133, 3) := dk_182 0 133 (dk_at dksL_law_6 8 rfl rfl)
theorem dL_law_335 : decode cL_law 335 = .ok (.aload_n 2, 1) := dk_44 (dk_at dksL_law_6 11 rfl rfl)
theorem dL_law_336 : decode cL_law 336 = .ok (.aload_n 0, 1) := dk_42 (dk_at dksL_law_6 12 rfl rfl)
theorem dL_law_337 : decode cL_law 337 = .ok (.iload 4, 2) := dk_21 4 (dk_at dksL_law_6 13 rfl rfl)
theorem dL_law_339 : decode cL_law 339 = .ok (.iconst 1, 1) := dk_4 (dk_at dksL_law_6 15 rfl rfl)
theorem dL_law_340 : decode cL_law 340 = .ok (.iadd, 1) := dk_96 (dk_at dksL_law_6 16 rfl rfl)
theorem dL_law_341 : decode cL_law 341 = .ok (.iaload, 1) := dk_46 (dk_at dksL_law_6 17 rfl rfl)
theorem dL_law_342 : decode cL_law 342 = .ok (.invokevirtual 137, 3) := dk_182 0 137 (dk_at dksL_law_6 18 rfl rfl)
theorem dL_law_345 : decode cL_law 345 = .ok (.if_icmp .eq 2502, 3) := dk_159 9 198 (dk_at dksL_law_6 21 rfl rfl)
theorem dL_law_348 : decode cL_law 348 = .ok (.iconst 0, 1) := dk_3 (dk_at dksL_law_7 0 rfl rfl)
theorem dL_law_349 : decode cL_law 349 = .ok (.ireturn, 1) := dk_172 (dk_at dksL_law_7 1 rfl rfl)
theorem dL_law_350 : decode cL_law 350 = .ok (.aload_n 1, 1) := dk_43 (dk_at dksL_law_7 2 rfl rfl)
theorem dL_law_351 : decode cL_law 351 = .ok (.invokevirtual 138, 3) := dk_182 0 138 (dk_at dksL_law_7 3 rfl rfl)
theorem dL_law_354 : decode cL_law 354 = .ok (.aload_n 2, 1) := dk_44 (dk_at dksL_law_7 6 rfl rfl)
theorem dL_law_355 : decode cL_law 355 = .ok (.invokevirtual 141, 3) := dk_182 0 141 (dk_at dksL_law_7 7 rfl rfl)
theorem dL_law_358 : decode cL_law 358 = .ok (.if_icmp .eq 2489, 3) := dk_159 9 185 (dk_at dksL_law_7 10 rfl rfl)
theorem dL_law_361 : decode cL_law 361 = .ok (.iconst 0, 1) := dk_3 (dk_at dksL_law_7 13 rfl rfl)
theorem dL_law_362 : decode cL_law 362 = .ok (.ireturn, 1) := dk_172 (dk_at dksL_law_7 14 rfl rfl)
theorem dL_law_363 : decode cL_law 363 = .ok (.aload_n 1, 1) := dk_43 (dk_at dksL_law_7 15 rfl rfl)
theorem dL_law_364 : decode cL_law 364 = .ok (.invokevirtual 142, 3) := dk_182 0 142 (dk_at dksL_law_7 16 rfl rfl)
theorem dL_law_367 : decode cL_law 367 = .ok (.aload_n 2, 1) := dk_44 (dk_at dksL_law_7 19 rfl rfl)
theorem dL_law_368 : decode cL_law 368 = .ok (.invokevirtual 145, 3) := dk_182 0 145 (dk_at dksL_law_7 20 rfl rfl)
theorem dL_law_371 : decode cL_law 371 = .ok (.if_icmp .eq 2476, 3) := dk_159 9 172 (dk_at dksL_law_8 0 rfl rfl)
theorem dL_law_374 : decode cL_law 374 = .ok (.iconst 0, 1) := dk_3 (dk_at dksL_law_8 3 rfl rfl)
theorem dL_law_375 : decode cL_law 375 = .ok (.ireturn, 1) := dk_172 (dk_at dksL_law_8 4 rfl rfl)
theorem dL_law_376 : decode cL_law 376 = .ok (.aload_n 1, 1) := dk_43 (dk_at dksL_law_8 5 rfl rfl)
theorem dL_law_377 : decode cL_law 377 = .ok (.invokevirtual 146, 3) := dk_182 0 146 (dk_at dksL_law_8 6 rfl rfl)
theorem dL_law_380 : decode cL_law 380 = .ok (.aload_n 2, 1) := dk_44 (dk_at dksL_law_8 9 rfl rfl)
theorem dL_law_381 : decode cL_law 381 = .ok (.invokevirtual 149, 3) := dk_182 0 149 (dk_at dksL_law_8 10 rfl rfl)
theorem dL_law_384 : decode cL_law 384 = .ok (.if_icmp .eq 2463, 3) := dk_159 9 159 (dk_at dksL_law_8 13 rfl rfl)
theorem dL_law_387 : decode cL_law 387 = .ok (.iconst 0, 1) := dk_3 (dk_at dksL_law_8 16 rfl rfl)
theorem dL_law_388 : decode cL_law 388 = .ok (.ireturn, 1) := dk_172 (dk_at dksL_law_8 17 rfl rfl)
theorem dL_law_389 : decode cL_law 389 = .ok (.aload_n 1, 1) := dk_43 (dk_at dksL_law_8 18 rfl rfl)
theorem dL_law_390 : decode cL_law 390 = .ok (.aload_n 0, 1) := dk_42 (dk_at dksL_law_8 19 rfl rfl)
theorem dL_law_391 : decode cL_law 391 = .ok (.iload 4, 2) := dk_21 4 (dk_at dksL_law_8 20 rfl rfl)
theorem dL_law_393 : decode cL_law 393 = .ok (.iconst 1, 1) := dk_4 (dk_at dksL_law_8 22 rfl rfl)
theorem dL_law_394 : decode cL_law 394 = .ok (.iadd, 1) := dk_96 (dk_at dksL_law_8 23 rfl rfl)
theorem dL_law_395 : decode cL_law 395 = .ok (.iaload, 1) := dk_46 (dk_at dksL_law_9 0 rfl rfl)
theorem dL_law_396 : decode cL_law 396 = .ok (.aload_n 3, 1) := dk_45 (dk_at dksL_law_9 1 rfl rfl)
theorem dL_law_397 : decode cL_law 397 = .ok (.invokestatic 150, 3) := dk_184 0 150 (dk_at dksL_law_9 2 rfl rfl)
theorem dL_law_400 : decode cL_law 400 = .ok (.istore 5, 2) := dk_54 5 (dk_at dksL_law_9 5 rfl rfl)
theorem dL_law_402 : decode cL_law 402 = .ok (.aload_n 2, 1) := dk_44 (dk_at dksL_law_9 7 rfl rfl)
theorem dL_law_403 : decode cL_law 403 = .ok (.aload_n 0, 1) := dk_42 (dk_at dksL_law_9 8 rfl rfl)
theorem dL_law_404 : decode cL_law 404 = .ok (.iload 4, 2) := dk_21 4 (dk_at dksL_law_9 9 rfl rfl)
theorem dL_law_406 : decode cL_law 406 = .ok (.iconst 1, 1) := dk_4 (dk_at dksL_law_9 11 rfl rfl)
theorem dL_law_407 : decode cL_law 407 = .ok (.iadd, 1) := dk_96 (dk_at dksL_law_9 12 rfl rfl)
theorem dL_law_408 : decode cL_law 408 = .ok (.iaload, 1) := dk_46 (dk_at dksL_law_9 13 rfl rfl)
theorem dL_law_409 : decode cL_law 409 = .ok (.invokevirtual 155, 3) := dk_182 0 155 (dk_at dksL_law_9 14 rfl rfl)
theorem dL_law_412 : decode cL_law 412 = .ok (.istore 6, 2) := dk_54 6 (dk_at dksL_law_9 17 rfl rfl)
theorem dL_law_414 : decode cL_law 414 = .ok (.aload_n 2, 1) := dk_44 (dk_at dksL_law_9 19 rfl rfl)
theorem dL_law_415 : decode cL_law 415 = .ok (.invokevirtual 156, 3) := dk_182 0 156 (dk_at dksL_law_9 20 rfl rfl)
theorem dL_law_418 : decode cL_law 418 = .ok (.iload 5, 2) := dk_21 5 (dk_at dksL_law_10 0 rfl rfl)
theorem dL_law_420 : decode cL_law 420 = .ok (.if_icmp .eq 5, 3) := dk_159 0 5 (dk_at dksL_law_10 2 rfl rfl)
theorem dL_law_423 : decode cL_law 423 = .ok (.iconst 0, 1) := dk_3 (dk_at dksL_law_10 5 rfl rfl)
theorem dL_law_424 : decode cL_law 424 = .ok (.ireturn, 1) := dk_172 (dk_at dksL_law_10 6 rfl rfl)
theorem dL_law_425 : decode cL_law 425 = .ok (.iload 5, 2) := dk_21 5 (dk_at dksL_law_10 7 rfl rfl)
theorem dL_law_427 : decode cL_law 427 = .ok (.ifCond .ne 15, 3) := dk_154 0 15 (dk_at dksL_law_10 9 rfl rfl)
theorem dL_law_430 : decode cL_law 430 = .ok (.aload_n 3, 1) := dk_45 (dk_at dksL_law_10 12 rfl rfl)
theorem dL_law_431 : decode cL_law 431 = .ok (.iconst 0, 1) := dk_3 (dk_at dksL_law_10 13 rfl rfl)
theorem dL_law_432 : decode cL_law 432 = .ok (.laload, 1) := dk_47 (dk_at dksL_law_10 14 rfl rfl)
theorem dL_law_433 : decode cL_law 433 = .ok (.iload 6, 2) := dk_21 6 (dk_at dksL_law_10 15 rfl rfl)
theorem dL_law_435 : decode cL_law 435 = .ok (.i2l, 1) := dk_133 (dk_at dksL_law_10 17 rfl rfl)
theorem dL_law_436 : decode cL_law 436 = .ok (.lcmp, 1) := dk_148 (dk_at dksL_law_10 18 rfl rfl)
theorem dL_law_437 : decode cL_law 437 = .ok (.ifCond .eq 5, 3) := dk_153 0 5 (dk_at dksL_law_10 19 rfl rfl)
theorem dL_law_440 : decode cL_law 440 = .ok (.iconst 0, 1) := dk_3 (dk_at dksL_law_10 22 rfl rfl)
theorem dL_law_441 : decode cL_law 441 = .ok (.ireturn, 1) := dk_172 (dk_at dksL_law_10 23 rfl rfl)
theorem dL_law_442 : decode cL_law 442 = .ok (.goto 2405, 3) := dk_167 9 101 (dk_at dksL_law_11 0 rfl rfl)
theorem dL_law_445 : decode cL_law 445 = .ok (.aload_n 1, 1) := dk_43 (dk_at dksL_law_11 3 rfl rfl)
theorem dL_law_446 : decode cL_law 446 = .ok (.aload_n 0, 1) := dk_42 (dk_at dksL_law_11 4 rfl rfl)
theorem dL_law_447 : decode cL_law 447 = .ok (.iload 4, 2) := dk_21 4 (dk_at dksL_law_11 5 rfl rfl)
theorem dL_law_449 : decode cL_law 449 = .ok (.iconst 1, 1) := dk_4 (dk_at dksL_law_11 7 rfl rfl)
theorem dL_law_450 : decode cL_law 450 = .ok (.iadd, 1) := dk_96 (dk_at dksL_law_11 8 rfl rfl)
theorem dL_law_451 : decode cL_law 451 = .ok (.iaload, 1) := dk_46 (dk_at dksL_law_11 9 rfl rfl)
theorem dL_law_452 : decode cL_law 452 = .ok (.aload_n 0, 1) := dk_42 (dk_at dksL_law_11 10 rfl rfl)
theorem dL_law_453 : decode cL_law 453 = .ok (.iload 4, 2) := dk_21 4 (dk_at dksL_law_11 11 rfl rfl)
theorem dL_law_455 : decode cL_law 455 = .ok (.iconst 2, 1) := dk_5 (dk_at dksL_law_11 13 rfl rfl)
theorem dL_law_456 : decode cL_law 456 = .ok (.iadd, 1) := dk_96 (dk_at dksL_law_11 14 rfl rfl)
theorem dL_law_457 : decode cL_law 457 = .ok (.iaload, 1) := dk_46 (dk_at dksL_law_11 15 rfl rfl)
theorem dL_law_458 : decode cL_law 458 = .ok (.aload_n 3, 1) := dk_45 (dk_at dksL_law_11 16 rfl rfl)
theorem dL_law_459 : decode cL_law 459 = .ok (.invokestatic 159, 3) := dk_184 0 159 (dk_at dksL_law_11 17 rfl rfl)
theorem dL_law_462 : decode cL_law 462 = .ok (.istore 5, 2) := dk_54 5 (dk_at dksL_law_11 20 rfl rfl)
theorem dL_law_464 : decode cL_law 464 = .ok (.aload_n 2, 1) := dk_44 (dk_at dksL_law_11 22 rfl rfl)
theorem dL_law_465 : decode cL_law 465 = .ok (.aload_n 0, 1) := dk_42 (dk_at dksL_law_11 23 rfl rfl)
theorem dL_law_466 : decode cL_law 466 = .ok (.iload 4, 2) := dk_21 4 (dk_at dksL_law_12 0 rfl rfl)
theorem dL_law_468 : decode cL_law 468 = .ok (.iconst 1, 1) := dk_4 (dk_at dksL_law_12 2 rfl rfl)
theorem dL_law_469 : decode cL_law 469 = .ok (.iadd, 1) := dk_96 (dk_at dksL_law_12 3 rfl rfl)
theorem dL_law_470 : decode cL_law 470 = .ok (.iaload, 1) := dk_46 (dk_at dksL_law_12 4 rfl rfl)
theorem dL_law_471 : decode cL_law 471 = .ok (.aload_n 0, 1) := dk_42 (dk_at dksL_law_12 5 rfl rfl)
theorem dL_law_472 : decode cL_law 472 = .ok (.iload 4, 2) := dk_21 4 (dk_at dksL_law_12 6 rfl rfl)
theorem dL_law_474 : decode cL_law 474 = .ok (.iconst 2, 1) := dk_5 (dk_at dksL_law_12 8 rfl rfl)
theorem dL_law_475 : decode cL_law 475 = .ok (.iadd, 1) := dk_96 (dk_at dksL_law_12 9 rfl rfl)
theorem dL_law_476 : decode cL_law 476 = .ok (.iaload, 1) := dk_46 (dk_at dksL_law_12 10 rfl rfl)
theorem dL_law_477 : decode cL_law 477 = .ok (.invokevirtual 162, 3) := dk_182 0 162 (dk_at dksL_law_12 11 rfl rfl)
theorem dL_law_480 : decode cL_law 480 = .ok (.istore 6, 2) := dk_54 6 (dk_at dksL_law_12 14 rfl rfl)
theorem dL_law_482 : decode cL_law 482 = .ok (.aload_n 2, 1) := dk_44 (dk_at dksL_law_12 16 rfl rfl)
theorem dL_law_483 : decode cL_law 483 = .ok (.invokevirtual 156, 3) := dk_182 0 156 (dk_at dksL_law_12 17 rfl rfl)
theorem dL_law_486 : decode cL_law 486 = .ok (.iload 5, 2) := dk_21 5 (dk_at dksL_law_12 20 rfl rfl)
theorem dL_law_488 : decode cL_law 488 = .ok (.if_icmp .eq 5, 3) := dk_159 0 5 (dk_at dksL_law_13 0 rfl rfl)
theorem dL_law_491 : decode cL_law 491 = .ok (.iconst 0, 1) := dk_3 (dk_at dksL_law_13 3 rfl rfl)
theorem dL_law_492 : decode cL_law 492 = .ok (.ireturn, 1) := dk_172 (dk_at dksL_law_13 4 rfl rfl)
theorem dL_law_493 : decode cL_law 493 = .ok (.iload 5, 2) := dk_21 5 (dk_at dksL_law_13 5 rfl rfl)
theorem dL_law_495 : decode cL_law 495 = .ok (.ifCond .ne 15, 3) := dk_154 0 15 (dk_at dksL_law_13 7 rfl rfl)
theorem dL_law_498 : decode cL_law 498 = .ok (.aload_n 3, 1) := dk_45 (dk_at dksL_law_13 10 rfl rfl)
theorem dL_law_499 : decode cL_law 499 = .ok (.iconst 0, 1) := dk_3 (dk_at dksL_law_13 11 rfl rfl)
theorem dL_law_500 : decode cL_law 500 = .ok (.laload, 1) := dk_47 (dk_at dksL_law_13 12 rfl rfl)
theorem dL_law_501 : decode cL_law 501 = .ok (.iload 6, 2) := dk_21 6 (dk_at dksL_law_13 13 rfl rfl)
theorem dL_law_503 : decode cL_law 503 = .ok (.i2l, 1) := dk_133 (dk_at dksL_law_13 15 rfl rfl)
theorem dL_law_504 : decode cL_law 504 = .ok (.lcmp, 1) := dk_148 (dk_at dksL_law_13 16 rfl rfl)
theorem dL_law_505 : decode cL_law 505 = .ok (.ifCond .eq 5, 3) := dk_153 0 5 (dk_at dksL_law_13 17 rfl rfl)
theorem dL_law_508 : decode cL_law 508 = .ok (.iconst 0, 1) := dk_3 (dk_at dksL_law_13 20 rfl rfl)
theorem dL_law_509 : decode cL_law 509 = .ok (.ireturn, 1) := dk_172 (dk_at dksL_law_13 21 rfl rfl)
theorem dL_law_510 : decode cL_law 510 = .ok (.goto 2337, 3) := dk_167 9 33 (dk_at dksL_law_14 0 rfl rfl)
theorem dL_law_513 : decode cL_law 513 = .ok (.aload_n 1, 1) := dk_43 (dk_at dksL_law_14 3 rfl rfl)
theorem dL_law_514 : decode cL_law 514 = .ok (.aload_n 0, 1) := dk_42 (dk_at dksL_law_14 4 rfl rfl)
theorem dL_law_515 : decode cL_law 515 = .ok (.iload 4, 2) := dk_21 4 (dk_at dksL_law_14 5 rfl rfl)
theorem dL_law_517 : decode cL_law 517 = .ok (.iconst 1, 1) := dk_4 (dk_at dksL_law_14 7 rfl rfl)
theorem dL_law_518 : decode cL_law 518 = .ok (.iadd, 1) := dk_96 (dk_at dksL_law_14 8 rfl rfl)
theorem dL_law_519 : decode cL_law 519 = .ok (.iaload, 1) := dk_46 (dk_at dksL_law_14 9 rfl rfl)
theorem dL_law_520 : decode cL_law 520 = .ok (.aload_n 0, 1) := dk_42 (dk_at dksL_law_14 10 rfl rfl)
theorem dL_law_521 : decode cL_law 521 = .ok (.iload 4, 2) := dk_21 4 (dk_at dksL_law_14 11 rfl rfl)
theorem dL_law_523 : decode cL_law 523 = .ok (.iconst 2, 1) := dk_5 (dk_at dksL_law_14 13 rfl rfl)
theorem dL_law_524 : decode cL_law 524 = .ok (.iadd, 1) := dk_96 (dk_at dksL_law_14 14 rfl rfl)
theorem dL_law_525 : decode cL_law 525 = .ok (.iaload, 1) := dk_46 (dk_at dksL_law_14 15 rfl rfl)
theorem dL_law_526 : decode cL_law 526 = .ok (.aload_n 3, 1) := dk_45 (dk_at dksL_law_14 16 rfl rfl)
theorem dL_law_527 : decode cL_law 527 = .ok (.invokestatic 163, 3) := dk_184 0 163 (dk_at dksL_law_14 17 rfl rfl)
theorem dL_law_530 : decode cL_law 530 = .ok (.istore 5, 2) := dk_54 5 (dk_at dksL_law_14 20 rfl rfl)
theorem dL_law_532 : decode cL_law 532 = .ok (.aload_n 2, 1) := dk_44 (dk_at dksL_law_14 22 rfl rfl)
theorem dL_law_533 : decode cL_law 533 = .ok (.aload_n 0, 1) := dk_42 (dk_at dksL_law_14 23 rfl rfl)
theorem dL_law_534 : decode cL_law 534 = .ok (.iload 4, 2) := dk_21 4 (dk_at dksL_law_15 0 rfl rfl)
theorem dL_law_536 : decode cL_law 536 = .ok (.iconst 1, 1) := dk_4 (dk_at dksL_law_15 2 rfl rfl)
theorem dL_law_537 : decode cL_law 537 = .ok (.iadd, 1) := dk_96 (dk_at dksL_law_15 3 rfl rfl)
theorem dL_law_538 : decode cL_law 538 = .ok (.iaload, 1) := dk_46 (dk_at dksL_law_15 4 rfl rfl)
theorem dL_law_539 : decode cL_law 539 = .ok (.aload_n 0, 1) := dk_42 (dk_at dksL_law_15 5 rfl rfl)
theorem dL_law_540 : decode cL_law 540 = .ok (.iload 4, 2) := dk_21 4 (dk_at dksL_law_15 6 rfl rfl)
theorem dL_law_542 : decode cL_law 542 = .ok (.iconst 2, 1) := dk_5 (dk_at dksL_law_15 8 rfl rfl)
theorem dL_law_543 : decode cL_law 543 = .ok (.iadd, 1) := dk_96 (dk_at dksL_law_15 9 rfl rfl)
theorem dL_law_544 : decode cL_law 544 = .ok (.iaload, 1) := dk_46 (dk_at dksL_law_15 10 rfl rfl)
theorem dL_law_545 : decode cL_law 545 = .ok (.invokevirtual 165, 3) := dk_182 0 165 (dk_at dksL_law_15 11 rfl rfl)
theorem dL_law_548 : decode cL_law 548 = .ok (.istore 6, 2) := dk_54 6 (dk_at dksL_law_15 14 rfl rfl)
theorem dL_law_550 : decode cL_law 550 = .ok (.aload_n 2, 1) := dk_44 (dk_at dksL_law_15 16 rfl rfl)
theorem dL_law_551 : decode cL_law 551 = .ok (.invokevirtual 156, 3) := dk_182 0 156 (dk_at dksL_law_15 17 rfl rfl)
theorem dL_law_554 : decode cL_law 554 = .ok (.iload 5, 2) := dk_21 5 (dk_at dksL_law_15 20 rfl rfl)
theorem dL_law_556 : decode cL_law 556 = .ok (.if_icmp .eq 5, 3) := dk_159 0 5 (dk_at dksL_law_16 0 rfl rfl)
theorem dL_law_559 : decode cL_law 559 = .ok (.iconst 0, 1) := dk_3 (dk_at dksL_law_16 3 rfl rfl)
theorem dL_law_560 : decode cL_law 560 = .ok (.ireturn, 1) := dk_172 (dk_at dksL_law_16 4 rfl rfl)
theorem dL_law_561 : decode cL_law 561 = .ok (.iload 5, 2) := dk_21 5 (dk_at dksL_law_16 5 rfl rfl)
theorem dL_law_563 : decode cL_law 563 = .ok (.ifCond .ne 15, 3) := dk_154 0 15 (dk_at dksL_law_16 7 rfl rfl)
theorem dL_law_566 : decode cL_law 566 = .ok (.aload_n 3, 1) := dk_45 (dk_at dksL_law_16 10 rfl rfl)
theorem dL_law_567 : decode cL_law 567 = .ok (.iconst 0, 1) := dk_3 (dk_at dksL_law_16 11 rfl rfl)
theorem dL_law_568 : decode cL_law 568 = .ok (.laload, 1) := dk_47 (dk_at dksL_law_16 12 rfl rfl)
theorem dL_law_569 : decode cL_law 569 = .ok (.iload 6, 2) := dk_21 6 (dk_at dksL_law_16 13 rfl rfl)
theorem dL_law_571 : decode cL_law 571 = .ok (.i2l, 1) := dk_133 (dk_at dksL_law_16 15 rfl rfl)
theorem dL_law_572 : decode cL_law 572 = .ok (.lcmp, 1) := dk_148 (dk_at dksL_law_16 16 rfl rfl)
theorem dL_law_573 : decode cL_law 573 = .ok (.ifCond .eq 5, 3) := dk_153 0 5 (dk_at dksL_law_16 17 rfl rfl)
theorem dL_law_576 : decode cL_law 576 = .ok (.iconst 0, 1) := dk_3 (dk_at dksL_law_16 20 rfl rfl)
theorem dL_law_577 : decode cL_law 577 = .ok (.ireturn, 1) := dk_172 (dk_at dksL_law_16 21 rfl rfl)
theorem dL_law_578 : decode cL_law 578 = .ok (.goto 2269, 3) := dk_167 8 221 (dk_at dksL_law_17 0 rfl rfl)
theorem dL_law_581 : decode cL_law 581 = .ok (.aload_n 1, 1) := dk_43 (dk_at dksL_law_17 3 rfl rfl)
theorem dL_law_582 : decode cL_law 582 = .ok (.aload_n 0, 1) := dk_42 (dk_at dksL_law_17 4 rfl rfl)
theorem dL_law_583 : decode cL_law 583 = .ok (.iload 4, 2) := dk_21 4 (dk_at dksL_law_17 5 rfl rfl)
theorem dL_law_585 : decode cL_law 585 = .ok (.iconst 1, 1) := dk_4 (dk_at dksL_law_17 7 rfl rfl)
theorem dL_law_586 : decode cL_law 586 = .ok (.iadd, 1) := dk_96 (dk_at dksL_law_17 8 rfl rfl)
theorem dL_law_587 : decode cL_law 587 = .ok (.iaload, 1) := dk_46 (dk_at dksL_law_17 9 rfl rfl)
theorem dL_law_588 : decode cL_law 588 = .ok (.aload_n 0, 1) := dk_42 (dk_at dksL_law_17 10 rfl rfl)
theorem dL_law_589 : decode cL_law 589 = .ok (.iload 4, 2) := dk_21 4 (dk_at dksL_law_17 11 rfl rfl)
theorem dL_law_591 : decode cL_law 591 = .ok (.iconst 2, 1) := dk_5 (dk_at dksL_law_17 13 rfl rfl)
theorem dL_law_592 : decode cL_law 592 = .ok (.iadd, 1) := dk_96 (dk_at dksL_law_17 14 rfl rfl)
theorem dL_law_593 : decode cL_law 593 = .ok (.iaload, 1) := dk_46 (dk_at dksL_law_17 15 rfl rfl)
theorem dL_law_594 : decode cL_law 594 = .ok (.aload_n 3, 1) := dk_45 (dk_at dksL_law_17 16 rfl rfl)
theorem dL_law_595 : decode cL_law 595 = .ok (.invokestatic 166, 3) := dk_184 0 166 (dk_at dksL_law_17 17 rfl rfl)
theorem dL_law_598 : decode cL_law 598 = .ok (.istore 5, 2) := dk_54 5 (dk_at dksL_law_17 20 rfl rfl)
theorem dL_law_600 : decode cL_law 600 = .ok (.aload_n 2, 1) := dk_44 (dk_at dksL_law_17 22 rfl rfl)
theorem dL_law_601 : decode cL_law 601 = .ok (.aload_n 0, 1) := dk_42 (dk_at dksL_law_17 23 rfl rfl)
theorem dL_law_602 : decode cL_law 602 = .ok (.iload 4, 2) := dk_21 4 (dk_at dksL_law_18 0 rfl rfl)
theorem dL_law_604 : decode cL_law 604 = .ok (.iconst 1, 1) := dk_4 (dk_at dksL_law_18 2 rfl rfl)
theorem dL_law_605 : decode cL_law 605 = .ok (.iadd, 1) := dk_96 (dk_at dksL_law_18 3 rfl rfl)
theorem dL_law_606 : decode cL_law 606 = .ok (.iaload, 1) := dk_46 (dk_at dksL_law_18 4 rfl rfl)
theorem dL_law_607 : decode cL_law 607 = .ok (.aload_n 0, 1) := dk_42 (dk_at dksL_law_18 5 rfl rfl)
theorem dL_law_608 : decode cL_law 608 = .ok (.iload 4, 2) := dk_21 4 (dk_at dksL_law_18 6 rfl rfl)
theorem dL_law_610 : decode cL_law 610 = .ok (.iconst 2, 1) := dk_5 (dk_at dksL_law_18 8 rfl rfl)
theorem dL_law_611 : decode cL_law 611 = .ok (.iadd, 1) := dk_96 (dk_at dksL_law_18 9 rfl rfl)
theorem dL_law_612 : decode cL_law 612 = .ok (.iaload, 1) := dk_46 (dk_at dksL_law_18 10 rfl rfl)
theorem dL_law_613 : decode cL_law 613 = .ok (.invokevirtual 168, 3) := dk_182 0 168 (dk_at dksL_law_18 11 rfl rfl)
theorem dL_law_616 : decode cL_law 616 = .ok (.istore 6, 2) := dk_54 6 (dk_at dksL_law_18 14 rfl rfl)
theorem dL_law_618 : decode cL_law 618 = .ok (.aload_n 2, 1) := dk_44 (dk_at dksL_law_18 16 rfl rfl)
theorem dL_law_619 : decode cL_law 619 = .ok (.invokevirtual 156, 3) := dk_182 0 156 (dk_at dksL_law_18 17 rfl rfl)
theorem dL_law_622 : decode cL_law 622 = .ok (.iload 5, 2) := dk_21 5 (dk_at dksL_law_18 20 rfl rfl)
theorem dL_law_624 : decode cL_law 624 = .ok (.if_icmp .eq 5, 3) := dk_159 0 5 (dk_at dksL_law_19 0 rfl rfl)
theorem dL_law_627 : decode cL_law 627 = .ok (.iconst 0, 1) := dk_3 (dk_at dksL_law_19 3 rfl rfl)
theorem dL_law_628 : decode cL_law 628 = .ok (.ireturn, 1) := dk_172 (dk_at dksL_law_19 4 rfl rfl)
theorem dL_law_629 : decode cL_law 629 = .ok (.iload 5, 2) := dk_21 5 (dk_at dksL_law_19 5 rfl rfl)
theorem dL_law_631 : decode cL_law 631 = .ok (.ifCond .ne 15, 3) := dk_154 0 15 (dk_at dksL_law_19 7 rfl rfl)
theorem dL_law_634 : decode cL_law 634 = .ok (.aload_n 3, 1) := dk_45 (dk_at dksL_law_19 10 rfl rfl)
theorem dL_law_635 : decode cL_law 635 = .ok (.iconst 0, 1) := dk_3 (dk_at dksL_law_19 11 rfl rfl)
theorem dL_law_636 : decode cL_law 636 = .ok (.laload, 1) := dk_47 (dk_at dksL_law_19 12 rfl rfl)
theorem dL_law_637 : decode cL_law 637 = .ok (.iload 6, 2) := dk_21 6 (dk_at dksL_law_19 13 rfl rfl)
theorem dL_law_639 : decode cL_law 639 = .ok (.i2l, 1) := dk_133 (dk_at dksL_law_19 15 rfl rfl)
theorem dL_law_640 : decode cL_law 640 = .ok (.lcmp, 1) := dk_148 (dk_at dksL_law_19 16 rfl rfl)
theorem dL_law_641 : decode cL_law 641 = .ok (.ifCond .eq 5, 3) := dk_153 0 5 (dk_at dksL_law_19 17 rfl rfl)
theorem dL_law_644 : decode cL_law 644 = .ok (.iconst 0, 1) := dk_3 (dk_at dksL_law_19 20 rfl rfl)
theorem dL_law_645 : decode cL_law 645 = .ok (.ireturn, 1) := dk_172 (dk_at dksL_law_19 21 rfl rfl)
theorem dL_law_646 : decode cL_law 646 = .ok (.goto 2201, 3) := dk_167 8 153 (dk_at dksL_law_20 0 rfl rfl)
theorem dL_law_649 : decode cL_law 649 = .ok (.aload_n 1, 1) := dk_43 (dk_at dksL_law_20 3 rfl rfl)
theorem dL_law_650 : decode cL_law 650 = .ok (.aload_n 0, 1) := dk_42 (dk_at dksL_law_20 4 rfl rfl)
theorem dL_law_651 : decode cL_law 651 = .ok (.iload 4, 2) := dk_21 4 (dk_at dksL_law_20 5 rfl rfl)
theorem dL_law_653 : decode cL_law 653 = .ok (.iconst 1, 1) := dk_4 (dk_at dksL_law_20 7 rfl rfl)
theorem dL_law_654 : decode cL_law 654 = .ok (.iadd, 1) := dk_96 (dk_at dksL_law_20 8 rfl rfl)
theorem dL_law_655 : decode cL_law 655 = .ok (.iaload, 1) := dk_46 (dk_at dksL_law_20 9 rfl rfl)
theorem dL_law_656 : decode cL_law 656 = .ok (.aload_n 0, 1) := dk_42 (dk_at dksL_law_20 10 rfl rfl)
theorem dL_law_657 : decode cL_law 657 = .ok (.iload 4, 2) := dk_21 4 (dk_at dksL_law_20 11 rfl rfl)
theorem dL_law_659 : decode cL_law 659 = .ok (.iconst 2, 1) := dk_5 (dk_at dksL_law_20 13 rfl rfl)
theorem dL_law_660 : decode cL_law 660 = .ok (.iadd, 1) := dk_96 (dk_at dksL_law_20 14 rfl rfl)
theorem dL_law_661 : decode cL_law 661 = .ok (.iaload, 1) := dk_46 (dk_at dksL_law_20 15 rfl rfl)
theorem dL_law_662 : decode cL_law 662 = .ok (.aload_n 0, 1) := dk_42 (dk_at dksL_law_20 16 rfl rfl)
theorem dL_law_663 : decode cL_law 663 = .ok (.iload 4, 2) := dk_21 4 (dk_at dksL_law_20 17 rfl rfl)
theorem dL_law_665 : decode cL_law 665 = .ok (.iconst 3, 1) := dk_6 (dk_at dksL_law_20 19 rfl rfl)
theorem dL_law_666 : decode cL_law 666 = .ok (.iadd, 1) := dk_96 (dk_at dksL_law_20 20 rfl rfl)
theorem dL_law_667 : decode cL_law 667 = .ok (.iaload, 1) := dk_46 (dk_at dksL_law_20 21 rfl rfl)
theorem dL_law_668 : decode cL_law 668 = .ok (.aload_n 3, 1) := dk_45 (dk_at dksL_law_20 22 rfl rfl)
theorem dL_law_669 : decode cL_law 669 = .ok (.invokestatic 169, 3) := dk_184 0 169 (dk_at dksL_law_21 0 rfl rfl)
theorem dL_law_672 : decode cL_law 672 = .ok (.istore 5, 2) := dk_54 5 (dk_at dksL_law_21 3 rfl rfl)
theorem dL_law_674 : decode cL_law 674 = .ok (.aload_n 2, 1) := dk_44 (dk_at dksL_law_21 5 rfl rfl)
theorem dL_law_675 : decode cL_law 675 = .ok (.aload_n 0, 1) := dk_42 (dk_at dksL_law_21 6 rfl rfl)
theorem dL_law_676 : decode cL_law 676 = .ok (.iload 4, 2) := dk_21 4 (dk_at dksL_law_21 7 rfl rfl)
theorem dL_law_678 : decode cL_law 678 = .ok (.iconst 1, 1) := dk_4 (dk_at dksL_law_21 9 rfl rfl)
theorem dL_law_679 : decode cL_law 679 = .ok (.iadd, 1) := dk_96 (dk_at dksL_law_21 10 rfl rfl)
theorem dL_law_680 : decode cL_law 680 = .ok (.iaload, 1) := dk_46 (dk_at dksL_law_21 11 rfl rfl)
theorem dL_law_681 : decode cL_law 681 = .ok (.aload_n 0, 1) := dk_42 (dk_at dksL_law_21 12 rfl rfl)
theorem dL_law_682 : decode cL_law 682 = .ok (.iload 4, 2) := dk_21 4 (dk_at dksL_law_21 13 rfl rfl)
theorem dL_law_684 : decode cL_law 684 = .ok (.iconst 2, 1) := dk_5 (dk_at dksL_law_21 15 rfl rfl)
theorem dL_law_685 : decode cL_law 685 = .ok (.iadd, 1) := dk_96 (dk_at dksL_law_21 16 rfl rfl)
theorem dL_law_686 : decode cL_law 686 = .ok (.iaload, 1) := dk_46 (dk_at dksL_law_21 17 rfl rfl)
theorem dL_law_687 : decode cL_law 687 = .ok (.aload_n 0, 1) := dk_42 (dk_at dksL_law_21 18 rfl rfl)
theorem dL_law_688 : decode cL_law 688 = .ok (.iload 4, 2) := dk_21 4 (dk_at dksL_law_21 19 rfl rfl)
theorem dL_law_690 : decode cL_law 690 = .ok (.iconst 3, 1) := dk_6 (dk_at dksL_law_21 21 rfl rfl)
theorem dL_law_691 : decode cL_law 691 = .ok (.iadd, 1) := dk_96 (dk_at dksL_law_21 22 rfl rfl)
theorem dL_law_692 : decode cL_law 692 = .ok (.iaload, 1) := dk_46 (dk_at dksL_law_21 23 rfl rfl)
theorem dL_law_693 : decode cL_law 693 = .ok (.invokevirtual 172, 3) := dk_182 0 172 (dk_at dksL_law_22 0 rfl rfl)
theorem dL_law_696 : decode cL_law 696 = .ok (.istore 6, 2) := dk_54 6 (dk_at dksL_law_22 3 rfl rfl)
theorem dL_law_698 : decode cL_law 698 = .ok (.aload_n 2, 1) := dk_44 (dk_at dksL_law_22 5 rfl rfl)
theorem dL_law_699 : decode cL_law 699 = .ok (.invokevirtual 156, 3) := dk_182 0 156 (dk_at dksL_law_22 6 rfl rfl)
theorem dL_law_702 : decode cL_law 702 = .ok (.iload 5, 2) := dk_21 5 (dk_at dksL_law_22 9 rfl rfl)
theorem dL_law_704 : decode cL_law 704 = .ok (.if_icmp .eq 5, 3) := dk_159 0 5 (dk_at dksL_law_22 11 rfl rfl)
theorem dL_law_707 : decode cL_law 707 = .ok (.iconst 0, 1) := dk_3 (dk_at dksL_law_22 14 rfl rfl)
theorem dL_law_708 : decode cL_law 708 = .ok (.ireturn, 1) := dk_172 (dk_at dksL_law_22 15 rfl rfl)
theorem dL_law_709 : decode cL_law 709 = .ok (.iload 5, 2) := dk_21 5 (dk_at dksL_law_22 16 rfl rfl)
theorem dL_law_711 : decode cL_law 711 = .ok (.ifCond .ne 15, 3) := dk_154 0 15 (dk_at dksL_law_22 18 rfl rfl)
theorem dL_law_714 : decode cL_law 714 = .ok (.aload_n 3, 1) := dk_45 (dk_at dksL_law_22 21 rfl rfl)
theorem dL_law_715 : decode cL_law 715 = .ok (.iconst 0, 1) := dk_3 (dk_at dksL_law_22 22 rfl rfl)
theorem dL_law_716 : decode cL_law 716 = .ok (.laload, 1) := dk_47 (dk_at dksL_law_22 23 rfl rfl)
theorem dL_law_717 : decode cL_law 717 = .ok (.iload 6, 2) := dk_21 6 (dk_at dksL_law_23 0 rfl rfl)
theorem dL_law_719 : decode cL_law 719 = .ok (.i2l, 1) := dk_133 (dk_at dksL_law_23 2 rfl rfl)
theorem dL_law_720 : decode cL_law 720 = .ok (.lcmp, 1) := dk_148 (dk_at dksL_law_23 3 rfl rfl)
theorem dL_law_721 : decode cL_law 721 = .ok (.ifCond .eq 5, 3) := dk_153 0 5 (dk_at dksL_law_23 4 rfl rfl)
theorem dL_law_724 : decode cL_law 724 = .ok (.iconst 0, 1) := dk_3 (dk_at dksL_law_23 7 rfl rfl)
theorem dL_law_725 : decode cL_law 725 = .ok (.ireturn, 1) := dk_172 (dk_at dksL_law_23 8 rfl rfl)
theorem dL_law_726 : decode cL_law 726 = .ok (.goto 2121, 3) := dk_167 8 73 (dk_at dksL_law_23 9 rfl rfl)
theorem dL_law_729 : decode cL_law 729 = .ok (.aload_n 1, 1) := dk_43 (dk_at dksL_law_23 12 rfl rfl)
theorem dL_law_730 : decode cL_law 730 = .ok (.aload_n 0, 1) := dk_42 (dk_at dksL_law_23 13 rfl rfl)
theorem dL_law_731 : decode cL_law 731 = .ok (.iload 4, 2) := dk_21 4 (dk_at dksL_law_23 14 rfl rfl)
theorem dL_law_733 : decode cL_law 733 = .ok (.iconst 1, 1) := dk_4 (dk_at dksL_law_23 16 rfl rfl)
theorem dL_law_734 : decode cL_law 734 = .ok (.iadd, 1) := dk_96 (dk_at dksL_law_23 17 rfl rfl)
theorem dL_law_735 : decode cL_law 735 = .ok (.iaload, 1) := dk_46 (dk_at dksL_law_23 18 rfl rfl)
theorem dL_law_736 : decode cL_law 736 = .ok (.aload_n 0, 1) := dk_42 (dk_at dksL_law_23 19 rfl rfl)
theorem dL_law_737 : decode cL_law 737 = .ok (.iload 4, 2) := dk_21 4 (dk_at dksL_law_23 20 rfl rfl)
theorem dL_law_739 : decode cL_law 739 = .ok (.iconst 2, 1) := dk_5 (dk_at dksL_law_23 22 rfl rfl)
theorem dL_law_740 : decode cL_law 740 = .ok (.iadd, 1) := dk_96 (dk_at dksL_law_23 23 rfl rfl)
theorem dL_law_741 : decode cL_law 741 = .ok (.iaload, 1) := dk_46 (dk_at dksL_law_24 0 rfl rfl)
theorem dL_law_742 : decode cL_law 742 = .ok (.aload_n 3, 1) := dk_45 (dk_at dksL_law_24 1 rfl rfl)
theorem dL_law_743 : decode cL_law 743 = .ok (.invokestatic 173, 3) := dk_184 0 173 (dk_at dksL_law_24 2 rfl rfl)
theorem dL_law_746 : decode cL_law 746 = .ok (.istore 5, 2) := dk_54 5 (dk_at dksL_law_24 5 rfl rfl)
theorem dL_law_748 : decode cL_law 748 = .ok (.aload_n 2, 1) := dk_44 (dk_at dksL_law_24 7 rfl rfl)
theorem dL_law_749 : decode cL_law 749 = .ok (.aload_n 0, 1) := dk_42 (dk_at dksL_law_24 8 rfl rfl)
theorem dL_law_750 : decode cL_law 750 = .ok (.iload 4, 2) := dk_21 4 (dk_at dksL_law_24 9 rfl rfl)
theorem dL_law_752 : decode cL_law 752 = .ok (.iconst 1, 1) := dk_4 (dk_at dksL_law_24 11 rfl rfl)
theorem dL_law_753 : decode cL_law 753 = .ok (.iadd, 1) := dk_96 (dk_at dksL_law_24 12 rfl rfl)
theorem dL_law_754 : decode cL_law 754 = .ok (.iaload, 1) := dk_46 (dk_at dksL_law_24 13 rfl rfl)
theorem dL_law_755 : decode cL_law 755 = .ok (.aload_n 0, 1) := dk_42 (dk_at dksL_law_24 14 rfl rfl)
theorem dL_law_756 : decode cL_law 756 = .ok (.iload 4, 2) := dk_21 4 (dk_at dksL_law_24 15 rfl rfl)
theorem dL_law_758 : decode cL_law 758 = .ok (.iconst 2, 1) := dk_5 (dk_at dksL_law_24 17 rfl rfl)
theorem dL_law_759 : decode cL_law 759 = .ok (.iadd, 1) := dk_96 (dk_at dksL_law_24 18 rfl rfl)
theorem dL_law_760 : decode cL_law 760 = .ok (.iaload, 1) := dk_46 (dk_at dksL_law_24 19 rfl rfl)
theorem dL_law_761 : decode cL_law 761 = .ok (.invokevirtual 175, 3) := dk_182 0 175 (dk_at dksL_law_24 20 rfl rfl)
theorem dL_law_764 : decode cL_law 764 = .ok (.istore 6, 2) := dk_54 6 (dk_at dksL_law_25 0 rfl rfl)
theorem dL_law_766 : decode cL_law 766 = .ok (.aload_n 2, 1) := dk_44 (dk_at dksL_law_25 2 rfl rfl)
theorem dL_law_767 : decode cL_law 767 = .ok (.invokevirtual 156, 3) := dk_182 0 156 (dk_at dksL_law_25 3 rfl rfl)
theorem dL_law_770 : decode cL_law 770 = .ok (.iload 5, 2) := dk_21 5 (dk_at dksL_law_25 6 rfl rfl)
theorem dL_law_772 : decode cL_law 772 = .ok (.if_icmp .eq 5, 3) := dk_159 0 5 (dk_at dksL_law_25 8 rfl rfl)
theorem dL_law_775 : decode cL_law 775 = .ok (.iconst 0, 1) := dk_3 (dk_at dksL_law_25 11 rfl rfl)
theorem dL_law_776 : decode cL_law 776 = .ok (.ireturn, 1) := dk_172 (dk_at dksL_law_25 12 rfl rfl)
theorem dL_law_777 : decode cL_law 777 = .ok (.iload 5, 2) := dk_21 5 (dk_at dksL_law_25 13 rfl rfl)
theorem dL_law_779 : decode cL_law 779 = .ok (.ifCond .ne 15, 3) := dk_154 0 15 (dk_at dksL_law_25 15 rfl rfl)
theorem dL_law_782 : decode cL_law 782 = .ok (.aload_n 3, 1) := dk_45 (dk_at dksL_law_25 18 rfl rfl)
theorem dL_law_783 : decode cL_law 783 = .ok (.iconst 0, 1) := dk_3 (dk_at dksL_law_25 19 rfl rfl)
theorem dL_law_784 : decode cL_law 784 = .ok (.laload, 1) := dk_47 (dk_at dksL_law_25 20 rfl rfl)
theorem dL_law_785 : decode cL_law 785 = .ok (.iload 6, 2) := dk_21 6 (dk_at dksL_law_25 21 rfl rfl)
theorem dL_law_787 : decode cL_law 787 = .ok (.i2l, 1) := dk_133 (dk_at dksL_law_25 23 rfl rfl)
theorem dL_law_788 : decode cL_law 788 = .ok (.lcmp, 1) := dk_148 (dk_at dksL_law_26 0 rfl rfl)
theorem dL_law_789 : decode cL_law 789 = .ok (.ifCond .eq 5, 3) := dk_153 0 5 (dk_at dksL_law_26 1 rfl rfl)
theorem dL_law_792 : decode cL_law 792 = .ok (.iconst 0, 1) := dk_3 (dk_at dksL_law_26 4 rfl rfl)
theorem dL_law_793 : decode cL_law 793 = .ok (.ireturn, 1) := dk_172 (dk_at dksL_law_26 5 rfl rfl)
theorem dL_law_794 : decode cL_law 794 = .ok (.goto 2053, 3) := dk_167 8 5 (dk_at dksL_law_26 6 rfl rfl)
theorem dL_law_797 : decode cL_law 797 = .ok (.aload_n 1, 1) := dk_43 (dk_at dksL_law_26 9 rfl rfl)
theorem dL_law_798 : decode cL_law 798 = .ok (.aload_n 0, 1) := dk_42 (dk_at dksL_law_26 10 rfl rfl)
theorem dL_law_799 : decode cL_law 799 = .ok (.iload 4, 2) := dk_21 4 (dk_at dksL_law_26 11 rfl rfl)
theorem dL_law_801 : decode cL_law 801 = .ok (.iconst 1, 1) := dk_4 (dk_at dksL_law_26 13 rfl rfl)
theorem dL_law_802 : decode cL_law 802 = .ok (.iadd, 1) := dk_96 (dk_at dksL_law_26 14 rfl rfl)
theorem dL_law_803 : decode cL_law 803 = .ok (.iaload, 1) := dk_46 (dk_at dksL_law_26 15 rfl rfl)
theorem dL_law_804 : decode cL_law 804 = .ok (.aload_n 0, 1) := dk_42 (dk_at dksL_law_26 16 rfl rfl)
theorem dL_law_805 : decode cL_law 805 = .ok (.iload 4, 2) := dk_21 4 (dk_at dksL_law_26 17 rfl rfl)
theorem dL_law_807 : decode cL_law 807 = .ok (.iconst 2, 1) := dk_5 (dk_at dksL_law_26 19 rfl rfl)
theorem dL_law_808 : decode cL_law 808 = .ok (.iadd, 1) := dk_96 (dk_at dksL_law_26 20 rfl rfl)
theorem dL_law_809 : decode cL_law 809 = .ok (.iaload, 1) := dk_46 (dk_at dksL_law_26 21 rfl rfl)
theorem dL_law_810 : decode cL_law 810 = .ok (.aload_n 3, 1) := dk_45 (dk_at dksL_law_26 22 rfl rfl)
theorem dL_law_811 : decode cL_law 811 = .ok (.invokestatic 176, 3) := dk_184 0 176 (dk_at dksL_law_27 0 rfl rfl)
theorem dL_law_814 : decode cL_law 814 = .ok (.istore 5, 2) := dk_54 5 (dk_at dksL_law_27 3 rfl rfl)
theorem dL_law_816 : decode cL_law 816 = .ok (.aload_n 2, 1) := dk_44 (dk_at dksL_law_27 5 rfl rfl)
theorem dL_law_817 : decode cL_law 817 = .ok (.aload_n 0, 1) := dk_42 (dk_at dksL_law_27 6 rfl rfl)
theorem dL_law_818 : decode cL_law 818 = .ok (.iload 4, 2) := dk_21 4 (dk_at dksL_law_27 7 rfl rfl)
theorem dL_law_820 : decode cL_law 820 = .ok (.iconst 1, 1) := dk_4 (dk_at dksL_law_27 9 rfl rfl)
theorem dL_law_821 : decode cL_law 821 = .ok (.iadd, 1) := dk_96 (dk_at dksL_law_27 10 rfl rfl)
theorem dL_law_822 : decode cL_law 822 = .ok (.iaload, 1) := dk_46 (dk_at dksL_law_27 11 rfl rfl)
theorem dL_law_823 : decode cL_law 823 = .ok (.aload_n 0, 1) := dk_42 (dk_at dksL_law_27 12 rfl rfl)
theorem dL_law_824 : decode cL_law 824 = .ok (.iload 4, 2) := dk_21 4 (dk_at dksL_law_27 13 rfl rfl)
theorem dL_law_826 : decode cL_law 826 = .ok (.iconst 2, 1) := dk_5 (dk_at dksL_law_27 15 rfl rfl)
theorem dL_law_827 : decode cL_law 827 = .ok (.iadd, 1) := dk_96 (dk_at dksL_law_27 16 rfl rfl)
theorem dL_law_828 : decode cL_law 828 = .ok (.iaload, 1) := dk_46 (dk_at dksL_law_27 17 rfl rfl)
theorem dL_law_829 : decode cL_law 829 = .ok (.invokevirtual 178, 3) := dk_182 0 178 (dk_at dksL_law_27 18 rfl rfl)
theorem dL_law_832 : decode cL_law 832 = .ok (.istore 6, 2) := dk_54 6 (dk_at dksL_law_27 21 rfl rfl)
theorem dL_law_834 : decode cL_law 834 = .ok (.aload_n 2, 1) := dk_44 (dk_at dksL_law_27 23 rfl rfl)
theorem dL_law_835 : decode cL_law 835 = .ok (.invokevirtual 156, 3) := dk_182 0 156 (dk_at dksL_law_28 0 rfl rfl)
theorem dL_law_838 : decode cL_law 838 = .ok (.iload 5, 2) := dk_21 5 (dk_at dksL_law_28 3 rfl rfl)
theorem dL_law_840 : decode cL_law 840 = .ok (.if_icmp .eq 5, 3) := dk_159 0 5 (dk_at dksL_law_28 5 rfl rfl)
theorem dL_law_843 : decode cL_law 843 = .ok (.iconst 0, 1) := dk_3 (dk_at dksL_law_28 8 rfl rfl)
theorem dL_law_844 : decode cL_law 844 = .ok (.ireturn, 1) := dk_172 (dk_at dksL_law_28 9 rfl rfl)
theorem dL_law_845 : decode cL_law 845 = .ok (.iload 5, 2) := dk_21 5 (dk_at dksL_law_28 10 rfl rfl)
theorem dL_law_847 : decode cL_law 847 = .ok (.ifCond .ne 15, 3) := dk_154 0 15 (dk_at dksL_law_28 12 rfl rfl)
theorem dL_law_850 : decode cL_law 850 = .ok (.aload_n 3, 1) := dk_45 (dk_at dksL_law_28 15 rfl rfl)
theorem dL_law_851 : decode cL_law 851 = .ok (.iconst 0, 1) := dk_3 (dk_at dksL_law_28 16 rfl rfl)
theorem dL_law_852 : decode cL_law 852 = .ok (.laload, 1) := dk_47 (dk_at dksL_law_28 17 rfl rfl)
theorem dL_law_853 : decode cL_law 853 = .ok (.iload 6, 2) := dk_21 6 (dk_at dksL_law_28 18 rfl rfl)
theorem dL_law_855 : decode cL_law 855 = .ok (.i2l, 1) := dk_133 (dk_at dksL_law_28 20 rfl rfl)
theorem dL_law_856 : decode cL_law 856 = .ok (.lcmp, 1) := dk_148 (dk_at dksL_law_28 21 rfl rfl)
theorem dL_law_857 : decode cL_law 857 = .ok (.ifCond .eq 5, 3) := dk_153 0 5 (dk_at dksL_law_29 0 rfl rfl)
theorem dL_law_860 : decode cL_law 860 = .ok (.iconst 0, 1) := dk_3 (dk_at dksL_law_29 3 rfl rfl)
theorem dL_law_861 : decode cL_law 861 = .ok (.ireturn, 1) := dk_172 (dk_at dksL_law_29 4 rfl rfl)
theorem dL_law_862 : decode cL_law 862 = .ok (.goto 1985, 3) := dk_167 7 193 (dk_at dksL_law_29 5 rfl rfl)
theorem dL_law_865 : decode cL_law 865 = .ok (.aload_n 1, 1) := dk_43 (dk_at dksL_law_29 8 rfl rfl)
theorem dL_law_866 : decode cL_law 866 = .ok (.aload_n 0, 1) := dk_42 (dk_at dksL_law_29 9 rfl rfl)
theorem dL_law_867 : decode cL_law 867 = .ok (.iload 4, 2) := dk_21 4 (dk_at dksL_law_29 10 rfl rfl)
theorem dL_law_869 : decode cL_law 869 = .ok (.iconst 1, 1) := dk_4 (dk_at dksL_law_29 12 rfl rfl)
theorem dL_law_870 : decode cL_law 870 = .ok (.iadd, 1) := dk_96 (dk_at dksL_law_29 13 rfl rfl)
theorem dL_law_871 : decode cL_law 871 = .ok (.iaload, 1) := dk_46 (dk_at dksL_law_29 14 rfl rfl)
theorem dL_law_872 : decode cL_law 872 = .ok (.aload_n 0, 1) := dk_42 (dk_at dksL_law_29 15 rfl rfl)
theorem dL_law_873 : decode cL_law 873 = .ok (.iload 4, 2) := dk_21 4 (dk_at dksL_law_29 16 rfl rfl)
theorem dL_law_875 : decode cL_law 875 = .ok (.iconst 2, 1) := dk_5 (dk_at dksL_law_29 18 rfl rfl)
theorem dL_law_876 : decode cL_law 876 = .ok (.iadd, 1) := dk_96 (dk_at dksL_law_29 19 rfl rfl)
theorem dL_law_877 : decode cL_law 877 = .ok (.iaload, 1) := dk_46 (dk_at dksL_law_29 20 rfl rfl)
theorem dL_law_878 : decode cL_law 878 = .ok (.aload_n 0, 1) := dk_42 (dk_at dksL_law_29 21 rfl rfl)
theorem dL_law_879 : decode cL_law 879 = .ok (.iload 4, 2) := dk_21 4 (dk_at dksL_law_29 22 rfl rfl)
theorem dL_law_881 : decode cL_law 881 = .ok (.iconst 3, 1) := dk_6 (dk_at dksL_law_30 0 rfl rfl)
theorem dL_law_882 : decode cL_law 882 = .ok (.iadd, 1) := dk_96 (dk_at dksL_law_30 1 rfl rfl)
theorem dL_law_883 : decode cL_law 883 = .ok (.iaload, 1) := dk_46 (dk_at dksL_law_30 2 rfl rfl)
theorem dL_law_884 : decode cL_law 884 = .ok (.aload_n 3, 1) := dk_45 (dk_at dksL_law_30 3 rfl rfl)
theorem dL_law_885 : decode cL_law 885 = .ok (.invokestatic 179, 3) := dk_184 0 179 (dk_at dksL_law_30 4 rfl rfl)
theorem dL_law_888 : decode cL_law 888 = .ok (.istore 5, 2) := dk_54 5 (dk_at dksL_law_30 7 rfl rfl)
theorem dL_law_890 : decode cL_law 890 = .ok (.aload_n 2, 1) := dk_44 (dk_at dksL_law_30 9 rfl rfl)
theorem dL_law_891 : decode cL_law 891 = .ok (.aload_n 0, 1) := dk_42 (dk_at dksL_law_30 10 rfl rfl)
theorem dL_law_892 : decode cL_law 892 = .ok (.iload 4, 2) := dk_21 4 (dk_at dksL_law_30 11 rfl rfl)
theorem dL_law_894 : decode cL_law 894 = .ok (.iconst 1, 1) := dk_4 (dk_at dksL_law_30 13 rfl rfl)
theorem dL_law_895 : decode cL_law 895 = .ok (.iadd, 1) := dk_96 (dk_at dksL_law_30 14 rfl rfl)
theorem dL_law_896 : decode cL_law 896 = .ok (.iaload, 1) := dk_46 (dk_at dksL_law_30 15 rfl rfl)
theorem dL_law_897 : decode cL_law 897 = .ok (.aload_n 0, 1) := dk_42 (dk_at dksL_law_30 16 rfl rfl)
theorem dL_law_898 : decode cL_law 898 = .ok (.iload 4, 2) := dk_21 4 (dk_at dksL_law_30 17 rfl rfl)
theorem dL_law_900 : decode cL_law 900 = .ok (.iconst 2, 1) := dk_5 (dk_at dksL_law_30 19 rfl rfl)
theorem dL_law_901 : decode cL_law 901 = .ok (.iadd, 1) := dk_96 (dk_at dksL_law_30 20 rfl rfl)
theorem dL_law_902 : decode cL_law 902 = .ok (.iaload, 1) := dk_46 (dk_at dksL_law_30 21 rfl rfl)
theorem dL_law_903 : decode cL_law 903 = .ok (.aload_n 0, 1) := dk_42 (dk_at dksL_law_30 22 rfl rfl)
theorem dL_law_904 : decode cL_law 904 = .ok (.iload 4, 2) := dk_21 4 (dk_at dksL_law_31 0 rfl rfl)
theorem dL_law_906 : decode cL_law 906 = .ok (.iconst 3, 1) := dk_6 (dk_at dksL_law_31 2 rfl rfl)
theorem dL_law_907 : decode cL_law 907 = .ok (.iadd, 1) := dk_96 (dk_at dksL_law_31 3 rfl rfl)
theorem dL_law_908 : decode cL_law 908 = .ok (.iaload, 1) := dk_46 (dk_at dksL_law_31 4 rfl rfl)
theorem dL_law_909 : decode cL_law 909 = .ok (.invokevirtual 181, 3) := dk_182 0 181 (dk_at dksL_law_31 5 rfl rfl)
theorem dL_law_912 : decode cL_law 912 = .ok (.istore 6, 2) := dk_54 6 (dk_at dksL_law_31 8 rfl rfl)
theorem dL_law_914 : decode cL_law 914 = .ok (.aload_n 2, 1) := dk_44 (dk_at dksL_law_31 10 rfl rfl)
theorem dL_law_915 : decode cL_law 915 = .ok (.invokevirtual 156, 3) := dk_182 0 156 (dk_at dksL_law_31 11 rfl rfl)
theorem dL_law_918 : decode cL_law 918 = .ok (.iload 5, 2) := dk_21 5 (dk_at dksL_law_31 14 rfl rfl)
theorem dL_law_920 : decode cL_law 920 = .ok (.if_icmp .eq 5, 3) := dk_159 0 5 (dk_at dksL_law_31 16 rfl rfl)
theorem dL_law_923 : decode cL_law 923 = .ok (.iconst 0, 1) := dk_3 (dk_at dksL_law_31 19 rfl rfl)
theorem dL_law_924 : decode cL_law 924 = .ok (.ireturn, 1) := dk_172 (dk_at dksL_law_31 20 rfl rfl)
theorem dL_law_925 : decode cL_law 925 = .ok (.iload 5, 2) := dk_21 5 (dk_at dksL_law_31 21 rfl rfl)
theorem dL_law_927 : decode cL_law 927 = .ok (.ifCond .ne 15, 3) := dk_154 0 15 (dk_at dksL_law_32 0 rfl rfl)
theorem dL_law_930 : decode cL_law 930 = .ok (.aload_n 3, 1) := dk_45 (dk_at dksL_law_32 3 rfl rfl)
theorem dL_law_931 : decode cL_law 931 = .ok (.iconst 0, 1) := dk_3 (dk_at dksL_law_32 4 rfl rfl)
theorem dL_law_932 : decode cL_law 932 = .ok (.laload, 1) := dk_47 (dk_at dksL_law_32 5 rfl rfl)
theorem dL_law_933 : decode cL_law 933 = .ok (.iload 6, 2) := dk_21 6 (dk_at dksL_law_32 6 rfl rfl)
theorem dL_law_935 : decode cL_law 935 = .ok (.i2l, 1) := dk_133 (dk_at dksL_law_32 8 rfl rfl)
theorem dL_law_936 : decode cL_law 936 = .ok (.lcmp, 1) := dk_148 (dk_at dksL_law_32 9 rfl rfl)
theorem dL_law_937 : decode cL_law 937 = .ok (.ifCond .eq 5, 3) := dk_153 0 5 (dk_at dksL_law_32 10 rfl rfl)
theorem dL_law_940 : decode cL_law 940 = .ok (.iconst 0, 1) := dk_3 (dk_at dksL_law_32 13 rfl rfl)
theorem dL_law_941 : decode cL_law 941 = .ok (.ireturn, 1) := dk_172 (dk_at dksL_law_32 14 rfl rfl)
theorem dL_law_942 : decode cL_law 942 = .ok (.goto 1905, 3) := dk_167 7 113 (dk_at dksL_law_32 15 rfl rfl)
theorem dL_law_945 : decode cL_law 945 = .ok (.aload_n 1, 1) := dk_43 (dk_at dksL_law_32 18 rfl rfl)
theorem dL_law_946 : decode cL_law 946 = .ok (.aload_n 0, 1) := dk_42 (dk_at dksL_law_32 19 rfl rfl)
theorem dL_law_947 : decode cL_law 947 = .ok (.iload 4, 2) := dk_21 4 (dk_at dksL_law_32 20 rfl rfl)
theorem dL_law_949 : decode cL_law 949 = .ok (.iconst 1, 1) := dk_4 (dk_at dksL_law_32 22 rfl rfl)
theorem dL_law_950 : decode cL_law 950 = .ok (.iadd, 1) := dk_96 (dk_at dksL_law_32 23 rfl rfl)
theorem dL_law_951 : decode cL_law 951 = .ok (.iaload, 1) := dk_46 (dk_at dksL_law_33 0 rfl rfl)
theorem dL_law_952 : decode cL_law 952 = .ok (.aload_n 3, 1) := dk_45 (dk_at dksL_law_33 1 rfl rfl)
theorem dL_law_953 : decode cL_law 953 = .ok (.invokestatic 182, 3) := dk_184 0 182 (dk_at dksL_law_33 2 rfl rfl)
theorem dL_law_956 : decode cL_law 956 = .ok (.istore 5, 2) := dk_54 5 (dk_at dksL_law_33 5 rfl rfl)
theorem dL_law_958 : decode cL_law 958 = .ok (.aload_n 2, 1) := dk_44 (dk_at dksL_law_33 7 rfl rfl)
theorem dL_law_959 : decode cL_law 959 = .ok (.aload_n 0, 1) := dk_42 (dk_at dksL_law_33 8 rfl rfl)
theorem dL_law_960 : decode cL_law 960 = .ok (.iload 4, 2) := dk_21 4 (dk_at dksL_law_33 9 rfl rfl)
theorem dL_law_962 : decode cL_law 962 = .ok (.iconst 1, 1) := dk_4 (dk_at dksL_law_33 11 rfl rfl)
theorem dL_law_963 : decode cL_law 963 = .ok (.iadd, 1) := dk_96 (dk_at dksL_law_33 12 rfl rfl)
theorem dL_law_964 : decode cL_law 964 = .ok (.iaload, 1) := dk_46 (dk_at dksL_law_33 13 rfl rfl)
theorem dL_law_965 : decode cL_law 965 = .ok (.invokevirtual 184, 3) := dk_182 0 184 (dk_at dksL_law_33 14 rfl rfl)
theorem dL_law_968 : decode cL_law 968 = .ok (.istore 6, 2) := dk_54 6 (dk_at dksL_law_33 17 rfl rfl)
theorem dL_law_970 : decode cL_law 970 = .ok (.aload_n 2, 1) := dk_44 (dk_at dksL_law_33 19 rfl rfl)
theorem dL_law_971 : decode cL_law 971 = .ok (.invokevirtual 156, 3) := dk_182 0 156 (dk_at dksL_law_33 20 rfl rfl)
theorem dL_law_974 : decode cL_law 974 = .ok (.iload 5, 2) := dk_21 5 (dk_at dksL_law_34 0 rfl rfl)
theorem dL_law_976 : decode cL_law 976 = .ok (.if_icmp .eq 5, 3) := dk_159 0 5 (dk_at dksL_law_34 2 rfl rfl)
theorem dL_law_979 : decode cL_law 979 = .ok (.iconst 0, 1) := dk_3 (dk_at dksL_law_34 5 rfl rfl)
theorem dL_law_980 : decode cL_law 980 = .ok (.ireturn, 1) := dk_172 (dk_at dksL_law_34 6 rfl rfl)
theorem dL_law_981 : decode cL_law 981 = .ok (.iload 5, 2) := dk_21 5 (dk_at dksL_law_34 7 rfl rfl)
theorem dL_law_983 : decode cL_law 983 = .ok (.ifCond .ne 15, 3) := dk_154 0 15 (dk_at dksL_law_34 9 rfl rfl)
theorem dL_law_986 : decode cL_law 986 = .ok (.aload_n 3, 1) := dk_45 (dk_at dksL_law_34 12 rfl rfl)
theorem dL_law_987 : decode cL_law 987 = .ok (.iconst 0, 1) := dk_3 (dk_at dksL_law_34 13 rfl rfl)
theorem dL_law_988 : decode cL_law 988 = .ok (.laload, 1) := dk_47 (dk_at dksL_law_34 14 rfl rfl)
theorem dL_law_989 : decode cL_law 989 = .ok (.iload 6, 2) := dk_21 6 (dk_at dksL_law_34 15 rfl rfl)
theorem dL_law_991 : decode cL_law 991 = .ok (.i2l, 1) := dk_133 (dk_at dksL_law_34 17 rfl rfl)
theorem dL_law_992 : decode cL_law 992 = .ok (.lcmp, 1) := dk_148 (dk_at dksL_law_34 18 rfl rfl)
theorem dL_law_993 : decode cL_law 993 = .ok (.ifCond .eq 5, 3) := dk_153 0 5 (dk_at dksL_law_34 19 rfl rfl)
theorem dL_law_996 : decode cL_law 996 = .ok (.iconst 0, 1) := dk_3 (dk_at dksL_law_34 22 rfl rfl)
theorem dL_law_997 : decode cL_law 997 = .ok (.ireturn, 1) := dk_172 (dk_at dksL_law_34 23 rfl rfl)
theorem dL_law_998 : decode cL_law 998 = .ok (.goto 1849, 3) := dk_167 7 57 (dk_at dksL_law_35 0 rfl rfl)
theorem dL_law_1001 : decode cL_law 1001 = .ok (.aload_n 1, 1) := dk_43 (dk_at dksL_law_35 3 rfl rfl)
theorem dL_law_1002 : decode cL_law 1002 = .ok (.aload_n 0, 1) := dk_42 (dk_at dksL_law_35 4 rfl rfl)
theorem dL_law_1003 : decode cL_law 1003 = .ok (.iload 4, 2) := dk_21 4 (dk_at dksL_law_35 5 rfl rfl)
theorem dL_law_1005 : decode cL_law 1005 = .ok (.iconst 1, 1) := dk_4 (dk_at dksL_law_35 7 rfl rfl)
theorem dL_law_1006 : decode cL_law 1006 = .ok (.iadd, 1) := dk_96 (dk_at dksL_law_35 8 rfl rfl)
theorem dL_law_1007 : decode cL_law 1007 = .ok (.iaload, 1) := dk_46 (dk_at dksL_law_35 9 rfl rfl)
theorem dL_law_1008 : decode cL_law 1008 = .ok (.aload_n 3, 1) := dk_45 (dk_at dksL_law_35 10 rfl rfl)
theorem dL_law_1009 : decode cL_law 1009 = .ok (.invokestatic 185, 3) := dk_184 0 185 (dk_at dksL_law_35 11 rfl rfl)
theorem dL_law_1012 : decode cL_law 1012 = .ok (.istore 5, 2) := dk_54 5 (dk_at dksL_law_35 14 rfl rfl)
theorem dL_law_1014 : decode cL_law 1014 = .ok (.aload_n 2, 1) := dk_44 (dk_at dksL_law_35 16 rfl rfl)
theorem dL_law_1015 : decode cL_law 1015 = .ok (.aload_n 0, 1) := dk_42 (dk_at dksL_law_35 17 rfl rfl)
theorem dL_law_1016 : decode cL_law 1016 = .ok (.iload 4, 2) := dk_21 4 (dk_at dksL_law_35 18 rfl rfl)
theorem dL_law_1018 : decode cL_law 1018 = .ok (.iconst 1, 1) := dk_4 (dk_at dksL_law_35 20 rfl rfl)
theorem dL_law_1019 : decode cL_law 1019 = .ok (.iadd, 1) := dk_96 (dk_at dksL_law_35 21 rfl rfl)
theorem dL_law_1020 : decode cL_law 1020 = .ok (.iaload, 1) := dk_46 (dk_at dksL_law_35 22 rfl rfl)
theorem dL_law_1021 : decode cL_law 1021 = .ok (.invokevirtual 187, 3) := dk_182 0 187 (dk_at dksL_law_36 0 rfl rfl)
theorem dL_law_1024 : decode cL_law 1024 = .ok (.istore 6, 2) := dk_54 6 (dk_at dksL_law_36 3 rfl rfl)
theorem dL_law_1026 : decode cL_law 1026 = .ok (.aload_n 2, 1) := dk_44 (dk_at dksL_law_36 5 rfl rfl)
theorem dL_law_1027 : decode cL_law 1027 = .ok (.invokevirtual 156, 3) := dk_182 0 156 (dk_at dksL_law_36 6 rfl rfl)
theorem dL_law_1030 : decode cL_law 1030 = .ok (.iload 5, 2) := dk_21 5 (dk_at dksL_law_36 9 rfl rfl)
theorem dL_law_1032 : decode cL_law 1032 = .ok (.if_icmp .eq 5, 3) := dk_159 0 5 (dk_at dksL_law_36 11 rfl rfl)
theorem dL_law_1035 : decode cL_law 1035 = .ok (.iconst 0, 1) := dk_3 (dk_at dksL_law_36 14 rfl rfl)
theorem dL_law_1036 : decode cL_law 1036 = .ok (.ireturn, 1) := dk_172 (dk_at dksL_law_36 15 rfl rfl)
theorem dL_law_1037 : decode cL_law 1037 = .ok (.iload 5, 2) := dk_21 5 (dk_at dksL_law_36 16 rfl rfl)
theorem dL_law_1039 : decode cL_law 1039 = .ok (.ifCond .ne 15, 3) := dk_154 0 15 (dk_at dksL_law_36 18 rfl rfl)
theorem dL_law_1042 : decode cL_law 1042 = .ok (.aload_n 3, 1) := dk_45 (dk_at dksL_law_36 21 rfl rfl)
theorem dL_law_1043 : decode cL_law 1043 = .ok (.iconst 0, 1) := dk_3 (dk_at dksL_law_36 22 rfl rfl)
theorem dL_law_1044 : decode cL_law 1044 = .ok (.laload, 1) := dk_47 (dk_at dksL_law_36 23 rfl rfl)
theorem dL_law_1045 : decode cL_law 1045 = .ok (.iload 6, 2) := dk_21 6 (dk_at dksL_law_37 0 rfl rfl)
theorem dL_law_1047 : decode cL_law 1047 = .ok (.i2l, 1) := dk_133 (dk_at dksL_law_37 2 rfl rfl)
theorem dL_law_1048 : decode cL_law 1048 = .ok (.lcmp, 1) := dk_148 (dk_at dksL_law_37 3 rfl rfl)
theorem dL_law_1049 : decode cL_law 1049 = .ok (.ifCond .eq 5, 3) := dk_153 0 5 (dk_at dksL_law_37 4 rfl rfl)
theorem dL_law_1052 : decode cL_law 1052 = .ok (.iconst 0, 1) := dk_3 (dk_at dksL_law_37 7 rfl rfl)
theorem dL_law_1053 : decode cL_law 1053 = .ok (.ireturn, 1) := dk_172 (dk_at dksL_law_37 8 rfl rfl)
theorem dL_law_1054 : decode cL_law 1054 = .ok (.goto 1793, 3) := dk_167 7 1 (dk_at dksL_law_37 9 rfl rfl)
theorem dL_law_1057 : decode cL_law 1057 = .ok (.aload_n 1, 1) := dk_43 (dk_at dksL_law_37 12 rfl rfl)
theorem dL_law_1058 : decode cL_law 1058 = .ok (.aload_n 0, 1) := dk_42 (dk_at dksL_law_37 13 rfl rfl)
theorem dL_law_1059 : decode cL_law 1059 = .ok (.iload 4, 2) := dk_21 4 (dk_at dksL_law_37 14 rfl rfl)
theorem dL_law_1061 : decode cL_law 1061 = .ok (.iconst 1, 1) := dk_4 (dk_at dksL_law_37 16 rfl rfl)
theorem dL_law_1062 : decode cL_law 1062 = .ok (.iadd, 1) := dk_96 (dk_at dksL_law_37 17 rfl rfl)
theorem dL_law_1063 : decode cL_law 1063 = .ok (.iaload, 1) := dk_46 (dk_at dksL_law_37 18 rfl rfl)
theorem dL_law_1064 : decode cL_law 1064 = .ok (.aload_n 0, 1) := dk_42 (dk_at dksL_law_37 19 rfl rfl)
theorem dL_law_1065 : decode cL_law 1065 = .ok (.iload 4, 2) := dk_21 4 (dk_at dksL_law_37 20 rfl rfl)
theorem dL_law_1067 : decode cL_law 1067 = .ok (.iconst 2, 1) := dk_5 (dk_at dksL_law_37 22 rfl rfl)
theorem dL_law_1068 : decode cL_law 1068 = .ok (.iadd, 1) := dk_96 (dk_at dksL_law_37 23 rfl rfl)
theorem dL_law_1069 : decode cL_law 1069 = .ok (.iaload, 1) := dk_46 (dk_at dksL_law_38 0 rfl rfl)
theorem dL_law_1070 : decode cL_law 1070 = .ok (.aload_n 3, 1) := dk_45 (dk_at dksL_law_38 1 rfl rfl)
theorem dL_law_1071 : decode cL_law 1071 = .ok (.invokestatic 188, 3) := dk_184 0 188 (dk_at dksL_law_38 2 rfl rfl)
theorem dL_law_1074 : decode cL_law 1074 = .ok (.istore 5, 2) := dk_54 5 (dk_at dksL_law_38 5 rfl rfl)
theorem dL_law_1076 : decode cL_law 1076 = .ok (.aload_n 2, 1) := dk_44 (dk_at dksL_law_38 7 rfl rfl)
theorem dL_law_1077 : decode cL_law 1077 = .ok (.aload_n 0, 1) := dk_42 (dk_at dksL_law_38 8 rfl rfl)
theorem dL_law_1078 : decode cL_law 1078 = .ok (.iload 4, 2) := dk_21 4 (dk_at dksL_law_38 9 rfl rfl)
theorem dL_law_1080 : decode cL_law 1080 = .ok (.iconst 1, 1) := dk_4 (dk_at dksL_law_38 11 rfl rfl)
theorem dL_law_1081 : decode cL_law 1081 = .ok (.iadd, 1) := dk_96 (dk_at dksL_law_38 12 rfl rfl)
theorem dL_law_1082 : decode cL_law 1082 = .ok (.iaload, 1) := dk_46 (dk_at dksL_law_38 13 rfl rfl)
theorem dL_law_1083 : decode cL_law 1083 = .ok (.aload_n 0, 1) := dk_42 (dk_at dksL_law_38 14 rfl rfl)
theorem dL_law_1084 : decode cL_law 1084 = .ok (.iload 4, 2) := dk_21 4 (dk_at dksL_law_38 15 rfl rfl)
theorem dL_law_1086 : decode cL_law 1086 = .ok (.iconst 2, 1) := dk_5 (dk_at dksL_law_38 17 rfl rfl)
theorem dL_law_1087 : decode cL_law 1087 = .ok (.iadd, 1) := dk_96 (dk_at dksL_law_38 18 rfl rfl)
theorem dL_law_1088 : decode cL_law 1088 = .ok (.iaload, 1) := dk_46 (dk_at dksL_law_38 19 rfl rfl)
theorem dL_law_1089 : decode cL_law 1089 = .ok (.invokevirtual 190, 3) := dk_182 0 190 (dk_at dksL_law_38 20 rfl rfl)
theorem dL_law_1092 : decode cL_law 1092 = .ok (.istore 6, 2) := dk_54 6 (dk_at dksL_law_39 0 rfl rfl)
theorem dL_law_1094 : decode cL_law 1094 = .ok (.aload_n 2, 1) := dk_44 (dk_at dksL_law_39 2 rfl rfl)
theorem dL_law_1095 : decode cL_law 1095 = .ok (.invokevirtual 156, 3) := dk_182 0 156 (dk_at dksL_law_39 3 rfl rfl)
theorem dL_law_1098 : decode cL_law 1098 = .ok (.iload 5, 2) := dk_21 5 (dk_at dksL_law_39 6 rfl rfl)
theorem dL_law_1100 : decode cL_law 1100 = .ok (.if_icmp .eq 5, 3) := dk_159 0 5 (dk_at dksL_law_39 8 rfl rfl)
theorem dL_law_1103 : decode cL_law 1103 = .ok (.iconst 0, 1) := dk_3 (dk_at dksL_law_39 11 rfl rfl)
theorem dL_law_1104 : decode cL_law 1104 = .ok (.ireturn, 1) := dk_172 (dk_at dksL_law_39 12 rfl rfl)
theorem dL_law_1105 : decode cL_law 1105 = .ok (.iload 5, 2) := dk_21 5 (dk_at dksL_law_39 13 rfl rfl)
theorem dL_law_1107 : decode cL_law 1107 = .ok (.ifCond .ne 15, 3) := dk_154 0 15 (dk_at dksL_law_39 15 rfl rfl)
theorem dL_law_1110 : decode cL_law 1110 = .ok (.aload_n 3, 1) := dk_45 (dk_at dksL_law_39 18 rfl rfl)
theorem dL_law_1111 : decode cL_law 1111 = .ok (.iconst 0, 1) := dk_3 (dk_at dksL_law_39 19 rfl rfl)
theorem dL_law_1112 : decode cL_law 1112 = .ok (.laload, 1) := dk_47 (dk_at dksL_law_39 20 rfl rfl)
theorem dL_law_1113 : decode cL_law 1113 = .ok (.iload 6, 2) := dk_21 6 (dk_at dksL_law_39 21 rfl rfl)
theorem dL_law_1115 : decode cL_law 1115 = .ok (.i2l, 1) := dk_133 (dk_at dksL_law_39 23 rfl rfl)
theorem dL_law_1116 : decode cL_law 1116 = .ok (.lcmp, 1) := dk_148 (dk_at dksL_law_40 0 rfl rfl)
theorem dL_law_1117 : decode cL_law 1117 = .ok (.ifCond .eq 5, 3) := dk_153 0 5 (dk_at dksL_law_40 1 rfl rfl)
theorem dL_law_1120 : decode cL_law 1120 = .ok (.iconst 0, 1) := dk_3 (dk_at dksL_law_40 4 rfl rfl)
theorem dL_law_1121 : decode cL_law 1121 = .ok (.ireturn, 1) := dk_172 (dk_at dksL_law_40 5 rfl rfl)
theorem dL_law_1122 : decode cL_law 1122 = .ok (.goto 1725, 3) := dk_167 6 189 (dk_at dksL_law_40 6 rfl rfl)
theorem dL_law_1125 : decode cL_law 1125 = .ok (.aload_n 1, 1) := dk_43 (dk_at dksL_law_40 9 rfl rfl)
theorem dL_law_1126 : decode cL_law 1126 = .ok (.aload_n 0, 1) := dk_42 (dk_at dksL_law_40 10 rfl rfl)
theorem dL_law_1127 : decode cL_law 1127 = .ok (.iload 4, 2) := dk_21 4 (dk_at dksL_law_40 11 rfl rfl)
theorem dL_law_1129 : decode cL_law 1129 = .ok (.iconst 1, 1) := dk_4 (dk_at dksL_law_40 13 rfl rfl)
theorem dL_law_1130 : decode cL_law 1130 = .ok (.iadd, 1) := dk_96 (dk_at dksL_law_40 14 rfl rfl)
theorem dL_law_1131 : decode cL_law 1131 = .ok (.iaload, 1) := dk_46 (dk_at dksL_law_40 15 rfl rfl)
theorem dL_law_1132 : decode cL_law 1132 = .ok (.aload_n 0, 1) := dk_42 (dk_at dksL_law_40 16 rfl rfl)
theorem dL_law_1133 : decode cL_law 1133 = .ok (.iload 4, 2) := dk_21 4 (dk_at dksL_law_40 17 rfl rfl)
theorem dL_law_1135 : decode cL_law 1135 = .ok (.iconst 2, 1) := dk_5 (dk_at dksL_law_40 19 rfl rfl)
theorem dL_law_1136 : decode cL_law 1136 = .ok (.iadd, 1) := dk_96 (dk_at dksL_law_40 20 rfl rfl)
theorem dL_law_1137 : decode cL_law 1137 = .ok (.iaload, 1) := dk_46 (dk_at dksL_law_40 21 rfl rfl)
theorem dL_law_1138 : decode cL_law 1138 = .ok (.aload_n 3, 1) := dk_45 (dk_at dksL_law_40 22 rfl rfl)
theorem dL_law_1139 : decode cL_law 1139 = .ok (.invokestatic 191, 3) := dk_184 0 191 (dk_at dksL_law_41 0 rfl rfl)
theorem dL_law_1142 : decode cL_law 1142 = .ok (.istore 5, 2) := dk_54 5 (dk_at dksL_law_41 3 rfl rfl)
theorem dL_law_1144 : decode cL_law 1144 = .ok (.aload_n 2, 1) := dk_44 (dk_at dksL_law_41 5 rfl rfl)
theorem dL_law_1145 : decode cL_law 1145 = .ok (.aload_n 0, 1) := dk_42 (dk_at dksL_law_41 6 rfl rfl)
theorem dL_law_1146 : decode cL_law 1146 = .ok (.iload 4, 2) := dk_21 4 (dk_at dksL_law_41 7 rfl rfl)
theorem dL_law_1148 : decode cL_law 1148 = .ok (.iconst 1, 1) := dk_4 (dk_at dksL_law_41 9 rfl rfl)
theorem dL_law_1149 : decode cL_law 1149 = .ok (.iadd, 1) := dk_96 (dk_at dksL_law_41 10 rfl rfl)
theorem dL_law_1150 : decode cL_law 1150 = .ok (.iaload, 1) := dk_46 (dk_at dksL_law_41 11 rfl rfl)
theorem dL_law_1151 : decode cL_law 1151 = .ok (.aload_n 0, 1) := dk_42 (dk_at dksL_law_41 12 rfl rfl)
theorem dL_law_1152 : decode cL_law 1152 = .ok (.iload 4, 2) := dk_21 4 (dk_at dksL_law_41 13 rfl rfl)
theorem dL_law_1154 : decode cL_law 1154 = .ok (.iconst 2, 1) := dk_5 (dk_at dksL_law_41 15 rfl rfl)
theorem dL_law_1155 : decode cL_law 1155 = .ok (.iadd, 1) := dk_96 (dk_at dksL_law_41 16 rfl rfl)
theorem dL_law_1156 : decode cL_law 1156 = .ok (.iaload, 1) := dk_46 (dk_at dksL_law_41 17 rfl rfl)
theorem dL_law_1157 : decode cL_law 1157 = .ok (.invokevirtual 193, 3) := dk_182 0 193 (dk_at dksL_law_41 18 rfl rfl)
theorem dL_law_1160 : decode cL_law 1160 = .ok (.istore 6, 2) := dk_54 6 (dk_at dksL_law_41 21 rfl rfl)
theorem dL_law_1162 : decode cL_law 1162 = .ok (.aload_n 2, 1) := dk_44 (dk_at dksL_law_41 23 rfl rfl)
theorem dL_law_1163 : decode cL_law 1163 = .ok (.invokevirtual 156, 3) := dk_182 0 156 (dk_at dksL_law_42 0 rfl rfl)
theorem dL_law_1166 : decode cL_law 1166 = .ok (.iload 5, 2) := dk_21 5 (dk_at dksL_law_42 3 rfl rfl)
theorem dL_law_1168 : decode cL_law 1168 = .ok (.if_icmp .eq 5, 3) := dk_159 0 5 (dk_at dksL_law_42 5 rfl rfl)
theorem dL_law_1171 : decode cL_law 1171 = .ok (.iconst 0, 1) := dk_3 (dk_at dksL_law_42 8 rfl rfl)
theorem dL_law_1172 : decode cL_law 1172 = .ok (.ireturn, 1) := dk_172 (dk_at dksL_law_42 9 rfl rfl)
theorem dL_law_1173 : decode cL_law 1173 = .ok (.iload 5, 2) := dk_21 5 (dk_at dksL_law_42 10 rfl rfl)
theorem dL_law_1175 : decode cL_law 1175 = .ok (.ifCond .ne 15, 3) := dk_154 0 15 (dk_at dksL_law_42 12 rfl rfl)
theorem dL_law_1178 : decode cL_law 1178 = .ok (.aload_n 3, 1) := dk_45 (dk_at dksL_law_42 15 rfl rfl)
theorem dL_law_1179 : decode cL_law 1179 = .ok (.iconst 0, 1) := dk_3 (dk_at dksL_law_42 16 rfl rfl)
theorem dL_law_1180 : decode cL_law 1180 = .ok (.laload, 1) := dk_47 (dk_at dksL_law_42 17 rfl rfl)
theorem dL_law_1181 : decode cL_law 1181 = .ok (.iload 6, 2) := dk_21 6 (dk_at dksL_law_42 18 rfl rfl)
theorem dL_law_1183 : decode cL_law 1183 = .ok (.i2l, 1) := dk_133 (dk_at dksL_law_42 20 rfl rfl)
theorem dL_law_1184 : decode cL_law 1184 = .ok (.lcmp, 1) := dk_148 (dk_at dksL_law_42 21 rfl rfl)
theorem dL_law_1185 : decode cL_law 1185 = .ok (.ifCond .eq 5, 3) := dk_153 0 5 (dk_at dksL_law_43 0 rfl rfl)
theorem dL_law_1188 : decode cL_law 1188 = .ok (.iconst 0, 1) := dk_3 (dk_at dksL_law_43 3 rfl rfl)
theorem dL_law_1189 : decode cL_law 1189 = .ok (.ireturn, 1) := dk_172 (dk_at dksL_law_43 4 rfl rfl)
theorem dL_law_1190 : decode cL_law 1190 = .ok (.goto 1657, 3) := dk_167 6 121 (dk_at dksL_law_43 5 rfl rfl)
theorem dL_law_1193 : decode cL_law 1193 = .ok (.aload_n 1, 1) := dk_43 (dk_at dksL_law_43 8 rfl rfl)
theorem dL_law_1194 : decode cL_law 1194 = .ok (.aload_n 0, 1) := dk_42 (dk_at dksL_law_43 9 rfl rfl)
theorem dL_law_1195 : decode cL_law 1195 = .ok (.iload 4, 2) := dk_21 4 (dk_at dksL_law_43 10 rfl rfl)
theorem dL_law_1197 : decode cL_law 1197 = .ok (.iconst 1, 1) := dk_4 (dk_at dksL_law_43 12 rfl rfl)
theorem dL_law_1198 : decode cL_law 1198 = .ok (.iadd, 1) := dk_96 (dk_at dksL_law_43 13 rfl rfl)
theorem dL_law_1199 : decode cL_law 1199 = .ok (.iaload, 1) := dk_46 (dk_at dksL_law_43 14 rfl rfl)
theorem dL_law_1200 : decode cL_law 1200 = .ok (.aload_n 3, 1) := dk_45 (dk_at dksL_law_43 15 rfl rfl)
theorem dL_law_1201 : decode cL_law 1201 = .ok (.invokestatic 194, 3) := dk_184 0 194 (dk_at dksL_law_43 16 rfl rfl)
theorem dL_law_1204 : decode cL_law 1204 = .ok (.istore 5, 2) := dk_54 5 (dk_at dksL_law_43 19 rfl rfl)
theorem dL_law_1206 : decode cL_law 1206 = .ok (.aload_n 2, 1) := dk_44 (dk_at dksL_law_43 21 rfl rfl)
theorem dL_law_1207 : decode cL_law 1207 = .ok (.aload_n 0, 1) := dk_42 (dk_at dksL_law_43 22 rfl rfl)
theorem dL_law_1208 : decode cL_law 1208 = .ok (.iload 4, 2) := dk_21 4 (dk_at dksL_law_44 0 rfl rfl)
theorem dL_law_1210 : decode cL_law 1210 = .ok (.iconst 1, 1) := dk_4 (dk_at dksL_law_44 2 rfl rfl)
theorem dL_law_1211 : decode cL_law 1211 = .ok (.iadd, 1) := dk_96 (dk_at dksL_law_44 3 rfl rfl)
theorem dL_law_1212 : decode cL_law 1212 = .ok (.iaload, 1) := dk_46 (dk_at dksL_law_44 4 rfl rfl)
theorem dL_law_1213 : decode cL_law 1213 = .ok (.invokevirtual 196, 3) := dk_182 0 196 (dk_at dksL_law_44 5 rfl rfl)
theorem dL_law_1216 : decode cL_law 1216 = .ok (.istore 6, 2) := dk_54 6 (dk_at dksL_law_44 8 rfl rfl)
theorem dL_law_1218 : decode cL_law 1218 = .ok (.aload_n 2, 1) := dk_44 (dk_at dksL_law_44 10 rfl rfl)
theorem dL_law_1219 : decode cL_law 1219 = .ok (.invokevirtual 156, 3) := dk_182 0 156 (dk_at dksL_law_44 11 rfl rfl)
theorem dL_law_1222 : decode cL_law 1222 = .ok (.iload 5, 2) := dk_21 5 (dk_at dksL_law_44 14 rfl rfl)
theorem dL_law_1224 : decode cL_law 1224 = .ok (.if_icmp .eq 5, 3) := dk_159 0 5 (dk_at dksL_law_44 16 rfl rfl)
theorem dL_law_1227 : decode cL_law 1227 = .ok (.iconst 0, 1) := dk_3 (dk_at dksL_law_44 19 rfl rfl)
theorem dL_law_1228 : decode cL_law 1228 = .ok (.ireturn, 1) := dk_172 (dk_at dksL_law_44 20 rfl rfl)
theorem dL_law_1229 : decode cL_law 1229 = .ok (.iload 5, 2) := dk_21 5 (dk_at dksL_law_44 21 rfl rfl)
theorem dL_law_1231 : decode cL_law 1231 = .ok (.ifCond .ne 15, 3) := dk_154 0 15 (dk_at dksL_law_45 0 rfl rfl)
theorem dL_law_1234 : decode cL_law 1234 = .ok (.aload_n 3, 1) := dk_45 (dk_at dksL_law_45 3 rfl rfl)
theorem dL_law_1235 : decode cL_law 1235 = .ok (.iconst 0, 1) := dk_3 (dk_at dksL_law_45 4 rfl rfl)
theorem dL_law_1236 : decode cL_law 1236 = .ok (.laload, 1) := dk_47 (dk_at dksL_law_45 5 rfl rfl)
theorem dL_law_1237 : decode cL_law 1237 = .ok (.iload 6, 2) := dk_21 6 (dk_at dksL_law_45 6 rfl rfl)
theorem dL_law_1239 : decode cL_law 1239 = .ok (.i2l, 1) := dk_133 (dk_at dksL_law_45 8 rfl rfl)
theorem dL_law_1240 : decode cL_law 1240 = .ok (.lcmp, 1) := dk_148 (dk_at dksL_law_45 9 rfl rfl)
theorem dL_law_1241 : decode cL_law 1241 = .ok (.ifCond .eq 5, 3) := dk_153 0 5 (dk_at dksL_law_45 10 rfl rfl)
theorem dL_law_1244 : decode cL_law 1244 = .ok (.iconst 0, 1) := dk_3 (dk_at dksL_law_45 13 rfl rfl)
theorem dL_law_1245 : decode cL_law 1245 = .ok (.ireturn, 1) := dk_172 (dk_at dksL_law_45 14 rfl rfl)
theorem dL_law_1246 : decode cL_law 1246 = .ok (.goto 1601, 3) := dk_167 6 65 (dk_at dksL_law_45 15 rfl rfl)
theorem dL_law_1249 : decode cL_law 1249 = .ok (.aload_n 1, 1) := dk_43 (dk_at dksL_law_45 18 rfl rfl)
theorem dL_law_1250 : decode cL_law 1250 = .ok (.invokevirtual 197, 3) := dk_182 0 197 (dk_at dksL_law_45 19 rfl rfl)
theorem dL_law_1253 : decode cL_law 1253 = .ok (.aload_n 2, 1) := dk_44 (dk_at dksL_law_45 22 rfl rfl)
theorem dL_law_1254 : decode cL_law 1254 = .ok (.invokevirtual 200, 3) := dk_182 0 200 (dk_at dksL_law_46 0 rfl rfl)
theorem dL_law_1257 : decode cL_law 1257 = .ok (.if_icmp .eq 1590, 3) := dk_159 6 54 (dk_at dksL_law_46 3 rfl rfl)
theorem dL_law_1260 : decode cL_law 1260 = .ok (.iconst 0, 1) := dk_3 (dk_at dksL_law_46 6 rfl rfl)
theorem dL_law_1261 : decode cL_law 1261 = .ok (.ireturn, 1) := dk_172 (dk_at dksL_law_46 7 rfl rfl)
theorem dL_law_1262 : decode cL_law 1262 = .ok (.aload_n 1, 1) := dk_43 (dk_at dksL_law_46 8 rfl rfl)
theorem dL_law_1263 : decode cL_law 1263 = .ok (.invokevirtual 201, 3) := dk_182 0 201 (dk_at dksL_law_46 9 rfl rfl)
theorem dL_law_1266 : decode cL_law 1266 = .ok (.aload_n 2, 1) := dk_44 (dk_at dksL_law_46 12 rfl rfl)
theorem dL_law_1267 : decode cL_law 1267 = .ok (.invokevirtual 204, 3) := dk_182 0 204 (dk_at dksL_law_46 13 rfl rfl)
theorem dL_law_1270 : decode cL_law 1270 = .ok (.if_icmp .eq 1577, 3) := dk_159 6 41 (dk_at dksL_law_46 16 rfl rfl)
theorem dL_law_1273 : decode cL_law 1273 = .ok (.iconst 0, 1) := dk_3 (dk_at dksL_law_46 19 rfl rfl)
theorem dL_law_1274 : decode cL_law 1274 = .ok (.ireturn, 1) := dk_172 (dk_at dksL_law_46 20 rfl rfl)
theorem dL_law_1275 : decode cL_law 1275 = .ok (.aload_n 1, 1) := dk_43 (dk_at dksL_law_46 21 rfl rfl)
theorem dL_law_1276 : decode cL_law 1276 = .ok (.invokevirtual 205, 3) := dk_182 0 205 (dk_at dksL_law_47 0 rfl rfl)
theorem dL_law_1279 : decode cL_law 1279 = .ok (.aload_n 2, 1) := dk_44 (dk_at dksL_law_47 3 rfl rfl)
theorem dL_law_1280 : decode cL_law 1280 = .ok (.invokevirtual 208, 3) := dk_182 0 208 (dk_at dksL_law_47 4 rfl rfl)
theorem dL_law_1283 : decode cL_law 1283 = .ok (.if_icmp .eq 1564, 3) := dk_159 6 28 (dk_at dksL_law_47 7 rfl rfl)
theorem dL_law_1286 : decode cL_law 1286 = .ok (.iconst 0, 1) := dk_3 (dk_at dksL_law_47 10 rfl rfl)
theorem dL_law_1287 : decode cL_law 1287 = .ok (.ireturn, 1) := dk_172 (dk_at dksL_law_47 11 rfl rfl)
theorem dL_law_1288 : decode cL_law 1288 = .ok (.aload_n 1, 1) := dk_43 (dk_at dksL_law_47 12 rfl rfl)
theorem dL_law_1289 : decode cL_law 1289 = .ok (.aload_n 0, 1) := dk_42 (dk_at dksL_law_47 13 rfl rfl)
theorem dL_law_1290 : decode cL_law 1290 = .ok (.iload 4, 2) := dk_21 4 (dk_at dksL_law_47 14 rfl rfl)
theorem dL_law_1292 : decode cL_law 1292 = .ok (.iconst 1, 1) := dk_4 (dk_at dksL_law_47 16 rfl rfl)
theorem dL_law_1293 : decode cL_law 1293 = .ok (.iadd, 1) := dk_96 (dk_at dksL_law_47 17 rfl rfl)
theorem dL_law_1294 : decode cL_law 1294 = .ok (.iaload, 1) := dk_46 (dk_at dksL_law_47 18 rfl rfl)
theorem dL_law_1295 : decode cL_law 1295 = .ok (.aload_n 0, 1) := dk_42 (dk_at dksL_law_47 19 rfl rfl)
theorem dL_law_1296 : decode cL_law 1296 = .ok (.iload 4, 2) := dk_21 4 (dk_at dksL_law_47 20 rfl rfl)
theorem dL_law_1298 : decode cL_law 1298 = .ok (.iconst 2, 1) := dk_5 (dk_at dksL_law_47 22 rfl rfl)
theorem dL_law_1299 : decode cL_law 1299 = .ok (.iadd, 1) := dk_96 (dk_at dksL_law_47 23 rfl rfl)
theorem dL_law_1300 : decode cL_law 1300 = .ok (.iaload, 1) := dk_46 (dk_at dksL_law_48 0 rfl rfl)
theorem dL_law_1301 : decode cL_law 1301 = .ok (.aload_n 0, 1) := dk_42 (dk_at dksL_law_48 1 rfl rfl)
theorem dL_law_1302 : decode cL_law 1302 = .ok (.iload 4, 2) := dk_21 4 (dk_at dksL_law_48 2 rfl rfl)
theorem dL_law_1304 : decode cL_law 1304 = .ok (.iconst 3, 1) := dk_6 (dk_at dksL_law_48 4 rfl rfl)
theorem dL_law_1305 : decode cL_law 1305 = .ok (.iadd, 1) := dk_96 (dk_at dksL_law_48 5 rfl rfl)
theorem dL_law_1306 : decode cL_law 1306 = .ok (.iaload, 1) := dk_46 (dk_at dksL_law_48 6 rfl rfl)
theorem dL_law_1307 : decode cL_law 1307 = .ok (.aload_n 3, 1) := dk_45 (dk_at dksL_law_48 7 rfl rfl)
theorem dL_law_1308 : decode cL_law 1308 = .ok (.invokestatic 209, 3) := dk_184 0 209 (dk_at dksL_law_48 8 rfl rfl)
theorem dL_law_1311 : decode cL_law 1311 = .ok (.istore 5, 2) := dk_54 5 (dk_at dksL_law_48 11 rfl rfl)
theorem dL_law_1313 : decode cL_law 1313 = .ok (.aload_n 2, 1) := dk_44 (dk_at dksL_law_48 13 rfl rfl)
theorem dL_law_1314 : decode cL_law 1314 = .ok (.aload_n 0, 1) := dk_42 (dk_at dksL_law_48 14 rfl rfl)
theorem dL_law_1315 : decode cL_law 1315 = .ok (.iload 4, 2) := dk_21 4 (dk_at dksL_law_48 15 rfl rfl)
theorem dL_law_1317 : decode cL_law 1317 = .ok (.iconst 1, 1) := dk_4 (dk_at dksL_law_48 17 rfl rfl)
theorem dL_law_1318 : decode cL_law 1318 = .ok (.iadd, 1) := dk_96 (dk_at dksL_law_48 18 rfl rfl)
theorem dL_law_1319 : decode cL_law 1319 = .ok (.iaload, 1) := dk_46 (dk_at dksL_law_48 19 rfl rfl)
theorem dL_law_1320 : decode cL_law 1320 = .ok (.aload_n 0, 1) := dk_42 (dk_at dksL_law_48 20 rfl rfl)
theorem dL_law_1321 : decode cL_law 1321 = .ok (.iload 4, 2) := dk_21 4 (dk_at dksL_law_48 21 rfl rfl)
theorem dL_law_1323 : decode cL_law 1323 = .ok (.iconst 2, 1) := dk_5 (dk_at dksL_law_48 23 rfl rfl)
theorem dL_law_1324 : decode cL_law 1324 = .ok (.iadd, 1) := dk_96 (dk_at dksL_law_49 0 rfl rfl)
theorem dL_law_1325 : decode cL_law 1325 = .ok (.iaload, 1) := dk_46 (dk_at dksL_law_49 1 rfl rfl)
theorem dL_law_1326 : decode cL_law 1326 = .ok (.aload_n 0, 1) := dk_42 (dk_at dksL_law_49 2 rfl rfl)
theorem dL_law_1327 : decode cL_law 1327 = .ok (.iload 4, 2) := dk_21 4 (dk_at dksL_law_49 3 rfl rfl)
theorem dL_law_1329 : decode cL_law 1329 = .ok (.iconst 3, 1) := dk_6 (dk_at dksL_law_49 5 rfl rfl)
theorem dL_law_1330 : decode cL_law 1330 = .ok (.iadd, 1) := dk_96 (dk_at dksL_law_49 6 rfl rfl)
theorem dL_law_1331 : decode cL_law 1331 = .ok (.iaload, 1) := dk_46 (dk_at dksL_law_49 7 rfl rfl)
theorem dL_law_1332 : decode cL_law 1332 = .ok (.invokevirtual 211, 3) := dk_182 0 211 (dk_at dksL_law_49 8 rfl rfl)
theorem dL_law_1335 : decode cL_law 1335 = .ok (.istore 6, 2) := dk_54 6 (dk_at dksL_law_49 11 rfl rfl)
theorem dL_law_1337 : decode cL_law 1337 = .ok (.aload_n 2, 1) := dk_44 (dk_at dksL_law_49 13 rfl rfl)
theorem dL_law_1338 : decode cL_law 1338 = .ok (.invokevirtual 156, 3) := dk_182 0 156 (dk_at dksL_law_49 14 rfl rfl)
theorem dL_law_1341 : decode cL_law 1341 = .ok (.iload 5, 2) := dk_21 5 (dk_at dksL_law_49 17 rfl rfl)
theorem dL_law_1343 : decode cL_law 1343 = .ok (.if_icmp .eq 5, 3) := dk_159 0 5 (dk_at dksL_law_49 19 rfl rfl)
theorem dL_law_1346 : decode cL_law 1346 = .ok (.iconst 0, 1) := dk_3 (dk_at dksL_law_49 22 rfl rfl)
theorem dL_law_1347 : decode cL_law 1347 = .ok (.ireturn, 1) := dk_172 (dk_at dksL_law_49 23 rfl rfl)
theorem dL_law_1348 : decode cL_law 1348 = .ok (.iload 5, 2) := dk_21 5 (dk_at dksL_law_50 0 rfl rfl)
theorem dL_law_1350 : decode cL_law 1350 = .ok (.ifCond .ne 15, 3) := dk_154 0 15 (dk_at dksL_law_50 2 rfl rfl)
theorem dL_law_1353 : decode cL_law 1353 = .ok (.aload_n 3, 1) := dk_45 (dk_at dksL_law_50 5 rfl rfl)
theorem dL_law_1354 : decode cL_law 1354 = .ok (.iconst 0, 1) := dk_3 (dk_at dksL_law_50 6 rfl rfl)
theorem dL_law_1355 : decode cL_law 1355 = .ok (.laload, 1) := dk_47 (dk_at dksL_law_50 7 rfl rfl)
theorem dL_law_1356 : decode cL_law 1356 = .ok (.iload 6, 2) := dk_21 6 (dk_at dksL_law_50 8 rfl rfl)
theorem dL_law_1358 : decode cL_law 1358 = .ok (.i2l, 1) := dk_133 (dk_at dksL_law_50 10 rfl rfl)
theorem dL_law_1359 : decode cL_law 1359 = .ok (.lcmp, 1) := dk_148 (dk_at dksL_law_50 11 rfl rfl)
theorem dL_law_1360 : decode cL_law 1360 = .ok (.ifCond .eq 5, 3) := dk_153 0 5 (dk_at dksL_law_50 12 rfl rfl)
theorem dL_law_1363 : decode cL_law 1363 = .ok (.iconst 0, 1) := dk_3 (dk_at dksL_law_50 15 rfl rfl)
theorem dL_law_1364 : decode cL_law 1364 = .ok (.ireturn, 1) := dk_172 (dk_at dksL_law_50 16 rfl rfl)
theorem dL_law_1365 : decode cL_law 1365 = .ok (.goto 1482, 3) := dk_167 5 202 (dk_at dksL_law_50 17 rfl rfl)
theorem dL_law_1368 : decode cL_law 1368 = .ok (.aload_n 1, 1) := dk_43 (dk_at dksL_law_50 20 rfl rfl)
theorem dL_law_1369 : decode cL_law 1369 = .ok (.aload_n 0, 1) := dk_42 (dk_at dksL_law_50 21 rfl rfl)
theorem dL_law_1370 : decode cL_law 1370 = .ok (.iload 4, 2) := dk_21 4 (dk_at dksL_law_50 22 rfl rfl)
theorem dL_law_1372 : decode cL_law 1372 = .ok (.iconst 1, 1) := dk_4 (dk_at dksL_law_51 0 rfl rfl)
theorem dL_law_1373 : decode cL_law 1373 = .ok (.iadd, 1) := dk_96 (dk_at dksL_law_51 1 rfl rfl)
theorem dL_law_1374 : decode cL_law 1374 = .ok (.iaload, 1) := dk_46 (dk_at dksL_law_51 2 rfl rfl)
theorem dL_law_1375 : decode cL_law 1375 = .ok (.aload_n 0, 1) := dk_42 (dk_at dksL_law_51 3 rfl rfl)
theorem dL_law_1376 : decode cL_law 1376 = .ok (.iload 4, 2) := dk_21 4 (dk_at dksL_law_51 4 rfl rfl)
theorem dL_law_1378 : decode cL_law 1378 = .ok (.iconst 2, 1) := dk_5 (dk_at dksL_law_51 6 rfl rfl)
theorem dL_law_1379 : decode cL_law 1379 = .ok (.iadd, 1) := dk_96 (dk_at dksL_law_51 7 rfl rfl)
theorem dL_law_1380 : decode cL_law 1380 = .ok (.iaload, 1) := dk_46 (dk_at dksL_law_51 8 rfl rfl)
theorem dL_law_1381 : decode cL_law 1381 = .ok (.aload_n 0, 1) := dk_42 (dk_at dksL_law_51 9 rfl rfl)
theorem dL_law_1382 : decode cL_law 1382 = .ok (.iload 4, 2) := dk_21 4 (dk_at dksL_law_51 10 rfl rfl)
theorem dL_law_1384 : decode cL_law 1384 = .ok (.iconst 3, 1) := dk_6 (dk_at dksL_law_51 12 rfl rfl)
theorem dL_law_1385 : decode cL_law 1385 = .ok (.iadd, 1) := dk_96 (dk_at dksL_law_51 13 rfl rfl)
theorem dL_law_1386 : decode cL_law 1386 = .ok (.iaload, 1) := dk_46 (dk_at dksL_law_51 14 rfl rfl)
theorem dL_law_1387 : decode cL_law 1387 = .ok (.aload_n 3, 1) := dk_45 (dk_at dksL_law_51 15 rfl rfl)
theorem dL_law_1388 : decode cL_law 1388 = .ok (.invokestatic 212, 3) := dk_184 0 212 (dk_at dksL_law_51 16 rfl rfl)
theorem dL_law_1391 : decode cL_law 1391 = .ok (.istore 5, 2) := dk_54 5 (dk_at dksL_law_51 19 rfl rfl)
theorem dL_law_1393 : decode cL_law 1393 = .ok (.aload_n 2, 1) := dk_44 (dk_at dksL_law_51 21 rfl rfl)
theorem dL_law_1394 : decode cL_law 1394 = .ok (.aload_n 0, 1) := dk_42 (dk_at dksL_law_51 22 rfl rfl)
theorem dL_law_1395 : decode cL_law 1395 = .ok (.iload 4, 2) := dk_21 4 (dk_at dksL_law_52 0 rfl rfl)
theorem dL_law_1397 : decode cL_law 1397 = .ok (.iconst 1, 1) := dk_4 (dk_at dksL_law_52 2 rfl rfl)
theorem dL_law_1398 : decode cL_law 1398 = .ok (.iadd, 1) := dk_96 (dk_at dksL_law_52 3 rfl rfl)
theorem dL_law_1399 : decode cL_law 1399 = .ok (.iaload, 1) := dk_46 (dk_at dksL_law_52 4 rfl rfl)
theorem dL_law_1400 : decode cL_law 1400 = .ok (.aload_n 0, 1) := dk_42 (dk_at dksL_law_52 5 rfl rfl)
theorem dL_law_1401 : decode cL_law 1401 = .ok (.iload 4, 2) := dk_21 4 (dk_at dksL_law_52 6 rfl rfl)
theorem dL_law_1403 : decode cL_law 1403 = .ok (.iconst 2, 1) := dk_5 (dk_at dksL_law_52 8 rfl rfl)
theorem dL_law_1404 : decode cL_law 1404 = .ok (.iadd, 1) := dk_96 (dk_at dksL_law_52 9 rfl rfl)
theorem dL_law_1405 : decode cL_law 1405 = .ok (.iaload, 1) := dk_46 (dk_at dksL_law_52 10 rfl rfl)
theorem dL_law_1406 : decode cL_law 1406 = .ok (.aload_n 0, 1) := dk_42 (dk_at dksL_law_52 11 rfl rfl)
theorem dL_law_1407 : decode cL_law 1407 = .ok (.iload 4, 2) := dk_21 4 (dk_at dksL_law_52 12 rfl rfl)
theorem dL_law_1409 : decode cL_law 1409 = .ok (.iconst 3, 1) := dk_6 (dk_at dksL_law_52 14 rfl rfl)
theorem dL_law_1410 : decode cL_law 1410 = .ok (.iadd, 1) := dk_96 (dk_at dksL_law_52 15 rfl rfl)
theorem dL_law_1411 : decode cL_law 1411 = .ok (.iaload, 1) := dk_46 (dk_at dksL_law_52 16 rfl rfl)
theorem dL_law_1412 : decode cL_law 1412 = .ok (.invokevirtual 214, 3) := dk_182 0 214 (dk_at dksL_law_52 17 rfl rfl)
theorem dL_law_1415 : decode cL_law 1415 = .ok (.istore 6, 2) := dk_54 6 (dk_at dksL_law_52 20 rfl rfl)
theorem dL_law_1417 : decode cL_law 1417 = .ok (.aload_n 2, 1) := dk_44 (dk_at dksL_law_52 22 rfl rfl)
theorem dL_law_1418 : decode cL_law 1418 = .ok (.invokevirtual 156, 3) := dk_182 0 156 (dk_at dksL_law_53 0 rfl rfl)
theorem dL_law_1421 : decode cL_law 1421 = .ok (.iload 5, 2) := dk_21 5 (dk_at dksL_law_53 3 rfl rfl)
theorem dL_law_1423 : decode cL_law 1423 = .ok (.if_icmp .eq 5, 3) := dk_159 0 5 (dk_at dksL_law_53 5 rfl rfl)
theorem dL_law_1426 : decode cL_law 1426 = .ok (.iconst 0, 1) := dk_3 (dk_at dksL_law_53 8 rfl rfl)
theorem dL_law_1427 : decode cL_law 1427 = .ok (.ireturn, 1) := dk_172 (dk_at dksL_law_53 9 rfl rfl)
theorem dL_law_1428 : decode cL_law 1428 = .ok (.iload 5, 2) := dk_21 5 (dk_at dksL_law_53 10 rfl rfl)
theorem dL_law_1430 : decode cL_law 1430 = .ok (.ifCond .ne 15, 3) := dk_154 0 15 (dk_at dksL_law_53 12 rfl rfl)
theorem dL_law_1433 : decode cL_law 1433 = .ok (.aload_n 3, 1) := dk_45 (dk_at dksL_law_53 15 rfl rfl)
theorem dL_law_1434 : decode cL_law 1434 = .ok (.iconst 0, 1) := dk_3 (dk_at dksL_law_53 16 rfl rfl)
theorem dL_law_1435 : decode cL_law 1435 = .ok (.laload, 1) := dk_47 (dk_at dksL_law_53 17 rfl rfl)
theorem dL_law_1436 : decode cL_law 1436 = .ok (.iload 6, 2) := dk_21 6 (dk_at dksL_law_53 18 rfl rfl)
theorem dL_law_1438 : decode cL_law 1438 = .ok (.i2l, 1) := dk_133 (dk_at dksL_law_53 20 rfl rfl)
theorem dL_law_1439 : decode cL_law 1439 = .ok (.lcmp, 1) := dk_148 (dk_at dksL_law_53 21 rfl rfl)
theorem dL_law_1440 : decode cL_law 1440 = .ok (.ifCond .eq 5, 3) := dk_153 0 5 (dk_at dksL_law_54 0 rfl rfl)
theorem dL_law_1443 : decode cL_law 1443 = .ok (.iconst 0, 1) := dk_3 (dk_at dksL_law_54 3 rfl rfl)
theorem dL_law_1444 : decode cL_law 1444 = .ok (.ireturn, 1) := dk_172 (dk_at dksL_law_54 4 rfl rfl)
theorem dL_law_1445 : decode cL_law 1445 = .ok (.goto 1402, 3) := dk_167 5 122 (dk_at dksL_law_54 5 rfl rfl)
theorem dL_law_1448 : decode cL_law 1448 = .ok (.aload_n 1, 1) := dk_43 (dk_at dksL_law_54 8 rfl rfl)
theorem dL_law_1449 : decode cL_law 1449 = .ok (.aload_n 0, 1) := dk_42 (dk_at dksL_law_54 9 rfl rfl)
theorem dL_law_1450 : decode cL_law 1450 = .ok (.iload 4, 2) := dk_21 4 (dk_at dksL_law_54 10 rfl rfl)
theorem dL_law_1452 : decode cL_law 1452 = .ok (.iconst 1, 1) := dk_4 (dk_at dksL_law_54 12 rfl rfl)
theorem dL_law_1453 : decode cL_law 1453 = .ok (.iadd, 1) := dk_96 (dk_at dksL_law_54 13 rfl rfl)
theorem dL_law_1454 : decode cL_law 1454 = .ok (.iaload, 1) := dk_46 (dk_at dksL_law_54 14 rfl rfl)
theorem dL_law_1455 : decode cL_law 1455 = .ok (.aload_n 3, 1) := dk_45 (dk_at dksL_law_54 15 rfl rfl)
theorem dL_law_1456 : decode cL_law 1456 = .ok (.invokestatic 215, 3) := dk_184 0 215 (dk_at dksL_law_54 16 rfl rfl)
theorem dL_law_1459 : decode cL_law 1459 = .ok (.istore 5, 2) := dk_54 5 (dk_at dksL_law_54 19 rfl rfl)
theorem dL_law_1461 : decode cL_law 1461 = .ok (.aload_n 2, 1) := dk_44 (dk_at dksL_law_54 21 rfl rfl)
theorem dL_law_1462 : decode cL_law 1462 = .ok (.aload_n 0, 1) := dk_42 (dk_at dksL_law_54 22 rfl rfl)
theorem dL_law_1463 : decode cL_law 1463 = .ok (.iload 4, 2) := dk_21 4 (dk_at dksL_law_55 0 rfl rfl)
theorem dL_law_1465 : decode cL_law 1465 = .ok (.iconst 1, 1) := dk_4 (dk_at dksL_law_55 2 rfl rfl)
theorem dL_law_1466 : decode cL_law 1466 = .ok (.iadd, 1) := dk_96 (dk_at dksL_law_55 3 rfl rfl)
theorem dL_law_1467 : decode cL_law 1467 = .ok (.iaload, 1) := dk_46 (dk_at dksL_law_55 4 rfl rfl)
theorem dL_law_1468 : decode cL_law 1468 = .ok (.invokevirtual 217, 3) := dk_182 0 217 (dk_at dksL_law_55 5 rfl rfl)
theorem dL_law_1471 : decode cL_law 1471 = .ok (.istore 6, 2) := dk_54 6 (dk_at dksL_law_55 8 rfl rfl)
theorem dL_law_1473 : decode cL_law 1473 = .ok (.aload_n 2, 1) := dk_44 (dk_at dksL_law_55 10 rfl rfl)
theorem dL_law_1474 : decode cL_law 1474 = .ok (.invokevirtual 156, 3) := dk_182 0 156 (dk_at dksL_law_55 11 rfl rfl)
theorem dL_law_1477 : decode cL_law 1477 = .ok (.iload 5, 2) := dk_21 5 (dk_at dksL_law_55 14 rfl rfl)
theorem dL_law_1479 : decode cL_law 1479 = .ok (.if_icmp .eq 5, 3) := dk_159 0 5 (dk_at dksL_law_55 16 rfl rfl)
theorem dL_law_1482 : decode cL_law 1482 = .ok (.iconst 0, 1) := dk_3 (dk_at dksL_law_55 19 rfl rfl)
theorem dL_law_1483 : decode cL_law 1483 = .ok (.ireturn, 1) := dk_172 (dk_at dksL_law_55 20 rfl rfl)
theorem dL_law_1484 : decode cL_law 1484 = .ok (.iload 5, 2) := dk_21 5 (dk_at dksL_law_55 21 rfl rfl)
theorem dL_law_1486 : decode cL_law 1486 = .ok (.ifCond .ne 15, 3) := dk_154 0 15 (dk_at dksL_law_56 0 rfl rfl)
theorem dL_law_1489 : decode cL_law 1489 = .ok (.aload_n 3, 1) := dk_45 (dk_at dksL_law_56 3 rfl rfl)
theorem dL_law_1490 : decode cL_law 1490 = .ok (.iconst 0, 1) := dk_3 (dk_at dksL_law_56 4 rfl rfl)
theorem dL_law_1491 : decode cL_law 1491 = .ok (.laload, 1) := dk_47 (dk_at dksL_law_56 5 rfl rfl)
theorem dL_law_1492 : decode cL_law 1492 = .ok (.iload 6, 2) := dk_21 6 (dk_at dksL_law_56 6 rfl rfl)
theorem dL_law_1494 : decode cL_law 1494 = .ok (.i2l, 1) := dk_133 (dk_at dksL_law_56 8 rfl rfl)
theorem dL_law_1495 : decode cL_law 1495 = .ok (.lcmp, 1) := dk_148 (dk_at dksL_law_56 9 rfl rfl)
theorem dL_law_1496 : decode cL_law 1496 = .ok (.ifCond .eq 5, 3) := dk_153 0 5 (dk_at dksL_law_56 10 rfl rfl)
theorem dL_law_1499 : decode cL_law 1499 = .ok (.iconst 0, 1) := dk_3 (dk_at dksL_law_56 13 rfl rfl)
theorem dL_law_1500 : decode cL_law 1500 = .ok (.ireturn, 1) := dk_172 (dk_at dksL_law_56 14 rfl rfl)
theorem dL_law_1501 : decode cL_law 1501 = .ok (.goto 1346, 3) := dk_167 5 66 (dk_at dksL_law_56 15 rfl rfl)
theorem dL_law_1504 : decode cL_law 1504 = .ok (.aload_n 1, 1) := dk_43 (dk_at dksL_law_56 18 rfl rfl)
theorem dL_law_1505 : decode cL_law 1505 = .ok (.aload_n 0, 1) := dk_42 (dk_at dksL_law_56 19 rfl rfl)
theorem dL_law_1506 : decode cL_law 1506 = .ok (.iload 4, 2) := dk_21 4 (dk_at dksL_law_56 20 rfl rfl)
theorem dL_law_1508 : decode cL_law 1508 = .ok (.iconst 1, 1) := dk_4 (dk_at dksL_law_56 22 rfl rfl)
theorem dL_law_1509 : decode cL_law 1509 = .ok (.iadd, 1) := dk_96 (dk_at dksL_law_56 23 rfl rfl)
theorem dL_law_1510 : decode cL_law 1510 = .ok (.iaload, 1) := dk_46 (dk_at dksL_law_57 0 rfl rfl)
theorem dL_law_1511 : decode cL_law 1511 = .ok (.aload_n 3, 1) := dk_45 (dk_at dksL_law_57 1 rfl rfl)
theorem dL_law_1512 : decode cL_law 1512 = .ok (.invokestatic 218, 3) := dk_184 0 218 (dk_at dksL_law_57 2 rfl rfl)
theorem dL_law_1515 : decode cL_law 1515 = .ok (.istore 5, 2) := dk_54 5 (dk_at dksL_law_57 5 rfl rfl)
theorem dL_law_1517 : decode cL_law 1517 = .ok (.aload_n 2, 1) := dk_44 (dk_at dksL_law_57 7 rfl rfl)
theorem dL_law_1518 : decode cL_law 1518 = .ok (.aload_n 0, 1) := dk_42 (dk_at dksL_law_57 8 rfl rfl)
theorem dL_law_1519 : decode cL_law 1519 = .ok (.iload 4, 2) := dk_21 4 (dk_at dksL_law_57 9 rfl rfl)
theorem dL_law_1521 : decode cL_law 1521 = .ok (.iconst 1, 1) := dk_4 (dk_at dksL_law_57 11 rfl rfl)
theorem dL_law_1522 : decode cL_law 1522 = .ok (.iadd, 1) := dk_96 (dk_at dksL_law_57 12 rfl rfl)
theorem dL_law_1523 : decode cL_law 1523 = .ok (.iaload, 1) := dk_46 (dk_at dksL_law_57 13 rfl rfl)
theorem dL_law_1524 : decode cL_law 1524 = .ok (.invokevirtual 220, 3) := dk_182 0 220 (dk_at dksL_law_57 14 rfl rfl)
theorem dL_law_1527 : decode cL_law 1527 = .ok (.istore 6, 2) := dk_54 6 (dk_at dksL_law_57 17 rfl rfl)
theorem dL_law_1529 : decode cL_law 1529 = .ok (.aload_n 2, 1) := dk_44 (dk_at dksL_law_57 19 rfl rfl)
theorem dL_law_1530 : decode cL_law 1530 = .ok (.invokevirtual 156, 3) := dk_182 0 156 (dk_at dksL_law_57 20 rfl rfl)
theorem dL_law_1533 : decode cL_law 1533 = .ok (.iload 5, 2) := dk_21 5 (dk_at dksL_law_58 0 rfl rfl)
theorem dL_law_1535 : decode cL_law 1535 = .ok (.if_icmp .eq 5, 3) := dk_159 0 5 (dk_at dksL_law_58 2 rfl rfl)
theorem dL_law_1538 : decode cL_law 1538 = .ok (.iconst 0, 1) := dk_3 (dk_at dksL_law_58 5 rfl rfl)
theorem dL_law_1539 : decode cL_law 1539 = .ok (.ireturn, 1) := dk_172 (dk_at dksL_law_58 6 rfl rfl)
theorem dL_law_1540 : decode cL_law 1540 = .ok (.iload 5, 2) := dk_21 5 (dk_at dksL_law_58 7 rfl rfl)
theorem dL_law_1542 : decode cL_law 1542 = .ok (.ifCond .ne 15, 3) := dk_154 0 15 (dk_at dksL_law_58 9 rfl rfl)
theorem dL_law_1545 : decode cL_law 1545 = .ok (.aload_n 3, 1) := dk_45 (dk_at dksL_law_58 12 rfl rfl)
theorem dL_law_1546 : decode cL_law 1546 = .ok (.iconst 0, 1) := dk_3 (dk_at dksL_law_58 13 rfl rfl)
theorem dL_law_1547 : decode cL_law 1547 = .ok (.laload, 1) := dk_47 (dk_at dksL_law_58 14 rfl rfl)
theorem dL_law_1548 : decode cL_law 1548 = .ok (.iload 6, 2) := dk_21 6 (dk_at dksL_law_58 15 rfl rfl)
theorem dL_law_1550 : decode cL_law 1550 = .ok (.i2l, 1) := dk_133 (dk_at dksL_law_58 17 rfl rfl)
theorem dL_law_1551 : decode cL_law 1551 = .ok (.lcmp, 1) := dk_148 (dk_at dksL_law_58 18 rfl rfl)
theorem dL_law_1552 : decode cL_law 1552 = .ok (.ifCond .eq 5, 3) := dk_153 0 5 (dk_at dksL_law_58 19 rfl rfl)
theorem dL_law_1555 : decode cL_law 1555 = .ok (.iconst 0, 1) := dk_3 (dk_at dksL_law_58 22 rfl rfl)
theorem dL_law_1556 : decode cL_law 1556 = .ok (.ireturn, 1) := dk_172 (dk_at dksL_law_58 23 rfl rfl)
theorem dL_law_1557 : decode cL_law 1557 = .ok (.goto 1290, 3) := dk_167 5 10 (dk_at dksL_law_59 0 rfl rfl)
theorem dL_law_1560 : decode cL_law 1560 = .ok (.aload_n 1, 1) := dk_43 (dk_at dksL_law_59 3 rfl rfl)
theorem dL_law_1561 : decode cL_law 1561 = .ok (.aload_n 0, 1) := dk_42 (dk_at dksL_law_59 4 rfl rfl)
theorem dL_law_1562 : decode cL_law 1562 = .ok (.iload 4, 2) := dk_21 4 (dk_at dksL_law_59 5 rfl rfl)
theorem dL_law_1564 : decode cL_law 1564 = .ok (.iconst 1, 1) := dk_4 (dk_at dksL_law_59 7 rfl rfl)
theorem dL_law_1565 : decode cL_law 1565 = .ok (.iadd, 1) := dk_96 (dk_at dksL_law_59 8 rfl rfl)
theorem dL_law_1566 : decode cL_law 1566 = .ok (.iaload, 1) := dk_46 (dk_at dksL_law_59 9 rfl rfl)
theorem dL_law_1567 : decode cL_law 1567 = .ok (.aload_n 0, 1) := dk_42 (dk_at dksL_law_59 10 rfl rfl)
theorem dL_law_1568 : decode cL_law 1568 = .ok (.iload 4, 2) := dk_21 4 (dk_at dksL_law_59 11 rfl rfl)
theorem dL_law_1570 : decode cL_law 1570 = .ok (.iconst 2, 1) := dk_5 (dk_at dksL_law_59 13 rfl rfl)
theorem dL_law_1571 : decode cL_law 1571 = .ok (.iadd, 1) := dk_96 (dk_at dksL_law_59 14 rfl rfl)
theorem dL_law_1572 : decode cL_law 1572 = .ok (.iaload, 1) := dk_46 (dk_at dksL_law_59 15 rfl rfl)
theorem dL_law_1573 : decode cL_law 1573 = .ok (.aload_n 0, 1) := dk_42 (dk_at dksL_law_59 16 rfl rfl)
theorem dL_law_1574 : decode cL_law 1574 = .ok (.iload 4, 2) := dk_21 4 (dk_at dksL_law_59 17 rfl rfl)
theorem dL_law_1576 : decode cL_law 1576 = .ok (.iconst 3, 1) := dk_6 (dk_at dksL_law_59 19 rfl rfl)
theorem dL_law_1577 : decode cL_law 1577 = .ok (.iadd, 1) := dk_96 (dk_at dksL_law_59 20 rfl rfl)
theorem dL_law_1578 : decode cL_law 1578 = .ok (.iaload, 1) := dk_46 (dk_at dksL_law_59 21 rfl rfl)
theorem dL_law_1579 : decode cL_law 1579 = .ok (.aload_n 3, 1) := dk_45 (dk_at dksL_law_59 22 rfl rfl)
theorem dL_law_1580 : decode cL_law 1580 = .ok (.invokestatic 221, 3) := dk_184 0 221 (dk_at dksL_law_60 0 rfl rfl)
theorem dL_law_1583 : decode cL_law 1583 = .ok (.istore 5, 2) := dk_54 5 (dk_at dksL_law_60 3 rfl rfl)
theorem dL_law_1585 : decode cL_law 1585 = .ok (.aload_n 2, 1) := dk_44 (dk_at dksL_law_60 5 rfl rfl)
theorem dL_law_1586 : decode cL_law 1586 = .ok (.aload_n 0, 1) := dk_42 (dk_at dksL_law_60 6 rfl rfl)
theorem dL_law_1587 : decode cL_law 1587 = .ok (.iload 4, 2) := dk_21 4 (dk_at dksL_law_60 7 rfl rfl)
theorem dL_law_1589 : decode cL_law 1589 = .ok (.iconst 1, 1) := dk_4 (dk_at dksL_law_60 9 rfl rfl)
theorem dL_law_1590 : decode cL_law 1590 = .ok (.iadd, 1) := dk_96 (dk_at dksL_law_60 10 rfl rfl)
theorem dL_law_1591 : decode cL_law 1591 = .ok (.iaload, 1) := dk_46 (dk_at dksL_law_60 11 rfl rfl)
theorem dL_law_1592 : decode cL_law 1592 = .ok (.aload_n 0, 1) := dk_42 (dk_at dksL_law_60 12 rfl rfl)
theorem dL_law_1593 : decode cL_law 1593 = .ok (.iload 4, 2) := dk_21 4 (dk_at dksL_law_60 13 rfl rfl)
theorem dL_law_1595 : decode cL_law 1595 = .ok (.iconst 2, 1) := dk_5 (dk_at dksL_law_60 15 rfl rfl)
theorem dL_law_1596 : decode cL_law 1596 = .ok (.iadd, 1) := dk_96 (dk_at dksL_law_60 16 rfl rfl)
theorem dL_law_1597 : decode cL_law 1597 = .ok (.iaload, 1) := dk_46 (dk_at dksL_law_60 17 rfl rfl)
theorem dL_law_1598 : decode cL_law 1598 = .ok (.aload_n 0, 1) := dk_42 (dk_at dksL_law_60 18 rfl rfl)
theorem dL_law_1599 : decode cL_law 1599 = .ok (.iload 4, 2) := dk_21 4 (dk_at dksL_law_60 19 rfl rfl)
theorem dL_law_1601 : decode cL_law 1601 = .ok (.iconst 3, 1) := dk_6 (dk_at dksL_law_60 21 rfl rfl)
theorem dL_law_1602 : decode cL_law 1602 = .ok (.iadd, 1) := dk_96 (dk_at dksL_law_60 22 rfl rfl)
theorem dL_law_1603 : decode cL_law 1603 = .ok (.iaload, 1) := dk_46 (dk_at dksL_law_60 23 rfl rfl)
theorem dL_law_1604 : decode cL_law 1604 = .ok (.invokevirtual 223, 3) := dk_182 0 223 (dk_at dksL_law_61 0 rfl rfl)
theorem dL_law_1607 : decode cL_law 1607 = .ok (.istore 6, 2) := dk_54 6 (dk_at dksL_law_61 3 rfl rfl)
theorem dL_law_1609 : decode cL_law 1609 = .ok (.aload_n 2, 1) := dk_44 (dk_at dksL_law_61 5 rfl rfl)
theorem dL_law_1610 : decode cL_law 1610 = .ok (.invokevirtual 156, 3) := dk_182 0 156 (dk_at dksL_law_61 6 rfl rfl)
theorem dL_law_1613 : decode cL_law 1613 = .ok (.iload 5, 2) := dk_21 5 (dk_at dksL_law_61 9 rfl rfl)
theorem dL_law_1615 : decode cL_law 1615 = .ok (.if_icmp .eq 5, 3) := dk_159 0 5 (dk_at dksL_law_61 11 rfl rfl)
theorem dL_law_1618 : decode cL_law 1618 = .ok (.iconst 0, 1) := dk_3 (dk_at dksL_law_61 14 rfl rfl)
theorem dL_law_1619 : decode cL_law 1619 = .ok (.ireturn, 1) := dk_172 (dk_at dksL_law_61 15 rfl rfl)
theorem dL_law_1620 : decode cL_law 1620 = .ok (.iload 5, 2) := dk_21 5 (dk_at dksL_law_61 16 rfl rfl)
theorem dL_law_1622 : decode cL_law 1622 = .ok (.ifCond .ne 15, 3) := dk_154 0 15 (dk_at dksL_law_61 18 rfl rfl)
theorem dL_law_1625 : decode cL_law 1625 = .ok (.aload_n 3, 1) := dk_45 (dk_at dksL_law_61 21 rfl rfl)
theorem dL_law_1626 : decode cL_law 1626 = .ok (.iconst 0, 1) := dk_3 (dk_at dksL_law_61 22 rfl rfl)
theorem dL_law_1627 : decode cL_law 1627 = .ok (.laload, 1) := dk_47 (dk_at dksL_law_61 23 rfl rfl)
theorem dL_law_1628 : decode cL_law 1628 = .ok (.iload 6, 2) := dk_21 6 (dk_at dksL_law_62 0 rfl rfl)
theorem dL_law_1630 : decode cL_law 1630 = .ok (.i2l, 1) := dk_133 (dk_at dksL_law_62 2 rfl rfl)
theorem dL_law_1631 : decode cL_law 1631 = .ok (.lcmp, 1) := dk_148 (dk_at dksL_law_62 3 rfl rfl)
theorem dL_law_1632 : decode cL_law 1632 = .ok (.ifCond .eq 5, 3) := dk_153 0 5 (dk_at dksL_law_62 4 rfl rfl)
theorem dL_law_1635 : decode cL_law 1635 = .ok (.iconst 0, 1) := dk_3 (dk_at dksL_law_62 7 rfl rfl)
theorem dL_law_1636 : decode cL_law 1636 = .ok (.ireturn, 1) := dk_172 (dk_at dksL_law_62 8 rfl rfl)
theorem dL_law_1637 : decode cL_law 1637 = .ok (.goto 1210, 3) := dk_167 4 186 (dk_at dksL_law_62 9 rfl rfl)
theorem dL_law_1640 : decode cL_law 1640 = .ok (.aload_n 1, 1) := dk_43 (dk_at dksL_law_62 12 rfl rfl)
theorem dL_law_1641 : decode cL_law 1641 = .ok (.invokevirtual 224, 3) := dk_182 0 224 (dk_at dksL_law_62 13 rfl rfl)
theorem dL_law_1644 : decode cL_law 1644 = .ok (.aload_n 2, 1) := dk_44 (dk_at dksL_law_62 16 rfl rfl)
theorem dL_law_1645 : decode cL_law 1645 = .ok (.invokevirtual 227, 3) := dk_182 0 227 (dk_at dksL_law_62 17 rfl rfl)
theorem dL_law_1648 : decode cL_law 1648 = .ok (.if_icmp .eq 1199, 3) := dk_159 4 175 (dk_at dksL_law_62 20 rfl rfl)
theorem dL_law_1651 : decode cL_law 1651 = .ok (.iconst 0, 1) := dk_3 (dk_at dksL_law_62 23 rfl rfl)
theorem dL_law_1652 : decode cL_law 1652 = .ok (.ireturn, 1) := dk_172 (dk_at dksL_law_63 0 rfl rfl)
theorem dL_law_1653 : decode cL_law 1653 = .ok (.aload_n 1, 1) := dk_43 (dk_at dksL_law_63 1 rfl rfl)
theorem dL_law_1654 : decode cL_law 1654 = .ok (.aload_n 0, 1) := dk_42 (dk_at dksL_law_63 2 rfl rfl)
theorem dL_law_1655 : decode cL_law 1655 = .ok (.iload 4, 2) := dk_21 4 (dk_at dksL_law_63 3 rfl rfl)
theorem dL_law_1657 : decode cL_law 1657 = .ok (.iconst 1, 1) := dk_4 (dk_at dksL_law_63 5 rfl rfl)
theorem dL_law_1658 : decode cL_law 1658 = .ok (.iadd, 1) := dk_96 (dk_at dksL_law_63 6 rfl rfl)
theorem dL_law_1659 : decode cL_law 1659 = .ok (.iaload, 1) := dk_46 (dk_at dksL_law_63 7 rfl rfl)
theorem dL_law_1660 : decode cL_law 1660 = .ok (.aload_n 3, 1) := dk_45 (dk_at dksL_law_63 8 rfl rfl)
theorem dL_law_1661 : decode cL_law 1661 = .ok (.invokestatic 228, 3) := dk_184 0 228 (dk_at dksL_law_63 9 rfl rfl)
theorem dL_law_1664 : decode cL_law 1664 = .ok (.istore 5, 2) := dk_54 5 (dk_at dksL_law_63 12 rfl rfl)
theorem dL_law_1666 : decode cL_law 1666 = .ok (.aload_n 2, 1) := dk_44 (dk_at dksL_law_63 14 rfl rfl)
theorem dL_law_1667 : decode cL_law 1667 = .ok (.aload_n 0, 1) := dk_42 (dk_at dksL_law_63 15 rfl rfl)
theorem dL_law_1668 : decode cL_law 1668 = .ok (.iload 4, 2) := dk_21 4 (dk_at dksL_law_63 16 rfl rfl)
theorem dL_law_1670 : decode cL_law 1670 = .ok (.iconst 1, 1) := dk_4 (dk_at dksL_law_63 18 rfl rfl)
theorem dL_law_1671 : decode cL_law 1671 = .ok (.iadd, 1) := dk_96 (dk_at dksL_law_63 19 rfl rfl)
theorem dL_law_1672 : decode cL_law 1672 = .ok (.iaload, 1) := dk_46 (dk_at dksL_law_63 20 rfl rfl)
theorem dL_law_1673 : decode cL_law 1673 = .ok (.invokevirtual 230, 3) := dk_182 0 230 (dk_at dksL_law_63 21 rfl rfl)
theorem dL_law_1676 : decode cL_law 1676 = .ok (.istore 6, 2) := dk_54 6 (dk_at dksL_law_64 0 rfl rfl)
theorem dL_law_1678 : decode cL_law 1678 = .ok (.aload_n 2, 1) := dk_44 (dk_at dksL_law_64 2 rfl rfl)
theorem dL_law_1679 : decode cL_law 1679 = .ok (.invokevirtual 156, 3) := dk_182 0 156 (dk_at dksL_law_64 3 rfl rfl)
theorem dL_law_1682 : decode cL_law 1682 = .ok (.iload 5, 2) := dk_21 5 (dk_at dksL_law_64 6 rfl rfl)
theorem dL_law_1684 : decode cL_law 1684 = .ok (.if_icmp .eq 5, 3) := dk_159 0 5 (dk_at dksL_law_64 8 rfl rfl)
theorem dL_law_1687 : decode cL_law 1687 = .ok (.iconst 0, 1) := dk_3 (dk_at dksL_law_64 11 rfl rfl)
theorem dL_law_1688 : decode cL_law 1688 = .ok (.ireturn, 1) := dk_172 (dk_at dksL_law_64 12 rfl rfl)
theorem dL_law_1689 : decode cL_law 1689 = .ok (.iload 5, 2) := dk_21 5 (dk_at dksL_law_64 13 rfl rfl)
theorem dL_law_1691 : decode cL_law 1691 = .ok (.ifCond .ne 15, 3) := dk_154 0 15 (dk_at dksL_law_64 15 rfl rfl)
theorem dL_law_1694 : decode cL_law 1694 = .ok (.aload_n 3, 1) := dk_45 (dk_at dksL_law_64 18 rfl rfl)
theorem dL_law_1695 : decode cL_law 1695 = .ok (.iconst 0, 1) := dk_3 (dk_at dksL_law_64 19 rfl rfl)
theorem dL_law_1696 : decode cL_law 1696 = .ok (.laload, 1) := dk_47 (dk_at dksL_law_64 20 rfl rfl)
theorem dL_law_1697 : decode cL_law 1697 = .ok (.iload 6, 2) := dk_21 6 (dk_at dksL_law_64 21 rfl rfl)
theorem dL_law_1699 : decode cL_law 1699 = .ok (.i2l, 1) := dk_133 (dk_at dksL_law_64 23 rfl rfl)
theorem dL_law_1700 : decode cL_law 1700 = .ok (.lcmp, 1) := dk_148 (dk_at dksL_law_65 0 rfl rfl)
theorem dL_law_1701 : decode cL_law 1701 = .ok (.ifCond .eq 5, 3) := dk_153 0 5 (dk_at dksL_law_65 1 rfl rfl)
theorem dL_law_1704 : decode cL_law 1704 = .ok (.iconst 0, 1) := dk_3 (dk_at dksL_law_65 4 rfl rfl)
theorem dL_law_1705 : decode cL_law 1705 = .ok (.ireturn, 1) := dk_172 (dk_at dksL_law_65 5 rfl rfl)
theorem dL_law_1706 : decode cL_law 1706 = .ok (.goto 1141, 3) := dk_167 4 117 (dk_at dksL_law_65 6 rfl rfl)
theorem dL_law_1709 : decode cL_law 1709 = .ok (.aload_n 1, 1) := dk_43 (dk_at dksL_law_65 9 rfl rfl)
theorem dL_law_1710 : decode cL_law 1710 = .ok (.aload_n 0, 1) := dk_42 (dk_at dksL_law_65 10 rfl rfl)
theorem dL_law_1711 : decode cL_law 1711 = .ok (.iload 4, 2) := dk_21 4 (dk_at dksL_law_65 11 rfl rfl)
theorem dL_law_1713 : decode cL_law 1713 = .ok (.iconst 1, 1) := dk_4 (dk_at dksL_law_65 13 rfl rfl)
theorem dL_law_1714 : decode cL_law 1714 = .ok (.iadd, 1) := dk_96 (dk_at dksL_law_65 14 rfl rfl)
theorem dL_law_1715 : decode cL_law 1715 = .ok (.iaload, 1) := dk_46 (dk_at dksL_law_65 15 rfl rfl)
theorem dL_law_1716 : decode cL_law 1716 = .ok (.aload_n 3, 1) := dk_45 (dk_at dksL_law_65 16 rfl rfl)
theorem dL_law_1717 : decode cL_law 1717 = .ok (.invokestatic 231, 3) := dk_184 0 231 (dk_at dksL_law_65 17 rfl rfl)
theorem dL_law_1720 : decode cL_law 1720 = .ok (.istore 5, 2) := dk_54 5 (dk_at dksL_law_65 20 rfl rfl)
theorem dL_law_1722 : decode cL_law 1722 = .ok (.aload_n 2, 1) := dk_44 (dk_at dksL_law_65 22 rfl rfl)
theorem dL_law_1723 : decode cL_law 1723 = .ok (.aload_n 0, 1) := dk_42 (dk_at dksL_law_65 23 rfl rfl)
theorem dL_law_1724 : decode cL_law 1724 = .ok (.iload 4, 2) := dk_21 4 (dk_at dksL_law_66 0 rfl rfl)
theorem dL_law_1726 : decode cL_law 1726 = .ok (.iconst 1, 1) := dk_4 (dk_at dksL_law_66 2 rfl rfl)
theorem dL_law_1727 : decode cL_law 1727 = .ok (.iadd, 1) := dk_96 (dk_at dksL_law_66 3 rfl rfl)
theorem dL_law_1728 : decode cL_law 1728 = .ok (.iaload, 1) := dk_46 (dk_at dksL_law_66 4 rfl rfl)
theorem dL_law_1729 : decode cL_law 1729 = .ok (.invokevirtual 233, 3) := dk_182 0 233 (dk_at dksL_law_66 5 rfl rfl)
theorem dL_law_1732 : decode cL_law 1732 = .ok (.istore 6, 2) := dk_54 6 (dk_at dksL_law_66 8 rfl rfl)
theorem dL_law_1734 : decode cL_law 1734 = .ok (.aload_n 2, 1) := dk_44 (dk_at dksL_law_66 10 rfl rfl)
theorem dL_law_1735 : decode cL_law 1735 = .ok (.invokevirtual 156, 3) := dk_182 0 156 (dk_at dksL_law_66 11 rfl rfl)
theorem dL_law_1738 : decode cL_law 1738 = .ok (.iload 5, 2) := dk_21 5 (dk_at dksL_law_66 14 rfl rfl)
theorem dL_law_1740 : decode cL_law 1740 = .ok (.if_icmp .eq 5, 3) := dk_159 0 5 (dk_at dksL_law_66 16 rfl rfl)
theorem dL_law_1743 : decode cL_law 1743 = .ok (.iconst 0, 1) := dk_3 (dk_at dksL_law_66 19 rfl rfl)
theorem dL_law_1744 : decode cL_law 1744 = .ok (.ireturn, 1) := dk_172 (dk_at dksL_law_66 20 rfl rfl)
theorem dL_law_1745 : decode cL_law 1745 = .ok (.iload 5, 2) := dk_21 5 (dk_at dksL_law_66 21 rfl rfl)
theorem dL_law_1747 : decode cL_law 1747 = .ok (.ifCond .ne 15, 3) := dk_154 0 15 (dk_at dksL_law_67 0 rfl rfl)
theorem dL_law_1750 : decode cL_law 1750 = .ok (.aload_n 3, 1) := dk_45 (dk_at dksL_law_67 3 rfl rfl)
theorem dL_law_1751 : decode cL_law 1751 = .ok (.iconst 0, 1) := dk_3 (dk_at dksL_law_67 4 rfl rfl)
theorem dL_law_1752 : decode cL_law 1752 = .ok (.laload, 1) := dk_47 (dk_at dksL_law_67 5 rfl rfl)
theorem dL_law_1753 : decode cL_law 1753 = .ok (.iload 6, 2) := dk_21 6 (dk_at dksL_law_67 6 rfl rfl)
theorem dL_law_1755 : decode cL_law 1755 = .ok (.i2l, 1) := dk_133 (dk_at dksL_law_67 8 rfl rfl)
theorem dL_law_1756 : decode cL_law 1756 = .ok (.lcmp, 1) := dk_148 (dk_at dksL_law_67 9 rfl rfl)
theorem dL_law_1757 : decode cL_law 1757 = .ok (.ifCond .eq 5, 3) := dk_153 0 5 (dk_at dksL_law_67 10 rfl rfl)
theorem dL_law_1760 : decode cL_law 1760 = .ok (.iconst 0, 1) := dk_3 (dk_at dksL_law_67 13 rfl rfl)
theorem dL_law_1761 : decode cL_law 1761 = .ok (.ireturn, 1) := dk_172 (dk_at dksL_law_67 14 rfl rfl)
theorem dL_law_1762 : decode cL_law 1762 = .ok (.goto 1085, 3) := dk_167 4 61 (dk_at dksL_law_67 15 rfl rfl)
theorem dL_law_1765 : decode cL_law 1765 = .ok (.aload_n 1, 1) := dk_43 (dk_at dksL_law_67 18 rfl rfl)
theorem dL_law_1766 : decode cL_law 1766 = .ok (.aload_n 0, 1) := dk_42 (dk_at dksL_law_67 19 rfl rfl)
theorem dL_law_1767 : decode cL_law 1767 = .ok (.iload 4, 2) := dk_21 4 (dk_at dksL_law_67 20 rfl rfl)
theorem dL_law_1769 : decode cL_law 1769 = .ok (.iconst 1, 1) := dk_4 (dk_at dksL_law_67 22 rfl rfl)
theorem dL_law_1770 : decode cL_law 1770 = .ok (.iadd, 1) := dk_96 (dk_at dksL_law_67 23 rfl rfl)
theorem dL_law_1771 : decode cL_law 1771 = .ok (.iaload, 1) := dk_46 (dk_at dksL_law_68 0 rfl rfl)
theorem dL_law_1772 : decode cL_law 1772 = .ok (.aload_n 0, 1) := dk_42 (dk_at dksL_law_68 1 rfl rfl)
theorem dL_law_1773 : decode cL_law 1773 = .ok (.iload 4, 2) := dk_21 4 (dk_at dksL_law_68 2 rfl rfl)
theorem dL_law_1775 : decode cL_law 1775 = .ok (.iconst 2, 1) := dk_5 (dk_at dksL_law_68 4 rfl rfl)
theorem dL_law_1776 : decode cL_law 1776 = .ok (.iadd, 1) := dk_96 (dk_at dksL_law_68 5 rfl rfl)
theorem dL_law_1777 : decode cL_law 1777 = .ok (.iaload, 1) := dk_46 (dk_at dksL_law_68 6 rfl rfl)
theorem dL_law_1778 : decode cL_law 1778 = .ok (.aload_n 0, 1) := dk_42 (dk_at dksL_law_68 7 rfl rfl)
theorem dL_law_1779 : decode cL_law 1779 = .ok (.iload 4, 2) := dk_21 4 (dk_at dksL_law_68 8 rfl rfl)
theorem dL_law_1781 : decode cL_law 1781 = .ok (.iconst 3, 1) := dk_6 (dk_at dksL_law_68 10 rfl rfl)
theorem dL_law_1782 : decode cL_law 1782 = .ok (.iadd, 1) := dk_96 (dk_at dksL_law_68 11 rfl rfl)
theorem dL_law_1783 : decode cL_law 1783 = .ok (.iaload, 1) := dk_46 (dk_at dksL_law_68 12 rfl rfl)
theorem dL_law_1784 : decode cL_law 1784 = .ok (.aload_n 3, 1) := dk_45 (dk_at dksL_law_68 13 rfl rfl)
theorem dL_law_1785 : decode cL_law 1785 = .ok (.invokestatic 234, 3) := dk_184 0 234 (dk_at dksL_law_68 14 rfl rfl)
theorem dL_law_1788 : decode cL_law 1788 = .ok (.istore 5, 2) := dk_54 5 (dk_at dksL_law_68 17 rfl rfl)
theorem dL_law_1790 : decode cL_law 1790 = .ok (.aload_n 2, 1) := dk_44 (dk_at dksL_law_68 19 rfl rfl)
theorem dL_law_1791 : decode cL_law 1791 = .ok (.aload_n 0, 1) := dk_42 (dk_at dksL_law_68 20 rfl rfl)
theorem dL_law_1792 : decode cL_law 1792 = .ok (.iload 4, 2) := dk_21 4 (dk_at dksL_law_68 21 rfl rfl)
theorem dL_law_1794 : decode cL_law 1794 = .ok (.iconst 1, 1) := dk_4 (dk_at dksL_law_68 23 rfl rfl)
theorem dL_law_1795 : decode cL_law 1795 = .ok (.iadd, 1) := dk_96 (dk_at dksL_law_69 0 rfl rfl)
theorem dL_law_1796 : decode cL_law 1796 = .ok (.iaload, 1) := dk_46 (dk_at dksL_law_69 1 rfl rfl)
theorem dL_law_1797 : decode cL_law 1797 = .ok (.aload_n 0, 1) := dk_42 (dk_at dksL_law_69 2 rfl rfl)
theorem dL_law_1798 : decode cL_law 1798 = .ok (.iload 4, 2) := dk_21 4 (dk_at dksL_law_69 3 rfl rfl)
theorem dL_law_1800 : decode cL_law 1800 = .ok (.iconst 2, 1) := dk_5 (dk_at dksL_law_69 5 rfl rfl)
theorem dL_law_1801 : decode cL_law 1801 = .ok (.iadd, 1) := dk_96 (dk_at dksL_law_69 6 rfl rfl)
theorem dL_law_1802 : decode cL_law 1802 = .ok (.iaload, 1) := dk_46 (dk_at dksL_law_69 7 rfl rfl)
theorem dL_law_1803 : decode cL_law 1803 = .ok (.aload_n 0, 1) := dk_42 (dk_at dksL_law_69 8 rfl rfl)
theorem dL_law_1804 : decode cL_law 1804 = .ok (.iload 4, 2) := dk_21 4 (dk_at dksL_law_69 9 rfl rfl)
theorem dL_law_1806 : decode cL_law 1806 = .ok (.iconst 3, 1) := dk_6 (dk_at dksL_law_69 11 rfl rfl)
theorem dL_law_1807 : decode cL_law 1807 = .ok (.iadd, 1) := dk_96 (dk_at dksL_law_69 12 rfl rfl)
theorem dL_law_1808 : decode cL_law 1808 = .ok (.iaload, 1) := dk_46 (dk_at dksL_law_69 13 rfl rfl)
theorem dL_law_1809 : decode cL_law 1809 = .ok (.invokevirtual 236, 3) := dk_182 0 236 (dk_at dksL_law_69 14 rfl rfl)
theorem dL_law_1812 : decode cL_law 1812 = .ok (.istore 6, 2) := dk_54 6 (dk_at dksL_law_69 17 rfl rfl)
theorem dL_law_1814 : decode cL_law 1814 = .ok (.aload_n 2, 1) := dk_44 (dk_at dksL_law_69 19 rfl rfl)
theorem dL_law_1815 : decode cL_law 1815 = .ok (.invokevirtual 156, 3) := dk_182 0 156 (dk_at dksL_law_69 20 rfl rfl)
theorem dL_law_1818 : decode cL_law 1818 = .ok (.iload 5, 2) := dk_21 5 (dk_at dksL_law_70 0 rfl rfl)
theorem dL_law_1820 : decode cL_law 1820 = .ok (.if_icmp .eq 5, 3) := dk_159 0 5 (dk_at dksL_law_70 2 rfl rfl)
theorem dL_law_1823 : decode cL_law 1823 = .ok (.iconst 0, 1) := dk_3 (dk_at dksL_law_70 5 rfl rfl)
theorem dL_law_1824 : decode cL_law 1824 = .ok (.ireturn, 1) := dk_172 (dk_at dksL_law_70 6 rfl rfl)
theorem dL_law_1825 : decode cL_law 1825 = .ok (.iload 5, 2) := dk_21 5 (dk_at dksL_law_70 7 rfl rfl)
theorem dL_law_1827 : decode cL_law 1827 = .ok (.ifCond .ne 15, 3) := dk_154 0 15 (dk_at dksL_law_70 9 rfl rfl)
theorem dL_law_1830 : decode cL_law 1830 = .ok (.aload_n 3, 1) := dk_45 (dk_at dksL_law_70 12 rfl rfl)
theorem dL_law_1831 : decode cL_law 1831 = .ok (.iconst 0, 1) := dk_3 (dk_at dksL_law_70 13 rfl rfl)
theorem dL_law_1832 : decode cL_law 1832 = .ok (.laload, 1) := dk_47 (dk_at dksL_law_70 14 rfl rfl)
theorem dL_law_1833 : decode cL_law 1833 = .ok (.iload 6, 2) := dk_21 6 (dk_at dksL_law_70 15 rfl rfl)
theorem dL_law_1835 : decode cL_law 1835 = .ok (.i2l, 1) := dk_133 (dk_at dksL_law_70 17 rfl rfl)
theorem dL_law_1836 : decode cL_law 1836 = .ok (.lcmp, 1) := dk_148 (dk_at dksL_law_70 18 rfl rfl)
theorem dL_law_1837 : decode cL_law 1837 = .ok (.ifCond .eq 5, 3) := dk_153 0 5 (dk_at dksL_law_70 19 rfl rfl)
theorem dL_law_1840 : decode cL_law 1840 = .ok (.iconst 0, 1) := dk_3 (dk_at dksL_law_70 22 rfl rfl)
theorem dL_law_1841 : decode cL_law 1841 = .ok (.ireturn, 1) := dk_172 (dk_at dksL_law_70 23 rfl rfl)
theorem dL_law_1842 : decode cL_law 1842 = .ok (.goto 1005, 3) := dk_167 3 237 (dk_at dksL_law_71 0 rfl rfl)
theorem dL_law_1845 : decode cL_law 1845 = .ok (.aload_n 1, 1) := dk_43 (dk_at dksL_law_71 3 rfl rfl)
theorem dL_law_1846 : decode cL_law 1846 = .ok (.aload_n 0, 1) := dk_42 (dk_at dksL_law_71 4 rfl rfl)
theorem dL_law_1847 : decode cL_law 1847 = .ok (.iload 4, 2) := dk_21 4 (dk_at dksL_law_71 5 rfl rfl)
theorem dL_law_1849 : decode cL_law 1849 = .ok (.iconst 1, 1) := dk_4 (dk_at dksL_law_71 7 rfl rfl)
theorem dL_law_1850 : decode cL_law 1850 = .ok (.iadd, 1) := dk_96 (dk_at dksL_law_71 8 rfl rfl)
theorem dL_law_1851 : decode cL_law 1851 = .ok (.iaload, 1) := dk_46 (dk_at dksL_law_71 9 rfl rfl)
theorem dL_law_1852 : decode cL_law 1852 = .ok (.aload_n 3, 1) := dk_45 (dk_at dksL_law_71 10 rfl rfl)
theorem dL_law_1853 : decode cL_law 1853 = .ok (.invokestatic 237, 3) := dk_184 0 237 (dk_at dksL_law_71 11 rfl rfl)
theorem dL_law_1856 : decode cL_law 1856 = .ok (.istore 5, 2) := dk_54 5 (dk_at dksL_law_71 14 rfl rfl)
theorem dL_law_1858 : decode cL_law 1858 = .ok (.aload_n 2, 1) := dk_44 (dk_at dksL_law_71 16 rfl rfl)
theorem dL_law_1859 : decode cL_law 1859 = .ok (.aload_n 0, 1) := dk_42 (dk_at dksL_law_71 17 rfl rfl)
theorem dL_law_1860 : decode cL_law 1860 = .ok (.iload 4, 2) := dk_21 4 (dk_at dksL_law_71 18 rfl rfl)
theorem dL_law_1862 : decode cL_law 1862 = .ok (.iconst 1, 1) := dk_4 (dk_at dksL_law_71 20 rfl rfl)
theorem dL_law_1863 : decode cL_law 1863 = .ok (.iadd, 1) := dk_96 (dk_at dksL_law_71 21 rfl rfl)
theorem dL_law_1864 : decode cL_law 1864 = .ok (.iaload, 1) := dk_46 (dk_at dksL_law_71 22 rfl rfl)
theorem dL_law_1865 : decode cL_law 1865 = .ok (.invokevirtual 239, 3) := dk_182 0 239 (dk_at dksL_law_72 0 rfl rfl)
theorem dL_law_1868 : decode cL_law 1868 = .ok (.istore 6, 2) := dk_54 6 (dk_at dksL_law_72 3 rfl rfl)
theorem dL_law_1870 : decode cL_law 1870 = .ok (.aload_n 2, 1) := dk_44 (dk_at dksL_law_72 5 rfl rfl)
theorem dL_law_1871 : decode cL_law 1871 = .ok (.invokevirtual 156, 3) := dk_182 0 156 (dk_at dksL_law_72 6 rfl rfl)
theorem dL_law_1874 : decode cL_law 1874 = .ok (.iload 5, 2) := dk_21 5 (dk_at dksL_law_72 9 rfl rfl)
theorem dL_law_1876 : decode cL_law 1876 = .ok (.if_icmp .eq 5, 3) := dk_159 0 5 (dk_at dksL_law_72 11 rfl rfl)
theorem dL_law_1879 : decode cL_law 1879 = .ok (.iconst 0, 1) := dk_3 (dk_at dksL_law_72 14 rfl rfl)
theorem dL_law_1880 : decode cL_law 1880 = .ok (.ireturn, 1) := dk_172 (dk_at dksL_law_72 15 rfl rfl)
theorem dL_law_1881 : decode cL_law 1881 = .ok (.iload 5, 2) := dk_21 5 (dk_at dksL_law_72 16 rfl rfl)
theorem dL_law_1883 : decode cL_law 1883 = .ok (.ifCond .ne 15, 3) := dk_154 0 15 (dk_at dksL_law_72 18 rfl rfl)
theorem dL_law_1886 : decode cL_law 1886 = .ok (.aload_n 3, 1) := dk_45 (dk_at dksL_law_72 21 rfl rfl)
theorem dL_law_1887 : decode cL_law 1887 = .ok (.iconst 0, 1) := dk_3 (dk_at dksL_law_72 22 rfl rfl)
theorem dL_law_1888 : decode cL_law 1888 = .ok (.laload, 1) := dk_47 (dk_at dksL_law_72 23 rfl rfl)
theorem dL_law_1889 : decode cL_law 1889 = .ok (.iload 6, 2) := dk_21 6 (dk_at dksL_law_73 0 rfl rfl)
theorem dL_law_1891 : decode cL_law 1891 = .ok (.i2l, 1) := dk_133 (dk_at dksL_law_73 2 rfl rfl)
theorem dL_law_1892 : decode cL_law 1892 = .ok (.lcmp, 1) := dk_148 (dk_at dksL_law_73 3 rfl rfl)
theorem dL_law_1893 : decode cL_law 1893 = .ok (.ifCond .eq 5, 3) := dk_153 0 5 (dk_at dksL_law_73 4 rfl rfl)
theorem dL_law_1896 : decode cL_law 1896 = .ok (.iconst 0, 1) := dk_3 (dk_at dksL_law_73 7 rfl rfl)
theorem dL_law_1897 : decode cL_law 1897 = .ok (.ireturn, 1) := dk_172 (dk_at dksL_law_73 8 rfl rfl)
theorem dL_law_1898 : decode cL_law 1898 = .ok (.goto 949, 3) := dk_167 3 181 (dk_at dksL_law_73 9 rfl rfl)
theorem dL_law_1901 : decode cL_law 1901 = .ok (.aload_n 1, 1) := dk_43 (dk_at dksL_law_73 12 rfl rfl)
theorem dL_law_1902 : decode cL_law 1902 = .ok (.aload_n 0, 1) := dk_42 (dk_at dksL_law_73 13 rfl rfl)
theorem dL_law_1903 : decode cL_law 1903 = .ok (.iload 4, 2) := dk_21 4 (dk_at dksL_law_73 14 rfl rfl)
theorem dL_law_1905 : decode cL_law 1905 = .ok (.iconst 1, 1) := dk_4 (dk_at dksL_law_73 16 rfl rfl)
theorem dL_law_1906 : decode cL_law 1906 = .ok (.iadd, 1) := dk_96 (dk_at dksL_law_73 17 rfl rfl)
theorem dL_law_1907 : decode cL_law 1907 = .ok (.iaload, 1) := dk_46 (dk_at dksL_law_73 18 rfl rfl)
theorem dL_law_1908 : decode cL_law 1908 = .ok (.aload_n 3, 1) := dk_45 (dk_at dksL_law_73 19 rfl rfl)
theorem dL_law_1909 : decode cL_law 1909 = .ok (.invokestatic 240, 3) := dk_184 0 240 (dk_at dksL_law_73 20 rfl rfl)
theorem dL_law_1912 : decode cL_law 1912 = .ok (.istore 5, 2) := dk_54 5 (dk_at dksL_law_74 0 rfl rfl)
theorem dL_law_1914 : decode cL_law 1914 = .ok (.aload_n 2, 1) := dk_44 (dk_at dksL_law_74 2 rfl rfl)
theorem dL_law_1915 : decode cL_law 1915 = .ok (.aload_n 0, 1) := dk_42 (dk_at dksL_law_74 3 rfl rfl)
theorem dL_law_1916 : decode cL_law 1916 = .ok (.iload 4, 2) := dk_21 4 (dk_at dksL_law_74 4 rfl rfl)
theorem dL_law_1918 : decode cL_law 1918 = .ok (.iconst 1, 1) := dk_4 (dk_at dksL_law_74 6 rfl rfl)
theorem dL_law_1919 : decode cL_law 1919 = .ok (.iadd, 1) := dk_96 (dk_at dksL_law_74 7 rfl rfl)
theorem dL_law_1920 : decode cL_law 1920 = .ok (.iaload, 1) := dk_46 (dk_at dksL_law_74 8 rfl rfl)
theorem dL_law_1921 : decode cL_law 1921 = .ok (.invokevirtual 242, 3) := dk_182 0 242 (dk_at dksL_law_74 9 rfl rfl)
theorem dL_law_1924 : decode cL_law 1924 = .ok (.istore 6, 2) := dk_54 6 (dk_at dksL_law_74 12 rfl rfl)
theorem dL_law_1926 : decode cL_law 1926 = .ok (.aload_n 2, 1) := dk_44 (dk_at dksL_law_74 14 rfl rfl)
theorem dL_law_1927 : decode cL_law 1927 = .ok (.invokevirtual 156, 3) := dk_182 0 156 (dk_at dksL_law_74 15 rfl rfl)
theorem dL_law_1930 : decode cL_law 1930 = .ok (.iload 5, 2) := dk_21 5 (dk_at dksL_law_74 18 rfl rfl)
theorem dL_law_1932 : decode cL_law 1932 = .ok (.if_icmp .eq 5, 3) := dk_159 0 5 (dk_at dksL_law_74 20 rfl rfl)
theorem dL_law_1935 : decode cL_law 1935 = .ok (.iconst 0, 1) := dk_3 (dk_at dksL_law_74 23 rfl rfl)
theorem dL_law_1936 : decode cL_law 1936 = .ok (.ireturn, 1) := dk_172 (dk_at dksL_law_75 0 rfl rfl)
theorem dL_law_1937 : decode cL_law 1937 = .ok (.iload 5, 2) := dk_21 5 (dk_at dksL_law_75 1 rfl rfl)
theorem dL_law_1939 : decode cL_law 1939 = .ok (.ifCond .ne 15, 3) := dk_154 0 15 (dk_at dksL_law_75 3 rfl rfl)
theorem dL_law_1942 : decode cL_law 1942 = .ok (.aload_n 3, 1) := dk_45 (dk_at dksL_law_75 6 rfl rfl)
theorem dL_law_1943 : decode cL_law 1943 = .ok (.iconst 0, 1) := dk_3 (dk_at dksL_law_75 7 rfl rfl)
theorem dL_law_1944 : decode cL_law 1944 = .ok (.laload, 1) := dk_47 (dk_at dksL_law_75 8 rfl rfl)
theorem dL_law_1945 : decode cL_law 1945 = .ok (.iload 6, 2) := dk_21 6 (dk_at dksL_law_75 9 rfl rfl)
theorem dL_law_1947 : decode cL_law 1947 = .ok (.i2l, 1) := dk_133 (dk_at dksL_law_75 11 rfl rfl)
theorem dL_law_1948 : decode cL_law 1948 = .ok (.lcmp, 1) := dk_148 (dk_at dksL_law_75 12 rfl rfl)
theorem dL_law_1949 : decode cL_law 1949 = .ok (.ifCond .eq 5, 3) := dk_153 0 5 (dk_at dksL_law_75 13 rfl rfl)
theorem dL_law_1952 : decode cL_law 1952 = .ok (.iconst 0, 1) := dk_3 (dk_at dksL_law_75 16 rfl rfl)
theorem dL_law_1953 : decode cL_law 1953 = .ok (.ireturn, 1) := dk_172 (dk_at dksL_law_75 17 rfl rfl)
theorem dL_law_1954 : decode cL_law 1954 = .ok (.goto 893, 3) := dk_167 3 125 (dk_at dksL_law_75 18 rfl rfl)
theorem dL_law_1957 : decode cL_law 1957 = .ok (.aload_n 1, 1) := dk_43 (dk_at dksL_law_75 21 rfl rfl)
theorem dL_law_1958 : decode cL_law 1958 = .ok (.invokevirtual 243, 3) := dk_182 0 243 (dk_at dksL_law_76 0 rfl rfl)
theorem dL_law_1961 : decode cL_law 1961 = .ok (.aload_n 2, 1) := dk_44 (dk_at dksL_law_76 3 rfl rfl)
theorem dL_law_1962 : decode cL_law 1962 = .ok (.invokevirtual 246, 3) := dk_182 0 246 (dk_at dksL_law_76 4 rfl rfl)
theorem dL_law_1965 : decode cL_law 1965 = .ok (.if_icmp .eq 882, 3) := dk_159 3 114 (dk_at dksL_law_76 7 rfl rfl)
theorem dL_law_1968 : decode cL_law 1968 = .ok (.iconst 0, 1) := dk_3 (dk_at dksL_law_76 10 rfl rfl)
theorem dL_law_1969 : decode cL_law 1969 = .ok (.ireturn, 1) := dk_172 (dk_at dksL_law_76 11 rfl rfl)
theorem dL_law_1970 : decode cL_law 1970 = .ok (.aload_n 1, 1) := dk_43 (dk_at dksL_law_76 12 rfl rfl)
theorem dL_law_1971 : decode cL_law 1971 = .ok (.invokevirtual 247, 3) := dk_182 0 247 (dk_at dksL_law_76 13 rfl rfl)
theorem dL_law_1974 : decode cL_law 1974 = .ok (.dstore 5, 2) := dk_57 5 (dk_at dksL_law_76 16 rfl rfl)
theorem dL_law_1976 : decode cL_law 1976 = .ok (.aload_n 2, 1) := dk_44 (dk_at dksL_law_76 18 rfl rfl)
theorem dL_law_1977 : decode cL_law 1977 = .ok (.invokevirtual 251, 3) := dk_182 0 251 (dk_at dksL_law_76 19 rfl rfl)
theorem dL_law_1980 : decode cL_law 1980 = .ok (.dstore 7, 2) := dk_57 7 (dk_at dksL_law_76 22 rfl rfl)
theorem dL_law_1982 : decode cL_law 1982 = .ok (.dload 5, 2) := dk_24 5 (dk_at dksL_law_77 0 rfl rfl)
theorem dL_law_1984 : decode cL_law 1984 = .ok (.dload 7, 2) := dk_24 7 (dk_at dksL_law_77 2 rfl rfl)
theorem dL_law_1986 : decode cL_law 1986 = .ok (.dcmp .l, 1) := dk_151 (dk_at dksL_law_77 4 rfl rfl)
theorem dL_law_1987 : decode cL_law 1987 = .ok (.ifCond .eq 21, 3) := dk_153 0 21 (dk_at dksL_law_77 5 rfl rfl)
theorem dL_law_1990 : decode cL_law 1990 = .ok (.dload 5, 2) := dk_24 5 (dk_at dksL_law_77 8 rfl rfl)
theorem dL_law_1992 : decode cL_law 1992 = .ok (.dload 5, 2) := dk_24 5 (dk_at dksL_law_77 10 rfl rfl)
theorem dL_law_1994 : decode cL_law 1994 = .ok (.dcmp .l, 1) := dk_151 (dk_at dksL_law_77 12 rfl rfl)
theorem dL_law_1995 : decode cL_law 1995 = .ok (.ifCond .eq 11, 3) := dk_153 0 11 (dk_at dksL_law_77 13 rfl rfl)
theorem dL_law_1998 : decode cL_law 1998 = .ok (.dload 7, 2) := dk_24 7 (dk_at dksL_law_77 16 rfl rfl)
theorem dL_law_2000 : decode cL_law 2000 = .ok (.dload 7, 2) := dk_24 7 (dk_at dksL_law_77 18 rfl rfl)
theorem dL_law_2002 : decode cL_law 2002 = .ok (.dcmp .l, 1) := dk_151 (dk_at dksL_law_77 20 rfl rfl)
theorem dL_law_2003 : decode cL_law 2003 = .ok (.ifCond .ne 5, 3) := dk_154 0 5 (dk_at dksL_law_77 21 rfl rfl)
theorem dL_law_2006 : decode cL_law 2006 = .ok (.iconst 0, 1) := dk_3 (dk_at dksL_law_78 0 rfl rfl)
theorem dL_law_2007 : decode cL_law 2007 = .ok (.ireturn, 1) := dk_172 (dk_at dksL_law_78 1 rfl rfl)
theorem dL_law_2008 : decode cL_law 2008 = .ok (.goto 839, 3) := dk_167 3 71 (dk_at dksL_law_78 2 rfl rfl)
theorem dL_law_2011 : decode cL_law 2011 = .ok (.aload_n 1, 1) := dk_43 (dk_at dksL_law_78 5 rfl rfl)
theorem dL_law_2012 : decode cL_law 2012 = .ok (.invokevirtual 252, 3) := dk_182 0 252 (dk_at dksL_law_78 6 rfl rfl)
theorem dL_law_2015 : decode cL_law 2015 = .ok (.f2d, 1) := dk_141 (dk_at dksL_law_78 9 rfl rfl)
theorem dL_law_2016 : decode cL_law 2016 = .ok (.dstore 5, 2) := dk_57 5 (dk_at dksL_law_78 10 rfl rfl)
theorem dL_law_2018 : decode cL_law 2018 = .ok (.aload_n 2, 1) := dk_44 (dk_at dksL_law_78 12 rfl rfl)
theorem dL_law_2019 : decode cL_law 2019 = .ok (.invokevirtual 256, 3) := dk_182 1 0 (dk_at dksL_law_78 13 rfl rfl)
theorem dL_law_2022 : decode cL_law 2022 = .ok (.f2d, 1) := dk_141 (dk_at dksL_law_78 16 rfl rfl)
theorem dL_law_2023 : decode cL_law 2023 = .ok (.dstore 7, 2) := dk_57 7 (dk_at dksL_law_78 17 rfl rfl)
theorem dL_law_2025 : decode cL_law 2025 = .ok (.dload 5, 2) := dk_24 5 (dk_at dksL_law_78 19 rfl rfl)
theorem dL_law_2027 : decode cL_law 2027 = .ok (.dload 7, 2) := dk_24 7 (dk_at dksL_law_78 21 rfl rfl)
theorem dL_law_2029 : decode cL_law 2029 = .ok (.dcmp .l, 1) := dk_151 (dk_at dksL_law_78 23 rfl rfl)
theorem dL_law_2030 : decode cL_law 2030 = .ok (.ifCond .eq 21, 3) := dk_153 0 21 (dk_at dksL_law_79 0 rfl rfl)
theorem dL_law_2033 : decode cL_law 2033 = .ok (.dload 5, 2) := dk_24 5 (dk_at dksL_law_79 3 rfl rfl)
theorem dL_law_2035 : decode cL_law 2035 = .ok (.dload 5, 2) := dk_24 5 (dk_at dksL_law_79 5 rfl rfl)
theorem dL_law_2037 : decode cL_law 2037 = .ok (.dcmp .l, 1) := dk_151 (dk_at dksL_law_79 7 rfl rfl)
theorem dL_law_2038 : decode cL_law 2038 = .ok (.ifCond .eq 11, 3) := dk_153 0 11 (dk_at dksL_law_79 8 rfl rfl)
theorem dL_law_2041 : decode cL_law 2041 = .ok (.dload 7, 2) := dk_24 7 (dk_at dksL_law_79 11 rfl rfl)
theorem dL_law_2043 : decode cL_law 2043 = .ok (.dload 7, 2) := dk_24 7 (dk_at dksL_law_79 13 rfl rfl)
theorem dL_law_2045 : decode cL_law 2045 = .ok (.dcmp .l, 1) := dk_151 (dk_at dksL_law_79 15 rfl rfl)
theorem dL_law_2046 : decode cL_law 2046 = .ok (.ifCond .ne 5, 3) := dk_154 0 5 (dk_at dksL_law_79 16 rfl rfl)
theorem dL_law_2049 : decode cL_law 2049 = .ok (.iconst 0, 1) := dk_3 (dk_at dksL_law_79 19 rfl rfl)
theorem dL_law_2050 : decode cL_law 2050 = .ok (.ireturn, 1) := dk_172 (dk_at dksL_law_79 20 rfl rfl)
theorem dL_law_2051 : decode cL_law 2051 = .ok (.goto 796, 3) := dk_167 3 28 (dk_at dksL_law_79 21 rfl rfl)
theorem dL_law_2054 : decode cL_law 2054 = .ok (.aload_n 1, 1) := dk_43 (dk_at dksL_law_80 0 rfl rfl)
theorem dL_law_2055 : decode cL_law 2055 = .ok (.aload_n 0, 1) := dk_42 (dk_at dksL_law_80 1 rfl rfl)
theorem dL_law_2056 : decode cL_law 2056 = .ok (.iload 4, 2) := dk_21 4 (dk_at dksL_law_80 2 rfl rfl)
theorem dL_law_2058 : decode cL_law 2058 = .ok (.iconst 1, 1) := dk_4 (dk_at dksL_law_80 4 rfl rfl)
theorem dL_law_2059 : decode cL_law 2059 = .ok (.iadd, 1) := dk_96 (dk_at dksL_law_80 5 rfl rfl)
theorem dL_law_2060 : decode cL_law 2060 = .ok (.iaload, 1) := dk_46 (dk_at dksL_law_80 6 rfl rfl)
theorem dL_law_2061 : decode cL_law 2061 = .ok (.aload_n 3, 1) := dk_45 (dk_at dksL_law_80 7 rfl rfl)
theorem dL_law_2062 : decode cL_law 2062 = .ok (.invokestatic 257, 3) := dk_184 1 1 (dk_at dksL_law_80 8 rfl rfl)
theorem dL_law_2065 : decode cL_law 2065 = .ok (.istore 5, 2) := dk_54 5 (dk_at dksL_law_80 11 rfl rfl)
theorem dL_law_2067 : decode cL_law 2067 = .ok (.aload_n 2, 1) := dk_44 (dk_at dksL_law_80 13 rfl rfl)
theorem dL_law_2068 : decode cL_law 2068 = .ok (.aload_n 0, 1) := dk_42 (dk_at dksL_law_80 14 rfl rfl)
theorem dL_law_2069 : decode cL_law 2069 = .ok (.iload 4, 2) := dk_21 4 (dk_at dksL_law_80 15 rfl rfl)
theorem dL_law_2071 : decode cL_law 2071 = .ok (.iconst 1, 1) := dk_4 (dk_at dksL_law_80 17 rfl rfl)
theorem dL_law_2072 : decode cL_law 2072 = .ok (.iadd, 1) := dk_96 (dk_at dksL_law_80 18 rfl rfl)
theorem dL_law_2073 : decode cL_law 2073 = .ok (.iaload, 1) := dk_46 (dk_at dksL_law_80 19 rfl rfl)
theorem dL_law_2074 : decode cL_law 2074 = .ok (.invokevirtual 259, 3) := dk_182 1 3 (dk_at dksL_law_80 20 rfl rfl)
theorem dL_law_2077 : decode cL_law 2077 = .ok (.istore 6, 2) := dk_54 6 (dk_at dksL_law_81 0 rfl rfl)
theorem dL_law_2079 : decode cL_law 2079 = .ok (.aload_n 2, 1) := dk_44 (dk_at dksL_law_81 2 rfl rfl)
theorem dL_law_2080 : decode cL_law 2080 = .ok (.invokevirtual 156, 3) := dk_182 0 156 (dk_at dksL_law_81 3 rfl rfl)
theorem dL_law_2083 : decode cL_law 2083 = .ok (.iload 5, 2) := dk_21 5 (dk_at dksL_law_81 6 rfl rfl)
theorem dL_law_2085 : decode cL_law 2085 = .ok (.if_icmp .eq 5, 3) := dk_159 0 5 (dk_at dksL_law_81 8 rfl rfl)
theorem dL_law_2088 : decode cL_law 2088 = .ok (.iconst 0, 1) := dk_3 (dk_at dksL_law_81 11 rfl rfl)
theorem dL_law_2089 : decode cL_law 2089 = .ok (.ireturn, 1) := dk_172 (dk_at dksL_law_81 12 rfl rfl)
theorem dL_law_2090 : decode cL_law 2090 = .ok (.iload 5, 2) := dk_21 5 (dk_at dksL_law_81 13 rfl rfl)
theorem dL_law_2092 : decode cL_law 2092 = .ok (.ifCond .ne 15, 3) := dk_154 0 15 (dk_at dksL_law_81 15 rfl rfl)
theorem dL_law_2095 : decode cL_law 2095 = .ok (.aload_n 3, 1) := dk_45 (dk_at dksL_law_81 18 rfl rfl)
theorem dL_law_2096 : decode cL_law 2096 = .ok (.iconst 0, 1) := dk_3 (dk_at dksL_law_81 19 rfl rfl)
theorem dL_law_2097 : decode cL_law 2097 = .ok (.laload, 1) := dk_47 (dk_at dksL_law_81 20 rfl rfl)
theorem dL_law_2098 : decode cL_law 2098 = .ok (.iload 6, 2) := dk_21 6 (dk_at dksL_law_81 21 rfl rfl)
theorem dL_law_2100 : decode cL_law 2100 = .ok (.i2l, 1) := dk_133 (dk_at dksL_law_81 23 rfl rfl)
theorem dL_law_2101 : decode cL_law 2101 = .ok (.lcmp, 1) := dk_148 (dk_at dksL_law_82 0 rfl rfl)
theorem dL_law_2102 : decode cL_law 2102 = .ok (.ifCond .eq 5, 3) := dk_153 0 5 (dk_at dksL_law_82 1 rfl rfl)
theorem dL_law_2105 : decode cL_law 2105 = .ok (.iconst 0, 1) := dk_3 (dk_at dksL_law_82 4 rfl rfl)
theorem dL_law_2106 : decode cL_law 2106 = .ok (.ireturn, 1) := dk_172 (dk_at dksL_law_82 5 rfl rfl)
theorem dL_law_2107 : decode cL_law 2107 = .ok (.goto 740, 3) := dk_167 2 228 (dk_at dksL_law_82 6 rfl rfl)
theorem dL_law_2110 : decode cL_law 2110 = .ok (.aload_n 1, 1) := dk_43 (dk_at dksL_law_82 9 rfl rfl)
theorem dL_law_2111 : decode cL_law 2111 = .ok (.aload_n 0, 1) := dk_42 (dk_at dksL_law_82 10 rfl rfl)
theorem dL_law_2112 : decode cL_law 2112 = .ok (.iload 4, 2) := dk_21 4 (dk_at dksL_law_82 11 rfl rfl)
theorem dL_law_2114 : decode cL_law 2114 = .ok (.iconst 1, 1) := dk_4 (dk_at dksL_law_82 13 rfl rfl)
theorem dL_law_2115 : decode cL_law 2115 = .ok (.iadd, 1) := dk_96 (dk_at dksL_law_82 14 rfl rfl)
theorem dL_law_2116 : decode cL_law 2116 = .ok (.iaload, 1) := dk_46 (dk_at dksL_law_82 15 rfl rfl)
theorem dL_law_2117 : decode cL_law 2117 = .ok (.aload_n 0, 1) := dk_42 (dk_at dksL_law_82 16 rfl rfl)
theorem dL_law_2118 : decode cL_law 2118 = .ok (.iload 4, 2) := dk_21 4 (dk_at dksL_law_82 17 rfl rfl)
theorem dL_law_2120 : decode cL_law 2120 = .ok (.iconst 2, 1) := dk_5 (dk_at dksL_law_82 19 rfl rfl)
theorem dL_law_2121 : decode cL_law 2121 = .ok (.iadd, 1) := dk_96 (dk_at dksL_law_82 20 rfl rfl)
theorem dL_law_2122 : decode cL_law 2122 = .ok (.iaload, 1) := dk_46 (dk_at dksL_law_82 21 rfl rfl)
theorem dL_law_2123 : decode cL_law 2123 = .ok (.aload_n 0, 1) := dk_42 (dk_at dksL_law_82 22 rfl rfl)
theorem dL_law_2124 : decode cL_law 2124 = .ok (.iload 4, 2) := dk_21 4 (dk_at dksL_law_83 0 rfl rfl)
theorem dL_law_2126 : decode cL_law 2126 = .ok (.iconst 3, 1) := dk_6 (dk_at dksL_law_83 2 rfl rfl)
theorem dL_law_2127 : decode cL_law 2127 = .ok (.iadd, 1) := dk_96 (dk_at dksL_law_83 3 rfl rfl)
theorem dL_law_2128 : decode cL_law 2128 = .ok (.iaload, 1) := dk_46 (dk_at dksL_law_83 4 rfl rfl)
theorem dL_law_2129 : decode cL_law 2129 = .ok (.aload_n 0, 1) := dk_42 (dk_at dksL_law_83 5 rfl rfl)
theorem dL_law_2130 : decode cL_law 2130 = .ok (.iload 4, 2) := dk_21 4 (dk_at dksL_law_83 6 rfl rfl)
theorem dL_law_2132 : decode cL_law 2132 = .ok (.iconst 4, 1) := dk_7 (dk_at dksL_law_83 8 rfl rfl)
theorem dL_law_2133 : decode cL_law 2133 = .ok (.iadd, 1) := dk_96 (dk_at dksL_law_83 9 rfl rfl)
theorem dL_law_2134 : decode cL_law 2134 = .ok (.iaload, 1) := dk_46 (dk_at dksL_law_83 10 rfl rfl)
theorem dL_law_2135 : decode cL_law 2135 = .ok (.aload_n 0, 1) := dk_42 (dk_at dksL_law_83 11 rfl rfl)
theorem dL_law_2136 : decode cL_law 2136 = .ok (.iload 4, 2) := dk_21 4 (dk_at dksL_law_83 12 rfl rfl)
theorem dL_law_2138 : decode cL_law 2138 = .ok (.iconst 5, 1) := dk_8 (dk_at dksL_law_83 14 rfl rfl)
theorem dL_law_2139 : decode cL_law 2139 = .ok (.iadd, 1) := dk_96 (dk_at dksL_law_83 15 rfl rfl)
theorem dL_law_2140 : decode cL_law 2140 = .ok (.iaload, 1) := dk_46 (dk_at dksL_law_83 16 rfl rfl)
theorem dL_law_2141 : decode cL_law 2141 = .ok (.aload_n 0, 1) := dk_42 (dk_at dksL_law_83 17 rfl rfl)
theorem dL_law_2142 : decode cL_law 2142 = .ok (.iload 4, 2) := dk_21 4 (dk_at dksL_law_83 18 rfl rfl)
theorem dL_law_2144 : decode cL_law 2144 = .ok (.bipush 6, 2) := dk_16 6 (dk_at dksL_law_83 20 rfl rfl)
theorem dL_law_2146 : decode cL_law 2146 = .ok (.iadd, 1) := dk_96 (dk_at dksL_law_83 22 rfl rfl)
theorem dL_law_2147 : decode cL_law 2147 = .ok (.iaload, 1) := dk_46 (dk_at dksL_law_83 23 rfl rfl)
theorem dL_law_2148 : decode cL_law 2148 = .ok (.aload_n 3, 1) := dk_45 (dk_at dksL_law_84 0 rfl rfl)
theorem dL_law_2149 : decode cL_law 2149 = .ok (.invokestatic 260, 3) := dk_184 1 4 (dk_at dksL_law_84 1 rfl rfl)
theorem dL_law_2152 : decode cL_law 2152 = .ok (.istore 5, 2) := dk_54 5 (dk_at dksL_law_84 4 rfl rfl)
theorem dL_law_2154 : decode cL_law 2154 = .ok (.aload_n 2, 1) := dk_44 (dk_at dksL_law_84 6 rfl rfl)
theorem dL_law_2155 : decode cL_law 2155 = .ok (.aload_n 0, 1) := dk_42 (dk_at dksL_law_84 7 rfl rfl)
theorem dL_law_2156 : decode cL_law 2156 = .ok (.iload 4, 2) := dk_21 4 (dk_at dksL_law_84 8 rfl rfl)
theorem dL_law_2158 : decode cL_law 2158 = .ok (.iconst 1, 1) := dk_4 (dk_at dksL_law_84 10 rfl rfl)
theorem dL_law_2159 : decode cL_law 2159 = .ok (.iadd, 1) := dk_96 (dk_at dksL_law_84 11 rfl rfl)
theorem dL_law_2160 : decode cL_law 2160 = .ok (.iaload, 1) := dk_46 (dk_at dksL_law_84 12 rfl rfl)
theorem dL_law_2161 : decode cL_law 2161 = .ok (.aload_n 0, 1) := dk_42 (dk_at dksL_law_84 13 rfl rfl)
theorem dL_law_2162 : decode cL_law 2162 = .ok (.iload 4, 2) := dk_21 4 (dk_at dksL_law_84 14 rfl rfl)
theorem dL_law_2164 : decode cL_law 2164 = .ok (.iconst 2, 1) := dk_5 (dk_at dksL_law_84 16 rfl rfl)
theorem dL_law_2165 : decode cL_law 2165 = .ok (.iadd, 1) := dk_96 (dk_at dksL_law_84 17 rfl rfl)
theorem dL_law_2166 : decode cL_law 2166 = .ok (.iaload, 1) := dk_46 (dk_at dksL_law_84 18 rfl rfl)
theorem dL_law_2167 : decode cL_law 2167 = .ok (.aload_n 0, 1) := dk_42 (dk_at dksL_law_84 19 rfl rfl)
theorem dL_law_2168 : decode cL_law 2168 = .ok (.iload 4, 2) := dk_21 4 (dk_at dksL_law_84 20 rfl rfl)
theorem dL_law_2170 : decode cL_law 2170 = .ok (.iconst 3, 1) := dk_6 (dk_at dksL_law_84 22 rfl rfl)
theorem dL_law_2171 : decode cL_law 2171 = .ok (.iadd, 1) := dk_96 (dk_at dksL_law_84 23 rfl rfl)
theorem dL_law_2172 : decode cL_law 2172 = .ok (.iaload, 1) := dk_46 (dk_at dksL_law_85 0 rfl rfl)
theorem dL_law_2173 : decode cL_law 2173 = .ok (.aload_n 0, 1) := dk_42 (dk_at dksL_law_85 1 rfl rfl)
theorem dL_law_2174 : decode cL_law 2174 = .ok (.iload 4, 2) := dk_21 4 (dk_at dksL_law_85 2 rfl rfl)
theorem dL_law_2176 : decode cL_law 2176 = .ok (.iconst 4, 1) := dk_7 (dk_at dksL_law_85 4 rfl rfl)
theorem dL_law_2177 : decode cL_law 2177 = .ok (.iadd, 1) := dk_96 (dk_at dksL_law_85 5 rfl rfl)
theorem dL_law_2178 : decode cL_law 2178 = .ok (.iaload, 1) := dk_46 (dk_at dksL_law_85 6 rfl rfl)
theorem dL_law_2179 : decode cL_law 2179 = .ok (.aload_n 0, 1) := dk_42 (dk_at dksL_law_85 7 rfl rfl)
theorem dL_law_2180 : decode cL_law 2180 = .ok (.iload 4, 2) := dk_21 4 (dk_at dksL_law_85 8 rfl rfl)
theorem dL_law_2182 : decode cL_law 2182 = .ok (.iconst 5, 1) := dk_8 (dk_at dksL_law_85 10 rfl rfl)
theorem dL_law_2183 : decode cL_law 2183 = .ok (.iadd, 1) := dk_96 (dk_at dksL_law_85 11 rfl rfl)
theorem dL_law_2184 : decode cL_law 2184 = .ok (.iaload, 1) := dk_46 (dk_at dksL_law_85 12 rfl rfl)
theorem dL_law_2185 : decode cL_law 2185 = .ok (.aload_n 0, 1) := dk_42 (dk_at dksL_law_85 13 rfl rfl)
theorem dL_law_2186 : decode cL_law 2186 = .ok (.iload 4, 2) := dk_21 4 (dk_at dksL_law_85 14 rfl rfl)
theorem dL_law_2188 : decode cL_law 2188 = .ok (.bipush 6, 2) := dk_16 6 (dk_at dksL_law_85 16 rfl rfl)
theorem dL_law_2190 : decode cL_law 2190 = .ok (.iadd, 1) := dk_96 (dk_at dksL_law_85 18 rfl rfl)
theorem dL_law_2191 : decode cL_law 2191 = .ok (.iaload, 1) := dk_46 (dk_at dksL_law_85 19 rfl rfl)
theorem dL_law_2192 : decode cL_law 2192 = .ok (.invokevirtual 263, 3) := dk_182 1 7 (dk_at dksL_law_85 20 rfl rfl)
theorem dL_law_2195 : decode cL_law 2195 = .ok (.istore 6, 2) := dk_54 6 (dk_at dksL_law_86 0 rfl rfl)
theorem dL_law_2197 : decode cL_law 2197 = .ok (.aload_n 2, 1) := dk_44 (dk_at dksL_law_86 2 rfl rfl)
theorem dL_law_2198 : decode cL_law 2198 = .ok (.invokevirtual 156, 3) := dk_182 0 156 (dk_at dksL_law_86 3 rfl rfl)
theorem dL_law_2201 : decode cL_law 2201 = .ok (.iload 5, 2) := dk_21 5 (dk_at dksL_law_86 6 rfl rfl)
theorem dL_law_2203 : decode cL_law 2203 = .ok (.if_icmp .eq 5, 3) := dk_159 0 5 (dk_at dksL_law_86 8 rfl rfl)
theorem dL_law_2206 : decode cL_law 2206 = .ok (.iconst 0, 1) := dk_3 (dk_at dksL_law_86 11 rfl rfl)
theorem dL_law_2207 : decode cL_law 2207 = .ok (.ireturn, 1) := dk_172 (dk_at dksL_law_86 12 rfl rfl)
theorem dL_law_2208 : decode cL_law 2208 = .ok (.iload 5, 2) := dk_21 5 (dk_at dksL_law_86 13 rfl rfl)
theorem dL_law_2210 : decode cL_law 2210 = .ok (.ifCond .ne 15, 3) := dk_154 0 15 (dk_at dksL_law_86 15 rfl rfl)
theorem dL_law_2213 : decode cL_law 2213 = .ok (.aload_n 3, 1) := dk_45 (dk_at dksL_law_86 18 rfl rfl)
theorem dL_law_2214 : decode cL_law 2214 = .ok (.iconst 0, 1) := dk_3 (dk_at dksL_law_86 19 rfl rfl)
theorem dL_law_2215 : decode cL_law 2215 = .ok (.laload, 1) := dk_47 (dk_at dksL_law_86 20 rfl rfl)
theorem dL_law_2216 : decode cL_law 2216 = .ok (.iload 6, 2) := dk_21 6 (dk_at dksL_law_86 21 rfl rfl)
theorem dL_law_2218 : decode cL_law 2218 = .ok (.i2l, 1) := dk_133 (dk_at dksL_law_86 23 rfl rfl)
theorem dL_law_2219 : decode cL_law 2219 = .ok (.lcmp, 1) := dk_148 (dk_at dksL_law_87 0 rfl rfl)
theorem dL_law_2220 : decode cL_law 2220 = .ok (.ifCond .eq 5, 3) := dk_153 0 5 (dk_at dksL_law_87 1 rfl rfl)
theorem dL_law_2223 : decode cL_law 2223 = .ok (.iconst 0, 1) := dk_3 (dk_at dksL_law_87 4 rfl rfl)
theorem dL_law_2224 : decode cL_law 2224 = .ok (.ireturn, 1) := dk_172 (dk_at dksL_law_87 5 rfl rfl)
theorem dL_law_2225 : decode cL_law 2225 = .ok (.goto 622, 3) := dk_167 2 110 (dk_at dksL_law_87 6 rfl rfl)
theorem dL_law_2228 : decode cL_law 2228 = .ok (.aload_n 1, 1) := dk_43 (dk_at dksL_law_87 9 rfl rfl)
theorem dL_law_2229 : decode cL_law 2229 = .ok (.aload_n 0, 1) := dk_42 (dk_at dksL_law_87 10 rfl rfl)
theorem dL_law_2230 : decode cL_law 2230 = .ok (.iload 4, 2) := dk_21 4 (dk_at dksL_law_87 11 rfl rfl)
theorem dL_law_2232 : decode cL_law 2232 = .ok (.iconst 1, 1) := dk_4 (dk_at dksL_law_87 13 rfl rfl)
theorem dL_law_2233 : decode cL_law 2233 = .ok (.iadd, 1) := dk_96 (dk_at dksL_law_87 14 rfl rfl)
theorem dL_law_2234 : decode cL_law 2234 = .ok (.iaload, 1) := dk_46 (dk_at dksL_law_87 15 rfl rfl)
theorem dL_law_2235 : decode cL_law 2235 = .ok (.aload_n 0, 1) := dk_42 (dk_at dksL_law_87 16 rfl rfl)
theorem dL_law_2236 : decode cL_law 2236 = .ok (.iload 4, 2) := dk_21 4 (dk_at dksL_law_87 17 rfl rfl)
theorem dL_law_2238 : decode cL_law 2238 = .ok (.iconst 2, 1) := dk_5 (dk_at dksL_law_87 19 rfl rfl)
theorem dL_law_2239 : decode cL_law 2239 = .ok (.iadd, 1) := dk_96 (dk_at dksL_law_87 20 rfl rfl)
theorem dL_law_2240 : decode cL_law 2240 = .ok (.iaload, 1) := dk_46 (dk_at dksL_law_87 21 rfl rfl)
theorem dL_law_2241 : decode cL_law 2241 = .ok (.aload_n 0, 1) := dk_42 (dk_at dksL_law_87 22 rfl rfl)
theorem dL_law_2242 : decode cL_law 2242 = .ok (.iload 4, 2) := dk_21 4 (dk_at dksL_law_88 0 rfl rfl)
theorem dL_law_2244 : decode cL_law 2244 = .ok (.iconst 3, 1) := dk_6 (dk_at dksL_law_88 2 rfl rfl)
theorem dL_law_2245 : decode cL_law 2245 = .ok (.iadd, 1) := dk_96 (dk_at dksL_law_88 3 rfl rfl)
theorem dL_law_2246 : decode cL_law 2246 = .ok (.iaload, 1) := dk_46 (dk_at dksL_law_88 4 rfl rfl)
theorem dL_law_2247 : decode cL_law 2247 = .ok (.aload_n 3, 1) := dk_45 (dk_at dksL_law_88 5 rfl rfl)
theorem dL_law_2248 : decode cL_law 2248 = .ok (.invokestatic 264, 3) := dk_184 1 8 (dk_at dksL_law_88 6 rfl rfl)
theorem dL_law_2251 : decode cL_law 2251 = .ok (.istore 5, 2) := dk_54 5 (dk_at dksL_law_88 9 rfl rfl)
theorem dL_law_2253 : decode cL_law 2253 = .ok (.aload_n 2, 1) := dk_44 (dk_at dksL_law_88 11 rfl rfl)
theorem dL_law_2254 : decode cL_law 2254 = .ok (.aload_n 0, 1) := dk_42 (dk_at dksL_law_88 12 rfl rfl)
theorem dL_law_2255 : decode cL_law 2255 = .ok (.iload 4, 2) := dk_21 4 (dk_at dksL_law_88 13 rfl rfl)
theorem dL_law_2257 : decode cL_law 2257 = .ok (.iconst 1, 1) := dk_4 (dk_at dksL_law_88 15 rfl rfl)
theorem dL_law_2258 : decode cL_law 2258 = .ok (.iadd, 1) := dk_96 (dk_at dksL_law_88 16 rfl rfl)
theorem dL_law_2259 : decode cL_law 2259 = .ok (.iaload, 1) := dk_46 (dk_at dksL_law_88 17 rfl rfl)
theorem dL_law_2260 : decode cL_law 2260 = .ok (.aload_n 0, 1) := dk_42 (dk_at dksL_law_88 18 rfl rfl)
theorem dL_law_2261 : decode cL_law 2261 = .ok (.iload 4, 2) := dk_21 4 (dk_at dksL_law_88 19 rfl rfl)
theorem dL_law_2263 : decode cL_law 2263 = .ok (.iconst 2, 1) := dk_5 (dk_at dksL_law_88 21 rfl rfl)
theorem dL_law_2264 : decode cL_law 2264 = .ok (.iadd, 1) := dk_96 (dk_at dksL_law_88 22 rfl rfl)
theorem dL_law_2265 : decode cL_law 2265 = .ok (.iaload, 1) := dk_46 (dk_at dksL_law_88 23 rfl rfl)
theorem dL_law_2266 : decode cL_law 2266 = .ok (.aload_n 0, 1) := dk_42 (dk_at dksL_law_89 0 rfl rfl)
theorem dL_law_2267 : decode cL_law 2267 = .ok (.iload 4, 2) := dk_21 4 (dk_at dksL_law_89 1 rfl rfl)
theorem dL_law_2269 : decode cL_law 2269 = .ok (.iconst 3, 1) := dk_6 (dk_at dksL_law_89 3 rfl rfl)
theorem dL_law_2270 : decode cL_law 2270 = .ok (.iadd, 1) := dk_96 (dk_at dksL_law_89 4 rfl rfl)
theorem dL_law_2271 : decode cL_law 2271 = .ok (.iaload, 1) := dk_46 (dk_at dksL_law_89 5 rfl rfl)
theorem dL_law_2272 : decode cL_law 2272 = .ok (.invokevirtual 266, 3) := dk_182 1 10 (dk_at dksL_law_89 6 rfl rfl)
theorem dL_law_2275 : decode cL_law 2275 = .ok (.istore 6, 2) := dk_54 6 (dk_at dksL_law_89 9 rfl rfl)
theorem dL_law_2277 : decode cL_law 2277 = .ok (.aload_n 2, 1) := dk_44 (dk_at dksL_law_89 11 rfl rfl)
theorem dL_law_2278 : decode cL_law 2278 = .ok (.invokevirtual 156, 3) := dk_182 0 156 (dk_at dksL_law_89 12 rfl rfl)
theorem dL_law_2281 : decode cL_law 2281 = .ok (.iload 5, 2) := dk_21 5 (dk_at dksL_law_89 15 rfl rfl)
theorem dL_law_2283 : decode cL_law 2283 = .ok (.if_icmp .eq 5, 3) := dk_159 0 5 (dk_at dksL_law_89 17 rfl rfl)
theorem dL_law_2286 : decode cL_law 2286 = .ok (.iconst 0, 1) := dk_3 (dk_at dksL_law_89 20 rfl rfl)
theorem dL_law_2287 : decode cL_law 2287 = .ok (.ireturn, 1) := dk_172 (dk_at dksL_law_89 21 rfl rfl)
theorem dL_law_2288 : decode cL_law 2288 = .ok (.iload 5, 2) := dk_21 5 (dk_at dksL_law_89 22 rfl rfl)
theorem dL_law_2290 : decode cL_law 2290 = .ok (.ifCond .ne 15, 3) := dk_154 0 15 (dk_at dksL_law_90 0 rfl rfl)
theorem dL_law_2293 : decode cL_law 2293 = .ok (.aload_n 3, 1) := dk_45 (dk_at dksL_law_90 3 rfl rfl)
theorem dL_law_2294 : decode cL_law 2294 = .ok (.iconst 0, 1) := dk_3 (dk_at dksL_law_90 4 rfl rfl)
theorem dL_law_2295 : decode cL_law 2295 = .ok (.laload, 1) := dk_47 (dk_at dksL_law_90 5 rfl rfl)
theorem dL_law_2296 : decode cL_law 2296 = .ok (.iload 6, 2) := dk_21 6 (dk_at dksL_law_90 6 rfl rfl)
theorem dL_law_2298 : decode cL_law 2298 = .ok (.i2l, 1) := dk_133 (dk_at dksL_law_90 8 rfl rfl)
theorem dL_law_2299 : decode cL_law 2299 = .ok (.lcmp, 1) := dk_148 (dk_at dksL_law_90 9 rfl rfl)
theorem dL_law_2300 : decode cL_law 2300 = .ok (.ifCond .eq 5, 3) := dk_153 0 5 (dk_at dksL_law_90 10 rfl rfl)
theorem dL_law_2303 : decode cL_law 2303 = .ok (.iconst 0, 1) := dk_3 (dk_at dksL_law_90 13 rfl rfl)
theorem dL_law_2304 : decode cL_law 2304 = .ok (.ireturn, 1) := dk_172 (dk_at dksL_law_90 14 rfl rfl)
theorem dL_law_2305 : decode cL_law 2305 = .ok (.goto 542, 3) := dk_167 2 30 (dk_at dksL_law_90 15 rfl rfl)
theorem dL_law_2308 : decode cL_law 2308 = .ok (.aload_n 1, 1) := dk_43 (dk_at dksL_law_90 18 rfl rfl)
theorem dL_law_2309 : decode cL_law 2309 = .ok (.aload_n 0, 1) := dk_42 (dk_at dksL_law_90 19 rfl rfl)
theorem dL_law_2310 : decode cL_law 2310 = .ok (.iload 4, 2) := dk_21 4 (dk_at dksL_law_90 20 rfl rfl)
theorem dL_law_2312 : decode cL_law 2312 = .ok (.iconst 1, 1) := dk_4 (dk_at dksL_law_90 22 rfl rfl)
theorem dL_law_2313 : decode cL_law 2313 = .ok (.iadd, 1) := dk_96 (dk_at dksL_law_90 23 rfl rfl)
theorem dL_law_2314 : decode cL_law 2314 = .ok (.iaload, 1) := dk_46 (dk_at dksL_law_91 0 rfl rfl)
theorem dL_law_2315 : decode cL_law 2315 = .ok (.aload_n 3, 1) := dk_45 (dk_at dksL_law_91 1 rfl rfl)
theorem dL_law_2316 : decode cL_law 2316 = .ok (.invokestatic 267, 3) := dk_184 1 11 (dk_at dksL_law_91 2 rfl rfl)
theorem dL_law_2319 : decode cL_law 2319 = .ok (.istore 5, 2) := dk_54 5 (dk_at dksL_law_91 5 rfl rfl)
theorem dL_law_2321 : decode cL_law 2321 = .ok (.aload_n 2, 1) := dk_44 (dk_at dksL_law_91 7 rfl rfl)
theorem dL_law_2322 : decode cL_law 2322 = .ok (.aload_n 0, 1) := dk_42 (dk_at dksL_law_91 8 rfl rfl)
theorem dL_law_2323 : decode cL_law 2323 = .ok (.iload 4, 2) := dk_21 4 (dk_at dksL_law_91 9 rfl rfl)
theorem dL_law_2325 : decode cL_law 2325 = .ok (.iconst 1, 1) := dk_4 (dk_at dksL_law_91 11 rfl rfl)
theorem dL_law_2326 : decode cL_law 2326 = .ok (.iadd, 1) := dk_96 (dk_at dksL_law_91 12 rfl rfl)
theorem dL_law_2327 : decode cL_law 2327 = .ok (.iaload, 1) := dk_46 (dk_at dksL_law_91 13 rfl rfl)
theorem dL_law_2328 : decode cL_law 2328 = .ok (.invokevirtual 269, 3) := dk_182 1 13 (dk_at dksL_law_91 14 rfl rfl)
theorem dL_law_2331 : decode cL_law 2331 = .ok (.istore 6, 2) := dk_54 6 (dk_at dksL_law_91 17 rfl rfl)
theorem dL_law_2333 : decode cL_law 2333 = .ok (.aload_n 2, 1) := dk_44 (dk_at dksL_law_91 19 rfl rfl)
theorem dL_law_2334 : decode cL_law 2334 = .ok (.invokevirtual 156, 3) := dk_182 0 156 (dk_at dksL_law_91 20 rfl rfl)
theorem dL_law_2337 : decode cL_law 2337 = .ok (.iload 5, 2) := dk_21 5 (dk_at dksL_law_92 0 rfl rfl)
theorem dL_law_2339 : decode cL_law 2339 = .ok (.if_icmp .eq 5, 3) := dk_159 0 5 (dk_at dksL_law_92 2 rfl rfl)
theorem dL_law_2342 : decode cL_law 2342 = .ok (.iconst 0, 1) := dk_3 (dk_at dksL_law_92 5 rfl rfl)
theorem dL_law_2343 : decode cL_law 2343 = .ok (.ireturn, 1) := dk_172 (dk_at dksL_law_92 6 rfl rfl)
theorem dL_law_2344 : decode cL_law 2344 = .ok (.iload 5, 2) := dk_21 5 (dk_at dksL_law_92 7 rfl rfl)
theorem dL_law_2346 : decode cL_law 2346 = .ok (.ifCond .ne 15, 3) := dk_154 0 15 (dk_at dksL_law_92 9 rfl rfl)
theorem dL_law_2349 : decode cL_law 2349 = .ok (.aload_n 3, 1) := dk_45 (dk_at dksL_law_92 12 rfl rfl)
theorem dL_law_2350 : decode cL_law 2350 = .ok (.iconst 0, 1) := dk_3 (dk_at dksL_law_92 13 rfl rfl)
theorem dL_law_2351 : decode cL_law 2351 = .ok (.laload, 1) := dk_47 (dk_at dksL_law_92 14 rfl rfl)
theorem dL_law_2352 : decode cL_law 2352 = .ok (.iload 6, 2) := dk_21 6 (dk_at dksL_law_92 15 rfl rfl)
theorem dL_law_2354 : decode cL_law 2354 = .ok (.i2l, 1) := dk_133 (dk_at dksL_law_92 17 rfl rfl)
theorem dL_law_2355 : decode cL_law 2355 = .ok (.lcmp, 1) := dk_148 (dk_at dksL_law_92 18 rfl rfl)
theorem dL_law_2356 : decode cL_law 2356 = .ok (.ifCond .eq 5, 3) := dk_153 0 5 (dk_at dksL_law_92 19 rfl rfl)
theorem dL_law_2359 : decode cL_law 2359 = .ok (.iconst 0, 1) := dk_3 (dk_at dksL_law_92 22 rfl rfl)
theorem dL_law_2360 : decode cL_law 2360 = .ok (.ireturn, 1) := dk_172 (dk_at dksL_law_92 23 rfl rfl)
theorem dL_law_2361 : decode cL_law 2361 = .ok (.goto 486, 3) := dk_167 1 230 (dk_at dksL_law_93 0 rfl rfl)
theorem dL_law_2364 : decode cL_law 2364 = .ok (.aload_n 1, 1) := dk_43 (dk_at dksL_law_93 3 rfl rfl)
theorem dL_law_2365 : decode cL_law 2365 = .ok (.aload_n 0, 1) := dk_42 (dk_at dksL_law_93 4 rfl rfl)
theorem dL_law_2366 : decode cL_law 2366 = .ok (.iload 4, 2) := dk_21 4 (dk_at dksL_law_93 5 rfl rfl)
theorem dL_law_2368 : decode cL_law 2368 = .ok (.iconst 1, 1) := dk_4 (dk_at dksL_law_93 7 rfl rfl)
theorem dL_law_2369 : decode cL_law 2369 = .ok (.iadd, 1) := dk_96 (dk_at dksL_law_93 8 rfl rfl)
theorem dL_law_2370 : decode cL_law 2370 = .ok (.iaload, 1) := dk_46 (dk_at dksL_law_93 9 rfl rfl)
theorem dL_law_2371 : decode cL_law 2371 = .ok (.aload_n 0, 1) := dk_42 (dk_at dksL_law_93 10 rfl rfl)
theorem dL_law_2372 : decode cL_law 2372 = .ok (.iload 4, 2) := dk_21 4 (dk_at dksL_law_93 11 rfl rfl)
theorem dL_law_2374 : decode cL_law 2374 = .ok (.iconst 2, 1) := dk_5 (dk_at dksL_law_93 13 rfl rfl)
theorem dL_law_2375 : decode cL_law 2375 = .ok (.iadd, 1) := dk_96 (dk_at dksL_law_93 14 rfl rfl)
theorem dL_law_2376 : decode cL_law 2376 = .ok (.iaload, 1) := dk_46 (dk_at dksL_law_93 15 rfl rfl)
theorem dL_law_2377 : decode cL_law 2377 = .ok (.aload_n 3, 1) := dk_45 (dk_at dksL_law_93 16 rfl rfl)
theorem dL_law_2378 : decode cL_law 2378 = .ok (.invokestatic 270, 3) := dk_184 1 14 (dk_at dksL_law_93 17 rfl rfl)
theorem dL_law_2381 : decode cL_law 2381 = .ok (.istore 5, 2) := dk_54 5 (dk_at dksL_law_93 20 rfl rfl)
theorem dL_law_2383 : decode cL_law 2383 = .ok (.aload_n 2, 1) := dk_44 (dk_at dksL_law_93 22 rfl rfl)
theorem dL_law_2384 : decode cL_law 2384 = .ok (.aload_n 0, 1) := dk_42 (dk_at dksL_law_93 23 rfl rfl)
theorem dL_law_2385 : decode cL_law 2385 = .ok (.iload 4, 2) := dk_21 4 (dk_at dksL_law_94 0 rfl rfl)
theorem dL_law_2387 : decode cL_law 2387 = .ok (.iconst 1, 1) := dk_4 (dk_at dksL_law_94 2 rfl rfl)
theorem dL_law_2388 : decode cL_law 2388 = .ok (.iadd, 1) := dk_96 (dk_at dksL_law_94 3 rfl rfl)
theorem dL_law_2389 : decode cL_law 2389 = .ok (.iaload, 1) := dk_46 (dk_at dksL_law_94 4 rfl rfl)
theorem dL_law_2390 : decode cL_law 2390 = .ok (.aload_n 0, 1) := dk_42 (dk_at dksL_law_94 5 rfl rfl)
theorem dL_law_2391 : decode cL_law 2391 = .ok (.iload 4, 2) := dk_21 4 (dk_at dksL_law_94 6 rfl rfl)
theorem dL_law_2393 : decode cL_law 2393 = .ok (.iconst 2, 1) := dk_5 (dk_at dksL_law_94 8 rfl rfl)
theorem dL_law_2394 : decode cL_law 2394 = .ok (.iadd, 1) := dk_96 (dk_at dksL_law_94 9 rfl rfl)
theorem dL_law_2395 : decode cL_law 2395 = .ok (.iaload, 1) := dk_46 (dk_at dksL_law_94 10 rfl rfl)
theorem dL_law_2396 : decode cL_law 2396 = .ok (.invokevirtual 272, 3) := dk_182 1 16 (dk_at dksL_law_94 11 rfl rfl)
theorem dL_law_2399 : decode cL_law 2399 = .ok (.istore 6, 2) := dk_54 6 (dk_at dksL_law_94 14 rfl rfl)
theorem dL_law_2401 : decode cL_law 2401 = .ok (.aload_n 2, 1) := dk_44 (dk_at dksL_law_94 16 rfl rfl)
theorem dL_law_2402 : decode cL_law 2402 = .ok (.invokevirtual 156, 3) := dk_182 0 156 (dk_at dksL_law_94 17 rfl rfl)
theorem dL_law_2405 : decode cL_law 2405 = .ok (.iload 5, 2) := dk_21 5 (dk_at dksL_law_94 20 rfl rfl)
theorem dL_law_2407 : decode cL_law 2407 = .ok (.if_icmp .eq 5, 3) := dk_159 0 5 (dk_at dksL_law_95 0 rfl rfl)
theorem dL_law_2410 : decode cL_law 2410 = .ok (.iconst 0, 1) := dk_3 (dk_at dksL_law_95 3 rfl rfl)
theorem dL_law_2411 : decode cL_law 2411 = .ok (.ireturn, 1) := dk_172 (dk_at dksL_law_95 4 rfl rfl)
theorem dL_law_2412 : decode cL_law 2412 = .ok (.iload 5, 2) := dk_21 5 (dk_at dksL_law_95 5 rfl rfl)
theorem dL_law_2414 : decode cL_law 2414 = .ok (.ifCond .ne 15, 3) := dk_154 0 15 (dk_at dksL_law_95 7 rfl rfl)
theorem dL_law_2417 : decode cL_law 2417 = .ok (.aload_n 3, 1) := dk_45 (dk_at dksL_law_95 10 rfl rfl)
theorem dL_law_2418 : decode cL_law 2418 = .ok (.iconst 0, 1) := dk_3 (dk_at dksL_law_95 11 rfl rfl)
theorem dL_law_2419 : decode cL_law 2419 = .ok (.laload, 1) := dk_47 (dk_at dksL_law_95 12 rfl rfl)
theorem dL_law_2420 : decode cL_law 2420 = .ok (.iload 6, 2) := dk_21 6 (dk_at dksL_law_95 13 rfl rfl)
theorem dL_law_2422 : decode cL_law 2422 = .ok (.i2l, 1) := dk_133 (dk_at dksL_law_95 15 rfl rfl)
theorem dL_law_2423 : decode cL_law 2423 = .ok (.lcmp, 1) := dk_148 (dk_at dksL_law_95 16 rfl rfl)
theorem dL_law_2424 : decode cL_law 2424 = .ok (.ifCond .eq 5, 3) := dk_153 0 5 (dk_at dksL_law_95 17 rfl rfl)
theorem dL_law_2427 : decode cL_law 2427 = .ok (.iconst 0, 1) := dk_3 (dk_at dksL_law_95 20 rfl rfl)
theorem dL_law_2428 : decode cL_law 2428 = .ok (.ireturn, 1) := dk_172 (dk_at dksL_law_95 21 rfl rfl)
theorem dL_law_2429 : decode cL_law 2429 = .ok (.goto 418, 3) := dk_167 1 162 (dk_at dksL_law_96 0 rfl rfl)
theorem dL_law_2432 : decode cL_law 2432 = .ok (.aload_n 1, 1) := dk_43 (dk_at dksL_law_96 3 rfl rfl)
theorem dL_law_2433 : decode cL_law 2433 = .ok (.aload_n 0, 1) := dk_42 (dk_at dksL_law_96 4 rfl rfl)
theorem dL_law_2434 : decode cL_law 2434 = .ok (.iload 4, 2) := dk_21 4 (dk_at dksL_law_96 5 rfl rfl)
theorem dL_law_2436 : decode cL_law 2436 = .ok (.iconst 1, 1) := dk_4 (dk_at dksL_law_96 7 rfl rfl)
theorem dL_law_2437 : decode cL_law 2437 = .ok (.iadd, 1) := dk_96 (dk_at dksL_law_96 8 rfl rfl)
theorem dL_law_2438 : decode cL_law 2438 = .ok (.iaload, 1) := dk_46 (dk_at dksL_law_96 9 rfl rfl)
theorem dL_law_2439 : decode cL_law 2439 = .ok (.aload_n 0, 1) := dk_42 (dk_at dksL_law_96 10 rfl rfl)
theorem dL_law_2440 : decode cL_law 2440 = .ok (.iload 4, 2) := dk_21 4 (dk_at dksL_law_96 11 rfl rfl)
theorem dL_law_2442 : decode cL_law 2442 = .ok (.iconst 2, 1) := dk_5 (dk_at dksL_law_96 13 rfl rfl)
theorem dL_law_2443 : decode cL_law 2443 = .ok (.iadd, 1) := dk_96 (dk_at dksL_law_96 14 rfl rfl)
theorem dL_law_2444 : decode cL_law 2444 = .ok (.iaload, 1) := dk_46 (dk_at dksL_law_96 15 rfl rfl)
theorem dL_law_2445 : decode cL_law 2445 = .ok (.aload_n 3, 1) := dk_45 (dk_at dksL_law_96 16 rfl rfl)
theorem dL_law_2446 : decode cL_law 2446 = .ok (.invokestatic 273, 3) := dk_184 1 17 (dk_at dksL_law_96 17 rfl rfl)
theorem dL_law_2449 : decode cL_law 2449 = .ok (.istore 5, 2) := dk_54 5 (dk_at dksL_law_96 20 rfl rfl)
theorem dL_law_2451 : decode cL_law 2451 = .ok (.aload_n 2, 1) := dk_44 (dk_at dksL_law_96 22 rfl rfl)
theorem dL_law_2452 : decode cL_law 2452 = .ok (.aload_n 0, 1) := dk_42 (dk_at dksL_law_96 23 rfl rfl)
theorem dL_law_2453 : decode cL_law 2453 = .ok (.iload 4, 2) := dk_21 4 (dk_at dksL_law_97 0 rfl rfl)
theorem dL_law_2455 : decode cL_law 2455 = .ok (.iconst 1, 1) := dk_4 (dk_at dksL_law_97 2 rfl rfl)
theorem dL_law_2456 : decode cL_law 2456 = .ok (.iadd, 1) := dk_96 (dk_at dksL_law_97 3 rfl rfl)
theorem dL_law_2457 : decode cL_law 2457 = .ok (.iaload, 1) := dk_46 (dk_at dksL_law_97 4 rfl rfl)
theorem dL_law_2458 : decode cL_law 2458 = .ok (.aload_n 0, 1) := dk_42 (dk_at dksL_law_97 5 rfl rfl)
theorem dL_law_2459 : decode cL_law 2459 = .ok (.iload 4, 2) := dk_21 4 (dk_at dksL_law_97 6 rfl rfl)
theorem dL_law_2461 : decode cL_law 2461 = .ok (.iconst 2, 1) := dk_5 (dk_at dksL_law_97 8 rfl rfl)
theorem dL_law_2462 : decode cL_law 2462 = .ok (.iadd, 1) := dk_96 (dk_at dksL_law_97 9 rfl rfl)
theorem dL_law_2463 : decode cL_law 2463 = .ok (.iaload, 1) := dk_46 (dk_at dksL_law_97 10 rfl rfl)
theorem dL_law_2464 : decode cL_law 2464 = .ok (.invokevirtual 275, 3) := dk_182 1 19 (dk_at dksL_law_97 11 rfl rfl)
theorem dL_law_2467 : decode cL_law 2467 = .ok (.istore 6, 2) := dk_54 6 (dk_at dksL_law_97 14 rfl rfl)
theorem dL_law_2469 : decode cL_law 2469 = .ok (.aload_n 2, 1) := dk_44 (dk_at dksL_law_97 16 rfl rfl)
theorem dL_law_2470 : decode cL_law 2470 = .ok (.invokevirtual 156, 3) := dk_182 0 156 (dk_at dksL_law_97 17 rfl rfl)
theorem dL_law_2473 : decode cL_law 2473 = .ok (.iload 5, 2) := dk_21 5 (dk_at dksL_law_97 20 rfl rfl)
theorem dL_law_2475 : decode cL_law 2475 = .ok (.if_icmp .eq 5, 3) := dk_159 0 5 (dk_at dksL_law_98 0 rfl rfl)
theorem dL_law_2478 : decode cL_law 2478 = .ok (.iconst 0, 1) := dk_3 (dk_at dksL_law_98 3 rfl rfl)
theorem dL_law_2479 : decode cL_law 2479 = .ok (.ireturn, 1) := dk_172 (dk_at dksL_law_98 4 rfl rfl)
theorem dL_law_2480 : decode cL_law 2480 = .ok (.iload 5, 2) := dk_21 5 (dk_at dksL_law_98 5 rfl rfl)
theorem dL_law_2482 : decode cL_law 2482 = .ok (.ifCond .ne 15, 3) := dk_154 0 15 (dk_at dksL_law_98 7 rfl rfl)
theorem dL_law_2485 : decode cL_law 2485 = .ok (.aload_n 3, 1) := dk_45 (dk_at dksL_law_98 10 rfl rfl)
theorem dL_law_2486 : decode cL_law 2486 = .ok (.iconst 0, 1) := dk_3 (dk_at dksL_law_98 11 rfl rfl)
theorem dL_law_2487 : decode cL_law 2487 = .ok (.laload, 1) := dk_47 (dk_at dksL_law_98 12 rfl rfl)
theorem dL_law_2488 : decode cL_law 2488 = .ok (.iload 6, 2) := dk_21 6 (dk_at dksL_law_98 13 rfl rfl)
theorem dL_law_2490 : decode cL_law 2490 = .ok (.i2l, 1) := dk_133 (dk_at dksL_law_98 15 rfl rfl)
theorem dL_law_2491 : decode cL_law 2491 = .ok (.lcmp, 1) := dk_148 (dk_at dksL_law_98 16 rfl rfl)
theorem dL_law_2492 : decode cL_law 2492 = .ok (.ifCond .eq 5, 3) := dk_153 0 5 (dk_at dksL_law_98 17 rfl rfl)
theorem dL_law_2495 : decode cL_law 2495 = .ok (.iconst 0, 1) := dk_3 (dk_at dksL_law_98 20 rfl rfl)
theorem dL_law_2496 : decode cL_law 2496 = .ok (.ireturn, 1) := dk_172 (dk_at dksL_law_98 21 rfl rfl)
theorem dL_law_2497 : decode cL_law 2497 = .ok (.goto 350, 3) := dk_167 1 94 (dk_at dksL_law_99 0 rfl rfl)
theorem dL_law_2500 : decode cL_law 2500 = .ok (.aload_n 1, 1) := dk_43 (dk_at dksL_law_99 3 rfl rfl)
theorem dL_law_2501 : decode cL_law 2501 = .ok (.aload_n 0, 1) := dk_42 (dk_at dksL_law_99 4 rfl rfl)
theorem dL_law_2502 : decode cL_law 2502 = .ok (.iload 4, 2) := dk_21 4 (dk_at dksL_law_99 5 rfl rfl)
theorem dL_law_2504 : decode cL_law 2504 = .ok (.iconst 1, 1) := dk_4 (dk_at dksL_law_99 7 rfl rfl)
theorem dL_law_2505 : decode cL_law 2505 = .ok (.iadd, 1) := dk_96 (dk_at dksL_law_99 8 rfl rfl)
theorem dL_law_2506 : decode cL_law 2506 = .ok (.iaload, 1) := dk_46 (dk_at dksL_law_99 9 rfl rfl)
theorem dL_law_2507 : decode cL_law 2507 = .ok (.aload_n 3, 1) := dk_45 (dk_at dksL_law_99 10 rfl rfl)
theorem dL_law_2508 : decode cL_law 2508 = .ok (.invokestatic 276, 3) := dk_184 1 20 (dk_at dksL_law_99 11 rfl rfl)
theorem dL_law_2511 : decode cL_law 2511 = .ok (.istore 5, 2) := dk_54 5 (dk_at dksL_law_99 14 rfl rfl)
theorem dL_law_2513 : decode cL_law 2513 = .ok (.aload_n 2, 1) := dk_44 (dk_at dksL_law_99 16 rfl rfl)
theorem dL_law_2514 : decode cL_law 2514 = .ok (.aload_n 0, 1) := dk_42 (dk_at dksL_law_99 17 rfl rfl)
theorem dL_law_2515 : decode cL_law 2515 = .ok (.iload 4, 2) := dk_21 4 (dk_at dksL_law_99 18 rfl rfl)
theorem dL_law_2517 : decode cL_law 2517 = .ok (.iconst 1, 1) := dk_4 (dk_at dksL_law_99 20 rfl rfl)
theorem dL_law_2518 : decode cL_law 2518 = .ok (.iadd, 1) := dk_96 (dk_at dksL_law_99 21 rfl rfl)
theorem dL_law_2519 : decode cL_law 2519 = .ok (.iaload, 1) := dk_46 (dk_at dksL_law_99 22 rfl rfl)
theorem dL_law_2520 : decode cL_law 2520 = .ok (.invokevirtual 278, 3) := dk_182 1 22 (dk_at dksL_law_100 0 rfl rfl)
theorem dL_law_2523 : decode cL_law 2523 = .ok (.istore 6, 2) := dk_54 6 (dk_at dksL_law_100 3 rfl rfl)
theorem dL_law_2525 : decode cL_law 2525 = .ok (.aload_n 2, 1) := dk_44 (dk_at dksL_law_100 5 rfl rfl)
theorem dL_law_2526 : decode cL_law 2526 = .ok (.invokevirtual 156, 3) := dk_182 0 156 (dk_at dksL_law_100 6 rfl rfl)
theorem dL_law_2529 : decode cL_law 2529 = .ok (.iload 5, 2) := dk_21 5 (dk_at dksL_law_100 9 rfl rfl)
theorem dL_law_2531 : decode cL_law 2531 = .ok (.if_icmp .eq 5, 3) := dk_159 0 5 (dk_at dksL_law_100 11 rfl rfl)
theorem dL_law_2534 : decode cL_law 2534 = .ok (.iconst 0, 1) := dk_3 (dk_at dksL_law_100 14 rfl rfl)
theorem dL_law_2535 : decode cL_law 2535 = .ok (.ireturn, 1) := dk_172 (dk_at dksL_law_100 15 rfl rfl)
theorem dL_law_2536 : decode cL_law 2536 = .ok (.iload 5, 2) := dk_21 5 (dk_at dksL_law_100 16 rfl rfl)
theorem dL_law_2538 : decode cL_law 2538 = .ok (.ifCond .ne 15, 3) := dk_154 0 15 (dk_at dksL_law_100 18 rfl rfl)
theorem dL_law_2541 : decode cL_law 2541 = .ok (.aload_n 3, 1) := dk_45 (dk_at dksL_law_100 21 rfl rfl)
theorem dL_law_2542 : decode cL_law 2542 = .ok (.iconst 0, 1) := dk_3 (dk_at dksL_law_100 22 rfl rfl)
theorem dL_law_2543 : decode cL_law 2543 = .ok (.laload, 1) := dk_47 (dk_at dksL_law_100 23 rfl rfl)
theorem dL_law_2544 : decode cL_law 2544 = .ok (.iload 6, 2) := dk_21 6 (dk_at dksL_law_101 0 rfl rfl)
theorem dL_law_2546 : decode cL_law 2546 = .ok (.i2l, 1) := dk_133 (dk_at dksL_law_101 2 rfl rfl)
theorem dL_law_2547 : decode cL_law 2547 = .ok (.lcmp, 1) := dk_148 (dk_at dksL_law_101 3 rfl rfl)
theorem dL_law_2548 : decode cL_law 2548 = .ok (.ifCond .eq 5, 3) := dk_153 0 5 (dk_at dksL_law_101 4 rfl rfl)
theorem dL_law_2551 : decode cL_law 2551 = .ok (.iconst 0, 1) := dk_3 (dk_at dksL_law_101 7 rfl rfl)
theorem dL_law_2552 : decode cL_law 2552 = .ok (.ireturn, 1) := dk_172 (dk_at dksL_law_101 8 rfl rfl)
theorem dL_law_2553 : decode cL_law 2553 = .ok (.goto 294, 3) := dk_167 1 38 (dk_at dksL_law_101 9 rfl rfl)
theorem dL_law_2556 : decode cL_law 2556 = .ok (.aload_n 1, 1) := dk_43 (dk_at dksL_law_101 12 rfl rfl)
theorem dL_law_2557 : decode cL_law 2557 = .ok (.aload_n 0, 1) := dk_42 (dk_at dksL_law_101 13 rfl rfl)
theorem dL_law_2558 : decode cL_law 2558 = .ok (.iload 4, 2) := dk_21 4 (dk_at dksL_law_101 14 rfl rfl)
theorem dL_law_2560 : decode cL_law 2560 = .ok (.iconst 1, 1) := dk_4 (dk_at dksL_law_101 16 rfl rfl)
theorem dL_law_2561 : decode cL_law 2561 = .ok (.iadd, 1) := dk_96 (dk_at dksL_law_101 17 rfl rfl)
theorem dL_law_2562 : decode cL_law 2562 = .ok (.iaload, 1) := dk_46 (dk_at dksL_law_101 18 rfl rfl)
theorem dL_law_2563 : decode cL_law 2563 = .ok (.ifCond .eq 7, 3) := dk_153 0 7 (dk_at dksL_law_101 19 rfl rfl)
theorem dL_law_2566 : decode cL_law 2566 = .ok (.iconst 1, 1) := dk_4 (dk_at dksL_law_101 22 rfl rfl)
theorem dL_law_2567 : decode cL_law 2567 = .ok (.goto 4, 3) := dk_167 0 4 (dk_at dksL_law_102 0 rfl rfl)
theorem dL_law_2570 : decode cL_law 2570 = .ok (.iconst 0, 1) := dk_3 (dk_at dksL_law_102 3 rfl rfl)
theorem dL_law_2571 : decode cL_law 2571 = .ok (.invokevirtual 279, 3) := dk_182 1 23 (dk_at dksL_law_102 4 rfl rfl)
theorem dL_law_2574 : decode cL_law 2574 = .ok (.aload_n 2, 1) := dk_44 (dk_at dksL_law_102 7 rfl rfl)
theorem dL_law_2575 : decode cL_law 2575 = .ok (.aload_n 0, 1) := dk_42 (dk_at dksL_law_102 8 rfl rfl)
theorem dL_law_2576 : decode cL_law 2576 = .ok (.iload 4, 2) := dk_21 4 (dk_at dksL_law_102 9 rfl rfl)
theorem dL_law_2578 : decode cL_law 2578 = .ok (.iconst 1, 1) := dk_4 (dk_at dksL_law_102 11 rfl rfl)
theorem dL_law_2579 : decode cL_law 2579 = .ok (.iadd, 1) := dk_96 (dk_at dksL_law_102 12 rfl rfl)
theorem dL_law_2580 : decode cL_law 2580 = .ok (.iaload, 1) := dk_46 (dk_at dksL_law_102 13 rfl rfl)
theorem dL_law_2581 : decode cL_law 2581 = .ok (.ifCond .eq 7, 3) := dk_153 0 7 (dk_at dksL_law_102 14 rfl rfl)
theorem dL_law_2584 : decode cL_law 2584 = .ok (.iconst 1, 1) := dk_4 (dk_at dksL_law_102 17 rfl rfl)
theorem dL_law_2585 : decode cL_law 2585 = .ok (.goto 4, 3) := dk_167 0 4 (dk_at dksL_law_102 18 rfl rfl)
theorem dL_law_2588 : decode cL_law 2588 = .ok (.iconst 0, 1) := dk_3 (dk_at dksL_law_102 21 rfl rfl)
theorem dL_law_2589 : decode cL_law 2589 = .ok (.invokevirtual 283, 3) := dk_182 1 27 (dk_at dksL_law_103 0 rfl rfl)
theorem dL_law_2592 : decode cL_law 2592 = .ok (.if_icmp .eq 255, 3) := dk_159 0 255 (dk_at dksL_law_103 3 rfl rfl)
theorem dL_law_2595 : decode cL_law 2595 = .ok (.iconst 0, 1) := dk_3 (dk_at dksL_law_103 6 rfl rfl)
theorem dL_law_2596 : decode cL_law 2596 = .ok (.ireturn, 1) := dk_172 (dk_at dksL_law_103 7 rfl rfl)
theorem dL_law_2597 : decode cL_law 2597 = .ok (.aload_n 1, 1) := dk_43 (dk_at dksL_law_103 8 rfl rfl)
theorem dL_law_2598 : decode cL_law 2598 = .ok (.aload_n 3, 1) := dk_45 (dk_at dksL_law_103 9 rfl rfl)
theorem dL_law_2599 : decode cL_law 2599 = .ok (.invokestatic 284, 3) := dk_184 1 28 (dk_at dksL_law_103 10 rfl rfl)
theorem dL_law_2602 : decode cL_law 2602 = .ok (.istore 5, 2) := dk_54 5 (dk_at dksL_law_103 13 rfl rfl)
theorem dL_law_2604 : decode cL_law 2604 = .ok (.aload_n 2, 1) := dk_44 (dk_at dksL_law_103 15 rfl rfl)
theorem dL_law_2605 : decode cL_law 2605 = .ok (.invokevirtual 287, 3) := dk_182 1 31 (dk_at dksL_law_103 16 rfl rfl)
theorem dL_law_2608 : decode cL_law 2608 = .ok (.istore 6, 2) := dk_54 6 (dk_at dksL_law_103 19 rfl rfl)
theorem dL_law_2610 : decode cL_law 2610 = .ok (.aload_n 2, 1) := dk_44 (dk_at dksL_law_103 21 rfl rfl)
theorem dL_law_2611 : decode cL_law 2611 = .ok (.invokevirtual 156, 3) := dk_182 0 156 (dk_at dksL_law_104 0 rfl rfl)
theorem dL_law_2614 : decode cL_law 2614 = .ok (.iload 5, 2) := dk_21 5 (dk_at dksL_law_104 3 rfl rfl)
theorem dL_law_2616 : decode cL_law 2616 = .ok (.if_icmp .eq 5, 3) := dk_159 0 5 (dk_at dksL_law_104 5 rfl rfl)
theorem dL_law_2619 : decode cL_law 2619 = .ok (.iconst 0, 1) := dk_3 (dk_at dksL_law_104 8 rfl rfl)
theorem dL_law_2620 : decode cL_law 2620 = .ok (.ireturn, 1) := dk_172 (dk_at dksL_law_104 9 rfl rfl)
theorem dL_law_2621 : decode cL_law 2621 = .ok (.iload 5, 2) := dk_21 5 (dk_at dksL_law_104 10 rfl rfl)
theorem dL_law_2623 : decode cL_law 2623 = .ok (.ifCond .ne 15, 3) := dk_154 0 15 (dk_at dksL_law_104 12 rfl rfl)
theorem dL_law_2626 : decode cL_law 2626 = .ok (.aload_n 3, 1) := dk_45 (dk_at dksL_law_104 15 rfl rfl)
theorem dL_law_2627 : decode cL_law 2627 = .ok (.iconst 0, 1) := dk_3 (dk_at dksL_law_104 16 rfl rfl)
theorem dL_law_2628 : decode cL_law 2628 = .ok (.laload, 1) := dk_47 (dk_at dksL_law_104 17 rfl rfl)
theorem dL_law_2629 : decode cL_law 2629 = .ok (.iload 6, 2) := dk_21 6 (dk_at dksL_law_104 18 rfl rfl)
theorem dL_law_2631 : decode cL_law 2631 = .ok (.i2l, 1) := dk_133 (dk_at dksL_law_104 20 rfl rfl)
theorem dL_law_2632 : decode cL_law 2632 = .ok (.lcmp, 1) := dk_148 (dk_at dksL_law_104 21 rfl rfl)
theorem dL_law_2633 : decode cL_law 2633 = .ok (.ifCond .eq 5, 3) := dk_153 0 5 (dk_at dksL_law_105 0 rfl rfl)
theorem dL_law_2636 : decode cL_law 2636 = .ok (.iconst 0, 1) := dk_3 (dk_at dksL_law_105 3 rfl rfl)
theorem dL_law_2637 : decode cL_law 2637 = .ok (.ireturn, 1) := dk_172 (dk_at dksL_law_105 4 rfl rfl)
theorem dL_law_2638 : decode cL_law 2638 = .ok (.goto 209, 3) := dk_167 0 209 (dk_at dksL_law_105 5 rfl rfl)
theorem dL_law_2641 : decode cL_law 2641 = .ok (.aload_n 1, 1) := dk_43 (dk_at dksL_law_105 8 rfl rfl)
theorem dL_law_2642 : decode cL_law 2642 = .ok (.aload_n 0, 1) := dk_42 (dk_at dksL_law_105 9 rfl rfl)
theorem dL_law_2643 : decode cL_law 2643 = .ok (.iload 4, 2) := dk_21 4 (dk_at dksL_law_105 10 rfl rfl)
theorem dL_law_2645 : decode cL_law 2645 = .ok (.iconst 1, 1) := dk_4 (dk_at dksL_law_105 12 rfl rfl)
theorem dL_law_2646 : decode cL_law 2646 = .ok (.iadd, 1) := dk_96 (dk_at dksL_law_105 13 rfl rfl)
theorem dL_law_2647 : decode cL_law 2647 = .ok (.iaload, 1) := dk_46 (dk_at dksL_law_105 14 rfl rfl)
theorem dL_law_2648 : decode cL_law 2648 = .ok (.aload_n 3, 1) := dk_45 (dk_at dksL_law_105 15 rfl rfl)
theorem dL_law_2649 : decode cL_law 2649 = .ok (.invokestatic 288, 3) := dk_184 1 32 (dk_at dksL_law_105 16 rfl rfl)
theorem dL_law_2652 : decode cL_law 2652 = .ok (.istore 5, 2) := dk_54 5 (dk_at dksL_law_105 19 rfl rfl)
theorem dL_law_2654 : decode cL_law 2654 = .ok (.aload_n 2, 1) := dk_44 (dk_at dksL_law_105 21 rfl rfl)
theorem dL_law_2655 : decode cL_law 2655 = .ok (.aload_n 0, 1) := dk_42 (dk_at dksL_law_105 22 rfl rfl)
theorem dL_law_2656 : decode cL_law 2656 = .ok (.iload 4, 2) := dk_21 4 (dk_at dksL_law_106 0 rfl rfl)
theorem dL_law_2658 : decode cL_law 2658 = .ok (.iconst 1, 1) := dk_4 (dk_at dksL_law_106 2 rfl rfl)
theorem dL_law_2659 : decode cL_law 2659 = .ok (.iadd, 1) := dk_96 (dk_at dksL_law_106 3 rfl rfl)
theorem dL_law_2660 : decode cL_law 2660 = .ok (.iaload, 1) := dk_46 (dk_at dksL_law_106 4 rfl rfl)
theorem dL_law_2661 : decode cL_law 2661 = .ok (.invokevirtual 290, 3) := dk_182 1 34 (dk_at dksL_law_106 5 rfl rfl)
theorem dL_law_2664 : decode cL_law 2664 = .ok (.istore 6, 2) := dk_54 6 (dk_at dksL_law_106 8 rfl rfl)
theorem dL_law_2666 : decode cL_law 2666 = .ok (.aload_n 2, 1) := dk_44 (dk_at dksL_law_106 10 rfl rfl)
theorem dL_law_2667 : decode cL_law 2667 = .ok (.invokevirtual 156, 3) := dk_182 0 156 (dk_at dksL_law_106 11 rfl rfl)
theorem dL_law_2670 : decode cL_law 2670 = .ok (.iload 5, 2) := dk_21 5 (dk_at dksL_law_106 14 rfl rfl)
theorem dL_law_2672 : decode cL_law 2672 = .ok (.if_icmp .eq 5, 3) := dk_159 0 5 (dk_at dksL_law_106 16 rfl rfl)
theorem dL_law_2675 : decode cL_law 2675 = .ok (.iconst 0, 1) := dk_3 (dk_at dksL_law_106 19 rfl rfl)
theorem dL_law_2676 : decode cL_law 2676 = .ok (.ireturn, 1) := dk_172 (dk_at dksL_law_106 20 rfl rfl)
theorem dL_law_2677 : decode cL_law 2677 = .ok (.iload 5, 2) := dk_21 5 (dk_at dksL_law_106 21 rfl rfl)
theorem dL_law_2679 : decode cL_law 2679 = .ok (.ifCond .ne 15, 3) := dk_154 0 15 (dk_at dksL_law_107 0 rfl rfl)
theorem dL_law_2682 : decode cL_law 2682 = .ok (.aload_n 3, 1) := dk_45 (dk_at dksL_law_107 3 rfl rfl)
theorem dL_law_2683 : decode cL_law 2683 = .ok (.iconst 0, 1) := dk_3 (dk_at dksL_law_107 4 rfl rfl)
theorem dL_law_2684 : decode cL_law 2684 = .ok (.laload, 1) := dk_47 (dk_at dksL_law_107 5 rfl rfl)
theorem dL_law_2685 : decode cL_law 2685 = .ok (.iload 6, 2) := dk_21 6 (dk_at dksL_law_107 6 rfl rfl)
theorem dL_law_2687 : decode cL_law 2687 = .ok (.i2l, 1) := dk_133 (dk_at dksL_law_107 8 rfl rfl)
theorem dL_law_2688 : decode cL_law 2688 = .ok (.lcmp, 1) := dk_148 (dk_at dksL_law_107 9 rfl rfl)
theorem dL_law_2689 : decode cL_law 2689 = .ok (.ifCond .eq 5, 3) := dk_153 0 5 (dk_at dksL_law_107 10 rfl rfl)
theorem dL_law_2692 : decode cL_law 2692 = .ok (.iconst 0, 1) := dk_3 (dk_at dksL_law_107 13 rfl rfl)
theorem dL_law_2693 : decode cL_law 2693 = .ok (.ireturn, 1) := dk_172 (dk_at dksL_law_107 14 rfl rfl)
theorem dL_law_2694 : decode cL_law 2694 = .ok (.goto 153, 3) := dk_167 0 153 (dk_at dksL_law_107 15 rfl rfl)
theorem dL_law_2697 : decode cL_law 2697 = .ok (.aload_n 1, 1) := dk_43 (dk_at dksL_law_107 18 rfl rfl)
theorem dL_law_2698 : decode cL_law 2698 = .ok (.aload_n 0, 1) := dk_42 (dk_at dksL_law_107 19 rfl rfl)
theorem dL_law_2699 : decode cL_law 2699 = .ok (.iload 4, 2) := dk_21 4 (dk_at dksL_law_107 20 rfl rfl)
theorem dL_law_2701 : decode cL_law 2701 = .ok (.iconst 1, 1) := dk_4 (dk_at dksL_law_107 22 rfl rfl)
theorem dL_law_2702 : decode cL_law 2702 = .ok (.iadd, 1) := dk_96 (dk_at dksL_law_107 23 rfl rfl)
theorem dL_law_2703 : decode cL_law 2703 = .ok (.iaload, 1) := dk_46 (dk_at dksL_law_108 0 rfl rfl)
theorem dL_law_2704 : decode cL_law 2704 = .ok (.aload_n 0, 1) := dk_42 (dk_at dksL_law_108 1 rfl rfl)
theorem dL_law_2705 : decode cL_law 2705 = .ok (.iload 4, 2) := dk_21 4 (dk_at dksL_law_108 2 rfl rfl)
theorem dL_law_2707 : decode cL_law 2707 = .ok (.iconst 2, 1) := dk_5 (dk_at dksL_law_108 4 rfl rfl)
theorem dL_law_2708 : decode cL_law 2708 = .ok (.iadd, 1) := dk_96 (dk_at dksL_law_108 5 rfl rfl)
theorem dL_law_2709 : decode cL_law 2709 = .ok (.iaload, 1) := dk_46 (dk_at dksL_law_108 6 rfl rfl)
theorem dL_law_2710 : decode cL_law 2710 = .ok (.aload_n 3, 1) := dk_45 (dk_at dksL_law_108 7 rfl rfl)
theorem dL_law_2711 : decode cL_law 2711 = .ok (.invokestatic 291, 3) := dk_184 1 35 (dk_at dksL_law_108 8 rfl rfl)
theorem dL_law_2714 : decode cL_law 2714 = .ok (.istore 5, 2) := dk_54 5 (dk_at dksL_law_108 11 rfl rfl)
theorem dL_law_2716 : decode cL_law 2716 = .ok (.aload_n 2, 1) := dk_44 (dk_at dksL_law_108 13 rfl rfl)
theorem dL_law_2717 : decode cL_law 2717 = .ok (.aload_n 0, 1) := dk_42 (dk_at dksL_law_108 14 rfl rfl)
theorem dL_law_2718 : decode cL_law 2718 = .ok (.iload 4, 2) := dk_21 4 (dk_at dksL_law_108 15 rfl rfl)
theorem dL_law_2720 : decode cL_law 2720 = .ok (.iconst 1, 1) := dk_4 (dk_at dksL_law_108 17 rfl rfl)
theorem dL_law_2721 : decode cL_law 2721 = .ok (.iadd, 1) := dk_96 (dk_at dksL_law_108 18 rfl rfl)
theorem dL_law_2722 : decode cL_law 2722 = .ok (.iaload, 1) := dk_46 (dk_at dksL_law_108 19 rfl rfl)
theorem dL_law_2723 : decode cL_law 2723 = .ok (.aload_n 0, 1) := dk_42 (dk_at dksL_law_108 20 rfl rfl)
theorem dL_law_2724 : decode cL_law 2724 = .ok (.iload 4, 2) := dk_21 4 (dk_at dksL_law_108 21 rfl rfl)
theorem dL_law_2726 : decode cL_law 2726 = .ok (.iconst 2, 1) := dk_5 (dk_at dksL_law_108 23 rfl rfl)
theorem dL_law_2727 : decode cL_law 2727 = .ok (.iadd, 1) := dk_96 (dk_at dksL_law_109 0 rfl rfl)
theorem dL_law_2728 : decode cL_law 2728 = .ok (.iaload, 1) := dk_46 (dk_at dksL_law_109 1 rfl rfl)
theorem dL_law_2729 : decode cL_law 2729 = .ok (.invokevirtual 293, 3) := dk_182 1 37 (dk_at dksL_law_109 2 rfl rfl)
theorem dL_law_2732 : decode cL_law 2732 = .ok (.istore 6, 2) := dk_54 6 (dk_at dksL_law_109 5 rfl rfl)
theorem dL_law_2734 : decode cL_law 2734 = .ok (.aload_n 2, 1) := dk_44 (dk_at dksL_law_109 7 rfl rfl)
theorem dL_law_2735 : decode cL_law 2735 = .ok (.invokevirtual 156, 3) := dk_182 0 156 (dk_at dksL_law_109 8 rfl rfl)
theorem dL_law_2738 : decode cL_law 2738 = .ok (.iload 5, 2) := dk_21 5 (dk_at dksL_law_109 11 rfl rfl)
theorem dL_law_2740 : decode cL_law 2740 = .ok (.if_icmp .eq 5, 3) := dk_159 0 5 (dk_at dksL_law_109 13 rfl rfl)
theorem dL_law_2743 : decode cL_law 2743 = .ok (.iconst 0, 1) := dk_3 (dk_at dksL_law_109 16 rfl rfl)
theorem dL_law_2744 : decode cL_law 2744 = .ok (.ireturn, 1) := dk_172 (dk_at dksL_law_109 17 rfl rfl)
theorem dL_law_2745 : decode cL_law 2745 = .ok (.iload 5, 2) := dk_21 5 (dk_at dksL_law_109 18 rfl rfl)
theorem dL_law_2747 : decode cL_law 2747 = .ok (.ifCond .ne 15, 3) := dk_154 0 15 (dk_at dksL_law_109 20 rfl rfl)
theorem dL_law_2750 : decode cL_law 2750 = .ok (.aload_n 3, 1) := dk_45 (dk_at dksL_law_109 23 rfl rfl)
theorem dL_law_2751 : decode cL_law 2751 = .ok (.iconst 0, 1) := dk_3 (dk_at dksL_law_110 0 rfl rfl)
theorem dL_law_2752 : decode cL_law 2752 = .ok (.laload, 1) := dk_47 (dk_at dksL_law_110 1 rfl rfl)
theorem dL_law_2753 : decode cL_law 2753 = .ok (.iload 6, 2) := dk_21 6 (dk_at dksL_law_110 2 rfl rfl)
theorem dL_law_2755 : decode cL_law 2755 = .ok (.i2l, 1) := dk_133 (dk_at dksL_law_110 4 rfl rfl)
theorem dL_law_2756 : decode cL_law 2756 = .ok (.lcmp, 1) := dk_148 (dk_at dksL_law_110 5 rfl rfl)
theorem dL_law_2757 : decode cL_law 2757 = .ok (.ifCond .eq 5, 3) := dk_153 0 5 (dk_at dksL_law_110 6 rfl rfl)
theorem dL_law_2760 : decode cL_law 2760 = .ok (.iconst 0, 1) := dk_3 (dk_at dksL_law_110 9 rfl rfl)
theorem dL_law_2761 : decode cL_law 2761 = .ok (.ireturn, 1) := dk_172 (dk_at dksL_law_110 10 rfl rfl)
theorem dL_law_2762 : decode cL_law 2762 = .ok (.goto 85, 3) := dk_167 0 85 (dk_at dksL_law_110 11 rfl rfl)
theorem dL_law_2765 : decode cL_law 2765 = .ok (.aload_n 1, 1) := dk_43 (dk_at dksL_law_110 14 rfl rfl)
theorem dL_law_2766 : decode cL_law 2766 = .ok (.aload_n 0, 1) := dk_42 (dk_at dksL_law_110 15 rfl rfl)
theorem dL_law_2767 : decode cL_law 2767 = .ok (.iload 4, 2) := dk_21 4 (dk_at dksL_law_110 16 rfl rfl)
theorem dL_law_2769 : decode cL_law 2769 = .ok (.iconst 1, 1) := dk_4 (dk_at dksL_law_110 18 rfl rfl)
theorem dL_law_2770 : decode cL_law 2770 = .ok (.iadd, 1) := dk_96 (dk_at dksL_law_110 19 rfl rfl)
theorem dL_law_2771 : decode cL_law 2771 = .ok (.iaload, 1) := dk_46 (dk_at dksL_law_110 20 rfl rfl)
theorem dL_law_2772 : decode cL_law 2772 = .ok (.invokevirtual 294, 3) := dk_182 1 38 (dk_at dksL_law_110 21 rfl rfl)
theorem dL_law_2775 : decode cL_law 2775 = .ok (.aload_n 2, 1) := dk_44 (dk_at dksL_law_111 0 rfl rfl)
theorem dL_law_2776 : decode cL_law 2776 = .ok (.aload_n 0, 1) := dk_42 (dk_at dksL_law_111 1 rfl rfl)
theorem dL_law_2777 : decode cL_law 2777 = .ok (.iload 4, 2) := dk_21 4 (dk_at dksL_law_111 2 rfl rfl)
theorem dL_law_2779 : decode cL_law 2779 = .ok (.iconst 1, 1) := dk_4 (dk_at dksL_law_111 4 rfl rfl)
theorem dL_law_2780 : decode cL_law 2780 = .ok (.iadd, 1) := dk_96 (dk_at dksL_law_111 5 rfl rfl)
theorem dL_law_2781 : decode cL_law 2781 = .ok (.iaload, 1) := dk_46 (dk_at dksL_law_111 6 rfl rfl)
theorem dL_law_2782 : decode cL_law 2782 = .ok (.invokevirtual 297, 3) := dk_182 1 41 (dk_at dksL_law_111 7 rfl rfl)
theorem dL_law_2785 : decode cL_law 2785 = .ok (.if_icmp .eq 62, 3) := dk_159 0 62 (dk_at dksL_law_111 10 rfl rfl)
theorem dL_law_2788 : decode cL_law 2788 = .ok (.iconst 0, 1) := dk_3 (dk_at dksL_law_111 13 rfl rfl)
theorem dL_law_2789 : decode cL_law 2789 = .ok (.ireturn, 1) := dk_172 (dk_at dksL_law_111 14 rfl rfl)
theorem dL_law_2790 : decode cL_law 2790 = .ok (.aload_n 1, 1) := dk_43 (dk_at dksL_law_111 15 rfl rfl)
theorem dL_law_2791 : decode cL_law 2791 = .ok (.invokevirtual 298, 3) := dk_182 1 42 (dk_at dksL_law_111 16 rfl rfl)
theorem dL_law_2794 : decode cL_law 2794 = .ok (.aload_n 2, 1) := dk_44 (dk_at dksL_law_111 19 rfl rfl)
theorem dL_law_2795 : decode cL_law 2795 = .ok (.invokevirtual 301, 3) := dk_182 1 45 (dk_at dksL_law_111 20 rfl rfl)
theorem dL_law_2798 : decode cL_law 2798 = .ok (.if_icmp .eq 49, 3) := dk_159 0 49 (dk_at dksL_law_112 0 rfl rfl)
theorem dL_law_2801 : decode cL_law 2801 = .ok (.iconst 0, 1) := dk_3 (dk_at dksL_law_112 3 rfl rfl)
theorem dL_law_2802 : decode cL_law 2802 = .ok (.ireturn, 1) := dk_172 (dk_at dksL_law_112 4 rfl rfl)
theorem dL_law_2803 : decode cL_law 2803 = .ok (.aload_n 1, 1) := dk_43 (dk_at dksL_law_112 5 rfl rfl)
theorem dL_law_2804 : decode cL_law 2804 = .ok (.aload_n 3, 1) := dk_45 (dk_at dksL_law_112 6 rfl rfl)
theorem dL_law_2805 : decode cL_law 2805 = .ok (.invokestatic 302, 3) := dk_184 1 46 (dk_at dksL_law_112 7 rfl rfl)
theorem dL_law_2808 : decode cL_law 2808 = .ok (.istore 5, 2) := dk_54 5 (dk_at dksL_law_112 10 rfl rfl)
theorem dL_law_2810 : decode cL_law 2810 = .ok (.aload_n 2, 1) := dk_44 (dk_at dksL_law_112 12 rfl rfl)
theorem dL_law_2811 : decode cL_law 2811 = .ok (.invokevirtual 304, 3) := dk_182 1 48 (dk_at dksL_law_112 13 rfl rfl)
theorem dL_law_2814 : decode cL_law 2814 = .ok (.istore 6, 2) := dk_54 6 (dk_at dksL_law_112 16 rfl rfl)
theorem dL_law_2816 : decode cL_law 2816 = .ok (.aload_n 2, 1) := dk_44 (dk_at dksL_law_112 18 rfl rfl)
theorem dL_law_2817 : decode cL_law 2817 = .ok (.invokevirtual 156, 3) := dk_182 0 156 (dk_at dksL_law_112 19 rfl rfl)
theorem dL_law_2820 : decode cL_law 2820 = .ok (.iload 5, 2) := dk_21 5 (dk_at dksL_law_112 22 rfl rfl)
theorem dL_law_2822 : decode cL_law 2822 = .ok (.if_icmp .eq 5, 3) := dk_159 0 5 (dk_at dksL_law_113 0 rfl rfl)
theorem dL_law_2825 : decode cL_law 2825 = .ok (.iconst 0, 1) := dk_3 (dk_at dksL_law_113 3 rfl rfl)
theorem dL_law_2826 : decode cL_law 2826 = .ok (.ireturn, 1) := dk_172 (dk_at dksL_law_113 4 rfl rfl)
theorem dL_law_2827 : decode cL_law 2827 = .ok (.iload 5, 2) := dk_21 5 (dk_at dksL_law_113 5 rfl rfl)
theorem dL_law_2829 : decode cL_law 2829 = .ok (.ifCond .ne 15, 3) := dk_154 0 15 (dk_at dksL_law_113 7 rfl rfl)
theorem dL_law_2832 : decode cL_law 2832 = .ok (.aload_n 3, 1) := dk_45 (dk_at dksL_law_113 10 rfl rfl)
theorem dL_law_2833 : decode cL_law 2833 = .ok (.iconst 0, 1) := dk_3 (dk_at dksL_law_113 11 rfl rfl)
theorem dL_law_2834 : decode cL_law 2834 = .ok (.laload, 1) := dk_47 (dk_at dksL_law_113 12 rfl rfl)
theorem dL_law_2835 : decode cL_law 2835 = .ok (.iload 6, 2) := dk_21 6 (dk_at dksL_law_113 13 rfl rfl)
theorem dL_law_2837 : decode cL_law 2837 = .ok (.i2l, 1) := dk_133 (dk_at dksL_law_113 15 rfl rfl)
theorem dL_law_2838 : decode cL_law 2838 = .ok (.lcmp, 1) := dk_148 (dk_at dksL_law_113 16 rfl rfl)
theorem dL_law_2839 : decode cL_law 2839 = .ok (.ifCond .eq 5, 3) := dk_153 0 5 (dk_at dksL_law_113 17 rfl rfl)
theorem dL_law_2842 : decode cL_law 2842 = .ok (.iconst 0, 1) := dk_3 (dk_at dksL_law_113 20 rfl rfl)
theorem dL_law_2843 : decode cL_law 2843 = .ok (.ireturn, 1) := dk_172 (dk_at dksL_law_113 21 rfl rfl)
theorem dL_law_2844 : decode cL_law 2844 = .ok (.goto 3, 3) := dk_167 0 3 (dk_at dksL_law_114 0 rfl rfl)
theorem dL_law_2847 : decode cL_law 2847 = .ok (.iinc 4 7, 3) := dk_132 4 7 (dk_at dksL_law_114 3 rfl rfl)
theorem dL_law_2850 : decode cL_law 2850 = .ok (.goto (-2827), 3) := dk_167 244 245 (dk_at dksL_law_114 6 rfl rfl)
theorem dL_law_2853 : decode cL_law 2853 = .ok (.iconst 1, 1) := dk_4 (dk_at dksL_law_114 9 rfl rfl)
theorem dL_law_2854 : decode cL_law 2854 = .ok (.ireturn, 1) := dk_172 (dk_at dksL_law_114 10 rfl rfl)

theorem q2481 : (Jvm.Cond.interfaceMethod "CountyGazetteer$CellAsker" "CountyGazetteer$CellAsker" "is" "(I)Z") ∈ lw_tbl := lw_at lw_m10 145 rfl
set_option maxRecDepth 100000
theorem q2482 : (Jvm.Cond.declares ({ cls := "CountyGazetteer$CellAsker", name := "is", desc := "(I)Z" } : Jvm.MethodName)) ∈ lw_tbl := lw_at lw_m10 146 rfl

theorem q1907 : (Jvm.Cond.interfaceMethod "CountyGazetteer$VillageAsker" "CountyGazetteer$VillageAsker" "is" "(LCountyGazetteer$Village;)Z") ∈ lw_tbl := lw_at lw_m8 51 rfl
set_option maxRecDepth 100000
theorem q1908 : (Jvm.Cond.declares ({ cls := "CountyGazetteer$VillageAsker", name := "is", desc := "(LCountyGazetteer$Village;)Z" } : Jvm.MethodName)) ∈ lw_tbl := lw_at lw_m8 52 rfl

theorem q702 : (Jvm.Cond.sameMethod "[B" "java/lang/Object" "clone" "()Ljava/lang/Object;") ∈ lw_all := lw_g (lw_at lw_m3 46 rfl) rfl
set_option maxRecDepth 100000
theorem q705 : (Jvm.Cond.selects "[B" ({ cls := "[B", name := "clone", desc := "()Ljava/lang/Object;" } : Jvm.MethodName) ({ cls := "java/lang/Object", name := "clone", desc := "()Ljava/lang/Object;" } : Jvm.MethodName)) ∈ lw_all := lw_g (lw_at lw_m3 49 rfl) rfl
theorem q706 : (Jvm.Cond.castable "[B" "java/lang/Cloneable") ∈ lw_tbl := lw_at lw_m3 50 rfl
theorem q4526 : (Jvm.Cond.castable "[B" "java/lang/Object") ∈ lw_tbl := lw_at lw_m19 30 rfl

theorem q4528 : (Jvm.Cond.castable "[I" "java/lang/Object") ∈ lw_tbl := lw_at lw_m19 32 rfl
set_option maxRecDepth 100000

theorem q1153 : (Jvm.Cond.sameMethod "[J" "java/lang/Object" "clone" "()Ljava/lang/Object;") ∈ lw_all := lw_g (lw_at lw_m5 17 rfl) rfl
set_option maxRecDepth 100000
theorem q1154 : (Jvm.Cond.selects "[J" ({ cls := "[J", name := "clone", desc := "()Ljava/lang/Object;" } : Jvm.MethodName) ({ cls := "java/lang/Object", name := "clone", desc := "()Ljava/lang/Object;" } : Jvm.MethodName)) ∈ lw_all := lw_g (lw_at lw_m5 18 rfl) rfl
theorem q1155 : (Jvm.Cond.castable "[J" "java/lang/Cloneable") ∈ lw_tbl := lw_at lw_m5 19 rfl
theorem q4529 : (Jvm.Cond.castable "[J" "java/lang/Object") ∈ lw_tbl := lw_at lw_m19 33 rfl

theorem q4530 : (Jvm.Cond.castable "[LCountyGazetteer$Block;" "java/lang/Object") ∈ lw_tbl := lw_at lw_m19 34 rfl
set_option maxRecDepth 100000

theorem q4523 : (Jvm.Cond.sameMethod "[Ljava/lang/Object;" "java/lang/Object" "getClass" "()Ljava/lang/Class;") ∈ lw_all := lw_g (lw_at lw_m19 27 rfl) rfl
set_option maxRecDepth 100000
theorem q4524 : (Jvm.Cond.selects "[Ljava/lang/Object;" ({ cls := "java/lang/Object", name := "getClass", desc := "()Ljava/lang/Class;" } : Jvm.MethodName) ({ cls := "java/lang/Object", name := "getClass", desc := "()Ljava/lang/Class;" } : Jvm.MethodName)) ∈ lw_all := lw_g (lw_at lw_m19 28 rfl) rfl
theorem q4527 : (Jvm.Cond.castable "[Ljava/lang/Object;" "java/lang/Object") ∈ lw_tbl := lw_at lw_m19 31 rfl

theorem q4531 : (Jvm.Cond.castable "[Z" "java/lang/Object") ∈ lw_tbl := lw_at lw_m19 35 rfl
set_option maxRecDepth 100000

theorem q1268 : (Jvm.Cond.interfaceMethod "java/lang/CharSequence" "java/lang/CharSequence" "length" "()I") ∈ lw_tbl := lw_at lw_m5 132 rfl
set_option maxRecDepth 100000
theorem q1269 : (Jvm.Cond.declares ({ cls := "java/lang/CharSequence", name := "length", desc := "()I" } : Jvm.MethodName)) ∈ lw_tbl := lw_at lw_m5 133 rfl
theorem q1280 : (Jvm.Cond.interfaceMethod "java/lang/CharSequence" "java/lang/CharSequence" "charAt" "(I)C") ∈ lw_tbl := lw_at lw_m5 144 rfl
theorem q1281 : (Jvm.Cond.declares ({ cls := "java/lang/CharSequence", name := "charAt", desc := "(I)C" } : Jvm.MethodName)) ∈ lw_tbl := lw_at lw_m5 145 rfl

theorem q1499 : (Jvm.Cond.interfaceMethod "java/lang/Comparable" "java/lang/Comparable" "compareTo" "(Ljava/lang/Object;)I") ∈ lw_tbl := lw_at lw_m6 123 rfl
set_option maxRecDepth 100000
theorem q1500 : (Jvm.Cond.declares ({ cls := "java/lang/Comparable", name := "compareTo", desc := "(Ljava/lang/Object;)I" } : Jvm.MethodName)) ∈ lw_tbl := lw_at lw_m6 124 rfl

theorem q214 : (Jvm.Cond.initialized "java/lang/Integer$IntegerCache") ∈ lw_all := lw_g (lw_at lw_m1 38 rfl) rfl
set_option maxRecDepth 100000
theorem q1464 : (Jvm.Cond.laysStatic "java/lang/Integer$IntegerCache" "high" "I") ∈ lw_tbl := lw_at lw_m6 88 rfl
theorem q1466 : (Jvm.Cond.laysStatic "java/lang/Integer$IntegerCache" "cache" "[Ljava/lang/Integer;") ∈ lw_tbl := lw_at lw_m6 90 rfl

theorem q186 : (Jvm.Cond.initialized "java/lang/System") ∈ lw_all := lw_g (lw_at lw_m1 10 rfl) rfl
set_option maxRecDepth 100000
theorem q455 : (Jvm.Cond.static ({ cls := "java/lang/System", name := "arraycopy", desc := "(Ljava/lang/Object;ILjava/lang/Object;II)V" } : Jvm.MethodName)) ∈ lw_all := lw_g (lw_at lw_m2 39 rfl) rfl
theorem q456 : (Jvm.Cond.native ({ cls := "java/lang/System", name := "arraycopy", desc := "(Ljava/lang/Object;ILjava/lang/Object;II)V" } : Jvm.MethodName)) ∈ lw_all := lw_g (lw_at lw_m2 40 rfl) rfl

theorem q221 : (Jvm.Cond.initialized "java/util/AbstractList$ListItr") ∈ lw_all := lw_g (lw_at lw_m1 45 rfl) rfl
set_option maxRecDepth 100000
theorem q425 : (Jvm.Cond.selects "java/util/AbstractList$ListItr" ({ cls := "java/lang/Object", name := "getClass", desc := "()Ljava/lang/Class;" } : Jvm.MethodName) ({ cls := "java/lang/Object", name := "getClass", desc := "()Ljava/lang/Class;" } : Jvm.MethodName)) ∈ lw_all := lw_g (lw_at lw_m2 9 rfl) rfl
theorem q2180 : (Jvm.Cond.castable "java/util/AbstractList$ListItr" "java/util/Iterator") ∈ lw_tbl := lw_at lw_m9 84 rfl
theorem q2181 : (Jvm.Cond.selects "java/util/AbstractList$ListItr" ({ cls := "java/util/Iterator", name := "hasNext", desc := "()Z" } : Jvm.MethodName) ({ cls := "java/util/AbstractList$Itr", name := "hasNext", desc := "()Z" } : Jvm.MethodName)) ∈ lw_all := lw_g (lw_at lw_m9 85 rfl) rfl
theorem q2182 : (Jvm.Cond.unhidden "java/util/AbstractList$ListItr" "hasNext" "()Z") ∈ lw_tbl := lw_at lw_m9 86 rfl
theorem q2218 : (Jvm.Cond.selects "java/util/AbstractList$ListItr" ({ cls := "java/util/Iterator", name := "next", desc := "()Ljava/lang/Object;" } : Jvm.MethodName) ({ cls := "java/util/AbstractList$Itr", name := "next", desc := "()Ljava/lang/Object;" } : Jvm.MethodName)) ∈ lw_all := lw_g (lw_at lw_m9 122 rfl) rfl
theorem q2219 : (Jvm.Cond.unhidden "java/util/AbstractList$ListItr" "next" "()Ljava/lang/Object;") ∈ lw_tbl := lw_at lw_m9 123 rfl
theorem q2226 : (Jvm.Cond.selects "java/util/AbstractList$ListItr" ({ cls := "java/util/AbstractList$Itr", name := "checkForComodification", desc := "()V" } : Jvm.MethodName) ({ cls := "java/util/AbstractList$Itr", name := "checkForComodification", desc := "()V" } : Jvm.MethodName)) ∈ lw_all := lw_g (lw_at lw_m9 130 rfl) rfl
theorem q4508 : (Jvm.Cond.castable "java/util/AbstractList$ListItr" "java/lang/Object") ∈ lw_tbl := lw_at lw_m19 12 rfl
theorem q4534 : (Jvm.Cond.fieldLink "java/util/AbstractList$ListItr" (1 : Nat) "java/util/AbstractList$ListItr" "this$0" "Ljava/util/AbstractList;") ∈ lw_all := lw_g (lw_at lw_m19 38 rfl) rfl
theorem q4539 : (Jvm.Cond.fieldLink "java/util/AbstractList$ListItr" (13 : Nat) "java/util/AbstractList$ListItr" "cursor" "I") ∈ lw_all := lw_g (lw_at lw_m19 43 rfl) rfl
theorem q4540 : (Jvm.Cond.sameField "java/util/AbstractList$ListItr" "java/util/AbstractList$Itr" "cursor" "I") ∈ lw_all := lw_g (lw_at lw_m19 44 rfl) rfl

theorem q1706 : (Jvm.Cond.interfaceMethod "java/util/Comparator" "java/util/Comparator" "compare" "(Ljava/lang/Object;Ljava/lang/Object;)I") ∈ lw_tbl := lw_at lw_m7 90 rfl
set_option maxRecDepth 100000
theorem q1707 : (Jvm.Cond.declares ({ cls := "java/util/Comparator", name := "compare", desc := "(Ljava/lang/Object;Ljava/lang/Object;)I" } : Jvm.MethodName)) ∈ lw_tbl := lw_at lw_m7 91 rfl

theorem q2178 : (Jvm.Cond.interfaceMethod "java/util/Iterator" "java/util/Iterator" "hasNext" "()Z") ∈ lw_tbl := lw_at lw_m9 82 rfl
set_option maxRecDepth 100000
theorem q2179 : (Jvm.Cond.declares ({ cls := "java/util/Iterator", name := "hasNext", desc := "()Z" } : Jvm.MethodName)) ∈ lw_tbl := lw_at lw_m9 83 rfl
theorem q2216 : (Jvm.Cond.interfaceMethod "java/util/Iterator" "java/util/Iterator" "next" "()Ljava/lang/Object;") ∈ lw_tbl := lw_at lw_m9 120 rfl
theorem q2217 : (Jvm.Cond.declares ({ cls := "java/util/Iterator", name := "next", desc := "()Ljava/lang/Object;" } : Jvm.MethodName)) ∈ lw_tbl := lw_at lw_m9 121 rfl

theorem q365 : (Jvm.Cond.interfaceMethod "java/util/List" "java/util/List" "add" "(Ljava/lang/Object;)Z") ∈ lw_tbl := lw_at lw_m1 189 rfl
set_option maxRecDepth 100000
theorem q366 : (Jvm.Cond.declares ({ cls := "java/util/List", name := "add", desc := "(Ljava/lang/Object;)Z" } : Jvm.MethodName)) ∈ lw_tbl := lw_at lw_m1 190 rfl
theorem q1159 : (Jvm.Cond.interfaceMethod "java/util/List" "java/util/List" "size" "()I") ∈ lw_tbl := lw_at lw_m5 23 rfl
theorem q1160 : (Jvm.Cond.declares ({ cls := "java/util/List", name := "size", desc := "()I" } : Jvm.MethodName)) ∈ lw_tbl := lw_at lw_m5 24 rfl
theorem q1192 : (Jvm.Cond.interfaceMethod "java/util/List" "java/util/List" "get" "(I)Ljava/lang/Object;") ∈ lw_tbl := lw_at lw_m5 56 rfl
theorem q1193 : (Jvm.Cond.declares ({ cls := "java/util/List", name := "get", desc := "(I)Ljava/lang/Object;" } : Jvm.MethodName)) ∈ lw_tbl := lw_at lw_m5 57 rfl
theorem q1787 : (Jvm.Cond.interfaceMethod "java/util/List" "java/util/List" "isEmpty" "()Z") ∈ lw_tbl := lw_at lw_m7 171 rfl
theorem q1788 : (Jvm.Cond.declares ({ cls := "java/util/List", name := "isEmpty", desc := "()Z" } : Jvm.MethodName)) ∈ lw_tbl := lw_at lw_m7 172 rfl
theorem q2540 : (Jvm.Cond.interfaceMethod "java/util/List" "java/util/List" "iterator" "()Ljava/util/Iterator;") ∈ lw_tbl := lw_at lw_m10 204 rfl
theorem q2541 : (Jvm.Cond.declares ({ cls := "java/util/List", name := "iterator", desc := "()Ljava/util/Iterator;" } : Jvm.MethodName)) ∈ lw_tbl := lw_at lw_m10 205 rfl
theorem q3496 : (Jvm.Cond.interfaceMethod "java/util/List" "java/util/List" "remove" "(I)Ljava/lang/Object;") ∈ lw_tbl := lw_at lw_m14 200 rfl
theorem q3497 : (Jvm.Cond.declares ({ cls := "java/util/List", name := "remove", desc := "(I)Ljava/lang/Object;" } : Jvm.MethodName)) ∈ lw_tbl := lw_at lw_m14 201 rfl

theorem q1824 : (Jvm.Cond.publicMethod ({ cls := "java/util/Map", name := "size", desc := "()I" } : Jvm.MethodName)) ∈ lw_tbl := lw_at lw_m7 208 rfl
set_option maxRecDepth 100000
theorem q1825 : (Jvm.Cond.declares ({ cls := "java/util/Map", name := "size", desc := "()I" } : Jvm.MethodName)) ∈ lw_tbl := lw_at lw_m7 209 rfl
theorem q1946 : (Jvm.Cond.publicMethod ({ cls := "java/util/Map", name := "put", desc := "(Ljava/lang/Object;Ljava/lang/Object;)Ljava/lang/Object;" } : Jvm.MethodName)) ∈ lw_tbl := lw_at lw_m8 90 rfl
theorem q1947 : (Jvm.Cond.declares ({ cls := "java/util/Map", name := "put", desc := "(Ljava/lang/Object;Ljava/lang/Object;)Ljava/lang/Object;" } : Jvm.MethodName)) ∈ lw_tbl := lw_at lw_m8 91 rfl
theorem q1968 : (Jvm.Cond.publicMethod ({ cls := "java/util/Map", name := "remove", desc := "(Ljava/lang/Object;)Ljava/lang/Object;" } : Jvm.MethodName)) ∈ lw_tbl := lw_at lw_m8 112 rfl
theorem q1969 : (Jvm.Cond.declares ({ cls := "java/util/Map", name := "remove", desc := "(Ljava/lang/Object;)Ljava/lang/Object;" } : Jvm.MethodName)) ∈ lw_tbl := lw_at lw_m8 113 rfl
theorem q1991 : (Jvm.Cond.publicMethod ({ cls := "java/util/Map", name := "containsKey", desc := "(Ljava/lang/Object;)Z" } : Jvm.MethodName)) ∈ lw_tbl := lw_at lw_m8 135 rfl
theorem q1992 : (Jvm.Cond.declares ({ cls := "java/util/Map", name := "containsKey", desc := "(Ljava/lang/Object;)Z" } : Jvm.MethodName)) ∈ lw_tbl := lw_at lw_m8 136 rfl
theorem q2650 : (Jvm.Cond.publicMethod ({ cls := "java/util/Map", name := "isEmpty", desc := "()Z" } : Jvm.MethodName)) ∈ lw_tbl := lw_at lw_m11 74 rfl
theorem q2651 : (Jvm.Cond.declares ({ cls := "java/util/Map", name := "isEmpty", desc := "()Z" } : Jvm.MethodName)) ∈ lw_tbl := lw_at lw_m11 75 rfl
theorem q2788 : (Jvm.Cond.interfaceMethod "java/util/Map" "java/util/Map" "size" "()I") ∈ lw_tbl := lw_at lw_m11 212 rfl
theorem q2839 : (Jvm.Cond.interfaceMethod "java/util/Map" "java/util/Map" "entrySet" "()Ljava/util/Set;") ∈ lw_tbl := lw_at lw_m12 23 rfl
theorem q2840 : (Jvm.Cond.declares ({ cls := "java/util/Map", name := "entrySet", desc := "()Ljava/util/Set;" } : Jvm.MethodName)) ∈ lw_tbl := lw_at lw_m12 24 rfl

theorem q2875 : (Jvm.Cond.interfaceMethod "java/util/Map$Entry" "java/util/Map$Entry" "getKey" "()Ljava/lang/Object;") ∈ lw_tbl := lw_at lw_m12 59 rfl
set_option maxRecDepth 100000
theorem q2876 : (Jvm.Cond.declares ({ cls := "java/util/Map$Entry", name := "getKey", desc := "()Ljava/lang/Object;" } : Jvm.MethodName)) ∈ lw_tbl := lw_at lw_m12 60 rfl
theorem q2885 : (Jvm.Cond.interfaceMethod "java/util/Map$Entry" "java/util/Map$Entry" "getValue" "()Ljava/lang/Object;") ∈ lw_tbl := lw_at lw_m12 69 rfl
theorem q2886 : (Jvm.Cond.declares ({ cls := "java/util/Map$Entry", name := "getValue", desc := "()Ljava/lang/Object;" } : Jvm.MethodName)) ∈ lw_tbl := lw_at lw_m12 70 rfl

theorem q2163 : (Jvm.Cond.interfaceMethod "java/util/NavigableMap" "java/util/NavigableMap" "navigableKeySet" "()Ljava/util/NavigableSet;") ∈ lw_tbl := lw_at lw_m9 67 rfl
set_option maxRecDepth 100000
theorem q2164 : (Jvm.Cond.declares ({ cls := "java/util/NavigableMap", name := "navigableKeySet", desc := "()Ljava/util/NavigableSet;" } : Jvm.MethodName)) ∈ lw_tbl := lw_at lw_m9 68 rfl
theorem q3290 : (Jvm.Cond.interfaceMethod "java/util/NavigableMap" "java/util/NavigableMap" "higherKey" "(Ljava/lang/Object;)Ljava/lang/Object;") ∈ lw_tbl := lw_at lw_m13 234 rfl
theorem q3291 : (Jvm.Cond.declares ({ cls := "java/util/NavigableMap", name := "higherKey", desc := "(Ljava/lang/Object;)Ljava/lang/Object;" } : Jvm.MethodName)) ∈ lw_tbl := lw_at lw_m13 235 rfl

theorem q2170 : (Jvm.Cond.interfaceMethod "java/util/NavigableSet" "java/util/NavigableSet" "iterator" "()Ljava/util/Iterator;") ∈ lw_tbl := lw_at lw_m9 74 rfl
set_option maxRecDepth 100000
theorem q2171 : (Jvm.Cond.declares ({ cls := "java/util/NavigableSet", name := "iterator", desc := "()Ljava/util/Iterator;" } : Jvm.MethodName)) ∈ lw_tbl := lw_at lw_m9 75 rfl

theorem q2094 : (Jvm.Cond.interfaceMethod "java/util/Set" "java/util/Set" "iterator" "()Ljava/util/Iterator;") ∈ lw_tbl := lw_at lw_m8 238 rfl
set_option maxRecDepth 100000
theorem q2095 : (Jvm.Cond.declares ({ cls := "java/util/Set", name := "iterator", desc := "()Ljava/util/Iterator;" } : Jvm.MethodName)) ∈ lw_tbl := lw_at lw_m8 239 rfl

theorem q2793 : (Jvm.Cond.interfaceMethod "java/util/SortedMap" "java/util/SortedMap" "comparator" "()Ljava/util/Comparator;") ∈ lw_tbl := lw_at lw_m11 217 rfl
set_option maxRecDepth 100000
theorem q2794 : (Jvm.Cond.declares ({ cls := "java/util/SortedMap", name := "comparator", desc := "()Ljava/util/Comparator;" } : Jvm.MethodName)) ∈ lw_tbl := lw_at lw_m11 218 rfl
theorem q3068 : (Jvm.Cond.publicMethod ({ cls := "java/util/SortedMap", name := "firstKey", desc := "()Ljava/lang/Object;" } : Jvm.MethodName)) ∈ lw_tbl := lw_at lw_m13 12 rfl
theorem q3069 : (Jvm.Cond.declares ({ cls := "java/util/SortedMap", name := "firstKey", desc := "()Ljava/lang/Object;" } : Jvm.MethodName)) ∈ lw_tbl := lw_at lw_m13 13 rfl
theorem q3249 : (Jvm.Cond.publicMethod ({ cls := "java/util/SortedMap", name := "lastKey", desc := "()Ljava/lang/Object;" } : Jvm.MethodName)) ∈ lw_tbl := lw_at lw_m13 193 rfl
theorem q3250 : (Jvm.Cond.declares ({ cls := "java/util/SortedMap", name := "lastKey", desc := "()Ljava/lang/Object;" } : Jvm.MethodName)) ∈ lw_tbl := lw_at lw_m13 194 rfl

theorem q2153 : (Jvm.Cond.declares ({ cls := "java/util/TreeMap$NavigableSubMap", name := "keyIterator", desc := "()Ljava/util/Iterator;" } : Jvm.MethodName)) ∈ lw_tbl := lw_at lw_m9 57 rfl
set_option maxRecDepth 100000
theorem q2154 : (Jvm.Cond.selects "java/util/TreeMap$NavigableSubMap" ({ cls := "java/util/TreeMap$NavigableSubMap", name := "keyIterator", desc := "()Ljava/util/Iterator;" } : Jvm.MethodName) ({ cls := "java/util/TreeMap$NavigableSubMap", name := "keyIterator", desc := "()Ljava/util/Iterator;" } : Jvm.MethodName)) ∈ lw_all := lw_g (lw_at lw_m9 58 rfl) rfl

theorem q1057 : (Jvm.Cond.interfaceMethod "jdk/internal/access/JavaLangAccess" "jdk/internal/access/JavaLangAccess" "getUTF16Char" "([BI)C") ∈ lw_tbl := lw_at lw_m4 161 rfl
set_option maxRecDepth 100000
theorem q1058 : (Jvm.Cond.declares ({ cls := "jdk/internal/access/JavaLangAccess", name := "getUTF16Char", desc := "([BI)C" } : Jvm.MethodName)) ∈ lw_tbl := lw_at lw_m4 162 rfl

theorem q216 : (Jvm.Cond.initialized "jdk/internal/misc/UnsafeConstants") ∈ lw_all := lw_g (lw_at lw_m1 40 rfl) rfl
set_option maxRecDepth 100000
theorem q1583 : (Jvm.Cond.laysStatic "jdk/internal/misc/UnsafeConstants" "BIG_ENDIAN" "Z") ∈ lw_tbl := lw_at lw_m6 207 rfl

theorem q294 : (Jvm.Cond.arrayClass Jvm.ClassFile.FieldType.byte) ∈ lw_all := lw_g (lw_at lw_m1 118 rfl) rfl
set_option maxRecDepth 100000
theorem q449 : (Jvm.Cond.arrayOver (Jvm.ClassFile.FieldType.object "java/lang/Object")) ∈ lw_tbl := lw_at lw_m2 33 rfl
theorem q526 : (Jvm.Cond.arrayClass Jvm.ClassFile.FieldType.int) ∈ lw_all := lw_g (lw_at lw_m2 110 rfl) rfl
theorem q642 : (Jvm.Cond.arrayClass Jvm.ClassFile.FieldType.long) ∈ lw_all := lw_g (lw_at lw_m2 226 rfl) rfl
theorem q2511 : (Jvm.Cond.arrayOver (Jvm.ClassFile.FieldType.object "CountyGazetteer$Block")) ∈ lw_tbl := lw_at lw_m10 175 rfl
theorem q3820 : (Jvm.Cond.arrayClass Jvm.ClassFile.FieldType.boolean) ∈ lw_all := lw_g (lw_at lw_m16 44 rfl) rfl
theorem q4532 : (Jvm.Cond.arrayClass Jvm.ClassFile.FieldType.char) ∈ lw_all := lw_g (lw_at lw_m19 36 rfl) rfl
theorem q4533 : (Jvm.Cond.arrayClass Jvm.ClassFile.FieldType.short) ∈ lw_all := lw_g (lw_at lw_m19 37 rfl) rfl
