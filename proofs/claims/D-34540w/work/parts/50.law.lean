set_option maxRecDepth 100000
abbrev cL_law : ByteArray := code
def dkwL_law_126 : List UInt8 := [172]
abbrev dktL_law_126 : List UInt8 := dkwL_law_126 ++ []
def dkwL_law_125 : List UInt8 := [153, 0, 7, 10, 167, 0, 4, 9, 148, 153, 0, 5, 3, 172, 167, 0, 3, 132, 4, 7, 167, 243, 254, 4]
abbrev dktL_law_125 : List UInt8 := dkwL_law_125 ++ dktL_law_126
def dkwL_law_124 : List UInt8 := [54, 6, 44, 182, 0, 149, 21, 5, 159, 0, 5, 3, 172, 21, 5, 154, 0, 22, 45, 3, 47, 21, 6]
abbrev dktL_law_124 : List UInt8 := dkwL_law_124 ++ dktL_law_125
def dkwL_law_123 : List UInt8 := [46, 45, 184, 1, 19, 54, 5, 44, 42, 21, 4, 4, 96, 46, 42, 21, 4, 5, 96, 46, 182, 1, 21]
abbrev dktL_law_123 : List UInt8 := dkwL_law_123 ++ dktL_law_124
def dkwL_law_122 : List UInt8 := [21, 6, 133, 148, 153, 0, 5, 3, 172, 167, 0, 78, 43, 42, 21, 4, 4, 96, 46, 42, 21, 4, 5, 96]
abbrev dktL_law_122 : List UInt8 := dkwL_law_122 ++ dktL_law_123
def dkwL_law_121 : List UInt8 := [182, 1, 18, 54, 6, 44, 182, 0, 149, 21, 5, 159, 0, 5, 3, 172, 21, 5, 154, 0, 15, 45, 3, 47]
abbrev dktL_law_121 : List UInt8 := dkwL_law_121 ++ dktL_law_122
def dkwL_law_120 : List UInt8 := [167, 0, 134, 43, 42, 21, 4, 4, 96, 46, 45, 184, 1, 16, 54, 5, 44, 42, 21, 4, 4, 96, 46]
abbrev dktL_law_120 : List UInt8 := dkwL_law_120 ++ dktL_law_121
def dkwL_law_119 : List UInt8 := [159, 0, 5, 3, 172, 21, 5, 154, 0, 15, 45, 3, 47, 21, 6, 133, 148, 153, 0, 5, 3, 172]
abbrev dktL_law_119 : List UInt8 := dkwL_law_119 ++ dktL_law_120
def dkwL_law_118 : List UInt8 := [21, 4, 4, 96, 46, 42, 21, 4, 5, 96, 46, 182, 1, 15, 54, 6, 44, 182, 0, 149, 21, 5]
abbrev dktL_law_118 : List UInt8 := dkwL_law_118 ++ dktL_law_119
def dkwL_law_117 : List UInt8 := [167, 0, 202, 43, 42, 21, 4, 4, 96, 46, 42, 21, 4, 5, 96, 46, 45, 184, 1, 13, 54, 5, 44, 42]
abbrev dktL_law_117 : List UInt8 := dkwL_law_117 ++ dktL_law_118
def dkwL_law_116 : List UInt8 := [159, 0, 5, 3, 172, 21, 5, 154, 0, 15, 45, 3, 47, 21, 6, 133, 148, 153, 0, 5, 3, 172]
abbrev dktL_law_116 : List UInt8 := dkwL_law_116 ++ dktL_law_117
def dkwL_law_115 : List UInt8 := [21, 4, 4, 96, 46, 42, 21, 4, 5, 96, 46, 182, 1, 12, 54, 6, 44, 182, 0, 149, 21, 5]
abbrev dktL_law_115 : List UInt8 := dkwL_law_115 ++ dktL_law_116
def dkwL_law_114 : List UInt8 := [167, 1, 14, 43, 42, 21, 4, 4, 96, 46, 42, 21, 4, 5, 96, 46, 45, 184, 1, 10, 54, 5, 44, 42]
abbrev dktL_law_114 : List UInt8 := dkwL_law_114 ++ dktL_law_115
def dkwL_law_113 : List UInt8 := [21, 5, 159, 0, 5, 3, 172, 21, 5, 154, 0, 15, 45, 3, 47, 21, 6, 133, 148, 153, 0, 5, 3, 172]
abbrev dktL_law_113 : List UInt8 := dkwL_law_113 ++ dktL_law_114
def dkwL_law_112 : List UInt8 := [4, 96, 46, 42, 21, 4, 5, 96, 46, 42, 21, 4, 6, 96, 46, 182, 1, 9, 54, 6, 44, 182, 0, 149]
abbrev dktL_law_112 : List UInt8 := dkwL_law_112 ++ dktL_law_113
def dkwL_law_111 : List UInt8 := [96, 46, 42, 21, 4, 5, 96, 46, 42, 21, 4, 6, 96, 46, 45, 184, 1, 7, 54, 5, 44, 42, 21, 4]
abbrev dktL_law_111 : List UInt8 := dkwL_law_111 ++ dktL_law_112
def dkwL_law_110 : List UInt8 := [21, 6, 153, 0, 7, 10, 167, 0, 4, 9, 148, 153, 0, 5, 3, 172, 167, 1, 94, 43, 42, 21, 4, 4]
abbrev dktL_law_110 : List UInt8 := dkwL_law_110 ++ dktL_law_111
def dkwL_law_109 : List UInt8 := [182, 1, 6, 54, 6, 44, 182, 0, 149, 21, 5, 159, 0, 5, 3, 172, 21, 5, 154, 0, 22, 45, 3, 47]
abbrev dktL_law_109 : List UInt8 := dkwL_law_109 ++ dktL_law_110
def dkwL_law_108 : List UInt8 := [21, 4, 4, 96, 46, 42, 21, 4, 5, 96, 46, 42, 21, 4, 6, 96, 46, 42, 21, 4, 7, 96, 46]
abbrev dktL_law_108 : List UInt8 := dkwL_law_108 ++ dktL_law_109
def dkwL_law_107 : List UInt8 := [5, 96, 46, 42, 21, 4, 6, 96, 46, 42, 21, 4, 7, 96, 46, 45, 184, 1, 4, 54, 5, 44, 42]
abbrev dktL_law_107 : List UInt8 := dkwL_law_107 ++ dktL_law_108
def dkwL_law_106 : List UInt8 := [3, 47, 21, 6, 133, 148, 153, 0, 5, 3, 172, 167, 1, 193, 43, 42, 21, 4, 4, 96, 46, 42, 21, 4]
abbrev dktL_law_106 : List UInt8 := dkwL_law_106 ++ dktL_law_107
def dkwL_law_105 : List UInt8 := [96, 46, 182, 1, 3, 54, 6, 44, 182, 0, 149, 21, 5, 159, 0, 5, 3, 172, 21, 5, 154, 0, 15, 45]
abbrev dktL_law_105 : List UInt8 := dkwL_law_105 ++ dktL_law_106
def dkwL_law_104 : List UInt8 := [46, 42, 21, 4, 5, 96, 46, 45, 184, 1, 1, 54, 5, 44, 42, 21, 4, 4, 96, 46, 42, 21, 4, 5]
abbrev dktL_law_104 : List UInt8 := dkwL_law_104 ++ dktL_law_105
def dkwL_law_103 : List UInt8 := [154, 0, 15, 45, 3, 47, 21, 6, 133, 148, 153, 0, 5, 3, 172, 167, 2, 5, 43, 42, 21, 4, 4, 96]
abbrev dktL_law_103 : List UInt8 := dkwL_law_103 ++ dktL_law_104
def dkwL_law_102 : List UInt8 := [21, 4, 6, 96, 46, 182, 1, 0, 54, 6, 44, 182, 0, 149, 21, 5, 159, 0, 5, 3, 172, 21, 5]
abbrev dktL_law_102 : List UInt8 := dkwL_law_102 ++ dktL_law_103
def dkwL_law_101 : List UInt8 := [6, 96, 46, 45, 184, 0, 254, 54, 5, 44, 42, 21, 4, 4, 96, 46, 42, 21, 4, 5, 96, 46, 42]
abbrev dktL_law_101 : List UInt8 := dkwL_law_101 ++ dktL_law_102
def dkwL_law_100 : List UInt8 := [153, 0, 5, 3, 172, 167, 2, 85, 43, 42, 21, 4, 4, 96, 46, 42, 21, 4, 5, 96, 46, 42, 21, 4]
abbrev dktL_law_100 : List UInt8 := dkwL_law_100 ++ dktL_law_101
def dkwL_law_99 : List UInt8 := [182, 0, 149, 21, 5, 159, 0, 5, 3, 172, 21, 5, 154, 0, 15, 45, 3, 47, 21, 6, 133, 148]
abbrev dktL_law_99 : List UInt8 := dkwL_law_99 ++ dktL_law_100
def dkwL_law_98 : List UInt8 := [42, 21, 4, 5, 96, 46, 42, 21, 4, 6, 96, 46, 42, 21, 4, 7, 96, 46, 182, 0, 253, 54, 6, 44]
abbrev dktL_law_98 : List UInt8 := dkwL_law_98 ++ dktL_law_99
def dkwL_law_97 : List UInt8 := [21, 4, 6, 96, 46, 42, 21, 4, 7, 96, 46, 45, 184, 0, 251, 54, 5, 44, 42, 21, 4, 4, 96, 46]
abbrev dktL_law_97 : List UInt8 := dkwL_law_97 ++ dktL_law_98
def dkwL_law_96 : List UInt8 := [148, 153, 0, 5, 3, 172, 167, 2, 177, 43, 42, 21, 4, 4, 96, 46, 42, 21, 4, 5, 96, 46, 42]
abbrev dktL_law_96 : List UInt8 := dkwL_law_96 ++ dktL_law_97
def dkwL_law_95 : List UInt8 := [54, 6, 44, 182, 0, 149, 21, 5, 159, 0, 5, 3, 172, 21, 5, 154, 0, 15, 45, 3, 47, 21, 6, 133]
abbrev dktL_law_95 : List UInt8 := dkwL_law_95 ++ dktL_law_96
def dkwL_law_94 : List UInt8 := [46, 45, 184, 0, 248, 54, 5, 44, 42, 21, 4, 4, 96, 46, 42, 21, 4, 5, 96, 46, 182, 0, 250]
abbrev dktL_law_94 : List UInt8 := dkwL_law_94 ++ dktL_law_95
def dkwL_law_93 : List UInt8 := [21, 6, 133, 148, 153, 0, 5, 3, 172, 167, 2, 245, 43, 42, 21, 4, 4, 96, 46, 42, 21, 4, 5, 96]
abbrev dktL_law_93 : List UInt8 := dkwL_law_93 ++ dktL_law_94
def dkwL_law_92 : List UInt8 := [182, 0, 247, 54, 6, 44, 182, 0, 149, 21, 5, 159, 0, 5, 3, 172, 21, 5, 154, 0, 15, 45, 3, 47]
abbrev dktL_law_92 : List UInt8 := dkwL_law_92 ++ dktL_law_93
def dkwL_law_91 : List UInt8 := [5, 96, 46, 45, 184, 0, 245, 54, 5, 44, 42, 21, 4, 4, 96, 46, 42, 21, 4, 5, 96, 46]
abbrev dktL_law_91 : List UInt8 := dkwL_law_91 ++ dktL_law_92
def dkwL_law_90 : List UInt8 := [3, 47, 21, 6, 133, 148, 153, 0, 5, 3, 172, 167, 3, 57, 43, 42, 21, 4, 4, 96, 46, 42, 21, 4]
abbrev dktL_law_90 : List UInt8 := dkwL_law_90 ++ dktL_law_91
def dkwL_law_89 : List UInt8 := [96, 46, 182, 0, 244, 54, 6, 44, 182, 0, 149, 21, 5, 159, 0, 5, 3, 172, 21, 5, 154, 0, 15, 45]
abbrev dktL_law_89 : List UInt8 := dkwL_law_89 ++ dktL_law_90
def dkwL_law_88 : List UInt8 := [46, 42, 21, 4, 5, 96, 46, 45, 184, 0, 242, 54, 5, 44, 42, 21, 4, 4, 96, 46, 42, 21, 4, 5]
abbrev dktL_law_88 : List UInt8 := dkwL_law_88 ++ dktL_law_89
def dkwL_law_87 : List UInt8 := [154, 0, 15, 45, 3, 47, 21, 6, 133, 148, 153, 0, 5, 3, 172, 167, 3, 125, 43, 42, 21, 4, 4, 96]
abbrev dktL_law_87 : List UInt8 := dkwL_law_87 ++ dktL_law_88
def dkwL_law_86 : List UInt8 := [21, 4, 4, 96, 46, 182, 0, 241, 54, 6, 44, 182, 0, 149, 21, 5, 159, 0, 5, 3, 172, 21, 5]
abbrev dktL_law_86 : List UInt8 := dkwL_law_86 ++ dktL_law_87
def dkwL_law_85 : List UInt8 := [153, 0, 5, 3, 172, 167, 3, 181, 43, 42, 21, 4, 4, 96, 46, 45, 184, 0, 239, 54, 5, 44, 42]
abbrev dktL_law_85 : List UInt8 := dkwL_law_85 ++ dktL_law_86
def dkwL_law_84 : List UInt8 := [182, 0, 149, 21, 5, 159, 0, 5, 3, 172, 21, 5, 154, 0, 15, 45, 3, 47, 21, 6, 133, 148]
abbrev dktL_law_84 : List UInt8 := dkwL_law_84 ++ dktL_law_85
def dkwL_law_83 : List UInt8 := [4, 96, 46, 45, 184, 0, 236, 54, 5, 44, 42, 21, 4, 4, 96, 46, 182, 0, 238, 54, 6, 44]
abbrev dktL_law_83 : List UInt8 := dkwL_law_83 ++ dktL_law_84
def dkwL_law_82 : List UInt8 := [21, 5, 154, 0, 15, 45, 3, 47, 21, 6, 133, 148, 153, 0, 5, 3, 172, 167, 3, 237, 43, 42, 21, 4]
abbrev dktL_law_82 : List UInt8 := dkwL_law_82 ++ dktL_law_83
def dkwL_law_81 : List UInt8 := [96, 46, 42, 21, 4, 6, 96, 46, 182, 0, 235, 54, 6, 44, 182, 0, 149, 21, 5, 159, 0, 5, 3, 172]
abbrev dktL_law_81 : List UInt8 := dkwL_law_81 ++ dktL_law_82
def dkwL_law_80 : List UInt8 := [46, 42, 21, 4, 6, 96, 46, 45, 184, 0, 233, 54, 5, 44, 42, 21, 4, 4, 96, 46, 42, 21, 4, 5]
abbrev dktL_law_80 : List UInt8 := dkwL_law_80 ++ dktL_law_81
def dkwL_law_79 : List UInt8 := [21, 6, 133, 148, 153, 0, 5, 3, 172, 167, 4, 61, 43, 42, 21, 4, 4, 96, 46, 42, 21, 4, 5, 96]
abbrev dktL_law_79 : List UInt8 := dkwL_law_79 ++ dktL_law_80
def dkwL_law_78 : List UInt8 := [182, 0, 232, 54, 6, 44, 182, 0, 149, 21, 5, 159, 0, 5, 3, 172, 21, 5, 154, 0, 15, 45, 3, 47]
abbrev dktL_law_78 : List UInt8 := dkwL_law_78 ++ dktL_law_79
def dkwL_law_77 : List UInt8 := [184, 0, 230, 54, 5, 44, 42, 21, 4, 4, 96, 46, 42, 21, 4, 5, 96, 46, 42, 21, 4, 6, 96, 46]
abbrev dktL_law_77 : List UInt8 := dkwL_law_77 ++ dktL_law_78
def dkwL_law_76 : List UInt8 := [167, 4, 141, 43, 42, 21, 4, 4, 96, 46, 42, 21, 4, 5, 96, 46, 42, 21, 4, 6, 96, 46, 45]
abbrev dktL_law_76 : List UInt8 := dkwL_law_76 ++ dktL_law_77
def dkwL_law_75 : List UInt8 := [159, 0, 5, 3, 172, 21, 5, 154, 0, 15, 45, 3, 47, 21, 6, 133, 148, 153, 0, 5, 3, 172]
abbrev dktL_law_75 : List UInt8 := dkwL_law_75 ++ dktL_law_76
def dkwL_law_74 : List UInt8 := [42, 21, 4, 5, 96, 46, 42, 21, 4, 6, 96, 46, 182, 0, 229, 54, 6, 44, 182, 0, 149, 21, 5]
abbrev dktL_law_74 : List UInt8 := dkwL_law_74 ++ dktL_law_75
def dkwL_law_73 : List UInt8 := [21, 4, 5, 96, 46, 42, 21, 4, 6, 96, 46, 45, 184, 0, 227, 54, 5, 44, 42, 21, 4, 4, 96, 46]
abbrev dktL_law_73 : List UInt8 := dkwL_law_73 ++ dktL_law_74
def dkwL_law_72 : List UInt8 := [167, 4, 234, 43, 182, 0, 223, 44, 182, 0, 226, 159, 4, 223, 3, 172, 43, 42, 21, 4, 4, 96, 46, 42]
abbrev dktL_law_72 : List UInt8 := dkwL_law_72 ++ dktL_law_73
def dkwL_law_71 : List UInt8 := [159, 0, 5, 3, 172, 21, 5, 154, 0, 15, 45, 3, 47, 21, 6, 133, 148, 153, 0, 5, 3, 172]
abbrev dktL_law_71 : List UInt8 := dkwL_law_71 ++ dktL_law_72
def dkwL_law_70 : List UInt8 := [167, 5, 22, 43, 45, 184, 0, 219, 54, 5, 44, 182, 0, 222, 54, 6, 44, 182, 0, 149, 21, 5]
abbrev dktL_law_70 : List UInt8 := dkwL_law_70 ++ dktL_law_71
def dkwL_law_69 : List UInt8 := [21, 5, 159, 0, 5, 3, 172, 21, 5, 154, 0, 15, 45, 3, 47, 21, 6, 133, 148, 153, 0, 5, 3, 172]
abbrev dktL_law_69 : List UInt8 := dkwL_law_69 ++ dktL_law_70
def dkwL_law_68 : List UInt8 := [44, 42, 21, 4, 4, 96, 46, 153, 0, 7, 4, 167, 0, 4, 3, 182, 0, 218, 54, 6, 44, 182, 0, 149]
abbrev dktL_law_68 : List UInt8 := dkwL_law_68 ++ dktL_law_69
def dkwL_law_67 : List UInt8 := [167, 5, 94, 43, 42, 21, 4, 4, 96, 46, 153, 0, 7, 4, 167, 0, 4, 3, 45, 184, 0, 215, 54, 5]
abbrev dktL_law_67 : List UInt8 := dkwL_law_67 ++ dktL_law_68
def dkwL_law_66 : List UInt8 := [21, 5, 159, 0, 5, 3, 172, 21, 5, 154, 0, 15, 45, 3, 47, 21, 6, 133, 148, 153, 0, 5, 3, 172]
abbrev dktL_law_66 : List UInt8 := dkwL_law_66 ++ dktL_law_67
def dkwL_law_65 : List UInt8 := [46, 45, 184, 0, 212, 54, 5, 44, 42, 21, 4, 4, 96, 46, 182, 0, 214, 54, 6, 44, 182, 0, 149]
abbrev dktL_law_65 : List UInt8 := dkwL_law_65 ++ dktL_law_66
def dkwL_law_64 : List UInt8 := [154, 0, 15, 45, 3, 47, 21, 6, 133, 148, 153, 0, 5, 3, 172, 167, 5, 150, 43, 42, 21, 4, 4, 96]
abbrev dktL_law_64 : List UInt8 := dkwL_law_64 ++ dktL_law_65
def dkwL_law_63 : List UInt8 := [21, 4, 4, 96, 46, 182, 0, 211, 54, 6, 44, 182, 0, 149, 21, 5, 159, 0, 5, 3, 172, 21, 5]
abbrev dktL_law_63 : List UInt8 := dkwL_law_63 ++ dktL_law_64
def dkwL_law_62 : List UInt8 := [153, 0, 5, 3, 172, 167, 5, 206, 43, 42, 21, 4, 4, 96, 46, 45, 184, 0, 209, 54, 5, 44, 42]
abbrev dktL_law_62 : List UInt8 := dkwL_law_62 ++ dktL_law_63
def dkwL_law_61 : List UInt8 := [182, 0, 149, 21, 5, 159, 0, 5, 3, 172, 21, 5, 154, 0, 15, 45, 3, 47, 21, 6, 133, 148]
abbrev dktL_law_61 : List UInt8 := dkwL_law_61 ++ dktL_law_62
def dkwL_law_60 : List UInt8 := [184, 0, 206, 54, 5, 44, 42, 21, 4, 4, 96, 46, 42, 21, 4, 5, 96, 46, 182, 0, 208, 54, 6, 44]
abbrev dktL_law_60 : List UInt8 := dkwL_law_60 ++ dktL_law_61
def dkwL_law_59 : List UInt8 := [148, 153, 0, 5, 3, 172, 167, 6, 18, 43, 42, 21, 4, 4, 96, 46, 42, 21, 4, 5, 96, 46, 45]
abbrev dktL_law_59 : List UInt8 := dkwL_law_59 ++ dktL_law_60
def dkwL_law_58 : List UInt8 := [54, 6, 44, 182, 0, 149, 21, 5, 159, 0, 5, 3, 172, 21, 5, 154, 0, 15, 45, 3, 47, 21, 6, 133]
abbrev dktL_law_58 : List UInt8 := dkwL_law_58 ++ dktL_law_59
def dkwL_law_57 : List UInt8 := [46, 45, 184, 0, 203, 54, 5, 44, 42, 21, 4, 4, 96, 46, 42, 21, 4, 5, 96, 46, 182, 0, 205]
abbrev dktL_law_57 : List UInt8 := dkwL_law_57 ++ dktL_law_58
def dkwL_law_56 : List UInt8 := [21, 6, 133, 148, 153, 0, 5, 3, 172, 167, 6, 86, 43, 42, 21, 4, 4, 96, 46, 42, 21, 4, 5, 96]
abbrev dktL_law_56 : List UInt8 := dkwL_law_56 ++ dktL_law_57
def dkwL_law_55 : List UInt8 := [182, 0, 202, 54, 6, 44, 182, 0, 149, 21, 5, 159, 0, 5, 3, 172, 21, 5, 154, 0, 15, 45, 3, 47]
abbrev dktL_law_55 : List UInt8 := dkwL_law_55 ++ dktL_law_56
def dkwL_law_54 : List UInt8 := [167, 6, 142, 43, 42, 21, 4, 4, 96, 46, 45, 184, 0, 199, 54, 5, 44, 42, 21, 4, 4, 96, 46]
abbrev dktL_law_54 : List UInt8 := dkwL_law_54 ++ dktL_law_55
def dkwL_law_53 : List UInt8 := [21, 5, 159, 0, 5, 3, 172, 21, 5, 154, 0, 15, 45, 3, 47, 21, 6, 133, 148, 153, 0, 5, 3, 172]
abbrev dktL_law_53 : List UInt8 := dkwL_law_53 ++ dktL_law_54
def dkwL_law_52 : List UInt8 := [96, 46, 42, 21, 4, 5, 96, 46, 42, 21, 4, 6, 96, 46, 182, 0, 198, 54, 6, 44, 182, 0, 149]
abbrev dktL_law_52 : List UInt8 := dkwL_law_52 ++ dktL_law_53
def dkwL_law_51 : List UInt8 := [46, 42, 21, 4, 5, 96, 46, 42, 21, 4, 6, 96, 46, 45, 184, 0, 196, 54, 5, 44, 42, 21, 4, 4]
abbrev dktL_law_51 : List UInt8 := dkwL_law_51 ++ dktL_law_52
def dkwL_law_50 : List UInt8 := [154, 0, 15, 45, 3, 47, 21, 6, 133, 148, 153, 0, 5, 3, 172, 167, 6, 222, 43, 42, 21, 4, 4, 96]
abbrev dktL_law_50 : List UInt8 := dkwL_law_50 ++ dktL_law_51
def dkwL_law_49 : List UInt8 := [16, 6, 96, 46, 182, 0, 195, 54, 6, 44, 182, 0, 149, 21, 5, 159, 0, 5, 3, 172, 21, 5]
abbrev dktL_law_49 : List UInt8 := dkwL_law_49 ++ dktL_law_50
def dkwL_law_48 : List UInt8 := [5, 96, 46, 42, 21, 4, 6, 96, 46, 42, 21, 4, 7, 96, 46, 42, 21, 4, 8, 96, 46, 42, 21, 4]
abbrev dktL_law_48 : List UInt8 := dkwL_law_48 ++ dktL_law_49
def dkwL_law_47 : List UInt8 := [46, 42, 21, 4, 16, 6, 96, 46, 45, 184, 0, 192, 54, 5, 44, 42, 21, 4, 4, 96, 46, 42, 21, 4]
abbrev dktL_law_47 : List UInt8 := dkwL_law_47 ++ dktL_law_48
def dkwL_law_46 : List UInt8 := [46, 42, 21, 4, 5, 96, 46, 42, 21, 4, 6, 96, 46, 42, 21, 4, 7, 96, 46, 42, 21, 4, 8, 96]
abbrev dktL_law_46 : List UInt8 := dkwL_law_46 ++ dktL_law_47
def dkwL_law_45 : List UInt8 := [154, 0, 15, 45, 3, 47, 21, 6, 133, 148, 153, 0, 5, 3, 172, 167, 7, 84, 43, 42, 21, 4, 4, 96]
abbrev dktL_law_45 : List UInt8 := dkwL_law_45 ++ dktL_law_46
def dkwL_law_44 : List UInt8 := [21, 4, 6, 96, 46, 182, 0, 191, 54, 6, 44, 182, 0, 149, 21, 5, 159, 0, 5, 3, 172, 21, 5]
abbrev dktL_law_44 : List UInt8 := dkwL_law_44 ++ dktL_law_45
def dkwL_law_43 : List UInt8 := [6, 96, 46, 45, 184, 0, 189, 54, 5, 44, 42, 21, 4, 4, 96, 46, 42, 21, 4, 5, 96, 46, 42]
abbrev dktL_law_43 : List UInt8 := dkwL_law_43 ++ dktL_law_44
def dkwL_law_42 : List UInt8 := [153, 0, 5, 3, 172, 167, 7, 164, 43, 42, 21, 4, 4, 96, 46, 42, 21, 4, 5, 96, 46, 42, 21, 4]
abbrev dktL_law_42 : List UInt8 := dkwL_law_42 ++ dktL_law_43
def dkwL_law_41 : List UInt8 := [182, 0, 149, 21, 5, 159, 0, 5, 3, 172, 21, 5, 154, 0, 15, 45, 3, 47, 21, 6, 133, 148]
abbrev dktL_law_41 : List UInt8 := dkwL_law_41 ++ dktL_law_42
def dkwL_law_40 : List UInt8 := [184, 0, 186, 54, 5, 44, 42, 21, 4, 4, 96, 46, 42, 21, 4, 5, 96, 46, 182, 0, 188, 54, 6, 44]
abbrev dktL_law_40 : List UInt8 := dkwL_law_40 ++ dktL_law_41
def dkwL_law_39 : List UInt8 := [153, 0, 5, 3, 172, 167, 7, 232, 43, 42, 21, 4, 4, 96, 46, 42, 21, 4, 5, 96, 46, 45]
abbrev dktL_law_39 : List UInt8 := dkwL_law_39 ++ dktL_law_40
def dkwL_law_38 : List UInt8 := [182, 0, 149, 21, 5, 159, 0, 5, 3, 172, 21, 5, 154, 0, 15, 45, 3, 47, 21, 6, 133, 148]
abbrev dktL_law_38 : List UInt8 := dkwL_law_38 ++ dktL_law_39
def dkwL_law_37 : List UInt8 := [21, 4, 4, 96, 46, 42, 21, 4, 5, 96, 46, 42, 21, 4, 6, 96, 46, 182, 0, 185, 54, 6, 44]
abbrev dktL_law_37 : List UInt8 := dkwL_law_37 ++ dktL_law_38
def dkwL_law_36 : List UInt8 := [4, 96, 46, 42, 21, 4, 5, 96, 46, 42, 21, 4, 6, 96, 46, 45, 184, 0, 183, 54, 5, 44, 42]
abbrev dktL_law_36 : List UInt8 := dkwL_law_36 ++ dktL_law_37
def dkwL_law_35 : List UInt8 := [21, 5, 154, 0, 15, 45, 3, 47, 21, 6, 133, 148, 153, 0, 5, 3, 172, 167, 8, 56, 43, 42, 21, 4]
abbrev dktL_law_35 : List UInt8 := dkwL_law_35 ++ dktL_law_36
def dkwL_law_34 : List UInt8 := [96, 46, 42, 21, 4, 6, 96, 46, 182, 0, 182, 54, 6, 44, 182, 0, 149, 21, 5, 159, 0, 5, 3, 172]
abbrev dktL_law_34 : List UInt8 := dkwL_law_34 ++ dktL_law_35
def dkwL_law_33 : List UInt8 := [46, 42, 21, 4, 6, 96, 46, 45, 184, 0, 180, 54, 5, 44, 42, 21, 4, 4, 96, 46, 42, 21, 4, 5]
abbrev dktL_law_33 : List UInt8 := dkwL_law_33 ++ dktL_law_34
def dkwL_law_32 : List UInt8 := [21, 6, 133, 148, 153, 0, 5, 3, 172, 167, 8, 136, 43, 42, 21, 4, 4, 96, 46, 42, 21, 4, 5, 96]
abbrev dktL_law_32 : List UInt8 := dkwL_law_32 ++ dktL_law_33
def dkwL_law_31 : List UInt8 := [182, 0, 179, 54, 6, 44, 182, 0, 149, 21, 5, 159, 0, 5, 3, 172, 21, 5, 154, 0, 15, 45, 3, 47]
abbrev dktL_law_31 : List UInt8 := dkwL_law_31 ++ dktL_law_32
def dkwL_law_30 : List UInt8 := [42, 21, 4, 4, 96, 46, 42, 21, 4, 5, 96, 46, 42, 21, 4, 6, 96, 46, 42, 21, 4, 7, 96, 46]
abbrev dktL_law_30 : List UInt8 := dkwL_law_30 ++ dktL_law_31
def dkwL_law_29 : List UInt8 := [21, 4, 5, 96, 46, 42, 21, 4, 6, 96, 46, 42, 21, 4, 7, 96, 46, 45, 184, 0, 177, 54, 5, 44]
abbrev dktL_law_29 : List UInt8 := dkwL_law_29 ++ dktL_law_30
def dkwL_law_28 : List UInt8 := [45, 3, 47, 21, 6, 133, 148, 153, 0, 5, 3, 172, 167, 8, 228, 43, 42, 21, 4, 4, 96, 46, 42]
abbrev dktL_law_28 : List UInt8 := dkwL_law_28 ++ dktL_law_29
def dkwL_law_27 : List UInt8 := [7, 96, 46, 182, 0, 176, 54, 6, 44, 182, 0, 149, 21, 5, 159, 0, 5, 3, 172, 21, 5, 154, 0, 15]
abbrev dktL_law_27 : List UInt8 := dkwL_law_27 ++ dktL_law_28
def dkwL_law_26 : List UInt8 := [54, 5, 44, 42, 21, 4, 4, 96, 46, 42, 21, 4, 5, 96, 46, 42, 21, 4, 6, 96, 46, 42, 21, 4]
abbrev dktL_law_26 : List UInt8 := dkwL_law_26 ++ dktL_law_27
def dkwL_law_25 : List UInt8 := [46, 42, 21, 4, 5, 96, 46, 42, 21, 4, 6, 96, 46, 42, 21, 4, 7, 96, 46, 45, 184, 0, 174]
abbrev dktL_law_25 : List UInt8 := dkwL_law_25 ++ dktL_law_26
def dkwL_law_24 : List UInt8 := [154, 0, 15, 45, 3, 47, 21, 6, 133, 148, 153, 0, 5, 3, 172, 167, 9, 64, 43, 42, 21, 4, 4, 96]
abbrev dktL_law_24 : List UInt8 := dkwL_law_24 ++ dktL_law_25
def dkwL_law_23 : List UInt8 := [42, 21, 4, 7, 96, 46, 182, 0, 173, 54, 6, 44, 182, 0, 149, 21, 5, 159, 0, 5, 3, 172, 21, 5]
abbrev dktL_law_23 : List UInt8 := dkwL_law_23 ++ dktL_law_24
def dkwL_law_22 : List UInt8 := [184, 0, 171, 54, 5, 44, 42, 21, 4, 4, 96, 46, 42, 21, 4, 5, 96, 46, 42, 21, 4, 6, 96, 46]
abbrev dktL_law_22 : List UInt8 := dkwL_law_22 ++ dktL_law_23
def dkwL_law_21 : List UInt8 := [21, 4, 4, 96, 46, 42, 21, 4, 5, 96, 46, 42, 21, 4, 6, 96, 46, 42, 21, 4, 7, 96, 46, 45]
abbrev dktL_law_21 : List UInt8 := dkwL_law_21 ++ dktL_law_22
def dkwL_law_20 : List UInt8 := [172, 21, 5, 154, 0, 15, 45, 3, 47, 21, 6, 133, 148, 153, 0, 5, 3, 172, 167, 9, 156, 43, 42]
abbrev dktL_law_20 : List UInt8 := dkwL_law_20 ++ dktL_law_21
def dkwL_law_19 : List UInt8 := [6, 96, 46, 42, 21, 4, 7, 96, 46, 182, 0, 170, 54, 6, 44, 182, 0, 149, 21, 5, 159, 0, 5, 3]
abbrev dktL_law_19 : List UInt8 := dkwL_law_19 ++ dktL_law_20
def dkwL_law_18 : List UInt8 := [96, 46, 45, 184, 0, 167, 54, 5, 44, 42, 21, 4, 4, 96, 46, 42, 21, 4, 5, 96, 46, 42, 21, 4]
abbrev dktL_law_18 : List UInt8 := dkwL_law_18 ++ dktL_law_19
def dkwL_law_17 : List UInt8 := [172, 43, 42, 21, 4, 4, 96, 46, 42, 21, 4, 5, 96, 46, 42, 21, 4, 6, 96, 46, 42, 21, 4, 7]
abbrev dktL_law_17 : List UInt8 := dkwL_law_17 ++ dktL_law_18
def dkwL_law_16 : List UInt8 := [21, 6, 133, 148, 153, 0, 5, 3, 172, 167, 10, 5, 43, 182, 0, 163, 44, 182, 0, 166, 159, 9, 250, 3]
abbrev dktL_law_16 : List UInt8 := dkwL_law_16 ++ dktL_law_17
def dkwL_law_15 : List UInt8 := [182, 0, 162, 54, 6, 44, 182, 0, 149, 21, 5, 159, 0, 5, 3, 172, 21, 5, 154, 0, 15, 45, 3, 47]
abbrev dktL_law_15 : List UInt8 := dkwL_law_15 ++ dktL_law_16
def dkwL_law_14 : List UInt8 := [5, 96, 46, 45, 184, 0, 160, 54, 5, 44, 42, 21, 4, 4, 96, 46, 42, 21, 4, 5, 96, 46]
abbrev dktL_law_14 : List UInt8 := dkwL_law_14 ++ dktL_law_15
def dkwL_law_13 : List UInt8 := [3, 47, 21, 6, 133, 148, 153, 0, 5, 3, 172, 167, 10, 73, 43, 42, 21, 4, 4, 96, 46, 42, 21, 4]
abbrev dktL_law_13 : List UInt8 := dkwL_law_13 ++ dktL_law_14
def dkwL_law_12 : List UInt8 := [96, 46, 182, 0, 159, 54, 6, 44, 182, 0, 149, 21, 5, 159, 0, 5, 3, 172, 21, 5, 154, 0, 15, 45]
abbrev dktL_law_12 : List UInt8 := dkwL_law_12 ++ dktL_law_13
def dkwL_law_11 : List UInt8 := [46, 42, 21, 4, 5, 96, 46, 45, 184, 0, 156, 54, 5, 44, 42, 21, 4, 4, 96, 46, 42, 21, 4, 5]
abbrev dktL_law_11 : List UInt8 := dkwL_law_11 ++ dktL_law_12
def dkwL_law_10 : List UInt8 := [154, 0, 15, 45, 3, 47, 21, 6, 133, 148, 153, 0, 5, 3, 172, 167, 10, 141, 43, 42, 21, 4, 4, 96]
abbrev dktL_law_10 : List UInt8 := dkwL_law_10 ++ dktL_law_11
def dkwL_law_9 : List UInt8 := [21, 4, 6, 96, 46, 182, 0, 155, 54, 6, 44, 182, 0, 149, 21, 5, 159, 0, 5, 3, 172, 21, 5]
abbrev dktL_law_9 : List UInt8 := dkwL_law_9 ++ dktL_law_10
def dkwL_law_8 : List UInt8 := [6, 96, 46, 45, 184, 0, 152, 54, 5, 44, 42, 21, 4, 4, 96, 46, 42, 21, 4, 5, 96, 46, 42]
abbrev dktL_law_8 : List UInt8 := dkwL_law_8 ++ dktL_law_9
def dkwL_law_7 : List UInt8 := [153, 0, 5, 3, 172, 167, 10, 221, 43, 42, 21, 4, 4, 96, 46, 42, 21, 4, 5, 96, 46, 42, 21, 4]
abbrev dktL_law_7 : List UInt8 := dkwL_law_7 ++ dktL_law_8
def dkwL_law_6 : List UInt8 := [182, 0, 149, 21, 5, 159, 0, 5, 3, 172, 21, 5, 154, 0, 15, 45, 3, 47, 21, 6, 133, 148]
abbrev dktL_law_6 : List UInt8 := dkwL_law_6 ++ dktL_law_7
def dkwL_law_5 : List UInt8 := [167, 0, 4, 3, 42, 21, 4, 5, 96, 46, 153, 0, 7, 4, 167, 0, 4, 3, 182, 0, 148, 54, 6, 44]
abbrev dktL_law_5 : List UInt8 := dkwL_law_5 ++ dktL_law_6
def dkwL_law_4 : List UInt8 := [4, 167, 0, 4, 3, 45, 184, 0, 143, 54, 5, 44, 42, 21, 4, 4, 96, 46, 153, 0, 7, 4]
abbrev dktL_law_4 : List UInt8 := dkwL_law_4 ++ dktL_law_5
def dkwL_law_3 : List UInt8 := [43, 42, 21, 4, 4, 96, 46, 153, 0, 7, 4, 167, 0, 4, 3, 42, 21, 4, 5, 96, 46, 153, 0, 7]
abbrev dktL_law_3 : List UInt8 := dkwL_law_3 ++ dktL_law_4
def dkwL_law_2 : List UInt8 := [170, 0, 0, 0, 0, 0, 11, 238, 0, 0, 0, 0, 0, 0, 0, 39, 0, 0, 0, 176, 0, 0, 1, 20, 0, 0, 1, 100, 0, 0, 1, 168, 0, 0, 1, 236, 0, 0, 1, 249, 0, 0, 2, 85, 0, 0, 2, 177, 0, 0, 3, 13, 0, 0, 3, 105, 0, 0, 3, 185, 0, 0, 4, 9, 0, 0, 4, 77, 0, 0, 4, 157, 0, 0, 5, 19, 0, 0, 5, 99, 0, 0, 5, 155, 0, 0, 5, 223, 0, 0, 6, 35, 0, 0, 6, 91, 0, 0, 6, 147, 0, 0, 6, 219, 0, 0, 7, 7, 0, 0, 7, 20, 0, 0, 7, 100, 0, 0, 7, 180, 0, 0, 8, 4, 0, 0, 8, 60, 0, 0, 8, 116, 0, 0, 8, 184, 0, 0, 8, 252, 0, 0, 9, 64, 0, 0, 9, 156, 0, 0, 9, 236, 0, 0, 10, 48, 0, 0, 10, 147, 0, 0, 10, 227, 0, 0, 11, 39, 0, 0, 11, 107, 0, 0, 11, 163]
abbrev dktL_law_2 : List UInt8 := dkwL_law_2 ++ dktL_law_3
def dkwL_law_1 : List UInt8 := [21, 4, 42, 190, 16, 7, 100, 163, 11, 254, 42, 21, 4, 46, 16, 63, 126]
abbrev dktL_law_1 : List UInt8 := dkwL_law_1 ++ dktL_law_2
def dkwL_law_0 : List UInt8 := [187, 0, 8, 89, 183, 0, 139, 76, 187, 0, 140, 89, 183, 0, 142, 77, 4, 188, 11, 78, 3, 54, 4]
abbrev dktL_law_0 : List UInt8 := dkwL_law_0 ++ dktL_law_1
theorem dksL_law_0 : cL_law.data.toList.drop 0 = dktL_law_0 := by decide +kernel
theorem dksL_law_1 : cL_law.data.toList.drop 23 = dktL_law_1 := dk_seg dksL_law_0 23 rfl rfl
theorem dksL_law_2 : cL_law.data.toList.drop 40 = dktL_law_2 := dk_seg dksL_law_1 17 rfl rfl
theorem dksL_law_3 : cL_law.data.toList.drop 216 = dktL_law_3 := dk_seg dksL_law_2 176 rfl rfl
theorem dksL_law_4 : cL_law.data.toList.drop 240 = dktL_law_4 := dk_seg dksL_law_3 24 rfl rfl
theorem dksL_law_5 : cL_law.data.toList.drop 262 = dktL_law_5 := dk_seg dksL_law_4 22 rfl rfl
theorem dksL_law_6 : cL_law.data.toList.drop 286 = dktL_law_6 := dk_seg dksL_law_5 24 rfl rfl
theorem dksL_law_7 : cL_law.data.toList.drop 308 = dktL_law_7 := dk_seg dksL_law_6 22 rfl rfl
theorem dksL_law_8 : cL_law.data.toList.drop 332 = dktL_law_8 := dk_seg dksL_law_7 24 rfl rfl
theorem dksL_law_9 : cL_law.data.toList.drop 355 = dktL_law_9 := dk_seg dksL_law_8 23 rfl rfl
theorem dksL_law_10 : cL_law.data.toList.drop 378 = dktL_law_10 := dk_seg dksL_law_9 23 rfl rfl
theorem dksL_law_11 : cL_law.data.toList.drop 402 = dktL_law_11 := dk_seg dksL_law_10 24 rfl rfl
theorem dksL_law_12 : cL_law.data.toList.drop 426 = dktL_law_12 := dk_seg dksL_law_11 24 rfl rfl
theorem dksL_law_13 : cL_law.data.toList.drop 450 = dktL_law_13 := dk_seg dksL_law_12 24 rfl rfl
theorem dksL_law_14 : cL_law.data.toList.drop 474 = dktL_law_14 := dk_seg dksL_law_13 24 rfl rfl
theorem dksL_law_15 : cL_law.data.toList.drop 496 = dktL_law_15 := dk_seg dksL_law_14 22 rfl rfl
theorem dksL_law_16 : cL_law.data.toList.drop 520 = dktL_law_16 := dk_seg dksL_law_15 24 rfl rfl
theorem dksL_law_17 : cL_law.data.toList.drop 544 = dktL_law_17 := dk_seg dksL_law_16 24 rfl rfl
theorem dksL_law_18 : cL_law.data.toList.drop 568 = dktL_law_18 := dk_seg dksL_law_17 24 rfl rfl
theorem dksL_law_19 : cL_law.data.toList.drop 592 = dktL_law_19 := dk_seg dksL_law_18 24 rfl rfl
theorem dksL_law_20 : cL_law.data.toList.drop 616 = dktL_law_20 := dk_seg dksL_law_19 24 rfl rfl
theorem dksL_law_21 : cL_law.data.toList.drop 639 = dktL_law_21 := dk_seg dksL_law_20 23 rfl rfl
theorem dksL_law_22 : cL_law.data.toList.drop 663 = dktL_law_22 := dk_seg dksL_law_21 24 rfl rfl
theorem dksL_law_23 : cL_law.data.toList.drop 687 = dktL_law_23 := dk_seg dksL_law_22 24 rfl rfl
theorem dksL_law_24 : cL_law.data.toList.drop 711 = dktL_law_24 := dk_seg dksL_law_23 24 rfl rfl
theorem dksL_law_25 : cL_law.data.toList.drop 735 = dktL_law_25 := dk_seg dksL_law_24 24 rfl rfl
theorem dksL_law_26 : cL_law.data.toList.drop 758 = dktL_law_26 := dk_seg dksL_law_25 23 rfl rfl
theorem dksL_law_27 : cL_law.data.toList.drop 782 = dktL_law_27 := dk_seg dksL_law_26 24 rfl rfl
theorem dksL_law_28 : cL_law.data.toList.drop 806 = dktL_law_28 := dk_seg dksL_law_27 24 rfl rfl
theorem dksL_law_29 : cL_law.data.toList.drop 829 = dktL_law_29 := dk_seg dksL_law_28 23 rfl rfl
theorem dksL_law_30 : cL_law.data.toList.drop 853 = dktL_law_30 := dk_seg dksL_law_29 24 rfl rfl
theorem dksL_law_31 : cL_law.data.toList.drop 877 = dktL_law_31 := dk_seg dksL_law_30 24 rfl rfl
theorem dksL_law_32 : cL_law.data.toList.drop 901 = dktL_law_32 := dk_seg dksL_law_31 24 rfl rfl
theorem dksL_law_33 : cL_law.data.toList.drop 925 = dktL_law_33 := dk_seg dksL_law_32 24 rfl rfl
theorem dksL_law_34 : cL_law.data.toList.drop 949 = dktL_law_34 := dk_seg dksL_law_33 24 rfl rfl
theorem dksL_law_35 : cL_law.data.toList.drop 973 = dktL_law_35 := dk_seg dksL_law_34 24 rfl rfl
theorem dksL_law_36 : cL_law.data.toList.drop 997 = dktL_law_36 := dk_seg dksL_law_35 24 rfl rfl
theorem dksL_law_37 : cL_law.data.toList.drop 1020 = dktL_law_37 := dk_seg dksL_law_36 23 rfl rfl
theorem dksL_law_38 : cL_law.data.toList.drop 1043 = dktL_law_38 := dk_seg dksL_law_37 23 rfl rfl
theorem dksL_law_39 : cL_law.data.toList.drop 1065 = dktL_law_39 := dk_seg dksL_law_38 22 rfl rfl
theorem dksL_law_40 : cL_law.data.toList.drop 1087 = dktL_law_40 := dk_seg dksL_law_39 22 rfl rfl
theorem dksL_law_41 : cL_law.data.toList.drop 1111 = dktL_law_41 := dk_seg dksL_law_40 24 rfl rfl
theorem dksL_law_42 : cL_law.data.toList.drop 1133 = dktL_law_42 := dk_seg dksL_law_41 22 rfl rfl
theorem dksL_law_43 : cL_law.data.toList.drop 1157 = dktL_law_43 := dk_seg dksL_law_42 24 rfl rfl
theorem dksL_law_44 : cL_law.data.toList.drop 1180 = dktL_law_44 := dk_seg dksL_law_43 23 rfl rfl
theorem dksL_law_45 : cL_law.data.toList.drop 1203 = dktL_law_45 := dk_seg dksL_law_44 23 rfl rfl
theorem dksL_law_46 : cL_law.data.toList.drop 1227 = dktL_law_46 := dk_seg dksL_law_45 24 rfl rfl
theorem dksL_law_47 : cL_law.data.toList.drop 1251 = dktL_law_47 := dk_seg dksL_law_46 24 rfl rfl
theorem dksL_law_48 : cL_law.data.toList.drop 1275 = dktL_law_48 := dk_seg dksL_law_47 24 rfl rfl
theorem dksL_law_49 : cL_law.data.toList.drop 1299 = dktL_law_49 := dk_seg dksL_law_48 24 rfl rfl
theorem dksL_law_50 : cL_law.data.toList.drop 1321 = dktL_law_50 := dk_seg dksL_law_49 22 rfl rfl
theorem dksL_law_51 : cL_law.data.toList.drop 1345 = dktL_law_51 := dk_seg dksL_law_50 24 rfl rfl
theorem dksL_law_52 : cL_law.data.toList.drop 1369 = dktL_law_52 := dk_seg dksL_law_51 24 rfl rfl
theorem dksL_law_53 : cL_law.data.toList.drop 1392 = dktL_law_53 := dk_seg dksL_law_52 23 rfl rfl
theorem dksL_law_54 : cL_law.data.toList.drop 1416 = dktL_law_54 := dk_seg dksL_law_53 24 rfl rfl
theorem dksL_law_55 : cL_law.data.toList.drop 1439 = dktL_law_55 := dk_seg dksL_law_54 23 rfl rfl
theorem dksL_law_56 : cL_law.data.toList.drop 1463 = dktL_law_56 := dk_seg dksL_law_55 24 rfl rfl
theorem dksL_law_57 : cL_law.data.toList.drop 1487 = dktL_law_57 := dk_seg dksL_law_56 24 rfl rfl
theorem dksL_law_58 : cL_law.data.toList.drop 1510 = dktL_law_58 := dk_seg dksL_law_57 23 rfl rfl
theorem dksL_law_59 : cL_law.data.toList.drop 1534 = dktL_law_59 := dk_seg dksL_law_58 24 rfl rfl
theorem dksL_law_60 : cL_law.data.toList.drop 1557 = dktL_law_60 := dk_seg dksL_law_59 23 rfl rfl
theorem dksL_law_61 : cL_law.data.toList.drop 1581 = dktL_law_61 := dk_seg dksL_law_60 24 rfl rfl
theorem dksL_law_62 : cL_law.data.toList.drop 1603 = dktL_law_62 := dk_seg dksL_law_61 22 rfl rfl
theorem dksL_law_63 : cL_law.data.toList.drop 1626 = dktL_law_63 := dk_seg dksL_law_62 23 rfl rfl
theorem dksL_law_64 : cL_law.data.toList.drop 1649 = dktL_law_64 := dk_seg dksL_law_63 23 rfl rfl
theorem dksL_law_65 : cL_law.data.toList.drop 1673 = dktL_law_65 := dk_seg dksL_law_64 24 rfl rfl
theorem dksL_law_66 : cL_law.data.toList.drop 1696 = dktL_law_66 := dk_seg dksL_law_65 23 rfl rfl
theorem dksL_law_67 : cL_law.data.toList.drop 1720 = dktL_law_67 := dk_seg dksL_law_66 24 rfl rfl
theorem dksL_law_68 : cL_law.data.toList.drop 1744 = dktL_law_68 := dk_seg dksL_law_67 24 rfl rfl
theorem dksL_law_69 : cL_law.data.toList.drop 1768 = dktL_law_69 := dk_seg dksL_law_68 24 rfl rfl
theorem dksL_law_70 : cL_law.data.toList.drop 1792 = dktL_law_70 := dk_seg dksL_law_69 24 rfl rfl
theorem dksL_law_71 : cL_law.data.toList.drop 1814 = dktL_law_71 := dk_seg dksL_law_70 22 rfl rfl
theorem dksL_law_72 : cL_law.data.toList.drop 1836 = dktL_law_72 := dk_seg dksL_law_71 22 rfl rfl
theorem dksL_law_73 : cL_law.data.toList.drop 1860 = dktL_law_73 := dk_seg dksL_law_72 24 rfl rfl
theorem dksL_law_74 : cL_law.data.toList.drop 1884 = dktL_law_74 := dk_seg dksL_law_73 24 rfl rfl
theorem dksL_law_75 : cL_law.data.toList.drop 1907 = dktL_law_75 := dk_seg dksL_law_74 23 rfl rfl
theorem dksL_law_76 : cL_law.data.toList.drop 1929 = dktL_law_76 := dk_seg dksL_law_75 22 rfl rfl
theorem dksL_law_77 : cL_law.data.toList.drop 1952 = dktL_law_77 := dk_seg dksL_law_76 23 rfl rfl
theorem dksL_law_78 : cL_law.data.toList.drop 1976 = dktL_law_78 := dk_seg dksL_law_77 24 rfl rfl
theorem dksL_law_79 : cL_law.data.toList.drop 2000 = dktL_law_79 := dk_seg dksL_law_78 24 rfl rfl
theorem dksL_law_80 : cL_law.data.toList.drop 2024 = dktL_law_80 := dk_seg dksL_law_79 24 rfl rfl
theorem dksL_law_81 : cL_law.data.toList.drop 2048 = dktL_law_81 := dk_seg dksL_law_80 24 rfl rfl
theorem dksL_law_82 : cL_law.data.toList.drop 2072 = dktL_law_82 := dk_seg dksL_law_81 24 rfl rfl
theorem dksL_law_83 : cL_law.data.toList.drop 2096 = dktL_law_83 := dk_seg dksL_law_82 24 rfl rfl
theorem dksL_law_84 : cL_law.data.toList.drop 2118 = dktL_law_84 := dk_seg dksL_law_83 22 rfl rfl
theorem dksL_law_85 : cL_law.data.toList.drop 2140 = dktL_law_85 := dk_seg dksL_law_84 22 rfl rfl
theorem dksL_law_86 : cL_law.data.toList.drop 2163 = dktL_law_86 := dk_seg dksL_law_85 23 rfl rfl
theorem dksL_law_87 : cL_law.data.toList.drop 2186 = dktL_law_87 := dk_seg dksL_law_86 23 rfl rfl
theorem dksL_law_88 : cL_law.data.toList.drop 2210 = dktL_law_88 := dk_seg dksL_law_87 24 rfl rfl
theorem dksL_law_89 : cL_law.data.toList.drop 2234 = dktL_law_89 := dk_seg dksL_law_88 24 rfl rfl
theorem dksL_law_90 : cL_law.data.toList.drop 2258 = dktL_law_90 := dk_seg dksL_law_89 24 rfl rfl
theorem dksL_law_91 : cL_law.data.toList.drop 2282 = dktL_law_91 := dk_seg dksL_law_90 24 rfl rfl
theorem dksL_law_92 : cL_law.data.toList.drop 2304 = dktL_law_92 := dk_seg dksL_law_91 22 rfl rfl
theorem dksL_law_93 : cL_law.data.toList.drop 2328 = dktL_law_93 := dk_seg dksL_law_92 24 rfl rfl
theorem dksL_law_94 : cL_law.data.toList.drop 2352 = dktL_law_94 := dk_seg dksL_law_93 24 rfl rfl
theorem dksL_law_95 : cL_law.data.toList.drop 2375 = dktL_law_95 := dk_seg dksL_law_94 23 rfl rfl
theorem dksL_law_96 : cL_law.data.toList.drop 2399 = dktL_law_96 := dk_seg dksL_law_95 24 rfl rfl
theorem dksL_law_97 : cL_law.data.toList.drop 2422 = dktL_law_97 := dk_seg dksL_law_96 23 rfl rfl
theorem dksL_law_98 : cL_law.data.toList.drop 2446 = dktL_law_98 := dk_seg dksL_law_97 24 rfl rfl
theorem dksL_law_99 : cL_law.data.toList.drop 2470 = dktL_law_99 := dk_seg dksL_law_98 24 rfl rfl
theorem dksL_law_100 : cL_law.data.toList.drop 2492 = dktL_law_100 := dk_seg dksL_law_99 22 rfl rfl
theorem dksL_law_101 : cL_law.data.toList.drop 2516 = dktL_law_101 := dk_seg dksL_law_100 24 rfl rfl
theorem dksL_law_102 : cL_law.data.toList.drop 2539 = dktL_law_102 := dk_seg dksL_law_101 23 rfl rfl
theorem dksL_law_103 : cL_law.data.toList.drop 2562 = dktL_law_103 := dk_seg dksL_law_102 23 rfl rfl
theorem dksL_law_104 : cL_law.data.toList.drop 2586 = dktL_law_104 := dk_seg dksL_law_103 24 rfl rfl
theorem dksL_law_105 : cL_law.data.toList.drop 2610 = dktL_law_105 := dk_seg dksL_law_104 24 rfl rfl
theorem dksL_law_106 : cL_law.data.toList.drop 2634 = dktL_law_106 := dk_seg dksL_law_105 24 rfl rfl
theorem dksL_law_107 : cL_law.data.toList.drop 2658 = dktL_law_107 := dk_seg dksL_law_106 24 rfl rfl
theorem dksL_law_108 : cL_law.data.toList.drop 2681 = dktL_law_108 := dk_seg dksL_law_107 23 rfl rfl
theorem dksL_law_109 : cL_law.data.toList.drop 2704 = dktL_law_109 := dk_seg dksL_law_108 23 rfl rfl
theorem dksL_law_110 : cL_law.data.toList.drop 2728 = dktL_law_110 := dk_seg dksL_law_109 24 rfl rfl
theorem dksL_law_111 : cL_law.data.toList.drop 2752 = dktL_law_111 := dk_seg dksL_law_110 24 rfl rfl
theorem dksL_law_112 : cL_law.data.toList.drop 2776 = dktL_law_112 := dk_seg dksL_law_111 24 rfl rfl
theorem dksL_law_113 : cL_law.data.toList.drop 2800 = dktL_law_113 := dk_seg dksL_law_112 24 rfl rfl
theorem dksL_law_114 : cL_law.data.toList.drop 2824 = dktL_law_114 := dk_seg dksL_law_113 24 rfl rfl
theorem dksL_law_115 : cL_law.data.toList.drop 2848 = dktL_law_115 := dk_seg dksL_law_114 24 rfl rfl
theorem dksL_law_116 : cL_law.data.toList.drop 2870 = dktL_law_116 := dk_seg dksL_law_115 22 rfl rfl
theorem dksL_law_117 : cL_law.data.toList.drop 2892 = dktL_law_117 := dk_seg dksL_law_116 22 rfl rfl
theorem dksL_law_118 : cL_law.data.toList.drop 2916 = dktL_law_118 := dk_seg dksL_law_117 24 rfl rfl
theorem dksL_law_119 : cL_law.data.toList.drop 2938 = dktL_law_119 := dk_seg dksL_law_118 22 rfl rfl
theorem dksL_law_120 : cL_law.data.toList.drop 2960 = dktL_law_120 := dk_seg dksL_law_119 22 rfl rfl
theorem dksL_law_121 : cL_law.data.toList.drop 2983 = dktL_law_121 := dk_seg dksL_law_120 23 rfl rfl
theorem dksL_law_122 : cL_law.data.toList.drop 3007 = dktL_law_122 := dk_seg dksL_law_121 24 rfl rfl
theorem dksL_law_123 : cL_law.data.toList.drop 3031 = dktL_law_123 := dk_seg dksL_law_122 24 rfl rfl
theorem dksL_law_124 : cL_law.data.toList.drop 3054 = dktL_law_124 := dk_seg dksL_law_123 23 rfl rfl
theorem dksL_law_125 : cL_law.data.toList.drop 3077 = dktL_law_125 := dk_seg dksL_law_124 23 rfl rfl
theorem dksL_law_126 : cL_law.data.toList.drop 3101 = dktL_law_126 := dk_seg dksL_law_125 24 rfl rfl
theorem dL_law_0 : decode cL_law 0 = .ok (.new 8, 3) := dk_187 0 8 (dk_at dksL_law_0 0 rfl rfl)
theorem dL_law_3 : decode cL_law 3 = .ok (.dup, 1) := dk_89 (dk_at dksL_law_0 3 rfl rfl)
theorem dL_law_4 : decode cL_law 4 = .ok (.invokespecial 139, 3) := dk_183 0 139 (dk_at dksL_law_0 4 rfl rfl)
theorem dL_law_7 : decode cL_law 7 = .ok (.astore_n 1, 1) := dk_76 (dk_at dksL_law_0 7 rfl rfl)
theorem dL_law_8 : decode cL_law 8 = .ok (.new 140, 3) := dk_187 0 140 (dk_at dksL_law_0 8 rfl rfl)
theorem dL_law_11 : decode cL_law 11 = .ok (.dup, 1) := dk_89 (dk_at dksL_law_0 11 rfl rfl)
theorem dL_law_12 : decode cL_law 12 = .ok (.invokespecial 142, 3) := dk_183 0 142 (dk_at dksL_law_0 12 rfl rfl)
theorem dL_law_15 : decode cL_law 15 = .ok (.astore_n 2, 1) := dk_77 (dk_at dksL_law_0 15 rfl rfl)
theorem dL_law_16 : decode cL_law 16 = .ok (.iconst 1, 1) := dk_4 (dk_at dksL_law_0 16 rfl rfl)
theorem dL_law_17 : decode cL_law 17 = .ok (.newarray .long, 2) := dk_188_11 (dk_at dksL_law_0 17 rfl rfl)
theorem dL_law_19 : decode cL_law 19 = .ok (.astore_n 3, 1) := dk_78 (dk_at dksL_law_0 19 rfl rfl)
theorem dL_law_20 : decode cL_law 20 = .ok (.iconst 0, 1) := dk_3 (dk_at dksL_law_0 20 rfl rfl)
theorem dL_law_21 : decode cL_law 21 = .ok (.istore 4, 2) := dk_54 4 (dk_at dksL_law_0 21 rfl rfl)
theorem dL_law_23 : decode cL_law 23 = .ok (.iload 4, 2) := dk_21 4 (dk_at dksL_law_1 0 rfl rfl)
theorem dL_law_25 : decode cL_law 25 = .ok (.aload_n 0, 1) := dk_42 (dk_at dksL_law_1 2 rfl rfl)
theorem dL_law_26 : decode cL_law 26 = .ok (.arraylength, 1) := dk_190 (dk_at dksL_law_1 3 rfl rfl)
theorem dL_law_27 : decode cL_law 27 = .ok (.bipush 7, 2) := dk_16 7 (dk_at dksL_law_1 4 rfl rfl)
theorem dL_law_29 : decode cL_law 29 = .ok (.isub, 1) := dk_100 (dk_at dksL_law_1 6 rfl rfl)
theorem dL_law_30 : decode cL_law 30 = .ok (.if_icmp .gt 3070, 3) := dk_163 11 254 (dk_at dksL_law_1 7 rfl rfl)
theorem dL_law_33 : decode cL_law 33 = .ok (.aload_n 0, 1) := dk_42 (dk_at dksL_law_1 10 rfl rfl)
theorem dL_law_34 : decode cL_law 34 = .ok (.iload 4, 2) := dk_21 4 (dk_at dksL_law_1 11 rfl rfl)
theorem dL_law_36 : decode cL_law 36 = .ok (.iaload, 1) := dk_46 (dk_at dksL_law_1 13 rfl rfl)
theorem dL_law_37 : decode cL_law 37 = .ok (.bipush 63, 2) := dk_16 63 (dk_at dksL_law_1 14 rfl rfl)
theorem dL_law_39 : decode cL_law 39 = .ok (.iand, 1) := dk_126 (dk_at dksL_law_1 16 rfl rfl)
theorem dL_law_40 : decode cL_law 40 = .ok (.tableswitch 3054 0 39 #[176, 276, 356, 424, 492, 505, 597, 689, 781, 873, 953, 1033, 1101, 1181, 1299, 1379, 1435, 1503, 1571, 1627, 1683, 1755, 1799, 1812, 1892, 1972, 2052, 2108, 2164, 2232, 2300, 2368, 2460, 2540, 2608, 2707, 2787, 2855, 2923, 2979], 176) := by decide +kernel
theorem dL_law_216 : decode cL_law 216 = .ok (.aload_n 1, 1) := dk_43 (dk_at dksL_law_3 0 rfl rfl)
theorem dL_law_217 : decode cL_law 217 = .ok (.aload_n 0, 1) := dk_42 (dk_at dksL_law_3 1 rfl rfl)
theorem dL_law_218 : decode cL_law 218 = .ok (.iload 4, 2) := dk_21 4 (dk_at dksL_law_3 2 rfl rfl)
theorem dL_law_220 : decode cL_law 220 = .ok (.iconst 1, 1) := dk_4 (dk_at dksL_law_3 4 rfl rfl)
theorem dL_law_221 : decode cL_law 221 = .ok (.iadd, 1) := dk_96 (dk_at dksL_law_3 5 rfl rfl)
theorem dL_law_222 : decode cL_law 222 = .ok (.iaload, 1) := dk_46 (dk_at dksL_law_3 6 rfl rfl)
theorem dL_law_223 : decode cL_law 223 = .ok (.ifCond .eq 7, 3) := dk_153 0 7 (dk_at dksL_law_3 7 rfl rfl)
theorem dL_law_226 : decode cL_law 226 = .ok (.iconst 1, 1) := dk_4 (dk_at dksL_law_3 10 rfl rfl)
theorem dL_law_227 : decode cL_law 227 = .ok (.goto 4, 3) := dk_167 0 4 (dk_at dksL_law_3 11 rfl rfl)
theorem dL_law_230 : decode cL_law 230 = .ok (.iconst 0, 1) := dk_3 (dk_at dksL_law_3 14 rfl rfl)
theorem dL_law_231 : decode cL_law 231 = .ok (.aload_n 0, 1) := dk_42 (dk_at dksL_law_3 15 rfl rfl)
theorem dL_law_232 : decode cL_law 232 = .ok (.iload 4, 2) := dk_21 4 (dk_at dksL_law_3 16 rfl rfl)
theorem dL_law_234 : decode cL_law 234 = .ok (.iconst 2, 1) := dk_5 (dk_at dksL_law_3 18 rfl rfl)
theorem dL_law_235 : decode cL_law 235 = .ok (.iadd, 1) := dk_96 (dk_at dksL_law_3 19 rfl rfl)
theorem dL_law_236 : decode cL_law 236 = .ok (.iaload, 1) := dk_46 (dk_at dksL_law_3 20 rfl rfl)
theorem dL_law_237 : decode cL_law 237 = .ok (.ifCond .eq 7, 3) := dk_153 0 7 (dk_at dksL_law_3 21 rfl rfl)
theorem dL_law_240 : decode cL_law 240 = .ok (.iconst 1, 1) := dk_4 (dk_at dksL_law_4 0 rfl rfl)
theorem dL_law_241 : decode cL_law 241 = .ok (.goto 4, 3) := dk_167 0 4 (dk_at dksL_law_4 1 rfl rfl)
theorem dL_law_244 : decode cL_law 244 = .ok (.iconst 0, 1) := dk_3 (dk_at dksL_law_4 4 rfl rfl)
theorem dL_law_245 : decode cL_law 245 = .ok (.aload_n 3, 1) := dk_45 (dk_at dksL_law_4 5 rfl rfl)
theorem dL_law_246 : decode cL_law 246 = .ok (.invokestatic 143, 3) := dk_184 0 143 (dk_at dksL_law_4 6 rfl rfl)
theorem dL_law_249 : decode cL_law 249 = .ok (.istore 5, 2) := dk_54 5 (dk_at dksL_law_4 9 rfl rfl)
theorem dL_law_251 : decode cL_law 251 = .ok (.aload_n 2, 1) := dk_44 (dk_at dksL_law_4 11 rfl rfl)
theorem dL_law_252 : decode cL_law 252 = .ok (.aload_n 0, 1) := dk_42 (dk_at dksL_law_4 12 rfl rfl)
theorem dL_law_253 : decode cL_law 253 = .ok (.iload 4, 2) := dk_21 4 (dk_at dksL_law_4 13 rfl rfl)
theorem dL_law_255 : decode cL_law 255 = .ok (.iconst 1, 1) := dk_4 (dk_at dksL_law_4 15 rfl rfl)
theorem dL_law_256 : decode cL_law 256 = .ok (.iadd, 1) := dk_96 (dk_at dksL_law_4 16 rfl rfl)
theorem dL_law_257 : decode cL_law 257 = .ok (.iaload, 1) := dk_46 (dk_at dksL_law_4 17 rfl rfl)
theorem dL_law_258 : decode cL_law 258 = .ok (.ifCond .eq 7, 3) := dk_153 0 7 (dk_at dksL_law_4 18 rfl rfl)
theorem dL_law_261 : decode cL_law 261 = .ok (.iconst 1, 1) := dk_4 (dk_at dksL_law_4 21 rfl rfl)
theorem dL_law_262 : decode cL_law 262 = .ok (.goto 4, 3) := dk_167 0 4 (dk_at dksL_law_5 0 rfl rfl)
theorem dL_law_265 : decode cL_law 265 = .ok (.iconst 0, 1) := dk_3 (dk_at dksL_law_5 3 rfl rfl)
theorem dL_law_266 : decode cL_law 266 = .ok (.aload_n 0, 1) := dk_42 (dk_at dksL_law_5 4 rfl rfl)
theorem dL_law_267 : decode cL_law 267 = .ok (.iload 4, 2) := dk_21 4 (dk_at dksL_law_5 5 rfl rfl)
theorem dL_law_269 : decode cL_law 269 = .ok (.iconst 2, 1) := dk_5 (dk_at dksL_law_5 7 rfl rfl)
theorem dL_law_270 : decode cL_law 270 = .ok (.iadd, 1) := dk_96 (dk_at dksL_law_5 8 rfl rfl)
theorem dL_law_271 : decode cL_law 271 = .ok (.iaload, 1) := dk_46 (dk_at dksL_law_5 9 rfl rfl)
theorem dL_law_272 : decode cL_law 272 = .ok (.ifCond .eq 7, 3) := dk_153 0 7 (dk_at dksL_law_5 10 rfl rfl)
theorem dL_law_275 : decode cL_law 275 = .ok (.iconst 1, 1) := dk_4 (dk_at dksL_law_5 13 rfl rfl)
theorem dL_law_276 : decode cL_law 276 = .ok (.goto 4, 3) := dk_167 0 4 (dk_at dksL_law_5 14 rfl rfl)
theorem dL_law_279 : decode cL_law 279 = .ok (.iconst 0, 1) := dk_3 (dk_at dksL_law_5 17 rfl rfl)
theorem dL_law_280 : decode cL_law 280 = .ok (.invokevirtual 148, 3) := dk_182 0 148 (dk_at dksL_law_5 18 rfl rfl)
theorem dL_law_283 : decode cL_law 283 = .ok (.istore 6, 2) := dk_54 6 (dk_at dksL_law_5 21 rfl rfl)
theorem dL_law_285 : decode cL_law 285 = .ok (.aload_n 2, 1) := dk_44 (dk_at dksL_law_5 23 rfl rfl)
theorem dL_law_286 : decode cL_law 286 = .ok (.invokevirtual 149, 3) := dk_182 0 149 (dk_at dksL_law_6 0 rfl rfl)
theorem dL_law_289 : decode cL_law 289 = .ok (.iload 5, 2) := dk_21 5 (dk_at dksL_law_6 3 rfl rfl)
theorem dL_law_291 : decode cL_law 291 = .ok (.if_icmp .eq 5, 3) := dk_159 0 5 (dk_at dksL_law_6 5 rfl rfl)
theorem dL_law_294 : decode cL_law 294 = .ok (.iconst 0, 1) := dk_3 (dk_at dksL_law_6 8 rfl rfl)
theorem dL_law_295 : decode cL_law 295 = .ok (.ireturn, 1) := dk_172 (dk_at dksL_law_6 9 rfl rfl)
theorem dL_law_296 : decode cL_law 296 = .ok (.iload 5, 2) := dk_21 5 (dk_at dksL_law_6 10 rfl rfl)
theorem dL_law_298 : decode cL_law 298 = .ok (.ifCond .ne 15, 3) := dk_154 0 15 (dk_at dksL_law_6 12 rfl rfl)
theorem dL_law_301 : decode cL_law 301 = .ok (.aload_n 3, 1) := dk_45 (dk_at dksL_law_6 15 rfl rfl)
theorem dL_law_302 : decode cL_law 302 = .ok (.iconst 0, 1) := dk_3 (dk_at dksL_law_6 16 rfl rfl)
theorem dL_law_303 : decode cL_law 303 = .ok (.laload, 1) := dk_47 (dk_at dksL_law_6 17 rfl rfl)
theorem dL_law_304 : decode cL_law 304 = .ok (.iload 6, 2) := dk_21 6 (dk_at dksL_law_6 18 rfl rfl)
theorem dL_law_306 : decode cL_law 306 = .ok (.i2l, 1) := dk_133 (dk_at dksL_law_6 20 rfl rfl)
theorem dL_law_307 : decode cL_law 307 = .ok (.lcmp, 1) := dk_148 (dk_at dksL_law_6 21 rfl rfl)
theorem dL_law_308 : decode cL_law 308 = .ok (.ifCond .eq 5, 3) := dk_153 0 5 (dk_at dksL_law_7 0 rfl rfl)
theorem dL_law_311 : decode cL_law 311 = .ok (.iconst 0, 1) := dk_3 (dk_at dksL_law_7 3 rfl rfl)
theorem dL_law_312 : decode cL_law 312 = .ok (.ireturn, 1) := dk_172 (dk_at dksL_law_7 4 rfl rfl)
theorem dL_law_313 : decode cL_law 313 = .ok (.goto 2781, 3) := dk_167 10 221 (dk_at dksL_law_7 5 rfl rfl)
theorem dL_law_316 : decode cL_law 316 = .ok (.aload_n 1, 1) := dk_43 (dk_at dksL_law_7 8 rfl rfl)
theorem dL_law_317 : decode cL_law 317 = .ok (.aload_n 0, 1) := dk_42 (dk_at dksL_law_7 9 rfl rfl)
theorem dL_law_318 : decode cL_law 318 = .ok (.iload 4, 2) := dk_21 4 (dk_at dksL_law_7 10 rfl rfl)
theorem dL_law_320 : decode cL_law 320 = .ok (.iconst 1, 1) := dk_4 (dk_at dksL_law_7 12 rfl rfl)
theorem dL_law_321 : decode cL_law 321 = .ok (.iadd, 1) := dk_96 (dk_at dksL_law_7 13 rfl rfl)
theorem dL_law_322 : decode cL_law 322 = .ok (.iaload, 1) := dk_46 (dk_at dksL_law_7 14 rfl rfl)
theorem dL_law_323 : decode cL_law 323 = .ok (.aload_n 0, 1) := dk_42 (dk_at dksL_law_7 15 rfl rfl)
theorem dL_law_324 : decode cL_law 324 = .ok (.iload 4, 2) := dk_21 4 (dk_at dksL_law_7 16 rfl rfl)
theorem dL_law_326 : decode cL_law 326 = .ok (.iconst 2, 1) := dk_5 (dk_at dksL_law_7 18 rfl rfl)
theorem dL_law_327 : decode cL_law 327 = .ok (.iadd, 1) := dk_96 (dk_at dksL_law_7 19 rfl rfl)
theorem dL_law_328 : decode cL_law 328 = .ok (.iaload, 1) := dk_46 (dk_at dksL_law_7 20 rfl rfl)
theorem dL_law_329 : decode cL_law 329 = .ok (.aload_n 0, 1) := dk_42 (dk_at dksL_law_7 21 rfl rfl)
theorem dL_law_330 : decode cL_law 330 = .ok (.iload 4, 2) := dk_21 4 (dk_at dksL_law_7 22 rfl rfl)
theorem dL_law_332 : decode cL_law 332 = .ok (.iconst 3, 1) := dk_6 (dk_at dksL_law_8 0 rfl rfl)
theorem dL_law_333 : decode cL_law 333 = .ok (.iadd, 1) := dk_96 (dk_at dksL_law_8 1 rfl rfl)
theorem dL_law_334 : decode cL_law 334 = .ok (.iaload, 1) := dk_46 (dk_at dksL_law_8 2 rfl rfl)
theorem dL_law_335 : decode cL_law 335 = .ok (.aload_n 3, 1) := dk_45 (dk_at dksL_law_8 3 rfl rfl)
theorem dL_law_336 : decode cL_law 336 = .ok (.invokestatic 152, 3) := dk_184 0 152 (dk_at dksL_law_8 4 rfl rfl)
theorem dL_law_339 : decode cL_law 339 = .ok (.istore 5, 2) := dk_54 5 (dk_at dksL_law_8 7 rfl rfl)
theorem dL_law_341 : decode cL_law 341 = .ok (.aload_n 2, 1) := dk_44 (dk_at dksL_law_8 9 rfl rfl)
theorem dL_law_342 : decode cL_law 342 = .ok (.aload_n 0, 1) := dk_42 (dk_at dksL_law_8 10 rfl rfl)
theorem dL_law_343 : decode cL_law 343 = .ok (.iload 4, 2) := dk_21 4 (dk_at dksL_law_8 11 rfl rfl)
theorem dL_law_345 : decode cL_law 345 = .ok (.iconst 1, 1) := dk_4 (dk_at dksL_law_8 13 rfl rfl)
theorem dL_law_346 : decode cL_law 346 = .ok (.iadd, 1) := dk_96 (dk_at dksL_law_8 14 rfl rfl)
theorem dL_law_347 : decode cL_law 347 = .ok (.iaload, 1) := dk_46 (dk_at dksL_law_8 15 rfl rfl)
theorem dL_law_348 : decode cL_law 348 = .ok (.aload_n 0, 1) := dk_42 (dk_at dksL_law_8 16 rfl rfl)
theorem dL_law_349 : decode cL_law 349 = .ok (.iload 4, 2) := dk_21 4 (dk_at dksL_law_8 17 rfl rfl)
theorem dL_law_351 : decode cL_law 351 = .ok (.iconst 2, 1) := dk_5 (dk_at dksL_law_8 19 rfl rfl)
theorem dL_law_352 : decode cL_law 352 = .ok (.iadd, 1) := dk_96 (dk_at dksL_law_8 20 rfl rfl)
theorem dL_law_353 : decode cL_law 353 = .ok (.iaload, 1) := dk_46 (dk_at dksL_law_8 21 rfl rfl)
theorem dL_law_354 : decode cL_law 354 = .ok (.aload_n 0, 1) := dk_42 (dk_at dksL_law_8 22 rfl rfl)
theorem dL_law_355 : decode cL_law 355 = .ok (.iload 4, 2) := dk_21 4 (dk_at dksL_law_9 0 rfl rfl)
theorem dL_law_357 : decode cL_law 357 = .ok (.iconst 3, 1) := dk_6 (dk_at dksL_law_9 2 rfl rfl)
theorem dL_law_358 : decode cL_law 358 = .ok (.iadd, 1) := dk_96 (dk_at dksL_law_9 3 rfl rfl)
theorem dL_law_359 : decode cL_law 359 = .ok (.iaload, 1) := dk_46 (dk_at dksL_law_9 4 rfl rfl)
theorem dL_law_360 : decode cL_law 360 = .ok (.invokevirtual 155, 3) := dk_182 0 155 (dk_at dksL_law_9 5 rfl rfl)
theorem dL_law_363 : decode cL_law 363 = .ok (.istore 6, 2) := dk_54 6 (dk_at dksL_law_9 8 rfl rfl)
theorem dL_law_365 : decode cL_law 365 = .ok (.aload_n 2, 1) := dk_44 (dk_at dksL_law_9 10 rfl rfl)
theorem dL_law_366 : decode cL_law 366 = .ok (.invokevirtual 149, 3) := dk_182 0 149 (dk_at dksL_law_9 11 rfl rfl)
theorem dL_law_369 : decode cL_law 369 = .ok (.iload 5, 2) := dk_21 5 (dk_at dksL_law_9 14 rfl rfl)
theorem dL_law_371 : decode cL_law 371 = .ok (.if_icmp .eq 5, 3) := dk_159 0 5 (dk_at dksL_law_9 16 rfl rfl)
theorem dL_law_374 : decode cL_law 374 = .ok (.iconst 0, 1) := dk_3 (dk_at dksL_law_9 19 rfl rfl)
theorem dL_law_375 : decode cL_law 375 = .ok (.ireturn, 1) := dk_172 (dk_at dksL_law_9 20 rfl rfl)
theorem dL_law_376 : decode cL_law 376 = .ok (.iload 5, 2) := dk_21 5 (dk_at dksL_law_9 21 rfl rfl)
theorem dL_law_378 : decode cL_law 378 = .ok (.ifCond .ne 15, 3) := dk_154 0 15 (dk_at dksL_law_10 0 rfl rfl)
theorem dL_law_381 : decode cL_law 381 = .ok (.aload_n 3, 1) := dk_45 (dk_at dksL_law_10 3 rfl rfl)
theorem dL_law_382 : decode cL_law 382 = .ok (.iconst 0, 1) := dk_3 (dk_at dksL_law_10 4 rfl rfl)
theorem dL_law_383 : decode cL_law 383 = .ok (.laload, 1) := dk_47 (dk_at dksL_law_10 5 rfl rfl)
theorem dL_law_384 : decode cL_law 384 = .ok (.iload 6, 2) := dk_21 6 (dk_at dksL_law_10 6 rfl rfl)
theorem dL_law_386 : decode cL_law 386 = .ok (.i2l, 1) := dk_133 (dk_at dksL_law_10 8 rfl rfl)
theorem dL_law_387 : decode cL_law 387 = .ok (.lcmp, 1) := dk_148 (dk_at dksL_law_10 9 rfl rfl)
theorem dL_law_388 : decode cL_law 388 = .ok (.ifCond .eq 5, 3) := dk_153 0 5 (dk_at dksL_law_10 10 rfl rfl)
theorem dL_law_391 : decode cL_law 391 = .ok (.iconst 0, 1) := dk_3 (dk_at dksL_law_10 13 rfl rfl)
theorem dL_law_392 : decode cL_law 392 = .ok (.ireturn, 1) := dk_172 (dk_at dksL_law_10 14 rfl rfl)
theorem dL_law_393 : decode cL_law 393 = .ok (.goto 2701, 3) := dk_167 10 141 (dk_at dksL_law_10 15 rfl rfl)
theorem dL_law_396 : decode cL_law 396 = .ok (.aload_n 1, 1) := dk_43 (dk_at dksL_law_10 18 rfl rfl)
theorem dL_law_397 : decode cL_law 397 = .ok (.aload_n 0, 1) := dk_42 (dk_at dksL_law_10 19 rfl rfl)
theorem dL_law_398 : decode cL_law 398 = .ok (.iload 4, 2) := dk_21 4 (dk_at dksL_law_10 20 rfl rfl)
theorem dL_law_400 : decode cL_law 400 = .ok (.iconst 1, 1) := dk_4 (dk_at dksL_law_10 22 rfl rfl)
theorem dL_law_401 : decode cL_law 401 = .ok (.iadd, 1) := dk_96 (dk_at dksL_law_10 23 rfl rfl)
theorem dL_law_402 : decode cL_law 402 = .ok (.iaload, 1) := dk_46 (dk_at dksL_law_11 0 rfl rfl)
theorem dL_law_403 : decode cL_law 403 = .ok (.aload_n 0, 1) := dk_42 (dk_at dksL_law_11 1 rfl rfl)
theorem dL_law_404 : decode cL_law 404 = .ok (.iload 4, 2) := dk_21 4 (dk_at dksL_law_11 2 rfl rfl)
theorem dL_law_406 : decode cL_law 406 = .ok (.iconst 2, 1) := dk_5 (dk_at dksL_law_11 4 rfl rfl)
theorem dL_law_407 : decode cL_law 407 = .ok (.iadd, 1) := dk_96 (dk_at dksL_law_11 5 rfl rfl)
theorem dL_law_408 : decode cL_law 408 = .ok (.iaload, 1) := dk_46 (dk_at dksL_law_11 6 rfl rfl)
theorem dL_law_409 : decode cL_law 409 = .ok (.aload_n 3, 1) := dk_45 (dk_at dksL_law_11 7 rfl rfl)
theorem dL_law_410 : decode cL_law 410 = .ok (.invokestatic 156, 3) := dk_184 0 156 (dk_at dksL_law_11 8 rfl rfl)
theorem dL_law_413 : decode cL_law 413 = .ok (.istore 5, 2) := dk_54 5 (dk_at dksL_law_11 11 rfl rfl)
theorem dL_law_415 : decode cL_law 415 = .ok (.aload_n 2, 1) := dk_44 (dk_at dksL_law_11 13 rfl rfl)
theorem dL_law_416 : decode cL_law 416 = .ok (.aload_n 0, 1) := dk_42 (dk_at dksL_law_11 14 rfl rfl)
theorem dL_law_417 : decode cL_law 417 = .ok (.iload 4, 2) := dk_21 4 (dk_at dksL_law_11 15 rfl rfl)
theorem dL_law_419 : decode cL_law 419 = .ok (.iconst 1, 1) := dk_4 (dk_at dksL_law_11 17 rfl rfl)
theorem dL_law_420 : decode cL_law 420 = .ok (.iadd, 1) := dk_96 (dk_at dksL_law_11 18 rfl rfl)
theorem dL_law_421 : decode cL_law 421 = .ok (.iaload, 1) := dk_46 (dk_at dksL_law_11 19 rfl rfl)
theorem dL_law_422 : decode cL_law 422 = .ok (.aload_n 0, 1) := dk_42 (dk_at dksL_law_11 20 rfl rfl)
theorem dL_law_423 : decode cL_law 423 = .ok (.iload 4, 2) := dk_21 4 (dk_at dksL_law_11 21 rfl rfl)
theorem dL_law_425 : decode cL_law 425 = .ok (.iconst 2, 1) := dk_5 (dk_at dksL_law_11 23 rfl rfl)
theorem dL_law_426 : decode cL_law 426 = .ok (.iadd, 1) := dk_96 (dk_at dksL_law_12 0 rfl rfl)
theorem dL_law_427 : decode cL_law 427 = .ok (.iaload, 1) := dk_46 (dk_at dksL_law_12 1 rfl rfl)
theorem dL_law_428 : decode cL_law 428 = .ok (.invokevirtual 159, 3) := dk_182 0 159 (dk_at dksL_law_12 2 rfl rfl)
theorem dL_law_431 : decode cL_law 431 = .ok (.istore 6, 2) := dk_54 6 (dk_at dksL_law_12 5 rfl rfl)
theorem dL_law_433 : decode cL_law 433 = .ok (.aload_n 2, 1) := dk_44 (dk_at dksL_law_12 7 rfl rfl)
theorem dL_law_434 : decode cL_law 434 = .ok (.invokevirtual 149, 3) := dk_182 0 149 (dk_at dksL_law_12 8 rfl rfl)
theorem dL_law_437 : decode cL_law 437 = .ok (.iload 5, 2) := dk_21 5 (dk_at dksL_law_12 11 rfl rfl)
theorem dL_law_439 : decode cL_law 439 = .ok (.if_icmp .eq 5, 3) := dk_159 0 5 (dk_at dksL_law_12 13 rfl rfl)
theorem dL_law_442 : decode cL_law 442 = .ok (.iconst 0, 1) := dk_3 (dk_at dksL_law_12 16 rfl rfl)
theorem dL_law_443 : decode cL_law 443 = .ok (.ireturn, 1) := dk_172 (dk_at dksL_law_12 17 rfl rfl)
theorem dL_law_444 : decode cL_law 444 = .ok (.iload 5, 2) := dk_21 5 (dk_at dksL_law_12 18 rfl rfl)
theorem dL_law_446 : decode cL_law 446 = .ok (.ifCond .ne 15, 3) := dk_154 0 15 (dk_at dksL_law_12 20 rfl rfl)
theorem dL_law_449 : decode cL_law 449 = .ok (.aload_n 3, 1) := dk_45 (dk_at dksL_law_12 23 rfl rfl)
theorem dL_law_450 : decode cL_law 450 = .ok (.iconst 0, 1) := dk_3 (dk_at dksL_law_13 0 rfl rfl)
theorem dL_law_451 : decode cL_law 451 = .ok (.laload, 1) := dk_47 (dk_at dksL_law_13 1 rfl rfl)
theorem dL_law_452 : decode cL_law 452 = .ok (.iload 6, 2) := dk_21 6 (dk_at dksL_law_13 2 rfl rfl)
theorem dL_law_454 : decode cL_law 454 = .ok (.i2l, 1) := dk_133 (dk_at dksL_law_13 4 rfl rfl)
theorem dL_law_455 : decode cL_law 455 = .ok (.lcmp, 1) := dk_148 (dk_at dksL_law_13 5 rfl rfl)
theorem dL_law_456 : decode cL_law 456 = .ok (.ifCond .eq 5, 3) := dk_153 0 5 (dk_at dksL_law_13 6 rfl rfl)
theorem dL_law_459 : decode cL_law 459 = .ok (.iconst 0, 1) := dk_3 (dk_at dksL_law_13 9 rfl rfl)
theorem dL_law_460 : decode cL_law 460 = .ok (.ireturn, 1) := dk_172 (dk_at dksL_law_13 10 rfl rfl)
theorem dL_law_461 : decode cL_law 461 = .ok (.goto 2633, 3) := dk_167 10 73 (dk_at dksL_law_13 11 rfl rfl)
theorem dL_law_464 : decode cL_law 464 = .ok (.aload_n 1, 1) := dk_43 (dk_at dksL_law_13 14 rfl rfl)
theorem dL_law_465 : decode cL_law 465 = .ok (.aload_n 0, 1) := dk_42 (dk_at dksL_law_13 15 rfl rfl)
theorem dL_law_466 : decode cL_law 466 = .ok (.iload 4, 2) := dk_21 4 (dk_at dksL_law_13 16 rfl rfl)
theorem dL_law_468 : decode cL_law 468 = .ok (.iconst 1, 1) := dk_4 (dk_at dksL_law_13 18 rfl rfl)
theorem dL_law_469 : decode cL_law 469 = .ok (.iadd, 1) := dk_96 (dk_at dksL_law_13 19 rfl rfl)
theorem dL_law_470 : decode cL_law 470 = .ok (.iaload, 1) := dk_46 (dk_at dksL_law_13 20 rfl rfl)
theorem dL_law_471 : decode cL_law 471 = .ok (.aload_n 0, 1) := dk_42 (dk_at dksL_law_13 21 rfl rfl)
theorem dL_law_472 : decode cL_law 472 = .ok (.iload 4, 2) := dk_21 4 (dk_at dksL_law_13 22 rfl rfl)
theorem dL_law_474 : decode cL_law 474 = .ok (.iconst 2, 1) := dk_5 (dk_at dksL_law_14 0 rfl rfl)
theorem dL_law_475 : decode cL_law 475 = .ok (.iadd, 1) := dk_96 (dk_at dksL_law_14 1 rfl rfl)
theorem dL_law_476 : decode cL_law 476 = .ok (.iaload, 1) := dk_46 (dk_at dksL_law_14 2 rfl rfl)
theorem dL_law_477 : decode cL_law 477 = .ok (.aload_n 3, 1) := dk_45 (dk_at dksL_law_14 3 rfl rfl)
theorem dL_law_478 : decode cL_law 478 = .ok (.invokestatic 160, 3) := dk_184 0 160 (dk_at dksL_law_14 4 rfl rfl)
theorem dL_law_481 : decode cL_law 481 = .ok (.istore 5, 2) := dk_54 5 (dk_at dksL_law_14 7 rfl rfl)
theorem dL_law_483 : decode cL_law 483 = .ok (.aload_n 2, 1) := dk_44 (dk_at dksL_law_14 9 rfl rfl)
theorem dL_law_484 : decode cL_law 484 = .ok (.aload_n 0, 1) := dk_42 (dk_at dksL_law_14 10 rfl rfl)
theorem dL_law_485 : decode cL_law 485 = .ok (.iload 4, 2) := dk_21 4 (dk_at dksL_law_14 11 rfl rfl)
theorem dL_law_487 : decode cL_law 487 = .ok (.iconst 1, 1) := dk_4 (dk_at dksL_law_14 13 rfl rfl)
theorem dL_law_488 : decode cL_law 488 = .ok (.iadd, 1) := dk_96 (dk_at dksL_law_14 14 rfl rfl)
theorem dL_law_489 : decode cL_law 489 = .ok (.iaload, 1) := dk_46 (dk_at dksL_law_14 15 rfl rfl)
theorem dL_law_490 : decode cL_law 490 = .ok (.aload_n 0, 1) := dk_42 (dk_at dksL_law_14 16 rfl rfl)
theorem dL_law_491 : decode cL_law 491 = .ok (.iload 4, 2) := dk_21 4 (dk_at dksL_law_14 17 rfl rfl)
theorem dL_law_493 : decode cL_law 493 = .ok (.iconst 2, 1) := dk_5 (dk_at dksL_law_14 19 rfl rfl)
theorem dL_law_494 : decode cL_law 494 = .ok (.iadd, 1) := dk_96 (dk_at dksL_law_14 20 rfl rfl)
theorem dL_law_495 : decode cL_law 495 = .ok (.iaload, 1) := dk_46 (dk_at dksL_law_14 21 rfl rfl)
theorem dL_law_496 : decode cL_law 496 = .ok (.invokevirtual 162, 3) := dk_182 0 162 (dk_at dksL_law_15 0 rfl rfl)
theorem dL_law_499 : decode cL_law 499 = .ok (.istore 6, 2) := dk_54 6 (dk_at dksL_law_15 3 rfl rfl)
theorem dL_law_501 : decode cL_law 501 = .ok (.aload_n 2, 1) := dk_44 (dk_at dksL_law_15 5 rfl rfl)
theorem dL_law_502 : decode cL_law 502 = .ok (.invokevirtual 149, 3) := dk_182 0 149 (dk_at dksL_law_15 6 rfl rfl)
theorem dL_law_505 : decode cL_law 505 = .ok (.iload 5, 2) := dk_21 5 (dk_at dksL_law_15 9 rfl rfl)
theorem dL_law_507 : decode cL_law 507 = .ok (.if_icmp .eq 5, 3) := dk_159 0 5 (dk_at dksL_law_15 11 rfl rfl)
theorem dL_law_510 : decode cL_law 510 = .ok (.iconst 0, 1) := dk_3 (dk_at dksL_law_15 14 rfl rfl)
theorem dL_law_511 : decode cL_law 511 = .ok (.ireturn, 1) := dk_172 (dk_at dksL_law_15 15 rfl rfl)
theorem dL_law_512 : decode cL_law 512 = .ok (.iload 5, 2) := dk_21 5 (dk_at dksL_law_15 16 rfl rfl)
theorem dL_law_514 : decode cL_law 514 = .ok (.ifCond .ne 15, 3) := dk_154 0 15 (dk_at dksL_law_15 18 rfl rfl)
theorem dL_law_517 : decode cL_law 517 = .ok (.aload_n 3, 1) := dk_45 (dk_at dksL_law_15 21 rfl rfl)
theorem dL_law_518 : decode cL_law 518 = .ok (.iconst 0, 1) := dk_3 (dk_at dksL_law_15 22 rfl rfl)
theorem dL_law_519 : decode cL_law 519 = .ok (.laload, 1) := dk_47 (dk_at dksL_law_15 23 rfl rfl)
theorem dL_law_520 : decode cL_law 520 = .ok (.iload 6, 2) := dk_21 6 (dk_at dksL_law_16 0 rfl rfl)
theorem dL_law_522 : decode cL_law 522 = .ok (.i2l, 1) := dk_133 (dk_at dksL_law_16 2 rfl rfl)
theorem dL_law_523 : decode cL_law 523 = .ok (.lcmp, 1) := dk_148 (dk_at dksL_law_16 3 rfl rfl)
theorem dL_law_524 : decode cL_law 524 = .ok (.ifCond .eq 5, 3) := dk_153 0 5 (dk_at dksL_law_16 4 rfl rfl)
theorem dL_law_527 : decode cL_law 527 = .ok (.iconst 0, 1) := dk_3 (dk_at dksL_law_16 7 rfl rfl)
theorem dL_law_528 : decode cL_law 528 = .ok (.ireturn, 1) := dk_172 (dk_at dksL_law_16 8 rfl rfl)
theorem dL_law_529 : decode cL_law 529 = .ok (.goto 2565, 3) := dk_167 10 5 (dk_at dksL_law_16 9 rfl rfl)
theorem dL_law_532 : decode cL_law 532 = .ok (.aload_n 1, 1) := dk_43 (dk_at dksL_law_16 12 rfl rfl)
theorem dL_law_533 : decode cL_law 533 = .ok (.invokevirtual 163, 3) := dk_182 0 163 (dk_at dksL_law_16 13 rfl rfl)
theorem dL_law_536 : decode cL_law 536 = .ok (.aload_n 2, 1) := dk_44 (dk_at dksL_law_16 16 rfl rfl)
theorem dL_law_537 : decode cL_law 537 = .ok (.invokevirtual 166, 3) := dk_182 0 166 (dk_at dksL_law_16 17 rfl rfl)
theorem dL_law_540 : decode cL_law 540 = .ok (.if_icmp .eq 2554, 3) := dk_159 9 250 (dk_at dksL_law_16 20 rfl rfl)
theorem dL_law_543 : decode cL_law 543 = .ok (.iconst 0, 1) := dk_3 (dk_at dksL_law_16 23 rfl rfl)
theorem dL_law_544 : decode cL_law 544 = .ok (.ireturn, 1) := dk_172 (dk_at dksL_law_17 0 rfl rfl)
theorem dL_law_545 : decode cL_law 545 = .ok (.aload_n 1, 1) := dk_43 (dk_at dksL_law_17 1 rfl rfl)
theorem dL_law_546 : decode cL_law 546 = .ok (.aload_n 0, 1) := dk_42 (dk_at dksL_law_17 2 rfl rfl)
theorem dL_law_547 : decode cL_law 547 = .ok (.iload 4, 2) := dk_21 4 (dk_at dksL_law_17 3 rfl rfl)
theorem dL_law_549 : decode cL_law 549 = .ok (.iconst 1, 1) := dk_4 (dk_at dksL_law_17 5 rfl rfl)
theorem dL_law_550 : decode cL_law 550 = .ok (.iadd, 1) := dk_96 (dk_at dksL_law_17 6 rfl rfl)
theorem dL_law_551 : decode cL_law 551 = .ok (.iaload, 1) := dk_46 (dk_at dksL_law_17 7 rfl rfl)
theorem dL_law_552 : decode cL_law 552 = .ok (.aload_n 0, 1) := dk_42 (dk_at dksL_law_17 8 rfl rfl)
theorem dL_law_553 : decode cL_law 553 = .ok (.iload 4, 2) := dk_21 4 (dk_at dksL_law_17 9 rfl rfl)
theorem dL_law_555 : decode cL_law 555 = .ok (.iconst 2, 1) := dk_5 (dk_at dksL_law_17 11 rfl rfl)
theorem dL_law_556 : decode cL_law 556 = .ok (.iadd, 1) := dk_96 (dk_at dksL_law_17 12 rfl rfl)
theorem dL_law_557 : decode cL_law 557 = .ok (.iaload, 1) := dk_46 (dk_at dksL_law_17 13 rfl rfl)
theorem dL_law_558 : decode cL_law 558 = .ok (.aload_n 0, 1) := dk_42 (dk_at dksL_law_17 14 rfl rfl)
theorem dL_law_559 : decode cL_law 559 = .ok (.iload 4, 2) := dk_21 4 (dk_at dksL_law_17 15 rfl rfl)
theorem dL_law_561 : decode cL_law 561 = .ok (.iconst 3, 1) := dk_6 (dk_at dksL_law_17 17 rfl rfl)
theorem dL_law_562 : decode cL_law 562 = .ok (.iadd, 1) := dk_96 (dk_at dksL_law_17 18 rfl rfl)
theorem dL_law_563 : decode cL_law 563 = .ok (.iaload, 1) := dk_46 (dk_at dksL_law_17 19 rfl rfl)
theorem dL_law_564 : decode cL_law 564 = .ok (.aload_n 0, 1) := dk_42 (dk_at dksL_law_17 20 rfl rfl)
theorem dL_law_565 : decode cL_law 565 = .ok (.iload 4, 2) := dk_21 4 (dk_at dksL_law_17 21 rfl rfl)
theorem dL_law_567 : decode cL_law 567 = .ok (.iconst 4, 1) := dk_7 (dk_at dksL_law_17 23 rfl rfl)
theorem dL_law_568 : decode cL_law 568 = .ok (.iadd, 1) := dk_96 (dk_at dksL_law_18 0 rfl rfl)
theorem dL_law_569 : decode cL_law 569 = .ok (.iaload, 1) := dk_46 (dk_at dksL_law_18 1 rfl rfl)
theorem dL_law_570 : decode cL_law 570 = .ok (.aload_n 3, 1) := dk_45 (dk_at dksL_law_18 2 rfl rfl)
theorem dL_law_571 : decode cL_law 571 = .ok (.invokestatic 167, 3) := dk_184 0 167 (dk_at dksL_law_18 3 rfl rfl)
theorem dL_law_574 : decode cL_law 574 = .ok (.istore 5, 2) := dk_54 5 (dk_at dksL_law_18 6 rfl rfl)
theorem dL_law_576 : decode cL_law 576 = .ok (.aload_n 2, 1) := dk_44 (dk_at dksL_law_18 8 rfl rfl)
theorem dL_law_577 : decode cL_law 577 = .ok (.aload_n 0, 1) := dk_42 (dk_at dksL_law_18 9 rfl rfl)
theorem dL_law_578 : decode cL_law 578 = .ok (.iload 4, 2) := dk_21 4 (dk_at dksL_law_18 10 rfl rfl)
theorem dL_law_580 : decode cL_law 580 = .ok (.iconst 1, 1) := dk_4 (dk_at dksL_law_18 12 rfl rfl)
theorem dL_law_581 : decode cL_law 581 = .ok (.iadd, 1) := dk_96 (dk_at dksL_law_18 13 rfl rfl)
theorem dL_law_582 : decode cL_law 582 = .ok (.iaload, 1) := dk_46 (dk_at dksL_law_18 14 rfl rfl)
theorem dL_law_583 : decode cL_law 583 = .ok (.aload_n 0, 1) := dk_42 (dk_at dksL_law_18 15 rfl rfl)
theorem dL_law_584 : decode cL_law 584 = .ok (.iload 4, 2) := dk_21 4 (dk_at dksL_law_18 16 rfl rfl)
theorem dL_law_586 : decode cL_law 586 = .ok (.iconst 2, 1) := dk_5 (dk_at dksL_law_18 18 rfl rfl)
theorem dL_law_587 : decode cL_law 587 = .ok (.iadd, 1) := dk_96 (dk_at dksL_law_18 19 rfl rfl)
theorem dL_law_588 : decode cL_law 588 = .ok (.iaload, 1) := dk_46 (dk_at dksL_law_18 20 rfl rfl)
theorem dL_law_589 : decode cL_law 589 = .ok (.aload_n 0, 1) := dk_42 (dk_at dksL_law_18 21 rfl rfl)
theorem dL_law_590 : decode cL_law 590 = .ok (.iload 4, 2) := dk_21 4 (dk_at dksL_law_18 22 rfl rfl)
theorem dL_law_592 : decode cL_law 592 = .ok (.iconst 3, 1) := dk_6 (dk_at dksL_law_19 0 rfl rfl)
theorem dL_law_593 : decode cL_law 593 = .ok (.iadd, 1) := dk_96 (dk_at dksL_law_19 1 rfl rfl)
theorem dL_law_594 : decode cL_law 594 = .ok (.iaload, 1) := dk_46 (dk_at dksL_law_19 2 rfl rfl)
theorem dL_law_595 : decode cL_law 595 = .ok (.aload_n 0, 1) := dk_42 (dk_at dksL_law_19 3 rfl rfl)
theorem dL_law_596 : decode cL_law 596 = .ok (.iload 4, 2) := dk_21 4 (dk_at dksL_law_19 4 rfl rfl)
theorem dL_law_598 : decode cL_law 598 = .ok (.iconst 4, 1) := dk_7 (dk_at dksL_law_19 6 rfl rfl)
theorem dL_law_599 : decode cL_law 599 = .ok (.iadd, 1) := dk_96 (dk_at dksL_law_19 7 rfl rfl)
theorem dL_law_600 : decode cL_law 600 = .ok (.iaload, 1) := dk_46 (dk_at dksL_law_19 8 rfl rfl)
theorem dL_law_601 : decode cL_law 601 = .ok (.invokevirtual 170, 3) := dk_182 0 170 (dk_at dksL_law_19 9 rfl rfl)
theorem dL_law_604 : decode cL_law 604 = .ok (.istore 6, 2) := dk_54 6 (dk_at dksL_law_19 12 rfl rfl)
theorem dL_law_606 : decode cL_law 606 = .ok (.aload_n 2, 1) := dk_44 (dk_at dksL_law_19 14 rfl rfl)
theorem dL_law_607 : decode cL_law 607 = .ok (.invokevirtual 149, 3) := dk_182 0 149 (dk_at dksL_law_19 15 rfl rfl)
theorem dL_law_610 : decode cL_law 610 = .ok (.iload 5, 2) := dk_21 5 (dk_at dksL_law_19 18 rfl rfl)
theorem dL_law_612 : decode cL_law 612 = .ok (.if_icmp .eq 5, 3) := dk_159 0 5 (dk_at dksL_law_19 20 rfl rfl)
theorem dL_law_615 : decode cL_law 615 = .ok (.iconst 0, 1) := dk_3 (dk_at dksL_law_19 23 rfl rfl)
theorem dL_law_616 : decode cL_law 616 = .ok (.ireturn, 1) := dk_172 (dk_at dksL_law_20 0 rfl rfl)
theorem dL_law_617 : decode cL_law 617 = .ok (.iload 5, 2) := dk_21 5 (dk_at dksL_law_20 1 rfl rfl)
theorem dL_law_619 : decode cL_law 619 = .ok (.ifCond .ne 15, 3) := dk_154 0 15 (dk_at dksL_law_20 3 rfl rfl)
theorem dL_law_622 : decode cL_law 622 = .ok (.aload_n 3, 1) := dk_45 (dk_at dksL_law_20 6 rfl rfl)
theorem dL_law_623 : decode cL_law 623 = .ok (.iconst 0, 1) := dk_3 (dk_at dksL_law_20 7 rfl rfl)
theorem dL_law_624 : decode cL_law 624 = .ok (.laload, 1) := dk_47 (dk_at dksL_law_20 8 rfl rfl)
theorem dL_law_625 : decode cL_law 625 = .ok (.iload 6, 2) := dk_21 6 (dk_at dksL_law_20 9 rfl rfl)
theorem dL_law_627 : decode cL_law 627 = .ok (.i2l, 1) := dk_133 (dk_at dksL_law_20 11 rfl rfl)
theorem dL_law_628 : decode cL_law 628 = .ok (.lcmp, 1) := dk_148 (dk_at dksL_law_20 12 rfl rfl)
theorem dL_law_629 : decode cL_law 629 = .ok (.ifCond .eq 5, 3) := dk_153 0 5 (dk_at dksL_law_20 13 rfl rfl)
theorem dL_law_632 : decode cL_law 632 = .ok (.iconst 0, 1) := dk_3 (dk_at dksL_law_20 16 rfl rfl)
theorem dL_law_633 : decode cL_law 633 = .ok (.ireturn, 1) := dk_172 (dk_at dksL_law_20 17 rfl rfl)
theorem dL_law_634 : decode cL_law 634 = .ok (.goto 2460, 3) := dk_167 9 156 (dk_at dksL_law_20 18 rfl rfl)
theorem dL_law_637 : decode cL_law 637 = .ok (.aload_n 1, 1) := dk_43 (dk_at dksL_law_20 21 rfl rfl)
theorem dL_law_638 : decode cL_law 638 = .ok (.aload_n 0, 1) := dk_42 (dk_at dksL_law_20 22 rfl rfl)
theorem dL_law_639 : decode cL_law 639 = .ok (.iload 4, 2) := dk_21 4 (dk_at dksL_law_21 0 rfl rfl)
theorem dL_law_641 : decode cL_law 641 = .ok (.iconst 1, 1) := dk_4 (dk_at dksL_law_21 2 rfl rfl)
theorem dL_law_642 : decode cL_law 642 = .ok (.iadd, 1) := dk_96 (dk_at dksL_law_21 3 rfl rfl)
theorem dL_law_643 : decode cL_law 643 = .ok (.iaload, 1) := dk_46 (dk_at dksL_law_21 4 rfl rfl)
theorem dL_law_644 : decode cL_law 644 = .ok (.aload_n 0, 1) := dk_42 (dk_at dksL_law_21 5 rfl rfl)
theorem dL_law_645 : decode cL_law 645 = .ok (.iload 4, 2) := dk_21 4 (dk_at dksL_law_21 6 rfl rfl)
theorem dL_law_647 : decode cL_law 647 = .ok (.iconst 2, 1) := dk_5 (dk_at dksL_law_21 8 rfl rfl)
theorem dL_law_648 : decode cL_law 648 = .ok (.iadd, 1) := dk_96 (dk_at dksL_law_21 9 rfl rfl)
theorem dL_law_649 : decode cL_law 649 = .ok (.iaload, 1) := dk_46 (dk_at dksL_law_21 10 rfl rfl)
theorem dL_law_650 : decode cL_law 650 = .ok (.aload_n 0, 1) := dk_42 (dk_at dksL_law_21 11 rfl rfl)
theorem dL_law_651 : decode cL_law 651 = .ok (.iload 4, 2) := dk_21 4 (dk_at dksL_law_21 12 rfl rfl)
theorem dL_law_653 : decode cL_law 653 = .ok (.iconst 3, 1) := dk_6 (dk_at dksL_law_21 14 rfl rfl)
theorem dL_law_654 : decode cL_law 654 = .ok (.iadd, 1) := dk_96 (dk_at dksL_law_21 15 rfl rfl)
theorem dL_law_655 : decode cL_law 655 = .ok (.iaload, 1) := dk_46 (dk_at dksL_law_21 16 rfl rfl)
theorem dL_law_656 : decode cL_law 656 = .ok (.aload_n 0, 1) := dk_42 (dk_at dksL_law_21 17 rfl rfl)
theorem dL_law_657 : decode cL_law 657 = .ok (.iload 4, 2) := dk_21 4 (dk_at dksL_law_21 18 rfl rfl)
theorem dL_law_659 : decode cL_law 659 = .ok (.iconst 4, 1) := dk_7 (dk_at dksL_law_21 20 rfl rfl)
theorem dL_law_660 : decode cL_law 660 = .ok (.iadd, 1) := dk_96 (dk_at dksL_law_21 21 rfl rfl)
theorem dL_law_661 : decode cL_law 661 = .ok (.iaload, 1) := dk_46 (dk_at dksL_law_21 22 rfl rfl)
theorem dL_law_662 : decode cL_law 662 = .ok (.aload_n 3, 1) := dk_45 (dk_at dksL_law_21 23 rfl rfl)
theorem dL_law_663 : decode cL_law 663 = .ok (.invokestatic 171, 3) := dk_184 0 171 (dk_at dksL_law_22 0 rfl rfl)
theorem dL_law_666 : decode cL_law 666 = .ok (.istore 5, 2) := dk_54 5 (dk_at dksL_law_22 3 rfl rfl)
theorem dL_law_668 : decode cL_law 668 = .ok (.aload_n 2, 1) := dk_44 (dk_at dksL_law_22 5 rfl rfl)
theorem dL_law_669 : decode cL_law 669 = .ok (.aload_n 0, 1) := dk_42 (dk_at dksL_law_22 6 rfl rfl)
theorem dL_law_670 : decode cL_law 670 = .ok (.iload 4, 2) := dk_21 4 (dk_at dksL_law_22 7 rfl rfl)
theorem dL_law_672 : decode cL_law 672 = .ok (.iconst 1, 1) := dk_4 (dk_at dksL_law_22 9 rfl rfl)
theorem dL_law_673 : decode cL_law 673 = .ok (.iadd, 1) := dk_96 (dk_at dksL_law_22 10 rfl rfl)
theorem dL_law_674 : decode cL_law 674 = .ok (.iaload, 1) := dk_46 (dk_at dksL_law_22 11 rfl rfl)
theorem dL_law_675 : decode cL_law 675 = .ok (.aload_n 0, 1) := dk_42 (dk_at dksL_law_22 12 rfl rfl)
theorem dL_law_676 : decode cL_law 676 = .ok (.iload 4, 2) := dk_21 4 (dk_at dksL_law_22 13 rfl rfl)
theorem dL_law_678 : decode cL_law 678 = .ok (.iconst 2, 1) := dk_5 (dk_at dksL_law_22 15 rfl rfl)
theorem dL_law_679 : decode cL_law 679 = .ok (.iadd, 1) := dk_96 (dk_at dksL_law_22 16 rfl rfl)
theorem dL_law_680 : decode cL_law 680 = .ok (.iaload, 1) := dk_46 (dk_at dksL_law_22 17 rfl rfl)
theorem dL_law_681 : decode cL_law 681 = .ok (.aload_n 0, 1) := dk_42 (dk_at dksL_law_22 18 rfl rfl)
theorem dL_law_682 : decode cL_law 682 = .ok (.iload 4, 2) := dk_21 4 (dk_at dksL_law_22 19 rfl rfl)
theorem dL_law_684 : decode cL_law 684 = .ok (.iconst 3, 1) := dk_6 (dk_at dksL_law_22 21 rfl rfl)
theorem dL_law_685 : decode cL_law 685 = .ok (.iadd, 1) := dk_96 (dk_at dksL_law_22 22 rfl rfl)
theorem dL_law_686 : decode cL_law 686 = .ok (.iaload, 1) := dk_46 (dk_at dksL_law_22 23 rfl rfl)
theorem dL_law_687 : decode cL_law 687 = .ok (.aload_n 0, 1) := dk_42 (dk_at dksL_law_23 0 rfl rfl)
theorem dL_law_688 : decode cL_law 688 = .ok (.iload 4, 2) := dk_21 4 (dk_at dksL_law_23 1 rfl rfl)
theorem dL_law_690 : decode cL_law 690 = .ok (.iconst 4, 1) := dk_7 (dk_at dksL_law_23 3 rfl rfl)
theorem dL_law_691 : decode cL_law 691 = .ok (.iadd, 1) := dk_96 (dk_at dksL_law_23 4 rfl rfl)
theorem dL_law_692 : decode cL_law 692 = .ok (.iaload, 1) := dk_46 (dk_at dksL_law_23 5 rfl rfl)
theorem dL_law_693 : decode cL_law 693 = .ok (.invokevirtual 173, 3) := dk_182 0 173 (dk_at dksL_law_23 6 rfl rfl)
theorem dL_law_696 : decode cL_law 696 = .ok (.istore 6, 2) := dk_54 6 (dk_at dksL_law_23 9 rfl rfl)
theorem dL_law_698 : decode cL_law 698 = .ok (.aload_n 2, 1) := dk_44 (dk_at dksL_law_23 11 rfl rfl)
theorem dL_law_699 : decode cL_law 699 = .ok (.invokevirtual 149, 3) := dk_182 0 149 (dk_at dksL_law_23 12 rfl rfl)
theorem dL_law_702 : decode cL_law 702 = .ok (.iload 5, 2) := dk_21 5 (dk_at dksL_law_23 15 rfl rfl)
theorem dL_law_704 : decode cL_law 704 = .ok (.if_icmp .eq 5, 3) := dk_159 0 5 (dk_at dksL_law_23 17 rfl rfl)
theorem dL_law_707 : decode cL_law 707 = .ok (.iconst 0, 1) := dk_3 (dk_at dksL_law_23 20 rfl rfl)
theorem dL_law_708 : decode cL_law 708 = .ok (.ireturn, 1) := dk_172 (dk_at dksL_law_23 21 rfl rfl)
theorem dL_law_709 : decode cL_law 709 = .ok (.iload 5, 2) := dk_21 5 (dk_at dksL_law_23 22 rfl rfl)
theorem dL_law_711 : decode cL_law 711 = .ok (.ifCond .ne 15, 3) := dk_154 0 15 (dk_at dksL_law_24 0 rfl rfl)
theorem dL_law_714 : decode cL_law 714 = .ok (.aload_n 3, 1) := dk_45 (dk_at dksL_law_24 3 rfl rfl)
theorem dL_law_715 : decode cL_law 715 = .ok (.iconst 0, 1) := dk_3 (dk_at dksL_law_24 4 rfl rfl)
theorem dL_law_716 : decode cL_law 716 = .ok (.laload, 1) := dk_47 (dk_at dksL_law_24 5 rfl rfl)
theorem dL_law_717 : decode cL_law 717 = .ok (.iload 6, 2) := dk_21 6 (dk_at dksL_law_24 6 rfl rfl)
theorem dL_law_719 : decode cL_law 719 = .ok (.i2l, 1) := dk_133 (dk_at dksL_law_24 8 rfl rfl)
theorem dL_law_720 : decode cL_law 720 = .ok (.lcmp, 1) := dk_148 (dk_at dksL_law_24 9 rfl rfl)
theorem dL_law_721 : decode cL_law 721 = .ok (.ifCond .eq 5, 3) := dk_153 0 5 (dk_at dksL_law_24 10 rfl rfl)
theorem dL_law_724 : decode cL_law 724 = .ok (.iconst 0, 1) := dk_3 (dk_at dksL_law_24 13 rfl rfl)
theorem dL_law_725 : decode cL_law 725 = .ok (.ireturn, 1) := dk_172 (dk_at dksL_law_24 14 rfl rfl)
theorem dL_law_726 : decode cL_law 726 = .ok (.goto 2368, 3) := dk_167 9 64 (dk_at dksL_law_24 15 rfl rfl)
theorem dL_law_729 : decode cL_law 729 = .ok (.aload_n 1, 1) := dk_43 (dk_at dksL_law_24 18 rfl rfl)
theorem dL_law_730 : decode cL_law 730 = .ok (.aload_n 0, 1) := dk_42 (dk_at dksL_law_24 19 rfl rfl)
theorem dL_law_731 : decode cL_law 731 = .ok (.iload 4, 2) := dk_21 4 (dk_at dksL_law_24 20 rfl rfl)
theorem dL_law_733 : decode cL_law 733 = .ok (.iconst 1, 1) := dk_4 (dk_at dksL_law_24 22 rfl rfl)
theorem dL_law_734 : decode cL_law 734 = .ok (.iadd, 1) := dk_96 (dk_at dksL_law_24 23 rfl rfl)
theorem dL_law_735 : decode cL_law 735 = .ok (.iaload, 1) := dk_46 (dk_at dksL_law_25 0 rfl rfl)
theorem dL_law_736 : decode cL_law 736 = .ok (.aload_n 0, 1) := dk_42 (dk_at dksL_law_25 1 rfl rfl)
theorem dL_law_737 : decode cL_law 737 = .ok (.iload 4, 2) := dk_21 4 (dk_at dksL_law_25 2 rfl rfl)
theorem dL_law_739 : decode cL_law 739 = .ok (.iconst 2, 1) := dk_5 (dk_at dksL_law_25 4 rfl rfl)
theorem dL_law_740 : decode cL_law 740 = .ok (.iadd, 1) := dk_96 (dk_at dksL_law_25 5 rfl rfl)
theorem dL_law_741 : decode cL_law 741 = .ok (.iaload, 1) := dk_46 (dk_at dksL_law_25 6 rfl rfl)
theorem dL_law_742 : decode cL_law 742 = .ok (.aload_n 0, 1) := dk_42 (dk_at dksL_law_25 7 rfl rfl)
theorem dL_law_743 : decode cL_law 743 = .ok (.iload 4, 2) := dk_21 4 (dk_at dksL_law_25 8 rfl rfl)
theorem dL_law_745 : decode cL_law 745 = .ok (.iconst 3, 1) := dk_6 (dk_at dksL_law_25 10 rfl rfl)
theorem dL_law_746 : decode cL_law 746 = .ok (.iadd, 1) := dk_96 (dk_at dksL_law_25 11 rfl rfl)
theorem dL_law_747 : decode cL_law 747 = .ok (.iaload, 1) := dk_46 (dk_at dksL_law_25 12 rfl rfl)
theorem dL_law_748 : decode cL_law 748 = .ok (.aload_n 0, 1) := dk_42 (dk_at dksL_law_25 13 rfl rfl)
theorem dL_law_749 : decode cL_law 749 = .ok (.iload 4, 2) := dk_21 4 (dk_at dksL_law_25 14 rfl rfl)
theorem dL_law_751 : decode cL_law 751 = .ok (.iconst 4, 1) := dk_7 (dk_at dksL_law_25 16 rfl rfl)
theorem dL_law_752 : decode cL_law 752 = .ok (.iadd, 1) := dk_96 (dk_at dksL_law_25 17 rfl rfl)
theorem dL_law_753 : decode cL_law 753 = .ok (.iaload, 1) := dk_46 (dk_at dksL_law_25 18 rfl rfl)
theorem dL_law_754 : decode cL_law 754 = .ok (.aload_n 3, 1) := dk_45 (dk_at dksL_law_25 19 rfl rfl)
theorem dL_law_755 : decode cL_law 755 = .ok (.invokestatic 174, 3) := dk_184 0 174 (dk_at dksL_law_25 20 rfl rfl)
theorem dL_law_758 : decode cL_law 758 = .ok (.istore 5, 2) := dk_54 5 (dk_at dksL_law_26 0 rfl rfl)
theorem dL_law_760 : decode cL_law 760 = .ok (.aload_n 2, 1) := dk_44 (dk_at dksL_law_26 2 rfl rfl)
theorem dL_law_761 : decode cL_law 761 = .ok (.aload_n 0, 1) := dk_42 (dk_at dksL_law_26 3 rfl rfl)
theorem dL_law_762 : decode cL_law 762 = .ok (.iload 4, 2) := dk_21 4 (dk_at dksL_law_26 4 rfl rfl)
theorem dL_law_764 : decode cL_law 764 = .ok (.iconst 1, 1) := dk_4 (dk_at dksL_law_26 6 rfl rfl)
theorem dL_law_765 : decode cL_law 765 = .ok (.iadd, 1) := dk_96 (dk_at dksL_law_26 7 rfl rfl)
theorem dL_law_766 : decode cL_law 766 = .ok (.iaload, 1) := dk_46 (dk_at dksL_law_26 8 rfl rfl)
theorem dL_law_767 : decode cL_law 767 = .ok (.aload_n 0, 1) := dk_42 (dk_at dksL_law_26 9 rfl rfl)
theorem dL_law_768 : decode cL_law 768 = .ok (.iload 4, 2) := dk_21 4 (dk_at dksL_law_26 10 rfl rfl)
theorem dL_law_770 : decode cL_law 770 = .ok (.iconst 2, 1) := dk_5 (dk_at dksL_law_26 12 rfl rfl)
theorem dL_law_771 : decode cL_law 771 = .ok (.iadd, 1) := dk_96 (dk_at dksL_law_26 13 rfl rfl)
theorem dL_law_772 : decode cL_law 772 = .ok (.iaload, 1) := dk_46 (dk_at dksL_law_26 14 rfl rfl)
theorem dL_law_773 : decode cL_law 773 = .ok (.aload_n 0, 1) := dk_42 (dk_at dksL_law_26 15 rfl rfl)
theorem dL_law_774 : decode cL_law 774 = .ok (.iload 4, 2) := dk_21 4 (dk_at dksL_law_26 16 rfl rfl)
theorem dL_law_776 : decode cL_law 776 = .ok (.iconst 3, 1) := dk_6 (dk_at dksL_law_26 18 rfl rfl)
theorem dL_law_777 : decode cL_law 777 = .ok (.iadd, 1) := dk_96 (dk_at dksL_law_26 19 rfl rfl)
theorem dL_law_778 : decode cL_law 778 = .ok (.iaload, 1) := dk_46 (dk_at dksL_law_26 20 rfl rfl)
theorem dL_law_779 : decode cL_law 779 = .ok (.aload_n 0, 1) := dk_42 (dk_at dksL_law_26 21 rfl rfl)
theorem dL_law_780 : decode cL_law 780 = .ok (.iload 4, 2) := dk_21 4 (dk_at dksL_law_26 22 rfl rfl)
theorem dL_law_782 : decode cL_law 782 = .ok (.iconst 4, 1) := dk_7 (dk_at dksL_law_27 0 rfl rfl)
theorem dL_law_783 : decode cL_law 783 = .ok (.iadd, 1) := dk_96 (dk_at dksL_law_27 1 rfl rfl)
theorem dL_law_784 : decode cL_law 784 = .ok (.iaload, 1) := dk_46 (dk_at dksL_law_27 2 rfl rfl)
theorem dL_law_785 : decode cL_law 785 = .ok (.invokevirtual 176, 3) := dk_182 0 176 (dk_at dksL_law_27 3 rfl rfl)
theorem dL_law_788 : decode cL_law 788 = .ok (.istore 6, 2) := dk_54 6 (dk_at dksL_law_27 6 rfl rfl)
theorem dL_law_790 : decode cL_law 790 = .ok (.aload_n 2, 1) := dk_44 (dk_at dksL_law_27 8 rfl rfl)
theorem dL_law_791 : decode cL_law 791 = .ok (.invokevirtual 149, 3) := dk_182 0 149 (dk_at dksL_law_27 9 rfl rfl)
theorem dL_law_794 : decode cL_law 794 = .ok (.iload 5, 2) := dk_21 5 (dk_at dksL_law_27 12 rfl rfl)
theorem dL_law_796 : decode cL_law 796 = .ok (.if_icmp .eq 5, 3) := dk_159 0 5 (dk_at dksL_law_27 14 rfl rfl)
theorem dL_law_799 : decode cL_law 799 = .ok (.iconst 0, 1) := dk_3 (dk_at dksL_law_27 17 rfl rfl)
theorem dL_law_800 : decode cL_law 800 = .ok (.ireturn, 1) := dk_172 (dk_at dksL_law_27 18 rfl rfl)
theorem dL_law_801 : decode cL_law 801 = .ok (.iload 5, 2) := dk_21 5 (dk_at dksL_law_27 19 rfl rfl)
theorem dL_law_803 : decode cL_law 803 = .ok (.ifCond .ne 15, 3) := dk_154 0 15 (dk_at dksL_law_27 21 rfl rfl)
theorem dL_law_806 : decode cL_law 806 = .ok (.aload_n 3, 1) := dk_45 (dk_at dksL_law_28 0 rfl rfl)
theorem dL_law_807 : decode cL_law 807 = .ok (.iconst 0, 1) := dk_3 (dk_at dksL_law_28 1 rfl rfl)
theorem dL_law_808 : decode cL_law 808 = .ok (.laload, 1) := dk_47 (dk_at dksL_law_28 2 rfl rfl)
theorem dL_law_809 : decode cL_law 809 = .ok (.iload 6, 2) := dk_21 6 (dk_at dksL_law_28 3 rfl rfl)
theorem dL_law_811 : decode cL_law 811 = .ok (.i2l, 1) := dk_133 (dk_at dksL_law_28 5 rfl rfl)
theorem dL_law_812 : decode cL_law 812 = .ok (.lcmp, 1) := dk_148 (dk_at dksL_law_28 6 rfl rfl)
theorem dL_law_813 : decode cL_law 813 = .ok (.ifCond .eq 5, 3) := dk_153 0 5 (dk_at dksL_law_28 7 rfl rfl)
theorem dL_law_816 : decode cL_law 816 = .ok (.iconst 0, 1) := dk_3 (dk_at dksL_law_28 10 rfl rfl)
theorem dL_law_817 : decode cL_law 817 = .ok (.ireturn, 1) := dk_172 (dk_at dksL_law_28 11 rfl rfl)
theorem dL_law_818 : decode cL_law 818 = .ok (.goto 2276, 3) := dk_167 8 228 (dk_at dksL_law_28 12 rfl rfl)
theorem dL_law_821 : decode cL_law 821 = .ok (.aload_n 1, 1) := dk_43 (dk_at dksL_law_28 15 rfl rfl)
theorem dL_law_822 : decode cL_law 822 = .ok (.aload_n 0, 1) := dk_42 (dk_at dksL_law_28 16 rfl rfl)
theorem dL_law_823 : decode cL_law 823 = .ok (.iload 4, 2) := dk_21 4 (dk_at dksL_law_28 17 rfl rfl)
theorem dL_law_825 : decode cL_law 825 = .ok (.iconst 1, 1) := dk_4 (dk_at dksL_law_28 19 rfl rfl)
theorem dL_law_826 : decode cL_law 826 = .ok (.iadd, 1) := dk_96 (dk_at dksL_law_28 20 rfl rfl)
theorem dL_law_827 : decode cL_law 827 = .ok (.iaload, 1) := dk_46 (dk_at dksL_law_28 21 rfl rfl)
theorem dL_law_828 : decode cL_law 828 = .ok (.aload_n 0, 1) := dk_42 (dk_at dksL_law_28 22 rfl rfl)
theorem dL_law_829 : decode cL_law 829 = .ok (.iload 4, 2) := dk_21 4 (dk_at dksL_law_29 0 rfl rfl)
theorem dL_law_831 : decode cL_law 831 = .ok (.iconst 2, 1) := dk_5 (dk_at dksL_law_29 2 rfl rfl)
theorem dL_law_832 : decode cL_law 832 = .ok (.iadd, 1) := dk_96 (dk_at dksL_law_29 3 rfl rfl)
theorem dL_law_833 : decode cL_law 833 = .ok (.iaload, 1) := dk_46 (dk_at dksL_law_29 4 rfl rfl)
theorem dL_law_834 : decode cL_law 834 = .ok (.aload_n 0, 1) := dk_42 (dk_at dksL_law_29 5 rfl rfl)
theorem dL_law_835 : decode cL_law 835 = .ok (.iload 4, 2) := dk_21 4 (dk_at dksL_law_29 6 rfl rfl)
theorem dL_law_837 : decode cL_law 837 = .ok (.iconst 3, 1) := dk_6 (dk_at dksL_law_29 8 rfl rfl)
theorem dL_law_838 : decode cL_law 838 = .ok (.iadd, 1) := dk_96 (dk_at dksL_law_29 9 rfl rfl)
theorem dL_law_839 : decode cL_law 839 = .ok (.iaload, 1) := dk_46 (dk_at dksL_law_29 10 rfl rfl)
theorem dL_law_840 : decode cL_law 840 = .ok (.aload_n 0, 1) := dk_42 (dk_at dksL_law_29 11 rfl rfl)
theorem dL_law_841 : decode cL_law 841 = .ok (.iload 4, 2) := dk_21 4 (dk_at dksL_law_29 12 rfl rfl)
theorem dL_law_843 : decode cL_law 843 = .ok (.iconst 4, 1) := dk_7 (dk_at dksL_law_29 14 rfl rfl)
theorem dL_law_844 : decode cL_law 844 = .ok (.iadd, 1) := dk_96 (dk_at dksL_law_29 15 rfl rfl)
theorem dL_law_845 : decode cL_law 845 = .ok (.iaload, 1) := dk_46 (dk_at dksL_law_29 16 rfl rfl)
theorem dL_law_846 : decode cL_law 846 = .ok (.aload_n 3, 1) := dk_45 (dk_at dksL_law_29 17 rfl rfl)
theorem dL_law_847 : decode cL_law 847 = .ok (.invokestatic 177, 3) := dk_184 0 177 (dk_at dksL_law_29 18 rfl rfl)
theorem dL_law_850 : decode cL_law 850 = .ok (.istore 5, 2) := dk_54 5 (dk_at dksL_law_29 21 rfl rfl)
theorem dL_law_852 : decode cL_law 852 = .ok (.aload_n 2, 1) := dk_44 (dk_at dksL_law_29 23 rfl rfl)
theorem dL_law_853 : decode cL_law 853 = .ok (.aload_n 0, 1) := dk_42 (dk_at dksL_law_30 0 rfl rfl)
theorem dL_law_854 : decode cL_law 854 = .ok (.iload 4, 2) := dk_21 4 (dk_at dksL_law_30 1 rfl rfl)
theorem dL_law_856 : decode cL_law 856 = .ok (.iconst 1, 1) := dk_4 (dk_at dksL_law_30 3 rfl rfl)
theorem dL_law_857 : decode cL_law 857 = .ok (.iadd, 1) := dk_96 (dk_at dksL_law_30 4 rfl rfl)
theorem dL_law_858 : decode cL_law 858 = .ok (.iaload, 1) := dk_46 (dk_at dksL_law_30 5 rfl rfl)
theorem dL_law_859 : decode cL_law 859 = .ok (.aload_n 0, 1) := dk_42 (dk_at dksL_law_30 6 rfl rfl)
theorem dL_law_860 : decode cL_law 860 = .ok (.iload 4, 2) := dk_21 4 (dk_at dksL_law_30 7 rfl rfl)
theorem dL_law_862 : decode cL_law 862 = .ok (.iconst 2, 1) := dk_5 (dk_at dksL_law_30 9 rfl rfl)
theorem dL_law_863 : decode cL_law 863 = .ok (.iadd, 1) := dk_96 (dk_at dksL_law_30 10 rfl rfl)
theorem dL_law_864 : decode cL_law 864 = .ok (.iaload, 1) := dk_46 (dk_at dksL_law_30 11 rfl rfl)
theorem dL_law_865 : decode cL_law 865 = .ok (.aload_n 0, 1) := dk_42 (dk_at dksL_law_30 12 rfl rfl)
theorem dL_law_866 : decode cL_law 866 = .ok (.iload 4, 2) := dk_21 4 (dk_at dksL_law_30 13 rfl rfl)
theorem dL_law_868 : decode cL_law 868 = .ok (.iconst 3, 1) := dk_6 (dk_at dksL_law_30 15 rfl rfl)
theorem dL_law_869 : decode cL_law 869 = .ok (.iadd, 1) := dk_96 (dk_at dksL_law_30 16 rfl rfl)
theorem dL_law_870 : decode cL_law 870 = .ok (.iaload, 1) := dk_46 (dk_at dksL_law_30 17 rfl rfl)
theorem dL_law_871 : decode cL_law 871 = .ok (.aload_n 0, 1) := dk_42 (dk_at dksL_law_30 18 rfl rfl)
theorem dL_law_872 : decode cL_law 872 = .ok (.iload 4, 2) := dk_21 4 (dk_at dksL_law_30 19 rfl rfl)
theorem dL_law_874 : decode cL_law 874 = .ok (.iconst 4, 1) := dk_7 (dk_at dksL_law_30 21 rfl rfl)
theorem dL_law_875 : decode cL_law 875 = .ok (.iadd, 1) := dk_96 (dk_at dksL_law_30 22 rfl rfl)
theorem dL_law_876 : decode cL_law 876 = .ok (.iaload, 1) := dk_46 (dk_at dksL_law_30 23 rfl rfl)
theorem dL_law_877 : decode cL_law 877 = .ok (.invokevirtual 179, 3) := dk_182 0 179 (dk_at dksL_law_31 0 rfl rfl)
theorem dL_law_880 : decode cL_law 880 = .ok (.istore 6, 2) := dk_54 6 (dk_at dksL_law_31 3 rfl rfl)
theorem dL_law_882 : decode cL_law 882 = .ok (.aload_n 2, 1) := dk_44 (dk_at dksL_law_31 5 rfl rfl)
theorem dL_law_883 : decode cL_law 883 = .ok (.invokevirtual 149, 3) := dk_182 0 149 (dk_at dksL_law_31 6 rfl rfl)
theorem dL_law_886 : decode cL_law 886 = .ok (.iload 5, 2) := dk_21 5 (dk_at dksL_law_31 9 rfl rfl)
theorem dL_law_888 : decode cL_law 888 = .ok (.if_icmp .eq 5, 3) := dk_159 0 5 (dk_at dksL_law_31 11 rfl rfl)
theorem dL_law_891 : decode cL_law 891 = .ok (.iconst 0, 1) := dk_3 (dk_at dksL_law_31 14 rfl rfl)
theorem dL_law_892 : decode cL_law 892 = .ok (.ireturn, 1) := dk_172 (dk_at dksL_law_31 15 rfl rfl)
theorem dL_law_893 : decode cL_law 893 = .ok (.iload 5, 2) := dk_21 5 (dk_at dksL_law_31 16 rfl rfl)
theorem dL_law_895 : decode cL_law 895 = .ok (.ifCond .ne 15, 3) := dk_154 0 15 (dk_at dksL_law_31 18 rfl rfl)
theorem dL_law_898 : decode cL_law 898 = .ok (.aload_n 3, 1) := dk_45 (dk_at dksL_law_31 21 rfl rfl)
theorem dL_law_899 : decode cL_law 899 = .ok (.iconst 0, 1) := dk_3 (dk_at dksL_law_31 22 rfl rfl)
theorem dL_law_900 : decode cL_law 900 = .ok (.laload, 1) := dk_47 (dk_at dksL_law_31 23 rfl rfl)
theorem dL_law_901 : decode cL_law 901 = .ok (.iload 6, 2) := dk_21 6 (dk_at dksL_law_32 0 rfl rfl)
theorem dL_law_903 : decode cL_law 903 = .ok (.i2l, 1) := dk_133 (dk_at dksL_law_32 2 rfl rfl)
theorem dL_law_904 : decode cL_law 904 = .ok (.lcmp, 1) := dk_148 (dk_at dksL_law_32 3 rfl rfl)
theorem dL_law_905 : decode cL_law 905 = .ok (.ifCond .eq 5, 3) := dk_153 0 5 (dk_at dksL_law_32 4 rfl rfl)
theorem dL_law_908 : decode cL_law 908 = .ok (.iconst 0, 1) := dk_3 (dk_at dksL_law_32 7 rfl rfl)
theorem dL_law_909 : decode cL_law 909 = .ok (.ireturn, 1) := dk_172 (dk_at dksL_law_32 8 rfl rfl)
theorem dL_law_910 : decode cL_law 910 = .ok (.goto 2184, 3) := dk_167 8 136 (dk_at dksL_law_32 9 rfl rfl)
theorem dL_law_913 : decode cL_law 913 = .ok (.aload_n 1, 1) := dk_43 (dk_at dksL_law_32 12 rfl rfl)
theorem dL_law_914 : decode cL_law 914 = .ok (.aload_n 0, 1) := dk_42 (dk_at dksL_law_32 13 rfl rfl)
theorem dL_law_915 : decode cL_law 915 = .ok (.iload 4, 2) := dk_21 4 (dk_at dksL_law_32 14 rfl rfl)
theorem dL_law_917 : decode cL_law 917 = .ok (.iconst 1, 1) := dk_4 (dk_at dksL_law_32 16 rfl rfl)
theorem dL_law_918 : decode cL_law 918 = .ok (.iadd, 1) := dk_96 (dk_at dksL_law_32 17 rfl rfl)
theorem dL_law_919 : decode cL_law 919 = .ok (.iaload, 1) := dk_46 (dk_at dksL_law_32 18 rfl rfl)
theorem dL_law_920 : decode cL_law 920 = .ok (.aload_n 0, 1) := dk_42 (dk_at dksL_law_32 19 rfl rfl)
theorem dL_law_921 : decode cL_law 921 = .ok (.iload 4, 2) := dk_21 4 (dk_at dksL_law_32 20 rfl rfl)
theorem dL_law_923 : decode cL_law 923 = .ok (.iconst 2, 1) := dk_5 (dk_at dksL_law_32 22 rfl rfl)
theorem dL_law_924 : decode cL_law 924 = .ok (.iadd, 1) := dk_96 (dk_at dksL_law_32 23 rfl rfl)
theorem dL_law_925 : decode cL_law 925 = .ok (.iaload, 1) := dk_46 (dk_at dksL_law_33 0 rfl rfl)
theorem dL_law_926 : decode cL_law 926 = .ok (.aload_n 0, 1) := dk_42 (dk_at dksL_law_33 1 rfl rfl)
theorem dL_law_927 : decode cL_law 927 = .ok (.iload 4, 2) := dk_21 4 (dk_at dksL_law_33 2 rfl rfl)
theorem dL_law_929 : decode cL_law 929 = .ok (.iconst 3, 1) := dk_6 (dk_at dksL_law_33 4 rfl rfl)
theorem dL_law_930 : decode cL_law 930 = .ok (.iadd, 1) := dk_96 (dk_at dksL_law_33 5 rfl rfl)
theorem dL_law_931 : decode cL_law 931 = .ok (.iaload, 1) := dk_46 (dk_at dksL_law_33 6 rfl rfl)
theorem dL_law_932 : decode cL_law 932 = .ok (.aload_n 3, 1) := dk_45 (dk_at dksL_law_33 7 rfl rfl)
theorem dL_law_933 : decode cL_law 933 = .ok (.invokestatic 180, 3) := dk_184 0 180 (dk_at dksL_law_33 8 rfl rfl)
theorem dL_law_936 : decode cL_law 936 = .ok (.istore 5, 2) := dk_54 5 (dk_at dksL_law_33 11 rfl rfl)
theorem dL_law_938 : decode cL_law 938 = .ok (.aload_n 2, 1) := dk_44 (dk_at dksL_law_33 13 rfl rfl)
theorem dL_law_939 : decode cL_law 939 = .ok (.aload_n 0, 1) := dk_42 (dk_at dksL_law_33 14 rfl rfl)
theorem dL_law_940 : decode cL_law 940 = .ok (.iload 4, 2) := dk_21 4 (dk_at dksL_law_33 15 rfl rfl)
theorem dL_law_942 : decode cL_law 942 = .ok (.iconst 1, 1) := dk_4 (dk_at dksL_law_33 17 rfl rfl)
theorem dL_law_943 : decode cL_law 943 = .ok (.iadd, 1) := dk_96 (dk_at dksL_law_33 18 rfl rfl)
theorem dL_law_944 : decode cL_law 944 = .ok (.iaload, 1) := dk_46 (dk_at dksL_law_33 19 rfl rfl)
theorem dL_law_945 : decode cL_law 945 = .ok (.aload_n 0, 1) := dk_42 (dk_at dksL_law_33 20 rfl rfl)
theorem dL_law_946 : decode cL_law 946 = .ok (.iload 4, 2) := dk_21 4 (dk_at dksL_law_33 21 rfl rfl)
theorem dL_law_948 : decode cL_law 948 = .ok (.iconst 2, 1) := dk_5 (dk_at dksL_law_33 23 rfl rfl)
theorem dL_law_949 : decode cL_law 949 = .ok (.iadd, 1) := dk_96 (dk_at dksL_law_34 0 rfl rfl)
theorem dL_law_950 : decode cL_law 950 = .ok (.iaload, 1) := dk_46 (dk_at dksL_law_34 1 rfl rfl)
theorem dL_law_951 : decode cL_law 951 = .ok (.aload_n 0, 1) := dk_42 (dk_at dksL_law_34 2 rfl rfl)
theorem dL_law_952 : decode cL_law 952 = .ok (.iload 4, 2) := dk_21 4 (dk_at dksL_law_34 3 rfl rfl)
theorem dL_law_954 : decode cL_law 954 = .ok (.iconst 3, 1) := dk_6 (dk_at dksL_law_34 5 rfl rfl)
theorem dL_law_955 : decode cL_law 955 = .ok (.iadd, 1) := dk_96 (dk_at dksL_law_34 6 rfl rfl)
theorem dL_law_956 : decode cL_law 956 = .ok (.iaload, 1) := dk_46 (dk_at dksL_law_34 7 rfl rfl)
theorem dL_law_957 : decode cL_law 957 = .ok (.invokevirtual 182, 3) := dk_182 0 182 (dk_at dksL_law_34 8 rfl rfl)
theorem dL_law_960 : decode cL_law 960 = .ok (.istore 6, 2) := dk_54 6 (dk_at dksL_law_34 11 rfl rfl)
theorem dL_law_962 : decode cL_law 962 = .ok (.aload_n 2, 1) := dk_44 (dk_at dksL_law_34 13 rfl rfl)
theorem dL_law_963 : decode cL_law 963 = .ok (.invokevirtual 149, 3) := dk_182 0 149 (dk_at dksL_law_34 14 rfl rfl)
theorem dL_law_966 : decode cL_law 966 = .ok (.iload 5, 2) := dk_21 5 (dk_at dksL_law_34 17 rfl rfl)
theorem dL_law_968 : decode cL_law 968 = .ok (.if_icmp .eq 5, 3) := dk_159 0 5 (dk_at dksL_law_34 19 rfl rfl)
theorem dL_law_971 : decode cL_law 971 = .ok (.iconst 0, 1) := dk_3 (dk_at dksL_law_34 22 rfl rfl)
theorem dL_law_972 : decode cL_law 972 = .ok (.ireturn, 1) := dk_172 (dk_at dksL_law_34 23 rfl rfl)
theorem dL_law_973 : decode cL_law 973 = .ok (.iload 5, 2) := dk_21 5 (dk_at dksL_law_35 0 rfl rfl)
theorem dL_law_975 : decode cL_law 975 = .ok (.ifCond .ne 15, 3) := dk_154 0 15 (dk_at dksL_law_35 2 rfl rfl)
theorem dL_law_978 : decode cL_law 978 = .ok (.aload_n 3, 1) := dk_45 (dk_at dksL_law_35 5 rfl rfl)
theorem dL_law_979 : decode cL_law 979 = .ok (.iconst 0, 1) := dk_3 (dk_at dksL_law_35 6 rfl rfl)
theorem dL_law_980 : decode cL_law 980 = .ok (.laload, 1) := dk_47 (dk_at dksL_law_35 7 rfl rfl)
theorem dL_law_981 : decode cL_law 981 = .ok (.iload 6, 2) := dk_21 6 (dk_at dksL_law_35 8 rfl rfl)
theorem dL_law_983 : decode cL_law 983 = .ok (.i2l, 1) := dk_133 (dk_at dksL_law_35 10 rfl rfl)
theorem dL_law_984 : decode cL_law 984 = .ok (.lcmp, 1) := dk_148 (dk_at dksL_law_35 11 rfl rfl)
theorem dL_law_985 : decode cL_law 985 = .ok (.ifCond .eq 5, 3) := dk_153 0 5 (dk_at dksL_law_35 12 rfl rfl)
theorem dL_law_988 : decode cL_law 988 = .ok (.iconst 0, 1) := dk_3 (dk_at dksL_law_35 15 rfl rfl)
theorem dL_law_989 : decode cL_law 989 = .ok (.ireturn, 1) := dk_172 (dk_at dksL_law_35 16 rfl rfl)
theorem dL_law_990 : decode cL_law 990 = .ok (.goto 2104, 3) := dk_167 8 56 (dk_at dksL_law_35 17 rfl rfl)
theorem dL_law_993 : decode cL_law 993 = .ok (.aload_n 1, 1) := dk_43 (dk_at dksL_law_35 20 rfl rfl)
theorem dL_law_994 : decode cL_law 994 = .ok (.aload_n 0, 1) := dk_42 (dk_at dksL_law_35 21 rfl rfl)
theorem dL_law_995 : decode cL_law 995 = .ok (.iload 4, 2) := dk_21 4 (dk_at dksL_law_35 22 rfl rfl)
theorem dL_law_997 : decode cL_law 997 = .ok (.iconst 1, 1) := dk_4 (dk_at dksL_law_36 0 rfl rfl)
theorem dL_law_998 : decode cL_law 998 = .ok (.iadd, 1) := dk_96 (dk_at dksL_law_36 1 rfl rfl)
theorem dL_law_999 : decode cL_law 999 = .ok (.iaload, 1) := dk_46 (dk_at dksL_law_36 2 rfl rfl)
theorem dL_law_1000 : decode cL_law 1000 = .ok (.aload_n 0, 1) := dk_42 (dk_at dksL_law_36 3 rfl rfl)
theorem dL_law_1001 : decode cL_law 1001 = .ok (.iload 4, 2) := dk_21 4 (dk_at dksL_law_36 4 rfl rfl)
theorem dL_law_1003 : decode cL_law 1003 = .ok (.iconst 2, 1) := dk_5 (dk_at dksL_law_36 6 rfl rfl)
theorem dL_law_1004 : decode cL_law 1004 = .ok (.iadd, 1) := dk_96 (dk_at dksL_law_36 7 rfl rfl)
theorem dL_law_1005 : decode cL_law 1005 = .ok (.iaload, 1) := dk_46 (dk_at dksL_law_36 8 rfl rfl)
theorem dL_law_1006 : decode cL_law 1006 = .ok (.aload_n 0, 1) := dk_42 (dk_at dksL_law_36 9 rfl rfl)
theorem dL_law_1007 : decode cL_law 1007 = .ok (.iload 4, 2) := dk_21 4 (dk_at dksL_law_36 10 rfl rfl)
theorem dL_law_1009 : decode cL_law 1009 = .ok (.iconst 3, 1) := dk_6 (dk_at dksL_law_36 12 rfl rfl)
theorem dL_law_1010 : decode cL_law 1010 = .ok (.iadd, 1) := dk_96 (dk_at dksL_law_36 13 rfl rfl)
theorem dL_law_1011 : decode cL_law 1011 = .ok (.iaload, 1) := dk_46 (dk_at dksL_law_36 14 rfl rfl)
theorem dL_law_1012 : decode cL_law 1012 = .ok (.aload_n 3, 1) := dk_45 (dk_at dksL_law_36 15 rfl rfl)
theorem dL_law_1013 : decode cL_law 1013 = .ok (.invokestatic 183, 3) := dk_184 0 183 (dk_at dksL_law_36 16 rfl rfl)
theorem dL_law_1016 : decode cL_law 1016 = .ok (.istore 5, 2) := dk_54 5 (dk_at dksL_law_36 19 rfl rfl)
theorem dL_law_1018 : decode cL_law 1018 = .ok (.aload_n 2, 1) := dk_44 (dk_at dksL_law_36 21 rfl rfl)
theorem dL_law_1019 : decode cL_law 1019 = .ok (.aload_n 0, 1) := dk_42 (dk_at dksL_law_36 22 rfl rfl)
theorem dL_law_1020 : decode cL_law 1020 = .ok (.iload 4, 2) := dk_21 4 (dk_at dksL_law_37 0 rfl rfl)
theorem dL_law_1022 : decode cL_law 1022 = .ok (.iconst 1, 1) := dk_4 (dk_at dksL_law_37 2 rfl rfl)
theorem dL_law_1023 : decode cL_law 1023 = .ok (.iadd, 1) := dk_96 (dk_at dksL_law_37 3 rfl rfl)
theorem dL_law_1024 : decode cL_law 1024 = .ok (.iaload, 1) := dk_46 (dk_at dksL_law_37 4 rfl rfl)
theorem dL_law_1025 : decode cL_law 1025 = .ok (.aload_n 0, 1) := dk_42 (dk_at dksL_law_37 5 rfl rfl)
theorem dL_law_1026 : decode cL_law 1026 = .ok (.iload 4, 2) := dk_21 4 (dk_at dksL_law_37 6 rfl rfl)
theorem dL_law_1028 : decode cL_law 1028 = .ok (.iconst 2, 1) := dk_5 (dk_at dksL_law_37 8 rfl rfl)
theorem dL_law_1029 : decode cL_law 1029 = .ok (.iadd, 1) := dk_96 (dk_at dksL_law_37 9 rfl rfl)
theorem dL_law_1030 : decode cL_law 1030 = .ok (.iaload, 1) := dk_46 (dk_at dksL_law_37 10 rfl rfl)
theorem dL_law_1031 : decode cL_law 1031 = .ok (.aload_n 0, 1) := dk_42 (dk_at dksL_law_37 11 rfl rfl)
theorem dL_law_1032 : decode cL_law 1032 = .ok (.iload 4, 2) := dk_21 4 (dk_at dksL_law_37 12 rfl rfl)
theorem dL_law_1034 : decode cL_law 1034 = .ok (.iconst 3, 1) := dk_6 (dk_at dksL_law_37 14 rfl rfl)
theorem dL_law_1035 : decode cL_law 1035 = .ok (.iadd, 1) := dk_96 (dk_at dksL_law_37 15 rfl rfl)
theorem dL_law_1036 : decode cL_law 1036 = .ok (.iaload, 1) := dk_46 (dk_at dksL_law_37 16 rfl rfl)
theorem dL_law_1037 : decode cL_law 1037 = .ok (.invokevirtual 185, 3) := dk_182 0 185 (dk_at dksL_law_37 17 rfl rfl)
theorem dL_law_1040 : decode cL_law 1040 = .ok (.istore 6, 2) := dk_54 6 (dk_at dksL_law_37 20 rfl rfl)
theorem dL_law_1042 : decode cL_law 1042 = .ok (.aload_n 2, 1) := dk_44 (dk_at dksL_law_37 22 rfl rfl)
theorem dL_law_1043 : decode cL_law 1043 = .ok (.invokevirtual 149, 3) := dk_182 0 149 (dk_at dksL_law_38 0 rfl rfl)
theorem dL_law_1046 : decode cL_law 1046 = .ok (.iload 5, 2) := dk_21 5 (dk_at dksL_law_38 3 rfl rfl)
theorem dL_law_1048 : decode cL_law 1048 = .ok (.if_icmp .eq 5, 3) := dk_159 0 5 (dk_at dksL_law_38 5 rfl rfl)
theorem dL_law_1051 : decode cL_law 1051 = .ok (.iconst 0, 1) := dk_3 (dk_at dksL_law_38 8 rfl rfl)
theorem dL_law_1052 : decode cL_law 1052 = .ok (.ireturn, 1) := dk_172 (dk_at dksL_law_38 9 rfl rfl)
theorem dL_law_1053 : decode cL_law 1053 = .ok (.iload 5, 2) := dk_21 5 (dk_at dksL_law_38 10 rfl rfl)
theorem dL_law_1055 : decode cL_law 1055 = .ok (.ifCond .ne 15, 3) := dk_154 0 15 (dk_at dksL_law_38 12 rfl rfl)
theorem dL_law_1058 : decode cL_law 1058 = .ok (.aload_n 3, 1) := dk_45 (dk_at dksL_law_38 15 rfl rfl)
theorem dL_law_1059 : decode cL_law 1059 = .ok (.iconst 0, 1) := dk_3 (dk_at dksL_law_38 16 rfl rfl)
theorem dL_law_1060 : decode cL_law 1060 = .ok (.laload, 1) := dk_47 (dk_at dksL_law_38 17 rfl rfl)
theorem dL_law_1061 : decode cL_law 1061 = .ok (.iload 6, 2) := dk_21 6 (dk_at dksL_law_38 18 rfl rfl)
theorem dL_law_1063 : decode cL_law 1063 = .ok (.i2l, 1) := dk_133 (dk_at dksL_law_38 20 rfl rfl)
theorem dL_law_1064 : decode cL_law 1064 = .ok (.lcmp, 1) := dk_148 (dk_at dksL_law_38 21 rfl rfl)
theorem dL_law_1065 : decode cL_law 1065 = .ok (.ifCond .eq 5, 3) := dk_153 0 5 (dk_at dksL_law_39 0 rfl rfl)
theorem dL_law_1068 : decode cL_law 1068 = .ok (.iconst 0, 1) := dk_3 (dk_at dksL_law_39 3 rfl rfl)
theorem dL_law_1069 : decode cL_law 1069 = .ok (.ireturn, 1) := dk_172 (dk_at dksL_law_39 4 rfl rfl)
theorem dL_law_1070 : decode cL_law 1070 = .ok (.goto 2024, 3) := dk_167 7 232 (dk_at dksL_law_39 5 rfl rfl)
theorem dL_law_1073 : decode cL_law 1073 = .ok (.aload_n 1, 1) := dk_43 (dk_at dksL_law_39 8 rfl rfl)
theorem dL_law_1074 : decode cL_law 1074 = .ok (.aload_n 0, 1) := dk_42 (dk_at dksL_law_39 9 rfl rfl)
theorem dL_law_1075 : decode cL_law 1075 = .ok (.iload 4, 2) := dk_21 4 (dk_at dksL_law_39 10 rfl rfl)
theorem dL_law_1077 : decode cL_law 1077 = .ok (.iconst 1, 1) := dk_4 (dk_at dksL_law_39 12 rfl rfl)
theorem dL_law_1078 : decode cL_law 1078 = .ok (.iadd, 1) := dk_96 (dk_at dksL_law_39 13 rfl rfl)
theorem dL_law_1079 : decode cL_law 1079 = .ok (.iaload, 1) := dk_46 (dk_at dksL_law_39 14 rfl rfl)
theorem dL_law_1080 : decode cL_law 1080 = .ok (.aload_n 0, 1) := dk_42 (dk_at dksL_law_39 15 rfl rfl)
theorem dL_law_1081 : decode cL_law 1081 = .ok (.iload 4, 2) := dk_21 4 (dk_at dksL_law_39 16 rfl rfl)
theorem dL_law_1083 : decode cL_law 1083 = .ok (.iconst 2, 1) := dk_5 (dk_at dksL_law_39 18 rfl rfl)
theorem dL_law_1084 : decode cL_law 1084 = .ok (.iadd, 1) := dk_96 (dk_at dksL_law_39 19 rfl rfl)
theorem dL_law_1085 : decode cL_law 1085 = .ok (.iaload, 1) := dk_46 (dk_at dksL_law_39 20 rfl rfl)
theorem dL_law_1086 : decode cL_law 1086 = .ok (.aload_n 3, 1) := dk_45 (dk_at dksL_law_39 21 rfl rfl)
theorem dL_law_1087 : decode cL_law 1087 = .ok (.invokestatic 186, 3) := dk_184 0 186 (dk_at dksL_law_40 0 rfl rfl)
theorem dL_law_1090 : decode cL_law 1090 = .ok (.istore 5, 2) := dk_54 5 (dk_at dksL_law_40 3 rfl rfl)
theorem dL_law_1092 : decode cL_law 1092 = .ok (.aload_n 2, 1) := dk_44 (dk_at dksL_law_40 5 rfl rfl)
theorem dL_law_1093 : decode cL_law 1093 = .ok (.aload_n 0, 1) := dk_42 (dk_at dksL_law_40 6 rfl rfl)
theorem dL_law_1094 : decode cL_law 1094 = .ok (.iload 4, 2) := dk_21 4 (dk_at dksL_law_40 7 rfl rfl)
theorem dL_law_1096 : decode cL_law 1096 = .ok (.iconst 1, 1) := dk_4 (dk_at dksL_law_40 9 rfl rfl)
theorem dL_law_1097 : decode cL_law 1097 = .ok (.iadd, 1) := dk_96 (dk_at dksL_law_40 10 rfl rfl)
theorem dL_law_1098 : decode cL_law 1098 = .ok (.iaload, 1) := dk_46 (dk_at dksL_law_40 11 rfl rfl)
theorem dL_law_1099 : decode cL_law 1099 = .ok (.aload_n 0, 1) := dk_42 (dk_at dksL_law_40 12 rfl rfl)
theorem dL_law_1100 : decode cL_law 1100 = .ok (.iload 4, 2) := dk_21 4 (dk_at dksL_law_40 13 rfl rfl)
theorem dL_law_1102 : decode cL_law 1102 = .ok (.iconst 2, 1) := dk_5 (dk_at dksL_law_40 15 rfl rfl)
theorem dL_law_1103 : decode cL_law 1103 = .ok (.iadd, 1) := dk_96 (dk_at dksL_law_40 16 rfl rfl)
theorem dL_law_1104 : decode cL_law 1104 = .ok (.iaload, 1) := dk_46 (dk_at dksL_law_40 17 rfl rfl)
theorem dL_law_1105 : decode cL_law 1105 = .ok (.invokevirtual 188, 3) := dk_182 0 188 (dk_at dksL_law_40 18 rfl rfl)
theorem dL_law_1108 : decode cL_law 1108 = .ok (.istore 6, 2) := dk_54 6 (dk_at dksL_law_40 21 rfl rfl)
theorem dL_law_1110 : decode cL_law 1110 = .ok (.aload_n 2, 1) := dk_44 (dk_at dksL_law_40 23 rfl rfl)
theorem dL_law_1111 : decode cL_law 1111 = .ok (.invokevirtual 149, 3) := dk_182 0 149 (dk_at dksL_law_41 0 rfl rfl)
theorem dL_law_1114 : decode cL_law 1114 = .ok (.iload 5, 2) := dk_21 5 (dk_at dksL_law_41 3 rfl rfl)
theorem dL_law_1116 : decode cL_law 1116 = .ok (.if_icmp .eq 5, 3) := dk_159 0 5 (dk_at dksL_law_41 5 rfl rfl)
theorem dL_law_1119 : decode cL_law 1119 = .ok (.iconst 0, 1) := dk_3 (dk_at dksL_law_41 8 rfl rfl)
theorem dL_law_1120 : decode cL_law 1120 = .ok (.ireturn, 1) := dk_172 (dk_at dksL_law_41 9 rfl rfl)
theorem dL_law_1121 : decode cL_law 1121 = .ok (.iload 5, 2) := dk_21 5 (dk_at dksL_law_41 10 rfl rfl)
theorem dL_law_1123 : decode cL_law 1123 = .ok (.ifCond .ne 15, 3) := dk_154 0 15 (dk_at dksL_law_41 12 rfl rfl)
theorem dL_law_1126 : decode cL_law 1126 = .ok (.aload_n 3, 1) := dk_45 (dk_at dksL_law_41 15 rfl rfl)
theorem dL_law_1127 : decode cL_law 1127 = .ok (.iconst 0, 1) := dk_3 (dk_at dksL_law_41 16 rfl rfl)
theorem dL_law_1128 : decode cL_law 1128 = .ok (.laload, 1) := dk_47 (dk_at dksL_law_41 17 rfl rfl)
theorem dL_law_1129 : decode cL_law 1129 = .ok (.iload 6, 2) := dk_21 6 (dk_at dksL_law_41 18 rfl rfl)
theorem dL_law_1131 : decode cL_law 1131 = .ok (.i2l, 1) := dk_133 (dk_at dksL_law_41 20 rfl rfl)
theorem dL_law_1132 : decode cL_law 1132 = .ok (.lcmp, 1) := dk_148 (dk_at dksL_law_41 21 rfl rfl)
theorem dL_law_1133 : decode cL_law 1133 = .ok (.ifCond .eq 5, 3) := dk_153 0 5 (dk_at dksL_law_42 0 rfl rfl)
theorem dL_law_1136 : decode cL_law 1136 = .ok (.iconst 0, 1) := dk_3 (dk_at dksL_law_42 3 rfl rfl)
theorem dL_law_1137 : decode cL_law 1137 = .ok (.ireturn, 1) := dk_172 (dk_at dksL_law_42 4 rfl rfl)
theorem dL_law_1138 : decode cL_law 1138 = .ok (.goto 1956, 3) := dk_167 7 164 (dk_at dksL_law_42 5 rfl rfl)
theorem dL_law_1141 : decode cL_law 1141 = .ok (.aload_n 1, 1) := dk_43 (dk_at dksL_law_42 8 rfl rfl)
theorem dL_law_1142 : decode cL_law 1142 = .ok (.aload_n 0, 1) := dk_42 (dk_at dksL_law_42 9 rfl rfl)
theorem dL_law_1143 : decode cL_law 1143 = .ok (.iload 4, 2) := dk_21 4 (dk_at dksL_law_42 10 rfl rfl)
theorem dL_law_1145 : decode cL_law 1145 = .ok (.iconst 1, 1) := dk_4 (dk_at dksL_law_42 12 rfl rfl)
theorem dL_law_1146 : decode cL_law 1146 = .ok (.iadd, 1) := dk_96 (dk_at dksL_law_42 13 rfl rfl)
theorem dL_law_1147 : decode cL_law 1147 = .ok (.iaload, 1) := dk_46 (dk_at dksL_law_42 14 rfl rfl)
theorem dL_law_1148 : decode cL_law 1148 = .ok (.aload_n 0, 1) := dk_42 (dk_at dksL_law_42 15 rfl rfl)
theorem dL_law_1149 : decode cL_law 1149 = .ok (.iload 4, 2) := dk_21 4 (dk_at dksL_law_42 16 rfl rfl)
theorem dL_law_1151 : decode cL_law 1151 = .ok (.iconst 2, 1) := dk_5 (dk_at dksL_law_42 18 rfl rfl)
theorem dL_law_1152 : decode cL_law 1152 = .ok (.iadd, 1) := dk_96 (dk_at dksL_law_42 19 rfl rfl)
theorem dL_law_1153 : decode cL_law 1153 = .ok (.iaload, 1) := dk_46 (dk_at dksL_law_42 20 rfl rfl)
theorem dL_law_1154 : decode cL_law 1154 = .ok (.aload_n 0, 1) := dk_42 (dk_at dksL_law_42 21 rfl rfl)
theorem dL_law_1155 : decode cL_law 1155 = .ok (.iload 4, 2) := dk_21 4 (dk_at dksL_law_42 22 rfl rfl)
theorem dL_law_1157 : decode cL_law 1157 = .ok (.iconst 3, 1) := dk_6 (dk_at dksL_law_43 0 rfl rfl)
theorem dL_law_1158 : decode cL_law 1158 = .ok (.iadd, 1) := dk_96 (dk_at dksL_law_43 1 rfl rfl)
theorem dL_law_1159 : decode cL_law 1159 = .ok (.iaload, 1) := dk_46 (dk_at dksL_law_43 2 rfl rfl)
theorem dL_law_1160 : decode cL_law 1160 = .ok (.aload_n 3, 1) := dk_45 (dk_at dksL_law_43 3 rfl rfl)
theorem dL_law_1161 : decode cL_law 1161 = .ok (.invokestatic 189, 3) := dk_184 0 189 (dk_at dksL_law_43 4 rfl rfl)
theorem dL_law_1164 : decode cL_law 1164 = .ok (.istore 5, 2) := dk_54 5 (dk_at dksL_law_43 7 rfl rfl)
theorem dL_law_1166 : decode cL_law 1166 = .ok (.aload_n 2, 1) := dk_44 (dk_at dksL_law_43 9 rfl rfl)
theorem dL_law_1167 : decode cL_law 1167 = .ok (.aload_n 0, 1) := dk_42 (dk_at dksL_law_43 10 rfl rfl)
theorem dL_law_1168 : decode cL_law 1168 = .ok (.iload 4, 2) := dk_21 4 (dk_at dksL_law_43 11 rfl rfl)
theorem dL_law_1170 : decode cL_law 1170 = .ok (.iconst 1, 1) := dk_4 (dk_at dksL_law_43 13 rfl rfl)
theorem dL_law_1171 : decode cL_law 1171 = .ok (.iadd, 1) := dk_96 (dk_at dksL_law_43 14 rfl rfl)
theorem dL_law_1172 : decode cL_law 1172 = .ok (.iaload, 1) := dk_46 (dk_at dksL_law_43 15 rfl rfl)
theorem dL_law_1173 : decode cL_law 1173 = .ok (.aload_n 0, 1) := dk_42 (dk_at dksL_law_43 16 rfl rfl)
theorem dL_law_1174 : decode cL_law 1174 = .ok (.iload 4, 2) := dk_21 4 (dk_at dksL_law_43 17 rfl rfl)
theorem dL_law_1176 : decode cL_law 1176 = .ok (.iconst 2, 1) := dk_5 (dk_at dksL_law_43 19 rfl rfl)
theorem dL_law_1177 : decode cL_law 1177 = .ok (.iadd, 1) := dk_96 (dk_at dksL_law_43 20 rfl rfl)
theorem dL_law_1178 : decode cL_law 1178 = .ok (.iaload, 1) := dk_46 (dk_at dksL_law_43 21 rfl rfl)
theorem dL_law_1179 : decode cL_law 1179 = .ok (.aload_n 0, 1) := dk_42 (dk_at dksL_law_43 22 rfl rfl)
theorem dL_law_1180 : decode cL_law 1180 = .ok (.iload 4, 2) := dk_21 4 (dk_at dksL_law_44 0 rfl rfl)
theorem dL_law_1182 : decode cL_law 1182 = .ok (.iconst 3, 1) := dk_6 (dk_at dksL_law_44 2 rfl rfl)
theorem dL_law_1183 : decode cL_law 1183 = .ok (.iadd, 1) := dk_96 (dk_at dksL_law_44 3 rfl rfl)
theorem dL_law_1184 : decode cL_law 1184 = .ok (.iaload, 1) := dk_46 (dk_at dksL_law_44 4 rfl rfl)
theorem dL_law_1185 : decode cL_law 1185 = .ok (.invokevirtual 191, 3) := dk_182 0 191 (dk_at dksL_law_44 5 rfl rfl)
theorem dL_law_1188 : decode cL_law 1188 = .ok (.istore 6, 2) := dk_54 6 (dk_at dksL_law_44 8 rfl rfl)
theorem dL_law_1190 : decode cL_law 1190 = .ok (.aload_n 2, 1) := dk_44 (dk_at dksL_law_44 10 rfl rfl)
theorem dL_law_1191 : decode cL_law 1191 = .ok (.invokevirtual 149, 3) := dk_182 0 149 (dk_at dksL_law_44 11 rfl rfl)
theorem dL_law_1194 : decode cL_law 1194 = .ok (.iload 5, 2) := dk_21 5 (dk_at dksL_law_44 14 rfl rfl)
theorem dL_law_1196 : decode cL_law 1196 = .ok (.if_icmp .eq 5, 3) := dk_159 0 5 (dk_at dksL_law_44 16 rfl rfl)
theorem dL_law_1199 : decode cL_law 1199 = .ok (.iconst 0, 1) := dk_3 (dk_at dksL_law_44 19 rfl rfl)
theorem dL_law_1200 : decode cL_law 1200 = .ok (.ireturn, 1) := dk_172 (dk_at dksL_law_44 20 rfl rfl)
theorem dL_law_1201 : decode cL_law 1201 = .ok (.iload 5, 2) := dk_21 5 (dk_at dksL_law_44 21 rfl rfl)
theorem dL_law_1203 : decode cL_law 1203 = .ok (.ifCond .ne 15, 3) := dk_154 0 15 (dk_at dksL_law_45 0 rfl rfl)
theorem dL_law_1206 : decode cL_law 1206 = .ok (.aload_n 3, 1) := dk_45 (dk_at dksL_law_45 3 rfl rfl)
theorem dL_law_1207 : decode cL_law 1207 = .ok (.iconst 0, 1) := dk_3 (dk_at dksL_law_45 4 rfl rfl)
theorem dL_law_1208 : decode cL_law 1208 = .ok (.laload, 1) := dk_47 (dk_at dksL_law_45 5 rfl rfl)
theorem dL_law_1209 : decode cL_law 1209 = .ok (.iload 6, 2) := dk_21 6 (dk_at dksL_law_45 6 rfl rfl)
theorem dL_law_1211 : decode cL_law 1211 = .ok (.i2l, 1) := dk_133 (dk_at dksL_law_45 8 rfl rfl)
theorem dL_law_1212 : decode cL_law 1212 = .ok (.lcmp, 1) := dk_148 (dk_at dksL_law_45 9 rfl rfl)
theorem dL_law_1213 : decode cL_law 1213 = .ok (.ifCond .eq 5, 3) := dk_153 0 5 (dk_at dksL_law_45 10 rfl rfl)
theorem dL_law_1216 : decode cL_law 1216 = .ok (.iconst 0, 1) := dk_3 (dk_at dksL_law_45 13 rfl rfl)
theorem dL_law_1217 : decode cL_law 1217 = .ok (.ireturn, 1) := dk_172 (dk_at dksL_law_45 14 rfl rfl)
theorem dL_law_1218 : decode cL_law 1218 = .ok (.goto 1876, 3) := dk_167 7 84 (dk_at dksL_law_45 15 rfl rfl)
theorem dL_law_1221 : decode cL_law 1221 = .ok (.aload_n 1, 1) := dk_43 (dk_at dksL_law_45 18 rfl rfl)
theorem dL_law_1222 : decode cL_law 1222 = .ok (.aload_n 0, 1) := dk_42 (dk_at dksL_law_45 19 rfl rfl)
theorem dL_law_1223 : decode cL_law 1223 = .ok (.iload 4, 2) := dk_21 4 (dk_at dksL_law_45 20 rfl rfl)
theorem dL_law_1225 : decode cL_law 1225 = .ok (.iconst 1, 1) := dk_4 (dk_at dksL_law_45 22 rfl rfl)
theorem dL_law_1226 : decode cL_law 1226 = .ok (.iadd, 1) := dk_96 (dk_at dksL_law_45 23 rfl rfl)
theorem dL_law_1227 : decode cL_law 1227 = .ok (.iaload, 1) := dk_46 (dk_at dksL_law_46 0 rfl rfl)
theorem dL_law_1228 : decode cL_law 1228 = .ok (.aload_n 0, 1) := dk_42 (dk_at dksL_law_46 1 rfl rfl)
theorem dL_law_1229 : decode cL_law 1229 = .ok (.iload 4, 2) := dk_21 4 (dk_at dksL_law_46 2 rfl rfl)
theorem dL_law_1231 : decode cL_law 1231 = .ok (.iconst 2, 1) := dk_5 (dk_at dksL_law_46 4 rfl rfl)
theorem dL_law_1232 : decode cL_law 1232 = .ok (.iadd, 1) := dk_96 (dk_at dksL_law_46 5 rfl rfl)
theorem dL_law_1233 : decode cL_law 1233 = .ok (.iaload, 1) := dk_46 (dk_at dksL_law_46 6 rfl rfl)
theorem dL_law_1234 : decode cL_law 1234 = .ok (.aload_n 0, 1) := dk_42 (dk_at dksL_law_46 7 rfl rfl)
theorem dL_law_1235 : decode cL_law 1235 = .ok (.iload 4, 2) := dk_21 4 (dk_at dksL_law_46 8 rfl rfl)
theorem dL_law_1237 : decode cL_law 1237 = .ok (.iconst 3, 1) := dk_6 (dk_at dksL_law_46 10 rfl rfl)
theorem dL_law_1238 : decode cL_law 1238 = .ok (.iadd, 1) := dk_96 (dk_at dksL_law_46 11 rfl rfl)
theorem dL_law_1239 : decode cL_law 1239 = .ok (.iaload, 1) := dk_46 (dk_at dksL_law_46 12 rfl rfl)
theorem dL_law_1240 : decode cL_law 1240 = .ok (.aload_n 0, 1) := dk_42 (dk_at dksL_law_46 13 rfl rfl)
theorem dL_law_1241 : decode cL_law 1241 = .ok (.iload 4, 2) := dk_21 4 (dk_at dksL_law_46 14 rfl rfl)
theorem dL_law_1243 : decode cL_law 1243 = .ok (.iconst 4, 1) := dk_7 (dk_at dksL_law_46 16 rfl rfl)
theorem dL_law_1244 : decode cL_law 1244 = .ok (.iadd, 1) := dk_96 (dk_at dksL_law_46 17 rfl rfl)
theorem dL_law_1245 : decode cL_law 1245 = .ok (.iaload, 1) := dk_46 (dk_at dksL_law_46 18 rfl rfl)
theorem dL_law_1246 : decode cL_law 1246 = .ok (.aload_n 0, 1) := dk_42 (dk_at dksL_law_46 19 rfl rfl)
theorem dL_law_1247 : decode cL_law 1247 = .ok (.iload 4, 2) := dk_21 4 (dk_at dksL_law_46 20 rfl rfl)
theorem dL_law_1249 : decode cL_law 1249 = .ok (.iconst 5, 1) := dk_8 (dk_at dksL_law_46 22 rfl rfl)
theorem dL_law_1250 : decode cL_law 1250 = .ok (.iadd, 1) := dk_96 (dk_at dksL_law_46 23 rfl rfl)
theorem dL_law_1251 : decode cL_law 1251 = .ok (.iaload, 1) := dk_46 (dk_at dksL_law_47 0 rfl rfl)
theorem dL_law_1252 : decode cL_law 1252 = .ok (.aload_n 0, 1) := dk_42 (dk_at dksL_law_47 1 rfl rfl)
theorem dL_law_1253 : decode cL_law 1253 = .ok (.iload 4, 2) := dk_21 4 (dk_at dksL_law_47 2 rfl rfl)
theorem dL_law_1255 : decode cL_law 1255 = .ok (.bipush 6, 2) := dk_16 6 (dk_at dksL_law_47 4 rfl rfl)
theorem dL_law_1257 : decode cL_law 1257 = .ok (.iadd, 1) := dk_96 (dk_at dksL_law_47 6 rfl rfl)
theorem dL_law_1258 : decode cL_law 1258 = .ok (.iaload, 1) := dk_46 (dk_at dksL_law_47 7 rfl rfl)
theorem dL_law_1259 : decode cL_law 1259 = .ok (.aload_n 3, 1) := dk_45 (dk_at dksL_law_47 8 rfl rfl)
theorem dL_law_1260 : decode cL_law 1260 = .ok (.invokestatic 192, 3) := dk_184 0 192 (dk_at dksL_law_47 9 rfl rfl)
theorem dL_law_1263 : decode cL_law 1263 = .ok (.istore 5, 2) := dk_54 5 (dk_at dksL_law_47 12 rfl rfl)
theorem dL_law_1265 : decode cL_law 1265 = .ok (.aload_n 2, 1) := dk_44 (dk_at dksL_law_47 14 rfl rfl)
theorem dL_law_1266 : decode cL_law 1266 = .ok (.aload_n 0, 1) := dk_42 (dk_at dksL_law_47 15 rfl rfl)
theorem dL_law_1267 : decode cL_law 1267 = .ok (.iload 4, 2) := dk_21 4 (dk_at dksL_law_47 16 rfl rfl)
theorem dL_law_1269 : decode cL_law 1269 = .ok (.iconst 1, 1) := dk_4 (dk_at dksL_law_47 18 rfl rfl)
theorem dL_law_1270 : decode cL_law 1270 = .ok (.iadd, 1) := dk_96 (dk_at dksL_law_47 19 rfl rfl)
theorem dL_law_1271 : decode cL_law 1271 = .ok (.iaload, 1) := dk_46 (dk_at dksL_law_47 20 rfl rfl)
theorem dL_law_1272 : decode cL_law 1272 = .ok (.aload_n 0, 1) := dk_42 (dk_at dksL_law_47 21 rfl rfl)
theorem dL_law_1273 : decode cL_law 1273 = .ok (.iload 4, 2) := dk_21 4 (dk_at dksL_law_47 22 rfl rfl)
theorem dL_law_1275 : decode cL_law 1275 = .ok (.iconst 2, 1) := dk_5 (dk_at dksL_law_48 0 rfl rfl)
theorem dL_law_1276 : decode cL_law 1276 = .ok (.iadd, 1) := dk_96 (dk_at dksL_law_48 1 rfl rfl)
theorem dL_law_1277 : decode cL_law 1277 = .ok (.iaload, 1) := dk_46 (dk_at dksL_law_48 2 rfl rfl)
theorem dL_law_1278 : decode cL_law 1278 = .ok (.aload_n 0, 1) := dk_42 (dk_at dksL_law_48 3 rfl rfl)
theorem dL_law_1279 : decode cL_law 1279 = .ok (.iload 4, 2) := dk_21 4 (dk_at dksL_law_48 4 rfl rfl)
theorem dL_law_1281 : decode cL_law 1281 = .ok (.iconst 3, 1) := dk_6 (dk_at dksL_law_48 6 rfl rfl)
theorem dL_law_1282 : decode cL_law 1282 = .ok (.iadd, 1) := dk_96 (dk_at dksL_law_48 7 rfl rfl)
theorem dL_law_1283 : decode cL_law 1283 = .ok (.iaload, 1) := dk_46 (dk_at dksL_law_48 8 rfl rfl)
theorem dL_law_1284 : decode cL_law 1284 = .ok (.aload_n 0, 1) := dk_42 (dk_at dksL_law_48 9 rfl rfl)
theorem dL_law_1285 : decode cL_law 1285 = .ok (.iload 4, 2) := dk_21 4 (dk_at dksL_law_48 10 rfl rfl)
theorem dL_law_1287 : decode cL_law 1287 = .ok (.iconst 4, 1) := dk_7 (dk_at dksL_law_48 12 rfl rfl)
theorem dL_law_1288 : decode cL_law 1288 = .ok (.iadd, 1) := dk_96 (dk_at dksL_law_48 13 rfl rfl)
theorem dL_law_1289 : decode cL_law 1289 = .ok (.iaload, 1) := dk_46 (dk_at dksL_law_48 14 rfl rfl)
theorem dL_law_1290 : decode cL_law 1290 = .ok (.aload_n 0, 1) := dk_42 (dk_at dksL_law_48 15 rfl rfl)
theorem dL_law_1291 : decode cL_law 1291 = .ok (.iload 4, 2) := dk_21 4 (dk_at dksL_law_48 16 rfl rfl)
theorem dL_law_1293 : decode cL_law 1293 = .ok (.iconst 5, 1) := dk_8 (dk_at dksL_law_48 18 rfl rfl)
theorem dL_law_1294 : decode cL_law 1294 = .ok (.iadd, 1) := dk_96 (dk_at dksL_law_48 19 rfl rfl)
theorem dL_law_1295 : decode cL_law 1295 = .ok (.iaload, 1) := dk_46 (dk_at dksL_law_48 20 rfl rfl)
theorem dL_law_1296 : decode cL_law 1296 = .ok (.aload_n 0, 1) := dk_42 (dk_at dksL_law_48 21 rfl rfl)
theorem dL_law_1297 : decode cL_law 1297 = .ok (.iload 4, 2) := dk_21 4 (dk_at dksL_law_48 22 rfl rfl)
theorem dL_law_1299 : decode cL_law 1299 = .ok (.bipush 6, 2) := dk_16 6 (dk_at dksL_law_49 0 rfl rfl)
theorem dL_law_1301 : decode cL_law 1301 = .ok (.iadd, 1) := dk_96 (dk_at dksL_law_49 2 rfl rfl)
theorem dL_law_1302 : decode cL_law 1302 = .ok (.iaload, 1) := dk_46 (dk_at dksL_law_49 3 rfl rfl)
theorem dL_law_1303 : decode cL_law 1303 = .ok (.invokevirtual 195, 3) := dk_182 0 195 (dk_at dksL_law_49 4 rfl rfl)
theorem dL_law_1306 : decode cL_law 1306 = .ok (.istore 6, 2) := dk_54 6 (dk_at dksL_law_49 7 rfl rfl)
theorem dL_law_1308 : decode cL_law 1308 = .ok (.aload_n 2, 1) := dk_44 (dk_at dksL_law_49 9 rfl rfl)
theorem dL_law_1309 : decode cL_law 1309 = .ok (.invokevirtual 149, 3) := dk_182 0 149 (dk_at dksL_law_49 10 rfl rfl)
theorem dL_law_1312 : decode cL_law 1312 = .ok (.iload 5, 2) := dk_21 5 (dk_at dksL_law_49 13 rfl rfl)
theorem dL_law_1314 : decode cL_law 1314 = .ok (.if_icmp .eq 5, 3) := dk_159 0 5 (dk_at dksL_law_49 15 rfl rfl)
theorem dL_law_1317 : decode cL_law 1317 = .ok (.iconst 0, 1) := dk_3 (dk_at dksL_law_49 18 rfl rfl)
theorem dL_law_1318 : decode cL_law 1318 = .ok (.ireturn, 1) := dk_172 (dk_at dksL_law_49 19 rfl rfl)
theorem dL_law_1319 : decode cL_law 1319 = .ok (.iload 5, 2) := dk_21 5 (dk_at dksL_law_49 20 rfl rfl)
theorem dL_law_1321 : decode cL_law 1321 = .ok (.ifCond .ne 15, 3) := dk_154 0 15 (dk_at dksL_law_50 0 rfl rfl)
theorem dL_law_1324 : decode cL_law 1324 = .ok (.aload_n 3, 1) := dk_45 (dk_at dksL_law_50 3 rfl rfl)
theorem dL_law_1325 : decode cL_law 1325 = .ok (.iconst 0, 1) := dk_3 (dk_at dksL_law_50 4 rfl rfl)
theorem dL_law_1326 : decode cL_law 1326 = .ok (.laload, 1) := dk_47 (dk_at dksL_law_50 5 rfl rfl)
theorem dL_law_1327 : decode cL_law 1327 = .ok (.iload 6, 2) := dk_21 6 (dk_at dksL_law_50 6 rfl rfl)
theorem dL_law_1329 : decode cL_law 1329 = .ok (.i2l, 1) := dk_133 (dk_at dksL_law_50 8 rfl rfl)
theorem dL_law_1330 : decode cL_law 1330 = .ok (.lcmp, 1) := dk_148 (dk_at dksL_law_50 9 rfl rfl)
theorem dL_law_1331 : decode cL_law 1331 = .ok (.ifCond .eq 5, 3) := dk_153 0 5 (dk_at dksL_law_50 10 rfl rfl)
theorem dL_law_1334 : decode cL_law 1334 = .ok (.iconst 0, 1) := dk_3 (dk_at dksL_law_50 13 rfl rfl)
theorem dL_law_1335 : decode cL_law 1335 = .ok (.ireturn, 1) := dk_172 (dk_at dksL_law_50 14 rfl rfl)
theorem dL_law_1336 : decode cL_law 1336 = .ok (.goto 1758, 3) := dk_167 6 222 (dk_at dksL_law_50 15 rfl rfl)
theorem dL_law_1339 : decode cL_law 1339 = .ok (.aload_n 1, 1) := dk_43 (dk_at dksL_law_50 18 rfl rfl)
theorem dL_law_1340 : decode cL_law 1340 = .ok (.aload_n 0, 1) := dk_42 (dk_at dksL_law_50 19 rfl rfl)
theorem dL_law_1341 : decode cL_law 1341 = .ok (.iload 4, 2) := dk_21 4 (dk_at dksL_law_50 20 rfl rfl)
theorem dL_law_1343 : decode cL_law 1343 = .ok (.iconst 1, 1) := dk_4 (dk_at dksL_law_50 22 rfl rfl)
theorem dL_law_1344 : decode cL_law 1344 = .ok (.iadd, 1) := dk_96 (dk_at dksL_law_50 23 rfl rfl)
theorem dL_law_1345 : decode cL_law 1345 = .ok (.iaload, 1) := dk_46 (dk_at dksL_law_51 0 rfl rfl)
theorem dL_law_1346 : decode cL_law 1346 = .ok (.aload_n 0, 1) := dk_42 (dk_at dksL_law_51 1 rfl rfl)
theorem dL_law_1347 : decode cL_law 1347 = .ok (.iload 4, 2) := dk_21 4 (dk_at dksL_law_51 2 rfl rfl)
theorem dL_law_1349 : decode cL_law 1349 = .ok (.iconst 2, 1) := dk_5 (dk_at dksL_law_51 4 rfl rfl)
theorem dL_law_1350 : decode cL_law 1350 = .ok (.iadd, 1) := dk_96 (dk_at dksL_law_51 5 rfl rfl)
theorem dL_law_1351 : decode cL_law 1351 = .ok (.iaload, 1) := dk_46 (dk_at dksL_law_51 6 rfl rfl)
theorem dL_law_1352 : decode cL_law 1352 = .ok (.aload_n 0, 1) := dk_42 (dk_at dksL_law_51 7 rfl rfl)
theorem dL_law_1353 : decode cL_law 1353 = .ok (.iload 4, 2) := dk_21 4 (dk_at dksL_law_51 8 rfl rfl)
theorem dL_law_1355 : decode cL_law 1355 = .ok (.iconst 3, 1) := dk_6 (dk_at dksL_law_51 10 rfl rfl)
theorem dL_law_1356 : decode cL_law 1356 = .ok (.iadd, 1) := dk_96 (dk_at dksL_law_51 11 rfl rfl)
theorem dL_law_1357 : decode cL_law 1357 = .ok (.iaload, 1) := dk_46 (dk_at dksL_law_51 12 rfl rfl)
theorem dL_law_1358 : decode cL_law 1358 = .ok (.aload_n 3, 1) := dk_45 (dk_at dksL_law_51 13 rfl rfl)
theorem dL_law_1359 : decode cL_law 1359 = .ok (.invokestatic 196, 3) := dk_184 0 196 (dk_at dksL_law_51 14 rfl rfl)
theorem dL_law_1362 : decode cL_law 1362 = .ok (.istore 5, 2) := dk_54 5 (dk_at dksL_law_51 17 rfl rfl)
theorem dL_law_1364 : decode cL_law 1364 = .ok (.aload_n 2, 1) := dk_44 (dk_at dksL_law_51 19 rfl rfl)
theorem dL_law_1365 : decode cL_law 1365 = .ok (.aload_n 0, 1) := dk_42 (dk_at dksL_law_51 20 rfl rfl)
theorem dL_law_1366 : decode cL_law 1366 = .ok (.iload 4, 2) := dk_21 4 (dk_at dksL_law_51 21 rfl rfl)
theorem dL_law_1368 : decode cL_law 1368 = .ok (.iconst 1, 1) := dk_4 (dk_at dksL_law_51 23 rfl rfl)
theorem dL_law_1369 : decode cL_law 1369 = .ok (.iadd, 1) := dk_96 (dk_at dksL_law_52 0 rfl rfl)
theorem dL_law_1370 : decode cL_law 1370 = .ok (.iaload, 1) := dk_46 (dk_at dksL_law_52 1 rfl rfl)
theorem dL_law_1371 : decode cL_law 1371 = .ok (.aload_n 0, 1) := dk_42 (dk_at dksL_law_52 2 rfl rfl)
theorem dL_law_1372 : decode cL_law 1372 = .ok (.iload 4, 2) := dk_21 4 (dk_at dksL_law_52 3 rfl rfl)
theorem dL_law_1374 : decode cL_law 1374 = .ok (.iconst 2, 1) := dk_5 (dk_at dksL_law_52 5 rfl rfl)
theorem dL_law_1375 : decode cL_law 1375 = .ok (.iadd, 1) := dk_96 (dk_at dksL_law_52 6 rfl rfl)
theorem dL_law_1376 : decode cL_law 1376 = .ok (.iaload, 1) := dk_46 (dk_at dksL_law_52 7 rfl rfl)
theorem dL_law_1377 : decode cL_law 1377 = .ok (.aload_n 0, 1) := dk_42 (dk_at dksL_law_52 8 rfl rfl)
theorem dL_law_1378 : decode cL_law 1378 = .ok (.iload 4, 2) := dk_21 4 (dk_at dksL_law_52 9 rfl rfl)
theorem dL_law_1380 : decode cL_law 1380 = .ok (.iconst 3, 1) := dk_6 (dk_at dksL_law_52 11 rfl rfl)
theorem dL_law_1381 : decode cL_law 1381 = .ok (.iadd, 1) := dk_96 (dk_at dksL_law_52 12 rfl rfl)
theorem dL_law_1382 : decode cL_law 1382 = .ok (.iaload, 1) := dk_46 (dk_at dksL_law_52 13 rfl rfl)
theorem dL_law_1383 : decode cL_law 1383 = .ok (.invokevirtual 198, 3) := dk_182 0 198 (dk_at dksL_law_52 14 rfl rfl)
theorem dL_law_1386 : decode cL_law 1386 = .ok (.istore 6, 2) := dk_54 6 (dk_at dksL_law_52 17 rfl rfl)
theorem dL_law_1388 : decode cL_law 1388 = .ok (.aload_n 2, 1) := dk_44 (dk_at dksL_law_52 19 rfl rfl)
theorem dL_law_1389 : decode cL_law 1389 = .ok (.invokevirtual 149, 3) := dk_182 0 149 (dk_at dksL_law_52 20 rfl rfl)
theorem dL_law_1392 : decode cL_law 1392 = .ok (.iload 5, 2) := dk_21 5 (dk_at dksL_law_53 0 rfl rfl)
theorem dL_law_1394 : decode cL_law 1394 = .ok (.if_icmp .eq 5, 3) := dk_159 0 5 (dk_at dksL_law_53 2 rfl rfl)
theorem dL_law_1397 : decode cL_law 1397 = .ok (.iconst 0, 1) := dk_3 (dk_at dksL_law_53 5 rfl rfl)
theorem dL_law_1398 : decode cL_law 1398 = .ok (.ireturn, 1) := dk_172 (dk_at dksL_law_53 6 rfl rfl)
theorem dL_law_1399 : decode cL_law 1399 = .ok (.iload 5, 2) := dk_21 5 (dk_at dksL_law_53 7 rfl rfl)
theorem dL_law_1401 : decode cL_law 1401 = .ok (.ifCond .ne 15, 3) := dk_154 0 15 (dk_at dksL_law_53 9 rfl rfl)
theorem dL_law_1404 : decode cL_law 1404 = .ok (.aload_n 3, 1) := dk_45 (dk_at dksL_law_53 12 rfl rfl)
theorem dL_law_1405 : decode cL_law 1405 = .ok (.iconst 0, 1) := dk_3 (dk_at dksL_law_53 13 rfl rfl)
theorem dL_law_1406 : decode cL_law 1406 = .ok (.laload, 1) := dk_47 (dk_at dksL_law_53 14 rfl rfl)
theorem dL_law_1407 : decode cL_law 1407 = .ok (.iload 6, 2) := dk_21 6 (dk_at dksL_law_53 15 rfl rfl)
theorem dL_law_1409 : decode cL_law 1409 = .ok (.i2l, 1) := dk_133 (dk_at dksL_law_53 17 rfl rfl)
theorem dL_law_1410 : decode cL_law 1410 = .ok (.lcmp, 1) := dk_148 (dk_at dksL_law_53 18 rfl rfl)
theorem dL_law_1411 : decode cL_law 1411 = .ok (.ifCond .eq 5, 3) := dk_153 0 5 (dk_at dksL_law_53 19 rfl rfl)
theorem dL_law_1414 : decode cL_law 1414 = .ok (.iconst 0, 1) := dk_3 (dk_at dksL_law_53 22 rfl rfl)
theorem dL_law_1415 : decode cL_law 1415 = .ok (.ireturn, 1) := dk_172 (dk_at dksL_law_53 23 rfl rfl)
theorem dL_law_1416 : decode cL_law 1416 = .ok (.goto 1678, 3) := dk_167 6 142 (dk_at dksL_law_54 0 rfl rfl)
theorem dL_law_1419 : decode cL_law 1419 = .ok (.aload_n 1, 1) := dk_43 (dk_at dksL_law_54 3 rfl rfl)
theorem dL_law_1420 : decode cL_law 1420 = .ok (.aload_n 0, 1) := dk_42 (dk_at dksL_law_54 4 rfl rfl)
theorem dL_law_1421 : decode cL_law 1421 = .ok (.iload 4, 2) := dk_21 4 (dk_at dksL_law_54 5 rfl rfl)
theorem dL_law_1423 : decode cL_law 1423 = .ok (.iconst 1, 1) := dk_4 (dk_at dksL_law_54 7 rfl rfl)
theorem dL_law_1424 : decode cL_law 1424 = .ok (.iadd, 1) := dk_96 (dk_at dksL_law_54 8 rfl rfl)
theorem dL_law_1425 : decode cL_law 1425 = .ok (.iaload, 1) := dk_46 (dk_at dksL_law_54 9 rfl rfl)
theorem dL_law_1426 : decode cL_law 1426 = .ok (.aload_n 3, 1) := dk_45 (dk_at dksL_law_54 10 rfl rfl)
theorem dL_law_1427 : decode cL_law 1427 = .ok (.invokestatic 199, 3) := dk_184 0 199 (dk_at dksL_law_54 11 rfl rfl)
theorem dL_law_1430 : decode cL_law 1430 = .ok (.istore 5, 2) := dk_54 5 (dk_at dksL_law_54 14 rfl rfl)
theorem dL_law_1432 : decode cL_law 1432 = .ok (.aload_n 2, 1) := dk_44 (dk_at dksL_law_54 16 rfl rfl)
theorem dL_law_1433 : decode cL_law 1433 = .ok (.aload_n 0, 1) := dk_42 (dk_at dksL_law_54 17 rfl rfl)
theorem dL_law_1434 : decode cL_law 1434 = .ok (.iload 4, 2) := dk_21 4 (dk_at dksL_law_54 18 rfl rfl)
theorem dL_law_1436 : decode cL_law 1436 = .ok (.iconst 1, 1) := dk_4 (dk_at dksL_law_54 20 rfl rfl)
theorem dL_law_1437 : decode cL_law 1437 = .ok (.iadd, 1) := dk_96 (dk_at dksL_law_54 21 rfl rfl)
theorem dL_law_1438 : decode cL_law 1438 = .ok (.iaload, 1) := dk_46 (dk_at dksL_law_54 22 rfl rfl)
theorem dL_law_1439 : decode cL_law 1439 = .ok (.invokevirtual 202, 3) := dk_182 0 202 (dk_at dksL_law_55 0 rfl rfl)
theorem dL_law_1442 : decode cL_law 1442 = .ok (.istore 6, 2) := dk_54 6 (dk_at dksL_law_55 3 rfl rfl)
theorem dL_law_1444 : decode cL_law 1444 = .ok (.aload_n 2, 1) := dk_44 (dk_at dksL_law_55 5 rfl rfl)
theorem dL_law_1445 : decode cL_law 1445 = .ok (.invokevirtual 149, 3) := dk_182 0 149 (dk_at dksL_law_55 6 rfl rfl)
theorem dL_law_1448 : decode cL_law 1448 = .ok (.iload 5, 2) := dk_21 5 (dk_at dksL_law_55 9 rfl rfl)
theorem dL_law_1450 : decode cL_law 1450 = .ok (.if_icmp .eq 5, 3) := dk_159 0 5 (dk_at dksL_law_55 11 rfl rfl)
theorem dL_law_1453 : decode cL_law 1453 = .ok (.iconst 0, 1) := dk_3 (dk_at dksL_law_55 14 rfl rfl)
theorem dL_law_1454 : decode cL_law 1454 = .ok (.ireturn, 1) := dk_172 (dk_at dksL_law_55 15 rfl rfl)
theorem dL_law_1455 : decode cL_law 1455 = .ok (.iload 5, 2) := dk_21 5 (dk_at dksL_law_55 16 rfl rfl)
theorem dL_law_1457 : decode cL_law 1457 = .ok (.ifCond .ne 15, 3) := dk_154 0 15 (dk_at dksL_law_55 18 rfl rfl)
theorem dL_law_1460 : decode cL_law 1460 = .ok (.aload_n 3, 1) := dk_45 (dk_at dksL_law_55 21 rfl rfl)
theorem dL_law_1461 : decode cL_law 1461 = .ok (.iconst 0, 1) := dk_3 (dk_at dksL_law_55 22 rfl rfl)
theorem dL_law_1462 : decode cL_law 1462 = .ok (.laload, 1) := dk_47 (dk_at dksL_law_55 23 rfl rfl)
theorem dL_law_1463 : decode cL_law 1463 = .ok (.iload 6, 2) := dk_21 6 (dk_at dksL_law_56 0 rfl rfl)
theorem dL_law_1465 : decode cL_law 1465 = .ok (.i2l, 1) := dk_133 (dk_at dksL_law_56 2 rfl rfl)
theorem dL_law_1466 : decode cL_law 1466 = .ok (.lcmp, 1) := dk_148 (dk_at dksL_law_56 3 rfl rfl)
theorem dL_law_1467 : decode cL_law 1467 = .ok (.ifCond .eq 5, 3) := dk_153 0 5 (dk_at dksL_law_56 4 rfl rfl)
theorem dL_law_1470 : decode cL_law 1470 = .ok (.iconst 0, 1) := dk_3 (dk_at dksL_law_56 7 rfl rfl)
theorem dL_law_1471 : decode cL_law 1471 = .ok (.ireturn, 1) := dk_172 (dk_at dksL_law_56 8 rfl rfl)
theorem dL_law_1472 : decode cL_law 1472 = .ok (.goto 1622, 3) := dk_167 6 86 (dk_at dksL_law_56 9 rfl rfl)
theorem dL_law_1475 : decode cL_law 1475 = .ok (.aload_n 1, 1) := dk_43 (dk_at dksL_law_56 12 rfl rfl)
theorem dL_law_1476 : decode cL_law 1476 = .ok (.aload_n 0, 1) := dk_42 (dk_at dksL_law_56 13 rfl rfl)
theorem dL_law_1477 : decode cL_law 1477 = .ok (.iload 4, 2) := dk_21 4 (dk_at dksL_law_56 14 rfl rfl)
theorem dL_law_1479 : decode cL_law 1479 = .ok (.iconst 1, 1) := dk_4 (dk_at dksL_law_56 16 rfl rfl)
theorem dL_law_1480 : decode cL_law 1480 = .ok (.iadd, 1) := dk_96 (dk_at dksL_law_56 17 rfl rfl)
theorem dL_law_1481 : decode cL_law 1481 = .ok (.iaload, 1) := dk_46 (dk_at dksL_law_56 18 rfl rfl)
theorem dL_law_1482 : decode cL_law 1482 = .ok (.aload_n 0, 1) := dk_42 (dk_at dksL_law_56 19 rfl rfl)
theorem dL_law_1483 : decode cL_law 1483 = .ok (.iload 4, 2) := dk_21 4 (dk_at dksL_law_56 20 rfl rfl)
theorem dL_law_1485 : decode cL_law 1485 = .ok (.iconst 2, 1) := dk_5 (dk_at dksL_law_56 22 rfl rfl)
theorem dL_law_1486 : decode cL_law 1486 = .ok (.iadd, 1) := dk_96 (dk_at dksL_law_56 23 rfl rfl)
theorem dL_law_1487 : decode cL_law 1487 = .ok (.iaload, 1) := dk_46 (dk_at dksL_law_57 0 rfl rfl)
theorem dL_law_1488 : decode cL_law 1488 = .ok (.aload_n 3, 1) := dk_45 (dk_at dksL_law_57 1 rfl rfl)
theorem dL_law_1489 : decode cL_law 1489 = .ok (.invokestatic 203, 3) := dk_184 0 203 (dk_at dksL_law_57 2 rfl rfl)
theorem dL_law_1492 : decode cL_law 1492 = .ok (.istore 5, 2) := dk_54 5 (dk_at dksL_law_57 5 rfl rfl)
theorem dL_law_1494 : decode cL_law 1494 = .ok (.aload_n 2, 1) := dk_44 (dk_at dksL_law_57 7 rfl rfl)
theorem dL_law_1495 : decode cL_law 1495 = .ok (.aload_n 0, 1) := dk_42 (dk_at dksL_law_57 8 rfl rfl)
theorem dL_law_1496 : decode cL_law 1496 = .ok (.iload 4, 2) := dk_21 4 (dk_at dksL_law_57 9 rfl rfl)
theorem dL_law_1498 : decode cL_law 1498 = .ok (.iconst 1, 1) := dk_4 (dk_at dksL_law_57 11 rfl rfl)
theorem dL_law_1499 : decode cL_law 1499 = .ok (.iadd, 1) := dk_96 (dk_at dksL_law_57 12 rfl rfl)
theorem dL_law_1500 : decode cL_law 1500 = .ok (.iaload, 1) := dk_46 (dk_at dksL_law_57 13 rfl rfl)
theorem dL_law_1501 : decode cL_law 1501 = .ok (.aload_n 0, 1) := dk_42 (dk_at dksL_law_57 14 rfl rfl)
theorem dL_law_1502 : decode cL_law 1502 = .ok (.iload 4, 2) := dk_21 4 (dk_at dksL_law_57 15 rfl rfl)
theorem dL_law_1504 : decode cL_law 1504 = .ok (.iconst 2, 1) := dk_5 (dk_at dksL_law_57 17 rfl rfl)
theorem dL_law_1505 : decode cL_law 1505 = .ok (.iadd, 1) := dk_96 (dk_at dksL_law_57 18 rfl rfl)
theorem dL_law_1506 : decode cL_law 1506 = .ok (.iaload, 1) := dk_46 (dk_at dksL_law_57 19 rfl rfl)
theorem dL_law_1507 : decode cL_law 1507 = .ok (.invokevirtual 205, 3) := dk_182 0 205 (dk_at dksL_law_57 20 rfl rfl)
theorem dL_law_1510 : decode cL_law 1510 = .ok (.istore 6, 2) := dk_54 6 (dk_at dksL_law_58 0 rfl rfl)
theorem dL_law_1512 : decode cL_law 1512 = .ok (.aload_n 2, 1) := dk_44 (dk_at dksL_law_58 2 rfl rfl)
theorem dL_law_1513 : decode cL_law 1513 = .ok (.invokevirtual 149, 3) := dk_182 0 149 (dk_at dksL_law_58 3 rfl rfl)
theorem dL_law_1516 : decode cL_law 1516 = .ok (.iload 5, 2) := dk_21 5 (dk_at dksL_law_58 6 rfl rfl)
theorem dL_law_1518 : decode cL_law 1518 = .ok (.if_icmp .eq 5, 3) := dk_159 0 5 (dk_at dksL_law_58 8 rfl rfl)
theorem dL_law_1521 : decode cL_law 1521 = .ok (.iconst 0, 1) := dk_3 (dk_at dksL_law_58 11 rfl rfl)
theorem dL_law_1522 : decode cL_law 1522 = .ok (.ireturn, 1) := dk_172 (dk_at dksL_law_58 12 rfl rfl)
theorem dL_law_1523 : decode cL_law 1523 = .ok (.iload 5, 2) := dk_21 5 (dk_at dksL_law_58 13 rfl rfl)
theorem dL_law_1525 : decode cL_law 1525 = .ok (.ifCond .ne 15, 3) := dk_154 0 15 (dk_at dksL_law_58 15 rfl rfl)
theorem dL_law_1528 : decode cL_law 1528 = .ok (.aload_n 3, 1) := dk_45 (dk_at dksL_law_58 18 rfl rfl)
theorem dL_law_1529 : decode cL_law 1529 = .ok (.iconst 0, 1) := dk_3 (dk_at dksL_law_58 19 rfl rfl)
theorem dL_law_1530 : decode cL_law 1530 = .ok (.laload, 1) := dk_47 (dk_at dksL_law_58 20 rfl rfl)
theorem dL_law_1531 : decode cL_law 1531 = .ok (.iload 6, 2) := dk_21 6 (dk_at dksL_law_58 21 rfl rfl)
theorem dL_law_1533 : decode cL_law 1533 = .ok (.i2l, 1) := dk_133 (dk_at dksL_law_58 23 rfl rfl)
theorem dL_law_1534 : decode cL_law 1534 = .ok (.lcmp, 1) := dk_148 (dk_at dksL_law_59 0 rfl rfl)
theorem dL_law_1535 : decode cL_law 1535 = .ok (.ifCond .eq 5, 3) := dk_153 0 5 (dk_at dksL_law_59 1 rfl rfl)
theorem dL_law_1538 : decode cL_law 1538 = .ok (.iconst 0, 1) := dk_3 (dk_at dksL_law_59 4 rfl rfl)
theorem dL_law_1539 : decode cL_law 1539 = .ok (.ireturn, 1) := dk_172 (dk_at dksL_law_59 5 rfl rfl)
theorem dL_law_1540 : decode cL_law 1540 = .ok (.goto 1554, 3) := dk_167 6 18 (dk_at dksL_law_59 6 rfl rfl)
theorem dL_law_1543 : decode cL_law 1543 = .ok (.aload_n 1, 1) := dk_43 (dk_at dksL_law_59 9 rfl rfl)
theorem dL_law_1544 : decode cL_law 1544 = .ok (.aload_n 0, 1) := dk_42 (dk_at dksL_law_59 10 rfl rfl)
theorem dL_law_1545 : decode cL_law 1545 = .ok (.iload 4, 2) := dk_21 4 (dk_at dksL_law_59 11 rfl rfl)
theorem dL_law_1547 : decode cL_law 1547 = .ok (.iconst 1, 1) := dk_4 (dk_at dksL_law_59 13 rfl rfl)
theorem dL_law_1548 : decode cL_law 1548 = .ok (.iadd, 1) := dk_96 (dk_at dksL_law_59 14 rfl rfl)
theorem dL_law_1549 : decode cL_law 1549 = .ok (.iaload, 1) := dk_46 (dk_at dksL_law_59 15 rfl rfl)
theorem dL_law_1550 : decode cL_law 1550 = .ok (.aload_n 0, 1) := dk_42 (dk_at dksL_law_59 16 rfl rfl)
theorem dL_law_1551 : decode cL_law 1551 = .ok (.iload 4, 2) := dk_21 4 (dk_at dksL_law_59 17 rfl rfl)
theorem dL_law_1553 : decode cL_law 1553 = .ok (.iconst 2, 1) := dk_5 (dk_at dksL_law_59 19 rfl rfl)
theorem dL_law_1554 : decode cL_law 1554 = .ok (.iadd, 1) := dk_96 (dk_at dksL_law_59 20 rfl rfl)
theorem dL_law_1555 : decode cL_law 1555 = .ok (.iaload, 1) := dk_46 (dk_at dksL_law_59 21 rfl rfl)
theorem dL_law_1556 : decode cL_law 1556 = .ok (.aload_n 3, 1) := dk_45 (dk_at dksL_law_59 22 rfl rfl)
theorem dL_law_1557 : decode cL_law 1557 = .ok (.invokestatic 206, 3) := dk_184 0 206 (dk_at dksL_law_60 0 rfl rfl)
theorem dL_law_1560 : decode cL_law 1560 = .ok (.istore 5, 2) := dk_54 5 (dk_at dksL_law_60 3 rfl rfl)
theorem dL_law_1562 : decode cL_law 1562 = .ok (.aload_n 2, 1) := dk_44 (dk_at dksL_law_60 5 rfl rfl)
theorem dL_law_1563 : decode cL_law 1563 = .ok (.aload_n 0, 1) := dk_42 (dk_at dksL_law_60 6 rfl rfl)
theorem dL_law_1564 : decode cL_law 1564 = .ok (.iload 4, 2) := dk_21 4 (dk_at dksL_law_60 7 rfl rfl)
theorem dL_law_1566 : decode cL_law 1566 = .ok (.iconst 1, 1) := dk_4 (dk_at dksL_law_60 9 rfl rfl)
theorem dL_law_1567 : decode cL_law 1567 = .ok (.iadd, 1) := dk_96 (dk_at dksL_law_60 10 rfl rfl)
theorem dL_law_1568 : decode cL_law 1568 = .ok (.iaload, 1) := dk_46 (dk_at dksL_law_60 11 rfl rfl)
theorem dL_law_1569 : decode cL_law 1569 = .ok (.aload_n 0, 1) := dk_42 (dk_at dksL_law_60 12 rfl rfl)
theorem dL_law_1570 : decode cL_law 1570 = .ok (.iload 4, 2) := dk_21 4 (dk_at dksL_law_60 13 rfl rfl)
theorem dL_law_1572 : decode cL_law 1572 = .ok (.iconst 2, 1) := dk_5 (dk_at dksL_law_60 15 rfl rfl)
theorem dL_law_1573 : decode cL_law 1573 = .ok (.iadd, 1) := dk_96 (dk_at dksL_law_60 16 rfl rfl)
theorem dL_law_1574 : decode cL_law 1574 = .ok (.iaload, 1) := dk_46 (dk_at dksL_law_60 17 rfl rfl)
theorem dL_law_1575 : decode cL_law 1575 = .ok (.invokevirtual 208, 3) := dk_182 0 208 (dk_at dksL_law_60 18 rfl rfl)
theorem dL_law_1578 : decode cL_law 1578 = .ok (.istore 6, 2) := dk_54 6 (dk_at dksL_law_60 21 rfl rfl)
theorem dL_law_1580 : decode cL_law 1580 = .ok (.aload_n 2, 1) := dk_44 (dk_at dksL_law_60 23 rfl rfl)
theorem dL_law_1581 : decode cL_law 1581 = .ok (.invokevirtual 149, 3) := dk_182 0 149 (dk_at dksL_law_61 0 rfl rfl)
theorem dL_law_1584 : decode cL_law 1584 = .ok (.iload 5, 2) := dk_21 5 (dk_at dksL_law_61 3 rfl rfl)
theorem dL_law_1586 : decode cL_law 1586 = .ok (.if_icmp .eq 5, 3) := dk_159 0 5 (dk_at dksL_law_61 5 rfl rfl)
theorem dL_law_1589 : decode cL_law 1589 = .ok (.iconst 0, 1) := dk_3 (dk_at dksL_law_61 8 rfl rfl)
theorem dL_law_1590 : decode cL_law 1590 = .ok (.ireturn, 1) := dk_172 (dk_at dksL_law_61 9 rfl rfl)
theorem dL_law_1591 : decode cL_law 1591 = .ok (.iload 5, 2) := dk_21 5 (dk_at dksL_law_61 10 rfl rfl)
theorem dL_law_1593 : decode cL_law 1593 = .ok (.ifCond .ne 15, 3) := dk_154 0 15 (dk_at dksL_law_61 12 rfl rfl)
theorem dL_law_1596 : decode cL_law 1596 = .ok (.aload_n 3, 1) := dk_45 (dk_at dksL_law_61 15 rfl rfl)
theorem dL_law_1597 : decode cL_law 1597 = .ok (.iconst 0, 1) := dk_3 (dk_at dksL_law_61 16 rfl rfl)
theorem dL_law_1598 : decode cL_law 1598 = .ok (.laload, 1) := dk_47 (dk_at dksL_law_61 17 rfl rfl)
theorem dL_law_1599 : decode cL_law 1599 = .ok (.iload 6, 2) := dk_21 6 (dk_at dksL_law_61 18 rfl rfl)
theorem dL_law_1601 : decode cL_law 1601 = .ok (.i2l, 1) := dk_133 (dk_at dksL_law_61 20 rfl rfl)
theorem dL_law_1602 : decode cL_law 1602 = .ok (.lcmp, 1) := dk_148 (dk_at dksL_law_61 21 rfl rfl)
theorem dL_law_1603 : decode cL_law 1603 = .ok (.ifCond .eq 5, 3) := dk_153 0 5 (dk_at dksL_law_62 0 rfl rfl)
theorem dL_law_1606 : decode cL_law 1606 = .ok (.iconst 0, 1) := dk_3 (dk_at dksL_law_62 3 rfl rfl)
theorem dL_law_1607 : decode cL_law 1607 = .ok (.ireturn, 1) := dk_172 (dk_at dksL_law_62 4 rfl rfl)
theorem dL_law_1608 : decode cL_law 1608 = .ok (.goto 1486, 3) := dk_167 5 206 (dk_at dksL_law_62 5 rfl rfl)
theorem dL_law_1611 : decode cL_law 1611 = .ok (.aload_n 1, 1) := dk_43 (dk_at dksL_law_62 8 rfl rfl)
theorem dL_law_1612 : decode cL_law 1612 = .ok (.aload_n 0, 1) := dk_42 (dk_at dksL_law_62 9 rfl rfl)
theorem dL_law_1613 : decode cL_law 1613 = .ok (.iload 4, 2) := dk_21 4 (dk_at dksL_law_62 10 rfl rfl)
theorem dL_law_1615 : decode cL_law 1615 = .ok (.iconst 1, 1) := dk_4 (dk_at dksL_law_62 12 rfl rfl)
theorem dL_law_1616 : decode cL_law 1616 = .ok (.iadd, 1) := dk_96 (dk_at dksL_law_62 13 rfl rfl)
theorem dL_law_1617 : decode cL_law 1617 = .ok (.iaload, 1) := dk_46 (dk_at dksL_law_62 14 rfl rfl)
theorem dL_law_1618 : decode cL_law 1618 = .ok (.aload_n 3, 1) := dk_45 (dk_at dksL_law_62 15 rfl rfl)
theorem dL_law_1619 : decode cL_law 1619 = .ok (.invokestatic 209, 3) := dk_184 0 209 (dk_at dksL_law_62 16 rfl rfl)
theorem dL_law_1622 : decode cL_law 1622 = .ok (.istore 5, 2) := dk_54 5 (dk_at dksL_law_62 19 rfl rfl)
theorem dL_law_1624 : decode cL_law 1624 = .ok (.aload_n 2, 1) := dk_44 (dk_at dksL_law_62 21 rfl rfl)
theorem dL_law_1625 : decode cL_law 1625 = .ok (.aload_n 0, 1) := dk_42 (dk_at dksL_law_62 22 rfl rfl)
theorem dL_law_1626 : decode cL_law 1626 = .ok (.iload 4, 2) := dk_21 4 (dk_at dksL_law_63 0 rfl rfl)
theorem dL_law_1628 : decode cL_law 1628 = .ok (.iconst 1, 1) := dk_4 (dk_at dksL_law_63 2 rfl rfl)
theorem dL_law_1629 : decode cL_law 1629 = .ok (.iadd, 1) := dk_96 (dk_at dksL_law_63 3 rfl rfl)
theorem dL_law_1630 : decode cL_law 1630 = .ok (.iaload, 1) := dk_46 (dk_at dksL_law_63 4 rfl rfl)
theorem dL_law_1631 : decode cL_law 1631 = .ok (.invokevirtual 211, 3) := dk_182 0 211 (dk_at dksL_law_63 5 rfl rfl)
theorem dL_law_1634 : decode cL_law 1634 = .ok (.istore 6, 2) := dk_54 6 (dk_at dksL_law_63 8 rfl rfl)
theorem dL_law_1636 : decode cL_law 1636 = .ok (.aload_n 2, 1) := dk_44 (dk_at dksL_law_63 10 rfl rfl)
theorem dL_law_1637 : decode cL_law 1637 = .ok (.invokevirtual 149, 3) := dk_182 0 149 (dk_at dksL_law_63 11 rfl rfl)
theorem dL_law_1640 : decode cL_law 1640 = .ok (.iload 5, 2) := dk_21 5 (dk_at dksL_law_63 14 rfl rfl)
theorem dL_law_1642 : decode cL_law 1642 = .ok (.if_icmp .eq 5, 3) := dk_159 0 5 (dk_at dksL_law_63 16 rfl rfl)
theorem dL_law_1645 : decode cL_law 1645 = .ok (.iconst 0, 1) := dk_3 (dk_at dksL_law_63 19 rfl rfl)
theorem dL_law_1646 : decode cL_law 1646 = .ok (.ireturn, 1) := dk_172 (dk_at dksL_law_63 20 rfl rfl)
theorem dL_law_1647 : decode cL_law 1647 = .ok (.iload 5, 2) := dk_21 5 (dk_at dksL_law_63 21 rfl rfl)
theorem dL_law_1649 : decode cL_law 1649 = .ok (.ifCond .ne 15, 3) := dk_154 0 15 (dk_at dksL_law_64 0 rfl rfl)
theorem dL_law_1652 : decode cL_law 1652 = .ok (.aload_n 3, 1) := dk_45 (dk_at dksL_law_64 3 rfl rfl)
theorem dL_law_1653 : decode cL_law 1653 = .ok (.iconst 0, 1) := dk_3 (dk_at dksL_law_64 4 rfl rfl)
theorem dL_law_1654 : decode cL_law 1654 = .ok (.laload, 1) := dk_47 (dk_at dksL_law_64 5 rfl rfl)
theorem dL_law_1655 : decode cL_law 1655 = .ok (.iload 6, 2) := dk_21 6 (dk_at dksL_law_64 6 rfl rfl)
theorem dL_law_1657 : decode cL_law 1657 = .ok (.i2l, 1) := dk_133 (dk_at dksL_law_64 8 rfl rfl)
theorem dL_law_1658 : decode cL_law 1658 = .ok (.lcmp, 1) := dk_148 (dk_at dksL_law_64 9 rfl rfl)
theorem dL_law_1659 : decode cL_law 1659 = .ok (.ifCond .eq 5, 3) := dk_153 0 5 (dk_at dksL_law_64 10 rfl rfl)
theorem dL_law_1662 : decode cL_law 1662 = .ok (.iconst 0, 1) := dk_3 (dk_at dksL_law_64 13 rfl rfl)
theorem dL_law_1663 : decode cL_law 1663 = .ok (.ireturn, 1) := dk_172 (dk_at dksL_law_64 14 rfl rfl)
theorem dL_law_1664 : decode cL_law 1664 = .ok (.goto 1430, 3) := dk_167 5 150 (dk_at dksL_law_64 15 rfl rfl)
theorem dL_law_1667 : decode cL_law 1667 = .ok (.aload_n 1, 1) := dk_43 (dk_at dksL_law_64 18 rfl rfl)
theorem dL_law_1668 : decode cL_law 1668 = .ok (.aload_n 0, 1) := dk_42 (dk_at dksL_law_64 19 rfl rfl)
theorem dL_law_1669 : decode cL_law 1669 = .ok (.iload 4, 2) := dk_21 4 (dk_at dksL_law_64 20 rfl rfl)
theorem dL_law_1671 : decode cL_law 1671 = .ok (.iconst 1, 1) := dk_4 (dk_at dksL_law_64 22 rfl rfl)
theorem dL_law_1672 : decode cL_law 1672 = .ok (.iadd, 1) := dk_96 (dk_at dksL_law_64 23 rfl rfl)
theorem dL_law_1673 : decode cL_law 1673 = .ok (.iaload, 1) := dk_46 (dk_at dksL_law_65 0 rfl rfl)
theorem dL_law_1674 : decode cL_law 1674 = .ok (.aload_n 3, 1) := dk_45 (dk_at dksL_law_65 1 rfl rfl)
theorem dL_law_1675 : decode cL_law 1675 = .ok (.invokestatic 212, 3) := dk_184 0 212 (dk_at dksL_law_65 2 rfl rfl)
theorem dL_law_1678 : decode cL_law 1678 = .ok (.istore 5, 2) := dk_54 5 (dk_at dksL_law_65 5 rfl rfl)
theorem dL_law_1680 : decode cL_law 1680 = .ok (.aload_n 2, 1) := dk_44 (dk_at dksL_law_65 7 rfl rfl)
theorem dL_law_1681 : decode cL_law 1681 = .ok (.aload_n 0, 1) := dk_42 (dk_at dksL_law_65 8 rfl rfl)
theorem dL_law_1682 : decode cL_law 1682 = .ok (.iload 4, 2) := dk_21 4 (dk_at dksL_law_65 9 rfl rfl)
theorem dL_law_1684 : decode cL_law 1684 = .ok (.iconst 1, 1) := dk_4 (dk_at dksL_law_65 11 rfl rfl)
theorem dL_law_1685 : decode cL_law 1685 = .ok (.iadd, 1) := dk_96 (dk_at dksL_law_65 12 rfl rfl)
theorem dL_law_1686 : decode cL_law 1686 = .ok (.iaload, 1) := dk_46 (dk_at dksL_law_65 13 rfl rfl)
theorem dL_law_1687 : decode cL_law 1687 = .ok (.invokevirtual 214, 3) := dk_182 0 214 (dk_at dksL_law_65 14 rfl rfl)
theorem dL_law_1690 : decode cL_law 1690 = .ok (.istore 6, 2) := dk_54 6 (dk_at dksL_law_65 17 rfl rfl)
theorem dL_law_1692 : decode cL_law 1692 = .ok (.aload_n 2, 1) := dk_44 (dk_at dksL_law_65 19 rfl rfl)
theorem dL_law_1693 : decode cL_law 1693 = .ok (.invokevirtual 149, 3) := dk_182 0 149 (dk_at dksL_law_65 20 rfl rfl)
theorem dL_law_1696 : decode cL_law 1696 = .ok (.iload 5, 2) := dk_21 5 (dk_at dksL_law_66 0 rfl rfl)
theorem dL_law_1698 : decode cL_law 1698 = .ok (.if_icmp .eq 5, 3) := dk_159 0 5 (dk_at dksL_law_66 2 rfl rfl)
theorem dL_law_1701 : decode cL_law 1701 = .ok (.iconst 0, 1) := dk_3 (dk_at dksL_law_66 5 rfl rfl)
theorem dL_law_1702 : decode cL_law 1702 = .ok (.ireturn, 1) := dk_172 (dk_at dksL_law_66 6 rfl rfl)
theorem dL_law_1703 : decode cL_law 1703 = .ok (.iload 5, 2) := dk_21 5 (dk_at dksL_law_66 7 rfl rfl)
theorem dL_law_1705 : decode cL_law 1705 = .ok (.ifCond .ne 15, 3) := dk_154 0 15 (dk_at dksL_law_66 9 rfl rfl)
theorem dL_law_1708 : decode cL_law 1708 = .ok (.aload_n 3, 1) := dk_45 (dk_at dksL_law_66 12 rfl rfl)
theorem dL_law_1709 : decode cL_law 1709 = .ok (.iconst 0, 1) := dk_3 (dk_at dksL_law_66 13 rfl rfl)
theorem dL_law_1710 : decode cL_law 1710 = .ok (.laload, 1) := dk_47 (dk_at dksL_law_66 14 rfl rfl)
theorem dL_law_1711 : decode cL_law 1711 = .ok (.iload 6, 2) := dk_21 6 (dk_at dksL_law_66 15 rfl rfl)
theorem dL_law_1713 : decode cL_law 1713 = .ok (.i2l, 1) := dk_133 (dk_at dksL_law_66 17 rfl rfl)
theorem dL_law_1714 : decode cL_law 1714 = .ok (.lcmp, 1) := dk_148 (dk_at dksL_law_66 18 rfl rfl)
theorem dL_law_1715 : decode cL_law 1715 = .ok (.ifCond .eq 5, 3) := dk_153 0 5 (dk_at dksL_law_66 19 rfl rfl)
theorem dL_law_1718 : decode cL_law 1718 = .ok (.iconst 0, 1) := dk_3 (dk_at dksL_law_66 22 rfl rfl)
theorem dL_law_1719 : decode cL_law 1719 = .ok (.ireturn, 1) := dk_172 (dk_at dksL_law_66 23 rfl rfl)
theorem dL_law_1720 : decode cL_law 1720 = .ok (.goto 1374, 3) := dk_167 5 94 (dk_at dksL_law_67 0 rfl rfl)
theorem dL_law_1723 : decode cL_law 1723 = .ok (.aload_n 1, 1) := dk_43 (dk_at dksL_law_67 3 rfl rfl)
theorem dL_law_1724 : decode cL_law 1724 = .ok (.aload_n 0, 1) := dk_42 (dk_at dksL_law_67 4 rfl rfl)
theorem dL_law_1725 : decode cL_law 1725 = .ok (.iload 4, 2) := dk_21 4 (dk_at dksL_law_67 5 rfl rfl)
theorem dL_law_1727 : decode cL_law 1727 = .ok (.iconst 1, 1) := dk_4 (dk_at dksL_law_67 7 rfl rfl)
theorem dL_law_1728 : decode cL_law 1728 = .ok (.iadd, 1) := dk_96 (dk_at dksL_law_67 8 rfl rfl)
theorem dL_law_1729 : decode cL_law 1729 = .ok (.iaload, 1) := dk_46 (dk_at dksL_law_67 9 rfl rfl)
theorem dL_law_1730 : decode cL_law 1730 = .ok (.ifCond .eq 7, 3) := dk_153 0 7 (dk_at dksL_law_67 10 rfl rfl)
theorem dL_law_1733 : decode cL_law 1733 = .ok (.iconst 1, 1) := dk_4 (dk_at dksL_law_67 13 rfl rfl)
theorem dL_law_1734 : decode cL_law 1734 = .ok (.goto 4, 3) := dk_167 0 4 (dk_at dksL_law_67 14 rfl rfl)
theorem dL_law_1737 : decode cL_law 1737 = .ok (.iconst 0, 1) := dk_3 (dk_at dksL_law_67 17 rfl rfl)
theorem dL_law_1738 : decode cL_law 1738 = .ok (.aload_n 3, 1) := dk_45 (dk_at dksL_law_67 18 rfl rfl)
theorem dL_law_1739 : decode cL_law 1739 = .ok (.invokestatic 215, 3) := dk_184 0 215 (dk_at dksL_law_67 19 rfl rfl)
theorem dL_law_1742 : decode cL_law 1742 = .ok (.istore 5, 2) := dk_54 5 (dk_at dksL_law_67 22 rfl rfl)
theorem dL_law_1744 : decode cL_law 1744 = .ok (.aload_n 2, 1) := dk_44 (dk_at dksL_law_68 0 rfl rfl)
theorem dL_law_1745 : decode cL_law 1745 = .ok (.aload_n 0, 1) := dk_42 (dk_at dksL_law_68 1 rfl rfl)
theorem dL_law_1746 : decode cL_law 1746 = .ok (.iload 4, 2) := dk_21 4 (dk_at dksL_law_68 2 rfl rfl)
theorem dL_law_1748 : decode cL_law 1748 = .ok (.iconst 1, 1) := dk_4 (dk_at dksL_law_68 4 rfl rfl)
theorem dL_law_1749 : decode cL_law 1749 = .ok (.iadd, 1) := dk_96 (dk_at dksL_law_68 5 rfl rfl)
theorem dL_law_1750 : decode cL_law 1750 = .ok (.iaload, 1) := dk_46 (dk_at dksL_law_68 6 rfl rfl)
theorem dL_law_1751 : decode cL_law 1751 = .ok (.ifCond .eq 7, 3) := dk_153 0 7 (dk_at dksL_law_68 7 rfl rfl)
theorem dL_law_1754 : decode cL_law 1754 = .ok (.iconst 1, 1) := dk_4 (dk_at dksL_law_68 10 rfl rfl)
theorem dL_law_1755 : decode cL_law 1755 = .ok (.goto 4, 3) := dk_167 0 4 (dk_at dksL_law_68 11 rfl rfl)
theorem dL_law_1758 : decode cL_law 1758 = .ok (.iconst 0, 1) := dk_3 (dk_at dksL_law_68 14 rfl rfl)
theorem dL_law_1759 : decode cL_law 1759 = .ok (.invokevirtual 218, 3) := dk_182 0 218 (dk_at dksL_law_68 15 rfl rfl)
theorem dL_law_1762 : decode cL_law 1762 = .ok (.istore 6, 2) := dk_54 6 (dk_at dksL_law_68 18 rfl rfl)
theorem dL_law_1764 : decode cL_law 1764 = .ok (.aload_n 2, 1) := dk_44 (dk_at dksL_law_68 20 rfl rfl)
theorem dL_law_1765 : decode cL_law 1765 = .ok (.invokevirtual 149, 3) := dk_182 0 149 (dk_at dksL_law_68 21 rfl rfl)
theorem dL_law_1768 : decode cL_law 1768 = .ok (.iload 5, 2) := dk_21 5 (dk_at dksL_law_69 0 rfl rfl)
theorem dL_law_1770 : decode cL_law 1770 = .ok (.if_icmp .eq 5, 3) := dk_159 0 5 (dk_at dksL_law_69 2 rfl rfl)
theorem dL_law_1773 : decode cL_law 1773 = .ok (.iconst 0, 1) := dk_3 (dk_at dksL_law_69 5 rfl rfl)
theorem dL_law_1774 : decode cL_law 1774 = .ok (.ireturn, 1) := dk_172 (dk_at dksL_law_69 6 rfl rfl)
theorem dL_law_1775 : decode cL_law 1775 = .ok (.iload 5, 2) := dk_21 5 (dk_at dksL_law_69 7 rfl rfl)
theorem dL_law_1777 : decode cL_law 1777 = .ok (.ifCond .ne 15, 3) := dk_154 0 15 (dk_at dksL_law_69 9 rfl rfl)
theorem dL_law_1780 : decode cL_law 1780 = .ok (.aload_n 3, 1) := dk_45 (dk_at dksL_law_69 12 rfl rfl)
theorem dL_law_1781 : decode cL_law 1781 = .ok (.iconst 0, 1) := dk_3 (dk_at dksL_law_69 13 rfl rfl)
theorem dL_law_1782 : decode cL_law 1782 = .ok (.laload, 1) := dk_47 (dk_at dksL_law_69 14 rfl rfl)
theorem dL_law_1783 : decode cL_law 1783 = .ok (.iload 6, 2) := dk_21 6 (dk_at dksL_law_69 15 rfl rfl)
theorem dL_law_1785 : decode cL_law 1785 = .ok (.i2l, 1) := dk_133 (dk_at dksL_law_69 17 rfl rfl)
theorem dL_law_1786 : decode cL_law 1786 = .ok (.lcmp, 1) := dk_148 (dk_at dksL_law_69 18 rfl rfl)
theorem dL_law_1787 : decode cL_law 1787 = .ok (.ifCond .eq 5, 3) := dk_153 0 5 (dk_at dksL_law_69 19 rfl rfl)
theorem dL_law_1790 : decode cL_law 1790 = .ok (.iconst 0, 1) := dk_3 (dk_at dksL_law_69 22 rfl rfl)
theorem dL_law_1791 : decode cL_law 1791 = .ok (.ireturn, 1) := dk_172 (dk_at dksL_law_69 23 rfl rfl)
theorem dL_law_1792 : decode cL_law 1792 = .ok (.goto 1302, 3) := dk_167 5 22 (dk_at dksL_law_70 0 rfl rfl)
theorem dL_law_1795 : decode cL_law 1795 = .ok (.aload_n 1, 1) := dk_43 (dk_at dksL_law_70 3 rfl rfl)
theorem dL_law_1796 : decode cL_law 1796 = .ok (.aload_n 3, 1) := dk_45 (dk_at dksL_law_70 4 rfl rfl)
theorem dL_law_1797 : decode cL_law 1797 = .ok (.invokestatic 219, 3) := dk_184 0 219 (dk_at dksL_law_70 5 rfl rfl)
theorem dL_law_1800 : decode cL_law 1800 = .ok (.istore 5, 2) := dk_54 5 (dk_at dksL_law_70 8 rfl rfl)
theorem dL_law_1802 : decode cL_law 1802 = .ok (.aload_n 2, 1) := dk_44 (dk_at dksL_law_70 10 rfl rfl)
theorem dL_law_1803 : decode cL_law 1803 = .ok (.invokevirtual 222, 3) := dk_182 0 222 (dk_at dksL_law_70 11 rfl rfl)
theorem dL_law_1806 : decode cL_law 1806 = .ok (.istore 6, 2) := dk_54 6 (dk_at dksL_law_70 14 rfl rfl)
theorem dL_law_1808 : decode cL_law 1808 = .ok (.aload_n 2, 1) := dk_44 (dk_at dksL_law_70 16 rfl rfl)
theorem dL_law_1809 : decode cL_law 1809 = .ok (.invokevirtual 149, 3) := dk_182 0 149 (dk_at dksL_law_70 17 rfl rfl)
theorem dL_law_1812 : decode cL_law 1812 = .ok (.iload 5, 2) := dk_21 5 (dk_at dksL_law_70 20 rfl rfl)
theorem dL_law_1814 : decode cL_law 1814 = .ok (.if_icmp .eq 5, 3) := dk_159 0 5 (dk_at dksL_law_71 0 rfl rfl)
theorem dL_law_1817 : decode cL_law 1817 = .ok (.iconst 0, 1) := dk_3 (dk_at dksL_law_71 3 rfl rfl)
theorem dL_law_1818 : decode cL_law 1818 = .ok (.ireturn, 1) := dk_172 (dk_at dksL_law_71 4 rfl rfl)
theorem dL_law_1819 : decode cL_law 1819 = .ok (.iload 5, 2) := dk_21 5 (dk_at dksL_law_71 5 rfl rfl)
theorem dL_law_1821 : decode cL_law 1821 = .ok (.ifCond .ne 15, 3) := dk_154 0 15 (dk_at dksL_law_71 7 rfl rfl)
theorem dL_law_1824 : decode cL_law 1824 = .ok (.aload_n 3, 1) := dk_45 (dk_at dksL_law_71 10 rfl rfl)
theorem dL_law_1825 : decode cL_law 1825 = .ok (.iconst 0, 1) := dk_3 (dk_at dksL_law_71 11 rfl rfl)
theorem dL_law_1826 : decode cL_law 1826 = .ok (.laload, 1) := dk_47 (dk_at dksL_law_71 12 rfl rfl)
theorem dL_law_1827 : decode cL_law 1827 = .ok (.iload 6, 2) := dk_21 6 (dk_at dksL_law_71 13 rfl rfl)
theorem dL_law_1829 : decode cL_law 1829 = .ok (.i2l, 1) := dk_133 (dk_at dksL_law_71 15 rfl rfl)
theorem dL_law_1830 : decode cL_law 1830 = .ok (.lcmp, 1) := dk_148 (dk_at dksL_law_71 16 rfl rfl)
theorem dL_law_1831 : decode cL_law 1831 = .ok (.ifCond .eq 5, 3) := dk_153 0 5 (dk_at dksL_law_71 17 rfl rfl)
theorem dL_law_1834 : decode cL_law 1834 = .ok (.iconst 0, 1) := dk_3 (dk_at dksL_law_71 20 rfl rfl)
theorem dL_law_1835 : decode cL_law 1835 = .ok (.ireturn, 1) := dk_172 (dk_at dksL_law_71 21 rfl rfl)
theorem dL_law_1836 : decode cL_law 1836 = .ok (.goto 1258, 3) := dk_167 4 234 (dk_at dksL_law_72 0 rfl rfl)
theorem dL_law_1839 : decode cL_law 1839 = .ok (.aload_n 1, 1) := dk_43 (dk_at dksL_law_72 3 rfl rfl)
theorem dL_law_1840 : decode cL_law 1840 = .ok (.invokevirtual 223, 3) := dk_182 0 223 (dk_at dksL_law_72 4 rfl rfl)
theorem dL_law_1843 : decode cL_law 1843 = .ok (.aload_n 2, 1) := dk_44 (dk_at dksL_law_72 7 rfl rfl)
theorem dL_law_1844 : decode cL_law 1844 = .ok (.invokevirtual 226, 3) := dk_182 0 226 (dk_at dksL_law_72 8 rfl rfl)
theorem dL_law_1847 : decode cL_law 1847 = .ok (.if_icmp .eq 1247, 3) := dk_159 4 223 (dk_at dksL_law_72 11 rfl rfl)
theorem dL_law_1850 : decode cL_law 1850 = .ok (.iconst 0, 1) := dk_3 (dk_at dksL_law_72 14 rfl rfl)
theorem dL_law_1851 : decode cL_law 1851 = .ok (.ireturn, 1) := dk_172 (dk_at dksL_law_72 15 rfl rfl)
theorem dL_law_1852 : decode cL_law 1852 = .ok (.aload_n 1, 1) := dk_43 (dk_at dksL_law_72 16 rfl rfl)
theorem dL_law_1853 : decode cL_law 1853 = .ok (.aload_n 0, 1) := dk_42 (dk_at dksL_law_72 17 rfl rfl)
theorem dL_law_1854 : decode cL_law 1854 = .ok (.iload 4, 2) := dk_21 4 (dk_at dksL_law_72 18 rfl rfl)
theorem dL_law_1856 : decode cL_law 1856 = .ok (.iconst 1, 1) := dk_4 (dk_at dksL_law_72 20 rfl rfl)
theorem dL_law_1857 : decode cL_law 1857 = .ok (.iadd, 1) := dk_96 (dk_at dksL_law_72 21 rfl rfl)
theorem dL_law_1858 : decode cL_law 1858 = .ok (.iaload, 1) := dk_46 (dk_at dksL_law_72 22 rfl rfl)
theorem dL_law_1859 : decode cL_law 1859 = .ok (.aload_n 0, 1) := dk_42 (dk_at dksL_law_72 23 rfl rfl)
theorem dL_law_1860 : decode cL_law 1860 = .ok (.iload 4, 2) := dk_21 4 (dk_at dksL_law_73 0 rfl rfl)
theorem dL_law_1862 : decode cL_law 1862 = .ok (.iconst 2, 1) := dk_5 (dk_at dksL_law_73 2 rfl rfl)
theorem dL_law_1863 : decode cL_law 1863 = .ok (.iadd, 1) := dk_96 (dk_at dksL_law_73 3 rfl rfl)
theorem dL_law_1864 : decode cL_law 1864 = .ok (.iaload, 1) := dk_46 (dk_at dksL_law_73 4 rfl rfl)
theorem dL_law_1865 : decode cL_law 1865 = .ok (.aload_n 0, 1) := dk_42 (dk_at dksL_law_73 5 rfl rfl)
theorem dL_law_1866 : decode cL_law 1866 = .ok (.iload 4, 2) := dk_21 4 (dk_at dksL_law_73 6 rfl rfl)
theorem dL_law_1868 : decode cL_law 1868 = .ok (.iconst 3, 1) := dk_6 (dk_at dksL_law_73 8 rfl rfl)
theorem dL_law_1869 : decode cL_law 1869 = .ok (.iadd, 1) := dk_96 (dk_at dksL_law_73 9 rfl rfl)
theorem dL_law_1870 : decode cL_law 1870 = .ok (.iaload, 1) := dk_46 (dk_at dksL_law_73 10 rfl rfl)
theorem dL_law_1871 : decode cL_law 1871 = .ok (.aload_n 3, 1) := dk_45 (dk_at dksL_law_73 11 rfl rfl)
theorem dL_law_1872 : decode cL_law 1872 = .ok (.invokestatic 227, 3) := dk_184 0 227 (dk_at dksL_law_73 12 rfl rfl)
theorem dL_law_1875 : decode cL_law 1875 = .ok (.istore 5, 2) := dk_54 5 (dk_at dksL_law_73 15 rfl rfl)
theorem dL_law_1877 : decode cL_law 1877 = .ok (.aload_n 2, 1) := dk_44 (dk_at dksL_law_73 17 rfl rfl)
theorem dL_law_1878 : decode cL_law 1878 = .ok (.aload_n 0, 1) := dk_42 (dk_at dksL_law_73 18 rfl rfl)
theorem dL_law_1879 : decode cL_law 1879 = .ok (.iload 4, 2) := dk_21 4 (dk_at dksL_law_73 19 rfl rfl)
theorem dL_law_1881 : decode cL_law 1881 = .ok (.iconst 1, 1) := dk_4 (dk_at dksL_law_73 21 rfl rfl)
theorem dL_law_1882 : decode cL_law 1882 = .ok (.iadd, 1) := dk_96 (dk_at dksL_law_73 22 rfl rfl)
theorem dL_law_1883 : decode cL_law 1883 = .ok (.iaload, 1) := dk_46 (dk_at dksL_law_73 23 rfl rfl)
theorem dL_law_1884 : decode cL_law 1884 = .ok (.aload_n 0, 1) := dk_42 (dk_at dksL_law_74 0 rfl rfl)
theorem dL_law_1885 : decode cL_law 1885 = .ok (.iload 4, 2) := dk_21 4 (dk_at dksL_law_74 1 rfl rfl)
theorem dL_law_1887 : decode cL_law 1887 = .ok (.iconst 2, 1) := dk_5 (dk_at dksL_law_74 3 rfl rfl)
theorem dL_law_1888 : decode cL_law 1888 = .ok (.iadd, 1) := dk_96 (dk_at dksL_law_74 4 rfl rfl)
theorem dL_law_1889 : decode cL_law 1889 = .ok (.iaload, 1) := dk_46 (dk_at dksL_law_74 5 rfl rfl)
theorem dL_law_1890 : decode cL_law 1890 = .ok (.aload_n 0, 1) := dk_42 (dk_at dksL_law_74 6 rfl rfl)
theorem dL_law_1891 : decode cL_law 1891 = .ok (.iload 4, 2) := dk_21 4 (dk_at dksL_law_74 7 rfl rfl)
theorem dL_law_1893 : decode cL_law 1893 = .ok (.iconst 3, 1) := dk_6 (dk_at dksL_law_74 9 rfl rfl)
theorem dL_law_1894 : decode cL_law 1894 = .ok (.iadd, 1) := dk_96 (dk_at dksL_law_74 10 rfl rfl)
theorem dL_law_1895 : decode cL_law 1895 = .ok (.iaload, 1) := dk_46 (dk_at dksL_law_74 11 rfl rfl)
theorem dL_law_1896 : decode cL_law 1896 = .ok (.invokevirtual 229, 3) := dk_182 0 229 (dk_at dksL_law_74 12 rfl rfl)
theorem dL_law_1899 : decode cL_law 1899 = .ok (.istore 6, 2) := dk_54 6 (dk_at dksL_law_74 15 rfl rfl)
theorem dL_law_1901 : decode cL_law 1901 = .ok (.aload_n 2, 1) := dk_44 (dk_at dksL_law_74 17 rfl rfl)
theorem dL_law_1902 : decode cL_law 1902 = .ok (.invokevirtual 149, 3) := dk_182 0 149 (dk_at dksL_law_74 18 rfl rfl)
theorem dL_law_1905 : decode cL_law 1905 = .ok (.iload 5, 2) := dk_21 5 (dk_at dksL_law_74 21 rfl rfl)
theorem dL_law_1907 : decode cL_law 1907 = .ok (.if_icmp .eq 5, 3) := dk_159 0 5 (dk_at dksL_law_75 0 rfl rfl)
theorem dL_law_1910 : decode cL_law 1910 = .ok (.iconst 0, 1) := dk_3 (dk_at dksL_law_75 3 rfl rfl)
theorem dL_law_1911 : decode cL_law 1911 = .ok (.ireturn, 1) := dk_172 (dk_at dksL_law_75 4 rfl rfl)
theorem dL_law_1912 : decode cL_law 1912 = .ok (.iload 5, 2) := dk_21 5 (dk_at dksL_law_75 5 rfl rfl)
theorem dL_law_1914 : decode cL_law 1914 = .ok (.ifCond .ne 15, 3) := dk_154 0 15 (dk_at dksL_law_75 7 rfl rfl)
theorem dL_law_1917 : decode cL_law 1917 = .ok (.aload_n 3, 1) := dk_45 (dk_at dksL_law_75 10 rfl rfl)
theorem dL_law_1918 : decode cL_law 1918 = .ok (.iconst 0, 1) := dk_3 (dk_at dksL_law_75 11 rfl rfl)
theorem dL_law_1919 : decode cL_law 1919 = .ok (.laload, 1) := dk_47 (dk_at dksL_law_75 12 rfl rfl)
theorem dL_law_1920 : decode cL_law 1920 = .ok (.iload 6, 2) := dk_21 6 (dk_at dksL_law_75 13 rfl rfl)
theorem dL_law_1922 : decode cL_law 1922 = .ok (.i2l, 1) := dk_133 (dk_at dksL_law_75 15 rfl rfl)
theorem dL_law_1923 : decode cL_law 1923 = .ok (.lcmp, 1) := dk_148 (dk_at dksL_law_75 16 rfl rfl)
theorem dL_law_1924 : decode cL_law 1924 = .ok (.ifCond .eq 5, 3) := dk_153 0 5 (dk_at dksL_law_75 17 rfl rfl)
theorem dL_law_1927 : decode cL_law 1927 = .ok (.iconst 0, 1) := dk_3 (dk_at dksL_law_75 20 rfl rfl)
theorem dL_law_1928 : decode cL_law 1928 = .ok (.ireturn, 1) := dk_172 (dk_at dksL_law_75 21 rfl rfl)
theorem dL_law_1929 : decode cL_law 1929 = .ok (.goto 1165, 3) := dk_167 4 141 (dk_at dksL_law_76 0 rfl rfl)
theorem dL_law_1932 : decode cL_law 1932 = .ok (.aload_n 1, 1) := dk_43 (dk_at dksL_law_76 3 rfl rfl)
theorem dL_law_1933 : decode cL_law 1933 = .ok (.aload_n 0, 1) := dk_42 (dk_at dksL_law_76 4 rfl rfl)
theorem dL_law_1934 : decode cL_law 1934 = .ok (.iload 4, 2) := dk_21 4 (dk_at dksL_law_76 5 rfl rfl)
theorem dL_law_1936 : decode cL_law 1936 = .ok (.iconst 1, 1) := dk_4 (dk_at dksL_law_76 7 rfl rfl)
theorem dL_law_1937 : decode cL_law 1937 = .ok (.iadd, 1) := dk_96 (dk_at dksL_law_76 8 rfl rfl)
theorem dL_law_1938 : decode cL_law 1938 = .ok (.iaload, 1) := dk_46 (dk_at dksL_law_76 9 rfl rfl)
theorem dL_law_1939 : decode cL_law 1939 = .ok (.aload_n 0, 1) := dk_42 (dk_at dksL_law_76 10 rfl rfl)
theorem dL_law_1940 : decode cL_law 1940 = .ok (.iload 4, 2) := dk_21 4 (dk_at dksL_law_76 11 rfl rfl)
theorem dL_law_1942 : decode cL_law 1942 = .ok (.iconst 2, 1) := dk_5 (dk_at dksL_law_76 13 rfl rfl)
theorem dL_law_1943 : decode cL_law 1943 = .ok (.iadd, 1) := dk_96 (dk_at dksL_law_76 14 rfl rfl)
theorem dL_law_1944 : decode cL_law 1944 = .ok (.iaload, 1) := dk_46 (dk_at dksL_law_76 15 rfl rfl)
theorem dL_law_1945 : decode cL_law 1945 = .ok (.aload_n 0, 1) := dk_42 (dk_at dksL_law_76 16 rfl rfl)
theorem dL_law_1946 : decode cL_law 1946 = .ok (.iload 4, 2) := dk_21 4 (dk_at dksL_law_76 17 rfl rfl)
theorem dL_law_1948 : decode cL_law 1948 = .ok (.iconst 3, 1) := dk_6 (dk_at dksL_law_76 19 rfl rfl)
theorem dL_law_1949 : decode cL_law 1949 = .ok (.iadd, 1) := dk_96 (dk_at dksL_law_76 20 rfl rfl)
theorem dL_law_1950 : decode cL_law 1950 = .ok (.iaload, 1) := dk_46 (dk_at dksL_law_76 21 rfl rfl)
theorem dL_law_1951 : decode cL_law 1951 = .ok (.aload_n 3, 1) := dk_45 (dk_at dksL_law_76 22 rfl rfl)
theorem dL_law_1952 : decode cL_law 1952 = .ok (.invokestatic 230, 3) := dk_184 0 230 (dk_at dksL_law_77 0 rfl rfl)
theorem dL_law_1955 : decode cL_law 1955 = .ok (.istore 5, 2) := dk_54 5 (dk_at dksL_law_77 3 rfl rfl)
theorem dL_law_1957 : decode cL_law 1957 = .ok (.aload_n 2, 1) := dk_44 (dk_at dksL_law_77 5 rfl rfl)
theorem dL_law_1958 : decode cL_law 1958 = .ok (.aload_n 0, 1) := dk_42 (dk_at dksL_law_77 6 rfl rfl)
theorem dL_law_1959 : decode cL_law 1959 = .ok (.iload 4, 2) := dk_21 4 (dk_at dksL_law_77 7 rfl rfl)
theorem dL_law_1961 : decode cL_law 1961 = .ok (.iconst 1, 1) := dk_4 (dk_at dksL_law_77 9 rfl rfl)
theorem dL_law_1962 : decode cL_law 1962 = .ok (.iadd, 1) := dk_96 (dk_at dksL_law_77 10 rfl rfl)
theorem dL_law_1963 : decode cL_law 1963 = .ok (.iaload, 1) := dk_46 (dk_at dksL_law_77 11 rfl rfl)
theorem dL_law_1964 : decode cL_law 1964 = .ok (.aload_n 0, 1) := dk_42 (dk_at dksL_law_77 12 rfl rfl)
theorem dL_law_1965 : decode cL_law 1965 = .ok (.iload 4, 2) := dk_21 4 (dk_at dksL_law_77 13 rfl rfl)
theorem dL_law_1967 : decode cL_law 1967 = .ok (.iconst 2, 1) := dk_5 (dk_at dksL_law_77 15 rfl rfl)
theorem dL_law_1968 : decode cL_law 1968 = .ok (.iadd, 1) := dk_96 (dk_at dksL_law_77 16 rfl rfl)
theorem dL_law_1969 : decode cL_law 1969 = .ok (.iaload, 1) := dk_46 (dk_at dksL_law_77 17 rfl rfl)
theorem dL_law_1970 : decode cL_law 1970 = .ok (.aload_n 0, 1) := dk_42 (dk_at dksL_law_77 18 rfl rfl)
theorem dL_law_1971 : decode cL_law 1971 = .ok (.iload 4, 2) := dk_21 4 (dk_at dksL_law_77 19 rfl rfl)
theorem dL_law_1973 : decode cL_law 1973 = .ok (.iconst 3, 1) := dk_6 (dk_at dksL_law_77 21 rfl rfl)
theorem dL_law_1974 : decode cL_law 1974 = .ok (.iadd, 1) := dk_96 (dk_at dksL_law_77 22 rfl rfl)
theorem dL_law_1975 : decode cL_law 1975 = .ok (.iaload, 1) := dk_46 (dk_at dksL_law_77 23 rfl rfl)
theorem dL_law_1976 : decode cL_law 1976 = .ok (.invokevirtual 232, 3) := dk_182 0 232 (dk_at dksL_law_78 0 rfl rfl)
theorem dL_law_1979 : decode cL_law 1979 = .ok (.istore 6, 2) := dk_54 6 (dk_at dksL_law_78 3 rfl rfl)
theorem dL_law_1981 : decode cL_law 1981 = .ok (.aload_n 2, 1) := dk_44 (dk_at dksL_law_78 5 rfl rfl)
theorem dL_law_1982 : decode cL_law 1982 = .ok (.invokevirtual 149, 3) := dk_182 0 149 (dk_at dksL_law_78 6 rfl rfl)
theorem dL_law_1985 : decode cL_law 1985 = .ok (.iload 5, 2) := dk_21 5 (dk_at dksL_law_78 9 rfl rfl)
theorem dL_law_1987 : decode cL_law 1987 = .ok (.if_icmp .eq 5, 3) := dk_159 0 5 (dk_at dksL_law_78 11 rfl rfl)
theorem dL_law_1990 : decode cL_law 1990 = .ok (.iconst 0, 1) := dk_3 (dk_at dksL_law_78 14 rfl rfl)
theorem dL_law_1991 : decode cL_law 1991 = .ok (.ireturn, 1) := dk_172 (dk_at dksL_law_78 15 rfl rfl)
theorem dL_law_1992 : decode cL_law 1992 = .ok (.iload 5, 2) := dk_21 5 (dk_at dksL_law_78 16 rfl rfl)
theorem dL_law_1994 : decode cL_law 1994 = .ok (.ifCond .ne 15, 3) := dk_154 0 15 (dk_at dksL_law_78 18 rfl rfl)
theorem dL_law_1997 : decode cL_law 1997 = .ok (.aload_n 3, 1) := dk_45 (dk_at dksL_law_78 21 rfl rfl)
theorem dL_law_1998 : decode cL_law 1998 = .ok (.iconst 0, 1) := dk_3 (dk_at dksL_law_78 22 rfl rfl)
theorem dL_law_1999 : decode cL_law 1999 = .ok (.laload, 1) := dk_47 (dk_at dksL_law_78 23 rfl rfl)
theorem dL_law_2000 : decode cL_law 2000 = .ok (.iload 6, 2) := dk_21 6 (dk_at dksL_law_79 0 rfl rfl)
theorem dL_law_2002 : decode cL_law 2002 = .ok (.i2l, 1) := dk_133 (dk_at dksL_law_79 2 rfl rfl)
theorem dL_law_2003 : decode cL_law 2003 = .ok (.lcmp, 1) := dk_148 (dk_at dksL_law_79 3 rfl rfl)
theorem dL_law_2004 : decode cL_law 2004 = .ok (.ifCond .eq 5, 3) := dk_153 0 5 (dk_at dksL_law_79 4 rfl rfl)
theorem dL_law_2007 : decode cL_law 2007 = .ok (.iconst 0, 1) := dk_3 (dk_at dksL_law_79 7 rfl rfl)
theorem dL_law_2008 : decode cL_law 2008 = .ok (.ireturn, 1) := dk_172 (dk_at dksL_law_79 8 rfl rfl)
theorem dL_law_2009 : decode cL_law 2009 = .ok (.goto 1085, 3) := dk_167 4 61 (dk_at dksL_law_79 9 rfl rfl)
theorem dL_law_2012 : decode cL_law 2012 = .ok (.aload_n 1, 1) := dk_43 (dk_at dksL_law_79 12 rfl rfl)
theorem dL_law_2013 : decode cL_law 2013 = .ok (.aload_n 0, 1) := dk_42 (dk_at dksL_law_79 13 rfl rfl)
theorem dL_law_2014 : decode cL_law 2014 = .ok (.iload 4, 2) := dk_21 4 (dk_at dksL_law_79 14 rfl rfl)
theorem dL_law_2016 : decode cL_law 2016 = .ok (.iconst 1, 1) := dk_4 (dk_at dksL_law_79 16 rfl rfl)
theorem dL_law_2017 : decode cL_law 2017 = .ok (.iadd, 1) := dk_96 (dk_at dksL_law_79 17 rfl rfl)
theorem dL_law_2018 : decode cL_law 2018 = .ok (.iaload, 1) := dk_46 (dk_at dksL_law_79 18 rfl rfl)
theorem dL_law_2019 : decode cL_law 2019 = .ok (.aload_n 0, 1) := dk_42 (dk_at dksL_law_79 19 rfl rfl)
theorem dL_law_2020 : decode cL_law 2020 = .ok (.iload 4, 2) := dk_21 4 (dk_at dksL_law_79 20 rfl rfl)
theorem dL_law_2022 : decode cL_law 2022 = .ok (.iconst 2, 1) := dk_5 (dk_at dksL_law_79 22 rfl rfl)
theorem dL_law_2023 : decode cL_law 2023 = .ok (.iadd, 1) := dk_96 (dk_at dksL_law_79 23 rfl rfl)
theorem dL_law_2024 : decode cL_law 2024 = .ok (.iaload, 1) := dk_46 (dk_at dksL_law_80 0 rfl rfl)
theorem dL_law_2025 : decode cL_law 2025 = .ok (.aload_n 0, 1) := dk_42 (dk_at dksL_law_80 1 rfl rfl)
theorem dL_law_2026 : decode cL_law 2026 = .ok (.iload 4, 2) := dk_21 4 (dk_at dksL_law_80 2 rfl rfl)
theorem dL_law_2028 : decode cL_law 2028 = .ok (.iconst 3, 1) := dk_6 (dk_at dksL_law_80 4 rfl rfl)
theorem dL_law_2029 : decode cL_law 2029 = .ok (.iadd, 1) := dk_96 (dk_at dksL_law_80 5 rfl rfl)
theorem dL_law_2030 : decode cL_law 2030 = .ok (.iaload, 1) := dk_46 (dk_at dksL_law_80 6 rfl rfl)
theorem dL_law_2031 : decode cL_law 2031 = .ok (.aload_n 3, 1) := dk_45 (dk_at dksL_law_80 7 rfl rfl)
theorem dL_law_2032 : decode cL_law 2032 = .ok (.invokestatic 233, 3) := dk_184 0 233 (dk_at dksL_law_80 8 rfl rfl)
theorem dL_law_2035 : decode cL_law 2035 = .ok (.istore 5, 2) := dk_54 5 (dk_at dksL_law_80 11 rfl rfl)
theorem dL_law_2037 : decode cL_law 2037 = .ok (.aload_n 2, 1) := dk_44 (dk_at dksL_law_80 13 rfl rfl)
theorem dL_law_2038 : decode cL_law 2038 = .ok (.aload_n 0, 1) := dk_42 (dk_at dksL_law_80 14 rfl rfl)
theorem dL_law_2039 : decode cL_law 2039 = .ok (.iload 4, 2) := dk_21 4 (dk_at dksL_law_80 15 rfl rfl)
theorem dL_law_2041 : decode cL_law 2041 = .ok (.iconst 1, 1) := dk_4 (dk_at dksL_law_80 17 rfl rfl)
theorem dL_law_2042 : decode cL_law 2042 = .ok (.iadd, 1) := dk_96 (dk_at dksL_law_80 18 rfl rfl)
theorem dL_law_2043 : decode cL_law 2043 = .ok (.iaload, 1) := dk_46 (dk_at dksL_law_80 19 rfl rfl)
theorem dL_law_2044 : decode cL_law 2044 = .ok (.aload_n 0, 1) := dk_42 (dk_at dksL_law_80 20 rfl rfl)
theorem dL_law_2045 : decode cL_law 2045 = .ok (.iload 4, 2) := dk_21 4 (dk_at dksL_law_80 21 rfl rfl)
theorem dL_law_2047 : decode cL_law 2047 = .ok (.iconst 2, 1) := dk_5 (dk_at dksL_law_80 23 rfl rfl)
theorem dL_law_2048 : decode cL_law 2048 = .ok (.iadd, 1) := dk_96 (dk_at dksL_law_81 0 rfl rfl)
theorem dL_law_2049 : decode cL_law 2049 = .ok (.iaload, 1) := dk_46 (dk_at dksL_law_81 1 rfl rfl)
theorem dL_law_2050 : decode cL_law 2050 = .ok (.aload_n 0, 1) := dk_42 (dk_at dksL_law_81 2 rfl rfl)
theorem dL_law_2051 : decode cL_law 2051 = .ok (.iload 4, 2) := dk_21 4 (dk_at dksL_law_81 3 rfl rfl)
theorem dL_law_2053 : decode cL_law 2053 = .ok (.iconst 3, 1) := dk_6 (dk_at dksL_law_81 5 rfl rfl)
theorem dL_law_2054 : decode cL_law 2054 = .ok (.iadd, 1) := dk_96 (dk_at dksL_law_81 6 rfl rfl)
theorem dL_law_2055 : decode cL_law 2055 = .ok (.iaload, 1) := dk_46 (dk_at dksL_law_81 7 rfl rfl)
theorem dL_law_2056 : decode cL_law 2056 = .ok (.invokevirtual 235, 3) := dk_182 0 235 (dk_at dksL_law_81 8 rfl rfl)
theorem dL_law_2059 : decode cL_law 2059 = .ok (.istore 6, 2) := dk_54 6 (dk_at dksL_law_81 11 rfl rfl)
theorem dL_law_2061 : decode cL_law 2061 = .ok (.aload_n 2, 1) := dk_44 (dk_at dksL_law_81 13 rfl rfl)
theorem dL_law_2062 : decode cL_law 2062 = .ok (.invokevirtual 149, 3) := dk_182 0 149 (dk_at dksL_law_81 14 rfl rfl)
theorem dL_law_2065 : decode cL_law 2065 = .ok (.iload 5, 2) := dk_21 5 (dk_at dksL_law_81 17 rfl rfl)
theorem dL_law_2067 : decode cL_law 2067 = .ok (.if_icmp .eq 5, 3) := dk_159 0 5 (dk_at dksL_law_81 19 rfl rfl)
theorem dL_law_2070 : decode cL_law 2070 = .ok (.iconst 0, 1) := dk_3 (dk_at dksL_law_81 22 rfl rfl)
theorem dL_law_2071 : decode cL_law 2071 = .ok (.ireturn, 1) := dk_172 (dk_at dksL_law_81 23 rfl rfl)
theorem dL_law_2072 : decode cL_law 2072 = .ok (.iload 5, 2) := dk_21 5 (dk_at dksL_law_82 0 rfl rfl)
theorem dL_law_2074 : decode cL_law 2074 = .ok (.ifCond .ne 15, 3) := dk_154 0 15 (dk_at dksL_law_82 2 rfl rfl)
theorem dL_law_2077 : decode cL_law 2077 = .ok (.aload_n 3, 1) := dk_45 (dk_at dksL_law_82 5 rfl rfl)
theorem dL_law_2078 : decode cL_law 2078 = .ok (.iconst 0, 1) := dk_3 (dk_at dksL_law_82 6 rfl rfl)
theorem dL_law_2079 : decode cL_law 2079 = .ok (.laload, 1) := dk_47 (dk_at dksL_law_82 7 rfl rfl)
theorem dL_law_2080 : decode cL_law 2080 = .ok (.iload 6, 2) := dk_21 6 (dk_at dksL_law_82 8 rfl rfl)
theorem dL_law_2082 : decode cL_law 2082 = .ok (.i2l, 1) := dk_133 (dk_at dksL_law_82 10 rfl rfl)
theorem dL_law_2083 : decode cL_law 2083 = .ok (.lcmp, 1) := dk_148 (dk_at dksL_law_82 11 rfl rfl)
theorem dL_law_2084 : decode cL_law 2084 = .ok (.ifCond .eq 5, 3) := dk_153 0 5 (dk_at dksL_law_82 12 rfl rfl)
theorem dL_law_2087 : decode cL_law 2087 = .ok (.iconst 0, 1) := dk_3 (dk_at dksL_law_82 15 rfl rfl)
theorem dL_law_2088 : decode cL_law 2088 = .ok (.ireturn, 1) := dk_172 (dk_at dksL_law_82 16 rfl rfl)
theorem dL_law_2089 : decode cL_law 2089 = .ok (.goto 1005, 3) := dk_167 3 237 (dk_at dksL_law_82 17 rfl rfl)
theorem dL_law_2092 : decode cL_law 2092 = .ok (.aload_n 1, 1) := dk_43 (dk_at dksL_law_82 20 rfl rfl)
theorem dL_law_2093 : decode cL_law 2093 = .ok (.aload_n 0, 1) := dk_42 (dk_at dksL_law_82 21 rfl rfl)
theorem dL_law_2094 : decode cL_law 2094 = .ok (.iload 4, 2) := dk_21 4 (dk_at dksL_law_82 22 rfl rfl)
theorem dL_law_2096 : decode cL_law 2096 = .ok (.iconst 1, 1) := dk_4 (dk_at dksL_law_83 0 rfl rfl)
theorem dL_law_2097 : decode cL_law 2097 = .ok (.iadd, 1) := dk_96 (dk_at dksL_law_83 1 rfl rfl)
theorem dL_law_2098 : decode cL_law 2098 = .ok (.iaload, 1) := dk_46 (dk_at dksL_law_83 2 rfl rfl)
theorem dL_law_2099 : decode cL_law 2099 = .ok (.aload_n 3, 1) := dk_45 (dk_at dksL_law_83 3 rfl rfl)
theorem dL_law_2100 : decode cL_law 2100 = .ok (.invokestatic 236, 3) := dk_184 0 236 (dk_at dksL_law_83 4 rfl rfl)
theorem dL_law_2103 : decode cL_law 2103 = .ok (.istore 5, 2) := dk_54 5 (dk_at dksL_law_83 7 rfl rfl)
theorem dL_law_2105 : decode cL_law 2105 = .ok (.aload_n 2, 1) := dk_44 (dk_at dksL_law_83 9 rfl rfl)
theorem dL_law_2106 : decode cL_law 2106 = .ok (.aload_n 0, 1) := dk_42 (dk_at dksL_law_83 10 rfl rfl)
theorem dL_law_2107 : decode cL_law 2107 = .ok (.iload 4, 2) := dk_21 4 (dk_at dksL_law_83 11 rfl rfl)
theorem dL_law_2109 : decode cL_law 2109 = .ok (.iconst 1, 1) := dk_4 (dk_at dksL_law_83 13 rfl rfl)
theorem dL_law_2110 : decode cL_law 2110 = .ok (.iadd, 1) := dk_96 (dk_at dksL_law_83 14 rfl rfl)
theorem dL_law_2111 : decode cL_law 2111 = .ok (.iaload, 1) := dk_46 (dk_at dksL_law_83 15 rfl rfl)
theorem dL_law_2112 : decode cL_law 2112 = .ok (.invokevirtual 238, 3) := dk_182 0 238 (dk_at dksL_law_83 16 rfl rfl)
theorem dL_law_2115 : decode cL_law 2115 = .ok (.istore 6, 2) := dk_54 6 (dk_at dksL_law_83 19 rfl rfl)
theorem dL_law_2117 : decode cL_law 2117 = .ok (.aload_n 2, 1) := dk_44 (dk_at dksL_law_83 21 rfl rfl)
theorem dL_law_2118 : decode cL_law 2118 = .ok (.invokevirtual 149, 3) := dk_182 0 149 (dk_at dksL_law_84 0 rfl rfl)
theorem dL_law_2121 : decode cL_law 2121 = .ok (.iload 5, 2) := dk_21 5 (dk_at dksL_law_84 3 rfl rfl)
theorem dL_law_2123 : decode cL_law 2123 = .ok (.if_icmp .eq 5, 3) := dk_159 0 5 (dk_at dksL_law_84 5 rfl rfl)
theorem dL_law_2126 : decode cL_law 2126 = .ok (.iconst 0, 1) := dk_3 (dk_at dksL_law_84 8 rfl rfl)
theorem dL_law_2127 : decode cL_law 2127 = .ok (.ireturn, 1) := dk_172 (dk_at dksL_law_84 9 rfl rfl)
theorem dL_law_2128 : decode cL_law 2128 = .ok (.iload 5, 2) := dk_21 5 (dk_at dksL_law_84 10 rfl rfl)
theorem dL_law_2130 : decode cL_law 2130 = .ok (.ifCond .ne 15, 3) := dk_154 0 15 (dk_at dksL_law_84 12 rfl rfl)
theorem dL_law_2133 : decode cL_law 2133 = .ok (.aload_n 3, 1) := dk_45 (dk_at dksL_law_84 15 rfl rfl)
theorem dL_law_2134 : decode cL_law 2134 = .ok (.iconst 0, 1) := dk_3 (dk_at dksL_law_84 16 rfl rfl)
theorem dL_law_2135 : decode cL_law 2135 = .ok (.laload, 1) := dk_47 (dk_at dksL_law_84 17 rfl rfl)
theorem dL_law_2136 : decode cL_law 2136 = .ok (.iload 6, 2) := dk_21 6 (dk_at dksL_law_84 18 rfl rfl)
theorem dL_law_2138 : decode cL_law 2138 = .ok (.i2l, 1) := dk_133 (dk_at dksL_law_84 20 rfl rfl)
theorem dL_law_2139 : decode cL_law 2139 = .ok (.lcmp, 1) := dk_148 (dk_at dksL_law_84 21 rfl rfl)
theorem dL_law_2140 : decode cL_law 2140 = .ok (.ifCond .eq 5, 3) := dk_153 0 5 (dk_at dksL_law_85 0 rfl rfl)
theorem dL_law_2143 : decode cL_law 2143 = .ok (.iconst 0, 1) := dk_3 (dk_at dksL_law_85 3 rfl rfl)
theorem dL_law_2144 : decode cL_law 2144 = .ok (.ireturn, 1) := dk_172 (dk_at dksL_law_85 4 rfl rfl)
theorem dL_law_2145 : decode cL_law 2145 = .ok (.goto 949, 3) := dk_167 3 181 (dk_at dksL_law_85 5 rfl rfl)
theorem dL_law_2148 : decode cL_law 2148 = .ok (.aload_n 1, 1) := dk_43 (dk_at dksL_law_85 8 rfl rfl)
theorem dL_law_2149 : decode cL_law 2149 = .ok (.aload_n 0, 1) := dk_42 (dk_at dksL_law_85 9 rfl rfl)
theorem dL_law_2150 : decode cL_law 2150 = .ok (.iload 4, 2) := dk_21 4 (dk_at dksL_law_85 10 rfl rfl)
theorem dL_law_2152 : decode cL_law 2152 = .ok (.iconst 1, 1) := dk_4 (dk_at dksL_law_85 12 rfl rfl)
theorem dL_law_2153 : decode cL_law 2153 = .ok (.iadd, 1) := dk_96 (dk_at dksL_law_85 13 rfl rfl)
theorem dL_law_2154 : decode cL_law 2154 = .ok (.iaload, 1) := dk_46 (dk_at dksL_law_85 14 rfl rfl)
theorem dL_law_2155 : decode cL_law 2155 = .ok (.aload_n 3, 1) := dk_45 (dk_at dksL_law_85 15 rfl rfl)
theorem dL_law_2156 : decode cL_law 2156 = .ok (.invokestatic 239, 3) := dk_184 0 239 (dk_at dksL_law_85 16 rfl rfl)
theorem dL_law_2159 : decode cL_law 2159 = .ok (.istore 5, 2) := dk_54 5 (dk_at dksL_law_85 19 rfl rfl)
theorem dL_law_2161 : decode cL_law 2161 = .ok (.aload_n 2, 1) := dk_44 (dk_at dksL_law_85 21 rfl rfl)
theorem dL_law_2162 : decode cL_law 2162 = .ok (.aload_n 0, 1) := dk_42 (dk_at dksL_law_85 22 rfl rfl)
theorem dL_law_2163 : decode cL_law 2163 = .ok (.iload 4, 2) := dk_21 4 (dk_at dksL_law_86 0 rfl rfl)
theorem dL_law_2165 : decode cL_law 2165 = .ok (.iconst 1, 1) := dk_4 (dk_at dksL_law_86 2 rfl rfl)
theorem dL_law_2166 : decode cL_law 2166 = .ok (.iadd, 1) := dk_96 (dk_at dksL_law_86 3 rfl rfl)
theorem dL_law_2167 : decode cL_law 2167 = .ok (.iaload, 1) := dk_46 (dk_at dksL_law_86 4 rfl rfl)
theorem dL_law_2168 : decode cL_law 2168 = .ok (.invokevirtual 241, 3) := dk_182 0 241 (dk_at dksL_law_86 5 rfl rfl)
theorem dL_law_2171 : decode cL_law 2171 = .ok (.istore 6, 2) := dk_54 6 (dk_at dksL_law_86 8 rfl rfl)
theorem dL_law_2173 : decode cL_law 2173 = .ok (.aload_n 2, 1) := dk_44 (dk_at dksL_law_86 10 rfl rfl)
theorem dL_law_2174 : decode cL_law 2174 = .ok (.invokevirtual 149, 3) := dk_182 0 149 (dk_at dksL_law_86 11 rfl rfl)
theorem dL_law_2177 : decode cL_law 2177 = .ok (.iload 5, 2) := dk_21 5 (dk_at dksL_law_86 14 rfl rfl)
theorem dL_law_2179 : decode cL_law 2179 = .ok (.if_icmp .eq 5, 3) := dk_159 0 5 (dk_at dksL_law_86 16 rfl rfl)
theorem dL_law_2182 : decode cL_law 2182 = .ok (.iconst 0, 1) := dk_3 (dk_at dksL_law_86 19 rfl rfl)
theorem dL_law_2183 : decode cL_law 2183 = .ok (.ireturn, 1) := dk_172 (dk_at dksL_law_86 20 rfl rfl)
theorem dL_law_2184 : decode cL_law 2184 = .ok (.iload 5, 2) := dk_21 5 (dk_at dksL_law_86 21 rfl rfl)
theorem dL_law_2186 : decode cL_law 2186 = .ok (.ifCond .ne 15, 3) := dk_154 0 15 (dk_at dksL_law_87 0 rfl rfl)
theorem dL_law_2189 : decode cL_law 2189 = .ok (.aload_n 3, 1) := dk_45 (dk_at dksL_law_87 3 rfl rfl)
theorem dL_law_2190 : decode cL_law 2190 = .ok (.iconst 0, 1) := dk_3 (dk_at dksL_law_87 4 rfl rfl)
theorem dL_law_2191 : decode cL_law 2191 = .ok (.laload, 1) := dk_47 (dk_at dksL_law_87 5 rfl rfl)
theorem dL_law_2192 : decode cL_law 2192 = .ok (.iload 6, 2) := dk_21 6 (dk_at dksL_law_87 6 rfl rfl)
theorem dL_law_2194 : decode cL_law 2194 = .ok (.i2l, 1) := dk_133 (dk_at dksL_law_87 8 rfl rfl)
theorem dL_law_2195 : decode cL_law 2195 = .ok (.lcmp, 1) := dk_148 (dk_at dksL_law_87 9 rfl rfl)
theorem dL_law_2196 : decode cL_law 2196 = .ok (.ifCond .eq 5, 3) := dk_153 0 5 (dk_at dksL_law_87 10 rfl rfl)
theorem dL_law_2199 : decode cL_law 2199 = .ok (.iconst 0, 1) := dk_3 (dk_at dksL_law_87 13 rfl rfl)
theorem dL_law_2200 : decode cL_law 2200 = .ok (.ireturn, 1) := dk_172 (dk_at dksL_law_87 14 rfl rfl)
theorem dL_law_2201 : decode cL_law 2201 = .ok (.goto 893, 3) := dk_167 3 125 (dk_at dksL_law_87 15 rfl rfl)
theorem dL_law_2204 : decode cL_law 2204 = .ok (.aload_n 1, 1) := dk_43 (dk_at dksL_law_87 18 rfl rfl)
theorem dL_law_2205 : decode cL_law 2205 = .ok (.aload_n 0, 1) := dk_42 (dk_at dksL_law_87 19 rfl rfl)
theorem dL_law_2206 : decode cL_law 2206 = .ok (.iload 4, 2) := dk_21 4 (dk_at dksL_law_87 20 rfl rfl)
theorem dL_law_2208 : decode cL_law 2208 = .ok (.iconst 1, 1) := dk_4 (dk_at dksL_law_87 22 rfl rfl)
theorem dL_law_2209 : decode cL_law 2209 = .ok (.iadd, 1) := dk_96 (dk_at dksL_law_87 23 rfl rfl)
theorem dL_law_2210 : decode cL_law 2210 = .ok (.iaload, 1) := dk_46 (dk_at dksL_law_88 0 rfl rfl)
theorem dL_law_2211 : decode cL_law 2211 = .ok (.aload_n 0, 1) := dk_42 (dk_at dksL_law_88 1 rfl rfl)
theorem dL_law_2212 : decode cL_law 2212 = .ok (.iload 4, 2) := dk_21 4 (dk_at dksL_law_88 2 rfl rfl)
theorem dL_law_2214 : decode cL_law 2214 = .ok (.iconst 2, 1) := dk_5 (dk_at dksL_law_88 4 rfl rfl)
theorem dL_law_2215 : decode cL_law 2215 = .ok (.iadd, 1) := dk_96 (dk_at dksL_law_88 5 rfl rfl)
theorem dL_law_2216 : decode cL_law 2216 = .ok (.iaload, 1) := dk_46 (dk_at dksL_law_88 6 rfl rfl)
theorem dL_law_2217 : decode cL_law 2217 = .ok (.aload_n 3, 1) := dk_45 (dk_at dksL_law_88 7 rfl rfl)
theorem dL_law_2218 : decode cL_law 2218 = .ok (.invokestatic 242, 3) := dk_184 0 242 (dk_at dksL_law_88 8 rfl rfl)
theorem dL_law_2221 : decode cL_law 2221 = .ok (.istore 5, 2) := dk_54 5 (dk_at dksL_law_88 11 rfl rfl)
theorem dL_law_2223 : decode cL_law 2223 = .ok (.aload_n 2, 1) := dk_44 (dk_at dksL_law_88 13 rfl rfl)
theorem dL_law_2224 : decode cL_law 2224 = .ok (.aload_n 0, 1) := dk_42 (dk_at dksL_law_88 14 rfl rfl)
theorem dL_law_2225 : decode cL_law 2225 = .ok (.iload 4, 2) := dk_21 4 (dk_at dksL_law_88 15 rfl rfl)
theorem dL_law_2227 : decode cL_law 2227 = .ok (.iconst 1, 1) := dk_4 (dk_at dksL_law_88 17 rfl rfl)
theorem dL_law_2228 : decode cL_law 2228 = .ok (.iadd, 1) := dk_96 (dk_at dksL_law_88 18 rfl rfl)
theorem dL_law_2229 : decode cL_law 2229 = .ok (.iaload, 1) := dk_46 (dk_at dksL_law_88 19 rfl rfl)
theorem dL_law_2230 : decode cL_law 2230 = .ok (.aload_n 0, 1) := dk_42 (dk_at dksL_law_88 20 rfl rfl)
theorem dL_law_2231 : decode cL_law 2231 = .ok (.iload 4, 2) := dk_21 4 (dk_at dksL_law_88 21 rfl rfl)
theorem dL_law_2233 : decode cL_law 2233 = .ok (.iconst 2, 1) := dk_5 (dk_at dksL_law_88 23 rfl rfl)
theorem dL_law_2234 : decode cL_law 2234 = .ok (.iadd, 1) := dk_96 (dk_at dksL_law_89 0 rfl rfl)
theorem dL_law_2235 : decode cL_law 2235 = .ok (.iaload, 1) := dk_46 (dk_at dksL_law_89 1 rfl rfl)
theorem dL_law_2236 : decode cL_law 2236 = .ok (.invokevirtual 244, 3) := dk_182 0 244 (dk_at dksL_law_89 2 rfl rfl)
theorem dL_law_2239 : decode cL_law 2239 = .ok (.istore 6, 2) := dk_54 6 (dk_at dksL_law_89 5 rfl rfl)
theorem dL_law_2241 : decode cL_law 2241 = .ok (.aload_n 2, 1) := dk_44 (dk_at dksL_law_89 7 rfl rfl)
theorem dL_law_2242 : decode cL_law 2242 = .ok (.invokevirtual 149, 3) := dk_182 0 149 (dk_at dksL_law_89 8 rfl rfl)
theorem dL_law_2245 : decode cL_law 2245 = .ok (.iload 5, 2) := dk_21 5 (dk_at dksL_law_89 11 rfl rfl)
theorem dL_law_2247 : decode cL_law 2247 = .ok (.if_icmp .eq 5, 3) := dk_159 0 5 (dk_at dksL_law_89 13 rfl rfl)
theorem dL_law_2250 : decode cL_law 2250 = .ok (.iconst 0, 1) := dk_3 (dk_at dksL_law_89 16 rfl rfl)
theorem dL_law_2251 : decode cL_law 2251 = .ok (.ireturn, 1) := dk_172 (dk_at dksL_law_89 17 rfl rfl)
theorem dL_law_2252 : decode cL_law 2252 = .ok (.iload 5, 2) := dk_21 5 (dk_at dksL_law_89 18 rfl rfl)
theorem dL_law_2254 : decode cL_law 2254 = .ok (.ifCond .ne 15, 3) := dk_154 0 15 (dk_at dksL_law_89 20 rfl rfl)
theorem dL_law_2257 : decode cL_law 2257 = .ok (.aload_n 3, 1) := dk_45 (dk_at dksL_law_89 23 rfl rfl)
theorem dL_law_2258 : decode cL_law 2258 = .ok (.iconst 0, 1) := dk_3 (dk_at dksL_law_90 0 rfl rfl)
theorem dL_law_2259 : decode cL_law 2259 = .ok (.laload, 1) := dk_47 (dk_at dksL_law_90 1 rfl rfl)
theorem dL_law_2260 : decode cL_law 2260 = .ok (.iload 6, 2) := dk_21 6 (dk_at dksL_law_90 2 rfl rfl)
theorem dL_law_2262 : decode cL_law 2262 = .ok (.i2l, 1) := dk_133 (dk_at dksL_law_90 4 rfl rfl)
theorem dL_law_2263 : decode cL_law 2263 = .ok (.lcmp, 1) := dk_148 (dk_at dksL_law_90 5 rfl rfl)
theorem dL_law_2264 : decode cL_law 2264 = .ok (.ifCond .eq 5, 3) := dk_153 0 5 (dk_at dksL_law_90 6 rfl rfl)
theorem dL_law_2267 : decode cL_law 2267 = .ok (.iconst 0, 1) := dk_3 (dk_at dksL_law_90 9 rfl rfl)
theorem dL_law_2268 : decode cL_law 2268 = .ok (.ireturn, 1) := dk_172 (dk_at dksL_law_90 10 rfl rfl)
theorem dL_law_2269 : decode cL_law 2269 = .ok (.goto 825, 3) := dk_167 3 57 (dk_at dksL_law_90 11 rfl rfl)
theorem dL_law_2272 : decode cL_law 2272 = .ok (.aload_n 1, 1) := dk_43 (dk_at dksL_law_90 14 rfl rfl)
theorem dL_law_2273 : decode cL_law 2273 = .ok (.aload_n 0, 1) := dk_42 (dk_at dksL_law_90 15 rfl rfl)
theorem dL_law_2274 : decode cL_law 2274 = .ok (.iload 4, 2) := dk_21 4 (dk_at dksL_law_90 16 rfl rfl)
theorem dL_law_2276 : decode cL_law 2276 = .ok (.iconst 1, 1) := dk_4 (dk_at dksL_law_90 18 rfl rfl)
theorem dL_law_2277 : decode cL_law 2277 = .ok (.iadd, 1) := dk_96 (dk_at dksL_law_90 19 rfl rfl)
theorem dL_law_2278 : decode cL_law 2278 = .ok (.iaload, 1) := dk_46 (dk_at dksL_law_90 20 rfl rfl)
theorem dL_law_2279 : decode cL_law 2279 = .ok (.aload_n 0, 1) := dk_42 (dk_at dksL_law_90 21 rfl rfl)
theorem dL_law_2280 : decode cL_law 2280 = .ok (.iload 4, 2) := dk_21 4 (dk_at dksL_law_90 22 rfl rfl)
theorem dL_law_2282 : decode cL_law 2282 = .ok (.iconst 2, 1) := dk_5 (dk_at dksL_law_91 0 rfl rfl)
theorem dL_law_2283 : decode cL_law 2283 = .ok (.iadd, 1) := dk_96 (dk_at dksL_law_91 1 rfl rfl)
theorem dL_law_2284 : decode cL_law 2284 = .ok (.iaload, 1) := dk_46 (dk_at dksL_law_91 2 rfl rfl)
theorem dL_law_2285 : decode cL_law 2285 = .ok (.aload_n 3, 1) := dk_45 (dk_at dksL_law_91 3 rfl rfl)
theorem dL_law_2286 : decode cL_law 2286 = .ok (.invokestatic 245, 3) := dk_184 0 245 (dk_at dksL_law_91 4 rfl rfl)
theorem dL_law_2289 : decode cL_law 2289 = .ok (.istore 5, 2) := dk_54 5 (dk_at dksL_law_91 7 rfl rfl)
theorem dL_law_2291 : decode cL_law 2291 = .ok (.aload_n 2, 1) := dk_44 (dk_at dksL_law_91 9 rfl rfl)
theorem dL_law_2292 : decode cL_law 2292 = .ok (.aload_n 0, 1) := dk_42 (dk_at dksL_law_91 10 rfl rfl)
theorem dL_law_2293 : decode cL_law 2293 = .ok (.iload 4, 2) := dk_21 4 (dk_at dksL_law_91 11 rfl rfl)
theorem dL_law_2295 : decode cL_law 2295 = .ok (.iconst 1, 1) := dk_4 (dk_at dksL_law_91 13 rfl rfl)
theorem dL_law_2296 : decode cL_law 2296 = .ok (.iadd, 1) := dk_96 (dk_at dksL_law_91 14 rfl rfl)
theorem dL_law_2297 : decode cL_law 2297 = .ok (.iaload, 1) := dk_46 (dk_at dksL_law_91 15 rfl rfl)
theorem dL_law_2298 : decode cL_law 2298 = .ok (.aload_n 0, 1) := dk_42 (dk_at dksL_law_91 16 rfl rfl)
theorem dL_law_2299 : decode cL_law 2299 = .ok (.iload 4, 2) := dk_21 4 (dk_at dksL_law_91 17 rfl rfl)
theorem dL_law_2301 : decode cL_law 2301 = .ok (.iconst 2, 1) := dk_5 (dk_at dksL_law_91 19 rfl rfl)
theorem dL_law_2302 : decode cL_law 2302 = .ok (.iadd, 1) := dk_96 (dk_at dksL_law_91 20 rfl rfl)
theorem dL_law_2303 : decode cL_law 2303 = .ok (.iaload, 1) := dk_46 (dk_at dksL_law_91 21 rfl rfl)
theorem dL_law_2304 : decode cL_law 2304 = .ok (.invokevirtual 247, 3) := dk_182 0 247 (dk_at dksL_law_92 0 rfl rfl)
theorem dL_law_2307 : decode cL_law 2307 = .ok (.istore 6, 2) := dk_54 6 (dk_at dksL_law_92 3 rfl rfl)
theorem dL_law_2309 : decode cL_law 2309 = .ok (.aload_n 2, 1) := dk_44 (dk_at dksL_law_92 5 rfl rfl)
theorem dL_law_2310 : decode cL_law 2310 = .ok (.invokevirtual 149, 3) := dk_182 0 149 (dk_at dksL_law_92 6 rfl rfl)
theorem dL_law_2313 : decode cL_law 2313 = .ok (.iload 5, 2) := dk_21 5 (dk_at dksL_law_92 9 rfl rfl)
theorem dL_law_2315 : decode cL_law 2315 = .ok (.if_icmp .eq 5, 3) := dk_159 0 5 (dk_at dksL_law_92 11 rfl rfl)
theorem dL_law_2318 : decode cL_law 2318 = .ok (.iconst 0, 1) := dk_3 (dk_at dksL_law_92 14 rfl rfl)
theorem dL_law_2319 : decode cL_law 2319 = .ok (.ireturn, 1) := dk_172 (dk_at dksL_law_92 15 rfl rfl)
theorem dL_law_2320 : decode cL_law 2320 = .ok (.iload 5, 2) := dk_21 5 (dk_at dksL_law_92 16 rfl rfl)
theorem dL_law_2322 : decode cL_law 2322 = .ok (.ifCond .ne 15, 3) := dk_154 0 15 (dk_at dksL_law_92 18 rfl rfl)
theorem dL_law_2325 : decode cL_law 2325 = .ok (.aload_n 3, 1) := dk_45 (dk_at dksL_law_92 21 rfl rfl)
theorem dL_law_2326 : decode cL_law 2326 = .ok (.iconst 0, 1) := dk_3 (dk_at dksL_law_92 22 rfl rfl)
theorem dL_law_2327 : decode cL_law 2327 = .ok (.laload, 1) := dk_47 (dk_at dksL_law_92 23 rfl rfl)
theorem dL_law_2328 : decode cL_law 2328 = .ok (.iload 6, 2) := dk_21 6 (dk_at dksL_law_93 0 rfl rfl)
theorem dL_law_2330 : decode cL_law 2330 = .ok (.i2l, 1) := dk_133 (dk_at dksL_law_93 2 rfl rfl)
theorem dL_law_2331 : decode cL_law 2331 = .ok (.lcmp, 1) := dk_148 (dk_at dksL_law_93 3 rfl rfl)
theorem dL_law_2332 : decode cL_law 2332 = .ok (.ifCond .eq 5, 3) := dk_153 0 5 (dk_at dksL_law_93 4 rfl rfl)
theorem dL_law_2335 : decode cL_law 2335 = .ok (.iconst 0, 1) := dk_3 (dk_at dksL_law_93 7 rfl rfl)
theorem dL_law_2336 : decode cL_law 2336 = .ok (.ireturn, 1) := dk_172 (dk_at dksL_law_93 8 rfl rfl)
theorem dL_law_2337 : decode cL_law 2337 = .ok (.goto 757, 3) := dk_167 2 245 (dk_at dksL_law_93 9 rfl rfl)
theorem dL_law_2340 : decode cL_law 2340 = .ok (.aload_n 1, 1) := dk_43 (dk_at dksL_law_93 12 rfl rfl)
theorem dL_law_2341 : decode cL_law 2341 = .ok (.aload_n 0, 1) := dk_42 (dk_at dksL_law_93 13 rfl rfl)
theorem dL_law_2342 : decode cL_law 2342 = .ok (.iload 4, 2) := dk_21 4 (dk_at dksL_law_93 14 rfl rfl)
theorem dL_law_2344 : decode cL_law 2344 = .ok (.iconst 1, 1) := dk_4 (dk_at dksL_law_93 16 rfl rfl)
theorem dL_law_2345 : decode cL_law 2345 = .ok (.iadd, 1) := dk_96 (dk_at dksL_law_93 17 rfl rfl)
theorem dL_law_2346 : decode cL_law 2346 = .ok (.iaload, 1) := dk_46 (dk_at dksL_law_93 18 rfl rfl)
theorem dL_law_2347 : decode cL_law 2347 = .ok (.aload_n 0, 1) := dk_42 (dk_at dksL_law_93 19 rfl rfl)
theorem dL_law_2348 : decode cL_law 2348 = .ok (.iload 4, 2) := dk_21 4 (dk_at dksL_law_93 20 rfl rfl)
theorem dL_law_2350 : decode cL_law 2350 = .ok (.iconst 2, 1) := dk_5 (dk_at dksL_law_93 22 rfl rfl)
theorem dL_law_2351 : decode cL_law 2351 = .ok (.iadd, 1) := dk_96 (dk_at dksL_law_93 23 rfl rfl)
theorem dL_law_2352 : decode cL_law 2352 = .ok (.iaload, 1) := dk_46 (dk_at dksL_law_94 0 rfl rfl)
theorem dL_law_2353 : decode cL_law 2353 = .ok (.aload_n 3, 1) := dk_45 (dk_at dksL_law_94 1 rfl rfl)
theorem dL_law_2354 : decode cL_law 2354 = .ok (.invokestatic 248, 3) := dk_184 0 248 (dk_at dksL_law_94 2 rfl rfl)
theorem dL_law_2357 : decode cL_law 2357 = .ok (.istore 5, 2) := dk_54 5 (dk_at dksL_law_94 5 rfl rfl)
theorem dL_law_2359 : decode cL_law 2359 = .ok (.aload_n 2, 1) := dk_44 (dk_at dksL_law_94 7 rfl rfl)
theorem dL_law_2360 : decode cL_law 2360 = .ok (.aload_n 0, 1) := dk_42 (dk_at dksL_law_94 8 rfl rfl)
theorem dL_law_2361 : decode cL_law 2361 = .ok (.iload 4, 2) := dk_21 4 (dk_at dksL_law_94 9 rfl rfl)
theorem dL_law_2363 : decode cL_law 2363 = .ok (.iconst 1, 1) := dk_4 (dk_at dksL_law_94 11 rfl rfl)
theorem dL_law_2364 : decode cL_law 2364 = .ok (.iadd, 1) := dk_96 (dk_at dksL_law_94 12 rfl rfl)
theorem dL_law_2365 : decode cL_law 2365 = .ok (.iaload, 1) := dk_46 (dk_at dksL_law_94 13 rfl rfl)
theorem dL_law_2366 : decode cL_law 2366 = .ok (.aload_n 0, 1) := dk_42 (dk_at dksL_law_94 14 rfl rfl)
theorem dL_law_2367 : decode cL_law 2367 = .ok (.iload 4, 2) := dk_21 4 (dk_at dksL_law_94 15 rfl rfl)
theorem dL_law_2369 : decode cL_law 2369 = .ok (.iconst 2, 1) := dk_5 (dk_at dksL_law_94 17 rfl rfl)
theorem dL_law_2370 : decode cL_law 2370 = .ok (.iadd, 1) := dk_96 (dk_at dksL_law_94 18 rfl rfl)
theorem dL_law_2371 : decode cL_law 2371 = .ok (.iaload, 1) := dk_46 (dk_at dksL_law_94 19 rfl rfl)
theorem dL_law_2372 : decode cL_law 2372 = .ok (.invokevirtual 250, 3) := dk_182 0 250 (dk_at dksL_law_94 20 rfl rfl)
theorem dL_law_2375 : decode cL_law 2375 = .ok (.istore 6, 2) := dk_54 6 (dk_at dksL_law_95 0 rfl rfl)
theorem dL_law_2377 : decode cL_law 2377 = .ok (.aload_n 2, 1) := dk_44 (dk_at dksL_law_95 2 rfl rfl)
theorem dL_law_2378 : decode cL_law 2378 = .ok (.invokevirtual 149, 3) := dk_182 0 149 (dk_at dksL_law_95 3 rfl rfl)
theorem dL_law_2381 : decode cL_law 2381 = .ok (.iload 5, 2) := dk_21 5 (dk_at dksL_law_95 6 rfl rfl)
theorem dL_law_2383 : decode cL_law 2383 = .ok (.if_icmp .eq 5, 3) := dk_159 0 5 (dk_at dksL_law_95 8 rfl rfl)
theorem dL_law_2386 : decode cL_law 2386 = .ok (.iconst 0, 1) := dk_3 (dk_at dksL_law_95 11 rfl rfl)
theorem dL_law_2387 : decode cL_law 2387 = .ok (.ireturn, 1) := dk_172 (dk_at dksL_law_95 12 rfl rfl)
theorem dL_law_2388 : decode cL_law 2388 = .ok (.iload 5, 2) := dk_21 5 (dk_at dksL_law_95 13 rfl rfl)
theorem dL_law_2390 : decode cL_law 2390 = .ok (.ifCond .ne 15, 3) := dk_154 0 15 (dk_at dksL_law_95 15 rfl rfl)
theorem dL_law_2393 : decode cL_law 2393 = .ok (.aload_n 3, 1) := dk_45 (dk_at dksL_law_95 18 rfl rfl)
theorem dL_law_2394 : decode cL_law 2394 = .ok (.iconst 0, 1) := dk_3 (dk_at dksL_law_95 19 rfl rfl)
theorem dL_law_2395 : decode cL_law 2395 = .ok (.laload, 1) := dk_47 (dk_at dksL_law_95 20 rfl rfl)
theorem dL_law_2396 : decode cL_law 2396 = .ok (.iload 6, 2) := dk_21 6 (dk_at dksL_law_95 21 rfl rfl)
theorem dL_law_2398 : decode cL_law 2398 = .ok (.i2l, 1) := dk_133 (dk_at dksL_law_95 23 rfl rfl)
theorem dL_law_2399 : decode cL_law 2399 = .ok (.lcmp, 1) := dk_148 (dk_at dksL_law_96 0 rfl rfl)
theorem dL_law_2400 : decode cL_law 2400 = .ok (.ifCond .eq 5, 3) := dk_153 0 5 (dk_at dksL_law_96 1 rfl rfl)
theorem dL_law_2403 : decode cL_law 2403 = .ok (.iconst 0, 1) := dk_3 (dk_at dksL_law_96 4 rfl rfl)
theorem dL_law_2404 : decode cL_law 2404 = .ok (.ireturn, 1) := dk_172 (dk_at dksL_law_96 5 rfl rfl)
theorem dL_law_2405 : decode cL_law 2405 = .ok (.goto 689, 3) := dk_167 2 177 (dk_at dksL_law_96 6 rfl rfl)
theorem dL_law_2408 : decode cL_law 2408 = .ok (.aload_n 1, 1) := dk_43 (dk_at dksL_law_96 9 rfl rfl)
theorem dL_law_2409 : decode cL_law 2409 = .ok (.aload_n 0, 1) := dk_42 (dk_at dksL_law_96 10 rfl rfl)
theorem dL_law_2410 : decode cL_law 2410 = .ok (.iload 4, 2) := dk_21 4 (dk_at dksL_law_96 11 rfl rfl)
theorem dL_law_2412 : decode cL_law 2412 = .ok (.iconst 1, 1) := dk_4 (dk_at dksL_law_96 13 rfl rfl)
theorem dL_law_2413 : decode cL_law 2413 = .ok (.iadd, 1) := dk_96 (dk_at dksL_law_96 14 rfl rfl)
theorem dL_law_2414 : decode cL_law 2414 = .ok (.iaload, 1) := dk_46 (dk_at dksL_law_96 15 rfl rfl)
theorem dL_law_2415 : decode cL_law 2415 = .ok (.aload_n 0, 1) := dk_42 (dk_at dksL_law_96 16 rfl rfl)
theorem dL_law_2416 : decode cL_law 2416 = .ok (.iload 4, 2) := dk_21 4 (dk_at dksL_law_96 17 rfl rfl)
theorem dL_law_2418 : decode cL_law 2418 = .ok (.iconst 2, 1) := dk_5 (dk_at dksL_law_96 19 rfl rfl)
theorem dL_law_2419 : decode cL_law 2419 = .ok (.iadd, 1) := dk_96 (dk_at dksL_law_96 20 rfl rfl)
theorem dL_law_2420 : decode cL_law 2420 = .ok (.iaload, 1) := dk_46 (dk_at dksL_law_96 21 rfl rfl)
theorem dL_law_2421 : decode cL_law 2421 = .ok (.aload_n 0, 1) := dk_42 (dk_at dksL_law_96 22 rfl rfl)
theorem dL_law_2422 : decode cL_law 2422 = .ok (.iload 4, 2) := dk_21 4 (dk_at dksL_law_97 0 rfl rfl)
theorem dL_law_2424 : decode cL_law 2424 = .ok (.iconst 3, 1) := dk_6 (dk_at dksL_law_97 2 rfl rfl)
theorem dL_law_2425 : decode cL_law 2425 = .ok (.iadd, 1) := dk_96 (dk_at dksL_law_97 3 rfl rfl)
theorem dL_law_2426 : decode cL_law 2426 = .ok (.iaload, 1) := dk_46 (dk_at dksL_law_97 4 rfl rfl)
theorem dL_law_2427 : decode cL_law 2427 = .ok (.aload_n 0, 1) := dk_42 (dk_at dksL_law_97 5 rfl rfl)
theorem dL_law_2428 : decode cL_law 2428 = .ok (.iload 4, 2) := dk_21 4 (dk_at dksL_law_97 6 rfl rfl)
theorem dL_law_2430 : decode cL_law 2430 = .ok (.iconst 4, 1) := dk_7 (dk_at dksL_law_97 8 rfl rfl)
theorem dL_law_2431 : decode cL_law 2431 = .ok (.iadd, 1) := dk_96 (dk_at dksL_law_97 9 rfl rfl)
theorem dL_law_2432 : decode cL_law 2432 = .ok (.iaload, 1) := dk_46 (dk_at dksL_law_97 10 rfl rfl)
theorem dL_law_2433 : decode cL_law 2433 = .ok (.aload_n 3, 1) := dk_45 (dk_at dksL_law_97 11 rfl rfl)
theorem dL_law_2434 : decode cL_law 2434 = .ok (.invokestatic 251, 3) := dk_184 0 251 (dk_at dksL_law_97 12 rfl rfl)
theorem dL_law_2437 : decode cL_law 2437 = .ok (.istore 5, 2) := dk_54 5 (dk_at dksL_law_97 15 rfl rfl)
theorem dL_law_2439 : decode cL_law 2439 = .ok (.aload_n 2, 1) := dk_44 (dk_at dksL_law_97 17 rfl rfl)
theorem dL_law_2440 : decode cL_law 2440 = .ok (.aload_n 0, 1) := dk_42 (dk_at dksL_law_97 18 rfl rfl)
theorem dL_law_2441 : decode cL_law 2441 = .ok (.iload 4, 2) := dk_21 4 (dk_at dksL_law_97 19 rfl rfl)
theorem dL_law_2443 : decode cL_law 2443 = .ok (.iconst 1, 1) := dk_4 (dk_at dksL_law_97 21 rfl rfl)
theorem dL_law_2444 : decode cL_law 2444 = .ok (.iadd, 1) := dk_96 (dk_at dksL_law_97 22 rfl rfl)
theorem dL_law_2445 : decode cL_law 2445 = .ok (.iaload, 1) := dk_46 (dk_at dksL_law_97 23 rfl rfl)
theorem dL_law_2446 : decode cL_law 2446 = .ok (.aload_n 0, 1) := dk_42 (dk_at dksL_law_98 0 rfl rfl)
theorem dL_law_2447 : decode cL_law 2447 = .ok (.iload 4, 2) := dk_21 4 (dk_at dksL_law_98 1 rfl rfl)
theorem dL_law_2449 : decode cL_law 2449 = .ok (.iconst 2, 1) := dk_5 (dk_at dksL_law_98 3 rfl rfl)
theorem dL_law_2450 : decode cL_law 2450 = .ok (.iadd, 1) := dk_96 (dk_at dksL_law_98 4 rfl rfl)
theorem dL_law_2451 : decode cL_law 2451 = .ok (.iaload, 1) := dk_46 (dk_at dksL_law_98 5 rfl rfl)
theorem dL_law_2452 : decode cL_law 2452 = .ok (.aload_n 0, 1) := dk_42 (dk_at dksL_law_98 6 rfl rfl)
theorem dL_law_2453 : decode cL_law 2453 = .ok (.iload 4, 2) := dk_21 4 (dk_at dksL_law_98 7 rfl rfl)
theorem dL_law_2455 : decode cL_law 2455 = .ok (.iconst 3, 1) := dk_6 (dk_at dksL_law_98 9 rfl rfl)
theorem dL_law_2456 : decode cL_law 2456 = .ok (.iadd, 1) := dk_96 (dk_at dksL_law_98 10 rfl rfl)
theorem dL_law_2457 : decode cL_law 2457 = .ok (.iaload, 1) := dk_46 (dk_at dksL_law_98 11 rfl rfl)
theorem dL_law_2458 : decode cL_law 2458 = .ok (.aload_n 0, 1) := dk_42 (dk_at dksL_law_98 12 rfl rfl)
theorem dL_law_2459 : decode cL_law 2459 = .ok (.iload 4, 2) := dk_21 4 (dk_at dksL_law_98 13 rfl rfl)
theorem dL_law_2461 : decode cL_law 2461 = .ok (.iconst 4, 1) := dk_7 (dk_at dksL_law_98 15 rfl rfl)
theorem dL_law_2462 : decode cL_law 2462 = .ok (.iadd, 1) := dk_96 (dk_at dksL_law_98 16 rfl rfl)
theorem dL_law_2463 : decode cL_law 2463 = .ok (.iaload, 1) := dk_46 (dk_at dksL_law_98 17 rfl rfl)
theorem dL_law_2464 : decode cL_law 2464 = .ok (.invokevirtual 253, 3) := dk_182 0 253 (dk_at dksL_law_98 18 rfl rfl)
theorem dL_law_2467 : decode cL_law 2467 = .ok (.istore 6, 2) := dk_54 6 (dk_at dksL_law_98 21 rfl rfl)
theorem dL_law_2469 : decode cL_law 2469 = .ok (.aload_n 2, 1) := dk_44 (dk_at dksL_law_98 23 rfl rfl)
theorem dL_law_2470 : decode cL_law 2470 = .ok (.invokevirtual 149, 3) := dk_182 0 149 (dk_at dksL_law_99 0 rfl rfl)
theorem dL_law_2473 : decode cL_law 2473 = .ok (.iload 5, 2) := dk_21 5 (dk_at dksL_law_99 3 rfl rfl)
theorem dL_law_2475 : decode cL_law 2475 = .ok (.if_icmp .eq 5, 3) := dk_159 0 5 (dk_at dksL_law_99 5 rfl rfl)
theorem dL_law_2478 : decode cL_law 2478 = .ok (.iconst 0, 1) := dk_3 (dk_at dksL_law_99 8 rfl rfl)
theorem dL_law_2479 : decode cL_law 2479 = .ok (.ireturn, 1) := dk_172 (dk_at dksL_law_99 9 rfl rfl)
theorem dL_law_2480 : decode cL_law 2480 = .ok (.iload 5, 2) := dk_21 5 (dk_at dksL_law_99 10 rfl rfl)
theorem dL_law_2482 : decode cL_law 2482 = .ok (.ifCond .ne 15, 3) := dk_154 0 15 (dk_at dksL_law_99 12 rfl rfl)
theorem dL_law_2485 : decode cL_law 2485 = .ok (.aload_n 3, 1) := dk_45 (dk_at dksL_law_99 15 rfl rfl)
theorem dL_law_2486 : decode cL_law 2486 = .ok (.iconst 0, 1) := dk_3 (dk_at dksL_law_99 16 rfl rfl)
theorem dL_law_2487 : decode cL_law 2487 = .ok (.laload, 1) := dk_47 (dk_at dksL_law_99 17 rfl rfl)
theorem dL_law_2488 : decode cL_law 2488 = .ok (.iload 6, 2) := dk_21 6 (dk_at dksL_law_99 18 rfl rfl)
theorem dL_law_2490 : decode cL_law 2490 = .ok (.i2l, 1) := dk_133 (dk_at dksL_law_99 20 rfl rfl)
theorem dL_law_2491 : decode cL_law 2491 = .ok (.lcmp, 1) := dk_148 (dk_at dksL_law_99 21 rfl rfl)
theorem dL_law_2492 : decode cL_law 2492 = .ok (.ifCond .eq 5, 3) := dk_153 0 5 (dk_at dksL_law_100 0 rfl rfl)
theorem dL_law_2495 : decode cL_law 2495 = .ok (.iconst 0, 1) := dk_3 (dk_at dksL_law_100 3 rfl rfl)
theorem dL_law_2496 : decode cL_law 2496 = .ok (.ireturn, 1) := dk_172 (dk_at dksL_law_100 4 rfl rfl)
theorem dL_law_2497 : decode cL_law 2497 = .ok (.goto 597, 3) := dk_167 2 85 (dk_at dksL_law_100 5 rfl rfl)
theorem dL_law_2500 : decode cL_law 2500 = .ok (.aload_n 1, 1) := dk_43 (dk_at dksL_law_100 8 rfl rfl)
theorem dL_law_2501 : decode cL_law 2501 = .ok (.aload_n 0, 1) := dk_42 (dk_at dksL_law_100 9 rfl rfl)
theorem dL_law_2502 : decode cL_law 2502 = .ok (.iload 4, 2) := dk_21 4 (dk_at dksL_law_100 10 rfl rfl)
theorem dL_law_2504 : decode cL_law 2504 = .ok (.iconst 1, 1) := dk_4 (dk_at dksL_law_100 12 rfl rfl)
theorem dL_law_2505 : decode cL_law 2505 = .ok (.iadd, 1) := dk_96 (dk_at dksL_law_100 13 rfl rfl)
theorem dL_law_2506 : decode cL_law 2506 = .ok (.iaload, 1) := dk_46 (dk_at dksL_law_100 14 rfl rfl)
theorem dL_law_2507 : decode cL_law 2507 = .ok (.aload_n 0, 1) := dk_42 (dk_at dksL_law_100 15 rfl rfl)
theorem dL_law_2508 : decode cL_law 2508 = .ok (.iload 4, 2) := dk_21 4 (dk_at dksL_law_100 16 rfl rfl)
theorem dL_law_2510 : decode cL_law 2510 = .ok (.iconst 2, 1) := dk_5 (dk_at dksL_law_100 18 rfl rfl)
theorem dL_law_2511 : decode cL_law 2511 = .ok (.iadd, 1) := dk_96 (dk_at dksL_law_100 19 rfl rfl)
theorem dL_law_2512 : decode cL_law 2512 = .ok (.iaload, 1) := dk_46 (dk_at dksL_law_100 20 rfl rfl)
theorem dL_law_2513 : decode cL_law 2513 = .ok (.aload_n 0, 1) := dk_42 (dk_at dksL_law_100 21 rfl rfl)
theorem dL_law_2514 : decode cL_law 2514 = .ok (.iload 4, 2) := dk_21 4 (dk_at dksL_law_100 22 rfl rfl)
theorem dL_law_2516 : decode cL_law 2516 = .ok (.iconst 3, 1) := dk_6 (dk_at dksL_law_101 0 rfl rfl)
theorem dL_law_2517 : decode cL_law 2517 = .ok (.iadd, 1) := dk_96 (dk_at dksL_law_101 1 rfl rfl)
theorem dL_law_2518 : decode cL_law 2518 = .ok (.iaload, 1) := dk_46 (dk_at dksL_law_101 2 rfl rfl)
theorem dL_law_2519 : decode cL_law 2519 = .ok (.aload_n 3, 1) := dk_45 (dk_at dksL_law_101 3 rfl rfl)
theorem dL_law_2520 : decode cL_law 2520 = .ok (.invokestatic 254, 3) := dk_184 0 254 (dk_at dksL_law_101 4 rfl rfl)
theorem dL_law_2523 : decode cL_law 2523 = .ok (.istore 5, 2) := dk_54 5 (dk_at dksL_law_101 7 rfl rfl)
theorem dL_law_2525 : decode cL_law 2525 = .ok (.aload_n 2, 1) := dk_44 (dk_at dksL_law_101 9 rfl rfl)
theorem dL_law_2526 : decode cL_law 2526 = .ok (.aload_n 0, 1) := dk_42 (dk_at dksL_law_101 10 rfl rfl)
theorem dL_law_2527 : decode cL_law 2527 = .ok (.iload 4, 2) := dk_21 4 (dk_at dksL_law_101 11 rfl rfl)
theorem dL_law_2529 : decode cL_law 2529 = .ok (.iconst 1, 1) := dk_4 (dk_at dksL_law_101 13 rfl rfl)
theorem dL_law_2530 : decode cL_law 2530 = .ok (.iadd, 1) := dk_96 (dk_at dksL_law_101 14 rfl rfl)
theorem dL_law_2531 : decode cL_law 2531 = .ok (.iaload, 1) := dk_46 (dk_at dksL_law_101 15 rfl rfl)
theorem dL_law_2532 : decode cL_law 2532 = .ok (.aload_n 0, 1) := dk_42 (dk_at dksL_law_101 16 rfl rfl)
theorem dL_law_2533 : decode cL_law 2533 = .ok (.iload 4, 2) := dk_21 4 (dk_at dksL_law_101 17 rfl rfl)
theorem dL_law_2535 : decode cL_law 2535 = .ok (.iconst 2, 1) := dk_5 (dk_at dksL_law_101 19 rfl rfl)
theorem dL_law_2536 : decode cL_law 2536 = .ok (.iadd, 1) := dk_96 (dk_at dksL_law_101 20 rfl rfl)
theorem dL_law_2537 : decode cL_law 2537 = .ok (.iaload, 1) := dk_46 (dk_at dksL_law_101 21 rfl rfl)
theorem dL_law_2538 : decode cL_law 2538 = .ok (.aload_n 0, 1) := dk_42 (dk_at dksL_law_101 22 rfl rfl)
theorem dL_law_2539 : decode cL_law 2539 = .ok (.iload 4, 2) := dk_21 4 (dk_at dksL_law_102 0 rfl rfl)
theorem dL_law_2541 : decode cL_law 2541 = .ok (.iconst 3, 1) := dk_6 (dk_at dksL_law_102 2 rfl rfl)
theorem dL_law_2542 : decode cL_law 2542 = .ok (.iadd, 1) := dk_96 (dk_at dksL_law_102 3 rfl rfl)
theorem dL_law_2543 : decode cL_law 2543 = .ok (.iaload, 1) := dk_46 (dk_at dksL_law_102 4 rfl rfl)
theorem dL_law_2544 : decode cL_law 2544 = .ok (.invokevirtual 256, 3) := dk_182 1 0 (dk_at dksL_law_102 5 rfl rfl)
theorem dL_law_2547 : decode cL_law 2547 = .ok (.istore 6, 2) := dk_54 6 (dk_at dksL_law_102 8 rfl rfl)
theorem dL_law_2549 : decode cL_law 2549 = .ok (.aload_n 2, 1) := dk_44 (dk_at dksL_law_102 10 rfl rfl)
theorem dL_law_2550 : decode cL_law 2550 = .ok (.invokevirtual 149, 3) := dk_182 0 149 (dk_at dksL_law_102 11 rfl rfl)
theorem dL_law_2553 : decode cL_law 2553 = .ok (.iload 5, 2) := dk_21 5 (dk_at dksL_law_102 14 rfl rfl)
theorem dL_law_2555 : decode cL_law 2555 = .ok (.if_icmp .eq 5, 3) := dk_159 0 5 (dk_at dksL_law_102 16 rfl rfl)
theorem dL_law_2558 : decode cL_law 2558 = .ok (.iconst 0, 1) := dk_3 (dk_at dksL_law_102 19 rfl rfl)
theorem dL_law_2559 : decode cL_law 2559 = .ok (.ireturn, 1) := dk_172 (dk_at dksL_law_102 20 rfl rfl)
theorem dL_law_2560 : decode cL_law 2560 = .ok (.iload 5, 2) := dk_21 5 (dk_at dksL_law_102 21 rfl rfl)
theorem dL_law_2562 : decode cL_law 2562 = .ok (.ifCond .ne 15, 3) := dk_154 0 15 (dk_at dksL_law_103 0 rfl rfl)
theorem dL_law_2565 : decode cL_law 2565 = .ok (.aload_n 3, 1) := dk_45 (dk_at dksL_law_103 3 rfl rfl)
theorem dL_law_2566 : decode cL_law 2566 = .ok (.iconst 0, 1) := dk_3 (dk_at dksL_law_103 4 rfl rfl)
theorem dL_law_2567 : decode cL_law 2567 = .ok (.laload, 1) := dk_47 (dk_at dksL_law_103 5 rfl rfl)
theorem dL_law_2568 : decode cL_law 2568 = .ok (.iload 6, 2) := dk_21 6 (dk_at dksL_law_103 6 rfl rfl)
theorem dL_law_2570 : decode cL_law 2570 = .ok (.i2l, 1) := dk_133 (dk_at dksL_law_103 8 rfl rfl)
theorem dL_law_2571 : decode cL_law 2571 = .ok (.lcmp, 1) := dk_148 (dk_at dksL_law_103 9 rfl rfl)
theorem dL_law_2572 : decode cL_law 2572 = .ok (.ifCond .eq 5, 3) := dk_153 0 5 (dk_at dksL_law_103 10 rfl rfl)
theorem dL_law_2575 : decode cL_law 2575 = .ok (.iconst 0, 1) := dk_3 (dk_at dksL_law_103 13 rfl rfl)
theorem dL_law_2576 : decode cL_law 2576 = .ok (.ireturn, 1) := dk_172 (dk_at dksL_law_103 14 rfl rfl)
theorem dL_law_2577 : decode cL_law 2577 = .ok (.goto 517, 3) := dk_167 2 5 (dk_at dksL_law_103 15 rfl rfl)
theorem dL_law_2580 : decode cL_law 2580 = .ok (.aload_n 1, 1) := dk_43 (dk_at dksL_law_103 18 rfl rfl)
theorem dL_law_2581 : decode cL_law 2581 = .ok (.aload_n 0, 1) := dk_42 (dk_at dksL_law_103 19 rfl rfl)
theorem dL_law_2582 : decode cL_law 2582 = .ok (.iload 4, 2) := dk_21 4 (dk_at dksL_law_103 20 rfl rfl)
theorem dL_law_2584 : decode cL_law 2584 = .ok (.iconst 1, 1) := dk_4 (dk_at dksL_law_103 22 rfl rfl)
theorem dL_law_2585 : decode cL_law 2585 = .ok (.iadd, 1) := dk_96 (dk_at dksL_law_103 23 rfl rfl)
theorem dL_law_2586 : decode cL_law 2586 = .ok (.iaload, 1) := dk_46 (dk_at dksL_law_104 0 rfl rfl)
theorem dL_law_2587 : decode cL_law 2587 = .ok (.aload_n 0, 1) := dk_42 (dk_at dksL_law_104 1 rfl rfl)
theorem dL_law_2588 : decode cL_law 2588 = .ok (.iload 4, 2) := dk_21 4 (dk_at dksL_law_104 2 rfl rfl)
theorem dL_law_2590 : decode cL_law 2590 = .ok (.iconst 2, 1) := dk_5 (dk_at dksL_law_104 4 rfl rfl)
theorem dL_law_2591 : decode cL_law 2591 = .ok (.iadd, 1) := dk_96 (dk_at dksL_law_104 5 rfl rfl)
theorem dL_law_2592 : decode cL_law 2592 = .ok (.iaload, 1) := dk_46 (dk_at dksL_law_104 6 rfl rfl)
theorem dL_law_2593 : decode cL_law 2593 = .ok (.aload_n 3, 1) := dk_45 (dk_at dksL_law_104 7 rfl rfl)
theorem dL_law_2594 : decode cL_law 2594 = .ok (.invokestatic 257, 3) := dk_184 1 1 (dk_at dksL_law_104 8 rfl rfl)
theorem dL_law_2597 : decode cL_law 2597 = .ok (.istore 5, 2) := dk_54 5 (dk_at dksL_law_104 11 rfl rfl)
theorem dL_law_2599 : decode cL_law 2599 = .ok (.aload_n 2, 1) := dk_44 (dk_at dksL_law_104 13 rfl rfl)
theorem dL_law_2600 : decode cL_law 2600 = .ok (.aload_n 0, 1) := dk_42 (dk_at dksL_law_104 14 rfl rfl)
theorem dL_law_2601 : decode cL_law 2601 = .ok (.iload 4, 2) := dk_21 4 (dk_at dksL_law_104 15 rfl rfl)
theorem dL_law_2603 : decode cL_law 2603 = .ok (.iconst 1, 1) := dk_4 (dk_at dksL_law_104 17 rfl rfl)
theorem dL_law_2604 : decode cL_law 2604 = .ok (.iadd, 1) := dk_96 (dk_at dksL_law_104 18 rfl rfl)
theorem dL_law_2605 : decode cL_law 2605 = .ok (.iaload, 1) := dk_46 (dk_at dksL_law_104 19 rfl rfl)
theorem dL_law_2606 : decode cL_law 2606 = .ok (.aload_n 0, 1) := dk_42 (dk_at dksL_law_104 20 rfl rfl)
theorem dL_law_2607 : decode cL_law 2607 = .ok (.iload 4, 2) := dk_21 4 (dk_at dksL_law_104 21 rfl rfl)
theorem dL_law_2609 : decode cL_law 2609 = .ok (.iconst 2, 1) := dk_5 (dk_at dksL_law_104 23 rfl rfl)
theorem dL_law_2610 : decode cL_law 2610 = .ok (.iadd, 1) := dk_96 (dk_at dksL_law_105 0 rfl rfl)
theorem dL_law_2611 : decode cL_law 2611 = .ok (.iaload, 1) := dk_46 (dk_at dksL_law_105 1 rfl rfl)
theorem dL_law_2612 : decode cL_law 2612 = .ok (.invokevirtual 259, 3) := dk_182 1 3 (dk_at dksL_law_105 2 rfl rfl)
theorem dL_law_2615 : decode cL_law 2615 = .ok (.istore 6, 2) := dk_54 6 (dk_at dksL_law_105 5 rfl rfl)
theorem dL_law_2617 : decode cL_law 2617 = .ok (.aload_n 2, 1) := dk_44 (dk_at dksL_law_105 7 rfl rfl)
theorem dL_law_2618 : decode cL_law 2618 = .ok (.invokevirtual 149, 3) := dk_182 0 149 (dk_at dksL_law_105 8 rfl rfl)
theorem dL_law_2621 : decode cL_law 2621 = .ok (.iload 5, 2) := dk_21 5 (dk_at dksL_law_105 11 rfl rfl)
theorem dL_law_2623 : decode cL_law 2623 = .ok (.if_icmp .eq 5, 3) := dk_159 0 5 (dk_at dksL_law_105 13 rfl rfl)
theorem dL_law_2626 : decode cL_law 2626 = .ok (.iconst 0, 1) := dk_3 (dk_at dksL_law_105 16 rfl rfl)
theorem dL_law_2627 : decode cL_law 2627 = .ok (.ireturn, 1) := dk_172 (dk_at dksL_law_105 17 rfl rfl)
theorem dL_law_2628 : decode cL_law 2628 = .ok (.iload 5, 2) := dk_21 5 (dk_at dksL_law_105 18 rfl rfl)
theorem dL_law_2630 : decode cL_law 2630 = .ok (.ifCond .ne 15, 3) := dk_154 0 15 (dk_at dksL_law_105 20 rfl rfl)
theorem dL_law_2633 : decode cL_law 2633 = .ok (.aload_n 3, 1) := dk_45 (dk_at dksL_law_105 23 rfl rfl)
theorem dL_law_2634 : decode cL_law 2634 = .ok (.iconst 0, 1) := dk_3 (dk_at dksL_law_106 0 rfl rfl)
theorem dL_law_2635 : decode cL_law 2635 = .ok (.laload, 1) := dk_47 (dk_at dksL_law_106 1 rfl rfl)
theorem dL_law_2636 : decode cL_law 2636 = .ok (.iload 6, 2) := dk_21 6 (dk_at dksL_law_106 2 rfl rfl)
theorem dL_law_2638 : decode cL_law 2638 = .ok (.i2l, 1) := dk_133 (dk_at dksL_law_106 4 rfl rfl)
theorem dL_law_2639 : decode cL_law 2639 = .ok (.lcmp, 1) := dk_148 (dk_at dksL_law_106 5 rfl rfl)
theorem dL_law_2640 : decode cL_law 2640 = .ok (.ifCond .eq 5, 3) := dk_153 0 5 (dk_at dksL_law_106 6 rfl rfl)
theorem dL_law_2643 : decode cL_law 2643 = .ok (.iconst 0, 1) := dk_3 (dk_at dksL_law_106 9 rfl rfl)
theorem dL_law_2644 : decode cL_law 2644 = .ok (.ireturn, 1) := dk_172 (dk_at dksL_law_106 10 rfl rfl)
theorem dL_law_2645 : decode cL_law 2645 = .ok (.goto 449, 3) := dk_167 1 193 (dk_at dksL_law_106 11 rfl rfl)
theorem dL_law_2648 : decode cL_law 2648 = .ok (.aload_n 1, 1) := dk_43 (dk_at dksL_law_106 14 rfl rfl)
theorem dL_law_2649 : decode cL_law 2649 = .ok (.aload_n 0, 1) := dk_42 (dk_at dksL_law_106 15 rfl rfl)
theorem dL_law_2650 : decode cL_law 2650 = .ok (.iload 4, 2) := dk_21 4 (dk_at dksL_law_106 16 rfl rfl)
theorem dL_law_2652 : decode cL_law 2652 = .ok (.iconst 1, 1) := dk_4 (dk_at dksL_law_106 18 rfl rfl)
theorem dL_law_2653 : decode cL_law 2653 = .ok (.iadd, 1) := dk_96 (dk_at dksL_law_106 19 rfl rfl)
theorem dL_law_2654 : decode cL_law 2654 = .ok (.iaload, 1) := dk_46 (dk_at dksL_law_106 20 rfl rfl)
theorem dL_law_2655 : decode cL_law 2655 = .ok (.aload_n 0, 1) := dk_42 (dk_at dksL_law_106 21 rfl rfl)
theorem dL_law_2656 : decode cL_law 2656 = .ok (.iload 4, 2) := dk_21 4 (dk_at dksL_law_106 22 rfl rfl)
theorem dL_law_2658 : decode cL_law 2658 = .ok (.iconst 2, 1) := dk_5 (dk_at dksL_law_107 0 rfl rfl)
theorem dL_law_2659 : decode cL_law 2659 = .ok (.iadd, 1) := dk_96 (dk_at dksL_law_107 1 rfl rfl)
theorem dL_law_2660 : decode cL_law 2660 = .ok (.iaload, 1) := dk_46 (dk_at dksL_law_107 2 rfl rfl)
theorem dL_law_2661 : decode cL_law 2661 = .ok (.aload_n 0, 1) := dk_42 (dk_at dksL_law_107 3 rfl rfl)
theorem dL_law_2662 : decode cL_law 2662 = .ok (.iload 4, 2) := dk_21 4 (dk_at dksL_law_107 4 rfl rfl)
theorem dL_law_2664 : decode cL_law 2664 = .ok (.iconst 3, 1) := dk_6 (dk_at dksL_law_107 6 rfl rfl)
theorem dL_law_2665 : decode cL_law 2665 = .ok (.iadd, 1) := dk_96 (dk_at dksL_law_107 7 rfl rfl)
theorem dL_law_2666 : decode cL_law 2666 = .ok (.iaload, 1) := dk_46 (dk_at dksL_law_107 8 rfl rfl)
theorem dL_law_2667 : decode cL_law 2667 = .ok (.aload_n 0, 1) := dk_42 (dk_at dksL_law_107 9 rfl rfl)
theorem dL_law_2668 : decode cL_law 2668 = .ok (.iload 4, 2) := dk_21 4 (dk_at dksL_law_107 10 rfl rfl)
theorem dL_law_2670 : decode cL_law 2670 = .ok (.iconst 4, 1) := dk_7 (dk_at dksL_law_107 12 rfl rfl)
theorem dL_law_2671 : decode cL_law 2671 = .ok (.iadd, 1) := dk_96 (dk_at dksL_law_107 13 rfl rfl)
theorem dL_law_2672 : decode cL_law 2672 = .ok (.iaload, 1) := dk_46 (dk_at dksL_law_107 14 rfl rfl)
theorem dL_law_2673 : decode cL_law 2673 = .ok (.aload_n 3, 1) := dk_45 (dk_at dksL_law_107 15 rfl rfl)
theorem dL_law_2674 : decode cL_law 2674 = .ok (.invokestatic 260, 3) := dk_184 1 4 (dk_at dksL_law_107 16 rfl rfl)
theorem dL_law_2677 : decode cL_law 2677 = .ok (.istore 5, 2) := dk_54 5 (dk_at dksL_law_107 19 rfl rfl)
theorem dL_law_2679 : decode cL_law 2679 = .ok (.aload_n 2, 1) := dk_44 (dk_at dksL_law_107 21 rfl rfl)
theorem dL_law_2680 : decode cL_law 2680 = .ok (.aload_n 0, 1) := dk_42 (dk_at dksL_law_107 22 rfl rfl)
theorem dL_law_2681 : decode cL_law 2681 = .ok (.iload 4, 2) := dk_21 4 (dk_at dksL_law_108 0 rfl rfl)
theorem dL_law_2683 : decode cL_law 2683 = .ok (.iconst 1, 1) := dk_4 (dk_at dksL_law_108 2 rfl rfl)
theorem dL_law_2684 : decode cL_law 2684 = .ok (.iadd, 1) := dk_96 (dk_at dksL_law_108 3 rfl rfl)
theorem dL_law_2685 : decode cL_law 2685 = .ok (.iaload, 1) := dk_46 (dk_at dksL_law_108 4 rfl rfl)
theorem dL_law_2686 : decode cL_law 2686 = .ok (.aload_n 0, 1) := dk_42 (dk_at dksL_law_108 5 rfl rfl)
theorem dL_law_2687 : decode cL_law 2687 = .ok (.iload 4, 2) := dk_21 4 (dk_at dksL_law_108 6 rfl rfl)
theorem dL_law_2689 : decode cL_law 2689 = .ok (.iconst 2, 1) := dk_5 (dk_at dksL_law_108 8 rfl rfl)
theorem dL_law_2690 : decode cL_law 2690 = .ok (.iadd, 1) := dk_96 (dk_at dksL_law_108 9 rfl rfl)
theorem dL_law_2691 : decode cL_law 2691 = .ok (.iaload, 1) := dk_46 (dk_at dksL_law_108 10 rfl rfl)
theorem dL_law_2692 : decode cL_law 2692 = .ok (.aload_n 0, 1) := dk_42 (dk_at dksL_law_108 11 rfl rfl)
theorem dL_law_2693 : decode cL_law 2693 = .ok (.iload 4, 2) := dk_21 4 (dk_at dksL_law_108 12 rfl rfl)
theorem dL_law_2695 : decode cL_law 2695 = .ok (.iconst 3, 1) := dk_6 (dk_at dksL_law_108 14 rfl rfl)
theorem dL_law_2696 : decode cL_law 2696 = .ok (.iadd, 1) := dk_96 (dk_at dksL_law_108 15 rfl rfl)
theorem dL_law_2697 : decode cL_law 2697 = .ok (.iaload, 1) := dk_46 (dk_at dksL_law_108 16 rfl rfl)
theorem dL_law_2698 : decode cL_law 2698 = .ok (.aload_n 0, 1) := dk_42 (dk_at dksL_law_108 17 rfl rfl)
theorem dL_law_2699 : decode cL_law 2699 = .ok (.iload 4, 2) := dk_21 4 (dk_at dksL_law_108 18 rfl rfl)
theorem dL_law_2701 : decode cL_law 2701 = .ok (.iconst 4, 1) := dk_7 (dk_at dksL_law_108 20 rfl rfl)
theorem dL_law_2702 : decode cL_law 2702 = .ok (.iadd, 1) := dk_96 (dk_at dksL_law_108 21 rfl rfl)
theorem dL_law_2703 : decode cL_law 2703 = .ok (.iaload, 1) := dk_46 (dk_at dksL_law_108 22 rfl rfl)
theorem dL_law_2704 : decode cL_law 2704 = .ok (.invokevirtual 262, 3) := dk_182 1 6 (dk_at dksL_law_109 0 rfl rfl)
theorem dL_law_2707 : decode cL_law 2707 = .ok (.istore 6, 2) := dk_54 6 (dk_at dksL_law_109 3 rfl rfl)
theorem dL_law_2709 : decode cL_law 2709 = .ok (.aload_n 2, 1) := dk_44 (dk_at dksL_law_109 5 rfl rfl)
theorem dL_law_2710 : decode cL_law 2710 = .ok (.invokevirtual 149, 3) := dk_182 0 149 (dk_at dksL_law_109 6 rfl rfl)
theorem dL_law_2713 : decode cL_law 2713 = .ok (.iload 5, 2) := dk_21 5 (dk_at dksL_law_109 9 rfl rfl)
theorem dL_law_2715 : decode cL_law 2715 = .ok (.if_icmp .eq 5, 3) := dk_159 0 5 (dk_at dksL_law_109 11 rfl rfl)
theorem dL_law_2718 : decode cL_law 2718 = .ok (.iconst 0, 1) := dk_3 (dk_at dksL_law_109 14 rfl rfl)
theorem dL_law_2719 : decode cL_law 2719 = .ok (.ireturn, 1) := dk_172 (dk_at dksL_law_109 15 rfl rfl)
theorem dL_law_2720 : decode cL_law 2720 = .ok (.iload 5, 2) := dk_21 5 (dk_at dksL_law_109 16 rfl rfl)
theorem dL_law_2722 : decode cL_law 2722 = .ok (.ifCond .ne 22, 3) := dk_154 0 22 (dk_at dksL_law_109 18 rfl rfl)
theorem dL_law_2725 : decode cL_law 2725 = .ok (.aload_n 3, 1) := dk_45 (dk_at dksL_law_109 21 rfl rfl)
theorem dL_law_2726 : decode cL_law 2726 = .ok (.iconst 0, 1) := dk_3 (dk_at dksL_law_109 22 rfl rfl)
theorem dL_law_2727 : decode cL_law 2727 = .ok (.laload, 1) := dk_47 (dk_at dksL_law_109 23 rfl rfl)
theorem dL_law_2728 : decode cL_law 2728 = .ok (.iload 6, 2) := dk_21 6 (dk_at dksL_law_110 0 rfl rfl)
theorem dL_law_2730 : decode cL_law 2730 = .ok (.ifCond .eq 7, 3) := dk_153 0 7 (dk_at dksL_law_110 2 rfl rfl)
theorem dL_law_2733 : decode cL_law 2733 = .ok (.lconst 1, 1) := dk_10 (dk_at dksL_law_110 5 rfl rfl)
theorem dL_law_2734 : decode cL_law 2734 = .ok (.goto 4, 3) := dk_167 0 4 (dk_at dksL_law_110 6 rfl rfl)
theorem dL_law_2737 : decode cL_law 2737 = .ok (.lconst 0, 1) := dk_9 (dk_at dksL_law_110 9 rfl rfl)
theorem dL_law_2738 : decode cL_law 2738 = .ok (.lcmp, 1) := dk_148 (dk_at dksL_law_110 10 rfl rfl)
theorem dL_law_2739 : decode cL_law 2739 = .ok (.ifCond .eq 5, 3) := dk_153 0 5 (dk_at dksL_law_110 11 rfl rfl)
theorem dL_law_2742 : decode cL_law 2742 = .ok (.iconst 0, 1) := dk_3 (dk_at dksL_law_110 14 rfl rfl)
theorem dL_law_2743 : decode cL_law 2743 = .ok (.ireturn, 1) := dk_172 (dk_at dksL_law_110 15 rfl rfl)
theorem dL_law_2744 : decode cL_law 2744 = .ok (.goto 350, 3) := dk_167 1 94 (dk_at dksL_law_110 16 rfl rfl)
theorem dL_law_2747 : decode cL_law 2747 = .ok (.aload_n 1, 1) := dk_43 (dk_at dksL_law_110 19 rfl rfl)
theorem dL_law_2748 : decode cL_law 2748 = .ok (.aload_n 0, 1) := dk_42 (dk_at dksL_law_110 20 rfl rfl)
theorem dL_law_2749 : decode cL_law 2749 = .ok (.iload 4, 2) := dk_21 4 (dk_at dksL_law_110 21 rfl rfl)
theorem dL_law_2751 : decode cL_law 2751 = .ok (.iconst 1, 1) := dk_4 (dk_at dksL_law_110 23 rfl rfl)
theorem dL_law_2752 : decode cL_law 2752 = .ok (.iadd, 1) := dk_96 (dk_at dksL_law_111 0 rfl rfl)
theorem dL_law_2753 : decode cL_law 2753 = .ok (.iaload, 1) := dk_46 (dk_at dksL_law_111 1 rfl rfl)
theorem dL_law_2754 : decode cL_law 2754 = .ok (.aload_n 0, 1) := dk_42 (dk_at dksL_law_111 2 rfl rfl)
theorem dL_law_2755 : decode cL_law 2755 = .ok (.iload 4, 2) := dk_21 4 (dk_at dksL_law_111 3 rfl rfl)
theorem dL_law_2757 : decode cL_law 2757 = .ok (.iconst 2, 1) := dk_5 (dk_at dksL_law_111 5 rfl rfl)
theorem dL_law_2758 : decode cL_law 2758 = .ok (.iadd, 1) := dk_96 (dk_at dksL_law_111 6 rfl rfl)
theorem dL_law_2759 : decode cL_law 2759 = .ok (.iaload, 1) := dk_46 (dk_at dksL_law_111 7 rfl rfl)
theorem dL_law_2760 : decode cL_law 2760 = .ok (.aload_n 0, 1) := dk_42 (dk_at dksL_law_111 8 rfl rfl)
theorem dL_law_2761 : decode cL_law 2761 = .ok (.iload 4, 2) := dk_21 4 (dk_at dksL_law_111 9 rfl rfl)
theorem dL_law_2763 : decode cL_law 2763 = .ok (.iconst 3, 1) := dk_6 (dk_at dksL_law_111 11 rfl rfl)
theorem dL_law_2764 : decode cL_law 2764 = .ok (.iadd, 1) := dk_96 (dk_at dksL_law_111 12 rfl rfl)
theorem dL_law_2765 : decode cL_law 2765 = .ok (.iaload, 1) := dk_46 (dk_at dksL_law_111 13 rfl rfl)
theorem dL_law_2766 : decode cL_law 2766 = .ok (.aload_n 3, 1) := dk_45 (dk_at dksL_law_111 14 rfl rfl)
theorem dL_law_2767 : decode cL_law 2767 = .ok (.invokestatic 263, 3) := dk_184 1 7 (dk_at dksL_law_111 15 rfl rfl)
theorem dL_law_2770 : decode cL_law 2770 = .ok (.istore 5, 2) := dk_54 5 (dk_at dksL_law_111 18 rfl rfl)
theorem dL_law_2772 : decode cL_law 2772 = .ok (.aload_n 2, 1) := dk_44 (dk_at dksL_law_111 20 rfl rfl)
theorem dL_law_2773 : decode cL_law 2773 = .ok (.aload_n 0, 1) := dk_42 (dk_at dksL_law_111 21 rfl rfl)
theorem dL_law_2774 : decode cL_law 2774 = .ok (.iload 4, 2) := dk_21 4 (dk_at dksL_law_111 22 rfl rfl)
theorem dL_law_2776 : decode cL_law 2776 = .ok (.iconst 1, 1) := dk_4 (dk_at dksL_law_112 0 rfl rfl)
theorem dL_law_2777 : decode cL_law 2777 = .ok (.iadd, 1) := dk_96 (dk_at dksL_law_112 1 rfl rfl)
theorem dL_law_2778 : decode cL_law 2778 = .ok (.iaload, 1) := dk_46 (dk_at dksL_law_112 2 rfl rfl)
theorem dL_law_2779 : decode cL_law 2779 = .ok (.aload_n 0, 1) := dk_42 (dk_at dksL_law_112 3 rfl rfl)
theorem dL_law_2780 : decode cL_law 2780 = .ok (.iload 4, 2) := dk_21 4 (dk_at dksL_law_112 4 rfl rfl)
theorem dL_law_2782 : decode cL_law 2782 = .ok (.iconst 2, 1) := dk_5 (dk_at dksL_law_112 6 rfl rfl)
theorem dL_law_2783 : decode cL_law 2783 = .ok (.iadd, 1) := dk_96 (dk_at dksL_law_112 7 rfl rfl)
theorem dL_law_2784 : decode cL_law 2784 = .ok (.iaload, 1) := dk_46 (dk_at dksL_law_112 8 rfl rfl)
theorem dL_law_2785 : decode cL_law 2785 = .ok (.aload_n 0, 1) := dk_42 (dk_at dksL_law_112 9 rfl rfl)
theorem dL_law_2786 : decode cL_law 2786 = .ok (.iload 4, 2) := dk_21 4 (dk_at dksL_law_112 10 rfl rfl)
theorem dL_law_2788 : decode cL_law 2788 = .ok (.iconst 3, 1) := dk_6 (dk_at dksL_law_112 12 rfl rfl)
theorem dL_law_2789 : decode cL_law 2789 = .ok (.iadd, 1) := dk_96 (dk_at dksL_law_112 13 rfl rfl)
theorem dL_law_2790 : decode cL_law 2790 = .ok (.iaload, 1) := dk_46 (dk_at dksL_law_112 14 rfl rfl)
theorem dL_law_2791 : decode cL_law 2791 = .ok (.invokevirtual 265, 3) := dk_182 1 9 (dk_at dksL_law_112 15 rfl rfl)
theorem dL_law_2794 : decode cL_law 2794 = .ok (.istore 6, 2) := dk_54 6 (dk_at dksL_law_112 18 rfl rfl)
theorem dL_law_2796 : decode cL_law 2796 = .ok (.aload_n 2, 1) := dk_44 (dk_at dksL_law_112 20 rfl rfl)
theorem dL_law_2797 : decode cL_law 2797 = .ok (.invokevirtual 149, 3) := dk_182 0 149 (dk_at dksL_law_112 21 rfl rfl)
theorem dL_law_2800 : decode cL_law 2800 = .ok (.iload 5, 2) := dk_21 5 (dk_at dksL_law_113 0 rfl rfl)
theorem dL_law_2802 : decode cL_law 2802 = .ok (.if_icmp .eq 5, 3) := dk_159 0 5 (dk_at dksL_law_113 2 rfl rfl)
theorem dL_law_2805 : decode cL_law 2805 = .ok (.iconst 0, 1) := dk_3 (dk_at dksL_law_113 5 rfl rfl)
theorem dL_law_2806 : decode cL_law 2806 = .ok (.ireturn, 1) := dk_172 (dk_at dksL_law_113 6 rfl rfl)
theorem dL_law_2807 : decode cL_law 2807 = .ok (.iload 5, 2) := dk_21 5 (dk_at dksL_law_113 7 rfl rfl)
theorem dL_law_2809 : decode cL_law 2809 = .ok (.ifCond .ne 15, 3) := dk_154 0 15 (dk_at dksL_law_113 9 rfl rfl)
theorem dL_law_2812 : decode cL_law 2812 = .ok (.aload_n 3, 1) := dk_45 (dk_at dksL_law_113 12 rfl rfl)
theorem dL_law_2813 : decode cL_law 2813 = .ok (.iconst 0, 1) := dk_3 (dk_at dksL_law_113 13 rfl rfl)
theorem dL_law_2814 : decode cL_law 2814 = .ok (.laload, 1) := dk_47 (dk_at dksL_law_113 14 rfl rfl)
theorem dL_law_2815 : decode cL_law 2815 = .ok (.iload 6, 2) := dk_21 6 (dk_at dksL_law_113 15 rfl rfl)
theorem dL_law_2817 : decode cL_law 2817 = .ok (.i2l, 1) := dk_133 (dk_at dksL_law_113 17 rfl rfl)
theorem dL_law_2818 : decode cL_law 2818 = .ok (.lcmp, 1) := dk_148 (dk_at dksL_law_113 18 rfl rfl)
theorem dL_law_2819 : decode cL_law 2819 = .ok (.ifCond .eq 5, 3) := dk_153 0 5 (dk_at dksL_law_113 19 rfl rfl)
theorem dL_law_2822 : decode cL_law 2822 = .ok (.iconst 0, 1) := dk_3 (dk_at dksL_law_113 22 rfl rfl)
theorem dL_law_2823 : decode cL_law 2823 = .ok (.ireturn, 1) := dk_172 (dk_at dksL_law_113 23 rfl rfl)
theorem dL_law_2824 : decode cL_law 2824 = .ok (.goto 270, 3) := dk_167 1 14 (dk_at dksL_law_114 0 rfl rfl)
theorem dL_law_2827 : decode cL_law 2827 = .ok (.aload_n 1, 1) := dk_43 (dk_at dksL_law_114 3 rfl rfl)
theorem dL_law_2828 : decode cL_law 2828 = .ok (.aload_n 0, 1) := dk_42 (dk_at dksL_law_114 4 rfl rfl)
theorem dL_law_2829 : decode cL_law 2829 = .ok (.iload 4, 2) := dk_21 4 (dk_at dksL_law_114 5 rfl rfl)
theorem dL_law_2831 : decode cL_law 2831 = .ok (.iconst 1, 1) := dk_4 (dk_at dksL_law_114 7 rfl rfl)
theorem dL_law_2832 : decode cL_law 2832 = .ok (.iadd, 1) := dk_96 (dk_at dksL_law_114 8 rfl rfl)
theorem dL_law_2833 : decode cL_law 2833 = .ok (.iaload, 1) := dk_46 (dk_at dksL_law_114 9 rfl rfl)
theorem dL_law_2834 : decode cL_law 2834 = .ok (.aload_n 0, 1) := dk_42 (dk_at dksL_law_114 10 rfl rfl)
theorem dL_law_2835 : decode cL_law 2835 = .ok (.iload 4, 2) := dk_21 4 (dk_at dksL_law_114 11 rfl rfl)
theorem dL_law_2837 : decode cL_law 2837 = .ok (.iconst 2, 1) := dk_5 (dk_at dksL_law_114 13 rfl rfl)
theorem dL_law_2838 : decode cL_law 2838 = .ok (.iadd, 1) := dk_96 (dk_at dksL_law_114 14 rfl rfl)
theorem dL_law_2839 : decode cL_law 2839 = .ok (.iaload, 1) := dk_46 (dk_at dksL_law_114 15 rfl rfl)
theorem dL_law_2840 : decode cL_law 2840 = .ok (.aload_n 3, 1) := dk_45 (dk_at dksL_law_114 16 rfl rfl)
theorem dL_law_2841 : decode cL_law 2841 = .ok (.invokestatic 266, 3) := dk_184 1 10 (dk_at dksL_law_114 17 rfl rfl)
theorem dL_law_2844 : decode cL_law 2844 = .ok (.istore 5, 2) := dk_54 5 (dk_at dksL_law_114 20 rfl rfl)
theorem dL_law_2846 : decode cL_law 2846 = .ok (.aload_n 2, 1) := dk_44 (dk_at dksL_law_114 22 rfl rfl)
theorem dL_law_2847 : decode cL_law 2847 = .ok (.aload_n 0, 1) := dk_42 (dk_at dksL_law_114 23 rfl rfl)
theorem dL_law_2848 : decode cL_law 2848 = .ok (.iload 4, 2) := dk_21 4 (dk_at dksL_law_115 0 rfl rfl)
theorem dL_law_2850 : decode cL_law 2850 = .ok (.iconst 1, 1) := dk_4 (dk_at dksL_law_115 2 rfl rfl)
theorem dL_law_2851 : decode cL_law 2851 = .ok (.iadd, 1) := dk_96 (dk_at dksL_law_115 3 rfl rfl)
theorem dL_law_2852 : decode cL_law 2852 = .ok (.iaload, 1) := dk_46 (dk_at dksL_law_115 4 rfl rfl)
theorem dL_law_2853 : decode cL_law 2853 = .ok (.aload_n 0, 1) := dk_42 (dk_at dksL_law_115 5 rfl rfl)
theorem dL_law_2854 : decode cL_law 2854 = .ok (.iload 4, 2) := dk_21 4 (dk_at dksL_law_115 6 rfl rfl)
theorem dL_law_2856 : decode cL_law 2856 = .ok (.iconst 2, 1) := dk_5 (dk_at dksL_law_115 8 rfl rfl)
theorem dL_law_2857 : decode cL_law 2857 = .ok (.iadd, 1) := dk_96 (dk_at dksL_law_115 9 rfl rfl)
theorem dL_law_2858 : decode cL_law 2858 = .ok (.iaload, 1) := dk_46 (dk_at dksL_law_115 10 rfl rfl)
theorem dL_law_2859 : decode cL_law 2859 = .ok (.invokevirtual 268, 3) := dk_182 1 12 (dk_at dksL_law_115 11 rfl rfl)
theorem dL_law_2862 : decode cL_law 2862 = .ok (.istore 6, 2) := dk_54 6 (dk_at dksL_law_115 14 rfl rfl)
theorem dL_law_2864 : decode cL_law 2864 = .ok (.aload_n 2, 1) := dk_44 (dk_at dksL_law_115 16 rfl rfl)
theorem dL_law_2865 : decode cL_law 2865 = .ok (.invokevirtual 149, 3) := dk_182 0 149 (dk_at dksL_law_115 17 rfl rfl)
theorem dL_law_2868 : decode cL_law 2868 = .ok (.iload 5, 2) := dk_21 5 (dk_at dksL_law_115 20 rfl rfl)
theorem dL_law_2870 : decode cL_law 2870 = .ok (.if_icmp .eq 5, 3) := dk_159 0 5 (dk_at dksL_law_116 0 rfl rfl)
theorem dL_law_2873 : decode cL_law 2873 = .ok (.iconst 0, 1) := dk_3 (dk_at dksL_law_116 3 rfl rfl)
theorem dL_law_2874 : decode cL_law 2874 = .ok (.ireturn, 1) := dk_172 (dk_at dksL_law_116 4 rfl rfl)
theorem dL_law_2875 : decode cL_law 2875 = .ok (.iload 5, 2) := dk_21 5 (dk_at dksL_law_116 5 rfl rfl)
theorem dL_law_2877 : decode cL_law 2877 = .ok (.ifCond .ne 15, 3) := dk_154 0 15 (dk_at dksL_law_116 7 rfl rfl)
theorem dL_law_2880 : decode cL_law 2880 = .ok (.aload_n 3, 1) := dk_45 (dk_at dksL_law_116 10 rfl rfl)
theorem dL_law_2881 : decode cL_law 2881 = .ok (.iconst 0, 1) := dk_3 (dk_at dksL_law_116 11 rfl rfl)
theorem dL_law_2882 : decode cL_law 2882 = .ok (.laload, 1) := dk_47 (dk_at dksL_law_116 12 rfl rfl)
theorem dL_law_2883 : decode cL_law 2883 = .ok (.iload 6, 2) := dk_21 6 (dk_at dksL_law_116 13 rfl rfl)
theorem dL_law_2885 : decode cL_law 2885 = .ok (.i2l, 1) := dk_133 (dk_at dksL_law_116 15 rfl rfl)
theorem dL_law_2886 : decode cL_law 2886 = .ok (.lcmp, 1) := dk_148 (dk_at dksL_law_116 16 rfl rfl)
theorem dL_law_2887 : decode cL_law 2887 = .ok (.ifCond .eq 5, 3) := dk_153 0 5 (dk_at dksL_law_116 17 rfl rfl)
theorem dL_law_2890 : decode cL_law 2890 = .ok (.iconst 0, 1) := dk_3 (dk_at dksL_law_116 20 rfl rfl)
theorem dL_law_2891 : decode cL_law 2891 = .ok (.ireturn, 1) := dk_172 (dk_at dksL_law_116 21 rfl rfl)
theorem dL_law_2892 : decode cL_law 2892 = .ok (.goto 202, 3) := dk_167 0 202 (dk_at dksL_law_117 0 rfl rfl)
theorem dL_law_2895 : decode cL_law 2895 = .ok (.aload_n 1, 1) := dk_43 (dk_at dksL_law_117 3 rfl rfl)
theorem dL_law_2896 : decode cL_law 2896 = .ok (.aload_n 0, 1) := dk_42 (dk_at dksL_law_117 4 rfl rfl)
theorem dL_law_2897 : decode cL_law 2897 = .ok (.iload 4, 2) := dk_21 4 (dk_at dksL_law_117 5 rfl rfl)
theorem dL_law_2899 : decode cL_law 2899 = .ok (.iconst 1, 1) := dk_4 (dk_at dksL_law_117 7 rfl rfl)
theorem dL_law_2900 : decode cL_law 2900 = .ok (.iadd, 1) := dk_96 (dk_at dksL_law_117 8 rfl rfl)
theorem dL_law_2901 : decode cL_law 2901 = .ok (.iaload, 1) := dk_46 (dk_at dksL_law_117 9 rfl rfl)
theorem dL_law_2902 : decode cL_law 2902 = .ok (.aload_n 0, 1) := dk_42 (dk_at dksL_law_117 10 rfl rfl)
theorem dL_law_2903 : decode cL_law 2903 = .ok (.iload 4, 2) := dk_21 4 (dk_at dksL_law_117 11 rfl rfl)
theorem dL_law_2905 : decode cL_law 2905 = .ok (.iconst 2, 1) := dk_5 (dk_at dksL_law_117 13 rfl rfl)
theorem dL_law_2906 : decode cL_law 2906 = .ok (.iadd, 1) := dk_96 (dk_at dksL_law_117 14 rfl rfl)
theorem dL_law_2907 : decode cL_law 2907 = .ok (.iaload, 1) := dk_46 (dk_at dksL_law_117 15 rfl rfl)
theorem dL_law_2908 : decode cL_law 2908 = .ok (.aload_n 3, 1) := dk_45 (dk_at dksL_law_117 16 rfl rfl)
theorem dL_law_2909 : decode cL_law 2909 = .ok (.invokestatic 269, 3) := dk_184 1 13 (dk_at dksL_law_117 17 rfl rfl)
theorem dL_law_2912 : decode cL_law 2912 = .ok (.istore 5, 2) := dk_54 5 (dk_at dksL_law_117 20 rfl rfl)
theorem dL_law_2914 : decode cL_law 2914 = .ok (.aload_n 2, 1) := dk_44 (dk_at dksL_law_117 22 rfl rfl)
theorem dL_law_2915 : decode cL_law 2915 = .ok (.aload_n 0, 1) := dk_42 (dk_at dksL_law_117 23 rfl rfl)
theorem dL_law_2916 : decode cL_law 2916 = .ok (.iload 4, 2) := dk_21 4 (dk_at dksL_law_118 0 rfl rfl)
theorem dL_law_2918 : decode cL_law 2918 = .ok (.iconst 1, 1) := dk_4 (dk_at dksL_law_118 2 rfl rfl)
theorem dL_law_2919 : decode cL_law 2919 = .ok (.iadd, 1) := dk_96 (dk_at dksL_law_118 3 rfl rfl)
theorem dL_law_2920 : decode cL_law 2920 = .ok (.iaload, 1) := dk_46 (dk_at dksL_law_118 4 rfl rfl)
theorem dL_law_2921 : decode cL_law 2921 = .ok (.aload_n 0, 1) := dk_42 (dk_at dksL_law_118 5 rfl rfl)
theorem dL_law_2922 : decode cL_law 2922 = .ok (.iload 4, 2) := dk_21 4 (dk_at dksL_law_118 6 rfl rfl)
theorem dL_law_2924 : decode cL_law 2924 = .ok (.iconst 2, 1) := dk_5 (dk_at dksL_law_118 8 rfl rfl)
theorem dL_law_2925 : decode cL_law 2925 = .ok (.iadd, 1) := dk_96 (dk_at dksL_law_118 9 rfl rfl)
theorem dL_law_2926 : decode cL_law 2926 = .ok (.iaload, 1) := dk_46 (dk_at dksL_law_118 10 rfl rfl)
theorem dL_law_2927 : decode cL_law 2927 = .ok (.invokevirtual 271, 3) := dk_182 1 15 (dk_at dksL_law_118 11 rfl rfl)
theorem dL_law_2930 : decode cL_law 2930 = .ok (.istore 6, 2) := dk_54 6 (dk_at dksL_law_118 14 rfl rfl)
theorem dL_law_2932 : decode cL_law 2932 = .ok (.aload_n 2, 1) := dk_44 (dk_at dksL_law_118 16 rfl rfl)
theorem dL_law_2933 : decode cL_law 2933 = .ok (.invokevirtual 149, 3) := dk_182 0 149 (dk_at dksL_law_118 17 rfl rfl)
theorem dL_law_2936 : decode cL_law 2936 = .ok (.iload 5, 2) := dk_21 5 (dk_at dksL_law_118 20 rfl rfl)
theorem dL_law_2938 : decode cL_law 2938 = .ok (.if_icmp .eq 5, 3) := dk_159 0 5 (dk_at dksL_law_119 0 rfl rfl)
theorem dL_law_2941 : decode cL_law 2941 = .ok (.iconst 0, 1) := dk_3 (dk_at dksL_law_119 3 rfl rfl)
theorem dL_law_2942 : decode cL_law 2942 = .ok (.ireturn, 1) := dk_172 (dk_at dksL_law_119 4 rfl rfl)
theorem dL_law_2943 : decode cL_law 2943 = .ok (.iload 5, 2) := dk_21 5 (dk_at dksL_law_119 5 rfl rfl)
theorem dL_law_2945 : decode cL_law 2945 = .ok (.ifCond .ne 15, 3) := dk_154 0 15 (dk_at dksL_law_119 7 rfl rfl)
theorem dL_law_2948 : decode cL_law 2948 = .ok (.aload_n 3, 1) := dk_45 (dk_at dksL_law_119 10 rfl rfl)
theorem dL_law_2949 : decode cL_law 2949 = .ok (.iconst 0, 1) := dk_3 (dk_at dksL_law_119 11 rfl rfl)
theorem dL_law_2950 : decode cL_law 2950 = .ok (.laload, 1) := dk_47 (dk_at dksL_law_119 12 rfl rfl)
theorem dL_law_2951 : decode cL_law 2951 = .ok (.iload 6, 2) := dk_21 6 (dk_at dksL_law_119 13 rfl rfl)
theorem dL_law_2953 : decode cL_law 2953 = .ok (.i2l, 1) := dk_133 (dk_at dksL_law_119 15 rfl rfl)
theorem dL_law_2954 : decode cL_law 2954 = .ok (.lcmp, 1) := dk_148 (dk_at dksL_law_119 16 rfl rfl)
theorem dL_law_2955 : decode cL_law 2955 = .ok (.ifCond .eq 5, 3) := dk_153 0 5 (dk_at dksL_law_119 17 rfl rfl)
theorem dL_law_2958 : decode cL_law 2958 = .ok (.iconst 0, 1) := dk_3 (dk_at dksL_law_119 20 rfl rfl)
theorem dL_law_2959 : decode cL_law 2959 = .ok (.ireturn, 1) := dk_172 (dk_at dksL_law_119 21 rfl rfl)
theorem dL_law_2960 : decode cL_law 2960 = .ok (.goto 134, 3) := dk_167 0 134 (dk_at dksL_law_120 0 rfl rfl)
theorem dL_law_2963 : decode cL_law 2963 = .ok (.aload_n 1, 1) := dk_43 (dk_at dksL_law_120 3 rfl rfl)
theorem dL_law_2964 : decode cL_law 2964 = .ok (.aload_n 0, 1) := dk_42 (dk_at dksL_law_120 4 rfl rfl)
theorem dL_law_2965 : decode cL_law 2965 = .ok (.iload 4, 2) := dk_21 4 (dk_at dksL_law_120 5 rfl rfl)
theorem dL_law_2967 : decode cL_law 2967 = .ok (.iconst 1, 1) := dk_4 (dk_at dksL_law_120 7 rfl rfl)
theorem dL_law_2968 : decode cL_law 2968 = .ok (.iadd, 1) := dk_96 (dk_at dksL_law_120 8 rfl rfl)
theorem dL_law_2969 : decode cL_law 2969 = .ok (.iaload, 1) := dk_46 (dk_at dksL_law_120 9 rfl rfl)
theorem dL_law_2970 : decode cL_law 2970 = .ok (.aload_n 3, 1) := dk_45 (dk_at dksL_law_120 10 rfl rfl)
theorem dL_law_2971 : decode cL_law 2971 = .ok (.invokestatic 272, 3) := dk_184 1 16 (dk_at dksL_law_120 11 rfl rfl)
theorem dL_law_2974 : decode cL_law 2974 = .ok (.istore 5, 2) := dk_54 5 (dk_at dksL_law_120 14 rfl rfl)
theorem dL_law_2976 : decode cL_law 2976 = .ok (.aload_n 2, 1) := dk_44 (dk_at dksL_law_120 16 rfl rfl)
theorem dL_law_2977 : decode cL_law 2977 = .ok (.aload_n 0, 1) := dk_42 (dk_at dksL_law_120 17 rfl rfl)
theorem dL_law_2978 : decode cL_law 2978 = .ok (.iload 4, 2) := dk_21 4 (dk_at dksL_law_120 18 rfl rfl)
theorem dL_law_2980 : decode cL_law 2980 = .ok (.iconst 1, 1) := dk_4 (dk_at dksL_law_120 20 rfl rfl)
theorem dL_law_2981 : decode cL_law 2981 = .ok (.iadd, 1) := dk_96 (dk_at dksL_law_120 21 rfl rfl)
theorem dL_law_2982 : decode cL_law 2982 = .ok (.iaload, 1) := dk_46 (dk_at dksL_law_120 22 rfl rfl)
theorem dL_law_2983 : decode cL_law 2983 = .ok (.invokevirtual 274, 3) := dk_182 1 18 (dk_at dksL_law_121 0 rfl rfl)
theorem dL_law_2986 : decode cL_law 2986 = .ok (.istore 6, 2) := dk_54 6 (dk_at dksL_law_121 3 rfl rfl)
theorem dL_law_2988 : decode cL_law 2988 = .ok (.aload_n 2, 1) := dk_44 (dk_at dksL_law_121 5 rfl rfl)
theorem dL_law_2989 : decode cL_law 2989 = .ok (.invokevirtual 149, 3) := dk_182 0 149 (dk_at dksL_law_121 6 rfl rfl)
theorem dL_law_2992 : decode cL_law 2992 = .ok (.iload 5, 2) := dk_21 5 (dk_at dksL_law_121 9 rfl rfl)
theorem dL_law_2994 : decode cL_law 2994 = .ok (.if_icmp .eq 5, 3) := dk_159 0 5 (dk_at dksL_law_121 11 rfl rfl)
theorem dL_law_2997 : decode cL_law 2997 = .ok (.iconst 0, 1) := dk_3 (dk_at dksL_law_121 14 rfl rfl)
theorem dL_law_2998 : decode cL_law 2998 = .ok (.ireturn, 1) := dk_172 (dk_at dksL_law_121 15 rfl rfl)
theorem dL_law_2999 : decode cL_law 2999 = .ok (.iload 5, 2) := dk_21 5 (dk_at dksL_law_121 16 rfl rfl)
theorem dL_law_3001 : decode cL_law 3001 = .ok (.ifCond .ne 15, 3) := dk_154 0 15 (dk_at dksL_law_121 18 rfl rfl)
theorem dL_law_3004 : decode cL_law 3004 = .ok (.aload_n 3, 1) := dk_45 (dk_at dksL_law_121 21 rfl rfl)
theorem dL_law_3005 : decode cL_law 3005 = .ok (.iconst 0, 1) := dk_3 (dk_at dksL_law_121 22 rfl rfl)
theorem dL_law_3006 : decode cL_law 3006 = .ok (.laload, 1) := dk_47 (dk_at dksL_law_121 23 rfl rfl)
theorem dL_law_3007 : decode cL_law 3007 = .ok (.iload 6, 2) := dk_21 6 (dk_at dksL_law_122 0 rfl rfl)
theorem dL_law_3009 : decode cL_law 3009 = .ok (.i2l, 1) := dk_133 (dk_at dksL_law_122 2 rfl rfl)
theorem dL_law_3010 : decode cL_law 3010 = .ok (.lcmp, 1) := dk_148 (dk_at dksL_law_122 3 rfl rfl)
theorem dL_law_3011 : decode cL_law 3011 = .ok (.ifCond .eq 5, 3) := dk_153 0 5 (dk_at dksL_law_122 4 rfl rfl)
theorem dL_law_3014 : decode cL_law 3014 = .ok (.iconst 0, 1) := dk_3 (dk_at dksL_law_122 7 rfl rfl)
theorem dL_law_3015 : decode cL_law 3015 = .ok (.ireturn, 1) := dk_172 (dk_at dksL_law_122 8 rfl rfl)
theorem dL_law_3016 : decode cL_law 3016 = .ok (.goto 78, 3) := dk_167 0 78 (dk_at dksL_law_122 9 rfl rfl)
theorem dL_law_3019 : decode cL_law 3019 = .ok (.aload_n 1, 1) := dk_43 (dk_at dksL_law_122 12 rfl rfl)
theorem dL_law_3020 : decode cL_law 3020 = .ok (.aload_n 0, 1) := dk_42 (dk_at dksL_law_122 13 rfl rfl)
theorem dL_law_3021 : decode cL_law 3021 = .ok (.iload 4, 2) := dk_21 4 (dk_at dksL_law_122 14 rfl rfl)
theorem dL_law_3023 : decode cL_law 3023 = .ok (.iconst 1, 1) := dk_4 (dk_at dksL_law_122 16 rfl rfl)
theorem dL_law_3024 : decode cL_law 3024 = .ok (.iadd, 1) := dk_96 (dk_at dksL_law_122 17 rfl rfl)
theorem dL_law_3025 : decode cL_law 3025 = .ok (.iaload, 1) := dk_46 (dk_at dksL_law_122 18 rfl rfl)
theorem dL_law_3026 : decode cL_law 3026 = .ok (.aload_n 0, 1) := dk_42 (dk_at dksL_law_122 19 rfl rfl)
theorem dL_law_3027 : decode cL_law 3027 = .ok (.iload 4, 2) := dk_21 4 (dk_at dksL_law_122 20 rfl rfl)
theorem dL_law_3029 : decode cL_law 3029 = .ok (.iconst 2, 1) := dk_5 (dk_at dksL_law_122 22 rfl rfl)
theorem dL_law_3030 : decode cL_law 3030 = .ok (.iadd, 1) := dk_96 (dk_at dksL_law_122 23 rfl rfl)
theorem dL_law_3031 : decode cL_law 3031 = .ok (.iaload, 1) := dk_46 (dk_at dksL_law_123 0 rfl rfl)
theorem dL_law_3032 : decode cL_law 3032 = .ok (.aload_n 3, 1) := dk_45 (dk_at dksL_law_123 1 rfl rfl)
theorem dL_law_3033 : decode cL_law 3033 = .ok (.invokestatic 275, 3) := dk_184 1 19 (dk_at dksL_law_123 2 rfl rfl)
theorem dL_law_3036 : decode cL_law 3036 = .ok (.istore 5, 2) := dk_54 5 (dk_at dksL_law_123 5 rfl rfl)
theorem dL_law_3038 : decode cL_law 3038 = .ok (.aload_n 2, 1) := dk_44 (dk_at dksL_law_123 7 rfl rfl)
theorem dL_law_3039 : decode cL_law 3039 = .ok (.aload_n 0, 1) := dk_42 (dk_at dksL_law_123 8 rfl rfl)
theorem dL_law_3040 : decode cL_law 3040 = .ok (.iload 4, 2) := dk_21 4 (dk_at dksL_law_123 9 rfl rfl)
theorem dL_law_3042 : decode cL_law 3042 = .ok (.iconst 1, 1) := dk_4 (dk_at dksL_law_123 11 rfl rfl)
theorem dL_law_3043 : decode cL_law 3043 = .ok (.iadd, 1) := dk_96 (dk_at dksL_law_123 12 rfl rfl)
theorem dL_law_3044 : decode cL_law 3044 = .ok (.iaload, 1) := dk_46 (dk_at dksL_law_123 13 rfl rfl)
theorem dL_law_3045 : decode cL_law 3045 = .ok (.aload_n 0, 1) := dk_42 (dk_at dksL_law_123 14 rfl rfl)
theorem dL_law_3046 : decode cL_law 3046 = .ok (.iload 4, 2) := dk_21 4 (dk_at dksL_law_123 15 rfl rfl)
theorem dL_law_3048 : decode cL_law 3048 = .ok (.iconst 2, 1) := dk_5 (dk_at dksL_law_123 17 rfl rfl)
theorem dL_law_3049 : decode cL_law 3049 = .ok (.iadd, 1) := dk_96 (dk_at dksL_law_123 18 rfl rfl)
theorem dL_law_3050 : decode cL_law 3050 = .ok (.iaload, 1) := dk_46 (dk_at dksL_law_123 19 rfl rfl)
theorem dL_law_3051 : decode cL_law 3051 = .ok (.invokevirtual 277, 3) := dk_182 1 21 (dk_at dksL_law_123 20 rfl rfl)
theorem dL_law_3054 : decode cL_law 3054 = .ok (.istore 6, 2) := dk_54 6 (dk_at dksL_law_124 0 rfl rfl)
theorem dL_law_3056 : decode cL_law 3056 = .ok (.aload_n 2, 1) := dk_44 (dk_at dksL_law_124 2 rfl rfl)
theorem dL_law_3057 : decode cL_law 3057 = .ok (.invokevirtual 149, 3) := dk_182 0 149 (dk_at dksL_law_124 3 rfl rfl)
theorem dL_law_3060 : decode cL_law 3060 = .ok (.iload 5, 2) := dk_21 5 (dk_at dksL_law_124 6 rfl rfl)
theorem dL_law_3062 : decode cL_law 3062 = .ok (.if_icmp .eq 5, 3) := dk_159 0 5 (dk_at dksL_law_124 8 rfl rfl)
theorem dL_law_3065 : decode cL_law 3065 = .ok (.iconst 0, 1) := dk_3 (dk_at dksL_law_124 11 rfl rfl)
theorem dL_law_3066 : decode cL_law 3066 = .ok (.ireturn, 1) := dk_172 (dk_at dksL_law_124 12 rfl rfl)
theorem dL_law_3067 : decode cL_law 3067 = .ok (.iload 5, 2) := dk_21 5 (dk_at dksL_law_124 13 rfl rfl)
theorem dL_law_3069 : decode cL_law 3069 = .ok (.ifCond .ne 22, 3) := dk_154 0 22 (dk_at dksL_law_124 15 rfl rfl)
theorem dL_law_3072 : decode cL_law 3072 = .ok (.aload_n 3, 1) := dk_45 (dk_at dksL_law_124 18 rfl rfl)
theorem dL_law_3073 : decode cL_law 3073 = .ok (.iconst 0, 1) := dk_3 (dk_at dksL_law_124 19 rfl rfl)
theorem dL_law_3074 : decode cL_law 3074 = .ok (.laload, 1) := dk_47 (dk_at dksL_law_124 20 rfl rfl)
theorem dL_law_3075 : decode cL_law 3075 = .ok (.iload 6, 2) := dk_21 6 (dk_at dksL_law_124 21 rfl rfl)
theorem dL_law_3077 : decode cL_law 3077 = .ok (.ifCond .eq 7, 3) := dk_153 0 7 (dk_at dksL_law_125 0 rfl rfl)
theorem dL_law_3080 : decode cL_law 3080 = .ok (.lconst 1, 1) := dk_10 (dk_at dksL_law_125 3 rfl rfl)
theorem dL_law_3081 : decode cL_law 3081 = .ok (.goto 4, 3) := dk_167 0 4 (dk_at dksL_law_125 4 rfl rfl)
theorem dL_law_3084 : decode cL_law 3084 = .ok (.lconst 0, 1) := dk_9 (dk_at dksL_law_125 7 rfl rfl)
theorem dL_law_3085 : decode cL_law 3085 = .ok (.lcmp, 1) := dk_148 (dk_at dksL_law_125 8 rfl rfl)
theorem dL_law_3086 : decode cL_law 3086 = .ok (.ifCond .eq 5, 3) := dk_153 0 5 (dk_at dksL_law_125 9 rfl rfl)
theorem dL_law_3089 : decode cL_law 3089 = .ok (.iconst 0, 1) := dk_3 (dk_at dksL_law_125 12 rfl rfl)
theorem dL_law_3090 : decode cL_law 3090 = .ok (.ireturn, 1) := dk_172 (dk_at dksL_law_125 13 rfl rfl)
theorem dL_law_3091 : decode cL_law 3091 = .ok (.goto 3, 3) := dk_167 0 3 (dk_at dksL_law_125 14 rfl rfl)
theorem dL_law_3094 : decode cL_law 3094 = .ok (.iinc 4 7, 3) := dk_132 4 7 (dk_at dksL_law_125 17 rfl rfl)
theorem dL_law_3097 : decode cL_law 3097 = .ok (.goto (-3074), 3) := dk_167 243 254 (dk_at dksL_law_125 20 rfl rfl)
theorem dL_law_3100 : decode cL_law 3100 = .ok (.iconst 1, 1) := dk_4 (dk_at dksL_law_125 23 rfl rfl)
theorem dL_law_3101 : decode cL_law 3101 = .ok (.ireturn, 1) := dk_172 (dk_at dksL_law_126 0 rfl rfl)
def fL_law_b3094 (e : Nat → Nat) (N : Nat) (k23 : Mm → Option Nat → Option Nat → Option Nat → Option Nat → Int32 → Rs (Int32)) (m : Mm) (v0 : Option Nat) (v1 : Option Nat) (v2 : Option Nat) (v3 : Option Nat) (v4 : Int32) : Rs (Int32) := k23 m v0 v1 v2 v3 (v4 + 7)
def fL_law_b313 (e : Nat → Nat) (N : Nat) (k23 : Mm → Option Nat → Option Nat → Option Nat → Option Nat → Int32 → Rs (Int32)) (m : Mm) (v0 : Option Nat) (v1 : Option Nat) (v2 : Option Nat) (v3 : Option Nat) (v4 : Int32) : Rs (Int32) := fL_law_b3094 e N k23 m v0 v1 v2 v3 v4
def fL_law_b280 (e : Nat → Nat) (N : Nat) (k23 : Mm → Option Nat → Option Nat → Option Nat → Option Nat → Int32 → Rs (Int32)) (m : Mm) (v0 : Option Nat) (v1 : Option Nat) (v2 : Option Nat) (v3 : Option Nat) (v4 : Int32) (v5 : Int32) (s0 : Option Nat) (s1 : Int32) (s2 : Int32) : Rs (Int32) := ck_ m s0 4 (bd_ (fX4_attribute e N m s0 s1 s2) (fun x1 m1 => ck_ m1 v2 4 (bd_ (fX4_thrown e N m1 v2) (fun x2 m2 => if x2 = v5 then (if v5 = 0 then (aj_ m2 v3 203 0 (fun x3 => if (lg_cmp x3 ((x1 : Int32).toInt64)) = 0 then (fL_law_b313 e N k23 m2 v0 v1 v2 v3 v4) else (rt_ 0 m2))) else (fL_law_b313 e N k23 m2 v0 v1 v2 v3 v4)) else (rt_ 0 m2)))))
def fL_law_b266 (e : Nat → Nat) (N : Nat) (k23 : Mm → Option Nat → Option Nat → Option Nat → Option Nat → Int32 → Rs (Int32)) (m : Mm) (v0 : Option Nat) (v1 : Option Nat) (v2 : Option Nat) (v3 : Option Nat) (v4 : Int32) (v5 : Int32) (s0 : Option Nat) (s1 : Int32) : Rs (Int32) := ai_ m v0 200 (v4 + 2) (fun x1 => if x1 = 0 then (fL_law_b280 e N k23 m v0 v1 v2 v3 v4 v5 s0 s1 0) else (fL_law_b280 e N k23 m v0 v1 v2 v3 v4 v5 s0 s1 1))
def fL_law_b245 (e : Nat → Nat) (N : Nat) (k23 : Mm → Option Nat → Option Nat → Option Nat → Option Nat → Int32 → Rs (Int32)) (m : Mm) (v0 : Option Nat) (v1 : Option Nat) (v2 : Option Nat) (v3 : Option Nat) (v4 : Int32) (s0 : Option Nat) (s1 : Int32) (s2 : Int32) : Rs (Int32) := bd_ (fX0_attribute e N m s0 s1 s2 v3) (fun x1 m1 => ai_ m1 v0 200 (v4 + 1) (fun x2 => if x2 = 0 then (fL_law_b266 e N k23 m1 v0 v1 v2 v3 v4 x1 v2 0) else (fL_law_b266 e N k23 m1 v0 v1 v2 v3 v4 x1 v2 1)))
def fL_law_b231 (e : Nat → Nat) (N : Nat) (k23 : Mm → Option Nat → Option Nat → Option Nat → Option Nat → Int32 → Rs (Int32)) (m : Mm) (v0 : Option Nat) (v1 : Option Nat) (v2 : Option Nat) (v3 : Option Nat) (v4 : Int32) (s0 : Option Nat) (s1 : Int32) : Rs (Int32) := ai_ m v0 200 (v4 + 2) (fun x1 => if x1 = 0 then (fL_law_b245 e N k23 m v0 v1 v2 v3 v4 s0 s1 0) else (fL_law_b245 e N k23 m v0 v1 v2 v3 v4 s0 s1 1))
def fL_law_b393 (e : Nat → Nat) (N : Nat) (k23 : Mm → Option Nat → Option Nat → Option Nat → Option Nat → Int32 → Rs (Int32)) (m : Mm) (v0 : Option Nat) (v1 : Option Nat) (v2 : Option Nat) (v3 : Option Nat) (v4 : Int32) : Rs (Int32) := fL_law_b3094 e N k23 m v0 v1 v2 v3 v4
def fL_law_b461 (e : Nat → Nat) (N : Nat) (k23 : Mm → Option Nat → Option Nat → Option Nat → Option Nat → Int32 → Rs (Int32)) (m : Mm) (v0 : Option Nat) (v1 : Option Nat) (v2 : Option Nat) (v3 : Option Nat) (v4 : Int32) : Rs (Int32) := fL_law_b3094 e N k23 m v0 v1 v2 v3 v4
def fL_law_b529 (e : Nat → Nat) (N : Nat) (k23 : Mm → Option Nat → Option Nat → Option Nat → Option Nat → Int32 → Rs (Int32)) (m : Mm) (v0 : Option Nat) (v1 : Option Nat) (v2 : Option Nat) (v3 : Option Nat) (v4 : Int32) : Rs (Int32) := fL_law_b3094 e N k23 m v0 v1 v2 v3 v4
def fL_law_b634 (e : Nat → Nat) (N : Nat) (k23 : Mm → Option Nat → Option Nat → Option Nat → Option Nat → Int32 → Rs (Int32)) (m : Mm) (v0 : Option Nat) (v1 : Option Nat) (v2 : Option Nat) (v3 : Option Nat) (v4 : Int32) : Rs (Int32) := fL_law_b3094 e N k23 m v0 v1 v2 v3 v4
def fL_law_b726 (e : Nat → Nat) (N : Nat) (k23 : Mm → Option Nat → Option Nat → Option Nat → Option Nat → Int32 → Rs (Int32)) (m : Mm) (v0 : Option Nat) (v1 : Option Nat) (v2 : Option Nat) (v3 : Option Nat) (v4 : Int32) : Rs (Int32) := fL_law_b3094 e N k23 m v0 v1 v2 v3 v4
def fL_law_b818 (e : Nat → Nat) (N : Nat) (k23 : Mm → Option Nat → Option Nat → Option Nat → Option Nat → Int32 → Rs (Int32)) (m : Mm) (v0 : Option Nat) (v1 : Option Nat) (v2 : Option Nat) (v3 : Option Nat) (v4 : Int32) : Rs (Int32) := fL_law_b3094 e N k23 m v0 v1 v2 v3 v4
def fL_law_b910 (e : Nat → Nat) (N : Nat) (k23 : Mm → Option Nat → Option Nat → Option Nat → Option Nat → Int32 → Rs (Int32)) (m : Mm) (v0 : Option Nat) (v1 : Option Nat) (v2 : Option Nat) (v3 : Option Nat) (v4 : Int32) : Rs (Int32) := fL_law_b3094 e N k23 m v0 v1 v2 v3 v4
def fL_law_b990 (e : Nat → Nat) (N : Nat) (k23 : Mm → Option Nat → Option Nat → Option Nat → Option Nat → Int32 → Rs (Int32)) (m : Mm) (v0 : Option Nat) (v1 : Option Nat) (v2 : Option Nat) (v3 : Option Nat) (v4 : Int32) : Rs (Int32) := fL_law_b3094 e N k23 m v0 v1 v2 v3 v4
def fL_law_b1070 (e : Nat → Nat) (N : Nat) (k23 : Mm → Option Nat → Option Nat → Option Nat → Option Nat → Int32 → Rs (Int32)) (m : Mm) (v0 : Option Nat) (v1 : Option Nat) (v2 : Option Nat) (v3 : Option Nat) (v4 : Int32) : Rs (Int32) := fL_law_b3094 e N k23 m v0 v1 v2 v3 v4
def fL_law_b1138 (e : Nat → Nat) (N : Nat) (k23 : Mm → Option Nat → Option Nat → Option Nat → Option Nat → Int32 → Rs (Int32)) (m : Mm) (v0 : Option Nat) (v1 : Option Nat) (v2 : Option Nat) (v3 : Option Nat) (v4 : Int32) : Rs (Int32) := fL_law_b3094 e N k23 m v0 v1 v2 v3 v4
def fL_law_b1218 (e : Nat → Nat) (N : Nat) (k23 : Mm → Option Nat → Option Nat → Option Nat → Option Nat → Int32 → Rs (Int32)) (m : Mm) (v0 : Option Nat) (v1 : Option Nat) (v2 : Option Nat) (v3 : Option Nat) (v4 : Int32) : Rs (Int32) := fL_law_b3094 e N k23 m v0 v1 v2 v3 v4
def fL_law_b1336 (e : Nat → Nat) (N : Nat) (k23 : Mm → Option Nat → Option Nat → Option Nat → Option Nat → Int32 → Rs (Int32)) (m : Mm) (v0 : Option Nat) (v1 : Option Nat) (v2 : Option Nat) (v3 : Option Nat) (v4 : Int32) : Rs (Int32) := fL_law_b3094 e N k23 m v0 v1 v2 v3 v4
def fL_law_b1416 (e : Nat → Nat) (N : Nat) (k23 : Mm → Option Nat → Option Nat → Option Nat → Option Nat → Int32 → Rs (Int32)) (m : Mm) (v0 : Option Nat) (v1 : Option Nat) (v2 : Option Nat) (v3 : Option Nat) (v4 : Int32) : Rs (Int32) := fL_law_b3094 e N k23 m v0 v1 v2 v3 v4
def fL_law_b1472 (e : Nat → Nat) (N : Nat) (k23 : Mm → Option Nat → Option Nat → Option Nat → Option Nat → Int32 → Rs (Int32)) (m : Mm) (v0 : Option Nat) (v1 : Option Nat) (v2 : Option Nat) (v3 : Option Nat) (v4 : Int32) : Rs (Int32) := fL_law_b3094 e N k23 m v0 v1 v2 v3 v4
def fL_law_b1540 (e : Nat → Nat) (N : Nat) (k23 : Mm → Option Nat → Option Nat → Option Nat → Option Nat → Int32 → Rs (Int32)) (m : Mm) (v0 : Option Nat) (v1 : Option Nat) (v2 : Option Nat) (v3 : Option Nat) (v4 : Int32) : Rs (Int32) := fL_law_b3094 e N k23 m v0 v1 v2 v3 v4
def fL_law_b1608 (e : Nat → Nat) (N : Nat) (k23 : Mm → Option Nat → Option Nat → Option Nat → Option Nat → Int32 → Rs (Int32)) (m : Mm) (v0 : Option Nat) (v1 : Option Nat) (v2 : Option Nat) (v3 : Option Nat) (v4 : Int32) : Rs (Int32) := fL_law_b3094 e N k23 m v0 v1 v2 v3 v4
def fL_law_b1664 (e : Nat → Nat) (N : Nat) (k23 : Mm → Option Nat → Option Nat → Option Nat → Option Nat → Int32 → Rs (Int32)) (m : Mm) (v0 : Option Nat) (v1 : Option Nat) (v2 : Option Nat) (v3 : Option Nat) (v4 : Int32) : Rs (Int32) := fL_law_b3094 e N k23 m v0 v1 v2 v3 v4
def fL_law_b1720 (e : Nat → Nat) (N : Nat) (k23 : Mm → Option Nat → Option Nat → Option Nat → Option Nat → Int32 → Rs (Int32)) (m : Mm) (v0 : Option Nat) (v1 : Option Nat) (v2 : Option Nat) (v3 : Option Nat) (v4 : Int32) : Rs (Int32) := fL_law_b3094 e N k23 m v0 v1 v2 v3 v4
def fL_law_b1792 (e : Nat → Nat) (N : Nat) (k23 : Mm → Option Nat → Option Nat → Option Nat → Option Nat → Int32 → Rs (Int32)) (m : Mm) (v0 : Option Nat) (v1 : Option Nat) (v2 : Option Nat) (v3 : Option Nat) (v4 : Int32) : Rs (Int32) := fL_law_b3094 e N k23 m v0 v1 v2 v3 v4
def fL_law_b1759 (e : Nat → Nat) (N : Nat) (k23 : Mm → Option Nat → Option Nat → Option Nat → Option Nat → Int32 → Rs (Int32)) (m : Mm) (v0 : Option Nat) (v1 : Option Nat) (v2 : Option Nat) (v3 : Option Nat) (v4 : Int32) (v5 : Int32) (s0 : Option Nat) (s1 : Int32) : Rs (Int32) := ck_ m s0 4 (bd_ (fX4_combine e N m s0 s1) (fun x1 m1 => ck_ m1 v2 4 (bd_ (fX4_thrown e N m1 v2) (fun x2 m2 => if x2 = v5 then (if v5 = 0 then (aj_ m2 v3 203 0 (fun x3 => if (lg_cmp x3 ((x1 : Int32).toInt64)) = 0 then (fL_law_b1792 e N k23 m2 v0 v1 v2 v3 v4) else (rt_ 0 m2))) else (fL_law_b1792 e N k23 m2 v0 v1 v2 v3 v4)) else (rt_ 0 m2)))))
def fL_law_b1738 (e : Nat → Nat) (N : Nat) (k23 : Mm → Option Nat → Option Nat → Option Nat → Option Nat → Int32 → Rs (Int32)) (m : Mm) (v0 : Option Nat) (v1 : Option Nat) (v2 : Option Nat) (v3 : Option Nat) (v4 : Int32) (s0 : Option Nat) (s1 : Int32) : Rs (Int32) := bd_ (fX0_combine e N m s0 s1 v3) (fun x1 m1 => ai_ m1 v0 200 (v4 + 1) (fun x2 => if x2 = 0 then (fL_law_b1759 e N k23 m1 v0 v1 v2 v3 v4 x1 v2 0) else (fL_law_b1759 e N k23 m1 v0 v1 v2 v3 v4 x1 v2 1)))
def fL_law_b1836 (e : Nat → Nat) (N : Nat) (k23 : Mm → Option Nat → Option Nat → Option Nat → Option Nat → Int32 → Rs (Int32)) (m : Mm) (v0 : Option Nat) (v1 : Option Nat) (v2 : Option Nat) (v3 : Option Nat) (v4 : Int32) : Rs (Int32) := fL_law_b3094 e N k23 m v0 v1 v2 v3 v4
def fL_law_b1929 (e : Nat → Nat) (N : Nat) (k23 : Mm → Option Nat → Option Nat → Option Nat → Option Nat → Int32 → Rs (Int32)) (m : Mm) (v0 : Option Nat) (v1 : Option Nat) (v2 : Option Nat) (v3 : Option Nat) (v4 : Int32) : Rs (Int32) := fL_law_b3094 e N k23 m v0 v1 v2 v3 v4
def fL_law_b2009 (e : Nat → Nat) (N : Nat) (k23 : Mm → Option Nat → Option Nat → Option Nat → Option Nat → Int32 → Rs (Int32)) (m : Mm) (v0 : Option Nat) (v1 : Option Nat) (v2 : Option Nat) (v3 : Option Nat) (v4 : Int32) : Rs (Int32) := fL_law_b3094 e N k23 m v0 v1 v2 v3 v4
def fL_law_b2089 (e : Nat → Nat) (N : Nat) (k23 : Mm → Option Nat → Option Nat → Option Nat → Option Nat → Int32 → Rs (Int32)) (m : Mm) (v0 : Option Nat) (v1 : Option Nat) (v2 : Option Nat) (v3 : Option Nat) (v4 : Int32) : Rs (Int32) := fL_law_b3094 e N k23 m v0 v1 v2 v3 v4
def fL_law_b2145 (e : Nat → Nat) (N : Nat) (k23 : Mm → Option Nat → Option Nat → Option Nat → Option Nat → Int32 → Rs (Int32)) (m : Mm) (v0 : Option Nat) (v1 : Option Nat) (v2 : Option Nat) (v3 : Option Nat) (v4 : Int32) : Rs (Int32) := fL_law_b3094 e N k23 m v0 v1 v2 v3 v4
def fL_law_b2201 (e : Nat → Nat) (N : Nat) (k23 : Mm → Option Nat → Option Nat → Option Nat → Option Nat → Int32 → Rs (Int32)) (m : Mm) (v0 : Option Nat) (v1 : Option Nat) (v2 : Option Nat) (v3 : Option Nat) (v4 : Int32) : Rs (Int32) := fL_law_b3094 e N k23 m v0 v1 v2 v3 v4
def fL_law_b2269 (e : Nat → Nat) (N : Nat) (k23 : Mm → Option Nat → Option Nat → Option Nat → Option Nat → Int32 → Rs (Int32)) (m : Mm) (v0 : Option Nat) (v1 : Option Nat) (v2 : Option Nat) (v3 : Option Nat) (v4 : Int32) : Rs (Int32) := fL_law_b3094 e N k23 m v0 v1 v2 v3 v4
def fL_law_b2337 (e : Nat → Nat) (N : Nat) (k23 : Mm → Option Nat → Option Nat → Option Nat → Option Nat → Int32 → Rs (Int32)) (m : Mm) (v0 : Option Nat) (v1 : Option Nat) (v2 : Option Nat) (v3 : Option Nat) (v4 : Int32) : Rs (Int32) := fL_law_b3094 e N k23 m v0 v1 v2 v3 v4
def fL_law_b2405 (e : Nat → Nat) (N : Nat) (k23 : Mm → Option Nat → Option Nat → Option Nat → Option Nat → Int32 → Rs (Int32)) (m : Mm) (v0 : Option Nat) (v1 : Option Nat) (v2 : Option Nat) (v3 : Option Nat) (v4 : Int32) : Rs (Int32) := fL_law_b3094 e N k23 m v0 v1 v2 v3 v4
def fL_law_b2497 (e : Nat → Nat) (N : Nat) (k23 : Mm → Option Nat → Option Nat → Option Nat → Option Nat → Int32 → Rs (Int32)) (m : Mm) (v0 : Option Nat) (v1 : Option Nat) (v2 : Option Nat) (v3 : Option Nat) (v4 : Int32) : Rs (Int32) := fL_law_b3094 e N k23 m v0 v1 v2 v3 v4
def fL_law_b2577 (e : Nat → Nat) (N : Nat) (k23 : Mm → Option Nat → Option Nat → Option Nat → Option Nat → Int32 → Rs (Int32)) (m : Mm) (v0 : Option Nat) (v1 : Option Nat) (v2 : Option Nat) (v3 : Option Nat) (v4 : Int32) : Rs (Int32) := fL_law_b3094 e N k23 m v0 v1 v2 v3 v4
def fL_law_b2645 (e : Nat → Nat) (N : Nat) (k23 : Mm → Option Nat → Option Nat → Option Nat → Option Nat → Int32 → Rs (Int32)) (m : Mm) (v0 : Option Nat) (v1 : Option Nat) (v2 : Option Nat) (v3 : Option Nat) (v4 : Int32) : Rs (Int32) := fL_law_b3094 e N k23 m v0 v1 v2 v3 v4
def fL_law_b2744 (e : Nat → Nat) (N : Nat) (k23 : Mm → Option Nat → Option Nat → Option Nat → Option Nat → Int32 → Rs (Int32)) (m : Mm) (v0 : Option Nat) (v1 : Option Nat) (v2 : Option Nat) (v3 : Option Nat) (v4 : Int32) : Rs (Int32) := fL_law_b3094 e N k23 m v0 v1 v2 v3 v4
def fL_law_b2738 (e : Nat → Nat) (N : Nat) (k23 : Mm → Option Nat → Option Nat → Option Nat → Option Nat → Int32 → Rs (Int32)) (m : Mm) (v0 : Option Nat) (v1 : Option Nat) (v2 : Option Nat) (v3 : Option Nat) (v4 : Int32) (s0 : Int64) (s1 : Int64) : Rs (Int32) := if (lg_cmp s0 s1) = 0 then (fL_law_b2744 e N k23 m v0 v1 v2 v3 v4) else (rt_ 0 m)
def fL_law_b2824 (e : Nat → Nat) (N : Nat) (k23 : Mm → Option Nat → Option Nat → Option Nat → Option Nat → Int32 → Rs (Int32)) (m : Mm) (v0 : Option Nat) (v1 : Option Nat) (v2 : Option Nat) (v3 : Option Nat) (v4 : Int32) : Rs (Int32) := fL_law_b3094 e N k23 m v0 v1 v2 v3 v4
def fL_law_b2892 (e : Nat → Nat) (N : Nat) (k23 : Mm → Option Nat → Option Nat → Option Nat → Option Nat → Int32 → Rs (Int32)) (m : Mm) (v0 : Option Nat) (v1 : Option Nat) (v2 : Option Nat) (v3 : Option Nat) (v4 : Int32) : Rs (Int32) := fL_law_b3094 e N k23 m v0 v1 v2 v3 v4
def fL_law_b2960 (e : Nat → Nat) (N : Nat) (k23 : Mm → Option Nat → Option Nat → Option Nat → Option Nat → Int32 → Rs (Int32)) (m : Mm) (v0 : Option Nat) (v1 : Option Nat) (v2 : Option Nat) (v3 : Option Nat) (v4 : Int32) : Rs (Int32) := fL_law_b3094 e N k23 m v0 v1 v2 v3 v4
def fL_law_b3016 (e : Nat → Nat) (N : Nat) (k23 : Mm → Option Nat → Option Nat → Option Nat → Option Nat → Int32 → Rs (Int32)) (m : Mm) (v0 : Option Nat) (v1 : Option Nat) (v2 : Option Nat) (v3 : Option Nat) (v4 : Int32) : Rs (Int32) := fL_law_b3094 e N k23 m v0 v1 v2 v3 v4
def fL_law_b3091 (e : Nat → Nat) (N : Nat) (k23 : Mm → Option Nat → Option Nat → Option Nat → Option Nat → Int32 → Rs (Int32)) (m : Mm) (v0 : Option Nat) (v1 : Option Nat) (v2 : Option Nat) (v3 : Option Nat) (v4 : Int32) : Rs (Int32) := fL_law_b3094 e N k23 m v0 v1 v2 v3 v4
def fL_law_b3085 (e : Nat → Nat) (N : Nat) (k23 : Mm → Option Nat → Option Nat → Option Nat → Option Nat → Int32 → Rs (Int32)) (m : Mm) (v0 : Option Nat) (v1 : Option Nat) (v2 : Option Nat) (v3 : Option Nat) (v4 : Int32) (s0 : Int64) (s1 : Int64) : Rs (Int32) := if (lg_cmp s0 s1) = 0 then (fL_law_b3091 e N k23 m v0 v1 v2 v3 v4) else (rt_ 0 m)
def fL_law_b23 (e : Nat → Nat) (N : Nat) : Nat → Mm → Option Nat → Option Nat → Option Nat → Option Nat → Int32 → Rs (Int32)
  | 0, _, _, _, _, _, _ => none
  | F + 1, m, v0, v1, v2, v3, v4 => ln_ m v0 200 (fun x1 => if (x1 - 7) < v4 then (rt_ 1 m) else (ai_ m v0 200 v4 (fun x2 => if (x2 &&& 63) = 0 then (ai_ m v0 200 (v4 + 1) (fun x3 => if x3 = 0 then (fL_law_b231 e N (fL_law_b23 e N F) m v0 v1 v2 v3 v4 v1 0) else (fL_law_b231 e N (fL_law_b23 e N F) m v0 v1 v2 v3 v4 v1 1))) else if (x2 &&& 63) = 1 then (ai_ m v0 200 (v4 + 1) (fun x4 => ai_ m v0 200 (v4 + 2) (fun x5 => ai_ m v0 200 (v4 + 3) (fun x6 => bd_ (fX0_objectClass e N m v1 x4 x5 x6 v3) (fun x7 m1 => ai_ m1 v0 200 (v4 + 1) (fun x8 => ai_ m1 v0 200 (v4 + 2) (fun x9 => ai_ m1 v0 200 (v4 + 3) (fun x10 => ck_ m1 v2 4 (bd_ (fX4_objectClass e N m1 v2 x8 x9 x10) (fun x11 m2 => ck_ m2 v2 4 (bd_ (fX4_thrown e N m2 v2) (fun x12 m3 => if x12 = x7 then (if x7 = 0 then (aj_ m3 v3 203 0 (fun x13 => if (lg_cmp x13 ((x11 : Int32).toInt64)) = 0 then (fL_law_b393 e N (fL_law_b23 e N F) m3 v0 v1 v2 v3 v4) else (rt_ 0 m3))) else (fL_law_b393 e N (fL_law_b23 e N F) m3 v0 v1 v2 v3 v4)) else (rt_ 0 m3))))))))))))) else if (x2 &&& 63) = 2 then (ai_ m v0 200 (v4 + 1) (fun x14 => ai_ m v0 200 (v4 + 2) (fun x15 => bd_ (fX0_serve e N m v1 x14 x15 v3) (fun x16 m4 => ai_ m4 v0 200 (v4 + 1) (fun x17 => ai_ m4 v0 200 (v4 + 2) (fun x18 => ck_ m4 v2 4 (bd_ (fX4_serve e N m4 v2 x17 x18) (fun x19 m5 => ck_ m5 v2 4 (bd_ (fX4_thrown e N m5 v2) (fun x20 m6 => if x20 = x16 then (if x16 = 0 then (aj_ m6 v3 203 0 (fun x21 => if (lg_cmp x21 ((x19 : Int32).toInt64)) = 0 then (fL_law_b461 e N (fL_law_b23 e N F) m6 v0 v1 v2 v3 v4) else (rt_ 0 m6))) else (fL_law_b461 e N (fL_law_b23 e N F) m6 v0 v1 v2 v3 v4)) else (rt_ 0 m6))))))))))) else if (x2 &&& 63) = 3 then (ai_ m v0 200 (v4 + 1) (fun x22 => ai_ m v0 200 (v4 + 2) (fun x23 => bd_ (fX0_draft e N m v1 x22 x23 v3) (fun x24 m7 => ai_ m7 v0 200 (v4 + 1) (fun x25 => ai_ m7 v0 200 (v4 + 2) (fun x26 => ck_ m7 v2 4 (bd_ (fX4_draft e N m7 v2 x25 x26) (fun x27 m8 => ck_ m8 v2 4 (bd_ (fX4_thrown e N m8 v2) (fun x28 m9 => if x28 = x24 then (if x24 = 0 then (aj_ m9 v3 203 0 (fun x29 => if (lg_cmp x29 ((x27 : Int32).toInt64)) = 0 then (fL_law_b529 e N (fL_law_b23 e N F) m9 v0 v1 v2 v3 v4) else (rt_ 0 m9))) else (fL_law_b529 e N (fL_law_b23 e N F) m9 v0 v1 v2 v3 v4)) else (rt_ 0 m9))))))))))) else if (x2 &&& 63) = 4 then (ck_ m v1 1 (bd_ (fX1_undraft e N m v1) (fun x30 m10 => ck_ m10 v2 4 (bd_ (fX4_undraft e N m10 v2) (fun x31 m11 => if x30 = x31 then (fL_law_b3094 e N (fL_law_b23 e N F) m11 v0 v1 v2 v3 v4) else (rt_ 0 m11)))))) else if (x2 &&& 63) = 5 then (ai_ m v0 200 (v4 + 1) (fun x32 => ai_ m v0 200 (v4 + 2) (fun x33 => ai_ m v0 200 (v4 + 3) (fun x34 => ai_ m v0 200 (v4 + 4) (fun x35 => bd_ (fX0_add e N m v1 x32 x33 x34 x35 v3) (fun x36 m12 => ai_ m12 v0 200 (v4 + 1) (fun x37 => ai_ m12 v0 200 (v4 + 2) (fun x38 => ai_ m12 v0 200 (v4 + 3) (fun x39 => ai_ m12 v0 200 (v4 + 4) (fun x40 => ck_ m12 v2 4 (bd_ (fX4_add e N m12 v2 x37 x38 x39 x40) (fun x41 m13 => ck_ m13 v2 4 (bd_ (fX4_thrown e N m13 v2) (fun x42 m14 => if x42 = x36 then (if x36 = 0 then (aj_ m14 v3 203 0 (fun x43 => if (lg_cmp x43 ((x41 : Int32).toInt64)) = 0 then (fL_law_b634 e N (fL_law_b23 e N F) m14 v0 v1 v2 v3 v4) else (rt_ 0 m14))) else (fL_law_b634 e N (fL_law_b23 e N F) m14 v0 v1 v2 v3 v4)) else (rt_ 0 m14))))))))))))))) else if (x2 &&& 63) = 6 then (ai_ m v0 200 (v4 + 1) (fun x44 => ai_ m v0 200 (v4 + 2) (fun x45 => ai_ m v0 200 (v4 + 3) (fun x46 => ai_ m v0 200 (v4 + 4) (fun x47 => bd_ (fX0_addValue e N m v1 x44 x45 x46 x47 v3) (fun x48 m15 => ai_ m15 v0 200 (v4 + 1) (fun x49 => ai_ m15 v0 200 (v4 + 2) (fun x50 => ai_ m15 v0 200 (v4 + 3) (fun x51 => ai_ m15 v0 200 (v4 + 4) (fun x52 => ck_ m15 v2 4 (bd_ (fX4_addValue e N m15 v2 x49 x50 x51 x52) (fun x53 m16 => ck_ m16 v2 4 (bd_ (fX4_thrown e N m16 v2) (fun x54 m17 => if x54 = x48 then (if x48 = 0 then (aj_ m17 v3 203 0 (fun x55 => if (lg_cmp x55 ((x53 : Int32).toInt64)) = 0 then (fL_law_b726 e N (fL_law_b23 e N F) m17 v0 v1 v2 v3 v4) else (rt_ 0 m17))) else (fL_law_b726 e N (fL_law_b23 e N F) m17 v0 v1 v2 v3 v4)) else (rt_ 0 m17))))))))))))))) else if (x2 &&& 63) = 7 then (ai_ m v0 200 (v4 + 1) (fun x56 => ai_ m v0 200 (v4 + 2) (fun x57 => ai_ m v0 200 (v4 + 3) (fun x58 => ai_ m v0 200 (v4 + 4) (fun x59 => bd_ (fX0_removeValue e N m v1 x56 x57 x58 x59 v3) (fun x60 m18 => ai_ m18 v0 200 (v4 + 1) (fun x61 => ai_ m18 v0 200 (v4 + 2) (fun x62 => ai_ m18 v0 200 (v4 + 3) (fun x63 => ai_ m18 v0 200 (v4 + 4) (fun x64 => ck_ m18 v2 4 (bd_ (fX4_removeValue e N m18 v2 x61 x62 x63 x64) (fun x65 m19 => ck_ m19 v2 4 (bd_ (fX4_thrown e N m19 v2) (fun x66 m20 => if x66 = x60 then (if x60 = 0 then (aj_ m20 v3 203 0 (fun x67 => if (lg_cmp x67 ((x65 : Int32).toInt64)) = 0 then (fL_law_b818 e N (fL_law_b23 e N F) m20 v0 v1 v2 v3 v4) else (rt_ 0 m20))) else (fL_law_b818 e N (fL_law_b23 e N F) m20 v0 v1 v2 v3 v4)) else (rt_ 0 m20))))))))))))))) else if (x2 &&& 63) = 8 then (ai_ m v0 200 (v4 + 1) (fun x68 => ai_ m v0 200 (v4 + 2) (fun x69 => ai_ m v0 200 (v4 + 3) (fun x70 => ai_ m v0 200 (v4 + 4) (fun x71 => bd_ (fX0_replace e N m v1 x68 x69 x70 x71 v3) (fun x72 m21 => ai_ m21 v0 200 (v4 + 1) (fun x73 => ai_ m21 v0 200 (v4 + 2) (fun x74 => ai_ m21 v0 200 (v4 + 3) (fun x75 => ai_ m21 v0 200 (v4 + 4) (fun x76 => ck_ m21 v2 4 (bd_ (fX4_replace e N m21 v2 x73 x74 x75 x76) (fun x77 m22 => ck_ m22 v2 4 (bd_ (fX4_thrown e N m22 v2) (fun x78 m23 => if x78 = x72 then (if x72 = 0 then (aj_ m23 v3 203 0 (fun x79 => if (lg_cmp x79 ((x77 : Int32).toInt64)) = 0 then (fL_law_b910 e N (fL_law_b23 e N F) m23 v0 v1 v2 v3 v4) else (rt_ 0 m23))) else (fL_law_b910 e N (fL_law_b23 e N F) m23 v0 v1 v2 v3 v4)) else (rt_ 0 m23))))))))))))))) else if (x2 &&& 63) = 9 then (ai_ m v0 200 (v4 + 1) (fun x80 => ai_ m v0 200 (v4 + 2) (fun x81 => ai_ m v0 200 (v4 + 3) (fun x82 => bd_ (fX0_rename e N m v1 x80 x81 x82 v3) (fun x83 m24 => ai_ m24 v0 200 (v4 + 1) (fun x84 => ai_ m24 v0 200 (v4 + 2) (fun x85 => ai_ m24 v0 200 (v4 + 3) (fun x86 => ck_ m24 v2 4 (bd_ (fX4_rename e N m24 v2 x84 x85 x86) (fun x87 m25 => ck_ m25 v2 4 (bd_ (fX4_thrown e N m25 v2) (fun x88 m26 => if x88 = x83 then (if x83 = 0 then (aj_ m26 v3 203 0 (fun x89 => if (lg_cmp x89 ((x87 : Int32).toInt64)) = 0 then (fL_law_b990 e N (fL_law_b23 e N F) m26 v0 v1 v2 v3 v4) else (rt_ 0 m26))) else (fL_law_b990 e N (fL_law_b23 e N F) m26 v0 v1 v2 v3 v4)) else (rt_ 0 m26))))))))))))) else if (x2 &&& 63) = 10 then (ai_ m v0 200 (v4 + 1) (fun x90 => ai_ m v0 200 (v4 + 2) (fun x91 => ai_ m v0 200 (v4 + 3) (fun x92 => bd_ (fX0_move e N m v1 x90 x91 x92 v3) (fun x93 m27 => ai_ m27 v0 200 (v4 + 1) (fun x94 => ai_ m27 v0 200 (v4 + 2) (fun x95 => ai_ m27 v0 200 (v4 + 3) (fun x96 => ck_ m27 v2 4 (bd_ (fX4_move e N m27 v2 x94 x95 x96) (fun x97 m28 => ck_ m28 v2 4 (bd_ (fX4_thrown e N m28 v2) (fun x98 m29 => if x98 = x93 then (if x93 = 0 then (aj_ m29 v3 203 0 (fun x99 => if (lg_cmp x99 ((x97 : Int32).toInt64)) = 0 then (fL_law_b1070 e N (fL_law_b23 e N F) m29 v0 v1 v2 v3 v4) else (rt_ 0 m29))) else (fL_law_b1070 e N (fL_law_b23 e N F) m29 v0 v1 v2 v3 v4)) else (rt_ 0 m29))))))))))))) else if (x2 &&& 63) = 11 then (ai_ m v0 200 (v4 + 1) (fun x100 => ai_ m v0 200 (v4 + 2) (fun x101 => bd_ (fX0_delete e N m v1 x100 x101 v3) (fun x102 m30 => ai_ m30 v0 200 (v4 + 1) (fun x103 => ai_ m30 v0 200 (v4 + 2) (fun x104 => ck_ m30 v2 4 (bd_ (fX4_delete e N m30 v2 x103 x104) (fun x105 m31 => ck_ m31 v2 4 (bd_ (fX4_thrown e N m31 v2) (fun x106 m32 => if x106 = x102 then (if x102 = 0 then (aj_ m32 v3 203 0 (fun x107 => if (lg_cmp x107 ((x105 : Int32).toInt64)) = 0 then (fL_law_b1138 e N (fL_law_b23 e N F) m32 v0 v1 v2 v3 v4) else (rt_ 0 m32))) else (fL_law_b1138 e N (fL_law_b23 e N F) m32 v0 v1 v2 v3 v4)) else (rt_ 0 m32))))))))))) else if (x2 &&& 63) = 12 then (ai_ m v0 200 (v4 + 1) (fun x108 => ai_ m v0 200 (v4 + 2) (fun x109 => ai_ m v0 200 (v4 + 3) (fun x110 => bd_ (fX0_link e N m v1 x108 x109 x110 v3) (fun x111 m33 => ai_ m33 v0 200 (v4 + 1) (fun x112 => ai_ m33 v0 200 (v4 + 2) (fun x113 => ai_ m33 v0 200 (v4 + 3) (fun x114 => ck_ m33 v2 4 (bd_ (fX4_link e N m33 v2 x112 x113 x114) (fun x115 m34 => ck_ m34 v2 4 (bd_ (fX4_thrown e N m34 v2) (fun x116 m35 => if x116 = x111 then (if x111 = 0 then (aj_ m35 v3 203 0 (fun x117 => if (lg_cmp x117 ((x115 : Int32).toInt64)) = 0 then (fL_law_b1218 e N (fL_law_b23 e N F) m35 v0 v1 v2 v3 v4) else (rt_ 0 m35))) else (fL_law_b1218 e N (fL_law_b23 e N F) m35 v0 v1 v2 v3 v4)) else (rt_ 0 m35))))))))))))) else if (x2 &&& 63) = 13 then (ai_ m v0 200 (v4 + 1) (fun x118 => ai_ m v0 200 (v4 + 2) (fun x119 => ai_ m v0 200 (v4 + 3) (fun x120 => ai_ m v0 200 (v4 + 4) (fun x121 => ai_ m v0 200 (v4 + 5) (fun x122 => ai_ m v0 200 (v4 + 6) (fun x123 => bd_ (fX0_rule e N m v1 x118 x119 x120 x121 x122 x123 v3) (fun x124 m36 => ai_ m36 v0 200 (v4 + 1) (fun x125 => ai_ m36 v0 200 (v4 + 2) (fun x126 => ai_ m36 v0 200 (v4 + 3) (fun x127 => ai_ m36 v0 200 (v4 + 4) (fun x128 => ai_ m36 v0 200 (v4 + 5) (fun x129 => ai_ m36 v0 200 (v4 + 6) (fun x130 => ck_ m36 v2 4 (bd_ (fX4_rule e N m36 v2 x125 x126 x127 x128 x129 x130) (fun x131 m37 => ck_ m37 v2 4 (bd_ (fX4_thrown e N m37 v2) (fun x132 m38 => if x132 = x124 then (if x124 = 0 then (aj_ m38 v3 203 0 (fun x133 => if (lg_cmp x133 ((x131 : Int32).toInt64)) = 0 then (fL_law_b1336 e N (fL_law_b23 e N F) m38 v0 v1 v2 v3 v4) else (rt_ 0 m38))) else (fL_law_b1336 e N (fL_law_b23 e N F) m38 v0 v1 v2 v3 v4)) else (rt_ 0 m38))))))))))))))))))) else if (x2 &&& 63) = 14 then (ai_ m v0 200 (v4 + 1) (fun x134 => ai_ m v0 200 (v4 + 2) (fun x135 => ai_ m v0 200 (v4 + 3) (fun x136 => bd_ (fX0_exchange e N m v1 x134 x135 x136 v3) (fun x137 m39 => ai_ m39 v0 200 (v4 + 1) (fun x138 => ai_ m39 v0 200 (v4 + 2) (fun x139 => ai_ m39 v0 200 (v4 + 3) (fun x140 => ck_ m39 v2 4 (bd_ (fX4_exchange e N m39 v2 x138 x139 x140) (fun x141 m40 => ck_ m40 v2 4 (bd_ (fX4_thrown e N m40 v2) (fun x142 m41 => if x142 = x137 then (if x137 = 0 then (aj_ m41 v3 203 0 (fun x143 => if (lg_cmp x143 ((x141 : Int32).toInt64)) = 0 then (fL_law_b1416 e N (fL_law_b23 e N F) m41 v0 v1 v2 v3 v4) else (rt_ 0 m41))) else (fL_law_b1416 e N (fL_law_b23 e N F) m41 v0 v1 v2 v3 v4)) else (rt_ 0 m41))))))))))))) else if (x2 &&& 63) = 15 then (ai_ m v0 200 (v4 + 1) (fun x144 => bd_ (fX0_sweep e N m v1 x144 v3) (fun x145 m42 => ai_ m42 v0 200 (v4 + 1) (fun x146 => ck_ m42 v2 4 (bd_ (fX4_sweep e N m42 v2 x146) (fun x147 m43 => ck_ m43 v2 4 (bd_ (fX4_thrown e N m43 v2) (fun x148 m44 => if x148 = x145 then (if x145 = 0 then (aj_ m44 v3 203 0 (fun x149 => if (lg_cmp x149 ((x147 : Int32).toInt64)) = 0 then (fL_law_b1472 e N (fL_law_b23 e N F) m44 v0 v1 v2 v3 v4) else (rt_ 0 m44))) else (fL_law_b1472 e N (fL_law_b23 e N F) m44 v0 v1 v2 v3 v4)) else (rt_ 0 m44))))))))) else if (x2 &&& 63) = 16 then (ai_ m v0 200 (v4 + 1) (fun x150 => ai_ m v0 200 (v4 + 2) (fun x151 => bd_ (fX0_equal e N m v1 x150 x151 v3) (fun x152 m45 => ai_ m45 v0 200 (v4 + 1) (fun x153 => ai_ m45 v0 200 (v4 + 2) (fun x154 => ck_ m45 v2 4 (bd_ (fX4_equal e N m45 v2 x153 x154) (fun x155 m46 => ck_ m46 v2 4 (bd_ (fX4_thrown e N m46 v2) (fun x156 m47 => if x156 = x152 then (if x152 = 0 then (aj_ m47 v3 203 0 (fun x157 => if (lg_cmp x157 ((x155 : Int32).toInt64)) = 0 then (fL_law_b1540 e N (fL_law_b23 e N F) m47 v0 v1 v2 v3 v4) else (rt_ 0 m47))) else (fL_law_b1540 e N (fL_law_b23 e N F) m47 v0 v1 v2 v3 v4)) else (rt_ 0 m47))))))))))) else if (x2 &&& 63) = 17 then (ai_ m v0 200 (v4 + 1) (fun x158 => ai_ m v0 200 (v4 + 2) (fun x159 => bd_ (fX0_atLeast e N m v1 x158 x159 v3) (fun x160 m48 => ai_ m48 v0 200 (v4 + 1) (fun x161 => ai_ m48 v0 200 (v4 + 2) (fun x162 => ck_ m48 v2 4 (bd_ (fX4_atLeast e N m48 v2 x161 x162) (fun x163 m49 => ck_ m49 v2 4 (bd_ (fX4_thrown e N m49 v2) (fun x164 m50 => if x164 = x160 then (if x160 = 0 then (aj_ m50 v3 203 0 (fun x165 => if (lg_cmp x165 ((x163 : Int32).toInt64)) = 0 then (fL_law_b1608 e N (fL_law_b23 e N F) m50 v0 v1 v2 v3 v4) else (rt_ 0 m50))) else (fL_law_b1608 e N (fL_law_b23 e N F) m50 v0 v1 v2 v3 v4)) else (rt_ 0 m50))))))))))) else if (x2 &&& 63) = 18 then (ai_ m v0 200 (v4 + 1) (fun x166 => bd_ (fX0_has e N m v1 x166 v3) (fun x167 m51 => ai_ m51 v0 200 (v4 + 1) (fun x168 => ck_ m51 v2 4 (bd_ (fX4_has e N m51 v2 x168) (fun x169 m52 => ck_ m52 v2 4 (bd_ (fX4_thrown e N m52 v2) (fun x170 m53 => if x170 = x167 then (if x167 = 0 then (aj_ m53 v3 203 0 (fun x171 => if (lg_cmp x171 ((x169 : Int32).toInt64)) = 0 then (fL_law_b1664 e N (fL_law_b23 e N F) m53 v0 v1 v2 v3 v4) else (rt_ 0 m53))) else (fL_law_b1664 e N (fL_law_b23 e N F) m53 v0 v1 v2 v3 v4)) else (rt_ 0 m53))))))))) else if (x2 &&& 63) = 19 then (ai_ m v0 200 (v4 + 1) (fun x172 => bd_ (fX0_ofClass e N m v1 x172 v3) (fun x173 m54 => ai_ m54 v0 200 (v4 + 1) (fun x174 => ck_ m54 v2 4 (bd_ (fX4_ofClass e N m54 v2 x174) (fun x175 m55 => ck_ m55 v2 4 (bd_ (fX4_thrown e N m55 v2) (fun x176 m56 => if x176 = x173 then (if x173 = 0 then (aj_ m56 v3 203 0 (fun x177 => if (lg_cmp x177 ((x175 : Int32).toInt64)) = 0 then (fL_law_b1720 e N (fL_law_b23 e N F) m56 v0 v1 v2 v3 v4) else (rt_ 0 m56))) else (fL_law_b1720 e N (fL_law_b23 e N F) m56 v0 v1 v2 v3 v4)) else (rt_ 0 m56))))))))) else if (x2 &&& 63) = 20 then (ai_ m v0 200 (v4 + 1) (fun x178 => if x178 = 0 then (fL_law_b1738 e N (fL_law_b23 e N F) m v0 v1 v2 v3 v4 v1 0) else (fL_law_b1738 e N (fL_law_b23 e N F) m v0 v1 v2 v3 v4 v1 1))) else if (x2 &&& 63) = 21 then (bd_ (fX0_not e N m v1 v3) (fun x179 m57 => ck_ m57 v2 4 (bd_ (fX4_not e N m57 v2) (fun x180 m58 => ck_ m58 v2 4 (bd_ (fX4_thrown e N m58 v2) (fun x181 m59 => if x181 = x179 then (if x179 = 0 then (aj_ m59 v3 203 0 (fun x182 => if (lg_cmp x182 ((x180 : Int32).toInt64)) = 0 then (fL_law_b1836 e N (fL_law_b23 e N F) m59 v0 v1 v2 v3 v4) else (rt_ 0 m59))) else (fL_law_b1836 e N (fL_law_b23 e N F) m59 v0 v1 v2 v3 v4)) else (rt_ 0 m59))))))) else if (x2 &&& 63) = 22 then (ck_ m v1 1 (bd_ (fX1_wipe e N m v1) (fun x183 m60 => ck_ m60 v2 4 (bd_ (fX4_wipe e N m60 v2) (fun x184 m61 => if x183 = x184 then (fL_law_b3094 e N (fL_law_b23 e N F) m61 v0 v1 v2 v3 v4) else (rt_ 0 m61)))))) else if (x2 &&& 63) = 23 then (ai_ m v0 200 (v4 + 1) (fun x185 => ai_ m v0 200 (v4 + 2) (fun x186 => ai_ m v0 200 (v4 + 3) (fun x187 => bd_ (fX0_search e N m v1 x185 x186 x187 v3) (fun x188 m62 => ai_ m62 v0 200 (v4 + 1) (fun x189 => ai_ m62 v0 200 (v4 + 2) (fun x190 => ai_ m62 v0 200 (v4 + 3) (fun x191 => ck_ m62 v2 4 (bd_ (fX4_search e N m62 v2 x189 x190 x191) (fun x192 m63 => ck_ m63 v2 4 (bd_ (fX4_thrown e N m63 v2) (fun x193 m64 => if x193 = x188 then (if x188 = 0 then (aj_ m64 v3 203 0 (fun x194 => if (lg_cmp x194 ((x192 : Int32).toInt64)) = 0 then (fL_law_b1929 e N (fL_law_b23 e N F) m64 v0 v1 v2 v3 v4) else (rt_ 0 m64))) else (fL_law_b1929 e N (fL_law_b23 e N F) m64 v0 v1 v2 v3 v4)) else (rt_ 0 m64))))))))))))) else if (x2 &&& 63) = 24 then (ai_ m v0 200 (v4 + 1) (fun x195 => ai_ m v0 200 (v4 + 2) (fun x196 => ai_ m v0 200 (v4 + 3) (fun x197 => bd_ (fX0_searchByWalk e N m v1 x195 x196 x197 v3) (fun x198 m65 => ai_ m65 v0 200 (v4 + 1) (fun x199 => ai_ m65 v0 200 (v4 + 2) (fun x200 => ai_ m65 v0 200 (v4 + 3) (fun x201 => ck_ m65 v2 4 (bd_ (fX4_searchByWalk e N m65 v2 x199 x200 x201) (fun x202 m66 => ck_ m66 v2 4 (bd_ (fX4_thrown e N m66 v2) (fun x203 m67 => if x203 = x198 then (if x198 = 0 then (aj_ m67 v3 203 0 (fun x204 => if (lg_cmp x204 ((x202 : Int32).toInt64)) = 0 then (fL_law_b2009 e N (fL_law_b23 e N F) m67 v0 v1 v2 v3 v4) else (rt_ 0 m67))) else (fL_law_b2009 e N (fL_law_b23 e N F) m67 v0 v1 v2 v3 v4)) else (rt_ 0 m67))))))))))))) else if (x2 &&& 63) = 25 then (ai_ m v0 200 (v4 + 1) (fun x205 => ai_ m v0 200 (v4 + 2) (fun x206 => ai_ m v0 200 (v4 + 3) (fun x207 => bd_ (fX0_follow e N m v1 x205 x206 x207 v3) (fun x208 m68 => ai_ m68 v0 200 (v4 + 1) (fun x209 => ai_ m68 v0 200 (v4 + 2) (fun x210 => ai_ m68 v0 200 (v4 + 3) (fun x211 => ck_ m68 v2 4 (bd_ (fX4_follow e N m68 v2 x209 x210 x211) (fun x212 m69 => ck_ m69 v2 4 (bd_ (fX4_thrown e N m69 v2) (fun x213 m70 => if x213 = x208 then (if x208 = 0 then (aj_ m70 v3 203 0 (fun x214 => if (lg_cmp x214 ((x212 : Int32).toInt64)) = 0 then (fL_law_b2089 e N (fL_law_b23 e N F) m70 v0 v1 v2 v3 v4) else (rt_ 0 m70))) else (fL_law_b2089 e N (fL_law_b23 e N F) m70 v0 v1 v2 v3 v4)) else (rt_ 0 m70))))))))))))) else if (x2 &&& 63) = 26 then (ai_ m v0 200 (v4 + 1) (fun x215 => bd_ (fX0_found e N m v1 x215 v3) (fun x216 m71 => ai_ m71 v0 200 (v4 + 1) (fun x217 => ck_ m71 v2 4 (bd_ (fX4_found e N m71 v2 x217) (fun x218 m72 => ck_ m72 v2 4 (bd_ (fX4_thrown e N m72 v2) (fun x219 m73 => if x219 = x216 then (if x216 = 0 then (aj_ m73 v3 203 0 (fun x220 => if (lg_cmp x220 ((x218 : Int32).toInt64)) = 0 then (fL_law_b2145 e N (fL_law_b23 e N F) m73 v0 v1 v2 v3 v4) else (rt_ 0 m73))) else (fL_law_b2145 e N (fL_law_b23 e N F) m73 v0 v1 v2 v3 v4)) else (rt_ 0 m73))))))))) else if (x2 &&& 63) = 27 then (ai_ m v0 200 (v4 + 1) (fun x221 => bd_ (fX0_live e N m v1 x221 v3) (fun x222 m74 => ai_ m74 v0 200 (v4 + 1) (fun x223 => ck_ m74 v2 4 (bd_ (fX4_live e N m74 v2 x223) (fun x224 m75 => ck_ m75 v2 4 (bd_ (fX4_thrown e N m75 v2) (fun x225 m76 => if x225 = x222 then (if x222 = 0 then (aj_ m76 v3 203 0 (fun x226 => if (lg_cmp x226 ((x224 : Int32).toInt64)) = 0 then (fL_law_b2201 e N (fL_law_b23 e N F) m76 v0 v1 v2 v3 v4) else (rt_ 0 m76))) else (fL_law_b2201 e N (fL_law_b23 e N F) m76 v0 v1 v2 v3 v4)) else (rt_ 0 m76))))))))) else if (x2 &&& 63) = 28 then (ai_ m v0 200 (v4 + 1) (fun x227 => ai_ m v0 200 (v4 + 2) (fun x228 => bd_ (fX0_parentOf e N m v1 x227 x228 v3) (fun x229 m77 => ai_ m77 v0 200 (v4 + 1) (fun x230 => ai_ m77 v0 200 (v4 + 2) (fun x231 => ck_ m77 v2 4 (bd_ (fX4_parentOf e N m77 v2 x230 x231) (fun x232 m78 => ck_ m78 v2 4 (bd_ (fX4_thrown e N m78 v2) (fun x233 m79 => if x233 = x229 then (if x229 = 0 then (aj_ m79 v3 203 0 (fun x234 => if (lg_cmp x234 ((x232 : Int32).toInt64)) = 0 then (fL_law_b2269 e N (fL_law_b23 e N F) m79 v0 v1 v2 v3 v4) else (rt_ 0 m79))) else (fL_law_b2269 e N (fL_law_b23 e N F) m79 v0 v1 v2 v3 v4)) else (rt_ 0 m79))))))))))) else if (x2 &&& 63) = 29 then (ai_ m v0 200 (v4 + 1) (fun x235 => ai_ m v0 200 (v4 + 2) (fun x236 => bd_ (fX0_parentAnew e N m v1 x235 x236 v3) (fun x237 m80 => ai_ m80 v0 200 (v4 + 1) (fun x238 => ai_ m80 v0 200 (v4 + 2) (fun x239 => ck_ m80 v2 4 (bd_ (fX4_parentAnew e N m80 v2 x238 x239) (fun x240 m81 => ck_ m81 v2 4 (bd_ (fX4_thrown e N m81 v2) (fun x241 m82 => if x241 = x237 then (if x237 = 0 then (aj_ m82 v3 203 0 (fun x242 => if (lg_cmp x242 ((x240 : Int32).toInt64)) = 0 then (fL_law_b2337 e N (fL_law_b23 e N F) m82 v0 v1 v2 v3 v4) else (rt_ 0 m82))) else (fL_law_b2337 e N (fL_law_b23 e N F) m82 v0 v1 v2 v3 v4)) else (rt_ 0 m82))))))))))) else if (x2 &&& 63) = 30 then (ai_ m v0 200 (v4 + 1) (fun x243 => ai_ m v0 200 (v4 + 2) (fun x244 => bd_ (fX0_nameOf e N m v1 x243 x244 v3) (fun x245 m83 => ai_ m83 v0 200 (v4 + 1) (fun x246 => ai_ m83 v0 200 (v4 + 2) (fun x247 => ck_ m83 v2 4 (bd_ (fX4_nameOf e N m83 v2 x246 x247) (fun x248 m84 => ck_ m84 v2 4 (bd_ (fX4_thrown e N m84 v2) (fun x249 m85 => if x249 = x245 then (if x245 = 0 then (aj_ m85 v3 203 0 (fun x250 => if (lg_cmp x250 ((x248 : Int32).toInt64)) = 0 then (fL_law_b2405 e N (fL_law_b23 e N F) m85 v0 v1 v2 v3 v4) else (rt_ 0 m85))) else (fL_law_b2405 e N (fL_law_b23 e N F) m85 v0 v1 v2 v3 v4)) else (rt_ 0 m85))))))))))) else if (x2 &&& 63) = 31 then (ai_ m v0 200 (v4 + 1) (fun x251 => ai_ m v0 200 (v4 + 2) (fun x252 => ai_ m v0 200 (v4 + 3) (fun x253 => ai_ m v0 200 (v4 + 4) (fun x254 => bd_ (fX0_valueAt e N m v1 x251 x252 x253 x254 v3) (fun x255 m86 => ai_ m86 v0 200 (v4 + 1) (fun x256 => ai_ m86 v0 200 (v4 + 2) (fun x257 => ai_ m86 v0 200 (v4 + 3) (fun x258 => ai_ m86 v0 200 (v4 + 4) (fun x259 => ck_ m86 v2 4 (bd_ (fX4_valueAt e N m86 v2 x256 x257 x258 x259) (fun x260 m87 => ck_ m87 v2 4 (bd_ (fX4_thrown e N m87 v2) (fun x261 m88 => if x261 = x255 then (if x255 = 0 then (aj_ m88 v3 203 0 (fun x262 => if (lg_cmp x262 ((x260 : Int32).toInt64)) = 0 then (fL_law_b2497 e N (fL_law_b23 e N F) m88 v0 v1 v2 v3 v4) else (rt_ 0 m88))) else (fL_law_b2497 e N (fL_law_b23 e N F) m88 v0 v1 v2 v3 v4)) else (rt_ 0 m88))))))))))))))) else if (x2 &&& 63) = 32 then (ai_ m v0 200 (v4 + 1) (fun x263 => ai_ m v0 200 (v4 + 2) (fun x264 => ai_ m v0 200 (v4 + 3) (fun x265 => bd_ (fX0_valuesAnew e N m v1 x263 x264 x265 v3) (fun x266 m89 => ai_ m89 v0 200 (v4 + 1) (fun x267 => ai_ m89 v0 200 (v4 + 2) (fun x268 => ai_ m89 v0 200 (v4 + 3) (fun x269 => ck_ m89 v2 4 (bd_ (fX4_valuesAnew e N m89 v2 x267 x268 x269) (fun x270 m90 => ck_ m90 v2 4 (bd_ (fX4_thrown e N m90 v2) (fun x271 m91 => if x271 = x266 then (if x266 = 0 then (aj_ m91 v3 203 0 (fun x272 => if (lg_cmp x272 ((x270 : Int32).toInt64)) = 0 then (fL_law_b2577 e N (fL_law_b23 e N F) m91 v0 v1 v2 v3 v4) else (rt_ 0 m91))) else (fL_law_b2577 e N (fL_law_b23 e N F) m91 v0 v1 v2 v3 v4)) else (rt_ 0 m91))))))))))))) else if (x2 &&& 63) = 33 then (ai_ m v0 200 (v4 + 1) (fun x273 => ai_ m v0 200 (v4 + 2) (fun x274 => bd_ (fX0_linkOf e N m v1 x273 x274 v3) (fun x275 m92 => ai_ m92 v0 200 (v4 + 1) (fun x276 => ai_ m92 v0 200 (v4 + 2) (fun x277 => ck_ m92 v2 4 (bd_ (fX4_linkOf e N m92 v2 x276 x277) (fun x278 m93 => ck_ m93 v2 4 (bd_ (fX4_thrown e N m93 v2) (fun x279 m94 => if x279 = x275 then (if x275 = 0 then (aj_ m94 v3 203 0 (fun x280 => if (lg_cmp x280 ((x278 : Int32).toInt64)) = 0 then (fL_law_b2645 e N (fL_law_b23 e N F) m94 v0 v1 v2 v3 v4) else (rt_ 0 m94))) else (fL_law_b2645 e N (fL_law_b23 e N F) m94 v0 v1 v2 v3 v4)) else (rt_ 0 m94))))))))))) else if (x2 &&& 63) = 34 then (ai_ m v0 200 (v4 + 1) (fun x281 => ai_ m v0 200 (v4 + 2) (fun x282 => ai_ m v0 200 (v4 + 3) (fun x283 => ai_ m v0 200 (v4 + 4) (fun x284 => bd_ (fX0_may e N m v1 x281 x282 x283 x284 v3) (fun x285 m95 => ai_ m95 v0 200 (v4 + 1) (fun x286 => ai_ m95 v0 200 (v4 + 2) (fun x287 => ai_ m95 v0 200 (v4 + 3) (fun x288 => ai_ m95 v0 200 (v4 + 4) (fun x289 => ck_ m95 v2 4 (bd_ (fX4_may e N m95 v2 x286 x287 x288 x289) (fun x290 m96 => ck_ m96 v2 4 (bd_ (fX4_thrown e N m96 v2) (fun x291 m97 => if x291 = x285 then (if x285 = 0 then (aj_ m97 v3 203 0 (fun x292 => if x290 = 0 then (fL_law_b2738 e N (fL_law_b23 e N F) m97 v0 v1 v2 v3 v4 x292 0) else (fL_law_b2738 e N (fL_law_b23 e N F) m97 v0 v1 v2 v3 v4 x292 1))) else (fL_law_b2744 e N (fL_law_b23 e N F) m97 v0 v1 v2 v3 v4)) else (rt_ 0 m97))))))))))))))) else if (x2 &&& 63) = 35 then (ai_ m v0 200 (v4 + 1) (fun x293 => ai_ m v0 200 (v4 + 2) (fun x294 => ai_ m v0 200 (v4 + 3) (fun x295 => bd_ (fX0_childAt e N m v1 x293 x294 x295 v3) (fun x296 m98 => ai_ m98 v0 200 (v4 + 1) (fun x297 => ai_ m98 v0 200 (v4 + 2) (fun x298 => ai_ m98 v0 200 (v4 + 3) (fun x299 => ck_ m98 v2 4 (bd_ (fX4_childAt e N m98 v2 x297 x298 x299) (fun x300 m99 => ck_ m99 v2 4 (bd_ (fX4_thrown e N m99 v2) (fun x301 m100 => if x301 = x296 then (if x296 = 0 then (aj_ m100 v3 203 0 (fun x302 => if (lg_cmp x302 ((x300 : Int32).toInt64)) = 0 then (fL_law_b2824 e N (fL_law_b23 e N F) m100 v0 v1 v2 v3 v4) else (rt_ 0 m100))) else (fL_law_b2824 e N (fL_law_b23 e N F) m100 v0 v1 v2 v3 v4)) else (rt_ 0 m100))))))))))))) else if (x2 &&& 63) = 36 then (ai_ m v0 200 (v4 + 1) (fun x303 => ai_ m v0 200 (v4 + 2) (fun x304 => bd_ (fX0_conflicts e N m v1 x303 x304 v3) (fun x305 m101 => ai_ m101 v0 200 (v4 + 1) (fun x306 => ai_ m101 v0 200 (v4 + 2) (fun x307 => ck_ m101 v2 4 (bd_ (fX4_conflicts e N m101 v2 x306 x307) (fun x308 m102 => ck_ m102 v2 4 (bd_ (fX4_thrown e N m102 v2) (fun x309 m103 => if x309 = x305 then (if x305 = 0 then (aj_ m103 v3 203 0 (fun x310 => if (lg_cmp x310 ((x308 : Int32).toInt64)) = 0 then (fL_law_b2892 e N (fL_law_b23 e N F) m103 v0 v1 v2 v3 v4) else (rt_ 0 m103))) else (fL_law_b2892 e N (fL_law_b23 e N F) m103 v0 v1 v2 v3 v4)) else (rt_ 0 m103))))))))))) else if (x2 &&& 63) = 37 then (ai_ m v0 200 (v4 + 1) (fun x311 => ai_ m v0 200 (v4 + 2) (fun x312 => bd_ (fX0_knows e N m v1 x311 x312 v3) (fun x313 m104 => ai_ m104 v0 200 (v4 + 1) (fun x314 => ai_ m104 v0 200 (v4 + 2) (fun x315 => ck_ m104 v2 4 (bd_ (fX4_knows e N m104 v2 x314 x315) (fun x316 m105 => ck_ m105 v2 4 (bd_ (fX4_thrown e N m105 v2) (fun x317 m106 => if x317 = x313 then (if x313 = 0 then (aj_ m106 v3 203 0 (fun x318 => if (lg_cmp x318 ((x316 : Int32).toInt64)) = 0 then (fL_law_b2960 e N (fL_law_b23 e N F) m106 v0 v1 v2 v3 v4) else (rt_ 0 m106))) else (fL_law_b2960 e N (fL_law_b23 e N F) m106 v0 v1 v2 v3 v4)) else (rt_ 0 m106))))))))))) else if (x2 &&& 63) = 38 then (ai_ m v0 200 (v4 + 1) (fun x319 => bd_ (fX0_marks e N m v1 x319 v3) (fun x320 m107 => ai_ m107 v0 200 (v4 + 1) (fun x321 => ck_ m107 v2 4 (bd_ (fX4_marks e N m107 v2 x321) (fun x322 m108 => ck_ m108 v2 4 (bd_ (fX4_thrown e N m108 v2) (fun x323 m109 => if x323 = x320 then (if x320 = 0 then (aj_ m109 v3 203 0 (fun x324 => if (lg_cmp x324 ((x322 : Int32).toInt64)) = 0 then (fL_law_b3016 e N (fL_law_b23 e N F) m109 v0 v1 v2 v3 v4) else (rt_ 0 m109))) else (fL_law_b3016 e N (fL_law_b23 e N F) m109 v0 v1 v2 v3 v4)) else (rt_ 0 m109))))))))) else if (x2 &&& 63) = 39 then (ai_ m v0 200 (v4 + 1) (fun x325 => ai_ m v0 200 (v4 + 2) (fun x326 => bd_ (fX0_areAlike e N m v1 x325 x326 v3) (fun x327 m110 => ai_ m110 v0 200 (v4 + 1) (fun x328 => ai_ m110 v0 200 (v4 + 2) (fun x329 => ck_ m110 v2 4 (bd_ (fX4_areAlike e N m110 v2 x328 x329) (fun x330 m111 => ck_ m111 v2 4 (bd_ (fX4_thrown e N m111 v2) (fun x331 m112 => if x331 = x327 then (if x327 = 0 then (aj_ m112 v3 203 0 (fun x332 => if x330 = 0 then (fL_law_b3085 e N (fL_law_b23 e N F) m112 v0 v1 v2 v3 v4 x332 0) else (fL_law_b3085 e N (fL_law_b23 e N F) m112 v0 v1 v2 v3 v4 x332 1))) else (fL_law_b3091 e N (fL_law_b23 e N F) m112 v0 v1 v2 v3 v4)) else (rt_ 0 m112))))))))))) else od_ (x2 &&& 63) 0 39 (fL_law_b3094 e N (fL_law_b23 e N F) m v0 v1 v2 v3 v4))))
def fL_law (e : Nat → Nat) (N : Nat) (m : Mm) (v0 : Option Nat) : Rs (Int32) := nw_ m 1 9 (fun x1 m1 => bd_ (fX1_init e N m1 (some x1)) (fun _ m2 => nw_ m2 4 67 (fun x2 m3 => bd_ (fX4_init e N m3 (some x2)) (fun _ m4 => na_ m4 203 1 (fun x3 m5 => fL_law_b23 e N N m5 v0 (some x1) (some x2) (some x3) 0)))))
theorem wL_law_b3094 {l : Launch} {g : GG} {E : Me_} (C : Cx_ l g E "MasterTreeLaw" cL_law 7 40) (hret : (eT_ E).sig.returnType = (some .boolean)) (h0 : ∀ x ∈ (eC_ E).exceptionTable.toList, False) (hin : (eT_ E).name = "law") (N : Nat) {k23 : Mm → Option Nat → Option Nat → Option Nat → Option Nat → Int32 → Rs (Int32)} (hk23 : ∀ (m : Mm) (v0 : Option Nat) (v1 : Option Nat) (v2 : Option Nat) (v3 : Option Nat) (v4 : Int32) (k n : Nat), Sm_ l g E 7 en_i (k23 m v0 v1 v2 v3 v4) k n 23 [(0, vr_ v0), (1, vr_ v1), (2, vr_ v2), (3, vr_ v3), (4, vi_ v4)] [] m) : ∀ (m : Mm) (v0 : Option Nat) (v1 : Option Nat) (v2 : Option Nat) (v3 : Option Nat) (v4 : Int32) (k n : Nat), Sm_ l g E 7 en_i (fL_law_b3094 (gE_ g) N k23 m v0 v1 v2 v3 v4) k n 3094 [(0, vr_ v0), (1, vr_ v1), (2, vr_ v2), (3, vr_ v3), (4, vi_ v4)] [] m := by
  intro m v0 v1 v2 v3 v4 k n
  unfold fL_law_b3094
  refine s_iinc C 7 rfl 4 rfl (Nat.le_of_ble_eq_true rfl) [0, 1, 2, 3] rfl rfl dL_law_3094 3097 rfl ?_
  refine s_goto C (off := -3074) 23 dL_law_3097 rfl ?_
  refine Sm_sub [1, 2, 3, 4, 0] rfl ?_
  exact hk23 _ _ _ _ _ _ _ _
theorem wL_law_b313 {l : Launch} {g : GG} {E : Me_} (C : Cx_ l g E "MasterTreeLaw" cL_law 7 40) (hret : (eT_ E).sig.returnType = (some .boolean)) (h0 : ∀ x ∈ (eC_ E).exceptionTable.toList, False) (hin : (eT_ E).name = "law") (N : Nat) {k23 : Mm → Option Nat → Option Nat → Option Nat → Option Nat → Int32 → Rs (Int32)} (hk23 : ∀ (m : Mm) (v0 : Option Nat) (v1 : Option Nat) (v2 : Option Nat) (v3 : Option Nat) (v4 : Int32) (k n : Nat), Sm_ l g E 7 en_i (k23 m v0 v1 v2 v3 v4) k n 23 [(0, vr_ v0), (1, vr_ v1), (2, vr_ v2), (3, vr_ v3), (4, vi_ v4)] [] m) : ∀ (m : Mm) (v0 : Option Nat) (v1 : Option Nat) (v2 : Option Nat) (v3 : Option Nat) (v4 : Int32) (k n : Nat), Sm_ l g E 7 en_i (fL_law_b313 (gE_ g) N k23 m v0 v1 v2 v3 v4) k n 313 [(0, vr_ v0), (1, vr_ v1), (2, vr_ v2), (3, vr_ v3), (4, vi_ v4)] [] m := by
  intro m v0 v1 v2 v3 v4 k n
  unfold fL_law_b313
  refine s_goto C (off := 2781) 3094 dL_law_313 rfl ?_
  exact wL_law_b3094 C hret h0 hin N hk23 _ _ _ _ _ _ _ _
theorem wL_law_b280 {l : Launch} {g : GG} {E : Me_} (C : Cx_ l g E "MasterTreeLaw" cL_law 7 40) (hret : (eT_ E).sig.returnType = (some .boolean)) (h0 : ∀ x ∈ (eC_ E).exceptionTable.toList, False) (hin : (eT_ E).name = "law") (N : Nat) {k23 : Mm → Option Nat → Option Nat → Option Nat → Option Nat → Int32 → Rs (Int32)} (hk23 : ∀ (m : Mm) (v0 : Option Nat) (v1 : Option Nat) (v2 : Option Nat) (v3 : Option Nat) (v4 : Int32) (k n : Nat), Sm_ l g E 7 en_i (k23 m v0 v1 v2 v3 v4) k n 23 [(0, vr_ v0), (1, vr_ v1), (2, vr_ v2), (3, vr_ v3), (4, vi_ v4)] [] m) : ∀ (m : Mm) (v0 : Option Nat) (v1 : Option Nat) (v2 : Option Nat) (v3 : Option Nat) (v4 : Int32) (v5 : Int32) (s0 : Option Nat) (s1 : Int32) (s2 : Int32) (k n : Nat), Sm_ l g E 7 en_i (fL_law_b280 (gE_ g) N k23 m v0 v1 v2 v3 v4 v5 s0 s1 s2) k n 280 [(0, vr_ v0), (1, vr_ v1), (2, vr_ v2), (3, vr_ v3), (4, vi_ v4), (5, vi_ v5)] [vi_ s2, vi_ s1, vr_ s0] m := by
  intro m v0 v1 v2 v3 v4 v5 s0 s1 s2 k n
  unfold fL_law_b280
  refine x_ck (fun hb_ hb0_ => ?_)
  refine x_callV (enc := en_i) C 11 2 [vi_ s1, vi_ s2] 4 (ctX4_attribute C.2.2.2.2.2.2.2.2.1 N m s0 s1 s2) hb_ hb0_ rfl rfl q3362 q3363 q3364 q93 q3365 hdX4_attribute (Nat.le_of_ble_eq_true rfl) (Nat.le_of_ble_eq_true rfl) rfl (Nat.le_of_ble_eq_true rfl) dL_law_280 283 rfl rfl hen_i (kk_i (fun x1 m1 k1 n1 => ?_)) (kx_n he_i)
  refine s_istore C (Nat.le_of_ble_eq_true rfl) [0, 1, 2, 3, 4, 5] rfl rfl dL_law_283 285 rfl ?_
  refine s_aload_n C rfl 3 rfl dL_law_285 286 rfl ?_
  refine x_ck (fun hb_ hb0_ => ?_)
  refine x_callV (enc := en_i) C 10 0 [] 4 (ctX4_thrown C.2.2.2.2.2.2.2.2.1 N m1 v2) hb_ hb0_ rfl rfl q3358 q3359 q3360 q93 q3361 hdX4_thrown (Nat.le_of_ble_eq_true rfl) (Nat.le_of_ble_eq_true rfl) rfl (Nat.le_of_ble_eq_true rfl) dL_law_286 289 rfl rfl hen_i (kk_i (fun x2 m2 k1 n1 => ?_)) (kx_n he_i)
  refine s_iload C 6 rfl dL_law_289 291 rfl ?_
  refine s_icmp_eq C dL_law_291 296 rfl 294 rfl (fun c_ => ?_) (fun c_ => ?_)
  · refine s_iload C 6 rfl dL_law_296 298 rfl ?_
    refine s_if_ne C dL_law_298 313 rfl 301 rfl (fun c_ => ?_) (fun c_ => ?_)
    · refine s_aload_n C rfl 4 rfl dL_law_301 302 rfl ?_
      refine s_iconst C 0 rfl dL_law_302 303 rfl ?_
      refine x_aj3 C 203 rfl dL_law_303 304 rfl (fun x3 => ?_)
      refine s_iload C 0 rfl dL_law_304 306 rfl ?_
      refine s_i2l C dL_law_306 307 rfl ?_
      refine s_lcmp C dL_law_307 308 rfl ?_
      refine s_if_eq C dL_law_308 313 rfl 311 rfl (fun c_ => ?_) (fun c_ => ?_)
      · refine Sm_sub [1, 2, 3, 4, 5] rfl ?_
        exact wL_law_b313 C hret h0 hin N hk23 _ _ _ _ _ _ _ _
      · refine s_iconst C 0 rfl dL_law_311 312 rfl ?_
        exact x_zret0 C hret (by decide) rfl dL_law_312
    · refine Sm_sub [1, 2, 3, 4, 5] rfl ?_
      exact wL_law_b313 C hret h0 hin N hk23 _ _ _ _ _ _ _ _
  · refine s_iconst C 0 rfl dL_law_294 295 rfl ?_
    exact x_zret0 C hret (by decide) rfl dL_law_295
theorem wL_law_b266 {l : Launch} {g : GG} {E : Me_} (C : Cx_ l g E "MasterTreeLaw" cL_law 7 40) (hret : (eT_ E).sig.returnType = (some .boolean)) (h0 : ∀ x ∈ (eC_ E).exceptionTable.toList, False) (hin : (eT_ E).name = "law") (N : Nat) {k23 : Mm → Option Nat → Option Nat → Option Nat → Option Nat → Int32 → Rs (Int32)} (hk23 : ∀ (m : Mm) (v0 : Option Nat) (v1 : Option Nat) (v2 : Option Nat) (v3 : Option Nat) (v4 : Int32) (k n : Nat), Sm_ l g E 7 en_i (k23 m v0 v1 v2 v3 v4) k n 23 [(0, vr_ v0), (1, vr_ v1), (2, vr_ v2), (3, vr_ v3), (4, vi_ v4)] [] m) : ∀ (m : Mm) (v0 : Option Nat) (v1 : Option Nat) (v2 : Option Nat) (v3 : Option Nat) (v4 : Int32) (v5 : Int32) (s0 : Option Nat) (s1 : Int32) (k n : Nat), Sm_ l g E 7 en_i (fL_law_b266 (gE_ g) N k23 m v0 v1 v2 v3 v4 v5 s0 s1) k n 266 [(0, vr_ v0), (1, vr_ v1), (2, vr_ v2), (3, vr_ v3), (4, vi_ v4), (5, vi_ v5)] [vi_ s1, vr_ s0] m := by
  intro m v0 v1 v2 v3 v4 v5 s0 s1 k n
  unfold fL_law_b266
  refine s_aload_n C rfl 0 rfl dL_law_266 267 rfl ?_
  refine s_iload C 4 rfl dL_law_267 269 rfl ?_
  refine s_iconst C 2 rfl dL_law_269 270 rfl ?_
  refine s_iadd C dL_law_270 271 rfl ?_
  refine x_ai0 C 200 rfl dL_law_271 272 rfl (fun x1 => ?_)
  refine s_if_eq C dL_law_272 279 rfl 275 rfl (fun c_ => ?_) (fun c_ => ?_)
  · refine s_iconst C 0 rfl dL_law_279 280 rfl ?_
    exact wL_law_b280 C hret h0 hin N hk23 _ _ _ _ _ _ _ _ _ _ _ _
  · refine s_iconst C 1 rfl dL_law_275 276 rfl ?_
    refine s_goto C (off := 4) 280 dL_law_276 rfl ?_
    exact wL_law_b280 C hret h0 hin N hk23 _ _ _ _ _ _ _ _ _ _ _ _
theorem wL_law_b245 {l : Launch} {g : GG} {E : Me_} (C : Cx_ l g E "MasterTreeLaw" cL_law 7 40) (hret : (eT_ E).sig.returnType = (some .boolean)) (h0 : ∀ x ∈ (eC_ E).exceptionTable.toList, False) (hin : (eT_ E).name = "law") (N : Nat) {k23 : Mm → Option Nat → Option Nat → Option Nat → Option Nat → Int32 → Rs (Int32)} (hk23 : ∀ (m : Mm) (v0 : Option Nat) (v1 : Option Nat) (v2 : Option Nat) (v3 : Option Nat) (v4 : Int32) (k n : Nat), Sm_ l g E 7 en_i (k23 m v0 v1 v2 v3 v4) k n 23 [(0, vr_ v0), (1, vr_ v1), (2, vr_ v2), (3, vr_ v3), (4, vi_ v4)] [] m) : ∀ (m : Mm) (v0 : Option Nat) (v1 : Option Nat) (v2 : Option Nat) (v3 : Option Nat) (v4 : Int32) (s0 : Option Nat) (s1 : Int32) (s2 : Int32) (k n : Nat), Sm_ l g E 7 en_i (fL_law_b245 (gE_ g) N k23 m v0 v1 v2 v3 v4 s0 s1 s2) k n 245 [(0, vr_ v0), (1, vr_ v1), (2, vr_ v2), (3, vr_ v3), (4, vi_ v4)] [vi_ s2, vi_ s1, vr_ s0] m := by
  intro m v0 v1 v2 v3 v4 s0 s1 s2 k n
  unfold fL_law_b245
  refine s_aload_n C rfl 3 rfl dL_law_245 246 rfl ?_
  refine x_callSW (enc := en_i) C 17 4 [vr_ s0, vi_ s1, vi_ s2, vr_ v3] (ctX0_attribute C.2.2.2.2.2.2.2.2.1 N m s0 s1 s2 v3) q501 q502 q80 q503 hdX0_attribute (Nat.le_of_ble_eq_true rfl) (Nat.le_of_ble_eq_true rfl) rfl (Nat.le_of_ble_eq_true rfl) dL_law_246 249 rfl rfl hen_i (kk_i (fun x1 m1 k1 n1 => ?_)) (kx_n he_i)
  refine s_istore C (Nat.le_of_ble_eq_true rfl) [0, 1, 2, 3, 4] rfl rfl dL_law_249 251 rfl ?_
  refine s_aload_n C rfl 3 rfl dL_law_251 252 rfl ?_
  refine s_aload_n C rfl 1 rfl dL_law_252 253 rfl ?_
  refine s_iload C 5 rfl dL_law_253 255 rfl ?_
  refine s_iconst C 1 rfl dL_law_255 256 rfl ?_
  refine s_iadd C dL_law_256 257 rfl ?_
  refine x_ai0 C 200 rfl dL_law_257 258 rfl (fun x2 => ?_)
  refine s_if_eq C dL_law_258 265 rfl 261 rfl (fun c_ => ?_) (fun c_ => ?_)
  · refine s_iconst C 0 rfl dL_law_265 266 rfl ?_
    refine Sm_sub [1, 2, 3, 4, 5, 0] rfl ?_
    exact wL_law_b266 C hret h0 hin N hk23 _ _ _ _ _ _ _ _ _ _ _
  · refine s_iconst C 1 rfl dL_law_261 262 rfl ?_
    refine s_goto C (off := 4) 266 dL_law_262 rfl ?_
    refine Sm_sub [1, 2, 3, 4, 5, 0] rfl ?_
    exact wL_law_b266 C hret h0 hin N hk23 _ _ _ _ _ _ _ _ _ _ _
theorem wL_law_b231 {l : Launch} {g : GG} {E : Me_} (C : Cx_ l g E "MasterTreeLaw" cL_law 7 40) (hret : (eT_ E).sig.returnType = (some .boolean)) (h0 : ∀ x ∈ (eC_ E).exceptionTable.toList, False) (hin : (eT_ E).name = "law") (N : Nat) {k23 : Mm → Option Nat → Option Nat → Option Nat → Option Nat → Int32 → Rs (Int32)} (hk23 : ∀ (m : Mm) (v0 : Option Nat) (v1 : Option Nat) (v2 : Option Nat) (v3 : Option Nat) (v4 : Int32) (k n : Nat), Sm_ l g E 7 en_i (k23 m v0 v1 v2 v3 v4) k n 23 [(0, vr_ v0), (1, vr_ v1), (2, vr_ v2), (3, vr_ v3), (4, vi_ v4)] [] m) : ∀ (m : Mm) (v0 : Option Nat) (v1 : Option Nat) (v2 : Option Nat) (v3 : Option Nat) (v4 : Int32) (s0 : Option Nat) (s1 : Int32) (k n : Nat), Sm_ l g E 7 en_i (fL_law_b231 (gE_ g) N k23 m v0 v1 v2 v3 v4 s0 s1) k n 231 [(0, vr_ v0), (1, vr_ v1), (2, vr_ v2), (3, vr_ v3), (4, vi_ v4)] [vi_ s1, vr_ s0] m := by
  intro m v0 v1 v2 v3 v4 s0 s1 k n
  unfold fL_law_b231
  refine s_aload_n C rfl 0 rfl dL_law_231 232 rfl ?_
  refine s_iload C 4 rfl dL_law_232 234 rfl ?_
  refine s_iconst C 2 rfl dL_law_234 235 rfl ?_
  refine s_iadd C dL_law_235 236 rfl ?_
  refine x_ai0 C 200 rfl dL_law_236 237 rfl (fun x1 => ?_)
  refine s_if_eq C dL_law_237 244 rfl 240 rfl (fun c_ => ?_) (fun c_ => ?_)
  · refine s_iconst C 0 rfl dL_law_244 245 rfl ?_
    exact wL_law_b245 C hret h0 hin N hk23 _ _ _ _ _ _ _ _ _ _ _
  · refine s_iconst C 1 rfl dL_law_240 241 rfl ?_
    refine s_goto C (off := 4) 245 dL_law_241 rfl ?_
    exact wL_law_b245 C hret h0 hin N hk23 _ _ _ _ _ _ _ _ _ _ _
theorem wL_law_b393 {l : Launch} {g : GG} {E : Me_} (C : Cx_ l g E "MasterTreeLaw" cL_law 7 40) (hret : (eT_ E).sig.returnType = (some .boolean)) (h0 : ∀ x ∈ (eC_ E).exceptionTable.toList, False) (hin : (eT_ E).name = "law") (N : Nat) {k23 : Mm → Option Nat → Option Nat → Option Nat → Option Nat → Int32 → Rs (Int32)} (hk23 : ∀ (m : Mm) (v0 : Option Nat) (v1 : Option Nat) (v2 : Option Nat) (v3 : Option Nat) (v4 : Int32) (k n : Nat), Sm_ l g E 7 en_i (k23 m v0 v1 v2 v3 v4) k n 23 [(0, vr_ v0), (1, vr_ v1), (2, vr_ v2), (3, vr_ v3), (4, vi_ v4)] [] m) : ∀ (m : Mm) (v0 : Option Nat) (v1 : Option Nat) (v2 : Option Nat) (v3 : Option Nat) (v4 : Int32) (k n : Nat), Sm_ l g E 7 en_i (fL_law_b393 (gE_ g) N k23 m v0 v1 v2 v3 v4) k n 393 [(0, vr_ v0), (1, vr_ v1), (2, vr_ v2), (3, vr_ v3), (4, vi_ v4)] [] m := by
  intro m v0 v1 v2 v3 v4 k n
  unfold fL_law_b393
  refine s_goto C (off := 2701) 3094 dL_law_393 rfl ?_
  exact wL_law_b3094 C hret h0 hin N hk23 _ _ _ _ _ _ _ _
theorem wL_law_b461 {l : Launch} {g : GG} {E : Me_} (C : Cx_ l g E "MasterTreeLaw" cL_law 7 40) (hret : (eT_ E).sig.returnType = (some .boolean)) (h0 : ∀ x ∈ (eC_ E).exceptionTable.toList, False) (hin : (eT_ E).name = "law") (N : Nat) {k23 : Mm → Option Nat → Option Nat → Option Nat → Option Nat → Int32 → Rs (Int32)} (hk23 : ∀ (m : Mm) (v0 : Option Nat) (v1 : Option Nat) (v2 : Option Nat) (v3 : Option Nat) (v4 : Int32) (k n : Nat), Sm_ l g E 7 en_i (k23 m v0 v1 v2 v3 v4) k n 23 [(0, vr_ v0), (1, vr_ v1), (2, vr_ v2), (3, vr_ v3), (4, vi_ v4)] [] m) : ∀ (m : Mm) (v0 : Option Nat) (v1 : Option Nat) (v2 : Option Nat) (v3 : Option Nat) (v4 : Int32) (k n : Nat), Sm_ l g E 7 en_i (fL_law_b461 (gE_ g) N k23 m v0 v1 v2 v3 v4) k n 461 [(0, vr_ v0), (1, vr_ v1), (2, vr_ v2), (3, vr_ v3), (4, vi_ v4)] [] m := by
  intro m v0 v1 v2 v3 v4 k n
  unfold fL_law_b461
  refine s_goto C (off := 2633) 3094 dL_law_461 rfl ?_
  exact wL_law_b3094 C hret h0 hin N hk23 _ _ _ _ _ _ _ _
theorem wL_law_b529 {l : Launch} {g : GG} {E : Me_} (C : Cx_ l g E "MasterTreeLaw" cL_law 7 40) (hret : (eT_ E).sig.returnType = (some .boolean)) (h0 : ∀ x ∈ (eC_ E).exceptionTable.toList, False) (hin : (eT_ E).name = "law") (N : Nat) {k23 : Mm → Option Nat → Option Nat → Option Nat → Option Nat → Int32 → Rs (Int32)} (hk23 : ∀ (m : Mm) (v0 : Option Nat) (v1 : Option Nat) (v2 : Option Nat) (v3 : Option Nat) (v4 : Int32) (k n : Nat), Sm_ l g E 7 en_i (k23 m v0 v1 v2 v3 v4) k n 23 [(0, vr_ v0), (1, vr_ v1), (2, vr_ v2), (3, vr_ v3), (4, vi_ v4)] [] m) : ∀ (m : Mm) (v0 : Option Nat) (v1 : Option Nat) (v2 : Option Nat) (v3 : Option Nat) (v4 : Int32) (k n : Nat), Sm_ l g E 7 en_i (fL_law_b529 (gE_ g) N k23 m v0 v1 v2 v3 v4) k n 529 [(0, vr_ v0), (1, vr_ v1), (2, vr_ v2), (3, vr_ v3), (4, vi_ v4)] [] m := by
  intro m v0 v1 v2 v3 v4 k n
  unfold fL_law_b529
  refine s_goto C (off := 2565) 3094 dL_law_529 rfl ?_
  exact wL_law_b3094 C hret h0 hin N hk23 _ _ _ _ _ _ _ _
theorem wL_law_b634 {l : Launch} {g : GG} {E : Me_} (C : Cx_ l g E "MasterTreeLaw" cL_law 7 40) (hret : (eT_ E).sig.returnType = (some .boolean)) (h0 : ∀ x ∈ (eC_ E).exceptionTable.toList, False) (hin : (eT_ E).name = "law") (N : Nat) {k23 : Mm → Option Nat → Option Nat → Option Nat → Option Nat → Int32 → Rs (Int32)} (hk23 : ∀ (m : Mm) (v0 : Option Nat) (v1 : Option Nat) (v2 : Option Nat) (v3 : Option Nat) (v4 : Int32) (k n : Nat), Sm_ l g E 7 en_i (k23 m v0 v1 v2 v3 v4) k n 23 [(0, vr_ v0), (1, vr_ v1), (2, vr_ v2), (3, vr_ v3), (4, vi_ v4)] [] m) : ∀ (m : Mm) (v0 : Option Nat) (v1 : Option Nat) (v2 : Option Nat) (v3 : Option Nat) (v4 : Int32) (k n : Nat), Sm_ l g E 7 en_i (fL_law_b634 (gE_ g) N k23 m v0 v1 v2 v3 v4) k n 634 [(0, vr_ v0), (1, vr_ v1), (2, vr_ v2), (3, vr_ v3), (4, vi_ v4)] [] m := by
  intro m v0 v1 v2 v3 v4 k n
  unfold fL_law_b634
  refine s_goto C (off := 2460) 3094 dL_law_634 rfl ?_
  exact wL_law_b3094 C hret h0 hin N hk23 _ _ _ _ _ _ _ _
theorem wL_law_b726 {l : Launch} {g : GG} {E : Me_} (C : Cx_ l g E "MasterTreeLaw" cL_law 7 40) (hret : (eT_ E).sig.returnType = (some .boolean)) (h0 : ∀ x ∈ (eC_ E).exceptionTable.toList, False) (hin : (eT_ E).name = "law") (N : Nat) {k23 : Mm → Option Nat → Option Nat → Option Nat → Option Nat → Int32 → Rs (Int32)} (hk23 : ∀ (m : Mm) (v0 : Option Nat) (v1 : Option Nat) (v2 : Option Nat) (v3 : Option Nat) (v4 : Int32) (k n : Nat), Sm_ l g E 7 en_i (k23 m v0 v1 v2 v3 v4) k n 23 [(0, vr_ v0), (1, vr_ v1), (2, vr_ v2), (3, vr_ v3), (4, vi_ v4)] [] m) : ∀ (m : Mm) (v0 : Option Nat) (v1 : Option Nat) (v2 : Option Nat) (v3 : Option Nat) (v4 : Int32) (k n : Nat), Sm_ l g E 7 en_i (fL_law_b726 (gE_ g) N k23 m v0 v1 v2 v3 v4) k n 726 [(0, vr_ v0), (1, vr_ v1), (2, vr_ v2), (3, vr_ v3), (4, vi_ v4)] [] m := by
  intro m v0 v1 v2 v3 v4 k n
  unfold fL_law_b726
  refine s_goto C (off := 2368) 3094 dL_law_726 rfl ?_
  exact wL_law_b3094 C hret h0 hin N hk23 _ _ _ _ _ _ _ _
theorem wL_law_b818 {l : Launch} {g : GG} {E : Me_} (C : Cx_ l g E "MasterTreeLaw" cL_law 7 40) (hret : (eT_ E).sig.returnType = (some .boolean)) (h0 : ∀ x ∈ (eC_ E).exceptionTable.toList, False) (hin : (eT_ E).name = "law") (N : Nat) {k23 : Mm → Option Nat → Option Nat → Option Nat → Option Nat → Int32 → Rs (Int32)} (hk23 : ∀ (m : Mm) (v0 : Option Nat) (v1 : Option Nat) (v2 : Option Nat) (v3 : Option Nat) (v4 : Int32) (k n : Nat), Sm_ l g E 7 en_i (k23 m v0 v1 v2 v3 v4) k n 23 [(0, vr_ v0), (1, vr_ v1), (2, vr_ v2), (3, vr_ v3), (4, vi_ v4)] [] m) : ∀ (m : Mm) (v0 : Option Nat) (v1 : Option Nat) (v2 : Option Nat) (v3 : Option Nat) (v4 : Int32) (k n : Nat), Sm_ l g E 7 en_i (fL_law_b818 (gE_ g) N k23 m v0 v1 v2 v3 v4) k n 818 [(0, vr_ v0), (1, vr_ v1), (2, vr_ v2), (3, vr_ v3), (4, vi_ v4)] [] m := by
  intro m v0 v1 v2 v3 v4 k n
  unfold fL_law_b818
  refine s_goto C (off := 2276) 3094 dL_law_818 rfl ?_
  exact wL_law_b3094 C hret h0 hin N hk23 _ _ _ _ _ _ _ _
theorem wL_law_b910 {l : Launch} {g : GG} {E : Me_} (C : Cx_ l g E "MasterTreeLaw" cL_law 7 40) (hret : (eT_ E).sig.returnType = (some .boolean)) (h0 : ∀ x ∈ (eC_ E).exceptionTable.toList, False) (hin : (eT_ E).name = "law") (N : Nat) {k23 : Mm → Option Nat → Option Nat → Option Nat → Option Nat → Int32 → Rs (Int32)} (hk23 : ∀ (m : Mm) (v0 : Option Nat) (v1 : Option Nat) (v2 : Option Nat) (v3 : Option Nat) (v4 : Int32) (k n : Nat), Sm_ l g E 7 en_i (k23 m v0 v1 v2 v3 v4) k n 23 [(0, vr_ v0), (1, vr_ v1), (2, vr_ v2), (3, vr_ v3), (4, vi_ v4)] [] m) : ∀ (m : Mm) (v0 : Option Nat) (v1 : Option Nat) (v2 : Option Nat) (v3 : Option Nat) (v4 : Int32) (k n : Nat), Sm_ l g E 7 en_i (fL_law_b910 (gE_ g) N k23 m v0 v1 v2 v3 v4) k n 910 [(0, vr_ v0), (1, vr_ v1), (2, vr_ v2), (3, vr_ v3), (4, vi_ v4)] [] m := by
  intro m v0 v1 v2 v3 v4 k n
  unfold fL_law_b910
  refine s_goto C (off := 2184) 3094 dL_law_910 rfl ?_
  exact wL_law_b3094 C hret h0 hin N hk23 _ _ _ _ _ _ _ _
theorem wL_law_b990 {l : Launch} {g : GG} {E : Me_} (C : Cx_ l g E "MasterTreeLaw" cL_law 7 40) (hret : (eT_ E).sig.returnType = (some .boolean)) (h0 : ∀ x ∈ (eC_ E).exceptionTable.toList, False) (hin : (eT_ E).name = "law") (N : Nat) {k23 : Mm → Option Nat → Option Nat → Option Nat → Option Nat → Int32 → Rs (Int32)} (hk23 : ∀ (m : Mm) (v0 : Option Nat) (v1 : Option Nat) (v2 : Option Nat) (v3 : Option Nat) (v4 : Int32) (k n : Nat), Sm_ l g E 7 en_i (k23 m v0 v1 v2 v3 v4) k n 23 [(0, vr_ v0), (1, vr_ v1), (2, vr_ v2), (3, vr_ v3), (4, vi_ v4)] [] m) : ∀ (m : Mm) (v0 : Option Nat) (v1 : Option Nat) (v2 : Option Nat) (v3 : Option Nat) (v4 : Int32) (k n : Nat), Sm_ l g E 7 en_i (fL_law_b990 (gE_ g) N k23 m v0 v1 v2 v3 v4) k n 990 [(0, vr_ v0), (1, vr_ v1), (2, vr_ v2), (3, vr_ v3), (4, vi_ v4)] [] m := by
  intro m v0 v1 v2 v3 v4 k n
  unfold fL_law_b990
  refine s_goto C (off := 2104) 3094 dL_law_990 rfl ?_
  exact wL_law_b3094 C hret h0 hin N hk23 _ _ _ _ _ _ _ _
theorem wL_law_b1070 {l : Launch} {g : GG} {E : Me_} (C : Cx_ l g E "MasterTreeLaw" cL_law 7 40) (hret : (eT_ E).sig.returnType = (some .boolean)) (h0 : ∀ x ∈ (eC_ E).exceptionTable.toList, False) (hin : (eT_ E).name = "law") (N : Nat) {k23 : Mm → Option Nat → Option Nat → Option Nat → Option Nat → Int32 → Rs (Int32)} (hk23 : ∀ (m : Mm) (v0 : Option Nat) (v1 : Option Nat) (v2 : Option Nat) (v3 : Option Nat) (v4 : Int32) (k n : Nat), Sm_ l g E 7 en_i (k23 m v0 v1 v2 v3 v4) k n 23 [(0, vr_ v0), (1, vr_ v1), (2, vr_ v2), (3, vr_ v3), (4, vi_ v4)] [] m) : ∀ (m : Mm) (v0 : Option Nat) (v1 : Option Nat) (v2 : Option Nat) (v3 : Option Nat) (v4 : Int32) (k n : Nat), Sm_ l g E 7 en_i (fL_law_b1070 (gE_ g) N k23 m v0 v1 v2 v3 v4) k n 1070 [(0, vr_ v0), (1, vr_ v1), (2, vr_ v2), (3, vr_ v3), (4, vi_ v4)] [] m := by
  intro m v0 v1 v2 v3 v4 k n
  unfold fL_law_b1070
  refine s_goto C (off := 2024) 3094 dL_law_1070 rfl ?_
  exact wL_law_b3094 C hret h0 hin N hk23 _ _ _ _ _ _ _ _
theorem wL_law_b1138 {l : Launch} {g : GG} {E : Me_} (C : Cx_ l g E "MasterTreeLaw" cL_law 7 40) (hret : (eT_ E).sig.returnType = (some .boolean)) (h0 : ∀ x ∈ (eC_ E).exceptionTable.toList, False) (hin : (eT_ E).name = "law") (N : Nat) {k23 : Mm → Option Nat → Option Nat → Option Nat → Option Nat → Int32 → Rs (Int32)} (hk23 : ∀ (m : Mm) (v0 : Option Nat) (v1 : Option Nat) (v2 : Option Nat) (v3 : Option Nat) (v4 : Int32) (k n : Nat), Sm_ l g E 7 en_i (k23 m v0 v1 v2 v3 v4) k n 23 [(0, vr_ v0), (1, vr_ v1), (2, vr_ v2), (3, vr_ v3), (4, vi_ v4)] [] m) : ∀ (m : Mm) (v0 : Option Nat) (v1 : Option Nat) (v2 : Option Nat) (v3 : Option Nat) (v4 : Int32) (k n : Nat), Sm_ l g E 7 en_i (fL_law_b1138 (gE_ g) N k23 m v0 v1 v2 v3 v4) k n 1138 [(0, vr_ v0), (1, vr_ v1), (2, vr_ v2), (3, vr_ v3), (4, vi_ v4)] [] m := by
  intro m v0 v1 v2 v3 v4 k n
  unfold fL_law_b1138
  refine s_goto C (off := 1956) 3094 dL_law_1138 rfl ?_
  exact wL_law_b3094 C hret h0 hin N hk23 _ _ _ _ _ _ _ _
theorem wL_law_b1218 {l : Launch} {g : GG} {E : Me_} (C : Cx_ l g E "MasterTreeLaw" cL_law 7 40) (hret : (eT_ E).sig.returnType = (some .boolean)) (h0 : ∀ x ∈ (eC_ E).exceptionTable.toList, False) (hin : (eT_ E).name = "law") (N : Nat) {k23 : Mm → Option Nat → Option Nat → Option Nat → Option Nat → Int32 → Rs (Int32)} (hk23 : ∀ (m : Mm) (v0 : Option Nat) (v1 : Option Nat) (v2 : Option Nat) (v3 : Option Nat) (v4 : Int32) (k n : Nat), Sm_ l g E 7 en_i (k23 m v0 v1 v2 v3 v4) k n 23 [(0, vr_ v0), (1, vr_ v1), (2, vr_ v2), (3, vr_ v3), (4, vi_ v4)] [] m) : ∀ (m : Mm) (v0 : Option Nat) (v1 : Option Nat) (v2 : Option Nat) (v3 : Option Nat) (v4 : Int32) (k n : Nat), Sm_ l g E 7 en_i (fL_law_b1218 (gE_ g) N k23 m v0 v1 v2 v3 v4) k n 1218 [(0, vr_ v0), (1, vr_ v1), (2, vr_ v2), (3, vr_ v3), (4, vi_ v4)] [] m := by
  intro m v0 v1 v2 v3 v4 k n
  unfold fL_law_b1218
  refine s_goto C (off := 1876) 3094 dL_law_1218 rfl ?_
  exact wL_law_b3094 C hret h0 hin N hk23 _ _ _ _ _ _ _ _
theorem wL_law_b1336 {l : Launch} {g : GG} {E : Me_} (C : Cx_ l g E "MasterTreeLaw" cL_law 7 40) (hret : (eT_ E).sig.returnType = (some .boolean)) (h0 : ∀ x ∈ (eC_ E).exceptionTable.toList, False) (hin : (eT_ E).name = "law") (N : Nat) {k23 : Mm → Option Nat → Option Nat → Option Nat → Option Nat → Int32 → Rs (Int32)} (hk23 : ∀ (m : Mm) (v0 : Option Nat) (v1 : Option Nat) (v2 : Option Nat) (v3 : Option Nat) (v4 : Int32) (k n : Nat), Sm_ l g E 7 en_i (k23 m v0 v1 v2 v3 v4) k n 23 [(0, vr_ v0), (1, vr_ v1), (2, vr_ v2), (3, vr_ v3), (4, vi_ v4)] [] m) : ∀ (m : Mm) (v0 : Option Nat) (v1 : Option Nat) (v2 : Option Nat) (v3 : Option Nat) (v4 : Int32) (k n : Nat), Sm_ l g E 7 en_i (fL_law_b1336 (gE_ g) N k23 m v0 v1 v2 v3 v4) k n 1336 [(0, vr_ v0), (1, vr_ v1), (2, vr_ v2), (3, vr_ v3), (4, vi_ v4)] [] m := by
  intro m v0 v1 v2 v3 v4 k n
  unfold fL_law_b1336
  refine s_goto C (off := 1758) 3094 dL_law_1336 rfl ?_
  exact wL_law_b3094 C hret h0 hin N hk23 _ _ _ _ _ _ _ _
theorem wL_law_b1416 {l : Launch} {g : GG} {E : Me_} (C : Cx_ l g E "MasterTreeLaw" cL_law 7 40) (hret : (eT_ E).sig.returnType = (some .boolean)) (h0 : ∀ x ∈ (eC_ E).exceptionTable.toList, False) (hin : (eT_ E).name = "law") (N : Nat) {k23 : Mm → Option Nat → Option Nat → Option Nat → Option Nat → Int32 → Rs (Int32)} (hk23 : ∀ (m : Mm) (v0 : Option Nat) (v1 : Option Nat) (v2 : Option Nat) (v3 : Option Nat) (v4 : Int32) (k n : Nat), Sm_ l g E 7 en_i (k23 m v0 v1 v2 v3 v4) k n 23 [(0, vr_ v0), (1, vr_ v1), (2, vr_ v2), (3, vr_ v3), (4, vi_ v4)] [] m) : ∀ (m : Mm) (v0 : Option Nat) (v1 : Option Nat) (v2 : Option Nat) (v3 : Option Nat) (v4 : Int32) (k n : Nat), Sm_ l g E 7 en_i (fL_law_b1416 (gE_ g) N k23 m v0 v1 v2 v3 v4) k n 1416 [(0, vr_ v0), (1, vr_ v1), (2, vr_ v2), (3, vr_ v3), (4, vi_ v4)] [] m := by
  intro m v0 v1 v2 v3 v4 k n
  unfold fL_law_b1416
  refine s_goto C (off := 1678) 3094 dL_law_1416 rfl ?_
  exact wL_law_b3094 C hret h0 hin N hk23 _ _ _ _ _ _ _ _
theorem wL_law_b1472 {l : Launch} {g : GG} {E : Me_} (C : Cx_ l g E "MasterTreeLaw" cL_law 7 40) (hret : (eT_ E).sig.returnType = (some .boolean)) (h0 : ∀ x ∈ (eC_ E).exceptionTable.toList, False) (hin : (eT_ E).name = "law") (N : Nat) {k23 : Mm → Option Nat → Option Nat → Option Nat → Option Nat → Int32 → Rs (Int32)} (hk23 : ∀ (m : Mm) (v0 : Option Nat) (v1 : Option Nat) (v2 : Option Nat) (v3 : Option Nat) (v4 : Int32) (k n : Nat), Sm_ l g E 7 en_i (k23 m v0 v1 v2 v3 v4) k n 23 [(0, vr_ v0), (1, vr_ v1), (2, vr_ v2), (3, vr_ v3), (4, vi_ v4)] [] m) : ∀ (m : Mm) (v0 : Option Nat) (v1 : Option Nat) (v2 : Option Nat) (v3 : Option Nat) (v4 : Int32) (k n : Nat), Sm_ l g E 7 en_i (fL_law_b1472 (gE_ g) N k23 m v0 v1 v2 v3 v4) k n 1472 [(0, vr_ v0), (1, vr_ v1), (2, vr_ v2), (3, vr_ v3), (4, vi_ v4)] [] m := by
  intro m v0 v1 v2 v3 v4 k n
  unfold fL_law_b1472
  refine s_goto C (off := 1622) 3094 dL_law_1472 rfl ?_
  exact wL_law_b3094 C hret h0 hin N hk23 _ _ _ _ _ _ _ _
theorem wL_law_b1540 {l : Launch} {g : GG} {E : Me_} (C : Cx_ l g E "MasterTreeLaw" cL_law 7 40) (hret : (eT_ E).sig.returnType = (some .boolean)) (h0 : ∀ x ∈ (eC_ E).exceptionTable.toList, False) (hin : (eT_ E).name = "law") (N : Nat) {k23 : Mm → Option Nat → Option Nat → Option Nat → Option Nat → Int32 → Rs (Int32)} (hk23 : ∀ (m : Mm) (v0 : Option Nat) (v1 : Option Nat) (v2 : Option Nat) (v3 : Option Nat) (v4 : Int32) (k n : Nat), Sm_ l g E 7 en_i (k23 m v0 v1 v2 v3 v4) k n 23 [(0, vr_ v0), (1, vr_ v1), (2, vr_ v2), (3, vr_ v3), (4, vi_ v4)] [] m) : ∀ (m : Mm) (v0 : Option Nat) (v1 : Option Nat) (v2 : Option Nat) (v3 : Option Nat) (v4 : Int32) (k n : Nat), Sm_ l g E 7 en_i (fL_law_b1540 (gE_ g) N k23 m v0 v1 v2 v3 v4) k n 1540 [(0, vr_ v0), (1, vr_ v1), (2, vr_ v2), (3, vr_ v3), (4, vi_ v4)] [] m := by
  intro m v0 v1 v2 v3 v4 k n
  unfold fL_law_b1540
  refine s_goto C (off := 1554) 3094 dL_law_1540 rfl ?_
  exact wL_law_b3094 C hret h0 hin N hk23 _ _ _ _ _ _ _ _
theorem wL_law_b1608 {l : Launch} {g : GG} {E : Me_} (C : Cx_ l g E "MasterTreeLaw" cL_law 7 40) (hret : (eT_ E).sig.returnType = (some .boolean)) (h0 : ∀ x ∈ (eC_ E).exceptionTable.toList, False) (hin : (eT_ E).name = "law") (N : Nat) {k23 : Mm → Option Nat → Option Nat → Option Nat → Option Nat → Int32 → Rs (Int32)} (hk23 : ∀ (m : Mm) (v0 : Option Nat) (v1 : Option Nat) (v2 : Option Nat) (v3 : Option Nat) (v4 : Int32) (k n : Nat), Sm_ l g E 7 en_i (k23 m v0 v1 v2 v3 v4) k n 23 [(0, vr_ v0), (1, vr_ v1), (2, vr_ v2), (3, vr_ v3), (4, vi_ v4)] [] m) : ∀ (m : Mm) (v0 : Option Nat) (v1 : Option Nat) (v2 : Option Nat) (v3 : Option Nat) (v4 : Int32) (k n : Nat), Sm_ l g E 7 en_i (fL_law_b1608 (gE_ g) N k23 m v0 v1 v2 v3 v4) k n 1608 [(0, vr_ v0), (1, vr_ v1), (2, vr_ v2), (3, vr_ v3), (4, vi_ v4)] [] m := by
  intro m v0 v1 v2 v3 v4 k n
  unfold fL_law_b1608
  refine s_goto C (off := 1486) 3094 dL_law_1608 rfl ?_
  exact wL_law_b3094 C hret h0 hin N hk23 _ _ _ _ _ _ _ _
theorem wL_law_b1664 {l : Launch} {g : GG} {E : Me_} (C : Cx_ l g E "MasterTreeLaw" cL_law 7 40) (hret : (eT_ E).sig.returnType = (some .boolean)) (h0 : ∀ x ∈ (eC_ E).exceptionTable.toList, False) (hin : (eT_ E).name = "law") (N : Nat) {k23 : Mm → Option Nat → Option Nat → Option Nat → Option Nat → Int32 → Rs (Int32)} (hk23 : ∀ (m : Mm) (v0 : Option Nat) (v1 : Option Nat) (v2 : Option Nat) (v3 : Option Nat) (v4 : Int32) (k n : Nat), Sm_ l g E 7 en_i (k23 m v0 v1 v2 v3 v4) k n 23 [(0, vr_ v0), (1, vr_ v1), (2, vr_ v2), (3, vr_ v3), (4, vi_ v4)] [] m) : ∀ (m : Mm) (v0 : Option Nat) (v1 : Option Nat) (v2 : Option Nat) (v3 : Option Nat) (v4 : Int32) (k n : Nat), Sm_ l g E 7 en_i (fL_law_b1664 (gE_ g) N k23 m v0 v1 v2 v3 v4) k n 1664 [(0, vr_ v0), (1, vr_ v1), (2, vr_ v2), (3, vr_ v3), (4, vi_ v4)] [] m := by
  intro m v0 v1 v2 v3 v4 k n
  unfold fL_law_b1664
  refine s_goto C (off := 1430) 3094 dL_law_1664 rfl ?_
  exact wL_law_b3094 C hret h0 hin N hk23 _ _ _ _ _ _ _ _
theorem wL_law_b1720 {l : Launch} {g : GG} {E : Me_} (C : Cx_ l g E "MasterTreeLaw" cL_law 7 40) (hret : (eT_ E).sig.returnType = (some .boolean)) (h0 : ∀ x ∈ (eC_ E).exceptionTable.toList, False) (hin : (eT_ E).name = "law") (N : Nat) {k23 : Mm → Option Nat → Option Nat → Option Nat → Option Nat → Int32 → Rs (Int32)} (hk23 : ∀ (m : Mm) (v0 : Option Nat) (v1 : Option Nat) (v2 : Option Nat) (v3 : Option Nat) (v4 : Int32) (k n : Nat), Sm_ l g E 7 en_i (k23 m v0 v1 v2 v3 v4) k n 23 [(0, vr_ v0), (1, vr_ v1), (2, vr_ v2), (3, vr_ v3), (4, vi_ v4)] [] m) : ∀ (m : Mm) (v0 : Option Nat) (v1 : Option Nat) (v2 : Option Nat) (v3 : Option Nat) (v4 : Int32) (k n : Nat), Sm_ l g E 7 en_i (fL_law_b1720 (gE_ g) N k23 m v0 v1 v2 v3 v4) k n 1720 [(0, vr_ v0), (1, vr_ v1), (2, vr_ v2), (3, vr_ v3), (4, vi_ v4)] [] m := by
  intro m v0 v1 v2 v3 v4 k n
  unfold fL_law_b1720
  refine s_goto C (off := 1374) 3094 dL_law_1720 rfl ?_
  exact wL_law_b3094 C hret h0 hin N hk23 _ _ _ _ _ _ _ _
theorem wL_law_b1792 {l : Launch} {g : GG} {E : Me_} (C : Cx_ l g E "MasterTreeLaw" cL_law 7 40) (hret : (eT_ E).sig.returnType = (some .boolean)) (h0 : ∀ x ∈ (eC_ E).exceptionTable.toList, False) (hin : (eT_ E).name = "law") (N : Nat) {k23 : Mm → Option Nat → Option Nat → Option Nat → Option Nat → Int32 → Rs (Int32)} (hk23 : ∀ (m : Mm) (v0 : Option Nat) (v1 : Option Nat) (v2 : Option Nat) (v3 : Option Nat) (v4 : Int32) (k n : Nat), Sm_ l g E 7 en_i (k23 m v0 v1 v2 v3 v4) k n 23 [(0, vr_ v0), (1, vr_ v1), (2, vr_ v2), (3, vr_ v3), (4, vi_ v4)] [] m) : ∀ (m : Mm) (v0 : Option Nat) (v1 : Option Nat) (v2 : Option Nat) (v3 : Option Nat) (v4 : Int32) (k n : Nat), Sm_ l g E 7 en_i (fL_law_b1792 (gE_ g) N k23 m v0 v1 v2 v3 v4) k n 1792 [(0, vr_ v0), (1, vr_ v1), (2, vr_ v2), (3, vr_ v3), (4, vi_ v4)] [] m := by
  intro m v0 v1 v2 v3 v4 k n
  unfold fL_law_b1792
  refine s_goto C (off := 1302) 3094 dL_law_1792 rfl ?_
  exact wL_law_b3094 C hret h0 hin N hk23 _ _ _ _ _ _ _ _
theorem wL_law_b1759 {l : Launch} {g : GG} {E : Me_} (C : Cx_ l g E "MasterTreeLaw" cL_law 7 40) (hret : (eT_ E).sig.returnType = (some .boolean)) (h0 : ∀ x ∈ (eC_ E).exceptionTable.toList, False) (hin : (eT_ E).name = "law") (N : Nat) {k23 : Mm → Option Nat → Option Nat → Option Nat → Option Nat → Int32 → Rs (Int32)} (hk23 : ∀ (m : Mm) (v0 : Option Nat) (v1 : Option Nat) (v2 : Option Nat) (v3 : Option Nat) (v4 : Int32) (k n : Nat), Sm_ l g E 7 en_i (k23 m v0 v1 v2 v3 v4) k n 23 [(0, vr_ v0), (1, vr_ v1), (2, vr_ v2), (3, vr_ v3), (4, vi_ v4)] [] m) : ∀ (m : Mm) (v0 : Option Nat) (v1 : Option Nat) (v2 : Option Nat) (v3 : Option Nat) (v4 : Int32) (v5 : Int32) (s0 : Option Nat) (s1 : Int32) (k n : Nat), Sm_ l g E 7 en_i (fL_law_b1759 (gE_ g) N k23 m v0 v1 v2 v3 v4 v5 s0 s1) k n 1759 [(0, vr_ v0), (1, vr_ v1), (2, vr_ v2), (3, vr_ v3), (4, vi_ v4), (5, vi_ v5)] [vi_ s1, vr_ s0] m := by
  intro m v0 v1 v2 v3 v4 v5 s0 s1 k n
  unfold fL_law_b1759
  refine x_ck (fun hb_ hb0_ => ?_)
  refine x_callV (enc := en_i) C 11 1 [vi_ s1] 4 (ctX4_combine C.2.2.2.2.2.2.2.2.1 N m s0 s1) hb_ hb0_ rfl rfl q3587 q3588 q3589 q93 q3590 hdX4_combine (Nat.le_of_ble_eq_true rfl) (Nat.le_of_ble_eq_true rfl) rfl (Nat.le_of_ble_eq_true rfl) dL_law_1759 1762 rfl rfl hen_i (kk_i (fun x1 m1 k1 n1 => ?_)) (kx_n he_i)
  refine s_istore C (Nat.le_of_ble_eq_true rfl) [0, 1, 2, 3, 4, 5] rfl rfl dL_law_1762 1764 rfl ?_
  refine s_aload_n C rfl 3 rfl dL_law_1764 1765 rfl ?_
  refine x_ck (fun hb_ hb0_ => ?_)
  refine x_callV (enc := en_i) C 10 0 [] 4 (ctX4_thrown C.2.2.2.2.2.2.2.2.1 N m1 v2) hb_ hb0_ rfl rfl q3358 q3359 q3360 q93 q3361 hdX4_thrown (Nat.le_of_ble_eq_true rfl) (Nat.le_of_ble_eq_true rfl) rfl (Nat.le_of_ble_eq_true rfl) dL_law_1765 1768 rfl rfl hen_i (kk_i (fun x2 m2 k1 n1 => ?_)) (kx_n he_i)
  refine s_iload C 6 rfl dL_law_1768 1770 rfl ?_
  refine s_icmp_eq C dL_law_1770 1775 rfl 1773 rfl (fun c_ => ?_) (fun c_ => ?_)
  · refine s_iload C 6 rfl dL_law_1775 1777 rfl ?_
    refine s_if_ne C dL_law_1777 1792 rfl 1780 rfl (fun c_ => ?_) (fun c_ => ?_)
    · refine s_aload_n C rfl 4 rfl dL_law_1780 1781 rfl ?_
      refine s_iconst C 0 rfl dL_law_1781 1782 rfl ?_
      refine x_aj3 C 203 rfl dL_law_1782 1783 rfl (fun x3 => ?_)
      refine s_iload C 0 rfl dL_law_1783 1785 rfl ?_
      refine s_i2l C dL_law_1785 1786 rfl ?_
      refine s_lcmp C dL_law_1786 1787 rfl ?_
      refine s_if_eq C dL_law_1787 1792 rfl 1790 rfl (fun c_ => ?_) (fun c_ => ?_)
      · refine Sm_sub [1, 2, 3, 4, 5] rfl ?_
        exact wL_law_b1792 C hret h0 hin N hk23 _ _ _ _ _ _ _ _
      · refine s_iconst C 0 rfl dL_law_1790 1791 rfl ?_
        exact x_zret0 C hret (by decide) rfl dL_law_1791
    · refine Sm_sub [1, 2, 3, 4, 5] rfl ?_
      exact wL_law_b1792 C hret h0 hin N hk23 _ _ _ _ _ _ _ _
  · refine s_iconst C 0 rfl dL_law_1773 1774 rfl ?_
    exact x_zret0 C hret (by decide) rfl dL_law_1774
theorem wL_law_b1738 {l : Launch} {g : GG} {E : Me_} (C : Cx_ l g E "MasterTreeLaw" cL_law 7 40) (hret : (eT_ E).sig.returnType = (some .boolean)) (h0 : ∀ x ∈ (eC_ E).exceptionTable.toList, False) (hin : (eT_ E).name = "law") (N : Nat) {k23 : Mm → Option Nat → Option Nat → Option Nat → Option Nat → Int32 → Rs (Int32)} (hk23 : ∀ (m : Mm) (v0 : Option Nat) (v1 : Option Nat) (v2 : Option Nat) (v3 : Option Nat) (v4 : Int32) (k n : Nat), Sm_ l g E 7 en_i (k23 m v0 v1 v2 v3 v4) k n 23 [(0, vr_ v0), (1, vr_ v1), (2, vr_ v2), (3, vr_ v3), (4, vi_ v4)] [] m) : ∀ (m : Mm) (v0 : Option Nat) (v1 : Option Nat) (v2 : Option Nat) (v3 : Option Nat) (v4 : Int32) (s0 : Option Nat) (s1 : Int32) (k n : Nat), Sm_ l g E 7 en_i (fL_law_b1738 (gE_ g) N k23 m v0 v1 v2 v3 v4 s0 s1) k n 1738 [(0, vr_ v0), (1, vr_ v1), (2, vr_ v2), (3, vr_ v3), (4, vi_ v4)] [vi_ s1, vr_ s0] m := by
  intro m v0 v1 v2 v3 v4 s0 s1 k n
  unfold fL_law_b1738
  refine s_aload_n C rfl 3 rfl dL_law_1738 1739 rfl ?_
  refine x_callSW (enc := en_i) C 18 3 [vr_ s0, vi_ s1, vr_ v3] (ctX0_combine C.2.2.2.2.2.2.2.2.1 N m s0 s1 v3) q2618 q2619 q80 q2620 hdX0_combine (Nat.le_of_ble_eq_true rfl) (Nat.le_of_ble_eq_true rfl) rfl (Nat.le_of_ble_eq_true rfl) dL_law_1739 1742 rfl rfl hen_i (kk_i (fun x1 m1 k1 n1 => ?_)) (kx_n he_i)
  refine s_istore C (Nat.le_of_ble_eq_true rfl) [0, 1, 2, 3, 4] rfl rfl dL_law_1742 1744 rfl ?_
  refine s_aload_n C rfl 3 rfl dL_law_1744 1745 rfl ?_
  refine s_aload_n C rfl 1 rfl dL_law_1745 1746 rfl ?_
  refine s_iload C 5 rfl dL_law_1746 1748 rfl ?_
  refine s_iconst C 1 rfl dL_law_1748 1749 rfl ?_
  refine s_iadd C dL_law_1749 1750 rfl ?_
  refine x_ai0 C 200 rfl dL_law_1750 1751 rfl (fun x2 => ?_)
  refine s_if_eq C dL_law_1751 1758 rfl 1754 rfl (fun c_ => ?_) (fun c_ => ?_)
  · refine s_iconst C 0 rfl dL_law_1758 1759 rfl ?_
    refine Sm_sub [1, 2, 3, 4, 5, 0] rfl ?_
    exact wL_law_b1759 C hret h0 hin N hk23 _ _ _ _ _ _ _ _ _ _ _
  · refine s_iconst C 1 rfl dL_law_1754 1755 rfl ?_
    refine s_goto C (off := 4) 1759 dL_law_1755 rfl ?_
    refine Sm_sub [1, 2, 3, 4, 5, 0] rfl ?_
    exact wL_law_b1759 C hret h0 hin N hk23 _ _ _ _ _ _ _ _ _ _ _
theorem wL_law_b1836 {l : Launch} {g : GG} {E : Me_} (C : Cx_ l g E "MasterTreeLaw" cL_law 7 40) (hret : (eT_ E).sig.returnType = (some .boolean)) (h0 : ∀ x ∈ (eC_ E).exceptionTable.toList, False) (hin : (eT_ E).name = "law") (N : Nat) {k23 : Mm → Option Nat → Option Nat → Option Nat → Option Nat → Int32 → Rs (Int32)} (hk23 : ∀ (m : Mm) (v0 : Option Nat) (v1 : Option Nat) (v2 : Option Nat) (v3 : Option Nat) (v4 : Int32) (k n : Nat), Sm_ l g E 7 en_i (k23 m v0 v1 v2 v3 v4) k n 23 [(0, vr_ v0), (1, vr_ v1), (2, vr_ v2), (3, vr_ v3), (4, vi_ v4)] [] m) : ∀ (m : Mm) (v0 : Option Nat) (v1 : Option Nat) (v2 : Option Nat) (v3 : Option Nat) (v4 : Int32) (k n : Nat), Sm_ l g E 7 en_i (fL_law_b1836 (gE_ g) N k23 m v0 v1 v2 v3 v4) k n 1836 [(0, vr_ v0), (1, vr_ v1), (2, vr_ v2), (3, vr_ v3), (4, vi_ v4)] [] m := by
  intro m v0 v1 v2 v3 v4 k n
  unfold fL_law_b1836
  refine s_goto C (off := 1258) 3094 dL_law_1836 rfl ?_
  exact wL_law_b3094 C hret h0 hin N hk23 _ _ _ _ _ _ _ _
theorem wL_law_b1929 {l : Launch} {g : GG} {E : Me_} (C : Cx_ l g E "MasterTreeLaw" cL_law 7 40) (hret : (eT_ E).sig.returnType = (some .boolean)) (h0 : ∀ x ∈ (eC_ E).exceptionTable.toList, False) (hin : (eT_ E).name = "law") (N : Nat) {k23 : Mm → Option Nat → Option Nat → Option Nat → Option Nat → Int32 → Rs (Int32)} (hk23 : ∀ (m : Mm) (v0 : Option Nat) (v1 : Option Nat) (v2 : Option Nat) (v3 : Option Nat) (v4 : Int32) (k n : Nat), Sm_ l g E 7 en_i (k23 m v0 v1 v2 v3 v4) k n 23 [(0, vr_ v0), (1, vr_ v1), (2, vr_ v2), (3, vr_ v3), (4, vi_ v4)] [] m) : ∀ (m : Mm) (v0 : Option Nat) (v1 : Option Nat) (v2 : Option Nat) (v3 : Option Nat) (v4 : Int32) (k n : Nat), Sm_ l g E 7 en_i (fL_law_b1929 (gE_ g) N k23 m v0 v1 v2 v3 v4) k n 1929 [(0, vr_ v0), (1, vr_ v1), (2, vr_ v2), (3, vr_ v3), (4, vi_ v4)] [] m := by
  intro m v0 v1 v2 v3 v4 k n
  unfold fL_law_b1929
  refine s_goto C (off := 1165) 3094 dL_law_1929 rfl ?_
  exact wL_law_b3094 C hret h0 hin N hk23 _ _ _ _ _ _ _ _
theorem wL_law_b2009 {l : Launch} {g : GG} {E : Me_} (C : Cx_ l g E "MasterTreeLaw" cL_law 7 40) (hret : (eT_ E).sig.returnType = (some .boolean)) (h0 : ∀ x ∈ (eC_ E).exceptionTable.toList, False) (hin : (eT_ E).name = "law") (N : Nat) {k23 : Mm → Option Nat → Option Nat → Option Nat → Option Nat → Int32 → Rs (Int32)} (hk23 : ∀ (m : Mm) (v0 : Option Nat) (v1 : Option Nat) (v2 : Option Nat) (v3 : Option Nat) (v4 : Int32) (k n : Nat), Sm_ l g E 7 en_i (k23 m v0 v1 v2 v3 v4) k n 23 [(0, vr_ v0), (1, vr_ v1), (2, vr_ v2), (3, vr_ v3), (4, vi_ v4)] [] m) : ∀ (m : Mm) (v0 : Option Nat) (v1 : Option Nat) (v2 : Option Nat) (v3 : Option Nat) (v4 : Int32) (k n : Nat), Sm_ l g E 7 en_i (fL_law_b2009 (gE_ g) N k23 m v0 v1 v2 v3 v4) k n 2009 [(0, vr_ v0), (1, vr_ v1), (2, vr_ v2), (3, vr_ v3), (4, vi_ v4)] [] m := by
  intro m v0 v1 v2 v3 v4 k n
  unfold fL_law_b2009
  refine s_goto C (off := 1085) 3094 dL_law_2009 rfl ?_
  exact wL_law_b3094 C hret h0 hin N hk23 _ _ _ _ _ _ _ _
theorem wL_law_b2089 {l : Launch} {g : GG} {E : Me_} (C : Cx_ l g E "MasterTreeLaw" cL_law 7 40) (hret : (eT_ E).sig.returnType = (some .boolean)) (h0 : ∀ x ∈ (eC_ E).exceptionTable.toList, False) (hin : (eT_ E).name = "law") (N : Nat) {k23 : Mm → Option Nat → Option Nat → Option Nat → Option Nat → Int32 → Rs (Int32)} (hk23 : ∀ (m : Mm) (v0 : Option Nat) (v1 : Option Nat) (v2 : Option Nat) (v3 : Option Nat) (v4 : Int32) (k n : Nat), Sm_ l g E 7 en_i (k23 m v0 v1 v2 v3 v4) k n 23 [(0, vr_ v0), (1, vr_ v1), (2, vr_ v2), (3, vr_ v3), (4, vi_ v4)] [] m) : ∀ (m : Mm) (v0 : Option Nat) (v1 : Option Nat) (v2 : Option Nat) (v3 : Option Nat) (v4 : Int32) (k n : Nat), Sm_ l g E 7 en_i (fL_law_b2089 (gE_ g) N k23 m v0 v1 v2 v3 v4) k n 2089 [(0, vr_ v0), (1, vr_ v1), (2, vr_ v2), (3, vr_ v3), (4, vi_ v4)] [] m := by
  intro m v0 v1 v2 v3 v4 k n
  unfold fL_law_b2089
  refine s_goto C (off := 1005) 3094 dL_law_2089 rfl ?_
  exact wL_law_b3094 C hret h0 hin N hk23 _ _ _ _ _ _ _ _
theorem wL_law_b2145 {l : Launch} {g : GG} {E : Me_} (C : Cx_ l g E "MasterTreeLaw" cL_law 7 40) (hret : (eT_ E).sig.returnType = (some .boolean)) (h0 : ∀ x ∈ (eC_ E).exceptionTable.toList, False) (hin : (eT_ E).name = "law") (N : Nat) {k23 : Mm → Option Nat → Option Nat → Option Nat → Option Nat → Int32 → Rs (Int32)} (hk23 : ∀ (m : Mm) (v0 : Option Nat) (v1 : Option Nat) (v2 : Option Nat) (v3 : Option Nat) (v4 : Int32) (k n : Nat), Sm_ l g E 7 en_i (k23 m v0 v1 v2 v3 v4) k n 23 [(0, vr_ v0), (1, vr_ v1), (2, vr_ v2), (3, vr_ v3), (4, vi_ v4)] [] m) : ∀ (m : Mm) (v0 : Option Nat) (v1 : Option Nat) (v2 : Option Nat) (v3 : Option Nat) (v4 : Int32) (k n : Nat), Sm_ l g E 7 en_i (fL_law_b2145 (gE_ g) N k23 m v0 v1 v2 v3 v4) k n 2145 [(0, vr_ v0), (1, vr_ v1), (2, vr_ v2), (3, vr_ v3), (4, vi_ v4)] [] m := by
  intro m v0 v1 v2 v3 v4 k n
  unfold fL_law_b2145
  refine s_goto C (off := 949) 3094 dL_law_2145 rfl ?_
  exact wL_law_b3094 C hret h0 hin N hk23 _ _ _ _ _ _ _ _
theorem wL_law_b2201 {l : Launch} {g : GG} {E : Me_} (C : Cx_ l g E "MasterTreeLaw" cL_law 7 40) (hret : (eT_ E).sig.returnType = (some .boolean)) (h0 : ∀ x ∈ (eC_ E).exceptionTable.toList, False) (hin : (eT_ E).name = "law") (N : Nat) {k23 : Mm → Option Nat → Option Nat → Option Nat → Option Nat → Int32 → Rs (Int32)} (hk23 : ∀ (m : Mm) (v0 : Option Nat) (v1 : Option Nat) (v2 : Option Nat) (v3 : Option Nat) (v4 : Int32) (k n : Nat), Sm_ l g E 7 en_i (k23 m v0 v1 v2 v3 v4) k n 23 [(0, vr_ v0), (1, vr_ v1), (2, vr_ v2), (3, vr_ v3), (4, vi_ v4)] [] m) : ∀ (m : Mm) (v0 : Option Nat) (v1 : Option Nat) (v2 : Option Nat) (v3 : Option Nat) (v4 : Int32) (k n : Nat), Sm_ l g E 7 en_i (fL_law_b2201 (gE_ g) N k23 m v0 v1 v2 v3 v4) k n 2201 [(0, vr_ v0), (1, vr_ v1), (2, vr_ v2), (3, vr_ v3), (4, vi_ v4)] [] m := by
  intro m v0 v1 v2 v3 v4 k n
  unfold fL_law_b2201
  refine s_goto C (off := 893) 3094 dL_law_2201 rfl ?_
  exact wL_law_b3094 C hret h0 hin N hk23 _ _ _ _ _ _ _ _
theorem wL_law_b2269 {l : Launch} {g : GG} {E : Me_} (C : Cx_ l g E "MasterTreeLaw" cL_law 7 40) (hret : (eT_ E).sig.returnType = (some .boolean)) (h0 : ∀ x ∈ (eC_ E).exceptionTable.toList, False) (hin : (eT_ E).name = "law") (N : Nat) {k23 : Mm → Option Nat → Option Nat → Option Nat → Option Nat → Int32 → Rs (Int32)} (hk23 : ∀ (m : Mm) (v0 : Option Nat) (v1 : Option Nat) (v2 : Option Nat) (v3 : Option Nat) (v4 : Int32) (k n : Nat), Sm_ l g E 7 en_i (k23 m v0 v1 v2 v3 v4) k n 23 [(0, vr_ v0), (1, vr_ v1), (2, vr_ v2), (3, vr_ v3), (4, vi_ v4)] [] m) : ∀ (m : Mm) (v0 : Option Nat) (v1 : Option Nat) (v2 : Option Nat) (v3 : Option Nat) (v4 : Int32) (k n : Nat), Sm_ l g E 7 en_i (fL_law_b2269 (gE_ g) N k23 m v0 v1 v2 v3 v4) k n 2269 [(0, vr_ v0), (1, vr_ v1), (2, vr_ v2), (3, vr_ v3), (4, vi_ v4)] [] m := by
  intro m v0 v1 v2 v3 v4 k n
  unfold fL_law_b2269
  refine s_goto C (off := 825) 3094 dL_law_2269 rfl ?_
  exact wL_law_b3094 C hret h0 hin N hk23 _ _ _ _ _ _ _ _
theorem wL_law_b2337 {l : Launch} {g : GG} {E : Me_} (C : Cx_ l g E "MasterTreeLaw" cL_law 7 40) (hret : (eT_ E).sig.returnType = (some .boolean)) (h0 : ∀ x ∈ (eC_ E).exceptionTable.toList, False) (hin : (eT_ E).name = "law") (N : Nat) {k23 : Mm → Option Nat → Option Nat → Option Nat → Option Nat → Int32 → Rs (Int32)} (hk23 : ∀ (m : Mm) (v0 : Option Nat) (v1 : Option Nat) (v2 : Option Nat) (v3 : Option Nat) (v4 : Int32) (k n : Nat), Sm_ l g E 7 en_i (k23 m v0 v1 v2 v3 v4) k n 23 [(0, vr_ v0), (1, vr_ v1), (2, vr_ v2), (3, vr_ v3), (4, vi_ v4)] [] m) : ∀ (m : Mm) (v0 : Option Nat) (v1 : Option Nat) (v2 : Option Nat) (v3 : Option Nat) (v4 : Int32) (k n : Nat), Sm_ l g E 7 en_i (fL_law_b2337 (gE_ g) N k23 m v0 v1 v2 v3 v4) k n 2337 [(0, vr_ v0), (1, vr_ v1), (2, vr_ v2), (3, vr_ v3), (4, vi_ v4)] [] m := by
  intro m v0 v1 v2 v3 v4 k n
  unfold fL_law_b2337
  refine s_goto C (off := 757) 3094 dL_law_2337 rfl ?_
  exact wL_law_b3094 C hret h0 hin N hk23 _ _ _ _ _ _ _ _
theorem wL_law_b2405 {l : Launch} {g : GG} {E : Me_} (C : Cx_ l g E "MasterTreeLaw" cL_law 7 40) (hret : (eT_ E).sig.returnType = (some .boolean)) (h0 : ∀ x ∈ (eC_ E).exceptionTable.toList, False) (hin : (eT_ E).name = "law") (N : Nat) {k23 : Mm → Option Nat → Option Nat → Option Nat → Option Nat → Int32 → Rs (Int32)} (hk23 : ∀ (m : Mm) (v0 : Option Nat) (v1 : Option Nat) (v2 : Option Nat) (v3 : Option Nat) (v4 : Int32) (k n : Nat), Sm_ l g E 7 en_i (k23 m v0 v1 v2 v3 v4) k n 23 [(0, vr_ v0), (1, vr_ v1), (2, vr_ v2), (3, vr_ v3), (4, vi_ v4)] [] m) : ∀ (m : Mm) (v0 : Option Nat) (v1 : Option Nat) (v2 : Option Nat) (v3 : Option Nat) (v4 : Int32) (k n : Nat), Sm_ l g E 7 en_i (fL_law_b2405 (gE_ g) N k23 m v0 v1 v2 v3 v4) k n 2405 [(0, vr_ v0), (1, vr_ v1), (2, vr_ v2), (3, vr_ v3), (4, vi_ v4)] [] m := by
  intro m v0 v1 v2 v3 v4 k n
  unfold fL_law_b2405
  refine s_goto C (off := 689) 3094 dL_law_2405 rfl ?_
  exact wL_law_b3094 C hret h0 hin N hk23 _ _ _ _ _ _ _ _
theorem wL_law_b2497 {l : Launch} {g : GG} {E : Me_} (C : Cx_ l g E "MasterTreeLaw" cL_law 7 40) (hret : (eT_ E).sig.returnType = (some .boolean)) (h0 : ∀ x ∈ (eC_ E).exceptionTable.toList, False) (hin : (eT_ E).name = "law") (N : Nat) {k23 : Mm → Option Nat → Option Nat → Option Nat → Option Nat → Int32 → Rs (Int32)} (hk23 : ∀ (m : Mm) (v0 : Option Nat) (v1 : Option Nat) (v2 : Option Nat) (v3 : Option Nat) (v4 : Int32) (k n : Nat), Sm_ l g E 7 en_i (k23 m v0 v1 v2 v3 v4) k n 23 [(0, vr_ v0), (1, vr_ v1), (2, vr_ v2), (3, vr_ v3), (4, vi_ v4)] [] m) : ∀ (m : Mm) (v0 : Option Nat) (v1 : Option Nat) (v2 : Option Nat) (v3 : Option Nat) (v4 : Int32) (k n : Nat), Sm_ l g E 7 en_i (fL_law_b2497 (gE_ g) N k23 m v0 v1 v2 v3 v4) k n 2497 [(0, vr_ v0), (1, vr_ v1), (2, vr_ v2), (3, vr_ v3), (4, vi_ v4)] [] m := by
  intro m v0 v1 v2 v3 v4 k n
  unfold fL_law_b2497
  refine s_goto C (off := 597) 3094 dL_law_2497 rfl ?_
  exact wL_law_b3094 C hret h0 hin N hk23 _ _ _ _ _ _ _ _
theorem wL_law_b2577 {l : Launch} {g : GG} {E : Me_} (C : Cx_ l g E "MasterTreeLaw" cL_law 7 40) (hret : (eT_ E).sig.returnType = (some .boolean)) (h0 : ∀ x ∈ (eC_ E).exceptionTable.toList, False) (hin : (eT_ E).name = "law") (N : Nat) {k23 : Mm → Option Nat → Option Nat → Option Nat → Option Nat → Int32 → Rs (Int32)} (hk23 : ∀ (m : Mm) (v0 : Option Nat) (v1 : Option Nat) (v2 : Option Nat) (v3 : Option Nat) (v4 : Int32) (k n : Nat), Sm_ l g E 7 en_i (k23 m v0 v1 v2 v3 v4) k n 23 [(0, vr_ v0), (1, vr_ v1), (2, vr_ v2), (3, vr_ v3), (4, vi_ v4)] [] m) : ∀ (m : Mm) (v0 : Option Nat) (v1 : Option Nat) (v2 : Option Nat) (v3 : Option Nat) (v4 : Int32) (k n : Nat), Sm_ l g E 7 en_i (fL_law_b2577 (gE_ g) N k23 m v0 v1 v2 v3 v4) k n 2577 [(0, vr_ v0), (1, vr_ v1), (2, vr_ v2), (3, vr_ v3), (4, vi_ v4)] [] m := by
  intro m v0 v1 v2 v3 v4 k n
  unfold fL_law_b2577
  refine s_goto C (off := 517) 3094 dL_law_2577 rfl ?_
  exact wL_law_b3094 C hret h0 hin N hk23 _ _ _ _ _ _ _ _
theorem wL_law_b2645 {l : Launch} {g : GG} {E : Me_} (C : Cx_ l g E "MasterTreeLaw" cL_law 7 40) (hret : (eT_ E).sig.returnType = (some .boolean)) (h0 : ∀ x ∈ (eC_ E).exceptionTable.toList, False) (hin : (eT_ E).name = "law") (N : Nat) {k23 : Mm → Option Nat → Option Nat → Option Nat → Option Nat → Int32 → Rs (Int32)} (hk23 : ∀ (m : Mm) (v0 : Option Nat) (v1 : Option Nat) (v2 : Option Nat) (v3 : Option Nat) (v4 : Int32) (k n : Nat), Sm_ l g E 7 en_i (k23 m v0 v1 v2 v3 v4) k n 23 [(0, vr_ v0), (1, vr_ v1), (2, vr_ v2), (3, vr_ v3), (4, vi_ v4)] [] m) : ∀ (m : Mm) (v0 : Option Nat) (v1 : Option Nat) (v2 : Option Nat) (v3 : Option Nat) (v4 : Int32) (k n : Nat), Sm_ l g E 7 en_i (fL_law_b2645 (gE_ g) N k23 m v0 v1 v2 v3 v4) k n 2645 [(0, vr_ v0), (1, vr_ v1), (2, vr_ v2), (3, vr_ v3), (4, vi_ v4)] [] m := by
  intro m v0 v1 v2 v3 v4 k n
  unfold fL_law_b2645
  refine s_goto C (off := 449) 3094 dL_law_2645 rfl ?_
  exact wL_law_b3094 C hret h0 hin N hk23 _ _ _ _ _ _ _ _
theorem wL_law_b2744 {l : Launch} {g : GG} {E : Me_} (C : Cx_ l g E "MasterTreeLaw" cL_law 7 40) (hret : (eT_ E).sig.returnType = (some .boolean)) (h0 : ∀ x ∈ (eC_ E).exceptionTable.toList, False) (hin : (eT_ E).name = "law") (N : Nat) {k23 : Mm → Option Nat → Option Nat → Option Nat → Option Nat → Int32 → Rs (Int32)} (hk23 : ∀ (m : Mm) (v0 : Option Nat) (v1 : Option Nat) (v2 : Option Nat) (v3 : Option Nat) (v4 : Int32) (k n : Nat), Sm_ l g E 7 en_i (k23 m v0 v1 v2 v3 v4) k n 23 [(0, vr_ v0), (1, vr_ v1), (2, vr_ v2), (3, vr_ v3), (4, vi_ v4)] [] m) : ∀ (m : Mm) (v0 : Option Nat) (v1 : Option Nat) (v2 : Option Nat) (v3 : Option Nat) (v4 : Int32) (k n : Nat), Sm_ l g E 7 en_i (fL_law_b2744 (gE_ g) N k23 m v0 v1 v2 v3 v4) k n 2744 [(0, vr_ v0), (1, vr_ v1), (2, vr_ v2), (3, vr_ v3), (4, vi_ v4)] [] m := by
  intro m v0 v1 v2 v3 v4 k n
  unfold fL_law_b2744
  refine s_goto C (off := 350) 3094 dL_law_2744 rfl ?_
  exact wL_law_b3094 C hret h0 hin N hk23 _ _ _ _ _ _ _ _
theorem wL_law_b2738 {l : Launch} {g : GG} {E : Me_} (C : Cx_ l g E "MasterTreeLaw" cL_law 7 40) (hret : (eT_ E).sig.returnType = (some .boolean)) (h0 : ∀ x ∈ (eC_ E).exceptionTable.toList, False) (hin : (eT_ E).name = "law") (N : Nat) {k23 : Mm → Option Nat → Option Nat → Option Nat → Option Nat → Int32 → Rs (Int32)} (hk23 : ∀ (m : Mm) (v0 : Option Nat) (v1 : Option Nat) (v2 : Option Nat) (v3 : Option Nat) (v4 : Int32) (k n : Nat), Sm_ l g E 7 en_i (k23 m v0 v1 v2 v3 v4) k n 23 [(0, vr_ v0), (1, vr_ v1), (2, vr_ v2), (3, vr_ v3), (4, vi_ v4)] [] m) : ∀ (m : Mm) (v0 : Option Nat) (v1 : Option Nat) (v2 : Option Nat) (v3 : Option Nat) (v4 : Int32) (s0 : Int64) (s1 : Int64) (k n : Nat), Sm_ l g E 7 en_i (fL_law_b2738 (gE_ g) N k23 m v0 v1 v2 v3 v4 s0 s1) k n 2738 [(0, vr_ v0), (1, vr_ v1), (2, vr_ v2), (3, vr_ v3), (4, vi_ v4)] [vj_ s1, vj_ s0] m := by
  intro m v0 v1 v2 v3 v4 s0 s1 k n
  unfold fL_law_b2738
  refine s_lcmp C dL_law_2738 2739 rfl ?_
  refine s_if_eq C dL_law_2739 2744 rfl 2742 rfl (fun c_ => ?_) (fun c_ => ?_)
  · exact wL_law_b2744 C hret h0 hin N hk23 _ _ _ _ _ _ _ _
  · refine s_iconst C 0 rfl dL_law_2742 2743 rfl ?_
    exact x_zret0 C hret (by decide) rfl dL_law_2743
theorem wL_law_b2824 {l : Launch} {g : GG} {E : Me_} (C : Cx_ l g E "MasterTreeLaw" cL_law 7 40) (hret : (eT_ E).sig.returnType = (some .boolean)) (h0 : ∀ x ∈ (eC_ E).exceptionTable.toList, False) (hin : (eT_ E).name = "law") (N : Nat) {k23 : Mm → Option Nat → Option Nat → Option Nat → Option Nat → Int32 → Rs (Int32)} (hk23 : ∀ (m : Mm) (v0 : Option Nat) (v1 : Option Nat) (v2 : Option Nat) (v3 : Option Nat) (v4 : Int32) (k n : Nat), Sm_ l g E 7 en_i (k23 m v0 v1 v2 v3 v4) k n 23 [(0, vr_ v0), (1, vr_ v1), (2, vr_ v2), (3, vr_ v3), (4, vi_ v4)] [] m) : ∀ (m : Mm) (v0 : Option Nat) (v1 : Option Nat) (v2 : Option Nat) (v3 : Option Nat) (v4 : Int32) (k n : Nat), Sm_ l g E 7 en_i (fL_law_b2824 (gE_ g) N k23 m v0 v1 v2 v3 v4) k n 2824 [(0, vr_ v0), (1, vr_ v1), (2, vr_ v2), (3, vr_ v3), (4, vi_ v4)] [] m := by
  intro m v0 v1 v2 v3 v4 k n
  unfold fL_law_b2824
  refine s_goto C (off := 270) 3094 dL_law_2824 rfl ?_
  exact wL_law_b3094 C hret h0 hin N hk23 _ _ _ _ _ _ _ _
theorem wL_law_b2892 {l : Launch} {g : GG} {E : Me_} (C : Cx_ l g E "MasterTreeLaw" cL_law 7 40) (hret : (eT_ E).sig.returnType = (some .boolean)) (h0 : ∀ x ∈ (eC_ E).exceptionTable.toList, False) (hin : (eT_ E).name = "law") (N : Nat) {k23 : Mm → Option Nat → Option Nat → Option Nat → Option Nat → Int32 → Rs (Int32)} (hk23 : ∀ (m : Mm) (v0 : Option Nat) (v1 : Option Nat) (v2 : Option Nat) (v3 : Option Nat) (v4 : Int32) (k n : Nat), Sm_ l g E 7 en_i (k23 m v0 v1 v2 v3 v4) k n 23 [(0, vr_ v0), (1, vr_ v1), (2, vr_ v2), (3, vr_ v3), (4, vi_ v4)] [] m) : ∀ (m : Mm) (v0 : Option Nat) (v1 : Option Nat) (v2 : Option Nat) (v3 : Option Nat) (v4 : Int32) (k n : Nat), Sm_ l g E 7 en_i (fL_law_b2892 (gE_ g) N k23 m v0 v1 v2 v3 v4) k n 2892 [(0, vr_ v0), (1, vr_ v1), (2, vr_ v2), (3, vr_ v3), (4, vi_ v4)] [] m := by
  intro m v0 v1 v2 v3 v4 k n
  unfold fL_law_b2892
  refine s_goto C (off := 202) 3094 dL_law_2892 rfl ?_
  exact wL_law_b3094 C hret h0 hin N hk23 _ _ _ _ _ _ _ _
theorem wL_law_b2960 {l : Launch} {g : GG} {E : Me_} (C : Cx_ l g E "MasterTreeLaw" cL_law 7 40) (hret : (eT_ E).sig.returnType = (some .boolean)) (h0 : ∀ x ∈ (eC_ E).exceptionTable.toList, False) (hin : (eT_ E).name = "law") (N : Nat) {k23 : Mm → Option Nat → Option Nat → Option Nat → Option Nat → Int32 → Rs (Int32)} (hk23 : ∀ (m : Mm) (v0 : Option Nat) (v1 : Option Nat) (v2 : Option Nat) (v3 : Option Nat) (v4 : Int32) (k n : Nat), Sm_ l g E 7 en_i (k23 m v0 v1 v2 v3 v4) k n 23 [(0, vr_ v0), (1, vr_ v1), (2, vr_ v2), (3, vr_ v3), (4, vi_ v4)] [] m) : ∀ (m : Mm) (v0 : Option Nat) (v1 : Option Nat) (v2 : Option Nat) (v3 : Option Nat) (v4 : Int32) (k n : Nat), Sm_ l g E 7 en_i (fL_law_b2960 (gE_ g) N k23 m v0 v1 v2 v3 v4) k n 2960 [(0, vr_ v0), (1, vr_ v1), (2, vr_ v2), (3, vr_ v3), (4, vi_ v4)] [] m := by
  intro m v0 v1 v2 v3 v4 k n
  unfold fL_law_b2960
  refine s_goto C (off := 134) 3094 dL_law_2960 rfl ?_
  exact wL_law_b3094 C hret h0 hin N hk23 _ _ _ _ _ _ _ _
theorem wL_law_b3016 {l : Launch} {g : GG} {E : Me_} (C : Cx_ l g E "MasterTreeLaw" cL_law 7 40) (hret : (eT_ E).sig.returnType = (some .boolean)) (h0 : ∀ x ∈ (eC_ E).exceptionTable.toList, False) (hin : (eT_ E).name = "law") (N : Nat) {k23 : Mm → Option Nat → Option Nat → Option Nat → Option Nat → Int32 → Rs (Int32)} (hk23 : ∀ (m : Mm) (v0 : Option Nat) (v1 : Option Nat) (v2 : Option Nat) (v3 : Option Nat) (v4 : Int32) (k n : Nat), Sm_ l g E 7 en_i (k23 m v0 v1 v2 v3 v4) k n 23 [(0, vr_ v0), (1, vr_ v1), (2, vr_ v2), (3, vr_ v3), (4, vi_ v4)] [] m) : ∀ (m : Mm) (v0 : Option Nat) (v1 : Option Nat) (v2 : Option Nat) (v3 : Option Nat) (v4 : Int32) (k n : Nat), Sm_ l g E 7 en_i (fL_law_b3016 (gE_ g) N k23 m v0 v1 v2 v3 v4) k n 3016 [(0, vr_ v0), (1, vr_ v1), (2, vr_ v2), (3, vr_ v3), (4, vi_ v4)] [] m := by
  intro m v0 v1 v2 v3 v4 k n
  unfold fL_law_b3016
  refine s_goto C (off := 78) 3094 dL_law_3016 rfl ?_
  exact wL_law_b3094 C hret h0 hin N hk23 _ _ _ _ _ _ _ _
theorem wL_law_b3091 {l : Launch} {g : GG} {E : Me_} (C : Cx_ l g E "MasterTreeLaw" cL_law 7 40) (hret : (eT_ E).sig.returnType = (some .boolean)) (h0 : ∀ x ∈ (eC_ E).exceptionTable.toList, False) (hin : (eT_ E).name = "law") (N : Nat) {k23 : Mm → Option Nat → Option Nat → Option Nat → Option Nat → Int32 → Rs (Int32)} (hk23 : ∀ (m : Mm) (v0 : Option Nat) (v1 : Option Nat) (v2 : Option Nat) (v3 : Option Nat) (v4 : Int32) (k n : Nat), Sm_ l g E 7 en_i (k23 m v0 v1 v2 v3 v4) k n 23 [(0, vr_ v0), (1, vr_ v1), (2, vr_ v2), (3, vr_ v3), (4, vi_ v4)] [] m) : ∀ (m : Mm) (v0 : Option Nat) (v1 : Option Nat) (v2 : Option Nat) (v3 : Option Nat) (v4 : Int32) (k n : Nat), Sm_ l g E 7 en_i (fL_law_b3091 (gE_ g) N k23 m v0 v1 v2 v3 v4) k n 3091 [(0, vr_ v0), (1, vr_ v1), (2, vr_ v2), (3, vr_ v3), (4, vi_ v4)] [] m := by
  intro m v0 v1 v2 v3 v4 k n
  unfold fL_law_b3091
  refine s_goto C (off := 3) 3094 dL_law_3091 rfl ?_
  exact wL_law_b3094 C hret h0 hin N hk23 _ _ _ _ _ _ _ _
theorem wL_law_b3085 {l : Launch} {g : GG} {E : Me_} (C : Cx_ l g E "MasterTreeLaw" cL_law 7 40) (hret : (eT_ E).sig.returnType = (some .boolean)) (h0 : ∀ x ∈ (eC_ E).exceptionTable.toList, False) (hin : (eT_ E).name = "law") (N : Nat) {k23 : Mm → Option Nat → Option Nat → Option Nat → Option Nat → Int32 → Rs (Int32)} (hk23 : ∀ (m : Mm) (v0 : Option Nat) (v1 : Option Nat) (v2 : Option Nat) (v3 : Option Nat) (v4 : Int32) (k n : Nat), Sm_ l g E 7 en_i (k23 m v0 v1 v2 v3 v4) k n 23 [(0, vr_ v0), (1, vr_ v1), (2, vr_ v2), (3, vr_ v3), (4, vi_ v4)] [] m) : ∀ (m : Mm) (v0 : Option Nat) (v1 : Option Nat) (v2 : Option Nat) (v3 : Option Nat) (v4 : Int32) (s0 : Int64) (s1 : Int64) (k n : Nat), Sm_ l g E 7 en_i (fL_law_b3085 (gE_ g) N k23 m v0 v1 v2 v3 v4 s0 s1) k n 3085 [(0, vr_ v0), (1, vr_ v1), (2, vr_ v2), (3, vr_ v3), (4, vi_ v4)] [vj_ s1, vj_ s0] m := by
  intro m v0 v1 v2 v3 v4 s0 s1 k n
  unfold fL_law_b3085
  refine s_lcmp C dL_law_3085 3086 rfl ?_
  refine s_if_eq C dL_law_3086 3091 rfl 3089 rfl (fun c_ => ?_) (fun c_ => ?_)
  · exact wL_law_b3091 C hret h0 hin N hk23 _ _ _ _ _ _ _ _
  · refine s_iconst C 0 rfl dL_law_3089 3090 rfl ?_
    exact x_zret0 C hret (by decide) rfl dL_law_3090
theorem wL_law_b23 {l : Launch} {g : GG} {E : Me_} (C : Cx_ l g E "MasterTreeLaw" cL_law 7 40) (hret : (eT_ E).sig.returnType = (some .boolean)) (h0 : ∀ x ∈ (eC_ E).exceptionTable.toList, False) (hin : (eT_ E).name = "law") (N : Nat) : ∀ (F : Nat) (m : Mm) (v0 : Option Nat) (v1 : Option Nat) (v2 : Option Nat) (v3 : Option Nat) (v4 : Int32) (k n : Nat), Sm_ l g E 7 en_i (fL_law_b23 (gE_ g) N F m v0 v1 v2 v3 v4) k n 23 [(0, vr_ v0), (1, vr_ v1), (2, vr_ v2), (3, vr_ v3), (4, vi_ v4)] [] m := by
  intro F
  induction F with
  | zero => intros; exact Sm_none
  | succ F ih =>
    intro m v0 v1 v2 v3 v4 k n
    unfold fL_law_b23
    refine s_iload C 4 rfl dL_law_23 25 rfl ?_
    refine s_aload_n C rfl 0 rfl dL_law_25 26 rfl ?_
    refine x_ln C 0 (.int) rfl 200 rfl dL_law_26 27 rfl (fun x1 => ?_)
    refine s_bipush C 7 rfl dL_law_27 29 rfl ?_
    refine s_isub C dL_law_29 30 rfl ?_
    refine s_icmp_gt C dL_law_30 3100 rfl 33 rfl (fun c_ => ?_) (fun c_ => ?_)
    · refine s_iconst C 1 rfl dL_law_3100 3101 rfl ?_
      exact x_zret0 C hret (by decide) rfl dL_law_3101
    · refine s_aload_n C rfl 0 rfl dL_law_33 34 rfl ?_
      refine s_iload C 4 rfl dL_law_34 36 rfl ?_
      refine x_ai0 C 200 rfl dL_law_36 37 rfl (fun x2 => ?_)
      refine s_bipush C 63 rfl dL_law_37 39 rfl ?_
      refine s_iand C dL_law_39 40 rfl ?_
      refine x_tj C dL_law_40 0 (by decide) (by decide) 176 rfl 216 (by decide) ?_ ?_
      · refine s_aload_n C rfl 1 rfl dL_law_216 217 rfl ?_
        refine s_aload_n C rfl 0 rfl dL_law_217 218 rfl ?_
        refine s_iload C 4 rfl dL_law_218 220 rfl ?_
        refine s_iconst C 1 rfl dL_law_220 221 rfl ?_
        refine s_iadd C dL_law_221 222 rfl ?_
        refine x_ai0 C 200 rfl dL_law_222 223 rfl (fun x3 => ?_)
        refine s_if_eq C dL_law_223 230 rfl 226 rfl (fun c_ => ?_) (fun c_ => ?_)
        · refine s_iconst C 0 rfl dL_law_230 231 rfl ?_
          exact wL_law_b231 C hret h0 hin N (fun m v0 v1 v2 v3 v4 k n => ih m v0 v1 v2 v3 v4 k n) _ _ _ _ _ _ _ _ _ _
        · refine s_iconst C 1 rfl dL_law_226 227 rfl ?_
          refine s_goto C (off := 4) 231 dL_law_227 rfl ?_
          exact wL_law_b231 C hret h0 hin N (fun m v0 v1 v2 v3 v4 k n => ih m v0 v1 v2 v3 v4 k n) _ _ _ _ _ _ _ _ _ _
      refine x_tj C dL_law_40 1 (by decide) (by decide) 276 rfl 316 (by decide) ?_ ?_
      · refine s_aload_n C rfl 1 rfl dL_law_316 317 rfl ?_
        refine s_aload_n C rfl 0 rfl dL_law_317 318 rfl ?_
        refine s_iload C 4 rfl dL_law_318 320 rfl ?_
        refine s_iconst C 1 rfl dL_law_320 321 rfl ?_
        refine s_iadd C dL_law_321 322 rfl ?_
        refine x_ai0 C 200 rfl dL_law_322 323 rfl (fun x4 => ?_)
        refine s_aload_n C rfl 0 rfl dL_law_323 324 rfl ?_
        refine s_iload C 4 rfl dL_law_324 326 rfl ?_
        refine s_iconst C 2 rfl dL_law_326 327 rfl ?_
        refine s_iadd C dL_law_327 328 rfl ?_
        refine x_ai0 C 200 rfl dL_law_328 329 rfl (fun x5 => ?_)
        refine s_aload_n C rfl 0 rfl dL_law_329 330 rfl ?_
        refine s_iload C 4 rfl dL_law_330 332 rfl ?_
        refine s_iconst C 3 rfl dL_law_332 333 rfl ?_
        refine s_iadd C dL_law_333 334 rfl ?_
        refine x_ai0 C 200 rfl dL_law_334 335 rfl (fun x6 => ?_)
        refine s_aload_n C rfl 3 rfl dL_law_335 336 rfl ?_
        refine x_callSW (enc := en_i) C 19 5 [vr_ v1, vi_ x4, vi_ x5, vi_ x6, vr_ v3] (ctX0_objectClass C.2.2.2.2.2.2.2.2.1 N m v1 x4 x5 x6 v3) q597 q598 q80 q599 hdX0_objectClass (Nat.le_of_ble_eq_true rfl) (Nat.le_of_ble_eq_true rfl) rfl (Nat.le_of_ble_eq_true rfl) dL_law_336 339 rfl rfl hen_i (kk_i (fun x7 m1 k1 n1 => ?_)) (kx_n he_i)
        refine s_istore C (Nat.le_of_ble_eq_true rfl) [0, 1, 2, 3, 4] rfl rfl dL_law_339 341 rfl ?_
        refine s_aload_n C rfl 3 rfl dL_law_341 342 rfl ?_
        refine s_aload_n C rfl 1 rfl dL_law_342 343 rfl ?_
        refine s_iload C 5 rfl dL_law_343 345 rfl ?_
        refine s_iconst C 1 rfl dL_law_345 346 rfl ?_
        refine s_iadd C dL_law_346 347 rfl ?_
        refine x_ai0 C 200 rfl dL_law_347 348 rfl (fun x8 => ?_)
        refine s_aload_n C rfl 1 rfl dL_law_348 349 rfl ?_
        refine s_iload C 5 rfl dL_law_349 351 rfl ?_
        refine s_iconst C 2 rfl dL_law_351 352 rfl ?_
        refine s_iadd C dL_law_352 353 rfl ?_
        refine x_ai0 C 200 rfl dL_law_353 354 rfl (fun x9 => ?_)
        refine s_aload_n C rfl 1 rfl dL_law_354 355 rfl ?_
        refine s_iload C 5 rfl dL_law_355 357 rfl ?_
        refine s_iconst C 3 rfl dL_law_357 358 rfl ?_
        refine s_iadd C dL_law_358 359 rfl ?_
        refine x_ai0 C 200 rfl dL_law_359 360 rfl (fun x10 => ?_)
        refine x_ck (fun hb_ hb0_ => ?_)
        refine x_callV (enc := en_i) C 11 3 [vi_ x8, vi_ x9, vi_ x10] 4 (ctX4_objectClass C.2.2.2.2.2.2.2.2.1 N m1 v2 x8 x9 x10) hb_ hb0_ rfl rfl q3370 q3371 q3372 q93 q3373 hdX4_objectClass (Nat.le_of_ble_eq_true rfl) (Nat.le_of_ble_eq_true rfl) rfl (Nat.le_of_ble_eq_true rfl) dL_law_360 363 rfl rfl hen_i (kk_i (fun x11 m2 k1 n1 => ?_)) (kx_n he_i)
        refine s_istore C (Nat.le_of_ble_eq_true rfl) [0, 1, 2, 3, 4, 5] rfl rfl dL_law_363 365 rfl ?_
        refine s_aload_n C rfl 4 rfl dL_law_365 366 rfl ?_
        refine x_ck (fun hb_ hb0_ => ?_)
        refine x_callV (enc := en_i) C 10 0 [] 4 (ctX4_thrown C.2.2.2.2.2.2.2.2.1 N m2 v2) hb_ hb0_ rfl rfl q3358 q3359 q3360 q93 q3361 hdX4_thrown (Nat.le_of_ble_eq_true rfl) (Nat.le_of_ble_eq_true rfl) rfl (Nat.le_of_ble_eq_true rfl) dL_law_366 369 rfl rfl hen_i (kk_i (fun x12 m3 k1 n1 => ?_)) (kx_n he_i)
        refine s_iload C 1 rfl dL_law_369 371 rfl ?_
        refine s_icmp_eq C dL_law_371 376 rfl 374 rfl (fun c_ => ?_) (fun c_ => ?_)
        · refine s_iload C 1 rfl dL_law_376 378 rfl ?_
          refine s_if_ne C dL_law_378 393 rfl 381 rfl (fun c_ => ?_) (fun c_ => ?_)
          · refine s_aload_n C rfl 5 rfl dL_law_381 382 rfl ?_
            refine s_iconst C 0 rfl dL_law_382 383 rfl ?_
            refine x_aj3 C 203 rfl dL_law_383 384 rfl (fun x13 => ?_)
            refine s_iload C 0 rfl dL_law_384 386 rfl ?_
            refine s_i2l C dL_law_386 387 rfl ?_
            refine s_lcmp C dL_law_387 388 rfl ?_
            refine s_if_eq C dL_law_388 393 rfl 391 rfl (fun c_ => ?_) (fun c_ => ?_)
            · refine Sm_sub [2, 3, 4, 5, 6] rfl ?_
              exact wL_law_b393 C hret h0 hin N (fun m v0 v1 v2 v3 v4 k n => ih m v0 v1 v2 v3 v4 k n) _ _ _ _ _ _ _ _
            · refine s_iconst C 0 rfl dL_law_391 392 rfl ?_
              exact x_zret0 C hret (by decide) rfl dL_law_392
          · refine Sm_sub [2, 3, 4, 5, 6] rfl ?_
            exact wL_law_b393 C hret h0 hin N (fun m v0 v1 v2 v3 v4 k n => ih m v0 v1 v2 v3 v4 k n) _ _ _ _ _ _ _ _
        · refine s_iconst C 0 rfl dL_law_374 375 rfl ?_
          exact x_zret0 C hret (by decide) rfl dL_law_375
      refine x_tj C dL_law_40 2 (by decide) (by decide) 356 rfl 396 (by decide) ?_ ?_
      · refine s_aload_n C rfl 1 rfl dL_law_396 397 rfl ?_
        refine s_aload_n C rfl 0 rfl dL_law_397 398 rfl ?_
        refine s_iload C 4 rfl dL_law_398 400 rfl ?_
        refine s_iconst C 1 rfl dL_law_400 401 rfl ?_
        refine s_iadd C dL_law_401 402 rfl ?_
        refine x_ai0 C 200 rfl dL_law_402 403 rfl (fun x14 => ?_)
        refine s_aload_n C rfl 0 rfl dL_law_403 404 rfl ?_
        refine s_iload C 4 rfl dL_law_404 406 rfl ?_
        refine s_iconst C 2 rfl dL_law_406 407 rfl ?_
        refine s_iadd C dL_law_407 408 rfl ?_
        refine x_ai0 C 200 rfl dL_law_408 409 rfl (fun x15 => ?_)
        refine s_aload_n C rfl 3 rfl dL_law_409 410 rfl ?_
        refine x_callSW (enc := en_i) C 19 4 [vr_ v1, vi_ x14, vi_ x15, vr_ v3] (ctX0_serve C.2.2.2.2.2.2.2.2.1 N m v1 x14 x15 v3) q927 q928 q80 q929 hdX0_serve (Nat.le_of_ble_eq_true rfl) (Nat.le_of_ble_eq_true rfl) rfl (Nat.le_of_ble_eq_true rfl) dL_law_410 413 rfl rfl hen_i (kk_i (fun x16 m4 k1 n1 => ?_)) (kx_n he_i)
        refine s_istore C (Nat.le_of_ble_eq_true rfl) [0, 1, 2, 3, 4] rfl rfl dL_law_413 415 rfl ?_
        refine s_aload_n C rfl 3 rfl dL_law_415 416 rfl ?_
        refine s_aload_n C rfl 1 rfl dL_law_416 417 rfl ?_
        refine s_iload C 5 rfl dL_law_417 419 rfl ?_
        refine s_iconst C 1 rfl dL_law_419 420 rfl ?_
        refine s_iadd C dL_law_420 421 rfl ?_
        refine x_ai0 C 200 rfl dL_law_421 422 rfl (fun x17 => ?_)
        refine s_aload_n C rfl 1 rfl dL_law_422 423 rfl ?_
        refine s_iload C 5 rfl dL_law_423 425 rfl ?_
        refine s_iconst C 2 rfl dL_law_425 426 rfl ?_
        refine s_iadd C dL_law_426 427 rfl ?_
        refine x_ai0 C 200 rfl dL_law_427 428 rfl (fun x18 => ?_)
        refine x_ck (fun hb_ hb0_ => ?_)
        refine x_callV (enc := en_i) C 12 2 [vi_ x17, vi_ x18] 4 (ctX4_serve C.2.2.2.2.2.2.2.2.1 N m4 v2 x17 x18) hb_ hb0_ rfl rfl q3377 q3378 q3379 q93 q3380 hdX4_serve (Nat.le_of_ble_eq_true rfl) (Nat.le_of_ble_eq_true rfl) rfl (Nat.le_of_ble_eq_true rfl) dL_law_428 431 rfl rfl hen_i (kk_i (fun x19 m5 k1 n1 => ?_)) (kx_n he_i)
        refine s_istore C (Nat.le_of_ble_eq_true rfl) [0, 1, 2, 3, 4, 5] rfl rfl dL_law_431 433 rfl ?_
        refine s_aload_n C rfl 4 rfl dL_law_433 434 rfl ?_
        refine x_ck (fun hb_ hb0_ => ?_)
        refine x_callV (enc := en_i) C 10 0 [] 4 (ctX4_thrown C.2.2.2.2.2.2.2.2.1 N m5 v2) hb_ hb0_ rfl rfl q3358 q3359 q3360 q93 q3361 hdX4_thrown (Nat.le_of_ble_eq_true rfl) (Nat.le_of_ble_eq_true rfl) rfl (Nat.le_of_ble_eq_true rfl) dL_law_434 437 rfl rfl hen_i (kk_i (fun x20 m6 k1 n1 => ?_)) (kx_n he_i)
        refine s_iload C 1 rfl dL_law_437 439 rfl ?_
        refine s_icmp_eq C dL_law_439 444 rfl 442 rfl (fun c_ => ?_) (fun c_ => ?_)
        · refine s_iload C 1 rfl dL_law_444 446 rfl ?_
          refine s_if_ne C dL_law_446 461 rfl 449 rfl (fun c_ => ?_) (fun c_ => ?_)
          · refine s_aload_n C rfl 5 rfl dL_law_449 450 rfl ?_
            refine s_iconst C 0 rfl dL_law_450 451 rfl ?_
            refine x_aj3 C 203 rfl dL_law_451 452 rfl (fun x21 => ?_)
            refine s_iload C 0 rfl dL_law_452 454 rfl ?_
            refine s_i2l C dL_law_454 455 rfl ?_
            refine s_lcmp C dL_law_455 456 rfl ?_
            refine s_if_eq C dL_law_456 461 rfl 459 rfl (fun c_ => ?_) (fun c_ => ?_)
            · refine Sm_sub [2, 3, 4, 5, 6] rfl ?_
              exact wL_law_b461 C hret h0 hin N (fun m v0 v1 v2 v3 v4 k n => ih m v0 v1 v2 v3 v4 k n) _ _ _ _ _ _ _ _
            · refine s_iconst C 0 rfl dL_law_459 460 rfl ?_
              exact x_zret0 C hret (by decide) rfl dL_law_460
          · refine Sm_sub [2, 3, 4, 5, 6] rfl ?_
            exact wL_law_b461 C hret h0 hin N (fun m v0 v1 v2 v3 v4 k n => ih m v0 v1 v2 v3 v4 k n) _ _ _ _ _ _ _ _
        · refine s_iconst C 0 rfl dL_law_442 443 rfl ?_
          exact x_zret0 C hret (by decide) rfl dL_law_443
      refine x_tj C dL_law_40 3 (by decide) (by decide) 424 rfl 464 (by decide) ?_ ?_
      · refine s_aload_n C rfl 1 rfl dL_law_464 465 rfl ?_
        refine s_aload_n C rfl 0 rfl dL_law_465 466 rfl ?_
        refine s_iload C 4 rfl dL_law_466 468 rfl ?_
        refine s_iconst C 1 rfl dL_law_468 469 rfl ?_
        refine s_iadd C dL_law_469 470 rfl ?_
        refine x_ai0 C 200 rfl dL_law_470 471 rfl (fun x22 => ?_)
        refine s_aload_n C rfl 0 rfl dL_law_471 472 rfl ?_
        refine s_iload C 4 rfl dL_law_472 474 rfl ?_
        refine s_iconst C 2 rfl dL_law_474 475 rfl ?_
        refine s_iadd C dL_law_475 476 rfl ?_
        refine x_ai0 C 200 rfl dL_law_476 477 rfl (fun x23 => ?_)
        refine s_aload_n C rfl 3 rfl dL_law_477 478 rfl ?_
        refine x_callSW (enc := en_i) C 19 4 [vr_ v1, vi_ x22, vi_ x23, vr_ v3] (ctX0_draft C.2.2.2.2.2.2.2.2.1 N m v1 x22 x23 v3) q940 q941 q80 q942 hdX0_draft (Nat.le_of_ble_eq_true rfl) (Nat.le_of_ble_eq_true rfl) rfl (Nat.le_of_ble_eq_true rfl) dL_law_478 481 rfl rfl hen_i (kk_i (fun x24 m7 k1 n1 => ?_)) (kx_n he_i)
        refine s_istore C (Nat.le_of_ble_eq_true rfl) [0, 1, 2, 3, 4] rfl rfl dL_law_481 483 rfl ?_
        refine s_aload_n C rfl 3 rfl dL_law_483 484 rfl ?_
        refine s_aload_n C rfl 1 rfl dL_law_484 485 rfl ?_
        refine s_iload C 5 rfl dL_law_485 487 rfl ?_
        refine s_iconst C 1 rfl dL_law_487 488 rfl ?_
        refine s_iadd C dL_law_488 489 rfl ?_
        refine x_ai0 C 200 rfl dL_law_489 490 rfl (fun x25 => ?_)
        refine s_aload_n C rfl 1 rfl dL_law_490 491 rfl ?_
        refine s_iload C 5 rfl dL_law_491 493 rfl ?_
        refine s_iconst C 2 rfl dL_law_493 494 rfl ?_
        refine s_iadd C dL_law_494 495 rfl ?_
        refine x_ai0 C 200 rfl dL_law_495 496 rfl (fun x26 => ?_)
        refine x_ck (fun hb_ hb0_ => ?_)
        refine x_callV (enc := en_i) C 12 2 [vi_ x25, vi_ x26] 4 (ctX4_draft C.2.2.2.2.2.2.2.2.1 N m7 v2 x25 x26) hb_ hb0_ rfl rfl q3384 q3385 q3386 q93 q3387 hdX4_draft (Nat.le_of_ble_eq_true rfl) (Nat.le_of_ble_eq_true rfl) rfl (Nat.le_of_ble_eq_true rfl) dL_law_496 499 rfl rfl hen_i (kk_i (fun x27 m8 k1 n1 => ?_)) (kx_n he_i)
        refine s_istore C (Nat.le_of_ble_eq_true rfl) [0, 1, 2, 3, 4, 5] rfl rfl dL_law_499 501 rfl ?_
        refine s_aload_n C rfl 4 rfl dL_law_501 502 rfl ?_
        refine x_ck (fun hb_ hb0_ => ?_)
        refine x_callV (enc := en_i) C 10 0 [] 4 (ctX4_thrown C.2.2.2.2.2.2.2.2.1 N m8 v2) hb_ hb0_ rfl rfl q3358 q3359 q3360 q93 q3361 hdX4_thrown (Nat.le_of_ble_eq_true rfl) (Nat.le_of_ble_eq_true rfl) rfl (Nat.le_of_ble_eq_true rfl) dL_law_502 505 rfl rfl hen_i (kk_i (fun x28 m9 k1 n1 => ?_)) (kx_n he_i)
        refine s_iload C 1 rfl dL_law_505 507 rfl ?_
        refine s_icmp_eq C dL_law_507 512 rfl 510 rfl (fun c_ => ?_) (fun c_ => ?_)
        · refine s_iload C 1 rfl dL_law_512 514 rfl ?_
          refine s_if_ne C dL_law_514 529 rfl 517 rfl (fun c_ => ?_) (fun c_ => ?_)
          · refine s_aload_n C rfl 5 rfl dL_law_517 518 rfl ?_
            refine s_iconst C 0 rfl dL_law_518 519 rfl ?_
            refine x_aj3 C 203 rfl dL_law_519 520 rfl (fun x29 => ?_)
            refine s_iload C 0 rfl dL_law_520 522 rfl ?_
            refine s_i2l C dL_law_522 523 rfl ?_
            refine s_lcmp C dL_law_523 524 rfl ?_
            refine s_if_eq C dL_law_524 529 rfl 527 rfl (fun c_ => ?_) (fun c_ => ?_)
            · refine Sm_sub [2, 3, 4, 5, 6] rfl ?_
              exact wL_law_b529 C hret h0 hin N (fun m v0 v1 v2 v3 v4 k n => ih m v0 v1 v2 v3 v4 k n) _ _ _ _ _ _ _ _
            · refine s_iconst C 0 rfl dL_law_527 528 rfl ?_
              exact x_zret0 C hret (by decide) rfl dL_law_528
          · refine Sm_sub [2, 3, 4, 5, 6] rfl ?_
            exact wL_law_b529 C hret h0 hin N (fun m v0 v1 v2 v3 v4 k n => ih m v0 v1 v2 v3 v4 k n) _ _ _ _ _ _ _ _
        · refine s_iconst C 0 rfl dL_law_510 511 rfl ?_
          exact x_zret0 C hret (by decide) rfl dL_law_511
      refine x_tj C dL_law_40 4 (by decide) (by decide) 492 rfl 532 (by decide) ?_ ?_
      · refine s_aload_n C rfl 1 rfl dL_law_532 533 rfl ?_
        refine x_ck (fun hb_ hb0_ => ?_)
        refine x_callV (enc := en_i) C 11 0 [] 1 (ctX1_undraft C.2.2.2.2.2.2.2.2.1 N m v1) hb_ hb0_ rfl rfl q475 q476 q477 q81 q478 hdX1_undraft (Nat.le_of_ble_eq_true rfl) (Nat.le_of_ble_eq_true rfl) rfl (Nat.le_of_ble_eq_true rfl) dL_law_533 536 rfl rfl hen_i (kk_i (fun x30 m10 k1 n1 => ?_)) (kx_n he_i)
        refine s_aload_n C rfl 2 rfl dL_law_536 537 rfl ?_
        refine x_ck (fun hb_ hb0_ => ?_)
        refine x_callV (enc := en_i) C 10 0 [] 4 (ctX4_undraft C.2.2.2.2.2.2.2.2.1 N m10 v2) hb_ hb0_ rfl rfl q3395 q3396 q3397 q93 q3398 hdX4_undraft (Nat.le_of_ble_eq_true rfl) (Nat.le_of_ble_eq_true rfl) rfl (Nat.le_of_ble_eq_true rfl) dL_law_537 540 rfl rfl hen_i (kk_i (fun x31 m11 k1 n1 => ?_)) (kx_n he_i)
        refine s_icmp_eq C dL_law_540 3094 rfl 543 rfl (fun c_ => ?_) (fun c_ => ?_)
        · exact wL_law_b3094 C hret h0 hin N (fun m v0 v1 v2 v3 v4 k n => ih m v0 v1 v2 v3 v4 k n) _ _ _ _ _ _ _ _
        · refine s_iconst C 0 rfl dL_law_543 544 rfl ?_
          exact x_zret0 C hret (by decide) rfl dL_law_544
      refine x_tj C dL_law_40 5 (by decide) (by decide) 505 rfl 545 (by decide) ?_ ?_
      · refine s_aload_n C rfl 1 rfl dL_law_545 546 rfl ?_
        refine s_aload_n C rfl 0 rfl dL_law_546 547 rfl ?_
        refine s_iload C 4 rfl dL_law_547 549 rfl ?_
        refine s_iconst C 1 rfl dL_law_549 550 rfl ?_
        refine s_iadd C dL_law_550 551 rfl ?_
        refine x_ai0 C 200 rfl dL_law_551 552 rfl (fun x32 => ?_)
        refine s_aload_n C rfl 0 rfl dL_law_552 553 rfl ?_
        refine s_iload C 4 rfl dL_law_553 555 rfl ?_
        refine s_iconst C 2 rfl dL_law_555 556 rfl ?_
        refine s_iadd C dL_law_556 557 rfl ?_
        refine x_ai0 C 200 rfl dL_law_557 558 rfl (fun x33 => ?_)
        refine s_aload_n C rfl 0 rfl dL_law_558 559 rfl ?_
        refine s_iload C 4 rfl dL_law_559 561 rfl ?_
        refine s_iconst C 3 rfl dL_law_561 562 rfl ?_
        refine s_iadd C dL_law_562 563 rfl ?_
        refine x_ai0 C 200 rfl dL_law_563 564 rfl (fun x34 => ?_)
        refine s_aload_n C rfl 0 rfl dL_law_564 565 rfl ?_
        refine s_iload C 4 rfl dL_law_565 567 rfl ?_
        refine s_iconst C 4 rfl dL_law_567 568 rfl ?_
        refine s_iadd C dL_law_568 569 rfl ?_
        refine x_ai0 C 200 rfl dL_law_569 570 rfl (fun x35 => ?_)
        refine s_aload_n C rfl 3 rfl dL_law_570 571 rfl ?_
        refine x_callSW (enc := en_i) C 25 6 [vr_ v1, vi_ x32, vi_ x33, vi_ x34, vi_ x35, vr_ v3] (ctX0_add C.2.2.2.2.2.2.2.2.1 N m v1 x32 x33 x34 x35 v3) q961 q962 q80 q963 hdX0_add (Nat.le_of_ble_eq_true rfl) (Nat.le_of_ble_eq_true rfl) rfl (Nat.le_of_ble_eq_true rfl) dL_law_571 574 rfl rfl hen_i (kk_i (fun x36 m12 k1 n1 => ?_)) (kx_n he_i)
        refine s_istore C (Nat.le_of_ble_eq_true rfl) [0, 1, 2, 3, 4] rfl rfl dL_law_574 576 rfl ?_
        refine s_aload_n C rfl 3 rfl dL_law_576 577 rfl ?_
        refine s_aload_n C rfl 1 rfl dL_law_577 578 rfl ?_
        refine s_iload C 5 rfl dL_law_578 580 rfl ?_
        refine s_iconst C 1 rfl dL_law_580 581 rfl ?_
        refine s_iadd C dL_law_581 582 rfl ?_
        refine x_ai0 C 200 rfl dL_law_582 583 rfl (fun x37 => ?_)
        refine s_aload_n C rfl 1 rfl dL_law_583 584 rfl ?_
        refine s_iload C 5 rfl dL_law_584 586 rfl ?_
        refine s_iconst C 2 rfl dL_law_586 587 rfl ?_
        refine s_iadd C dL_law_587 588 rfl ?_
        refine x_ai0 C 200 rfl dL_law_588 589 rfl (fun x38 => ?_)
        refine s_aload_n C rfl 1 rfl dL_law_589 590 rfl ?_
        refine s_iload C 5 rfl dL_law_590 592 rfl ?_
        refine s_iconst C 3 rfl dL_law_592 593 rfl ?_
        refine s_iadd C dL_law_593 594 rfl ?_
        refine x_ai0 C 200 rfl dL_law_594 595 rfl (fun x39 => ?_)
        refine s_aload_n C rfl 1 rfl dL_law_595 596 rfl ?_
        refine s_iload C 5 rfl dL_law_596 598 rfl ?_
        refine s_iconst C 4 rfl dL_law_598 599 rfl ?_
        refine s_iadd C dL_law_599 600 rfl ?_
        refine x_ai0 C 200 rfl dL_law_600 601 rfl (fun x40 => ?_)
        refine x_ck (fun hb_ hb0_ => ?_)
        refine x_callV (enc := en_i) C 16 4 [vi_ x37, vi_ x38, vi_ x39, vi_ x40] 4 (ctX4_add C.2.2.2.2.2.2.2.2.1 N m12 v2 x37 x38 x39 x40) hb_ hb0_ rfl rfl q3399 q3400 q3401 q93 q3402 hdX4_add (Nat.le_of_ble_eq_true rfl) (Nat.le_of_ble_eq_true rfl) rfl (Nat.le_of_ble_eq_true rfl) dL_law_601 604 rfl rfl hen_i (kk_i (fun x41 m13 k1 n1 => ?_)) (kx_n he_i)
        refine s_istore C (Nat.le_of_ble_eq_true rfl) [0, 1, 2, 3, 4, 5] rfl rfl dL_law_604 606 rfl ?_
        refine s_aload_n C rfl 4 rfl dL_law_606 607 rfl ?_
        refine x_ck (fun hb_ hb0_ => ?_)
        refine x_callV (enc := en_i) C 10 0 [] 4 (ctX4_thrown C.2.2.2.2.2.2.2.2.1 N m13 v2) hb_ hb0_ rfl rfl q3358 q3359 q3360 q93 q3361 hdX4_thrown (Nat.le_of_ble_eq_true rfl) (Nat.le_of_ble_eq_true rfl) rfl (Nat.le_of_ble_eq_true rfl) dL_law_607 610 rfl rfl hen_i (kk_i (fun x42 m14 k1 n1 => ?_)) (kx_n he_i)
        refine s_iload C 1 rfl dL_law_610 612 rfl ?_
        refine s_icmp_eq C dL_law_612 617 rfl 615 rfl (fun c_ => ?_) (fun c_ => ?_)
        · refine s_iload C 1 rfl dL_law_617 619 rfl ?_
          refine s_if_ne C dL_law_619 634 rfl 622 rfl (fun c_ => ?_) (fun c_ => ?_)
          · refine s_aload_n C rfl 5 rfl dL_law_622 623 rfl ?_
            refine s_iconst C 0 rfl dL_law_623 624 rfl ?_
            refine x_aj3 C 203 rfl dL_law_624 625 rfl (fun x43 => ?_)
            refine s_iload C 0 rfl dL_law_625 627 rfl ?_
            refine s_i2l C dL_law_627 628 rfl ?_
            refine s_lcmp C dL_law_628 629 rfl ?_
            refine s_if_eq C dL_law_629 634 rfl 632 rfl (fun c_ => ?_) (fun c_ => ?_)
            · refine Sm_sub [2, 3, 4, 5, 6] rfl ?_
              exact wL_law_b634 C hret h0 hin N (fun m v0 v1 v2 v3 v4 k n => ih m v0 v1 v2 v3 v4 k n) _ _ _ _ _ _ _ _
            · refine s_iconst C 0 rfl dL_law_632 633 rfl ?_
              exact x_zret0 C hret (by decide) rfl dL_law_633
          · refine Sm_sub [2, 3, 4, 5, 6] rfl ?_
            exact wL_law_b634 C hret h0 hin N (fun m v0 v1 v2 v3 v4 k n => ih m v0 v1 v2 v3 v4 k n) _ _ _ _ _ _ _ _
        · refine s_iconst C 0 rfl dL_law_615 616 rfl ?_
          exact x_zret0 C hret (by decide) rfl dL_law_616
      refine x_tj C dL_law_40 6 (by decide) (by decide) 597 rfl 637 (by decide) ?_ ?_
      · refine s_aload_n C rfl 1 rfl dL_law_637 638 rfl ?_
        refine s_aload_n C rfl 0 rfl dL_law_638 639 rfl ?_
        refine s_iload C 4 rfl dL_law_639 641 rfl ?_
        refine s_iconst C 1 rfl dL_law_641 642 rfl ?_
        refine s_iadd C dL_law_642 643 rfl ?_
        refine x_ai0 C 200 rfl dL_law_643 644 rfl (fun x44 => ?_)
        refine s_aload_n C rfl 0 rfl dL_law_644 645 rfl ?_
        refine s_iload C 4 rfl dL_law_645 647 rfl ?_
        refine s_iconst C 2 rfl dL_law_647 648 rfl ?_
        refine s_iadd C dL_law_648 649 rfl ?_
        refine x_ai0 C 200 rfl dL_law_649 650 rfl (fun x45 => ?_)
        refine s_aload_n C rfl 0 rfl dL_law_650 651 rfl ?_
        refine s_iload C 4 rfl dL_law_651 653 rfl ?_
        refine s_iconst C 3 rfl dL_law_653 654 rfl ?_
        refine s_iadd C dL_law_654 655 rfl ?_
        refine x_ai0 C 200 rfl dL_law_655 656 rfl (fun x46 => ?_)
        refine s_aload_n C rfl 0 rfl dL_law_656 657 rfl ?_
        refine s_iload C 4 rfl dL_law_657 659 rfl ?_
        refine s_iconst C 4 rfl dL_law_659 660 rfl ?_
        refine s_iadd C dL_law_660 661 rfl ?_
        refine x_ai0 C 200 rfl dL_law_661 662 rfl (fun x47 => ?_)
        refine s_aload_n C rfl 3 rfl dL_law_662 663 rfl ?_
        refine x_callSW (enc := en_i) C 26 6 [vr_ v1, vi_ x44, vi_ x45, vi_ x46, vi_ x47, vr_ v3] (ctX0_addValue C.2.2.2.2.2.2.2.2.1 N m v1 x44 x45 x46 x47 v3) q2299 q2300 q80 q2301 hdX0_addValue (Nat.le_of_ble_eq_true rfl) (Nat.le_of_ble_eq_true rfl) rfl (Nat.le_of_ble_eq_true rfl) dL_law_663 666 rfl rfl hen_i (kk_i (fun x48 m15 k1 n1 => ?_)) (kx_n he_i)
        refine s_istore C (Nat.le_of_ble_eq_true rfl) [0, 1, 2, 3, 4] rfl rfl dL_law_666 668 rfl ?_
        refine s_aload_n C rfl 3 rfl dL_law_668 669 rfl ?_
        refine s_aload_n C rfl 1 rfl dL_law_669 670 rfl ?_
        refine s_iload C 5 rfl dL_law_670 672 rfl ?_
        refine s_iconst C 1 rfl dL_law_672 673 rfl ?_
        refine s_iadd C dL_law_673 674 rfl ?_
        refine x_ai0 C 200 rfl dL_law_674 675 rfl (fun x49 => ?_)
        refine s_aload_n C rfl 1 rfl dL_law_675 676 rfl ?_
        refine s_iload C 5 rfl dL_law_676 678 rfl ?_
        refine s_iconst C 2 rfl dL_law_678 679 rfl ?_
        refine s_iadd C dL_law_679 680 rfl ?_
        refine x_ai0 C 200 rfl dL_law_680 681 rfl (fun x50 => ?_)
        refine s_aload_n C rfl 1 rfl dL_law_681 682 rfl ?_
        refine s_iload C 5 rfl dL_law_682 684 rfl ?_
        refine s_iconst C 3 rfl dL_law_684 685 rfl ?_
        refine s_iadd C dL_law_685 686 rfl ?_
        refine x_ai0 C 200 rfl dL_law_686 687 rfl (fun x51 => ?_)
        refine s_aload_n C rfl 1 rfl dL_law_687 688 rfl ?_
        refine s_iload C 5 rfl dL_law_688 690 rfl ?_
        refine s_iconst C 4 rfl dL_law_690 691 rfl ?_
        refine s_iadd C dL_law_691 692 rfl ?_
        refine x_ai0 C 200 rfl dL_law_692 693 rfl (fun x52 => ?_)
        refine x_ck (fun hb_ hb0_ => ?_)
        refine x_callV (enc := en_i) C 17 4 [vi_ x49, vi_ x50, vi_ x51, vi_ x52] 4 (ctX4_addValue C.2.2.2.2.2.2.2.2.1 N m15 v2 x49 x50 x51 x52) hb_ hb0_ rfl rfl q3491 q3492 q3493 q93 q3494 hdX4_addValue (Nat.le_of_ble_eq_true rfl) (Nat.le_of_ble_eq_true rfl) rfl (Nat.le_of_ble_eq_true rfl) dL_law_693 696 rfl rfl hen_i (kk_i (fun x53 m16 k1 n1 => ?_)) (kx_n he_i)
        refine s_istore C (Nat.le_of_ble_eq_true rfl) [0, 1, 2, 3, 4, 5] rfl rfl dL_law_696 698 rfl ?_
        refine s_aload_n C rfl 4 rfl dL_law_698 699 rfl ?_
        refine x_ck (fun hb_ hb0_ => ?_)
        refine x_callV (enc := en_i) C 10 0 [] 4 (ctX4_thrown C.2.2.2.2.2.2.2.2.1 N m16 v2) hb_ hb0_ rfl rfl q3358 q3359 q3360 q93 q3361 hdX4_thrown (Nat.le_of_ble_eq_true rfl) (Nat.le_of_ble_eq_true rfl) rfl (Nat.le_of_ble_eq_true rfl) dL_law_699 702 rfl rfl hen_i (kk_i (fun x54 m17 k1 n1 => ?_)) (kx_n he_i)
        refine s_iload C 1 rfl dL_law_702 704 rfl ?_
        refine s_icmp_eq C dL_law_704 709 rfl 707 rfl (fun c_ => ?_) (fun c_ => ?_)
        · refine s_iload C 1 rfl dL_law_709 711 rfl ?_
          refine s_if_ne C dL_law_711 726 rfl 714 rfl (fun c_ => ?_) (fun c_ => ?_)
          · refine s_aload_n C rfl 5 rfl dL_law_714 715 rfl ?_
            refine s_iconst C 0 rfl dL_law_715 716 rfl ?_
            refine x_aj3 C 203 rfl dL_law_716 717 rfl (fun x55 => ?_)
            refine s_iload C 0 rfl dL_law_717 719 rfl ?_
            refine s_i2l C dL_law_719 720 rfl ?_
            refine s_lcmp C dL_law_720 721 rfl ?_
            refine s_if_eq C dL_law_721 726 rfl 724 rfl (fun c_ => ?_) (fun c_ => ?_)
            · refine Sm_sub [2, 3, 4, 5, 6] rfl ?_
              exact wL_law_b726 C hret h0 hin N (fun m v0 v1 v2 v3 v4 k n => ih m v0 v1 v2 v3 v4 k n) _ _ _ _ _ _ _ _
            · refine s_iconst C 0 rfl dL_law_724 725 rfl ?_
              exact x_zret0 C hret (by decide) rfl dL_law_725
          · refine Sm_sub [2, 3, 4, 5, 6] rfl ?_
            exact wL_law_b726 C hret h0 hin N (fun m v0 v1 v2 v3 v4 k n => ih m v0 v1 v2 v3 v4 k n) _ _ _ _ _ _ _ _
        · refine s_iconst C 0 rfl dL_law_707 708 rfl ?_
          exact x_zret0 C hret (by decide) rfl dL_law_708
      refine x_tj C dL_law_40 7 (by decide) (by decide) 689 rfl 729 (by decide) ?_ ?_
      · refine s_aload_n C rfl 1 rfl dL_law_729 730 rfl ?_
        refine s_aload_n C rfl 0 rfl dL_law_730 731 rfl ?_
        refine s_iload C 4 rfl dL_law_731 733 rfl ?_
        refine s_iconst C 1 rfl dL_law_733 734 rfl ?_
        refine s_iadd C dL_law_734 735 rfl ?_
        refine x_ai0 C 200 rfl dL_law_735 736 rfl (fun x56 => ?_)
        refine s_aload_n C rfl 0 rfl dL_law_736 737 rfl ?_
        refine s_iload C 4 rfl dL_law_737 739 rfl ?_
        refine s_iconst C 2 rfl dL_law_739 740 rfl ?_
        refine s_iadd C dL_law_740 741 rfl ?_
        refine x_ai0 C 200 rfl dL_law_741 742 rfl (fun x57 => ?_)
        refine s_aload_n C rfl 0 rfl dL_law_742 743 rfl ?_
        refine s_iload C 4 rfl dL_law_743 745 rfl ?_
        refine s_iconst C 3 rfl dL_law_745 746 rfl ?_
        refine s_iadd C dL_law_746 747 rfl ?_
        refine x_ai0 C 200 rfl dL_law_747 748 rfl (fun x58 => ?_)
        refine s_aload_n C rfl 0 rfl dL_law_748 749 rfl ?_
        refine s_iload C 4 rfl dL_law_749 751 rfl ?_
        refine s_iconst C 4 rfl dL_law_751 752 rfl ?_
        refine s_iadd C dL_law_752 753 rfl ?_
        refine x_ai0 C 200 rfl dL_law_753 754 rfl (fun x59 => ?_)
        refine s_aload_n C rfl 3 rfl dL_law_754 755 rfl ?_
        refine x_callSW (enc := en_i) C 26 6 [vr_ v1, vi_ x56, vi_ x57, vi_ x58, vi_ x59, vr_ v3] (ctX0_removeValue C.2.2.2.2.2.2.2.2.1 N m v1 x56 x57 x58 x59 v3) q2433 q2434 q80 q2435 hdX0_removeValue (Nat.le_of_ble_eq_true rfl) (Nat.le_of_ble_eq_true rfl) rfl (Nat.le_of_ble_eq_true rfl) dL_law_755 758 rfl rfl hen_i (kk_i (fun x60 m18 k1 n1 => ?_)) (kx_n he_i)
        refine s_istore C (Nat.le_of_ble_eq_true rfl) [0, 1, 2, 3, 4] rfl rfl dL_law_758 760 rfl ?_
        refine s_aload_n C rfl 3 rfl dL_law_760 761 rfl ?_
        refine s_aload_n C rfl 1 rfl dL_law_761 762 rfl ?_
        refine s_iload C 5 rfl dL_law_762 764 rfl ?_
        refine s_iconst C 1 rfl dL_law_764 765 rfl ?_
        refine s_iadd C dL_law_765 766 rfl ?_
        refine x_ai0 C 200 rfl dL_law_766 767 rfl (fun x61 => ?_)
        refine s_aload_n C rfl 1 rfl dL_law_767 768 rfl ?_
        refine s_iload C 5 rfl dL_law_768 770 rfl ?_
        refine s_iconst C 2 rfl dL_law_770 771 rfl ?_
        refine s_iadd C dL_law_771 772 rfl ?_
        refine x_ai0 C 200 rfl dL_law_772 773 rfl (fun x62 => ?_)
        refine s_aload_n C rfl 1 rfl dL_law_773 774 rfl ?_
        refine s_iload C 5 rfl dL_law_774 776 rfl ?_
        refine s_iconst C 3 rfl dL_law_776 777 rfl ?_
        refine s_iadd C dL_law_777 778 rfl ?_
        refine x_ai0 C 200 rfl dL_law_778 779 rfl (fun x63 => ?_)
        refine s_aload_n C rfl 1 rfl dL_law_779 780 rfl ?_
        refine s_iload C 5 rfl dL_law_780 782 rfl ?_
        refine s_iconst C 4 rfl dL_law_782 783 rfl ?_
        refine s_iadd C dL_law_783 784 rfl ?_
        refine x_ai0 C 200 rfl dL_law_784 785 rfl (fun x64 => ?_)
        refine x_ck (fun hb_ hb0_ => ?_)
        refine x_callV (enc := en_i) C 17 4 [vi_ x61, vi_ x62, vi_ x63, vi_ x64] 4 (ctX4_removeValue C.2.2.2.2.2.2.2.2.1 N m18 v2 x61 x62 x63 x64) hb_ hb0_ rfl rfl q3507 q3508 q3509 q93 q3510 hdX4_removeValue (Nat.le_of_ble_eq_true rfl) (Nat.le_of_ble_eq_true rfl) rfl (Nat.le_of_ble_eq_true rfl) dL_law_785 788 rfl rfl hen_i (kk_i (fun x65 m19 k1 n1 => ?_)) (kx_n he_i)
        refine s_istore C (Nat.le_of_ble_eq_true rfl) [0, 1, 2, 3, 4, 5] rfl rfl dL_law_788 790 rfl ?_
        refine s_aload_n C rfl 4 rfl dL_law_790 791 rfl ?_
        refine x_ck (fun hb_ hb0_ => ?_)
        refine x_callV (enc := en_i) C 10 0 [] 4 (ctX4_thrown C.2.2.2.2.2.2.2.2.1 N m19 v2) hb_ hb0_ rfl rfl q3358 q3359 q3360 q93 q3361 hdX4_thrown (Nat.le_of_ble_eq_true rfl) (Nat.le_of_ble_eq_true rfl) rfl (Nat.le_of_ble_eq_true rfl) dL_law_791 794 rfl rfl hen_i (kk_i (fun x66 m20 k1 n1 => ?_)) (kx_n he_i)
        refine s_iload C 1 rfl dL_law_794 796 rfl ?_
        refine s_icmp_eq C dL_law_796 801 rfl 799 rfl (fun c_ => ?_) (fun c_ => ?_)
        · refine s_iload C 1 rfl dL_law_801 803 rfl ?_
          refine s_if_ne C dL_law_803 818 rfl 806 rfl (fun c_ => ?_) (fun c_ => ?_)
          · refine s_aload_n C rfl 5 rfl dL_law_806 807 rfl ?_
            refine s_iconst C 0 rfl dL_law_807 808 rfl ?_
            refine x_aj3 C 203 rfl dL_law_808 809 rfl (fun x67 => ?_)
            refine s_iload C 0 rfl dL_law_809 811 rfl ?_
            refine s_i2l C dL_law_811 812 rfl ?_
            refine s_lcmp C dL_law_812 813 rfl ?_
            refine s_if_eq C dL_law_813 818 rfl 816 rfl (fun c_ => ?_) (fun c_ => ?_)
            · refine Sm_sub [2, 3, 4, 5, 6] rfl ?_
              exact wL_law_b818 C hret h0 hin N (fun m v0 v1 v2 v3 v4 k n => ih m v0 v1 v2 v3 v4 k n) _ _ _ _ _ _ _ _
            · refine s_iconst C 0 rfl dL_law_816 817 rfl ?_
              exact x_zret0 C hret (by decide) rfl dL_law_817
          · refine Sm_sub [2, 3, 4, 5, 6] rfl ?_
            exact wL_law_b818 C hret h0 hin N (fun m v0 v1 v2 v3 v4 k n => ih m v0 v1 v2 v3 v4 k n) _ _ _ _ _ _ _ _
        · refine s_iconst C 0 rfl dL_law_799 800 rfl ?_
          exact x_zret0 C hret (by decide) rfl dL_law_800
      refine x_tj C dL_law_40 8 (by decide) (by decide) 781 rfl 821 (by decide) ?_ ?_
      · refine s_aload_n C rfl 1 rfl dL_law_821 822 rfl ?_
        refine s_aload_n C rfl 0 rfl dL_law_822 823 rfl ?_
        refine s_iload C 4 rfl dL_law_823 825 rfl ?_
        refine s_iconst C 1 rfl dL_law_825 826 rfl ?_
        refine s_iadd C dL_law_826 827 rfl ?_
        refine x_ai0 C 200 rfl dL_law_827 828 rfl (fun x68 => ?_)
        refine s_aload_n C rfl 0 rfl dL_law_828 829 rfl ?_
        refine s_iload C 4 rfl dL_law_829 831 rfl ?_
        refine s_iconst C 2 rfl dL_law_831 832 rfl ?_
        refine s_iadd C dL_law_832 833 rfl ?_
        refine x_ai0 C 200 rfl dL_law_833 834 rfl (fun x69 => ?_)
        refine s_aload_n C rfl 0 rfl dL_law_834 835 rfl ?_
        refine s_iload C 4 rfl dL_law_835 837 rfl ?_
        refine s_iconst C 3 rfl dL_law_837 838 rfl ?_
        refine s_iadd C dL_law_838 839 rfl ?_
        refine x_ai0 C 200 rfl dL_law_839 840 rfl (fun x70 => ?_)
        refine s_aload_n C rfl 0 rfl dL_law_840 841 rfl ?_
        refine s_iload C 4 rfl dL_law_841 843 rfl ?_
        refine s_iconst C 4 rfl dL_law_843 844 rfl ?_
        refine s_iadd C dL_law_844 845 rfl ?_
        refine x_ai0 C 200 rfl dL_law_845 846 rfl (fun x71 => ?_)
        refine s_aload_n C rfl 3 rfl dL_law_846 847 rfl ?_
        refine x_callSW (enc := en_i) C 26 6 [vr_ v1, vi_ x68, vi_ x69, vi_ x70, vi_ x71, vr_ v3] (ctX0_replace C.2.2.2.2.2.2.2.2.1 N m v1 x68 x69 x70 x71 v3) q2443 q2444 q80 q2445 hdX0_replace (Nat.le_of_ble_eq_true rfl) (Nat.le_of_ble_eq_true rfl) rfl (Nat.le_of_ble_eq_true rfl) dL_law_847 850 rfl rfl hen_i (kk_i (fun x72 m21 k1 n1 => ?_)) (kx_n he_i)
        refine s_istore C (Nat.le_of_ble_eq_true rfl) [0, 1, 2, 3, 4] rfl rfl dL_law_850 852 rfl ?_
        refine s_aload_n C rfl 3 rfl dL_law_852 853 rfl ?_
        refine s_aload_n C rfl 1 rfl dL_law_853 854 rfl ?_
        refine s_iload C 5 rfl dL_law_854 856 rfl ?_
        refine s_iconst C 1 rfl dL_law_856 857 rfl ?_
        refine s_iadd C dL_law_857 858 rfl ?_
        refine x_ai0 C 200 rfl dL_law_858 859 rfl (fun x73 => ?_)
        refine s_aload_n C rfl 1 rfl dL_law_859 860 rfl ?_
        refine s_iload C 5 rfl dL_law_860 862 rfl ?_
        refine s_iconst C 2 rfl dL_law_862 863 rfl ?_
        refine s_iadd C dL_law_863 864 rfl ?_
        refine x_ai0 C 200 rfl dL_law_864 865 rfl (fun x74 => ?_)
        refine s_aload_n C rfl 1 rfl dL_law_865 866 rfl ?_
        refine s_iload C 5 rfl dL_law_866 868 rfl ?_
        refine s_iconst C 3 rfl dL_law_868 869 rfl ?_
        refine s_iadd C dL_law_869 870 rfl ?_
        refine x_ai0 C 200 rfl dL_law_870 871 rfl (fun x75 => ?_)
        refine s_aload_n C rfl 1 rfl dL_law_871 872 rfl ?_
        refine s_iload C 5 rfl dL_law_872 874 rfl ?_
        refine s_iconst C 4 rfl dL_law_874 875 rfl ?_
        refine s_iadd C dL_law_875 876 rfl ?_
        refine x_ai0 C 200 rfl dL_law_876 877 rfl (fun x76 => ?_)
        refine x_ck (fun hb_ hb0_ => ?_)
        refine x_callV (enc := en_i) C 17 4 [vi_ x73, vi_ x74, vi_ x75, vi_ x76] 4 (ctX4_replace C.2.2.2.2.2.2.2.2.1 N m21 v2 x73 x74 x75 x76) hb_ hb0_ rfl rfl q3511 q3512 q3513 q93 q3514 hdX4_replace (Nat.le_of_ble_eq_true rfl) (Nat.le_of_ble_eq_true rfl) rfl (Nat.le_of_ble_eq_true rfl) dL_law_877 880 rfl rfl hen_i (kk_i (fun x77 m22 k1 n1 => ?_)) (kx_n he_i)
        refine s_istore C (Nat.le_of_ble_eq_true rfl) [0, 1, 2, 3, 4, 5] rfl rfl dL_law_880 882 rfl ?_
        refine s_aload_n C rfl 4 rfl dL_law_882 883 rfl ?_
        refine x_ck (fun hb_ hb0_ => ?_)
        refine x_callV (enc := en_i) C 10 0 [] 4 (ctX4_thrown C.2.2.2.2.2.2.2.2.1 N m22 v2) hb_ hb0_ rfl rfl q3358 q3359 q3360 q93 q3361 hdX4_thrown (Nat.le_of_ble_eq_true rfl) (Nat.le_of_ble_eq_true rfl) rfl (Nat.le_of_ble_eq_true rfl) dL_law_883 886 rfl rfl hen_i (kk_i (fun x78 m23 k1 n1 => ?_)) (kx_n he_i)
        refine s_iload C 1 rfl dL_law_886 888 rfl ?_
        refine s_icmp_eq C dL_law_888 893 rfl 891 rfl (fun c_ => ?_) (fun c_ => ?_)
        · refine s_iload C 1 rfl dL_law_893 895 rfl ?_
          refine s_if_ne C dL_law_895 910 rfl 898 rfl (fun c_ => ?_) (fun c_ => ?_)
          · refine s_aload_n C rfl 5 rfl dL_law_898 899 rfl ?_
            refine s_iconst C 0 rfl dL_law_899 900 rfl ?_
            refine x_aj3 C 203 rfl dL_law_900 901 rfl (fun x79 => ?_)
            refine s_iload C 0 rfl dL_law_901 903 rfl ?_
            refine s_i2l C dL_law_903 904 rfl ?_
            refine s_lcmp C dL_law_904 905 rfl ?_
            refine s_if_eq C dL_law_905 910 rfl 908 rfl (fun c_ => ?_) (fun c_ => ?_)
            · refine Sm_sub [2, 3, 4, 5, 6] rfl ?_
              exact wL_law_b910 C hret h0 hin N (fun m v0 v1 v2 v3 v4 k n => ih m v0 v1 v2 v3 v4 k n) _ _ _ _ _ _ _ _
            · refine s_iconst C 0 rfl dL_law_908 909 rfl ?_
              exact x_zret0 C hret (by decide) rfl dL_law_909
          · refine Sm_sub [2, 3, 4, 5, 6] rfl ?_
            exact wL_law_b910 C hret h0 hin N (fun m v0 v1 v2 v3 v4 k n => ih m v0 v1 v2 v3 v4 k n) _ _ _ _ _ _ _ _
        · refine s_iconst C 0 rfl dL_law_891 892 rfl ?_
          exact x_zret0 C hret (by decide) rfl dL_law_892
      refine x_tj C dL_law_40 9 (by decide) (by decide) 873 rfl 913 (by decide) ?_ ?_
      · refine s_aload_n C rfl 1 rfl dL_law_913 914 rfl ?_
        refine s_aload_n C rfl 0 rfl dL_law_914 915 rfl ?_
        refine s_iload C 4 rfl dL_law_915 917 rfl ?_
        refine s_iconst C 1 rfl dL_law_917 918 rfl ?_
        refine s_iadd C dL_law_918 919 rfl ?_
        refine x_ai0 C 200 rfl dL_law_919 920 rfl (fun x80 => ?_)
        refine s_aload_n C rfl 0 rfl dL_law_920 921 rfl ?_
        refine s_iload C 4 rfl dL_law_921 923 rfl ?_
        refine s_iconst C 2 rfl dL_law_923 924 rfl ?_
        refine s_iadd C dL_law_924 925 rfl ?_
        refine x_ai0 C 200 rfl dL_law_925 926 rfl (fun x81 => ?_)
        refine s_aload_n C rfl 0 rfl dL_law_926 927 rfl ?_
        refine s_iload C 4 rfl dL_law_927 929 rfl ?_
        refine s_iconst C 3 rfl dL_law_929 930 rfl ?_
        refine s_iadd C dL_law_930 931 rfl ?_
        refine x_ai0 C 200 rfl dL_law_931 932 rfl (fun x82 => ?_)
        refine s_aload_n C rfl 3 rfl dL_law_932 933 rfl ?_
        refine x_callSW (enc := en_i) C 26 5 [vr_ v1, vi_ x80, vi_ x81, vi_ x82, vr_ v3] (ctX0_rename C.2.2.2.2.2.2.2.2.1 N m v1 x80 x81 x82 v3) q2453 q2454 q80 q2455 hdX0_rename (Nat.le_of_ble_eq_true rfl) (Nat.le_of_ble_eq_true rfl) rfl (Nat.le_of_ble_eq_true rfl) dL_law_933 936 rfl rfl hen_i (kk_i (fun x83 m24 k1 n1 => ?_)) (kx_n he_i)
        refine s_istore C (Nat.le_of_ble_eq_true rfl) [0, 1, 2, 3, 4] rfl rfl dL_law_936 938 rfl ?_
        refine s_aload_n C rfl 3 rfl dL_law_938 939 rfl ?_
        refine s_aload_n C rfl 1 rfl dL_law_939 940 rfl ?_
        refine s_iload C 5 rfl dL_law_940 942 rfl ?_
        refine s_iconst C 1 rfl dL_law_942 943 rfl ?_
        refine s_iadd C dL_law_943 944 rfl ?_
        refine x_ai0 C 200 rfl dL_law_944 945 rfl (fun x84 => ?_)
        refine s_aload_n C rfl 1 rfl dL_law_945 946 rfl ?_
        refine s_iload C 5 rfl dL_law_946 948 rfl ?_
        refine s_iconst C 2 rfl dL_law_948 949 rfl ?_
        refine s_iadd C dL_law_949 950 rfl ?_
        refine x_ai0 C 200 rfl dL_law_950 951 rfl (fun x85 => ?_)
        refine s_aload_n C rfl 1 rfl dL_law_951 952 rfl ?_
        refine s_iload C 5 rfl dL_law_952 954 rfl ?_
        refine s_iconst C 3 rfl dL_law_954 955 rfl ?_
        refine s_iadd C dL_law_955 956 rfl ?_
        refine x_ai0 C 200 rfl dL_law_956 957 rfl (fun x86 => ?_)
        refine x_ck (fun hb_ hb0_ => ?_)
        refine x_callV (enc := en_i) C 16 3 [vi_ x84, vi_ x85, vi_ x86] 4 (ctX4_rename C.2.2.2.2.2.2.2.2.1 N m24 v2 x84 x85 x86) hb_ hb0_ rfl rfl q3515 q3516 q3517 q93 q3518 hdX4_rename (Nat.le_of_ble_eq_true rfl) (Nat.le_of_ble_eq_true rfl) rfl (Nat.le_of_ble_eq_true rfl) dL_law_957 960 rfl rfl hen_i (kk_i (fun x87 m25 k1 n1 => ?_)) (kx_n he_i)
        refine s_istore C (Nat.le_of_ble_eq_true rfl) [0, 1, 2, 3, 4, 5] rfl rfl dL_law_960 962 rfl ?_
        refine s_aload_n C rfl 4 rfl dL_law_962 963 rfl ?_
        refine x_ck (fun hb_ hb0_ => ?_)
        refine x_callV (enc := en_i) C 10 0 [] 4 (ctX4_thrown C.2.2.2.2.2.2.2.2.1 N m25 v2) hb_ hb0_ rfl rfl q3358 q3359 q3360 q93 q3361 hdX4_thrown (Nat.le_of_ble_eq_true rfl) (Nat.le_of_ble_eq_true rfl) rfl (Nat.le_of_ble_eq_true rfl) dL_law_963 966 rfl rfl hen_i (kk_i (fun x88 m26 k1 n1 => ?_)) (kx_n he_i)
        refine s_iload C 1 rfl dL_law_966 968 rfl ?_
        refine s_icmp_eq C dL_law_968 973 rfl 971 rfl (fun c_ => ?_) (fun c_ => ?_)
        · refine s_iload C 1 rfl dL_law_973 975 rfl ?_
          refine s_if_ne C dL_law_975 990 rfl 978 rfl (fun c_ => ?_) (fun c_ => ?_)
          · refine s_aload_n C rfl 5 rfl dL_law_978 979 rfl ?_
            refine s_iconst C 0 rfl dL_law_979 980 rfl ?_
            refine x_aj3 C 203 rfl dL_law_980 981 rfl (fun x89 => ?_)
            refine s_iload C 0 rfl dL_law_981 983 rfl ?_
            refine s_i2l C dL_law_983 984 rfl ?_
            refine s_lcmp C dL_law_984 985 rfl ?_
            refine s_if_eq C dL_law_985 990 rfl 988 rfl (fun c_ => ?_) (fun c_ => ?_)
            · refine Sm_sub [2, 3, 4, 5, 6] rfl ?_
              exact wL_law_b990 C hret h0 hin N (fun m v0 v1 v2 v3 v4 k n => ih m v0 v1 v2 v3 v4 k n) _ _ _ _ _ _ _ _
            · refine s_iconst C 0 rfl dL_law_988 989 rfl ?_
              exact x_zret0 C hret (by decide) rfl dL_law_989
          · refine Sm_sub [2, 3, 4, 5, 6] rfl ?_
            exact wL_law_b990 C hret h0 hin N (fun m v0 v1 v2 v3 v4 k n => ih m v0 v1 v2 v3 v4 k n) _ _ _ _ _ _ _ _
        · refine s_iconst C 0 rfl dL_law_971 972 rfl ?_
          exact x_zret0 C hret (by decide) rfl dL_law_972
      refine x_tj C dL_law_40 10 (by decide) (by decide) 953 rfl 993 (by decide) ?_ ?_
      · refine s_aload_n C rfl 1 rfl dL_law_993 994 rfl ?_
        refine s_aload_n C rfl 0 rfl dL_law_994 995 rfl ?_
        refine s_iload C 4 rfl dL_law_995 997 rfl ?_
        refine s_iconst C 1 rfl dL_law_997 998 rfl ?_
        refine s_iadd C dL_law_998 999 rfl ?_
        refine x_ai0 C 200 rfl dL_law_999 1000 rfl (fun x90 => ?_)
        refine s_aload_n C rfl 0 rfl dL_law_1000 1001 rfl ?_
        refine s_iload C 4 rfl dL_law_1001 1003 rfl ?_
        refine s_iconst C 2 rfl dL_law_1003 1004 rfl ?_
        refine s_iadd C dL_law_1004 1005 rfl ?_
        refine x_ai0 C 200 rfl dL_law_1005 1006 rfl (fun x91 => ?_)
        refine s_aload_n C rfl 0 rfl dL_law_1006 1007 rfl ?_
        refine s_iload C 4 rfl dL_law_1007 1009 rfl ?_
        refine s_iconst C 3 rfl dL_law_1009 1010 rfl ?_
        refine s_iadd C dL_law_1010 1011 rfl ?_
        refine x_ai0 C 200 rfl dL_law_1011 1012 rfl (fun x92 => ?_)
        refine s_aload_n C rfl 3 rfl dL_law_1012 1013 rfl ?_
        refine x_callSW (enc := en_i) C 26 5 [vr_ v1, vi_ x90, vi_ x91, vi_ x92, vr_ v3] (ctX0_move C.2.2.2.2.2.2.2.2.1 N m v1 x90 x91 x92 v3) q2465 q2466 q80 q2467 hdX0_move (Nat.le_of_ble_eq_true rfl) (Nat.le_of_ble_eq_true rfl) rfl (Nat.le_of_ble_eq_true rfl) dL_law_1013 1016 rfl rfl hen_i (kk_i (fun x93 m27 k1 n1 => ?_)) (kx_n he_i)
        refine s_istore C (Nat.le_of_ble_eq_true rfl) [0, 1, 2, 3, 4] rfl rfl dL_law_1016 1018 rfl ?_
        refine s_aload_n C rfl 3 rfl dL_law_1018 1019 rfl ?_
        refine s_aload_n C rfl 1 rfl dL_law_1019 1020 rfl ?_
        refine s_iload C 5 rfl dL_law_1020 1022 rfl ?_
        refine s_iconst C 1 rfl dL_law_1022 1023 rfl ?_
        refine s_iadd C dL_law_1023 1024 rfl ?_
        refine x_ai0 C 200 rfl dL_law_1024 1025 rfl (fun x94 => ?_)
        refine s_aload_n C rfl 1 rfl dL_law_1025 1026 rfl ?_
        refine s_iload C 5 rfl dL_law_1026 1028 rfl ?_
        refine s_iconst C 2 rfl dL_law_1028 1029 rfl ?_
        refine s_iadd C dL_law_1029 1030 rfl ?_
        refine x_ai0 C 200 rfl dL_law_1030 1031 rfl (fun x95 => ?_)
        refine s_aload_n C rfl 1 rfl dL_law_1031 1032 rfl ?_
        refine s_iload C 5 rfl dL_law_1032 1034 rfl ?_
        refine s_iconst C 3 rfl dL_law_1034 1035 rfl ?_
        refine s_iadd C dL_law_1035 1036 rfl ?_
        refine x_ai0 C 200 rfl dL_law_1036 1037 rfl (fun x96 => ?_)
        refine x_ck (fun hb_ hb0_ => ?_)
        refine x_callV (enc := en_i) C 16 3 [vi_ x94, vi_ x95, vi_ x96] 4 (ctX4_move C.2.2.2.2.2.2.2.2.1 N m27 v2 x94 x95 x96) hb_ hb0_ rfl rfl q3519 q3520 q3521 q93 q3522 hdX4_move (Nat.le_of_ble_eq_true rfl) (Nat.le_of_ble_eq_true rfl) rfl (Nat.le_of_ble_eq_true rfl) dL_law_1037 1040 rfl rfl hen_i (kk_i (fun x97 m28 k1 n1 => ?_)) (kx_n he_i)
        refine s_istore C (Nat.le_of_ble_eq_true rfl) [0, 1, 2, 3, 4, 5] rfl rfl dL_law_1040 1042 rfl ?_
        refine s_aload_n C rfl 4 rfl dL_law_1042 1043 rfl ?_
        refine x_ck (fun hb_ hb0_ => ?_)
        refine x_callV (enc := en_i) C 10 0 [] 4 (ctX4_thrown C.2.2.2.2.2.2.2.2.1 N m28 v2) hb_ hb0_ rfl rfl q3358 q3359 q3360 q93 q3361 hdX4_thrown (Nat.le_of_ble_eq_true rfl) (Nat.le_of_ble_eq_true rfl) rfl (Nat.le_of_ble_eq_true rfl) dL_law_1043 1046 rfl rfl hen_i (kk_i (fun x98 m29 k1 n1 => ?_)) (kx_n he_i)
        refine s_iload C 1 rfl dL_law_1046 1048 rfl ?_
        refine s_icmp_eq C dL_law_1048 1053 rfl 1051 rfl (fun c_ => ?_) (fun c_ => ?_)
        · refine s_iload C 1 rfl dL_law_1053 1055 rfl ?_
          refine s_if_ne C dL_law_1055 1070 rfl 1058 rfl (fun c_ => ?_) (fun c_ => ?_)
          · refine s_aload_n C rfl 5 rfl dL_law_1058 1059 rfl ?_
            refine s_iconst C 0 rfl dL_law_1059 1060 rfl ?_
            refine x_aj3 C 203 rfl dL_law_1060 1061 rfl (fun x99 => ?_)
            refine s_iload C 0 rfl dL_law_1061 1063 rfl ?_
            refine s_i2l C dL_law_1063 1064 rfl ?_
            refine s_lcmp C dL_law_1064 1065 rfl ?_
            refine s_if_eq C dL_law_1065 1070 rfl 1068 rfl (fun c_ => ?_) (fun c_ => ?_)
            · refine Sm_sub [2, 3, 4, 5, 6] rfl ?_
              exact wL_law_b1070 C hret h0 hin N (fun m v0 v1 v2 v3 v4 k n => ih m v0 v1 v2 v3 v4 k n) _ _ _ _ _ _ _ _
            · refine s_iconst C 0 rfl dL_law_1068 1069 rfl ?_
              exact x_zret0 C hret (by decide) rfl dL_law_1069
          · refine Sm_sub [2, 3, 4, 5, 6] rfl ?_
            exact wL_law_b1070 C hret h0 hin N (fun m v0 v1 v2 v3 v4 k n => ih m v0 v1 v2 v3 v4 k n) _ _ _ _ _ _ _ _
        · refine s_iconst C 0 rfl dL_law_1051 1052 rfl ?_
          exact x_zret0 C hret (by decide) rfl dL_law_1052
      refine x_tj C dL_law_40 11 (by decide) (by decide) 1033 rfl 1073 (by decide) ?_ ?_
      · refine s_aload_n C rfl 1 rfl dL_law_1073 1074 rfl ?_
        refine s_aload_n C rfl 0 rfl dL_law_1074 1075 rfl ?_
        refine s_iload C 4 rfl dL_law_1075 1077 rfl ?_
        refine s_iconst C 1 rfl dL_law_1077 1078 rfl ?_
        refine s_iadd C dL_law_1078 1079 rfl ?_
        refine x_ai0 C 200 rfl dL_law_1079 1080 rfl (fun x100 => ?_)
        refine s_aload_n C rfl 0 rfl dL_law_1080 1081 rfl ?_
        refine s_iload C 4 rfl dL_law_1081 1083 rfl ?_
        refine s_iconst C 2 rfl dL_law_1083 1084 rfl ?_
        refine s_iadd C dL_law_1084 1085 rfl ?_
        refine x_ai0 C 200 rfl dL_law_1085 1086 rfl (fun x101 => ?_)
        refine s_aload_n C rfl 3 rfl dL_law_1086 1087 rfl ?_
        refine x_callSW (enc := en_i) C 26 4 [vr_ v1, vi_ x100, vi_ x101, vr_ v3] (ctX0_delete C.2.2.2.2.2.2.2.2.1 N m v1 x100 x101 v3) q2473 q2474 q80 q2475 hdX0_delete (Nat.le_of_ble_eq_true rfl) (Nat.le_of_ble_eq_true rfl) rfl (Nat.le_of_ble_eq_true rfl) dL_law_1087 1090 rfl rfl hen_i (kk_i (fun x102 m30 k1 n1 => ?_)) (kx_n he_i)
        refine s_istore C (Nat.le_of_ble_eq_true rfl) [0, 1, 2, 3, 4] rfl rfl dL_law_1090 1092 rfl ?_
        refine s_aload_n C rfl 3 rfl dL_law_1092 1093 rfl ?_
        refine s_aload_n C rfl 1 rfl dL_law_1093 1094 rfl ?_
        refine s_iload C 5 rfl dL_law_1094 1096 rfl ?_
        refine s_iconst C 1 rfl dL_law_1096 1097 rfl ?_
        refine s_iadd C dL_law_1097 1098 rfl ?_
        refine x_ai0 C 200 rfl dL_law_1098 1099 rfl (fun x103 => ?_)
        refine s_aload_n C rfl 1 rfl dL_law_1099 1100 rfl ?_
        refine s_iload C 5 rfl dL_law_1100 1102 rfl ?_
        refine s_iconst C 2 rfl dL_law_1102 1103 rfl ?_
        refine s_iadd C dL_law_1103 1104 rfl ?_
        refine x_ai0 C 200 rfl dL_law_1104 1105 rfl (fun x104 => ?_)
        refine x_ck (fun hb_ hb0_ => ?_)
        refine x_callV (enc := en_i) C 16 2 [vi_ x103, vi_ x104] 4 (ctX4_delete C.2.2.2.2.2.2.2.2.1 N m30 v2 x103 x104) hb_ hb0_ rfl rfl q3523 q3524 q3525 q93 q3526 hdX4_delete (Nat.le_of_ble_eq_true rfl) (Nat.le_of_ble_eq_true rfl) rfl (Nat.le_of_ble_eq_true rfl) dL_law_1105 1108 rfl rfl hen_i (kk_i (fun x105 m31 k1 n1 => ?_)) (kx_n he_i)
        refine s_istore C (Nat.le_of_ble_eq_true rfl) [0, 1, 2, 3, 4, 5] rfl rfl dL_law_1108 1110 rfl ?_
        refine s_aload_n C rfl 4 rfl dL_law_1110 1111 rfl ?_
        refine x_ck (fun hb_ hb0_ => ?_)
        refine x_callV (enc := en_i) C 10 0 [] 4 (ctX4_thrown C.2.2.2.2.2.2.2.2.1 N m31 v2) hb_ hb0_ rfl rfl q3358 q3359 q3360 q93 q3361 hdX4_thrown (Nat.le_of_ble_eq_true rfl) (Nat.le_of_ble_eq_true rfl) rfl (Nat.le_of_ble_eq_true rfl) dL_law_1111 1114 rfl rfl hen_i (kk_i (fun x106 m32 k1 n1 => ?_)) (kx_n he_i)
        refine s_iload C 1 rfl dL_law_1114 1116 rfl ?_
        refine s_icmp_eq C dL_law_1116 1121 rfl 1119 rfl (fun c_ => ?_) (fun c_ => ?_)
        · refine s_iload C 1 rfl dL_law_1121 1123 rfl ?_
          refine s_if_ne C dL_law_1123 1138 rfl 1126 rfl (fun c_ => ?_) (fun c_ => ?_)
          · refine s_aload_n C rfl 5 rfl dL_law_1126 1127 rfl ?_
            refine s_iconst C 0 rfl dL_law_1127 1128 rfl ?_
            refine x_aj3 C 203 rfl dL_law_1128 1129 rfl (fun x107 => ?_)
            refine s_iload C 0 rfl dL_law_1129 1131 rfl ?_
            refine s_i2l C dL_law_1131 1132 rfl ?_
            refine s_lcmp C dL_law_1132 1133 rfl ?_
            refine s_if_eq C dL_law_1133 1138 rfl 1136 rfl (fun c_ => ?_) (fun c_ => ?_)
            · refine Sm_sub [2, 3, 4, 5, 6] rfl ?_
              exact wL_law_b1138 C hret h0 hin N (fun m v0 v1 v2 v3 v4 k n => ih m v0 v1 v2 v3 v4 k n) _ _ _ _ _ _ _ _
            · refine s_iconst C 0 rfl dL_law_1136 1137 rfl ?_
              exact x_zret0 C hret (by decide) rfl dL_law_1137
          · refine Sm_sub [2, 3, 4, 5, 6] rfl ?_
            exact wL_law_b1138 C hret h0 hin N (fun m v0 v1 v2 v3 v4 k n => ih m v0 v1 v2 v3 v4 k n) _ _ _ _ _ _ _ _
        · refine s_iconst C 0 rfl dL_law_1119 1120 rfl ?_
          exact x_zret0 C hret (by decide) rfl dL_law_1120
      refine x_tj C dL_law_40 12 (by decide) (by decide) 1101 rfl 1141 (by decide) ?_ ?_
      · refine s_aload_n C rfl 1 rfl dL_law_1141 1142 rfl ?_
        refine s_aload_n C rfl 0 rfl dL_law_1142 1143 rfl ?_
        refine s_iload C 4 rfl dL_law_1143 1145 rfl ?_
        refine s_iconst C 1 rfl dL_law_1145 1146 rfl ?_
        refine s_iadd C dL_law_1146 1147 rfl ?_
        refine x_ai0 C 200 rfl dL_law_1147 1148 rfl (fun x108 => ?_)
        refine s_aload_n C rfl 0 rfl dL_law_1148 1149 rfl ?_
        refine s_iload C 4 rfl dL_law_1149 1151 rfl ?_
        refine s_iconst C 2 rfl dL_law_1151 1152 rfl ?_
        refine s_iadd C dL_law_1152 1153 rfl ?_
        refine x_ai0 C 200 rfl dL_law_1153 1154 rfl (fun x109 => ?_)
        refine s_aload_n C rfl 0 rfl dL_law_1154 1155 rfl ?_
        refine s_iload C 4 rfl dL_law_1155 1157 rfl ?_
        refine s_iconst C 3 rfl dL_law_1157 1158 rfl ?_
        refine s_iadd C dL_law_1158 1159 rfl ?_
        refine x_ai0 C 200 rfl dL_law_1159 1160 rfl (fun x110 => ?_)
        refine s_aload_n C rfl 3 rfl dL_law_1160 1161 rfl ?_
        refine x_callSW (enc := en_i) C 26 5 [vr_ v1, vi_ x108, vi_ x109, vi_ x110, vr_ v3] (ctX0_link C.2.2.2.2.2.2.2.2.1 N m v1 x108 x109 x110 v3) q2505 q2506 q80 q2507 hdX0_link (Nat.le_of_ble_eq_true rfl) (Nat.le_of_ble_eq_true rfl) rfl (Nat.le_of_ble_eq_true rfl) dL_law_1161 1164 rfl rfl hen_i (kk_i (fun x111 m33 k1 n1 => ?_)) (kx_n he_i)
        refine s_istore C (Nat.le_of_ble_eq_true rfl) [0, 1, 2, 3, 4] rfl rfl dL_law_1164 1166 rfl ?_
        refine s_aload_n C rfl 3 rfl dL_law_1166 1167 rfl ?_
        refine s_aload_n C rfl 1 rfl dL_law_1167 1168 rfl ?_
        refine s_iload C 5 rfl dL_law_1168 1170 rfl ?_
        refine s_iconst C 1 rfl dL_law_1170 1171 rfl ?_
        refine s_iadd C dL_law_1171 1172 rfl ?_
        refine x_ai0 C 200 rfl dL_law_1172 1173 rfl (fun x112 => ?_)
        refine s_aload_n C rfl 1 rfl dL_law_1173 1174 rfl ?_
        refine s_iload C 5 rfl dL_law_1174 1176 rfl ?_
        refine s_iconst C 2 rfl dL_law_1176 1177 rfl ?_
        refine s_iadd C dL_law_1177 1178 rfl ?_
        refine x_ai0 C 200 rfl dL_law_1178 1179 rfl (fun x113 => ?_)
        refine s_aload_n C rfl 1 rfl dL_law_1179 1180 rfl ?_
        refine s_iload C 5 rfl dL_law_1180 1182 rfl ?_
        refine s_iconst C 3 rfl dL_law_1182 1183 rfl ?_
        refine s_iadd C dL_law_1183 1184 rfl ?_
        refine x_ai0 C 200 rfl dL_law_1184 1185 rfl (fun x114 => ?_)
        refine x_ck (fun hb_ hb0_ => ?_)
        refine x_callV (enc := en_i) C 16 3 [vi_ x112, vi_ x113, vi_ x114] 4 (ctX4_link C.2.2.2.2.2.2.2.2.1 N m33 v2 x112 x113 x114) hb_ hb0_ rfl rfl q3543 q3544 q3545 q93 q3546 hdX4_link (Nat.le_of_ble_eq_true rfl) (Nat.le_of_ble_eq_true rfl) rfl (Nat.le_of_ble_eq_true rfl) dL_law_1185 1188 rfl rfl hen_i (kk_i (fun x115 m34 k1 n1 => ?_)) (kx_n he_i)
        refine s_istore C (Nat.le_of_ble_eq_true rfl) [0, 1, 2, 3, 4, 5] rfl rfl dL_law_1188 1190 rfl ?_
        refine s_aload_n C rfl 4 rfl dL_law_1190 1191 rfl ?_
        refine x_ck (fun hb_ hb0_ => ?_)
        refine x_callV (enc := en_i) C 10 0 [] 4 (ctX4_thrown C.2.2.2.2.2.2.2.2.1 N m34 v2) hb_ hb0_ rfl rfl q3358 q3359 q3360 q93 q3361 hdX4_thrown (Nat.le_of_ble_eq_true rfl) (Nat.le_of_ble_eq_true rfl) rfl (Nat.le_of_ble_eq_true rfl) dL_law_1191 1194 rfl rfl hen_i (kk_i (fun x116 m35 k1 n1 => ?_)) (kx_n he_i)
        refine s_iload C 1 rfl dL_law_1194 1196 rfl ?_
        refine s_icmp_eq C dL_law_1196 1201 rfl 1199 rfl (fun c_ => ?_) (fun c_ => ?_)
        · refine s_iload C 1 rfl dL_law_1201 1203 rfl ?_
          refine s_if_ne C dL_law_1203 1218 rfl 1206 rfl (fun c_ => ?_) (fun c_ => ?_)
          · refine s_aload_n C rfl 5 rfl dL_law_1206 1207 rfl ?_
            refine s_iconst C 0 rfl dL_law_1207 1208 rfl ?_
            refine x_aj3 C 203 rfl dL_law_1208 1209 rfl (fun x117 => ?_)
            refine s_iload C 0 rfl dL_law_1209 1211 rfl ?_
            refine s_i2l C dL_law_1211 1212 rfl ?_
            refine s_lcmp C dL_law_1212 1213 rfl ?_
            refine s_if_eq C dL_law_1213 1218 rfl 1216 rfl (fun c_ => ?_) (fun c_ => ?_)
            · refine Sm_sub [2, 3, 4, 5, 6] rfl ?_
              exact wL_law_b1218 C hret h0 hin N (fun m v0 v1 v2 v3 v4 k n => ih m v0 v1 v2 v3 v4 k n) _ _ _ _ _ _ _ _
            · refine s_iconst C 0 rfl dL_law_1216 1217 rfl ?_
              exact x_zret0 C hret (by decide) rfl dL_law_1217
          · refine Sm_sub [2, 3, 4, 5, 6] rfl ?_
            exact wL_law_b1218 C hret h0 hin N (fun m v0 v1 v2 v3 v4 k n => ih m v0 v1 v2 v3 v4 k n) _ _ _ _ _ _ _ _
        · refine s_iconst C 0 rfl dL_law_1199 1200 rfl ?_
          exact x_zret0 C hret (by decide) rfl dL_law_1200
      refine x_tj C dL_law_40 13 (by decide) (by decide) 1181 rfl 1221 (by decide) ?_ ?_
      · refine s_aload_n C rfl 1 rfl dL_law_1221 1222 rfl ?_
        refine s_aload_n C rfl 0 rfl dL_law_1222 1223 rfl ?_
        refine s_iload C 4 rfl dL_law_1223 1225 rfl ?_
        refine s_iconst C 1 rfl dL_law_1225 1226 rfl ?_
        refine s_iadd C dL_law_1226 1227 rfl ?_
        refine x_ai0 C 200 rfl dL_law_1227 1228 rfl (fun x118 => ?_)
        refine s_aload_n C rfl 0 rfl dL_law_1228 1229 rfl ?_
        refine s_iload C 4 rfl dL_law_1229 1231 rfl ?_
        refine s_iconst C 2 rfl dL_law_1231 1232 rfl ?_
        refine s_iadd C dL_law_1232 1233 rfl ?_
        refine x_ai0 C 200 rfl dL_law_1233 1234 rfl (fun x119 => ?_)
        refine s_aload_n C rfl 0 rfl dL_law_1234 1235 rfl ?_
        refine s_iload C 4 rfl dL_law_1235 1237 rfl ?_
        refine s_iconst C 3 rfl dL_law_1237 1238 rfl ?_
        refine s_iadd C dL_law_1238 1239 rfl ?_
        refine x_ai0 C 200 rfl dL_law_1239 1240 rfl (fun x120 => ?_)
        refine s_aload_n C rfl 0 rfl dL_law_1240 1241 rfl ?_
        refine s_iload C 4 rfl dL_law_1241 1243 rfl ?_
        refine s_iconst C 4 rfl dL_law_1243 1244 rfl ?_
        refine s_iadd C dL_law_1244 1245 rfl ?_
        refine x_ai0 C 200 rfl dL_law_1245 1246 rfl (fun x121 => ?_)
        refine s_aload_n C rfl 0 rfl dL_law_1246 1247 rfl ?_
        refine s_iload C 4 rfl dL_law_1247 1249 rfl ?_
        refine s_iconst C 5 rfl dL_law_1249 1250 rfl ?_
        refine s_iadd C dL_law_1250 1251 rfl ?_
        refine x_ai0 C 200 rfl dL_law_1251 1252 rfl (fun x122 => ?_)
        refine s_aload_n C rfl 0 rfl dL_law_1252 1253 rfl ?_
        refine s_iload C 4 rfl dL_law_1253 1255 rfl ?_
        refine s_bipush C 6 rfl dL_law_1255 1257 rfl ?_
        refine s_iadd C dL_law_1257 1258 rfl ?_
        refine x_ai0 C 200 rfl dL_law_1258 1259 rfl (fun x123 => ?_)
        refine s_aload_n C rfl 3 rfl dL_law_1259 1260 rfl ?_
        refine x_callSW (enc := en_i) C 26 8 [vr_ v1, vi_ x118, vi_ x119, vi_ x120, vi_ x121, vi_ x122, vi_ x123, vr_ v3] (ctX0_rule C.2.2.2.2.2.2.2.2.1 N m v1 x118 x119 x120 x121 x122 x123 v3) q2515 q2516 q80 q2517 hdX0_rule (Nat.le_of_ble_eq_true rfl) (Nat.le_of_ble_eq_true rfl) rfl (Nat.le_of_ble_eq_true rfl) dL_law_1260 1263 rfl rfl hen_i (kk_i (fun x124 m36 k1 n1 => ?_)) (kx_n he_i)
        refine s_istore C (Nat.le_of_ble_eq_true rfl) [0, 1, 2, 3, 4] rfl rfl dL_law_1263 1265 rfl ?_
        refine s_aload_n C rfl 3 rfl dL_law_1265 1266 rfl ?_
        refine s_aload_n C rfl 1 rfl dL_law_1266 1267 rfl ?_
        refine s_iload C 5 rfl dL_law_1267 1269 rfl ?_
        refine s_iconst C 1 rfl dL_law_1269 1270 rfl ?_
        refine s_iadd C dL_law_1270 1271 rfl ?_
        refine x_ai0 C 200 rfl dL_law_1271 1272 rfl (fun x125 => ?_)
        refine s_aload_n C rfl 1 rfl dL_law_1272 1273 rfl ?_
        refine s_iload C 5 rfl dL_law_1273 1275 rfl ?_
        refine s_iconst C 2 rfl dL_law_1275 1276 rfl ?_
        refine s_iadd C dL_law_1276 1277 rfl ?_
        refine x_ai0 C 200 rfl dL_law_1277 1278 rfl (fun x126 => ?_)
        refine s_aload_n C rfl 1 rfl dL_law_1278 1279 rfl ?_
        refine s_iload C 5 rfl dL_law_1279 1281 rfl ?_
        refine s_iconst C 3 rfl dL_law_1281 1282 rfl ?_
        refine s_iadd C dL_law_1282 1283 rfl ?_
        refine x_ai0 C 200 rfl dL_law_1283 1284 rfl (fun x127 => ?_)
        refine s_aload_n C rfl 1 rfl dL_law_1284 1285 rfl ?_
        refine s_iload C 5 rfl dL_law_1285 1287 rfl ?_
        refine s_iconst C 4 rfl dL_law_1287 1288 rfl ?_
        refine s_iadd C dL_law_1288 1289 rfl ?_
        refine x_ai0 C 200 rfl dL_law_1289 1290 rfl (fun x128 => ?_)
        refine s_aload_n C rfl 1 rfl dL_law_1290 1291 rfl ?_
        refine s_iload C 5 rfl dL_law_1291 1293 rfl ?_
        refine s_iconst C 5 rfl dL_law_1293 1294 rfl ?_
        refine s_iadd C dL_law_1294 1295 rfl ?_
        refine x_ai0 C 200 rfl dL_law_1295 1296 rfl (fun x129 => ?_)
        refine s_aload_n C rfl 1 rfl dL_law_1296 1297 rfl ?_
        refine s_iload C 5 rfl dL_law_1297 1299 rfl ?_
        refine s_bipush C 6 rfl dL_law_1299 1301 rfl ?_
        refine s_iadd C dL_law_1301 1302 rfl ?_
        refine x_ai0 C 200 rfl dL_law_1302 1303 rfl (fun x130 => ?_)
        refine x_ck (fun hb_ hb0_ => ?_)
        refine x_callV (enc := en_i) C 16 6 [vi_ x125, vi_ x126, vi_ x127, vi_ x128, vi_ x129, vi_ x130] 4 (ctX4_rule C.2.2.2.2.2.2.2.2.1 N m36 v2 x125 x126 x127 x128 x129 x130) hb_ hb0_ rfl rfl q3547 q3548 q3549 q93 q3550 hdX4_rule (Nat.le_of_ble_eq_true rfl) (Nat.le_of_ble_eq_true rfl) rfl (Nat.le_of_ble_eq_true rfl) dL_law_1303 1306 rfl rfl hen_i (kk_i (fun x131 m37 k1 n1 => ?_)) (kx_n he_i)
        refine s_istore C (Nat.le_of_ble_eq_true rfl) [0, 1, 2, 3, 4, 5] rfl rfl dL_law_1306 1308 rfl ?_
        refine s_aload_n C rfl 4 rfl dL_law_1308 1309 rfl ?_
        refine x_ck (fun hb_ hb0_ => ?_)
        refine x_callV (enc := en_i) C 10 0 [] 4 (ctX4_thrown C.2.2.2.2.2.2.2.2.1 N m37 v2) hb_ hb0_ rfl rfl q3358 q3359 q3360 q93 q3361 hdX4_thrown (Nat.le_of_ble_eq_true rfl) (Nat.le_of_ble_eq_true rfl) rfl (Nat.le_of_ble_eq_true rfl) dL_law_1309 1312 rfl rfl hen_i (kk_i (fun x132 m38 k1 n1 => ?_)) (kx_n he_i)
        refine s_iload C 1 rfl dL_law_1312 1314 rfl ?_
        refine s_icmp_eq C dL_law_1314 1319 rfl 1317 rfl (fun c_ => ?_) (fun c_ => ?_)
        · refine s_iload C 1 rfl dL_law_1319 1321 rfl ?_
          refine s_if_ne C dL_law_1321 1336 rfl 1324 rfl (fun c_ => ?_) (fun c_ => ?_)
          · refine s_aload_n C rfl 5 rfl dL_law_1324 1325 rfl ?_
            refine s_iconst C 0 rfl dL_law_1325 1326 rfl ?_
            refine x_aj3 C 203 rfl dL_law_1326 1327 rfl (fun x133 => ?_)
            refine s_iload C 0 rfl dL_law_1327 1329 rfl ?_
            refine s_i2l C dL_law_1329 1330 rfl ?_
            refine s_lcmp C dL_law_1330 1331 rfl ?_
            refine s_if_eq C dL_law_1331 1336 rfl 1334 rfl (fun c_ => ?_) (fun c_ => ?_)
            · refine Sm_sub [2, 3, 4, 5, 6] rfl ?_
              exact wL_law_b1336 C hret h0 hin N (fun m v0 v1 v2 v3 v4 k n => ih m v0 v1 v2 v3 v4 k n) _ _ _ _ _ _ _ _
            · refine s_iconst C 0 rfl dL_law_1334 1335 rfl ?_
              exact x_zret0 C hret (by decide) rfl dL_law_1335
          · refine Sm_sub [2, 3, 4, 5, 6] rfl ?_
            exact wL_law_b1336 C hret h0 hin N (fun m v0 v1 v2 v3 v4 k n => ih m v0 v1 v2 v3 v4 k n) _ _ _ _ _ _ _ _
        · refine s_iconst C 0 rfl dL_law_1317 1318 rfl ?_
          exact x_zret0 C hret (by decide) rfl dL_law_1318
      refine x_tj C dL_law_40 14 (by decide) (by decide) 1299 rfl 1339 (by decide) ?_ ?_
      · refine s_aload_n C rfl 1 rfl dL_law_1339 1340 rfl ?_
        refine s_aload_n C rfl 0 rfl dL_law_1340 1341 rfl ?_
        refine s_iload C 4 rfl dL_law_1341 1343 rfl ?_
        refine s_iconst C 1 rfl dL_law_1343 1344 rfl ?_
        refine s_iadd C dL_law_1344 1345 rfl ?_
        refine x_ai0 C 200 rfl dL_law_1345 1346 rfl (fun x134 => ?_)
        refine s_aload_n C rfl 0 rfl dL_law_1346 1347 rfl ?_
        refine s_iload C 4 rfl dL_law_1347 1349 rfl ?_
        refine s_iconst C 2 rfl dL_law_1349 1350 rfl ?_
        refine s_iadd C dL_law_1350 1351 rfl ?_
        refine x_ai0 C 200 rfl dL_law_1351 1352 rfl (fun x135 => ?_)
        refine s_aload_n C rfl 0 rfl dL_law_1352 1353 rfl ?_
        refine s_iload C 4 rfl dL_law_1353 1355 rfl ?_
        refine s_iconst C 3 rfl dL_law_1355 1356 rfl ?_
        refine s_iadd C dL_law_1356 1357 rfl ?_
        refine x_ai0 C 200 rfl dL_law_1357 1358 rfl (fun x136 => ?_)
        refine s_aload_n C rfl 3 rfl dL_law_1358 1359 rfl ?_
        refine x_callSW (enc := en_i) C 24 5 [vr_ v1, vi_ x134, vi_ x135, vi_ x136, vr_ v3] (ctX0_exchange C.2.2.2.2.2.2.2.2.1 N m v1 x134 x135 x136 v3) q2537 q2538 q80 q2539 hdX0_exchange (Nat.le_of_ble_eq_true rfl) (Nat.le_of_ble_eq_true rfl) rfl (Nat.le_of_ble_eq_true rfl) dL_law_1359 1362 rfl rfl hen_i (kk_i (fun x137 m39 k1 n1 => ?_)) (kx_n he_i)
        refine s_istore C (Nat.le_of_ble_eq_true rfl) [0, 1, 2, 3, 4] rfl rfl dL_law_1362 1364 rfl ?_
        refine s_aload_n C rfl 3 rfl dL_law_1364 1365 rfl ?_
        refine s_aload_n C rfl 1 rfl dL_law_1365 1366 rfl ?_
        refine s_iload C 5 rfl dL_law_1366 1368 rfl ?_
        refine s_iconst C 1 rfl dL_law_1368 1369 rfl ?_
        refine s_iadd C dL_law_1369 1370 rfl ?_
        refine x_ai0 C 200 rfl dL_law_1370 1371 rfl (fun x138 => ?_)
        refine s_aload_n C rfl 1 rfl dL_law_1371 1372 rfl ?_
        refine s_iload C 5 rfl dL_law_1372 1374 rfl ?_
        refine s_iconst C 2 rfl dL_law_1374 1375 rfl ?_
        refine s_iadd C dL_law_1375 1376 rfl ?_
        refine x_ai0 C 200 rfl dL_law_1376 1377 rfl (fun x139 => ?_)
        refine s_aload_n C rfl 1 rfl dL_law_1377 1378 rfl ?_
        refine s_iload C 5 rfl dL_law_1378 1380 rfl ?_
        refine s_iconst C 3 rfl dL_law_1380 1381 rfl ?_
        refine s_iadd C dL_law_1381 1382 rfl ?_
        refine x_ai0 C 200 rfl dL_law_1382 1383 rfl (fun x140 => ?_)
        refine x_ck (fun hb_ hb0_ => ?_)
        refine x_callV (enc := en_i) C 12 3 [vi_ x138, vi_ x139, vi_ x140] 4 (ctX4_exchange C.2.2.2.2.2.2.2.2.1 N m39 v2 x138 x139 x140) hb_ hb0_ rfl rfl q3555 q3556 q3557 q93 q3558 hdX4_exchange (Nat.le_of_ble_eq_true rfl) (Nat.le_of_ble_eq_true rfl) rfl (Nat.le_of_ble_eq_true rfl) dL_law_1383 1386 rfl rfl hen_i (kk_i (fun x141 m40 k1 n1 => ?_)) (kx_n he_i)
        refine s_istore C (Nat.le_of_ble_eq_true rfl) [0, 1, 2, 3, 4, 5] rfl rfl dL_law_1386 1388 rfl ?_
        refine s_aload_n C rfl 4 rfl dL_law_1388 1389 rfl ?_
        refine x_ck (fun hb_ hb0_ => ?_)
        refine x_callV (enc := en_i) C 10 0 [] 4 (ctX4_thrown C.2.2.2.2.2.2.2.2.1 N m40 v2) hb_ hb0_ rfl rfl q3358 q3359 q3360 q93 q3361 hdX4_thrown (Nat.le_of_ble_eq_true rfl) (Nat.le_of_ble_eq_true rfl) rfl (Nat.le_of_ble_eq_true rfl) dL_law_1389 1392 rfl rfl hen_i (kk_i (fun x142 m41 k1 n1 => ?_)) (kx_n he_i)
        refine s_iload C 1 rfl dL_law_1392 1394 rfl ?_
        refine s_icmp_eq C dL_law_1394 1399 rfl 1397 rfl (fun c_ => ?_) (fun c_ => ?_)
        · refine s_iload C 1 rfl dL_law_1399 1401 rfl ?_
          refine s_if_ne C dL_law_1401 1416 rfl 1404 rfl (fun c_ => ?_) (fun c_ => ?_)
          · refine s_aload_n C rfl 5 rfl dL_law_1404 1405 rfl ?_
            refine s_iconst C 0 rfl dL_law_1405 1406 rfl ?_
            refine x_aj3 C 203 rfl dL_law_1406 1407 rfl (fun x143 => ?_)
            refine s_iload C 0 rfl dL_law_1407 1409 rfl ?_
            refine s_i2l C dL_law_1409 1410 rfl ?_
            refine s_lcmp C dL_law_1410 1411 rfl ?_
            refine s_if_eq C dL_law_1411 1416 rfl 1414 rfl (fun c_ => ?_) (fun c_ => ?_)
            · refine Sm_sub [2, 3, 4, 5, 6] rfl ?_
              exact wL_law_b1416 C hret h0 hin N (fun m v0 v1 v2 v3 v4 k n => ih m v0 v1 v2 v3 v4 k n) _ _ _ _ _ _ _ _
            · refine s_iconst C 0 rfl dL_law_1414 1415 rfl ?_
              exact x_zret0 C hret (by decide) rfl dL_law_1415
          · refine Sm_sub [2, 3, 4, 5, 6] rfl ?_
            exact wL_law_b1416 C hret h0 hin N (fun m v0 v1 v2 v3 v4 k n => ih m v0 v1 v2 v3 v4 k n) _ _ _ _ _ _ _ _
        · refine s_iconst C 0 rfl dL_law_1397 1398 rfl ?_
          exact x_zret0 C hret (by decide) rfl dL_law_1398
      refine x_tj C dL_law_40 15 (by decide) (by decide) 1379 rfl 1419 (by decide) ?_ ?_
      · refine s_aload_n C rfl 1 rfl dL_law_1419 1420 rfl ?_
        refine s_aload_n C rfl 0 rfl dL_law_1420 1421 rfl ?_
        refine s_iload C 4 rfl dL_law_1421 1423 rfl ?_
        refine s_iconst C 1 rfl dL_law_1423 1424 rfl ?_
        refine s_iadd C dL_law_1424 1425 rfl ?_
        refine x_ai0 C 200 rfl dL_law_1425 1426 rfl (fun x144 => ?_)
        refine s_aload_n C rfl 3 rfl dL_law_1426 1427 rfl ?_
        refine x_callSW (enc := en_i) C 19 3 [vr_ v1, vi_ x144, vr_ v3] (ctX0_sweep C.2.2.2.2.2.2.2.2.1 N m v1 x144 v3) q2549 q2550 q80 q2551 hdX0_sweep (Nat.le_of_ble_eq_true rfl) (Nat.le_of_ble_eq_true rfl) rfl (Nat.le_of_ble_eq_true rfl) dL_law_1427 1430 rfl rfl hen_i (kk_i (fun x145 m42 k1 n1 => ?_)) (kx_n he_i)
        refine s_istore C (Nat.le_of_ble_eq_true rfl) [0, 1, 2, 3, 4] rfl rfl dL_law_1430 1432 rfl ?_
        refine s_aload_n C rfl 3 rfl dL_law_1432 1433 rfl ?_
        refine s_aload_n C rfl 1 rfl dL_law_1433 1434 rfl ?_
        refine s_iload C 5 rfl dL_law_1434 1436 rfl ?_
        refine s_iconst C 1 rfl dL_law_1436 1437 rfl ?_
        refine s_iadd C dL_law_1437 1438 rfl ?_
        refine x_ai0 C 200 rfl dL_law_1438 1439 rfl (fun x146 => ?_)
        refine x_ck (fun hb_ hb0_ => ?_)
        refine x_callV (enc := en_i) C 13 1 [vi_ x146] 4 (ctX4_sweep C.2.2.2.2.2.2.2.2.1 N m42 v2 x146) hb_ hb0_ rfl rfl q3559 q3560 q3561 q93 q3562 hdX4_sweep (Nat.le_of_ble_eq_true rfl) (Nat.le_of_ble_eq_true rfl) rfl (Nat.le_of_ble_eq_true rfl) dL_law_1439 1442 rfl rfl hen_i (kk_i (fun x147 m43 k1 n1 => ?_)) (kx_n he_i)
        refine s_istore C (Nat.le_of_ble_eq_true rfl) [0, 1, 2, 3, 4, 5] rfl rfl dL_law_1442 1444 rfl ?_
        refine s_aload_n C rfl 4 rfl dL_law_1444 1445 rfl ?_
        refine x_ck (fun hb_ hb0_ => ?_)
        refine x_callV (enc := en_i) C 10 0 [] 4 (ctX4_thrown C.2.2.2.2.2.2.2.2.1 N m43 v2) hb_ hb0_ rfl rfl q3358 q3359 q3360 q93 q3361 hdX4_thrown (Nat.le_of_ble_eq_true rfl) (Nat.le_of_ble_eq_true rfl) rfl (Nat.le_of_ble_eq_true rfl) dL_law_1445 1448 rfl rfl hen_i (kk_i (fun x148 m44 k1 n1 => ?_)) (kx_n he_i)
        refine s_iload C 1 rfl dL_law_1448 1450 rfl ?_
        refine s_icmp_eq C dL_law_1450 1455 rfl 1453 rfl (fun c_ => ?_) (fun c_ => ?_)
        · refine s_iload C 1 rfl dL_law_1455 1457 rfl ?_
          refine s_if_ne C dL_law_1457 1472 rfl 1460 rfl (fun c_ => ?_) (fun c_ => ?_)
          · refine s_aload_n C rfl 5 rfl dL_law_1460 1461 rfl ?_
            refine s_iconst C 0 rfl dL_law_1461 1462 rfl ?_
            refine x_aj3 C 203 rfl dL_law_1462 1463 rfl (fun x149 => ?_)
            refine s_iload C 0 rfl dL_law_1463 1465 rfl ?_
            refine s_i2l C dL_law_1465 1466 rfl ?_
            refine s_lcmp C dL_law_1466 1467 rfl ?_
            refine s_if_eq C dL_law_1467 1472 rfl 1470 rfl (fun c_ => ?_) (fun c_ => ?_)
            · refine Sm_sub [2, 3, 4, 5, 6] rfl ?_
              exact wL_law_b1472 C hret h0 hin N (fun m v0 v1 v2 v3 v4 k n => ih m v0 v1 v2 v3 v4 k n) _ _ _ _ _ _ _ _
            · refine s_iconst C 0 rfl dL_law_1470 1471 rfl ?_
              exact x_zret0 C hret (by decide) rfl dL_law_1471
          · refine Sm_sub [2, 3, 4, 5, 6] rfl ?_
            exact wL_law_b1472 C hret h0 hin N (fun m v0 v1 v2 v3 v4 k n => ih m v0 v1 v2 v3 v4 k n) _ _ _ _ _ _ _ _
        · refine s_iconst C 0 rfl dL_law_1453 1454 rfl ?_
          exact x_zret0 C hret (by decide) rfl dL_law_1454
      refine x_tj C dL_law_40 16 (by decide) (by decide) 1435 rfl 1475 (by decide) ?_ ?_
      · refine s_aload_n C rfl 1 rfl dL_law_1475 1476 rfl ?_
        refine s_aload_n C rfl 0 rfl dL_law_1476 1477 rfl ?_
        refine s_iload C 4 rfl dL_law_1477 1479 rfl ?_
        refine s_iconst C 1 rfl dL_law_1479 1480 rfl ?_
        refine s_iadd C dL_law_1480 1481 rfl ?_
        refine x_ai0 C 200 rfl dL_law_1481 1482 rfl (fun x150 => ?_)
        refine s_aload_n C rfl 0 rfl dL_law_1482 1483 rfl ?_
        refine s_iload C 4 rfl dL_law_1483 1485 rfl ?_
        refine s_iconst C 2 rfl dL_law_1485 1486 rfl ?_
        refine s_iadd C dL_law_1486 1487 rfl ?_
        refine x_ai0 C 200 rfl dL_law_1487 1488 rfl (fun x151 => ?_)
        refine s_aload_n C rfl 3 rfl dL_law_1488 1489 rfl ?_
        refine x_callSW (enc := en_i) C 19 4 [vr_ v1, vi_ x150, vi_ x151, vr_ v3] (ctX0_equal C.2.2.2.2.2.2.2.2.1 N m v1 x150 x151 v3) q2556 q2557 q80 q2558 hdX0_equal (Nat.le_of_ble_eq_true rfl) (Nat.le_of_ble_eq_true rfl) rfl (Nat.le_of_ble_eq_true rfl) dL_law_1489 1492 rfl rfl hen_i (kk_i (fun x152 m45 k1 n1 => ?_)) (kx_n he_i)
        refine s_istore C (Nat.le_of_ble_eq_true rfl) [0, 1, 2, 3, 4] rfl rfl dL_law_1492 1494 rfl ?_
        refine s_aload_n C rfl 3 rfl dL_law_1494 1495 rfl ?_
        refine s_aload_n C rfl 1 rfl dL_law_1495 1496 rfl ?_
        refine s_iload C 5 rfl dL_law_1496 1498 rfl ?_
        refine s_iconst C 1 rfl dL_law_1498 1499 rfl ?_
        refine s_iadd C dL_law_1499 1500 rfl ?_
        refine x_ai0 C 200 rfl dL_law_1500 1501 rfl (fun x153 => ?_)
        refine s_aload_n C rfl 1 rfl dL_law_1501 1502 rfl ?_
        refine s_iload C 5 rfl dL_law_1502 1504 rfl ?_
        refine s_iconst C 2 rfl dL_law_1504 1505 rfl ?_
        refine s_iadd C dL_law_1505 1506 rfl ?_
        refine x_ai0 C 200 rfl dL_law_1506 1507 rfl (fun x154 => ?_)
        refine x_ck (fun hb_ hb0_ => ?_)
        refine x_callV (enc := en_i) C 12 2 [vi_ x153, vi_ x154] 4 (ctX4_equal C.2.2.2.2.2.2.2.2.1 N m45 v2 x153 x154) hb_ hb0_ rfl rfl q3563 q3564 q3565 q93 q3566 hdX4_equal (Nat.le_of_ble_eq_true rfl) (Nat.le_of_ble_eq_true rfl) rfl (Nat.le_of_ble_eq_true rfl) dL_law_1507 1510 rfl rfl hen_i (kk_i (fun x155 m46 k1 n1 => ?_)) (kx_n he_i)
        refine s_istore C (Nat.le_of_ble_eq_true rfl) [0, 1, 2, 3, 4, 5] rfl rfl dL_law_1510 1512 rfl ?_
        refine s_aload_n C rfl 4 rfl dL_law_1512 1513 rfl ?_
        refine x_ck (fun hb_ hb0_ => ?_)
        refine x_callV (enc := en_i) C 10 0 [] 4 (ctX4_thrown C.2.2.2.2.2.2.2.2.1 N m46 v2) hb_ hb0_ rfl rfl q3358 q3359 q3360 q93 q3361 hdX4_thrown (Nat.le_of_ble_eq_true rfl) (Nat.le_of_ble_eq_true rfl) rfl (Nat.le_of_ble_eq_true rfl) dL_law_1513 1516 rfl rfl hen_i (kk_i (fun x156 m47 k1 n1 => ?_)) (kx_n he_i)
        refine s_iload C 1 rfl dL_law_1516 1518 rfl ?_
        refine s_icmp_eq C dL_law_1518 1523 rfl 1521 rfl (fun c_ => ?_) (fun c_ => ?_)
        · refine s_iload C 1 rfl dL_law_1523 1525 rfl ?_
          refine s_if_ne C dL_law_1525 1540 rfl 1528 rfl (fun c_ => ?_) (fun c_ => ?_)
          · refine s_aload_n C rfl 5 rfl dL_law_1528 1529 rfl ?_
            refine s_iconst C 0 rfl dL_law_1529 1530 rfl ?_
            refine x_aj3 C 203 rfl dL_law_1530 1531 rfl (fun x157 => ?_)
            refine s_iload C 0 rfl dL_law_1531 1533 rfl ?_
            refine s_i2l C dL_law_1533 1534 rfl ?_
            refine s_lcmp C dL_law_1534 1535 rfl ?_
            refine s_if_eq C dL_law_1535 1540 rfl 1538 rfl (fun c_ => ?_) (fun c_ => ?_)
            · refine Sm_sub [2, 3, 4, 5, 6] rfl ?_
              exact wL_law_b1540 C hret h0 hin N (fun m v0 v1 v2 v3 v4 k n => ih m v0 v1 v2 v3 v4 k n) _ _ _ _ _ _ _ _
            · refine s_iconst C 0 rfl dL_law_1538 1539 rfl ?_
              exact x_zret0 C hret (by decide) rfl dL_law_1539
          · refine Sm_sub [2, 3, 4, 5, 6] rfl ?_
            exact wL_law_b1540 C hret h0 hin N (fun m v0 v1 v2 v3 v4 k n => ih m v0 v1 v2 v3 v4 k n) _ _ _ _ _ _ _ _
        · refine s_iconst C 0 rfl dL_law_1521 1522 rfl ?_
          exact x_zret0 C hret (by decide) rfl dL_law_1522
      refine x_tj C dL_law_40 17 (by decide) (by decide) 1503 rfl 1543 (by decide) ?_ ?_
      · refine s_aload_n C rfl 1 rfl dL_law_1543 1544 rfl ?_
        refine s_aload_n C rfl 0 rfl dL_law_1544 1545 rfl ?_
        refine s_iload C 4 rfl dL_law_1545 1547 rfl ?_
        refine s_iconst C 1 rfl dL_law_1547 1548 rfl ?_
        refine s_iadd C dL_law_1548 1549 rfl ?_
        refine x_ai0 C 200 rfl dL_law_1549 1550 rfl (fun x158 => ?_)
        refine s_aload_n C rfl 0 rfl dL_law_1550 1551 rfl ?_
        refine s_iload C 4 rfl dL_law_1551 1553 rfl ?_
        refine s_iconst C 2 rfl dL_law_1553 1554 rfl ?_
        refine s_iadd C dL_law_1554 1555 rfl ?_
        refine x_ai0 C 200 rfl dL_law_1555 1556 rfl (fun x159 => ?_)
        refine s_aload_n C rfl 3 rfl dL_law_1556 1557 rfl ?_
        refine x_callSW (enc := en_i) C 19 4 [vr_ v1, vi_ x158, vi_ x159, vr_ v3] (ctX0_atLeast C.2.2.2.2.2.2.2.2.1 N m v1 x158 x159 v3) q2587 q2588 q80 q2589 hdX0_atLeast (Nat.le_of_ble_eq_true rfl) (Nat.le_of_ble_eq_true rfl) rfl (Nat.le_of_ble_eq_true rfl) dL_law_1557 1560 rfl rfl hen_i (kk_i (fun x160 m48 k1 n1 => ?_)) (kx_n he_i)
        refine s_istore C (Nat.le_of_ble_eq_true rfl) [0, 1, 2, 3, 4] rfl rfl dL_law_1560 1562 rfl ?_
        refine s_aload_n C rfl 3 rfl dL_law_1562 1563 rfl ?_
        refine s_aload_n C rfl 1 rfl dL_law_1563 1564 rfl ?_
        refine s_iload C 5 rfl dL_law_1564 1566 rfl ?_
        refine s_iconst C 1 rfl dL_law_1566 1567 rfl ?_
        refine s_iadd C dL_law_1567 1568 rfl ?_
        refine x_ai0 C 200 rfl dL_law_1568 1569 rfl (fun x161 => ?_)
        refine s_aload_n C rfl 1 rfl dL_law_1569 1570 rfl ?_
        refine s_iload C 5 rfl dL_law_1570 1572 rfl ?_
        refine s_iconst C 2 rfl dL_law_1572 1573 rfl ?_
        refine s_iadd C dL_law_1573 1574 rfl ?_
        refine x_ai0 C 200 rfl dL_law_1574 1575 rfl (fun x162 => ?_)
        refine x_ck (fun hb_ hb0_ => ?_)
        refine x_callV (enc := en_i) C 12 2 [vi_ x161, vi_ x162] 4 (ctX4_atLeast C.2.2.2.2.2.2.2.2.1 N m48 v2 x161 x162) hb_ hb0_ rfl rfl q3575 q3576 q3577 q93 q3578 hdX4_atLeast (Nat.le_of_ble_eq_true rfl) (Nat.le_of_ble_eq_true rfl) rfl (Nat.le_of_ble_eq_true rfl) dL_law_1575 1578 rfl rfl hen_i (kk_i (fun x163 m49 k1 n1 => ?_)) (kx_n he_i)
        refine s_istore C (Nat.le_of_ble_eq_true rfl) [0, 1, 2, 3, 4, 5] rfl rfl dL_law_1578 1580 rfl ?_
        refine s_aload_n C rfl 4 rfl dL_law_1580 1581 rfl ?_
        refine x_ck (fun hb_ hb0_ => ?_)
        refine x_callV (enc := en_i) C 10 0 [] 4 (ctX4_thrown C.2.2.2.2.2.2.2.2.1 N m49 v2) hb_ hb0_ rfl rfl q3358 q3359 q3360 q93 q3361 hdX4_thrown (Nat.le_of_ble_eq_true rfl) (Nat.le_of_ble_eq_true rfl) rfl (Nat.le_of_ble_eq_true rfl) dL_law_1581 1584 rfl rfl hen_i (kk_i (fun x164 m50 k1 n1 => ?_)) (kx_n he_i)
        refine s_iload C 1 rfl dL_law_1584 1586 rfl ?_
        refine s_icmp_eq C dL_law_1586 1591 rfl 1589 rfl (fun c_ => ?_) (fun c_ => ?_)
        · refine s_iload C 1 rfl dL_law_1591 1593 rfl ?_
          refine s_if_ne C dL_law_1593 1608 rfl 1596 rfl (fun c_ => ?_) (fun c_ => ?_)
          · refine s_aload_n C rfl 5 rfl dL_law_1596 1597 rfl ?_
            refine s_iconst C 0 rfl dL_law_1597 1598 rfl ?_
            refine x_aj3 C 203 rfl dL_law_1598 1599 rfl (fun x165 => ?_)
            refine s_iload C 0 rfl dL_law_1599 1601 rfl ?_
            refine s_i2l C dL_law_1601 1602 rfl ?_
            refine s_lcmp C dL_law_1602 1603 rfl ?_
            refine s_if_eq C dL_law_1603 1608 rfl 1606 rfl (fun c_ => ?_) (fun c_ => ?_)
            · refine Sm_sub [2, 3, 4, 5, 6] rfl ?_
              exact wL_law_b1608 C hret h0 hin N (fun m v0 v1 v2 v3 v4 k n => ih m v0 v1 v2 v3 v4 k n) _ _ _ _ _ _ _ _
            · refine s_iconst C 0 rfl dL_law_1606 1607 rfl ?_
              exact x_zret0 C hret (by decide) rfl dL_law_1607
          · refine Sm_sub [2, 3, 4, 5, 6] rfl ?_
            exact wL_law_b1608 C hret h0 hin N (fun m v0 v1 v2 v3 v4 k n => ih m v0 v1 v2 v3 v4 k n) _ _ _ _ _ _ _ _
        · refine s_iconst C 0 rfl dL_law_1589 1590 rfl ?_
          exact x_zret0 C hret (by decide) rfl dL_law_1590
      refine x_tj C dL_law_40 18 (by decide) (by decide) 1571 rfl 1611 (by decide) ?_ ?_
      · refine s_aload_n C rfl 1 rfl dL_law_1611 1612 rfl ?_
        refine s_aload_n C rfl 0 rfl dL_law_1612 1613 rfl ?_
        refine s_iload C 4 rfl dL_law_1613 1615 rfl ?_
        refine s_iconst C 1 rfl dL_law_1615 1616 rfl ?_
        refine s_iadd C dL_law_1616 1617 rfl ?_
        refine x_ai0 C 200 rfl dL_law_1617 1618 rfl (fun x166 => ?_)
        refine s_aload_n C rfl 3 rfl dL_law_1618 1619 rfl ?_
        refine x_callSW (enc := en_i) C 19 3 [vr_ v1, vi_ x166, vr_ v3] (ctX0_has C.2.2.2.2.2.2.2.2.1 N m v1 x166 v3) q2594 q2595 q80 q2596 hdX0_has (Nat.le_of_ble_eq_true rfl) (Nat.le_of_ble_eq_true rfl) rfl (Nat.le_of_ble_eq_true rfl) dL_law_1619 1622 rfl rfl hen_i (kk_i (fun x167 m51 k1 n1 => ?_)) (kx_n he_i)
        refine s_istore C (Nat.le_of_ble_eq_true rfl) [0, 1, 2, 3, 4] rfl rfl dL_law_1622 1624 rfl ?_
        refine s_aload_n C rfl 3 rfl dL_law_1624 1625 rfl ?_
        refine s_aload_n C rfl 1 rfl dL_law_1625 1626 rfl ?_
        refine s_iload C 5 rfl dL_law_1626 1628 rfl ?_
        refine s_iconst C 1 rfl dL_law_1628 1629 rfl ?_
        refine s_iadd C dL_law_1629 1630 rfl ?_
        refine x_ai0 C 200 rfl dL_law_1630 1631 rfl (fun x168 => ?_)
        refine x_ck (fun hb_ hb0_ => ?_)
        refine x_callV (enc := en_i) C 12 1 [vi_ x168] 4 (ctX4_has C.2.2.2.2.2.2.2.2.1 N m51 v2 x168) hb_ hb0_ rfl rfl q3579 q3580 q3581 q93 q3582 hdX4_has (Nat.le_of_ble_eq_true rfl) (Nat.le_of_ble_eq_true rfl) rfl (Nat.le_of_ble_eq_true rfl) dL_law_1631 1634 rfl rfl hen_i (kk_i (fun x169 m52 k1 n1 => ?_)) (kx_n he_i)
        refine s_istore C (Nat.le_of_ble_eq_true rfl) [0, 1, 2, 3, 4, 5] rfl rfl dL_law_1634 1636 rfl ?_
        refine s_aload_n C rfl 4 rfl dL_law_1636 1637 rfl ?_
        refine x_ck (fun hb_ hb0_ => ?_)
        refine x_callV (enc := en_i) C 10 0 [] 4 (ctX4_thrown C.2.2.2.2.2.2.2.2.1 N m52 v2) hb_ hb0_ rfl rfl q3358 q3359 q3360 q93 q3361 hdX4_thrown (Nat.le_of_ble_eq_true rfl) (Nat.le_of_ble_eq_true rfl) rfl (Nat.le_of_ble_eq_true rfl) dL_law_1637 1640 rfl rfl hen_i (kk_i (fun x170 m53 k1 n1 => ?_)) (kx_n he_i)
        refine s_iload C 1 rfl dL_law_1640 1642 rfl ?_
        refine s_icmp_eq C dL_law_1642 1647 rfl 1645 rfl (fun c_ => ?_) (fun c_ => ?_)
        · refine s_iload C 1 rfl dL_law_1647 1649 rfl ?_
          refine s_if_ne C dL_law_1649 1664 rfl 1652 rfl (fun c_ => ?_) (fun c_ => ?_)
          · refine s_aload_n C rfl 5 rfl dL_law_1652 1653 rfl ?_
            refine s_iconst C 0 rfl dL_law_1653 1654 rfl ?_
            refine x_aj3 C 203 rfl dL_law_1654 1655 rfl (fun x171 => ?_)
            refine s_iload C 0 rfl dL_law_1655 1657 rfl ?_
            refine s_i2l C dL_law_1657 1658 rfl ?_
            refine s_lcmp C dL_law_1658 1659 rfl ?_
            refine s_if_eq C dL_law_1659 1664 rfl 1662 rfl (fun c_ => ?_) (fun c_ => ?_)
            · refine Sm_sub [2, 3, 4, 5, 6] rfl ?_
              exact wL_law_b1664 C hret h0 hin N (fun m v0 v1 v2 v3 v4 k n => ih m v0 v1 v2 v3 v4 k n) _ _ _ _ _ _ _ _
            · refine s_iconst C 0 rfl dL_law_1662 1663 rfl ?_
              exact x_zret0 C hret (by decide) rfl dL_law_1663
          · refine Sm_sub [2, 3, 4, 5, 6] rfl ?_
            exact wL_law_b1664 C hret h0 hin N (fun m v0 v1 v2 v3 v4 k n => ih m v0 v1 v2 v3 v4 k n) _ _ _ _ _ _ _ _
        · refine s_iconst C 0 rfl dL_law_1645 1646 rfl ?_
          exact x_zret0 C hret (by decide) rfl dL_law_1646
      refine x_tj C dL_law_40 19 (by decide) (by decide) 1627 rfl 1667 (by decide) ?_ ?_
      · refine s_aload_n C rfl 1 rfl dL_law_1667 1668 rfl ?_
        refine s_aload_n C rfl 0 rfl dL_law_1668 1669 rfl ?_
        refine s_iload C 4 rfl dL_law_1669 1671 rfl ?_
        refine s_iconst C 1 rfl dL_law_1671 1672 rfl ?_
        refine s_iadd C dL_law_1672 1673 rfl ?_
        refine x_ai0 C 200 rfl dL_law_1673 1674 rfl (fun x172 => ?_)
        refine s_aload_n C rfl 3 rfl dL_law_1674 1675 rfl ?_
        refine x_callSW (enc := en_i) C 19 3 [vr_ v1, vi_ x172, vr_ v3] (ctX0_ofClass C.2.2.2.2.2.2.2.2.1 N m v1 x172 v3) q2601 q2602 q80 q2603 hdX0_ofClass (Nat.le_of_ble_eq_true rfl) (Nat.le_of_ble_eq_true rfl) rfl (Nat.le_of_ble_eq_true rfl) dL_law_1675 1678 rfl rfl hen_i (kk_i (fun x173 m54 k1 n1 => ?_)) (kx_n he_i)
        refine s_istore C (Nat.le_of_ble_eq_true rfl) [0, 1, 2, 3, 4] rfl rfl dL_law_1678 1680 rfl ?_
        refine s_aload_n C rfl 3 rfl dL_law_1680 1681 rfl ?_
        refine s_aload_n C rfl 1 rfl dL_law_1681 1682 rfl ?_
        refine s_iload C 5 rfl dL_law_1682 1684 rfl ?_
        refine s_iconst C 1 rfl dL_law_1684 1685 rfl ?_
        refine s_iadd C dL_law_1685 1686 rfl ?_
        refine x_ai0 C 200 rfl dL_law_1686 1687 rfl (fun x174 => ?_)
        refine x_ck (fun hb_ hb0_ => ?_)
        refine x_callV (enc := en_i) C 12 1 [vi_ x174] 4 (ctX4_ofClass C.2.2.2.2.2.2.2.2.1 N m54 v2 x174) hb_ hb0_ rfl rfl q3583 q3584 q3585 q93 q3586 hdX4_ofClass (Nat.le_of_ble_eq_true rfl) (Nat.le_of_ble_eq_true rfl) rfl (Nat.le_of_ble_eq_true rfl) dL_law_1687 1690 rfl rfl hen_i (kk_i (fun x175 m55 k1 n1 => ?_)) (kx_n he_i)
        refine s_istore C (Nat.le_of_ble_eq_true rfl) [0, 1, 2, 3, 4, 5] rfl rfl dL_law_1690 1692 rfl ?_
        refine s_aload_n C rfl 4 rfl dL_law_1692 1693 rfl ?_
        refine x_ck (fun hb_ hb0_ => ?_)
        refine x_callV (enc := en_i) C 10 0 [] 4 (ctX4_thrown C.2.2.2.2.2.2.2.2.1 N m55 v2) hb_ hb0_ rfl rfl q3358 q3359 q3360 q93 q3361 hdX4_thrown (Nat.le_of_ble_eq_true rfl) (Nat.le_of_ble_eq_true rfl) rfl (Nat.le_of_ble_eq_true rfl) dL_law_1693 1696 rfl rfl hen_i (kk_i (fun x176 m56 k1 n1 => ?_)) (kx_n he_i)
        refine s_iload C 1 rfl dL_law_1696 1698 rfl ?_
        refine s_icmp_eq C dL_law_1698 1703 rfl 1701 rfl (fun c_ => ?_) (fun c_ => ?_)
        · refine s_iload C 1 rfl dL_law_1703 1705 rfl ?_
          refine s_if_ne C dL_law_1705 1720 rfl 1708 rfl (fun c_ => ?_) (fun c_ => ?_)
          · refine s_aload_n C rfl 5 rfl dL_law_1708 1709 rfl ?_
            refine s_iconst C 0 rfl dL_law_1709 1710 rfl ?_
            refine x_aj3 C 203 rfl dL_law_1710 1711 rfl (fun x177 => ?_)
            refine s_iload C 0 rfl dL_law_1711 1713 rfl ?_
            refine s_i2l C dL_law_1713 1714 rfl ?_
            refine s_lcmp C dL_law_1714 1715 rfl ?_
            refine s_if_eq C dL_law_1715 1720 rfl 1718 rfl (fun c_ => ?_) (fun c_ => ?_)
            · refine Sm_sub [2, 3, 4, 5, 6] rfl ?_
              exact wL_law_b1720 C hret h0 hin N (fun m v0 v1 v2 v3 v4 k n => ih m v0 v1 v2 v3 v4 k n) _ _ _ _ _ _ _ _
            · refine s_iconst C 0 rfl dL_law_1718 1719 rfl ?_
              exact x_zret0 C hret (by decide) rfl dL_law_1719
          · refine Sm_sub [2, 3, 4, 5, 6] rfl ?_
            exact wL_law_b1720 C hret h0 hin N (fun m v0 v1 v2 v3 v4 k n => ih m v0 v1 v2 v3 v4 k n) _ _ _ _ _ _ _ _
        · refine s_iconst C 0 rfl dL_law_1701 1702 rfl ?_
          exact x_zret0 C hret (by decide) rfl dL_law_1702
      refine x_tj C dL_law_40 20 (by decide) (by decide) 1683 rfl 1723 (by decide) ?_ ?_
      · refine s_aload_n C rfl 1 rfl dL_law_1723 1724 rfl ?_
        refine s_aload_n C rfl 0 rfl dL_law_1724 1725 rfl ?_
        refine s_iload C 4 rfl dL_law_1725 1727 rfl ?_
        refine s_iconst C 1 rfl dL_law_1727 1728 rfl ?_
        refine s_iadd C dL_law_1728 1729 rfl ?_
        refine x_ai0 C 200 rfl dL_law_1729 1730 rfl (fun x178 => ?_)
        refine s_if_eq C dL_law_1730 1737 rfl 1733 rfl (fun c_ => ?_) (fun c_ => ?_)
        · refine s_iconst C 0 rfl dL_law_1737 1738 rfl ?_
          exact wL_law_b1738 C hret h0 hin N (fun m v0 v1 v2 v3 v4 k n => ih m v0 v1 v2 v3 v4 k n) _ _ _ _ _ _ _ _ _ _
        · refine s_iconst C 1 rfl dL_law_1733 1734 rfl ?_
          refine s_goto C (off := 4) 1738 dL_law_1734 rfl ?_
          exact wL_law_b1738 C hret h0 hin N (fun m v0 v1 v2 v3 v4 k n => ih m v0 v1 v2 v3 v4 k n) _ _ _ _ _ _ _ _ _ _
      refine x_tj C dL_law_40 21 (by decide) (by decide) 1755 rfl 1795 (by decide) ?_ ?_
      · refine s_aload_n C rfl 1 rfl dL_law_1795 1796 rfl ?_
        refine s_aload_n C rfl 3 rfl dL_law_1796 1797 rfl ?_
        refine x_callSW (enc := en_i) C 18 2 [vr_ v1, vr_ v3] (ctX0_not C.2.2.2.2.2.2.2.2.1 N m v1 v3) q2650 q2651 q80 q2652 hdX0_not (Nat.le_of_ble_eq_true rfl) (Nat.le_of_ble_eq_true rfl) rfl (Nat.le_of_ble_eq_true rfl) dL_law_1797 1800 rfl rfl hen_i (kk_i (fun x179 m57 k1 n1 => ?_)) (kx_n he_i)
        refine s_istore C (Nat.le_of_ble_eq_true rfl) [0, 1, 2, 3, 4] rfl rfl dL_law_1800 1802 rfl ?_
        refine s_aload_n C rfl 3 rfl dL_law_1802 1803 rfl ?_
        refine x_ck (fun hb_ hb0_ => ?_)
        refine x_callV (enc := en_i) C 11 0 [] 4 (ctX4_not C.2.2.2.2.2.2.2.2.1 N m57 v2) hb_ hb0_ rfl rfl q3591 q3592 q3593 q93 q3594 hdX4_not (Nat.le_of_ble_eq_true rfl) (Nat.le_of_ble_eq_true rfl) rfl (Nat.le_of_ble_eq_true rfl) dL_law_1803 1806 rfl rfl hen_i (kk_i (fun x180 m58 k1 n1 => ?_)) (kx_n he_i)
        refine s_istore C (Nat.le_of_ble_eq_true rfl) [0, 1, 2, 3, 4, 5] rfl rfl dL_law_1806 1808 rfl ?_
        refine s_aload_n C rfl 4 rfl dL_law_1808 1809 rfl ?_
        refine x_ck (fun hb_ hb0_ => ?_)
        refine x_callV (enc := en_i) C 10 0 [] 4 (ctX4_thrown C.2.2.2.2.2.2.2.2.1 N m58 v2) hb_ hb0_ rfl rfl q3358 q3359 q3360 q93 q3361 hdX4_thrown (Nat.le_of_ble_eq_true rfl) (Nat.le_of_ble_eq_true rfl) rfl (Nat.le_of_ble_eq_true rfl) dL_law_1809 1812 rfl rfl hen_i (kk_i (fun x181 m59 k1 n1 => ?_)) (kx_n he_i)
        refine s_iload C 1 rfl dL_law_1812 1814 rfl ?_
        refine s_icmp_eq C dL_law_1814 1819 rfl 1817 rfl (fun c_ => ?_) (fun c_ => ?_)
        · refine s_iload C 1 rfl dL_law_1819 1821 rfl ?_
          refine s_if_ne C dL_law_1821 1836 rfl 1824 rfl (fun c_ => ?_) (fun c_ => ?_)
          · refine s_aload_n C rfl 5 rfl dL_law_1824 1825 rfl ?_
            refine s_iconst C 0 rfl dL_law_1825 1826 rfl ?_
            refine x_aj3 C 203 rfl dL_law_1826 1827 rfl (fun x182 => ?_)
            refine s_iload C 0 rfl dL_law_1827 1829 rfl ?_
            refine s_i2l C dL_law_1829 1830 rfl ?_
            refine s_lcmp C dL_law_1830 1831 rfl ?_
            refine s_if_eq C dL_law_1831 1836 rfl 1834 rfl (fun c_ => ?_) (fun c_ => ?_)
            · refine Sm_sub [2, 3, 4, 5, 6] rfl ?_
              exact wL_law_b1836 C hret h0 hin N (fun m v0 v1 v2 v3 v4 k n => ih m v0 v1 v2 v3 v4 k n) _ _ _ _ _ _ _ _
            · refine s_iconst C 0 rfl dL_law_1834 1835 rfl ?_
              exact x_zret0 C hret (by decide) rfl dL_law_1835
          · refine Sm_sub [2, 3, 4, 5, 6] rfl ?_
            exact wL_law_b1836 C hret h0 hin N (fun m v0 v1 v2 v3 v4 k n => ih m v0 v1 v2 v3 v4 k n) _ _ _ _ _ _ _ _
        · refine s_iconst C 0 rfl dL_law_1817 1818 rfl ?_
          exact x_zret0 C hret (by decide) rfl dL_law_1818
      refine x_tj C dL_law_40 22 (by decide) (by decide) 1799 rfl 1839 (by decide) ?_ ?_
      · refine s_aload_n C rfl 1 rfl dL_law_1839 1840 rfl ?_
        refine x_ck (fun hb_ hb0_ => ?_)
        refine x_callV (enc := en_i) C 11 0 [] 1 (ctX1_wipe C.2.2.2.2.2.2.2.2.1 N m v1) hb_ hb0_ rfl rfl q497 q498 q499 q81 q500 hdX1_wipe (Nat.le_of_ble_eq_true rfl) (Nat.le_of_ble_eq_true rfl) rfl (Nat.le_of_ble_eq_true rfl) dL_law_1840 1843 rfl rfl hen_i (kk_i (fun x183 m60 k1 n1 => ?_)) (kx_n he_i)
        refine s_aload_n C rfl 2 rfl dL_law_1843 1844 rfl ?_
        refine x_ck (fun hb_ hb0_ => ?_)
        refine x_callV (enc := en_i) C 10 0 [] 4 (ctX4_wipe C.2.2.2.2.2.2.2.2.1 N m60 v2) hb_ hb0_ rfl rfl q3595 q3596 q3597 q93 q3598 hdX4_wipe (Nat.le_of_ble_eq_true rfl) (Nat.le_of_ble_eq_true rfl) rfl (Nat.le_of_ble_eq_true rfl) dL_law_1844 1847 rfl rfl hen_i (kk_i (fun x184 m61 k1 n1 => ?_)) (kx_n he_i)
        refine s_icmp_eq C dL_law_1847 3094 rfl 1850 rfl (fun c_ => ?_) (fun c_ => ?_)
        · exact wL_law_b3094 C hret h0 hin N (fun m v0 v1 v2 v3 v4 k n => ih m v0 v1 v2 v3 v4 k n) _ _ _ _ _ _ _ _
        · refine s_iconst C 0 rfl dL_law_1850 1851 rfl ?_
          exact x_zret0 C hret (by decide) rfl dL_law_1851
      refine x_tj C dL_law_40 23 (by decide) (by decide) 1812 rfl 1852 (by decide) ?_ ?_
      · refine s_aload_n C rfl 1 rfl dL_law_1852 1853 rfl ?_
        refine s_aload_n C rfl 0 rfl dL_law_1853 1854 rfl ?_
        refine s_iload C 4 rfl dL_law_1854 1856 rfl ?_
        refine s_iconst C 1 rfl dL_law_1856 1857 rfl ?_
        refine s_iadd C dL_law_1857 1858 rfl ?_
        refine x_ai0 C 200 rfl dL_law_1858 1859 rfl (fun x185 => ?_)
        refine s_aload_n C rfl 0 rfl dL_law_1859 1860 rfl ?_
        refine s_iload C 4 rfl dL_law_1860 1862 rfl ?_
        refine s_iconst C 2 rfl dL_law_1862 1863 rfl ?_
        refine s_iadd C dL_law_1863 1864 rfl ?_
        refine x_ai0 C 200 rfl dL_law_1864 1865 rfl (fun x186 => ?_)
        refine s_aload_n C rfl 0 rfl dL_law_1865 1866 rfl ?_
        refine s_iload C 4 rfl dL_law_1866 1868 rfl ?_
        refine s_iconst C 3 rfl dL_law_1868 1869 rfl ?_
        refine s_iadd C dL_law_1869 1870 rfl ?_
        refine x_ai0 C 200 rfl dL_law_1870 1871 rfl (fun x187 => ?_)
        refine s_aload_n C rfl 3 rfl dL_law_1871 1872 rfl ?_
        refine x_callSW (enc := en_i) C 36 5 [vr_ v1, vi_ x185, vi_ x186, vi_ x187, vr_ v3] (ctX0_search C.2.2.2.2.2.2.2.2.1 N m v1 x185 x186 x187 v3) q2670 q2671 q80 q2672 hdX0_search (Nat.le_of_ble_eq_true rfl) (Nat.le_of_ble_eq_true rfl) rfl (Nat.le_of_ble_eq_true rfl) dL_law_1872 1875 rfl rfl hen_i (kk_i (fun x188 m62 k1 n1 => ?_)) (kx_n he_i)
        refine s_istore C (Nat.le_of_ble_eq_true rfl) [0, 1, 2, 3, 4] rfl rfl dL_law_1875 1877 rfl ?_
        refine s_aload_n C rfl 3 rfl dL_law_1877 1878 rfl ?_
        refine s_aload_n C rfl 1 rfl dL_law_1878 1879 rfl ?_
        refine s_iload C 5 rfl dL_law_1879 1881 rfl ?_
        refine s_iconst C 1 rfl dL_law_1881 1882 rfl ?_
        refine s_iadd C dL_law_1882 1883 rfl ?_
        refine x_ai0 C 200 rfl dL_law_1883 1884 rfl (fun x189 => ?_)
        refine s_aload_n C rfl 1 rfl dL_law_1884 1885 rfl ?_
        refine s_iload C 5 rfl dL_law_1885 1887 rfl ?_
        refine s_iconst C 2 rfl dL_law_1887 1888 rfl ?_
        refine s_iadd C dL_law_1888 1889 rfl ?_
        refine x_ai0 C 200 rfl dL_law_1889 1890 rfl (fun x190 => ?_)
        refine s_aload_n C rfl 1 rfl dL_law_1890 1891 rfl ?_
        refine s_iload C 5 rfl dL_law_1891 1893 rfl ?_
        refine s_iconst C 3 rfl dL_law_1893 1894 rfl ?_
        refine s_iadd C dL_law_1894 1895 rfl ?_
        refine x_ai0 C 200 rfl dL_law_1895 1896 rfl (fun x191 => ?_)
        refine x_ck (fun hb_ hb0_ => ?_)
        refine x_callV (enc := en_i) C 17 3 [vi_ x189, vi_ x190, vi_ x191] 4 (ctX4_search C.2.2.2.2.2.2.2.2.1 N m62 v2 x189 x190 x191) hb_ hb0_ rfl rfl q3599 q3600 q3601 q93 q3602 hdX4_search (Nat.le_of_ble_eq_true rfl) (Nat.le_of_ble_eq_true rfl) rfl (Nat.le_of_ble_eq_true rfl) dL_law_1896 1899 rfl rfl hen_i (kk_i (fun x192 m63 k1 n1 => ?_)) (kx_n he_i)
        refine s_istore C (Nat.le_of_ble_eq_true rfl) [0, 1, 2, 3, 4, 5] rfl rfl dL_law_1899 1901 rfl ?_
        refine s_aload_n C rfl 4 rfl dL_law_1901 1902 rfl ?_
        refine x_ck (fun hb_ hb0_ => ?_)
        refine x_callV (enc := en_i) C 10 0 [] 4 (ctX4_thrown C.2.2.2.2.2.2.2.2.1 N m63 v2) hb_ hb0_ rfl rfl q3358 q3359 q3360 q93 q3361 hdX4_thrown (Nat.le_of_ble_eq_true rfl) (Nat.le_of_ble_eq_true rfl) rfl (Nat.le_of_ble_eq_true rfl) dL_law_1902 1905 rfl rfl hen_i (kk_i (fun x193 m64 k1 n1 => ?_)) (kx_n he_i)
        refine s_iload C 1 rfl dL_law_1905 1907 rfl ?_
        refine s_icmp_eq C dL_law_1907 1912 rfl 1910 rfl (fun c_ => ?_) (fun c_ => ?_)
        · refine s_iload C 1 rfl dL_law_1912 1914 rfl ?_
          refine s_if_ne C dL_law_1914 1929 rfl 1917 rfl (fun c_ => ?_) (fun c_ => ?_)
          · refine s_aload_n C rfl 5 rfl dL_law_1917 1918 rfl ?_
            refine s_iconst C 0 rfl dL_law_1918 1919 rfl ?_
            refine x_aj3 C 203 rfl dL_law_1919 1920 rfl (fun x194 => ?_)
            refine s_iload C 0 rfl dL_law_1920 1922 rfl ?_
            refine s_i2l C dL_law_1922 1923 rfl ?_
            refine s_lcmp C dL_law_1923 1924 rfl ?_
            refine s_if_eq C dL_law_1924 1929 rfl 1927 rfl (fun c_ => ?_) (fun c_ => ?_)
            · refine Sm_sub [2, 3, 4, 5, 6] rfl ?_
              exact wL_law_b1929 C hret h0 hin N (fun m v0 v1 v2 v3 v4 k n => ih m v0 v1 v2 v3 v4 k n) _ _ _ _ _ _ _ _
            · refine s_iconst C 0 rfl dL_law_1927 1928 rfl ?_
              exact x_zret0 C hret (by decide) rfl dL_law_1928
          · refine Sm_sub [2, 3, 4, 5, 6] rfl ?_
            exact wL_law_b1929 C hret h0 hin N (fun m v0 v1 v2 v3 v4 k n => ih m v0 v1 v2 v3 v4 k n) _ _ _ _ _ _ _ _
        · refine s_iconst C 0 rfl dL_law_1910 1911 rfl ?_
          exact x_zret0 C hret (by decide) rfl dL_law_1911
      refine x_tj C dL_law_40 24 (by decide) (by decide) 1892 rfl 1932 (by decide) ?_ ?_
      · refine s_aload_n C rfl 1 rfl dL_law_1932 1933 rfl ?_
        refine s_aload_n C rfl 0 rfl dL_law_1933 1934 rfl ?_
        refine s_iload C 4 rfl dL_law_1934 1936 rfl ?_
        refine s_iconst C 1 rfl dL_law_1936 1937 rfl ?_
        refine s_iadd C dL_law_1937 1938 rfl ?_
        refine x_ai0 C 200 rfl dL_law_1938 1939 rfl (fun x195 => ?_)
        refine s_aload_n C rfl 0 rfl dL_law_1939 1940 rfl ?_
        refine s_iload C 4 rfl dL_law_1940 1942 rfl ?_
        refine s_iconst C 2 rfl dL_law_1942 1943 rfl ?_
        refine s_iadd C dL_law_1943 1944 rfl ?_
        refine x_ai0 C 200 rfl dL_law_1944 1945 rfl (fun x196 => ?_)
        refine s_aload_n C rfl 0 rfl dL_law_1945 1946 rfl ?_
        refine s_iload C 4 rfl dL_law_1946 1948 rfl ?_
        refine s_iconst C 3 rfl dL_law_1948 1949 rfl ?_
        refine s_iadd C dL_law_1949 1950 rfl ?_
        refine x_ai0 C 200 rfl dL_law_1950 1951 rfl (fun x197 => ?_)
        refine s_aload_n C rfl 3 rfl dL_law_1951 1952 rfl ?_
        refine x_callSW (enc := en_i) C 36 5 [vr_ v1, vi_ x195, vi_ x196, vi_ x197, vr_ v3] (ctX0_searchByWalk C.2.2.2.2.2.2.2.2.1 N m v1 x195 x196 x197 v3) q2786 q2787 q80 q2788 hdX0_searchByWalk (Nat.le_of_ble_eq_true rfl) (Nat.le_of_ble_eq_true rfl) rfl (Nat.le_of_ble_eq_true rfl) dL_law_1952 1955 rfl rfl hen_i (kk_i (fun x198 m65 k1 n1 => ?_)) (kx_n he_i)
        refine s_istore C (Nat.le_of_ble_eq_true rfl) [0, 1, 2, 3, 4] rfl rfl dL_law_1955 1957 rfl ?_
        refine s_aload_n C rfl 3 rfl dL_law_1957 1958 rfl ?_
        refine s_aload_n C rfl 1 rfl dL_law_1958 1959 rfl ?_
        refine s_iload C 5 rfl dL_law_1959 1961 rfl ?_
        refine s_iconst C 1 rfl dL_law_1961 1962 rfl ?_
        refine s_iadd C dL_law_1962 1963 rfl ?_
        refine x_ai0 C 200 rfl dL_law_1963 1964 rfl (fun x199 => ?_)
        refine s_aload_n C rfl 1 rfl dL_law_1964 1965 rfl ?_
        refine s_iload C 5 rfl dL_law_1965 1967 rfl ?_
        refine s_iconst C 2 rfl dL_law_1967 1968 rfl ?_
        refine s_iadd C dL_law_1968 1969 rfl ?_
        refine x_ai0 C 200 rfl dL_law_1969 1970 rfl (fun x200 => ?_)
        refine s_aload_n C rfl 1 rfl dL_law_1970 1971 rfl ?_
        refine s_iload C 5 rfl dL_law_1971 1973 rfl ?_
        refine s_iconst C 3 rfl dL_law_1973 1974 rfl ?_
        refine s_iadd C dL_law_1974 1975 rfl ?_
        refine x_ai0 C 200 rfl dL_law_1975 1976 rfl (fun x201 => ?_)
        refine x_ck (fun hb_ hb0_ => ?_)
        refine x_callV (enc := en_i) C 17 3 [vi_ x199, vi_ x200, vi_ x201] 4 (ctX4_searchByWalk C.2.2.2.2.2.2.2.2.1 N m65 v2 x199 x200 x201) hb_ hb0_ rfl rfl q3627 q3628 q3629 q93 q3630 hdX4_searchByWalk (Nat.le_of_ble_eq_true rfl) (Nat.le_of_ble_eq_true rfl) rfl (Nat.le_of_ble_eq_true rfl) dL_law_1976 1979 rfl rfl hen_i (kk_i (fun x202 m66 k1 n1 => ?_)) (kx_n he_i)
        refine s_istore C (Nat.le_of_ble_eq_true rfl) [0, 1, 2, 3, 4, 5] rfl rfl dL_law_1979 1981 rfl ?_
        refine s_aload_n C rfl 4 rfl dL_law_1981 1982 rfl ?_
        refine x_ck (fun hb_ hb0_ => ?_)
        refine x_callV (enc := en_i) C 10 0 [] 4 (ctX4_thrown C.2.2.2.2.2.2.2.2.1 N m66 v2) hb_ hb0_ rfl rfl q3358 q3359 q3360 q93 q3361 hdX4_thrown (Nat.le_of_ble_eq_true rfl) (Nat.le_of_ble_eq_true rfl) rfl (Nat.le_of_ble_eq_true rfl) dL_law_1982 1985 rfl rfl hen_i (kk_i (fun x203 m67 k1 n1 => ?_)) (kx_n he_i)
        refine s_iload C 1 rfl dL_law_1985 1987 rfl ?_
        refine s_icmp_eq C dL_law_1987 1992 rfl 1990 rfl (fun c_ => ?_) (fun c_ => ?_)
        · refine s_iload C 1 rfl dL_law_1992 1994 rfl ?_
          refine s_if_ne C dL_law_1994 2009 rfl 1997 rfl (fun c_ => ?_) (fun c_ => ?_)
          · refine s_aload_n C rfl 5 rfl dL_law_1997 1998 rfl ?_
            refine s_iconst C 0 rfl dL_law_1998 1999 rfl ?_
            refine x_aj3 C 203 rfl dL_law_1999 2000 rfl (fun x204 => ?_)
            refine s_iload C 0 rfl dL_law_2000 2002 rfl ?_
            refine s_i2l C dL_law_2002 2003 rfl ?_
            refine s_lcmp C dL_law_2003 2004 rfl ?_
            refine s_if_eq C dL_law_2004 2009 rfl 2007 rfl (fun c_ => ?_) (fun c_ => ?_)
            · refine Sm_sub [2, 3, 4, 5, 6] rfl ?_
              exact wL_law_b2009 C hret h0 hin N (fun m v0 v1 v2 v3 v4 k n => ih m v0 v1 v2 v3 v4 k n) _ _ _ _ _ _ _ _
            · refine s_iconst C 0 rfl dL_law_2007 2008 rfl ?_
              exact x_zret0 C hret (by decide) rfl dL_law_2008
          · refine Sm_sub [2, 3, 4, 5, 6] rfl ?_
            exact wL_law_b2009 C hret h0 hin N (fun m v0 v1 v2 v3 v4 k n => ih m v0 v1 v2 v3 v4 k n) _ _ _ _ _ _ _ _
        · refine s_iconst C 0 rfl dL_law_1990 1991 rfl ?_
          exact x_zret0 C hret (by decide) rfl dL_law_1991
      refine x_tj C dL_law_40 25 (by decide) (by decide) 1972 rfl 2012 (by decide) ?_ ?_
      · refine s_aload_n C rfl 1 rfl dL_law_2012 2013 rfl ?_
        refine s_aload_n C rfl 0 rfl dL_law_2013 2014 rfl ?_
        refine s_iload C 4 rfl dL_law_2014 2016 rfl ?_
        refine s_iconst C 1 rfl dL_law_2016 2017 rfl ?_
        refine s_iadd C dL_law_2017 2018 rfl ?_
        refine x_ai0 C 200 rfl dL_law_2018 2019 rfl (fun x205 => ?_)
        refine s_aload_n C rfl 0 rfl dL_law_2019 2020 rfl ?_
        refine s_iload C 4 rfl dL_law_2020 2022 rfl ?_
        refine s_iconst C 2 rfl dL_law_2022 2023 rfl ?_
        refine s_iadd C dL_law_2023 2024 rfl ?_
        refine x_ai0 C 200 rfl dL_law_2024 2025 rfl (fun x206 => ?_)
        refine s_aload_n C rfl 0 rfl dL_law_2025 2026 rfl ?_
        refine s_iload C 4 rfl dL_law_2026 2028 rfl ?_
        refine s_iconst C 3 rfl dL_law_2028 2029 rfl ?_
        refine s_iadd C dL_law_2029 2030 rfl ?_
        refine x_ai0 C 200 rfl dL_law_2030 2031 rfl (fun x207 => ?_)
        refine s_aload_n C rfl 3 rfl dL_law_2031 2032 rfl ?_
        refine x_callSW (enc := en_i) C 39 5 [vr_ v1, vi_ x205, vi_ x206, vi_ x207, vr_ v3] (ctX0_follow C.2.2.2.2.2.2.2.2.1 N m v1 x205 x206 x207 v3) q2836 q2837 q80 q2838 hdX0_follow (Nat.le_of_ble_eq_true rfl) (Nat.le_of_ble_eq_true rfl) rfl (Nat.le_of_ble_eq_true rfl) dL_law_2032 2035 rfl rfl hen_i (kk_i (fun x208 m68 k1 n1 => ?_)) (kx_n he_i)
        refine s_istore C (Nat.le_of_ble_eq_true rfl) [0, 1, 2, 3, 4] rfl rfl dL_law_2035 2037 rfl ?_
        refine s_aload_n C rfl 3 rfl dL_law_2037 2038 rfl ?_
        refine s_aload_n C rfl 1 rfl dL_law_2038 2039 rfl ?_
        refine s_iload C 5 rfl dL_law_2039 2041 rfl ?_
        refine s_iconst C 1 rfl dL_law_2041 2042 rfl ?_
        refine s_iadd C dL_law_2042 2043 rfl ?_
        refine x_ai0 C 200 rfl dL_law_2043 2044 rfl (fun x209 => ?_)
        refine s_aload_n C rfl 1 rfl dL_law_2044 2045 rfl ?_
        refine s_iload C 5 rfl dL_law_2045 2047 rfl ?_
        refine s_iconst C 2 rfl dL_law_2047 2048 rfl ?_
        refine s_iadd C dL_law_2048 2049 rfl ?_
        refine x_ai0 C 200 rfl dL_law_2049 2050 rfl (fun x210 => ?_)
        refine s_aload_n C rfl 1 rfl dL_law_2050 2051 rfl ?_
        refine s_iload C 5 rfl dL_law_2051 2053 rfl ?_
        refine s_iconst C 3 rfl dL_law_2053 2054 rfl ?_
        refine s_iadd C dL_law_2054 2055 rfl ?_
        refine x_ai0 C 200 rfl dL_law_2055 2056 rfl (fun x211 => ?_)
        refine x_ck (fun hb_ hb0_ => ?_)
        refine x_callV (enc := en_i) C 17 3 [vi_ x209, vi_ x210, vi_ x211] 4 (ctX4_follow C.2.2.2.2.2.2.2.2.1 N m68 v2 x209 x210 x211) hb_ hb0_ rfl rfl q3631 q3632 q3633 q93 q3634 hdX4_follow (Nat.le_of_ble_eq_true rfl) (Nat.le_of_ble_eq_true rfl) rfl (Nat.le_of_ble_eq_true rfl) dL_law_2056 2059 rfl rfl hen_i (kk_i (fun x212 m69 k1 n1 => ?_)) (kx_n he_i)
        refine s_istore C (Nat.le_of_ble_eq_true rfl) [0, 1, 2, 3, 4, 5] rfl rfl dL_law_2059 2061 rfl ?_
        refine s_aload_n C rfl 4 rfl dL_law_2061 2062 rfl ?_
        refine x_ck (fun hb_ hb0_ => ?_)
        refine x_callV (enc := en_i) C 10 0 [] 4 (ctX4_thrown C.2.2.2.2.2.2.2.2.1 N m69 v2) hb_ hb0_ rfl rfl q3358 q3359 q3360 q93 q3361 hdX4_thrown (Nat.le_of_ble_eq_true rfl) (Nat.le_of_ble_eq_true rfl) rfl (Nat.le_of_ble_eq_true rfl) dL_law_2062 2065 rfl rfl hen_i (kk_i (fun x213 m70 k1 n1 => ?_)) (kx_n he_i)
        refine s_iload C 1 rfl dL_law_2065 2067 rfl ?_
        refine s_icmp_eq C dL_law_2067 2072 rfl 2070 rfl (fun c_ => ?_) (fun c_ => ?_)
        · refine s_iload C 1 rfl dL_law_2072 2074 rfl ?_
          refine s_if_ne C dL_law_2074 2089 rfl 2077 rfl (fun c_ => ?_) (fun c_ => ?_)
          · refine s_aload_n C rfl 5 rfl dL_law_2077 2078 rfl ?_
            refine s_iconst C 0 rfl dL_law_2078 2079 rfl ?_
            refine x_aj3 C 203 rfl dL_law_2079 2080 rfl (fun x214 => ?_)
            refine s_iload C 0 rfl dL_law_2080 2082 rfl ?_
            refine s_i2l C dL_law_2082 2083 rfl ?_
            refine s_lcmp C dL_law_2083 2084 rfl ?_
            refine s_if_eq C dL_law_2084 2089 rfl 2087 rfl (fun c_ => ?_) (fun c_ => ?_)
            · refine Sm_sub [2, 3, 4, 5, 6] rfl ?_
              exact wL_law_b2089 C hret h0 hin N (fun m v0 v1 v2 v3 v4 k n => ih m v0 v1 v2 v3 v4 k n) _ _ _ _ _ _ _ _
            · refine s_iconst C 0 rfl dL_law_2087 2088 rfl ?_
              exact x_zret0 C hret (by decide) rfl dL_law_2088
          · refine Sm_sub [2, 3, 4, 5, 6] rfl ?_
            exact wL_law_b2089 C hret h0 hin N (fun m v0 v1 v2 v3 v4 k n => ih m v0 v1 v2 v3 v4 k n) _ _ _ _ _ _ _ _
        · refine s_iconst C 0 rfl dL_law_2070 2071 rfl ?_
          exact x_zret0 C hret (by decide) rfl dL_law_2071
      refine x_tj C dL_law_40 26 (by decide) (by decide) 2052 rfl 2092 (by decide) ?_ ?_
      · refine s_aload_n C rfl 1 rfl dL_law_2092 2093 rfl ?_
        refine s_aload_n C rfl 0 rfl dL_law_2093 2094 rfl ?_
        refine s_iload C 4 rfl dL_law_2094 2096 rfl ?_
        refine s_iconst C 1 rfl dL_law_2096 2097 rfl ?_
        refine s_iadd C dL_law_2097 2098 rfl ?_
        refine x_ai0 C 200 rfl dL_law_2098 2099 rfl (fun x215 => ?_)
        refine s_aload_n C rfl 3 rfl dL_law_2099 2100 rfl ?_
        refine x_callSW (enc := en_i) C 18 3 [vr_ v1, vi_ x215, vr_ v3] (ctX0_found C.2.2.2.2.2.2.2.2.1 N m v1 x215 v3) q2901 q2902 q80 q2903 hdX0_found (Nat.le_of_ble_eq_true rfl) (Nat.le_of_ble_eq_true rfl) rfl (Nat.le_of_ble_eq_true rfl) dL_law_2100 2103 rfl rfl hen_i (kk_i (fun x216 m71 k1 n1 => ?_)) (kx_n he_i)
        refine s_istore C (Nat.le_of_ble_eq_true rfl) [0, 1, 2, 3, 4] rfl rfl dL_law_2103 2105 rfl ?_
        refine s_aload_n C rfl 3 rfl dL_law_2105 2106 rfl ?_
        refine s_aload_n C rfl 1 rfl dL_law_2106 2107 rfl ?_
        refine s_iload C 5 rfl dL_law_2107 2109 rfl ?_
        refine s_iconst C 1 rfl dL_law_2109 2110 rfl ?_
        refine s_iadd C dL_law_2110 2111 rfl ?_
        refine x_ai0 C 200 rfl dL_law_2111 2112 rfl (fun x217 => ?_)
        refine x_ck (fun hb_ hb0_ => ?_)
        refine x_callV (enc := en_i) C 11 1 [vi_ x217] 4 (ctX4_found C.2.2.2.2.2.2.2.2.1 N m71 v2 x217) hb_ hb0_ rfl rfl q3647 q3648 q3649 q93 q3650 hdX4_found (Nat.le_of_ble_eq_true rfl) (Nat.le_of_ble_eq_true rfl) rfl (Nat.le_of_ble_eq_true rfl) dL_law_2112 2115 rfl rfl hen_i (kk_i (fun x218 m72 k1 n1 => ?_)) (kx_n he_i)
        refine s_istore C (Nat.le_of_ble_eq_true rfl) [0, 1, 2, 3, 4, 5] rfl rfl dL_law_2115 2117 rfl ?_
        refine s_aload_n C rfl 4 rfl dL_law_2117 2118 rfl ?_
        refine x_ck (fun hb_ hb0_ => ?_)
        refine x_callV (enc := en_i) C 10 0 [] 4 (ctX4_thrown C.2.2.2.2.2.2.2.2.1 N m72 v2) hb_ hb0_ rfl rfl q3358 q3359 q3360 q93 q3361 hdX4_thrown (Nat.le_of_ble_eq_true rfl) (Nat.le_of_ble_eq_true rfl) rfl (Nat.le_of_ble_eq_true rfl) dL_law_2118 2121 rfl rfl hen_i (kk_i (fun x219 m73 k1 n1 => ?_)) (kx_n he_i)
        refine s_iload C 1 rfl dL_law_2121 2123 rfl ?_
        refine s_icmp_eq C dL_law_2123 2128 rfl 2126 rfl (fun c_ => ?_) (fun c_ => ?_)
        · refine s_iload C 1 rfl dL_law_2128 2130 rfl ?_
          refine s_if_ne C dL_law_2130 2145 rfl 2133 rfl (fun c_ => ?_) (fun c_ => ?_)
          · refine s_aload_n C rfl 5 rfl dL_law_2133 2134 rfl ?_
            refine s_iconst C 0 rfl dL_law_2134 2135 rfl ?_
            refine x_aj3 C 203 rfl dL_law_2135 2136 rfl (fun x220 => ?_)
            refine s_iload C 0 rfl dL_law_2136 2138 rfl ?_
            refine s_i2l C dL_law_2138 2139 rfl ?_
            refine s_lcmp C dL_law_2139 2140 rfl ?_
            refine s_if_eq C dL_law_2140 2145 rfl 2143 rfl (fun c_ => ?_) (fun c_ => ?_)
            · refine Sm_sub [2, 3, 4, 5, 6] rfl ?_
              exact wL_law_b2145 C hret h0 hin N (fun m v0 v1 v2 v3 v4 k n => ih m v0 v1 v2 v3 v4 k n) _ _ _ _ _ _ _ _
            · refine s_iconst C 0 rfl dL_law_2143 2144 rfl ?_
              exact x_zret0 C hret (by decide) rfl dL_law_2144
          · refine Sm_sub [2, 3, 4, 5, 6] rfl ?_
            exact wL_law_b2145 C hret h0 hin N (fun m v0 v1 v2 v3 v4 k n => ih m v0 v1 v2 v3 v4 k n) _ _ _ _ _ _ _ _
        · refine s_iconst C 0 rfl dL_law_2126 2127 rfl ?_
          exact x_zret0 C hret (by decide) rfl dL_law_2127
      refine x_tj C dL_law_40 27 (by decide) (by decide) 2108 rfl 2148 (by decide) ?_ ?_
      · refine s_aload_n C rfl 1 rfl dL_law_2148 2149 rfl ?_
        refine s_aload_n C rfl 0 rfl dL_law_2149 2150 rfl ?_
        refine s_iload C 4 rfl dL_law_2150 2152 rfl ?_
        refine s_iconst C 1 rfl dL_law_2152 2153 rfl ?_
        refine s_iadd C dL_law_2153 2154 rfl ?_
        refine x_ai0 C 200 rfl dL_law_2154 2155 rfl (fun x221 => ?_)
        refine s_aload_n C rfl 3 rfl dL_law_2155 2156 rfl ?_
        refine x_callSW (enc := en_i) C 19 3 [vr_ v1, vi_ x221, vr_ v3] (ctX0_live C.2.2.2.2.2.2.2.2.1 N m v1 x221 v3) q2909 q2910 q80 q2911 hdX0_live (Nat.le_of_ble_eq_true rfl) (Nat.le_of_ble_eq_true rfl) rfl (Nat.le_of_ble_eq_true rfl) dL_law_2156 2159 rfl rfl hen_i (kk_i (fun x222 m74 k1 n1 => ?_)) (kx_n he_i)
        refine s_istore C (Nat.le_of_ble_eq_true rfl) [0, 1, 2, 3, 4] rfl rfl dL_law_2159 2161 rfl ?_
        refine s_aload_n C rfl 3 rfl dL_law_2161 2162 rfl ?_
        refine s_aload_n C rfl 1 rfl dL_law_2162 2163 rfl ?_
        refine s_iload C 5 rfl dL_law_2163 2165 rfl ?_
        refine s_iconst C 1 rfl dL_law_2165 2166 rfl ?_
        refine s_iadd C dL_law_2166 2167 rfl ?_
        refine x_ai0 C 200 rfl dL_law_2167 2168 rfl (fun x223 => ?_)
        refine x_ck (fun hb_ hb0_ => ?_)
        refine x_callV (enc := en_i) C 15 1 [vi_ x223] 4 (ctX4_live C.2.2.2.2.2.2.2.2.1 N m74 v2 x223) hb_ hb0_ rfl rfl q3651 q3652 q3653 q93 q3654 hdX4_live (Nat.le_of_ble_eq_true rfl) (Nat.le_of_ble_eq_true rfl) rfl (Nat.le_of_ble_eq_true rfl) dL_law_2168 2171 rfl rfl hen_i (kk_i (fun x224 m75 k1 n1 => ?_)) (kx_n he_i)
        refine s_istore C (Nat.le_of_ble_eq_true rfl) [0, 1, 2, 3, 4, 5] rfl rfl dL_law_2171 2173 rfl ?_
        refine s_aload_n C rfl 4 rfl dL_law_2173 2174 rfl ?_
        refine x_ck (fun hb_ hb0_ => ?_)
        refine x_callV (enc := en_i) C 10 0 [] 4 (ctX4_thrown C.2.2.2.2.2.2.2.2.1 N m75 v2) hb_ hb0_ rfl rfl q3358 q3359 q3360 q93 q3361 hdX4_thrown (Nat.le_of_ble_eq_true rfl) (Nat.le_of_ble_eq_true rfl) rfl (Nat.le_of_ble_eq_true rfl) dL_law_2174 2177 rfl rfl hen_i (kk_i (fun x225 m76 k1 n1 => ?_)) (kx_n he_i)
        refine s_iload C 1 rfl dL_law_2177 2179 rfl ?_
        refine s_icmp_eq C dL_law_2179 2184 rfl 2182 rfl (fun c_ => ?_) (fun c_ => ?_)
        · refine s_iload C 1 rfl dL_law_2184 2186 rfl ?_
          refine s_if_ne C dL_law_2186 2201 rfl 2189 rfl (fun c_ => ?_) (fun c_ => ?_)
          · refine s_aload_n C rfl 5 rfl dL_law_2189 2190 rfl ?_
            refine s_iconst C 0 rfl dL_law_2190 2191 rfl ?_
            refine x_aj3 C 203 rfl dL_law_2191 2192 rfl (fun x226 => ?_)
            refine s_iload C 0 rfl dL_law_2192 2194 rfl ?_
            refine s_i2l C dL_law_2194 2195 rfl ?_
            refine s_lcmp C dL_law_2195 2196 rfl ?_
            refine s_if_eq C dL_law_2196 2201 rfl 2199 rfl (fun c_ => ?_) (fun c_ => ?_)
            · refine Sm_sub [2, 3, 4, 5, 6] rfl ?_
              exact wL_law_b2201 C hret h0 hin N (fun m v0 v1 v2 v3 v4 k n => ih m v0 v1 v2 v3 v4 k n) _ _ _ _ _ _ _ _
            · refine s_iconst C 0 rfl dL_law_2199 2200 rfl ?_
              exact x_zret0 C hret (by decide) rfl dL_law_2200
          · refine Sm_sub [2, 3, 4, 5, 6] rfl ?_
            exact wL_law_b2201 C hret h0 hin N (fun m v0 v1 v2 v3 v4 k n => ih m v0 v1 v2 v3 v4 k n) _ _ _ _ _ _ _ _
        · refine s_iconst C 0 rfl dL_law_2182 2183 rfl ?_
          exact x_zret0 C hret (by decide) rfl dL_law_2183
      refine x_tj C dL_law_40 28 (by decide) (by decide) 2164 rfl 2204 (by decide) ?_ ?_
      · refine s_aload_n C rfl 1 rfl dL_law_2204 2205 rfl ?_
        refine s_aload_n C rfl 0 rfl dL_law_2205 2206 rfl ?_
        refine s_iload C 4 rfl dL_law_2206 2208 rfl ?_
        refine s_iconst C 1 rfl dL_law_2208 2209 rfl ?_
        refine s_iadd C dL_law_2209 2210 rfl ?_
        refine x_ai0 C 200 rfl dL_law_2210 2211 rfl (fun x227 => ?_)
        refine s_aload_n C rfl 0 rfl dL_law_2211 2212 rfl ?_
        refine s_iload C 4 rfl dL_law_2212 2214 rfl ?_
        refine s_iconst C 2 rfl dL_law_2214 2215 rfl ?_
        refine s_iadd C dL_law_2215 2216 rfl ?_
        refine x_ai0 C 200 rfl dL_law_2216 2217 rfl (fun x228 => ?_)
        refine s_aload_n C rfl 3 rfl dL_law_2217 2218 rfl ?_
        refine x_callSW (enc := en_i) C 19 4 [vr_ v1, vi_ x227, vi_ x228, vr_ v3] (ctX0_parentOf C.2.2.2.2.2.2.2.2.1 N m v1 x227 x228 v3) q2917 q2918 q80 q2919 hdX0_parentOf (Nat.le_of_ble_eq_true rfl) (Nat.le_of_ble_eq_true rfl) rfl (Nat.le_of_ble_eq_true rfl) dL_law_2218 2221 rfl rfl hen_i (kk_i (fun x229 m77 k1 n1 => ?_)) (kx_n he_i)
        refine s_istore C (Nat.le_of_ble_eq_true rfl) [0, 1, 2, 3, 4] rfl rfl dL_law_2221 2223 rfl ?_
        refine s_aload_n C rfl 3 rfl dL_law_2223 2224 rfl ?_
        refine s_aload_n C rfl 1 rfl dL_law_2224 2225 rfl ?_
        refine s_iload C 5 rfl dL_law_2225 2227 rfl ?_
        refine s_iconst C 1 rfl dL_law_2227 2228 rfl ?_
        refine s_iadd C dL_law_2228 2229 rfl ?_
        refine x_ai0 C 200 rfl dL_law_2229 2230 rfl (fun x230 => ?_)
        refine s_aload_n C rfl 1 rfl dL_law_2230 2231 rfl ?_
        refine s_iload C 5 rfl dL_law_2231 2233 rfl ?_
        refine s_iconst C 2 rfl dL_law_2233 2234 rfl ?_
        refine s_iadd C dL_law_2234 2235 rfl ?_
        refine x_ai0 C 200 rfl dL_law_2235 2236 rfl (fun x231 => ?_)
        refine x_ck (fun hb_ hb0_ => ?_)
        refine x_callV (enc := en_i) C 16 2 [vi_ x230, vi_ x231] 4 (ctX4_parentOf C.2.2.2.2.2.2.2.2.1 N m77 v2 x230 x231) hb_ hb0_ rfl rfl q3655 q3656 q3657 q93 q3658 hdX4_parentOf (Nat.le_of_ble_eq_true rfl) (Nat.le_of_ble_eq_true rfl) rfl (Nat.le_of_ble_eq_true rfl) dL_law_2236 2239 rfl rfl hen_i (kk_i (fun x232 m78 k1 n1 => ?_)) (kx_n he_i)
        refine s_istore C (Nat.le_of_ble_eq_true rfl) [0, 1, 2, 3, 4, 5] rfl rfl dL_law_2239 2241 rfl ?_
        refine s_aload_n C rfl 4 rfl dL_law_2241 2242 rfl ?_
        refine x_ck (fun hb_ hb0_ => ?_)
        refine x_callV (enc := en_i) C 10 0 [] 4 (ctX4_thrown C.2.2.2.2.2.2.2.2.1 N m78 v2) hb_ hb0_ rfl rfl q3358 q3359 q3360 q93 q3361 hdX4_thrown (Nat.le_of_ble_eq_true rfl) (Nat.le_of_ble_eq_true rfl) rfl (Nat.le_of_ble_eq_true rfl) dL_law_2242 2245 rfl rfl hen_i (kk_i (fun x233 m79 k1 n1 => ?_)) (kx_n he_i)
        refine s_iload C 1 rfl dL_law_2245 2247 rfl ?_
        refine s_icmp_eq C dL_law_2247 2252 rfl 2250 rfl (fun c_ => ?_) (fun c_ => ?_)
        · refine s_iload C 1 rfl dL_law_2252 2254 rfl ?_
          refine s_if_ne C dL_law_2254 2269 rfl 2257 rfl (fun c_ => ?_) (fun c_ => ?_)
          · refine s_aload_n C rfl 5 rfl dL_law_2257 2258 rfl ?_
            refine s_iconst C 0 rfl dL_law_2258 2259 rfl ?_
            refine x_aj3 C 203 rfl dL_law_2259 2260 rfl (fun x234 => ?_)
            refine s_iload C 0 rfl dL_law_2260 2262 rfl ?_
            refine s_i2l C dL_law_2262 2263 rfl ?_
            refine s_lcmp C dL_law_2263 2264 rfl ?_
            refine s_if_eq C dL_law_2264 2269 rfl 2267 rfl (fun c_ => ?_) (fun c_ => ?_)
            · refine Sm_sub [2, 3, 4, 5, 6] rfl ?_
              exact wL_law_b2269 C hret h0 hin N (fun m v0 v1 v2 v3 v4 k n => ih m v0 v1 v2 v3 v4 k n) _ _ _ _ _ _ _ _
            · refine s_iconst C 0 rfl dL_law_2267 2268 rfl ?_
              exact x_zret0 C hret (by decide) rfl dL_law_2268
          · refine Sm_sub [2, 3, 4, 5, 6] rfl ?_
            exact wL_law_b2269 C hret h0 hin N (fun m v0 v1 v2 v3 v4 k n => ih m v0 v1 v2 v3 v4 k n) _ _ _ _ _ _ _ _
        · refine s_iconst C 0 rfl dL_law_2250 2251 rfl ?_
          exact x_zret0 C hret (by decide) rfl dL_law_2251
      refine x_tj C dL_law_40 29 (by decide) (by decide) 2232 rfl 2272 (by decide) ?_ ?_
      · refine s_aload_n C rfl 1 rfl dL_law_2272 2273 rfl ?_
        refine s_aload_n C rfl 0 rfl dL_law_2273 2274 rfl ?_
        refine s_iload C 4 rfl dL_law_2274 2276 rfl ?_
        refine s_iconst C 1 rfl dL_law_2276 2277 rfl ?_
        refine s_iadd C dL_law_2277 2278 rfl ?_
        refine x_ai0 C 200 rfl dL_law_2278 2279 rfl (fun x235 => ?_)
        refine s_aload_n C rfl 0 rfl dL_law_2279 2280 rfl ?_
        refine s_iload C 4 rfl dL_law_2280 2282 rfl ?_
        refine s_iconst C 2 rfl dL_law_2282 2283 rfl ?_
        refine s_iadd C dL_law_2283 2284 rfl ?_
        refine x_ai0 C 200 rfl dL_law_2284 2285 rfl (fun x236 => ?_)
        refine s_aload_n C rfl 3 rfl dL_law_2285 2286 rfl ?_
        refine x_callSW (enc := en_i) C 23 4 [vr_ v1, vi_ x235, vi_ x236, vr_ v3] (ctX0_parentAnew C.2.2.2.2.2.2.2.2.1 N m v1 x235 x236 v3) q2924 q2925 q80 q2926 hdX0_parentAnew (Nat.le_of_ble_eq_true rfl) (Nat.le_of_ble_eq_true rfl) rfl (Nat.le_of_ble_eq_true rfl) dL_law_2286 2289 rfl rfl hen_i (kk_i (fun x237 m80 k1 n1 => ?_)) (kx_n he_i)
        refine s_istore C (Nat.le_of_ble_eq_true rfl) [0, 1, 2, 3, 4] rfl rfl dL_law_2289 2291 rfl ?_
        refine s_aload_n C rfl 3 rfl dL_law_2291 2292 rfl ?_
        refine s_aload_n C rfl 1 rfl dL_law_2292 2293 rfl ?_
        refine s_iload C 5 rfl dL_law_2293 2295 rfl ?_
        refine s_iconst C 1 rfl dL_law_2295 2296 rfl ?_
        refine s_iadd C dL_law_2296 2297 rfl ?_
        refine x_ai0 C 200 rfl dL_law_2297 2298 rfl (fun x238 => ?_)
        refine s_aload_n C rfl 1 rfl dL_law_2298 2299 rfl ?_
        refine s_iload C 5 rfl dL_law_2299 2301 rfl ?_
        refine s_iconst C 2 rfl dL_law_2301 2302 rfl ?_
        refine s_iadd C dL_law_2302 2303 rfl ?_
        refine x_ai0 C 200 rfl dL_law_2303 2304 rfl (fun x239 => ?_)
        refine x_ck (fun hb_ hb0_ => ?_)
        refine x_callV (enc := en_i) C 16 2 [vi_ x238, vi_ x239] 4 (ctX4_parentAnew C.2.2.2.2.2.2.2.2.1 N m80 v2 x238 x239) hb_ hb0_ rfl rfl q3659 q3660 q3661 q93 q3662 hdX4_parentAnew (Nat.le_of_ble_eq_true rfl) (Nat.le_of_ble_eq_true rfl) rfl (Nat.le_of_ble_eq_true rfl) dL_law_2304 2307 rfl rfl hen_i (kk_i (fun x240 m81 k1 n1 => ?_)) (kx_n he_i)
        refine s_istore C (Nat.le_of_ble_eq_true rfl) [0, 1, 2, 3, 4, 5] rfl rfl dL_law_2307 2309 rfl ?_
        refine s_aload_n C rfl 4 rfl dL_law_2309 2310 rfl ?_
        refine x_ck (fun hb_ hb0_ => ?_)
        refine x_callV (enc := en_i) C 10 0 [] 4 (ctX4_thrown C.2.2.2.2.2.2.2.2.1 N m81 v2) hb_ hb0_ rfl rfl q3358 q3359 q3360 q93 q3361 hdX4_thrown (Nat.le_of_ble_eq_true rfl) (Nat.le_of_ble_eq_true rfl) rfl (Nat.le_of_ble_eq_true rfl) dL_law_2310 2313 rfl rfl hen_i (kk_i (fun x241 m82 k1 n1 => ?_)) (kx_n he_i)
        refine s_iload C 1 rfl dL_law_2313 2315 rfl ?_
        refine s_icmp_eq C dL_law_2315 2320 rfl 2318 rfl (fun c_ => ?_) (fun c_ => ?_)
        · refine s_iload C 1 rfl dL_law_2320 2322 rfl ?_
          refine s_if_ne C dL_law_2322 2337 rfl 2325 rfl (fun c_ => ?_) (fun c_ => ?_)
          · refine s_aload_n C rfl 5 rfl dL_law_2325 2326 rfl ?_
            refine s_iconst C 0 rfl dL_law_2326 2327 rfl ?_
            refine x_aj3 C 203 rfl dL_law_2327 2328 rfl (fun x242 => ?_)
            refine s_iload C 0 rfl dL_law_2328 2330 rfl ?_
            refine s_i2l C dL_law_2330 2331 rfl ?_
            refine s_lcmp C dL_law_2331 2332 rfl ?_
            refine s_if_eq C dL_law_2332 2337 rfl 2335 rfl (fun c_ => ?_) (fun c_ => ?_)
            · refine Sm_sub [2, 3, 4, 5, 6] rfl ?_
              exact wL_law_b2337 C hret h0 hin N (fun m v0 v1 v2 v3 v4 k n => ih m v0 v1 v2 v3 v4 k n) _ _ _ _ _ _ _ _
            · refine s_iconst C 0 rfl dL_law_2335 2336 rfl ?_
              exact x_zret0 C hret (by decide) rfl dL_law_2336
          · refine Sm_sub [2, 3, 4, 5, 6] rfl ?_
            exact wL_law_b2337 C hret h0 hin N (fun m v0 v1 v2 v3 v4 k n => ih m v0 v1 v2 v3 v4 k n) _ _ _ _ _ _ _ _
        · refine s_iconst C 0 rfl dL_law_2318 2319 rfl ?_
          exact x_zret0 C hret (by decide) rfl dL_law_2319
      refine x_tj C dL_law_40 30 (by decide) (by decide) 2300 rfl 2340 (by decide) ?_ ?_
      · refine s_aload_n C rfl 1 rfl dL_law_2340 2341 rfl ?_
        refine s_aload_n C rfl 0 rfl dL_law_2341 2342 rfl ?_
        refine s_iload C 4 rfl dL_law_2342 2344 rfl ?_
        refine s_iconst C 1 rfl dL_law_2344 2345 rfl ?_
        refine s_iadd C dL_law_2345 2346 rfl ?_
        refine x_ai0 C 200 rfl dL_law_2346 2347 rfl (fun x243 => ?_)
        refine s_aload_n C rfl 0 rfl dL_law_2347 2348 rfl ?_
        refine s_iload C 4 rfl dL_law_2348 2350 rfl ?_
        refine s_iconst C 2 rfl dL_law_2350 2351 rfl ?_
        refine s_iadd C dL_law_2351 2352 rfl ?_
        refine x_ai0 C 200 rfl dL_law_2352 2353 rfl (fun x244 => ?_)
        refine s_aload_n C rfl 3 rfl dL_law_2353 2354 rfl ?_
        refine x_callSW (enc := en_i) C 19 4 [vr_ v1, vi_ x243, vi_ x244, vr_ v3] (ctX0_nameOf C.2.2.2.2.2.2.2.2.1 N m v1 x243 x244 v3) q2939 q2940 q80 q2941 hdX0_nameOf (Nat.le_of_ble_eq_true rfl) (Nat.le_of_ble_eq_true rfl) rfl (Nat.le_of_ble_eq_true rfl) dL_law_2354 2357 rfl rfl hen_i (kk_i (fun x245 m83 k1 n1 => ?_)) (kx_n he_i)
        refine s_istore C (Nat.le_of_ble_eq_true rfl) [0, 1, 2, 3, 4] rfl rfl dL_law_2357 2359 rfl ?_
        refine s_aload_n C rfl 3 rfl dL_law_2359 2360 rfl ?_
        refine s_aload_n C rfl 1 rfl dL_law_2360 2361 rfl ?_
        refine s_iload C 5 rfl dL_law_2361 2363 rfl ?_
        refine s_iconst C 1 rfl dL_law_2363 2364 rfl ?_
        refine s_iadd C dL_law_2364 2365 rfl ?_
        refine x_ai0 C 200 rfl dL_law_2365 2366 rfl (fun x246 => ?_)
        refine s_aload_n C rfl 1 rfl dL_law_2366 2367 rfl ?_
        refine s_iload C 5 rfl dL_law_2367 2369 rfl ?_
        refine s_iconst C 2 rfl dL_law_2369 2370 rfl ?_
        refine s_iadd C dL_law_2370 2371 rfl ?_
        refine x_ai0 C 200 rfl dL_law_2371 2372 rfl (fun x247 => ?_)
        refine x_ck (fun hb_ hb0_ => ?_)
        refine x_callV (enc := en_i) C 16 2 [vi_ x246, vi_ x247] 4 (ctX4_nameOf C.2.2.2.2.2.2.2.2.1 N m83 v2 x246 x247) hb_ hb0_ rfl rfl q3663 q3664 q3665 q93 q3666 hdX4_nameOf (Nat.le_of_ble_eq_true rfl) (Nat.le_of_ble_eq_true rfl) rfl (Nat.le_of_ble_eq_true rfl) dL_law_2372 2375 rfl rfl hen_i (kk_i (fun x248 m84 k1 n1 => ?_)) (kx_n he_i)
        refine s_istore C (Nat.le_of_ble_eq_true rfl) [0, 1, 2, 3, 4, 5] rfl rfl dL_law_2375 2377 rfl ?_
        refine s_aload_n C rfl 4 rfl dL_law_2377 2378 rfl ?_
        refine x_ck (fun hb_ hb0_ => ?_)
        refine x_callV (enc := en_i) C 10 0 [] 4 (ctX4_thrown C.2.2.2.2.2.2.2.2.1 N m84 v2) hb_ hb0_ rfl rfl q3358 q3359 q3360 q93 q3361 hdX4_thrown (Nat.le_of_ble_eq_true rfl) (Nat.le_of_ble_eq_true rfl) rfl (Nat.le_of_ble_eq_true rfl) dL_law_2378 2381 rfl rfl hen_i (kk_i (fun x249 m85 k1 n1 => ?_)) (kx_n he_i)
        refine s_iload C 1 rfl dL_law_2381 2383 rfl ?_
        refine s_icmp_eq C dL_law_2383 2388 rfl 2386 rfl (fun c_ => ?_) (fun c_ => ?_)
        · refine s_iload C 1 rfl dL_law_2388 2390 rfl ?_
          refine s_if_ne C dL_law_2390 2405 rfl 2393 rfl (fun c_ => ?_) (fun c_ => ?_)
          · refine s_aload_n C rfl 5 rfl dL_law_2393 2394 rfl ?_
            refine s_iconst C 0 rfl dL_law_2394 2395 rfl ?_
            refine x_aj3 C 203 rfl dL_law_2395 2396 rfl (fun x250 => ?_)
            refine s_iload C 0 rfl dL_law_2396 2398 rfl ?_
            refine s_i2l C dL_law_2398 2399 rfl ?_
            refine s_lcmp C dL_law_2399 2400 rfl ?_
            refine s_if_eq C dL_law_2400 2405 rfl 2403 rfl (fun c_ => ?_) (fun c_ => ?_)
            · refine Sm_sub [2, 3, 4, 5, 6] rfl ?_
              exact wL_law_b2405 C hret h0 hin N (fun m v0 v1 v2 v3 v4 k n => ih m v0 v1 v2 v3 v4 k n) _ _ _ _ _ _ _ _
            · refine s_iconst C 0 rfl dL_law_2403 2404 rfl ?_
              exact x_zret0 C hret (by decide) rfl dL_law_2404
          · refine Sm_sub [2, 3, 4, 5, 6] rfl ?_
            exact wL_law_b2405 C hret h0 hin N (fun m v0 v1 v2 v3 v4 k n => ih m v0 v1 v2 v3 v4 k n) _ _ _ _ _ _ _ _
        · refine s_iconst C 0 rfl dL_law_2386 2387 rfl ?_
          exact x_zret0 C hret (by decide) rfl dL_law_2387
      refine x_tj C dL_law_40 31 (by decide) (by decide) 2368 rfl 2408 (by decide) ?_ ?_
      · refine s_aload_n C rfl 1 rfl dL_law_2408 2409 rfl ?_
        refine s_aload_n C rfl 0 rfl dL_law_2409 2410 rfl ?_
        refine s_iload C 4 rfl dL_law_2410 2412 rfl ?_
        refine s_iconst C 1 rfl dL_law_2412 2413 rfl ?_
        refine s_iadd C dL_law_2413 2414 rfl ?_
        refine x_ai0 C 200 rfl dL_law_2414 2415 rfl (fun x251 => ?_)
        refine s_aload_n C rfl 0 rfl dL_law_2415 2416 rfl ?_
        refine s_iload C 4 rfl dL_law_2416 2418 rfl ?_
        refine s_iconst C 2 rfl dL_law_2418 2419 rfl ?_
        refine s_iadd C dL_law_2419 2420 rfl ?_
        refine x_ai0 C 200 rfl dL_law_2420 2421 rfl (fun x252 => ?_)
        refine s_aload_n C rfl 0 rfl dL_law_2421 2422 rfl ?_
        refine s_iload C 4 rfl dL_law_2422 2424 rfl ?_
        refine s_iconst C 3 rfl dL_law_2424 2425 rfl ?_
        refine s_iadd C dL_law_2425 2426 rfl ?_
        refine x_ai0 C 200 rfl dL_law_2426 2427 rfl (fun x253 => ?_)
        refine s_aload_n C rfl 0 rfl dL_law_2427 2428 rfl ?_
        refine s_iload C 4 rfl dL_law_2428 2430 rfl ?_
        refine s_iconst C 4 rfl dL_law_2430 2431 rfl ?_
        refine s_iadd C dL_law_2431 2432 rfl ?_
        refine x_ai0 C 200 rfl dL_law_2432 2433 rfl (fun x254 => ?_)
        refine s_aload_n C rfl 3 rfl dL_law_2433 2434 rfl ?_
        refine x_callSW (enc := en_i) C 20 6 [vr_ v1, vi_ x251, vi_ x252, vi_ x253, vi_ x254, vr_ v3] (ctX0_valueAt C.2.2.2.2.2.2.2.2.1 N m v1 x251 x252 x253 x254 v3) q2946 q2947 q80 q2948 hdX0_valueAt (Nat.le_of_ble_eq_true rfl) (Nat.le_of_ble_eq_true rfl) rfl (Nat.le_of_ble_eq_true rfl) dL_law_2434 2437 rfl rfl hen_i (kk_i (fun x255 m86 k1 n1 => ?_)) (kx_n he_i)
        refine s_istore C (Nat.le_of_ble_eq_true rfl) [0, 1, 2, 3, 4] rfl rfl dL_law_2437 2439 rfl ?_
        refine s_aload_n C rfl 3 rfl dL_law_2439 2440 rfl ?_
        refine s_aload_n C rfl 1 rfl dL_law_2440 2441 rfl ?_
        refine s_iload C 5 rfl dL_law_2441 2443 rfl ?_
        refine s_iconst C 1 rfl dL_law_2443 2444 rfl ?_
        refine s_iadd C dL_law_2444 2445 rfl ?_
        refine x_ai0 C 200 rfl dL_law_2445 2446 rfl (fun x256 => ?_)
        refine s_aload_n C rfl 1 rfl dL_law_2446 2447 rfl ?_
        refine s_iload C 5 rfl dL_law_2447 2449 rfl ?_
        refine s_iconst C 2 rfl dL_law_2449 2450 rfl ?_
        refine s_iadd C dL_law_2450 2451 rfl ?_
        refine x_ai0 C 200 rfl dL_law_2451 2452 rfl (fun x257 => ?_)
        refine s_aload_n C rfl 1 rfl dL_law_2452 2453 rfl ?_
        refine s_iload C 5 rfl dL_law_2453 2455 rfl ?_
        refine s_iconst C 3 rfl dL_law_2455 2456 rfl ?_
        refine s_iadd C dL_law_2456 2457 rfl ?_
        refine x_ai0 C 200 rfl dL_law_2457 2458 rfl (fun x258 => ?_)
        refine s_aload_n C rfl 1 rfl dL_law_2458 2459 rfl ?_
        refine s_iload C 5 rfl dL_law_2459 2461 rfl ?_
        refine s_iconst C 4 rfl dL_law_2461 2462 rfl ?_
        refine s_iadd C dL_law_2462 2463 rfl ?_
        refine x_ai0 C 200 rfl dL_law_2463 2464 rfl (fun x259 => ?_)
        refine x_ck (fun hb_ hb0_ => ?_)
        refine x_callV (enc := en_i) C 16 4 [vi_ x256, vi_ x257, vi_ x258, vi_ x259] 4 (ctX4_valueAt C.2.2.2.2.2.2.2.2.1 N m86 v2 x256 x257 x258 x259) hb_ hb0_ rfl rfl q3667 q3668 q3669 q93 q3670 hdX4_valueAt (Nat.le_of_ble_eq_true rfl) (Nat.le_of_ble_eq_true rfl) rfl (Nat.le_of_ble_eq_true rfl) dL_law_2464 2467 rfl rfl hen_i (kk_i (fun x260 m87 k1 n1 => ?_)) (kx_n he_i)
        refine s_istore C (Nat.le_of_ble_eq_true rfl) [0, 1, 2, 3, 4, 5] rfl rfl dL_law_2467 2469 rfl ?_
        refine s_aload_n C rfl 4 rfl dL_law_2469 2470 rfl ?_
        refine x_ck (fun hb_ hb0_ => ?_)
        refine x_callV (enc := en_i) C 10 0 [] 4 (ctX4_thrown C.2.2.2.2.2.2.2.2.1 N m87 v2) hb_ hb0_ rfl rfl q3358 q3359 q3360 q93 q3361 hdX4_thrown (Nat.le_of_ble_eq_true rfl) (Nat.le_of_ble_eq_true rfl) rfl (Nat.le_of_ble_eq_true rfl) dL_law_2470 2473 rfl rfl hen_i (kk_i (fun x261 m88 k1 n1 => ?_)) (kx_n he_i)
        refine s_iload C 1 rfl dL_law_2473 2475 rfl ?_
        refine s_icmp_eq C dL_law_2475 2480 rfl 2478 rfl (fun c_ => ?_) (fun c_ => ?_)
        · refine s_iload C 1 rfl dL_law_2480 2482 rfl ?_
          refine s_if_ne C dL_law_2482 2497 rfl 2485 rfl (fun c_ => ?_) (fun c_ => ?_)
          · refine s_aload_n C rfl 5 rfl dL_law_2485 2486 rfl ?_
            refine s_iconst C 0 rfl dL_law_2486 2487 rfl ?_
            refine x_aj3 C 203 rfl dL_law_2487 2488 rfl (fun x262 => ?_)
            refine s_iload C 0 rfl dL_law_2488 2490 rfl ?_
            refine s_i2l C dL_law_2490 2491 rfl ?_
            refine s_lcmp C dL_law_2491 2492 rfl ?_
            refine s_if_eq C dL_law_2492 2497 rfl 2495 rfl (fun c_ => ?_) (fun c_ => ?_)
            · refine Sm_sub [2, 3, 4, 5, 6] rfl ?_
              exact wL_law_b2497 C hret h0 hin N (fun m v0 v1 v2 v3 v4 k n => ih m v0 v1 v2 v3 v4 k n) _ _ _ _ _ _ _ _
            · refine s_iconst C 0 rfl dL_law_2495 2496 rfl ?_
              exact x_zret0 C hret (by decide) rfl dL_law_2496
          · refine Sm_sub [2, 3, 4, 5, 6] rfl ?_
            exact wL_law_b2497 C hret h0 hin N (fun m v0 v1 v2 v3 v4 k n => ih m v0 v1 v2 v3 v4 k n) _ _ _ _ _ _ _ _
        · refine s_iconst C 0 rfl dL_law_2478 2479 rfl ?_
          exact x_zret0 C hret (by decide) rfl dL_law_2479
      refine x_tj C dL_law_40 32 (by decide) (by decide) 2460 rfl 2500 (by decide) ?_ ?_
      · refine s_aload_n C rfl 1 rfl dL_law_2500 2501 rfl ?_
        refine s_aload_n C rfl 0 rfl dL_law_2501 2502 rfl ?_
        refine s_iload C 4 rfl dL_law_2502 2504 rfl ?_
        refine s_iconst C 1 rfl dL_law_2504 2505 rfl ?_
        refine s_iadd C dL_law_2505 2506 rfl ?_
        refine x_ai0 C 200 rfl dL_law_2506 2507 rfl (fun x263 => ?_)
        refine s_aload_n C rfl 0 rfl dL_law_2507 2508 rfl ?_
        refine s_iload C 4 rfl dL_law_2508 2510 rfl ?_
        refine s_iconst C 2 rfl dL_law_2510 2511 rfl ?_
        refine s_iadd C dL_law_2511 2512 rfl ?_
        refine x_ai0 C 200 rfl dL_law_2512 2513 rfl (fun x264 => ?_)
        refine s_aload_n C rfl 0 rfl dL_law_2513 2514 rfl ?_
        refine s_iload C 4 rfl dL_law_2514 2516 rfl ?_
        refine s_iconst C 3 rfl dL_law_2516 2517 rfl ?_
        refine s_iadd C dL_law_2517 2518 rfl ?_
        refine x_ai0 C 200 rfl dL_law_2518 2519 rfl (fun x265 => ?_)
        refine s_aload_n C rfl 3 rfl dL_law_2519 2520 rfl ?_
        refine x_callSW (enc := en_i) C 23 5 [vr_ v1, vi_ x263, vi_ x264, vi_ x265, vr_ v3] (ctX0_valuesAnew C.2.2.2.2.2.2.2.2.1 N m v1 x263 x264 x265 v3) q2966 q2967 q80 q2968 hdX0_valuesAnew (Nat.le_of_ble_eq_true rfl) (Nat.le_of_ble_eq_true rfl) rfl (Nat.le_of_ble_eq_true rfl) dL_law_2520 2523 rfl rfl hen_i (kk_i (fun x266 m89 k1 n1 => ?_)) (kx_n he_i)
        refine s_istore C (Nat.le_of_ble_eq_true rfl) [0, 1, 2, 3, 4] rfl rfl dL_law_2523 2525 rfl ?_
        refine s_aload_n C rfl 3 rfl dL_law_2525 2526 rfl ?_
        refine s_aload_n C rfl 1 rfl dL_law_2526 2527 rfl ?_
        refine s_iload C 5 rfl dL_law_2527 2529 rfl ?_
        refine s_iconst C 1 rfl dL_law_2529 2530 rfl ?_
        refine s_iadd C dL_law_2530 2531 rfl ?_
        refine x_ai0 C 200 rfl dL_law_2531 2532 rfl (fun x267 => ?_)
        refine s_aload_n C rfl 1 rfl dL_law_2532 2533 rfl ?_
        refine s_iload C 5 rfl dL_law_2533 2535 rfl ?_
        refine s_iconst C 2 rfl dL_law_2535 2536 rfl ?_
        refine s_iadd C dL_law_2536 2537 rfl ?_
        refine x_ai0 C 200 rfl dL_law_2537 2538 rfl (fun x268 => ?_)
        refine s_aload_n C rfl 1 rfl dL_law_2538 2539 rfl ?_
        refine s_iload C 5 rfl dL_law_2539 2541 rfl ?_
        refine s_iconst C 3 rfl dL_law_2541 2542 rfl ?_
        refine s_iadd C dL_law_2542 2543 rfl ?_
        refine x_ai0 C 200 rfl dL_law_2543 2544 rfl (fun x269 => ?_)
        refine x_ck (fun hb_ hb0_ => ?_)
        refine x_callV (enc := en_i) C 16 3 [vi_ x267, vi_ x268, vi_ x269] 4 (ctX4_valuesAnew C.2.2.2.2.2.2.2.2.1 N m89 v2 x267 x268 x269) hb_ hb0_ rfl rfl q3671 q3672 q3673 q93 q3674 hdX4_valuesAnew (Nat.le_of_ble_eq_true rfl) (Nat.le_of_ble_eq_true rfl) rfl (Nat.le_of_ble_eq_true rfl) dL_law_2544 2547 rfl rfl hen_i (kk_i (fun x270 m90 k1 n1 => ?_)) (kx_n he_i)
        refine s_istore C (Nat.le_of_ble_eq_true rfl) [0, 1, 2, 3, 4, 5] rfl rfl dL_law_2547 2549 rfl ?_
        refine s_aload_n C rfl 4 rfl dL_law_2549 2550 rfl ?_
        refine x_ck (fun hb_ hb0_ => ?_)
        refine x_callV (enc := en_i) C 10 0 [] 4 (ctX4_thrown C.2.2.2.2.2.2.2.2.1 N m90 v2) hb_ hb0_ rfl rfl q3358 q3359 q3360 q93 q3361 hdX4_thrown (Nat.le_of_ble_eq_true rfl) (Nat.le_of_ble_eq_true rfl) rfl (Nat.le_of_ble_eq_true rfl) dL_law_2550 2553 rfl rfl hen_i (kk_i (fun x271 m91 k1 n1 => ?_)) (kx_n he_i)
        refine s_iload C 1 rfl dL_law_2553 2555 rfl ?_
        refine s_icmp_eq C dL_law_2555 2560 rfl 2558 rfl (fun c_ => ?_) (fun c_ => ?_)
        · refine s_iload C 1 rfl dL_law_2560 2562 rfl ?_
          refine s_if_ne C dL_law_2562 2577 rfl 2565 rfl (fun c_ => ?_) (fun c_ => ?_)
          · refine s_aload_n C rfl 5 rfl dL_law_2565 2566 rfl ?_
            refine s_iconst C 0 rfl dL_law_2566 2567 rfl ?_
            refine x_aj3 C 203 rfl dL_law_2567 2568 rfl (fun x272 => ?_)
            refine s_iload C 0 rfl dL_law_2568 2570 rfl ?_
            refine s_i2l C dL_law_2570 2571 rfl ?_
            refine s_lcmp C dL_law_2571 2572 rfl ?_
            refine s_if_eq C dL_law_2572 2577 rfl 2575 rfl (fun c_ => ?_) (fun c_ => ?_)
            · refine Sm_sub [2, 3, 4, 5, 6] rfl ?_
              exact wL_law_b2577 C hret h0 hin N (fun m v0 v1 v2 v3 v4 k n => ih m v0 v1 v2 v3 v4 k n) _ _ _ _ _ _ _ _
            · refine s_iconst C 0 rfl dL_law_2575 2576 rfl ?_
              exact x_zret0 C hret (by decide) rfl dL_law_2576
          · refine Sm_sub [2, 3, 4, 5, 6] rfl ?_
            exact wL_law_b2577 C hret h0 hin N (fun m v0 v1 v2 v3 v4 k n => ih m v0 v1 v2 v3 v4 k n) _ _ _ _ _ _ _ _
        · refine s_iconst C 0 rfl dL_law_2558 2559 rfl ?_
          exact x_zret0 C hret (by decide) rfl dL_law_2559
      refine x_tj C dL_law_40 33 (by decide) (by decide) 2540 rfl 2580 (by decide) ?_ ?_
      · refine s_aload_n C rfl 1 rfl dL_law_2580 2581 rfl ?_
        refine s_aload_n C rfl 0 rfl dL_law_2581 2582 rfl ?_
        refine s_iload C 4 rfl dL_law_2582 2584 rfl ?_
        refine s_iconst C 1 rfl dL_law_2584 2585 rfl ?_
        refine s_iadd C dL_law_2585 2586 rfl ?_
        refine x_ai0 C 200 rfl dL_law_2586 2587 rfl (fun x273 => ?_)
        refine s_aload_n C rfl 0 rfl dL_law_2587 2588 rfl ?_
        refine s_iload C 4 rfl dL_law_2588 2590 rfl ?_
        refine s_iconst C 2 rfl dL_law_2590 2591 rfl ?_
        refine s_iadd C dL_law_2591 2592 rfl ?_
        refine x_ai0 C 200 rfl dL_law_2592 2593 rfl (fun x274 => ?_)
        refine s_aload_n C rfl 3 rfl dL_law_2593 2594 rfl ?_
        refine x_callSW (enc := en_i) C 19 4 [vr_ v1, vi_ x273, vi_ x274, vr_ v3] (ctX0_linkOf C.2.2.2.2.2.2.2.2.1 N m v1 x273 x274 v3) q2973 q2974 q80 q2975 hdX0_linkOf (Nat.le_of_ble_eq_true rfl) (Nat.le_of_ble_eq_true rfl) rfl (Nat.le_of_ble_eq_true rfl) dL_law_2594 2597 rfl rfl hen_i (kk_i (fun x275 m92 k1 n1 => ?_)) (kx_n he_i)
        refine s_istore C (Nat.le_of_ble_eq_true rfl) [0, 1, 2, 3, 4] rfl rfl dL_law_2597 2599 rfl ?_
        refine s_aload_n C rfl 3 rfl dL_law_2599 2600 rfl ?_
        refine s_aload_n C rfl 1 rfl dL_law_2600 2601 rfl ?_
        refine s_iload C 5 rfl dL_law_2601 2603 rfl ?_
        refine s_iconst C 1 rfl dL_law_2603 2604 rfl ?_
        refine s_iadd C dL_law_2604 2605 rfl ?_
        refine x_ai0 C 200 rfl dL_law_2605 2606 rfl (fun x276 => ?_)
        refine s_aload_n C rfl 1 rfl dL_law_2606 2607 rfl ?_
        refine s_iload C 5 rfl dL_law_2607 2609 rfl ?_
        refine s_iconst C 2 rfl dL_law_2609 2610 rfl ?_
        refine s_iadd C dL_law_2610 2611 rfl ?_
        refine x_ai0 C 200 rfl dL_law_2611 2612 rfl (fun x277 => ?_)
        refine x_ck (fun hb_ hb0_ => ?_)
        refine x_callV (enc := en_i) C 16 2 [vi_ x276, vi_ x277] 4 (ctX4_linkOf C.2.2.2.2.2.2.2.2.1 N m92 v2 x276 x277) hb_ hb0_ rfl rfl q3675 q3676 q3677 q93 q3678 hdX4_linkOf (Nat.le_of_ble_eq_true rfl) (Nat.le_of_ble_eq_true rfl) rfl (Nat.le_of_ble_eq_true rfl) dL_law_2612 2615 rfl rfl hen_i (kk_i (fun x278 m93 k1 n1 => ?_)) (kx_n he_i)
        refine s_istore C (Nat.le_of_ble_eq_true rfl) [0, 1, 2, 3, 4, 5] rfl rfl dL_law_2615 2617 rfl ?_
        refine s_aload_n C rfl 4 rfl dL_law_2617 2618 rfl ?_
        refine x_ck (fun hb_ hb0_ => ?_)
        refine x_callV (enc := en_i) C 10 0 [] 4 (ctX4_thrown C.2.2.2.2.2.2.2.2.1 N m93 v2) hb_ hb0_ rfl rfl q3358 q3359 q3360 q93 q3361 hdX4_thrown (Nat.le_of_ble_eq_true rfl) (Nat.le_of_ble_eq_true rfl) rfl (Nat.le_of_ble_eq_true rfl) dL_law_2618 2621 rfl rfl hen_i (kk_i (fun x279 m94 k1 n1 => ?_)) (kx_n he_i)
        refine s_iload C 1 rfl dL_law_2621 2623 rfl ?_
        refine s_icmp_eq C dL_law_2623 2628 rfl 2626 rfl (fun c_ => ?_) (fun c_ => ?_)
        · refine s_iload C 1 rfl dL_law_2628 2630 rfl ?_
          refine s_if_ne C dL_law_2630 2645 rfl 2633 rfl (fun c_ => ?_) (fun c_ => ?_)
          · refine s_aload_n C rfl 5 rfl dL_law_2633 2634 rfl ?_
            refine s_iconst C 0 rfl dL_law_2634 2635 rfl ?_
            refine x_aj3 C 203 rfl dL_law_2635 2636 rfl (fun x280 => ?_)
            refine s_iload C 0 rfl dL_law_2636 2638 rfl ?_
            refine s_i2l C dL_law_2638 2639 rfl ?_
            refine s_lcmp C dL_law_2639 2640 rfl ?_
            refine s_if_eq C dL_law_2640 2645 rfl 2643 rfl (fun c_ => ?_) (fun c_ => ?_)
            · refine Sm_sub [2, 3, 4, 5, 6] rfl ?_
              exact wL_law_b2645 C hret h0 hin N (fun m v0 v1 v2 v3 v4 k n => ih m v0 v1 v2 v3 v4 k n) _ _ _ _ _ _ _ _
            · refine s_iconst C 0 rfl dL_law_2643 2644 rfl ?_
              exact x_zret0 C hret (by decide) rfl dL_law_2644
          · refine Sm_sub [2, 3, 4, 5, 6] rfl ?_
            exact wL_law_b2645 C hret h0 hin N (fun m v0 v1 v2 v3 v4 k n => ih m v0 v1 v2 v3 v4 k n) _ _ _ _ _ _ _ _
        · refine s_iconst C 0 rfl dL_law_2626 2627 rfl ?_
          exact x_zret0 C hret (by decide) rfl dL_law_2627
      refine x_tj C dL_law_40 34 (by decide) (by decide) 2608 rfl 2648 (by decide) ?_ ?_
      · refine s_aload_n C rfl 1 rfl dL_law_2648 2649 rfl ?_
        refine s_aload_n C rfl 0 rfl dL_law_2649 2650 rfl ?_
        refine s_iload C 4 rfl dL_law_2650 2652 rfl ?_
        refine s_iconst C 1 rfl dL_law_2652 2653 rfl ?_
        refine s_iadd C dL_law_2653 2654 rfl ?_
        refine x_ai0 C 200 rfl dL_law_2654 2655 rfl (fun x281 => ?_)
        refine s_aload_n C rfl 0 rfl dL_law_2655 2656 rfl ?_
        refine s_iload C 4 rfl dL_law_2656 2658 rfl ?_
        refine s_iconst C 2 rfl dL_law_2658 2659 rfl ?_
        refine s_iadd C dL_law_2659 2660 rfl ?_
        refine x_ai0 C 200 rfl dL_law_2660 2661 rfl (fun x282 => ?_)
        refine s_aload_n C rfl 0 rfl dL_law_2661 2662 rfl ?_
        refine s_iload C 4 rfl dL_law_2662 2664 rfl ?_
        refine s_iconst C 3 rfl dL_law_2664 2665 rfl ?_
        refine s_iadd C dL_law_2665 2666 rfl ?_
        refine x_ai0 C 200 rfl dL_law_2666 2667 rfl (fun x283 => ?_)
        refine s_aload_n C rfl 0 rfl dL_law_2667 2668 rfl ?_
        refine s_iload C 4 rfl dL_law_2668 2670 rfl ?_
        refine s_iconst C 4 rfl dL_law_2670 2671 rfl ?_
        refine s_iadd C dL_law_2671 2672 rfl ?_
        refine x_ai0 C 200 rfl dL_law_2672 2673 rfl (fun x284 => ?_)
        refine s_aload_n C rfl 3 rfl dL_law_2673 2674 rfl ?_
        refine x_callSW (enc := en_i) C 20 6 [vr_ v1, vi_ x281, vi_ x282, vi_ x283, vi_ x284, vr_ v3] (ctX0_may C.2.2.2.2.2.2.2.2.1 N m v1 x281 x282 x283 x284 v3) q2980 q2981 q80 q2982 hdX0_may (Nat.le_of_ble_eq_true rfl) (Nat.le_of_ble_eq_true rfl) rfl (Nat.le_of_ble_eq_true rfl) dL_law_2674 2677 rfl rfl hen_i (kk_i (fun x285 m95 k1 n1 => ?_)) (kx_n he_i)
        refine s_istore C (Nat.le_of_ble_eq_true rfl) [0, 1, 2, 3, 4] rfl rfl dL_law_2677 2679 rfl ?_
        refine s_aload_n C rfl 3 rfl dL_law_2679 2680 rfl ?_
        refine s_aload_n C rfl 1 rfl dL_law_2680 2681 rfl ?_
        refine s_iload C 5 rfl dL_law_2681 2683 rfl ?_
        refine s_iconst C 1 rfl dL_law_2683 2684 rfl ?_
        refine s_iadd C dL_law_2684 2685 rfl ?_
        refine x_ai0 C 200 rfl dL_law_2685 2686 rfl (fun x286 => ?_)
        refine s_aload_n C rfl 1 rfl dL_law_2686 2687 rfl ?_
        refine s_iload C 5 rfl dL_law_2687 2689 rfl ?_
        refine s_iconst C 2 rfl dL_law_2689 2690 rfl ?_
        refine s_iadd C dL_law_2690 2691 rfl ?_
        refine x_ai0 C 200 rfl dL_law_2691 2692 rfl (fun x287 => ?_)
        refine s_aload_n C rfl 1 rfl dL_law_2692 2693 rfl ?_
        refine s_iload C 5 rfl dL_law_2693 2695 rfl ?_
        refine s_iconst C 3 rfl dL_law_2695 2696 rfl ?_
        refine s_iadd C dL_law_2696 2697 rfl ?_
        refine x_ai0 C 200 rfl dL_law_2697 2698 rfl (fun x288 => ?_)
        refine s_aload_n C rfl 1 rfl dL_law_2698 2699 rfl ?_
        refine s_iload C 5 rfl dL_law_2699 2701 rfl ?_
        refine s_iconst C 4 rfl dL_law_2701 2702 rfl ?_
        refine s_iadd C dL_law_2702 2703 rfl ?_
        refine x_ai0 C 200 rfl dL_law_2703 2704 rfl (fun x289 => ?_)
        refine x_ck (fun hb_ hb0_ => ?_)
        refine x_callV (enc := en_i) C 16 4 [vi_ x286, vi_ x287, vi_ x288, vi_ x289] 4 (ctX4_may C.2.2.2.2.2.2.2.2.1 N m95 v2 x286 x287 x288 x289) hb_ hb0_ rfl rfl q3679 q3680 q3681 q93 q3682 hdX4_may (Nat.le_of_ble_eq_true rfl) (Nat.le_of_ble_eq_true rfl) rfl (Nat.le_of_ble_eq_true rfl) dL_law_2704 2707 rfl rfl hen_i (kk_i (fun x290 m96 k1 n1 => ?_)) (kx_n he_i)
        refine s_istore C (Nat.le_of_ble_eq_true rfl) [0, 1, 2, 3, 4, 5] rfl rfl dL_law_2707 2709 rfl ?_
        refine s_aload_n C rfl 4 rfl dL_law_2709 2710 rfl ?_
        refine x_ck (fun hb_ hb0_ => ?_)
        refine x_callV (enc := en_i) C 10 0 [] 4 (ctX4_thrown C.2.2.2.2.2.2.2.2.1 N m96 v2) hb_ hb0_ rfl rfl q3358 q3359 q3360 q93 q3361 hdX4_thrown (Nat.le_of_ble_eq_true rfl) (Nat.le_of_ble_eq_true rfl) rfl (Nat.le_of_ble_eq_true rfl) dL_law_2710 2713 rfl rfl hen_i (kk_i (fun x291 m97 k1 n1 => ?_)) (kx_n he_i)
        refine s_iload C 1 rfl dL_law_2713 2715 rfl ?_
        refine s_icmp_eq C dL_law_2715 2720 rfl 2718 rfl (fun c_ => ?_) (fun c_ => ?_)
        · refine s_iload C 1 rfl dL_law_2720 2722 rfl ?_
          refine s_if_ne C dL_law_2722 2744 rfl 2725 rfl (fun c_ => ?_) (fun c_ => ?_)
          · refine s_aload_n C rfl 5 rfl dL_law_2725 2726 rfl ?_
            refine s_iconst C 0 rfl dL_law_2726 2727 rfl ?_
            refine x_aj3 C 203 rfl dL_law_2727 2728 rfl (fun x292 => ?_)
            refine s_iload C 0 rfl dL_law_2728 2730 rfl ?_
            refine s_if_eq C dL_law_2730 2737 rfl 2733 rfl (fun c_ => ?_) (fun c_ => ?_)
            · refine s_lconst C 0 rfl dL_law_2737 2738 rfl ?_
              refine Sm_sub [2, 3, 4, 5, 6] rfl ?_
              exact wL_law_b2738 C hret h0 hin N (fun m v0 v1 v2 v3 v4 k n => ih m v0 v1 v2 v3 v4 k n) _ _ _ _ _ _ _ _ _ _
            · refine s_lconst C 1 rfl dL_law_2733 2734 rfl ?_
              refine s_goto C (off := 4) 2738 dL_law_2734 rfl ?_
              refine Sm_sub [2, 3, 4, 5, 6] rfl ?_
              exact wL_law_b2738 C hret h0 hin N (fun m v0 v1 v2 v3 v4 k n => ih m v0 v1 v2 v3 v4 k n) _ _ _ _ _ _ _ _ _ _
          · refine Sm_sub [2, 3, 4, 5, 6] rfl ?_
            exact wL_law_b2744 C hret h0 hin N (fun m v0 v1 v2 v3 v4 k n => ih m v0 v1 v2 v3 v4 k n) _ _ _ _ _ _ _ _
        · refine s_iconst C 0 rfl dL_law_2718 2719 rfl ?_
          exact x_zret0 C hret (by decide) rfl dL_law_2719
      refine x_tj C dL_law_40 35 (by decide) (by decide) 2707 rfl 2747 (by decide) ?_ ?_
      · refine s_aload_n C rfl 1 rfl dL_law_2747 2748 rfl ?_
        refine s_aload_n C rfl 0 rfl dL_law_2748 2749 rfl ?_
        refine s_iload C 4 rfl dL_law_2749 2751 rfl ?_
        refine s_iconst C 1 rfl dL_law_2751 2752 rfl ?_
        refine s_iadd C dL_law_2752 2753 rfl ?_
        refine x_ai0 C 200 rfl dL_law_2753 2754 rfl (fun x293 => ?_)
        refine s_aload_n C rfl 0 rfl dL_law_2754 2755 rfl ?_
        refine s_iload C 4 rfl dL_law_2755 2757 rfl ?_
        refine s_iconst C 2 rfl dL_law_2757 2758 rfl ?_
        refine s_iadd C dL_law_2758 2759 rfl ?_
        refine x_ai0 C 200 rfl dL_law_2759 2760 rfl (fun x294 => ?_)
        refine s_aload_n C rfl 0 rfl dL_law_2760 2761 rfl ?_
        refine s_iload C 4 rfl dL_law_2761 2763 rfl ?_
        refine s_iconst C 3 rfl dL_law_2763 2764 rfl ?_
        refine s_iadd C dL_law_2764 2765 rfl ?_
        refine x_ai0 C 200 rfl dL_law_2765 2766 rfl (fun x295 => ?_)
        refine s_aload_n C rfl 3 rfl dL_law_2766 2767 rfl ?_
        refine x_callSW (enc := en_i) C 19 5 [vr_ v1, vi_ x293, vi_ x294, vi_ x295, vr_ v3] (ctX0_childAt C.2.2.2.2.2.2.2.2.1 N m v1 x293 x294 x295 v3) q2987 q2988 q80 q2989 hdX0_childAt (Nat.le_of_ble_eq_true rfl) (Nat.le_of_ble_eq_true rfl) rfl (Nat.le_of_ble_eq_true rfl) dL_law_2767 2770 rfl rfl hen_i (kk_i (fun x296 m98 k1 n1 => ?_)) (kx_n he_i)
        refine s_istore C (Nat.le_of_ble_eq_true rfl) [0, 1, 2, 3, 4] rfl rfl dL_law_2770 2772 rfl ?_
        refine s_aload_n C rfl 3 rfl dL_law_2772 2773 rfl ?_
        refine s_aload_n C rfl 1 rfl dL_law_2773 2774 rfl ?_
        refine s_iload C 5 rfl dL_law_2774 2776 rfl ?_
        refine s_iconst C 1 rfl dL_law_2776 2777 rfl ?_
        refine s_iadd C dL_law_2777 2778 rfl ?_
        refine x_ai0 C 200 rfl dL_law_2778 2779 rfl (fun x297 => ?_)
        refine s_aload_n C rfl 1 rfl dL_law_2779 2780 rfl ?_
        refine s_iload C 5 rfl dL_law_2780 2782 rfl ?_
        refine s_iconst C 2 rfl dL_law_2782 2783 rfl ?_
        refine s_iadd C dL_law_2783 2784 rfl ?_
        refine x_ai0 C 200 rfl dL_law_2784 2785 rfl (fun x298 => ?_)
        refine s_aload_n C rfl 1 rfl dL_law_2785 2786 rfl ?_
        refine s_iload C 5 rfl dL_law_2786 2788 rfl ?_
        refine s_iconst C 3 rfl dL_law_2788 2789 rfl ?_
        refine s_iadd C dL_law_2789 2790 rfl ?_
        refine x_ai0 C 200 rfl dL_law_2790 2791 rfl (fun x299 => ?_)
        refine x_ck (fun hb_ hb0_ => ?_)
        refine x_callV (enc := en_i) C 16 3 [vi_ x297, vi_ x298, vi_ x299] 4 (ctX4_childAt C.2.2.2.2.2.2.2.2.1 N m98 v2 x297 x298 x299) hb_ hb0_ rfl rfl q3683 q3684 q3685 q93 q3686 hdX4_childAt (Nat.le_of_ble_eq_true rfl) (Nat.le_of_ble_eq_true rfl) rfl (Nat.le_of_ble_eq_true rfl) dL_law_2791 2794 rfl rfl hen_i (kk_i (fun x300 m99 k1 n1 => ?_)) (kx_n he_i)
        refine s_istore C (Nat.le_of_ble_eq_true rfl) [0, 1, 2, 3, 4, 5] rfl rfl dL_law_2794 2796 rfl ?_
        refine s_aload_n C rfl 4 rfl dL_law_2796 2797 rfl ?_
        refine x_ck (fun hb_ hb0_ => ?_)
        refine x_callV (enc := en_i) C 10 0 [] 4 (ctX4_thrown C.2.2.2.2.2.2.2.2.1 N m99 v2) hb_ hb0_ rfl rfl q3358 q3359 q3360 q93 q3361 hdX4_thrown (Nat.le_of_ble_eq_true rfl) (Nat.le_of_ble_eq_true rfl) rfl (Nat.le_of_ble_eq_true rfl) dL_law_2797 2800 rfl rfl hen_i (kk_i (fun x301 m100 k1 n1 => ?_)) (kx_n he_i)
        refine s_iload C 1 rfl dL_law_2800 2802 rfl ?_
        refine s_icmp_eq C dL_law_2802 2807 rfl 2805 rfl (fun c_ => ?_) (fun c_ => ?_)
        · refine s_iload C 1 rfl dL_law_2807 2809 rfl ?_
          refine s_if_ne C dL_law_2809 2824 rfl 2812 rfl (fun c_ => ?_) (fun c_ => ?_)
          · refine s_aload_n C rfl 5 rfl dL_law_2812 2813 rfl ?_
            refine s_iconst C 0 rfl dL_law_2813 2814 rfl ?_
            refine x_aj3 C 203 rfl dL_law_2814 2815 rfl (fun x302 => ?_)
            refine s_iload C 0 rfl dL_law_2815 2817 rfl ?_
            refine s_i2l C dL_law_2817 2818 rfl ?_
            refine s_lcmp C dL_law_2818 2819 rfl ?_
            refine s_if_eq C dL_law_2819 2824 rfl 2822 rfl (fun c_ => ?_) (fun c_ => ?_)
            · refine Sm_sub [2, 3, 4, 5, 6] rfl ?_
              exact wL_law_b2824 C hret h0 hin N (fun m v0 v1 v2 v3 v4 k n => ih m v0 v1 v2 v3 v4 k n) _ _ _ _ _ _ _ _
            · refine s_iconst C 0 rfl dL_law_2822 2823 rfl ?_
              exact x_zret0 C hret (by decide) rfl dL_law_2823
          · refine Sm_sub [2, 3, 4, 5, 6] rfl ?_
            exact wL_law_b2824 C hret h0 hin N (fun m v0 v1 v2 v3 v4 k n => ih m v0 v1 v2 v3 v4 k n) _ _ _ _ _ _ _ _
        · refine s_iconst C 0 rfl dL_law_2805 2806 rfl ?_
          exact x_zret0 C hret (by decide) rfl dL_law_2806
      refine x_tj C dL_law_40 36 (by decide) (by decide) 2787 rfl 2827 (by decide) ?_ ?_
      · refine s_aload_n C rfl 1 rfl dL_law_2827 2828 rfl ?_
        refine s_aload_n C rfl 0 rfl dL_law_2828 2829 rfl ?_
        refine s_iload C 4 rfl dL_law_2829 2831 rfl ?_
        refine s_iconst C 1 rfl dL_law_2831 2832 rfl ?_
        refine s_iadd C dL_law_2832 2833 rfl ?_
        refine x_ai0 C 200 rfl dL_law_2833 2834 rfl (fun x303 => ?_)
        refine s_aload_n C rfl 0 rfl dL_law_2834 2835 rfl ?_
        refine s_iload C 4 rfl dL_law_2835 2837 rfl ?_
        refine s_iconst C 2 rfl dL_law_2837 2838 rfl ?_
        refine s_iadd C dL_law_2838 2839 rfl ?_
        refine x_ai0 C 200 rfl dL_law_2839 2840 rfl (fun x304 => ?_)
        refine s_aload_n C rfl 3 rfl dL_law_2840 2841 rfl ?_
        refine x_callSW (enc := en_i) C 21 4 [vr_ v1, vi_ x303, vi_ x304, vr_ v3] (ctX0_conflicts C.2.2.2.2.2.2.2.2.1 N m v1 x303 x304 v3) q2994 q2995 q80 q2996 hdX0_conflicts (Nat.le_of_ble_eq_true rfl) (Nat.le_of_ble_eq_true rfl) rfl (Nat.le_of_ble_eq_true rfl) dL_law_2841 2844 rfl rfl hen_i (kk_i (fun x305 m101 k1 n1 => ?_)) (kx_n he_i)
        refine s_istore C (Nat.le_of_ble_eq_true rfl) [0, 1, 2, 3, 4] rfl rfl dL_law_2844 2846 rfl ?_
        refine s_aload_n C rfl 3 rfl dL_law_2846 2847 rfl ?_
        refine s_aload_n C rfl 1 rfl dL_law_2847 2848 rfl ?_
        refine s_iload C 5 rfl dL_law_2848 2850 rfl ?_
        refine s_iconst C 1 rfl dL_law_2850 2851 rfl ?_
        refine s_iadd C dL_law_2851 2852 rfl ?_
        refine x_ai0 C 200 rfl dL_law_2852 2853 rfl (fun x306 => ?_)
        refine s_aload_n C rfl 1 rfl dL_law_2853 2854 rfl ?_
        refine s_iload C 5 rfl dL_law_2854 2856 rfl ?_
        refine s_iconst C 2 rfl dL_law_2856 2857 rfl ?_
        refine s_iadd C dL_law_2857 2858 rfl ?_
        refine x_ai0 C 200 rfl dL_law_2858 2859 rfl (fun x307 => ?_)
        refine x_ck (fun hb_ hb0_ => ?_)
        refine x_callV (enc := en_i) C 15 2 [vi_ x306, vi_ x307] 4 (ctX4_conflicts C.2.2.2.2.2.2.2.2.1 N m101 v2 x306 x307) hb_ hb0_ rfl rfl q3687 q3688 q3689 q93 q3690 hdX4_conflicts (Nat.le_of_ble_eq_true rfl) (Nat.le_of_ble_eq_true rfl) rfl (Nat.le_of_ble_eq_true rfl) dL_law_2859 2862 rfl rfl hen_i (kk_i (fun x308 m102 k1 n1 => ?_)) (kx_n he_i)
        refine s_istore C (Nat.le_of_ble_eq_true rfl) [0, 1, 2, 3, 4, 5] rfl rfl dL_law_2862 2864 rfl ?_
        refine s_aload_n C rfl 4 rfl dL_law_2864 2865 rfl ?_
        refine x_ck (fun hb_ hb0_ => ?_)
        refine x_callV (enc := en_i) C 10 0 [] 4 (ctX4_thrown C.2.2.2.2.2.2.2.2.1 N m102 v2) hb_ hb0_ rfl rfl q3358 q3359 q3360 q93 q3361 hdX4_thrown (Nat.le_of_ble_eq_true rfl) (Nat.le_of_ble_eq_true rfl) rfl (Nat.le_of_ble_eq_true rfl) dL_law_2865 2868 rfl rfl hen_i (kk_i (fun x309 m103 k1 n1 => ?_)) (kx_n he_i)
        refine s_iload C 1 rfl dL_law_2868 2870 rfl ?_
        refine s_icmp_eq C dL_law_2870 2875 rfl 2873 rfl (fun c_ => ?_) (fun c_ => ?_)
        · refine s_iload C 1 rfl dL_law_2875 2877 rfl ?_
          refine s_if_ne C dL_law_2877 2892 rfl 2880 rfl (fun c_ => ?_) (fun c_ => ?_)
          · refine s_aload_n C rfl 5 rfl dL_law_2880 2881 rfl ?_
            refine s_iconst C 0 rfl dL_law_2881 2882 rfl ?_
            refine x_aj3 C 203 rfl dL_law_2882 2883 rfl (fun x310 => ?_)
            refine s_iload C 0 rfl dL_law_2883 2885 rfl ?_
            refine s_i2l C dL_law_2885 2886 rfl ?_
            refine s_lcmp C dL_law_2886 2887 rfl ?_
            refine s_if_eq C dL_law_2887 2892 rfl 2890 rfl (fun c_ => ?_) (fun c_ => ?_)
            · refine Sm_sub [2, 3, 4, 5, 6] rfl ?_
              exact wL_law_b2892 C hret h0 hin N (fun m v0 v1 v2 v3 v4 k n => ih m v0 v1 v2 v3 v4 k n) _ _ _ _ _ _ _ _
            · refine s_iconst C 0 rfl dL_law_2890 2891 rfl ?_
              exact x_zret0 C hret (by decide) rfl dL_law_2891
          · refine Sm_sub [2, 3, 4, 5, 6] rfl ?_
            exact wL_law_b2892 C hret h0 hin N (fun m v0 v1 v2 v3 v4 k n => ih m v0 v1 v2 v3 v4 k n) _ _ _ _ _ _ _ _
        · refine s_iconst C 0 rfl dL_law_2873 2874 rfl ?_
          exact x_zret0 C hret (by decide) rfl dL_law_2874
      refine x_tj C dL_law_40 37 (by decide) (by decide) 2855 rfl 2895 (by decide) ?_ ?_
      · refine s_aload_n C rfl 1 rfl dL_law_2895 2896 rfl ?_
        refine s_aload_n C rfl 0 rfl dL_law_2896 2897 rfl ?_
        refine s_iload C 4 rfl dL_law_2897 2899 rfl ?_
        refine s_iconst C 1 rfl dL_law_2899 2900 rfl ?_
        refine s_iadd C dL_law_2900 2901 rfl ?_
        refine x_ai0 C 200 rfl dL_law_2901 2902 rfl (fun x311 => ?_)
        refine s_aload_n C rfl 0 rfl dL_law_2902 2903 rfl ?_
        refine s_iload C 4 rfl dL_law_2903 2905 rfl ?_
        refine s_iconst C 2 rfl dL_law_2905 2906 rfl ?_
        refine s_iadd C dL_law_2906 2907 rfl ?_
        refine x_ai0 C 200 rfl dL_law_2907 2908 rfl (fun x312 => ?_)
        refine s_aload_n C rfl 3 rfl dL_law_2908 2909 rfl ?_
        refine x_callSW (enc := en_i) C 19 4 [vr_ v1, vi_ x311, vi_ x312, vr_ v3] (ctX0_knows C.2.2.2.2.2.2.2.2.1 N m v1 x311 x312 v3) q3015 q3016 q80 q3017 hdX0_knows (Nat.le_of_ble_eq_true rfl) (Nat.le_of_ble_eq_true rfl) rfl (Nat.le_of_ble_eq_true rfl) dL_law_2909 2912 rfl rfl hen_i (kk_i (fun x313 m104 k1 n1 => ?_)) (kx_n he_i)
        refine s_istore C (Nat.le_of_ble_eq_true rfl) [0, 1, 2, 3, 4] rfl rfl dL_law_2912 2914 rfl ?_
        refine s_aload_n C rfl 3 rfl dL_law_2914 2915 rfl ?_
        refine s_aload_n C rfl 1 rfl dL_law_2915 2916 rfl ?_
        refine s_iload C 5 rfl dL_law_2916 2918 rfl ?_
        refine s_iconst C 1 rfl dL_law_2918 2919 rfl ?_
        refine s_iadd C dL_law_2919 2920 rfl ?_
        refine x_ai0 C 200 rfl dL_law_2920 2921 rfl (fun x314 => ?_)
        refine s_aload_n C rfl 1 rfl dL_law_2921 2922 rfl ?_
        refine s_iload C 5 rfl dL_law_2922 2924 rfl ?_
        refine s_iconst C 2 rfl dL_law_2924 2925 rfl ?_
        refine s_iadd C dL_law_2925 2926 rfl ?_
        refine x_ai0 C 200 rfl dL_law_2926 2927 rfl (fun x315 => ?_)
        refine x_ck (fun hb_ hb0_ => ?_)
        refine x_callV (enc := en_i) C 12 2 [vi_ x314, vi_ x315] 4 (ctX4_knows C.2.2.2.2.2.2.2.2.1 N m104 v2 x314 x315) hb_ hb0_ rfl rfl q3695 q3696 q3697 q93 q3698 hdX4_knows (Nat.le_of_ble_eq_true rfl) (Nat.le_of_ble_eq_true rfl) rfl (Nat.le_of_ble_eq_true rfl) dL_law_2927 2930 rfl rfl hen_i (kk_i (fun x316 m105 k1 n1 => ?_)) (kx_n he_i)
        refine s_istore C (Nat.le_of_ble_eq_true rfl) [0, 1, 2, 3, 4, 5] rfl rfl dL_law_2930 2932 rfl ?_
        refine s_aload_n C rfl 4 rfl dL_law_2932 2933 rfl ?_
        refine x_ck (fun hb_ hb0_ => ?_)
        refine x_callV (enc := en_i) C 10 0 [] 4 (ctX4_thrown C.2.2.2.2.2.2.2.2.1 N m105 v2) hb_ hb0_ rfl rfl q3358 q3359 q3360 q93 q3361 hdX4_thrown (Nat.le_of_ble_eq_true rfl) (Nat.le_of_ble_eq_true rfl) rfl (Nat.le_of_ble_eq_true rfl) dL_law_2933 2936 rfl rfl hen_i (kk_i (fun x317 m106 k1 n1 => ?_)) (kx_n he_i)
        refine s_iload C 1 rfl dL_law_2936 2938 rfl ?_
        refine s_icmp_eq C dL_law_2938 2943 rfl 2941 rfl (fun c_ => ?_) (fun c_ => ?_)
        · refine s_iload C 1 rfl dL_law_2943 2945 rfl ?_
          refine s_if_ne C dL_law_2945 2960 rfl 2948 rfl (fun c_ => ?_) (fun c_ => ?_)
          · refine s_aload_n C rfl 5 rfl dL_law_2948 2949 rfl ?_
            refine s_iconst C 0 rfl dL_law_2949 2950 rfl ?_
            refine x_aj3 C 203 rfl dL_law_2950 2951 rfl (fun x318 => ?_)
            refine s_iload C 0 rfl dL_law_2951 2953 rfl ?_
            refine s_i2l C dL_law_2953 2954 rfl ?_
            refine s_lcmp C dL_law_2954 2955 rfl ?_
            refine s_if_eq C dL_law_2955 2960 rfl 2958 rfl (fun c_ => ?_) (fun c_ => ?_)
            · refine Sm_sub [2, 3, 4, 5, 6] rfl ?_
              exact wL_law_b2960 C hret h0 hin N (fun m v0 v1 v2 v3 v4 k n => ih m v0 v1 v2 v3 v4 k n) _ _ _ _ _ _ _ _
            · refine s_iconst C 0 rfl dL_law_2958 2959 rfl ?_
              exact x_zret0 C hret (by decide) rfl dL_law_2959
          · refine Sm_sub [2, 3, 4, 5, 6] rfl ?_
            exact wL_law_b2960 C hret h0 hin N (fun m v0 v1 v2 v3 v4 k n => ih m v0 v1 v2 v3 v4 k n) _ _ _ _ _ _ _ _
        · refine s_iconst C 0 rfl dL_law_2941 2942 rfl ?_
          exact x_zret0 C hret (by decide) rfl dL_law_2942
      refine x_tj C dL_law_40 38 (by decide) (by decide) 2923 rfl 2963 (by decide) ?_ ?_
      · refine s_aload_n C rfl 1 rfl dL_law_2963 2964 rfl ?_
        refine s_aload_n C rfl 0 rfl dL_law_2964 2965 rfl ?_
        refine s_iload C 4 rfl dL_law_2965 2967 rfl ?_
        refine s_iconst C 1 rfl dL_law_2967 2968 rfl ?_
        refine s_iadd C dL_law_2968 2969 rfl ?_
        refine x_ai0 C 200 rfl dL_law_2969 2970 rfl (fun x319 => ?_)
        refine s_aload_n C rfl 3 rfl dL_law_2970 2971 rfl ?_
        refine x_callSW (enc := en_i) C 19 3 [vr_ v1, vi_ x319, vr_ v3] (ctX0_marks C.2.2.2.2.2.2.2.2.1 N m v1 x319 v3) q3022 q3023 q80 q3024 hdX0_marks (Nat.le_of_ble_eq_true rfl) (Nat.le_of_ble_eq_true rfl) rfl (Nat.le_of_ble_eq_true rfl) dL_law_2971 2974 rfl rfl hen_i (kk_i (fun x320 m107 k1 n1 => ?_)) (kx_n he_i)
        refine s_istore C (Nat.le_of_ble_eq_true rfl) [0, 1, 2, 3, 4] rfl rfl dL_law_2974 2976 rfl ?_
        refine s_aload_n C rfl 3 rfl dL_law_2976 2977 rfl ?_
        refine s_aload_n C rfl 1 rfl dL_law_2977 2978 rfl ?_
        refine s_iload C 5 rfl dL_law_2978 2980 rfl ?_
        refine s_iconst C 1 rfl dL_law_2980 2981 rfl ?_
        refine s_iadd C dL_law_2981 2982 rfl ?_
        refine x_ai0 C 200 rfl dL_law_2982 2983 rfl (fun x321 => ?_)
        refine x_ck (fun hb_ hb0_ => ?_)
        refine x_callV (enc := en_i) C 14 1 [vi_ x321] 4 (ctX4_marks C.2.2.2.2.2.2.2.2.1 N m107 v2 x321) hb_ hb0_ rfl rfl q3699 q3700 q3701 q93 q3702 hdX4_marks (Nat.le_of_ble_eq_true rfl) (Nat.le_of_ble_eq_true rfl) rfl (Nat.le_of_ble_eq_true rfl) dL_law_2983 2986 rfl rfl hen_i (kk_i (fun x322 m108 k1 n1 => ?_)) (kx_n he_i)
        refine s_istore C (Nat.le_of_ble_eq_true rfl) [0, 1, 2, 3, 4, 5] rfl rfl dL_law_2986 2988 rfl ?_
        refine s_aload_n C rfl 4 rfl dL_law_2988 2989 rfl ?_
        refine x_ck (fun hb_ hb0_ => ?_)
        refine x_callV (enc := en_i) C 10 0 [] 4 (ctX4_thrown C.2.2.2.2.2.2.2.2.1 N m108 v2) hb_ hb0_ rfl rfl q3358 q3359 q3360 q93 q3361 hdX4_thrown (Nat.le_of_ble_eq_true rfl) (Nat.le_of_ble_eq_true rfl) rfl (Nat.le_of_ble_eq_true rfl) dL_law_2989 2992 rfl rfl hen_i (kk_i (fun x323 m109 k1 n1 => ?_)) (kx_n he_i)
        refine s_iload C 1 rfl dL_law_2992 2994 rfl ?_
        refine s_icmp_eq C dL_law_2994 2999 rfl 2997 rfl (fun c_ => ?_) (fun c_ => ?_)
        · refine s_iload C 1 rfl dL_law_2999 3001 rfl ?_
          refine s_if_ne C dL_law_3001 3016 rfl 3004 rfl (fun c_ => ?_) (fun c_ => ?_)
          · refine s_aload_n C rfl 5 rfl dL_law_3004 3005 rfl ?_
            refine s_iconst C 0 rfl dL_law_3005 3006 rfl ?_
            refine x_aj3 C 203 rfl dL_law_3006 3007 rfl (fun x324 => ?_)
            refine s_iload C 0 rfl dL_law_3007 3009 rfl ?_
            refine s_i2l C dL_law_3009 3010 rfl ?_
            refine s_lcmp C dL_law_3010 3011 rfl ?_
            refine s_if_eq C dL_law_3011 3016 rfl 3014 rfl (fun c_ => ?_) (fun c_ => ?_)
            · refine Sm_sub [2, 3, 4, 5, 6] rfl ?_
              exact wL_law_b3016 C hret h0 hin N (fun m v0 v1 v2 v3 v4 k n => ih m v0 v1 v2 v3 v4 k n) _ _ _ _ _ _ _ _
            · refine s_iconst C 0 rfl dL_law_3014 3015 rfl ?_
              exact x_zret0 C hret (by decide) rfl dL_law_3015
          · refine Sm_sub [2, 3, 4, 5, 6] rfl ?_
            exact wL_law_b3016 C hret h0 hin N (fun m v0 v1 v2 v3 v4 k n => ih m v0 v1 v2 v3 v4 k n) _ _ _ _ _ _ _ _
        · refine s_iconst C 0 rfl dL_law_2997 2998 rfl ?_
          exact x_zret0 C hret (by decide) rfl dL_law_2998
      refine x_tj C dL_law_40 39 (by decide) (by decide) 2979 rfl 3019 (by decide) ?_ ?_
      · refine s_aload_n C rfl 1 rfl dL_law_3019 3020 rfl ?_
        refine s_aload_n C rfl 0 rfl dL_law_3020 3021 rfl ?_
        refine s_iload C 4 rfl dL_law_3021 3023 rfl ?_
        refine s_iconst C 1 rfl dL_law_3023 3024 rfl ?_
        refine s_iadd C dL_law_3024 3025 rfl ?_
        refine x_ai0 C 200 rfl dL_law_3025 3026 rfl (fun x325 => ?_)
        refine s_aload_n C rfl 0 rfl dL_law_3026 3027 rfl ?_
        refine s_iload C 4 rfl dL_law_3027 3029 rfl ?_
        refine s_iconst C 2 rfl dL_law_3029 3030 rfl ?_
        refine s_iadd C dL_law_3030 3031 rfl ?_
        refine x_ai0 C 200 rfl dL_law_3031 3032 rfl (fun x326 => ?_)
        refine s_aload_n C rfl 3 rfl dL_law_3032 3033 rfl ?_
        refine x_callSW (enc := en_i) C 21 4 [vr_ v1, vi_ x325, vi_ x326, vr_ v3] (ctX0_areAlike C.2.2.2.2.2.2.2.2.1 N m v1 x325 x326 v3) q3029 q3030 q80 q3031 hdX0_areAlike (Nat.le_of_ble_eq_true rfl) (Nat.le_of_ble_eq_true rfl) rfl (Nat.le_of_ble_eq_true rfl) dL_law_3033 3036 rfl rfl hen_i (kk_i (fun x327 m110 k1 n1 => ?_)) (kx_n he_i)
        refine s_istore C (Nat.le_of_ble_eq_true rfl) [0, 1, 2, 3, 4] rfl rfl dL_law_3036 3038 rfl ?_
        refine s_aload_n C rfl 3 rfl dL_law_3038 3039 rfl ?_
        refine s_aload_n C rfl 1 rfl dL_law_3039 3040 rfl ?_
        refine s_iload C 5 rfl dL_law_3040 3042 rfl ?_
        refine s_iconst C 1 rfl dL_law_3042 3043 rfl ?_
        refine s_iadd C dL_law_3043 3044 rfl ?_
        refine x_ai0 C 200 rfl dL_law_3044 3045 rfl (fun x328 => ?_)
        refine s_aload_n C rfl 1 rfl dL_law_3045 3046 rfl ?_
        refine s_iload C 5 rfl dL_law_3046 3048 rfl ?_
        refine s_iconst C 2 rfl dL_law_3048 3049 rfl ?_
        refine s_iadd C dL_law_3049 3050 rfl ?_
        refine x_ai0 C 200 rfl dL_law_3050 3051 rfl (fun x329 => ?_)
        refine x_ck (fun hb_ hb0_ => ?_)
        refine x_callV (enc := en_i) C 16 2 [vi_ x328, vi_ x329] 4 (ctX4_areAlike C.2.2.2.2.2.2.2.2.1 N m110 v2 x328 x329) hb_ hb0_ rfl rfl q3703 q3704 q3705 q93 q3706 hdX4_areAlike (Nat.le_of_ble_eq_true rfl) (Nat.le_of_ble_eq_true rfl) rfl (Nat.le_of_ble_eq_true rfl) dL_law_3051 3054 rfl rfl hen_i (kk_i (fun x330 m111 k1 n1 => ?_)) (kx_n he_i)
        refine s_istore C (Nat.le_of_ble_eq_true rfl) [0, 1, 2, 3, 4, 5] rfl rfl dL_law_3054 3056 rfl ?_
        refine s_aload_n C rfl 4 rfl dL_law_3056 3057 rfl ?_
        refine x_ck (fun hb_ hb0_ => ?_)
        refine x_callV (enc := en_i) C 10 0 [] 4 (ctX4_thrown C.2.2.2.2.2.2.2.2.1 N m111 v2) hb_ hb0_ rfl rfl q3358 q3359 q3360 q93 q3361 hdX4_thrown (Nat.le_of_ble_eq_true rfl) (Nat.le_of_ble_eq_true rfl) rfl (Nat.le_of_ble_eq_true rfl) dL_law_3057 3060 rfl rfl hen_i (kk_i (fun x331 m112 k1 n1 => ?_)) (kx_n he_i)
        refine s_iload C 1 rfl dL_law_3060 3062 rfl ?_
        refine s_icmp_eq C dL_law_3062 3067 rfl 3065 rfl (fun c_ => ?_) (fun c_ => ?_)
        · refine s_iload C 1 rfl dL_law_3067 3069 rfl ?_
          refine s_if_ne C dL_law_3069 3091 rfl 3072 rfl (fun c_ => ?_) (fun c_ => ?_)
          · refine s_aload_n C rfl 5 rfl dL_law_3072 3073 rfl ?_
            refine s_iconst C 0 rfl dL_law_3073 3074 rfl ?_
            refine x_aj3 C 203 rfl dL_law_3074 3075 rfl (fun x332 => ?_)
            refine s_iload C 0 rfl dL_law_3075 3077 rfl ?_
            refine s_if_eq C dL_law_3077 3084 rfl 3080 rfl (fun c_ => ?_) (fun c_ => ?_)
            · refine s_lconst C 0 rfl dL_law_3084 3085 rfl ?_
              refine Sm_sub [2, 3, 4, 5, 6] rfl ?_
              exact wL_law_b3085 C hret h0 hin N (fun m v0 v1 v2 v3 v4 k n => ih m v0 v1 v2 v3 v4 k n) _ _ _ _ _ _ _ _ _ _
            · refine s_lconst C 1 rfl dL_law_3080 3081 rfl ?_
              refine s_goto C (off := 4) 3085 dL_law_3081 rfl ?_
              refine Sm_sub [2, 3, 4, 5, 6] rfl ?_
              exact wL_law_b3085 C hret h0 hin N (fun m v0 v1 v2 v3 v4 k n => ih m v0 v1 v2 v3 v4 k n) _ _ _ _ _ _ _ _ _ _
          · refine Sm_sub [2, 3, 4, 5, 6] rfl ?_
            exact wL_law_b3091 C hret h0 hin N (fun m v0 v1 v2 v3 v4 k n => ih m v0 v1 v2 v3 v4 k n) _ _ _ _ _ _ _ _
        · refine s_iconst C 0 rfl dL_law_3065 3066 rfl ?_
          exact x_zret0 C hret (by decide) rfl dL_law_3066
      refine x_td C dL_law_40 3094 (by decide) ?_
      exact wL_law_b3094 C hret h0 hin N (fun m v0 v1 v2 v3 v4 k n => ih m v0 v1 v2 v3 v4 k n) _ _ _ _ _ _ _ _
theorem wL_law {l : Launch} {g : GG} {E : Me_} (C : Cx_ l g E "MasterTreeLaw" cL_law 7 40) (hret : (eT_ E).sig.returnType = (some .boolean)) (h0 : ∀ x ∈ (eC_ E).exceptionTable.toList, False) (hin : (eT_ E).name = "law") (N : Nat) : ∀ (m : Mm) (v0 : Option Nat) (k n : Nat), Sm_ l g E 7 en_i (fL_law (gE_ g) N m v0) k n 0 [(0, vr_ v0)] [] m := by
  intro m v0 k n
  unfold fL_law
  refine x_nw C 0 (RX1, TX1, 9) rfl q146 q147 q81 1 9 rfl rfl dL_law_0 3 rfl (fun x1 m1 => ?_)
  refine s_dup C rfl dL_law_3 4 rfl ?_
  refine x_callI (enc := en_v) C 16 0 [] (ctX1_init C.2.2.2.2.2.2.2.2.1 N m1 (some x1)) (fun h => by cases h) rfl q148 q149 q81 q150 rfl hdX1_init (Nat.le_of_ble_eq_true rfl) (Nat.le_of_ble_eq_true rfl) rfl (Nat.le_of_ble_eq_true rfl) dL_law_4 7 rfl rfl hen_v (kk_v (fun m2 k1 n1 => ?_)) (kx_n he_v)
  refine s_astore_n C rfl (Nat.le_of_ble_eq_true rfl) [0] rfl rfl dL_law_7 8 rfl ?_
  refine x_nw C 3 (RX4, TX4, 67) rfl q3149 q3150 q93 4 67 rfl rfl dL_law_8 11 rfl (fun x2 m3 => ?_)
  refine s_dup C rfl dL_law_11 12 rfl ?_
  refine x_callI (enc := en_v) C 10 0 [] (ctX4_init C.2.2.2.2.2.2.2.2.1 N m3 (some x2)) (fun h => by cases h) rfl q3151 q3152 q93 q3153 rfl hdX4_init (Nat.le_of_ble_eq_true rfl) (Nat.le_of_ble_eq_true rfl) rfl (Nat.le_of_ble_eq_true rfl) dL_law_12 15 rfl rfl hen_v (kk_v (fun m4 k1 n1 => ?_)) (kx_n he_v)
  refine s_astore_n C rfl (Nat.le_of_ble_eq_true rfl) [0, 1] rfl rfl dL_law_15 16 rfl ?_
  refine s_iconst C 1 rfl dL_law_16 17 rfl ?_
  refine x_naJ C dL_law_17 19 rfl (fun x3 m5 => ?_)
  refine s_astore_n C rfl (Nat.le_of_ble_eq_true rfl) [0, 1, 2] rfl rfl dL_law_19 20 rfl ?_
  refine s_iconst C 0 rfl dL_law_20 21 rfl ?_
  refine s_istore C (Nat.le_of_ble_eq_true rfl) [0, 1, 2, 3] rfl rfl dL_law_21 23 rfl ?_
  refine Sm_sub [4, 3, 2, 1, 0] rfl ?_
  exact wL_law_b23 C hret h0 hin N N _ _ _ _ _ _ _ _
theorem hdL_law : ((⟨"MasterTreeLaw", "law", "([I)Z"⟩ : MethodName)).cls ≠ "java/lang/invoke/MethodHandle" ∧ ((⟨"MasterTreeLaw", "law", "([I)Z"⟩ : MethodName)).cls ≠ "java/lang/invoke/VarHandle" ∧ (parseMethodDescriptor ((⟨"MasterTreeLaw", "law", "([I)Z"⟩ : MethodName)).desc).map (fun d => d.parameters.length) = some 1 := ⟨by decide +kernel, by decide +kernel, by decide +kernel⟩
theorem ctL_law {l : Launch} {g : GG} (hst : l.stackTraces = false) (N : Nat) (m : Mm) (v0 : Option Nat) : ∀ v m' k n, fL_law (gE_ g) N m v0 = some (v, m', k, n) → Ct_ l g (⟨"MasterTreeLaw", "law", "([I)Z"⟩ : MethodName) (ws_ (⟨"MasterTreeLaw", "law", "([I)Z"⟩ : MethodName) cL_law 7 (some .boolean)) 40 [vr_ v0] m (en_i v) m' k n :=
  Ct_of (by decide +kernel) rfl hst (Nat.le_of_ble_eq_true rfl) rfl (fun E C hret h0 hin => wL_law C hret h0 hin N m v0 0 0)
