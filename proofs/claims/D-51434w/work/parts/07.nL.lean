/-! the law's own entry -/
set_option maxRecDepth 100000
abbrev cL_law : ByteArray := code
def dkwL_law_88 : List UInt8 := [167, 0, 3, 132, 4, 6, 167, 247, 122, 4, 172]
abbrev dktL_law_88 : List UInt8 := dkwL_law_88 ++ []
def dkwL_law_87 : List UInt8 := [159, 0, 5, 3, 172, 21, 5, 154, 0, 15, 45, 3, 47, 21, 6, 133, 148, 153, 0, 5, 3, 172]
abbrev dktL_law_87 : List UInt8 := dkwL_law_87 ++ dktL_law_88
def dkwL_law_86 : List UInt8 := [159, 0, 49, 3, 172, 43, 45, 184, 1, 2, 54, 5, 44, 182, 1, 4, 54, 6, 44, 182, 0, 136, 21, 5]
abbrev dktL_law_86 : List UInt8 := dkwL_law_86 ++ dktL_law_87
def dkwL_law_85 : List UInt8 := [44, 42, 21, 4, 4, 96, 46, 182, 0, 253, 159, 0, 62, 3, 172, 43, 182, 0, 254, 44, 182, 1, 1]
abbrev dktL_law_85 : List UInt8 := dkwL_law_85 ++ dktL_law_86
def dkwL_law_84 : List UInt8 := [172, 43, 182, 0, 246, 44, 182, 0, 249, 159, 0, 87, 3, 172, 43, 42, 21, 4, 4, 96, 46, 182, 0, 250]
abbrev dktL_law_84 : List UInt8 := dkwL_law_84 ++ dktL_law_85
def dkwL_law_83 : List UInt8 := [21, 6, 133, 148, 153, 0, 5, 3, 172, 167, 0, 111, 43, 182, 0, 242, 44, 182, 0, 245, 159, 0, 100, 3]
abbrev dktL_law_83 : List UInt8 := dkwL_law_83 ++ dktL_law_84
def dkwL_law_82 : List UInt8 := [182, 0, 241, 54, 6, 44, 182, 0, 136, 21, 5, 159, 0, 5, 3, 172, 21, 5, 154, 0, 15, 45, 3, 47]
abbrev dktL_law_82 : List UInt8 := dkwL_law_82 ++ dktL_law_83
def dkwL_law_81 : List UInt8 := [3, 47, 21, 6, 133, 148, 153, 0, 5, 3, 172, 167, 0, 155, 43, 45, 184, 0, 238, 54, 5, 44]
abbrev dktL_law_81 : List UInt8 := dkwL_law_81 ++ dktL_law_82
def dkwL_law_80 : List UInt8 := [96, 46, 182, 0, 237, 54, 6, 44, 182, 0, 136, 21, 5, 159, 0, 5, 3, 172, 21, 5, 154, 0, 15, 45]
abbrev dktL_law_80 : List UInt8 := dkwL_law_80 ++ dktL_law_81
def dkwL_law_79 : List UInt8 := [46, 42, 21, 4, 5, 96, 46, 45, 184, 0, 235, 54, 5, 44, 42, 21, 4, 4, 96, 46, 42, 21, 4, 5]
abbrev dktL_law_79 : List UInt8 := dkwL_law_79 ++ dktL_law_80
def dkwL_law_78 : List UInt8 := [154, 0, 15, 45, 3, 47, 21, 6, 133, 148, 153, 0, 5, 3, 172, 167, 0, 223, 43, 42, 21, 4, 4, 96]
abbrev dktL_law_78 : List UInt8 := dkwL_law_78 ++ dktL_law_79
def dkwL_law_77 : List UInt8 := [167, 0, 4, 3, 182, 0, 234, 54, 6, 44, 182, 0, 136, 21, 5, 159, 0, 5, 3, 172, 21, 5]
abbrev dktL_law_77 : List UInt8 := dkwL_law_77 ++ dktL_law_78
def dkwL_law_76 : List UInt8 := [45, 184, 0, 231, 54, 5, 44, 42, 21, 4, 4, 96, 46, 42, 21, 4, 5, 96, 46, 153, 0, 7, 4]
abbrev dktL_law_76 : List UInt8 := dkwL_law_76 ++ dktL_law_77
def dkwL_law_75 : List UInt8 := [167, 1, 51, 43, 42, 21, 4, 4, 96, 46, 42, 21, 4, 5, 96, 46, 153, 0, 7, 4, 167, 0, 4, 3]
abbrev dktL_law_75 : List UInt8 := dkwL_law_75 ++ dktL_law_76
def dkwL_law_74 : List UInt8 := [21, 5, 159, 0, 5, 3, 172, 21, 5, 154, 0, 15, 45, 3, 47, 21, 6, 133, 148, 153, 0, 5, 3, 172]
abbrev dktL_law_74 : List UInt8 := dkwL_law_74 ++ dktL_law_75
def dkwL_law_73 : List UInt8 := [46, 45, 184, 0, 228, 54, 5, 44, 42, 21, 4, 4, 96, 46, 182, 0, 230, 54, 6, 44, 182, 0, 136]
abbrev dktL_law_73 : List UInt8 := dkwL_law_73 ++ dktL_law_74
def dkwL_law_72 : List UInt8 := [154, 0, 15, 45, 3, 47, 21, 6, 133, 148, 153, 0, 5, 3, 172, 167, 1, 107, 43, 42, 21, 4, 4, 96]
abbrev dktL_law_72 : List UInt8 := dkwL_law_72 ++ dktL_law_73
def dkwL_law_71 : List UInt8 := [21, 4, 4, 96, 46, 182, 0, 227, 54, 6, 44, 182, 0, 136, 21, 5, 159, 0, 5, 3, 172, 21, 5]
abbrev dktL_law_71 : List UInt8 := dkwL_law_71 ++ dktL_law_72
def dkwL_law_70 : List UInt8 := [153, 0, 5, 3, 172, 167, 1, 163, 43, 42, 21, 4, 4, 96, 46, 45, 184, 0, 225, 54, 5, 44, 42]
abbrev dktL_law_70 : List UInt8 := dkwL_law_70 ++ dktL_law_71
def dkwL_law_69 : List UInt8 := [182, 0, 136, 21, 5, 159, 0, 5, 3, 172, 21, 5, 154, 0, 15, 45, 3, 47, 21, 6, 133, 148]
abbrev dktL_law_69 : List UInt8 := dkwL_law_69 ++ dktL_law_70
def dkwL_law_68 : List UInt8 := [4, 96, 46, 45, 184, 0, 222, 54, 5, 44, 42, 21, 4, 4, 96, 46, 182, 0, 224, 54, 6, 44]
abbrev dktL_law_68 : List UInt8 := dkwL_law_68 ++ dktL_law_69
def dkwL_law_67 : List UInt8 := [21, 5, 154, 0, 15, 45, 3, 47, 21, 6, 133, 148, 153, 0, 5, 3, 172, 167, 1, 219, 43, 42, 21, 4]
abbrev dktL_law_67 : List UInt8 := dkwL_law_67 ++ dktL_law_68
def dkwL_law_66 : List UInt8 := [96, 46, 42, 21, 4, 5, 96, 46, 182, 0, 221, 54, 6, 44, 182, 0, 136, 21, 5, 159, 0, 5, 3, 172]
abbrev dktL_law_66 : List UInt8 := dkwL_law_66 ++ dktL_law_67
def dkwL_law_65 : List UInt8 := [43, 42, 21, 4, 4, 96, 46, 42, 21, 4, 5, 96, 46, 45, 184, 0, 219, 54, 5, 44, 42, 21, 4, 4]
abbrev dktL_law_65 : List UInt8 := dkwL_law_65 ++ dktL_law_66
def dkwL_law_64 : List UInt8 := [153, 0, 21, 24, 5, 24, 5, 151, 153, 0, 11, 24, 7, 24, 7, 151, 154, 0, 5, 3, 172, 167, 2, 31]
abbrev dktL_law_64 : List UInt8 := dkwL_law_64 ++ dktL_law_65
def dkwL_law_63 : List UInt8 := [3, 172, 167, 2, 74, 43, 182, 0, 214, 141, 57, 5, 44, 182, 0, 218, 141, 57, 7, 24, 5, 24, 7, 151]
abbrev dktL_law_63 : List UInt8 := dkwL_law_63 ++ dktL_law_64
def dkwL_law_62 : List UInt8 := [24, 5, 24, 7, 151, 153, 0, 21, 24, 5, 24, 5, 151, 153, 0, 11, 24, 7, 24, 7, 151, 154, 0, 5]
abbrev dktL_law_62 : List UInt8 := dkwL_law_62 ++ dktL_law_63
def dkwL_law_61 : List UInt8 := [182, 0, 204, 44, 182, 0, 208, 159, 2, 117, 3, 172, 43, 182, 0, 209, 57, 5, 44, 182, 0, 213, 57, 7]
abbrev dktL_law_61 : List UInt8 := dkwL_law_61 ++ dktL_law_62
def dkwL_law_60 : List UInt8 := [44, 182, 0, 199, 159, 2, 143, 3, 172, 43, 182, 0, 200, 44, 182, 0, 203, 159, 2, 130, 3, 172, 43]
abbrev dktL_law_60 : List UInt8 := dkwL_law_60 ++ dktL_law_61
def dkwL_law_59 : List UInt8 := [21, 5, 154, 0, 15, 45, 3, 47, 21, 6, 133, 148, 153, 0, 5, 3, 172, 167, 2, 154, 43, 182, 0, 196]
abbrev dktL_law_59 : List UInt8 := dkwL_law_59 ++ dktL_law_60
def dkwL_law_58 : List UInt8 := [96, 46, 42, 21, 4, 6, 96, 46, 182, 0, 195, 54, 6, 44, 182, 0, 136, 21, 5, 159, 0, 5, 3, 172]
abbrev dktL_law_58 : List UInt8 := dkwL_law_58 ++ dktL_law_59
def dkwL_law_57 : List UInt8 := [46, 42, 21, 4, 6, 96, 46, 45, 184, 0, 192, 54, 5, 44, 42, 21, 4, 4, 96, 46, 42, 21, 4, 5]
abbrev dktL_law_57 : List UInt8 := dkwL_law_57 ++ dktL_law_58
def dkwL_law_56 : List UInt8 := [21, 6, 133, 148, 153, 0, 5, 3, 172, 167, 2, 234, 43, 42, 21, 4, 4, 96, 46, 42, 21, 4, 5, 96]
abbrev dktL_law_56 : List UInt8 := dkwL_law_56 ++ dktL_law_57
def dkwL_law_55 : List UInt8 := [182, 0, 191, 54, 6, 44, 182, 0, 136, 21, 5, 159, 0, 5, 3, 172, 21, 5, 154, 0, 15, 45, 3, 47]
abbrev dktL_law_55 : List UInt8 := dkwL_law_55 ++ dktL_law_56
def dkwL_law_54 : List UInt8 := [167, 3, 34, 43, 42, 21, 4, 4, 96, 46, 45, 184, 0, 189, 54, 5, 44, 42, 21, 4, 4, 96, 46]
abbrev dktL_law_54 : List UInt8 := dkwL_law_54 ++ dktL_law_55
def dkwL_law_53 : List UInt8 := [159, 0, 5, 3, 172, 21, 5, 154, 0, 15, 45, 3, 47, 21, 6, 133, 148, 153, 0, 5, 3, 172]
abbrev dktL_law_53 : List UInt8 := dkwL_law_53 ++ dktL_law_54
def dkwL_law_52 : List UInt8 := [21, 4, 4, 96, 46, 42, 21, 4, 5, 96, 46, 182, 0, 188, 54, 6, 44, 182, 0, 136, 21, 5]
abbrev dktL_law_52 : List UInt8 := dkwL_law_52 ++ dktL_law_53
def dkwL_law_51 : List UInt8 := [167, 3, 102, 43, 42, 21, 4, 4, 96, 46, 42, 21, 4, 5, 96, 46, 45, 184, 0, 186, 54, 5, 44, 42]
abbrev dktL_law_51 : List UInt8 := dkwL_law_51 ++ dktL_law_52
def dkwL_law_50 : List UInt8 := [159, 0, 5, 3, 172, 21, 5, 154, 0, 15, 45, 3, 47, 21, 6, 133, 148, 153, 0, 5, 3, 172]
abbrev dktL_law_50 : List UInt8 := dkwL_law_50 ++ dktL_law_51
def dkwL_law_49 : List UInt8 := [21, 4, 4, 96, 46, 42, 21, 4, 5, 96, 46, 182, 0, 185, 54, 6, 44, 182, 0, 136, 21, 5]
abbrev dktL_law_49 : List UInt8 := dkwL_law_49 ++ dktL_law_50
def dkwL_law_48 : List UInt8 := [167, 3, 170, 43, 42, 21, 4, 4, 96, 46, 42, 21, 4, 5, 96, 46, 45, 184, 0, 183, 54, 5, 44, 42]
abbrev dktL_law_48 : List UInt8 := dkwL_law_48 ++ dktL_law_49
def dkwL_law_47 : List UInt8 := [159, 0, 5, 3, 172, 21, 5, 154, 0, 15, 45, 3, 47, 21, 6, 133, 148, 153, 0, 5, 3, 172]
abbrev dktL_law_47 : List UInt8 := dkwL_law_47 ++ dktL_law_48
def dkwL_law_46 : List UInt8 := [21, 4, 4, 96, 46, 42, 21, 4, 5, 96, 46, 182, 0, 182, 54, 6, 44, 182, 0, 136, 21, 5]
abbrev dktL_law_46 : List UInt8 := dkwL_law_46 ++ dktL_law_47
def dkwL_law_45 : List UInt8 := [167, 3, 238, 43, 42, 21, 4, 4, 96, 46, 42, 21, 4, 5, 96, 46, 45, 184, 0, 180, 54, 5, 44, 42]
abbrev dktL_law_45 : List UInt8 := dkwL_law_45 ++ dktL_law_46
def dkwL_law_44 : List UInt8 := [159, 0, 5, 3, 172, 21, 5, 154, 0, 15, 45, 3, 47, 21, 6, 133, 148, 153, 0, 5, 3, 172]
abbrev dktL_law_44 : List UInt8 := dkwL_law_44 ++ dktL_law_45
def dkwL_law_43 : List UInt8 := [21, 4, 4, 96, 46, 42, 21, 4, 5, 96, 46, 182, 0, 179, 54, 6, 44, 182, 0, 136, 21, 5]
abbrev dktL_law_43 : List UInt8 := dkwL_law_43 ++ dktL_law_44
def dkwL_law_42 : List UInt8 := [167, 4, 50, 43, 42, 21, 4, 4, 96, 46, 42, 21, 4, 5, 96, 46, 45, 184, 0, 177, 54, 5, 44, 42]
abbrev dktL_law_42 : List UInt8 := dkwL_law_42 ++ dktL_law_43
def dkwL_law_41 : List UInt8 := [21, 5, 159, 0, 5, 3, 172, 21, 5, 154, 0, 15, 45, 3, 47, 21, 6, 133, 148, 153, 0, 5, 3, 172]
abbrev dktL_law_41 : List UInt8 := dkwL_law_41 ++ dktL_law_42
def dkwL_law_40 : List UInt8 := [46, 45, 184, 0, 174, 54, 5, 44, 42, 21, 4, 4, 96, 46, 182, 0, 176, 54, 6, 44, 182, 0, 136]
abbrev dktL_law_40 : List UInt8 := dkwL_law_40 ++ dktL_law_41
def dkwL_law_39 : List UInt8 := [154, 0, 15, 45, 3, 47, 21, 6, 133, 148, 153, 0, 5, 3, 172, 167, 4, 106, 43, 42, 21, 4, 4, 96]
abbrev dktL_law_39 : List UInt8 := dkwL_law_39 ++ dktL_law_40
def dkwL_law_38 : List UInt8 := [21, 4, 4, 96, 46, 182, 0, 173, 54, 6, 44, 182, 0, 136, 21, 5, 159, 0, 5, 3, 172, 21, 5]
abbrev dktL_law_38 : List UInt8 := dkwL_law_38 ++ dktL_law_39
def dkwL_law_37 : List UInt8 := [182, 0, 170, 159, 4, 164, 3, 172, 43, 42, 21, 4, 4, 96, 46, 45, 184, 0, 171, 54, 5, 44, 42]
abbrev dktL_law_37 : List UInt8 := dkwL_law_37 ++ dktL_law_38
def dkwL_law_36 : List UInt8 := [154, 0, 15, 45, 3, 47, 21, 6, 133, 148, 153, 0, 5, 3, 172, 167, 4, 175, 43, 182, 0, 167, 44]
abbrev dktL_law_36 : List UInt8 := dkwL_law_36 ++ dktL_law_37
def dkwL_law_35 : List UInt8 := [42, 21, 4, 5, 96, 46, 182, 0, 166, 54, 6, 44, 182, 0, 136, 21, 5, 159, 0, 5, 3, 172, 21, 5]
abbrev dktL_law_35 : List UInt8 := dkwL_law_35 ++ dktL_law_36
def dkwL_law_34 : List UInt8 := [21, 4, 4, 96, 46, 42, 21, 4, 5, 96, 46, 45, 184, 0, 164, 54, 5, 44, 42, 21, 4, 4, 96, 46]
abbrev dktL_law_34 : List UInt8 := dkwL_law_34 ++ dktL_law_35
def dkwL_law_33 : List UInt8 := [172, 21, 5, 154, 0, 15, 45, 3, 47, 21, 6, 133, 148, 153, 0, 5, 3, 172, 167, 4, 243, 43, 42]
abbrev dktL_law_33 : List UInt8 := dkwL_law_33 ++ dktL_law_34
def dkwL_law_32 : List UInt8 := [54, 5, 44, 42, 21, 4, 4, 96, 46, 182, 0, 163, 54, 6, 44, 182, 0, 136, 21, 5, 159, 0, 5, 3]
abbrev dktL_law_32 : List UInt8 := dkwL_law_32 ++ dktL_law_33
def dkwL_law_31 : List UInt8 := [21, 6, 133, 148, 153, 0, 5, 3, 172, 167, 5, 43, 43, 42, 21, 4, 4, 96, 46, 45, 184, 0, 161]
abbrev dktL_law_31 : List UInt8 := dkwL_law_31 ++ dktL_law_32
def dkwL_law_30 : List UInt8 := [182, 0, 160, 54, 6, 44, 182, 0, 136, 21, 5, 159, 0, 5, 3, 172, 21, 5, 154, 0, 15, 45, 3, 47]
abbrev dktL_law_30 : List UInt8 := dkwL_law_30 ++ dktL_law_31
def dkwL_law_29 : List UInt8 := [167, 5, 99, 43, 42, 21, 4, 4, 96, 46, 45, 184, 0, 158, 54, 5, 44, 42, 21, 4, 4, 96, 46]
abbrev dktL_law_29 : List UInt8 := dkwL_law_29 ++ dktL_law_30
def dkwL_law_28 : List UInt8 := [159, 0, 5, 3, 172, 21, 5, 154, 0, 15, 45, 3, 47, 21, 6, 133, 148, 153, 0, 5, 3, 172]
abbrev dktL_law_28 : List UInt8 := dkwL_law_28 ++ dktL_law_29
def dkwL_law_27 : List UInt8 := [21, 4, 4, 96, 46, 42, 21, 4, 5, 96, 46, 182, 0, 157, 54, 6, 44, 182, 0, 136, 21, 5]
abbrev dktL_law_27 : List UInt8 := dkwL_law_27 ++ dktL_law_28
def dkwL_law_26 : List UInt8 := [167, 5, 167, 43, 42, 21, 4, 4, 96, 46, 42, 21, 4, 5, 96, 46, 45, 184, 0, 155, 54, 5, 44, 42]
abbrev dktL_law_26 : List UInt8 := dkwL_law_26 ++ dktL_law_27
def dkwL_law_25 : List UInt8 := [159, 0, 5, 3, 172, 21, 5, 154, 0, 15, 45, 3, 47, 21, 6, 133, 148, 153, 0, 5, 3, 172]
abbrev dktL_law_25 : List UInt8 := dkwL_law_25 ++ dktL_law_26
def dkwL_law_24 : List UInt8 := [21, 4, 4, 96, 46, 42, 21, 4, 5, 96, 46, 182, 0, 154, 54, 6, 44, 182, 0, 136, 21, 5]
abbrev dktL_law_24 : List UInt8 := dkwL_law_24 ++ dktL_law_25
def dkwL_law_23 : List UInt8 := [167, 5, 235, 43, 42, 21, 4, 4, 96, 46, 42, 21, 4, 5, 96, 46, 45, 184, 0, 152, 54, 5, 44, 42]
abbrev dktL_law_23 : List UInt8 := dkwL_law_23 ++ dktL_law_24
def dkwL_law_22 : List UInt8 := [159, 0, 5, 3, 172, 21, 5, 154, 0, 15, 45, 3, 47, 21, 6, 133, 148, 153, 0, 5, 3, 172]
abbrev dktL_law_22 : List UInt8 := dkwL_law_22 ++ dktL_law_23
def dkwL_law_21 : List UInt8 := [21, 4, 4, 96, 46, 42, 21, 4, 5, 96, 46, 182, 0, 151, 54, 6, 44, 182, 0, 136, 21, 5]
abbrev dktL_law_21 : List UInt8 := dkwL_law_21 ++ dktL_law_22
def dkwL_law_20 : List UInt8 := [167, 6, 47, 43, 42, 21, 4, 4, 96, 46, 42, 21, 4, 5, 96, 46, 45, 184, 0, 149, 54, 5, 44, 42]
abbrev dktL_law_20 : List UInt8 := dkwL_law_20 ++ dktL_law_21
def dkwL_law_19 : List UInt8 := [159, 0, 5, 3, 172, 21, 5, 154, 0, 15, 45, 3, 47, 21, 6, 133, 148, 153, 0, 5, 3, 172]
abbrev dktL_law_19 : List UInt8 := dkwL_law_19 ++ dktL_law_20
def dkwL_law_18 : List UInt8 := [21, 4, 4, 96, 46, 42, 21, 4, 5, 96, 46, 182, 0, 148, 54, 6, 44, 182, 0, 136, 21, 5]
abbrev dktL_law_18 : List UInt8 := dkwL_law_18 ++ dktL_law_19
def dkwL_law_17 : List UInt8 := [167, 6, 115, 43, 42, 21, 4, 4, 96, 46, 42, 21, 4, 5, 96, 46, 45, 184, 0, 146, 54, 5, 44, 42]
abbrev dktL_law_17 : List UInt8 := dkwL_law_17 ++ dktL_law_18
def dkwL_law_16 : List UInt8 := [159, 0, 5, 3, 172, 21, 5, 154, 0, 15, 45, 3, 47, 21, 6, 133, 148, 153, 0, 5, 3, 172]
abbrev dktL_law_16 : List UInt8 := dkwL_law_16 ++ dktL_law_17
def dkwL_law_15 : List UInt8 := [21, 4, 4, 96, 46, 42, 21, 4, 5, 96, 46, 182, 0, 145, 54, 6, 44, 182, 0, 136, 21, 5]
abbrev dktL_law_15 : List UInt8 := dkwL_law_15 ++ dktL_law_16
def dkwL_law_14 : List UInt8 := [167, 6, 183, 43, 42, 21, 4, 4, 96, 46, 42, 21, 4, 5, 96, 46, 45, 184, 0, 142, 54, 5, 44, 42]
abbrev dktL_law_14 : List UInt8 := dkwL_law_14 ++ dktL_law_15
def dkwL_law_13 : List UInt8 := [21, 5, 159, 0, 5, 3, 172, 21, 5, 154, 0, 15, 45, 3, 47, 21, 6, 133, 148, 153, 0, 5, 3, 172]
abbrev dktL_law_13 : List UInt8 := dkwL_law_13 ++ dktL_law_14
def dkwL_law_12 : List UInt8 := [46, 45, 184, 0, 139, 54, 5, 44, 42, 21, 4, 4, 96, 46, 182, 0, 141, 54, 6, 44, 182, 0, 136]
abbrev dktL_law_12 : List UInt8 := dkwL_law_12 ++ dktL_law_13
def dkwL_law_11 : List UInt8 := [154, 0, 15, 45, 3, 47, 21, 6, 133, 148, 153, 0, 5, 3, 172, 167, 6, 239, 43, 42, 21, 4, 4, 96]
abbrev dktL_law_11 : List UInt8 := dkwL_law_11 ++ dktL_law_12
def dkwL_law_10 : List UInt8 := [21, 4, 4, 96, 46, 182, 0, 135, 54, 6, 44, 182, 0, 136, 21, 5, 159, 0, 5, 3, 172, 21, 5]
abbrev dktL_law_10 : List UInt8 := dkwL_law_10 ++ dktL_law_11
def dkwL_law_9 : List UInt8 := [182, 0, 129, 159, 7, 41, 3, 172, 43, 42, 21, 4, 4, 96, 46, 45, 184, 0, 130, 54, 5, 44, 42]
abbrev dktL_law_9 : List UInt8 := dkwL_law_9 ++ dktL_law_10
def dkwL_law_8 : List UInt8 := [159, 7, 67, 3, 172, 43, 182, 0, 122, 44, 182, 0, 125, 159, 7, 54, 3, 172, 43, 182, 0, 126, 44]
abbrev dktL_law_8 : List UInt8 := dkwL_law_8 ++ dktL_law_9
def dkwL_law_7 : List UInt8 := [3, 172, 43, 182, 0, 114, 44, 182, 0, 117, 159, 7, 80, 3, 172, 43, 182, 0, 118, 44, 182, 0, 121]
abbrev dktL_law_7 : List UInt8 := dkwL_law_7 ++ dktL_law_8
def dkwL_law_6 : List UInt8 := [172, 43, 42, 21, 4, 4, 96, 46, 182, 0, 109, 44, 42, 21, 4, 4, 96, 46, 182, 0, 113, 159, 7, 93]
abbrev dktL_law_6 : List UInt8 := dkwL_law_6 ++ dktL_law_7
def dkwL_law_5 : List UInt8 := [21, 4, 6, 96, 46, 42, 21, 4, 7, 96, 46, 42, 21, 4, 8, 96, 46, 182, 0, 108, 159, 7, 118, 3]
abbrev dktL_law_5 : List UInt8 := dkwL_law_5 ++ dktL_law_6
def dkwL_law_4 : List UInt8 := [46, 42, 21, 4, 8, 96, 46, 182, 0, 104, 44, 42, 21, 4, 4, 96, 46, 42, 21, 4, 5, 96, 46, 42]
abbrev dktL_law_4 : List UInt8 := dkwL_law_4 ++ dktL_law_5
def dkwL_law_3 : List UInt8 := [43, 42, 21, 4, 4, 96, 46, 42, 21, 4, 5, 96, 46, 42, 21, 4, 6, 96, 46, 42, 21, 4, 7, 96]
abbrev dktL_law_3 : List UInt8 := dkwL_law_3 ++ dktL_law_4
def dkwL_law_2 : List UInt8 := [170, 0, 0, 0, 0, 0, 8, 114, 0, 0, 0, 0, 0, 0, 0, 41, 0, 0, 0, 184, 0, 0, 1, 1, 0, 0, 1, 26, 0, 0, 1, 39, 0, 0, 1, 52, 0, 0, 1, 65, 0, 0, 1, 78, 0, 0, 1, 134, 0, 0, 1, 190, 0, 0, 2, 2, 0, 0, 2, 70, 0, 0, 2, 138, 0, 0, 2, 206, 0, 0, 3, 18, 0, 0, 3, 74, 0, 0, 3, 130, 0, 0, 3, 198, 0, 0, 3, 211, 0, 0, 4, 11, 0, 0, 4, 67, 0, 0, 4, 135, 0, 0, 4, 203, 0, 0, 5, 15, 0, 0, 5, 83, 0, 0, 5, 139, 0, 0, 5, 219, 0, 0, 5, 232, 0, 0, 5, 245, 0, 0, 6, 2, 0, 0, 6, 43, 0, 0, 6, 86, 0, 0, 6, 154, 0, 0, 6, 210, 0, 0, 7, 10, 0, 0, 7, 66, 0, 0, 7, 150, 0, 0, 7, 218, 0, 0, 8, 6, 0, 0, 8, 19, 0, 0, 8, 32, 0, 0, 8, 57, 0, 0, 8, 70]
abbrev dktL_law_2 : List UInt8 := dkwL_law_2 ++ dktL_law_3
def dkwL_law_1 : List UInt8 := [21, 4, 42, 190, 16, 6, 100, 163, 8, 130, 42, 21, 4, 46, 16, 63, 126]
abbrev dktL_law_1 : List UInt8 := dkwL_law_1 ++ dktL_law_2
def dkwL_law_0 : List UInt8 := [187, 0, 8, 89, 183, 0, 100, 76, 187, 0, 101, 89, 183, 0, 103, 77, 4, 188, 11, 78, 3, 54, 4]
abbrev dktL_law_0 : List UInt8 := dkwL_law_0 ++ dktL_law_1
theorem dksL_law_0 : cL_law.data.toList.drop 0 = dktL_law_0 := by decide +kernel
theorem dksL_law_1 : cL_law.data.toList.drop 23 = dktL_law_1 := dk_seg dksL_law_0 23 rfl rfl
theorem dksL_law_2 : cL_law.data.toList.drop 40 = dktL_law_2 := dk_seg dksL_law_1 17 rfl rfl
theorem dksL_law_3 : cL_law.data.toList.drop 224 = dktL_law_3 := dk_seg dksL_law_2 184 rfl rfl
theorem dksL_law_4 : cL_law.data.toList.drop 248 = dktL_law_4 := dk_seg dksL_law_3 24 rfl rfl
theorem dksL_law_5 : cL_law.data.toList.drop 272 = dktL_law_5 := dk_seg dksL_law_4 24 rfl rfl
theorem dksL_law_6 : cL_law.data.toList.drop 296 = dktL_law_6 := dk_seg dksL_law_5 24 rfl rfl
theorem dksL_law_7 : cL_law.data.toList.drop 320 = dktL_law_7 := dk_seg dksL_law_6 24 rfl rfl
theorem dksL_law_8 : cL_law.data.toList.drop 343 = dktL_law_8 := dk_seg dksL_law_7 23 rfl rfl
theorem dksL_law_9 : cL_law.data.toList.drop 366 = dktL_law_9 := dk_seg dksL_law_8 23 rfl rfl
theorem dksL_law_10 : cL_law.data.toList.drop 389 = dktL_law_10 := dk_seg dksL_law_9 23 rfl rfl
theorem dksL_law_11 : cL_law.data.toList.drop 412 = dktL_law_11 := dk_seg dksL_law_10 23 rfl rfl
theorem dksL_law_12 : cL_law.data.toList.drop 436 = dktL_law_12 := dk_seg dksL_law_11 24 rfl rfl
theorem dksL_law_13 : cL_law.data.toList.drop 459 = dktL_law_13 := dk_seg dksL_law_12 23 rfl rfl
theorem dksL_law_14 : cL_law.data.toList.drop 483 = dktL_law_14 := dk_seg dksL_law_13 24 rfl rfl
theorem dksL_law_15 : cL_law.data.toList.drop 507 = dktL_law_15 := dk_seg dksL_law_14 24 rfl rfl
theorem dksL_law_16 : cL_law.data.toList.drop 529 = dktL_law_16 := dk_seg dksL_law_15 22 rfl rfl
theorem dksL_law_17 : cL_law.data.toList.drop 551 = dktL_law_17 := dk_seg dksL_law_16 22 rfl rfl
theorem dksL_law_18 : cL_law.data.toList.drop 575 = dktL_law_18 := dk_seg dksL_law_17 24 rfl rfl
theorem dksL_law_19 : cL_law.data.toList.drop 597 = dktL_law_19 := dk_seg dksL_law_18 22 rfl rfl
theorem dksL_law_20 : cL_law.data.toList.drop 619 = dktL_law_20 := dk_seg dksL_law_19 22 rfl rfl
theorem dksL_law_21 : cL_law.data.toList.drop 643 = dktL_law_21 := dk_seg dksL_law_20 24 rfl rfl
theorem dksL_law_22 : cL_law.data.toList.drop 665 = dktL_law_22 := dk_seg dksL_law_21 22 rfl rfl
theorem dksL_law_23 : cL_law.data.toList.drop 687 = dktL_law_23 := dk_seg dksL_law_22 22 rfl rfl
theorem dksL_law_24 : cL_law.data.toList.drop 711 = dktL_law_24 := dk_seg dksL_law_23 24 rfl rfl
theorem dksL_law_25 : cL_law.data.toList.drop 733 = dktL_law_25 := dk_seg dksL_law_24 22 rfl rfl
theorem dksL_law_26 : cL_law.data.toList.drop 755 = dktL_law_26 := dk_seg dksL_law_25 22 rfl rfl
theorem dksL_law_27 : cL_law.data.toList.drop 779 = dktL_law_27 := dk_seg dksL_law_26 24 rfl rfl
theorem dksL_law_28 : cL_law.data.toList.drop 801 = dktL_law_28 := dk_seg dksL_law_27 22 rfl rfl
theorem dksL_law_29 : cL_law.data.toList.drop 823 = dktL_law_29 := dk_seg dksL_law_28 22 rfl rfl
theorem dksL_law_30 : cL_law.data.toList.drop 846 = dktL_law_30 := dk_seg dksL_law_29 23 rfl rfl
theorem dksL_law_31 : cL_law.data.toList.drop 870 = dktL_law_31 := dk_seg dksL_law_30 24 rfl rfl
theorem dksL_law_32 : cL_law.data.toList.drop 893 = dktL_law_32 := dk_seg dksL_law_31 23 rfl rfl
theorem dksL_law_33 : cL_law.data.toList.drop 917 = dktL_law_33 := dk_seg dksL_law_32 24 rfl rfl
theorem dksL_law_34 : cL_law.data.toList.drop 940 = dktL_law_34 := dk_seg dksL_law_33 23 rfl rfl
theorem dksL_law_35 : cL_law.data.toList.drop 964 = dktL_law_35 := dk_seg dksL_law_34 24 rfl rfl
theorem dksL_law_36 : cL_law.data.toList.drop 988 = dktL_law_36 := dk_seg dksL_law_35 24 rfl rfl
theorem dksL_law_37 : cL_law.data.toList.drop 1011 = dktL_law_37 := dk_seg dksL_law_36 23 rfl rfl
theorem dksL_law_38 : cL_law.data.toList.drop 1034 = dktL_law_38 := dk_seg dksL_law_37 23 rfl rfl
theorem dksL_law_39 : cL_law.data.toList.drop 1057 = dktL_law_39 := dk_seg dksL_law_38 23 rfl rfl
theorem dksL_law_40 : cL_law.data.toList.drop 1081 = dktL_law_40 := dk_seg dksL_law_39 24 rfl rfl
theorem dksL_law_41 : cL_law.data.toList.drop 1104 = dktL_law_41 := dk_seg dksL_law_40 23 rfl rfl
theorem dksL_law_42 : cL_law.data.toList.drop 1128 = dktL_law_42 := dk_seg dksL_law_41 24 rfl rfl
theorem dksL_law_43 : cL_law.data.toList.drop 1152 = dktL_law_43 := dk_seg dksL_law_42 24 rfl rfl
theorem dksL_law_44 : cL_law.data.toList.drop 1174 = dktL_law_44 := dk_seg dksL_law_43 22 rfl rfl
theorem dksL_law_45 : cL_law.data.toList.drop 1196 = dktL_law_45 := dk_seg dksL_law_44 22 rfl rfl
theorem dksL_law_46 : cL_law.data.toList.drop 1220 = dktL_law_46 := dk_seg dksL_law_45 24 rfl rfl
theorem dksL_law_47 : cL_law.data.toList.drop 1242 = dktL_law_47 := dk_seg dksL_law_46 22 rfl rfl
theorem dksL_law_48 : cL_law.data.toList.drop 1264 = dktL_law_48 := dk_seg dksL_law_47 22 rfl rfl
theorem dksL_law_49 : cL_law.data.toList.drop 1288 = dktL_law_49 := dk_seg dksL_law_48 24 rfl rfl
theorem dksL_law_50 : cL_law.data.toList.drop 1310 = dktL_law_50 := dk_seg dksL_law_49 22 rfl rfl
theorem dksL_law_51 : cL_law.data.toList.drop 1332 = dktL_law_51 := dk_seg dksL_law_50 22 rfl rfl
theorem dksL_law_52 : cL_law.data.toList.drop 1356 = dktL_law_52 := dk_seg dksL_law_51 24 rfl rfl
theorem dksL_law_53 : cL_law.data.toList.drop 1378 = dktL_law_53 := dk_seg dksL_law_52 22 rfl rfl
theorem dksL_law_54 : cL_law.data.toList.drop 1400 = dktL_law_54 := dk_seg dksL_law_53 22 rfl rfl
theorem dksL_law_55 : cL_law.data.toList.drop 1423 = dktL_law_55 := dk_seg dksL_law_54 23 rfl rfl
theorem dksL_law_56 : cL_law.data.toList.drop 1447 = dktL_law_56 := dk_seg dksL_law_55 24 rfl rfl
theorem dksL_law_57 : cL_law.data.toList.drop 1471 = dktL_law_57 := dk_seg dksL_law_56 24 rfl rfl
theorem dksL_law_58 : cL_law.data.toList.drop 1495 = dktL_law_58 := dk_seg dksL_law_57 24 rfl rfl
theorem dksL_law_59 : cL_law.data.toList.drop 1519 = dktL_law_59 := dk_seg dksL_law_58 24 rfl rfl
theorem dksL_law_60 : cL_law.data.toList.drop 1543 = dktL_law_60 := dk_seg dksL_law_59 24 rfl rfl
theorem dksL_law_61 : cL_law.data.toList.drop 1566 = dktL_law_61 := dk_seg dksL_law_60 23 rfl rfl
theorem dksL_law_62 : cL_law.data.toList.drop 1590 = dktL_law_62 := dk_seg dksL_law_61 24 rfl rfl
theorem dksL_law_63 : cL_law.data.toList.drop 1614 = dktL_law_63 := dk_seg dksL_law_62 24 rfl rfl
theorem dksL_law_64 : cL_law.data.toList.drop 1638 = dktL_law_64 := dk_seg dksL_law_63 24 rfl rfl
theorem dksL_law_65 : cL_law.data.toList.drop 1662 = dktL_law_65 := dk_seg dksL_law_64 24 rfl rfl
theorem dksL_law_66 : cL_law.data.toList.drop 1686 = dktL_law_66 := dk_seg dksL_law_65 24 rfl rfl
theorem dksL_law_67 : cL_law.data.toList.drop 1710 = dktL_law_67 := dk_seg dksL_law_66 24 rfl rfl
theorem dksL_law_68 : cL_law.data.toList.drop 1734 = dktL_law_68 := dk_seg dksL_law_67 24 rfl rfl
theorem dksL_law_69 : cL_law.data.toList.drop 1756 = dktL_law_69 := dk_seg dksL_law_68 22 rfl rfl
theorem dksL_law_70 : cL_law.data.toList.drop 1778 = dktL_law_70 := dk_seg dksL_law_69 22 rfl rfl
theorem dksL_law_71 : cL_law.data.toList.drop 1801 = dktL_law_71 := dk_seg dksL_law_70 23 rfl rfl
theorem dksL_law_72 : cL_law.data.toList.drop 1824 = dktL_law_72 := dk_seg dksL_law_71 23 rfl rfl
theorem dksL_law_73 : cL_law.data.toList.drop 1848 = dktL_law_73 := dk_seg dksL_law_72 24 rfl rfl
theorem dksL_law_74 : cL_law.data.toList.drop 1871 = dktL_law_74 := dk_seg dksL_law_73 23 rfl rfl
theorem dksL_law_75 : cL_law.data.toList.drop 1895 = dktL_law_75 := dk_seg dksL_law_74 24 rfl rfl
theorem dksL_law_76 : cL_law.data.toList.drop 1919 = dktL_law_76 := dk_seg dksL_law_75 24 rfl rfl
theorem dksL_law_77 : cL_law.data.toList.drop 1942 = dktL_law_77 := dk_seg dksL_law_76 23 rfl rfl
theorem dksL_law_78 : cL_law.data.toList.drop 1964 = dktL_law_78 := dk_seg dksL_law_77 22 rfl rfl
theorem dksL_law_79 : cL_law.data.toList.drop 1988 = dktL_law_79 := dk_seg dksL_law_78 24 rfl rfl
theorem dksL_law_80 : cL_law.data.toList.drop 2012 = dktL_law_80 := dk_seg dksL_law_79 24 rfl rfl
theorem dksL_law_81 : cL_law.data.toList.drop 2036 = dktL_law_81 := dk_seg dksL_law_80 24 rfl rfl
theorem dksL_law_82 : cL_law.data.toList.drop 2058 = dktL_law_82 := dk_seg dksL_law_81 22 rfl rfl
theorem dksL_law_83 : cL_law.data.toList.drop 2082 = dktL_law_83 := dk_seg dksL_law_82 24 rfl rfl
theorem dksL_law_84 : cL_law.data.toList.drop 2106 = dktL_law_84 := dk_seg dksL_law_83 24 rfl rfl
theorem dksL_law_85 : cL_law.data.toList.drop 2130 = dktL_law_85 := dk_seg dksL_law_84 24 rfl rfl
theorem dksL_law_86 : cL_law.data.toList.drop 2153 = dktL_law_86 := dk_seg dksL_law_85 23 rfl rfl
theorem dksL_law_87 : cL_law.data.toList.drop 2177 = dktL_law_87 := dk_seg dksL_law_86 24 rfl rfl
theorem dksL_law_88 : cL_law.data.toList.drop 2199 = dktL_law_88 := dk_seg dksL_law_87 22 rfl rfl
theorem dL_law_0 : decode cL_law 0 = .ok (.new 8, 3) := dk_187 0 8 (dk_at dksL_law_0 0 rfl rfl)
theorem dL_law_3 : decode cL_law 3 = .ok (.dup, 1) := dk_89 (dk_at dksL_law_0 3 rfl rfl)
theorem dL_law_4 : decode cL_law 4 = .ok (.invokespecial 100, 3) := dk_183 0 100 (dk_at dksL_law_0 4 rfl rfl)
theorem dL_law_7 : decode cL_law 7 = .ok (.astore_n 1, 1) := dk_76 (dk_at dksL_law_0 7 rfl rfl)
theorem dL_law_8 : decode cL_law 8 = .ok (.new 101, 3) := dk_187 0 101 (dk_at dksL_law_0 8 rfl rfl)
theorem dL_law_11 : decode cL_law 11 = .ok (.dup, 1) := dk_89 (dk_at dksL_law_0 11 rfl rfl)
theorem dL_law_12 : decode cL_law 12 = .ok (.invokespecial 103, 3) := dk_183 0 103 (dk_at dksL_law_0 12 rfl rfl)
theorem dL_law_15 : decode cL_law 15 = .ok (.astore_n 2, 1) := dk_77 (dk_at dksL_law_0 15 rfl rfl)
theorem dL_law_16 : decode cL_law 16 = .ok (.iconst 1, 1) := dk_4 (dk_at dksL_law_0 16 rfl rfl)
theorem dL_law_17 : decode cL_law 17 = .ok (.newarray .long, 2) := dk_188_11 (dk_at dksL_law_0 17 rfl rfl)
theorem dL_law_19 : decode cL_law 19 = .ok (.astore_n 3, 1) := dk_78 (dk_at dksL_law_0 19 rfl rfl)
theorem dL_law_20 : decode cL_law 20 = .ok (.iconst 0, 1) := dk_3 (dk_at dksL_law_0 20 rfl rfl)
theorem dL_law_21 : decode cL_law 21 = .ok (.istore 4, 2) := dk_54 4 (dk_at dksL_law_0 21 rfl rfl)
theorem dL_law_23 : decode cL_law 23 = .ok (.iload 4, 2) := dk_21 4 (dk_at dksL_law_1 0 rfl rfl)
theorem dL_law_25 : decode cL_law 25 = .ok (.aload_n 0, 1) := dk_42 (dk_at dksL_law_1 2 rfl rfl)
theorem dL_law_26 : decode cL_law 26 = .ok (.arraylength, 1) := dk_190 (dk_at dksL_law_1 3 rfl rfl)
theorem dL_law_27 : decode cL_law 27 = .ok (.bipush 6, 2) := dk_16 6 (dk_at dksL_law_1 4 rfl rfl)
theorem dL_law_29 : decode cL_law 29 = .ok (.isub, 1) := dk_100 (dk_at dksL_law_1 6 rfl rfl)
theorem dL_law_30 : decode cL_law 30 = .ok (.if_icmp .gt 2178, 3) := dk_163 8 130 (dk_at dksL_law_1 7 rfl rfl)
theorem dL_law_33 : decode cL_law 33 = .ok (.aload_n 0, 1) := dk_42 (dk_at dksL_law_1 10 rfl rfl)
theorem dL_law_34 : decode cL_law 34 = .ok (.iload 4, 2) := dk_21 4 (dk_at dksL_law_1 11 rfl rfl)
theorem dL_law_36 : decode cL_law 36 = .ok (.iaload, 1) := dk_46 (dk_at dksL_law_1 13 rfl rfl)
theorem dL_law_37 : decode cL_law 37 = .ok (.bipush 63, 2) := dk_16 63 (dk_at dksL_law_1 14 rfl rfl)
theorem dL_law_39 : decode cL_law 39 = .ok (.iand, 1) := dk_126 (dk_at dksL_law_1 16 rfl rfl)
theorem dL_law_40 : decode cL_law 40 = .ok (.tableswitch 2162 0 41 #[184, 257, 282, 295, 308, 321, 334, 390, 446, 514, 582, 650, 718, 786, 842, 898, 966, 979, 1035, 1091, 1159, 1227, 1295, 1363, 1419, 1499, 1512, 1525, 1538, 1579, 1622, 1690, 1746, 1802, 1858, 1942, 2010, 2054, 2067, 2080, 2105, 2118], 184) := by decide +kernel
theorem dL_law_224 : decode cL_law 224 = .ok (.aload_n 1, 1) := dk_43 (dk_at dksL_law_3 0 rfl rfl)
theorem dL_law_225 : decode cL_law 225 = .ok (.aload_n 0, 1) := dk_42 (dk_at dksL_law_3 1 rfl rfl)
theorem dL_law_226 : decode cL_law 226 = .ok (.iload 4, 2) := dk_21 4 (dk_at dksL_law_3 2 rfl rfl)
theorem dL_law_228 : decode cL_law 228 = .ok (.iconst 1, 1) := dk_4 (dk_at dksL_law_3 4 rfl rfl)
theorem dL_law_229 : decode cL_law 229 = .ok (.iadd, 1) := dk_96 (dk_at dksL_law_3 5 rfl rfl)
theorem dL_law_230 : decode cL_law 230 = .ok (.iaload, 1) := dk_46 (dk_at dksL_law_3 6 rfl rfl)
theorem dL_law_231 : decode cL_law 231 = .ok (.aload_n 0, 1) := dk_42 (dk_at dksL_law_3 7 rfl rfl)
theorem dL_law_232 : decode cL_law 232 = .ok (.iload 4, 2) := dk_21 4 (dk_at dksL_law_3 8 rfl rfl)
theorem dL_law_234 : decode cL_law 234 = .ok (.iconst 2, 1) := dk_5 (dk_at dksL_law_3 10 rfl rfl)
theorem dL_law_235 : decode cL_law 235 = .ok (.iadd, 1) := dk_96 (dk_at dksL_law_3 11 rfl rfl)
theorem dL_law_236 : decode cL_law 236 = .ok (.iaload, 1) := dk_46 (dk_at dksL_law_3 12 rfl rfl)
theorem dL_law_237 : decode cL_law 237 = .ok (.aload_n 0, 1) := dk_42 (dk_at dksL_law_3 13 rfl rfl)
theorem dL_law_238 : decode cL_law 238 = .ok (.iload 4, 2) := dk_21 4 (dk_at dksL_law_3 14 rfl rfl)
theorem dL_law_240 : decode cL_law 240 = .ok (.iconst 3, 1) := dk_6 (dk_at dksL_law_3 16 rfl rfl)
theorem dL_law_241 : decode cL_law 241 = .ok (.iadd, 1) := dk_96 (dk_at dksL_law_3 17 rfl rfl)
theorem dL_law_242 : decode cL_law 242 = .ok (.iaload, 1) := dk_46 (dk_at dksL_law_3 18 rfl rfl)
theorem dL_law_243 : decode cL_law 243 = .ok (.aload_n 0, 1) := dk_42 (dk_at dksL_law_3 19 rfl rfl)
theorem dL_law_244 : decode cL_law 244 = .ok (.iload 4, 2) := dk_21 4 (dk_at dksL_law_3 20 rfl rfl)
theorem dL_law_246 : decode cL_law 246 = .ok (.iconst 4, 1) := dk_7 (dk_at dksL_law_3 22 rfl rfl)
theorem dL_law_247 : decode cL_law 247 = .ok (.iadd, 1) := dk_96 (dk_at dksL_law_3 23 rfl rfl)
theorem dL_law_248 : decode cL_law 248 = .ok (.iaload, 1) := dk_46 (dk_at dksL_law_4 0 rfl rfl)
theorem dL_law_249 : decode cL_law 249 = .ok (.aload_n 0, 1) := dk_42 (dk_at dksL_law_4 1 rfl rfl)
theorem dL_law_250 : decode cL_law 250 = .ok (.iload 4, 2) := dk_21 4 (dk_at dksL_law_4 2 rfl rfl)
theorem dL_law_252 : decode cL_law 252 = .ok (.iconst 5, 1) := dk_8 (dk_at dksL_law_4 4 rfl rfl)
theorem dL_law_253 : decode cL_law 253 = .ok (.iadd, 1) := dk_96 (dk_at dksL_law_4 5 rfl rfl)
theorem dL_law_254 : decode cL_law 254 = .ok (.iaload, 1) := dk_46 (dk_at dksL_law_4 6 rfl rfl)
theorem dL_law_255 : decode cL_law 255 = .ok (.invokevirtual 104, 3) := dk_182 0 104 (dk_at dksL_law_4 7 rfl rfl)
theorem dL_law_258 : decode cL_law 258 = .ok (.aload_n 2, 1) := dk_44 (dk_at dksL_law_4 10 rfl rfl)
theorem dL_law_259 : decode cL_law 259 = .ok (.aload_n 0, 1) := dk_42 (dk_at dksL_law_4 11 rfl rfl)
theorem dL_law_260 : decode cL_law 260 = .ok (.iload 4, 2) := dk_21 4 (dk_at dksL_law_4 12 rfl rfl)
theorem dL_law_262 : decode cL_law 262 = .ok (.iconst 1, 1) := dk_4 (dk_at dksL_law_4 14 rfl rfl)
theorem dL_law_263 : decode cL_law 263 = .ok (.iadd, 1) := dk_96 (dk_at dksL_law_4 15 rfl rfl)
theorem dL_law_264 : decode cL_law 264 = .ok (.iaload, 1) := dk_46 (dk_at dksL_law_4 16 rfl rfl)
theorem dL_law_265 : decode cL_law 265 = .ok (.aload_n 0, 1) := dk_42 (dk_at dksL_law_4 17 rfl rfl)
theorem dL_law_266 : decode cL_law 266 = .ok (.iload 4, 2) := dk_21 4 (dk_at dksL_law_4 18 rfl rfl)
theorem dL_law_268 : decode cL_law 268 = .ok (.iconst 2, 1) := dk_5 (dk_at dksL_law_4 20 rfl rfl)
theorem dL_law_269 : decode cL_law 269 = .ok (.iadd, 1) := dk_96 (dk_at dksL_law_4 21 rfl rfl)
theorem dL_law_270 : decode cL_law 270 = .ok (.iaload, 1) := dk_46 (dk_at dksL_law_4 22 rfl rfl)
theorem dL_law_271 : decode cL_law 271 = .ok (.aload_n 0, 1) := dk_42 (dk_at dksL_law_4 23 rfl rfl)
theorem dL_law_272 : decode cL_law 272 = .ok (.iload 4, 2) := dk_21 4 (dk_at dksL_law_5 0 rfl rfl)
theorem dL_law_274 : decode cL_law 274 = .ok (.iconst 3, 1) := dk_6 (dk_at dksL_law_5 2 rfl rfl)
theorem dL_law_275 : decode cL_law 275 = .ok (.iadd, 1) := dk_96 (dk_at dksL_law_5 3 rfl rfl)
theorem dL_law_276 : decode cL_law 276 = .ok (.iaload, 1) := dk_46 (dk_at dksL_law_5 4 rfl rfl)
theorem dL_law_277 : decode cL_law 277 = .ok (.aload_n 0, 1) := dk_42 (dk_at dksL_law_5 5 rfl rfl)
theorem dL_law_278 : decode cL_law 278 = .ok (.iload 4, 2) := dk_21 4 (dk_at dksL_law_5 6 rfl rfl)
theorem dL_law_280 : decode cL_law 280 = .ok (.iconst 4, 1) := dk_7 (dk_at dksL_law_5 8 rfl rfl)
theorem dL_law_281 : decode cL_law 281 = .ok (.iadd, 1) := dk_96 (dk_at dksL_law_5 9 rfl rfl)
theorem dL_law_282 : decode cL_law 282 = .ok (.iaload, 1) := dk_46 (dk_at dksL_law_5 10 rfl rfl)
theorem dL_law_283 : decode cL_law 283 = .ok (.aload_n 0, 1) := dk_42 (dk_at dksL_law_5 11 rfl rfl)
theorem dL_law_284 : decode cL_law 284 = .ok (.iload 4, 2) := dk_21 4 (dk_at dksL_law_5 12 rfl rfl)
theorem dL_law_286 : decode cL_law 286 = .ok (.iconst 5, 1) := dk_8 (dk_at dksL_law_5 14 rfl rfl)
theorem dL_law_287 : decode cL_law 287 = .ok (.iadd, 1) := dk_96 (dk_at dksL_law_5 15 rfl rfl)
theorem dL_law_288 : decode cL_law 288 = .ok (.iaload, 1) := dk_46 (dk_at dksL_law_5 16 rfl rfl)
theorem dL_law_289 : decode cL_law 289 = .ok (.invokevirtual 108, 3) := dk_182 0 108 (dk_at dksL_law_5 17 rfl rfl)
theorem dL_law_292 : decode cL_law 292 = .ok (.if_icmp .eq 1910, 3) := dk_159 7 118 (dk_at dksL_law_5 20 rfl rfl)
theorem dL_law_295 : decode cL_law 295 = .ok (.iconst 0, 1) := dk_3 (dk_at dksL_law_5 23 rfl rfl)
theorem dL_law_296 : decode cL_law 296 = .ok (.ireturn, 1) := dk_172 (dk_at dksL_law_6 0 rfl rfl)
theorem dL_law_297 : decode cL_law 297 = .ok (.aload_n 1, 1) := dk_43 (dk_at dksL_law_6 1 rfl rfl)
theorem dL_law_298 : decode cL_law 298 = .ok (.aload_n 0, 1) := dk_42 (dk_at dksL_law_6 2 rfl rfl)
theorem dL_law_299 : decode cL_law 299 = .ok (.iload 4, 2) := dk_21 4 (dk_at dksL_law_6 3 rfl rfl)
theorem dL_law_301 : decode cL_law 301 = .ok (.iconst 1, 1) := dk_4 (dk_at dksL_law_6 5 rfl rfl)
theorem dL_law_302 : decode cL_law 302 = .ok (.iadd, 1) := dk_96 (dk_at dksL_law_6 6 rfl rfl)
theorem dL_law_303 : decode cL_law 303 = .ok (.iaload, 1) := dk_46 (dk_at dksL_law_6 7 rfl rfl)
theorem dL_law_304 : decode cL_law 304 = .ok (.invokevirtual 109, 3) := dk_182 0 109 (dk_at dksL_law_6 8 rfl rfl)
theorem dL_law_307 : decode cL_law 307 = .ok (.aload_n 2, 1) := dk_44 (dk_at dksL_law_6 11 rfl rfl)
theorem dL_law_308 : decode cL_law 308 = .ok (.aload_n 0, 1) := dk_42 (dk_at dksL_law_6 12 rfl rfl)
theorem dL_law_309 : decode cL_law 309 = .ok (.iload 4, 2) := dk_21 4 (dk_at dksL_law_6 13 rfl rfl)
theorem dL_law_311 : decode cL_law 311 = .ok (.iconst 1, 1) := dk_4 (dk_at dksL_law_6 15 rfl rfl)
theorem dL_law_312 : decode cL_law 312 = .ok (.iadd, 1) := dk_96 (dk_at dksL_law_6 16 rfl rfl)
theorem dL_law_313 : decode cL_law 313 = .ok (.iaload, 1) := dk_46 (dk_at dksL_law_6 17 rfl rfl)
theorem dL_law_314 : decode cL_law 314 = .ok (.invokevirtual 113, 3) := dk_182 0 113 (dk_at dksL_law_6 18 rfl rfl)
theorem dL_law_317 : decode cL_law 317 = .ok (.if_icmp .eq 1885, 3) := dk_159 7 93 (dk_at dksL_law_6 21 rfl rfl)
theorem dL_law_320 : decode cL_law 320 = .ok (.iconst 0, 1) := dk_3 (dk_at dksL_law_7 0 rfl rfl)
theorem dL_law_321 : decode cL_law 321 = .ok (.ireturn, 1) := dk_172 (dk_at dksL_law_7 1 rfl rfl)
theorem dL_law_322 : decode cL_law 322 = .ok (.aload_n 1, 1) := dk_43 (dk_at dksL_law_7 2 rfl rfl)
theorem dL_law_323 : decode cL_law 323 = .ok (.invokevirtual 114, 3) := dk_182 0 114 (dk_at dksL_law_7 3 rfl rfl)
theorem dL_law_326 : decode cL_law 326 = .ok (.aload_n 2, 1) := dk_44 (dk_at dksL_law_7 6 rfl rfl)
theorem dL_law_327 : decode cL_law 327 = .ok (.invokevirtual 117, 3) := dk_182 0 117 (dk_at dksL_law_7 7 rfl rfl)
theorem dL_law_330 : decode cL_law 330 = .ok (.if_icmp .eq 1872, 3) := dk_159 7 80 (dk_at dksL_law_7 10 rfl rfl)
theorem dL_law_333 : decode cL_law 333 = .ok (.iconst 0, 1) := dk_3 (dk_at dksL_law_7 13 rfl rfl)
theorem dL_law_334 : decode cL_law 334 = .ok (.ireturn, 1) := dk_172 (dk_at dksL_law_7 14 rfl rfl)
theorem dL_law_335 : decode cL_law 335 = .ok (.aload_n 1, 1) := dk_43 (dk_at dksL_law_7 15 rfl rfl)
theorem dL_law_336 : decode cL_law 336 = .ok (.invokevirtual 118, 3) := dk_182 0 118 (dk_at dksL_law_7 16 rfl rfl)
theorem dL_law_339 : decode cL_law 339 = .ok (.aload_n 2, 1) := dk_44 (dk_at dksL_law_7 19 rfl rfl)
theorem dL_law_340 : decode cL_law 340 = .ok (.invokevirtual 121, 3) := dk_182 0 121 (dk_at dksL_law_7 20 rfl rfl)
theorem dL_law_343 : decode cL_law 343 = .ok (.if_icmp .eq 1859, 3) := dk_159 7 67 (dk_at dksL_law_8 0 rfl rfl)
theorem dL_law_346 : decode cL_law 346 = .ok (.iconst 0, 1) := dk_3 (dk_at dksL_law_8 3 rfl rfl)
theorem dL_law_347 : decode cL_law 347 = .ok (.ireturn, 1) := dk_172 (dk_at dksL_law_8 4 rfl rfl)
theorem dL_law_348 : decode cL_law 348 = .ok (.aload_n 1, 1) := dk_43 (dk_at dksL_law_8 5 rfl rfl)
theorem dL_law_349 : decode cL_law 349 = .ok (.invokevirtual 122, 3) := dk_182 0 122 (dk_at dksL_law_8 6 rfl rfl)
theorem dL_law_352 : decode cL_law 352 = .ok (.aload_n 2, 1) := dk_44 (dk_at dksL_law_8 9 rfl rfl)
theorem dL_law_353 : decode cL_law 353 = .ok (.invokevirtual 125, 3) := dk_182 0 125 (dk_at dksL_law_8 10 rfl rfl)
theorem dL_law_356 : decode cL_law 356 = .ok (.if_icmp .eq 1846, 3) := dk_159 7 54 (dk_at dksL_law_8 13 rfl rfl)
theorem dL_law_359 : decode cL_law 359 = .ok (.iconst 0, 1) := dk_3 (dk_at dksL_law_8 16 rfl rfl)
theorem dL_law_360 : decode cL_law 360 = .ok (.ireturn, 1) := dk_172 (dk_at dksL_law_8 17 rfl rfl)
theorem dL_law_361 : decode cL_law 361 = .ok (.aload_n 1, 1) := dk_43 (dk_at dksL_law_8 18 rfl rfl)
theorem dL_law_362 : decode cL_law 362 = .ok (.invokevirtual 126, 3) := dk_182 0 126 (dk_at dksL_law_8 19 rfl rfl)
theorem dL_law_365 : decode cL_law 365 = .ok (.aload_n 2, 1) := dk_44 (dk_at dksL_law_8 22 rfl rfl)
theorem dL_law_366 : decode cL_law 366 = .ok (.invokevirtual 129, 3) := dk_182 0 129 (dk_at dksL_law_9 0 rfl rfl)
theorem dL_law_369 : decode cL_law 369 = .ok (.if_icmp .eq 1833, 3) := dk_159 7 41 (dk_at dksL_law_9 3 rfl rfl)
theorem dL_law_372 : decode cL_law 372 = .ok (.iconst 0, 1) := dk_3 (dk_at dksL_law_9 6 rfl rfl)
theorem dL_law_373 : decode cL_law 373 = .ok (.ireturn, 1) := dk_172 (dk_at dksL_law_9 7 rfl rfl)
theorem dL_law_374 : decode cL_law 374 = .ok (.aload_n 1, 1) := dk_43 (dk_at dksL_law_9 8 rfl rfl)
theorem dL_law_375 : decode cL_law 375 = .ok (.aload_n 0, 1) := dk_42 (dk_at dksL_law_9 9 rfl rfl)
theorem dL_law_376 : decode cL_law 376 = .ok (.iload 4, 2) := dk_21 4 (dk_at dksL_law_9 10 rfl rfl)
theorem dL_law_378 : decode cL_law 378 = .ok (.iconst 1, 1) := dk_4 (dk_at dksL_law_9 12 rfl rfl)
theorem dL_law_379 : decode cL_law 379 = .ok (.iadd, 1) := dk_96 (dk_at dksL_law_9 13 rfl rfl)
theorem dL_law_380 : decode cL_law 380 = .ok (.iaload, 1) := dk_46 (dk_at dksL_law_9 14 rfl rfl)
theorem dL_law_381 : decode cL_law 381 = .ok (.aload_n 3, 1) := dk_45 (dk_at dksL_law_9 15 rfl rfl)
theorem dL_law_382 : decode cL_law 382 = .ok (.invokestatic 130, 3) := dk_184 0 130 (dk_at dksL_law_9 16 rfl rfl)
theorem dL_law_385 : decode cL_law 385 = .ok (.istore 5, 2) := dk_54 5 (dk_at dksL_law_9 19 rfl rfl)
theorem dL_law_387 : decode cL_law 387 = .ok (.aload_n 2, 1) := dk_44 (dk_at dksL_law_9 21 rfl rfl)
theorem dL_law_388 : decode cL_law 388 = .ok (.aload_n 0, 1) := dk_42 (dk_at dksL_law_9 22 rfl rfl)
theorem dL_law_389 : decode cL_law 389 = .ok (.iload 4, 2) := dk_21 4 (dk_at dksL_law_10 0 rfl rfl)
theorem dL_law_391 : decode cL_law 391 = .ok (.iconst 1, 1) := dk_4 (dk_at dksL_law_10 2 rfl rfl)
theorem dL_law_392 : decode cL_law 392 = .ok (.iadd, 1) := dk_96 (dk_at dksL_law_10 3 rfl rfl)
theorem dL_law_393 : decode cL_law 393 = .ok (.iaload, 1) := dk_46 (dk_at dksL_law_10 4 rfl rfl)
theorem dL_law_394 : decode cL_law 394 = .ok (.invokevirtual 135, 3) := dk_182 0 135 (dk_at dksL_law_10 5 rfl rfl)
theorem dL_law_397 : decode cL_law 397 = .ok (.istore 6, 2) := dk_54 6 (dk_at dksL_law_10 8 rfl rfl)
theorem dL_law_399 : decode cL_law 399 = .ok (.aload_n 2, 1) := dk_44 (dk_at dksL_law_10 10 rfl rfl)
theorem dL_law_400 : decode cL_law 400 = .ok (.invokevirtual 136, 3) := dk_182 0 136 (dk_at dksL_law_10 11 rfl rfl)
theorem dL_law_403 : decode cL_law 403 = .ok (.iload 5, 2) := dk_21 5 (dk_at dksL_law_10 14 rfl rfl)
theorem dL_law_405 : decode cL_law 405 = .ok (.if_icmp .eq 5, 3) := dk_159 0 5 (dk_at dksL_law_10 16 rfl rfl)
theorem dL_law_408 : decode cL_law 408 = .ok (.iconst 0, 1) := dk_3 (dk_at dksL_law_10 19 rfl rfl)
theorem dL_law_409 : decode cL_law 409 = .ok (.ireturn, 1) := dk_172 (dk_at dksL_law_10 20 rfl rfl)
theorem dL_law_410 : decode cL_law 410 = .ok (.iload 5, 2) := dk_21 5 (dk_at dksL_law_10 21 rfl rfl)
theorem dL_law_412 : decode cL_law 412 = .ok (.ifCond .ne 15, 3) := dk_154 0 15 (dk_at dksL_law_11 0 rfl rfl)
theorem dL_law_415 : decode cL_law 415 = .ok (.aload_n 3, 1) := dk_45 (dk_at dksL_law_11 3 rfl rfl)
theorem dL_law_416 : decode cL_law 416 = .ok (.iconst 0, 1) := dk_3 (dk_at dksL_law_11 4 rfl rfl)
theorem dL_law_417 : decode cL_law 417 = .ok (.laload, 1) := dk_47 (dk_at dksL_law_11 5 rfl rfl)
theorem dL_law_418 : decode cL_law 418 = .ok (.iload 6, 2) := dk_21 6 (dk_at dksL_law_11 6 rfl rfl)
theorem dL_law_420 : decode cL_law 420 = .ok (.i2l, 1) := dk_133 (dk_at dksL_law_11 8 rfl rfl)
theorem dL_law_421 : decode cL_law 421 = .ok (.lcmp, 1) := dk_148 (dk_at dksL_law_11 9 rfl rfl)
theorem dL_law_422 : decode cL_law 422 = .ok (.ifCond .eq 5, 3) := dk_153 0 5 (dk_at dksL_law_11 10 rfl rfl)
theorem dL_law_425 : decode cL_law 425 = .ok (.iconst 0, 1) := dk_3 (dk_at dksL_law_11 13 rfl rfl)
theorem dL_law_426 : decode cL_law 426 = .ok (.ireturn, 1) := dk_172 (dk_at dksL_law_11 14 rfl rfl)
theorem dL_law_427 : decode cL_law 427 = .ok (.goto 1775, 3) := dk_167 6 239 (dk_at dksL_law_11 15 rfl rfl)
theorem dL_law_430 : decode cL_law 430 = .ok (.aload_n 1, 1) := dk_43 (dk_at dksL_law_11 18 rfl rfl)
theorem dL_law_431 : decode cL_law 431 = .ok (.aload_n 0, 1) := dk_42 (dk_at dksL_law_11 19 rfl rfl)
theorem dL_law_432 : decode cL_law 432 = .ok (.iload 4, 2) := dk_21 4 (dk_at dksL_law_11 20 rfl rfl)
theorem dL_law_434 : decode cL_law 434 = .ok (.iconst 1, 1) := dk_4 (dk_at dksL_law_11 22 rfl rfl)
theorem dL_law_435 : decode cL_law 435 = .ok (.iadd, 1) := dk_96 (dk_at dksL_law_11 23 rfl rfl)
theorem dL_law_436 : decode cL_law 436 = .ok (.iaload, 1) := dk_46 (dk_at dksL_law_12 0 rfl rfl)
theorem dL_law_437 : decode cL_law 437 = .ok (.aload_n 3, 1) := dk_45 (dk_at dksL_law_12 1 rfl rfl)
theorem dL_law_438 : decode cL_law 438 = .ok (.invokestatic 139, 3) := dk_184 0 139 (dk_at dksL_law_12 2 rfl rfl)
theorem dL_law_441 : decode cL_law 441 = .ok (.istore 5, 2) := dk_54 5 (dk_at dksL_law_12 5 rfl rfl)
theorem dL_law_443 : decode cL_law 443 = .ok (.aload_n 2, 1) := dk_44 (dk_at dksL_law_12 7 rfl rfl)
theorem dL_law_444 : decode cL_law 444 = .ok (.aload_n 0, 1) := dk_42 (dk_at dksL_law_12 8 rfl rfl)
theorem dL_law_445 : decode cL_law 445 = .ok (.iload 4, 2) := dk_21 4 (dk_at dksL_law_12 9 rfl rfl)
theorem dL_law_447 : decode cL_law 447 = .ok (.iconst 1, 1) := dk_4 (dk_at dksL_law_12 11 rfl rfl)
theorem dL_law_448 : decode cL_law 448 = .ok (.iadd, 1) := dk_96 (dk_at dksL_law_12 12 rfl rfl)
theorem dL_law_449 : decode cL_law 449 = .ok (.iaload, 1) := dk_46 (dk_at dksL_law_12 13 rfl rfl)
theorem dL_law_450 : decode cL_law 450 = .ok (.invokevirtual 141, 3) := dk_182 0 141 (dk_at dksL_law_12 14 rfl rfl)
theorem dL_law_453 : decode cL_law 453 = .ok (.istore 6, 2) := dk_54 6 (dk_at dksL_law_12 17 rfl rfl)
theorem dL_law_455 : decode cL_law 455 = .ok (.aload_n 2, 1) := dk_44 (dk_at dksL_law_12 19 rfl rfl)
theorem dL_law_456 : decode cL_law 456 = .ok (.invokevirtual 136, 3) := dk_182 0 136 (dk_at dksL_law_12 20 rfl rfl)
theorem dL_law_459 : decode cL_law 459 = .ok (.iload 5, 2) := dk_21 5 (dk_at dksL_law_13 0 rfl rfl)
theorem dL_law_461 : decode cL_law 461 = .ok (.if_icmp .eq 5, 3) := dk_159 0 5 (dk_at dksL_law_13 2 rfl rfl)
theorem dL_law_464 : decode cL_law 464 = .ok (.iconst 0, 1) := dk_3 (dk_at dksL_law_13 5 rfl rfl)
theorem dL_law_465 : decode cL_law 465 = .ok (.ireturn, 1) := dk_172 (dk_at dksL_law_13 6 rfl rfl)
theorem dL_law_466 : decode cL_law 466 = .ok (.iload 5, 2) := dk_21 5 (dk_at dksL_law_13 7 rfl rfl)
theorem dL_law_468 : decode cL_law 468 = .ok (.ifCond .ne 15, 3) := dk_154 0 15 (dk_at dksL_law_13 9 rfl rfl)
theorem dL_law_471 : decode cL_law 471 = .ok (.aload_n 3, 1) := dk_45 (dk_at dksL_law_13 12 rfl rfl)
theorem dL_law_472 : decode cL_law 472 = .ok (.iconst 0, 1) := dk_3 (dk_at dksL_law_13 13 rfl rfl)
theorem dL_law_473 : decode cL_law 473 = .ok (.laload, 1) := dk_47 (dk_at dksL_law_13 14 rfl rfl)
theorem dL_law_474 : decode cL_law 474 = .ok (.iload 6, 2) := dk_21 6 (dk_at dksL_law_13 15 rfl rfl)
theorem dL_law_476 : decode cL_law 476 = .ok (.i2l, 1) := dk_133 (dk_at dksL_law_13 17 rfl rfl)
theorem dL_law_477 : decode cL_law 477 = .ok (.lcmp, 1) := dk_148 (dk_at dksL_law_13 18 rfl rfl)
theorem dL_law_478 : decode cL_law 478 = .ok (.ifCond .eq 5, 3) := dk_153 0 5 (dk_at dksL_law_13 19 rfl rfl)
theorem dL_law_481 : decode cL_law 481 = .ok (.iconst 0, 1) := dk_3 (dk_at dksL_law_13 22 rfl rfl)
theorem dL_law_482 : decode cL_law 482 = .ok (.ireturn, 1) := dk_172 (dk_at dksL_law_13 23 rfl rfl)
theorem dL_law_483 : decode cL_law 483 = .ok (.goto 1719, 3) := dk_167 6 183 (dk_at dksL_law_14 0 rfl rfl)
theorem dL_law_486 : decode cL_law 486 = .ok (.aload_n 1, 1) := dk_43 (dk_at dksL_law_14 3 rfl rfl)
theorem dL_law_487 : decode cL_law 487 = .ok (.aload_n 0, 1) := dk_42 (dk_at dksL_law_14 4 rfl rfl)
theorem dL_law_488 : decode cL_law 488 = .ok (.iload 4, 2) := dk_21 4 (dk_at dksL_law_14 5 rfl rfl)
theorem dL_law_490 : decode cL_law 490 = .ok (.iconst 1, 1) := dk_4 (dk_at dksL_law_14 7 rfl rfl)
theorem dL_law_491 : decode cL_law 491 = .ok (.iadd, 1) := dk_96 (dk_at dksL_law_14 8 rfl rfl)
theorem dL_law_492 : decode cL_law 492 = .ok (.iaload, 1) := dk_46 (dk_at dksL_law_14 9 rfl rfl)
theorem dL_law_493 : decode cL_law 493 = .ok (.aload_n 0, 1) := dk_42 (dk_at dksL_law_14 10 rfl rfl)
theorem dL_law_494 : decode cL_law 494 = .ok (.iload 4, 2) := dk_21 4 (dk_at dksL_law_14 11 rfl rfl)
theorem dL_law_496 : decode cL_law 496 = .ok (.iconst 2, 1) := dk_5 (dk_at dksL_law_14 13 rfl rfl)
theorem dL_law_497 : decode cL_law 497 = .ok (.iadd, 1) := dk_96 (dk_at dksL_law_14 14 rfl rfl)
theorem dL_law_498 : decode cL_law 498 = .ok (.iaload, 1) := dk_46 (dk_at dksL_law_14 15 rfl rfl)
theorem dL_law_499 : decode cL_law 499 = .ok (.aload_n 3, 1) := dk_45 (dk_at dksL_law_14 16 rfl rfl)
theorem dL_law_500 : decode cL_law 500 = .ok (.invokestatic 142, 3) := dk_184 0 142 (dk_at dksL_law_14 17 rfl rfl)
theorem dL_law_503 : decode cL_law 503 = .ok (.istore 5, 2) := dk_54 5 (dk_at dksL_law_14 20 rfl rfl)
theorem dL_law_505 : decode cL_law 505 = .ok (.aload_n 2, 1) := dk_44 (dk_at dksL_law_14 22 rfl rfl)
theorem dL_law_506 : decode cL_law 506 = .ok (.aload_n 0, 1) := dk_42 (dk_at dksL_law_14 23 rfl rfl)
theorem dL_law_507 : decode cL_law 507 = .ok (.iload 4, 2) := dk_21 4 (dk_at dksL_law_15 0 rfl rfl)
theorem dL_law_509 : decode cL_law 509 = .ok (.iconst 1, 1) := dk_4 (dk_at dksL_law_15 2 rfl rfl)
theorem dL_law_510 : decode cL_law 510 = .ok (.iadd, 1) := dk_96 (dk_at dksL_law_15 3 rfl rfl)
theorem dL_law_511 : decode cL_law 511 = .ok (.iaload, 1) := dk_46 (dk_at dksL_law_15 4 rfl rfl)
theorem dL_law_512 : decode cL_law 512 = .ok (.aload_n 0, 1) := dk_42 (dk_at dksL_law_15 5 rfl rfl)
theorem dL_law_513 : decode cL_law 513 = .ok (.iload 4, 2) := dk_21 4 (dk_at dksL_law_15 6 rfl rfl)
theorem dL_law_515 : decode cL_law 515 = .ok (.iconst 2, 1) := dk_5 (dk_at dksL_law_15 8 rfl rfl)
theorem dL_law_516 : decode cL_law 516 = .ok (.iadd, 1) := dk_96 (dk_at dksL_law_15 9 rfl rfl)
theorem dL_law_517 : decode cL_law 517 = .ok (.iaload, 1) := dk_46 (dk_at dksL_law_15 10 rfl rfl)
theorem dL_law_518 : decode cL_law 518 = .ok (.invokevirtual 145, 3) := dk_182 0 145 (dk_at dksL_law_15 11 rfl rfl)
theorem dL_law_521 : decode cL_law 521 = .ok (.istore 6, 2) := dk_54 6 (dk_at dksL_law_15 14 rfl rfl)
theorem dL_law_523 : decode cL_law 523 = .ok (.aload_n 2, 1) := dk_44 (dk_at dksL_law_15 16 rfl rfl)
theorem dL_law_524 : decode cL_law 524 = .ok (.invokevirtual 136, 3) := dk_182 0 136 (dk_at dksL_law_15 17 rfl rfl)
theorem dL_law_527 : decode cL_law 527 = .ok (.iload 5, 2) := dk_21 5 (dk_at dksL_law_15 20 rfl rfl)
theorem dL_law_529 : decode cL_law 529 = .ok (.if_icmp .eq 5, 3) := dk_159 0 5 (dk_at dksL_law_16 0 rfl rfl)
theorem dL_law_532 : decode cL_law 532 = .ok (.iconst 0, 1) := dk_3 (dk_at dksL_law_16 3 rfl rfl)
theorem dL_law_533 : decode cL_law 533 = .ok (.ireturn, 1) := dk_172 (dk_at dksL_law_16 4 rfl rfl)
theorem dL_law_534 : decode cL_law 534 = .ok (.iload 5, 2) := dk_21 5 (dk_at dksL_law_16 5 rfl rfl)
theorem dL_law_536 : decode cL_law 536 = .ok (.ifCond .ne 15, 3) := dk_154 0 15 (dk_at dksL_law_16 7 rfl rfl)
theorem dL_law_539 : decode cL_law 539 = .ok (.aload_n 3, 1) := dk_45 (dk_at dksL_law_16 10 rfl rfl)
theorem dL_law_540 : decode cL_law 540 = .ok (.iconst 0, 1) := dk_3 (dk_at dksL_law_16 11 rfl rfl)
theorem dL_law_541 : decode cL_law 541 = .ok (.laload, 1) := dk_47 (dk_at dksL_law_16 12 rfl rfl)
theorem dL_law_542 : decode cL_law 542 = .ok (.iload 6, 2) := dk_21 6 (dk_at dksL_law_16 13 rfl rfl)
theorem dL_law_544 : decode cL_law 544 = .ok (.i2l, 1) := dk_133 (dk_at dksL_law_16 15 rfl rfl)
theorem dL_law_545 : decode cL_law 545 = .ok (.lcmp, 1) := dk_148 (dk_at dksL_law_16 16 rfl rfl)
theorem dL_law_546 : decode cL_law 546 = .ok (.ifCond .eq 5, 3) := dk_153 0 5 (dk_at dksL_law_16 17 rfl rfl)
theorem dL_law_549 : decode cL_law 549 = .ok (.iconst 0, 1) := dk_3 (dk_at dksL_law_16 20 rfl rfl)
theorem dL_law_550 : decode cL_law 550 = .ok (.ireturn, 1) := dk_172 (dk_at dksL_law_16 21 rfl rfl)
theorem dL_law_551 : decode cL_law 551 = .ok (.goto 1651, 3) := dk_167 6 115 (dk_at dksL_law_17 0 rfl rfl)
theorem dL_law_554 : decode cL_law 554 = .ok (.aload_n 1, 1) := dk_43 (dk_at dksL_law_17 3 rfl rfl)
theorem dL_law_555 : decode cL_law 555 = .ok (.aload_n 0, 1) := dk_42 (dk_at dksL_law_17 4 rfl rfl)
theorem dL_law_556 : decode cL_law 556 = .ok (.iload 4, 2) := dk_21 4 (dk_at dksL_law_17 5 rfl rfl)
theorem dL_law_558 : decode cL_law 558 = .ok (.iconst 1, 1) := dk_4 (dk_at dksL_law_17 7 rfl rfl)
theorem dL_law_559 : decode cL_law 559 = .ok (.iadd, 1) := dk_96 (dk_at dksL_law_17 8 rfl rfl)
theorem dL_law_560 : decode cL_law 560 = .ok (.iaload, 1) := dk_46 (dk_at dksL_law_17 9 rfl rfl)
theorem dL_law_561 : decode cL_law 561 = .ok (.aload_n 0, 1) := dk_42 (dk_at dksL_law_17 10 rfl rfl)
theorem dL_law_562 : decode cL_law 562 = .ok (.iload 4, 2) := dk_21 4 (dk_at dksL_law_17 11 rfl rfl)
theorem dL_law_564 : decode cL_law 564 = .ok (.iconst 2, 1) := dk_5 (dk_at dksL_law_17 13 rfl rfl)
theorem dL_law_565 : decode cL_law 565 = .ok (.iadd, 1) := dk_96 (dk_at dksL_law_17 14 rfl rfl)
theorem dL_law_566 : decode cL_law 566 = .ok (.iaload, 1) := dk_46 (dk_at dksL_law_17 15 rfl rfl)
theorem dL_law_567 : decode cL_law 567 = .ok (.aload_n 3, 1) := dk_45 (dk_at dksL_law_17 16 rfl rfl)
theorem dL_law_568 : decode cL_law 568 = .ok (.invokestatic 146, 3) := dk_184 0 146 (dk_at dksL_law_17 17 rfl rfl)
theorem dL_law_571 : decode cL_law 571 = .ok (.istore 5, 2) := dk_54 5 (dk_at dksL_law_17 20 rfl rfl)
theorem dL_law_573 : decode cL_law 573 = .ok (.aload_n 2, 1) := dk_44 (dk_at dksL_law_17 22 rfl rfl)
theorem dL_law_574 : decode cL_law 574 = .ok (.aload_n 0, 1) := dk_42 (dk_at dksL_law_17 23 rfl rfl)
theorem dL_law_575 : decode cL_law 575 = .ok (.iload 4, 2) := dk_21 4 (dk_at dksL_law_18 0 rfl rfl)
theorem dL_law_577 : decode cL_law 577 = .ok (.iconst 1, 1) := dk_4 (dk_at dksL_law_18 2 rfl rfl)
theorem dL_law_578 : decode cL_law 578 = .ok (.iadd, 1) := dk_96 (dk_at dksL_law_18 3 rfl rfl)
theorem dL_law_579 : decode cL_law 579 = .ok (.iaload, 1) := dk_46 (dk_at dksL_law_18 4 rfl rfl)
theorem dL_law_580 : decode cL_law 580 = .ok (.aload_n 0, 1) := dk_42 (dk_at dksL_law_18 5 rfl rfl)
theorem dL_law_581 : decode cL_law 581 = .ok (.iload 4, 2) := dk_21 4 (dk_at dksL_law_18 6 rfl rfl)
theorem dL_law_583 : decode cL_law 583 = .ok (.iconst 2, 1) := dk_5 (dk_at dksL_law_18 8 rfl rfl)
theorem dL_law_584 : decode cL_law 584 = .ok (.iadd, 1) := dk_96 (dk_at dksL_law_18 9 rfl rfl)
theorem dL_law_585 : decode cL_law 585 = .ok (.iaload, 1) := dk_46 (dk_at dksL_law_18 10 rfl rfl)
theorem dL_law_586 : decode cL_law 586 = .ok (.invokevirtual 148, 3) := dk_182 0 148 (dk_at dksL_law_18 11 rfl rfl)
theorem dL_law_589 : decode cL_law 589 = .ok (.istore 6, 2) := dk_54 6 (dk_at dksL_law_18 14 rfl rfl)
theorem dL_law_591 : decode cL_law 591 = .ok (.aload_n 2, 1) := dk_44 (dk_at dksL_law_18 16 rfl rfl)
theorem dL_law_592 : decode cL_law 592 = .ok (.invokevirtual 136, 3) := dk_182 0 136 (dk_at dksL_law_18 17 rfl rfl)
theorem dL_law_595 : decode cL_law 595 = .ok (.iload 5, 2) := dk_21 5 (dk_at dksL_law_18 20 rfl rfl)
theorem dL_law_597 : decode cL_law 597 = .ok (.if_icmp .eq 5, 3) := dk_159 0 5 (dk_at dksL_law_19 0 rfl rfl)
theorem dL_law_600 : decode cL_law 600 = .ok (.iconst 0, 1) := dk_3 (dk_at dksL_law_19 3 rfl rfl)
theorem dL_law_601 : decode cL_law 601 = .ok (.ireturn, 1) := dk_172 (dk_at dksL_law_19 4 rfl rfl)
theorem dL_law_602 : decode cL_law 602 = .ok (.iload 5, 2) := dk_21 5 (dk_at dksL_law_19 5 rfl rfl)
theorem dL_law_604 : decode cL_law 604 = .ok (.ifCond .ne 15, 3) := dk_154 0 15 (dk_at dksL_law_19 7 rfl rfl)
theorem dL_law_607 : decode cL_law 607 = .ok (.aload_n 3, 1) := dk_45 (dk_at dksL_law_19 10 rfl rfl)
theorem dL_law_608 : decode cL_law 608 = .ok (.iconst 0, 1) := dk_3 (dk_at dksL_law_19 11 rfl rfl)
theorem dL_law_609 : decode cL_law 609 = .ok (.laload, 1) := dk_47 (dk_at dksL_law_19 12 rfl rfl)
theorem dL_law_610 : decode cL_law 610 = .ok (.iload 6, 2) := dk_21 6 (dk_at dksL_law_19 13 rfl rfl)
theorem dL_law_612 : decode cL_law 612 = .ok (.i2l, 1) := dk_133 (dk_at dksL_law_19 15 rfl rfl)
theorem dL_law_613 : decode cL_law 613 = .ok (.lcmp, 1) := dk_148 (dk_at dksL_law_19 16 rfl rfl)
theorem dL_law_614 : decode cL_law 614 = .ok (.ifCond .eq 5, 3) := dk_153 0 5 (dk_at dksL_law_19 17 rfl rfl)
theorem dL_law_617 : decode cL_law 617 = .ok (.iconst 0, 1) := dk_3 (dk_at dksL_law_19 20 rfl rfl)
theorem dL_law_618 : decode cL_law 618 = .ok (.ireturn, 1) := dk_172 (dk_at dksL_law_19 21 rfl rfl)
theorem dL_law_619 : decode cL_law 619 = .ok (.goto 1583, 3) := dk_167 6 47 (dk_at dksL_law_20 0 rfl rfl)
theorem dL_law_622 : decode cL_law 622 = .ok (.aload_n 1, 1) := dk_43 (dk_at dksL_law_20 3 rfl rfl)
theorem dL_law_623 : decode cL_law 623 = .ok (.aload_n 0, 1) := dk_42 (dk_at dksL_law_20 4 rfl rfl)
theorem dL_law_624 : decode cL_law 624 = .ok (.iload 4, 2) := dk_21 4 (dk_at dksL_law_20 5 rfl rfl)
theorem dL_law_626 : decode cL_law 626 = .ok (.iconst 1, 1) := dk_4 (dk_at dksL_law_20 7 rfl rfl)
theorem dL_law_627 : decode cL_law 627 = .ok (.iadd, 1) := dk_96 (dk_at dksL_law_20 8 rfl rfl)
theorem dL_law_628 : decode cL_law 628 = .ok (.iaload, 1) := dk_46 (dk_at dksL_law_20 9 rfl rfl)
theorem dL_law_629 : decode cL_law 629 = .ok (.aload_n 0, 1) := dk_42 (dk_at dksL_law_20 10 rfl rfl)
theorem dL_law_630 : decode cL_law 630 = .ok (.iload 4, 2) := dk_21 4 (dk_at dksL_law_20 11 rfl rfl)
theorem dL_law_632 : decode cL_law 632 = .ok (.iconst 2, 1) := dk_5 (dk_at dksL_law_20 13 rfl rfl)
theorem dL_law_633 : decode cL_law 633 = .ok (.iadd, 1) := dk_96 (dk_at dksL_law_20 14 rfl rfl)
theorem dL_law_634 : decode cL_law 634 = .ok (.iaload, 1) := dk_46 (dk_at dksL_law_20 15 rfl rfl)
theorem dL_law_635 : decode cL_law 635 = .ok (.aload_n 3, 1) := dk_45 (dk_at dksL_law_20 16 rfl rfl)
theorem dL_law_636 : decode cL_law 636 = .ok (.invokestatic 149, 3) := dk_184 0 149 (dk_at dksL_law_20 17 rfl rfl)
theorem dL_law_639 : decode cL_law 639 = .ok (.istore 5, 2) := dk_54 5 (dk_at dksL_law_20 20 rfl rfl)
theorem dL_law_641 : decode cL_law 641 = .ok (.aload_n 2, 1) := dk_44 (dk_at dksL_law_20 22 rfl rfl)
theorem dL_law_642 : decode cL_law 642 = .ok (.aload_n 0, 1) := dk_42 (dk_at dksL_law_20 23 rfl rfl)
theorem dL_law_643 : decode cL_law 643 = .ok (.iload 4, 2) := dk_21 4 (dk_at dksL_law_21 0 rfl rfl)
theorem dL_law_645 : decode cL_law 645 = .ok (.iconst 1, 1) := dk_4 (dk_at dksL_law_21 2 rfl rfl)
theorem dL_law_646 : decode cL_law 646 = .ok (.iadd, 1) := dk_96 (dk_at dksL_law_21 3 rfl rfl)
theorem dL_law_647 : decode cL_law 647 = .ok (.iaload, 1) := dk_46 (dk_at dksL_law_21 4 rfl rfl)
theorem dL_law_648 : decode cL_law 648 = .ok (.aload_n 0, 1) := dk_42 (dk_at dksL_law_21 5 rfl rfl)
theorem dL_law_649 : decode cL_law 649 = .ok (.iload 4, 2) := dk_21 4 (dk_at dksL_law_21 6 rfl rfl)
theorem dL_law_651 : decode cL_law 651 = .ok (.iconst 2, 1) := dk_5 (dk_at dksL_law_21 8 rfl rfl)
theorem dL_law_652 : decode cL_law 652 = .ok (.iadd, 1) := dk_96 (dk_at dksL_law_21 9 rfl rfl)
theorem dL_law_653 : decode cL_law 653 = .ok (.iaload, 1) := dk_46 (dk_at dksL_law_21 10 rfl rfl)
theorem dL_law_654 : decode cL_law 654 = .ok (.invokevirtual 151, 3) := dk_182 0 151 (dk_at dksL_law_21 11 rfl rfl)
theorem dL_law_657 : decode cL_law 657 = .ok (.istore 6, 2) := dk_54 6 (dk_at dksL_law_21 14 rfl rfl)
theorem dL_law_659 : decode cL_law 659 = .ok (.aload_n 2, 1) := dk_44 (dk_at dksL_law_21 16 rfl rfl)
theorem dL_law_660 : decode cL_law 660 = .ok (.invokevirtual 136, 3) := dk_182 0 136 (dk_at dksL_law_21 17 rfl rfl)
theorem dL_law_663 : decode cL_law 663 = .ok (.iload 5, 2) := dk_21 5 (dk_at dksL_law_21 20 rfl rfl)
theorem dL_law_665 : decode cL_law 665 = .ok (.if_icmp .eq 5, 3) := dk_159 0 5 (dk_at dksL_law_22 0 rfl rfl)
theorem dL_law_668 : decode cL_law 668 = .ok (.iconst 0, 1) := dk_3 (dk_at dksL_law_22 3 rfl rfl)
theorem dL_law_669 : decode cL_law 669 = .ok (.ireturn, 1) := dk_172 (dk_at dksL_law_22 4 rfl rfl)
theorem dL_law_670 : decode cL_law 670 = .ok (.iload 5, 2) := dk_21 5 (dk_at dksL_law_22 5 rfl rfl)
theorem dL_law_672 : decode cL_law 672 = .ok (.ifCond .ne 15, 3) := dk_154 0 15 (dk_at dksL_law_22 7 rfl rfl)
theorem dL_law_675 : decode cL_law 675 = .ok (.aload_n 3, 1) := dk_45 (dk_at dksL_law_22 10 rfl rfl)
theorem dL_law_676 : decode cL_law 676 = .ok (.iconst 0, 1) := dk_3 (dk_at dksL_law_22 11 rfl rfl)
theorem dL_law_677 : decode cL_law 677 = .ok (.laload, 1) := dk_47 (dk_at dksL_law_22 12 rfl rfl)
theorem dL_law_678 : decode cL_law 678 = .ok (.iload 6, 2) := dk_21 6 (dk_at dksL_law_22 13 rfl rfl)
theorem dL_law_680 : decode cL_law 680 = .ok (.i2l, 1) := dk_133 (dk_at dksL_law_22 15 rfl rfl)
theorem dL_law_681 : decode cL_law 681 = .ok (.lcmp, 1) := dk_148 (dk_at dksL_law_22 16 rfl rfl)
theorem dL_law_682 : decode cL_law 682 = .ok (.ifCond .eq 5, 3) := dk_153 0 5 (dk_at dksL_law_22 17 rfl rfl)
theorem dL_law_685 : decode cL_law 685 = .ok (.iconst 0, 1) := dk_3 (dk_at dksL_law_22 20 rfl rfl)
theorem dL_law_686 : decode cL_law 686 = .ok (.ireturn, 1) := dk_172 (dk_at dksL_law_22 21 rfl rfl)
theorem dL_law_687 : decode cL_law 687 = .ok (.goto 1515, 3) := dk_167 5 235 (dk_at dksL_law_23 0 rfl rfl)
theorem dL_law_690 : decode cL_law 690 = .ok (.aload_n 1, 1) := dk_43 (dk_at dksL_law_23 3 rfl rfl)
theorem dL_law_691 : decode cL_law 691 = .ok (.aload_n 0, 1) := dk_42 (dk_at dksL_law_23 4 rfl rfl)
theorem dL_law_692 : decode cL_law 692 = .ok (.iload 4, 2) := dk_21 4 (dk_at dksL_law_23 5 rfl rfl)
theorem dL_law_694 : decode cL_law 694 = .ok (.iconst 1, 1) := dk_4 (dk_at dksL_law_23 7 rfl rfl)
theorem dL_law_695 : decode cL_law 695 = .ok (.iadd, 1) := dk_96 (dk_at dksL_law_23 8 rfl rfl)
theorem dL_law_696 : decode cL_law 696 = .ok (.iaload, 1) := dk_46 (dk_at dksL_law_23 9 rfl rfl)
theorem dL_law_697 : decode cL_law 697 = .ok (.aload_n 0, 1) := dk_42 (dk_at dksL_law_23 10 rfl rfl)
theorem dL_law_698 : decode cL_law 698 = .ok (.iload 4, 2) := dk_21 4 (dk_at dksL_law_23 11 rfl rfl)
theorem dL_law_700 : decode cL_law 700 = .ok (.iconst 2, 1) := dk_5 (dk_at dksL_law_23 13 rfl rfl)
theorem dL_law_701 : decode cL_law 701 = .ok (.iadd, 1) := dk_96 (dk_at dksL_law_23 14 rfl rfl)
theorem dL_law_702 : decode cL_law 702 = .ok (.iaload, 1) := dk_46 (dk_at dksL_law_23 15 rfl rfl)
theorem dL_law_703 : decode cL_law 703 = .ok (.aload_n 3, 1) := dk_45 (dk_at dksL_law_23 16 rfl rfl)
theorem dL_law_704 : decode cL_law 704 = .ok (.invokestatic 152, 3) := dk_184 0 152 (dk_at dksL_law_23 17 rfl rfl)
theorem dL_law_707 : decode cL_law 707 = .ok (.istore 5, 2) := dk_54 5 (dk_at dksL_law_23 20 rfl rfl)
theorem dL_law_709 : decode cL_law 709 = .ok (.aload_n 2, 1) := dk_44 (dk_at dksL_law_23 22 rfl rfl)
theorem dL_law_710 : decode cL_law 710 = .ok (.aload_n 0, 1) := dk_42 (dk_at dksL_law_23 23 rfl rfl)
theorem dL_law_711 : decode cL_law 711 = .ok (.iload 4, 2) := dk_21 4 (dk_at dksL_law_24 0 rfl rfl)
theorem dL_law_713 : decode cL_law 713 = .ok (.iconst 1, 1) := dk_4 (dk_at dksL_law_24 2 rfl rfl)
theorem dL_law_714 : decode cL_law 714 = .ok (.iadd, 1) := dk_96 (dk_at dksL_law_24 3 rfl rfl)
theorem dL_law_715 : decode cL_law 715 = .ok (.iaload, 1) := dk_46 (dk_at dksL_law_24 4 rfl rfl)
theorem dL_law_716 : decode cL_law 716 = .ok (.aload_n 0, 1) := dk_42 (dk_at dksL_law_24 5 rfl rfl)
theorem dL_law_717 : decode cL_law 717 = .ok (.iload 4, 2) := dk_21 4 (dk_at dksL_law_24 6 rfl rfl)
theorem dL_law_719 : decode cL_law 719 = .ok (.iconst 2, 1) := dk_5 (dk_at dksL_law_24 8 rfl rfl)
theorem dL_law_720 : decode cL_law 720 = .ok (.iadd, 1) := dk_96 (dk_at dksL_law_24 9 rfl rfl)
theorem dL_law_721 : decode cL_law 721 = .ok (.iaload, 1) := dk_46 (dk_at dksL_law_24 10 rfl rfl)
theorem dL_law_722 : decode cL_law 722 = .ok (.invokevirtual 154, 3) := dk_182 0 154 (dk_at dksL_law_24 11 rfl rfl)
theorem dL_law_725 : decode cL_law 725 = .ok (.istore 6, 2) := dk_54 6 (dk_at dksL_law_24 14 rfl rfl)
theorem dL_law_727 : decode cL_law 727 = .ok (.aload_n 2, 1) := dk_44 (dk_at dksL_law_24 16 rfl rfl)
theorem dL_law_728 : decode cL_law 728 = .ok (.invokevirtual 136, 3) := dk_182 0 136 (dk_at dksL_law_24 17 rfl rfl)
theorem dL_law_731 : decode cL_law 731 = .ok (.iload 5, 2) := dk_21 5 (dk_at dksL_law_24 20 rfl rfl)
theorem dL_law_733 : decode cL_law 733 = .ok (.if_icmp .eq 5, 3) := dk_159 0 5 (dk_at dksL_law_25 0 rfl rfl)
theorem dL_law_736 : decode cL_law 736 = .ok (.iconst 0, 1) := dk_3 (dk_at dksL_law_25 3 rfl rfl)
theorem dL_law_737 : decode cL_law 737 = .ok (.ireturn, 1) := dk_172 (dk_at dksL_law_25 4 rfl rfl)
theorem dL_law_738 : decode cL_law 738 = .ok (.iload 5, 2) := dk_21 5 (dk_at dksL_law_25 5 rfl rfl)
theorem dL_law_740 : decode cL_law 740 = .ok (.ifCond .ne 15, 3) := dk_154 0 15 (dk_at dksL_law_25 7 rfl rfl)
theorem dL_law_743 : decode cL_law 743 = .ok (.aload_n 3, 1) := dk_45 (dk_at dksL_law_25 10 rfl rfl)
theorem dL_law_744 : decode cL_law 744 = .ok (.iconst 0, 1) := dk_3 (dk_at dksL_law_25 11 rfl rfl)
theorem dL_law_745 : decode cL_law 745 = .ok (.laload, 1) := dk_47 (dk_at dksL_law_25 12 rfl rfl)
theorem dL_law_746 : decode cL_law 746 = .ok (.iload 6, 2) := dk_21 6 (dk_at dksL_law_25 13 rfl rfl)
theorem dL_law_748 : decode cL_law 748 = .ok (.i2l, 1) := dk_133 (dk_at dksL_law_25 15 rfl rfl)
theorem dL_law_749 : decode cL_law 749 = .ok (.lcmp, 1) := dk_148 (dk_at dksL_law_25 16 rfl rfl)
theorem dL_law_750 : decode cL_law 750 = .ok (.ifCond .eq 5, 3) := dk_153 0 5 (dk_at dksL_law_25 17 rfl rfl)
theorem dL_law_753 : decode cL_law 753 = .ok (.iconst 0, 1) := dk_3 (dk_at dksL_law_25 20 rfl rfl)
theorem dL_law_754 : decode cL_law 754 = .ok (.ireturn, 1) := dk_172 (dk_at dksL_law_25 21 rfl rfl)
theorem dL_law_755 : decode cL_law 755 = .ok (.goto 1447, 3) := dk_167 5 167 (dk_at dksL_law_26 0 rfl rfl)
theorem dL_law_758 : decode cL_law 758 = .ok (.aload_n 1, 1) := dk_43 (dk_at dksL_law_26 3 rfl rfl)
theorem dL_law_759 : decode cL_law 759 = .ok (.aload_n 0, 1) := dk_42 (dk_at dksL_law_26 4 rfl rfl)
theorem dL_law_760 : decode cL_law 760 = .ok (.iload 4, 2) := dk_21 4 (dk_at dksL_law_26 5 rfl rfl)
theorem dL_law_762 : decode cL_law 762 = .ok (.iconst 1, 1) := dk_4 (dk_at dksL_law_26 7 rfl rfl)
theorem dL_law_763 : decode cL_law 763 = .ok (.iadd, 1) := dk_96 (dk_at dksL_law_26 8 rfl rfl)
theorem dL_law_764 : decode cL_law 764 = .ok (.iaload, 1) := dk_46 (dk_at dksL_law_26 9 rfl rfl)
theorem dL_law_765 : decode cL_law 765 = .ok (.aload_n 0, 1) := dk_42 (dk_at dksL_law_26 10 rfl rfl)
theorem dL_law_766 : decode cL_law 766 = .ok (.iload 4, 2) := dk_21 4 (dk_at dksL_law_26 11 rfl rfl)
theorem dL_law_768 : decode cL_law 768 = .ok (.iconst 2, 1) := dk_5 (dk_at dksL_law_26 13 rfl rfl)
theorem dL_law_769 : decode cL_law 769 = .ok (.iadd, 1) := dk_96 (dk_at dksL_law_26 14 rfl rfl)
theorem dL_law_770 : decode cL_law 770 = .ok (.iaload, 1) := dk_46 (dk_at dksL_law_26 15 rfl rfl)
theorem dL_law_771 : decode cL_law 771 = .ok (.aload_n 3, 1) := dk_45 (dk_at dksL_law_26 16 rfl rfl)
theorem dL_law_772 : decode cL_law 772 = .ok (.invokestatic 155, 3) := dk_184 0 155 (dk_at dksL_law_26 17 rfl rfl)
theorem dL_law_775 : decode cL_law 775 = .ok (.istore 5, 2) := dk_54 5 (dk_at dksL_law_26 20 rfl rfl)
theorem dL_law_777 : decode cL_law 777 = .ok (.aload_n 2, 1) := dk_44 (dk_at dksL_law_26 22 rfl rfl)
theorem dL_law_778 : decode cL_law 778 = .ok (.aload_n 0, 1) := dk_42 (dk_at dksL_law_26 23 rfl rfl)
theorem dL_law_779 : decode cL_law 779 = .ok (.iload 4, 2) := dk_21 4 (dk_at dksL_law_27 0 rfl rfl)
theorem dL_law_781 : decode cL_law 781 = .ok (.iconst 1, 1) := dk_4 (dk_at dksL_law_27 2 rfl rfl)
theorem dL_law_782 : decode cL_law 782 = .ok (.iadd, 1) := dk_96 (dk_at dksL_law_27 3 rfl rfl)
theorem dL_law_783 : decode cL_law 783 = .ok (.iaload, 1) := dk_46 (dk_at dksL_law_27 4 rfl rfl)
theorem dL_law_784 : decode cL_law 784 = .ok (.aload_n 0, 1) := dk_42 (dk_at dksL_law_27 5 rfl rfl)
theorem dL_law_785 : decode cL_law 785 = .ok (.iload 4, 2) := dk_21 4 (dk_at dksL_law_27 6 rfl rfl)
theorem dL_law_787 : decode cL_law 787 = .ok (.iconst 2, 1) := dk_5 (dk_at dksL_law_27 8 rfl rfl)
theorem dL_law_788 : decode cL_law 788 = .ok (.iadd, 1) := dk_96 (dk_at dksL_law_27 9 rfl rfl)
theorem dL_law_789 : decode cL_law 789 = .ok (.iaload, 1) := dk_46 (dk_at dksL_law_27 10 rfl rfl)
theorem dL_law_790 : decode cL_law 790 = .ok (.invokevirtual 157, 3) := dk_182 0 157 (dk_at dksL_law_27 11 rfl rfl)
theorem dL_law_793 : decode cL_law 793 = .ok (.istore 6, 2) := dk_54 6 (dk_at dksL_law_27 14 rfl rfl)
theorem dL_law_795 : decode cL_law 795 = .ok (.aload_n 2, 1) := dk_44 (dk_at dksL_law_27 16 rfl rfl)
theorem dL_law_796 : decode cL_law 796 = .ok (.invokevirtual 136, 3) := dk_182 0 136 (dk_at dksL_law_27 17 rfl rfl)
theorem dL_law_799 : decode cL_law 799 = .ok (.iload 5, 2) := dk_21 5 (dk_at dksL_law_27 20 rfl rfl)
theorem dL_law_801 : decode cL_law 801 = .ok (.if_icmp .eq 5, 3) := dk_159 0 5 (dk_at dksL_law_28 0 rfl rfl)
theorem dL_law_804 : decode cL_law 804 = .ok (.iconst 0, 1) := dk_3 (dk_at dksL_law_28 3 rfl rfl)
theorem dL_law_805 : decode cL_law 805 = .ok (.ireturn, 1) := dk_172 (dk_at dksL_law_28 4 rfl rfl)
theorem dL_law_806 : decode cL_law 806 = .ok (.iload 5, 2) := dk_21 5 (dk_at dksL_law_28 5 rfl rfl)
theorem dL_law_808 : decode cL_law 808 = .ok (.ifCond .ne 15, 3) := dk_154 0 15 (dk_at dksL_law_28 7 rfl rfl)
theorem dL_law_811 : decode cL_law 811 = .ok (.aload_n 3, 1) := dk_45 (dk_at dksL_law_28 10 rfl rfl)
theorem dL_law_812 : decode cL_law 812 = .ok (.iconst 0, 1) := dk_3 (dk_at dksL_law_28 11 rfl rfl)
theorem dL_law_813 : decode cL_law 813 = .ok (.laload, 1) := dk_47 (dk_at dksL_law_28 12 rfl rfl)
theorem dL_law_814 : decode cL_law 814 = .ok (.iload 6, 2) := dk_21 6 (dk_at dksL_law_28 13 rfl rfl)
theorem dL_law_816 : decode cL_law 816 = .ok (.i2l, 1) := dk_133 (dk_at dksL_law_28 15 rfl rfl)
theorem dL_law_817 : decode cL_law 817 = .ok (.lcmp, 1) := dk_148 (dk_at dksL_law_28 16 rfl rfl)
theorem dL_law_818 : decode cL_law 818 = .ok (.ifCond .eq 5, 3) := dk_153 0 5 (dk_at dksL_law_28 17 rfl rfl)
theorem dL_law_821 : decode cL_law 821 = .ok (.iconst 0, 1) := dk_3 (dk_at dksL_law_28 20 rfl rfl)
theorem dL_law_822 : decode cL_law 822 = .ok (.ireturn, 1) := dk_172 (dk_at dksL_law_28 21 rfl rfl)
theorem dL_law_823 : decode cL_law 823 = .ok (.goto 1379, 3) := dk_167 5 99 (dk_at dksL_law_29 0 rfl rfl)
theorem dL_law_826 : decode cL_law 826 = .ok (.aload_n 1, 1) := dk_43 (dk_at dksL_law_29 3 rfl rfl)
theorem dL_law_827 : decode cL_law 827 = .ok (.aload_n 0, 1) := dk_42 (dk_at dksL_law_29 4 rfl rfl)
theorem dL_law_828 : decode cL_law 828 = .ok (.iload 4, 2) := dk_21 4 (dk_at dksL_law_29 5 rfl rfl)
theorem dL_law_830 : decode cL_law 830 = .ok (.iconst 1, 1) := dk_4 (dk_at dksL_law_29 7 rfl rfl)
theorem dL_law_831 : decode cL_law 831 = .ok (.iadd, 1) := dk_96 (dk_at dksL_law_29 8 rfl rfl)
theorem dL_law_832 : decode cL_law 832 = .ok (.iaload, 1) := dk_46 (dk_at dksL_law_29 9 rfl rfl)
theorem dL_law_833 : decode cL_law 833 = .ok (.aload_n 3, 1) := dk_45 (dk_at dksL_law_29 10 rfl rfl)
theorem dL_law_834 : decode cL_law 834 = .ok (.invokestatic 158, 3) := dk_184 0 158 (dk_at dksL_law_29 11 rfl rfl)
theorem dL_law_837 : decode cL_law 837 = .ok (.istore 5, 2) := dk_54 5 (dk_at dksL_law_29 14 rfl rfl)
theorem dL_law_839 : decode cL_law 839 = .ok (.aload_n 2, 1) := dk_44 (dk_at dksL_law_29 16 rfl rfl)
theorem dL_law_840 : decode cL_law 840 = .ok (.aload_n 0, 1) := dk_42 (dk_at dksL_law_29 17 rfl rfl)
theorem dL_law_841 : decode cL_law 841 = .ok (.iload 4, 2) := dk_21 4 (dk_at dksL_law_29 18 rfl rfl)
theorem dL_law_843 : decode cL_law 843 = .ok (.iconst 1, 1) := dk_4 (dk_at dksL_law_29 20 rfl rfl)
theorem dL_law_844 : decode cL_law 844 = .ok (.iadd, 1) := dk_96 (dk_at dksL_law_29 21 rfl rfl)
theorem dL_law_845 : decode cL_law 845 = .ok (.iaload, 1) := dk_46 (dk_at dksL_law_29 22 rfl rfl)
theorem dL_law_846 : decode cL_law 846 = .ok (.invokevirtual 160, 3) := dk_182 0 160 (dk_at dksL_law_30 0 rfl rfl)
theorem dL_law_849 : decode cL_law 849 = .ok (.istore 6, 2) := dk_54 6 (dk_at dksL_law_30 3 rfl rfl)
theorem dL_law_851 : decode cL_law 851 = .ok (.aload_n 2, 1) := dk_44 (dk_at dksL_law_30 5 rfl rfl)
theorem dL_law_852 : decode cL_law 852 = .ok (.invokevirtual 136, 3) := dk_182 0 136 (dk_at dksL_law_30 6 rfl rfl)
theorem dL_law_855 : decode cL_law 855 = .ok (.iload 5, 2) := dk_21 5 (dk_at dksL_law_30 9 rfl rfl)
theorem dL_law_857 : decode cL_law 857 = .ok (.if_icmp .eq 5, 3) := dk_159 0 5 (dk_at dksL_law_30 11 rfl rfl)
theorem dL_law_860 : decode cL_law 860 = .ok (.iconst 0, 1) := dk_3 (dk_at dksL_law_30 14 rfl rfl)
theorem dL_law_861 : decode cL_law 861 = .ok (.ireturn, 1) := dk_172 (dk_at dksL_law_30 15 rfl rfl)
theorem dL_law_862 : decode cL_law 862 = .ok (.iload 5, 2) := dk_21 5 (dk_at dksL_law_30 16 rfl rfl)
theorem dL_law_864 : decode cL_law 864 = .ok (.ifCond .ne 15, 3) := dk_154 0 15 (dk_at dksL_law_30 18 rfl rfl)
theorem dL_law_867 : decode cL_law 867 = .ok (.aload_n 3, 1) := dk_45 (dk_at dksL_law_30 21 rfl rfl)
theorem dL_law_868 : decode cL_law 868 = .ok (.iconst 0, 1) := dk_3 (dk_at dksL_law_30 22 rfl rfl)
theorem dL_law_869 : decode cL_law 869 = .ok (.laload, 1) := dk_47 (dk_at dksL_law_30 23 rfl rfl)
theorem dL_law_870 : decode cL_law 870 = .ok (.iload 6, 2) := dk_21 6 (dk_at dksL_law_31 0 rfl rfl)
theorem dL_law_872 : decode cL_law 872 = .ok (.i2l, 1) := dk_133 (dk_at dksL_law_31 2 rfl rfl)
theorem dL_law_873 : decode cL_law 873 = .ok (.lcmp, 1) := dk_148 (dk_at dksL_law_31 3 rfl rfl)
theorem dL_law_874 : decode cL_law 874 = .ok (.ifCond .eq 5, 3) := dk_153 0 5 (dk_at dksL_law_31 4 rfl rfl)
theorem dL_law_877 : decode cL_law 877 = .ok (.iconst 0, 1) := dk_3 (dk_at dksL_law_31 7 rfl rfl)
theorem dL_law_878 : decode cL_law 878 = .ok (.ireturn, 1) := dk_172 (dk_at dksL_law_31 8 rfl rfl)
theorem dL_law_879 : decode cL_law 879 = .ok (.goto 1323, 3) := dk_167 5 43 (dk_at dksL_law_31 9 rfl rfl)
theorem dL_law_882 : decode cL_law 882 = .ok (.aload_n 1, 1) := dk_43 (dk_at dksL_law_31 12 rfl rfl)
theorem dL_law_883 : decode cL_law 883 = .ok (.aload_n 0, 1) := dk_42 (dk_at dksL_law_31 13 rfl rfl)
theorem dL_law_884 : decode cL_law 884 = .ok (.iload 4, 2) := dk_21 4 (dk_at dksL_law_31 14 rfl rfl)
theorem dL_law_886 : decode cL_law 886 = .ok (.iconst 1, 1) := dk_4 (dk_at dksL_law_31 16 rfl rfl)
theorem dL_law_887 : decode cL_law 887 = .ok (.iadd, 1) := dk_96 (dk_at dksL_law_31 17 rfl rfl)
theorem dL_law_888 : decode cL_law 888 = .ok (.iaload, 1) := dk_46 (dk_at dksL_law_31 18 rfl rfl)
theorem dL_law_889 : decode cL_law 889 = .ok (.aload_n 3, 1) := dk_45 (dk_at dksL_law_31 19 rfl rfl)
theorem dL_law_890 : decode cL_law 890 = .ok (.invokestatic 161, 3) := dk_184 0 161 (dk_at dksL_law_31 20 rfl rfl)
theorem dL_law_893 : decode cL_law 893 = .ok (.istore 5, 2) := dk_54 5 (dk_at dksL_law_32 0 rfl rfl)
theorem dL_law_895 : decode cL_law 895 = .ok (.aload_n 2, 1) := dk_44 (dk_at dksL_law_32 2 rfl rfl)
theorem dL_law_896 : decode cL_law 896 = .ok (.aload_n 0, 1) := dk_42 (dk_at dksL_law_32 3 rfl rfl)
theorem dL_law_897 : decode cL_law 897 = .ok (.iload 4, 2) := dk_21 4 (dk_at dksL_law_32 4 rfl rfl)
theorem dL_law_899 : decode cL_law 899 = .ok (.iconst 1, 1) := dk_4 (dk_at dksL_law_32 6 rfl rfl)
theorem dL_law_900 : decode cL_law 900 = .ok (.iadd, 1) := dk_96 (dk_at dksL_law_32 7 rfl rfl)
theorem dL_law_901 : decode cL_law 901 = .ok (.iaload, 1) := dk_46 (dk_at dksL_law_32 8 rfl rfl)
theorem dL_law_902 : decode cL_law 902 = .ok (.invokevirtual 163, 3) := dk_182 0 163 (dk_at dksL_law_32 9 rfl rfl)
theorem dL_law_905 : decode cL_law 905 = .ok (.istore 6, 2) := dk_54 6 (dk_at dksL_law_32 12 rfl rfl)
theorem dL_law_907 : decode cL_law 907 = .ok (.aload_n 2, 1) := dk_44 (dk_at dksL_law_32 14 rfl rfl)
theorem dL_law_908 : decode cL_law 908 = .ok (.invokevirtual 136, 3) := dk_182 0 136 (dk_at dksL_law_32 15 rfl rfl)
theorem dL_law_911 : decode cL_law 911 = .ok (.iload 5, 2) := dk_21 5 (dk_at dksL_law_32 18 rfl rfl)
theorem dL_law_913 : decode cL_law 913 = .ok (.if_icmp .eq 5, 3) := dk_159 0 5 (dk_at dksL_law_32 20 rfl rfl)
theorem dL_law_916 : decode cL_law 916 = .ok (.iconst 0, 1) := dk_3 (dk_at dksL_law_32 23 rfl rfl)
theorem dL_law_917 : decode cL_law 917 = .ok (.ireturn, 1) := dk_172 (dk_at dksL_law_33 0 rfl rfl)
theorem dL_law_918 : decode cL_law 918 = .ok (.iload 5, 2) := dk_21 5 (dk_at dksL_law_33 1 rfl rfl)
theorem dL_law_920 : decode cL_law 920 = .ok (.ifCond .ne 15, 3) := dk_154 0 15 (dk_at dksL_law_33 3 rfl rfl)
theorem dL_law_923 : decode cL_law 923 = .ok (.aload_n 3, 1) := dk_45 (dk_at dksL_law_33 6 rfl rfl)
theorem dL_law_924 : decode cL_law 924 = .ok (.iconst 0, 1) := dk_3 (dk_at dksL_law_33 7 rfl rfl)
theorem dL_law_925 : decode cL_law 925 = .ok (.laload, 1) := dk_47 (dk_at dksL_law_33 8 rfl rfl)
theorem dL_law_926 : decode cL_law 926 = .ok (.iload 6, 2) := dk_21 6 (dk_at dksL_law_33 9 rfl rfl)
theorem dL_law_928 : decode cL_law 928 = .ok (.i2l, 1) := dk_133 (dk_at dksL_law_33 11 rfl rfl)
theorem dL_law_929 : decode cL_law 929 = .ok (.lcmp, 1) := dk_148 (dk_at dksL_law_33 12 rfl rfl)
theorem dL_law_930 : decode cL_law 930 = .ok (.ifCond .eq 5, 3) := dk_153 0 5 (dk_at dksL_law_33 13 rfl rfl)
theorem dL_law_933 : decode cL_law 933 = .ok (.iconst 0, 1) := dk_3 (dk_at dksL_law_33 16 rfl rfl)
theorem dL_law_934 : decode cL_law 934 = .ok (.ireturn, 1) := dk_172 (dk_at dksL_law_33 17 rfl rfl)
theorem dL_law_935 : decode cL_law 935 = .ok (.goto 1267, 3) := dk_167 4 243 (dk_at dksL_law_33 18 rfl rfl)
theorem dL_law_938 : decode cL_law 938 = .ok (.aload_n 1, 1) := dk_43 (dk_at dksL_law_33 21 rfl rfl)
theorem dL_law_939 : decode cL_law 939 = .ok (.aload_n 0, 1) := dk_42 (dk_at dksL_law_33 22 rfl rfl)
theorem dL_law_940 : decode cL_law 940 = .ok (.iload 4, 2) := dk_21 4 (dk_at dksL_law_34 0 rfl rfl)
theorem dL_law_942 : decode cL_law 942 = .ok (.iconst 1, 1) := dk_4 (dk_at dksL_law_34 2 rfl rfl)
theorem dL_law_943 : decode cL_law 943 = .ok (.iadd, 1) := dk_96 (dk_at dksL_law_34 3 rfl rfl)
theorem dL_law_944 : decode cL_law 944 = .ok (.iaload, 1) := dk_46 (dk_at dksL_law_34 4 rfl rfl)
theorem dL_law_945 : decode cL_law 945 = .ok (.aload_n 0, 1) := dk_42 (dk_at dksL_law_34 5 rfl rfl)
theorem dL_law_946 : decode cL_law 946 = .ok (.iload 4, 2) := dk_21 4 (dk_at dksL_law_34 6 rfl rfl)
theorem dL_law_948 : decode cL_law 948 = .ok (.iconst 2, 1) := dk_5 (dk_at dksL_law_34 8 rfl rfl)
theorem dL_law_949 : decode cL_law 949 = .ok (.iadd, 1) := dk_96 (dk_at dksL_law_34 9 rfl rfl)
theorem dL_law_950 : decode cL_law 950 = .ok (.iaload, 1) := dk_46 (dk_at dksL_law_34 10 rfl rfl)
theorem dL_law_951 : decode cL_law 951 = .ok (.aload_n 3, 1) := dk_45 (dk_at dksL_law_34 11 rfl rfl)
theorem dL_law_952 : decode cL_law 952 = .ok (.invokestatic 164, 3) := dk_184 0 164 (dk_at dksL_law_34 12 rfl rfl)
theorem dL_law_955 : decode cL_law 955 = .ok (.istore 5, 2) := dk_54 5 (dk_at dksL_law_34 15 rfl rfl)
theorem dL_law_957 : decode cL_law 957 = .ok (.aload_n 2, 1) := dk_44 (dk_at dksL_law_34 17 rfl rfl)
theorem dL_law_958 : decode cL_law 958 = .ok (.aload_n 0, 1) := dk_42 (dk_at dksL_law_34 18 rfl rfl)
theorem dL_law_959 : decode cL_law 959 = .ok (.iload 4, 2) := dk_21 4 (dk_at dksL_law_34 19 rfl rfl)
theorem dL_law_961 : decode cL_law 961 = .ok (.iconst 1, 1) := dk_4 (dk_at dksL_law_34 21 rfl rfl)
theorem dL_law_962 : decode cL_law 962 = .ok (.iadd, 1) := dk_96 (dk_at dksL_law_34 22 rfl rfl)
theorem dL_law_963 : decode cL_law 963 = .ok (.iaload, 1) := dk_46 (dk_at dksL_law_34 23 rfl rfl)
theorem dL_law_964 : decode cL_law 964 = .ok (.aload_n 0, 1) := dk_42 (dk_at dksL_law_35 0 rfl rfl)
theorem dL_law_965 : decode cL_law 965 = .ok (.iload 4, 2) := dk_21 4 (dk_at dksL_law_35 1 rfl rfl)
theorem dL_law_967 : decode cL_law 967 = .ok (.iconst 2, 1) := dk_5 (dk_at dksL_law_35 3 rfl rfl)
theorem dL_law_968 : decode cL_law 968 = .ok (.iadd, 1) := dk_96 (dk_at dksL_law_35 4 rfl rfl)
theorem dL_law_969 : decode cL_law 969 = .ok (.iaload, 1) := dk_46 (dk_at dksL_law_35 5 rfl rfl)
theorem dL_law_970 : decode cL_law 970 = .ok (.invokevirtual 166, 3) := dk_182 0 166 (dk_at dksL_law_35 6 rfl rfl)
theorem dL_law_973 : decode cL_law 973 = .ok (.istore 6, 2) := dk_54 6 (dk_at dksL_law_35 9 rfl rfl)
theorem dL_law_975 : decode cL_law 975 = .ok (.aload_n 2, 1) := dk_44 (dk_at dksL_law_35 11 rfl rfl)
theorem dL_law_976 : decode cL_law 976 = .ok (.invokevirtual 136, 3) := dk_182 0 136 (dk_at dksL_law_35 12 rfl rfl)
theorem dL_law_979 : decode cL_law 979 = .ok (.iload 5, 2) := dk_21 5 (dk_at dksL_law_35 15 rfl rfl)
theorem dL_law_981 : decode cL_law 981 = .ok (.if_icmp .eq 5, 3) := dk_159 0 5 (dk_at dksL_law_35 17 rfl rfl)
theorem dL_law_984 : decode cL_law 984 = .ok (.iconst 0, 1) := dk_3 (dk_at dksL_law_35 20 rfl rfl)
theorem dL_law_985 : decode cL_law 985 = .ok (.ireturn, 1) := dk_172 (dk_at dksL_law_35 21 rfl rfl)
theorem dL_law_986 : decode cL_law 986 = .ok (.iload 5, 2) := dk_21 5 (dk_at dksL_law_35 22 rfl rfl)
theorem dL_law_988 : decode cL_law 988 = .ok (.ifCond .ne 15, 3) := dk_154 0 15 (dk_at dksL_law_36 0 rfl rfl)
theorem dL_law_991 : decode cL_law 991 = .ok (.aload_n 3, 1) := dk_45 (dk_at dksL_law_36 3 rfl rfl)
theorem dL_law_992 : decode cL_law 992 = .ok (.iconst 0, 1) := dk_3 (dk_at dksL_law_36 4 rfl rfl)
theorem dL_law_993 : decode cL_law 993 = .ok (.laload, 1) := dk_47 (dk_at dksL_law_36 5 rfl rfl)
theorem dL_law_994 : decode cL_law 994 = .ok (.iload 6, 2) := dk_21 6 (dk_at dksL_law_36 6 rfl rfl)
theorem dL_law_996 : decode cL_law 996 = .ok (.i2l, 1) := dk_133 (dk_at dksL_law_36 8 rfl rfl)
theorem dL_law_997 : decode cL_law 997 = .ok (.lcmp, 1) := dk_148 (dk_at dksL_law_36 9 rfl rfl)
theorem dL_law_998 : decode cL_law 998 = .ok (.ifCond .eq 5, 3) := dk_153 0 5 (dk_at dksL_law_36 10 rfl rfl)
theorem dL_law_1001 : decode cL_law 1001 = .ok (.iconst 0, 1) := dk_3 (dk_at dksL_law_36 13 rfl rfl)
theorem dL_law_1002 : decode cL_law 1002 = .ok (.ireturn, 1) := dk_172 (dk_at dksL_law_36 14 rfl rfl)
theorem dL_law_1003 : decode cL_law 1003 = .ok (.goto 1199, 3) := dk_167 4 175 (dk_at dksL_law_36 15 rfl rfl)
theorem dL_law_1006 : decode cL_law 1006 = .ok (.aload_n 1, 1) := dk_43 (dk_at dksL_law_36 18 rfl rfl)
theorem dL_law_1007 : decode cL_law 1007 = .ok (.invokevirtual 167, 3) := dk_182 0 167 (dk_at dksL_law_36 19 rfl rfl)
theorem dL_law_1010 : decode cL_law 1010 = .ok (.aload_n 2, 1) := dk_44 (dk_at dksL_law_36 22 rfl rfl)
theorem dL_law_1011 : decode cL_law 1011 = .ok (.invokevirtual 170, 3) := dk_182 0 170 (dk_at dksL_law_37 0 rfl rfl)
theorem dL_law_1014 : decode cL_law 1014 = .ok (.if_icmp .eq 1188, 3) := dk_159 4 164 (dk_at dksL_law_37 3 rfl rfl)
theorem dL_law_1017 : decode cL_law 1017 = .ok (.iconst 0, 1) := dk_3 (dk_at dksL_law_37 6 rfl rfl)
theorem dL_law_1018 : decode cL_law 1018 = .ok (.ireturn, 1) := dk_172 (dk_at dksL_law_37 7 rfl rfl)
theorem dL_law_1019 : decode cL_law 1019 = .ok (.aload_n 1, 1) := dk_43 (dk_at dksL_law_37 8 rfl rfl)
theorem dL_law_1020 : decode cL_law 1020 = .ok (.aload_n 0, 1) := dk_42 (dk_at dksL_law_37 9 rfl rfl)
theorem dL_law_1021 : decode cL_law 1021 = .ok (.iload 4, 2) := dk_21 4 (dk_at dksL_law_37 10 rfl rfl)
theorem dL_law_1023 : decode cL_law 1023 = .ok (.iconst 1, 1) := dk_4 (dk_at dksL_law_37 12 rfl rfl)
theorem dL_law_1024 : decode cL_law 1024 = .ok (.iadd, 1) := dk_96 (dk_at dksL_law_37 13 rfl rfl)
theorem dL_law_1025 : decode cL_law 1025 = .ok (.iaload, 1) := dk_46 (dk_at dksL_law_37 14 rfl rfl)
theorem dL_law_1026 : decode cL_law 1026 = .ok (.aload_n 3, 1) := dk_45 (dk_at dksL_law_37 15 rfl rfl)
theorem dL_law_1027 : decode cL_law 1027 = .ok (.invokestatic 171, 3) := dk_184 0 171 (dk_at dksL_law_37 16 rfl rfl)
theorem dL_law_1030 : decode cL_law 1030 = .ok (.istore 5, 2) := dk_54 5 (dk_at dksL_law_37 19 rfl rfl)
theorem dL_law_1032 : decode cL_law 1032 = .ok (.aload_n 2, 1) := dk_44 (dk_at dksL_law_37 21 rfl rfl)
theorem dL_law_1033 : decode cL_law 1033 = .ok (.aload_n 0, 1) := dk_42 (dk_at dksL_law_37 22 rfl rfl)
theorem dL_law_1034 : decode cL_law 1034 = .ok (.iload 4, 2) := dk_21 4 (dk_at dksL_law_38 0 rfl rfl)
theorem dL_law_1036 : decode cL_law 1036 = .ok (.iconst 1, 1) := dk_4 (dk_at dksL_law_38 2 rfl rfl)
theorem dL_law_1037 : decode cL_law 1037 = .ok (.iadd, 1) := dk_96 (dk_at dksL_law_38 3 rfl rfl)
theorem dL_law_1038 : decode cL_law 1038 = .ok (.iaload, 1) := dk_46 (dk_at dksL_law_38 4 rfl rfl)
theorem dL_law_1039 : decode cL_law 1039 = .ok (.invokevirtual 173, 3) := dk_182 0 173 (dk_at dksL_law_38 5 rfl rfl)
theorem dL_law_1042 : decode cL_law 1042 = .ok (.istore 6, 2) := dk_54 6 (dk_at dksL_law_38 8 rfl rfl)
theorem dL_law_1044 : decode cL_law 1044 = .ok (.aload_n 2, 1) := dk_44 (dk_at dksL_law_38 10 rfl rfl)
theorem dL_law_1045 : decode cL_law 1045 = .ok (.invokevirtual 136, 3) := dk_182 0 136 (dk_at dksL_law_38 11 rfl rfl)
theorem dL_law_1048 : decode cL_law 1048 = .ok (.iload 5, 2) := dk_21 5 (dk_at dksL_law_38 14 rfl rfl)
theorem dL_law_1050 : decode cL_law 1050 = .ok (.if_icmp .eq 5, 3) := dk_159 0 5 (dk_at dksL_law_38 16 rfl rfl)
theorem dL_law_1053 : decode cL_law 1053 = .ok (.iconst 0, 1) := dk_3 (dk_at dksL_law_38 19 rfl rfl)
theorem dL_law_1054 : decode cL_law 1054 = .ok (.ireturn, 1) := dk_172 (dk_at dksL_law_38 20 rfl rfl)
theorem dL_law_1055 : decode cL_law 1055 = .ok (.iload 5, 2) := dk_21 5 (dk_at dksL_law_38 21 rfl rfl)
theorem dL_law_1057 : decode cL_law 1057 = .ok (.ifCond .ne 15, 3) := dk_154 0 15 (dk_at dksL_law_39 0 rfl rfl)
theorem dL_law_1060 : decode cL_law 1060 = .ok (.aload_n 3, 1) := dk_45 (dk_at dksL_law_39 3 rfl rfl)
theorem dL_law_1061 : decode cL_law 1061 = .ok (.iconst 0, 1) := dk_3 (dk_at dksL_law_39 4 rfl rfl)
theorem dL_law_1062 : decode cL_law 1062 = .ok (.laload, 1) := dk_47 (dk_at dksL_law_39 5 rfl rfl)
theorem dL_law_1063 : decode cL_law 1063 = .ok (.iload 6, 2) := dk_21 6 (dk_at dksL_law_39 6 rfl rfl)
theorem dL_law_1065 : decode cL_law 1065 = .ok (.i2l, 1) := dk_133 (dk_at dksL_law_39 8 rfl rfl)
theorem dL_law_1066 : decode cL_law 1066 = .ok (.lcmp, 1) := dk_148 (dk_at dksL_law_39 9 rfl rfl)
theorem dL_law_1067 : decode cL_law 1067 = .ok (.ifCond .eq 5, 3) := dk_153 0 5 (dk_at dksL_law_39 10 rfl rfl)
theorem dL_law_1070 : decode cL_law 1070 = .ok (.iconst 0, 1) := dk_3 (dk_at dksL_law_39 13 rfl rfl)
theorem dL_law_1071 : decode cL_law 1071 = .ok (.ireturn, 1) := dk_172 (dk_at dksL_law_39 14 rfl rfl)
theorem dL_law_1072 : decode cL_law 1072 = .ok (.goto 1130, 3) := dk_167 4 106 (dk_at dksL_law_39 15 rfl rfl)
theorem dL_law_1075 : decode cL_law 1075 = .ok (.aload_n 1, 1) := dk_43 (dk_at dksL_law_39 18 rfl rfl)
theorem dL_law_1076 : decode cL_law 1076 = .ok (.aload_n 0, 1) := dk_42 (dk_at dksL_law_39 19 rfl rfl)
theorem dL_law_1077 : decode cL_law 1077 = .ok (.iload 4, 2) := dk_21 4 (dk_at dksL_law_39 20 rfl rfl)
theorem dL_law_1079 : decode cL_law 1079 = .ok (.iconst 1, 1) := dk_4 (dk_at dksL_law_39 22 rfl rfl)
theorem dL_law_1080 : decode cL_law 1080 = .ok (.iadd, 1) := dk_96 (dk_at dksL_law_39 23 rfl rfl)
theorem dL_law_1081 : decode cL_law 1081 = .ok (.iaload, 1) := dk_46 (dk_at dksL_law_40 0 rfl rfl)
theorem dL_law_1082 : decode cL_law 1082 = .ok (.aload_n 3, 1) := dk_45 (dk_at dksL_law_40 1 rfl rfl)
theorem dL_law_1083 : decode cL_law 1083 = .ok (.invokestatic 174, 3) := dk_184 0 174 (dk_at dksL_law_40 2 rfl rfl)
theorem dL_law_1086 : decode cL_law 1086 = .ok (.istore 5, 2) := dk_54 5 (dk_at dksL_law_40 5 rfl rfl)
theorem dL_law_1088 : decode cL_law 1088 = .ok (.aload_n 2, 1) := dk_44 (dk_at dksL_law_40 7 rfl rfl)
theorem dL_law_1089 : decode cL_law 1089 = .ok (.aload_n 0, 1) := dk_42 (dk_at dksL_law_40 8 rfl rfl)
theorem dL_law_1090 : decode cL_law 1090 = .ok (.iload 4, 2) := dk_21 4 (dk_at dksL_law_40 9 rfl rfl)
theorem dL_law_1092 : decode cL_law 1092 = .ok (.iconst 1, 1) := dk_4 (dk_at dksL_law_40 11 rfl rfl)
theorem dL_law_1093 : decode cL_law 1093 = .ok (.iadd, 1) := dk_96 (dk_at dksL_law_40 12 rfl rfl)
theorem dL_law_1094 : decode cL_law 1094 = .ok (.iaload, 1) := dk_46 (dk_at dksL_law_40 13 rfl rfl)
theorem dL_law_1095 : decode cL_law 1095 = .ok (.invokevirtual 176, 3) := dk_182 0 176 (dk_at dksL_law_40 14 rfl rfl)
theorem dL_law_1098 : decode cL_law 1098 = .ok (.istore 6, 2) := dk_54 6 (dk_at dksL_law_40 17 rfl rfl)
theorem dL_law_1100 : decode cL_law 1100 = .ok (.aload_n 2, 1) := dk_44 (dk_at dksL_law_40 19 rfl rfl)
theorem dL_law_1101 : decode cL_law 1101 = .ok (.invokevirtual 136, 3) := dk_182 0 136 (dk_at dksL_law_40 20 rfl rfl)
theorem dL_law_1104 : decode cL_law 1104 = .ok (.iload 5, 2) := dk_21 5 (dk_at dksL_law_41 0 rfl rfl)
theorem dL_law_1106 : decode cL_law 1106 = .ok (.if_icmp .eq 5, 3) := dk_159 0 5 (dk_at dksL_law_41 2 rfl rfl)
theorem dL_law_1109 : decode cL_law 1109 = .ok (.iconst 0, 1) := dk_3 (dk_at dksL_law_41 5 rfl rfl)
theorem dL_law_1110 : decode cL_law 1110 = .ok (.ireturn, 1) := dk_172 (dk_at dksL_law_41 6 rfl rfl)
theorem dL_law_1111 : decode cL_law 1111 = .ok (.iload 5, 2) := dk_21 5 (dk_at dksL_law_41 7 rfl rfl)
theorem dL_law_1113 : decode cL_law 1113 = .ok (.ifCond .ne 15, 3) := dk_154 0 15 (dk_at dksL_law_41 9 rfl rfl)
theorem dL_law_1116 : decode cL_law 1116 = .ok (.aload_n 3, 1) := dk_45 (dk_at dksL_law_41 12 rfl rfl)
theorem dL_law_1117 : decode cL_law 1117 = .ok (.iconst 0, 1) := dk_3 (dk_at dksL_law_41 13 rfl rfl)
theorem dL_law_1118 : decode cL_law 1118 = .ok (.laload, 1) := dk_47 (dk_at dksL_law_41 14 rfl rfl)
theorem dL_law_1119 : decode cL_law 1119 = .ok (.iload 6, 2) := dk_21 6 (dk_at dksL_law_41 15 rfl rfl)
theorem dL_law_1121 : decode cL_law 1121 = .ok (.i2l, 1) := dk_133 (dk_at dksL_law_41 17 rfl rfl)
theorem dL_law_1122 : decode cL_law 1122 = .ok (.lcmp, 1) := dk_148 (dk_at dksL_law_41 18 rfl rfl)
theorem dL_law_1123 : decode cL_law 1123 = .ok (.ifCond .eq 5, 3) := dk_153 0 5 (dk_at dksL_law_41 19 rfl rfl)
theorem dL_law_1126 : decode cL_law 1126 = .ok (.iconst 0, 1) := dk_3 (dk_at dksL_law_41 22 rfl rfl)
theorem dL_law_1127 : decode cL_law 1127 = .ok (.ireturn, 1) := dk_172 (dk_at dksL_law_41 23 rfl rfl)
theorem dL_law_1128 : decode cL_law 1128 = .ok (.goto 1074, 3) := dk_167 4 50 (dk_at dksL_law_42 0 rfl rfl)
theorem dL_law_1131 : decode cL_law 1131 = .ok (.aload_n 1, 1) := dk_43 (dk_at dksL_law_42 3 rfl rfl)
theorem dL_law_1132 : decode cL_law 1132 = .ok (.aload_n 0, 1) := dk_42 (dk_at dksL_law_42 4 rfl rfl)
theorem dL_law_1133 : decode cL_law 1133 = .ok (.iload 4, 2) := dk_21 4 (dk_at dksL_law_42 5 rfl rfl)
theorem dL_law_1135 : decode cL_law 1135 = .ok (.iconst 1, 1) := dk_4 (dk_at dksL_law_42 7 rfl rfl)
theorem dL_law_1136 : decode cL_law 1136 = .ok (.iadd, 1) := dk_96 (dk_at dksL_law_42 8 rfl rfl)
theorem dL_law_1137 : decode cL_law 1137 = .ok (.iaload, 1) := dk_46 (dk_at dksL_law_42 9 rfl rfl)
theorem dL_law_1138 : decode cL_law 1138 = .ok (.aload_n 0, 1) := dk_42 (dk_at dksL_law_42 10 rfl rfl)
theorem dL_law_1139 : decode cL_law 1139 = .ok (.iload 4, 2) := dk_21 4 (dk_at dksL_law_42 11 rfl rfl)
theorem dL_law_1141 : decode cL_law 1141 = .ok (.iconst 2, 1) := dk_5 (dk_at dksL_law_42 13 rfl rfl)
theorem dL_law_1142 : decode cL_law 1142 = .ok (.iadd, 1) := dk_96 (dk_at dksL_law_42 14 rfl rfl)
theorem dL_law_1143 : decode cL_law 1143 = .ok (.iaload, 1) := dk_46 (dk_at dksL_law_42 15 rfl rfl)
theorem dL_law_1144 : decode cL_law 1144 = .ok (.aload_n 3, 1) := dk_45 (dk_at dksL_law_42 16 rfl rfl)
theorem dL_law_1145 : decode cL_law 1145 = .ok (.invokestatic 177, 3) := dk_184 0 177 (dk_at dksL_law_42 17 rfl rfl)
theorem dL_law_1148 : decode cL_law 1148 = .ok (.istore 5, 2) := dk_54 5 (dk_at dksL_law_42 20 rfl rfl)
theorem dL_law_1150 : decode cL_law 1150 = .ok (.aload_n 2, 1) := dk_44 (dk_at dksL_law_42 22 rfl rfl)
theorem dL_law_1151 : decode cL_law 1151 = .ok (.aload_n 0, 1) := dk_42 (dk_at dksL_law_42 23 rfl rfl)
theorem dL_law_1152 : decode cL_law 1152 = .ok (.iload 4, 2) := dk_21 4 (dk_at dksL_law_43 0 rfl rfl)
theorem dL_law_1154 : decode cL_law 1154 = .ok (.iconst 1, 1) := dk_4 (dk_at dksL_law_43 2 rfl rfl)
theorem dL_law_1155 : decode cL_law 1155 = .ok (.iadd, 1) := dk_96 (dk_at dksL_law_43 3 rfl rfl)
theorem dL_law_1156 : decode cL_law 1156 = .ok (.iaload, 1) := dk_46 (dk_at dksL_law_43 4 rfl rfl)
theorem dL_law_1157 : decode cL_law 1157 = .ok (.aload_n 0, 1) := dk_42 (dk_at dksL_law_43 5 rfl rfl)
theorem dL_law_1158 : decode cL_law 1158 = .ok (.iload 4, 2) := dk_21 4 (dk_at dksL_law_43 6 rfl rfl)
theorem dL_law_1160 : decode cL_law 1160 = .ok (.iconst 2, 1) := dk_5 (dk_at dksL_law_43 8 rfl rfl)
theorem dL_law_1161 : decode cL_law 1161 = .ok (.iadd, 1) := dk_96 (dk_at dksL_law_43 9 rfl rfl)
theorem dL_law_1162 : decode cL_law 1162 = .ok (.iaload, 1) := dk_46 (dk_at dksL_law_43 10 rfl rfl)
theorem dL_law_1163 : decode cL_law 1163 = .ok (.invokevirtual 179, 3) := dk_182 0 179 (dk_at dksL_law_43 11 rfl rfl)
theorem dL_law_1166 : decode cL_law 1166 = .ok (.istore 6, 2) := dk_54 6 (dk_at dksL_law_43 14 rfl rfl)
theorem dL_law_1168 : decode cL_law 1168 = .ok (.aload_n 2, 1) := dk_44 (dk_at dksL_law_43 16 rfl rfl)
theorem dL_law_1169 : decode cL_law 1169 = .ok (.invokevirtual 136, 3) := dk_182 0 136 (dk_at dksL_law_43 17 rfl rfl)
theorem dL_law_1172 : decode cL_law 1172 = .ok (.iload 5, 2) := dk_21 5 (dk_at dksL_law_43 20 rfl rfl)
theorem dL_law_1174 : decode cL_law 1174 = .ok (.if_icmp .eq 5, 3) := dk_159 0 5 (dk_at dksL_law_44 0 rfl rfl)
theorem dL_law_1177 : decode cL_law 1177 = .ok (.iconst 0, 1) := dk_3 (dk_at dksL_law_44 3 rfl rfl)
theorem dL_law_1178 : decode cL_law 1178 = .ok (.ireturn, 1) := dk_172 (dk_at dksL_law_44 4 rfl rfl)
theorem dL_law_1179 : decode cL_law 1179 = .ok (.iload 5, 2) := dk_21 5 (dk_at dksL_law_44 5 rfl rfl)
theorem dL_law_1181 : decode cL_law 1181 = .ok (.ifCond .ne 15, 3) := dk_154 0 15 (dk_at dksL_law_44 7 rfl rfl)
theorem dL_law_1184 : decode cL_law 1184 = .ok (.aload_n 3, 1) := dk_45 (dk_at dksL_law_44 10 rfl rfl)
theorem dL_law_1185 : decode cL_law 1185 = .ok (.iconst 0, 1) := dk_3 (dk_at dksL_law_44 11 rfl rfl)
theorem dL_law_1186 : decode cL_law 1186 = .ok (.laload, 1) := dk_47 (dk_at dksL_law_44 12 rfl rfl)
theorem dL_law_1187 : decode cL_law 1187 = .ok (.iload 6, 2) := dk_21 6 (dk_at dksL_law_44 13 rfl rfl)
theorem dL_law_1189 : decode cL_law 1189 = .ok (.i2l, 1) := dk_133 (dk_at dksL_law_44 15 rfl rfl)
theorem dL_law_1190 : decode cL_law 1190 = .ok (.lcmp, 1) := dk_148 (dk_at dksL_law_44 16 rfl rfl)
theorem dL_law_1191 : decode cL_law 1191 = .ok (.ifCond .eq 5, 3) := dk_153 0 5 (dk_at dksL_law_44 17 rfl rfl)
theorem dL_law_1194 : decode cL_law 1194 = .ok (.iconst 0, 1) := dk_3 (dk_at dksL_law_44 20 rfl rfl)
theorem dL_law_1195 : decode cL_law 1195 = .ok (.ireturn, 1) := dk_172 (dk_at dksL_law_44 21 rfl rfl)
theorem dL_law_1196 : decode cL_law 1196 = .ok (.goto 1006, 3) := dk_167 3 238 (dk_at dksL_law_45 0 rfl rfl)
theorem dL_law_1199 : decode cL_law 1199 = .ok (.aload_n 1, 1) := dk_43 (dk_at dksL_law_45 3 rfl rfl)
theorem dL_law_1200 : decode cL_law 1200 = .ok (.aload_n 0, 1) := dk_42 (dk_at dksL_law_45 4 rfl rfl)
theorem dL_law_1201 : decode cL_law 1201 = .ok (.iload 4, 2) := dk_21 4 (dk_at dksL_law_45 5 rfl rfl)
theorem dL_law_1203 : decode cL_law 1203 = .ok (.iconst 1, 1) := dk_4 (dk_at dksL_law_45 7 rfl rfl)
theorem dL_law_1204 : decode cL_law 1204 = .ok (.iadd, 1) := dk_96 (dk_at dksL_law_45 8 rfl rfl)
theorem dL_law_1205 : decode cL_law 1205 = .ok (.iaload, 1) := dk_46 (dk_at dksL_law_45 9 rfl rfl)
theorem dL_law_1206 : decode cL_law 1206 = .ok (.aload_n 0, 1) := dk_42 (dk_at dksL_law_45 10 rfl rfl)
theorem dL_law_1207 : decode cL_law 1207 = .ok (.iload 4, 2) := dk_21 4 (dk_at dksL_law_45 11 rfl rfl)
theorem dL_law_1209 : decode cL_law 1209 = .ok (.iconst 2, 1) := dk_5 (dk_at dksL_law_45 13 rfl rfl)
theorem dL_law_1210 : decode cL_law 1210 = .ok (.iadd, 1) := dk_96 (dk_at dksL_law_45 14 rfl rfl)
theorem dL_law_1211 : decode cL_law 1211 = .ok (.iaload, 1) := dk_46 (dk_at dksL_law_45 15 rfl rfl)
theorem dL_law_1212 : decode cL_law 1212 = .ok (.aload_n 3, 1) := dk_45 (dk_at dksL_law_45 16 rfl rfl)
theorem dL_law_1213 : decode cL_law 1213 = .ok (.invokestatic 180, 3) := dk_184 0 180 (dk_at dksL_law_45 17 rfl rfl)
theorem dL_law_1216 : decode cL_law 1216 = .ok (.istore 5, 2) := dk_54 5 (dk_at dksL_law_45 20 rfl rfl)
theorem dL_law_1218 : decode cL_law 1218 = .ok (.aload_n 2, 1) := dk_44 (dk_at dksL_law_45 22 rfl rfl)
theorem dL_law_1219 : decode cL_law 1219 = .ok (.aload_n 0, 1) := dk_42 (dk_at dksL_law_45 23 rfl rfl)
theorem dL_law_1220 : decode cL_law 1220 = .ok (.iload 4, 2) := dk_21 4 (dk_at dksL_law_46 0 rfl rfl)
theorem dL_law_1222 : decode cL_law 1222 = .ok (.iconst 1, 1) := dk_4 (dk_at dksL_law_46 2 rfl rfl)
theorem dL_law_1223 : decode cL_law 1223 = .ok (.iadd, 1) := dk_96 (dk_at dksL_law_46 3 rfl rfl)
theorem dL_law_1224 : decode cL_law 1224 = .ok (.iaload, 1) := dk_46 (dk_at dksL_law_46 4 rfl rfl)
theorem dL_law_1225 : decode cL_law 1225 = .ok (.aload_n 0, 1) := dk_42 (dk_at dksL_law_46 5 rfl rfl)
theorem dL_law_1226 : decode cL_law 1226 = .ok (.iload 4, 2) := dk_21 4 (dk_at dksL_law_46 6 rfl rfl)
theorem dL_law_1228 : decode cL_law 1228 = .ok (.iconst 2, 1) := dk_5 (dk_at dksL_law_46 8 rfl rfl)
theorem dL_law_1229 : decode cL_law 1229 = .ok (.iadd, 1) := dk_96 (dk_at dksL_law_46 9 rfl rfl)
theorem dL_law_1230 : decode cL_law 1230 = .ok (.iaload, 1) := dk_46 (dk_at dksL_law_46 10 rfl rfl)
theorem dL_law_1231 : decode cL_law 1231 = .ok (.invokevirtual 182, 3) := dk_182 0 182 (dk_at dksL_law_46 11 rfl rfl)
theorem dL_law_1234 : decode cL_law 1234 = .ok (.istore 6, 2) := dk_54 6 (dk_at dksL_law_46 14 rfl rfl)
theorem dL_law_1236 : decode cL_law 1236 = .ok (.aload_n 2, 1) := dk_44 (dk_at dksL_law_46 16 rfl rfl)
theorem dL_law_1237 : decode cL_law 1237 = .ok (.invokevirtual 136, 3) := dk_182 0 136 (dk_at dksL_law_46 17 rfl rfl)
theorem dL_law_1240 : decode cL_law 1240 = .ok (.iload 5, 2) := dk_21 5 (dk_at dksL_law_46 20 rfl rfl)
theorem dL_law_1242 : decode cL_law 1242 = .ok (.if_icmp .eq 5, 3) := dk_159 0 5 (dk_at dksL_law_47 0 rfl rfl)
theorem dL_law_1245 : decode cL_law 1245 = .ok (.iconst 0, 1) := dk_3 (dk_at dksL_law_47 3 rfl rfl)
theorem dL_law_1246 : decode cL_law 1246 = .ok (.ireturn, 1) := dk_172 (dk_at dksL_law_47 4 rfl rfl)
theorem dL_law_1247 : decode cL_law 1247 = .ok (.iload 5, 2) := dk_21 5 (dk_at dksL_law_47 5 rfl rfl)
theorem dL_law_1249 : decode cL_law 1249 = .ok (.ifCond .ne 15, 3) := dk_154 0 15 (dk_at dksL_law_47 7 rfl rfl)
theorem dL_law_1252 : decode cL_law 1252 = .ok (.aload_n 3, 1) := dk_45 (dk_at dksL_law_47 10 rfl rfl)
theorem dL_law_1253 : decode cL_law 1253 = .ok (.iconst 0, 1) := dk_3 (dk_at dksL_law_47 11 rfl rfl)
theorem dL_law_1254 : decode cL_law 1254 = .ok (.laload, 1) := dk_47 (dk_at dksL_law_47 12 rfl rfl)
theorem dL_law_1255 : decode cL_law 1255 = .ok (.iload 6, 2) := dk_21 6 (dk_at dksL_law_47 13 rfl rfl)
theorem dL_law_1257 : decode cL_law 1257 = .ok (.i2l, 1) := dk_133 (dk_at dksL_law_47 15 rfl rfl)
theorem dL_law_1258 : decode cL_law 1258 = .ok (.lcmp, 1) := dk_148 (dk_at dksL_law_47 16 rfl rfl)
theorem dL_law_1259 : decode cL_law 1259 = .ok (.ifCond .eq 5, 3) := dk_153 0 5 (dk_at dksL_law_47 17 rfl rfl)
theorem dL_law_1262 : decode cL_law 1262 = .ok (.iconst 0, 1) := dk_3 (dk_at dksL_law_47 20 rfl rfl)
theorem dL_law_1263 : decode cL_law 1263 = .ok (.ireturn, 1) := dk_172 (dk_at dksL_law_47 21 rfl rfl)
theorem dL_law_1264 : decode cL_law 1264 = .ok (.goto 938, 3) := dk_167 3 170 (dk_at dksL_law_48 0 rfl rfl)
theorem dL_law_1267 : decode cL_law 1267 = .ok (.aload_n 1, 1) := dk_43 (dk_at dksL_law_48 3 rfl rfl)
theorem dL_law_1268 : decode cL_law 1268 = .ok (.aload_n 0, 1) := dk_42 (dk_at dksL_law_48 4 rfl rfl)
theorem dL_law_1269 : decode cL_law 1269 = .ok (.iload 4, 2) := dk_21 4 (dk_at dksL_law_48 5 rfl rfl)
theorem dL_law_1271 : decode cL_law 1271 = .ok (.iconst 1, 1) := dk_4 (dk_at dksL_law_48 7 rfl rfl)
theorem dL_law_1272 : decode cL_law 1272 = .ok (.iadd, 1) := dk_96 (dk_at dksL_law_48 8 rfl rfl)
theorem dL_law_1273 : decode cL_law 1273 = .ok (.iaload, 1) := dk_46 (dk_at dksL_law_48 9 rfl rfl)
theorem dL_law_1274 : decode cL_law 1274 = .ok (.aload_n 0, 1) := dk_42 (dk_at dksL_law_48 10 rfl rfl)
theorem dL_law_1275 : decode cL_law 1275 = .ok (.iload 4, 2) := dk_21 4 (dk_at dksL_law_48 11 rfl rfl)
theorem dL_law_1277 : decode cL_law 1277 = .ok (.iconst 2, 1) := dk_5 (dk_at dksL_law_48 13 rfl rfl)
theorem dL_law_1278 : decode cL_law 1278 = .ok (.iadd, 1) := dk_96 (dk_at dksL_law_48 14 rfl rfl)
theorem dL_law_1279 : decode cL_law 1279 = .ok (.iaload, 1) := dk_46 (dk_at dksL_law_48 15 rfl rfl)
theorem dL_law_1280 : decode cL_law 1280 = .ok (.aload_n 3, 1) := dk_45 (dk_at dksL_law_48 16 rfl rfl)
theorem dL_law_1281 : decode cL_law 1281 = .ok (.invokestatic 183, 3) := dk_184 0 183 (dk_at dksL_law_48 17 rfl rfl)
theorem dL_law_1284 : decode cL_law 1284 = .ok (.istore 5, 2) := dk_54 5 (dk_at dksL_law_48 20 rfl rfl)
theorem dL_law_1286 : decode cL_law 1286 = .ok (.aload_n 2, 1) := dk_44 (dk_at dksL_law_48 22 rfl rfl)
theorem dL_law_1287 : decode cL_law 1287 = .ok (.aload_n 0, 1) := dk_42 (dk_at dksL_law_48 23 rfl rfl)
theorem dL_law_1288 : decode cL_law 1288 = .ok (.iload 4, 2) := dk_21 4 (dk_at dksL_law_49 0 rfl rfl)
theorem dL_law_1290 : decode cL_law 1290 = .ok (.iconst 1, 1) := dk_4 (dk_at dksL_law_49 2 rfl rfl)
theorem dL_law_1291 : decode cL_law 1291 = .ok (.iadd, 1) := dk_96 (dk_at dksL_law_49 3 rfl rfl)
theorem dL_law_1292 : decode cL_law 1292 = .ok (.iaload, 1) := dk_46 (dk_at dksL_law_49 4 rfl rfl)
theorem dL_law_1293 : decode cL_law 1293 = .ok (.aload_n 0, 1) := dk_42 (dk_at dksL_law_49 5 rfl rfl)
theorem dL_law_1294 : decode cL_law 1294 = .ok (.iload 4, 2) := dk_21 4 (dk_at dksL_law_49 6 rfl rfl)
theorem dL_law_1296 : decode cL_law 1296 = .ok (.iconst 2, 1) := dk_5 (dk_at dksL_law_49 8 rfl rfl)
theorem dL_law_1297 : decode cL_law 1297 = .ok (.iadd, 1) := dk_96 (dk_at dksL_law_49 9 rfl rfl)
theorem dL_law_1298 : decode cL_law 1298 = .ok (.iaload, 1) := dk_46 (dk_at dksL_law_49 10 rfl rfl)
theorem dL_law_1299 : decode cL_law 1299 = .ok (.invokevirtual 185, 3) := dk_182 0 185 (dk_at dksL_law_49 11 rfl rfl)
theorem dL_law_1302 : decode cL_law 1302 = .ok (.istore 6, 2) := dk_54 6 (dk_at dksL_law_49 14 rfl rfl)
theorem dL_law_1304 : decode cL_law 1304 = .ok (.aload_n 2, 1) := dk_44 (dk_at dksL_law_49 16 rfl rfl)
theorem dL_law_1305 : decode cL_law 1305 = .ok (.invokevirtual 136, 3) := dk_182 0 136 (dk_at dksL_law_49 17 rfl rfl)
theorem dL_law_1308 : decode cL_law 1308 = .ok (.iload 5, 2) := dk_21 5 (dk_at dksL_law_49 20 rfl rfl)
theorem dL_law_1310 : decode cL_law 1310 = .ok (.if_icmp .eq 5, 3) := dk_159 0 5 (dk_at dksL_law_50 0 rfl rfl)
theorem dL_law_1313 : decode cL_law 1313 = .ok (.iconst 0, 1) := dk_3 (dk_at dksL_law_50 3 rfl rfl)
theorem dL_law_1314 : decode cL_law 1314 = .ok (.ireturn, 1) := dk_172 (dk_at dksL_law_50 4 rfl rfl)
theorem dL_law_1315 : decode cL_law 1315 = .ok (.iload 5, 2) := dk_21 5 (dk_at dksL_law_50 5 rfl rfl)
theorem dL_law_1317 : decode cL_law 1317 = .ok (.ifCond .ne 15, 3) := dk_154 0 15 (dk_at dksL_law_50 7 rfl rfl)
theorem dL_law_1320 : decode cL_law 1320 = .ok (.aload_n 3, 1) := dk_45 (dk_at dksL_law_50 10 rfl rfl)
theorem dL_law_1321 : decode cL_law 1321 = .ok (.iconst 0, 1) := dk_3 (dk_at dksL_law_50 11 rfl rfl)
theorem dL_law_1322 : decode cL_law 1322 = .ok (.laload, 1) := dk_47 (dk_at dksL_law_50 12 rfl rfl)
theorem dL_law_1323 : decode cL_law 1323 = .ok (.iload 6, 2) := dk_21 6 (dk_at dksL_law_50 13 rfl rfl)
theorem dL_law_1325 : decode cL_law 1325 = .ok (.i2l, 1) := dk_133 (dk_at dksL_law_50 15 rfl rfl)
theorem dL_law_1326 : decode cL_law 1326 = .ok (.lcmp, 1) := dk_148 (dk_at dksL_law_50 16 rfl rfl)
theorem dL_law_1327 : decode cL_law 1327 = .ok (.ifCond .eq 5, 3) := dk_153 0 5 (dk_at dksL_law_50 17 rfl rfl)
theorem dL_law_1330 : decode cL_law 1330 = .ok (.iconst 0, 1) := dk_3 (dk_at dksL_law_50 20 rfl rfl)
theorem dL_law_1331 : decode cL_law 1331 = .ok (.ireturn, 1) := dk_172 (dk_at dksL_law_50 21 rfl rfl)
theorem dL_law_1332 : decode cL_law 1332 = .ok (.goto 870, 3) := dk_167 3 102 (dk_at dksL_law_51 0 rfl rfl)
theorem dL_law_1335 : decode cL_law 1335 = .ok (.aload_n 1, 1) := dk_43 (dk_at dksL_law_51 3 rfl rfl)
theorem dL_law_1336 : decode cL_law 1336 = .ok (.aload_n 0, 1) := dk_42 (dk_at dksL_law_51 4 rfl rfl)
theorem dL_law_1337 : decode cL_law 1337 = .ok (.iload 4, 2) := dk_21 4 (dk_at dksL_law_51 5 rfl rfl)
theorem dL_law_1339 : decode cL_law 1339 = .ok (.iconst 1, 1) := dk_4 (dk_at dksL_law_51 7 rfl rfl)
theorem dL_law_1340 : decode cL_law 1340 = .ok (.iadd, 1) := dk_96 (dk_at dksL_law_51 8 rfl rfl)
theorem dL_law_1341 : decode cL_law 1341 = .ok (.iaload, 1) := dk_46 (dk_at dksL_law_51 9 rfl rfl)
theorem dL_law_1342 : decode cL_law 1342 = .ok (.aload_n 0, 1) := dk_42 (dk_at dksL_law_51 10 rfl rfl)
theorem dL_law_1343 : decode cL_law 1343 = .ok (.iload 4, 2) := dk_21 4 (dk_at dksL_law_51 11 rfl rfl)
theorem dL_law_1345 : decode cL_law 1345 = .ok (.iconst 2, 1) := dk_5 (dk_at dksL_law_51 13 rfl rfl)
theorem dL_law_1346 : decode cL_law 1346 = .ok (.iadd, 1) := dk_96 (dk_at dksL_law_51 14 rfl rfl)
theorem dL_law_1347 : decode cL_law 1347 = .ok (.iaload, 1) := dk_46 (dk_at dksL_law_51 15 rfl rfl)
theorem dL_law_1348 : decode cL_law 1348 = .ok (.aload_n 3, 1) := dk_45 (dk_at dksL_law_51 16 rfl rfl)
theorem dL_law_1349 : decode cL_law 1349 = .ok (.invokestatic 186, 3) := dk_184 0 186 (dk_at dksL_law_51 17 rfl rfl)
theorem dL_law_1352 : decode cL_law 1352 = .ok (.istore 5, 2) := dk_54 5 (dk_at dksL_law_51 20 rfl rfl)
theorem dL_law_1354 : decode cL_law 1354 = .ok (.aload_n 2, 1) := dk_44 (dk_at dksL_law_51 22 rfl rfl)
theorem dL_law_1355 : decode cL_law 1355 = .ok (.aload_n 0, 1) := dk_42 (dk_at dksL_law_51 23 rfl rfl)
theorem dL_law_1356 : decode cL_law 1356 = .ok (.iload 4, 2) := dk_21 4 (dk_at dksL_law_52 0 rfl rfl)
theorem dL_law_1358 : decode cL_law 1358 = .ok (.iconst 1, 1) := dk_4 (dk_at dksL_law_52 2 rfl rfl)
theorem dL_law_1359 : decode cL_law 1359 = .ok (.iadd, 1) := dk_96 (dk_at dksL_law_52 3 rfl rfl)
theorem dL_law_1360 : decode cL_law 1360 = .ok (.iaload, 1) := dk_46 (dk_at dksL_law_52 4 rfl rfl)
theorem dL_law_1361 : decode cL_law 1361 = .ok (.aload_n 0, 1) := dk_42 (dk_at dksL_law_52 5 rfl rfl)
theorem dL_law_1362 : decode cL_law 1362 = .ok (.iload 4, 2) := dk_21 4 (dk_at dksL_law_52 6 rfl rfl)
theorem dL_law_1364 : decode cL_law 1364 = .ok (.iconst 2, 1) := dk_5 (dk_at dksL_law_52 8 rfl rfl)
theorem dL_law_1365 : decode cL_law 1365 = .ok (.iadd, 1) := dk_96 (dk_at dksL_law_52 9 rfl rfl)
theorem dL_law_1366 : decode cL_law 1366 = .ok (.iaload, 1) := dk_46 (dk_at dksL_law_52 10 rfl rfl)
theorem dL_law_1367 : decode cL_law 1367 = .ok (.invokevirtual 188, 3) := dk_182 0 188 (dk_at dksL_law_52 11 rfl rfl)
theorem dL_law_1370 : decode cL_law 1370 = .ok (.istore 6, 2) := dk_54 6 (dk_at dksL_law_52 14 rfl rfl)
theorem dL_law_1372 : decode cL_law 1372 = .ok (.aload_n 2, 1) := dk_44 (dk_at dksL_law_52 16 rfl rfl)
theorem dL_law_1373 : decode cL_law 1373 = .ok (.invokevirtual 136, 3) := dk_182 0 136 (dk_at dksL_law_52 17 rfl rfl)
theorem dL_law_1376 : decode cL_law 1376 = .ok (.iload 5, 2) := dk_21 5 (dk_at dksL_law_52 20 rfl rfl)
theorem dL_law_1378 : decode cL_law 1378 = .ok (.if_icmp .eq 5, 3) := dk_159 0 5 (dk_at dksL_law_53 0 rfl rfl)
theorem dL_law_1381 : decode cL_law 1381 = .ok (.iconst 0, 1) := dk_3 (dk_at dksL_law_53 3 rfl rfl)
theorem dL_law_1382 : decode cL_law 1382 = .ok (.ireturn, 1) := dk_172 (dk_at dksL_law_53 4 rfl rfl)
theorem dL_law_1383 : decode cL_law 1383 = .ok (.iload 5, 2) := dk_21 5 (dk_at dksL_law_53 5 rfl rfl)
theorem dL_law_1385 : decode cL_law 1385 = .ok (.ifCond .ne 15, 3) := dk_154 0 15 (dk_at dksL_law_53 7 rfl rfl)
theorem dL_law_1388 : decode cL_law 1388 = .ok (.aload_n 3, 1) := dk_45 (dk_at dksL_law_53 10 rfl rfl)
theorem dL_law_1389 : decode cL_law 1389 = .ok (.iconst 0, 1) := dk_3 (dk_at dksL_law_53 11 rfl rfl)
theorem dL_law_1390 : decode cL_law 1390 = .ok (.laload, 1) := dk_47 (dk_at dksL_law_53 12 rfl rfl)
theorem dL_law_1391 : decode cL_law 1391 = .ok (.iload 6, 2) := dk_21 6 (dk_at dksL_law_53 13 rfl rfl)
theorem dL_law_1393 : decode cL_law 1393 = .ok (.i2l, 1) := dk_133 (dk_at dksL_law_53 15 rfl rfl)
theorem dL_law_1394 : decode cL_law 1394 = .ok (.lcmp, 1) := dk_148 (dk_at dksL_law_53 16 rfl rfl)
theorem dL_law_1395 : decode cL_law 1395 = .ok (.ifCond .eq 5, 3) := dk_153 0 5 (dk_at dksL_law_53 17 rfl rfl)
theorem dL_law_1398 : decode cL_law 1398 = .ok (.iconst 0, 1) := dk_3 (dk_at dksL_law_53 20 rfl rfl)
theorem dL_law_1399 : decode cL_law 1399 = .ok (.ireturn, 1) := dk_172 (dk_at dksL_law_53 21 rfl rfl)
theorem dL_law_1400 : decode cL_law 1400 = .ok (.goto 802, 3) := dk_167 3 34 (dk_at dksL_law_54 0 rfl rfl)
theorem dL_law_1403 : decode cL_law 1403 = .ok (.aload_n 1, 1) := dk_43 (dk_at dksL_law_54 3 rfl rfl)
theorem dL_law_1404 : decode cL_law 1404 = .ok (.aload_n 0, 1) := dk_42 (dk_at dksL_law_54 4 rfl rfl)
theorem dL_law_1405 : decode cL_law 1405 = .ok (.iload 4, 2) := dk_21 4 (dk_at dksL_law_54 5 rfl rfl)
theorem dL_law_1407 : decode cL_law 1407 = .ok (.iconst 1, 1) := dk_4 (dk_at dksL_law_54 7 rfl rfl)
theorem dL_law_1408 : decode cL_law 1408 = .ok (.iadd, 1) := dk_96 (dk_at dksL_law_54 8 rfl rfl)
theorem dL_law_1409 : decode cL_law 1409 = .ok (.iaload, 1) := dk_46 (dk_at dksL_law_54 9 rfl rfl)
theorem dL_law_1410 : decode cL_law 1410 = .ok (.aload_n 3, 1) := dk_45 (dk_at dksL_law_54 10 rfl rfl)
theorem dL_law_1411 : decode cL_law 1411 = .ok (.invokestatic 189, 3) := dk_184 0 189 (dk_at dksL_law_54 11 rfl rfl)
theorem dL_law_1414 : decode cL_law 1414 = .ok (.istore 5, 2) := dk_54 5 (dk_at dksL_law_54 14 rfl rfl)
theorem dL_law_1416 : decode cL_law 1416 = .ok (.aload_n 2, 1) := dk_44 (dk_at dksL_law_54 16 rfl rfl)
theorem dL_law_1417 : decode cL_law 1417 = .ok (.aload_n 0, 1) := dk_42 (dk_at dksL_law_54 17 rfl rfl)
theorem dL_law_1418 : decode cL_law 1418 = .ok (.iload 4, 2) := dk_21 4 (dk_at dksL_law_54 18 rfl rfl)
theorem dL_law_1420 : decode cL_law 1420 = .ok (.iconst 1, 1) := dk_4 (dk_at dksL_law_54 20 rfl rfl)
theorem dL_law_1421 : decode cL_law 1421 = .ok (.iadd, 1) := dk_96 (dk_at dksL_law_54 21 rfl rfl)
theorem dL_law_1422 : decode cL_law 1422 = .ok (.iaload, 1) := dk_46 (dk_at dksL_law_54 22 rfl rfl)
theorem dL_law_1423 : decode cL_law 1423 = .ok (.invokevirtual 191, 3) := dk_182 0 191 (dk_at dksL_law_55 0 rfl rfl)
theorem dL_law_1426 : decode cL_law 1426 = .ok (.istore 6, 2) := dk_54 6 (dk_at dksL_law_55 3 rfl rfl)
theorem dL_law_1428 : decode cL_law 1428 = .ok (.aload_n 2, 1) := dk_44 (dk_at dksL_law_55 5 rfl rfl)
theorem dL_law_1429 : decode cL_law 1429 = .ok (.invokevirtual 136, 3) := dk_182 0 136 (dk_at dksL_law_55 6 rfl rfl)
theorem dL_law_1432 : decode cL_law 1432 = .ok (.iload 5, 2) := dk_21 5 (dk_at dksL_law_55 9 rfl rfl)
theorem dL_law_1434 : decode cL_law 1434 = .ok (.if_icmp .eq 5, 3) := dk_159 0 5 (dk_at dksL_law_55 11 rfl rfl)
theorem dL_law_1437 : decode cL_law 1437 = .ok (.iconst 0, 1) := dk_3 (dk_at dksL_law_55 14 rfl rfl)
theorem dL_law_1438 : decode cL_law 1438 = .ok (.ireturn, 1) := dk_172 (dk_at dksL_law_55 15 rfl rfl)
theorem dL_law_1439 : decode cL_law 1439 = .ok (.iload 5, 2) := dk_21 5 (dk_at dksL_law_55 16 rfl rfl)
theorem dL_law_1441 : decode cL_law 1441 = .ok (.ifCond .ne 15, 3) := dk_154 0 15 (dk_at dksL_law_55 18 rfl rfl)
theorem dL_law_1444 : decode cL_law 1444 = .ok (.aload_n 3, 1) := dk_45 (dk_at dksL_law_55 21 rfl rfl)
theorem dL_law_1445 : decode cL_law 1445 = .ok (.iconst 0, 1) := dk_3 (dk_at dksL_law_55 22 rfl rfl)
theorem dL_law_1446 : decode cL_law 1446 = .ok (.laload, 1) := dk_47 (dk_at dksL_law_55 23 rfl rfl)
theorem dL_law_1447 : decode cL_law 1447 = .ok (.iload 6, 2) := dk_21 6 (dk_at dksL_law_56 0 rfl rfl)
theorem dL_law_1449 : decode cL_law 1449 = .ok (.i2l, 1) := dk_133 (dk_at dksL_law_56 2 rfl rfl)
theorem dL_law_1450 : decode cL_law 1450 = .ok (.lcmp, 1) := dk_148 (dk_at dksL_law_56 3 rfl rfl)
theorem dL_law_1451 : decode cL_law 1451 = .ok (.ifCond .eq 5, 3) := dk_153 0 5 (dk_at dksL_law_56 4 rfl rfl)
theorem dL_law_1454 : decode cL_law 1454 = .ok (.iconst 0, 1) := dk_3 (dk_at dksL_law_56 7 rfl rfl)
theorem dL_law_1455 : decode cL_law 1455 = .ok (.ireturn, 1) := dk_172 (dk_at dksL_law_56 8 rfl rfl)
theorem dL_law_1456 : decode cL_law 1456 = .ok (.goto 746, 3) := dk_167 2 234 (dk_at dksL_law_56 9 rfl rfl)
theorem dL_law_1459 : decode cL_law 1459 = .ok (.aload_n 1, 1) := dk_43 (dk_at dksL_law_56 12 rfl rfl)
theorem dL_law_1460 : decode cL_law 1460 = .ok (.aload_n 0, 1) := dk_42 (dk_at dksL_law_56 13 rfl rfl)
theorem dL_law_1461 : decode cL_law 1461 = .ok (.iload 4, 2) := dk_21 4 (dk_at dksL_law_56 14 rfl rfl)
theorem dL_law_1463 : decode cL_law 1463 = .ok (.iconst 1, 1) := dk_4 (dk_at dksL_law_56 16 rfl rfl)
theorem dL_law_1464 : decode cL_law 1464 = .ok (.iadd, 1) := dk_96 (dk_at dksL_law_56 17 rfl rfl)
theorem dL_law_1465 : decode cL_law 1465 = .ok (.iaload, 1) := dk_46 (dk_at dksL_law_56 18 rfl rfl)
theorem dL_law_1466 : decode cL_law 1466 = .ok (.aload_n 0, 1) := dk_42 (dk_at dksL_law_56 19 rfl rfl)
theorem dL_law_1467 : decode cL_law 1467 = .ok (.iload 4, 2) := dk_21 4 (dk_at dksL_law_56 20 rfl rfl)
theorem dL_law_1469 : decode cL_law 1469 = .ok (.iconst 2, 1) := dk_5 (dk_at dksL_law_56 22 rfl rfl)
theorem dL_law_1470 : decode cL_law 1470 = .ok (.iadd, 1) := dk_96 (dk_at dksL_law_56 23 rfl rfl)
theorem dL_law_1471 : decode cL_law 1471 = .ok (.iaload, 1) := dk_46 (dk_at dksL_law_57 0 rfl rfl)
theorem dL_law_1472 : decode cL_law 1472 = .ok (.aload_n 0, 1) := dk_42 (dk_at dksL_law_57 1 rfl rfl)
theorem dL_law_1473 : decode cL_law 1473 = .ok (.iload 4, 2) := dk_21 4 (dk_at dksL_law_57 2 rfl rfl)
theorem dL_law_1475 : decode cL_law 1475 = .ok (.iconst 3, 1) := dk_6 (dk_at dksL_law_57 4 rfl rfl)
theorem dL_law_1476 : decode cL_law 1476 = .ok (.iadd, 1) := dk_96 (dk_at dksL_law_57 5 rfl rfl)
theorem dL_law_1477 : decode cL_law 1477 = .ok (.iaload, 1) := dk_46 (dk_at dksL_law_57 6 rfl rfl)
theorem dL_law_1478 : decode cL_law 1478 = .ok (.aload_n 3, 1) := dk_45 (dk_at dksL_law_57 7 rfl rfl)
theorem dL_law_1479 : decode cL_law 1479 = .ok (.invokestatic 192, 3) := dk_184 0 192 (dk_at dksL_law_57 8 rfl rfl)
theorem dL_law_1482 : decode cL_law 1482 = .ok (.istore 5, 2) := dk_54 5 (dk_at dksL_law_57 11 rfl rfl)
theorem dL_law_1484 : decode cL_law 1484 = .ok (.aload_n 2, 1) := dk_44 (dk_at dksL_law_57 13 rfl rfl)
theorem dL_law_1485 : decode cL_law 1485 = .ok (.aload_n 0, 1) := dk_42 (dk_at dksL_law_57 14 rfl rfl)
theorem dL_law_1486 : decode cL_law 1486 = .ok (.iload 4, 2) := dk_21 4 (dk_at dksL_law_57 15 rfl rfl)
theorem dL_law_1488 : decode cL_law 1488 = .ok (.iconst 1, 1) := dk_4 (dk_at dksL_law_57 17 rfl rfl)
theorem dL_law_1489 : decode cL_law 1489 = .ok (.iadd, 1) := dk_96 (dk_at dksL_law_57 18 rfl rfl)
theorem dL_law_1490 : decode cL_law 1490 = .ok (.iaload, 1) := dk_46 (dk_at dksL_law_57 19 rfl rfl)
theorem dL_law_1491 : decode cL_law 1491 = .ok (.aload_n 0, 1) := dk_42 (dk_at dksL_law_57 20 rfl rfl)
theorem dL_law_1492 : decode cL_law 1492 = .ok (.iload 4, 2) := dk_21 4 (dk_at dksL_law_57 21 rfl rfl)
theorem dL_law_1494 : decode cL_law 1494 = .ok (.iconst 2, 1) := dk_5 (dk_at dksL_law_57 23 rfl rfl)
theorem dL_law_1495 : decode cL_law 1495 = .ok (.iadd, 1) := dk_96 (dk_at dksL_law_58 0 rfl rfl)
theorem dL_law_1496 : decode cL_law 1496 = .ok (.iaload, 1) := dk_46 (dk_at dksL_law_58 1 rfl rfl)
theorem dL_law_1497 : decode cL_law 1497 = .ok (.aload_n 0, 1) := dk_42 (dk_at dksL_law_58 2 rfl rfl)
theorem dL_law_1498 : decode cL_law 1498 = .ok (.iload 4, 2) := dk_21 4 (dk_at dksL_law_58 3 rfl rfl)
theorem dL_law_1500 : decode cL_law 1500 = .ok (.iconst 3, 1) := dk_6 (dk_at dksL_law_58 5 rfl rfl)
theorem dL_law_1501 : decode cL_law 1501 = .ok (.iadd, 1) := dk_96 (dk_at dksL_law_58 6 rfl rfl)
theorem dL_law_1502 : decode cL_law 1502 = .ok (.iaload, 1) := dk_46 (dk_at dksL_law_58 7 rfl rfl)
theorem dL_law_1503 : decode cL_law 1503 = .ok (.invokevirtual 195, 3) := dk_182 0 195 (dk_at dksL_law_58 8 rfl rfl)
theorem dL_law_1506 : decode cL_law 1506 = .ok (.istore 6, 2) := dk_54 6 (dk_at dksL_law_58 11 rfl rfl)
theorem dL_law_1508 : decode cL_law 1508 = .ok (.aload_n 2, 1) := dk_44 (dk_at dksL_law_58 13 rfl rfl)
theorem dL_law_1509 : decode cL_law 1509 = .ok (.invokevirtual 136, 3) := dk_182 0 136 (dk_at dksL_law_58 14 rfl rfl)
theorem dL_law_1512 : decode cL_law 1512 = .ok (.iload 5, 2) := dk_21 5 (dk_at dksL_law_58 17 rfl rfl)
theorem dL_law_1514 : decode cL_law 1514 = .ok (.if_icmp .eq 5, 3) := dk_159 0 5 (dk_at dksL_law_58 19 rfl rfl)
theorem dL_law_1517 : decode cL_law 1517 = .ok (.iconst 0, 1) := dk_3 (dk_at dksL_law_58 22 rfl rfl)
theorem dL_law_1518 : decode cL_law 1518 = .ok (.ireturn, 1) := dk_172 (dk_at dksL_law_58 23 rfl rfl)
theorem dL_law_1519 : decode cL_law 1519 = .ok (.iload 5, 2) := dk_21 5 (dk_at dksL_law_59 0 rfl rfl)
theorem dL_law_1521 : decode cL_law 1521 = .ok (.ifCond .ne 15, 3) := dk_154 0 15 (dk_at dksL_law_59 2 rfl rfl)
theorem dL_law_1524 : decode cL_law 1524 = .ok (.aload_n 3, 1) := dk_45 (dk_at dksL_law_59 5 rfl rfl)
theorem dL_law_1525 : decode cL_law 1525 = .ok (.iconst 0, 1) := dk_3 (dk_at dksL_law_59 6 rfl rfl)
theorem dL_law_1526 : decode cL_law 1526 = .ok (.laload, 1) := dk_47 (dk_at dksL_law_59 7 rfl rfl)
theorem dL_law_1527 : decode cL_law 1527 = .ok (.iload 6, 2) := dk_21 6 (dk_at dksL_law_59 8 rfl rfl)
theorem dL_law_1529 : decode cL_law 1529 = .ok (.i2l, 1) := dk_133 (dk_at dksL_law_59 10 rfl rfl)
theorem dL_law_1530 : decode cL_law 1530 = .ok (.lcmp, 1) := dk_148 (dk_at dksL_law_59 11 rfl rfl)
theorem dL_law_1531 : decode cL_law 1531 = .ok (.ifCond .eq 5, 3) := dk_153 0 5 (dk_at dksL_law_59 12 rfl rfl)
theorem dL_law_1534 : decode cL_law 1534 = .ok (.iconst 0, 1) := dk_3 (dk_at dksL_law_59 15 rfl rfl)
theorem dL_law_1535 : decode cL_law 1535 = .ok (.ireturn, 1) := dk_172 (dk_at dksL_law_59 16 rfl rfl)
theorem dL_law_1536 : decode cL_law 1536 = .ok (.goto 666, 3) := dk_167 2 154 (dk_at dksL_law_59 17 rfl rfl)
theorem dL_law_1539 : decode cL_law 1539 = .ok (.aload_n 1, 1) := dk_43 (dk_at dksL_law_59 20 rfl rfl)
theorem dL_law_1540 : decode cL_law 1540 = .ok (.invokevirtual 196, 3) := dk_182 0 196 (dk_at dksL_law_59 21 rfl rfl)
theorem dL_law_1543 : decode cL_law 1543 = .ok (.aload_n 2, 1) := dk_44 (dk_at dksL_law_60 0 rfl rfl)
theorem dL_law_1544 : decode cL_law 1544 = .ok (.invokevirtual 199, 3) := dk_182 0 199 (dk_at dksL_law_60 1 rfl rfl)
theorem dL_law_1547 : decode cL_law 1547 = .ok (.if_icmp .eq 655, 3) := dk_159 2 143 (dk_at dksL_law_60 4 rfl rfl)
theorem dL_law_1550 : decode cL_law 1550 = .ok (.iconst 0, 1) := dk_3 (dk_at dksL_law_60 7 rfl rfl)
theorem dL_law_1551 : decode cL_law 1551 = .ok (.ireturn, 1) := dk_172 (dk_at dksL_law_60 8 rfl rfl)
theorem dL_law_1552 : decode cL_law 1552 = .ok (.aload_n 1, 1) := dk_43 (dk_at dksL_law_60 9 rfl rfl)
theorem dL_law_1553 : decode cL_law 1553 = .ok (.invokevirtual 200, 3) := dk_182 0 200 (dk_at dksL_law_60 10 rfl rfl)
theorem dL_law_1556 : decode cL_law 1556 = .ok (.aload_n 2, 1) := dk_44 (dk_at dksL_law_60 13 rfl rfl)
theorem dL_law_1557 : decode cL_law 1557 = .ok (.invokevirtual 203, 3) := dk_182 0 203 (dk_at dksL_law_60 14 rfl rfl)
theorem dL_law_1560 : decode cL_law 1560 = .ok (.if_icmp .eq 642, 3) := dk_159 2 130 (dk_at dksL_law_60 17 rfl rfl)
theorem dL_law_1563 : decode cL_law 1563 = .ok (.iconst 0, 1) := dk_3 (dk_at dksL_law_60 20 rfl rfl)
theorem dL_law_1564 : decode cL_law 1564 = .ok (.ireturn, 1) := dk_172 (dk_at dksL_law_60 21 rfl rfl)
theorem dL_law_1565 : decode cL_law 1565 = .ok (.aload_n 1, 1) := dk_43 (dk_at dksL_law_60 22 rfl rfl)
theorem dL_law_1566 : decode cL_law 1566 = .ok (.invokevirtual 204, 3) := dk_182 0 204 (dk_at dksL_law_61 0 rfl rfl)
theorem dL_law_1569 : decode cL_law 1569 = .ok (.aload_n 2, 1) := dk_44 (dk_at dksL_law_61 3 rfl rfl)
theorem dL_law_1570 : decode cL_law 1570 = .ok (.invokevirtual 208, 3) := dk_182 0 208 (dk_at dksL_law_61 4 rfl rfl)
theorem dL_law_1573 : decode cL_law 1573 = .ok (.if_icmp .eq 629, 3) := dk_159 2 117 (dk_at dksL_law_61 7 rfl rfl)
theorem dL_law_1576 : decode cL_law 1576 = .ok (.iconst 0, 1) := dk_3 (dk_at dksL_law_61 10 rfl rfl)
theorem dL_law_1577 : decode cL_law 1577 = .ok (.ireturn, 1) := dk_172 (dk_at dksL_law_61 11 rfl rfl)
theorem dL_law_1578 : decode cL_law 1578 = .ok (.aload_n 1, 1) := dk_43 (dk_at dksL_law_61 12 rfl rfl)
theorem dL_law_1579 : decode cL_law 1579 = .ok (.invokevirtual 209, 3) := dk_182 0 209 (dk_at dksL_law_61 13 rfl rfl)
theorem dL_law_1582 : decode cL_law 1582 = .ok (.dstore 5, 2) := dk_57 5 (dk_at dksL_law_61 16 rfl rfl)
theorem dL_law_1584 : decode cL_law 1584 = .ok (.aload_n 2, 1) := dk_44 (dk_at dksL_law_61 18 rfl rfl)
theorem dL_law_1585 : decode cL_law 1585 = .ok (.invokevirtual 213, 3) := dk_182 0 213 (dk_at dksL_law_61 19 rfl rfl)
theorem dL_law_1588 : decode cL_law 1588 = .ok (.dstore 7, 2) := dk_57 7 (dk_at dksL_law_61 22 rfl rfl)
theorem dL_law_1590 : decode cL_law 1590 = .ok (.dload 5, 2) := dk_24 5 (dk_at dksL_law_62 0 rfl rfl)
theorem dL_law_1592 : decode cL_law 1592 = .ok (.dload 7, 2) := dk_24 7 (dk_at dksL_law_62 2 rfl rfl)
theorem dL_law_1594 : decode cL_law 1594 = .ok (.dcmp .l, 1) := dk_151 (dk_at dksL_law_62 4 rfl rfl)
theorem dL_law_1595 : decode cL_law 1595 = .ok (.ifCond .eq 21, 3) := dk_153 0 21 (dk_at dksL_law_62 5 rfl rfl)
theorem dL_law_1598 : decode cL_law 1598 = .ok (.dload 5, 2) := dk_24 5 (dk_at dksL_law_62 8 rfl rfl)
theorem dL_law_1600 : decode cL_law 1600 = .ok (.dload 5, 2) := dk_24 5 (dk_at dksL_law_62 10 rfl rfl)
theorem dL_law_1602 : decode cL_law 1602 = .ok (.dcmp .l, 1) := dk_151 (dk_at dksL_law_62 12 rfl rfl)
theorem dL_law_1603 : decode cL_law 1603 = .ok (.ifCond .eq 11, 3) := dk_153 0 11 (dk_at dksL_law_62 13 rfl rfl)
theorem dL_law_1606 : decode cL_law 1606 = .ok (.dload 7, 2) := dk_24 7 (dk_at dksL_law_62 16 rfl rfl)
theorem dL_law_1608 : decode cL_law 1608 = .ok (.dload 7, 2) := dk_24 7 (dk_at dksL_law_62 18 rfl rfl)
theorem dL_law_1610 : decode cL_law 1610 = .ok (.dcmp .l, 1) := dk_151 (dk_at dksL_law_62 20 rfl rfl)
theorem dL_law_1611 : decode cL_law 1611 = .ok (.ifCond .ne 5, 3) := dk_154 0 5 (dk_at dksL_law_62 21 rfl rfl)
theorem dL_law_1614 : decode cL_law 1614 = .ok (.iconst 0, 1) := dk_3 (dk_at dksL_law_63 0 rfl rfl)
theorem dL_law_1615 : decode cL_law 1615 = .ok (.ireturn, 1) := dk_172 (dk_at dksL_law_63 1 rfl rfl)
theorem dL_law_1616 : decode cL_law 1616 = .ok (.goto 586, 3) := dk_167 2 74 (dk_at dksL_law_63 2 rfl rfl)
theorem dL_law_1619 : decode cL_law 1619 = .ok (.aload_n 1, 1) := dk_43 (dk_at dksL_law_63 5 rfl rfl)
theorem dL_law_1620 : decode cL_law 1620 = .ok (.invokevirtual 214, 3) := dk_182 0 214 (dk_at dksL_law_63 6 rfl rfl)
theorem dL_law_1623 : decode cL_law 1623 = .ok (.f2d, 1) := dk_141 (dk_at dksL_law_63 9 rfl rfl)
theorem dL_law_1624 : decode cL_law 1624 = .ok (.dstore 5, 2) := dk_57 5 (dk_at dksL_law_63 10 rfl rfl)
theorem dL_law_1626 : decode cL_law 1626 = .ok (.aload_n 2, 1) := dk_44 (dk_at dksL_law_63 12 rfl rfl)
theorem dL_law_1627 : decode cL_law 1627 = .ok (.invokevirtual 218, 3) := dk_182 0 218 (dk_at dksL_law_63 13 rfl rfl)
theorem dL_law_1630 : decode cL_law 1630 = .ok (.f2d, 1) := dk_141 (dk_at dksL_law_63 16 rfl rfl)
theorem dL_law_1631 : decode cL_law 1631 = .ok (.dstore 7, 2) := dk_57 7 (dk_at dksL_law_63 17 rfl rfl)
theorem dL_law_1633 : decode cL_law 1633 = .ok (.dload 5, 2) := dk_24 5 (dk_at dksL_law_63 19 rfl rfl)
theorem dL_law_1635 : decode cL_law 1635 = .ok (.dload 7, 2) := dk_24 7 (dk_at dksL_law_63 21 rfl rfl)
theorem dL_law_1637 : decode cL_law 1637 = .ok (.dcmp .l, 1) := dk_151 (dk_at dksL_law_63 23 rfl rfl)
theorem dL_law_1638 : decode cL_law 1638 = .ok (.ifCond .eq 21, 3) := dk_153 0 21 (dk_at dksL_law_64 0 rfl rfl)
theorem dL_law_1641 : decode cL_law 1641 = .ok (.dload 5, 2) := dk_24 5 (dk_at dksL_law_64 3 rfl rfl)
theorem dL_law_1643 : decode cL_law 1643 = .ok (.dload 5, 2) := dk_24 5 (dk_at dksL_law_64 5 rfl rfl)
theorem dL_law_1645 : decode cL_law 1645 = .ok (.dcmp .l, 1) := dk_151 (dk_at dksL_law_64 7 rfl rfl)
theorem dL_law_1646 : decode cL_law 1646 = .ok (.ifCond .eq 11, 3) := dk_153 0 11 (dk_at dksL_law_64 8 rfl rfl)
theorem dL_law_1649 : decode cL_law 1649 = .ok (.dload 7, 2) := dk_24 7 (dk_at dksL_law_64 11 rfl rfl)
theorem dL_law_1651 : decode cL_law 1651 = .ok (.dload 7, 2) := dk_24 7 (dk_at dksL_law_64 13 rfl rfl)
theorem dL_law_1653 : decode cL_law 1653 = .ok (.dcmp .l, 1) := dk_151 (dk_at dksL_law_64 15 rfl rfl)
theorem dL_law_1654 : decode cL_law 1654 = .ok (.ifCond .ne 5, 3) := dk_154 0 5 (dk_at dksL_law_64 16 rfl rfl)
theorem dL_law_1657 : decode cL_law 1657 = .ok (.iconst 0, 1) := dk_3 (dk_at dksL_law_64 19 rfl rfl)
theorem dL_law_1658 : decode cL_law 1658 = .ok (.ireturn, 1) := dk_172 (dk_at dksL_law_64 20 rfl rfl)
theorem dL_law_1659 : decode cL_law 1659 = .ok (.goto 543, 3) := dk_167 2 31 (dk_at dksL_law_64 21 rfl rfl)
theorem dL_law_1662 : decode cL_law 1662 = .ok (.aload_n 1, 1) := dk_43 (dk_at dksL_law_65 0 rfl rfl)
theorem dL_law_1663 : decode cL_law 1663 = .ok (.aload_n 0, 1) := dk_42 (dk_at dksL_law_65 1 rfl rfl)
theorem dL_law_1664 : decode cL_law 1664 = .ok (.iload 4, 2) := dk_21 4 (dk_at dksL_law_65 2 rfl rfl)
theorem dL_law_1666 : decode cL_law 1666 = .ok (.iconst 1, 1) := dk_4 (dk_at dksL_law_65 4 rfl rfl)
theorem dL_law_1667 : decode cL_law 1667 = .ok (.iadd, 1) := dk_96 (dk_at dksL_law_65 5 rfl rfl)
theorem dL_law_1668 : decode cL_law 1668 = .ok (.iaload, 1) := dk_46 (dk_at dksL_law_65 6 rfl rfl)
theorem dL_law_1669 : decode cL_law 1669 = .ok (.aload_n 0, 1) := dk_42 (dk_at dksL_law_65 7 rfl rfl)
theorem dL_law_1670 : decode cL_law 1670 = .ok (.iload 4, 2) := dk_21 4 (dk_at dksL_law_65 8 rfl rfl)
theorem dL_law_1672 : decode cL_law 1672 = .ok (.iconst 2, 1) := dk_5 (dk_at dksL_law_65 10 rfl rfl)
theorem dL_law_1673 : decode cL_law 1673 = .ok (.iadd, 1) := dk_96 (dk_at dksL_law_65 11 rfl rfl)
theorem dL_law_1674 : decode cL_law 1674 = .ok (.iaload, 1) := dk_46 (dk_at dksL_law_65 12 rfl rfl)
theorem dL_law_1675 : decode cL_law 1675 = .ok (.aload_n 3, 1) := dk_45 (dk_at dksL_law_65 13 rfl rfl)
theorem dL_law_1676 : decode cL_law 1676 = .ok (.invokestatic 219, 3) := dk_184 0 219 (dk_at dksL_law_65 14 rfl rfl)
theorem dL_law_1679 : decode cL_law 1679 = .ok (.istore 5, 2) := dk_54 5 (dk_at dksL_law_65 17 rfl rfl)
theorem dL_law_1681 : decode cL_law 1681 = .ok (.aload_n 2, 1) := dk_44 (dk_at dksL_law_65 19 rfl rfl)
theorem dL_law_1682 : decode cL_law 1682 = .ok (.aload_n 0, 1) := dk_42 (dk_at dksL_law_65 20 rfl rfl)
theorem dL_law_1683 : decode cL_law 1683 = .ok (.iload 4, 2) := dk_21 4 (dk_at dksL_law_65 21 rfl rfl)
theorem dL_law_1685 : decode cL_law 1685 = .ok (.iconst 1, 1) := dk_4 (dk_at dksL_law_65 23 rfl rfl)
theorem dL_law_1686 : decode cL_law 1686 = .ok (.iadd, 1) := dk_96 (dk_at dksL_law_66 0 rfl rfl)
theorem dL_law_1687 : decode cL_law 1687 = .ok (.iaload, 1) := dk_46 (dk_at dksL_law_66 1 rfl rfl)
theorem dL_law_1688 : decode cL_law 1688 = .ok (.aload_n 0, 1) := dk_42 (dk_at dksL_law_66 2 rfl rfl)
theorem dL_law_1689 : decode cL_law 1689 = .ok (.iload 4, 2) := dk_21 4 (dk_at dksL_law_66 3 rfl rfl)
theorem dL_law_1691 : decode cL_law 1691 = .ok (.iconst 2, 1) := dk_5 (dk_at dksL_law_66 5 rfl rfl)
theorem dL_law_1692 : decode cL_law 1692 = .ok (.iadd, 1) := dk_96 (dk_at dksL_law_66 6 rfl rfl)
theorem dL_law_1693 : decode cL_law 1693 = .ok (.iaload, 1) := dk_46 (dk_at dksL_law_66 7 rfl rfl)
theorem dL_law_1694 : decode cL_law 1694 = .ok (.invokevirtual 221, 3) := dk_182 0 221 (dk_at dksL_law_66 8 rfl rfl)
theorem dL_law_1697 : decode cL_law 1697 = .ok (.istore 6, 2) := dk_54 6 (dk_at dksL_law_66 11 rfl rfl)
theorem dL_law_1699 : decode cL_law 1699 = .ok (.aload_n 2, 1) := dk_44 (dk_at dksL_law_66 13 rfl rfl)
theorem dL_law_1700 : decode cL_law 1700 = .ok (.invokevirtual 136, 3) := dk_182 0 136 (dk_at dksL_law_66 14 rfl rfl)
theorem dL_law_1703 : decode cL_law 1703 = .ok (.iload 5, 2) := dk_21 5 (dk_at dksL_law_66 17 rfl rfl)
theorem dL_law_1705 : decode cL_law 1705 = .ok (.if_icmp .eq 5, 3) := dk_159 0 5 (dk_at dksL_law_66 19 rfl rfl)
theorem dL_law_1708 : decode cL_law 1708 = .ok (.iconst 0, 1) := dk_3 (dk_at dksL_law_66 22 rfl rfl)
theorem dL_law_1709 : decode cL_law 1709 = .ok (.ireturn, 1) := dk_172 (dk_at dksL_law_66 23 rfl rfl)
theorem dL_law_1710 : decode cL_law 1710 = .ok (.iload 5, 2) := dk_21 5 (dk_at dksL_law_67 0 rfl rfl)
theorem dL_law_1712 : decode cL_law 1712 = .ok (.ifCond .ne 15, 3) := dk_154 0 15 (dk_at dksL_law_67 2 rfl rfl)
theorem dL_law_1715 : decode cL_law 1715 = .ok (.aload_n 3, 1) := dk_45 (dk_at dksL_law_67 5 rfl rfl)
theorem dL_law_1716 : decode cL_law 1716 = .ok (.iconst 0, 1) := dk_3 (dk_at dksL_law_67 6 rfl rfl)
theorem dL_law_1717 : decode cL_law 1717 = .ok (.laload, 1) := dk_47 (dk_at dksL_law_67 7 rfl rfl)
theorem dL_law_1718 : decode cL_law 1718 = .ok (.iload 6, 2) := dk_21 6 (dk_at dksL_law_67 8 rfl rfl)
theorem dL_law_1720 : decode cL_law 1720 = .ok (.i2l, 1) := dk_133 (dk_at dksL_law_67 10 rfl rfl)
theorem dL_law_1721 : decode cL_law 1721 = .ok (.lcmp, 1) := dk_148 (dk_at dksL_law_67 11 rfl rfl)
theorem dL_law_1722 : decode cL_law 1722 = .ok (.ifCond .eq 5, 3) := dk_153 0 5 (dk_at dksL_law_67 12 rfl rfl)
theorem dL_law_1725 : decode cL_law 1725 = .ok (.iconst 0, 1) := dk_3 (dk_at dksL_law_67 15 rfl rfl)
theorem dL_law_1726 : decode cL_law 1726 = .ok (.ireturn, 1) := dk_172 (dk_at dksL_law_67 16 rfl rfl)
theorem dL_law_1727 : decode cL_law 1727 = .ok (.goto 475, 3) := dk_167 1 219 (dk_at dksL_law_67 17 rfl rfl)
theorem dL_law_1730 : decode cL_law 1730 = .ok (.aload_n 1, 1) := dk_43 (dk_at dksL_law_67 20 rfl rfl)
theorem dL_law_1731 : decode cL_law 1731 = .ok (.aload_n 0, 1) := dk_42 (dk_at dksL_law_67 21 rfl rfl)
theorem dL_law_1732 : decode cL_law 1732 = .ok (.iload 4, 2) := dk_21 4 (dk_at dksL_law_67 22 rfl rfl)
theorem dL_law_1734 : decode cL_law 1734 = .ok (.iconst 1, 1) := dk_4 (dk_at dksL_law_68 0 rfl rfl)
theorem dL_law_1735 : decode cL_law 1735 = .ok (.iadd, 1) := dk_96 (dk_at dksL_law_68 1 rfl rfl)
theorem dL_law_1736 : decode cL_law 1736 = .ok (.iaload, 1) := dk_46 (dk_at dksL_law_68 2 rfl rfl)
theorem dL_law_1737 : decode cL_law 1737 = .ok (.aload_n 3, 1) := dk_45 (dk_at dksL_law_68 3 rfl rfl)
theorem dL_law_1738 : decode cL_law 1738 = .ok (.invokestatic 222, 3) := dk_184 0 222 (dk_at dksL_law_68 4 rfl rfl)
theorem dL_law_1741 : decode cL_law 1741 = .ok (.istore 5, 2) := dk_54 5 (dk_at dksL_law_68 7 rfl rfl)
theorem dL_law_1743 : decode cL_law 1743 = .ok (.aload_n 2, 1) := dk_44 (dk_at dksL_law_68 9 rfl rfl)
theorem dL_law_1744 : decode cL_law 1744 = .ok (.aload_n 0, 1) := dk_42 (dk_at dksL_law_68 10 rfl rfl)
theorem dL_law_1745 : decode cL_law 1745 = .ok (.iload 4, 2) := dk_21 4 (dk_at dksL_law_68 11 rfl rfl)
theorem dL_law_1747 : decode cL_law 1747 = .ok (.iconst 1, 1) := dk_4 (dk_at dksL_law_68 13 rfl rfl)
theorem dL_law_1748 : decode cL_law 1748 = .ok (.iadd, 1) := dk_96 (dk_at dksL_law_68 14 rfl rfl)
theorem dL_law_1749 : decode cL_law 1749 = .ok (.iaload, 1) := dk_46 (dk_at dksL_law_68 15 rfl rfl)
theorem dL_law_1750 : decode cL_law 1750 = .ok (.invokevirtual 224, 3) := dk_182 0 224 (dk_at dksL_law_68 16 rfl rfl)
theorem dL_law_1753 : decode cL_law 1753 = .ok (.istore 6, 2) := dk_54 6 (dk_at dksL_law_68 19 rfl rfl)
theorem dL_law_1755 : decode cL_law 1755 = .ok (.aload_n 2, 1) := dk_44 (dk_at dksL_law_68 21 rfl rfl)
theorem dL_law_1756 : decode cL_law 1756 = .ok (.invokevirtual 136, 3) := dk_182 0 136 (dk_at dksL_law_69 0 rfl rfl)
theorem dL_law_1759 : decode cL_law 1759 = .ok (.iload 5, 2) := dk_21 5 (dk_at dksL_law_69 3 rfl rfl)
theorem dL_law_1761 : decode cL_law 1761 = .ok (.if_icmp .eq 5, 3) := dk_159 0 5 (dk_at dksL_law_69 5 rfl rfl)
theorem dL_law_1764 : decode cL_law 1764 = .ok (.iconst 0, 1) := dk_3 (dk_at dksL_law_69 8 rfl rfl)
theorem dL_law_1765 : decode cL_law 1765 = .ok (.ireturn, 1) := dk_172 (dk_at dksL_law_69 9 rfl rfl)
theorem dL_law_1766 : decode cL_law 1766 = .ok (.iload 5, 2) := dk_21 5 (dk_at dksL_law_69 10 rfl rfl)
theorem dL_law_1768 : decode cL_law 1768 = .ok (.ifCond .ne 15, 3) := dk_154 0 15 (dk_at dksL_law_69 12 rfl rfl)
theorem dL_law_1771 : decode cL_law 1771 = .ok (.aload_n 3, 1) := dk_45 (dk_at dksL_law_69 15 rfl rfl)
theorem dL_law_1772 : decode cL_law 1772 = .ok (.iconst 0, 1) := dk_3 (dk_at dksL_law_69 16 rfl rfl)
theorem dL_law_1773 : decode cL_law 1773 = .ok (.laload, 1) := dk_47 (dk_at dksL_law_69 17 rfl rfl)
theorem dL_law_1774 : decode cL_law 1774 = .ok (.iload 6, 2) := dk_21 6 (dk_at dksL_law_69 18 rfl rfl)
theorem dL_law_1776 : decode cL_law 1776 = .ok (.i2l, 1) := dk_133 (dk_at dksL_law_69 20 rfl rfl)
theorem dL_law_1777 : decode cL_law 1777 = .ok (.lcmp, 1) := dk_148 (dk_at dksL_law_69 21 rfl rfl)
theorem dL_law_1778 : decode cL_law 1778 = .ok (.ifCond .eq 5, 3) := dk_153 0 5 (dk_at dksL_law_70 0 rfl rfl)
theorem dL_law_1781 : decode cL_law 1781 = .ok (.iconst 0, 1) := dk_3 (dk_at dksL_law_70 3 rfl rfl)
theorem dL_law_1782 : decode cL_law 1782 = .ok (.ireturn, 1) := dk_172 (dk_at dksL_law_70 4 rfl rfl)
theorem dL_law_1783 : decode cL_law 1783 = .ok (.goto 419, 3) := dk_167 1 163 (dk_at dksL_law_70 5 rfl rfl)
theorem dL_law_1786 : decode cL_law 1786 = .ok (.aload_n 1, 1) := dk_43 (dk_at dksL_law_70 8 rfl rfl)
theorem dL_law_1787 : decode cL_law 1787 = .ok (.aload_n 0, 1) := dk_42 (dk_at dksL_law_70 9 rfl rfl)
theorem dL_law_1788 : decode cL_law 1788 = .ok (.iload 4, 2) := dk_21 4 (dk_at dksL_law_70 10 rfl rfl)
theorem dL_law_1790 : decode cL_law 1790 = .ok (.iconst 1, 1) := dk_4 (dk_at dksL_law_70 12 rfl rfl)
theorem dL_law_1791 : decode cL_law 1791 = .ok (.iadd, 1) := dk_96 (dk_at dksL_law_70 13 rfl rfl)
theorem dL_law_1792 : decode cL_law 1792 = .ok (.iaload, 1) := dk_46 (dk_at dksL_law_70 14 rfl rfl)
theorem dL_law_1793 : decode cL_law 1793 = .ok (.aload_n 3, 1) := dk_45 (dk_at dksL_law_70 15 rfl rfl)
theorem dL_law_1794 : decode cL_law 1794 = .ok (.invokestatic 225, 3) := dk_184 0 225 (dk_at dksL_law_70 16 rfl rfl)
theorem dL_law_1797 : decode cL_law 1797 = .ok (.istore 5, 2) := dk_54 5 (dk_at dksL_law_70 19 rfl rfl)
theorem dL_law_1799 : decode cL_law 1799 = .ok (.aload_n 2, 1) := dk_44 (dk_at dksL_law_70 21 rfl rfl)
theorem dL_law_1800 : decode cL_law 1800 = .ok (.aload_n 0, 1) := dk_42 (dk_at dksL_law_70 22 rfl rfl)
theorem dL_law_1801 : decode cL_law 1801 = .ok (.iload 4, 2) := dk_21 4 (dk_at dksL_law_71 0 rfl rfl)
theorem dL_law_1803 : decode cL_law 1803 = .ok (.iconst 1, 1) := dk_4 (dk_at dksL_law_71 2 rfl rfl)
theorem dL_law_1804 : decode cL_law 1804 = .ok (.iadd, 1) := dk_96 (dk_at dksL_law_71 3 rfl rfl)
theorem dL_law_1805 : decode cL_law 1805 = .ok (.iaload, 1) := dk_46 (dk_at dksL_law_71 4 rfl rfl)
theorem dL_law_1806 : decode cL_law 1806 = .ok (.invokevirtual 227, 3) := dk_182 0 227 (dk_at dksL_law_71 5 rfl rfl)
theorem dL_law_1809 : decode cL_law 1809 = .ok (.istore 6, 2) := dk_54 6 (dk_at dksL_law_71 8 rfl rfl)
theorem dL_law_1811 : decode cL_law 1811 = .ok (.aload_n 2, 1) := dk_44 (dk_at dksL_law_71 10 rfl rfl)
theorem dL_law_1812 : decode cL_law 1812 = .ok (.invokevirtual 136, 3) := dk_182 0 136 (dk_at dksL_law_71 11 rfl rfl)
theorem dL_law_1815 : decode cL_law 1815 = .ok (.iload 5, 2) := dk_21 5 (dk_at dksL_law_71 14 rfl rfl)
theorem dL_law_1817 : decode cL_law 1817 = .ok (.if_icmp .eq 5, 3) := dk_159 0 5 (dk_at dksL_law_71 16 rfl rfl)
theorem dL_law_1820 : decode cL_law 1820 = .ok (.iconst 0, 1) := dk_3 (dk_at dksL_law_71 19 rfl rfl)
theorem dL_law_1821 : decode cL_law 1821 = .ok (.ireturn, 1) := dk_172 (dk_at dksL_law_71 20 rfl rfl)
theorem dL_law_1822 : decode cL_law 1822 = .ok (.iload 5, 2) := dk_21 5 (dk_at dksL_law_71 21 rfl rfl)
theorem dL_law_1824 : decode cL_law 1824 = .ok (.ifCond .ne 15, 3) := dk_154 0 15 (dk_at dksL_law_72 0 rfl rfl)
theorem dL_law_1827 : decode cL_law 1827 = .ok (.aload_n 3, 1) := dk_45 (dk_at dksL_law_72 3 rfl rfl)
theorem dL_law_1828 : decode cL_law 1828 = .ok (.iconst 0, 1) := dk_3 (dk_at dksL_law_72 4 rfl rfl)
theorem dL_law_1829 : decode cL_law 1829 = .ok (.laload, 1) := dk_47 (dk_at dksL_law_72 5 rfl rfl)
theorem dL_law_1830 : decode cL_law 1830 = .ok (.iload 6, 2) := dk_21 6 (dk_at dksL_law_72 6 rfl rfl)
theorem dL_law_1832 : decode cL_law 1832 = .ok (.i2l, 1) := dk_133 (dk_at dksL_law_72 8 rfl rfl)
theorem dL_law_1833 : decode cL_law 1833 = .ok (.lcmp, 1) := dk_148 (dk_at dksL_law_72 9 rfl rfl)
theorem dL_law_1834 : decode cL_law 1834 = .ok (.ifCond .eq 5, 3) := dk_153 0 5 (dk_at dksL_law_72 10 rfl rfl)
theorem dL_law_1837 : decode cL_law 1837 = .ok (.iconst 0, 1) := dk_3 (dk_at dksL_law_72 13 rfl rfl)
theorem dL_law_1838 : decode cL_law 1838 = .ok (.ireturn, 1) := dk_172 (dk_at dksL_law_72 14 rfl rfl)
theorem dL_law_1839 : decode cL_law 1839 = .ok (.goto 363, 3) := dk_167 1 107 (dk_at dksL_law_72 15 rfl rfl)
theorem dL_law_1842 : decode cL_law 1842 = .ok (.aload_n 1, 1) := dk_43 (dk_at dksL_law_72 18 rfl rfl)
theorem dL_law_1843 : decode cL_law 1843 = .ok (.aload_n 0, 1) := dk_42 (dk_at dksL_law_72 19 rfl rfl)
theorem dL_law_1844 : decode cL_law 1844 = .ok (.iload 4, 2) := dk_21 4 (dk_at dksL_law_72 20 rfl rfl)
theorem dL_law_1846 : decode cL_law 1846 = .ok (.iconst 1, 1) := dk_4 (dk_at dksL_law_72 22 rfl rfl)
theorem dL_law_1847 : decode cL_law 1847 = .ok (.iadd, 1) := dk_96 (dk_at dksL_law_72 23 rfl rfl)
theorem dL_law_1848 : decode cL_law 1848 = .ok (.iaload, 1) := dk_46 (dk_at dksL_law_73 0 rfl rfl)
theorem dL_law_1849 : decode cL_law 1849 = .ok (.aload_n 3, 1) := dk_45 (dk_at dksL_law_73 1 rfl rfl)
theorem dL_law_1850 : decode cL_law 1850 = .ok (.invokestatic 228, 3) := dk_184 0 228 (dk_at dksL_law_73 2 rfl rfl)
theorem dL_law_1853 : decode cL_law 1853 = .ok (.istore 5, 2) := dk_54 5 (dk_at dksL_law_73 5 rfl rfl)
theorem dL_law_1855 : decode cL_law 1855 = .ok (.aload_n 2, 1) := dk_44 (dk_at dksL_law_73 7 rfl rfl)
theorem dL_law_1856 : decode cL_law 1856 = .ok (.aload_n 0, 1) := dk_42 (dk_at dksL_law_73 8 rfl rfl)
theorem dL_law_1857 : decode cL_law 1857 = .ok (.iload 4, 2) := dk_21 4 (dk_at dksL_law_73 9 rfl rfl)
theorem dL_law_1859 : decode cL_law 1859 = .ok (.iconst 1, 1) := dk_4 (dk_at dksL_law_73 11 rfl rfl)
theorem dL_law_1860 : decode cL_law 1860 = .ok (.iadd, 1) := dk_96 (dk_at dksL_law_73 12 rfl rfl)
theorem dL_law_1861 : decode cL_law 1861 = .ok (.iaload, 1) := dk_46 (dk_at dksL_law_73 13 rfl rfl)
theorem dL_law_1862 : decode cL_law 1862 = .ok (.invokevirtual 230, 3) := dk_182 0 230 (dk_at dksL_law_73 14 rfl rfl)
theorem dL_law_1865 : decode cL_law 1865 = .ok (.istore 6, 2) := dk_54 6 (dk_at dksL_law_73 17 rfl rfl)
theorem dL_law_1867 : decode cL_law 1867 = .ok (.aload_n 2, 1) := dk_44 (dk_at dksL_law_73 19 rfl rfl)
theorem dL_law_1868 : decode cL_law 1868 = .ok (.invokevirtual 136, 3) := dk_182 0 136 (dk_at dksL_law_73 20 rfl rfl)
theorem dL_law_1871 : decode cL_law 1871 = .ok (.iload 5, 2) := dk_21 5 (dk_at dksL_law_74 0 rfl rfl)
theorem dL_law_1873 : decode cL_law 1873 = .ok (.if_icmp .eq 5, 3) := dk_159 0 5 (dk_at dksL_law_74 2 rfl rfl)
theorem dL_law_1876 : decode cL_law 1876 = .ok (.iconst 0, 1) := dk_3 (dk_at dksL_law_74 5 rfl rfl)
theorem dL_law_1877 : decode cL_law 1877 = .ok (.ireturn, 1) := dk_172 (dk_at dksL_law_74 6 rfl rfl)
theorem dL_law_1878 : decode cL_law 1878 = .ok (.iload 5, 2) := dk_21 5 (dk_at dksL_law_74 7 rfl rfl)
theorem dL_law_1880 : decode cL_law 1880 = .ok (.ifCond .ne 15, 3) := dk_154 0 15 (dk_at dksL_law_74 9 rfl rfl)
theorem dL_law_1883 : decode cL_law 1883 = .ok (.aload_n 3, 1) := dk_45 (dk_at dksL_law_74 12 rfl rfl)
theorem dL_law_1884 : decode cL_law 1884 = .ok (.iconst 0, 1) := dk_3 (dk_at dksL_law_74 13 rfl rfl)
theorem dL_law_1885 : decode cL_law 1885 = .ok (.laload, 1) := dk_47 (dk_at dksL_law_74 14 rfl rfl)
theorem dL_law_1886 : decode cL_law 1886 = .ok (.iload 6, 2) := dk_21 6 (dk_at dksL_law_74 15 rfl rfl)
theorem dL_law_1888 : decode cL_law 1888 = .ok (.i2l, 1) := dk_133 (dk_at dksL_law_74 17 rfl rfl)
theorem dL_law_1889 : decode cL_law 1889 = .ok (.lcmp, 1) := dk_148 (dk_at dksL_law_74 18 rfl rfl)
theorem dL_law_1890 : decode cL_law 1890 = .ok (.ifCond .eq 5, 3) := dk_153 0 5 (dk_at dksL_law_74 19 rfl rfl)
theorem dL_law_1893 : decode cL_law 1893 = .ok (.iconst 0, 1) := dk_3 (dk_at dksL_law_74 22 rfl rfl)
theorem dL_law_1894 : decode cL_law 1894 = .ok (.ireturn, 1) := dk_172 (dk_at dksL_law_74 23 rfl rfl)
theorem dL_law_1895 : decode cL_law 1895 = .ok (.goto 307, 3) := dk_167 1 51 (dk_at dksL_law_75 0 rfl rfl)
theorem dL_law_1898 : decode cL_law 1898 = .ok (.aload_n 1, 1) := dk_43 (dk_at dksL_law_75 3 rfl rfl)
theorem dL_law_1899 : decode cL_law 1899 = .ok (.aload_n 0, 1) := dk_42 (dk_at dksL_law_75 4 rfl rfl)
theorem dL_law_1900 : decode cL_law 1900 = .ok (.iload 4, 2) := dk_21 4 (dk_at dksL_law_75 5 rfl rfl)
theorem dL_law_1902 : decode cL_law 1902 = .ok (.iconst 1, 1) := dk_4 (dk_at dksL_law_75 7 rfl rfl)
theorem dL_law_1903 : decode cL_law 1903 = .ok (.iadd, 1) := dk_96 (dk_at dksL_law_75 8 rfl rfl)
theorem dL_law_1904 : decode cL_law 1904 = .ok (.iaload, 1) := dk_46 (dk_at dksL_law_75 9 rfl rfl)
theorem dL_law_1905 : decode cL_law 1905 = .ok (.aload_n 0, 1) := dk_42 (dk_at dksL_law_75 10 rfl rfl)
theorem dL_law_1906 : decode cL_law 1906 = .ok (.iload 4, 2) := dk_21 4 (dk_at dksL_law_75 11 rfl rfl)
theorem dL_law_1908 : decode cL_law 1908 = .ok (.iconst 2, 1) := dk_5 (dk_at dksL_law_75 13 rfl rfl)
theorem dL_law_1909 : decode cL_law 1909 = .ok (.iadd, 1) := dk_96 (dk_at dksL_law_75 14 rfl rfl)
theorem dL_law_1910 : decode cL_law 1910 = .ok (.iaload, 1) := dk_46 (dk_at dksL_law_75 15 rfl rfl)
theorem dL_law_1911 : decode cL_law 1911 = .ok (.ifCond .eq 7, 3) := dk_153 0 7 (dk_at dksL_law_75 16 rfl rfl)
theorem dL_law_1914 : decode cL_law 1914 = .ok (.iconst 1, 1) := dk_4 (dk_at dksL_law_75 19 rfl rfl)
theorem dL_law_1915 : decode cL_law 1915 = .ok (.goto 4, 3) := dk_167 0 4 (dk_at dksL_law_75 20 rfl rfl)
theorem dL_law_1918 : decode cL_law 1918 = .ok (.iconst 0, 1) := dk_3 (dk_at dksL_law_75 23 rfl rfl)
theorem dL_law_1919 : decode cL_law 1919 = .ok (.aload_n 3, 1) := dk_45 (dk_at dksL_law_76 0 rfl rfl)
theorem dL_law_1920 : decode cL_law 1920 = .ok (.invokestatic 231, 3) := dk_184 0 231 (dk_at dksL_law_76 1 rfl rfl)
theorem dL_law_1923 : decode cL_law 1923 = .ok (.istore 5, 2) := dk_54 5 (dk_at dksL_law_76 4 rfl rfl)
theorem dL_law_1925 : decode cL_law 1925 = .ok (.aload_n 2, 1) := dk_44 (dk_at dksL_law_76 6 rfl rfl)
theorem dL_law_1926 : decode cL_law 1926 = .ok (.aload_n 0, 1) := dk_42 (dk_at dksL_law_76 7 rfl rfl)
theorem dL_law_1927 : decode cL_law 1927 = .ok (.iload 4, 2) := dk_21 4 (dk_at dksL_law_76 8 rfl rfl)
theorem dL_law_1929 : decode cL_law 1929 = .ok (.iconst 1, 1) := dk_4 (dk_at dksL_law_76 10 rfl rfl)
theorem dL_law_1930 : decode cL_law 1930 = .ok (.iadd, 1) := dk_96 (dk_at dksL_law_76 11 rfl rfl)
theorem dL_law_1931 : decode cL_law 1931 = .ok (.iaload, 1) := dk_46 (dk_at dksL_law_76 12 rfl rfl)
theorem dL_law_1932 : decode cL_law 1932 = .ok (.aload_n 0, 1) := dk_42 (dk_at dksL_law_76 13 rfl rfl)
theorem dL_law_1933 : decode cL_law 1933 = .ok (.iload 4, 2) := dk_21 4 (dk_at dksL_law_76 14 rfl rfl)
theorem dL_law_1935 : decode cL_law 1935 = .ok (.iconst 2, 1) := dk_5 (dk_at dksL_law_76 16 rfl rfl)
theorem dL_law_1936 : decode cL_law 1936 = .ok (.iadd, 1) := dk_96 (dk_at dksL_law_76 17 rfl rfl)
theorem dL_law_1937 : decode cL_law 1937 = .ok (.iaload, 1) := dk_46 (dk_at dksL_law_76 18 rfl rfl)
theorem dL_law_1938 : decode cL_law 1938 = .ok (.ifCond .eq 7, 3) := dk_153 0 7 (dk_at dksL_law_76 19 rfl rfl)
theorem dL_law_1941 : decode cL_law 1941 = .ok (.iconst 1, 1) := dk_4 (dk_at dksL_law_76 22 rfl rfl)
theorem dL_law_1942 : decode cL_law 1942 = .ok (.goto 4, 3) := dk_167 0 4 (dk_at dksL_law_77 0 rfl rfl)
theorem dL_law_1945 : decode cL_law 1945 = .ok (.iconst 0, 1) := dk_3 (dk_at dksL_law_77 3 rfl rfl)
theorem dL_law_1946 : decode cL_law 1946 = .ok (.invokevirtual 234, 3) := dk_182 0 234 (dk_at dksL_law_77 4 rfl rfl)
theorem dL_law_1949 : decode cL_law 1949 = .ok (.istore 6, 2) := dk_54 6 (dk_at dksL_law_77 7 rfl rfl)
theorem dL_law_1951 : decode cL_law 1951 = .ok (.aload_n 2, 1) := dk_44 (dk_at dksL_law_77 9 rfl rfl)
theorem dL_law_1952 : decode cL_law 1952 = .ok (.invokevirtual 136, 3) := dk_182 0 136 (dk_at dksL_law_77 10 rfl rfl)
theorem dL_law_1955 : decode cL_law 1955 = .ok (.iload 5, 2) := dk_21 5 (dk_at dksL_law_77 13 rfl rfl)
theorem dL_law_1957 : decode cL_law 1957 = .ok (.if_icmp .eq 5, 3) := dk_159 0 5 (dk_at dksL_law_77 15 rfl rfl)
theorem dL_law_1960 : decode cL_law 1960 = .ok (.iconst 0, 1) := dk_3 (dk_at dksL_law_77 18 rfl rfl)
theorem dL_law_1961 : decode cL_law 1961 = .ok (.ireturn, 1) := dk_172 (dk_at dksL_law_77 19 rfl rfl)
theorem dL_law_1962 : decode cL_law 1962 = .ok (.iload 5, 2) := dk_21 5 (dk_at dksL_law_77 20 rfl rfl)
theorem dL_law_1964 : decode cL_law 1964 = .ok (.ifCond .ne 15, 3) := dk_154 0 15 (dk_at dksL_law_78 0 rfl rfl)
theorem dL_law_1967 : decode cL_law 1967 = .ok (.aload_n 3, 1) := dk_45 (dk_at dksL_law_78 3 rfl rfl)
theorem dL_law_1968 : decode cL_law 1968 = .ok (.iconst 0, 1) := dk_3 (dk_at dksL_law_78 4 rfl rfl)
theorem dL_law_1969 : decode cL_law 1969 = .ok (.laload, 1) := dk_47 (dk_at dksL_law_78 5 rfl rfl)
theorem dL_law_1970 : decode cL_law 1970 = .ok (.iload 6, 2) := dk_21 6 (dk_at dksL_law_78 6 rfl rfl)
theorem dL_law_1972 : decode cL_law 1972 = .ok (.i2l, 1) := dk_133 (dk_at dksL_law_78 8 rfl rfl)
theorem dL_law_1973 : decode cL_law 1973 = .ok (.lcmp, 1) := dk_148 (dk_at dksL_law_78 9 rfl rfl)
theorem dL_law_1974 : decode cL_law 1974 = .ok (.ifCond .eq 5, 3) := dk_153 0 5 (dk_at dksL_law_78 10 rfl rfl)
theorem dL_law_1977 : decode cL_law 1977 = .ok (.iconst 0, 1) := dk_3 (dk_at dksL_law_78 13 rfl rfl)
theorem dL_law_1978 : decode cL_law 1978 = .ok (.ireturn, 1) := dk_172 (dk_at dksL_law_78 14 rfl rfl)
theorem dL_law_1979 : decode cL_law 1979 = .ok (.goto 223, 3) := dk_167 0 223 (dk_at dksL_law_78 15 rfl rfl)
theorem dL_law_1982 : decode cL_law 1982 = .ok (.aload_n 1, 1) := dk_43 (dk_at dksL_law_78 18 rfl rfl)
theorem dL_law_1983 : decode cL_law 1983 = .ok (.aload_n 0, 1) := dk_42 (dk_at dksL_law_78 19 rfl rfl)
theorem dL_law_1984 : decode cL_law 1984 = .ok (.iload 4, 2) := dk_21 4 (dk_at dksL_law_78 20 rfl rfl)
theorem dL_law_1986 : decode cL_law 1986 = .ok (.iconst 1, 1) := dk_4 (dk_at dksL_law_78 22 rfl rfl)
theorem dL_law_1987 : decode cL_law 1987 = .ok (.iadd, 1) := dk_96 (dk_at dksL_law_78 23 rfl rfl)
theorem dL_law_1988 : decode cL_law 1988 = .ok (.iaload, 1) := dk_46 (dk_at dksL_law_79 0 rfl rfl)
theorem dL_law_1989 : decode cL_law 1989 = .ok (.aload_n 0, 1) := dk_42 (dk_at dksL_law_79 1 rfl rfl)
theorem dL_law_1990 : decode cL_law 1990 = .ok (.iload 4, 2) := dk_21 4 (dk_at dksL_law_79 2 rfl rfl)
theorem dL_law_1992 : decode cL_law 1992 = .ok (.iconst 2, 1) := dk_5 (dk_at dksL_law_79 4 rfl rfl)
theorem dL_law_1993 : decode cL_law 1993 = .ok (.iadd, 1) := dk_96 (dk_at dksL_law_79 5 rfl rfl)
theorem dL_law_1994 : decode cL_law 1994 = .ok (.iaload, 1) := dk_46 (dk_at dksL_law_79 6 rfl rfl)
theorem dL_law_1995 : decode cL_law 1995 = .ok (.aload_n 3, 1) := dk_45 (dk_at dksL_law_79 7 rfl rfl)
theorem dL_law_1996 : decode cL_law 1996 = .ok (.invokestatic 235, 3) := dk_184 0 235 (dk_at dksL_law_79 8 rfl rfl)
theorem dL_law_1999 : decode cL_law 1999 = .ok (.istore 5, 2) := dk_54 5 (dk_at dksL_law_79 11 rfl rfl)
theorem dL_law_2001 : decode cL_law 2001 = .ok (.aload_n 2, 1) := dk_44 (dk_at dksL_law_79 13 rfl rfl)
theorem dL_law_2002 : decode cL_law 2002 = .ok (.aload_n 0, 1) := dk_42 (dk_at dksL_law_79 14 rfl rfl)
theorem dL_law_2003 : decode cL_law 2003 = .ok (.iload 4, 2) := dk_21 4 (dk_at dksL_law_79 15 rfl rfl)
theorem dL_law_2005 : decode cL_law 2005 = .ok (.iconst 1, 1) := dk_4 (dk_at dksL_law_79 17 rfl rfl)
theorem dL_law_2006 : decode cL_law 2006 = .ok (.iadd, 1) := dk_96 (dk_at dksL_law_79 18 rfl rfl)
theorem dL_law_2007 : decode cL_law 2007 = .ok (.iaload, 1) := dk_46 (dk_at dksL_law_79 19 rfl rfl)
theorem dL_law_2008 : decode cL_law 2008 = .ok (.aload_n 0, 1) := dk_42 (dk_at dksL_law_79 20 rfl rfl)
theorem dL_law_2009 : decode cL_law 2009 = .ok (.iload 4, 2) := dk_21 4 (dk_at dksL_law_79 21 rfl rfl)
theorem dL_law_2011 : decode cL_law 2011 = .ok (.iconst 2, 1) := dk_5 (dk_at dksL_law_79 23 rfl rfl)
theorem dL_law_2012 : decode cL_law 2012 = .ok (.iadd, 1) := dk_96 (dk_at dksL_law_80 0 rfl rfl)
theorem dL_law_2013 : decode cL_law 2013 = .ok (.iaload, 1) := dk_46 (dk_at dksL_law_80 1 rfl rfl)
theorem dL_law_2014 : decode cL_law 2014 = .ok (.invokevirtual 237, 3) := dk_182 0 237 (dk_at dksL_law_80 2 rfl rfl)
theorem dL_law_2017 : decode cL_law 2017 = .ok (.istore 6, 2) := dk_54 6 (dk_at dksL_law_80 5 rfl rfl)
theorem dL_law_2019 : decode cL_law 2019 = .ok (.aload_n 2, 1) := dk_44 (dk_at dksL_law_80 7 rfl rfl)
theorem dL_law_2020 : decode cL_law 2020 = .ok (.invokevirtual 136, 3) := dk_182 0 136 (dk_at dksL_law_80 8 rfl rfl)
theorem dL_law_2023 : decode cL_law 2023 = .ok (.iload 5, 2) := dk_21 5 (dk_at dksL_law_80 11 rfl rfl)
theorem dL_law_2025 : decode cL_law 2025 = .ok (.if_icmp .eq 5, 3) := dk_159 0 5 (dk_at dksL_law_80 13 rfl rfl)
theorem dL_law_2028 : decode cL_law 2028 = .ok (.iconst 0, 1) := dk_3 (dk_at dksL_law_80 16 rfl rfl)
theorem dL_law_2029 : decode cL_law 2029 = .ok (.ireturn, 1) := dk_172 (dk_at dksL_law_80 17 rfl rfl)
theorem dL_law_2030 : decode cL_law 2030 = .ok (.iload 5, 2) := dk_21 5 (dk_at dksL_law_80 18 rfl rfl)
theorem dL_law_2032 : decode cL_law 2032 = .ok (.ifCond .ne 15, 3) := dk_154 0 15 (dk_at dksL_law_80 20 rfl rfl)
theorem dL_law_2035 : decode cL_law 2035 = .ok (.aload_n 3, 1) := dk_45 (dk_at dksL_law_80 23 rfl rfl)
theorem dL_law_2036 : decode cL_law 2036 = .ok (.iconst 0, 1) := dk_3 (dk_at dksL_law_81 0 rfl rfl)
theorem dL_law_2037 : decode cL_law 2037 = .ok (.laload, 1) := dk_47 (dk_at dksL_law_81 1 rfl rfl)
theorem dL_law_2038 : decode cL_law 2038 = .ok (.iload 6, 2) := dk_21 6 (dk_at dksL_law_81 2 rfl rfl)
theorem dL_law_2040 : decode cL_law 2040 = .ok (.i2l, 1) := dk_133 (dk_at dksL_law_81 4 rfl rfl)
theorem dL_law_2041 : decode cL_law 2041 = .ok (.lcmp, 1) := dk_148 (dk_at dksL_law_81 5 rfl rfl)
theorem dL_law_2042 : decode cL_law 2042 = .ok (.ifCond .eq 5, 3) := dk_153 0 5 (dk_at dksL_law_81 6 rfl rfl)
theorem dL_law_2045 : decode cL_law 2045 = .ok (.iconst 0, 1) := dk_3 (dk_at dksL_law_81 9 rfl rfl)
theorem dL_law_2046 : decode cL_law 2046 = .ok (.ireturn, 1) := dk_172 (dk_at dksL_law_81 10 rfl rfl)
theorem dL_law_2047 : decode cL_law 2047 = .ok (.goto 155, 3) := dk_167 0 155 (dk_at dksL_law_81 11 rfl rfl)
theorem dL_law_2050 : decode cL_law 2050 = .ok (.aload_n 1, 1) := dk_43 (dk_at dksL_law_81 14 rfl rfl)
theorem dL_law_2051 : decode cL_law 2051 = .ok (.aload_n 3, 1) := dk_45 (dk_at dksL_law_81 15 rfl rfl)
theorem dL_law_2052 : decode cL_law 2052 = .ok (.invokestatic 238, 3) := dk_184 0 238 (dk_at dksL_law_81 16 rfl rfl)
theorem dL_law_2055 : decode cL_law 2055 = .ok (.istore 5, 2) := dk_54 5 (dk_at dksL_law_81 19 rfl rfl)
theorem dL_law_2057 : decode cL_law 2057 = .ok (.aload_n 2, 1) := dk_44 (dk_at dksL_law_81 21 rfl rfl)
theorem dL_law_2058 : decode cL_law 2058 = .ok (.invokevirtual 241, 3) := dk_182 0 241 (dk_at dksL_law_82 0 rfl rfl)
theorem dL_law_2061 : decode cL_law 2061 = .ok (.istore 6, 2) := dk_54 6 (dk_at dksL_law_82 3 rfl rfl)
theorem dL_law_2063 : decode cL_law 2063 = .ok (.aload_n 2, 1) := dk_44 (dk_at dksL_law_82 5 rfl rfl)
theorem dL_law_2064 : decode cL_law 2064 = .ok (.invokevirtual 136, 3) := dk_182 0 136 (dk_at dksL_law_82 6 rfl rfl)
theorem dL_law_2067 : decode cL_law 2067 = .ok (.iload 5, 2) := dk_21 5 (dk_at dksL_law_82 9 rfl rfl)
theorem dL_law_2069 : decode cL_law 2069 = .ok (.if_icmp .eq 5, 3) := dk_159 0 5 (dk_at dksL_law_82 11 rfl rfl)
theorem dL_law_2072 : decode cL_law 2072 = .ok (.iconst 0, 1) := dk_3 (dk_at dksL_law_82 14 rfl rfl)
theorem dL_law_2073 : decode cL_law 2073 = .ok (.ireturn, 1) := dk_172 (dk_at dksL_law_82 15 rfl rfl)
theorem dL_law_2074 : decode cL_law 2074 = .ok (.iload 5, 2) := dk_21 5 (dk_at dksL_law_82 16 rfl rfl)
theorem dL_law_2076 : decode cL_law 2076 = .ok (.ifCond .ne 15, 3) := dk_154 0 15 (dk_at dksL_law_82 18 rfl rfl)
theorem dL_law_2079 : decode cL_law 2079 = .ok (.aload_n 3, 1) := dk_45 (dk_at dksL_law_82 21 rfl rfl)
theorem dL_law_2080 : decode cL_law 2080 = .ok (.iconst 0, 1) := dk_3 (dk_at dksL_law_82 22 rfl rfl)
theorem dL_law_2081 : decode cL_law 2081 = .ok (.laload, 1) := dk_47 (dk_at dksL_law_82 23 rfl rfl)
theorem dL_law_2082 : decode cL_law 2082 = .ok (.iload 6, 2) := dk_21 6 (dk_at dksL_law_83 0 rfl rfl)
theorem dL_law_2084 : decode cL_law 2084 = .ok (.i2l, 1) := dk_133 (dk_at dksL_law_83 2 rfl rfl)
theorem dL_law_2085 : decode cL_law 2085 = .ok (.lcmp, 1) := dk_148 (dk_at dksL_law_83 3 rfl rfl)
theorem dL_law_2086 : decode cL_law 2086 = .ok (.ifCond .eq 5, 3) := dk_153 0 5 (dk_at dksL_law_83 4 rfl rfl)
theorem dL_law_2089 : decode cL_law 2089 = .ok (.iconst 0, 1) := dk_3 (dk_at dksL_law_83 7 rfl rfl)
theorem dL_law_2090 : decode cL_law 2090 = .ok (.ireturn, 1) := dk_172 (dk_at dksL_law_83 8 rfl rfl)
theorem dL_law_2091 : decode cL_law 2091 = .ok (.goto 111, 3) := dk_167 0 111 (dk_at dksL_law_83 9 rfl rfl)
theorem dL_law_2094 : decode cL_law 2094 = .ok (.aload_n 1, 1) := dk_43 (dk_at dksL_law_83 12 rfl rfl)
theorem dL_law_2095 : decode cL_law 2095 = .ok (.invokevirtual 242, 3) := dk_182 0 242 (dk_at dksL_law_83 13 rfl rfl)
theorem dL_law_2098 : decode cL_law 2098 = .ok (.aload_n 2, 1) := dk_44 (dk_at dksL_law_83 16 rfl rfl)
theorem dL_law_2099 : decode cL_law 2099 = .ok (.invokevirtual 245, 3) := dk_182 0 245 (dk_at dksL_law_83 17 rfl rfl)
theorem dL_law_2102 : decode cL_law 2102 = .ok (.if_icmp .eq 100, 3) := dk_159 0 100 (dk_at dksL_law_83 20 rfl rfl)
theorem dL_law_2105 : decode cL_law 2105 = .ok (.iconst 0, 1) := dk_3 (dk_at dksL_law_83 23 rfl rfl)
theorem dL_law_2106 : decode cL_law 2106 = .ok (.ireturn, 1) := dk_172 (dk_at dksL_law_84 0 rfl rfl)
theorem dL_law_2107 : decode cL_law 2107 = .ok (.aload_n 1, 1) := dk_43 (dk_at dksL_law_84 1 rfl rfl)
theorem dL_law_2108 : decode cL_law 2108 = .ok (.invokevirtual 246, 3) := dk_182 0 246 (dk_at dksL_law_84 2 rfl rfl)
theorem dL_law_2111 : decode cL_law 2111 = .ok (.aload_n 2, 1) := dk_44 (dk_at dksL_law_84 5 rfl rfl)
theorem dL_law_2112 : decode cL_law 2112 = .ok (.invokevirtual 249, 3) := dk_182 0 249 (dk_at dksL_law_84 6 rfl rfl)
theorem dL_law_2115 : decode cL_law 2115 = .ok (.if_icmp .eq 87, 3) := dk_159 0 87 (dk_at dksL_law_84 9 rfl rfl)
theorem dL_law_2118 : decode cL_law 2118 = .ok (.iconst 0, 1) := dk_3 (dk_at dksL_law_84 12 rfl rfl)
theorem dL_law_2119 : decode cL_law 2119 = .ok (.ireturn, 1) := dk_172 (dk_at dksL_law_84 13 rfl rfl)
theorem dL_law_2120 : decode cL_law 2120 = .ok (.aload_n 1, 1) := dk_43 (dk_at dksL_law_84 14 rfl rfl)
theorem dL_law_2121 : decode cL_law 2121 = .ok (.aload_n 0, 1) := dk_42 (dk_at dksL_law_84 15 rfl rfl)
theorem dL_law_2122 : decode cL_law 2122 = .ok (.iload 4, 2) := dk_21 4 (dk_at dksL_law_84 16 rfl rfl)
theorem dL_law_2124 : decode cL_law 2124 = .ok (.iconst 1, 1) := dk_4 (dk_at dksL_law_84 18 rfl rfl)
theorem dL_law_2125 : decode cL_law 2125 = .ok (.iadd, 1) := dk_96 (dk_at dksL_law_84 19 rfl rfl)
theorem dL_law_2126 : decode cL_law 2126 = .ok (.iaload, 1) := dk_46 (dk_at dksL_law_84 20 rfl rfl)
theorem dL_law_2127 : decode cL_law 2127 = .ok (.invokevirtual 250, 3) := dk_182 0 250 (dk_at dksL_law_84 21 rfl rfl)
theorem dL_law_2130 : decode cL_law 2130 = .ok (.aload_n 2, 1) := dk_44 (dk_at dksL_law_85 0 rfl rfl)
theorem dL_law_2131 : decode cL_law 2131 = .ok (.aload_n 0, 1) := dk_42 (dk_at dksL_law_85 1 rfl rfl)
theorem dL_law_2132 : decode cL_law 2132 = .ok (.iload 4, 2) := dk_21 4 (dk_at dksL_law_85 2 rfl rfl)
theorem dL_law_2134 : decode cL_law 2134 = .ok (.iconst 1, 1) := dk_4 (dk_at dksL_law_85 4 rfl rfl)
theorem dL_law_2135 : decode cL_law 2135 = .ok (.iadd, 1) := dk_96 (dk_at dksL_law_85 5 rfl rfl)
theorem dL_law_2136 : decode cL_law 2136 = .ok (.iaload, 1) := dk_46 (dk_at dksL_law_85 6 rfl rfl)
theorem dL_law_2137 : decode cL_law 2137 = .ok (.invokevirtual 253, 3) := dk_182 0 253 (dk_at dksL_law_85 7 rfl rfl)
theorem dL_law_2140 : decode cL_law 2140 = .ok (.if_icmp .eq 62, 3) := dk_159 0 62 (dk_at dksL_law_85 10 rfl rfl)
theorem dL_law_2143 : decode cL_law 2143 = .ok (.iconst 0, 1) := dk_3 (dk_at dksL_law_85 13 rfl rfl)
theorem dL_law_2144 : decode cL_law 2144 = .ok (.ireturn, 1) := dk_172 (dk_at dksL_law_85 14 rfl rfl)
theorem dL_law_2145 : decode cL_law 2145 = .ok (.aload_n 1, 1) := dk_43 (dk_at dksL_law_85 15 rfl rfl)
theorem dL_law_2146 : decode cL_law 2146 = .ok (.invokevirtual 254, 3) := dk_182 0 254 (dk_at dksL_law_85 16 rfl rfl)
theorem dL_law_2149 : decode cL_law 2149 = .ok (.aload_n 2, 1) := dk_44 (dk_at dksL_law_85 19 rfl rfl)
theorem dL_law_2150 : decode cL_law 2150 = .ok (.invokevirtual 257, 3) := dk_182 1 1 (dk_at dksL_law_85 20 rfl rfl)
theorem dL_law_2153 : decode cL_law 2153 = .ok (.if_icmp .eq 49, 3) := dk_159 0 49 (dk_at dksL_law_86 0 rfl rfl)
theorem dL_law_2156 : decode cL_law 2156 = .ok (.iconst 0, 1) := dk_3 (dk_at dksL_law_86 3 rfl rfl)
theorem dL_law_2157 : decode cL_law 2157 = .ok (.ireturn, 1) := dk_172 (dk_at dksL_law_86 4 rfl rfl)
theorem dL_law_2158 : decode cL_law 2158 = .ok (.aload_n 1, 1) := dk_43 (dk_at dksL_law_86 5 rfl rfl)
theorem dL_law_2159 : decode cL_law 2159 = .ok (.aload_n 3, 1) := dk_45 (dk_at dksL_law_86 6 rfl rfl)
theorem dL_law_2160 : decode cL_law 2160 = .ok (.invokestatic 258, 3) := dk_184 1 2 (dk_at dksL_law_86 7 rfl rfl)
theorem dL_law_2163 : decode cL_law 2163 = .ok (.istore 5, 2) := dk_54 5 (dk_at dksL_law_86 10 rfl rfl)
theorem dL_law_2165 : decode cL_law 2165 = .ok (.aload_n 2, 1) := dk_44 (dk_at dksL_law_86 12 rfl rfl)
theorem dL_law_2166 : decode cL_law 2166 = .ok (.invokevirtual 260, 3) := dk_182 1 4 (dk_at dksL_law_86 13 rfl rfl)
theorem dL_law_2169 : decode cL_law 2169 = .ok (.istore 6, 2) := dk_54 6 (dk_at dksL_law_86 16 rfl rfl)
theorem dL_law_2171 : decode cL_law 2171 = .ok (.aload_n 2, 1) := dk_44 (dk_at dksL_law_86 18 rfl rfl)
theorem dL_law_2172 : decode cL_law 2172 = .ok (.invokevirtual 136, 3) := dk_182 0 136 (dk_at dksL_law_86 19 rfl rfl)
theorem dL_law_2175 : decode cL_law 2175 = .ok (.iload 5, 2) := dk_21 5 (dk_at dksL_law_86 22 rfl rfl)
theorem dL_law_2177 : decode cL_law 2177 = .ok (.if_icmp .eq 5, 3) := dk_159 0 5 (dk_at dksL_law_87 0 rfl rfl)
theorem dL_law_2180 : decode cL_law 2180 = .ok (.iconst 0, 1) := dk_3 (dk_at dksL_law_87 3 rfl rfl)
theorem dL_law_2181 : decode cL_law 2181 = .ok (.ireturn, 1) := dk_172 (dk_at dksL_law_87 4 rfl rfl)
theorem dL_law_2182 : decode cL_law 2182 = .ok (.iload 5, 2) := dk_21 5 (dk_at dksL_law_87 5 rfl rfl)
theorem dL_law_2184 : decode cL_law 2184 = .ok (.ifCond .ne 15, 3) := dk_154 0 15 (dk_at dksL_law_87 7 rfl rfl)
theorem dL_law_2187 : decode cL_law 2187 = .ok (.aload_n 3, 1) := dk_45 (dk_at dksL_law_87 10 rfl rfl)
theorem dL_law_2188 : decode cL_law 2188 = .ok (.iconst 0, 1) := dk_3 (dk_at dksL_law_87 11 rfl rfl)
theorem dL_law_2189 : decode cL_law 2189 = .ok (.laload, 1) := dk_47 (dk_at dksL_law_87 12 rfl rfl)
theorem dL_law_2190 : decode cL_law 2190 = .ok (.iload 6, 2) := dk_21 6 (dk_at dksL_law_87 13 rfl rfl)
theorem dL_law_2192 : decode cL_law 2192 = .ok (.i2l, 1) := dk_133 (dk_at dksL_law_87 15 rfl rfl)
theorem dL_law_2193 : decode cL_law 2193 = .ok (.lcmp, 1) := dk_148 (dk_at dksL_law_87 16 rfl rfl)
theorem dL_law_2194 : decode cL_law 2194 = .ok (.ifCond .eq 5, 3) := dk_153 0 5 (dk_at dksL_law_87 17 rfl rfl)
theorem dL_law_2197 : decode cL_law 2197 = .ok (.iconst 0, 1) := dk_3 (dk_at dksL_law_87 20 rfl rfl)
theorem dL_law_2198 : decode cL_law 2198 = .ok (.ireturn, 1) := dk_172 (dk_at dksL_law_87 21 rfl rfl)
theorem dL_law_2199 : decode cL_law 2199 = .ok (.goto 3, 3) := dk_167 0 3 (dk_at dksL_law_88 0 rfl rfl)
theorem dL_law_2202 : decode cL_law 2202 = .ok (.iinc 4 6, 3) := dk_132 4 6 (dk_at dksL_law_88 3 rfl rfl)
theorem dL_law_2205 : decode cL_law 2205 = .ok (.goto (-2182), 3) := dk_167 247 122 (dk_at dksL_law_88 6 rfl rfl)
theorem dL_law_2208 : decode cL_law 2208 = .ok (.iconst 1, 1) := dk_4 (dk_at dksL_law_88 9 rfl rfl)
theorem dL_law_2209 : decode cL_law 2209 = .ok (.ireturn, 1) := dk_172 (dk_at dksL_law_88 10 rfl rfl)

theorem q340 : (Jvm.Cond.sameMethod "[B" "java/lang/Object" "clone" "()Ljava/lang/Object;") ∈ lw_all := lw_g (lw_at lw_m1 203 rfl) rfl
set_option maxRecDepth 100000
theorem q343 : (Jvm.Cond.selects "[B" ({ cls := "[B", name := "clone", desc := "()Ljava/lang/Object;" } : Jvm.MethodName) ({ cls := "java/lang/Object", name := "clone", desc := "()Ljava/lang/Object;" } : Jvm.MethodName)) ∈ lw_all := lw_g (lw_at lw_m1 206 rfl) rfl
theorem q344 : (Jvm.Cond.castable "[B" "java/lang/Cloneable") ∈ lw_tbl := lw_at lw_m1 207 rfl
theorem q3396 : (Jvm.Cond.castable "[B" "java/lang/Object") ∈ lw_tbl := lw_at lw_m14 139 rfl

theorem q3397 : (Jvm.Cond.castable "[I" "java/lang/Object") ∈ lw_tbl := lw_at lw_m14 140 rfl
set_option maxRecDepth 100000

theorem q3399 : (Jvm.Cond.castable "[J" "java/lang/Object") ∈ lw_tbl := lw_at lw_m14 142 rfl
set_option maxRecDepth 100000

theorem q3392 : (Jvm.Cond.sameMethod "[Ljava/lang/Object;" "java/lang/Object" "getClass" "()Ljava/lang/Class;") ∈ lw_all := lw_g (lw_at lw_m14 135 rfl) rfl
set_option maxRecDepth 100000
theorem q3393 : (Jvm.Cond.selects "[Ljava/lang/Object;" ({ cls := "java/lang/Object", name := "getClass", desc := "()Ljava/lang/Class;" } : Jvm.MethodName) ({ cls := "java/lang/Object", name := "getClass", desc := "()Ljava/lang/Class;" } : Jvm.MethodName)) ∈ lw_all := lw_g (lw_at lw_m14 136 rfl) rfl
theorem q3395 : (Jvm.Cond.castable "[Ljava/lang/Object;" "java/lang/Object") ∈ lw_tbl := lw_at lw_m14 138 rfl

theorem q3398 : (Jvm.Cond.castable "[Z" "java/lang/Object") ∈ lw_tbl := lw_at lw_m14 141 rfl
set_option maxRecDepth 100000

theorem q157 : (Jvm.Cond.initialized "java/lang/Number") ∈ lw_all := lw_g (lw_at lw_m1 20 rfl) rfl
set_option maxRecDepth 100000

theorem q154 : (Jvm.Cond.initialized "java/lang/System") ∈ lw_all := lw_g (lw_at lw_m1 17 rfl) rfl
set_option maxRecDepth 100000
theorem q350 : (Jvm.Cond.static ({ cls := "java/lang/System", name := "arraycopy", desc := "(Ljava/lang/Object;ILjava/lang/Object;II)V" } : Jvm.MethodName)) ∈ lw_all := lw_g (lw_at lw_m1 213 rfl) rfl
theorem q351 : (Jvm.Cond.native ({ cls := "java/lang/System", name := "arraycopy", desc := "(Ljava/lang/Object;ILjava/lang/Object;II)V" } : Jvm.MethodName)) ∈ lw_all := lw_g (lw_at lw_m1 214 rfl) rfl

theorem q170 : (Jvm.Cond.initialized "java/util/AbstractList$ListItr") ∈ lw_all := lw_g (lw_at lw_m1 33 rfl) rfl
set_option maxRecDepth 100000
theorem q631 : (Jvm.Cond.selects "java/util/AbstractList$ListItr" ({ cls := "java/lang/Object", name := "getClass", desc := "()Ljava/lang/Class;" } : Jvm.MethodName) ({ cls := "java/lang/Object", name := "getClass", desc := "()Ljava/lang/Class;" } : Jvm.MethodName)) ∈ lw_all := lw_g (lw_at lw_m3 14 rfl) rfl
theorem q1175 : (Jvm.Cond.castable "java/util/AbstractList$ListItr" "java/util/Iterator") ∈ lw_tbl := lw_at lw_m5 78 rfl
theorem q1176 : (Jvm.Cond.selects "java/util/AbstractList$ListItr" ({ cls := "java/util/Iterator", name := "hasNext", desc := "()Z" } : Jvm.MethodName) ({ cls := "java/util/AbstractList$Itr", name := "hasNext", desc := "()Z" } : Jvm.MethodName)) ∈ lw_all := lw_g (lw_at lw_m5 79 rfl) rfl
theorem q1177 : (Jvm.Cond.unhidden "java/util/AbstractList$ListItr" "hasNext" "()Z") ∈ lw_tbl := lw_at lw_m5 80 rfl
theorem q1205 : (Jvm.Cond.selects "java/util/AbstractList$ListItr" ({ cls := "java/util/Iterator", name := "next", desc := "()Ljava/lang/Object;" } : Jvm.MethodName) ({ cls := "java/util/AbstractList$Itr", name := "next", desc := "()Ljava/lang/Object;" } : Jvm.MethodName)) ∈ lw_all := lw_g (lw_at lw_m5 108 rfl) rfl
theorem q1206 : (Jvm.Cond.unhidden "java/util/AbstractList$ListItr" "next" "()Ljava/lang/Object;") ∈ lw_tbl := lw_at lw_m5 109 rfl
theorem q1213 : (Jvm.Cond.selects "java/util/AbstractList$ListItr" ({ cls := "java/util/AbstractList$Itr", name := "checkForComodification", desc := "()V" } : Jvm.MethodName) ({ cls := "java/util/AbstractList$Itr", name := "checkForComodification", desc := "()V" } : Jvm.MethodName)) ∈ lw_all := lw_g (lw_at lw_m5 116 rfl) rfl
theorem q3370 : (Jvm.Cond.castable "java/util/AbstractList$ListItr" "java/lang/Object") ∈ lw_tbl := lw_at lw_m14 113 rfl
theorem q3402 : (Jvm.Cond.fieldLink "java/util/AbstractList$ListItr" (1 : Nat) "java/util/AbstractList$ListItr" "this$0" "Ljava/util/AbstractList;") ∈ lw_all := lw_g (lw_at lw_m14 145 rfl) rfl
theorem q3407 : (Jvm.Cond.fieldLink "java/util/AbstractList$ListItr" (13 : Nat) "java/util/AbstractList$ListItr" "cursor" "I") ∈ lw_all := lw_g (lw_at lw_m14 150 rfl) rfl
theorem q3408 : (Jvm.Cond.sameField "java/util/AbstractList$ListItr" "java/util/AbstractList$Itr" "cursor" "I") ∈ lw_all := lw_g (lw_at lw_m14 151 rfl) rfl

theorem q1173 : (Jvm.Cond.interfaceMethod "java/util/Iterator" "java/util/Iterator" "hasNext" "()Z") ∈ lw_tbl := lw_at lw_m5 76 rfl
set_option maxRecDepth 100000
theorem q1174 : (Jvm.Cond.declares ({ cls := "java/util/Iterator", name := "hasNext", desc := "()Z" } : Jvm.MethodName)) ∈ lw_tbl := lw_at lw_m5 77 rfl
theorem q1203 : (Jvm.Cond.interfaceMethod "java/util/Iterator" "java/util/Iterator" "next" "()Ljava/lang/Object;") ∈ lw_tbl := lw_at lw_m5 106 rfl
theorem q1204 : (Jvm.Cond.declares ({ cls := "java/util/Iterator", name := "next", desc := "()Ljava/lang/Object;" } : Jvm.MethodName)) ∈ lw_tbl := lw_at lw_m5 107 rfl

theorem q579 : (Jvm.Cond.interfaceMethod "java/util/List" "java/util/List" "add" "(Ljava/lang/Object;)Z") ∈ lw_tbl := lw_at lw_m2 202 rfl
set_option maxRecDepth 100000
theorem q580 : (Jvm.Cond.declares ({ cls := "java/util/List", name := "add", desc := "(Ljava/lang/Object;)Z" } : Jvm.MethodName)) ∈ lw_tbl := lw_at lw_m2 203 rfl
theorem q830 : (Jvm.Cond.interfaceMethod "java/util/List" "java/util/List" "size" "()I") ∈ lw_tbl := lw_at lw_m3 213 rfl
theorem q831 : (Jvm.Cond.declares ({ cls := "java/util/List", name := "size", desc := "()I" } : Jvm.MethodName)) ∈ lw_tbl := lw_at lw_m3 214 rfl
theorem q849 : (Jvm.Cond.interfaceMethod "java/util/List" "java/util/List" "get" "(I)Ljava/lang/Object;") ∈ lw_tbl := lw_at lw_m3 232 rfl
theorem q850 : (Jvm.Cond.declares ({ cls := "java/util/List", name := "get", desc := "(I)Ljava/lang/Object;" } : Jvm.MethodName)) ∈ lw_tbl := lw_at lw_m3 233 rfl
theorem q921 : (Jvm.Cond.interfaceMethod "java/util/List" "java/util/List" "remove" "(I)Ljava/lang/Object;") ∈ lw_tbl := lw_at lw_m4 64 rfl
theorem q922 : (Jvm.Cond.declares ({ cls := "java/util/List", name := "remove", desc := "(I)Ljava/lang/Object;" } : Jvm.MethodName)) ∈ lw_tbl := lw_at lw_m4 65 rfl
theorem q1014 : (Jvm.Cond.interfaceMethod "java/util/List" "java/util/List" "set" "(ILjava/lang/Object;)Ljava/lang/Object;") ∈ lw_tbl := lw_at lw_m4 157 rfl
theorem q1015 : (Jvm.Cond.declares ({ cls := "java/util/List", name := "set", desc := "(ILjava/lang/Object;)Ljava/lang/Object;" } : Jvm.MethodName)) ∈ lw_tbl := lw_at lw_m4 158 rfl
theorem q1051 : (Jvm.Cond.interfaceMethod "java/util/List" "java/util/List" "clear" "()V") ∈ lw_tbl := lw_at lw_m4 194 rfl
theorem q1052 : (Jvm.Cond.declares ({ cls := "java/util/List", name := "clear", desc := "()V" } : Jvm.MethodName)) ∈ lw_tbl := lw_at lw_m4 195 rfl
theorem q1065 : (Jvm.Cond.interfaceMethod "java/util/List" "java/util/List" "iterator" "()Ljava/util/Iterator;") ∈ lw_tbl := lw_at lw_m4 208 rfl
theorem q1066 : (Jvm.Cond.declares ({ cls := "java/util/List", name := "iterator", desc := "()Ljava/util/Iterator;" } : Jvm.MethodName)) ∈ lw_tbl := lw_at lw_m4 209 rfl
theorem q1725 : (Jvm.Cond.interfaceMethod "java/util/List" "java/util/List" "isEmpty" "()Z") ∈ lw_tbl := lw_at lw_m7 148 rfl
theorem q1726 : (Jvm.Cond.declares ({ cls := "java/util/List", name := "isEmpty", desc := "()Z" } : Jvm.MethodName)) ∈ lw_tbl := lw_at lw_m7 149 rfl
theorem q2079 : (Jvm.Cond.interfaceMethod "java/util/List" "java/util/List" "add" "(ILjava/lang/Object;)V") ∈ lw_tbl := lw_at lw_m9 22 rfl
theorem q2080 : (Jvm.Cond.declares ({ cls := "java/util/List", name := "add", desc := "(ILjava/lang/Object;)V" } : Jvm.MethodName)) ∈ lw_tbl := lw_at lw_m9 23 rfl
theorem q2188 : (Jvm.Cond.interfaceMethod "java/util/List" "java/util/List" "contains" "(Ljava/lang/Object;)Z") ∈ lw_tbl := lw_at lw_m9 131 rfl
theorem q2189 : (Jvm.Cond.declares ({ cls := "java/util/List", name := "contains", desc := "(Ljava/lang/Object;)Z" } : Jvm.MethodName)) ∈ lw_tbl := lw_at lw_m9 132 rfl

theorem q1655 : (Jvm.Cond.interfaceMethod "jdk/internal/access/JavaLangAccess" "jdk/internal/access/JavaLangAccess" "getUTF16Char" "([BI)C") ∈ lw_tbl := lw_at lw_m7 78 rfl
set_option maxRecDepth 100000
theorem q1656 : (Jvm.Cond.declares ({ cls := "jdk/internal/access/JavaLangAccess", name := "getUTF16Char", desc := "([BI)C" } : Jvm.MethodName)) ∈ lw_tbl := lw_at lw_m7 79 rfl

theorem q223 : (Jvm.Cond.arrayOver (Jvm.ClassFile.FieldType.object "java/lang/Object")) ∈ lw_tbl := lw_at lw_m1 86 rfl
set_option maxRecDepth 100000
theorem q304 : (Jvm.Cond.arrayClass Jvm.ClassFile.FieldType.byte) ∈ lw_all := lw_g (lw_at lw_m1 167 rfl) rfl
theorem q678 : (Jvm.Cond.arrayClass Jvm.ClassFile.FieldType.int) ∈ lw_all := lw_g (lw_at lw_m3 61 rfl) rfl
theorem q679 : (Jvm.Cond.arrayClass Jvm.ClassFile.FieldType.boolean) ∈ lw_all := lw_g (lw_at lw_m3 62 rfl) rfl
theorem q3320 : (Jvm.Cond.arrayClass Jvm.ClassFile.FieldType.long) ∈ lw_all := lw_g (lw_at lw_m14 63 rfl) rfl
theorem q3400 : (Jvm.Cond.arrayClass Jvm.ClassFile.FieldType.char) ∈ lw_all := lw_g (lw_at lw_m14 143 rfl) rfl
theorem q3401 : (Jvm.Cond.arrayClass Jvm.ClassFile.FieldType.short) ∈ lw_all := lw_g (lw_at lw_m14 144 rfl) rfl

