/-! the law's own entry -/
set_option maxRecDepth 100000
abbrev cL_law : ByteArray := code
def dkwL_law_75 : List UInt8 := [4, 96, 46, 182, 0, 220, 159, 0, 5, 3, 172, 132, 4, 6, 167, 248, 122, 4, 172]
abbrev dktL_law_75 : List UInt8 := dkwL_law_75 ++ []
def dkwL_law_74 : List UInt8 := [96, 46, 182, 0, 216, 159, 0, 30, 3, 172, 43, 42, 21, 4, 4, 96, 46, 182, 0, 217, 44, 42, 21, 4]
abbrev dktL_law_74 : List UInt8 := dkwL_law_74 ++ dktL_law_75
def dkwL_law_73 : List UInt8 := [46, 182, 0, 212, 159, 0, 55, 3, 172, 43, 42, 21, 4, 4, 96, 46, 182, 0, 213, 44, 42, 21, 4, 4]
abbrev dktL_law_73 : List UInt8 := dkwL_law_73 ++ dktL_law_74
def dkwL_law_72 : List UInt8 := [182, 0, 208, 159, 0, 80, 3, 172, 43, 42, 21, 4, 4, 96, 46, 182, 0, 209, 44, 42, 21, 4, 4, 96]
abbrev dktL_law_72 : List UInt8 := dkwL_law_72 ++ dktL_law_73
def dkwL_law_71 : List UInt8 := [159, 0, 105, 3, 172, 43, 42, 21, 4, 4, 96, 46, 182, 0, 205, 44, 42, 21, 4, 4, 96, 46]
abbrev dktL_law_71 : List UInt8 := dkwL_law_71 ++ dktL_law_72
def dkwL_law_70 : List UInt8 := [42, 21, 4, 4, 96, 46, 182, 0, 200, 159, 0, 118, 3, 172, 43, 182, 0, 201, 44, 182, 0, 204]
abbrev dktL_law_70 : List UInt8 := dkwL_law_70 ++ dktL_law_71
def dkwL_law_69 : List UInt8 := [21, 4, 4, 96, 46, 182, 0, 196, 159, 0, 143, 3, 172, 43, 42, 21, 4, 4, 96, 46, 182, 0, 197, 44]
abbrev dktL_law_69 : List UInt8 := dkwL_law_69 ++ dktL_law_70
def dkwL_law_68 : List UInt8 := [5, 96, 46, 182, 0, 192, 159, 0, 168, 3, 172, 43, 42, 21, 4, 4, 96, 46, 182, 0, 193, 44, 42]
abbrev dktL_law_68 : List UInt8 := dkwL_law_68 ++ dktL_law_69
def dkwL_law_67 : List UInt8 := [21, 4, 4, 96, 46, 42, 21, 4, 5, 96, 46, 182, 0, 189, 44, 42, 21, 4, 4, 96, 46, 42, 21, 4]
abbrev dktL_law_67 : List UInt8 := dkwL_law_67 ++ dktL_law_68
def dkwL_law_66 : List UInt8 := [182, 0, 184, 159, 0, 218, 3, 172, 43, 182, 0, 185, 44, 182, 0, 188, 159, 0, 205, 3, 172, 43, 42]
abbrev dktL_law_66 : List UInt8 := dkwL_law_66 ++ dktL_law_67
def dkwL_law_65 : List UInt8 := [96, 46, 42, 21, 4, 5, 96, 46, 182, 0, 181, 44, 42, 21, 4, 4, 96, 46, 42, 21, 4, 5, 96, 46]
abbrev dktL_law_65 : List UInt8 := dkwL_law_65 ++ dktL_law_66
def dkwL_law_64 : List UInt8 := [21, 4, 4, 96, 46, 42, 21, 4, 5, 96, 46, 182, 0, 180, 159, 0, 255, 3, 172, 43, 42, 21, 4, 4]
abbrev dktL_law_64 : List UInt8 := dkwL_law_64 ++ dktL_law_65
def dkwL_law_63 : List UInt8 := [159, 1, 36, 3, 172, 43, 42, 21, 4, 4, 96, 46, 42, 21, 4, 5, 96, 46, 182, 0, 177, 44, 42]
abbrev dktL_law_63 : List UInt8 := dkwL_law_63 ++ dktL_law_64
def dkwL_law_62 : List UInt8 := [5, 96, 46, 182, 0, 173, 44, 42, 21, 4, 4, 96, 46, 42, 21, 4, 5, 96, 46, 182, 0, 176]
abbrev dktL_law_62 : List UInt8 := dkwL_law_62 ++ dktL_law_63
def dkwL_law_61 : List UInt8 := [42, 21, 4, 6, 96, 46, 182, 0, 172, 159, 1, 73, 3, 172, 43, 42, 21, 4, 4, 96, 46, 42, 21, 4]
abbrev dktL_law_61 : List UInt8 := dkwL_law_61 ++ dktL_law_62
def dkwL_law_60 : List UInt8 := [96, 46, 42, 21, 4, 6, 96, 46, 182, 0, 169, 44, 42, 21, 4, 4, 96, 46, 42, 21, 4, 5, 96, 46]
abbrev dktL_law_60 : List UInt8 := dkwL_law_60 ++ dktL_law_61
def dkwL_law_59 : List UInt8 := [21, 4, 5, 96, 46, 182, 0, 168, 159, 1, 122, 3, 172, 43, 42, 21, 4, 4, 96, 46, 42, 21, 4, 5]
abbrev dktL_law_59 : List UInt8 := dkwL_law_59 ++ dktL_law_60
def dkwL_law_58 : List UInt8 := [43, 42, 21, 4, 4, 96, 46, 42, 21, 4, 5, 96, 46, 182, 0, 165, 44, 42, 21, 4, 4, 96, 46, 42]
abbrev dktL_law_58 : List UInt8 := dkwL_law_58 ++ dktL_law_59
def dkwL_law_57 : List UInt8 := [182, 0, 161, 44, 42, 21, 4, 4, 96, 46, 42, 21, 4, 5, 96, 46, 182, 0, 164, 159, 1, 159, 3, 172]
abbrev dktL_law_57 : List UInt8 := dkwL_law_57 ++ dktL_law_58
def dkwL_law_56 : List UInt8 := [96, 46, 182, 0, 160, 159, 1, 196, 3, 172, 43, 42, 21, 4, 4, 96, 46, 42, 21, 4, 5, 96, 46]
abbrev dktL_law_56 : List UInt8 := dkwL_law_56 ++ dktL_law_57
def dkwL_law_55 : List UInt8 := [44, 182, 0, 156, 159, 1, 221, 3, 172, 43, 42, 21, 4, 4, 96, 46, 182, 0, 157, 44, 42, 21, 4, 4]
abbrev dktL_law_55 : List UInt8 := dkwL_law_55 ++ dktL_law_56
def dkwL_law_54 : List UInt8 := [42, 21, 4, 5, 96, 46, 42, 21, 4, 6, 96, 46, 182, 0, 152, 159, 1, 234, 3, 172, 43, 182, 0, 153]
abbrev dktL_law_54 : List UInt8 := dkwL_law_54 ++ dktL_law_55
def dkwL_law_53 : List UInt8 := [96, 46, 42, 21, 4, 5, 96, 46, 42, 21, 4, 6, 96, 46, 182, 0, 149, 44, 42, 21, 4, 4, 96, 46]
abbrev dktL_law_53 : List UInt8 := dkwL_law_53 ++ dktL_law_54
def dkwL_law_52 : List UInt8 := [21, 4, 4, 96, 46, 42, 21, 4, 5, 96, 46, 182, 0, 148, 159, 2, 27, 3, 172, 43, 42, 21, 4, 4]
abbrev dktL_law_52 : List UInt8 := dkwL_law_52 ++ dktL_law_53
def dkwL_law_51 : List UInt8 := [159, 2, 64, 3, 172, 43, 42, 21, 4, 4, 96, 46, 42, 21, 4, 5, 96, 46, 182, 0, 145, 44, 42]
abbrev dktL_law_51 : List UInt8 := dkwL_law_51 ++ dktL_law_52
def dkwL_law_50 : List UInt8 := [21, 4, 5, 96, 46, 182, 0, 141, 44, 42, 21, 4, 4, 96, 46, 42, 21, 4, 5, 96, 46, 182, 0, 144]
abbrev dktL_law_50 : List UInt8 := dkwL_law_50 ++ dktL_law_51
def dkwL_law_49 : List UInt8 := [46, 42, 21, 4, 6, 96, 46, 182, 0, 140, 159, 2, 101, 3, 172, 43, 42, 21, 4, 4, 96, 46, 42]
abbrev dktL_law_49 : List UInt8 := dkwL_law_49 ++ dktL_law_50
def dkwL_law_48 : List UInt8 := [5, 96, 46, 42, 21, 4, 6, 96, 46, 182, 0, 137, 44, 42, 21, 4, 4, 96, 46, 42, 21, 4, 5, 96]
abbrev dktL_law_48 : List UInt8 := dkwL_law_48 ++ dktL_law_49
def dkwL_law_47 : List UInt8 := [42, 21, 4, 6, 96, 46, 182, 0, 136, 159, 2, 150, 3, 172, 43, 42, 21, 4, 4, 96, 46, 42, 21, 4]
abbrev dktL_law_47 : List UInt8 := dkwL_law_47 ++ dktL_law_48
def dkwL_law_46 : List UInt8 := [96, 46, 42, 21, 4, 6, 96, 46, 182, 0, 133, 44, 42, 21, 4, 4, 96, 46, 42, 21, 4, 5, 96, 46]
abbrev dktL_law_46 : List UInt8 := dkwL_law_46 ++ dktL_law_47
def dkwL_law_45 : List UInt8 := [21, 4, 6, 96, 46, 182, 0, 132, 159, 2, 199, 3, 172, 43, 42, 21, 4, 4, 96, 46, 42, 21, 4, 5]
abbrev dktL_law_45 : List UInt8 := dkwL_law_45 ++ dktL_law_46
def dkwL_law_44 : List UInt8 := [42, 21, 4, 6, 96, 46, 182, 0, 129, 44, 42, 21, 4, 4, 96, 46, 42, 21, 4, 5, 96, 46, 42]
abbrev dktL_law_44 : List UInt8 := dkwL_law_44 ++ dktL_law_45
def dkwL_law_43 : List UInt8 := [6, 96, 46, 182, 0, 128, 159, 2, 248, 3, 172, 43, 42, 21, 4, 4, 96, 46, 42, 21, 4, 5, 96, 46]
abbrev dktL_law_43 : List UInt8 := dkwL_law_43 ++ dktL_law_44
def dkwL_law_42 : List UInt8 := [21, 4, 6, 96, 46, 182, 0, 125, 44, 42, 21, 4, 4, 96, 46, 42, 21, 4, 5, 96, 46, 42, 21, 4]
abbrev dktL_law_42 : List UInt8 := dkwL_law_42 ++ dktL_law_43
def dkwL_law_41 : List UInt8 := [46, 182, 0, 124, 159, 3, 41, 3, 172, 43, 42, 21, 4, 4, 96, 46, 42, 21, 4, 5, 96, 46, 42]
abbrev dktL_law_41 : List UInt8 := dkwL_law_41 ++ dktL_law_42
def dkwL_law_40 : List UInt8 := [182, 0, 120, 159, 3, 66, 3, 172, 43, 42, 21, 4, 4, 96, 46, 182, 0, 121, 44, 42, 21, 4, 4, 96]
abbrev dktL_law_40 : List UInt8 := dkwL_law_40 ++ dktL_law_41
def dkwL_law_39 : List UInt8 := [159, 3, 91, 3, 172, 43, 42, 21, 4, 4, 96, 46, 182, 0, 117, 44, 42, 21, 4, 4, 96, 46]
abbrev dktL_law_39 : List UInt8 := dkwL_law_39 ++ dktL_law_40
def dkwL_law_38 : List UInt8 := [21, 4, 5, 96, 46, 182, 0, 113, 44, 42, 21, 4, 4, 96, 46, 42, 21, 4, 5, 96, 46, 182, 0, 116]
abbrev dktL_law_38 : List UInt8 := dkwL_law_38 ++ dktL_law_39
def dkwL_law_37 : List UInt8 := [96, 46, 42, 21, 4, 5, 96, 46, 182, 0, 112, 159, 3, 128, 3, 172, 43, 42, 21, 4, 4, 96, 46, 42]
abbrev dktL_law_37 : List UInt8 := dkwL_law_37 ++ dktL_law_38
def dkwL_law_36 : List UInt8 := [167, 3, 163, 43, 42, 21, 4, 4, 96, 46, 42, 21, 4, 5, 96, 46, 182, 0, 109, 44, 42, 21, 4, 4]
abbrev dktL_law_36 : List UInt8 := dkwL_law_36 ++ dktL_law_37
def dkwL_law_35 : List UInt8 := [159, 0, 5, 3, 172, 21, 5, 154, 0, 15, 45, 3, 47, 21, 6, 133, 148, 153, 0, 5, 3, 172]
abbrev dktL_law_35 : List UInt8 := dkwL_law_35 ++ dktL_law_36
def dkwL_law_34 : List UInt8 := [21, 4, 4, 96, 46, 42, 21, 4, 5, 96, 46, 182, 0, 108, 54, 6, 44, 182, 0, 83, 21, 5]
abbrev dktL_law_34 : List UInt8 := dkwL_law_34 ++ dktL_law_35
def dkwL_law_33 : List UInt8 := [167, 3, 231, 43, 42, 21, 4, 4, 96, 46, 42, 21, 4, 5, 96, 46, 45, 184, 0, 106, 54, 5, 44, 42]
abbrev dktL_law_33 : List UInt8 := dkwL_law_33 ++ dktL_law_34
def dkwL_law_32 : List UInt8 := [21, 5, 159, 0, 5, 3, 172, 21, 5, 154, 0, 15, 45, 3, 47, 21, 6, 133, 148, 153, 0, 5, 3, 172]
abbrev dktL_law_32 : List UInt8 := dkwL_law_32 ++ dktL_law_33
def dkwL_law_31 : List UInt8 := [46, 45, 184, 0, 102, 54, 5, 44, 42, 21, 4, 4, 96, 46, 182, 0, 105, 54, 6, 44, 182, 0, 83]
abbrev dktL_law_31 : List UInt8 := dkwL_law_31 ++ dktL_law_32
def dkwL_law_30 : List UInt8 := [154, 0, 15, 45, 3, 47, 21, 6, 133, 148, 153, 0, 5, 3, 172, 167, 4, 31, 43, 42, 21, 4, 4, 96]
abbrev dktL_law_30 : List UInt8 := dkwL_law_30 ++ dktL_law_31
def dkwL_law_29 : List UInt8 := [21, 4, 6, 96, 46, 182, 0, 101, 54, 6, 44, 182, 0, 83, 21, 5, 159, 0, 5, 3, 172, 21, 5]
abbrev dktL_law_29 : List UInt8 := dkwL_law_29 ++ dktL_law_30
def dkwL_law_28 : List UInt8 := [6, 96, 46, 45, 184, 0, 98, 54, 5, 44, 42, 21, 4, 4, 96, 46, 42, 21, 4, 5, 96, 46, 42]
abbrev dktL_law_28 : List UInt8 := dkwL_law_28 ++ dktL_law_29
def dkwL_law_27 : List UInt8 := [182, 0, 97, 159, 4, 113, 3, 172, 43, 42, 21, 4, 4, 96, 46, 42, 21, 4, 5, 96, 46, 42, 21, 4]
abbrev dktL_law_27 : List UInt8 := dkwL_law_27 ++ dktL_law_28
def dkwL_law_26 : List UInt8 := [96, 46, 42, 21, 4, 5, 96, 46, 182, 0, 94, 44, 42, 21, 4, 4, 96, 46, 42, 21, 4, 5, 96, 46]
abbrev dktL_law_26 : List UInt8 := dkwL_law_26 ++ dktL_law_27
def dkwL_law_25 : List UInt8 := [21, 4, 5, 96, 46, 42, 21, 4, 6, 96, 46, 182, 0, 93, 159, 4, 150, 3, 172, 43, 42, 21, 4, 4]
abbrev dktL_law_25 : List UInt8 := dkwL_law_25 ++ dktL_law_26
def dkwL_law_24 : List UInt8 := [46, 42, 21, 4, 5, 96, 46, 42, 21, 4, 6, 96, 46, 182, 0, 90, 44, 42, 21, 4, 4, 96, 46, 42]
abbrev dktL_law_24 : List UInt8 := dkwL_law_24 ++ dktL_law_25
def dkwL_law_23 : List UInt8 := [182, 0, 86, 44, 42, 21, 4, 4, 96, 46, 182, 0, 89, 159, 4, 199, 3, 172, 43, 42, 21, 4, 4, 96]
abbrev dktL_law_23 : List UInt8 := dkwL_law_23 ++ dktL_law_24
def dkwL_law_22 : List UInt8 := [45, 3, 47, 21, 6, 133, 148, 153, 0, 5, 3, 172, 167, 4, 222, 43, 42, 21, 4, 4, 96, 46]
abbrev dktL_law_22 : List UInt8 := dkwL_law_22 ++ dktL_law_23
def dkwL_law_21 : List UInt8 := [5, 96, 46, 182, 0, 82, 54, 6, 44, 182, 0, 83, 21, 5, 159, 0, 5, 3, 172, 21, 5, 154, 0, 15]
abbrev dktL_law_21 : List UInt8 := dkwL_law_21 ++ dktL_law_22
def dkwL_law_20 : List UInt8 := [96, 46, 42, 21, 4, 5, 96, 46, 45, 184, 0, 77, 54, 5, 44, 42, 21, 4, 4, 96, 46, 42, 21, 4]
abbrev dktL_law_20 : List UInt8 := dkwL_law_20 ++ dktL_law_21
def dkwL_law_19 : List UInt8 := [21, 4, 4, 96, 46, 42, 21, 4, 5, 96, 46, 182, 0, 76, 159, 5, 36, 3, 172, 43, 42, 21, 4, 4]
abbrev dktL_law_19 : List UInt8 := dkwL_law_19 ++ dktL_law_20
def dkwL_law_18 : List UInt8 := [159, 5, 73, 3, 172, 43, 42, 21, 4, 4, 96, 46, 42, 21, 4, 5, 96, 46, 182, 0, 73, 44, 42]
abbrev dktL_law_18 : List UInt8 := dkwL_law_18 ++ dktL_law_19
def dkwL_law_17 : List UInt8 := [3, 172, 43, 42, 21, 4, 4, 96, 46, 182, 0, 69, 44, 42, 21, 4, 4, 96, 46, 182, 0, 72]
abbrev dktL_law_17 : List UInt8 := dkwL_law_17 ++ dktL_law_18
def dkwL_law_16 : List UInt8 := [42, 21, 4, 4, 96, 46, 42, 21, 4, 5, 96, 46, 42, 21, 4, 6, 96, 46, 182, 0, 68, 159, 5, 98]
abbrev dktL_law_16 : List UInt8 := dkwL_law_16 ++ dktL_law_17
def dkwL_law_15 : List UInt8 := [172, 43, 42, 21, 4, 4, 96, 46, 42, 21, 4, 5, 96, 46, 42, 21, 4, 6, 96, 46, 182, 0, 65, 44]
abbrev dktL_law_15 : List UInt8 := dkwL_law_15 ++ dktL_law_16
def dkwL_law_14 : List UInt8 := [21, 4, 4, 96, 46, 42, 21, 4, 5, 96, 46, 42, 21, 4, 6, 96, 46, 182, 0, 64, 159, 5, 147, 3]
abbrev dktL_law_14 : List UInt8 := dkwL_law_14 ++ dktL_law_15
def dkwL_law_13 : List UInt8 := [42, 21, 4, 4, 96, 46, 42, 21, 4, 5, 96, 46, 42, 21, 4, 6, 96, 46, 182, 0, 61, 44, 42]
abbrev dktL_law_13 : List UInt8 := dkwL_law_13 ++ dktL_law_14
def dkwL_law_12 : List UInt8 := [4, 96, 46, 42, 21, 4, 5, 96, 46, 42, 21, 4, 6, 96, 46, 182, 0, 60, 159, 5, 196, 3, 172, 43]
abbrev dktL_law_12 : List UInt8 := dkwL_law_12 ++ dktL_law_13
def dkwL_law_11 : List UInt8 := [21, 4, 4, 96, 46, 42, 21, 4, 5, 96, 46, 42, 21, 4, 6, 96, 46, 182, 0, 57, 44, 42, 21, 4]
abbrev dktL_law_11 : List UInt8 := dkwL_law_11 ++ dktL_law_12
def dkwL_law_10 : List UInt8 := [44, 42, 21, 4, 4, 96, 46, 42, 21, 4, 5, 96, 46, 182, 0, 56, 159, 5, 245, 3, 172, 43, 42]
abbrev dktL_law_10 : List UInt8 := dkwL_law_10 ++ dktL_law_11
def dkwL_law_9 : List UInt8 := [182, 0, 52, 159, 6, 26, 3, 172, 43, 42, 21, 4, 4, 96, 46, 42, 21, 4, 5, 96, 46, 182, 0, 53]
abbrev dktL_law_9 : List UInt8 := dkwL_law_9 ++ dktL_law_10
def dkwL_law_8 : List UInt8 := [159, 6, 51, 3, 172, 43, 42, 21, 4, 4, 96, 46, 182, 0, 49, 44, 42, 21, 4, 4, 96, 46]
abbrev dktL_law_8 : List UInt8 := dkwL_law_8 ++ dktL_law_9
def dkwL_law_7 : List UInt8 := [3, 172, 43, 182, 0, 40, 44, 182, 0, 44, 159, 6, 64, 3, 172, 43, 182, 0, 45, 44, 182, 0, 48]
abbrev dktL_law_7 : List UInt8 := dkwL_law_7 ++ dktL_law_8
def dkwL_law_6 : List UInt8 := [172, 43, 42, 21, 4, 4, 96, 46, 182, 0, 35, 44, 42, 21, 4, 4, 96, 46, 182, 0, 39, 159, 6, 77]
abbrev dktL_law_6 : List UInt8 := dkwL_law_6 ++ dktL_law_7
def dkwL_law_5 : List UInt8 := [21, 4, 6, 96, 46, 42, 21, 4, 7, 96, 46, 42, 21, 4, 8, 96, 46, 182, 0, 34, 159, 6, 102, 3]
abbrev dktL_law_5 : List UInt8 := dkwL_law_5 ++ dktL_law_6
def dkwL_law_4 : List UInt8 := [46, 42, 21, 4, 8, 96, 46, 182, 0, 30, 44, 42, 21, 4, 4, 96, 46, 42, 21, 4, 5, 96, 46, 42]
abbrev dktL_law_4 : List UInt8 := dkwL_law_4 ++ dktL_law_5
def dkwL_law_3 : List UInt8 := [43, 42, 21, 4, 4, 96, 46, 42, 21, 4, 5, 96, 46, 42, 21, 4, 6, 96, 46, 42, 21, 4, 7, 96]
abbrev dktL_law_3 : List UInt8 := dkwL_law_3 ++ dktL_law_4
def dkwL_law_2 : List UInt8 := [170, 0, 0, 0, 0, 0, 7, 114, 0, 0, 0, 0, 0, 0, 0, 45, 0, 0, 0, 200, 0, 0, 1, 17, 0, 0, 1, 42, 0, 0, 1, 55, 0, 0, 1, 68, 0, 0, 1, 93, 0, 0, 1, 130, 0, 0, 1, 179, 0, 0, 1, 228, 0, 0, 2, 21, 0, 0, 2, 46, 0, 0, 2, 83, 0, 0, 2, 151, 0, 0, 2, 176, 0, 0, 2, 225, 0, 0, 3, 6, 0, 0, 3, 86, 0, 0, 3, 142, 0, 0, 3, 210, 0, 0, 3, 247, 0, 0, 4, 28, 0, 0, 4, 53, 0, 0, 4, 78, 0, 0, 4, 127, 0, 0, 4, 176, 0, 0, 4, 225, 0, 0, 5, 18, 0, 0, 5, 55, 0, 0, 5, 92, 0, 0, 5, 141, 0, 0, 5, 154, 0, 0, 5, 179, 0, 0, 5, 216, 0, 0, 5, 253, 0, 0, 6, 46, 0, 0, 6, 83, 0, 0, 6, 120, 0, 0, 6, 157, 0, 0, 6, 170, 0, 0, 6, 207, 0, 0, 6, 232, 0, 0, 7, 1, 0, 0, 7, 14, 0, 0, 7, 39, 0, 0, 7, 64, 0, 0, 7, 89]
abbrev dktL_law_2 : List UInt8 := dkwL_law_2 ++ dktL_law_3
def dkwL_law_1 : List UInt8 := [21, 4, 42, 190, 16, 6, 100, 163, 7, 130, 42, 21, 4, 46, 16, 63, 126]
abbrev dktL_law_1 : List UInt8 := dkwL_law_1 ++ dktL_law_2
def dkwL_law_0 : List UInt8 := [187, 0, 8, 89, 183, 0, 26, 76, 187, 0, 27, 89, 183, 0, 29, 77, 4, 188, 11, 78, 3, 54, 4]
abbrev dktL_law_0 : List UInt8 := dkwL_law_0 ++ dktL_law_1
theorem dksL_law_0 : cL_law.data.toList.drop 0 = dktL_law_0 := by decide +kernel
theorem dksL_law_1 : cL_law.data.toList.drop 23 = dktL_law_1 := dk_seg dksL_law_0 23 rfl rfl
theorem dksL_law_2 : cL_law.data.toList.drop 40 = dktL_law_2 := dk_seg dksL_law_1 17 rfl rfl
theorem dksL_law_3 : cL_law.data.toList.drop 240 = dktL_law_3 := dk_seg dksL_law_2 200 rfl rfl
theorem dksL_law_4 : cL_law.data.toList.drop 264 = dktL_law_4 := dk_seg dksL_law_3 24 rfl rfl
theorem dksL_law_5 : cL_law.data.toList.drop 288 = dktL_law_5 := dk_seg dksL_law_4 24 rfl rfl
theorem dksL_law_6 : cL_law.data.toList.drop 312 = dktL_law_6 := dk_seg dksL_law_5 24 rfl rfl
theorem dksL_law_7 : cL_law.data.toList.drop 336 = dktL_law_7 := dk_seg dksL_law_6 24 rfl rfl
theorem dksL_law_8 : cL_law.data.toList.drop 359 = dktL_law_8 := dk_seg dksL_law_7 23 rfl rfl
theorem dksL_law_9 : cL_law.data.toList.drop 381 = dktL_law_9 := dk_seg dksL_law_8 22 rfl rfl
theorem dksL_law_10 : cL_law.data.toList.drop 405 = dktL_law_10 := dk_seg dksL_law_9 24 rfl rfl
theorem dksL_law_11 : cL_law.data.toList.drop 428 = dktL_law_11 := dk_seg dksL_law_10 23 rfl rfl
theorem dksL_law_12 : cL_law.data.toList.drop 452 = dktL_law_12 := dk_seg dksL_law_11 24 rfl rfl
theorem dksL_law_13 : cL_law.data.toList.drop 476 = dktL_law_13 := dk_seg dksL_law_12 24 rfl rfl
theorem dksL_law_14 : cL_law.data.toList.drop 499 = dktL_law_14 := dk_seg dksL_law_13 23 rfl rfl
theorem dksL_law_15 : cL_law.data.toList.drop 523 = dktL_law_15 := dk_seg dksL_law_14 24 rfl rfl
theorem dksL_law_16 : cL_law.data.toList.drop 547 = dktL_law_16 := dk_seg dksL_law_15 24 rfl rfl
theorem dksL_law_17 : cL_law.data.toList.drop 571 = dktL_law_17 := dk_seg dksL_law_16 24 rfl rfl
theorem dksL_law_18 : cL_law.data.toList.drop 593 = dktL_law_18 := dk_seg dksL_law_17 22 rfl rfl
theorem dksL_law_19 : cL_law.data.toList.drop 616 = dktL_law_19 := dk_seg dksL_law_18 23 rfl rfl
theorem dksL_law_20 : cL_law.data.toList.drop 640 = dktL_law_20 := dk_seg dksL_law_19 24 rfl rfl
theorem dksL_law_21 : cL_law.data.toList.drop 664 = dktL_law_21 := dk_seg dksL_law_20 24 rfl rfl
theorem dksL_law_22 : cL_law.data.toList.drop 688 = dktL_law_22 := dk_seg dksL_law_21 24 rfl rfl
theorem dksL_law_23 : cL_law.data.toList.drop 710 = dktL_law_23 := dk_seg dksL_law_22 22 rfl rfl
theorem dksL_law_24 : cL_law.data.toList.drop 734 = dktL_law_24 := dk_seg dksL_law_23 24 rfl rfl
theorem dksL_law_25 : cL_law.data.toList.drop 758 = dktL_law_25 := dk_seg dksL_law_24 24 rfl rfl
theorem dksL_law_26 : cL_law.data.toList.drop 782 = dktL_law_26 := dk_seg dksL_law_25 24 rfl rfl
theorem dksL_law_27 : cL_law.data.toList.drop 806 = dktL_law_27 := dk_seg dksL_law_26 24 rfl rfl
theorem dksL_law_28 : cL_law.data.toList.drop 830 = dktL_law_28 := dk_seg dksL_law_27 24 rfl rfl
theorem dksL_law_29 : cL_law.data.toList.drop 853 = dktL_law_29 := dk_seg dksL_law_28 23 rfl rfl
theorem dksL_law_30 : cL_law.data.toList.drop 876 = dktL_law_30 := dk_seg dksL_law_29 23 rfl rfl
theorem dksL_law_31 : cL_law.data.toList.drop 900 = dktL_law_31 := dk_seg dksL_law_30 24 rfl rfl
theorem dksL_law_32 : cL_law.data.toList.drop 923 = dktL_law_32 := dk_seg dksL_law_31 23 rfl rfl
theorem dksL_law_33 : cL_law.data.toList.drop 947 = dktL_law_33 := dk_seg dksL_law_32 24 rfl rfl
theorem dksL_law_34 : cL_law.data.toList.drop 971 = dktL_law_34 := dk_seg dksL_law_33 24 rfl rfl
theorem dksL_law_35 : cL_law.data.toList.drop 993 = dktL_law_35 := dk_seg dksL_law_34 22 rfl rfl
theorem dksL_law_36 : cL_law.data.toList.drop 1015 = dktL_law_36 := dk_seg dksL_law_35 22 rfl rfl
theorem dksL_law_37 : cL_law.data.toList.drop 1039 = dktL_law_37 := dk_seg dksL_law_36 24 rfl rfl
theorem dksL_law_38 : cL_law.data.toList.drop 1063 = dktL_law_38 := dk_seg dksL_law_37 24 rfl rfl
theorem dksL_law_39 : cL_law.data.toList.drop 1087 = dktL_law_39 := dk_seg dksL_law_38 24 rfl rfl
theorem dksL_law_40 : cL_law.data.toList.drop 1109 = dktL_law_40 := dk_seg dksL_law_39 22 rfl rfl
theorem dksL_law_41 : cL_law.data.toList.drop 1133 = dktL_law_41 := dk_seg dksL_law_40 24 rfl rfl
theorem dksL_law_42 : cL_law.data.toList.drop 1156 = dktL_law_42 := dk_seg dksL_law_41 23 rfl rfl
theorem dksL_law_43 : cL_law.data.toList.drop 1180 = dktL_law_43 := dk_seg dksL_law_42 24 rfl rfl
theorem dksL_law_44 : cL_law.data.toList.drop 1204 = dktL_law_44 := dk_seg dksL_law_43 24 rfl rfl
theorem dksL_law_45 : cL_law.data.toList.drop 1227 = dktL_law_45 := dk_seg dksL_law_44 23 rfl rfl
theorem dksL_law_46 : cL_law.data.toList.drop 1251 = dktL_law_46 := dk_seg dksL_law_45 24 rfl rfl
theorem dksL_law_47 : cL_law.data.toList.drop 1275 = dktL_law_47 := dk_seg dksL_law_46 24 rfl rfl
theorem dksL_law_48 : cL_law.data.toList.drop 1299 = dktL_law_48 := dk_seg dksL_law_47 24 rfl rfl
theorem dksL_law_49 : cL_law.data.toList.drop 1323 = dktL_law_49 := dk_seg dksL_law_48 24 rfl rfl
theorem dksL_law_50 : cL_law.data.toList.drop 1346 = dktL_law_50 := dk_seg dksL_law_49 23 rfl rfl
theorem dksL_law_51 : cL_law.data.toList.drop 1370 = dktL_law_51 := dk_seg dksL_law_50 24 rfl rfl
theorem dksL_law_52 : cL_law.data.toList.drop 1393 = dktL_law_52 := dk_seg dksL_law_51 23 rfl rfl
theorem dksL_law_53 : cL_law.data.toList.drop 1417 = dktL_law_53 := dk_seg dksL_law_52 24 rfl rfl
theorem dksL_law_54 : cL_law.data.toList.drop 1441 = dktL_law_54 := dk_seg dksL_law_53 24 rfl rfl
theorem dksL_law_55 : cL_law.data.toList.drop 1465 = dktL_law_55 := dk_seg dksL_law_54 24 rfl rfl
theorem dksL_law_56 : cL_law.data.toList.drop 1489 = dktL_law_56 := dk_seg dksL_law_55 24 rfl rfl
theorem dksL_law_57 : cL_law.data.toList.drop 1512 = dktL_law_57 := dk_seg dksL_law_56 23 rfl rfl
theorem dksL_law_58 : cL_law.data.toList.drop 1536 = dktL_law_58 := dk_seg dksL_law_57 24 rfl rfl
theorem dksL_law_59 : cL_law.data.toList.drop 1560 = dktL_law_59 := dk_seg dksL_law_58 24 rfl rfl
theorem dksL_law_60 : cL_law.data.toList.drop 1584 = dktL_law_60 := dk_seg dksL_law_59 24 rfl rfl
theorem dksL_law_61 : cL_law.data.toList.drop 1608 = dktL_law_61 := dk_seg dksL_law_60 24 rfl rfl
theorem dksL_law_62 : cL_law.data.toList.drop 1632 = dktL_law_62 := dk_seg dksL_law_61 24 rfl rfl
theorem dksL_law_63 : cL_law.data.toList.drop 1654 = dktL_law_63 := dk_seg dksL_law_62 22 rfl rfl
theorem dksL_law_64 : cL_law.data.toList.drop 1677 = dktL_law_64 := dk_seg dksL_law_63 23 rfl rfl
theorem dksL_law_65 : cL_law.data.toList.drop 1701 = dktL_law_65 := dk_seg dksL_law_64 24 rfl rfl
theorem dksL_law_66 : cL_law.data.toList.drop 1725 = dktL_law_66 := dk_seg dksL_law_65 24 rfl rfl
theorem dksL_law_67 : cL_law.data.toList.drop 1748 = dktL_law_67 := dk_seg dksL_law_66 23 rfl rfl
theorem dksL_law_68 : cL_law.data.toList.drop 1772 = dktL_law_68 := dk_seg dksL_law_67 24 rfl rfl
theorem dksL_law_69 : cL_law.data.toList.drop 1795 = dktL_law_69 := dk_seg dksL_law_68 23 rfl rfl
theorem dksL_law_70 : cL_law.data.toList.drop 1819 = dktL_law_70 := dk_seg dksL_law_69 24 rfl rfl
theorem dksL_law_71 : cL_law.data.toList.drop 1841 = dktL_law_71 := dk_seg dksL_law_70 22 rfl rfl
theorem dksL_law_72 : cL_law.data.toList.drop 1863 = dktL_law_72 := dk_seg dksL_law_71 22 rfl rfl
theorem dksL_law_73 : cL_law.data.toList.drop 1887 = dktL_law_73 := dk_seg dksL_law_72 24 rfl rfl
theorem dksL_law_74 : cL_law.data.toList.drop 1911 = dktL_law_74 := dk_seg dksL_law_73 24 rfl rfl
theorem dksL_law_75 : cL_law.data.toList.drop 1935 = dktL_law_75 := dk_seg dksL_law_74 24 rfl rfl
theorem dL_law_0 : decode cL_law 0 = .ok (.new 8, 3) := dk_187 0 8 (dk_at dksL_law_0 0 rfl rfl)
theorem dL_law_3 : decode cL_law 3 = .ok (.dup, 1) := dk_89 (dk_at dksL_law_0 3 rfl rfl)
theorem dL_law_4 : decode cL_law 4 = .ok (.invokespecial 26, 3) := dk_183 0 26 (dk_at dksL_law_0 4 rfl rfl)
theorem dL_law_7 : decode cL_law 7 = .ok (.astore_n 1, 1) := dk_76 (dk_at dksL_law_0 7 rfl rfl)
theorem dL_law_8 : decode cL_law 8 = .ok (.new 27, 3) := dk_187 0 27 (dk_at dksL_law_0 8 rfl rfl)
theorem dL_law_11 : decode cL_law 11 = .ok (.dup, 1) := dk_89 (dk_at dksL_law_0 11 rfl rfl)
theorem dL_law_12 : decode cL_law 12 = .ok (.invokespecial 29, 3) := dk_183 0 29 (dk_at dksL_law_0 12 rfl rfl)
theorem dL_law_15 : decode cL_law 15 = .ok (.astore_n 2, 1) := dk_77 (dk_at dksL_law_0 15 rfl rfl)
theorem dL_law_16 : decode cL_law 16 = .ok (.iconst 1, 1) := dk_4 (dk_at dksL_law_0 16 rfl rfl)
theorem dL_law_17 : decode cL_law 17 = .ok (.newarray .long, 2) := dk_188_11 (dk_at dksL_law_0 17 rfl rfl)
theorem dL_law_19 : decode cL_law 19 = .ok (.astore_n 3, 1) := dk_78 (dk_at dksL_law_0 19 rfl rfl)
theorem dL_law_20 : decode cL_law 20 = .ok (.iconst 0, 1) := dk_3 (dk_at dksL_law_0 20 rfl rfl)
theorem dL_law_21 : decode cL_law 21 = .ok (.istore 4, 2) := dk_54 4 (dk_at dksL_law_0 21 rfl rfl)
theorem dL_law_23 : decode cL_law 23 = .ok (.iload 4, 2) := dk_21 4 (dk_at dksL_law_1 0 rfl rfl)
theorem dL_law_25 : decode cL_law 25 = .ok (.aload_n 0, 1) := dk_42 (dk_at dksL_law_1 2 rfl rfl)
theorem dL_law_26 : decode cL_law 26 = .ok (.arraylength, 1) := dk_190 (dk_at dksL_law_1 3 rfl rfl)
theorem dL_law_27 : decode cL_law 27 = .ok (.bipush 6, 2) := dk_16 6 (dk_at dksL_law_1 4 rfl rfl)
theorem dL_law_29 : decode cL_law 29 = .ok (.isub, 1) := dk_100 (dk_at dksL_law_1 6 rfl rfl)
theorem dL_law_30 : decode cL_law 30 = .ok (.if_icmp .gt 1922, 3) := dk_163 7 130 (dk_at dksL_law_1 7 rfl rfl)
theorem dL_law_33 : decode cL_law 33 = .ok (.aload_n 0, 1) := dk_42 (dk_at dksL_law_1 10 rfl rfl)
theorem dL_law_34 : decode cL_law 34 = .ok (.iload 4, 2) := dk_21 4 (dk_at dksL_law_1 11 rfl rfl)
theorem dL_law_36 : decode cL_law 36 = .ok (.iaload, 1) := dk_46 (dk_at dksL_law_1 13 rfl rfl)
theorem dL_law_37 : decode cL_law 37 = .ok (.bipush 63, 2) := dk_16 63 (dk_at dksL_law_1 14 rfl rfl)
theorem dL_law_39 : decode cL_law 39 = .ok (.iand, 1) := dk_126 (dk_at dksL_law_1 16 rfl rfl)
theorem dL_law_40 : decode cL_law 40 = .ok (.tableswitch 1906 0 45 #[200, 273, 298, 311, 324, 349, 386, 435, 484, 533, 558, 595, 663, 688, 737, 774, 854, 910, 978, 1015, 1052, 1077, 1102, 1151, 1200, 1249, 1298, 1335, 1372, 1421, 1434, 1459, 1496, 1533, 1582, 1619, 1656, 1693, 1706, 1743, 1768, 1793, 1806, 1831, 1856, 1881], 200) := by decide +kernel
theorem dL_law_240 : decode cL_law 240 = .ok (.aload_n 1, 1) := dk_43 (dk_at dksL_law_3 0 rfl rfl)
theorem dL_law_241 : decode cL_law 241 = .ok (.aload_n 0, 1) := dk_42 (dk_at dksL_law_3 1 rfl rfl)
theorem dL_law_242 : decode cL_law 242 = .ok (.iload 4, 2) := dk_21 4 (dk_at dksL_law_3 2 rfl rfl)
theorem dL_law_244 : decode cL_law 244 = .ok (.iconst 1, 1) := dk_4 (dk_at dksL_law_3 4 rfl rfl)
theorem dL_law_245 : decode cL_law 245 = .ok (.iadd, 1) := dk_96 (dk_at dksL_law_3 5 rfl rfl)
theorem dL_law_246 : decode cL_law 246 = .ok (.iaload, 1) := dk_46 (dk_at dksL_law_3 6 rfl rfl)
theorem dL_law_247 : decode cL_law 247 = .ok (.aload_n 0, 1) := dk_42 (dk_at dksL_law_3 7 rfl rfl)
theorem dL_law_248 : decode cL_law 248 = .ok (.iload 4, 2) := dk_21 4 (dk_at dksL_law_3 8 rfl rfl)
theorem dL_law_250 : decode cL_law 250 = .ok (.iconst 2, 1) := dk_5 (dk_at dksL_law_3 10 rfl rfl)
theorem dL_law_251 : decode cL_law 251 = .ok (.iadd, 1) := dk_96 (dk_at dksL_law_3 11 rfl rfl)
theorem dL_law_252 : decode cL_law 252 = .ok (.iaload, 1) := dk_46 (dk_at dksL_law_3 12 rfl rfl)
theorem dL_law_253 : decode cL_law 253 = .ok (.aload_n 0, 1) := dk_42 (dk_at dksL_law_3 13 rfl rfl)
theorem dL_law_254 : decode cL_law 254 = .ok (.iload 4, 2) := dk_21 4 (dk_at dksL_law_3 14 rfl rfl)
theorem dL_law_256 : decode cL_law 256 = .ok (.iconst 3, 1) := dk_6 (dk_at dksL_law_3 16 rfl rfl)
theorem dL_law_257 : decode cL_law 257 = .ok (.iadd, 1) := dk_96 (dk_at dksL_law_3 17 rfl rfl)
theorem dL_law_258 : decode cL_law 258 = .ok (.iaload, 1) := dk_46 (dk_at dksL_law_3 18 rfl rfl)
theorem dL_law_259 : decode cL_law 259 = .ok (.aload_n 0, 1) := dk_42 (dk_at dksL_law_3 19 rfl rfl)
theorem dL_law_260 : decode cL_law 260 = .ok (.iload 4, 2) := dk_21 4 (dk_at dksL_law_3 20 rfl rfl)
theorem dL_law_262 : decode cL_law 262 = .ok (.iconst 4, 1) := dk_7 (dk_at dksL_law_3 22 rfl rfl)
theorem dL_law_263 : decode cL_law 263 = .ok (.iadd, 1) := dk_96 (dk_at dksL_law_3 23 rfl rfl)
theorem dL_law_264 : decode cL_law 264 = .ok (.iaload, 1) := dk_46 (dk_at dksL_law_4 0 rfl rfl)
theorem dL_law_265 : decode cL_law 265 = .ok (.aload_n 0, 1) := dk_42 (dk_at dksL_law_4 1 rfl rfl)
theorem dL_law_266 : decode cL_law 266 = .ok (.iload 4, 2) := dk_21 4 (dk_at dksL_law_4 2 rfl rfl)
theorem dL_law_268 : decode cL_law 268 = .ok (.iconst 5, 1) := dk_8 (dk_at dksL_law_4 4 rfl rfl)
theorem dL_law_269 : decode cL_law 269 = .ok (.iadd, 1) := dk_96 (dk_at dksL_law_4 5 rfl rfl)
theorem dL_law_270 : decode cL_law 270 = .ok (.iaload, 1) := dk_46 (dk_at dksL_law_4 6 rfl rfl)
theorem dL_law_271 : decode cL_law 271 = .ok (.invokevirtual 30, 3) := dk_182 0 30 (dk_at dksL_law_4 7 rfl rfl)
theorem dL_law_274 : decode cL_law 274 = .ok (.aload_n 2, 1) := dk_44 (dk_at dksL_law_4 10 rfl rfl)
theorem dL_law_275 : decode cL_law 275 = .ok (.aload_n 0, 1) := dk_42 (dk_at dksL_law_4 11 rfl rfl)
theorem dL_law_276 : decode cL_law 276 = .ok (.iload 4, 2) := dk_21 4 (dk_at dksL_law_4 12 rfl rfl)
theorem dL_law_278 : decode cL_law 278 = .ok (.iconst 1, 1) := dk_4 (dk_at dksL_law_4 14 rfl rfl)
theorem dL_law_279 : decode cL_law 279 = .ok (.iadd, 1) := dk_96 (dk_at dksL_law_4 15 rfl rfl)
theorem dL_law_280 : decode cL_law 280 = .ok (.iaload, 1) := dk_46 (dk_at dksL_law_4 16 rfl rfl)
theorem dL_law_281 : decode cL_law 281 = .ok (.aload_n 0, 1) := dk_42 (dk_at dksL_law_4 17 rfl rfl)
theorem dL_law_282 : decode cL_law 282 = .ok (.iload 4, 2) := dk_21 4 (dk_at dksL_law_4 18 rfl rfl)
theorem dL_law_284 : decode cL_law 284 = .ok (.iconst 2, 1) := dk_5 (dk_at dksL_law_4 20 rfl rfl)
theorem dL_law_285 : decode cL_law 285 = .ok (.iadd, 1) := dk_96 (dk_at dksL_law_4 21 rfl rfl)
theorem dL_law_286 : decode cL_law 286 = .ok (.iaload, 1) := dk_46 (dk_at dksL_law_4 22 rfl rfl)
theorem dL_law_287 : decode cL_law 287 = .ok (.aload_n 0, 1) := dk_42 (dk_at dksL_law_4 23 rfl rfl)
theorem dL_law_288 : decode cL_law 288 = .ok (.iload 4, 2) := dk_21 4 (dk_at dksL_law_5 0 rfl rfl)
theorem dL_law_290 : decode cL_law 290 = .ok (.iconst 3, 1) := dk_6 (dk_at dksL_law_5 2 rfl rfl)
theorem dL_law_291 : decode cL_law 291 = .ok (.iadd, 1) := dk_96 (dk_at dksL_law_5 3 rfl rfl)
theorem dL_law_292 : decode cL_law 292 = .ok (.iaload, 1) := dk_46 (dk_at dksL_law_5 4 rfl rfl)
theorem dL_law_293 : decode cL_law 293 = .ok (.aload_n 0, 1) := dk_42 (dk_at dksL_law_5 5 rfl rfl)
theorem dL_law_294 : decode cL_law 294 = .ok (.iload 4, 2) := dk_21 4 (dk_at dksL_law_5 6 rfl rfl)
theorem dL_law_296 : decode cL_law 296 = .ok (.iconst 4, 1) := dk_7 (dk_at dksL_law_5 8 rfl rfl)
theorem dL_law_297 : decode cL_law 297 = .ok (.iadd, 1) := dk_96 (dk_at dksL_law_5 9 rfl rfl)
theorem dL_law_298 : decode cL_law 298 = .ok (.iaload, 1) := dk_46 (dk_at dksL_law_5 10 rfl rfl)
theorem dL_law_299 : decode cL_law 299 = .ok (.aload_n 0, 1) := dk_42 (dk_at dksL_law_5 11 rfl rfl)
theorem dL_law_300 : decode cL_law 300 = .ok (.iload 4, 2) := dk_21 4 (dk_at dksL_law_5 12 rfl rfl)
theorem dL_law_302 : decode cL_law 302 = .ok (.iconst 5, 1) := dk_8 (dk_at dksL_law_5 14 rfl rfl)
theorem dL_law_303 : decode cL_law 303 = .ok (.iadd, 1) := dk_96 (dk_at dksL_law_5 15 rfl rfl)
theorem dL_law_304 : decode cL_law 304 = .ok (.iaload, 1) := dk_46 (dk_at dksL_law_5 16 rfl rfl)
theorem dL_law_305 : decode cL_law 305 = .ok (.invokevirtual 34, 3) := dk_182 0 34 (dk_at dksL_law_5 17 rfl rfl)
theorem dL_law_308 : decode cL_law 308 = .ok (.if_icmp .eq 1638, 3) := dk_159 6 102 (dk_at dksL_law_5 20 rfl rfl)
theorem dL_law_311 : decode cL_law 311 = .ok (.iconst 0, 1) := dk_3 (dk_at dksL_law_5 23 rfl rfl)
theorem dL_law_312 : decode cL_law 312 = .ok (.ireturn, 1) := dk_172 (dk_at dksL_law_6 0 rfl rfl)
theorem dL_law_313 : decode cL_law 313 = .ok (.aload_n 1, 1) := dk_43 (dk_at dksL_law_6 1 rfl rfl)
theorem dL_law_314 : decode cL_law 314 = .ok (.aload_n 0, 1) := dk_42 (dk_at dksL_law_6 2 rfl rfl)
theorem dL_law_315 : decode cL_law 315 = .ok (.iload 4, 2) := dk_21 4 (dk_at dksL_law_6 3 rfl rfl)
theorem dL_law_317 : decode cL_law 317 = .ok (.iconst 1, 1) := dk_4 (dk_at dksL_law_6 5 rfl rfl)
theorem dL_law_318 : decode cL_law 318 = .ok (.iadd, 1) := dk_96 (dk_at dksL_law_6 6 rfl rfl)
theorem dL_law_319 : decode cL_law 319 = .ok (.iaload, 1) := dk_46 (dk_at dksL_law_6 7 rfl rfl)
theorem dL_law_320 : decode cL_law 320 = .ok (.invokevirtual 35, 3) := dk_182 0 35 (dk_at dksL_law_6 8 rfl rfl)
theorem dL_law_323 : decode cL_law 323 = .ok (.aload_n 2, 1) := dk_44 (dk_at dksL_law_6 11 rfl rfl)
theorem dL_law_324 : decode cL_law 324 = .ok (.aload_n 0, 1) := dk_42 (dk_at dksL_law_6 12 rfl rfl)
theorem dL_law_325 : decode cL_law 325 = .ok (.iload 4, 2) := dk_21 4 (dk_at dksL_law_6 13 rfl rfl)
theorem dL_law_327 : decode cL_law 327 = .ok (.iconst 1, 1) := dk_4 (dk_at dksL_law_6 15 rfl rfl)
theorem dL_law_328 : decode cL_law 328 = .ok (.iadd, 1) := dk_96 (dk_at dksL_law_6 16 rfl rfl)
theorem dL_law_329 : decode cL_law 329 = .ok (.iaload, 1) := dk_46 (dk_at dksL_law_6 17 rfl rfl)
theorem dL_law_330 : decode cL_law 330 = .ok (.invokevirtual 39, 3) := dk_182 0 39 (dk_at dksL_law_6 18 rfl rfl)
theorem dL_law_333 : decode cL_law 333 = .ok (.if_icmp .eq 1613, 3) := dk_159 6 77 (dk_at dksL_law_6 21 rfl rfl)
theorem dL_law_336 : decode cL_law 336 = .ok (.iconst 0, 1) := dk_3 (dk_at dksL_law_7 0 rfl rfl)
theorem dL_law_337 : decode cL_law 337 = .ok (.ireturn, 1) := dk_172 (dk_at dksL_law_7 1 rfl rfl)
theorem dL_law_338 : decode cL_law 338 = .ok (.aload_n 1, 1) := dk_43 (dk_at dksL_law_7 2 rfl rfl)
theorem dL_law_339 : decode cL_law 339 = .ok (.invokevirtual 40, 3) := dk_182 0 40 (dk_at dksL_law_7 3 rfl rfl)
theorem dL_law_342 : decode cL_law 342 = .ok (.aload_n 2, 1) := dk_44 (dk_at dksL_law_7 6 rfl rfl)
theorem dL_law_343 : decode cL_law 343 = .ok (.invokevirtual 44, 3) := dk_182 0 44 (dk_at dksL_law_7 7 rfl rfl)
theorem dL_law_346 : decode cL_law 346 = .ok (.if_icmp .eq 1600, 3) := dk_159 6 64 (dk_at dksL_law_7 10 rfl rfl)
theorem dL_law_349 : decode cL_law 349 = .ok (.iconst 0, 1) := dk_3 (dk_at dksL_law_7 13 rfl rfl)
theorem dL_law_350 : decode cL_law 350 = .ok (.ireturn, 1) := dk_172 (dk_at dksL_law_7 14 rfl rfl)
theorem dL_law_351 : decode cL_law 351 = .ok (.aload_n 1, 1) := dk_43 (dk_at dksL_law_7 15 rfl rfl)
theorem dL_law_352 : decode cL_law 352 = .ok (.invokevirtual 45, 3) := dk_182 0 45 (dk_at dksL_law_7 16 rfl rfl)
theorem dL_law_355 : decode cL_law 355 = .ok (.aload_n 2, 1) := dk_44 (dk_at dksL_law_7 19 rfl rfl)
theorem dL_law_356 : decode cL_law 356 = .ok (.invokevirtual 48, 3) := dk_182 0 48 (dk_at dksL_law_7 20 rfl rfl)
theorem dL_law_359 : decode cL_law 359 = .ok (.if_icmp .eq 1587, 3) := dk_159 6 51 (dk_at dksL_law_8 0 rfl rfl)
theorem dL_law_362 : decode cL_law 362 = .ok (.iconst 0, 1) := dk_3 (dk_at dksL_law_8 3 rfl rfl)
theorem dL_law_363 : decode cL_law 363 = .ok (.ireturn, 1) := dk_172 (dk_at dksL_law_8 4 rfl rfl)
theorem dL_law_364 : decode cL_law 364 = .ok (.aload_n 1, 1) := dk_43 (dk_at dksL_law_8 5 rfl rfl)
theorem dL_law_365 : decode cL_law 365 = .ok (.aload_n 0, 1) := dk_42 (dk_at dksL_law_8 6 rfl rfl)
theorem dL_law_366 : decode cL_law 366 = .ok (.iload 4, 2) := dk_21 4 (dk_at dksL_law_8 7 rfl rfl)
theorem dL_law_368 : decode cL_law 368 = .ok (.iconst 1, 1) := dk_4 (dk_at dksL_law_8 9 rfl rfl)
theorem dL_law_369 : decode cL_law 369 = .ok (.iadd, 1) := dk_96 (dk_at dksL_law_8 10 rfl rfl)
theorem dL_law_370 : decode cL_law 370 = .ok (.iaload, 1) := dk_46 (dk_at dksL_law_8 11 rfl rfl)
theorem dL_law_371 : decode cL_law 371 = .ok (.invokevirtual 49, 3) := dk_182 0 49 (dk_at dksL_law_8 12 rfl rfl)
theorem dL_law_374 : decode cL_law 374 = .ok (.aload_n 2, 1) := dk_44 (dk_at dksL_law_8 15 rfl rfl)
theorem dL_law_375 : decode cL_law 375 = .ok (.aload_n 0, 1) := dk_42 (dk_at dksL_law_8 16 rfl rfl)
theorem dL_law_376 : decode cL_law 376 = .ok (.iload 4, 2) := dk_21 4 (dk_at dksL_law_8 17 rfl rfl)
theorem dL_law_378 : decode cL_law 378 = .ok (.iconst 1, 1) := dk_4 (dk_at dksL_law_8 19 rfl rfl)
theorem dL_law_379 : decode cL_law 379 = .ok (.iadd, 1) := dk_96 (dk_at dksL_law_8 20 rfl rfl)
theorem dL_law_380 : decode cL_law 380 = .ok (.iaload, 1) := dk_46 (dk_at dksL_law_8 21 rfl rfl)
theorem dL_law_381 : decode cL_law 381 = .ok (.invokevirtual 52, 3) := dk_182 0 52 (dk_at dksL_law_9 0 rfl rfl)
theorem dL_law_384 : decode cL_law 384 = .ok (.if_icmp .eq 1562, 3) := dk_159 6 26 (dk_at dksL_law_9 3 rfl rfl)
theorem dL_law_387 : decode cL_law 387 = .ok (.iconst 0, 1) := dk_3 (dk_at dksL_law_9 6 rfl rfl)
theorem dL_law_388 : decode cL_law 388 = .ok (.ireturn, 1) := dk_172 (dk_at dksL_law_9 7 rfl rfl)
theorem dL_law_389 : decode cL_law 389 = .ok (.aload_n 1, 1) := dk_43 (dk_at dksL_law_9 8 rfl rfl)
theorem dL_law_390 : decode cL_law 390 = .ok (.aload_n 0, 1) := dk_42 (dk_at dksL_law_9 9 rfl rfl)
theorem dL_law_391 : decode cL_law 391 = .ok (.iload 4, 2) := dk_21 4 (dk_at dksL_law_9 10 rfl rfl)
theorem dL_law_393 : decode cL_law 393 = .ok (.iconst 1, 1) := dk_4 (dk_at dksL_law_9 12 rfl rfl)
theorem dL_law_394 : decode cL_law 394 = .ok (.iadd, 1) := dk_96 (dk_at dksL_law_9 13 rfl rfl)
theorem dL_law_395 : decode cL_law 395 = .ok (.iaload, 1) := dk_46 (dk_at dksL_law_9 14 rfl rfl)
theorem dL_law_396 : decode cL_law 396 = .ok (.aload_n 0, 1) := dk_42 (dk_at dksL_law_9 15 rfl rfl)
theorem dL_law_397 : decode cL_law 397 = .ok (.iload 4, 2) := dk_21 4 (dk_at dksL_law_9 16 rfl rfl)
theorem dL_law_399 : decode cL_law 399 = .ok (.iconst 2, 1) := dk_5 (dk_at dksL_law_9 18 rfl rfl)
theorem dL_law_400 : decode cL_law 400 = .ok (.iadd, 1) := dk_96 (dk_at dksL_law_9 19 rfl rfl)
theorem dL_law_401 : decode cL_law 401 = .ok (.iaload, 1) := dk_46 (dk_at dksL_law_9 20 rfl rfl)
theorem dL_law_402 : decode cL_law 402 = .ok (.invokevirtual 53, 3) := dk_182 0 53 (dk_at dksL_law_9 21 rfl rfl)
theorem dL_law_405 : decode cL_law 405 = .ok (.aload_n 2, 1) := dk_44 (dk_at dksL_law_10 0 rfl rfl)
theorem dL_law_406 : decode cL_law 406 = .ok (.aload_n 0, 1) := dk_42 (dk_at dksL_law_10 1 rfl rfl)
theorem dL_law_407 : decode cL_law 407 = .ok (.iload 4, 2) := dk_21 4 (dk_at dksL_law_10 2 rfl rfl)
theorem dL_law_409 : decode cL_law 409 = .ok (.iconst 1, 1) := dk_4 (dk_at dksL_law_10 4 rfl rfl)
theorem dL_law_410 : decode cL_law 410 = .ok (.iadd, 1) := dk_96 (dk_at dksL_law_10 5 rfl rfl)
theorem dL_law_411 : decode cL_law 411 = .ok (.iaload, 1) := dk_46 (dk_at dksL_law_10 6 rfl rfl)
theorem dL_law_412 : decode cL_law 412 = .ok (.aload_n 0, 1) := dk_42 (dk_at dksL_law_10 7 rfl rfl)
theorem dL_law_413 : decode cL_law 413 = .ok (.iload 4, 2) := dk_21 4 (dk_at dksL_law_10 8 rfl rfl)
theorem dL_law_415 : decode cL_law 415 = .ok (.iconst 2, 1) := dk_5 (dk_at dksL_law_10 10 rfl rfl)
theorem dL_law_416 : decode cL_law 416 = .ok (.iadd, 1) := dk_96 (dk_at dksL_law_10 11 rfl rfl)
theorem dL_law_417 : decode cL_law 417 = .ok (.iaload, 1) := dk_46 (dk_at dksL_law_10 12 rfl rfl)
theorem dL_law_418 : decode cL_law 418 = .ok (.invokevirtual 56, 3) := dk_182 0 56 (dk_at dksL_law_10 13 rfl rfl)
theorem dL_law_421 : decode cL_law 421 = .ok (.if_icmp .eq 1525, 3) := dk_159 5 245 (dk_at dksL_law_10 16 rfl rfl)
theorem dL_law_424 : decode cL_law 424 = .ok (.iconst 0, 1) := dk_3 (dk_at dksL_law_10 19 rfl rfl)
theorem dL_law_425 : decode cL_law 425 = .ok (.ireturn, 1) := dk_172 (dk_at dksL_law_10 20 rfl rfl)
theorem dL_law_426 : decode cL_law 426 = .ok (.aload_n 1, 1) := dk_43 (dk_at dksL_law_10 21 rfl rfl)
theorem dL_law_427 : decode cL_law 427 = .ok (.aload_n 0, 1) := dk_42 (dk_at dksL_law_10 22 rfl rfl)
theorem dL_law_428 : decode cL_law 428 = .ok (.iload 4, 2) := dk_21 4 (dk_at dksL_law_11 0 rfl rfl)
theorem dL_law_430 : decode cL_law 430 = .ok (.iconst 1, 1) := dk_4 (dk_at dksL_law_11 2 rfl rfl)
theorem dL_law_431 : decode cL_law 431 = .ok (.iadd, 1) := dk_96 (dk_at dksL_law_11 3 rfl rfl)
theorem dL_law_432 : decode cL_law 432 = .ok (.iaload, 1) := dk_46 (dk_at dksL_law_11 4 rfl rfl)
theorem dL_law_433 : decode cL_law 433 = .ok (.aload_n 0, 1) := dk_42 (dk_at dksL_law_11 5 rfl rfl)
theorem dL_law_434 : decode cL_law 434 = .ok (.iload 4, 2) := dk_21 4 (dk_at dksL_law_11 6 rfl rfl)
theorem dL_law_436 : decode cL_law 436 = .ok (.iconst 2, 1) := dk_5 (dk_at dksL_law_11 8 rfl rfl)
theorem dL_law_437 : decode cL_law 437 = .ok (.iadd, 1) := dk_96 (dk_at dksL_law_11 9 rfl rfl)
theorem dL_law_438 : decode cL_law 438 = .ok (.iaload, 1) := dk_46 (dk_at dksL_law_11 10 rfl rfl)
theorem dL_law_439 : decode cL_law 439 = .ok (.aload_n 0, 1) := dk_42 (dk_at dksL_law_11 11 rfl rfl)
theorem dL_law_440 : decode cL_law 440 = .ok (.iload 4, 2) := dk_21 4 (dk_at dksL_law_11 12 rfl rfl)
theorem dL_law_442 : decode cL_law 442 = .ok (.iconst 3, 1) := dk_6 (dk_at dksL_law_11 14 rfl rfl)
theorem dL_law_443 : decode cL_law 443 = .ok (.iadd, 1) := dk_96 (dk_at dksL_law_11 15 rfl rfl)
theorem dL_law_444 : decode cL_law 444 = .ok (.iaload, 1) := dk_46 (dk_at dksL_law_11 16 rfl rfl)
theorem dL_law_445 : decode cL_law 445 = .ok (.invokevirtual 57, 3) := dk_182 0 57 (dk_at dksL_law_11 17 rfl rfl)
theorem dL_law_448 : decode cL_law 448 = .ok (.aload_n 2, 1) := dk_44 (dk_at dksL_law_11 20 rfl rfl)
theorem dL_law_449 : decode cL_law 449 = .ok (.aload_n 0, 1) := dk_42 (dk_at dksL_law_11 21 rfl rfl)
theorem dL_law_450 : decode cL_law 450 = .ok (.iload 4, 2) := dk_21 4 (dk_at dksL_law_11 22 rfl rfl)
theorem dL_law_452 : decode cL_law 452 = .ok (.iconst 1, 1) := dk_4 (dk_at dksL_law_12 0 rfl rfl)
theorem dL_law_453 : decode cL_law 453 = .ok (.iadd, 1) := dk_96 (dk_at dksL_law_12 1 rfl rfl)
theorem dL_law_454 : decode cL_law 454 = .ok (.iaload, 1) := dk_46 (dk_at dksL_law_12 2 rfl rfl)
theorem dL_law_455 : decode cL_law 455 = .ok (.aload_n 0, 1) := dk_42 (dk_at dksL_law_12 3 rfl rfl)
theorem dL_law_456 : decode cL_law 456 = .ok (.iload 4, 2) := dk_21 4 (dk_at dksL_law_12 4 rfl rfl)
theorem dL_law_458 : decode cL_law 458 = .ok (.iconst 2, 1) := dk_5 (dk_at dksL_law_12 6 rfl rfl)
theorem dL_law_459 : decode cL_law 459 = .ok (.iadd, 1) := dk_96 (dk_at dksL_law_12 7 rfl rfl)
theorem dL_law_460 : decode cL_law 460 = .ok (.iaload, 1) := dk_46 (dk_at dksL_law_12 8 rfl rfl)
theorem dL_law_461 : decode cL_law 461 = .ok (.aload_n 0, 1) := dk_42 (dk_at dksL_law_12 9 rfl rfl)
theorem dL_law_462 : decode cL_law 462 = .ok (.iload 4, 2) := dk_21 4 (dk_at dksL_law_12 10 rfl rfl)
theorem dL_law_464 : decode cL_law 464 = .ok (.iconst 3, 1) := dk_6 (dk_at dksL_law_12 12 rfl rfl)
theorem dL_law_465 : decode cL_law 465 = .ok (.iadd, 1) := dk_96 (dk_at dksL_law_12 13 rfl rfl)
theorem dL_law_466 : decode cL_law 466 = .ok (.iaload, 1) := dk_46 (dk_at dksL_law_12 14 rfl rfl)
theorem dL_law_467 : decode cL_law 467 = .ok (.invokevirtual 60, 3) := dk_182 0 60 (dk_at dksL_law_12 15 rfl rfl)
theorem dL_law_470 : decode cL_law 470 = .ok (.if_icmp .eq 1476, 3) := dk_159 5 196 (dk_at dksL_law_12 18 rfl rfl)
theorem dL_law_473 : decode cL_law 473 = .ok (.iconst 0, 1) := dk_3 (dk_at dksL_law_12 21 rfl rfl)
theorem dL_law_474 : decode cL_law 474 = .ok (.ireturn, 1) := dk_172 (dk_at dksL_law_12 22 rfl rfl)
theorem dL_law_475 : decode cL_law 475 = .ok (.aload_n 1, 1) := dk_43 (dk_at dksL_law_12 23 rfl rfl)
theorem dL_law_476 : decode cL_law 476 = .ok (.aload_n 0, 1) := dk_42 (dk_at dksL_law_13 0 rfl rfl)
theorem dL_law_477 : decode cL_law 477 = .ok (.iload 4, 2) := dk_21 4 (dk_at dksL_law_13 1 rfl rfl)
theorem dL_law_479 : decode cL_law 479 = .ok (.iconst 1, 1) := dk_4 (dk_at dksL_law_13 3 rfl rfl)
theorem dL_law_480 : decode cL_law 480 = .ok (.iadd, 1) := dk_96 (dk_at dksL_law_13 4 rfl rfl)
theorem dL_law_481 : decode cL_law 481 = .ok (.iaload, 1) := dk_46 (dk_at dksL_law_13 5 rfl rfl)
theorem dL_law_482 : decode cL_law 482 = .ok (.aload_n 0, 1) := dk_42 (dk_at dksL_law_13 6 rfl rfl)
theorem dL_law_483 : decode cL_law 483 = .ok (.iload 4, 2) := dk_21 4 (dk_at dksL_law_13 7 rfl rfl)
theorem dL_law_485 : decode cL_law 485 = .ok (.iconst 2, 1) := dk_5 (dk_at dksL_law_13 9 rfl rfl)
theorem dL_law_486 : decode cL_law 486 = .ok (.iadd, 1) := dk_96 (dk_at dksL_law_13 10 rfl rfl)
theorem dL_law_487 : decode cL_law 487 = .ok (.iaload, 1) := dk_46 (dk_at dksL_law_13 11 rfl rfl)
theorem dL_law_488 : decode cL_law 488 = .ok (.aload_n 0, 1) := dk_42 (dk_at dksL_law_13 12 rfl rfl)
theorem dL_law_489 : decode cL_law 489 = .ok (.iload 4, 2) := dk_21 4 (dk_at dksL_law_13 13 rfl rfl)
theorem dL_law_491 : decode cL_law 491 = .ok (.iconst 3, 1) := dk_6 (dk_at dksL_law_13 15 rfl rfl)
theorem dL_law_492 : decode cL_law 492 = .ok (.iadd, 1) := dk_96 (dk_at dksL_law_13 16 rfl rfl)
theorem dL_law_493 : decode cL_law 493 = .ok (.iaload, 1) := dk_46 (dk_at dksL_law_13 17 rfl rfl)
theorem dL_law_494 : decode cL_law 494 = .ok (.invokevirtual 61, 3) := dk_182 0 61 (dk_at dksL_law_13 18 rfl rfl)
theorem dL_law_497 : decode cL_law 497 = .ok (.aload_n 2, 1) := dk_44 (dk_at dksL_law_13 21 rfl rfl)
theorem dL_law_498 : decode cL_law 498 = .ok (.aload_n 0, 1) := dk_42 (dk_at dksL_law_13 22 rfl rfl)
theorem dL_law_499 : decode cL_law 499 = .ok (.iload 4, 2) := dk_21 4 (dk_at dksL_law_14 0 rfl rfl)
theorem dL_law_501 : decode cL_law 501 = .ok (.iconst 1, 1) := dk_4 (dk_at dksL_law_14 2 rfl rfl)
theorem dL_law_502 : decode cL_law 502 = .ok (.iadd, 1) := dk_96 (dk_at dksL_law_14 3 rfl rfl)
theorem dL_law_503 : decode cL_law 503 = .ok (.iaload, 1) := dk_46 (dk_at dksL_law_14 4 rfl rfl)
theorem dL_law_504 : decode cL_law 504 = .ok (.aload_n 0, 1) := dk_42 (dk_at dksL_law_14 5 rfl rfl)
theorem dL_law_505 : decode cL_law 505 = .ok (.iload 4, 2) := dk_21 4 (dk_at dksL_law_14 6 rfl rfl)
theorem dL_law_507 : decode cL_law 507 = .ok (.iconst 2, 1) := dk_5 (dk_at dksL_law_14 8 rfl rfl)
theorem dL_law_508 : decode cL_law 508 = .ok (.iadd, 1) := dk_96 (dk_at dksL_law_14 9 rfl rfl)
theorem dL_law_509 : decode cL_law 509 = .ok (.iaload, 1) := dk_46 (dk_at dksL_law_14 10 rfl rfl)
theorem dL_law_510 : decode cL_law 510 = .ok (.aload_n 0, 1) := dk_42 (dk_at dksL_law_14 11 rfl rfl)
theorem dL_law_511 : decode cL_law 511 = .ok (.iload 4, 2) := dk_21 4 (dk_at dksL_law_14 12 rfl rfl)
theorem dL_law_513 : decode cL_law 513 = .ok (.iconst 3, 1) := dk_6 (dk_at dksL_law_14 14 rfl rfl)
theorem dL_law_514 : decode cL_law 514 = .ok (.iadd, 1) := dk_96 (dk_at dksL_law_14 15 rfl rfl)
theorem dL_law_515 : decode cL_law 515 = .ok (.iaload, 1) := dk_46 (dk_at dksL_law_14 16 rfl rfl)
theorem dL_law_516 : decode cL_law 516 = .ok (.invokevirtual 64, 3) := dk_182 0 64 (dk_at dksL_law_14 17 rfl rfl)
theorem dL_law_519 : decode cL_law 519 = .ok (.if_icmp .eq 1427, 3) := dk_159 5 147 (dk_at dksL_law_14 20 rfl rfl)
theorem dL_law_522 : decode cL_law 522 = .ok (.iconst 0, 1) := dk_3 (dk_at dksL_law_14 23 rfl rfl)
theorem dL_law_523 : decode cL_law 523 = .ok (.ireturn, 1) := dk_172 (dk_at dksL_law_15 0 rfl rfl)
theorem dL_law_524 : decode cL_law 524 = .ok (.aload_n 1, 1) := dk_43 (dk_at dksL_law_15 1 rfl rfl)
theorem dL_law_525 : decode cL_law 525 = .ok (.aload_n 0, 1) := dk_42 (dk_at dksL_law_15 2 rfl rfl)
theorem dL_law_526 : decode cL_law 526 = .ok (.iload 4, 2) := dk_21 4 (dk_at dksL_law_15 3 rfl rfl)
theorem dL_law_528 : decode cL_law 528 = .ok (.iconst 1, 1) := dk_4 (dk_at dksL_law_15 5 rfl rfl)
theorem dL_law_529 : decode cL_law 529 = .ok (.iadd, 1) := dk_96 (dk_at dksL_law_15 6 rfl rfl)
theorem dL_law_530 : decode cL_law 530 = .ok (.iaload, 1) := dk_46 (dk_at dksL_law_15 7 rfl rfl)
theorem dL_law_531 : decode cL_law 531 = .ok (.aload_n 0, 1) := dk_42 (dk_at dksL_law_15 8 rfl rfl)
theorem dL_law_532 : decode cL_law 532 = .ok (.iload 4, 2) := dk_21 4 (dk_at dksL_law_15 9 rfl rfl)
theorem dL_law_534 : decode cL_law 534 = .ok (.iconst 2, 1) := dk_5 (dk_at dksL_law_15 11 rfl rfl)
theorem dL_law_535 : decode cL_law 535 = .ok (.iadd, 1) := dk_96 (dk_at dksL_law_15 12 rfl rfl)
theorem dL_law_536 : decode cL_law 536 = .ok (.iaload, 1) := dk_46 (dk_at dksL_law_15 13 rfl rfl)
theorem dL_law_537 : decode cL_law 537 = .ok (.aload_n 0, 1) := dk_42 (dk_at dksL_law_15 14 rfl rfl)
theorem dL_law_538 : decode cL_law 538 = .ok (.iload 4, 2) := dk_21 4 (dk_at dksL_law_15 15 rfl rfl)
theorem dL_law_540 : decode cL_law 540 = .ok (.iconst 3, 1) := dk_6 (dk_at dksL_law_15 17 rfl rfl)
theorem dL_law_541 : decode cL_law 541 = .ok (.iadd, 1) := dk_96 (dk_at dksL_law_15 18 rfl rfl)
theorem dL_law_542 : decode cL_law 542 = .ok (.iaload, 1) := dk_46 (dk_at dksL_law_15 19 rfl rfl)
theorem dL_law_543 : decode cL_law 543 = .ok (.invokevirtual 65, 3) := dk_182 0 65 (dk_at dksL_law_15 20 rfl rfl)
theorem dL_law_546 : decode cL_law 546 = .ok (.aload_n 2, 1) := dk_44 (dk_at dksL_law_15 23 rfl rfl)
theorem dL_law_547 : decode cL_law 547 = .ok (.aload_n 0, 1) := dk_42 (dk_at dksL_law_16 0 rfl rfl)
theorem dL_law_548 : decode cL_law 548 = .ok (.iload 4, 2) := dk_21 4 (dk_at dksL_law_16 1 rfl rfl)
theorem dL_law_550 : decode cL_law 550 = .ok (.iconst 1, 1) := dk_4 (dk_at dksL_law_16 3 rfl rfl)
theorem dL_law_551 : decode cL_law 551 = .ok (.iadd, 1) := dk_96 (dk_at dksL_law_16 4 rfl rfl)
theorem dL_law_552 : decode cL_law 552 = .ok (.iaload, 1) := dk_46 (dk_at dksL_law_16 5 rfl rfl)
theorem dL_law_553 : decode cL_law 553 = .ok (.aload_n 0, 1) := dk_42 (dk_at dksL_law_16 6 rfl rfl)
theorem dL_law_554 : decode cL_law 554 = .ok (.iload 4, 2) := dk_21 4 (dk_at dksL_law_16 7 rfl rfl)
theorem dL_law_556 : decode cL_law 556 = .ok (.iconst 2, 1) := dk_5 (dk_at dksL_law_16 9 rfl rfl)
theorem dL_law_557 : decode cL_law 557 = .ok (.iadd, 1) := dk_96 (dk_at dksL_law_16 10 rfl rfl)
theorem dL_law_558 : decode cL_law 558 = .ok (.iaload, 1) := dk_46 (dk_at dksL_law_16 11 rfl rfl)
theorem dL_law_559 : decode cL_law 559 = .ok (.aload_n 0, 1) := dk_42 (dk_at dksL_law_16 12 rfl rfl)
theorem dL_law_560 : decode cL_law 560 = .ok (.iload 4, 2) := dk_21 4 (dk_at dksL_law_16 13 rfl rfl)
theorem dL_law_562 : decode cL_law 562 = .ok (.iconst 3, 1) := dk_6 (dk_at dksL_law_16 15 rfl rfl)
theorem dL_law_563 : decode cL_law 563 = .ok (.iadd, 1) := dk_96 (dk_at dksL_law_16 16 rfl rfl)
theorem dL_law_564 : decode cL_law 564 = .ok (.iaload, 1) := dk_46 (dk_at dksL_law_16 17 rfl rfl)
theorem dL_law_565 : decode cL_law 565 = .ok (.invokevirtual 68, 3) := dk_182 0 68 (dk_at dksL_law_16 18 rfl rfl)
theorem dL_law_568 : decode cL_law 568 = .ok (.if_icmp .eq 1378, 3) := dk_159 5 98 (dk_at dksL_law_16 21 rfl rfl)
theorem dL_law_571 : decode cL_law 571 = .ok (.iconst 0, 1) := dk_3 (dk_at dksL_law_17 0 rfl rfl)
theorem dL_law_572 : decode cL_law 572 = .ok (.ireturn, 1) := dk_172 (dk_at dksL_law_17 1 rfl rfl)
theorem dL_law_573 : decode cL_law 573 = .ok (.aload_n 1, 1) := dk_43 (dk_at dksL_law_17 2 rfl rfl)
theorem dL_law_574 : decode cL_law 574 = .ok (.aload_n 0, 1) := dk_42 (dk_at dksL_law_17 3 rfl rfl)
theorem dL_law_575 : decode cL_law 575 = .ok (.iload 4, 2) := dk_21 4 (dk_at dksL_law_17 4 rfl rfl)
theorem dL_law_577 : decode cL_law 577 = .ok (.iconst 1, 1) := dk_4 (dk_at dksL_law_17 6 rfl rfl)
theorem dL_law_578 : decode cL_law 578 = .ok (.iadd, 1) := dk_96 (dk_at dksL_law_17 7 rfl rfl)
theorem dL_law_579 : decode cL_law 579 = .ok (.iaload, 1) := dk_46 (dk_at dksL_law_17 8 rfl rfl)
theorem dL_law_580 : decode cL_law 580 = .ok (.invokevirtual 69, 3) := dk_182 0 69 (dk_at dksL_law_17 9 rfl rfl)
theorem dL_law_583 : decode cL_law 583 = .ok (.aload_n 2, 1) := dk_44 (dk_at dksL_law_17 12 rfl rfl)
theorem dL_law_584 : decode cL_law 584 = .ok (.aload_n 0, 1) := dk_42 (dk_at dksL_law_17 13 rfl rfl)
theorem dL_law_585 : decode cL_law 585 = .ok (.iload 4, 2) := dk_21 4 (dk_at dksL_law_17 14 rfl rfl)
theorem dL_law_587 : decode cL_law 587 = .ok (.iconst 1, 1) := dk_4 (dk_at dksL_law_17 16 rfl rfl)
theorem dL_law_588 : decode cL_law 588 = .ok (.iadd, 1) := dk_96 (dk_at dksL_law_17 17 rfl rfl)
theorem dL_law_589 : decode cL_law 589 = .ok (.iaload, 1) := dk_46 (dk_at dksL_law_17 18 rfl rfl)
theorem dL_law_590 : decode cL_law 590 = .ok (.invokevirtual 72, 3) := dk_182 0 72 (dk_at dksL_law_17 19 rfl rfl)
theorem dL_law_593 : decode cL_law 593 = .ok (.if_icmp .eq 1353, 3) := dk_159 5 73 (dk_at dksL_law_18 0 rfl rfl)
theorem dL_law_596 : decode cL_law 596 = .ok (.iconst 0, 1) := dk_3 (dk_at dksL_law_18 3 rfl rfl)
theorem dL_law_597 : decode cL_law 597 = .ok (.ireturn, 1) := dk_172 (dk_at dksL_law_18 4 rfl rfl)
theorem dL_law_598 : decode cL_law 598 = .ok (.aload_n 1, 1) := dk_43 (dk_at dksL_law_18 5 rfl rfl)
theorem dL_law_599 : decode cL_law 599 = .ok (.aload_n 0, 1) := dk_42 (dk_at dksL_law_18 6 rfl rfl)
theorem dL_law_600 : decode cL_law 600 = .ok (.iload 4, 2) := dk_21 4 (dk_at dksL_law_18 7 rfl rfl)
theorem dL_law_602 : decode cL_law 602 = .ok (.iconst 1, 1) := dk_4 (dk_at dksL_law_18 9 rfl rfl)
theorem dL_law_603 : decode cL_law 603 = .ok (.iadd, 1) := dk_96 (dk_at dksL_law_18 10 rfl rfl)
theorem dL_law_604 : decode cL_law 604 = .ok (.iaload, 1) := dk_46 (dk_at dksL_law_18 11 rfl rfl)
theorem dL_law_605 : decode cL_law 605 = .ok (.aload_n 0, 1) := dk_42 (dk_at dksL_law_18 12 rfl rfl)
theorem dL_law_606 : decode cL_law 606 = .ok (.iload 4, 2) := dk_21 4 (dk_at dksL_law_18 13 rfl rfl)
theorem dL_law_608 : decode cL_law 608 = .ok (.iconst 2, 1) := dk_5 (dk_at dksL_law_18 15 rfl rfl)
theorem dL_law_609 : decode cL_law 609 = .ok (.iadd, 1) := dk_96 (dk_at dksL_law_18 16 rfl rfl)
theorem dL_law_610 : decode cL_law 610 = .ok (.iaload, 1) := dk_46 (dk_at dksL_law_18 17 rfl rfl)
theorem dL_law_611 : decode cL_law 611 = .ok (.invokevirtual 73, 3) := dk_182 0 73 (dk_at dksL_law_18 18 rfl rfl)
theorem dL_law_614 : decode cL_law 614 = .ok (.aload_n 2, 1) := dk_44 (dk_at dksL_law_18 21 rfl rfl)
theorem dL_law_615 : decode cL_law 615 = .ok (.aload_n 0, 1) := dk_42 (dk_at dksL_law_18 22 rfl rfl)
theorem dL_law_616 : decode cL_law 616 = .ok (.iload 4, 2) := dk_21 4 (dk_at dksL_law_19 0 rfl rfl)
theorem dL_law_618 : decode cL_law 618 = .ok (.iconst 1, 1) := dk_4 (dk_at dksL_law_19 2 rfl rfl)
theorem dL_law_619 : decode cL_law 619 = .ok (.iadd, 1) := dk_96 (dk_at dksL_law_19 3 rfl rfl)
theorem dL_law_620 : decode cL_law 620 = .ok (.iaload, 1) := dk_46 (dk_at dksL_law_19 4 rfl rfl)
theorem dL_law_621 : decode cL_law 621 = .ok (.aload_n 0, 1) := dk_42 (dk_at dksL_law_19 5 rfl rfl)
theorem dL_law_622 : decode cL_law 622 = .ok (.iload 4, 2) := dk_21 4 (dk_at dksL_law_19 6 rfl rfl)
theorem dL_law_624 : decode cL_law 624 = .ok (.iconst 2, 1) := dk_5 (dk_at dksL_law_19 8 rfl rfl)
theorem dL_law_625 : decode cL_law 625 = .ok (.iadd, 1) := dk_96 (dk_at dksL_law_19 9 rfl rfl)
theorem dL_law_626 : decode cL_law 626 = .ok (.iaload, 1) := dk_46 (dk_at dksL_law_19 10 rfl rfl)
theorem dL_law_627 : decode cL_law 627 = .ok (.invokevirtual 76, 3) := dk_182 0 76 (dk_at dksL_law_19 11 rfl rfl)
theorem dL_law_630 : decode cL_law 630 = .ok (.if_icmp .eq 1316, 3) := dk_159 5 36 (dk_at dksL_law_19 14 rfl rfl)
theorem dL_law_633 : decode cL_law 633 = .ok (.iconst 0, 1) := dk_3 (dk_at dksL_law_19 17 rfl rfl)
theorem dL_law_634 : decode cL_law 634 = .ok (.ireturn, 1) := dk_172 (dk_at dksL_law_19 18 rfl rfl)
theorem dL_law_635 : decode cL_law 635 = .ok (.aload_n 1, 1) := dk_43 (dk_at dksL_law_19 19 rfl rfl)
theorem dL_law_636 : decode cL_law 636 = .ok (.aload_n 0, 1) := dk_42 (dk_at dksL_law_19 20 rfl rfl)
theorem dL_law_637 : decode cL_law 637 = .ok (.iload 4, 2) := dk_21 4 (dk_at dksL_law_19 21 rfl rfl)
theorem dL_law_639 : decode cL_law 639 = .ok (.iconst 1, 1) := dk_4 (dk_at dksL_law_19 23 rfl rfl)
theorem dL_law_640 : decode cL_law 640 = .ok (.iadd, 1) := dk_96 (dk_at dksL_law_20 0 rfl rfl)
theorem dL_law_641 : decode cL_law 641 = .ok (.iaload, 1) := dk_46 (dk_at dksL_law_20 1 rfl rfl)
theorem dL_law_642 : decode cL_law 642 = .ok (.aload_n 0, 1) := dk_42 (dk_at dksL_law_20 2 rfl rfl)
theorem dL_law_643 : decode cL_law 643 = .ok (.iload 4, 2) := dk_21 4 (dk_at dksL_law_20 3 rfl rfl)
theorem dL_law_645 : decode cL_law 645 = .ok (.iconst 2, 1) := dk_5 (dk_at dksL_law_20 5 rfl rfl)
theorem dL_law_646 : decode cL_law 646 = .ok (.iadd, 1) := dk_96 (dk_at dksL_law_20 6 rfl rfl)
theorem dL_law_647 : decode cL_law 647 = .ok (.iaload, 1) := dk_46 (dk_at dksL_law_20 7 rfl rfl)
theorem dL_law_648 : decode cL_law 648 = .ok (.aload_n 3, 1) := dk_45 (dk_at dksL_law_20 8 rfl rfl)
theorem dL_law_649 : decode cL_law 649 = .ok (.invokestatic 77, 3) := dk_184 0 77 (dk_at dksL_law_20 9 rfl rfl)
theorem dL_law_652 : decode cL_law 652 = .ok (.istore 5, 2) := dk_54 5 (dk_at dksL_law_20 12 rfl rfl)
theorem dL_law_654 : decode cL_law 654 = .ok (.aload_n 2, 1) := dk_44 (dk_at dksL_law_20 14 rfl rfl)
theorem dL_law_655 : decode cL_law 655 = .ok (.aload_n 0, 1) := dk_42 (dk_at dksL_law_20 15 rfl rfl)
theorem dL_law_656 : decode cL_law 656 = .ok (.iload 4, 2) := dk_21 4 (dk_at dksL_law_20 16 rfl rfl)
theorem dL_law_658 : decode cL_law 658 = .ok (.iconst 1, 1) := dk_4 (dk_at dksL_law_20 18 rfl rfl)
theorem dL_law_659 : decode cL_law 659 = .ok (.iadd, 1) := dk_96 (dk_at dksL_law_20 19 rfl rfl)
theorem dL_law_660 : decode cL_law 660 = .ok (.iaload, 1) := dk_46 (dk_at dksL_law_20 20 rfl rfl)
theorem dL_law_661 : decode cL_law 661 = .ok (.aload_n 0, 1) := dk_42 (dk_at dksL_law_20 21 rfl rfl)
theorem dL_law_662 : decode cL_law 662 = .ok (.iload 4, 2) := dk_21 4 (dk_at dksL_law_20 22 rfl rfl)
theorem dL_law_664 : decode cL_law 664 = .ok (.iconst 2, 1) := dk_5 (dk_at dksL_law_21 0 rfl rfl)
theorem dL_law_665 : decode cL_law 665 = .ok (.iadd, 1) := dk_96 (dk_at dksL_law_21 1 rfl rfl)
theorem dL_law_666 : decode cL_law 666 = .ok (.iaload, 1) := dk_46 (dk_at dksL_law_21 2 rfl rfl)
theorem dL_law_667 : decode cL_law 667 = .ok (.invokevirtual 82, 3) := dk_182 0 82 (dk_at dksL_law_21 3 rfl rfl)
theorem dL_law_670 : decode cL_law 670 = .ok (.istore 6, 2) := dk_54 6 (dk_at dksL_law_21 6 rfl rfl)
theorem dL_law_672 : decode cL_law 672 = .ok (.aload_n 2, 1) := dk_44 (dk_at dksL_law_21 8 rfl rfl)
theorem dL_law_673 : decode cL_law 673 = .ok (.invokevirtual 83, 3) := dk_182 0 83 (dk_at dksL_law_21 9 rfl rfl)
theorem dL_law_676 : decode cL_law 676 = .ok (.iload 5, 2) := dk_21 5 (dk_at dksL_law_21 12 rfl rfl)
theorem dL_law_678 : decode cL_law 678 = .ok (.if_icmp .eq 5, 3) := dk_159 0 5 (dk_at dksL_law_21 14 rfl rfl)
theorem dL_law_681 : decode cL_law 681 = .ok (.iconst 0, 1) := dk_3 (dk_at dksL_law_21 17 rfl rfl)
theorem dL_law_682 : decode cL_law 682 = .ok (.ireturn, 1) := dk_172 (dk_at dksL_law_21 18 rfl rfl)
theorem dL_law_683 : decode cL_law 683 = .ok (.iload 5, 2) := dk_21 5 (dk_at dksL_law_21 19 rfl rfl)
theorem dL_law_685 : decode cL_law 685 = .ok (.ifCond .ne 15, 3) := dk_154 0 15 (dk_at dksL_law_21 21 rfl rfl)
theorem dL_law_688 : decode cL_law 688 = .ok (.aload_n 3, 1) := dk_45 (dk_at dksL_law_22 0 rfl rfl)
theorem dL_law_689 : decode cL_law 689 = .ok (.iconst 0, 1) := dk_3 (dk_at dksL_law_22 1 rfl rfl)
theorem dL_law_690 : decode cL_law 690 = .ok (.laload, 1) := dk_47 (dk_at dksL_law_22 2 rfl rfl)
theorem dL_law_691 : decode cL_law 691 = .ok (.iload 6, 2) := dk_21 6 (dk_at dksL_law_22 3 rfl rfl)
theorem dL_law_693 : decode cL_law 693 = .ok (.i2l, 1) := dk_133 (dk_at dksL_law_22 5 rfl rfl)
theorem dL_law_694 : decode cL_law 694 = .ok (.lcmp, 1) := dk_148 (dk_at dksL_law_22 6 rfl rfl)
theorem dL_law_695 : decode cL_law 695 = .ok (.ifCond .eq 5, 3) := dk_153 0 5 (dk_at dksL_law_22 7 rfl rfl)
theorem dL_law_698 : decode cL_law 698 = .ok (.iconst 0, 1) := dk_3 (dk_at dksL_law_22 10 rfl rfl)
theorem dL_law_699 : decode cL_law 699 = .ok (.ireturn, 1) := dk_172 (dk_at dksL_law_22 11 rfl rfl)
theorem dL_law_700 : decode cL_law 700 = .ok (.goto 1246, 3) := dk_167 4 222 (dk_at dksL_law_22 12 rfl rfl)
theorem dL_law_703 : decode cL_law 703 = .ok (.aload_n 1, 1) := dk_43 (dk_at dksL_law_22 15 rfl rfl)
theorem dL_law_704 : decode cL_law 704 = .ok (.aload_n 0, 1) := dk_42 (dk_at dksL_law_22 16 rfl rfl)
theorem dL_law_705 : decode cL_law 705 = .ok (.iload 4, 2) := dk_21 4 (dk_at dksL_law_22 17 rfl rfl)
theorem dL_law_707 : decode cL_law 707 = .ok (.iconst 1, 1) := dk_4 (dk_at dksL_law_22 19 rfl rfl)
theorem dL_law_708 : decode cL_law 708 = .ok (.iadd, 1) := dk_96 (dk_at dksL_law_22 20 rfl rfl)
theorem dL_law_709 : decode cL_law 709 = .ok (.iaload, 1) := dk_46 (dk_at dksL_law_22 21 rfl rfl)
theorem dL_law_710 : decode cL_law 710 = .ok (.invokevirtual 86, 3) := dk_182 0 86 (dk_at dksL_law_23 0 rfl rfl)
theorem dL_law_713 : decode cL_law 713 = .ok (.aload_n 2, 1) := dk_44 (dk_at dksL_law_23 3 rfl rfl)
theorem dL_law_714 : decode cL_law 714 = .ok (.aload_n 0, 1) := dk_42 (dk_at dksL_law_23 4 rfl rfl)
theorem dL_law_715 : decode cL_law 715 = .ok (.iload 4, 2) := dk_21 4 (dk_at dksL_law_23 5 rfl rfl)
theorem dL_law_717 : decode cL_law 717 = .ok (.iconst 1, 1) := dk_4 (dk_at dksL_law_23 7 rfl rfl)
theorem dL_law_718 : decode cL_law 718 = .ok (.iadd, 1) := dk_96 (dk_at dksL_law_23 8 rfl rfl)
theorem dL_law_719 : decode cL_law 719 = .ok (.iaload, 1) := dk_46 (dk_at dksL_law_23 9 rfl rfl)
theorem dL_law_720 : decode cL_law 720 = .ok (.invokevirtual 89, 3) := dk_182 0 89 (dk_at dksL_law_23 10 rfl rfl)
theorem dL_law_723 : decode cL_law 723 = .ok (.if_icmp .eq 1223, 3) := dk_159 4 199 (dk_at dksL_law_23 13 rfl rfl)
theorem dL_law_726 : decode cL_law 726 = .ok (.iconst 0, 1) := dk_3 (dk_at dksL_law_23 16 rfl rfl)
theorem dL_law_727 : decode cL_law 727 = .ok (.ireturn, 1) := dk_172 (dk_at dksL_law_23 17 rfl rfl)
theorem dL_law_728 : decode cL_law 728 = .ok (.aload_n 1, 1) := dk_43 (dk_at dksL_law_23 18 rfl rfl)
theorem dL_law_729 : decode cL_law 729 = .ok (.aload_n 0, 1) := dk_42 (dk_at dksL_law_23 19 rfl rfl)
theorem dL_law_730 : decode cL_law 730 = .ok (.iload 4, 2) := dk_21 4 (dk_at dksL_law_23 20 rfl rfl)
theorem dL_law_732 : decode cL_law 732 = .ok (.iconst 1, 1) := dk_4 (dk_at dksL_law_23 22 rfl rfl)
theorem dL_law_733 : decode cL_law 733 = .ok (.iadd, 1) := dk_96 (dk_at dksL_law_23 23 rfl rfl)
theorem dL_law_734 : decode cL_law 734 = .ok (.iaload, 1) := dk_46 (dk_at dksL_law_24 0 rfl rfl)
theorem dL_law_735 : decode cL_law 735 = .ok (.aload_n 0, 1) := dk_42 (dk_at dksL_law_24 1 rfl rfl)
theorem dL_law_736 : decode cL_law 736 = .ok (.iload 4, 2) := dk_21 4 (dk_at dksL_law_24 2 rfl rfl)
theorem dL_law_738 : decode cL_law 738 = .ok (.iconst 2, 1) := dk_5 (dk_at dksL_law_24 4 rfl rfl)
theorem dL_law_739 : decode cL_law 739 = .ok (.iadd, 1) := dk_96 (dk_at dksL_law_24 5 rfl rfl)
theorem dL_law_740 : decode cL_law 740 = .ok (.iaload, 1) := dk_46 (dk_at dksL_law_24 6 rfl rfl)
theorem dL_law_741 : decode cL_law 741 = .ok (.aload_n 0, 1) := dk_42 (dk_at dksL_law_24 7 rfl rfl)
theorem dL_law_742 : decode cL_law 742 = .ok (.iload 4, 2) := dk_21 4 (dk_at dksL_law_24 8 rfl rfl)
theorem dL_law_744 : decode cL_law 744 = .ok (.iconst 3, 1) := dk_6 (dk_at dksL_law_24 10 rfl rfl)
theorem dL_law_745 : decode cL_law 745 = .ok (.iadd, 1) := dk_96 (dk_at dksL_law_24 11 rfl rfl)
theorem dL_law_746 : decode cL_law 746 = .ok (.iaload, 1) := dk_46 (dk_at dksL_law_24 12 rfl rfl)
theorem dL_law_747 : decode cL_law 747 = .ok (.invokevirtual 90, 3) := dk_182 0 90 (dk_at dksL_law_24 13 rfl rfl)
theorem dL_law_750 : decode cL_law 750 = .ok (.aload_n 2, 1) := dk_44 (dk_at dksL_law_24 16 rfl rfl)
theorem dL_law_751 : decode cL_law 751 = .ok (.aload_n 0, 1) := dk_42 (dk_at dksL_law_24 17 rfl rfl)
theorem dL_law_752 : decode cL_law 752 = .ok (.iload 4, 2) := dk_21 4 (dk_at dksL_law_24 18 rfl rfl)
theorem dL_law_754 : decode cL_law 754 = .ok (.iconst 1, 1) := dk_4 (dk_at dksL_law_24 20 rfl rfl)
theorem dL_law_755 : decode cL_law 755 = .ok (.iadd, 1) := dk_96 (dk_at dksL_law_24 21 rfl rfl)
theorem dL_law_756 : decode cL_law 756 = .ok (.iaload, 1) := dk_46 (dk_at dksL_law_24 22 rfl rfl)
theorem dL_law_757 : decode cL_law 757 = .ok (.aload_n 0, 1) := dk_42 (dk_at dksL_law_24 23 rfl rfl)
theorem dL_law_758 : decode cL_law 758 = .ok (.iload 4, 2) := dk_21 4 (dk_at dksL_law_25 0 rfl rfl)
theorem dL_law_760 : decode cL_law 760 = .ok (.iconst 2, 1) := dk_5 (dk_at dksL_law_25 2 rfl rfl)
theorem dL_law_761 : decode cL_law 761 = .ok (.iadd, 1) := dk_96 (dk_at dksL_law_25 3 rfl rfl)
theorem dL_law_762 : decode cL_law 762 = .ok (.iaload, 1) := dk_46 (dk_at dksL_law_25 4 rfl rfl)
theorem dL_law_763 : decode cL_law 763 = .ok (.aload_n 0, 1) := dk_42 (dk_at dksL_law_25 5 rfl rfl)
theorem dL_law_764 : decode cL_law 764 = .ok (.iload 4, 2) := dk_21 4 (dk_at dksL_law_25 6 rfl rfl)
theorem dL_law_766 : decode cL_law 766 = .ok (.iconst 3, 1) := dk_6 (dk_at dksL_law_25 8 rfl rfl)
theorem dL_law_767 : decode cL_law 767 = .ok (.iadd, 1) := dk_96 (dk_at dksL_law_25 9 rfl rfl)
theorem dL_law_768 : decode cL_law 768 = .ok (.iaload, 1) := dk_46 (dk_at dksL_law_25 10 rfl rfl)
theorem dL_law_769 : decode cL_law 769 = .ok (.invokevirtual 93, 3) := dk_182 0 93 (dk_at dksL_law_25 11 rfl rfl)
theorem dL_law_772 : decode cL_law 772 = .ok (.if_icmp .eq 1174, 3) := dk_159 4 150 (dk_at dksL_law_25 14 rfl rfl)
theorem dL_law_775 : decode cL_law 775 = .ok (.iconst 0, 1) := dk_3 (dk_at dksL_law_25 17 rfl rfl)
theorem dL_law_776 : decode cL_law 776 = .ok (.ireturn, 1) := dk_172 (dk_at dksL_law_25 18 rfl rfl)
theorem dL_law_777 : decode cL_law 777 = .ok (.aload_n 1, 1) := dk_43 (dk_at dksL_law_25 19 rfl rfl)
theorem dL_law_778 : decode cL_law 778 = .ok (.aload_n 0, 1) := dk_42 (dk_at dksL_law_25 20 rfl rfl)
theorem dL_law_779 : decode cL_law 779 = .ok (.iload 4, 2) := dk_21 4 (dk_at dksL_law_25 21 rfl rfl)
theorem dL_law_781 : decode cL_law 781 = .ok (.iconst 1, 1) := dk_4 (dk_at dksL_law_25 23 rfl rfl)
theorem dL_law_782 : decode cL_law 782 = .ok (.iadd, 1) := dk_96 (dk_at dksL_law_26 0 rfl rfl)
theorem dL_law_783 : decode cL_law 783 = .ok (.iaload, 1) := dk_46 (dk_at dksL_law_26 1 rfl rfl)
theorem dL_law_784 : decode cL_law 784 = .ok (.aload_n 0, 1) := dk_42 (dk_at dksL_law_26 2 rfl rfl)
theorem dL_law_785 : decode cL_law 785 = .ok (.iload 4, 2) := dk_21 4 (dk_at dksL_law_26 3 rfl rfl)
theorem dL_law_787 : decode cL_law 787 = .ok (.iconst 2, 1) := dk_5 (dk_at dksL_law_26 5 rfl rfl)
theorem dL_law_788 : decode cL_law 788 = .ok (.iadd, 1) := dk_96 (dk_at dksL_law_26 6 rfl rfl)
theorem dL_law_789 : decode cL_law 789 = .ok (.iaload, 1) := dk_46 (dk_at dksL_law_26 7 rfl rfl)
theorem dL_law_790 : decode cL_law 790 = .ok (.invokevirtual 94, 3) := dk_182 0 94 (dk_at dksL_law_26 8 rfl rfl)
theorem dL_law_793 : decode cL_law 793 = .ok (.aload_n 2, 1) := dk_44 (dk_at dksL_law_26 11 rfl rfl)
theorem dL_law_794 : decode cL_law 794 = .ok (.aload_n 0, 1) := dk_42 (dk_at dksL_law_26 12 rfl rfl)
theorem dL_law_795 : decode cL_law 795 = .ok (.iload 4, 2) := dk_21 4 (dk_at dksL_law_26 13 rfl rfl)
theorem dL_law_797 : decode cL_law 797 = .ok (.iconst 1, 1) := dk_4 (dk_at dksL_law_26 15 rfl rfl)
theorem dL_law_798 : decode cL_law 798 = .ok (.iadd, 1) := dk_96 (dk_at dksL_law_26 16 rfl rfl)
theorem dL_law_799 : decode cL_law 799 = .ok (.iaload, 1) := dk_46 (dk_at dksL_law_26 17 rfl rfl)
theorem dL_law_800 : decode cL_law 800 = .ok (.aload_n 0, 1) := dk_42 (dk_at dksL_law_26 18 rfl rfl)
theorem dL_law_801 : decode cL_law 801 = .ok (.iload 4, 2) := dk_21 4 (dk_at dksL_law_26 19 rfl rfl)
theorem dL_law_803 : decode cL_law 803 = .ok (.iconst 2, 1) := dk_5 (dk_at dksL_law_26 21 rfl rfl)
theorem dL_law_804 : decode cL_law 804 = .ok (.iadd, 1) := dk_96 (dk_at dksL_law_26 22 rfl rfl)
theorem dL_law_805 : decode cL_law 805 = .ok (.iaload, 1) := dk_46 (dk_at dksL_law_26 23 rfl rfl)
theorem dL_law_806 : decode cL_law 806 = .ok (.invokevirtual 97, 3) := dk_182 0 97 (dk_at dksL_law_27 0 rfl rfl)
theorem dL_law_809 : decode cL_law 809 = .ok (.if_icmp .eq 1137, 3) := dk_159 4 113 (dk_at dksL_law_27 3 rfl rfl)
theorem dL_law_812 : decode cL_law 812 = .ok (.iconst 0, 1) := dk_3 (dk_at dksL_law_27 6 rfl rfl)
theorem dL_law_813 : decode cL_law 813 = .ok (.ireturn, 1) := dk_172 (dk_at dksL_law_27 7 rfl rfl)
theorem dL_law_814 : decode cL_law 814 = .ok (.aload_n 1, 1) := dk_43 (dk_at dksL_law_27 8 rfl rfl)
theorem dL_law_815 : decode cL_law 815 = .ok (.aload_n 0, 1) := dk_42 (dk_at dksL_law_27 9 rfl rfl)
theorem dL_law_816 : decode cL_law 816 = .ok (.iload 4, 2) := dk_21 4 (dk_at dksL_law_27 10 rfl rfl)
theorem dL_law_818 : decode cL_law 818 = .ok (.iconst 1, 1) := dk_4 (dk_at dksL_law_27 12 rfl rfl)
theorem dL_law_819 : decode cL_law 819 = .ok (.iadd, 1) := dk_96 (dk_at dksL_law_27 13 rfl rfl)
theorem dL_law_820 : decode cL_law 820 = .ok (.iaload, 1) := dk_46 (dk_at dksL_law_27 14 rfl rfl)
theorem dL_law_821 : decode cL_law 821 = .ok (.aload_n 0, 1) := dk_42 (dk_at dksL_law_27 15 rfl rfl)
theorem dL_law_822 : decode cL_law 822 = .ok (.iload 4, 2) := dk_21 4 (dk_at dksL_law_27 16 rfl rfl)
theorem dL_law_824 : decode cL_law 824 = .ok (.iconst 2, 1) := dk_5 (dk_at dksL_law_27 18 rfl rfl)
theorem dL_law_825 : decode cL_law 825 = .ok (.iadd, 1) := dk_96 (dk_at dksL_law_27 19 rfl rfl)
theorem dL_law_826 : decode cL_law 826 = .ok (.iaload, 1) := dk_46 (dk_at dksL_law_27 20 rfl rfl)
theorem dL_law_827 : decode cL_law 827 = .ok (.aload_n 0, 1) := dk_42 (dk_at dksL_law_27 21 rfl rfl)
theorem dL_law_828 : decode cL_law 828 = .ok (.iload 4, 2) := dk_21 4 (dk_at dksL_law_27 22 rfl rfl)
theorem dL_law_830 : decode cL_law 830 = .ok (.iconst 3, 1) := dk_6 (dk_at dksL_law_28 0 rfl rfl)
theorem dL_law_831 : decode cL_law 831 = .ok (.iadd, 1) := dk_96 (dk_at dksL_law_28 1 rfl rfl)
theorem dL_law_832 : decode cL_law 832 = .ok (.iaload, 1) := dk_46 (dk_at dksL_law_28 2 rfl rfl)
theorem dL_law_833 : decode cL_law 833 = .ok (.aload_n 3, 1) := dk_45 (dk_at dksL_law_28 3 rfl rfl)
theorem dL_law_834 : decode cL_law 834 = .ok (.invokestatic 98, 3) := dk_184 0 98 (dk_at dksL_law_28 4 rfl rfl)
theorem dL_law_837 : decode cL_law 837 = .ok (.istore 5, 2) := dk_54 5 (dk_at dksL_law_28 7 rfl rfl)
theorem dL_law_839 : decode cL_law 839 = .ok (.aload_n 2, 1) := dk_44 (dk_at dksL_law_28 9 rfl rfl)
theorem dL_law_840 : decode cL_law 840 = .ok (.aload_n 0, 1) := dk_42 (dk_at dksL_law_28 10 rfl rfl)
theorem dL_law_841 : decode cL_law 841 = .ok (.iload 4, 2) := dk_21 4 (dk_at dksL_law_28 11 rfl rfl)
theorem dL_law_843 : decode cL_law 843 = .ok (.iconst 1, 1) := dk_4 (dk_at dksL_law_28 13 rfl rfl)
theorem dL_law_844 : decode cL_law 844 = .ok (.iadd, 1) := dk_96 (dk_at dksL_law_28 14 rfl rfl)
theorem dL_law_845 : decode cL_law 845 = .ok (.iaload, 1) := dk_46 (dk_at dksL_law_28 15 rfl rfl)
theorem dL_law_846 : decode cL_law 846 = .ok (.aload_n 0, 1) := dk_42 (dk_at dksL_law_28 16 rfl rfl)
theorem dL_law_847 : decode cL_law 847 = .ok (.iload 4, 2) := dk_21 4 (dk_at dksL_law_28 17 rfl rfl)
theorem dL_law_849 : decode cL_law 849 = .ok (.iconst 2, 1) := dk_5 (dk_at dksL_law_28 19 rfl rfl)
theorem dL_law_850 : decode cL_law 850 = .ok (.iadd, 1) := dk_96 (dk_at dksL_law_28 20 rfl rfl)
theorem dL_law_851 : decode cL_law 851 = .ok (.iaload, 1) := dk_46 (dk_at dksL_law_28 21 rfl rfl)
theorem dL_law_852 : decode cL_law 852 = .ok (.aload_n 0, 1) := dk_42 (dk_at dksL_law_28 22 rfl rfl)
theorem dL_law_853 : decode cL_law 853 = .ok (.iload 4, 2) := dk_21 4 (dk_at dksL_law_29 0 rfl rfl)
theorem dL_law_855 : decode cL_law 855 = .ok (.iconst 3, 1) := dk_6 (dk_at dksL_law_29 2 rfl rfl)
theorem dL_law_856 : decode cL_law 856 = .ok (.iadd, 1) := dk_96 (dk_at dksL_law_29 3 rfl rfl)
theorem dL_law_857 : decode cL_law 857 = .ok (.iaload, 1) := dk_46 (dk_at dksL_law_29 4 rfl rfl)
theorem dL_law_858 : decode cL_law 858 = .ok (.invokevirtual 101, 3) := dk_182 0 101 (dk_at dksL_law_29 5 rfl rfl)
theorem dL_law_861 : decode cL_law 861 = .ok (.istore 6, 2) := dk_54 6 (dk_at dksL_law_29 8 rfl rfl)
theorem dL_law_863 : decode cL_law 863 = .ok (.aload_n 2, 1) := dk_44 (dk_at dksL_law_29 10 rfl rfl)
theorem dL_law_864 : decode cL_law 864 = .ok (.invokevirtual 83, 3) := dk_182 0 83 (dk_at dksL_law_29 11 rfl rfl)
theorem dL_law_867 : decode cL_law 867 = .ok (.iload 5, 2) := dk_21 5 (dk_at dksL_law_29 14 rfl rfl)
theorem dL_law_869 : decode cL_law 869 = .ok (.if_icmp .eq 5, 3) := dk_159 0 5 (dk_at dksL_law_29 16 rfl rfl)
theorem dL_law_872 : decode cL_law 872 = .ok (.iconst 0, 1) := dk_3 (dk_at dksL_law_29 19 rfl rfl)
theorem dL_law_873 : decode cL_law 873 = .ok (.ireturn, 1) := dk_172 (dk_at dksL_law_29 20 rfl rfl)
theorem dL_law_874 : decode cL_law 874 = .ok (.iload 5, 2) := dk_21 5 (dk_at dksL_law_29 21 rfl rfl)
theorem dL_law_876 : decode cL_law 876 = .ok (.ifCond .ne 15, 3) := dk_154 0 15 (dk_at dksL_law_30 0 rfl rfl)
theorem dL_law_879 : decode cL_law 879 = .ok (.aload_n 3, 1) := dk_45 (dk_at dksL_law_30 3 rfl rfl)
theorem dL_law_880 : decode cL_law 880 = .ok (.iconst 0, 1) := dk_3 (dk_at dksL_law_30 4 rfl rfl)
theorem dL_law_881 : decode cL_law 881 = .ok (.laload, 1) := dk_47 (dk_at dksL_law_30 5 rfl rfl)
theorem dL_law_882 : decode cL_law 882 = .ok (.iload 6, 2) := dk_21 6 (dk_at dksL_law_30 6 rfl rfl)
theorem dL_law_884 : decode cL_law 884 = .ok (.i2l, 1) := dk_133 (dk_at dksL_law_30 8 rfl rfl)
theorem dL_law_885 : decode cL_law 885 = .ok (.lcmp, 1) := dk_148 (dk_at dksL_law_30 9 rfl rfl)
theorem dL_law_886 : decode cL_law 886 = .ok (.ifCond .eq 5, 3) := dk_153 0 5 (dk_at dksL_law_30 10 rfl rfl)
theorem dL_law_889 : decode cL_law 889 = .ok (.iconst 0, 1) := dk_3 (dk_at dksL_law_30 13 rfl rfl)
theorem dL_law_890 : decode cL_law 890 = .ok (.ireturn, 1) := dk_172 (dk_at dksL_law_30 14 rfl rfl)
theorem dL_law_891 : decode cL_law 891 = .ok (.goto 1055, 3) := dk_167 4 31 (dk_at dksL_law_30 15 rfl rfl)
theorem dL_law_894 : decode cL_law 894 = .ok (.aload_n 1, 1) := dk_43 (dk_at dksL_law_30 18 rfl rfl)
theorem dL_law_895 : decode cL_law 895 = .ok (.aload_n 0, 1) := dk_42 (dk_at dksL_law_30 19 rfl rfl)
theorem dL_law_896 : decode cL_law 896 = .ok (.iload 4, 2) := dk_21 4 (dk_at dksL_law_30 20 rfl rfl)
theorem dL_law_898 : decode cL_law 898 = .ok (.iconst 1, 1) := dk_4 (dk_at dksL_law_30 22 rfl rfl)
theorem dL_law_899 : decode cL_law 899 = .ok (.iadd, 1) := dk_96 (dk_at dksL_law_30 23 rfl rfl)
theorem dL_law_900 : decode cL_law 900 = .ok (.iaload, 1) := dk_46 (dk_at dksL_law_31 0 rfl rfl)
theorem dL_law_901 : decode cL_law 901 = .ok (.aload_n 3, 1) := dk_45 (dk_at dksL_law_31 1 rfl rfl)
theorem dL_law_902 : decode cL_law 902 = .ok (.invokestatic 102, 3) := dk_184 0 102 (dk_at dksL_law_31 2 rfl rfl)
theorem dL_law_905 : decode cL_law 905 = .ok (.istore 5, 2) := dk_54 5 (dk_at dksL_law_31 5 rfl rfl)
theorem dL_law_907 : decode cL_law 907 = .ok (.aload_n 2, 1) := dk_44 (dk_at dksL_law_31 7 rfl rfl)
theorem dL_law_908 : decode cL_law 908 = .ok (.aload_n 0, 1) := dk_42 (dk_at dksL_law_31 8 rfl rfl)
theorem dL_law_909 : decode cL_law 909 = .ok (.iload 4, 2) := dk_21 4 (dk_at dksL_law_31 9 rfl rfl)
theorem dL_law_911 : decode cL_law 911 = .ok (.iconst 1, 1) := dk_4 (dk_at dksL_law_31 11 rfl rfl)
theorem dL_law_912 : decode cL_law 912 = .ok (.iadd, 1) := dk_96 (dk_at dksL_law_31 12 rfl rfl)
theorem dL_law_913 : decode cL_law 913 = .ok (.iaload, 1) := dk_46 (dk_at dksL_law_31 13 rfl rfl)
theorem dL_law_914 : decode cL_law 914 = .ok (.invokevirtual 105, 3) := dk_182 0 105 (dk_at dksL_law_31 14 rfl rfl)
theorem dL_law_917 : decode cL_law 917 = .ok (.istore 6, 2) := dk_54 6 (dk_at dksL_law_31 17 rfl rfl)
theorem dL_law_919 : decode cL_law 919 = .ok (.aload_n 2, 1) := dk_44 (dk_at dksL_law_31 19 rfl rfl)
theorem dL_law_920 : decode cL_law 920 = .ok (.invokevirtual 83, 3) := dk_182 0 83 (dk_at dksL_law_31 20 rfl rfl)
theorem dL_law_923 : decode cL_law 923 = .ok (.iload 5, 2) := dk_21 5 (dk_at dksL_law_32 0 rfl rfl)
theorem dL_law_925 : decode cL_law 925 = .ok (.if_icmp .eq 5, 3) := dk_159 0 5 (dk_at dksL_law_32 2 rfl rfl)
theorem dL_law_928 : decode cL_law 928 = .ok (.iconst 0, 1) := dk_3 (dk_at dksL_law_32 5 rfl rfl)
theorem dL_law_929 : decode cL_law 929 = .ok (.ireturn, 1) := dk_172 (dk_at dksL_law_32 6 rfl rfl)
theorem dL_law_930 : decode cL_law 930 = .ok (.iload 5, 2) := dk_21 5 (dk_at dksL_law_32 7 rfl rfl)
theorem dL_law_932 : decode cL_law 932 = .ok (.ifCond .ne 15, 3) := dk_154 0 15 (dk_at dksL_law_32 9 rfl rfl)
theorem dL_law_935 : decode cL_law 935 = .ok (.aload_n 3, 1) := dk_45 (dk_at dksL_law_32 12 rfl rfl)
theorem dL_law_936 : decode cL_law 936 = .ok (.iconst 0, 1) := dk_3 (dk_at dksL_law_32 13 rfl rfl)
theorem dL_law_937 : decode cL_law 937 = .ok (.laload, 1) := dk_47 (dk_at dksL_law_32 14 rfl rfl)
theorem dL_law_938 : decode cL_law 938 = .ok (.iload 6, 2) := dk_21 6 (dk_at dksL_law_32 15 rfl rfl)
theorem dL_law_940 : decode cL_law 940 = .ok (.i2l, 1) := dk_133 (dk_at dksL_law_32 17 rfl rfl)
theorem dL_law_941 : decode cL_law 941 = .ok (.lcmp, 1) := dk_148 (dk_at dksL_law_32 18 rfl rfl)
theorem dL_law_942 : decode cL_law 942 = .ok (.ifCond .eq 5, 3) := dk_153 0 5 (dk_at dksL_law_32 19 rfl rfl)
theorem dL_law_945 : decode cL_law 945 = .ok (.iconst 0, 1) := dk_3 (dk_at dksL_law_32 22 rfl rfl)
theorem dL_law_946 : decode cL_law 946 = .ok (.ireturn, 1) := dk_172 (dk_at dksL_law_32 23 rfl rfl)
theorem dL_law_947 : decode cL_law 947 = .ok (.goto 999, 3) := dk_167 3 231 (dk_at dksL_law_33 0 rfl rfl)
theorem dL_law_950 : decode cL_law 950 = .ok (.aload_n 1, 1) := dk_43 (dk_at dksL_law_33 3 rfl rfl)
theorem dL_law_951 : decode cL_law 951 = .ok (.aload_n 0, 1) := dk_42 (dk_at dksL_law_33 4 rfl rfl)
theorem dL_law_952 : decode cL_law 952 = .ok (.iload 4, 2) := dk_21 4 (dk_at dksL_law_33 5 rfl rfl)
theorem dL_law_954 : decode cL_law 954 = .ok (.iconst 1, 1) := dk_4 (dk_at dksL_law_33 7 rfl rfl)
theorem dL_law_955 : decode cL_law 955 = .ok (.iadd, 1) := dk_96 (dk_at dksL_law_33 8 rfl rfl)
theorem dL_law_956 : decode cL_law 956 = .ok (.iaload, 1) := dk_46 (dk_at dksL_law_33 9 rfl rfl)
theorem dL_law_957 : decode cL_law 957 = .ok (.aload_n 0, 1) := dk_42 (dk_at dksL_law_33 10 rfl rfl)
theorem dL_law_958 : decode cL_law 958 = .ok (.iload 4, 2) := dk_21 4 (dk_at dksL_law_33 11 rfl rfl)
theorem dL_law_960 : decode cL_law 960 = .ok (.iconst 2, 1) := dk_5 (dk_at dksL_law_33 13 rfl rfl)
theorem dL_law_961 : decode cL_law 961 = .ok (.iadd, 1) := dk_96 (dk_at dksL_law_33 14 rfl rfl)
theorem dL_law_962 : decode cL_law 962 = .ok (.iaload, 1) := dk_46 (dk_at dksL_law_33 15 rfl rfl)
theorem dL_law_963 : decode cL_law 963 = .ok (.aload_n 3, 1) := dk_45 (dk_at dksL_law_33 16 rfl rfl)
theorem dL_law_964 : decode cL_law 964 = .ok (.invokestatic 106, 3) := dk_184 0 106 (dk_at dksL_law_33 17 rfl rfl)
theorem dL_law_967 : decode cL_law 967 = .ok (.istore 5, 2) := dk_54 5 (dk_at dksL_law_33 20 rfl rfl)
theorem dL_law_969 : decode cL_law 969 = .ok (.aload_n 2, 1) := dk_44 (dk_at dksL_law_33 22 rfl rfl)
theorem dL_law_970 : decode cL_law 970 = .ok (.aload_n 0, 1) := dk_42 (dk_at dksL_law_33 23 rfl rfl)
theorem dL_law_971 : decode cL_law 971 = .ok (.iload 4, 2) := dk_21 4 (dk_at dksL_law_34 0 rfl rfl)
theorem dL_law_973 : decode cL_law 973 = .ok (.iconst 1, 1) := dk_4 (dk_at dksL_law_34 2 rfl rfl)
theorem dL_law_974 : decode cL_law 974 = .ok (.iadd, 1) := dk_96 (dk_at dksL_law_34 3 rfl rfl)
theorem dL_law_975 : decode cL_law 975 = .ok (.iaload, 1) := dk_46 (dk_at dksL_law_34 4 rfl rfl)
theorem dL_law_976 : decode cL_law 976 = .ok (.aload_n 0, 1) := dk_42 (dk_at dksL_law_34 5 rfl rfl)
theorem dL_law_977 : decode cL_law 977 = .ok (.iload 4, 2) := dk_21 4 (dk_at dksL_law_34 6 rfl rfl)
theorem dL_law_979 : decode cL_law 979 = .ok (.iconst 2, 1) := dk_5 (dk_at dksL_law_34 8 rfl rfl)
theorem dL_law_980 : decode cL_law 980 = .ok (.iadd, 1) := dk_96 (dk_at dksL_law_34 9 rfl rfl)
theorem dL_law_981 : decode cL_law 981 = .ok (.iaload, 1) := dk_46 (dk_at dksL_law_34 10 rfl rfl)
theorem dL_law_982 : decode cL_law 982 = .ok (.invokevirtual 108, 3) := dk_182 0 108 (dk_at dksL_law_34 11 rfl rfl)
theorem dL_law_985 : decode cL_law 985 = .ok (.istore 6, 2) := dk_54 6 (dk_at dksL_law_34 14 rfl rfl)
theorem dL_law_987 : decode cL_law 987 = .ok (.aload_n 2, 1) := dk_44 (dk_at dksL_law_34 16 rfl rfl)
theorem dL_law_988 : decode cL_law 988 = .ok (.invokevirtual 83, 3) := dk_182 0 83 (dk_at dksL_law_34 17 rfl rfl)
theorem dL_law_991 : decode cL_law 991 = .ok (.iload 5, 2) := dk_21 5 (dk_at dksL_law_34 20 rfl rfl)
theorem dL_law_993 : decode cL_law 993 = .ok (.if_icmp .eq 5, 3) := dk_159 0 5 (dk_at dksL_law_35 0 rfl rfl)
theorem dL_law_996 : decode cL_law 996 = .ok (.iconst 0, 1) := dk_3 (dk_at dksL_law_35 3 rfl rfl)
theorem dL_law_997 : decode cL_law 997 = .ok (.ireturn, 1) := dk_172 (dk_at dksL_law_35 4 rfl rfl)
theorem dL_law_998 : decode cL_law 998 = .ok (.iload 5, 2) := dk_21 5 (dk_at dksL_law_35 5 rfl rfl)
theorem dL_law_1000 : decode cL_law 1000 = .ok (.ifCond .ne 15, 3) := dk_154 0 15 (dk_at dksL_law_35 7 rfl rfl)
theorem dL_law_1003 : decode cL_law 1003 = .ok (.aload_n 3, 1) := dk_45 (dk_at dksL_law_35 10 rfl rfl)
theorem dL_law_1004 : decode cL_law 1004 = .ok (.iconst 0, 1) := dk_3 (dk_at dksL_law_35 11 rfl rfl)
theorem dL_law_1005 : decode cL_law 1005 = .ok (.laload, 1) := dk_47 (dk_at dksL_law_35 12 rfl rfl)
theorem dL_law_1006 : decode cL_law 1006 = .ok (.iload 6, 2) := dk_21 6 (dk_at dksL_law_35 13 rfl rfl)
theorem dL_law_1008 : decode cL_law 1008 = .ok (.i2l, 1) := dk_133 (dk_at dksL_law_35 15 rfl rfl)
theorem dL_law_1009 : decode cL_law 1009 = .ok (.lcmp, 1) := dk_148 (dk_at dksL_law_35 16 rfl rfl)
theorem dL_law_1010 : decode cL_law 1010 = .ok (.ifCond .eq 5, 3) := dk_153 0 5 (dk_at dksL_law_35 17 rfl rfl)
theorem dL_law_1013 : decode cL_law 1013 = .ok (.iconst 0, 1) := dk_3 (dk_at dksL_law_35 20 rfl rfl)
theorem dL_law_1014 : decode cL_law 1014 = .ok (.ireturn, 1) := dk_172 (dk_at dksL_law_35 21 rfl rfl)
theorem dL_law_1015 : decode cL_law 1015 = .ok (.goto 931, 3) := dk_167 3 163 (dk_at dksL_law_36 0 rfl rfl)
theorem dL_law_1018 : decode cL_law 1018 = .ok (.aload_n 1, 1) := dk_43 (dk_at dksL_law_36 3 rfl rfl)
theorem dL_law_1019 : decode cL_law 1019 = .ok (.aload_n 0, 1) := dk_42 (dk_at dksL_law_36 4 rfl rfl)
theorem dL_law_1020 : decode cL_law 1020 = .ok (.iload 4, 2) := dk_21 4 (dk_at dksL_law_36 5 rfl rfl)
theorem dL_law_1022 : decode cL_law 1022 = .ok (.iconst 1, 1) := dk_4 (dk_at dksL_law_36 7 rfl rfl)
theorem dL_law_1023 : decode cL_law 1023 = .ok (.iadd, 1) := dk_96 (dk_at dksL_law_36 8 rfl rfl)
theorem dL_law_1024 : decode cL_law 1024 = .ok (.iaload, 1) := dk_46 (dk_at dksL_law_36 9 rfl rfl)
theorem dL_law_1025 : decode cL_law 1025 = .ok (.aload_n 0, 1) := dk_42 (dk_at dksL_law_36 10 rfl rfl)
theorem dL_law_1026 : decode cL_law 1026 = .ok (.iload 4, 2) := dk_21 4 (dk_at dksL_law_36 11 rfl rfl)
theorem dL_law_1028 : decode cL_law 1028 = .ok (.iconst 2, 1) := dk_5 (dk_at dksL_law_36 13 rfl rfl)
theorem dL_law_1029 : decode cL_law 1029 = .ok (.iadd, 1) := dk_96 (dk_at dksL_law_36 14 rfl rfl)
theorem dL_law_1030 : decode cL_law 1030 = .ok (.iaload, 1) := dk_46 (dk_at dksL_law_36 15 rfl rfl)
theorem dL_law_1031 : decode cL_law 1031 = .ok (.invokevirtual 109, 3) := dk_182 0 109 (dk_at dksL_law_36 16 rfl rfl)
theorem dL_law_1034 : decode cL_law 1034 = .ok (.aload_n 2, 1) := dk_44 (dk_at dksL_law_36 19 rfl rfl)
theorem dL_law_1035 : decode cL_law 1035 = .ok (.aload_n 0, 1) := dk_42 (dk_at dksL_law_36 20 rfl rfl)
theorem dL_law_1036 : decode cL_law 1036 = .ok (.iload 4, 2) := dk_21 4 (dk_at dksL_law_36 21 rfl rfl)
theorem dL_law_1038 : decode cL_law 1038 = .ok (.iconst 1, 1) := dk_4 (dk_at dksL_law_36 23 rfl rfl)
theorem dL_law_1039 : decode cL_law 1039 = .ok (.iadd, 1) := dk_96 (dk_at dksL_law_37 0 rfl rfl)
theorem dL_law_1040 : decode cL_law 1040 = .ok (.iaload, 1) := dk_46 (dk_at dksL_law_37 1 rfl rfl)
theorem dL_law_1041 : decode cL_law 1041 = .ok (.aload_n 0, 1) := dk_42 (dk_at dksL_law_37 2 rfl rfl)
theorem dL_law_1042 : decode cL_law 1042 = .ok (.iload 4, 2) := dk_21 4 (dk_at dksL_law_37 3 rfl rfl)
theorem dL_law_1044 : decode cL_law 1044 = .ok (.iconst 2, 1) := dk_5 (dk_at dksL_law_37 5 rfl rfl)
theorem dL_law_1045 : decode cL_law 1045 = .ok (.iadd, 1) := dk_96 (dk_at dksL_law_37 6 rfl rfl)
theorem dL_law_1046 : decode cL_law 1046 = .ok (.iaload, 1) := dk_46 (dk_at dksL_law_37 7 rfl rfl)
theorem dL_law_1047 : decode cL_law 1047 = .ok (.invokevirtual 112, 3) := dk_182 0 112 (dk_at dksL_law_37 8 rfl rfl)
theorem dL_law_1050 : decode cL_law 1050 = .ok (.if_icmp .eq 896, 3) := dk_159 3 128 (dk_at dksL_law_37 11 rfl rfl)
theorem dL_law_1053 : decode cL_law 1053 = .ok (.iconst 0, 1) := dk_3 (dk_at dksL_law_37 14 rfl rfl)
theorem dL_law_1054 : decode cL_law 1054 = .ok (.ireturn, 1) := dk_172 (dk_at dksL_law_37 15 rfl rfl)
theorem dL_law_1055 : decode cL_law 1055 = .ok (.aload_n 1, 1) := dk_43 (dk_at dksL_law_37 16 rfl rfl)
theorem dL_law_1056 : decode cL_law 1056 = .ok (.aload_n 0, 1) := dk_42 (dk_at dksL_law_37 17 rfl rfl)
theorem dL_law_1057 : decode cL_law 1057 = .ok (.iload 4, 2) := dk_21 4 (dk_at dksL_law_37 18 rfl rfl)
theorem dL_law_1059 : decode cL_law 1059 = .ok (.iconst 1, 1) := dk_4 (dk_at dksL_law_37 20 rfl rfl)
theorem dL_law_1060 : decode cL_law 1060 = .ok (.iadd, 1) := dk_96 (dk_at dksL_law_37 21 rfl rfl)
theorem dL_law_1061 : decode cL_law 1061 = .ok (.iaload, 1) := dk_46 (dk_at dksL_law_37 22 rfl rfl)
theorem dL_law_1062 : decode cL_law 1062 = .ok (.aload_n 0, 1) := dk_42 (dk_at dksL_law_37 23 rfl rfl)
theorem dL_law_1063 : decode cL_law 1063 = .ok (.iload 4, 2) := dk_21 4 (dk_at dksL_law_38 0 rfl rfl)
theorem dL_law_1065 : decode cL_law 1065 = .ok (.iconst 2, 1) := dk_5 (dk_at dksL_law_38 2 rfl rfl)
theorem dL_law_1066 : decode cL_law 1066 = .ok (.iadd, 1) := dk_96 (dk_at dksL_law_38 3 rfl rfl)
theorem dL_law_1067 : decode cL_law 1067 = .ok (.iaload, 1) := dk_46 (dk_at dksL_law_38 4 rfl rfl)
theorem dL_law_1068 : decode cL_law 1068 = .ok (.invokevirtual 113, 3) := dk_182 0 113 (dk_at dksL_law_38 5 rfl rfl)
theorem dL_law_1071 : decode cL_law 1071 = .ok (.aload_n 2, 1) := dk_44 (dk_at dksL_law_38 8 rfl rfl)
theorem dL_law_1072 : decode cL_law 1072 = .ok (.aload_n 0, 1) := dk_42 (dk_at dksL_law_38 9 rfl rfl)
theorem dL_law_1073 : decode cL_law 1073 = .ok (.iload 4, 2) := dk_21 4 (dk_at dksL_law_38 10 rfl rfl)
theorem dL_law_1075 : decode cL_law 1075 = .ok (.iconst 1, 1) := dk_4 (dk_at dksL_law_38 12 rfl rfl)
theorem dL_law_1076 : decode cL_law 1076 = .ok (.iadd, 1) := dk_96 (dk_at dksL_law_38 13 rfl rfl)
theorem dL_law_1077 : decode cL_law 1077 = .ok (.iaload, 1) := dk_46 (dk_at dksL_law_38 14 rfl rfl)
theorem dL_law_1078 : decode cL_law 1078 = .ok (.aload_n 0, 1) := dk_42 (dk_at dksL_law_38 15 rfl rfl)
theorem dL_law_1079 : decode cL_law 1079 = .ok (.iload 4, 2) := dk_21 4 (dk_at dksL_law_38 16 rfl rfl)
theorem dL_law_1081 : decode cL_law 1081 = .ok (.iconst 2, 1) := dk_5 (dk_at dksL_law_38 18 rfl rfl)
theorem dL_law_1082 : decode cL_law 1082 = .ok (.iadd, 1) := dk_96 (dk_at dksL_law_38 19 rfl rfl)
theorem dL_law_1083 : decode cL_law 1083 = .ok (.iaload, 1) := dk_46 (dk_at dksL_law_38 20 rfl rfl)
theorem dL_law_1084 : decode cL_law 1084 = .ok (.invokevirtual 116, 3) := dk_182 0 116 (dk_at dksL_law_38 21 rfl rfl)
theorem dL_law_1087 : decode cL_law 1087 = .ok (.if_icmp .eq 859, 3) := dk_159 3 91 (dk_at dksL_law_39 0 rfl rfl)
theorem dL_law_1090 : decode cL_law 1090 = .ok (.iconst 0, 1) := dk_3 (dk_at dksL_law_39 3 rfl rfl)
theorem dL_law_1091 : decode cL_law 1091 = .ok (.ireturn, 1) := dk_172 (dk_at dksL_law_39 4 rfl rfl)
theorem dL_law_1092 : decode cL_law 1092 = .ok (.aload_n 1, 1) := dk_43 (dk_at dksL_law_39 5 rfl rfl)
theorem dL_law_1093 : decode cL_law 1093 = .ok (.aload_n 0, 1) := dk_42 (dk_at dksL_law_39 6 rfl rfl)
theorem dL_law_1094 : decode cL_law 1094 = .ok (.iload 4, 2) := dk_21 4 (dk_at dksL_law_39 7 rfl rfl)
theorem dL_law_1096 : decode cL_law 1096 = .ok (.iconst 1, 1) := dk_4 (dk_at dksL_law_39 9 rfl rfl)
theorem dL_law_1097 : decode cL_law 1097 = .ok (.iadd, 1) := dk_96 (dk_at dksL_law_39 10 rfl rfl)
theorem dL_law_1098 : decode cL_law 1098 = .ok (.iaload, 1) := dk_46 (dk_at dksL_law_39 11 rfl rfl)
theorem dL_law_1099 : decode cL_law 1099 = .ok (.invokevirtual 117, 3) := dk_182 0 117 (dk_at dksL_law_39 12 rfl rfl)
theorem dL_law_1102 : decode cL_law 1102 = .ok (.aload_n 2, 1) := dk_44 (dk_at dksL_law_39 15 rfl rfl)
theorem dL_law_1103 : decode cL_law 1103 = .ok (.aload_n 0, 1) := dk_42 (dk_at dksL_law_39 16 rfl rfl)
theorem dL_law_1104 : decode cL_law 1104 = .ok (.iload 4, 2) := dk_21 4 (dk_at dksL_law_39 17 rfl rfl)
theorem dL_law_1106 : decode cL_law 1106 = .ok (.iconst 1, 1) := dk_4 (dk_at dksL_law_39 19 rfl rfl)
theorem dL_law_1107 : decode cL_law 1107 = .ok (.iadd, 1) := dk_96 (dk_at dksL_law_39 20 rfl rfl)
theorem dL_law_1108 : decode cL_law 1108 = .ok (.iaload, 1) := dk_46 (dk_at dksL_law_39 21 rfl rfl)
theorem dL_law_1109 : decode cL_law 1109 = .ok (.invokevirtual 120, 3) := dk_182 0 120 (dk_at dksL_law_40 0 rfl rfl)
theorem dL_law_1112 : decode cL_law 1112 = .ok (.if_icmp .eq 834, 3) := dk_159 3 66 (dk_at dksL_law_40 3 rfl rfl)
theorem dL_law_1115 : decode cL_law 1115 = .ok (.iconst 0, 1) := dk_3 (dk_at dksL_law_40 6 rfl rfl)
theorem dL_law_1116 : decode cL_law 1116 = .ok (.ireturn, 1) := dk_172 (dk_at dksL_law_40 7 rfl rfl)
theorem dL_law_1117 : decode cL_law 1117 = .ok (.aload_n 1, 1) := dk_43 (dk_at dksL_law_40 8 rfl rfl)
theorem dL_law_1118 : decode cL_law 1118 = .ok (.aload_n 0, 1) := dk_42 (dk_at dksL_law_40 9 rfl rfl)
theorem dL_law_1119 : decode cL_law 1119 = .ok (.iload 4, 2) := dk_21 4 (dk_at dksL_law_40 10 rfl rfl)
theorem dL_law_1121 : decode cL_law 1121 = .ok (.iconst 1, 1) := dk_4 (dk_at dksL_law_40 12 rfl rfl)
theorem dL_law_1122 : decode cL_law 1122 = .ok (.iadd, 1) := dk_96 (dk_at dksL_law_40 13 rfl rfl)
theorem dL_law_1123 : decode cL_law 1123 = .ok (.iaload, 1) := dk_46 (dk_at dksL_law_40 14 rfl rfl)
theorem dL_law_1124 : decode cL_law 1124 = .ok (.invokevirtual 121, 3) := dk_182 0 121 (dk_at dksL_law_40 15 rfl rfl)
theorem dL_law_1127 : decode cL_law 1127 = .ok (.aload_n 2, 1) := dk_44 (dk_at dksL_law_40 18 rfl rfl)
theorem dL_law_1128 : decode cL_law 1128 = .ok (.aload_n 0, 1) := dk_42 (dk_at dksL_law_40 19 rfl rfl)
theorem dL_law_1129 : decode cL_law 1129 = .ok (.iload 4, 2) := dk_21 4 (dk_at dksL_law_40 20 rfl rfl)
theorem dL_law_1131 : decode cL_law 1131 = .ok (.iconst 1, 1) := dk_4 (dk_at dksL_law_40 22 rfl rfl)
theorem dL_law_1132 : decode cL_law 1132 = .ok (.iadd, 1) := dk_96 (dk_at dksL_law_40 23 rfl rfl)
theorem dL_law_1133 : decode cL_law 1133 = .ok (.iaload, 1) := dk_46 (dk_at dksL_law_41 0 rfl rfl)
theorem dL_law_1134 : decode cL_law 1134 = .ok (.invokevirtual 124, 3) := dk_182 0 124 (dk_at dksL_law_41 1 rfl rfl)
theorem dL_law_1137 : decode cL_law 1137 = .ok (.if_icmp .eq 809, 3) := dk_159 3 41 (dk_at dksL_law_41 4 rfl rfl)
theorem dL_law_1140 : decode cL_law 1140 = .ok (.iconst 0, 1) := dk_3 (dk_at dksL_law_41 7 rfl rfl)
theorem dL_law_1141 : decode cL_law 1141 = .ok (.ireturn, 1) := dk_172 (dk_at dksL_law_41 8 rfl rfl)
theorem dL_law_1142 : decode cL_law 1142 = .ok (.aload_n 1, 1) := dk_43 (dk_at dksL_law_41 9 rfl rfl)
theorem dL_law_1143 : decode cL_law 1143 = .ok (.aload_n 0, 1) := dk_42 (dk_at dksL_law_41 10 rfl rfl)
theorem dL_law_1144 : decode cL_law 1144 = .ok (.iload 4, 2) := dk_21 4 (dk_at dksL_law_41 11 rfl rfl)
theorem dL_law_1146 : decode cL_law 1146 = .ok (.iconst 1, 1) := dk_4 (dk_at dksL_law_41 13 rfl rfl)
theorem dL_law_1147 : decode cL_law 1147 = .ok (.iadd, 1) := dk_96 (dk_at dksL_law_41 14 rfl rfl)
theorem dL_law_1148 : decode cL_law 1148 = .ok (.iaload, 1) := dk_46 (dk_at dksL_law_41 15 rfl rfl)
theorem dL_law_1149 : decode cL_law 1149 = .ok (.aload_n 0, 1) := dk_42 (dk_at dksL_law_41 16 rfl rfl)
theorem dL_law_1150 : decode cL_law 1150 = .ok (.iload 4, 2) := dk_21 4 (dk_at dksL_law_41 17 rfl rfl)
theorem dL_law_1152 : decode cL_law 1152 = .ok (.iconst 2, 1) := dk_5 (dk_at dksL_law_41 19 rfl rfl)
theorem dL_law_1153 : decode cL_law 1153 = .ok (.iadd, 1) := dk_96 (dk_at dksL_law_41 20 rfl rfl)
theorem dL_law_1154 : decode cL_law 1154 = .ok (.iaload, 1) := dk_46 (dk_at dksL_law_41 21 rfl rfl)
theorem dL_law_1155 : decode cL_law 1155 = .ok (.aload_n 0, 1) := dk_42 (dk_at dksL_law_41 22 rfl rfl)
theorem dL_law_1156 : decode cL_law 1156 = .ok (.iload 4, 2) := dk_21 4 (dk_at dksL_law_42 0 rfl rfl)
theorem dL_law_1158 : decode cL_law 1158 = .ok (.iconst 3, 1) := dk_6 (dk_at dksL_law_42 2 rfl rfl)
theorem dL_law_1159 : decode cL_law 1159 = .ok (.iadd, 1) := dk_96 (dk_at dksL_law_42 3 rfl rfl)
theorem dL_law_1160 : decode cL_law 1160 = .ok (.iaload, 1) := dk_46 (dk_at dksL_law_42 4 rfl rfl)
theorem dL_law_1161 : decode cL_law 1161 = .ok (.invokevirtual 125, 3) := dk_182 0 125 (dk_at dksL_law_42 5 rfl rfl)
theorem dL_law_1164 : decode cL_law 1164 = .ok (.aload_n 2, 1) := dk_44 (dk_at dksL_law_42 8 rfl rfl)
theorem dL_law_1165 : decode cL_law 1165 = .ok (.aload_n 0, 1) := dk_42 (dk_at dksL_law_42 9 rfl rfl)
theorem dL_law_1166 : decode cL_law 1166 = .ok (.iload 4, 2) := dk_21 4 (dk_at dksL_law_42 10 rfl rfl)
theorem dL_law_1168 : decode cL_law 1168 = .ok (.iconst 1, 1) := dk_4 (dk_at dksL_law_42 12 rfl rfl)
theorem dL_law_1169 : decode cL_law 1169 = .ok (.iadd, 1) := dk_96 (dk_at dksL_law_42 13 rfl rfl)
theorem dL_law_1170 : decode cL_law 1170 = .ok (.iaload, 1) := dk_46 (dk_at dksL_law_42 14 rfl rfl)
theorem dL_law_1171 : decode cL_law 1171 = .ok (.aload_n 0, 1) := dk_42 (dk_at dksL_law_42 15 rfl rfl)
theorem dL_law_1172 : decode cL_law 1172 = .ok (.iload 4, 2) := dk_21 4 (dk_at dksL_law_42 16 rfl rfl)
theorem dL_law_1174 : decode cL_law 1174 = .ok (.iconst 2, 1) := dk_5 (dk_at dksL_law_42 18 rfl rfl)
theorem dL_law_1175 : decode cL_law 1175 = .ok (.iadd, 1) := dk_96 (dk_at dksL_law_42 19 rfl rfl)
theorem dL_law_1176 : decode cL_law 1176 = .ok (.iaload, 1) := dk_46 (dk_at dksL_law_42 20 rfl rfl)
theorem dL_law_1177 : decode cL_law 1177 = .ok (.aload_n 0, 1) := dk_42 (dk_at dksL_law_42 21 rfl rfl)
theorem dL_law_1178 : decode cL_law 1178 = .ok (.iload 4, 2) := dk_21 4 (dk_at dksL_law_42 22 rfl rfl)
theorem dL_law_1180 : decode cL_law 1180 = .ok (.iconst 3, 1) := dk_6 (dk_at dksL_law_43 0 rfl rfl)
theorem dL_law_1181 : decode cL_law 1181 = .ok (.iadd, 1) := dk_96 (dk_at dksL_law_43 1 rfl rfl)
theorem dL_law_1182 : decode cL_law 1182 = .ok (.iaload, 1) := dk_46 (dk_at dksL_law_43 2 rfl rfl)
theorem dL_law_1183 : decode cL_law 1183 = .ok (.invokevirtual 128, 3) := dk_182 0 128 (dk_at dksL_law_43 3 rfl rfl)
theorem dL_law_1186 : decode cL_law 1186 = .ok (.if_icmp .eq 760, 3) := dk_159 2 248 (dk_at dksL_law_43 6 rfl rfl)
theorem dL_law_1189 : decode cL_law 1189 = .ok (.iconst 0, 1) := dk_3 (dk_at dksL_law_43 9 rfl rfl)
theorem dL_law_1190 : decode cL_law 1190 = .ok (.ireturn, 1) := dk_172 (dk_at dksL_law_43 10 rfl rfl)
theorem dL_law_1191 : decode cL_law 1191 = .ok (.aload_n 1, 1) := dk_43 (dk_at dksL_law_43 11 rfl rfl)
theorem dL_law_1192 : decode cL_law 1192 = .ok (.aload_n 0, 1) := dk_42 (dk_at dksL_law_43 12 rfl rfl)
theorem dL_law_1193 : decode cL_law 1193 = .ok (.iload 4, 2) := dk_21 4 (dk_at dksL_law_43 13 rfl rfl)
theorem dL_law_1195 : decode cL_law 1195 = .ok (.iconst 1, 1) := dk_4 (dk_at dksL_law_43 15 rfl rfl)
theorem dL_law_1196 : decode cL_law 1196 = .ok (.iadd, 1) := dk_96 (dk_at dksL_law_43 16 rfl rfl)
theorem dL_law_1197 : decode cL_law 1197 = .ok (.iaload, 1) := dk_46 (dk_at dksL_law_43 17 rfl rfl)
theorem dL_law_1198 : decode cL_law 1198 = .ok (.aload_n 0, 1) := dk_42 (dk_at dksL_law_43 18 rfl rfl)
theorem dL_law_1199 : decode cL_law 1199 = .ok (.iload 4, 2) := dk_21 4 (dk_at dksL_law_43 19 rfl rfl)
theorem dL_law_1201 : decode cL_law 1201 = .ok (.iconst 2, 1) := dk_5 (dk_at dksL_law_43 21 rfl rfl)
theorem dL_law_1202 : decode cL_law 1202 = .ok (.iadd, 1) := dk_96 (dk_at dksL_law_43 22 rfl rfl)
theorem dL_law_1203 : decode cL_law 1203 = .ok (.iaload, 1) := dk_46 (dk_at dksL_law_43 23 rfl rfl)
theorem dL_law_1204 : decode cL_law 1204 = .ok (.aload_n 0, 1) := dk_42 (dk_at dksL_law_44 0 rfl rfl)
theorem dL_law_1205 : decode cL_law 1205 = .ok (.iload 4, 2) := dk_21 4 (dk_at dksL_law_44 1 rfl rfl)
theorem dL_law_1207 : decode cL_law 1207 = .ok (.iconst 3, 1) := dk_6 (dk_at dksL_law_44 3 rfl rfl)
theorem dL_law_1208 : decode cL_law 1208 = .ok (.iadd, 1) := dk_96 (dk_at dksL_law_44 4 rfl rfl)
theorem dL_law_1209 : decode cL_law 1209 = .ok (.iaload, 1) := dk_46 (dk_at dksL_law_44 5 rfl rfl)
theorem dL_law_1210 : decode cL_law 1210 = .ok (.invokevirtual 129, 3) := dk_182 0 129 (dk_at dksL_law_44 6 rfl rfl)
theorem dL_law_1213 : decode cL_law 1213 = .ok (.aload_n 2, 1) := dk_44 (dk_at dksL_law_44 9 rfl rfl)
theorem dL_law_1214 : decode cL_law 1214 = .ok (.aload_n 0, 1) := dk_42 (dk_at dksL_law_44 10 rfl rfl)
theorem dL_law_1215 : decode cL_law 1215 = .ok (.iload 4, 2) := dk_21 4 (dk_at dksL_law_44 11 rfl rfl)
theorem dL_law_1217 : decode cL_law 1217 = .ok (.iconst 1, 1) := dk_4 (dk_at dksL_law_44 13 rfl rfl)
theorem dL_law_1218 : decode cL_law 1218 = .ok (.iadd, 1) := dk_96 (dk_at dksL_law_44 14 rfl rfl)
theorem dL_law_1219 : decode cL_law 1219 = .ok (.iaload, 1) := dk_46 (dk_at dksL_law_44 15 rfl rfl)
theorem dL_law_1220 : decode cL_law 1220 = .ok (.aload_n 0, 1) := dk_42 (dk_at dksL_law_44 16 rfl rfl)
theorem dL_law_1221 : decode cL_law 1221 = .ok (.iload 4, 2) := dk_21 4 (dk_at dksL_law_44 17 rfl rfl)
theorem dL_law_1223 : decode cL_law 1223 = .ok (.iconst 2, 1) := dk_5 (dk_at dksL_law_44 19 rfl rfl)
theorem dL_law_1224 : decode cL_law 1224 = .ok (.iadd, 1) := dk_96 (dk_at dksL_law_44 20 rfl rfl)
theorem dL_law_1225 : decode cL_law 1225 = .ok (.iaload, 1) := dk_46 (dk_at dksL_law_44 21 rfl rfl)
theorem dL_law_1226 : decode cL_law 1226 = .ok (.aload_n 0, 1) := dk_42 (dk_at dksL_law_44 22 rfl rfl)
theorem dL_law_1227 : decode cL_law 1227 = .ok (.iload 4, 2) := dk_21 4 (dk_at dksL_law_45 0 rfl rfl)
theorem dL_law_1229 : decode cL_law 1229 = .ok (.iconst 3, 1) := dk_6 (dk_at dksL_law_45 2 rfl rfl)
theorem dL_law_1230 : decode cL_law 1230 = .ok (.iadd, 1) := dk_96 (dk_at dksL_law_45 3 rfl rfl)
theorem dL_law_1231 : decode cL_law 1231 = .ok (.iaload, 1) := dk_46 (dk_at dksL_law_45 4 rfl rfl)
theorem dL_law_1232 : decode cL_law 1232 = .ok (.invokevirtual 132, 3) := dk_182 0 132 (dk_at dksL_law_45 5 rfl rfl)
theorem dL_law_1235 : decode cL_law 1235 = .ok (.if_icmp .eq 711, 3) := dk_159 2 199 (dk_at dksL_law_45 8 rfl rfl)
theorem dL_law_1238 : decode cL_law 1238 = .ok (.iconst 0, 1) := dk_3 (dk_at dksL_law_45 11 rfl rfl)
theorem dL_law_1239 : decode cL_law 1239 = .ok (.ireturn, 1) := dk_172 (dk_at dksL_law_45 12 rfl rfl)
theorem dL_law_1240 : decode cL_law 1240 = .ok (.aload_n 1, 1) := dk_43 (dk_at dksL_law_45 13 rfl rfl)
theorem dL_law_1241 : decode cL_law 1241 = .ok (.aload_n 0, 1) := dk_42 (dk_at dksL_law_45 14 rfl rfl)
theorem dL_law_1242 : decode cL_law 1242 = .ok (.iload 4, 2) := dk_21 4 (dk_at dksL_law_45 15 rfl rfl)
theorem dL_law_1244 : decode cL_law 1244 = .ok (.iconst 1, 1) := dk_4 (dk_at dksL_law_45 17 rfl rfl)
theorem dL_law_1245 : decode cL_law 1245 = .ok (.iadd, 1) := dk_96 (dk_at dksL_law_45 18 rfl rfl)
theorem dL_law_1246 : decode cL_law 1246 = .ok (.iaload, 1) := dk_46 (dk_at dksL_law_45 19 rfl rfl)
theorem dL_law_1247 : decode cL_law 1247 = .ok (.aload_n 0, 1) := dk_42 (dk_at dksL_law_45 20 rfl rfl)
theorem dL_law_1248 : decode cL_law 1248 = .ok (.iload 4, 2) := dk_21 4 (dk_at dksL_law_45 21 rfl rfl)
theorem dL_law_1250 : decode cL_law 1250 = .ok (.iconst 2, 1) := dk_5 (dk_at dksL_law_45 23 rfl rfl)
theorem dL_law_1251 : decode cL_law 1251 = .ok (.iadd, 1) := dk_96 (dk_at dksL_law_46 0 rfl rfl)
theorem dL_law_1252 : decode cL_law 1252 = .ok (.iaload, 1) := dk_46 (dk_at dksL_law_46 1 rfl rfl)
theorem dL_law_1253 : decode cL_law 1253 = .ok (.aload_n 0, 1) := dk_42 (dk_at dksL_law_46 2 rfl rfl)
theorem dL_law_1254 : decode cL_law 1254 = .ok (.iload 4, 2) := dk_21 4 (dk_at dksL_law_46 3 rfl rfl)
theorem dL_law_1256 : decode cL_law 1256 = .ok (.iconst 3, 1) := dk_6 (dk_at dksL_law_46 5 rfl rfl)
theorem dL_law_1257 : decode cL_law 1257 = .ok (.iadd, 1) := dk_96 (dk_at dksL_law_46 6 rfl rfl)
theorem dL_law_1258 : decode cL_law 1258 = .ok (.iaload, 1) := dk_46 (dk_at dksL_law_46 7 rfl rfl)
theorem dL_law_1259 : decode cL_law 1259 = .ok (.invokevirtual 133, 3) := dk_182 0 133 (dk_at dksL_law_46 8 rfl rfl)
theorem dL_law_1262 : decode cL_law 1262 = .ok (.aload_n 2, 1) := dk_44 (dk_at dksL_law_46 11 rfl rfl)
theorem dL_law_1263 : decode cL_law 1263 = .ok (.aload_n 0, 1) := dk_42 (dk_at dksL_law_46 12 rfl rfl)
theorem dL_law_1264 : decode cL_law 1264 = .ok (.iload 4, 2) := dk_21 4 (dk_at dksL_law_46 13 rfl rfl)
theorem dL_law_1266 : decode cL_law 1266 = .ok (.iconst 1, 1) := dk_4 (dk_at dksL_law_46 15 rfl rfl)
theorem dL_law_1267 : decode cL_law 1267 = .ok (.iadd, 1) := dk_96 (dk_at dksL_law_46 16 rfl rfl)
theorem dL_law_1268 : decode cL_law 1268 = .ok (.iaload, 1) := dk_46 (dk_at dksL_law_46 17 rfl rfl)
theorem dL_law_1269 : decode cL_law 1269 = .ok (.aload_n 0, 1) := dk_42 (dk_at dksL_law_46 18 rfl rfl)
theorem dL_law_1270 : decode cL_law 1270 = .ok (.iload 4, 2) := dk_21 4 (dk_at dksL_law_46 19 rfl rfl)
theorem dL_law_1272 : decode cL_law 1272 = .ok (.iconst 2, 1) := dk_5 (dk_at dksL_law_46 21 rfl rfl)
theorem dL_law_1273 : decode cL_law 1273 = .ok (.iadd, 1) := dk_96 (dk_at dksL_law_46 22 rfl rfl)
theorem dL_law_1274 : decode cL_law 1274 = .ok (.iaload, 1) := dk_46 (dk_at dksL_law_46 23 rfl rfl)
theorem dL_law_1275 : decode cL_law 1275 = .ok (.aload_n 0, 1) := dk_42 (dk_at dksL_law_47 0 rfl rfl)
theorem dL_law_1276 : decode cL_law 1276 = .ok (.iload 4, 2) := dk_21 4 (dk_at dksL_law_47 1 rfl rfl)
theorem dL_law_1278 : decode cL_law 1278 = .ok (.iconst 3, 1) := dk_6 (dk_at dksL_law_47 3 rfl rfl)
theorem dL_law_1279 : decode cL_law 1279 = .ok (.iadd, 1) := dk_96 (dk_at dksL_law_47 4 rfl rfl)
theorem dL_law_1280 : decode cL_law 1280 = .ok (.iaload, 1) := dk_46 (dk_at dksL_law_47 5 rfl rfl)
theorem dL_law_1281 : decode cL_law 1281 = .ok (.invokevirtual 136, 3) := dk_182 0 136 (dk_at dksL_law_47 6 rfl rfl)
theorem dL_law_1284 : decode cL_law 1284 = .ok (.if_icmp .eq 662, 3) := dk_159 2 150 (dk_at dksL_law_47 9 rfl rfl)
theorem dL_law_1287 : decode cL_law 1287 = .ok (.iconst 0, 1) := dk_3 (dk_at dksL_law_47 12 rfl rfl)
theorem dL_law_1288 : decode cL_law 1288 = .ok (.ireturn, 1) := dk_172 (dk_at dksL_law_47 13 rfl rfl)
theorem dL_law_1289 : decode cL_law 1289 = .ok (.aload_n 1, 1) := dk_43 (dk_at dksL_law_47 14 rfl rfl)
theorem dL_law_1290 : decode cL_law 1290 = .ok (.aload_n 0, 1) := dk_42 (dk_at dksL_law_47 15 rfl rfl)
theorem dL_law_1291 : decode cL_law 1291 = .ok (.iload 4, 2) := dk_21 4 (dk_at dksL_law_47 16 rfl rfl)
theorem dL_law_1293 : decode cL_law 1293 = .ok (.iconst 1, 1) := dk_4 (dk_at dksL_law_47 18 rfl rfl)
theorem dL_law_1294 : decode cL_law 1294 = .ok (.iadd, 1) := dk_96 (dk_at dksL_law_47 19 rfl rfl)
theorem dL_law_1295 : decode cL_law 1295 = .ok (.iaload, 1) := dk_46 (dk_at dksL_law_47 20 rfl rfl)
theorem dL_law_1296 : decode cL_law 1296 = .ok (.aload_n 0, 1) := dk_42 (dk_at dksL_law_47 21 rfl rfl)
theorem dL_law_1297 : decode cL_law 1297 = .ok (.iload 4, 2) := dk_21 4 (dk_at dksL_law_47 22 rfl rfl)
theorem dL_law_1299 : decode cL_law 1299 = .ok (.iconst 2, 1) := dk_5 (dk_at dksL_law_48 0 rfl rfl)
theorem dL_law_1300 : decode cL_law 1300 = .ok (.iadd, 1) := dk_96 (dk_at dksL_law_48 1 rfl rfl)
theorem dL_law_1301 : decode cL_law 1301 = .ok (.iaload, 1) := dk_46 (dk_at dksL_law_48 2 rfl rfl)
theorem dL_law_1302 : decode cL_law 1302 = .ok (.aload_n 0, 1) := dk_42 (dk_at dksL_law_48 3 rfl rfl)
theorem dL_law_1303 : decode cL_law 1303 = .ok (.iload 4, 2) := dk_21 4 (dk_at dksL_law_48 4 rfl rfl)
theorem dL_law_1305 : decode cL_law 1305 = .ok (.iconst 3, 1) := dk_6 (dk_at dksL_law_48 6 rfl rfl)
theorem dL_law_1306 : decode cL_law 1306 = .ok (.iadd, 1) := dk_96 (dk_at dksL_law_48 7 rfl rfl)
theorem dL_law_1307 : decode cL_law 1307 = .ok (.iaload, 1) := dk_46 (dk_at dksL_law_48 8 rfl rfl)
theorem dL_law_1308 : decode cL_law 1308 = .ok (.invokevirtual 137, 3) := dk_182 0 137 (dk_at dksL_law_48 9 rfl rfl)
theorem dL_law_1311 : decode cL_law 1311 = .ok (.aload_n 2, 1) := dk_44 (dk_at dksL_law_48 12 rfl rfl)
theorem dL_law_1312 : decode cL_law 1312 = .ok (.aload_n 0, 1) := dk_42 (dk_at dksL_law_48 13 rfl rfl)
theorem dL_law_1313 : decode cL_law 1313 = .ok (.iload 4, 2) := dk_21 4 (dk_at dksL_law_48 14 rfl rfl)
theorem dL_law_1315 : decode cL_law 1315 = .ok (.iconst 1, 1) := dk_4 (dk_at dksL_law_48 16 rfl rfl)
theorem dL_law_1316 : decode cL_law 1316 = .ok (.iadd, 1) := dk_96 (dk_at dksL_law_48 17 rfl rfl)
theorem dL_law_1317 : decode cL_law 1317 = .ok (.iaload, 1) := dk_46 (dk_at dksL_law_48 18 rfl rfl)
theorem dL_law_1318 : decode cL_law 1318 = .ok (.aload_n 0, 1) := dk_42 (dk_at dksL_law_48 19 rfl rfl)
theorem dL_law_1319 : decode cL_law 1319 = .ok (.iload 4, 2) := dk_21 4 (dk_at dksL_law_48 20 rfl rfl)
theorem dL_law_1321 : decode cL_law 1321 = .ok (.iconst 2, 1) := dk_5 (dk_at dksL_law_48 22 rfl rfl)
theorem dL_law_1322 : decode cL_law 1322 = .ok (.iadd, 1) := dk_96 (dk_at dksL_law_48 23 rfl rfl)
theorem dL_law_1323 : decode cL_law 1323 = .ok (.iaload, 1) := dk_46 (dk_at dksL_law_49 0 rfl rfl)
theorem dL_law_1324 : decode cL_law 1324 = .ok (.aload_n 0, 1) := dk_42 (dk_at dksL_law_49 1 rfl rfl)
theorem dL_law_1325 : decode cL_law 1325 = .ok (.iload 4, 2) := dk_21 4 (dk_at dksL_law_49 2 rfl rfl)
theorem dL_law_1327 : decode cL_law 1327 = .ok (.iconst 3, 1) := dk_6 (dk_at dksL_law_49 4 rfl rfl)
theorem dL_law_1328 : decode cL_law 1328 = .ok (.iadd, 1) := dk_96 (dk_at dksL_law_49 5 rfl rfl)
theorem dL_law_1329 : decode cL_law 1329 = .ok (.iaload, 1) := dk_46 (dk_at dksL_law_49 6 rfl rfl)
theorem dL_law_1330 : decode cL_law 1330 = .ok (.invokevirtual 140, 3) := dk_182 0 140 (dk_at dksL_law_49 7 rfl rfl)
theorem dL_law_1333 : decode cL_law 1333 = .ok (.if_icmp .eq 613, 3) := dk_159 2 101 (dk_at dksL_law_49 10 rfl rfl)
theorem dL_law_1336 : decode cL_law 1336 = .ok (.iconst 0, 1) := dk_3 (dk_at dksL_law_49 13 rfl rfl)
theorem dL_law_1337 : decode cL_law 1337 = .ok (.ireturn, 1) := dk_172 (dk_at dksL_law_49 14 rfl rfl)
theorem dL_law_1338 : decode cL_law 1338 = .ok (.aload_n 1, 1) := dk_43 (dk_at dksL_law_49 15 rfl rfl)
theorem dL_law_1339 : decode cL_law 1339 = .ok (.aload_n 0, 1) := dk_42 (dk_at dksL_law_49 16 rfl rfl)
theorem dL_law_1340 : decode cL_law 1340 = .ok (.iload 4, 2) := dk_21 4 (dk_at dksL_law_49 17 rfl rfl)
theorem dL_law_1342 : decode cL_law 1342 = .ok (.iconst 1, 1) := dk_4 (dk_at dksL_law_49 19 rfl rfl)
theorem dL_law_1343 : decode cL_law 1343 = .ok (.iadd, 1) := dk_96 (dk_at dksL_law_49 20 rfl rfl)
theorem dL_law_1344 : decode cL_law 1344 = .ok (.iaload, 1) := dk_46 (dk_at dksL_law_49 21 rfl rfl)
theorem dL_law_1345 : decode cL_law 1345 = .ok (.aload_n 0, 1) := dk_42 (dk_at dksL_law_49 22 rfl rfl)
theorem dL_law_1346 : decode cL_law 1346 = .ok (.iload 4, 2) := dk_21 4 (dk_at dksL_law_50 0 rfl rfl)
theorem dL_law_1348 : decode cL_law 1348 = .ok (.iconst 2, 1) := dk_5 (dk_at dksL_law_50 2 rfl rfl)
theorem dL_law_1349 : decode cL_law 1349 = .ok (.iadd, 1) := dk_96 (dk_at dksL_law_50 3 rfl rfl)
theorem dL_law_1350 : decode cL_law 1350 = .ok (.iaload, 1) := dk_46 (dk_at dksL_law_50 4 rfl rfl)
theorem dL_law_1351 : decode cL_law 1351 = .ok (.invokevirtual 141, 3) := dk_182 0 141 (dk_at dksL_law_50 5 rfl rfl)
theorem dL_law_1354 : decode cL_law 1354 = .ok (.aload_n 2, 1) := dk_44 (dk_at dksL_law_50 8 rfl rfl)
theorem dL_law_1355 : decode cL_law 1355 = .ok (.aload_n 0, 1) := dk_42 (dk_at dksL_law_50 9 rfl rfl)
theorem dL_law_1356 : decode cL_law 1356 = .ok (.iload 4, 2) := dk_21 4 (dk_at dksL_law_50 10 rfl rfl)
theorem dL_law_1358 : decode cL_law 1358 = .ok (.iconst 1, 1) := dk_4 (dk_at dksL_law_50 12 rfl rfl)
theorem dL_law_1359 : decode cL_law 1359 = .ok (.iadd, 1) := dk_96 (dk_at dksL_law_50 13 rfl rfl)
theorem dL_law_1360 : decode cL_law 1360 = .ok (.iaload, 1) := dk_46 (dk_at dksL_law_50 14 rfl rfl)
theorem dL_law_1361 : decode cL_law 1361 = .ok (.aload_n 0, 1) := dk_42 (dk_at dksL_law_50 15 rfl rfl)
theorem dL_law_1362 : decode cL_law 1362 = .ok (.iload 4, 2) := dk_21 4 (dk_at dksL_law_50 16 rfl rfl)
theorem dL_law_1364 : decode cL_law 1364 = .ok (.iconst 2, 1) := dk_5 (dk_at dksL_law_50 18 rfl rfl)
theorem dL_law_1365 : decode cL_law 1365 = .ok (.iadd, 1) := dk_96 (dk_at dksL_law_50 19 rfl rfl)
theorem dL_law_1366 : decode cL_law 1366 = .ok (.iaload, 1) := dk_46 (dk_at dksL_law_50 20 rfl rfl)
theorem dL_law_1367 : decode cL_law 1367 = .ok (.invokevirtual 144, 3) := dk_182 0 144 (dk_at dksL_law_50 21 rfl rfl)
theorem dL_law_1370 : decode cL_law 1370 = .ok (.if_icmp .eq 576, 3) := dk_159 2 64 (dk_at dksL_law_51 0 rfl rfl)
theorem dL_law_1373 : decode cL_law 1373 = .ok (.iconst 0, 1) := dk_3 (dk_at dksL_law_51 3 rfl rfl)
theorem dL_law_1374 : decode cL_law 1374 = .ok (.ireturn, 1) := dk_172 (dk_at dksL_law_51 4 rfl rfl)
theorem dL_law_1375 : decode cL_law 1375 = .ok (.aload_n 1, 1) := dk_43 (dk_at dksL_law_51 5 rfl rfl)
theorem dL_law_1376 : decode cL_law 1376 = .ok (.aload_n 0, 1) := dk_42 (dk_at dksL_law_51 6 rfl rfl)
theorem dL_law_1377 : decode cL_law 1377 = .ok (.iload 4, 2) := dk_21 4 (dk_at dksL_law_51 7 rfl rfl)
theorem dL_law_1379 : decode cL_law 1379 = .ok (.iconst 1, 1) := dk_4 (dk_at dksL_law_51 9 rfl rfl)
theorem dL_law_1380 : decode cL_law 1380 = .ok (.iadd, 1) := dk_96 (dk_at dksL_law_51 10 rfl rfl)
theorem dL_law_1381 : decode cL_law 1381 = .ok (.iaload, 1) := dk_46 (dk_at dksL_law_51 11 rfl rfl)
theorem dL_law_1382 : decode cL_law 1382 = .ok (.aload_n 0, 1) := dk_42 (dk_at dksL_law_51 12 rfl rfl)
theorem dL_law_1383 : decode cL_law 1383 = .ok (.iload 4, 2) := dk_21 4 (dk_at dksL_law_51 13 rfl rfl)
theorem dL_law_1385 : decode cL_law 1385 = .ok (.iconst 2, 1) := dk_5 (dk_at dksL_law_51 15 rfl rfl)
theorem dL_law_1386 : decode cL_law 1386 = .ok (.iadd, 1) := dk_96 (dk_at dksL_law_51 16 rfl rfl)
theorem dL_law_1387 : decode cL_law 1387 = .ok (.iaload, 1) := dk_46 (dk_at dksL_law_51 17 rfl rfl)
theorem dL_law_1388 : decode cL_law 1388 = .ok (.invokevirtual 145, 3) := dk_182 0 145 (dk_at dksL_law_51 18 rfl rfl)
theorem dL_law_1391 : decode cL_law 1391 = .ok (.aload_n 2, 1) := dk_44 (dk_at dksL_law_51 21 rfl rfl)
theorem dL_law_1392 : decode cL_law 1392 = .ok (.aload_n 0, 1) := dk_42 (dk_at dksL_law_51 22 rfl rfl)
theorem dL_law_1393 : decode cL_law 1393 = .ok (.iload 4, 2) := dk_21 4 (dk_at dksL_law_52 0 rfl rfl)
theorem dL_law_1395 : decode cL_law 1395 = .ok (.iconst 1, 1) := dk_4 (dk_at dksL_law_52 2 rfl rfl)
theorem dL_law_1396 : decode cL_law 1396 = .ok (.iadd, 1) := dk_96 (dk_at dksL_law_52 3 rfl rfl)
theorem dL_law_1397 : decode cL_law 1397 = .ok (.iaload, 1) := dk_46 (dk_at dksL_law_52 4 rfl rfl)
theorem dL_law_1398 : decode cL_law 1398 = .ok (.aload_n 0, 1) := dk_42 (dk_at dksL_law_52 5 rfl rfl)
theorem dL_law_1399 : decode cL_law 1399 = .ok (.iload 4, 2) := dk_21 4 (dk_at dksL_law_52 6 rfl rfl)
theorem dL_law_1401 : decode cL_law 1401 = .ok (.iconst 2, 1) := dk_5 (dk_at dksL_law_52 8 rfl rfl)
theorem dL_law_1402 : decode cL_law 1402 = .ok (.iadd, 1) := dk_96 (dk_at dksL_law_52 9 rfl rfl)
theorem dL_law_1403 : decode cL_law 1403 = .ok (.iaload, 1) := dk_46 (dk_at dksL_law_52 10 rfl rfl)
theorem dL_law_1404 : decode cL_law 1404 = .ok (.invokevirtual 148, 3) := dk_182 0 148 (dk_at dksL_law_52 11 rfl rfl)
theorem dL_law_1407 : decode cL_law 1407 = .ok (.if_icmp .eq 539, 3) := dk_159 2 27 (dk_at dksL_law_52 14 rfl rfl)
theorem dL_law_1410 : decode cL_law 1410 = .ok (.iconst 0, 1) := dk_3 (dk_at dksL_law_52 17 rfl rfl)
theorem dL_law_1411 : decode cL_law 1411 = .ok (.ireturn, 1) := dk_172 (dk_at dksL_law_52 18 rfl rfl)
theorem dL_law_1412 : decode cL_law 1412 = .ok (.aload_n 1, 1) := dk_43 (dk_at dksL_law_52 19 rfl rfl)
theorem dL_law_1413 : decode cL_law 1413 = .ok (.aload_n 0, 1) := dk_42 (dk_at dksL_law_52 20 rfl rfl)
theorem dL_law_1414 : decode cL_law 1414 = .ok (.iload 4, 2) := dk_21 4 (dk_at dksL_law_52 21 rfl rfl)
theorem dL_law_1416 : decode cL_law 1416 = .ok (.iconst 1, 1) := dk_4 (dk_at dksL_law_52 23 rfl rfl)
theorem dL_law_1417 : decode cL_law 1417 = .ok (.iadd, 1) := dk_96 (dk_at dksL_law_53 0 rfl rfl)
theorem dL_law_1418 : decode cL_law 1418 = .ok (.iaload, 1) := dk_46 (dk_at dksL_law_53 1 rfl rfl)
theorem dL_law_1419 : decode cL_law 1419 = .ok (.aload_n 0, 1) := dk_42 (dk_at dksL_law_53 2 rfl rfl)
theorem dL_law_1420 : decode cL_law 1420 = .ok (.iload 4, 2) := dk_21 4 (dk_at dksL_law_53 3 rfl rfl)
theorem dL_law_1422 : decode cL_law 1422 = .ok (.iconst 2, 1) := dk_5 (dk_at dksL_law_53 5 rfl rfl)
theorem dL_law_1423 : decode cL_law 1423 = .ok (.iadd, 1) := dk_96 (dk_at dksL_law_53 6 rfl rfl)
theorem dL_law_1424 : decode cL_law 1424 = .ok (.iaload, 1) := dk_46 (dk_at dksL_law_53 7 rfl rfl)
theorem dL_law_1425 : decode cL_law 1425 = .ok (.aload_n 0, 1) := dk_42 (dk_at dksL_law_53 8 rfl rfl)
theorem dL_law_1426 : decode cL_law 1426 = .ok (.iload 4, 2) := dk_21 4 (dk_at dksL_law_53 9 rfl rfl)
theorem dL_law_1428 : decode cL_law 1428 = .ok (.iconst 3, 1) := dk_6 (dk_at dksL_law_53 11 rfl rfl)
theorem dL_law_1429 : decode cL_law 1429 = .ok (.iadd, 1) := dk_96 (dk_at dksL_law_53 12 rfl rfl)
theorem dL_law_1430 : decode cL_law 1430 = .ok (.iaload, 1) := dk_46 (dk_at dksL_law_53 13 rfl rfl)
theorem dL_law_1431 : decode cL_law 1431 = .ok (.invokevirtual 149, 3) := dk_182 0 149 (dk_at dksL_law_53 14 rfl rfl)
theorem dL_law_1434 : decode cL_law 1434 = .ok (.aload_n 2, 1) := dk_44 (dk_at dksL_law_53 17 rfl rfl)
theorem dL_law_1435 : decode cL_law 1435 = .ok (.aload_n 0, 1) := dk_42 (dk_at dksL_law_53 18 rfl rfl)
theorem dL_law_1436 : decode cL_law 1436 = .ok (.iload 4, 2) := dk_21 4 (dk_at dksL_law_53 19 rfl rfl)
theorem dL_law_1438 : decode cL_law 1438 = .ok (.iconst 1, 1) := dk_4 (dk_at dksL_law_53 21 rfl rfl)
theorem dL_law_1439 : decode cL_law 1439 = .ok (.iadd, 1) := dk_96 (dk_at dksL_law_53 22 rfl rfl)
theorem dL_law_1440 : decode cL_law 1440 = .ok (.iaload, 1) := dk_46 (dk_at dksL_law_53 23 rfl rfl)
theorem dL_law_1441 : decode cL_law 1441 = .ok (.aload_n 0, 1) := dk_42 (dk_at dksL_law_54 0 rfl rfl)
theorem dL_law_1442 : decode cL_law 1442 = .ok (.iload 4, 2) := dk_21 4 (dk_at dksL_law_54 1 rfl rfl)
theorem dL_law_1444 : decode cL_law 1444 = .ok (.iconst 2, 1) := dk_5 (dk_at dksL_law_54 3 rfl rfl)
theorem dL_law_1445 : decode cL_law 1445 = .ok (.iadd, 1) := dk_96 (dk_at dksL_law_54 4 rfl rfl)
theorem dL_law_1446 : decode cL_law 1446 = .ok (.iaload, 1) := dk_46 (dk_at dksL_law_54 5 rfl rfl)
theorem dL_law_1447 : decode cL_law 1447 = .ok (.aload_n 0, 1) := dk_42 (dk_at dksL_law_54 6 rfl rfl)
theorem dL_law_1448 : decode cL_law 1448 = .ok (.iload 4, 2) := dk_21 4 (dk_at dksL_law_54 7 rfl rfl)
theorem dL_law_1450 : decode cL_law 1450 = .ok (.iconst 3, 1) := dk_6 (dk_at dksL_law_54 9 rfl rfl)
theorem dL_law_1451 : decode cL_law 1451 = .ok (.iadd, 1) := dk_96 (dk_at dksL_law_54 10 rfl rfl)
theorem dL_law_1452 : decode cL_law 1452 = .ok (.iaload, 1) := dk_46 (dk_at dksL_law_54 11 rfl rfl)
theorem dL_law_1453 : decode cL_law 1453 = .ok (.invokevirtual 152, 3) := dk_182 0 152 (dk_at dksL_law_54 12 rfl rfl)
theorem dL_law_1456 : decode cL_law 1456 = .ok (.if_icmp .eq 490, 3) := dk_159 1 234 (dk_at dksL_law_54 15 rfl rfl)
theorem dL_law_1459 : decode cL_law 1459 = .ok (.iconst 0, 1) := dk_3 (dk_at dksL_law_54 18 rfl rfl)
theorem dL_law_1460 : decode cL_law 1460 = .ok (.ireturn, 1) := dk_172 (dk_at dksL_law_54 19 rfl rfl)
theorem dL_law_1461 : decode cL_law 1461 = .ok (.aload_n 1, 1) := dk_43 (dk_at dksL_law_54 20 rfl rfl)
theorem dL_law_1462 : decode cL_law 1462 = .ok (.invokevirtual 153, 3) := dk_182 0 153 (dk_at dksL_law_54 21 rfl rfl)
theorem dL_law_1465 : decode cL_law 1465 = .ok (.aload_n 2, 1) := dk_44 (dk_at dksL_law_55 0 rfl rfl)
theorem dL_law_1466 : decode cL_law 1466 = .ok (.invokevirtual 156, 3) := dk_182 0 156 (dk_at dksL_law_55 1 rfl rfl)
theorem dL_law_1469 : decode cL_law 1469 = .ok (.if_icmp .eq 477, 3) := dk_159 1 221 (dk_at dksL_law_55 4 rfl rfl)
theorem dL_law_1472 : decode cL_law 1472 = .ok (.iconst 0, 1) := dk_3 (dk_at dksL_law_55 7 rfl rfl)
theorem dL_law_1473 : decode cL_law 1473 = .ok (.ireturn, 1) := dk_172 (dk_at dksL_law_55 8 rfl rfl)
theorem dL_law_1474 : decode cL_law 1474 = .ok (.aload_n 1, 1) := dk_43 (dk_at dksL_law_55 9 rfl rfl)
theorem dL_law_1475 : decode cL_law 1475 = .ok (.aload_n 0, 1) := dk_42 (dk_at dksL_law_55 10 rfl rfl)
theorem dL_law_1476 : decode cL_law 1476 = .ok (.iload 4, 2) := dk_21 4 (dk_at dksL_law_55 11 rfl rfl)
theorem dL_law_1478 : decode cL_law 1478 = .ok (.iconst 1, 1) := dk_4 (dk_at dksL_law_55 13 rfl rfl)
theorem dL_law_1479 : decode cL_law 1479 = .ok (.iadd, 1) := dk_96 (dk_at dksL_law_55 14 rfl rfl)
theorem dL_law_1480 : decode cL_law 1480 = .ok (.iaload, 1) := dk_46 (dk_at dksL_law_55 15 rfl rfl)
theorem dL_law_1481 : decode cL_law 1481 = .ok (.invokevirtual 157, 3) := dk_182 0 157 (dk_at dksL_law_55 16 rfl rfl)
theorem dL_law_1484 : decode cL_law 1484 = .ok (.aload_n 2, 1) := dk_44 (dk_at dksL_law_55 19 rfl rfl)
theorem dL_law_1485 : decode cL_law 1485 = .ok (.aload_n 0, 1) := dk_42 (dk_at dksL_law_55 20 rfl rfl)
theorem dL_law_1486 : decode cL_law 1486 = .ok (.iload 4, 2) := dk_21 4 (dk_at dksL_law_55 21 rfl rfl)
theorem dL_law_1488 : decode cL_law 1488 = .ok (.iconst 1, 1) := dk_4 (dk_at dksL_law_55 23 rfl rfl)
theorem dL_law_1489 : decode cL_law 1489 = .ok (.iadd, 1) := dk_96 (dk_at dksL_law_56 0 rfl rfl)
theorem dL_law_1490 : decode cL_law 1490 = .ok (.iaload, 1) := dk_46 (dk_at dksL_law_56 1 rfl rfl)
theorem dL_law_1491 : decode cL_law 1491 = .ok (.invokevirtual 160, 3) := dk_182 0 160 (dk_at dksL_law_56 2 rfl rfl)
theorem dL_law_1494 : decode cL_law 1494 = .ok (.if_icmp .eq 452, 3) := dk_159 1 196 (dk_at dksL_law_56 5 rfl rfl)
theorem dL_law_1497 : decode cL_law 1497 = .ok (.iconst 0, 1) := dk_3 (dk_at dksL_law_56 8 rfl rfl)
theorem dL_law_1498 : decode cL_law 1498 = .ok (.ireturn, 1) := dk_172 (dk_at dksL_law_56 9 rfl rfl)
theorem dL_law_1499 : decode cL_law 1499 = .ok (.aload_n 1, 1) := dk_43 (dk_at dksL_law_56 10 rfl rfl)
theorem dL_law_1500 : decode cL_law 1500 = .ok (.aload_n 0, 1) := dk_42 (dk_at dksL_law_56 11 rfl rfl)
theorem dL_law_1501 : decode cL_law 1501 = .ok (.iload 4, 2) := dk_21 4 (dk_at dksL_law_56 12 rfl rfl)
theorem dL_law_1503 : decode cL_law 1503 = .ok (.iconst 1, 1) := dk_4 (dk_at dksL_law_56 14 rfl rfl)
theorem dL_law_1504 : decode cL_law 1504 = .ok (.iadd, 1) := dk_96 (dk_at dksL_law_56 15 rfl rfl)
theorem dL_law_1505 : decode cL_law 1505 = .ok (.iaload, 1) := dk_46 (dk_at dksL_law_56 16 rfl rfl)
theorem dL_law_1506 : decode cL_law 1506 = .ok (.aload_n 0, 1) := dk_42 (dk_at dksL_law_56 17 rfl rfl)
theorem dL_law_1507 : decode cL_law 1507 = .ok (.iload 4, 2) := dk_21 4 (dk_at dksL_law_56 18 rfl rfl)
theorem dL_law_1509 : decode cL_law 1509 = .ok (.iconst 2, 1) := dk_5 (dk_at dksL_law_56 20 rfl rfl)
theorem dL_law_1510 : decode cL_law 1510 = .ok (.iadd, 1) := dk_96 (dk_at dksL_law_56 21 rfl rfl)
theorem dL_law_1511 : decode cL_law 1511 = .ok (.iaload, 1) := dk_46 (dk_at dksL_law_56 22 rfl rfl)
theorem dL_law_1512 : decode cL_law 1512 = .ok (.invokevirtual 161, 3) := dk_182 0 161 (dk_at dksL_law_57 0 rfl rfl)
theorem dL_law_1515 : decode cL_law 1515 = .ok (.aload_n 2, 1) := dk_44 (dk_at dksL_law_57 3 rfl rfl)
theorem dL_law_1516 : decode cL_law 1516 = .ok (.aload_n 0, 1) := dk_42 (dk_at dksL_law_57 4 rfl rfl)
theorem dL_law_1517 : decode cL_law 1517 = .ok (.iload 4, 2) := dk_21 4 (dk_at dksL_law_57 5 rfl rfl)
theorem dL_law_1519 : decode cL_law 1519 = .ok (.iconst 1, 1) := dk_4 (dk_at dksL_law_57 7 rfl rfl)
theorem dL_law_1520 : decode cL_law 1520 = .ok (.iadd, 1) := dk_96 (dk_at dksL_law_57 8 rfl rfl)
theorem dL_law_1521 : decode cL_law 1521 = .ok (.iaload, 1) := dk_46 (dk_at dksL_law_57 9 rfl rfl)
theorem dL_law_1522 : decode cL_law 1522 = .ok (.aload_n 0, 1) := dk_42 (dk_at dksL_law_57 10 rfl rfl)
theorem dL_law_1523 : decode cL_law 1523 = .ok (.iload 4, 2) := dk_21 4 (dk_at dksL_law_57 11 rfl rfl)
theorem dL_law_1525 : decode cL_law 1525 = .ok (.iconst 2, 1) := dk_5 (dk_at dksL_law_57 13 rfl rfl)
theorem dL_law_1526 : decode cL_law 1526 = .ok (.iadd, 1) := dk_96 (dk_at dksL_law_57 14 rfl rfl)
theorem dL_law_1527 : decode cL_law 1527 = .ok (.iaload, 1) := dk_46 (dk_at dksL_law_57 15 rfl rfl)
theorem dL_law_1528 : decode cL_law 1528 = .ok (.invokevirtual 164, 3) := dk_182 0 164 (dk_at dksL_law_57 16 rfl rfl)
theorem dL_law_1531 : decode cL_law 1531 = .ok (.if_icmp .eq 415, 3) := dk_159 1 159 (dk_at dksL_law_57 19 rfl rfl)
theorem dL_law_1534 : decode cL_law 1534 = .ok (.iconst 0, 1) := dk_3 (dk_at dksL_law_57 22 rfl rfl)
theorem dL_law_1535 : decode cL_law 1535 = .ok (.ireturn, 1) := dk_172 (dk_at dksL_law_57 23 rfl rfl)
theorem dL_law_1536 : decode cL_law 1536 = .ok (.aload_n 1, 1) := dk_43 (dk_at dksL_law_58 0 rfl rfl)
theorem dL_law_1537 : decode cL_law 1537 = .ok (.aload_n 0, 1) := dk_42 (dk_at dksL_law_58 1 rfl rfl)
theorem dL_law_1538 : decode cL_law 1538 = .ok (.iload 4, 2) := dk_21 4 (dk_at dksL_law_58 2 rfl rfl)
theorem dL_law_1540 : decode cL_law 1540 = .ok (.iconst 1, 1) := dk_4 (dk_at dksL_law_58 4 rfl rfl)
theorem dL_law_1541 : decode cL_law 1541 = .ok (.iadd, 1) := dk_96 (dk_at dksL_law_58 5 rfl rfl)
theorem dL_law_1542 : decode cL_law 1542 = .ok (.iaload, 1) := dk_46 (dk_at dksL_law_58 6 rfl rfl)
theorem dL_law_1543 : decode cL_law 1543 = .ok (.aload_n 0, 1) := dk_42 (dk_at dksL_law_58 7 rfl rfl)
theorem dL_law_1544 : decode cL_law 1544 = .ok (.iload 4, 2) := dk_21 4 (dk_at dksL_law_58 8 rfl rfl)
theorem dL_law_1546 : decode cL_law 1546 = .ok (.iconst 2, 1) := dk_5 (dk_at dksL_law_58 10 rfl rfl)
theorem dL_law_1547 : decode cL_law 1547 = .ok (.iadd, 1) := dk_96 (dk_at dksL_law_58 11 rfl rfl)
theorem dL_law_1548 : decode cL_law 1548 = .ok (.iaload, 1) := dk_46 (dk_at dksL_law_58 12 rfl rfl)
theorem dL_law_1549 : decode cL_law 1549 = .ok (.invokevirtual 165, 3) := dk_182 0 165 (dk_at dksL_law_58 13 rfl rfl)
theorem dL_law_1552 : decode cL_law 1552 = .ok (.aload_n 2, 1) := dk_44 (dk_at dksL_law_58 16 rfl rfl)
theorem dL_law_1553 : decode cL_law 1553 = .ok (.aload_n 0, 1) := dk_42 (dk_at dksL_law_58 17 rfl rfl)
theorem dL_law_1554 : decode cL_law 1554 = .ok (.iload 4, 2) := dk_21 4 (dk_at dksL_law_58 18 rfl rfl)
theorem dL_law_1556 : decode cL_law 1556 = .ok (.iconst 1, 1) := dk_4 (dk_at dksL_law_58 20 rfl rfl)
theorem dL_law_1557 : decode cL_law 1557 = .ok (.iadd, 1) := dk_96 (dk_at dksL_law_58 21 rfl rfl)
theorem dL_law_1558 : decode cL_law 1558 = .ok (.iaload, 1) := dk_46 (dk_at dksL_law_58 22 rfl rfl)
theorem dL_law_1559 : decode cL_law 1559 = .ok (.aload_n 0, 1) := dk_42 (dk_at dksL_law_58 23 rfl rfl)
theorem dL_law_1560 : decode cL_law 1560 = .ok (.iload 4, 2) := dk_21 4 (dk_at dksL_law_59 0 rfl rfl)
theorem dL_law_1562 : decode cL_law 1562 = .ok (.iconst 2, 1) := dk_5 (dk_at dksL_law_59 2 rfl rfl)
theorem dL_law_1563 : decode cL_law 1563 = .ok (.iadd, 1) := dk_96 (dk_at dksL_law_59 3 rfl rfl)
theorem dL_law_1564 : decode cL_law 1564 = .ok (.iaload, 1) := dk_46 (dk_at dksL_law_59 4 rfl rfl)
theorem dL_law_1565 : decode cL_law 1565 = .ok (.invokevirtual 168, 3) := dk_182 0 168 (dk_at dksL_law_59 5 rfl rfl)
theorem dL_law_1568 : decode cL_law 1568 = .ok (.if_icmp .eq 378, 3) := dk_159 1 122 (dk_at dksL_law_59 8 rfl rfl)
theorem dL_law_1571 : decode cL_law 1571 = .ok (.iconst 0, 1) := dk_3 (dk_at dksL_law_59 11 rfl rfl)
theorem dL_law_1572 : decode cL_law 1572 = .ok (.ireturn, 1) := dk_172 (dk_at dksL_law_59 12 rfl rfl)
theorem dL_law_1573 : decode cL_law 1573 = .ok (.aload_n 1, 1) := dk_43 (dk_at dksL_law_59 13 rfl rfl)
theorem dL_law_1574 : decode cL_law 1574 = .ok (.aload_n 0, 1) := dk_42 (dk_at dksL_law_59 14 rfl rfl)
theorem dL_law_1575 : decode cL_law 1575 = .ok (.iload 4, 2) := dk_21 4 (dk_at dksL_law_59 15 rfl rfl)
theorem dL_law_1577 : decode cL_law 1577 = .ok (.iconst 1, 1) := dk_4 (dk_at dksL_law_59 17 rfl rfl)
theorem dL_law_1578 : decode cL_law 1578 = .ok (.iadd, 1) := dk_96 (dk_at dksL_law_59 18 rfl rfl)
theorem dL_law_1579 : decode cL_law 1579 = .ok (.iaload, 1) := dk_46 (dk_at dksL_law_59 19 rfl rfl)
theorem dL_law_1580 : decode cL_law 1580 = .ok (.aload_n 0, 1) := dk_42 (dk_at dksL_law_59 20 rfl rfl)
theorem dL_law_1581 : decode cL_law 1581 = .ok (.iload 4, 2) := dk_21 4 (dk_at dksL_law_59 21 rfl rfl)
theorem dL_law_1583 : decode cL_law 1583 = .ok (.iconst 2, 1) := dk_5 (dk_at dksL_law_59 23 rfl rfl)
theorem dL_law_1584 : decode cL_law 1584 = .ok (.iadd, 1) := dk_96 (dk_at dksL_law_60 0 rfl rfl)
theorem dL_law_1585 : decode cL_law 1585 = .ok (.iaload, 1) := dk_46 (dk_at dksL_law_60 1 rfl rfl)
theorem dL_law_1586 : decode cL_law 1586 = .ok (.aload_n 0, 1) := dk_42 (dk_at dksL_law_60 2 rfl rfl)
theorem dL_law_1587 : decode cL_law 1587 = .ok (.iload 4, 2) := dk_21 4 (dk_at dksL_law_60 3 rfl rfl)
theorem dL_law_1589 : decode cL_law 1589 = .ok (.iconst 3, 1) := dk_6 (dk_at dksL_law_60 5 rfl rfl)
theorem dL_law_1590 : decode cL_law 1590 = .ok (.iadd, 1) := dk_96 (dk_at dksL_law_60 6 rfl rfl)
theorem dL_law_1591 : decode cL_law 1591 = .ok (.iaload, 1) := dk_46 (dk_at dksL_law_60 7 rfl rfl)
theorem dL_law_1592 : decode cL_law 1592 = .ok (.invokevirtual 169, 3) := dk_182 0 169 (dk_at dksL_law_60 8 rfl rfl)
theorem dL_law_1595 : decode cL_law 1595 = .ok (.aload_n 2, 1) := dk_44 (dk_at dksL_law_60 11 rfl rfl)
theorem dL_law_1596 : decode cL_law 1596 = .ok (.aload_n 0, 1) := dk_42 (dk_at dksL_law_60 12 rfl rfl)
theorem dL_law_1597 : decode cL_law 1597 = .ok (.iload 4, 2) := dk_21 4 (dk_at dksL_law_60 13 rfl rfl)
theorem dL_law_1599 : decode cL_law 1599 = .ok (.iconst 1, 1) := dk_4 (dk_at dksL_law_60 15 rfl rfl)
theorem dL_law_1600 : decode cL_law 1600 = .ok (.iadd, 1) := dk_96 (dk_at dksL_law_60 16 rfl rfl)
theorem dL_law_1601 : decode cL_law 1601 = .ok (.iaload, 1) := dk_46 (dk_at dksL_law_60 17 rfl rfl)
theorem dL_law_1602 : decode cL_law 1602 = .ok (.aload_n 0, 1) := dk_42 (dk_at dksL_law_60 18 rfl rfl)
theorem dL_law_1603 : decode cL_law 1603 = .ok (.iload 4, 2) := dk_21 4 (dk_at dksL_law_60 19 rfl rfl)
theorem dL_law_1605 : decode cL_law 1605 = .ok (.iconst 2, 1) := dk_5 (dk_at dksL_law_60 21 rfl rfl)
theorem dL_law_1606 : decode cL_law 1606 = .ok (.iadd, 1) := dk_96 (dk_at dksL_law_60 22 rfl rfl)
theorem dL_law_1607 : decode cL_law 1607 = .ok (.iaload, 1) := dk_46 (dk_at dksL_law_60 23 rfl rfl)
theorem dL_law_1608 : decode cL_law 1608 = .ok (.aload_n 0, 1) := dk_42 (dk_at dksL_law_61 0 rfl rfl)
theorem dL_law_1609 : decode cL_law 1609 = .ok (.iload 4, 2) := dk_21 4 (dk_at dksL_law_61 1 rfl rfl)
theorem dL_law_1611 : decode cL_law 1611 = .ok (.iconst 3, 1) := dk_6 (dk_at dksL_law_61 3 rfl rfl)
theorem dL_law_1612 : decode cL_law 1612 = .ok (.iadd, 1) := dk_96 (dk_at dksL_law_61 4 rfl rfl)
theorem dL_law_1613 : decode cL_law 1613 = .ok (.iaload, 1) := dk_46 (dk_at dksL_law_61 5 rfl rfl)
theorem dL_law_1614 : decode cL_law 1614 = .ok (.invokevirtual 172, 3) := dk_182 0 172 (dk_at dksL_law_61 6 rfl rfl)
theorem dL_law_1617 : decode cL_law 1617 = .ok (.if_icmp .eq 329, 3) := dk_159 1 73 (dk_at dksL_law_61 9 rfl rfl)
theorem dL_law_1620 : decode cL_law 1620 = .ok (.iconst 0, 1) := dk_3 (dk_at dksL_law_61 12 rfl rfl)
theorem dL_law_1621 : decode cL_law 1621 = .ok (.ireturn, 1) := dk_172 (dk_at dksL_law_61 13 rfl rfl)
theorem dL_law_1622 : decode cL_law 1622 = .ok (.aload_n 1, 1) := dk_43 (dk_at dksL_law_61 14 rfl rfl)
theorem dL_law_1623 : decode cL_law 1623 = .ok (.aload_n 0, 1) := dk_42 (dk_at dksL_law_61 15 rfl rfl)
theorem dL_law_1624 : decode cL_law 1624 = .ok (.iload 4, 2) := dk_21 4 (dk_at dksL_law_61 16 rfl rfl)
theorem dL_law_1626 : decode cL_law 1626 = .ok (.iconst 1, 1) := dk_4 (dk_at dksL_law_61 18 rfl rfl)
theorem dL_law_1627 : decode cL_law 1627 = .ok (.iadd, 1) := dk_96 (dk_at dksL_law_61 19 rfl rfl)
theorem dL_law_1628 : decode cL_law 1628 = .ok (.iaload, 1) := dk_46 (dk_at dksL_law_61 20 rfl rfl)
theorem dL_law_1629 : decode cL_law 1629 = .ok (.aload_n 0, 1) := dk_42 (dk_at dksL_law_61 21 rfl rfl)
theorem dL_law_1630 : decode cL_law 1630 = .ok (.iload 4, 2) := dk_21 4 (dk_at dksL_law_61 22 rfl rfl)
theorem dL_law_1632 : decode cL_law 1632 = .ok (.iconst 2, 1) := dk_5 (dk_at dksL_law_62 0 rfl rfl)
theorem dL_law_1633 : decode cL_law 1633 = .ok (.iadd, 1) := dk_96 (dk_at dksL_law_62 1 rfl rfl)
theorem dL_law_1634 : decode cL_law 1634 = .ok (.iaload, 1) := dk_46 (dk_at dksL_law_62 2 rfl rfl)
theorem dL_law_1635 : decode cL_law 1635 = .ok (.invokevirtual 173, 3) := dk_182 0 173 (dk_at dksL_law_62 3 rfl rfl)
theorem dL_law_1638 : decode cL_law 1638 = .ok (.aload_n 2, 1) := dk_44 (dk_at dksL_law_62 6 rfl rfl)
theorem dL_law_1639 : decode cL_law 1639 = .ok (.aload_n 0, 1) := dk_42 (dk_at dksL_law_62 7 rfl rfl)
theorem dL_law_1640 : decode cL_law 1640 = .ok (.iload 4, 2) := dk_21 4 (dk_at dksL_law_62 8 rfl rfl)
theorem dL_law_1642 : decode cL_law 1642 = .ok (.iconst 1, 1) := dk_4 (dk_at dksL_law_62 10 rfl rfl)
theorem dL_law_1643 : decode cL_law 1643 = .ok (.iadd, 1) := dk_96 (dk_at dksL_law_62 11 rfl rfl)
theorem dL_law_1644 : decode cL_law 1644 = .ok (.iaload, 1) := dk_46 (dk_at dksL_law_62 12 rfl rfl)
theorem dL_law_1645 : decode cL_law 1645 = .ok (.aload_n 0, 1) := dk_42 (dk_at dksL_law_62 13 rfl rfl)
theorem dL_law_1646 : decode cL_law 1646 = .ok (.iload 4, 2) := dk_21 4 (dk_at dksL_law_62 14 rfl rfl)
theorem dL_law_1648 : decode cL_law 1648 = .ok (.iconst 2, 1) := dk_5 (dk_at dksL_law_62 16 rfl rfl)
theorem dL_law_1649 : decode cL_law 1649 = .ok (.iadd, 1) := dk_96 (dk_at dksL_law_62 17 rfl rfl)
theorem dL_law_1650 : decode cL_law 1650 = .ok (.iaload, 1) := dk_46 (dk_at dksL_law_62 18 rfl rfl)
theorem dL_law_1651 : decode cL_law 1651 = .ok (.invokevirtual 176, 3) := dk_182 0 176 (dk_at dksL_law_62 19 rfl rfl)
theorem dL_law_1654 : decode cL_law 1654 = .ok (.if_icmp .eq 292, 3) := dk_159 1 36 (dk_at dksL_law_63 0 rfl rfl)
theorem dL_law_1657 : decode cL_law 1657 = .ok (.iconst 0, 1) := dk_3 (dk_at dksL_law_63 3 rfl rfl)
theorem dL_law_1658 : decode cL_law 1658 = .ok (.ireturn, 1) := dk_172 (dk_at dksL_law_63 4 rfl rfl)
theorem dL_law_1659 : decode cL_law 1659 = .ok (.aload_n 1, 1) := dk_43 (dk_at dksL_law_63 5 rfl rfl)
theorem dL_law_1660 : decode cL_law 1660 = .ok (.aload_n 0, 1) := dk_42 (dk_at dksL_law_63 6 rfl rfl)
theorem dL_law_1661 : decode cL_law 1661 = .ok (.iload 4, 2) := dk_21 4 (dk_at dksL_law_63 7 rfl rfl)
theorem dL_law_1663 : decode cL_law 1663 = .ok (.iconst 1, 1) := dk_4 (dk_at dksL_law_63 9 rfl rfl)
theorem dL_law_1664 : decode cL_law 1664 = .ok (.iadd, 1) := dk_96 (dk_at dksL_law_63 10 rfl rfl)
theorem dL_law_1665 : decode cL_law 1665 = .ok (.iaload, 1) := dk_46 (dk_at dksL_law_63 11 rfl rfl)
theorem dL_law_1666 : decode cL_law 1666 = .ok (.aload_n 0, 1) := dk_42 (dk_at dksL_law_63 12 rfl rfl)
theorem dL_law_1667 : decode cL_law 1667 = .ok (.iload 4, 2) := dk_21 4 (dk_at dksL_law_63 13 rfl rfl)
theorem dL_law_1669 : decode cL_law 1669 = .ok (.iconst 2, 1) := dk_5 (dk_at dksL_law_63 15 rfl rfl)
theorem dL_law_1670 : decode cL_law 1670 = .ok (.iadd, 1) := dk_96 (dk_at dksL_law_63 16 rfl rfl)
theorem dL_law_1671 : decode cL_law 1671 = .ok (.iaload, 1) := dk_46 (dk_at dksL_law_63 17 rfl rfl)
theorem dL_law_1672 : decode cL_law 1672 = .ok (.invokevirtual 177, 3) := dk_182 0 177 (dk_at dksL_law_63 18 rfl rfl)
theorem dL_law_1675 : decode cL_law 1675 = .ok (.aload_n 2, 1) := dk_44 (dk_at dksL_law_63 21 rfl rfl)
theorem dL_law_1676 : decode cL_law 1676 = .ok (.aload_n 0, 1) := dk_42 (dk_at dksL_law_63 22 rfl rfl)
theorem dL_law_1677 : decode cL_law 1677 = .ok (.iload 4, 2) := dk_21 4 (dk_at dksL_law_64 0 rfl rfl)
theorem dL_law_1679 : decode cL_law 1679 = .ok (.iconst 1, 1) := dk_4 (dk_at dksL_law_64 2 rfl rfl)
theorem dL_law_1680 : decode cL_law 1680 = .ok (.iadd, 1) := dk_96 (dk_at dksL_law_64 3 rfl rfl)
theorem dL_law_1681 : decode cL_law 1681 = .ok (.iaload, 1) := dk_46 (dk_at dksL_law_64 4 rfl rfl)
theorem dL_law_1682 : decode cL_law 1682 = .ok (.aload_n 0, 1) := dk_42 (dk_at dksL_law_64 5 rfl rfl)
theorem dL_law_1683 : decode cL_law 1683 = .ok (.iload 4, 2) := dk_21 4 (dk_at dksL_law_64 6 rfl rfl)
theorem dL_law_1685 : decode cL_law 1685 = .ok (.iconst 2, 1) := dk_5 (dk_at dksL_law_64 8 rfl rfl)
theorem dL_law_1686 : decode cL_law 1686 = .ok (.iadd, 1) := dk_96 (dk_at dksL_law_64 9 rfl rfl)
theorem dL_law_1687 : decode cL_law 1687 = .ok (.iaload, 1) := dk_46 (dk_at dksL_law_64 10 rfl rfl)
theorem dL_law_1688 : decode cL_law 1688 = .ok (.invokevirtual 180, 3) := dk_182 0 180 (dk_at dksL_law_64 11 rfl rfl)
theorem dL_law_1691 : decode cL_law 1691 = .ok (.if_icmp .eq 255, 3) := dk_159 0 255 (dk_at dksL_law_64 14 rfl rfl)
theorem dL_law_1694 : decode cL_law 1694 = .ok (.iconst 0, 1) := dk_3 (dk_at dksL_law_64 17 rfl rfl)
theorem dL_law_1695 : decode cL_law 1695 = .ok (.ireturn, 1) := dk_172 (dk_at dksL_law_64 18 rfl rfl)
theorem dL_law_1696 : decode cL_law 1696 = .ok (.aload_n 1, 1) := dk_43 (dk_at dksL_law_64 19 rfl rfl)
theorem dL_law_1697 : decode cL_law 1697 = .ok (.aload_n 0, 1) := dk_42 (dk_at dksL_law_64 20 rfl rfl)
theorem dL_law_1698 : decode cL_law 1698 = .ok (.iload 4, 2) := dk_21 4 (dk_at dksL_law_64 21 rfl rfl)
theorem dL_law_1700 : decode cL_law 1700 = .ok (.iconst 1, 1) := dk_4 (dk_at dksL_law_64 23 rfl rfl)
theorem dL_law_1701 : decode cL_law 1701 = .ok (.iadd, 1) := dk_96 (dk_at dksL_law_65 0 rfl rfl)
theorem dL_law_1702 : decode cL_law 1702 = .ok (.iaload, 1) := dk_46 (dk_at dksL_law_65 1 rfl rfl)
theorem dL_law_1703 : decode cL_law 1703 = .ok (.aload_n 0, 1) := dk_42 (dk_at dksL_law_65 2 rfl rfl)
theorem dL_law_1704 : decode cL_law 1704 = .ok (.iload 4, 2) := dk_21 4 (dk_at dksL_law_65 3 rfl rfl)
theorem dL_law_1706 : decode cL_law 1706 = .ok (.iconst 2, 1) := dk_5 (dk_at dksL_law_65 5 rfl rfl)
theorem dL_law_1707 : decode cL_law 1707 = .ok (.iadd, 1) := dk_96 (dk_at dksL_law_65 6 rfl rfl)
theorem dL_law_1708 : decode cL_law 1708 = .ok (.iaload, 1) := dk_46 (dk_at dksL_law_65 7 rfl rfl)
theorem dL_law_1709 : decode cL_law 1709 = .ok (.invokevirtual 181, 3) := dk_182 0 181 (dk_at dksL_law_65 8 rfl rfl)
theorem dL_law_1712 : decode cL_law 1712 = .ok (.aload_n 2, 1) := dk_44 (dk_at dksL_law_65 11 rfl rfl)
theorem dL_law_1713 : decode cL_law 1713 = .ok (.aload_n 0, 1) := dk_42 (dk_at dksL_law_65 12 rfl rfl)
theorem dL_law_1714 : decode cL_law 1714 = .ok (.iload 4, 2) := dk_21 4 (dk_at dksL_law_65 13 rfl rfl)
theorem dL_law_1716 : decode cL_law 1716 = .ok (.iconst 1, 1) := dk_4 (dk_at dksL_law_65 15 rfl rfl)
theorem dL_law_1717 : decode cL_law 1717 = .ok (.iadd, 1) := dk_96 (dk_at dksL_law_65 16 rfl rfl)
theorem dL_law_1718 : decode cL_law 1718 = .ok (.iaload, 1) := dk_46 (dk_at dksL_law_65 17 rfl rfl)
theorem dL_law_1719 : decode cL_law 1719 = .ok (.aload_n 0, 1) := dk_42 (dk_at dksL_law_65 18 rfl rfl)
theorem dL_law_1720 : decode cL_law 1720 = .ok (.iload 4, 2) := dk_21 4 (dk_at dksL_law_65 19 rfl rfl)
theorem dL_law_1722 : decode cL_law 1722 = .ok (.iconst 2, 1) := dk_5 (dk_at dksL_law_65 21 rfl rfl)
theorem dL_law_1723 : decode cL_law 1723 = .ok (.iadd, 1) := dk_96 (dk_at dksL_law_65 22 rfl rfl)
theorem dL_law_1724 : decode cL_law 1724 = .ok (.iaload, 1) := dk_46 (dk_at dksL_law_65 23 rfl rfl)
theorem dL_law_1725 : decode cL_law 1725 = .ok (.invokevirtual 184, 3) := dk_182 0 184 (dk_at dksL_law_66 0 rfl rfl)
theorem dL_law_1728 : decode cL_law 1728 = .ok (.if_icmp .eq 218, 3) := dk_159 0 218 (dk_at dksL_law_66 3 rfl rfl)
theorem dL_law_1731 : decode cL_law 1731 = .ok (.iconst 0, 1) := dk_3 (dk_at dksL_law_66 6 rfl rfl)
theorem dL_law_1732 : decode cL_law 1732 = .ok (.ireturn, 1) := dk_172 (dk_at dksL_law_66 7 rfl rfl)
theorem dL_law_1733 : decode cL_law 1733 = .ok (.aload_n 1, 1) := dk_43 (dk_at dksL_law_66 8 rfl rfl)
theorem dL_law_1734 : decode cL_law 1734 = .ok (.invokevirtual 185, 3) := dk_182 0 185 (dk_at dksL_law_66 9 rfl rfl)
theorem dL_law_1737 : decode cL_law 1737 = .ok (.aload_n 2, 1) := dk_44 (dk_at dksL_law_66 12 rfl rfl)
theorem dL_law_1738 : decode cL_law 1738 = .ok (.invokevirtual 188, 3) := dk_182 0 188 (dk_at dksL_law_66 13 rfl rfl)
theorem dL_law_1741 : decode cL_law 1741 = .ok (.if_icmp .eq 205, 3) := dk_159 0 205 (dk_at dksL_law_66 16 rfl rfl)
theorem dL_law_1744 : decode cL_law 1744 = .ok (.iconst 0, 1) := dk_3 (dk_at dksL_law_66 19 rfl rfl)
theorem dL_law_1745 : decode cL_law 1745 = .ok (.ireturn, 1) := dk_172 (dk_at dksL_law_66 20 rfl rfl)
theorem dL_law_1746 : decode cL_law 1746 = .ok (.aload_n 1, 1) := dk_43 (dk_at dksL_law_66 21 rfl rfl)
theorem dL_law_1747 : decode cL_law 1747 = .ok (.aload_n 0, 1) := dk_42 (dk_at dksL_law_66 22 rfl rfl)
theorem dL_law_1748 : decode cL_law 1748 = .ok (.iload 4, 2) := dk_21 4 (dk_at dksL_law_67 0 rfl rfl)
theorem dL_law_1750 : decode cL_law 1750 = .ok (.iconst 1, 1) := dk_4 (dk_at dksL_law_67 2 rfl rfl)
theorem dL_law_1751 : decode cL_law 1751 = .ok (.iadd, 1) := dk_96 (dk_at dksL_law_67 3 rfl rfl)
theorem dL_law_1752 : decode cL_law 1752 = .ok (.iaload, 1) := dk_46 (dk_at dksL_law_67 4 rfl rfl)
theorem dL_law_1753 : decode cL_law 1753 = .ok (.aload_n 0, 1) := dk_42 (dk_at dksL_law_67 5 rfl rfl)
theorem dL_law_1754 : decode cL_law 1754 = .ok (.iload 4, 2) := dk_21 4 (dk_at dksL_law_67 6 rfl rfl)
theorem dL_law_1756 : decode cL_law 1756 = .ok (.iconst 2, 1) := dk_5 (dk_at dksL_law_67 8 rfl rfl)
theorem dL_law_1757 : decode cL_law 1757 = .ok (.iadd, 1) := dk_96 (dk_at dksL_law_67 9 rfl rfl)
theorem dL_law_1758 : decode cL_law 1758 = .ok (.iaload, 1) := dk_46 (dk_at dksL_law_67 10 rfl rfl)
theorem dL_law_1759 : decode cL_law 1759 = .ok (.invokevirtual 189, 3) := dk_182 0 189 (dk_at dksL_law_67 11 rfl rfl)
theorem dL_law_1762 : decode cL_law 1762 = .ok (.aload_n 2, 1) := dk_44 (dk_at dksL_law_67 14 rfl rfl)
theorem dL_law_1763 : decode cL_law 1763 = .ok (.aload_n 0, 1) := dk_42 (dk_at dksL_law_67 15 rfl rfl)
theorem dL_law_1764 : decode cL_law 1764 = .ok (.iload 4, 2) := dk_21 4 (dk_at dksL_law_67 16 rfl rfl)
theorem dL_law_1766 : decode cL_law 1766 = .ok (.iconst 1, 1) := dk_4 (dk_at dksL_law_67 18 rfl rfl)
theorem dL_law_1767 : decode cL_law 1767 = .ok (.iadd, 1) := dk_96 (dk_at dksL_law_67 19 rfl rfl)
theorem dL_law_1768 : decode cL_law 1768 = .ok (.iaload, 1) := dk_46 (dk_at dksL_law_67 20 rfl rfl)
theorem dL_law_1769 : decode cL_law 1769 = .ok (.aload_n 0, 1) := dk_42 (dk_at dksL_law_67 21 rfl rfl)
theorem dL_law_1770 : decode cL_law 1770 = .ok (.iload 4, 2) := dk_21 4 (dk_at dksL_law_67 22 rfl rfl)
theorem dL_law_1772 : decode cL_law 1772 = .ok (.iconst 2, 1) := dk_5 (dk_at dksL_law_68 0 rfl rfl)
theorem dL_law_1773 : decode cL_law 1773 = .ok (.iadd, 1) := dk_96 (dk_at dksL_law_68 1 rfl rfl)
theorem dL_law_1774 : decode cL_law 1774 = .ok (.iaload, 1) := dk_46 (dk_at dksL_law_68 2 rfl rfl)
theorem dL_law_1775 : decode cL_law 1775 = .ok (.invokevirtual 192, 3) := dk_182 0 192 (dk_at dksL_law_68 3 rfl rfl)
theorem dL_law_1778 : decode cL_law 1778 = .ok (.if_icmp .eq 168, 3) := dk_159 0 168 (dk_at dksL_law_68 6 rfl rfl)
theorem dL_law_1781 : decode cL_law 1781 = .ok (.iconst 0, 1) := dk_3 (dk_at dksL_law_68 9 rfl rfl)
theorem dL_law_1782 : decode cL_law 1782 = .ok (.ireturn, 1) := dk_172 (dk_at dksL_law_68 10 rfl rfl)
theorem dL_law_1783 : decode cL_law 1783 = .ok (.aload_n 1, 1) := dk_43 (dk_at dksL_law_68 11 rfl rfl)
theorem dL_law_1784 : decode cL_law 1784 = .ok (.aload_n 0, 1) := dk_42 (dk_at dksL_law_68 12 rfl rfl)
theorem dL_law_1785 : decode cL_law 1785 = .ok (.iload 4, 2) := dk_21 4 (dk_at dksL_law_68 13 rfl rfl)
theorem dL_law_1787 : decode cL_law 1787 = .ok (.iconst 1, 1) := dk_4 (dk_at dksL_law_68 15 rfl rfl)
theorem dL_law_1788 : decode cL_law 1788 = .ok (.iadd, 1) := dk_96 (dk_at dksL_law_68 16 rfl rfl)
theorem dL_law_1789 : decode cL_law 1789 = .ok (.iaload, 1) := dk_46 (dk_at dksL_law_68 17 rfl rfl)
theorem dL_law_1790 : decode cL_law 1790 = .ok (.invokevirtual 193, 3) := dk_182 0 193 (dk_at dksL_law_68 18 rfl rfl)
theorem dL_law_1793 : decode cL_law 1793 = .ok (.aload_n 2, 1) := dk_44 (dk_at dksL_law_68 21 rfl rfl)
theorem dL_law_1794 : decode cL_law 1794 = .ok (.aload_n 0, 1) := dk_42 (dk_at dksL_law_68 22 rfl rfl)
theorem dL_law_1795 : decode cL_law 1795 = .ok (.iload 4, 2) := dk_21 4 (dk_at dksL_law_69 0 rfl rfl)
theorem dL_law_1797 : decode cL_law 1797 = .ok (.iconst 1, 1) := dk_4 (dk_at dksL_law_69 2 rfl rfl)
theorem dL_law_1798 : decode cL_law 1798 = .ok (.iadd, 1) := dk_96 (dk_at dksL_law_69 3 rfl rfl)
theorem dL_law_1799 : decode cL_law 1799 = .ok (.iaload, 1) := dk_46 (dk_at dksL_law_69 4 rfl rfl)
theorem dL_law_1800 : decode cL_law 1800 = .ok (.invokevirtual 196, 3) := dk_182 0 196 (dk_at dksL_law_69 5 rfl rfl)
theorem dL_law_1803 : decode cL_law 1803 = .ok (.if_icmp .eq 143, 3) := dk_159 0 143 (dk_at dksL_law_69 8 rfl rfl)
theorem dL_law_1806 : decode cL_law 1806 = .ok (.iconst 0, 1) := dk_3 (dk_at dksL_law_69 11 rfl rfl)
theorem dL_law_1807 : decode cL_law 1807 = .ok (.ireturn, 1) := dk_172 (dk_at dksL_law_69 12 rfl rfl)
theorem dL_law_1808 : decode cL_law 1808 = .ok (.aload_n 1, 1) := dk_43 (dk_at dksL_law_69 13 rfl rfl)
theorem dL_law_1809 : decode cL_law 1809 = .ok (.aload_n 0, 1) := dk_42 (dk_at dksL_law_69 14 rfl rfl)
theorem dL_law_1810 : decode cL_law 1810 = .ok (.iload 4, 2) := dk_21 4 (dk_at dksL_law_69 15 rfl rfl)
theorem dL_law_1812 : decode cL_law 1812 = .ok (.iconst 1, 1) := dk_4 (dk_at dksL_law_69 17 rfl rfl)
theorem dL_law_1813 : decode cL_law 1813 = .ok (.iadd, 1) := dk_96 (dk_at dksL_law_69 18 rfl rfl)
theorem dL_law_1814 : decode cL_law 1814 = .ok (.iaload, 1) := dk_46 (dk_at dksL_law_69 19 rfl rfl)
theorem dL_law_1815 : decode cL_law 1815 = .ok (.invokevirtual 197, 3) := dk_182 0 197 (dk_at dksL_law_69 20 rfl rfl)
theorem dL_law_1818 : decode cL_law 1818 = .ok (.aload_n 2, 1) := dk_44 (dk_at dksL_law_69 23 rfl rfl)
theorem dL_law_1819 : decode cL_law 1819 = .ok (.aload_n 0, 1) := dk_42 (dk_at dksL_law_70 0 rfl rfl)
theorem dL_law_1820 : decode cL_law 1820 = .ok (.iload 4, 2) := dk_21 4 (dk_at dksL_law_70 1 rfl rfl)
theorem dL_law_1822 : decode cL_law 1822 = .ok (.iconst 1, 1) := dk_4 (dk_at dksL_law_70 3 rfl rfl)
theorem dL_law_1823 : decode cL_law 1823 = .ok (.iadd, 1) := dk_96 (dk_at dksL_law_70 4 rfl rfl)
theorem dL_law_1824 : decode cL_law 1824 = .ok (.iaload, 1) := dk_46 (dk_at dksL_law_70 5 rfl rfl)
theorem dL_law_1825 : decode cL_law 1825 = .ok (.invokevirtual 200, 3) := dk_182 0 200 (dk_at dksL_law_70 6 rfl rfl)
theorem dL_law_1828 : decode cL_law 1828 = .ok (.if_icmp .eq 118, 3) := dk_159 0 118 (dk_at dksL_law_70 9 rfl rfl)
theorem dL_law_1831 : decode cL_law 1831 = .ok (.iconst 0, 1) := dk_3 (dk_at dksL_law_70 12 rfl rfl)
theorem dL_law_1832 : decode cL_law 1832 = .ok (.ireturn, 1) := dk_172 (dk_at dksL_law_70 13 rfl rfl)
theorem dL_law_1833 : decode cL_law 1833 = .ok (.aload_n 1, 1) := dk_43 (dk_at dksL_law_70 14 rfl rfl)
theorem dL_law_1834 : decode cL_law 1834 = .ok (.invokevirtual 201, 3) := dk_182 0 201 (dk_at dksL_law_70 15 rfl rfl)
theorem dL_law_1837 : decode cL_law 1837 = .ok (.aload_n 2, 1) := dk_44 (dk_at dksL_law_70 18 rfl rfl)
theorem dL_law_1838 : decode cL_law 1838 = .ok (.invokevirtual 204, 3) := dk_182 0 204 (dk_at dksL_law_70 19 rfl rfl)
theorem dL_law_1841 : decode cL_law 1841 = .ok (.if_icmp .eq 105, 3) := dk_159 0 105 (dk_at dksL_law_71 0 rfl rfl)
theorem dL_law_1844 : decode cL_law 1844 = .ok (.iconst 0, 1) := dk_3 (dk_at dksL_law_71 3 rfl rfl)
theorem dL_law_1845 : decode cL_law 1845 = .ok (.ireturn, 1) := dk_172 (dk_at dksL_law_71 4 rfl rfl)
theorem dL_law_1846 : decode cL_law 1846 = .ok (.aload_n 1, 1) := dk_43 (dk_at dksL_law_71 5 rfl rfl)
theorem dL_law_1847 : decode cL_law 1847 = .ok (.aload_n 0, 1) := dk_42 (dk_at dksL_law_71 6 rfl rfl)
theorem dL_law_1848 : decode cL_law 1848 = .ok (.iload 4, 2) := dk_21 4 (dk_at dksL_law_71 7 rfl rfl)
theorem dL_law_1850 : decode cL_law 1850 = .ok (.iconst 1, 1) := dk_4 (dk_at dksL_law_71 9 rfl rfl)
theorem dL_law_1851 : decode cL_law 1851 = .ok (.iadd, 1) := dk_96 (dk_at dksL_law_71 10 rfl rfl)
theorem dL_law_1852 : decode cL_law 1852 = .ok (.iaload, 1) := dk_46 (dk_at dksL_law_71 11 rfl rfl)
theorem dL_law_1853 : decode cL_law 1853 = .ok (.invokevirtual 205, 3) := dk_182 0 205 (dk_at dksL_law_71 12 rfl rfl)
theorem dL_law_1856 : decode cL_law 1856 = .ok (.aload_n 2, 1) := dk_44 (dk_at dksL_law_71 15 rfl rfl)
theorem dL_law_1857 : decode cL_law 1857 = .ok (.aload_n 0, 1) := dk_42 (dk_at dksL_law_71 16 rfl rfl)
theorem dL_law_1858 : decode cL_law 1858 = .ok (.iload 4, 2) := dk_21 4 (dk_at dksL_law_71 17 rfl rfl)
theorem dL_law_1860 : decode cL_law 1860 = .ok (.iconst 1, 1) := dk_4 (dk_at dksL_law_71 19 rfl rfl)
theorem dL_law_1861 : decode cL_law 1861 = .ok (.iadd, 1) := dk_96 (dk_at dksL_law_71 20 rfl rfl)
theorem dL_law_1862 : decode cL_law 1862 = .ok (.iaload, 1) := dk_46 (dk_at dksL_law_71 21 rfl rfl)
theorem dL_law_1863 : decode cL_law 1863 = .ok (.invokevirtual 208, 3) := dk_182 0 208 (dk_at dksL_law_72 0 rfl rfl)
theorem dL_law_1866 : decode cL_law 1866 = .ok (.if_icmp .eq 80, 3) := dk_159 0 80 (dk_at dksL_law_72 3 rfl rfl)
theorem dL_law_1869 : decode cL_law 1869 = .ok (.iconst 0, 1) := dk_3 (dk_at dksL_law_72 6 rfl rfl)
theorem dL_law_1870 : decode cL_law 1870 = .ok (.ireturn, 1) := dk_172 (dk_at dksL_law_72 7 rfl rfl)
theorem dL_law_1871 : decode cL_law 1871 = .ok (.aload_n 1, 1) := dk_43 (dk_at dksL_law_72 8 rfl rfl)
theorem dL_law_1872 : decode cL_law 1872 = .ok (.aload_n 0, 1) := dk_42 (dk_at dksL_law_72 9 rfl rfl)
theorem dL_law_1873 : decode cL_law 1873 = .ok (.iload 4, 2) := dk_21 4 (dk_at dksL_law_72 10 rfl rfl)
theorem dL_law_1875 : decode cL_law 1875 = .ok (.iconst 1, 1) := dk_4 (dk_at dksL_law_72 12 rfl rfl)
theorem dL_law_1876 : decode cL_law 1876 = .ok (.iadd, 1) := dk_96 (dk_at dksL_law_72 13 rfl rfl)
theorem dL_law_1877 : decode cL_law 1877 = .ok (.iaload, 1) := dk_46 (dk_at dksL_law_72 14 rfl rfl)
theorem dL_law_1878 : decode cL_law 1878 = .ok (.invokevirtual 209, 3) := dk_182 0 209 (dk_at dksL_law_72 15 rfl rfl)
theorem dL_law_1881 : decode cL_law 1881 = .ok (.aload_n 2, 1) := dk_44 (dk_at dksL_law_72 18 rfl rfl)
theorem dL_law_1882 : decode cL_law 1882 = .ok (.aload_n 0, 1) := dk_42 (dk_at dksL_law_72 19 rfl rfl)
theorem dL_law_1883 : decode cL_law 1883 = .ok (.iload 4, 2) := dk_21 4 (dk_at dksL_law_72 20 rfl rfl)
theorem dL_law_1885 : decode cL_law 1885 = .ok (.iconst 1, 1) := dk_4 (dk_at dksL_law_72 22 rfl rfl)
theorem dL_law_1886 : decode cL_law 1886 = .ok (.iadd, 1) := dk_96 (dk_at dksL_law_72 23 rfl rfl)
theorem dL_law_1887 : decode cL_law 1887 = .ok (.iaload, 1) := dk_46 (dk_at dksL_law_73 0 rfl rfl)
theorem dL_law_1888 : decode cL_law 1888 = .ok (.invokevirtual 212, 3) := dk_182 0 212 (dk_at dksL_law_73 1 rfl rfl)
theorem dL_law_1891 : decode cL_law 1891 = .ok (.if_icmp .eq 55, 3) := dk_159 0 55 (dk_at dksL_law_73 4 rfl rfl)
theorem dL_law_1894 : decode cL_law 1894 = .ok (.iconst 0, 1) := dk_3 (dk_at dksL_law_73 7 rfl rfl)
theorem dL_law_1895 : decode cL_law 1895 = .ok (.ireturn, 1) := dk_172 (dk_at dksL_law_73 8 rfl rfl)
theorem dL_law_1896 : decode cL_law 1896 = .ok (.aload_n 1, 1) := dk_43 (dk_at dksL_law_73 9 rfl rfl)
theorem dL_law_1897 : decode cL_law 1897 = .ok (.aload_n 0, 1) := dk_42 (dk_at dksL_law_73 10 rfl rfl)
theorem dL_law_1898 : decode cL_law 1898 = .ok (.iload 4, 2) := dk_21 4 (dk_at dksL_law_73 11 rfl rfl)
theorem dL_law_1900 : decode cL_law 1900 = .ok (.iconst 1, 1) := dk_4 (dk_at dksL_law_73 13 rfl rfl)
theorem dL_law_1901 : decode cL_law 1901 = .ok (.iadd, 1) := dk_96 (dk_at dksL_law_73 14 rfl rfl)
theorem dL_law_1902 : decode cL_law 1902 = .ok (.iaload, 1) := dk_46 (dk_at dksL_law_73 15 rfl rfl)
theorem dL_law_1903 : decode cL_law 1903 = .ok (.invokevirtual 213, 3) := dk_182 0 213 (dk_at dksL_law_73 16 rfl rfl)
theorem dL_law_1906 : decode cL_law 1906 = .ok (.aload_n 2, 1) := dk_44 (dk_at dksL_law_73 19 rfl rfl)
theorem dL_law_1907 : decode cL_law 1907 = .ok (.aload_n 0, 1) := dk_42 (dk_at dksL_law_73 20 rfl rfl)
theorem dL_law_1908 : decode cL_law 1908 = .ok (.iload 4, 2) := dk_21 4 (dk_at dksL_law_73 21 rfl rfl)
theorem dL_law_1910 : decode cL_law 1910 = .ok (.iconst 1, 1) := dk_4 (dk_at dksL_law_73 23 rfl rfl)
theorem dL_law_1911 : decode cL_law 1911 = .ok (.iadd, 1) := dk_96 (dk_at dksL_law_74 0 rfl rfl)
theorem dL_law_1912 : decode cL_law 1912 = .ok (.iaload, 1) := dk_46 (dk_at dksL_law_74 1 rfl rfl)
theorem dL_law_1913 : decode cL_law 1913 = .ok (.invokevirtual 216, 3) := dk_182 0 216 (dk_at dksL_law_74 2 rfl rfl)
theorem dL_law_1916 : decode cL_law 1916 = .ok (.if_icmp .eq 30, 3) := dk_159 0 30 (dk_at dksL_law_74 5 rfl rfl)
theorem dL_law_1919 : decode cL_law 1919 = .ok (.iconst 0, 1) := dk_3 (dk_at dksL_law_74 8 rfl rfl)
theorem dL_law_1920 : decode cL_law 1920 = .ok (.ireturn, 1) := dk_172 (dk_at dksL_law_74 9 rfl rfl)
theorem dL_law_1921 : decode cL_law 1921 = .ok (.aload_n 1, 1) := dk_43 (dk_at dksL_law_74 10 rfl rfl)
theorem dL_law_1922 : decode cL_law 1922 = .ok (.aload_n 0, 1) := dk_42 (dk_at dksL_law_74 11 rfl rfl)
theorem dL_law_1923 : decode cL_law 1923 = .ok (.iload 4, 2) := dk_21 4 (dk_at dksL_law_74 12 rfl rfl)
theorem dL_law_1925 : decode cL_law 1925 = .ok (.iconst 1, 1) := dk_4 (dk_at dksL_law_74 14 rfl rfl)
theorem dL_law_1926 : decode cL_law 1926 = .ok (.iadd, 1) := dk_96 (dk_at dksL_law_74 15 rfl rfl)
theorem dL_law_1927 : decode cL_law 1927 = .ok (.iaload, 1) := dk_46 (dk_at dksL_law_74 16 rfl rfl)
theorem dL_law_1928 : decode cL_law 1928 = .ok (.invokevirtual 217, 3) := dk_182 0 217 (dk_at dksL_law_74 17 rfl rfl)
theorem dL_law_1931 : decode cL_law 1931 = .ok (.aload_n 2, 1) := dk_44 (dk_at dksL_law_74 20 rfl rfl)
theorem dL_law_1932 : decode cL_law 1932 = .ok (.aload_n 0, 1) := dk_42 (dk_at dksL_law_74 21 rfl rfl)
theorem dL_law_1933 : decode cL_law 1933 = .ok (.iload 4, 2) := dk_21 4 (dk_at dksL_law_74 22 rfl rfl)
theorem dL_law_1935 : decode cL_law 1935 = .ok (.iconst 1, 1) := dk_4 (dk_at dksL_law_75 0 rfl rfl)
theorem dL_law_1936 : decode cL_law 1936 = .ok (.iadd, 1) := dk_96 (dk_at dksL_law_75 1 rfl rfl)
theorem dL_law_1937 : decode cL_law 1937 = .ok (.iaload, 1) := dk_46 (dk_at dksL_law_75 2 rfl rfl)
theorem dL_law_1938 : decode cL_law 1938 = .ok (.invokevirtual 220, 3) := dk_182 0 220 (dk_at dksL_law_75 3 rfl rfl)
theorem dL_law_1941 : decode cL_law 1941 = .ok (.if_icmp .eq 5, 3) := dk_159 0 5 (dk_at dksL_law_75 6 rfl rfl)
theorem dL_law_1944 : decode cL_law 1944 = .ok (.iconst 0, 1) := dk_3 (dk_at dksL_law_75 9 rfl rfl)
theorem dL_law_1945 : decode cL_law 1945 = .ok (.ireturn, 1) := dk_172 (dk_at dksL_law_75 10 rfl rfl)
theorem dL_law_1946 : decode cL_law 1946 = .ok (.iinc 4 6, 3) := dk_132 4 6 (dk_at dksL_law_75 11 rfl rfl)
theorem dL_law_1949 : decode cL_law 1949 = .ok (.goto (-1926), 3) := dk_167 248 122 (dk_at dksL_law_75 14 rfl rfl)
theorem dL_law_1952 : decode cL_law 1952 = .ok (.iconst 1, 1) := dk_4 (dk_at dksL_law_75 17 rfl rfl)
theorem dL_law_1953 : decode cL_law 1953 = .ok (.ireturn, 1) := dk_172 (dk_at dksL_law_75 18 rfl rfl)

/-! BitRopesLaw -/
set_option maxRecDepth 100000
def RX0 : String := "BitRopesLaw"
abbrev cX0_word : ByteArray := method_3_code
def yX0_word : MethodName := ⟨RX0, "word", "(LBitRopes;II[J)I"⟩
def dkwX0_word_0 : List UInt8 := [45, 3, 42, 27, 28, 182, 0, 7, 133, 80, 167, 0, 7, 58, 4, 4, 172, 3, 172]
abbrev dktX0_word_0 : List UInt8 := dkwX0_word_0 ++ []
theorem dksX0_word_0 : cX0_word.data.toList.drop 0 = dktX0_word_0 := by decide +kernel
theorem dX0_word_0 : decode cX0_word 0 = .ok (.aload_n 3, 1) := dk_45 (dk_at dksX0_word_0 0 rfl rfl)
theorem dX0_word_1 : decode cX0_word 1 = .ok (.iconst 0, 1) := dk_3 (dk_at dksX0_word_0 1 rfl rfl)
theorem dX0_word_2 : decode cX0_word 2 = .ok (.aload_n 0, 1) := dk_42 (dk_at dksX0_word_0 2 rfl rfl)
theorem dX0_word_3 : decode cX0_word 3 = .ok (.iload_n 1, 1) := dk_27 (dk_at dksX0_word_0 3 rfl rfl)
theorem dX0_word_4 : decode cX0_word 4 = .ok (.iload_n 2, 1) := dk_28 (dk_at dksX0_word_0 4 rfl rfl)
theorem dX0_word_5 : decode cX0_word 5 = .ok (.invokevirtual 7, 3) := dk_182 0 7 (dk_at dksX0_word_0 5 rfl rfl)
theorem dX0_word_8 : decode cX0_word 8 = .ok (.i2l, 1) := dk_133 (dk_at dksX0_word_0 8 rfl rfl)
theorem dX0_word_9 : decode cX0_word 9 = .ok (.lastore, 1) := dk_80 (dk_at dksX0_word_0 9 rfl rfl)
theorem dX0_word_10 : decode cX0_word 10 = .ok (.goto 7, 3) := dk_167 0 7 (dk_at dksX0_word_0 10 rfl rfl)
theorem dX0_word_13 : decode cX0_word 13 = .ok (.astore 4, 2) := dk_58 4 (dk_at dksX0_word_0 13 rfl rfl)
theorem dX0_word_15 : decode cX0_word 15 = .ok (.iconst 1, 1) := dk_4 (dk_at dksX0_word_0 15 rfl rfl)
theorem dX0_word_16 : decode cX0_word 16 = .ok (.ireturn, 1) := dk_172 (dk_at dksX0_word_0 16 rfl rfl)
theorem dX0_word_17 : decode cX0_word 17 = .ok (.iconst 0, 1) := dk_3 (dk_at dksX0_word_0 17 rfl rfl)
theorem dX0_word_18 : decode cX0_word 18 = .ok (.ireturn, 1) := dk_172 (dk_at dksX0_word_0 18 rfl rfl)
abbrev cX0_dense : ByteArray := method_4_code
def yX0_dense : MethodName := ⟨RX0, "dense", "(LBitRopes;III[J)I"⟩
def dkwX0_dense_0 : List UInt8 := [25, 4, 3, 42, 27, 28, 29, 182, 0, 15, 133, 80, 167, 0, 7, 58, 5, 4, 172, 3, 172]
abbrev dktX0_dense_0 : List UInt8 := dkwX0_dense_0 ++ []
theorem dksX0_dense_0 : cX0_dense.data.toList.drop 0 = dktX0_dense_0 := by decide +kernel
theorem dX0_dense_0 : decode cX0_dense 0 = .ok (.aload 4, 2) := dk_25 4 (dk_at dksX0_dense_0 0 rfl rfl)
theorem dX0_dense_2 : decode cX0_dense 2 = .ok (.iconst 0, 1) := dk_3 (dk_at dksX0_dense_0 2 rfl rfl)
theorem dX0_dense_3 : decode cX0_dense 3 = .ok (.aload_n 0, 1) := dk_42 (dk_at dksX0_dense_0 3 rfl rfl)
theorem dX0_dense_4 : decode cX0_dense 4 = .ok (.iload_n 1, 1) := dk_27 (dk_at dksX0_dense_0 4 rfl rfl)
theorem dX0_dense_5 : decode cX0_dense 5 = .ok (.iload_n 2, 1) := dk_28 (dk_at dksX0_dense_0 5 rfl rfl)
theorem dX0_dense_6 : decode cX0_dense 6 = .ok (.iload_n 3, 1) := dk_29 (dk_at dksX0_dense_0 6 rfl rfl)
theorem dX0_dense_7 : decode cX0_dense 7 = .ok (.invokevirtual 15, 3) := dk_182 0 15 (dk_at dksX0_dense_0 7 rfl rfl)
theorem dX0_dense_10 : decode cX0_dense 10 = .ok (.i2l, 1) := dk_133 (dk_at dksX0_dense_0 10 rfl rfl)
theorem dX0_dense_11 : decode cX0_dense 11 = .ok (.lastore, 1) := dk_80 (dk_at dksX0_dense_0 11 rfl rfl)
theorem dX0_dense_12 : decode cX0_dense 12 = .ok (.goto 7, 3) := dk_167 0 7 (dk_at dksX0_dense_0 12 rfl rfl)
theorem dX0_dense_15 : decode cX0_dense 15 = .ok (.astore 5, 2) := dk_58 5 (dk_at dksX0_dense_0 15 rfl rfl)
theorem dX0_dense_17 : decode cX0_dense 17 = .ok (.iconst 1, 1) := dk_4 (dk_at dksX0_dense_0 17 rfl rfl)
theorem dX0_dense_18 : decode cX0_dense 18 = .ok (.ireturn, 1) := dk_172 (dk_at dksX0_dense_0 18 rfl rfl)
theorem dX0_dense_19 : decode cX0_dense 19 = .ok (.iconst 0, 1) := dk_3 (dk_at dksX0_dense_0 19 rfl rfl)
theorem dX0_dense_20 : decode cX0_dense 20 = .ok (.ireturn, 1) := dk_172 (dk_at dksX0_dense_0 20 rfl rfl)
abbrev cX0_load : ByteArray := method_5_code
def yX0_load : MethodName := ⟨RX0, "load", "(LBitRopes;I[J)I"⟩
def dkwX0_load_0 : List UInt8 := [44, 3, 42, 27, 182, 0, 19, 133, 80, 167, 0, 6, 78, 4, 172, 3, 172]
abbrev dktX0_load_0 : List UInt8 := dkwX0_load_0 ++ []
theorem dksX0_load_0 : cX0_load.data.toList.drop 0 = dktX0_load_0 := by decide +kernel
theorem dX0_load_0 : decode cX0_load 0 = .ok (.aload_n 2, 1) := dk_44 (dk_at dksX0_load_0 0 rfl rfl)
theorem dX0_load_1 : decode cX0_load 1 = .ok (.iconst 0, 1) := dk_3 (dk_at dksX0_load_0 1 rfl rfl)
theorem dX0_load_2 : decode cX0_load 2 = .ok (.aload_n 0, 1) := dk_42 (dk_at dksX0_load_0 2 rfl rfl)
theorem dX0_load_3 : decode cX0_load 3 = .ok (.iload_n 1, 1) := dk_27 (dk_at dksX0_load_0 3 rfl rfl)
theorem dX0_load_4 : decode cX0_load 4 = .ok (.invokevirtual 19, 3) := dk_182 0 19 (dk_at dksX0_load_0 4 rfl rfl)
theorem dX0_load_7 : decode cX0_load 7 = .ok (.i2l, 1) := dk_133 (dk_at dksX0_load_0 7 rfl rfl)
theorem dX0_load_8 : decode cX0_load 8 = .ok (.lastore, 1) := dk_80 (dk_at dksX0_load_0 8 rfl rfl)
theorem dX0_load_9 : decode cX0_load 9 = .ok (.goto 6, 3) := dk_167 0 6 (dk_at dksX0_load_0 9 rfl rfl)
theorem dX0_load_12 : decode cX0_load 12 = .ok (.astore_n 3, 1) := dk_78 (dk_at dksX0_load_0 12 rfl rfl)
theorem dX0_load_13 : decode cX0_load 13 = .ok (.iconst 1, 1) := dk_4 (dk_at dksX0_load_0 13 rfl rfl)
theorem dX0_load_14 : decode cX0_load 14 = .ok (.ireturn, 1) := dk_172 (dk_at dksX0_load_0 14 rfl rfl)
theorem dX0_load_15 : decode cX0_load 15 = .ok (.iconst 0, 1) := dk_3 (dk_at dksX0_load_0 15 rfl rfl)
theorem dX0_load_16 : decode cX0_load 16 = .ok (.ireturn, 1) := dk_172 (dk_at dksX0_load_0 16 rfl rfl)
abbrev cX0_centre : ByteArray := method_6_code
def yX0_centre : MethodName := ⟨RX0, "centre", "(LBitRopes;II[J)I"⟩
def dkwX0_centre_0 : List UInt8 := [45, 3, 42, 27, 28, 182, 0, 23, 133, 80, 167, 0, 7, 58, 4, 4, 172, 3, 172]
abbrev dktX0_centre_0 : List UInt8 := dkwX0_centre_0 ++ []
theorem dksX0_centre_0 : cX0_centre.data.toList.drop 0 = dktX0_centre_0 := by decide +kernel
theorem dX0_centre_0 : decode cX0_centre 0 = .ok (.aload_n 3, 1) := dk_45 (dk_at dksX0_centre_0 0 rfl rfl)
theorem dX0_centre_1 : decode cX0_centre 1 = .ok (.iconst 0, 1) := dk_3 (dk_at dksX0_centre_0 1 rfl rfl)
theorem dX0_centre_2 : decode cX0_centre 2 = .ok (.aload_n 0, 1) := dk_42 (dk_at dksX0_centre_0 2 rfl rfl)
theorem dX0_centre_3 : decode cX0_centre 3 = .ok (.iload_n 1, 1) := dk_27 (dk_at dksX0_centre_0 3 rfl rfl)
theorem dX0_centre_4 : decode cX0_centre 4 = .ok (.iload_n 2, 1) := dk_28 (dk_at dksX0_centre_0 4 rfl rfl)
theorem dX0_centre_5 : decode cX0_centre 5 = .ok (.invokevirtual 23, 3) := dk_182 0 23 (dk_at dksX0_centre_0 5 rfl rfl)
theorem dX0_centre_8 : decode cX0_centre 8 = .ok (.i2l, 1) := dk_133 (dk_at dksX0_centre_0 8 rfl rfl)
theorem dX0_centre_9 : decode cX0_centre 9 = .ok (.lastore, 1) := dk_80 (dk_at dksX0_centre_0 9 rfl rfl)
theorem dX0_centre_10 : decode cX0_centre 10 = .ok (.goto 7, 3) := dk_167 0 7 (dk_at dksX0_centre_0 10 rfl rfl)
theorem dX0_centre_13 : decode cX0_centre 13 = .ok (.astore 4, 2) := dk_58 4 (dk_at dksX0_centre_0 13 rfl rfl)
theorem dX0_centre_15 : decode cX0_centre 15 = .ok (.iconst 1, 1) := dk_4 (dk_at dksX0_centre_0 15 rfl rfl)
theorem dX0_centre_16 : decode cX0_centre 16 = .ok (.ireturn, 1) := dk_172 (dk_at dksX0_centre_0 16 rfl rfl)
theorem dX0_centre_17 : decode cX0_centre 17 = .ok (.iconst 0, 1) := dk_3 (dk_at dksX0_centre_0 17 rfl rfl)
theorem dX0_centre_18 : decode cX0_centre 18 = .ok (.ireturn, 1) := dk_172 (dk_at dksX0_centre_0 18 rfl rfl)
theorem q109 : (Jvm.Cond.initialized "BitRopesLaw") ∈ lw_all := lw_g (lw_at lw_m1 0 rfl) rfl
theorem q145 : (Jvm.Cond.classLink "BitRopesLaw" (8 : Nat) "BitRopes") ∈ lw_all := lw_g (lw_at lw_m1 36 rfl) rfl
theorem q147 : (Jvm.Cond.methodLink "BitRopesLaw" (26 : Nat) ({ cls := "BitRopes", name := "<init>", desc := "()V" } : Jvm.MethodName)) ∈ lw_all := lw_g (lw_at lw_m1 38 rfl) rfl
theorem q567 : (Jvm.Cond.methodLink "BitRopesLaw" (30 : Nat) ({ cls := "BitRopes", name := "feed", desc := "(IIIII)I" } : Jvm.MethodName)) ∈ lw_all := lw_g (lw_at lw_m2 218 rfl) rfl
theorem q575 : (Jvm.Cond.methodLink "BitRopesLaw" (35 : Nat) ({ cls := "BitRopes", name := "end", desc := "(I)Z" } : Jvm.MethodName)) ∈ lw_all := lw_g (lw_at lw_m2 226 rfl) rfl
theorem q579 : (Jvm.Cond.methodLink "BitRopesLaw" (40 : Nat) ({ cls := "BitRopes", name := "room", desc := "()I" } : Jvm.MethodName)) ∈ lw_all := lw_g (lw_at lw_m2 230 rfl) rfl
theorem q888 : (Jvm.Cond.methodLink "BitRopesLaw" (45 : Nat) ({ cls := "BitRopes", name := "fault", desc := "()I" } : Jvm.MethodName)) ∈ lw_all := lw_g (lw_at lw_m4 59 rfl) rfl
theorem q892 : (Jvm.Cond.methodLink "BitRopesLaw" (49 : Nat) ({ cls := "BitRopes", name := "size", desc := "(I)I" } : Jvm.MethodName)) ∈ lw_all := lw_g (lw_at lw_m4 63 rfl) rfl
theorem q902 : (Jvm.Cond.methodLink "BitRopesLaw" (53 : Nat) ({ cls := "BitRopes", name := "bit", desc := "(II)I" } : Jvm.MethodName)) ∈ lw_all := lw_g (lw_at lw_m4 73 rfl) rfl
theorem q974 : (Jvm.Cond.methodLink "BitRopesLaw" (57 : Nat) ({ cls := "BitRopes", name := "rank", desc := "(III)I" } : Jvm.MethodName)) ∈ lw_all := lw_g (lw_at lw_m4 145 rfl) rfl
theorem q979 : (Jvm.Cond.methodLink "BitRopesLaw" (61 : Nat) ({ cls := "BitRopes", name := "select", desc := "(III)I" } : Jvm.MethodName)) ∈ lw_all := lw_g (lw_at lw_m4 150 rfl) rfl
theorem q996 : (Jvm.Cond.methodLink "BitRopesLaw" (65 : Nat) ({ cls := "BitRopes", name := "find", desc := "(III)I" } : Jvm.MethodName)) ∈ lw_all := lw_g (lw_at lw_m4 167 rfl) rfl
theorem q1000 : (Jvm.Cond.methodLink "BitRopesLaw" (69 : Nat) ({ cls := "BitRopes", name := "runs", desc := "(I)I" } : Jvm.MethodName)) ∈ lw_all := lw_g (lw_at lw_m4 171 rfl) rfl
theorem q1008 : (Jvm.Cond.methodLink "BitRopesLaw" (73 : Nat) ({ cls := "BitRopes", name := "longest", desc := "(II)I" } : Jvm.MethodName)) ∈ lw_all := lw_g (lw_at lw_m4 179 rfl) rfl
theorem q1015 : (Jvm.Cond.methodLink "BitRopesLaw" (86 : Nat) ({ cls := "BitRopes", name := "leaves", desc := "(I)I" } : Jvm.MethodName)) ∈ lw_all := lw_g (lw_at lw_m4 186 rfl) rfl
theorem q1023 : (Jvm.Cond.methodLink "BitRopesLaw" (90 : Nat) ({ cls := "BitRopes", name := "leaf", desc := "(III)I" } : Jvm.MethodName)) ∈ lw_all := lw_g (lw_at lw_m4 194 rfl) rfl
theorem q1031 : (Jvm.Cond.methodLink "BitRopesLaw" (94 : Nat) ({ cls := "BitRopes", name := "tree", desc := "(II)I" } : Jvm.MethodName)) ∈ lw_all := lw_g (lw_at lw_m4 202 rfl) rfl
theorem q1046 : (Jvm.Cond.methodLink "BitRopesLaw" (109 : Nat) ({ cls := "BitRopes", name := "apart", desc := "(II)I" } : Jvm.MethodName)) ∈ lw_all := lw_g (lw_at lw_m4 217 rfl) rfl
theorem q1053 : (Jvm.Cond.methodLink "BitRopesLaw" (113 : Nat) ({ cls := "BitRopes", name := "diffe\x72", desc := "(II)I" } : Jvm.MethodName)) ∈ lw_all := lw_g (lw_at lw_m4 224 rfl) rfl
theorem q1061 : (Jvm.Cond.methodLink "BitRopesLaw" (117 : Nat) ({ cls := "BitRopes", name := "seek", desc := "(I)I" } : Jvm.MethodName)) ∈ lw_all := lw_g (lw_at lw_m4 232 rfl) rfl
theorem q1073 : (Jvm.Cond.methodLink "BitRopesLaw" (121 : Nat) ({ cls := "BitRopes", name := "seekAt", desc := "(I)I" } : Jvm.MethodName)) ∈ lw_all := lw_g (lw_at lw_m5 4 rfl) rfl
theorem q1077 : (Jvm.Cond.methodLink "BitRopesLaw" (185 : Nat) ({ cls := "BitRopes", name := "undo", desc := "()I" } : Jvm.MethodName)) ∈ lw_all := lw_g (lw_at lw_m5 8 rfl) rfl
theorem q1090 : (Jvm.Cond.methodLink "BitRopesLaw" (125 : Nat) ({ cls := "BitRopes", name := "put", desc := "(III)I" } : Jvm.MethodName)) ∈ lw_all := lw_g (lw_at lw_m5 21 rfl) rfl
theorem q1190 : (Jvm.Cond.methodLink "BitRopesLaw" (129 : Nat) ({ cls := "BitRopes", name := "set", desc := "(III)I" } : Jvm.MethodName)) ∈ lw_all := lw_g (lw_at lw_m5 121 rfl) rfl
theorem q1194 : (Jvm.Cond.methodLink "BitRopesLaw" (133 : Nat) ({ cls := "BitRopes", name := "cut", desc := "(III)I" } : Jvm.MethodName)) ∈ lw_all := lw_g (lw_at lw_m5 125 rfl) rfl
theorem q1202 : (Jvm.Cond.methodLink "BitRopesLaw" (137 : Nat) ({ cls := "BitRopes", name := "turn", desc := "(III)I" } : Jvm.MethodName)) ∈ lw_all := lw_g (lw_at lw_m5 133 rfl) rfl
theorem q1206 : (Jvm.Cond.methodLink "BitRopesLaw" (145 : Nat) ({ cls := "BitRopes", name := "join", desc := "(II)I" } : Jvm.MethodName)) ∈ lw_all := lw_g (lw_at lw_m5 137 rfl) rfl
theorem q1214 : (Jvm.Cond.methodLink "BitRopesLaw" (149 : Nat) ({ cls := "BitRopes", name := "split", desc := "(III)I" } : Jvm.MethodName)) ∈ lw_all := lw_g (lw_at lw_m5 145 rfl) rfl
theorem q1218 : (Jvm.Cond.methodLink "BitRopesLaw" (177 : Nat) ({ cls := "BitRopes", name := "type", desc := "(II)I" } : Jvm.MethodName)) ∈ lw_all := lw_g (lw_at lw_m5 149 rfl) rfl
theorem q1222 : (Jvm.Cond.methodLink "BitRopesLaw" (181 : Nat) ({ cls := "BitRopes", name := "erase", desc := "(II)I" } : Jvm.MethodName)) ∈ lw_all := lw_g (lw_at lw_m5 153 rfl) rfl
theorem q1226 : (Jvm.Cond.methodLink "BitRopesLaw" (141 : Nat) ({ cls := "BitRopes", name := "paste", desc := "(II)I" } : Jvm.MethodName)) ∈ lw_all := lw_g (lw_at lw_m5 157 rfl) rfl
theorem q1231 : (Jvm.Cond.methodLink "BitRopesLaw" (153 : Nat) ({ cls := "BitRopes", name := "letters", desc := "()I" } : Jvm.MethodName)) ∈ lw_all := lw_g (lw_at lw_m5 162 rfl) rfl
theorem q1236 : (Jvm.Cond.methodLink "BitRopesLaw" (157 : Nat) ({ cls := "BitRopes", name := "lette\x72", desc := "(I)I" } : Jvm.MethodName)) ∈ lw_all := lw_g (lw_at lw_m5 167 rfl) rfl
theorem q1244 : (Jvm.Cond.methodLink "BitRopesLaw" (161 : Nat) ({ cls := "BitRopes", name := "count", desc := "(II)I" } : Jvm.MethodName)) ∈ lw_all := lw_g (lw_at lw_m5 175 rfl) rfl
theorem q1255 : (Jvm.Cond.methodLink "BitRopesLaw" (165 : Nat) ({ cls := "BitRopes", name := "place", desc := "(II)I" } : Jvm.MethodName)) ∈ lw_all := lw_g (lw_at lw_m5 186 rfl) rfl
theorem q1266 : (Jvm.Cond.methodLink "BitRopesLaw" (169 : Nat) ({ cls := "BitRopes", name := "least", desc := "(III)I" } : Jvm.MethodName)) ∈ lw_all := lw_g (lw_at lw_m5 197 rfl) rfl
theorem q1274 : (Jvm.Cond.methodLink "BitRopesLaw" (173 : Nat) ({ cls := "BitRopes", name := "node", desc := "(II)I" } : Jvm.MethodName)) ∈ lw_all := lw_g (lw_at lw_m5 205 rfl) rfl
theorem q1278 : (Jvm.Cond.methodLink "BitRopesLaw" (189 : Nat) ({ cls := "BitRopes", name := "drawn", desc := "(II)I" } : Jvm.MethodName)) ∈ lw_all := lw_g (lw_at lw_m5 209 rfl) rfl
theorem q1297 : (Jvm.Cond.methodLink "BitRopesLaw" (193 : Nat) ({ cls := "BitRopes", name := "book", desc := "(I)I" } : Jvm.MethodName)) ∈ lw_all := lw_g (lw_at lw_m5 228 rfl) rfl
theorem q1372 : (Jvm.Cond.methodLink "BitRopesLaw" (197 : Nat) ({ cls := "BitRopes", name := "told", desc := "(I)I" } : Jvm.MethodName)) ∈ lw_all := lw_g (lw_at lw_m6 63 rfl) rfl
theorem q1376 : (Jvm.Cond.methodLink "BitRopesLaw" (201 : Nat) ({ cls := "BitRopes", name := "sentence", desc := "()I" } : Jvm.MethodName)) ∈ lw_all := lw_g (lw_at lw_m6 67 rfl) rfl
theorem q1490 : (Jvm.Cond.methodLink "BitRopesLaw" (205 : Nat) ({ cls := "BitRopes", name := "said", desc := "(I)I" } : Jvm.MethodName)) ∈ lw_all := lw_g (lw_at lw_m6 181 rfl) rfl
theorem q1543 : (Jvm.Cond.methodLink "BitRopesLaw" (209 : Nat) ({ cls := "BitRopes", name := "image", desc := "(I)Z" } : Jvm.MethodName)) ∈ lw_all := lw_g (lw_at lw_m6 234 rfl) rfl
theorem q1562 : (Jvm.Cond.methodLink "BitRopesLaw" (213 : Nat) ({ cls := "BitRopes", name := "restore", desc := "(I)Z" } : Jvm.MethodName)) ∈ lw_all := lw_g (lw_at lw_m7 13 rfl) rfl
theorem q1585 : (Jvm.Cond.methodLink "BitRopesLaw" (217 : Nat) ({ cls := "BitRopes", name := "total", desc := "(I)I" } : Jvm.MethodName)) ∈ lw_all := lw_g (lw_at lw_m7 36 rfl) rfl
theorem q1589 : (Jvm.Cond.methodLink "BitRopesLaw" (77 : Nat) ({ cls := "BitRopesLaw", name := "word", desc := "(LBitRopes;II[J)I" } : Jvm.MethodName)) ∈ lw_all := lw_g (lw_at lw_m7 40 rfl) rfl
theorem q1590 : (Jvm.Cond.static ({ cls := "BitRopesLaw", name := "word", desc := "(LBitRopes;II[J)I" } : Jvm.MethodName)) ∈ lw_all := lw_g (lw_at lw_m7 41 rfl) rfl
theorem q1591 : (Jvm.Cond.codeWith ({ cls := "BitRopesLaw", name := "word", desc := "(LBitRopes;II[J)I" } : Jvm.MethodName) method_3_code (5 : Nat) (Option.some Jvm.ClassFile.FieldType.int) [((0 : Nat), (10 : Nat), (13 : Nat), (13 : Nat))]) ∈ lw_all := lw_g (lw_at lw_m7 42 rfl) rfl
theorem q1592 : (Jvm.Cond.classLink "BitRopesLaw" (13 : Nat) "java/util/NoSuchElementException") ∈ lw_all := lw_g (lw_at lw_m7 43 rfl) rfl
theorem q1593 : (Jvm.Cond.methodLink "BitRopesLaw" (7 : Nat) ({ cls := "BitRopes", name := "word", desc := "(II)I" } : Jvm.MethodName)) ∈ lw_all := lw_g (lw_at lw_m7 44 rfl) rfl
theorem q1621 : (Jvm.Cond.methodLink "BitRopesLaw" (98 : Nat) ({ cls := "BitRopesLaw", name := "dense", desc := "(LBitRopes;III[J)I" } : Jvm.MethodName)) ∈ lw_all := lw_g (lw_at lw_m7 72 rfl) rfl
theorem q1622 : (Jvm.Cond.static ({ cls := "BitRopesLaw", name := "dense", desc := "(LBitRopes;III[J)I" } : Jvm.MethodName)) ∈ lw_all := lw_g (lw_at lw_m7 73 rfl) rfl
theorem q1623 : (Jvm.Cond.codeWith ({ cls := "BitRopesLaw", name := "dense", desc := "(LBitRopes;III[J)I" } : Jvm.MethodName) method_4_code (6 : Nat) (Option.some Jvm.ClassFile.FieldType.int) [((0 : Nat), (12 : Nat), (15 : Nat), (13 : Nat))]) ∈ lw_all := lw_g (lw_at lw_m7 74 rfl) rfl
theorem q1624 : (Jvm.Cond.methodLink "BitRopesLaw" (15 : Nat) ({ cls := "BitRopes", name := "dense", desc := "(III)I" } : Jvm.MethodName)) ∈ lw_all := lw_g (lw_at lw_m7 75 rfl) rfl
theorem q1639 : (Jvm.Cond.methodLink "BitRopesLaw" (102 : Nat) ({ cls := "BitRopesLaw", name := "load", desc := "(LBitRopes;I[J)I" } : Jvm.MethodName)) ∈ lw_all := lw_g (lw_at lw_m7 90 rfl) rfl
theorem q1640 : (Jvm.Cond.static ({ cls := "BitRopesLaw", name := "load", desc := "(LBitRopes;I[J)I" } : Jvm.MethodName)) ∈ lw_all := lw_g (lw_at lw_m7 91 rfl) rfl
theorem q1641 : (Jvm.Cond.codeWith ({ cls := "BitRopesLaw", name := "load", desc := "(LBitRopes;I[J)I" } : Jvm.MethodName) method_5_code (4 : Nat) (Option.some Jvm.ClassFile.FieldType.int) [((0 : Nat), (9 : Nat), (12 : Nat), (13 : Nat))]) ∈ lw_all := lw_g (lw_at lw_m7 92 rfl) rfl
theorem q1642 : (Jvm.Cond.methodLink "BitRopesLaw" (19 : Nat) ({ cls := "BitRopes", name := "load", desc := "(I)I" } : Jvm.MethodName)) ∈ lw_all := lw_g (lw_at lw_m7 93 rfl) rfl
theorem q1646 : (Jvm.Cond.methodLink "BitRopesLaw" (106 : Nat) ({ cls := "BitRopesLaw", name := "centre", desc := "(LBitRopes;II[J)I" } : Jvm.MethodName)) ∈ lw_all := lw_g (lw_at lw_m7 97 rfl) rfl
theorem q1647 : (Jvm.Cond.static ({ cls := "BitRopesLaw", name := "centre", desc := "(LBitRopes;II[J)I" } : Jvm.MethodName)) ∈ lw_all := lw_g (lw_at lw_m7 98 rfl) rfl
theorem q1648 : (Jvm.Cond.codeWith ({ cls := "BitRopesLaw", name := "centre", desc := "(LBitRopes;II[J)I" } : Jvm.MethodName) method_6_code (5 : Nat) (Option.some Jvm.ClassFile.FieldType.int) [((0 : Nat), (10 : Nat), (13 : Nat), (13 : Nat))]) ∈ lw_all := lw_g (lw_at lw_m7 99 rfl) rfl
theorem q1649 : (Jvm.Cond.methodLink "BitRopesLaw" (23 : Nat) ({ cls := "BitRopes", name := "centre", desc := "(II)I" } : Jvm.MethodName)) ∈ lw_all := lw_g (lw_at lw_m7 100 rfl) rfl
theorem q1664 : (Jvm.Cond.methodLink "BitRopesLaw" (83 : Nat) ({ cls := "BitRopesModel", name := "thrown", desc := "()I" } : Jvm.MethodName)) ∈ lw_all := lw_g (lw_at lw_m7 115 rfl) rfl
theorem q1668 : (Jvm.Cond.methodLink "BitRopesLaw" (34 : Nat) ({ cls := "BitRopesModel", name := "feed", desc := "(IIIII)I" } : Jvm.MethodName)) ∈ lw_all := lw_g (lw_at lw_m7 119 rfl) rfl
theorem q1677 : (Jvm.Cond.methodLink "BitRopesLaw" (39 : Nat) ({ cls := "BitRopesModel", name := "end", desc := "(I)Z" } : Jvm.MethodName)) ∈ lw_all := lw_g (lw_at lw_m7 128 rfl) rfl
theorem q1681 : (Jvm.Cond.classLink "BitRopesLaw" (27 : Nat) "BitRopesModel") ∈ lw_all := lw_g (lw_at lw_m7 132 rfl) rfl
theorem q1682 : (Jvm.Cond.methodLink "BitRopesLaw" (29 : Nat) ({ cls := "BitRopesModel", name := "<init>", desc := "()V" } : Jvm.MethodName)) ∈ lw_all := lw_g (lw_at lw_m7 133 rfl) rfl
theorem q1805 : (Jvm.Cond.methodLink "BitRopesLaw" (44 : Nat) ({ cls := "BitRopesModel", name := "room", desc := "()I" } : Jvm.MethodName)) ∈ lw_all := lw_g (lw_at lw_m8 16 rfl) rfl
theorem q1917 : (Jvm.Cond.methodLink "BitRopesLaw" (48 : Nat) ({ cls := "BitRopesModel", name := "fault", desc := "()I" } : Jvm.MethodName)) ∈ lw_all := lw_g (lw_at lw_m8 128 rfl) rfl
theorem q1921 : (Jvm.Cond.methodLink "BitRopesLaw" (52 : Nat) ({ cls := "BitRopesModel", name := "size", desc := "(I)I" } : Jvm.MethodName)) ∈ lw_all := lw_g (lw_at lw_m8 132 rfl) rfl
theorem q1929 : (Jvm.Cond.methodLink "BitRopesLaw" (56 : Nat) ({ cls := "BitRopesModel", name := "bit", desc := "(II)I" } : Jvm.MethodName)) ∈ lw_all := lw_g (lw_at lw_m8 140 rfl) rfl
theorem q1941 : (Jvm.Cond.methodLink "BitRopesLaw" (60 : Nat) ({ cls := "BitRopesModel", name := "rank", desc := "(III)I" } : Jvm.MethodName)) ∈ lw_all := lw_g (lw_at lw_m8 152 rfl) rfl
theorem q1953 : (Jvm.Cond.methodLink "BitRopesLaw" (64 : Nat) ({ cls := "BitRopesModel", name := "select", desc := "(III)I" } : Jvm.MethodName)) ∈ lw_all := lw_g (lw_at lw_m8 164 rfl) rfl
theorem q1957 : (Jvm.Cond.methodLink "BitRopesLaw" (68 : Nat) ({ cls := "BitRopesModel", name := "find", desc := "(III)I" } : Jvm.MethodName)) ∈ lw_all := lw_g (lw_at lw_m8 168 rfl) rfl
theorem q1961 : (Jvm.Cond.methodLink "BitRopesLaw" (72 : Nat) ({ cls := "BitRopesModel", name := "runs", desc := "(I)I" } : Jvm.MethodName)) ∈ lw_all := lw_g (lw_at lw_m8 172 rfl) rfl
theorem q1969 : (Jvm.Cond.methodLink "BitRopesLaw" (76 : Nat) ({ cls := "BitRopesModel", name := "longest", desc := "(II)I" } : Jvm.MethodName)) ∈ lw_all := lw_g (lw_at lw_m8 180 rfl) rfl
theorem q1973 : (Jvm.Cond.methodLink "BitRopesLaw" (82 : Nat) ({ cls := "BitRopesModel", name := "word", desc := "(II)I" } : Jvm.MethodName)) ∈ lw_all := lw_g (lw_at lw_m8 184 rfl) rfl
theorem q1981 : (Jvm.Cond.methodLink "BitRopesLaw" (89 : Nat) ({ cls := "BitRopesModel", name := "leaves", desc := "(I)I" } : Jvm.MethodName)) ∈ lw_all := lw_g (lw_at lw_m8 192 rfl) rfl
theorem q1985 : (Jvm.Cond.methodLink "BitRopesLaw" (93 : Nat) ({ cls := "BitRopesModel", name := "leaf", desc := "(III)I" } : Jvm.MethodName)) ∈ lw_all := lw_g (lw_at lw_m8 196 rfl) rfl
theorem q1989 : (Jvm.Cond.methodLink "BitRopesLaw" (97 : Nat) ({ cls := "BitRopesModel", name := "tree", desc := "(II)I" } : Jvm.MethodName)) ∈ lw_all := lw_g (lw_at lw_m8 200 rfl) rfl
theorem q2006 : (Jvm.Cond.methodLink "BitRopesLaw" (101 : Nat) ({ cls := "BitRopesModel", name := "dense", desc := "(III)I" } : Jvm.MethodName)) ∈ lw_all := lw_g (lw_at lw_m8 217 rfl) rfl
theorem q2020 : (Jvm.Cond.methodLink "BitRopesLaw" (105 : Nat) ({ cls := "BitRopesModel", name := "load", desc := "(I)I" } : Jvm.MethodName)) ∈ lw_all := lw_g (lw_at lw_m8 231 rfl) rfl
theorem q2024 : (Jvm.Cond.methodLink "BitRopesLaw" (108 : Nat) ({ cls := "BitRopesModel", name := "centre", desc := "(II)I" } : Jvm.MethodName)) ∈ lw_all := lw_g (lw_at lw_m8 235 rfl) rfl
theorem q2034 : (Jvm.Cond.methodLink "BitRopesLaw" (112 : Nat) ({ cls := "BitRopesModel", name := "apart", desc := "(II)I" } : Jvm.MethodName)) ∈ lw_all := lw_g (lw_at lw_m9 5 rfl) rfl
theorem q2038 : (Jvm.Cond.methodLink "BitRopesLaw" (116 : Nat) ({ cls := "BitRopesModel", name := "diffe\x72", desc := "(II)I" } : Jvm.MethodName)) ∈ lw_all := lw_g (lw_at lw_m9 9 rfl) rfl
theorem q2050 : (Jvm.Cond.methodLink "BitRopesLaw" (120 : Nat) ({ cls := "BitRopesModel", name := "seek", desc := "(I)I" } : Jvm.MethodName)) ∈ lw_all := lw_g (lw_at lw_m9 21 rfl) rfl
theorem q2062 : (Jvm.Cond.methodLink "BitRopesLaw" (124 : Nat) ({ cls := "BitRopesModel", name := "seekAt", desc := "(I)I" } : Jvm.MethodName)) ∈ lw_all := lw_g (lw_at lw_m9 33 rfl) rfl
theorem q2066 : (Jvm.Cond.methodLink "BitRopesLaw" (156 : Nat) ({ cls := "BitRopesModel", name := "letters", desc := "()I" } : Jvm.MethodName)) ∈ lw_all := lw_g (lw_at lw_m9 37 rfl) rfl
theorem q2070 : (Jvm.Cond.methodLink "BitRopesLaw" (160 : Nat) ({ cls := "BitRopesModel", name := "lette\x72", desc := "(I)I" } : Jvm.MethodName)) ∈ lw_all := lw_g (lw_at lw_m9 41 rfl) rfl
theorem q2078 : (Jvm.Cond.methodLink "BitRopesLaw" (164 : Nat) ({ cls := "BitRopesModel", name := "count", desc := "(II)I" } : Jvm.MethodName)) ∈ lw_all := lw_g (lw_at lw_m9 49 rfl) rfl
theorem q2082 : (Jvm.Cond.methodLink "BitRopesLaw" (168 : Nat) ({ cls := "BitRopesModel", name := "place", desc := "(II)I" } : Jvm.MethodName)) ∈ lw_all := lw_g (lw_at lw_m9 53 rfl) rfl
theorem q2086 : (Jvm.Cond.methodLink "BitRopesLaw" (172 : Nat) ({ cls := "BitRopesModel", name := "least", desc := "(III)I" } : Jvm.MethodName)) ∈ lw_all := lw_g (lw_at lw_m9 57 rfl) rfl
theorem q2090 : (Jvm.Cond.methodLink "BitRopesLaw" (176 : Nat) ({ cls := "BitRopesModel", name := "node", desc := "(II)I" } : Jvm.MethodName)) ∈ lw_all := lw_g (lw_at lw_m9 61 rfl) rfl
theorem q2097 : (Jvm.Cond.methodLink "BitRopesLaw" (128 : Nat) ({ cls := "BitRopesModel", name := "put", desc := "(III)I" } : Jvm.MethodName)) ∈ lw_all := lw_g (lw_at lw_m9 68 rfl) rfl
theorem q2140 : (Jvm.Cond.methodLink "BitRopesLaw" (132 : Nat) ({ cls := "BitRopesModel", name := "set", desc := "(III)I" } : Jvm.MethodName)) ∈ lw_all := lw_g (lw_at lw_m9 111 rfl) rfl
theorem q2144 : (Jvm.Cond.methodLink "BitRopesLaw" (136 : Nat) ({ cls := "BitRopesModel", name := "cut", desc := "(III)I" } : Jvm.MethodName)) ∈ lw_all := lw_g (lw_at lw_m9 115 rfl) rfl
theorem q2148 : (Jvm.Cond.methodLink "BitRopesLaw" (140 : Nat) ({ cls := "BitRopesModel", name := "turn", desc := "(III)I" } : Jvm.MethodName)) ∈ lw_all := lw_g (lw_at lw_m9 119 rfl) rfl
theorem q2152 : (Jvm.Cond.methodLink "BitRopesLaw" (144 : Nat) ({ cls := "BitRopesModel", name := "paste", desc := "(II)I" } : Jvm.MethodName)) ∈ lw_all := lw_g (lw_at lw_m9 123 rfl) rfl
theorem q2156 : (Jvm.Cond.methodLink "BitRopesLaw" (148 : Nat) ({ cls := "BitRopesModel", name := "join", desc := "(II)I" } : Jvm.MethodName)) ∈ lw_all := lw_g (lw_at lw_m9 127 rfl) rfl
theorem q2164 : (Jvm.Cond.methodLink "BitRopesLaw" (152 : Nat) ({ cls := "BitRopesModel", name := "split", desc := "(III)I" } : Jvm.MethodName)) ∈ lw_all := lw_g (lw_at lw_m9 135 rfl) rfl
theorem q2168 : (Jvm.Cond.methodLink "BitRopesLaw" (180 : Nat) ({ cls := "BitRopesModel", name := "type", desc := "(II)I" } : Jvm.MethodName)) ∈ lw_all := lw_g (lw_at lw_m9 139 rfl) rfl
theorem q2172 : (Jvm.Cond.methodLink "BitRopesLaw" (184 : Nat) ({ cls := "BitRopesModel", name := "erase", desc := "(II)I" } : Jvm.MethodName)) ∈ lw_all := lw_g (lw_at lw_m9 143 rfl) rfl
theorem q2176 : (Jvm.Cond.methodLink "BitRopesLaw" (188 : Nat) ({ cls := "BitRopesModel", name := "undo", desc := "()I" } : Jvm.MethodName)) ∈ lw_all := lw_g (lw_at lw_m9 147 rfl) rfl
theorem q2184 : (Jvm.Cond.methodLink "BitRopesLaw" (192 : Nat) ({ cls := "BitRopesModel", name := "drawn", desc := "(II)I" } : Jvm.MethodName)) ∈ lw_all := lw_g (lw_at lw_m9 155 rfl) rfl
theorem q2205 : (Jvm.Cond.methodLink "BitRopesLaw" (196 : Nat) ({ cls := "BitRopesModel", name := "book", desc := "(I)I" } : Jvm.MethodName)) ∈ lw_all := lw_g (lw_at lw_m9 176 rfl) rfl
theorem q2233 : (Jvm.Cond.methodLink "BitRopesLaw" (200 : Nat) ({ cls := "BitRopesModel", name := "told", desc := "(I)I" } : Jvm.MethodName)) ∈ lw_all := lw_g (lw_at lw_m9 204 rfl) rfl
theorem q2237 : (Jvm.Cond.methodLink "BitRopesLaw" (204 : Nat) ({ cls := "BitRopesModel", name := "sentence", desc := "()I" } : Jvm.MethodName)) ∈ lw_all := lw_g (lw_at lw_m9 208 rfl) rfl
theorem q2273 : (Jvm.Cond.methodLink "BitRopesLaw" (208 : Nat) ({ cls := "BitRopesModel", name := "said", desc := "(I)I" } : Jvm.MethodName)) ∈ lw_all := lw_g (lw_at lw_m10 4 rfl) rfl
theorem q2289 : (Jvm.Cond.methodLink "BitRopesLaw" (212 : Nat) ({ cls := "BitRopesModel", name := "image", desc := "(I)Z" } : Jvm.MethodName)) ∈ lw_all := lw_g (lw_at lw_m10 20 rfl) rfl
theorem q2293 : (Jvm.Cond.methodLink "BitRopesLaw" (216 : Nat) ({ cls := "BitRopesModel", name := "restore", desc := "(I)Z" } : Jvm.MethodName)) ∈ lw_all := lw_g (lw_at lw_m10 24 rfl) rfl
theorem q2297 : (Jvm.Cond.methodLink "BitRopesLaw" (220 : Nat) ({ cls := "BitRopesModel", name := "total", desc := "(I)I" } : Jvm.MethodName)) ∈ lw_all := lw_g (lw_at lw_m10 28 rfl) rfl
