/-! BitRopes -/
set_option maxRecDepth 100000
def RX1 : String := "BitRopes"
def TX1 : u_T := fun k => match k with
  | 0 => ("BitRopes", "tape", "[B", true)
  | 1 => ("BitRopes", "length", "I", false)
  | 2 => ("BitRopes", "held", "I", false)
  | 3 => ("BitRopes", "broken", "LBitRopes$Fault;", true)
  | 4 => ("BitRopes", "lines", "[Ljava/lang/String;", true)
  | 5 => ("BitRopes", "words", "[Ljava/lang/String;", true)
  | 6 => ("BitRopes", "room", "LBitRopes$Room;", false)
  | 7 => ("BitRopes", "now", "LBitRopes$State;", false)
  | 8 => ("BitRopes", "tried", "LBitRopes$State;", false)
  | 9 => ("BitRopes", "roomReade\x72", "LBitRopes$RoomReader;", true)
  | 10 => ("BitRopes", "bookReade\x72", "LBitRopes$BookReader;", true)
  | 11 => ("BitRopes", "fault", "I", false)
  | 12 => ("BitRopes", "seeks", "[I", true)
  | 13 => ("BitRopes", "seekMany", "I", false)
  | 14 => ("BitRopes", "ahead", "[[LBitRopes$Packed;", true)
  | 15 => ("BitRopes", "undoMany", "I", false)
  | 16 => ("BitRopes", "toldRow", "[I", true)
  | 17 => ("BitRopes", "hasTold", "Z", false)
  | 18 => ("BitRopes", "sentenceReade\x72", "LBitRopes$SentenceReader;", true)
  | 19 => ("BitRopes", "sentence", "LBitRopes$Cond;", false)
  | _ => ("BitRopes", "images", "[LBitRopes$Kept;", true)
def tyX1 : Nat → FieldType := fun k => match k with
  | 0 => .array .byte
  | 1 => .int
  | 2 => .int
  | 3 => .object "BitRopes$Fault"
  | 4 => .array (.object "java/lang/String")
  | 5 => .array (.object "java/lang/String")
  | 6 => .object "BitRopes$Room"
  | 7 => .object "BitRopes$State"
  | 8 => .object "BitRopes$State"
  | 9 => .object "BitRopes$RoomReade\x72"
  | 10 => .object "BitRopes$BookReade\x72"
  | 11 => .int
  | 12 => .array .int
  | 13 => .int
  | 14 => .array (.array (.object "BitRopes$Packed"))
  | 15 => .int
  | 16 => .array .int
  | 17 => .boolean
  | 18 => .object "BitRopes$SentenceReade\x72"
  | 19 => .object "BitRopes$Cond"
  | _ => .array (.object "BitRopes$Kept")
abbrev wsX10 : List Cond := u_ws RX1 TX1 21
set_option maxRecDepth 100000 in
theorem nmX1 : ∀ a, a < 21 → ∀ b, b < 21 → a ≠ b → (TX1 a).2.1 ≠ (TX1 b).2.1 := by decide +kernel
set_option maxRecDepth 100000 in
theorem tyX1_ok : ∀ k, k < 21 → parseFieldDescriptor (TX1 k).2.2.1 = some (tyX1 k) := by decide +kernel
abbrev cX1_init : ByteArray := prog_1_method_1_code
def yX1_init : MethodName := ⟨RX1, "<init>", "()V"⟩
def dkwX1_init_12 : List UInt8 := [89, 42, 183, 0, 131, 181, 0, 132, 42, 5, 189, 0, 136, 181, 0, 138, 177]
abbrev dktX1_init_12 : List UInt8 := dkwX1_init_12 ++ []
def dkwX1_init_11 : List UInt8 := [2, 181, 0, 116, 42, 16, 8, 189, 0, 120, 181, 0, 122, 42, 7, 188, 10, 181, 0, 126, 42, 187, 0, 129]
abbrev dktX1_init_11 : List UInt8 := dkwX1_init_11 ++ dktX1_init_12
def dkwX1_init_10 : List UInt8 := [182, 0, 108, 42, 180, 0, 89, 42, 180, 0, 78, 182, 0, 108, 42, 17, 2, 88, 188, 10, 181, 0, 112, 42]
abbrev dktX1_init_10 : List UInt8 := dkwX1_init_10 ++ dktX1_init_11
def dkwX1_init_9 : List UInt8 := [181, 0, 97, 42, 187, 0, 101, 89, 42, 183, 0, 103, 181, 0, 104, 42, 180, 0, 85, 42, 180, 0, 78]
abbrev dktX1_init_9 : List UInt8 := dkwX1_init_9 ++ dktX1_init_10
def dkwX1_init_8 : List UInt8 := [181, 0, 85, 42, 187, 0, 82, 89, 183, 0, 84, 181, 0, 89, 42, 187, 0, 92, 89, 42, 183, 0, 94]
abbrev dktX1_init_8 : List UInt8 := dkwX1_init_8 ++ dktX1_init_9
def dkwX1_init_7 : List UInt8 := [181, 0, 72, 42, 187, 0, 75, 89, 183, 0, 77, 181, 0, 78, 42, 187, 0, 82, 89, 183, 0, 84]
abbrev dktX1_init_7 : List UInt8 := dkwX1_init_7 ++ dktX1_init_8
def dkwX1_init_6 : List UInt8 := [16, 16, 18, 64, 83, 89, 16, 17, 18, 66, 83, 89, 16, 18, 18, 68, 83, 89, 16, 19, 18, 70, 83]
abbrev dktX1_init_6 : List UInt8 := dkwX1_init_6 ++ dktX1_init_7
def dkwX1_init_5 : List UInt8 := [16, 12, 18, 56, 83, 89, 16, 13, 18, 58, 83, 89, 16, 14, 18, 60, 83, 89, 16, 15, 18, 62, 83, 89]
abbrev dktX1_init_5 : List UInt8 := dkwX1_init_5 ++ dktX1_init_6
def dkwX1_init_4 : List UInt8 := [16, 8, 18, 48, 83, 89, 16, 9, 18, 50, 83, 89, 16, 10, 18, 52, 83, 89, 16, 11, 18, 54, 83, 89]
abbrev dktX1_init_4 : List UInt8 := dkwX1_init_4 ++ dktX1_init_5
def dkwX1_init_3 : List UInt8 := [83, 89, 7, 18, 40, 83, 89, 8, 18, 42, 83, 89, 16, 6, 18, 44, 83, 89, 16, 7, 18, 46, 83, 89]
abbrev dktX1_init_3 : List UInt8 := dkwX1_init_3 ++ dktX1_init_4
def dkwX1_init_2 : List UInt8 := [16, 20, 189, 0, 20, 89, 3, 18, 32, 83, 89, 4, 18, 34, 83, 89, 5, 18, 36, 83, 89, 6, 18, 38]
abbrev dktX1_init_2 : List UInt8 := dkwX1_init_2 ++ dktX1_init_3
def dkwX1_init_1 : List UInt8 := [42, 6, 189, 0, 20, 89, 3, 18, 22, 83, 89, 4, 18, 24, 83, 89, 5, 18, 26, 83, 181, 0, 28, 42]
abbrev dktX1_init_1 : List UInt8 := dkwX1_init_1 ++ dktX1_init_2
def dkwX1_init_0 : List UInt8 := [42, 183, 0, 1, 42, 17, 3, 172, 188, 8, 181, 0, 9, 42, 187, 0, 13, 89, 183, 0, 15, 181, 0, 16]
abbrev dktX1_init_0 : List UInt8 := dkwX1_init_0 ++ dktX1_init_1
theorem dksX1_init_0 : cX1_init.data.toList.drop 0 = dktX1_init_0 := by decide +kernel
theorem dksX1_init_1 : cX1_init.data.toList.drop 24 = dktX1_init_1 := dk_seg dksX1_init_0 24 rfl rfl
theorem dksX1_init_2 : cX1_init.data.toList.drop 48 = dktX1_init_2 := dk_seg dksX1_init_1 24 rfl rfl
theorem dksX1_init_3 : cX1_init.data.toList.drop 72 = dktX1_init_3 := dk_seg dksX1_init_2 24 rfl rfl
theorem dksX1_init_4 : cX1_init.data.toList.drop 96 = dktX1_init_4 := dk_seg dksX1_init_3 24 rfl rfl
theorem dksX1_init_5 : cX1_init.data.toList.drop 120 = dktX1_init_5 := dk_seg dksX1_init_4 24 rfl rfl
theorem dksX1_init_6 : cX1_init.data.toList.drop 144 = dktX1_init_6 := dk_seg dksX1_init_5 24 rfl rfl
theorem dksX1_init_7 : cX1_init.data.toList.drop 167 = dktX1_init_7 := dk_seg dksX1_init_6 23 rfl rfl
theorem dksX1_init_8 : cX1_init.data.toList.drop 189 = dktX1_init_8 := dk_seg dksX1_init_7 22 rfl rfl
theorem dksX1_init_9 : cX1_init.data.toList.drop 212 = dktX1_init_9 := dk_seg dksX1_init_8 23 rfl rfl
theorem dksX1_init_10 : cX1_init.data.toList.drop 235 = dktX1_init_10 := dk_seg dksX1_init_9 23 rfl rfl
theorem dksX1_init_11 : cX1_init.data.toList.drop 259 = dktX1_init_11 := dk_seg dksX1_init_10 24 rfl rfl
theorem dksX1_init_12 : cX1_init.data.toList.drop 283 = dktX1_init_12 := dk_seg dksX1_init_11 24 rfl rfl
theorem dX1_init_0 : decode cX1_init 0 = .ok (.aload_n 0, 1) := dk_42 (dk_at dksX1_init_0 0 rfl rfl)
theorem dX1_init_1 : decode cX1_init 1 = .ok (.invokespecial 1, 3) := dk_183 0 1 (dk_at dksX1_init_0 1 rfl rfl)
theorem dX1_init_4 : decode cX1_init 4 = .ok (.aload_n 0, 1) := dk_42 (dk_at dksX1_init_0 4 rfl rfl)
theorem dX1_init_5 : decode cX1_init 5 = .ok (.sipush 940, 3) := dk_17 3 172 (dk_at dksX1_init_0 5 rfl rfl)
theorem dX1_init_8 : decode cX1_init 8 = .ok (.newarray .byte, 2) := dk_188_8 (dk_at dksX1_init_0 8 rfl rfl)
theorem dX1_init_10 : decode cX1_init 10 = .ok (.putfield 9, 3) := dk_181 0 9 (dk_at dksX1_init_0 10 rfl rfl)
theorem dX1_init_13 : decode cX1_init 13 = .ok (.aload_n 0, 1) := dk_42 (dk_at dksX1_init_0 13 rfl rfl)
theorem dX1_init_14 : decode cX1_init 14 = .ok (.new 13, 3) := dk_187 0 13 (dk_at dksX1_init_0 14 rfl rfl)
theorem dX1_init_17 : decode cX1_init 17 = .ok (.dup, 1) := dk_89 (dk_at dksX1_init_0 17 rfl rfl)
theorem dX1_init_18 : decode cX1_init 18 = .ok (.invokespecial 15, 3) := dk_183 0 15 (dk_at dksX1_init_0 18 rfl rfl)
theorem dX1_init_21 : decode cX1_init 21 = .ok (.putfield 16, 3) := dk_181 0 16 (dk_at dksX1_init_0 21 rfl rfl)
theorem dX1_init_24 : decode cX1_init 24 = .ok (.aload_n 0, 1) := dk_42 (dk_at dksX1_init_1 0 rfl rfl)
theorem dX1_init_25 : decode cX1_init 25 = .ok (.iconst 3, 1) := dk_6 (dk_at dksX1_init_1 1 rfl rfl)
theorem dX1_init_26 : decode cX1_init 26 = .ok (.anewarray 20, 3) := dk_189 0 20 (dk_at dksX1_init_1 2 rfl rfl)
theorem dX1_init_29 : decode cX1_init 29 = .ok (.dup, 1) := dk_89 (dk_at dksX1_init_1 5 rfl rfl)
theorem dX1_init_30 : decode cX1_init 30 = .ok (.iconst 0, 1) := dk_3 (dk_at dksX1_init_1 6 rfl rfl)
theorem dX1_init_31 : decode cX1_init 31 = .ok (.ldc 22, 2) := dk_18 22 (dk_at dksX1_init_1 7 rfl rfl)
theorem dX1_init_33 : decode cX1_init 33 = .ok (.aastore, 1) := dk_83 (dk_at dksX1_init_1 9 rfl rfl)
theorem dX1_init_34 : decode cX1_init 34 = .ok (.dup, 1) := dk_89 (dk_at dksX1_init_1 10 rfl rfl)
theorem dX1_init_35 : decode cX1_init 35 = .ok (.iconst 1, 1) := dk_4 (dk_at dksX1_init_1 11 rfl rfl)
theorem dX1_init_36 : decode cX1_init 36 = .ok (.ldc 24, 2) := dk_18 24 (dk_at dksX1_init_1 12 rfl rfl)
theorem dX1_init_38 : decode cX1_init 38 = .ok (.aastore, 1) := dk_83 (dk_at dksX1_init_1 14 rfl rfl)
theorem dX1_init_39 : decode cX1_init 39 = .ok (.dup, 1) := dk_89 (dk_at dksX1_init_1 15 rfl rfl)
theorem dX1_init_40 : decode cX1_init 40 = .ok (.iconst 2, 1) := dk_5 (dk_at dksX1_init_1 16 rfl rfl)
theorem dX1_init_41 : decode cX1_init 41 = .ok (.ldc 26, 2) := dk_18 26 (dk_at dksX1_init_1 17 rfl rfl)
theorem dX1_init_43 : decode cX1_init 43 = .ok (.aastore, 1) := dk_83 (dk_at dksX1_init_1 19 rfl rfl)
theorem dX1_init_44 : decode cX1_init 44 = .ok (.putfield 28, 3) := dk_181 0 28 (dk_at dksX1_init_1 20 rfl rfl)
theorem dX1_init_47 : decode cX1_init 47 = .ok (.aload_n 0, 1) := dk_42 (dk_at dksX1_init_1 23 rfl rfl)
theorem dX1_init_48 : decode cX1_init 48 = .ok (.bipush 20, 2) := dk_16 20 (dk_at dksX1_init_2 0 rfl rfl)
theorem dX1_init_50 : decode cX1_init 50 = .ok (.anewarray 20, 3) := dk_189 0 20 (dk_at dksX1_init_2 2 rfl rfl)
theorem dX1_init_53 : decode cX1_init 53 = .ok (.dup, 1) := dk_89 (dk_at dksX1_init_2 5 rfl rfl)
theorem dX1_init_54 : decode cX1_init 54 = .ok (.iconst 0, 1) := dk_3 (dk_at dksX1_init_2 6 rfl rfl)
theorem dX1_init_55 : decode cX1_init 55 = .ok (.ldc 32, 2) := dk_18 32 (dk_at dksX1_init_2 7 rfl rfl)
theorem dX1_init_57 : decode cX1_init 57 = .ok (.aastore, 1) := dk_83 (dk_at dksX1_init_2 9 rfl rfl)
theorem dX1_init_58 : decode cX1_init 58 = .ok (.dup, 1) := dk_89 (dk_at dksX1_init_2 10 rfl rfl)
theorem dX1_init_59 : decode cX1_init 59 = .ok (.iconst 1, 1) := dk_4 (dk_at dksX1_init_2 11 rfl rfl)
theorem dX1_init_60 : decode cX1_init 60 = .ok (.ldc 34, 2) := dk_18 34 (dk_at dksX1_init_2 12 rfl rfl)
theorem dX1_init_62 : decode cX1_init 62 = .ok (.aastore, 1) := dk_83 (dk_at dksX1_init_2 14 rfl rfl)
theorem dX1_init_63 : decode cX1_init 63 = .ok (.dup, 1) := dk_89 (dk_at dksX1_init_2 15 rfl rfl)
theorem dX1_init_64 : decode cX1_init 64 = .ok (.iconst 2, 1) := dk_5 (dk_at dksX1_init_2 16 rfl rfl)
theorem dX1_init_65 : decode cX1_init 65 = .ok (.ldc 36, 2) := dk_18 36 (dk_at dksX1_init_2 17 rfl rfl)
theorem dX1_init_67 : decode cX1_init 67 = .ok (.aastore, 1) := dk_83 (dk_at dksX1_init_2 19 rfl rfl)
theorem dX1_init_68 : decode cX1_init 68 = .ok (.dup, 1) := dk_89 (dk_at dksX1_init_2 20 rfl rfl)
theorem dX1_init_69 : decode cX1_init 69 = .ok (.iconst 3, 1) := dk_6 (dk_at dksX1_init_2 21 rfl rfl)
theorem dX1_init_70 : decode cX1_init 70 = .ok (.ldc 38, 2) := dk_18 38 (dk_at dksX1_init_2 22 rfl rfl)
theorem dX1_init_72 : decode cX1_init 72 = .ok (.aastore, 1) := dk_83 (dk_at dksX1_init_3 0 rfl rfl)
theorem dX1_init_73 : decode cX1_init 73 = .ok (.dup, 1) := dk_89 (dk_at dksX1_init_3 1 rfl rfl)
theorem dX1_init_74 : decode cX1_init 74 = .ok (.iconst 4, 1) := dk_7 (dk_at dksX1_init_3 2 rfl rfl)
theorem dX1_init_75 : decode cX1_init 75 = .ok (.ldc 40, 2) := dk_18 40 (dk_at dksX1_init_3 3 rfl rfl)
theorem dX1_init_77 : decode cX1_init 77 = .ok (.aastore, 1) := dk_83 (dk_at dksX1_init_3 5 rfl rfl)
theorem dX1_init_78 : decode cX1_init 78 = .ok (.dup, 1) := dk_89 (dk_at dksX1_init_3 6 rfl rfl)
theorem dX1_init_79 : decode cX1_init 79 = .ok (.iconst 5, 1) := dk_8 (dk_at dksX1_init_3 7 rfl rfl)
theorem dX1_init_80 : decode cX1_init 80 = .ok (.ldc 42, 2) := dk_18 42 (dk_at dksX1_init_3 8 rfl rfl)
theorem dX1_init_82 : decode cX1_init 82 = .ok (.aastore, 1) := dk_83 (dk_at dksX1_init_3 10 rfl rfl)
theorem dX1_init_83 : decode cX1_init 83 = .ok (.dup, 1) := dk_89 (dk_at dksX1_init_3 11 rfl rfl)
theorem dX1_init_84 : decode cX1_init 84 = .ok (.bipush 6, 2) := dk_16 6 (dk_at dksX1_init_3 12 rfl rfl)
theorem dX1_init_86 : decode cX1_init 86 = .ok (.ldc 44, 2) := dk_18 44 (dk_at dksX1_init_3 14 rfl rfl)
theorem dX1_init_88 : decode cX1_init 88 = .ok (.aastore, 1) := dk_83 (dk_at dksX1_init_3 16 rfl rfl)
theorem dX1_init_89 : decode cX1_init 89 = .ok (.dup, 1) := dk_89 (dk_at dksX1_init_3 17 rfl rfl)
theorem dX1_init_90 : decode cX1_init 90 = .ok (.bipush 7, 2) := dk_16 7 (dk_at dksX1_init_3 18 rfl rfl)
theorem dX1_init_92 : decode cX1_init 92 = .ok (.ldc 46, 2) := dk_18 46 (dk_at dksX1_init_3 20 rfl rfl)
theorem dX1_init_94 : decode cX1_init 94 = .ok (.aastore, 1) := dk_83 (dk_at dksX1_init_3 22 rfl rfl)
theorem dX1_init_95 : decode cX1_init 95 = .ok (.dup, 1) := dk_89 (dk_at dksX1_init_3 23 rfl rfl)
theorem dX1_init_96 : decode cX1_init 96 = .ok (.bipush 8, 2) := dk_16 8 (dk_at dksX1_init_4 0 rfl rfl)
theorem dX1_init_98 : decode cX1_init 98 = .ok (.ldc 48, 2) := dk_18 48 (dk_at dksX1_init_4 2 rfl rfl)
theorem dX1_init_100 : decode cX1_init 100 = .ok (.aastore, 1) := dk_83 (dk_at dksX1_init_4 4 rfl rfl)
theorem dX1_init_101 : decode cX1_init 101 = .ok (.dup, 1) := dk_89 (dk_at dksX1_init_4 5 rfl rfl)
theorem dX1_init_102 : decode cX1_init 102 = .ok (.bipush 9, 2) := dk_16 9 (dk_at dksX1_init_4 6 rfl rfl)
theorem dX1_init_104 : decode cX1_init 104 = .ok (.ldc 50, 2) := dk_18 50 (dk_at dksX1_init_4 8 rfl rfl)
theorem dX1_init_106 : decode cX1_init 106 = .ok (.aastore, 1) := dk_83 (dk_at dksX1_init_4 10 rfl rfl)
theorem dX1_init_107 : decode cX1_init 107 = .ok (.dup, 1) := dk_89 (dk_at dksX1_init_4 11 rfl rfl)
theorem dX1_init_108 : decode cX1_init 108 = .ok (.bipush 10, 2) := dk_16 10 (dk_at dksX1_init_4 12 rfl rfl)
theorem dX1_init_110 : decode cX1_init 110 = .ok (.ldc 52, 2) := dk_18 52 (dk_at dksX1_init_4 14 rfl rfl)
theorem dX1_init_112 : decode cX1_init 112 = .ok (.aastore, 1) := dk_83 (dk_at dksX1_init_4 16 rfl rfl)
theorem dX1_init_113 : decode cX1_init 113 = .ok (.dup, 1) := dk_89 (dk_at dksX1_init_4 17 rfl rfl)
theorem dX1_init_114 : decode cX1_init 114 = .ok (.bipush 11, 2) := dk_16 11 (dk_at dksX1_init_4 18 rfl rfl)
theorem dX1_init_116 : decode cX1_init 116 = .ok (.ldc 54, 2) := dk_18 54 (dk_at dksX1_init_4 20 rfl rfl)
theorem dX1_init_118 : decode cX1_init 118 = .ok (.aastore, 1) := dk_83 (dk_at dksX1_init_4 22 rfl rfl)
theorem dX1_init_119 : decode cX1_init 119 = .ok (.dup, 1) := dk_89 (dk_at dksX1_init_4 23 rfl rfl)
theorem dX1_init_120 : decode cX1_init 120 = .ok (.bipush 12, 2) := dk_16 12 (dk_at dksX1_init_5 0 rfl rfl)
theorem dX1_init_122 : decode cX1_init 122 = .ok (.ldc 56, 2) := dk_18 56 (dk_at dksX1_init_5 2 rfl rfl)
theorem dX1_init_124 : decode cX1_init 124 = .ok (.aastore, 1) := dk_83 (dk_at dksX1_init_5 4 rfl rfl)
theorem dX1_init_125 : decode cX1_init 125 = .ok (.dup, 1) := dk_89 (dk_at dksX1_init_5 5 rfl rfl)
theorem dX1_init_126 : decode cX1_init 126 = .ok (.bipush 13, 2) := dk_16 13 (dk_at dksX1_init_5 6 rfl rfl)
theorem dX1_init_128 : decode cX1_init 128 = .ok (.ldc 58, 2) := dk_18 58 (dk_at dksX1_init_5 8 rfl rfl)
theorem dX1_init_130 : decode cX1_init 130 = .ok (.aastore, 1) := dk_83 (dk_at dksX1_init_5 10 rfl rfl)
theorem dX1_init_131 : decode cX1_init 131 = .ok (.dup, 1) := dk_89 (dk_at dksX1_init_5 11 rfl rfl)
theorem dX1_init_132 : decode cX1_init 132 = .ok (.bipush 14, 2) := dk_16 14 (dk_at dksX1_init_5 12 rfl rfl)
theorem dX1_init_134 : decode cX1_init 134 = .ok (.ldc 60, 2) := dk_18 60 (dk_at dksX1_init_5 14 rfl rfl)
theorem dX1_init_136 : decode cX1_init 136 = .ok (.aastore, 1) := dk_83 (dk_at dksX1_init_5 16 rfl rfl)
theorem dX1_init_137 : decode cX1_init 137 = .ok (.dup, 1) := dk_89 (dk_at dksX1_init_5 17 rfl rfl)
theorem dX1_init_138 : decode cX1_init 138 = .ok (.bipush 15, 2) := dk_16 15 (dk_at dksX1_init_5 18 rfl rfl)
theorem dX1_init_140 : decode cX1_init 140 = .ok (.ldc 62, 2) := dk_18 62 (dk_at dksX1_init_5 20 rfl rfl)
theorem dX1_init_142 : decode cX1_init 142 = .ok (.aastore, 1) := dk_83 (dk_at dksX1_init_5 22 rfl rfl)
theorem dX1_init_143 : decode cX1_init 143 = .ok (.dup, 1) := dk_89 (dk_at dksX1_init_5 23 rfl rfl)
theorem dX1_init_144 : decode cX1_init 144 = .ok (.bipush 16, 2) := dk_16 16 (dk_at dksX1_init_6 0 rfl rfl)
theorem dX1_init_146 : decode cX1_init 146 = .ok (.ldc 64, 2) := dk_18 64 (dk_at dksX1_init_6 2 rfl rfl)
theorem dX1_init_148 : decode cX1_init 148 = .ok (.aastore, 1) := dk_83 (dk_at dksX1_init_6 4 rfl rfl)
theorem dX1_init_149 : decode cX1_init 149 = .ok (.dup, 1) := dk_89 (dk_at dksX1_init_6 5 rfl rfl)
theorem dX1_init_150 : decode cX1_init 150 = .ok (.bipush 17, 2) := dk_16 17 (dk_at dksX1_init_6 6 rfl rfl)
theorem dX1_init_152 : decode cX1_init 152 = .ok (.ldc 66, 2) := dk_18 66 (dk_at dksX1_init_6 8 rfl rfl)
theorem dX1_init_154 : decode cX1_init 154 = .ok (.aastore, 1) := dk_83 (dk_at dksX1_init_6 10 rfl rfl)
theorem dX1_init_155 : decode cX1_init 155 = .ok (.dup, 1) := dk_89 (dk_at dksX1_init_6 11 rfl rfl)
theorem dX1_init_156 : decode cX1_init 156 = .ok (.bipush 18, 2) := dk_16 18 (dk_at dksX1_init_6 12 rfl rfl)
theorem dX1_init_158 : decode cX1_init 158 = .ok (.ldc 68, 2) := dk_18 68 (dk_at dksX1_init_6 14 rfl rfl)
theorem dX1_init_160 : decode cX1_init 160 = .ok (.aastore, 1) := dk_83 (dk_at dksX1_init_6 16 rfl rfl)
theorem dX1_init_161 : decode cX1_init 161 = .ok (.dup, 1) := dk_89 (dk_at dksX1_init_6 17 rfl rfl)
theorem dX1_init_162 : decode cX1_init 162 = .ok (.bipush 19, 2) := dk_16 19 (dk_at dksX1_init_6 18 rfl rfl)
theorem dX1_init_164 : decode cX1_init 164 = .ok (.ldc 70, 2) := dk_18 70 (dk_at dksX1_init_6 20 rfl rfl)
theorem dX1_init_166 : decode cX1_init 166 = .ok (.aastore, 1) := dk_83 (dk_at dksX1_init_6 22 rfl rfl)
theorem dX1_init_167 : decode cX1_init 167 = .ok (.putfield 72, 3) := dk_181 0 72 (dk_at dksX1_init_7 0 rfl rfl)
theorem dX1_init_170 : decode cX1_init 170 = .ok (.aload_n 0, 1) := dk_42 (dk_at dksX1_init_7 3 rfl rfl)
theorem dX1_init_171 : decode cX1_init 171 = .ok (.new 75, 3) := dk_187 0 75 (dk_at dksX1_init_7 4 rfl rfl)
theorem dX1_init_174 : decode cX1_init 174 = .ok (.dup, 1) := dk_89 (dk_at dksX1_init_7 7 rfl rfl)
theorem dX1_init_175 : decode cX1_init 175 = .ok (.invokespecial 77, 3) := dk_183 0 77 (dk_at dksX1_init_7 8 rfl rfl)
theorem dX1_init_178 : decode cX1_init 178 = .ok (.putfield 78, 3) := dk_181 0 78 (dk_at dksX1_init_7 11 rfl rfl)
theorem dX1_init_181 : decode cX1_init 181 = .ok (.aload_n 0, 1) := dk_42 (dk_at dksX1_init_7 14 rfl rfl)
theorem dX1_init_182 : decode cX1_init 182 = .ok (.new 82, 3) := dk_187 0 82 (dk_at dksX1_init_7 15 rfl rfl)
theorem dX1_init_185 : decode cX1_init 185 = .ok (.dup, 1) := dk_89 (dk_at dksX1_init_7 18 rfl rfl)
theorem dX1_init_186 : decode cX1_init 186 = .ok (.invokespecial 84, 3) := dk_183 0 84 (dk_at dksX1_init_7 19 rfl rfl)
theorem dX1_init_189 : decode cX1_init 189 = .ok (.putfield 85, 3) := dk_181 0 85 (dk_at dksX1_init_8 0 rfl rfl)
theorem dX1_init_192 : decode cX1_init 192 = .ok (.aload_n 0, 1) := dk_42 (dk_at dksX1_init_8 3 rfl rfl)
theorem dX1_init_193 : decode cX1_init 193 = .ok (.new 82, 3) := dk_187 0 82 (dk_at dksX1_init_8 4 rfl rfl)
theorem dX1_init_196 : decode cX1_init 196 = .ok (.dup, 1) := dk_89 (dk_at dksX1_init_8 7 rfl rfl)
theorem dX1_init_197 : decode cX1_init 197 = .ok (.invokespecial 84, 3) := dk_183 0 84 (dk_at dksX1_init_8 8 rfl rfl)
theorem dX1_init_200 : decode cX1_init 200 = .ok (.putfield 89, 3) := dk_181 0 89 (dk_at dksX1_init_8 11 rfl rfl)
theorem dX1_init_203 : decode cX1_init 203 = .ok (.aload_n 0, 1) := dk_42 (dk_at dksX1_init_8 14 rfl rfl)
theorem dX1_init_204 : decode cX1_init 204 = .ok (.new 92, 3) := dk_187 0 92 (dk_at dksX1_init_8 15 rfl rfl)
theorem dX1_init_207 : decode cX1_init 207 = .ok (.dup, 1) := dk_89 (dk_at dksX1_init_8 18 rfl rfl)
theorem dX1_init_208 : decode cX1_init 208 = .ok (.aload_n 0, 1) := dk_42 (dk_at dksX1_init_8 19 rfl rfl)
theorem dX1_init_209 : decode cX1_init 209 = .ok (.invokespecial 94, 3) := dk_183 0 94 (dk_at dksX1_init_8 20 rfl rfl)
theorem dX1_init_212 : decode cX1_init 212 = .ok (.putfield 97, 3) := dk_181 0 97 (dk_at dksX1_init_9 0 rfl rfl)
theorem dX1_init_215 : decode cX1_init 215 = .ok (.aload_n 0, 1) := dk_42 (dk_at dksX1_init_9 3 rfl rfl)
theorem dX1_init_216 : decode cX1_init 216 = .ok (.new 101, 3) := dk_187 0 101 (dk_at dksX1_init_9 4 rfl rfl)
theorem dX1_init_219 : decode cX1_init 219 = .ok (.dup, 1) := dk_89 (dk_at dksX1_init_9 7 rfl rfl)
theorem dX1_init_220 : decode cX1_init 220 = .ok (.aload_n 0, 1) := dk_42 (dk_at dksX1_init_9 8 rfl rfl)
theorem dX1_init_221 : decode cX1_init 221 = .ok (.invokespecial 103, 3) := dk_183 0 103 (dk_at dksX1_init_9 9 rfl rfl)
theorem dX1_init_224 : decode cX1_init 224 = .ok (.putfield 104, 3) := dk_181 0 104 (dk_at dksX1_init_9 12 rfl rfl)
theorem dX1_init_227 : decode cX1_init 227 = .ok (.aload_n 0, 1) := dk_42 (dk_at dksX1_init_9 15 rfl rfl)
theorem dX1_init_228 : decode cX1_init 228 = .ok (.getfield 85, 3) := dk_180 0 85 (dk_at dksX1_init_9 16 rfl rfl)
theorem dX1_init_231 : decode cX1_init 231 = .ok (.aload_n 0, 1) := dk_42 (dk_at dksX1_init_9 19 rfl rfl)
theorem dX1_init_232 : decode cX1_init 232 = .ok (.getfield 78, 3) := dk_180 0 78 (dk_at dksX1_init_9 20 rfl rfl)
theorem dX1_init_235 : decode cX1_init 235 = .ok (.invokevirtual 108, 3) := dk_182 0 108 (dk_at dksX1_init_10 0 rfl rfl)
theorem dX1_init_238 : decode cX1_init 238 = .ok (.aload_n 0, 1) := dk_42 (dk_at dksX1_init_10 3 rfl rfl)
theorem dX1_init_239 : decode cX1_init 239 = .ok (.getfield 89, 3) := dk_180 0 89 (dk_at dksX1_init_10 4 rfl rfl)
theorem dX1_init_242 : decode cX1_init 242 = .ok (.aload_n 0, 1) := dk_42 (dk_at dksX1_init_10 7 rfl rfl)
theorem dX1_init_243 : decode cX1_init 243 = .ok (.getfield 78, 3) := dk_180 0 78 (dk_at dksX1_init_10 8 rfl rfl)
theorem dX1_init_246 : decode cX1_init 246 = .ok (.invokevirtual 108, 3) := dk_182 0 108 (dk_at dksX1_init_10 11 rfl rfl)
theorem dX1_init_249 : decode cX1_init 249 = .ok (.aload_n 0, 1) := dk_42 (dk_at dksX1_init_10 14 rfl rfl)
theorem dX1_init_250 : decode cX1_init 250 = .ok (.sipush 600, 3) := dk_17 2 88 (dk_at dksX1_init_10 15 rfl rfl)
theorem dX1_init_253 : decode cX1_init 253 = .ok (.newarray .int, 2) := dk_188_10 (dk_at dksX1_init_10 18 rfl rfl)
theorem dX1_init_255 : decode cX1_init 255 = .ok (.putfield 112, 3) := dk_181 0 112 (dk_at dksX1_init_10 20 rfl rfl)
theorem dX1_init_258 : decode cX1_init 258 = .ok (.aload_n 0, 1) := dk_42 (dk_at dksX1_init_10 23 rfl rfl)
theorem dX1_init_259 : decode cX1_init 259 = .ok (.iconst (-1), 1) := dk_2 (dk_at dksX1_init_11 0 rfl rfl)
theorem dX1_init_260 : decode cX1_init 260 = .ok (.putfield 116, 3) := dk_181 0 116 (dk_at dksX1_init_11 1 rfl rfl)
theorem dX1_init_263 : decode cX1_init 263 = .ok (.aload_n 0, 1) := dk_42 (dk_at dksX1_init_11 4 rfl rfl)
theorem dX1_init_264 : decode cX1_init 264 = .ok (.bipush 8, 2) := dk_16 8 (dk_at dksX1_init_11 5 rfl rfl)
theorem dX1_init_266 : decode cX1_init 266 = .ok (.anewarray 120, 3) := dk_189 0 120 (dk_at dksX1_init_11 7 rfl rfl)
theorem dX1_init_269 : decode cX1_init 269 = .ok (.putfield 122, 3) := dk_181 0 122 (dk_at dksX1_init_11 10 rfl rfl)
theorem dX1_init_272 : decode cX1_init 272 = .ok (.aload_n 0, 1) := dk_42 (dk_at dksX1_init_11 13 rfl rfl)
theorem dX1_init_273 : decode cX1_init 273 = .ok (.iconst 4, 1) := dk_7 (dk_at dksX1_init_11 14 rfl rfl)
theorem dX1_init_274 : decode cX1_init 274 = .ok (.newarray .int, 2) := dk_188_10 (dk_at dksX1_init_11 15 rfl rfl)
theorem dX1_init_276 : decode cX1_init 276 = .ok (.putfield 126, 3) := dk_181 0 126 (dk_at dksX1_init_11 17 rfl rfl)
theorem dX1_init_279 : decode cX1_init 279 = .ok (.aload_n 0, 1) := dk_42 (dk_at dksX1_init_11 20 rfl rfl)
theorem dX1_init_280 : decode cX1_init 280 = .ok (.new 129, 3) := dk_187 0 129 (dk_at dksX1_init_11 21 rfl rfl)
theorem dX1_init_283 : decode cX1_init 283 = .ok (.dup, 1) := dk_89 (dk_at dksX1_init_12 0 rfl rfl)
theorem dX1_init_284 : decode cX1_init 284 = .ok (.aload_n 0, 1) := dk_42 (dk_at dksX1_init_12 1 rfl rfl)
theorem dX1_init_285 : decode cX1_init 285 = .ok (.invokespecial 131, 3) := dk_183 0 131 (dk_at dksX1_init_12 2 rfl rfl)
theorem dX1_init_288 : decode cX1_init 288 = .ok (.putfield 132, 3) := dk_181 0 132 (dk_at dksX1_init_12 5 rfl rfl)
theorem dX1_init_291 : decode cX1_init 291 = .ok (.aload_n 0, 1) := dk_42 (dk_at dksX1_init_12 8 rfl rfl)
theorem dX1_init_292 : decode cX1_init 292 = .ok (.iconst 2, 1) := dk_5 (dk_at dksX1_init_12 9 rfl rfl)
theorem dX1_init_293 : decode cX1_init 293 = .ok (.anewarray 136, 3) := dk_189 0 136 (dk_at dksX1_init_12 10 rfl rfl)
theorem dX1_init_296 : decode cX1_init 296 = .ok (.putfield 138, 3) := dk_181 0 138 (dk_at dksX1_init_12 13 rfl rfl)
theorem dX1_init_299 : decode cX1_init 299 = .ok (.return_, 1) := dk_177 (dk_at dksX1_init_12 16 rfl rfl)
abbrev cX1_feed : ByteArray := prog_1_method_2_code
def yX1_feed : MethodName := ⟨RX1, "feed", "(IIIII)I"⟩
def dkwX1_feed_2 : List UInt8 := [172]
abbrev dktX1_feed_2 : List UInt8 := dkwX1_feed_2 ++ []
def dkwX1_feed_1 : List UInt8 := [182, 0, 145, 42, 29, 182, 0, 145, 42, 21, 4, 182, 0, 145, 42, 21, 5, 182, 0, 145, 42, 180, 0, 142]
abbrev dktX1_feed_1 : List UInt8 := dkwX1_feed_1 ++ dktX1_feed_2
def dkwX1_feed_0 : List UInt8 := [42, 180, 0, 142, 16, 20, 96, 17, 3, 172, 164, 0, 5, 2, 172, 42, 27, 182, 0, 145, 42, 28]
abbrev dktX1_feed_0 : List UInt8 := dkwX1_feed_0 ++ dktX1_feed_1
theorem dksX1_feed_0 : cX1_feed.data.toList.drop 0 = dktX1_feed_0 := by decide +kernel
theorem dksX1_feed_1 : cX1_feed.data.toList.drop 22 = dktX1_feed_1 := dk_seg dksX1_feed_0 22 rfl rfl
theorem dksX1_feed_2 : cX1_feed.data.toList.drop 46 = dktX1_feed_2 := dk_seg dksX1_feed_1 24 rfl rfl
theorem dX1_feed_0 : decode cX1_feed 0 = .ok (.aload_n 0, 1) := dk_42 (dk_at dksX1_feed_0 0 rfl rfl)
theorem dX1_feed_1 : decode cX1_feed 1 = .ok (.getfield 142, 3) := dk_180 0 142 (dk_at dksX1_feed_0 1 rfl rfl)
theorem dX1_feed_4 : decode cX1_feed 4 = .ok (.bipush 20, 2) := dk_16 20 (dk_at dksX1_feed_0 4 rfl rfl)
theorem dX1_feed_6 : decode cX1_feed 6 = .ok (.iadd, 1) := dk_96 (dk_at dksX1_feed_0 6 rfl rfl)
theorem dX1_feed_7 : decode cX1_feed 7 = .ok (.sipush 940, 3) := dk_17 3 172 (dk_at dksX1_feed_0 7 rfl rfl)
theorem dX1_feed_10 : decode cX1_feed 10 = .ok (.if_icmp .le 5, 3) := dk_164 0 5 (dk_at dksX1_feed_0 10 rfl rfl)
theorem dX1_feed_13 : decode cX1_feed 13 = .ok (.iconst (-1), 1) := dk_2 (dk_at dksX1_feed_0 13 rfl rfl)
theorem dX1_feed_14 : decode cX1_feed 14 = .ok (.ireturn, 1) := dk_172 (dk_at dksX1_feed_0 14 rfl rfl)
theorem dX1_feed_15 : decode cX1_feed 15 = .ok (.aload_n 0, 1) := dk_42 (dk_at dksX1_feed_0 15 rfl rfl)
theorem dX1_feed_16 : decode cX1_feed 16 = .ok (.iload_n 1, 1) := dk_27 (dk_at dksX1_feed_0 16 rfl rfl)
theorem dX1_feed_17 : decode cX1_feed 17 = .ok (.invokevirtual 145, 3) := dk_182 0 145 (dk_at dksX1_feed_0 17 rfl rfl)
theorem dX1_feed_20 : decode cX1_feed 20 = .ok (.aload_n 0, 1) := dk_42 (dk_at dksX1_feed_0 20 rfl rfl)
theorem dX1_feed_21 : decode cX1_feed 21 = .ok (.iload_n 2, 1) := dk_28 (dk_at dksX1_feed_0 21 rfl rfl)
theorem dX1_feed_22 : decode cX1_feed 22 = .ok (.invokevirtual 145, 3) := dk_182 0 145 (dk_at dksX1_feed_1 0 rfl rfl)
theorem dX1_feed_25 : decode cX1_feed 25 = .ok (.aload_n 0, 1) := dk_42 (dk_at dksX1_feed_1 3 rfl rfl)
theorem dX1_feed_26 : decode cX1_feed 26 = .ok (.iload_n 3, 1) := dk_29 (dk_at dksX1_feed_1 4 rfl rfl)
theorem dX1_feed_27 : decode cX1_feed 27 = .ok (.invokevirtual 145, 3) := dk_182 0 145 (dk_at dksX1_feed_1 5 rfl rfl)
theorem dX1_feed_30 : decode cX1_feed 30 = .ok (.aload_n 0, 1) := dk_42 (dk_at dksX1_feed_1 8 rfl rfl)
theorem dX1_feed_31 : decode cX1_feed 31 = .ok (.iload 4, 2) := dk_21 4 (dk_at dksX1_feed_1 9 rfl rfl)
theorem dX1_feed_33 : decode cX1_feed 33 = .ok (.invokevirtual 145, 3) := dk_182 0 145 (dk_at dksX1_feed_1 11 rfl rfl)
theorem dX1_feed_36 : decode cX1_feed 36 = .ok (.aload_n 0, 1) := dk_42 (dk_at dksX1_feed_1 14 rfl rfl)
theorem dX1_feed_37 : decode cX1_feed 37 = .ok (.iload 5, 2) := dk_21 5 (dk_at dksX1_feed_1 15 rfl rfl)
theorem dX1_feed_39 : decode cX1_feed 39 = .ok (.invokevirtual 145, 3) := dk_182 0 145 (dk_at dksX1_feed_1 17 rfl rfl)
theorem dX1_feed_42 : decode cX1_feed 42 = .ok (.aload_n 0, 1) := dk_42 (dk_at dksX1_feed_1 20 rfl rfl)
theorem dX1_feed_43 : decode cX1_feed 43 = .ok (.getfield 142, 3) := dk_180 0 142 (dk_at dksX1_feed_1 21 rfl rfl)
theorem dX1_feed_46 : decode cX1_feed 46 = .ok (.ireturn, 1) := dk_172 (dk_at dksX1_feed_2 0 rfl rfl)
abbrev cX1_four : ByteArray := prog_1_method_3_code
def yX1_four : MethodName := ⟨RX1, "fou\x72", "(I)V"⟩
def dkwX1_four_1 : List UInt8 := [180, 0, 142, 4, 96, 181, 0, 142, 132, 2, 248, 167, 255, 226, 177]
abbrev dktX1_four_1 : List UInt8 := dkwX1_four_1 ++ []
def dkwX1_four_0 : List UInt8 := [16, 24, 61, 28, 155, 0, 32, 42, 180, 0, 9, 42, 180, 0, 142, 27, 28, 122, 145, 84, 42, 89]
abbrev dktX1_four_0 : List UInt8 := dkwX1_four_0 ++ dktX1_four_1
theorem dksX1_four_0 : cX1_four.data.toList.drop 0 = dktX1_four_0 := by decide +kernel
theorem dksX1_four_1 : cX1_four.data.toList.drop 22 = dktX1_four_1 := dk_seg dksX1_four_0 22 rfl rfl
theorem dX1_four_0 : decode cX1_four 0 = .ok (.bipush 24, 2) := dk_16 24 (dk_at dksX1_four_0 0 rfl rfl)
theorem dX1_four_2 : decode cX1_four 2 = .ok (.istore_n 2, 1) := dk_61 (dk_at dksX1_four_0 2 rfl rfl)
theorem dX1_four_3 : decode cX1_four 3 = .ok (.iload_n 2, 1) := dk_28 (dk_at dksX1_four_0 3 rfl rfl)
theorem dX1_four_4 : decode cX1_four 4 = .ok (.ifCond .lt 32, 3) := dk_155 0 32 (dk_at dksX1_four_0 4 rfl rfl)
theorem dX1_four_7 : decode cX1_four 7 = .ok (.aload_n 0, 1) := dk_42 (dk_at dksX1_four_0 7 rfl rfl)
theorem dX1_four_8 : decode cX1_four 8 = .ok (.getfield 9, 3) := dk_180 0 9 (dk_at dksX1_four_0 8 rfl rfl)
theorem dX1_four_11 : decode cX1_four 11 = .ok (.aload_n 0, 1) := dk_42 (dk_at dksX1_four_0 11 rfl rfl)
theorem dX1_four_12 : decode cX1_four 12 = .ok (.getfield 142, 3) := dk_180 0 142 (dk_at dksX1_four_0 12 rfl rfl)
theorem dX1_four_15 : decode cX1_four 15 = .ok (.iload_n 1, 1) := dk_27 (dk_at dksX1_four_0 15 rfl rfl)
theorem dX1_four_16 : decode cX1_four 16 = .ok (.iload_n 2, 1) := dk_28 (dk_at dksX1_four_0 16 rfl rfl)
theorem dX1_four_17 : decode cX1_four 17 = .ok (.ishr, 1) := dk_122 (dk_at dksX1_four_0 17 rfl rfl)
theorem dX1_four_18 : decode cX1_four 18 = .ok (.i2b, 1) := dk_145 (dk_at dksX1_four_0 18 rfl rfl)
theorem dX1_four_19 : decode cX1_four 19 = .ok (.bastore, 1) := dk_84 (dk_at dksX1_four_0 19 rfl rfl)
theorem dX1_four_20 : decode cX1_four 20 = .ok (.aload_n 0, 1) := dk_42 (dk_at dksX1_four_0 20 rfl rfl)
theorem dX1_four_21 : decode cX1_four 21 = .ok (.dup, 1) := dk_89 (dk_at dksX1_four_0 21 rfl rfl)
theorem dX1_four_22 : decode cX1_four 22 = .ok (.getfield 142, 3) := dk_180 0 142 (dk_at dksX1_four_1 0 rfl rfl)
theorem dX1_four_25 : decode cX1_four 25 = .ok (.iconst 1, 1) := dk_4 (dk_at dksX1_four_1 3 rfl rfl)
theorem dX1_four_26 : decode cX1_four 26 = .ok (.iadd, 1) := dk_96 (dk_at dksX1_four_1 4 rfl rfl)
theorem dX1_four_27 : decode cX1_four 27 = .ok (.putfield 142, 3) := dk_181 0 142 (dk_at dksX1_four_1 5 rfl rfl)
theorem dX1_four_30 : decode cX1_four 30 = .ok (.iinc 2 (-8), 3) := dk_132 2 248 (dk_at dksX1_four_1 8 rfl rfl)
theorem dX1_four_33 : decode cX1_four 33 = .ok (.goto (-30), 3) := dk_167 255 226 (dk_at dksX1_four_1 11 rfl rfl)
theorem dX1_four_36 : decode cX1_four 36 = .ok (.return_, 1) := dk_177 (dk_at dksX1_four_1 14 rfl rfl)
abbrev cX1_end : ByteArray := prog_1_method_4_code
def yX1_end : MethodName := ⟨RX1, "end", "(I)Z"⟩
def dkwX1_end_0 : List UInt8 := [27, 155, 0, 11, 27, 42, 180, 0, 142, 164, 0, 5, 3, 172, 42, 27, 181, 0, 142, 4, 172]
abbrev dktX1_end_0 : List UInt8 := dkwX1_end_0 ++ []
theorem dksX1_end_0 : cX1_end.data.toList.drop 0 = dktX1_end_0 := by decide +kernel
theorem dX1_end_0 : decode cX1_end 0 = .ok (.iload_n 1, 1) := dk_27 (dk_at dksX1_end_0 0 rfl rfl)
theorem dX1_end_1 : decode cX1_end 1 = .ok (.ifCond .lt 11, 3) := dk_155 0 11 (dk_at dksX1_end_0 1 rfl rfl)
theorem dX1_end_4 : decode cX1_end 4 = .ok (.iload_n 1, 1) := dk_27 (dk_at dksX1_end_0 4 rfl rfl)
theorem dX1_end_5 : decode cX1_end 5 = .ok (.aload_n 0, 1) := dk_42 (dk_at dksX1_end_0 5 rfl rfl)
theorem dX1_end_6 : decode cX1_end 6 = .ok (.getfield 142, 3) := dk_180 0 142 (dk_at dksX1_end_0 6 rfl rfl)
theorem dX1_end_9 : decode cX1_end 9 = .ok (.if_icmp .le 5, 3) := dk_164 0 5 (dk_at dksX1_end_0 9 rfl rfl)
theorem dX1_end_12 : decode cX1_end 12 = .ok (.iconst 0, 1) := dk_3 (dk_at dksX1_end_0 12 rfl rfl)
theorem dX1_end_13 : decode cX1_end 13 = .ok (.ireturn, 1) := dk_172 (dk_at dksX1_end_0 13 rfl rfl)
theorem dX1_end_14 : decode cX1_end 14 = .ok (.aload_n 0, 1) := dk_42 (dk_at dksX1_end_0 14 rfl rfl)
theorem dX1_end_15 : decode cX1_end 15 = .ok (.iload_n 1, 1) := dk_27 (dk_at dksX1_end_0 15 rfl rfl)
theorem dX1_end_16 : decode cX1_end 16 = .ok (.putfield 142, 3) := dk_181 0 142 (dk_at dksX1_end_0 16 rfl rfl)
theorem dX1_end_19 : decode cX1_end 19 = .ok (.iconst 1, 1) := dk_4 (dk_at dksX1_end_0 19 rfl rfl)
theorem dX1_end_20 : decode cX1_end 20 = .ok (.ireturn, 1) := dk_172 (dk_at dksX1_end_0 20 rfl rfl)
abbrev cX1_room : ByteArray := prog_1_method_10_code
def yX1_room : MethodName := ⟨RX1, "room", "()I"⟩
def dkwX1_room_4 : List UInt8 := [2, 44, 180, 0, 179, 100, 172]
abbrev dktX1_room_4 : List UInt8 := dkwX1_room_4 ++ []
def dkwX1_room_3 : List UInt8 := [181, 0, 168, 42, 3, 181, 0, 169, 42, 1, 181, 0, 172, 28, 172, 77, 42, 44, 180, 0, 176, 181, 0, 158]
abbrev dktX1_room_3 : List UInt8 := dkwX1_room_3 ++ dktX1_room_4
def dkwX1_room_2 : List UInt8 := [180, 0, 85, 181, 0, 89, 42, 45, 181, 0, 85, 42, 43, 181, 0, 78, 42, 180, 0, 85, 43, 180, 0, 165]
abbrev dktX1_room_2 : List UInt8 := dkwX1_room_2 ++ dktX1_room_3
def dkwX1_room_1 : List UInt8 := [182, 0, 108, 42, 180, 0, 97, 43, 42, 180, 0, 89, 182, 0, 161, 61, 42, 180, 0, 89, 78, 42, 42]
abbrev dktX1_room_1 : List UInt8 := dkwX1_room_1 ++ dktX1_room_2
def dkwX1_room_0 : List UInt8 := [42, 182, 0, 155, 42, 3, 181, 0, 158, 187, 0, 75, 89, 183, 0, 77, 76, 42, 180, 0, 89, 43]
abbrev dktX1_room_0 : List UInt8 := dkwX1_room_0 ++ dktX1_room_1
theorem dksX1_room_0 : cX1_room.data.toList.drop 0 = dktX1_room_0 := by decide +kernel
theorem dksX1_room_1 : cX1_room.data.toList.drop 22 = dktX1_room_1 := dk_seg dksX1_room_0 22 rfl rfl
theorem dksX1_room_2 : cX1_room.data.toList.drop 45 = dktX1_room_2 := dk_seg dksX1_room_1 23 rfl rfl
theorem dksX1_room_3 : cX1_room.data.toList.drop 69 = dktX1_room_3 := dk_seg dksX1_room_2 24 rfl rfl
theorem dksX1_room_4 : cX1_room.data.toList.drop 93 = dktX1_room_4 := dk_seg dksX1_room_3 24 rfl rfl
theorem dX1_room_0 : decode cX1_room 0 = .ok (.aload_n 0, 1) := dk_42 (dk_at dksX1_room_0 0 rfl rfl)
theorem dX1_room_1 : decode cX1_room 1 = .ok (.invokevirtual 155, 3) := dk_182 0 155 (dk_at dksX1_room_0 1 rfl rfl)
theorem dX1_room_4 : decode cX1_room 4 = .ok (.aload_n 0, 1) := dk_42 (dk_at dksX1_room_0 4 rfl rfl)
theorem dX1_room_5 : decode cX1_room 5 = .ok (.iconst 0, 1) := dk_3 (dk_at dksX1_room_0 5 rfl rfl)
theorem dX1_room_6 : decode cX1_room 6 = .ok (.putfield 158, 3) := dk_181 0 158 (dk_at dksX1_room_0 6 rfl rfl)
theorem dX1_room_9 : decode cX1_room 9 = .ok (.new 75, 3) := dk_187 0 75 (dk_at dksX1_room_0 9 rfl rfl)
theorem dX1_room_12 : decode cX1_room 12 = .ok (.dup, 1) := dk_89 (dk_at dksX1_room_0 12 rfl rfl)
theorem dX1_room_13 : decode cX1_room 13 = .ok (.invokespecial 77, 3) := dk_183 0 77 (dk_at dksX1_room_0 13 rfl rfl)
theorem dX1_room_16 : decode cX1_room 16 = .ok (.astore_n 1, 1) := dk_76 (dk_at dksX1_room_0 16 rfl rfl)
theorem dX1_room_17 : decode cX1_room 17 = .ok (.aload_n 0, 1) := dk_42 (dk_at dksX1_room_0 17 rfl rfl)
theorem dX1_room_18 : decode cX1_room 18 = .ok (.getfield 89, 3) := dk_180 0 89 (dk_at dksX1_room_0 18 rfl rfl)
theorem dX1_room_21 : decode cX1_room 21 = .ok (.aload_n 1, 1) := dk_43 (dk_at dksX1_room_0 21 rfl rfl)
theorem dX1_room_22 : decode cX1_room 22 = .ok (.invokevirtual 108, 3) := dk_182 0 108 (dk_at dksX1_room_1 0 rfl rfl)
theorem dX1_room_25 : decode cX1_room 25 = .ok (.aload_n 0, 1) := dk_42 (dk_at dksX1_room_1 3 rfl rfl)
theorem dX1_room_26 : decode cX1_room 26 = .ok (.getfield 97, 3) := dk_180 0 97 (dk_at dksX1_room_1 4 rfl rfl)
theorem dX1_room_29 : decode cX1_room 29 = .ok (.aload_n 1, 1) := dk_43 (dk_at dksX1_room_1 7 rfl rfl)
theorem dX1_room_30 : decode cX1_room 30 = .ok (.aload_n 0, 1) := dk_42 (dk_at dksX1_room_1 8 rfl rfl)
theorem dX1_room_31 : decode cX1_room 31 = .ok (.getfield 89, 3) := dk_180 0 89 (dk_at dksX1_room_1 9 rfl rfl)
theorem dX1_room_34 : decode cX1_room 34 = .ok (.invokevirtual 161, 3) := dk_182 0 161 (dk_at dksX1_room_1 12 rfl rfl)
theorem dX1_room_37 : decode cX1_room 37 = .ok (.istore_n 2, 1) := dk_61 (dk_at dksX1_room_1 15 rfl rfl)
theorem dX1_room_38 : decode cX1_room 38 = .ok (.aload_n 0, 1) := dk_42 (dk_at dksX1_room_1 16 rfl rfl)
theorem dX1_room_39 : decode cX1_room 39 = .ok (.getfield 89, 3) := dk_180 0 89 (dk_at dksX1_room_1 17 rfl rfl)
theorem dX1_room_42 : decode cX1_room 42 = .ok (.astore_n 3, 1) := dk_78 (dk_at dksX1_room_1 20 rfl rfl)
theorem dX1_room_43 : decode cX1_room 43 = .ok (.aload_n 0, 1) := dk_42 (dk_at dksX1_room_1 21 rfl rfl)
theorem dX1_room_44 : decode cX1_room 44 = .ok (.aload_n 0, 1) := dk_42 (dk_at dksX1_room_1 22 rfl rfl)
theorem dX1_room_45 : decode cX1_room 45 = .ok (.getfield 85, 3) := dk_180 0 85 (dk_at dksX1_room_2 0 rfl rfl)
theorem dX1_room_48 : decode cX1_room 48 = .ok (.putfield 89, 3) := dk_181 0 89 (dk_at dksX1_room_2 3 rfl rfl)
theorem dX1_room_51 : decode cX1_room 51 = .ok (.aload_n 0, 1) := dk_42 (dk_at dksX1_room_2 6 rfl rfl)
theorem dX1_room_52 : decode cX1_room 52 = .ok (.aload_n 3, 1) := dk_45 (dk_at dksX1_room_2 7 rfl rfl)
theorem dX1_room_53 : decode cX1_room 53 = .ok (.putfield 85, 3) := dk_181 0 85 (dk_at dksX1_room_2 8 rfl rfl)
theorem dX1_room_56 : decode cX1_room 56 = .ok (.aload_n 0, 1) := dk_42 (dk_at dksX1_room_2 11 rfl rfl)
theorem dX1_room_57 : decode cX1_room 57 = .ok (.aload_n 1, 1) := dk_43 (dk_at dksX1_room_2 12 rfl rfl)
theorem dX1_room_58 : decode cX1_room 58 = .ok (.putfield 78, 3) := dk_181 0 78 (dk_at dksX1_room_2 13 rfl rfl)
theorem dX1_room_61 : decode cX1_room 61 = .ok (.aload_n 0, 1) := dk_42 (dk_at dksX1_room_2 16 rfl rfl)
theorem dX1_room_62 : decode cX1_room 62 = .ok (.getfield 85, 3) := dk_180 0 85 (dk_at dksX1_room_2 17 rfl rfl)
theorem dX1_room_65 : decode cX1_room 65 = .ok (.aload_n 1, 1) := dk_43 (dk_at dksX1_room_2 20 rfl rfl)
theorem dX1_room_66 : decode cX1_room 66 = .ok (.getfield 165, 3) := dk_180 0 165 (dk_at dksX1_room_2 21 rfl rfl)
theorem dX1_room_69 : decode cX1_room 69 = .ok (.putfield 168, 3) := dk_181 0 168 (dk_at dksX1_room_3 0 rfl rfl)
theorem dX1_room_72 : decode cX1_room 72 = .ok (.aload_n 0, 1) := dk_42 (dk_at dksX1_room_3 3 rfl rfl)
theorem dX1_room_73 : decode cX1_room 73 = .ok (.iconst 0, 1) := dk_3 (dk_at dksX1_room_3 4 rfl rfl)
theorem dX1_room_74 : decode cX1_room 74 = .ok (.putfield 169, 3) := dk_181 0 169 (dk_at dksX1_room_3 5 rfl rfl)
theorem dX1_room_77 : decode cX1_room 77 = .ok (.aload_n 0, 1) := dk_42 (dk_at dksX1_room_3 8 rfl rfl)
theorem dX1_room_78 : decode cX1_room 78 = .ok (.aconst_null, 1) := dk_1 (dk_at dksX1_room_3 9 rfl rfl)
theorem dX1_room_79 : decode cX1_room 79 = .ok (.putfield 172, 3) := dk_181 0 172 (dk_at dksX1_room_3 10 rfl rfl)
theorem dX1_room_82 : decode cX1_room 82 = .ok (.iload_n 2, 1) := dk_28 (dk_at dksX1_room_3 13 rfl rfl)
theorem dX1_room_83 : decode cX1_room 83 = .ok (.ireturn, 1) := dk_172 (dk_at dksX1_room_3 14 rfl rfl)
theorem dX1_room_84 : decode cX1_room 84 = .ok (.astore_n 2, 1) := dk_77 (dk_at dksX1_room_3 15 rfl rfl)
theorem dX1_room_85 : decode cX1_room 85 = .ok (.aload_n 0, 1) := dk_42 (dk_at dksX1_room_3 16 rfl rfl)
theorem dX1_room_86 : decode cX1_room 86 = .ok (.aload_n 2, 1) := dk_44 (dk_at dksX1_room_3 17 rfl rfl)
theorem dX1_room_87 : decode cX1_room 87 = .ok (.getfield 176, 3) := dk_180 0 176 (dk_at dksX1_room_3 18 rfl rfl)
theorem dX1_room_90 : decode cX1_room 90 = .ok (.putfield 158, 3) := dk_181 0 158 (dk_at dksX1_room_3 21 rfl rfl)
theorem dX1_room_93 : decode cX1_room 93 = .ok (.iconst (-1), 1) := dk_2 (dk_at dksX1_room_4 0 rfl rfl)
theorem dX1_room_94 : decode cX1_room 94 = .ok (.aload_n 2, 1) := dk_44 (dk_at dksX1_room_4 1 rfl rfl)
theorem dX1_room_95 : decode cX1_room 95 = .ok (.getfield 179, 3) := dk_180 0 179 (dk_at dksX1_room_4 2 rfl rfl)
theorem dX1_room_98 : decode cX1_room 98 = .ok (.isub, 1) := dk_100 (dk_at dksX1_room_4 5 rfl rfl)
theorem dX1_room_99 : decode cX1_room 99 = .ok (.ireturn, 1) := dk_172 (dk_at dksX1_room_4 6 rfl rfl)
abbrev cX1_consume : ByteArray := prog_1_method_5_code
def yX1_consume : MethodName := ⟨RX1, "consume", "()V"⟩
def dkwX1_consume_0 : List UInt8 := [42, 42, 180, 0, 142, 181, 0, 149, 42, 3, 181, 0, 142, 177]
abbrev dktX1_consume_0 : List UInt8 := dkwX1_consume_0 ++ []
theorem dksX1_consume_0 : cX1_consume.data.toList.drop 0 = dktX1_consume_0 := by decide +kernel
theorem dX1_consume_0 : decode cX1_consume 0 = .ok (.aload_n 0, 1) := dk_42 (dk_at dksX1_consume_0 0 rfl rfl)
theorem dX1_consume_1 : decode cX1_consume 1 = .ok (.aload_n 0, 1) := dk_42 (dk_at dksX1_consume_0 1 rfl rfl)
theorem dX1_consume_2 : decode cX1_consume 2 = .ok (.getfield 142, 3) := dk_180 0 142 (dk_at dksX1_consume_0 2 rfl rfl)
theorem dX1_consume_5 : decode cX1_consume 5 = .ok (.putfield 149, 3) := dk_181 0 149 (dk_at dksX1_consume_0 5 rfl rfl)
theorem dX1_consume_8 : decode cX1_consume 8 = .ok (.aload_n 0, 1) := dk_42 (dk_at dksX1_consume_0 8 rfl rfl)
theorem dX1_consume_9 : decode cX1_consume 9 = .ok (.iconst 0, 1) := dk_3 (dk_at dksX1_consume_0 9 rfl rfl)
theorem dX1_consume_10 : decode cX1_consume 10 = .ok (.putfield 142, 3) := dk_181 0 142 (dk_at dksX1_consume_0 10 rfl rfl)
theorem dX1_consume_13 : decode cX1_consume 13 = .ok (.return_, 1) := dk_177 (dk_at dksX1_consume_0 13 rfl rfl)
abbrev cX1_isIn : ByteArray := prog_1_method_7_code
def yX1_isIn : MethodName := ⟨RX1, "isIn", "(III)Z"⟩
def dkwX1_isIn_0 : List UInt8 := [26, 27, 161, 0, 12, 26, 28, 163, 0, 7, 4, 167, 0, 4, 3, 172]
abbrev dktX1_isIn_0 : List UInt8 := dkwX1_isIn_0 ++ []
theorem dksX1_isIn_0 : cX1_isIn.data.toList.drop 0 = dktX1_isIn_0 := by decide +kernel
theorem dX1_isIn_0 : decode cX1_isIn 0 = .ok (.iload_n 0, 1) := dk_26 (dk_at dksX1_isIn_0 0 rfl rfl)
theorem dX1_isIn_1 : decode cX1_isIn 1 = .ok (.iload_n 1, 1) := dk_27 (dk_at dksX1_isIn_0 1 rfl rfl)
theorem dX1_isIn_2 : decode cX1_isIn 2 = .ok (.if_icmp .lt 12, 3) := dk_161 0 12 (dk_at dksX1_isIn_0 2 rfl rfl)
theorem dX1_isIn_5 : decode cX1_isIn 5 = .ok (.iload_n 0, 1) := dk_26 (dk_at dksX1_isIn_0 5 rfl rfl)
theorem dX1_isIn_6 : decode cX1_isIn 6 = .ok (.iload_n 2, 1) := dk_28 (dk_at dksX1_isIn_0 6 rfl rfl)
theorem dX1_isIn_7 : decode cX1_isIn 7 = .ok (.if_icmp .gt 7, 3) := dk_163 0 7 (dk_at dksX1_isIn_0 7 rfl rfl)
theorem dX1_isIn_10 : decode cX1_isIn 10 = .ok (.iconst 1, 1) := dk_4 (dk_at dksX1_isIn_0 10 rfl rfl)
theorem dX1_isIn_11 : decode cX1_isIn 11 = .ok (.goto 4, 3) := dk_167 0 4 (dk_at dksX1_isIn_0 11 rfl rfl)
theorem dX1_isIn_14 : decode cX1_isIn 14 = .ok (.iconst 0, 1) := dk_3 (dk_at dksX1_isIn_0 14 rfl rfl)
theorem dX1_isIn_15 : decode cX1_isIn 15 = .ok (.ireturn, 1) := dk_172 (dk_at dksX1_isIn_0 15 rfl rfl)
abbrev cX1_fault : ByteArray := prog_1_method_11_code
def yX1_fault : MethodName := ⟨RX1, "fault", "()I"⟩
theorem dX1_fault_0 : decode cX1_fault 0 = .ok (.aload_n 0, 1) := by decide +kernel
theorem dX1_fault_1 : decode cX1_fault 1 = .ok (.getfield 158, 3) := by decide +kernel
theorem dX1_fault_4 : decode cX1_fault 4 = .ok (.ireturn, 1) := by decide +kernel
abbrev cX1_size : ByteArray := prog_1_method_14_code
def yX1_size : MethodName := ⟨RX1, "size", "(I)I"⟩
def dkwX1_size_1 : List UInt8 := [172]
abbrev dktX1_size_1 : List UInt8 := dkwX1_size_1 ++ []
def dkwX1_size_0 : List UInt8 := [42, 27, 182, 0, 186, 153, 0, 18, 42, 180, 0, 85, 180, 0, 190, 27, 50, 182, 0, 194, 167, 0, 4, 2]
abbrev dktX1_size_0 : List UInt8 := dkwX1_size_0 ++ dktX1_size_1
theorem dksX1_size_0 : cX1_size.data.toList.drop 0 = dktX1_size_0 := by decide +kernel
theorem dksX1_size_1 : cX1_size.data.toList.drop 24 = dktX1_size_1 := dk_seg dksX1_size_0 24 rfl rfl
theorem dX1_size_0 : decode cX1_size 0 = .ok (.aload_n 0, 1) := dk_42 (dk_at dksX1_size_0 0 rfl rfl)
theorem dX1_size_1 : decode cX1_size 1 = .ok (.iload_n 1, 1) := dk_27 (dk_at dksX1_size_0 1 rfl rfl)
theorem dX1_size_2 : decode cX1_size 2 = .ok (.invokevirtual 186, 3) := dk_182 0 186 (dk_at dksX1_size_0 2 rfl rfl)
theorem dX1_size_5 : decode cX1_size 5 = .ok (.ifCond .eq 18, 3) := dk_153 0 18 (dk_at dksX1_size_0 5 rfl rfl)
theorem dX1_size_8 : decode cX1_size 8 = .ok (.aload_n 0, 1) := dk_42 (dk_at dksX1_size_0 8 rfl rfl)
theorem dX1_size_9 : decode cX1_size 9 = .ok (.getfield 85, 3) := dk_180 0 85 (dk_at dksX1_size_0 9 rfl rfl)
theorem dX1_size_12 : decode cX1_size 12 = .ok (.getfield 190, 3) := dk_180 0 190 (dk_at dksX1_size_0 12 rfl rfl)
theorem dX1_size_15 : decode cX1_size 15 = .ok (.iload_n 1, 1) := dk_27 (dk_at dksX1_size_0 15 rfl rfl)
theorem dX1_size_16 : decode cX1_size 16 = .ok (.aaload, 1) := dk_50 (dk_at dksX1_size_0 16 rfl rfl)
theorem dX1_size_17 : decode cX1_size 17 = .ok (.invokevirtual 194, 3) := dk_182 0 194 (dk_at dksX1_size_0 17 rfl rfl)
theorem dX1_size_20 : decode cX1_size 20 = .ok (.goto 4, 3) := dk_167 0 4 (dk_at dksX1_size_0 20 rfl rfl)
theorem dX1_size_23 : decode cX1_size 23 = .ok (.iconst (-1), 1) := dk_2 (dk_at dksX1_size_0 23 rfl rfl)
theorem dX1_size_24 : decode cX1_size 24 = .ok (.ireturn, 1) := dk_172 (dk_at dksX1_size_1 0 rfl rfl)
abbrev cX1_isRow : ByteArray := prog_1_method_12_code
def yX1_isRow : MethodName := ⟨RX1, "isRow", "(I)Z"⟩
def dkwX1_isRow_0 : List UInt8 := [27, 3, 42, 180, 0, 78, 180, 0, 165, 4, 100, 184, 0, 182, 172]
abbrev dktX1_isRow_0 : List UInt8 := dkwX1_isRow_0 ++ []
theorem dksX1_isRow_0 : cX1_isRow.data.toList.drop 0 = dktX1_isRow_0 := by decide +kernel
theorem dX1_isRow_0 : decode cX1_isRow 0 = .ok (.iload_n 1, 1) := dk_27 (dk_at dksX1_isRow_0 0 rfl rfl)
theorem dX1_isRow_1 : decode cX1_isRow 1 = .ok (.iconst 0, 1) := dk_3 (dk_at dksX1_isRow_0 1 rfl rfl)
theorem dX1_isRow_2 : decode cX1_isRow 2 = .ok (.aload_n 0, 1) := dk_42 (dk_at dksX1_isRow_0 2 rfl rfl)
theorem dX1_isRow_3 : decode cX1_isRow 3 = .ok (.getfield 78, 3) := dk_180 0 78 (dk_at dksX1_isRow_0 3 rfl rfl)
theorem dX1_isRow_6 : decode cX1_isRow 6 = .ok (.getfield 165, 3) := dk_180 0 165 (dk_at dksX1_isRow_0 6 rfl rfl)
theorem dX1_isRow_9 : decode cX1_isRow 9 = .ok (.iconst 1, 1) := dk_4 (dk_at dksX1_isRow_0 9 rfl rfl)
theorem dX1_isRow_10 : decode cX1_isRow 10 = .ok (.isub, 1) := dk_100 (dk_at dksX1_isRow_0 10 rfl rfl)
theorem dX1_isRow_11 : decode cX1_isRow 11 = .ok (.invokestatic 182, 3) := dk_184 0 182 (dk_at dksX1_isRow_0 11 rfl rfl)
theorem dX1_isRow_14 : decode cX1_isRow 14 = .ok (.ireturn, 1) := dk_172 (dk_at dksX1_isRow_0 14 rfl rfl)
abbrev cX1_bit : ByteArray := prog_1_method_16_code
def yX1_bit : MethodName := ⟨RX1, "bit", "(II)I"⟩
def dkwX1_bit_1 : List UInt8 := [153, 0, 15, 42, 27, 182, 0, 204, 28, 182, 0, 207, 167, 0, 4, 2, 172]
abbrev dktX1_bit_1 : List UInt8 := dkwX1_bit_1 ++ []
def dkwX1_bit_0 : List UInt8 := [42, 27, 182, 0, 186, 153, 0, 33, 28, 3, 42, 27, 182, 0, 204, 182, 0, 194, 4, 100, 184, 0, 182]
abbrev dktX1_bit_0 : List UInt8 := dkwX1_bit_0 ++ dktX1_bit_1
theorem dksX1_bit_0 : cX1_bit.data.toList.drop 0 = dktX1_bit_0 := by decide +kernel
theorem dksX1_bit_1 : cX1_bit.data.toList.drop 23 = dktX1_bit_1 := dk_seg dksX1_bit_0 23 rfl rfl
theorem dX1_bit_0 : decode cX1_bit 0 = .ok (.aload_n 0, 1) := dk_42 (dk_at dksX1_bit_0 0 rfl rfl)
theorem dX1_bit_1 : decode cX1_bit 1 = .ok (.iload_n 1, 1) := dk_27 (dk_at dksX1_bit_0 1 rfl rfl)
theorem dX1_bit_2 : decode cX1_bit 2 = .ok (.invokevirtual 186, 3) := dk_182 0 186 (dk_at dksX1_bit_0 2 rfl rfl)
theorem dX1_bit_5 : decode cX1_bit 5 = .ok (.ifCond .eq 33, 3) := dk_153 0 33 (dk_at dksX1_bit_0 5 rfl rfl)
theorem dX1_bit_8 : decode cX1_bit 8 = .ok (.iload_n 2, 1) := dk_28 (dk_at dksX1_bit_0 8 rfl rfl)
theorem dX1_bit_9 : decode cX1_bit 9 = .ok (.iconst 0, 1) := dk_3 (dk_at dksX1_bit_0 9 rfl rfl)
theorem dX1_bit_10 : decode cX1_bit 10 = .ok (.aload_n 0, 1) := dk_42 (dk_at dksX1_bit_0 10 rfl rfl)
theorem dX1_bit_11 : decode cX1_bit 11 = .ok (.iload_n 1, 1) := dk_27 (dk_at dksX1_bit_0 11 rfl rfl)
theorem dX1_bit_12 : decode cX1_bit 12 = .ok (.invokevirtual 204, 3) := dk_182 0 204 (dk_at dksX1_bit_0 12 rfl rfl)
theorem dX1_bit_15 : decode cX1_bit 15 = .ok (.invokevirtual 194, 3) := dk_182 0 194 (dk_at dksX1_bit_0 15 rfl rfl)
theorem dX1_bit_18 : decode cX1_bit 18 = .ok (.iconst 1, 1) := dk_4 (dk_at dksX1_bit_0 18 rfl rfl)
theorem dX1_bit_19 : decode cX1_bit 19 = .ok (.isub, 1) := dk_100 (dk_at dksX1_bit_0 19 rfl rfl)
theorem dX1_bit_20 : decode cX1_bit 20 = .ok (.invokestatic 182, 3) := dk_184 0 182 (dk_at dksX1_bit_0 20 rfl rfl)
theorem dX1_bit_23 : decode cX1_bit 23 = .ok (.ifCond .eq 15, 3) := dk_153 0 15 (dk_at dksX1_bit_1 0 rfl rfl)
theorem dX1_bit_26 : decode cX1_bit 26 = .ok (.aload_n 0, 1) := dk_42 (dk_at dksX1_bit_1 3 rfl rfl)
theorem dX1_bit_27 : decode cX1_bit 27 = .ok (.iload_n 1, 1) := dk_27 (dk_at dksX1_bit_1 4 rfl rfl)
theorem dX1_bit_28 : decode cX1_bit 28 = .ok (.invokevirtual 204, 3) := dk_182 0 204 (dk_at dksX1_bit_1 5 rfl rfl)
theorem dX1_bit_31 : decode cX1_bit 31 = .ok (.iload_n 2, 1) := dk_28 (dk_at dksX1_bit_1 8 rfl rfl)
theorem dX1_bit_32 : decode cX1_bit 32 = .ok (.invokevirtual 207, 3) := dk_182 0 207 (dk_at dksX1_bit_1 9 rfl rfl)
theorem dX1_bit_35 : decode cX1_bit 35 = .ok (.goto 4, 3) := dk_167 0 4 (dk_at dksX1_bit_1 12 rfl rfl)
theorem dX1_bit_38 : decode cX1_bit 38 = .ok (.iconst (-1), 1) := dk_2 (dk_at dksX1_bit_1 15 rfl rfl)
theorem dX1_bit_39 : decode cX1_bit 39 = .ok (.ireturn, 1) := dk_172 (dk_at dksX1_bit_1 16 rfl rfl)
abbrev cX1_rope : ByteArray := prog_1_method_15_code
def yX1_rope : MethodName := ⟨RX1, "rope", "(I)LBitRopes$Rope;"⟩
def dkwX1_rope_0 : List UInt8 := [42, 180, 0, 85, 180, 0, 190, 27, 50, 182, 0, 200, 176]
abbrev dktX1_rope_0 : List UInt8 := dkwX1_rope_0 ++ []
theorem dksX1_rope_0 : cX1_rope.data.toList.drop 0 = dktX1_rope_0 := by decide +kernel
theorem dX1_rope_0 : decode cX1_rope 0 = .ok (.aload_n 0, 1) := dk_42 (dk_at dksX1_rope_0 0 rfl rfl)
theorem dX1_rope_1 : decode cX1_rope 1 = .ok (.getfield 85, 3) := dk_180 0 85 (dk_at dksX1_rope_0 1 rfl rfl)
theorem dX1_rope_4 : decode cX1_rope 4 = .ok (.getfield 190, 3) := dk_180 0 190 (dk_at dksX1_rope_0 4 rfl rfl)
theorem dX1_rope_7 : decode cX1_rope 7 = .ok (.iload_n 1, 1) := dk_27 (dk_at dksX1_rope_0 7 rfl rfl)
theorem dX1_rope_8 : decode cX1_rope 8 = .ok (.aaload, 1) := dk_50 (dk_at dksX1_rope_0 8 rfl rfl)
theorem dX1_rope_9 : decode cX1_rope 9 = .ok (.invokevirtual 200, 3) := dk_182 0 200 (dk_at dksX1_rope_0 9 rfl rfl)
theorem dX1_rope_12 : decode cX1_rope 12 = .ok (.areturn, 1) := dk_176 (dk_at dksX1_rope_0 12 rfl rfl)
abbrev cX1_rank : ByteArray := prog_1_method_17_code
def yX1_rank : MethodName := ⟨RX1, "rank", "(III)I"⟩
def dkwX1_rank_1 : List UInt8 := [29, 3, 4, 184, 0, 182, 153, 0, 16, 42, 27, 182, 0, 204, 28, 29, 182, 0, 211, 167, 0, 4, 2, 172]
abbrev dktX1_rank_1 : List UInt8 := dkwX1_rank_1 ++ []
def dkwX1_rank_0 : List UInt8 := [42, 27, 182, 0, 186, 153, 0, 41, 28, 3, 42, 27, 182, 0, 204, 182, 0, 194, 184, 0, 182, 153, 0, 25]
abbrev dktX1_rank_0 : List UInt8 := dkwX1_rank_0 ++ dktX1_rank_1
theorem dksX1_rank_0 : cX1_rank.data.toList.drop 0 = dktX1_rank_0 := by decide +kernel
theorem dksX1_rank_1 : cX1_rank.data.toList.drop 24 = dktX1_rank_1 := dk_seg dksX1_rank_0 24 rfl rfl
theorem dX1_rank_0 : decode cX1_rank 0 = .ok (.aload_n 0, 1) := dk_42 (dk_at dksX1_rank_0 0 rfl rfl)
theorem dX1_rank_1 : decode cX1_rank 1 = .ok (.iload_n 1, 1) := dk_27 (dk_at dksX1_rank_0 1 rfl rfl)
theorem dX1_rank_2 : decode cX1_rank 2 = .ok (.invokevirtual 186, 3) := dk_182 0 186 (dk_at dksX1_rank_0 2 rfl rfl)
theorem dX1_rank_5 : decode cX1_rank 5 = .ok (.ifCond .eq 41, 3) := dk_153 0 41 (dk_at dksX1_rank_0 5 rfl rfl)
theorem dX1_rank_8 : decode cX1_rank 8 = .ok (.iload_n 2, 1) := dk_28 (dk_at dksX1_rank_0 8 rfl rfl)
theorem dX1_rank_9 : decode cX1_rank 9 = .ok (.iconst 0, 1) := dk_3 (dk_at dksX1_rank_0 9 rfl rfl)
theorem dX1_rank_10 : decode cX1_rank 10 = .ok (.aload_n 0, 1) := dk_42 (dk_at dksX1_rank_0 10 rfl rfl)
theorem dX1_rank_11 : decode cX1_rank 11 = .ok (.iload_n 1, 1) := dk_27 (dk_at dksX1_rank_0 11 rfl rfl)
theorem dX1_rank_12 : decode cX1_rank 12 = .ok (.invokevirtual 204, 3) := dk_182 0 204 (dk_at dksX1_rank_0 12 rfl rfl)
theorem dX1_rank_15 : decode cX1_rank 15 = .ok (.invokevirtual 194, 3) := dk_182 0 194 (dk_at dksX1_rank_0 15 rfl rfl)
theorem dX1_rank_18 : decode cX1_rank 18 = .ok (.invokestatic 182, 3) := dk_184 0 182 (dk_at dksX1_rank_0 18 rfl rfl)
theorem dX1_rank_21 : decode cX1_rank 21 = .ok (.ifCond .eq 25, 3) := dk_153 0 25 (dk_at dksX1_rank_0 21 rfl rfl)
theorem dX1_rank_24 : decode cX1_rank 24 = .ok (.iload_n 3, 1) := dk_29 (dk_at dksX1_rank_1 0 rfl rfl)
theorem dX1_rank_25 : decode cX1_rank 25 = .ok (.iconst 0, 1) := dk_3 (dk_at dksX1_rank_1 1 rfl rfl)
theorem dX1_rank_26 : decode cX1_rank 26 = .ok (.iconst 1, 1) := dk_4 (dk_at dksX1_rank_1 2 rfl rfl)
theorem dX1_rank_27 : decode cX1_rank 27 = .ok (.invokestatic 182, 3) := dk_184 0 182 (dk_at dksX1_rank_1 3 rfl rfl)
theorem dX1_rank_30 : decode cX1_rank 30 = .ok (.ifCond .eq 16, 3) := dk_153 0 16 (dk_at dksX1_rank_1 6 rfl rfl)
theorem dX1_rank_33 : decode cX1_rank 33 = .ok (.aload_n 0, 1) := dk_42 (dk_at dksX1_rank_1 9 rfl rfl)
theorem dX1_rank_34 : decode cX1_rank 34 = .ok (.iload_n 1, 1) := dk_27 (dk_at dksX1_rank_1 10 rfl rfl)
theorem dX1_rank_35 : decode cX1_rank 35 = .ok (.invokevirtual 204, 3) := dk_182 0 204 (dk_at dksX1_rank_1 11 rfl rfl)
theorem dX1_rank_38 : decode cX1_rank 38 = .ok (.iload_n 2, 1) := dk_28 (dk_at dksX1_rank_1 14 rfl rfl)
theorem dX1_rank_39 : decode cX1_rank 39 = .ok (.iload_n 3, 1) := dk_29 (dk_at dksX1_rank_1 15 rfl rfl)
theorem dX1_rank_40 : decode cX1_rank 40 = .ok (.invokevirtual 211, 3) := dk_182 0 211 (dk_at dksX1_rank_1 16 rfl rfl)
theorem dX1_rank_43 : decode cX1_rank 43 = .ok (.goto 4, 3) := dk_167 0 4 (dk_at dksX1_rank_1 19 rfl rfl)
theorem dX1_rank_46 : decode cX1_rank 46 = .ok (.iconst (-1), 1) := dk_2 (dk_at dksX1_rank_1 22 rfl rfl)
theorem dX1_rank_47 : decode cX1_rank 47 = .ok (.ireturn, 1) := dk_172 (dk_at dksX1_rank_1 23 rfl rfl)
abbrev cX1_select : ByteArray := prog_1_method_18_code
def yX1_select : MethodName := ⟨RX1, "select", "(III)I"⟩
def dkwX1_select_2 : List UInt8 := [167, 0, 4, 2, 172]
abbrev dktX1_select_2 : List UInt8 := dkwX1_select_2 ++ []
def dkwX1_select_1 : List UInt8 := [29, 182, 0, 215, 4, 100, 184, 0, 182, 153, 0, 16, 42, 27, 182, 0, 204, 28, 29, 182, 0, 218]
abbrev dktX1_select_1 : List UInt8 := dkwX1_select_1 ++ dktX1_select_2
def dkwX1_select_0 : List UInt8 := [42, 27, 182, 0, 186, 153, 0, 44, 29, 3, 4, 184, 0, 182, 153, 0, 35, 28, 3, 42, 27, 182, 0, 204]
abbrev dktX1_select_0 : List UInt8 := dkwX1_select_0 ++ dktX1_select_1
theorem dksX1_select_0 : cX1_select.data.toList.drop 0 = dktX1_select_0 := by decide +kernel
theorem dksX1_select_1 : cX1_select.data.toList.drop 24 = dktX1_select_1 := dk_seg dksX1_select_0 24 rfl rfl
theorem dksX1_select_2 : cX1_select.data.toList.drop 46 = dktX1_select_2 := dk_seg dksX1_select_1 22 rfl rfl
theorem dX1_select_0 : decode cX1_select 0 = .ok (.aload_n 0, 1) := dk_42 (dk_at dksX1_select_0 0 rfl rfl)
theorem dX1_select_1 : decode cX1_select 1 = .ok (.iload_n 1, 1) := dk_27 (dk_at dksX1_select_0 1 rfl rfl)
theorem dX1_select_2 : decode cX1_select 2 = .ok (.invokevirtual 186, 3) := dk_182 0 186 (dk_at dksX1_select_0 2 rfl rfl)
theorem dX1_select_5 : decode cX1_select 5 = .ok (.ifCond .eq 44, 3) := dk_153 0 44 (dk_at dksX1_select_0 5 rfl rfl)
theorem dX1_select_8 : decode cX1_select 8 = .ok (.iload_n 3, 1) := dk_29 (dk_at dksX1_select_0 8 rfl rfl)
theorem dX1_select_9 : decode cX1_select 9 = .ok (.iconst 0, 1) := dk_3 (dk_at dksX1_select_0 9 rfl rfl)
theorem dX1_select_10 : decode cX1_select 10 = .ok (.iconst 1, 1) := dk_4 (dk_at dksX1_select_0 10 rfl rfl)
theorem dX1_select_11 : decode cX1_select 11 = .ok (.invokestatic 182, 3) := dk_184 0 182 (dk_at dksX1_select_0 11 rfl rfl)
theorem dX1_select_14 : decode cX1_select 14 = .ok (.ifCond .eq 35, 3) := dk_153 0 35 (dk_at dksX1_select_0 14 rfl rfl)
theorem dX1_select_17 : decode cX1_select 17 = .ok (.iload_n 2, 1) := dk_28 (dk_at dksX1_select_0 17 rfl rfl)
theorem dX1_select_18 : decode cX1_select 18 = .ok (.iconst 0, 1) := dk_3 (dk_at dksX1_select_0 18 rfl rfl)
theorem dX1_select_19 : decode cX1_select 19 = .ok (.aload_n 0, 1) := dk_42 (dk_at dksX1_select_0 19 rfl rfl)
theorem dX1_select_20 : decode cX1_select 20 = .ok (.iload_n 1, 1) := dk_27 (dk_at dksX1_select_0 20 rfl rfl)
theorem dX1_select_21 : decode cX1_select 21 = .ok (.invokevirtual 204, 3) := dk_182 0 204 (dk_at dksX1_select_0 21 rfl rfl)
theorem dX1_select_24 : decode cX1_select 24 = .ok (.iload_n 3, 1) := dk_29 (dk_at dksX1_select_1 0 rfl rfl)
theorem dX1_select_25 : decode cX1_select 25 = .ok (.invokevirtual 215, 3) := dk_182 0 215 (dk_at dksX1_select_1 1 rfl rfl)
theorem dX1_select_28 : decode cX1_select 28 = .ok (.iconst 1, 1) := dk_4 (dk_at dksX1_select_1 4 rfl rfl)
theorem dX1_select_29 : decode cX1_select 29 = .ok (.isub, 1) := dk_100 (dk_at dksX1_select_1 5 rfl rfl)
theorem dX1_select_30 : decode cX1_select 30 = .ok (.invokestatic 182, 3) := dk_184 0 182 (dk_at dksX1_select_1 6 rfl rfl)
theorem dX1_select_33 : decode cX1_select 33 = .ok (.ifCond .eq 16, 3) := dk_153 0 16 (dk_at dksX1_select_1 9 rfl rfl)
theorem dX1_select_36 : decode cX1_select 36 = .ok (.aload_n 0, 1) := dk_42 (dk_at dksX1_select_1 12 rfl rfl)
theorem dX1_select_37 : decode cX1_select 37 = .ok (.iload_n 1, 1) := dk_27 (dk_at dksX1_select_1 13 rfl rfl)
theorem dX1_select_38 : decode cX1_select 38 = .ok (.invokevirtual 204, 3) := dk_182 0 204 (dk_at dksX1_select_1 14 rfl rfl)
theorem dX1_select_41 : decode cX1_select 41 = .ok (.iload_n 2, 1) := dk_28 (dk_at dksX1_select_1 17 rfl rfl)
theorem dX1_select_42 : decode cX1_select 42 = .ok (.iload_n 3, 1) := dk_29 (dk_at dksX1_select_1 18 rfl rfl)
theorem dX1_select_43 : decode cX1_select 43 = .ok (.invokevirtual 218, 3) := dk_182 0 218 (dk_at dksX1_select_1 19 rfl rfl)
theorem dX1_select_46 : decode cX1_select 46 = .ok (.goto 4, 3) := dk_167 0 4 (dk_at dksX1_select_2 0 rfl rfl)
theorem dX1_select_49 : decode cX1_select 49 = .ok (.iconst (-1), 1) := dk_2 (dk_at dksX1_select_2 3 rfl rfl)
theorem dX1_select_50 : decode cX1_select 50 = .ok (.ireturn, 1) := dk_172 (dk_at dksX1_select_2 4 rfl rfl)
abbrev cX1_find : ByteArray := prog_1_method_19_code
def yX1_find : MethodName := ⟨RX1, "find", "(III)I"⟩
def dkwX1_find_3 : List UInt8 := [182, 0, 218, 167, 0, 4, 2, 172]
abbrev dktX1_find_3 : List UInt8 := dkwX1_find_3 ++ []
def dkwX1_find_2 : List UInt8 := [54, 4, 21, 4, 42, 27, 182, 0, 204, 29, 182, 0, 215, 162, 0, 17, 42, 27, 182, 0, 204, 21, 4, 29]
abbrev dktX1_find_2 : List UInt8 := dkwX1_find_2 ++ dktX1_find_3
def dkwX1_find_1 : List UInt8 := [182, 0, 194, 4, 100, 184, 0, 182, 154, 0, 5, 2, 172, 42, 27, 182, 0, 204, 28, 29, 182, 0, 211]
abbrev dktX1_find_1 : List UInt8 := dkwX1_find_1 ++ dktX1_find_2
def dkwX1_find_0 : List UInt8 := [42, 27, 182, 0, 186, 153, 0, 30, 29, 3, 4, 184, 0, 182, 153, 0, 21, 28, 3, 42, 27, 182, 0, 204]
abbrev dktX1_find_0 : List UInt8 := dkwX1_find_0 ++ dktX1_find_1
theorem dksX1_find_0 : cX1_find.data.toList.drop 0 = dktX1_find_0 := by decide +kernel
theorem dksX1_find_1 : cX1_find.data.toList.drop 24 = dktX1_find_1 := dk_seg dksX1_find_0 24 rfl rfl
theorem dksX1_find_2 : cX1_find.data.toList.drop 47 = dktX1_find_2 := dk_seg dksX1_find_1 23 rfl rfl
theorem dksX1_find_3 : cX1_find.data.toList.drop 71 = dktX1_find_3 := dk_seg dksX1_find_2 24 rfl rfl
theorem dX1_find_0 : decode cX1_find 0 = .ok (.aload_n 0, 1) := dk_42 (dk_at dksX1_find_0 0 rfl rfl)
theorem dX1_find_1 : decode cX1_find 1 = .ok (.iload_n 1, 1) := dk_27 (dk_at dksX1_find_0 1 rfl rfl)
theorem dX1_find_2 : decode cX1_find 2 = .ok (.invokevirtual 186, 3) := dk_182 0 186 (dk_at dksX1_find_0 2 rfl rfl)
theorem dX1_find_5 : decode cX1_find 5 = .ok (.ifCond .eq 30, 3) := dk_153 0 30 (dk_at dksX1_find_0 5 rfl rfl)
theorem dX1_find_8 : decode cX1_find 8 = .ok (.iload_n 3, 1) := dk_29 (dk_at dksX1_find_0 8 rfl rfl)
theorem dX1_find_9 : decode cX1_find 9 = .ok (.iconst 0, 1) := dk_3 (dk_at dksX1_find_0 9 rfl rfl)
theorem dX1_find_10 : decode cX1_find 10 = .ok (.iconst 1, 1) := dk_4 (dk_at dksX1_find_0 10 rfl rfl)
theorem dX1_find_11 : decode cX1_find 11 = .ok (.invokestatic 182, 3) := dk_184 0 182 (dk_at dksX1_find_0 11 rfl rfl)
theorem dX1_find_14 : decode cX1_find 14 = .ok (.ifCond .eq 21, 3) := dk_153 0 21 (dk_at dksX1_find_0 14 rfl rfl)
theorem dX1_find_17 : decode cX1_find 17 = .ok (.iload_n 2, 1) := dk_28 (dk_at dksX1_find_0 17 rfl rfl)
theorem dX1_find_18 : decode cX1_find 18 = .ok (.iconst 0, 1) := dk_3 (dk_at dksX1_find_0 18 rfl rfl)
theorem dX1_find_19 : decode cX1_find 19 = .ok (.aload_n 0, 1) := dk_42 (dk_at dksX1_find_0 19 rfl rfl)
theorem dX1_find_20 : decode cX1_find 20 = .ok (.iload_n 1, 1) := dk_27 (dk_at dksX1_find_0 20 rfl rfl)
theorem dX1_find_21 : decode cX1_find 21 = .ok (.invokevirtual 204, 3) := dk_182 0 204 (dk_at dksX1_find_0 21 rfl rfl)
theorem dX1_find_24 : decode cX1_find 24 = .ok (.invokevirtual 194, 3) := dk_182 0 194 (dk_at dksX1_find_1 0 rfl rfl)
theorem dX1_find_27 : decode cX1_find 27 = .ok (.iconst 1, 1) := dk_4 (dk_at dksX1_find_1 3 rfl rfl)
theorem dX1_find_28 : decode cX1_find 28 = .ok (.isub, 1) := dk_100 (dk_at dksX1_find_1 4 rfl rfl)
theorem dX1_find_29 : decode cX1_find 29 = .ok (.invokestatic 182, 3) := dk_184 0 182 (dk_at dksX1_find_1 5 rfl rfl)
theorem dX1_find_32 : decode cX1_find 32 = .ok (.ifCond .ne 5, 3) := dk_154 0 5 (dk_at dksX1_find_1 8 rfl rfl)
theorem dX1_find_35 : decode cX1_find 35 = .ok (.iconst (-1), 1) := dk_2 (dk_at dksX1_find_1 11 rfl rfl)
theorem dX1_find_36 : decode cX1_find 36 = .ok (.ireturn, 1) := dk_172 (dk_at dksX1_find_1 12 rfl rfl)
theorem dX1_find_37 : decode cX1_find 37 = .ok (.aload_n 0, 1) := dk_42 (dk_at dksX1_find_1 13 rfl rfl)
theorem dX1_find_38 : decode cX1_find 38 = .ok (.iload_n 1, 1) := dk_27 (dk_at dksX1_find_1 14 rfl rfl)
theorem dX1_find_39 : decode cX1_find 39 = .ok (.invokevirtual 204, 3) := dk_182 0 204 (dk_at dksX1_find_1 15 rfl rfl)
theorem dX1_find_42 : decode cX1_find 42 = .ok (.iload_n 2, 1) := dk_28 (dk_at dksX1_find_1 18 rfl rfl)
theorem dX1_find_43 : decode cX1_find 43 = .ok (.iload_n 3, 1) := dk_29 (dk_at dksX1_find_1 19 rfl rfl)
theorem dX1_find_44 : decode cX1_find 44 = .ok (.invokevirtual 211, 3) := dk_182 0 211 (dk_at dksX1_find_1 20 rfl rfl)
theorem dX1_find_47 : decode cX1_find 47 = .ok (.istore 4, 2) := dk_54 4 (dk_at dksX1_find_2 0 rfl rfl)
theorem dX1_find_49 : decode cX1_find 49 = .ok (.iload 4, 2) := dk_21 4 (dk_at dksX1_find_2 2 rfl rfl)
theorem dX1_find_51 : decode cX1_find 51 = .ok (.aload_n 0, 1) := dk_42 (dk_at dksX1_find_2 4 rfl rfl)
theorem dX1_find_52 : decode cX1_find 52 = .ok (.iload_n 1, 1) := dk_27 (dk_at dksX1_find_2 5 rfl rfl)
theorem dX1_find_53 : decode cX1_find 53 = .ok (.invokevirtual 204, 3) := dk_182 0 204 (dk_at dksX1_find_2 6 rfl rfl)
theorem dX1_find_56 : decode cX1_find 56 = .ok (.iload_n 3, 1) := dk_29 (dk_at dksX1_find_2 9 rfl rfl)
theorem dX1_find_57 : decode cX1_find 57 = .ok (.invokevirtual 215, 3) := dk_182 0 215 (dk_at dksX1_find_2 10 rfl rfl)
theorem dX1_find_60 : decode cX1_find 60 = .ok (.if_icmp .ge 17, 3) := dk_162 0 17 (dk_at dksX1_find_2 13 rfl rfl)
theorem dX1_find_63 : decode cX1_find 63 = .ok (.aload_n 0, 1) := dk_42 (dk_at dksX1_find_2 16 rfl rfl)
theorem dX1_find_64 : decode cX1_find 64 = .ok (.iload_n 1, 1) := dk_27 (dk_at dksX1_find_2 17 rfl rfl)
theorem dX1_find_65 : decode cX1_find 65 = .ok (.invokevirtual 204, 3) := dk_182 0 204 (dk_at dksX1_find_2 18 rfl rfl)
theorem dX1_find_68 : decode cX1_find 68 = .ok (.iload 4, 2) := dk_21 4 (dk_at dksX1_find_2 21 rfl rfl)
theorem dX1_find_70 : decode cX1_find 70 = .ok (.iload_n 3, 1) := dk_29 (dk_at dksX1_find_2 23 rfl rfl)
theorem dX1_find_71 : decode cX1_find 71 = .ok (.invokevirtual 218, 3) := dk_182 0 218 (dk_at dksX1_find_3 0 rfl rfl)
theorem dX1_find_74 : decode cX1_find 74 = .ok (.goto 4, 3) := dk_167 0 4 (dk_at dksX1_find_3 3 rfl rfl)
theorem dX1_find_77 : decode cX1_find 77 = .ok (.iconst (-1), 1) := dk_2 (dk_at dksX1_find_3 6 rfl rfl)
theorem dX1_find_78 : decode cX1_find 78 = .ok (.ireturn, 1) := dk_172 (dk_at dksX1_find_3 7 rfl rfl)
abbrev cX1_runs : ByteArray := prog_1_method_21_code
def yX1_runs : MethodName := ⟨RX1, "runs", "(I)I"⟩
def dkwX1_runs_0 : List UInt8 := [42, 27, 182, 0, 186, 153, 0, 11, 42, 27, 182, 0, 221, 167, 0, 4, 2, 172]
abbrev dktX1_runs_0 : List UInt8 := dkwX1_runs_0 ++ []
theorem dksX1_runs_0 : cX1_runs.data.toList.drop 0 = dktX1_runs_0 := by decide +kernel
theorem dX1_runs_0 : decode cX1_runs 0 = .ok (.aload_n 0, 1) := dk_42 (dk_at dksX1_runs_0 0 rfl rfl)
theorem dX1_runs_1 : decode cX1_runs 1 = .ok (.iload_n 1, 1) := dk_27 (dk_at dksX1_runs_0 1 rfl rfl)
theorem dX1_runs_2 : decode cX1_runs 2 = .ok (.invokevirtual 186, 3) := dk_182 0 186 (dk_at dksX1_runs_0 2 rfl rfl)
theorem dX1_runs_5 : decode cX1_runs 5 = .ok (.ifCond .eq 11, 3) := dk_153 0 11 (dk_at dksX1_runs_0 5 rfl rfl)
theorem dX1_runs_8 : decode cX1_runs 8 = .ok (.aload_n 0, 1) := dk_42 (dk_at dksX1_runs_0 8 rfl rfl)
theorem dX1_runs_9 : decode cX1_runs 9 = .ok (.iload_n 1, 1) := dk_27 (dk_at dksX1_runs_0 9 rfl rfl)
theorem dX1_runs_10 : decode cX1_runs 10 = .ok (.invokevirtual 221, 3) := dk_182 0 221 (dk_at dksX1_runs_0 10 rfl rfl)
theorem dX1_runs_13 : decode cX1_runs 13 = .ok (.goto 4, 3) := dk_167 0 4 (dk_at dksX1_runs_0 13 rfl rfl)
theorem dX1_runs_16 : decode cX1_runs 16 = .ok (.iconst (-1), 1) := dk_2 (dk_at dksX1_runs_0 16 rfl rfl)
theorem dX1_runs_17 : decode cX1_runs 17 = .ok (.ireturn, 1) := dk_172 (dk_at dksX1_runs_0 17 rfl rfl)
abbrev cX1_runsOf : ByteArray := prog_1_method_20_code
def yX1_runsOf : MethodName := ⟨RX1, "runsOf", "(I)I"⟩
def dkwX1_runsOf_2 : List UInt8 := [132, 3, 1, 167, 255, 211, 28, 172]
abbrev dktX1_runsOf_2 : List UInt8 := dkwX1_runsOf_2 ++ []
def dkwX1_runsOf_1 : List UInt8 := [182, 0, 204, 29, 182, 0, 207, 42, 27, 182, 0, 204, 29, 4, 100, 182, 0, 207, 159, 0, 6, 132, 2, 1]
abbrev dktX1_runsOf_1 : List UInt8 := dkwX1_runsOf_1 ++ dktX1_runsOf_2
def dkwX1_runsOf_0 : List UInt8 := [3, 61, 3, 62, 29, 42, 27, 182, 0, 204, 182, 0, 194, 162, 0, 39, 29, 153, 0, 26, 42, 27]
abbrev dktX1_runsOf_0 : List UInt8 := dkwX1_runsOf_0 ++ dktX1_runsOf_1
theorem dksX1_runsOf_0 : cX1_runsOf.data.toList.drop 0 = dktX1_runsOf_0 := by decide +kernel
theorem dksX1_runsOf_1 : cX1_runsOf.data.toList.drop 22 = dktX1_runsOf_1 := dk_seg dksX1_runsOf_0 22 rfl rfl
theorem dksX1_runsOf_2 : cX1_runsOf.data.toList.drop 46 = dktX1_runsOf_2 := dk_seg dksX1_runsOf_1 24 rfl rfl
theorem dX1_runsOf_0 : decode cX1_runsOf 0 = .ok (.iconst 0, 1) := dk_3 (dk_at dksX1_runsOf_0 0 rfl rfl)
theorem dX1_runsOf_1 : decode cX1_runsOf 1 = .ok (.istore_n 2, 1) := dk_61 (dk_at dksX1_runsOf_0 1 rfl rfl)
theorem dX1_runsOf_2 : decode cX1_runsOf 2 = .ok (.iconst 0, 1) := dk_3 (dk_at dksX1_runsOf_0 2 rfl rfl)
theorem dX1_runsOf_3 : decode cX1_runsOf 3 = .ok (.istore_n 3, 1) := dk_62 (dk_at dksX1_runsOf_0 3 rfl rfl)
theorem dX1_runsOf_4 : decode cX1_runsOf 4 = .ok (.iload_n 3, 1) := dk_29 (dk_at dksX1_runsOf_0 4 rfl rfl)
theorem dX1_runsOf_5 : decode cX1_runsOf 5 = .ok (.aload_n 0, 1) := dk_42 (dk_at dksX1_runsOf_0 5 rfl rfl)
theorem dX1_runsOf_6 : decode cX1_runsOf 6 = .ok (.iload_n 1, 1) := dk_27 (dk_at dksX1_runsOf_0 6 rfl rfl)
theorem dX1_runsOf_7 : decode cX1_runsOf 7 = .ok (.invokevirtual 204, 3) := dk_182 0 204 (dk_at dksX1_runsOf_0 7 rfl rfl)
theorem dX1_runsOf_10 : decode cX1_runsOf 10 = .ok (.invokevirtual 194, 3) := dk_182 0 194 (dk_at dksX1_runsOf_0 10 rfl rfl)
theorem dX1_runsOf_13 : decode cX1_runsOf 13 = .ok (.if_icmp .ge 39, 3) := dk_162 0 39 (dk_at dksX1_runsOf_0 13 rfl rfl)
theorem dX1_runsOf_16 : decode cX1_runsOf 16 = .ok (.iload_n 3, 1) := dk_29 (dk_at dksX1_runsOf_0 16 rfl rfl)
theorem dX1_runsOf_17 : decode cX1_runsOf 17 = .ok (.ifCond .eq 26, 3) := dk_153 0 26 (dk_at dksX1_runsOf_0 17 rfl rfl)
theorem dX1_runsOf_20 : decode cX1_runsOf 20 = .ok (.aload_n 0, 1) := dk_42 (dk_at dksX1_runsOf_0 20 rfl rfl)
theorem dX1_runsOf_21 : decode cX1_runsOf 21 = .ok (.iload_n 1, 1) := dk_27 (dk_at dksX1_runsOf_0 21 rfl rfl)
theorem dX1_runsOf_22 : decode cX1_runsOf 22 = .ok (.invokevirtual 204, 3) := dk_182 0 204 (dk_at dksX1_runsOf_1 0 rfl rfl)
theorem dX1_runsOf_25 : decode cX1_runsOf 25 = .ok (.iload_n 3, 1) := dk_29 (dk_at dksX1_runsOf_1 3 rfl rfl)
theorem dX1_runsOf_26 : decode cX1_runsOf 26 = .ok (.invokevirtual 207, 3) := dk_182 0 207 (dk_at dksX1_runsOf_1 4 rfl rfl)
theorem dX1_runsOf_29 : decode cX1_runsOf 29 = .ok (.aload_n 0, 1) := dk_42 (dk_at dksX1_runsOf_1 7 rfl rfl)
theorem dX1_runsOf_30 : decode cX1_runsOf 30 = .ok (.iload_n 1, 1) := dk_27 (dk_at dksX1_runsOf_1 8 rfl rfl)
theorem dX1_runsOf_31 : decode cX1_runsOf 31 = .ok (.invokevirtual 204, 3) := dk_182 0 204 (dk_at dksX1_runsOf_1 9 rfl rfl)
theorem dX1_runsOf_34 : decode cX1_runsOf 34 = .ok (.iload_n 3, 1) := dk_29 (dk_at dksX1_runsOf_1 12 rfl rfl)
theorem dX1_runsOf_35 : decode cX1_runsOf 35 = .ok (.iconst 1, 1) := dk_4 (dk_at dksX1_runsOf_1 13 rfl rfl)
theorem dX1_runsOf_36 : decode cX1_runsOf 36 = .ok (.isub, 1) := dk_100 (dk_at dksX1_runsOf_1 14 rfl rfl)
theorem dX1_runsOf_37 : decode cX1_runsOf 37 = .ok (.invokevirtual 207, 3) := dk_182 0 207 (dk_at dksX1_runsOf_1 15 rfl rfl)
theorem dX1_runsOf_40 : decode cX1_runsOf 40 = .ok (.if_icmp .eq 6, 3) := dk_159 0 6 (dk_at dksX1_runsOf_1 18 rfl rfl)
theorem dX1_runsOf_43 : decode cX1_runsOf 43 = .ok (.iinc 2 1, 3) := dk_132 2 1 (dk_at dksX1_runsOf_1 21 rfl rfl)
theorem dX1_runsOf_46 : decode cX1_runsOf 46 = .ok (.iinc 3 1, 3) := dk_132 3 1 (dk_at dksX1_runsOf_2 0 rfl rfl)
theorem dX1_runsOf_49 : decode cX1_runsOf 49 = .ok (.goto (-45), 3) := dk_167 255 211 (dk_at dksX1_runsOf_2 3 rfl rfl)
theorem dX1_runsOf_52 : decode cX1_runsOf 52 = .ok (.iload_n 2, 1) := dk_28 (dk_at dksX1_runsOf_2 6 rfl rfl)
theorem dX1_runsOf_53 : decode cX1_runsOf 53 = .ok (.ireturn, 1) := dk_172 (dk_at dksX1_runsOf_2 7 rfl rfl)
abbrev cX1_longest : ByteArray := prog_1_method_22_code
def yX1_longest : MethodName := ⟨RX1, "longest", "(II)I"⟩
def dkwX1_longest_3 : List UInt8 := [132, 5, 1, 167, 255, 209, 29, 172]
abbrev dktX1_longest_3 : List UInt8 := dkwX1_longest_3 ++ []
def dkwX1_longest_2 : List UInt8 := [182, 0, 207, 28, 160, 0, 10, 21, 4, 4, 96, 167, 0, 4, 3, 54, 4, 29, 21, 4, 184, 0, 224, 62]
abbrev dktX1_longest_2 : List UInt8 := dkwX1_longest_2 ++ dktX1_longest_3
def dkwX1_longest_1 : List UInt8 := [3, 54, 5, 21, 5, 42, 27, 182, 0, 204, 182, 0, 194, 162, 0, 40, 42, 27, 182, 0, 204, 21, 5]
abbrev dktX1_longest_1 : List UInt8 := dkwX1_longest_1 ++ dktX1_longest_2
def dkwX1_longest_0 : List UInt8 := [42, 27, 182, 0, 186, 153, 0, 12, 28, 3, 4, 184, 0, 182, 154, 0, 5, 2, 172, 3, 62, 3, 54, 4]
abbrev dktX1_longest_0 : List UInt8 := dkwX1_longest_0 ++ dktX1_longest_1
theorem dksX1_longest_0 : cX1_longest.data.toList.drop 0 = dktX1_longest_0 := by decide +kernel
theorem dksX1_longest_1 : cX1_longest.data.toList.drop 24 = dktX1_longest_1 := dk_seg dksX1_longest_0 24 rfl rfl
theorem dksX1_longest_2 : cX1_longest.data.toList.drop 47 = dktX1_longest_2 := dk_seg dksX1_longest_1 23 rfl rfl
theorem dksX1_longest_3 : cX1_longest.data.toList.drop 71 = dktX1_longest_3 := dk_seg dksX1_longest_2 24 rfl rfl
theorem dX1_longest_0 : decode cX1_longest 0 = .ok (.aload_n 0, 1) := dk_42 (dk_at dksX1_longest_0 0 rfl rfl)
theorem dX1_longest_1 : decode cX1_longest 1 = .ok (.iload_n 1, 1) := dk_27 (dk_at dksX1_longest_0 1 rfl rfl)
theorem dX1_longest_2 : decode cX1_longest 2 = .ok (.invokevirtual 186, 3) := dk_182 0 186 (dk_at dksX1_longest_0 2 rfl rfl)
theorem dX1_longest_5 : decode cX1_longest 5 = .ok (.ifCond .eq 12, 3) := dk_153 0 12 (dk_at dksX1_longest_0 5 rfl rfl)
theorem dX1_longest_8 : decode cX1_longest 8 = .ok (.iload_n 2, 1) := dk_28 (dk_at dksX1_longest_0 8 rfl rfl)
theorem dX1_longest_9 : decode cX1_longest 9 = .ok (.iconst 0, 1) := dk_3 (dk_at dksX1_longest_0 9 rfl rfl)
theorem dX1_longest_10 : decode cX1_longest 10 = .ok (.iconst 1, 1) := dk_4 (dk_at dksX1_longest_0 10 rfl rfl)
theorem dX1_longest_11 : decode cX1_longest 11 = .ok (.invokestatic 182, 3) := dk_184 0 182 (dk_at dksX1_longest_0 11 rfl rfl)
theorem dX1_longest_14 : decode cX1_longest 14 = .ok (.ifCond .ne 5, 3) := dk_154 0 5 (dk_at dksX1_longest_0 14 rfl rfl)
theorem dX1_longest_17 : decode cX1_longest 17 = .ok (.iconst (-1), 1) := dk_2 (dk_at dksX1_longest_0 17 rfl rfl)
theorem dX1_longest_18 : decode cX1_longest 18 = .ok (.ireturn, 1) := dk_172 (dk_at dksX1_longest_0 18 rfl rfl)
theorem dX1_longest_19 : decode cX1_longest 19 = .ok (.iconst 0, 1) := dk_3 (dk_at dksX1_longest_0 19 rfl rfl)
theorem dX1_longest_20 : decode cX1_longest 20 = .ok (.istore_n 3, 1) := dk_62 (dk_at dksX1_longest_0 20 rfl rfl)
theorem dX1_longest_21 : decode cX1_longest 21 = .ok (.iconst 0, 1) := dk_3 (dk_at dksX1_longest_0 21 rfl rfl)
theorem dX1_longest_22 : decode cX1_longest 22 = .ok (.istore 4, 2) := dk_54 4 (dk_at dksX1_longest_0 22 rfl rfl)
theorem dX1_longest_24 : decode cX1_longest 24 = .ok (.iconst 0, 1) := dk_3 (dk_at dksX1_longest_1 0 rfl rfl)
theorem dX1_longest_25 : decode cX1_longest 25 = .ok (.istore 5, 2) := dk_54 5 (dk_at dksX1_longest_1 1 rfl rfl)
theorem dX1_longest_27 : decode cX1_longest 27 = .ok (.iload 5, 2) := dk_21 5 (dk_at dksX1_longest_1 3 rfl rfl)
theorem dX1_longest_29 : decode cX1_longest 29 = .ok (.aload_n 0, 1) := dk_42 (dk_at dksX1_longest_1 5 rfl rfl)
theorem dX1_longest_30 : decode cX1_longest 30 = .ok (.iload_n 1, 1) := dk_27 (dk_at dksX1_longest_1 6 rfl rfl)
theorem dX1_longest_31 : decode cX1_longest 31 = .ok (.invokevirtual 204, 3) := dk_182 0 204 (dk_at dksX1_longest_1 7 rfl rfl)
theorem dX1_longest_34 : decode cX1_longest 34 = .ok (.invokevirtual 194, 3) := dk_182 0 194 (dk_at dksX1_longest_1 10 rfl rfl)
theorem dX1_longest_37 : decode cX1_longest 37 = .ok (.if_icmp .ge 40, 3) := dk_162 0 40 (dk_at dksX1_longest_1 13 rfl rfl)
theorem dX1_longest_40 : decode cX1_longest 40 = .ok (.aload_n 0, 1) := dk_42 (dk_at dksX1_longest_1 16 rfl rfl)
theorem dX1_longest_41 : decode cX1_longest 41 = .ok (.iload_n 1, 1) := dk_27 (dk_at dksX1_longest_1 17 rfl rfl)
theorem dX1_longest_42 : decode cX1_longest 42 = .ok (.invokevirtual 204, 3) := dk_182 0 204 (dk_at dksX1_longest_1 18 rfl rfl)
theorem dX1_longest_45 : decode cX1_longest 45 = .ok (.iload 5, 2) := dk_21 5 (dk_at dksX1_longest_1 21 rfl rfl)
theorem dX1_longest_47 : decode cX1_longest 47 = .ok (.invokevirtual 207, 3) := dk_182 0 207 (dk_at dksX1_longest_2 0 rfl rfl)
theorem dX1_longest_50 : decode cX1_longest 50 = .ok (.iload_n 2, 1) := dk_28 (dk_at dksX1_longest_2 3 rfl rfl)
theorem dX1_longest_51 : decode cX1_longest 51 = .ok (.if_icmp .ne 10, 3) := dk_160 0 10 (dk_at dksX1_longest_2 4 rfl rfl)
theorem dX1_longest_54 : decode cX1_longest 54 = .ok (.iload 4, 2) := dk_21 4 (dk_at dksX1_longest_2 7 rfl rfl)
theorem dX1_longest_56 : decode cX1_longest 56 = .ok (.iconst 1, 1) := dk_4 (dk_at dksX1_longest_2 9 rfl rfl)
theorem dX1_longest_57 : decode cX1_longest 57 = .ok (.iadd, 1) := dk_96 (dk_at dksX1_longest_2 10 rfl rfl)
theorem dX1_longest_58 : decode cX1_longest 58 = .ok (.goto 4, 3) := dk_167 0 4 (dk_at dksX1_longest_2 11 rfl rfl)
theorem dX1_longest_61 : decode cX1_longest 61 = .ok (.iconst 0, 1) := dk_3 (dk_at dksX1_longest_2 14 rfl rfl)
theorem dX1_longest_62 : decode cX1_longest 62 = .ok (.istore 4, 2) := dk_54 4 (dk_at dksX1_longest_2 15 rfl rfl)
theorem dX1_longest_64 : decode cX1_longest 64 = .ok (.iload_n 3, 1) := dk_29 (dk_at dksX1_longest_2 17 rfl rfl)
theorem dX1_longest_65 : decode cX1_longest 65 = .ok (.iload 4, 2) := dk_21 4 (dk_at dksX1_longest_2 18 rfl rfl)
theorem dX1_longest_67 : decode cX1_longest 67 = .ok (.invokestatic 224, 3) := dk_184 0 224 (dk_at dksX1_longest_2 20 rfl rfl)
theorem dX1_longest_70 : decode cX1_longest 70 = .ok (.istore_n 3, 1) := dk_62 (dk_at dksX1_longest_2 23 rfl rfl)
theorem dX1_longest_71 : decode cX1_longest 71 = .ok (.iinc 5 1, 3) := dk_132 5 1 (dk_at dksX1_longest_3 0 rfl rfl)
theorem dX1_longest_74 : decode cX1_longest 74 = .ok (.goto (-47), 3) := dk_167 255 209 (dk_at dksX1_longest_3 3 rfl rfl)
theorem dX1_longest_77 : decode cX1_longest 77 = .ok (.iload_n 3, 1) := dk_29 (dk_at dksX1_longest_3 6 rfl rfl)
theorem dX1_longest_78 : decode cX1_longest 78 = .ok (.ireturn, 1) := dk_172 (dk_at dksX1_longest_3 7 rfl rfl)
abbrev cX1_leaves : ByteArray := prog_1_method_24_code
def yX1_leaves : MethodName := ⟨RX1, "leaves", "(I)I"⟩
def dkwX1_leaves_0 : List UInt8 := [42, 27, 182, 0, 186, 153, 0, 14, 42, 27, 182, 0, 204, 182, 0, 233, 167, 0, 4, 2, 172]
abbrev dktX1_leaves_0 : List UInt8 := dkwX1_leaves_0 ++ []
theorem dksX1_leaves_0 : cX1_leaves.data.toList.drop 0 = dktX1_leaves_0 := by decide +kernel
theorem dX1_leaves_0 : decode cX1_leaves 0 = .ok (.aload_n 0, 1) := dk_42 (dk_at dksX1_leaves_0 0 rfl rfl)
theorem dX1_leaves_1 : decode cX1_leaves 1 = .ok (.iload_n 1, 1) := dk_27 (dk_at dksX1_leaves_0 1 rfl rfl)
theorem dX1_leaves_2 : decode cX1_leaves 2 = .ok (.invokevirtual 186, 3) := dk_182 0 186 (dk_at dksX1_leaves_0 2 rfl rfl)
theorem dX1_leaves_5 : decode cX1_leaves 5 = .ok (.ifCond .eq 14, 3) := dk_153 0 14 (dk_at dksX1_leaves_0 5 rfl rfl)
theorem dX1_leaves_8 : decode cX1_leaves 8 = .ok (.aload_n 0, 1) := dk_42 (dk_at dksX1_leaves_0 8 rfl rfl)
theorem dX1_leaves_9 : decode cX1_leaves 9 = .ok (.iload_n 1, 1) := dk_27 (dk_at dksX1_leaves_0 9 rfl rfl)
theorem dX1_leaves_10 : decode cX1_leaves 10 = .ok (.invokevirtual 204, 3) := dk_182 0 204 (dk_at dksX1_leaves_0 10 rfl rfl)
theorem dX1_leaves_13 : decode cX1_leaves 13 = .ok (.invokevirtual 233, 3) := dk_182 0 233 (dk_at dksX1_leaves_0 13 rfl rfl)
theorem dX1_leaves_16 : decode cX1_leaves 16 = .ok (.goto 4, 3) := dk_167 0 4 (dk_at dksX1_leaves_0 16 rfl rfl)
theorem dX1_leaves_19 : decode cX1_leaves 19 = .ok (.iconst (-1), 1) := dk_2 (dk_at dksX1_leaves_0 19 rfl rfl)
theorem dX1_leaves_20 : decode cX1_leaves 20 = .ok (.ireturn, 1) := dk_172 (dk_at dksX1_leaves_0 20 rfl rfl)
abbrev cX1_leaf : ByteArray := prog_1_method_25_code
def yX1_leaf : MethodName := ⟨RX1, "leaf", "(III)I"⟩
def dkwX1_leaf_4 : List UInt8 := [180, 0, 244, 167, 0, 14, 29, 5, 160, 0, 8, 21, 5, 167, 0, 4, 2, 172]
abbrev dktX1_leaf_4 : List UInt8 := dkwX1_leaf_4 ++ []
def dkwX1_leaf_3 : List UInt8 := [154, 0, 13, 25, 4, 28, 50, 180, 0, 240, 167, 0, 29, 29, 4, 160, 0, 13, 25, 4, 28, 50]
abbrev dktX1_leaf_3 : List UInt8 := dkwX1_leaf_3 ++ dktX1_leaf_4
def dkwX1_leaf_2 : List UInt8 := [162, 0, 22, 21, 5, 25, 4, 21, 6, 50, 180, 0, 240, 96, 54, 5, 132, 6, 1, 167, 255, 234, 29]
abbrev dktX1_leaf_2 : List UInt8 := dkwX1_leaf_2 ++ dktX1_leaf_3
def dkwX1_leaf_1 : List UInt8 := [154, 0, 5, 2, 172, 42, 27, 182, 0, 204, 182, 0, 236, 58, 4, 3, 54, 5, 3, 54, 6, 21, 6, 28]
abbrev dktX1_leaf_1 : List UInt8 := dkwX1_leaf_1 ++ dktX1_leaf_2
def dkwX1_leaf_0 : List UInt8 := [42, 27, 182, 0, 186, 153, 0, 21, 28, 3, 42, 27, 182, 0, 204, 182, 0, 233, 4, 100, 184, 0, 182]
abbrev dktX1_leaf_0 : List UInt8 := dkwX1_leaf_0 ++ dktX1_leaf_1
theorem dksX1_leaf_0 : cX1_leaf.data.toList.drop 0 = dktX1_leaf_0 := by decide +kernel
theorem dksX1_leaf_1 : cX1_leaf.data.toList.drop 23 = dktX1_leaf_1 := dk_seg dksX1_leaf_0 23 rfl rfl
theorem dksX1_leaf_2 : cX1_leaf.data.toList.drop 47 = dktX1_leaf_2 := dk_seg dksX1_leaf_1 24 rfl rfl
theorem dksX1_leaf_3 : cX1_leaf.data.toList.drop 70 = dktX1_leaf_3 := dk_seg dksX1_leaf_2 23 rfl rfl
theorem dksX1_leaf_4 : cX1_leaf.data.toList.drop 92 = dktX1_leaf_4 := dk_seg dksX1_leaf_3 22 rfl rfl
theorem dX1_leaf_0 : decode cX1_leaf 0 = .ok (.aload_n 0, 1) := dk_42 (dk_at dksX1_leaf_0 0 rfl rfl)
theorem dX1_leaf_1 : decode cX1_leaf 1 = .ok (.iload_n 1, 1) := dk_27 (dk_at dksX1_leaf_0 1 rfl rfl)
theorem dX1_leaf_2 : decode cX1_leaf 2 = .ok (.invokevirtual 186, 3) := dk_182 0 186 (dk_at dksX1_leaf_0 2 rfl rfl)
theorem dX1_leaf_5 : decode cX1_leaf 5 = .ok (.ifCond .eq 21, 3) := dk_153 0 21 (dk_at dksX1_leaf_0 5 rfl rfl)
theorem dX1_leaf_8 : decode cX1_leaf 8 = .ok (.iload_n 2, 1) := dk_28 (dk_at dksX1_leaf_0 8 rfl rfl)
theorem dX1_leaf_9 : decode cX1_leaf 9 = .ok (.iconst 0, 1) := dk_3 (dk_at dksX1_leaf_0 9 rfl rfl)
theorem dX1_leaf_10 : decode cX1_leaf 10 = .ok (.aload_n 0, 1) := dk_42 (dk_at dksX1_leaf_0 10 rfl rfl)
theorem dX1_leaf_11 : decode cX1_leaf 11 = .ok (.iload_n 1, 1) := dk_27 (dk_at dksX1_leaf_0 11 rfl rfl)
theorem dX1_leaf_12 : decode cX1_leaf 12 = .ok (.invokevirtual 204, 3) := dk_182 0 204 (dk_at dksX1_leaf_0 12 rfl rfl)
theorem dX1_leaf_15 : decode cX1_leaf 15 = .ok (.invokevirtual 233, 3) := dk_182 0 233 (dk_at dksX1_leaf_0 15 rfl rfl)
theorem dX1_leaf_18 : decode cX1_leaf 18 = .ok (.iconst 1, 1) := dk_4 (dk_at dksX1_leaf_0 18 rfl rfl)
theorem dX1_leaf_19 : decode cX1_leaf 19 = .ok (.isub, 1) := dk_100 (dk_at dksX1_leaf_0 19 rfl rfl)
theorem dX1_leaf_20 : decode cX1_leaf 20 = .ok (.invokestatic 182, 3) := dk_184 0 182 (dk_at dksX1_leaf_0 20 rfl rfl)
theorem dX1_leaf_23 : decode cX1_leaf 23 = .ok (.ifCond .ne 5, 3) := dk_154 0 5 (dk_at dksX1_leaf_1 0 rfl rfl)
theorem dX1_leaf_26 : decode cX1_leaf 26 = .ok (.iconst (-1), 1) := dk_2 (dk_at dksX1_leaf_1 3 rfl rfl)
theorem dX1_leaf_27 : decode cX1_leaf 27 = .ok (.ireturn, 1) := dk_172 (dk_at dksX1_leaf_1 4 rfl rfl)
theorem dX1_leaf_28 : decode cX1_leaf 28 = .ok (.aload_n 0, 1) := dk_42 (dk_at dksX1_leaf_1 5 rfl rfl)
theorem dX1_leaf_29 : decode cX1_leaf 29 = .ok (.iload_n 1, 1) := dk_27 (dk_at dksX1_leaf_1 6 rfl rfl)
theorem dX1_leaf_30 : decode cX1_leaf 30 = .ok (.invokevirtual 204, 3) := dk_182 0 204 (dk_at dksX1_leaf_1 7 rfl rfl)
theorem dX1_leaf_33 : decode cX1_leaf 33 = .ok (.invokevirtual 236, 3) := dk_182 0 236 (dk_at dksX1_leaf_1 10 rfl rfl)
theorem dX1_leaf_36 : decode cX1_leaf 36 = .ok (.astore 4, 2) := dk_58 4 (dk_at dksX1_leaf_1 13 rfl rfl)
theorem dX1_leaf_38 : decode cX1_leaf 38 = .ok (.iconst 0, 1) := dk_3 (dk_at dksX1_leaf_1 15 rfl rfl)
theorem dX1_leaf_39 : decode cX1_leaf 39 = .ok (.istore 5, 2) := dk_54 5 (dk_at dksX1_leaf_1 16 rfl rfl)
theorem dX1_leaf_41 : decode cX1_leaf 41 = .ok (.iconst 0, 1) := dk_3 (dk_at dksX1_leaf_1 18 rfl rfl)
theorem dX1_leaf_42 : decode cX1_leaf 42 = .ok (.istore 6, 2) := dk_54 6 (dk_at dksX1_leaf_1 19 rfl rfl)
theorem dX1_leaf_44 : decode cX1_leaf 44 = .ok (.iload 6, 2) := dk_21 6 (dk_at dksX1_leaf_1 21 rfl rfl)
theorem dX1_leaf_46 : decode cX1_leaf 46 = .ok (.iload_n 2, 1) := dk_28 (dk_at dksX1_leaf_1 23 rfl rfl)
theorem dX1_leaf_47 : decode cX1_leaf 47 = .ok (.if_icmp .ge 22, 3) := dk_162 0 22 (dk_at dksX1_leaf_2 0 rfl rfl)
theorem dX1_leaf_50 : decode cX1_leaf 50 = .ok (.iload 5, 2) := dk_21 5 (dk_at dksX1_leaf_2 3 rfl rfl)
theorem dX1_leaf_52 : decode cX1_leaf 52 = .ok (.aload 4, 2) := dk_25 4 (dk_at dksX1_leaf_2 5 rfl rfl)
theorem dX1_leaf_54 : decode cX1_leaf 54 = .ok (.iload 6, 2) := dk_21 6 (dk_at dksX1_leaf_2 7 rfl rfl)
theorem dX1_leaf_56 : decode cX1_leaf 56 = .ok (.aaload, 1) := dk_50 (dk_at dksX1_leaf_2 9 rfl rfl)
theorem dX1_leaf_57 : decode cX1_leaf 57 = .ok (.getfield 240, 3) := dk_180 0 240 (dk_at dksX1_leaf_2 10 rfl rfl)
theorem dX1_leaf_60 : decode cX1_leaf 60 = .ok (.iadd, 1) := dk_96 (dk_at dksX1_leaf_2 13 rfl rfl)
theorem dX1_leaf_61 : decode cX1_leaf 61 = .ok (.istore 5, 2) := dk_54 5 (dk_at dksX1_leaf_2 14 rfl rfl)
theorem dX1_leaf_63 : decode cX1_leaf 63 = .ok (.iinc 6 1, 3) := dk_132 6 1 (dk_at dksX1_leaf_2 16 rfl rfl)
theorem dX1_leaf_66 : decode cX1_leaf 66 = .ok (.goto (-22), 3) := dk_167 255 234 (dk_at dksX1_leaf_2 19 rfl rfl)
theorem dX1_leaf_69 : decode cX1_leaf 69 = .ok (.iload_n 3, 1) := dk_29 (dk_at dksX1_leaf_2 22 rfl rfl)
theorem dX1_leaf_70 : decode cX1_leaf 70 = .ok (.ifCond .ne 13, 3) := dk_154 0 13 (dk_at dksX1_leaf_3 0 rfl rfl)
theorem dX1_leaf_73 : decode cX1_leaf 73 = .ok (.aload 4, 2) := dk_25 4 (dk_at dksX1_leaf_3 3 rfl rfl)
theorem dX1_leaf_75 : decode cX1_leaf 75 = .ok (.iload_n 2, 1) := dk_28 (dk_at dksX1_leaf_3 5 rfl rfl)
theorem dX1_leaf_76 : decode cX1_leaf 76 = .ok (.aaload, 1) := dk_50 (dk_at dksX1_leaf_3 6 rfl rfl)
theorem dX1_leaf_77 : decode cX1_leaf 77 = .ok (.getfield 240, 3) := dk_180 0 240 (dk_at dksX1_leaf_3 7 rfl rfl)
theorem dX1_leaf_80 : decode cX1_leaf 80 = .ok (.goto 29, 3) := dk_167 0 29 (dk_at dksX1_leaf_3 10 rfl rfl)
theorem dX1_leaf_83 : decode cX1_leaf 83 = .ok (.iload_n 3, 1) := dk_29 (dk_at dksX1_leaf_3 13 rfl rfl)
theorem dX1_leaf_84 : decode cX1_leaf 84 = .ok (.iconst 1, 1) := dk_4 (dk_at dksX1_leaf_3 14 rfl rfl)
theorem dX1_leaf_85 : decode cX1_leaf 85 = .ok (.if_icmp .ne 13, 3) := dk_160 0 13 (dk_at dksX1_leaf_3 15 rfl rfl)
theorem dX1_leaf_88 : decode cX1_leaf 88 = .ok (.aload 4, 2) := dk_25 4 (dk_at dksX1_leaf_3 18 rfl rfl)
theorem dX1_leaf_90 : decode cX1_leaf 90 = .ok (.iload_n 2, 1) := dk_28 (dk_at dksX1_leaf_3 20 rfl rfl)
theorem dX1_leaf_91 : decode cX1_leaf 91 = .ok (.aaload, 1) := dk_50 (dk_at dksX1_leaf_3 21 rfl rfl)
theorem dX1_leaf_92 : decode cX1_leaf 92 = .ok (.getfield 244, 3) := dk_180 0 244 (dk_at dksX1_leaf_4 0 rfl rfl)
theorem dX1_leaf_95 : decode cX1_leaf 95 = .ok (.goto 14, 3) := dk_167 0 14 (dk_at dksX1_leaf_4 3 rfl rfl)
theorem dX1_leaf_98 : decode cX1_leaf 98 = .ok (.iload_n 3, 1) := dk_29 (dk_at dksX1_leaf_4 6 rfl rfl)
theorem dX1_leaf_99 : decode cX1_leaf 99 = .ok (.iconst 2, 1) := dk_5 (dk_at dksX1_leaf_4 7 rfl rfl)
theorem dX1_leaf_100 : decode cX1_leaf 100 = .ok (.if_icmp .ne 8, 3) := dk_160 0 8 (dk_at dksX1_leaf_4 8 rfl rfl)
theorem dX1_leaf_103 : decode cX1_leaf 103 = .ok (.iload 5, 2) := dk_21 5 (dk_at dksX1_leaf_4 11 rfl rfl)
theorem dX1_leaf_105 : decode cX1_leaf 105 = .ok (.goto 4, 3) := dk_167 0 4 (dk_at dksX1_leaf_4 13 rfl rfl)
theorem dX1_leaf_108 : decode cX1_leaf 108 = .ok (.iconst (-1), 1) := dk_2 (dk_at dksX1_leaf_4 16 rfl rfl)
theorem dX1_leaf_109 : decode cX1_leaf 109 = .ok (.ireturn, 1) := dk_172 (dk_at dksX1_leaf_4 17 rfl rfl)
abbrev cX1_tree : ByteArray := prog_1_method_26_code
def yX1_tree : MethodName := ⟨RX1, "tree", "(II)I"⟩
def dkwX1_tree_3 : List UInt8 := [172, 45, 182, 1, 1, 172, 2, 172]
abbrev dktX1_tree_3 : List UInt8 := dkwX1_tree_3 ++ []
def dkwX1_tree_2 : List UInt8 := [45, 45, 180, 0, 246, 182, 0, 250, 172, 3, 45, 182, 0, 233, 4, 100, 184, 0, 224, 172, 45, 180, 0, 254]
abbrev dktX1_tree_2 : List UInt8 := dkwX1_tree_2 ++ dktX1_tree_3
def dkwX1_tree_1 : List UInt8 := [170, 0, 0, 0, 0, 0, 61, 0, 0, 0, 0, 0, 0, 0, 3, 0, 0, 0, 31, 0, 0, 0, 40, 0, 0, 0, 51, 0, 0, 0, 56]
abbrev dktX1_tree_1 : List UInt8 := dkwX1_tree_1 ++ dktX1_tree_2
def dkwX1_tree_0 : List UInt8 := [42, 27, 182, 0, 186, 154, 0, 5, 2, 172, 42, 27, 182, 0, 204, 78, 28]
abbrev dktX1_tree_0 : List UInt8 := dkwX1_tree_0 ++ dktX1_tree_1
theorem dksX1_tree_0 : cX1_tree.data.toList.drop 0 = dktX1_tree_0 := by decide +kernel
theorem dksX1_tree_1 : cX1_tree.data.toList.drop 17 = dktX1_tree_1 := dk_seg dksX1_tree_0 17 rfl rfl
theorem dksX1_tree_2 : cX1_tree.data.toList.drop 48 = dktX1_tree_2 := dk_seg dksX1_tree_1 31 rfl rfl
theorem dksX1_tree_3 : cX1_tree.data.toList.drop 72 = dktX1_tree_3 := dk_seg dksX1_tree_2 24 rfl rfl
theorem dX1_tree_0 : decode cX1_tree 0 = .ok (.aload_n 0, 1) := dk_42 (dk_at dksX1_tree_0 0 rfl rfl)
theorem dX1_tree_1 : decode cX1_tree 1 = .ok (.iload_n 1, 1) := dk_27 (dk_at dksX1_tree_0 1 rfl rfl)
theorem dX1_tree_2 : decode cX1_tree 2 = .ok (.invokevirtual 186, 3) := dk_182 0 186 (dk_at dksX1_tree_0 2 rfl rfl)
theorem dX1_tree_5 : decode cX1_tree 5 = .ok (.ifCond .ne 5, 3) := dk_154 0 5 (dk_at dksX1_tree_0 5 rfl rfl)
theorem dX1_tree_8 : decode cX1_tree 8 = .ok (.iconst (-1), 1) := dk_2 (dk_at dksX1_tree_0 8 rfl rfl)
theorem dX1_tree_9 : decode cX1_tree 9 = .ok (.ireturn, 1) := dk_172 (dk_at dksX1_tree_0 9 rfl rfl)
theorem dX1_tree_10 : decode cX1_tree 10 = .ok (.aload_n 0, 1) := dk_42 (dk_at dksX1_tree_0 10 rfl rfl)
theorem dX1_tree_11 : decode cX1_tree 11 = .ok (.iload_n 1, 1) := dk_27 (dk_at dksX1_tree_0 11 rfl rfl)
theorem dX1_tree_12 : decode cX1_tree 12 = .ok (.invokevirtual 204, 3) := dk_182 0 204 (dk_at dksX1_tree_0 12 rfl rfl)
theorem dX1_tree_15 : decode cX1_tree 15 = .ok (.astore_n 3, 1) := dk_78 (dk_at dksX1_tree_0 15 rfl rfl)
theorem dX1_tree_16 : decode cX1_tree 16 = .ok (.iload_n 2, 1) := dk_28 (dk_at dksX1_tree_0 16 rfl rfl)
theorem dX1_tree_17 : decode cX1_tree 17 = .ok (.tableswitch 61 0 3 #[31, 40, 51, 56], 31) := by decide +kernel
theorem dX1_tree_48 : decode cX1_tree 48 = .ok (.aload_n 3, 1) := dk_45 (dk_at dksX1_tree_2 0 rfl rfl)
theorem dX1_tree_49 : decode cX1_tree 49 = .ok (.aload_n 3, 1) := dk_45 (dk_at dksX1_tree_2 1 rfl rfl)
theorem dX1_tree_50 : decode cX1_tree 50 = .ok (.getfield 246, 3) := dk_180 0 246 (dk_at dksX1_tree_2 2 rfl rfl)
theorem dX1_tree_53 : decode cX1_tree 53 = .ok (.invokevirtual 250, 3) := dk_182 0 250 (dk_at dksX1_tree_2 5 rfl rfl)
theorem dX1_tree_56 : decode cX1_tree 56 = .ok (.ireturn, 1) := dk_172 (dk_at dksX1_tree_2 8 rfl rfl)
theorem dX1_tree_57 : decode cX1_tree 57 = .ok (.iconst 0, 1) := dk_3 (dk_at dksX1_tree_2 9 rfl rfl)
theorem dX1_tree_58 : decode cX1_tree 58 = .ok (.aload_n 3, 1) := dk_45 (dk_at dksX1_tree_2 10 rfl rfl)
theorem dX1_tree_59 : decode cX1_tree 59 = .ok (.invokevirtual 233, 3) := dk_182 0 233 (dk_at dksX1_tree_2 11 rfl rfl)
theorem dX1_tree_62 : decode cX1_tree 62 = .ok (.iconst 1, 1) := dk_4 (dk_at dksX1_tree_2 14 rfl rfl)
theorem dX1_tree_63 : decode cX1_tree 63 = .ok (.isub, 1) := dk_100 (dk_at dksX1_tree_2 15 rfl rfl)
theorem dX1_tree_64 : decode cX1_tree 64 = .ok (.invokestatic 224, 3) := dk_184 0 224 (dk_at dksX1_tree_2 16 rfl rfl)
theorem dX1_tree_67 : decode cX1_tree 67 = .ok (.ireturn, 1) := dk_172 (dk_at dksX1_tree_2 19 rfl rfl)
theorem dX1_tree_68 : decode cX1_tree 68 = .ok (.aload_n 3, 1) := dk_45 (dk_at dksX1_tree_2 20 rfl rfl)
theorem dX1_tree_69 : decode cX1_tree 69 = .ok (.getfield 254, 3) := dk_180 0 254 (dk_at dksX1_tree_2 21 rfl rfl)
theorem dX1_tree_72 : decode cX1_tree 72 = .ok (.ireturn, 1) := dk_172 (dk_at dksX1_tree_3 0 rfl rfl)
theorem dX1_tree_73 : decode cX1_tree 73 = .ok (.aload_n 3, 1) := dk_45 (dk_at dksX1_tree_3 1 rfl rfl)
theorem dX1_tree_74 : decode cX1_tree 74 = .ok (.invokevirtual 257, 3) := dk_182 1 1 (dk_at dksX1_tree_3 2 rfl rfl)
theorem dX1_tree_77 : decode cX1_tree 77 = .ok (.ireturn, 1) := dk_172 (dk_at dksX1_tree_3 5 rfl rfl)
theorem dX1_tree_78 : decode cX1_tree 78 = .ok (.iconst (-1), 1) := dk_2 (dk_at dksX1_tree_3 6 rfl rfl)
theorem dX1_tree_79 : decode cX1_tree 79 = .ok (.ireturn, 1) := dk_172 (dk_at dksX1_tree_3 7 rfl rfl)
abbrev cX1_apart : ByteArray := prog_1_method_31_code
def yX1_apart : MethodName := ⟨RX1, "apart", "(II)I"⟩
def dkwX1_apart_4 : List UInt8 := [54, 4, 132, 5, 1, 167, 255, 221, 21, 4, 172]
abbrev dktX1_apart_4 : List UInt8 := dkwX1_apart_4 ++ []
def dkwX1_apart_3 : List UInt8 := [21, 4, 42, 27, 182, 0, 204, 21, 5, 182, 0, 207, 42, 28, 182, 0, 204, 21, 5, 182, 0, 207, 130, 96]
abbrev dktX1_apart_3 : List UInt8 := dkwX1_apart_3 ++ dktX1_apart_4
def dkwX1_apart_2 : List UInt8 := [28, 182, 0, 204, 182, 0, 194, 184, 0, 224, 29, 100, 54, 4, 3, 54, 5, 21, 5, 29, 162, 0, 35]
abbrev dktX1_apart_2 : List UInt8 := dkwX1_apart_2 ++ dktX1_apart_3
def dkwX1_apart_1 : List UInt8 := [182, 0, 194, 42, 28, 182, 0, 204, 182, 0, 194, 184, 1, 22, 62, 42, 27, 182, 0, 204, 182, 0, 194, 42]
abbrev dktX1_apart_1 : List UInt8 := dkwX1_apart_1 ++ dktX1_apart_2
def dkwX1_apart_0 : List UInt8 := [42, 27, 182, 0, 186, 153, 0, 11, 42, 28, 182, 0, 186, 154, 0, 5, 2, 172, 42, 27, 182, 0, 204]
abbrev dktX1_apart_0 : List UInt8 := dkwX1_apart_0 ++ dktX1_apart_1
theorem dksX1_apart_0 : cX1_apart.data.toList.drop 0 = dktX1_apart_0 := by decide +kernel
theorem dksX1_apart_1 : cX1_apart.data.toList.drop 23 = dktX1_apart_1 := dk_seg dksX1_apart_0 23 rfl rfl
theorem dksX1_apart_2 : cX1_apart.data.toList.drop 47 = dktX1_apart_2 := dk_seg dksX1_apart_1 24 rfl rfl
theorem dksX1_apart_3 : cX1_apart.data.toList.drop 70 = dktX1_apart_3 := dk_seg dksX1_apart_2 23 rfl rfl
theorem dksX1_apart_4 : cX1_apart.data.toList.drop 94 = dktX1_apart_4 := dk_seg dksX1_apart_3 24 rfl rfl
theorem dX1_apart_0 : decode cX1_apart 0 = .ok (.aload_n 0, 1) := dk_42 (dk_at dksX1_apart_0 0 rfl rfl)
theorem dX1_apart_1 : decode cX1_apart 1 = .ok (.iload_n 1, 1) := dk_27 (dk_at dksX1_apart_0 1 rfl rfl)
theorem dX1_apart_2 : decode cX1_apart 2 = .ok (.invokevirtual 186, 3) := dk_182 0 186 (dk_at dksX1_apart_0 2 rfl rfl)
theorem dX1_apart_5 : decode cX1_apart 5 = .ok (.ifCond .eq 11, 3) := dk_153 0 11 (dk_at dksX1_apart_0 5 rfl rfl)
theorem dX1_apart_8 : decode cX1_apart 8 = .ok (.aload_n 0, 1) := dk_42 (dk_at dksX1_apart_0 8 rfl rfl)
theorem dX1_apart_9 : decode cX1_apart 9 = .ok (.iload_n 2, 1) := dk_28 (dk_at dksX1_apart_0 9 rfl rfl)
theorem dX1_apart_10 : decode cX1_apart 10 = .ok (.invokevirtual 186, 3) := dk_182 0 186 (dk_at dksX1_apart_0 10 rfl rfl)
theorem dX1_apart_13 : decode cX1_apart 13 = .ok (.ifCond .ne 5, 3) := dk_154 0 5 (dk_at dksX1_apart_0 13 rfl rfl)
theorem dX1_apart_16 : decode cX1_apart 16 = .ok (.iconst (-1), 1) := dk_2 (dk_at dksX1_apart_0 16 rfl rfl)
theorem dX1_apart_17 : decode cX1_apart 17 = .ok (.ireturn, 1) := dk_172 (dk_at dksX1_apart_0 17 rfl rfl)
theorem dX1_apart_18 : decode cX1_apart 18 = .ok (.aload_n 0, 1) := dk_42 (dk_at dksX1_apart_0 18 rfl rfl)
theorem dX1_apart_19 : decode cX1_apart 19 = .ok (.iload_n 1, 1) := dk_27 (dk_at dksX1_apart_0 19 rfl rfl)
theorem dX1_apart_20 : decode cX1_apart 20 = .ok (.invokevirtual 204, 3) := dk_182 0 204 (dk_at dksX1_apart_0 20 rfl rfl)
theorem dX1_apart_23 : decode cX1_apart 23 = .ok (.invokevirtual 194, 3) := dk_182 0 194 (dk_at dksX1_apart_1 0 rfl rfl)
theorem dX1_apart_26 : decode cX1_apart 26 = .ok (.aload_n 0, 1) := dk_42 (dk_at dksX1_apart_1 3 rfl rfl)
theorem dX1_apart_27 : decode cX1_apart 27 = .ok (.iload_n 2, 1) := dk_28 (dk_at dksX1_apart_1 4 rfl rfl)
theorem dX1_apart_28 : decode cX1_apart 28 = .ok (.invokevirtual 204, 3) := dk_182 0 204 (dk_at dksX1_apart_1 5 rfl rfl)
theorem dX1_apart_31 : decode cX1_apart 31 = .ok (.invokevirtual 194, 3) := dk_182 0 194 (dk_at dksX1_apart_1 8 rfl rfl)
theorem dX1_apart_34 : decode cX1_apart 34 = .ok (.invokestatic 278, 3) := dk_184 1 22 (dk_at dksX1_apart_1 11 rfl rfl)
theorem dX1_apart_37 : decode cX1_apart 37 = .ok (.istore_n 3, 1) := dk_62 (dk_at dksX1_apart_1 14 rfl rfl)
theorem dX1_apart_38 : decode cX1_apart 38 = .ok (.aload_n 0, 1) := dk_42 (dk_at dksX1_apart_1 15 rfl rfl)
theorem dX1_apart_39 : decode cX1_apart 39 = .ok (.iload_n 1, 1) := dk_27 (dk_at dksX1_apart_1 16 rfl rfl)
theorem dX1_apart_40 : decode cX1_apart 40 = .ok (.invokevirtual 204, 3) := dk_182 0 204 (dk_at dksX1_apart_1 17 rfl rfl)
theorem dX1_apart_43 : decode cX1_apart 43 = .ok (.invokevirtual 194, 3) := dk_182 0 194 (dk_at dksX1_apart_1 20 rfl rfl)
theorem dX1_apart_46 : decode cX1_apart 46 = .ok (.aload_n 0, 1) := dk_42 (dk_at dksX1_apart_1 23 rfl rfl)
theorem dX1_apart_47 : decode cX1_apart 47 = .ok (.iload_n 2, 1) := dk_28 (dk_at dksX1_apart_2 0 rfl rfl)
theorem dX1_apart_48 : decode cX1_apart 48 = .ok (.invokevirtual 204, 3) := dk_182 0 204 (dk_at dksX1_apart_2 1 rfl rfl)
theorem dX1_apart_51 : decode cX1_apart 51 = .ok (.invokevirtual 194, 3) := dk_182 0 194 (dk_at dksX1_apart_2 4 rfl rfl)
theorem dX1_apart_54 : decode cX1_apart 54 = .ok (.invokestatic 224, 3) := dk_184 0 224 (dk_at dksX1_apart_2 7 rfl rfl)
theorem dX1_apart_57 : decode cX1_apart 57 = .ok (.iload_n 3, 1) := dk_29 (dk_at dksX1_apart_2 10 rfl rfl)
theorem dX1_apart_58 : decode cX1_apart 58 = .ok (.isub, 1) := dk_100 (dk_at dksX1_apart_2 11 rfl rfl)
theorem dX1_apart_59 : decode cX1_apart 59 = .ok (.istore 4, 2) := dk_54 4 (dk_at dksX1_apart_2 12 rfl rfl)
theorem dX1_apart_61 : decode cX1_apart 61 = .ok (.iconst 0, 1) := dk_3 (dk_at dksX1_apart_2 14 rfl rfl)
theorem dX1_apart_62 : decode cX1_apart 62 = .ok (.istore 5, 2) := dk_54 5 (dk_at dksX1_apart_2 15 rfl rfl)
theorem dX1_apart_64 : decode cX1_apart 64 = .ok (.iload 5, 2) := dk_21 5 (dk_at dksX1_apart_2 17 rfl rfl)
theorem dX1_apart_66 : decode cX1_apart 66 = .ok (.iload_n 3, 1) := dk_29 (dk_at dksX1_apart_2 19 rfl rfl)
theorem dX1_apart_67 : decode cX1_apart 67 = .ok (.if_icmp .ge 35, 3) := dk_162 0 35 (dk_at dksX1_apart_2 20 rfl rfl)
theorem dX1_apart_70 : decode cX1_apart 70 = .ok (.iload 4, 2) := dk_21 4 (dk_at dksX1_apart_3 0 rfl rfl)
theorem dX1_apart_72 : decode cX1_apart 72 = .ok (.aload_n 0, 1) := dk_42 (dk_at dksX1_apart_3 2 rfl rfl)
theorem dX1_apart_73 : decode cX1_apart 73 = .ok (.iload_n 1, 1) := dk_27 (dk_at dksX1_apart_3 3 rfl rfl)
theorem dX1_apart_74 : decode cX1_apart 74 = .ok (.invokevirtual 204, 3) := dk_182 0 204 (dk_at dksX1_apart_3 4 rfl rfl)
theorem dX1_apart_77 : decode cX1_apart 77 = .ok (.iload 5, 2) := dk_21 5 (dk_at dksX1_apart_3 7 rfl rfl)
theorem dX1_apart_79 : decode cX1_apart 79 = .ok (.invokevirtual 207, 3) := dk_182 0 207 (dk_at dksX1_apart_3 9 rfl rfl)
theorem dX1_apart_82 : decode cX1_apart 82 = .ok (.aload_n 0, 1) := dk_42 (dk_at dksX1_apart_3 12 rfl rfl)
theorem dX1_apart_83 : decode cX1_apart 83 = .ok (.iload_n 2, 1) := dk_28 (dk_at dksX1_apart_3 13 rfl rfl)
theorem dX1_apart_84 : decode cX1_apart 84 = .ok (.invokevirtual 204, 3) := dk_182 0 204 (dk_at dksX1_apart_3 14 rfl rfl)
theorem dX1_apart_87 : decode cX1_apart 87 = .ok (.iload 5, 2) := dk_21 5 (dk_at dksX1_apart_3 17 rfl rfl)
theorem dX1_apart_89 : decode cX1_apart 89 = .ok (.invokevirtual 207, 3) := dk_182 0 207 (dk_at dksX1_apart_3 19 rfl rfl)
theorem dX1_apart_92 : decode cX1_apart 92 = .ok (.ixor, 1) := dk_130 (dk_at dksX1_apart_3 22 rfl rfl)
theorem dX1_apart_93 : decode cX1_apart 93 = .ok (.iadd, 1) := dk_96 (dk_at dksX1_apart_3 23 rfl rfl)
theorem dX1_apart_94 : decode cX1_apart 94 = .ok (.istore 4, 2) := dk_54 4 (dk_at dksX1_apart_4 0 rfl rfl)
theorem dX1_apart_96 : decode cX1_apart 96 = .ok (.iinc 5 1, 3) := dk_132 5 1 (dk_at dksX1_apart_4 2 rfl rfl)
theorem dX1_apart_99 : decode cX1_apart 99 = .ok (.goto (-35), 3) := dk_167 255 221 (dk_at dksX1_apart_4 5 rfl rfl)
theorem dX1_apart_102 : decode cX1_apart 102 = .ok (.iload 4, 2) := dk_21 4 (dk_at dksX1_apart_4 8 rfl rfl)
theorem dX1_apart_104 : decode cX1_apart 104 = .ok (.ireturn, 1) := dk_172 (dk_at dksX1_apart_4 10 rfl rfl)
abbrev cX1_differ : ByteArray := prog_1_method_32_code
def yX1_differ : MethodName := ⟨RX1, "diffe\x72", "(II)I"⟩
def dkwX1_differ_1 : List UInt8 := [167, 0, 4, 2, 172]
abbrev dktX1_differ_1 : List UInt8 := dkwX1_differ_1 ++ []
def dkwX1_differ_0 : List UInt8 := [42, 27, 182, 0, 186, 153, 0, 20, 42, 28, 182, 0, 186, 153, 0, 12, 42, 27, 28, 182, 1, 25]
abbrev dktX1_differ_0 : List UInt8 := dkwX1_differ_0 ++ dktX1_differ_1
theorem dksX1_differ_0 : cX1_differ.data.toList.drop 0 = dktX1_differ_0 := by decide +kernel
theorem dksX1_differ_1 : cX1_differ.data.toList.drop 22 = dktX1_differ_1 := dk_seg dksX1_differ_0 22 rfl rfl
theorem dX1_differ_0 : decode cX1_differ 0 = .ok (.aload_n 0, 1) := dk_42 (dk_at dksX1_differ_0 0 rfl rfl)
theorem dX1_differ_1 : decode cX1_differ 1 = .ok (.iload_n 1, 1) := dk_27 (dk_at dksX1_differ_0 1 rfl rfl)
theorem dX1_differ_2 : decode cX1_differ 2 = .ok (.invokevirtual 186, 3) := dk_182 0 186 (dk_at dksX1_differ_0 2 rfl rfl)
theorem dX1_differ_5 : decode cX1_differ 5 = .ok (.ifCond .eq 20, 3) := dk_153 0 20 (dk_at dksX1_differ_0 5 rfl rfl)
theorem dX1_differ_8 : decode cX1_differ 8 = .ok (.aload_n 0, 1) := dk_42 (dk_at dksX1_differ_0 8 rfl rfl)
theorem dX1_differ_9 : decode cX1_differ 9 = .ok (.iload_n 2, 1) := dk_28 (dk_at dksX1_differ_0 9 rfl rfl)
theorem dX1_differ_10 : decode cX1_differ 10 = .ok (.invokevirtual 186, 3) := dk_182 0 186 (dk_at dksX1_differ_0 10 rfl rfl)
theorem dX1_differ_13 : decode cX1_differ 13 = .ok (.ifCond .eq 12, 3) := dk_153 0 12 (dk_at dksX1_differ_0 13 rfl rfl)
theorem dX1_differ_16 : decode cX1_differ 16 = .ok (.aload_n 0, 1) := dk_42 (dk_at dksX1_differ_0 16 rfl rfl)
theorem dX1_differ_17 : decode cX1_differ 17 = .ok (.iload_n 1, 1) := dk_27 (dk_at dksX1_differ_0 17 rfl rfl)
theorem dX1_differ_18 : decode cX1_differ 18 = .ok (.iload_n 2, 1) := dk_28 (dk_at dksX1_differ_0 18 rfl rfl)
theorem dX1_differ_19 : decode cX1_differ 19 = .ok (.invokevirtual 281, 3) := dk_182 1 25 (dk_at dksX1_differ_0 19 rfl rfl)
theorem dX1_differ_22 : decode cX1_differ 22 = .ok (.goto 4, 3) := dk_167 0 4 (dk_at dksX1_differ_1 0 rfl rfl)
theorem dX1_differ_25 : decode cX1_differ 25 = .ok (.iconst (-1), 1) := dk_2 (dk_at dksX1_differ_1 3 rfl rfl)
theorem dX1_differ_26 : decode cX1_differ 26 = .ok (.ireturn, 1) := dk_172 (dk_at dksX1_differ_1 4 rfl rfl)
abbrev cX1_differs : ByteArray := prog_1_method_30_code
def yX1_differs : MethodName := ⟨RX1, "differs", "(II)I"⟩
def dkwX1_differs_3 : List UInt8 := [28, 182, 0, 204, 182, 0, 194, 160, 0, 7, 2, 167, 0, 4, 29, 172]
abbrev dktX1_differs_3 : List UInt8 := dkwX1_differs_3 ++ []
def dkwX1_differs_2 : List UInt8 := [182, 0, 207, 159, 0, 6, 21, 4, 172, 132, 4, 1, 167, 255, 221, 42, 27, 182, 0, 204, 182, 0, 194, 42]
abbrev dktX1_differs_2 : List UInt8 := dkwX1_differs_2 ++ dktX1_differs_3
def dkwX1_differs_1 : List UInt8 := [21, 4, 29, 162, 0, 35, 42, 27, 182, 0, 204, 21, 4, 182, 0, 207, 42, 28, 182, 0, 204, 21, 4]
abbrev dktX1_differs_1 : List UInt8 := dkwX1_differs_1 ++ dktX1_differs_2
def dkwX1_differs_0 : List UInt8 := [42, 27, 182, 0, 204, 182, 0, 194, 42, 28, 182, 0, 204, 182, 0, 194, 184, 1, 22, 62, 3, 54, 4]
abbrev dktX1_differs_0 : List UInt8 := dkwX1_differs_0 ++ dktX1_differs_1
theorem dksX1_differs_0 : cX1_differs.data.toList.drop 0 = dktX1_differs_0 := by decide +kernel
theorem dksX1_differs_1 : cX1_differs.data.toList.drop 23 = dktX1_differs_1 := dk_seg dksX1_differs_0 23 rfl rfl
theorem dksX1_differs_2 : cX1_differs.data.toList.drop 46 = dktX1_differs_2 := dk_seg dksX1_differs_1 23 rfl rfl
theorem dksX1_differs_3 : cX1_differs.data.toList.drop 70 = dktX1_differs_3 := dk_seg dksX1_differs_2 24 rfl rfl
theorem dX1_differs_0 : decode cX1_differs 0 = .ok (.aload_n 0, 1) := dk_42 (dk_at dksX1_differs_0 0 rfl rfl)
theorem dX1_differs_1 : decode cX1_differs 1 = .ok (.iload_n 1, 1) := dk_27 (dk_at dksX1_differs_0 1 rfl rfl)
theorem dX1_differs_2 : decode cX1_differs 2 = .ok (.invokevirtual 204, 3) := dk_182 0 204 (dk_at dksX1_differs_0 2 rfl rfl)
theorem dX1_differs_5 : decode cX1_differs 5 = .ok (.invokevirtual 194, 3) := dk_182 0 194 (dk_at dksX1_differs_0 5 rfl rfl)
theorem dX1_differs_8 : decode cX1_differs 8 = .ok (.aload_n 0, 1) := dk_42 (dk_at dksX1_differs_0 8 rfl rfl)
theorem dX1_differs_9 : decode cX1_differs 9 = .ok (.iload_n 2, 1) := dk_28 (dk_at dksX1_differs_0 9 rfl rfl)
theorem dX1_differs_10 : decode cX1_differs 10 = .ok (.invokevirtual 204, 3) := dk_182 0 204 (dk_at dksX1_differs_0 10 rfl rfl)
theorem dX1_differs_13 : decode cX1_differs 13 = .ok (.invokevirtual 194, 3) := dk_182 0 194 (dk_at dksX1_differs_0 13 rfl rfl)
theorem dX1_differs_16 : decode cX1_differs 16 = .ok (.invokestatic 278, 3) := dk_184 1 22 (dk_at dksX1_differs_0 16 rfl rfl)
theorem dX1_differs_19 : decode cX1_differs 19 = .ok (.istore_n 3, 1) := dk_62 (dk_at dksX1_differs_0 19 rfl rfl)
theorem dX1_differs_20 : decode cX1_differs 20 = .ok (.iconst 0, 1) := dk_3 (dk_at dksX1_differs_0 20 rfl rfl)
theorem dX1_differs_21 : decode cX1_differs 21 = .ok (.istore 4, 2) := dk_54 4 (dk_at dksX1_differs_0 21 rfl rfl)
theorem dX1_differs_23 : decode cX1_differs 23 = .ok (.iload 4, 2) := dk_21 4 (dk_at dksX1_differs_1 0 rfl rfl)
theorem dX1_differs_25 : decode cX1_differs 25 = .ok (.iload_n 3, 1) := dk_29 (dk_at dksX1_differs_1 2 rfl rfl)
theorem dX1_differs_26 : decode cX1_differs 26 = .ok (.if_icmp .ge 35, 3) := dk_162 0 35 (dk_at dksX1_differs_1 3 rfl rfl)
theorem dX1_differs_29 : decode cX1_differs 29 = .ok (.aload_n 0, 1) := dk_42 (dk_at dksX1_differs_1 6 rfl rfl)
theorem dX1_differs_30 : decode cX1_differs 30 = .ok (.iload_n 1, 1) := dk_27 (dk_at dksX1_differs_1 7 rfl rfl)
theorem dX1_differs_31 : decode cX1_differs 31 = .ok (.invokevirtual 204, 3) := dk_182 0 204 (dk_at dksX1_differs_1 8 rfl rfl)
theorem dX1_differs_34 : decode cX1_differs 34 = .ok (.iload 4, 2) := dk_21 4 (dk_at dksX1_differs_1 11 rfl rfl)
theorem dX1_differs_36 : decode cX1_differs 36 = .ok (.invokevirtual 207, 3) := dk_182 0 207 (dk_at dksX1_differs_1 13 rfl rfl)
theorem dX1_differs_39 : decode cX1_differs 39 = .ok (.aload_n 0, 1) := dk_42 (dk_at dksX1_differs_1 16 rfl rfl)
theorem dX1_differs_40 : decode cX1_differs 40 = .ok (.iload_n 2, 1) := dk_28 (dk_at dksX1_differs_1 17 rfl rfl)
theorem dX1_differs_41 : decode cX1_differs 41 = .ok (.invokevirtual 204, 3) := dk_182 0 204 (dk_at dksX1_differs_1 18 rfl rfl)
theorem dX1_differs_44 : decode cX1_differs 44 = .ok (.iload 4, 2) := dk_21 4 (dk_at dksX1_differs_1 21 rfl rfl)
theorem dX1_differs_46 : decode cX1_differs 46 = .ok (.invokevirtual 207, 3) := dk_182 0 207 (dk_at dksX1_differs_2 0 rfl rfl)
theorem dX1_differs_49 : decode cX1_differs 49 = .ok (.if_icmp .eq 6, 3) := dk_159 0 6 (dk_at dksX1_differs_2 3 rfl rfl)
theorem dX1_differs_52 : decode cX1_differs 52 = .ok (.iload 4, 2) := dk_21 4 (dk_at dksX1_differs_2 6 rfl rfl)
theorem dX1_differs_54 : decode cX1_differs 54 = .ok (.ireturn, 1) := dk_172 (dk_at dksX1_differs_2 8 rfl rfl)
theorem dX1_differs_55 : decode cX1_differs 55 = .ok (.iinc 4 1, 3) := dk_132 4 1 (dk_at dksX1_differs_2 9 rfl rfl)
theorem dX1_differs_58 : decode cX1_differs 58 = .ok (.goto (-35), 3) := dk_167 255 221 (dk_at dksX1_differs_2 12 rfl rfl)
theorem dX1_differs_61 : decode cX1_differs 61 = .ok (.aload_n 0, 1) := dk_42 (dk_at dksX1_differs_2 15 rfl rfl)
theorem dX1_differs_62 : decode cX1_differs 62 = .ok (.iload_n 1, 1) := dk_27 (dk_at dksX1_differs_2 16 rfl rfl)
theorem dX1_differs_63 : decode cX1_differs 63 = .ok (.invokevirtual 204, 3) := dk_182 0 204 (dk_at dksX1_differs_2 17 rfl rfl)
theorem dX1_differs_66 : decode cX1_differs 66 = .ok (.invokevirtual 194, 3) := dk_182 0 194 (dk_at dksX1_differs_2 20 rfl rfl)
theorem dX1_differs_69 : decode cX1_differs 69 = .ok (.aload_n 0, 1) := dk_42 (dk_at dksX1_differs_2 23 rfl rfl)
theorem dX1_differs_70 : decode cX1_differs 70 = .ok (.iload_n 2, 1) := dk_28 (dk_at dksX1_differs_3 0 rfl rfl)
theorem dX1_differs_71 : decode cX1_differs 71 = .ok (.invokevirtual 204, 3) := dk_182 0 204 (dk_at dksX1_differs_3 1 rfl rfl)
theorem dX1_differs_74 : decode cX1_differs 74 = .ok (.invokevirtual 194, 3) := dk_182 0 194 (dk_at dksX1_differs_3 4 rfl rfl)
theorem dX1_differs_77 : decode cX1_differs 77 = .ok (.if_icmp .ne 7, 3) := dk_160 0 7 (dk_at dksX1_differs_3 7 rfl rfl)
theorem dX1_differs_80 : decode cX1_differs 80 = .ok (.iconst (-1), 1) := dk_2 (dk_at dksX1_differs_3 10 rfl rfl)
theorem dX1_differs_81 : decode cX1_differs 81 = .ok (.goto 4, 3) := dk_167 0 4 (dk_at dksX1_differs_3 11 rfl rfl)
theorem dX1_differs_84 : decode cX1_differs 84 = .ok (.iload_n 3, 1) := dk_29 (dk_at dksX1_differs_3 14 rfl rfl)
theorem dX1_differs_85 : decode cX1_differs 85 = .ok (.ireturn, 1) := dk_172 (dk_at dksX1_differs_3 15 rfl rfl)
abbrev cX1_seek : ByteArray := prog_1_method_34_code
def yX1_seek : MethodName := ⟨RX1, "seek", "(I)I"⟩
def dkwX1_seek_5 : List UInt8 := [167, 255, 170, 42, 180, 0, 116, 172]
abbrev dktX1_seek_5 : List UInt8 := dkwX1_seek_5 ++ []
def dkwX1_seek_4 : List UInt8 := [180, 0, 112, 42, 180, 0, 116, 28, 79, 42, 89, 180, 0, 116, 4, 96, 181, 0, 116, 132, 2, 1]
abbrev dktX1_seek_4 : List UInt8 := dkwX1_seek_4 ++ dktX1_seek_5
def dkwX1_seek_3 : List UInt8 := [182, 1, 28, 160, 0, 9, 132, 3, 1, 167, 255, 226, 29, 42, 180, 0, 149, 162, 0, 6, 167, 0, 23, 42]
abbrev dktX1_seek_3 : List UInt8 := dkwX1_seek_3 ++ dktX1_seek_4
def dkwX1_seek_2 : List UInt8 := [62, 29, 42, 180, 0, 149, 162, 0, 28, 42, 27, 182, 0, 204, 28, 29, 96, 182, 0, 207, 42, 29]
abbrev dktX1_seek_2 : List UInt8 := dkwX1_seek_2 ++ dktX1_seek_3
def dkwX1_seek_1 : List UInt8 := [3, 181, 0, 116, 3, 61, 28, 42, 180, 0, 149, 96, 42, 27, 182, 0, 204, 182, 0, 194, 163, 0, 75, 3]
abbrev dktX1_seek_1 : List UInt8 := dkwX1_seek_1 ++ dktX1_seek_2
def dkwX1_seek_0 : List UInt8 := [42, 182, 0, 155, 42, 27, 182, 0, 186, 153, 0, 12, 42, 16, 32, 182, 1, 31, 154, 0, 5, 2, 172, 42]
abbrev dktX1_seek_0 : List UInt8 := dkwX1_seek_0 ++ dktX1_seek_1
theorem dksX1_seek_0 : cX1_seek.data.toList.drop 0 = dktX1_seek_0 := by decide +kernel
theorem dksX1_seek_1 : cX1_seek.data.toList.drop 24 = dktX1_seek_1 := dk_seg dksX1_seek_0 24 rfl rfl
theorem dksX1_seek_2 : cX1_seek.data.toList.drop 48 = dktX1_seek_2 := dk_seg dksX1_seek_1 24 rfl rfl
theorem dksX1_seek_3 : cX1_seek.data.toList.drop 70 = dktX1_seek_3 := dk_seg dksX1_seek_2 22 rfl rfl
theorem dksX1_seek_4 : cX1_seek.data.toList.drop 94 = dktX1_seek_4 := dk_seg dksX1_seek_3 24 rfl rfl
theorem dksX1_seek_5 : cX1_seek.data.toList.drop 116 = dktX1_seek_5 := dk_seg dksX1_seek_4 22 rfl rfl
theorem dX1_seek_0 : decode cX1_seek 0 = .ok (.aload_n 0, 1) := dk_42 (dk_at dksX1_seek_0 0 rfl rfl)
theorem dX1_seek_1 : decode cX1_seek 1 = .ok (.invokevirtual 155, 3) := dk_182 0 155 (dk_at dksX1_seek_0 1 rfl rfl)
theorem dX1_seek_4 : decode cX1_seek 4 = .ok (.aload_n 0, 1) := dk_42 (dk_at dksX1_seek_0 4 rfl rfl)
theorem dX1_seek_5 : decode cX1_seek 5 = .ok (.iload_n 1, 1) := dk_27 (dk_at dksX1_seek_0 5 rfl rfl)
theorem dX1_seek_6 : decode cX1_seek 6 = .ok (.invokevirtual 186, 3) := dk_182 0 186 (dk_at dksX1_seek_0 6 rfl rfl)
theorem dX1_seek_9 : decode cX1_seek 9 = .ok (.ifCond .eq 12, 3) := dk_153 0 12 (dk_at dksX1_seek_0 9 rfl rfl)
theorem dX1_seek_12 : decode cX1_seek 12 = .ok (.aload_n 0, 1) := dk_42 (dk_at dksX1_seek_0 12 rfl rfl)
theorem dX1_seek_13 : decode cX1_seek 13 = .ok (.bipush 32, 2) := dk_16 32 (dk_at dksX1_seek_0 13 rfl rfl)
theorem dX1_seek_15 : decode cX1_seek 15 = .ok (.invokevirtual 287, 3) := dk_182 1 31 (dk_at dksX1_seek_0 15 rfl rfl)
theorem dX1_seek_18 : decode cX1_seek 18 = .ok (.ifCond .ne 5, 3) := dk_154 0 5 (dk_at dksX1_seek_0 18 rfl rfl)
theorem dX1_seek_21 : decode cX1_seek 21 = .ok (.iconst (-1), 1) := dk_2 (dk_at dksX1_seek_0 21 rfl rfl)
theorem dX1_seek_22 : decode cX1_seek 22 = .ok (.ireturn, 1) := dk_172 (dk_at dksX1_seek_0 22 rfl rfl)
theorem dX1_seek_23 : decode cX1_seek 23 = .ok (.aload_n 0, 1) := dk_42 (dk_at dksX1_seek_0 23 rfl rfl)
theorem dX1_seek_24 : decode cX1_seek 24 = .ok (.iconst 0, 1) := dk_3 (dk_at dksX1_seek_1 0 rfl rfl)
theorem dX1_seek_25 : decode cX1_seek 25 = .ok (.putfield 116, 3) := dk_181 0 116 (dk_at dksX1_seek_1 1 rfl rfl)
theorem dX1_seek_28 : decode cX1_seek 28 = .ok (.iconst 0, 1) := dk_3 (dk_at dksX1_seek_1 4 rfl rfl)
theorem dX1_seek_29 : decode cX1_seek 29 = .ok (.istore_n 2, 1) := dk_61 (dk_at dksX1_seek_1 5 rfl rfl)
theorem dX1_seek_30 : decode cX1_seek 30 = .ok (.iload_n 2, 1) := dk_28 (dk_at dksX1_seek_1 6 rfl rfl)
theorem dX1_seek_31 : decode cX1_seek 31 = .ok (.aload_n 0, 1) := dk_42 (dk_at dksX1_seek_1 7 rfl rfl)
theorem dX1_seek_32 : decode cX1_seek 32 = .ok (.getfield 149, 3) := dk_180 0 149 (dk_at dksX1_seek_1 8 rfl rfl)
theorem dX1_seek_35 : decode cX1_seek 35 = .ok (.iadd, 1) := dk_96 (dk_at dksX1_seek_1 11 rfl rfl)
theorem dX1_seek_36 : decode cX1_seek 36 = .ok (.aload_n 0, 1) := dk_42 (dk_at dksX1_seek_1 12 rfl rfl)
theorem dX1_seek_37 : decode cX1_seek 37 = .ok (.iload_n 1, 1) := dk_27 (dk_at dksX1_seek_1 13 rfl rfl)
theorem dX1_seek_38 : decode cX1_seek 38 = .ok (.invokevirtual 204, 3) := dk_182 0 204 (dk_at dksX1_seek_1 14 rfl rfl)
theorem dX1_seek_41 : decode cX1_seek 41 = .ok (.invokevirtual 194, 3) := dk_182 0 194 (dk_at dksX1_seek_1 17 rfl rfl)
theorem dX1_seek_44 : decode cX1_seek 44 = .ok (.if_icmp .gt 75, 3) := dk_163 0 75 (dk_at dksX1_seek_1 20 rfl rfl)
theorem dX1_seek_47 : decode cX1_seek 47 = .ok (.iconst 0, 1) := dk_3 (dk_at dksX1_seek_1 23 rfl rfl)
theorem dX1_seek_48 : decode cX1_seek 48 = .ok (.istore_n 3, 1) := dk_62 (dk_at dksX1_seek_2 0 rfl rfl)
theorem dX1_seek_49 : decode cX1_seek 49 = .ok (.iload_n 3, 1) := dk_29 (dk_at dksX1_seek_2 1 rfl rfl)
theorem dX1_seek_50 : decode cX1_seek 50 = .ok (.aload_n 0, 1) := dk_42 (dk_at dksX1_seek_2 2 rfl rfl)
theorem dX1_seek_51 : decode cX1_seek 51 = .ok (.getfield 149, 3) := dk_180 0 149 (dk_at dksX1_seek_2 3 rfl rfl)
theorem dX1_seek_54 : decode cX1_seek 54 = .ok (.if_icmp .ge 28, 3) := dk_162 0 28 (dk_at dksX1_seek_2 6 rfl rfl)
theorem dX1_seek_57 : decode cX1_seek 57 = .ok (.aload_n 0, 1) := dk_42 (dk_at dksX1_seek_2 9 rfl rfl)
theorem dX1_seek_58 : decode cX1_seek 58 = .ok (.iload_n 1, 1) := dk_27 (dk_at dksX1_seek_2 10 rfl rfl)
theorem dX1_seek_59 : decode cX1_seek 59 = .ok (.invokevirtual 204, 3) := dk_182 0 204 (dk_at dksX1_seek_2 11 rfl rfl)
theorem dX1_seek_62 : decode cX1_seek 62 = .ok (.iload_n 2, 1) := dk_28 (dk_at dksX1_seek_2 14 rfl rfl)
theorem dX1_seek_63 : decode cX1_seek 63 = .ok (.iload_n 3, 1) := dk_29 (dk_at dksX1_seek_2 15 rfl rfl)
theorem dX1_seek_64 : decode cX1_seek 64 = .ok (.iadd, 1) := dk_96 (dk_at dksX1_seek_2 16 rfl rfl)
theorem dX1_seek_65 : decode cX1_seek 65 = .ok (.invokevirtual 207, 3) := dk_182 0 207 (dk_at dksX1_seek_2 17 rfl rfl)
theorem dX1_seek_68 : decode cX1_seek 68 = .ok (.aload_n 0, 1) := dk_42 (dk_at dksX1_seek_2 20 rfl rfl)
theorem dX1_seek_69 : decode cX1_seek 69 = .ok (.iload_n 3, 1) := dk_29 (dk_at dksX1_seek_2 21 rfl rfl)
theorem dX1_seek_70 : decode cX1_seek 70 = .ok (.invokevirtual 284, 3) := dk_182 1 28 (dk_at dksX1_seek_3 0 rfl rfl)
theorem dX1_seek_73 : decode cX1_seek 73 = .ok (.if_icmp .ne 9, 3) := dk_160 0 9 (dk_at dksX1_seek_3 3 rfl rfl)
theorem dX1_seek_76 : decode cX1_seek 76 = .ok (.iinc 3 1, 3) := dk_132 3 1 (dk_at dksX1_seek_3 6 rfl rfl)
theorem dX1_seek_79 : decode cX1_seek 79 = .ok (.goto (-30), 3) := dk_167 255 226 (dk_at dksX1_seek_3 9 rfl rfl)
theorem dX1_seek_82 : decode cX1_seek 82 = .ok (.iload_n 3, 1) := dk_29 (dk_at dksX1_seek_3 12 rfl rfl)
theorem dX1_seek_83 : decode cX1_seek 83 = .ok (.aload_n 0, 1) := dk_42 (dk_at dksX1_seek_3 13 rfl rfl)
theorem dX1_seek_84 : decode cX1_seek 84 = .ok (.getfield 149, 3) := dk_180 0 149 (dk_at dksX1_seek_3 14 rfl rfl)
theorem dX1_seek_87 : decode cX1_seek 87 = .ok (.if_icmp .ge 6, 3) := dk_162 0 6 (dk_at dksX1_seek_3 17 rfl rfl)
theorem dX1_seek_90 : decode cX1_seek 90 = .ok (.goto 23, 3) := dk_167 0 23 (dk_at dksX1_seek_3 20 rfl rfl)
theorem dX1_seek_93 : decode cX1_seek 93 = .ok (.aload_n 0, 1) := dk_42 (dk_at dksX1_seek_3 23 rfl rfl)
theorem dX1_seek_94 : decode cX1_seek 94 = .ok (.getfield 112, 3) := dk_180 0 112 (dk_at dksX1_seek_4 0 rfl rfl)
theorem dX1_seek_97 : decode cX1_seek 97 = .ok (.aload_n 0, 1) := dk_42 (dk_at dksX1_seek_4 3 rfl rfl)
theorem dX1_seek_98 : decode cX1_seek 98 = .ok (.getfield 116, 3) := dk_180 0 116 (dk_at dksX1_seek_4 4 rfl rfl)
theorem dX1_seek_101 : decode cX1_seek 101 = .ok (.iload_n 2, 1) := dk_28 (dk_at dksX1_seek_4 7 rfl rfl)
theorem dX1_seek_102 : decode cX1_seek 102 = .ok (.iastore, 1) := dk_79 (dk_at dksX1_seek_4 8 rfl rfl)
theorem dX1_seek_103 : decode cX1_seek 103 = .ok (.aload_n 0, 1) := dk_42 (dk_at dksX1_seek_4 9 rfl rfl)
theorem dX1_seek_104 : decode cX1_seek 104 = .ok (.dup, 1) := dk_89 (dk_at dksX1_seek_4 10 rfl rfl)
theorem dX1_seek_105 : decode cX1_seek 105 = .ok (.getfield 116, 3) := dk_180 0 116 (dk_at dksX1_seek_4 11 rfl rfl)
theorem dX1_seek_108 : decode cX1_seek 108 = .ok (.iconst 1, 1) := dk_4 (dk_at dksX1_seek_4 14 rfl rfl)
theorem dX1_seek_109 : decode cX1_seek 109 = .ok (.iadd, 1) := dk_96 (dk_at dksX1_seek_4 15 rfl rfl)
theorem dX1_seek_110 : decode cX1_seek 110 = .ok (.putfield 116, 3) := dk_181 0 116 (dk_at dksX1_seek_4 16 rfl rfl)
theorem dX1_seek_113 : decode cX1_seek 113 = .ok (.iinc 2 1, 3) := dk_132 2 1 (dk_at dksX1_seek_4 19 rfl rfl)
theorem dX1_seek_116 : decode cX1_seek 116 = .ok (.goto (-86), 3) := dk_167 255 170 (dk_at dksX1_seek_5 0 rfl rfl)
theorem dX1_seek_119 : decode cX1_seek 119 = .ok (.aload_n 0, 1) := dk_42 (dk_at dksX1_seek_5 3 rfl rfl)
theorem dX1_seek_120 : decode cX1_seek 120 = .ok (.getfield 116, 3) := dk_180 0 116 (dk_at dksX1_seek_5 4 rfl rfl)
theorem dX1_seek_123 : decode cX1_seek 123 = .ok (.ireturn, 1) := dk_172 (dk_at dksX1_seek_5 7 rfl rfl)
abbrev cX1_areBits : ByteArray := prog_1_method_33_code
def yX1_areBits : MethodName := ⟨RX1, "areBits", "(I)Z"⟩
def dkwX1_areBits_1 : List UInt8 := [42, 28, 182, 1, 28, 4, 164, 0, 5, 3, 172, 132, 2, 1, 167, 255, 234, 4, 172]
abbrev dktX1_areBits_1 : List UInt8 := dkwX1_areBits_1 ++ []
def dkwX1_areBits_0 : List UInt8 := [42, 180, 0, 149, 4, 27, 184, 0, 182, 154, 0, 5, 3, 172, 3, 61, 28, 42, 180, 0, 149, 162, 0, 20]
abbrev dktX1_areBits_0 : List UInt8 := dkwX1_areBits_0 ++ dktX1_areBits_1
theorem dksX1_areBits_0 : cX1_areBits.data.toList.drop 0 = dktX1_areBits_0 := by decide +kernel
theorem dksX1_areBits_1 : cX1_areBits.data.toList.drop 24 = dktX1_areBits_1 := dk_seg dksX1_areBits_0 24 rfl rfl
theorem dX1_areBits_0 : decode cX1_areBits 0 = .ok (.aload_n 0, 1) := dk_42 (dk_at dksX1_areBits_0 0 rfl rfl)
theorem dX1_areBits_1 : decode cX1_areBits 1 = .ok (.getfield 149, 3) := dk_180 0 149 (dk_at dksX1_areBits_0 1 rfl rfl)
theorem dX1_areBits_4 : decode cX1_areBits 4 = .ok (.iconst 1, 1) := dk_4 (dk_at dksX1_areBits_0 4 rfl rfl)
theorem dX1_areBits_5 : decode cX1_areBits 5 = .ok (.iload_n 1, 1) := dk_27 (dk_at dksX1_areBits_0 5 rfl rfl)
theorem dX1_areBits_6 : decode cX1_areBits 6 = .ok (.invokestatic 182, 3) := dk_184 0 182 (dk_at dksX1_areBits_0 6 rfl rfl)
theorem dX1_areBits_9 : decode cX1_areBits 9 = .ok (.ifCond .ne 5, 3) := dk_154 0 5 (dk_at dksX1_areBits_0 9 rfl rfl)
theorem dX1_areBits_12 : decode cX1_areBits 12 = .ok (.iconst 0, 1) := dk_3 (dk_at dksX1_areBits_0 12 rfl rfl)
theorem dX1_areBits_13 : decode cX1_areBits 13 = .ok (.ireturn, 1) := dk_172 (dk_at dksX1_areBits_0 13 rfl rfl)
theorem dX1_areBits_14 : decode cX1_areBits 14 = .ok (.iconst 0, 1) := dk_3 (dk_at dksX1_areBits_0 14 rfl rfl)
theorem dX1_areBits_15 : decode cX1_areBits 15 = .ok (.istore_n 2, 1) := dk_61 (dk_at dksX1_areBits_0 15 rfl rfl)
theorem dX1_areBits_16 : decode cX1_areBits 16 = .ok (.iload_n 2, 1) := dk_28 (dk_at dksX1_areBits_0 16 rfl rfl)
theorem dX1_areBits_17 : decode cX1_areBits 17 = .ok (.aload_n 0, 1) := dk_42 (dk_at dksX1_areBits_0 17 rfl rfl)
theorem dX1_areBits_18 : decode cX1_areBits 18 = .ok (.getfield 149, 3) := dk_180 0 149 (dk_at dksX1_areBits_0 18 rfl rfl)
theorem dX1_areBits_21 : decode cX1_areBits 21 = .ok (.if_icmp .ge 20, 3) := dk_162 0 20 (dk_at dksX1_areBits_0 21 rfl rfl)
theorem dX1_areBits_24 : decode cX1_areBits 24 = .ok (.aload_n 0, 1) := dk_42 (dk_at dksX1_areBits_1 0 rfl rfl)
theorem dX1_areBits_25 : decode cX1_areBits 25 = .ok (.iload_n 2, 1) := dk_28 (dk_at dksX1_areBits_1 1 rfl rfl)
theorem dX1_areBits_26 : decode cX1_areBits 26 = .ok (.invokevirtual 284, 3) := dk_182 1 28 (dk_at dksX1_areBits_1 2 rfl rfl)
theorem dX1_areBits_29 : decode cX1_areBits 29 = .ok (.iconst 1, 1) := dk_4 (dk_at dksX1_areBits_1 5 rfl rfl)
theorem dX1_areBits_30 : decode cX1_areBits 30 = .ok (.if_icmp .le 5, 3) := dk_164 0 5 (dk_at dksX1_areBits_1 6 rfl rfl)
theorem dX1_areBits_33 : decode cX1_areBits 33 = .ok (.iconst 0, 1) := dk_3 (dk_at dksX1_areBits_1 9 rfl rfl)
theorem dX1_areBits_34 : decode cX1_areBits 34 = .ok (.ireturn, 1) := dk_172 (dk_at dksX1_areBits_1 10 rfl rfl)
theorem dX1_areBits_35 : decode cX1_areBits 35 = .ok (.iinc 2 1, 3) := dk_132 2 1 (dk_at dksX1_areBits_1 11 rfl rfl)
theorem dX1_areBits_38 : decode cX1_areBits 38 = .ok (.goto (-22), 3) := dk_167 255 234 (dk_at dksX1_areBits_1 14 rfl rfl)
theorem dX1_areBits_41 : decode cX1_areBits 41 = .ok (.iconst 1, 1) := dk_4 (dk_at dksX1_areBits_1 17 rfl rfl)
theorem dX1_areBits_42 : decode cX1_areBits 42 = .ok (.ireturn, 1) := dk_172 (dk_at dksX1_areBits_1 18 rfl rfl)
abbrev cX1_one : ByteArray := prog_1_method_6_code
def yX1_one : MethodName := ⟨RX1, "one", "(I)I"⟩
def dkwX1_one_0 : List UInt8 := [42, 180, 0, 9, 27, 51, 17, 0, 255, 126, 172]
abbrev dktX1_one_0 : List UInt8 := dkwX1_one_0 ++ []
theorem dksX1_one_0 : cX1_one.data.toList.drop 0 = dktX1_one_0 := by decide +kernel
theorem dX1_one_0 : decode cX1_one 0 = .ok (.aload_n 0, 1) := dk_42 (dk_at dksX1_one_0 0 rfl rfl)
theorem dX1_one_1 : decode cX1_one 1 = .ok (.getfield 9, 3) := dk_180 0 9 (dk_at dksX1_one_0 1 rfl rfl)
theorem dX1_one_4 : decode cX1_one 4 = .ok (.iload_n 1, 1) := dk_27 (dk_at dksX1_one_0 4 rfl rfl)
theorem dX1_one_5 : decode cX1_one 5 = .ok (.baload, 1) := dk_51 (dk_at dksX1_one_0 5 rfl rfl)
theorem dX1_one_6 : decode cX1_one 6 = .ok (.sipush 255, 3) := dk_17 0 255 (dk_at dksX1_one_0 6 rfl rfl)
theorem dX1_one_9 : decode cX1_one 9 = .ok (.iand, 1) := dk_126 (dk_at dksX1_one_0 9 rfl rfl)
theorem dX1_one_10 : decode cX1_one 10 = .ok (.ireturn, 1) := dk_172 (dk_at dksX1_one_0 10 rfl rfl)
abbrev cX1_seekAt : ByteArray := prog_1_method_35_code
def yX1_seekAt : MethodName := ⟨RX1, "seekAt", "(I)I"⟩
def dkwX1_seekAt_1 : List UInt8 := [172]
abbrev dktX1_seekAt_1 : List UInt8 := dkwX1_seekAt_1 ++ []
def dkwX1_seekAt_0 : List UInt8 := [27, 3, 42, 180, 0, 116, 4, 100, 184, 0, 182, 153, 0, 12, 42, 180, 0, 112, 27, 46, 167, 0, 4, 2]
abbrev dktX1_seekAt_0 : List UInt8 := dkwX1_seekAt_0 ++ dktX1_seekAt_1
theorem dksX1_seekAt_0 : cX1_seekAt.data.toList.drop 0 = dktX1_seekAt_0 := by decide +kernel
theorem dksX1_seekAt_1 : cX1_seekAt.data.toList.drop 24 = dktX1_seekAt_1 := dk_seg dksX1_seekAt_0 24 rfl rfl
theorem dX1_seekAt_0 : decode cX1_seekAt 0 = .ok (.iload_n 1, 1) := dk_27 (dk_at dksX1_seekAt_0 0 rfl rfl)
theorem dX1_seekAt_1 : decode cX1_seekAt 1 = .ok (.iconst 0, 1) := dk_3 (dk_at dksX1_seekAt_0 1 rfl rfl)
theorem dX1_seekAt_2 : decode cX1_seekAt 2 = .ok (.aload_n 0, 1) := dk_42 (dk_at dksX1_seekAt_0 2 rfl rfl)
theorem dX1_seekAt_3 : decode cX1_seekAt 3 = .ok (.getfield 116, 3) := dk_180 0 116 (dk_at dksX1_seekAt_0 3 rfl rfl)
theorem dX1_seekAt_6 : decode cX1_seekAt 6 = .ok (.iconst 1, 1) := dk_4 (dk_at dksX1_seekAt_0 6 rfl rfl)
theorem dX1_seekAt_7 : decode cX1_seekAt 7 = .ok (.isub, 1) := dk_100 (dk_at dksX1_seekAt_0 7 rfl rfl)
theorem dX1_seekAt_8 : decode cX1_seekAt 8 = .ok (.invokestatic 182, 3) := dk_184 0 182 (dk_at dksX1_seekAt_0 8 rfl rfl)
theorem dX1_seekAt_11 : decode cX1_seekAt 11 = .ok (.ifCond .eq 12, 3) := dk_153 0 12 (dk_at dksX1_seekAt_0 11 rfl rfl)
theorem dX1_seekAt_14 : decode cX1_seekAt 14 = .ok (.aload_n 0, 1) := dk_42 (dk_at dksX1_seekAt_0 14 rfl rfl)
theorem dX1_seekAt_15 : decode cX1_seekAt 15 = .ok (.getfield 112, 3) := dk_180 0 112 (dk_at dksX1_seekAt_0 15 rfl rfl)
theorem dX1_seekAt_18 : decode cX1_seekAt 18 = .ok (.iload_n 1, 1) := dk_27 (dk_at dksX1_seekAt_0 18 rfl rfl)
theorem dX1_seekAt_19 : decode cX1_seekAt 19 = .ok (.iaload, 1) := dk_46 (dk_at dksX1_seekAt_0 19 rfl rfl)
theorem dX1_seekAt_20 : decode cX1_seekAt 20 = .ok (.goto 4, 3) := dk_167 0 4 (dk_at dksX1_seekAt_0 20 rfl rfl)
theorem dX1_seekAt_23 : decode cX1_seekAt 23 = .ok (.iconst (-1), 1) := dk_2 (dk_at dksX1_seekAt_0 23 rfl rfl)
theorem dX1_seekAt_24 : decode cX1_seekAt 24 = .ok (.ireturn, 1) := dk_172 (dk_at dksX1_seekAt_1 0 rfl rfl)
abbrev cX1_undo : ByteArray := prog_1_method_37_code
def yX1_undo : MethodName := ⟨RX1, "undo", "()I"⟩
def dkwX1_undo_1 : List UInt8 := [180, 0, 122, 42, 180, 0, 169, 50, 182, 1, 40, 42, 180, 0, 169, 172]
abbrev dktX1_undo_1 : List UInt8 := dkwX1_undo_1 ++ []
def dkwX1_undo_0 : List UInt8 := [42, 180, 0, 169, 154, 0, 5, 2, 172, 42, 89, 180, 0, 169, 4, 100, 181, 0, 169, 42, 180, 0, 85, 42]
abbrev dktX1_undo_0 : List UInt8 := dkwX1_undo_0 ++ dktX1_undo_1
theorem dksX1_undo_0 : cX1_undo.data.toList.drop 0 = dktX1_undo_0 := by decide +kernel
theorem dksX1_undo_1 : cX1_undo.data.toList.drop 24 = dktX1_undo_1 := dk_seg dksX1_undo_0 24 rfl rfl
theorem dX1_undo_0 : decode cX1_undo 0 = .ok (.aload_n 0, 1) := dk_42 (dk_at dksX1_undo_0 0 rfl rfl)
theorem dX1_undo_1 : decode cX1_undo 1 = .ok (.getfield 169, 3) := dk_180 0 169 (dk_at dksX1_undo_0 1 rfl rfl)
theorem dX1_undo_4 : decode cX1_undo 4 = .ok (.ifCond .ne 5, 3) := dk_154 0 5 (dk_at dksX1_undo_0 4 rfl rfl)
theorem dX1_undo_7 : decode cX1_undo 7 = .ok (.iconst (-1), 1) := dk_2 (dk_at dksX1_undo_0 7 rfl rfl)
theorem dX1_undo_8 : decode cX1_undo 8 = .ok (.ireturn, 1) := dk_172 (dk_at dksX1_undo_0 8 rfl rfl)
theorem dX1_undo_9 : decode cX1_undo 9 = .ok (.aload_n 0, 1) := dk_42 (dk_at dksX1_undo_0 9 rfl rfl)
theorem dX1_undo_10 : decode cX1_undo 10 = .ok (.dup, 1) := dk_89 (dk_at dksX1_undo_0 10 rfl rfl)
theorem dX1_undo_11 : decode cX1_undo 11 = .ok (.getfield 169, 3) := dk_180 0 169 (dk_at dksX1_undo_0 11 rfl rfl)
theorem dX1_undo_14 : decode cX1_undo 14 = .ok (.iconst 1, 1) := dk_4 (dk_at dksX1_undo_0 14 rfl rfl)
theorem dX1_undo_15 : decode cX1_undo 15 = .ok (.isub, 1) := dk_100 (dk_at dksX1_undo_0 15 rfl rfl)
theorem dX1_undo_16 : decode cX1_undo 16 = .ok (.putfield 169, 3) := dk_181 0 169 (dk_at dksX1_undo_0 16 rfl rfl)
theorem dX1_undo_19 : decode cX1_undo 19 = .ok (.aload_n 0, 1) := dk_42 (dk_at dksX1_undo_0 19 rfl rfl)
theorem dX1_undo_20 : decode cX1_undo 20 = .ok (.getfield 85, 3) := dk_180 0 85 (dk_at dksX1_undo_0 20 rfl rfl)
theorem dX1_undo_23 : decode cX1_undo 23 = .ok (.aload_n 0, 1) := dk_42 (dk_at dksX1_undo_0 23 rfl rfl)
theorem dX1_undo_24 : decode cX1_undo 24 = .ok (.getfield 122, 3) := dk_180 0 122 (dk_at dksX1_undo_1 0 rfl rfl)
theorem dX1_undo_27 : decode cX1_undo 27 = .ok (.aload_n 0, 1) := dk_42 (dk_at dksX1_undo_1 3 rfl rfl)
theorem dX1_undo_28 : decode cX1_undo 28 = .ok (.getfield 169, 3) := dk_180 0 169 (dk_at dksX1_undo_1 4 rfl rfl)
theorem dX1_undo_31 : decode cX1_undo 31 = .ok (.aaload, 1) := dk_50 (dk_at dksX1_undo_1 7 rfl rfl)
theorem dX1_undo_32 : decode cX1_undo 32 = .ok (.invokevirtual 296, 3) := dk_182 1 40 (dk_at dksX1_undo_1 8 rfl rfl)
theorem dX1_undo_35 : decode cX1_undo 35 = .ok (.aload_n 0, 1) := dk_42 (dk_at dksX1_undo_1 11 rfl rfl)
theorem dX1_undo_36 : decode cX1_undo 36 = .ok (.getfield 169, 3) := dk_180 0 169 (dk_at dksX1_undo_1 12 rfl rfl)
theorem dX1_undo_39 : decode cX1_undo 39 = .ok (.ireturn, 1) := dk_172 (dk_at dksX1_undo_1 15 rfl rfl)
abbrev cX1_put : ByteArray := prog_1_method_39_code
def yX1_put : MethodName := ⟨RX1, "put", "(III)I"⟩
def dkwX1_put_1 : List UInt8 := [167, 0, 15, 42, 3, 27, 28, 29, 182, 1, 59, 167, 0, 4, 2, 172]
abbrev dktX1_put_1 : List UInt8 := dkwX1_put_1 ++ []
def dkwX1_put_0 : List UInt8 := [42, 27, 182, 0, 186, 153, 0, 31, 29, 3, 4, 184, 0, 182, 153, 0, 22, 28, 156, 0, 7, 4]
abbrev dktX1_put_0 : List UInt8 := dkwX1_put_0 ++ dktX1_put_1
theorem dksX1_put_0 : cX1_put.data.toList.drop 0 = dktX1_put_0 := by decide +kernel
theorem dksX1_put_1 : cX1_put.data.toList.drop 22 = dktX1_put_1 := dk_seg dksX1_put_0 22 rfl rfl
theorem dX1_put_0 : decode cX1_put 0 = .ok (.aload_n 0, 1) := dk_42 (dk_at dksX1_put_0 0 rfl rfl)
theorem dX1_put_1 : decode cX1_put 1 = .ok (.iload_n 1, 1) := dk_27 (dk_at dksX1_put_0 1 rfl rfl)
theorem dX1_put_2 : decode cX1_put 2 = .ok (.invokevirtual 186, 3) := dk_182 0 186 (dk_at dksX1_put_0 2 rfl rfl)
theorem dX1_put_5 : decode cX1_put 5 = .ok (.ifCond .eq 31, 3) := dk_153 0 31 (dk_at dksX1_put_0 5 rfl rfl)
theorem dX1_put_8 : decode cX1_put 8 = .ok (.iload_n 3, 1) := dk_29 (dk_at dksX1_put_0 8 rfl rfl)
theorem dX1_put_9 : decode cX1_put 9 = .ok (.iconst 0, 1) := dk_3 (dk_at dksX1_put_0 9 rfl rfl)
theorem dX1_put_10 : decode cX1_put 10 = .ok (.iconst 1, 1) := dk_4 (dk_at dksX1_put_0 10 rfl rfl)
theorem dX1_put_11 : decode cX1_put 11 = .ok (.invokestatic 182, 3) := dk_184 0 182 (dk_at dksX1_put_0 11 rfl rfl)
theorem dX1_put_14 : decode cX1_put 14 = .ok (.ifCond .eq 22, 3) := dk_153 0 22 (dk_at dksX1_put_0 14 rfl rfl)
theorem dX1_put_17 : decode cX1_put 17 = .ok (.iload_n 2, 1) := dk_28 (dk_at dksX1_put_0 17 rfl rfl)
theorem dX1_put_18 : decode cX1_put 18 = .ok (.ifCond .ge 7, 3) := dk_156 0 7 (dk_at dksX1_put_0 18 rfl rfl)
theorem dX1_put_21 : decode cX1_put 21 = .ok (.iconst 1, 1) := dk_4 (dk_at dksX1_put_0 21 rfl rfl)
theorem dX1_put_22 : decode cX1_put 22 = .ok (.goto 15, 3) := dk_167 0 15 (dk_at dksX1_put_1 0 rfl rfl)
theorem dX1_put_25 : decode cX1_put 25 = .ok (.aload_n 0, 1) := dk_42 (dk_at dksX1_put_1 3 rfl rfl)
theorem dX1_put_26 : decode cX1_put 26 = .ok (.iconst 0, 1) := dk_3 (dk_at dksX1_put_1 4 rfl rfl)
theorem dX1_put_27 : decode cX1_put 27 = .ok (.iload_n 1, 1) := dk_27 (dk_at dksX1_put_1 5 rfl rfl)
theorem dX1_put_28 : decode cX1_put 28 = .ok (.iload_n 2, 1) := dk_28 (dk_at dksX1_put_1 6 rfl rfl)
theorem dX1_put_29 : decode cX1_put 29 = .ok (.iload_n 3, 1) := dk_29 (dk_at dksX1_put_1 7 rfl rfl)
theorem dX1_put_30 : decode cX1_put 30 = .ok (.invokevirtual 315, 3) := dk_182 1 59 (dk_at dksX1_put_1 8 rfl rfl)
theorem dX1_put_33 : decode cX1_put 33 = .ok (.goto 4, 3) := dk_167 0 4 (dk_at dksX1_put_1 11 rfl rfl)
theorem dX1_put_36 : decode cX1_put 36 = .ok (.iconst (-1), 1) := dk_2 (dk_at dksX1_put_1 14 rfl rfl)
theorem dX1_put_37 : decode cX1_put 37 = .ok (.ireturn, 1) := dk_172 (dk_at dksX1_put_1 15 rfl rfl)
abbrev cX1_acts : ByteArray := prog_1_method_38_code
def yX1_acts : MethodName := ⟨RX1, "acts", "(IIII)I"⟩
def dkwX1_acts_1 : List UInt8 := [180, 0, 85, 182, 1, 48, 182, 1, 52, 42, 180, 0, 85, 27, 28, 29, 21, 4, 182, 1, 55, 3, 172]
abbrev dktX1_acts_1 : List UInt8 := dkwX1_acts_1 ++ []
def dkwX1_acts_0 : List UInt8 := [42, 180, 0, 85, 27, 28, 29, 21, 4, 182, 1, 44, 54, 5, 21, 5, 153, 0, 6, 21, 5, 172, 42, 42]
abbrev dktX1_acts_0 : List UInt8 := dkwX1_acts_0 ++ dktX1_acts_1
theorem dksX1_acts_0 : cX1_acts.data.toList.drop 0 = dktX1_acts_0 := by decide +kernel
theorem dksX1_acts_1 : cX1_acts.data.toList.drop 24 = dktX1_acts_1 := dk_seg dksX1_acts_0 24 rfl rfl
theorem dX1_acts_0 : decode cX1_acts 0 = .ok (.aload_n 0, 1) := dk_42 (dk_at dksX1_acts_0 0 rfl rfl)
theorem dX1_acts_1 : decode cX1_acts 1 = .ok (.getfield 85, 3) := dk_180 0 85 (dk_at dksX1_acts_0 1 rfl rfl)
theorem dX1_acts_4 : decode cX1_acts 4 = .ok (.iload_n 1, 1) := dk_27 (dk_at dksX1_acts_0 4 rfl rfl)
theorem dX1_acts_5 : decode cX1_acts 5 = .ok (.iload_n 2, 1) := dk_28 (dk_at dksX1_acts_0 5 rfl rfl)
theorem dX1_acts_6 : decode cX1_acts 6 = .ok (.iload_n 3, 1) := dk_29 (dk_at dksX1_acts_0 6 rfl rfl)
theorem dX1_acts_7 : decode cX1_acts 7 = .ok (.iload 4, 2) := dk_21 4 (dk_at dksX1_acts_0 7 rfl rfl)
theorem dX1_acts_9 : decode cX1_acts 9 = .ok (.invokevirtual 300, 3) := dk_182 1 44 (dk_at dksX1_acts_0 9 rfl rfl)
theorem dX1_acts_12 : decode cX1_acts 12 = .ok (.istore 5, 2) := dk_54 5 (dk_at dksX1_acts_0 12 rfl rfl)
theorem dX1_acts_14 : decode cX1_acts 14 = .ok (.iload 5, 2) := dk_21 5 (dk_at dksX1_acts_0 14 rfl rfl)
theorem dX1_acts_16 : decode cX1_acts 16 = .ok (.ifCond .eq 6, 3) := dk_153 0 6 (dk_at dksX1_acts_0 16 rfl rfl)
theorem dX1_acts_19 : decode cX1_acts 19 = .ok (.iload 5, 2) := dk_21 5 (dk_at dksX1_acts_0 19 rfl rfl)
theorem dX1_acts_21 : decode cX1_acts 21 = .ok (.ireturn, 1) := dk_172 (dk_at dksX1_acts_0 21 rfl rfl)
theorem dX1_acts_22 : decode cX1_acts 22 = .ok (.aload_n 0, 1) := dk_42 (dk_at dksX1_acts_0 22 rfl rfl)
theorem dX1_acts_23 : decode cX1_acts 23 = .ok (.aload_n 0, 1) := dk_42 (dk_at dksX1_acts_0 23 rfl rfl)
theorem dX1_acts_24 : decode cX1_acts 24 = .ok (.getfield 85, 3) := dk_180 0 85 (dk_at dksX1_acts_1 0 rfl rfl)
theorem dX1_acts_27 : decode cX1_acts 27 = .ok (.invokevirtual 304, 3) := dk_182 1 48 (dk_at dksX1_acts_1 3 rfl rfl)
theorem dX1_acts_30 : decode cX1_acts 30 = .ok (.invokevirtual 308, 3) := dk_182 1 52 (dk_at dksX1_acts_1 6 rfl rfl)
theorem dX1_acts_33 : decode cX1_acts 33 = .ok (.aload_n 0, 1) := dk_42 (dk_at dksX1_acts_1 9 rfl rfl)
theorem dX1_acts_34 : decode cX1_acts 34 = .ok (.getfield 85, 3) := dk_180 0 85 (dk_at dksX1_acts_1 10 rfl rfl)
theorem dX1_acts_37 : decode cX1_acts 37 = .ok (.iload_n 1, 1) := dk_27 (dk_at dksX1_acts_1 13 rfl rfl)
theorem dX1_acts_38 : decode cX1_acts 38 = .ok (.iload_n 2, 1) := dk_28 (dk_at dksX1_acts_1 14 rfl rfl)
theorem dX1_acts_39 : decode cX1_acts 39 = .ok (.iload_n 3, 1) := dk_29 (dk_at dksX1_acts_1 15 rfl rfl)
theorem dX1_acts_40 : decode cX1_acts 40 = .ok (.iload 4, 2) := dk_21 4 (dk_at dksX1_acts_1 16 rfl rfl)
theorem dX1_acts_42 : decode cX1_acts 42 = .ok (.invokevirtual 311, 3) := dk_182 1 55 (dk_at dksX1_acts_1 18 rfl rfl)
theorem dX1_acts_45 : decode cX1_acts 45 = .ok (.iconst 0, 1) := dk_3 (dk_at dksX1_acts_1 21 rfl rfl)
theorem dX1_acts_46 : decode cX1_acts 46 = .ok (.ireturn, 1) := dk_172 (dk_at dksX1_acts_1 22 rfl rfl)
abbrev cX1_keep : ByteArray := prog_1_method_36_code
def yX1_keep : MethodName := ⟨RX1, "keep", "([LBitRopes$Packed;)V"⟩
def dkwX1_keep_2 : List UInt8 := [180, 0, 169, 4, 96, 181, 0, 169, 177]
abbrev dktX1_keep_2 : List UInt8 := dkwX1_keep_2 ++ []
def dkwX1_keep_1 : List UInt8 := [42, 89, 180, 0, 169, 4, 100, 181, 0, 169, 42, 180, 0, 122, 42, 180, 0, 169, 43, 83, 42, 89]
abbrev dktX1_keep_1 : List UInt8 := dkwX1_keep_1 ++ dktX1_keep_2
def dkwX1_keep_0 : List UInt8 := [42, 180, 0, 169, 16, 8, 160, 0, 28, 42, 180, 0, 122, 4, 42, 180, 0, 122, 3, 16, 7, 184, 1, 34]
abbrev dktX1_keep_0 : List UInt8 := dkwX1_keep_0 ++ dktX1_keep_1
theorem dksX1_keep_0 : cX1_keep.data.toList.drop 0 = dktX1_keep_0 := by decide +kernel
theorem dksX1_keep_1 : cX1_keep.data.toList.drop 24 = dktX1_keep_1 := dk_seg dksX1_keep_0 24 rfl rfl
theorem dksX1_keep_2 : cX1_keep.data.toList.drop 46 = dktX1_keep_2 := dk_seg dksX1_keep_1 22 rfl rfl
theorem dX1_keep_0 : decode cX1_keep 0 = .ok (.aload_n 0, 1) := dk_42 (dk_at dksX1_keep_0 0 rfl rfl)
theorem dX1_keep_1 : decode cX1_keep 1 = .ok (.getfield 169, 3) := dk_180 0 169 (dk_at dksX1_keep_0 1 rfl rfl)
theorem dX1_keep_4 : decode cX1_keep 4 = .ok (.bipush 8, 2) := dk_16 8 (dk_at dksX1_keep_0 4 rfl rfl)
theorem dX1_keep_6 : decode cX1_keep 6 = .ok (.if_icmp .ne 28, 3) := dk_160 0 28 (dk_at dksX1_keep_0 6 rfl rfl)
theorem dX1_keep_9 : decode cX1_keep 9 = .ok (.aload_n 0, 1) := dk_42 (dk_at dksX1_keep_0 9 rfl rfl)
theorem dX1_keep_10 : decode cX1_keep 10 = .ok (.getfield 122, 3) := dk_180 0 122 (dk_at dksX1_keep_0 10 rfl rfl)
theorem dX1_keep_13 : decode cX1_keep 13 = .ok (.iconst 1, 1) := dk_4 (dk_at dksX1_keep_0 13 rfl rfl)
theorem dX1_keep_14 : decode cX1_keep 14 = .ok (.aload_n 0, 1) := dk_42 (dk_at dksX1_keep_0 14 rfl rfl)
theorem dX1_keep_15 : decode cX1_keep 15 = .ok (.getfield 122, 3) := dk_180 0 122 (dk_at dksX1_keep_0 15 rfl rfl)
theorem dX1_keep_18 : decode cX1_keep 18 = .ok (.iconst 0, 1) := dk_3 (dk_at dksX1_keep_0 18 rfl rfl)
theorem dX1_keep_19 : decode cX1_keep 19 = .ok (.bipush 7, 2) := dk_16 7 (dk_at dksX1_keep_0 19 rfl rfl)
theorem dX1_keep_21 : decode cX1_keep 21 = .ok (.invokestatic 290, 3) := dk_184 1 34 (dk_at dksX1_keep_0 21 rfl rfl)
theorem dX1_keep_24 : decode cX1_keep 24 = .ok (.aload_n 0, 1) := dk_42 (dk_at dksX1_keep_1 0 rfl rfl)
theorem dX1_keep_25 : decode cX1_keep 25 = .ok (.dup, 1) := dk_89 (dk_at dksX1_keep_1 1 rfl rfl)
theorem dX1_keep_26 : decode cX1_keep 26 = .ok (.getfield 169, 3) := dk_180 0 169 (dk_at dksX1_keep_1 2 rfl rfl)
theorem dX1_keep_29 : decode cX1_keep 29 = .ok (.iconst 1, 1) := dk_4 (dk_at dksX1_keep_1 5 rfl rfl)
theorem dX1_keep_30 : decode cX1_keep 30 = .ok (.isub, 1) := dk_100 (dk_at dksX1_keep_1 6 rfl rfl)
theorem dX1_keep_31 : decode cX1_keep 31 = .ok (.putfield 169, 3) := dk_181 0 169 (dk_at dksX1_keep_1 7 rfl rfl)
theorem dX1_keep_34 : decode cX1_keep 34 = .ok (.aload_n 0, 1) := dk_42 (dk_at dksX1_keep_1 10 rfl rfl)
theorem dX1_keep_35 : decode cX1_keep 35 = .ok (.getfield 122, 3) := dk_180 0 122 (dk_at dksX1_keep_1 11 rfl rfl)
theorem dX1_keep_38 : decode cX1_keep 38 = .ok (.aload_n 0, 1) := dk_42 (dk_at dksX1_keep_1 14 rfl rfl)
theorem dX1_keep_39 : decode cX1_keep 39 = .ok (.getfield 169, 3) := dk_180 0 169 (dk_at dksX1_keep_1 15 rfl rfl)
theorem dX1_keep_42 : decode cX1_keep 42 = .ok (.aload_n 1, 1) := dk_43 (dk_at dksX1_keep_1 18 rfl rfl)
theorem dX1_keep_43 : decode cX1_keep 43 = .ok (.aastore, 1) := dk_83 (dk_at dksX1_keep_1 19 rfl rfl)
theorem dX1_keep_44 : decode cX1_keep 44 = .ok (.aload_n 0, 1) := dk_42 (dk_at dksX1_keep_1 20 rfl rfl)
theorem dX1_keep_45 : decode cX1_keep 45 = .ok (.dup, 1) := dk_89 (dk_at dksX1_keep_1 21 rfl rfl)
theorem dX1_keep_46 : decode cX1_keep 46 = .ok (.getfield 169, 3) := dk_180 0 169 (dk_at dksX1_keep_2 0 rfl rfl)
theorem dX1_keep_49 : decode cX1_keep 49 = .ok (.iconst 1, 1) := dk_4 (dk_at dksX1_keep_2 3 rfl rfl)
theorem dX1_keep_50 : decode cX1_keep 50 = .ok (.iadd, 1) := dk_96 (dk_at dksX1_keep_2 4 rfl rfl)
theorem dX1_keep_51 : decode cX1_keep 51 = .ok (.putfield 169, 3) := dk_181 0 169 (dk_at dksX1_keep_2 5 rfl rfl)
theorem dX1_keep_54 : decode cX1_keep 54 = .ok (.return_, 1) := dk_177 (dk_at dksX1_keep_2 8 rfl rfl)
abbrev cX1_set : ByteArray := prog_1_method_40_code
def yX1_set : MethodName := ⟨RX1, "set", "(III)I"⟩
def dkwX1_set_1 : List UInt8 := [167, 0, 15, 42, 4, 27, 28, 29, 182, 1, 59, 167, 0, 4, 2, 172]
abbrev dktX1_set_1 : List UInt8 := dkwX1_set_1 ++ []
def dkwX1_set_0 : List UInt8 := [42, 27, 182, 0, 186, 153, 0, 31, 29, 3, 4, 184, 0, 182, 153, 0, 22, 28, 156, 0, 7, 4]
abbrev dktX1_set_0 : List UInt8 := dkwX1_set_0 ++ dktX1_set_1
theorem dksX1_set_0 : cX1_set.data.toList.drop 0 = dktX1_set_0 := by decide +kernel
theorem dksX1_set_1 : cX1_set.data.toList.drop 22 = dktX1_set_1 := dk_seg dksX1_set_0 22 rfl rfl
theorem dX1_set_0 : decode cX1_set 0 = .ok (.aload_n 0, 1) := dk_42 (dk_at dksX1_set_0 0 rfl rfl)
theorem dX1_set_1 : decode cX1_set 1 = .ok (.iload_n 1, 1) := dk_27 (dk_at dksX1_set_0 1 rfl rfl)
theorem dX1_set_2 : decode cX1_set 2 = .ok (.invokevirtual 186, 3) := dk_182 0 186 (dk_at dksX1_set_0 2 rfl rfl)
theorem dX1_set_5 : decode cX1_set 5 = .ok (.ifCond .eq 31, 3) := dk_153 0 31 (dk_at dksX1_set_0 5 rfl rfl)
theorem dX1_set_8 : decode cX1_set 8 = .ok (.iload_n 3, 1) := dk_29 (dk_at dksX1_set_0 8 rfl rfl)
theorem dX1_set_9 : decode cX1_set 9 = .ok (.iconst 0, 1) := dk_3 (dk_at dksX1_set_0 9 rfl rfl)
theorem dX1_set_10 : decode cX1_set 10 = .ok (.iconst 1, 1) := dk_4 (dk_at dksX1_set_0 10 rfl rfl)
theorem dX1_set_11 : decode cX1_set 11 = .ok (.invokestatic 182, 3) := dk_184 0 182 (dk_at dksX1_set_0 11 rfl rfl)
theorem dX1_set_14 : decode cX1_set 14 = .ok (.ifCond .eq 22, 3) := dk_153 0 22 (dk_at dksX1_set_0 14 rfl rfl)
theorem dX1_set_17 : decode cX1_set 17 = .ok (.iload_n 2, 1) := dk_28 (dk_at dksX1_set_0 17 rfl rfl)
theorem dX1_set_18 : decode cX1_set 18 = .ok (.ifCond .ge 7, 3) := dk_156 0 7 (dk_at dksX1_set_0 18 rfl rfl)
theorem dX1_set_21 : decode cX1_set 21 = .ok (.iconst 1, 1) := dk_4 (dk_at dksX1_set_0 21 rfl rfl)
theorem dX1_set_22 : decode cX1_set 22 = .ok (.goto 15, 3) := dk_167 0 15 (dk_at dksX1_set_1 0 rfl rfl)
theorem dX1_set_25 : decode cX1_set 25 = .ok (.aload_n 0, 1) := dk_42 (dk_at dksX1_set_1 3 rfl rfl)
theorem dX1_set_26 : decode cX1_set 26 = .ok (.iconst 1, 1) := dk_4 (dk_at dksX1_set_1 4 rfl rfl)
theorem dX1_set_27 : decode cX1_set 27 = .ok (.iload_n 1, 1) := dk_27 (dk_at dksX1_set_1 5 rfl rfl)
theorem dX1_set_28 : decode cX1_set 28 = .ok (.iload_n 2, 1) := dk_28 (dk_at dksX1_set_1 6 rfl rfl)
theorem dX1_set_29 : decode cX1_set 29 = .ok (.iload_n 3, 1) := dk_29 (dk_at dksX1_set_1 7 rfl rfl)
theorem dX1_set_30 : decode cX1_set 30 = .ok (.invokevirtual 315, 3) := dk_182 1 59 (dk_at dksX1_set_1 8 rfl rfl)
theorem dX1_set_33 : decode cX1_set 33 = .ok (.goto 4, 3) := dk_167 0 4 (dk_at dksX1_set_1 11 rfl rfl)
theorem dX1_set_36 : decode cX1_set 36 = .ok (.iconst (-1), 1) := dk_2 (dk_at dksX1_set_1 14 rfl rfl)
theorem dX1_set_37 : decode cX1_set 37 = .ok (.ireturn, 1) := dk_172 (dk_at dksX1_set_1 15 rfl rfl)
abbrev cX1_cut : ByteArray := prog_1_method_42_code
def yX1_cut : MethodName := ⟨RX1, "cut", "(III)I"⟩
def dkwX1_cut_1 : List UInt8 := [153, 0, 7, 4, 167, 0, 15, 42, 5, 27, 28, 29, 182, 1, 59, 167, 0, 4, 2, 172]
abbrev dktX1_cut_1 : List UInt8 := dkwX1_cut_1 ++ []
def dkwX1_cut_0 : List UInt8 := [42, 27, 182, 0, 186, 153, 0, 37, 29, 4, 17, 2, 88, 184, 0, 182, 153, 0, 26, 42, 28, 182, 1, 62]
abbrev dktX1_cut_0 : List UInt8 := dkwX1_cut_0 ++ dktX1_cut_1
theorem dksX1_cut_0 : cX1_cut.data.toList.drop 0 = dktX1_cut_0 := by decide +kernel
theorem dksX1_cut_1 : cX1_cut.data.toList.drop 24 = dktX1_cut_1 := dk_seg dksX1_cut_0 24 rfl rfl
theorem dX1_cut_0 : decode cX1_cut 0 = .ok (.aload_n 0, 1) := dk_42 (dk_at dksX1_cut_0 0 rfl rfl)
theorem dX1_cut_1 : decode cX1_cut 1 = .ok (.iload_n 1, 1) := dk_27 (dk_at dksX1_cut_0 1 rfl rfl)
theorem dX1_cut_2 : decode cX1_cut 2 = .ok (.invokevirtual 186, 3) := dk_182 0 186 (dk_at dksX1_cut_0 2 rfl rfl)
theorem dX1_cut_5 : decode cX1_cut 5 = .ok (.ifCond .eq 37, 3) := dk_153 0 37 (dk_at dksX1_cut_0 5 rfl rfl)
theorem dX1_cut_8 : decode cX1_cut 8 = .ok (.iload_n 3, 1) := dk_29 (dk_at dksX1_cut_0 8 rfl rfl)
theorem dX1_cut_9 : decode cX1_cut 9 = .ok (.iconst 1, 1) := dk_4 (dk_at dksX1_cut_0 9 rfl rfl)
theorem dX1_cut_10 : decode cX1_cut 10 = .ok (.sipush 600, 3) := dk_17 2 88 (dk_at dksX1_cut_0 10 rfl rfl)
theorem dX1_cut_13 : decode cX1_cut 13 = .ok (.invokestatic 182, 3) := dk_184 0 182 (dk_at dksX1_cut_0 13 rfl rfl)
theorem dX1_cut_16 : decode cX1_cut 16 = .ok (.ifCond .eq 26, 3) := dk_153 0 26 (dk_at dksX1_cut_0 16 rfl rfl)
theorem dX1_cut_19 : decode cX1_cut 19 = .ok (.aload_n 0, 1) := dk_42 (dk_at dksX1_cut_0 19 rfl rfl)
theorem dX1_cut_20 : decode cX1_cut 20 = .ok (.iload_n 2, 1) := dk_28 (dk_at dksX1_cut_0 20 rfl rfl)
theorem dX1_cut_21 : decode cX1_cut 21 = .ok (.invokevirtual 318, 3) := dk_182 1 62 (dk_at dksX1_cut_0 21 rfl rfl)
theorem dX1_cut_24 : decode cX1_cut 24 = .ok (.ifCond .eq 7, 3) := dk_153 0 7 (dk_at dksX1_cut_1 0 rfl rfl)
theorem dX1_cut_27 : decode cX1_cut 27 = .ok (.iconst 1, 1) := dk_4 (dk_at dksX1_cut_1 3 rfl rfl)
theorem dX1_cut_28 : decode cX1_cut 28 = .ok (.goto 15, 3) := dk_167 0 15 (dk_at dksX1_cut_1 4 rfl rfl)
theorem dX1_cut_31 : decode cX1_cut 31 = .ok (.aload_n 0, 1) := dk_42 (dk_at dksX1_cut_1 7 rfl rfl)
theorem dX1_cut_32 : decode cX1_cut 32 = .ok (.iconst 2, 1) := dk_5 (dk_at dksX1_cut_1 8 rfl rfl)
theorem dX1_cut_33 : decode cX1_cut 33 = .ok (.iload_n 1, 1) := dk_27 (dk_at dksX1_cut_1 9 rfl rfl)
theorem dX1_cut_34 : decode cX1_cut 34 = .ok (.iload_n 2, 1) := dk_28 (dk_at dksX1_cut_1 10 rfl rfl)
theorem dX1_cut_35 : decode cX1_cut 35 = .ok (.iload_n 3, 1) := dk_29 (dk_at dksX1_cut_1 11 rfl rfl)
theorem dX1_cut_36 : decode cX1_cut 36 = .ok (.invokevirtual 315, 3) := dk_182 1 59 (dk_at dksX1_cut_1 12 rfl rfl)
theorem dX1_cut_39 : decode cX1_cut 39 = .ok (.goto 4, 3) := dk_167 0 4 (dk_at dksX1_cut_1 15 rfl rfl)
theorem dX1_cut_42 : decode cX1_cut 42 = .ok (.iconst (-1), 1) := dk_2 (dk_at dksX1_cut_1 18 rfl rfl)
theorem dX1_cut_43 : decode cX1_cut 43 = .ok (.ireturn, 1) := dk_172 (dk_at dksX1_cut_1 19 rfl rfl)
abbrev cX1_isFar : ByteArray := prog_1_method_41_code
def yX1_isFar : MethodName := ⟨RX1, "isFa\x72", "(I)Z"⟩
def dkwX1_isFar_0 : List UInt8 := [27, 3, 17, 3, 231, 184, 0, 182, 154, 0, 7, 4, 167, 0, 4, 3, 172]
abbrev dktX1_isFar_0 : List UInt8 := dkwX1_isFar_0 ++ []
theorem dksX1_isFar_0 : cX1_isFar.data.toList.drop 0 = dktX1_isFar_0 := by decide +kernel
theorem dX1_isFar_0 : decode cX1_isFar 0 = .ok (.iload_n 1, 1) := dk_27 (dk_at dksX1_isFar_0 0 rfl rfl)
theorem dX1_isFar_1 : decode cX1_isFar 1 = .ok (.iconst 0, 1) := dk_3 (dk_at dksX1_isFar_0 1 rfl rfl)
theorem dX1_isFar_2 : decode cX1_isFar 2 = .ok (.sipush 999, 3) := dk_17 3 231 (dk_at dksX1_isFar_0 2 rfl rfl)
theorem dX1_isFar_5 : decode cX1_isFar 5 = .ok (.invokestatic 182, 3) := dk_184 0 182 (dk_at dksX1_isFar_0 5 rfl rfl)
theorem dX1_isFar_8 : decode cX1_isFar 8 = .ok (.ifCond .ne 7, 3) := dk_154 0 7 (dk_at dksX1_isFar_0 8 rfl rfl)
theorem dX1_isFar_11 : decode cX1_isFar 11 = .ok (.iconst 1, 1) := dk_4 (dk_at dksX1_isFar_0 11 rfl rfl)
theorem dX1_isFar_12 : decode cX1_isFar 12 = .ok (.goto 4, 3) := dk_167 0 4 (dk_at dksX1_isFar_0 12 rfl rfl)
theorem dX1_isFar_15 : decode cX1_isFar 15 = .ok (.iconst 0, 1) := dk_3 (dk_at dksX1_isFar_0 15 rfl rfl)
theorem dX1_isFar_16 : decode cX1_isFar 16 = .ok (.ireturn, 1) := dk_172 (dk_at dksX1_isFar_0 16 rfl rfl)
abbrev cX1_turn : ByteArray := prog_1_method_43_code
def yX1_turn : MethodName := ⟨RX1, "turn", "(III)I"⟩
def dkwX1_turn_1 : List UInt8 := [153, 0, 7, 4, 167, 0, 15, 42, 6, 27, 28, 29, 182, 1, 59, 167, 0, 4, 2, 172]
abbrev dktX1_turn_1 : List UInt8 := dkwX1_turn_1 ++ []
def dkwX1_turn_0 : List UInt8 := [42, 27, 182, 0, 186, 153, 0, 37, 29, 4, 17, 2, 88, 184, 0, 182, 153, 0, 26, 42, 28, 182, 1, 62]
abbrev dktX1_turn_0 : List UInt8 := dkwX1_turn_0 ++ dktX1_turn_1
theorem dksX1_turn_0 : cX1_turn.data.toList.drop 0 = dktX1_turn_0 := by decide +kernel
theorem dksX1_turn_1 : cX1_turn.data.toList.drop 24 = dktX1_turn_1 := dk_seg dksX1_turn_0 24 rfl rfl
theorem dX1_turn_0 : decode cX1_turn 0 = .ok (.aload_n 0, 1) := dk_42 (dk_at dksX1_turn_0 0 rfl rfl)
theorem dX1_turn_1 : decode cX1_turn 1 = .ok (.iload_n 1, 1) := dk_27 (dk_at dksX1_turn_0 1 rfl rfl)
theorem dX1_turn_2 : decode cX1_turn 2 = .ok (.invokevirtual 186, 3) := dk_182 0 186 (dk_at dksX1_turn_0 2 rfl rfl)
theorem dX1_turn_5 : decode cX1_turn 5 = .ok (.ifCond .eq 37, 3) := dk_153 0 37 (dk_at dksX1_turn_0 5 rfl rfl)
theorem dX1_turn_8 : decode cX1_turn 8 = .ok (.iload_n 3, 1) := dk_29 (dk_at dksX1_turn_0 8 rfl rfl)
theorem dX1_turn_9 : decode cX1_turn 9 = .ok (.iconst 1, 1) := dk_4 (dk_at dksX1_turn_0 9 rfl rfl)
theorem dX1_turn_10 : decode cX1_turn 10 = .ok (.sipush 600, 3) := dk_17 2 88 (dk_at dksX1_turn_0 10 rfl rfl)
theorem dX1_turn_13 : decode cX1_turn 13 = .ok (.invokestatic 182, 3) := dk_184 0 182 (dk_at dksX1_turn_0 13 rfl rfl)
theorem dX1_turn_16 : decode cX1_turn 16 = .ok (.ifCond .eq 26, 3) := dk_153 0 26 (dk_at dksX1_turn_0 16 rfl rfl)
theorem dX1_turn_19 : decode cX1_turn 19 = .ok (.aload_n 0, 1) := dk_42 (dk_at dksX1_turn_0 19 rfl rfl)
theorem dX1_turn_20 : decode cX1_turn 20 = .ok (.iload_n 2, 1) := dk_28 (dk_at dksX1_turn_0 20 rfl rfl)
theorem dX1_turn_21 : decode cX1_turn 21 = .ok (.invokevirtual 318, 3) := dk_182 1 62 (dk_at dksX1_turn_0 21 rfl rfl)
theorem dX1_turn_24 : decode cX1_turn 24 = .ok (.ifCond .eq 7, 3) := dk_153 0 7 (dk_at dksX1_turn_1 0 rfl rfl)
theorem dX1_turn_27 : decode cX1_turn 27 = .ok (.iconst 1, 1) := dk_4 (dk_at dksX1_turn_1 3 rfl rfl)
theorem dX1_turn_28 : decode cX1_turn 28 = .ok (.goto 15, 3) := dk_167 0 15 (dk_at dksX1_turn_1 4 rfl rfl)
theorem dX1_turn_31 : decode cX1_turn 31 = .ok (.aload_n 0, 1) := dk_42 (dk_at dksX1_turn_1 7 rfl rfl)
theorem dX1_turn_32 : decode cX1_turn 32 = .ok (.iconst 3, 1) := dk_6 (dk_at dksX1_turn_1 8 rfl rfl)
theorem dX1_turn_33 : decode cX1_turn 33 = .ok (.iload_n 1, 1) := dk_27 (dk_at dksX1_turn_1 9 rfl rfl)
theorem dX1_turn_34 : decode cX1_turn 34 = .ok (.iload_n 2, 1) := dk_28 (dk_at dksX1_turn_1 10 rfl rfl)
theorem dX1_turn_35 : decode cX1_turn 35 = .ok (.iload_n 3, 1) := dk_29 (dk_at dksX1_turn_1 11 rfl rfl)
theorem dX1_turn_36 : decode cX1_turn 36 = .ok (.invokevirtual 315, 3) := dk_182 1 59 (dk_at dksX1_turn_1 12 rfl rfl)
theorem dX1_turn_39 : decode cX1_turn 39 = .ok (.goto 4, 3) := dk_167 0 4 (dk_at dksX1_turn_1 15 rfl rfl)
theorem dX1_turn_42 : decode cX1_turn 42 = .ok (.iconst (-1), 1) := dk_2 (dk_at dksX1_turn_1 18 rfl rfl)
theorem dX1_turn_43 : decode cX1_turn 43 = .ok (.ireturn, 1) := dk_172 (dk_at dksX1_turn_1 19 rfl rfl)
abbrev cX1_join : ByteArray := prog_1_method_44_code
def yX1_join : MethodName := ⟨RX1, "join", "(II)I"⟩
def dkwX1_join_0 : List UInt8 := [42, 27, 28, 182, 1, 65, 153, 0, 14, 42, 7, 27, 3, 28, 182, 1, 59, 167, 0, 4, 2, 172]
abbrev dktX1_join_0 : List UInt8 := dkwX1_join_0 ++ []
theorem dksX1_join_0 : cX1_join.data.toList.drop 0 = dktX1_join_0 := by decide +kernel
theorem dX1_join_0 : decode cX1_join 0 = .ok (.aload_n 0, 1) := dk_42 (dk_at dksX1_join_0 0 rfl rfl)
theorem dX1_join_1 : decode cX1_join 1 = .ok (.iload_n 1, 1) := dk_27 (dk_at dksX1_join_0 1 rfl rfl)
theorem dX1_join_2 : decode cX1_join 2 = .ok (.iload_n 2, 1) := dk_28 (dk_at dksX1_join_0 2 rfl rfl)
theorem dX1_join_3 : decode cX1_join 3 = .ok (.invokevirtual 321, 3) := dk_182 1 65 (dk_at dksX1_join_0 3 rfl rfl)
theorem dX1_join_6 : decode cX1_join 6 = .ok (.ifCond .eq 14, 3) := dk_153 0 14 (dk_at dksX1_join_0 6 rfl rfl)
theorem dX1_join_9 : decode cX1_join 9 = .ok (.aload_n 0, 1) := dk_42 (dk_at dksX1_join_0 9 rfl rfl)
theorem dX1_join_10 : decode cX1_join 10 = .ok (.iconst 4, 1) := dk_7 (dk_at dksX1_join_0 10 rfl rfl)
theorem dX1_join_11 : decode cX1_join 11 = .ok (.iload_n 1, 1) := dk_27 (dk_at dksX1_join_0 11 rfl rfl)
theorem dX1_join_12 : decode cX1_join 12 = .ok (.iconst 0, 1) := dk_3 (dk_at dksX1_join_0 12 rfl rfl)
theorem dX1_join_13 : decode cX1_join 13 = .ok (.iload_n 2, 1) := dk_28 (dk_at dksX1_join_0 13 rfl rfl)
theorem dX1_join_14 : decode cX1_join 14 = .ok (.invokevirtual 315, 3) := dk_182 1 59 (dk_at dksX1_join_0 14 rfl rfl)
theorem dX1_join_17 : decode cX1_join 17 = .ok (.goto 4, 3) := dk_167 0 4 (dk_at dksX1_join_0 17 rfl rfl)
theorem dX1_join_20 : decode cX1_join 20 = .ok (.iconst (-1), 1) := dk_2 (dk_at dksX1_join_0 20 rfl rfl)
theorem dX1_join_21 : decode cX1_join 21 = .ok (.ireturn, 1) := dk_172 (dk_at dksX1_join_0 21 rfl rfl)
abbrev cX1_areTwo : ByteArray := prog_1_method_13_code
def yX1_areTwo : MethodName := ⟨RX1, "areTwo", "(II)Z"⟩
def dkwX1_areTwo_1 : List UInt8 := [167, 0, 4, 3, 172]
abbrev dktX1_areTwo_1 : List UInt8 := dkwX1_areTwo_1 ++ []
def dkwX1_areTwo_0 : List UInt8 := [42, 27, 182, 0, 186, 153, 0, 20, 42, 28, 182, 0, 186, 153, 0, 12, 27, 28, 159, 0, 7, 4]
abbrev dktX1_areTwo_0 : List UInt8 := dkwX1_areTwo_0 ++ dktX1_areTwo_1
theorem dksX1_areTwo_0 : cX1_areTwo.data.toList.drop 0 = dktX1_areTwo_0 := by decide +kernel
theorem dksX1_areTwo_1 : cX1_areTwo.data.toList.drop 22 = dktX1_areTwo_1 := dk_seg dksX1_areTwo_0 22 rfl rfl
theorem dX1_areTwo_0 : decode cX1_areTwo 0 = .ok (.aload_n 0, 1) := dk_42 (dk_at dksX1_areTwo_0 0 rfl rfl)
theorem dX1_areTwo_1 : decode cX1_areTwo 1 = .ok (.iload_n 1, 1) := dk_27 (dk_at dksX1_areTwo_0 1 rfl rfl)
theorem dX1_areTwo_2 : decode cX1_areTwo 2 = .ok (.invokevirtual 186, 3) := dk_182 0 186 (dk_at dksX1_areTwo_0 2 rfl rfl)
theorem dX1_areTwo_5 : decode cX1_areTwo 5 = .ok (.ifCond .eq 20, 3) := dk_153 0 20 (dk_at dksX1_areTwo_0 5 rfl rfl)
theorem dX1_areTwo_8 : decode cX1_areTwo 8 = .ok (.aload_n 0, 1) := dk_42 (dk_at dksX1_areTwo_0 8 rfl rfl)
theorem dX1_areTwo_9 : decode cX1_areTwo 9 = .ok (.iload_n 2, 1) := dk_28 (dk_at dksX1_areTwo_0 9 rfl rfl)
theorem dX1_areTwo_10 : decode cX1_areTwo 10 = .ok (.invokevirtual 186, 3) := dk_182 0 186 (dk_at dksX1_areTwo_0 10 rfl rfl)
theorem dX1_areTwo_13 : decode cX1_areTwo 13 = .ok (.ifCond .eq 12, 3) := dk_153 0 12 (dk_at dksX1_areTwo_0 13 rfl rfl)
theorem dX1_areTwo_16 : decode cX1_areTwo 16 = .ok (.iload_n 1, 1) := dk_27 (dk_at dksX1_areTwo_0 16 rfl rfl)
theorem dX1_areTwo_17 : decode cX1_areTwo 17 = .ok (.iload_n 2, 1) := dk_28 (dk_at dksX1_areTwo_0 17 rfl rfl)
theorem dX1_areTwo_18 : decode cX1_areTwo 18 = .ok (.if_icmp .eq 7, 3) := dk_159 0 7 (dk_at dksX1_areTwo_0 18 rfl rfl)
theorem dX1_areTwo_21 : decode cX1_areTwo 21 = .ok (.iconst 1, 1) := dk_4 (dk_at dksX1_areTwo_0 21 rfl rfl)
theorem dX1_areTwo_22 : decode cX1_areTwo 22 = .ok (.goto 4, 3) := dk_167 0 4 (dk_at dksX1_areTwo_1 0 rfl rfl)
theorem dX1_areTwo_25 : decode cX1_areTwo 25 = .ok (.iconst 0, 1) := dk_3 (dk_at dksX1_areTwo_1 3 rfl rfl)
theorem dX1_areTwo_26 : decode cX1_areTwo 26 = .ok (.ireturn, 1) := dk_172 (dk_at dksX1_areTwo_1 4 rfl rfl)
abbrev cX1_split : ByteArray := prog_1_method_45_code
def yX1_split : MethodName := ⟨RX1, "split", "(III)I"⟩
def dkwX1_split_1 : List UInt8 := [28, 29, 182, 1, 59, 167, 0, 4, 2, 172]
abbrev dktX1_split_1 : List UInt8 := dkwX1_split_1 ++ []
def dkwX1_split_0 : List UInt8 := [42, 27, 29, 182, 1, 65, 153, 0, 26, 42, 28, 182, 1, 62, 153, 0, 7, 4, 167, 0, 15, 42, 8, 27]
abbrev dktX1_split_0 : List UInt8 := dkwX1_split_0 ++ dktX1_split_1
theorem dksX1_split_0 : cX1_split.data.toList.drop 0 = dktX1_split_0 := by decide +kernel
theorem dksX1_split_1 : cX1_split.data.toList.drop 24 = dktX1_split_1 := dk_seg dksX1_split_0 24 rfl rfl
theorem dX1_split_0 : decode cX1_split 0 = .ok (.aload_n 0, 1) := dk_42 (dk_at dksX1_split_0 0 rfl rfl)
theorem dX1_split_1 : decode cX1_split 1 = .ok (.iload_n 1, 1) := dk_27 (dk_at dksX1_split_0 1 rfl rfl)
theorem dX1_split_2 : decode cX1_split 2 = .ok (.iload_n 3, 1) := dk_29 (dk_at dksX1_split_0 2 rfl rfl)
theorem dX1_split_3 : decode cX1_split 3 = .ok (.invokevirtual 321, 3) := dk_182 1 65 (dk_at dksX1_split_0 3 rfl rfl)
theorem dX1_split_6 : decode cX1_split 6 = .ok (.ifCond .eq 26, 3) := dk_153 0 26 (dk_at dksX1_split_0 6 rfl rfl)
theorem dX1_split_9 : decode cX1_split 9 = .ok (.aload_n 0, 1) := dk_42 (dk_at dksX1_split_0 9 rfl rfl)
theorem dX1_split_10 : decode cX1_split 10 = .ok (.iload_n 2, 1) := dk_28 (dk_at dksX1_split_0 10 rfl rfl)
theorem dX1_split_11 : decode cX1_split 11 = .ok (.invokevirtual 318, 3) := dk_182 1 62 (dk_at dksX1_split_0 11 rfl rfl)
theorem dX1_split_14 : decode cX1_split 14 = .ok (.ifCond .eq 7, 3) := dk_153 0 7 (dk_at dksX1_split_0 14 rfl rfl)
theorem dX1_split_17 : decode cX1_split 17 = .ok (.iconst 1, 1) := dk_4 (dk_at dksX1_split_0 17 rfl rfl)
theorem dX1_split_18 : decode cX1_split 18 = .ok (.goto 15, 3) := dk_167 0 15 (dk_at dksX1_split_0 18 rfl rfl)
theorem dX1_split_21 : decode cX1_split 21 = .ok (.aload_n 0, 1) := dk_42 (dk_at dksX1_split_0 21 rfl rfl)
theorem dX1_split_22 : decode cX1_split 22 = .ok (.iconst 5, 1) := dk_8 (dk_at dksX1_split_0 22 rfl rfl)
theorem dX1_split_23 : decode cX1_split 23 = .ok (.iload_n 1, 1) := dk_27 (dk_at dksX1_split_0 23 rfl rfl)
theorem dX1_split_24 : decode cX1_split 24 = .ok (.iload_n 2, 1) := dk_28 (dk_at dksX1_split_1 0 rfl rfl)
theorem dX1_split_25 : decode cX1_split 25 = .ok (.iload_n 3, 1) := dk_29 (dk_at dksX1_split_1 1 rfl rfl)
theorem dX1_split_26 : decode cX1_split 26 = .ok (.invokevirtual 315, 3) := dk_182 1 59 (dk_at dksX1_split_1 2 rfl rfl)
theorem dX1_split_29 : decode cX1_split 29 = .ok (.goto 4, 3) := dk_167 0 4 (dk_at dksX1_split_1 5 rfl rfl)
theorem dX1_split_32 : decode cX1_split 32 = .ok (.iconst (-1), 1) := dk_2 (dk_at dksX1_split_1 8 rfl rfl)
theorem dX1_split_33 : decode cX1_split 33 = .ok (.ireturn, 1) := dk_172 (dk_at dksX1_split_1 9 rfl rfl)
abbrev cX1_type : ByteArray := prog_1_method_46_code
def yX1_type : MethodName := ⟨RX1, "type", "(II)I"⟩
def dkwX1_type_1 : List UInt8 := [16, 6, 3, 27, 28, 182, 1, 59, 167, 0, 4, 2, 172]
abbrev dktX1_type_1 : List UInt8 := dkwX1_type_1 ++ []
def dkwX1_type_0 : List UInt8 := [28, 3, 16, 7, 184, 0, 182, 153, 0, 27, 42, 27, 182, 1, 62, 153, 0, 7, 4, 167, 0, 16, 42]
abbrev dktX1_type_0 : List UInt8 := dkwX1_type_0 ++ dktX1_type_1
theorem dksX1_type_0 : cX1_type.data.toList.drop 0 = dktX1_type_0 := by decide +kernel
theorem dksX1_type_1 : cX1_type.data.toList.drop 23 = dktX1_type_1 := dk_seg dksX1_type_0 23 rfl rfl
theorem dX1_type_0 : decode cX1_type 0 = .ok (.iload_n 2, 1) := dk_28 (dk_at dksX1_type_0 0 rfl rfl)
theorem dX1_type_1 : decode cX1_type 1 = .ok (.iconst 0, 1) := dk_3 (dk_at dksX1_type_0 1 rfl rfl)
theorem dX1_type_2 : decode cX1_type 2 = .ok (.bipush 7, 2) := dk_16 7 (dk_at dksX1_type_0 2 rfl rfl)
theorem dX1_type_4 : decode cX1_type 4 = .ok (.invokestatic 182, 3) := dk_184 0 182 (dk_at dksX1_type_0 4 rfl rfl)
theorem dX1_type_7 : decode cX1_type 7 = .ok (.ifCond .eq 27, 3) := dk_153 0 27 (dk_at dksX1_type_0 7 rfl rfl)
theorem dX1_type_10 : decode cX1_type 10 = .ok (.aload_n 0, 1) := dk_42 (dk_at dksX1_type_0 10 rfl rfl)
theorem dX1_type_11 : decode cX1_type 11 = .ok (.iload_n 1, 1) := dk_27 (dk_at dksX1_type_0 11 rfl rfl)
theorem dX1_type_12 : decode cX1_type 12 = .ok (.invokevirtual 318, 3) := dk_182 1 62 (dk_at dksX1_type_0 12 rfl rfl)
theorem dX1_type_15 : decode cX1_type 15 = .ok (.ifCond .eq 7, 3) := dk_153 0 7 (dk_at dksX1_type_0 15 rfl rfl)
theorem dX1_type_18 : decode cX1_type 18 = .ok (.iconst 1, 1) := dk_4 (dk_at dksX1_type_0 18 rfl rfl)
theorem dX1_type_19 : decode cX1_type 19 = .ok (.goto 16, 3) := dk_167 0 16 (dk_at dksX1_type_0 19 rfl rfl)
theorem dX1_type_22 : decode cX1_type 22 = .ok (.aload_n 0, 1) := dk_42 (dk_at dksX1_type_0 22 rfl rfl)
theorem dX1_type_23 : decode cX1_type 23 = .ok (.bipush 6, 2) := dk_16 6 (dk_at dksX1_type_1 0 rfl rfl)
theorem dX1_type_25 : decode cX1_type 25 = .ok (.iconst 0, 1) := dk_3 (dk_at dksX1_type_1 2 rfl rfl)
theorem dX1_type_26 : decode cX1_type 26 = .ok (.iload_n 1, 1) := dk_27 (dk_at dksX1_type_1 3 rfl rfl)
theorem dX1_type_27 : decode cX1_type 27 = .ok (.iload_n 2, 1) := dk_28 (dk_at dksX1_type_1 4 rfl rfl)
theorem dX1_type_28 : decode cX1_type 28 = .ok (.invokevirtual 315, 3) := dk_182 1 59 (dk_at dksX1_type_1 5 rfl rfl)
theorem dX1_type_31 : decode cX1_type 31 = .ok (.goto 4, 3) := dk_167 0 4 (dk_at dksX1_type_1 8 rfl rfl)
theorem dX1_type_34 : decode cX1_type 34 = .ok (.iconst (-1), 1) := dk_2 (dk_at dksX1_type_1 11 rfl rfl)
theorem dX1_type_35 : decode cX1_type 35 = .ok (.ireturn, 1) := dk_172 (dk_at dksX1_type_1 12 rfl rfl)
abbrev cX1_erase : ByteArray := prog_1_method_47_code
def yX1_erase : MethodName := ⟨RX1, "erase", "(II)I"⟩
def dkwX1_erase_1 : List UInt8 := [16, 7, 3, 27, 28, 182, 1, 59, 167, 0, 4, 2, 172]
abbrev dktX1_erase_1 : List UInt8 := dkwX1_erase_1 ++ []
def dkwX1_erase_0 : List UInt8 := [28, 4, 17, 0, 200, 184, 0, 182, 153, 0, 27, 42, 27, 182, 1, 62, 153, 0, 7, 4, 167, 0, 16, 42]
abbrev dktX1_erase_0 : List UInt8 := dkwX1_erase_0 ++ dktX1_erase_1
theorem dksX1_erase_0 : cX1_erase.data.toList.drop 0 = dktX1_erase_0 := by decide +kernel
theorem dksX1_erase_1 : cX1_erase.data.toList.drop 24 = dktX1_erase_1 := dk_seg dksX1_erase_0 24 rfl rfl
theorem dX1_erase_0 : decode cX1_erase 0 = .ok (.iload_n 2, 1) := dk_28 (dk_at dksX1_erase_0 0 rfl rfl)
theorem dX1_erase_1 : decode cX1_erase 1 = .ok (.iconst 1, 1) := dk_4 (dk_at dksX1_erase_0 1 rfl rfl)
theorem dX1_erase_2 : decode cX1_erase 2 = .ok (.sipush 200, 3) := dk_17 0 200 (dk_at dksX1_erase_0 2 rfl rfl)
theorem dX1_erase_5 : decode cX1_erase 5 = .ok (.invokestatic 182, 3) := dk_184 0 182 (dk_at dksX1_erase_0 5 rfl rfl)
theorem dX1_erase_8 : decode cX1_erase 8 = .ok (.ifCond .eq 27, 3) := dk_153 0 27 (dk_at dksX1_erase_0 8 rfl rfl)
theorem dX1_erase_11 : decode cX1_erase 11 = .ok (.aload_n 0, 1) := dk_42 (dk_at dksX1_erase_0 11 rfl rfl)
theorem dX1_erase_12 : decode cX1_erase 12 = .ok (.iload_n 1, 1) := dk_27 (dk_at dksX1_erase_0 12 rfl rfl)
theorem dX1_erase_13 : decode cX1_erase 13 = .ok (.invokevirtual 318, 3) := dk_182 1 62 (dk_at dksX1_erase_0 13 rfl rfl)
theorem dX1_erase_16 : decode cX1_erase 16 = .ok (.ifCond .eq 7, 3) := dk_153 0 7 (dk_at dksX1_erase_0 16 rfl rfl)
theorem dX1_erase_19 : decode cX1_erase 19 = .ok (.iconst 1, 1) := dk_4 (dk_at dksX1_erase_0 19 rfl rfl)
theorem dX1_erase_20 : decode cX1_erase 20 = .ok (.goto 16, 3) := dk_167 0 16 (dk_at dksX1_erase_0 20 rfl rfl)
theorem dX1_erase_23 : decode cX1_erase 23 = .ok (.aload_n 0, 1) := dk_42 (dk_at dksX1_erase_0 23 rfl rfl)
theorem dX1_erase_24 : decode cX1_erase 24 = .ok (.bipush 7, 2) := dk_16 7 (dk_at dksX1_erase_1 0 rfl rfl)
theorem dX1_erase_26 : decode cX1_erase 26 = .ok (.iconst 0, 1) := dk_3 (dk_at dksX1_erase_1 2 rfl rfl)
theorem dX1_erase_27 : decode cX1_erase 27 = .ok (.iload_n 1, 1) := dk_27 (dk_at dksX1_erase_1 3 rfl rfl)
theorem dX1_erase_28 : decode cX1_erase 28 = .ok (.iload_n 2, 1) := dk_28 (dk_at dksX1_erase_1 4 rfl rfl)
theorem dX1_erase_29 : decode cX1_erase 29 = .ok (.invokevirtual 315, 3) := dk_182 1 59 (dk_at dksX1_erase_1 5 rfl rfl)
theorem dX1_erase_32 : decode cX1_erase 32 = .ok (.goto 4, 3) := dk_167 0 4 (dk_at dksX1_erase_1 8 rfl rfl)
theorem dX1_erase_35 : decode cX1_erase 35 = .ok (.iconst (-1), 1) := dk_2 (dk_at dksX1_erase_1 11 rfl rfl)
theorem dX1_erase_36 : decode cX1_erase 36 = .ok (.ireturn, 1) := dk_172 (dk_at dksX1_erase_1 12 rfl rfl)
abbrev cX1_paste : ByteArray := prog_1_method_48_code
def yX1_paste : MethodName := ⟨RX1, "paste", "(II)I"⟩
def dkwX1_paste_4 : List UInt8 := [182, 1, 28, 182, 1, 69, 132, 4, 1, 167, 255, 230, 3, 172]
abbrev dktX1_paste_4 : List UInt8 := dkwX1_paste_4 ++ []
def dkwX1_paste_3 : List UInt8 := [182, 1, 52, 3, 54, 4, 21, 4, 42, 180, 0, 149, 162, 0, 23, 45, 28, 21, 4, 96, 42, 21, 4]
abbrev dktX1_paste_3 : List UInt8 := dkwX1_paste_3 ++ dktX1_paste_4
def dkwX1_paste_2 : List UInt8 := [182, 0, 194, 42, 180, 0, 149, 96, 17, 2, 88, 164, 0, 5, 5, 172, 42, 42, 180, 0, 85, 182, 1, 48]
abbrev dktX1_paste_2 : List UInt8 := dkwX1_paste_2 ++ dktX1_paste_3
def dkwX1_paste_1 : List UInt8 := [180, 0, 85, 180, 0, 190, 27, 50, 78, 28, 3, 45, 182, 0, 194, 184, 0, 182, 154, 0, 5, 4, 172, 45]
abbrev dktX1_paste_1 : List UInt8 := dkwX1_paste_1 ++ dktX1_paste_2
def dkwX1_paste_0 : List UInt8 := [42, 182, 0, 155, 42, 27, 182, 0, 186, 153, 0, 12, 42, 16, 64, 182, 1, 31, 154, 0, 5, 2, 172, 42]
abbrev dktX1_paste_0 : List UInt8 := dkwX1_paste_0 ++ dktX1_paste_1
theorem dksX1_paste_0 : cX1_paste.data.toList.drop 0 = dktX1_paste_0 := by decide +kernel
theorem dksX1_paste_1 : cX1_paste.data.toList.drop 24 = dktX1_paste_1 := dk_seg dksX1_paste_0 24 rfl rfl
theorem dksX1_paste_2 : cX1_paste.data.toList.drop 48 = dktX1_paste_2 := dk_seg dksX1_paste_1 24 rfl rfl
theorem dksX1_paste_3 : cX1_paste.data.toList.drop 72 = dktX1_paste_3 := dk_seg dksX1_paste_2 24 rfl rfl
theorem dksX1_paste_4 : cX1_paste.data.toList.drop 95 = dktX1_paste_4 := dk_seg dksX1_paste_3 23 rfl rfl
theorem dX1_paste_0 : decode cX1_paste 0 = .ok (.aload_n 0, 1) := dk_42 (dk_at dksX1_paste_0 0 rfl rfl)
theorem dX1_paste_1 : decode cX1_paste 1 = .ok (.invokevirtual 155, 3) := dk_182 0 155 (dk_at dksX1_paste_0 1 rfl rfl)
theorem dX1_paste_4 : decode cX1_paste 4 = .ok (.aload_n 0, 1) := dk_42 (dk_at dksX1_paste_0 4 rfl rfl)
theorem dX1_paste_5 : decode cX1_paste 5 = .ok (.iload_n 1, 1) := dk_27 (dk_at dksX1_paste_0 5 rfl rfl)
theorem dX1_paste_6 : decode cX1_paste 6 = .ok (.invokevirtual 186, 3) := dk_182 0 186 (dk_at dksX1_paste_0 6 rfl rfl)
theorem dX1_paste_9 : decode cX1_paste 9 = .ok (.ifCond .eq 12, 3) := dk_153 0 12 (dk_at dksX1_paste_0 9 rfl rfl)
theorem dX1_paste_12 : decode cX1_paste 12 = .ok (.aload_n 0, 1) := dk_42 (dk_at dksX1_paste_0 12 rfl rfl)
theorem dX1_paste_13 : decode cX1_paste 13 = .ok (.bipush 64, 2) := dk_16 64 (dk_at dksX1_paste_0 13 rfl rfl)
theorem dX1_paste_15 : decode cX1_paste 15 = .ok (.invokevirtual 287, 3) := dk_182 1 31 (dk_at dksX1_paste_0 15 rfl rfl)
theorem dX1_paste_18 : decode cX1_paste 18 = .ok (.ifCond .ne 5, 3) := dk_154 0 5 (dk_at dksX1_paste_0 18 rfl rfl)
theorem dX1_paste_21 : decode cX1_paste 21 = .ok (.iconst (-1), 1) := dk_2 (dk_at dksX1_paste_0 21 rfl rfl)
theorem dX1_paste_22 : decode cX1_paste 22 = .ok (.ireturn, 1) := dk_172 (dk_at dksX1_paste_0 22 rfl rfl)
theorem dX1_paste_23 : decode cX1_paste 23 = .ok (.aload_n 0, 1) := dk_42 (dk_at dksX1_paste_0 23 rfl rfl)
theorem dX1_paste_24 : decode cX1_paste 24 = .ok (.getfield 85, 3) := dk_180 0 85 (dk_at dksX1_paste_1 0 rfl rfl)
theorem dX1_paste_27 : decode cX1_paste 27 = .ok (.getfield 190, 3) := dk_180 0 190 (dk_at dksX1_paste_1 3 rfl rfl)
theorem dX1_paste_30 : decode cX1_paste 30 = .ok (.iload_n 1, 1) := dk_27 (dk_at dksX1_paste_1 6 rfl rfl)
theorem dX1_paste_31 : decode cX1_paste 31 = .ok (.aaload, 1) := dk_50 (dk_at dksX1_paste_1 7 rfl rfl)
theorem dX1_paste_32 : decode cX1_paste 32 = .ok (.astore_n 3, 1) := dk_78 (dk_at dksX1_paste_1 8 rfl rfl)
theorem dX1_paste_33 : decode cX1_paste 33 = .ok (.iload_n 2, 1) := dk_28 (dk_at dksX1_paste_1 9 rfl rfl)
theorem dX1_paste_34 : decode cX1_paste 34 = .ok (.iconst 0, 1) := dk_3 (dk_at dksX1_paste_1 10 rfl rfl)
theorem dX1_paste_35 : decode cX1_paste 35 = .ok (.aload_n 3, 1) := dk_45 (dk_at dksX1_paste_1 11 rfl rfl)
theorem dX1_paste_36 : decode cX1_paste 36 = .ok (.invokevirtual 194, 3) := dk_182 0 194 (dk_at dksX1_paste_1 12 rfl rfl)
theorem dX1_paste_39 : decode cX1_paste 39 = .ok (.invokestatic 182, 3) := dk_184 0 182 (dk_at dksX1_paste_1 15 rfl rfl)
theorem dX1_paste_42 : decode cX1_paste 42 = .ok (.ifCond .ne 5, 3) := dk_154 0 5 (dk_at dksX1_paste_1 18 rfl rfl)
theorem dX1_paste_45 : decode cX1_paste 45 = .ok (.iconst 1, 1) := dk_4 (dk_at dksX1_paste_1 21 rfl rfl)
theorem dX1_paste_46 : decode cX1_paste 46 = .ok (.ireturn, 1) := dk_172 (dk_at dksX1_paste_1 22 rfl rfl)
theorem dX1_paste_47 : decode cX1_paste 47 = .ok (.aload_n 3, 1) := dk_45 (dk_at dksX1_paste_1 23 rfl rfl)
theorem dX1_paste_48 : decode cX1_paste 48 = .ok (.invokevirtual 194, 3) := dk_182 0 194 (dk_at dksX1_paste_2 0 rfl rfl)
theorem dX1_paste_51 : decode cX1_paste 51 = .ok (.aload_n 0, 1) := dk_42 (dk_at dksX1_paste_2 3 rfl rfl)
theorem dX1_paste_52 : decode cX1_paste 52 = .ok (.getfield 149, 3) := dk_180 0 149 (dk_at dksX1_paste_2 4 rfl rfl)
theorem dX1_paste_55 : decode cX1_paste 55 = .ok (.iadd, 1) := dk_96 (dk_at dksX1_paste_2 7 rfl rfl)
theorem dX1_paste_56 : decode cX1_paste 56 = .ok (.sipush 600, 3) := dk_17 2 88 (dk_at dksX1_paste_2 8 rfl rfl)
theorem dX1_paste_59 : decode cX1_paste 59 = .ok (.if_icmp .le 5, 3) := dk_164 0 5 (dk_at dksX1_paste_2 11 rfl rfl)
theorem dX1_paste_62 : decode cX1_paste 62 = .ok (.iconst 2, 1) := dk_5 (dk_at dksX1_paste_2 14 rfl rfl)
theorem dX1_paste_63 : decode cX1_paste 63 = .ok (.ireturn, 1) := dk_172 (dk_at dksX1_paste_2 15 rfl rfl)
theorem dX1_paste_64 : decode cX1_paste 64 = .ok (.aload_n 0, 1) := dk_42 (dk_at dksX1_paste_2 16 rfl rfl)
theorem dX1_paste_65 : decode cX1_paste 65 = .ok (.aload_n 0, 1) := dk_42 (dk_at dksX1_paste_2 17 rfl rfl)
theorem dX1_paste_66 : decode cX1_paste 66 = .ok (.getfield 85, 3) := dk_180 0 85 (dk_at dksX1_paste_2 18 rfl rfl)
theorem dX1_paste_69 : decode cX1_paste 69 = .ok (.invokevirtual 304, 3) := dk_182 1 48 (dk_at dksX1_paste_2 21 rfl rfl)
theorem dX1_paste_72 : decode cX1_paste 72 = .ok (.invokevirtual 308, 3) := dk_182 1 52 (dk_at dksX1_paste_3 0 rfl rfl)
theorem dX1_paste_75 : decode cX1_paste 75 = .ok (.iconst 0, 1) := dk_3 (dk_at dksX1_paste_3 3 rfl rfl)
theorem dX1_paste_76 : decode cX1_paste 76 = .ok (.istore 4, 2) := dk_54 4 (dk_at dksX1_paste_3 4 rfl rfl)
theorem dX1_paste_78 : decode cX1_paste 78 = .ok (.iload 4, 2) := dk_21 4 (dk_at dksX1_paste_3 6 rfl rfl)
theorem dX1_paste_80 : decode cX1_paste 80 = .ok (.aload_n 0, 1) := dk_42 (dk_at dksX1_paste_3 8 rfl rfl)
theorem dX1_paste_81 : decode cX1_paste 81 = .ok (.getfield 149, 3) := dk_180 0 149 (dk_at dksX1_paste_3 9 rfl rfl)
theorem dX1_paste_84 : decode cX1_paste 84 = .ok (.if_icmp .ge 23, 3) := dk_162 0 23 (dk_at dksX1_paste_3 12 rfl rfl)
theorem dX1_paste_87 : decode cX1_paste 87 = .ok (.aload_n 3, 1) := dk_45 (dk_at dksX1_paste_3 15 rfl rfl)
theorem dX1_paste_88 : decode cX1_paste 88 = .ok (.iload_n 2, 1) := dk_28 (dk_at dksX1_paste_3 16 rfl rfl)
theorem dX1_paste_89 : decode cX1_paste 89 = .ok (.iload 4, 2) := dk_21 4 (dk_at dksX1_paste_3 17 rfl rfl)
theorem dX1_paste_91 : decode cX1_paste 91 = .ok (.iadd, 1) := dk_96 (dk_at dksX1_paste_3 19 rfl rfl)
theorem dX1_paste_92 : decode cX1_paste 92 = .ok (.aload_n 0, 1) := dk_42 (dk_at dksX1_paste_3 20 rfl rfl)
theorem dX1_paste_93 : decode cX1_paste 93 = .ok (.iload 4, 2) := dk_21 4 (dk_at dksX1_paste_3 21 rfl rfl)
theorem dX1_paste_95 : decode cX1_paste 95 = .ok (.invokevirtual 284, 3) := dk_182 1 28 (dk_at dksX1_paste_4 0 rfl rfl)
theorem dX1_paste_98 : decode cX1_paste 98 = .ok (.invokevirtual 325, 3) := dk_182 1 69 (dk_at dksX1_paste_4 3 rfl rfl)
theorem dX1_paste_101 : decode cX1_paste 101 = .ok (.iinc 4 1, 3) := dk_132 4 1 (dk_at dksX1_paste_4 6 rfl rfl)
theorem dX1_paste_104 : decode cX1_paste 104 = .ok (.goto (-26), 3) := dk_167 255 230 (dk_at dksX1_paste_4 9 rfl rfl)
theorem dX1_paste_107 : decode cX1_paste 107 = .ok (.iconst 0, 1) := dk_3 (dk_at dksX1_paste_4 12 rfl rfl)
theorem dX1_paste_108 : decode cX1_paste 108 = .ok (.ireturn, 1) := dk_172 (dk_at dksX1_paste_4 13 rfl rfl)
abbrev cX1_letters : ByteArray := prog_1_method_49_code
def yX1_letters : MethodName := ⟨RX1, "letters", "()I"⟩
def dkwX1_letters_0 : List UInt8 := [42, 180, 0, 85, 182, 1, 73, 172]
abbrev dktX1_letters_0 : List UInt8 := dkwX1_letters_0 ++ []
theorem dksX1_letters_0 : cX1_letters.data.toList.drop 0 = dktX1_letters_0 := by decide +kernel
theorem dX1_letters_0 : decode cX1_letters 0 = .ok (.aload_n 0, 1) := dk_42 (dk_at dksX1_letters_0 0 rfl rfl)
theorem dX1_letters_1 : decode cX1_letters 1 = .ok (.getfield 85, 3) := dk_180 0 85 (dk_at dksX1_letters_0 1 rfl rfl)
theorem dX1_letters_4 : decode cX1_letters 4 = .ok (.invokevirtual 329, 3) := dk_182 1 73 (dk_at dksX1_letters_0 4 rfl rfl)
theorem dX1_letters_7 : decode cX1_letters 7 = .ok (.ireturn, 1) := dk_172 (dk_at dksX1_letters_0 7 rfl rfl)
abbrev cX1_letter : ByteArray := prog_1_method_50_code
def yX1_letter : MethodName := ⟨RX1, "lette\x72", "(I)I"⟩
def dkwX1_letter_1 : List UInt8 := [182, 1, 76, 167, 0, 4, 2, 172]
abbrev dktX1_letter_1 : List UInt8 := dkwX1_letter_1 ++ []
def dkwX1_letter_0 : List UInt8 := [27, 3, 42, 180, 0, 85, 182, 1, 73, 4, 100, 184, 0, 182, 153, 0, 14, 42, 180, 0, 85, 27]
abbrev dktX1_letter_0 : List UInt8 := dkwX1_letter_0 ++ dktX1_letter_1
theorem dksX1_letter_0 : cX1_letter.data.toList.drop 0 = dktX1_letter_0 := by decide +kernel
theorem dksX1_letter_1 : cX1_letter.data.toList.drop 22 = dktX1_letter_1 := dk_seg dksX1_letter_0 22 rfl rfl
theorem dX1_letter_0 : decode cX1_letter 0 = .ok (.iload_n 1, 1) := dk_27 (dk_at dksX1_letter_0 0 rfl rfl)
theorem dX1_letter_1 : decode cX1_letter 1 = .ok (.iconst 0, 1) := dk_3 (dk_at dksX1_letter_0 1 rfl rfl)
theorem dX1_letter_2 : decode cX1_letter 2 = .ok (.aload_n 0, 1) := dk_42 (dk_at dksX1_letter_0 2 rfl rfl)
theorem dX1_letter_3 : decode cX1_letter 3 = .ok (.getfield 85, 3) := dk_180 0 85 (dk_at dksX1_letter_0 3 rfl rfl)
theorem dX1_letter_6 : decode cX1_letter 6 = .ok (.invokevirtual 329, 3) := dk_182 1 73 (dk_at dksX1_letter_0 6 rfl rfl)
theorem dX1_letter_9 : decode cX1_letter 9 = .ok (.iconst 1, 1) := dk_4 (dk_at dksX1_letter_0 9 rfl rfl)
theorem dX1_letter_10 : decode cX1_letter 10 = .ok (.isub, 1) := dk_100 (dk_at dksX1_letter_0 10 rfl rfl)
theorem dX1_letter_11 : decode cX1_letter 11 = .ok (.invokestatic 182, 3) := dk_184 0 182 (dk_at dksX1_letter_0 11 rfl rfl)
theorem dX1_letter_14 : decode cX1_letter 14 = .ok (.ifCond .eq 14, 3) := dk_153 0 14 (dk_at dksX1_letter_0 14 rfl rfl)
theorem dX1_letter_17 : decode cX1_letter 17 = .ok (.aload_n 0, 1) := dk_42 (dk_at dksX1_letter_0 17 rfl rfl)
theorem dX1_letter_18 : decode cX1_letter 18 = .ok (.getfield 85, 3) := dk_180 0 85 (dk_at dksX1_letter_0 18 rfl rfl)
theorem dX1_letter_21 : decode cX1_letter 21 = .ok (.iload_n 1, 1) := dk_27 (dk_at dksX1_letter_0 21 rfl rfl)
theorem dX1_letter_22 : decode cX1_letter 22 = .ok (.invokevirtual 332, 3) := dk_182 1 76 (dk_at dksX1_letter_1 0 rfl rfl)
theorem dX1_letter_25 : decode cX1_letter 25 = .ok (.goto 4, 3) := dk_167 0 4 (dk_at dksX1_letter_1 3 rfl rfl)
theorem dX1_letter_28 : decode cX1_letter 28 = .ok (.iconst (-1), 1) := dk_2 (dk_at dksX1_letter_1 6 rfl rfl)
theorem dX1_letter_29 : decode cX1_letter 29 = .ok (.ireturn, 1) := dk_172 (dk_at dksX1_letter_1 7 rfl rfl)
abbrev cX1_count : ByteArray := prog_1_method_52_code
def yX1_count : MethodName := ⟨RX1, "count", "(II)I"⟩
def dkwX1_count_1 : List UInt8 := [180, 0, 85, 27, 28, 182, 1, 82, 167, 0, 4, 2, 172]
abbrev dktX1_count_1 : List UInt8 := dkwX1_count_1 ++ []
def dkwX1_count_0 : List UInt8 := [27, 184, 1, 79, 153, 0, 30, 28, 3, 42, 180, 0, 85, 182, 1, 73, 184, 0, 182, 153, 0, 15, 42]
abbrev dktX1_count_0 : List UInt8 := dkwX1_count_0 ++ dktX1_count_1
theorem dksX1_count_0 : cX1_count.data.toList.drop 0 = dktX1_count_0 := by decide +kernel
theorem dksX1_count_1 : cX1_count.data.toList.drop 23 = dktX1_count_1 := dk_seg dksX1_count_0 23 rfl rfl
theorem dX1_count_0 : decode cX1_count 0 = .ok (.iload_n 1, 1) := dk_27 (dk_at dksX1_count_0 0 rfl rfl)
theorem dX1_count_1 : decode cX1_count 1 = .ok (.invokestatic 335, 3) := dk_184 1 79 (dk_at dksX1_count_0 1 rfl rfl)
theorem dX1_count_4 : decode cX1_count 4 = .ok (.ifCond .eq 30, 3) := dk_153 0 30 (dk_at dksX1_count_0 4 rfl rfl)
theorem dX1_count_7 : decode cX1_count 7 = .ok (.iload_n 2, 1) := dk_28 (dk_at dksX1_count_0 7 rfl rfl)
theorem dX1_count_8 : decode cX1_count 8 = .ok (.iconst 0, 1) := dk_3 (dk_at dksX1_count_0 8 rfl rfl)
theorem dX1_count_9 : decode cX1_count 9 = .ok (.aload_n 0, 1) := dk_42 (dk_at dksX1_count_0 9 rfl rfl)
theorem dX1_count_10 : decode cX1_count 10 = .ok (.getfield 85, 3) := dk_180 0 85 (dk_at dksX1_count_0 10 rfl rfl)
theorem dX1_count_13 : decode cX1_count 13 = .ok (.invokevirtual 329, 3) := dk_182 1 73 (dk_at dksX1_count_0 13 rfl rfl)
theorem dX1_count_16 : decode cX1_count 16 = .ok (.invokestatic 182, 3) := dk_184 0 182 (dk_at dksX1_count_0 16 rfl rfl)
theorem dX1_count_19 : decode cX1_count 19 = .ok (.ifCond .eq 15, 3) := dk_153 0 15 (dk_at dksX1_count_0 19 rfl rfl)
theorem dX1_count_22 : decode cX1_count 22 = .ok (.aload_n 0, 1) := dk_42 (dk_at dksX1_count_0 22 rfl rfl)
theorem dX1_count_23 : decode cX1_count 23 = .ok (.getfield 85, 3) := dk_180 0 85 (dk_at dksX1_count_1 0 rfl rfl)
theorem dX1_count_26 : decode cX1_count 26 = .ok (.iload_n 1, 1) := dk_27 (dk_at dksX1_count_1 3 rfl rfl)
theorem dX1_count_27 : decode cX1_count 27 = .ok (.iload_n 2, 1) := dk_28 (dk_at dksX1_count_1 4 rfl rfl)
theorem dX1_count_28 : decode cX1_count 28 = .ok (.invokevirtual 338, 3) := dk_182 1 82 (dk_at dksX1_count_1 5 rfl rfl)
theorem dX1_count_31 : decode cX1_count 31 = .ok (.goto 4, 3) := dk_167 0 4 (dk_at dksX1_count_1 8 rfl rfl)
theorem dX1_count_34 : decode cX1_count 34 = .ok (.iconst (-1), 1) := dk_2 (dk_at dksX1_count_1 11 rfl rfl)
theorem dX1_count_35 : decode cX1_count 35 = .ok (.ireturn, 1) := dk_172 (dk_at dksX1_count_1 12 rfl rfl)
abbrev cX1_isLetterNumber : ByteArray := prog_1_method_51_code
def yX1_isLetterNumber : MethodName := ⟨RX1, "isLetterNumbe\x72", "(I)Z"⟩
def dkwX1_isLetterNumber_0 : List UInt8 := [26, 3, 16, 7, 184, 0, 182, 172]
abbrev dktX1_isLetterNumber_0 : List UInt8 := dkwX1_isLetterNumber_0 ++ []
theorem dksX1_isLetterNumber_0 : cX1_isLetterNumber.data.toList.drop 0 = dktX1_isLetterNumber_0 := by decide +kernel
theorem dX1_isLetterNumber_0 : decode cX1_isLetterNumber 0 = .ok (.iload_n 0, 1) := dk_26 (dk_at dksX1_isLetterNumber_0 0 rfl rfl)
theorem dX1_isLetterNumber_1 : decode cX1_isLetterNumber 1 = .ok (.iconst 0, 1) := dk_3 (dk_at dksX1_isLetterNumber_0 1 rfl rfl)
theorem dX1_isLetterNumber_2 : decode cX1_isLetterNumber 2 = .ok (.bipush 7, 2) := dk_16 7 (dk_at dksX1_isLetterNumber_0 2 rfl rfl)
theorem dX1_isLetterNumber_4 : decode cX1_isLetterNumber 4 = .ok (.invokestatic 182, 3) := dk_184 0 182 (dk_at dksX1_isLetterNumber_0 4 rfl rfl)
theorem dX1_isLetterNumber_7 : decode cX1_isLetterNumber 7 = .ok (.ireturn, 1) := dk_172 (dk_at dksX1_isLetterNumber_0 7 rfl rfl)
abbrev cX1_place : ByteArray := prog_1_method_53_code
def yX1_place : MethodName := ⟨RX1, "place", "(II)I"⟩
def dkwX1_place_0 : List UInt8 := [27, 184, 1, 79, 153, 0, 15, 42, 180, 0, 85, 27, 28, 182, 1, 84, 167, 0, 4, 2, 172]
abbrev dktX1_place_0 : List UInt8 := dkwX1_place_0 ++ []
theorem dksX1_place_0 : cX1_place.data.toList.drop 0 = dktX1_place_0 := by decide +kernel
theorem dX1_place_0 : decode cX1_place 0 = .ok (.iload_n 1, 1) := dk_27 (dk_at dksX1_place_0 0 rfl rfl)
theorem dX1_place_1 : decode cX1_place 1 = .ok (.invokestatic 335, 3) := dk_184 1 79 (dk_at dksX1_place_0 1 rfl rfl)
theorem dX1_place_4 : decode cX1_place 4 = .ok (.ifCond .eq 15, 3) := dk_153 0 15 (dk_at dksX1_place_0 4 rfl rfl)
theorem dX1_place_7 : decode cX1_place 7 = .ok (.aload_n 0, 1) := dk_42 (dk_at dksX1_place_0 7 rfl rfl)
theorem dX1_place_8 : decode cX1_place 8 = .ok (.getfield 85, 3) := dk_180 0 85 (dk_at dksX1_place_0 8 rfl rfl)
theorem dX1_place_11 : decode cX1_place 11 = .ok (.iload_n 1, 1) := dk_27 (dk_at dksX1_place_0 11 rfl rfl)
theorem dX1_place_12 : decode cX1_place 12 = .ok (.iload_n 2, 1) := dk_28 (dk_at dksX1_place_0 12 rfl rfl)
theorem dX1_place_13 : decode cX1_place 13 = .ok (.invokevirtual 340, 3) := dk_182 1 84 (dk_at dksX1_place_0 13 rfl rfl)
theorem dX1_place_16 : decode cX1_place 16 = .ok (.goto 4, 3) := dk_167 0 4 (dk_at dksX1_place_0 16 rfl rfl)
theorem dX1_place_19 : decode cX1_place 19 = .ok (.iconst (-1), 1) := dk_2 (dk_at dksX1_place_0 19 rfl rfl)
theorem dX1_place_20 : decode cX1_place 20 = .ok (.ireturn, 1) := dk_172 (dk_at dksX1_place_0 20 rfl rfl)
abbrev cX1_least : ByteArray := prog_1_method_54_code
def yX1_least : MethodName := ⟨RX1, "least", "(III)I"⟩
def dkwX1_least_1 : List UInt8 := [100, 4, 100, 184, 0, 182, 153, 0, 16, 42, 180, 0, 85, 27, 28, 29, 182, 1, 87, 167, 0, 4, 2, 172]
abbrev dktX1_least_1 : List UInt8 := dkwX1_least_1 ++ []
def dkwX1_least_0 : List UInt8 := [27, 155, 0, 45, 28, 42, 180, 0, 85, 182, 1, 73, 163, 0, 34, 27, 28, 162, 0, 29, 29, 3, 28, 27]
abbrev dktX1_least_0 : List UInt8 := dkwX1_least_0 ++ dktX1_least_1
theorem dksX1_least_0 : cX1_least.data.toList.drop 0 = dktX1_least_0 := by decide +kernel
theorem dksX1_least_1 : cX1_least.data.toList.drop 24 = dktX1_least_1 := dk_seg dksX1_least_0 24 rfl rfl
theorem dX1_least_0 : decode cX1_least 0 = .ok (.iload_n 1, 1) := dk_27 (dk_at dksX1_least_0 0 rfl rfl)
theorem dX1_least_1 : decode cX1_least 1 = .ok (.ifCond .lt 45, 3) := dk_155 0 45 (dk_at dksX1_least_0 1 rfl rfl)
theorem dX1_least_4 : decode cX1_least 4 = .ok (.iload_n 2, 1) := dk_28 (dk_at dksX1_least_0 4 rfl rfl)
theorem dX1_least_5 : decode cX1_least 5 = .ok (.aload_n 0, 1) := dk_42 (dk_at dksX1_least_0 5 rfl rfl)
theorem dX1_least_6 : decode cX1_least 6 = .ok (.getfield 85, 3) := dk_180 0 85 (dk_at dksX1_least_0 6 rfl rfl)
theorem dX1_least_9 : decode cX1_least 9 = .ok (.invokevirtual 329, 3) := dk_182 1 73 (dk_at dksX1_least_0 9 rfl rfl)
theorem dX1_least_12 : decode cX1_least 12 = .ok (.if_icmp .gt 34, 3) := dk_163 0 34 (dk_at dksX1_least_0 12 rfl rfl)
theorem dX1_least_15 : decode cX1_least 15 = .ok (.iload_n 1, 1) := dk_27 (dk_at dksX1_least_0 15 rfl rfl)
theorem dX1_least_16 : decode cX1_least 16 = .ok (.iload_n 2, 1) := dk_28 (dk_at dksX1_least_0 16 rfl rfl)
theorem dX1_least_17 : decode cX1_least 17 = .ok (.if_icmp .ge 29, 3) := dk_162 0 29 (dk_at dksX1_least_0 17 rfl rfl)
theorem dX1_least_20 : decode cX1_least 20 = .ok (.iload_n 3, 1) := dk_29 (dk_at dksX1_least_0 20 rfl rfl)
theorem dX1_least_21 : decode cX1_least 21 = .ok (.iconst 0, 1) := dk_3 (dk_at dksX1_least_0 21 rfl rfl)
theorem dX1_least_22 : decode cX1_least 22 = .ok (.iload_n 2, 1) := dk_28 (dk_at dksX1_least_0 22 rfl rfl)
theorem dX1_least_23 : decode cX1_least 23 = .ok (.iload_n 1, 1) := dk_27 (dk_at dksX1_least_0 23 rfl rfl)
theorem dX1_least_24 : decode cX1_least 24 = .ok (.isub, 1) := dk_100 (dk_at dksX1_least_1 0 rfl rfl)
theorem dX1_least_25 : decode cX1_least 25 = .ok (.iconst 1, 1) := dk_4 (dk_at dksX1_least_1 1 rfl rfl)
theorem dX1_least_26 : decode cX1_least 26 = .ok (.isub, 1) := dk_100 (dk_at dksX1_least_1 2 rfl rfl)
theorem dX1_least_27 : decode cX1_least 27 = .ok (.invokestatic 182, 3) := dk_184 0 182 (dk_at dksX1_least_1 3 rfl rfl)
theorem dX1_least_30 : decode cX1_least 30 = .ok (.ifCond .eq 16, 3) := dk_153 0 16 (dk_at dksX1_least_1 6 rfl rfl)
theorem dX1_least_33 : decode cX1_least 33 = .ok (.aload_n 0, 1) := dk_42 (dk_at dksX1_least_1 9 rfl rfl)
theorem dX1_least_34 : decode cX1_least 34 = .ok (.getfield 85, 3) := dk_180 0 85 (dk_at dksX1_least_1 10 rfl rfl)
theorem dX1_least_37 : decode cX1_least 37 = .ok (.iload_n 1, 1) := dk_27 (dk_at dksX1_least_1 13 rfl rfl)
theorem dX1_least_38 : decode cX1_least 38 = .ok (.iload_n 2, 1) := dk_28 (dk_at dksX1_least_1 14 rfl rfl)
theorem dX1_least_39 : decode cX1_least 39 = .ok (.iload_n 3, 1) := dk_29 (dk_at dksX1_least_1 15 rfl rfl)
theorem dX1_least_40 : decode cX1_least 40 = .ok (.invokevirtual 343, 3) := dk_182 1 87 (dk_at dksX1_least_1 16 rfl rfl)
theorem dX1_least_43 : decode cX1_least 43 = .ok (.goto 4, 3) := dk_167 0 4 (dk_at dksX1_least_1 19 rfl rfl)
theorem dX1_least_46 : decode cX1_least 46 = .ok (.iconst (-1), 1) := dk_2 (dk_at dksX1_least_1 22 rfl rfl)
theorem dX1_least_47 : decode cX1_least 47 = .ok (.ireturn, 1) := dk_172 (dk_at dksX1_least_1 23 rfl rfl)
abbrev cX1_node : ByteArray := prog_1_method_55_code
def yX1_node : MethodName := ⟨RX1, "node", "(II)I"⟩
def dkwX1_node_2 : List UInt8 := [2, 172]
abbrev dktX1_node_2 : List UInt8 := dkwX1_node_2 ++ []
def dkwX1_node_1 : List UInt8 := [4, 100, 184, 0, 182, 153, 0, 19, 42, 180, 0, 85, 180, 1, 91, 27, 50, 28, 182, 0, 207, 167, 0, 4]
abbrev dktX1_node_1 : List UInt8 := dkwX1_node_1 ++ dktX1_node_2
def dkwX1_node_0 : List UInt8 := [27, 3, 16, 6, 184, 0, 182, 153, 0, 41, 28, 3, 42, 180, 0, 85, 180, 1, 91, 27, 50, 182, 0, 194]
abbrev dktX1_node_0 : List UInt8 := dkwX1_node_0 ++ dktX1_node_1
theorem dksX1_node_0 : cX1_node.data.toList.drop 0 = dktX1_node_0 := by decide +kernel
theorem dksX1_node_1 : cX1_node.data.toList.drop 24 = dktX1_node_1 := dk_seg dksX1_node_0 24 rfl rfl
theorem dksX1_node_2 : cX1_node.data.toList.drop 48 = dktX1_node_2 := dk_seg dksX1_node_1 24 rfl rfl
theorem dX1_node_0 : decode cX1_node 0 = .ok (.iload_n 1, 1) := dk_27 (dk_at dksX1_node_0 0 rfl rfl)
theorem dX1_node_1 : decode cX1_node 1 = .ok (.iconst 0, 1) := dk_3 (dk_at dksX1_node_0 1 rfl rfl)
theorem dX1_node_2 : decode cX1_node 2 = .ok (.bipush 6, 2) := dk_16 6 (dk_at dksX1_node_0 2 rfl rfl)
theorem dX1_node_4 : decode cX1_node 4 = .ok (.invokestatic 182, 3) := dk_184 0 182 (dk_at dksX1_node_0 4 rfl rfl)
theorem dX1_node_7 : decode cX1_node 7 = .ok (.ifCond .eq 41, 3) := dk_153 0 41 (dk_at dksX1_node_0 7 rfl rfl)
theorem dX1_node_10 : decode cX1_node 10 = .ok (.iload_n 2, 1) := dk_28 (dk_at dksX1_node_0 10 rfl rfl)
theorem dX1_node_11 : decode cX1_node 11 = .ok (.iconst 0, 1) := dk_3 (dk_at dksX1_node_0 11 rfl rfl)
theorem dX1_node_12 : decode cX1_node 12 = .ok (.aload_n 0, 1) := dk_42 (dk_at dksX1_node_0 12 rfl rfl)
theorem dX1_node_13 : decode cX1_node 13 = .ok (.getfield 85, 3) := dk_180 0 85 (dk_at dksX1_node_0 13 rfl rfl)
theorem dX1_node_16 : decode cX1_node 16 = .ok (.getfield 347, 3) := dk_180 1 91 (dk_at dksX1_node_0 16 rfl rfl)
theorem dX1_node_19 : decode cX1_node 19 = .ok (.iload_n 1, 1) := dk_27 (dk_at dksX1_node_0 19 rfl rfl)
theorem dX1_node_20 : decode cX1_node 20 = .ok (.aaload, 1) := dk_50 (dk_at dksX1_node_0 20 rfl rfl)
theorem dX1_node_21 : decode cX1_node 21 = .ok (.invokevirtual 194, 3) := dk_182 0 194 (dk_at dksX1_node_0 21 rfl rfl)
theorem dX1_node_24 : decode cX1_node 24 = .ok (.iconst 1, 1) := dk_4 (dk_at dksX1_node_1 0 rfl rfl)
theorem dX1_node_25 : decode cX1_node 25 = .ok (.isub, 1) := dk_100 (dk_at dksX1_node_1 1 rfl rfl)
theorem dX1_node_26 : decode cX1_node 26 = .ok (.invokestatic 182, 3) := dk_184 0 182 (dk_at dksX1_node_1 2 rfl rfl)
theorem dX1_node_29 : decode cX1_node 29 = .ok (.ifCond .eq 19, 3) := dk_153 0 19 (dk_at dksX1_node_1 5 rfl rfl)
theorem dX1_node_32 : decode cX1_node 32 = .ok (.aload_n 0, 1) := dk_42 (dk_at dksX1_node_1 8 rfl rfl)
theorem dX1_node_33 : decode cX1_node 33 = .ok (.getfield 85, 3) := dk_180 0 85 (dk_at dksX1_node_1 9 rfl rfl)
theorem dX1_node_36 : decode cX1_node 36 = .ok (.getfield 347, 3) := dk_180 1 91 (dk_at dksX1_node_1 12 rfl rfl)
theorem dX1_node_39 : decode cX1_node 39 = .ok (.iload_n 1, 1) := dk_27 (dk_at dksX1_node_1 15 rfl rfl)
theorem dX1_node_40 : decode cX1_node 40 = .ok (.aaload, 1) := dk_50 (dk_at dksX1_node_1 16 rfl rfl)
theorem dX1_node_41 : decode cX1_node 41 = .ok (.iload_n 2, 1) := dk_28 (dk_at dksX1_node_1 17 rfl rfl)
theorem dX1_node_42 : decode cX1_node 42 = .ok (.invokevirtual 207, 3) := dk_182 0 207 (dk_at dksX1_node_1 18 rfl rfl)
theorem dX1_node_45 : decode cX1_node 45 = .ok (.goto 4, 3) := dk_167 0 4 (dk_at dksX1_node_1 21 rfl rfl)
theorem dX1_node_48 : decode cX1_node 48 = .ok (.iconst (-1), 1) := dk_2 (dk_at dksX1_node_2 0 rfl rfl)
theorem dX1_node_49 : decode cX1_node 49 = .ok (.ireturn, 1) := dk_172 (dk_at dksX1_node_2 1 rfl rfl)
abbrev cX1_drawn : ByteArray := prog_1_method_56_code
def yX1_drawn : MethodName := ⟨RX1, "drawn", "(II)I"⟩
def dkwX1_drawn_1 : List UInt8 := [27, 28, 182, 1, 94, 54, 4, 21, 4, 158, 0, 8, 42, 45, 182, 1, 52, 21, 4, 172]
abbrev dktX1_drawn_1 : List UInt8 := dkwX1_drawn_1 ++ []
def dkwX1_drawn_0 : List UInt8 := [27, 4, 16, 60, 184, 0, 182, 154, 0, 5, 2, 172, 42, 180, 0, 85, 182, 1, 48, 78, 42, 180, 0, 85]
abbrev dktX1_drawn_0 : List UInt8 := dkwX1_drawn_0 ++ dktX1_drawn_1
theorem dksX1_drawn_0 : cX1_drawn.data.toList.drop 0 = dktX1_drawn_0 := by decide +kernel
theorem dksX1_drawn_1 : cX1_drawn.data.toList.drop 24 = dktX1_drawn_1 := dk_seg dksX1_drawn_0 24 rfl rfl
theorem dX1_drawn_0 : decode cX1_drawn 0 = .ok (.iload_n 1, 1) := dk_27 (dk_at dksX1_drawn_0 0 rfl rfl)
theorem dX1_drawn_1 : decode cX1_drawn 1 = .ok (.iconst 1, 1) := dk_4 (dk_at dksX1_drawn_0 1 rfl rfl)
theorem dX1_drawn_2 : decode cX1_drawn 2 = .ok (.bipush 60, 2) := dk_16 60 (dk_at dksX1_drawn_0 2 rfl rfl)
theorem dX1_drawn_4 : decode cX1_drawn 4 = .ok (.invokestatic 182, 3) := dk_184 0 182 (dk_at dksX1_drawn_0 4 rfl rfl)
theorem dX1_drawn_7 : decode cX1_drawn 7 = .ok (.ifCond .ne 5, 3) := dk_154 0 5 (dk_at dksX1_drawn_0 7 rfl rfl)
theorem dX1_drawn_10 : decode cX1_drawn 10 = .ok (.iconst (-1), 1) := dk_2 (dk_at dksX1_drawn_0 10 rfl rfl)
theorem dX1_drawn_11 : decode cX1_drawn 11 = .ok (.ireturn, 1) := dk_172 (dk_at dksX1_drawn_0 11 rfl rfl)
theorem dX1_drawn_12 : decode cX1_drawn 12 = .ok (.aload_n 0, 1) := dk_42 (dk_at dksX1_drawn_0 12 rfl rfl)
theorem dX1_drawn_13 : decode cX1_drawn 13 = .ok (.getfield 85, 3) := dk_180 0 85 (dk_at dksX1_drawn_0 13 rfl rfl)
theorem dX1_drawn_16 : decode cX1_drawn 16 = .ok (.invokevirtual 304, 3) := dk_182 1 48 (dk_at dksX1_drawn_0 16 rfl rfl)
theorem dX1_drawn_19 : decode cX1_drawn 19 = .ok (.astore_n 3, 1) := dk_78 (dk_at dksX1_drawn_0 19 rfl rfl)
theorem dX1_drawn_20 : decode cX1_drawn 20 = .ok (.aload_n 0, 1) := dk_42 (dk_at dksX1_drawn_0 20 rfl rfl)
theorem dX1_drawn_21 : decode cX1_drawn 21 = .ok (.getfield 85, 3) := dk_180 0 85 (dk_at dksX1_drawn_0 21 rfl rfl)
theorem dX1_drawn_24 : decode cX1_drawn 24 = .ok (.iload_n 1, 1) := dk_27 (dk_at dksX1_drawn_1 0 rfl rfl)
theorem dX1_drawn_25 : decode cX1_drawn 25 = .ok (.iload_n 2, 1) := dk_28 (dk_at dksX1_drawn_1 1 rfl rfl)
theorem dX1_drawn_26 : decode cX1_drawn 26 = .ok (.invokevirtual 350, 3) := dk_182 1 94 (dk_at dksX1_drawn_1 2 rfl rfl)
theorem dX1_drawn_29 : decode cX1_drawn 29 = .ok (.istore 4, 2) := dk_54 4 (dk_at dksX1_drawn_1 5 rfl rfl)
theorem dX1_drawn_31 : decode cX1_drawn 31 = .ok (.iload 4, 2) := dk_21 4 (dk_at dksX1_drawn_1 7 rfl rfl)
theorem dX1_drawn_33 : decode cX1_drawn 33 = .ok (.ifCond .le 8, 3) := dk_158 0 8 (dk_at dksX1_drawn_1 9 rfl rfl)
theorem dX1_drawn_36 : decode cX1_drawn 36 = .ok (.aload_n 0, 1) := dk_42 (dk_at dksX1_drawn_1 12 rfl rfl)
theorem dX1_drawn_37 : decode cX1_drawn 37 = .ok (.aload_n 3, 1) := dk_45 (dk_at dksX1_drawn_1 13 rfl rfl)
theorem dX1_drawn_38 : decode cX1_drawn 38 = .ok (.invokevirtual 308, 3) := dk_182 1 52 (dk_at dksX1_drawn_1 14 rfl rfl)
theorem dX1_drawn_41 : decode cX1_drawn 41 = .ok (.iload 4, 2) := dk_21 4 (dk_at dksX1_drawn_1 17 rfl rfl)
theorem dX1_drawn_43 : decode cX1_drawn 43 = .ok (.ireturn, 1) := dk_172 (dk_at dksX1_drawn_1 19 rfl rfl)
abbrev cX1_book : ByteArray := prog_1_method_57_code
def yX1_book : MethodName := ⟨RX1, "book", "(I)I"⟩
def dkwX1_book_11 : List UInt8 := [29, 172]
abbrev dktX1_book_11 : List UInt8 := dkwX1_book_11 ++ []
def dkwX1_book_10 : List UInt8 := [154, 0, 14, 42, 180, 0, 85, 44, 182, 1, 40, 167, 0, 13, 21, 5, 158, 0, 8, 42, 44, 182, 1, 52]
abbrev dktX1_book_10 : List UInt8 := dkwX1_book_10 ++ dktX1_book_11
def dkwX1_book_9 : List UInt8 := [182, 1, 119, 79, 42, 180, 0, 126, 6, 42, 180, 0, 85, 182, 1, 73, 79, 42, 4, 181, 1, 122, 27]
abbrev dktX1_book_9 : List UInt8 := dkwX1_book_9 ++ dktX1_book_10
def dkwX1_book_8 : List UInt8 := [180, 0, 126, 3, 21, 4, 79, 42, 180, 0, 126, 4, 21, 5, 79, 42, 180, 0, 126, 5, 42, 180, 0, 85]
abbrev dktX1_book_8 : List UInt8 := dkwX1_book_8 ++ dktX1_book_9
def dkwX1_book_7 : List UInt8 := [25, 7, 180, 1, 113, 25, 7, 180, 1, 116, 182, 1, 55, 132, 5, 1, 132, 6, 1, 167, 255, 141, 42]
abbrev dktX1_book_7 : List UInt8 := dkwX1_book_7 ++ dktX1_book_8
def dkwX1_book_6 : List UInt8 := [180, 1, 105, 104, 96, 54, 4, 167, 0, 33, 42, 180, 0, 85, 25, 7, 180, 1, 105, 25, 7, 180, 1, 110]
abbrev dktX1_book_6 : List UInt8 := dkwX1_book_6 ++ dktX1_book_7
def dkwX1_book_5 : List UInt8 := [180, 1, 116, 182, 1, 44, 54, 4, 21, 4, 153, 0, 22, 21, 6, 62, 21, 4, 16, 10, 25, 7]
abbrev dktX1_book_5 : List UInt8 := dkwX1_book_5 ++ dktX1_book_6
def dkwX1_book_4 : List UInt8 := [58, 7, 42, 180, 0, 85, 25, 7, 180, 1, 105, 25, 7, 180, 1, 110, 25, 7, 180, 1, 113, 25, 7]
abbrev dktX1_book_4 : List UInt8 := dkwX1_book_4 ++ dktX1_book_5
def dkwX1_book_3 : List UInt8 := [180, 0, 104, 180, 1, 99, 162, 0, 109, 29, 2, 160, 0, 104, 42, 180, 0, 104, 180, 1, 102, 21, 6, 50]
abbrev dktX1_book_3 : List UInt8 := dkwX1_book_3 ++ dktX1_book_4
def dkwX1_book_2 : List UInt8 := [100, 172, 42, 180, 0, 85, 182, 1, 48, 77, 2, 62, 3, 54, 4, 3, 54, 5, 3, 54, 6, 21, 6, 42]
abbrev dktX1_book_2 : List UInt8 := dkwX1_book_2 ++ dktX1_book_3
def dkwX1_book_1 : List UInt8 := [180, 0, 104, 182, 1, 97, 167, 0, 20, 77, 42, 44, 180, 0, 176, 181, 0, 158, 16, 254, 44, 180, 0, 179]
abbrev dktX1_book_1 : List UInt8 := dkwX1_book_1 ++ dktX1_book_2
def dkwX1_book_0 : List UInt8 := [27, 3, 4, 184, 0, 182, 154, 0, 7, 17, 252, 24, 172, 42, 182, 0, 155, 42, 3, 181, 0, 158, 42]
abbrev dktX1_book_0 : List UInt8 := dkwX1_book_0 ++ dktX1_book_1
theorem dksX1_book_0 : cX1_book.data.toList.drop 0 = dktX1_book_0 := by decide +kernel
theorem dksX1_book_1 : cX1_book.data.toList.drop 23 = dktX1_book_1 := dk_seg dksX1_book_0 23 rfl rfl
theorem dksX1_book_2 : cX1_book.data.toList.drop 47 = dktX1_book_2 := dk_seg dksX1_book_1 24 rfl rfl
theorem dksX1_book_3 : cX1_book.data.toList.drop 71 = dktX1_book_3 := dk_seg dksX1_book_2 24 rfl rfl
theorem dksX1_book_4 : cX1_book.data.toList.drop 95 = dktX1_book_4 := dk_seg dksX1_book_3 24 rfl rfl
theorem dksX1_book_5 : cX1_book.data.toList.drop 118 = dktX1_book_5 := dk_seg dksX1_book_4 23 rfl rfl
theorem dksX1_book_6 : cX1_book.data.toList.drop 140 = dktX1_book_6 := dk_seg dksX1_book_5 22 rfl rfl
theorem dksX1_book_7 : cX1_book.data.toList.drop 164 = dktX1_book_7 := dk_seg dksX1_book_6 24 rfl rfl
theorem dksX1_book_8 : cX1_book.data.toList.drop 187 = dktX1_book_8 := dk_seg dksX1_book_7 23 rfl rfl
theorem dksX1_book_9 : cX1_book.data.toList.drop 211 = dktX1_book_9 := dk_seg dksX1_book_8 24 rfl rfl
theorem dksX1_book_10 : cX1_book.data.toList.drop 234 = dktX1_book_10 := dk_seg dksX1_book_9 23 rfl rfl
theorem dksX1_book_11 : cX1_book.data.toList.drop 258 = dktX1_book_11 := dk_seg dksX1_book_10 24 rfl rfl
theorem dX1_book_0 : decode cX1_book 0 = .ok (.iload_n 1, 1) := dk_27 (dk_at dksX1_book_0 0 rfl rfl)
theorem dX1_book_1 : decode cX1_book 1 = .ok (.iconst 0, 1) := dk_3 (dk_at dksX1_book_0 1 rfl rfl)
theorem dX1_book_2 : decode cX1_book 2 = .ok (.iconst 1, 1) := dk_4 (dk_at dksX1_book_0 2 rfl rfl)
theorem dX1_book_3 : decode cX1_book 3 = .ok (.invokestatic 182, 3) := dk_184 0 182 (dk_at dksX1_book_0 3 rfl rfl)
theorem dX1_book_6 : decode cX1_book 6 = .ok (.ifCond .ne 7, 3) := dk_154 0 7 (dk_at dksX1_book_0 6 rfl rfl)
theorem dX1_book_9 : decode cX1_book 9 = .ok (.sipush (-1000), 3) := dk_17 252 24 (dk_at dksX1_book_0 9 rfl rfl)
theorem dX1_book_12 : decode cX1_book 12 = .ok (.ireturn, 1) := dk_172 (dk_at dksX1_book_0 12 rfl rfl)
theorem dX1_book_13 : decode cX1_book 13 = .ok (.aload_n 0, 1) := dk_42 (dk_at dksX1_book_0 13 rfl rfl)
theorem dX1_book_14 : decode cX1_book 14 = .ok (.invokevirtual 155, 3) := dk_182 0 155 (dk_at dksX1_book_0 14 rfl rfl)
theorem dX1_book_17 : decode cX1_book 17 = .ok (.aload_n 0, 1) := dk_42 (dk_at dksX1_book_0 17 rfl rfl)
theorem dX1_book_18 : decode cX1_book 18 = .ok (.iconst 0, 1) := dk_3 (dk_at dksX1_book_0 18 rfl rfl)
theorem dX1_book_19 : decode cX1_book 19 = .ok (.putfield 158, 3) := dk_181 0 158 (dk_at dksX1_book_0 19 rfl rfl)
theorem dX1_book_22 : decode cX1_book 22 = .ok (.aload_n 0, 1) := dk_42 (dk_at dksX1_book_0 22 rfl rfl)
theorem dX1_book_23 : decode cX1_book 23 = .ok (.getfield 104, 3) := dk_180 0 104 (dk_at dksX1_book_1 0 rfl rfl)
theorem dX1_book_26 : decode cX1_book 26 = .ok (.invokevirtual 353, 3) := dk_182 1 97 (dk_at dksX1_book_1 3 rfl rfl)
theorem dX1_book_29 : decode cX1_book 29 = .ok (.goto 20, 3) := dk_167 0 20 (dk_at dksX1_book_1 6 rfl rfl)
theorem dX1_book_32 : decode cX1_book 32 = .ok (.astore_n 2, 1) := dk_77 (dk_at dksX1_book_1 9 rfl rfl)
theorem dX1_book_33 : decode cX1_book 33 = .ok (.aload_n 0, 1) := dk_42 (dk_at dksX1_book_1 10 rfl rfl)
theorem dX1_book_34 : decode cX1_book 34 = .ok (.aload_n 2, 1) := dk_44 (dk_at dksX1_book_1 11 rfl rfl)
theorem dX1_book_35 : decode cX1_book 35 = .ok (.getfield 176, 3) := dk_180 0 176 (dk_at dksX1_book_1 12 rfl rfl)
theorem dX1_book_38 : decode cX1_book 38 = .ok (.putfield 158, 3) := dk_181 0 158 (dk_at dksX1_book_1 15 rfl rfl)
theorem dX1_book_41 : decode cX1_book 41 = .ok (.bipush (-2), 2) := dk_16 254 (dk_at dksX1_book_1 18 rfl rfl)
theorem dX1_book_43 : decode cX1_book 43 = .ok (.aload_n 2, 1) := dk_44 (dk_at dksX1_book_1 20 rfl rfl)
theorem dX1_book_44 : decode cX1_book 44 = .ok (.getfield 179, 3) := dk_180 0 179 (dk_at dksX1_book_1 21 rfl rfl)
theorem dX1_book_47 : decode cX1_book 47 = .ok (.isub, 1) := dk_100 (dk_at dksX1_book_2 0 rfl rfl)
theorem dX1_book_48 : decode cX1_book 48 = .ok (.ireturn, 1) := dk_172 (dk_at dksX1_book_2 1 rfl rfl)
theorem dX1_book_49 : decode cX1_book 49 = .ok (.aload_n 0, 1) := dk_42 (dk_at dksX1_book_2 2 rfl rfl)
theorem dX1_book_50 : decode cX1_book 50 = .ok (.getfield 85, 3) := dk_180 0 85 (dk_at dksX1_book_2 3 rfl rfl)
theorem dX1_book_53 : decode cX1_book 53 = .ok (.invokevirtual 304, 3) := dk_182 1 48 (dk_at dksX1_book_2 6 rfl rfl)
theorem dX1_book_56 : decode cX1_book 56 = .ok (.astore_n 2, 1) := dk_77 (dk_at dksX1_book_2 9 rfl rfl)
theorem dX1_book_57 : decode cX1_book 57 = .ok (.iconst (-1), 1) := dk_2 (dk_at dksX1_book_2 10 rfl rfl)
theorem dX1_book_58 : decode cX1_book 58 = .ok (.istore_n 3, 1) := dk_62 (dk_at dksX1_book_2 11 rfl rfl)
theorem dX1_book_59 : decode cX1_book 59 = .ok (.iconst 0, 1) := dk_3 (dk_at dksX1_book_2 12 rfl rfl)
theorem dX1_book_60 : decode cX1_book 60 = .ok (.istore 4, 2) := dk_54 4 (dk_at dksX1_book_2 13 rfl rfl)
theorem dX1_book_62 : decode cX1_book 62 = .ok (.iconst 0, 1) := dk_3 (dk_at dksX1_book_2 15 rfl rfl)
theorem dX1_book_63 : decode cX1_book 63 = .ok (.istore 5, 2) := dk_54 5 (dk_at dksX1_book_2 16 rfl rfl)
theorem dX1_book_65 : decode cX1_book 65 = .ok (.iconst 0, 1) := dk_3 (dk_at dksX1_book_2 18 rfl rfl)
theorem dX1_book_66 : decode cX1_book 66 = .ok (.istore 6, 2) := dk_54 6 (dk_at dksX1_book_2 19 rfl rfl)
theorem dX1_book_68 : decode cX1_book 68 = .ok (.iload 6, 2) := dk_21 6 (dk_at dksX1_book_2 21 rfl rfl)
theorem dX1_book_70 : decode cX1_book 70 = .ok (.aload_n 0, 1) := dk_42 (dk_at dksX1_book_2 23 rfl rfl)
theorem dX1_book_71 : decode cX1_book 71 = .ok (.getfield 104, 3) := dk_180 0 104 (dk_at dksX1_book_3 0 rfl rfl)
theorem dX1_book_74 : decode cX1_book 74 = .ok (.getfield 355, 3) := dk_180 1 99 (dk_at dksX1_book_3 3 rfl rfl)
theorem dX1_book_77 : decode cX1_book 77 = .ok (.if_icmp .ge 109, 3) := dk_162 0 109 (dk_at dksX1_book_3 6 rfl rfl)
theorem dX1_book_80 : decode cX1_book 80 = .ok (.iload_n 3, 1) := dk_29 (dk_at dksX1_book_3 9 rfl rfl)
theorem dX1_book_81 : decode cX1_book 81 = .ok (.iconst (-1), 1) := dk_2 (dk_at dksX1_book_3 10 rfl rfl)
theorem dX1_book_82 : decode cX1_book 82 = .ok (.if_icmp .ne 104, 3) := dk_160 0 104 (dk_at dksX1_book_3 11 rfl rfl)
theorem dX1_book_85 : decode cX1_book 85 = .ok (.aload_n 0, 1) := dk_42 (dk_at dksX1_book_3 14 rfl rfl)
theorem dX1_book_86 : decode cX1_book 86 = .ok (.getfield 104, 3) := dk_180 0 104 (dk_at dksX1_book_3 15 rfl rfl)
theorem dX1_book_89 : decode cX1_book 89 = .ok (.getfield 358, 3) := dk_180 1 102 (dk_at dksX1_book_3 18 rfl rfl)
theorem dX1_book_92 : decode cX1_book 92 = .ok (.iload 6, 2) := dk_21 6 (dk_at dksX1_book_3 21 rfl rfl)
theorem dX1_book_94 : decode cX1_book 94 = .ok (.aaload, 1) := dk_50 (dk_at dksX1_book_3 23 rfl rfl)
theorem dX1_book_95 : decode cX1_book 95 = .ok (.astore 7, 2) := dk_58 7 (dk_at dksX1_book_4 0 rfl rfl)
theorem dX1_book_97 : decode cX1_book 97 = .ok (.aload_n 0, 1) := dk_42 (dk_at dksX1_book_4 2 rfl rfl)
theorem dX1_book_98 : decode cX1_book 98 = .ok (.getfield 85, 3) := dk_180 0 85 (dk_at dksX1_book_4 3 rfl rfl)
theorem dX1_book_101 : decode cX1_book 101 = .ok (.aload 7, 2) := dk_25 7 (dk_at dksX1_book_4 6 rfl rfl)
theorem dX1_book_103 : decode cX1_book 103 = .ok (.getfield 361, 3) := dk_180 1 105 (dk_at dksX1_book_4 8 rfl rfl)
theorem dX1_book_106 : decode cX1_book 106 = .ok (.aload 7, 2) := dk_25 7 (dk_at dksX1_book_4 11 rfl rfl)
theorem dX1_book_108 : decode cX1_book 108 = .ok (.getfield 366, 3) := dk_180 1 110 (dk_at dksX1_book_4 13 rfl rfl)
theorem dX1_book_111 : decode cX1_book 111 = .ok (.aload 7, 2) := dk_25 7 (dk_at dksX1_book_4 16 rfl rfl)
theorem dX1_book_113 : decode cX1_book 113 = .ok (.getfield 369, 3) := dk_180 1 113 (dk_at dksX1_book_4 18 rfl rfl)
theorem dX1_book_116 : decode cX1_book 116 = .ok (.aload 7, 2) := dk_25 7 (dk_at dksX1_book_4 21 rfl rfl)
theorem dX1_book_118 : decode cX1_book 118 = .ok (.getfield 372, 3) := dk_180 1 116 (dk_at dksX1_book_5 0 rfl rfl)
theorem dX1_book_121 : decode cX1_book 121 = .ok (.invokevirtual 300, 3) := dk_182 1 44 (dk_at dksX1_book_5 3 rfl rfl)
theorem dX1_book_124 : decode cX1_book 124 = .ok (.istore 4, 2) := dk_54 4 (dk_at dksX1_book_5 6 rfl rfl)
theorem dX1_book_126 : decode cX1_book 126 = .ok (.iload 4, 2) := dk_21 4 (dk_at dksX1_book_5 8 rfl rfl)
theorem dX1_book_128 : decode cX1_book 128 = .ok (.ifCond .eq 22, 3) := dk_153 0 22 (dk_at dksX1_book_5 10 rfl rfl)
theorem dX1_book_131 : decode cX1_book 131 = .ok (.iload 6, 2) := dk_21 6 (dk_at dksX1_book_5 13 rfl rfl)
theorem dX1_book_133 : decode cX1_book 133 = .ok (.istore_n 3, 1) := dk_62 (dk_at dksX1_book_5 15 rfl rfl)
theorem dX1_book_134 : decode cX1_book 134 = .ok (.iload 4, 2) := dk_21 4 (dk_at dksX1_book_5 16 rfl rfl)
theorem dX1_book_136 : decode cX1_book 136 = .ok (.bipush 10, 2) := dk_16 10 (dk_at dksX1_book_5 18 rfl rfl)
theorem dX1_book_138 : decode cX1_book 138 = .ok (.aload 7, 2) := dk_25 7 (dk_at dksX1_book_5 20 rfl rfl)
theorem dX1_book_140 : decode cX1_book 140 = .ok (.getfield 361, 3) := dk_180 1 105 (dk_at dksX1_book_6 0 rfl rfl)
theorem dX1_book_143 : decode cX1_book 143 = .ok (.imul, 1) := dk_104 (dk_at dksX1_book_6 3 rfl rfl)
theorem dX1_book_144 : decode cX1_book 144 = .ok (.iadd, 1) := dk_96 (dk_at dksX1_book_6 4 rfl rfl)
theorem dX1_book_145 : decode cX1_book 145 = .ok (.istore 4, 2) := dk_54 4 (dk_at dksX1_book_6 5 rfl rfl)
theorem dX1_book_147 : decode cX1_book 147 = .ok (.goto 33, 3) := dk_167 0 33 (dk_at dksX1_book_6 7 rfl rfl)
theorem dX1_book_150 : decode cX1_book 150 = .ok (.aload_n 0, 1) := dk_42 (dk_at dksX1_book_6 10 rfl rfl)
theorem dX1_book_151 : decode cX1_book 151 = .ok (.getfield 85, 3) := dk_180 0 85 (dk_at dksX1_book_6 11 rfl rfl)
theorem dX1_book_154 : decode cX1_book 154 = .ok (.aload 7, 2) := dk_25 7 (dk_at dksX1_book_6 14 rfl rfl)
theorem dX1_book_156 : decode cX1_book 156 = .ok (.getfield 361, 3) := dk_180 1 105 (dk_at dksX1_book_6 16 rfl rfl)
theorem dX1_book_159 : decode cX1_book 159 = .ok (.aload 7, 2) := dk_25 7 (dk_at dksX1_book_6 19 rfl rfl)
theorem dX1_book_161 : decode cX1_book 161 = .ok (.getfield 366, 3) := dk_180 1 110 (dk_at dksX1_book_6 21 rfl rfl)
theorem dX1_book_164 : decode cX1_book 164 = .ok (.aload 7, 2) := dk_25 7 (dk_at dksX1_book_7 0 rfl rfl)
theorem dX1_book_166 : decode cX1_book 166 = .ok (.getfield 369, 3) := dk_180 1 113 (dk_at dksX1_book_7 2 rfl rfl)
theorem dX1_book_169 : decode cX1_book 169 = .ok (.aload 7, 2) := dk_25 7 (dk_at dksX1_book_7 5 rfl rfl)
theorem dX1_book_171 : decode cX1_book 171 = .ok (.getfield 372, 3) := dk_180 1 116 (dk_at dksX1_book_7 7 rfl rfl)
theorem dX1_book_174 : decode cX1_book 174 = .ok (.invokevirtual 311, 3) := dk_182 1 55 (dk_at dksX1_book_7 10 rfl rfl)
theorem dX1_book_177 : decode cX1_book 177 = .ok (.iinc 5 1, 3) := dk_132 5 1 (dk_at dksX1_book_7 13 rfl rfl)
theorem dX1_book_180 : decode cX1_book 180 = .ok (.iinc 6 1, 3) := dk_132 6 1 (dk_at dksX1_book_7 16 rfl rfl)
theorem dX1_book_183 : decode cX1_book 183 = .ok (.goto (-115), 3) := dk_167 255 141 (dk_at dksX1_book_7 19 rfl rfl)
theorem dX1_book_186 : decode cX1_book 186 = .ok (.aload_n 0, 1) := dk_42 (dk_at dksX1_book_7 22 rfl rfl)
theorem dX1_book_187 : decode cX1_book 187 = .ok (.getfield 126, 3) := dk_180 0 126 (dk_at dksX1_book_8 0 rfl rfl)
theorem dX1_book_190 : decode cX1_book 190 = .ok (.iconst 0, 1) := dk_3 (dk_at dksX1_book_8 3 rfl rfl)
theorem dX1_book_191 : decode cX1_book 191 = .ok (.iload 4, 2) := dk_21 4 (dk_at dksX1_book_8 4 rfl rfl)
theorem dX1_book_193 : decode cX1_book 193 = .ok (.iastore, 1) := dk_79 (dk_at dksX1_book_8 6 rfl rfl)
theorem dX1_book_194 : decode cX1_book 194 = .ok (.aload_n 0, 1) := dk_42 (dk_at dksX1_book_8 7 rfl rfl)
theorem dX1_book_195 : decode cX1_book 195 = .ok (.getfield 126, 3) := dk_180 0 126 (dk_at dksX1_book_8 8 rfl rfl)
theorem dX1_book_198 : decode cX1_book 198 = .ok (.iconst 1, 1) := dk_4 (dk_at dksX1_book_8 11 rfl rfl)
theorem dX1_book_199 : decode cX1_book 199 = .ok (.iload 5, 2) := dk_21 5 (dk_at dksX1_book_8 12 rfl rfl)
theorem dX1_book_201 : decode cX1_book 201 = .ok (.iastore, 1) := dk_79 (dk_at dksX1_book_8 14 rfl rfl)
theorem dX1_book_202 : decode cX1_book 202 = .ok (.aload_n 0, 1) := dk_42 (dk_at dksX1_book_8 15 rfl rfl)
theorem dX1_book_203 : decode cX1_book 203 = .ok (.getfield 126, 3) := dk_180 0 126 (dk_at dksX1_book_8 16 rfl rfl)
theorem dX1_book_206 : decode cX1_book 206 = .ok (.iconst 2, 1) := dk_5 (dk_at dksX1_book_8 19 rfl rfl)
theorem dX1_book_207 : decode cX1_book 207 = .ok (.aload_n 0, 1) := dk_42 (dk_at dksX1_book_8 20 rfl rfl)
theorem dX1_book_208 : decode cX1_book 208 = .ok (.getfield 85, 3) := dk_180 0 85 (dk_at dksX1_book_8 21 rfl rfl)
theorem dX1_book_211 : decode cX1_book 211 = .ok (.invokevirtual 375, 3) := dk_182 1 119 (dk_at dksX1_book_9 0 rfl rfl)
theorem dX1_book_214 : decode cX1_book 214 = .ok (.iastore, 1) := dk_79 (dk_at dksX1_book_9 3 rfl rfl)
theorem dX1_book_215 : decode cX1_book 215 = .ok (.aload_n 0, 1) := dk_42 (dk_at dksX1_book_9 4 rfl rfl)
theorem dX1_book_216 : decode cX1_book 216 = .ok (.getfield 126, 3) := dk_180 0 126 (dk_at dksX1_book_9 5 rfl rfl)
theorem dX1_book_219 : decode cX1_book 219 = .ok (.iconst 3, 1) := dk_6 (dk_at dksX1_book_9 8 rfl rfl)
theorem dX1_book_220 : decode cX1_book 220 = .ok (.aload_n 0, 1) := dk_42 (dk_at dksX1_book_9 9 rfl rfl)
theorem dX1_book_221 : decode cX1_book 221 = .ok (.getfield 85, 3) := dk_180 0 85 (dk_at dksX1_book_9 10 rfl rfl)
theorem dX1_book_224 : decode cX1_book 224 = .ok (.invokevirtual 329, 3) := dk_182 1 73 (dk_at dksX1_book_9 13 rfl rfl)
theorem dX1_book_227 : decode cX1_book 227 = .ok (.iastore, 1) := dk_79 (dk_at dksX1_book_9 16 rfl rfl)
theorem dX1_book_228 : decode cX1_book 228 = .ok (.aload_n 0, 1) := dk_42 (dk_at dksX1_book_9 17 rfl rfl)
theorem dX1_book_229 : decode cX1_book 229 = .ok (.iconst 1, 1) := dk_4 (dk_at dksX1_book_9 18 rfl rfl)
theorem dX1_book_230 : decode cX1_book 230 = .ok (.putfield 378, 3) := dk_181 1 122 (dk_at dksX1_book_9 19 rfl rfl)
theorem dX1_book_233 : decode cX1_book 233 = .ok (.iload_n 1, 1) := dk_27 (dk_at dksX1_book_9 22 rfl rfl)
theorem dX1_book_234 : decode cX1_book 234 = .ok (.ifCond .ne 14, 3) := dk_154 0 14 (dk_at dksX1_book_10 0 rfl rfl)
theorem dX1_book_237 : decode cX1_book 237 = .ok (.aload_n 0, 1) := dk_42 (dk_at dksX1_book_10 3 rfl rfl)
theorem dX1_book_238 : decode cX1_book 238 = .ok (.getfield 85, 3) := dk_180 0 85 (dk_at dksX1_book_10 4 rfl rfl)
theorem dX1_book_241 : decode cX1_book 241 = .ok (.aload_n 2, 1) := dk_44 (dk_at dksX1_book_10 7 rfl rfl)
theorem dX1_book_242 : decode cX1_book 242 = .ok (.invokevirtual 296, 3) := dk_182 1 40 (dk_at dksX1_book_10 8 rfl rfl)
theorem dX1_book_245 : decode cX1_book 245 = .ok (.goto 13, 3) := dk_167 0 13 (dk_at dksX1_book_10 11 rfl rfl)
theorem dX1_book_248 : decode cX1_book 248 = .ok (.iload 5, 2) := dk_21 5 (dk_at dksX1_book_10 14 rfl rfl)
theorem dX1_book_250 : decode cX1_book 250 = .ok (.ifCond .le 8, 3) := dk_158 0 8 (dk_at dksX1_book_10 16 rfl rfl)
theorem dX1_book_253 : decode cX1_book 253 = .ok (.aload_n 0, 1) := dk_42 (dk_at dksX1_book_10 19 rfl rfl)
theorem dX1_book_254 : decode cX1_book 254 = .ok (.aload_n 2, 1) := dk_44 (dk_at dksX1_book_10 20 rfl rfl)
theorem dX1_book_255 : decode cX1_book 255 = .ok (.invokevirtual 308, 3) := dk_182 1 52 (dk_at dksX1_book_10 21 rfl rfl)
theorem dX1_book_258 : decode cX1_book 258 = .ok (.iload_n 3, 1) := dk_29 (dk_at dksX1_book_11 0 rfl rfl)
theorem dX1_book_259 : decode cX1_book 259 = .ok (.ireturn, 1) := dk_172 (dk_at dksX1_book_11 1 rfl rfl)
abbrev cX1_told : ByteArray := prog_1_method_58_code
def yX1_told : MethodName := ⟨RX1, "told", "(I)I"⟩
def dkwX1_told_1 : List UInt8 := [167, 0, 4, 2, 172]
abbrev dktX1_told_1 : List UInt8 := dkwX1_told_1 ++ []
def dkwX1_told_0 : List UInt8 := [42, 180, 1, 122, 153, 0, 21, 27, 3, 6, 184, 0, 182, 153, 0, 12, 42, 180, 0, 126, 27, 46]
abbrev dktX1_told_0 : List UInt8 := dkwX1_told_0 ++ dktX1_told_1
theorem dksX1_told_0 : cX1_told.data.toList.drop 0 = dktX1_told_0 := by decide +kernel
theorem dksX1_told_1 : cX1_told.data.toList.drop 22 = dktX1_told_1 := dk_seg dksX1_told_0 22 rfl rfl
theorem dX1_told_0 : decode cX1_told 0 = .ok (.aload_n 0, 1) := dk_42 (dk_at dksX1_told_0 0 rfl rfl)
theorem dX1_told_1 : decode cX1_told 1 = .ok (.getfield 378, 3) := dk_180 1 122 (dk_at dksX1_told_0 1 rfl rfl)
theorem dX1_told_4 : decode cX1_told 4 = .ok (.ifCond .eq 21, 3) := dk_153 0 21 (dk_at dksX1_told_0 4 rfl rfl)
theorem dX1_told_7 : decode cX1_told 7 = .ok (.iload_n 1, 1) := dk_27 (dk_at dksX1_told_0 7 rfl rfl)
theorem dX1_told_8 : decode cX1_told 8 = .ok (.iconst 0, 1) := dk_3 (dk_at dksX1_told_0 8 rfl rfl)
theorem dX1_told_9 : decode cX1_told 9 = .ok (.iconst 3, 1) := dk_6 (dk_at dksX1_told_0 9 rfl rfl)
theorem dX1_told_10 : decode cX1_told 10 = .ok (.invokestatic 182, 3) := dk_184 0 182 (dk_at dksX1_told_0 10 rfl rfl)
theorem dX1_told_13 : decode cX1_told 13 = .ok (.ifCond .eq 12, 3) := dk_153 0 12 (dk_at dksX1_told_0 13 rfl rfl)
theorem dX1_told_16 : decode cX1_told 16 = .ok (.aload_n 0, 1) := dk_42 (dk_at dksX1_told_0 16 rfl rfl)
theorem dX1_told_17 : decode cX1_told 17 = .ok (.getfield 126, 3) := dk_180 0 126 (dk_at dksX1_told_0 17 rfl rfl)
theorem dX1_told_20 : decode cX1_told 20 = .ok (.iload_n 1, 1) := dk_27 (dk_at dksX1_told_0 20 rfl rfl)
theorem dX1_told_21 : decode cX1_told 21 = .ok (.iaload, 1) := dk_46 (dk_at dksX1_told_0 21 rfl rfl)
theorem dX1_told_22 : decode cX1_told 22 = .ok (.goto 4, 3) := dk_167 0 4 (dk_at dksX1_told_1 0 rfl rfl)
theorem dX1_told_25 : decode cX1_told 25 = .ok (.iconst (-1), 1) := dk_2 (dk_at dksX1_told_1 3 rfl rfl)
theorem dX1_told_26 : decode cX1_told 26 = .ok (.ireturn, 1) := dk_172 (dk_at dksX1_told_1 4 rfl rfl)
abbrev cX1_sentence : ByteArray := prog_1_method_59_code
def yX1_sentence : MethodName := ⟨RX1, "sentence", "()I"⟩
def dkwX1_sentence_1 : List UInt8 := [180, 1, 129, 172, 76, 42, 43, 180, 0, 176, 181, 0, 158, 2, 43, 180, 0, 179, 100, 172]
abbrev dktX1_sentence_1 : List UInt8 := dkwX1_sentence_1 ++ []
def dkwX1_sentence_0 : List UInt8 := [42, 182, 0, 155, 42, 3, 181, 0, 158, 42, 42, 180, 0, 132, 182, 1, 126, 181, 0, 172, 42, 180, 0, 132]
abbrev dktX1_sentence_0 : List UInt8 := dkwX1_sentence_0 ++ dktX1_sentence_1
theorem dksX1_sentence_0 : cX1_sentence.data.toList.drop 0 = dktX1_sentence_0 := by decide +kernel
theorem dksX1_sentence_1 : cX1_sentence.data.toList.drop 24 = dktX1_sentence_1 := dk_seg dksX1_sentence_0 24 rfl rfl
theorem dX1_sentence_0 : decode cX1_sentence 0 = .ok (.aload_n 0, 1) := dk_42 (dk_at dksX1_sentence_0 0 rfl rfl)
theorem dX1_sentence_1 : decode cX1_sentence 1 = .ok (.invokevirtual 155, 3) := dk_182 0 155 (dk_at dksX1_sentence_0 1 rfl rfl)
theorem dX1_sentence_4 : decode cX1_sentence 4 = .ok (.aload_n 0, 1) := dk_42 (dk_at dksX1_sentence_0 4 rfl rfl)
theorem dX1_sentence_5 : decode cX1_sentence 5 = .ok (.iconst 0, 1) := dk_3 (dk_at dksX1_sentence_0 5 rfl rfl)
theorem dX1_sentence_6 : decode cX1_sentence 6 = .ok (.putfield 158, 3) := dk_181 0 158 (dk_at dksX1_sentence_0 6 rfl rfl)
theorem dX1_sentence_9 : decode cX1_sentence 9 = .ok (.aload_n 0, 1) := dk_42 (dk_at dksX1_sentence_0 9 rfl rfl)
theorem dX1_sentence_10 : decode cX1_sentence 10 = .ok (.aload_n 0, 1) := dk_42 (dk_at dksX1_sentence_0 10 rfl rfl)
theorem dX1_sentence_11 : decode cX1_sentence 11 = .ok (.getfield 132, 3) := dk_180 0 132 (dk_at dksX1_sentence_0 11 rfl rfl)
theorem dX1_sentence_14 : decode cX1_sentence 14 = .ok (.invokevirtual 382, 3) := dk_182 1 126 (dk_at dksX1_sentence_0 14 rfl rfl)
theorem dX1_sentence_17 : decode cX1_sentence 17 = .ok (.putfield 172, 3) := dk_181 0 172 (dk_at dksX1_sentence_0 17 rfl rfl)
theorem dX1_sentence_20 : decode cX1_sentence 20 = .ok (.aload_n 0, 1) := dk_42 (dk_at dksX1_sentence_0 20 rfl rfl)
theorem dX1_sentence_21 : decode cX1_sentence 21 = .ok (.getfield 132, 3) := dk_180 0 132 (dk_at dksX1_sentence_0 21 rfl rfl)
theorem dX1_sentence_24 : decode cX1_sentence 24 = .ok (.getfield 385, 3) := dk_180 1 129 (dk_at dksX1_sentence_1 0 rfl rfl)
theorem dX1_sentence_27 : decode cX1_sentence 27 = .ok (.ireturn, 1) := dk_172 (dk_at dksX1_sentence_1 3 rfl rfl)
theorem dX1_sentence_28 : decode cX1_sentence 28 = .ok (.astore_n 1, 1) := dk_76 (dk_at dksX1_sentence_1 4 rfl rfl)
theorem dX1_sentence_29 : decode cX1_sentence 29 = .ok (.aload_n 0, 1) := dk_42 (dk_at dksX1_sentence_1 5 rfl rfl)
theorem dX1_sentence_30 : decode cX1_sentence 30 = .ok (.aload_n 1, 1) := dk_43 (dk_at dksX1_sentence_1 6 rfl rfl)
theorem dX1_sentence_31 : decode cX1_sentence 31 = .ok (.getfield 176, 3) := dk_180 0 176 (dk_at dksX1_sentence_1 7 rfl rfl)
theorem dX1_sentence_34 : decode cX1_sentence 34 = .ok (.putfield 158, 3) := dk_181 0 158 (dk_at dksX1_sentence_1 10 rfl rfl)
theorem dX1_sentence_37 : decode cX1_sentence 37 = .ok (.iconst (-1), 1) := dk_2 (dk_at dksX1_sentence_1 13 rfl rfl)
theorem dX1_sentence_38 : decode cX1_sentence 38 = .ok (.aload_n 1, 1) := dk_43 (dk_at dksX1_sentence_1 14 rfl rfl)
theorem dX1_sentence_39 : decode cX1_sentence 39 = .ok (.getfield 179, 3) := dk_180 0 179 (dk_at dksX1_sentence_1 15 rfl rfl)
theorem dX1_sentence_42 : decode cX1_sentence 42 = .ok (.isub, 1) := dk_100 (dk_at dksX1_sentence_1 18 rfl rfl)
theorem dX1_sentence_43 : decode cX1_sentence 43 = .ok (.ireturn, 1) := dk_172 (dk_at dksX1_sentence_1 19 rfl rfl)
abbrev cX1_said : ByteArray := prog_1_method_60_code
def yX1_said : MethodName := ⟨RX1, "said", "(I)I"⟩
def dkwX1_said_3 : List UInt8 := [2, 172]
abbrev dktX1_said_3 : List UInt8 := dkwX1_said_3 ++ []
def dkwX1_said_2 : List UInt8 := [27, 160, 0, 5, 29, 172, 132, 2, 1, 132, 3, 1, 167, 255, 215, 27, 2, 160, 0, 7, 28, 167, 0, 4]
abbrev dktX1_said_2 : List UInt8 := dkwX1_said_2 ++ dktX1_said_3
def dkwX1_said_1 : List UInt8 := [180, 0, 165, 162, 0, 36, 42, 180, 0, 172, 42, 29, 185, 1, 132, 3, 0, 154, 0, 6, 167, 0, 13, 28]
abbrev dktX1_said_1 : List UInt8 := dkwX1_said_1 ++ dktX1_said_2
def dkwX1_said_0 : List UInt8 := [42, 180, 0, 172, 198, 0, 8, 27, 2, 162, 0, 5, 2, 172, 3, 61, 3, 62, 29, 42, 180, 0, 78]
abbrev dktX1_said_0 : List UInt8 := dkwX1_said_0 ++ dktX1_said_1
theorem dksX1_said_0 : cX1_said.data.toList.drop 0 = dktX1_said_0 := by decide +kernel
theorem dksX1_said_1 : cX1_said.data.toList.drop 23 = dktX1_said_1 := dk_seg dksX1_said_0 23 rfl rfl
theorem dksX1_said_2 : cX1_said.data.toList.drop 47 = dktX1_said_2 := dk_seg dksX1_said_1 24 rfl rfl
theorem dksX1_said_3 : cX1_said.data.toList.drop 71 = dktX1_said_3 := dk_seg dksX1_said_2 24 rfl rfl
theorem dX1_said_0 : decode cX1_said 0 = .ok (.aload_n 0, 1) := dk_42 (dk_at dksX1_said_0 0 rfl rfl)
theorem dX1_said_1 : decode cX1_said 1 = .ok (.getfield 172, 3) := dk_180 0 172 (dk_at dksX1_said_0 1 rfl rfl)
theorem dX1_said_4 : decode cX1_said 4 = .ok (.ifnull 8, 3) := dk_198 0 8 (dk_at dksX1_said_0 4 rfl rfl)
theorem dX1_said_7 : decode cX1_said 7 = .ok (.iload_n 1, 1) := dk_27 (dk_at dksX1_said_0 7 rfl rfl)
theorem dX1_said_8 : decode cX1_said 8 = .ok (.iconst (-1), 1) := dk_2 (dk_at dksX1_said_0 8 rfl rfl)
theorem dX1_said_9 : decode cX1_said 9 = .ok (.if_icmp .ge 5, 3) := dk_162 0 5 (dk_at dksX1_said_0 9 rfl rfl)
theorem dX1_said_12 : decode cX1_said 12 = .ok (.iconst (-1), 1) := dk_2 (dk_at dksX1_said_0 12 rfl rfl)
theorem dX1_said_13 : decode cX1_said 13 = .ok (.ireturn, 1) := dk_172 (dk_at dksX1_said_0 13 rfl rfl)
theorem dX1_said_14 : decode cX1_said 14 = .ok (.iconst 0, 1) := dk_3 (dk_at dksX1_said_0 14 rfl rfl)
theorem dX1_said_15 : decode cX1_said 15 = .ok (.istore_n 2, 1) := dk_61 (dk_at dksX1_said_0 15 rfl rfl)
theorem dX1_said_16 : decode cX1_said 16 = .ok (.iconst 0, 1) := dk_3 (dk_at dksX1_said_0 16 rfl rfl)
theorem dX1_said_17 : decode cX1_said 17 = .ok (.istore_n 3, 1) := dk_62 (dk_at dksX1_said_0 17 rfl rfl)
theorem dX1_said_18 : decode cX1_said 18 = .ok (.iload_n 3, 1) := dk_29 (dk_at dksX1_said_0 18 rfl rfl)
theorem dX1_said_19 : decode cX1_said 19 = .ok (.aload_n 0, 1) := dk_42 (dk_at dksX1_said_0 19 rfl rfl)
theorem dX1_said_20 : decode cX1_said 20 = .ok (.getfield 78, 3) := dk_180 0 78 (dk_at dksX1_said_0 20 rfl rfl)
theorem dX1_said_23 : decode cX1_said 23 = .ok (.getfield 165, 3) := dk_180 0 165 (dk_at dksX1_said_1 0 rfl rfl)
theorem dX1_said_26 : decode cX1_said 26 = .ok (.if_icmp .ge 36, 3) := dk_162 0 36 (dk_at dksX1_said_1 3 rfl rfl)
theorem dX1_said_29 : decode cX1_said 29 = .ok (.aload_n 0, 1) := dk_42 (dk_at dksX1_said_1 6 rfl rfl)
theorem dX1_said_30 : decode cX1_said 30 = .ok (.getfield 172, 3) := dk_180 0 172 (dk_at dksX1_said_1 7 rfl rfl)
theorem dX1_said_33 : decode cX1_said 33 = .ok (.aload_n 0, 1) := dk_42 (dk_at dksX1_said_1 10 rfl rfl)
theorem dX1_said_34 : decode cX1_said 34 = .ok (.iload_n 3, 1) := dk_29 (dk_at dksX1_said_1 11 rfl rfl)
theorem dX1_said_35 : decode cX1_said 35 = .ok (.invokeinterface 388 3, 5) := by decide +kernel
theorem dX1_said_40 : decode cX1_said 40 = .ok (.ifCond .ne 6, 3) := dk_154 0 6 (dk_at dksX1_said_1 17 rfl rfl)
theorem dX1_said_43 : decode cX1_said 43 = .ok (.goto 13, 3) := dk_167 0 13 (dk_at dksX1_said_1 20 rfl rfl)
theorem dX1_said_46 : decode cX1_said 46 = .ok (.iload_n 2, 1) := dk_28 (dk_at dksX1_said_1 23 rfl rfl)
theorem dX1_said_47 : decode cX1_said 47 = .ok (.iload_n 1, 1) := dk_27 (dk_at dksX1_said_2 0 rfl rfl)
theorem dX1_said_48 : decode cX1_said 48 = .ok (.if_icmp .ne 5, 3) := dk_160 0 5 (dk_at dksX1_said_2 1 rfl rfl)
theorem dX1_said_51 : decode cX1_said 51 = .ok (.iload_n 3, 1) := dk_29 (dk_at dksX1_said_2 4 rfl rfl)
theorem dX1_said_52 : decode cX1_said 52 = .ok (.ireturn, 1) := dk_172 (dk_at dksX1_said_2 5 rfl rfl)
theorem dX1_said_53 : decode cX1_said 53 = .ok (.iinc 2 1, 3) := dk_132 2 1 (dk_at dksX1_said_2 6 rfl rfl)
theorem dX1_said_56 : decode cX1_said 56 = .ok (.iinc 3 1, 3) := dk_132 3 1 (dk_at dksX1_said_2 9 rfl rfl)
theorem dX1_said_59 : decode cX1_said 59 = .ok (.goto (-41), 3) := dk_167 255 215 (dk_at dksX1_said_2 12 rfl rfl)
theorem dX1_said_62 : decode cX1_said 62 = .ok (.iload_n 1, 1) := dk_27 (dk_at dksX1_said_2 15 rfl rfl)
theorem dX1_said_63 : decode cX1_said 63 = .ok (.iconst (-1), 1) := dk_2 (dk_at dksX1_said_2 16 rfl rfl)
theorem dX1_said_64 : decode cX1_said 64 = .ok (.if_icmp .ne 7, 3) := dk_160 0 7 (dk_at dksX1_said_2 17 rfl rfl)
theorem dX1_said_67 : decode cX1_said 67 = .ok (.iload_n 2, 1) := dk_28 (dk_at dksX1_said_2 20 rfl rfl)
theorem dX1_said_68 : decode cX1_said 68 = .ok (.goto 4, 3) := dk_167 0 4 (dk_at dksX1_said_2 21 rfl rfl)
theorem dX1_said_71 : decode cX1_said 71 = .ok (.iconst (-1), 1) := dk_2 (dk_at dksX1_said_3 0 rfl rfl)
theorem dX1_said_72 : decode cX1_said 72 = .ok (.ireturn, 1) := dk_172 (dk_at dksX1_said_3 1 rfl rfl)
abbrev cX1_image : ByteArray := prog_1_method_61_code
def yX1_image : MethodName := ⟨RX1, "image", "(I)Z"⟩
def dkwX1_image_2 : List UInt8 := [44, 42, 180, 0, 85, 182, 1, 48, 181, 1, 140, 44, 42, 180, 0, 172, 181, 1, 142, 4, 172]
abbrev dktX1_image_2 : List UInt8 := dkwX1_image_2 ++ []
def dkwX1_image_1 : List UInt8 := [27, 187, 0, 136, 89, 183, 1, 138, 83, 42, 180, 0, 138, 27, 50, 77, 44, 42, 180, 0, 78, 181, 1, 139]
abbrev dktX1_image_1 : List UInt8 := dkwX1_image_1 ++ dktX1_image_2
def dkwX1_image_0 : List UInt8 := [27, 3, 4, 184, 0, 182, 154, 0, 5, 3, 172, 42, 180, 0, 138, 27, 50, 199, 0, 16, 42, 180, 0, 138]
abbrev dktX1_image_0 : List UInt8 := dkwX1_image_0 ++ dktX1_image_1
theorem dksX1_image_0 : cX1_image.data.toList.drop 0 = dktX1_image_0 := by decide +kernel
theorem dksX1_image_1 : cX1_image.data.toList.drop 24 = dktX1_image_1 := dk_seg dksX1_image_0 24 rfl rfl
theorem dksX1_image_2 : cX1_image.data.toList.drop 48 = dktX1_image_2 := dk_seg dksX1_image_1 24 rfl rfl
theorem dX1_image_0 : decode cX1_image 0 = .ok (.iload_n 1, 1) := dk_27 (dk_at dksX1_image_0 0 rfl rfl)
theorem dX1_image_1 : decode cX1_image 1 = .ok (.iconst 0, 1) := dk_3 (dk_at dksX1_image_0 1 rfl rfl)
theorem dX1_image_2 : decode cX1_image 2 = .ok (.iconst 1, 1) := dk_4 (dk_at dksX1_image_0 2 rfl rfl)
theorem dX1_image_3 : decode cX1_image 3 = .ok (.invokestatic 182, 3) := dk_184 0 182 (dk_at dksX1_image_0 3 rfl rfl)
theorem dX1_image_6 : decode cX1_image 6 = .ok (.ifCond .ne 5, 3) := dk_154 0 5 (dk_at dksX1_image_0 6 rfl rfl)
theorem dX1_image_9 : decode cX1_image 9 = .ok (.iconst 0, 1) := dk_3 (dk_at dksX1_image_0 9 rfl rfl)
theorem dX1_image_10 : decode cX1_image 10 = .ok (.ireturn, 1) := dk_172 (dk_at dksX1_image_0 10 rfl rfl)
theorem dX1_image_11 : decode cX1_image 11 = .ok (.aload_n 0, 1) := dk_42 (dk_at dksX1_image_0 11 rfl rfl)
theorem dX1_image_12 : decode cX1_image 12 = .ok (.getfield 138, 3) := dk_180 0 138 (dk_at dksX1_image_0 12 rfl rfl)
theorem dX1_image_15 : decode cX1_image 15 = .ok (.iload_n 1, 1) := dk_27 (dk_at dksX1_image_0 15 rfl rfl)
theorem dX1_image_16 : decode cX1_image 16 = .ok (.aaload, 1) := dk_50 (dk_at dksX1_image_0 16 rfl rfl)
theorem dX1_image_17 : decode cX1_image 17 = .ok (.ifnonnull 16, 3) := dk_199 0 16 (dk_at dksX1_image_0 17 rfl rfl)
theorem dX1_image_20 : decode cX1_image 20 = .ok (.aload_n 0, 1) := dk_42 (dk_at dksX1_image_0 20 rfl rfl)
theorem dX1_image_21 : decode cX1_image 21 = .ok (.getfield 138, 3) := dk_180 0 138 (dk_at dksX1_image_0 21 rfl rfl)
theorem dX1_image_24 : decode cX1_image 24 = .ok (.iload_n 1, 1) := dk_27 (dk_at dksX1_image_1 0 rfl rfl)
theorem dX1_image_25 : decode cX1_image 25 = .ok (.new 136, 3) := dk_187 0 136 (dk_at dksX1_image_1 1 rfl rfl)
theorem dX1_image_28 : decode cX1_image 28 = .ok (.dup, 1) := dk_89 (dk_at dksX1_image_1 4 rfl rfl)
theorem dX1_image_29 : decode cX1_image 29 = .ok (.invokespecial 394, 3) := dk_183 1 138 (dk_at dksX1_image_1 5 rfl rfl)
theorem dX1_image_32 : decode cX1_image 32 = .ok (.aastore, 1) := dk_83 (dk_at dksX1_image_1 8 rfl rfl)
theorem dX1_image_33 : decode cX1_image 33 = .ok (.aload_n 0, 1) := dk_42 (dk_at dksX1_image_1 9 rfl rfl)
theorem dX1_image_34 : decode cX1_image 34 = .ok (.getfield 138, 3) := dk_180 0 138 (dk_at dksX1_image_1 10 rfl rfl)
theorem dX1_image_37 : decode cX1_image 37 = .ok (.iload_n 1, 1) := dk_27 (dk_at dksX1_image_1 13 rfl rfl)
theorem dX1_image_38 : decode cX1_image 38 = .ok (.aaload, 1) := dk_50 (dk_at dksX1_image_1 14 rfl rfl)
theorem dX1_image_39 : decode cX1_image 39 = .ok (.astore_n 2, 1) := dk_77 (dk_at dksX1_image_1 15 rfl rfl)
theorem dX1_image_40 : decode cX1_image 40 = .ok (.aload_n 2, 1) := dk_44 (dk_at dksX1_image_1 16 rfl rfl)
theorem dX1_image_41 : decode cX1_image 41 = .ok (.aload_n 0, 1) := dk_42 (dk_at dksX1_image_1 17 rfl rfl)
theorem dX1_image_42 : decode cX1_image 42 = .ok (.getfield 78, 3) := dk_180 0 78 (dk_at dksX1_image_1 18 rfl rfl)
theorem dX1_image_45 : decode cX1_image 45 = .ok (.putfield 395, 3) := dk_181 1 139 (dk_at dksX1_image_1 21 rfl rfl)
theorem dX1_image_48 : decode cX1_image 48 = .ok (.aload_n 2, 1) := dk_44 (dk_at dksX1_image_2 0 rfl rfl)
theorem dX1_image_49 : decode cX1_image 49 = .ok (.aload_n 0, 1) := dk_42 (dk_at dksX1_image_2 1 rfl rfl)
theorem dX1_image_50 : decode cX1_image 50 = .ok (.getfield 85, 3) := dk_180 0 85 (dk_at dksX1_image_2 2 rfl rfl)
theorem dX1_image_53 : decode cX1_image 53 = .ok (.invokevirtual 304, 3) := dk_182 1 48 (dk_at dksX1_image_2 5 rfl rfl)
theorem dX1_image_56 : decode cX1_image 56 = .ok (.putfield 396, 3) := dk_181 1 140 (dk_at dksX1_image_2 8 rfl rfl)
theorem dX1_image_59 : decode cX1_image 59 = .ok (.aload_n 2, 1) := dk_44 (dk_at dksX1_image_2 11 rfl rfl)
theorem dX1_image_60 : decode cX1_image 60 = .ok (.aload_n 0, 1) := dk_42 (dk_at dksX1_image_2 12 rfl rfl)
theorem dX1_image_61 : decode cX1_image 61 = .ok (.getfield 172, 3) := dk_180 0 172 (dk_at dksX1_image_2 13 rfl rfl)
theorem dX1_image_64 : decode cX1_image 64 = .ok (.putfield 398, 3) := dk_181 1 142 (dk_at dksX1_image_2 16 rfl rfl)
theorem dX1_image_67 : decode cX1_image 67 = .ok (.iconst 1, 1) := dk_4 (dk_at dksX1_image_2 19 rfl rfl)
theorem dX1_image_68 : decode cX1_image 68 = .ok (.ireturn, 1) := dk_172 (dk_at dksX1_image_2 20 rfl rfl)
abbrev cX1_restore : ByteArray := prog_1_method_62_code
def yX1_restore : MethodName := ⟨RX1, "restore", "(I)Z"⟩
def dkwX1_restore_4 : List UInt8 := [42, 44, 180, 1, 142, 181, 0, 172, 42, 3, 181, 0, 169, 4, 172]
abbrev dktX1_restore_4 : List UInt8 := dkwX1_restore_4 ++ []
def dkwX1_restore_3 : List UInt8 := [180, 1, 140, 21, 4, 50, 182, 1, 145, 83, 132, 4, 1, 167, 255, 232, 42, 180, 0, 85, 45, 182, 1, 40]
abbrev dktX1_restore_3 : List UInt8 := dkwX1_restore_3 ++ dktX1_restore_4
def dkwX1_restore_2 : List UInt8 := [180, 1, 140, 190, 189, 1, 143, 78, 3, 54, 4, 21, 4, 45, 190, 162, 0, 23, 45, 21, 4, 44]
abbrev dktX1_restore_2 : List UInt8 := dkwX1_restore_2 ++ dktX1_restore_3
def dkwX1_restore_1 : List UInt8 := [27, 50, 77, 42, 44, 180, 1, 139, 181, 0, 78, 42, 180, 0, 85, 42, 180, 0, 78, 182, 0, 108, 44]
abbrev dktX1_restore_1 : List UInt8 := dkwX1_restore_1 ++ dktX1_restore_2
def dkwX1_restore_0 : List UInt8 := [27, 3, 4, 184, 0, 182, 153, 0, 12, 42, 180, 0, 138, 27, 50, 199, 0, 5, 3, 172, 42, 180, 0, 138]
abbrev dktX1_restore_0 : List UInt8 := dkwX1_restore_0 ++ dktX1_restore_1
theorem dksX1_restore_0 : cX1_restore.data.toList.drop 0 = dktX1_restore_0 := by decide +kernel
theorem dksX1_restore_1 : cX1_restore.data.toList.drop 24 = dktX1_restore_1 := dk_seg dksX1_restore_0 24 rfl rfl
theorem dksX1_restore_2 : cX1_restore.data.toList.drop 47 = dktX1_restore_2 := dk_seg dksX1_restore_1 23 rfl rfl
theorem dksX1_restore_3 : cX1_restore.data.toList.drop 69 = dktX1_restore_3 := dk_seg dksX1_restore_2 22 rfl rfl
theorem dksX1_restore_4 : cX1_restore.data.toList.drop 93 = dktX1_restore_4 := dk_seg dksX1_restore_3 24 rfl rfl
theorem dX1_restore_0 : decode cX1_restore 0 = .ok (.iload_n 1, 1) := dk_27 (dk_at dksX1_restore_0 0 rfl rfl)
theorem dX1_restore_1 : decode cX1_restore 1 = .ok (.iconst 0, 1) := dk_3 (dk_at dksX1_restore_0 1 rfl rfl)
theorem dX1_restore_2 : decode cX1_restore 2 = .ok (.iconst 1, 1) := dk_4 (dk_at dksX1_restore_0 2 rfl rfl)
theorem dX1_restore_3 : decode cX1_restore 3 = .ok (.invokestatic 182, 3) := dk_184 0 182 (dk_at dksX1_restore_0 3 rfl rfl)
theorem dX1_restore_6 : decode cX1_restore 6 = .ok (.ifCond .eq 12, 3) := dk_153 0 12 (dk_at dksX1_restore_0 6 rfl rfl)
theorem dX1_restore_9 : decode cX1_restore 9 = .ok (.aload_n 0, 1) := dk_42 (dk_at dksX1_restore_0 9 rfl rfl)
theorem dX1_restore_10 : decode cX1_restore 10 = .ok (.getfield 138, 3) := dk_180 0 138 (dk_at dksX1_restore_0 10 rfl rfl)
theorem dX1_restore_13 : decode cX1_restore 13 = .ok (.iload_n 1, 1) := dk_27 (dk_at dksX1_restore_0 13 rfl rfl)
theorem dX1_restore_14 : decode cX1_restore 14 = .ok (.aaload, 1) := dk_50 (dk_at dksX1_restore_0 14 rfl rfl)
theorem dX1_restore_15 : decode cX1_restore 15 = .ok (.ifnonnull 5, 3) := dk_199 0 5 (dk_at dksX1_restore_0 15 rfl rfl)
theorem dX1_restore_18 : decode cX1_restore 18 = .ok (.iconst 0, 1) := dk_3 (dk_at dksX1_restore_0 18 rfl rfl)
theorem dX1_restore_19 : decode cX1_restore 19 = .ok (.ireturn, 1) := dk_172 (dk_at dksX1_restore_0 19 rfl rfl)
theorem dX1_restore_20 : decode cX1_restore 20 = .ok (.aload_n 0, 1) := dk_42 (dk_at dksX1_restore_0 20 rfl rfl)
theorem dX1_restore_21 : decode cX1_restore 21 = .ok (.getfield 138, 3) := dk_180 0 138 (dk_at dksX1_restore_0 21 rfl rfl)
theorem dX1_restore_24 : decode cX1_restore 24 = .ok (.iload_n 1, 1) := dk_27 (dk_at dksX1_restore_1 0 rfl rfl)
theorem dX1_restore_25 : decode cX1_restore 25 = .ok (.aaload, 1) := dk_50 (dk_at dksX1_restore_1 1 rfl rfl)
theorem dX1_restore_26 : decode cX1_restore 26 = .ok (.astore_n 2, 1) := dk_77 (dk_at dksX1_restore_1 2 rfl rfl)
theorem dX1_restore_27 : decode cX1_restore 27 = .ok (.aload_n 0, 1) := dk_42 (dk_at dksX1_restore_1 3 rfl rfl)
theorem dX1_restore_28 : decode cX1_restore 28 = .ok (.aload_n 2, 1) := dk_44 (dk_at dksX1_restore_1 4 rfl rfl)
theorem dX1_restore_29 : decode cX1_restore 29 = .ok (.getfield 395, 3) := dk_180 1 139 (dk_at dksX1_restore_1 5 rfl rfl)
theorem dX1_restore_32 : decode cX1_restore 32 = .ok (.putfield 78, 3) := dk_181 0 78 (dk_at dksX1_restore_1 8 rfl rfl)
theorem dX1_restore_35 : decode cX1_restore 35 = .ok (.aload_n 0, 1) := dk_42 (dk_at dksX1_restore_1 11 rfl rfl)
theorem dX1_restore_36 : decode cX1_restore 36 = .ok (.getfield 85, 3) := dk_180 0 85 (dk_at dksX1_restore_1 12 rfl rfl)
theorem dX1_restore_39 : decode cX1_restore 39 = .ok (.aload_n 0, 1) := dk_42 (dk_at dksX1_restore_1 15 rfl rfl)
theorem dX1_restore_40 : decode cX1_restore 40 = .ok (.getfield 78, 3) := dk_180 0 78 (dk_at dksX1_restore_1 16 rfl rfl)
theorem dX1_restore_43 : decode cX1_restore 43 = .ok (.invokevirtual 108, 3) := dk_182 0 108 (dk_at dksX1_restore_1 19 rfl rfl)
theorem dX1_restore_46 : decode cX1_restore 46 = .ok (.aload_n 2, 1) := dk_44 (dk_at dksX1_restore_1 22 rfl rfl)
theorem dX1_restore_47 : decode cX1_restore 47 = .ok (.getfield 396, 3) := dk_180 1 140 (dk_at dksX1_restore_2 0 rfl rfl)
theorem dX1_restore_50 : decode cX1_restore 50 = .ok (.arraylength, 1) := dk_190 (dk_at dksX1_restore_2 3 rfl rfl)
theorem dX1_restore_51 : decode cX1_restore 51 = .ok (.anewarray 399, 3) := dk_189 1 143 (dk_at dksX1_restore_2 4 rfl rfl)
theorem dX1_restore_54 : decode cX1_restore 54 = .ok (.astore_n 3, 1) := dk_78 (dk_at dksX1_restore_2 7 rfl rfl)
theorem dX1_restore_55 : decode cX1_restore 55 = .ok (.iconst 0, 1) := dk_3 (dk_at dksX1_restore_2 8 rfl rfl)
theorem dX1_restore_56 : decode cX1_restore 56 = .ok (.istore 4, 2) := dk_54 4 (dk_at dksX1_restore_2 9 rfl rfl)
theorem dX1_restore_58 : decode cX1_restore 58 = .ok (.iload 4, 2) := dk_21 4 (dk_at dksX1_restore_2 11 rfl rfl)
theorem dX1_restore_60 : decode cX1_restore 60 = .ok (.aload_n 3, 1) := dk_45 (dk_at dksX1_restore_2 13 rfl rfl)
theorem dX1_restore_61 : decode cX1_restore 61 = .ok (.arraylength, 1) := dk_190 (dk_at dksX1_restore_2 14 rfl rfl)
theorem dX1_restore_62 : decode cX1_restore 62 = .ok (.if_icmp .ge 23, 3) := dk_162 0 23 (dk_at dksX1_restore_2 15 rfl rfl)
theorem dX1_restore_65 : decode cX1_restore 65 = .ok (.aload_n 3, 1) := dk_45 (dk_at dksX1_restore_2 18 rfl rfl)
theorem dX1_restore_66 : decode cX1_restore 66 = .ok (.iload 4, 2) := dk_21 4 (dk_at dksX1_restore_2 19 rfl rfl)
theorem dX1_restore_68 : decode cX1_restore 68 = .ok (.aload_n 2, 1) := dk_44 (dk_at dksX1_restore_2 21 rfl rfl)
theorem dX1_restore_69 : decode cX1_restore 69 = .ok (.getfield 396, 3) := dk_180 1 140 (dk_at dksX1_restore_3 0 rfl rfl)
theorem dX1_restore_72 : decode cX1_restore 72 = .ok (.iload 4, 2) := dk_21 4 (dk_at dksX1_restore_3 3 rfl rfl)
theorem dX1_restore_74 : decode cX1_restore 74 = .ok (.aaload, 1) := dk_50 (dk_at dksX1_restore_3 5 rfl rfl)
theorem dX1_restore_75 : decode cX1_restore 75 = .ok (.invokevirtual 401, 3) := dk_182 1 145 (dk_at dksX1_restore_3 6 rfl rfl)
theorem dX1_restore_78 : decode cX1_restore 78 = .ok (.aastore, 1) := dk_83 (dk_at dksX1_restore_3 9 rfl rfl)
theorem dX1_restore_79 : decode cX1_restore 79 = .ok (.iinc 4 1, 3) := dk_132 4 1 (dk_at dksX1_restore_3 10 rfl rfl)
theorem dX1_restore_82 : decode cX1_restore 82 = .ok (.goto (-24), 3) := dk_167 255 232 (dk_at dksX1_restore_3 13 rfl rfl)
theorem dX1_restore_85 : decode cX1_restore 85 = .ok (.aload_n 0, 1) := dk_42 (dk_at dksX1_restore_3 16 rfl rfl)
theorem dX1_restore_86 : decode cX1_restore 86 = .ok (.getfield 85, 3) := dk_180 0 85 (dk_at dksX1_restore_3 17 rfl rfl)
theorem dX1_restore_89 : decode cX1_restore 89 = .ok (.aload_n 3, 1) := dk_45 (dk_at dksX1_restore_3 20 rfl rfl)
theorem dX1_restore_90 : decode cX1_restore 90 = .ok (.invokevirtual 296, 3) := dk_182 1 40 (dk_at dksX1_restore_3 21 rfl rfl)
theorem dX1_restore_93 : decode cX1_restore 93 = .ok (.aload_n 0, 1) := dk_42 (dk_at dksX1_restore_4 0 rfl rfl)
theorem dX1_restore_94 : decode cX1_restore 94 = .ok (.aload_n 2, 1) := dk_44 (dk_at dksX1_restore_4 1 rfl rfl)
theorem dX1_restore_95 : decode cX1_restore 95 = .ok (.getfield 398, 3) := dk_180 1 142 (dk_at dksX1_restore_4 2 rfl rfl)
theorem dX1_restore_98 : decode cX1_restore 98 = .ok (.putfield 172, 3) := dk_181 0 172 (dk_at dksX1_restore_4 5 rfl rfl)
theorem dX1_restore_101 : decode cX1_restore 101 = .ok (.aload_n 0, 1) := dk_42 (dk_at dksX1_restore_4 8 rfl rfl)
theorem dX1_restore_102 : decode cX1_restore 102 = .ok (.iconst 0, 1) := dk_3 (dk_at dksX1_restore_4 9 rfl rfl)
theorem dX1_restore_103 : decode cX1_restore 103 = .ok (.putfield 169, 3) := dk_181 0 169 (dk_at dksX1_restore_4 10 rfl rfl)
theorem dX1_restore_106 : decode cX1_restore 106 = .ok (.iconst 1, 1) := dk_4 (dk_at dksX1_restore_4 13 rfl rfl)
theorem dX1_restore_107 : decode cX1_restore 107 = .ok (.ireturn, 1) := dk_172 (dk_at dksX1_restore_4 14 rfl rfl)
abbrev cX1_total : ByteArray := prog_1_method_63_code
def yX1_total : MethodName := ⟨RX1, "total", "(I)I"⟩
def dkwX1_total_3 : List UInt8 := [42, 180, 0, 142, 172, 2, 172]
abbrev dktX1_total_3 : List UInt8 := dkwX1_total_3 ++ []
def dkwX1_total_2 : List UInt8 := [42, 180, 0, 78, 180, 0, 165, 172, 42, 180, 0, 78, 180, 1, 149, 172, 42, 180, 0, 85, 182, 1, 119, 172]
abbrev dktX1_total_2 : List UInt8 := dkwX1_total_2 ++ dktX1_total_3
def dkwX1_total_1 : List UInt8 := [170, 0, 0, 0, 0, 0, 60, 0, 0, 0, 0, 0, 0, 0, 3, 0, 0, 0, 31, 0, 0, 0, 39, 0, 0, 0, 47, 0, 0, 0, 55]
abbrev dktX1_total_1 : List UInt8 := dkwX1_total_1 ++ dktX1_total_2
def dkwX1_total_0 : List UInt8 := [27]
abbrev dktX1_total_0 : List UInt8 := dkwX1_total_0 ++ dktX1_total_1
theorem dksX1_total_0 : cX1_total.data.toList.drop 0 = dktX1_total_0 := by decide +kernel
theorem dksX1_total_1 : cX1_total.data.toList.drop 1 = dktX1_total_1 := dk_seg dksX1_total_0 1 rfl rfl
theorem dksX1_total_2 : cX1_total.data.toList.drop 32 = dktX1_total_2 := dk_seg dksX1_total_1 31 rfl rfl
theorem dksX1_total_3 : cX1_total.data.toList.drop 56 = dktX1_total_3 := dk_seg dksX1_total_2 24 rfl rfl
theorem dX1_total_0 : decode cX1_total 0 = .ok (.iload_n 1, 1) := dk_27 (dk_at dksX1_total_0 0 rfl rfl)
theorem dX1_total_1 : decode cX1_total 1 = .ok (.tableswitch 60 0 3 #[31, 39, 47, 55], 31) := by decide +kernel
theorem dX1_total_32 : decode cX1_total 32 = .ok (.aload_n 0, 1) := dk_42 (dk_at dksX1_total_2 0 rfl rfl)
theorem dX1_total_33 : decode cX1_total 33 = .ok (.getfield 78, 3) := dk_180 0 78 (dk_at dksX1_total_2 1 rfl rfl)
theorem dX1_total_36 : decode cX1_total 36 = .ok (.getfield 165, 3) := dk_180 0 165 (dk_at dksX1_total_2 4 rfl rfl)
theorem dX1_total_39 : decode cX1_total 39 = .ok (.ireturn, 1) := dk_172 (dk_at dksX1_total_2 7 rfl rfl)
theorem dX1_total_40 : decode cX1_total 40 = .ok (.aload_n 0, 1) := dk_42 (dk_at dksX1_total_2 8 rfl rfl)
theorem dX1_total_41 : decode cX1_total 41 = .ok (.getfield 78, 3) := dk_180 0 78 (dk_at dksX1_total_2 9 rfl rfl)
theorem dX1_total_44 : decode cX1_total 44 = .ok (.getfield 405, 3) := dk_180 1 149 (dk_at dksX1_total_2 12 rfl rfl)
theorem dX1_total_47 : decode cX1_total 47 = .ok (.ireturn, 1) := dk_172 (dk_at dksX1_total_2 15 rfl rfl)
theorem dX1_total_48 : decode cX1_total 48 = .ok (.aload_n 0, 1) := dk_42 (dk_at dksX1_total_2 16 rfl rfl)
theorem dX1_total_49 : decode cX1_total 49 = .ok (.getfield 85, 3) := dk_180 0 85 (dk_at dksX1_total_2 17 rfl rfl)
theorem dX1_total_52 : decode cX1_total 52 = .ok (.invokevirtual 375, 3) := dk_182 1 119 (dk_at dksX1_total_2 20 rfl rfl)
theorem dX1_total_55 : decode cX1_total 55 = .ok (.ireturn, 1) := dk_172 (dk_at dksX1_total_2 23 rfl rfl)
theorem dX1_total_56 : decode cX1_total 56 = .ok (.aload_n 0, 1) := dk_42 (dk_at dksX1_total_3 0 rfl rfl)
theorem dX1_total_57 : decode cX1_total 57 = .ok (.getfield 142, 3) := dk_180 0 142 (dk_at dksX1_total_3 1 rfl rfl)
theorem dX1_total_60 : decode cX1_total 60 = .ok (.ireturn, 1) := dk_172 (dk_at dksX1_total_3 4 rfl rfl)
theorem dX1_total_61 : decode cX1_total 61 = .ok (.iconst (-1), 1) := dk_2 (dk_at dksX1_total_3 5 rfl rfl)
theorem dX1_total_62 : decode cX1_total 62 = .ok (.ireturn, 1) := dk_172 (dk_at dksX1_total_3 6 rfl rfl)
abbrev cX1_word : ByteArray := prog_1_method_23_code
def yX1_word : MethodName := ⟨RX1, "word", "(II)I"⟩
def dkwX1_word_3 : List UInt8 := [167, 0, 4, 3, 128, 62, 132, 4, 1, 167, 255, 212, 29, 172]
abbrev dktX1_word_3 : List UInt8 := dkwX1_word_3 ++ []
def dkwX1_word_2 : List UInt8 := [120, 21, 4, 42, 27, 182, 0, 204, 182, 0, 194, 162, 0, 16, 42, 27, 182, 0, 204, 21, 4, 182, 0, 207]
abbrev dktX1_word_2 : List UInt8 := dkwX1_word_2 ++ dktX1_word_3
def dkwX1_word_1 : List UInt8 := [4, 167, 0, 4, 3, 184, 0, 229, 3, 62, 28, 54, 4, 21, 4, 28, 16, 32, 96, 162, 0, 41, 29, 4]
abbrev dktX1_word_1 : List UInt8 := dkwX1_word_1 ++ dktX1_word_2
def dkwX1_word_0 : List UInt8 := [42, 27, 182, 0, 186, 153, 0, 23, 28, 3, 42, 27, 182, 0, 204, 182, 0, 194, 184, 0, 182, 153, 0, 7]
abbrev dktX1_word_0 : List UInt8 := dkwX1_word_0 ++ dktX1_word_1
theorem dksX1_word_0 : cX1_word.data.toList.drop 0 = dktX1_word_0 := by decide +kernel
theorem dksX1_word_1 : cX1_word.data.toList.drop 24 = dktX1_word_1 := dk_seg dksX1_word_0 24 rfl rfl
theorem dksX1_word_2 : cX1_word.data.toList.drop 48 = dktX1_word_2 := dk_seg dksX1_word_1 24 rfl rfl
theorem dksX1_word_3 : cX1_word.data.toList.drop 72 = dktX1_word_3 := dk_seg dksX1_word_2 24 rfl rfl
theorem dX1_word_0 : decode cX1_word 0 = .ok (.aload_n 0, 1) := dk_42 (dk_at dksX1_word_0 0 rfl rfl)
theorem dX1_word_1 : decode cX1_word 1 = .ok (.iload_n 1, 1) := dk_27 (dk_at dksX1_word_0 1 rfl rfl)
theorem dX1_word_2 : decode cX1_word 2 = .ok (.invokevirtual 186, 3) := dk_182 0 186 (dk_at dksX1_word_0 2 rfl rfl)
theorem dX1_word_5 : decode cX1_word 5 = .ok (.ifCond .eq 23, 3) := dk_153 0 23 (dk_at dksX1_word_0 5 rfl rfl)
theorem dX1_word_8 : decode cX1_word 8 = .ok (.iload_n 2, 1) := dk_28 (dk_at dksX1_word_0 8 rfl rfl)
theorem dX1_word_9 : decode cX1_word 9 = .ok (.iconst 0, 1) := dk_3 (dk_at dksX1_word_0 9 rfl rfl)
theorem dX1_word_10 : decode cX1_word 10 = .ok (.aload_n 0, 1) := dk_42 (dk_at dksX1_word_0 10 rfl rfl)
theorem dX1_word_11 : decode cX1_word 11 = .ok (.iload_n 1, 1) := dk_27 (dk_at dksX1_word_0 11 rfl rfl)
theorem dX1_word_12 : decode cX1_word 12 = .ok (.invokevirtual 204, 3) := dk_182 0 204 (dk_at dksX1_word_0 12 rfl rfl)
theorem dX1_word_15 : decode cX1_word 15 = .ok (.invokevirtual 194, 3) := dk_182 0 194 (dk_at dksX1_word_0 15 rfl rfl)
theorem dX1_word_18 : decode cX1_word 18 = .ok (.invokestatic 182, 3) := dk_184 0 182 (dk_at dksX1_word_0 18 rfl rfl)
theorem dX1_word_21 : decode cX1_word 21 = .ok (.ifCond .eq 7, 3) := dk_153 0 7 (dk_at dksX1_word_0 21 rfl rfl)
theorem dX1_word_24 : decode cX1_word 24 = .ok (.iconst 1, 1) := dk_4 (dk_at dksX1_word_1 0 rfl rfl)
theorem dX1_word_25 : decode cX1_word 25 = .ok (.goto 4, 3) := dk_167 0 4 (dk_at dksX1_word_1 1 rfl rfl)
theorem dX1_word_28 : decode cX1_word 28 = .ok (.iconst 0, 1) := dk_3 (dk_at dksX1_word_1 4 rfl rfl)
theorem dX1_word_29 : decode cX1_word 29 = .ok (.invokestatic 229, 3) := dk_184 0 229 (dk_at dksX1_word_1 5 rfl rfl)
theorem dX1_word_32 : decode cX1_word 32 = .ok (.iconst 0, 1) := dk_3 (dk_at dksX1_word_1 8 rfl rfl)
theorem dX1_word_33 : decode cX1_word 33 = .ok (.istore_n 3, 1) := dk_62 (dk_at dksX1_word_1 9 rfl rfl)
theorem dX1_word_34 : decode cX1_word 34 = .ok (.iload_n 2, 1) := dk_28 (dk_at dksX1_word_1 10 rfl rfl)
theorem dX1_word_35 : decode cX1_word 35 = .ok (.istore 4, 2) := dk_54 4 (dk_at dksX1_word_1 11 rfl rfl)
theorem dX1_word_37 : decode cX1_word 37 = .ok (.iload 4, 2) := dk_21 4 (dk_at dksX1_word_1 13 rfl rfl)
theorem dX1_word_39 : decode cX1_word 39 = .ok (.iload_n 2, 1) := dk_28 (dk_at dksX1_word_1 15 rfl rfl)
theorem dX1_word_40 : decode cX1_word 40 = .ok (.bipush 32, 2) := dk_16 32 (dk_at dksX1_word_1 16 rfl rfl)
theorem dX1_word_42 : decode cX1_word 42 = .ok (.iadd, 1) := dk_96 (dk_at dksX1_word_1 18 rfl rfl)
theorem dX1_word_43 : decode cX1_word 43 = .ok (.if_icmp .ge 41, 3) := dk_162 0 41 (dk_at dksX1_word_1 19 rfl rfl)
theorem dX1_word_46 : decode cX1_word 46 = .ok (.iload_n 3, 1) := dk_29 (dk_at dksX1_word_1 22 rfl rfl)
theorem dX1_word_47 : decode cX1_word 47 = .ok (.iconst 1, 1) := dk_4 (dk_at dksX1_word_1 23 rfl rfl)
theorem dX1_word_48 : decode cX1_word 48 = .ok (.ishl, 1) := dk_120 (dk_at dksX1_word_2 0 rfl rfl)
theorem dX1_word_49 : decode cX1_word 49 = .ok (.iload 4, 2) := dk_21 4 (dk_at dksX1_word_2 1 rfl rfl)
theorem dX1_word_51 : decode cX1_word 51 = .ok (.aload_n 0, 1) := dk_42 (dk_at dksX1_word_2 3 rfl rfl)
theorem dX1_word_52 : decode cX1_word 52 = .ok (.iload_n 1, 1) := dk_27 (dk_at dksX1_word_2 4 rfl rfl)
theorem dX1_word_53 : decode cX1_word 53 = .ok (.invokevirtual 204, 3) := dk_182 0 204 (dk_at dksX1_word_2 5 rfl rfl)
theorem dX1_word_56 : decode cX1_word 56 = .ok (.invokevirtual 194, 3) := dk_182 0 194 (dk_at dksX1_word_2 8 rfl rfl)
theorem dX1_word_59 : decode cX1_word 59 = .ok (.if_icmp .ge 16, 3) := dk_162 0 16 (dk_at dksX1_word_2 11 rfl rfl)
theorem dX1_word_62 : decode cX1_word 62 = .ok (.aload_n 0, 1) := dk_42 (dk_at dksX1_word_2 14 rfl rfl)
theorem dX1_word_63 : decode cX1_word 63 = .ok (.iload_n 1, 1) := dk_27 (dk_at dksX1_word_2 15 rfl rfl)
theorem dX1_word_64 : decode cX1_word 64 = .ok (.invokevirtual 204, 3) := dk_182 0 204 (dk_at dksX1_word_2 16 rfl rfl)
theorem dX1_word_67 : decode cX1_word 67 = .ok (.iload 4, 2) := dk_21 4 (dk_at dksX1_word_2 19 rfl rfl)
theorem dX1_word_69 : decode cX1_word 69 = .ok (.invokevirtual 207, 3) := dk_182 0 207 (dk_at dksX1_word_2 21 rfl rfl)
theorem dX1_word_72 : decode cX1_word 72 = .ok (.goto 4, 3) := dk_167 0 4 (dk_at dksX1_word_3 0 rfl rfl)
theorem dX1_word_75 : decode cX1_word 75 = .ok (.iconst 0, 1) := dk_3 (dk_at dksX1_word_3 3 rfl rfl)
theorem dX1_word_76 : decode cX1_word 76 = .ok (.ior, 1) := dk_128 (dk_at dksX1_word_3 4 rfl rfl)
theorem dX1_word_77 : decode cX1_word 77 = .ok (.istore_n 3, 1) := dk_62 (dk_at dksX1_word_3 5 rfl rfl)
theorem dX1_word_78 : decode cX1_word 78 = .ok (.iinc 4 1, 3) := dk_132 4 1 (dk_at dksX1_word_3 6 rfl rfl)
theorem dX1_word_81 : decode cX1_word 81 = .ok (.goto (-44), 3) := dk_167 255 212 (dk_at dksX1_word_3 9 rfl rfl)
theorem dX1_word_84 : decode cX1_word 84 = .ok (.iload_n 3, 1) := dk_29 (dk_at dksX1_word_3 12 rfl rfl)
theorem dX1_word_85 : decode cX1_word 85 = .ok (.ireturn, 1) := dk_172 (dk_at dksX1_word_3 13 rfl rfl)
abbrev cX1_must : ByteArray := prog_1_method_8_code
def yX1_must : MethodName := ⟨RX1, "must", "(Z)V"⟩
def dkwX1_must_0 : List UInt8 := [26, 154, 0, 11, 187, 0, 152, 89, 183, 0, 154, 191, 177]
abbrev dktX1_must_0 : List UInt8 := dkwX1_must_0 ++ []
theorem dksX1_must_0 : cX1_must.data.toList.drop 0 = dktX1_must_0 := by decide +kernel
theorem dX1_must_0 : decode cX1_must 0 = .ok (.iload_n 0, 1) := dk_26 (dk_at dksX1_must_0 0 rfl rfl)
theorem dX1_must_1 : decode cX1_must 1 = .ok (.ifCond .ne 11, 3) := dk_154 0 11 (dk_at dksX1_must_0 1 rfl rfl)
theorem dX1_must_4 : decode cX1_must 4 = .ok (.new 152, 3) := dk_187 0 152 (dk_at dksX1_must_0 4 rfl rfl)
theorem dX1_must_7 : decode cX1_must 7 = .ok (.dup, 1) := dk_89 (dk_at dksX1_must_0 7 rfl rfl)
theorem dX1_must_8 : decode cX1_must 8 = .ok (.invokespecial 154, 3) := dk_183 0 154 (dk_at dksX1_must_0 8 rfl rfl)
theorem dX1_must_11 : decode cX1_must 11 = .ok (.athrow, 1) := dk_191 (dk_at dksX1_must_0 11 rfl rfl)
theorem dX1_must_12 : decode cX1_must 12 = .ok (.return_, 1) := dk_177 (dk_at dksX1_must_0 12 rfl rfl)
abbrev cX1_dense : ByteArray := prog_1_method_27_code
def yX1_dense : MethodName := ⟨RX1, "dense", "(III)I"⟩
def dkwX1_dense_3 : List UInt8 := [100, 134, 56, 4, 23, 4, 29, 134, 110, 184, 1, 7, 172]
abbrev dktX1_dense_3 : List UInt8 := dkwX1_dense_3 ++ []
def dkwX1_dense_2 : List UInt8 := [3, 184, 0, 229, 42, 27, 182, 0, 204, 28, 29, 96, 182, 1, 4, 42, 27, 182, 0, 204, 28, 182, 1, 4]
abbrev dktX1_dense_2 : List UInt8 := dkwX1_dense_2 ++ dktX1_dense_3
def dkwX1_dense_1 : List UInt8 := [182, 0, 194, 163, 0, 21, 28, 42, 27, 182, 0, 204, 182, 0, 194, 29, 100, 163, 0, 7, 4, 167, 0, 4]
abbrev dktX1_dense_1 : List UInt8 := dkwX1_dense_1 ++ dktX1_dense_2
def dkwX1_dense_0 : List UInt8 := [42, 27, 182, 0, 186, 153, 0, 41, 29, 158, 0, 37, 28, 155, 0, 33, 29, 42, 27, 182, 0, 204]
abbrev dktX1_dense_0 : List UInt8 := dkwX1_dense_0 ++ dktX1_dense_1
theorem dksX1_dense_0 : cX1_dense.data.toList.drop 0 = dktX1_dense_0 := by decide +kernel
theorem dksX1_dense_1 : cX1_dense.data.toList.drop 22 = dktX1_dense_1 := dk_seg dksX1_dense_0 22 rfl rfl
theorem dksX1_dense_2 : cX1_dense.data.toList.drop 46 = dktX1_dense_2 := dk_seg dksX1_dense_1 24 rfl rfl
theorem dksX1_dense_3 : cX1_dense.data.toList.drop 70 = dktX1_dense_3 := dk_seg dksX1_dense_2 24 rfl rfl
theorem dX1_dense_0 : decode cX1_dense 0 = .ok (.aload_n 0, 1) := dk_42 (dk_at dksX1_dense_0 0 rfl rfl)
theorem dX1_dense_1 : decode cX1_dense 1 = .ok (.iload_n 1, 1) := dk_27 (dk_at dksX1_dense_0 1 rfl rfl)
theorem dX1_dense_2 : decode cX1_dense 2 = .ok (.invokevirtual 186, 3) := dk_182 0 186 (dk_at dksX1_dense_0 2 rfl rfl)
theorem dX1_dense_5 : decode cX1_dense 5 = .ok (.ifCond .eq 41, 3) := dk_153 0 41 (dk_at dksX1_dense_0 5 rfl rfl)
theorem dX1_dense_8 : decode cX1_dense 8 = .ok (.iload_n 3, 1) := dk_29 (dk_at dksX1_dense_0 8 rfl rfl)
theorem dX1_dense_9 : decode cX1_dense 9 = .ok (.ifCond .le 37, 3) := dk_158 0 37 (dk_at dksX1_dense_0 9 rfl rfl)
theorem dX1_dense_12 : decode cX1_dense 12 = .ok (.iload_n 2, 1) := dk_28 (dk_at dksX1_dense_0 12 rfl rfl)
theorem dX1_dense_13 : decode cX1_dense 13 = .ok (.ifCond .lt 33, 3) := dk_155 0 33 (dk_at dksX1_dense_0 13 rfl rfl)
theorem dX1_dense_16 : decode cX1_dense 16 = .ok (.iload_n 3, 1) := dk_29 (dk_at dksX1_dense_0 16 rfl rfl)
theorem dX1_dense_17 : decode cX1_dense 17 = .ok (.aload_n 0, 1) := dk_42 (dk_at dksX1_dense_0 17 rfl rfl)
theorem dX1_dense_18 : decode cX1_dense 18 = .ok (.iload_n 1, 1) := dk_27 (dk_at dksX1_dense_0 18 rfl rfl)
theorem dX1_dense_19 : decode cX1_dense 19 = .ok (.invokevirtual 204, 3) := dk_182 0 204 (dk_at dksX1_dense_0 19 rfl rfl)
theorem dX1_dense_22 : decode cX1_dense 22 = .ok (.invokevirtual 194, 3) := dk_182 0 194 (dk_at dksX1_dense_1 0 rfl rfl)
theorem dX1_dense_25 : decode cX1_dense 25 = .ok (.if_icmp .gt 21, 3) := dk_163 0 21 (dk_at dksX1_dense_1 3 rfl rfl)
theorem dX1_dense_28 : decode cX1_dense 28 = .ok (.iload_n 2, 1) := dk_28 (dk_at dksX1_dense_1 6 rfl rfl)
theorem dX1_dense_29 : decode cX1_dense 29 = .ok (.aload_n 0, 1) := dk_42 (dk_at dksX1_dense_1 7 rfl rfl)
theorem dX1_dense_30 : decode cX1_dense 30 = .ok (.iload_n 1, 1) := dk_27 (dk_at dksX1_dense_1 8 rfl rfl)
theorem dX1_dense_31 : decode cX1_dense 31 = .ok (.invokevirtual 204, 3) := dk_182 0 204 (dk_at dksX1_dense_1 9 rfl rfl)
theorem dX1_dense_34 : decode cX1_dense 34 = .ok (.invokevirtual 194, 3) := dk_182 0 194 (dk_at dksX1_dense_1 12 rfl rfl)
theorem dX1_dense_37 : decode cX1_dense 37 = .ok (.iload_n 3, 1) := dk_29 (dk_at dksX1_dense_1 15 rfl rfl)
theorem dX1_dense_38 : decode cX1_dense 38 = .ok (.isub, 1) := dk_100 (dk_at dksX1_dense_1 16 rfl rfl)
theorem dX1_dense_39 : decode cX1_dense 39 = .ok (.if_icmp .gt 7, 3) := dk_163 0 7 (dk_at dksX1_dense_1 17 rfl rfl)
theorem dX1_dense_42 : decode cX1_dense 42 = .ok (.iconst 1, 1) := dk_4 (dk_at dksX1_dense_1 20 rfl rfl)
theorem dX1_dense_43 : decode cX1_dense 43 = .ok (.goto 4, 3) := dk_167 0 4 (dk_at dksX1_dense_1 21 rfl rfl)
theorem dX1_dense_46 : decode cX1_dense 46 = .ok (.iconst 0, 1) := dk_3 (dk_at dksX1_dense_2 0 rfl rfl)
theorem dX1_dense_47 : decode cX1_dense 47 = .ok (.invokestatic 229, 3) := dk_184 0 229 (dk_at dksX1_dense_2 1 rfl rfl)
theorem dX1_dense_50 : decode cX1_dense 50 = .ok (.aload_n 0, 1) := dk_42 (dk_at dksX1_dense_2 4 rfl rfl)
theorem dX1_dense_51 : decode cX1_dense 51 = .ok (.iload_n 1, 1) := dk_27 (dk_at dksX1_dense_2 5 rfl rfl)
theorem dX1_dense_52 : decode cX1_dense 52 = .ok (.invokevirtual 204, 3) := dk_182 0 204 (dk_at dksX1_dense_2 6 rfl rfl)
theorem dX1_dense_55 : decode cX1_dense 55 = .ok (.iload_n 2, 1) := dk_28 (dk_at dksX1_dense_2 9 rfl rfl)
theorem dX1_dense_56 : decode cX1_dense 56 = .ok (.iload_n 3, 1) := dk_29 (dk_at dksX1_dense_2 10 rfl rfl)
theorem dX1_dense_57 : decode cX1_dense 57 = .ok (.iadd, 1) := dk_96 (dk_at dksX1_dense_2 11 rfl rfl)
theorem dX1_dense_58 : decode cX1_dense 58 = .ok (.invokevirtual 260, 3) := dk_182 1 4 (dk_at dksX1_dense_2 12 rfl rfl)
theorem dX1_dense_61 : decode cX1_dense 61 = .ok (.aload_n 0, 1) := dk_42 (dk_at dksX1_dense_2 15 rfl rfl)
theorem dX1_dense_62 : decode cX1_dense 62 = .ok (.iload_n 1, 1) := dk_27 (dk_at dksX1_dense_2 16 rfl rfl)
theorem dX1_dense_63 : decode cX1_dense 63 = .ok (.invokevirtual 204, 3) := dk_182 0 204 (dk_at dksX1_dense_2 17 rfl rfl)
theorem dX1_dense_66 : decode cX1_dense 66 = .ok (.iload_n 2, 1) := dk_28 (dk_at dksX1_dense_2 20 rfl rfl)
theorem dX1_dense_67 : decode cX1_dense 67 = .ok (.invokevirtual 260, 3) := dk_182 1 4 (dk_at dksX1_dense_2 21 rfl rfl)
theorem dX1_dense_70 : decode cX1_dense 70 = .ok (.isub, 1) := dk_100 (dk_at dksX1_dense_3 0 rfl rfl)
theorem dX1_dense_71 : decode cX1_dense 71 = .ok (.i2f, 1) := dk_134 (dk_at dksX1_dense_3 1 rfl rfl)
theorem dX1_dense_72 : decode cX1_dense 72 = .ok (.fstore 4, 2) := dk_56 4 (dk_at dksX1_dense_3 2 rfl rfl)
theorem dX1_dense_74 : decode cX1_dense 74 = .ok (.fload 4, 2) := dk_23 4 (dk_at dksX1_dense_3 4 rfl rfl)
theorem dX1_dense_76 : decode cX1_dense 76 = .ok (.iload_n 3, 1) := dk_29 (dk_at dksX1_dense_3 6 rfl rfl)
theorem dX1_dense_77 : decode cX1_dense 77 = .ok (.i2f, 1) := dk_134 (dk_at dksX1_dense_3 7 rfl rfl)
theorem dX1_dense_78 : decode cX1_dense 78 = .ok (.fdiv, 1) := dk_110 (dk_at dksX1_dense_3 8 rfl rfl)
theorem dX1_dense_79 : decode cX1_dense 79 = .ok (.invokestatic 263, 3) := dk_184 1 7 (dk_at dksX1_dense_3 9 rfl rfl)
theorem dX1_dense_82 : decode cX1_dense 82 = .ok (.ireturn, 1) := dk_172 (dk_at dksX1_dense_3 12 rfl rfl)
abbrev cX1_load : ByteArray := prog_1_method_28_code
def yX1_load : MethodName := ⟨RX1, "load", "(I)I"⟩
def dkwX1_load_2 : List UInt8 := [182, 0, 194, 134, 110, 184, 1, 7, 172]
abbrev dktX1_load_2 : List UInt8 := dkwX1_load_2 ++ []
def dkwX1_load_1 : List UInt8 := [184, 0, 229, 16, 32, 42, 27, 182, 0, 204, 182, 1, 1, 104, 134, 69, 36, 42, 27, 182, 0, 204]
abbrev dktX1_load_1 : List UInt8 := dkwX1_load_1 ++ dktX1_load_2
def dkwX1_load_0 : List UInt8 := [42, 27, 182, 0, 186, 153, 0, 18, 42, 27, 182, 0, 204, 182, 0, 194, 158, 0, 7, 4, 167, 0, 4, 3]
abbrev dktX1_load_0 : List UInt8 := dkwX1_load_0 ++ dktX1_load_1
theorem dksX1_load_0 : cX1_load.data.toList.drop 0 = dktX1_load_0 := by decide +kernel
theorem dksX1_load_1 : cX1_load.data.toList.drop 24 = dktX1_load_1 := dk_seg dksX1_load_0 24 rfl rfl
theorem dksX1_load_2 : cX1_load.data.toList.drop 46 = dktX1_load_2 := dk_seg dksX1_load_1 22 rfl rfl
theorem dX1_load_0 : decode cX1_load 0 = .ok (.aload_n 0, 1) := dk_42 (dk_at dksX1_load_0 0 rfl rfl)
theorem dX1_load_1 : decode cX1_load 1 = .ok (.iload_n 1, 1) := dk_27 (dk_at dksX1_load_0 1 rfl rfl)
theorem dX1_load_2 : decode cX1_load 2 = .ok (.invokevirtual 186, 3) := dk_182 0 186 (dk_at dksX1_load_0 2 rfl rfl)
theorem dX1_load_5 : decode cX1_load 5 = .ok (.ifCond .eq 18, 3) := dk_153 0 18 (dk_at dksX1_load_0 5 rfl rfl)
theorem dX1_load_8 : decode cX1_load 8 = .ok (.aload_n 0, 1) := dk_42 (dk_at dksX1_load_0 8 rfl rfl)
theorem dX1_load_9 : decode cX1_load 9 = .ok (.iload_n 1, 1) := dk_27 (dk_at dksX1_load_0 9 rfl rfl)
theorem dX1_load_10 : decode cX1_load 10 = .ok (.invokevirtual 204, 3) := dk_182 0 204 (dk_at dksX1_load_0 10 rfl rfl)
theorem dX1_load_13 : decode cX1_load 13 = .ok (.invokevirtual 194, 3) := dk_182 0 194 (dk_at dksX1_load_0 13 rfl rfl)
theorem dX1_load_16 : decode cX1_load 16 = .ok (.ifCond .le 7, 3) := dk_158 0 7 (dk_at dksX1_load_0 16 rfl rfl)
theorem dX1_load_19 : decode cX1_load 19 = .ok (.iconst 1, 1) := dk_4 (dk_at dksX1_load_0 19 rfl rfl)
theorem dX1_load_20 : decode cX1_load 20 = .ok (.goto 4, 3) := dk_167 0 4 (dk_at dksX1_load_0 20 rfl rfl)
theorem dX1_load_23 : decode cX1_load 23 = .ok (.iconst 0, 1) := dk_3 (dk_at dksX1_load_0 23 rfl rfl)
theorem dX1_load_24 : decode cX1_load 24 = .ok (.invokestatic 229, 3) := dk_184 0 229 (dk_at dksX1_load_1 0 rfl rfl)
theorem dX1_load_27 : decode cX1_load 27 = .ok (.bipush 32, 2) := dk_16 32 (dk_at dksX1_load_1 3 rfl rfl)
theorem dX1_load_29 : decode cX1_load 29 = .ok (.aload_n 0, 1) := dk_42 (dk_at dksX1_load_1 5 rfl rfl)
theorem dX1_load_30 : decode cX1_load 30 = .ok (.iload_n 1, 1) := dk_27 (dk_at dksX1_load_1 6 rfl rfl)
theorem dX1_load_31 : decode cX1_load 31 = .ok (.invokevirtual 204, 3) := dk_182 0 204 (dk_at dksX1_load_1 7 rfl rfl)
theorem dX1_load_34 : decode cX1_load 34 = .ok (.invokevirtual 257, 3) := dk_182 1 1 (dk_at dksX1_load_1 10 rfl rfl)
theorem dX1_load_37 : decode cX1_load 37 = .ok (.imul, 1) := dk_104 (dk_at dksX1_load_1 13 rfl rfl)
theorem dX1_load_38 : decode cX1_load 38 = .ok (.i2f, 1) := dk_134 (dk_at dksX1_load_1 14 rfl rfl)
theorem dX1_load_39 : decode cX1_load 39 = .ok (.fstore_n 2, 1) := dk_69 (dk_at dksX1_load_1 15 rfl rfl)
theorem dX1_load_40 : decode cX1_load 40 = .ok (.fload_n 2, 1) := dk_36 (dk_at dksX1_load_1 16 rfl rfl)
theorem dX1_load_41 : decode cX1_load 41 = .ok (.aload_n 0, 1) := dk_42 (dk_at dksX1_load_1 17 rfl rfl)
theorem dX1_load_42 : decode cX1_load 42 = .ok (.iload_n 1, 1) := dk_27 (dk_at dksX1_load_1 18 rfl rfl)
theorem dX1_load_43 : decode cX1_load 43 = .ok (.invokevirtual 204, 3) := dk_182 0 204 (dk_at dksX1_load_1 19 rfl rfl)
theorem dX1_load_46 : decode cX1_load 46 = .ok (.invokevirtual 194, 3) := dk_182 0 194 (dk_at dksX1_load_2 0 rfl rfl)
theorem dX1_load_49 : decode cX1_load 49 = .ok (.i2f, 1) := dk_134 (dk_at dksX1_load_2 3 rfl rfl)
theorem dX1_load_50 : decode cX1_load 50 = .ok (.fdiv, 1) := dk_110 (dk_at dksX1_load_2 4 rfl rfl)
theorem dX1_load_51 : decode cX1_load 51 = .ok (.invokestatic 263, 3) := dk_184 1 7 (dk_at dksX1_load_2 5 rfl rfl)
theorem dX1_load_54 : decode cX1_load 54 = .ok (.ireturn, 1) := dk_172 (dk_at dksX1_load_2 8 rfl rfl)
abbrev cX1_centre : ByteArray := prog_1_method_29_code
def yX1_centre : MethodName := ⟨RX1, "centre", "(II)I"⟩
def dkwX1_centre_4 : List UInt8 := [154, 0, 11, 22, 5, 16, 32, 125, 167, 0, 5, 22, 5, 136, 172]
abbrev dktX1_centre_4 : List UInt8 := dkwX1_centre_4 ++ []
def dkwX1_centre_3 : List UInt8 := [132, 5, 1, 167, 255, 225, 41, 42, 27, 182, 0, 204, 182, 1, 13, 135, 111, 184, 1, 16, 55, 5, 28]
abbrev dktX1_centre_3 : List UInt8 := dkwX1_centre_3 ++ dktX1_centre_4
def dkwX1_centre_2 : List UInt8 := [182, 0, 204, 182, 1, 13, 162, 0, 24, 41, 42, 27, 182, 0, 204, 21, 5, 4, 182, 0, 218, 135, 99, 74]
abbrev dktX1_centre_2 : List UInt8 := dkwX1_centre_2 ++ dktX1_centre_3
def dkwX1_centre_1 : List UInt8 := [182, 1, 13, 158, 0, 7, 4, 167, 0, 4, 3, 184, 0, 229, 14, 74, 3, 54, 5, 21, 5, 42, 27]
abbrev dktX1_centre_1 : List UInt8 := dkwX1_centre_1 ++ dktX1_centre_2
def dkwX1_centre_0 : List UInt8 := [42, 27, 182, 0, 186, 153, 0, 27, 28, 3, 4, 184, 0, 182, 153, 0, 18, 42, 27, 182, 0, 204]
abbrev dktX1_centre_0 : List UInt8 := dkwX1_centre_0 ++ dktX1_centre_1
theorem dksX1_centre_0 : cX1_centre.data.toList.drop 0 = dktX1_centre_0 := by decide +kernel
theorem dksX1_centre_1 : cX1_centre.data.toList.drop 22 = dktX1_centre_1 := dk_seg dksX1_centre_0 22 rfl rfl
theorem dksX1_centre_2 : cX1_centre.data.toList.drop 45 = dktX1_centre_2 := dk_seg dksX1_centre_1 23 rfl rfl
theorem dksX1_centre_3 : cX1_centre.data.toList.drop 69 = dktX1_centre_3 := dk_seg dksX1_centre_2 24 rfl rfl
theorem dksX1_centre_4 : cX1_centre.data.toList.drop 92 = dktX1_centre_4 := dk_seg dksX1_centre_3 23 rfl rfl
theorem dX1_centre_0 : decode cX1_centre 0 = .ok (.aload_n 0, 1) := dk_42 (dk_at dksX1_centre_0 0 rfl rfl)
theorem dX1_centre_1 : decode cX1_centre 1 = .ok (.iload_n 1, 1) := dk_27 (dk_at dksX1_centre_0 1 rfl rfl)
theorem dX1_centre_2 : decode cX1_centre 2 = .ok (.invokevirtual 186, 3) := dk_182 0 186 (dk_at dksX1_centre_0 2 rfl rfl)
theorem dX1_centre_5 : decode cX1_centre 5 = .ok (.ifCond .eq 27, 3) := dk_153 0 27 (dk_at dksX1_centre_0 5 rfl rfl)
theorem dX1_centre_8 : decode cX1_centre 8 = .ok (.iload_n 2, 1) := dk_28 (dk_at dksX1_centre_0 8 rfl rfl)
theorem dX1_centre_9 : decode cX1_centre 9 = .ok (.iconst 0, 1) := dk_3 (dk_at dksX1_centre_0 9 rfl rfl)
theorem dX1_centre_10 : decode cX1_centre 10 = .ok (.iconst 1, 1) := dk_4 (dk_at dksX1_centre_0 10 rfl rfl)
theorem dX1_centre_11 : decode cX1_centre 11 = .ok (.invokestatic 182, 3) := dk_184 0 182 (dk_at dksX1_centre_0 11 rfl rfl)
theorem dX1_centre_14 : decode cX1_centre 14 = .ok (.ifCond .eq 18, 3) := dk_153 0 18 (dk_at dksX1_centre_0 14 rfl rfl)
theorem dX1_centre_17 : decode cX1_centre 17 = .ok (.aload_n 0, 1) := dk_42 (dk_at dksX1_centre_0 17 rfl rfl)
theorem dX1_centre_18 : decode cX1_centre 18 = .ok (.iload_n 1, 1) := dk_27 (dk_at dksX1_centre_0 18 rfl rfl)
theorem dX1_centre_19 : decode cX1_centre 19 = .ok (.invokevirtual 204, 3) := dk_182 0 204 (dk_at dksX1_centre_0 19 rfl rfl)
theorem dX1_centre_22 : decode cX1_centre 22 = .ok (.invokevirtual 269, 3) := dk_182 1 13 (dk_at dksX1_centre_1 0 rfl rfl)
theorem dX1_centre_25 : decode cX1_centre 25 = .ok (.ifCond .le 7, 3) := dk_158 0 7 (dk_at dksX1_centre_1 3 rfl rfl)
theorem dX1_centre_28 : decode cX1_centre 28 = .ok (.iconst 1, 1) := dk_4 (dk_at dksX1_centre_1 6 rfl rfl)
theorem dX1_centre_29 : decode cX1_centre 29 = .ok (.goto 4, 3) := dk_167 0 4 (dk_at dksX1_centre_1 7 rfl rfl)
theorem dX1_centre_32 : decode cX1_centre 32 = .ok (.iconst 0, 1) := dk_3 (dk_at dksX1_centre_1 10 rfl rfl)
theorem dX1_centre_33 : decode cX1_centre 33 = .ok (.invokestatic 229, 3) := dk_184 0 229 (dk_at dksX1_centre_1 11 rfl rfl)
theorem dX1_centre_36 : decode cX1_centre 36 = .ok (.dconst 0, 1) := dk_14 (dk_at dksX1_centre_1 14 rfl rfl)
theorem dX1_centre_37 : decode cX1_centre 37 = .ok (.dstore_n 3, 1) := dk_74 (dk_at dksX1_centre_1 15 rfl rfl)
theorem dX1_centre_38 : decode cX1_centre 38 = .ok (.iconst 0, 1) := dk_3 (dk_at dksX1_centre_1 16 rfl rfl)
theorem dX1_centre_39 : decode cX1_centre 39 = .ok (.istore 5, 2) := dk_54 5 (dk_at dksX1_centre_1 17 rfl rfl)
theorem dX1_centre_41 : decode cX1_centre 41 = .ok (.iload 5, 2) := dk_21 5 (dk_at dksX1_centre_1 19 rfl rfl)
theorem dX1_centre_43 : decode cX1_centre 43 = .ok (.aload_n 0, 1) := dk_42 (dk_at dksX1_centre_1 21 rfl rfl)
theorem dX1_centre_44 : decode cX1_centre 44 = .ok (.iload_n 1, 1) := dk_27 (dk_at dksX1_centre_1 22 rfl rfl)
theorem dX1_centre_45 : decode cX1_centre 45 = .ok (.invokevirtual 204, 3) := dk_182 0 204 (dk_at dksX1_centre_2 0 rfl rfl)
theorem dX1_centre_48 : decode cX1_centre 48 = .ok (.invokevirtual 269, 3) := dk_182 1 13 (dk_at dksX1_centre_2 3 rfl rfl)
theorem dX1_centre_51 : decode cX1_centre 51 = .ok (.if_icmp .ge 24, 3) := dk_162 0 24 (dk_at dksX1_centre_2 6 rfl rfl)
theorem dX1_centre_54 : decode cX1_centre 54 = .ok (.dload_n 3, 1) := dk_41 (dk_at dksX1_centre_2 9 rfl rfl)
theorem dX1_centre_55 : decode cX1_centre 55 = .ok (.aload_n 0, 1) := dk_42 (dk_at dksX1_centre_2 10 rfl rfl)
theorem dX1_centre_56 : decode cX1_centre 56 = .ok (.iload_n 1, 1) := dk_27 (dk_at dksX1_centre_2 11 rfl rfl)
theorem dX1_centre_57 : decode cX1_centre 57 = .ok (.invokevirtual 204, 3) := dk_182 0 204 (dk_at dksX1_centre_2 12 rfl rfl)
theorem dX1_centre_60 : decode cX1_centre 60 = .ok (.iload 5, 2) := dk_21 5 (dk_at dksX1_centre_2 15 rfl rfl)
theorem dX1_centre_62 : decode cX1_centre 62 = .ok (.iconst 1, 1) := dk_4 (dk_at dksX1_centre_2 17 rfl rfl)
theorem dX1_centre_63 : decode cX1_centre 63 = .ok (.invokevirtual 218, 3) := dk_182 0 218 (dk_at dksX1_centre_2 18 rfl rfl)
theorem dX1_centre_66 : decode cX1_centre 66 = .ok (.i2d, 1) := dk_135 (dk_at dksX1_centre_2 21 rfl rfl)
theorem dX1_centre_67 : decode cX1_centre 67 = .ok (.dadd, 1) := dk_99 (dk_at dksX1_centre_2 22 rfl rfl)
theorem dX1_centre_68 : decode cX1_centre 68 = .ok (.dstore_n 3, 1) := dk_74 (dk_at dksX1_centre_2 23 rfl rfl)
theorem dX1_centre_69 : decode cX1_centre 69 = .ok (.iinc 5 1, 3) := dk_132 5 1 (dk_at dksX1_centre_3 0 rfl rfl)
theorem dX1_centre_72 : decode cX1_centre 72 = .ok (.goto (-31), 3) := dk_167 255 225 (dk_at dksX1_centre_3 3 rfl rfl)
theorem dX1_centre_75 : decode cX1_centre 75 = .ok (.dload_n 3, 1) := dk_41 (dk_at dksX1_centre_3 6 rfl rfl)
theorem dX1_centre_76 : decode cX1_centre 76 = .ok (.aload_n 0, 1) := dk_42 (dk_at dksX1_centre_3 7 rfl rfl)
theorem dX1_centre_77 : decode cX1_centre 77 = .ok (.iload_n 1, 1) := dk_27 (dk_at dksX1_centre_3 8 rfl rfl)
theorem dX1_centre_78 : decode cX1_centre 78 = .ok (.invokevirtual 204, 3) := dk_182 0 204 (dk_at dksX1_centre_3 9 rfl rfl)
theorem dX1_centre_81 : decode cX1_centre 81 = .ok (.invokevirtual 269, 3) := dk_182 1 13 (dk_at dksX1_centre_3 12 rfl rfl)
theorem dX1_centre_84 : decode cX1_centre 84 = .ok (.i2d, 1) := dk_135 (dk_at dksX1_centre_3 15 rfl rfl)
theorem dX1_centre_85 : decode cX1_centre 85 = .ok (.ddiv, 1) := dk_111 (dk_at dksX1_centre_3 16 rfl rfl)
theorem dX1_centre_86 : decode cX1_centre 86 = .ok (.invokestatic 272, 3) := dk_184 1 16 (dk_at dksX1_centre_3 17 rfl rfl)
theorem dX1_centre_89 : decode cX1_centre 89 = .ok (.lstore 5, 2) := dk_55 5 (dk_at dksX1_centre_3 20 rfl rfl)
theorem dX1_centre_91 : decode cX1_centre 91 = .ok (.iload_n 2, 1) := dk_28 (dk_at dksX1_centre_3 22 rfl rfl)
theorem dX1_centre_92 : decode cX1_centre 92 = .ok (.ifCond .ne 11, 3) := dk_154 0 11 (dk_at dksX1_centre_4 0 rfl rfl)
theorem dX1_centre_95 : decode cX1_centre 95 = .ok (.lload 5, 2) := dk_22 5 (dk_at dksX1_centre_4 3 rfl rfl)
theorem dX1_centre_97 : decode cX1_centre 97 = .ok (.bipush 32, 2) := dk_16 32 (dk_at dksX1_centre_4 5 rfl rfl)
theorem dX1_centre_99 : decode cX1_centre 99 = .ok (.lushr, 1) := dk_125 (dk_at dksX1_centre_4 7 rfl rfl)
theorem dX1_centre_100 : decode cX1_centre 100 = .ok (.goto 5, 3) := dk_167 0 5 (dk_at dksX1_centre_4 8 rfl rfl)
theorem dX1_centre_103 : decode cX1_centre 103 = .ok (.lload 5, 2) := dk_22 5 (dk_at dksX1_centre_4 11 rfl rfl)
theorem dX1_centre_105 : decode cX1_centre 105 = .ok (.l2i, 1) := dk_136 (dk_at dksX1_centre_4 13 rfl rfl)
theorem dX1_centre_106 : decode cX1_centre 106 = .ok (.ireturn, 1) := dk_172 (dk_at dksX1_centre_4 14 rfl rfl)
theorem q110 : (Jvm.Cond.initialized "BitRopes") ∈ lw_all := lw_g (lw_at lw_m1 1 rfl) rfl
theorem q146 : (Jvm.Cond.instantiable "BitRopes" (21 : Nat)) ∈ lw_all := lw_g (lw_at lw_m1 37 rfl) rfl
theorem q148 : (Jvm.Cond.instanceMethod ({ cls := "BitRopes", name := "<init>", desc := "()V" } : Jvm.MethodName)) ∈ lw_all := lw_g (lw_at lw_m1 39 rfl) rfl
theorem q149 : (Jvm.Cond.code ({ cls := "BitRopes", name := "<init>", desc := "()V" } : Jvm.MethodName) prog_1_method_1_code (1 : Nat) (Option.none : Option Jvm.ClassFile.FieldType)) ∈ lw_all := lw_g (lw_at lw_m1 40 rfl) rfl
theorem q150 : (Jvm.Cond.methodLink "BitRopes" (1 : Nat) ({ cls := "java/lang/Object", name := "<init>", desc := "()V" } : Jvm.MethodName)) ∈ lw_all := lw_g (lw_at lw_m1 41 rfl) rfl
theorem q153 : (Jvm.Cond.classLink "BitRopes" (13 : Nat) "BitRopes$Fault") ∈ lw_all := lw_g (lw_at lw_m1 44 rfl) rfl
theorem q192 : (Jvm.Cond.methodLink "BitRopes" (15 : Nat) ({ cls := "BitRopes$Fault", name := "<init>", desc := "()V" } : Jvm.MethodName)) ∈ lw_all := lw_g (lw_at lw_m1 83 rfl) rfl
theorem q201 : (Jvm.Cond.fieldLink "BitRopes" (176 : Nat) "BitRopes$Fault" "kind" "I") ∈ lw_all := lw_g (lw_at lw_m1 92 rfl) rfl
theorem q203 : (Jvm.Cond.fieldLink "BitRopes" (179 : Nat) "BitRopes$Fault" "place" "I") ∈ lw_all := lw_g (lw_at lw_m1 94 rfl) rfl
theorem q223 : (Jvm.Cond.classLink "BitRopes" (20 : Nat) "java/lang/String") ∈ lw_all := lw_g (lw_at lw_m1 114 rfl) rfl
theorem q225 : (Jvm.Cond.stringRef "BitRopes" (22 : Nat) "leaf") ∈ lw_tbl := lw_at lw_m1 116 rfl
theorem q226 : (Jvm.Cond.stringRef "BitRopes" (24 : Nat) "row") ∈ lw_tbl := lw_at lw_m1 117 rfl
theorem q227 : (Jvm.Cond.stringRef "BitRopes" (26 : Nat) "letters") ∈ lw_tbl := lw_at lw_m1 118 rfl
theorem q228 : (Jvm.Cond.stringRef "BitRopes" (32 : Nat) "put") ∈ lw_tbl := lw_at lw_m1 119 rfl
theorem q229 : (Jvm.Cond.stringRef "BitRopes" (34 : Nat) "set") ∈ lw_tbl := lw_at lw_m1 120 rfl
theorem q230 : (Jvm.Cond.stringRef "BitRopes" (36 : Nat) "cut") ∈ lw_tbl := lw_at lw_m1 121 rfl
theorem q231 : (Jvm.Cond.stringRef "BitRopes" (38 : Nat) "turn") ∈ lw_tbl := lw_at lw_m1 122 rfl
theorem q232 : (Jvm.Cond.stringRef "BitRopes" (40 : Nat) "join") ∈ lw_tbl := lw_at lw_m1 123 rfl
theorem q233 : (Jvm.Cond.stringRef "BitRopes" (42 : Nat) "split") ∈ lw_tbl := lw_at lw_m1 124 rfl
theorem q234 : (Jvm.Cond.stringRef "BitRopes" (44 : Nat) "type") ∈ lw_tbl := lw_at lw_m1 125 rfl
theorem q235 : (Jvm.Cond.stringRef "BitRopes" (46 : Nat) "erase") ∈ lw_tbl := lw_at lw_m1 126 rfl
theorem q236 : (Jvm.Cond.stringRef "BitRopes" (48 : Nat) "o\x72") ∈ lw_tbl := lw_at lw_m1 127 rfl
theorem q237 : (Jvm.Cond.stringRef "BitRopes" (50 : Nat) "and") ∈ lw_tbl := lw_at lw_m1 128 rfl
theorem q238 : (Jvm.Cond.stringRef "BitRopes" (52 : Nat) "not") ∈ lw_tbl := lw_at lw_m1 129 rfl
theorem q239 : (Jvm.Cond.stringRef "BitRopes" (54 : Nat) "empty") ∈ lw_tbl := lw_at lw_m1 130 rfl
theorem q240 : (Jvm.Cond.stringRef "BitRopes" (56 : Nat) "even") ∈ lw_tbl := lw_at lw_m1 131 rfl
theorem q241 : (Jvm.Cond.stringRef "BitRopes" (58 : Nat) "like") ∈ lw_tbl := lw_at lw_m1 132 rfl
theorem q242 : (Jvm.Cond.stringRef "BitRopes" (60 : Nat) "begins") ∈ lw_tbl := lw_at lw_m1 133 rfl
theorem q243 : (Jvm.Cond.stringRef "BitRopes" (62 : Nat) "size") ∈ lw_tbl := lw_at lw_m1 134 rfl
theorem q244 : (Jvm.Cond.stringRef "BitRopes" (64 : Nat) "ones") ∈ lw_tbl := lw_at lw_m1 135 rfl
theorem q245 : (Jvm.Cond.stringRef "BitRopes" (66 : Nat) "runs") ∈ lw_tbl := lw_at lw_m1 136 rfl
theorem q246 : (Jvm.Cond.stringRef "BitRopes" (68 : Nat) "leaves") ∈ lw_tbl := lw_at lw_m1 137 rfl
theorem q247 : (Jvm.Cond.stringRef "BitRopes" (70 : Nat) "numbe\x72") ∈ lw_tbl := lw_at lw_m1 138 rfl
theorem q248 : (Jvm.Cond.classLink "BitRopes" (75 : Nat) "BitRopes$Room") ∈ lw_all := lw_g (lw_at lw_m1 139 rfl) rfl
theorem q250 : (Jvm.Cond.methodLinkNest "BitRopes" (77 : Nat) ({ cls := "BitRopes$Room", name := "<init>", desc := "()V" } : Jvm.MethodName) "BitRopes") ∈ lw_tbl := lw_at lw_m1 141 rfl
theorem q262 : (Jvm.Cond.fieldLinkNest "BitRopes" (165 : Nat) "BitRopes$Room" "rows" "I" "BitRopes") ∈ lw_tbl := lw_at lw_m1 153 rfl
theorem q266 : (Jvm.Cond.fieldLinkNest "BitRopes" (405 : Nat) "BitRopes$Room" "low" "I" "BitRopes") ∈ lw_tbl := lw_at lw_m1 157 rfl
theorem q275 : (Jvm.Cond.classLink "BitRopes" (82 : Nat) "BitRopes$State") ∈ lw_all := lw_g (lw_at lw_m1 166 rfl) rfl
theorem q277 : (Jvm.Cond.methodLink "BitRopes" (84 : Nat) ({ cls := "BitRopes$State", name := "<init>", desc := "()V" } : Jvm.MethodName)) ∈ lw_all := lw_g (lw_at lw_m1 168 rfl) rfl
theorem q292 : (Jvm.Cond.fieldLinkNest "BitRopes" (246 : Nat) "BitRopes$Rope" "root" "LBitRopes$Node;" "BitRopes") ∈ lw_tbl := lw_at lw_m1 183 rfl
theorem q297 : (Jvm.Cond.fieldLinkNest "BitRopes" (254 : Nat) "BitRopes$Rope" "mixed" "I" "BitRopes") ∈ lw_tbl := lw_at lw_m1 188 rfl
theorem q323 : (Jvm.Cond.fieldLinkNest "BitRopes" (190 : Nat) "BitRopes$State" "rope" "[LBitRopes$Rope;" "BitRopes") ∈ lw_tbl := lw_at lw_m1 214 rfl
theorem q325 : (Jvm.Cond.fieldLinkNest "BitRopes" (347 : Nat) "BitRopes$State" "node" "[LBitRopes$Rope;" "BitRopes") ∈ lw_tbl := lw_at lw_m1 216 rfl
theorem q327 : (Jvm.Cond.fieldLinkNest "BitRopes" (168 : Nat) "BitRopes$State" "rows" "I" "BitRopes") ∈ lw_tbl := lw_at lw_m1 218 rfl
theorem q338 : (Jvm.Cond.classLink "BitRopes" (92 : Nat) "BitRopes$RoomReade\x72") ∈ lw_all := lw_g (lw_at lw_m1 229 rfl) rfl
theorem q340 : (Jvm.Cond.methodLink "BitRopes" (94 : Nat) ({ cls := "BitRopes$RoomReade\x72", name := "<init>", desc := "(LBitRopes;)V" } : Jvm.MethodName)) ∈ lw_all := lw_g (lw_at lw_m1 231 rfl) rfl
theorem q398 : (Jvm.Cond.classLink "BitRopes" (101 : Nat) "BitRopes$BookReade\x72") ∈ lw_all := lw_g (lw_at lw_m2 49 rfl) rfl
theorem q400 : (Jvm.Cond.methodLink "BitRopes" (103 : Nat) ({ cls := "BitRopes$BookReade\x72", name := "<init>", desc := "(LBitRopes;)V" } : Jvm.MethodName)) ∈ lw_all := lw_g (lw_at lw_m2 51 rfl) rfl
theorem q417 : (Jvm.Cond.fieldLinkNest "BitRopes" (358 : Nat) "BitRopes$BookReade\x72" "row" "[LBitRopes$Deed;" "BitRopes") ∈ lw_tbl := lw_at lw_m2 68 rfl
theorem q419 : (Jvm.Cond.fieldLinkNest "BitRopes" (355 : Nat) "BitRopes$BookReade\x72" "n" "I" "BitRopes") ∈ lw_tbl := lw_at lw_m2 70 rfl
theorem q438 : (Jvm.Cond.methodLink "BitRopes" (108 : Nat) ({ cls := "BitRopes$State", name := "begin", desc := "(LBitRopes$Room;)V" } : Jvm.MethodName)) ∈ lw_all := lw_g (lw_at lw_m2 89 rfl) rfl
theorem q450 : (Jvm.Cond.classLink "BitRopes" (120 : Nat) "[LBitRopes$Packed;") ∈ lw_all := lw_g (lw_at lw_m2 101 rfl) rfl
theorem q453 : (Jvm.Cond.classLink "BitRopes" (129 : Nat) "BitRopes$SentenceReade\x72") ∈ lw_all := lw_g (lw_at lw_m2 104 rfl) rfl
theorem q455 : (Jvm.Cond.methodLink "BitRopes" (131 : Nat) ({ cls := "BitRopes$SentenceReade\x72", name := "<init>", desc := "(LBitRopes;)V" } : Jvm.MethodName)) ∈ lw_all := lw_g (lw_at lw_m2 106 rfl) rfl
theorem q472 : (Jvm.Cond.fieldLinkNest "BitRopes" (385 : Nat) "BitRopes$SentenceReade\x72" "parts" "I" "BitRopes") ∈ lw_tbl := lw_at lw_m2 123 rfl
theorem q492 : (Jvm.Cond.classLink "BitRopes" (136 : Nat) "BitRopes$Kept") ∈ lw_all := lw_g (lw_at lw_m2 143 rfl) rfl
theorem q494 : (Jvm.Cond.fieldLink "BitRopes" (9 : Nat) "BitRopes" "tape" "[B") ∈ lw_all := lw_g (lw_at lw_m2 145 rfl) rfl
theorem q497 : (Jvm.Cond.fieldLink "BitRopes" (142 : Nat) "BitRopes" "length" "I") ∈ lw_all := lw_g (lw_at lw_m2 148 rfl) rfl
theorem q499 : (Jvm.Cond.fieldLink "BitRopes" (149 : Nat) "BitRopes" "held" "I") ∈ lw_all := lw_g (lw_at lw_m2 150 rfl) rfl
theorem q500 : (Jvm.Cond.fieldLink "BitRopes" (16 : Nat) "BitRopes" "broken" "LBitRopes$Fault;") ∈ lw_all := lw_g (lw_at lw_m2 151 rfl) rfl
theorem q502 : (Jvm.Cond.fieldLink "BitRopes" (28 : Nat) "BitRopes" "lines" "[Ljava/lang/String;") ∈ lw_all := lw_g (lw_at lw_m2 153 rfl) rfl
theorem q505 : (Jvm.Cond.fieldLink "BitRopes" (72 : Nat) "BitRopes" "words" "[Ljava/lang/String;") ∈ lw_all := lw_g (lw_at lw_m2 156 rfl) rfl
theorem q507 : (Jvm.Cond.fieldLink "BitRopes" (78 : Nat) "BitRopes" "room" "LBitRopes$Room;") ∈ lw_all := lw_g (lw_at lw_m2 158 rfl) rfl
theorem q510 : (Jvm.Cond.fieldLink "BitRopes" (85 : Nat) "BitRopes" "now" "LBitRopes$State;") ∈ lw_all := lw_g (lw_at lw_m2 161 rfl) rfl
theorem q511 : (Jvm.Cond.fieldLink "BitRopes" (89 : Nat) "BitRopes" "tried" "LBitRopes$State;") ∈ lw_all := lw_g (lw_at lw_m2 162 rfl) rfl
theorem q512 : (Jvm.Cond.fieldLink "BitRopes" (97 : Nat) "BitRopes" "roomReade\x72" "LBitRopes$RoomReader;") ∈ lw_all := lw_g (lw_at lw_m2 163 rfl) rfl
theorem q513 : (Jvm.Cond.fieldLink "BitRopes" (104 : Nat) "BitRopes" "bookReade\x72" "LBitRopes$BookReader;") ∈ lw_all := lw_g (lw_at lw_m2 164 rfl) rfl
theorem q514 : (Jvm.Cond.fieldLink "BitRopes" (158 : Nat) "BitRopes" "fault" "I") ∈ lw_all := lw_g (lw_at lw_m2 165 rfl) rfl
theorem q515 : (Jvm.Cond.fieldLink "BitRopes" (112 : Nat) "BitRopes" "seeks" "[I") ∈ lw_all := lw_g (lw_at lw_m2 166 rfl) rfl
theorem q516 : (Jvm.Cond.fieldLink "BitRopes" (116 : Nat) "BitRopes" "seekMany" "I") ∈ lw_all := lw_g (lw_at lw_m2 167 rfl) rfl
theorem q517 : (Jvm.Cond.fieldLink "BitRopes" (122 : Nat) "BitRopes" "ahead" "[[LBitRopes$Packed;") ∈ lw_all := lw_g (lw_at lw_m2 168 rfl) rfl
theorem q518 : (Jvm.Cond.fieldLink "BitRopes" (169 : Nat) "BitRopes" "undoMany" "I") ∈ lw_all := lw_g (lw_at lw_m2 169 rfl) rfl
theorem q519 : (Jvm.Cond.fieldLink "BitRopes" (126 : Nat) "BitRopes" "toldRow" "[I") ∈ lw_all := lw_g (lw_at lw_m2 170 rfl) rfl
theorem q520 : (Jvm.Cond.fieldLink "BitRopes" (378 : Nat) "BitRopes" "hasTold" "Z") ∈ lw_all := lw_g (lw_at lw_m2 171 rfl) rfl
theorem q521 : (Jvm.Cond.fieldLink "BitRopes" (132 : Nat) "BitRopes" "sentenceReade\x72" "LBitRopes$SentenceReader;") ∈ lw_all := lw_g (lw_at lw_m2 172 rfl) rfl
theorem q522 : (Jvm.Cond.fieldLink "BitRopes" (172 : Nat) "BitRopes" "sentence" "LBitRopes$Cond;") ∈ lw_all := lw_g (lw_at lw_m2 173 rfl) rfl
theorem q523 : (Jvm.Cond.fieldLink "BitRopes" (138 : Nat) "BitRopes" "images" "[LBitRopes$Kept;") ∈ lw_all := lw_g (lw_at lw_m2 174 rfl) rfl
theorem q524 : (Jvm.Cond.laysFinal "BitRopes" "BitRopes" "tape" "[B") ∈ lw_all := lw_g (lw_at lw_m2 175 rfl) rfl
theorem q525 : (Jvm.Cond.soleField "BitRopes" "tape") ∈ lw_all := lw_g (lw_at lw_m2 176 rfl) rfl
theorem q526 : (Jvm.Cond.lays "BitRopes" "BitRopes" "length" "I") ∈ lw_all := lw_g (lw_at lw_m2 177 rfl) rfl
theorem q527 : (Jvm.Cond.soleField "BitRopes" "length") ∈ lw_all := lw_g (lw_at lw_m2 178 rfl) rfl
theorem q528 : (Jvm.Cond.lays "BitRopes" "BitRopes" "held" "I") ∈ lw_all := lw_g (lw_at lw_m2 179 rfl) rfl
theorem q529 : (Jvm.Cond.soleField "BitRopes" "held") ∈ lw_all := lw_g (lw_at lw_m2 180 rfl) rfl
theorem q530 : (Jvm.Cond.laysFinal "BitRopes" "BitRopes" "broken" "LBitRopes$Fault;") ∈ lw_all := lw_g (lw_at lw_m2 181 rfl) rfl
theorem q531 : (Jvm.Cond.soleField "BitRopes" "broken") ∈ lw_all := lw_g (lw_at lw_m2 182 rfl) rfl
theorem q532 : (Jvm.Cond.laysFinal "BitRopes" "BitRopes" "lines" "[Ljava/lang/String;") ∈ lw_all := lw_g (lw_at lw_m2 183 rfl) rfl
theorem q533 : (Jvm.Cond.soleField "BitRopes" "lines") ∈ lw_all := lw_g (lw_at lw_m2 184 rfl) rfl
theorem q534 : (Jvm.Cond.laysFinal "BitRopes" "BitRopes" "words" "[Ljava/lang/String;") ∈ lw_all := lw_g (lw_at lw_m2 185 rfl) rfl
theorem q535 : (Jvm.Cond.soleField "BitRopes" "words") ∈ lw_all := lw_g (lw_at lw_m2 186 rfl) rfl
theorem q536 : (Jvm.Cond.lays "BitRopes" "BitRopes" "room" "LBitRopes$Room;") ∈ lw_all := lw_g (lw_at lw_m2 187 rfl) rfl
theorem q537 : (Jvm.Cond.soleField "BitRopes" "room") ∈ lw_all := lw_g (lw_at lw_m2 188 rfl) rfl
theorem q538 : (Jvm.Cond.lays "BitRopes" "BitRopes" "now" "LBitRopes$State;") ∈ lw_all := lw_g (lw_at lw_m2 189 rfl) rfl
theorem q539 : (Jvm.Cond.soleField "BitRopes" "now") ∈ lw_all := lw_g (lw_at lw_m2 190 rfl) rfl
theorem q540 : (Jvm.Cond.lays "BitRopes" "BitRopes" "tried" "LBitRopes$State;") ∈ lw_all := lw_g (lw_at lw_m2 191 rfl) rfl
theorem q541 : (Jvm.Cond.soleField "BitRopes" "tried") ∈ lw_all := lw_g (lw_at lw_m2 192 rfl) rfl
theorem q542 : (Jvm.Cond.laysFinal "BitRopes" "BitRopes" "roomReade\x72" "LBitRopes$RoomReader;") ∈ lw_all := lw_g (lw_at lw_m2 193 rfl) rfl
theorem q543 : (Jvm.Cond.soleField "BitRopes" "roomReade\x72") ∈ lw_all := lw_g (lw_at lw_m2 194 rfl) rfl
theorem q544 : (Jvm.Cond.laysFinal "BitRopes" "BitRopes" "bookReade\x72" "LBitRopes$BookReader;") ∈ lw_all := lw_g (lw_at lw_m2 195 rfl) rfl
theorem q545 : (Jvm.Cond.soleField "BitRopes" "bookReade\x72") ∈ lw_all := lw_g (lw_at lw_m2 196 rfl) rfl
theorem q546 : (Jvm.Cond.lays "BitRopes" "BitRopes" "fault" "I") ∈ lw_all := lw_g (lw_at lw_m2 197 rfl) rfl
theorem q547 : (Jvm.Cond.soleField "BitRopes" "fault") ∈ lw_all := lw_g (lw_at lw_m2 198 rfl) rfl
theorem q548 : (Jvm.Cond.laysFinal "BitRopes" "BitRopes" "seeks" "[I") ∈ lw_all := lw_g (lw_at lw_m2 199 rfl) rfl
theorem q549 : (Jvm.Cond.soleField "BitRopes" "seeks") ∈ lw_all := lw_g (lw_at lw_m2 200 rfl) rfl
theorem q550 : (Jvm.Cond.lays "BitRopes" "BitRopes" "seekMany" "I") ∈ lw_all := lw_g (lw_at lw_m2 201 rfl) rfl
theorem q551 : (Jvm.Cond.soleField "BitRopes" "seekMany") ∈ lw_all := lw_g (lw_at lw_m2 202 rfl) rfl
theorem q552 : (Jvm.Cond.laysFinal "BitRopes" "BitRopes" "ahead" "[[LBitRopes$Packed;") ∈ lw_all := lw_g (lw_at lw_m2 203 rfl) rfl
theorem q553 : (Jvm.Cond.soleField "BitRopes" "ahead") ∈ lw_all := lw_g (lw_at lw_m2 204 rfl) rfl
theorem q554 : (Jvm.Cond.lays "BitRopes" "BitRopes" "undoMany" "I") ∈ lw_all := lw_g (lw_at lw_m2 205 rfl) rfl
theorem q555 : (Jvm.Cond.soleField "BitRopes" "undoMany") ∈ lw_all := lw_g (lw_at lw_m2 206 rfl) rfl
theorem q556 : (Jvm.Cond.laysFinal "BitRopes" "BitRopes" "toldRow" "[I") ∈ lw_all := lw_g (lw_at lw_m2 207 rfl) rfl
theorem q557 : (Jvm.Cond.soleField "BitRopes" "toldRow") ∈ lw_all := lw_g (lw_at lw_m2 208 rfl) rfl
theorem q558 : (Jvm.Cond.lays "BitRopes" "BitRopes" "hasTold" "Z") ∈ lw_all := lw_g (lw_at lw_m2 209 rfl) rfl
theorem q559 : (Jvm.Cond.soleField "BitRopes" "hasTold") ∈ lw_all := lw_g (lw_at lw_m2 210 rfl) rfl
theorem q560 : (Jvm.Cond.laysFinal "BitRopes" "BitRopes" "sentenceReade\x72" "LBitRopes$SentenceReader;") ∈ lw_all := lw_g (lw_at lw_m2 211 rfl) rfl
theorem q561 : (Jvm.Cond.soleField "BitRopes" "sentenceReade\x72") ∈ lw_all := lw_g (lw_at lw_m2 212 rfl) rfl
theorem q562 : (Jvm.Cond.lays "BitRopes" "BitRopes" "sentence" "LBitRopes$Cond;") ∈ lw_all := lw_g (lw_at lw_m2 213 rfl) rfl
theorem q563 : (Jvm.Cond.soleField "BitRopes" "sentence") ∈ lw_all := lw_g (lw_at lw_m2 214 rfl) rfl
theorem q564 : (Jvm.Cond.laysFinal "BitRopes" "BitRopes" "images" "[LBitRopes$Kept;") ∈ lw_all := lw_g (lw_at lw_m2 215 rfl) rfl
theorem q565 : (Jvm.Cond.soleField "BitRopes" "images") ∈ lw_all := lw_g (lw_at lw_m2 216 rfl) rfl
theorem q566 : (Jvm.Cond.superclass "BitRopes" "java/lang/Object") ∈ lw_all := lw_g (lw_at lw_m2 217 rfl) rfl
theorem q568 : (Jvm.Cond.instanceMethod ({ cls := "BitRopes", name := "feed", desc := "(IIIII)I" } : Jvm.MethodName)) ∈ lw_all := lw_g (lw_at lw_m2 219 rfl) rfl
theorem q569 : (Jvm.Cond.selects "BitRopes" ({ cls := "BitRopes", name := "feed", desc := "(IIIII)I" } : Jvm.MethodName) ({ cls := "BitRopes", name := "feed", desc := "(IIIII)I" } : Jvm.MethodName)) ∈ lw_all := lw_g (lw_at lw_m2 220 rfl) rfl
theorem q570 : (Jvm.Cond.code ({ cls := "BitRopes", name := "feed", desc := "(IIIII)I" } : Jvm.MethodName) prog_1_method_2_code (6 : Nat) (Option.some Jvm.ClassFile.FieldType.int)) ∈ lw_all := lw_g (lw_at lw_m2 221 rfl) rfl
theorem q571 : (Jvm.Cond.methodLink "BitRopes" (145 : Nat) ({ cls := "BitRopes", name := "fou\x72", desc := "(I)V" } : Jvm.MethodName)) ∈ lw_all := lw_g (lw_at lw_m2 222 rfl) rfl
theorem q572 : (Jvm.Cond.privateMethod ({ cls := "BitRopes", name := "fou\x72", desc := "(I)V" } : Jvm.MethodName)) ∈ lw_tbl := lw_at lw_m2 223 rfl
theorem q573 : (Jvm.Cond.instanceMethod ({ cls := "BitRopes", name := "fou\x72", desc := "(I)V" } : Jvm.MethodName)) ∈ lw_all := lw_g (lw_at lw_m2 224 rfl) rfl
theorem q574 : (Jvm.Cond.code ({ cls := "BitRopes", name := "fou\x72", desc := "(I)V" } : Jvm.MethodName) prog_1_method_3_code (3 : Nat) (Option.none : Option Jvm.ClassFile.FieldType)) ∈ lw_all := lw_g (lw_at lw_m2 225 rfl) rfl
theorem q576 : (Jvm.Cond.instanceMethod ({ cls := "BitRopes", name := "end", desc := "(I)Z" } : Jvm.MethodName)) ∈ lw_all := lw_g (lw_at lw_m2 227 rfl) rfl
theorem q577 : (Jvm.Cond.selects "BitRopes" ({ cls := "BitRopes", name := "end", desc := "(I)Z" } : Jvm.MethodName) ({ cls := "BitRopes", name := "end", desc := "(I)Z" } : Jvm.MethodName)) ∈ lw_all := lw_g (lw_at lw_m2 228 rfl) rfl
theorem q578 : (Jvm.Cond.code ({ cls := "BitRopes", name := "end", desc := "(I)Z" } : Jvm.MethodName) prog_1_method_4_code (2 : Nat) (Option.some Jvm.ClassFile.FieldType.boolean)) ∈ lw_all := lw_g (lw_at lw_m2 229 rfl) rfl
theorem q580 : (Jvm.Cond.instanceMethod ({ cls := "BitRopes", name := "room", desc := "()I" } : Jvm.MethodName)) ∈ lw_all := lw_g (lw_at lw_m2 231 rfl) rfl
theorem q581 : (Jvm.Cond.selects "BitRopes" ({ cls := "BitRopes", name := "room", desc := "()I" } : Jvm.MethodName) ({ cls := "BitRopes", name := "room", desc := "()I" } : Jvm.MethodName)) ∈ lw_all := lw_g (lw_at lw_m2 232 rfl) rfl
theorem q582 : (Jvm.Cond.codeWith ({ cls := "BitRopes", name := "room", desc := "()I" } : Jvm.MethodName) prog_1_method_10_code (4 : Nat) (Option.some Jvm.ClassFile.FieldType.int) [((25 : Nat), (83 : Nat), (84 : Nat), (13 : Nat))]) ∈ lw_all := lw_g (lw_at lw_m2 233 rfl) rfl
theorem q583 : (Jvm.Cond.methodLink "BitRopes" (155 : Nat) ({ cls := "BitRopes", name := "consume", desc := "()V" } : Jvm.MethodName)) ∈ lw_all := lw_g (lw_at lw_m2 234 rfl) rfl
theorem q584 : (Jvm.Cond.privateMethod ({ cls := "BitRopes", name := "consume", desc := "()V" } : Jvm.MethodName)) ∈ lw_tbl := lw_at lw_m2 235 rfl
theorem q585 : (Jvm.Cond.instanceMethod ({ cls := "BitRopes", name := "consume", desc := "()V" } : Jvm.MethodName)) ∈ lw_all := lw_g (lw_at lw_m2 236 rfl) rfl
theorem q586 : (Jvm.Cond.code ({ cls := "BitRopes", name := "consume", desc := "()V" } : Jvm.MethodName) prog_1_method_5_code (1 : Nat) (Option.none : Option Jvm.ClassFile.FieldType)) ∈ lw_all := lw_g (lw_at lw_m2 237 rfl) rfl
theorem q587 : (Jvm.Cond.methodLink "BitRopes" (161 : Nat) ({ cls := "BitRopes$RoomReade\x72", name := "read", desc := "(LBitRopes$Room;LBitRopes$State;)I" } : Jvm.MethodName)) ∈ lw_all := lw_g (lw_at lw_m2 238 rfl) rfl
theorem q613 : (Jvm.Cond.static ({ cls := "BitRopes", name := "isIn", desc := "(III)Z" } : Jvm.MethodName)) ∈ lw_all := lw_g (lw_at lw_m3 24 rfl) rfl
theorem q614 : (Jvm.Cond.code ({ cls := "BitRopes", name := "isIn", desc := "(III)Z" } : Jvm.MethodName) prog_1_method_7_code (3 : Nat) (Option.some Jvm.ClassFile.FieldType.boolean)) ∈ lw_all := lw_g (lw_at lw_m3 25 rfl) rfl
theorem q786 : (Jvm.Cond.fieldLink "BitRopes" (240 : Nat) "BitRopes$Leaf" "size" "I") ∈ lw_all := lw_g (lw_at lw_m3 197 rfl) rfl
theorem q794 : (Jvm.Cond.fieldLink "BitRopes" (244 : Nat) "BitRopes$Leaf" "ones" "I") ∈ lw_all := lw_g (lw_at lw_m3 205 rfl) rfl
theorem q889 : (Jvm.Cond.instanceMethod ({ cls := "BitRopes", name := "fault", desc := "()I" } : Jvm.MethodName)) ∈ lw_all := lw_g (lw_at lw_m4 60 rfl) rfl
theorem q890 : (Jvm.Cond.selects "BitRopes" ({ cls := "BitRopes", name := "fault", desc := "()I" } : Jvm.MethodName) ({ cls := "BitRopes", name := "fault", desc := "()I" } : Jvm.MethodName)) ∈ lw_all := lw_g (lw_at lw_m4 61 rfl) rfl
theorem q891 : (Jvm.Cond.code ({ cls := "BitRopes", name := "fault", desc := "()I" } : Jvm.MethodName) prog_1_method_11_code (1 : Nat) (Option.some Jvm.ClassFile.FieldType.int)) ∈ lw_all := lw_g (lw_at lw_m4 62 rfl) rfl
theorem q893 : (Jvm.Cond.instanceMethod ({ cls := "BitRopes", name := "size", desc := "(I)I" } : Jvm.MethodName)) ∈ lw_all := lw_g (lw_at lw_m4 64 rfl) rfl
theorem q894 : (Jvm.Cond.selects "BitRopes" ({ cls := "BitRopes", name := "size", desc := "(I)I" } : Jvm.MethodName) ({ cls := "BitRopes", name := "size", desc := "(I)I" } : Jvm.MethodName)) ∈ lw_all := lw_g (lw_at lw_m4 65 rfl) rfl
theorem q895 : (Jvm.Cond.code ({ cls := "BitRopes", name := "size", desc := "(I)I" } : Jvm.MethodName) prog_1_method_14_code (2 : Nat) (Option.some Jvm.ClassFile.FieldType.int)) ∈ lw_all := lw_g (lw_at lw_m4 66 rfl) rfl
theorem q896 : (Jvm.Cond.methodLink "BitRopes" (186 : Nat) ({ cls := "BitRopes", name := "isRow", desc := "(I)Z" } : Jvm.MethodName)) ∈ lw_all := lw_g (lw_at lw_m4 67 rfl) rfl
theorem q897 : (Jvm.Cond.privateMethod ({ cls := "BitRopes", name := "isRow", desc := "(I)Z" } : Jvm.MethodName)) ∈ lw_tbl := lw_at lw_m4 68 rfl
theorem q898 : (Jvm.Cond.instanceMethod ({ cls := "BitRopes", name := "isRow", desc := "(I)Z" } : Jvm.MethodName)) ∈ lw_all := lw_g (lw_at lw_m4 69 rfl) rfl
theorem q899 : (Jvm.Cond.code ({ cls := "BitRopes", name := "isRow", desc := "(I)Z" } : Jvm.MethodName) prog_1_method_12_code (2 : Nat) (Option.some Jvm.ClassFile.FieldType.boolean)) ∈ lw_all := lw_g (lw_at lw_m4 70 rfl) rfl
theorem q900 : (Jvm.Cond.methodLink "BitRopes" (182 : Nat) ({ cls := "BitRopes", name := "isIn", desc := "(III)Z" } : Jvm.MethodName)) ∈ lw_all := lw_g (lw_at lw_m4 71 rfl) rfl
theorem q901 : (Jvm.Cond.methodLink "BitRopes" (194 : Nat) ({ cls := "BitRopes$Rope", name := "wide", desc := "()I" } : Jvm.MethodName)) ∈ lw_all := lw_g (lw_at lw_m4 72 rfl) rfl
theorem q903 : (Jvm.Cond.instanceMethod ({ cls := "BitRopes", name := "bit", desc := "(II)I" } : Jvm.MethodName)) ∈ lw_all := lw_g (lw_at lw_m4 74 rfl) rfl
theorem q904 : (Jvm.Cond.selects "BitRopes" ({ cls := "BitRopes", name := "bit", desc := "(II)I" } : Jvm.MethodName) ({ cls := "BitRopes", name := "bit", desc := "(II)I" } : Jvm.MethodName)) ∈ lw_all := lw_g (lw_at lw_m4 75 rfl) rfl
theorem q905 : (Jvm.Cond.code ({ cls := "BitRopes", name := "bit", desc := "(II)I" } : Jvm.MethodName) prog_1_method_16_code (3 : Nat) (Option.some Jvm.ClassFile.FieldType.int)) ∈ lw_all := lw_g (lw_at lw_m4 76 rfl) rfl
theorem q906 : (Jvm.Cond.methodLink "BitRopes" (204 : Nat) ({ cls := "BitRopes", name := "rope", desc := "(I)LBitRopes$Rope;" } : Jvm.MethodName)) ∈ lw_all := lw_g (lw_at lw_m4 77 rfl) rfl
theorem q907 : (Jvm.Cond.privateMethod ({ cls := "BitRopes", name := "rope", desc := "(I)LBitRopes$Rope;" } : Jvm.MethodName)) ∈ lw_tbl := lw_at lw_m4 78 rfl
theorem q908 : (Jvm.Cond.instanceMethod ({ cls := "BitRopes", name := "rope", desc := "(I)LBitRopes$Rope;" } : Jvm.MethodName)) ∈ lw_all := lw_g (lw_at lw_m4 79 rfl) rfl
theorem q909 : (Jvm.Cond.code ({ cls := "BitRopes", name := "rope", desc := "(I)LBitRopes$Rope;" } : Jvm.MethodName) prog_1_method_15_code (2 : Nat) (Option.some (Jvm.ClassFile.FieldType.object "BitRopes$Rope"))) ∈ lw_all := lw_g (lw_at lw_m4 80 rfl) rfl
theorem q910 : (Jvm.Cond.methodLink "BitRopes" (200 : Nat) ({ cls := "BitRopes$Rope", name := "ready", desc := "()LBitRopes$Rope;" } : Jvm.MethodName)) ∈ lw_all := lw_g (lw_at lw_m4 81 rfl) rfl
theorem q970 : (Jvm.Cond.methodLink "BitRopes" (207 : Nat) ({ cls := "BitRopes$Rope", name := "get", desc := "(I)I" } : Jvm.MethodName)) ∈ lw_all := lw_g (lw_at lw_m4 141 rfl) rfl
theorem q975 : (Jvm.Cond.instanceMethod ({ cls := "BitRopes", name := "rank", desc := "(III)I" } : Jvm.MethodName)) ∈ lw_all := lw_g (lw_at lw_m4 146 rfl) rfl
theorem q976 : (Jvm.Cond.selects "BitRopes" ({ cls := "BitRopes", name := "rank", desc := "(III)I" } : Jvm.MethodName) ({ cls := "BitRopes", name := "rank", desc := "(III)I" } : Jvm.MethodName)) ∈ lw_all := lw_g (lw_at lw_m4 147 rfl) rfl
theorem q977 : (Jvm.Cond.code ({ cls := "BitRopes", name := "rank", desc := "(III)I" } : Jvm.MethodName) prog_1_method_17_code (4 : Nat) (Option.some Jvm.ClassFile.FieldType.int)) ∈ lw_all := lw_g (lw_at lw_m4 148 rfl) rfl
theorem q978 : (Jvm.Cond.methodLink "BitRopes" (211 : Nat) ({ cls := "BitRopes$Rope", name := "before", desc := "(II)I" } : Jvm.MethodName)) ∈ lw_all := lw_g (lw_at lw_m4 149 rfl) rfl
theorem q980 : (Jvm.Cond.instanceMethod ({ cls := "BitRopes", name := "select", desc := "(III)I" } : Jvm.MethodName)) ∈ lw_all := lw_g (lw_at lw_m4 151 rfl) rfl
theorem q981 : (Jvm.Cond.selects "BitRopes" ({ cls := "BitRopes", name := "select", desc := "(III)I" } : Jvm.MethodName) ({ cls := "BitRopes", name := "select", desc := "(III)I" } : Jvm.MethodName)) ∈ lw_all := lw_g (lw_at lw_m4 152 rfl) rfl
theorem q982 : (Jvm.Cond.code ({ cls := "BitRopes", name := "select", desc := "(III)I" } : Jvm.MethodName) prog_1_method_18_code (4 : Nat) (Option.some Jvm.ClassFile.FieldType.int)) ∈ lw_all := lw_g (lw_at lw_m4 153 rfl) rfl
theorem q983 : (Jvm.Cond.methodLink "BitRopes" (215 : Nat) ({ cls := "BitRopes$Rope", name := "many", desc := "(I)I" } : Jvm.MethodName)) ∈ lw_all := lw_g (lw_at lw_m4 154 rfl) rfl
theorem q992 : (Jvm.Cond.methodLink "BitRopes" (218 : Nat) ({ cls := "BitRopes$Rope", name := "where", desc := "(II)I" } : Jvm.MethodName)) ∈ lw_all := lw_g (lw_at lw_m4 163 rfl) rfl
theorem q997 : (Jvm.Cond.instanceMethod ({ cls := "BitRopes", name := "find", desc := "(III)I" } : Jvm.MethodName)) ∈ lw_all := lw_g (lw_at lw_m4 168 rfl) rfl
theorem q998 : (Jvm.Cond.selects "BitRopes" ({ cls := "BitRopes", name := "find", desc := "(III)I" } : Jvm.MethodName) ({ cls := "BitRopes", name := "find", desc := "(III)I" } : Jvm.MethodName)) ∈ lw_all := lw_g (lw_at lw_m4 169 rfl) rfl
theorem q999 : (Jvm.Cond.code ({ cls := "BitRopes", name := "find", desc := "(III)I" } : Jvm.MethodName) prog_1_method_19_code (5 : Nat) (Option.some Jvm.ClassFile.FieldType.int)) ∈ lw_all := lw_g (lw_at lw_m4 170 rfl) rfl
theorem q1001 : (Jvm.Cond.instanceMethod ({ cls := "BitRopes", name := "runs", desc := "(I)I" } : Jvm.MethodName)) ∈ lw_all := lw_g (lw_at lw_m4 172 rfl) rfl
theorem q1002 : (Jvm.Cond.selects "BitRopes" ({ cls := "BitRopes", name := "runs", desc := "(I)I" } : Jvm.MethodName) ({ cls := "BitRopes", name := "runs", desc := "(I)I" } : Jvm.MethodName)) ∈ lw_all := lw_g (lw_at lw_m4 173 rfl) rfl
theorem q1003 : (Jvm.Cond.code ({ cls := "BitRopes", name := "runs", desc := "(I)I" } : Jvm.MethodName) prog_1_method_21_code (2 : Nat) (Option.some Jvm.ClassFile.FieldType.int)) ∈ lw_all := lw_g (lw_at lw_m4 174 rfl) rfl
theorem q1004 : (Jvm.Cond.methodLink "BitRopes" (221 : Nat) ({ cls := "BitRopes", name := "runsOf", desc := "(I)I" } : Jvm.MethodName)) ∈ lw_all := lw_g (lw_at lw_m4 175 rfl) rfl
theorem q1005 : (Jvm.Cond.privateMethod ({ cls := "BitRopes", name := "runsOf", desc := "(I)I" } : Jvm.MethodName)) ∈ lw_tbl := lw_at lw_m4 176 rfl
theorem q1006 : (Jvm.Cond.instanceMethod ({ cls := "BitRopes", name := "runsOf", desc := "(I)I" } : Jvm.MethodName)) ∈ lw_all := lw_g (lw_at lw_m4 177 rfl) rfl
theorem q1007 : (Jvm.Cond.code ({ cls := "BitRopes", name := "runsOf", desc := "(I)I" } : Jvm.MethodName) prog_1_method_20_code (4 : Nat) (Option.some Jvm.ClassFile.FieldType.int)) ∈ lw_all := lw_g (lw_at lw_m4 178 rfl) rfl
theorem q1009 : (Jvm.Cond.instanceMethod ({ cls := "BitRopes", name := "longest", desc := "(II)I" } : Jvm.MethodName)) ∈ lw_all := lw_g (lw_at lw_m4 180 rfl) rfl
theorem q1010 : (Jvm.Cond.selects "BitRopes" ({ cls := "BitRopes", name := "longest", desc := "(II)I" } : Jvm.MethodName) ({ cls := "BitRopes", name := "longest", desc := "(II)I" } : Jvm.MethodName)) ∈ lw_all := lw_g (lw_at lw_m4 181 rfl) rfl
theorem q1011 : (Jvm.Cond.code ({ cls := "BitRopes", name := "longest", desc := "(II)I" } : Jvm.MethodName) prog_1_method_22_code (6 : Nat) (Option.some Jvm.ClassFile.FieldType.int)) ∈ lw_all := lw_g (lw_at lw_m4 182 rfl) rfl
theorem q1012 : (Jvm.Cond.methodLink "BitRopes" (224 : Nat) ({ cls := "java/lang/Math", name := "max", desc := "(II)I" } : Jvm.MethodName)) ∈ lw_all := lw_g (lw_at lw_m4 183 rfl) rfl
theorem q1016 : (Jvm.Cond.instanceMethod ({ cls := "BitRopes", name := "leaves", desc := "(I)I" } : Jvm.MethodName)) ∈ lw_all := lw_g (lw_at lw_m4 187 rfl) rfl
theorem q1017 : (Jvm.Cond.selects "BitRopes" ({ cls := "BitRopes", name := "leaves", desc := "(I)I" } : Jvm.MethodName) ({ cls := "BitRopes", name := "leaves", desc := "(I)I" } : Jvm.MethodName)) ∈ lw_all := lw_g (lw_at lw_m4 188 rfl) rfl
theorem q1018 : (Jvm.Cond.code ({ cls := "BitRopes", name := "leaves", desc := "(I)I" } : Jvm.MethodName) prog_1_method_24_code (2 : Nat) (Option.some Jvm.ClassFile.FieldType.int)) ∈ lw_all := lw_g (lw_at lw_m4 189 rfl) rfl
theorem q1019 : (Jvm.Cond.methodLink "BitRopes" (233 : Nat) ({ cls := "BitRopes$Rope", name := "folds", desc := "()I" } : Jvm.MethodName)) ∈ lw_all := lw_g (lw_at lw_m4 190 rfl) rfl
theorem q1024 : (Jvm.Cond.instanceMethod ({ cls := "BitRopes", name := "leaf", desc := "(III)I" } : Jvm.MethodName)) ∈ lw_all := lw_g (lw_at lw_m4 195 rfl) rfl
theorem q1025 : (Jvm.Cond.selects "BitRopes" ({ cls := "BitRopes", name := "leaf", desc := "(III)I" } : Jvm.MethodName) ({ cls := "BitRopes", name := "leaf", desc := "(III)I" } : Jvm.MethodName)) ∈ lw_all := lw_g (lw_at lw_m4 196 rfl) rfl
theorem q1026 : (Jvm.Cond.code ({ cls := "BitRopes", name := "leaf", desc := "(III)I" } : Jvm.MethodName) prog_1_method_25_code (7 : Nat) (Option.some Jvm.ClassFile.FieldType.int)) ∈ lw_all := lw_g (lw_at lw_m4 197 rfl) rfl
theorem q1027 : (Jvm.Cond.methodLink "BitRopes" (236 : Nat) ({ cls := "BitRopes$Rope", name := "all", desc := "()[LBitRopes$Leaf;" } : Jvm.MethodName)) ∈ lw_all := lw_g (lw_at lw_m4 198 rfl) rfl
theorem q1032 : (Jvm.Cond.instanceMethod ({ cls := "BitRopes", name := "tree", desc := "(II)I" } : Jvm.MethodName)) ∈ lw_all := lw_g (lw_at lw_m4 203 rfl) rfl
theorem q1033 : (Jvm.Cond.selects "BitRopes" ({ cls := "BitRopes", name := "tree", desc := "(II)I" } : Jvm.MethodName) ({ cls := "BitRopes", name := "tree", desc := "(II)I" } : Jvm.MethodName)) ∈ lw_all := lw_g (lw_at lw_m4 204 rfl) rfl
theorem q1034 : (Jvm.Cond.code ({ cls := "BitRopes", name := "tree", desc := "(II)I" } : Jvm.MethodName) prog_1_method_26_code (4 : Nat) (Option.some Jvm.ClassFile.FieldType.int)) ∈ lw_all := lw_g (lw_at lw_m4 205 rfl) rfl
theorem q1035 : (Jvm.Cond.methodLink "BitRopes" (250 : Nat) ({ cls := "BitRopes$Rope", name := "height", desc := "(LBitRopes$Node;)I" } : Jvm.MethodName)) ∈ lw_all := lw_g (lw_at lw_m4 206 rfl) rfl
theorem q1041 : (Jvm.Cond.methodLink "BitRopes" (257 : Nat) ({ cls := "BitRopes$Rope", name := "cost", desc := "()I" } : Jvm.MethodName)) ∈ lw_all := lw_g (lw_at lw_m4 212 rfl) rfl
theorem q1047 : (Jvm.Cond.instanceMethod ({ cls := "BitRopes", name := "apart", desc := "(II)I" } : Jvm.MethodName)) ∈ lw_all := lw_g (lw_at lw_m4 218 rfl) rfl
theorem q1048 : (Jvm.Cond.selects "BitRopes" ({ cls := "BitRopes", name := "apart", desc := "(II)I" } : Jvm.MethodName) ({ cls := "BitRopes", name := "apart", desc := "(II)I" } : Jvm.MethodName)) ∈ lw_all := lw_g (lw_at lw_m4 219 rfl) rfl
theorem q1049 : (Jvm.Cond.code ({ cls := "BitRopes", name := "apart", desc := "(II)I" } : Jvm.MethodName) prog_1_method_31_code (6 : Nat) (Option.some Jvm.ClassFile.FieldType.int)) ∈ lw_all := lw_g (lw_at lw_m4 220 rfl) rfl
theorem q1050 : (Jvm.Cond.methodLink "BitRopes" (278 : Nat) ({ cls := "java/lang/Math", name := "min", desc := "(II)I" } : Jvm.MethodName)) ∈ lw_all := lw_g (lw_at lw_m4 221 rfl) rfl
theorem q1054 : (Jvm.Cond.instanceMethod ({ cls := "BitRopes", name := "diffe\x72", desc := "(II)I" } : Jvm.MethodName)) ∈ lw_all := lw_g (lw_at lw_m4 225 rfl) rfl
theorem q1055 : (Jvm.Cond.selects "BitRopes" ({ cls := "BitRopes", name := "diffe\x72", desc := "(II)I" } : Jvm.MethodName) ({ cls := "BitRopes", name := "diffe\x72", desc := "(II)I" } : Jvm.MethodName)) ∈ lw_all := lw_g (lw_at lw_m4 226 rfl) rfl
theorem q1056 : (Jvm.Cond.code ({ cls := "BitRopes", name := "diffe\x72", desc := "(II)I" } : Jvm.MethodName) prog_1_method_32_code (3 : Nat) (Option.some Jvm.ClassFile.FieldType.int)) ∈ lw_all := lw_g (lw_at lw_m4 227 rfl) rfl
theorem q1057 : (Jvm.Cond.methodLink "BitRopes" (281 : Nat) ({ cls := "BitRopes", name := "differs", desc := "(II)I" } : Jvm.MethodName)) ∈ lw_all := lw_g (lw_at lw_m4 228 rfl) rfl
theorem q1058 : (Jvm.Cond.privateMethod ({ cls := "BitRopes", name := "differs", desc := "(II)I" } : Jvm.MethodName)) ∈ lw_tbl := lw_at lw_m4 229 rfl
theorem q1059 : (Jvm.Cond.instanceMethod ({ cls := "BitRopes", name := "differs", desc := "(II)I" } : Jvm.MethodName)) ∈ lw_all := lw_g (lw_at lw_m4 230 rfl) rfl
theorem q1060 : (Jvm.Cond.code ({ cls := "BitRopes", name := "differs", desc := "(II)I" } : Jvm.MethodName) prog_1_method_30_code (5 : Nat) (Option.some Jvm.ClassFile.FieldType.int)) ∈ lw_all := lw_g (lw_at lw_m4 231 rfl) rfl
theorem q1062 : (Jvm.Cond.instanceMethod ({ cls := "BitRopes", name := "seek", desc := "(I)I" } : Jvm.MethodName)) ∈ lw_all := lw_g (lw_at lw_m4 233 rfl) rfl
theorem q1063 : (Jvm.Cond.selects "BitRopes" ({ cls := "BitRopes", name := "seek", desc := "(I)I" } : Jvm.MethodName) ({ cls := "BitRopes", name := "seek", desc := "(I)I" } : Jvm.MethodName)) ∈ lw_all := lw_g (lw_at lw_m4 234 rfl) rfl
theorem q1064 : (Jvm.Cond.code ({ cls := "BitRopes", name := "seek", desc := "(I)I" } : Jvm.MethodName) prog_1_method_34_code (4 : Nat) (Option.some Jvm.ClassFile.FieldType.int)) ∈ lw_all := lw_g (lw_at lw_m4 235 rfl) rfl
theorem q1065 : (Jvm.Cond.methodLink "BitRopes" (287 : Nat) ({ cls := "BitRopes", name := "areBits", desc := "(I)Z" } : Jvm.MethodName)) ∈ lw_all := lw_g (lw_at lw_m4 236 rfl) rfl
theorem q1066 : (Jvm.Cond.privateMethod ({ cls := "BitRopes", name := "areBits", desc := "(I)Z" } : Jvm.MethodName)) ∈ lw_tbl := lw_at lw_m4 237 rfl
theorem q1067 : (Jvm.Cond.instanceMethod ({ cls := "BitRopes", name := "areBits", desc := "(I)Z" } : Jvm.MethodName)) ∈ lw_all := lw_g (lw_at lw_m4 238 rfl) rfl
theorem q1068 : (Jvm.Cond.code ({ cls := "BitRopes", name := "areBits", desc := "(I)Z" } : Jvm.MethodName) prog_1_method_33_code (3 : Nat) (Option.some Jvm.ClassFile.FieldType.boolean)) ∈ lw_all := lw_g (lw_at lw_m4 239 rfl) rfl
theorem q1069 : (Jvm.Cond.methodLink "BitRopes" (284 : Nat) ({ cls := "BitRopes", name := "one", desc := "(I)I" } : Jvm.MethodName)) ∈ lw_all := lw_g (lw_at lw_m5 0 rfl) rfl
theorem q1070 : (Jvm.Cond.privateMethod ({ cls := "BitRopes", name := "one", desc := "(I)I" } : Jvm.MethodName)) ∈ lw_tbl := lw_at lw_m5 1 rfl
theorem q1071 : (Jvm.Cond.instanceMethod ({ cls := "BitRopes", name := "one", desc := "(I)I" } : Jvm.MethodName)) ∈ lw_all := lw_g (lw_at lw_m5 2 rfl) rfl
theorem q1072 : (Jvm.Cond.code ({ cls := "BitRopes", name := "one", desc := "(I)I" } : Jvm.MethodName) prog_1_method_6_code (2 : Nat) (Option.some Jvm.ClassFile.FieldType.int)) ∈ lw_all := lw_g (lw_at lw_m5 3 rfl) rfl
theorem q1074 : (Jvm.Cond.instanceMethod ({ cls := "BitRopes", name := "seekAt", desc := "(I)I" } : Jvm.MethodName)) ∈ lw_all := lw_g (lw_at lw_m5 5 rfl) rfl
theorem q1075 : (Jvm.Cond.selects "BitRopes" ({ cls := "BitRopes", name := "seekAt", desc := "(I)I" } : Jvm.MethodName) ({ cls := "BitRopes", name := "seekAt", desc := "(I)I" } : Jvm.MethodName)) ∈ lw_all := lw_g (lw_at lw_m5 6 rfl) rfl
theorem q1076 : (Jvm.Cond.code ({ cls := "BitRopes", name := "seekAt", desc := "(I)I" } : Jvm.MethodName) prog_1_method_35_code (2 : Nat) (Option.some Jvm.ClassFile.FieldType.int)) ∈ lw_all := lw_g (lw_at lw_m5 7 rfl) rfl
theorem q1078 : (Jvm.Cond.instanceMethod ({ cls := "BitRopes", name := "undo", desc := "()I" } : Jvm.MethodName)) ∈ lw_all := lw_g (lw_at lw_m5 9 rfl) rfl
theorem q1079 : (Jvm.Cond.selects "BitRopes" ({ cls := "BitRopes", name := "undo", desc := "()I" } : Jvm.MethodName) ({ cls := "BitRopes", name := "undo", desc := "()I" } : Jvm.MethodName)) ∈ lw_all := lw_g (lw_at lw_m5 10 rfl) rfl
theorem q1080 : (Jvm.Cond.code ({ cls := "BitRopes", name := "undo", desc := "()I" } : Jvm.MethodName) prog_1_method_37_code (1 : Nat) (Option.some Jvm.ClassFile.FieldType.int)) ∈ lw_all := lw_g (lw_at lw_m5 11 rfl) rfl
theorem q1081 : (Jvm.Cond.methodLink "BitRopes" (296 : Nat) ({ cls := "BitRopes$State", name := "unpack", desc := "([LBitRopes$Packed;)V" } : Jvm.MethodName)) ∈ lw_all := lw_g (lw_at lw_m5 12 rfl) rfl
theorem q1091 : (Jvm.Cond.instanceMethod ({ cls := "BitRopes", name := "put", desc := "(III)I" } : Jvm.MethodName)) ∈ lw_all := lw_g (lw_at lw_m5 22 rfl) rfl
theorem q1092 : (Jvm.Cond.selects "BitRopes" ({ cls := "BitRopes", name := "put", desc := "(III)I" } : Jvm.MethodName) ({ cls := "BitRopes", name := "put", desc := "(III)I" } : Jvm.MethodName)) ∈ lw_all := lw_g (lw_at lw_m5 23 rfl) rfl
theorem q1093 : (Jvm.Cond.code ({ cls := "BitRopes", name := "put", desc := "(III)I" } : Jvm.MethodName) prog_1_method_39_code (4 : Nat) (Option.some Jvm.ClassFile.FieldType.int)) ∈ lw_all := lw_g (lw_at lw_m5 24 rfl) rfl
theorem q1094 : (Jvm.Cond.methodLink "BitRopes" (315 : Nat) ({ cls := "BitRopes", name := "acts", desc := "(IIII)I" } : Jvm.MethodName)) ∈ lw_all := lw_g (lw_at lw_m5 25 rfl) rfl
theorem q1095 : (Jvm.Cond.privateMethod ({ cls := "BitRopes", name := "acts", desc := "(IIII)I" } : Jvm.MethodName)) ∈ lw_tbl := lw_at lw_m5 26 rfl
theorem q1096 : (Jvm.Cond.instanceMethod ({ cls := "BitRopes", name := "acts", desc := "(IIII)I" } : Jvm.MethodName)) ∈ lw_all := lw_g (lw_at lw_m5 27 rfl) rfl
theorem q1097 : (Jvm.Cond.code ({ cls := "BitRopes", name := "acts", desc := "(IIII)I" } : Jvm.MethodName) prog_1_method_38_code (6 : Nat) (Option.some Jvm.ClassFile.FieldType.int)) ∈ lw_all := lw_g (lw_at lw_m5 28 rfl) rfl
theorem q1098 : (Jvm.Cond.methodLink "BitRopes" (300 : Nat) ({ cls := "BitRopes$State", name := "whyNot", desc := "(IIII)I" } : Jvm.MethodName)) ∈ lw_all := lw_g (lw_at lw_m5 29 rfl) rfl
theorem q1104 : (Jvm.Cond.methodLink "BitRopes" (304 : Nat) ({ cls := "BitRopes$State", name := "pack", desc := "()[LBitRopes$Packed;" } : Jvm.MethodName)) ∈ lw_all := lw_g (lw_at lw_m5 35 rfl) rfl
theorem q1130 : (Jvm.Cond.methodLink "BitRopes" (308 : Nat) ({ cls := "BitRopes", name := "keep", desc := "([LBitRopes$Packed;)V" } : Jvm.MethodName)) ∈ lw_all := lw_g (lw_at lw_m5 61 rfl) rfl
theorem q1131 : (Jvm.Cond.privateMethod ({ cls := "BitRopes", name := "keep", desc := "([LBitRopes$Packed;)V" } : Jvm.MethodName)) ∈ lw_tbl := lw_at lw_m5 62 rfl
theorem q1132 : (Jvm.Cond.instanceMethod ({ cls := "BitRopes", name := "keep", desc := "([LBitRopes$Packed;)V" } : Jvm.MethodName)) ∈ lw_all := lw_g (lw_at lw_m5 63 rfl) rfl
theorem q1133 : (Jvm.Cond.code ({ cls := "BitRopes", name := "keep", desc := "([LBitRopes$Packed;)V" } : Jvm.MethodName) prog_1_method_36_code (2 : Nat) (Option.none : Option Jvm.ClassFile.FieldType)) ∈ lw_all := lw_g (lw_at lw_m5 64 rfl) rfl
theorem q1134 : (Jvm.Cond.methodLink "BitRopes" (290 : Nat) ({ cls := "java/lang/System", name := "arraycopy", desc := "(Ljava/lang/Object;ILjava/lang/Object;II)V" } : Jvm.MethodName)) ∈ lw_all := lw_g (lw_at lw_m5 65 rfl) rfl
theorem q1135 : (Jvm.Cond.methodLink "BitRopes" (311 : Nat) ({ cls := "BitRopes$State", name := "does", desc := "(IIII)V" } : Jvm.MethodName)) ∈ lw_all := lw_g (lw_at lw_m5 66 rfl) rfl
theorem q1191 : (Jvm.Cond.instanceMethod ({ cls := "BitRopes", name := "set", desc := "(III)I" } : Jvm.MethodName)) ∈ lw_all := lw_g (lw_at lw_m5 122 rfl) rfl
theorem q1192 : (Jvm.Cond.selects "BitRopes" ({ cls := "BitRopes", name := "set", desc := "(III)I" } : Jvm.MethodName) ({ cls := "BitRopes", name := "set", desc := "(III)I" } : Jvm.MethodName)) ∈ lw_all := lw_g (lw_at lw_m5 123 rfl) rfl
theorem q1193 : (Jvm.Cond.code ({ cls := "BitRopes", name := "set", desc := "(III)I" } : Jvm.MethodName) prog_1_method_40_code (4 : Nat) (Option.some Jvm.ClassFile.FieldType.int)) ∈ lw_all := lw_g (lw_at lw_m5 124 rfl) rfl
theorem q1195 : (Jvm.Cond.instanceMethod ({ cls := "BitRopes", name := "cut", desc := "(III)I" } : Jvm.MethodName)) ∈ lw_all := lw_g (lw_at lw_m5 126 rfl) rfl
theorem q1196 : (Jvm.Cond.selects "BitRopes" ({ cls := "BitRopes", name := "cut", desc := "(III)I" } : Jvm.MethodName) ({ cls := "BitRopes", name := "cut", desc := "(III)I" } : Jvm.MethodName)) ∈ lw_all := lw_g (lw_at lw_m5 127 rfl) rfl
theorem q1197 : (Jvm.Cond.code ({ cls := "BitRopes", name := "cut", desc := "(III)I" } : Jvm.MethodName) prog_1_method_42_code (4 : Nat) (Option.some Jvm.ClassFile.FieldType.int)) ∈ lw_all := lw_g (lw_at lw_m5 128 rfl) rfl
theorem q1198 : (Jvm.Cond.methodLink "BitRopes" (318 : Nat) ({ cls := "BitRopes", name := "isFa\x72", desc := "(I)Z" } : Jvm.MethodName)) ∈ lw_all := lw_g (lw_at lw_m5 129 rfl) rfl
theorem q1199 : (Jvm.Cond.privateMethod ({ cls := "BitRopes", name := "isFa\x72", desc := "(I)Z" } : Jvm.MethodName)) ∈ lw_tbl := lw_at lw_m5 130 rfl
theorem q1200 : (Jvm.Cond.instanceMethod ({ cls := "BitRopes", name := "isFa\x72", desc := "(I)Z" } : Jvm.MethodName)) ∈ lw_all := lw_g (lw_at lw_m5 131 rfl) rfl
theorem q1201 : (Jvm.Cond.code ({ cls := "BitRopes", name := "isFa\x72", desc := "(I)Z" } : Jvm.MethodName) prog_1_method_41_code (2 : Nat) (Option.some Jvm.ClassFile.FieldType.boolean)) ∈ lw_all := lw_g (lw_at lw_m5 132 rfl) rfl
theorem q1203 : (Jvm.Cond.instanceMethod ({ cls := "BitRopes", name := "turn", desc := "(III)I" } : Jvm.MethodName)) ∈ lw_all := lw_g (lw_at lw_m5 134 rfl) rfl
theorem q1204 : (Jvm.Cond.selects "BitRopes" ({ cls := "BitRopes", name := "turn", desc := "(III)I" } : Jvm.MethodName) ({ cls := "BitRopes", name := "turn", desc := "(III)I" } : Jvm.MethodName)) ∈ lw_all := lw_g (lw_at lw_m5 135 rfl) rfl
theorem q1205 : (Jvm.Cond.code ({ cls := "BitRopes", name := "turn", desc := "(III)I" } : Jvm.MethodName) prog_1_method_43_code (4 : Nat) (Option.some Jvm.ClassFile.FieldType.int)) ∈ lw_all := lw_g (lw_at lw_m5 136 rfl) rfl
theorem q1207 : (Jvm.Cond.instanceMethod ({ cls := "BitRopes", name := "join", desc := "(II)I" } : Jvm.MethodName)) ∈ lw_all := lw_g (lw_at lw_m5 138 rfl) rfl
theorem q1208 : (Jvm.Cond.selects "BitRopes" ({ cls := "BitRopes", name := "join", desc := "(II)I" } : Jvm.MethodName) ({ cls := "BitRopes", name := "join", desc := "(II)I" } : Jvm.MethodName)) ∈ lw_all := lw_g (lw_at lw_m5 139 rfl) rfl
theorem q1209 : (Jvm.Cond.code ({ cls := "BitRopes", name := "join", desc := "(II)I" } : Jvm.MethodName) prog_1_method_44_code (3 : Nat) (Option.some Jvm.ClassFile.FieldType.int)) ∈ lw_all := lw_g (lw_at lw_m5 140 rfl) rfl
theorem q1210 : (Jvm.Cond.methodLink "BitRopes" (321 : Nat) ({ cls := "BitRopes", name := "areTwo", desc := "(II)Z" } : Jvm.MethodName)) ∈ lw_all := lw_g (lw_at lw_m5 141 rfl) rfl
theorem q1211 : (Jvm.Cond.privateMethod ({ cls := "BitRopes", name := "areTwo", desc := "(II)Z" } : Jvm.MethodName)) ∈ lw_tbl := lw_at lw_m5 142 rfl
theorem q1212 : (Jvm.Cond.instanceMethod ({ cls := "BitRopes", name := "areTwo", desc := "(II)Z" } : Jvm.MethodName)) ∈ lw_all := lw_g (lw_at lw_m5 143 rfl) rfl
theorem q1213 : (Jvm.Cond.code ({ cls := "BitRopes", name := "areTwo", desc := "(II)Z" } : Jvm.MethodName) prog_1_method_13_code (3 : Nat) (Option.some Jvm.ClassFile.FieldType.boolean)) ∈ lw_all := lw_g (lw_at lw_m5 144 rfl) rfl
theorem q1215 : (Jvm.Cond.instanceMethod ({ cls := "BitRopes", name := "split", desc := "(III)I" } : Jvm.MethodName)) ∈ lw_all := lw_g (lw_at lw_m5 146 rfl) rfl
theorem q1216 : (Jvm.Cond.selects "BitRopes" ({ cls := "BitRopes", name := "split", desc := "(III)I" } : Jvm.MethodName) ({ cls := "BitRopes", name := "split", desc := "(III)I" } : Jvm.MethodName)) ∈ lw_all := lw_g (lw_at lw_m5 147 rfl) rfl
theorem q1217 : (Jvm.Cond.code ({ cls := "BitRopes", name := "split", desc := "(III)I" } : Jvm.MethodName) prog_1_method_45_code (4 : Nat) (Option.some Jvm.ClassFile.FieldType.int)) ∈ lw_all := lw_g (lw_at lw_m5 148 rfl) rfl
theorem q1219 : (Jvm.Cond.instanceMethod ({ cls := "BitRopes", name := "type", desc := "(II)I" } : Jvm.MethodName)) ∈ lw_all := lw_g (lw_at lw_m5 150 rfl) rfl
theorem q1220 : (Jvm.Cond.selects "BitRopes" ({ cls := "BitRopes", name := "type", desc := "(II)I" } : Jvm.MethodName) ({ cls := "BitRopes", name := "type", desc := "(II)I" } : Jvm.MethodName)) ∈ lw_all := lw_g (lw_at lw_m5 151 rfl) rfl
theorem q1221 : (Jvm.Cond.code ({ cls := "BitRopes", name := "type", desc := "(II)I" } : Jvm.MethodName) prog_1_method_46_code (3 : Nat) (Option.some Jvm.ClassFile.FieldType.int)) ∈ lw_all := lw_g (lw_at lw_m5 152 rfl) rfl
theorem q1223 : (Jvm.Cond.instanceMethod ({ cls := "BitRopes", name := "erase", desc := "(II)I" } : Jvm.MethodName)) ∈ lw_all := lw_g (lw_at lw_m5 154 rfl) rfl
theorem q1224 : (Jvm.Cond.selects "BitRopes" ({ cls := "BitRopes", name := "erase", desc := "(II)I" } : Jvm.MethodName) ({ cls := "BitRopes", name := "erase", desc := "(II)I" } : Jvm.MethodName)) ∈ lw_all := lw_g (lw_at lw_m5 155 rfl) rfl
theorem q1225 : (Jvm.Cond.code ({ cls := "BitRopes", name := "erase", desc := "(II)I" } : Jvm.MethodName) prog_1_method_47_code (3 : Nat) (Option.some Jvm.ClassFile.FieldType.int)) ∈ lw_all := lw_g (lw_at lw_m5 156 rfl) rfl
theorem q1227 : (Jvm.Cond.instanceMethod ({ cls := "BitRopes", name := "paste", desc := "(II)I" } : Jvm.MethodName)) ∈ lw_all := lw_g (lw_at lw_m5 158 rfl) rfl
theorem q1228 : (Jvm.Cond.selects "BitRopes" ({ cls := "BitRopes", name := "paste", desc := "(II)I" } : Jvm.MethodName) ({ cls := "BitRopes", name := "paste", desc := "(II)I" } : Jvm.MethodName)) ∈ lw_all := lw_g (lw_at lw_m5 159 rfl) rfl
theorem q1229 : (Jvm.Cond.code ({ cls := "BitRopes", name := "paste", desc := "(II)I" } : Jvm.MethodName) prog_1_method_48_code (5 : Nat) (Option.some Jvm.ClassFile.FieldType.int)) ∈ lw_all := lw_g (lw_at lw_m5 160 rfl) rfl
theorem q1230 : (Jvm.Cond.methodLink "BitRopes" (325 : Nat) ({ cls := "BitRopes$Rope", name := "insert", desc := "(II)V" } : Jvm.MethodName)) ∈ lw_all := lw_g (lw_at lw_m5 161 rfl) rfl
theorem q1232 : (Jvm.Cond.instanceMethod ({ cls := "BitRopes", name := "letters", desc := "()I" } : Jvm.MethodName)) ∈ lw_all := lw_g (lw_at lw_m5 163 rfl) rfl
theorem q1233 : (Jvm.Cond.selects "BitRopes" ({ cls := "BitRopes", name := "letters", desc := "()I" } : Jvm.MethodName) ({ cls := "BitRopes", name := "letters", desc := "()I" } : Jvm.MethodName)) ∈ lw_all := lw_g (lw_at lw_m5 164 rfl) rfl
theorem q1234 : (Jvm.Cond.code ({ cls := "BitRopes", name := "letters", desc := "()I" } : Jvm.MethodName) prog_1_method_49_code (1 : Nat) (Option.some Jvm.ClassFile.FieldType.int)) ∈ lw_all := lw_g (lw_at lw_m5 165 rfl) rfl
theorem q1235 : (Jvm.Cond.methodLink "BitRopes" (329 : Nat) ({ cls := "BitRopes$State", name := "typed", desc := "()I" } : Jvm.MethodName)) ∈ lw_all := lw_g (lw_at lw_m5 166 rfl) rfl
theorem q1237 : (Jvm.Cond.instanceMethod ({ cls := "BitRopes", name := "lette\x72", desc := "(I)I" } : Jvm.MethodName)) ∈ lw_all := lw_g (lw_at lw_m5 168 rfl) rfl
theorem q1238 : (Jvm.Cond.selects "BitRopes" ({ cls := "BitRopes", name := "lette\x72", desc := "(I)I" } : Jvm.MethodName) ({ cls := "BitRopes", name := "lette\x72", desc := "(I)I" } : Jvm.MethodName)) ∈ lw_all := lw_g (lw_at lw_m5 169 rfl) rfl
theorem q1239 : (Jvm.Cond.code ({ cls := "BitRopes", name := "lette\x72", desc := "(I)I" } : Jvm.MethodName) prog_1_method_50_code (2 : Nat) (Option.some Jvm.ClassFile.FieldType.int)) ∈ lw_all := lw_g (lw_at lw_m5 170 rfl) rfl
theorem q1240 : (Jvm.Cond.methodLink "BitRopes" (332 : Nat) ({ cls := "BitRopes$State", name := "letterAt", desc := "(I)I" } : Jvm.MethodName)) ∈ lw_all := lw_g (lw_at lw_m5 171 rfl) rfl
theorem q1245 : (Jvm.Cond.instanceMethod ({ cls := "BitRopes", name := "count", desc := "(II)I" } : Jvm.MethodName)) ∈ lw_all := lw_g (lw_at lw_m5 176 rfl) rfl
theorem q1246 : (Jvm.Cond.selects "BitRopes" ({ cls := "BitRopes", name := "count", desc := "(II)I" } : Jvm.MethodName) ({ cls := "BitRopes", name := "count", desc := "(II)I" } : Jvm.MethodName)) ∈ lw_all := lw_g (lw_at lw_m5 177 rfl) rfl
theorem q1247 : (Jvm.Cond.code ({ cls := "BitRopes", name := "count", desc := "(II)I" } : Jvm.MethodName) prog_1_method_52_code (3 : Nat) (Option.some Jvm.ClassFile.FieldType.int)) ∈ lw_all := lw_g (lw_at lw_m5 178 rfl) rfl
theorem q1248 : (Jvm.Cond.methodLink "BitRopes" (335 : Nat) ({ cls := "BitRopes", name := "isLetterNumbe\x72", desc := "(I)Z" } : Jvm.MethodName)) ∈ lw_all := lw_g (lw_at lw_m5 179 rfl) rfl
theorem q1249 : (Jvm.Cond.static ({ cls := "BitRopes", name := "isLetterNumbe\x72", desc := "(I)Z" } : Jvm.MethodName)) ∈ lw_all := lw_g (lw_at lw_m5 180 rfl) rfl
theorem q1250 : (Jvm.Cond.code ({ cls := "BitRopes", name := "isLetterNumbe\x72", desc := "(I)Z" } : Jvm.MethodName) prog_1_method_51_code (1 : Nat) (Option.some Jvm.ClassFile.FieldType.boolean)) ∈ lw_all := lw_g (lw_at lw_m5 181 rfl) rfl
theorem q1251 : (Jvm.Cond.methodLink "BitRopes" (338 : Nat) ({ cls := "BitRopes$State", name := "ahead", desc := "(II)I" } : Jvm.MethodName)) ∈ lw_all := lw_g (lw_at lw_m5 182 rfl) rfl
theorem q1256 : (Jvm.Cond.instanceMethod ({ cls := "BitRopes", name := "place", desc := "(II)I" } : Jvm.MethodName)) ∈ lw_all := lw_g (lw_at lw_m5 187 rfl) rfl
theorem q1257 : (Jvm.Cond.selects "BitRopes" ({ cls := "BitRopes", name := "place", desc := "(II)I" } : Jvm.MethodName) ({ cls := "BitRopes", name := "place", desc := "(II)I" } : Jvm.MethodName)) ∈ lw_all := lw_g (lw_at lw_m5 188 rfl) rfl
theorem q1258 : (Jvm.Cond.code ({ cls := "BitRopes", name := "place", desc := "(II)I" } : Jvm.MethodName) prog_1_method_53_code (3 : Nat) (Option.some Jvm.ClassFile.FieldType.int)) ∈ lw_all := lw_g (lw_at lw_m5 189 rfl) rfl
theorem q1259 : (Jvm.Cond.methodLink "BitRopes" (340 : Nat) ({ cls := "BitRopes$State", name := "placeOf", desc := "(II)I" } : Jvm.MethodName)) ∈ lw_all := lw_g (lw_at lw_m5 190 rfl) rfl
theorem q1267 : (Jvm.Cond.instanceMethod ({ cls := "BitRopes", name := "least", desc := "(III)I" } : Jvm.MethodName)) ∈ lw_all := lw_g (lw_at lw_m5 198 rfl) rfl
theorem q1268 : (Jvm.Cond.selects "BitRopes" ({ cls := "BitRopes", name := "least", desc := "(III)I" } : Jvm.MethodName) ({ cls := "BitRopes", name := "least", desc := "(III)I" } : Jvm.MethodName)) ∈ lw_all := lw_g (lw_at lw_m5 199 rfl) rfl
theorem q1269 : (Jvm.Cond.code ({ cls := "BitRopes", name := "least", desc := "(III)I" } : Jvm.MethodName) prog_1_method_54_code (4 : Nat) (Option.some Jvm.ClassFile.FieldType.int)) ∈ lw_all := lw_g (lw_at lw_m5 200 rfl) rfl
theorem q1270 : (Jvm.Cond.methodLink "BitRopes" (343 : Nat) ({ cls := "BitRopes$State", name := "leastOf", desc := "(III)I" } : Jvm.MethodName)) ∈ lw_all := lw_g (lw_at lw_m5 201 rfl) rfl
theorem q1275 : (Jvm.Cond.instanceMethod ({ cls := "BitRopes", name := "node", desc := "(II)I" } : Jvm.MethodName)) ∈ lw_all := lw_g (lw_at lw_m5 206 rfl) rfl
theorem q1276 : (Jvm.Cond.selects "BitRopes" ({ cls := "BitRopes", name := "node", desc := "(II)I" } : Jvm.MethodName) ({ cls := "BitRopes", name := "node", desc := "(II)I" } : Jvm.MethodName)) ∈ lw_all := lw_g (lw_at lw_m5 207 rfl) rfl
theorem q1277 : (Jvm.Cond.code ({ cls := "BitRopes", name := "node", desc := "(II)I" } : Jvm.MethodName) prog_1_method_55_code (3 : Nat) (Option.some Jvm.ClassFile.FieldType.int)) ∈ lw_all := lw_g (lw_at lw_m5 208 rfl) rfl
theorem q1279 : (Jvm.Cond.instanceMethod ({ cls := "BitRopes", name := "drawn", desc := "(II)I" } : Jvm.MethodName)) ∈ lw_all := lw_g (lw_at lw_m5 210 rfl) rfl
theorem q1280 : (Jvm.Cond.selects "BitRopes" ({ cls := "BitRopes", name := "drawn", desc := "(II)I" } : Jvm.MethodName) ({ cls := "BitRopes", name := "drawn", desc := "(II)I" } : Jvm.MethodName)) ∈ lw_all := lw_g (lw_at lw_m5 211 rfl) rfl
theorem q1281 : (Jvm.Cond.code ({ cls := "BitRopes", name := "drawn", desc := "(II)I" } : Jvm.MethodName) prog_1_method_56_code (5 : Nat) (Option.some Jvm.ClassFile.FieldType.int)) ∈ lw_all := lw_g (lw_at lw_m5 212 rfl) rfl
theorem q1282 : (Jvm.Cond.methodLink "BitRopes" (350 : Nat) ({ cls := "BitRopes$State", name := "drawDeeds", desc := "(II)I" } : Jvm.MethodName)) ∈ lw_all := lw_g (lw_at lw_m5 213 rfl) rfl
theorem q1298 : (Jvm.Cond.instanceMethod ({ cls := "BitRopes", name := "book", desc := "(I)I" } : Jvm.MethodName)) ∈ lw_all := lw_g (lw_at lw_m5 229 rfl) rfl
theorem q1299 : (Jvm.Cond.selects "BitRopes" ({ cls := "BitRopes", name := "book", desc := "(I)I" } : Jvm.MethodName) ({ cls := "BitRopes", name := "book", desc := "(I)I" } : Jvm.MethodName)) ∈ lw_all := lw_g (lw_at lw_m5 230 rfl) rfl
theorem q1300 : (Jvm.Cond.codeWith ({ cls := "BitRopes", name := "book", desc := "(I)I" } : Jvm.MethodName) prog_1_method_57_code (8 : Nat) (Option.some Jvm.ClassFile.FieldType.int) [((22 : Nat), (29 : Nat), (32 : Nat), (13 : Nat))]) ∈ lw_all := lw_g (lw_at lw_m5 231 rfl) rfl
theorem q1301 : (Jvm.Cond.methodLink "BitRopes" (353 : Nat) ({ cls := "BitRopes$BookReade\x72", name := "read", desc := "()V" } : Jvm.MethodName)) ∈ lw_all := lw_g (lw_at lw_m5 232 rfl) rfl
theorem q1349 : (Jvm.Cond.fieldLinkNest "BitRopes" (361 : Nat) "BitRopes$Deed" "what" "I" "BitRopes") ∈ lw_tbl := lw_at lw_m6 40 rfl
theorem q1351 : (Jvm.Cond.fieldLinkNest "BitRopes" (366 : Nat) "BitRopes$Deed" "\x72" "I" "BitRopes") ∈ lw_tbl := lw_at lw_m6 42 rfl
theorem q1353 : (Jvm.Cond.fieldLinkNest "BitRopes" (369 : Nat) "BitRopes$Deed" "i" "I" "BitRopes") ∈ lw_tbl := lw_at lw_m6 44 rfl
theorem q1355 : (Jvm.Cond.fieldLinkNest "BitRopes" (372 : Nat) "BitRopes$Deed" "x" "I" "BitRopes") ∈ lw_tbl := lw_at lw_m6 46 rfl
theorem q1368 : (Jvm.Cond.methodLink "BitRopes" (375 : Nat) ({ cls := "BitRopes$State", name := "bits", desc := "()I" } : Jvm.MethodName)) ∈ lw_all := lw_g (lw_at lw_m6 59 rfl) rfl
theorem q1373 : (Jvm.Cond.instanceMethod ({ cls := "BitRopes", name := "told", desc := "(I)I" } : Jvm.MethodName)) ∈ lw_all := lw_g (lw_at lw_m6 64 rfl) rfl
theorem q1374 : (Jvm.Cond.selects "BitRopes" ({ cls := "BitRopes", name := "told", desc := "(I)I" } : Jvm.MethodName) ({ cls := "BitRopes", name := "told", desc := "(I)I" } : Jvm.MethodName)) ∈ lw_all := lw_g (lw_at lw_m6 65 rfl) rfl
theorem q1375 : (Jvm.Cond.code ({ cls := "BitRopes", name := "told", desc := "(I)I" } : Jvm.MethodName) prog_1_method_58_code (2 : Nat) (Option.some Jvm.ClassFile.FieldType.int)) ∈ lw_all := lw_g (lw_at lw_m6 66 rfl) rfl
theorem q1377 : (Jvm.Cond.instanceMethod ({ cls := "BitRopes", name := "sentence", desc := "()I" } : Jvm.MethodName)) ∈ lw_all := lw_g (lw_at lw_m6 68 rfl) rfl
theorem q1378 : (Jvm.Cond.selects "BitRopes" ({ cls := "BitRopes", name := "sentence", desc := "()I" } : Jvm.MethodName) ({ cls := "BitRopes", name := "sentence", desc := "()I" } : Jvm.MethodName)) ∈ lw_all := lw_g (lw_at lw_m6 69 rfl) rfl
theorem q1379 : (Jvm.Cond.codeWith ({ cls := "BitRopes", name := "sentence", desc := "()I" } : Jvm.MethodName) prog_1_method_59_code (2 : Nat) (Option.some Jvm.ClassFile.FieldType.int) [((9 : Nat), (27 : Nat), (28 : Nat), (13 : Nat))]) ∈ lw_all := lw_g (lw_at lw_m6 70 rfl) rfl
theorem q1380 : (Jvm.Cond.methodLink "BitRopes" (382 : Nat) ({ cls := "BitRopes$SentenceReade\x72", name := "read", desc := "()LBitRopes$Cond;" } : Jvm.MethodName)) ∈ lw_all := lw_g (lw_at lw_m6 71 rfl) rfl
theorem q1491 : (Jvm.Cond.instanceMethod ({ cls := "BitRopes", name := "said", desc := "(I)I" } : Jvm.MethodName)) ∈ lw_all := lw_g (lw_at lw_m6 182 rfl) rfl
theorem q1492 : (Jvm.Cond.selects "BitRopes" ({ cls := "BitRopes", name := "said", desc := "(I)I" } : Jvm.MethodName) ({ cls := "BitRopes", name := "said", desc := "(I)I" } : Jvm.MethodName)) ∈ lw_all := lw_g (lw_at lw_m6 183 rfl) rfl
theorem q1493 : (Jvm.Cond.code ({ cls := "BitRopes", name := "said", desc := "(I)I" } : Jvm.MethodName) prog_1_method_60_code (4 : Nat) (Option.some Jvm.ClassFile.FieldType.int)) ∈ lw_all := lw_g (lw_at lw_m6 184 rfl) rfl
theorem q1494 : (Jvm.Cond.interfaceEntry "BitRopes" (388 : Nat)) ∈ lw_tbl := lw_at lw_m6 185 rfl
theorem q1495 : (Jvm.Cond.methodLink "BitRopes" (388 : Nat) ({ cls := "BitRopes$Cond", name := "is", desc := "(LBitRopes;I)Z" } : Jvm.MethodName)) ∈ lw_all := lw_g (lw_at lw_m6 186 rfl) rfl
theorem q1544 : (Jvm.Cond.instanceMethod ({ cls := "BitRopes", name := "image", desc := "(I)Z" } : Jvm.MethodName)) ∈ lw_all := lw_g (lw_at lw_m6 235 rfl) rfl
theorem q1545 : (Jvm.Cond.selects "BitRopes" ({ cls := "BitRopes", name := "image", desc := "(I)Z" } : Jvm.MethodName) ({ cls := "BitRopes", name := "image", desc := "(I)Z" } : Jvm.MethodName)) ∈ lw_all := lw_g (lw_at lw_m6 236 rfl) rfl
theorem q1546 : (Jvm.Cond.code ({ cls := "BitRopes", name := "image", desc := "(I)Z" } : Jvm.MethodName) prog_1_method_61_code (3 : Nat) (Option.some Jvm.ClassFile.FieldType.boolean)) ∈ lw_all := lw_g (lw_at lw_m6 237 rfl) rfl
theorem q1548 : (Jvm.Cond.methodLinkNest "BitRopes" (394 : Nat) ({ cls := "BitRopes$Kept", name := "<init>", desc := "()V" } : Jvm.MethodName) "BitRopes") ∈ lw_tbl := lw_at lw_m6 239 rfl
theorem q1552 : (Jvm.Cond.fieldLinkNest "BitRopes" (395 : Nat) "BitRopes$Kept" "room" "LBitRopes$Room;" "BitRopes") ∈ lw_tbl := lw_at lw_m7 3 rfl
theorem q1553 : (Jvm.Cond.fieldLinkNest "BitRopes" (396 : Nat) "BitRopes$Kept" "rows" "[LBitRopes$Packed;" "BitRopes") ∈ lw_tbl := lw_at lw_m7 4 rfl
theorem q1554 : (Jvm.Cond.fieldLinkNest "BitRopes" (398 : Nat) "BitRopes$Kept" "sentence" "LBitRopes$Cond;" "BitRopes") ∈ lw_tbl := lw_at lw_m7 5 rfl
theorem q1563 : (Jvm.Cond.instanceMethod ({ cls := "BitRopes", name := "restore", desc := "(I)Z" } : Jvm.MethodName)) ∈ lw_all := lw_g (lw_at lw_m7 14 rfl) rfl
theorem q1564 : (Jvm.Cond.selects "BitRopes" ({ cls := "BitRopes", name := "restore", desc := "(I)Z" } : Jvm.MethodName) ({ cls := "BitRopes", name := "restore", desc := "(I)Z" } : Jvm.MethodName)) ∈ lw_all := lw_g (lw_at lw_m7 15 rfl) rfl
theorem q1565 : (Jvm.Cond.code ({ cls := "BitRopes", name := "restore", desc := "(I)Z" } : Jvm.MethodName) prog_1_method_62_code (5 : Nat) (Option.some Jvm.ClassFile.FieldType.boolean)) ∈ lw_all := lw_g (lw_at lw_m7 16 rfl) rfl
theorem q1566 : (Jvm.Cond.classLink "BitRopes" (399 : Nat) "BitRopes$Packed") ∈ lw_all := lw_g (lw_at lw_m7 17 rfl) rfl
theorem q1567 : (Jvm.Cond.methodLink "BitRopes" (401 : Nat) ({ cls := "BitRopes$Packed", name := "copy", desc := "()LBitRopes$Packed;" } : Jvm.MethodName)) ∈ lw_all := lw_g (lw_at lw_m7 18 rfl) rfl
theorem q1586 : (Jvm.Cond.instanceMethod ({ cls := "BitRopes", name := "total", desc := "(I)I" } : Jvm.MethodName)) ∈ lw_all := lw_g (lw_at lw_m7 37 rfl) rfl
theorem q1587 : (Jvm.Cond.selects "BitRopes" ({ cls := "BitRopes", name := "total", desc := "(I)I" } : Jvm.MethodName) ({ cls := "BitRopes", name := "total", desc := "(I)I" } : Jvm.MethodName)) ∈ lw_all := lw_g (lw_at lw_m7 38 rfl) rfl
theorem q1588 : (Jvm.Cond.code ({ cls := "BitRopes", name := "total", desc := "(I)I" } : Jvm.MethodName) prog_1_method_63_code (2 : Nat) (Option.some Jvm.ClassFile.FieldType.int)) ∈ lw_all := lw_g (lw_at lw_m7 39 rfl) rfl
theorem q1594 : (Jvm.Cond.instanceMethod ({ cls := "BitRopes", name := "word", desc := "(II)I" } : Jvm.MethodName)) ∈ lw_all := lw_g (lw_at lw_m7 45 rfl) rfl
theorem q1595 : (Jvm.Cond.selects "BitRopes" ({ cls := "BitRopes", name := "word", desc := "(II)I" } : Jvm.MethodName) ({ cls := "BitRopes", name := "word", desc := "(II)I" } : Jvm.MethodName)) ∈ lw_all := lw_g (lw_at lw_m7 46 rfl) rfl
theorem q1596 : (Jvm.Cond.code ({ cls := "BitRopes", name := "word", desc := "(II)I" } : Jvm.MethodName) prog_1_method_23_code (5 : Nat) (Option.some Jvm.ClassFile.FieldType.int)) ∈ lw_all := lw_g (lw_at lw_m7 47 rfl) rfl
theorem q1597 : (Jvm.Cond.methodLink "BitRopes" (229 : Nat) ({ cls := "BitRopes", name := "must", desc := "(Z)V" } : Jvm.MethodName)) ∈ lw_all := lw_g (lw_at lw_m7 48 rfl) rfl
theorem q1598 : (Jvm.Cond.static ({ cls := "BitRopes", name := "must", desc := "(Z)V" } : Jvm.MethodName)) ∈ lw_all := lw_g (lw_at lw_m7 49 rfl) rfl
theorem q1599 : (Jvm.Cond.code ({ cls := "BitRopes", name := "must", desc := "(Z)V" } : Jvm.MethodName) prog_1_method_8_code (1 : Nat) (Option.none : Option Jvm.ClassFile.FieldType)) ∈ lw_all := lw_g (lw_at lw_m7 50 rfl) rfl
theorem q1600 : (Jvm.Cond.classLink "BitRopes" (152 : Nat) "java/util/NoSuchElementException") ∈ lw_all := lw_g (lw_at lw_m7 51 rfl) rfl
theorem q1609 : (Jvm.Cond.methodLink "BitRopes" (154 : Nat) ({ cls := "java/util/NoSuchElementException", name := "<init>", desc := "()V" } : Jvm.MethodName)) ∈ lw_all := lw_g (lw_at lw_m7 60 rfl) rfl
theorem q1625 : (Jvm.Cond.instanceMethod ({ cls := "BitRopes", name := "dense", desc := "(III)I" } : Jvm.MethodName)) ∈ lw_all := lw_g (lw_at lw_m7 76 rfl) rfl
theorem q1626 : (Jvm.Cond.selects "BitRopes" ({ cls := "BitRopes", name := "dense", desc := "(III)I" } : Jvm.MethodName) ({ cls := "BitRopes", name := "dense", desc := "(III)I" } : Jvm.MethodName)) ∈ lw_all := lw_g (lw_at lw_m7 77 rfl) rfl
theorem q1627 : (Jvm.Cond.code ({ cls := "BitRopes", name := "dense", desc := "(III)I" } : Jvm.MethodName) prog_1_method_27_code (5 : Nat) (Option.some Jvm.ClassFile.FieldType.int)) ∈ lw_all := lw_g (lw_at lw_m7 78 rfl) rfl
theorem q1628 : (Jvm.Cond.methodLink "BitRopes" (260 : Nat) ({ cls := "BitRopes$Rope", name := "onesAhead", desc := "(I)I" } : Jvm.MethodName)) ∈ lw_all := lw_g (lw_at lw_m7 79 rfl) rfl
theorem q1629 : (Jvm.Cond.methodLink "BitRopes" (263 : Nat) ({ cls := "java/lang/Float", name := "floatToIntBits", desc := "(F)I" } : Jvm.MethodName)) ∈ lw_all := lw_g (lw_at lw_m7 80 rfl) rfl
theorem q1643 : (Jvm.Cond.instanceMethod ({ cls := "BitRopes", name := "load", desc := "(I)I" } : Jvm.MethodName)) ∈ lw_all := lw_g (lw_at lw_m7 94 rfl) rfl
theorem q1644 : (Jvm.Cond.selects "BitRopes" ({ cls := "BitRopes", name := "load", desc := "(I)I" } : Jvm.MethodName) ({ cls := "BitRopes", name := "load", desc := "(I)I" } : Jvm.MethodName)) ∈ lw_all := lw_g (lw_at lw_m7 95 rfl) rfl
theorem q1645 : (Jvm.Cond.code ({ cls := "BitRopes", name := "load", desc := "(I)I" } : Jvm.MethodName) prog_1_method_28_code (3 : Nat) (Option.some Jvm.ClassFile.FieldType.int)) ∈ lw_all := lw_g (lw_at lw_m7 96 rfl) rfl
theorem q1650 : (Jvm.Cond.instanceMethod ({ cls := "BitRopes", name := "centre", desc := "(II)I" } : Jvm.MethodName)) ∈ lw_all := lw_g (lw_at lw_m7 101 rfl) rfl
theorem q1651 : (Jvm.Cond.selects "BitRopes" ({ cls := "BitRopes", name := "centre", desc := "(II)I" } : Jvm.MethodName) ({ cls := "BitRopes", name := "centre", desc := "(II)I" } : Jvm.MethodName)) ∈ lw_all := lw_g (lw_at lw_m7 102 rfl) rfl
theorem q1652 : (Jvm.Cond.code ({ cls := "BitRopes", name := "centre", desc := "(II)I" } : Jvm.MethodName) prog_1_method_29_code (7 : Nat) (Option.some Jvm.ClassFile.FieldType.int)) ∈ lw_all := lw_g (lw_at lw_m7 103 rfl) rfl
theorem q1653 : (Jvm.Cond.methodLink "BitRopes" (269 : Nat) ({ cls := "BitRopes$Rope", name := "lit", desc := "()I" } : Jvm.MethodName)) ∈ lw_all := lw_g (lw_at lw_m7 104 rfl) rfl
theorem q1654 : (Jvm.Cond.methodLink "BitRopes" (272 : Nat) ({ cls := "java/lang/Double", name := "doubleToLongBits", desc := "(D)J" } : Jvm.MethodName)) ∈ lw_all := lw_g (lw_at lw_m7 105 rfl) rfl
theorem q2323 : (Jvm.Cond.castable "BitRopes" "java/lang/Object") ∈ lw_tbl := lw_at lw_m10 54 rfl
theorem in_X1 : ∀ w ∈ wsX10, w ∈ lw_all := lw_in wsX10 [524, 526, 528, 530, 532, 534, 536, 538, 540, 542, 544, 546, 548, 550, 552, 554, 556, 558, 560, 562, 564] (by decide +kernel) (by decide +kernel)
