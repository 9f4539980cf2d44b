/-! CombTable -/
set_option maxRecDepth 100000
def RX1 : String := "CombTable"
def TX1 : u_T := fun k => match k with
  | 0 => ("CombTable", "tape", "[B", true)
  | 1 => ("CombTable", "length", "I", false)
  | 2 => ("CombTable", "size", "I", false)
  | 3 => ("CombTable", "today", "I", false)
  | 4 => ("CombTable", "broken", "LCombTable$Fault;", true)
  | 5 => ("CombTable", "lines", "[Ljava/lang/String;", true)
  | 6 => ("CombTable", "words", "[Ljava/lang/String;", true)
  | 7 => ("CombTable", "does", "[Ljava/lang/String;", true)
  | 8 => ("CombTable", "now", "LCombTable$Talk;", true)
  | 9 => ("CombTable", "tried", "LCombTable$Talk;", true)
  | 10 => ("CombTable", "other", "LCombTable$Talk;", true)
  | 11 => ("CombTable", "minutes", "LCombTable$Minutes;", true)
  | 12 => ("CombTable", "readMinutes", "LCombTable$Minutes;", true)
  | 13 => ("CombTable", "torn", "LCombTable$Minutes;", true)
  | 14 => ("CombTable", "tableReader", "LCombTable$TableReader;", true)
  | 15 => ("CombTable", "talkReader", "LCombTable$TalkReader;", true)
  | 16 => ("CombTable", "minutesReader", "LCombTable$MinutesReader;", true)
  | 17 => ("CombTable", "fault", "I", false)
  | 18 => ("CombTable", "why", "I", false)
  | 19 => ("CombTable", "whoBits", "[I", true)
  | 20 => ("CombTable", "kindBits", "[I", true)
  | 21 => ("CombTable", "stateBits", "[I", true)
  | 22 => ("CombTable", "sureMany", "I", false)
  | 23 => ("CombTable", "keeps", "Z", false)
  | 24 => ("CombTable", "wholeMany", "I", false)
  | 25 => ("CombTable", "mended", "I", false)
  | 26 => ("CombTable", "order", "[I", true)
  | 27 => ("CombTable", "firstOrder", "[I", true)
  | 28 => ("CombTable", "orderMany", "I", false)
  | 29 => ("CombTable", "seed", "I", false)
  | 30 => ("CombTable", "found", "[I", true)
  | 31 => ("CombTable", "foundMany", "I", false)
  | 32 => ("CombTable", "last", "LCombTable$Talk;", false)
  | 33 => ("CombTable", "sentenceReader", "LCombTable$SentenceReader;", true)
  | 34 => ("CombTable", "sentence", "LCombTable$Cond;", false)
  | 35 => ("CombTable", "images", "[LCombTable$Talk;", true)
  | 36 => ("CombTable", "minutesKept", "[LCombTable$Minutes;", true)
  | _ => ("CombTable", "sentences", "[LCombTable$Cond;", true)
def tyX1 : Nat → FieldType := fun k => match k with
  | 0 => .array .byte
  | 1 => .int
  | 2 => .int
  | 3 => .int
  | 4 => .object "CombTable$Fault"
  | 5 => .array (.object "java/lang/String")
  | 6 => .array (.object "java/lang/String")
  | 7 => .array (.object "java/lang/String")
  | 8 => .object "CombTable$Talk"
  | 9 => .object "CombTable$Talk"
  | 10 => .object "CombTable$Talk"
  | 11 => .object "CombTable$Minutes"
  | 12 => .object "CombTable$Minutes"
  | 13 => .object "CombTable$Minutes"
  | 14 => .object "CombTable$TableReader"
  | 15 => .object "CombTable$TalkReader"
  | 16 => .object "CombTable$MinutesReader"
  | 17 => .int
  | 18 => .int
  | 19 => .array .int
  | 20 => .array .int
  | 21 => .array .int
  | 22 => .int
  | 23 => .boolean
  | 24 => .int
  | 25 => .int
  | 26 => .array .int
  | 27 => .array .int
  | 28 => .int
  | 29 => .int
  | 30 => .array .int
  | 31 => .int
  | 32 => .object "CombTable$Talk"
  | 33 => .object "CombTable$SentenceReader"
  | 34 => .object "CombTable$Cond"
  | 35 => .array (.object "CombTable$Talk")
  | 36 => .array (.object "CombTable$Minutes")
  | _ => .array (.object "CombTable$Cond")
abbrev wsX10 : List Cond := u_ws RX1 TX1 38
set_option maxRecDepth 100000 in
theorem nmX1 : ∀ a, a < 38 → ∀ b, b < 38 → a ≠ b → (TX1 a).2.1 ≠ (TX1 b).2.1 := by decide +kernel
set_option maxRecDepth 100000 in
theorem tyX1_ok : ∀ k, k < 38 → parseFieldDescriptor (TX1 k).2.2.1 = some (tyX1 k) := by decide +kernel
abbrev cX1_init : ByteArray := prog_1_method_1_code
def yX1_init : MethodName := ⟨RX1, "<init>", "()V"⟩
def dkwX1_init_16 : List UInt8 := [181, 0, 171, 177]
abbrev dktX1_init_16 : List UInt8 := dkwX1_init_16 ++ []
def dkwX1_init_15 : List UInt8 := [181, 0, 157, 42, 5, 189, 0, 82, 181, 0, 161, 42, 5, 189, 0, 95, 181, 0, 165, 42, 5, 189, 0, 169]
abbrev dktX1_init_15 : List UInt8 := dkwX1_init_15 ++ dktX1_init_16
def dkwX1_init_14 : List UInt8 := [188, 10, 181, 0, 148, 42, 16, 8, 188, 10, 181, 0, 151, 42, 187, 0, 154, 89, 42, 183, 0, 156]
abbrev dktX1_init_14 : List UInt8 := dkwX1_init_14 ++ dktX1_init_15
def dkwX1_init_13 : List UInt8 := [16, 24, 188, 10, 181, 0, 138, 42, 2, 181, 0, 141, 42, 16, 7, 188, 10, 181, 0, 145, 42, 16, 7]
abbrev dktX1_init_13 : List UInt8 := dkwX1_init_13 ++ dktX1_init_14
def dkwX1_init_12 : List UInt8 := [183, 0, 126, 181, 0, 127, 42, 16, 24, 188, 10, 181, 0, 131, 42, 16, 24, 188, 10, 181, 0, 135, 42]
abbrev dktX1_init_12 : List UInt8 := dkwX1_init_12 ++ dktX1_init_13
def dkwX1_init_11 : List UInt8 := [183, 0, 110, 181, 0, 113, 42, 187, 0, 117, 89, 42, 183, 0, 119, 181, 0, 120, 42, 187, 0, 124, 89, 42]
abbrev dktX1_init_11 : List UInt8 := dkwX1_init_11 ++ dktX1_init_12
def dkwX1_init_10 : List UInt8 := [183, 0, 97, 181, 0, 102, 42, 187, 0, 95, 89, 183, 0, 97, 181, 0, 105, 42, 187, 0, 108, 89, 42]
abbrev dktX1_init_10 : List UInt8 := dkwX1_init_10 ++ dktX1_init_11
def dkwX1_init_9 : List UInt8 := [183, 0, 84, 181, 0, 92, 42, 187, 0, 95, 89, 183, 0, 97, 181, 0, 98, 42, 187, 0, 95, 89]
abbrev dktX1_init_9 : List UInt8 := dkwX1_init_9 ++ dktX1_init_10
def dkwX1_init_8 : List UInt8 := [183, 0, 84, 181, 0, 85, 42, 187, 0, 82, 89, 183, 0, 84, 181, 0, 89, 42, 187, 0, 82, 89]
abbrev dktX1_init_8 : List UInt8 := dkwX1_init_8 ++ dktX1_init_9
def dkwX1_init_7 : List UInt8 := [89, 6, 18, 73, 83, 89, 7, 18, 75, 83, 89, 8, 18, 77, 83, 181, 0, 79, 42, 187, 0, 82, 89]
abbrev dktX1_init_7 : List UInt8 := dkwX1_init_7 ++ dktX1_init_8
def dkwX1_init_6 : List UInt8 := [181, 0, 64, 42, 16, 6, 189, 0, 20, 89, 3, 18, 67, 83, 89, 4, 18, 69, 83, 89, 5, 18, 71, 83]
abbrev dktX1_init_6 : List UInt8 := dkwX1_init_6 ++ dktX1_init_7
def dkwX1_init_5 : List UInt8 := [16, 9, 18, 56, 83, 89, 16, 10, 18, 58, 83, 89, 16, 11, 18, 60, 83, 89, 16, 12, 18, 62, 83]
abbrev dktX1_init_5 : List UInt8 := dkwX1_init_5 ++ dktX1_init_6
def dkwX1_init_4 : List UInt8 := [8, 18, 48, 83, 89, 16, 6, 18, 50, 83, 89, 16, 7, 18, 52, 83, 89, 16, 8, 18, 54, 83, 89]
abbrev dktX1_init_4 : List UInt8 := dkwX1_init_4 ++ dktX1_init_5
def dkwX1_init_3 : List UInt8 := [18, 38, 83, 89, 4, 18, 40, 83, 89, 5, 18, 42, 83, 89, 6, 18, 44, 83, 89, 7, 18, 46, 83, 89]
abbrev dktX1_init_3 : List UInt8 := dkwX1_init_3 ++ dktX1_init_4
def dkwX1_init_2 : List UInt8 := [18, 28, 83, 89, 7, 18, 30, 83, 89, 8, 18, 32, 83, 181, 0, 34, 42, 16, 13, 189, 0, 20, 89, 3]
abbrev dktX1_init_2 : List UInt8 := dkwX1_init_2 ++ dktX1_init_3
def dkwX1_init_1 : List UInt8 := [42, 16, 6, 189, 0, 20, 89, 3, 18, 22, 83, 89, 4, 18, 24, 83, 89, 5, 18, 26, 83, 89, 6]
abbrev dktX1_init_1 : List UInt8 := dkwX1_init_1 ++ dktX1_init_2
def dkwX1_init_0 : List UInt8 := [42, 183, 0, 1, 42, 17, 3, 172, 188, 8, 181, 0, 9, 42, 187, 0, 13, 89, 183, 0, 15, 181, 0, 16]
abbrev dktX1_init_0 : List UInt8 := dkwX1_init_0 ++ dktX1_init_1
theorem dksX1_init_0 : cX1_init.data.toList.drop 0 = dktX1_init_0 := by decide +kernel
theorem dksX1_init_1 : cX1_init.data.toList.drop 24 = dktX1_init_1 := dk_seg dksX1_init_0 24 rfl rfl
theorem dksX1_init_2 : cX1_init.data.toList.drop 47 = dktX1_init_2 := dk_seg dksX1_init_1 23 rfl rfl
theorem dksX1_init_3 : cX1_init.data.toList.drop 71 = dktX1_init_3 := dk_seg dksX1_init_2 24 rfl rfl
theorem dksX1_init_4 : cX1_init.data.toList.drop 95 = dktX1_init_4 := dk_seg dksX1_init_3 24 rfl rfl
theorem dksX1_init_5 : cX1_init.data.toList.drop 118 = dktX1_init_5 := dk_seg dksX1_init_4 23 rfl rfl
theorem dksX1_init_6 : cX1_init.data.toList.drop 141 = dktX1_init_6 := dk_seg dksX1_init_5 23 rfl rfl
theorem dksX1_init_7 : cX1_init.data.toList.drop 165 = dktX1_init_7 := dk_seg dksX1_init_6 24 rfl rfl
theorem dksX1_init_8 : cX1_init.data.toList.drop 188 = dktX1_init_8 := dk_seg dksX1_init_7 23 rfl rfl
theorem dksX1_init_9 : cX1_init.data.toList.drop 210 = dktX1_init_9 := dk_seg dksX1_init_8 22 rfl rfl
theorem dksX1_init_10 : cX1_init.data.toList.drop 232 = dktX1_init_10 := dk_seg dksX1_init_9 22 rfl rfl
theorem dksX1_init_11 : cX1_init.data.toList.drop 255 = dktX1_init_11 := dk_seg dksX1_init_10 23 rfl rfl
theorem dksX1_init_12 : cX1_init.data.toList.drop 279 = dktX1_init_12 := dk_seg dksX1_init_11 24 rfl rfl
theorem dksX1_init_13 : cX1_init.data.toList.drop 302 = dktX1_init_13 := dk_seg dksX1_init_12 23 rfl rfl
theorem dksX1_init_14 : cX1_init.data.toList.drop 325 = dktX1_init_14 := dk_seg dksX1_init_13 23 rfl rfl
theorem dksX1_init_15 : cX1_init.data.toList.drop 347 = dktX1_init_15 := dk_seg dksX1_init_14 22 rfl rfl
theorem dksX1_init_16 : cX1_init.data.toList.drop 371 = dktX1_init_16 := dk_seg dksX1_init_15 24 rfl rfl
theorem dX1_init_0 : decode cX1_init 0 = .ok (.aload_n 0, 1) := dk_42 (dk_at dksX1_init_0 0 rfl rfl)
theorem dX1_init_1 : decode cX1_init 1 = .ok (.invokespecial 1, 3) := dk_183 0 1 (dk_at dksX1_init_0 1 rfl rfl)
theorem dX1_init_4 : decode cX1_init 4 = .ok (.aload_n 0, 1) := dk_42 (dk_at dksX1_init_0 4 rfl rfl)
theorem dX1_init_5 : decode cX1_init 5 = .ok (.sipush 940, 3) := dk_17 3 172 (dk_at dksX1_init_0 5 rfl rfl)
theorem dX1_init_8 : decode cX1_init 8 = .ok (.newarray .byte, 2) := dk_188_8 (dk_at dksX1_init_0 8 rfl rfl)
theorem dX1_init_10 : decode cX1_init 10 = .ok (.putfield 9, 3) := dk_181 0 9 (dk_at dksX1_init_0 10 rfl rfl)
theorem dX1_init_13 : decode cX1_init 13 = .ok (.aload_n 0, 1) := dk_42 (dk_at dksX1_init_0 13 rfl rfl)
theorem dX1_init_14 : decode cX1_init 14 = .ok (.new 13, 3) := dk_187 0 13 (dk_at dksX1_init_0 14 rfl rfl)
theorem dX1_init_17 : decode cX1_init 17 = .ok (.dup, 1) := dk_89 (dk_at dksX1_init_0 17 rfl rfl)
theorem dX1_init_18 : decode cX1_init 18 = .ok (.invokespecial 15, 3) := dk_183 0 15 (dk_at dksX1_init_0 18 rfl rfl)
theorem dX1_init_21 : decode cX1_init 21 = .ok (.putfield 16, 3) := dk_181 0 16 (dk_at dksX1_init_0 21 rfl rfl)
theorem dX1_init_24 : decode cX1_init 24 = .ok (.aload_n 0, 1) := dk_42 (dk_at dksX1_init_1 0 rfl rfl)
theorem dX1_init_25 : decode cX1_init 25 = .ok (.bipush 6, 2) := dk_16 6 (dk_at dksX1_init_1 1 rfl rfl)
theorem dX1_init_27 : decode cX1_init 27 = .ok (.anewarray 20, 3) := dk_189 0 20 (dk_at dksX1_init_1 3 rfl rfl)
theorem dX1_init_30 : decode cX1_init 30 = .ok (.dup, 1) := dk_89 (dk_at dksX1_init_1 6 rfl rfl)
theorem dX1_init_31 : decode cX1_init 31 = .ok (.iconst 0, 1) := dk_3 (dk_at dksX1_init_1 7 rfl rfl)
theorem dX1_init_32 : decode cX1_init 32 = .ok (.ldc 22, 2) := dk_18 22 (dk_at dksX1_init_1 8 rfl rfl)
theorem dX1_init_34 : decode cX1_init 34 = .ok (.aastore, 1) := dk_83 (dk_at dksX1_init_1 10 rfl rfl)
theorem dX1_init_35 : decode cX1_init 35 = .ok (.dup, 1) := dk_89 (dk_at dksX1_init_1 11 rfl rfl)
theorem dX1_init_36 : decode cX1_init 36 = .ok (.iconst 1, 1) := dk_4 (dk_at dksX1_init_1 12 rfl rfl)
theorem dX1_init_37 : decode cX1_init 37 = .ok (.ldc 24, 2) := dk_18 24 (dk_at dksX1_init_1 13 rfl rfl)
theorem dX1_init_39 : decode cX1_init 39 = .ok (.aastore, 1) := dk_83 (dk_at dksX1_init_1 15 rfl rfl)
theorem dX1_init_40 : decode cX1_init 40 = .ok (.dup, 1) := dk_89 (dk_at dksX1_init_1 16 rfl rfl)
theorem dX1_init_41 : decode cX1_init 41 = .ok (.iconst 2, 1) := dk_5 (dk_at dksX1_init_1 17 rfl rfl)
theorem dX1_init_42 : decode cX1_init 42 = .ok (.ldc 26, 2) := dk_18 26 (dk_at dksX1_init_1 18 rfl rfl)
theorem dX1_init_44 : decode cX1_init 44 = .ok (.aastore, 1) := dk_83 (dk_at dksX1_init_1 20 rfl rfl)
theorem dX1_init_45 : decode cX1_init 45 = .ok (.dup, 1) := dk_89 (dk_at dksX1_init_1 21 rfl rfl)
theorem dX1_init_46 : decode cX1_init 46 = .ok (.iconst 3, 1) := dk_6 (dk_at dksX1_init_1 22 rfl rfl)
theorem dX1_init_47 : decode cX1_init 47 = .ok (.ldc 28, 2) := dk_18 28 (dk_at dksX1_init_2 0 rfl rfl)
theorem dX1_init_49 : decode cX1_init 49 = .ok (.aastore, 1) := dk_83 (dk_at dksX1_init_2 2 rfl rfl)
theorem dX1_init_50 : decode cX1_init 50 = .ok (.dup, 1) := dk_89 (dk_at dksX1_init_2 3 rfl rfl)
theorem dX1_init_51 : decode cX1_init 51 = .ok (.iconst 4, 1) := dk_7 (dk_at dksX1_init_2 4 rfl rfl)
theorem dX1_init_52 : decode cX1_init 52 = .ok (.ldc 30, 2) := dk_18 30 (dk_at dksX1_init_2 5 rfl rfl)
theorem dX1_init_54 : decode cX1_init 54 = .ok (.aastore, 1) := dk_83 (dk_at dksX1_init_2 7 rfl rfl)
theorem dX1_init_55 : decode cX1_init 55 = .ok (.dup, 1) := dk_89 (dk_at dksX1_init_2 8 rfl rfl)
theorem dX1_init_56 : decode cX1_init 56 = .ok (.iconst 5, 1) := dk_8 (dk_at dksX1_init_2 9 rfl rfl)
theorem dX1_init_57 : decode cX1_init 57 = .ok (.ldc 32, 2) := dk_18 32 (dk_at dksX1_init_2 10 rfl rfl)
theorem dX1_init_59 : decode cX1_init 59 = .ok (.aastore, 1) := dk_83 (dk_at dksX1_init_2 12 rfl rfl)
theorem dX1_init_60 : decode cX1_init 60 = .ok (.putfield 34, 3) := dk_181 0 34 (dk_at dksX1_init_2 13 rfl rfl)
theorem dX1_init_63 : decode cX1_init 63 = .ok (.aload_n 0, 1) := dk_42 (dk_at dksX1_init_2 16 rfl rfl)
theorem dX1_init_64 : decode cX1_init 64 = .ok (.bipush 13, 2) := dk_16 13 (dk_at dksX1_init_2 17 rfl rfl)
theorem dX1_init_66 : decode cX1_init 66 = .ok (.anewarray 20, 3) := dk_189 0 20 (dk_at dksX1_init_2 19 rfl rfl)
theorem dX1_init_69 : decode cX1_init 69 = .ok (.dup, 1) := dk_89 (dk_at dksX1_init_2 22 rfl rfl)
theorem dX1_init_70 : decode cX1_init 70 = .ok (.iconst 0, 1) := dk_3 (dk_at dksX1_init_2 23 rfl rfl)
theorem dX1_init_71 : decode cX1_init 71 = .ok (.ldc 38, 2) := dk_18 38 (dk_at dksX1_init_3 0 rfl rfl)
theorem dX1_init_73 : decode cX1_init 73 = .ok (.aastore, 1) := dk_83 (dk_at dksX1_init_3 2 rfl rfl)
theorem dX1_init_74 : decode cX1_init 74 = .ok (.dup, 1) := dk_89 (dk_at dksX1_init_3 3 rfl rfl)
theorem dX1_init_75 : decode cX1_init 75 = .ok (.iconst 1, 1) := dk_4 (dk_at dksX1_init_3 4 rfl rfl)
theorem dX1_init_76 : decode cX1_init 76 = .ok (.ldc 40, 2) := dk_18 40 (dk_at dksX1_init_3 5 rfl rfl)
theorem dX1_init_78 : decode cX1_init 78 = .ok (.aastore, 1) := dk_83 (dk_at dksX1_init_3 7 rfl rfl)
theorem dX1_init_79 : decode cX1_init 79 = .ok (.dup, 1) := dk_89 (dk_at dksX1_init_3 8 rfl rfl)
theorem dX1_init_80 : decode cX1_init 80 = .ok (.iconst 2, 1) := dk_5 (dk_at dksX1_init_3 9 rfl rfl)
theorem dX1_init_81 : decode cX1_init 81 = .ok (.ldc 42, 2) := dk_18 42 (dk_at dksX1_init_3 10 rfl rfl)
theorem dX1_init_83 : decode cX1_init 83 = .ok (.aastore, 1) := dk_83 (dk_at dksX1_init_3 12 rfl rfl)
theorem dX1_init_84 : decode cX1_init 84 = .ok (.dup, 1) := dk_89 (dk_at dksX1_init_3 13 rfl rfl)
theorem dX1_init_85 : decode cX1_init 85 = .ok (.iconst 3, 1) := dk_6 (dk_at dksX1_init_3 14 rfl rfl)
theorem dX1_init_86 : decode cX1_init 86 = .ok (.ldc 44, 2) := dk_18 44 (dk_at dksX1_init_3 15 rfl rfl)
theorem dX1_init_88 : decode cX1_init 88 = .ok (.aastore, 1) := dk_83 (dk_at dksX1_init_3 17 rfl rfl)
theorem dX1_init_89 : decode cX1_init 89 = .ok (.dup, 1) := dk_89 (dk_at dksX1_init_3 18 rfl rfl)
theorem dX1_init_90 : decode cX1_init 90 = .ok (.iconst 4, 1) := dk_7 (dk_at dksX1_init_3 19 rfl rfl)
theorem dX1_init_91 : decode cX1_init 91 = .ok (.ldc 46, 2) := dk_18 46 (dk_at dksX1_init_3 20 rfl rfl)
theorem dX1_init_93 : decode cX1_init 93 = .ok (.aastore, 1) := dk_83 (dk_at dksX1_init_3 22 rfl rfl)
theorem dX1_init_94 : decode cX1_init 94 = .ok (.dup, 1) := dk_89 (dk_at dksX1_init_3 23 rfl rfl)
theorem dX1_init_95 : decode cX1_init 95 = .ok (.iconst 5, 1) := dk_8 (dk_at dksX1_init_4 0 rfl rfl)
theorem dX1_init_96 : decode cX1_init 96 = .ok (.ldc 48, 2) := dk_18 48 (dk_at dksX1_init_4 1 rfl rfl)
theorem dX1_init_98 : decode cX1_init 98 = .ok (.aastore, 1) := dk_83 (dk_at dksX1_init_4 3 rfl rfl)
theorem dX1_init_99 : decode cX1_init 99 = .ok (.dup, 1) := dk_89 (dk_at dksX1_init_4 4 rfl rfl)
theorem dX1_init_100 : decode cX1_init 100 = .ok (.bipush 6, 2) := dk_16 6 (dk_at dksX1_init_4 5 rfl rfl)
theorem dX1_init_102 : decode cX1_init 102 = .ok (.ldc 50, 2) := dk_18 50 (dk_at dksX1_init_4 7 rfl rfl)
theorem dX1_init_104 : decode cX1_init 104 = .ok (.aastore, 1) := dk_83 (dk_at dksX1_init_4 9 rfl rfl)
theorem dX1_init_105 : decode cX1_init 105 = .ok (.dup, 1) := dk_89 (dk_at dksX1_init_4 10 rfl rfl)
theorem dX1_init_106 : decode cX1_init 106 = .ok (.bipush 7, 2) := dk_16 7 (dk_at dksX1_init_4 11 rfl rfl)
theorem dX1_init_108 : decode cX1_init 108 = .ok (.ldc 52, 2) := dk_18 52 (dk_at dksX1_init_4 13 rfl rfl)
theorem dX1_init_110 : decode cX1_init 110 = .ok (.aastore, 1) := dk_83 (dk_at dksX1_init_4 15 rfl rfl)
theorem dX1_init_111 : decode cX1_init 111 = .ok (.dup, 1) := dk_89 (dk_at dksX1_init_4 16 rfl rfl)
theorem dX1_init_112 : decode cX1_init 112 = .ok (.bipush 8, 2) := dk_16 8 (dk_at dksX1_init_4 17 rfl rfl)
theorem dX1_init_114 : decode cX1_init 114 = .ok (.ldc 54, 2) := dk_18 54 (dk_at dksX1_init_4 19 rfl rfl)
theorem dX1_init_116 : decode cX1_init 116 = .ok (.aastore, 1) := dk_83 (dk_at dksX1_init_4 21 rfl rfl)
theorem dX1_init_117 : decode cX1_init 117 = .ok (.dup, 1) := dk_89 (dk_at dksX1_init_4 22 rfl rfl)
theorem dX1_init_118 : decode cX1_init 118 = .ok (.bipush 9, 2) := dk_16 9 (dk_at dksX1_init_5 0 rfl rfl)
theorem dX1_init_120 : decode cX1_init 120 = .ok (.ldc 56, 2) := dk_18 56 (dk_at dksX1_init_5 2 rfl rfl)
theorem dX1_init_122 : decode cX1_init 122 = .ok (.aastore, 1) := dk_83 (dk_at dksX1_init_5 4 rfl rfl)
theorem dX1_init_123 : decode cX1_init 123 = .ok (.dup, 1) := dk_89 (dk_at dksX1_init_5 5 rfl rfl)
theorem dX1_init_124 : decode cX1_init 124 = .ok (.bipush 10, 2) := dk_16 10 (dk_at dksX1_init_5 6 rfl rfl)
theorem dX1_init_126 : decode cX1_init 126 = .ok (.ldc 58, 2) := dk_18 58 (dk_at dksX1_init_5 8 rfl rfl)
theorem dX1_init_128 : decode cX1_init 128 = .ok (.aastore, 1) := dk_83 (dk_at dksX1_init_5 10 rfl rfl)
theorem dX1_init_129 : decode cX1_init 129 = .ok (.dup, 1) := dk_89 (dk_at dksX1_init_5 11 rfl rfl)
theorem dX1_init_130 : decode cX1_init 130 = .ok (.bipush 11, 2) := dk_16 11 (dk_at dksX1_init_5 12 rfl rfl)
theorem dX1_init_132 : decode cX1_init 132 = .ok (.ldc 60, 2) := dk_18 60 (dk_at dksX1_init_5 14 rfl rfl)
theorem dX1_init_134 : decode cX1_init 134 = .ok (.aastore, 1) := dk_83 (dk_at dksX1_init_5 16 rfl rfl)
theorem dX1_init_135 : decode cX1_init 135 = .ok (.dup, 1) := dk_89 (dk_at dksX1_init_5 17 rfl rfl)
theorem dX1_init_136 : decode cX1_init 136 = .ok (.bipush 12, 2) := dk_16 12 (dk_at dksX1_init_5 18 rfl rfl)
theorem dX1_init_138 : decode cX1_init 138 = .ok (.ldc 62, 2) := dk_18 62 (dk_at dksX1_init_5 20 rfl rfl)
theorem dX1_init_140 : decode cX1_init 140 = .ok (.aastore, 1) := dk_83 (dk_at dksX1_init_5 22 rfl rfl)
theorem dX1_init_141 : decode cX1_init 141 = .ok (.putfield 64, 3) := dk_181 0 64 (dk_at dksX1_init_6 0 rfl rfl)
theorem dX1_init_144 : decode cX1_init 144 = .ok (.aload_n 0, 1) := dk_42 (dk_at dksX1_init_6 3 rfl rfl)
theorem dX1_init_145 : decode cX1_init 145 = .ok (.bipush 6, 2) := dk_16 6 (dk_at dksX1_init_6 4 rfl rfl)
theorem dX1_init_147 : decode cX1_init 147 = .ok (.anewarray 20, 3) := dk_189 0 20 (dk_at dksX1_init_6 6 rfl rfl)
theorem dX1_init_150 : decode cX1_init 150 = .ok (.dup, 1) := dk_89 (dk_at dksX1_init_6 9 rfl rfl)
theorem dX1_init_151 : decode cX1_init 151 = .ok (.iconst 0, 1) := dk_3 (dk_at dksX1_init_6 10 rfl rfl)
theorem dX1_init_152 : decode cX1_init 152 = .ok (.ldc 67, 2) := dk_18 67 (dk_at dksX1_init_6 11 rfl rfl)
theorem dX1_init_154 : decode cX1_init 154 = .ok (.aastore, 1) := dk_83 (dk_at dksX1_init_6 13 rfl rfl)
theorem dX1_init_155 : decode cX1_init 155 = .ok (.dup, 1) := dk_89 (dk_at dksX1_init_6 14 rfl rfl)
theorem dX1_init_156 : decode cX1_init 156 = .ok (.iconst 1, 1) := dk_4 (dk_at dksX1_init_6 15 rfl rfl)
theorem dX1_init_157 : decode cX1_init 157 = .ok (.ldc 69, 2) := dk_18 69 (dk_at dksX1_init_6 16 rfl rfl)
theorem dX1_init_159 : decode cX1_init 159 = .ok (.aastore, 1) := dk_83 (dk_at dksX1_init_6 18 rfl rfl)
theorem dX1_init_160 : decode cX1_init 160 = .ok (.dup, 1) := dk_89 (dk_at dksX1_init_6 19 rfl rfl)
theorem dX1_init_161 : decode cX1_init 161 = .ok (.iconst 2, 1) := dk_5 (dk_at dksX1_init_6 20 rfl rfl)
theorem dX1_init_162 : decode cX1_init 162 = .ok (.ldc 71, 2) := dk_18 71 (dk_at dksX1_init_6 21 rfl rfl)
theorem dX1_init_164 : decode cX1_init 164 = .ok (.aastore, 1) := dk_83 (dk_at dksX1_init_6 23 rfl rfl)
theorem dX1_init_165 : decode cX1_init 165 = .ok (.dup, 1) := dk_89 (dk_at dksX1_init_7 0 rfl rfl)
theorem dX1_init_166 : decode cX1_init 166 = .ok (.iconst 3, 1) := dk_6 (dk_at dksX1_init_7 1 rfl rfl)
theorem dX1_init_167 : decode cX1_init 167 = .ok (.ldc 73, 2) := dk_18 73 (dk_at dksX1_init_7 2 rfl rfl)
theorem dX1_init_169 : decode cX1_init 169 = .ok (.aastore, 1) := dk_83 (dk_at dksX1_init_7 4 rfl rfl)
theorem dX1_init_170 : decode cX1_init 170 = .ok (.dup, 1) := dk_89 (dk_at dksX1_init_7 5 rfl rfl)
theorem dX1_init_171 : decode cX1_init 171 = .ok (.iconst 4, 1) := dk_7 (dk_at dksX1_init_7 6 rfl rfl)
theorem dX1_init_172 : decode cX1_init 172 = .ok (.ldc 75, 2) := dk_18 75 (dk_at dksX1_init_7 7 rfl rfl)
theorem dX1_init_174 : decode cX1_init 174 = .ok (.aastore, 1) := dk_83 (dk_at dksX1_init_7 9 rfl rfl)
theorem dX1_init_175 : decode cX1_init 175 = .ok (.dup, 1) := dk_89 (dk_at dksX1_init_7 10 rfl rfl)
theorem dX1_init_176 : decode cX1_init 176 = .ok (.iconst 5, 1) := dk_8 (dk_at dksX1_init_7 11 rfl rfl)
theorem dX1_init_177 : decode cX1_init 177 = .ok (.ldc 77, 2) := dk_18 77 (dk_at dksX1_init_7 12 rfl rfl)
theorem dX1_init_179 : decode cX1_init 179 = .ok (.aastore, 1) := dk_83 (dk_at dksX1_init_7 14 rfl rfl)
theorem dX1_init_180 : decode cX1_init 180 = .ok (.putfield 79, 3) := dk_181 0 79 (dk_at dksX1_init_7 15 rfl rfl)
theorem dX1_init_183 : decode cX1_init 183 = .ok (.aload_n 0, 1) := dk_42 (dk_at dksX1_init_7 18 rfl rfl)
theorem dX1_init_184 : decode cX1_init 184 = .ok (.new 82, 3) := dk_187 0 82 (dk_at dksX1_init_7 19 rfl rfl)
theorem dX1_init_187 : decode cX1_init 187 = .ok (.dup, 1) := dk_89 (dk_at dksX1_init_7 22 rfl rfl)
theorem dX1_init_188 : decode cX1_init 188 = .ok (.invokespecial 84, 3) := dk_183 0 84 (dk_at dksX1_init_8 0 rfl rfl)
theorem dX1_init_191 : decode cX1_init 191 = .ok (.putfield 85, 3) := dk_181 0 85 (dk_at dksX1_init_8 3 rfl rfl)
theorem dX1_init_194 : decode cX1_init 194 = .ok (.aload_n 0, 1) := dk_42 (dk_at dksX1_init_8 6 rfl rfl)
theorem dX1_init_195 : decode cX1_init 195 = .ok (.new 82, 3) := dk_187 0 82 (dk_at dksX1_init_8 7 rfl rfl)
theorem dX1_init_198 : decode cX1_init 198 = .ok (.dup, 1) := dk_89 (dk_at dksX1_init_8 10 rfl rfl)
theorem dX1_init_199 : decode cX1_init 199 = .ok (.invokespecial 84, 3) := dk_183 0 84 (dk_at dksX1_init_8 11 rfl rfl)
theorem dX1_init_202 : decode cX1_init 202 = .ok (.putfield 89, 3) := dk_181 0 89 (dk_at dksX1_init_8 14 rfl rfl)
theorem dX1_init_205 : decode cX1_init 205 = .ok (.aload_n 0, 1) := dk_42 (dk_at dksX1_init_8 17 rfl rfl)
theorem dX1_init_206 : decode cX1_init 206 = .ok (.new 82, 3) := dk_187 0 82 (dk_at dksX1_init_8 18 rfl rfl)
theorem dX1_init_209 : decode cX1_init 209 = .ok (.dup, 1) := dk_89 (dk_at dksX1_init_8 21 rfl rfl)
theorem dX1_init_210 : decode cX1_init 210 = .ok (.invokespecial 84, 3) := dk_183 0 84 (dk_at dksX1_init_9 0 rfl rfl)
theorem dX1_init_213 : decode cX1_init 213 = .ok (.putfield 92, 3) := dk_181 0 92 (dk_at dksX1_init_9 3 rfl rfl)
theorem dX1_init_216 : decode cX1_init 216 = .ok (.aload_n 0, 1) := dk_42 (dk_at dksX1_init_9 6 rfl rfl)
theorem dX1_init_217 : decode cX1_init 217 = .ok (.new 95, 3) := dk_187 0 95 (dk_at dksX1_init_9 7 rfl rfl)
theorem dX1_init_220 : decode cX1_init 220 = .ok (.dup, 1) := dk_89 (dk_at dksX1_init_9 10 rfl rfl)
theorem dX1_init_221 : decode cX1_init 221 = .ok (.invokespecial 97, 3) := dk_183 0 97 (dk_at dksX1_init_9 11 rfl rfl)
theorem dX1_init_224 : decode cX1_init 224 = .ok (.putfield 98, 3) := dk_181 0 98 (dk_at dksX1_init_9 14 rfl rfl)
theorem dX1_init_227 : decode cX1_init 227 = .ok (.aload_n 0, 1) := dk_42 (dk_at dksX1_init_9 17 rfl rfl)
theorem dX1_init_228 : decode cX1_init 228 = .ok (.new 95, 3) := dk_187 0 95 (dk_at dksX1_init_9 18 rfl rfl)
theorem dX1_init_231 : decode cX1_init 231 = .ok (.dup, 1) := dk_89 (dk_at dksX1_init_9 21 rfl rfl)
theorem dX1_init_232 : decode cX1_init 232 = .ok (.invokespecial 97, 3) := dk_183 0 97 (dk_at dksX1_init_10 0 rfl rfl)
theorem dX1_init_235 : decode cX1_init 235 = .ok (.putfield 102, 3) := dk_181 0 102 (dk_at dksX1_init_10 3 rfl rfl)
theorem dX1_init_238 : decode cX1_init 238 = .ok (.aload_n 0, 1) := dk_42 (dk_at dksX1_init_10 6 rfl rfl)
theorem dX1_init_239 : decode cX1_init 239 = .ok (.new 95, 3) := dk_187 0 95 (dk_at dksX1_init_10 7 rfl rfl)
theorem dX1_init_242 : decode cX1_init 242 = .ok (.dup, 1) := dk_89 (dk_at dksX1_init_10 10 rfl rfl)
theorem dX1_init_243 : decode cX1_init 243 = .ok (.invokespecial 97, 3) := dk_183 0 97 (dk_at dksX1_init_10 11 rfl rfl)
theorem dX1_init_246 : decode cX1_init 246 = .ok (.putfield 105, 3) := dk_181 0 105 (dk_at dksX1_init_10 14 rfl rfl)
theorem dX1_init_249 : decode cX1_init 249 = .ok (.aload_n 0, 1) := dk_42 (dk_at dksX1_init_10 17 rfl rfl)
theorem dX1_init_250 : decode cX1_init 250 = .ok (.new 108, 3) := dk_187 0 108 (dk_at dksX1_init_10 18 rfl rfl)
theorem dX1_init_253 : decode cX1_init 253 = .ok (.dup, 1) := dk_89 (dk_at dksX1_init_10 21 rfl rfl)
theorem dX1_init_254 : decode cX1_init 254 = .ok (.aload_n 0, 1) := dk_42 (dk_at dksX1_init_10 22 rfl rfl)
theorem dX1_init_255 : decode cX1_init 255 = .ok (.invokespecial 110, 3) := dk_183 0 110 (dk_at dksX1_init_11 0 rfl rfl)
theorem dX1_init_258 : decode cX1_init 258 = .ok (.putfield 113, 3) := dk_181 0 113 (dk_at dksX1_init_11 3 rfl rfl)
theorem dX1_init_261 : decode cX1_init 261 = .ok (.aload_n 0, 1) := dk_42 (dk_at dksX1_init_11 6 rfl rfl)
theorem dX1_init_262 : decode cX1_init 262 = .ok (.new 117, 3) := dk_187 0 117 (dk_at dksX1_init_11 7 rfl rfl)
theorem dX1_init_265 : decode cX1_init 265 = .ok (.dup, 1) := dk_89 (dk_at dksX1_init_11 10 rfl rfl)
theorem dX1_init_266 : decode cX1_init 266 = .ok (.aload_n 0, 1) := dk_42 (dk_at dksX1_init_11 11 rfl rfl)
theorem dX1_init_267 : decode cX1_init 267 = .ok (.invokespecial 119, 3) := dk_183 0 119 (dk_at dksX1_init_11 12 rfl rfl)
theorem dX1_init_270 : decode cX1_init 270 = .ok (.putfield 120, 3) := dk_181 0 120 (dk_at dksX1_init_11 15 rfl rfl)
theorem dX1_init_273 : decode cX1_init 273 = .ok (.aload_n 0, 1) := dk_42 (dk_at dksX1_init_11 18 rfl rfl)
theorem dX1_init_274 : decode cX1_init 274 = .ok (.new 124, 3) := dk_187 0 124 (dk_at dksX1_init_11 19 rfl rfl)
theorem dX1_init_277 : decode cX1_init 277 = .ok (.dup, 1) := dk_89 (dk_at dksX1_init_11 22 rfl rfl)
theorem dX1_init_278 : decode cX1_init 278 = .ok (.aload_n 0, 1) := dk_42 (dk_at dksX1_init_11 23 rfl rfl)
theorem dX1_init_279 : decode cX1_init 279 = .ok (.invokespecial 126, 3) := dk_183 0 126 (dk_at dksX1_init_12 0 rfl rfl)
theorem dX1_init_282 : decode cX1_init 282 = .ok (.putfield 127, 3) := dk_181 0 127 (dk_at dksX1_init_12 3 rfl rfl)
theorem dX1_init_285 : decode cX1_init 285 = .ok (.aload_n 0, 1) := dk_42 (dk_at dksX1_init_12 6 rfl rfl)
theorem dX1_init_286 : decode cX1_init 286 = .ok (.bipush 24, 2) := dk_16 24 (dk_at dksX1_init_12 7 rfl rfl)
theorem dX1_init_288 : decode cX1_init 288 = .ok (.newarray .int, 2) := dk_188_10 (dk_at dksX1_init_12 9 rfl rfl)
theorem dX1_init_290 : decode cX1_init 290 = .ok (.putfield 131, 3) := dk_181 0 131 (dk_at dksX1_init_12 11 rfl rfl)
theorem dX1_init_293 : decode cX1_init 293 = .ok (.aload_n 0, 1) := dk_42 (dk_at dksX1_init_12 14 rfl rfl)
theorem dX1_init_294 : decode cX1_init 294 = .ok (.bipush 24, 2) := dk_16 24 (dk_at dksX1_init_12 15 rfl rfl)
theorem dX1_init_296 : decode cX1_init 296 = .ok (.newarray .int, 2) := dk_188_10 (dk_at dksX1_init_12 17 rfl rfl)
theorem dX1_init_298 : decode cX1_init 298 = .ok (.putfield 135, 3) := dk_181 0 135 (dk_at dksX1_init_12 19 rfl rfl)
theorem dX1_init_301 : decode cX1_init 301 = .ok (.aload_n 0, 1) := dk_42 (dk_at dksX1_init_12 22 rfl rfl)
theorem dX1_init_302 : decode cX1_init 302 = .ok (.bipush 24, 2) := dk_16 24 (dk_at dksX1_init_13 0 rfl rfl)
theorem dX1_init_304 : decode cX1_init 304 = .ok (.newarray .int, 2) := dk_188_10 (dk_at dksX1_init_13 2 rfl rfl)
theorem dX1_init_306 : decode cX1_init 306 = .ok (.putfield 138, 3) := dk_181 0 138 (dk_at dksX1_init_13 4 rfl rfl)
theorem dX1_init_309 : decode cX1_init 309 = .ok (.aload_n 0, 1) := dk_42 (dk_at dksX1_init_13 7 rfl rfl)
theorem dX1_init_310 : decode cX1_init 310 = .ok (.iconst (-1), 1) := dk_2 (dk_at dksX1_init_13 8 rfl rfl)
theorem dX1_init_311 : decode cX1_init 311 = .ok (.putfield 141, 3) := dk_181 0 141 (dk_at dksX1_init_13 9 rfl rfl)
theorem dX1_init_314 : decode cX1_init 314 = .ok (.aload_n 0, 1) := dk_42 (dk_at dksX1_init_13 12 rfl rfl)
theorem dX1_init_315 : decode cX1_init 315 = .ok (.bipush 7, 2) := dk_16 7 (dk_at dksX1_init_13 13 rfl rfl)
theorem dX1_init_317 : decode cX1_init 317 = .ok (.newarray .int, 2) := dk_188_10 (dk_at dksX1_init_13 15 rfl rfl)
theorem dX1_init_319 : decode cX1_init 319 = .ok (.putfield 145, 3) := dk_181 0 145 (dk_at dksX1_init_13 17 rfl rfl)
theorem dX1_init_322 : decode cX1_init 322 = .ok (.aload_n 0, 1) := dk_42 (dk_at dksX1_init_13 20 rfl rfl)
theorem dX1_init_323 : decode cX1_init 323 = .ok (.bipush 7, 2) := dk_16 7 (dk_at dksX1_init_13 21 rfl rfl)
theorem dX1_init_325 : decode cX1_init 325 = .ok (.newarray .int, 2) := dk_188_10 (dk_at dksX1_init_14 0 rfl rfl)
theorem dX1_init_327 : decode cX1_init 327 = .ok (.putfield 148, 3) := dk_181 0 148 (dk_at dksX1_init_14 2 rfl rfl)
theorem dX1_init_330 : decode cX1_init 330 = .ok (.aload_n 0, 1) := dk_42 (dk_at dksX1_init_14 5 rfl rfl)
theorem dX1_init_331 : decode cX1_init 331 = .ok (.bipush 8, 2) := dk_16 8 (dk_at dksX1_init_14 6 rfl rfl)
theorem dX1_init_333 : decode cX1_init 333 = .ok (.newarray .int, 2) := dk_188_10 (dk_at dksX1_init_14 8 rfl rfl)
theorem dX1_init_335 : decode cX1_init 335 = .ok (.putfield 151, 3) := dk_181 0 151 (dk_at dksX1_init_14 10 rfl rfl)
theorem dX1_init_338 : decode cX1_init 338 = .ok (.aload_n 0, 1) := dk_42 (dk_at dksX1_init_14 13 rfl rfl)
theorem dX1_init_339 : decode cX1_init 339 = .ok (.new 154, 3) := dk_187 0 154 (dk_at dksX1_init_14 14 rfl rfl)
theorem dX1_init_342 : decode cX1_init 342 = .ok (.dup, 1) := dk_89 (dk_at dksX1_init_14 17 rfl rfl)
theorem dX1_init_343 : decode cX1_init 343 = .ok (.aload_n 0, 1) := dk_42 (dk_at dksX1_init_14 18 rfl rfl)
theorem dX1_init_344 : decode cX1_init 344 = .ok (.invokespecial 156, 3) := dk_183 0 156 (dk_at dksX1_init_14 19 rfl rfl)
theorem dX1_init_347 : decode cX1_init 347 = .ok (.putfield 157, 3) := dk_181 0 157 (dk_at dksX1_init_15 0 rfl rfl)
theorem dX1_init_350 : decode cX1_init 350 = .ok (.aload_n 0, 1) := dk_42 (dk_at dksX1_init_15 3 rfl rfl)
theorem dX1_init_351 : decode cX1_init 351 = .ok (.iconst 2, 1) := dk_5 (dk_at dksX1_init_15 4 rfl rfl)
theorem dX1_init_352 : decode cX1_init 352 = .ok (.anewarray 82, 3) := dk_189 0 82 (dk_at dksX1_init_15 5 rfl rfl)
theorem dX1_init_355 : decode cX1_init 355 = .ok (.putfield 161, 3) := dk_181 0 161 (dk_at dksX1_init_15 8 rfl rfl)
theorem dX1_init_358 : decode cX1_init 358 = .ok (.aload_n 0, 1) := dk_42 (dk_at dksX1_init_15 11 rfl rfl)
theorem dX1_init_359 : decode cX1_init 359 = .ok (.iconst 2, 1) := dk_5 (dk_at dksX1_init_15 12 rfl rfl)
theorem dX1_init_360 : decode cX1_init 360 = .ok (.anewarray 95, 3) := dk_189 0 95 (dk_at dksX1_init_15 13 rfl rfl)
theorem dX1_init_363 : decode cX1_init 363 = .ok (.putfield 165, 3) := dk_181 0 165 (dk_at dksX1_init_15 16 rfl rfl)
theorem dX1_init_366 : decode cX1_init 366 = .ok (.aload_n 0, 1) := dk_42 (dk_at dksX1_init_15 19 rfl rfl)
theorem dX1_init_367 : decode cX1_init 367 = .ok (.iconst 2, 1) := dk_5 (dk_at dksX1_init_15 20 rfl rfl)
theorem dX1_init_368 : decode cX1_init 368 = .ok (.anewarray 169, 3) := dk_189 0 169 (dk_at dksX1_init_15 21 rfl rfl)
theorem dX1_init_371 : decode cX1_init 371 = .ok (.putfield 171, 3) := dk_181 0 171 (dk_at dksX1_init_16 0 rfl rfl)
theorem dX1_init_374 : decode cX1_init 374 = .ok (.return_, 1) := dk_177 (dk_at dksX1_init_16 3 rfl rfl)
abbrev cX1_feed : ByteArray := prog_1_method_2_code
def yX1_feed : MethodName := ⟨RX1, "feed", "(IIIII)I"⟩
def dkwX1_feed_2 : List UInt8 := [172]
abbrev dktX1_feed_2 : List UInt8 := dkwX1_feed_2 ++ []
def dkwX1_feed_1 : List UInt8 := [182, 0, 178, 42, 29, 182, 0, 178, 42, 21, 4, 182, 0, 178, 42, 21, 5, 182, 0, 178, 42, 180, 0, 175]
abbrev dktX1_feed_1 : List UInt8 := dkwX1_feed_1 ++ dktX1_feed_2
def dkwX1_feed_0 : List UInt8 := [42, 180, 0, 175, 16, 20, 96, 17, 3, 172, 164, 0, 5, 2, 172, 42, 27, 182, 0, 178, 42, 28]
abbrev dktX1_feed_0 : List UInt8 := dkwX1_feed_0 ++ dktX1_feed_1
theorem dksX1_feed_0 : cX1_feed.data.toList.drop 0 = dktX1_feed_0 := by decide +kernel
theorem dksX1_feed_1 : cX1_feed.data.toList.drop 22 = dktX1_feed_1 := dk_seg dksX1_feed_0 22 rfl rfl
theorem dksX1_feed_2 : cX1_feed.data.toList.drop 46 = dktX1_feed_2 := dk_seg dksX1_feed_1 24 rfl rfl
theorem dX1_feed_0 : decode cX1_feed 0 = .ok (.aload_n 0, 1) := dk_42 (dk_at dksX1_feed_0 0 rfl rfl)
theorem dX1_feed_1 : decode cX1_feed 1 = .ok (.getfield 175, 3) := dk_180 0 175 (dk_at dksX1_feed_0 1 rfl rfl)
theorem dX1_feed_4 : decode cX1_feed 4 = .ok (.bipush 20, 2) := dk_16 20 (dk_at dksX1_feed_0 4 rfl rfl)
theorem dX1_feed_6 : decode cX1_feed 6 = .ok (.iadd, 1) := dk_96 (dk_at dksX1_feed_0 6 rfl rfl)
theorem dX1_feed_7 : decode cX1_feed 7 = .ok (.sipush 940, 3) := dk_17 3 172 (dk_at dksX1_feed_0 7 rfl rfl)
theorem dX1_feed_10 : decode cX1_feed 10 = .ok (.if_icmp .le 5, 3) := dk_164 0 5 (dk_at dksX1_feed_0 10 rfl rfl)
theorem dX1_feed_13 : decode cX1_feed 13 = .ok (.iconst (-1), 1) := dk_2 (dk_at dksX1_feed_0 13 rfl rfl)
theorem dX1_feed_14 : decode cX1_feed 14 = .ok (.ireturn, 1) := dk_172 (dk_at dksX1_feed_0 14 rfl rfl)
theorem dX1_feed_15 : decode cX1_feed 15 = .ok (.aload_n 0, 1) := dk_42 (dk_at dksX1_feed_0 15 rfl rfl)
theorem dX1_feed_16 : decode cX1_feed 16 = .ok (.iload_n 1, 1) := dk_27 (dk_at dksX1_feed_0 16 rfl rfl)
theorem dX1_feed_17 : decode cX1_feed 17 = .ok (.invokevirtual 178, 3) := dk_182 0 178 (dk_at dksX1_feed_0 17 rfl rfl)
theorem dX1_feed_20 : decode cX1_feed 20 = .ok (.aload_n 0, 1) := dk_42 (dk_at dksX1_feed_0 20 rfl rfl)
theorem dX1_feed_21 : decode cX1_feed 21 = .ok (.iload_n 2, 1) := dk_28 (dk_at dksX1_feed_0 21 rfl rfl)
theorem dX1_feed_22 : decode cX1_feed 22 = .ok (.invokevirtual 178, 3) := dk_182 0 178 (dk_at dksX1_feed_1 0 rfl rfl)
theorem dX1_feed_25 : decode cX1_feed 25 = .ok (.aload_n 0, 1) := dk_42 (dk_at dksX1_feed_1 3 rfl rfl)
theorem dX1_feed_26 : decode cX1_feed 26 = .ok (.iload_n 3, 1) := dk_29 (dk_at dksX1_feed_1 4 rfl rfl)
theorem dX1_feed_27 : decode cX1_feed 27 = .ok (.invokevirtual 178, 3) := dk_182 0 178 (dk_at dksX1_feed_1 5 rfl rfl)
theorem dX1_feed_30 : decode cX1_feed 30 = .ok (.aload_n 0, 1) := dk_42 (dk_at dksX1_feed_1 8 rfl rfl)
theorem dX1_feed_31 : decode cX1_feed 31 = .ok (.iload 4, 2) := dk_21 4 (dk_at dksX1_feed_1 9 rfl rfl)
theorem dX1_feed_33 : decode cX1_feed 33 = .ok (.invokevirtual 178, 3) := dk_182 0 178 (dk_at dksX1_feed_1 11 rfl rfl)
theorem dX1_feed_36 : decode cX1_feed 36 = .ok (.aload_n 0, 1) := dk_42 (dk_at dksX1_feed_1 14 rfl rfl)
theorem dX1_feed_37 : decode cX1_feed 37 = .ok (.iload 5, 2) := dk_21 5 (dk_at dksX1_feed_1 15 rfl rfl)
theorem dX1_feed_39 : decode cX1_feed 39 = .ok (.invokevirtual 178, 3) := dk_182 0 178 (dk_at dksX1_feed_1 17 rfl rfl)
theorem dX1_feed_42 : decode cX1_feed 42 = .ok (.aload_n 0, 1) := dk_42 (dk_at dksX1_feed_1 20 rfl rfl)
theorem dX1_feed_43 : decode cX1_feed 43 = .ok (.getfield 175, 3) := dk_180 0 175 (dk_at dksX1_feed_1 21 rfl rfl)
theorem dX1_feed_46 : decode cX1_feed 46 = .ok (.ireturn, 1) := dk_172 (dk_at dksX1_feed_2 0 rfl rfl)
abbrev cX1_four : ByteArray := prog_1_method_3_code
def yX1_four : MethodName := ⟨RX1, "four", "(I)V"⟩
def dkwX1_four_1 : List UInt8 := [180, 0, 175, 4, 96, 181, 0, 175, 132, 2, 248, 167, 255, 226, 177]
abbrev dktX1_four_1 : List UInt8 := dkwX1_four_1 ++ []
def dkwX1_four_0 : List UInt8 := [16, 24, 61, 28, 155, 0, 32, 42, 180, 0, 9, 42, 180, 0, 175, 27, 28, 122, 145, 84, 42, 89]
abbrev dktX1_four_0 : List UInt8 := dkwX1_four_0 ++ dktX1_four_1
theorem dksX1_four_0 : cX1_four.data.toList.drop 0 = dktX1_four_0 := by decide +kernel
theorem dksX1_four_1 : cX1_four.data.toList.drop 22 = dktX1_four_1 := dk_seg dksX1_four_0 22 rfl rfl
theorem dX1_four_0 : decode cX1_four 0 = .ok (.bipush 24, 2) := dk_16 24 (dk_at dksX1_four_0 0 rfl rfl)
theorem dX1_four_2 : decode cX1_four 2 = .ok (.istore_n 2, 1) := dk_61 (dk_at dksX1_four_0 2 rfl rfl)
theorem dX1_four_3 : decode cX1_four 3 = .ok (.iload_n 2, 1) := dk_28 (dk_at dksX1_four_0 3 rfl rfl)
theorem dX1_four_4 : decode cX1_four 4 = .ok (.ifCond .lt 32, 3) := dk_155 0 32 (dk_at dksX1_four_0 4 rfl rfl)
theorem dX1_four_7 : decode cX1_four 7 = .ok (.aload_n 0, 1) := dk_42 (dk_at dksX1_four_0 7 rfl rfl)
theorem dX1_four_8 : decode cX1_four 8 = .ok (.getfield 9, 3) := dk_180 0 9 (dk_at dksX1_four_0 8 rfl rfl)
theorem dX1_four_11 : decode cX1_four 11 = .ok (.aload_n 0, 1) := dk_42 (dk_at dksX1_four_0 11 rfl rfl)
theorem dX1_four_12 : decode cX1_four 12 = .ok (.getfield 175, 3) := dk_180 0 175 (dk_at dksX1_four_0 12 rfl rfl)
theorem dX1_four_15 : decode cX1_four 15 = .ok (.iload_n 1, 1) := dk_27 (dk_at dksX1_four_0 15 rfl rfl)
theorem dX1_four_16 : decode cX1_four 16 = .ok (.iload_n 2, 1) := dk_28 (dk_at dksX1_four_0 16 rfl rfl)
theorem dX1_four_17 : decode cX1_four 17 = .ok (.ishr, 1) := dk_122 (dk_at dksX1_four_0 17 rfl rfl)
theorem dX1_four_18 : decode cX1_four 18 = .ok (.i2b, 1) := dk_145 (dk_at dksX1_four_0 18 rfl rfl)
theorem dX1_four_19 : decode cX1_four 19 = .ok (.bastore, 1) := dk_84 (dk_at dksX1_four_0 19 rfl rfl)
theorem dX1_four_20 : decode cX1_four 20 = .ok (.aload_n 0, 1) := dk_42 (dk_at dksX1_four_0 20 rfl rfl)
theorem dX1_four_21 : decode cX1_four 21 = .ok (.dup, 1) := dk_89 (dk_at dksX1_four_0 21 rfl rfl)
theorem dX1_four_22 : decode cX1_four 22 = .ok (.getfield 175, 3) := dk_180 0 175 (dk_at dksX1_four_1 0 rfl rfl)
theorem dX1_four_25 : decode cX1_four 25 = .ok (.iconst 1, 1) := dk_4 (dk_at dksX1_four_1 3 rfl rfl)
theorem dX1_four_26 : decode cX1_four 26 = .ok (.iadd, 1) := dk_96 (dk_at dksX1_four_1 4 rfl rfl)
theorem dX1_four_27 : decode cX1_four 27 = .ok (.putfield 175, 3) := dk_181 0 175 (dk_at dksX1_four_1 5 rfl rfl)
theorem dX1_four_30 : decode cX1_four 30 = .ok (.iinc 2 (-8), 3) := dk_132 2 248 (dk_at dksX1_four_1 8 rfl rfl)
theorem dX1_four_33 : decode cX1_four 33 = .ok (.goto (-30), 3) := dk_167 255 226 (dk_at dksX1_four_1 11 rfl rfl)
theorem dX1_four_36 : decode cX1_four 36 = .ok (.return_, 1) := dk_177 (dk_at dksX1_four_1 14 rfl rfl)
abbrev cX1_end : ByteArray := prog_1_method_4_code
def yX1_end : MethodName := ⟨RX1, "end", "(I)Z"⟩
def dkwX1_end_0 : List UInt8 := [27, 155, 0, 11, 27, 42, 180, 0, 175, 164, 0, 5, 3, 172, 42, 27, 181, 0, 175, 4, 172]
abbrev dktX1_end_0 : List UInt8 := dkwX1_end_0 ++ []
theorem dksX1_end_0 : cX1_end.data.toList.drop 0 = dktX1_end_0 := by decide +kernel
theorem dX1_end_0 : decode cX1_end 0 = .ok (.iload_n 1, 1) := dk_27 (dk_at dksX1_end_0 0 rfl rfl)
theorem dX1_end_1 : decode cX1_end 1 = .ok (.ifCond .lt 11, 3) := dk_155 0 11 (dk_at dksX1_end_0 1 rfl rfl)
theorem dX1_end_4 : decode cX1_end 4 = .ok (.iload_n 1, 1) := dk_27 (dk_at dksX1_end_0 4 rfl rfl)
theorem dX1_end_5 : decode cX1_end 5 = .ok (.aload_n 0, 1) := dk_42 (dk_at dksX1_end_0 5 rfl rfl)
theorem dX1_end_6 : decode cX1_end 6 = .ok (.getfield 175, 3) := dk_180 0 175 (dk_at dksX1_end_0 6 rfl rfl)
theorem dX1_end_9 : decode cX1_end 9 = .ok (.if_icmp .le 5, 3) := dk_164 0 5 (dk_at dksX1_end_0 9 rfl rfl)
theorem dX1_end_12 : decode cX1_end 12 = .ok (.iconst 0, 1) := dk_3 (dk_at dksX1_end_0 12 rfl rfl)
theorem dX1_end_13 : decode cX1_end 13 = .ok (.ireturn, 1) := dk_172 (dk_at dksX1_end_0 13 rfl rfl)
theorem dX1_end_14 : decode cX1_end 14 = .ok (.aload_n 0, 1) := dk_42 (dk_at dksX1_end_0 14 rfl rfl)
theorem dX1_end_15 : decode cX1_end 15 = .ok (.iload_n 1, 1) := dk_27 (dk_at dksX1_end_0 15 rfl rfl)
theorem dX1_end_16 : decode cX1_end 16 = .ok (.putfield 175, 3) := dk_181 0 175 (dk_at dksX1_end_0 16 rfl rfl)
theorem dX1_end_19 : decode cX1_end 19 = .ok (.iconst 1, 1) := dk_4 (dk_at dksX1_end_0 19 rfl rfl)
theorem dX1_end_20 : decode cX1_end 20 = .ok (.ireturn, 1) := dk_172 (dk_at dksX1_end_0 20 rfl rfl)
abbrev cX1_table : ByteArray := prog_1_method_9_code
def yX1_table : MethodName := ⟨RX1, "table", "()I"⟩
def dkwX1_table_2 : List UInt8 := [181, 0, 208, 28, 172, 77, 42, 44, 180, 0, 212, 181, 0, 191, 2, 44, 180, 0, 214, 100, 172]
abbrev dktX1_table_2 : List UInt8 := dkwX1_table_2 ++ []
def dkwX1_table_1 : List UInt8 := [182, 0, 197, 61, 42, 180, 0, 85, 43, 182, 0, 201, 42, 180, 0, 98, 3, 181, 0, 205, 42, 1]
abbrev dktX1_table_1 : List UInt8 := dkwX1_table_1 ++ dktX1_table_2
def dkwX1_table_0 : List UInt8 := [42, 182, 0, 188, 42, 3, 181, 0, 191, 187, 0, 194, 89, 183, 0, 196, 76, 42, 180, 0, 113, 43]
abbrev dktX1_table_0 : List UInt8 := dkwX1_table_0 ++ dktX1_table_1
theorem dksX1_table_0 : cX1_table.data.toList.drop 0 = dktX1_table_0 := by decide +kernel
theorem dksX1_table_1 : cX1_table.data.toList.drop 22 = dktX1_table_1 := dk_seg dksX1_table_0 22 rfl rfl
theorem dksX1_table_2 : cX1_table.data.toList.drop 44 = dktX1_table_2 := dk_seg dksX1_table_1 22 rfl rfl
theorem dX1_table_0 : decode cX1_table 0 = .ok (.aload_n 0, 1) := dk_42 (dk_at dksX1_table_0 0 rfl rfl)
theorem dX1_table_1 : decode cX1_table 1 = .ok (.invokevirtual 188, 3) := dk_182 0 188 (dk_at dksX1_table_0 1 rfl rfl)
theorem dX1_table_4 : decode cX1_table 4 = .ok (.aload_n 0, 1) := dk_42 (dk_at dksX1_table_0 4 rfl rfl)
theorem dX1_table_5 : decode cX1_table 5 = .ok (.iconst 0, 1) := dk_3 (dk_at dksX1_table_0 5 rfl rfl)
theorem dX1_table_6 : decode cX1_table 6 = .ok (.putfield 191, 3) := dk_181 0 191 (dk_at dksX1_table_0 6 rfl rfl)
theorem dX1_table_9 : decode cX1_table 9 = .ok (.new 194, 3) := dk_187 0 194 (dk_at dksX1_table_0 9 rfl rfl)
theorem dX1_table_12 : decode cX1_table 12 = .ok (.dup, 1) := dk_89 (dk_at dksX1_table_0 12 rfl rfl)
theorem dX1_table_13 : decode cX1_table 13 = .ok (.invokespecial 196, 3) := dk_183 0 196 (dk_at dksX1_table_0 13 rfl rfl)
theorem dX1_table_16 : decode cX1_table 16 = .ok (.astore_n 1, 1) := dk_76 (dk_at dksX1_table_0 16 rfl rfl)
theorem dX1_table_17 : decode cX1_table 17 = .ok (.aload_n 0, 1) := dk_42 (dk_at dksX1_table_0 17 rfl rfl)
theorem dX1_table_18 : decode cX1_table 18 = .ok (.getfield 113, 3) := dk_180 0 113 (dk_at dksX1_table_0 18 rfl rfl)
theorem dX1_table_21 : decode cX1_table 21 = .ok (.aload_n 1, 1) := dk_43 (dk_at dksX1_table_0 21 rfl rfl)
theorem dX1_table_22 : decode cX1_table 22 = .ok (.invokevirtual 197, 3) := dk_182 0 197 (dk_at dksX1_table_1 0 rfl rfl)
theorem dX1_table_25 : decode cX1_table 25 = .ok (.istore_n 2, 1) := dk_61 (dk_at dksX1_table_1 3 rfl rfl)
theorem dX1_table_26 : decode cX1_table 26 = .ok (.aload_n 0, 1) := dk_42 (dk_at dksX1_table_1 4 rfl rfl)
theorem dX1_table_27 : decode cX1_table 27 = .ok (.getfield 85, 3) := dk_180 0 85 (dk_at dksX1_table_1 5 rfl rfl)
theorem dX1_table_30 : decode cX1_table 30 = .ok (.aload_n 1, 1) := dk_43 (dk_at dksX1_table_1 8 rfl rfl)
theorem dX1_table_31 : decode cX1_table 31 = .ok (.invokevirtual 201, 3) := dk_182 0 201 (dk_at dksX1_table_1 9 rfl rfl)
theorem dX1_table_34 : decode cX1_table 34 = .ok (.aload_n 0, 1) := dk_42 (dk_at dksX1_table_1 12 rfl rfl)
theorem dX1_table_35 : decode cX1_table 35 = .ok (.getfield 98, 3) := dk_180 0 98 (dk_at dksX1_table_1 13 rfl rfl)
theorem dX1_table_38 : decode cX1_table 38 = .ok (.iconst 0, 1) := dk_3 (dk_at dksX1_table_1 16 rfl rfl)
theorem dX1_table_39 : decode cX1_table 39 = .ok (.putfield 205, 3) := dk_181 0 205 (dk_at dksX1_table_1 17 rfl rfl)
theorem dX1_table_42 : decode cX1_table 42 = .ok (.aload_n 0, 1) := dk_42 (dk_at dksX1_table_1 20 rfl rfl)
theorem dX1_table_43 : decode cX1_table 43 = .ok (.aconst_null, 1) := dk_1 (dk_at dksX1_table_1 21 rfl rfl)
theorem dX1_table_44 : decode cX1_table 44 = .ok (.putfield 208, 3) := dk_181 0 208 (dk_at dksX1_table_2 0 rfl rfl)
theorem dX1_table_47 : decode cX1_table 47 = .ok (.iload_n 2, 1) := dk_28 (dk_at dksX1_table_2 3 rfl rfl)
theorem dX1_table_48 : decode cX1_table 48 = .ok (.ireturn, 1) := dk_172 (dk_at dksX1_table_2 4 rfl rfl)
theorem dX1_table_49 : decode cX1_table 49 = .ok (.astore_n 2, 1) := dk_77 (dk_at dksX1_table_2 5 rfl rfl)
theorem dX1_table_50 : decode cX1_table 50 = .ok (.aload_n 0, 1) := dk_42 (dk_at dksX1_table_2 6 rfl rfl)
theorem dX1_table_51 : decode cX1_table 51 = .ok (.aload_n 2, 1) := dk_44 (dk_at dksX1_table_2 7 rfl rfl)
theorem dX1_table_52 : decode cX1_table 52 = .ok (.getfield 212, 3) := dk_180 0 212 (dk_at dksX1_table_2 8 rfl rfl)
theorem dX1_table_55 : decode cX1_table 55 = .ok (.putfield 191, 3) := dk_181 0 191 (dk_at dksX1_table_2 11 rfl rfl)
theorem dX1_table_58 : decode cX1_table 58 = .ok (.iconst (-1), 1) := dk_2 (dk_at dksX1_table_2 14 rfl rfl)
theorem dX1_table_59 : decode cX1_table 59 = .ok (.aload_n 2, 1) := dk_44 (dk_at dksX1_table_2 15 rfl rfl)
theorem dX1_table_60 : decode cX1_table 60 = .ok (.getfield 214, 3) := dk_180 0 214 (dk_at dksX1_table_2 16 rfl rfl)
theorem dX1_table_63 : decode cX1_table 63 = .ok (.isub, 1) := dk_100 (dk_at dksX1_table_2 19 rfl rfl)
theorem dX1_table_64 : decode cX1_table 64 = .ok (.ireturn, 1) := dk_172 (dk_at dksX1_table_2 20 rfl rfl)
abbrev cX1_taken : ByteArray := prog_1_method_5_code
def yX1_taken : MethodName := ⟨RX1, "taken", "()V"⟩
def dkwX1_taken_0 : List UInt8 := [42, 42, 180, 0, 175, 181, 0, 182, 42, 3, 181, 0, 175, 177]
abbrev dktX1_taken_0 : List UInt8 := dkwX1_taken_0 ++ []
theorem dksX1_taken_0 : cX1_taken.data.toList.drop 0 = dktX1_taken_0 := by decide +kernel
theorem dX1_taken_0 : decode cX1_taken 0 = .ok (.aload_n 0, 1) := dk_42 (dk_at dksX1_taken_0 0 rfl rfl)
theorem dX1_taken_1 : decode cX1_taken 1 = .ok (.aload_n 0, 1) := dk_42 (dk_at dksX1_taken_0 1 rfl rfl)
theorem dX1_taken_2 : decode cX1_taken 2 = .ok (.getfield 175, 3) := dk_180 0 175 (dk_at dksX1_taken_0 2 rfl rfl)
theorem dX1_taken_5 : decode cX1_taken 5 = .ok (.putfield 182, 3) := dk_181 0 182 (dk_at dksX1_taken_0 5 rfl rfl)
theorem dX1_taken_8 : decode cX1_taken 8 = .ok (.aload_n 0, 1) := dk_42 (dk_at dksX1_taken_0 8 rfl rfl)
theorem dX1_taken_9 : decode cX1_taken 9 = .ok (.iconst 0, 1) := dk_3 (dk_at dksX1_taken_0 9 rfl rfl)
theorem dX1_taken_10 : decode cX1_taken 10 = .ok (.putfield 175, 3) := dk_181 0 175 (dk_at dksX1_taken_0 10 rfl rfl)
theorem dX1_taken_13 : decode cX1_taken 13 = .ok (.return_, 1) := dk_177 (dk_at dksX1_taken_0 13 rfl rfl)
abbrev cX1_isIn : ByteArray := prog_1_method_6_code
def yX1_isIn : MethodName := ⟨RX1, "isIn", "(III)Z"⟩
def dkwX1_isIn_0 : List UInt8 := [26, 27, 161, 0, 12, 26, 28, 163, 0, 7, 4, 167, 0, 4, 3, 172]
abbrev dktX1_isIn_0 : List UInt8 := dkwX1_isIn_0 ++ []
theorem dksX1_isIn_0 : cX1_isIn.data.toList.drop 0 = dktX1_isIn_0 := by decide +kernel
theorem dX1_isIn_0 : decode cX1_isIn 0 = .ok (.iload_n 0, 1) := dk_26 (dk_at dksX1_isIn_0 0 rfl rfl)
theorem dX1_isIn_1 : decode cX1_isIn 1 = .ok (.iload_n 1, 1) := dk_27 (dk_at dksX1_isIn_0 1 rfl rfl)
theorem dX1_isIn_2 : decode cX1_isIn 2 = .ok (.if_icmp .lt 12, 3) := dk_161 0 12 (dk_at dksX1_isIn_0 2 rfl rfl)
theorem dX1_isIn_5 : decode cX1_isIn 5 = .ok (.iload_n 0, 1) := dk_26 (dk_at dksX1_isIn_0 5 rfl rfl)
theorem dX1_isIn_6 : decode cX1_isIn 6 = .ok (.iload_n 2, 1) := dk_28 (dk_at dksX1_isIn_0 6 rfl rfl)
theorem dX1_isIn_7 : decode cX1_isIn 7 = .ok (.if_icmp .gt 7, 3) := dk_163 0 7 (dk_at dksX1_isIn_0 7 rfl rfl)
theorem dX1_isIn_10 : decode cX1_isIn 10 = .ok (.iconst 1, 1) := dk_4 (dk_at dksX1_isIn_0 10 rfl rfl)
theorem dX1_isIn_11 : decode cX1_isIn 11 = .ok (.goto 4, 3) := dk_167 0 4 (dk_at dksX1_isIn_0 11 rfl rfl)
theorem dX1_isIn_14 : decode cX1_isIn 14 = .ok (.iconst 0, 1) := dk_3 (dk_at dksX1_isIn_0 14 rfl rfl)
theorem dX1_isIn_15 : decode cX1_isIn 15 = .ok (.ireturn, 1) := dk_172 (dk_at dksX1_isIn_0 15 rfl rfl)
abbrev cX1_has : ByteArray := prog_1_method_8_code
def yX1_has : MethodName := ⟨RX1, "has", "(II)Z"⟩
def dkwX1_has_0 : List UInt8 := [26, 27, 122, 4, 126, 4, 160, 0, 7, 4, 167, 0, 4, 3, 172]
abbrev dktX1_has_0 : List UInt8 := dkwX1_has_0 ++ []
theorem dksX1_has_0 : cX1_has.data.toList.drop 0 = dktX1_has_0 := by decide +kernel
theorem dX1_has_0 : decode cX1_has 0 = .ok (.iload_n 0, 1) := dk_26 (dk_at dksX1_has_0 0 rfl rfl)
theorem dX1_has_1 : decode cX1_has 1 = .ok (.iload_n 1, 1) := dk_27 (dk_at dksX1_has_0 1 rfl rfl)
theorem dX1_has_2 : decode cX1_has 2 = .ok (.ishr, 1) := dk_122 (dk_at dksX1_has_0 2 rfl rfl)
theorem dX1_has_3 : decode cX1_has 3 = .ok (.iconst 1, 1) := dk_4 (dk_at dksX1_has_0 3 rfl rfl)
theorem dX1_has_4 : decode cX1_has 4 = .ok (.iand, 1) := dk_126 (dk_at dksX1_has_0 4 rfl rfl)
theorem dX1_has_5 : decode cX1_has 5 = .ok (.iconst 1, 1) := dk_4 (dk_at dksX1_has_0 5 rfl rfl)
theorem dX1_has_6 : decode cX1_has 6 = .ok (.if_icmp .ne 7, 3) := dk_160 0 7 (dk_at dksX1_has_0 6 rfl rfl)
theorem dX1_has_9 : decode cX1_has 9 = .ok (.iconst 1, 1) := dk_4 (dk_at dksX1_has_0 9 rfl rfl)
theorem dX1_has_10 : decode cX1_has 10 = .ok (.goto 4, 3) := dk_167 0 4 (dk_at dksX1_has_0 10 rfl rfl)
theorem dX1_has_13 : decode cX1_has 13 = .ok (.iconst 0, 1) := dk_3 (dk_at dksX1_has_0 13 rfl rfl)
theorem dX1_has_14 : decode cX1_has 14 = .ok (.ireturn, 1) := dk_172 (dk_at dksX1_has_0 14 rfl rfl)
abbrev cX1_fault : ByteArray := prog_1_method_10_code
def yX1_fault : MethodName := ⟨RX1, "fault", "()I"⟩
theorem dX1_fault_0 : decode cX1_fault 0 = .ok (.aload_n 0, 1) := by decide +kernel
theorem dX1_fault_1 : decode cX1_fault 1 = .ok (.getfield 191, 3) := by decide +kernel
theorem dX1_fault_4 : decode cX1_fault 4 = .ok (.ireturn, 1) := by decide +kernel
abbrev cX1_rank : ByteArray := prog_1_method_11_code
def yX1_rank : MethodName := ⟨RX1, "rank", "(I)I"⟩
def dkwX1_rank_1 : List UInt8 := [180, 0, 228, 167, 0, 4, 2, 172]
abbrev dktX1_rank_1 : List UInt8 := dkwX1_rank_1 ++ []
def dkwX1_rank_0 : List UInt8 := [42, 180, 0, 85, 27, 182, 0, 216, 153, 0, 21, 42, 180, 0, 85, 180, 0, 220, 180, 0, 224, 27, 50]
abbrev dktX1_rank_0 : List UInt8 := dkwX1_rank_0 ++ dktX1_rank_1
theorem dksX1_rank_0 : cX1_rank.data.toList.drop 0 = dktX1_rank_0 := by decide +kernel
theorem dksX1_rank_1 : cX1_rank.data.toList.drop 23 = dktX1_rank_1 := dk_seg dksX1_rank_0 23 rfl rfl
theorem dX1_rank_0 : decode cX1_rank 0 = .ok (.aload_n 0, 1) := dk_42 (dk_at dksX1_rank_0 0 rfl rfl)
theorem dX1_rank_1 : decode cX1_rank 1 = .ok (.getfield 85, 3) := dk_180 0 85 (dk_at dksX1_rank_0 1 rfl rfl)
theorem dX1_rank_4 : decode cX1_rank 4 = .ok (.iload_n 1, 1) := dk_27 (dk_at dksX1_rank_0 4 rfl rfl)
theorem dX1_rank_5 : decode cX1_rank 5 = .ok (.invokevirtual 216, 3) := dk_182 0 216 (dk_at dksX1_rank_0 5 rfl rfl)
theorem dX1_rank_8 : decode cX1_rank 8 = .ok (.ifCond .eq 21, 3) := dk_153 0 21 (dk_at dksX1_rank_0 8 rfl rfl)
theorem dX1_rank_11 : decode cX1_rank 11 = .ok (.aload_n 0, 1) := dk_42 (dk_at dksX1_rank_0 11 rfl rfl)
theorem dX1_rank_12 : decode cX1_rank 12 = .ok (.getfield 85, 3) := dk_180 0 85 (dk_at dksX1_rank_0 12 rfl rfl)
theorem dX1_rank_15 : decode cX1_rank 15 = .ok (.getfield 220, 3) := dk_180 0 220 (dk_at dksX1_rank_0 15 rfl rfl)
theorem dX1_rank_18 : decode cX1_rank 18 = .ok (.getfield 224, 3) := dk_180 0 224 (dk_at dksX1_rank_0 18 rfl rfl)
theorem dX1_rank_21 : decode cX1_rank 21 = .ok (.iload_n 1, 1) := dk_27 (dk_at dksX1_rank_0 21 rfl rfl)
theorem dX1_rank_22 : decode cX1_rank 22 = .ok (.aaload, 1) := dk_50 (dk_at dksX1_rank_0 22 rfl rfl)
theorem dX1_rank_23 : decode cX1_rank 23 = .ok (.getfield 228, 3) := dk_180 0 228 (dk_at dksX1_rank_1 0 rfl rfl)
theorem dX1_rank_26 : decode cX1_rank 26 = .ok (.goto 4, 3) := dk_167 0 4 (dk_at dksX1_rank_1 3 rfl rfl)
theorem dX1_rank_29 : decode cX1_rank 29 = .ok (.iconst (-1), 1) := dk_2 (dk_at dksX1_rank_1 6 rfl rfl)
theorem dX1_rank_30 : decode cX1_rank 30 = .ok (.ireturn, 1) := dk_172 (dk_at dksX1_rank_1 7 rfl rfl)
abbrev cX1_say : ByteArray := prog_1_method_13_code
def yX1_say : MethodName := ⟨RX1, "say", "(II)I"⟩
def dkwX1_say_2 : List UInt8 := [182, 1, 4, 172]
abbrev dktX1_say_2 : List UInt8 := dkwX1_say_2 ++ []
def dkwX1_say_1 : List UInt8 := [180, 0, 85, 180, 1, 3, 17, 1, 144, 160, 0, 7, 2, 167, 0, 12, 42, 180, 0, 85, 27, 28]
abbrev dktX1_say_1 : List UInt8 := dkwX1_say_1 ++ dktX1_say_2
def dkwX1_say_0 : List UInt8 := [42, 180, 0, 85, 27, 182, 0, 216, 153, 0, 27, 42, 180, 0, 85, 28, 182, 0, 233, 153, 0, 16, 42]
abbrev dktX1_say_0 : List UInt8 := dkwX1_say_0 ++ dktX1_say_1
theorem dksX1_say_0 : cX1_say.data.toList.drop 0 = dktX1_say_0 := by decide +kernel
theorem dksX1_say_1 : cX1_say.data.toList.drop 23 = dktX1_say_1 := dk_seg dksX1_say_0 23 rfl rfl
theorem dksX1_say_2 : cX1_say.data.toList.drop 45 = dktX1_say_2 := dk_seg dksX1_say_1 22 rfl rfl
theorem dX1_say_0 : decode cX1_say 0 = .ok (.aload_n 0, 1) := dk_42 (dk_at dksX1_say_0 0 rfl rfl)
theorem dX1_say_1 : decode cX1_say 1 = .ok (.getfield 85, 3) := dk_180 0 85 (dk_at dksX1_say_0 1 rfl rfl)
theorem dX1_say_4 : decode cX1_say 4 = .ok (.iload_n 1, 1) := dk_27 (dk_at dksX1_say_0 4 rfl rfl)
theorem dX1_say_5 : decode cX1_say 5 = .ok (.invokevirtual 216, 3) := dk_182 0 216 (dk_at dksX1_say_0 5 rfl rfl)
theorem dX1_say_8 : decode cX1_say 8 = .ok (.ifCond .eq 27, 3) := dk_153 0 27 (dk_at dksX1_say_0 8 rfl rfl)
theorem dX1_say_11 : decode cX1_say 11 = .ok (.aload_n 0, 1) := dk_42 (dk_at dksX1_say_0 11 rfl rfl)
theorem dX1_say_12 : decode cX1_say 12 = .ok (.getfield 85, 3) := dk_180 0 85 (dk_at dksX1_say_0 12 rfl rfl)
theorem dX1_say_15 : decode cX1_say 15 = .ok (.iload_n 2, 1) := dk_28 (dk_at dksX1_say_0 15 rfl rfl)
theorem dX1_say_16 : decode cX1_say 16 = .ok (.invokevirtual 233, 3) := dk_182 0 233 (dk_at dksX1_say_0 16 rfl rfl)
theorem dX1_say_19 : decode cX1_say 19 = .ok (.ifCond .eq 16, 3) := dk_153 0 16 (dk_at dksX1_say_0 19 rfl rfl)
theorem dX1_say_22 : decode cX1_say 22 = .ok (.aload_n 0, 1) := dk_42 (dk_at dksX1_say_0 22 rfl rfl)
theorem dX1_say_23 : decode cX1_say 23 = .ok (.getfield 85, 3) := dk_180 0 85 (dk_at dksX1_say_1 0 rfl rfl)
theorem dX1_say_26 : decode cX1_say 26 = .ok (.getfield 259, 3) := dk_180 1 3 (dk_at dksX1_say_1 3 rfl rfl)
theorem dX1_say_29 : decode cX1_say 29 = .ok (.sipush 400, 3) := dk_17 1 144 (dk_at dksX1_say_1 6 rfl rfl)
theorem dX1_say_32 : decode cX1_say 32 = .ok (.if_icmp .ne 7, 3) := dk_160 0 7 (dk_at dksX1_say_1 9 rfl rfl)
theorem dX1_say_35 : decode cX1_say 35 = .ok (.iconst (-1), 1) := dk_2 (dk_at dksX1_say_1 12 rfl rfl)
theorem dX1_say_36 : decode cX1_say 36 = .ok (.goto 12, 3) := dk_167 0 12 (dk_at dksX1_say_1 13 rfl rfl)
theorem dX1_say_39 : decode cX1_say 39 = .ok (.aload_n 0, 1) := dk_42 (dk_at dksX1_say_1 16 rfl rfl)
theorem dX1_say_40 : decode cX1_say 40 = .ok (.getfield 85, 3) := dk_180 0 85 (dk_at dksX1_say_1 17 rfl rfl)
theorem dX1_say_43 : decode cX1_say 43 = .ok (.iload_n 1, 1) := dk_27 (dk_at dksX1_say_1 20 rfl rfl)
theorem dX1_say_44 : decode cX1_say 44 = .ok (.iload_n 2, 1) := dk_28 (dk_at dksX1_say_1 21 rfl rfl)
theorem dX1_say_45 : decode cX1_say 45 = .ok (.invokevirtual 260, 3) := dk_182 1 4 (dk_at dksX1_say_2 0 rfl rfl)
theorem dX1_say_48 : decode cX1_say 48 = .ok (.ireturn, 1) := dk_172 (dk_at dksX1_say_2 3 rfl rfl)
abbrev cX1_wrong : ByteArray := prog_1_method_14_code
def yX1_wrong : MethodName := ⟨RX1, "wrong", "(II)I"⟩
def dkwX1_wrong_2 : List UInt8 := [182, 1, 8, 172]
abbrev dktX1_wrong_2 : List UInt8 := dkwX1_wrong_2 ++ []
def dkwX1_wrong_1 : List UInt8 := [180, 0, 85, 180, 1, 3, 17, 1, 144, 160, 0, 7, 2, 167, 0, 12, 42, 180, 0, 85, 27, 28]
abbrev dktX1_wrong_1 : List UInt8 := dkwX1_wrong_1 ++ dktX1_wrong_2
def dkwX1_wrong_0 : List UInt8 := [42, 180, 0, 85, 27, 182, 0, 216, 153, 0, 27, 42, 180, 0, 85, 28, 182, 0, 233, 153, 0, 16, 42]
abbrev dktX1_wrong_0 : List UInt8 := dkwX1_wrong_0 ++ dktX1_wrong_1
theorem dksX1_wrong_0 : cX1_wrong.data.toList.drop 0 = dktX1_wrong_0 := by decide +kernel
theorem dksX1_wrong_1 : cX1_wrong.data.toList.drop 23 = dktX1_wrong_1 := dk_seg dksX1_wrong_0 23 rfl rfl
theorem dksX1_wrong_2 : cX1_wrong.data.toList.drop 45 = dktX1_wrong_2 := dk_seg dksX1_wrong_1 22 rfl rfl
theorem dX1_wrong_0 : decode cX1_wrong 0 = .ok (.aload_n 0, 1) := dk_42 (dk_at dksX1_wrong_0 0 rfl rfl)
theorem dX1_wrong_1 : decode cX1_wrong 1 = .ok (.getfield 85, 3) := dk_180 0 85 (dk_at dksX1_wrong_0 1 rfl rfl)
theorem dX1_wrong_4 : decode cX1_wrong 4 = .ok (.iload_n 1, 1) := dk_27 (dk_at dksX1_wrong_0 4 rfl rfl)
theorem dX1_wrong_5 : decode cX1_wrong 5 = .ok (.invokevirtual 216, 3) := dk_182 0 216 (dk_at dksX1_wrong_0 5 rfl rfl)
theorem dX1_wrong_8 : decode cX1_wrong 8 = .ok (.ifCond .eq 27, 3) := dk_153 0 27 (dk_at dksX1_wrong_0 8 rfl rfl)
theorem dX1_wrong_11 : decode cX1_wrong 11 = .ok (.aload_n 0, 1) := dk_42 (dk_at dksX1_wrong_0 11 rfl rfl)
theorem dX1_wrong_12 : decode cX1_wrong 12 = .ok (.getfield 85, 3) := dk_180 0 85 (dk_at dksX1_wrong_0 12 rfl rfl)
theorem dX1_wrong_15 : decode cX1_wrong 15 = .ok (.iload_n 2, 1) := dk_28 (dk_at dksX1_wrong_0 15 rfl rfl)
theorem dX1_wrong_16 : decode cX1_wrong 16 = .ok (.invokevirtual 233, 3) := dk_182 0 233 (dk_at dksX1_wrong_0 16 rfl rfl)
theorem dX1_wrong_19 : decode cX1_wrong 19 = .ok (.ifCond .eq 16, 3) := dk_153 0 16 (dk_at dksX1_wrong_0 19 rfl rfl)
theorem dX1_wrong_22 : decode cX1_wrong 22 = .ok (.aload_n 0, 1) := dk_42 (dk_at dksX1_wrong_0 22 rfl rfl)
theorem dX1_wrong_23 : decode cX1_wrong 23 = .ok (.getfield 85, 3) := dk_180 0 85 (dk_at dksX1_wrong_1 0 rfl rfl)
theorem dX1_wrong_26 : decode cX1_wrong 26 = .ok (.getfield 259, 3) := dk_180 1 3 (dk_at dksX1_wrong_1 3 rfl rfl)
theorem dX1_wrong_29 : decode cX1_wrong 29 = .ok (.sipush 400, 3) := dk_17 1 144 (dk_at dksX1_wrong_1 6 rfl rfl)
theorem dX1_wrong_32 : decode cX1_wrong 32 = .ok (.if_icmp .ne 7, 3) := dk_160 0 7 (dk_at dksX1_wrong_1 9 rfl rfl)
theorem dX1_wrong_35 : decode cX1_wrong 35 = .ok (.iconst (-1), 1) := dk_2 (dk_at dksX1_wrong_1 12 rfl rfl)
theorem dX1_wrong_36 : decode cX1_wrong 36 = .ok (.goto 12, 3) := dk_167 0 12 (dk_at dksX1_wrong_1 13 rfl rfl)
theorem dX1_wrong_39 : decode cX1_wrong 39 = .ok (.aload_n 0, 1) := dk_42 (dk_at dksX1_wrong_1 16 rfl rfl)
theorem dX1_wrong_40 : decode cX1_wrong 40 = .ok (.getfield 85, 3) := dk_180 0 85 (dk_at dksX1_wrong_1 17 rfl rfl)
theorem dX1_wrong_43 : decode cX1_wrong 43 = .ok (.iload_n 1, 1) := dk_27 (dk_at dksX1_wrong_1 20 rfl rfl)
theorem dX1_wrong_44 : decode cX1_wrong 44 = .ok (.iload_n 2, 1) := dk_28 (dk_at dksX1_wrong_1 21 rfl rfl)
theorem dX1_wrong_45 : decode cX1_wrong 45 = .ok (.invokevirtual 264, 3) := dk_182 1 8 (dk_at dksX1_wrong_2 0 rfl rfl)
theorem dX1_wrong_48 : decode cX1_wrong 48 = .ok (.ireturn, 1) := dk_172 (dk_at dksX1_wrong_2 3 rfl rfl)
abbrev cX1_may : ByteArray := prog_1_method_15_code
def yX1_may : MethodName := ⟨RX1, "may", "(I)I"⟩
def dkwX1_may_3 : List UInt8 := [167, 255, 204, 28, 172]
abbrev dktX1_may_3 : List UInt8 := dkwX1_may_3 ++ []
def dkwX1_may_2 : List UInt8 := [180, 0, 85, 27, 29, 182, 1, 8, 154, 0, 9, 4, 29, 120, 167, 0, 4, 3, 128, 61, 132, 3, 1]
abbrev dktX1_may_2 : List UInt8 := dkwX1_may_2 ++ dktX1_may_3
def dkwX1_may_1 : List UInt8 := [180, 0, 220, 180, 1, 11, 162, 0, 44, 42, 180, 0, 85, 180, 1, 3, 17, 1, 144, 162, 0, 31, 28, 42]
abbrev dktX1_may_1 : List UInt8 := dkwX1_may_1 ++ dktX1_may_2
def dkwX1_may_0 : List UInt8 := [42, 180, 0, 85, 27, 182, 0, 216, 154, 0, 5, 2, 172, 3, 61, 3, 62, 29, 42, 180, 0, 85]
abbrev dktX1_may_0 : List UInt8 := dkwX1_may_0 ++ dktX1_may_1
theorem dksX1_may_0 : cX1_may.data.toList.drop 0 = dktX1_may_0 := by decide +kernel
theorem dksX1_may_1 : cX1_may.data.toList.drop 22 = dktX1_may_1 := dk_seg dksX1_may_0 22 rfl rfl
theorem dksX1_may_2 : cX1_may.data.toList.drop 46 = dktX1_may_2 := dk_seg dksX1_may_1 24 rfl rfl
theorem dksX1_may_3 : cX1_may.data.toList.drop 69 = dktX1_may_3 := dk_seg dksX1_may_2 23 rfl rfl
theorem dX1_may_0 : decode cX1_may 0 = .ok (.aload_n 0, 1) := dk_42 (dk_at dksX1_may_0 0 rfl rfl)
theorem dX1_may_1 : decode cX1_may 1 = .ok (.getfield 85, 3) := dk_180 0 85 (dk_at dksX1_may_0 1 rfl rfl)
theorem dX1_may_4 : decode cX1_may 4 = .ok (.iload_n 1, 1) := dk_27 (dk_at dksX1_may_0 4 rfl rfl)
theorem dX1_may_5 : decode cX1_may 5 = .ok (.invokevirtual 216, 3) := dk_182 0 216 (dk_at dksX1_may_0 5 rfl rfl)
theorem dX1_may_8 : decode cX1_may 8 = .ok (.ifCond .ne 5, 3) := dk_154 0 5 (dk_at dksX1_may_0 8 rfl rfl)
theorem dX1_may_11 : decode cX1_may 11 = .ok (.iconst (-1), 1) := dk_2 (dk_at dksX1_may_0 11 rfl rfl)
theorem dX1_may_12 : decode cX1_may 12 = .ok (.ireturn, 1) := dk_172 (dk_at dksX1_may_0 12 rfl rfl)
theorem dX1_may_13 : decode cX1_may 13 = .ok (.iconst 0, 1) := dk_3 (dk_at dksX1_may_0 13 rfl rfl)
theorem dX1_may_14 : decode cX1_may 14 = .ok (.istore_n 2, 1) := dk_61 (dk_at dksX1_may_0 14 rfl rfl)
theorem dX1_may_15 : decode cX1_may 15 = .ok (.iconst 0, 1) := dk_3 (dk_at dksX1_may_0 15 rfl rfl)
theorem dX1_may_16 : decode cX1_may 16 = .ok (.istore_n 3, 1) := dk_62 (dk_at dksX1_may_0 16 rfl rfl)
theorem dX1_may_17 : decode cX1_may 17 = .ok (.iload_n 3, 1) := dk_29 (dk_at dksX1_may_0 17 rfl rfl)
theorem dX1_may_18 : decode cX1_may 18 = .ok (.aload_n 0, 1) := dk_42 (dk_at dksX1_may_0 18 rfl rfl)
theorem dX1_may_19 : decode cX1_may 19 = .ok (.getfield 85, 3) := dk_180 0 85 (dk_at dksX1_may_0 19 rfl rfl)
theorem dX1_may_22 : decode cX1_may 22 = .ok (.getfield 220, 3) := dk_180 0 220 (dk_at dksX1_may_1 0 rfl rfl)
theorem dX1_may_25 : decode cX1_may 25 = .ok (.getfield 267, 3) := dk_180 1 11 (dk_at dksX1_may_1 3 rfl rfl)
theorem dX1_may_28 : decode cX1_may 28 = .ok (.if_icmp .ge 44, 3) := dk_162 0 44 (dk_at dksX1_may_1 6 rfl rfl)
theorem dX1_may_31 : decode cX1_may 31 = .ok (.aload_n 0, 1) := dk_42 (dk_at dksX1_may_1 9 rfl rfl)
theorem dX1_may_32 : decode cX1_may 32 = .ok (.getfield 85, 3) := dk_180 0 85 (dk_at dksX1_may_1 10 rfl rfl)
theorem dX1_may_35 : decode cX1_may 35 = .ok (.getfield 259, 3) := dk_180 1 3 (dk_at dksX1_may_1 13 rfl rfl)
theorem dX1_may_38 : decode cX1_may 38 = .ok (.sipush 400, 3) := dk_17 1 144 (dk_at dksX1_may_1 16 rfl rfl)
theorem dX1_may_41 : decode cX1_may 41 = .ok (.if_icmp .ge 31, 3) := dk_162 0 31 (dk_at dksX1_may_1 19 rfl rfl)
theorem dX1_may_44 : decode cX1_may 44 = .ok (.iload_n 2, 1) := dk_28 (dk_at dksX1_may_1 22 rfl rfl)
theorem dX1_may_45 : decode cX1_may 45 = .ok (.aload_n 0, 1) := dk_42 (dk_at dksX1_may_1 23 rfl rfl)
theorem dX1_may_46 : decode cX1_may 46 = .ok (.getfield 85, 3) := dk_180 0 85 (dk_at dksX1_may_2 0 rfl rfl)
theorem dX1_may_49 : decode cX1_may 49 = .ok (.iload_n 1, 1) := dk_27 (dk_at dksX1_may_2 3 rfl rfl)
theorem dX1_may_50 : decode cX1_may 50 = .ok (.iload_n 3, 1) := dk_29 (dk_at dksX1_may_2 4 rfl rfl)
theorem dX1_may_51 : decode cX1_may 51 = .ok (.invokevirtual 264, 3) := dk_182 1 8 (dk_at dksX1_may_2 5 rfl rfl)
theorem dX1_may_54 : decode cX1_may 54 = .ok (.ifCond .ne 9, 3) := dk_154 0 9 (dk_at dksX1_may_2 8 rfl rfl)
theorem dX1_may_57 : decode cX1_may 57 = .ok (.iconst 1, 1) := dk_4 (dk_at dksX1_may_2 11 rfl rfl)
theorem dX1_may_58 : decode cX1_may 58 = .ok (.iload_n 3, 1) := dk_29 (dk_at dksX1_may_2 12 rfl rfl)
theorem dX1_may_59 : decode cX1_may 59 = .ok (.ishl, 1) := dk_120 (dk_at dksX1_may_2 13 rfl rfl)
theorem dX1_may_60 : decode cX1_may 60 = .ok (.goto 4, 3) := dk_167 0 4 (dk_at dksX1_may_2 14 rfl rfl)
theorem dX1_may_63 : decode cX1_may 63 = .ok (.iconst 0, 1) := dk_3 (dk_at dksX1_may_2 17 rfl rfl)
theorem dX1_may_64 : decode cX1_may 64 = .ok (.ior, 1) := dk_128 (dk_at dksX1_may_2 18 rfl rfl)
theorem dX1_may_65 : decode cX1_may 65 = .ok (.istore_n 2, 1) := dk_61 (dk_at dksX1_may_2 19 rfl rfl)
theorem dX1_may_66 : decode cX1_may 66 = .ok (.iinc 3 1, 3) := dk_132 3 1 (dk_at dksX1_may_2 20 rfl rfl)
theorem dX1_may_69 : decode cX1_may 69 = .ok (.goto (-52), 3) := dk_167 255 204 (dk_at dksX1_may_3 0 rfl rfl)
theorem dX1_may_72 : decode cX1_may 72 = .ok (.iload_n 2, 1) := dk_28 (dk_at dksX1_may_3 3 rfl rfl)
theorem dX1_may_73 : decode cX1_may 73 = .ok (.ireturn, 1) := dk_172 (dk_at dksX1_may_3 4 rfl rfl)
abbrev cX1_undo : ByteArray := prog_1_method_16_code
def yX1_undo : MethodName := ⟨RX1, "undo", "()I"⟩
def dkwX1_undo_1 : List UInt8 := [180, 1, 3, 172]
abbrev dktX1_undo_1 : List UInt8 := dkwX1_undo_1 ++ []
def dkwX1_undo_0 : List UInt8 := [42, 180, 0, 85, 180, 1, 3, 154, 0, 5, 2, 172, 42, 180, 0, 85, 182, 1, 14, 42, 180, 0, 85]
abbrev dktX1_undo_0 : List UInt8 := dkwX1_undo_0 ++ dktX1_undo_1
theorem dksX1_undo_0 : cX1_undo.data.toList.drop 0 = dktX1_undo_0 := by decide +kernel
theorem dksX1_undo_1 : cX1_undo.data.toList.drop 23 = dktX1_undo_1 := dk_seg dksX1_undo_0 23 rfl rfl
theorem dX1_undo_0 : decode cX1_undo 0 = .ok (.aload_n 0, 1) := dk_42 (dk_at dksX1_undo_0 0 rfl rfl)
theorem dX1_undo_1 : decode cX1_undo 1 = .ok (.getfield 85, 3) := dk_180 0 85 (dk_at dksX1_undo_0 1 rfl rfl)
theorem dX1_undo_4 : decode cX1_undo 4 = .ok (.getfield 259, 3) := dk_180 1 3 (dk_at dksX1_undo_0 4 rfl rfl)
theorem dX1_undo_7 : decode cX1_undo 7 = .ok (.ifCond .ne 5, 3) := dk_154 0 5 (dk_at dksX1_undo_0 7 rfl rfl)
theorem dX1_undo_10 : decode cX1_undo 10 = .ok (.iconst (-1), 1) := dk_2 (dk_at dksX1_undo_0 10 rfl rfl)
theorem dX1_undo_11 : decode cX1_undo 11 = .ok (.ireturn, 1) := dk_172 (dk_at dksX1_undo_0 11 rfl rfl)
theorem dX1_undo_12 : decode cX1_undo 12 = .ok (.aload_n 0, 1) := dk_42 (dk_at dksX1_undo_0 12 rfl rfl)
theorem dX1_undo_13 : decode cX1_undo 13 = .ok (.getfield 85, 3) := dk_180 0 85 (dk_at dksX1_undo_0 13 rfl rfl)
theorem dX1_undo_16 : decode cX1_undo 16 = .ok (.invokevirtual 270, 3) := dk_182 1 14 (dk_at dksX1_undo_0 16 rfl rfl)
theorem dX1_undo_19 : decode cX1_undo 19 = .ok (.aload_n 0, 1) := dk_42 (dk_at dksX1_undo_0 19 rfl rfl)
theorem dX1_undo_20 : decode cX1_undo 20 = .ok (.getfield 85, 3) := dk_180 0 85 (dk_at dksX1_undo_0 20 rfl rfl)
theorem dX1_undo_23 : decode cX1_undo 23 = .ok (.getfield 259, 3) := dk_180 1 3 (dk_at dksX1_undo_1 0 rfl rfl)
theorem dX1_undo_26 : decode cX1_undo 26 = .ok (.ireturn, 1) := dk_172 (dk_at dksX1_undo_1 3 rfl rfl)
abbrev cX1_talk : ByteArray := prog_1_method_17_code
def yX1_talk : MethodName := ⟨RX1, "talk", "()I"⟩
def dkwX1_talk_4 : List UInt8 := [180, 0, 214, 100, 172]
abbrev dktX1_talk_4 : List UInt8 := dkwX1_talk_4 ++ []
def dkwX1_talk_3 : List UInt8 := [43, 180, 0, 212, 8, 160, 0, 13, 42, 180, 0, 120, 180, 1, 25, 167, 0, 4, 3, 181, 1, 17, 2, 43]
abbrev dktX1_talk_3 : List UInt8 := dkwX1_talk_3 ++ dktX1_talk_4
def dkwX1_talk_2 : List UInt8 := [180, 0, 89, 182, 1, 22, 42, 180, 0, 85, 180, 1, 3, 172, 76, 42, 43, 180, 0, 212, 181, 0, 191, 42]
abbrev dktX1_talk_2 : List UInt8 := dkwX1_talk_2 ++ dktX1_talk_3
def dkwX1_talk_1 : List UInt8 := [180, 0, 220, 182, 0, 201, 42, 180, 0, 120, 42, 180, 0, 89, 182, 1, 19, 42, 180, 0, 85, 42]
abbrev dktX1_talk_1 : List UInt8 := dkwX1_talk_1 ++ dktX1_talk_2
def dkwX1_talk_0 : List UInt8 := [42, 182, 0, 188, 42, 3, 181, 0, 191, 42, 3, 181, 1, 17, 42, 180, 0, 89, 42, 180, 0, 85]
abbrev dktX1_talk_0 : List UInt8 := dkwX1_talk_0 ++ dktX1_talk_1
theorem dksX1_talk_0 : cX1_talk.data.toList.drop 0 = dktX1_talk_0 := by decide +kernel
theorem dksX1_talk_1 : cX1_talk.data.toList.drop 22 = dktX1_talk_1 := dk_seg dksX1_talk_0 22 rfl rfl
theorem dksX1_talk_2 : cX1_talk.data.toList.drop 44 = dktX1_talk_2 := dk_seg dksX1_talk_1 22 rfl rfl
theorem dksX1_talk_3 : cX1_talk.data.toList.drop 68 = dktX1_talk_3 := dk_seg dksX1_talk_2 24 rfl rfl
theorem dksX1_talk_4 : cX1_talk.data.toList.drop 92 = dktX1_talk_4 := dk_seg dksX1_talk_3 24 rfl rfl
theorem dX1_talk_0 : decode cX1_talk 0 = .ok (.aload_n 0, 1) := dk_42 (dk_at dksX1_talk_0 0 rfl rfl)
theorem dX1_talk_1 : decode cX1_talk 1 = .ok (.invokevirtual 188, 3) := dk_182 0 188 (dk_at dksX1_talk_0 1 rfl rfl)
theorem dX1_talk_4 : decode cX1_talk 4 = .ok (.aload_n 0, 1) := dk_42 (dk_at dksX1_talk_0 4 rfl rfl)
theorem dX1_talk_5 : decode cX1_talk 5 = .ok (.iconst 0, 1) := dk_3 (dk_at dksX1_talk_0 5 rfl rfl)
theorem dX1_talk_6 : decode cX1_talk 6 = .ok (.putfield 191, 3) := dk_181 0 191 (dk_at dksX1_talk_0 6 rfl rfl)
theorem dX1_talk_9 : decode cX1_talk 9 = .ok (.aload_n 0, 1) := dk_42 (dk_at dksX1_talk_0 9 rfl rfl)
theorem dX1_talk_10 : decode cX1_talk 10 = .ok (.iconst 0, 1) := dk_3 (dk_at dksX1_talk_0 10 rfl rfl)
theorem dX1_talk_11 : decode cX1_talk 11 = .ok (.putfield 273, 3) := dk_181 1 17 (dk_at dksX1_talk_0 11 rfl rfl)
theorem dX1_talk_14 : decode cX1_talk 14 = .ok (.aload_n 0, 1) := dk_42 (dk_at dksX1_talk_0 14 rfl rfl)
theorem dX1_talk_15 : decode cX1_talk 15 = .ok (.getfield 89, 3) := dk_180 0 89 (dk_at dksX1_talk_0 15 rfl rfl)
theorem dX1_talk_18 : decode cX1_talk 18 = .ok (.aload_n 0, 1) := dk_42 (dk_at dksX1_talk_0 18 rfl rfl)
theorem dX1_talk_19 : decode cX1_talk 19 = .ok (.getfield 85, 3) := dk_180 0 85 (dk_at dksX1_talk_0 19 rfl rfl)
theorem dX1_talk_22 : decode cX1_talk 22 = .ok (.getfield 220, 3) := dk_180 0 220 (dk_at dksX1_talk_1 0 rfl rfl)
theorem dX1_talk_25 : decode cX1_talk 25 = .ok (.invokevirtual 201, 3) := dk_182 0 201 (dk_at dksX1_talk_1 3 rfl rfl)
theorem dX1_talk_28 : decode cX1_talk 28 = .ok (.aload_n 0, 1) := dk_42 (dk_at dksX1_talk_1 6 rfl rfl)
theorem dX1_talk_29 : decode cX1_talk 29 = .ok (.getfield 120, 3) := dk_180 0 120 (dk_at dksX1_talk_1 7 rfl rfl)
theorem dX1_talk_32 : decode cX1_talk 32 = .ok (.aload_n 0, 1) := dk_42 (dk_at dksX1_talk_1 10 rfl rfl)
theorem dX1_talk_33 : decode cX1_talk 33 = .ok (.getfield 89, 3) := dk_180 0 89 (dk_at dksX1_talk_1 11 rfl rfl)
theorem dX1_talk_36 : decode cX1_talk 36 = .ok (.invokevirtual 275, 3) := dk_182 1 19 (dk_at dksX1_talk_1 14 rfl rfl)
theorem dX1_talk_39 : decode cX1_talk 39 = .ok (.aload_n 0, 1) := dk_42 (dk_at dksX1_talk_1 17 rfl rfl)
theorem dX1_talk_40 : decode cX1_talk 40 = .ok (.getfield 85, 3) := dk_180 0 85 (dk_at dksX1_talk_1 18 rfl rfl)
theorem dX1_talk_43 : decode cX1_talk 43 = .ok (.aload_n 0, 1) := dk_42 (dk_at dksX1_talk_1 21 rfl rfl)
theorem dX1_talk_44 : decode cX1_talk 44 = .ok (.getfield 89, 3) := dk_180 0 89 (dk_at dksX1_talk_2 0 rfl rfl)
theorem dX1_talk_47 : decode cX1_talk 47 = .ok (.invokevirtual 278, 3) := dk_182 1 22 (dk_at dksX1_talk_2 3 rfl rfl)
theorem dX1_talk_50 : decode cX1_talk 50 = .ok (.aload_n 0, 1) := dk_42 (dk_at dksX1_talk_2 6 rfl rfl)
theorem dX1_talk_51 : decode cX1_talk 51 = .ok (.getfield 85, 3) := dk_180 0 85 (dk_at dksX1_talk_2 7 rfl rfl)
theorem dX1_talk_54 : decode cX1_talk 54 = .ok (.getfield 259, 3) := dk_180 1 3 (dk_at dksX1_talk_2 10 rfl rfl)
theorem dX1_talk_57 : decode cX1_talk 57 = .ok (.ireturn, 1) := dk_172 (dk_at dksX1_talk_2 13 rfl rfl)
theorem dX1_talk_58 : decode cX1_talk 58 = .ok (.astore_n 1, 1) := dk_76 (dk_at dksX1_talk_2 14 rfl rfl)
theorem dX1_talk_59 : decode cX1_talk 59 = .ok (.aload_n 0, 1) := dk_42 (dk_at dksX1_talk_2 15 rfl rfl)
theorem dX1_talk_60 : decode cX1_talk 60 = .ok (.aload_n 1, 1) := dk_43 (dk_at dksX1_talk_2 16 rfl rfl)
theorem dX1_talk_61 : decode cX1_talk 61 = .ok (.getfield 212, 3) := dk_180 0 212 (dk_at dksX1_talk_2 17 rfl rfl)
theorem dX1_talk_64 : decode cX1_talk 64 = .ok (.putfield 191, 3) := dk_181 0 191 (dk_at dksX1_talk_2 20 rfl rfl)
theorem dX1_talk_67 : decode cX1_talk 67 = .ok (.aload_n 0, 1) := dk_42 (dk_at dksX1_talk_2 23 rfl rfl)
theorem dX1_talk_68 : decode cX1_talk 68 = .ok (.aload_n 1, 1) := dk_43 (dk_at dksX1_talk_3 0 rfl rfl)
theorem dX1_talk_69 : decode cX1_talk 69 = .ok (.getfield 212, 3) := dk_180 0 212 (dk_at dksX1_talk_3 1 rfl rfl)
theorem dX1_talk_72 : decode cX1_talk 72 = .ok (.iconst 5, 1) := dk_8 (dk_at dksX1_talk_3 4 rfl rfl)
theorem dX1_talk_73 : decode cX1_talk 73 = .ok (.if_icmp .ne 13, 3) := dk_160 0 13 (dk_at dksX1_talk_3 5 rfl rfl)
theorem dX1_talk_76 : decode cX1_talk 76 = .ok (.aload_n 0, 1) := dk_42 (dk_at dksX1_talk_3 8 rfl rfl)
theorem dX1_talk_77 : decode cX1_talk 77 = .ok (.getfield 120, 3) := dk_180 0 120 (dk_at dksX1_talk_3 9 rfl rfl)
theorem dX1_talk_80 : decode cX1_talk 80 = .ok (.getfield 281, 3) := dk_180 1 25 (dk_at dksX1_talk_3 12 rfl rfl)
theorem dX1_talk_83 : decode cX1_talk 83 = .ok (.goto 4, 3) := dk_167 0 4 (dk_at dksX1_talk_3 15 rfl rfl)
theorem dX1_talk_86 : decode cX1_talk 86 = .ok (.iconst 0, 1) := dk_3 (dk_at dksX1_talk_3 18 rfl rfl)
theorem dX1_talk_87 : decode cX1_talk 87 = .ok (.putfield 273, 3) := dk_181 1 17 (dk_at dksX1_talk_3 19 rfl rfl)
theorem dX1_talk_90 : decode cX1_talk 90 = .ok (.iconst (-1), 1) := dk_2 (dk_at dksX1_talk_3 22 rfl rfl)
theorem dX1_talk_91 : decode cX1_talk 91 = .ok (.aload_n 1, 1) := dk_43 (dk_at dksX1_talk_3 23 rfl rfl)
theorem dX1_talk_92 : decode cX1_talk 92 = .ok (.getfield 214, 3) := dk_180 0 214 (dk_at dksX1_talk_4 0 rfl rfl)
theorem dX1_talk_95 : decode cX1_talk 95 = .ok (.isub, 1) := dk_100 (dk_at dksX1_talk_4 3 rfl rfl)
theorem dX1_talk_96 : decode cX1_talk 96 = .ok (.ireturn, 1) := dk_172 (dk_at dksX1_talk_4 4 rfl rfl)
abbrev cX1_why : ByteArray := prog_1_method_18_code
def yX1_why : MethodName := ⟨RX1, "why", "()I"⟩
theorem dX1_why_0 : decode cX1_why 0 = .ok (.aload_n 0, 1) := by decide +kernel
theorem dX1_why_1 : decode cX1_why 1 = .ok (.getfield 273, 3) := by decide +kernel
theorem dX1_why_4 : decode cX1_why 4 = .ok (.ireturn, 1) := by decide +kernel
abbrev cX1_threads : ByteArray := prog_1_method_21_code
def yX1_threads : MethodName := ⟨RX1, "threads", "()I"⟩
def dkwX1_threads_0 : List UInt8 := [42, 180, 0, 85, 180, 1, 50, 172]
abbrev dktX1_threads_0 : List UInt8 := dkwX1_threads_0 ++ []
theorem dksX1_threads_0 : cX1_threads.data.toList.drop 0 = dktX1_threads_0 := by decide +kernel
theorem dX1_threads_0 : decode cX1_threads 0 = .ok (.aload_n 0, 1) := dk_42 (dk_at dksX1_threads_0 0 rfl rfl)
theorem dX1_threads_1 : decode cX1_threads 1 = .ok (.getfield 85, 3) := dk_180 0 85 (dk_at dksX1_threads_0 1 rfl rfl)
theorem dX1_threads_4 : decode cX1_threads 4 = .ok (.getfield 306, 3) := dk_180 1 50 (dk_at dksX1_threads_0 4 rfl rfl)
theorem dX1_threads_7 : decode cX1_threads 7 = .ok (.ireturn, 1) := dk_172 (dk_at dksX1_threads_0 7 rfl rfl)
abbrev cX1_thread : ByteArray := prog_1_method_22_code
def yX1_thread : MethodName := ⟨RX1, "thread", "(II)I"⟩
def dkwX1_thread_3 : List UInt8 := [167, 255, 213, 28, 2, 160, 0, 7, 29, 167, 0, 4, 2, 172]
abbrev dktX1_thread_3 : List UInt8 := dkwX1_thread_3 ++ []
def dkwX1_thread_2 : List UInt8 := [21, 4, 46, 27, 159, 0, 6, 167, 0, 14, 29, 28, 160, 0, 6, 21, 4, 172, 132, 3, 1, 132, 4, 1]
abbrev dktX1_thread_2 : List UInt8 := dkwX1_thread_2 ++ dktX1_thread_3
def dkwX1_thread_1 : List UInt8 := [3, 62, 3, 54, 4, 21, 4, 42, 180, 0, 85, 180, 1, 3, 162, 0, 37, 42, 180, 0, 85, 180, 1, 40]
abbrev dktX1_thread_1 : List UInt8 := dkwX1_thread_1 ++ dktX1_thread_2
def dkwX1_thread_0 : List UInt8 := [27, 3, 42, 180, 0, 85, 180, 1, 50, 4, 100, 184, 0, 236, 153, 0, 8, 28, 2, 162, 0, 5, 2, 172]
abbrev dktX1_thread_0 : List UInt8 := dkwX1_thread_0 ++ dktX1_thread_1
theorem dksX1_thread_0 : cX1_thread.data.toList.drop 0 = dktX1_thread_0 := by decide +kernel
theorem dksX1_thread_1 : cX1_thread.data.toList.drop 24 = dktX1_thread_1 := dk_seg dksX1_thread_0 24 rfl rfl
theorem dksX1_thread_2 : cX1_thread.data.toList.drop 48 = dktX1_thread_2 := dk_seg dksX1_thread_1 24 rfl rfl
theorem dksX1_thread_3 : cX1_thread.data.toList.drop 72 = dktX1_thread_3 := dk_seg dksX1_thread_2 24 rfl rfl
theorem dX1_thread_0 : decode cX1_thread 0 = .ok (.iload_n 1, 1) := dk_27 (dk_at dksX1_thread_0 0 rfl rfl)
theorem dX1_thread_1 : decode cX1_thread 1 = .ok (.iconst 0, 1) := dk_3 (dk_at dksX1_thread_0 1 rfl rfl)
theorem dX1_thread_2 : decode cX1_thread 2 = .ok (.aload_n 0, 1) := dk_42 (dk_at dksX1_thread_0 2 rfl rfl)
theorem dX1_thread_3 : decode cX1_thread 3 = .ok (.getfield 85, 3) := dk_180 0 85 (dk_at dksX1_thread_0 3 rfl rfl)
theorem dX1_thread_6 : decode cX1_thread 6 = .ok (.getfield 306, 3) := dk_180 1 50 (dk_at dksX1_thread_0 6 rfl rfl)
theorem dX1_thread_9 : decode cX1_thread 9 = .ok (.iconst 1, 1) := dk_4 (dk_at dksX1_thread_0 9 rfl rfl)
theorem dX1_thread_10 : decode cX1_thread 10 = .ok (.isub, 1) := dk_100 (dk_at dksX1_thread_0 10 rfl rfl)
theorem dX1_thread_11 : decode cX1_thread 11 = .ok (.invokestatic 236, 3) := dk_184 0 236 (dk_at dksX1_thread_0 11 rfl rfl)
theorem dX1_thread_14 : decode cX1_thread 14 = .ok (.ifCond .eq 8, 3) := dk_153 0 8 (dk_at dksX1_thread_0 14 rfl rfl)
theorem dX1_thread_17 : decode cX1_thread 17 = .ok (.iload_n 2, 1) := dk_28 (dk_at dksX1_thread_0 17 rfl rfl)
theorem dX1_thread_18 : decode cX1_thread 18 = .ok (.iconst (-1), 1) := dk_2 (dk_at dksX1_thread_0 18 rfl rfl)
theorem dX1_thread_19 : decode cX1_thread 19 = .ok (.if_icmp .ge 5, 3) := dk_162 0 5 (dk_at dksX1_thread_0 19 rfl rfl)
theorem dX1_thread_22 : decode cX1_thread 22 = .ok (.iconst (-1), 1) := dk_2 (dk_at dksX1_thread_0 22 rfl rfl)
theorem dX1_thread_23 : decode cX1_thread 23 = .ok (.ireturn, 1) := dk_172 (dk_at dksX1_thread_0 23 rfl rfl)
theorem dX1_thread_24 : decode cX1_thread 24 = .ok (.iconst 0, 1) := dk_3 (dk_at dksX1_thread_1 0 rfl rfl)
theorem dX1_thread_25 : decode cX1_thread 25 = .ok (.istore_n 3, 1) := dk_62 (dk_at dksX1_thread_1 1 rfl rfl)
theorem dX1_thread_26 : decode cX1_thread 26 = .ok (.iconst 0, 1) := dk_3 (dk_at dksX1_thread_1 2 rfl rfl)
theorem dX1_thread_27 : decode cX1_thread 27 = .ok (.istore 4, 2) := dk_54 4 (dk_at dksX1_thread_1 3 rfl rfl)
theorem dX1_thread_29 : decode cX1_thread 29 = .ok (.iload 4, 2) := dk_21 4 (dk_at dksX1_thread_1 5 rfl rfl)
theorem dX1_thread_31 : decode cX1_thread 31 = .ok (.aload_n 0, 1) := dk_42 (dk_at dksX1_thread_1 7 rfl rfl)
theorem dX1_thread_32 : decode cX1_thread 32 = .ok (.getfield 85, 3) := dk_180 0 85 (dk_at dksX1_thread_1 8 rfl rfl)
theorem dX1_thread_35 : decode cX1_thread 35 = .ok (.getfield 259, 3) := dk_180 1 3 (dk_at dksX1_thread_1 11 rfl rfl)
theorem dX1_thread_38 : decode cX1_thread 38 = .ok (.if_icmp .ge 37, 3) := dk_162 0 37 (dk_at dksX1_thread_1 14 rfl rfl)
theorem dX1_thread_41 : decode cX1_thread 41 = .ok (.aload_n 0, 1) := dk_42 (dk_at dksX1_thread_1 17 rfl rfl)
theorem dX1_thread_42 : decode cX1_thread 42 = .ok (.getfield 85, 3) := dk_180 0 85 (dk_at dksX1_thread_1 18 rfl rfl)
theorem dX1_thread_45 : decode cX1_thread 45 = .ok (.getfield 296, 3) := dk_180 1 40 (dk_at dksX1_thread_1 21 rfl rfl)
theorem dX1_thread_48 : decode cX1_thread 48 = .ok (.iload 4, 2) := dk_21 4 (dk_at dksX1_thread_2 0 rfl rfl)
theorem dX1_thread_50 : decode cX1_thread 50 = .ok (.iaload, 1) := dk_46 (dk_at dksX1_thread_2 2 rfl rfl)
theorem dX1_thread_51 : decode cX1_thread 51 = .ok (.iload_n 1, 1) := dk_27 (dk_at dksX1_thread_2 3 rfl rfl)
theorem dX1_thread_52 : decode cX1_thread 52 = .ok (.if_icmp .eq 6, 3) := dk_159 0 6 (dk_at dksX1_thread_2 4 rfl rfl)
theorem dX1_thread_55 : decode cX1_thread 55 = .ok (.goto 14, 3) := dk_167 0 14 (dk_at dksX1_thread_2 7 rfl rfl)
theorem dX1_thread_58 : decode cX1_thread 58 = .ok (.iload_n 3, 1) := dk_29 (dk_at dksX1_thread_2 10 rfl rfl)
theorem dX1_thread_59 : decode cX1_thread 59 = .ok (.iload_n 2, 1) := dk_28 (dk_at dksX1_thread_2 11 rfl rfl)
theorem dX1_thread_60 : decode cX1_thread 60 = .ok (.if_icmp .ne 6, 3) := dk_160 0 6 (dk_at dksX1_thread_2 12 rfl rfl)
theorem dX1_thread_63 : decode cX1_thread 63 = .ok (.iload 4, 2) := dk_21 4 (dk_at dksX1_thread_2 15 rfl rfl)
theorem dX1_thread_65 : decode cX1_thread 65 = .ok (.ireturn, 1) := dk_172 (dk_at dksX1_thread_2 17 rfl rfl)
theorem dX1_thread_66 : decode cX1_thread 66 = .ok (.iinc 3 1, 3) := dk_132 3 1 (dk_at dksX1_thread_2 18 rfl rfl)
theorem dX1_thread_69 : decode cX1_thread 69 = .ok (.iinc 4 1, 3) := dk_132 4 1 (dk_at dksX1_thread_2 21 rfl rfl)
theorem dX1_thread_72 : decode cX1_thread 72 = .ok (.goto (-43), 3) := dk_167 255 213 (dk_at dksX1_thread_3 0 rfl rfl)
theorem dX1_thread_75 : decode cX1_thread 75 = .ok (.iload_n 2, 1) := dk_28 (dk_at dksX1_thread_3 3 rfl rfl)
theorem dX1_thread_76 : decode cX1_thread 76 = .ok (.iconst (-1), 1) := dk_2 (dk_at dksX1_thread_3 4 rfl rfl)
theorem dX1_thread_77 : decode cX1_thread 77 = .ok (.if_icmp .ne 7, 3) := dk_160 0 7 (dk_at dksX1_thread_3 5 rfl rfl)
theorem dX1_thread_80 : decode cX1_thread 80 = .ok (.iload_n 3, 1) := dk_29 (dk_at dksX1_thread_3 8 rfl rfl)
theorem dX1_thread_81 : decode cX1_thread 81 = .ok (.goto 4, 3) := dk_167 0 4 (dk_at dksX1_thread_3 9 rfl rfl)
theorem dX1_thread_84 : decode cX1_thread 84 = .ok (.iconst (-1), 1) := dk_2 (dk_at dksX1_thread_3 12 rfl rfl)
theorem dX1_thread_85 : decode cX1_thread 85 = .ok (.ireturn, 1) := dk_172 (dk_at dksX1_thread_3 13 rfl rfl)
abbrev cX1_with : ByteArray := prog_1_method_23_code
def yX1_with : MethodName := ⟨RX1, "with", "(II)I"⟩
def dkwX1_with_3 : List UInt8 := [160, 0, 7, 29, 167, 0, 4, 2, 172]
abbrev dktX1_with_3 : List UInt8 := dkwX1_with_3 ++ []
def dkwX1_with_2 : List UInt8 := [167, 0, 14, 29, 28, 160, 0, 6, 21, 4, 172, 132, 3, 1, 132, 4, 1, 167, 255, 214, 28, 2]
abbrev dktX1_with_2 : List UInt8 := dkwX1_with_2 ++ dktX1_with_3
def dkwX1_with_1 : List UInt8 := [42, 180, 0, 85, 180, 1, 3, 162, 0, 36, 42, 180, 0, 85, 21, 4, 182, 1, 44, 27, 159, 0, 6]
abbrev dktX1_with_1 : List UInt8 := dkwX1_with_1 ++ dktX1_with_2
def dkwX1_with_0 : List UInt8 := [27, 4, 16, 8, 184, 0, 236, 153, 0, 8, 28, 2, 162, 0, 5, 2, 172, 3, 62, 3, 54, 4, 21, 4]
abbrev dktX1_with_0 : List UInt8 := dkwX1_with_0 ++ dktX1_with_1
theorem dksX1_with_0 : cX1_with.data.toList.drop 0 = dktX1_with_0 := by decide +kernel
theorem dksX1_with_1 : cX1_with.data.toList.drop 24 = dktX1_with_1 := dk_seg dksX1_with_0 24 rfl rfl
theorem dksX1_with_2 : cX1_with.data.toList.drop 47 = dktX1_with_2 := dk_seg dksX1_with_1 23 rfl rfl
theorem dksX1_with_3 : cX1_with.data.toList.drop 69 = dktX1_with_3 := dk_seg dksX1_with_2 22 rfl rfl
theorem dX1_with_0 : decode cX1_with 0 = .ok (.iload_n 1, 1) := dk_27 (dk_at dksX1_with_0 0 rfl rfl)
theorem dX1_with_1 : decode cX1_with 1 = .ok (.iconst 1, 1) := dk_4 (dk_at dksX1_with_0 1 rfl rfl)
theorem dX1_with_2 : decode cX1_with 2 = .ok (.bipush 8, 2) := dk_16 8 (dk_at dksX1_with_0 2 rfl rfl)
theorem dX1_with_4 : decode cX1_with 4 = .ok (.invokestatic 236, 3) := dk_184 0 236 (dk_at dksX1_with_0 4 rfl rfl)
theorem dX1_with_7 : decode cX1_with 7 = .ok (.ifCond .eq 8, 3) := dk_153 0 8 (dk_at dksX1_with_0 7 rfl rfl)
theorem dX1_with_10 : decode cX1_with 10 = .ok (.iload_n 2, 1) := dk_28 (dk_at dksX1_with_0 10 rfl rfl)
theorem dX1_with_11 : decode cX1_with 11 = .ok (.iconst (-1), 1) := dk_2 (dk_at dksX1_with_0 11 rfl rfl)
theorem dX1_with_12 : decode cX1_with 12 = .ok (.if_icmp .ge 5, 3) := dk_162 0 5 (dk_at dksX1_with_0 12 rfl rfl)
theorem dX1_with_15 : decode cX1_with 15 = .ok (.iconst (-1), 1) := dk_2 (dk_at dksX1_with_0 15 rfl rfl)
theorem dX1_with_16 : decode cX1_with 16 = .ok (.ireturn, 1) := dk_172 (dk_at dksX1_with_0 16 rfl rfl)
theorem dX1_with_17 : decode cX1_with 17 = .ok (.iconst 0, 1) := dk_3 (dk_at dksX1_with_0 17 rfl rfl)
theorem dX1_with_18 : decode cX1_with 18 = .ok (.istore_n 3, 1) := dk_62 (dk_at dksX1_with_0 18 rfl rfl)
theorem dX1_with_19 : decode cX1_with 19 = .ok (.iconst 0, 1) := dk_3 (dk_at dksX1_with_0 19 rfl rfl)
theorem dX1_with_20 : decode cX1_with 20 = .ok (.istore 4, 2) := dk_54 4 (dk_at dksX1_with_0 20 rfl rfl)
theorem dX1_with_22 : decode cX1_with 22 = .ok (.iload 4, 2) := dk_21 4 (dk_at dksX1_with_0 22 rfl rfl)
theorem dX1_with_24 : decode cX1_with 24 = .ok (.aload_n 0, 1) := dk_42 (dk_at dksX1_with_1 0 rfl rfl)
theorem dX1_with_25 : decode cX1_with 25 = .ok (.getfield 85, 3) := dk_180 0 85 (dk_at dksX1_with_1 1 rfl rfl)
theorem dX1_with_28 : decode cX1_with 28 = .ok (.getfield 259, 3) := dk_180 1 3 (dk_at dksX1_with_1 4 rfl rfl)
theorem dX1_with_31 : decode cX1_with 31 = .ok (.if_icmp .ge 36, 3) := dk_162 0 36 (dk_at dksX1_with_1 7 rfl rfl)
theorem dX1_with_34 : decode cX1_with 34 = .ok (.aload_n 0, 1) := dk_42 (dk_at dksX1_with_1 10 rfl rfl)
theorem dX1_with_35 : decode cX1_with 35 = .ok (.getfield 85, 3) := dk_180 0 85 (dk_at dksX1_with_1 11 rfl rfl)
theorem dX1_with_38 : decode cX1_with 38 = .ok (.iload 4, 2) := dk_21 4 (dk_at dksX1_with_1 14 rfl rfl)
theorem dX1_with_40 : decode cX1_with 40 = .ok (.invokevirtual 300, 3) := dk_182 1 44 (dk_at dksX1_with_1 16 rfl rfl)
theorem dX1_with_43 : decode cX1_with 43 = .ok (.iload_n 1, 1) := dk_27 (dk_at dksX1_with_1 19 rfl rfl)
theorem dX1_with_44 : decode cX1_with 44 = .ok (.if_icmp .eq 6, 3) := dk_159 0 6 (dk_at dksX1_with_1 20 rfl rfl)
theorem dX1_with_47 : decode cX1_with 47 = .ok (.goto 14, 3) := dk_167 0 14 (dk_at dksX1_with_2 0 rfl rfl)
theorem dX1_with_50 : decode cX1_with 50 = .ok (.iload_n 3, 1) := dk_29 (dk_at dksX1_with_2 3 rfl rfl)
theorem dX1_with_51 : decode cX1_with 51 = .ok (.iload_n 2, 1) := dk_28 (dk_at dksX1_with_2 4 rfl rfl)
theorem dX1_with_52 : decode cX1_with 52 = .ok (.if_icmp .ne 6, 3) := dk_160 0 6 (dk_at dksX1_with_2 5 rfl rfl)
theorem dX1_with_55 : decode cX1_with 55 = .ok (.iload 4, 2) := dk_21 4 (dk_at dksX1_with_2 8 rfl rfl)
theorem dX1_with_57 : decode cX1_with 57 = .ok (.ireturn, 1) := dk_172 (dk_at dksX1_with_2 10 rfl rfl)
theorem dX1_with_58 : decode cX1_with 58 = .ok (.iinc 3 1, 3) := dk_132 3 1 (dk_at dksX1_with_2 11 rfl rfl)
theorem dX1_with_61 : decode cX1_with 61 = .ok (.iinc 4 1, 3) := dk_132 4 1 (dk_at dksX1_with_2 14 rfl rfl)
theorem dX1_with_64 : decode cX1_with 64 = .ok (.goto (-42), 3) := dk_167 255 214 (dk_at dksX1_with_2 17 rfl rfl)
theorem dX1_with_67 : decode cX1_with 67 = .ok (.iload_n 2, 1) := dk_28 (dk_at dksX1_with_2 20 rfl rfl)
theorem dX1_with_68 : decode cX1_with 68 = .ok (.iconst (-1), 1) := dk_2 (dk_at dksX1_with_2 21 rfl rfl)
theorem dX1_with_69 : decode cX1_with 69 = .ok (.if_icmp .ne 7, 3) := dk_160 0 7 (dk_at dksX1_with_3 0 rfl rfl)
theorem dX1_with_72 : decode cX1_with 72 = .ok (.iload_n 3, 1) := dk_29 (dk_at dksX1_with_3 3 rfl rfl)
theorem dX1_with_73 : decode cX1_with 73 = .ok (.goto 4, 3) := dk_167 0 4 (dk_at dksX1_with_3 4 rfl rfl)
theorem dX1_with_76 : decode cX1_with 76 = .ok (.iconst (-1), 1) := dk_2 (dk_at dksX1_with_3 7 rfl rfl)
theorem dX1_with_77 : decode cX1_with 77 = .ok (.ireturn, 1) := dk_172 (dk_at dksX1_with_3 8 rfl rfl)
abbrev cX1_promised : ByteArray := prog_1_method_24_code
def yX1_promised : MethodName := ⟨RX1, "promised", "(III)I"⟩
def dkwX1_promised_5 : List UInt8 := [4, 167, 0, 4, 3, 96, 54, 4, 132, 5, 1, 167, 255, 171, 21, 4, 172]
abbrev dktX1_promised_5 : List UInt8 := dkwX1_promised_5 ++ []
def dkwX1_promised_4 : List UInt8 := [182, 1, 48, 28, 160, 0, 24, 29, 153, 0, 16, 42, 180, 0, 85, 21, 5, 182, 1, 44, 29, 160, 0, 7]
abbrev dktX1_promised_4 : List UInt8 := dkwX1_promised_4 ++ dktX1_promised_5
def dkwX1_promised_3 : List UInt8 := [160, 0, 51, 42, 180, 0, 85, 180, 1, 33, 21, 5, 46, 27, 160, 0, 37, 42, 180, 0, 85, 21, 5]
abbrev dktX1_promised_3 : List UInt8 := dkwX1_promised_3 ++ dktX1_promised_4
def dkwX1_promised_2 : List UInt8 := [180, 0, 85, 180, 1, 3, 162, 0, 79, 21, 4, 42, 180, 0, 85, 21, 5, 182, 1, 29, 180, 0, 252, 5]
abbrev dktX1_promised_2 : List UInt8 := dkwX1_promised_2 ++ dktX1_promised_3
def dkwX1_promised_1 : List UInt8 := [153, 0, 15, 29, 7, 16, 8, 184, 0, 236, 154, 0, 5, 2, 172, 3, 54, 4, 3, 54, 5, 21, 5, 42]
abbrev dktX1_promised_1 : List UInt8 := dkwX1_promised_1 ++ dktX1_promised_2
def dkwX1_promised_0 : List UInt8 := [42, 180, 0, 85, 27, 182, 0, 216, 153, 0, 28, 42, 180, 0, 85, 28, 182, 0, 216, 153, 0, 17, 29]
abbrev dktX1_promised_0 : List UInt8 := dkwX1_promised_0 ++ dktX1_promised_1
theorem dksX1_promised_0 : cX1_promised.data.toList.drop 0 = dktX1_promised_0 := by decide +kernel
theorem dksX1_promised_1 : cX1_promised.data.toList.drop 23 = dktX1_promised_1 := dk_seg dksX1_promised_0 23 rfl rfl
theorem dksX1_promised_2 : cX1_promised.data.toList.drop 47 = dktX1_promised_2 := dk_seg dksX1_promised_1 24 rfl rfl
theorem dksX1_promised_3 : cX1_promised.data.toList.drop 71 = dktX1_promised_3 := dk_seg dksX1_promised_2 24 rfl rfl
theorem dksX1_promised_4 : cX1_promised.data.toList.drop 94 = dktX1_promised_4 := dk_seg dksX1_promised_3 23 rfl rfl
theorem dksX1_promised_5 : cX1_promised.data.toList.drop 118 = dktX1_promised_5 := dk_seg dksX1_promised_4 24 rfl rfl
theorem dX1_promised_0 : decode cX1_promised 0 = .ok (.aload_n 0, 1) := dk_42 (dk_at dksX1_promised_0 0 rfl rfl)
theorem dX1_promised_1 : decode cX1_promised 1 = .ok (.getfield 85, 3) := dk_180 0 85 (dk_at dksX1_promised_0 1 rfl rfl)
theorem dX1_promised_4 : decode cX1_promised 4 = .ok (.iload_n 1, 1) := dk_27 (dk_at dksX1_promised_0 4 rfl rfl)
theorem dX1_promised_5 : decode cX1_promised 5 = .ok (.invokevirtual 216, 3) := dk_182 0 216 (dk_at dksX1_promised_0 5 rfl rfl)
theorem dX1_promised_8 : decode cX1_promised 8 = .ok (.ifCond .eq 28, 3) := dk_153 0 28 (dk_at dksX1_promised_0 8 rfl rfl)
theorem dX1_promised_11 : decode cX1_promised 11 = .ok (.aload_n 0, 1) := dk_42 (dk_at dksX1_promised_0 11 rfl rfl)
theorem dX1_promised_12 : decode cX1_promised 12 = .ok (.getfield 85, 3) := dk_180 0 85 (dk_at dksX1_promised_0 12 rfl rfl)
theorem dX1_promised_15 : decode cX1_promised 15 = .ok (.iload_n 2, 1) := dk_28 (dk_at dksX1_promised_0 15 rfl rfl)
theorem dX1_promised_16 : decode cX1_promised 16 = .ok (.invokevirtual 216, 3) := dk_182 0 216 (dk_at dksX1_promised_0 16 rfl rfl)
theorem dX1_promised_19 : decode cX1_promised 19 = .ok (.ifCond .eq 17, 3) := dk_153 0 17 (dk_at dksX1_promised_0 19 rfl rfl)
theorem dX1_promised_22 : decode cX1_promised 22 = .ok (.iload_n 3, 1) := dk_29 (dk_at dksX1_promised_0 22 rfl rfl)
theorem dX1_promised_23 : decode cX1_promised 23 = .ok (.ifCond .eq 15, 3) := dk_153 0 15 (dk_at dksX1_promised_1 0 rfl rfl)
theorem dX1_promised_26 : decode cX1_promised 26 = .ok (.iload_n 3, 1) := dk_29 (dk_at dksX1_promised_1 3 rfl rfl)
theorem dX1_promised_27 : decode cX1_promised 27 = .ok (.iconst 4, 1) := dk_7 (dk_at dksX1_promised_1 4 rfl rfl)
theorem dX1_promised_28 : decode cX1_promised 28 = .ok (.bipush 8, 2) := dk_16 8 (dk_at dksX1_promised_1 5 rfl rfl)
theorem dX1_promised_30 : decode cX1_promised 30 = .ok (.invokestatic 236, 3) := dk_184 0 236 (dk_at dksX1_promised_1 7 rfl rfl)
theorem dX1_promised_33 : decode cX1_promised 33 = .ok (.ifCond .ne 5, 3) := dk_154 0 5 (dk_at dksX1_promised_1 10 rfl rfl)
theorem dX1_promised_36 : decode cX1_promised 36 = .ok (.iconst (-1), 1) := dk_2 (dk_at dksX1_promised_1 13 rfl rfl)
theorem dX1_promised_37 : decode cX1_promised 37 = .ok (.ireturn, 1) := dk_172 (dk_at dksX1_promised_1 14 rfl rfl)
theorem dX1_promised_38 : decode cX1_promised 38 = .ok (.iconst 0, 1) := dk_3 (dk_at dksX1_promised_1 15 rfl rfl)
theorem dX1_promised_39 : decode cX1_promised 39 = .ok (.istore 4, 2) := dk_54 4 (dk_at dksX1_promised_1 16 rfl rfl)
theorem dX1_promised_41 : decode cX1_promised 41 = .ok (.iconst 0, 1) := dk_3 (dk_at dksX1_promised_1 18 rfl rfl)
theorem dX1_promised_42 : decode cX1_promised 42 = .ok (.istore 5, 2) := dk_54 5 (dk_at dksX1_promised_1 19 rfl rfl)
theorem dX1_promised_44 : decode cX1_promised 44 = .ok (.iload 5, 2) := dk_21 5 (dk_at dksX1_promised_1 21 rfl rfl)
theorem dX1_promised_46 : decode cX1_promised 46 = .ok (.aload_n 0, 1) := dk_42 (dk_at dksX1_promised_1 23 rfl rfl)
theorem dX1_promised_47 : decode cX1_promised 47 = .ok (.getfield 85, 3) := dk_180 0 85 (dk_at dksX1_promised_2 0 rfl rfl)
theorem dX1_promised_50 : decode cX1_promised 50 = .ok (.getfield 259, 3) := dk_180 1 3 (dk_at dksX1_promised_2 3 rfl rfl)
theorem dX1_promised_53 : decode cX1_promised 53 = .ok (.if_icmp .ge 79, 3) := dk_162 0 79 (dk_at dksX1_promised_2 6 rfl rfl)
theorem dX1_promised_56 : decode cX1_promised 56 = .ok (.iload 4, 2) := dk_21 4 (dk_at dksX1_promised_2 9 rfl rfl)
theorem dX1_promised_58 : decode cX1_promised 58 = .ok (.aload_n 0, 1) := dk_42 (dk_at dksX1_promised_2 11 rfl rfl)
theorem dX1_promised_59 : decode cX1_promised 59 = .ok (.getfield 85, 3) := dk_180 0 85 (dk_at dksX1_promised_2 12 rfl rfl)
theorem dX1_promised_62 : decode cX1_promised 62 = .ok (.iload 5, 2) := dk_21 5 (dk_at dksX1_promised_2 15 rfl rfl)
theorem dX1_promised_64 : decode cX1_promised 64 = .ok (.invokevirtual 285, 3) := dk_182 1 29 (dk_at dksX1_promised_2 17 rfl rfl)
theorem dX1_promised_67 : decode cX1_promised 67 = .ok (.getfield 252, 3) := dk_180 0 252 (dk_at dksX1_promised_2 20 rfl rfl)
theorem dX1_promised_70 : decode cX1_promised 70 = .ok (.iconst 2, 1) := dk_5 (dk_at dksX1_promised_2 23 rfl rfl)
theorem dX1_promised_71 : decode cX1_promised 71 = .ok (.if_icmp .ne 51, 3) := dk_160 0 51 (dk_at dksX1_promised_3 0 rfl rfl)
theorem dX1_promised_74 : decode cX1_promised 74 = .ok (.aload_n 0, 1) := dk_42 (dk_at dksX1_promised_3 3 rfl rfl)
theorem dX1_promised_75 : decode cX1_promised 75 = .ok (.getfield 85, 3) := dk_180 0 85 (dk_at dksX1_promised_3 4 rfl rfl)
theorem dX1_promised_78 : decode cX1_promised 78 = .ok (.getfield 289, 3) := dk_180 1 33 (dk_at dksX1_promised_3 7 rfl rfl)
theorem dX1_promised_81 : decode cX1_promised 81 = .ok (.iload 5, 2) := dk_21 5 (dk_at dksX1_promised_3 10 rfl rfl)
theorem dX1_promised_83 : decode cX1_promised 83 = .ok (.iaload, 1) := dk_46 (dk_at dksX1_promised_3 12 rfl rfl)
theorem dX1_promised_84 : decode cX1_promised 84 = .ok (.iload_n 1, 1) := dk_27 (dk_at dksX1_promised_3 13 rfl rfl)
theorem dX1_promised_85 : decode cX1_promised 85 = .ok (.if_icmp .ne 37, 3) := dk_160 0 37 (dk_at dksX1_promised_3 14 rfl rfl)
theorem dX1_promised_88 : decode cX1_promised 88 = .ok (.aload_n 0, 1) := dk_42 (dk_at dksX1_promised_3 17 rfl rfl)
theorem dX1_promised_89 : decode cX1_promised 89 = .ok (.getfield 85, 3) := dk_180 0 85 (dk_at dksX1_promised_3 18 rfl rfl)
theorem dX1_promised_92 : decode cX1_promised 92 = .ok (.iload 5, 2) := dk_21 5 (dk_at dksX1_promised_3 21 rfl rfl)
theorem dX1_promised_94 : decode cX1_promised 94 = .ok (.invokevirtual 304, 3) := dk_182 1 48 (dk_at dksX1_promised_4 0 rfl rfl)
theorem dX1_promised_97 : decode cX1_promised 97 = .ok (.iload_n 2, 1) := dk_28 (dk_at dksX1_promised_4 3 rfl rfl)
theorem dX1_promised_98 : decode cX1_promised 98 = .ok (.if_icmp .ne 24, 3) := dk_160 0 24 (dk_at dksX1_promised_4 4 rfl rfl)
theorem dX1_promised_101 : decode cX1_promised 101 = .ok (.iload_n 3, 1) := dk_29 (dk_at dksX1_promised_4 7 rfl rfl)
theorem dX1_promised_102 : decode cX1_promised 102 = .ok (.ifCond .eq 16, 3) := dk_153 0 16 (dk_at dksX1_promised_4 8 rfl rfl)
theorem dX1_promised_105 : decode cX1_promised 105 = .ok (.aload_n 0, 1) := dk_42 (dk_at dksX1_promised_4 11 rfl rfl)
theorem dX1_promised_106 : decode cX1_promised 106 = .ok (.getfield 85, 3) := dk_180 0 85 (dk_at dksX1_promised_4 12 rfl rfl)
theorem dX1_promised_109 : decode cX1_promised 109 = .ok (.iload 5, 2) := dk_21 5 (dk_at dksX1_promised_4 15 rfl rfl)
theorem dX1_promised_111 : decode cX1_promised 111 = .ok (.invokevirtual 300, 3) := dk_182 1 44 (dk_at dksX1_promised_4 17 rfl rfl)
theorem dX1_promised_114 : decode cX1_promised 114 = .ok (.iload_n 3, 1) := dk_29 (dk_at dksX1_promised_4 20 rfl rfl)
theorem dX1_promised_115 : decode cX1_promised 115 = .ok (.if_icmp .ne 7, 3) := dk_160 0 7 (dk_at dksX1_promised_4 21 rfl rfl)
theorem dX1_promised_118 : decode cX1_promised 118 = .ok (.iconst 1, 1) := dk_4 (dk_at dksX1_promised_5 0 rfl rfl)
theorem dX1_promised_119 : decode cX1_promised 119 = .ok (.goto 4, 3) := dk_167 0 4 (dk_at dksX1_promised_5 1 rfl rfl)
theorem dX1_promised_122 : decode cX1_promised 122 = .ok (.iconst 0, 1) := dk_3 (dk_at dksX1_promised_5 4 rfl rfl)
theorem dX1_promised_123 : decode cX1_promised 123 = .ok (.iadd, 1) := dk_96 (dk_at dksX1_promised_5 5 rfl rfl)
theorem dX1_promised_124 : decode cX1_promised 124 = .ok (.istore 4, 2) := dk_54 4 (dk_at dksX1_promised_5 6 rfl rfl)
theorem dX1_promised_126 : decode cX1_promised 126 = .ok (.iinc 5 1, 3) := dk_132 5 1 (dk_at dksX1_promised_5 8 rfl rfl)
theorem dX1_promised_129 : decode cX1_promised 129 = .ok (.goto (-85), 3) := dk_167 255 171 (dk_at dksX1_promised_5 11 rfl rfl)
theorem dX1_promised_132 : decode cX1_promised 132 = .ok (.iload 4, 2) := dk_21 4 (dk_at dksX1_promised_5 14 rfl rfl)
theorem dX1_promised_134 : decode cX1_promised 134 = .ok (.ireturn, 1) := dk_172 (dk_at dksX1_promised_5 16 rfl rfl)
abbrev cX1_minutes : ByteArray := prog_1_method_25_code
def yX1_minutes : MethodName := ⟨RX1, "minutes", "()I"⟩
def dkwX1_minutes_2 : List UInt8 := [2, 43, 180, 0, 214, 100, 172]
abbrev dktX1_minutes_2 : List UInt8 := dkwX1_minutes_2 ++ []
def dkwX1_minutes_1 : List UInt8 := [42, 180, 0, 102, 182, 1, 56, 42, 180, 0, 98, 180, 0, 205, 172, 76, 42, 43, 180, 0, 212, 181, 0, 191]
abbrev dktX1_minutes_1 : List UInt8 := dkwX1_minutes_1 ++ dktX1_minutes_2
def dkwX1_minutes_0 : List UInt8 := [42, 182, 0, 188, 42, 3, 181, 0, 191, 42, 180, 0, 127, 42, 180, 0, 102, 182, 1, 53, 42, 180, 0, 98]
abbrev dktX1_minutes_0 : List UInt8 := dkwX1_minutes_0 ++ dktX1_minutes_1
theorem dksX1_minutes_0 : cX1_minutes.data.toList.drop 0 = dktX1_minutes_0 := by decide +kernel
theorem dksX1_minutes_1 : cX1_minutes.data.toList.drop 24 = dktX1_minutes_1 := dk_seg dksX1_minutes_0 24 rfl rfl
theorem dksX1_minutes_2 : cX1_minutes.data.toList.drop 48 = dktX1_minutes_2 := dk_seg dksX1_minutes_1 24 rfl rfl
theorem dX1_minutes_0 : decode cX1_minutes 0 = .ok (.aload_n 0, 1) := dk_42 (dk_at dksX1_minutes_0 0 rfl rfl)
theorem dX1_minutes_1 : decode cX1_minutes 1 = .ok (.invokevirtual 188, 3) := dk_182 0 188 (dk_at dksX1_minutes_0 1 rfl rfl)
theorem dX1_minutes_4 : decode cX1_minutes 4 = .ok (.aload_n 0, 1) := dk_42 (dk_at dksX1_minutes_0 4 rfl rfl)
theorem dX1_minutes_5 : decode cX1_minutes 5 = .ok (.iconst 0, 1) := dk_3 (dk_at dksX1_minutes_0 5 rfl rfl)
theorem dX1_minutes_6 : decode cX1_minutes 6 = .ok (.putfield 191, 3) := dk_181 0 191 (dk_at dksX1_minutes_0 6 rfl rfl)
theorem dX1_minutes_9 : decode cX1_minutes 9 = .ok (.aload_n 0, 1) := dk_42 (dk_at dksX1_minutes_0 9 rfl rfl)
theorem dX1_minutes_10 : decode cX1_minutes 10 = .ok (.getfield 127, 3) := dk_180 0 127 (dk_at dksX1_minutes_0 10 rfl rfl)
theorem dX1_minutes_13 : decode cX1_minutes 13 = .ok (.aload_n 0, 1) := dk_42 (dk_at dksX1_minutes_0 13 rfl rfl)
theorem dX1_minutes_14 : decode cX1_minutes 14 = .ok (.getfield 102, 3) := dk_180 0 102 (dk_at dksX1_minutes_0 14 rfl rfl)
theorem dX1_minutes_17 : decode cX1_minutes 17 = .ok (.invokevirtual 309, 3) := dk_182 1 53 (dk_at dksX1_minutes_0 17 rfl rfl)
theorem dX1_minutes_20 : decode cX1_minutes 20 = .ok (.aload_n 0, 1) := dk_42 (dk_at dksX1_minutes_0 20 rfl rfl)
theorem dX1_minutes_21 : decode cX1_minutes 21 = .ok (.getfield 98, 3) := dk_180 0 98 (dk_at dksX1_minutes_0 21 rfl rfl)
theorem dX1_minutes_24 : decode cX1_minutes 24 = .ok (.aload_n 0, 1) := dk_42 (dk_at dksX1_minutes_1 0 rfl rfl)
theorem dX1_minutes_25 : decode cX1_minutes 25 = .ok (.getfield 102, 3) := dk_180 0 102 (dk_at dksX1_minutes_1 1 rfl rfl)
theorem dX1_minutes_28 : decode cX1_minutes 28 = .ok (.invokevirtual 312, 3) := dk_182 1 56 (dk_at dksX1_minutes_1 4 rfl rfl)
theorem dX1_minutes_31 : decode cX1_minutes 31 = .ok (.aload_n 0, 1) := dk_42 (dk_at dksX1_minutes_1 7 rfl rfl)
theorem dX1_minutes_32 : decode cX1_minutes 32 = .ok (.getfield 98, 3) := dk_180 0 98 (dk_at dksX1_minutes_1 8 rfl rfl)
theorem dX1_minutes_35 : decode cX1_minutes 35 = .ok (.getfield 205, 3) := dk_180 0 205 (dk_at dksX1_minutes_1 11 rfl rfl)
theorem dX1_minutes_38 : decode cX1_minutes 38 = .ok (.ireturn, 1) := dk_172 (dk_at dksX1_minutes_1 14 rfl rfl)
theorem dX1_minutes_39 : decode cX1_minutes 39 = .ok (.astore_n 1, 1) := dk_76 (dk_at dksX1_minutes_1 15 rfl rfl)
theorem dX1_minutes_40 : decode cX1_minutes 40 = .ok (.aload_n 0, 1) := dk_42 (dk_at dksX1_minutes_1 16 rfl rfl)
theorem dX1_minutes_41 : decode cX1_minutes 41 = .ok (.aload_n 1, 1) := dk_43 (dk_at dksX1_minutes_1 17 rfl rfl)
theorem dX1_minutes_42 : decode cX1_minutes 42 = .ok (.getfield 212, 3) := dk_180 0 212 (dk_at dksX1_minutes_1 18 rfl rfl)
theorem dX1_minutes_45 : decode cX1_minutes 45 = .ok (.putfield 191, 3) := dk_181 0 191 (dk_at dksX1_minutes_1 21 rfl rfl)
theorem dX1_minutes_48 : decode cX1_minutes 48 = .ok (.iconst (-1), 1) := dk_2 (dk_at dksX1_minutes_2 0 rfl rfl)
theorem dX1_minutes_49 : decode cX1_minutes 49 = .ok (.aload_n 1, 1) := dk_43 (dk_at dksX1_minutes_2 1 rfl rfl)
theorem dX1_minutes_50 : decode cX1_minutes 50 = .ok (.getfield 214, 3) := dk_180 0 214 (dk_at dksX1_minutes_2 2 rfl rfl)
theorem dX1_minutes_53 : decode cX1_minutes 53 = .ok (.isub, 1) := dk_100 (dk_at dksX1_minutes_2 5 rfl rfl)
theorem dX1_minutes_54 : decode cX1_minutes 54 = .ok (.ireturn, 1) := dk_172 (dk_at dksX1_minutes_2 6 rfl rfl)
abbrev cX1_wholes : ByteArray := prog_1_method_29_code
def yX1_wholes : MethodName := ⟨RX1, "wholes", "(I)I"⟩
def dkwX1_wholes_8 : List UInt8 := [182, 1, 88, 28, 42, 182, 1, 91, 96, 61, 132, 4, 1, 167, 255, 198, 42, 28, 181, 1, 95, 28, 172]
abbrev dktX1_wholes_8 : List UInt8 := dkwX1_wholes_8 ++ []
def dkwX1_wholes_7 : List UInt8 := [42, 180, 0, 105, 21, 4, 182, 1, 85, 167, 0, 17, 27, 5, 160, 0, 12, 42, 180, 0, 105, 21, 4]
abbrev dktX1_wholes_7 : List UInt8 := dkwX1_wholes_7 ++ dktX1_wholes_8
def dkwX1_wholes_6 : List UInt8 := [54, 4, 21, 4, 29, 162, 0, 58, 42, 180, 0, 105, 42, 180, 0, 98, 182, 1, 56, 27, 4, 160, 0, 15]
abbrev dktX1_wholes_6 : List UInt8 := dkwX1_wholes_6 ++ dktX1_wholes_7
def dkwX1_wholes_5 : List UInt8 := [160, 0, 13, 42, 180, 0, 98, 180, 0, 205, 167, 0, 12, 42, 180, 0, 98, 180, 0, 205, 4, 100, 62, 3]
abbrev dktX1_wholes_5 : List UInt8 := dkwX1_wholes_5 ++ dktX1_wholes_6
def dkwX1_wholes_4 : List UInt8 := [180, 0, 138, 28, 3, 79, 132, 2, 1, 167, 255, 226, 3, 61, 27, 154, 0, 7, 4, 167, 0, 27, 27, 4]
abbrev dktX1_wholes_4 : List UInt8 := dkwX1_wholes_4 ++ dktX1_wholes_5
def dkwX1_wholes_3 : List UInt8 := [3, 61, 28, 16, 24, 162, 0, 30, 42, 180, 0, 131, 28, 3, 79, 42, 180, 0, 135, 28, 3, 79, 42]
abbrev dktX1_wholes_3 : List UInt8 := dkwX1_wholes_3 ++ dktX1_wholes_4
def dkwX1_wholes_2 : List UInt8 := [180, 0, 98, 180, 0, 205, 4, 100, 184, 1, 79, 167, 0, 10, 42, 180, 0, 98, 180, 0, 205, 181, 1, 82]
abbrev dktX1_wholes_2 : List UInt8 := dkwX1_wholes_2 ++ dktX1_wholes_3
def dkwX1_wholes_1 : List UInt8 := [17, 78, 32, 164, 0, 6, 16, 254, 172, 42, 4, 181, 1, 69, 42, 27, 4, 160, 0, 19, 3, 42]
abbrev dktX1_wholes_1 : List UInt8 := dkwX1_wholes_1 ++ dktX1_wholes_2
def dkwX1_wholes_0 : List UInt8 := [27, 3, 5, 184, 0, 236, 154, 0, 5, 2, 172, 42, 42, 180, 0, 98, 17, 78, 32, 182, 1, 75]
abbrev dktX1_wholes_0 : List UInt8 := dkwX1_wholes_0 ++ dktX1_wholes_1
theorem dksX1_wholes_0 : cX1_wholes.data.toList.drop 0 = dktX1_wholes_0 := by decide +kernel
theorem dksX1_wholes_1 : cX1_wholes.data.toList.drop 22 = dktX1_wholes_1 := dk_seg dksX1_wholes_0 22 rfl rfl
theorem dksX1_wholes_2 : cX1_wholes.data.toList.drop 44 = dktX1_wholes_2 := dk_seg dksX1_wholes_1 22 rfl rfl
theorem dksX1_wholes_3 : cX1_wholes.data.toList.drop 68 = dktX1_wholes_3 := dk_seg dksX1_wholes_2 24 rfl rfl
theorem dksX1_wholes_4 : cX1_wholes.data.toList.drop 91 = dktX1_wholes_4 := dk_seg dksX1_wholes_3 23 rfl rfl
theorem dksX1_wholes_5 : cX1_wholes.data.toList.drop 115 = dktX1_wholes_5 := dk_seg dksX1_wholes_4 24 rfl rfl
theorem dksX1_wholes_6 : cX1_wholes.data.toList.drop 139 = dktX1_wholes_6 := dk_seg dksX1_wholes_5 24 rfl rfl
theorem dksX1_wholes_7 : cX1_wholes.data.toList.drop 163 = dktX1_wholes_7 := dk_seg dksX1_wholes_6 24 rfl rfl
theorem dksX1_wholes_8 : cX1_wholes.data.toList.drop 186 = dktX1_wholes_8 := dk_seg dksX1_wholes_7 23 rfl rfl
theorem dX1_wholes_0 : decode cX1_wholes 0 = .ok (.iload_n 1, 1) := dk_27 (dk_at dksX1_wholes_0 0 rfl rfl)
theorem dX1_wholes_1 : decode cX1_wholes 1 = .ok (.iconst 0, 1) := dk_3 (dk_at dksX1_wholes_0 1 rfl rfl)
theorem dX1_wholes_2 : decode cX1_wholes 2 = .ok (.iconst 2, 1) := dk_5 (dk_at dksX1_wholes_0 2 rfl rfl)
theorem dX1_wholes_3 : decode cX1_wholes 3 = .ok (.invokestatic 236, 3) := dk_184 0 236 (dk_at dksX1_wholes_0 3 rfl rfl)
theorem dX1_wholes_6 : decode cX1_wholes 6 = .ok (.ifCond .ne 5, 3) := dk_154 0 5 (dk_at dksX1_wholes_0 6 rfl rfl)
theorem dX1_wholes_9 : decode cX1_wholes 9 = .ok (.iconst (-1), 1) := dk_2 (dk_at dksX1_wholes_0 9 rfl rfl)
theorem dX1_wholes_10 : decode cX1_wholes 10 = .ok (.ireturn, 1) := dk_172 (dk_at dksX1_wholes_0 10 rfl rfl)
theorem dX1_wholes_11 : decode cX1_wholes 11 = .ok (.aload_n 0, 1) := dk_42 (dk_at dksX1_wholes_0 11 rfl rfl)
theorem dX1_wholes_12 : decode cX1_wholes 12 = .ok (.aload_n 0, 1) := dk_42 (dk_at dksX1_wholes_0 12 rfl rfl)
theorem dX1_wholes_13 : decode cX1_wholes 13 = .ok (.getfield 98, 3) := dk_180 0 98 (dk_at dksX1_wholes_0 13 rfl rfl)
theorem dX1_wholes_16 : decode cX1_wholes 16 = .ok (.sipush 20000, 3) := dk_17 78 32 (dk_at dksX1_wholes_0 16 rfl rfl)
theorem dX1_wholes_19 : decode cX1_wholes 19 = .ok (.invokevirtual 331, 3) := dk_182 1 75 (dk_at dksX1_wholes_0 19 rfl rfl)
theorem dX1_wholes_22 : decode cX1_wholes 22 = .ok (.sipush 20000, 3) := dk_17 78 32 (dk_at dksX1_wholes_1 0 rfl rfl)
theorem dX1_wholes_25 : decode cX1_wholes 25 = .ok (.if_icmp .le 6, 3) := dk_164 0 6 (dk_at dksX1_wholes_1 3 rfl rfl)
theorem dX1_wholes_28 : decode cX1_wholes 28 = .ok (.bipush (-2), 2) := dk_16 254 (dk_at dksX1_wholes_1 6 rfl rfl)
theorem dX1_wholes_30 : decode cX1_wholes 30 = .ok (.ireturn, 1) := dk_172 (dk_at dksX1_wholes_1 8 rfl rfl)
theorem dX1_wholes_31 : decode cX1_wholes 31 = .ok (.aload_n 0, 1) := dk_42 (dk_at dksX1_wholes_1 9 rfl rfl)
theorem dX1_wholes_32 : decode cX1_wholes 32 = .ok (.iconst 1, 1) := dk_4 (dk_at dksX1_wholes_1 10 rfl rfl)
theorem dX1_wholes_33 : decode cX1_wholes 33 = .ok (.putfield 325, 3) := dk_181 1 69 (dk_at dksX1_wholes_1 11 rfl rfl)
theorem dX1_wholes_36 : decode cX1_wholes 36 = .ok (.aload_n 0, 1) := dk_42 (dk_at dksX1_wholes_1 14 rfl rfl)
theorem dX1_wholes_37 : decode cX1_wholes 37 = .ok (.iload_n 1, 1) := dk_27 (dk_at dksX1_wholes_1 15 rfl rfl)
theorem dX1_wholes_38 : decode cX1_wholes 38 = .ok (.iconst 1, 1) := dk_4 (dk_at dksX1_wholes_1 16 rfl rfl)
theorem dX1_wholes_39 : decode cX1_wholes 39 = .ok (.if_icmp .ne 19, 3) := dk_160 0 19 (dk_at dksX1_wholes_1 17 rfl rfl)
theorem dX1_wholes_42 : decode cX1_wholes 42 = .ok (.iconst 0, 1) := dk_3 (dk_at dksX1_wholes_1 20 rfl rfl)
theorem dX1_wholes_43 : decode cX1_wholes 43 = .ok (.aload_n 0, 1) := dk_42 (dk_at dksX1_wholes_1 21 rfl rfl)
theorem dX1_wholes_44 : decode cX1_wholes 44 = .ok (.getfield 98, 3) := dk_180 0 98 (dk_at dksX1_wholes_2 0 rfl rfl)
theorem dX1_wholes_47 : decode cX1_wholes 47 = .ok (.getfield 205, 3) := dk_180 0 205 (dk_at dksX1_wholes_2 3 rfl rfl)
theorem dX1_wholes_50 : decode cX1_wholes 50 = .ok (.iconst 1, 1) := dk_4 (dk_at dksX1_wholes_2 6 rfl rfl)
theorem dX1_wholes_51 : decode cX1_wholes 51 = .ok (.isub, 1) := dk_100 (dk_at dksX1_wholes_2 7 rfl rfl)
theorem dX1_wholes_52 : decode cX1_wholes 52 = .ok (.invokestatic 335, 3) := dk_184 1 79 (dk_at dksX1_wholes_2 8 rfl rfl)
theorem dX1_wholes_55 : decode cX1_wholes 55 = .ok (.goto 10, 3) := dk_167 0 10 (dk_at dksX1_wholes_2 11 rfl rfl)
theorem dX1_wholes_58 : decode cX1_wholes 58 = .ok (.aload_n 0, 1) := dk_42 (dk_at dksX1_wholes_2 14 rfl rfl)
theorem dX1_wholes_59 : decode cX1_wholes 59 = .ok (.getfield 98, 3) := dk_180 0 98 (dk_at dksX1_wholes_2 15 rfl rfl)
theorem dX1_wholes_62 : decode cX1_wholes 62 = .ok (.getfield 205, 3) := dk_180 0 205 (dk_at dksX1_wholes_2 18 rfl rfl)
theorem dX1_wholes_65 : decode cX1_wholes 65 = .ok (.putfield 338, 3) := dk_181 1 82 (dk_at dksX1_wholes_2 21 rfl rfl)
theorem dX1_wholes_68 : decode cX1_wholes 68 = .ok (.iconst 0, 1) := dk_3 (dk_at dksX1_wholes_3 0 rfl rfl)
theorem dX1_wholes_69 : decode cX1_wholes 69 = .ok (.istore_n 2, 1) := dk_61 (dk_at dksX1_wholes_3 1 rfl rfl)
theorem dX1_wholes_70 : decode cX1_wholes 70 = .ok (.iload_n 2, 1) := dk_28 (dk_at dksX1_wholes_3 2 rfl rfl)
theorem dX1_wholes_71 : decode cX1_wholes 71 = .ok (.bipush 24, 2) := dk_16 24 (dk_at dksX1_wholes_3 3 rfl rfl)
theorem dX1_wholes_73 : decode cX1_wholes 73 = .ok (.if_icmp .ge 30, 3) := dk_162 0 30 (dk_at dksX1_wholes_3 5 rfl rfl)
theorem dX1_wholes_76 : decode cX1_wholes 76 = .ok (.aload_n 0, 1) := dk_42 (dk_at dksX1_wholes_3 8 rfl rfl)
theorem dX1_wholes_77 : decode cX1_wholes 77 = .ok (.getfield 131, 3) := dk_180 0 131 (dk_at dksX1_wholes_3 9 rfl rfl)
theorem dX1_wholes_80 : decode cX1_wholes 80 = .ok (.iload_n 2, 1) := dk_28 (dk_at dksX1_wholes_3 12 rfl rfl)
theorem dX1_wholes_81 : decode cX1_wholes 81 = .ok (.iconst 0, 1) := dk_3 (dk_at dksX1_wholes_3 13 rfl rfl)
theorem dX1_wholes_82 : decode cX1_wholes 82 = .ok (.iastore, 1) := dk_79 (dk_at dksX1_wholes_3 14 rfl rfl)
theorem dX1_wholes_83 : decode cX1_wholes 83 = .ok (.aload_n 0, 1) := dk_42 (dk_at dksX1_wholes_3 15 rfl rfl)
theorem dX1_wholes_84 : decode cX1_wholes 84 = .ok (.getfield 135, 3) := dk_180 0 135 (dk_at dksX1_wholes_3 16 rfl rfl)
theorem dX1_wholes_87 : decode cX1_wholes 87 = .ok (.iload_n 2, 1) := dk_28 (dk_at dksX1_wholes_3 19 rfl rfl)
theorem dX1_wholes_88 : decode cX1_wholes 88 = .ok (.iconst 0, 1) := dk_3 (dk_at dksX1_wholes_3 20 rfl rfl)
theorem dX1_wholes_89 : decode cX1_wholes 89 = .ok (.iastore, 1) := dk_79 (dk_at dksX1_wholes_3 21 rfl rfl)
theorem dX1_wholes_90 : decode cX1_wholes 90 = .ok (.aload_n 0, 1) := dk_42 (dk_at dksX1_wholes_3 22 rfl rfl)
theorem dX1_wholes_91 : decode cX1_wholes 91 = .ok (.getfield 138, 3) := dk_180 0 138 (dk_at dksX1_wholes_4 0 rfl rfl)
theorem dX1_wholes_94 : decode cX1_wholes 94 = .ok (.iload_n 2, 1) := dk_28 (dk_at dksX1_wholes_4 3 rfl rfl)
theorem dX1_wholes_95 : decode cX1_wholes 95 = .ok (.iconst 0, 1) := dk_3 (dk_at dksX1_wholes_4 4 rfl rfl)
theorem dX1_wholes_96 : decode cX1_wholes 96 = .ok (.iastore, 1) := dk_79 (dk_at dksX1_wholes_4 5 rfl rfl)
theorem dX1_wholes_97 : decode cX1_wholes 97 = .ok (.iinc 2 1, 3) := dk_132 2 1 (dk_at dksX1_wholes_4 6 rfl rfl)
theorem dX1_wholes_100 : decode cX1_wholes 100 = .ok (.goto (-30), 3) := dk_167 255 226 (dk_at dksX1_wholes_4 9 rfl rfl)
theorem dX1_wholes_103 : decode cX1_wholes 103 = .ok (.iconst 0, 1) := dk_3 (dk_at dksX1_wholes_4 12 rfl rfl)
theorem dX1_wholes_104 : decode cX1_wholes 104 = .ok (.istore_n 2, 1) := dk_61 (dk_at dksX1_wholes_4 13 rfl rfl)
theorem dX1_wholes_105 : decode cX1_wholes 105 = .ok (.iload_n 1, 1) := dk_27 (dk_at dksX1_wholes_4 14 rfl rfl)
theorem dX1_wholes_106 : decode cX1_wholes 106 = .ok (.ifCond .ne 7, 3) := dk_154 0 7 (dk_at dksX1_wholes_4 15 rfl rfl)
theorem dX1_wholes_109 : decode cX1_wholes 109 = .ok (.iconst 1, 1) := dk_4 (dk_at dksX1_wholes_4 18 rfl rfl)
theorem dX1_wholes_110 : decode cX1_wholes 110 = .ok (.goto 27, 3) := dk_167 0 27 (dk_at dksX1_wholes_4 19 rfl rfl)
theorem dX1_wholes_113 : decode cX1_wholes 113 = .ok (.iload_n 1, 1) := dk_27 (dk_at dksX1_wholes_4 22 rfl rfl)
theorem dX1_wholes_114 : decode cX1_wholes 114 = .ok (.iconst 1, 1) := dk_4 (dk_at dksX1_wholes_4 23 rfl rfl)
theorem dX1_wholes_115 : decode cX1_wholes 115 = .ok (.if_icmp .ne 13, 3) := dk_160 0 13 (dk_at dksX1_wholes_5 0 rfl rfl)
theorem dX1_wholes_118 : decode cX1_wholes 118 = .ok (.aload_n 0, 1) := dk_42 (dk_at dksX1_wholes_5 3 rfl rfl)
theorem dX1_wholes_119 : decode cX1_wholes 119 = .ok (.getfield 98, 3) := dk_180 0 98 (dk_at dksX1_wholes_5 4 rfl rfl)
theorem dX1_wholes_122 : decode cX1_wholes 122 = .ok (.getfield 205, 3) := dk_180 0 205 (dk_at dksX1_wholes_5 7 rfl rfl)
theorem dX1_wholes_125 : decode cX1_wholes 125 = .ok (.goto 12, 3) := dk_167 0 12 (dk_at dksX1_wholes_5 10 rfl rfl)
theorem dX1_wholes_128 : decode cX1_wholes 128 = .ok (.aload_n 0, 1) := dk_42 (dk_at dksX1_wholes_5 13 rfl rfl)
theorem dX1_wholes_129 : decode cX1_wholes 129 = .ok (.getfield 98, 3) := dk_180 0 98 (dk_at dksX1_wholes_5 14 rfl rfl)
theorem dX1_wholes_132 : decode cX1_wholes 132 = .ok (.getfield 205, 3) := dk_180 0 205 (dk_at dksX1_wholes_5 17 rfl rfl)
theorem dX1_wholes_135 : decode cX1_wholes 135 = .ok (.iconst 1, 1) := dk_4 (dk_at dksX1_wholes_5 20 rfl rfl)
theorem dX1_wholes_136 : decode cX1_wholes 136 = .ok (.isub, 1) := dk_100 (dk_at dksX1_wholes_5 21 rfl rfl)
theorem dX1_wholes_137 : decode cX1_wholes 137 = .ok (.istore_n 3, 1) := dk_62 (dk_at dksX1_wholes_5 22 rfl rfl)
theorem dX1_wholes_138 : decode cX1_wholes 138 = .ok (.iconst 0, 1) := dk_3 (dk_at dksX1_wholes_5 23 rfl rfl)
theorem dX1_wholes_139 : decode cX1_wholes 139 = .ok (.istore 4, 2) := dk_54 4 (dk_at dksX1_wholes_6 0 rfl rfl)
theorem dX1_wholes_141 : decode cX1_wholes 141 = .ok (.iload 4, 2) := dk_21 4 (dk_at dksX1_wholes_6 2 rfl rfl)
theorem dX1_wholes_143 : decode cX1_wholes 143 = .ok (.iload_n 3, 1) := dk_29 (dk_at dksX1_wholes_6 4 rfl rfl)
theorem dX1_wholes_144 : decode cX1_wholes 144 = .ok (.if_icmp .ge 58, 3) := dk_162 0 58 (dk_at dksX1_wholes_6 5 rfl rfl)
theorem dX1_wholes_147 : decode cX1_wholes 147 = .ok (.aload_n 0, 1) := dk_42 (dk_at dksX1_wholes_6 8 rfl rfl)
theorem dX1_wholes_148 : decode cX1_wholes 148 = .ok (.getfield 105, 3) := dk_180 0 105 (dk_at dksX1_wholes_6 9 rfl rfl)
theorem dX1_wholes_151 : decode cX1_wholes 151 = .ok (.aload_n 0, 1) := dk_42 (dk_at dksX1_wholes_6 12 rfl rfl)
theorem dX1_wholes_152 : decode cX1_wholes 152 = .ok (.getfield 98, 3) := dk_180 0 98 (dk_at dksX1_wholes_6 13 rfl rfl)
theorem dX1_wholes_155 : decode cX1_wholes 155 = .ok (.invokevirtual 312, 3) := dk_182 1 56 (dk_at dksX1_wholes_6 16 rfl rfl)
theorem dX1_wholes_158 : decode cX1_wholes 158 = .ok (.iload_n 1, 1) := dk_27 (dk_at dksX1_wholes_6 19 rfl rfl)
theorem dX1_wholes_159 : decode cX1_wholes 159 = .ok (.iconst 1, 1) := dk_4 (dk_at dksX1_wholes_6 20 rfl rfl)
theorem dX1_wholes_160 : decode cX1_wholes 160 = .ok (.if_icmp .ne 15, 3) := dk_160 0 15 (dk_at dksX1_wholes_6 21 rfl rfl)
theorem dX1_wholes_163 : decode cX1_wholes 163 = .ok (.aload_n 0, 1) := dk_42 (dk_at dksX1_wholes_7 0 rfl rfl)
theorem dX1_wholes_164 : decode cX1_wholes 164 = .ok (.getfield 105, 3) := dk_180 0 105 (dk_at dksX1_wholes_7 1 rfl rfl)
theorem dX1_wholes_167 : decode cX1_wholes 167 = .ok (.iload 4, 2) := dk_21 4 (dk_at dksX1_wholes_7 4 rfl rfl)
theorem dX1_wholes_169 : decode cX1_wholes 169 = .ok (.invokevirtual 341, 3) := dk_182 1 85 (dk_at dksX1_wholes_7 6 rfl rfl)
theorem dX1_wholes_172 : decode cX1_wholes 172 = .ok (.goto 17, 3) := dk_167 0 17 (dk_at dksX1_wholes_7 9 rfl rfl)
theorem dX1_wholes_175 : decode cX1_wholes 175 = .ok (.iload_n 1, 1) := dk_27 (dk_at dksX1_wholes_7 12 rfl rfl)
theorem dX1_wholes_176 : decode cX1_wholes 176 = .ok (.iconst 2, 1) := dk_5 (dk_at dksX1_wholes_7 13 rfl rfl)
theorem dX1_wholes_177 : decode cX1_wholes 177 = .ok (.if_icmp .ne 12, 3) := dk_160 0 12 (dk_at dksX1_wholes_7 14 rfl rfl)
theorem dX1_wholes_180 : decode cX1_wholes 180 = .ok (.aload_n 0, 1) := dk_42 (dk_at dksX1_wholes_7 17 rfl rfl)
theorem dX1_wholes_181 : decode cX1_wholes 181 = .ok (.getfield 105, 3) := dk_180 0 105 (dk_at dksX1_wholes_7 18 rfl rfl)
theorem dX1_wholes_184 : decode cX1_wholes 184 = .ok (.iload 4, 2) := dk_21 4 (dk_at dksX1_wholes_7 21 rfl rfl)
theorem dX1_wholes_186 : decode cX1_wholes 186 = .ok (.invokevirtual 344, 3) := dk_182 1 88 (dk_at dksX1_wholes_8 0 rfl rfl)
theorem dX1_wholes_189 : decode cX1_wholes 189 = .ok (.iload_n 2, 1) := dk_28 (dk_at dksX1_wholes_8 3 rfl rfl)
theorem dX1_wholes_190 : decode cX1_wholes 190 = .ok (.aload_n 0, 1) := dk_42 (dk_at dksX1_wholes_8 4 rfl rfl)
theorem dX1_wholes_191 : decode cX1_wholes 191 = .ok (.invokevirtual 347, 3) := dk_182 1 91 (dk_at dksX1_wholes_8 5 rfl rfl)
theorem dX1_wholes_194 : decode cX1_wholes 194 = .ok (.iadd, 1) := dk_96 (dk_at dksX1_wholes_8 8 rfl rfl)
theorem dX1_wholes_195 : decode cX1_wholes 195 = .ok (.istore_n 2, 1) := dk_61 (dk_at dksX1_wholes_8 9 rfl rfl)
theorem dX1_wholes_196 : decode cX1_wholes 196 = .ok (.iinc 4 1, 3) := dk_132 4 1 (dk_at dksX1_wholes_8 10 rfl rfl)
theorem dX1_wholes_199 : decode cX1_wholes 199 = .ok (.goto (-58), 3) := dk_167 255 198 (dk_at dksX1_wholes_8 13 rfl rfl)
theorem dX1_wholes_202 : decode cX1_wholes 202 = .ok (.aload_n 0, 1) := dk_42 (dk_at dksX1_wholes_8 16 rfl rfl)
theorem dX1_wholes_203 : decode cX1_wholes 203 = .ok (.iload_n 2, 1) := dk_28 (dk_at dksX1_wholes_8 17 rfl rfl)
theorem dX1_wholes_204 : decode cX1_wholes 204 = .ok (.putfield 351, 3) := dk_181 1 95 (dk_at dksX1_wholes_8 18 rfl rfl)
theorem dX1_wholes_207 : decode cX1_wholes 207 = .ok (.iload_n 2, 1) := dk_28 (dk_at dksX1_wholes_8 21 rfl rfl)
theorem dX1_wholes_208 : decode cX1_wholes 208 = .ok (.ireturn, 1) := dk_172 (dk_at dksX1_wholes_8 22 rfl rfl)
abbrev cX1_ways : ByteArray := prog_1_method_26_code
def yX1_ways : MethodName := ⟨RX1, "ways", "(LCombTable$Minutes;I)I"⟩
def dkwX1_ways_3 : List UInt8 := [10, 105, 66, 132, 5, 1, 167, 255, 186, 33, 28, 133, 10, 97, 184, 1, 63, 136, 172]
abbrev dktX1_ways_3 : List UInt8 := dkwX1_ways_3 ++ []
def dkwX1_ways_2 : List UInt8 := [180, 1, 62, 21, 5, 46, 2, 160, 0, 17, 42, 180, 0, 85, 180, 0, 220, 180, 1, 11, 133, 167, 0, 4]
abbrev dktX1_ways_2 : List UInt8 := dkwX1_ways_2 ++ dktX1_ways_3
def dkwX1_ways_1 : List UInt8 := [160, 0, 17, 42, 180, 0, 85, 180, 0, 220, 180, 1, 59, 133, 167, 0, 4, 10, 105, 66, 33, 43]
abbrev dktX1_ways_1 : List UInt8 := dkwX1_ways_1 ++ dktX1_ways_2
def dkwX1_ways_0 : List UInt8 := [10, 66, 3, 54, 5, 21, 5, 43, 180, 0, 205, 162, 0, 67, 33, 43, 180, 1, 58, 21, 5, 46, 2]
abbrev dktX1_ways_0 : List UInt8 := dkwX1_ways_0 ++ dktX1_ways_1
theorem dksX1_ways_0 : cX1_ways.data.toList.drop 0 = dktX1_ways_0 := by decide +kernel
theorem dksX1_ways_1 : cX1_ways.data.toList.drop 23 = dktX1_ways_1 := dk_seg dksX1_ways_0 23 rfl rfl
theorem dksX1_ways_2 : cX1_ways.data.toList.drop 45 = dktX1_ways_2 := dk_seg dksX1_ways_1 22 rfl rfl
theorem dksX1_ways_3 : cX1_ways.data.toList.drop 69 = dktX1_ways_3 := dk_seg dksX1_ways_2 24 rfl rfl
theorem dX1_ways_0 : decode cX1_ways 0 = .ok (.lconst 1, 1) := dk_10 (dk_at dksX1_ways_0 0 rfl rfl)
theorem dX1_ways_1 : decode cX1_ways 1 = .ok (.lstore_n 3, 1) := dk_66 (dk_at dksX1_ways_0 1 rfl rfl)
theorem dX1_ways_2 : decode cX1_ways 2 = .ok (.iconst 0, 1) := dk_3 (dk_at dksX1_ways_0 2 rfl rfl)
theorem dX1_ways_3 : decode cX1_ways 3 = .ok (.istore 5, 2) := dk_54 5 (dk_at dksX1_ways_0 3 rfl rfl)
theorem dX1_ways_5 : decode cX1_ways 5 = .ok (.iload 5, 2) := dk_21 5 (dk_at dksX1_ways_0 5 rfl rfl)
theorem dX1_ways_7 : decode cX1_ways 7 = .ok (.aload_n 1, 1) := dk_43 (dk_at dksX1_ways_0 7 rfl rfl)
theorem dX1_ways_8 : decode cX1_ways 8 = .ok (.getfield 205, 3) := dk_180 0 205 (dk_at dksX1_ways_0 8 rfl rfl)
theorem dX1_ways_11 : decode cX1_ways 11 = .ok (.if_icmp .ge 67, 3) := dk_162 0 67 (dk_at dksX1_ways_0 11 rfl rfl)
theorem dX1_ways_14 : decode cX1_ways 14 = .ok (.lload_n 3, 1) := dk_33 (dk_at dksX1_ways_0 14 rfl rfl)
theorem dX1_ways_15 : decode cX1_ways 15 = .ok (.aload_n 1, 1) := dk_43 (dk_at dksX1_ways_0 15 rfl rfl)
theorem dX1_ways_16 : decode cX1_ways 16 = .ok (.getfield 314, 3) := dk_180 1 58 (dk_at dksX1_ways_0 16 rfl rfl)
theorem dX1_ways_19 : decode cX1_ways 19 = .ok (.iload 5, 2) := dk_21 5 (dk_at dksX1_ways_0 19 rfl rfl)
theorem dX1_ways_21 : decode cX1_ways 21 = .ok (.iaload, 1) := dk_46 (dk_at dksX1_ways_0 21 rfl rfl)
theorem dX1_ways_22 : decode cX1_ways 22 = .ok (.iconst (-1), 1) := dk_2 (dk_at dksX1_ways_0 22 rfl rfl)
theorem dX1_ways_23 : decode cX1_ways 23 = .ok (.if_icmp .ne 17, 3) := dk_160 0 17 (dk_at dksX1_ways_1 0 rfl rfl)
theorem dX1_ways_26 : decode cX1_ways 26 = .ok (.aload_n 0, 1) := dk_42 (dk_at dksX1_ways_1 3 rfl rfl)
theorem dX1_ways_27 : decode cX1_ways 27 = .ok (.getfield 85, 3) := dk_180 0 85 (dk_at dksX1_ways_1 4 rfl rfl)
theorem dX1_ways_30 : decode cX1_ways 30 = .ok (.getfield 220, 3) := dk_180 0 220 (dk_at dksX1_ways_1 7 rfl rfl)
theorem dX1_ways_33 : decode cX1_ways 33 = .ok (.getfield 315, 3) := dk_180 1 59 (dk_at dksX1_ways_1 10 rfl rfl)
theorem dX1_ways_36 : decode cX1_ways 36 = .ok (.i2l, 1) := dk_133 (dk_at dksX1_ways_1 13 rfl rfl)
theorem dX1_ways_37 : decode cX1_ways 37 = .ok (.goto 4, 3) := dk_167 0 4 (dk_at dksX1_ways_1 14 rfl rfl)
theorem dX1_ways_40 : decode cX1_ways 40 = .ok (.lconst 1, 1) := dk_10 (dk_at dksX1_ways_1 17 rfl rfl)
theorem dX1_ways_41 : decode cX1_ways 41 = .ok (.lmul, 1) := dk_105 (dk_at dksX1_ways_1 18 rfl rfl)
theorem dX1_ways_42 : decode cX1_ways 42 = .ok (.lstore_n 3, 1) := dk_66 (dk_at dksX1_ways_1 19 rfl rfl)
theorem dX1_ways_43 : decode cX1_ways 43 = .ok (.lload_n 3, 1) := dk_33 (dk_at dksX1_ways_1 20 rfl rfl)
theorem dX1_ways_44 : decode cX1_ways 44 = .ok (.aload_n 1, 1) := dk_43 (dk_at dksX1_ways_1 21 rfl rfl)
theorem dX1_ways_45 : decode cX1_ways 45 = .ok (.getfield 318, 3) := dk_180 1 62 (dk_at dksX1_ways_2 0 rfl rfl)
theorem dX1_ways_48 : decode cX1_ways 48 = .ok (.iload 5, 2) := dk_21 5 (dk_at dksX1_ways_2 3 rfl rfl)
theorem dX1_ways_50 : decode cX1_ways 50 = .ok (.iaload, 1) := dk_46 (dk_at dksX1_ways_2 5 rfl rfl)
theorem dX1_ways_51 : decode cX1_ways 51 = .ok (.iconst (-1), 1) := dk_2 (dk_at dksX1_ways_2 6 rfl rfl)
theorem dX1_ways_52 : decode cX1_ways 52 = .ok (.if_icmp .ne 17, 3) := dk_160 0 17 (dk_at dksX1_ways_2 7 rfl rfl)
theorem dX1_ways_55 : decode cX1_ways 55 = .ok (.aload_n 0, 1) := dk_42 (dk_at dksX1_ways_2 10 rfl rfl)
theorem dX1_ways_56 : decode cX1_ways 56 = .ok (.getfield 85, 3) := dk_180 0 85 (dk_at dksX1_ways_2 11 rfl rfl)
theorem dX1_ways_59 : decode cX1_ways 59 = .ok (.getfield 220, 3) := dk_180 0 220 (dk_at dksX1_ways_2 14 rfl rfl)
theorem dX1_ways_62 : decode cX1_ways 62 = .ok (.getfield 267, 3) := dk_180 1 11 (dk_at dksX1_ways_2 17 rfl rfl)
theorem dX1_ways_65 : decode cX1_ways 65 = .ok (.i2l, 1) := dk_133 (dk_at dksX1_ways_2 20 rfl rfl)
theorem dX1_ways_66 : decode cX1_ways 66 = .ok (.goto 4, 3) := dk_167 0 4 (dk_at dksX1_ways_2 21 rfl rfl)
theorem dX1_ways_69 : decode cX1_ways 69 = .ok (.lconst 1, 1) := dk_10 (dk_at dksX1_ways_3 0 rfl rfl)
theorem dX1_ways_70 : decode cX1_ways 70 = .ok (.lmul, 1) := dk_105 (dk_at dksX1_ways_3 1 rfl rfl)
theorem dX1_ways_71 : decode cX1_ways 71 = .ok (.lstore_n 3, 1) := dk_66 (dk_at dksX1_ways_3 2 rfl rfl)
theorem dX1_ways_72 : decode cX1_ways 72 = .ok (.iinc 5 1, 3) := dk_132 5 1 (dk_at dksX1_ways_3 3 rfl rfl)
theorem dX1_ways_75 : decode cX1_ways 75 = .ok (.goto (-70), 3) := dk_167 255 186 (dk_at dksX1_ways_3 6 rfl rfl)
theorem dX1_ways_78 : decode cX1_ways 78 = .ok (.lload_n 3, 1) := dk_33 (dk_at dksX1_ways_3 9 rfl rfl)
theorem dX1_ways_79 : decode cX1_ways 79 = .ok (.iload_n 2, 1) := dk_28 (dk_at dksX1_ways_3 10 rfl rfl)
theorem dX1_ways_80 : decode cX1_ways 80 = .ok (.i2l, 1) := dk_133 (dk_at dksX1_ways_3 11 rfl rfl)
theorem dX1_ways_81 : decode cX1_ways 81 = .ok (.lconst 1, 1) := dk_10 (dk_at dksX1_ways_3 12 rfl rfl)
theorem dX1_ways_82 : decode cX1_ways 82 = .ok (.ladd, 1) := dk_97 (dk_at dksX1_ways_3 13 rfl rfl)
theorem dX1_ways_83 : decode cX1_ways 83 = .ok (.invokestatic 319, 3) := dk_184 1 63 (dk_at dksX1_ways_3 14 rfl rfl)
theorem dX1_ways_86 : decode cX1_ways 86 = .ok (.l2i, 1) := dk_136 (dk_at dksX1_ways_3 17 rfl rfl)
theorem dX1_ways_87 : decode cX1_ways 87 = .ok (.ireturn, 1) := dk_172 (dk_at dksX1_ways_3 18 rfl rfl)
abbrev cX1_wholesNow : ByteArray := prog_1_method_28_code
def yX1_wholesNow : MethodName := ⟨RX1, "wholesNow", "()I"⟩
def dkwX1_wholesNow_0 : List UInt8 := [42, 180, 0, 89, 42, 180, 0, 85, 180, 0, 220, 182, 0, 201, 42, 3, 182, 1, 72, 172]
abbrev dktX1_wholesNow_0 : List UInt8 := dkwX1_wholesNow_0 ++ []
theorem dksX1_wholesNow_0 : cX1_wholesNow.data.toList.drop 0 = dktX1_wholesNow_0 := by decide +kernel
theorem dX1_wholesNow_0 : decode cX1_wholesNow 0 = .ok (.aload_n 0, 1) := dk_42 (dk_at dksX1_wholesNow_0 0 rfl rfl)
theorem dX1_wholesNow_1 : decode cX1_wholesNow 1 = .ok (.getfield 89, 3) := dk_180 0 89 (dk_at dksX1_wholesNow_0 1 rfl rfl)
theorem dX1_wholesNow_4 : decode cX1_wholesNow 4 = .ok (.aload_n 0, 1) := dk_42 (dk_at dksX1_wholesNow_0 4 rfl rfl)
theorem dX1_wholesNow_5 : decode cX1_wholesNow 5 = .ok (.getfield 85, 3) := dk_180 0 85 (dk_at dksX1_wholesNow_0 5 rfl rfl)
theorem dX1_wholesNow_8 : decode cX1_wholesNow 8 = .ok (.getfield 220, 3) := dk_180 0 220 (dk_at dksX1_wholesNow_0 8 rfl rfl)
theorem dX1_wholesNow_11 : decode cX1_wholesNow 11 = .ok (.invokevirtual 201, 3) := dk_182 0 201 (dk_at dksX1_wholesNow_0 11 rfl rfl)
theorem dX1_wholesNow_14 : decode cX1_wholesNow 14 = .ok (.aload_n 0, 1) := dk_42 (dk_at dksX1_wholesNow_0 14 rfl rfl)
theorem dX1_wholesNow_15 : decode cX1_wholesNow 15 = .ok (.iconst 0, 1) := dk_3 (dk_at dksX1_wholesNow_0 15 rfl rfl)
theorem dX1_wholesNow_16 : decode cX1_wholesNow 16 = .ok (.invokevirtual 328, 3) := dk_182 1 72 (dk_at dksX1_wholesNow_0 16 rfl rfl)
theorem dX1_wholesNow_19 : decode cX1_wholesNow 19 = .ok (.ireturn, 1) := dk_172 (dk_at dksX1_wholesNow_0 19 rfl rfl)
abbrev cX1_wholesFrom : ByteArray := prog_1_method_27_code
def yX1_wholesFrom : MethodName := ⟨RX1, "wholesFrom", "(I)I"⟩
def dkwX1_wholesFrom_9 : List UInt8 := [180, 0, 89, 182, 1, 14, 132, 4, 1, 167, 255, 178, 132, 3, 1, 167, 255, 126, 28, 172]
abbrev dktX1_wholesFrom_9 : List UInt8 := dkwX1_wholesFrom_9 ++ []
def dkwX1_wholesFrom_8 : List UInt8 := [21, 4, 182, 1, 4, 158, 0, 6, 167, 0, 20, 28, 42, 27, 4, 96, 182, 1, 72, 96, 61, 42]
abbrev dktX1_wholesFrom_8 : List UInt8 := dkwX1_wholesFrom_8 ++ dktX1_wholesFrom_9
def dkwX1_wholesFrom_7 : List UInt8 := [2, 159, 0, 17, 42, 180, 0, 105, 180, 1, 62, 27, 46, 21, 4, 160, 0, 36, 42, 180, 0, 89, 29]
abbrev dktX1_wholesFrom_7 : List UInt8 := dkwX1_wholesFrom_7 ++ dktX1_wholesFrom_8
def dkwX1_wholesFrom_6 : List UInt8 := [21, 4, 42, 180, 0, 85, 180, 0, 220, 180, 1, 11, 162, 0, 69, 42, 180, 0, 105, 180, 1, 62, 27, 46]
abbrev dktX1_wholesFrom_6 : List UInt8 := dkwX1_wholesFrom_6 ++ dktX1_wholesFrom_7
def dkwX1_wholesFrom_5 : List UInt8 := [46, 2, 159, 0, 19, 42, 180, 0, 105, 180, 1, 58, 27, 46, 29, 159, 0, 6, 167, 0, 87, 3, 54, 4]
abbrev dktX1_wholesFrom_5 : List UInt8 := dkwX1_wholesFrom_5 ++ dktX1_wholesFrom_6
def dkwX1_wholesFrom_4 : List UInt8 := [3, 62, 29, 42, 180, 0, 85, 180, 0, 220, 180, 1, 59, 162, 0, 122, 42, 180, 0, 105, 180, 1, 58, 27]
abbrev dktX1_wholesFrom_4 : List UInt8 := dkwX1_wholesFrom_4 ++ dktX1_wholesFrom_5
def dkwX1_wholesFrom_3 : List UInt8 := [92, 46, 4, 42, 180, 0, 89, 28, 182, 1, 44, 120, 128, 79, 132, 2, 1, 167, 255, 182, 4, 172, 3, 61]
abbrev dktX1_wholesFrom_3 : List UInt8 := dkwX1_wholesFrom_3 ++ dktX1_wholesFrom_4
def dkwX1_wholesFrom_2 : List UInt8 := [180, 0, 135, 28, 92, 46, 4, 42, 180, 0, 89, 180, 1, 35, 28, 46, 120, 128, 79, 42, 180, 0, 138, 28]
abbrev dktX1_wholesFrom_2 : List UInt8 := dkwX1_wholesFrom_2 ++ dktX1_wholesFrom_3
def dkwX1_wholesFrom_1 : List UInt8 := [153, 0, 68, 42, 180, 0, 131, 28, 92, 46, 4, 42, 180, 0, 89, 180, 1, 33, 28, 46, 120, 128, 79, 42]
abbrev dktX1_wholesFrom_1 : List UInt8 := dkwX1_wholesFrom_1 ++ dktX1_wholesFrom_2
def dkwX1_wholesFrom_0 : List UInt8 := [27, 42, 180, 0, 105, 180, 0, 205, 160, 0, 84, 3, 61, 28, 27, 162, 0, 75, 42, 180, 1, 69]
abbrev dktX1_wholesFrom_0 : List UInt8 := dkwX1_wholesFrom_0 ++ dktX1_wholesFrom_1
theorem dksX1_wholesFrom_0 : cX1_wholesFrom.data.toList.drop 0 = dktX1_wholesFrom_0 := by decide +kernel
theorem dksX1_wholesFrom_1 : cX1_wholesFrom.data.toList.drop 22 = dktX1_wholesFrom_1 := dk_seg dksX1_wholesFrom_0 22 rfl rfl
theorem dksX1_wholesFrom_2 : cX1_wholesFrom.data.toList.drop 46 = dktX1_wholesFrom_2 := dk_seg dksX1_wholesFrom_1 24 rfl rfl
theorem dksX1_wholesFrom_3 : cX1_wholesFrom.data.toList.drop 70 = dktX1_wholesFrom_3 := dk_seg dksX1_wholesFrom_2 24 rfl rfl
theorem dksX1_wholesFrom_4 : cX1_wholesFrom.data.toList.drop 94 = dktX1_wholesFrom_4 := dk_seg dksX1_wholesFrom_3 24 rfl rfl
theorem dksX1_wholesFrom_5 : cX1_wholesFrom.data.toList.drop 118 = dktX1_wholesFrom_5 := dk_seg dksX1_wholesFrom_4 24 rfl rfl
theorem dksX1_wholesFrom_6 : cX1_wholesFrom.data.toList.drop 142 = dktX1_wholesFrom_6 := dk_seg dksX1_wholesFrom_5 24 rfl rfl
theorem dksX1_wholesFrom_7 : cX1_wholesFrom.data.toList.drop 166 = dktX1_wholesFrom_7 := dk_seg dksX1_wholesFrom_6 24 rfl rfl
theorem dksX1_wholesFrom_8 : cX1_wholesFrom.data.toList.drop 189 = dktX1_wholesFrom_8 := dk_seg dksX1_wholesFrom_7 23 rfl rfl
theorem dksX1_wholesFrom_9 : cX1_wholesFrom.data.toList.drop 211 = dktX1_wholesFrom_9 := dk_seg dksX1_wholesFrom_8 22 rfl rfl
theorem dX1_wholesFrom_0 : decode cX1_wholesFrom 0 = .ok (.iload_n 1, 1) := dk_27 (dk_at dksX1_wholesFrom_0 0 rfl rfl)
theorem dX1_wholesFrom_1 : decode cX1_wholesFrom 1 = .ok (.aload_n 0, 1) := dk_42 (dk_at dksX1_wholesFrom_0 1 rfl rfl)
theorem dX1_wholesFrom_2 : decode cX1_wholesFrom 2 = .ok (.getfield 105, 3) := dk_180 0 105 (dk_at dksX1_wholesFrom_0 2 rfl rfl)
theorem dX1_wholesFrom_5 : decode cX1_wholesFrom 5 = .ok (.getfield 205, 3) := dk_180 0 205 (dk_at dksX1_wholesFrom_0 5 rfl rfl)
theorem dX1_wholesFrom_8 : decode cX1_wholesFrom 8 = .ok (.if_icmp .ne 84, 3) := dk_160 0 84 (dk_at dksX1_wholesFrom_0 8 rfl rfl)
theorem dX1_wholesFrom_11 : decode cX1_wholesFrom 11 = .ok (.iconst 0, 1) := dk_3 (dk_at dksX1_wholesFrom_0 11 rfl rfl)
theorem dX1_wholesFrom_12 : decode cX1_wholesFrom 12 = .ok (.istore_n 2, 1) := dk_61 (dk_at dksX1_wholesFrom_0 12 rfl rfl)
theorem dX1_wholesFrom_13 : decode cX1_wholesFrom 13 = .ok (.iload_n 2, 1) := dk_28 (dk_at dksX1_wholesFrom_0 13 rfl rfl)
theorem dX1_wholesFrom_14 : decode cX1_wholesFrom 14 = .ok (.iload_n 1, 1) := dk_27 (dk_at dksX1_wholesFrom_0 14 rfl rfl)
theorem dX1_wholesFrom_15 : decode cX1_wholesFrom 15 = .ok (.if_icmp .ge 75, 3) := dk_162 0 75 (dk_at dksX1_wholesFrom_0 15 rfl rfl)
theorem dX1_wholesFrom_18 : decode cX1_wholesFrom 18 = .ok (.aload_n 0, 1) := dk_42 (dk_at dksX1_wholesFrom_0 18 rfl rfl)
theorem dX1_wholesFrom_19 : decode cX1_wholesFrom 19 = .ok (.getfield 325, 3) := dk_180 1 69 (dk_at dksX1_wholesFrom_0 19 rfl rfl)
theorem dX1_wholesFrom_22 : decode cX1_wholesFrom 22 = .ok (.ifCond .eq 68, 3) := dk_153 0 68 (dk_at dksX1_wholesFrom_1 0 rfl rfl)
theorem dX1_wholesFrom_25 : decode cX1_wholesFrom 25 = .ok (.aload_n 0, 1) := dk_42 (dk_at dksX1_wholesFrom_1 3 rfl rfl)
theorem dX1_wholesFrom_26 : decode cX1_wholesFrom 26 = .ok (.getfield 131, 3) := dk_180 0 131 (dk_at dksX1_wholesFrom_1 4 rfl rfl)
theorem dX1_wholesFrom_29 : decode cX1_wholesFrom 29 = .ok (.iload_n 2, 1) := dk_28 (dk_at dksX1_wholesFrom_1 7 rfl rfl)
theorem dX1_wholesFrom_30 : decode cX1_wholesFrom 30 = .ok (.dup2, 1) := dk_92 (dk_at dksX1_wholesFrom_1 8 rfl rfl)
theorem dX1_wholesFrom_31 : decode cX1_wholesFrom 31 = .ok (.iaload, 1) := dk_46 (dk_at dksX1_wholesFrom_1 9 rfl rfl)
theorem dX1_wholesFrom_32 : decode cX1_wholesFrom 32 = .ok (.iconst 1, 1) := dk_4 (dk_at dksX1_wholesFrom_1 10 rfl rfl)
theorem dX1_wholesFrom_33 : decode cX1_wholesFrom 33 = .ok (.aload_n 0, 1) := dk_42 (dk_at dksX1_wholesFrom_1 11 rfl rfl)
theorem dX1_wholesFrom_34 : decode cX1_wholesFrom 34 = .ok (.getfield 89, 3) := dk_180 0 89 (dk_at dksX1_wholesFrom_1 12 rfl rfl)
theorem dX1_wholesFrom_37 : decode cX1_wholesFrom 37 = .ok (.getfield 289, 3) := dk_180 1 33 (dk_at dksX1_wholesFrom_1 15 rfl rfl)
theorem dX1_wholesFrom_40 : decode cX1_wholesFrom 40 = .ok (.iload_n 2, 1) := dk_28 (dk_at dksX1_wholesFrom_1 18 rfl rfl)
theorem dX1_wholesFrom_41 : decode cX1_wholesFrom 41 = .ok (.iaload, 1) := dk_46 (dk_at dksX1_wholesFrom_1 19 rfl rfl)
theorem dX1_wholesFrom_42 : decode cX1_wholesFrom 42 = .ok (.ishl, 1) := dk_120 (dk_at dksX1_wholesFrom_1 20 rfl rfl)
theorem dX1_wholesFrom_43 : decode cX1_wholesFrom 43 = .ok (.ior, 1) := dk_128 (dk_at dksX1_wholesFrom_1 21 rfl rfl)
theorem dX1_wholesFrom_44 : decode cX1_wholesFrom 44 = .ok (.iastore, 1) := dk_79 (dk_at dksX1_wholesFrom_1 22 rfl rfl)
theorem dX1_wholesFrom_45 : decode cX1_wholesFrom 45 = .ok (.aload_n 0, 1) := dk_42 (dk_at dksX1_wholesFrom_1 23 rfl rfl)
theorem dX1_wholesFrom_46 : decode cX1_wholesFrom 46 = .ok (.getfield 135, 3) := dk_180 0 135 (dk_at dksX1_wholesFrom_2 0 rfl rfl)
theorem dX1_wholesFrom_49 : decode cX1_wholesFrom 49 = .ok (.iload_n 2, 1) := dk_28 (dk_at dksX1_wholesFrom_2 3 rfl rfl)
theorem dX1_wholesFrom_50 : decode cX1_wholesFrom 50 = .ok (.dup2, 1) := dk_92 (dk_at dksX1_wholesFrom_2 4 rfl rfl)
theorem dX1_wholesFrom_51 : decode cX1_wholesFrom 51 = .ok (.iaload, 1) := dk_46 (dk_at dksX1_wholesFrom_2 5 rfl rfl)
theorem dX1_wholesFrom_52 : decode cX1_wholesFrom 52 = .ok (.iconst 1, 1) := dk_4 (dk_at dksX1_wholesFrom_2 6 rfl rfl)
theorem dX1_wholesFrom_53 : decode cX1_wholesFrom 53 = .ok (.aload_n 0, 1) := dk_42 (dk_at dksX1_wholesFrom_2 7 rfl rfl)
theorem dX1_wholesFrom_54 : decode cX1_wholesFrom 54 = .ok (.getfield 89, 3) := dk_180 0 89 (dk_at dksX1_wholesFrom_2 8 rfl rfl)
theorem dX1_wholesFrom_57 : decode cX1_wholesFrom 57 = .ok (.getfield 291, 3) := dk_180 1 35 (dk_at dksX1_wholesFrom_2 11 rfl rfl)
theorem dX1_wholesFrom_60 : decode cX1_wholesFrom 60 = .ok (.iload_n 2, 1) := dk_28 (dk_at dksX1_wholesFrom_2 14 rfl rfl)
theorem dX1_wholesFrom_61 : decode cX1_wholesFrom 61 = .ok (.iaload, 1) := dk_46 (dk_at dksX1_wholesFrom_2 15 rfl rfl)
theorem dX1_wholesFrom_62 : decode cX1_wholesFrom 62 = .ok (.ishl, 1) := dk_120 (dk_at dksX1_wholesFrom_2 16 rfl rfl)
theorem dX1_wholesFrom_63 : decode cX1_wholesFrom 63 = .ok (.ior, 1) := dk_128 (dk_at dksX1_wholesFrom_2 17 rfl rfl)
theorem dX1_wholesFrom_64 : decode cX1_wholesFrom 64 = .ok (.iastore, 1) := dk_79 (dk_at dksX1_wholesFrom_2 18 rfl rfl)
theorem dX1_wholesFrom_65 : decode cX1_wholesFrom 65 = .ok (.aload_n 0, 1) := dk_42 (dk_at dksX1_wholesFrom_2 19 rfl rfl)
theorem dX1_wholesFrom_66 : decode cX1_wholesFrom 66 = .ok (.getfield 138, 3) := dk_180 0 138 (dk_at dksX1_wholesFrom_2 20 rfl rfl)
theorem dX1_wholesFrom_69 : decode cX1_wholesFrom 69 = .ok (.iload_n 2, 1) := dk_28 (dk_at dksX1_wholesFrom_2 23 rfl rfl)
theorem dX1_wholesFrom_70 : decode cX1_wholesFrom 70 = .ok (.dup2, 1) := dk_92 (dk_at dksX1_wholesFrom_3 0 rfl rfl)
theorem dX1_wholesFrom_71 : decode cX1_wholesFrom 71 = .ok (.iaload, 1) := dk_46 (dk_at dksX1_wholesFrom_3 1 rfl rfl)
theorem dX1_wholesFrom_72 : decode cX1_wholesFrom 72 = .ok (.iconst 1, 1) := dk_4 (dk_at dksX1_wholesFrom_3 2 rfl rfl)
theorem dX1_wholesFrom_73 : decode cX1_wholesFrom 73 = .ok (.aload_n 0, 1) := dk_42 (dk_at dksX1_wholesFrom_3 3 rfl rfl)
theorem dX1_wholesFrom_74 : decode cX1_wholesFrom 74 = .ok (.getfield 89, 3) := dk_180 0 89 (dk_at dksX1_wholesFrom_3 4 rfl rfl)
theorem dX1_wholesFrom_77 : decode cX1_wholesFrom 77 = .ok (.iload_n 2, 1) := dk_28 (dk_at dksX1_wholesFrom_3 7 rfl rfl)
theorem dX1_wholesFrom_78 : decode cX1_wholesFrom 78 = .ok (.invokevirtual 300, 3) := dk_182 1 44 (dk_at dksX1_wholesFrom_3 8 rfl rfl)
theorem dX1_wholesFrom_81 : decode cX1_wholesFrom 81 = .ok (.ishl, 1) := dk_120 (dk_at dksX1_wholesFrom_3 11 rfl rfl)
theorem dX1_wholesFrom_82 : decode cX1_wholesFrom 82 = .ok (.ior, 1) := dk_128 (dk_at dksX1_wholesFrom_3 12 rfl rfl)
theorem dX1_wholesFrom_83 : decode cX1_wholesFrom 83 = .ok (.iastore, 1) := dk_79 (dk_at dksX1_wholesFrom_3 13 rfl rfl)
theorem dX1_wholesFrom_84 : decode cX1_wholesFrom 84 = .ok (.iinc 2 1, 3) := dk_132 2 1 (dk_at dksX1_wholesFrom_3 14 rfl rfl)
theorem dX1_wholesFrom_87 : decode cX1_wholesFrom 87 = .ok (.goto (-74), 3) := dk_167 255 182 (dk_at dksX1_wholesFrom_3 17 rfl rfl)
theorem dX1_wholesFrom_90 : decode cX1_wholesFrom 90 = .ok (.iconst 1, 1) := dk_4 (dk_at dksX1_wholesFrom_3 20 rfl rfl)
theorem dX1_wholesFrom_91 : decode cX1_wholesFrom 91 = .ok (.ireturn, 1) := dk_172 (dk_at dksX1_wholesFrom_3 21 rfl rfl)
theorem dX1_wholesFrom_92 : decode cX1_wholesFrom 92 = .ok (.iconst 0, 1) := dk_3 (dk_at dksX1_wholesFrom_3 22 rfl rfl)
theorem dX1_wholesFrom_93 : decode cX1_wholesFrom 93 = .ok (.istore_n 2, 1) := dk_61 (dk_at dksX1_wholesFrom_3 23 rfl rfl)
theorem dX1_wholesFrom_94 : decode cX1_wholesFrom 94 = .ok (.iconst 0, 1) := dk_3 (dk_at dksX1_wholesFrom_4 0 rfl rfl)
theorem dX1_wholesFrom_95 : decode cX1_wholesFrom 95 = .ok (.istore_n 3, 1) := dk_62 (dk_at dksX1_wholesFrom_4 1 rfl rfl)
theorem dX1_wholesFrom_96 : decode cX1_wholesFrom 96 = .ok (.iload_n 3, 1) := dk_29 (dk_at dksX1_wholesFrom_4 2 rfl rfl)
theorem dX1_wholesFrom_97 : decode cX1_wholesFrom 97 = .ok (.aload_n 0, 1) := dk_42 (dk_at dksX1_wholesFrom_4 3 rfl rfl)
theorem dX1_wholesFrom_98 : decode cX1_wholesFrom 98 = .ok (.getfield 85, 3) := dk_180 0 85 (dk_at dksX1_wholesFrom_4 4 rfl rfl)
theorem dX1_wholesFrom_101 : decode cX1_wholesFrom 101 = .ok (.getfield 220, 3) := dk_180 0 220 (dk_at dksX1_wholesFrom_4 7 rfl rfl)
theorem dX1_wholesFrom_104 : decode cX1_wholesFrom 104 = .ok (.getfield 315, 3) := dk_180 1 59 (dk_at dksX1_wholesFrom_4 10 rfl rfl)
theorem dX1_wholesFrom_107 : decode cX1_wholesFrom 107 = .ok (.if_icmp .ge 122, 3) := dk_162 0 122 (dk_at dksX1_wholesFrom_4 13 rfl rfl)
theorem dX1_wholesFrom_110 : decode cX1_wholesFrom 110 = .ok (.aload_n 0, 1) := dk_42 (dk_at dksX1_wholesFrom_4 16 rfl rfl)
theorem dX1_wholesFrom_111 : decode cX1_wholesFrom 111 = .ok (.getfield 105, 3) := dk_180 0 105 (dk_at dksX1_wholesFrom_4 17 rfl rfl)
theorem dX1_wholesFrom_114 : decode cX1_wholesFrom 114 = .ok (.getfield 314, 3) := dk_180 1 58 (dk_at dksX1_wholesFrom_4 20 rfl rfl)
theorem dX1_wholesFrom_117 : decode cX1_wholesFrom 117 = .ok (.iload_n 1, 1) := dk_27 (dk_at dksX1_wholesFrom_4 23 rfl rfl)
theorem dX1_wholesFrom_118 : decode cX1_wholesFrom 118 = .ok (.iaload, 1) := dk_46 (dk_at dksX1_wholesFrom_5 0 rfl rfl)
theorem dX1_wholesFrom_119 : decode cX1_wholesFrom 119 = .ok (.iconst (-1), 1) := dk_2 (dk_at dksX1_wholesFrom_5 1 rfl rfl)
theorem dX1_wholesFrom_120 : decode cX1_wholesFrom 120 = .ok (.if_icmp .eq 19, 3) := dk_159 0 19 (dk_at dksX1_wholesFrom_5 2 rfl rfl)
theorem dX1_wholesFrom_123 : decode cX1_wholesFrom 123 = .ok (.aload_n 0, 1) := dk_42 (dk_at dksX1_wholesFrom_5 5 rfl rfl)
theorem dX1_wholesFrom_124 : decode cX1_wholesFrom 124 = .ok (.getfield 105, 3) := dk_180 0 105 (dk_at dksX1_wholesFrom_5 6 rfl rfl)
theorem dX1_wholesFrom_127 : decode cX1_wholesFrom 127 = .ok (.getfield 314, 3) := dk_180 1 58 (dk_at dksX1_wholesFrom_5 9 rfl rfl)
theorem dX1_wholesFrom_130 : decode cX1_wholesFrom 130 = .ok (.iload_n 1, 1) := dk_27 (dk_at dksX1_wholesFrom_5 12 rfl rfl)
theorem dX1_wholesFrom_131 : decode cX1_wholesFrom 131 = .ok (.iaload, 1) := dk_46 (dk_at dksX1_wholesFrom_5 13 rfl rfl)
theorem dX1_wholesFrom_132 : decode cX1_wholesFrom 132 = .ok (.iload_n 3, 1) := dk_29 (dk_at dksX1_wholesFrom_5 14 rfl rfl)
theorem dX1_wholesFrom_133 : decode cX1_wholesFrom 133 = .ok (.if_icmp .eq 6, 3) := dk_159 0 6 (dk_at dksX1_wholesFrom_5 15 rfl rfl)
theorem dX1_wholesFrom_136 : decode cX1_wholesFrom 136 = .ok (.goto 87, 3) := dk_167 0 87 (dk_at dksX1_wholesFrom_5 18 rfl rfl)
theorem dX1_wholesFrom_139 : decode cX1_wholesFrom 139 = .ok (.iconst 0, 1) := dk_3 (dk_at dksX1_wholesFrom_5 21 rfl rfl)
theorem dX1_wholesFrom_140 : decode cX1_wholesFrom 140 = .ok (.istore 4, 2) := dk_54 4 (dk_at dksX1_wholesFrom_5 22 rfl rfl)
theorem dX1_wholesFrom_142 : decode cX1_wholesFrom 142 = .ok (.iload 4, 2) := dk_21 4 (dk_at dksX1_wholesFrom_6 0 rfl rfl)
theorem dX1_wholesFrom_144 : decode cX1_wholesFrom 144 = .ok (.aload_n 0, 1) := dk_42 (dk_at dksX1_wholesFrom_6 2 rfl rfl)
theorem dX1_wholesFrom_145 : decode cX1_wholesFrom 145 = .ok (.getfield 85, 3) := dk_180 0 85 (dk_at dksX1_wholesFrom_6 3 rfl rfl)
theorem dX1_wholesFrom_148 : decode cX1_wholesFrom 148 = .ok (.getfield 220, 3) := dk_180 0 220 (dk_at dksX1_wholesFrom_6 6 rfl rfl)
theorem dX1_wholesFrom_151 : decode cX1_wholesFrom 151 = .ok (.getfield 267, 3) := dk_180 1 11 (dk_at dksX1_wholesFrom_6 9 rfl rfl)
theorem dX1_wholesFrom_154 : decode cX1_wholesFrom 154 = .ok (.if_icmp .ge 69, 3) := dk_162 0 69 (dk_at dksX1_wholesFrom_6 12 rfl rfl)
theorem dX1_wholesFrom_157 : decode cX1_wholesFrom 157 = .ok (.aload_n 0, 1) := dk_42 (dk_at dksX1_wholesFrom_6 15 rfl rfl)
theorem dX1_wholesFrom_158 : decode cX1_wholesFrom 158 = .ok (.getfield 105, 3) := dk_180 0 105 (dk_at dksX1_wholesFrom_6 16 rfl rfl)
theorem dX1_wholesFrom_161 : decode cX1_wholesFrom 161 = .ok (.getfield 318, 3) := dk_180 1 62 (dk_at dksX1_wholesFrom_6 19 rfl rfl)
theorem dX1_wholesFrom_164 : decode cX1_wholesFrom 164 = .ok (.iload_n 1, 1) := dk_27 (dk_at dksX1_wholesFrom_6 22 rfl rfl)
theorem dX1_wholesFrom_165 : decode cX1_wholesFrom 165 = .ok (.iaload, 1) := dk_46 (dk_at dksX1_wholesFrom_6 23 rfl rfl)
theorem dX1_wholesFrom_166 : decode cX1_wholesFrom 166 = .ok (.iconst (-1), 1) := dk_2 (dk_at dksX1_wholesFrom_7 0 rfl rfl)
theorem dX1_wholesFrom_167 : decode cX1_wholesFrom 167 = .ok (.if_icmp .eq 17, 3) := dk_159 0 17 (dk_at dksX1_wholesFrom_7 1 rfl rfl)
theorem dX1_wholesFrom_170 : decode cX1_wholesFrom 170 = .ok (.aload_n 0, 1) := dk_42 (dk_at dksX1_wholesFrom_7 4 rfl rfl)
theorem dX1_wholesFrom_171 : decode cX1_wholesFrom 171 = .ok (.getfield 105, 3) := dk_180 0 105 (dk_at dksX1_wholesFrom_7 5 rfl rfl)
theorem dX1_wholesFrom_174 : decode cX1_wholesFrom 174 = .ok (.getfield 318, 3) := dk_180 1 62 (dk_at dksX1_wholesFrom_7 8 rfl rfl)
theorem dX1_wholesFrom_177 : decode cX1_wholesFrom 177 = .ok (.iload_n 1, 1) := dk_27 (dk_at dksX1_wholesFrom_7 11 rfl rfl)
theorem dX1_wholesFrom_178 : decode cX1_wholesFrom 178 = .ok (.iaload, 1) := dk_46 (dk_at dksX1_wholesFrom_7 12 rfl rfl)
theorem dX1_wholesFrom_179 : decode cX1_wholesFrom 179 = .ok (.iload 4, 2) := dk_21 4 (dk_at dksX1_wholesFrom_7 13 rfl rfl)
theorem dX1_wholesFrom_181 : decode cX1_wholesFrom 181 = .ok (.if_icmp .ne 36, 3) := dk_160 0 36 (dk_at dksX1_wholesFrom_7 15 rfl rfl)
theorem dX1_wholesFrom_184 : decode cX1_wholesFrom 184 = .ok (.aload_n 0, 1) := dk_42 (dk_at dksX1_wholesFrom_7 18 rfl rfl)
theorem dX1_wholesFrom_185 : decode cX1_wholesFrom 185 = .ok (.getfield 89, 3) := dk_180 0 89 (dk_at dksX1_wholesFrom_7 19 rfl rfl)
theorem dX1_wholesFrom_188 : decode cX1_wholesFrom 188 = .ok (.iload_n 3, 1) := dk_29 (dk_at dksX1_wholesFrom_7 22 rfl rfl)
theorem dX1_wholesFrom_189 : decode cX1_wholesFrom 189 = .ok (.iload 4, 2) := dk_21 4 (dk_at dksX1_wholesFrom_8 0 rfl rfl)
theorem dX1_wholesFrom_191 : decode cX1_wholesFrom 191 = .ok (.invokevirtual 260, 3) := dk_182 1 4 (dk_at dksX1_wholesFrom_8 2 rfl rfl)
theorem dX1_wholesFrom_194 : decode cX1_wholesFrom 194 = .ok (.ifCond .le 6, 3) := dk_158 0 6 (dk_at dksX1_wholesFrom_8 5 rfl rfl)
theorem dX1_wholesFrom_197 : decode cX1_wholesFrom 197 = .ok (.goto 20, 3) := dk_167 0 20 (dk_at dksX1_wholesFrom_8 8 rfl rfl)
theorem dX1_wholesFrom_200 : decode cX1_wholesFrom 200 = .ok (.iload_n 2, 1) := dk_28 (dk_at dksX1_wholesFrom_8 11 rfl rfl)
theorem dX1_wholesFrom_201 : decode cX1_wholesFrom 201 = .ok (.aload_n 0, 1) := dk_42 (dk_at dksX1_wholesFrom_8 12 rfl rfl)
theorem dX1_wholesFrom_202 : decode cX1_wholesFrom 202 = .ok (.iload_n 1, 1) := dk_27 (dk_at dksX1_wholesFrom_8 13 rfl rfl)
theorem dX1_wholesFrom_203 : decode cX1_wholesFrom 203 = .ok (.iconst 1, 1) := dk_4 (dk_at dksX1_wholesFrom_8 14 rfl rfl)
theorem dX1_wholesFrom_204 : decode cX1_wholesFrom 204 = .ok (.iadd, 1) := dk_96 (dk_at dksX1_wholesFrom_8 15 rfl rfl)
theorem dX1_wholesFrom_205 : decode cX1_wholesFrom 205 = .ok (.invokevirtual 328, 3) := dk_182 1 72 (dk_at dksX1_wholesFrom_8 16 rfl rfl)
theorem dX1_wholesFrom_208 : decode cX1_wholesFrom 208 = .ok (.iadd, 1) := dk_96 (dk_at dksX1_wholesFrom_8 19 rfl rfl)
theorem dX1_wholesFrom_209 : decode cX1_wholesFrom 209 = .ok (.istore_n 2, 1) := dk_61 (dk_at dksX1_wholesFrom_8 20 rfl rfl)
theorem dX1_wholesFrom_210 : decode cX1_wholesFrom 210 = .ok (.aload_n 0, 1) := dk_42 (dk_at dksX1_wholesFrom_8 21 rfl rfl)
theorem dX1_wholesFrom_211 : decode cX1_wholesFrom 211 = .ok (.getfield 89, 3) := dk_180 0 89 (dk_at dksX1_wholesFrom_9 0 rfl rfl)
theorem dX1_wholesFrom_214 : decode cX1_wholesFrom 214 = .ok (.invokevirtual 270, 3) := dk_182 1 14 (dk_at dksX1_wholesFrom_9 3 rfl rfl)
theorem dX1_wholesFrom_217 : decode cX1_wholesFrom 217 = .ok (.iinc 4 1, 3) := dk_132 4 1 (dk_at dksX1_wholesFrom_9 6 rfl rfl)
theorem dX1_wholesFrom_220 : decode cX1_wholesFrom 220 = .ok (.goto (-78), 3) := dk_167 255 178 (dk_at dksX1_wholesFrom_9 9 rfl rfl)
theorem dX1_wholesFrom_223 : decode cX1_wholesFrom 223 = .ok (.iinc 3 1, 3) := dk_132 3 1 (dk_at dksX1_wholesFrom_9 12 rfl rfl)
theorem dX1_wholesFrom_226 : decode cX1_wholesFrom 226 = .ok (.goto (-130), 3) := dk_167 255 126 (dk_at dksX1_wholesFrom_9 15 rfl rfl)
theorem dX1_wholesFrom_229 : decode cX1_wholesFrom 229 = .ok (.iload_n 2, 1) := dk_28 (dk_at dksX1_wholesFrom_9 18 rfl rfl)
theorem dX1_wholesFrom_230 : decode cX1_wholesFrom 230 = .ok (.ireturn, 1) := dk_172 (dk_at dksX1_wholesFrom_9 19 rfl rfl)
abbrev cX1_sure : ByteArray := prog_1_method_30_code
def yX1_sure : MethodName := ⟨RX1, "sure", "(II)I"⟩
def dkwX1_sure_2 : List UInt8 := [160, 0, 12, 42, 180, 0, 135, 27, 46, 167, 0, 9, 42, 180, 0, 138, 27, 46, 172]
abbrev dktX1_sure_2 : List UInt8 := dkwX1_sure_2 ++ []
def dkwX1_sure_1 : List UInt8 := [184, 0, 236, 154, 0, 5, 2, 172, 28, 154, 0, 12, 42, 180, 0, 131, 27, 46, 167, 0, 23, 28, 4]
abbrev dktX1_sure_1 : List UInt8 := dkwX1_sure_1 ++ dktX1_sure_2
def dkwX1_sure_0 : List UInt8 := [42, 180, 1, 95, 153, 0, 26, 27, 3, 42, 180, 1, 82, 4, 100, 184, 0, 236, 153, 0, 12, 28, 3, 5]
abbrev dktX1_sure_0 : List UInt8 := dkwX1_sure_0 ++ dktX1_sure_1
theorem dksX1_sure_0 : cX1_sure.data.toList.drop 0 = dktX1_sure_0 := by decide +kernel
theorem dksX1_sure_1 : cX1_sure.data.toList.drop 24 = dktX1_sure_1 := dk_seg dksX1_sure_0 24 rfl rfl
theorem dksX1_sure_2 : cX1_sure.data.toList.drop 47 = dktX1_sure_2 := dk_seg dksX1_sure_1 23 rfl rfl
theorem dX1_sure_0 : decode cX1_sure 0 = .ok (.aload_n 0, 1) := dk_42 (dk_at dksX1_sure_0 0 rfl rfl)
theorem dX1_sure_1 : decode cX1_sure 1 = .ok (.getfield 351, 3) := dk_180 1 95 (dk_at dksX1_sure_0 1 rfl rfl)
theorem dX1_sure_4 : decode cX1_sure 4 = .ok (.ifCond .eq 26, 3) := dk_153 0 26 (dk_at dksX1_sure_0 4 rfl rfl)
theorem dX1_sure_7 : decode cX1_sure 7 = .ok (.iload_n 1, 1) := dk_27 (dk_at dksX1_sure_0 7 rfl rfl)
theorem dX1_sure_8 : decode cX1_sure 8 = .ok (.iconst 0, 1) := dk_3 (dk_at dksX1_sure_0 8 rfl rfl)
theorem dX1_sure_9 : decode cX1_sure 9 = .ok (.aload_n 0, 1) := dk_42 (dk_at dksX1_sure_0 9 rfl rfl)
theorem dX1_sure_10 : decode cX1_sure 10 = .ok (.getfield 338, 3) := dk_180 1 82 (dk_at dksX1_sure_0 10 rfl rfl)
theorem dX1_sure_13 : decode cX1_sure 13 = .ok (.iconst 1, 1) := dk_4 (dk_at dksX1_sure_0 13 rfl rfl)
theorem dX1_sure_14 : decode cX1_sure 14 = .ok (.isub, 1) := dk_100 (dk_at dksX1_sure_0 14 rfl rfl)
theorem dX1_sure_15 : decode cX1_sure 15 = .ok (.invokestatic 236, 3) := dk_184 0 236 (dk_at dksX1_sure_0 15 rfl rfl)
theorem dX1_sure_18 : decode cX1_sure 18 = .ok (.ifCond .eq 12, 3) := dk_153 0 12 (dk_at dksX1_sure_0 18 rfl rfl)
theorem dX1_sure_21 : decode cX1_sure 21 = .ok (.iload_n 2, 1) := dk_28 (dk_at dksX1_sure_0 21 rfl rfl)
theorem dX1_sure_22 : decode cX1_sure 22 = .ok (.iconst 0, 1) := dk_3 (dk_at dksX1_sure_0 22 rfl rfl)
theorem dX1_sure_23 : decode cX1_sure 23 = .ok (.iconst 2, 1) := dk_5 (dk_at dksX1_sure_0 23 rfl rfl)
theorem dX1_sure_24 : decode cX1_sure 24 = .ok (.invokestatic 236, 3) := dk_184 0 236 (dk_at dksX1_sure_1 0 rfl rfl)
theorem dX1_sure_27 : decode cX1_sure 27 = .ok (.ifCond .ne 5, 3) := dk_154 0 5 (dk_at dksX1_sure_1 3 rfl rfl)
theorem dX1_sure_30 : decode cX1_sure 30 = .ok (.iconst (-1), 1) := dk_2 (dk_at dksX1_sure_1 6 rfl rfl)
theorem dX1_sure_31 : decode cX1_sure 31 = .ok (.ireturn, 1) := dk_172 (dk_at dksX1_sure_1 7 rfl rfl)
theorem dX1_sure_32 : decode cX1_sure 32 = .ok (.iload_n 2, 1) := dk_28 (dk_at dksX1_sure_1 8 rfl rfl)
theorem dX1_sure_33 : decode cX1_sure 33 = .ok (.ifCond .ne 12, 3) := dk_154 0 12 (dk_at dksX1_sure_1 9 rfl rfl)
theorem dX1_sure_36 : decode cX1_sure 36 = .ok (.aload_n 0, 1) := dk_42 (dk_at dksX1_sure_1 12 rfl rfl)
theorem dX1_sure_37 : decode cX1_sure 37 = .ok (.getfield 131, 3) := dk_180 0 131 (dk_at dksX1_sure_1 13 rfl rfl)
theorem dX1_sure_40 : decode cX1_sure 40 = .ok (.iload_n 1, 1) := dk_27 (dk_at dksX1_sure_1 16 rfl rfl)
theorem dX1_sure_41 : decode cX1_sure 41 = .ok (.iaload, 1) := dk_46 (dk_at dksX1_sure_1 17 rfl rfl)
theorem dX1_sure_42 : decode cX1_sure 42 = .ok (.goto 23, 3) := dk_167 0 23 (dk_at dksX1_sure_1 18 rfl rfl)
theorem dX1_sure_45 : decode cX1_sure 45 = .ok (.iload_n 2, 1) := dk_28 (dk_at dksX1_sure_1 21 rfl rfl)
theorem dX1_sure_46 : decode cX1_sure 46 = .ok (.iconst 1, 1) := dk_4 (dk_at dksX1_sure_1 22 rfl rfl)
theorem dX1_sure_47 : decode cX1_sure 47 = .ok (.if_icmp .ne 12, 3) := dk_160 0 12 (dk_at dksX1_sure_2 0 rfl rfl)
theorem dX1_sure_50 : decode cX1_sure 50 = .ok (.aload_n 0, 1) := dk_42 (dk_at dksX1_sure_2 3 rfl rfl)
theorem dX1_sure_51 : decode cX1_sure 51 = .ok (.getfield 135, 3) := dk_180 0 135 (dk_at dksX1_sure_2 4 rfl rfl)
theorem dX1_sure_54 : decode cX1_sure 54 = .ok (.iload_n 1, 1) := dk_27 (dk_at dksX1_sure_2 7 rfl rfl)
theorem dX1_sure_55 : decode cX1_sure 55 = .ok (.iaload, 1) := dk_46 (dk_at dksX1_sure_2 8 rfl rfl)
theorem dX1_sure_56 : decode cX1_sure 56 = .ok (.goto 9, 3) := dk_167 0 9 (dk_at dksX1_sure_2 9 rfl rfl)
theorem dX1_sure_59 : decode cX1_sure 59 = .ok (.aload_n 0, 1) := dk_42 (dk_at dksX1_sure_2 12 rfl rfl)
theorem dX1_sure_60 : decode cX1_sure 60 = .ok (.getfield 138, 3) := dk_180 0 138 (dk_at dksX1_sure_2 13 rfl rfl)
theorem dX1_sure_63 : decode cX1_sure 63 = .ok (.iload_n 1, 1) := dk_27 (dk_at dksX1_sure_2 16 rfl rfl)
theorem dX1_sure_64 : decode cX1_sure 64 = .ok (.iaload, 1) := dk_46 (dk_at dksX1_sure_2 17 rfl rfl)
theorem dX1_sure_65 : decode cX1_sure 65 = .ok (.ireturn, 1) := dk_172 (dk_at dksX1_sure_2 18 rfl rfl)
abbrev cX1_hangs : ByteArray := prog_1_method_31_code
def yX1_hangs : MethodName := ⟨RX1, "hangs", "()I"⟩
def dkwX1_hangs_7 : List UInt8 := [132, 3, 1, 167, 255, 164, 28, 172]
abbrev dktX1_hangs_7 : List UInt8 := dkwX1_hangs_7 ++ []
def dkwX1_hangs_6 : List UInt8 := [180, 1, 62, 29, 2, 79, 28, 42, 182, 1, 91, 27, 164, 0, 9, 4, 29, 120, 167, 0, 4, 3, 128, 61]
abbrev dktX1_hangs_6 : List UInt8 := dkwX1_hangs_6 ++ dktX1_hangs_7
def dkwX1_hangs_5 : List UInt8 := [180, 0, 105, 42, 180, 0, 98, 182, 1, 56, 42, 180, 0, 105, 180, 1, 58, 29, 2, 79, 42, 180, 0, 105]
abbrev dktX1_hangs_5 : List UInt8 := dkwX1_hangs_5 ++ dktX1_hangs_6
def dkwX1_hangs_4 : List UInt8 := [46, 2, 159, 0, 68, 42, 180, 0, 98, 180, 1, 62, 29, 46, 2, 160, 0, 6, 167, 0, 52, 42]
abbrev dktX1_hangs_4 : List UInt8 := dkwX1_hangs_4 ++ dktX1_hangs_5
def dkwX1_hangs_3 : List UInt8 := [172, 3, 61, 3, 62, 29, 42, 180, 0, 98, 180, 0, 205, 162, 0, 87, 42, 180, 0, 98, 180, 1, 58, 29]
abbrev dktX1_hangs_3 : List UInt8 := dkwX1_hangs_3 ++ dktX1_hangs_4
def dkwX1_hangs_2 : List UInt8 := [181, 1, 69, 42, 180, 0, 105, 42, 180, 0, 98, 182, 1, 56, 42, 182, 1, 91, 60, 27, 154, 0, 5, 2]
abbrev dktX1_hangs_2 : List UInt8 := dkwX1_hangs_2 ++ dktX1_hangs_3
def dkwX1_hangs_1 : List UInt8 := [42, 180, 0, 85, 180, 0, 220, 180, 1, 11, 133, 105, 20, 1, 99, 148, 158, 0, 6, 16, 254, 172, 42, 3]
abbrev dktX1_hangs_1 : List UInt8 := dkwX1_hangs_1 ++ dktX1_hangs_2
def dkwX1_hangs_0 : List UInt8 := [42, 42, 180, 0, 98, 19, 1, 98, 182, 1, 75, 133, 42, 180, 0, 85, 180, 0, 220, 180, 1, 59, 133, 105]
abbrev dktX1_hangs_0 : List UInt8 := dkwX1_hangs_0 ++ dktX1_hangs_1
theorem dksX1_hangs_0 : cX1_hangs.data.toList.drop 0 = dktX1_hangs_0 := by decide +kernel
theorem dksX1_hangs_1 : cX1_hangs.data.toList.drop 24 = dktX1_hangs_1 := dk_seg dksX1_hangs_0 24 rfl rfl
theorem dksX1_hangs_2 : cX1_hangs.data.toList.drop 48 = dktX1_hangs_2 := dk_seg dksX1_hangs_1 24 rfl rfl
theorem dksX1_hangs_3 : cX1_hangs.data.toList.drop 72 = dktX1_hangs_3 := dk_seg dksX1_hangs_2 24 rfl rfl
theorem dksX1_hangs_4 : cX1_hangs.data.toList.drop 96 = dktX1_hangs_4 := dk_seg dksX1_hangs_3 24 rfl rfl
theorem dksX1_hangs_5 : cX1_hangs.data.toList.drop 118 = dktX1_hangs_5 := dk_seg dksX1_hangs_4 22 rfl rfl
theorem dksX1_hangs_6 : cX1_hangs.data.toList.drop 142 = dktX1_hangs_6 := dk_seg dksX1_hangs_5 24 rfl rfl
theorem dksX1_hangs_7 : cX1_hangs.data.toList.drop 166 = dktX1_hangs_7 := dk_seg dksX1_hangs_6 24 rfl rfl
theorem dX1_hangs_0 : decode cX1_hangs 0 = .ok (.aload_n 0, 1) := dk_42 (dk_at dksX1_hangs_0 0 rfl rfl)
theorem dX1_hangs_1 : decode cX1_hangs 1 = .ok (.aload_n 0, 1) := dk_42 (dk_at dksX1_hangs_0 1 rfl rfl)
theorem dX1_hangs_2 : decode cX1_hangs 2 = .ok (.getfield 98, 3) := dk_180 0 98 (dk_at dksX1_hangs_0 2 rfl rfl)
theorem dX1_hangs_5 : decode cX1_hangs 5 = .ok (.ldc_w 354, 3) := dk_19 1 98 (dk_at dksX1_hangs_0 5 rfl rfl)
theorem dX1_hangs_8 : decode cX1_hangs 8 = .ok (.invokevirtual 331, 3) := dk_182 1 75 (dk_at dksX1_hangs_0 8 rfl rfl)
theorem dX1_hangs_11 : decode cX1_hangs 11 = .ok (.i2l, 1) := dk_133 (dk_at dksX1_hangs_0 11 rfl rfl)
theorem dX1_hangs_12 : decode cX1_hangs 12 = .ok (.aload_n 0, 1) := dk_42 (dk_at dksX1_hangs_0 12 rfl rfl)
theorem dX1_hangs_13 : decode cX1_hangs 13 = .ok (.getfield 85, 3) := dk_180 0 85 (dk_at dksX1_hangs_0 13 rfl rfl)
theorem dX1_hangs_16 : decode cX1_hangs 16 = .ok (.getfield 220, 3) := dk_180 0 220 (dk_at dksX1_hangs_0 16 rfl rfl)
theorem dX1_hangs_19 : decode cX1_hangs 19 = .ok (.getfield 315, 3) := dk_180 1 59 (dk_at dksX1_hangs_0 19 rfl rfl)
theorem dX1_hangs_22 : decode cX1_hangs 22 = .ok (.i2l, 1) := dk_133 (dk_at dksX1_hangs_0 22 rfl rfl)
theorem dX1_hangs_23 : decode cX1_hangs 23 = .ok (.lmul, 1) := dk_105 (dk_at dksX1_hangs_0 23 rfl rfl)
theorem dX1_hangs_24 : decode cX1_hangs 24 = .ok (.aload_n 0, 1) := dk_42 (dk_at dksX1_hangs_1 0 rfl rfl)
theorem dX1_hangs_25 : decode cX1_hangs 25 = .ok (.getfield 85, 3) := dk_180 0 85 (dk_at dksX1_hangs_1 1 rfl rfl)
theorem dX1_hangs_28 : decode cX1_hangs 28 = .ok (.getfield 220, 3) := dk_180 0 220 (dk_at dksX1_hangs_1 4 rfl rfl)
theorem dX1_hangs_31 : decode cX1_hangs 31 = .ok (.getfield 267, 3) := dk_180 1 11 (dk_at dksX1_hangs_1 7 rfl rfl)
theorem dX1_hangs_34 : decode cX1_hangs 34 = .ok (.i2l, 1) := dk_133 (dk_at dksX1_hangs_1 10 rfl rfl)
theorem dX1_hangs_35 : decode cX1_hangs 35 = .ok (.lmul, 1) := dk_105 (dk_at dksX1_hangs_1 11 rfl rfl)
theorem dX1_hangs_36 : decode cX1_hangs 36 = .ok (.ldc2_w 355, 3) := dk_20 1 99 (dk_at dksX1_hangs_1 12 rfl rfl)
theorem dX1_hangs_39 : decode cX1_hangs 39 = .ok (.lcmp, 1) := dk_148 (dk_at dksX1_hangs_1 15 rfl rfl)
theorem dX1_hangs_40 : decode cX1_hangs 40 = .ok (.ifCond .le 6, 3) := dk_158 0 6 (dk_at dksX1_hangs_1 16 rfl rfl)
theorem dX1_hangs_43 : decode cX1_hangs 43 = .ok (.bipush (-2), 2) := dk_16 254 (dk_at dksX1_hangs_1 19 rfl rfl)
theorem dX1_hangs_45 : decode cX1_hangs 45 = .ok (.ireturn, 1) := dk_172 (dk_at dksX1_hangs_1 21 rfl rfl)
theorem dX1_hangs_46 : decode cX1_hangs 46 = .ok (.aload_n 0, 1) := dk_42 (dk_at dksX1_hangs_1 22 rfl rfl)
theorem dX1_hangs_47 : decode cX1_hangs 47 = .ok (.iconst 0, 1) := dk_3 (dk_at dksX1_hangs_1 23 rfl rfl)
theorem dX1_hangs_48 : decode cX1_hangs 48 = .ok (.putfield 325, 3) := dk_181 1 69 (dk_at dksX1_hangs_2 0 rfl rfl)
theorem dX1_hangs_51 : decode cX1_hangs 51 = .ok (.aload_n 0, 1) := dk_42 (dk_at dksX1_hangs_2 3 rfl rfl)
theorem dX1_hangs_52 : decode cX1_hangs 52 = .ok (.getfield 105, 3) := dk_180 0 105 (dk_at dksX1_hangs_2 4 rfl rfl)
theorem dX1_hangs_55 : decode cX1_hangs 55 = .ok (.aload_n 0, 1) := dk_42 (dk_at dksX1_hangs_2 7 rfl rfl)
theorem dX1_hangs_56 : decode cX1_hangs 56 = .ok (.getfield 98, 3) := dk_180 0 98 (dk_at dksX1_hangs_2 8 rfl rfl)
theorem dX1_hangs_59 : decode cX1_hangs 59 = .ok (.invokevirtual 312, 3) := dk_182 1 56 (dk_at dksX1_hangs_2 11 rfl rfl)
theorem dX1_hangs_62 : decode cX1_hangs 62 = .ok (.aload_n 0, 1) := dk_42 (dk_at dksX1_hangs_2 14 rfl rfl)
theorem dX1_hangs_63 : decode cX1_hangs 63 = .ok (.invokevirtual 347, 3) := dk_182 1 91 (dk_at dksX1_hangs_2 15 rfl rfl)
theorem dX1_hangs_66 : decode cX1_hangs 66 = .ok (.istore_n 1, 1) := dk_60 (dk_at dksX1_hangs_2 18 rfl rfl)
theorem dX1_hangs_67 : decode cX1_hangs 67 = .ok (.iload_n 1, 1) := dk_27 (dk_at dksX1_hangs_2 19 rfl rfl)
theorem dX1_hangs_68 : decode cX1_hangs 68 = .ok (.ifCond .ne 5, 3) := dk_154 0 5 (dk_at dksX1_hangs_2 20 rfl rfl)
theorem dX1_hangs_71 : decode cX1_hangs 71 = .ok (.iconst (-1), 1) := dk_2 (dk_at dksX1_hangs_2 23 rfl rfl)
theorem dX1_hangs_72 : decode cX1_hangs 72 = .ok (.ireturn, 1) := dk_172 (dk_at dksX1_hangs_3 0 rfl rfl)
theorem dX1_hangs_73 : decode cX1_hangs 73 = .ok (.iconst 0, 1) := dk_3 (dk_at dksX1_hangs_3 1 rfl rfl)
theorem dX1_hangs_74 : decode cX1_hangs 74 = .ok (.istore_n 2, 1) := dk_61 (dk_at dksX1_hangs_3 2 rfl rfl)
theorem dX1_hangs_75 : decode cX1_hangs 75 = .ok (.iconst 0, 1) := dk_3 (dk_at dksX1_hangs_3 3 rfl rfl)
theorem dX1_hangs_76 : decode cX1_hangs 76 = .ok (.istore_n 3, 1) := dk_62 (dk_at dksX1_hangs_3 4 rfl rfl)
theorem dX1_hangs_77 : decode cX1_hangs 77 = .ok (.iload_n 3, 1) := dk_29 (dk_at dksX1_hangs_3 5 rfl rfl)
theorem dX1_hangs_78 : decode cX1_hangs 78 = .ok (.aload_n 0, 1) := dk_42 (dk_at dksX1_hangs_3 6 rfl rfl)
theorem dX1_hangs_79 : decode cX1_hangs 79 = .ok (.getfield 98, 3) := dk_180 0 98 (dk_at dksX1_hangs_3 7 rfl rfl)
theorem dX1_hangs_82 : decode cX1_hangs 82 = .ok (.getfield 205, 3) := dk_180 0 205 (dk_at dksX1_hangs_3 10 rfl rfl)
theorem dX1_hangs_85 : decode cX1_hangs 85 = .ok (.if_icmp .ge 87, 3) := dk_162 0 87 (dk_at dksX1_hangs_3 13 rfl rfl)
theorem dX1_hangs_88 : decode cX1_hangs 88 = .ok (.aload_n 0, 1) := dk_42 (dk_at dksX1_hangs_3 16 rfl rfl)
theorem dX1_hangs_89 : decode cX1_hangs 89 = .ok (.getfield 98, 3) := dk_180 0 98 (dk_at dksX1_hangs_3 17 rfl rfl)
theorem dX1_hangs_92 : decode cX1_hangs 92 = .ok (.getfield 314, 3) := dk_180 1 58 (dk_at dksX1_hangs_3 20 rfl rfl)
theorem dX1_hangs_95 : decode cX1_hangs 95 = .ok (.iload_n 3, 1) := dk_29 (dk_at dksX1_hangs_3 23 rfl rfl)
theorem dX1_hangs_96 : decode cX1_hangs 96 = .ok (.iaload, 1) := dk_46 (dk_at dksX1_hangs_4 0 rfl rfl)
theorem dX1_hangs_97 : decode cX1_hangs 97 = .ok (.iconst (-1), 1) := dk_2 (dk_at dksX1_hangs_4 1 rfl rfl)
theorem dX1_hangs_98 : decode cX1_hangs 98 = .ok (.if_icmp .eq 68, 3) := dk_159 0 68 (dk_at dksX1_hangs_4 2 rfl rfl)
theorem dX1_hangs_101 : decode cX1_hangs 101 = .ok (.aload_n 0, 1) := dk_42 (dk_at dksX1_hangs_4 5 rfl rfl)
theorem dX1_hangs_102 : decode cX1_hangs 102 = .ok (.getfield 98, 3) := dk_180 0 98 (dk_at dksX1_hangs_4 6 rfl rfl)
theorem dX1_hangs_105 : decode cX1_hangs 105 = .ok (.getfield 318, 3) := dk_180 1 62 (dk_at dksX1_hangs_4 9 rfl rfl)
theorem dX1_hangs_108 : decode cX1_hangs 108 = .ok (.iload_n 3, 1) := dk_29 (dk_at dksX1_hangs_4 12 rfl rfl)
theorem dX1_hangs_109 : decode cX1_hangs 109 = .ok (.iaload, 1) := dk_46 (dk_at dksX1_hangs_4 13 rfl rfl)
theorem dX1_hangs_110 : decode cX1_hangs 110 = .ok (.iconst (-1), 1) := dk_2 (dk_at dksX1_hangs_4 14 rfl rfl)
theorem dX1_hangs_111 : decode cX1_hangs 111 = .ok (.if_icmp .ne 6, 3) := dk_160 0 6 (dk_at dksX1_hangs_4 15 rfl rfl)
theorem dX1_hangs_114 : decode cX1_hangs 114 = .ok (.goto 52, 3) := dk_167 0 52 (dk_at dksX1_hangs_4 18 rfl rfl)
theorem dX1_hangs_117 : decode cX1_hangs 117 = .ok (.aload_n 0, 1) := dk_42 (dk_at dksX1_hangs_4 21 rfl rfl)
theorem dX1_hangs_118 : decode cX1_hangs 118 = .ok (.getfield 105, 3) := dk_180 0 105 (dk_at dksX1_hangs_5 0 rfl rfl)
theorem dX1_hangs_121 : decode cX1_hangs 121 = .ok (.aload_n 0, 1) := dk_42 (dk_at dksX1_hangs_5 3 rfl rfl)
theorem dX1_hangs_122 : decode cX1_hangs 122 = .ok (.getfield 98, 3) := dk_180 0 98 (dk_at dksX1_hangs_5 4 rfl rfl)
theorem dX1_hangs_125 : decode cX1_hangs 125 = .ok (.invokevirtual 312, 3) := dk_182 1 56 (dk_at dksX1_hangs_5 7 rfl rfl)
theorem dX1_hangs_128 : decode cX1_hangs 128 = .ok (.aload_n 0, 1) := dk_42 (dk_at dksX1_hangs_5 10 rfl rfl)
theorem dX1_hangs_129 : decode cX1_hangs 129 = .ok (.getfield 105, 3) := dk_180 0 105 (dk_at dksX1_hangs_5 11 rfl rfl)
theorem dX1_hangs_132 : decode cX1_hangs 132 = .ok (.getfield 314, 3) := dk_180 1 58 (dk_at dksX1_hangs_5 14 rfl rfl)
theorem dX1_hangs_135 : decode cX1_hangs 135 = .ok (.iload_n 3, 1) := dk_29 (dk_at dksX1_hangs_5 17 rfl rfl)
theorem dX1_hangs_136 : decode cX1_hangs 136 = .ok (.iconst (-1), 1) := dk_2 (dk_at dksX1_hangs_5 18 rfl rfl)
theorem dX1_hangs_137 : decode cX1_hangs 137 = .ok (.iastore, 1) := dk_79 (dk_at dksX1_hangs_5 19 rfl rfl)
theorem dX1_hangs_138 : decode cX1_hangs 138 = .ok (.aload_n 0, 1) := dk_42 (dk_at dksX1_hangs_5 20 rfl rfl)
theorem dX1_hangs_139 : decode cX1_hangs 139 = .ok (.getfield 105, 3) := dk_180 0 105 (dk_at dksX1_hangs_5 21 rfl rfl)
theorem dX1_hangs_142 : decode cX1_hangs 142 = .ok (.getfield 318, 3) := dk_180 1 62 (dk_at dksX1_hangs_6 0 rfl rfl)
theorem dX1_hangs_145 : decode cX1_hangs 145 = .ok (.iload_n 3, 1) := dk_29 (dk_at dksX1_hangs_6 3 rfl rfl)
theorem dX1_hangs_146 : decode cX1_hangs 146 = .ok (.iconst (-1), 1) := dk_2 (dk_at dksX1_hangs_6 4 rfl rfl)
theorem dX1_hangs_147 : decode cX1_hangs 147 = .ok (.iastore, 1) := dk_79 (dk_at dksX1_hangs_6 5 rfl rfl)
theorem dX1_hangs_148 : decode cX1_hangs 148 = .ok (.iload_n 2, 1) := dk_28 (dk_at dksX1_hangs_6 6 rfl rfl)
theorem dX1_hangs_149 : decode cX1_hangs 149 = .ok (.aload_n 0, 1) := dk_42 (dk_at dksX1_hangs_6 7 rfl rfl)
theorem dX1_hangs_150 : decode cX1_hangs 150 = .ok (.invokevirtual 347, 3) := dk_182 1 91 (dk_at dksX1_hangs_6 8 rfl rfl)
theorem dX1_hangs_153 : decode cX1_hangs 153 = .ok (.iload_n 1, 1) := dk_27 (dk_at dksX1_hangs_6 11 rfl rfl)
theorem dX1_hangs_154 : decode cX1_hangs 154 = .ok (.if_icmp .le 9, 3) := dk_164 0 9 (dk_at dksX1_hangs_6 12 rfl rfl)
theorem dX1_hangs_157 : decode cX1_hangs 157 = .ok (.iconst 1, 1) := dk_4 (dk_at dksX1_hangs_6 15 rfl rfl)
theorem dX1_hangs_158 : decode cX1_hangs 158 = .ok (.iload_n 3, 1) := dk_29 (dk_at dksX1_hangs_6 16 rfl rfl)
theorem dX1_hangs_159 : decode cX1_hangs 159 = .ok (.ishl, 1) := dk_120 (dk_at dksX1_hangs_6 17 rfl rfl)
theorem dX1_hangs_160 : decode cX1_hangs 160 = .ok (.goto 4, 3) := dk_167 0 4 (dk_at dksX1_hangs_6 18 rfl rfl)
theorem dX1_hangs_163 : decode cX1_hangs 163 = .ok (.iconst 0, 1) := dk_3 (dk_at dksX1_hangs_6 21 rfl rfl)
theorem dX1_hangs_164 : decode cX1_hangs 164 = .ok (.ior, 1) := dk_128 (dk_at dksX1_hangs_6 22 rfl rfl)
theorem dX1_hangs_165 : decode cX1_hangs 165 = .ok (.istore_n 2, 1) := dk_61 (dk_at dksX1_hangs_6 23 rfl rfl)
theorem dX1_hangs_166 : decode cX1_hangs 166 = .ok (.iinc 3 1, 3) := dk_132 3 1 (dk_at dksX1_hangs_7 0 rfl rfl)
theorem dX1_hangs_169 : decode cX1_hangs 169 = .ok (.goto (-92), 3) := dk_167 255 164 (dk_at dksX1_hangs_7 3 rfl rfl)
theorem dX1_hangs_172 : decode cX1_hangs 172 = .ok (.iload_n 2, 1) := dk_28 (dk_at dksX1_hangs_7 6 rfl rfl)
theorem dX1_hangs_173 : decode cX1_hangs 173 = .ok (.ireturn, 1) := dk_172 (dk_at dksX1_hangs_7 7 rfl rfl)
abbrev cX1_mend : ByteArray := prog_1_method_34_code
def yX1_mend : MethodName := ⟨RX1, "mend", "()I"⟩
def dkwX1_mend_2 : List UInt8 := [182, 1, 113, 153, 0, 5, 28, 60, 132, 2, 1, 167, 255, 214, 42, 27, 181, 0, 141, 27, 184, 1, 108, 172]
abbrev dktX1_mend_2 : List UInt8 := dkwX1_mend_2 ++ []
def dkwX1_mend_1 : List UInt8 := [120, 162, 0, 35, 27, 2, 159, 0, 14, 28, 184, 1, 108, 27, 184, 1, 108, 162, 0, 13, 42, 28]
abbrev dktX1_mend_1 : List UInt8 := dkwX1_mend_1 ++ dktX1_mend_2
def dkwX1_mend_0 : List UInt8 := [42, 16, 14, 182, 1, 105, 154, 0, 5, 2, 172, 2, 60, 3, 61, 28, 4, 42, 180, 0, 98, 180, 0, 205]
abbrev dktX1_mend_0 : List UInt8 := dkwX1_mend_0 ++ dktX1_mend_1
theorem dksX1_mend_0 : cX1_mend.data.toList.drop 0 = dktX1_mend_0 := by decide +kernel
theorem dksX1_mend_1 : cX1_mend.data.toList.drop 24 = dktX1_mend_1 := dk_seg dksX1_mend_0 24 rfl rfl
theorem dksX1_mend_2 : cX1_mend.data.toList.drop 46 = dktX1_mend_2 := dk_seg dksX1_mend_1 22 rfl rfl
theorem dX1_mend_0 : decode cX1_mend 0 = .ok (.aload_n 0, 1) := dk_42 (dk_at dksX1_mend_0 0 rfl rfl)
theorem dX1_mend_1 : decode cX1_mend 1 = .ok (.bipush 14, 2) := dk_16 14 (dk_at dksX1_mend_0 1 rfl rfl)
theorem dX1_mend_3 : decode cX1_mend 3 = .ok (.invokevirtual 361, 3) := dk_182 1 105 (dk_at dksX1_mend_0 3 rfl rfl)
theorem dX1_mend_6 : decode cX1_mend 6 = .ok (.ifCond .ne 5, 3) := dk_154 0 5 (dk_at dksX1_mend_0 6 rfl rfl)
theorem dX1_mend_9 : decode cX1_mend 9 = .ok (.iconst (-1), 1) := dk_2 (dk_at dksX1_mend_0 9 rfl rfl)
theorem dX1_mend_10 : decode cX1_mend 10 = .ok (.ireturn, 1) := dk_172 (dk_at dksX1_mend_0 10 rfl rfl)
theorem dX1_mend_11 : decode cX1_mend 11 = .ok (.iconst (-1), 1) := dk_2 (dk_at dksX1_mend_0 11 rfl rfl)
theorem dX1_mend_12 : decode cX1_mend 12 = .ok (.istore_n 1, 1) := dk_60 (dk_at dksX1_mend_0 12 rfl rfl)
theorem dX1_mend_13 : decode cX1_mend 13 = .ok (.iconst 0, 1) := dk_3 (dk_at dksX1_mend_0 13 rfl rfl)
theorem dX1_mend_14 : decode cX1_mend 14 = .ok (.istore_n 2, 1) := dk_61 (dk_at dksX1_mend_0 14 rfl rfl)
theorem dX1_mend_15 : decode cX1_mend 15 = .ok (.iload_n 2, 1) := dk_28 (dk_at dksX1_mend_0 15 rfl rfl)
theorem dX1_mend_16 : decode cX1_mend 16 = .ok (.iconst 1, 1) := dk_4 (dk_at dksX1_mend_0 16 rfl rfl)
theorem dX1_mend_17 : decode cX1_mend 17 = .ok (.aload_n 0, 1) := dk_42 (dk_at dksX1_mend_0 17 rfl rfl)
theorem dX1_mend_18 : decode cX1_mend 18 = .ok (.getfield 98, 3) := dk_180 0 98 (dk_at dksX1_mend_0 18 rfl rfl)
theorem dX1_mend_21 : decode cX1_mend 21 = .ok (.getfield 205, 3) := dk_180 0 205 (dk_at dksX1_mend_0 21 rfl rfl)
theorem dX1_mend_24 : decode cX1_mend 24 = .ok (.ishl, 1) := dk_120 (dk_at dksX1_mend_1 0 rfl rfl)
theorem dX1_mend_25 : decode cX1_mend 25 = .ok (.if_icmp .ge 35, 3) := dk_162 0 35 (dk_at dksX1_mend_1 1 rfl rfl)
theorem dX1_mend_28 : decode cX1_mend 28 = .ok (.iload_n 1, 1) := dk_27 (dk_at dksX1_mend_1 4 rfl rfl)
theorem dX1_mend_29 : decode cX1_mend 29 = .ok (.iconst (-1), 1) := dk_2 (dk_at dksX1_mend_1 5 rfl rfl)
theorem dX1_mend_30 : decode cX1_mend 30 = .ok (.if_icmp .eq 14, 3) := dk_159 0 14 (dk_at dksX1_mend_1 6 rfl rfl)
theorem dX1_mend_33 : decode cX1_mend 33 = .ok (.iload_n 2, 1) := dk_28 (dk_at dksX1_mend_1 9 rfl rfl)
theorem dX1_mend_34 : decode cX1_mend 34 = .ok (.invokestatic 364, 3) := dk_184 1 108 (dk_at dksX1_mend_1 10 rfl rfl)
theorem dX1_mend_37 : decode cX1_mend 37 = .ok (.iload_n 1, 1) := dk_27 (dk_at dksX1_mend_1 13 rfl rfl)
theorem dX1_mend_38 : decode cX1_mend 38 = .ok (.invokestatic 364, 3) := dk_184 1 108 (dk_at dksX1_mend_1 14 rfl rfl)
theorem dX1_mend_41 : decode cX1_mend 41 = .ok (.if_icmp .ge 13, 3) := dk_162 0 13 (dk_at dksX1_mend_1 17 rfl rfl)
theorem dX1_mend_44 : decode cX1_mend 44 = .ok (.aload_n 0, 1) := dk_42 (dk_at dksX1_mend_1 20 rfl rfl)
theorem dX1_mend_45 : decode cX1_mend 45 = .ok (.iload_n 2, 1) := dk_28 (dk_at dksX1_mend_1 21 rfl rfl)
theorem dX1_mend_46 : decode cX1_mend 46 = .ok (.invokevirtual 369, 3) := dk_182 1 113 (dk_at dksX1_mend_2 0 rfl rfl)
theorem dX1_mend_49 : decode cX1_mend 49 = .ok (.ifCond .eq 5, 3) := dk_153 0 5 (dk_at dksX1_mend_2 3 rfl rfl)
theorem dX1_mend_52 : decode cX1_mend 52 = .ok (.iload_n 2, 1) := dk_28 (dk_at dksX1_mend_2 6 rfl rfl)
theorem dX1_mend_53 : decode cX1_mend 53 = .ok (.istore_n 1, 1) := dk_60 (dk_at dksX1_mend_2 7 rfl rfl)
theorem dX1_mend_54 : decode cX1_mend 54 = .ok (.iinc 2 1, 3) := dk_132 2 1 (dk_at dksX1_mend_2 8 rfl rfl)
theorem dX1_mend_57 : decode cX1_mend 57 = .ok (.goto (-42), 3) := dk_167 255 214 (dk_at dksX1_mend_2 11 rfl rfl)
theorem dX1_mend_60 : decode cX1_mend 60 = .ok (.aload_n 0, 1) := dk_42 (dk_at dksX1_mend_2 14 rfl rfl)
theorem dX1_mend_61 : decode cX1_mend 61 = .ok (.iload_n 1, 1) := dk_27 (dk_at dksX1_mend_2 15 rfl rfl)
theorem dX1_mend_62 : decode cX1_mend 62 = .ok (.putfield 141, 3) := dk_181 0 141 (dk_at dksX1_mend_2 16 rfl rfl)
theorem dX1_mend_65 : decode cX1_mend 65 = .ok (.iload_n 1, 1) := dk_27 (dk_at dksX1_mend_2 19 rfl rfl)
theorem dX1_mend_66 : decode cX1_mend 66 = .ok (.invokestatic 364, 3) := dk_184 1 108 (dk_at dksX1_mend_2 20 rfl rfl)
theorem dX1_mend_69 : decode cX1_mend 69 = .ok (.ireturn, 1) := dk_172 (dk_at dksX1_mend_2 23 rfl rfl)
abbrev cX1_isTold : ByteArray := prog_1_method_32_code
def yX1_isTold : MethodName := ⟨RX1, "isTold", "(I)Z"⟩
def dkwX1_isTold_3 : List UInt8 := [28, 172]
abbrev dktX1_isTold_3 : List UInt8 := dkwX1_isTold_3 ++ []
def dkwX1_isTold_2 : List UInt8 := [180, 0, 98, 180, 1, 62, 29, 46, 2, 159, 0, 7, 4, 167, 0, 4, 3, 61, 132, 3, 1, 167, 255, 206]
abbrev dktX1_isTold_2 : List UInt8 := dkwX1_isTold_2 ++ dktX1_isTold_3
def dkwX1_isTold_1 : List UInt8 := [180, 0, 205, 162, 0, 45, 28, 153, 0, 33, 42, 180, 0, 98, 180, 1, 58, 29, 46, 2, 159, 0, 20, 42]
abbrev dktX1_isTold_1 : List UInt8 := dkwX1_isTold_1 ++ dktX1_isTold_2
def dkwX1_isTold_0 : List UInt8 := [42, 180, 0, 98, 180, 0, 205, 27, 163, 0, 7, 4, 167, 0, 4, 3, 61, 3, 62, 29, 42, 180, 0, 98]
abbrev dktX1_isTold_0 : List UInt8 := dkwX1_isTold_0 ++ dktX1_isTold_1
theorem dksX1_isTold_0 : cX1_isTold.data.toList.drop 0 = dktX1_isTold_0 := by decide +kernel
theorem dksX1_isTold_1 : cX1_isTold.data.toList.drop 24 = dktX1_isTold_1 := dk_seg dksX1_isTold_0 24 rfl rfl
theorem dksX1_isTold_2 : cX1_isTold.data.toList.drop 48 = dktX1_isTold_2 := dk_seg dksX1_isTold_1 24 rfl rfl
theorem dksX1_isTold_3 : cX1_isTold.data.toList.drop 72 = dktX1_isTold_3 := dk_seg dksX1_isTold_2 24 rfl rfl
theorem dX1_isTold_0 : decode cX1_isTold 0 = .ok (.aload_n 0, 1) := dk_42 (dk_at dksX1_isTold_0 0 rfl rfl)
theorem dX1_isTold_1 : decode cX1_isTold 1 = .ok (.getfield 98, 3) := dk_180 0 98 (dk_at dksX1_isTold_0 1 rfl rfl)
theorem dX1_isTold_4 : decode cX1_isTold 4 = .ok (.getfield 205, 3) := dk_180 0 205 (dk_at dksX1_isTold_0 4 rfl rfl)
theorem dX1_isTold_7 : decode cX1_isTold 7 = .ok (.iload_n 1, 1) := dk_27 (dk_at dksX1_isTold_0 7 rfl rfl)
theorem dX1_isTold_8 : decode cX1_isTold 8 = .ok (.if_icmp .gt 7, 3) := dk_163 0 7 (dk_at dksX1_isTold_0 8 rfl rfl)
theorem dX1_isTold_11 : decode cX1_isTold 11 = .ok (.iconst 1, 1) := dk_4 (dk_at dksX1_isTold_0 11 rfl rfl)
theorem dX1_isTold_12 : decode cX1_isTold 12 = .ok (.goto 4, 3) := dk_167 0 4 (dk_at dksX1_isTold_0 12 rfl rfl)
theorem dX1_isTold_15 : decode cX1_isTold 15 = .ok (.iconst 0, 1) := dk_3 (dk_at dksX1_isTold_0 15 rfl rfl)
theorem dX1_isTold_16 : decode cX1_isTold 16 = .ok (.istore_n 2, 1) := dk_61 (dk_at dksX1_isTold_0 16 rfl rfl)
theorem dX1_isTold_17 : decode cX1_isTold 17 = .ok (.iconst 0, 1) := dk_3 (dk_at dksX1_isTold_0 17 rfl rfl)
theorem dX1_isTold_18 : decode cX1_isTold 18 = .ok (.istore_n 3, 1) := dk_62 (dk_at dksX1_isTold_0 18 rfl rfl)
theorem dX1_isTold_19 : decode cX1_isTold 19 = .ok (.iload_n 3, 1) := dk_29 (dk_at dksX1_isTold_0 19 rfl rfl)
theorem dX1_isTold_20 : decode cX1_isTold 20 = .ok (.aload_n 0, 1) := dk_42 (dk_at dksX1_isTold_0 20 rfl rfl)
theorem dX1_isTold_21 : decode cX1_isTold 21 = .ok (.getfield 98, 3) := dk_180 0 98 (dk_at dksX1_isTold_0 21 rfl rfl)
theorem dX1_isTold_24 : decode cX1_isTold 24 = .ok (.getfield 205, 3) := dk_180 0 205 (dk_at dksX1_isTold_1 0 rfl rfl)
theorem dX1_isTold_27 : decode cX1_isTold 27 = .ok (.if_icmp .ge 45, 3) := dk_162 0 45 (dk_at dksX1_isTold_1 3 rfl rfl)
theorem dX1_isTold_30 : decode cX1_isTold 30 = .ok (.iload_n 2, 1) := dk_28 (dk_at dksX1_isTold_1 6 rfl rfl)
theorem dX1_isTold_31 : decode cX1_isTold 31 = .ok (.ifCond .eq 33, 3) := dk_153 0 33 (dk_at dksX1_isTold_1 7 rfl rfl)
theorem dX1_isTold_34 : decode cX1_isTold 34 = .ok (.aload_n 0, 1) := dk_42 (dk_at dksX1_isTold_1 10 rfl rfl)
theorem dX1_isTold_35 : decode cX1_isTold 35 = .ok (.getfield 98, 3) := dk_180 0 98 (dk_at dksX1_isTold_1 11 rfl rfl)
theorem dX1_isTold_38 : decode cX1_isTold 38 = .ok (.getfield 314, 3) := dk_180 1 58 (dk_at dksX1_isTold_1 14 rfl rfl)
theorem dX1_isTold_41 : decode cX1_isTold 41 = .ok (.iload_n 3, 1) := dk_29 (dk_at dksX1_isTold_1 17 rfl rfl)
theorem dX1_isTold_42 : decode cX1_isTold 42 = .ok (.iaload, 1) := dk_46 (dk_at dksX1_isTold_1 18 rfl rfl)
theorem dX1_isTold_43 : decode cX1_isTold 43 = .ok (.iconst (-1), 1) := dk_2 (dk_at dksX1_isTold_1 19 rfl rfl)
theorem dX1_isTold_44 : decode cX1_isTold 44 = .ok (.if_icmp .eq 20, 3) := dk_159 0 20 (dk_at dksX1_isTold_1 20 rfl rfl)
theorem dX1_isTold_47 : decode cX1_isTold 47 = .ok (.aload_n 0, 1) := dk_42 (dk_at dksX1_isTold_1 23 rfl rfl)
theorem dX1_isTold_48 : decode cX1_isTold 48 = .ok (.getfield 98, 3) := dk_180 0 98 (dk_at dksX1_isTold_2 0 rfl rfl)
theorem dX1_isTold_51 : decode cX1_isTold 51 = .ok (.getfield 318, 3) := dk_180 1 62 (dk_at dksX1_isTold_2 3 rfl rfl)
theorem dX1_isTold_54 : decode cX1_isTold 54 = .ok (.iload_n 3, 1) := dk_29 (dk_at dksX1_isTold_2 6 rfl rfl)
theorem dX1_isTold_55 : decode cX1_isTold 55 = .ok (.iaload, 1) := dk_46 (dk_at dksX1_isTold_2 7 rfl rfl)
theorem dX1_isTold_56 : decode cX1_isTold 56 = .ok (.iconst (-1), 1) := dk_2 (dk_at dksX1_isTold_2 8 rfl rfl)
theorem dX1_isTold_57 : decode cX1_isTold 57 = .ok (.if_icmp .eq 7, 3) := dk_159 0 7 (dk_at dksX1_isTold_2 9 rfl rfl)
theorem dX1_isTold_60 : decode cX1_isTold 60 = .ok (.iconst 1, 1) := dk_4 (dk_at dksX1_isTold_2 12 rfl rfl)
theorem dX1_isTold_61 : decode cX1_isTold 61 = .ok (.goto 4, 3) := dk_167 0 4 (dk_at dksX1_isTold_2 13 rfl rfl)
theorem dX1_isTold_64 : decode cX1_isTold 64 = .ok (.iconst 0, 1) := dk_3 (dk_at dksX1_isTold_2 16 rfl rfl)
theorem dX1_isTold_65 : decode cX1_isTold 65 = .ok (.istore_n 2, 1) := dk_61 (dk_at dksX1_isTold_2 17 rfl rfl)
theorem dX1_isTold_66 : decode cX1_isTold 66 = .ok (.iinc 3 1, 3) := dk_132 3 1 (dk_at dksX1_isTold_2 18 rfl rfl)
theorem dX1_isTold_69 : decode cX1_isTold 69 = .ok (.goto (-50), 3) := dk_167 255 206 (dk_at dksX1_isTold_2 21 rfl rfl)
theorem dX1_isTold_72 : decode cX1_isTold 72 = .ok (.iload_n 2, 1) := dk_28 (dk_at dksX1_isTold_3 0 rfl rfl)
theorem dX1_isTold_73 : decode cX1_isTold 73 = .ok (.ireturn, 1) := dk_172 (dk_at dksX1_isTold_3 1 rfl rfl)
abbrev cX1_isTalk : ByteArray := prog_1_method_33_code
def yX1_isTalk : MethodName := ⟨RX1, "isTalk", "(I)Z"⟩
def dkwX1_isTalk_3 : List UInt8 := [172]
abbrev dktX1_isTalk_3 : List UInt8 := dkwX1_isTalk_3 ++ []
def dkwX1_isTalk_2 : List UInt8 := [42, 180, 0, 98, 180, 1, 62, 28, 46, 182, 1, 4, 158, 0, 5, 3, 172, 132, 2, 1, 167, 255, 204, 4]
abbrev dktX1_isTalk_2 : List UInt8 := dkwX1_isTalk_2 ++ dktX1_isTalk_3
def dkwX1_isTalk_1 : List UInt8 := [162, 0, 47, 27, 28, 184, 1, 101, 154, 0, 33, 42, 180, 0, 89, 42, 180, 0, 98, 180, 1, 58, 28, 46]
abbrev dktX1_isTalk_1 : List UInt8 := dkwX1_isTalk_1 ++ dktX1_isTalk_2
def dkwX1_isTalk_0 : List UInt8 := [42, 180, 0, 89, 42, 180, 0, 85, 180, 0, 220, 182, 0, 201, 3, 61, 28, 42, 180, 0, 98, 180, 0, 205]
abbrev dktX1_isTalk_0 : List UInt8 := dkwX1_isTalk_0 ++ dktX1_isTalk_1
theorem dksX1_isTalk_0 : cX1_isTalk.data.toList.drop 0 = dktX1_isTalk_0 := by decide +kernel
theorem dksX1_isTalk_1 : cX1_isTalk.data.toList.drop 24 = dktX1_isTalk_1 := dk_seg dksX1_isTalk_0 24 rfl rfl
theorem dksX1_isTalk_2 : cX1_isTalk.data.toList.drop 48 = dktX1_isTalk_2 := dk_seg dksX1_isTalk_1 24 rfl rfl
theorem dksX1_isTalk_3 : cX1_isTalk.data.toList.drop 72 = dktX1_isTalk_3 := dk_seg dksX1_isTalk_2 24 rfl rfl
theorem dX1_isTalk_0 : decode cX1_isTalk 0 = .ok (.aload_n 0, 1) := dk_42 (dk_at dksX1_isTalk_0 0 rfl rfl)
theorem dX1_isTalk_1 : decode cX1_isTalk 1 = .ok (.getfield 89, 3) := dk_180 0 89 (dk_at dksX1_isTalk_0 1 rfl rfl)
theorem dX1_isTalk_4 : decode cX1_isTalk 4 = .ok (.aload_n 0, 1) := dk_42 (dk_at dksX1_isTalk_0 4 rfl rfl)
theorem dX1_isTalk_5 : decode cX1_isTalk 5 = .ok (.getfield 85, 3) := dk_180 0 85 (dk_at dksX1_isTalk_0 5 rfl rfl)
theorem dX1_isTalk_8 : decode cX1_isTalk 8 = .ok (.getfield 220, 3) := dk_180 0 220 (dk_at dksX1_isTalk_0 8 rfl rfl)
theorem dX1_isTalk_11 : decode cX1_isTalk 11 = .ok (.invokevirtual 201, 3) := dk_182 0 201 (dk_at dksX1_isTalk_0 11 rfl rfl)
theorem dX1_isTalk_14 : decode cX1_isTalk 14 = .ok (.iconst 0, 1) := dk_3 (dk_at dksX1_isTalk_0 14 rfl rfl)
theorem dX1_isTalk_15 : decode cX1_isTalk 15 = .ok (.istore_n 2, 1) := dk_61 (dk_at dksX1_isTalk_0 15 rfl rfl)
theorem dX1_isTalk_16 : decode cX1_isTalk 16 = .ok (.iload_n 2, 1) := dk_28 (dk_at dksX1_isTalk_0 16 rfl rfl)
theorem dX1_isTalk_17 : decode cX1_isTalk 17 = .ok (.aload_n 0, 1) := dk_42 (dk_at dksX1_isTalk_0 17 rfl rfl)
theorem dX1_isTalk_18 : decode cX1_isTalk 18 = .ok (.getfield 98, 3) := dk_180 0 98 (dk_at dksX1_isTalk_0 18 rfl rfl)
theorem dX1_isTalk_21 : decode cX1_isTalk 21 = .ok (.getfield 205, 3) := dk_180 0 205 (dk_at dksX1_isTalk_0 21 rfl rfl)
theorem dX1_isTalk_24 : decode cX1_isTalk 24 = .ok (.if_icmp .ge 47, 3) := dk_162 0 47 (dk_at dksX1_isTalk_1 0 rfl rfl)
theorem dX1_isTalk_27 : decode cX1_isTalk 27 = .ok (.iload_n 1, 1) := dk_27 (dk_at dksX1_isTalk_1 3 rfl rfl)
theorem dX1_isTalk_28 : decode cX1_isTalk 28 = .ok (.iload_n 2, 1) := dk_28 (dk_at dksX1_isTalk_1 4 rfl rfl)
theorem dX1_isTalk_29 : decode cX1_isTalk 29 = .ok (.invokestatic 357, 3) := dk_184 1 101 (dk_at dksX1_isTalk_1 5 rfl rfl)
theorem dX1_isTalk_32 : decode cX1_isTalk 32 = .ok (.ifCond .ne 33, 3) := dk_154 0 33 (dk_at dksX1_isTalk_1 8 rfl rfl)
theorem dX1_isTalk_35 : decode cX1_isTalk 35 = .ok (.aload_n 0, 1) := dk_42 (dk_at dksX1_isTalk_1 11 rfl rfl)
theorem dX1_isTalk_36 : decode cX1_isTalk 36 = .ok (.getfield 89, 3) := dk_180 0 89 (dk_at dksX1_isTalk_1 12 rfl rfl)
theorem dX1_isTalk_39 : decode cX1_isTalk 39 = .ok (.aload_n 0, 1) := dk_42 (dk_at dksX1_isTalk_1 15 rfl rfl)
theorem dX1_isTalk_40 : decode cX1_isTalk 40 = .ok (.getfield 98, 3) := dk_180 0 98 (dk_at dksX1_isTalk_1 16 rfl rfl)
theorem dX1_isTalk_43 : decode cX1_isTalk 43 = .ok (.getfield 314, 3) := dk_180 1 58 (dk_at dksX1_isTalk_1 19 rfl rfl)
theorem dX1_isTalk_46 : decode cX1_isTalk 46 = .ok (.iload_n 2, 1) := dk_28 (dk_at dksX1_isTalk_1 22 rfl rfl)
theorem dX1_isTalk_47 : decode cX1_isTalk 47 = .ok (.iaload, 1) := dk_46 (dk_at dksX1_isTalk_1 23 rfl rfl)
theorem dX1_isTalk_48 : decode cX1_isTalk 48 = .ok (.aload_n 0, 1) := dk_42 (dk_at dksX1_isTalk_2 0 rfl rfl)
theorem dX1_isTalk_49 : decode cX1_isTalk 49 = .ok (.getfield 98, 3) := dk_180 0 98 (dk_at dksX1_isTalk_2 1 rfl rfl)
theorem dX1_isTalk_52 : decode cX1_isTalk 52 = .ok (.getfield 318, 3) := dk_180 1 62 (dk_at dksX1_isTalk_2 4 rfl rfl)
theorem dX1_isTalk_55 : decode cX1_isTalk 55 = .ok (.iload_n 2, 1) := dk_28 (dk_at dksX1_isTalk_2 7 rfl rfl)
theorem dX1_isTalk_56 : decode cX1_isTalk 56 = .ok (.iaload, 1) := dk_46 (dk_at dksX1_isTalk_2 8 rfl rfl)
theorem dX1_isTalk_57 : decode cX1_isTalk 57 = .ok (.invokevirtual 260, 3) := dk_182 1 4 (dk_at dksX1_isTalk_2 9 rfl rfl)
theorem dX1_isTalk_60 : decode cX1_isTalk 60 = .ok (.ifCond .le 5, 3) := dk_158 0 5 (dk_at dksX1_isTalk_2 12 rfl rfl)
theorem dX1_isTalk_63 : decode cX1_isTalk 63 = .ok (.iconst 0, 1) := dk_3 (dk_at dksX1_isTalk_2 15 rfl rfl)
theorem dX1_isTalk_64 : decode cX1_isTalk 64 = .ok (.ireturn, 1) := dk_172 (dk_at dksX1_isTalk_2 16 rfl rfl)
theorem dX1_isTalk_65 : decode cX1_isTalk 65 = .ok (.iinc 2 1, 3) := dk_132 2 1 (dk_at dksX1_isTalk_2 17 rfl rfl)
theorem dX1_isTalk_68 : decode cX1_isTalk 68 = .ok (.goto (-52), 3) := dk_167 255 204 (dk_at dksX1_isTalk_2 20 rfl rfl)
theorem dX1_isTalk_71 : decode cX1_isTalk 71 = .ok (.iconst 1, 1) := dk_4 (dk_at dksX1_isTalk_2 23 rfl rfl)
theorem dX1_isTalk_72 : decode cX1_isTalk 72 = .ok (.ireturn, 1) := dk_172 (dk_at dksX1_isTalk_3 0 rfl rfl)
abbrev cX1_mended : ByteArray := prog_1_method_35_code
def yX1_mended : MethodName := ⟨RX1, "mended", "()I"⟩
theorem dX1_mended_0 : decode cX1_mended 0 = .ok (.aload_n 0, 1) := by decide +kernel
theorem dX1_mended_1 : decode cX1_mended 1 = .ok (.getfield 141, 3) := by decide +kernel
theorem dX1_mended_4 : decode cX1_mended 4 = .ok (.ireturn, 1) := by decide +kernel
abbrev cX1_orders : ByteArray := prog_1_method_37_code
def yX1_orders : MethodName := ⟨RX1, "orders", "()I"⟩
def dkwX1_orders_1 : List UInt8 := [182, 0, 201, 42, 3, 3, 4, 182, 1, 125, 172]
abbrev dktX1_orders_1 : List UInt8 := dkwX1_orders_1 ++ []
def dkwX1_orders_0 : List UInt8 := [42, 16, 7, 182, 1, 105, 154, 0, 5, 2, 172, 42, 180, 0, 89, 42, 180, 0, 85, 180, 0, 220]
abbrev dktX1_orders_0 : List UInt8 := dkwX1_orders_0 ++ dktX1_orders_1
theorem dksX1_orders_0 : cX1_orders.data.toList.drop 0 = dktX1_orders_0 := by decide +kernel
theorem dksX1_orders_1 : cX1_orders.data.toList.drop 22 = dktX1_orders_1 := dk_seg dksX1_orders_0 22 rfl rfl
theorem dX1_orders_0 : decode cX1_orders 0 = .ok (.aload_n 0, 1) := dk_42 (dk_at dksX1_orders_0 0 rfl rfl)
theorem dX1_orders_1 : decode cX1_orders 1 = .ok (.bipush 7, 2) := dk_16 7 (dk_at dksX1_orders_0 1 rfl rfl)
theorem dX1_orders_3 : decode cX1_orders 3 = .ok (.invokevirtual 361, 3) := dk_182 1 105 (dk_at dksX1_orders_0 3 rfl rfl)
theorem dX1_orders_6 : decode cX1_orders 6 = .ok (.ifCond .ne 5, 3) := dk_154 0 5 (dk_at dksX1_orders_0 6 rfl rfl)
theorem dX1_orders_9 : decode cX1_orders 9 = .ok (.iconst (-1), 1) := dk_2 (dk_at dksX1_orders_0 9 rfl rfl)
theorem dX1_orders_10 : decode cX1_orders 10 = .ok (.ireturn, 1) := dk_172 (dk_at dksX1_orders_0 10 rfl rfl)
theorem dX1_orders_11 : decode cX1_orders 11 = .ok (.aload_n 0, 1) := dk_42 (dk_at dksX1_orders_0 11 rfl rfl)
theorem dX1_orders_12 : decode cX1_orders 12 = .ok (.getfield 89, 3) := dk_180 0 89 (dk_at dksX1_orders_0 12 rfl rfl)
theorem dX1_orders_15 : decode cX1_orders 15 = .ok (.aload_n 0, 1) := dk_42 (dk_at dksX1_orders_0 15 rfl rfl)
theorem dX1_orders_16 : decode cX1_orders 16 = .ok (.getfield 85, 3) := dk_180 0 85 (dk_at dksX1_orders_0 16 rfl rfl)
theorem dX1_orders_19 : decode cX1_orders 19 = .ok (.getfield 220, 3) := dk_180 0 220 (dk_at dksX1_orders_0 19 rfl rfl)
theorem dX1_orders_22 : decode cX1_orders 22 = .ok (.invokevirtual 201, 3) := dk_182 0 201 (dk_at dksX1_orders_1 0 rfl rfl)
theorem dX1_orders_25 : decode cX1_orders 25 = .ok (.aload_n 0, 1) := dk_42 (dk_at dksX1_orders_1 3 rfl rfl)
theorem dX1_orders_26 : decode cX1_orders 26 = .ok (.iconst 0, 1) := dk_3 (dk_at dksX1_orders_1 4 rfl rfl)
theorem dX1_orders_27 : decode cX1_orders 27 = .ok (.iconst 0, 1) := dk_3 (dk_at dksX1_orders_1 5 rfl rfl)
theorem dX1_orders_28 : decode cX1_orders 28 = .ok (.iconst 1, 1) := dk_4 (dk_at dksX1_orders_1 6 rfl rfl)
theorem dX1_orders_29 : decode cX1_orders 29 = .ok (.invokevirtual 381, 3) := dk_182 1 125 (dk_at dksX1_orders_1 7 rfl rfl)
theorem dX1_orders_32 : decode cX1_orders 32 = .ok (.ireturn, 1) := dk_172 (dk_at dksX1_orders_1 10 rfl rfl)
abbrev cX1_ordersFrom : ByteArray := prog_1_method_36_code
def yX1_ordersFrom : MethodName := ⟨RX1, "ordersFrom", "(IIZ)I"⟩
def dkwX1_ordersFrom_6 : List UInt8 := [182, 1, 14, 132, 5, 1, 167, 255, 152, 21, 4, 172]
abbrev dktX1_ordersFrom_6 : List UInt8 := dkwX1_ordersFrom_6 ++ []
def dkwX1_ordersFrom_5 : List UInt8 := [153, 0, 12, 21, 4, 154, 0, 7, 4, 167, 0, 4, 3, 182, 1, 125, 96, 54, 4, 42, 180, 0, 89]
abbrev dktX1_ordersFrom_5 : List UInt8 := dkwX1_ordersFrom_5 ++ dktX1_ordersFrom_6
def dkwX1_ordersFrom_4 : List UInt8 := [167, 0, 50, 42, 180, 0, 145, 27, 21, 5, 79, 21, 4, 42, 27, 4, 96, 28, 4, 21, 5, 120, 128, 29]
abbrev dktX1_ordersFrom_4 : List UInt8 := dkwX1_ordersFrom_4 ++ dktX1_ordersFrom_5
def dkwX1_ordersFrom_3 : List UInt8 := [180, 1, 58, 21, 5, 46, 42, 180, 0, 98, 180, 1, 62, 21, 5, 46, 182, 1, 4, 158, 0, 6]
abbrev dktX1_ordersFrom_3 : List UInt8 := dkwX1_ordersFrom_3 ++ dktX1_ordersFrom_4
def dkwX1_ordersFrom_2 : List UInt8 := [180, 0, 205, 162, 0, 98, 28, 21, 5, 184, 1, 101, 154, 0, 83, 42, 180, 0, 89, 42, 180, 0, 98]
abbrev dktX1_ordersFrom_2 : List UInt8 := dkwX1_ordersFrom_2 ++ dktX1_ordersFrom_3
def dkwX1_ordersFrom_1 : List UInt8 := [3, 27, 184, 1, 116, 42, 27, 181, 1, 122, 4, 172, 3, 54, 4, 3, 54, 5, 21, 5, 42, 180, 0, 98]
abbrev dktX1_ordersFrom_1 : List UInt8 := dkwX1_ordersFrom_1 ++ dktX1_ordersFrom_2
def dkwX1_ordersFrom_0 : List UInt8 := [27, 42, 180, 0, 98, 180, 0, 205, 160, 0, 28, 29, 153, 0, 22, 42, 180, 0, 145, 3, 42, 180, 0, 148]
abbrev dktX1_ordersFrom_0 : List UInt8 := dkwX1_ordersFrom_0 ++ dktX1_ordersFrom_1
theorem dksX1_ordersFrom_0 : cX1_ordersFrom.data.toList.drop 0 = dktX1_ordersFrom_0 := by decide +kernel
theorem dksX1_ordersFrom_1 : cX1_ordersFrom.data.toList.drop 24 = dktX1_ordersFrom_1 := dk_seg dksX1_ordersFrom_0 24 rfl rfl
theorem dksX1_ordersFrom_2 : cX1_ordersFrom.data.toList.drop 48 = dktX1_ordersFrom_2 := dk_seg dksX1_ordersFrom_1 24 rfl rfl
theorem dksX1_ordersFrom_3 : cX1_ordersFrom.data.toList.drop 71 = dktX1_ordersFrom_3 := dk_seg dksX1_ordersFrom_2 23 rfl rfl
theorem dksX1_ordersFrom_4 : cX1_ordersFrom.data.toList.drop 93 = dktX1_ordersFrom_4 := dk_seg dksX1_ordersFrom_3 22 rfl rfl
theorem dksX1_ordersFrom_5 : cX1_ordersFrom.data.toList.drop 117 = dktX1_ordersFrom_5 := dk_seg dksX1_ordersFrom_4 24 rfl rfl
theorem dksX1_ordersFrom_6 : cX1_ordersFrom.data.toList.drop 140 = dktX1_ordersFrom_6 := dk_seg dksX1_ordersFrom_5 23 rfl rfl
theorem dX1_ordersFrom_0 : decode cX1_ordersFrom 0 = .ok (.iload_n 1, 1) := dk_27 (dk_at dksX1_ordersFrom_0 0 rfl rfl)
theorem dX1_ordersFrom_1 : decode cX1_ordersFrom 1 = .ok (.aload_n 0, 1) := dk_42 (dk_at dksX1_ordersFrom_0 1 rfl rfl)
theorem dX1_ordersFrom_2 : decode cX1_ordersFrom 2 = .ok (.getfield 98, 3) := dk_180 0 98 (dk_at dksX1_ordersFrom_0 2 rfl rfl)
theorem dX1_ordersFrom_5 : decode cX1_ordersFrom 5 = .ok (.getfield 205, 3) := dk_180 0 205 (dk_at dksX1_ordersFrom_0 5 rfl rfl)
theorem dX1_ordersFrom_8 : decode cX1_ordersFrom 8 = .ok (.if_icmp .ne 28, 3) := dk_160 0 28 (dk_at dksX1_ordersFrom_0 8 rfl rfl)
theorem dX1_ordersFrom_11 : decode cX1_ordersFrom 11 = .ok (.iload_n 3, 1) := dk_29 (dk_at dksX1_ordersFrom_0 11 rfl rfl)
theorem dX1_ordersFrom_12 : decode cX1_ordersFrom 12 = .ok (.ifCond .eq 22, 3) := dk_153 0 22 (dk_at dksX1_ordersFrom_0 12 rfl rfl)
theorem dX1_ordersFrom_15 : decode cX1_ordersFrom 15 = .ok (.aload_n 0, 1) := dk_42 (dk_at dksX1_ordersFrom_0 15 rfl rfl)
theorem dX1_ordersFrom_16 : decode cX1_ordersFrom 16 = .ok (.getfield 145, 3) := dk_180 0 145 (dk_at dksX1_ordersFrom_0 16 rfl rfl)
theorem dX1_ordersFrom_19 : decode cX1_ordersFrom 19 = .ok (.iconst 0, 1) := dk_3 (dk_at dksX1_ordersFrom_0 19 rfl rfl)
theorem dX1_ordersFrom_20 : decode cX1_ordersFrom 20 = .ok (.aload_n 0, 1) := dk_42 (dk_at dksX1_ordersFrom_0 20 rfl rfl)
theorem dX1_ordersFrom_21 : decode cX1_ordersFrom 21 = .ok (.getfield 148, 3) := dk_180 0 148 (dk_at dksX1_ordersFrom_0 21 rfl rfl)
theorem dX1_ordersFrom_24 : decode cX1_ordersFrom 24 = .ok (.iconst 0, 1) := dk_3 (dk_at dksX1_ordersFrom_1 0 rfl rfl)
theorem dX1_ordersFrom_25 : decode cX1_ordersFrom 25 = .ok (.iload_n 1, 1) := dk_27 (dk_at dksX1_ordersFrom_1 1 rfl rfl)
theorem dX1_ordersFrom_26 : decode cX1_ordersFrom 26 = .ok (.invokestatic 372, 3) := dk_184 1 116 (dk_at dksX1_ordersFrom_1 2 rfl rfl)
theorem dX1_ordersFrom_29 : decode cX1_ordersFrom 29 = .ok (.aload_n 0, 1) := dk_42 (dk_at dksX1_ordersFrom_1 5 rfl rfl)
theorem dX1_ordersFrom_30 : decode cX1_ordersFrom 30 = .ok (.iload_n 1, 1) := dk_27 (dk_at dksX1_ordersFrom_1 6 rfl rfl)
theorem dX1_ordersFrom_31 : decode cX1_ordersFrom 31 = .ok (.putfield 378, 3) := dk_181 1 122 (dk_at dksX1_ordersFrom_1 7 rfl rfl)
theorem dX1_ordersFrom_34 : decode cX1_ordersFrom 34 = .ok (.iconst 1, 1) := dk_4 (dk_at dksX1_ordersFrom_1 10 rfl rfl)
theorem dX1_ordersFrom_35 : decode cX1_ordersFrom 35 = .ok (.ireturn, 1) := dk_172 (dk_at dksX1_ordersFrom_1 11 rfl rfl)
theorem dX1_ordersFrom_36 : decode cX1_ordersFrom 36 = .ok (.iconst 0, 1) := dk_3 (dk_at dksX1_ordersFrom_1 12 rfl rfl)
theorem dX1_ordersFrom_37 : decode cX1_ordersFrom 37 = .ok (.istore 4, 2) := dk_54 4 (dk_at dksX1_ordersFrom_1 13 rfl rfl)
theorem dX1_ordersFrom_39 : decode cX1_ordersFrom 39 = .ok (.iconst 0, 1) := dk_3 (dk_at dksX1_ordersFrom_1 15 rfl rfl)
theorem dX1_ordersFrom_40 : decode cX1_ordersFrom 40 = .ok (.istore 5, 2) := dk_54 5 (dk_at dksX1_ordersFrom_1 16 rfl rfl)
theorem dX1_ordersFrom_42 : decode cX1_ordersFrom 42 = .ok (.iload 5, 2) := dk_21 5 (dk_at dksX1_ordersFrom_1 18 rfl rfl)
theorem dX1_ordersFrom_44 : decode cX1_ordersFrom 44 = .ok (.aload_n 0, 1) := dk_42 (dk_at dksX1_ordersFrom_1 20 rfl rfl)
theorem dX1_ordersFrom_45 : decode cX1_ordersFrom 45 = .ok (.getfield 98, 3) := dk_180 0 98 (dk_at dksX1_ordersFrom_1 21 rfl rfl)
theorem dX1_ordersFrom_48 : decode cX1_ordersFrom 48 = .ok (.getfield 205, 3) := dk_180 0 205 (dk_at dksX1_ordersFrom_2 0 rfl rfl)
theorem dX1_ordersFrom_51 : decode cX1_ordersFrom 51 = .ok (.if_icmp .ge 98, 3) := dk_162 0 98 (dk_at dksX1_ordersFrom_2 3 rfl rfl)
theorem dX1_ordersFrom_54 : decode cX1_ordersFrom 54 = .ok (.iload_n 2, 1) := dk_28 (dk_at dksX1_ordersFrom_2 6 rfl rfl)
theorem dX1_ordersFrom_55 : decode cX1_ordersFrom 55 = .ok (.iload 5, 2) := dk_21 5 (dk_at dksX1_ordersFrom_2 7 rfl rfl)
theorem dX1_ordersFrom_57 : decode cX1_ordersFrom 57 = .ok (.invokestatic 357, 3) := dk_184 1 101 (dk_at dksX1_ordersFrom_2 9 rfl rfl)
theorem dX1_ordersFrom_60 : decode cX1_ordersFrom 60 = .ok (.ifCond .ne 83, 3) := dk_154 0 83 (dk_at dksX1_ordersFrom_2 12 rfl rfl)
theorem dX1_ordersFrom_63 : decode cX1_ordersFrom 63 = .ok (.aload_n 0, 1) := dk_42 (dk_at dksX1_ordersFrom_2 15 rfl rfl)
theorem dX1_ordersFrom_64 : decode cX1_ordersFrom 64 = .ok (.getfield 89, 3) := dk_180 0 89 (dk_at dksX1_ordersFrom_2 16 rfl rfl)
theorem dX1_ordersFrom_67 : decode cX1_ordersFrom 67 = .ok (.aload_n 0, 1) := dk_42 (dk_at dksX1_ordersFrom_2 19 rfl rfl)
theorem dX1_ordersFrom_68 : decode cX1_ordersFrom 68 = .ok (.getfield 98, 3) := dk_180 0 98 (dk_at dksX1_ordersFrom_2 20 rfl rfl)
theorem dX1_ordersFrom_71 : decode cX1_ordersFrom 71 = .ok (.getfield 314, 3) := dk_180 1 58 (dk_at dksX1_ordersFrom_3 0 rfl rfl)
theorem dX1_ordersFrom_74 : decode cX1_ordersFrom 74 = .ok (.iload 5, 2) := dk_21 5 (dk_at dksX1_ordersFrom_3 3 rfl rfl)
theorem dX1_ordersFrom_76 : decode cX1_ordersFrom 76 = .ok (.iaload, 1) := dk_46 (dk_at dksX1_ordersFrom_3 5 rfl rfl)
theorem dX1_ordersFrom_77 : decode cX1_ordersFrom 77 = .ok (.aload_n 0, 1) := dk_42 (dk_at dksX1_ordersFrom_3 6 rfl rfl)
theorem dX1_ordersFrom_78 : decode cX1_ordersFrom 78 = .ok (.getfield 98, 3) := dk_180 0 98 (dk_at dksX1_ordersFrom_3 7 rfl rfl)
theorem dX1_ordersFrom_81 : decode cX1_ordersFrom 81 = .ok (.getfield 318, 3) := dk_180 1 62 (dk_at dksX1_ordersFrom_3 10 rfl rfl)
theorem dX1_ordersFrom_84 : decode cX1_ordersFrom 84 = .ok (.iload 5, 2) := dk_21 5 (dk_at dksX1_ordersFrom_3 13 rfl rfl)
theorem dX1_ordersFrom_86 : decode cX1_ordersFrom 86 = .ok (.iaload, 1) := dk_46 (dk_at dksX1_ordersFrom_3 15 rfl rfl)
theorem dX1_ordersFrom_87 : decode cX1_ordersFrom 87 = .ok (.invokevirtual 260, 3) := dk_182 1 4 (dk_at dksX1_ordersFrom_3 16 rfl rfl)
theorem dX1_ordersFrom_90 : decode cX1_ordersFrom 90 = .ok (.ifCond .le 6, 3) := dk_158 0 6 (dk_at dksX1_ordersFrom_3 19 rfl rfl)
theorem dX1_ordersFrom_93 : decode cX1_ordersFrom 93 = .ok (.goto 50, 3) := dk_167 0 50 (dk_at dksX1_ordersFrom_4 0 rfl rfl)
theorem dX1_ordersFrom_96 : decode cX1_ordersFrom 96 = .ok (.aload_n 0, 1) := dk_42 (dk_at dksX1_ordersFrom_4 3 rfl rfl)
theorem dX1_ordersFrom_97 : decode cX1_ordersFrom 97 = .ok (.getfield 145, 3) := dk_180 0 145 (dk_at dksX1_ordersFrom_4 4 rfl rfl)
theorem dX1_ordersFrom_100 : decode cX1_ordersFrom 100 = .ok (.iload_n 1, 1) := dk_27 (dk_at dksX1_ordersFrom_4 7 rfl rfl)
theorem dX1_ordersFrom_101 : decode cX1_ordersFrom 101 = .ok (.iload 5, 2) := dk_21 5 (dk_at dksX1_ordersFrom_4 8 rfl rfl)
theorem dX1_ordersFrom_103 : decode cX1_ordersFrom 103 = .ok (.iastore, 1) := dk_79 (dk_at dksX1_ordersFrom_4 10 rfl rfl)
theorem dX1_ordersFrom_104 : decode cX1_ordersFrom 104 = .ok (.iload 4, 2) := dk_21 4 (dk_at dksX1_ordersFrom_4 11 rfl rfl)
theorem dX1_ordersFrom_106 : decode cX1_ordersFrom 106 = .ok (.aload_n 0, 1) := dk_42 (dk_at dksX1_ordersFrom_4 13 rfl rfl)
theorem dX1_ordersFrom_107 : decode cX1_ordersFrom 107 = .ok (.iload_n 1, 1) := dk_27 (dk_at dksX1_ordersFrom_4 14 rfl rfl)
theorem dX1_ordersFrom_108 : decode cX1_ordersFrom 108 = .ok (.iconst 1, 1) := dk_4 (dk_at dksX1_ordersFrom_4 15 rfl rfl)
theorem dX1_ordersFrom_109 : decode cX1_ordersFrom 109 = .ok (.iadd, 1) := dk_96 (dk_at dksX1_ordersFrom_4 16 rfl rfl)
theorem dX1_ordersFrom_110 : decode cX1_ordersFrom 110 = .ok (.iload_n 2, 1) := dk_28 (dk_at dksX1_ordersFrom_4 17 rfl rfl)
theorem dX1_ordersFrom_111 : decode cX1_ordersFrom 111 = .ok (.iconst 1, 1) := dk_4 (dk_at dksX1_ordersFrom_4 18 rfl rfl)
theorem dX1_ordersFrom_112 : decode cX1_ordersFrom 112 = .ok (.iload 5, 2) := dk_21 5 (dk_at dksX1_ordersFrom_4 19 rfl rfl)
theorem dX1_ordersFrom_114 : decode cX1_ordersFrom 114 = .ok (.ishl, 1) := dk_120 (dk_at dksX1_ordersFrom_4 21 rfl rfl)
theorem dX1_ordersFrom_115 : decode cX1_ordersFrom 115 = .ok (.ior, 1) := dk_128 (dk_at dksX1_ordersFrom_4 22 rfl rfl)
theorem dX1_ordersFrom_116 : decode cX1_ordersFrom 116 = .ok (.iload_n 3, 1) := dk_29 (dk_at dksX1_ordersFrom_4 23 rfl rfl)
theorem dX1_ordersFrom_117 : decode cX1_ordersFrom 117 = .ok (.ifCond .eq 12, 3) := dk_153 0 12 (dk_at dksX1_ordersFrom_5 0 rfl rfl)
theorem dX1_ordersFrom_120 : decode cX1_ordersFrom 120 = .ok (.iload 4, 2) := dk_21 4 (dk_at dksX1_ordersFrom_5 3 rfl rfl)
theorem dX1_ordersFrom_122 : decode cX1_ordersFrom 122 = .ok (.ifCond .ne 7, 3) := dk_154 0 7 (dk_at dksX1_ordersFrom_5 5 rfl rfl)
theorem dX1_ordersFrom_125 : decode cX1_ordersFrom 125 = .ok (.iconst 1, 1) := dk_4 (dk_at dksX1_ordersFrom_5 8 rfl rfl)
theorem dX1_ordersFrom_126 : decode cX1_ordersFrom 126 = .ok (.goto 4, 3) := dk_167 0 4 (dk_at dksX1_ordersFrom_5 9 rfl rfl)
theorem dX1_ordersFrom_129 : decode cX1_ordersFrom 129 = .ok (.iconst 0, 1) := dk_3 (dk_at dksX1_ordersFrom_5 12 rfl rfl)
theorem dX1_ordersFrom_130 : decode cX1_ordersFrom 130 = .ok (.invokevirtual 381, 3) := dk_182 1 125 (dk_at dksX1_ordersFrom_5 13 rfl rfl)
theorem dX1_ordersFrom_133 : decode cX1_ordersFrom 133 = .ok (.iadd, 1) := dk_96 (dk_at dksX1_ordersFrom_5 16 rfl rfl)
theorem dX1_ordersFrom_134 : decode cX1_ordersFrom 134 = .ok (.istore 4, 2) := dk_54 4 (dk_at dksX1_ordersFrom_5 17 rfl rfl)
theorem dX1_ordersFrom_136 : decode cX1_ordersFrom 136 = .ok (.aload_n 0, 1) := dk_42 (dk_at dksX1_ordersFrom_5 19 rfl rfl)
theorem dX1_ordersFrom_137 : decode cX1_ordersFrom 137 = .ok (.getfield 89, 3) := dk_180 0 89 (dk_at dksX1_ordersFrom_5 20 rfl rfl)
theorem dX1_ordersFrom_140 : decode cX1_ordersFrom 140 = .ok (.invokevirtual 270, 3) := dk_182 1 14 (dk_at dksX1_ordersFrom_6 0 rfl rfl)
theorem dX1_ordersFrom_143 : decode cX1_ordersFrom 143 = .ok (.iinc 5 1, 3) := dk_132 5 1 (dk_at dksX1_ordersFrom_6 3 rfl rfl)
theorem dX1_ordersFrom_146 : decode cX1_ordersFrom 146 = .ok (.goto (-104), 3) := dk_167 255 152 (dk_at dksX1_ordersFrom_6 6 rfl rfl)
theorem dX1_ordersFrom_149 : decode cX1_ordersFrom 149 = .ok (.iload 4, 2) := dk_21 4 (dk_at dksX1_ordersFrom_6 9 rfl rfl)
theorem dX1_ordersFrom_151 : decode cX1_ordersFrom 151 = .ok (.ireturn, 1) := dk_172 (dk_at dksX1_ordersFrom_6 11 rfl rfl)
abbrev cX1_orderAt : ByteArray := prog_1_method_38_code
def yX1_orderAt : MethodName := ⟨RX1, "orderAt", "(I)I"⟩
def dkwX1_orderAt_1 : List UInt8 := [172]
abbrev dktX1_orderAt_1 : List UInt8 := dkwX1_orderAt_1 ++ []
def dkwX1_orderAt_0 : List UInt8 := [27, 3, 42, 180, 1, 122, 4, 100, 184, 0, 236, 153, 0, 12, 42, 180, 0, 148, 27, 46, 167, 0, 4, 2]
abbrev dktX1_orderAt_0 : List UInt8 := dkwX1_orderAt_0 ++ dktX1_orderAt_1
theorem dksX1_orderAt_0 : cX1_orderAt.data.toList.drop 0 = dktX1_orderAt_0 := by decide +kernel
theorem dksX1_orderAt_1 : cX1_orderAt.data.toList.drop 24 = dktX1_orderAt_1 := dk_seg dksX1_orderAt_0 24 rfl rfl
theorem dX1_orderAt_0 : decode cX1_orderAt 0 = .ok (.iload_n 1, 1) := dk_27 (dk_at dksX1_orderAt_0 0 rfl rfl)
theorem dX1_orderAt_1 : decode cX1_orderAt 1 = .ok (.iconst 0, 1) := dk_3 (dk_at dksX1_orderAt_0 1 rfl rfl)
theorem dX1_orderAt_2 : decode cX1_orderAt 2 = .ok (.aload_n 0, 1) := dk_42 (dk_at dksX1_orderAt_0 2 rfl rfl)
theorem dX1_orderAt_3 : decode cX1_orderAt 3 = .ok (.getfield 378, 3) := dk_180 1 122 (dk_at dksX1_orderAt_0 3 rfl rfl)
theorem dX1_orderAt_6 : decode cX1_orderAt 6 = .ok (.iconst 1, 1) := dk_4 (dk_at dksX1_orderAt_0 6 rfl rfl)
theorem dX1_orderAt_7 : decode cX1_orderAt 7 = .ok (.isub, 1) := dk_100 (dk_at dksX1_orderAt_0 7 rfl rfl)
theorem dX1_orderAt_8 : decode cX1_orderAt 8 = .ok (.invokestatic 236, 3) := dk_184 0 236 (dk_at dksX1_orderAt_0 8 rfl rfl)
theorem dX1_orderAt_11 : decode cX1_orderAt 11 = .ok (.ifCond .eq 12, 3) := dk_153 0 12 (dk_at dksX1_orderAt_0 11 rfl rfl)
theorem dX1_orderAt_14 : decode cX1_orderAt 14 = .ok (.aload_n 0, 1) := dk_42 (dk_at dksX1_orderAt_0 14 rfl rfl)
theorem dX1_orderAt_15 : decode cX1_orderAt 15 = .ok (.getfield 148, 3) := dk_180 0 148 (dk_at dksX1_orderAt_0 15 rfl rfl)
theorem dX1_orderAt_18 : decode cX1_orderAt 18 = .ok (.iload_n 1, 1) := dk_27 (dk_at dksX1_orderAt_0 18 rfl rfl)
theorem dX1_orderAt_19 : decode cX1_orderAt 19 = .ok (.iaload, 1) := dk_46 (dk_at dksX1_orderAt_0 19 rfl rfl)
theorem dX1_orderAt_20 : decode cX1_orderAt 20 = .ok (.goto 4, 3) := dk_167 0 4 (dk_at dksX1_orderAt_0 20 rfl rfl)
theorem dX1_orderAt_23 : decode cX1_orderAt 23 = .ok (.iconst (-1), 1) := dk_2 (dk_at dksX1_orderAt_0 23 rfl rfl)
theorem dX1_orderAt_24 : decode cX1_orderAt 24 = .ok (.ireturn, 1) := dk_172 (dk_at dksX1_orderAt_1 0 rfl rfl)
abbrev cX1_drawn : ByteArray := prog_1_method_41_code
def yX1_drawn : MethodName := ⟨RX1, "drawn", "(II)I"⟩
def dkwX1_drawn_3 : List UInt8 := [132, 3, 1, 167, 255, 206, 27, 172]
abbrev dktX1_drawn_3 : List UInt8 := dkwX1_drawn_3 ++ []
def dkwX1_drawn_2 : List UInt8 := [182, 1, 137, 54, 4, 21, 4, 154, 0, 5, 29, 172, 42, 42, 21, 4, 182, 1, 140, 182, 1, 137, 87]
abbrev dktX1_drawn_2 : List UInt8 := dkwX1_drawn_2 ++ dktX1_drawn_3
def dkwX1_drawn_1 : List UInt8 := [162, 0, 51, 42, 180, 0, 85, 180, 1, 3, 17, 1, 144, 160, 0, 7, 3, 167, 0, 8, 42, 2]
abbrev dktX1_drawn_1 : List UInt8 := dkwX1_drawn_1 ++ dktX1_drawn_2
def dkwX1_drawn_0 : List UInt8 := [27, 4, 17, 1, 144, 184, 0, 236, 154, 0, 5, 2, 172, 42, 28, 181, 1, 129, 3, 62, 29, 27]
abbrev dktX1_drawn_0 : List UInt8 := dkwX1_drawn_0 ++ dktX1_drawn_1
theorem dksX1_drawn_0 : cX1_drawn.data.toList.drop 0 = dktX1_drawn_0 := by decide +kernel
theorem dksX1_drawn_1 : cX1_drawn.data.toList.drop 22 = dktX1_drawn_1 := dk_seg dksX1_drawn_0 22 rfl rfl
theorem dksX1_drawn_2 : cX1_drawn.data.toList.drop 44 = dktX1_drawn_2 := dk_seg dksX1_drawn_1 22 rfl rfl
theorem dksX1_drawn_3 : cX1_drawn.data.toList.drop 67 = dktX1_drawn_3 := dk_seg dksX1_drawn_2 23 rfl rfl
theorem dX1_drawn_0 : decode cX1_drawn 0 = .ok (.iload_n 1, 1) := dk_27 (dk_at dksX1_drawn_0 0 rfl rfl)
theorem dX1_drawn_1 : decode cX1_drawn 1 = .ok (.iconst 1, 1) := dk_4 (dk_at dksX1_drawn_0 1 rfl rfl)
theorem dX1_drawn_2 : decode cX1_drawn 2 = .ok (.sipush 400, 3) := dk_17 1 144 (dk_at dksX1_drawn_0 2 rfl rfl)
theorem dX1_drawn_5 : decode cX1_drawn 5 = .ok (.invokestatic 236, 3) := dk_184 0 236 (dk_at dksX1_drawn_0 5 rfl rfl)
theorem dX1_drawn_8 : decode cX1_drawn 8 = .ok (.ifCond .ne 5, 3) := dk_154 0 5 (dk_at dksX1_drawn_0 8 rfl rfl)
theorem dX1_drawn_11 : decode cX1_drawn 11 = .ok (.iconst (-1), 1) := dk_2 (dk_at dksX1_drawn_0 11 rfl rfl)
theorem dX1_drawn_12 : decode cX1_drawn 12 = .ok (.ireturn, 1) := dk_172 (dk_at dksX1_drawn_0 12 rfl rfl)
theorem dX1_drawn_13 : decode cX1_drawn 13 = .ok (.aload_n 0, 1) := dk_42 (dk_at dksX1_drawn_0 13 rfl rfl)
theorem dX1_drawn_14 : decode cX1_drawn 14 = .ok (.iload_n 2, 1) := dk_28 (dk_at dksX1_drawn_0 14 rfl rfl)
theorem dX1_drawn_15 : decode cX1_drawn 15 = .ok (.putfield 385, 3) := dk_181 1 129 (dk_at dksX1_drawn_0 15 rfl rfl)
theorem dX1_drawn_18 : decode cX1_drawn 18 = .ok (.iconst 0, 1) := dk_3 (dk_at dksX1_drawn_0 18 rfl rfl)
theorem dX1_drawn_19 : decode cX1_drawn 19 = .ok (.istore_n 3, 1) := dk_62 (dk_at dksX1_drawn_0 19 rfl rfl)
theorem dX1_drawn_20 : decode cX1_drawn 20 = .ok (.iload_n 3, 1) := dk_29 (dk_at dksX1_drawn_0 20 rfl rfl)
theorem dX1_drawn_21 : decode cX1_drawn 21 = .ok (.iload_n 1, 1) := dk_27 (dk_at dksX1_drawn_0 21 rfl rfl)
theorem dX1_drawn_22 : decode cX1_drawn 22 = .ok (.if_icmp .ge 51, 3) := dk_162 0 51 (dk_at dksX1_drawn_1 0 rfl rfl)
theorem dX1_drawn_25 : decode cX1_drawn 25 = .ok (.aload_n 0, 1) := dk_42 (dk_at dksX1_drawn_1 3 rfl rfl)
theorem dX1_drawn_26 : decode cX1_drawn 26 = .ok (.getfield 85, 3) := dk_180 0 85 (dk_at dksX1_drawn_1 4 rfl rfl)
theorem dX1_drawn_29 : decode cX1_drawn 29 = .ok (.getfield 259, 3) := dk_180 1 3 (dk_at dksX1_drawn_1 7 rfl rfl)
theorem dX1_drawn_32 : decode cX1_drawn 32 = .ok (.sipush 400, 3) := dk_17 1 144 (dk_at dksX1_drawn_1 10 rfl rfl)
theorem dX1_drawn_35 : decode cX1_drawn 35 = .ok (.if_icmp .ne 7, 3) := dk_160 0 7 (dk_at dksX1_drawn_1 13 rfl rfl)
theorem dX1_drawn_38 : decode cX1_drawn 38 = .ok (.iconst 0, 1) := dk_3 (dk_at dksX1_drawn_1 16 rfl rfl)
theorem dX1_drawn_39 : decode cX1_drawn 39 = .ok (.goto 8, 3) := dk_167 0 8 (dk_at dksX1_drawn_1 17 rfl rfl)
theorem dX1_drawn_42 : decode cX1_drawn 42 = .ok (.aload_n 0, 1) := dk_42 (dk_at dksX1_drawn_1 20 rfl rfl)
theorem dX1_drawn_43 : decode cX1_drawn 43 = .ok (.iconst (-1), 1) := dk_2 (dk_at dksX1_drawn_1 21 rfl rfl)
theorem dX1_drawn_44 : decode cX1_drawn 44 = .ok (.invokevirtual 393, 3) := dk_182 1 137 (dk_at dksX1_drawn_2 0 rfl rfl)
theorem dX1_drawn_47 : decode cX1_drawn 47 = .ok (.istore 4, 2) := dk_54 4 (dk_at dksX1_drawn_2 3 rfl rfl)
theorem dX1_drawn_49 : decode cX1_drawn 49 = .ok (.iload 4, 2) := dk_21 4 (dk_at dksX1_drawn_2 5 rfl rfl)
theorem dX1_drawn_51 : decode cX1_drawn 51 = .ok (.ifCond .ne 5, 3) := dk_154 0 5 (dk_at dksX1_drawn_2 7 rfl rfl)
theorem dX1_drawn_54 : decode cX1_drawn 54 = .ok (.iload_n 3, 1) := dk_29 (dk_at dksX1_drawn_2 10 rfl rfl)
theorem dX1_drawn_55 : decode cX1_drawn 55 = .ok (.ireturn, 1) := dk_172 (dk_at dksX1_drawn_2 11 rfl rfl)
theorem dX1_drawn_56 : decode cX1_drawn 56 = .ok (.aload_n 0, 1) := dk_42 (dk_at dksX1_drawn_2 12 rfl rfl)
theorem dX1_drawn_57 : decode cX1_drawn 57 = .ok (.aload_n 0, 1) := dk_42 (dk_at dksX1_drawn_2 13 rfl rfl)
theorem dX1_drawn_58 : decode cX1_drawn 58 = .ok (.iload 4, 2) := dk_21 4 (dk_at dksX1_drawn_2 14 rfl rfl)
theorem dX1_drawn_60 : decode cX1_drawn 60 = .ok (.invokevirtual 396, 3) := dk_182 1 140 (dk_at dksX1_drawn_2 16 rfl rfl)
theorem dX1_drawn_63 : decode cX1_drawn 63 = .ok (.invokevirtual 393, 3) := dk_182 1 137 (dk_at dksX1_drawn_2 19 rfl rfl)
theorem dX1_drawn_66 : decode cX1_drawn 66 = .ok (.pop, 1) := dk_87 (dk_at dksX1_drawn_2 22 rfl rfl)
theorem dX1_drawn_67 : decode cX1_drawn 67 = .ok (.iinc 3 1, 3) := dk_132 3 1 (dk_at dksX1_drawn_3 0 rfl rfl)
theorem dX1_drawn_70 : decode cX1_drawn 70 = .ok (.goto (-50), 3) := dk_167 255 206 (dk_at dksX1_drawn_3 3 rfl rfl)
theorem dX1_drawn_73 : decode cX1_drawn 73 = .ok (.iload_n 1, 1) := dk_27 (dk_at dksX1_drawn_3 6 rfl rfl)
theorem dX1_drawn_74 : decode cX1_drawn 74 = .ok (.ireturn, 1) := dk_172 (dk_at dksX1_drawn_3 7 rfl rfl)
abbrev cX1_choices : ByteArray := prog_1_method_40_code
def yX1_choices : MethodName := ⟨RX1, "choices", "(I)I"⟩
def dkwX1_choices_3 : List UInt8 := [132, 2, 1, 132, 4, 1, 167, 255, 202, 132, 3, 1, 167, 255, 179, 28, 172]
abbrev dktX1_choices_3 : List UInt8 := dkwX1_choices_3 ++ []
def dkwX1_choices_2 : List UInt8 := [158, 0, 6, 167, 0, 23, 28, 27, 160, 0, 15, 42, 180, 0, 85, 29, 21, 4, 182, 1, 133, 28, 172]
abbrev dktX1_choices_2 : List UInt8 := dkwX1_choices_2 ++ dktX1_choices_3
def dkwX1_choices_1 : List UInt8 := [180, 0, 85, 180, 0, 220, 180, 1, 11, 162, 0, 45, 42, 180, 0, 85, 29, 21, 4, 182, 1, 8]
abbrev dktX1_choices_1 : List UInt8 := dkwX1_choices_1 ++ dktX1_choices_2
def dkwX1_choices_0 : List UInt8 := [3, 61, 3, 62, 29, 42, 180, 0, 85, 180, 0, 220, 180, 1, 59, 162, 0, 69, 3, 54, 4, 21, 4, 42]
abbrev dktX1_choices_0 : List UInt8 := dkwX1_choices_0 ++ dktX1_choices_1
theorem dksX1_choices_0 : cX1_choices.data.toList.drop 0 = dktX1_choices_0 := by decide +kernel
theorem dksX1_choices_1 : cX1_choices.data.toList.drop 24 = dktX1_choices_1 := dk_seg dksX1_choices_0 24 rfl rfl
theorem dksX1_choices_2 : cX1_choices.data.toList.drop 46 = dktX1_choices_2 := dk_seg dksX1_choices_1 22 rfl rfl
theorem dksX1_choices_3 : cX1_choices.data.toList.drop 69 = dktX1_choices_3 := dk_seg dksX1_choices_2 23 rfl rfl
theorem dX1_choices_0 : decode cX1_choices 0 = .ok (.iconst 0, 1) := dk_3 (dk_at dksX1_choices_0 0 rfl rfl)
theorem dX1_choices_1 : decode cX1_choices 1 = .ok (.istore_n 2, 1) := dk_61 (dk_at dksX1_choices_0 1 rfl rfl)
theorem dX1_choices_2 : decode cX1_choices 2 = .ok (.iconst 0, 1) := dk_3 (dk_at dksX1_choices_0 2 rfl rfl)
theorem dX1_choices_3 : decode cX1_choices 3 = .ok (.istore_n 3, 1) := dk_62 (dk_at dksX1_choices_0 3 rfl rfl)
theorem dX1_choices_4 : decode cX1_choices 4 = .ok (.iload_n 3, 1) := dk_29 (dk_at dksX1_choices_0 4 rfl rfl)
theorem dX1_choices_5 : decode cX1_choices 5 = .ok (.aload_n 0, 1) := dk_42 (dk_at dksX1_choices_0 5 rfl rfl)
theorem dX1_choices_6 : decode cX1_choices 6 = .ok (.getfield 85, 3) := dk_180 0 85 (dk_at dksX1_choices_0 6 rfl rfl)
theorem dX1_choices_9 : decode cX1_choices 9 = .ok (.getfield 220, 3) := dk_180 0 220 (dk_at dksX1_choices_0 9 rfl rfl)
theorem dX1_choices_12 : decode cX1_choices 12 = .ok (.getfield 315, 3) := dk_180 1 59 (dk_at dksX1_choices_0 12 rfl rfl)
theorem dX1_choices_15 : decode cX1_choices 15 = .ok (.if_icmp .ge 69, 3) := dk_162 0 69 (dk_at dksX1_choices_0 15 rfl rfl)
theorem dX1_choices_18 : decode cX1_choices 18 = .ok (.iconst 0, 1) := dk_3 (dk_at dksX1_choices_0 18 rfl rfl)
theorem dX1_choices_19 : decode cX1_choices 19 = .ok (.istore 4, 2) := dk_54 4 (dk_at dksX1_choices_0 19 rfl rfl)
theorem dX1_choices_21 : decode cX1_choices 21 = .ok (.iload 4, 2) := dk_21 4 (dk_at dksX1_choices_0 21 rfl rfl)
theorem dX1_choices_23 : decode cX1_choices 23 = .ok (.aload_n 0, 1) := dk_42 (dk_at dksX1_choices_0 23 rfl rfl)
theorem dX1_choices_24 : decode cX1_choices 24 = .ok (.getfield 85, 3) := dk_180 0 85 (dk_at dksX1_choices_1 0 rfl rfl)
theorem dX1_choices_27 : decode cX1_choices 27 = .ok (.getfield 220, 3) := dk_180 0 220 (dk_at dksX1_choices_1 3 rfl rfl)
theorem dX1_choices_30 : decode cX1_choices 30 = .ok (.getfield 267, 3) := dk_180 1 11 (dk_at dksX1_choices_1 6 rfl rfl)
theorem dX1_choices_33 : decode cX1_choices 33 = .ok (.if_icmp .ge 45, 3) := dk_162 0 45 (dk_at dksX1_choices_1 9 rfl rfl)
theorem dX1_choices_36 : decode cX1_choices 36 = .ok (.aload_n 0, 1) := dk_42 (dk_at dksX1_choices_1 12 rfl rfl)
theorem dX1_choices_37 : decode cX1_choices 37 = .ok (.getfield 85, 3) := dk_180 0 85 (dk_at dksX1_choices_1 13 rfl rfl)
theorem dX1_choices_40 : decode cX1_choices 40 = .ok (.iload_n 3, 1) := dk_29 (dk_at dksX1_choices_1 16 rfl rfl)
theorem dX1_choices_41 : decode cX1_choices 41 = .ok (.iload 4, 2) := dk_21 4 (dk_at dksX1_choices_1 17 rfl rfl)
theorem dX1_choices_43 : decode cX1_choices 43 = .ok (.invokevirtual 264, 3) := dk_182 1 8 (dk_at dksX1_choices_1 19 rfl rfl)
theorem dX1_choices_46 : decode cX1_choices 46 = .ok (.ifCond .le 6, 3) := dk_158 0 6 (dk_at dksX1_choices_2 0 rfl rfl)
theorem dX1_choices_49 : decode cX1_choices 49 = .ok (.goto 23, 3) := dk_167 0 23 (dk_at dksX1_choices_2 3 rfl rfl)
theorem dX1_choices_52 : decode cX1_choices 52 = .ok (.iload_n 2, 1) := dk_28 (dk_at dksX1_choices_2 6 rfl rfl)
theorem dX1_choices_53 : decode cX1_choices 53 = .ok (.iload_n 1, 1) := dk_27 (dk_at dksX1_choices_2 7 rfl rfl)
theorem dX1_choices_54 : decode cX1_choices 54 = .ok (.if_icmp .ne 15, 3) := dk_160 0 15 (dk_at dksX1_choices_2 8 rfl rfl)
theorem dX1_choices_57 : decode cX1_choices 57 = .ok (.aload_n 0, 1) := dk_42 (dk_at dksX1_choices_2 11 rfl rfl)
theorem dX1_choices_58 : decode cX1_choices 58 = .ok (.getfield 85, 3) := dk_180 0 85 (dk_at dksX1_choices_2 12 rfl rfl)
theorem dX1_choices_61 : decode cX1_choices 61 = .ok (.iload_n 3, 1) := dk_29 (dk_at dksX1_choices_2 15 rfl rfl)
theorem dX1_choices_62 : decode cX1_choices 62 = .ok (.iload 4, 2) := dk_21 4 (dk_at dksX1_choices_2 16 rfl rfl)
theorem dX1_choices_64 : decode cX1_choices 64 = .ok (.invokevirtual 389, 3) := dk_182 1 133 (dk_at dksX1_choices_2 18 rfl rfl)
theorem dX1_choices_67 : decode cX1_choices 67 = .ok (.iload_n 2, 1) := dk_28 (dk_at dksX1_choices_2 21 rfl rfl)
theorem dX1_choices_68 : decode cX1_choices 68 = .ok (.ireturn, 1) := dk_172 (dk_at dksX1_choices_2 22 rfl rfl)
theorem dX1_choices_69 : decode cX1_choices 69 = .ok (.iinc 2 1, 3) := dk_132 2 1 (dk_at dksX1_choices_3 0 rfl rfl)
theorem dX1_choices_72 : decode cX1_choices 72 = .ok (.iinc 4 1, 3) := dk_132 4 1 (dk_at dksX1_choices_3 3 rfl rfl)
theorem dX1_choices_75 : decode cX1_choices 75 = .ok (.goto (-54), 3) := dk_167 255 202 (dk_at dksX1_choices_3 6 rfl rfl)
theorem dX1_choices_78 : decode cX1_choices 78 = .ok (.iinc 3 1, 3) := dk_132 3 1 (dk_at dksX1_choices_3 9 rfl rfl)
theorem dX1_choices_81 : decode cX1_choices 81 = .ok (.goto (-77), 3) := dk_167 255 179 (dk_at dksX1_choices_3 12 rfl rfl)
theorem dX1_choices_84 : decode cX1_choices 84 = .ok (.iload_n 2, 1) := dk_28 (dk_at dksX1_choices_3 15 rfl rfl)
theorem dX1_choices_85 : decode cX1_choices 85 = .ok (.ireturn, 1) := dk_172 (dk_at dksX1_choices_3 16 rfl rfl)
abbrev cX1_draw : ByteArray := prog_1_method_39_code
def yX1_draw : MethodName := ⟨RX1, "draw", "(I)I"⟩
def dkwX1_draw_1 : List UInt8 := [112, 172]
abbrev dktX1_draw_1 : List UInt8 := dkwX1_draw_1 ++ []
def dkwX1_draw_0 : List UInt8 := [42, 42, 180, 1, 129, 19, 1, 132, 104, 17, 48, 57, 96, 181, 1, 129, 42, 180, 1, 129, 16, 8, 124, 27]
abbrev dktX1_draw_0 : List UInt8 := dkwX1_draw_0 ++ dktX1_draw_1
theorem dksX1_draw_0 : cX1_draw.data.toList.drop 0 = dktX1_draw_0 := by decide +kernel
theorem dksX1_draw_1 : cX1_draw.data.toList.drop 24 = dktX1_draw_1 := dk_seg dksX1_draw_0 24 rfl rfl
theorem dX1_draw_0 : decode cX1_draw 0 = .ok (.aload_n 0, 1) := dk_42 (dk_at dksX1_draw_0 0 rfl rfl)
theorem dX1_draw_1 : decode cX1_draw 1 = .ok (.aload_n 0, 1) := dk_42 (dk_at dksX1_draw_0 1 rfl rfl)
theorem dX1_draw_2 : decode cX1_draw 2 = .ok (.getfield 385, 3) := dk_180 1 129 (dk_at dksX1_draw_0 2 rfl rfl)
theorem dX1_draw_5 : decode cX1_draw 5 = .ok (.ldc_w 388, 3) := dk_19 1 132 (dk_at dksX1_draw_0 5 rfl rfl)
theorem dX1_draw_8 : decode cX1_draw 8 = .ok (.imul, 1) := dk_104 (dk_at dksX1_draw_0 8 rfl rfl)
theorem dX1_draw_9 : decode cX1_draw 9 = .ok (.sipush 12345, 3) := dk_17 48 57 (dk_at dksX1_draw_0 9 rfl rfl)
theorem dX1_draw_12 : decode cX1_draw 12 = .ok (.iadd, 1) := dk_96 (dk_at dksX1_draw_0 12 rfl rfl)
theorem dX1_draw_13 : decode cX1_draw 13 = .ok (.putfield 385, 3) := dk_181 1 129 (dk_at dksX1_draw_0 13 rfl rfl)
theorem dX1_draw_16 : decode cX1_draw 16 = .ok (.aload_n 0, 1) := dk_42 (dk_at dksX1_draw_0 16 rfl rfl)
theorem dX1_draw_17 : decode cX1_draw 17 = .ok (.getfield 385, 3) := dk_180 1 129 (dk_at dksX1_draw_0 17 rfl rfl)
theorem dX1_draw_20 : decode cX1_draw 20 = .ok (.bipush 8, 2) := dk_16 8 (dk_at dksX1_draw_0 20 rfl rfl)
theorem dX1_draw_22 : decode cX1_draw 22 = .ok (.iushr, 1) := dk_124 (dk_at dksX1_draw_0 22 rfl rfl)
theorem dX1_draw_23 : decode cX1_draw 23 = .ok (.iload_n 1, 1) := dk_27 (dk_at dksX1_draw_0 23 rfl rfl)
theorem dX1_draw_24 : decode cX1_draw 24 = .ok (.irem, 1) := dk_112 (dk_at dksX1_draw_1 0 rfl rfl)
theorem dX1_draw_25 : decode cX1_draw 25 = .ok (.ireturn, 1) := dk_172 (dk_at dksX1_draw_1 1 rfl rfl)
abbrev cX1_spoke : ByteArray := prog_1_method_42_code
def yX1_spoke : MethodName := ⟨RX1, "spoke", "(II)I"⟩
def dkwX1_spoke_4 : List UInt8 := [167, 0, 4, 3, 96, 62, 132, 4, 1, 167, 255, 195, 29, 172]
abbrev dktX1_spoke_4 : List UInt8 := dkwX1_spoke_4 ++ []
def dkwX1_spoke_3 : List UInt8 := [160, 0, 26, 28, 2, 159, 0, 17, 42, 180, 0, 85, 180, 1, 35, 21, 4, 46, 28, 160, 0, 7, 4]
abbrev dktX1_spoke_3 : List UInt8 := dkwX1_spoke_3 ++ dktX1_spoke_4
def dkwX1_spoke_2 : List UInt8 := [180, 1, 3, 162, 0, 55, 29, 27, 2, 159, 0, 17, 42, 180, 0, 85, 180, 1, 33, 21, 4, 46, 27]
abbrev dktX1_spoke_2 : List UInt8 := dkwX1_spoke_2 ++ dktX1_spoke_3
def dkwX1_spoke_1 : List UInt8 := [180, 0, 85, 28, 182, 0, 233, 154, 0, 5, 2, 172, 3, 62, 3, 54, 4, 21, 4, 42, 180, 0, 85]
abbrev dktX1_spoke_1 : List UInt8 := dkwX1_spoke_1 ++ dktX1_spoke_2
def dkwX1_spoke_0 : List UInt8 := [27, 2, 159, 0, 14, 42, 180, 0, 85, 27, 182, 0, 216, 153, 0, 19, 28, 2, 159, 0, 16, 42]
abbrev dktX1_spoke_0 : List UInt8 := dkwX1_spoke_0 ++ dktX1_spoke_1
theorem dksX1_spoke_0 : cX1_spoke.data.toList.drop 0 = dktX1_spoke_0 := by decide +kernel
theorem dksX1_spoke_1 : cX1_spoke.data.toList.drop 22 = dktX1_spoke_1 := dk_seg dksX1_spoke_0 22 rfl rfl
theorem dksX1_spoke_2 : cX1_spoke.data.toList.drop 45 = dktX1_spoke_2 := dk_seg dksX1_spoke_1 23 rfl rfl
theorem dksX1_spoke_3 : cX1_spoke.data.toList.drop 68 = dktX1_spoke_3 := dk_seg dksX1_spoke_2 23 rfl rfl
theorem dksX1_spoke_4 : cX1_spoke.data.toList.drop 91 = dktX1_spoke_4 := dk_seg dksX1_spoke_3 23 rfl rfl
theorem dX1_spoke_0 : decode cX1_spoke 0 = .ok (.iload_n 1, 1) := dk_27 (dk_at dksX1_spoke_0 0 rfl rfl)
theorem dX1_spoke_1 : decode cX1_spoke 1 = .ok (.iconst (-1), 1) := dk_2 (dk_at dksX1_spoke_0 1 rfl rfl)
theorem dX1_spoke_2 : decode cX1_spoke 2 = .ok (.if_icmp .eq 14, 3) := dk_159 0 14 (dk_at dksX1_spoke_0 2 rfl rfl)
theorem dX1_spoke_5 : decode cX1_spoke 5 = .ok (.aload_n 0, 1) := dk_42 (dk_at dksX1_spoke_0 5 rfl rfl)
theorem dX1_spoke_6 : decode cX1_spoke 6 = .ok (.getfield 85, 3) := dk_180 0 85 (dk_at dksX1_spoke_0 6 rfl rfl)
theorem dX1_spoke_9 : decode cX1_spoke 9 = .ok (.iload_n 1, 1) := dk_27 (dk_at dksX1_spoke_0 9 rfl rfl)
theorem dX1_spoke_10 : decode cX1_spoke 10 = .ok (.invokevirtual 216, 3) := dk_182 0 216 (dk_at dksX1_spoke_0 10 rfl rfl)
theorem dX1_spoke_13 : decode cX1_spoke 13 = .ok (.ifCond .eq 19, 3) := dk_153 0 19 (dk_at dksX1_spoke_0 13 rfl rfl)
theorem dX1_spoke_16 : decode cX1_spoke 16 = .ok (.iload_n 2, 1) := dk_28 (dk_at dksX1_spoke_0 16 rfl rfl)
theorem dX1_spoke_17 : decode cX1_spoke 17 = .ok (.iconst (-1), 1) := dk_2 (dk_at dksX1_spoke_0 17 rfl rfl)
theorem dX1_spoke_18 : decode cX1_spoke 18 = .ok (.if_icmp .eq 16, 3) := dk_159 0 16 (dk_at dksX1_spoke_0 18 rfl rfl)
theorem dX1_spoke_21 : decode cX1_spoke 21 = .ok (.aload_n 0, 1) := dk_42 (dk_at dksX1_spoke_0 21 rfl rfl)
theorem dX1_spoke_22 : decode cX1_spoke 22 = .ok (.getfield 85, 3) := dk_180 0 85 (dk_at dksX1_spoke_1 0 rfl rfl)
theorem dX1_spoke_25 : decode cX1_spoke 25 = .ok (.iload_n 2, 1) := dk_28 (dk_at dksX1_spoke_1 3 rfl rfl)
theorem dX1_spoke_26 : decode cX1_spoke 26 = .ok (.invokevirtual 233, 3) := dk_182 0 233 (dk_at dksX1_spoke_1 4 rfl rfl)
theorem dX1_spoke_29 : decode cX1_spoke 29 = .ok (.ifCond .ne 5, 3) := dk_154 0 5 (dk_at dksX1_spoke_1 7 rfl rfl)
theorem dX1_spoke_32 : decode cX1_spoke 32 = .ok (.iconst (-1), 1) := dk_2 (dk_at dksX1_spoke_1 10 rfl rfl)
theorem dX1_spoke_33 : decode cX1_spoke 33 = .ok (.ireturn, 1) := dk_172 (dk_at dksX1_spoke_1 11 rfl rfl)
theorem dX1_spoke_34 : decode cX1_spoke 34 = .ok (.iconst 0, 1) := dk_3 (dk_at dksX1_spoke_1 12 rfl rfl)
theorem dX1_spoke_35 : decode cX1_spoke 35 = .ok (.istore_n 3, 1) := dk_62 (dk_at dksX1_spoke_1 13 rfl rfl)
theorem dX1_spoke_36 : decode cX1_spoke 36 = .ok (.iconst 0, 1) := dk_3 (dk_at dksX1_spoke_1 14 rfl rfl)
theorem dX1_spoke_37 : decode cX1_spoke 37 = .ok (.istore 4, 2) := dk_54 4 (dk_at dksX1_spoke_1 15 rfl rfl)
theorem dX1_spoke_39 : decode cX1_spoke 39 = .ok (.iload 4, 2) := dk_21 4 (dk_at dksX1_spoke_1 17 rfl rfl)
theorem dX1_spoke_41 : decode cX1_spoke 41 = .ok (.aload_n 0, 1) := dk_42 (dk_at dksX1_spoke_1 19 rfl rfl)
theorem dX1_spoke_42 : decode cX1_spoke 42 = .ok (.getfield 85, 3) := dk_180 0 85 (dk_at dksX1_spoke_1 20 rfl rfl)
theorem dX1_spoke_45 : decode cX1_spoke 45 = .ok (.getfield 259, 3) := dk_180 1 3 (dk_at dksX1_spoke_2 0 rfl rfl)
theorem dX1_spoke_48 : decode cX1_spoke 48 = .ok (.if_icmp .ge 55, 3) := dk_162 0 55 (dk_at dksX1_spoke_2 3 rfl rfl)
theorem dX1_spoke_51 : decode cX1_spoke 51 = .ok (.iload_n 3, 1) := dk_29 (dk_at dksX1_spoke_2 6 rfl rfl)
theorem dX1_spoke_52 : decode cX1_spoke 52 = .ok (.iload_n 1, 1) := dk_27 (dk_at dksX1_spoke_2 7 rfl rfl)
theorem dX1_spoke_53 : decode cX1_spoke 53 = .ok (.iconst (-1), 1) := dk_2 (dk_at dksX1_spoke_2 8 rfl rfl)
theorem dX1_spoke_54 : decode cX1_spoke 54 = .ok (.if_icmp .eq 17, 3) := dk_159 0 17 (dk_at dksX1_spoke_2 9 rfl rfl)
theorem dX1_spoke_57 : decode cX1_spoke 57 = .ok (.aload_n 0, 1) := dk_42 (dk_at dksX1_spoke_2 12 rfl rfl)
theorem dX1_spoke_58 : decode cX1_spoke 58 = .ok (.getfield 85, 3) := dk_180 0 85 (dk_at dksX1_spoke_2 13 rfl rfl)
theorem dX1_spoke_61 : decode cX1_spoke 61 = .ok (.getfield 289, 3) := dk_180 1 33 (dk_at dksX1_spoke_2 16 rfl rfl)
theorem dX1_spoke_64 : decode cX1_spoke 64 = .ok (.iload 4, 2) := dk_21 4 (dk_at dksX1_spoke_2 19 rfl rfl)
theorem dX1_spoke_66 : decode cX1_spoke 66 = .ok (.iaload, 1) := dk_46 (dk_at dksX1_spoke_2 21 rfl rfl)
theorem dX1_spoke_67 : decode cX1_spoke 67 = .ok (.iload_n 1, 1) := dk_27 (dk_at dksX1_spoke_2 22 rfl rfl)
theorem dX1_spoke_68 : decode cX1_spoke 68 = .ok (.if_icmp .ne 26, 3) := dk_160 0 26 (dk_at dksX1_spoke_3 0 rfl rfl)
theorem dX1_spoke_71 : decode cX1_spoke 71 = .ok (.iload_n 2, 1) := dk_28 (dk_at dksX1_spoke_3 3 rfl rfl)
theorem dX1_spoke_72 : decode cX1_spoke 72 = .ok (.iconst (-1), 1) := dk_2 (dk_at dksX1_spoke_3 4 rfl rfl)
theorem dX1_spoke_73 : decode cX1_spoke 73 = .ok (.if_icmp .eq 17, 3) := dk_159 0 17 (dk_at dksX1_spoke_3 5 rfl rfl)
theorem dX1_spoke_76 : decode cX1_spoke 76 = .ok (.aload_n 0, 1) := dk_42 (dk_at dksX1_spoke_3 8 rfl rfl)
theorem dX1_spoke_77 : decode cX1_spoke 77 = .ok (.getfield 85, 3) := dk_180 0 85 (dk_at dksX1_spoke_3 9 rfl rfl)
theorem dX1_spoke_80 : decode cX1_spoke 80 = .ok (.getfield 291, 3) := dk_180 1 35 (dk_at dksX1_spoke_3 12 rfl rfl)
theorem dX1_spoke_83 : decode cX1_spoke 83 = .ok (.iload 4, 2) := dk_21 4 (dk_at dksX1_spoke_3 15 rfl rfl)
theorem dX1_spoke_85 : decode cX1_spoke 85 = .ok (.iaload, 1) := dk_46 (dk_at dksX1_spoke_3 17 rfl rfl)
theorem dX1_spoke_86 : decode cX1_spoke 86 = .ok (.iload_n 2, 1) := dk_28 (dk_at dksX1_spoke_3 18 rfl rfl)
theorem dX1_spoke_87 : decode cX1_spoke 87 = .ok (.if_icmp .ne 7, 3) := dk_160 0 7 (dk_at dksX1_spoke_3 19 rfl rfl)
theorem dX1_spoke_90 : decode cX1_spoke 90 = .ok (.iconst 1, 1) := dk_4 (dk_at dksX1_spoke_3 22 rfl rfl)
theorem dX1_spoke_91 : decode cX1_spoke 91 = .ok (.goto 4, 3) := dk_167 0 4 (dk_at dksX1_spoke_4 0 rfl rfl)
theorem dX1_spoke_94 : decode cX1_spoke 94 = .ok (.iconst 0, 1) := dk_3 (dk_at dksX1_spoke_4 3 rfl rfl)
theorem dX1_spoke_95 : decode cX1_spoke 95 = .ok (.iadd, 1) := dk_96 (dk_at dksX1_spoke_4 4 rfl rfl)
theorem dX1_spoke_96 : decode cX1_spoke 96 = .ok (.istore_n 3, 1) := dk_62 (dk_at dksX1_spoke_4 5 rfl rfl)
theorem dX1_spoke_97 : decode cX1_spoke 97 = .ok (.iinc 4 1, 3) := dk_132 4 1 (dk_at dksX1_spoke_4 6 rfl rfl)
theorem dX1_spoke_100 : decode cX1_spoke 100 = .ok (.goto (-61), 3) := dk_167 255 195 (dk_at dksX1_spoke_4 9 rfl rfl)
theorem dX1_spoke_103 : decode cX1_spoke 103 = .ok (.iload_n 3, 1) := dk_29 (dk_at dksX1_spoke_4 12 rfl rfl)
theorem dX1_spoke_104 : decode cX1_spoke 104 = .ok (.ireturn, 1) := dk_172 (dk_at dksX1_spoke_4 13 rfl rfl)
abbrev cX1_road : ByteArray := prog_1_method_46_code
def yX1_road : MethodName := ⟨RX1, "road", "(III)I"⟩
def dkwX1_road_1 : List UInt8 := [180, 1, 3, 182, 1, 155, 21, 4, 172]
abbrev dktX1_road_1 : List UInt8 := dkwX1_road_1 ++ []
def dkwX1_road_0 : List UInt8 := [42, 27, 28, 29, 2, 182, 1, 151, 54, 4, 21, 4, 155, 0, 16, 42, 21, 4, 42, 180, 0, 85]
abbrev dktX1_road_0 : List UInt8 := dkwX1_road_0 ++ dktX1_road_1
theorem dksX1_road_0 : cX1_road.data.toList.drop 0 = dktX1_road_0 := by decide +kernel
theorem dksX1_road_1 : cX1_road.data.toList.drop 22 = dktX1_road_1 := dk_seg dksX1_road_0 22 rfl rfl
theorem dX1_road_0 : decode cX1_road 0 = .ok (.aload_n 0, 1) := dk_42 (dk_at dksX1_road_0 0 rfl rfl)
theorem dX1_road_1 : decode cX1_road 1 = .ok (.iload_n 1, 1) := dk_27 (dk_at dksX1_road_0 1 rfl rfl)
theorem dX1_road_2 : decode cX1_road 2 = .ok (.iload_n 2, 1) := dk_28 (dk_at dksX1_road_0 2 rfl rfl)
theorem dX1_road_3 : decode cX1_road 3 = .ok (.iload_n 3, 1) := dk_29 (dk_at dksX1_road_0 3 rfl rfl)
theorem dX1_road_4 : decode cX1_road 4 = .ok (.iconst (-1), 1) := dk_2 (dk_at dksX1_road_0 4 rfl rfl)
theorem dX1_road_5 : decode cX1_road 5 = .ok (.invokevirtual 407, 3) := dk_182 1 151 (dk_at dksX1_road_0 5 rfl rfl)
theorem dX1_road_8 : decode cX1_road 8 = .ok (.istore 4, 2) := dk_54 4 (dk_at dksX1_road_0 8 rfl rfl)
theorem dX1_road_10 : decode cX1_road 10 = .ok (.iload 4, 2) := dk_21 4 (dk_at dksX1_road_0 10 rfl rfl)
theorem dX1_road_12 : decode cX1_road 12 = .ok (.ifCond .lt 16, 3) := dk_155 0 16 (dk_at dksX1_road_0 12 rfl rfl)
theorem dX1_road_15 : decode cX1_road 15 = .ok (.aload_n 0, 1) := dk_42 (dk_at dksX1_road_0 15 rfl rfl)
theorem dX1_road_16 : decode cX1_road 16 = .ok (.iload 4, 2) := dk_21 4 (dk_at dksX1_road_0 16 rfl rfl)
theorem dX1_road_18 : decode cX1_road 18 = .ok (.aload_n 0, 1) := dk_42 (dk_at dksX1_road_0 18 rfl rfl)
theorem dX1_road_19 : decode cX1_road 19 = .ok (.getfield 85, 3) := dk_180 0 85 (dk_at dksX1_road_0 19 rfl rfl)
theorem dX1_road_22 : decode cX1_road 22 = .ok (.getfield 259, 3) := dk_180 1 3 (dk_at dksX1_road_1 0 rfl rfl)
theorem dX1_road_25 : decode cX1_road 25 = .ok (.invokevirtual 411, 3) := dk_182 1 155 (dk_at dksX1_road_1 3 rfl rfl)
theorem dX1_road_28 : decode cX1_road 28 = .ok (.iload 4, 2) := dk_21 4 (dk_at dksX1_road_1 6 rfl rfl)
theorem dX1_road_30 : decode cX1_road 30 = .ok (.ireturn, 1) := dk_172 (dk_at dksX1_road_1 8 rfl rfl)
abbrev cX1_leadsBy : ByteArray := prog_1_method_45_code
def yX1_leadsBy : MethodName := ⟨RX1, "leadsBy", "(IIII)I"⟩
def dkwX1_leadsBy_4 : List UInt8 := [21, 4, 182, 1, 143, 153, 0, 6, 21, 5, 172, 132, 5, 1, 167, 255, 220, 2, 172]
abbrev dktX1_leadsBy_4 : List UInt8 := dkwX1_leadsBy_4 ++ []
def dkwX1_leadsBy_3 : List UInt8 := [54, 5, 21, 5, 29, 163, 0, 36, 42, 180, 0, 89, 42, 180, 0, 85, 182, 1, 22, 42, 27, 28, 21, 5]
abbrev dktX1_leadsBy_3 : List UInt8 := dkwX1_leadsBy_3 ++ dktX1_leadsBy_4
def dkwX1_leadsBy_2 : List UInt8 := [180, 0, 85, 180, 0, 220, 180, 1, 11, 104, 29, 19, 1, 147, 184, 1, 148, 153, 0, 6, 16, 254, 172, 3]
abbrev dktX1_leadsBy_2 : List UInt8 := dkwX1_leadsBy_2 ++ dktX1_leadsBy_3
def dkwX1_leadsBy_1 : List UInt8 := [17, 1, 143, 184, 0, 236, 154, 0, 6, 16, 253, 172, 42, 180, 0, 85, 180, 0, 220, 180, 1, 59, 42]
abbrev dktX1_leadsBy_1 : List UInt8 := dkwX1_leadsBy_1 ++ dktX1_leadsBy_2
def dkwX1_leadsBy_0 : List UInt8 := [28, 3, 16, 8, 184, 0, 236, 153, 0, 24, 29, 4, 16, 8, 184, 0, 236, 153, 0, 14, 27, 3]
abbrev dktX1_leadsBy_0 : List UInt8 := dkwX1_leadsBy_0 ++ dktX1_leadsBy_1
theorem dksX1_leadsBy_0 : cX1_leadsBy.data.toList.drop 0 = dktX1_leadsBy_0 := by decide +kernel
theorem dksX1_leadsBy_1 : cX1_leadsBy.data.toList.drop 22 = dktX1_leadsBy_1 := dk_seg dksX1_leadsBy_0 22 rfl rfl
theorem dksX1_leadsBy_2 : cX1_leadsBy.data.toList.drop 45 = dktX1_leadsBy_2 := dk_seg dksX1_leadsBy_1 23 rfl rfl
theorem dksX1_leadsBy_3 : cX1_leadsBy.data.toList.drop 69 = dktX1_leadsBy_3 := dk_seg dksX1_leadsBy_2 24 rfl rfl
theorem dksX1_leadsBy_4 : cX1_leadsBy.data.toList.drop 93 = dktX1_leadsBy_4 := dk_seg dksX1_leadsBy_3 24 rfl rfl
theorem dX1_leadsBy_0 : decode cX1_leadsBy 0 = .ok (.iload_n 2, 1) := dk_28 (dk_at dksX1_leadsBy_0 0 rfl rfl)
theorem dX1_leadsBy_1 : decode cX1_leadsBy 1 = .ok (.iconst 0, 1) := dk_3 (dk_at dksX1_leadsBy_0 1 rfl rfl)
theorem dX1_leadsBy_2 : decode cX1_leadsBy 2 = .ok (.bipush 8, 2) := dk_16 8 (dk_at dksX1_leadsBy_0 2 rfl rfl)
theorem dX1_leadsBy_4 : decode cX1_leadsBy 4 = .ok (.invokestatic 236, 3) := dk_184 0 236 (dk_at dksX1_leadsBy_0 4 rfl rfl)
theorem dX1_leadsBy_7 : decode cX1_leadsBy 7 = .ok (.ifCond .eq 24, 3) := dk_153 0 24 (dk_at dksX1_leadsBy_0 7 rfl rfl)
theorem dX1_leadsBy_10 : decode cX1_leadsBy 10 = .ok (.iload_n 3, 1) := dk_29 (dk_at dksX1_leadsBy_0 10 rfl rfl)
theorem dX1_leadsBy_11 : decode cX1_leadsBy 11 = .ok (.iconst 1, 1) := dk_4 (dk_at dksX1_leadsBy_0 11 rfl rfl)
theorem dX1_leadsBy_12 : decode cX1_leadsBy 12 = .ok (.bipush 8, 2) := dk_16 8 (dk_at dksX1_leadsBy_0 12 rfl rfl)
theorem dX1_leadsBy_14 : decode cX1_leadsBy 14 = .ok (.invokestatic 236, 3) := dk_184 0 236 (dk_at dksX1_leadsBy_0 14 rfl rfl)
theorem dX1_leadsBy_17 : decode cX1_leadsBy 17 = .ok (.ifCond .eq 14, 3) := dk_153 0 14 (dk_at dksX1_leadsBy_0 17 rfl rfl)
theorem dX1_leadsBy_20 : decode cX1_leadsBy 20 = .ok (.iload_n 1, 1) := dk_27 (dk_at dksX1_leadsBy_0 20 rfl rfl)
theorem dX1_leadsBy_21 : decode cX1_leadsBy 21 = .ok (.iconst 0, 1) := dk_3 (dk_at dksX1_leadsBy_0 21 rfl rfl)
theorem dX1_leadsBy_22 : decode cX1_leadsBy 22 = .ok (.sipush 399, 3) := dk_17 1 143 (dk_at dksX1_leadsBy_1 0 rfl rfl)
theorem dX1_leadsBy_25 : decode cX1_leadsBy 25 = .ok (.invokestatic 236, 3) := dk_184 0 236 (dk_at dksX1_leadsBy_1 3 rfl rfl)
theorem dX1_leadsBy_28 : decode cX1_leadsBy 28 = .ok (.ifCond .ne 6, 3) := dk_154 0 6 (dk_at dksX1_leadsBy_1 6 rfl rfl)
theorem dX1_leadsBy_31 : decode cX1_leadsBy 31 = .ok (.bipush (-3), 2) := dk_16 253 (dk_at dksX1_leadsBy_1 9 rfl rfl)
theorem dX1_leadsBy_33 : decode cX1_leadsBy 33 = .ok (.ireturn, 1) := dk_172 (dk_at dksX1_leadsBy_1 11 rfl rfl)
theorem dX1_leadsBy_34 : decode cX1_leadsBy 34 = .ok (.aload_n 0, 1) := dk_42 (dk_at dksX1_leadsBy_1 12 rfl rfl)
theorem dX1_leadsBy_35 : decode cX1_leadsBy 35 = .ok (.getfield 85, 3) := dk_180 0 85 (dk_at dksX1_leadsBy_1 13 rfl rfl)
theorem dX1_leadsBy_38 : decode cX1_leadsBy 38 = .ok (.getfield 220, 3) := dk_180 0 220 (dk_at dksX1_leadsBy_1 16 rfl rfl)
theorem dX1_leadsBy_41 : decode cX1_leadsBy 41 = .ok (.getfield 315, 3) := dk_180 1 59 (dk_at dksX1_leadsBy_1 19 rfl rfl)
theorem dX1_leadsBy_44 : decode cX1_leadsBy 44 = .ok (.aload_n 0, 1) := dk_42 (dk_at dksX1_leadsBy_1 22 rfl rfl)
theorem dX1_leadsBy_45 : decode cX1_leadsBy 45 = .ok (.getfield 85, 3) := dk_180 0 85 (dk_at dksX1_leadsBy_2 0 rfl rfl)
theorem dX1_leadsBy_48 : decode cX1_leadsBy 48 = .ok (.getfield 220, 3) := dk_180 0 220 (dk_at dksX1_leadsBy_2 3 rfl rfl)
theorem dX1_leadsBy_51 : decode cX1_leadsBy 51 = .ok (.getfield 267, 3) := dk_180 1 11 (dk_at dksX1_leadsBy_2 6 rfl rfl)
theorem dX1_leadsBy_54 : decode cX1_leadsBy 54 = .ok (.imul, 1) := dk_104 (dk_at dksX1_leadsBy_2 9 rfl rfl)
theorem dX1_leadsBy_55 : decode cX1_leadsBy 55 = .ok (.iload_n 3, 1) := dk_29 (dk_at dksX1_leadsBy_2 10 rfl rfl)
theorem dX1_leadsBy_56 : decode cX1_leadsBy 56 = .ok (.ldc_w 403, 3) := dk_19 1 147 (dk_at dksX1_leadsBy_2 11 rfl rfl)
theorem dX1_leadsBy_59 : decode cX1_leadsBy 59 = .ok (.invokestatic 404, 3) := dk_184 1 148 (dk_at dksX1_leadsBy_2 14 rfl rfl)
theorem dX1_leadsBy_62 : decode cX1_leadsBy 62 = .ok (.ifCond .eq 6, 3) := dk_153 0 6 (dk_at dksX1_leadsBy_2 17 rfl rfl)
theorem dX1_leadsBy_65 : decode cX1_leadsBy 65 = .ok (.bipush (-2), 2) := dk_16 254 (dk_at dksX1_leadsBy_2 20 rfl rfl)
theorem dX1_leadsBy_67 : decode cX1_leadsBy 67 = .ok (.ireturn, 1) := dk_172 (dk_at dksX1_leadsBy_2 22 rfl rfl)
theorem dX1_leadsBy_68 : decode cX1_leadsBy 68 = .ok (.iconst 0, 1) := dk_3 (dk_at dksX1_leadsBy_2 23 rfl rfl)
theorem dX1_leadsBy_69 : decode cX1_leadsBy 69 = .ok (.istore 5, 2) := dk_54 5 (dk_at dksX1_leadsBy_3 0 rfl rfl)
theorem dX1_leadsBy_71 : decode cX1_leadsBy 71 = .ok (.iload 5, 2) := dk_21 5 (dk_at dksX1_leadsBy_3 2 rfl rfl)
theorem dX1_leadsBy_73 : decode cX1_leadsBy 73 = .ok (.iload_n 3, 1) := dk_29 (dk_at dksX1_leadsBy_3 4 rfl rfl)
theorem dX1_leadsBy_74 : decode cX1_leadsBy 74 = .ok (.if_icmp .gt 36, 3) := dk_163 0 36 (dk_at dksX1_leadsBy_3 5 rfl rfl)
theorem dX1_leadsBy_77 : decode cX1_leadsBy 77 = .ok (.aload_n 0, 1) := dk_42 (dk_at dksX1_leadsBy_3 8 rfl rfl)
theorem dX1_leadsBy_78 : decode cX1_leadsBy 78 = .ok (.getfield 89, 3) := dk_180 0 89 (dk_at dksX1_leadsBy_3 9 rfl rfl)
theorem dX1_leadsBy_81 : decode cX1_leadsBy 81 = .ok (.aload_n 0, 1) := dk_42 (dk_at dksX1_leadsBy_3 12 rfl rfl)
theorem dX1_leadsBy_82 : decode cX1_leadsBy 82 = .ok (.getfield 85, 3) := dk_180 0 85 (dk_at dksX1_leadsBy_3 13 rfl rfl)
theorem dX1_leadsBy_85 : decode cX1_leadsBy 85 = .ok (.invokevirtual 278, 3) := dk_182 1 22 (dk_at dksX1_leadsBy_3 16 rfl rfl)
theorem dX1_leadsBy_88 : decode cX1_leadsBy 88 = .ok (.aload_n 0, 1) := dk_42 (dk_at dksX1_leadsBy_3 19 rfl rfl)
theorem dX1_leadsBy_89 : decode cX1_leadsBy 89 = .ok (.iload_n 1, 1) := dk_27 (dk_at dksX1_leadsBy_3 20 rfl rfl)
theorem dX1_leadsBy_90 : decode cX1_leadsBy 90 = .ok (.iload_n 2, 1) := dk_28 (dk_at dksX1_leadsBy_3 21 rfl rfl)
theorem dX1_leadsBy_91 : decode cX1_leadsBy 91 = .ok (.iload 5, 2) := dk_21 5 (dk_at dksX1_leadsBy_3 22 rfl rfl)
theorem dX1_leadsBy_93 : decode cX1_leadsBy 93 = .ok (.iload 4, 2) := dk_21 4 (dk_at dksX1_leadsBy_4 0 rfl rfl)
theorem dX1_leadsBy_95 : decode cX1_leadsBy 95 = .ok (.invokevirtual 399, 3) := dk_182 1 143 (dk_at dksX1_leadsBy_4 2 rfl rfl)
theorem dX1_leadsBy_98 : decode cX1_leadsBy 98 = .ok (.ifCond .eq 6, 3) := dk_153 0 6 (dk_at dksX1_leadsBy_4 5 rfl rfl)
theorem dX1_leadsBy_101 : decode cX1_leadsBy 101 = .ok (.iload 5, 2) := dk_21 5 (dk_at dksX1_leadsBy_4 8 rfl rfl)
theorem dX1_leadsBy_103 : decode cX1_leadsBy 103 = .ok (.ireturn, 1) := dk_172 (dk_at dksX1_leadsBy_4 10 rfl rfl)
theorem dX1_leadsBy_104 : decode cX1_leadsBy 104 = .ok (.iinc 5 1, 3) := dk_132 5 1 (dk_at dksX1_leadsBy_4 11 rfl rfl)
theorem dX1_leadsBy_107 : decode cX1_leadsBy 107 = .ok (.goto (-36), 3) := dk_167 255 220 (dk_at dksX1_leadsBy_4 14 rfl rfl)
theorem dX1_leadsBy_110 : decode cX1_leadsBy 110 = .ok (.iconst (-1), 1) := dk_2 (dk_at dksX1_leadsBy_4 17 rfl rfl)
theorem dX1_leadsBy_111 : decode cX1_leadsBy 111 = .ok (.ireturn, 1) := dk_172 (dk_at dksX1_leadsBy_4 18 rfl rfl)
abbrev cX1_isFar : ByteArray := prog_1_method_43_code
def yX1_isFar : MethodName := ⟨RX1, "isFar", "(III)Z"⟩
def dkwX1_isFar_1 : List UInt8 := [132, 5, 1, 167, 255, 235, 33, 28, 133, 148, 158, 0, 7, 4, 167, 0, 4, 3, 172]
abbrev dktX1_isFar_1 : List UInt8 := dkwX1_isFar_1 ++ []
def dkwX1_isFar_0 : List UInt8 := [10, 66, 3, 54, 5, 21, 5, 27, 162, 0, 21, 33, 28, 133, 148, 157, 0, 14, 33, 26, 133, 105, 66]
abbrev dktX1_isFar_0 : List UInt8 := dkwX1_isFar_0 ++ dktX1_isFar_1
theorem dksX1_isFar_0 : cX1_isFar.data.toList.drop 0 = dktX1_isFar_0 := by decide +kernel
theorem dksX1_isFar_1 : cX1_isFar.data.toList.drop 23 = dktX1_isFar_1 := dk_seg dksX1_isFar_0 23 rfl rfl
theorem dX1_isFar_0 : decode cX1_isFar 0 = .ok (.lconst 1, 1) := dk_10 (dk_at dksX1_isFar_0 0 rfl rfl)
theorem dX1_isFar_1 : decode cX1_isFar 1 = .ok (.lstore_n 3, 1) := dk_66 (dk_at dksX1_isFar_0 1 rfl rfl)
theorem dX1_isFar_2 : decode cX1_isFar 2 = .ok (.iconst 0, 1) := dk_3 (dk_at dksX1_isFar_0 2 rfl rfl)
theorem dX1_isFar_3 : decode cX1_isFar 3 = .ok (.istore 5, 2) := dk_54 5 (dk_at dksX1_isFar_0 3 rfl rfl)
theorem dX1_isFar_5 : decode cX1_isFar 5 = .ok (.iload 5, 2) := dk_21 5 (dk_at dksX1_isFar_0 5 rfl rfl)
theorem dX1_isFar_7 : decode cX1_isFar 7 = .ok (.iload_n 1, 1) := dk_27 (dk_at dksX1_isFar_0 7 rfl rfl)
theorem dX1_isFar_8 : decode cX1_isFar 8 = .ok (.if_icmp .ge 21, 3) := dk_162 0 21 (dk_at dksX1_isFar_0 8 rfl rfl)
theorem dX1_isFar_11 : decode cX1_isFar 11 = .ok (.lload_n 3, 1) := dk_33 (dk_at dksX1_isFar_0 11 rfl rfl)
theorem dX1_isFar_12 : decode cX1_isFar 12 = .ok (.iload_n 2, 1) := dk_28 (dk_at dksX1_isFar_0 12 rfl rfl)
theorem dX1_isFar_13 : decode cX1_isFar 13 = .ok (.i2l, 1) := dk_133 (dk_at dksX1_isFar_0 13 rfl rfl)
theorem dX1_isFar_14 : decode cX1_isFar 14 = .ok (.lcmp, 1) := dk_148 (dk_at dksX1_isFar_0 14 rfl rfl)
theorem dX1_isFar_15 : decode cX1_isFar 15 = .ok (.ifCond .gt 14, 3) := dk_157 0 14 (dk_at dksX1_isFar_0 15 rfl rfl)
theorem dX1_isFar_18 : decode cX1_isFar 18 = .ok (.lload_n 3, 1) := dk_33 (dk_at dksX1_isFar_0 18 rfl rfl)
theorem dX1_isFar_19 : decode cX1_isFar 19 = .ok (.iload_n 0, 1) := dk_26 (dk_at dksX1_isFar_0 19 rfl rfl)
theorem dX1_isFar_20 : decode cX1_isFar 20 = .ok (.i2l, 1) := dk_133 (dk_at dksX1_isFar_0 20 rfl rfl)
theorem dX1_isFar_21 : decode cX1_isFar 21 = .ok (.lmul, 1) := dk_105 (dk_at dksX1_isFar_0 21 rfl rfl)
theorem dX1_isFar_22 : decode cX1_isFar 22 = .ok (.lstore_n 3, 1) := dk_66 (dk_at dksX1_isFar_0 22 rfl rfl)
theorem dX1_isFar_23 : decode cX1_isFar 23 = .ok (.iinc 5 1, 3) := dk_132 5 1 (dk_at dksX1_isFar_1 0 rfl rfl)
theorem dX1_isFar_26 : decode cX1_isFar 26 = .ok (.goto (-21), 3) := dk_167 255 235 (dk_at dksX1_isFar_1 3 rfl rfl)
theorem dX1_isFar_29 : decode cX1_isFar 29 = .ok (.lload_n 3, 1) := dk_33 (dk_at dksX1_isFar_1 6 rfl rfl)
theorem dX1_isFar_30 : decode cX1_isFar 30 = .ok (.iload_n 2, 1) := dk_28 (dk_at dksX1_isFar_1 7 rfl rfl)
theorem dX1_isFar_31 : decode cX1_isFar 31 = .ok (.i2l, 1) := dk_133 (dk_at dksX1_isFar_1 8 rfl rfl)
theorem dX1_isFar_32 : decode cX1_isFar 32 = .ok (.lcmp, 1) := dk_148 (dk_at dksX1_isFar_1 9 rfl rfl)
theorem dX1_isFar_33 : decode cX1_isFar 33 = .ok (.ifCond .le 7, 3) := dk_158 0 7 (dk_at dksX1_isFar_1 10 rfl rfl)
theorem dX1_isFar_36 : decode cX1_isFar 36 = .ok (.iconst 1, 1) := dk_4 (dk_at dksX1_isFar_1 13 rfl rfl)
theorem dX1_isFar_37 : decode cX1_isFar 37 = .ok (.goto 4, 3) := dk_167 0 4 (dk_at dksX1_isFar_1 14 rfl rfl)
theorem dX1_isFar_40 : decode cX1_isFar 40 = .ok (.iconst 0, 1) := dk_3 (dk_at dksX1_isFar_1 17 rfl rfl)
theorem dX1_isFar_41 : decode cX1_isFar 41 = .ok (.ireturn, 1) := dk_172 (dk_at dksX1_isFar_1 18 rfl rfl)
abbrev cX1_leads : ByteArray := prog_1_method_44_code
def yX1_leads : MethodName := ⟨RX1, "leads", "(IIII)Z"⟩
def dkwX1_leads_6 : List UInt8 := [3, 172]
abbrev dktX1_leads_6 : List UInt8 := dkwX1_leads_6 ++ []
def dkwX1_leads_5 : List UInt8 := [153, 0, 5, 4, 172, 42, 180, 0, 89, 182, 1, 14, 132, 6, 1, 167, 255, 191, 132, 5, 1, 167, 255, 154]
abbrev dktX1_leads_5 : List UInt8 := dkwX1_leads_5 ++ dktX1_leads_6
def dkwX1_leads_4 : List UInt8 := [21, 5, 21, 6, 182, 1, 4, 158, 0, 6, 167, 0, 26, 42, 27, 28, 29, 4, 100, 21, 4, 182, 1, 143]
abbrev dktX1_leads_4 : List UInt8 := dkwX1_leads_4 ++ dktX1_leads_5
def dkwX1_leads_3 : List UInt8 := [180, 0, 85, 180, 0, 220, 180, 1, 11, 162, 0, 56, 21, 5, 21, 4, 159, 0, 49, 42, 180, 0, 89]
abbrev dktX1_leads_3 : List UInt8 := dkwX1_leads_3 ++ dktX1_leads_4
def dkwX1_leads_2 : List UInt8 := [162, 0, 93, 42, 180, 0, 89, 180, 1, 3, 17, 1, 144, 162, 0, 80, 3, 54, 6, 21, 6, 42]
abbrev dktX1_leads_2 : List UInt8 := dkwX1_leads_2 ++ dktX1_leads_3
def dkwX1_leads_1 : List UInt8 := [160, 0, 7, 4, 167, 0, 4, 3, 172, 3, 54, 5, 21, 5, 42, 180, 0, 85, 180, 0, 220, 180, 1, 59]
abbrev dktX1_leads_1 : List UInt8 := dkwX1_leads_1 ++ dktX1_leads_2
def dkwX1_leads_0 : List UInt8 := [29, 154, 0, 32, 27, 42, 180, 0, 89, 180, 1, 3, 162, 0, 19, 42, 180, 0, 89, 27, 182, 1, 44, 28]
abbrev dktX1_leads_0 : List UInt8 := dkwX1_leads_0 ++ dktX1_leads_1
theorem dksX1_leads_0 : cX1_leads.data.toList.drop 0 = dktX1_leads_0 := by decide +kernel
theorem dksX1_leads_1 : cX1_leads.data.toList.drop 24 = dktX1_leads_1 := dk_seg dksX1_leads_0 24 rfl rfl
theorem dksX1_leads_2 : cX1_leads.data.toList.drop 48 = dktX1_leads_2 := dk_seg dksX1_leads_1 24 rfl rfl
theorem dksX1_leads_3 : cX1_leads.data.toList.drop 70 = dktX1_leads_3 := dk_seg dksX1_leads_2 22 rfl rfl
theorem dksX1_leads_4 : cX1_leads.data.toList.drop 93 = dktX1_leads_4 := dk_seg dksX1_leads_3 23 rfl rfl
theorem dksX1_leads_5 : cX1_leads.data.toList.drop 117 = dktX1_leads_5 := dk_seg dksX1_leads_4 24 rfl rfl
theorem dksX1_leads_6 : cX1_leads.data.toList.drop 141 = dktX1_leads_6 := dk_seg dksX1_leads_5 24 rfl rfl
theorem dX1_leads_0 : decode cX1_leads 0 = .ok (.iload_n 3, 1) := dk_29 (dk_at dksX1_leads_0 0 rfl rfl)
theorem dX1_leads_1 : decode cX1_leads 1 = .ok (.ifCond .ne 32, 3) := dk_154 0 32 (dk_at dksX1_leads_0 1 rfl rfl)
theorem dX1_leads_4 : decode cX1_leads 4 = .ok (.iload_n 1, 1) := dk_27 (dk_at dksX1_leads_0 4 rfl rfl)
theorem dX1_leads_5 : decode cX1_leads 5 = .ok (.aload_n 0, 1) := dk_42 (dk_at dksX1_leads_0 5 rfl rfl)
theorem dX1_leads_6 : decode cX1_leads 6 = .ok (.getfield 89, 3) := dk_180 0 89 (dk_at dksX1_leads_0 6 rfl rfl)
theorem dX1_leads_9 : decode cX1_leads 9 = .ok (.getfield 259, 3) := dk_180 1 3 (dk_at dksX1_leads_0 9 rfl rfl)
theorem dX1_leads_12 : decode cX1_leads 12 = .ok (.if_icmp .ge 19, 3) := dk_162 0 19 (dk_at dksX1_leads_0 12 rfl rfl)
theorem dX1_leads_15 : decode cX1_leads 15 = .ok (.aload_n 0, 1) := dk_42 (dk_at dksX1_leads_0 15 rfl rfl)
theorem dX1_leads_16 : decode cX1_leads 16 = .ok (.getfield 89, 3) := dk_180 0 89 (dk_at dksX1_leads_0 16 rfl rfl)
theorem dX1_leads_19 : decode cX1_leads 19 = .ok (.iload_n 1, 1) := dk_27 (dk_at dksX1_leads_0 19 rfl rfl)
theorem dX1_leads_20 : decode cX1_leads 20 = .ok (.invokevirtual 300, 3) := dk_182 1 44 (dk_at dksX1_leads_0 20 rfl rfl)
theorem dX1_leads_23 : decode cX1_leads 23 = .ok (.iload_n 2, 1) := dk_28 (dk_at dksX1_leads_0 23 rfl rfl)
theorem dX1_leads_24 : decode cX1_leads 24 = .ok (.if_icmp .ne 7, 3) := dk_160 0 7 (dk_at dksX1_leads_1 0 rfl rfl)
theorem dX1_leads_27 : decode cX1_leads 27 = .ok (.iconst 1, 1) := dk_4 (dk_at dksX1_leads_1 3 rfl rfl)
theorem dX1_leads_28 : decode cX1_leads 28 = .ok (.goto 4, 3) := dk_167 0 4 (dk_at dksX1_leads_1 4 rfl rfl)
theorem dX1_leads_31 : decode cX1_leads 31 = .ok (.iconst 0, 1) := dk_3 (dk_at dksX1_leads_1 7 rfl rfl)
theorem dX1_leads_32 : decode cX1_leads 32 = .ok (.ireturn, 1) := dk_172 (dk_at dksX1_leads_1 8 rfl rfl)
theorem dX1_leads_33 : decode cX1_leads 33 = .ok (.iconst 0, 1) := dk_3 (dk_at dksX1_leads_1 9 rfl rfl)
theorem dX1_leads_34 : decode cX1_leads 34 = .ok (.istore 5, 2) := dk_54 5 (dk_at dksX1_leads_1 10 rfl rfl)
theorem dX1_leads_36 : decode cX1_leads 36 = .ok (.iload 5, 2) := dk_21 5 (dk_at dksX1_leads_1 12 rfl rfl)
theorem dX1_leads_38 : decode cX1_leads 38 = .ok (.aload_n 0, 1) := dk_42 (dk_at dksX1_leads_1 14 rfl rfl)
theorem dX1_leads_39 : decode cX1_leads 39 = .ok (.getfield 85, 3) := dk_180 0 85 (dk_at dksX1_leads_1 15 rfl rfl)
theorem dX1_leads_42 : decode cX1_leads 42 = .ok (.getfield 220, 3) := dk_180 0 220 (dk_at dksX1_leads_1 18 rfl rfl)
theorem dX1_leads_45 : decode cX1_leads 45 = .ok (.getfield 315, 3) := dk_180 1 59 (dk_at dksX1_leads_1 21 rfl rfl)
theorem dX1_leads_48 : decode cX1_leads 48 = .ok (.if_icmp .ge 93, 3) := dk_162 0 93 (dk_at dksX1_leads_2 0 rfl rfl)
theorem dX1_leads_51 : decode cX1_leads 51 = .ok (.aload_n 0, 1) := dk_42 (dk_at dksX1_leads_2 3 rfl rfl)
theorem dX1_leads_52 : decode cX1_leads 52 = .ok (.getfield 89, 3) := dk_180 0 89 (dk_at dksX1_leads_2 4 rfl rfl)
theorem dX1_leads_55 : decode cX1_leads 55 = .ok (.getfield 259, 3) := dk_180 1 3 (dk_at dksX1_leads_2 7 rfl rfl)
theorem dX1_leads_58 : decode cX1_leads 58 = .ok (.sipush 400, 3) := dk_17 1 144 (dk_at dksX1_leads_2 10 rfl rfl)
theorem dX1_leads_61 : decode cX1_leads 61 = .ok (.if_icmp .ge 80, 3) := dk_162 0 80 (dk_at dksX1_leads_2 13 rfl rfl)
theorem dX1_leads_64 : decode cX1_leads 64 = .ok (.iconst 0, 1) := dk_3 (dk_at dksX1_leads_2 16 rfl rfl)
theorem dX1_leads_65 : decode cX1_leads 65 = .ok (.istore 6, 2) := dk_54 6 (dk_at dksX1_leads_2 17 rfl rfl)
theorem dX1_leads_67 : decode cX1_leads 67 = .ok (.iload 6, 2) := dk_21 6 (dk_at dksX1_leads_2 19 rfl rfl)
theorem dX1_leads_69 : decode cX1_leads 69 = .ok (.aload_n 0, 1) := dk_42 (dk_at dksX1_leads_2 21 rfl rfl)
theorem dX1_leads_70 : decode cX1_leads 70 = .ok (.getfield 85, 3) := dk_180 0 85 (dk_at dksX1_leads_3 0 rfl rfl)
theorem dX1_leads_73 : decode cX1_leads 73 = .ok (.getfield 220, 3) := dk_180 0 220 (dk_at dksX1_leads_3 3 rfl rfl)
theorem dX1_leads_76 : decode cX1_leads 76 = .ok (.getfield 267, 3) := dk_180 1 11 (dk_at dksX1_leads_3 6 rfl rfl)
theorem dX1_leads_79 : decode cX1_leads 79 = .ok (.if_icmp .ge 56, 3) := dk_162 0 56 (dk_at dksX1_leads_3 9 rfl rfl)
theorem dX1_leads_82 : decode cX1_leads 82 = .ok (.iload 5, 2) := dk_21 5 (dk_at dksX1_leads_3 12 rfl rfl)
theorem dX1_leads_84 : decode cX1_leads 84 = .ok (.iload 4, 2) := dk_21 4 (dk_at dksX1_leads_3 14 rfl rfl)
theorem dX1_leads_86 : decode cX1_leads 86 = .ok (.if_icmp .eq 49, 3) := dk_159 0 49 (dk_at dksX1_leads_3 16 rfl rfl)
theorem dX1_leads_89 : decode cX1_leads 89 = .ok (.aload_n 0, 1) := dk_42 (dk_at dksX1_leads_3 19 rfl rfl)
theorem dX1_leads_90 : decode cX1_leads 90 = .ok (.getfield 89, 3) := dk_180 0 89 (dk_at dksX1_leads_3 20 rfl rfl)
theorem dX1_leads_93 : decode cX1_leads 93 = .ok (.iload 5, 2) := dk_21 5 (dk_at dksX1_leads_4 0 rfl rfl)
theorem dX1_leads_95 : decode cX1_leads 95 = .ok (.iload 6, 2) := dk_21 6 (dk_at dksX1_leads_4 2 rfl rfl)
theorem dX1_leads_97 : decode cX1_leads 97 = .ok (.invokevirtual 260, 3) := dk_182 1 4 (dk_at dksX1_leads_4 4 rfl rfl)
theorem dX1_leads_100 : decode cX1_leads 100 = .ok (.ifCond .le 6, 3) := dk_158 0 6 (dk_at dksX1_leads_4 7 rfl rfl)
theorem dX1_leads_103 : decode cX1_leads 103 = .ok (.goto 26, 3) := dk_167 0 26 (dk_at dksX1_leads_4 10 rfl rfl)
theorem dX1_leads_106 : decode cX1_leads 106 = .ok (.aload_n 0, 1) := dk_42 (dk_at dksX1_leads_4 13 rfl rfl)
theorem dX1_leads_107 : decode cX1_leads 107 = .ok (.iload_n 1, 1) := dk_27 (dk_at dksX1_leads_4 14 rfl rfl)
theorem dX1_leads_108 : decode cX1_leads 108 = .ok (.iload_n 2, 1) := dk_28 (dk_at dksX1_leads_4 15 rfl rfl)
theorem dX1_leads_109 : decode cX1_leads 109 = .ok (.iload_n 3, 1) := dk_29 (dk_at dksX1_leads_4 16 rfl rfl)
theorem dX1_leads_110 : decode cX1_leads 110 = .ok (.iconst 1, 1) := dk_4 (dk_at dksX1_leads_4 17 rfl rfl)
theorem dX1_leads_111 : decode cX1_leads 111 = .ok (.isub, 1) := dk_100 (dk_at dksX1_leads_4 18 rfl rfl)
theorem dX1_leads_112 : decode cX1_leads 112 = .ok (.iload 4, 2) := dk_21 4 (dk_at dksX1_leads_4 19 rfl rfl)
theorem dX1_leads_114 : decode cX1_leads 114 = .ok (.invokevirtual 399, 3) := dk_182 1 143 (dk_at dksX1_leads_4 21 rfl rfl)
theorem dX1_leads_117 : decode cX1_leads 117 = .ok (.ifCond .eq 5, 3) := dk_153 0 5 (dk_at dksX1_leads_5 0 rfl rfl)
theorem dX1_leads_120 : decode cX1_leads 120 = .ok (.iconst 1, 1) := dk_4 (dk_at dksX1_leads_5 3 rfl rfl)
theorem dX1_leads_121 : decode cX1_leads 121 = .ok (.ireturn, 1) := dk_172 (dk_at dksX1_leads_5 4 rfl rfl)
theorem dX1_leads_122 : decode cX1_leads 122 = .ok (.aload_n 0, 1) := dk_42 (dk_at dksX1_leads_5 5 rfl rfl)
theorem dX1_leads_123 : decode cX1_leads 123 = .ok (.getfield 89, 3) := dk_180 0 89 (dk_at dksX1_leads_5 6 rfl rfl)
theorem dX1_leads_126 : decode cX1_leads 126 = .ok (.invokevirtual 270, 3) := dk_182 1 14 (dk_at dksX1_leads_5 9 rfl rfl)
theorem dX1_leads_129 : decode cX1_leads 129 = .ok (.iinc 6 1, 3) := dk_132 6 1 (dk_at dksX1_leads_5 12 rfl rfl)
theorem dX1_leads_132 : decode cX1_leads 132 = .ok (.goto (-65), 3) := dk_167 255 191 (dk_at dksX1_leads_5 15 rfl rfl)
theorem dX1_leads_135 : decode cX1_leads 135 = .ok (.iinc 5 1, 3) := dk_132 5 1 (dk_at dksX1_leads_5 18 rfl rfl)
theorem dX1_leads_138 : decode cX1_leads 138 = .ok (.goto (-102), 3) := dk_167 255 154 (dk_at dksX1_leads_5 21 rfl rfl)
theorem dX1_leads_141 : decode cX1_leads 141 = .ok (.iconst 0, 1) := dk_3 (dk_at dksX1_leads_6 0 rfl rfl)
theorem dX1_leads_142 : decode cX1_leads 142 = .ok (.ireturn, 1) := dk_172 (dk_at dksX1_leads_6 1 rfl rfl)
abbrev cX1_keepFound : ByteArray := prog_1_method_48_code
def yX1_keepFound : MethodName := ⟨RX1, "keepFound", "(II)V"⟩
def dkwX1_keepFound_2 : List UInt8 := [167, 255, 216, 177]
abbrev dktX1_keepFound_2 : List UInt8 := dkwX1_keepFound_2 ++ []
def dkwX1_keepFound_1 : List UInt8 := [180, 1, 33, 28, 29, 96, 46, 104, 42, 180, 0, 89, 180, 1, 35, 28, 29, 96, 46, 96, 79, 132, 3, 1]
abbrev dktX1_keepFound_1 : List UInt8 := dkwX1_keepFound_1 ++ dktX1_keepFound_2
def dkwX1_keepFound_0 : List UInt8 := [42, 27, 181, 1, 158, 3, 62, 29, 27, 162, 0, 41, 42, 180, 0, 151, 29, 16, 16, 42, 180, 0, 89]
abbrev dktX1_keepFound_0 : List UInt8 := dkwX1_keepFound_0 ++ dktX1_keepFound_1
theorem dksX1_keepFound_0 : cX1_keepFound.data.toList.drop 0 = dktX1_keepFound_0 := by decide +kernel
theorem dksX1_keepFound_1 : cX1_keepFound.data.toList.drop 23 = dktX1_keepFound_1 := dk_seg dksX1_keepFound_0 23 rfl rfl
theorem dksX1_keepFound_2 : cX1_keepFound.data.toList.drop 47 = dktX1_keepFound_2 := dk_seg dksX1_keepFound_1 24 rfl rfl
theorem dX1_keepFound_0 : decode cX1_keepFound 0 = .ok (.aload_n 0, 1) := dk_42 (dk_at dksX1_keepFound_0 0 rfl rfl)
theorem dX1_keepFound_1 : decode cX1_keepFound 1 = .ok (.iload_n 1, 1) := dk_27 (dk_at dksX1_keepFound_0 1 rfl rfl)
theorem dX1_keepFound_2 : decode cX1_keepFound 2 = .ok (.putfield 414, 3) := dk_181 1 158 (dk_at dksX1_keepFound_0 2 rfl rfl)
theorem dX1_keepFound_5 : decode cX1_keepFound 5 = .ok (.iconst 0, 1) := dk_3 (dk_at dksX1_keepFound_0 5 rfl rfl)
theorem dX1_keepFound_6 : decode cX1_keepFound 6 = .ok (.istore_n 3, 1) := dk_62 (dk_at dksX1_keepFound_0 6 rfl rfl)
theorem dX1_keepFound_7 : decode cX1_keepFound 7 = .ok (.iload_n 3, 1) := dk_29 (dk_at dksX1_keepFound_0 7 rfl rfl)
theorem dX1_keepFound_8 : decode cX1_keepFound 8 = .ok (.iload_n 1, 1) := dk_27 (dk_at dksX1_keepFound_0 8 rfl rfl)
theorem dX1_keepFound_9 : decode cX1_keepFound 9 = .ok (.if_icmp .ge 41, 3) := dk_162 0 41 (dk_at dksX1_keepFound_0 9 rfl rfl)
theorem dX1_keepFound_12 : decode cX1_keepFound 12 = .ok (.aload_n 0, 1) := dk_42 (dk_at dksX1_keepFound_0 12 rfl rfl)
theorem dX1_keepFound_13 : decode cX1_keepFound 13 = .ok (.getfield 151, 3) := dk_180 0 151 (dk_at dksX1_keepFound_0 13 rfl rfl)
theorem dX1_keepFound_16 : decode cX1_keepFound 16 = .ok (.iload_n 3, 1) := dk_29 (dk_at dksX1_keepFound_0 16 rfl rfl)
theorem dX1_keepFound_17 : decode cX1_keepFound 17 = .ok (.bipush 16, 2) := dk_16 16 (dk_at dksX1_keepFound_0 17 rfl rfl)
theorem dX1_keepFound_19 : decode cX1_keepFound 19 = .ok (.aload_n 0, 1) := dk_42 (dk_at dksX1_keepFound_0 19 rfl rfl)
theorem dX1_keepFound_20 : decode cX1_keepFound 20 = .ok (.getfield 89, 3) := dk_180 0 89 (dk_at dksX1_keepFound_0 20 rfl rfl)
theorem dX1_keepFound_23 : decode cX1_keepFound 23 = .ok (.getfield 289, 3) := dk_180 1 33 (dk_at dksX1_keepFound_1 0 rfl rfl)
theorem dX1_keepFound_26 : decode cX1_keepFound 26 = .ok (.iload_n 2, 1) := dk_28 (dk_at dksX1_keepFound_1 3 rfl rfl)
theorem dX1_keepFound_27 : decode cX1_keepFound 27 = .ok (.iload_n 3, 1) := dk_29 (dk_at dksX1_keepFound_1 4 rfl rfl)
theorem dX1_keepFound_28 : decode cX1_keepFound 28 = .ok (.iadd, 1) := dk_96 (dk_at dksX1_keepFound_1 5 rfl rfl)
theorem dX1_keepFound_29 : decode cX1_keepFound 29 = .ok (.iaload, 1) := dk_46 (dk_at dksX1_keepFound_1 6 rfl rfl)
theorem dX1_keepFound_30 : decode cX1_keepFound 30 = .ok (.imul, 1) := dk_104 (dk_at dksX1_keepFound_1 7 rfl rfl)
theorem dX1_keepFound_31 : decode cX1_keepFound 31 = .ok (.aload_n 0, 1) := dk_42 (dk_at dksX1_keepFound_1 8 rfl rfl)
theorem dX1_keepFound_32 : decode cX1_keepFound 32 = .ok (.getfield 89, 3) := dk_180 0 89 (dk_at dksX1_keepFound_1 9 rfl rfl)
theorem dX1_keepFound_35 : decode cX1_keepFound 35 = .ok (.getfield 291, 3) := dk_180 1 35 (dk_at dksX1_keepFound_1 12 rfl rfl)
theorem dX1_keepFound_38 : decode cX1_keepFound 38 = .ok (.iload_n 2, 1) := dk_28 (dk_at dksX1_keepFound_1 15 rfl rfl)
theorem dX1_keepFound_39 : decode cX1_keepFound 39 = .ok (.iload_n 3, 1) := dk_29 (dk_at dksX1_keepFound_1 16 rfl rfl)
theorem dX1_keepFound_40 : decode cX1_keepFound 40 = .ok (.iadd, 1) := dk_96 (dk_at dksX1_keepFound_1 17 rfl rfl)
theorem dX1_keepFound_41 : decode cX1_keepFound 41 = .ok (.iaload, 1) := dk_46 (dk_at dksX1_keepFound_1 18 rfl rfl)
theorem dX1_keepFound_42 : decode cX1_keepFound 42 = .ok (.iadd, 1) := dk_96 (dk_at dksX1_keepFound_1 19 rfl rfl)
theorem dX1_keepFound_43 : decode cX1_keepFound 43 = .ok (.iastore, 1) := dk_79 (dk_at dksX1_keepFound_1 20 rfl rfl)
theorem dX1_keepFound_44 : decode cX1_keepFound 44 = .ok (.iinc 3 1, 3) := dk_132 3 1 (dk_at dksX1_keepFound_1 21 rfl rfl)
theorem dX1_keepFound_47 : decode cX1_keepFound 47 = .ok (.goto (-40), 3) := dk_167 255 216 (dk_at dksX1_keepFound_2 0 rfl rfl)
theorem dX1_keepFound_50 : decode cX1_keepFound 50 = .ok (.return_, 1) := dk_177 (dk_at dksX1_keepFound_2 3 rfl rfl)
abbrev cX1_without : ByteArray := prog_1_method_47_code
def yX1_without : MethodName := ⟨RX1, "without", "(IIII)I"⟩
def dkwX1_without_1 : List UInt8 := [16, 253, 172]
abbrev dktX1_without_1 : List UInt8 := dkwX1_without_1 ++ []
def dkwX1_without_0 : List UInt8 := [42, 180, 0, 85, 27, 182, 0, 216, 153, 0, 15, 42, 28, 29, 21, 4, 27, 182, 1, 151, 167, 0, 5]
abbrev dktX1_without_0 : List UInt8 := dkwX1_without_0 ++ dktX1_without_1
theorem dksX1_without_0 : cX1_without.data.toList.drop 0 = dktX1_without_0 := by decide +kernel
theorem dksX1_without_1 : cX1_without.data.toList.drop 23 = dktX1_without_1 := dk_seg dksX1_without_0 23 rfl rfl
theorem dX1_without_0 : decode cX1_without 0 = .ok (.aload_n 0, 1) := dk_42 (dk_at dksX1_without_0 0 rfl rfl)
theorem dX1_without_1 : decode cX1_without 1 = .ok (.getfield 85, 3) := dk_180 0 85 (dk_at dksX1_without_0 1 rfl rfl)
theorem dX1_without_4 : decode cX1_without 4 = .ok (.iload_n 1, 1) := dk_27 (dk_at dksX1_without_0 4 rfl rfl)
theorem dX1_without_5 : decode cX1_without 5 = .ok (.invokevirtual 216, 3) := dk_182 0 216 (dk_at dksX1_without_0 5 rfl rfl)
theorem dX1_without_8 : decode cX1_without 8 = .ok (.ifCond .eq 15, 3) := dk_153 0 15 (dk_at dksX1_without_0 8 rfl rfl)
theorem dX1_without_11 : decode cX1_without 11 = .ok (.aload_n 0, 1) := dk_42 (dk_at dksX1_without_0 11 rfl rfl)
theorem dX1_without_12 : decode cX1_without 12 = .ok (.iload_n 2, 1) := dk_28 (dk_at dksX1_without_0 12 rfl rfl)
theorem dX1_without_13 : decode cX1_without 13 = .ok (.iload_n 3, 1) := dk_29 (dk_at dksX1_without_0 13 rfl rfl)
theorem dX1_without_14 : decode cX1_without 14 = .ok (.iload 4, 2) := dk_21 4 (dk_at dksX1_without_0 14 rfl rfl)
theorem dX1_without_16 : decode cX1_without 16 = .ok (.iload_n 1, 1) := dk_27 (dk_at dksX1_without_0 16 rfl rfl)
theorem dX1_without_17 : decode cX1_without 17 = .ok (.invokevirtual 407, 3) := dk_182 1 151 (dk_at dksX1_without_0 17 rfl rfl)
theorem dX1_without_20 : decode cX1_without 20 = .ok (.goto 5, 3) := dk_167 0 5 (dk_at dksX1_without_0 20 rfl rfl)
theorem dX1_without_23 : decode cX1_without 23 = .ok (.bipush (-3), 2) := dk_16 253 (dk_at dksX1_without_1 0 rfl rfl)
theorem dX1_without_25 : decode cX1_without 25 = .ok (.ireturn, 1) := dk_172 (dk_at dksX1_without_1 2 rfl rfl)
abbrev cX1_game : ByteArray := prog_1_method_50_code
def yX1_game : MethodName := ⟨RX1, "game", "(IIII)I"⟩
def dkwX1_game_5 : List UInt8 := [28, 29, 21, 6, 182, 1, 161, 153, 0, 6, 21, 6, 172, 132, 6, 1, 167, 255, 230, 2, 172]
abbrev dktX1_game_5 : List UInt8 := dkwX1_game_5 ++ []
def dkwX1_game_4 : List UInt8 := [42, 180, 0, 89, 42, 180, 0, 85, 182, 1, 22, 3, 54, 6, 21, 6, 21, 4, 163, 0, 25, 42, 27, 4]
abbrev dktX1_game_4 : List UInt8 := dkwX1_game_4 ++ dktX1_game_5
def dkwX1_game_3 : List UInt8 := [180, 0, 85, 180, 0, 220, 180, 1, 11, 104, 21, 4, 19, 1, 147, 184, 1, 148, 153, 0, 6, 16, 254, 172]
abbrev dktX1_game_3 : List UInt8 := dkwX1_game_3 ++ dktX1_game_4
def dkwX1_game_2 : List UInt8 := [161, 0, 9, 27, 21, 5, 161, 0, 6, 16, 253, 172, 42, 180, 0, 85, 180, 0, 220, 180, 1, 59, 42]
abbrev dktX1_game_2 : List UInt8 := dkwX1_game_2 ++ dktX1_game_3
def dkwX1_game_1 : List UInt8 := [153, 0, 33, 21, 4, 4, 16, 8, 184, 0, 236, 153, 0, 22, 42, 28, 182, 1, 26, 153, 0, 14, 27, 4]
abbrev dktX1_game_1 : List UInt8 := dkwX1_game_1 ++ dktX1_game_2
def dkwX1_game_0 : List UInt8 := [4, 42, 180, 0, 85, 180, 0, 220, 180, 1, 59, 120, 4, 100, 54, 5, 29, 3, 16, 8, 184, 0, 236]
abbrev dktX1_game_0 : List UInt8 := dkwX1_game_0 ++ dktX1_game_1
theorem dksX1_game_0 : cX1_game.data.toList.drop 0 = dktX1_game_0 := by decide +kernel
theorem dksX1_game_1 : cX1_game.data.toList.drop 23 = dktX1_game_1 := dk_seg dksX1_game_0 23 rfl rfl
theorem dksX1_game_2 : cX1_game.data.toList.drop 47 = dktX1_game_2 := dk_seg dksX1_game_1 24 rfl rfl
theorem dksX1_game_3 : cX1_game.data.toList.drop 70 = dktX1_game_3 := dk_seg dksX1_game_2 23 rfl rfl
theorem dksX1_game_4 : cX1_game.data.toList.drop 94 = dktX1_game_4 := dk_seg dksX1_game_3 24 rfl rfl
theorem dksX1_game_5 : cX1_game.data.toList.drop 118 = dktX1_game_5 := dk_seg dksX1_game_4 24 rfl rfl
theorem dX1_game_0 : decode cX1_game 0 = .ok (.iconst 1, 1) := dk_4 (dk_at dksX1_game_0 0 rfl rfl)
theorem dX1_game_1 : decode cX1_game 1 = .ok (.aload_n 0, 1) := dk_42 (dk_at dksX1_game_0 1 rfl rfl)
theorem dX1_game_2 : decode cX1_game 2 = .ok (.getfield 85, 3) := dk_180 0 85 (dk_at dksX1_game_0 2 rfl rfl)
theorem dX1_game_5 : decode cX1_game 5 = .ok (.getfield 220, 3) := dk_180 0 220 (dk_at dksX1_game_0 5 rfl rfl)
theorem dX1_game_8 : decode cX1_game 8 = .ok (.getfield 315, 3) := dk_180 1 59 (dk_at dksX1_game_0 8 rfl rfl)
theorem dX1_game_11 : decode cX1_game 11 = .ok (.ishl, 1) := dk_120 (dk_at dksX1_game_0 11 rfl rfl)
theorem dX1_game_12 : decode cX1_game 12 = .ok (.iconst 1, 1) := dk_4 (dk_at dksX1_game_0 12 rfl rfl)
theorem dX1_game_13 : decode cX1_game 13 = .ok (.isub, 1) := dk_100 (dk_at dksX1_game_0 13 rfl rfl)
theorem dX1_game_14 : decode cX1_game 14 = .ok (.istore 5, 2) := dk_54 5 (dk_at dksX1_game_0 14 rfl rfl)
theorem dX1_game_16 : decode cX1_game 16 = .ok (.iload_n 3, 1) := dk_29 (dk_at dksX1_game_0 16 rfl rfl)
theorem dX1_game_17 : decode cX1_game 17 = .ok (.iconst 0, 1) := dk_3 (dk_at dksX1_game_0 17 rfl rfl)
theorem dX1_game_18 : decode cX1_game 18 = .ok (.bipush 8, 2) := dk_16 8 (dk_at dksX1_game_0 18 rfl rfl)
theorem dX1_game_20 : decode cX1_game 20 = .ok (.invokestatic 236, 3) := dk_184 0 236 (dk_at dksX1_game_0 20 rfl rfl)
theorem dX1_game_23 : decode cX1_game 23 = .ok (.ifCond .eq 33, 3) := dk_153 0 33 (dk_at dksX1_game_1 0 rfl rfl)
theorem dX1_game_26 : decode cX1_game 26 = .ok (.iload 4, 2) := dk_21 4 (dk_at dksX1_game_1 3 rfl rfl)
theorem dX1_game_28 : decode cX1_game 28 = .ok (.iconst 1, 1) := dk_4 (dk_at dksX1_game_1 5 rfl rfl)
theorem dX1_game_29 : decode cX1_game 29 = .ok (.bipush 8, 2) := dk_16 8 (dk_at dksX1_game_1 6 rfl rfl)
theorem dX1_game_31 : decode cX1_game 31 = .ok (.invokestatic 236, 3) := dk_184 0 236 (dk_at dksX1_game_1 8 rfl rfl)
theorem dX1_game_34 : decode cX1_game 34 = .ok (.ifCond .eq 22, 3) := dk_153 0 22 (dk_at dksX1_game_1 11 rfl rfl)
theorem dX1_game_37 : decode cX1_game 37 = .ok (.aload_n 0, 1) := dk_42 (dk_at dksX1_game_1 14 rfl rfl)
theorem dX1_game_38 : decode cX1_game 38 = .ok (.iload_n 2, 1) := dk_28 (dk_at dksX1_game_1 15 rfl rfl)
theorem dX1_game_39 : decode cX1_game 39 = .ok (.invokevirtual 282, 3) := dk_182 1 26 (dk_at dksX1_game_1 16 rfl rfl)
theorem dX1_game_42 : decode cX1_game 42 = .ok (.ifCond .eq 14, 3) := dk_153 0 14 (dk_at dksX1_game_1 19 rfl rfl)
theorem dX1_game_45 : decode cX1_game 45 = .ok (.iload_n 1, 1) := dk_27 (dk_at dksX1_game_1 22 rfl rfl)
theorem dX1_game_46 : decode cX1_game 46 = .ok (.iconst 1, 1) := dk_4 (dk_at dksX1_game_1 23 rfl rfl)
theorem dX1_game_47 : decode cX1_game 47 = .ok (.if_icmp .lt 9, 3) := dk_161 0 9 (dk_at dksX1_game_2 0 rfl rfl)
theorem dX1_game_50 : decode cX1_game 50 = .ok (.iload_n 1, 1) := dk_27 (dk_at dksX1_game_2 3 rfl rfl)
theorem dX1_game_51 : decode cX1_game 51 = .ok (.iload 5, 2) := dk_21 5 (dk_at dksX1_game_2 4 rfl rfl)
theorem dX1_game_53 : decode cX1_game 53 = .ok (.if_icmp .lt 6, 3) := dk_161 0 6 (dk_at dksX1_game_2 6 rfl rfl)
theorem dX1_game_56 : decode cX1_game 56 = .ok (.bipush (-3), 2) := dk_16 253 (dk_at dksX1_game_2 9 rfl rfl)
theorem dX1_game_58 : decode cX1_game 58 = .ok (.ireturn, 1) := dk_172 (dk_at dksX1_game_2 11 rfl rfl)
theorem dX1_game_59 : decode cX1_game 59 = .ok (.aload_n 0, 1) := dk_42 (dk_at dksX1_game_2 12 rfl rfl)
theorem dX1_game_60 : decode cX1_game 60 = .ok (.getfield 85, 3) := dk_180 0 85 (dk_at dksX1_game_2 13 rfl rfl)
theorem dX1_game_63 : decode cX1_game 63 = .ok (.getfield 220, 3) := dk_180 0 220 (dk_at dksX1_game_2 16 rfl rfl)
theorem dX1_game_66 : decode cX1_game 66 = .ok (.getfield 315, 3) := dk_180 1 59 (dk_at dksX1_game_2 19 rfl rfl)
theorem dX1_game_69 : decode cX1_game 69 = .ok (.aload_n 0, 1) := dk_42 (dk_at dksX1_game_2 22 rfl rfl)
theorem dX1_game_70 : decode cX1_game 70 = .ok (.getfield 85, 3) := dk_180 0 85 (dk_at dksX1_game_3 0 rfl rfl)
theorem dX1_game_73 : decode cX1_game 73 = .ok (.getfield 220, 3) := dk_180 0 220 (dk_at dksX1_game_3 3 rfl rfl)
theorem dX1_game_76 : decode cX1_game 76 = .ok (.getfield 267, 3) := dk_180 1 11 (dk_at dksX1_game_3 6 rfl rfl)
theorem dX1_game_79 : decode cX1_game 79 = .ok (.imul, 1) := dk_104 (dk_at dksX1_game_3 9 rfl rfl)
theorem dX1_game_80 : decode cX1_game 80 = .ok (.iload 4, 2) := dk_21 4 (dk_at dksX1_game_3 10 rfl rfl)
theorem dX1_game_82 : decode cX1_game 82 = .ok (.ldc_w 403, 3) := dk_19 1 147 (dk_at dksX1_game_3 12 rfl rfl)
theorem dX1_game_85 : decode cX1_game 85 = .ok (.invokestatic 404, 3) := dk_184 1 148 (dk_at dksX1_game_3 15 rfl rfl)
theorem dX1_game_88 : decode cX1_game 88 = .ok (.ifCond .eq 6, 3) := dk_153 0 6 (dk_at dksX1_game_3 18 rfl rfl)
theorem dX1_game_91 : decode cX1_game 91 = .ok (.bipush (-2), 2) := dk_16 254 (dk_at dksX1_game_3 21 rfl rfl)
theorem dX1_game_93 : decode cX1_game 93 = .ok (.ireturn, 1) := dk_172 (dk_at dksX1_game_3 23 rfl rfl)
theorem dX1_game_94 : decode cX1_game 94 = .ok (.aload_n 0, 1) := dk_42 (dk_at dksX1_game_4 0 rfl rfl)
theorem dX1_game_95 : decode cX1_game 95 = .ok (.getfield 89, 3) := dk_180 0 89 (dk_at dksX1_game_4 1 rfl rfl)
theorem dX1_game_98 : decode cX1_game 98 = .ok (.aload_n 0, 1) := dk_42 (dk_at dksX1_game_4 4 rfl rfl)
theorem dX1_game_99 : decode cX1_game 99 = .ok (.getfield 85, 3) := dk_180 0 85 (dk_at dksX1_game_4 5 rfl rfl)
theorem dX1_game_102 : decode cX1_game 102 = .ok (.invokevirtual 278, 3) := dk_182 1 22 (dk_at dksX1_game_4 8 rfl rfl)
theorem dX1_game_105 : decode cX1_game 105 = .ok (.iconst 0, 1) := dk_3 (dk_at dksX1_game_4 11 rfl rfl)
theorem dX1_game_106 : decode cX1_game 106 = .ok (.istore 6, 2) := dk_54 6 (dk_at dksX1_game_4 12 rfl rfl)
theorem dX1_game_108 : decode cX1_game 108 = .ok (.iload 6, 2) := dk_21 6 (dk_at dksX1_game_4 14 rfl rfl)
theorem dX1_game_110 : decode cX1_game 110 = .ok (.iload 4, 2) := dk_21 4 (dk_at dksX1_game_4 16 rfl rfl)
theorem dX1_game_112 : decode cX1_game 112 = .ok (.if_icmp .gt 25, 3) := dk_163 0 25 (dk_at dksX1_game_4 18 rfl rfl)
theorem dX1_game_115 : decode cX1_game 115 = .ok (.aload_n 0, 1) := dk_42 (dk_at dksX1_game_4 21 rfl rfl)
theorem dX1_game_116 : decode cX1_game 116 = .ok (.iload_n 1, 1) := dk_27 (dk_at dksX1_game_4 22 rfl rfl)
theorem dX1_game_117 : decode cX1_game 117 = .ok (.iconst 1, 1) := dk_4 (dk_at dksX1_game_4 23 rfl rfl)
theorem dX1_game_118 : decode cX1_game 118 = .ok (.iload_n 2, 1) := dk_28 (dk_at dksX1_game_5 0 rfl rfl)
theorem dX1_game_119 : decode cX1_game 119 = .ok (.iload_n 3, 1) := dk_29 (dk_at dksX1_game_5 1 rfl rfl)
theorem dX1_game_120 : decode cX1_game 120 = .ok (.iload 6, 2) := dk_21 6 (dk_at dksX1_game_5 2 rfl rfl)
theorem dX1_game_122 : decode cX1_game 122 = .ok (.invokevirtual 417, 3) := dk_182 1 161 (dk_at dksX1_game_5 4 rfl rfl)
theorem dX1_game_125 : decode cX1_game 125 = .ok (.ifCond .eq 6, 3) := dk_153 0 6 (dk_at dksX1_game_5 7 rfl rfl)
theorem dX1_game_128 : decode cX1_game 128 = .ok (.iload 6, 2) := dk_21 6 (dk_at dksX1_game_5 10 rfl rfl)
theorem dX1_game_130 : decode cX1_game 130 = .ok (.ireturn, 1) := dk_172 (dk_at dksX1_game_5 12 rfl rfl)
theorem dX1_game_131 : decode cX1_game 131 = .ok (.iinc 6 1, 3) := dk_132 6 1 (dk_at dksX1_game_5 13 rfl rfl)
theorem dX1_game_134 : decode cX1_game 134 = .ok (.goto (-26), 3) := dk_167 255 230 (dk_at dksX1_game_5 16 rfl rfl)
theorem dX1_game_137 : decode cX1_game 137 = .ok (.iconst (-1), 1) := dk_2 (dk_at dksX1_game_5 19 rfl rfl)
theorem dX1_game_138 : decode cX1_game 138 = .ok (.ireturn, 1) := dk_172 (dk_at dksX1_game_5 20 rfl rfl)
abbrev cX1_isWord : ByteArray := prog_1_method_19_code
def yX1_isWord : MethodName := ⟨RX1, "isWord", "(I)Z"⟩
def dkwX1_isWord_0 : List UInt8 := [27, 3, 42, 180, 0, 85, 180, 1, 3, 4, 100, 184, 0, 236, 172]
abbrev dktX1_isWord_0 : List UInt8 := dkwX1_isWord_0 ++ []
theorem dksX1_isWord_0 : cX1_isWord.data.toList.drop 0 = dktX1_isWord_0 := by decide +kernel
theorem dX1_isWord_0 : decode cX1_isWord 0 = .ok (.iload_n 1, 1) := dk_27 (dk_at dksX1_isWord_0 0 rfl rfl)
theorem dX1_isWord_1 : decode cX1_isWord 1 = .ok (.iconst 0, 1) := dk_3 (dk_at dksX1_isWord_0 1 rfl rfl)
theorem dX1_isWord_2 : decode cX1_isWord 2 = .ok (.aload_n 0, 1) := dk_42 (dk_at dksX1_isWord_0 2 rfl rfl)
theorem dX1_isWord_3 : decode cX1_isWord 3 = .ok (.getfield 85, 3) := dk_180 0 85 (dk_at dksX1_isWord_0 3 rfl rfl)
theorem dX1_isWord_6 : decode cX1_isWord 6 = .ok (.getfield 259, 3) := dk_180 1 3 (dk_at dksX1_isWord_0 6 rfl rfl)
theorem dX1_isWord_9 : decode cX1_isWord 9 = .ok (.iconst 1, 1) := dk_4 (dk_at dksX1_isWord_0 9 rfl rfl)
theorem dX1_isWord_10 : decode cX1_isWord 10 = .ok (.isub, 1) := dk_100 (dk_at dksX1_isWord_0 10 rfl rfl)
theorem dX1_isWord_11 : decode cX1_isWord 11 = .ok (.invokestatic 236, 3) := dk_184 0 236 (dk_at dksX1_isWord_0 11 rfl rfl)
theorem dX1_isWord_14 : decode cX1_isWord 14 = .ok (.ireturn, 1) := dk_172 (dk_at dksX1_isWord_0 14 rfl rfl)
abbrev cX1_isHad : ByteArray := prog_1_method_49_code
def yX1_isHad : MethodName := ⟨RX1, "isHad", "(IZIII)Z"⟩
def dkwX1_isHad_7 : List UInt8 := [154, 0, 7, 4, 167, 0, 4, 3, 172]
abbrev dktX1_isHad_7 : List UInt8 := dkwX1_isHad_7 ++ []
def dkwX1_isHad_6 : List UInt8 := [160, 0, 5, 28, 172, 132, 8, 1, 167, 255, 180, 132, 7, 1, 167, 255, 130, 21, 6, 153, 0, 11, 28]
abbrev dktX1_isHad_6 : List UInt8 := dkwX1_isHad_6 ++ dktX1_isHad_7
def dkwX1_isHad_5 : List UInt8 := [3, 29, 21, 4, 21, 5, 4, 100, 182, 1, 161, 54, 9, 42, 180, 0, 89, 182, 1, 14, 21, 9, 28]
abbrev dktX1_isHad_5 : List UInt8 := dkwX1_isHad_5 ++ dktX1_isHad_6
def dkwX1_isHad_4 : List UInt8 := [21, 8, 182, 1, 4, 158, 0, 6, 167, 0, 44, 4, 54, 6, 42, 27, 28, 154, 0, 7, 4, 167, 0, 4]
abbrev dktX1_isHad_4 : List UInt8 := dkwX1_isHad_4 ++ dktX1_isHad_5
def dkwX1_isHad_3 : List UInt8 := [54, 8, 21, 8, 42, 180, 0, 85, 180, 0, 220, 180, 1, 11, 162, 0, 67, 42, 180, 0, 89, 21, 7]
abbrev dktX1_isHad_3 : List UInt8 := dkwX1_isHad_3 ++ dktX1_isHad_4
def dkwX1_isHad_2 : List UInt8 := [180, 1, 3, 17, 1, 144, 162, 0, 104, 27, 21, 7, 184, 1, 101, 28, 159, 0, 6, 167, 0, 85, 3]
abbrev dktX1_isHad_2 : List UInt8 := dkwX1_isHad_2 ++ dktX1_isHad_3
def dkwX1_isHad_1 : List UInt8 := [54, 6, 3, 54, 7, 21, 7, 42, 180, 0, 85, 180, 0, 220, 180, 1, 59, 162, 0, 117, 42, 180, 0, 89]
abbrev dktX1_isHad_1 : List UInt8 := dkwX1_isHad_1 ++ dktX1_isHad_2
def dkwX1_isHad_0 : List UInt8 := [42, 180, 0, 89, 29, 182, 1, 44, 21, 4, 160, 0, 5, 4, 172, 21, 5, 154, 0, 5, 3, 172, 3]
abbrev dktX1_isHad_0 : List UInt8 := dkwX1_isHad_0 ++ dktX1_isHad_1
theorem dksX1_isHad_0 : cX1_isHad.data.toList.drop 0 = dktX1_isHad_0 := by decide +kernel
theorem dksX1_isHad_1 : cX1_isHad.data.toList.drop 23 = dktX1_isHad_1 := dk_seg dksX1_isHad_0 23 rfl rfl
theorem dksX1_isHad_2 : cX1_isHad.data.toList.drop 47 = dktX1_isHad_2 := dk_seg dksX1_isHad_1 24 rfl rfl
theorem dksX1_isHad_3 : cX1_isHad.data.toList.drop 70 = dktX1_isHad_3 := dk_seg dksX1_isHad_2 23 rfl rfl
theorem dksX1_isHad_4 : cX1_isHad.data.toList.drop 93 = dktX1_isHad_4 := dk_seg dksX1_isHad_3 23 rfl rfl
theorem dksX1_isHad_5 : cX1_isHad.data.toList.drop 117 = dktX1_isHad_5 := dk_seg dksX1_isHad_4 24 rfl rfl
theorem dksX1_isHad_6 : cX1_isHad.data.toList.drop 140 = dktX1_isHad_6 := dk_seg dksX1_isHad_5 23 rfl rfl
theorem dksX1_isHad_7 : cX1_isHad.data.toList.drop 163 = dktX1_isHad_7 := dk_seg dksX1_isHad_6 23 rfl rfl
theorem dX1_isHad_0 : decode cX1_isHad 0 = .ok (.aload_n 0, 1) := dk_42 (dk_at dksX1_isHad_0 0 rfl rfl)
theorem dX1_isHad_1 : decode cX1_isHad 1 = .ok (.getfield 89, 3) := dk_180 0 89 (dk_at dksX1_isHad_0 1 rfl rfl)
theorem dX1_isHad_4 : decode cX1_isHad 4 = .ok (.iload_n 3, 1) := dk_29 (dk_at dksX1_isHad_0 4 rfl rfl)
theorem dX1_isHad_5 : decode cX1_isHad 5 = .ok (.invokevirtual 300, 3) := dk_182 1 44 (dk_at dksX1_isHad_0 5 rfl rfl)
theorem dX1_isHad_8 : decode cX1_isHad 8 = .ok (.iload 4, 2) := dk_21 4 (dk_at dksX1_isHad_0 8 rfl rfl)
theorem dX1_isHad_10 : decode cX1_isHad 10 = .ok (.if_icmp .ne 5, 3) := dk_160 0 5 (dk_at dksX1_isHad_0 10 rfl rfl)
theorem dX1_isHad_13 : decode cX1_isHad 13 = .ok (.iconst 1, 1) := dk_4 (dk_at dksX1_isHad_0 13 rfl rfl)
theorem dX1_isHad_14 : decode cX1_isHad 14 = .ok (.ireturn, 1) := dk_172 (dk_at dksX1_isHad_0 14 rfl rfl)
theorem dX1_isHad_15 : decode cX1_isHad 15 = .ok (.iload 5, 2) := dk_21 5 (dk_at dksX1_isHad_0 15 rfl rfl)
theorem dX1_isHad_17 : decode cX1_isHad 17 = .ok (.ifCond .ne 5, 3) := dk_154 0 5 (dk_at dksX1_isHad_0 17 rfl rfl)
theorem dX1_isHad_20 : decode cX1_isHad 20 = .ok (.iconst 0, 1) := dk_3 (dk_at dksX1_isHad_0 20 rfl rfl)
theorem dX1_isHad_21 : decode cX1_isHad 21 = .ok (.ireturn, 1) := dk_172 (dk_at dksX1_isHad_0 21 rfl rfl)
theorem dX1_isHad_22 : decode cX1_isHad 22 = .ok (.iconst 0, 1) := dk_3 (dk_at dksX1_isHad_0 22 rfl rfl)
theorem dX1_isHad_23 : decode cX1_isHad 23 = .ok (.istore 6, 2) := dk_54 6 (dk_at dksX1_isHad_1 0 rfl rfl)
theorem dX1_isHad_25 : decode cX1_isHad 25 = .ok (.iconst 0, 1) := dk_3 (dk_at dksX1_isHad_1 2 rfl rfl)
theorem dX1_isHad_26 : decode cX1_isHad 26 = .ok (.istore 7, 2) := dk_54 7 (dk_at dksX1_isHad_1 3 rfl rfl)
theorem dX1_isHad_28 : decode cX1_isHad 28 = .ok (.iload 7, 2) := dk_21 7 (dk_at dksX1_isHad_1 5 rfl rfl)
theorem dX1_isHad_30 : decode cX1_isHad 30 = .ok (.aload_n 0, 1) := dk_42 (dk_at dksX1_isHad_1 7 rfl rfl)
theorem dX1_isHad_31 : decode cX1_isHad 31 = .ok (.getfield 85, 3) := dk_180 0 85 (dk_at dksX1_isHad_1 8 rfl rfl)
theorem dX1_isHad_34 : decode cX1_isHad 34 = .ok (.getfield 220, 3) := dk_180 0 220 (dk_at dksX1_isHad_1 11 rfl rfl)
theorem dX1_isHad_37 : decode cX1_isHad 37 = .ok (.getfield 315, 3) := dk_180 1 59 (dk_at dksX1_isHad_1 14 rfl rfl)
theorem dX1_isHad_40 : decode cX1_isHad 40 = .ok (.if_icmp .ge 117, 3) := dk_162 0 117 (dk_at dksX1_isHad_1 17 rfl rfl)
theorem dX1_isHad_43 : decode cX1_isHad 43 = .ok (.aload_n 0, 1) := dk_42 (dk_at dksX1_isHad_1 20 rfl rfl)
theorem dX1_isHad_44 : decode cX1_isHad 44 = .ok (.getfield 89, 3) := dk_180 0 89 (dk_at dksX1_isHad_1 21 rfl rfl)
theorem dX1_isHad_47 : decode cX1_isHad 47 = .ok (.getfield 259, 3) := dk_180 1 3 (dk_at dksX1_isHad_2 0 rfl rfl)
theorem dX1_isHad_50 : decode cX1_isHad 50 = .ok (.sipush 400, 3) := dk_17 1 144 (dk_at dksX1_isHad_2 3 rfl rfl)
theorem dX1_isHad_53 : decode cX1_isHad 53 = .ok (.if_icmp .ge 104, 3) := dk_162 0 104 (dk_at dksX1_isHad_2 6 rfl rfl)
theorem dX1_isHad_56 : decode cX1_isHad 56 = .ok (.iload_n 1, 1) := dk_27 (dk_at dksX1_isHad_2 9 rfl rfl)
theorem dX1_isHad_57 : decode cX1_isHad 57 = .ok (.iload 7, 2) := dk_21 7 (dk_at dksX1_isHad_2 10 rfl rfl)
theorem dX1_isHad_59 : decode cX1_isHad 59 = .ok (.invokestatic 357, 3) := dk_184 1 101 (dk_at dksX1_isHad_2 12 rfl rfl)
theorem dX1_isHad_62 : decode cX1_isHad 62 = .ok (.iload_n 2, 1) := dk_28 (dk_at dksX1_isHad_2 15 rfl rfl)
theorem dX1_isHad_63 : decode cX1_isHad 63 = .ok (.if_icmp .eq 6, 3) := dk_159 0 6 (dk_at dksX1_isHad_2 16 rfl rfl)
theorem dX1_isHad_66 : decode cX1_isHad 66 = .ok (.goto 85, 3) := dk_167 0 85 (dk_at dksX1_isHad_2 19 rfl rfl)
theorem dX1_isHad_69 : decode cX1_isHad 69 = .ok (.iconst 0, 1) := dk_3 (dk_at dksX1_isHad_2 22 rfl rfl)
theorem dX1_isHad_70 : decode cX1_isHad 70 = .ok (.istore 8, 2) := dk_54 8 (dk_at dksX1_isHad_3 0 rfl rfl)
theorem dX1_isHad_72 : decode cX1_isHad 72 = .ok (.iload 8, 2) := dk_21 8 (dk_at dksX1_isHad_3 2 rfl rfl)
theorem dX1_isHad_74 : decode cX1_isHad 74 = .ok (.aload_n 0, 1) := dk_42 (dk_at dksX1_isHad_3 4 rfl rfl)
theorem dX1_isHad_75 : decode cX1_isHad 75 = .ok (.getfield 85, 3) := dk_180 0 85 (dk_at dksX1_isHad_3 5 rfl rfl)
theorem dX1_isHad_78 : decode cX1_isHad 78 = .ok (.getfield 220, 3) := dk_180 0 220 (dk_at dksX1_isHad_3 8 rfl rfl)
theorem dX1_isHad_81 : decode cX1_isHad 81 = .ok (.getfield 267, 3) := dk_180 1 11 (dk_at dksX1_isHad_3 11 rfl rfl)
theorem dX1_isHad_84 : decode cX1_isHad 84 = .ok (.if_icmp .ge 67, 3) := dk_162 0 67 (dk_at dksX1_isHad_3 14 rfl rfl)
theorem dX1_isHad_87 : decode cX1_isHad 87 = .ok (.aload_n 0, 1) := dk_42 (dk_at dksX1_isHad_3 17 rfl rfl)
theorem dX1_isHad_88 : decode cX1_isHad 88 = .ok (.getfield 89, 3) := dk_180 0 89 (dk_at dksX1_isHad_3 18 rfl rfl)
theorem dX1_isHad_91 : decode cX1_isHad 91 = .ok (.iload 7, 2) := dk_21 7 (dk_at dksX1_isHad_3 21 rfl rfl)
theorem dX1_isHad_93 : decode cX1_isHad 93 = .ok (.iload 8, 2) := dk_21 8 (dk_at dksX1_isHad_4 0 rfl rfl)
theorem dX1_isHad_95 : decode cX1_isHad 95 = .ok (.invokevirtual 260, 3) := dk_182 1 4 (dk_at dksX1_isHad_4 2 rfl rfl)
theorem dX1_isHad_98 : decode cX1_isHad 98 = .ok (.ifCond .le 6, 3) := dk_158 0 6 (dk_at dksX1_isHad_4 5 rfl rfl)
theorem dX1_isHad_101 : decode cX1_isHad 101 = .ok (.goto 44, 3) := dk_167 0 44 (dk_at dksX1_isHad_4 8 rfl rfl)
theorem dX1_isHad_104 : decode cX1_isHad 104 = .ok (.iconst 1, 1) := dk_4 (dk_at dksX1_isHad_4 11 rfl rfl)
theorem dX1_isHad_105 : decode cX1_isHad 105 = .ok (.istore 6, 2) := dk_54 6 (dk_at dksX1_isHad_4 12 rfl rfl)
theorem dX1_isHad_107 : decode cX1_isHad 107 = .ok (.aload_n 0, 1) := dk_42 (dk_at dksX1_isHad_4 14 rfl rfl)
theorem dX1_isHad_108 : decode cX1_isHad 108 = .ok (.iload_n 1, 1) := dk_27 (dk_at dksX1_isHad_4 15 rfl rfl)
theorem dX1_isHad_109 : decode cX1_isHad 109 = .ok (.iload_n 2, 1) := dk_28 (dk_at dksX1_isHad_4 16 rfl rfl)
theorem dX1_isHad_110 : decode cX1_isHad 110 = .ok (.ifCond .ne 7, 3) := dk_154 0 7 (dk_at dksX1_isHad_4 17 rfl rfl)
theorem dX1_isHad_113 : decode cX1_isHad 113 = .ok (.iconst 1, 1) := dk_4 (dk_at dksX1_isHad_4 20 rfl rfl)
theorem dX1_isHad_114 : decode cX1_isHad 114 = .ok (.goto 4, 3) := dk_167 0 4 (dk_at dksX1_isHad_4 21 rfl rfl)
theorem dX1_isHad_117 : decode cX1_isHad 117 = .ok (.iconst 0, 1) := dk_3 (dk_at dksX1_isHad_5 0 rfl rfl)
theorem dX1_isHad_118 : decode cX1_isHad 118 = .ok (.iload_n 3, 1) := dk_29 (dk_at dksX1_isHad_5 1 rfl rfl)
theorem dX1_isHad_119 : decode cX1_isHad 119 = .ok (.iload 4, 2) := dk_21 4 (dk_at dksX1_isHad_5 2 rfl rfl)
theorem dX1_isHad_121 : decode cX1_isHad 121 = .ok (.iload 5, 2) := dk_21 5 (dk_at dksX1_isHad_5 4 rfl rfl)
theorem dX1_isHad_123 : decode cX1_isHad 123 = .ok (.iconst 1, 1) := dk_4 (dk_at dksX1_isHad_5 6 rfl rfl)
theorem dX1_isHad_124 : decode cX1_isHad 124 = .ok (.isub, 1) := dk_100 (dk_at dksX1_isHad_5 7 rfl rfl)
theorem dX1_isHad_125 : decode cX1_isHad 125 = .ok (.invokevirtual 417, 3) := dk_182 1 161 (dk_at dksX1_isHad_5 8 rfl rfl)
theorem dX1_isHad_128 : decode cX1_isHad 128 = .ok (.istore 9, 2) := dk_54 9 (dk_at dksX1_isHad_5 11 rfl rfl)
theorem dX1_isHad_130 : decode cX1_isHad 130 = .ok (.aload_n 0, 1) := dk_42 (dk_at dksX1_isHad_5 13 rfl rfl)
theorem dX1_isHad_131 : decode cX1_isHad 131 = .ok (.getfield 89, 3) := dk_180 0 89 (dk_at dksX1_isHad_5 14 rfl rfl)
theorem dX1_isHad_134 : decode cX1_isHad 134 = .ok (.invokevirtual 270, 3) := dk_182 1 14 (dk_at dksX1_isHad_5 17 rfl rfl)
theorem dX1_isHad_137 : decode cX1_isHad 137 = .ok (.iload 9, 2) := dk_21 9 (dk_at dksX1_isHad_5 20 rfl rfl)
theorem dX1_isHad_139 : decode cX1_isHad 139 = .ok (.iload_n 2, 1) := dk_28 (dk_at dksX1_isHad_5 22 rfl rfl)
theorem dX1_isHad_140 : decode cX1_isHad 140 = .ok (.if_icmp .ne 5, 3) := dk_160 0 5 (dk_at dksX1_isHad_6 0 rfl rfl)
theorem dX1_isHad_143 : decode cX1_isHad 143 = .ok (.iload_n 2, 1) := dk_28 (dk_at dksX1_isHad_6 3 rfl rfl)
theorem dX1_isHad_144 : decode cX1_isHad 144 = .ok (.ireturn, 1) := dk_172 (dk_at dksX1_isHad_6 4 rfl rfl)
theorem dX1_isHad_145 : decode cX1_isHad 145 = .ok (.iinc 8 1, 3) := dk_132 8 1 (dk_at dksX1_isHad_6 5 rfl rfl)
theorem dX1_isHad_148 : decode cX1_isHad 148 = .ok (.goto (-76), 3) := dk_167 255 180 (dk_at dksX1_isHad_6 8 rfl rfl)
theorem dX1_isHad_151 : decode cX1_isHad 151 = .ok (.iinc 7 1, 3) := dk_132 7 1 (dk_at dksX1_isHad_6 11 rfl rfl)
theorem dX1_isHad_154 : decode cX1_isHad 154 = .ok (.goto (-126), 3) := dk_167 255 130 (dk_at dksX1_isHad_6 14 rfl rfl)
theorem dX1_isHad_157 : decode cX1_isHad 157 = .ok (.iload 6, 2) := dk_21 6 (dk_at dksX1_isHad_6 17 rfl rfl)
theorem dX1_isHad_159 : decode cX1_isHad 159 = .ok (.ifCond .eq 11, 3) := dk_153 0 11 (dk_at dksX1_isHad_6 19 rfl rfl)
theorem dX1_isHad_162 : decode cX1_isHad 162 = .ok (.iload_n 2, 1) := dk_28 (dk_at dksX1_isHad_6 22 rfl rfl)
theorem dX1_isHad_163 : decode cX1_isHad 163 = .ok (.ifCond .ne 7, 3) := dk_154 0 7 (dk_at dksX1_isHad_7 0 rfl rfl)
theorem dX1_isHad_166 : decode cX1_isHad 166 = .ok (.iconst 1, 1) := dk_4 (dk_at dksX1_isHad_7 3 rfl rfl)
theorem dX1_isHad_167 : decode cX1_isHad 167 = .ok (.goto 4, 3) := dk_167 0 4 (dk_at dksX1_isHad_7 4 rfl rfl)
theorem dX1_isHad_170 : decode cX1_isHad 170 = .ok (.iconst 0, 1) := dk_3 (dk_at dksX1_isHad_7 7 rfl rfl)
theorem dX1_isHad_171 : decode cX1_isHad 171 = .ok (.ireturn, 1) := dk_172 (dk_at dksX1_isHad_7 8 rfl rfl)
abbrev cX1_unlike : ByteArray := prog_1_method_52_code
def yX1_unlike : MethodName := ⟨RX1, "unlike", "(II)I"⟩
def dkwX1_unlike_9 : List UInt8 := [172]
abbrev dktX1_unlike_9 : List UInt8 := dkwX1_unlike_9 ++ []
def dkwX1_unlike_8 : List UInt8 := [180, 1, 35, 21, 7, 46, 96, 79, 132, 7, 1, 167, 255, 215, 21, 6, 172, 132, 6, 1, 167, 255, 153, 3]
abbrev dktX1_unlike_8 : List UInt8 := dkwX1_unlike_8 ++ dktX1_unlike_9
def dkwX1_unlike_7 : List UInt8 := [180, 0, 151, 21, 7, 16, 16, 42, 180, 1, 165, 180, 1, 33, 21, 7, 46, 104, 42, 180, 1, 165]
abbrev dktX1_unlike_7 : List UInt8 := dkwX1_unlike_7 ++ dktX1_unlike_8
def dkwX1_unlike_6 : List UInt8 := [154, 0, 6, 167, 0, 59, 42, 21, 6, 181, 1, 158, 3, 54, 7, 21, 7, 21, 6, 162, 0, 40, 42]
abbrev dktX1_unlike_6 : List UInt8 := dkwX1_unlike_6 ++ dktX1_unlike_7
def dkwX1_unlike_5 : List UInt8 := [180, 0, 220, 182, 0, 201, 42, 180, 0, 92, 45, 182, 0, 201, 42, 21, 4, 21, 5, 21, 6, 182, 1, 168]
abbrev dktX1_unlike_5 : List UInt8 := dkwX1_unlike_5 ++ dktX1_unlike_6
def dkwX1_unlike_4 : List UInt8 := [153, 0, 6, 16, 254, 172, 4, 54, 6, 21, 6, 28, 163, 0, 103, 42, 180, 0, 89, 42, 180, 0, 85]
abbrev dktX1_unlike_4 : List UInt8 := dkwX1_unlike_4 ++ dktX1_unlike_5
def dkwX1_unlike_3 : List UInt8 := [180, 1, 11, 45, 180, 1, 11, 184, 1, 79, 54, 5, 21, 4, 21, 5, 104, 28, 19, 1, 147, 184, 1, 148]
abbrev dktX1_unlike_3 : List UInt8 := dkwX1_unlike_3 ++ dktX1_unlike_4
def dkwX1_unlike_2 : List UInt8 := [180, 0, 220, 180, 1, 59, 45, 180, 1, 59, 184, 1, 79, 54, 4, 42, 180, 0, 85, 180, 0, 220]
abbrev dktX1_unlike_2 : List UInt8 := dkwX1_unlike_2 ++ dktX1_unlike_3
def dkwX1_unlike_1 : List UInt8 := [184, 0, 236, 154, 0, 6, 16, 253, 172, 42, 180, 0, 161, 27, 50, 180, 0, 220, 78, 42, 180, 0, 85]
abbrev dktX1_unlike_1 : List UInt8 := dkwX1_unlike_1 ++ dktX1_unlike_2
def dkwX1_unlike_0 : List UInt8 := [27, 3, 4, 184, 0, 236, 153, 0, 22, 42, 180, 0, 161, 27, 50, 198, 0, 13, 28, 4, 16, 6]
abbrev dktX1_unlike_0 : List UInt8 := dkwX1_unlike_0 ++ dktX1_unlike_1
theorem dksX1_unlike_0 : cX1_unlike.data.toList.drop 0 = dktX1_unlike_0 := by decide +kernel
theorem dksX1_unlike_1 : cX1_unlike.data.toList.drop 22 = dktX1_unlike_1 := dk_seg dksX1_unlike_0 22 rfl rfl
theorem dksX1_unlike_2 : cX1_unlike.data.toList.drop 45 = dktX1_unlike_2 := dk_seg dksX1_unlike_1 23 rfl rfl
theorem dksX1_unlike_3 : cX1_unlike.data.toList.drop 67 = dktX1_unlike_3 := dk_seg dksX1_unlike_2 22 rfl rfl
theorem dksX1_unlike_4 : cX1_unlike.data.toList.drop 91 = dktX1_unlike_4 := dk_seg dksX1_unlike_3 24 rfl rfl
theorem dksX1_unlike_5 : cX1_unlike.data.toList.drop 114 = dktX1_unlike_5 := dk_seg dksX1_unlike_4 23 rfl rfl
theorem dksX1_unlike_6 : cX1_unlike.data.toList.drop 138 = dktX1_unlike_6 := dk_seg dksX1_unlike_5 24 rfl rfl
theorem dksX1_unlike_7 : cX1_unlike.data.toList.drop 161 = dktX1_unlike_7 := dk_seg dksX1_unlike_6 23 rfl rfl
theorem dksX1_unlike_8 : cX1_unlike.data.toList.drop 183 = dktX1_unlike_8 := dk_seg dksX1_unlike_7 22 rfl rfl
theorem dksX1_unlike_9 : cX1_unlike.data.toList.drop 207 = dktX1_unlike_9 := dk_seg dksX1_unlike_8 24 rfl rfl
theorem dX1_unlike_0 : decode cX1_unlike 0 = .ok (.iload_n 1, 1) := dk_27 (dk_at dksX1_unlike_0 0 rfl rfl)
theorem dX1_unlike_1 : decode cX1_unlike 1 = .ok (.iconst 0, 1) := dk_3 (dk_at dksX1_unlike_0 1 rfl rfl)
theorem dX1_unlike_2 : decode cX1_unlike 2 = .ok (.iconst 1, 1) := dk_4 (dk_at dksX1_unlike_0 2 rfl rfl)
theorem dX1_unlike_3 : decode cX1_unlike 3 = .ok (.invokestatic 236, 3) := dk_184 0 236 (dk_at dksX1_unlike_0 3 rfl rfl)
theorem dX1_unlike_6 : decode cX1_unlike 6 = .ok (.ifCond .eq 22, 3) := dk_153 0 22 (dk_at dksX1_unlike_0 6 rfl rfl)
theorem dX1_unlike_9 : decode cX1_unlike 9 = .ok (.aload_n 0, 1) := dk_42 (dk_at dksX1_unlike_0 9 rfl rfl)
theorem dX1_unlike_10 : decode cX1_unlike 10 = .ok (.getfield 161, 3) := dk_180 0 161 (dk_at dksX1_unlike_0 10 rfl rfl)
theorem dX1_unlike_13 : decode cX1_unlike 13 = .ok (.iload_n 1, 1) := dk_27 (dk_at dksX1_unlike_0 13 rfl rfl)
theorem dX1_unlike_14 : decode cX1_unlike 14 = .ok (.aaload, 1) := dk_50 (dk_at dksX1_unlike_0 14 rfl rfl)
theorem dX1_unlike_15 : decode cX1_unlike 15 = .ok (.ifnull 13, 3) := dk_198 0 13 (dk_at dksX1_unlike_0 15 rfl rfl)
theorem dX1_unlike_18 : decode cX1_unlike 18 = .ok (.iload_n 2, 1) := dk_28 (dk_at dksX1_unlike_0 18 rfl rfl)
theorem dX1_unlike_19 : decode cX1_unlike 19 = .ok (.iconst 1, 1) := dk_4 (dk_at dksX1_unlike_0 19 rfl rfl)
theorem dX1_unlike_20 : decode cX1_unlike 20 = .ok (.bipush 6, 2) := dk_16 6 (dk_at dksX1_unlike_0 20 rfl rfl)
theorem dX1_unlike_22 : decode cX1_unlike 22 = .ok (.invokestatic 236, 3) := dk_184 0 236 (dk_at dksX1_unlike_1 0 rfl rfl)
theorem dX1_unlike_25 : decode cX1_unlike 25 = .ok (.ifCond .ne 6, 3) := dk_154 0 6 (dk_at dksX1_unlike_1 3 rfl rfl)
theorem dX1_unlike_28 : decode cX1_unlike 28 = .ok (.bipush (-3), 2) := dk_16 253 (dk_at dksX1_unlike_1 6 rfl rfl)
theorem dX1_unlike_30 : decode cX1_unlike 30 = .ok (.ireturn, 1) := dk_172 (dk_at dksX1_unlike_1 8 rfl rfl)
theorem dX1_unlike_31 : decode cX1_unlike 31 = .ok (.aload_n 0, 1) := dk_42 (dk_at dksX1_unlike_1 9 rfl rfl)
theorem dX1_unlike_32 : decode cX1_unlike 32 = .ok (.getfield 161, 3) := dk_180 0 161 (dk_at dksX1_unlike_1 10 rfl rfl)
theorem dX1_unlike_35 : decode cX1_unlike 35 = .ok (.iload_n 1, 1) := dk_27 (dk_at dksX1_unlike_1 13 rfl rfl)
theorem dX1_unlike_36 : decode cX1_unlike 36 = .ok (.aaload, 1) := dk_50 (dk_at dksX1_unlike_1 14 rfl rfl)
theorem dX1_unlike_37 : decode cX1_unlike 37 = .ok (.getfield 220, 3) := dk_180 0 220 (dk_at dksX1_unlike_1 15 rfl rfl)
theorem dX1_unlike_40 : decode cX1_unlike 40 = .ok (.astore_n 3, 1) := dk_78 (dk_at dksX1_unlike_1 18 rfl rfl)
theorem dX1_unlike_41 : decode cX1_unlike 41 = .ok (.aload_n 0, 1) := dk_42 (dk_at dksX1_unlike_1 19 rfl rfl)
theorem dX1_unlike_42 : decode cX1_unlike 42 = .ok (.getfield 85, 3) := dk_180 0 85 (dk_at dksX1_unlike_1 20 rfl rfl)
theorem dX1_unlike_45 : decode cX1_unlike 45 = .ok (.getfield 220, 3) := dk_180 0 220 (dk_at dksX1_unlike_2 0 rfl rfl)
theorem dX1_unlike_48 : decode cX1_unlike 48 = .ok (.getfield 315, 3) := dk_180 1 59 (dk_at dksX1_unlike_2 3 rfl rfl)
theorem dX1_unlike_51 : decode cX1_unlike 51 = .ok (.aload_n 3, 1) := dk_45 (dk_at dksX1_unlike_2 6 rfl rfl)
theorem dX1_unlike_52 : decode cX1_unlike 52 = .ok (.getfield 315, 3) := dk_180 1 59 (dk_at dksX1_unlike_2 7 rfl rfl)
theorem dX1_unlike_55 : decode cX1_unlike 55 = .ok (.invokestatic 335, 3) := dk_184 1 79 (dk_at dksX1_unlike_2 10 rfl rfl)
theorem dX1_unlike_58 : decode cX1_unlike 58 = .ok (.istore 4, 2) := dk_54 4 (dk_at dksX1_unlike_2 13 rfl rfl)
theorem dX1_unlike_60 : decode cX1_unlike 60 = .ok (.aload_n 0, 1) := dk_42 (dk_at dksX1_unlike_2 15 rfl rfl)
theorem dX1_unlike_61 : decode cX1_unlike 61 = .ok (.getfield 85, 3) := dk_180 0 85 (dk_at dksX1_unlike_2 16 rfl rfl)
theorem dX1_unlike_64 : decode cX1_unlike 64 = .ok (.getfield 220, 3) := dk_180 0 220 (dk_at dksX1_unlike_2 19 rfl rfl)
theorem dX1_unlike_67 : decode cX1_unlike 67 = .ok (.getfield 267, 3) := dk_180 1 11 (dk_at dksX1_unlike_3 0 rfl rfl)
theorem dX1_unlike_70 : decode cX1_unlike 70 = .ok (.aload_n 3, 1) := dk_45 (dk_at dksX1_unlike_3 3 rfl rfl)
theorem dX1_unlike_71 : decode cX1_unlike 71 = .ok (.getfield 267, 3) := dk_180 1 11 (dk_at dksX1_unlike_3 4 rfl rfl)
theorem dX1_unlike_74 : decode cX1_unlike 74 = .ok (.invokestatic 335, 3) := dk_184 1 79 (dk_at dksX1_unlike_3 7 rfl rfl)
theorem dX1_unlike_77 : decode cX1_unlike 77 = .ok (.istore 5, 2) := dk_54 5 (dk_at dksX1_unlike_3 10 rfl rfl)
theorem dX1_unlike_79 : decode cX1_unlike 79 = .ok (.iload 4, 2) := dk_21 4 (dk_at dksX1_unlike_3 12 rfl rfl)
theorem dX1_unlike_81 : decode cX1_unlike 81 = .ok (.iload 5, 2) := dk_21 5 (dk_at dksX1_unlike_3 14 rfl rfl)
theorem dX1_unlike_83 : decode cX1_unlike 83 = .ok (.imul, 1) := dk_104 (dk_at dksX1_unlike_3 16 rfl rfl)
theorem dX1_unlike_84 : decode cX1_unlike 84 = .ok (.iload_n 2, 1) := dk_28 (dk_at dksX1_unlike_3 17 rfl rfl)
theorem dX1_unlike_85 : decode cX1_unlike 85 = .ok (.ldc_w 403, 3) := dk_19 1 147 (dk_at dksX1_unlike_3 18 rfl rfl)
theorem dX1_unlike_88 : decode cX1_unlike 88 = .ok (.invokestatic 404, 3) := dk_184 1 148 (dk_at dksX1_unlike_3 21 rfl rfl)
theorem dX1_unlike_91 : decode cX1_unlike 91 = .ok (.ifCond .eq 6, 3) := dk_153 0 6 (dk_at dksX1_unlike_4 0 rfl rfl)
theorem dX1_unlike_94 : decode cX1_unlike 94 = .ok (.bipush (-2), 2) := dk_16 254 (dk_at dksX1_unlike_4 3 rfl rfl)
theorem dX1_unlike_96 : decode cX1_unlike 96 = .ok (.ireturn, 1) := dk_172 (dk_at dksX1_unlike_4 5 rfl rfl)
theorem dX1_unlike_97 : decode cX1_unlike 97 = .ok (.iconst 1, 1) := dk_4 (dk_at dksX1_unlike_4 6 rfl rfl)
theorem dX1_unlike_98 : decode cX1_unlike 98 = .ok (.istore 6, 2) := dk_54 6 (dk_at dksX1_unlike_4 7 rfl rfl)
theorem dX1_unlike_100 : decode cX1_unlike 100 = .ok (.iload 6, 2) := dk_21 6 (dk_at dksX1_unlike_4 9 rfl rfl)
theorem dX1_unlike_102 : decode cX1_unlike 102 = .ok (.iload_n 2, 1) := dk_28 (dk_at dksX1_unlike_4 11 rfl rfl)
theorem dX1_unlike_103 : decode cX1_unlike 103 = .ok (.if_icmp .gt 103, 3) := dk_163 0 103 (dk_at dksX1_unlike_4 12 rfl rfl)
theorem dX1_unlike_106 : decode cX1_unlike 106 = .ok (.aload_n 0, 1) := dk_42 (dk_at dksX1_unlike_4 15 rfl rfl)
theorem dX1_unlike_107 : decode cX1_unlike 107 = .ok (.getfield 89, 3) := dk_180 0 89 (dk_at dksX1_unlike_4 16 rfl rfl)
theorem dX1_unlike_110 : decode cX1_unlike 110 = .ok (.aload_n 0, 1) := dk_42 (dk_at dksX1_unlike_4 19 rfl rfl)
theorem dX1_unlike_111 : decode cX1_unlike 111 = .ok (.getfield 85, 3) := dk_180 0 85 (dk_at dksX1_unlike_4 20 rfl rfl)
theorem dX1_unlike_114 : decode cX1_unlike 114 = .ok (.getfield 220, 3) := dk_180 0 220 (dk_at dksX1_unlike_5 0 rfl rfl)
theorem dX1_unlike_117 : decode cX1_unlike 117 = .ok (.invokevirtual 201, 3) := dk_182 0 201 (dk_at dksX1_unlike_5 3 rfl rfl)
theorem dX1_unlike_120 : decode cX1_unlike 120 = .ok (.aload_n 0, 1) := dk_42 (dk_at dksX1_unlike_5 6 rfl rfl)
theorem dX1_unlike_121 : decode cX1_unlike 121 = .ok (.getfield 92, 3) := dk_180 0 92 (dk_at dksX1_unlike_5 7 rfl rfl)
theorem dX1_unlike_124 : decode cX1_unlike 124 = .ok (.aload_n 3, 1) := dk_45 (dk_at dksX1_unlike_5 10 rfl rfl)
theorem dX1_unlike_125 : decode cX1_unlike 125 = .ok (.invokevirtual 201, 3) := dk_182 0 201 (dk_at dksX1_unlike_5 11 rfl rfl)
theorem dX1_unlike_128 : decode cX1_unlike 128 = .ok (.aload_n 0, 1) := dk_42 (dk_at dksX1_unlike_5 14 rfl rfl)
theorem dX1_unlike_129 : decode cX1_unlike 129 = .ok (.iload 4, 2) := dk_21 4 (dk_at dksX1_unlike_5 15 rfl rfl)
theorem dX1_unlike_131 : decode cX1_unlike 131 = .ok (.iload 5, 2) := dk_21 5 (dk_at dksX1_unlike_5 17 rfl rfl)
theorem dX1_unlike_133 : decode cX1_unlike 133 = .ok (.iload 6, 2) := dk_21 6 (dk_at dksX1_unlike_5 19 rfl rfl)
theorem dX1_unlike_135 : decode cX1_unlike 135 = .ok (.invokevirtual 424, 3) := dk_182 1 168 (dk_at dksX1_unlike_5 21 rfl rfl)
theorem dX1_unlike_138 : decode cX1_unlike 138 = .ok (.ifCond .ne 6, 3) := dk_154 0 6 (dk_at dksX1_unlike_6 0 rfl rfl)
theorem dX1_unlike_141 : decode cX1_unlike 141 = .ok (.goto 59, 3) := dk_167 0 59 (dk_at dksX1_unlike_6 3 rfl rfl)
theorem dX1_unlike_144 : decode cX1_unlike 144 = .ok (.aload_n 0, 1) := dk_42 (dk_at dksX1_unlike_6 6 rfl rfl)
theorem dX1_unlike_145 : decode cX1_unlike 145 = .ok (.iload 6, 2) := dk_21 6 (dk_at dksX1_unlike_6 7 rfl rfl)
theorem dX1_unlike_147 : decode cX1_unlike 147 = .ok (.putfield 414, 3) := dk_181 1 158 (dk_at dksX1_unlike_6 9 rfl rfl)
theorem dX1_unlike_150 : decode cX1_unlike 150 = .ok (.iconst 0, 1) := dk_3 (dk_at dksX1_unlike_6 12 rfl rfl)
theorem dX1_unlike_151 : decode cX1_unlike 151 = .ok (.istore 7, 2) := dk_54 7 (dk_at dksX1_unlike_6 13 rfl rfl)
theorem dX1_unlike_153 : decode cX1_unlike 153 = .ok (.iload 7, 2) := dk_21 7 (dk_at dksX1_unlike_6 15 rfl rfl)
theorem dX1_unlike_155 : decode cX1_unlike 155 = .ok (.iload 6, 2) := dk_21 6 (dk_at dksX1_unlike_6 17 rfl rfl)
theorem dX1_unlike_157 : decode cX1_unlike 157 = .ok (.if_icmp .ge 40, 3) := dk_162 0 40 (dk_at dksX1_unlike_6 19 rfl rfl)
theorem dX1_unlike_160 : decode cX1_unlike 160 = .ok (.aload_n 0, 1) := dk_42 (dk_at dksX1_unlike_6 22 rfl rfl)
theorem dX1_unlike_161 : decode cX1_unlike 161 = .ok (.getfield 151, 3) := dk_180 0 151 (dk_at dksX1_unlike_7 0 rfl rfl)
theorem dX1_unlike_164 : decode cX1_unlike 164 = .ok (.iload 7, 2) := dk_21 7 (dk_at dksX1_unlike_7 3 rfl rfl)
theorem dX1_unlike_166 : decode cX1_unlike 166 = .ok (.bipush 16, 2) := dk_16 16 (dk_at dksX1_unlike_7 5 rfl rfl)
theorem dX1_unlike_168 : decode cX1_unlike 168 = .ok (.aload_n 0, 1) := dk_42 (dk_at dksX1_unlike_7 7 rfl rfl)
theorem dX1_unlike_169 : decode cX1_unlike 169 = .ok (.getfield 421, 3) := dk_180 1 165 (dk_at dksX1_unlike_7 8 rfl rfl)
theorem dX1_unlike_172 : decode cX1_unlike 172 = .ok (.getfield 289, 3) := dk_180 1 33 (dk_at dksX1_unlike_7 11 rfl rfl)
theorem dX1_unlike_175 : decode cX1_unlike 175 = .ok (.iload 7, 2) := dk_21 7 (dk_at dksX1_unlike_7 14 rfl rfl)
theorem dX1_unlike_177 : decode cX1_unlike 177 = .ok (.iaload, 1) := dk_46 (dk_at dksX1_unlike_7 16 rfl rfl)
theorem dX1_unlike_178 : decode cX1_unlike 178 = .ok (.imul, 1) := dk_104 (dk_at dksX1_unlike_7 17 rfl rfl)
theorem dX1_unlike_179 : decode cX1_unlike 179 = .ok (.aload_n 0, 1) := dk_42 (dk_at dksX1_unlike_7 18 rfl rfl)
theorem dX1_unlike_180 : decode cX1_unlike 180 = .ok (.getfield 421, 3) := dk_180 1 165 (dk_at dksX1_unlike_7 19 rfl rfl)
theorem dX1_unlike_183 : decode cX1_unlike 183 = .ok (.getfield 291, 3) := dk_180 1 35 (dk_at dksX1_unlike_8 0 rfl rfl)
theorem dX1_unlike_186 : decode cX1_unlike 186 = .ok (.iload 7, 2) := dk_21 7 (dk_at dksX1_unlike_8 3 rfl rfl)
theorem dX1_unlike_188 : decode cX1_unlike 188 = .ok (.iaload, 1) := dk_46 (dk_at dksX1_unlike_8 5 rfl rfl)
theorem dX1_unlike_189 : decode cX1_unlike 189 = .ok (.iadd, 1) := dk_96 (dk_at dksX1_unlike_8 6 rfl rfl)
theorem dX1_unlike_190 : decode cX1_unlike 190 = .ok (.iastore, 1) := dk_79 (dk_at dksX1_unlike_8 7 rfl rfl)
theorem dX1_unlike_191 : decode cX1_unlike 191 = .ok (.iinc 7 1, 3) := dk_132 7 1 (dk_at dksX1_unlike_8 8 rfl rfl)
theorem dX1_unlike_194 : decode cX1_unlike 194 = .ok (.goto (-41), 3) := dk_167 255 215 (dk_at dksX1_unlike_8 11 rfl rfl)
theorem dX1_unlike_197 : decode cX1_unlike 197 = .ok (.iload 6, 2) := dk_21 6 (dk_at dksX1_unlike_8 14 rfl rfl)
theorem dX1_unlike_199 : decode cX1_unlike 199 = .ok (.ireturn, 1) := dk_172 (dk_at dksX1_unlike_8 16 rfl rfl)
theorem dX1_unlike_200 : decode cX1_unlike 200 = .ok (.iinc 6 1, 3) := dk_132 6 1 (dk_at dksX1_unlike_8 17 rfl rfl)
theorem dX1_unlike_203 : decode cX1_unlike 203 = .ok (.goto (-103), 3) := dk_167 255 153 (dk_at dksX1_unlike_8 20 rfl rfl)
theorem dX1_unlike_206 : decode cX1_unlike 206 = .ok (.iconst 0, 1) := dk_3 (dk_at dksX1_unlike_8 23 rfl rfl)
theorem dX1_unlike_207 : decode cX1_unlike 207 = .ok (.ireturn, 1) := dk_172 (dk_at dksX1_unlike_9 0 rfl rfl)
abbrev cX1_isUnlike : ByteArray := prog_1_method_51_code
def yX1_isUnlike : MethodName := ⟨RX1, "isUnlike", "(III)Z"⟩
def dkwX1_isUnlike_10 : List UInt8 := [132, 5, 1, 167, 255, 34, 132, 4, 1, 167, 255, 19, 3, 172]
abbrev dktX1_isUnlike_10 : List UInt8 := dkwX1_isUnlike_10 ++ []
def dkwX1_isUnlike_9 : List UInt8 := [182, 1, 168, 153, 0, 5, 4, 172, 42, 180, 0, 89, 182, 1, 14, 42, 180, 0, 92, 182, 1, 14]
abbrev dktX1_isUnlike_9 : List UInt8 := dkwX1_isUnlike_9 ++ dktX1_isUnlike_10
def dkwX1_isUnlike_8 : List UInt8 := [21, 5, 182, 1, 133, 42, 180, 0, 92, 21, 4, 21, 5, 182, 1, 133, 42, 27, 28, 29, 4, 100]
abbrev dktX1_isUnlike_8 : List UInt8 := dkwX1_isUnlike_8 ++ dktX1_isUnlike_9
def dkwX1_isUnlike_7 : List UInt8 := [181, 1, 165, 4, 172, 21, 6, 153, 0, 61, 21, 7, 154, 0, 6, 167, 0, 53, 42, 180, 0, 89, 21, 4]
abbrev dktX1_isUnlike_7 : List UInt8 := dkwX1_isUnlike_7 ++ dktX1_isUnlike_8
def dkwX1_isUnlike_6 : List UInt8 := [21, 5, 182, 1, 133, 42, 21, 6, 153, 0, 10, 42, 180, 0, 89, 167, 0, 7, 42, 180, 0, 92]
abbrev dktX1_isUnlike_6 : List UInt8 := dkwX1_isUnlike_6 ++ dktX1_isUnlike_7
def dkwX1_isUnlike_5 : List UInt8 := [160, 0, 6, 167, 0, 111, 21, 6, 153, 0, 10, 42, 180, 0, 89, 167, 0, 7, 42, 180, 0, 92, 21, 4]
abbrev dktX1_isUnlike_5 : List UInt8 := dkwX1_isUnlike_5 ++ dktX1_isUnlike_6
def dkwX1_isUnlike_4 : List UInt8 := [182, 1, 8, 154, 0, 7, 4, 167, 0, 4, 3, 54, 7, 29, 4, 160, 0, 58, 21, 6, 21, 7]
abbrev dktX1_isUnlike_4 : List UInt8 := dkwX1_isUnlike_4 ++ dktX1_isUnlike_5
def dkwX1_isUnlike_3 : List UInt8 := [153, 0, 33, 42, 180, 0, 92, 21, 5, 182, 0, 233, 153, 0, 21, 42, 180, 0, 92, 21, 4, 21, 5]
abbrev dktX1_isUnlike_3 : List UInt8 := dkwX1_isUnlike_3 ++ dktX1_isUnlike_4
def dkwX1_isUnlike_2 : List UInt8 := [21, 5, 182, 1, 8, 154, 0, 7, 4, 167, 0, 4, 3, 54, 6, 42, 180, 0, 92, 21, 4, 182, 0, 216]
abbrev dktX1_isUnlike_2 : List UInt8 := dkwX1_isUnlike_2 ++ dktX1_isUnlike_3
def dkwX1_isUnlike_1 : List UInt8 := [182, 0, 216, 153, 0, 33, 42, 180, 0, 89, 21, 5, 182, 0, 233, 153, 0, 21, 42, 180, 0, 89, 21, 4]
abbrev dktX1_isUnlike_1 : List UInt8 := dkwX1_isUnlike_1 ++ dktX1_isUnlike_2
def dkwX1_isUnlike_0 : List UInt8 := [3, 54, 4, 21, 4, 27, 162, 0, 237, 3, 54, 5, 21, 5, 28, 162, 0, 222, 42, 180, 0, 89, 21, 4]
abbrev dktX1_isUnlike_0 : List UInt8 := dkwX1_isUnlike_0 ++ dktX1_isUnlike_1
theorem dksX1_isUnlike_0 : cX1_isUnlike.data.toList.drop 0 = dktX1_isUnlike_0 := by decide +kernel
theorem dksX1_isUnlike_1 : cX1_isUnlike.data.toList.drop 24 = dktX1_isUnlike_1 := dk_seg dksX1_isUnlike_0 24 rfl rfl
theorem dksX1_isUnlike_2 : cX1_isUnlike.data.toList.drop 48 = dktX1_isUnlike_2 := dk_seg dksX1_isUnlike_1 24 rfl rfl
theorem dksX1_isUnlike_3 : cX1_isUnlike.data.toList.drop 72 = dktX1_isUnlike_3 := dk_seg dksX1_isUnlike_2 24 rfl rfl
theorem dksX1_isUnlike_4 : cX1_isUnlike.data.toList.drop 95 = dktX1_isUnlike_4 := dk_seg dksX1_isUnlike_3 23 rfl rfl
theorem dksX1_isUnlike_5 : cX1_isUnlike.data.toList.drop 117 = dktX1_isUnlike_5 := dk_seg dksX1_isUnlike_4 22 rfl rfl
theorem dksX1_isUnlike_6 : cX1_isUnlike.data.toList.drop 141 = dktX1_isUnlike_6 := dk_seg dksX1_isUnlike_5 24 rfl rfl
theorem dksX1_isUnlike_7 : cX1_isUnlike.data.toList.drop 163 = dktX1_isUnlike_7 := dk_seg dksX1_isUnlike_6 22 rfl rfl
theorem dksX1_isUnlike_8 : cX1_isUnlike.data.toList.drop 187 = dktX1_isUnlike_8 := dk_seg dksX1_isUnlike_7 24 rfl rfl
theorem dksX1_isUnlike_9 : cX1_isUnlike.data.toList.drop 209 = dktX1_isUnlike_9 := dk_seg dksX1_isUnlike_8 22 rfl rfl
theorem dksX1_isUnlike_10 : cX1_isUnlike.data.toList.drop 231 = dktX1_isUnlike_10 := dk_seg dksX1_isUnlike_9 22 rfl rfl
theorem dX1_isUnlike_0 : decode cX1_isUnlike 0 = .ok (.iconst 0, 1) := dk_3 (dk_at dksX1_isUnlike_0 0 rfl rfl)
theorem dX1_isUnlike_1 : decode cX1_isUnlike 1 = .ok (.istore 4, 2) := dk_54 4 (dk_at dksX1_isUnlike_0 1 rfl rfl)
theorem dX1_isUnlike_3 : decode cX1_isUnlike 3 = .ok (.iload 4, 2) := dk_21 4 (dk_at dksX1_isUnlike_0 3 rfl rfl)
theorem dX1_isUnlike_5 : decode cX1_isUnlike 5 = .ok (.iload_n 1, 1) := dk_27 (dk_at dksX1_isUnlike_0 5 rfl rfl)
theorem dX1_isUnlike_6 : decode cX1_isUnlike 6 = .ok (.if_icmp .ge 237, 3) := dk_162 0 237 (dk_at dksX1_isUnlike_0 6 rfl rfl)
theorem dX1_isUnlike_9 : decode cX1_isUnlike 9 = .ok (.iconst 0, 1) := dk_3 (dk_at dksX1_isUnlike_0 9 rfl rfl)
theorem dX1_isUnlike_10 : decode cX1_isUnlike 10 = .ok (.istore 5, 2) := dk_54 5 (dk_at dksX1_isUnlike_0 10 rfl rfl)
theorem dX1_isUnlike_12 : decode cX1_isUnlike 12 = .ok (.iload 5, 2) := dk_21 5 (dk_at dksX1_isUnlike_0 12 rfl rfl)
theorem dX1_isUnlike_14 : decode cX1_isUnlike 14 = .ok (.iload_n 2, 1) := dk_28 (dk_at dksX1_isUnlike_0 14 rfl rfl)
theorem dX1_isUnlike_15 : decode cX1_isUnlike 15 = .ok (.if_icmp .ge 222, 3) := dk_162 0 222 (dk_at dksX1_isUnlike_0 15 rfl rfl)
theorem dX1_isUnlike_18 : decode cX1_isUnlike 18 = .ok (.aload_n 0, 1) := dk_42 (dk_at dksX1_isUnlike_0 18 rfl rfl)
theorem dX1_isUnlike_19 : decode cX1_isUnlike 19 = .ok (.getfield 89, 3) := dk_180 0 89 (dk_at dksX1_isUnlike_0 19 rfl rfl)
theorem dX1_isUnlike_22 : decode cX1_isUnlike 22 = .ok (.iload 4, 2) := dk_21 4 (dk_at dksX1_isUnlike_0 22 rfl rfl)
theorem dX1_isUnlike_24 : decode cX1_isUnlike 24 = .ok (.invokevirtual 216, 3) := dk_182 0 216 (dk_at dksX1_isUnlike_1 0 rfl rfl)
theorem dX1_isUnlike_27 : decode cX1_isUnlike 27 = .ok (.ifCond .eq 33, 3) := dk_153 0 33 (dk_at dksX1_isUnlike_1 3 rfl rfl)
theorem dX1_isUnlike_30 : decode cX1_isUnlike 30 = .ok (.aload_n 0, 1) := dk_42 (dk_at dksX1_isUnlike_1 6 rfl rfl)
theorem dX1_isUnlike_31 : decode cX1_isUnlike 31 = .ok (.getfield 89, 3) := dk_180 0 89 (dk_at dksX1_isUnlike_1 7 rfl rfl)
theorem dX1_isUnlike_34 : decode cX1_isUnlike 34 = .ok (.iload 5, 2) := dk_21 5 (dk_at dksX1_isUnlike_1 10 rfl rfl)
theorem dX1_isUnlike_36 : decode cX1_isUnlike 36 = .ok (.invokevirtual 233, 3) := dk_182 0 233 (dk_at dksX1_isUnlike_1 12 rfl rfl)
theorem dX1_isUnlike_39 : decode cX1_isUnlike 39 = .ok (.ifCond .eq 21, 3) := dk_153 0 21 (dk_at dksX1_isUnlike_1 15 rfl rfl)
theorem dX1_isUnlike_42 : decode cX1_isUnlike 42 = .ok (.aload_n 0, 1) := dk_42 (dk_at dksX1_isUnlike_1 18 rfl rfl)
theorem dX1_isUnlike_43 : decode cX1_isUnlike 43 = .ok (.getfield 89, 3) := dk_180 0 89 (dk_at dksX1_isUnlike_1 19 rfl rfl)
theorem dX1_isUnlike_46 : decode cX1_isUnlike 46 = .ok (.iload 4, 2) := dk_21 4 (dk_at dksX1_isUnlike_1 22 rfl rfl)
theorem dX1_isUnlike_48 : decode cX1_isUnlike 48 = .ok (.iload 5, 2) := dk_21 5 (dk_at dksX1_isUnlike_2 0 rfl rfl)
theorem dX1_isUnlike_50 : decode cX1_isUnlike 50 = .ok (.invokevirtual 264, 3) := dk_182 1 8 (dk_at dksX1_isUnlike_2 2 rfl rfl)
theorem dX1_isUnlike_53 : decode cX1_isUnlike 53 = .ok (.ifCond .ne 7, 3) := dk_154 0 7 (dk_at dksX1_isUnlike_2 5 rfl rfl)
theorem dX1_isUnlike_56 : decode cX1_isUnlike 56 = .ok (.iconst 1, 1) := dk_4 (dk_at dksX1_isUnlike_2 8 rfl rfl)
theorem dX1_isUnlike_57 : decode cX1_isUnlike 57 = .ok (.goto 4, 3) := dk_167 0 4 (dk_at dksX1_isUnlike_2 9 rfl rfl)
theorem dX1_isUnlike_60 : decode cX1_isUnlike 60 = .ok (.iconst 0, 1) := dk_3 (dk_at dksX1_isUnlike_2 12 rfl rfl)
theorem dX1_isUnlike_61 : decode cX1_isUnlike 61 = .ok (.istore 6, 2) := dk_54 6 (dk_at dksX1_isUnlike_2 13 rfl rfl)
theorem dX1_isUnlike_63 : decode cX1_isUnlike 63 = .ok (.aload_n 0, 1) := dk_42 (dk_at dksX1_isUnlike_2 15 rfl rfl)
theorem dX1_isUnlike_64 : decode cX1_isUnlike 64 = .ok (.getfield 92, 3) := dk_180 0 92 (dk_at dksX1_isUnlike_2 16 rfl rfl)
theorem dX1_isUnlike_67 : decode cX1_isUnlike 67 = .ok (.iload 4, 2) := dk_21 4 (dk_at dksX1_isUnlike_2 19 rfl rfl)
theorem dX1_isUnlike_69 : decode cX1_isUnlike 69 = .ok (.invokevirtual 216, 3) := dk_182 0 216 (dk_at dksX1_isUnlike_2 21 rfl rfl)
theorem dX1_isUnlike_72 : decode cX1_isUnlike 72 = .ok (.ifCond .eq 33, 3) := dk_153 0 33 (dk_at dksX1_isUnlike_3 0 rfl rfl)
theorem dX1_isUnlike_75 : decode cX1_isUnlike 75 = .ok (.aload_n 0, 1) := dk_42 (dk_at dksX1_isUnlike_3 3 rfl rfl)
theorem dX1_isUnlike_76 : decode cX1_isUnlike 76 = .ok (.getfield 92, 3) := dk_180 0 92 (dk_at dksX1_isUnlike_3 4 rfl rfl)
theorem dX1_isUnlike_79 : decode cX1_isUnlike 79 = .ok (.iload 5, 2) := dk_21 5 (dk_at dksX1_isUnlike_3 7 rfl rfl)
theorem dX1_isUnlike_81 : decode cX1_isUnlike 81 = .ok (.invokevirtual 233, 3) := dk_182 0 233 (dk_at dksX1_isUnlike_3 9 rfl rfl)
theorem dX1_isUnlike_84 : decode cX1_isUnlike 84 = .ok (.ifCond .eq 21, 3) := dk_153 0 21 (dk_at dksX1_isUnlike_3 12 rfl rfl)
theorem dX1_isUnlike_87 : decode cX1_isUnlike 87 = .ok (.aload_n 0, 1) := dk_42 (dk_at dksX1_isUnlike_3 15 rfl rfl)
theorem dX1_isUnlike_88 : decode cX1_isUnlike 88 = .ok (.getfield 92, 3) := dk_180 0 92 (dk_at dksX1_isUnlike_3 16 rfl rfl)
theorem dX1_isUnlike_91 : decode cX1_isUnlike 91 = .ok (.iload 4, 2) := dk_21 4 (dk_at dksX1_isUnlike_3 19 rfl rfl)
theorem dX1_isUnlike_93 : decode cX1_isUnlike 93 = .ok (.iload 5, 2) := dk_21 5 (dk_at dksX1_isUnlike_3 21 rfl rfl)
theorem dX1_isUnlike_95 : decode cX1_isUnlike 95 = .ok (.invokevirtual 264, 3) := dk_182 1 8 (dk_at dksX1_isUnlike_4 0 rfl rfl)
theorem dX1_isUnlike_98 : decode cX1_isUnlike 98 = .ok (.ifCond .ne 7, 3) := dk_154 0 7 (dk_at dksX1_isUnlike_4 3 rfl rfl)
theorem dX1_isUnlike_101 : decode cX1_isUnlike 101 = .ok (.iconst 1, 1) := dk_4 (dk_at dksX1_isUnlike_4 6 rfl rfl)
theorem dX1_isUnlike_102 : decode cX1_isUnlike 102 = .ok (.goto 4, 3) := dk_167 0 4 (dk_at dksX1_isUnlike_4 7 rfl rfl)
theorem dX1_isUnlike_105 : decode cX1_isUnlike 105 = .ok (.iconst 0, 1) := dk_3 (dk_at dksX1_isUnlike_4 10 rfl rfl)
theorem dX1_isUnlike_106 : decode cX1_isUnlike 106 = .ok (.istore 7, 2) := dk_54 7 (dk_at dksX1_isUnlike_4 11 rfl rfl)
theorem dX1_isUnlike_108 : decode cX1_isUnlike 108 = .ok (.iload_n 3, 1) := dk_29 (dk_at dksX1_isUnlike_4 13 rfl rfl)
theorem dX1_isUnlike_109 : decode cX1_isUnlike 109 = .ok (.iconst 1, 1) := dk_4 (dk_at dksX1_isUnlike_4 14 rfl rfl)
theorem dX1_isUnlike_110 : decode cX1_isUnlike 110 = .ok (.if_icmp .ne 58, 3) := dk_160 0 58 (dk_at dksX1_isUnlike_4 15 rfl rfl)
theorem dX1_isUnlike_113 : decode cX1_isUnlike 113 = .ok (.iload 6, 2) := dk_21 6 (dk_at dksX1_isUnlike_4 18 rfl rfl)
theorem dX1_isUnlike_115 : decode cX1_isUnlike 115 = .ok (.iload 7, 2) := dk_21 7 (dk_at dksX1_isUnlike_4 20 rfl rfl)
theorem dX1_isUnlike_117 : decode cX1_isUnlike 117 = .ok (.if_icmp .ne 6, 3) := dk_160 0 6 (dk_at dksX1_isUnlike_5 0 rfl rfl)
theorem dX1_isUnlike_120 : decode cX1_isUnlike 120 = .ok (.goto 111, 3) := dk_167 0 111 (dk_at dksX1_isUnlike_5 3 rfl rfl)
theorem dX1_isUnlike_123 : decode cX1_isUnlike 123 = .ok (.iload 6, 2) := dk_21 6 (dk_at dksX1_isUnlike_5 6 rfl rfl)
theorem dX1_isUnlike_125 : decode cX1_isUnlike 125 = .ok (.ifCond .eq 10, 3) := dk_153 0 10 (dk_at dksX1_isUnlike_5 8 rfl rfl)
theorem dX1_isUnlike_128 : decode cX1_isUnlike 128 = .ok (.aload_n 0, 1) := dk_42 (dk_at dksX1_isUnlike_5 11 rfl rfl)
theorem dX1_isUnlike_129 : decode cX1_isUnlike 129 = .ok (.getfield 89, 3) := dk_180 0 89 (dk_at dksX1_isUnlike_5 12 rfl rfl)
theorem dX1_isUnlike_132 : decode cX1_isUnlike 132 = .ok (.goto 7, 3) := dk_167 0 7 (dk_at dksX1_isUnlike_5 15 rfl rfl)
theorem dX1_isUnlike_135 : decode cX1_isUnlike 135 = .ok (.aload_n 0, 1) := dk_42 (dk_at dksX1_isUnlike_5 18 rfl rfl)
theorem dX1_isUnlike_136 : decode cX1_isUnlike 136 = .ok (.getfield 92, 3) := dk_180 0 92 (dk_at dksX1_isUnlike_5 19 rfl rfl)
theorem dX1_isUnlike_139 : decode cX1_isUnlike 139 = .ok (.iload 4, 2) := dk_21 4 (dk_at dksX1_isUnlike_5 22 rfl rfl)
theorem dX1_isUnlike_141 : decode cX1_isUnlike 141 = .ok (.iload 5, 2) := dk_21 5 (dk_at dksX1_isUnlike_6 0 rfl rfl)
theorem dX1_isUnlike_143 : decode cX1_isUnlike 143 = .ok (.invokevirtual 389, 3) := dk_182 1 133 (dk_at dksX1_isUnlike_6 2 rfl rfl)
theorem dX1_isUnlike_146 : decode cX1_isUnlike 146 = .ok (.aload_n 0, 1) := dk_42 (dk_at dksX1_isUnlike_6 5 rfl rfl)
theorem dX1_isUnlike_147 : decode cX1_isUnlike 147 = .ok (.iload 6, 2) := dk_21 6 (dk_at dksX1_isUnlike_6 6 rfl rfl)
theorem dX1_isUnlike_149 : decode cX1_isUnlike 149 = .ok (.ifCond .eq 10, 3) := dk_153 0 10 (dk_at dksX1_isUnlike_6 8 rfl rfl)
theorem dX1_isUnlike_152 : decode cX1_isUnlike 152 = .ok (.aload_n 0, 1) := dk_42 (dk_at dksX1_isUnlike_6 11 rfl rfl)
theorem dX1_isUnlike_153 : decode cX1_isUnlike 153 = .ok (.getfield 89, 3) := dk_180 0 89 (dk_at dksX1_isUnlike_6 12 rfl rfl)
theorem dX1_isUnlike_156 : decode cX1_isUnlike 156 = .ok (.goto 7, 3) := dk_167 0 7 (dk_at dksX1_isUnlike_6 15 rfl rfl)
theorem dX1_isUnlike_159 : decode cX1_isUnlike 159 = .ok (.aload_n 0, 1) := dk_42 (dk_at dksX1_isUnlike_6 18 rfl rfl)
theorem dX1_isUnlike_160 : decode cX1_isUnlike 160 = .ok (.getfield 92, 3) := dk_180 0 92 (dk_at dksX1_isUnlike_6 19 rfl rfl)
theorem dX1_isUnlike_163 : decode cX1_isUnlike 163 = .ok (.putfield 421, 3) := dk_181 1 165 (dk_at dksX1_isUnlike_7 0 rfl rfl)
theorem dX1_isUnlike_166 : decode cX1_isUnlike 166 = .ok (.iconst 1, 1) := dk_4 (dk_at dksX1_isUnlike_7 3 rfl rfl)
theorem dX1_isUnlike_167 : decode cX1_isUnlike 167 = .ok (.ireturn, 1) := dk_172 (dk_at dksX1_isUnlike_7 4 rfl rfl)
theorem dX1_isUnlike_168 : decode cX1_isUnlike 168 = .ok (.iload 6, 2) := dk_21 6 (dk_at dksX1_isUnlike_7 5 rfl rfl)
theorem dX1_isUnlike_170 : decode cX1_isUnlike 170 = .ok (.ifCond .eq 61, 3) := dk_153 0 61 (dk_at dksX1_isUnlike_7 7 rfl rfl)
theorem dX1_isUnlike_173 : decode cX1_isUnlike 173 = .ok (.iload 7, 2) := dk_21 7 (dk_at dksX1_isUnlike_7 10 rfl rfl)
theorem dX1_isUnlike_175 : decode cX1_isUnlike 175 = .ok (.ifCond .ne 6, 3) := dk_154 0 6 (dk_at dksX1_isUnlike_7 12 rfl rfl)
theorem dX1_isUnlike_178 : decode cX1_isUnlike 178 = .ok (.goto 53, 3) := dk_167 0 53 (dk_at dksX1_isUnlike_7 15 rfl rfl)
theorem dX1_isUnlike_181 : decode cX1_isUnlike 181 = .ok (.aload_n 0, 1) := dk_42 (dk_at dksX1_isUnlike_7 18 rfl rfl)
theorem dX1_isUnlike_182 : decode cX1_isUnlike 182 = .ok (.getfield 89, 3) := dk_180 0 89 (dk_at dksX1_isUnlike_7 19 rfl rfl)
theorem dX1_isUnlike_185 : decode cX1_isUnlike 185 = .ok (.iload 4, 2) := dk_21 4 (dk_at dksX1_isUnlike_7 22 rfl rfl)
theorem dX1_isUnlike_187 : decode cX1_isUnlike 187 = .ok (.iload 5, 2) := dk_21 5 (dk_at dksX1_isUnlike_8 0 rfl rfl)
theorem dX1_isUnlike_189 : decode cX1_isUnlike 189 = .ok (.invokevirtual 389, 3) := dk_182 1 133 (dk_at dksX1_isUnlike_8 2 rfl rfl)
theorem dX1_isUnlike_192 : decode cX1_isUnlike 192 = .ok (.aload_n 0, 1) := dk_42 (dk_at dksX1_isUnlike_8 5 rfl rfl)
theorem dX1_isUnlike_193 : decode cX1_isUnlike 193 = .ok (.getfield 92, 3) := dk_180 0 92 (dk_at dksX1_isUnlike_8 6 rfl rfl)
theorem dX1_isUnlike_196 : decode cX1_isUnlike 196 = .ok (.iload 4, 2) := dk_21 4 (dk_at dksX1_isUnlike_8 9 rfl rfl)
theorem dX1_isUnlike_198 : decode cX1_isUnlike 198 = .ok (.iload 5, 2) := dk_21 5 (dk_at dksX1_isUnlike_8 11 rfl rfl)
theorem dX1_isUnlike_200 : decode cX1_isUnlike 200 = .ok (.invokevirtual 389, 3) := dk_182 1 133 (dk_at dksX1_isUnlike_8 13 rfl rfl)
theorem dX1_isUnlike_203 : decode cX1_isUnlike 203 = .ok (.aload_n 0, 1) := dk_42 (dk_at dksX1_isUnlike_8 16 rfl rfl)
theorem dX1_isUnlike_204 : decode cX1_isUnlike 204 = .ok (.iload_n 1, 1) := dk_27 (dk_at dksX1_isUnlike_8 17 rfl rfl)
theorem dX1_isUnlike_205 : decode cX1_isUnlike 205 = .ok (.iload_n 2, 1) := dk_28 (dk_at dksX1_isUnlike_8 18 rfl rfl)
theorem dX1_isUnlike_206 : decode cX1_isUnlike 206 = .ok (.iload_n 3, 1) := dk_29 (dk_at dksX1_isUnlike_8 19 rfl rfl)
theorem dX1_isUnlike_207 : decode cX1_isUnlike 207 = .ok (.iconst 1, 1) := dk_4 (dk_at dksX1_isUnlike_8 20 rfl rfl)
theorem dX1_isUnlike_208 : decode cX1_isUnlike 208 = .ok (.isub, 1) := dk_100 (dk_at dksX1_isUnlike_8 21 rfl rfl)
theorem dX1_isUnlike_209 : decode cX1_isUnlike 209 = .ok (.invokevirtual 424, 3) := dk_182 1 168 (dk_at dksX1_isUnlike_9 0 rfl rfl)
theorem dX1_isUnlike_212 : decode cX1_isUnlike 212 = .ok (.ifCond .eq 5, 3) := dk_153 0 5 (dk_at dksX1_isUnlike_9 3 rfl rfl)
theorem dX1_isUnlike_215 : decode cX1_isUnlike 215 = .ok (.iconst 1, 1) := dk_4 (dk_at dksX1_isUnlike_9 6 rfl rfl)
theorem dX1_isUnlike_216 : decode cX1_isUnlike 216 = .ok (.ireturn, 1) := dk_172 (dk_at dksX1_isUnlike_9 7 rfl rfl)
theorem dX1_isUnlike_217 : decode cX1_isUnlike 217 = .ok (.aload_n 0, 1) := dk_42 (dk_at dksX1_isUnlike_9 8 rfl rfl)
theorem dX1_isUnlike_218 : decode cX1_isUnlike 218 = .ok (.getfield 89, 3) := dk_180 0 89 (dk_at dksX1_isUnlike_9 9 rfl rfl)
theorem dX1_isUnlike_221 : decode cX1_isUnlike 221 = .ok (.invokevirtual 270, 3) := dk_182 1 14 (dk_at dksX1_isUnlike_9 12 rfl rfl)
theorem dX1_isUnlike_224 : decode cX1_isUnlike 224 = .ok (.aload_n 0, 1) := dk_42 (dk_at dksX1_isUnlike_9 15 rfl rfl)
theorem dX1_isUnlike_225 : decode cX1_isUnlike 225 = .ok (.getfield 92, 3) := dk_180 0 92 (dk_at dksX1_isUnlike_9 16 rfl rfl)
theorem dX1_isUnlike_228 : decode cX1_isUnlike 228 = .ok (.invokevirtual 270, 3) := dk_182 1 14 (dk_at dksX1_isUnlike_9 19 rfl rfl)
theorem dX1_isUnlike_231 : decode cX1_isUnlike 231 = .ok (.iinc 5 1, 3) := dk_132 5 1 (dk_at dksX1_isUnlike_10 0 rfl rfl)
theorem dX1_isUnlike_234 : decode cX1_isUnlike 234 = .ok (.goto (-222), 3) := dk_167 255 34 (dk_at dksX1_isUnlike_10 3 rfl rfl)
theorem dX1_isUnlike_237 : decode cX1_isUnlike 237 = .ok (.iinc 4 1, 3) := dk_132 4 1 (dk_at dksX1_isUnlike_10 6 rfl rfl)
theorem dX1_isUnlike_240 : decode cX1_isUnlike 240 = .ok (.goto (-237), 3) := dk_167 255 19 (dk_at dksX1_isUnlike_10 9 rfl rfl)
theorem dX1_isUnlike_243 : decode cX1_isUnlike 243 = .ok (.iconst 0, 1) := dk_3 (dk_at dksX1_isUnlike_10 12 rfl rfl)
theorem dX1_isUnlike_244 : decode cX1_isUnlike 244 = .ok (.ireturn, 1) := dk_172 (dk_at dksX1_isUnlike_10 13 rfl rfl)
abbrev cX1_found : ByteArray := prog_1_method_53_code
def yX1_found : MethodName := ⟨RX1, "found", "(I)I"⟩
def dkwX1_found_1 : List UInt8 := [172]
abbrev dktX1_found_1 : List UInt8 := dkwX1_found_1 ++ []
def dkwX1_found_0 : List UInt8 := [27, 3, 42, 180, 1, 158, 4, 100, 184, 0, 236, 153, 0, 12, 42, 180, 0, 151, 27, 46, 167, 0, 4, 2]
abbrev dktX1_found_0 : List UInt8 := dkwX1_found_0 ++ dktX1_found_1
theorem dksX1_found_0 : cX1_found.data.toList.drop 0 = dktX1_found_0 := by decide +kernel
theorem dksX1_found_1 : cX1_found.data.toList.drop 24 = dktX1_found_1 := dk_seg dksX1_found_0 24 rfl rfl
theorem dX1_found_0 : decode cX1_found 0 = .ok (.iload_n 1, 1) := dk_27 (dk_at dksX1_found_0 0 rfl rfl)
theorem dX1_found_1 : decode cX1_found 1 = .ok (.iconst 0, 1) := dk_3 (dk_at dksX1_found_0 1 rfl rfl)
theorem dX1_found_2 : decode cX1_found 2 = .ok (.aload_n 0, 1) := dk_42 (dk_at dksX1_found_0 2 rfl rfl)
theorem dX1_found_3 : decode cX1_found 3 = .ok (.getfield 414, 3) := dk_180 1 158 (dk_at dksX1_found_0 3 rfl rfl)
theorem dX1_found_6 : decode cX1_found 6 = .ok (.iconst 1, 1) := dk_4 (dk_at dksX1_found_0 6 rfl rfl)
theorem dX1_found_7 : decode cX1_found 7 = .ok (.isub, 1) := dk_100 (dk_at dksX1_found_0 7 rfl rfl)
theorem dX1_found_8 : decode cX1_found 8 = .ok (.invokestatic 236, 3) := dk_184 0 236 (dk_at dksX1_found_0 8 rfl rfl)
theorem dX1_found_11 : decode cX1_found 11 = .ok (.ifCond .eq 12, 3) := dk_153 0 12 (dk_at dksX1_found_0 11 rfl rfl)
theorem dX1_found_14 : decode cX1_found 14 = .ok (.aload_n 0, 1) := dk_42 (dk_at dksX1_found_0 14 rfl rfl)
theorem dX1_found_15 : decode cX1_found 15 = .ok (.getfield 151, 3) := dk_180 0 151 (dk_at dksX1_found_0 15 rfl rfl)
theorem dX1_found_18 : decode cX1_found 18 = .ok (.iload_n 1, 1) := dk_27 (dk_at dksX1_found_0 18 rfl rfl)
theorem dX1_found_19 : decode cX1_found 19 = .ok (.iaload, 1) := dk_46 (dk_at dksX1_found_0 19 rfl rfl)
theorem dX1_found_20 : decode cX1_found 20 = .ok (.goto 4, 3) := dk_167 0 4 (dk_at dksX1_found_0 20 rfl rfl)
theorem dX1_found_23 : decode cX1_found 23 = .ok (.iconst (-1), 1) := dk_2 (dk_at dksX1_found_0 23 rfl rfl)
theorem dX1_found_24 : decode cX1_found 24 = .ok (.ireturn, 1) := dk_172 (dk_at dksX1_found_1 0 rfl rfl)
abbrev cX1_sentence : ByteArray := prog_1_method_54_code
def yX1_sentence : MethodName := ⟨RX1, "sentence", "()I"⟩
def dkwX1_sentence_1 : List UInt8 := [180, 1, 174, 172, 76, 42, 43, 180, 0, 212, 181, 0, 191, 2, 43, 180, 0, 214, 100, 172]
abbrev dktX1_sentence_1 : List UInt8 := dkwX1_sentence_1 ++ []
def dkwX1_sentence_0 : List UInt8 := [42, 182, 0, 188, 42, 3, 181, 0, 191, 42, 42, 180, 0, 157, 182, 1, 171, 181, 0, 208, 42, 180, 0, 157]
abbrev dktX1_sentence_0 : List UInt8 := dkwX1_sentence_0 ++ dktX1_sentence_1
theorem dksX1_sentence_0 : cX1_sentence.data.toList.drop 0 = dktX1_sentence_0 := by decide +kernel
theorem dksX1_sentence_1 : cX1_sentence.data.toList.drop 24 = dktX1_sentence_1 := dk_seg dksX1_sentence_0 24 rfl rfl
theorem dX1_sentence_0 : decode cX1_sentence 0 = .ok (.aload_n 0, 1) := dk_42 (dk_at dksX1_sentence_0 0 rfl rfl)
theorem dX1_sentence_1 : decode cX1_sentence 1 = .ok (.invokevirtual 188, 3) := dk_182 0 188 (dk_at dksX1_sentence_0 1 rfl rfl)
theorem dX1_sentence_4 : decode cX1_sentence 4 = .ok (.aload_n 0, 1) := dk_42 (dk_at dksX1_sentence_0 4 rfl rfl)
theorem dX1_sentence_5 : decode cX1_sentence 5 = .ok (.iconst 0, 1) := dk_3 (dk_at dksX1_sentence_0 5 rfl rfl)
theorem dX1_sentence_6 : decode cX1_sentence 6 = .ok (.putfield 191, 3) := dk_181 0 191 (dk_at dksX1_sentence_0 6 rfl rfl)
theorem dX1_sentence_9 : decode cX1_sentence 9 = .ok (.aload_n 0, 1) := dk_42 (dk_at dksX1_sentence_0 9 rfl rfl)
theorem dX1_sentence_10 : decode cX1_sentence 10 = .ok (.aload_n 0, 1) := dk_42 (dk_at dksX1_sentence_0 10 rfl rfl)
theorem dX1_sentence_11 : decode cX1_sentence 11 = .ok (.getfield 157, 3) := dk_180 0 157 (dk_at dksX1_sentence_0 11 rfl rfl)
theorem dX1_sentence_14 : decode cX1_sentence 14 = .ok (.invokevirtual 427, 3) := dk_182 1 171 (dk_at dksX1_sentence_0 14 rfl rfl)
theorem dX1_sentence_17 : decode cX1_sentence 17 = .ok (.putfield 208, 3) := dk_181 0 208 (dk_at dksX1_sentence_0 17 rfl rfl)
theorem dX1_sentence_20 : decode cX1_sentence 20 = .ok (.aload_n 0, 1) := dk_42 (dk_at dksX1_sentence_0 20 rfl rfl)
theorem dX1_sentence_21 : decode cX1_sentence 21 = .ok (.getfield 157, 3) := dk_180 0 157 (dk_at dksX1_sentence_0 21 rfl rfl)
theorem dX1_sentence_24 : decode cX1_sentence 24 = .ok (.getfield 430, 3) := dk_180 1 174 (dk_at dksX1_sentence_1 0 rfl rfl)
theorem dX1_sentence_27 : decode cX1_sentence 27 = .ok (.ireturn, 1) := dk_172 (dk_at dksX1_sentence_1 3 rfl rfl)
theorem dX1_sentence_28 : decode cX1_sentence 28 = .ok (.astore_n 1, 1) := dk_76 (dk_at dksX1_sentence_1 4 rfl rfl)
theorem dX1_sentence_29 : decode cX1_sentence 29 = .ok (.aload_n 0, 1) := dk_42 (dk_at dksX1_sentence_1 5 rfl rfl)
theorem dX1_sentence_30 : decode cX1_sentence 30 = .ok (.aload_n 1, 1) := dk_43 (dk_at dksX1_sentence_1 6 rfl rfl)
theorem dX1_sentence_31 : decode cX1_sentence 31 = .ok (.getfield 212, 3) := dk_180 0 212 (dk_at dksX1_sentence_1 7 rfl rfl)
theorem dX1_sentence_34 : decode cX1_sentence 34 = .ok (.putfield 191, 3) := dk_181 0 191 (dk_at dksX1_sentence_1 10 rfl rfl)
theorem dX1_sentence_37 : decode cX1_sentence 37 = .ok (.iconst (-1), 1) := dk_2 (dk_at dksX1_sentence_1 13 rfl rfl)
theorem dX1_sentence_38 : decode cX1_sentence 38 = .ok (.aload_n 1, 1) := dk_43 (dk_at dksX1_sentence_1 14 rfl rfl)
theorem dX1_sentence_39 : decode cX1_sentence 39 = .ok (.getfield 214, 3) := dk_180 0 214 (dk_at dksX1_sentence_1 15 rfl rfl)
theorem dX1_sentence_42 : decode cX1_sentence 42 = .ok (.isub, 1) := dk_100 (dk_at dksX1_sentence_1 18 rfl rfl)
theorem dX1_sentence_43 : decode cX1_sentence 43 = .ok (.ireturn, 1) := dk_172 (dk_at dksX1_sentence_1 19 rfl rfl)
abbrev cX1_said : ByteArray := prog_1_method_55_code
def yX1_said : MethodName := ⟨RX1, "said", "(I)I"⟩
def dkwX1_said_3 : List UInt8 := [167, 0, 4, 2, 172]
abbrev dktX1_said_3 : List UInt8 := dkwX1_said_3 ++ []
def dkwX1_said_2 : List UInt8 := [28, 27, 160, 0, 5, 29, 172, 132, 2, 1, 132, 3, 1, 167, 255, 214, 27, 2, 160, 0, 7, 28]
abbrev dktX1_said_2 : List UInt8 := dkwX1_said_2 ++ dktX1_said_3
def dkwX1_said_1 : List UInt8 := [180, 1, 3, 162, 0, 37, 42, 180, 0, 208, 42, 180, 0, 85, 29, 182, 1, 177, 154, 0, 6, 167, 0, 13]
abbrev dktX1_said_1 : List UInt8 := dkwX1_said_1 ++ dktX1_said_2
def dkwX1_said_0 : List UInt8 := [42, 180, 0, 208, 198, 0, 8, 27, 2, 162, 0, 5, 2, 172, 3, 61, 3, 62, 29, 42, 180, 0, 85]
abbrev dktX1_said_0 : List UInt8 := dkwX1_said_0 ++ dktX1_said_1
theorem dksX1_said_0 : cX1_said.data.toList.drop 0 = dktX1_said_0 := by decide +kernel
theorem dksX1_said_1 : cX1_said.data.toList.drop 23 = dktX1_said_1 := dk_seg dksX1_said_0 23 rfl rfl
theorem dksX1_said_2 : cX1_said.data.toList.drop 47 = dktX1_said_2 := dk_seg dksX1_said_1 24 rfl rfl
theorem dksX1_said_3 : cX1_said.data.toList.drop 69 = dktX1_said_3 := dk_seg dksX1_said_2 22 rfl rfl
theorem dX1_said_0 : decode cX1_said 0 = .ok (.aload_n 0, 1) := dk_42 (dk_at dksX1_said_0 0 rfl rfl)
theorem dX1_said_1 : decode cX1_said 1 = .ok (.getfield 208, 3) := dk_180 0 208 (dk_at dksX1_said_0 1 rfl rfl)
theorem dX1_said_4 : decode cX1_said 4 = .ok (.ifnull 8, 3) := dk_198 0 8 (dk_at dksX1_said_0 4 rfl rfl)
theorem dX1_said_7 : decode cX1_said 7 = .ok (.iload_n 1, 1) := dk_27 (dk_at dksX1_said_0 7 rfl rfl)
theorem dX1_said_8 : decode cX1_said 8 = .ok (.iconst (-1), 1) := dk_2 (dk_at dksX1_said_0 8 rfl rfl)
theorem dX1_said_9 : decode cX1_said 9 = .ok (.if_icmp .ge 5, 3) := dk_162 0 5 (dk_at dksX1_said_0 9 rfl rfl)
theorem dX1_said_12 : decode cX1_said 12 = .ok (.iconst (-1), 1) := dk_2 (dk_at dksX1_said_0 12 rfl rfl)
theorem dX1_said_13 : decode cX1_said 13 = .ok (.ireturn, 1) := dk_172 (dk_at dksX1_said_0 13 rfl rfl)
theorem dX1_said_14 : decode cX1_said 14 = .ok (.iconst 0, 1) := dk_3 (dk_at dksX1_said_0 14 rfl rfl)
theorem dX1_said_15 : decode cX1_said 15 = .ok (.istore_n 2, 1) := dk_61 (dk_at dksX1_said_0 15 rfl rfl)
theorem dX1_said_16 : decode cX1_said 16 = .ok (.iconst 0, 1) := dk_3 (dk_at dksX1_said_0 16 rfl rfl)
theorem dX1_said_17 : decode cX1_said 17 = .ok (.istore_n 3, 1) := dk_62 (dk_at dksX1_said_0 17 rfl rfl)
theorem dX1_said_18 : decode cX1_said 18 = .ok (.iload_n 3, 1) := dk_29 (dk_at dksX1_said_0 18 rfl rfl)
theorem dX1_said_19 : decode cX1_said 19 = .ok (.aload_n 0, 1) := dk_42 (dk_at dksX1_said_0 19 rfl rfl)
theorem dX1_said_20 : decode cX1_said 20 = .ok (.getfield 85, 3) := dk_180 0 85 (dk_at dksX1_said_0 20 rfl rfl)
theorem dX1_said_23 : decode cX1_said 23 = .ok (.getfield 259, 3) := dk_180 1 3 (dk_at dksX1_said_1 0 rfl rfl)
theorem dX1_said_26 : decode cX1_said 26 = .ok (.if_icmp .ge 37, 3) := dk_162 0 37 (dk_at dksX1_said_1 3 rfl rfl)
theorem dX1_said_29 : decode cX1_said 29 = .ok (.aload_n 0, 1) := dk_42 (dk_at dksX1_said_1 6 rfl rfl)
theorem dX1_said_30 : decode cX1_said 30 = .ok (.getfield 208, 3) := dk_180 0 208 (dk_at dksX1_said_1 7 rfl rfl)
theorem dX1_said_33 : decode cX1_said 33 = .ok (.aload_n 0, 1) := dk_42 (dk_at dksX1_said_1 10 rfl rfl)
theorem dX1_said_34 : decode cX1_said 34 = .ok (.getfield 85, 3) := dk_180 0 85 (dk_at dksX1_said_1 11 rfl rfl)
theorem dX1_said_37 : decode cX1_said 37 = .ok (.iload_n 3, 1) := dk_29 (dk_at dksX1_said_1 14 rfl rfl)
theorem dX1_said_38 : decode cX1_said 38 = .ok (.invokevirtual 433, 3) := dk_182 1 177 (dk_at dksX1_said_1 15 rfl rfl)
theorem dX1_said_41 : decode cX1_said 41 = .ok (.ifCond .ne 6, 3) := dk_154 0 6 (dk_at dksX1_said_1 18 rfl rfl)
theorem dX1_said_44 : decode cX1_said 44 = .ok (.goto 13, 3) := dk_167 0 13 (dk_at dksX1_said_1 21 rfl rfl)
theorem dX1_said_47 : decode cX1_said 47 = .ok (.iload_n 2, 1) := dk_28 (dk_at dksX1_said_2 0 rfl rfl)
theorem dX1_said_48 : decode cX1_said 48 = .ok (.iload_n 1, 1) := dk_27 (dk_at dksX1_said_2 1 rfl rfl)
theorem dX1_said_49 : decode cX1_said 49 = .ok (.if_icmp .ne 5, 3) := dk_160 0 5 (dk_at dksX1_said_2 2 rfl rfl)
theorem dX1_said_52 : decode cX1_said 52 = .ok (.iload_n 3, 1) := dk_29 (dk_at dksX1_said_2 5 rfl rfl)
theorem dX1_said_53 : decode cX1_said 53 = .ok (.ireturn, 1) := dk_172 (dk_at dksX1_said_2 6 rfl rfl)
theorem dX1_said_54 : decode cX1_said 54 = .ok (.iinc 2 1, 3) := dk_132 2 1 (dk_at dksX1_said_2 7 rfl rfl)
theorem dX1_said_57 : decode cX1_said 57 = .ok (.iinc 3 1, 3) := dk_132 3 1 (dk_at dksX1_said_2 10 rfl rfl)
theorem dX1_said_60 : decode cX1_said 60 = .ok (.goto (-42), 3) := dk_167 255 214 (dk_at dksX1_said_2 13 rfl rfl)
theorem dX1_said_63 : decode cX1_said 63 = .ok (.iload_n 1, 1) := dk_27 (dk_at dksX1_said_2 16 rfl rfl)
theorem dX1_said_64 : decode cX1_said 64 = .ok (.iconst (-1), 1) := dk_2 (dk_at dksX1_said_2 17 rfl rfl)
theorem dX1_said_65 : decode cX1_said 65 = .ok (.if_icmp .ne 7, 3) := dk_160 0 7 (dk_at dksX1_said_2 18 rfl rfl)
theorem dX1_said_68 : decode cX1_said 68 = .ok (.iload_n 2, 1) := dk_28 (dk_at dksX1_said_2 21 rfl rfl)
theorem dX1_said_69 : decode cX1_said 69 = .ok (.goto 4, 3) := dk_167 0 4 (dk_at dksX1_said_3 0 rfl rfl)
theorem dX1_said_72 : decode cX1_said 72 = .ok (.iconst (-1), 1) := dk_2 (dk_at dksX1_said_3 3 rfl rfl)
theorem dX1_said_73 : decode cX1_said 73 = .ok (.ireturn, 1) := dk_172 (dk_at dksX1_said_3 4 rfl rfl)
abbrev cX1_image : ByteArray := prog_1_method_56_code
def yX1_image : MethodName := ⟨RX1, "image", "(I)Z"⟩
def dkwX1_image_3 : List UInt8 := [182, 1, 56, 42, 180, 0, 171, 27, 42, 180, 0, 208, 83, 4, 172]
abbrev dktX1_image_3 : List UInt8 := dkwX1_image_3 ++ []
def dkwX1_image_2 : List UInt8 := [180, 0, 161, 27, 50, 42, 180, 0, 85, 182, 1, 22, 42, 180, 0, 165, 27, 50, 42, 180, 0, 98]
abbrev dktX1_image_2 : List UInt8 := dkwX1_image_2 ++ dktX1_image_3
def dkwX1_image_1 : List UInt8 := [27, 187, 0, 82, 89, 183, 0, 84, 83, 42, 180, 0, 165, 27, 187, 0, 95, 89, 183, 0, 97, 83, 42]
abbrev dktX1_image_1 : List UInt8 := dkwX1_image_1 ++ dktX1_image_2
def dkwX1_image_0 : List UInt8 := [27, 3, 4, 184, 0, 236, 154, 0, 5, 3, 172, 42, 180, 0, 161, 27, 50, 199, 0, 29, 42, 180, 0, 161]
abbrev dktX1_image_0 : List UInt8 := dkwX1_image_0 ++ dktX1_image_1
theorem dksX1_image_0 : cX1_image.data.toList.drop 0 = dktX1_image_0 := by decide +kernel
theorem dksX1_image_1 : cX1_image.data.toList.drop 24 = dktX1_image_1 := dk_seg dksX1_image_0 24 rfl rfl
theorem dksX1_image_2 : cX1_image.data.toList.drop 47 = dktX1_image_2 := dk_seg dksX1_image_1 23 rfl rfl
theorem dksX1_image_3 : cX1_image.data.toList.drop 69 = dktX1_image_3 := dk_seg dksX1_image_2 22 rfl rfl
theorem dX1_image_0 : decode cX1_image 0 = .ok (.iload_n 1, 1) := dk_27 (dk_at dksX1_image_0 0 rfl rfl)
theorem dX1_image_1 : decode cX1_image 1 = .ok (.iconst 0, 1) := dk_3 (dk_at dksX1_image_0 1 rfl rfl)
theorem dX1_image_2 : decode cX1_image 2 = .ok (.iconst 1, 1) := dk_4 (dk_at dksX1_image_0 2 rfl rfl)
theorem dX1_image_3 : decode cX1_image 3 = .ok (.invokestatic 236, 3) := dk_184 0 236 (dk_at dksX1_image_0 3 rfl rfl)
theorem dX1_image_6 : decode cX1_image 6 = .ok (.ifCond .ne 5, 3) := dk_154 0 5 (dk_at dksX1_image_0 6 rfl rfl)
theorem dX1_image_9 : decode cX1_image 9 = .ok (.iconst 0, 1) := dk_3 (dk_at dksX1_image_0 9 rfl rfl)
theorem dX1_image_10 : decode cX1_image 10 = .ok (.ireturn, 1) := dk_172 (dk_at dksX1_image_0 10 rfl rfl)
theorem dX1_image_11 : decode cX1_image 11 = .ok (.aload_n 0, 1) := dk_42 (dk_at dksX1_image_0 11 rfl rfl)
theorem dX1_image_12 : decode cX1_image 12 = .ok (.getfield 161, 3) := dk_180 0 161 (dk_at dksX1_image_0 12 rfl rfl)
theorem dX1_image_15 : decode cX1_image 15 = .ok (.iload_n 1, 1) := dk_27 (dk_at dksX1_image_0 15 rfl rfl)
theorem dX1_image_16 : decode cX1_image 16 = .ok (.aaload, 1) := dk_50 (dk_at dksX1_image_0 16 rfl rfl)
theorem dX1_image_17 : decode cX1_image 17 = .ok (.ifnonnull 29, 3) := dk_199 0 29 (dk_at dksX1_image_0 17 rfl rfl)
theorem dX1_image_20 : decode cX1_image 20 = .ok (.aload_n 0, 1) := dk_42 (dk_at dksX1_image_0 20 rfl rfl)
theorem dX1_image_21 : decode cX1_image 21 = .ok (.getfield 161, 3) := dk_180 0 161 (dk_at dksX1_image_0 21 rfl rfl)
theorem dX1_image_24 : decode cX1_image 24 = .ok (.iload_n 1, 1) := dk_27 (dk_at dksX1_image_1 0 rfl rfl)
theorem dX1_image_25 : decode cX1_image 25 = .ok (.new 82, 3) := dk_187 0 82 (dk_at dksX1_image_1 1 rfl rfl)
theorem dX1_image_28 : decode cX1_image 28 = .ok (.dup, 1) := dk_89 (dk_at dksX1_image_1 4 rfl rfl)
theorem dX1_image_29 : decode cX1_image 29 = .ok (.invokespecial 84, 3) := dk_183 0 84 (dk_at dksX1_image_1 5 rfl rfl)
theorem dX1_image_32 : decode cX1_image 32 = .ok (.aastore, 1) := dk_83 (dk_at dksX1_image_1 8 rfl rfl)
theorem dX1_image_33 : decode cX1_image 33 = .ok (.aload_n 0, 1) := dk_42 (dk_at dksX1_image_1 9 rfl rfl)
theorem dX1_image_34 : decode cX1_image 34 = .ok (.getfield 165, 3) := dk_180 0 165 (dk_at dksX1_image_1 10 rfl rfl)
theorem dX1_image_37 : decode cX1_image 37 = .ok (.iload_n 1, 1) := dk_27 (dk_at dksX1_image_1 13 rfl rfl)
theorem dX1_image_38 : decode cX1_image 38 = .ok (.new 95, 3) := dk_187 0 95 (dk_at dksX1_image_1 14 rfl rfl)
theorem dX1_image_41 : decode cX1_image 41 = .ok (.dup, 1) := dk_89 (dk_at dksX1_image_1 17 rfl rfl)
theorem dX1_image_42 : decode cX1_image 42 = .ok (.invokespecial 97, 3) := dk_183 0 97 (dk_at dksX1_image_1 18 rfl rfl)
theorem dX1_image_45 : decode cX1_image 45 = .ok (.aastore, 1) := dk_83 (dk_at dksX1_image_1 21 rfl rfl)
theorem dX1_image_46 : decode cX1_image 46 = .ok (.aload_n 0, 1) := dk_42 (dk_at dksX1_image_1 22 rfl rfl)
theorem dX1_image_47 : decode cX1_image 47 = .ok (.getfield 161, 3) := dk_180 0 161 (dk_at dksX1_image_2 0 rfl rfl)
theorem dX1_image_50 : decode cX1_image 50 = .ok (.iload_n 1, 1) := dk_27 (dk_at dksX1_image_2 3 rfl rfl)
theorem dX1_image_51 : decode cX1_image 51 = .ok (.aaload, 1) := dk_50 (dk_at dksX1_image_2 4 rfl rfl)
theorem dX1_image_52 : decode cX1_image 52 = .ok (.aload_n 0, 1) := dk_42 (dk_at dksX1_image_2 5 rfl rfl)
theorem dX1_image_53 : decode cX1_image 53 = .ok (.getfield 85, 3) := dk_180 0 85 (dk_at dksX1_image_2 6 rfl rfl)
theorem dX1_image_56 : decode cX1_image 56 = .ok (.invokevirtual 278, 3) := dk_182 1 22 (dk_at dksX1_image_2 9 rfl rfl)
theorem dX1_image_59 : decode cX1_image 59 = .ok (.aload_n 0, 1) := dk_42 (dk_at dksX1_image_2 12 rfl rfl)
theorem dX1_image_60 : decode cX1_image 60 = .ok (.getfield 165, 3) := dk_180 0 165 (dk_at dksX1_image_2 13 rfl rfl)
theorem dX1_image_63 : decode cX1_image 63 = .ok (.iload_n 1, 1) := dk_27 (dk_at dksX1_image_2 16 rfl rfl)
theorem dX1_image_64 : decode cX1_image 64 = .ok (.aaload, 1) := dk_50 (dk_at dksX1_image_2 17 rfl rfl)
theorem dX1_image_65 : decode cX1_image 65 = .ok (.aload_n 0, 1) := dk_42 (dk_at dksX1_image_2 18 rfl rfl)
theorem dX1_image_66 : decode cX1_image 66 = .ok (.getfield 98, 3) := dk_180 0 98 (dk_at dksX1_image_2 19 rfl rfl)
theorem dX1_image_69 : decode cX1_image 69 = .ok (.invokevirtual 312, 3) := dk_182 1 56 (dk_at dksX1_image_3 0 rfl rfl)
theorem dX1_image_72 : decode cX1_image 72 = .ok (.aload_n 0, 1) := dk_42 (dk_at dksX1_image_3 3 rfl rfl)
theorem dX1_image_73 : decode cX1_image 73 = .ok (.getfield 171, 3) := dk_180 0 171 (dk_at dksX1_image_3 4 rfl rfl)
theorem dX1_image_76 : decode cX1_image 76 = .ok (.iload_n 1, 1) := dk_27 (dk_at dksX1_image_3 7 rfl rfl)
theorem dX1_image_77 : decode cX1_image 77 = .ok (.aload_n 0, 1) := dk_42 (dk_at dksX1_image_3 8 rfl rfl)
theorem dX1_image_78 : decode cX1_image 78 = .ok (.getfield 208, 3) := dk_180 0 208 (dk_at dksX1_image_3 9 rfl rfl)
theorem dX1_image_81 : decode cX1_image 81 = .ok (.aastore, 1) := dk_83 (dk_at dksX1_image_3 12 rfl rfl)
theorem dX1_image_82 : decode cX1_image 82 = .ok (.iconst 1, 1) := dk_4 (dk_at dksX1_image_3 13 rfl rfl)
theorem dX1_image_83 : decode cX1_image 83 = .ok (.ireturn, 1) := dk_172 (dk_at dksX1_image_3 14 rfl rfl)
abbrev cX1_restore : ByteArray := prog_1_method_57_code
def yX1_restore : MethodName := ⟨RX1, "restore", "(I)Z"⟩
def dkwX1_restore_2 : List UInt8 := [180, 0, 171, 27, 50, 181, 0, 208, 4, 172]
abbrev dktX1_restore_2 : List UInt8 := dkwX1_restore_2 ++ []
def dkwX1_restore_1 : List UInt8 := [42, 180, 0, 161, 27, 50, 182, 1, 22, 42, 180, 0, 98, 42, 180, 0, 165, 27, 50, 182, 1, 56, 42, 42]
abbrev dktX1_restore_1 : List UInt8 := dkwX1_restore_1 ++ dktX1_restore_2
def dkwX1_restore_0 : List UInt8 := [27, 3, 4, 184, 0, 236, 153, 0, 12, 42, 180, 0, 161, 27, 50, 199, 0, 5, 3, 172, 42, 180, 0, 85]
abbrev dktX1_restore_0 : List UInt8 := dkwX1_restore_0 ++ dktX1_restore_1
theorem dksX1_restore_0 : cX1_restore.data.toList.drop 0 = dktX1_restore_0 := by decide +kernel
theorem dksX1_restore_1 : cX1_restore.data.toList.drop 24 = dktX1_restore_1 := dk_seg dksX1_restore_0 24 rfl rfl
theorem dksX1_restore_2 : cX1_restore.data.toList.drop 48 = dktX1_restore_2 := dk_seg dksX1_restore_1 24 rfl rfl
theorem dX1_restore_0 : decode cX1_restore 0 = .ok (.iload_n 1, 1) := dk_27 (dk_at dksX1_restore_0 0 rfl rfl)
theorem dX1_restore_1 : decode cX1_restore 1 = .ok (.iconst 0, 1) := dk_3 (dk_at dksX1_restore_0 1 rfl rfl)
theorem dX1_restore_2 : decode cX1_restore 2 = .ok (.iconst 1, 1) := dk_4 (dk_at dksX1_restore_0 2 rfl rfl)
theorem dX1_restore_3 : decode cX1_restore 3 = .ok (.invokestatic 236, 3) := dk_184 0 236 (dk_at dksX1_restore_0 3 rfl rfl)
theorem dX1_restore_6 : decode cX1_restore 6 = .ok (.ifCond .eq 12, 3) := dk_153 0 12 (dk_at dksX1_restore_0 6 rfl rfl)
theorem dX1_restore_9 : decode cX1_restore 9 = .ok (.aload_n 0, 1) := dk_42 (dk_at dksX1_restore_0 9 rfl rfl)
theorem dX1_restore_10 : decode cX1_restore 10 = .ok (.getfield 161, 3) := dk_180 0 161 (dk_at dksX1_restore_0 10 rfl rfl)
theorem dX1_restore_13 : decode cX1_restore 13 = .ok (.iload_n 1, 1) := dk_27 (dk_at dksX1_restore_0 13 rfl rfl)
theorem dX1_restore_14 : decode cX1_restore 14 = .ok (.aaload, 1) := dk_50 (dk_at dksX1_restore_0 14 rfl rfl)
theorem dX1_restore_15 : decode cX1_restore 15 = .ok (.ifnonnull 5, 3) := dk_199 0 5 (dk_at dksX1_restore_0 15 rfl rfl)
theorem dX1_restore_18 : decode cX1_restore 18 = .ok (.iconst 0, 1) := dk_3 (dk_at dksX1_restore_0 18 rfl rfl)
theorem dX1_restore_19 : decode cX1_restore 19 = .ok (.ireturn, 1) := dk_172 (dk_at dksX1_restore_0 19 rfl rfl)
theorem dX1_restore_20 : decode cX1_restore 20 = .ok (.aload_n 0, 1) := dk_42 (dk_at dksX1_restore_0 20 rfl rfl)
theorem dX1_restore_21 : decode cX1_restore 21 = .ok (.getfield 85, 3) := dk_180 0 85 (dk_at dksX1_restore_0 21 rfl rfl)
theorem dX1_restore_24 : decode cX1_restore 24 = .ok (.aload_n 0, 1) := dk_42 (dk_at dksX1_restore_1 0 rfl rfl)
theorem dX1_restore_25 : decode cX1_restore 25 = .ok (.getfield 161, 3) := dk_180 0 161 (dk_at dksX1_restore_1 1 rfl rfl)
theorem dX1_restore_28 : decode cX1_restore 28 = .ok (.iload_n 1, 1) := dk_27 (dk_at dksX1_restore_1 4 rfl rfl)
theorem dX1_restore_29 : decode cX1_restore 29 = .ok (.aaload, 1) := dk_50 (dk_at dksX1_restore_1 5 rfl rfl)
theorem dX1_restore_30 : decode cX1_restore 30 = .ok (.invokevirtual 278, 3) := dk_182 1 22 (dk_at dksX1_restore_1 6 rfl rfl)
theorem dX1_restore_33 : decode cX1_restore 33 = .ok (.aload_n 0, 1) := dk_42 (dk_at dksX1_restore_1 9 rfl rfl)
theorem dX1_restore_34 : decode cX1_restore 34 = .ok (.getfield 98, 3) := dk_180 0 98 (dk_at dksX1_restore_1 10 rfl rfl)
theorem dX1_restore_37 : decode cX1_restore 37 = .ok (.aload_n 0, 1) := dk_42 (dk_at dksX1_restore_1 13 rfl rfl)
theorem dX1_restore_38 : decode cX1_restore 38 = .ok (.getfield 165, 3) := dk_180 0 165 (dk_at dksX1_restore_1 14 rfl rfl)
theorem dX1_restore_41 : decode cX1_restore 41 = .ok (.iload_n 1, 1) := dk_27 (dk_at dksX1_restore_1 17 rfl rfl)
theorem dX1_restore_42 : decode cX1_restore 42 = .ok (.aaload, 1) := dk_50 (dk_at dksX1_restore_1 18 rfl rfl)
theorem dX1_restore_43 : decode cX1_restore 43 = .ok (.invokevirtual 312, 3) := dk_182 1 56 (dk_at dksX1_restore_1 19 rfl rfl)
theorem dX1_restore_46 : decode cX1_restore 46 = .ok (.aload_n 0, 1) := dk_42 (dk_at dksX1_restore_1 22 rfl rfl)
theorem dX1_restore_47 : decode cX1_restore 47 = .ok (.aload_n 0, 1) := dk_42 (dk_at dksX1_restore_1 23 rfl rfl)
theorem dX1_restore_48 : decode cX1_restore 48 = .ok (.getfield 171, 3) := dk_180 0 171 (dk_at dksX1_restore_2 0 rfl rfl)
theorem dX1_restore_51 : decode cX1_restore 51 = .ok (.iload_n 1, 1) := dk_27 (dk_at dksX1_restore_2 3 rfl rfl)
theorem dX1_restore_52 : decode cX1_restore 52 = .ok (.aaload, 1) := dk_50 (dk_at dksX1_restore_2 4 rfl rfl)
theorem dX1_restore_53 : decode cX1_restore 53 = .ok (.putfield 208, 3) := dk_181 0 208 (dk_at dksX1_restore_2 5 rfl rfl)
theorem dX1_restore_56 : decode cX1_restore 56 = .ok (.iconst 1, 1) := dk_4 (dk_at dksX1_restore_2 8 rfl rfl)
theorem dX1_restore_57 : decode cX1_restore 57 = .ok (.ireturn, 1) := dk_172 (dk_at dksX1_restore_2 9 rfl rfl)
abbrev cX1_count : ByteArray := prog_1_method_58_code
def yX1_count : MethodName := ⟨RX1, "count", "(I)I"⟩
def dkwX1_count_6 : List UInt8 := [180, 0, 98, 180, 0, 205, 172, 42, 180, 0, 175, 172, 2, 172]
abbrev dktX1_count_6 : List UInt8 := dkwX1_count_6 ++ []
def dkwX1_count_5 : List UInt8 := [180, 0, 220, 180, 1, 188, 153, 0, 7, 4, 167, 0, 4, 3, 172, 42, 180, 0, 85, 180, 1, 3, 172, 42]
abbrev dktX1_count_5 : List UInt8 := dkwX1_count_5 ++ dktX1_count_6
def dkwX1_count_4 : List UInt8 := [180, 0, 85, 180, 0, 220, 180, 1, 186, 153, 0, 7, 4, 167, 0, 4, 3, 172, 42, 180, 0, 85]
abbrev dktX1_count_4 : List UInt8 := dkwX1_count_4 ++ dktX1_count_5
def dkwX1_count_3 : List UInt8 := [180, 0, 85, 180, 0, 220, 180, 1, 180, 172, 42, 180, 0, 85, 180, 0, 220, 180, 1, 183, 172, 42]
abbrev dktX1_count_3 : List UInt8 := dkwX1_count_3 ++ dktX1_count_4
def dkwX1_count_2 : List UInt8 := [42, 180, 0, 85, 180, 0, 220, 180, 1, 59, 172, 42, 180, 0, 85, 180, 0, 220, 180, 1, 11, 172, 42]
abbrev dktX1_count_2 : List UInt8 := dkwX1_count_2 ++ dktX1_count_3
def dkwX1_count_1 : List UInt8 := [170, 0, 0, 0, 0, 0, 154, 0, 0, 0, 0, 0, 0, 0, 8, 0, 0, 0, 51, 0, 0, 0, 62, 0, 0, 0, 73, 0, 0, 0, 84, 0, 0, 0, 95, 0, 0, 0, 114, 0, 0, 0, 133, 0, 0, 0, 141, 0, 0, 0, 149]
abbrev dktX1_count_1 : List UInt8 := dkwX1_count_1 ++ dktX1_count_2
def dkwX1_count_0 : List UInt8 := [27]
abbrev dktX1_count_0 : List UInt8 := dkwX1_count_0 ++ dktX1_count_1
theorem dksX1_count_0 : cX1_count.data.toList.drop 0 = dktX1_count_0 := by decide +kernel
theorem dksX1_count_1 : cX1_count.data.toList.drop 1 = dktX1_count_1 := dk_seg dksX1_count_0 1 rfl rfl
theorem dksX1_count_2 : cX1_count.data.toList.drop 52 = dktX1_count_2 := dk_seg dksX1_count_1 51 rfl rfl
theorem dksX1_count_3 : cX1_count.data.toList.drop 75 = dktX1_count_3 := dk_seg dksX1_count_2 23 rfl rfl
theorem dksX1_count_4 : cX1_count.data.toList.drop 97 = dktX1_count_4 := dk_seg dksX1_count_3 22 rfl rfl
theorem dksX1_count_5 : cX1_count.data.toList.drop 119 = dktX1_count_5 := dk_seg dksX1_count_4 22 rfl rfl
theorem dksX1_count_6 : cX1_count.data.toList.drop 143 = dktX1_count_6 := dk_seg dksX1_count_5 24 rfl rfl
theorem dX1_count_0 : decode cX1_count 0 = .ok (.iload_n 1, 1) := dk_27 (dk_at dksX1_count_0 0 rfl rfl)
theorem dX1_count_1 : decode cX1_count 1 = .ok (.tableswitch 154 0 8 #[51, 62, 73, 84, 95, 114, 133, 141, 149], 51) := by decide +kernel
theorem dX1_count_52 : decode cX1_count 52 = .ok (.aload_n 0, 1) := dk_42 (dk_at dksX1_count_2 0 rfl rfl)
theorem dX1_count_53 : decode cX1_count 53 = .ok (.getfield 85, 3) := dk_180 0 85 (dk_at dksX1_count_2 1 rfl rfl)
theorem dX1_count_56 : decode cX1_count 56 = .ok (.getfield 220, 3) := dk_180 0 220 (dk_at dksX1_count_2 4 rfl rfl)
theorem dX1_count_59 : decode cX1_count 59 = .ok (.getfield 315, 3) := dk_180 1 59 (dk_at dksX1_count_2 7 rfl rfl)
theorem dX1_count_62 : decode cX1_count 62 = .ok (.ireturn, 1) := dk_172 (dk_at dksX1_count_2 10 rfl rfl)
theorem dX1_count_63 : decode cX1_count 63 = .ok (.aload_n 0, 1) := dk_42 (dk_at dksX1_count_2 11 rfl rfl)
theorem dX1_count_64 : decode cX1_count 64 = .ok (.getfield 85, 3) := dk_180 0 85 (dk_at dksX1_count_2 12 rfl rfl)
theorem dX1_count_67 : decode cX1_count 67 = .ok (.getfield 220, 3) := dk_180 0 220 (dk_at dksX1_count_2 15 rfl rfl)
theorem dX1_count_70 : decode cX1_count 70 = .ok (.getfield 267, 3) := dk_180 1 11 (dk_at dksX1_count_2 18 rfl rfl)
theorem dX1_count_73 : decode cX1_count 73 = .ok (.ireturn, 1) := dk_172 (dk_at dksX1_count_2 21 rfl rfl)
theorem dX1_count_74 : decode cX1_count 74 = .ok (.aload_n 0, 1) := dk_42 (dk_at dksX1_count_2 22 rfl rfl)
theorem dX1_count_75 : decode cX1_count 75 = .ok (.getfield 85, 3) := dk_180 0 85 (dk_at dksX1_count_3 0 rfl rfl)
theorem dX1_count_78 : decode cX1_count 78 = .ok (.getfield 220, 3) := dk_180 0 220 (dk_at dksX1_count_3 3 rfl rfl)
theorem dX1_count_81 : decode cX1_count 81 = .ok (.getfield 436, 3) := dk_180 1 180 (dk_at dksX1_count_3 6 rfl rfl)
theorem dX1_count_84 : decode cX1_count 84 = .ok (.ireturn, 1) := dk_172 (dk_at dksX1_count_3 9 rfl rfl)
theorem dX1_count_85 : decode cX1_count 85 = .ok (.aload_n 0, 1) := dk_42 (dk_at dksX1_count_3 10 rfl rfl)
theorem dX1_count_86 : decode cX1_count 86 = .ok (.getfield 85, 3) := dk_180 0 85 (dk_at dksX1_count_3 11 rfl rfl)
theorem dX1_count_89 : decode cX1_count 89 = .ok (.getfield 220, 3) := dk_180 0 220 (dk_at dksX1_count_3 14 rfl rfl)
theorem dX1_count_92 : decode cX1_count 92 = .ok (.getfield 439, 3) := dk_180 1 183 (dk_at dksX1_count_3 17 rfl rfl)
theorem dX1_count_95 : decode cX1_count 95 = .ok (.ireturn, 1) := dk_172 (dk_at dksX1_count_3 20 rfl rfl)
theorem dX1_count_96 : decode cX1_count 96 = .ok (.aload_n 0, 1) := dk_42 (dk_at dksX1_count_3 21 rfl rfl)
theorem dX1_count_97 : decode cX1_count 97 = .ok (.getfield 85, 3) := dk_180 0 85 (dk_at dksX1_count_4 0 rfl rfl)
theorem dX1_count_100 : decode cX1_count 100 = .ok (.getfield 220, 3) := dk_180 0 220 (dk_at dksX1_count_4 3 rfl rfl)
theorem dX1_count_103 : decode cX1_count 103 = .ok (.getfield 442, 3) := dk_180 1 186 (dk_at dksX1_count_4 6 rfl rfl)
theorem dX1_count_106 : decode cX1_count 106 = .ok (.ifCond .eq 7, 3) := dk_153 0 7 (dk_at dksX1_count_4 9 rfl rfl)
theorem dX1_count_109 : decode cX1_count 109 = .ok (.iconst 1, 1) := dk_4 (dk_at dksX1_count_4 12 rfl rfl)
theorem dX1_count_110 : decode cX1_count 110 = .ok (.goto 4, 3) := dk_167 0 4 (dk_at dksX1_count_4 13 rfl rfl)
theorem dX1_count_113 : decode cX1_count 113 = .ok (.iconst 0, 1) := dk_3 (dk_at dksX1_count_4 16 rfl rfl)
theorem dX1_count_114 : decode cX1_count 114 = .ok (.ireturn, 1) := dk_172 (dk_at dksX1_count_4 17 rfl rfl)
theorem dX1_count_115 : decode cX1_count 115 = .ok (.aload_n 0, 1) := dk_42 (dk_at dksX1_count_4 18 rfl rfl)
theorem dX1_count_116 : decode cX1_count 116 = .ok (.getfield 85, 3) := dk_180 0 85 (dk_at dksX1_count_4 19 rfl rfl)
theorem dX1_count_119 : decode cX1_count 119 = .ok (.getfield 220, 3) := dk_180 0 220 (dk_at dksX1_count_5 0 rfl rfl)
theorem dX1_count_122 : decode cX1_count 122 = .ok (.getfield 444, 3) := dk_180 1 188 (dk_at dksX1_count_5 3 rfl rfl)
theorem dX1_count_125 : decode cX1_count 125 = .ok (.ifCond .eq 7, 3) := dk_153 0 7 (dk_at dksX1_count_5 6 rfl rfl)
theorem dX1_count_128 : decode cX1_count 128 = .ok (.iconst 1, 1) := dk_4 (dk_at dksX1_count_5 9 rfl rfl)
theorem dX1_count_129 : decode cX1_count 129 = .ok (.goto 4, 3) := dk_167 0 4 (dk_at dksX1_count_5 10 rfl rfl)
theorem dX1_count_132 : decode cX1_count 132 = .ok (.iconst 0, 1) := dk_3 (dk_at dksX1_count_5 13 rfl rfl)
theorem dX1_count_133 : decode cX1_count 133 = .ok (.ireturn, 1) := dk_172 (dk_at dksX1_count_5 14 rfl rfl)
theorem dX1_count_134 : decode cX1_count 134 = .ok (.aload_n 0, 1) := dk_42 (dk_at dksX1_count_5 15 rfl rfl)
theorem dX1_count_135 : decode cX1_count 135 = .ok (.getfield 85, 3) := dk_180 0 85 (dk_at dksX1_count_5 16 rfl rfl)
theorem dX1_count_138 : decode cX1_count 138 = .ok (.getfield 259, 3) := dk_180 1 3 (dk_at dksX1_count_5 19 rfl rfl)
theorem dX1_count_141 : decode cX1_count 141 = .ok (.ireturn, 1) := dk_172 (dk_at dksX1_count_5 22 rfl rfl)
theorem dX1_count_142 : decode cX1_count 142 = .ok (.aload_n 0, 1) := dk_42 (dk_at dksX1_count_5 23 rfl rfl)
theorem dX1_count_143 : decode cX1_count 143 = .ok (.getfield 98, 3) := dk_180 0 98 (dk_at dksX1_count_6 0 rfl rfl)
theorem dX1_count_146 : decode cX1_count 146 = .ok (.getfield 205, 3) := dk_180 0 205 (dk_at dksX1_count_6 3 rfl rfl)
theorem dX1_count_149 : decode cX1_count 149 = .ok (.ireturn, 1) := dk_172 (dk_at dksX1_count_6 6 rfl rfl)
theorem dX1_count_150 : decode cX1_count 150 = .ok (.aload_n 0, 1) := dk_42 (dk_at dksX1_count_6 7 rfl rfl)
theorem dX1_count_151 : decode cX1_count 151 = .ok (.getfield 175, 3) := dk_180 0 175 (dk_at dksX1_count_6 8 rfl rfl)
theorem dX1_count_154 : decode cX1_count 154 = .ok (.ireturn, 1) := dk_172 (dk_at dksX1_count_6 11 rfl rfl)
theorem dX1_count_155 : decode cX1_count 155 = .ok (.iconst (-1), 1) := dk_2 (dk_at dksX1_count_6 12 rfl rfl)
theorem dX1_count_156 : decode cX1_count 156 = .ok (.ireturn, 1) := dk_172 (dk_at dksX1_count_6 13 rfl rfl)
abbrev cX1_kind : ByteArray := prog_1_method_12_code
def yX1_kind : MethodName := ⟨RX1, "kind", "(II)I"⟩
def dkwX1_kind_3 : List UInt8 := [180, 0, 254, 167, 0, 7, 45, 180, 1, 1, 172]
abbrev dktX1_kind_3 : List UInt8 := dkwX1_kind_3 ++ []
def dkwX1_kind_2 : List UInt8 := [180, 0, 248, 167, 0, 31, 28, 4, 160, 0, 10, 45, 180, 0, 252, 167, 0, 19, 28, 5, 160, 0, 10, 45]
abbrev dktX1_kind_2 : List UInt8 := dkwX1_kind_2 ++ dktX1_kind_3
def dkwX1_kind_1 : List UInt8 := [3, 184, 0, 240, 42, 180, 0, 85, 180, 0, 220, 180, 0, 244, 27, 50, 78, 28, 154, 0, 10, 45]
abbrev dktX1_kind_1 : List UInt8 := dkwX1_kind_1 ++ dktX1_kind_2
def dkwX1_kind_0 : List UInt8 := [42, 180, 0, 85, 27, 182, 0, 233, 153, 0, 16, 28, 3, 6, 184, 0, 236, 153, 0, 7, 4, 167, 0, 4]
abbrev dktX1_kind_0 : List UInt8 := dkwX1_kind_0 ++ dktX1_kind_1
theorem dksX1_kind_0 : cX1_kind.data.toList.drop 0 = dktX1_kind_0 := by decide +kernel
theorem dksX1_kind_1 : cX1_kind.data.toList.drop 24 = dktX1_kind_1 := dk_seg dksX1_kind_0 24 rfl rfl
theorem dksX1_kind_2 : cX1_kind.data.toList.drop 46 = dktX1_kind_2 := dk_seg dksX1_kind_1 22 rfl rfl
theorem dksX1_kind_3 : cX1_kind.data.toList.drop 70 = dktX1_kind_3 := dk_seg dksX1_kind_2 24 rfl rfl
theorem dX1_kind_0 : decode cX1_kind 0 = .ok (.aload_n 0, 1) := dk_42 (dk_at dksX1_kind_0 0 rfl rfl)
theorem dX1_kind_1 : decode cX1_kind 1 = .ok (.getfield 85, 3) := dk_180 0 85 (dk_at dksX1_kind_0 1 rfl rfl)
theorem dX1_kind_4 : decode cX1_kind 4 = .ok (.iload_n 1, 1) := dk_27 (dk_at dksX1_kind_0 4 rfl rfl)
theorem dX1_kind_5 : decode cX1_kind 5 = .ok (.invokevirtual 233, 3) := dk_182 0 233 (dk_at dksX1_kind_0 5 rfl rfl)
theorem dX1_kind_8 : decode cX1_kind 8 = .ok (.ifCond .eq 16, 3) := dk_153 0 16 (dk_at dksX1_kind_0 8 rfl rfl)
theorem dX1_kind_11 : decode cX1_kind 11 = .ok (.iload_n 2, 1) := dk_28 (dk_at dksX1_kind_0 11 rfl rfl)
theorem dX1_kind_12 : decode cX1_kind 12 = .ok (.iconst 0, 1) := dk_3 (dk_at dksX1_kind_0 12 rfl rfl)
theorem dX1_kind_13 : decode cX1_kind 13 = .ok (.iconst 3, 1) := dk_6 (dk_at dksX1_kind_0 13 rfl rfl)
theorem dX1_kind_14 : decode cX1_kind 14 = .ok (.invokestatic 236, 3) := dk_184 0 236 (dk_at dksX1_kind_0 14 rfl rfl)
theorem dX1_kind_17 : decode cX1_kind 17 = .ok (.ifCond .eq 7, 3) := dk_153 0 7 (dk_at dksX1_kind_0 17 rfl rfl)
theorem dX1_kind_20 : decode cX1_kind 20 = .ok (.iconst 1, 1) := dk_4 (dk_at dksX1_kind_0 20 rfl rfl)
theorem dX1_kind_21 : decode cX1_kind 21 = .ok (.goto 4, 3) := dk_167 0 4 (dk_at dksX1_kind_0 21 rfl rfl)
theorem dX1_kind_24 : decode cX1_kind 24 = .ok (.iconst 0, 1) := dk_3 (dk_at dksX1_kind_1 0 rfl rfl)
theorem dX1_kind_25 : decode cX1_kind 25 = .ok (.invokestatic 240, 3) := dk_184 0 240 (dk_at dksX1_kind_1 1 rfl rfl)
theorem dX1_kind_28 : decode cX1_kind 28 = .ok (.aload_n 0, 1) := dk_42 (dk_at dksX1_kind_1 4 rfl rfl)
theorem dX1_kind_29 : decode cX1_kind 29 = .ok (.getfield 85, 3) := dk_180 0 85 (dk_at dksX1_kind_1 5 rfl rfl)
theorem dX1_kind_32 : decode cX1_kind 32 = .ok (.getfield 220, 3) := dk_180 0 220 (dk_at dksX1_kind_1 8 rfl rfl)
theorem dX1_kind_35 : decode cX1_kind 35 = .ok (.getfield 244, 3) := dk_180 0 244 (dk_at dksX1_kind_1 11 rfl rfl)
theorem dX1_kind_38 : decode cX1_kind 38 = .ok (.iload_n 1, 1) := dk_27 (dk_at dksX1_kind_1 14 rfl rfl)
theorem dX1_kind_39 : decode cX1_kind 39 = .ok (.aaload, 1) := dk_50 (dk_at dksX1_kind_1 15 rfl rfl)
theorem dX1_kind_40 : decode cX1_kind 40 = .ok (.astore_n 3, 1) := dk_78 (dk_at dksX1_kind_1 16 rfl rfl)
theorem dX1_kind_41 : decode cX1_kind 41 = .ok (.iload_n 2, 1) := dk_28 (dk_at dksX1_kind_1 17 rfl rfl)
theorem dX1_kind_42 : decode cX1_kind 42 = .ok (.ifCond .ne 10, 3) := dk_154 0 10 (dk_at dksX1_kind_1 18 rfl rfl)
theorem dX1_kind_45 : decode cX1_kind 45 = .ok (.aload_n 3, 1) := dk_45 (dk_at dksX1_kind_1 21 rfl rfl)
theorem dX1_kind_46 : decode cX1_kind 46 = .ok (.getfield 248, 3) := dk_180 0 248 (dk_at dksX1_kind_2 0 rfl rfl)
theorem dX1_kind_49 : decode cX1_kind 49 = .ok (.goto 31, 3) := dk_167 0 31 (dk_at dksX1_kind_2 3 rfl rfl)
theorem dX1_kind_52 : decode cX1_kind 52 = .ok (.iload_n 2, 1) := dk_28 (dk_at dksX1_kind_2 6 rfl rfl)
theorem dX1_kind_53 : decode cX1_kind 53 = .ok (.iconst 1, 1) := dk_4 (dk_at dksX1_kind_2 7 rfl rfl)
theorem dX1_kind_54 : decode cX1_kind 54 = .ok (.if_icmp .ne 10, 3) := dk_160 0 10 (dk_at dksX1_kind_2 8 rfl rfl)
theorem dX1_kind_57 : decode cX1_kind 57 = .ok (.aload_n 3, 1) := dk_45 (dk_at dksX1_kind_2 11 rfl rfl)
theorem dX1_kind_58 : decode cX1_kind 58 = .ok (.getfield 252, 3) := dk_180 0 252 (dk_at dksX1_kind_2 12 rfl rfl)
theorem dX1_kind_61 : decode cX1_kind 61 = .ok (.goto 19, 3) := dk_167 0 19 (dk_at dksX1_kind_2 15 rfl rfl)
theorem dX1_kind_64 : decode cX1_kind 64 = .ok (.iload_n 2, 1) := dk_28 (dk_at dksX1_kind_2 18 rfl rfl)
theorem dX1_kind_65 : decode cX1_kind 65 = .ok (.iconst 2, 1) := dk_5 (dk_at dksX1_kind_2 19 rfl rfl)
theorem dX1_kind_66 : decode cX1_kind 66 = .ok (.if_icmp .ne 10, 3) := dk_160 0 10 (dk_at dksX1_kind_2 20 rfl rfl)
theorem dX1_kind_69 : decode cX1_kind 69 = .ok (.aload_n 3, 1) := dk_45 (dk_at dksX1_kind_2 23 rfl rfl)
theorem dX1_kind_70 : decode cX1_kind 70 = .ok (.getfield 254, 3) := dk_180 0 254 (dk_at dksX1_kind_3 0 rfl rfl)
theorem dX1_kind_73 : decode cX1_kind 73 = .ok (.goto 7, 3) := dk_167 0 7 (dk_at dksX1_kind_3 3 rfl rfl)
theorem dX1_kind_76 : decode cX1_kind 76 = .ok (.aload_n 3, 1) := dk_45 (dk_at dksX1_kind_3 6 rfl rfl)
theorem dX1_kind_77 : decode cX1_kind 77 = .ok (.getfield 257, 3) := dk_180 1 1 (dk_at dksX1_kind_3 7 rfl rfl)
theorem dX1_kind_80 : decode cX1_kind 80 = .ok (.ireturn, 1) := dk_172 (dk_at dksX1_kind_3 10 rfl rfl)
abbrev cX1_must : ByteArray := prog_1_method_7_code
def yX1_must : MethodName := ⟨RX1, "must", "(Z)V"⟩
def dkwX1_must_0 : List UInt8 := [26, 154, 0, 11, 187, 0, 185, 89, 183, 0, 187, 191, 177]
abbrev dktX1_must_0 : List UInt8 := dkwX1_must_0 ++ []
theorem dksX1_must_0 : cX1_must.data.toList.drop 0 = dktX1_must_0 := by decide +kernel
theorem dX1_must_0 : decode cX1_must 0 = .ok (.iload_n 0, 1) := dk_26 (dk_at dksX1_must_0 0 rfl rfl)
theorem dX1_must_1 : decode cX1_must 1 = .ok (.ifCond .ne 11, 3) := dk_154 0 11 (dk_at dksX1_must_0 1 rfl rfl)
theorem dX1_must_4 : decode cX1_must 4 = .ok (.new 185, 3) := dk_187 0 185 (dk_at dksX1_must_0 4 rfl rfl)
theorem dX1_must_7 : decode cX1_must 7 = .ok (.dup, 1) := dk_89 (dk_at dksX1_must_0 7 rfl rfl)
theorem dX1_must_8 : decode cX1_must 8 = .ok (.invokespecial 187, 3) := dk_183 0 187 (dk_at dksX1_must_0 8 rfl rfl)
theorem dX1_must_11 : decode cX1_must 11 = .ok (.athrow, 1) := dk_191 (dk_at dksX1_must_0 11 rfl rfl)
theorem dX1_must_12 : decode cX1_must 12 = .ok (.return_, 1) := dk_177 (dk_at dksX1_must_0 12 rfl rfl)
abbrev cX1_word : ByteArray := prog_1_method_20_code
def yX1_word : MethodName := ⟨RX1, "word", "(II)I"⟩
def dkwX1_word_8 : List UInt8 := [167, 0, 4, 2, 172]
abbrev dktX1_word_8 : List UInt8 := dkwX1_word_8 ++ []
def dkwX1_word_7 : List UInt8 := [167, 0, 4, 2, 172, 29, 153, 0, 19, 27, 42, 180, 0, 85, 27, 182, 1, 29, 180, 0, 254, 96]
abbrev dktX1_word_7 : List UInt8 := dkwX1_word_7 ++ dktX1_word_8
def dkwX1_word_6 : List UInt8 := [46, 172, 42, 180, 0, 85, 27, 182, 1, 44, 172, 29, 153, 0, 14, 42, 180, 0, 85, 27, 182, 1, 48]
abbrev dktX1_word_6 : List UInt8 := dkwX1_word_6 ++ dktX1_word_7
def dkwX1_word_5 : List UInt8 := [180, 1, 37, 27, 46, 172, 42, 180, 0, 85, 180, 1, 40, 27, 46, 172, 42, 180, 0, 85, 180, 1, 42, 27]
abbrev dktX1_word_5 : List UInt8 := dkwX1_word_5 ++ dktX1_word_6
def dkwX1_word_4 : List UInt8 := [42, 180, 0, 85, 180, 1, 33, 27, 46, 172, 42, 180, 0, 85, 180, 1, 35, 27, 46, 172, 42, 180, 0, 85]
abbrev dktX1_word_4 : List UInt8 := dkwX1_word_4 ++ dktX1_word_5
def dkwX1_word_3 : List UInt8 := [170, 0, 0, 0, 0, 0, 0, 120, 0, 0, 0, 0, 0, 0, 0, 6, 0, 0, 0, 44, 0, 0, 0, 54, 0, 0, 0, 64, 0, 0, 0, 74, 0, 0, 0, 84, 0, 0, 0, 94, 0, 0, 0, 103]
abbrev dktX1_word_3 : List UInt8 := dkwX1_word_3 ++ dktX1_word_4
def dkwX1_word_2 : List UInt8 := [28]
abbrev dktX1_word_2 : List UInt8 := dkwX1_word_2 ++ dktX1_word_3
def dkwX1_word_1 : List UInt8 := [184, 0, 240, 42, 180, 0, 85, 27, 182, 1, 29, 180, 0, 252, 5, 160, 0, 7, 4, 167, 0, 4, 3, 62]
abbrev dktX1_word_1 : List UInt8 := dkwX1_word_1 ++ dktX1_word_2
def dkwX1_word_0 : List UInt8 := [42, 27, 182, 1, 26, 153, 0, 17, 28, 3, 16, 7, 184, 0, 236, 153, 0, 7, 4, 167, 0, 4, 3]
abbrev dktX1_word_0 : List UInt8 := dkwX1_word_0 ++ dktX1_word_1
theorem dksX1_word_0 : cX1_word.data.toList.drop 0 = dktX1_word_0 := by decide +kernel
theorem dksX1_word_1 : cX1_word.data.toList.drop 23 = dktX1_word_1 := dk_seg dksX1_word_0 23 rfl rfl
theorem dksX1_word_2 : cX1_word.data.toList.drop 47 = dktX1_word_2 := dk_seg dksX1_word_1 24 rfl rfl
theorem dksX1_word_3 : cX1_word.data.toList.drop 48 = dktX1_word_3 := dk_seg dksX1_word_2 1 rfl rfl
theorem dksX1_word_4 : cX1_word.data.toList.drop 92 = dktX1_word_4 := dk_seg dksX1_word_3 44 rfl rfl
theorem dksX1_word_5 : cX1_word.data.toList.drop 116 = dktX1_word_5 := dk_seg dksX1_word_4 24 rfl rfl
theorem dksX1_word_6 : cX1_word.data.toList.drop 140 = dktX1_word_6 := dk_seg dksX1_word_5 24 rfl rfl
theorem dksX1_word_7 : cX1_word.data.toList.drop 163 = dktX1_word_7 := dk_seg dksX1_word_6 23 rfl rfl
theorem dksX1_word_8 : cX1_word.data.toList.drop 185 = dktX1_word_8 := dk_seg dksX1_word_7 22 rfl rfl
theorem dX1_word_0 : decode cX1_word 0 = .ok (.aload_n 0, 1) := dk_42 (dk_at dksX1_word_0 0 rfl rfl)
theorem dX1_word_1 : decode cX1_word 1 = .ok (.iload_n 1, 1) := dk_27 (dk_at dksX1_word_0 1 rfl rfl)
theorem dX1_word_2 : decode cX1_word 2 = .ok (.invokevirtual 282, 3) := dk_182 1 26 (dk_at dksX1_word_0 2 rfl rfl)
theorem dX1_word_5 : decode cX1_word 5 = .ok (.ifCond .eq 17, 3) := dk_153 0 17 (dk_at dksX1_word_0 5 rfl rfl)
theorem dX1_word_8 : decode cX1_word 8 = .ok (.iload_n 2, 1) := dk_28 (dk_at dksX1_word_0 8 rfl rfl)
theorem dX1_word_9 : decode cX1_word 9 = .ok (.iconst 0, 1) := dk_3 (dk_at dksX1_word_0 9 rfl rfl)
theorem dX1_word_10 : decode cX1_word 10 = .ok (.bipush 7, 2) := dk_16 7 (dk_at dksX1_word_0 10 rfl rfl)
theorem dX1_word_12 : decode cX1_word 12 = .ok (.invokestatic 236, 3) := dk_184 0 236 (dk_at dksX1_word_0 12 rfl rfl)
theorem dX1_word_15 : decode cX1_word 15 = .ok (.ifCond .eq 7, 3) := dk_153 0 7 (dk_at dksX1_word_0 15 rfl rfl)
theorem dX1_word_18 : decode cX1_word 18 = .ok (.iconst 1, 1) := dk_4 (dk_at dksX1_word_0 18 rfl rfl)
theorem dX1_word_19 : decode cX1_word 19 = .ok (.goto 4, 3) := dk_167 0 4 (dk_at dksX1_word_0 19 rfl rfl)
theorem dX1_word_22 : decode cX1_word 22 = .ok (.iconst 0, 1) := dk_3 (dk_at dksX1_word_0 22 rfl rfl)
theorem dX1_word_23 : decode cX1_word 23 = .ok (.invokestatic 240, 3) := dk_184 0 240 (dk_at dksX1_word_1 0 rfl rfl)
theorem dX1_word_26 : decode cX1_word 26 = .ok (.aload_n 0, 1) := dk_42 (dk_at dksX1_word_1 3 rfl rfl)
theorem dX1_word_27 : decode cX1_word 27 = .ok (.getfield 85, 3) := dk_180 0 85 (dk_at dksX1_word_1 4 rfl rfl)
theorem dX1_word_30 : decode cX1_word 30 = .ok (.iload_n 1, 1) := dk_27 (dk_at dksX1_word_1 7 rfl rfl)
theorem dX1_word_31 : decode cX1_word 31 = .ok (.invokevirtual 285, 3) := dk_182 1 29 (dk_at dksX1_word_1 8 rfl rfl)
theorem dX1_word_34 : decode cX1_word 34 = .ok (.getfield 252, 3) := dk_180 0 252 (dk_at dksX1_word_1 11 rfl rfl)
theorem dX1_word_37 : decode cX1_word 37 = .ok (.iconst 2, 1) := dk_5 (dk_at dksX1_word_1 14 rfl rfl)
theorem dX1_word_38 : decode cX1_word 38 = .ok (.if_icmp .ne 7, 3) := dk_160 0 7 (dk_at dksX1_word_1 15 rfl rfl)
theorem dX1_word_41 : decode cX1_word 41 = .ok (.iconst 1, 1) := dk_4 (dk_at dksX1_word_1 18 rfl rfl)
theorem dX1_word_42 : decode cX1_word 42 = .ok (.goto 4, 3) := dk_167 0 4 (dk_at dksX1_word_1 19 rfl rfl)
theorem dX1_word_45 : decode cX1_word 45 = .ok (.iconst 0, 1) := dk_3 (dk_at dksX1_word_1 22 rfl rfl)
theorem dX1_word_46 : decode cX1_word 46 = .ok (.istore_n 3, 1) := dk_62 (dk_at dksX1_word_1 23 rfl rfl)
theorem dX1_word_47 : decode cX1_word 47 = .ok (.iload_n 2, 1) := dk_28 (dk_at dksX1_word_2 0 rfl rfl)
theorem dX1_word_48 : decode cX1_word 48 = .ok (.tableswitch 120 0 6 #[44, 54, 64, 74, 84, 94, 103], 44) := by decide +kernel
theorem dX1_word_92 : decode cX1_word 92 = .ok (.aload_n 0, 1) := dk_42 (dk_at dksX1_word_4 0 rfl rfl)
theorem dX1_word_93 : decode cX1_word 93 = .ok (.getfield 85, 3) := dk_180 0 85 (dk_at dksX1_word_4 1 rfl rfl)
theorem dX1_word_96 : decode cX1_word 96 = .ok (.getfield 289, 3) := dk_180 1 33 (dk_at dksX1_word_4 4 rfl rfl)
theorem dX1_word_99 : decode cX1_word 99 = .ok (.iload_n 1, 1) := dk_27 (dk_at dksX1_word_4 7 rfl rfl)
theorem dX1_word_100 : decode cX1_word 100 = .ok (.iaload, 1) := dk_46 (dk_at dksX1_word_4 8 rfl rfl)
theorem dX1_word_101 : decode cX1_word 101 = .ok (.ireturn, 1) := dk_172 (dk_at dksX1_word_4 9 rfl rfl)
theorem dX1_word_102 : decode cX1_word 102 = .ok (.aload_n 0, 1) := dk_42 (dk_at dksX1_word_4 10 rfl rfl)
theorem dX1_word_103 : decode cX1_word 103 = .ok (.getfield 85, 3) := dk_180 0 85 (dk_at dksX1_word_4 11 rfl rfl)
theorem dX1_word_106 : decode cX1_word 106 = .ok (.getfield 291, 3) := dk_180 1 35 (dk_at dksX1_word_4 14 rfl rfl)
theorem dX1_word_109 : decode cX1_word 109 = .ok (.iload_n 1, 1) := dk_27 (dk_at dksX1_word_4 17 rfl rfl)
theorem dX1_word_110 : decode cX1_word 110 = .ok (.iaload, 1) := dk_46 (dk_at dksX1_word_4 18 rfl rfl)
theorem dX1_word_111 : decode cX1_word 111 = .ok (.ireturn, 1) := dk_172 (dk_at dksX1_word_4 19 rfl rfl)
theorem dX1_word_112 : decode cX1_word 112 = .ok (.aload_n 0, 1) := dk_42 (dk_at dksX1_word_4 20 rfl rfl)
theorem dX1_word_113 : decode cX1_word 113 = .ok (.getfield 85, 3) := dk_180 0 85 (dk_at dksX1_word_4 21 rfl rfl)
theorem dX1_word_116 : decode cX1_word 116 = .ok (.getfield 293, 3) := dk_180 1 37 (dk_at dksX1_word_5 0 rfl rfl)
theorem dX1_word_119 : decode cX1_word 119 = .ok (.iload_n 1, 1) := dk_27 (dk_at dksX1_word_5 3 rfl rfl)
theorem dX1_word_120 : decode cX1_word 120 = .ok (.iaload, 1) := dk_46 (dk_at dksX1_word_5 4 rfl rfl)
theorem dX1_word_121 : decode cX1_word 121 = .ok (.ireturn, 1) := dk_172 (dk_at dksX1_word_5 5 rfl rfl)
theorem dX1_word_122 : decode cX1_word 122 = .ok (.aload_n 0, 1) := dk_42 (dk_at dksX1_word_5 6 rfl rfl)
theorem dX1_word_123 : decode cX1_word 123 = .ok (.getfield 85, 3) := dk_180 0 85 (dk_at dksX1_word_5 7 rfl rfl)
theorem dX1_word_126 : decode cX1_word 126 = .ok (.getfield 296, 3) := dk_180 1 40 (dk_at dksX1_word_5 10 rfl rfl)
theorem dX1_word_129 : decode cX1_word 129 = .ok (.iload_n 1, 1) := dk_27 (dk_at dksX1_word_5 13 rfl rfl)
theorem dX1_word_130 : decode cX1_word 130 = .ok (.iaload, 1) := dk_46 (dk_at dksX1_word_5 14 rfl rfl)
theorem dX1_word_131 : decode cX1_word 131 = .ok (.ireturn, 1) := dk_172 (dk_at dksX1_word_5 15 rfl rfl)
theorem dX1_word_132 : decode cX1_word 132 = .ok (.aload_n 0, 1) := dk_42 (dk_at dksX1_word_5 16 rfl rfl)
theorem dX1_word_133 : decode cX1_word 133 = .ok (.getfield 85, 3) := dk_180 0 85 (dk_at dksX1_word_5 17 rfl rfl)
theorem dX1_word_136 : decode cX1_word 136 = .ok (.getfield 298, 3) := dk_180 1 42 (dk_at dksX1_word_5 20 rfl rfl)
theorem dX1_word_139 : decode cX1_word 139 = .ok (.iload_n 1, 1) := dk_27 (dk_at dksX1_word_5 23 rfl rfl)
theorem dX1_word_140 : decode cX1_word 140 = .ok (.iaload, 1) := dk_46 (dk_at dksX1_word_6 0 rfl rfl)
theorem dX1_word_141 : decode cX1_word 141 = .ok (.ireturn, 1) := dk_172 (dk_at dksX1_word_6 1 rfl rfl)
theorem dX1_word_142 : decode cX1_word 142 = .ok (.aload_n 0, 1) := dk_42 (dk_at dksX1_word_6 2 rfl rfl)
theorem dX1_word_143 : decode cX1_word 143 = .ok (.getfield 85, 3) := dk_180 0 85 (dk_at dksX1_word_6 3 rfl rfl)
theorem dX1_word_146 : decode cX1_word 146 = .ok (.iload_n 1, 1) := dk_27 (dk_at dksX1_word_6 6 rfl rfl)
theorem dX1_word_147 : decode cX1_word 147 = .ok (.invokevirtual 300, 3) := dk_182 1 44 (dk_at dksX1_word_6 7 rfl rfl)
theorem dX1_word_150 : decode cX1_word 150 = .ok (.ireturn, 1) := dk_172 (dk_at dksX1_word_6 10 rfl rfl)
theorem dX1_word_151 : decode cX1_word 151 = .ok (.iload_n 3, 1) := dk_29 (dk_at dksX1_word_6 11 rfl rfl)
theorem dX1_word_152 : decode cX1_word 152 = .ok (.ifCond .eq 14, 3) := dk_153 0 14 (dk_at dksX1_word_6 12 rfl rfl)
theorem dX1_word_155 : decode cX1_word 155 = .ok (.aload_n 0, 1) := dk_42 (dk_at dksX1_word_6 15 rfl rfl)
theorem dX1_word_156 : decode cX1_word 156 = .ok (.getfield 85, 3) := dk_180 0 85 (dk_at dksX1_word_6 16 rfl rfl)
theorem dX1_word_159 : decode cX1_word 159 = .ok (.iload_n 1, 1) := dk_27 (dk_at dksX1_word_6 19 rfl rfl)
theorem dX1_word_160 : decode cX1_word 160 = .ok (.invokevirtual 304, 3) := dk_182 1 48 (dk_at dksX1_word_6 20 rfl rfl)
theorem dX1_word_163 : decode cX1_word 163 = .ok (.goto 4, 3) := dk_167 0 4 (dk_at dksX1_word_7 0 rfl rfl)
theorem dX1_word_166 : decode cX1_word 166 = .ok (.iconst (-1), 1) := dk_2 (dk_at dksX1_word_7 3 rfl rfl)
theorem dX1_word_167 : decode cX1_word 167 = .ok (.ireturn, 1) := dk_172 (dk_at dksX1_word_7 4 rfl rfl)
theorem dX1_word_168 : decode cX1_word 168 = .ok (.iload_n 3, 1) := dk_29 (dk_at dksX1_word_7 5 rfl rfl)
theorem dX1_word_169 : decode cX1_word 169 = .ok (.ifCond .eq 19, 3) := dk_153 0 19 (dk_at dksX1_word_7 6 rfl rfl)
theorem dX1_word_172 : decode cX1_word 172 = .ok (.iload_n 1, 1) := dk_27 (dk_at dksX1_word_7 9 rfl rfl)
theorem dX1_word_173 : decode cX1_word 173 = .ok (.aload_n 0, 1) := dk_42 (dk_at dksX1_word_7 10 rfl rfl)
theorem dX1_word_174 : decode cX1_word 174 = .ok (.getfield 85, 3) := dk_180 0 85 (dk_at dksX1_word_7 11 rfl rfl)
theorem dX1_word_177 : decode cX1_word 177 = .ok (.iload_n 1, 1) := dk_27 (dk_at dksX1_word_7 14 rfl rfl)
theorem dX1_word_178 : decode cX1_word 178 = .ok (.invokevirtual 285, 3) := dk_182 1 29 (dk_at dksX1_word_7 15 rfl rfl)
theorem dX1_word_181 : decode cX1_word 181 = .ok (.getfield 254, 3) := dk_180 0 254 (dk_at dksX1_word_7 18 rfl rfl)
theorem dX1_word_184 : decode cX1_word 184 = .ok (.iadd, 1) := dk_96 (dk_at dksX1_word_7 21 rfl rfl)
theorem dX1_word_185 : decode cX1_word 185 = .ok (.goto 4, 3) := dk_167 0 4 (dk_at dksX1_word_8 0 rfl rfl)
theorem dX1_word_188 : decode cX1_word 188 = .ok (.iconst (-1), 1) := dk_2 (dk_at dksX1_word_8 3 rfl rfl)
theorem dX1_word_189 : decode cX1_word 189 = .ok (.ireturn, 1) := dk_172 (dk_at dksX1_word_8 4 rfl rfl)
theorem q90 : (Jvm.Cond.initialized "CombTable") ∈ lw_all := lw_g (lw_at lw_m1 1 rfl) rfl
theorem q122 : (Jvm.Cond.instantiable "CombTable" (38 : Nat)) ∈ lw_all := lw_g (lw_at lw_m1 33 rfl) rfl
theorem q124 : (Jvm.Cond.instanceMethod ({ cls := "CombTable", name := "<init>", desc := "()V" } : Jvm.MethodName)) ∈ lw_all := lw_g (lw_at lw_m1 35 rfl) rfl
theorem q125 : (Jvm.Cond.code ({ cls := "CombTable", name := "<init>", desc := "()V" } : Jvm.MethodName) prog_1_method_1_code (1 : Nat) (Option.none : Option Jvm.ClassFile.FieldType)) ∈ lw_all := lw_g (lw_at lw_m1 36 rfl) rfl
theorem q126 : (Jvm.Cond.methodLink "CombTable" (1 : Nat) ({ cls := "java/lang/Object", name := "<init>", desc := "()V" } : Jvm.MethodName)) ∈ lw_all := lw_g (lw_at lw_m1 37 rfl) rfl
theorem q129 : (Jvm.Cond.classLink "CombTable" (13 : Nat) "CombTable$Fault") ∈ lw_all := lw_g (lw_at lw_m1 40 rfl) rfl
theorem q167 : (Jvm.Cond.methodLink "CombTable" (15 : Nat) ({ cls := "CombTable$Fault", name := "<init>", desc := "()V" } : Jvm.MethodName)) ∈ lw_all := lw_g (lw_at lw_m1 78 rfl) rfl
theorem q176 : (Jvm.Cond.fieldLink "CombTable" (212 : Nat) "CombTable$Fault" "kind" "I") ∈ lw_all := lw_g (lw_at lw_m1 87 rfl) rfl
theorem q178 : (Jvm.Cond.fieldLink "CombTable" (214 : Nat) "CombTable$Fault" "place" "I") ∈ lw_all := lw_g (lw_at lw_m1 89 rfl) rfl
theorem q198 : (Jvm.Cond.classLink "CombTable" (20 : Nat) "java/lang/String") ∈ lw_all := lw_g (lw_at lw_m1 109 rfl) rfl
theorem q200 : (Jvm.Cond.stringRef "CombTable" (22 : Nat) "who") ∈ lw_tbl := lw_at lw_m1 111 rfl
theorem q201 : (Jvm.Cond.stringRef "CombTable" (24 : Nat) "kind") ∈ lw_tbl := lw_at lw_m1 112 rfl
theorem q202 : (Jvm.Cond.stringRef "CombTable" (26 : Nat) "may") ∈ lw_tbl := lw_at lw_m1 113 rfl
theorem q203 : (Jvm.Cond.stringRef "CombTable" (28 : Nat) "comb") ∈ lw_tbl := lw_at lw_m1 114 rfl
theorem q204 : (Jvm.Cond.stringRef "CombTable" (30 : Nat) "ranks") ∈ lw_tbl := lw_at lw_m1 115 rfl
theorem q205 : (Jvm.Cond.stringRef "CombTable" (32 : Nat) "twice") ∈ lw_tbl := lw_at lw_m1 116 rfl
theorem q206 : (Jvm.Cond.stringRef "CombTable" (38 : Nat) "opens") ∈ lw_tbl := lw_at lw_m1 117 rfl
theorem q207 : (Jvm.Cond.stringRef "CombTable" (40 : Nat) "begins") ∈ lw_tbl := lw_at lw_m1 118 rfl
theorem q208 : (Jvm.Cond.stringRef "CombTable" (42 : Nat) "any") ∈ lw_tbl := lw_at lw_m1 119 rfl
theorem q209 : (Jvm.Cond.stringRef "CombTable" (44 : Nat) "or") ∈ lw_tbl := lw_at lw_m1 120 rfl
theorem q210 : (Jvm.Cond.stringRef "CombTable" (46 : Nat) "and") ∈ lw_tbl := lw_at lw_m1 121 rfl
theorem q211 : (Jvm.Cond.stringRef "CombTable" (48 : Nat) "not") ∈ lw_tbl := lw_at lw_m1 122 rfl
theorem q212 : (Jvm.Cond.stringRef "CombTable" (50 : Nat) "by") ∈ lw_tbl := lw_at lw_m1 123 rfl
theorem q213 : (Jvm.Cond.stringRef "CombTable" (52 : Nat) "to") ∈ lw_tbl := lw_at lw_m1 124 rfl
theorem q214 : (Jvm.Cond.stringRef "CombTable" (54 : Nat) "is") ∈ lw_tbl := lw_at lw_m1 125 rfl
theorem q215 : (Jvm.Cond.stringRef "CombTable" (56 : Nat) "place") ∈ lw_tbl := lw_at lw_m1 126 rfl
theorem q216 : (Jvm.Cond.stringRef "CombTable" (58 : Nat) "thread") ∈ lw_tbl := lw_at lw_m1 127 rfl
theorem q217 : (Jvm.Cond.stringRef "CombTable" (60 : Nat) "depth") ∈ lw_tbl := lw_at lw_m1 128 rfl
theorem q218 : (Jvm.Cond.stringRef "CombTable" (62 : Nat) "state") ∈ lw_tbl := lw_at lw_m1 129 rfl
theorem q219 : (Jvm.Cond.stringRef "CombTable" (67 : Nat) "asks") ∈ lw_tbl := lw_at lw_m1 130 rfl
theorem q220 : (Jvm.Cond.stringRef "CombTable" (69 : Nat) "grants") ∈ lw_tbl := lw_at lw_m1 131 rfl
theorem q221 : (Jvm.Cond.stringRef "CombTable" (71 : Nat) "refuses") ∈ lw_tbl := lw_at lw_m1 132 rfl
theorem q222 : (Jvm.Cond.stringRef "CombTable" (73 : Nat) "keeps") ∈ lw_tbl := lw_at lw_m1 133 rfl
theorem q223 : (Jvm.Cond.stringRef "CombTable" (75 : Nat) "breaks") ∈ lw_tbl := lw_at lw_m1 134 rfl
theorem q224 : (Jvm.Cond.stringRef "CombTable" (77 : Nat) "frees") ∈ lw_tbl := lw_at lw_m1 135 rfl
theorem q225 : (Jvm.Cond.classLink "CombTable" (82 : Nat) "CombTable$Talk") ∈ lw_all := lw_g (lw_at lw_m1 136 rfl) rfl
theorem q227 : (Jvm.Cond.methodLinkNest "CombTable" (84 : Nat) ({ cls := "CombTable$Talk", name := "<init>", desc := "()V" } : Jvm.MethodName) "CombTable") ∈ lw_tbl := lw_at lw_m1 138 rfl
theorem q246 : (Jvm.Cond.fieldLinkNest "CombTable" (224 : Nat) "CombTable$Table" "people" "[LCombTable$Who;" "CombTable") ∈ lw_tbl := lw_at lw_m1 157 rfl
theorem q253 : (Jvm.Cond.fieldLinkNest "CombTable" (244 : Nat) "CombTable$Table" "kinds" "[LCombTable$Kind;" "CombTable") ∈ lw_tbl := lw_at lw_m1 164 rfl
theorem q261 : (Jvm.Cond.fieldLinkNest "CombTable" (315 : Nat) "CombTable$Table" "whoMany" "I" "CombTable") ∈ lw_tbl := lw_at lw_m1 172 rfl
theorem q267 : (Jvm.Cond.fieldLinkNest "CombTable" (267 : Nat) "CombTable$Table" "kindMany" "I" "CombTable") ∈ lw_tbl := lw_at lw_m1 178 rfl
theorem q269 : (Jvm.Cond.fieldLinkNest "CombTable" (436 : Nat) "CombTable$Table" "mayMany" "I" "CombTable") ∈ lw_tbl := lw_at lw_m1 180 rfl
theorem q272 : (Jvm.Cond.fieldLinkNest "CombTable" (439 : Nat) "CombTable$Table" "combMany" "I" "CombTable") ∈ lw_tbl := lw_at lw_m1 183 rfl
theorem q275 : (Jvm.Cond.fieldLinkNest "CombTable" (442 : Nat) "CombTable$Table" "ranks" "Z" "CombTable") ∈ lw_tbl := lw_at lw_m1 186 rfl
theorem q278 : (Jvm.Cond.fieldLinkNest "CombTable" (444 : Nat) "CombTable$Table" "twice" "Z" "CombTable") ∈ lw_tbl := lw_at lw_m1 189 rfl
theorem q303 : (Jvm.Cond.fieldLinkNest "CombTable" (220 : Nat) "CombTable$Talk" "table" "LCombTable$Table;" "CombTable") ∈ lw_tbl := lw_at lw_m1 214 rfl
theorem q306 : (Jvm.Cond.fieldLinkNest "CombTable" (289 : Nat) "CombTable$Talk" "who" "[I" "CombTable") ∈ lw_tbl := lw_at lw_m1 217 rfl
theorem q309 : (Jvm.Cond.fieldLinkNest "CombTable" (291 : Nat) "CombTable$Talk" "kind" "[I" "CombTable") ∈ lw_tbl := lw_at lw_m1 220 rfl
theorem q312 : (Jvm.Cond.fieldLinkNest "CombTable" (293 : Nat) "CombTable$Talk" "answers" "[I" "CombTable") ∈ lw_tbl := lw_at lw_m1 223 rfl
theorem q315 : (Jvm.Cond.fieldLinkNest "CombTable" (296 : Nat) "CombTable$Talk" "thread" "[I" "CombTable") ∈ lw_tbl := lw_at lw_m1 226 rfl
theorem q318 : (Jvm.Cond.fieldLinkNest "CombTable" (298 : Nat) "CombTable$Talk" "depth" "[I" "CombTable") ∈ lw_tbl := lw_at lw_m1 229 rfl
theorem q323 : (Jvm.Cond.fieldLinkNest "CombTable" (259 : Nat) "CombTable$Talk" "many" "I" "CombTable") ∈ lw_tbl := lw_at lw_m1 234 rfl
theorem q325 : (Jvm.Cond.fieldLinkNest "CombTable" (306 : Nat) "CombTable$Talk" "threads" "I" "CombTable") ∈ lw_tbl := lw_at lw_m1 236 rfl
theorem q347 : (Jvm.Cond.classLink "CombTable" (95 : Nat) "CombTable$Minutes") ∈ lw_all := lw_g (lw_at lw_m2 18 rfl) rfl
theorem q349 : (Jvm.Cond.methodLinkNest "CombTable" (97 : Nat) ({ cls := "CombTable$Minutes", name := "<init>", desc := "()V" } : Jvm.MethodName) "CombTable") ∈ lw_tbl := lw_at lw_m2 20 rfl
theorem q355 : (Jvm.Cond.fieldLinkNest "CombTable" (314 : Nat) "CombTable$Minutes" "who" "[I" "CombTable") ∈ lw_tbl := lw_at lw_m2 26 rfl
theorem q358 : (Jvm.Cond.fieldLinkNest "CombTable" (318 : Nat) "CombTable$Minutes" "kind" "[I" "CombTable") ∈ lw_tbl := lw_at lw_m2 29 rfl
theorem q361 : (Jvm.Cond.fieldLinkNest "CombTable" (205 : Nat) "CombTable$Minutes" "many" "I" "CombTable") ∈ lw_tbl := lw_at lw_m2 32 rfl
theorem q369 : (Jvm.Cond.classLink "CombTable" (108 : Nat) "CombTable$TableReader") ∈ lw_all := lw_g (lw_at lw_m2 40 rfl) rfl
theorem q371 : (Jvm.Cond.methodLink "CombTable" (110 : Nat) ({ cls := "CombTable$TableReader", name := "<init>", desc := "(LCombTable;)V" } : Jvm.MethodName)) ∈ lw_all := lw_g (lw_at lw_m2 42 rfl) rfl
theorem q426 : (Jvm.Cond.classLink "CombTable" (117 : Nat) "CombTable$TalkReader") ∈ lw_all := lw_g (lw_at lw_m2 97 rfl) rfl
theorem q428 : (Jvm.Cond.methodLink "CombTable" (119 : Nat) ({ cls := "CombTable$TalkReader", name := "<init>", desc := "(LCombTable;)V" } : Jvm.MethodName)) ∈ lw_all := lw_g (lw_at lw_m2 99 rfl) rfl
theorem q433 : (Jvm.Cond.fieldLink "CombTable" (281 : Nat) "CombTable$TalkReader" "why" "I") ∈ lw_all := lw_g (lw_at lw_m2 104 rfl) rfl
theorem q448 : (Jvm.Cond.classLink "CombTable" (124 : Nat) "CombTable$MinutesReader") ∈ lw_all := lw_g (lw_at lw_m2 119 rfl) rfl
theorem q450 : (Jvm.Cond.methodLink "CombTable" (126 : Nat) ({ cls := "CombTable$MinutesReader", name := "<init>", desc := "(LCombTable;)V" } : Jvm.MethodName)) ∈ lw_all := lw_g (lw_at lw_m2 121 rfl) rfl
theorem q469 : (Jvm.Cond.classLink "CombTable" (154 : Nat) "CombTable$SentenceReader") ∈ lw_all := lw_g (lw_at lw_m2 140 rfl) rfl
theorem q471 : (Jvm.Cond.methodLink "CombTable" (156 : Nat) ({ cls := "CombTable$SentenceReader", name := "<init>", desc := "(LCombTable;)V" } : Jvm.MethodName)) ∈ lw_all := lw_g (lw_at lw_m2 142 rfl) rfl
theorem q486 : (Jvm.Cond.fieldLinkNest "CombTable" (430 : Nat) "CombTable$SentenceReader" "ones" "I" "CombTable") ∈ lw_tbl := lw_at lw_m2 157 rfl
theorem q507 : (Jvm.Cond.classLink "CombTable" (169 : Nat) "CombTable$Cond") ∈ lw_all := lw_g (lw_at lw_m2 178 rfl) rfl
theorem q509 : (Jvm.Cond.fieldLink "CombTable" (9 : Nat) "CombTable" "tape" "[B") ∈ lw_all := lw_g (lw_at lw_m2 180 rfl) rfl
theorem q511 : (Jvm.Cond.fieldLink "CombTable" (175 : Nat) "CombTable" "length" "I") ∈ lw_all := lw_g (lw_at lw_m2 182 rfl) rfl
theorem q513 : (Jvm.Cond.fieldLink "CombTable" (182 : Nat) "CombTable" "size" "I") ∈ lw_all := lw_g (lw_at lw_m2 184 rfl) rfl
theorem q514 : (Jvm.Cond.fieldLink "CombTable" (16 : Nat) "CombTable" "broken" "LCombTable$Fault;") ∈ lw_all := lw_g (lw_at lw_m2 185 rfl) rfl
theorem q516 : (Jvm.Cond.fieldLink "CombTable" (34 : Nat) "CombTable" "lines" "[Ljava/lang/String;") ∈ lw_all := lw_g (lw_at lw_m2 187 rfl) rfl
theorem q519 : (Jvm.Cond.fieldLink "CombTable" (64 : Nat) "CombTable" "words" "[Ljava/lang/String;") ∈ lw_all := lw_g (lw_at lw_m2 190 rfl) rfl
theorem q521 : (Jvm.Cond.fieldLink "CombTable" (79 : Nat) "CombTable" "does" "[Ljava/lang/String;") ∈ lw_all := lw_g (lw_at lw_m2 192 rfl) rfl
theorem q524 : (Jvm.Cond.fieldLink "CombTable" (85 : Nat) "CombTable" "now" "LCombTable$Talk;") ∈ lw_all := lw_g (lw_at lw_m2 195 rfl) rfl
theorem q527 : (Jvm.Cond.fieldLink "CombTable" (89 : Nat) "CombTable" "tried" "LCombTable$Talk;") ∈ lw_all := lw_g (lw_at lw_m2 198 rfl) rfl
theorem q528 : (Jvm.Cond.fieldLink "CombTable" (92 : Nat) "CombTable" "other" "LCombTable$Talk;") ∈ lw_all := lw_g (lw_at lw_m2 199 rfl) rfl
theorem q529 : (Jvm.Cond.fieldLink "CombTable" (98 : Nat) "CombTable" "minutes" "LCombTable$Minutes;") ∈ lw_all := lw_g (lw_at lw_m2 200 rfl) rfl
theorem q530 : (Jvm.Cond.fieldLink "CombTable" (102 : Nat) "CombTable" "readMinutes" "LCombTable$Minutes;") ∈ lw_all := lw_g (lw_at lw_m2 201 rfl) rfl
theorem q531 : (Jvm.Cond.fieldLink "CombTable" (105 : Nat) "CombTable" "torn" "LCombTable$Minutes;") ∈ lw_all := lw_g (lw_at lw_m2 202 rfl) rfl
theorem q532 : (Jvm.Cond.fieldLink "CombTable" (113 : Nat) "CombTable" "tableReader" "LCombTable$TableReader;") ∈ lw_all := lw_g (lw_at lw_m2 203 rfl) rfl
theorem q533 : (Jvm.Cond.fieldLink "CombTable" (120 : Nat) "CombTable" "talkReader" "LCombTable$TalkReader;") ∈ lw_all := lw_g (lw_at lw_m2 204 rfl) rfl
theorem q534 : (Jvm.Cond.fieldLink "CombTable" (127 : Nat) "CombTable" "minutesReader" "LCombTable$MinutesReader;") ∈ lw_all := lw_g (lw_at lw_m2 205 rfl) rfl
theorem q535 : (Jvm.Cond.fieldLink "CombTable" (191 : Nat) "CombTable" "fault" "I") ∈ lw_all := lw_g (lw_at lw_m2 206 rfl) rfl
theorem q536 : (Jvm.Cond.fieldLink "CombTable" (273 : Nat) "CombTable" "why" "I") ∈ lw_all := lw_g (lw_at lw_m2 207 rfl) rfl
theorem q537 : (Jvm.Cond.fieldLink "CombTable" (131 : Nat) "CombTable" "whoBits" "[I") ∈ lw_all := lw_g (lw_at lw_m2 208 rfl) rfl
theorem q538 : (Jvm.Cond.fieldLink "CombTable" (135 : Nat) "CombTable" "kindBits" "[I") ∈ lw_all := lw_g (lw_at lw_m2 209 rfl) rfl
theorem q539 : (Jvm.Cond.fieldLink "CombTable" (138 : Nat) "CombTable" "stateBits" "[I") ∈ lw_all := lw_g (lw_at lw_m2 210 rfl) rfl
theorem q540 : (Jvm.Cond.fieldLink "CombTable" (338 : Nat) "CombTable" "sureMany" "I") ∈ lw_all := lw_g (lw_at lw_m2 211 rfl) rfl
theorem q541 : (Jvm.Cond.fieldLink "CombTable" (325 : Nat) "CombTable" "keeps" "Z") ∈ lw_all := lw_g (lw_at lw_m2 212 rfl) rfl
theorem q542 : (Jvm.Cond.fieldLink "CombTable" (351 : Nat) "CombTable" "wholeMany" "I") ∈ lw_all := lw_g (lw_at lw_m2 213 rfl) rfl
theorem q543 : (Jvm.Cond.fieldLink "CombTable" (141 : Nat) "CombTable" "mended" "I") ∈ lw_all := lw_g (lw_at lw_m2 214 rfl) rfl
theorem q544 : (Jvm.Cond.fieldLink "CombTable" (145 : Nat) "CombTable" "order" "[I") ∈ lw_all := lw_g (lw_at lw_m2 215 rfl) rfl
theorem q545 : (Jvm.Cond.fieldLink "CombTable" (148 : Nat) "CombTable" "firstOrder" "[I") ∈ lw_all := lw_g (lw_at lw_m2 216 rfl) rfl
theorem q546 : (Jvm.Cond.fieldLink "CombTable" (378 : Nat) "CombTable" "orderMany" "I") ∈ lw_all := lw_g (lw_at lw_m2 217 rfl) rfl
theorem q547 : (Jvm.Cond.fieldLink "CombTable" (385 : Nat) "CombTable" "seed" "I") ∈ lw_all := lw_g (lw_at lw_m2 218 rfl) rfl
theorem q548 : (Jvm.Cond.fieldLink "CombTable" (151 : Nat) "CombTable" "found" "[I") ∈ lw_all := lw_g (lw_at lw_m2 219 rfl) rfl
theorem q549 : (Jvm.Cond.fieldLink "CombTable" (414 : Nat) "CombTable" "foundMany" "I") ∈ lw_all := lw_g (lw_at lw_m2 220 rfl) rfl
theorem q550 : (Jvm.Cond.fieldLink "CombTable" (421 : Nat) "CombTable" "last" "LCombTable$Talk;") ∈ lw_all := lw_g (lw_at lw_m2 221 rfl) rfl
theorem q551 : (Jvm.Cond.fieldLink "CombTable" (157 : Nat) "CombTable" "sentenceReader" "LCombTable$SentenceReader;") ∈ lw_all := lw_g (lw_at lw_m2 222 rfl) rfl
theorem q552 : (Jvm.Cond.fieldLink "CombTable" (208 : Nat) "CombTable" "sentence" "LCombTable$Cond;") ∈ lw_all := lw_g (lw_at lw_m2 223 rfl) rfl
theorem q553 : (Jvm.Cond.fieldLink "CombTable" (161 : Nat) "CombTable" "images" "[LCombTable$Talk;") ∈ lw_all := lw_g (lw_at lw_m2 224 rfl) rfl
theorem q554 : (Jvm.Cond.fieldLink "CombTable" (165 : Nat) "CombTable" "minutesKept" "[LCombTable$Minutes;") ∈ lw_all := lw_g (lw_at lw_m2 225 rfl) rfl
theorem q555 : (Jvm.Cond.fieldLink "CombTable" (171 : Nat) "CombTable" "sentences" "[LCombTable$Cond;") ∈ lw_all := lw_g (lw_at lw_m2 226 rfl) rfl
theorem q556 : (Jvm.Cond.laysFinal "CombTable" "CombTable" "tape" "[B") ∈ lw_all := lw_g (lw_at lw_m2 227 rfl) rfl
theorem q557 : (Jvm.Cond.soleField "CombTable" "tape") ∈ lw_all := lw_g (lw_at lw_m2 228 rfl) rfl
theorem q558 : (Jvm.Cond.lays "CombTable" "CombTable" "length" "I") ∈ lw_all := lw_g (lw_at lw_m2 229 rfl) rfl
theorem q559 : (Jvm.Cond.soleField "CombTable" "length") ∈ lw_all := lw_g (lw_at lw_m2 230 rfl) rfl
theorem q560 : (Jvm.Cond.lays "CombTable" "CombTable" "size" "I") ∈ lw_all := lw_g (lw_at lw_m2 231 rfl) rfl
theorem q561 : (Jvm.Cond.soleField "CombTable" "size") ∈ lw_all := lw_g (lw_at lw_m2 232 rfl) rfl
theorem q562 : (Jvm.Cond.lays "CombTable" "CombTable" "today" "I") ∈ lw_all := lw_g (lw_at lw_m2 233 rfl) rfl
theorem q563 : (Jvm.Cond.soleField "CombTable" "today") ∈ lw_all := lw_g (lw_at lw_m2 234 rfl) rfl
theorem q564 : (Jvm.Cond.laysFinal "CombTable" "CombTable" "broken" "LCombTable$Fault;") ∈ lw_all := lw_g (lw_at lw_m2 235 rfl) rfl
theorem q565 : (Jvm.Cond.soleField "CombTable" "broken") ∈ lw_all := lw_g (lw_at lw_m2 236 rfl) rfl
theorem q566 : (Jvm.Cond.laysFinal "CombTable" "CombTable" "lines" "[Ljava/lang/String;") ∈ lw_all := lw_g (lw_at lw_m2 237 rfl) rfl
theorem q567 : (Jvm.Cond.soleField "CombTable" "lines") ∈ lw_all := lw_g (lw_at lw_m2 238 rfl) rfl
theorem q568 : (Jvm.Cond.laysFinal "CombTable" "CombTable" "words" "[Ljava/lang/String;") ∈ lw_all := lw_g (lw_at lw_m2 239 rfl) rfl
theorem q569 : (Jvm.Cond.soleField "CombTable" "words") ∈ lw_all := lw_g (lw_at lw_m3 0 rfl) rfl
theorem q570 : (Jvm.Cond.laysFinal "CombTable" "CombTable" "does" "[Ljava/lang/String;") ∈ lw_all := lw_g (lw_at lw_m3 1 rfl) rfl
theorem q571 : (Jvm.Cond.soleField "CombTable" "does") ∈ lw_all := lw_g (lw_at lw_m3 2 rfl) rfl
theorem q572 : (Jvm.Cond.laysFinal "CombTable" "CombTable" "now" "LCombTable$Talk;") ∈ lw_all := lw_g (lw_at lw_m3 3 rfl) rfl
theorem q573 : (Jvm.Cond.soleField "CombTable" "now") ∈ lw_all := lw_g (lw_at lw_m3 4 rfl) rfl
theorem q574 : (Jvm.Cond.laysFinal "CombTable" "CombTable" "tried" "LCombTable$Talk;") ∈ lw_all := lw_g (lw_at lw_m3 5 rfl) rfl
theorem q575 : (Jvm.Cond.soleField "CombTable" "tried") ∈ lw_all := lw_g (lw_at lw_m3 6 rfl) rfl
theorem q576 : (Jvm.Cond.laysFinal "CombTable" "CombTable" "other" "LCombTable$Talk;") ∈ lw_all := lw_g (lw_at lw_m3 7 rfl) rfl
theorem q577 : (Jvm.Cond.soleField "CombTable" "other") ∈ lw_all := lw_g (lw_at lw_m3 8 rfl) rfl
theorem q578 : (Jvm.Cond.laysFinal "CombTable" "CombTable" "minutes" "LCombTable$Minutes;") ∈ lw_all := lw_g (lw_at lw_m3 9 rfl) rfl
theorem q579 : (Jvm.Cond.soleField "CombTable" "minutes") ∈ lw_all := lw_g (lw_at lw_m3 10 rfl) rfl
theorem q580 : (Jvm.Cond.laysFinal "CombTable" "CombTable" "readMinutes" "LCombTable$Minutes;") ∈ lw_all := lw_g (lw_at lw_m3 11 rfl) rfl
theorem q581 : (Jvm.Cond.soleField "CombTable" "readMinutes") ∈ lw_all := lw_g (lw_at lw_m3 12 rfl) rfl
theorem q582 : (Jvm.Cond.laysFinal "CombTable" "CombTable" "torn" "LCombTable$Minutes;") ∈ lw_all := lw_g (lw_at lw_m3 13 rfl) rfl
theorem q583 : (Jvm.Cond.soleField "CombTable" "torn") ∈ lw_all := lw_g (lw_at lw_m3 14 rfl) rfl
theorem q584 : (Jvm.Cond.laysFinal "CombTable" "CombTable" "tableReader" "LCombTable$TableReader;") ∈ lw_all := lw_g (lw_at lw_m3 15 rfl) rfl
theorem q585 : (Jvm.Cond.soleField "CombTable" "tableReader") ∈ lw_all := lw_g (lw_at lw_m3 16 rfl) rfl
theorem q586 : (Jvm.Cond.laysFinal "CombTable" "CombTable" "talkReader" "LCombTable$TalkReader;") ∈ lw_all := lw_g (lw_at lw_m3 17 rfl) rfl
theorem q587 : (Jvm.Cond.soleField "CombTable" "talkReader") ∈ lw_all := lw_g (lw_at lw_m3 18 rfl) rfl
theorem q588 : (Jvm.Cond.laysFinal "CombTable" "CombTable" "minutesReader" "LCombTable$MinutesReader;") ∈ lw_all := lw_g (lw_at lw_m3 19 rfl) rfl
theorem q589 : (Jvm.Cond.soleField "CombTable" "minutesReader") ∈ lw_all := lw_g (lw_at lw_m3 20 rfl) rfl
theorem q590 : (Jvm.Cond.lays "CombTable" "CombTable" "fault" "I") ∈ lw_all := lw_g (lw_at lw_m3 21 rfl) rfl
theorem q591 : (Jvm.Cond.soleField "CombTable" "fault") ∈ lw_all := lw_g (lw_at lw_m3 22 rfl) rfl
theorem q592 : (Jvm.Cond.lays "CombTable" "CombTable" "why" "I") ∈ lw_all := lw_g (lw_at lw_m3 23 rfl) rfl
theorem q593 : (Jvm.Cond.soleField "CombTable" "why") ∈ lw_all := lw_g (lw_at lw_m3 24 rfl) rfl
theorem q594 : (Jvm.Cond.laysFinal "CombTable" "CombTable" "whoBits" "[I") ∈ lw_all := lw_g (lw_at lw_m3 25 rfl) rfl
theorem q595 : (Jvm.Cond.soleField "CombTable" "whoBits") ∈ lw_all := lw_g (lw_at lw_m3 26 rfl) rfl
theorem q596 : (Jvm.Cond.laysFinal "CombTable" "CombTable" "kindBits" "[I") ∈ lw_all := lw_g (lw_at lw_m3 27 rfl) rfl
theorem q597 : (Jvm.Cond.soleField "CombTable" "kindBits") ∈ lw_all := lw_g (lw_at lw_m3 28 rfl) rfl
theorem q598 : (Jvm.Cond.laysFinal "CombTable" "CombTable" "stateBits" "[I") ∈ lw_all := lw_g (lw_at lw_m3 29 rfl) rfl
theorem q599 : (Jvm.Cond.soleField "CombTable" "stateBits") ∈ lw_all := lw_g (lw_at lw_m3 30 rfl) rfl
theorem q600 : (Jvm.Cond.lays "CombTable" "CombTable" "sureMany" "I") ∈ lw_all := lw_g (lw_at lw_m3 31 rfl) rfl
theorem q601 : (Jvm.Cond.soleField "CombTable" "sureMany") ∈ lw_all := lw_g (lw_at lw_m3 32 rfl) rfl
theorem q602 : (Jvm.Cond.lays "CombTable" "CombTable" "keeps" "Z") ∈ lw_all := lw_g (lw_at lw_m3 33 rfl) rfl
theorem q603 : (Jvm.Cond.soleField "CombTable" "keeps") ∈ lw_all := lw_g (lw_at lw_m3 34 rfl) rfl
theorem q604 : (Jvm.Cond.lays "CombTable" "CombTable" "wholeMany" "I") ∈ lw_all := lw_g (lw_at lw_m3 35 rfl) rfl
theorem q605 : (Jvm.Cond.soleField "CombTable" "wholeMany") ∈ lw_all := lw_g (lw_at lw_m3 36 rfl) rfl
theorem q606 : (Jvm.Cond.lays "CombTable" "CombTable" "mended" "I") ∈ lw_all := lw_g (lw_at lw_m3 37 rfl) rfl
theorem q607 : (Jvm.Cond.soleField "CombTable" "mended") ∈ lw_all := lw_g (lw_at lw_m3 38 rfl) rfl
theorem q608 : (Jvm.Cond.laysFinal "CombTable" "CombTable" "order" "[I") ∈ lw_all := lw_g (lw_at lw_m3 39 rfl) rfl
theorem q609 : (Jvm.Cond.soleField "CombTable" "order") ∈ lw_all := lw_g (lw_at lw_m3 40 rfl) rfl
theorem q610 : (Jvm.Cond.laysFinal "CombTable" "CombTable" "firstOrder" "[I") ∈ lw_all := lw_g (lw_at lw_m3 41 rfl) rfl
theorem q611 : (Jvm.Cond.soleField "CombTable" "firstOrder") ∈ lw_all := lw_g (lw_at lw_m3 42 rfl) rfl
theorem q612 : (Jvm.Cond.lays "CombTable" "CombTable" "orderMany" "I") ∈ lw_all := lw_g (lw_at lw_m3 43 rfl) rfl
theorem q613 : (Jvm.Cond.soleField "CombTable" "orderMany") ∈ lw_all := lw_g (lw_at lw_m3 44 rfl) rfl
theorem q614 : (Jvm.Cond.lays "CombTable" "CombTable" "seed" "I") ∈ lw_all := lw_g (lw_at lw_m3 45 rfl) rfl
theorem q615 : (Jvm.Cond.soleField "CombTable" "seed") ∈ lw_all := lw_g (lw_at lw_m3 46 rfl) rfl
theorem q616 : (Jvm.Cond.laysFinal "CombTable" "CombTable" "found" "[I") ∈ lw_all := lw_g (lw_at lw_m3 47 rfl) rfl
theorem q617 : (Jvm.Cond.soleField "CombTable" "found") ∈ lw_all := lw_g (lw_at lw_m3 48 rfl) rfl
theorem q618 : (Jvm.Cond.lays "CombTable" "CombTable" "foundMany" "I") ∈ lw_all := lw_g (lw_at lw_m3 49 rfl) rfl
theorem q619 : (Jvm.Cond.soleField "CombTable" "foundMany") ∈ lw_all := lw_g (lw_at lw_m3 50 rfl) rfl
theorem q620 : (Jvm.Cond.lays "CombTable" "CombTable" "last" "LCombTable$Talk;") ∈ lw_all := lw_g (lw_at lw_m3 51 rfl) rfl
theorem q621 : (Jvm.Cond.soleField "CombTable" "last") ∈ lw_all := lw_g (lw_at lw_m3 52 rfl) rfl
theorem q622 : (Jvm.Cond.laysFinal "CombTable" "CombTable" "sentenceReader" "LCombTable$SentenceReader;") ∈ lw_all := lw_g (lw_at lw_m3 53 rfl) rfl
theorem q623 : (Jvm.Cond.soleField "CombTable" "sentenceReader") ∈ lw_all := lw_g (lw_at lw_m3 54 rfl) rfl
theorem q624 : (Jvm.Cond.lays "CombTable" "CombTable" "sentence" "LCombTable$Cond;") ∈ lw_all := lw_g (lw_at lw_m3 55 rfl) rfl
theorem q625 : (Jvm.Cond.soleField "CombTable" "sentence") ∈ lw_all := lw_g (lw_at lw_m3 56 rfl) rfl
theorem q626 : (Jvm.Cond.laysFinal "CombTable" "CombTable" "images" "[LCombTable$Talk;") ∈ lw_all := lw_g (lw_at lw_m3 57 rfl) rfl
theorem q627 : (Jvm.Cond.soleField "CombTable" "images") ∈ lw_all := lw_g (lw_at lw_m3 58 rfl) rfl
theorem q628 : (Jvm.Cond.laysFinal "CombTable" "CombTable" "minutesKept" "[LCombTable$Minutes;") ∈ lw_all := lw_g (lw_at lw_m3 59 rfl) rfl
theorem q629 : (Jvm.Cond.soleField "CombTable" "minutesKept") ∈ lw_all := lw_g (lw_at lw_m3 60 rfl) rfl
theorem q630 : (Jvm.Cond.laysFinal "CombTable" "CombTable" "sentences" "[LCombTable$Cond;") ∈ lw_all := lw_g (lw_at lw_m3 61 rfl) rfl
theorem q631 : (Jvm.Cond.soleField "CombTable" "sentences") ∈ lw_all := lw_g (lw_at lw_m3 62 rfl) rfl
theorem q632 : (Jvm.Cond.superclass "CombTable" "java/lang/Object") ∈ lw_all := lw_g (lw_at lw_m3 63 rfl) rfl
theorem q634 : (Jvm.Cond.instanceMethod ({ cls := "CombTable", name := "feed", desc := "(IIIII)I" } : Jvm.MethodName)) ∈ lw_all := lw_g (lw_at lw_m3 65 rfl) rfl
theorem q635 : (Jvm.Cond.selects "CombTable" ({ cls := "CombTable", name := "feed", desc := "(IIIII)I" } : Jvm.MethodName) ({ cls := "CombTable", name := "feed", desc := "(IIIII)I" } : Jvm.MethodName)) ∈ lw_all := lw_g (lw_at lw_m3 66 rfl) rfl
theorem q636 : (Jvm.Cond.code ({ cls := "CombTable", name := "feed", desc := "(IIIII)I" } : Jvm.MethodName) prog_1_method_2_code (6 : Nat) (Option.some Jvm.ClassFile.FieldType.int)) ∈ lw_all := lw_g (lw_at lw_m3 67 rfl) rfl
theorem q637 : (Jvm.Cond.methodLink "CombTable" (178 : Nat) ({ cls := "CombTable", name := "four", desc := "(I)V" } : Jvm.MethodName)) ∈ lw_all := lw_g (lw_at lw_m3 68 rfl) rfl
theorem q638 : (Jvm.Cond.privateMethod ({ cls := "CombTable", name := "four", desc := "(I)V" } : Jvm.MethodName)) ∈ lw_tbl := lw_at lw_m3 69 rfl
theorem q639 : (Jvm.Cond.instanceMethod ({ cls := "CombTable", name := "four", desc := "(I)V" } : Jvm.MethodName)) ∈ lw_all := lw_g (lw_at lw_m3 70 rfl) rfl
theorem q640 : (Jvm.Cond.code ({ cls := "CombTable", name := "four", desc := "(I)V" } : Jvm.MethodName) prog_1_method_3_code (3 : Nat) (Option.none : Option Jvm.ClassFile.FieldType)) ∈ lw_all := lw_g (lw_at lw_m3 71 rfl) rfl
theorem q642 : (Jvm.Cond.instanceMethod ({ cls := "CombTable", name := "end", desc := "(I)Z" } : Jvm.MethodName)) ∈ lw_all := lw_g (lw_at lw_m3 73 rfl) rfl
theorem q643 : (Jvm.Cond.selects "CombTable" ({ cls := "CombTable", name := "end", desc := "(I)Z" } : Jvm.MethodName) ({ cls := "CombTable", name := "end", desc := "(I)Z" } : Jvm.MethodName)) ∈ lw_all := lw_g (lw_at lw_m3 74 rfl) rfl
theorem q644 : (Jvm.Cond.code ({ cls := "CombTable", name := "end", desc := "(I)Z" } : Jvm.MethodName) prog_1_method_4_code (2 : Nat) (Option.some Jvm.ClassFile.FieldType.boolean)) ∈ lw_all := lw_g (lw_at lw_m3 75 rfl) rfl
theorem q646 : (Jvm.Cond.instanceMethod ({ cls := "CombTable", name := "table", desc := "()I" } : Jvm.MethodName)) ∈ lw_all := lw_g (lw_at lw_m3 77 rfl) rfl
theorem q647 : (Jvm.Cond.selects "CombTable" ({ cls := "CombTable", name := "table", desc := "()I" } : Jvm.MethodName) ({ cls := "CombTable", name := "table", desc := "()I" } : Jvm.MethodName)) ∈ lw_all := lw_g (lw_at lw_m3 78 rfl) rfl
theorem q648 : (Jvm.Cond.codeWith ({ cls := "CombTable", name := "table", desc := "()I" } : Jvm.MethodName) prog_1_method_9_code (3 : Nat) (Option.some Jvm.ClassFile.FieldType.int) [((17 : Nat), (48 : Nat), (49 : Nat), (13 : Nat))]) ∈ lw_all := lw_g (lw_at lw_m3 79 rfl) rfl
theorem q649 : (Jvm.Cond.methodLink "CombTable" (188 : Nat) ({ cls := "CombTable", name := "taken", desc := "()V" } : Jvm.MethodName)) ∈ lw_all := lw_g (lw_at lw_m3 80 rfl) rfl
theorem q650 : (Jvm.Cond.privateMethod ({ cls := "CombTable", name := "taken", desc := "()V" } : Jvm.MethodName)) ∈ lw_tbl := lw_at lw_m3 81 rfl
theorem q651 : (Jvm.Cond.instanceMethod ({ cls := "CombTable", name := "taken", desc := "()V" } : Jvm.MethodName)) ∈ lw_all := lw_g (lw_at lw_m3 82 rfl) rfl
theorem q652 : (Jvm.Cond.code ({ cls := "CombTable", name := "taken", desc := "()V" } : Jvm.MethodName) prog_1_method_5_code (1 : Nat) (Option.none : Option Jvm.ClassFile.FieldType)) ∈ lw_all := lw_g (lw_at lw_m3 83 rfl) rfl
theorem q653 : (Jvm.Cond.classLink "CombTable" (194 : Nat) "CombTable$Table") ∈ lw_all := lw_g (lw_at lw_m3 84 rfl) rfl
theorem q654 : (Jvm.Cond.methodLinkNest "CombTable" (196 : Nat) ({ cls := "CombTable$Table", name := "<init>", desc := "()V" } : Jvm.MethodName) "CombTable") ∈ lw_tbl := lw_at lw_m3 85 rfl
theorem q655 : (Jvm.Cond.methodLink "CombTable" (197 : Nat) ({ cls := "CombTable$TableReader", name := "read", desc := "(LCombTable$Table;)I" } : Jvm.MethodName)) ∈ lw_all := lw_g (lw_at lw_m3 86 rfl) rfl
theorem q682 : (Jvm.Cond.static ({ cls := "CombTable", name := "isIn", desc := "(III)Z" } : Jvm.MethodName)) ∈ lw_all := lw_g (lw_at lw_m3 113 rfl) rfl
theorem q683 : (Jvm.Cond.code ({ cls := "CombTable", name := "isIn", desc := "(III)Z" } : Jvm.MethodName) prog_1_method_6_code (3 : Nat) (Option.some Jvm.ClassFile.FieldType.boolean)) ∈ lw_all := lw_g (lw_at lw_m3 114 rfl) rfl
theorem q811 : (Jvm.Cond.fieldLinkNest "CombTable" (228 : Nat) "CombTable$Who" "rank" "I" "CombTable") ∈ lw_tbl := lw_at lw_m4 2 rfl
theorem q831 : (Jvm.Cond.fieldLinkNest "CombTable" (248 : Nat) "CombTable$Kind" "begins" "I" "CombTable") ∈ lw_tbl := lw_at lw_m4 22 rfl
theorem q834 : (Jvm.Cond.fieldLinkNest "CombTable" (252 : Nat) "CombTable$Kind" "does" "I" "CombTable") ∈ lw_tbl := lw_at lw_m4 25 rfl
theorem q837 : (Jvm.Cond.fieldLinkNest "CombTable" (254 : Nat) "CombTable$Kind" "due" "I" "CombTable") ∈ lw_tbl := lw_at lw_m4 28 rfl
theorem q840 : (Jvm.Cond.fieldLinkNest "CombTable" (257 : Nat) "CombTable$Kind" "may" "I" "CombTable") ∈ lw_tbl := lw_at lw_m4 31 rfl
theorem q866 : (Jvm.Cond.static ({ cls := "CombTable", name := "has", desc := "(II)Z" } : Jvm.MethodName)) ∈ lw_all := lw_g (lw_at lw_m4 57 rfl) rfl
theorem q867 : (Jvm.Cond.code ({ cls := "CombTable", name := "has", desc := "(II)Z" } : Jvm.MethodName) prog_1_method_8_code (2 : Nat) (Option.some Jvm.ClassFile.FieldType.boolean)) ∈ lw_all := lw_g (lw_at lw_m4 58 rfl) rfl
theorem q886 : (Jvm.Cond.methodLink "CombTable" (201 : Nat) ({ cls := "CombTable$Talk", name := "begin", desc := "(LCombTable$Table;)V" } : Jvm.MethodName)) ∈ lw_all := lw_g (lw_at lw_m4 77 rfl) rfl
theorem q891 : (Jvm.Cond.instanceMethod ({ cls := "CombTable", name := "fault", desc := "()I" } : Jvm.MethodName)) ∈ lw_all := lw_g (lw_at lw_m4 82 rfl) rfl
theorem q892 : (Jvm.Cond.selects "CombTable" ({ cls := "CombTable", name := "fault", desc := "()I" } : Jvm.MethodName) ({ cls := "CombTable", name := "fault", desc := "()I" } : Jvm.MethodName)) ∈ lw_all := lw_g (lw_at lw_m4 83 rfl) rfl
theorem q893 : (Jvm.Cond.code ({ cls := "CombTable", name := "fault", desc := "()I" } : Jvm.MethodName) prog_1_method_10_code (1 : Nat) (Option.some Jvm.ClassFile.FieldType.int)) ∈ lw_all := lw_g (lw_at lw_m4 84 rfl) rfl
theorem q895 : (Jvm.Cond.instanceMethod ({ cls := "CombTable", name := "rank", desc := "(I)I" } : Jvm.MethodName)) ∈ lw_all := lw_g (lw_at lw_m4 86 rfl) rfl
theorem q896 : (Jvm.Cond.selects "CombTable" ({ cls := "CombTable", name := "rank", desc := "(I)I" } : Jvm.MethodName) ({ cls := "CombTable", name := "rank", desc := "(I)I" } : Jvm.MethodName)) ∈ lw_all := lw_g (lw_at lw_m4 87 rfl) rfl
theorem q897 : (Jvm.Cond.code ({ cls := "CombTable", name := "rank", desc := "(I)I" } : Jvm.MethodName) prog_1_method_11_code (2 : Nat) (Option.some Jvm.ClassFile.FieldType.int)) ∈ lw_all := lw_g (lw_at lw_m4 88 rfl) rfl
theorem q898 : (Jvm.Cond.methodLink "CombTable" (216 : Nat) ({ cls := "CombTable$Talk", name := "isWho", desc := "(I)Z" } : Jvm.MethodName)) ∈ lw_all := lw_g (lw_at lw_m4 89 rfl) rfl
theorem q904 : (Jvm.Cond.instanceMethod ({ cls := "CombTable", name := "say", desc := "(II)I" } : Jvm.MethodName)) ∈ lw_all := lw_g (lw_at lw_m4 95 rfl) rfl
theorem q905 : (Jvm.Cond.selects "CombTable" ({ cls := "CombTable", name := "say", desc := "(II)I" } : Jvm.MethodName) ({ cls := "CombTable", name := "say", desc := "(II)I" } : Jvm.MethodName)) ∈ lw_all := lw_g (lw_at lw_m4 96 rfl) rfl
theorem q906 : (Jvm.Cond.code ({ cls := "CombTable", name := "say", desc := "(II)I" } : Jvm.MethodName) prog_1_method_13_code (3 : Nat) (Option.some Jvm.ClassFile.FieldType.int)) ∈ lw_all := lw_g (lw_at lw_m4 97 rfl) rfl
theorem q907 : (Jvm.Cond.methodLink "CombTable" (233 : Nat) ({ cls := "CombTable$Talk", name := "isKind", desc := "(I)Z" } : Jvm.MethodName)) ∈ lw_all := lw_g (lw_at lw_m4 98 rfl) rfl
theorem q911 : (Jvm.Cond.methodLink "CombTable" (260 : Nat) ({ cls := "CombTable$Talk", name := "tries", desc := "(II)I" } : Jvm.MethodName)) ∈ lw_all := lw_g (lw_at lw_m4 102 rfl) rfl
theorem q941 : (Jvm.Cond.instanceMethod ({ cls := "CombTable", name := "wrong", desc := "(II)I" } : Jvm.MethodName)) ∈ lw_all := lw_g (lw_at lw_m4 132 rfl) rfl
theorem q942 : (Jvm.Cond.selects "CombTable" ({ cls := "CombTable", name := "wrong", desc := "(II)I" } : Jvm.MethodName) ({ cls := "CombTable", name := "wrong", desc := "(II)I" } : Jvm.MethodName)) ∈ lw_all := lw_g (lw_at lw_m4 133 rfl) rfl
theorem q943 : (Jvm.Cond.code ({ cls := "CombTable", name := "wrong", desc := "(II)I" } : Jvm.MethodName) prog_1_method_14_code (3 : Nat) (Option.some Jvm.ClassFile.FieldType.int)) ∈ lw_all := lw_g (lw_at lw_m4 134 rfl) rfl
theorem q944 : (Jvm.Cond.methodLink "CombTable" (264 : Nat) ({ cls := "CombTable$Talk", name := "why", desc := "(II)I" } : Jvm.MethodName)) ∈ lw_all := lw_g (lw_at lw_m4 135 rfl) rfl
theorem q946 : (Jvm.Cond.instanceMethod ({ cls := "CombTable", name := "may", desc := "(I)I" } : Jvm.MethodName)) ∈ lw_all := lw_g (lw_at lw_m4 137 rfl) rfl
theorem q947 : (Jvm.Cond.selects "CombTable" ({ cls := "CombTable", name := "may", desc := "(I)I" } : Jvm.MethodName) ({ cls := "CombTable", name := "may", desc := "(I)I" } : Jvm.MethodName)) ∈ lw_all := lw_g (lw_at lw_m4 138 rfl) rfl
theorem q948 : (Jvm.Cond.code ({ cls := "CombTable", name := "may", desc := "(I)I" } : Jvm.MethodName) prog_1_method_15_code (4 : Nat) (Option.some Jvm.ClassFile.FieldType.int)) ∈ lw_all := lw_g (lw_at lw_m4 139 rfl) rfl
theorem q950 : (Jvm.Cond.instanceMethod ({ cls := "CombTable", name := "undo", desc := "()I" } : Jvm.MethodName)) ∈ lw_all := lw_g (lw_at lw_m4 141 rfl) rfl
theorem q951 : (Jvm.Cond.selects "CombTable" ({ cls := "CombTable", name := "undo", desc := "()I" } : Jvm.MethodName) ({ cls := "CombTable", name := "undo", desc := "()I" } : Jvm.MethodName)) ∈ lw_all := lw_g (lw_at lw_m4 142 rfl) rfl
theorem q952 : (Jvm.Cond.code ({ cls := "CombTable", name := "undo", desc := "()I" } : Jvm.MethodName) prog_1_method_16_code (1 : Nat) (Option.some Jvm.ClassFile.FieldType.int)) ∈ lw_all := lw_g (lw_at lw_m4 143 rfl) rfl
theorem q953 : (Jvm.Cond.methodLink "CombTable" (270 : Nat) ({ cls := "CombTable$Talk", name := "undo", desc := "()V" } : Jvm.MethodName)) ∈ lw_all := lw_g (lw_at lw_m4 144 rfl) rfl
theorem q958 : (Jvm.Cond.instanceMethod ({ cls := "CombTable", name := "talk", desc := "()I" } : Jvm.MethodName)) ∈ lw_all := lw_g (lw_at lw_m4 149 rfl) rfl
theorem q959 : (Jvm.Cond.selects "CombTable" ({ cls := "CombTable", name := "talk", desc := "()I" } : Jvm.MethodName) ({ cls := "CombTable", name := "talk", desc := "()I" } : Jvm.MethodName)) ∈ lw_all := lw_g (lw_at lw_m4 150 rfl) rfl
theorem q960 : (Jvm.Cond.codeWith ({ cls := "CombTable", name := "talk", desc := "()I" } : Jvm.MethodName) prog_1_method_17_code (2 : Nat) (Option.some Jvm.ClassFile.FieldType.int) [((28 : Nat), (57 : Nat), (58 : Nat), (13 : Nat))]) ∈ lw_all := lw_g (lw_at lw_m4 151 rfl) rfl
theorem q961 : (Jvm.Cond.methodLink "CombTable" (275 : Nat) ({ cls := "CombTable$TalkReader", name := "read", desc := "(LCombTable$Talk;)V" } : Jvm.MethodName)) ∈ lw_all := lw_g (lw_at lw_m4 152 rfl) rfl
theorem q991 : (Jvm.Cond.methodLink "CombTable" (278 : Nat) ({ cls := "CombTable$Talk", name := "be", desc := "(LCombTable$Talk;)V" } : Jvm.MethodName)) ∈ lw_all := lw_g (lw_at lw_m4 182 rfl) rfl
theorem q999 : (Jvm.Cond.instanceMethod ({ cls := "CombTable", name := "why", desc := "()I" } : Jvm.MethodName)) ∈ lw_all := lw_g (lw_at lw_m4 190 rfl) rfl
theorem q1000 : (Jvm.Cond.selects "CombTable" ({ cls := "CombTable", name := "why", desc := "()I" } : Jvm.MethodName) ({ cls := "CombTable", name := "why", desc := "()I" } : Jvm.MethodName)) ∈ lw_all := lw_g (lw_at lw_m4 191 rfl) rfl
theorem q1001 : (Jvm.Cond.code ({ cls := "CombTable", name := "why", desc := "()I" } : Jvm.MethodName) prog_1_method_18_code (1 : Nat) (Option.some Jvm.ClassFile.FieldType.int)) ∈ lw_all := lw_g (lw_at lw_m4 192 rfl) rfl
theorem q1003 : (Jvm.Cond.instanceMethod ({ cls := "CombTable", name := "threads", desc := "()I" } : Jvm.MethodName)) ∈ lw_all := lw_g (lw_at lw_m4 194 rfl) rfl
theorem q1004 : (Jvm.Cond.selects "CombTable" ({ cls := "CombTable", name := "threads", desc := "()I" } : Jvm.MethodName) ({ cls := "CombTable", name := "threads", desc := "()I" } : Jvm.MethodName)) ∈ lw_all := lw_g (lw_at lw_m4 195 rfl) rfl
theorem q1005 : (Jvm.Cond.code ({ cls := "CombTable", name := "threads", desc := "()I" } : Jvm.MethodName) prog_1_method_21_code (1 : Nat) (Option.some Jvm.ClassFile.FieldType.int)) ∈ lw_all := lw_g (lw_at lw_m4 196 rfl) rfl
theorem q1007 : (Jvm.Cond.instanceMethod ({ cls := "CombTable", name := "thread", desc := "(II)I" } : Jvm.MethodName)) ∈ lw_all := lw_g (lw_at lw_m4 198 rfl) rfl
theorem q1008 : (Jvm.Cond.selects "CombTable" ({ cls := "CombTable", name := "thread", desc := "(II)I" } : Jvm.MethodName) ({ cls := "CombTable", name := "thread", desc := "(II)I" } : Jvm.MethodName)) ∈ lw_all := lw_g (lw_at lw_m4 199 rfl) rfl
theorem q1009 : (Jvm.Cond.code ({ cls := "CombTable", name := "thread", desc := "(II)I" } : Jvm.MethodName) prog_1_method_22_code (5 : Nat) (Option.some Jvm.ClassFile.FieldType.int)) ∈ lw_all := lw_g (lw_at lw_m4 200 rfl) rfl
theorem q1010 : (Jvm.Cond.methodLink "CombTable" (236 : Nat) ({ cls := "CombTable", name := "isIn", desc := "(III)Z" } : Jvm.MethodName)) ∈ lw_all := lw_g (lw_at lw_m4 201 rfl) rfl
theorem q1012 : (Jvm.Cond.instanceMethod ({ cls := "CombTable", name := "with", desc := "(II)I" } : Jvm.MethodName)) ∈ lw_all := lw_g (lw_at lw_m4 203 rfl) rfl
theorem q1013 : (Jvm.Cond.selects "CombTable" ({ cls := "CombTable", name := "with", desc := "(II)I" } : Jvm.MethodName) ({ cls := "CombTable", name := "with", desc := "(II)I" } : Jvm.MethodName)) ∈ lw_all := lw_g (lw_at lw_m4 204 rfl) rfl
theorem q1014 : (Jvm.Cond.code ({ cls := "CombTable", name := "with", desc := "(II)I" } : Jvm.MethodName) prog_1_method_23_code (5 : Nat) (Option.some Jvm.ClassFile.FieldType.int)) ∈ lw_all := lw_g (lw_at lw_m4 205 rfl) rfl
theorem q1015 : (Jvm.Cond.methodLink "CombTable" (300 : Nat) ({ cls := "CombTable$Talk", name := "stateOf", desc := "(I)I" } : Jvm.MethodName)) ∈ lw_all := lw_g (lw_at lw_m4 206 rfl) rfl
theorem q1020 : (Jvm.Cond.instanceMethod ({ cls := "CombTable", name := "promised", desc := "(III)I" } : Jvm.MethodName)) ∈ lw_all := lw_g (lw_at lw_m4 211 rfl) rfl
theorem q1021 : (Jvm.Cond.selects "CombTable" ({ cls := "CombTable", name := "promised", desc := "(III)I" } : Jvm.MethodName) ({ cls := "CombTable", name := "promised", desc := "(III)I" } : Jvm.MethodName)) ∈ lw_all := lw_g (lw_at lw_m4 212 rfl) rfl
theorem q1022 : (Jvm.Cond.code ({ cls := "CombTable", name := "promised", desc := "(III)I" } : Jvm.MethodName) prog_1_method_24_code (6 : Nat) (Option.some Jvm.ClassFile.FieldType.int)) ∈ lw_all := lw_g (lw_at lw_m4 213 rfl) rfl
theorem q1023 : (Jvm.Cond.methodLink "CombTable" (285 : Nat) ({ cls := "CombTable$Talk", name := "kindOf", desc := "(I)LCombTable$Kind;" } : Jvm.MethodName)) ∈ lw_all := lw_g (lw_at lw_m4 214 rfl) rfl
theorem q1024 : (Jvm.Cond.methodLink "CombTable" (304 : Nat) ({ cls := "CombTable$Talk", name := "to", desc := "(I)I" } : Jvm.MethodName)) ∈ lw_all := lw_g (lw_at lw_m4 215 rfl) rfl
theorem q1026 : (Jvm.Cond.instanceMethod ({ cls := "CombTable", name := "minutes", desc := "()I" } : Jvm.MethodName)) ∈ lw_all := lw_g (lw_at lw_m4 217 rfl) rfl
theorem q1027 : (Jvm.Cond.selects "CombTable" ({ cls := "CombTable", name := "minutes", desc := "()I" } : Jvm.MethodName) ({ cls := "CombTable", name := "minutes", desc := "()I" } : Jvm.MethodName)) ∈ lw_all := lw_g (lw_at lw_m4 218 rfl) rfl
theorem q1028 : (Jvm.Cond.codeWith ({ cls := "CombTable", name := "minutes", desc := "()I" } : Jvm.MethodName) prog_1_method_25_code (2 : Nat) (Option.some Jvm.ClassFile.FieldType.int) [((9 : Nat), (38 : Nat), (39 : Nat), (13 : Nat))]) ∈ lw_all := lw_g (lw_at lw_m4 219 rfl) rfl
theorem q1029 : (Jvm.Cond.methodLink "CombTable" (309 : Nat) ({ cls := "CombTable$MinutesReader", name := "read", desc := "(LCombTable$Minutes;)V" } : Jvm.MethodName)) ∈ lw_all := lw_g (lw_at lw_m4 220 rfl) rfl
theorem q1062 : (Jvm.Cond.methodLink "CombTable" (312 : Nat) ({ cls := "CombTable$Minutes", name := "be", desc := "(LCombTable$Minutes;)V" } : Jvm.MethodName)) ∈ lw_all := lw_g (lw_at lw_m5 13 rfl) rfl
theorem q1068 : (Jvm.Cond.instanceMethod ({ cls := "CombTable", name := "wholes", desc := "(I)I" } : Jvm.MethodName)) ∈ lw_all := lw_g (lw_at lw_m5 19 rfl) rfl
theorem q1069 : (Jvm.Cond.selects "CombTable" ({ cls := "CombTable", name := "wholes", desc := "(I)I" } : Jvm.MethodName) ({ cls := "CombTable", name := "wholes", desc := "(I)I" } : Jvm.MethodName)) ∈ lw_all := lw_g (lw_at lw_m5 20 rfl) rfl
theorem q1070 : (Jvm.Cond.code ({ cls := "CombTable", name := "wholes", desc := "(I)I" } : Jvm.MethodName) prog_1_method_29_code (5 : Nat) (Option.some Jvm.ClassFile.FieldType.int)) ∈ lw_all := lw_g (lw_at lw_m5 21 rfl) rfl
theorem q1071 : (Jvm.Cond.methodLink "CombTable" (331 : Nat) ({ cls := "CombTable", name := "ways", desc := "(LCombTable$Minutes;I)I" } : Jvm.MethodName)) ∈ lw_all := lw_g (lw_at lw_m5 22 rfl) rfl
theorem q1072 : (Jvm.Cond.privateMethod ({ cls := "CombTable", name := "ways", desc := "(LCombTable$Minutes;I)I" } : Jvm.MethodName)) ∈ lw_tbl := lw_at lw_m5 23 rfl
theorem q1073 : (Jvm.Cond.instanceMethod ({ cls := "CombTable", name := "ways", desc := "(LCombTable$Minutes;I)I" } : Jvm.MethodName)) ∈ lw_all := lw_g (lw_at lw_m5 24 rfl) rfl
theorem q1074 : (Jvm.Cond.code ({ cls := "CombTable", name := "ways", desc := "(LCombTable$Minutes;I)I" } : Jvm.MethodName) prog_1_method_26_code (6 : Nat) (Option.some Jvm.ClassFile.FieldType.int)) ∈ lw_all := lw_g (lw_at lw_m5 25 rfl) rfl
theorem q1075 : (Jvm.Cond.methodLink "CombTable" (319 : Nat) ({ cls := "java/lang/Math", name := "min", desc := "(JJ)J" } : Jvm.MethodName)) ∈ lw_all := lw_g (lw_at lw_m5 26 rfl) rfl
theorem q1078 : (Jvm.Cond.methodLink "CombTable" (335 : Nat) ({ cls := "java/lang/Math", name := "max", desc := "(II)I" } : Jvm.MethodName)) ∈ lw_all := lw_g (lw_at lw_m5 29 rfl) rfl
theorem q1081 : (Jvm.Cond.methodLink "CombTable" (341 : Nat) ({ cls := "CombTable$Minutes", name := "leave", desc := "(I)V" } : Jvm.MethodName)) ∈ lw_all := lw_g (lw_at lw_m5 32 rfl) rfl
theorem q1085 : (Jvm.Cond.methodLink "CombTable" (344 : Nat) ({ cls := "CombTable$Minutes", name := "change", desc := "(I)V" } : Jvm.MethodName)) ∈ lw_all := lw_g (lw_at lw_m5 36 rfl) rfl
theorem q1089 : (Jvm.Cond.methodLink "CombTable" (347 : Nat) ({ cls := "CombTable", name := "wholesNow", desc := "()I" } : Jvm.MethodName)) ∈ lw_all := lw_g (lw_at lw_m5 40 rfl) rfl
theorem q1090 : (Jvm.Cond.privateMethod ({ cls := "CombTable", name := "wholesNow", desc := "()I" } : Jvm.MethodName)) ∈ lw_tbl := lw_at lw_m5 41 rfl
theorem q1091 : (Jvm.Cond.instanceMethod ({ cls := "CombTable", name := "wholesNow", desc := "()I" } : Jvm.MethodName)) ∈ lw_all := lw_g (lw_at lw_m5 42 rfl) rfl
theorem q1092 : (Jvm.Cond.code ({ cls := "CombTable", name := "wholesNow", desc := "()I" } : Jvm.MethodName) prog_1_method_28_code (1 : Nat) (Option.some Jvm.ClassFile.FieldType.int)) ∈ lw_all := lw_g (lw_at lw_m5 43 rfl) rfl
theorem q1093 : (Jvm.Cond.methodLink "CombTable" (328 : Nat) ({ cls := "CombTable", name := "wholesFrom", desc := "(I)I" } : Jvm.MethodName)) ∈ lw_all := lw_g (lw_at lw_m5 44 rfl) rfl
theorem q1094 : (Jvm.Cond.privateMethod ({ cls := "CombTable", name := "wholesFrom", desc := "(I)I" } : Jvm.MethodName)) ∈ lw_tbl := lw_at lw_m5 45 rfl
theorem q1095 : (Jvm.Cond.instanceMethod ({ cls := "CombTable", name := "wholesFrom", desc := "(I)I" } : Jvm.MethodName)) ∈ lw_all := lw_g (lw_at lw_m5 46 rfl) rfl
theorem q1096 : (Jvm.Cond.code ({ cls := "CombTable", name := "wholesFrom", desc := "(I)I" } : Jvm.MethodName) prog_1_method_27_code (5 : Nat) (Option.some Jvm.ClassFile.FieldType.int)) ∈ lw_all := lw_g (lw_at lw_m5 47 rfl) rfl
theorem q1098 : (Jvm.Cond.instanceMethod ({ cls := "CombTable", name := "sure", desc := "(II)I" } : Jvm.MethodName)) ∈ lw_all := lw_g (lw_at lw_m5 49 rfl) rfl
theorem q1099 : (Jvm.Cond.selects "CombTable" ({ cls := "CombTable", name := "sure", desc := "(II)I" } : Jvm.MethodName) ({ cls := "CombTable", name := "sure", desc := "(II)I" } : Jvm.MethodName)) ∈ lw_all := lw_g (lw_at lw_m5 50 rfl) rfl
theorem q1100 : (Jvm.Cond.code ({ cls := "CombTable", name := "sure", desc := "(II)I" } : Jvm.MethodName) prog_1_method_30_code (3 : Nat) (Option.some Jvm.ClassFile.FieldType.int)) ∈ lw_all := lw_g (lw_at lw_m5 51 rfl) rfl
theorem q1102 : (Jvm.Cond.instanceMethod ({ cls := "CombTable", name := "hangs", desc := "()I" } : Jvm.MethodName)) ∈ lw_all := lw_g (lw_at lw_m5 53 rfl) rfl
theorem q1103 : (Jvm.Cond.selects "CombTable" ({ cls := "CombTable", name := "hangs", desc := "()I" } : Jvm.MethodName) ({ cls := "CombTable", name := "hangs", desc := "()I" } : Jvm.MethodName)) ∈ lw_all := lw_g (lw_at lw_m5 54 rfl) rfl
theorem q1104 : (Jvm.Cond.code ({ cls := "CombTable", name := "hangs", desc := "()I" } : Jvm.MethodName) prog_1_method_31_code (4 : Nat) (Option.some Jvm.ClassFile.FieldType.int)) ∈ lw_all := lw_g (lw_at lw_m5 55 rfl) rfl
theorem q1105 : (Jvm.Cond.constant "CombTable" (354 : Nat) (100000 : Int32)) ∈ lw_all := lw_g (lw_at lw_m5 56 rfl) rfl
theorem q1106 : (Jvm.Cond.constantLong "CombTable" (355 : Nat) (100000 : Int64)) ∈ lw_all := lw_g (lw_at lw_m5 57 rfl) rfl
theorem q1108 : (Jvm.Cond.instanceMethod ({ cls := "CombTable", name := "mend", desc := "()I" } : Jvm.MethodName)) ∈ lw_all := lw_g (lw_at lw_m5 59 rfl) rfl
theorem q1109 : (Jvm.Cond.selects "CombTable" ({ cls := "CombTable", name := "mend", desc := "()I" } : Jvm.MethodName) ({ cls := "CombTable", name := "mend", desc := "()I" } : Jvm.MethodName)) ∈ lw_all := lw_g (lw_at lw_m5 60 rfl) rfl
theorem q1110 : (Jvm.Cond.code ({ cls := "CombTable", name := "mend", desc := "()I" } : Jvm.MethodName) prog_1_method_34_code (3 : Nat) (Option.some Jvm.ClassFile.FieldType.int)) ∈ lw_all := lw_g (lw_at lw_m5 61 rfl) rfl
theorem q1111 : (Jvm.Cond.methodLink "CombTable" (361 : Nat) ({ cls := "CombTable", name := "isTold", desc := "(I)Z" } : Jvm.MethodName)) ∈ lw_all := lw_g (lw_at lw_m5 62 rfl) rfl
theorem q1112 : (Jvm.Cond.privateMethod ({ cls := "CombTable", name := "isTold", desc := "(I)Z" } : Jvm.MethodName)) ∈ lw_tbl := lw_at lw_m5 63 rfl
theorem q1113 : (Jvm.Cond.instanceMethod ({ cls := "CombTable", name := "isTold", desc := "(I)Z" } : Jvm.MethodName)) ∈ lw_all := lw_g (lw_at lw_m5 64 rfl) rfl
theorem q1114 : (Jvm.Cond.code ({ cls := "CombTable", name := "isTold", desc := "(I)Z" } : Jvm.MethodName) prog_1_method_32_code (4 : Nat) (Option.some Jvm.ClassFile.FieldType.boolean)) ∈ lw_all := lw_g (lw_at lw_m5 65 rfl) rfl
theorem q1115 : (Jvm.Cond.methodLink "CombTable" (364 : Nat) ({ cls := "java/lang/Integer", name := "bitCount", desc := "(I)I" } : Jvm.MethodName)) ∈ lw_all := lw_g (lw_at lw_m5 66 rfl) rfl
theorem q1121 : (Jvm.Cond.methodLink "CombTable" (369 : Nat) ({ cls := "CombTable", name := "isTalk", desc := "(I)Z" } : Jvm.MethodName)) ∈ lw_all := lw_g (lw_at lw_m5 72 rfl) rfl
theorem q1122 : (Jvm.Cond.privateMethod ({ cls := "CombTable", name := "isTalk", desc := "(I)Z" } : Jvm.MethodName)) ∈ lw_tbl := lw_at lw_m5 73 rfl
theorem q1123 : (Jvm.Cond.instanceMethod ({ cls := "CombTable", name := "isTalk", desc := "(I)Z" } : Jvm.MethodName)) ∈ lw_all := lw_g (lw_at lw_m5 74 rfl) rfl
theorem q1124 : (Jvm.Cond.code ({ cls := "CombTable", name := "isTalk", desc := "(I)Z" } : Jvm.MethodName) prog_1_method_33_code (3 : Nat) (Option.some Jvm.ClassFile.FieldType.boolean)) ∈ lw_all := lw_g (lw_at lw_m5 75 rfl) rfl
theorem q1125 : (Jvm.Cond.methodLink "CombTable" (357 : Nat) ({ cls := "CombTable", name := "has", desc := "(II)Z" } : Jvm.MethodName)) ∈ lw_all := lw_g (lw_at lw_m5 76 rfl) rfl
theorem q1127 : (Jvm.Cond.instanceMethod ({ cls := "CombTable", name := "mended", desc := "()I" } : Jvm.MethodName)) ∈ lw_all := lw_g (lw_at lw_m5 78 rfl) rfl
theorem q1128 : (Jvm.Cond.selects "CombTable" ({ cls := "CombTable", name := "mended", desc := "()I" } : Jvm.MethodName) ({ cls := "CombTable", name := "mended", desc := "()I" } : Jvm.MethodName)) ∈ lw_all := lw_g (lw_at lw_m5 79 rfl) rfl
theorem q1129 : (Jvm.Cond.code ({ cls := "CombTable", name := "mended", desc := "()I" } : Jvm.MethodName) prog_1_method_35_code (1 : Nat) (Option.some Jvm.ClassFile.FieldType.int)) ∈ lw_all := lw_g (lw_at lw_m5 80 rfl) rfl
theorem q1131 : (Jvm.Cond.instanceMethod ({ cls := "CombTable", name := "orders", desc := "()I" } : Jvm.MethodName)) ∈ lw_all := lw_g (lw_at lw_m5 82 rfl) rfl
theorem q1132 : (Jvm.Cond.selects "CombTable" ({ cls := "CombTable", name := "orders", desc := "()I" } : Jvm.MethodName) ({ cls := "CombTable", name := "orders", desc := "()I" } : Jvm.MethodName)) ∈ lw_all := lw_g (lw_at lw_m5 83 rfl) rfl
theorem q1133 : (Jvm.Cond.code ({ cls := "CombTable", name := "orders", desc := "()I" } : Jvm.MethodName) prog_1_method_37_code (1 : Nat) (Option.some Jvm.ClassFile.FieldType.int)) ∈ lw_all := lw_g (lw_at lw_m5 84 rfl) rfl
theorem q1134 : (Jvm.Cond.methodLink "CombTable" (381 : Nat) ({ cls := "CombTable", name := "ordersFrom", desc := "(IIZ)I" } : Jvm.MethodName)) ∈ lw_all := lw_g (lw_at lw_m5 85 rfl) rfl
theorem q1135 : (Jvm.Cond.privateMethod ({ cls := "CombTable", name := "ordersFrom", desc := "(IIZ)I" } : Jvm.MethodName)) ∈ lw_tbl := lw_at lw_m5 86 rfl
theorem q1136 : (Jvm.Cond.instanceMethod ({ cls := "CombTable", name := "ordersFrom", desc := "(IIZ)I" } : Jvm.MethodName)) ∈ lw_all := lw_g (lw_at lw_m5 87 rfl) rfl
theorem q1137 : (Jvm.Cond.code ({ cls := "CombTable", name := "ordersFrom", desc := "(IIZ)I" } : Jvm.MethodName) prog_1_method_36_code (6 : Nat) (Option.some Jvm.ClassFile.FieldType.int)) ∈ lw_all := lw_g (lw_at lw_m5 88 rfl) rfl
theorem q1138 : (Jvm.Cond.methodLink "CombTable" (372 : Nat) ({ cls := "java/lang/System", name := "arraycopy", desc := "(Ljava/lang/Object;ILjava/lang/Object;II)V" } : Jvm.MethodName)) ∈ lw_all := lw_g (lw_at lw_m5 89 rfl) rfl
theorem q1140 : (Jvm.Cond.instanceMethod ({ cls := "CombTable", name := "orderAt", desc := "(I)I" } : Jvm.MethodName)) ∈ lw_all := lw_g (lw_at lw_m5 91 rfl) rfl
theorem q1141 : (Jvm.Cond.selects "CombTable" ({ cls := "CombTable", name := "orderAt", desc := "(I)I" } : Jvm.MethodName) ({ cls := "CombTable", name := "orderAt", desc := "(I)I" } : Jvm.MethodName)) ∈ lw_all := lw_g (lw_at lw_m5 92 rfl) rfl
theorem q1142 : (Jvm.Cond.code ({ cls := "CombTable", name := "orderAt", desc := "(I)I" } : Jvm.MethodName) prog_1_method_38_code (2 : Nat) (Option.some Jvm.ClassFile.FieldType.int)) ∈ lw_all := lw_g (lw_at lw_m5 93 rfl) rfl
theorem q1144 : (Jvm.Cond.instanceMethod ({ cls := "CombTable", name := "drawn", desc := "(II)I" } : Jvm.MethodName)) ∈ lw_all := lw_g (lw_at lw_m5 95 rfl) rfl
theorem q1145 : (Jvm.Cond.selects "CombTable" ({ cls := "CombTable", name := "drawn", desc := "(II)I" } : Jvm.MethodName) ({ cls := "CombTable", name := "drawn", desc := "(II)I" } : Jvm.MethodName)) ∈ lw_all := lw_g (lw_at lw_m5 96 rfl) rfl
theorem q1146 : (Jvm.Cond.code ({ cls := "CombTable", name := "drawn", desc := "(II)I" } : Jvm.MethodName) prog_1_method_41_code (5 : Nat) (Option.some Jvm.ClassFile.FieldType.int)) ∈ lw_all := lw_g (lw_at lw_m5 97 rfl) rfl
theorem q1147 : (Jvm.Cond.methodLink "CombTable" (393 : Nat) ({ cls := "CombTable", name := "choices", desc := "(I)I" } : Jvm.MethodName)) ∈ lw_all := lw_g (lw_at lw_m5 98 rfl) rfl
theorem q1148 : (Jvm.Cond.privateMethod ({ cls := "CombTable", name := "choices", desc := "(I)I" } : Jvm.MethodName)) ∈ lw_tbl := lw_at lw_m5 99 rfl
theorem q1149 : (Jvm.Cond.instanceMethod ({ cls := "CombTable", name := "choices", desc := "(I)I" } : Jvm.MethodName)) ∈ lw_all := lw_g (lw_at lw_m5 100 rfl) rfl
theorem q1150 : (Jvm.Cond.code ({ cls := "CombTable", name := "choices", desc := "(I)I" } : Jvm.MethodName) prog_1_method_40_code (5 : Nat) (Option.some Jvm.ClassFile.FieldType.int)) ∈ lw_all := lw_g (lw_at lw_m5 101 rfl) rfl
theorem q1151 : (Jvm.Cond.methodLink "CombTable" (389 : Nat) ({ cls := "CombTable$Talk", name := "say", desc := "(II)V" } : Jvm.MethodName)) ∈ lw_all := lw_g (lw_at lw_m5 102 rfl) rfl
theorem q1152 : (Jvm.Cond.methodLink "CombTable" (396 : Nat) ({ cls := "CombTable", name := "draw", desc := "(I)I" } : Jvm.MethodName)) ∈ lw_all := lw_g (lw_at lw_m5 103 rfl) rfl
theorem q1153 : (Jvm.Cond.privateMethod ({ cls := "CombTable", name := "draw", desc := "(I)I" } : Jvm.MethodName)) ∈ lw_tbl := lw_at lw_m5 104 rfl
theorem q1154 : (Jvm.Cond.instanceMethod ({ cls := "CombTable", name := "draw", desc := "(I)I" } : Jvm.MethodName)) ∈ lw_all := lw_g (lw_at lw_m5 105 rfl) rfl
theorem q1155 : (Jvm.Cond.code ({ cls := "CombTable", name := "draw", desc := "(I)I" } : Jvm.MethodName) prog_1_method_39_code (2 : Nat) (Option.some Jvm.ClassFile.FieldType.int)) ∈ lw_all := lw_g (lw_at lw_m5 106 rfl) rfl
theorem q1156 : (Jvm.Cond.constant "CombTable" (388 : Nat) (1103515245 : Int32)) ∈ lw_all := lw_g (lw_at lw_m5 107 rfl) rfl
theorem q1158 : (Jvm.Cond.instanceMethod ({ cls := "CombTable", name := "spoke", desc := "(II)I" } : Jvm.MethodName)) ∈ lw_all := lw_g (lw_at lw_m5 109 rfl) rfl
theorem q1159 : (Jvm.Cond.selects "CombTable" ({ cls := "CombTable", name := "spoke", desc := "(II)I" } : Jvm.MethodName) ({ cls := "CombTable", name := "spoke", desc := "(II)I" } : Jvm.MethodName)) ∈ lw_all := lw_g (lw_at lw_m5 110 rfl) rfl
theorem q1160 : (Jvm.Cond.code ({ cls := "CombTable", name := "spoke", desc := "(II)I" } : Jvm.MethodName) prog_1_method_42_code (5 : Nat) (Option.some Jvm.ClassFile.FieldType.int)) ∈ lw_all := lw_g (lw_at lw_m5 111 rfl) rfl
theorem q1162 : (Jvm.Cond.instanceMethod ({ cls := "CombTable", name := "road", desc := "(III)I" } : Jvm.MethodName)) ∈ lw_all := lw_g (lw_at lw_m5 113 rfl) rfl
theorem q1163 : (Jvm.Cond.selects "CombTable" ({ cls := "CombTable", name := "road", desc := "(III)I" } : Jvm.MethodName) ({ cls := "CombTable", name := "road", desc := "(III)I" } : Jvm.MethodName)) ∈ lw_all := lw_g (lw_at lw_m5 114 rfl) rfl
theorem q1164 : (Jvm.Cond.code ({ cls := "CombTable", name := "road", desc := "(III)I" } : Jvm.MethodName) prog_1_method_46_code (5 : Nat) (Option.some Jvm.ClassFile.FieldType.int)) ∈ lw_all := lw_g (lw_at lw_m5 115 rfl) rfl
theorem q1165 : (Jvm.Cond.methodLink "CombTable" (407 : Nat) ({ cls := "CombTable", name := "leadsBy", desc := "(IIII)I" } : Jvm.MethodName)) ∈ lw_all := lw_g (lw_at lw_m5 116 rfl) rfl
theorem q1166 : (Jvm.Cond.privateMethod ({ cls := "CombTable", name := "leadsBy", desc := "(IIII)I" } : Jvm.MethodName)) ∈ lw_tbl := lw_at lw_m5 117 rfl
theorem q1167 : (Jvm.Cond.instanceMethod ({ cls := "CombTable", name := "leadsBy", desc := "(IIII)I" } : Jvm.MethodName)) ∈ lw_all := lw_g (lw_at lw_m5 118 rfl) rfl
theorem q1168 : (Jvm.Cond.code ({ cls := "CombTable", name := "leadsBy", desc := "(IIII)I" } : Jvm.MethodName) prog_1_method_45_code (6 : Nat) (Option.some Jvm.ClassFile.FieldType.int)) ∈ lw_all := lw_g (lw_at lw_m5 119 rfl) rfl
theorem q1169 : (Jvm.Cond.constant "CombTable" (403 : Nat) (300000 : Int32)) ∈ lw_all := lw_g (lw_at lw_m5 120 rfl) rfl
theorem q1170 : (Jvm.Cond.methodLink "CombTable" (404 : Nat) ({ cls := "CombTable", name := "isFar", desc := "(III)Z" } : Jvm.MethodName)) ∈ lw_all := lw_g (lw_at lw_m5 121 rfl) rfl
theorem q1171 : (Jvm.Cond.static ({ cls := "CombTable", name := "isFar", desc := "(III)Z" } : Jvm.MethodName)) ∈ lw_all := lw_g (lw_at lw_m5 122 rfl) rfl
theorem q1172 : (Jvm.Cond.code ({ cls := "CombTable", name := "isFar", desc := "(III)Z" } : Jvm.MethodName) prog_1_method_43_code (6 : Nat) (Option.some Jvm.ClassFile.FieldType.boolean)) ∈ lw_all := lw_g (lw_at lw_m5 123 rfl) rfl
theorem q1173 : (Jvm.Cond.methodLink "CombTable" (399 : Nat) ({ cls := "CombTable", name := "leads", desc := "(IIII)Z" } : Jvm.MethodName)) ∈ lw_all := lw_g (lw_at lw_m5 124 rfl) rfl
theorem q1174 : (Jvm.Cond.privateMethod ({ cls := "CombTable", name := "leads", desc := "(IIII)Z" } : Jvm.MethodName)) ∈ lw_tbl := lw_at lw_m5 125 rfl
theorem q1175 : (Jvm.Cond.instanceMethod ({ cls := "CombTable", name := "leads", desc := "(IIII)Z" } : Jvm.MethodName)) ∈ lw_all := lw_g (lw_at lw_m5 126 rfl) rfl
theorem q1176 : (Jvm.Cond.code ({ cls := "CombTable", name := "leads", desc := "(IIII)Z" } : Jvm.MethodName) prog_1_method_44_code (7 : Nat) (Option.some Jvm.ClassFile.FieldType.boolean)) ∈ lw_all := lw_g (lw_at lw_m5 127 rfl) rfl
theorem q1177 : (Jvm.Cond.methodLink "CombTable" (411 : Nat) ({ cls := "CombTable", name := "keepFound", desc := "(II)V" } : Jvm.MethodName)) ∈ lw_all := lw_g (lw_at lw_m5 128 rfl) rfl
theorem q1178 : (Jvm.Cond.privateMethod ({ cls := "CombTable", name := "keepFound", desc := "(II)V" } : Jvm.MethodName)) ∈ lw_tbl := lw_at lw_m5 129 rfl
theorem q1179 : (Jvm.Cond.instanceMethod ({ cls := "CombTable", name := "keepFound", desc := "(II)V" } : Jvm.MethodName)) ∈ lw_all := lw_g (lw_at lw_m5 130 rfl) rfl
theorem q1180 : (Jvm.Cond.code ({ cls := "CombTable", name := "keepFound", desc := "(II)V" } : Jvm.MethodName) prog_1_method_48_code (4 : Nat) (Option.none : Option Jvm.ClassFile.FieldType)) ∈ lw_all := lw_g (lw_at lw_m5 131 rfl) rfl
theorem q1182 : (Jvm.Cond.instanceMethod ({ cls := "CombTable", name := "without", desc := "(IIII)I" } : Jvm.MethodName)) ∈ lw_all := lw_g (lw_at lw_m5 133 rfl) rfl
theorem q1183 : (Jvm.Cond.selects "CombTable" ({ cls := "CombTable", name := "without", desc := "(IIII)I" } : Jvm.MethodName) ({ cls := "CombTable", name := "without", desc := "(IIII)I" } : Jvm.MethodName)) ∈ lw_all := lw_g (lw_at lw_m5 134 rfl) rfl
theorem q1184 : (Jvm.Cond.code ({ cls := "CombTable", name := "without", desc := "(IIII)I" } : Jvm.MethodName) prog_1_method_47_code (5 : Nat) (Option.some Jvm.ClassFile.FieldType.int)) ∈ lw_all := lw_g (lw_at lw_m5 135 rfl) rfl
theorem q1186 : (Jvm.Cond.instanceMethod ({ cls := "CombTable", name := "game", desc := "(IIII)I" } : Jvm.MethodName)) ∈ lw_all := lw_g (lw_at lw_m5 137 rfl) rfl
theorem q1187 : (Jvm.Cond.selects "CombTable" ({ cls := "CombTable", name := "game", desc := "(IIII)I" } : Jvm.MethodName) ({ cls := "CombTable", name := "game", desc := "(IIII)I" } : Jvm.MethodName)) ∈ lw_all := lw_g (lw_at lw_m5 138 rfl) rfl
theorem q1188 : (Jvm.Cond.code ({ cls := "CombTable", name := "game", desc := "(IIII)I" } : Jvm.MethodName) prog_1_method_50_code (7 : Nat) (Option.some Jvm.ClassFile.FieldType.int)) ∈ lw_all := lw_g (lw_at lw_m5 139 rfl) rfl
theorem q1189 : (Jvm.Cond.methodLink "CombTable" (282 : Nat) ({ cls := "CombTable", name := "isWord", desc := "(I)Z" } : Jvm.MethodName)) ∈ lw_all := lw_g (lw_at lw_m5 140 rfl) rfl
theorem q1190 : (Jvm.Cond.privateMethod ({ cls := "CombTable", name := "isWord", desc := "(I)Z" } : Jvm.MethodName)) ∈ lw_tbl := lw_at lw_m5 141 rfl
theorem q1191 : (Jvm.Cond.instanceMethod ({ cls := "CombTable", name := "isWord", desc := "(I)Z" } : Jvm.MethodName)) ∈ lw_all := lw_g (lw_at lw_m5 142 rfl) rfl
theorem q1192 : (Jvm.Cond.code ({ cls := "CombTable", name := "isWord", desc := "(I)Z" } : Jvm.MethodName) prog_1_method_19_code (2 : Nat) (Option.some Jvm.ClassFile.FieldType.boolean)) ∈ lw_all := lw_g (lw_at lw_m5 143 rfl) rfl
theorem q1193 : (Jvm.Cond.methodLink "CombTable" (417 : Nat) ({ cls := "CombTable", name := "isHad", desc := "(IZIII)Z" } : Jvm.MethodName)) ∈ lw_all := lw_g (lw_at lw_m5 144 rfl) rfl
theorem q1194 : (Jvm.Cond.privateMethod ({ cls := "CombTable", name := "isHad", desc := "(IZIII)Z" } : Jvm.MethodName)) ∈ lw_tbl := lw_at lw_m5 145 rfl
theorem q1195 : (Jvm.Cond.instanceMethod ({ cls := "CombTable", name := "isHad", desc := "(IZIII)Z" } : Jvm.MethodName)) ∈ lw_all := lw_g (lw_at lw_m5 146 rfl) rfl
theorem q1196 : (Jvm.Cond.code ({ cls := "CombTable", name := "isHad", desc := "(IZIII)Z" } : Jvm.MethodName) prog_1_method_49_code (10 : Nat) (Option.some Jvm.ClassFile.FieldType.boolean)) ∈ lw_all := lw_g (lw_at lw_m5 147 rfl) rfl
theorem q1198 : (Jvm.Cond.instanceMethod ({ cls := "CombTable", name := "unlike", desc := "(II)I" } : Jvm.MethodName)) ∈ lw_all := lw_g (lw_at lw_m5 149 rfl) rfl
theorem q1199 : (Jvm.Cond.selects "CombTable" ({ cls := "CombTable", name := "unlike", desc := "(II)I" } : Jvm.MethodName) ({ cls := "CombTable", name := "unlike", desc := "(II)I" } : Jvm.MethodName)) ∈ lw_all := lw_g (lw_at lw_m5 150 rfl) rfl
theorem q1200 : (Jvm.Cond.code ({ cls := "CombTable", name := "unlike", desc := "(II)I" } : Jvm.MethodName) prog_1_method_52_code (8 : Nat) (Option.some Jvm.ClassFile.FieldType.int)) ∈ lw_all := lw_g (lw_at lw_m5 151 rfl) rfl
theorem q1201 : (Jvm.Cond.methodLink "CombTable" (424 : Nat) ({ cls := "CombTable", name := "isUnlike", desc := "(III)Z" } : Jvm.MethodName)) ∈ lw_all := lw_g (lw_at lw_m5 152 rfl) rfl
theorem q1202 : (Jvm.Cond.privateMethod ({ cls := "CombTable", name := "isUnlike", desc := "(III)Z" } : Jvm.MethodName)) ∈ lw_tbl := lw_at lw_m5 153 rfl
theorem q1203 : (Jvm.Cond.instanceMethod ({ cls := "CombTable", name := "isUnlike", desc := "(III)Z" } : Jvm.MethodName)) ∈ lw_all := lw_g (lw_at lw_m5 154 rfl) rfl
theorem q1204 : (Jvm.Cond.code ({ cls := "CombTable", name := "isUnlike", desc := "(III)Z" } : Jvm.MethodName) prog_1_method_51_code (8 : Nat) (Option.some Jvm.ClassFile.FieldType.boolean)) ∈ lw_all := lw_g (lw_at lw_m5 155 rfl) rfl
theorem q1206 : (Jvm.Cond.instanceMethod ({ cls := "CombTable", name := "found", desc := "(I)I" } : Jvm.MethodName)) ∈ lw_all := lw_g (lw_at lw_m5 157 rfl) rfl
theorem q1207 : (Jvm.Cond.selects "CombTable" ({ cls := "CombTable", name := "found", desc := "(I)I" } : Jvm.MethodName) ({ cls := "CombTable", name := "found", desc := "(I)I" } : Jvm.MethodName)) ∈ lw_all := lw_g (lw_at lw_m5 158 rfl) rfl
theorem q1208 : (Jvm.Cond.code ({ cls := "CombTable", name := "found", desc := "(I)I" } : Jvm.MethodName) prog_1_method_53_code (2 : Nat) (Option.some Jvm.ClassFile.FieldType.int)) ∈ lw_all := lw_g (lw_at lw_m5 159 rfl) rfl
theorem q1210 : (Jvm.Cond.instanceMethod ({ cls := "CombTable", name := "sentence", desc := "()I" } : Jvm.MethodName)) ∈ lw_all := lw_g (lw_at lw_m5 161 rfl) rfl
theorem q1211 : (Jvm.Cond.selects "CombTable" ({ cls := "CombTable", name := "sentence", desc := "()I" } : Jvm.MethodName) ({ cls := "CombTable", name := "sentence", desc := "()I" } : Jvm.MethodName)) ∈ lw_all := lw_g (lw_at lw_m5 162 rfl) rfl
theorem q1212 : (Jvm.Cond.codeWith ({ cls := "CombTable", name := "sentence", desc := "()I" } : Jvm.MethodName) prog_1_method_54_code (2 : Nat) (Option.some Jvm.ClassFile.FieldType.int) [((9 : Nat), (27 : Nat), (28 : Nat), (13 : Nat))]) ∈ lw_all := lw_g (lw_at lw_m5 163 rfl) rfl
theorem q1213 : (Jvm.Cond.methodLink "CombTable" (427 : Nat) ({ cls := "CombTable$SentenceReader", name := "read", desc := "()LCombTable$Cond;" } : Jvm.MethodName)) ∈ lw_all := lw_g (lw_at lw_m5 164 rfl) rfl
theorem q1326 : (Jvm.Cond.instanceMethod ({ cls := "CombTable", name := "said", desc := "(I)I" } : Jvm.MethodName)) ∈ lw_all := lw_g (lw_at lw_m6 37 rfl) rfl
theorem q1327 : (Jvm.Cond.selects "CombTable" ({ cls := "CombTable", name := "said", desc := "(I)I" } : Jvm.MethodName) ({ cls := "CombTable", name := "said", desc := "(I)I" } : Jvm.MethodName)) ∈ lw_all := lw_g (lw_at lw_m6 38 rfl) rfl
theorem q1328 : (Jvm.Cond.code ({ cls := "CombTable", name := "said", desc := "(I)I" } : Jvm.MethodName) prog_1_method_55_code (4 : Nat) (Option.some Jvm.ClassFile.FieldType.int)) ∈ lw_all := lw_g (lw_at lw_m6 39 rfl) rfl
theorem q1329 : (Jvm.Cond.methodLink "CombTable" (433 : Nat) ({ cls := "CombTable$Cond", name := "is", desc := "(LCombTable$Talk;I)Z" } : Jvm.MethodName)) ∈ lw_all := lw_g (lw_at lw_m6 40 rfl) rfl
theorem q1353 : (Jvm.Cond.instanceMethod ({ cls := "CombTable", name := "image", desc := "(I)Z" } : Jvm.MethodName)) ∈ lw_all := lw_g (lw_at lw_m6 64 rfl) rfl
theorem q1354 : (Jvm.Cond.selects "CombTable" ({ cls := "CombTable", name := "image", desc := "(I)Z" } : Jvm.MethodName) ({ cls := "CombTable", name := "image", desc := "(I)Z" } : Jvm.MethodName)) ∈ lw_all := lw_g (lw_at lw_m6 65 rfl) rfl
theorem q1355 : (Jvm.Cond.code ({ cls := "CombTable", name := "image", desc := "(I)Z" } : Jvm.MethodName) prog_1_method_56_code (2 : Nat) (Option.some Jvm.ClassFile.FieldType.boolean)) ∈ lw_all := lw_g (lw_at lw_m6 66 rfl) rfl
theorem q1357 : (Jvm.Cond.instanceMethod ({ cls := "CombTable", name := "restore", desc := "(I)Z" } : Jvm.MethodName)) ∈ lw_all := lw_g (lw_at lw_m6 68 rfl) rfl
theorem q1358 : (Jvm.Cond.selects "CombTable" ({ cls := "CombTable", name := "restore", desc := "(I)Z" } : Jvm.MethodName) ({ cls := "CombTable", name := "restore", desc := "(I)Z" } : Jvm.MethodName)) ∈ lw_all := lw_g (lw_at lw_m6 69 rfl) rfl
theorem q1359 : (Jvm.Cond.code ({ cls := "CombTable", name := "restore", desc := "(I)Z" } : Jvm.MethodName) prog_1_method_57_code (2 : Nat) (Option.some Jvm.ClassFile.FieldType.boolean)) ∈ lw_all := lw_g (lw_at lw_m6 70 rfl) rfl
theorem q1361 : (Jvm.Cond.instanceMethod ({ cls := "CombTable", name := "count", desc := "(I)I" } : Jvm.MethodName)) ∈ lw_all := lw_g (lw_at lw_m6 72 rfl) rfl
theorem q1362 : (Jvm.Cond.selects "CombTable" ({ cls := "CombTable", name := "count", desc := "(I)I" } : Jvm.MethodName) ({ cls := "CombTable", name := "count", desc := "(I)I" } : Jvm.MethodName)) ∈ lw_all := lw_g (lw_at lw_m6 73 rfl) rfl
theorem q1363 : (Jvm.Cond.code ({ cls := "CombTable", name := "count", desc := "(I)I" } : Jvm.MethodName) prog_1_method_58_code (2 : Nat) (Option.some Jvm.ClassFile.FieldType.int)) ∈ lw_all := lw_g (lw_at lw_m6 74 rfl) rfl
theorem q1369 : (Jvm.Cond.instanceMethod ({ cls := "CombTable", name := "kind", desc := "(II)I" } : Jvm.MethodName)) ∈ lw_all := lw_g (lw_at lw_m6 80 rfl) rfl
theorem q1370 : (Jvm.Cond.selects "CombTable" ({ cls := "CombTable", name := "kind", desc := "(II)I" } : Jvm.MethodName) ({ cls := "CombTable", name := "kind", desc := "(II)I" } : Jvm.MethodName)) ∈ lw_all := lw_g (lw_at lw_m6 81 rfl) rfl
theorem q1371 : (Jvm.Cond.code ({ cls := "CombTable", name := "kind", desc := "(II)I" } : Jvm.MethodName) prog_1_method_12_code (4 : Nat) (Option.some Jvm.ClassFile.FieldType.int)) ∈ lw_all := lw_g (lw_at lw_m6 82 rfl) rfl
theorem q1372 : (Jvm.Cond.methodLink "CombTable" (240 : Nat) ({ cls := "CombTable", name := "must", desc := "(Z)V" } : Jvm.MethodName)) ∈ lw_all := lw_g (lw_at lw_m6 83 rfl) rfl
theorem q1373 : (Jvm.Cond.static ({ cls := "CombTable", name := "must", desc := "(Z)V" } : Jvm.MethodName)) ∈ lw_all := lw_g (lw_at lw_m6 84 rfl) rfl
theorem q1374 : (Jvm.Cond.code ({ cls := "CombTable", name := "must", desc := "(Z)V" } : Jvm.MethodName) prog_1_method_7_code (1 : Nat) (Option.none : Option Jvm.ClassFile.FieldType)) ∈ lw_all := lw_g (lw_at lw_m6 85 rfl) rfl
theorem q1375 : (Jvm.Cond.classLink "CombTable" (185 : Nat) "java/util/NoSuchElementException") ∈ lw_all := lw_g (lw_at lw_m6 86 rfl) rfl
theorem q1386 : (Jvm.Cond.methodLink "CombTable" (187 : Nat) ({ cls := "java/util/NoSuchElementException", name := "<init>", desc := "()V" } : Jvm.MethodName)) ∈ lw_all := lw_g (lw_at lw_m6 97 rfl) rfl
theorem q1402 : (Jvm.Cond.instanceMethod ({ cls := "CombTable", name := "word", desc := "(II)I" } : Jvm.MethodName)) ∈ lw_all := lw_g (lw_at lw_m6 113 rfl) rfl
theorem q1403 : (Jvm.Cond.selects "CombTable" ({ cls := "CombTable", name := "word", desc := "(II)I" } : Jvm.MethodName) ({ cls := "CombTable", name := "word", desc := "(II)I" } : Jvm.MethodName)) ∈ lw_all := lw_g (lw_at lw_m6 114 rfl) rfl
theorem q1404 : (Jvm.Cond.code ({ cls := "CombTable", name := "word", desc := "(II)I" } : Jvm.MethodName) prog_1_method_20_code (4 : Nat) (Option.some Jvm.ClassFile.FieldType.int)) ∈ lw_all := lw_g (lw_at lw_m6 115 rfl) rfl
theorem q2049 : (Jvm.Cond.castable "CombTable" "java/lang/Object") ∈ lw_tbl := lw_at lw_m9 40 rfl
theorem in_X1 : ∀ w ∈ wsX10, w ∈ lw_all := lw_in wsX10 [556, 558, 560, 562, 564, 566, 568, 570, 572, 574, 576, 578, 580, 582, 584, 586, 588, 590, 592, 594, 596, 598, 600, 602, 604, 606, 608, 610, 612, 614, 616, 618, 620, 622, 624, 626, 628, 630] (by decide +kernel) (by decide +kernel)

