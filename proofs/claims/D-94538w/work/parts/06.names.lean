/-! CombTableModel -/
set_option maxRecDepth 100000
def RX11 : String := "CombTableModel"
def TX11 : u_T := fun k => match k with
  | 0 => ("CombTableModel", "thrown", "I", false)
  | 1 => ("CombTableModel", "tape", "[I", true)
  | 2 => ("CombTableModel", "taped", "I", false)
  | 3 => ("CombTableModel", "size", "I", false)
  | 4 => ("CombTableModel", "limit", "I", false)
  | 5 => ("CombTableModel", "to", "I", false)
  | 6 => ("CombTableModel", "from", "I", false)
  | 7 => ("CombTableModel", "kind", "I", false)
  | 8 => ("CombTableModel", "number", "I", false)
  | 9 => ("CombTableModel", "sign", "I", false)
  | 10 => ("CombTableModel", "fault", "I", false)
  | 11 => ("CombTableModel", "place", "I", false)
  | 12 => ("CombTableModel", "word", "J", false)
  | 13 => ("CombTableModel", "told", "I", false)
  | 14 => ("CombTableModel", "now", "[I", true)
  | 15 => ("CombTableModel", "read", "[I", true)
  | 16 => ("CombTableModel", "kept", "[I", true)
  | 17 => ("CombTableModel", "line", "[I", true)
  | 18 => ("CombTableModel", "name", "[J", true)
  | 19 => ("CombTableModel", "readName", "[J", true)
  | 20 => ("CombTableModel", "keptName", "[J", true)
  | 21 => ("CombTableModel", "isKept", "[Z", true)
  | 22 => ("CombTableModel", "rules", "[I", true)
  | 23 => ("CombTableModel", "saidBy", "[I", true)
  | 24 => ("CombTableModel", "saidKind", "[I", true)
  | 25 => ("CombTableModel", "answer", "[I", true)
  | 26 => ("CombTableModel", "thread", "[I", true)
  | 27 => ("CombTableModel", "depth", "[I", true)
  | 28 => ("CombTableModel", "state", "[I", true)
  | 29 => ("CombTableModel", "many", "[I", true)
  | 30 => ("CombTableModel", "threadMany", "[I", true)
  | 31 => ("CombTableModel", "why", "I", false)
  | 32 => ("CombTableModel", "seed", "I", false)
  | 33 => ("CombTableModel", "lineMany", "I", false)
  | 34 => ("CombTableModel", "anyMany", "I", false)
  | 35 => ("CombTableModel", "torn", "[I", true)
  | 36 => ("CombTableModel", "wholeWho", "[I", true)
  | 37 => ("CombTableModel", "wholeKind", "[I", true)
  | 38 => ("CombTableModel", "wholeState", "[I", true)
  | 39 => ("CombTableModel", "sureWho", "[I", true)
  | 40 => ("CombTableModel", "sureKind", "[I", true)
  | 41 => ("CombTableModel", "sureState", "[I", true)
  | 42 => ("CombTableModel", "tornMany", "I", false)
  | 43 => ("CombTableModel", "found", "I", false)
  | 44 => ("CombTableModel", "sureMany", "I", false)
  | 45 => ("CombTableModel", "mended", "I", false)
  | 46 => ("CombTableModel", "order", "[I", true)
  | 47 => ("CombTableModel", "firstOrder", "[I", true)
  | 48 => ("CombTableModel", "orders", "I", false)
  | 49 => ("CombTableModel", "orderMany", "I", false)
  | 50 => ("CombTableModel", "path", "[I", true)
  | 51 => ("CombTableModel", "road", "[I", true)
  | 52 => ("CombTableModel", "roadMany", "I", false)
  | 53 => ("CombTableModel", "node", "[I", true)
  | 54 => ("CombTableModel", "nodes", "I", false)
  | 55 => ("CombTableModel", "onesMany", "I", false)
  | 56 => ("CombTableModel", "within", "I", false)
  | _ => ("CombTableModel", "top", "I", false)
def tyX11 : Nat → FieldType := fun k => match k with
  | 0 => .int
  | 1 => .array .int
  | 2 => .int
  | 3 => .int
  | 4 => .int
  | 5 => .int
  | 6 => .int
  | 7 => .int
  | 8 => .int
  | 9 => .int
  | 10 => .int
  | 11 => .int
  | 12 => .long
  | 13 => .int
  | 14 => .array .int
  | 15 => .array .int
  | 16 => .array .int
  | 17 => .array .int
  | 18 => .array .long
  | 19 => .array .long
  | 20 => .array .long
  | 21 => .array .boolean
  | 22 => .array .int
  | 23 => .array .int
  | 24 => .array .int
  | 25 => .array .int
  | 26 => .array .int
  | 27 => .array .int
  | 28 => .array .int
  | 29 => .array .int
  | 30 => .array .int
  | 31 => .int
  | 32 => .int
  | 33 => .int
  | 34 => .int
  | 35 => .array .int
  | 36 => .array .int
  | 37 => .array .int
  | 38 => .array .int
  | 39 => .array .int
  | 40 => .array .int
  | 41 => .array .int
  | 42 => .int
  | 43 => .int
  | 44 => .int
  | 45 => .int
  | 46 => .array .int
  | 47 => .array .int
  | 48 => .int
  | 49 => .int
  | 50 => .array .int
  | 51 => .array .int
  | 52 => .int
  | 53 => .array .int
  | 54 => .int
  | 55 => .int
  | 56 => .int
  | _ => .int
abbrev wsX110 : List Cond := u_ws RX11 TX11 58
set_option maxRecDepth 100000 in
theorem nmX11 : ∀ a, a < 58 → ∀ b, b < 58 → a ≠ b → (TX11 a).2.1 ≠ (TX11 b).2.1 := by decide +kernel
set_option maxRecDepth 100000 in
theorem tyX11_ok : ∀ k, k < 58 → parseFieldDescriptor (TX11 k).2.2.1 = some (tyX11 k) := by decide +kernel
abbrev cX11_init : ByteArray := prog_21_method_1_code
def yX11_init : MethodName := ⟨RX11, "<init>", "()V"⟩
def dkwX11_init_11 : List UInt8 := [181, 0, 103, 177]
abbrev dktX11_init_11 : List UInt8 := dkwX11_init_11 ++ []
def dkwX11_init_10 : List UInt8 := [42, 16, 8, 188, 10, 181, 0, 97, 42, 16, 8, 188, 10, 181, 0, 100, 42, 17, 0, 240, 188, 10]
abbrev dktX11_init_10 : List UInt8 := dkwX11_init_10 ++ dktX11_init_11
def dkwX11_init_9 : List UInt8 := [181, 0, 84, 42, 2, 181, 0, 87, 42, 16, 7, 188, 10, 181, 0, 91, 42, 16, 7, 188, 10, 181, 0, 94]
abbrev dktX11_init_9 : List UInt8 := dkwX11_init_9 ++ dktX11_init_10
def dkwX11_init_8 : List UInt8 := [181, 0, 75, 42, 16, 24, 188, 10, 181, 0, 78, 42, 16, 24, 188, 10, 181, 0, 81, 42, 16, 24, 188, 10]
abbrev dktX11_init_8 : List UInt8 := dkwX11_init_8 ++ dktX11_init_9
def dkwX11_init_7 : List UInt8 := [181, 0, 66, 42, 16, 24, 188, 10, 181, 0, 69, 42, 16, 24, 188, 10, 181, 0, 72, 42, 16, 24, 188, 10]
abbrev dktX11_init_7 : List UInt8 := dkwX11_init_7 ++ dktX11_init_8
def dkwX11_init_6 : List UInt8 := [181, 0, 57, 42, 5, 188, 10, 181, 0, 60, 42, 5, 188, 10, 181, 0, 63, 42, 16, 48, 188, 10]
abbrev dktX11_init_6 : List UInt8 := dkwX11_init_6 ++ dktX11_init_7
def dkwX11_init_5 : List UInt8 := [17, 3, 32, 188, 10, 181, 0, 51, 42, 17, 3, 32, 188, 10, 181, 0, 54, 42, 17, 3, 32, 188, 10]
abbrev dktX11_init_5 : List UInt8 := dkwX11_init_5 ++ dktX11_init_6
def dkwX11_init_4 : List UInt8 := [181, 0, 42, 42, 17, 3, 32, 188, 10, 181, 0, 45, 42, 17, 3, 32, 188, 10, 181, 0, 48, 42]
abbrev dktX11_init_4 : List UInt8 := dkwX11_init_4 ++ dktX11_init_5
def dkwX11_init_3 : List UInt8 := [181, 0, 32, 42, 5, 188, 4, 181, 0, 35, 42, 16, 120, 188, 10, 181, 0, 39, 42, 17, 3, 32, 188, 10]
abbrev dktX11_init_3 : List UInt8 := dkwX11_init_3 ++ dktX11_init_4
def dkwX11_init_2 : List UInt8 := [181, 0, 22, 42, 16, 18, 188, 11, 181, 0, 25, 42, 16, 18, 188, 11, 181, 0, 29, 42, 16, 36, 188, 11]
abbrev dktX11_init_2 : List UInt8 := dkwX11_init_2 ++ dktX11_init_3
def dkwX11_init_1 : List UInt8 := [16, 60, 188, 10, 181, 0, 16, 42, 17, 9, 0, 188, 10, 181, 0, 19, 42, 17, 3, 32, 188, 10]
abbrev dktX11_init_1 : List UInt8 := dkwX11_init_1 ++ dktX11_init_2
def dkwX11_init_0 : List UInt8 := [42, 183, 0, 1, 42, 17, 3, 172, 188, 10, 181, 0, 7, 42, 17, 4, 128, 188, 10, 181, 0, 13, 42]
abbrev dktX11_init_0 : List UInt8 := dkwX11_init_0 ++ dktX11_init_1
theorem dksX11_init_0 : cX11_init.data.toList.drop 0 = dktX11_init_0 := by decide +kernel
theorem dksX11_init_1 : cX11_init.data.toList.drop 23 = dktX11_init_1 := dk_seg dksX11_init_0 23 rfl rfl
theorem dksX11_init_2 : cX11_init.data.toList.drop 45 = dktX11_init_2 := dk_seg dksX11_init_1 22 rfl rfl
theorem dksX11_init_3 : cX11_init.data.toList.drop 69 = dktX11_init_3 := dk_seg dksX11_init_2 24 rfl rfl
theorem dksX11_init_4 : cX11_init.data.toList.drop 93 = dktX11_init_4 := dk_seg dksX11_init_3 24 rfl rfl
theorem dksX11_init_5 : cX11_init.data.toList.drop 115 = dktX11_init_5 := dk_seg dksX11_init_4 22 rfl rfl
theorem dksX11_init_6 : cX11_init.data.toList.drop 138 = dktX11_init_6 := dk_seg dksX11_init_5 23 rfl rfl
theorem dksX11_init_7 : cX11_init.data.toList.drop 160 = dktX11_init_7 := dk_seg dksX11_init_6 22 rfl rfl
theorem dksX11_init_8 : cX11_init.data.toList.drop 184 = dktX11_init_8 := dk_seg dksX11_init_7 24 rfl rfl
theorem dksX11_init_9 : cX11_init.data.toList.drop 208 = dktX11_init_9 := dk_seg dksX11_init_8 24 rfl rfl
theorem dksX11_init_10 : cX11_init.data.toList.drop 232 = dktX11_init_10 := dk_seg dksX11_init_9 24 rfl rfl
theorem dksX11_init_11 : cX11_init.data.toList.drop 254 = dktX11_init_11 := dk_seg dksX11_init_10 22 rfl rfl
theorem dX11_init_0 : decode cX11_init 0 = .ok (.aload_n 0, 1) := dk_42 (dk_at dksX11_init_0 0 rfl rfl)
theorem dX11_init_1 : decode cX11_init 1 = .ok (.invokespecial 1, 3) := dk_183 0 1 (dk_at dksX11_init_0 1 rfl rfl)
theorem dX11_init_4 : decode cX11_init 4 = .ok (.aload_n 0, 1) := dk_42 (dk_at dksX11_init_0 4 rfl rfl)
theorem dX11_init_5 : decode cX11_init 5 = .ok (.sipush 940, 3) := dk_17 3 172 (dk_at dksX11_init_0 5 rfl rfl)
theorem dX11_init_8 : decode cX11_init 8 = .ok (.newarray .int, 2) := dk_188_10 (dk_at dksX11_init_0 8 rfl rfl)
theorem dX11_init_10 : decode cX11_init 10 = .ok (.putfield 7, 3) := dk_181 0 7 (dk_at dksX11_init_0 10 rfl rfl)
theorem dX11_init_13 : decode cX11_init 13 = .ok (.aload_n 0, 1) := dk_42 (dk_at dksX11_init_0 13 rfl rfl)
theorem dX11_init_14 : decode cX11_init 14 = .ok (.sipush 1152, 3) := dk_17 4 128 (dk_at dksX11_init_0 14 rfl rfl)
theorem dX11_init_17 : decode cX11_init 17 = .ok (.newarray .int, 2) := dk_188_10 (dk_at dksX11_init_0 17 rfl rfl)
theorem dX11_init_19 : decode cX11_init 19 = .ok (.putfield 13, 3) := dk_181 0 13 (dk_at dksX11_init_0 19 rfl rfl)
theorem dX11_init_22 : decode cX11_init 22 = .ok (.aload_n 0, 1) := dk_42 (dk_at dksX11_init_0 22 rfl rfl)
theorem dX11_init_23 : decode cX11_init 23 = .ok (.bipush 60, 2) := dk_16 60 (dk_at dksX11_init_1 0 rfl rfl)
theorem dX11_init_25 : decode cX11_init 25 = .ok (.newarray .int, 2) := dk_188_10 (dk_at dksX11_init_1 2 rfl rfl)
theorem dX11_init_27 : decode cX11_init 27 = .ok (.putfield 16, 3) := dk_181 0 16 (dk_at dksX11_init_1 4 rfl rfl)
theorem dX11_init_30 : decode cX11_init 30 = .ok (.aload_n 0, 1) := dk_42 (dk_at dksX11_init_1 7 rfl rfl)
theorem dX11_init_31 : decode cX11_init 31 = .ok (.sipush 2304, 3) := dk_17 9 0 (dk_at dksX11_init_1 8 rfl rfl)
theorem dX11_init_34 : decode cX11_init 34 = .ok (.newarray .int, 2) := dk_188_10 (dk_at dksX11_init_1 11 rfl rfl)
theorem dX11_init_36 : decode cX11_init 36 = .ok (.putfield 19, 3) := dk_181 0 19 (dk_at dksX11_init_1 13 rfl rfl)
theorem dX11_init_39 : decode cX11_init 39 = .ok (.aload_n 0, 1) := dk_42 (dk_at dksX11_init_1 16 rfl rfl)
theorem dX11_init_40 : decode cX11_init 40 = .ok (.sipush 800, 3) := dk_17 3 32 (dk_at dksX11_init_1 17 rfl rfl)
theorem dX11_init_43 : decode cX11_init 43 = .ok (.newarray .int, 2) := dk_188_10 (dk_at dksX11_init_1 20 rfl rfl)
theorem dX11_init_45 : decode cX11_init 45 = .ok (.putfield 22, 3) := dk_181 0 22 (dk_at dksX11_init_2 0 rfl rfl)
theorem dX11_init_48 : decode cX11_init 48 = .ok (.aload_n 0, 1) := dk_42 (dk_at dksX11_init_2 3 rfl rfl)
theorem dX11_init_49 : decode cX11_init 49 = .ok (.bipush 18, 2) := dk_16 18 (dk_at dksX11_init_2 4 rfl rfl)
theorem dX11_init_51 : decode cX11_init 51 = .ok (.newarray .long, 2) := dk_188_11 (dk_at dksX11_init_2 6 rfl rfl)
theorem dX11_init_53 : decode cX11_init 53 = .ok (.putfield 25, 3) := dk_181 0 25 (dk_at dksX11_init_2 8 rfl rfl)
theorem dX11_init_56 : decode cX11_init 56 = .ok (.aload_n 0, 1) := dk_42 (dk_at dksX11_init_2 11 rfl rfl)
theorem dX11_init_57 : decode cX11_init 57 = .ok (.bipush 18, 2) := dk_16 18 (dk_at dksX11_init_2 12 rfl rfl)
theorem dX11_init_59 : decode cX11_init 59 = .ok (.newarray .long, 2) := dk_188_11 (dk_at dksX11_init_2 14 rfl rfl)
theorem dX11_init_61 : decode cX11_init 61 = .ok (.putfield 29, 3) := dk_181 0 29 (dk_at dksX11_init_2 16 rfl rfl)
theorem dX11_init_64 : decode cX11_init 64 = .ok (.aload_n 0, 1) := dk_42 (dk_at dksX11_init_2 19 rfl rfl)
theorem dX11_init_65 : decode cX11_init 65 = .ok (.bipush 36, 2) := dk_16 36 (dk_at dksX11_init_2 20 rfl rfl)
theorem dX11_init_67 : decode cX11_init 67 = .ok (.newarray .long, 2) := dk_188_11 (dk_at dksX11_init_2 22 rfl rfl)
theorem dX11_init_69 : decode cX11_init 69 = .ok (.putfield 32, 3) := dk_181 0 32 (dk_at dksX11_init_3 0 rfl rfl)
theorem dX11_init_72 : decode cX11_init 72 = .ok (.aload_n 0, 1) := dk_42 (dk_at dksX11_init_3 3 rfl rfl)
theorem dX11_init_73 : decode cX11_init 73 = .ok (.iconst 2, 1) := dk_5 (dk_at dksX11_init_3 4 rfl rfl)
theorem dX11_init_74 : decode cX11_init 74 = .ok (.newarray .boolean, 2) := dk_188_4 (dk_at dksX11_init_3 5 rfl rfl)
theorem dX11_init_76 : decode cX11_init 76 = .ok (.putfield 35, 3) := dk_181 0 35 (dk_at dksX11_init_3 7 rfl rfl)
theorem dX11_init_79 : decode cX11_init 79 = .ok (.aload_n 0, 1) := dk_42 (dk_at dksX11_init_3 10 rfl rfl)
theorem dX11_init_80 : decode cX11_init 80 = .ok (.bipush 120, 2) := dk_16 120 (dk_at dksX11_init_3 11 rfl rfl)
theorem dX11_init_82 : decode cX11_init 82 = .ok (.newarray .int, 2) := dk_188_10 (dk_at dksX11_init_3 13 rfl rfl)
theorem dX11_init_84 : decode cX11_init 84 = .ok (.putfield 39, 3) := dk_181 0 39 (dk_at dksX11_init_3 15 rfl rfl)
theorem dX11_init_87 : decode cX11_init 87 = .ok (.aload_n 0, 1) := dk_42 (dk_at dksX11_init_3 18 rfl rfl)
theorem dX11_init_88 : decode cX11_init 88 = .ok (.sipush 800, 3) := dk_17 3 32 (dk_at dksX11_init_3 19 rfl rfl)
theorem dX11_init_91 : decode cX11_init 91 = .ok (.newarray .int, 2) := dk_188_10 (dk_at dksX11_init_3 22 rfl rfl)
theorem dX11_init_93 : decode cX11_init 93 = .ok (.putfield 42, 3) := dk_181 0 42 (dk_at dksX11_init_4 0 rfl rfl)
theorem dX11_init_96 : decode cX11_init 96 = .ok (.aload_n 0, 1) := dk_42 (dk_at dksX11_init_4 3 rfl rfl)
theorem dX11_init_97 : decode cX11_init 97 = .ok (.sipush 800, 3) := dk_17 3 32 (dk_at dksX11_init_4 4 rfl rfl)
theorem dX11_init_100 : decode cX11_init 100 = .ok (.newarray .int, 2) := dk_188_10 (dk_at dksX11_init_4 7 rfl rfl)
theorem dX11_init_102 : decode cX11_init 102 = .ok (.putfield 45, 3) := dk_181 0 45 (dk_at dksX11_init_4 9 rfl rfl)
theorem dX11_init_105 : decode cX11_init 105 = .ok (.aload_n 0, 1) := dk_42 (dk_at dksX11_init_4 12 rfl rfl)
theorem dX11_init_106 : decode cX11_init 106 = .ok (.sipush 800, 3) := dk_17 3 32 (dk_at dksX11_init_4 13 rfl rfl)
theorem dX11_init_109 : decode cX11_init 109 = .ok (.newarray .int, 2) := dk_188_10 (dk_at dksX11_init_4 16 rfl rfl)
theorem dX11_init_111 : decode cX11_init 111 = .ok (.putfield 48, 3) := dk_181 0 48 (dk_at dksX11_init_4 18 rfl rfl)
theorem dX11_init_114 : decode cX11_init 114 = .ok (.aload_n 0, 1) := dk_42 (dk_at dksX11_init_4 21 rfl rfl)
theorem dX11_init_115 : decode cX11_init 115 = .ok (.sipush 800, 3) := dk_17 3 32 (dk_at dksX11_init_5 0 rfl rfl)
theorem dX11_init_118 : decode cX11_init 118 = .ok (.newarray .int, 2) := dk_188_10 (dk_at dksX11_init_5 3 rfl rfl)
theorem dX11_init_120 : decode cX11_init 120 = .ok (.putfield 51, 3) := dk_181 0 51 (dk_at dksX11_init_5 5 rfl rfl)
theorem dX11_init_123 : decode cX11_init 123 = .ok (.aload_n 0, 1) := dk_42 (dk_at dksX11_init_5 8 rfl rfl)
theorem dX11_init_124 : decode cX11_init 124 = .ok (.sipush 800, 3) := dk_17 3 32 (dk_at dksX11_init_5 9 rfl rfl)
theorem dX11_init_127 : decode cX11_init 127 = .ok (.newarray .int, 2) := dk_188_10 (dk_at dksX11_init_5 12 rfl rfl)
theorem dX11_init_129 : decode cX11_init 129 = .ok (.putfield 54, 3) := dk_181 0 54 (dk_at dksX11_init_5 14 rfl rfl)
theorem dX11_init_132 : decode cX11_init 132 = .ok (.aload_n 0, 1) := dk_42 (dk_at dksX11_init_5 17 rfl rfl)
theorem dX11_init_133 : decode cX11_init 133 = .ok (.sipush 800, 3) := dk_17 3 32 (dk_at dksX11_init_5 18 rfl rfl)
theorem dX11_init_136 : decode cX11_init 136 = .ok (.newarray .int, 2) := dk_188_10 (dk_at dksX11_init_5 21 rfl rfl)
theorem dX11_init_138 : decode cX11_init 138 = .ok (.putfield 57, 3) := dk_181 0 57 (dk_at dksX11_init_6 0 rfl rfl)
theorem dX11_init_141 : decode cX11_init 141 = .ok (.aload_n 0, 1) := dk_42 (dk_at dksX11_init_6 3 rfl rfl)
theorem dX11_init_142 : decode cX11_init 142 = .ok (.iconst 2, 1) := dk_5 (dk_at dksX11_init_6 4 rfl rfl)
theorem dX11_init_143 : decode cX11_init 143 = .ok (.newarray .int, 2) := dk_188_10 (dk_at dksX11_init_6 5 rfl rfl)
theorem dX11_init_145 : decode cX11_init 145 = .ok (.putfield 60, 3) := dk_181 0 60 (dk_at dksX11_init_6 7 rfl rfl)
theorem dX11_init_148 : decode cX11_init 148 = .ok (.aload_n 0, 1) := dk_42 (dk_at dksX11_init_6 10 rfl rfl)
theorem dX11_init_149 : decode cX11_init 149 = .ok (.iconst 2, 1) := dk_5 (dk_at dksX11_init_6 11 rfl rfl)
theorem dX11_init_150 : decode cX11_init 150 = .ok (.newarray .int, 2) := dk_188_10 (dk_at dksX11_init_6 12 rfl rfl)
theorem dX11_init_152 : decode cX11_init 152 = .ok (.putfield 63, 3) := dk_181 0 63 (dk_at dksX11_init_6 14 rfl rfl)
theorem dX11_init_155 : decode cX11_init 155 = .ok (.aload_n 0, 1) := dk_42 (dk_at dksX11_init_6 17 rfl rfl)
theorem dX11_init_156 : decode cX11_init 156 = .ok (.bipush 48, 2) := dk_16 48 (dk_at dksX11_init_6 18 rfl rfl)
theorem dX11_init_158 : decode cX11_init 158 = .ok (.newarray .int, 2) := dk_188_10 (dk_at dksX11_init_6 20 rfl rfl)
theorem dX11_init_160 : decode cX11_init 160 = .ok (.putfield 66, 3) := dk_181 0 66 (dk_at dksX11_init_7 0 rfl rfl)
theorem dX11_init_163 : decode cX11_init 163 = .ok (.aload_n 0, 1) := dk_42 (dk_at dksX11_init_7 3 rfl rfl)
theorem dX11_init_164 : decode cX11_init 164 = .ok (.bipush 24, 2) := dk_16 24 (dk_at dksX11_init_7 4 rfl rfl)
theorem dX11_init_166 : decode cX11_init 166 = .ok (.newarray .int, 2) := dk_188_10 (dk_at dksX11_init_7 6 rfl rfl)
theorem dX11_init_168 : decode cX11_init 168 = .ok (.putfield 69, 3) := dk_181 0 69 (dk_at dksX11_init_7 8 rfl rfl)
theorem dX11_init_171 : decode cX11_init 171 = .ok (.aload_n 0, 1) := dk_42 (dk_at dksX11_init_7 11 rfl rfl)
theorem dX11_init_172 : decode cX11_init 172 = .ok (.bipush 24, 2) := dk_16 24 (dk_at dksX11_init_7 12 rfl rfl)
theorem dX11_init_174 : decode cX11_init 174 = .ok (.newarray .int, 2) := dk_188_10 (dk_at dksX11_init_7 14 rfl rfl)
theorem dX11_init_176 : decode cX11_init 176 = .ok (.putfield 72, 3) := dk_181 0 72 (dk_at dksX11_init_7 16 rfl rfl)
theorem dX11_init_179 : decode cX11_init 179 = .ok (.aload_n 0, 1) := dk_42 (dk_at dksX11_init_7 19 rfl rfl)
theorem dX11_init_180 : decode cX11_init 180 = .ok (.bipush 24, 2) := dk_16 24 (dk_at dksX11_init_7 20 rfl rfl)
theorem dX11_init_182 : decode cX11_init 182 = .ok (.newarray .int, 2) := dk_188_10 (dk_at dksX11_init_7 22 rfl rfl)
theorem dX11_init_184 : decode cX11_init 184 = .ok (.putfield 75, 3) := dk_181 0 75 (dk_at dksX11_init_8 0 rfl rfl)
theorem dX11_init_187 : decode cX11_init 187 = .ok (.aload_n 0, 1) := dk_42 (dk_at dksX11_init_8 3 rfl rfl)
theorem dX11_init_188 : decode cX11_init 188 = .ok (.bipush 24, 2) := dk_16 24 (dk_at dksX11_init_8 4 rfl rfl)
theorem dX11_init_190 : decode cX11_init 190 = .ok (.newarray .int, 2) := dk_188_10 (dk_at dksX11_init_8 6 rfl rfl)
theorem dX11_init_192 : decode cX11_init 192 = .ok (.putfield 78, 3) := dk_181 0 78 (dk_at dksX11_init_8 8 rfl rfl)
theorem dX11_init_195 : decode cX11_init 195 = .ok (.aload_n 0, 1) := dk_42 (dk_at dksX11_init_8 11 rfl rfl)
theorem dX11_init_196 : decode cX11_init 196 = .ok (.bipush 24, 2) := dk_16 24 (dk_at dksX11_init_8 12 rfl rfl)
theorem dX11_init_198 : decode cX11_init 198 = .ok (.newarray .int, 2) := dk_188_10 (dk_at dksX11_init_8 14 rfl rfl)
theorem dX11_init_200 : decode cX11_init 200 = .ok (.putfield 81, 3) := dk_181 0 81 (dk_at dksX11_init_8 16 rfl rfl)
theorem dX11_init_203 : decode cX11_init 203 = .ok (.aload_n 0, 1) := dk_42 (dk_at dksX11_init_8 19 rfl rfl)
theorem dX11_init_204 : decode cX11_init 204 = .ok (.bipush 24, 2) := dk_16 24 (dk_at dksX11_init_8 20 rfl rfl)
theorem dX11_init_206 : decode cX11_init 206 = .ok (.newarray .int, 2) := dk_188_10 (dk_at dksX11_init_8 22 rfl rfl)
theorem dX11_init_208 : decode cX11_init 208 = .ok (.putfield 84, 3) := dk_181 0 84 (dk_at dksX11_init_9 0 rfl rfl)
theorem dX11_init_211 : decode cX11_init 211 = .ok (.aload_n 0, 1) := dk_42 (dk_at dksX11_init_9 3 rfl rfl)
theorem dX11_init_212 : decode cX11_init 212 = .ok (.iconst (-1), 1) := dk_2 (dk_at dksX11_init_9 4 rfl rfl)
theorem dX11_init_213 : decode cX11_init 213 = .ok (.putfield 87, 3) := dk_181 0 87 (dk_at dksX11_init_9 5 rfl rfl)
theorem dX11_init_216 : decode cX11_init 216 = .ok (.aload_n 0, 1) := dk_42 (dk_at dksX11_init_9 8 rfl rfl)
theorem dX11_init_217 : decode cX11_init 217 = .ok (.bipush 7, 2) := dk_16 7 (dk_at dksX11_init_9 9 rfl rfl)
theorem dX11_init_219 : decode cX11_init 219 = .ok (.newarray .int, 2) := dk_188_10 (dk_at dksX11_init_9 11 rfl rfl)
theorem dX11_init_221 : decode cX11_init 221 = .ok (.putfield 91, 3) := dk_181 0 91 (dk_at dksX11_init_9 13 rfl rfl)
theorem dX11_init_224 : decode cX11_init 224 = .ok (.aload_n 0, 1) := dk_42 (dk_at dksX11_init_9 16 rfl rfl)
theorem dX11_init_225 : decode cX11_init 225 = .ok (.bipush 7, 2) := dk_16 7 (dk_at dksX11_init_9 17 rfl rfl)
theorem dX11_init_227 : decode cX11_init 227 = .ok (.newarray .int, 2) := dk_188_10 (dk_at dksX11_init_9 19 rfl rfl)
theorem dX11_init_229 : decode cX11_init 229 = .ok (.putfield 94, 3) := dk_181 0 94 (dk_at dksX11_init_9 21 rfl rfl)
theorem dX11_init_232 : decode cX11_init 232 = .ok (.aload_n 0, 1) := dk_42 (dk_at dksX11_init_10 0 rfl rfl)
theorem dX11_init_233 : decode cX11_init 233 = .ok (.bipush 8, 2) := dk_16 8 (dk_at dksX11_init_10 1 rfl rfl)
theorem dX11_init_235 : decode cX11_init 235 = .ok (.newarray .int, 2) := dk_188_10 (dk_at dksX11_init_10 3 rfl rfl)
theorem dX11_init_237 : decode cX11_init 237 = .ok (.putfield 97, 3) := dk_181 0 97 (dk_at dksX11_init_10 5 rfl rfl)
theorem dX11_init_240 : decode cX11_init 240 = .ok (.aload_n 0, 1) := dk_42 (dk_at dksX11_init_10 8 rfl rfl)
theorem dX11_init_241 : decode cX11_init 241 = .ok (.bipush 8, 2) := dk_16 8 (dk_at dksX11_init_10 9 rfl rfl)
theorem dX11_init_243 : decode cX11_init 243 = .ok (.newarray .int, 2) := dk_188_10 (dk_at dksX11_init_10 11 rfl rfl)
theorem dX11_init_245 : decode cX11_init 245 = .ok (.putfield 100, 3) := dk_181 0 100 (dk_at dksX11_init_10 13 rfl rfl)
theorem dX11_init_248 : decode cX11_init 248 = .ok (.aload_n 0, 1) := dk_42 (dk_at dksX11_init_10 16 rfl rfl)
theorem dX11_init_249 : decode cX11_init 249 = .ok (.sipush 240, 3) := dk_17 0 240 (dk_at dksX11_init_10 17 rfl rfl)
theorem dX11_init_252 : decode cX11_init 252 = .ok (.newarray .int, 2) := dk_188_10 (dk_at dksX11_init_10 20 rfl rfl)
theorem dX11_init_254 : decode cX11_init 254 = .ok (.putfield 103, 3) := dk_181 0 103 (dk_at dksX11_init_11 0 rfl rfl)
theorem dX11_init_257 : decode cX11_init 257 = .ok (.return_, 1) := dk_177 (dk_at dksX11_init_11 3 rfl rfl)
abbrev cX11_thrown : ByteArray := prog_21_method_2_code
def yX11_thrown : MethodName := ⟨RX11, "thrown", "()I"⟩
theorem dX11_thrown_0 : decode cX11_thrown 0 = .ok (.aload_n 0, 1) := by decide +kernel
theorem dX11_thrown_1 : decode cX11_thrown 1 = .ok (.getfield 106, 3) := by decide +kernel
theorem dX11_thrown_4 : decode cX11_thrown 4 = .ok (.ireturn, 1) := by decide +kernel
abbrev cX11_feed : ByteArray := prog_21_method_5_code
def yX11_feed : MethodName := ⟨RX11, "feed", "(IIIII)I"⟩
def dkwX11_feed_2 : List UInt8 := [182, 0, 112, 42, 180, 0, 109, 172]
abbrev dktX11_feed_2 : List UInt8 := dkwX11_feed_2 ++ []
def dkwX11_feed_1 : List UInt8 := [182, 0, 112, 42, 28, 182, 0, 112, 42, 29, 182, 0, 112, 42, 21, 4, 182, 0, 112, 42, 21, 5]
abbrev dktX11_feed_1 : List UInt8 := dkwX11_feed_1 ++ dktX11_feed_2
def dkwX11_feed_0 : List UInt8 := [42, 3, 181, 0, 106, 42, 180, 0, 109, 16, 20, 96, 17, 3, 172, 164, 0, 5, 2, 172, 42, 27]
abbrev dktX11_feed_0 : List UInt8 := dkwX11_feed_0 ++ dktX11_feed_1
theorem dksX11_feed_0 : cX11_feed.data.toList.drop 0 = dktX11_feed_0 := by decide +kernel
theorem dksX11_feed_1 : cX11_feed.data.toList.drop 22 = dktX11_feed_1 := dk_seg dksX11_feed_0 22 rfl rfl
theorem dksX11_feed_2 : cX11_feed.data.toList.drop 44 = dktX11_feed_2 := dk_seg dksX11_feed_1 22 rfl rfl
theorem dX11_feed_0 : decode cX11_feed 0 = .ok (.aload_n 0, 1) := dk_42 (dk_at dksX11_feed_0 0 rfl rfl)
theorem dX11_feed_1 : decode cX11_feed 1 = .ok (.iconst 0, 1) := dk_3 (dk_at dksX11_feed_0 1 rfl rfl)
theorem dX11_feed_2 : decode cX11_feed 2 = .ok (.putfield 106, 3) := dk_181 0 106 (dk_at dksX11_feed_0 2 rfl rfl)
theorem dX11_feed_5 : decode cX11_feed 5 = .ok (.aload_n 0, 1) := dk_42 (dk_at dksX11_feed_0 5 rfl rfl)
theorem dX11_feed_6 : decode cX11_feed 6 = .ok (.getfield 109, 3) := dk_180 0 109 (dk_at dksX11_feed_0 6 rfl rfl)
theorem dX11_feed_9 : decode cX11_feed 9 = .ok (.bipush 20, 2) := dk_16 20 (dk_at dksX11_feed_0 9 rfl rfl)
theorem dX11_feed_11 : decode cX11_feed 11 = .ok (.iadd, 1) := dk_96 (dk_at dksX11_feed_0 11 rfl rfl)
theorem dX11_feed_12 : decode cX11_feed 12 = .ok (.sipush 940, 3) := dk_17 3 172 (dk_at dksX11_feed_0 12 rfl rfl)
theorem dX11_feed_15 : decode cX11_feed 15 = .ok (.if_icmp .le 5, 3) := dk_164 0 5 (dk_at dksX11_feed_0 15 rfl rfl)
theorem dX11_feed_18 : decode cX11_feed 18 = .ok (.iconst (-1), 1) := dk_2 (dk_at dksX11_feed_0 18 rfl rfl)
theorem dX11_feed_19 : decode cX11_feed 19 = .ok (.ireturn, 1) := dk_172 (dk_at dksX11_feed_0 19 rfl rfl)
theorem dX11_feed_20 : decode cX11_feed 20 = .ok (.aload_n 0, 1) := dk_42 (dk_at dksX11_feed_0 20 rfl rfl)
theorem dX11_feed_21 : decode cX11_feed 21 = .ok (.iload_n 1, 1) := dk_27 (dk_at dksX11_feed_0 21 rfl rfl)
theorem dX11_feed_22 : decode cX11_feed 22 = .ok (.invokevirtual 112, 3) := dk_182 0 112 (dk_at dksX11_feed_1 0 rfl rfl)
theorem dX11_feed_25 : decode cX11_feed 25 = .ok (.aload_n 0, 1) := dk_42 (dk_at dksX11_feed_1 3 rfl rfl)
theorem dX11_feed_26 : decode cX11_feed 26 = .ok (.iload_n 2, 1) := dk_28 (dk_at dksX11_feed_1 4 rfl rfl)
theorem dX11_feed_27 : decode cX11_feed 27 = .ok (.invokevirtual 112, 3) := dk_182 0 112 (dk_at dksX11_feed_1 5 rfl rfl)
theorem dX11_feed_30 : decode cX11_feed 30 = .ok (.aload_n 0, 1) := dk_42 (dk_at dksX11_feed_1 8 rfl rfl)
theorem dX11_feed_31 : decode cX11_feed 31 = .ok (.iload_n 3, 1) := dk_29 (dk_at dksX11_feed_1 9 rfl rfl)
theorem dX11_feed_32 : decode cX11_feed 32 = .ok (.invokevirtual 112, 3) := dk_182 0 112 (dk_at dksX11_feed_1 10 rfl rfl)
theorem dX11_feed_35 : decode cX11_feed 35 = .ok (.aload_n 0, 1) := dk_42 (dk_at dksX11_feed_1 13 rfl rfl)
theorem dX11_feed_36 : decode cX11_feed 36 = .ok (.iload 4, 2) := dk_21 4 (dk_at dksX11_feed_1 14 rfl rfl)
theorem dX11_feed_38 : decode cX11_feed 38 = .ok (.invokevirtual 112, 3) := dk_182 0 112 (dk_at dksX11_feed_1 16 rfl rfl)
theorem dX11_feed_41 : decode cX11_feed 41 = .ok (.aload_n 0, 1) := dk_42 (dk_at dksX11_feed_1 19 rfl rfl)
theorem dX11_feed_42 : decode cX11_feed 42 = .ok (.iload 5, 2) := dk_21 5 (dk_at dksX11_feed_1 20 rfl rfl)
theorem dX11_feed_44 : decode cX11_feed 44 = .ok (.invokevirtual 112, 3) := dk_182 0 112 (dk_at dksX11_feed_2 0 rfl rfl)
theorem dX11_feed_47 : decode cX11_feed 47 = .ok (.aload_n 0, 1) := dk_42 (dk_at dksX11_feed_2 3 rfl rfl)
theorem dX11_feed_48 : decode cX11_feed 48 = .ok (.getfield 109, 3) := dk_180 0 109 (dk_at dksX11_feed_2 4 rfl rfl)
theorem dX11_feed_51 : decode cX11_feed 51 = .ok (.ireturn, 1) := dk_172 (dk_at dksX11_feed_2 7 rfl rfl)
abbrev cX11_come : ByteArray := prog_21_method_4_code
def yX11_come : MethodName := ⟨RX11, "come", "(I)V"⟩
def dkwX11_come_1 : List UInt8 := [89, 180, 0, 109, 4, 96, 181, 0, 109, 132, 2, 248, 167, 255, 223, 177]
abbrev dktX11_come_1 : List UInt8 := dkwX11_come_1 ++ []
def dkwX11_come_0 : List UInt8 := [16, 24, 61, 28, 155, 0, 35, 42, 180, 0, 7, 42, 180, 0, 109, 27, 28, 124, 17, 0, 255, 126, 79, 42]
abbrev dktX11_come_0 : List UInt8 := dkwX11_come_0 ++ dktX11_come_1
theorem dksX11_come_0 : cX11_come.data.toList.drop 0 = dktX11_come_0 := by decide +kernel
theorem dksX11_come_1 : cX11_come.data.toList.drop 24 = dktX11_come_1 := dk_seg dksX11_come_0 24 rfl rfl
theorem dX11_come_0 : decode cX11_come 0 = .ok (.bipush 24, 2) := dk_16 24 (dk_at dksX11_come_0 0 rfl rfl)
theorem dX11_come_2 : decode cX11_come 2 = .ok (.istore_n 2, 1) := dk_61 (dk_at dksX11_come_0 2 rfl rfl)
theorem dX11_come_3 : decode cX11_come 3 = .ok (.iload_n 2, 1) := dk_28 (dk_at dksX11_come_0 3 rfl rfl)
theorem dX11_come_4 : decode cX11_come 4 = .ok (.ifCond .lt 35, 3) := dk_155 0 35 (dk_at dksX11_come_0 4 rfl rfl)
theorem dX11_come_7 : decode cX11_come 7 = .ok (.aload_n 0, 1) := dk_42 (dk_at dksX11_come_0 7 rfl rfl)
theorem dX11_come_8 : decode cX11_come 8 = .ok (.getfield 7, 3) := dk_180 0 7 (dk_at dksX11_come_0 8 rfl rfl)
theorem dX11_come_11 : decode cX11_come 11 = .ok (.aload_n 0, 1) := dk_42 (dk_at dksX11_come_0 11 rfl rfl)
theorem dX11_come_12 : decode cX11_come 12 = .ok (.getfield 109, 3) := dk_180 0 109 (dk_at dksX11_come_0 12 rfl rfl)
theorem dX11_come_15 : decode cX11_come 15 = .ok (.iload_n 1, 1) := dk_27 (dk_at dksX11_come_0 15 rfl rfl)
theorem dX11_come_16 : decode cX11_come 16 = .ok (.iload_n 2, 1) := dk_28 (dk_at dksX11_come_0 16 rfl rfl)
theorem dX11_come_17 : decode cX11_come 17 = .ok (.iushr, 1) := dk_124 (dk_at dksX11_come_0 17 rfl rfl)
theorem dX11_come_18 : decode cX11_come 18 = .ok (.sipush 255, 3) := dk_17 0 255 (dk_at dksX11_come_0 18 rfl rfl)
theorem dX11_come_21 : decode cX11_come 21 = .ok (.iand, 1) := dk_126 (dk_at dksX11_come_0 21 rfl rfl)
theorem dX11_come_22 : decode cX11_come 22 = .ok (.iastore, 1) := dk_79 (dk_at dksX11_come_0 22 rfl rfl)
theorem dX11_come_23 : decode cX11_come 23 = .ok (.aload_n 0, 1) := dk_42 (dk_at dksX11_come_0 23 rfl rfl)
theorem dX11_come_24 : decode cX11_come 24 = .ok (.dup, 1) := dk_89 (dk_at dksX11_come_1 0 rfl rfl)
theorem dX11_come_25 : decode cX11_come 25 = .ok (.getfield 109, 3) := dk_180 0 109 (dk_at dksX11_come_1 1 rfl rfl)
theorem dX11_come_28 : decode cX11_come 28 = .ok (.iconst 1, 1) := dk_4 (dk_at dksX11_come_1 4 rfl rfl)
theorem dX11_come_29 : decode cX11_come 29 = .ok (.iadd, 1) := dk_96 (dk_at dksX11_come_1 5 rfl rfl)
theorem dX11_come_30 : decode cX11_come 30 = .ok (.putfield 109, 3) := dk_181 0 109 (dk_at dksX11_come_1 6 rfl rfl)
theorem dX11_come_33 : decode cX11_come 33 = .ok (.iinc 2 (-8), 3) := dk_132 2 248 (dk_at dksX11_come_1 9 rfl rfl)
theorem dX11_come_36 : decode cX11_come 36 = .ok (.goto (-33), 3) := dk_167 255 223 (dk_at dksX11_come_1 12 rfl rfl)
theorem dX11_come_39 : decode cX11_come 39 = .ok (.return_, 1) := dk_177 (dk_at dksX11_come_1 15 rfl rfl)
abbrev cX11_end : ByteArray := prog_21_method_6_code
def yX11_end : MethodName := ⟨RX11, "end", "(I)Z"⟩
def dkwX11_end_1 : List UInt8 := [4, 172]
abbrev dktX11_end_1 : List UInt8 := dkwX11_end_1 ++ []
def dkwX11_end_0 : List UInt8 := [42, 3, 181, 0, 106, 27, 155, 0, 11, 27, 42, 180, 0, 109, 164, 0, 5, 3, 172, 42, 27, 181, 0, 109]
abbrev dktX11_end_0 : List UInt8 := dkwX11_end_0 ++ dktX11_end_1
theorem dksX11_end_0 : cX11_end.data.toList.drop 0 = dktX11_end_0 := by decide +kernel
theorem dksX11_end_1 : cX11_end.data.toList.drop 24 = dktX11_end_1 := dk_seg dksX11_end_0 24 rfl rfl
theorem dX11_end_0 : decode cX11_end 0 = .ok (.aload_n 0, 1) := dk_42 (dk_at dksX11_end_0 0 rfl rfl)
theorem dX11_end_1 : decode cX11_end 1 = .ok (.iconst 0, 1) := dk_3 (dk_at dksX11_end_0 1 rfl rfl)
theorem dX11_end_2 : decode cX11_end 2 = .ok (.putfield 106, 3) := dk_181 0 106 (dk_at dksX11_end_0 2 rfl rfl)
theorem dX11_end_5 : decode cX11_end 5 = .ok (.iload_n 1, 1) := dk_27 (dk_at dksX11_end_0 5 rfl rfl)
theorem dX11_end_6 : decode cX11_end 6 = .ok (.ifCond .lt 11, 3) := dk_155 0 11 (dk_at dksX11_end_0 6 rfl rfl)
theorem dX11_end_9 : decode cX11_end 9 = .ok (.iload_n 1, 1) := dk_27 (dk_at dksX11_end_0 9 rfl rfl)
theorem dX11_end_10 : decode cX11_end 10 = .ok (.aload_n 0, 1) := dk_42 (dk_at dksX11_end_0 10 rfl rfl)
theorem dX11_end_11 : decode cX11_end 11 = .ok (.getfield 109, 3) := dk_180 0 109 (dk_at dksX11_end_0 11 rfl rfl)
theorem dX11_end_14 : decode cX11_end 14 = .ok (.if_icmp .le 5, 3) := dk_164 0 5 (dk_at dksX11_end_0 14 rfl rfl)
theorem dX11_end_17 : decode cX11_end 17 = .ok (.iconst 0, 1) := dk_3 (dk_at dksX11_end_0 17 rfl rfl)
theorem dX11_end_18 : decode cX11_end 18 = .ok (.ireturn, 1) := dk_172 (dk_at dksX11_end_0 18 rfl rfl)
theorem dX11_end_19 : decode cX11_end 19 = .ok (.aload_n 0, 1) := dk_42 (dk_at dksX11_end_0 19 rfl rfl)
theorem dX11_end_20 : decode cX11_end 20 = .ok (.iload_n 1, 1) := dk_27 (dk_at dksX11_end_0 20 rfl rfl)
theorem dX11_end_21 : decode cX11_end 21 = .ok (.putfield 109, 3) := dk_181 0 109 (dk_at dksX11_end_0 21 rfl rfl)
theorem dX11_end_24 : decode cX11_end 24 = .ok (.iconst 1, 1) := dk_4 (dk_at dksX11_end_1 0 rfl rfl)
theorem dX11_end_25 : decode cX11_end 25 = .ok (.ireturn, 1) := dk_172 (dk_at dksX11_end_1 1 rfl rfl)
abbrev cX11_table : ByteArray := prog_21_method_33_code
def yX11_table : MethodName := ⟨RX11, "table", "()I"⟩
def dkwX11_table_5 : List UInt8 := [79, 42, 180, 0, 13, 17, 3, 93, 3, 79, 42, 180, 0, 13, 17, 3, 142, 3, 79, 27, 172]
abbrev dktX11_table_5 : List UInt8 := dkwX11_table_5 ++ []
def dkwX11_table_4 : List UInt8 := [180, 0, 25, 28, 42, 180, 0, 29, 28, 47, 80, 132, 2, 1, 167, 255, 235, 42, 180, 0, 13, 16, 60, 3]
abbrev dktX11_table_4 : List UInt8 := dkwX11_table_4 ++ dktX11_table_5
def dkwX11_table_3 : List UInt8 := [42, 180, 0, 16, 28, 46, 79, 132, 2, 1, 167, 255, 235, 3, 61, 28, 16, 18, 162, 0, 21, 42]
abbrev dktX11_table_3 : List UInt8 := dkwX11_table_3 ++ dktX11_table_4
def dkwX11_table_2 : List UInt8 := [180, 0, 171, 100, 172, 132, 1, 1, 167, 255, 232, 3, 61, 28, 16, 60, 162, 0, 21, 42, 180, 0, 13, 28]
abbrev dktX11_table_2 : List UInt8 := dkwX11_table_2 ++ dktX11_table_3
def dkwX11_table_1 : List UInt8 := [132, 1, 1, 167, 255, 240, 3, 60, 42, 180, 0, 128, 153, 0, 23, 42, 182, 0, 239, 154, 0, 10, 2, 42]
abbrev dktX11_table_1 : List UInt8 := dkwX11_table_1 ++ dktX11_table_2
def dkwX11_table_0 : List UInt8 := [42, 17, 3, 132, 182, 0, 236, 3, 60, 27, 16, 60, 162, 0, 16, 42, 180, 0, 16, 27, 3, 79]
abbrev dktX11_table_0 : List UInt8 := dkwX11_table_0 ++ dktX11_table_1
theorem dksX11_table_0 : cX11_table.data.toList.drop 0 = dktX11_table_0 := by decide +kernel
theorem dksX11_table_1 : cX11_table.data.toList.drop 22 = dktX11_table_1 := dk_seg dksX11_table_0 22 rfl rfl
theorem dksX11_table_2 : cX11_table.data.toList.drop 46 = dktX11_table_2 := dk_seg dksX11_table_1 24 rfl rfl
theorem dksX11_table_3 : cX11_table.data.toList.drop 70 = dktX11_table_3 := dk_seg dksX11_table_2 24 rfl rfl
theorem dksX11_table_4 : cX11_table.data.toList.drop 92 = dktX11_table_4 := dk_seg dksX11_table_3 22 rfl rfl
theorem dksX11_table_5 : cX11_table.data.toList.drop 116 = dktX11_table_5 := dk_seg dksX11_table_4 24 rfl rfl
theorem dX11_table_0 : decode cX11_table 0 = .ok (.aload_n 0, 1) := dk_42 (dk_at dksX11_table_0 0 rfl rfl)
theorem dX11_table_1 : decode cX11_table 1 = .ok (.sipush 900, 3) := dk_17 3 132 (dk_at dksX11_table_0 1 rfl rfl)
theorem dX11_table_4 : decode cX11_table 4 = .ok (.invokevirtual 236, 3) := dk_182 0 236 (dk_at dksX11_table_0 4 rfl rfl)
theorem dX11_table_7 : decode cX11_table 7 = .ok (.iconst 0, 1) := dk_3 (dk_at dksX11_table_0 7 rfl rfl)
theorem dX11_table_8 : decode cX11_table 8 = .ok (.istore_n 1, 1) := dk_60 (dk_at dksX11_table_0 8 rfl rfl)
theorem dX11_table_9 : decode cX11_table 9 = .ok (.iload_n 1, 1) := dk_27 (dk_at dksX11_table_0 9 rfl rfl)
theorem dX11_table_10 : decode cX11_table 10 = .ok (.bipush 60, 2) := dk_16 60 (dk_at dksX11_table_0 10 rfl rfl)
theorem dX11_table_12 : decode cX11_table 12 = .ok (.if_icmp .ge 16, 3) := dk_162 0 16 (dk_at dksX11_table_0 12 rfl rfl)
theorem dX11_table_15 : decode cX11_table 15 = .ok (.aload_n 0, 1) := dk_42 (dk_at dksX11_table_0 15 rfl rfl)
theorem dX11_table_16 : decode cX11_table 16 = .ok (.getfield 16, 3) := dk_180 0 16 (dk_at dksX11_table_0 16 rfl rfl)
theorem dX11_table_19 : decode cX11_table 19 = .ok (.iload_n 1, 1) := dk_27 (dk_at dksX11_table_0 19 rfl rfl)
theorem dX11_table_20 : decode cX11_table 20 = .ok (.iconst 0, 1) := dk_3 (dk_at dksX11_table_0 20 rfl rfl)
theorem dX11_table_21 : decode cX11_table 21 = .ok (.iastore, 1) := dk_79 (dk_at dksX11_table_0 21 rfl rfl)
theorem dX11_table_22 : decode cX11_table 22 = .ok (.iinc 1 1, 3) := dk_132 1 1 (dk_at dksX11_table_1 0 rfl rfl)
theorem dX11_table_25 : decode cX11_table 25 = .ok (.goto (-16), 3) := dk_167 255 240 (dk_at dksX11_table_1 3 rfl rfl)
theorem dX11_table_28 : decode cX11_table 28 = .ok (.iconst 0, 1) := dk_3 (dk_at dksX11_table_1 6 rfl rfl)
theorem dX11_table_29 : decode cX11_table 29 = .ok (.istore_n 1, 1) := dk_60 (dk_at dksX11_table_1 7 rfl rfl)
theorem dX11_table_30 : decode cX11_table 30 = .ok (.aload_n 0, 1) := dk_42 (dk_at dksX11_table_1 8 rfl rfl)
theorem dX11_table_31 : decode cX11_table 31 = .ok (.getfield 128, 3) := dk_180 0 128 (dk_at dksX11_table_1 9 rfl rfl)
theorem dX11_table_34 : decode cX11_table 34 = .ok (.ifCond .eq 23, 3) := dk_153 0 23 (dk_at dksX11_table_1 12 rfl rfl)
theorem dX11_table_37 : decode cX11_table 37 = .ok (.aload_n 0, 1) := dk_42 (dk_at dksX11_table_1 15 rfl rfl)
theorem dX11_table_38 : decode cX11_table 38 = .ok (.invokevirtual 239, 3) := dk_182 0 239 (dk_at dksX11_table_1 16 rfl rfl)
theorem dX11_table_41 : decode cX11_table 41 = .ok (.ifCond .ne 10, 3) := dk_154 0 10 (dk_at dksX11_table_1 19 rfl rfl)
theorem dX11_table_44 : decode cX11_table 44 = .ok (.iconst (-1), 1) := dk_2 (dk_at dksX11_table_1 22 rfl rfl)
theorem dX11_table_45 : decode cX11_table 45 = .ok (.aload_n 0, 1) := dk_42 (dk_at dksX11_table_1 23 rfl rfl)
theorem dX11_table_46 : decode cX11_table 46 = .ok (.getfield 171, 3) := dk_180 0 171 (dk_at dksX11_table_2 0 rfl rfl)
theorem dX11_table_49 : decode cX11_table 49 = .ok (.isub, 1) := dk_100 (dk_at dksX11_table_2 3 rfl rfl)
theorem dX11_table_50 : decode cX11_table 50 = .ok (.ireturn, 1) := dk_172 (dk_at dksX11_table_2 4 rfl rfl)
theorem dX11_table_51 : decode cX11_table 51 = .ok (.iinc 1 1, 3) := dk_132 1 1 (dk_at dksX11_table_2 5 rfl rfl)
theorem dX11_table_54 : decode cX11_table 54 = .ok (.goto (-24), 3) := dk_167 255 232 (dk_at dksX11_table_2 8 rfl rfl)
theorem dX11_table_57 : decode cX11_table 57 = .ok (.iconst 0, 1) := dk_3 (dk_at dksX11_table_2 11 rfl rfl)
theorem dX11_table_58 : decode cX11_table 58 = .ok (.istore_n 2, 1) := dk_61 (dk_at dksX11_table_2 12 rfl rfl)
theorem dX11_table_59 : decode cX11_table 59 = .ok (.iload_n 2, 1) := dk_28 (dk_at dksX11_table_2 13 rfl rfl)
theorem dX11_table_60 : decode cX11_table 60 = .ok (.bipush 60, 2) := dk_16 60 (dk_at dksX11_table_2 14 rfl rfl)
theorem dX11_table_62 : decode cX11_table 62 = .ok (.if_icmp .ge 21, 3) := dk_162 0 21 (dk_at dksX11_table_2 16 rfl rfl)
theorem dX11_table_65 : decode cX11_table 65 = .ok (.aload_n 0, 1) := dk_42 (dk_at dksX11_table_2 19 rfl rfl)
theorem dX11_table_66 : decode cX11_table 66 = .ok (.getfield 13, 3) := dk_180 0 13 (dk_at dksX11_table_2 20 rfl rfl)
theorem dX11_table_69 : decode cX11_table 69 = .ok (.iload_n 2, 1) := dk_28 (dk_at dksX11_table_2 23 rfl rfl)
theorem dX11_table_70 : decode cX11_table 70 = .ok (.aload_n 0, 1) := dk_42 (dk_at dksX11_table_3 0 rfl rfl)
theorem dX11_table_71 : decode cX11_table 71 = .ok (.getfield 16, 3) := dk_180 0 16 (dk_at dksX11_table_3 1 rfl rfl)
theorem dX11_table_74 : decode cX11_table 74 = .ok (.iload_n 2, 1) := dk_28 (dk_at dksX11_table_3 4 rfl rfl)
theorem dX11_table_75 : decode cX11_table 75 = .ok (.iaload, 1) := dk_46 (dk_at dksX11_table_3 5 rfl rfl)
theorem dX11_table_76 : decode cX11_table 76 = .ok (.iastore, 1) := dk_79 (dk_at dksX11_table_3 6 rfl rfl)
theorem dX11_table_77 : decode cX11_table 77 = .ok (.iinc 2 1, 3) := dk_132 2 1 (dk_at dksX11_table_3 7 rfl rfl)
theorem dX11_table_80 : decode cX11_table 80 = .ok (.goto (-21), 3) := dk_167 255 235 (dk_at dksX11_table_3 10 rfl rfl)
theorem dX11_table_83 : decode cX11_table 83 = .ok (.iconst 0, 1) := dk_3 (dk_at dksX11_table_3 13 rfl rfl)
theorem dX11_table_84 : decode cX11_table 84 = .ok (.istore_n 2, 1) := dk_61 (dk_at dksX11_table_3 14 rfl rfl)
theorem dX11_table_85 : decode cX11_table 85 = .ok (.iload_n 2, 1) := dk_28 (dk_at dksX11_table_3 15 rfl rfl)
theorem dX11_table_86 : decode cX11_table 86 = .ok (.bipush 18, 2) := dk_16 18 (dk_at dksX11_table_3 16 rfl rfl)
theorem dX11_table_88 : decode cX11_table 88 = .ok (.if_icmp .ge 21, 3) := dk_162 0 21 (dk_at dksX11_table_3 18 rfl rfl)
theorem dX11_table_91 : decode cX11_table 91 = .ok (.aload_n 0, 1) := dk_42 (dk_at dksX11_table_3 21 rfl rfl)
theorem dX11_table_92 : decode cX11_table 92 = .ok (.getfield 25, 3) := dk_180 0 25 (dk_at dksX11_table_4 0 rfl rfl)
theorem dX11_table_95 : decode cX11_table 95 = .ok (.iload_n 2, 1) := dk_28 (dk_at dksX11_table_4 3 rfl rfl)
theorem dX11_table_96 : decode cX11_table 96 = .ok (.aload_n 0, 1) := dk_42 (dk_at dksX11_table_4 4 rfl rfl)
theorem dX11_table_97 : decode cX11_table 97 = .ok (.getfield 29, 3) := dk_180 0 29 (dk_at dksX11_table_4 5 rfl rfl)
theorem dX11_table_100 : decode cX11_table 100 = .ok (.iload_n 2, 1) := dk_28 (dk_at dksX11_table_4 8 rfl rfl)
theorem dX11_table_101 : decode cX11_table 101 = .ok (.laload, 1) := dk_47 (dk_at dksX11_table_4 9 rfl rfl)
theorem dX11_table_102 : decode cX11_table 102 = .ok (.lastore, 1) := dk_80 (dk_at dksX11_table_4 10 rfl rfl)
theorem dX11_table_103 : decode cX11_table 103 = .ok (.iinc 2 1, 3) := dk_132 2 1 (dk_at dksX11_table_4 11 rfl rfl)
theorem dX11_table_106 : decode cX11_table 106 = .ok (.goto (-21), 3) := dk_167 255 235 (dk_at dksX11_table_4 14 rfl rfl)
theorem dX11_table_109 : decode cX11_table 109 = .ok (.aload_n 0, 1) := dk_42 (dk_at dksX11_table_4 17 rfl rfl)
theorem dX11_table_110 : decode cX11_table 110 = .ok (.getfield 13, 3) := dk_180 0 13 (dk_at dksX11_table_4 18 rfl rfl)
theorem dX11_table_113 : decode cX11_table 113 = .ok (.bipush 60, 2) := dk_16 60 (dk_at dksX11_table_4 21 rfl rfl)
theorem dX11_table_115 : decode cX11_table 115 = .ok (.iconst 0, 1) := dk_3 (dk_at dksX11_table_4 23 rfl rfl)
theorem dX11_table_116 : decode cX11_table 116 = .ok (.iastore, 1) := dk_79 (dk_at dksX11_table_5 0 rfl rfl)
theorem dX11_table_117 : decode cX11_table 117 = .ok (.aload_n 0, 1) := dk_42 (dk_at dksX11_table_5 1 rfl rfl)
theorem dX11_table_118 : decode cX11_table 118 = .ok (.getfield 13, 3) := dk_180 0 13 (dk_at dksX11_table_5 2 rfl rfl)
theorem dX11_table_121 : decode cX11_table 121 = .ok (.sipush 861, 3) := dk_17 3 93 (dk_at dksX11_table_5 5 rfl rfl)
theorem dX11_table_124 : decode cX11_table 124 = .ok (.iconst 0, 1) := dk_3 (dk_at dksX11_table_5 8 rfl rfl)
theorem dX11_table_125 : decode cX11_table 125 = .ok (.iastore, 1) := dk_79 (dk_at dksX11_table_5 9 rfl rfl)
theorem dX11_table_126 : decode cX11_table 126 = .ok (.aload_n 0, 1) := dk_42 (dk_at dksX11_table_5 10 rfl rfl)
theorem dX11_table_127 : decode cX11_table 127 = .ok (.getfield 13, 3) := dk_180 0 13 (dk_at dksX11_table_5 11 rfl rfl)
theorem dX11_table_130 : decode cX11_table 130 = .ok (.sipush 910, 3) := dk_17 3 142 (dk_at dksX11_table_5 14 rfl rfl)
theorem dX11_table_133 : decode cX11_table 133 = .ok (.iconst 0, 1) := dk_3 (dk_at dksX11_table_5 17 rfl rfl)
theorem dX11_table_134 : decode cX11_table 134 = .ok (.iastore, 1) := dk_79 (dk_at dksX11_table_5 18 rfl rfl)
theorem dX11_table_135 : decode cX11_table 135 = .ok (.iload_n 1, 1) := dk_27 (dk_at dksX11_table_5 19 rfl rfl)
theorem dX11_table_136 : decode cX11_table 136 = .ok (.ireturn, 1) := dk_172 (dk_at dksX11_table_5 20 rfl rfl)
abbrev cX11_begin : ByteArray := prog_21_method_23_code
def yX11_begin : MethodName := ⟨RX11, "begin", "(I)V"⟩
def dkwX11_begin_1 : List UInt8 := [3, 181, 0, 119, 42, 182, 0, 184, 177]
abbrev dktX11_begin_1 : List UInt8 := dkwX11_begin_1 ++ []
def dkwX11_begin_0 : List UInt8 := [42, 3, 181, 0, 106, 42, 42, 182, 0, 190, 181, 0, 116, 42, 27, 181, 0, 125, 42, 3, 181, 0, 168, 42]
abbrev dktX11_begin_0 : List UInt8 := dkwX11_begin_0 ++ dktX11_begin_1
theorem dksX11_begin_0 : cX11_begin.data.toList.drop 0 = dktX11_begin_0 := by decide +kernel
theorem dksX11_begin_1 : cX11_begin.data.toList.drop 24 = dktX11_begin_1 := dk_seg dksX11_begin_0 24 rfl rfl
theorem dX11_begin_0 : decode cX11_begin 0 = .ok (.aload_n 0, 1) := dk_42 (dk_at dksX11_begin_0 0 rfl rfl)
theorem dX11_begin_1 : decode cX11_begin 1 = .ok (.iconst 0, 1) := dk_3 (dk_at dksX11_begin_0 1 rfl rfl)
theorem dX11_begin_2 : decode cX11_begin 2 = .ok (.putfield 106, 3) := dk_181 0 106 (dk_at dksX11_begin_0 2 rfl rfl)
theorem dX11_begin_5 : decode cX11_begin 5 = .ok (.aload_n 0, 1) := dk_42 (dk_at dksX11_begin_0 5 rfl rfl)
theorem dX11_begin_6 : decode cX11_begin 6 = .ok (.aload_n 0, 1) := dk_42 (dk_at dksX11_begin_0 6 rfl rfl)
theorem dX11_begin_7 : decode cX11_begin 7 = .ok (.invokevirtual 190, 3) := dk_182 0 190 (dk_at dksX11_begin_0 7 rfl rfl)
theorem dX11_begin_10 : decode cX11_begin 10 = .ok (.putfield 116, 3) := dk_181 0 116 (dk_at dksX11_begin_0 10 rfl rfl)
theorem dX11_begin_13 : decode cX11_begin 13 = .ok (.aload_n 0, 1) := dk_42 (dk_at dksX11_begin_0 13 rfl rfl)
theorem dX11_begin_14 : decode cX11_begin 14 = .ok (.iload_n 1, 1) := dk_27 (dk_at dksX11_begin_0 14 rfl rfl)
theorem dX11_begin_15 : decode cX11_begin 15 = .ok (.putfield 125, 3) := dk_181 0 125 (dk_at dksX11_begin_0 15 rfl rfl)
theorem dX11_begin_18 : decode cX11_begin 18 = .ok (.aload_n 0, 1) := dk_42 (dk_at dksX11_begin_0 18 rfl rfl)
theorem dX11_begin_19 : decode cX11_begin 19 = .ok (.iconst 0, 1) := dk_3 (dk_at dksX11_begin_0 19 rfl rfl)
theorem dX11_begin_20 : decode cX11_begin 20 = .ok (.putfield 168, 3) := dk_181 0 168 (dk_at dksX11_begin_0 20 rfl rfl)
theorem dX11_begin_23 : decode cX11_begin 23 = .ok (.aload_n 0, 1) := dk_42 (dk_at dksX11_begin_0 23 rfl rfl)
theorem dX11_begin_24 : decode cX11_begin 24 = .ok (.iconst 0, 1) := dk_3 (dk_at dksX11_begin_1 0 rfl rfl)
theorem dX11_begin_25 : decode cX11_begin 25 = .ok (.putfield 119, 3) := dk_181 0 119 (dk_at dksX11_begin_1 1 rfl rfl)
theorem dX11_begin_28 : decode cX11_begin 28 = .ok (.aload_n 0, 1) := dk_42 (dk_at dksX11_begin_1 4 rfl rfl)
theorem dX11_begin_29 : decode cX11_begin 29 = .ok (.invokevirtual 184, 3) := dk_182 0 184 (dk_at dksX11_begin_1 5 rfl rfl)
theorem dX11_begin_32 : decode cX11_begin 32 = .ok (.return_, 1) := dk_177 (dk_at dksX11_begin_1 8 rfl rfl)
abbrev cX11_take : ByteArray := prog_21_method_7_code
def yX11_take : MethodName := ⟨RX11, "take", "()I"⟩
def dkwX11_take_0 : List UInt8 := [42, 180, 0, 109, 60, 42, 3, 181, 0, 109, 27, 172]
abbrev dktX11_take_0 : List UInt8 := dkwX11_take_0 ++ []
theorem dksX11_take_0 : cX11_take.data.toList.drop 0 = dktX11_take_0 := by decide +kernel
theorem dX11_take_0 : decode cX11_take 0 = .ok (.aload_n 0, 1) := dk_42 (dk_at dksX11_take_0 0 rfl rfl)
theorem dX11_take_1 : decode cX11_take 1 = .ok (.getfield 109, 3) := dk_180 0 109 (dk_at dksX11_take_0 1 rfl rfl)
theorem dX11_take_4 : decode cX11_take 4 = .ok (.istore_n 1, 1) := dk_60 (dk_at dksX11_take_0 4 rfl rfl)
theorem dX11_take_5 : decode cX11_take 5 = .ok (.aload_n 0, 1) := dk_42 (dk_at dksX11_take_0 5 rfl rfl)
theorem dX11_take_6 : decode cX11_take 6 = .ok (.iconst 0, 1) := dk_3 (dk_at dksX11_take_0 6 rfl rfl)
theorem dX11_take_7 : decode cX11_take 7 = .ok (.putfield 109, 3) := dk_181 0 109 (dk_at dksX11_take_0 7 rfl rfl)
theorem dX11_take_10 : decode cX11_take 10 = .ok (.iload_n 1, 1) := dk_27 (dk_at dksX11_take_0 10 rfl rfl)
theorem dX11_take_11 : decode cX11_take 11 = .ok (.ireturn, 1) := dk_172 (dk_at dksX11_take_0 11 rfl rfl)
abbrev cX11_go : ByteArray := prog_21_method_13_code
def yX11_go : MethodName := ⟨RX11, "go", "()V"⟩
def dkwX11_go_16 : List UInt8 := [167, 0, 4, 6, 164, 0, 7, 4, 167, 0, 12, 28, 153, 0, 7, 5, 167, 0, 4, 6, 181, 0, 128, 177]
abbrev dktX11_go_16 : List UInt8 := dkwX11_go_16 ++ []
def dkwX11_go_15 : List UInt8 := [167, 255, 124, 42, 29, 153, 0, 25, 42, 180, 0, 119, 42, 180, 0, 122, 100, 28, 153, 0, 8, 16, 7]
abbrev dktX11_go_15 : List UInt8 := dkwX11_go_15 ++ dktX11_go_16
def dkwX11_go_14 : List UInt8 := [180, 0, 145, 104, 21, 4, 96, 16, 48, 100, 181, 0, 145, 42, 89, 180, 0, 119, 4, 96, 181, 0, 119]
abbrev dktX11_go_14 : List UInt8 := dkwX11_go_14 ++ dktX11_go_15
def dkwX11_go_13 : List UInt8 := [20, 0, 154, 101, 181, 0, 141, 42, 180, 0, 119, 42, 180, 0, 122, 100, 6, 162, 0, 20, 42, 16, 10, 42]
abbrev dktX11_go_13 : List UInt8 := dkwX11_go_13 ++ dktX11_go_14
def dkwX11_go_12 : List UInt8 := [180, 0, 122, 100, 16, 7, 162, 0, 23, 42, 20, 0, 152, 42, 180, 0, 141, 105, 21, 4, 133, 97]
abbrev dktX11_go_12 : List UInt8 := dkwX11_go_12 ++ dktX11_go_13
def dkwX11_go_11 : List UInt8 := [153, 0, 16, 21, 4, 184, 0, 131, 28, 160, 0, 7, 4, 167, 0, 4, 3, 62, 42, 180, 0, 119, 42]
abbrev dktX11_go_11 : List UInt8 := dkwX11_go_11 ++ dktX11_go_12
def dkwX11_go_10 : List UInt8 := [180, 0, 119, 182, 0, 148, 184, 0, 135, 153, 0, 110, 42, 180, 0, 7, 42, 180, 0, 119, 46, 54, 4, 29]
abbrev dktX11_go_10 : List UInt8 := dkwX11_go_10 ++ dktX11_go_11
def dkwX11_go_9 : List UInt8 := [181, 0, 141, 42, 3, 181, 0, 145, 42, 42, 180, 0, 119, 182, 0, 148, 184, 0, 131, 154, 0, 17, 42, 42]
abbrev dktX11_go_9 : List UInt8 := dkwX11_go_9 ++ dktX11_go_10
def dkwX11_go_8 : List UInt8 := [181, 0, 138, 42, 89, 180, 0, 119, 4, 96, 181, 0, 119, 177, 27, 184, 0, 131, 61, 4, 62, 42, 9]
abbrev dktX11_go_8 : List UInt8 := dkwX11_go_8 ++ dktX11_go_9
def dkwX11_go_7 : List UInt8 := [27, 16, 40, 159, 0, 9, 27, 16, 41, 160, 0, 7, 7, 167, 0, 4, 4, 181, 0, 128, 42, 27]
abbrev dktX11_go_7 : List UInt8 := dkwX11_go_7 ++ dktX11_go_8
def dkwX11_go_6 : List UInt8 := [27, 16, 59, 159, 0, 33, 27, 16, 60, 159, 0, 27, 27, 16, 61, 159, 0, 21, 27, 16, 62, 159, 0, 15]
abbrev dktX11_go_6 : List UInt8 := dkwX11_go_6 ++ dktX11_go_7
def dkwX11_go_5 : List UInt8 := [180, 0, 7, 42, 180, 0, 119, 46, 60, 27, 184, 0, 131, 154, 0, 71, 27, 184, 0, 135, 154, 0, 64, 42]
abbrev dktX11_go_5 : List UInt8 := dkwX11_go_5 ++ dktX11_go_6
def dkwX11_go_4 : List UInt8 := [181, 0, 128, 177, 42, 180, 0, 119, 42, 180, 0, 116, 161, 0, 9, 42, 3, 181, 0, 128, 177, 42]
abbrev dktX11_go_4 : List UInt8 := dkwX11_go_4 ++ dktX11_go_5
def dkwX11_go_3 : List UInt8 := [164, 0, 28, 42, 180, 0, 122, 42, 180, 0, 125, 161, 0, 17, 42, 42, 180, 0, 125, 181, 0, 122, 42, 4]
abbrev dktX11_go_3 : List UInt8 := dkwX11_go_3 ++ dktX11_go_4
def dkwX11_go_2 : List UInt8 := [181, 0, 119, 167, 255, 207, 42, 42, 180, 0, 119, 181, 0, 122, 42, 180, 0, 116, 42, 180, 0, 125]
abbrev dktX11_go_2 : List UInt8 := dkwX11_go_2 ++ dktX11_go_3
def dkwX11_go_1 : List UInt8 := [159, 0, 17, 42, 180, 0, 7, 42, 180, 0, 119, 46, 16, 10, 160, 0, 16, 42, 89, 180, 0, 119, 4, 96]
abbrev dktX11_go_1 : List UInt8 := dkwX11_go_1 ++ dktX11_go_2
def dkwX11_go_0 : List UInt8 := [42, 180, 0, 119, 42, 180, 0, 116, 162, 0, 44, 42, 180, 0, 7, 42, 180, 0, 119, 46, 16, 32]
abbrev dktX11_go_0 : List UInt8 := dkwX11_go_0 ++ dktX11_go_1
theorem dksX11_go_0 : cX11_go.data.toList.drop 0 = dktX11_go_0 := by decide +kernel
theorem dksX11_go_1 : cX11_go.data.toList.drop 22 = dktX11_go_1 := dk_seg dksX11_go_0 22 rfl rfl
theorem dksX11_go_2 : cX11_go.data.toList.drop 46 = dktX11_go_2 := dk_seg dksX11_go_1 24 rfl rfl
theorem dksX11_go_3 : cX11_go.data.toList.drop 68 = dktX11_go_3 := dk_seg dksX11_go_2 22 rfl rfl
theorem dksX11_go_4 : cX11_go.data.toList.drop 92 = dktX11_go_4 := dk_seg dksX11_go_3 24 rfl rfl
theorem dksX11_go_5 : cX11_go.data.toList.drop 114 = dktX11_go_5 := dk_seg dksX11_go_4 22 rfl rfl
theorem dksX11_go_6 : cX11_go.data.toList.drop 138 = dktX11_go_6 := dk_seg dksX11_go_5 24 rfl rfl
theorem dksX11_go_7 : cX11_go.data.toList.drop 162 = dktX11_go_7 := dk_seg dksX11_go_6 24 rfl rfl
theorem dksX11_go_8 : cX11_go.data.toList.drop 184 = dktX11_go_8 := dk_seg dksX11_go_7 22 rfl rfl
theorem dksX11_go_9 : cX11_go.data.toList.drop 207 = dktX11_go_9 := dk_seg dksX11_go_8 23 rfl rfl
theorem dksX11_go_10 : cX11_go.data.toList.drop 231 = dktX11_go_10 := dk_seg dksX11_go_9 24 rfl rfl
theorem dksX11_go_11 : cX11_go.data.toList.drop 255 = dktX11_go_11 := dk_seg dksX11_go_10 24 rfl rfl
theorem dksX11_go_12 : cX11_go.data.toList.drop 278 = dktX11_go_12 := dk_seg dksX11_go_11 23 rfl rfl
theorem dksX11_go_13 : cX11_go.data.toList.drop 300 = dktX11_go_13 := dk_seg dksX11_go_12 22 rfl rfl
theorem dksX11_go_14 : cX11_go.data.toList.drop 324 = dktX11_go_14 := dk_seg dksX11_go_13 24 rfl rfl
theorem dksX11_go_15 : cX11_go.data.toList.drop 347 = dktX11_go_15 := dk_seg dksX11_go_14 23 rfl rfl
theorem dksX11_go_16 : cX11_go.data.toList.drop 370 = dktX11_go_16 := dk_seg dksX11_go_15 23 rfl rfl
theorem dX11_go_0 : decode cX11_go 0 = .ok (.aload_n 0, 1) := dk_42 (dk_at dksX11_go_0 0 rfl rfl)
theorem dX11_go_1 : decode cX11_go 1 = .ok (.getfield 119, 3) := dk_180 0 119 (dk_at dksX11_go_0 1 rfl rfl)
theorem dX11_go_4 : decode cX11_go 4 = .ok (.aload_n 0, 1) := dk_42 (dk_at dksX11_go_0 4 rfl rfl)
theorem dX11_go_5 : decode cX11_go 5 = .ok (.getfield 116, 3) := dk_180 0 116 (dk_at dksX11_go_0 5 rfl rfl)
theorem dX11_go_8 : decode cX11_go 8 = .ok (.if_icmp .ge 44, 3) := dk_162 0 44 (dk_at dksX11_go_0 8 rfl rfl)
theorem dX11_go_11 : decode cX11_go 11 = .ok (.aload_n 0, 1) := dk_42 (dk_at dksX11_go_0 11 rfl rfl)
theorem dX11_go_12 : decode cX11_go 12 = .ok (.getfield 7, 3) := dk_180 0 7 (dk_at dksX11_go_0 12 rfl rfl)
theorem dX11_go_15 : decode cX11_go 15 = .ok (.aload_n 0, 1) := dk_42 (dk_at dksX11_go_0 15 rfl rfl)
theorem dX11_go_16 : decode cX11_go 16 = .ok (.getfield 119, 3) := dk_180 0 119 (dk_at dksX11_go_0 16 rfl rfl)
theorem dX11_go_19 : decode cX11_go 19 = .ok (.iaload, 1) := dk_46 (dk_at dksX11_go_0 19 rfl rfl)
theorem dX11_go_20 : decode cX11_go 20 = .ok (.bipush 32, 2) := dk_16 32 (dk_at dksX11_go_0 20 rfl rfl)
theorem dX11_go_22 : decode cX11_go 22 = .ok (.if_icmp .eq 17, 3) := dk_159 0 17 (dk_at dksX11_go_1 0 rfl rfl)
theorem dX11_go_25 : decode cX11_go 25 = .ok (.aload_n 0, 1) := dk_42 (dk_at dksX11_go_1 3 rfl rfl)
theorem dX11_go_26 : decode cX11_go 26 = .ok (.getfield 7, 3) := dk_180 0 7 (dk_at dksX11_go_1 4 rfl rfl)
theorem dX11_go_29 : decode cX11_go 29 = .ok (.aload_n 0, 1) := dk_42 (dk_at dksX11_go_1 7 rfl rfl)
theorem dX11_go_30 : decode cX11_go 30 = .ok (.getfield 119, 3) := dk_180 0 119 (dk_at dksX11_go_1 8 rfl rfl)
theorem dX11_go_33 : decode cX11_go 33 = .ok (.iaload, 1) := dk_46 (dk_at dksX11_go_1 11 rfl rfl)
theorem dX11_go_34 : decode cX11_go 34 = .ok (.bipush 10, 2) := dk_16 10 (dk_at dksX11_go_1 12 rfl rfl)
theorem dX11_go_36 : decode cX11_go 36 = .ok (.if_icmp .ne 16, 3) := dk_160 0 16 (dk_at dksX11_go_1 14 rfl rfl)
theorem dX11_go_39 : decode cX11_go 39 = .ok (.aload_n 0, 1) := dk_42 (dk_at dksX11_go_1 17 rfl rfl)
theorem dX11_go_40 : decode cX11_go 40 = .ok (.dup, 1) := dk_89 (dk_at dksX11_go_1 18 rfl rfl)
theorem dX11_go_41 : decode cX11_go 41 = .ok (.getfield 119, 3) := dk_180 0 119 (dk_at dksX11_go_1 19 rfl rfl)
theorem dX11_go_44 : decode cX11_go 44 = .ok (.iconst 1, 1) := dk_4 (dk_at dksX11_go_1 22 rfl rfl)
theorem dX11_go_45 : decode cX11_go 45 = .ok (.iadd, 1) := dk_96 (dk_at dksX11_go_1 23 rfl rfl)
theorem dX11_go_46 : decode cX11_go 46 = .ok (.putfield 119, 3) := dk_181 0 119 (dk_at dksX11_go_2 0 rfl rfl)
theorem dX11_go_49 : decode cX11_go 49 = .ok (.goto (-49), 3) := dk_167 255 207 (dk_at dksX11_go_2 3 rfl rfl)
theorem dX11_go_52 : decode cX11_go 52 = .ok (.aload_n 0, 1) := dk_42 (dk_at dksX11_go_2 6 rfl rfl)
theorem dX11_go_53 : decode cX11_go 53 = .ok (.aload_n 0, 1) := dk_42 (dk_at dksX11_go_2 7 rfl rfl)
theorem dX11_go_54 : decode cX11_go 54 = .ok (.getfield 119, 3) := dk_180 0 119 (dk_at dksX11_go_2 8 rfl rfl)
theorem dX11_go_57 : decode cX11_go 57 = .ok (.putfield 122, 3) := dk_181 0 122 (dk_at dksX11_go_2 11 rfl rfl)
theorem dX11_go_60 : decode cX11_go 60 = .ok (.aload_n 0, 1) := dk_42 (dk_at dksX11_go_2 14 rfl rfl)
theorem dX11_go_61 : decode cX11_go 61 = .ok (.getfield 116, 3) := dk_180 0 116 (dk_at dksX11_go_2 15 rfl rfl)
theorem dX11_go_64 : decode cX11_go 64 = .ok (.aload_n 0, 1) := dk_42 (dk_at dksX11_go_2 18 rfl rfl)
theorem dX11_go_65 : decode cX11_go 65 = .ok (.getfield 125, 3) := dk_180 0 125 (dk_at dksX11_go_2 19 rfl rfl)
theorem dX11_go_68 : decode cX11_go 68 = .ok (.if_icmp .le 28, 3) := dk_164 0 28 (dk_at dksX11_go_3 0 rfl rfl)
theorem dX11_go_71 : decode cX11_go 71 = .ok (.aload_n 0, 1) := dk_42 (dk_at dksX11_go_3 3 rfl rfl)
theorem dX11_go_72 : decode cX11_go 72 = .ok (.getfield 122, 3) := dk_180 0 122 (dk_at dksX11_go_3 4 rfl rfl)
theorem dX11_go_75 : decode cX11_go 75 = .ok (.aload_n 0, 1) := dk_42 (dk_at dksX11_go_3 7 rfl rfl)
theorem dX11_go_76 : decode cX11_go 76 = .ok (.getfield 125, 3) := dk_180 0 125 (dk_at dksX11_go_3 8 rfl rfl)
theorem dX11_go_79 : decode cX11_go 79 = .ok (.if_icmp .lt 17, 3) := dk_161 0 17 (dk_at dksX11_go_3 11 rfl rfl)
theorem dX11_go_82 : decode cX11_go 82 = .ok (.aload_n 0, 1) := dk_42 (dk_at dksX11_go_3 14 rfl rfl)
theorem dX11_go_83 : decode cX11_go 83 = .ok (.aload_n 0, 1) := dk_42 (dk_at dksX11_go_3 15 rfl rfl)
theorem dX11_go_84 : decode cX11_go 84 = .ok (.getfield 125, 3) := dk_180 0 125 (dk_at dksX11_go_3 16 rfl rfl)
theorem dX11_go_87 : decode cX11_go 87 = .ok (.putfield 122, 3) := dk_181 0 122 (dk_at dksX11_go_3 19 rfl rfl)
theorem dX11_go_90 : decode cX11_go 90 = .ok (.aload_n 0, 1) := dk_42 (dk_at dksX11_go_3 22 rfl rfl)
theorem dX11_go_91 : decode cX11_go 91 = .ok (.iconst 1, 1) := dk_4 (dk_at dksX11_go_3 23 rfl rfl)
theorem dX11_go_92 : decode cX11_go 92 = .ok (.putfield 128, 3) := dk_181 0 128 (dk_at dksX11_go_4 0 rfl rfl)
theorem dX11_go_95 : decode cX11_go 95 = .ok (.return_, 1) := dk_177 (dk_at dksX11_go_4 3 rfl rfl)
theorem dX11_go_96 : decode cX11_go 96 = .ok (.aload_n 0, 1) := dk_42 (dk_at dksX11_go_4 4 rfl rfl)
theorem dX11_go_97 : decode cX11_go 97 = .ok (.getfield 119, 3) := dk_180 0 119 (dk_at dksX11_go_4 5 rfl rfl)
theorem dX11_go_100 : decode cX11_go 100 = .ok (.aload_n 0, 1) := dk_42 (dk_at dksX11_go_4 8 rfl rfl)
theorem dX11_go_101 : decode cX11_go 101 = .ok (.getfield 116, 3) := dk_180 0 116 (dk_at dksX11_go_4 9 rfl rfl)
theorem dX11_go_104 : decode cX11_go 104 = .ok (.if_icmp .lt 9, 3) := dk_161 0 9 (dk_at dksX11_go_4 12 rfl rfl)
theorem dX11_go_107 : decode cX11_go 107 = .ok (.aload_n 0, 1) := dk_42 (dk_at dksX11_go_4 15 rfl rfl)
theorem dX11_go_108 : decode cX11_go 108 = .ok (.iconst 0, 1) := dk_3 (dk_at dksX11_go_4 16 rfl rfl)
theorem dX11_go_109 : decode cX11_go 109 = .ok (.putfield 128, 3) := dk_181 0 128 (dk_at dksX11_go_4 17 rfl rfl)
theorem dX11_go_112 : decode cX11_go 112 = .ok (.return_, 1) := dk_177 (dk_at dksX11_go_4 20 rfl rfl)
theorem dX11_go_113 : decode cX11_go 113 = .ok (.aload_n 0, 1) := dk_42 (dk_at dksX11_go_4 21 rfl rfl)
theorem dX11_go_114 : decode cX11_go 114 = .ok (.getfield 7, 3) := dk_180 0 7 (dk_at dksX11_go_5 0 rfl rfl)
theorem dX11_go_117 : decode cX11_go 117 = .ok (.aload_n 0, 1) := dk_42 (dk_at dksX11_go_5 3 rfl rfl)
theorem dX11_go_118 : decode cX11_go 118 = .ok (.getfield 119, 3) := dk_180 0 119 (dk_at dksX11_go_5 4 rfl rfl)
theorem dX11_go_121 : decode cX11_go 121 = .ok (.iaload, 1) := dk_46 (dk_at dksX11_go_5 7 rfl rfl)
theorem dX11_go_122 : decode cX11_go 122 = .ok (.istore_n 1, 1) := dk_60 (dk_at dksX11_go_5 8 rfl rfl)
theorem dX11_go_123 : decode cX11_go 123 = .ok (.iload_n 1, 1) := dk_27 (dk_at dksX11_go_5 9 rfl rfl)
theorem dX11_go_124 : decode cX11_go 124 = .ok (.invokestatic 131, 3) := dk_184 0 131 (dk_at dksX11_go_5 10 rfl rfl)
theorem dX11_go_127 : decode cX11_go 127 = .ok (.ifCond .ne 71, 3) := dk_154 0 71 (dk_at dksX11_go_5 13 rfl rfl)
theorem dX11_go_130 : decode cX11_go 130 = .ok (.iload_n 1, 1) := dk_27 (dk_at dksX11_go_5 16 rfl rfl)
theorem dX11_go_131 : decode cX11_go 131 = .ok (.invokestatic 135, 3) := dk_184 0 135 (dk_at dksX11_go_5 17 rfl rfl)
theorem dX11_go_134 : decode cX11_go 134 = .ok (.ifCond .ne 64, 3) := dk_154 0 64 (dk_at dksX11_go_5 20 rfl rfl)
theorem dX11_go_137 : decode cX11_go 137 = .ok (.aload_n 0, 1) := dk_42 (dk_at dksX11_go_5 23 rfl rfl)
theorem dX11_go_138 : decode cX11_go 138 = .ok (.iload_n 1, 1) := dk_27 (dk_at dksX11_go_6 0 rfl rfl)
theorem dX11_go_139 : decode cX11_go 139 = .ok (.bipush 59, 2) := dk_16 59 (dk_at dksX11_go_6 1 rfl rfl)
theorem dX11_go_141 : decode cX11_go 141 = .ok (.if_icmp .eq 33, 3) := dk_159 0 33 (dk_at dksX11_go_6 3 rfl rfl)
theorem dX11_go_144 : decode cX11_go 144 = .ok (.iload_n 1, 1) := dk_27 (dk_at dksX11_go_6 6 rfl rfl)
theorem dX11_go_145 : decode cX11_go 145 = .ok (.bipush 60, 2) := dk_16 60 (dk_at dksX11_go_6 7 rfl rfl)
theorem dX11_go_147 : decode cX11_go 147 = .ok (.if_icmp .eq 27, 3) := dk_159 0 27 (dk_at dksX11_go_6 9 rfl rfl)
theorem dX11_go_150 : decode cX11_go 150 = .ok (.iload_n 1, 1) := dk_27 (dk_at dksX11_go_6 12 rfl rfl)
theorem dX11_go_151 : decode cX11_go 151 = .ok (.bipush 61, 2) := dk_16 61 (dk_at dksX11_go_6 13 rfl rfl)
theorem dX11_go_153 : decode cX11_go 153 = .ok (.if_icmp .eq 21, 3) := dk_159 0 21 (dk_at dksX11_go_6 15 rfl rfl)
theorem dX11_go_156 : decode cX11_go 156 = .ok (.iload_n 1, 1) := dk_27 (dk_at dksX11_go_6 18 rfl rfl)
theorem dX11_go_157 : decode cX11_go 157 = .ok (.bipush 62, 2) := dk_16 62 (dk_at dksX11_go_6 19 rfl rfl)
theorem dX11_go_159 : decode cX11_go 159 = .ok (.if_icmp .eq 15, 3) := dk_159 0 15 (dk_at dksX11_go_6 21 rfl rfl)
theorem dX11_go_162 : decode cX11_go 162 = .ok (.iload_n 1, 1) := dk_27 (dk_at dksX11_go_7 0 rfl rfl)
theorem dX11_go_163 : decode cX11_go 163 = .ok (.bipush 40, 2) := dk_16 40 (dk_at dksX11_go_7 1 rfl rfl)
theorem dX11_go_165 : decode cX11_go 165 = .ok (.if_icmp .eq 9, 3) := dk_159 0 9 (dk_at dksX11_go_7 3 rfl rfl)
theorem dX11_go_168 : decode cX11_go 168 = .ok (.iload_n 1, 1) := dk_27 (dk_at dksX11_go_7 6 rfl rfl)
theorem dX11_go_169 : decode cX11_go 169 = .ok (.bipush 41, 2) := dk_16 41 (dk_at dksX11_go_7 7 rfl rfl)
theorem dX11_go_171 : decode cX11_go 171 = .ok (.if_icmp .ne 7, 3) := dk_160 0 7 (dk_at dksX11_go_7 9 rfl rfl)
theorem dX11_go_174 : decode cX11_go 174 = .ok (.iconst 4, 1) := dk_7 (dk_at dksX11_go_7 12 rfl rfl)
theorem dX11_go_175 : decode cX11_go 175 = .ok (.goto 4, 3) := dk_167 0 4 (dk_at dksX11_go_7 13 rfl rfl)
theorem dX11_go_178 : decode cX11_go 178 = .ok (.iconst 1, 1) := dk_4 (dk_at dksX11_go_7 16 rfl rfl)
theorem dX11_go_179 : decode cX11_go 179 = .ok (.putfield 128, 3) := dk_181 0 128 (dk_at dksX11_go_7 17 rfl rfl)
theorem dX11_go_182 : decode cX11_go 182 = .ok (.aload_n 0, 1) := dk_42 (dk_at dksX11_go_7 20 rfl rfl)
theorem dX11_go_183 : decode cX11_go 183 = .ok (.iload_n 1, 1) := dk_27 (dk_at dksX11_go_7 21 rfl rfl)
theorem dX11_go_184 : decode cX11_go 184 = .ok (.putfield 138, 3) := dk_181 0 138 (dk_at dksX11_go_8 0 rfl rfl)
theorem dX11_go_187 : decode cX11_go 187 = .ok (.aload_n 0, 1) := dk_42 (dk_at dksX11_go_8 3 rfl rfl)
theorem dX11_go_188 : decode cX11_go 188 = .ok (.dup, 1) := dk_89 (dk_at dksX11_go_8 4 rfl rfl)
theorem dX11_go_189 : decode cX11_go 189 = .ok (.getfield 119, 3) := dk_180 0 119 (dk_at dksX11_go_8 5 rfl rfl)
theorem dX11_go_192 : decode cX11_go 192 = .ok (.iconst 1, 1) := dk_4 (dk_at dksX11_go_8 8 rfl rfl)
theorem dX11_go_193 : decode cX11_go 193 = .ok (.iadd, 1) := dk_96 (dk_at dksX11_go_8 9 rfl rfl)
theorem dX11_go_194 : decode cX11_go 194 = .ok (.putfield 119, 3) := dk_181 0 119 (dk_at dksX11_go_8 10 rfl rfl)
theorem dX11_go_197 : decode cX11_go 197 = .ok (.return_, 1) := dk_177 (dk_at dksX11_go_8 13 rfl rfl)
theorem dX11_go_198 : decode cX11_go 198 = .ok (.iload_n 1, 1) := dk_27 (dk_at dksX11_go_8 14 rfl rfl)
theorem dX11_go_199 : decode cX11_go 199 = .ok (.invokestatic 131, 3) := dk_184 0 131 (dk_at dksX11_go_8 15 rfl rfl)
theorem dX11_go_202 : decode cX11_go 202 = .ok (.istore_n 2, 1) := dk_61 (dk_at dksX11_go_8 18 rfl rfl)
theorem dX11_go_203 : decode cX11_go 203 = .ok (.iconst 1, 1) := dk_4 (dk_at dksX11_go_8 19 rfl rfl)
theorem dX11_go_204 : decode cX11_go 204 = .ok (.istore_n 3, 1) := dk_62 (dk_at dksX11_go_8 20 rfl rfl)
theorem dX11_go_205 : decode cX11_go 205 = .ok (.aload_n 0, 1) := dk_42 (dk_at dksX11_go_8 21 rfl rfl)
theorem dX11_go_206 : decode cX11_go 206 = .ok (.lconst 0, 1) := dk_9 (dk_at dksX11_go_8 22 rfl rfl)
theorem dX11_go_207 : decode cX11_go 207 = .ok (.putfield 141, 3) := dk_181 0 141 (dk_at dksX11_go_9 0 rfl rfl)
theorem dX11_go_210 : decode cX11_go 210 = .ok (.aload_n 0, 1) := dk_42 (dk_at dksX11_go_9 3 rfl rfl)
theorem dX11_go_211 : decode cX11_go 211 = .ok (.iconst 0, 1) := dk_3 (dk_at dksX11_go_9 4 rfl rfl)
theorem dX11_go_212 : decode cX11_go 212 = .ok (.putfield 145, 3) := dk_181 0 145 (dk_at dksX11_go_9 5 rfl rfl)
theorem dX11_go_215 : decode cX11_go 215 = .ok (.aload_n 0, 1) := dk_42 (dk_at dksX11_go_9 8 rfl rfl)
theorem dX11_go_216 : decode cX11_go 216 = .ok (.aload_n 0, 1) := dk_42 (dk_at dksX11_go_9 9 rfl rfl)
theorem dX11_go_217 : decode cX11_go 217 = .ok (.getfield 119, 3) := dk_180 0 119 (dk_at dksX11_go_9 10 rfl rfl)
theorem dX11_go_220 : decode cX11_go 220 = .ok (.invokevirtual 148, 3) := dk_182 0 148 (dk_at dksX11_go_9 13 rfl rfl)
theorem dX11_go_223 : decode cX11_go 223 = .ok (.invokestatic 131, 3) := dk_184 0 131 (dk_at dksX11_go_9 16 rfl rfl)
theorem dX11_go_226 : decode cX11_go 226 = .ok (.ifCond .ne 17, 3) := dk_154 0 17 (dk_at dksX11_go_9 19 rfl rfl)
theorem dX11_go_229 : decode cX11_go 229 = .ok (.aload_n 0, 1) := dk_42 (dk_at dksX11_go_9 22 rfl rfl)
theorem dX11_go_230 : decode cX11_go 230 = .ok (.aload_n 0, 1) := dk_42 (dk_at dksX11_go_9 23 rfl rfl)
theorem dX11_go_231 : decode cX11_go 231 = .ok (.getfield 119, 3) := dk_180 0 119 (dk_at dksX11_go_10 0 rfl rfl)
theorem dX11_go_234 : decode cX11_go 234 = .ok (.invokevirtual 148, 3) := dk_182 0 148 (dk_at dksX11_go_10 3 rfl rfl)
theorem dX11_go_237 : decode cX11_go 237 = .ok (.invokestatic 135, 3) := dk_184 0 135 (dk_at dksX11_go_10 6 rfl rfl)
theorem dX11_go_240 : decode cX11_go 240 = .ok (.ifCond .eq 110, 3) := dk_153 0 110 (dk_at dksX11_go_10 9 rfl rfl)
theorem dX11_go_243 : decode cX11_go 243 = .ok (.aload_n 0, 1) := dk_42 (dk_at dksX11_go_10 12 rfl rfl)
theorem dX11_go_244 : decode cX11_go 244 = .ok (.getfield 7, 3) := dk_180 0 7 (dk_at dksX11_go_10 13 rfl rfl)
theorem dX11_go_247 : decode cX11_go 247 = .ok (.aload_n 0, 1) := dk_42 (dk_at dksX11_go_10 16 rfl rfl)
theorem dX11_go_248 : decode cX11_go 248 = .ok (.getfield 119, 3) := dk_180 0 119 (dk_at dksX11_go_10 17 rfl rfl)
theorem dX11_go_251 : decode cX11_go 251 = .ok (.iaload, 1) := dk_46 (dk_at dksX11_go_10 20 rfl rfl)
theorem dX11_go_252 : decode cX11_go 252 = .ok (.istore 4, 2) := dk_54 4 (dk_at dksX11_go_10 21 rfl rfl)
theorem dX11_go_254 : decode cX11_go 254 = .ok (.iload_n 3, 1) := dk_29 (dk_at dksX11_go_10 23 rfl rfl)
theorem dX11_go_255 : decode cX11_go 255 = .ok (.ifCond .eq 16, 3) := dk_153 0 16 (dk_at dksX11_go_11 0 rfl rfl)
theorem dX11_go_258 : decode cX11_go 258 = .ok (.iload 4, 2) := dk_21 4 (dk_at dksX11_go_11 3 rfl rfl)
theorem dX11_go_260 : decode cX11_go 260 = .ok (.invokestatic 131, 3) := dk_184 0 131 (dk_at dksX11_go_11 5 rfl rfl)
theorem dX11_go_263 : decode cX11_go 263 = .ok (.iload_n 2, 1) := dk_28 (dk_at dksX11_go_11 8 rfl rfl)
theorem dX11_go_264 : decode cX11_go 264 = .ok (.if_icmp .ne 7, 3) := dk_160 0 7 (dk_at dksX11_go_11 9 rfl rfl)
theorem dX11_go_267 : decode cX11_go 267 = .ok (.iconst 1, 1) := dk_4 (dk_at dksX11_go_11 12 rfl rfl)
theorem dX11_go_268 : decode cX11_go 268 = .ok (.goto 4, 3) := dk_167 0 4 (dk_at dksX11_go_11 13 rfl rfl)
theorem dX11_go_271 : decode cX11_go 271 = .ok (.iconst 0, 1) := dk_3 (dk_at dksX11_go_11 16 rfl rfl)
theorem dX11_go_272 : decode cX11_go 272 = .ok (.istore_n 3, 1) := dk_62 (dk_at dksX11_go_11 17 rfl rfl)
theorem dX11_go_273 : decode cX11_go 273 = .ok (.aload_n 0, 1) := dk_42 (dk_at dksX11_go_11 18 rfl rfl)
theorem dX11_go_274 : decode cX11_go 274 = .ok (.getfield 119, 3) := dk_180 0 119 (dk_at dksX11_go_11 19 rfl rfl)
theorem dX11_go_277 : decode cX11_go 277 = .ok (.aload_n 0, 1) := dk_42 (dk_at dksX11_go_11 22 rfl rfl)
theorem dX11_go_278 : decode cX11_go 278 = .ok (.getfield 122, 3) := dk_180 0 122 (dk_at dksX11_go_12 0 rfl rfl)
theorem dX11_go_281 : decode cX11_go 281 = .ok (.isub, 1) := dk_100 (dk_at dksX11_go_12 3 rfl rfl)
theorem dX11_go_282 : decode cX11_go 282 = .ok (.bipush 7, 2) := dk_16 7 (dk_at dksX11_go_12 4 rfl rfl)
theorem dX11_go_284 : decode cX11_go 284 = .ok (.if_icmp .ge 23, 3) := dk_162 0 23 (dk_at dksX11_go_12 6 rfl rfl)
theorem dX11_go_287 : decode cX11_go 287 = .ok (.aload_n 0, 1) := dk_42 (dk_at dksX11_go_12 9 rfl rfl)
theorem dX11_go_288 : decode cX11_go 288 = .ok (.ldc2_w 152, 3) := dk_20 0 152 (dk_at dksX11_go_12 10 rfl rfl)
theorem dX11_go_291 : decode cX11_go 291 = .ok (.aload_n 0, 1) := dk_42 (dk_at dksX11_go_12 13 rfl rfl)
theorem dX11_go_292 : decode cX11_go 292 = .ok (.getfield 141, 3) := dk_180 0 141 (dk_at dksX11_go_12 14 rfl rfl)
theorem dX11_go_295 : decode cX11_go 295 = .ok (.lmul, 1) := dk_105 (dk_at dksX11_go_12 17 rfl rfl)
theorem dX11_go_296 : decode cX11_go 296 = .ok (.iload 4, 2) := dk_21 4 (dk_at dksX11_go_12 18 rfl rfl)
theorem dX11_go_298 : decode cX11_go 298 = .ok (.i2l, 1) := dk_133 (dk_at dksX11_go_12 20 rfl rfl)
theorem dX11_go_299 : decode cX11_go 299 = .ok (.ladd, 1) := dk_97 (dk_at dksX11_go_12 21 rfl rfl)
theorem dX11_go_300 : decode cX11_go 300 = .ok (.ldc2_w 154, 3) := dk_20 0 154 (dk_at dksX11_go_13 0 rfl rfl)
theorem dX11_go_303 : decode cX11_go 303 = .ok (.lsub, 1) := dk_101 (dk_at dksX11_go_13 3 rfl rfl)
theorem dX11_go_304 : decode cX11_go 304 = .ok (.putfield 141, 3) := dk_181 0 141 (dk_at dksX11_go_13 4 rfl rfl)
theorem dX11_go_307 : decode cX11_go 307 = .ok (.aload_n 0, 1) := dk_42 (dk_at dksX11_go_13 7 rfl rfl)
theorem dX11_go_308 : decode cX11_go 308 = .ok (.getfield 119, 3) := dk_180 0 119 (dk_at dksX11_go_13 8 rfl rfl)
theorem dX11_go_311 : decode cX11_go 311 = .ok (.aload_n 0, 1) := dk_42 (dk_at dksX11_go_13 11 rfl rfl)
theorem dX11_go_312 : decode cX11_go 312 = .ok (.getfield 122, 3) := dk_180 0 122 (dk_at dksX11_go_13 12 rfl rfl)
theorem dX11_go_315 : decode cX11_go 315 = .ok (.isub, 1) := dk_100 (dk_at dksX11_go_13 15 rfl rfl)
theorem dX11_go_316 : decode cX11_go 316 = .ok (.iconst 3, 1) := dk_6 (dk_at dksX11_go_13 16 rfl rfl)
theorem dX11_go_317 : decode cX11_go 317 = .ok (.if_icmp .ge 20, 3) := dk_162 0 20 (dk_at dksX11_go_13 17 rfl rfl)
theorem dX11_go_320 : decode cX11_go 320 = .ok (.aload_n 0, 1) := dk_42 (dk_at dksX11_go_13 20 rfl rfl)
theorem dX11_go_321 : decode cX11_go 321 = .ok (.bipush 10, 2) := dk_16 10 (dk_at dksX11_go_13 21 rfl rfl)
theorem dX11_go_323 : decode cX11_go 323 = .ok (.aload_n 0, 1) := dk_42 (dk_at dksX11_go_13 23 rfl rfl)
theorem dX11_go_324 : decode cX11_go 324 = .ok (.getfield 145, 3) := dk_180 0 145 (dk_at dksX11_go_14 0 rfl rfl)
theorem dX11_go_327 : decode cX11_go 327 = .ok (.imul, 1) := dk_104 (dk_at dksX11_go_14 3 rfl rfl)
theorem dX11_go_328 : decode cX11_go 328 = .ok (.iload 4, 2) := dk_21 4 (dk_at dksX11_go_14 4 rfl rfl)
theorem dX11_go_330 : decode cX11_go 330 = .ok (.iadd, 1) := dk_96 (dk_at dksX11_go_14 6 rfl rfl)
theorem dX11_go_331 : decode cX11_go 331 = .ok (.bipush 48, 2) := dk_16 48 (dk_at dksX11_go_14 7 rfl rfl)
theorem dX11_go_333 : decode cX11_go 333 = .ok (.isub, 1) := dk_100 (dk_at dksX11_go_14 9 rfl rfl)
theorem dX11_go_334 : decode cX11_go 334 = .ok (.putfield 145, 3) := dk_181 0 145 (dk_at dksX11_go_14 10 rfl rfl)
theorem dX11_go_337 : decode cX11_go 337 = .ok (.aload_n 0, 1) := dk_42 (dk_at dksX11_go_14 13 rfl rfl)
theorem dX11_go_338 : decode cX11_go 338 = .ok (.dup, 1) := dk_89 (dk_at dksX11_go_14 14 rfl rfl)
theorem dX11_go_339 : decode cX11_go 339 = .ok (.getfield 119, 3) := dk_180 0 119 (dk_at dksX11_go_14 15 rfl rfl)
theorem dX11_go_342 : decode cX11_go 342 = .ok (.iconst 1, 1) := dk_4 (dk_at dksX11_go_14 18 rfl rfl)
theorem dX11_go_343 : decode cX11_go 343 = .ok (.iadd, 1) := dk_96 (dk_at dksX11_go_14 19 rfl rfl)
theorem dX11_go_344 : decode cX11_go 344 = .ok (.putfield 119, 3) := dk_181 0 119 (dk_at dksX11_go_14 20 rfl rfl)
theorem dX11_go_347 : decode cX11_go 347 = .ok (.goto (-132), 3) := dk_167 255 124 (dk_at dksX11_go_15 0 rfl rfl)
theorem dX11_go_350 : decode cX11_go 350 = .ok (.aload_n 0, 1) := dk_42 (dk_at dksX11_go_15 3 rfl rfl)
theorem dX11_go_351 : decode cX11_go 351 = .ok (.iload_n 3, 1) := dk_29 (dk_at dksX11_go_15 4 rfl rfl)
theorem dX11_go_352 : decode cX11_go 352 = .ok (.ifCond .eq 25, 3) := dk_153 0 25 (dk_at dksX11_go_15 5 rfl rfl)
theorem dX11_go_355 : decode cX11_go 355 = .ok (.aload_n 0, 1) := dk_42 (dk_at dksX11_go_15 8 rfl rfl)
theorem dX11_go_356 : decode cX11_go 356 = .ok (.getfield 119, 3) := dk_180 0 119 (dk_at dksX11_go_15 9 rfl rfl)
theorem dX11_go_359 : decode cX11_go 359 = .ok (.aload_n 0, 1) := dk_42 (dk_at dksX11_go_15 12 rfl rfl)
theorem dX11_go_360 : decode cX11_go 360 = .ok (.getfield 122, 3) := dk_180 0 122 (dk_at dksX11_go_15 13 rfl rfl)
theorem dX11_go_363 : decode cX11_go 363 = .ok (.isub, 1) := dk_100 (dk_at dksX11_go_15 16 rfl rfl)
theorem dX11_go_364 : decode cX11_go 364 = .ok (.iload_n 2, 1) := dk_28 (dk_at dksX11_go_15 17 rfl rfl)
theorem dX11_go_365 : decode cX11_go 365 = .ok (.ifCond .eq 8, 3) := dk_153 0 8 (dk_at dksX11_go_15 18 rfl rfl)
theorem dX11_go_368 : decode cX11_go 368 = .ok (.bipush 7, 2) := dk_16 7 (dk_at dksX11_go_15 21 rfl rfl)
theorem dX11_go_370 : decode cX11_go 370 = .ok (.goto 4, 3) := dk_167 0 4 (dk_at dksX11_go_16 0 rfl rfl)
theorem dX11_go_373 : decode cX11_go 373 = .ok (.iconst 3, 1) := dk_6 (dk_at dksX11_go_16 3 rfl rfl)
theorem dX11_go_374 : decode cX11_go 374 = .ok (.if_icmp .le 7, 3) := dk_164 0 7 (dk_at dksX11_go_16 4 rfl rfl)
theorem dX11_go_377 : decode cX11_go 377 = .ok (.iconst 1, 1) := dk_4 (dk_at dksX11_go_16 7 rfl rfl)
theorem dX11_go_378 : decode cX11_go 378 = .ok (.goto 12, 3) := dk_167 0 12 (dk_at dksX11_go_16 8 rfl rfl)
theorem dX11_go_381 : decode cX11_go 381 = .ok (.iload_n 2, 1) := dk_28 (dk_at dksX11_go_16 11 rfl rfl)
theorem dX11_go_382 : decode cX11_go 382 = .ok (.ifCond .eq 7, 3) := dk_153 0 7 (dk_at dksX11_go_16 12 rfl rfl)
theorem dX11_go_385 : decode cX11_go 385 = .ok (.iconst 2, 1) := dk_5 (dk_at dksX11_go_16 15 rfl rfl)
theorem dX11_go_386 : decode cX11_go 386 = .ok (.goto 4, 3) := dk_167 0 4 (dk_at dksX11_go_16 16 rfl rfl)
theorem dX11_go_389 : decode cX11_go 389 = .ok (.iconst 3, 1) := dk_6 (dk_at dksX11_go_16 19 rfl rfl)
theorem dX11_go_390 : decode cX11_go 390 = .ok (.putfield 128, 3) := dk_181 0 128 (dk_at dksX11_go_16 20 rfl rfl)
theorem dX11_go_393 : decode cX11_go 393 = .ok (.return_, 1) := dk_177 (dk_at dksX11_go_16 23 rfl rfl)
abbrev cX11_isLetter : ByteArray := prog_21_method_12_code
def yX11_isLetter : MethodName := ⟨RX11, "isLetter", "(I)Z"⟩
def dkwX11_isLetter_0 : List UInt8 := [26, 16, 97, 161, 0, 13, 26, 16, 122, 163, 0, 7, 4, 167, 0, 4, 3, 172]
abbrev dktX11_isLetter_0 : List UInt8 := dkwX11_isLetter_0 ++ []
theorem dksX11_isLetter_0 : cX11_isLetter.data.toList.drop 0 = dktX11_isLetter_0 := by decide +kernel
theorem dX11_isLetter_0 : decode cX11_isLetter 0 = .ok (.iload_n 0, 1) := dk_26 (dk_at dksX11_isLetter_0 0 rfl rfl)
theorem dX11_isLetter_1 : decode cX11_isLetter 1 = .ok (.bipush 97, 2) := dk_16 97 (dk_at dksX11_isLetter_0 1 rfl rfl)
theorem dX11_isLetter_3 : decode cX11_isLetter 3 = .ok (.if_icmp .lt 13, 3) := dk_161 0 13 (dk_at dksX11_isLetter_0 3 rfl rfl)
theorem dX11_isLetter_6 : decode cX11_isLetter 6 = .ok (.iload_n 0, 1) := dk_26 (dk_at dksX11_isLetter_0 6 rfl rfl)
theorem dX11_isLetter_7 : decode cX11_isLetter 7 = .ok (.bipush 122, 2) := dk_16 122 (dk_at dksX11_isLetter_0 7 rfl rfl)
theorem dX11_isLetter_9 : decode cX11_isLetter 9 = .ok (.if_icmp .gt 7, 3) := dk_163 0 7 (dk_at dksX11_isLetter_0 9 rfl rfl)
theorem dX11_isLetter_12 : decode cX11_isLetter 12 = .ok (.iconst 1, 1) := dk_4 (dk_at dksX11_isLetter_0 12 rfl rfl)
theorem dX11_isLetter_13 : decode cX11_isLetter 13 = .ok (.goto 4, 3) := dk_167 0 4 (dk_at dksX11_isLetter_0 13 rfl rfl)
theorem dX11_isLetter_16 : decode cX11_isLetter 16 = .ok (.iconst 0, 1) := dk_3 (dk_at dksX11_isLetter_0 16 rfl rfl)
theorem dX11_isLetter_17 : decode cX11_isLetter 17 = .ok (.ireturn, 1) := dk_172 (dk_at dksX11_isLetter_0 17 rfl rfl)
abbrev cX11_isDigit : ByteArray := prog_21_method_11_code
def yX11_isDigit : MethodName := ⟨RX11, "isDigit", "(I)Z"⟩
def dkwX11_isDigit_0 : List UInt8 := [26, 16, 48, 161, 0, 13, 26, 16, 57, 163, 0, 7, 4, 167, 0, 4, 3, 172]
abbrev dktX11_isDigit_0 : List UInt8 := dkwX11_isDigit_0 ++ []
theorem dksX11_isDigit_0 : cX11_isDigit.data.toList.drop 0 = dktX11_isDigit_0 := by decide +kernel
theorem dX11_isDigit_0 : decode cX11_isDigit 0 = .ok (.iload_n 0, 1) := dk_26 (dk_at dksX11_isDigit_0 0 rfl rfl)
theorem dX11_isDigit_1 : decode cX11_isDigit 1 = .ok (.bipush 48, 2) := dk_16 48 (dk_at dksX11_isDigit_0 1 rfl rfl)
theorem dX11_isDigit_3 : decode cX11_isDigit 3 = .ok (.if_icmp .lt 13, 3) := dk_161 0 13 (dk_at dksX11_isDigit_0 3 rfl rfl)
theorem dX11_isDigit_6 : decode cX11_isDigit 6 = .ok (.iload_n 0, 1) := dk_26 (dk_at dksX11_isDigit_0 6 rfl rfl)
theorem dX11_isDigit_7 : decode cX11_isDigit 7 = .ok (.bipush 57, 2) := dk_16 57 (dk_at dksX11_isDigit_0 7 rfl rfl)
theorem dX11_isDigit_9 : decode cX11_isDigit 9 = .ok (.if_icmp .gt 7, 3) := dk_163 0 7 (dk_at dksX11_isDigit_0 9 rfl rfl)
theorem dX11_isDigit_12 : decode cX11_isDigit 12 = .ok (.iconst 1, 1) := dk_4 (dk_at dksX11_isDigit_0 12 rfl rfl)
theorem dX11_isDigit_13 : decode cX11_isDigit 13 = .ok (.goto 4, 3) := dk_167 0 4 (dk_at dksX11_isDigit_0 13 rfl rfl)
theorem dX11_isDigit_16 : decode cX11_isDigit 16 = .ok (.iconst 0, 1) := dk_3 (dk_at dksX11_isDigit_0 16 rfl rfl)
theorem dX11_isDigit_17 : decode cX11_isDigit 17 = .ok (.ireturn, 1) := dk_172 (dk_at dksX11_isDigit_0 17 rfl rfl)
abbrev cX11_byteAt : ByteArray := prog_21_method_10_code
def yX11_byteAt : MethodName := ⟨RX11, "byteAt", "(I)I"⟩
def dkwX11_byteAt_0 : List UInt8 := [27, 42, 180, 0, 116, 162, 0, 12, 42, 180, 0, 7, 27, 46, 167, 0, 4, 3, 172]
abbrev dktX11_byteAt_0 : List UInt8 := dkwX11_byteAt_0 ++ []
theorem dksX11_byteAt_0 : cX11_byteAt.data.toList.drop 0 = dktX11_byteAt_0 := by decide +kernel
theorem dX11_byteAt_0 : decode cX11_byteAt 0 = .ok (.iload_n 1, 1) := dk_27 (dk_at dksX11_byteAt_0 0 rfl rfl)
theorem dX11_byteAt_1 : decode cX11_byteAt 1 = .ok (.aload_n 0, 1) := dk_42 (dk_at dksX11_byteAt_0 1 rfl rfl)
theorem dX11_byteAt_2 : decode cX11_byteAt 2 = .ok (.getfield 116, 3) := dk_180 0 116 (dk_at dksX11_byteAt_0 2 rfl rfl)
theorem dX11_byteAt_5 : decode cX11_byteAt 5 = .ok (.if_icmp .ge 12, 3) := dk_162 0 12 (dk_at dksX11_byteAt_0 5 rfl rfl)
theorem dX11_byteAt_8 : decode cX11_byteAt 8 = .ok (.aload_n 0, 1) := dk_42 (dk_at dksX11_byteAt_0 8 rfl rfl)
theorem dX11_byteAt_9 : decode cX11_byteAt 9 = .ok (.getfield 7, 3) := dk_180 0 7 (dk_at dksX11_byteAt_0 9 rfl rfl)
theorem dX11_byteAt_12 : decode cX11_byteAt 12 = .ok (.iload_n 1, 1) := dk_27 (dk_at dksX11_byteAt_0 12 rfl rfl)
theorem dX11_byteAt_13 : decode cX11_byteAt 13 = .ok (.iaload, 1) := dk_46 (dk_at dksX11_byteAt_0 13 rfl rfl)
theorem dX11_byteAt_14 : decode cX11_byteAt 14 = .ok (.goto 4, 3) := dk_167 0 4 (dk_at dksX11_byteAt_0 14 rfl rfl)
theorem dX11_byteAt_17 : decode cX11_byteAt 17 = .ok (.iconst 0, 1) := dk_3 (dk_at dksX11_byteAt_0 17 rfl rfl)
theorem dX11_byteAt_18 : decode cX11_byteAt 18 = .ok (.ireturn, 1) := dk_172 (dk_at dksX11_byteAt_0 18 rfl rfl)
abbrev cX11_readLine : ByteArray := prog_21_method_32_code
def yX11_readLine : MethodName := ⟨RX11, "readLine", "()Z"⟩
def dkwX11_readLine_5 : List UInt8 := [3, 172]
abbrev dktX11_readLine_5 : List UInt8 := dkwX11_readLine_5 ++ []
def dkwX11_readLine_4 : List UInt8 := [167, 0, 8, 42, 4, 182, 0, 174, 60, 27, 153, 0, 14, 42, 182, 0, 233, 153, 0, 7, 4, 167, 0, 4]
abbrev dktX11_readLine_4 : List UInt8 := dkwX11_readLine_4 ++ dktX11_readLine_5
def dkwX11_readLine_3 : List UInt8 := [42, 7, 182, 0, 230, 60, 167, 0, 25, 42, 8, 182, 0, 209, 153, 0, 11, 42, 8, 182, 0, 230]
abbrev dktX11_readLine_3 : List UInt8 := dkwX11_readLine_3 ++ dktX11_readLine_4
def dkwX11_readLine_2 : List UInt8 := [42, 6, 182, 0, 209, 153, 0, 11, 42, 182, 0, 227, 60, 167, 0, 42, 42, 7, 182, 0, 209, 153, 0, 12]
abbrev dktX11_readLine_2 : List UInt8 := dkwX11_readLine_2 ++ dktX11_readLine_3
def dkwX11_readLine_1 : List UInt8 := [42, 182, 0, 221, 60, 167, 0, 74, 42, 5, 182, 0, 209, 153, 0, 11, 42, 182, 0, 224, 60, 167, 0, 58]
abbrev dktX11_readLine_1 : List UInt8 := dkwX11_readLine_1 ++ dktX11_readLine_2
def dkwX11_readLine_0 : List UInt8 := [42, 3, 182, 0, 209, 153, 0, 11, 42, 182, 0, 218, 60, 167, 0, 90, 42, 4, 182, 0, 209, 153, 0, 11]
abbrev dktX11_readLine_0 : List UInt8 := dkwX11_readLine_0 ++ dktX11_readLine_1
theorem dksX11_readLine_0 : cX11_readLine.data.toList.drop 0 = dktX11_readLine_0 := by decide +kernel
theorem dksX11_readLine_1 : cX11_readLine.data.toList.drop 24 = dktX11_readLine_1 := dk_seg dksX11_readLine_0 24 rfl rfl
theorem dksX11_readLine_2 : cX11_readLine.data.toList.drop 48 = dktX11_readLine_2 := dk_seg dksX11_readLine_1 24 rfl rfl
theorem dksX11_readLine_3 : cX11_readLine.data.toList.drop 72 = dktX11_readLine_3 := dk_seg dksX11_readLine_2 24 rfl rfl
theorem dksX11_readLine_4 : cX11_readLine.data.toList.drop 94 = dktX11_readLine_4 := dk_seg dksX11_readLine_3 22 rfl rfl
theorem dksX11_readLine_5 : cX11_readLine.data.toList.drop 118 = dktX11_readLine_5 := dk_seg dksX11_readLine_4 24 rfl rfl
theorem dX11_readLine_0 : decode cX11_readLine 0 = .ok (.aload_n 0, 1) := dk_42 (dk_at dksX11_readLine_0 0 rfl rfl)
theorem dX11_readLine_1 : decode cX11_readLine 1 = .ok (.iconst 0, 1) := dk_3 (dk_at dksX11_readLine_0 1 rfl rfl)
theorem dX11_readLine_2 : decode cX11_readLine 2 = .ok (.invokevirtual 209, 3) := dk_182 0 209 (dk_at dksX11_readLine_0 2 rfl rfl)
theorem dX11_readLine_5 : decode cX11_readLine 5 = .ok (.ifCond .eq 11, 3) := dk_153 0 11 (dk_at dksX11_readLine_0 5 rfl rfl)
theorem dX11_readLine_8 : decode cX11_readLine 8 = .ok (.aload_n 0, 1) := dk_42 (dk_at dksX11_readLine_0 8 rfl rfl)
theorem dX11_readLine_9 : decode cX11_readLine 9 = .ok (.invokevirtual 218, 3) := dk_182 0 218 (dk_at dksX11_readLine_0 9 rfl rfl)
theorem dX11_readLine_12 : decode cX11_readLine 12 = .ok (.istore_n 1, 1) := dk_60 (dk_at dksX11_readLine_0 12 rfl rfl)
theorem dX11_readLine_13 : decode cX11_readLine 13 = .ok (.goto 90, 3) := dk_167 0 90 (dk_at dksX11_readLine_0 13 rfl rfl)
theorem dX11_readLine_16 : decode cX11_readLine 16 = .ok (.aload_n 0, 1) := dk_42 (dk_at dksX11_readLine_0 16 rfl rfl)
theorem dX11_readLine_17 : decode cX11_readLine 17 = .ok (.iconst 1, 1) := dk_4 (dk_at dksX11_readLine_0 17 rfl rfl)
theorem dX11_readLine_18 : decode cX11_readLine 18 = .ok (.invokevirtual 209, 3) := dk_182 0 209 (dk_at dksX11_readLine_0 18 rfl rfl)
theorem dX11_readLine_21 : decode cX11_readLine 21 = .ok (.ifCond .eq 11, 3) := dk_153 0 11 (dk_at dksX11_readLine_0 21 rfl rfl)
theorem dX11_readLine_24 : decode cX11_readLine 24 = .ok (.aload_n 0, 1) := dk_42 (dk_at dksX11_readLine_1 0 rfl rfl)
theorem dX11_readLine_25 : decode cX11_readLine 25 = .ok (.invokevirtual 221, 3) := dk_182 0 221 (dk_at dksX11_readLine_1 1 rfl rfl)
theorem dX11_readLine_28 : decode cX11_readLine 28 = .ok (.istore_n 1, 1) := dk_60 (dk_at dksX11_readLine_1 4 rfl rfl)
theorem dX11_readLine_29 : decode cX11_readLine 29 = .ok (.goto 74, 3) := dk_167 0 74 (dk_at dksX11_readLine_1 5 rfl rfl)
theorem dX11_readLine_32 : decode cX11_readLine 32 = .ok (.aload_n 0, 1) := dk_42 (dk_at dksX11_readLine_1 8 rfl rfl)
theorem dX11_readLine_33 : decode cX11_readLine 33 = .ok (.iconst 2, 1) := dk_5 (dk_at dksX11_readLine_1 9 rfl rfl)
theorem dX11_readLine_34 : decode cX11_readLine 34 = .ok (.invokevirtual 209, 3) := dk_182 0 209 (dk_at dksX11_readLine_1 10 rfl rfl)
theorem dX11_readLine_37 : decode cX11_readLine 37 = .ok (.ifCond .eq 11, 3) := dk_153 0 11 (dk_at dksX11_readLine_1 13 rfl rfl)
theorem dX11_readLine_40 : decode cX11_readLine 40 = .ok (.aload_n 0, 1) := dk_42 (dk_at dksX11_readLine_1 16 rfl rfl)
theorem dX11_readLine_41 : decode cX11_readLine 41 = .ok (.invokevirtual 224, 3) := dk_182 0 224 (dk_at dksX11_readLine_1 17 rfl rfl)
theorem dX11_readLine_44 : decode cX11_readLine 44 = .ok (.istore_n 1, 1) := dk_60 (dk_at dksX11_readLine_1 20 rfl rfl)
theorem dX11_readLine_45 : decode cX11_readLine 45 = .ok (.goto 58, 3) := dk_167 0 58 (dk_at dksX11_readLine_1 21 rfl rfl)
theorem dX11_readLine_48 : decode cX11_readLine 48 = .ok (.aload_n 0, 1) := dk_42 (dk_at dksX11_readLine_2 0 rfl rfl)
theorem dX11_readLine_49 : decode cX11_readLine 49 = .ok (.iconst 3, 1) := dk_6 (dk_at dksX11_readLine_2 1 rfl rfl)
theorem dX11_readLine_50 : decode cX11_readLine 50 = .ok (.invokevirtual 209, 3) := dk_182 0 209 (dk_at dksX11_readLine_2 2 rfl rfl)
theorem dX11_readLine_53 : decode cX11_readLine 53 = .ok (.ifCond .eq 11, 3) := dk_153 0 11 (dk_at dksX11_readLine_2 5 rfl rfl)
theorem dX11_readLine_56 : decode cX11_readLine 56 = .ok (.aload_n 0, 1) := dk_42 (dk_at dksX11_readLine_2 8 rfl rfl)
theorem dX11_readLine_57 : decode cX11_readLine 57 = .ok (.invokevirtual 227, 3) := dk_182 0 227 (dk_at dksX11_readLine_2 9 rfl rfl)
theorem dX11_readLine_60 : decode cX11_readLine 60 = .ok (.istore_n 1, 1) := dk_60 (dk_at dksX11_readLine_2 12 rfl rfl)
theorem dX11_readLine_61 : decode cX11_readLine 61 = .ok (.goto 42, 3) := dk_167 0 42 (dk_at dksX11_readLine_2 13 rfl rfl)
theorem dX11_readLine_64 : decode cX11_readLine 64 = .ok (.aload_n 0, 1) := dk_42 (dk_at dksX11_readLine_2 16 rfl rfl)
theorem dX11_readLine_65 : decode cX11_readLine 65 = .ok (.iconst 4, 1) := dk_7 (dk_at dksX11_readLine_2 17 rfl rfl)
theorem dX11_readLine_66 : decode cX11_readLine 66 = .ok (.invokevirtual 209, 3) := dk_182 0 209 (dk_at dksX11_readLine_2 18 rfl rfl)
theorem dX11_readLine_69 : decode cX11_readLine 69 = .ok (.ifCond .eq 12, 3) := dk_153 0 12 (dk_at dksX11_readLine_2 21 rfl rfl)
theorem dX11_readLine_72 : decode cX11_readLine 72 = .ok (.aload_n 0, 1) := dk_42 (dk_at dksX11_readLine_3 0 rfl rfl)
theorem dX11_readLine_73 : decode cX11_readLine 73 = .ok (.iconst 4, 1) := dk_7 (dk_at dksX11_readLine_3 1 rfl rfl)
theorem dX11_readLine_74 : decode cX11_readLine 74 = .ok (.invokevirtual 230, 3) := dk_182 0 230 (dk_at dksX11_readLine_3 2 rfl rfl)
theorem dX11_readLine_77 : decode cX11_readLine 77 = .ok (.istore_n 1, 1) := dk_60 (dk_at dksX11_readLine_3 5 rfl rfl)
theorem dX11_readLine_78 : decode cX11_readLine 78 = .ok (.goto 25, 3) := dk_167 0 25 (dk_at dksX11_readLine_3 6 rfl rfl)
theorem dX11_readLine_81 : decode cX11_readLine 81 = .ok (.aload_n 0, 1) := dk_42 (dk_at dksX11_readLine_3 9 rfl rfl)
theorem dX11_readLine_82 : decode cX11_readLine 82 = .ok (.iconst 5, 1) := dk_8 (dk_at dksX11_readLine_3 10 rfl rfl)
theorem dX11_readLine_83 : decode cX11_readLine 83 = .ok (.invokevirtual 209, 3) := dk_182 0 209 (dk_at dksX11_readLine_3 11 rfl rfl)
theorem dX11_readLine_86 : decode cX11_readLine 86 = .ok (.ifCond .eq 11, 3) := dk_153 0 11 (dk_at dksX11_readLine_3 14 rfl rfl)
theorem dX11_readLine_89 : decode cX11_readLine 89 = .ok (.aload_n 0, 1) := dk_42 (dk_at dksX11_readLine_3 17 rfl rfl)
theorem dX11_readLine_90 : decode cX11_readLine 90 = .ok (.iconst 5, 1) := dk_8 (dk_at dksX11_readLine_3 18 rfl rfl)
theorem dX11_readLine_91 : decode cX11_readLine 91 = .ok (.invokevirtual 230, 3) := dk_182 0 230 (dk_at dksX11_readLine_3 19 rfl rfl)
theorem dX11_readLine_94 : decode cX11_readLine 94 = .ok (.goto 8, 3) := dk_167 0 8 (dk_at dksX11_readLine_4 0 rfl rfl)
theorem dX11_readLine_97 : decode cX11_readLine 97 = .ok (.aload_n 0, 1) := dk_42 (dk_at dksX11_readLine_4 3 rfl rfl)
theorem dX11_readLine_98 : decode cX11_readLine 98 = .ok (.iconst 1, 1) := dk_4 (dk_at dksX11_readLine_4 4 rfl rfl)
theorem dX11_readLine_99 : decode cX11_readLine 99 = .ok (.invokevirtual 174, 3) := dk_182 0 174 (dk_at dksX11_readLine_4 5 rfl rfl)
theorem dX11_readLine_102 : decode cX11_readLine 102 = .ok (.istore_n 1, 1) := dk_60 (dk_at dksX11_readLine_4 8 rfl rfl)
theorem dX11_readLine_103 : decode cX11_readLine 103 = .ok (.iload_n 1, 1) := dk_27 (dk_at dksX11_readLine_4 9 rfl rfl)
theorem dX11_readLine_104 : decode cX11_readLine 104 = .ok (.ifCond .eq 14, 3) := dk_153 0 14 (dk_at dksX11_readLine_4 10 rfl rfl)
theorem dX11_readLine_107 : decode cX11_readLine 107 = .ok (.aload_n 0, 1) := dk_42 (dk_at dksX11_readLine_4 13 rfl rfl)
theorem dX11_readLine_108 : decode cX11_readLine 108 = .ok (.invokevirtual 233, 3) := dk_182 0 233 (dk_at dksX11_readLine_4 14 rfl rfl)
theorem dX11_readLine_111 : decode cX11_readLine 111 = .ok (.ifCond .eq 7, 3) := dk_153 0 7 (dk_at dksX11_readLine_4 17 rfl rfl)
theorem dX11_readLine_114 : decode cX11_readLine 114 = .ok (.iconst 1, 1) := dk_4 (dk_at dksX11_readLine_4 20 rfl rfl)
theorem dX11_readLine_115 : decode cX11_readLine 115 = .ok (.goto 4, 3) := dk_167 0 4 (dk_at dksX11_readLine_4 21 rfl rfl)
theorem dX11_readLine_118 : decode cX11_readLine 118 = .ok (.iconst 0, 1) := dk_3 (dk_at dksX11_readLine_5 0 rfl rfl)
theorem dX11_readLine_119 : decode cX11_readLine 119 = .ok (.ireturn, 1) := dk_172 (dk_at dksX11_readLine_5 1 rfl rfl)
abbrev cX11_isWord : ByteArray := prog_21_method_17_code
def yX11_isWord : MethodName := ⟨RX11, "isWord", "(I)Z"⟩
def dkwX11_isWord_1 : List UInt8 := [3, 172]
abbrev dktX11_isWord_1 : List UInt8 := dkwX11_isWord_1 ++ []
def dkwX11_isWord_0 : List UInt8 := [42, 180, 0, 128, 5, 160, 0, 19, 42, 180, 0, 141, 27, 184, 0, 164, 148, 154, 0, 7, 4, 167, 0, 4]
abbrev dktX11_isWord_0 : List UInt8 := dkwX11_isWord_0 ++ dktX11_isWord_1
theorem dksX11_isWord_0 : cX11_isWord.data.toList.drop 0 = dktX11_isWord_0 := by decide +kernel
theorem dksX11_isWord_1 : cX11_isWord.data.toList.drop 24 = dktX11_isWord_1 := dk_seg dksX11_isWord_0 24 rfl rfl
theorem dX11_isWord_0 : decode cX11_isWord 0 = .ok (.aload_n 0, 1) := dk_42 (dk_at dksX11_isWord_0 0 rfl rfl)
theorem dX11_isWord_1 : decode cX11_isWord 1 = .ok (.getfield 128, 3) := dk_180 0 128 (dk_at dksX11_isWord_0 1 rfl rfl)
theorem dX11_isWord_4 : decode cX11_isWord 4 = .ok (.iconst 2, 1) := dk_5 (dk_at dksX11_isWord_0 4 rfl rfl)
theorem dX11_isWord_5 : decode cX11_isWord 5 = .ok (.if_icmp .ne 19, 3) := dk_160 0 19 (dk_at dksX11_isWord_0 5 rfl rfl)
theorem dX11_isWord_8 : decode cX11_isWord 8 = .ok (.aload_n 0, 1) := dk_42 (dk_at dksX11_isWord_0 8 rfl rfl)
theorem dX11_isWord_9 : decode cX11_isWord 9 = .ok (.getfield 141, 3) := dk_180 0 141 (dk_at dksX11_isWord_0 9 rfl rfl)
theorem dX11_isWord_12 : decode cX11_isWord 12 = .ok (.iload_n 1, 1) := dk_27 (dk_at dksX11_isWord_0 12 rfl rfl)
theorem dX11_isWord_13 : decode cX11_isWord 13 = .ok (.invokestatic 164, 3) := dk_184 0 164 (dk_at dksX11_isWord_0 13 rfl rfl)
theorem dX11_isWord_16 : decode cX11_isWord 16 = .ok (.lcmp, 1) := dk_148 (dk_at dksX11_isWord_0 16 rfl rfl)
theorem dX11_isWord_17 : decode cX11_isWord 17 = .ok (.ifCond .ne 7, 3) := dk_154 0 7 (dk_at dksX11_isWord_0 17 rfl rfl)
theorem dX11_isWord_20 : decode cX11_isWord 20 = .ok (.iconst 1, 1) := dk_4 (dk_at dksX11_isWord_0 20 rfl rfl)
theorem dX11_isWord_21 : decode cX11_isWord 21 = .ok (.goto 4, 3) := dk_167 0 4 (dk_at dksX11_isWord_0 21 rfl rfl)
theorem dX11_isWord_24 : decode cX11_isWord 24 = .ok (.iconst 0, 1) := dk_3 (dk_at dksX11_isWord_1 0 rfl rfl)
theorem dX11_isWord_25 : decode cX11_isWord 25 = .ok (.ireturn, 1) := dk_172 (dk_at dksX11_isWord_1 1 rfl rfl)
abbrev cX11_wordOf : ByteArray := prog_21_method_16_code
def yX11_wordOf : MethodName := ⟨RX11, "wordOf", "(I)J"⟩
def dkwX11_wordOf_18 : List UInt8 := [184, 0, 156, 16, 101, 3, 3, 184, 0, 160, 173]
abbrev dktX11_wordOf_18 : List UInt8 := dkwX11_wordOf_18 ++ []
def dkwX11_wordOf_17 : List UInt8 := [16, 112, 16, 116, 184, 0, 156, 16, 104, 3, 3, 184, 0, 160, 173, 16, 115, 16, 116, 16, 97, 16, 116]
abbrev dktX11_wordOf_17 : List UInt8 := dkwX11_wordOf_17 ++ dktX11_wordOf_18
def dkwX11_wordOf_16 : List UInt8 := [16, 116, 16, 104, 16, 114, 16, 101, 184, 0, 156, 16, 97, 16, 100, 3, 184, 0, 160, 173, 16, 100, 16, 101]
abbrev dktX11_wordOf_16 : List UInt8 := dkwX11_wordOf_16 ++ dktX11_wordOf_17
def dkwX11_wordOf_15 : List UInt8 := [184, 0, 156, 173, 16, 112, 16, 108, 16, 97, 16, 99, 184, 0, 156, 16, 101, 3, 3, 184, 0, 160, 173]
abbrev dktX11_wordOf_15 : List UInt8 := dkwX11_wordOf_15 ++ dktX11_wordOf_16
def dkwX11_wordOf_14 : List UInt8 := [3, 3, 184, 0, 156, 173, 16, 116, 16, 111, 3, 3, 184, 0, 156, 173, 16, 105, 16, 115, 3, 3]
abbrev dktX11_wordOf_14 : List UInt8 := dkwX11_wordOf_14 ++ dktX11_wordOf_15
def dkwX11_wordOf_13 : List UInt8 := [16, 110, 16, 100, 3, 184, 0, 156, 173, 16, 110, 16, 111, 16, 116, 3, 184, 0, 156, 173, 16, 98, 16, 121]
abbrev dktX11_wordOf_13 : List UInt8 := dkwX11_wordOf_13 ++ dktX11_wordOf_14
def dkwX11_wordOf_12 : List UInt8 := [16, 97, 16, 110, 16, 121, 3, 184, 0, 156, 173, 16, 111, 16, 114, 3, 3, 184, 0, 156, 173, 16, 97]
abbrev dktX11_wordOf_12 : List UInt8 := dkwX11_wordOf_12 ++ dktX11_wordOf_13
def dkwX11_wordOf_11 : List UInt8 := [184, 0, 160, 173, 16, 102, 16, 114, 16, 101, 16, 101, 184, 0, 156, 16, 115, 3, 3, 184, 0, 160, 173]
abbrev dktX11_wordOf_11 : List UInt8 := dkwX11_wordOf_11 ++ dktX11_wordOf_12
def dkwX11_wordOf_10 : List UInt8 := [16, 115, 3, 3, 184, 0, 160, 173, 16, 98, 16, 114, 16, 101, 16, 97, 184, 0, 156, 16, 107, 16, 115, 3]
abbrev dktX11_wordOf_10 : List UInt8 := dkwX11_wordOf_10 ++ dktX11_wordOf_11
def dkwX11_wordOf_9 : List UInt8 := [184, 0, 156, 16, 115, 16, 101, 16, 115, 184, 0, 160, 173, 16, 107, 16, 101, 16, 101, 16, 112, 184, 0, 156]
abbrev dktX11_wordOf_9 : List UInt8 := dkwX11_wordOf_9 ++ dktX11_wordOf_10
def dkwX11_wordOf_8 : List UInt8 := [16, 97, 16, 110, 184, 0, 156, 16, 116, 16, 115, 3, 184, 0, 160, 173, 16, 114, 16, 101, 16, 102, 16, 117]
abbrev dktX11_wordOf_8 : List UInt8 := dkwX11_wordOf_8 ++ dktX11_wordOf_9
def dkwX11_wordOf_7 : List UInt8 := [16, 115, 3, 184, 0, 160, 173, 16, 97, 16, 115, 16, 107, 16, 115, 184, 0, 156, 173, 16, 103, 16, 114]
abbrev dktX11_wordOf_7 : List UInt8 := dkwX11_wordOf_7 ++ dktX11_wordOf_8
def dkwX11_wordOf_6 : List UInt8 := [184, 0, 156, 16, 115, 3, 3, 184, 0, 160, 173, 16, 98, 16, 101, 16, 103, 16, 105, 184, 0, 156, 16, 110]
abbrev dktX11_wordOf_6 : List UInt8 := dkwX11_wordOf_6 ++ dktX11_wordOf_7
def dkwX11_wordOf_5 : List UInt8 := [16, 105, 16, 99, 184, 0, 156, 16, 101, 3, 3, 184, 0, 160, 173, 16, 111, 16, 112, 16, 101, 16, 110]
abbrev dktX11_wordOf_5 : List UInt8 := dkwX11_wordOf_5 ++ dktX11_wordOf_6
def dkwX11_wordOf_4 : List UInt8 := [16, 114, 16, 97, 16, 110, 16, 107, 184, 0, 156, 16, 115, 3, 3, 184, 0, 160, 173, 16, 116, 16, 119]
abbrev dktX11_wordOf_4 : List UInt8 := dkwX11_wordOf_4 ++ dktX11_wordOf_5
def dkwX11_wordOf_3 : List UInt8 := [16, 109, 16, 97, 16, 121, 3, 184, 0, 156, 173, 16, 99, 16, 111, 16, 109, 16, 98, 184, 0, 156, 173]
abbrev dktX11_wordOf_3 : List UInt8 := dkwX11_wordOf_3 ++ dktX11_wordOf_4
def dkwX11_wordOf_2 : List UInt8 := [16, 119, 16, 104, 16, 111, 3, 184, 0, 156, 173, 16, 107, 16, 105, 16, 110, 16, 100, 184, 0, 156, 173]
abbrev dktX11_wordOf_2 : List UInt8 := dkwX11_wordOf_2 ++ dktX11_wordOf_3
def dkwX11_wordOf_1 : List UInt8 := [170, 0, 0, 0, 0, 1, 220, 0, 0, 0, 0, 0, 0, 0, 23, 0, 0, 0, 111, 0, 0, 0, 122, 0, 0, 0, 134, 0, 0, 0, 145, 0, 0, 0, 157, 0, 0, 0, 176, 0, 0, 0, 195, 0, 0, 0, 214, 0, 0, 0, 234, 0, 0, 0, 246, 0, 0, 1, 10, 0, 0, 1, 31, 0, 0, 1, 50, 0, 0, 1, 70, 0, 0, 1, 89, 0, 0, 1, 100, 0, 0, 1, 110, 0, 0, 1, 121, 0, 0, 1, 132, 0, 0, 1, 142, 0, 0, 1, 152, 0, 0, 1, 162, 0, 0, 1, 181, 0, 0, 1, 201]
abbrev dktX11_wordOf_1 : List UInt8 := dkwX11_wordOf_1 ++ dktX11_wordOf_2
def dkwX11_wordOf_0 : List UInt8 := [26]
abbrev dktX11_wordOf_0 : List UInt8 := dkwX11_wordOf_0 ++ dktX11_wordOf_1
theorem dksX11_wordOf_0 : cX11_wordOf.data.toList.drop 0 = dktX11_wordOf_0 := by decide +kernel
theorem dksX11_wordOf_1 : cX11_wordOf.data.toList.drop 1 = dktX11_wordOf_1 := dk_seg dksX11_wordOf_0 1 rfl rfl
theorem dksX11_wordOf_2 : cX11_wordOf.data.toList.drop 112 = dktX11_wordOf_2 := dk_seg dksX11_wordOf_1 111 rfl rfl
theorem dksX11_wordOf_3 : cX11_wordOf.data.toList.drop 135 = dktX11_wordOf_3 := dk_seg dksX11_wordOf_2 23 rfl rfl
theorem dksX11_wordOf_4 : cX11_wordOf.data.toList.drop 158 = dktX11_wordOf_4 := dk_seg dksX11_wordOf_3 23 rfl rfl
theorem dksX11_wordOf_5 : cX11_wordOf.data.toList.drop 181 = dktX11_wordOf_5 := dk_seg dksX11_wordOf_4 23 rfl rfl
theorem dksX11_wordOf_6 : cX11_wordOf.data.toList.drop 204 = dktX11_wordOf_6 := dk_seg dksX11_wordOf_5 23 rfl rfl
theorem dksX11_wordOf_7 : cX11_wordOf.data.toList.drop 228 = dktX11_wordOf_7 := dk_seg dksX11_wordOf_6 24 rfl rfl
theorem dksX11_wordOf_8 : cX11_wordOf.data.toList.drop 251 = dktX11_wordOf_8 := dk_seg dksX11_wordOf_7 23 rfl rfl
theorem dksX11_wordOf_9 : cX11_wordOf.data.toList.drop 275 = dktX11_wordOf_9 := dk_seg dksX11_wordOf_8 24 rfl rfl
theorem dksX11_wordOf_10 : cX11_wordOf.data.toList.drop 299 = dktX11_wordOf_10 := dk_seg dksX11_wordOf_9 24 rfl rfl
theorem dksX11_wordOf_11 : cX11_wordOf.data.toList.drop 323 = dktX11_wordOf_11 := dk_seg dksX11_wordOf_10 24 rfl rfl
theorem dksX11_wordOf_12 : cX11_wordOf.data.toList.drop 346 = dktX11_wordOf_12 := dk_seg dksX11_wordOf_11 23 rfl rfl
theorem dksX11_wordOf_13 : cX11_wordOf.data.toList.drop 369 = dktX11_wordOf_13 := dk_seg dksX11_wordOf_12 23 rfl rfl
theorem dksX11_wordOf_14 : cX11_wordOf.data.toList.drop 393 = dktX11_wordOf_14 := dk_seg dksX11_wordOf_13 24 rfl rfl
theorem dksX11_wordOf_15 : cX11_wordOf.data.toList.drop 415 = dktX11_wordOf_15 := dk_seg dksX11_wordOf_14 22 rfl rfl
theorem dksX11_wordOf_16 : cX11_wordOf.data.toList.drop 438 = dktX11_wordOf_16 := dk_seg dksX11_wordOf_15 23 rfl rfl
theorem dksX11_wordOf_17 : cX11_wordOf.data.toList.drop 462 = dktX11_wordOf_17 := dk_seg dksX11_wordOf_16 24 rfl rfl
theorem dksX11_wordOf_18 : cX11_wordOf.data.toList.drop 485 = dktX11_wordOf_18 := dk_seg dksX11_wordOf_17 23 rfl rfl
theorem dX11_wordOf_0 : decode cX11_wordOf 0 = .ok (.iload_n 0, 1) := dk_26 (dk_at dksX11_wordOf_0 0 rfl rfl)
theorem dX11_wordOf_1 : decode cX11_wordOf 1 = .ok (.tableswitch 476 0 23 #[111, 122, 134, 145, 157, 176, 195, 214, 234, 246, 266, 287, 306, 326, 345, 356, 366, 377, 388, 398, 408, 418, 437, 457], 111) := by decide +kernel
theorem dX11_wordOf_112 : decode cX11_wordOf 112 = .ok (.bipush 119, 2) := dk_16 119 (dk_at dksX11_wordOf_2 0 rfl rfl)
theorem dX11_wordOf_114 : decode cX11_wordOf 114 = .ok (.bipush 104, 2) := dk_16 104 (dk_at dksX11_wordOf_2 2 rfl rfl)
theorem dX11_wordOf_116 : decode cX11_wordOf 116 = .ok (.bipush 111, 2) := dk_16 111 (dk_at dksX11_wordOf_2 4 rfl rfl)
theorem dX11_wordOf_118 : decode cX11_wordOf 118 = .ok (.iconst 0, 1) := dk_3 (dk_at dksX11_wordOf_2 6 rfl rfl)
theorem dX11_wordOf_119 : decode cX11_wordOf 119 = .ok (.invokestatic 156, 3) := dk_184 0 156 (dk_at dksX11_wordOf_2 7 rfl rfl)
theorem dX11_wordOf_122 : decode cX11_wordOf 122 = .ok (.lreturn, 1) := dk_173 (dk_at dksX11_wordOf_2 10 rfl rfl)
theorem dX11_wordOf_123 : decode cX11_wordOf 123 = .ok (.bipush 107, 2) := dk_16 107 (dk_at dksX11_wordOf_2 11 rfl rfl)
theorem dX11_wordOf_125 : decode cX11_wordOf 125 = .ok (.bipush 105, 2) := dk_16 105 (dk_at dksX11_wordOf_2 13 rfl rfl)
theorem dX11_wordOf_127 : decode cX11_wordOf 127 = .ok (.bipush 110, 2) := dk_16 110 (dk_at dksX11_wordOf_2 15 rfl rfl)
theorem dX11_wordOf_129 : decode cX11_wordOf 129 = .ok (.bipush 100, 2) := dk_16 100 (dk_at dksX11_wordOf_2 17 rfl rfl)
theorem dX11_wordOf_131 : decode cX11_wordOf 131 = .ok (.invokestatic 156, 3) := dk_184 0 156 (dk_at dksX11_wordOf_2 19 rfl rfl)
theorem dX11_wordOf_134 : decode cX11_wordOf 134 = .ok (.lreturn, 1) := dk_173 (dk_at dksX11_wordOf_2 22 rfl rfl)
theorem dX11_wordOf_135 : decode cX11_wordOf 135 = .ok (.bipush 109, 2) := dk_16 109 (dk_at dksX11_wordOf_3 0 rfl rfl)
theorem dX11_wordOf_137 : decode cX11_wordOf 137 = .ok (.bipush 97, 2) := dk_16 97 (dk_at dksX11_wordOf_3 2 rfl rfl)
theorem dX11_wordOf_139 : decode cX11_wordOf 139 = .ok (.bipush 121, 2) := dk_16 121 (dk_at dksX11_wordOf_3 4 rfl rfl)
theorem dX11_wordOf_141 : decode cX11_wordOf 141 = .ok (.iconst 0, 1) := dk_3 (dk_at dksX11_wordOf_3 6 rfl rfl)
theorem dX11_wordOf_142 : decode cX11_wordOf 142 = .ok (.invokestatic 156, 3) := dk_184 0 156 (dk_at dksX11_wordOf_3 7 rfl rfl)
theorem dX11_wordOf_145 : decode cX11_wordOf 145 = .ok (.lreturn, 1) := dk_173 (dk_at dksX11_wordOf_3 10 rfl rfl)
theorem dX11_wordOf_146 : decode cX11_wordOf 146 = .ok (.bipush 99, 2) := dk_16 99 (dk_at dksX11_wordOf_3 11 rfl rfl)
theorem dX11_wordOf_148 : decode cX11_wordOf 148 = .ok (.bipush 111, 2) := dk_16 111 (dk_at dksX11_wordOf_3 13 rfl rfl)
theorem dX11_wordOf_150 : decode cX11_wordOf 150 = .ok (.bipush 109, 2) := dk_16 109 (dk_at dksX11_wordOf_3 15 rfl rfl)
theorem dX11_wordOf_152 : decode cX11_wordOf 152 = .ok (.bipush 98, 2) := dk_16 98 (dk_at dksX11_wordOf_3 17 rfl rfl)
theorem dX11_wordOf_154 : decode cX11_wordOf 154 = .ok (.invokestatic 156, 3) := dk_184 0 156 (dk_at dksX11_wordOf_3 19 rfl rfl)
theorem dX11_wordOf_157 : decode cX11_wordOf 157 = .ok (.lreturn, 1) := dk_173 (dk_at dksX11_wordOf_3 22 rfl rfl)
theorem dX11_wordOf_158 : decode cX11_wordOf 158 = .ok (.bipush 114, 2) := dk_16 114 (dk_at dksX11_wordOf_4 0 rfl rfl)
theorem dX11_wordOf_160 : decode cX11_wordOf 160 = .ok (.bipush 97, 2) := dk_16 97 (dk_at dksX11_wordOf_4 2 rfl rfl)
theorem dX11_wordOf_162 : decode cX11_wordOf 162 = .ok (.bipush 110, 2) := dk_16 110 (dk_at dksX11_wordOf_4 4 rfl rfl)
theorem dX11_wordOf_164 : decode cX11_wordOf 164 = .ok (.bipush 107, 2) := dk_16 107 (dk_at dksX11_wordOf_4 6 rfl rfl)
theorem dX11_wordOf_166 : decode cX11_wordOf 166 = .ok (.invokestatic 156, 3) := dk_184 0 156 (dk_at dksX11_wordOf_4 8 rfl rfl)
theorem dX11_wordOf_169 : decode cX11_wordOf 169 = .ok (.bipush 115, 2) := dk_16 115 (dk_at dksX11_wordOf_4 11 rfl rfl)
theorem dX11_wordOf_171 : decode cX11_wordOf 171 = .ok (.iconst 0, 1) := dk_3 (dk_at dksX11_wordOf_4 13 rfl rfl)
theorem dX11_wordOf_172 : decode cX11_wordOf 172 = .ok (.iconst 0, 1) := dk_3 (dk_at dksX11_wordOf_4 14 rfl rfl)
theorem dX11_wordOf_173 : decode cX11_wordOf 173 = .ok (.invokestatic 160, 3) := dk_184 0 160 (dk_at dksX11_wordOf_4 15 rfl rfl)
theorem dX11_wordOf_176 : decode cX11_wordOf 176 = .ok (.lreturn, 1) := dk_173 (dk_at dksX11_wordOf_4 18 rfl rfl)
theorem dX11_wordOf_177 : decode cX11_wordOf 177 = .ok (.bipush 116, 2) := dk_16 116 (dk_at dksX11_wordOf_4 19 rfl rfl)
theorem dX11_wordOf_179 : decode cX11_wordOf 179 = .ok (.bipush 119, 2) := dk_16 119 (dk_at dksX11_wordOf_4 21 rfl rfl)
theorem dX11_wordOf_181 : decode cX11_wordOf 181 = .ok (.bipush 105, 2) := dk_16 105 (dk_at dksX11_wordOf_5 0 rfl rfl)
theorem dX11_wordOf_183 : decode cX11_wordOf 183 = .ok (.bipush 99, 2) := dk_16 99 (dk_at dksX11_wordOf_5 2 rfl rfl)
theorem dX11_wordOf_185 : decode cX11_wordOf 185 = .ok (.invokestatic 156, 3) := dk_184 0 156 (dk_at dksX11_wordOf_5 4 rfl rfl)
theorem dX11_wordOf_188 : decode cX11_wordOf 188 = .ok (.bipush 101, 2) := dk_16 101 (dk_at dksX11_wordOf_5 7 rfl rfl)
theorem dX11_wordOf_190 : decode cX11_wordOf 190 = .ok (.iconst 0, 1) := dk_3 (dk_at dksX11_wordOf_5 9 rfl rfl)
theorem dX11_wordOf_191 : decode cX11_wordOf 191 = .ok (.iconst 0, 1) := dk_3 (dk_at dksX11_wordOf_5 10 rfl rfl)
theorem dX11_wordOf_192 : decode cX11_wordOf 192 = .ok (.invokestatic 160, 3) := dk_184 0 160 (dk_at dksX11_wordOf_5 11 rfl rfl)
theorem dX11_wordOf_195 : decode cX11_wordOf 195 = .ok (.lreturn, 1) := dk_173 (dk_at dksX11_wordOf_5 14 rfl rfl)
theorem dX11_wordOf_196 : decode cX11_wordOf 196 = .ok (.bipush 111, 2) := dk_16 111 (dk_at dksX11_wordOf_5 15 rfl rfl)
theorem dX11_wordOf_198 : decode cX11_wordOf 198 = .ok (.bipush 112, 2) := dk_16 112 (dk_at dksX11_wordOf_5 17 rfl rfl)
theorem dX11_wordOf_200 : decode cX11_wordOf 200 = .ok (.bipush 101, 2) := dk_16 101 (dk_at dksX11_wordOf_5 19 rfl rfl)
theorem dX11_wordOf_202 : decode cX11_wordOf 202 = .ok (.bipush 110, 2) := dk_16 110 (dk_at dksX11_wordOf_5 21 rfl rfl)
theorem dX11_wordOf_204 : decode cX11_wordOf 204 = .ok (.invokestatic 156, 3) := dk_184 0 156 (dk_at dksX11_wordOf_6 0 rfl rfl)
theorem dX11_wordOf_207 : decode cX11_wordOf 207 = .ok (.bipush 115, 2) := dk_16 115 (dk_at dksX11_wordOf_6 3 rfl rfl)
theorem dX11_wordOf_209 : decode cX11_wordOf 209 = .ok (.iconst 0, 1) := dk_3 (dk_at dksX11_wordOf_6 5 rfl rfl)
theorem dX11_wordOf_210 : decode cX11_wordOf 210 = .ok (.iconst 0, 1) := dk_3 (dk_at dksX11_wordOf_6 6 rfl rfl)
theorem dX11_wordOf_211 : decode cX11_wordOf 211 = .ok (.invokestatic 160, 3) := dk_184 0 160 (dk_at dksX11_wordOf_6 7 rfl rfl)
theorem dX11_wordOf_214 : decode cX11_wordOf 214 = .ok (.lreturn, 1) := dk_173 (dk_at dksX11_wordOf_6 10 rfl rfl)
theorem dX11_wordOf_215 : decode cX11_wordOf 215 = .ok (.bipush 98, 2) := dk_16 98 (dk_at dksX11_wordOf_6 11 rfl rfl)
theorem dX11_wordOf_217 : decode cX11_wordOf 217 = .ok (.bipush 101, 2) := dk_16 101 (dk_at dksX11_wordOf_6 13 rfl rfl)
theorem dX11_wordOf_219 : decode cX11_wordOf 219 = .ok (.bipush 103, 2) := dk_16 103 (dk_at dksX11_wordOf_6 15 rfl rfl)
theorem dX11_wordOf_221 : decode cX11_wordOf 221 = .ok (.bipush 105, 2) := dk_16 105 (dk_at dksX11_wordOf_6 17 rfl rfl)
theorem dX11_wordOf_223 : decode cX11_wordOf 223 = .ok (.invokestatic 156, 3) := dk_184 0 156 (dk_at dksX11_wordOf_6 19 rfl rfl)
theorem dX11_wordOf_226 : decode cX11_wordOf 226 = .ok (.bipush 110, 2) := dk_16 110 (dk_at dksX11_wordOf_6 22 rfl rfl)
theorem dX11_wordOf_228 : decode cX11_wordOf 228 = .ok (.bipush 115, 2) := dk_16 115 (dk_at dksX11_wordOf_7 0 rfl rfl)
theorem dX11_wordOf_230 : decode cX11_wordOf 230 = .ok (.iconst 0, 1) := dk_3 (dk_at dksX11_wordOf_7 2 rfl rfl)
theorem dX11_wordOf_231 : decode cX11_wordOf 231 = .ok (.invokestatic 160, 3) := dk_184 0 160 (dk_at dksX11_wordOf_7 3 rfl rfl)
theorem dX11_wordOf_234 : decode cX11_wordOf 234 = .ok (.lreturn, 1) := dk_173 (dk_at dksX11_wordOf_7 6 rfl rfl)
theorem dX11_wordOf_235 : decode cX11_wordOf 235 = .ok (.bipush 97, 2) := dk_16 97 (dk_at dksX11_wordOf_7 7 rfl rfl)
theorem dX11_wordOf_237 : decode cX11_wordOf 237 = .ok (.bipush 115, 2) := dk_16 115 (dk_at dksX11_wordOf_7 9 rfl rfl)
theorem dX11_wordOf_239 : decode cX11_wordOf 239 = .ok (.bipush 107, 2) := dk_16 107 (dk_at dksX11_wordOf_7 11 rfl rfl)
theorem dX11_wordOf_241 : decode cX11_wordOf 241 = .ok (.bipush 115, 2) := dk_16 115 (dk_at dksX11_wordOf_7 13 rfl rfl)
theorem dX11_wordOf_243 : decode cX11_wordOf 243 = .ok (.invokestatic 156, 3) := dk_184 0 156 (dk_at dksX11_wordOf_7 15 rfl rfl)
theorem dX11_wordOf_246 : decode cX11_wordOf 246 = .ok (.lreturn, 1) := dk_173 (dk_at dksX11_wordOf_7 18 rfl rfl)
theorem dX11_wordOf_247 : decode cX11_wordOf 247 = .ok (.bipush 103, 2) := dk_16 103 (dk_at dksX11_wordOf_7 19 rfl rfl)
theorem dX11_wordOf_249 : decode cX11_wordOf 249 = .ok (.bipush 114, 2) := dk_16 114 (dk_at dksX11_wordOf_7 21 rfl rfl)
theorem dX11_wordOf_251 : decode cX11_wordOf 251 = .ok (.bipush 97, 2) := dk_16 97 (dk_at dksX11_wordOf_8 0 rfl rfl)
theorem dX11_wordOf_253 : decode cX11_wordOf 253 = .ok (.bipush 110, 2) := dk_16 110 (dk_at dksX11_wordOf_8 2 rfl rfl)
theorem dX11_wordOf_255 : decode cX11_wordOf 255 = .ok (.invokestatic 156, 3) := dk_184 0 156 (dk_at dksX11_wordOf_8 4 rfl rfl)
theorem dX11_wordOf_258 : decode cX11_wordOf 258 = .ok (.bipush 116, 2) := dk_16 116 (dk_at dksX11_wordOf_8 7 rfl rfl)
theorem dX11_wordOf_260 : decode cX11_wordOf 260 = .ok (.bipush 115, 2) := dk_16 115 (dk_at dksX11_wordOf_8 9 rfl rfl)
theorem dX11_wordOf_262 : decode cX11_wordOf 262 = .ok (.iconst 0, 1) := dk_3 (dk_at dksX11_wordOf_8 11 rfl rfl)
theorem dX11_wordOf_263 : decode cX11_wordOf 263 = .ok (.invokestatic 160, 3) := dk_184 0 160 (dk_at dksX11_wordOf_8 12 rfl rfl)
theorem dX11_wordOf_266 : decode cX11_wordOf 266 = .ok (.lreturn, 1) := dk_173 (dk_at dksX11_wordOf_8 15 rfl rfl)
theorem dX11_wordOf_267 : decode cX11_wordOf 267 = .ok (.bipush 114, 2) := dk_16 114 (dk_at dksX11_wordOf_8 16 rfl rfl)
theorem dX11_wordOf_269 : decode cX11_wordOf 269 = .ok (.bipush 101, 2) := dk_16 101 (dk_at dksX11_wordOf_8 18 rfl rfl)
theorem dX11_wordOf_271 : decode cX11_wordOf 271 = .ok (.bipush 102, 2) := dk_16 102 (dk_at dksX11_wordOf_8 20 rfl rfl)
theorem dX11_wordOf_273 : decode cX11_wordOf 273 = .ok (.bipush 117, 2) := dk_16 117 (dk_at dksX11_wordOf_8 22 rfl rfl)
theorem dX11_wordOf_275 : decode cX11_wordOf 275 = .ok (.invokestatic 156, 3) := dk_184 0 156 (dk_at dksX11_wordOf_9 0 rfl rfl)
theorem dX11_wordOf_278 : decode cX11_wordOf 278 = .ok (.bipush 115, 2) := dk_16 115 (dk_at dksX11_wordOf_9 3 rfl rfl)
theorem dX11_wordOf_280 : decode cX11_wordOf 280 = .ok (.bipush 101, 2) := dk_16 101 (dk_at dksX11_wordOf_9 5 rfl rfl)
theorem dX11_wordOf_282 : decode cX11_wordOf 282 = .ok (.bipush 115, 2) := dk_16 115 (dk_at dksX11_wordOf_9 7 rfl rfl)
theorem dX11_wordOf_284 : decode cX11_wordOf 284 = .ok (.invokestatic 160, 3) := dk_184 0 160 (dk_at dksX11_wordOf_9 9 rfl rfl)
theorem dX11_wordOf_287 : decode cX11_wordOf 287 = .ok (.lreturn, 1) := dk_173 (dk_at dksX11_wordOf_9 12 rfl rfl)
theorem dX11_wordOf_288 : decode cX11_wordOf 288 = .ok (.bipush 107, 2) := dk_16 107 (dk_at dksX11_wordOf_9 13 rfl rfl)
theorem dX11_wordOf_290 : decode cX11_wordOf 290 = .ok (.bipush 101, 2) := dk_16 101 (dk_at dksX11_wordOf_9 15 rfl rfl)
theorem dX11_wordOf_292 : decode cX11_wordOf 292 = .ok (.bipush 101, 2) := dk_16 101 (dk_at dksX11_wordOf_9 17 rfl rfl)
theorem dX11_wordOf_294 : decode cX11_wordOf 294 = .ok (.bipush 112, 2) := dk_16 112 (dk_at dksX11_wordOf_9 19 rfl rfl)
theorem dX11_wordOf_296 : decode cX11_wordOf 296 = .ok (.invokestatic 156, 3) := dk_184 0 156 (dk_at dksX11_wordOf_9 21 rfl rfl)
theorem dX11_wordOf_299 : decode cX11_wordOf 299 = .ok (.bipush 115, 2) := dk_16 115 (dk_at dksX11_wordOf_10 0 rfl rfl)
theorem dX11_wordOf_301 : decode cX11_wordOf 301 = .ok (.iconst 0, 1) := dk_3 (dk_at dksX11_wordOf_10 2 rfl rfl)
theorem dX11_wordOf_302 : decode cX11_wordOf 302 = .ok (.iconst 0, 1) := dk_3 (dk_at dksX11_wordOf_10 3 rfl rfl)
theorem dX11_wordOf_303 : decode cX11_wordOf 303 = .ok (.invokestatic 160, 3) := dk_184 0 160 (dk_at dksX11_wordOf_10 4 rfl rfl)
theorem dX11_wordOf_306 : decode cX11_wordOf 306 = .ok (.lreturn, 1) := dk_173 (dk_at dksX11_wordOf_10 7 rfl rfl)
theorem dX11_wordOf_307 : decode cX11_wordOf 307 = .ok (.bipush 98, 2) := dk_16 98 (dk_at dksX11_wordOf_10 8 rfl rfl)
theorem dX11_wordOf_309 : decode cX11_wordOf 309 = .ok (.bipush 114, 2) := dk_16 114 (dk_at dksX11_wordOf_10 10 rfl rfl)
theorem dX11_wordOf_311 : decode cX11_wordOf 311 = .ok (.bipush 101, 2) := dk_16 101 (dk_at dksX11_wordOf_10 12 rfl rfl)
theorem dX11_wordOf_313 : decode cX11_wordOf 313 = .ok (.bipush 97, 2) := dk_16 97 (dk_at dksX11_wordOf_10 14 rfl rfl)
theorem dX11_wordOf_315 : decode cX11_wordOf 315 = .ok (.invokestatic 156, 3) := dk_184 0 156 (dk_at dksX11_wordOf_10 16 rfl rfl)
theorem dX11_wordOf_318 : decode cX11_wordOf 318 = .ok (.bipush 107, 2) := dk_16 107 (dk_at dksX11_wordOf_10 19 rfl rfl)
theorem dX11_wordOf_320 : decode cX11_wordOf 320 = .ok (.bipush 115, 2) := dk_16 115 (dk_at dksX11_wordOf_10 21 rfl rfl)
theorem dX11_wordOf_322 : decode cX11_wordOf 322 = .ok (.iconst 0, 1) := dk_3 (dk_at dksX11_wordOf_10 23 rfl rfl)
theorem dX11_wordOf_323 : decode cX11_wordOf 323 = .ok (.invokestatic 160, 3) := dk_184 0 160 (dk_at dksX11_wordOf_11 0 rfl rfl)
theorem dX11_wordOf_326 : decode cX11_wordOf 326 = .ok (.lreturn, 1) := dk_173 (dk_at dksX11_wordOf_11 3 rfl rfl)
theorem dX11_wordOf_327 : decode cX11_wordOf 327 = .ok (.bipush 102, 2) := dk_16 102 (dk_at dksX11_wordOf_11 4 rfl rfl)
theorem dX11_wordOf_329 : decode cX11_wordOf 329 = .ok (.bipush 114, 2) := dk_16 114 (dk_at dksX11_wordOf_11 6 rfl rfl)
theorem dX11_wordOf_331 : decode cX11_wordOf 331 = .ok (.bipush 101, 2) := dk_16 101 (dk_at dksX11_wordOf_11 8 rfl rfl)
theorem dX11_wordOf_333 : decode cX11_wordOf 333 = .ok (.bipush 101, 2) := dk_16 101 (dk_at dksX11_wordOf_11 10 rfl rfl)
theorem dX11_wordOf_335 : decode cX11_wordOf 335 = .ok (.invokestatic 156, 3) := dk_184 0 156 (dk_at dksX11_wordOf_11 12 rfl rfl)
theorem dX11_wordOf_338 : decode cX11_wordOf 338 = .ok (.bipush 115, 2) := dk_16 115 (dk_at dksX11_wordOf_11 15 rfl rfl)
theorem dX11_wordOf_340 : decode cX11_wordOf 340 = .ok (.iconst 0, 1) := dk_3 (dk_at dksX11_wordOf_11 17 rfl rfl)
theorem dX11_wordOf_341 : decode cX11_wordOf 341 = .ok (.iconst 0, 1) := dk_3 (dk_at dksX11_wordOf_11 18 rfl rfl)
theorem dX11_wordOf_342 : decode cX11_wordOf 342 = .ok (.invokestatic 160, 3) := dk_184 0 160 (dk_at dksX11_wordOf_11 19 rfl rfl)
theorem dX11_wordOf_345 : decode cX11_wordOf 345 = .ok (.lreturn, 1) := dk_173 (dk_at dksX11_wordOf_11 22 rfl rfl)
theorem dX11_wordOf_346 : decode cX11_wordOf 346 = .ok (.bipush 97, 2) := dk_16 97 (dk_at dksX11_wordOf_12 0 rfl rfl)
theorem dX11_wordOf_348 : decode cX11_wordOf 348 = .ok (.bipush 110, 2) := dk_16 110 (dk_at dksX11_wordOf_12 2 rfl rfl)
theorem dX11_wordOf_350 : decode cX11_wordOf 350 = .ok (.bipush 121, 2) := dk_16 121 (dk_at dksX11_wordOf_12 4 rfl rfl)
theorem dX11_wordOf_352 : decode cX11_wordOf 352 = .ok (.iconst 0, 1) := dk_3 (dk_at dksX11_wordOf_12 6 rfl rfl)
theorem dX11_wordOf_353 : decode cX11_wordOf 353 = .ok (.invokestatic 156, 3) := dk_184 0 156 (dk_at dksX11_wordOf_12 7 rfl rfl)
theorem dX11_wordOf_356 : decode cX11_wordOf 356 = .ok (.lreturn, 1) := dk_173 (dk_at dksX11_wordOf_12 10 rfl rfl)
theorem dX11_wordOf_357 : decode cX11_wordOf 357 = .ok (.bipush 111, 2) := dk_16 111 (dk_at dksX11_wordOf_12 11 rfl rfl)
theorem dX11_wordOf_359 : decode cX11_wordOf 359 = .ok (.bipush 114, 2) := dk_16 114 (dk_at dksX11_wordOf_12 13 rfl rfl)
theorem dX11_wordOf_361 : decode cX11_wordOf 361 = .ok (.iconst 0, 1) := dk_3 (dk_at dksX11_wordOf_12 15 rfl rfl)
theorem dX11_wordOf_362 : decode cX11_wordOf 362 = .ok (.iconst 0, 1) := dk_3 (dk_at dksX11_wordOf_12 16 rfl rfl)
theorem dX11_wordOf_363 : decode cX11_wordOf 363 = .ok (.invokestatic 156, 3) := dk_184 0 156 (dk_at dksX11_wordOf_12 17 rfl rfl)
theorem dX11_wordOf_366 : decode cX11_wordOf 366 = .ok (.lreturn, 1) := dk_173 (dk_at dksX11_wordOf_12 20 rfl rfl)
theorem dX11_wordOf_367 : decode cX11_wordOf 367 = .ok (.bipush 97, 2) := dk_16 97 (dk_at dksX11_wordOf_12 21 rfl rfl)
theorem dX11_wordOf_369 : decode cX11_wordOf 369 = .ok (.bipush 110, 2) := dk_16 110 (dk_at dksX11_wordOf_13 0 rfl rfl)
theorem dX11_wordOf_371 : decode cX11_wordOf 371 = .ok (.bipush 100, 2) := dk_16 100 (dk_at dksX11_wordOf_13 2 rfl rfl)
theorem dX11_wordOf_373 : decode cX11_wordOf 373 = .ok (.iconst 0, 1) := dk_3 (dk_at dksX11_wordOf_13 4 rfl rfl)
theorem dX11_wordOf_374 : decode cX11_wordOf 374 = .ok (.invokestatic 156, 3) := dk_184 0 156 (dk_at dksX11_wordOf_13 5 rfl rfl)
theorem dX11_wordOf_377 : decode cX11_wordOf 377 = .ok (.lreturn, 1) := dk_173 (dk_at dksX11_wordOf_13 8 rfl rfl)
theorem dX11_wordOf_378 : decode cX11_wordOf 378 = .ok (.bipush 110, 2) := dk_16 110 (dk_at dksX11_wordOf_13 9 rfl rfl)
theorem dX11_wordOf_380 : decode cX11_wordOf 380 = .ok (.bipush 111, 2) := dk_16 111 (dk_at dksX11_wordOf_13 11 rfl rfl)
theorem dX11_wordOf_382 : decode cX11_wordOf 382 = .ok (.bipush 116, 2) := dk_16 116 (dk_at dksX11_wordOf_13 13 rfl rfl)
theorem dX11_wordOf_384 : decode cX11_wordOf 384 = .ok (.iconst 0, 1) := dk_3 (dk_at dksX11_wordOf_13 15 rfl rfl)
theorem dX11_wordOf_385 : decode cX11_wordOf 385 = .ok (.invokestatic 156, 3) := dk_184 0 156 (dk_at dksX11_wordOf_13 16 rfl rfl)
theorem dX11_wordOf_388 : decode cX11_wordOf 388 = .ok (.lreturn, 1) := dk_173 (dk_at dksX11_wordOf_13 19 rfl rfl)
theorem dX11_wordOf_389 : decode cX11_wordOf 389 = .ok (.bipush 98, 2) := dk_16 98 (dk_at dksX11_wordOf_13 20 rfl rfl)
theorem dX11_wordOf_391 : decode cX11_wordOf 391 = .ok (.bipush 121, 2) := dk_16 121 (dk_at dksX11_wordOf_13 22 rfl rfl)
theorem dX11_wordOf_393 : decode cX11_wordOf 393 = .ok (.iconst 0, 1) := dk_3 (dk_at dksX11_wordOf_14 0 rfl rfl)
theorem dX11_wordOf_394 : decode cX11_wordOf 394 = .ok (.iconst 0, 1) := dk_3 (dk_at dksX11_wordOf_14 1 rfl rfl)
theorem dX11_wordOf_395 : decode cX11_wordOf 395 = .ok (.invokestatic 156, 3) := dk_184 0 156 (dk_at dksX11_wordOf_14 2 rfl rfl)
theorem dX11_wordOf_398 : decode cX11_wordOf 398 = .ok (.lreturn, 1) := dk_173 (dk_at dksX11_wordOf_14 5 rfl rfl)
theorem dX11_wordOf_399 : decode cX11_wordOf 399 = .ok (.bipush 116, 2) := dk_16 116 (dk_at dksX11_wordOf_14 6 rfl rfl)
theorem dX11_wordOf_401 : decode cX11_wordOf 401 = .ok (.bipush 111, 2) := dk_16 111 (dk_at dksX11_wordOf_14 8 rfl rfl)
theorem dX11_wordOf_403 : decode cX11_wordOf 403 = .ok (.iconst 0, 1) := dk_3 (dk_at dksX11_wordOf_14 10 rfl rfl)
theorem dX11_wordOf_404 : decode cX11_wordOf 404 = .ok (.iconst 0, 1) := dk_3 (dk_at dksX11_wordOf_14 11 rfl rfl)
theorem dX11_wordOf_405 : decode cX11_wordOf 405 = .ok (.invokestatic 156, 3) := dk_184 0 156 (dk_at dksX11_wordOf_14 12 rfl rfl)
theorem dX11_wordOf_408 : decode cX11_wordOf 408 = .ok (.lreturn, 1) := dk_173 (dk_at dksX11_wordOf_14 15 rfl rfl)
theorem dX11_wordOf_409 : decode cX11_wordOf 409 = .ok (.bipush 105, 2) := dk_16 105 (dk_at dksX11_wordOf_14 16 rfl rfl)
theorem dX11_wordOf_411 : decode cX11_wordOf 411 = .ok (.bipush 115, 2) := dk_16 115 (dk_at dksX11_wordOf_14 18 rfl rfl)
theorem dX11_wordOf_413 : decode cX11_wordOf 413 = .ok (.iconst 0, 1) := dk_3 (dk_at dksX11_wordOf_14 20 rfl rfl)
theorem dX11_wordOf_414 : decode cX11_wordOf 414 = .ok (.iconst 0, 1) := dk_3 (dk_at dksX11_wordOf_14 21 rfl rfl)
theorem dX11_wordOf_415 : decode cX11_wordOf 415 = .ok (.invokestatic 156, 3) := dk_184 0 156 (dk_at dksX11_wordOf_15 0 rfl rfl)
theorem dX11_wordOf_418 : decode cX11_wordOf 418 = .ok (.lreturn, 1) := dk_173 (dk_at dksX11_wordOf_15 3 rfl rfl)
theorem dX11_wordOf_419 : decode cX11_wordOf 419 = .ok (.bipush 112, 2) := dk_16 112 (dk_at dksX11_wordOf_15 4 rfl rfl)
theorem dX11_wordOf_421 : decode cX11_wordOf 421 = .ok (.bipush 108, 2) := dk_16 108 (dk_at dksX11_wordOf_15 6 rfl rfl)
theorem dX11_wordOf_423 : decode cX11_wordOf 423 = .ok (.bipush 97, 2) := dk_16 97 (dk_at dksX11_wordOf_15 8 rfl rfl)
theorem dX11_wordOf_425 : decode cX11_wordOf 425 = .ok (.bipush 99, 2) := dk_16 99 (dk_at dksX11_wordOf_15 10 rfl rfl)
theorem dX11_wordOf_427 : decode cX11_wordOf 427 = .ok (.invokestatic 156, 3) := dk_184 0 156 (dk_at dksX11_wordOf_15 12 rfl rfl)
theorem dX11_wordOf_430 : decode cX11_wordOf 430 = .ok (.bipush 101, 2) := dk_16 101 (dk_at dksX11_wordOf_15 15 rfl rfl)
theorem dX11_wordOf_432 : decode cX11_wordOf 432 = .ok (.iconst 0, 1) := dk_3 (dk_at dksX11_wordOf_15 17 rfl rfl)
theorem dX11_wordOf_433 : decode cX11_wordOf 433 = .ok (.iconst 0, 1) := dk_3 (dk_at dksX11_wordOf_15 18 rfl rfl)
theorem dX11_wordOf_434 : decode cX11_wordOf 434 = .ok (.invokestatic 160, 3) := dk_184 0 160 (dk_at dksX11_wordOf_15 19 rfl rfl)
theorem dX11_wordOf_437 : decode cX11_wordOf 437 = .ok (.lreturn, 1) := dk_173 (dk_at dksX11_wordOf_15 22 rfl rfl)
theorem dX11_wordOf_438 : decode cX11_wordOf 438 = .ok (.bipush 116, 2) := dk_16 116 (dk_at dksX11_wordOf_16 0 rfl rfl)
theorem dX11_wordOf_440 : decode cX11_wordOf 440 = .ok (.bipush 104, 2) := dk_16 104 (dk_at dksX11_wordOf_16 2 rfl rfl)
theorem dX11_wordOf_442 : decode cX11_wordOf 442 = .ok (.bipush 114, 2) := dk_16 114 (dk_at dksX11_wordOf_16 4 rfl rfl)
theorem dX11_wordOf_444 : decode cX11_wordOf 444 = .ok (.bipush 101, 2) := dk_16 101 (dk_at dksX11_wordOf_16 6 rfl rfl)
theorem dX11_wordOf_446 : decode cX11_wordOf 446 = .ok (.invokestatic 156, 3) := dk_184 0 156 (dk_at dksX11_wordOf_16 8 rfl rfl)
theorem dX11_wordOf_449 : decode cX11_wordOf 449 = .ok (.bipush 97, 2) := dk_16 97 (dk_at dksX11_wordOf_16 11 rfl rfl)
theorem dX11_wordOf_451 : decode cX11_wordOf 451 = .ok (.bipush 100, 2) := dk_16 100 (dk_at dksX11_wordOf_16 13 rfl rfl)
theorem dX11_wordOf_453 : decode cX11_wordOf 453 = .ok (.iconst 0, 1) := dk_3 (dk_at dksX11_wordOf_16 15 rfl rfl)
theorem dX11_wordOf_454 : decode cX11_wordOf 454 = .ok (.invokestatic 160, 3) := dk_184 0 160 (dk_at dksX11_wordOf_16 16 rfl rfl)
theorem dX11_wordOf_457 : decode cX11_wordOf 457 = .ok (.lreturn, 1) := dk_173 (dk_at dksX11_wordOf_16 19 rfl rfl)
theorem dX11_wordOf_458 : decode cX11_wordOf 458 = .ok (.bipush 100, 2) := dk_16 100 (dk_at dksX11_wordOf_16 20 rfl rfl)
theorem dX11_wordOf_460 : decode cX11_wordOf 460 = .ok (.bipush 101, 2) := dk_16 101 (dk_at dksX11_wordOf_16 22 rfl rfl)
theorem dX11_wordOf_462 : decode cX11_wordOf 462 = .ok (.bipush 112, 2) := dk_16 112 (dk_at dksX11_wordOf_17 0 rfl rfl)
theorem dX11_wordOf_464 : decode cX11_wordOf 464 = .ok (.bipush 116, 2) := dk_16 116 (dk_at dksX11_wordOf_17 2 rfl rfl)
theorem dX11_wordOf_466 : decode cX11_wordOf 466 = .ok (.invokestatic 156, 3) := dk_184 0 156 (dk_at dksX11_wordOf_17 4 rfl rfl)
theorem dX11_wordOf_469 : decode cX11_wordOf 469 = .ok (.bipush 104, 2) := dk_16 104 (dk_at dksX11_wordOf_17 7 rfl rfl)
theorem dX11_wordOf_471 : decode cX11_wordOf 471 = .ok (.iconst 0, 1) := dk_3 (dk_at dksX11_wordOf_17 9 rfl rfl)
theorem dX11_wordOf_472 : decode cX11_wordOf 472 = .ok (.iconst 0, 1) := dk_3 (dk_at dksX11_wordOf_17 10 rfl rfl)
theorem dX11_wordOf_473 : decode cX11_wordOf 473 = .ok (.invokestatic 160, 3) := dk_184 0 160 (dk_at dksX11_wordOf_17 11 rfl rfl)
theorem dX11_wordOf_476 : decode cX11_wordOf 476 = .ok (.lreturn, 1) := dk_173 (dk_at dksX11_wordOf_17 14 rfl rfl)
theorem dX11_wordOf_477 : decode cX11_wordOf 477 = .ok (.bipush 115, 2) := dk_16 115 (dk_at dksX11_wordOf_17 15 rfl rfl)
theorem dX11_wordOf_479 : decode cX11_wordOf 479 = .ok (.bipush 116, 2) := dk_16 116 (dk_at dksX11_wordOf_17 17 rfl rfl)
theorem dX11_wordOf_481 : decode cX11_wordOf 481 = .ok (.bipush 97, 2) := dk_16 97 (dk_at dksX11_wordOf_17 19 rfl rfl)
theorem dX11_wordOf_483 : decode cX11_wordOf 483 = .ok (.bipush 116, 2) := dk_16 116 (dk_at dksX11_wordOf_17 21 rfl rfl)
theorem dX11_wordOf_485 : decode cX11_wordOf 485 = .ok (.invokestatic 156, 3) := dk_184 0 156 (dk_at dksX11_wordOf_18 0 rfl rfl)
theorem dX11_wordOf_488 : decode cX11_wordOf 488 = .ok (.bipush 101, 2) := dk_16 101 (dk_at dksX11_wordOf_18 3 rfl rfl)
theorem dX11_wordOf_490 : decode cX11_wordOf 490 = .ok (.iconst 0, 1) := dk_3 (dk_at dksX11_wordOf_18 5 rfl rfl)
theorem dX11_wordOf_491 : decode cX11_wordOf 491 = .ok (.iconst 0, 1) := dk_3 (dk_at dksX11_wordOf_18 6 rfl rfl)
theorem dX11_wordOf_492 : decode cX11_wordOf 492 = .ok (.invokestatic 160, 3) := dk_184 0 160 (dk_at dksX11_wordOf_18 7 rfl rfl)
theorem dX11_wordOf_495 : decode cX11_wordOf 495 = .ok (.lreturn, 1) := dk_173 (dk_at dksX11_wordOf_18 10 rfl rfl)
abbrev cX11_spelt : ByteArray := prog_21_method_14_code
def yX11_spelt : MethodName := ⟨RX11, "spelt", "(IIII)J"⟩
def dkwX11_spelt_2 : List UInt8 := [105, 29, 133, 97, 20, 0, 154, 101, 167, 0, 5, 22, 4, 173]
abbrev dktX11_spelt_2 : List UInt8 := dkwX11_spelt_2 ++ []
def dkwX11_spelt_1 : List UInt8 := [20, 0, 152, 22, 4, 105, 28, 133, 97, 20, 0, 154, 101, 55, 4, 29, 158, 0, 19, 20, 0, 152, 22, 4]
abbrev dktX11_spelt_1 : List UInt8 := dkwX11_spelt_1 ++ dktX11_spelt_2
def dkwX11_spelt_0 : List UInt8 := [20, 0, 152, 26, 133, 20, 0, 154, 101, 105, 27, 133, 97, 20, 0, 154, 101, 55, 4, 28, 158, 0, 18]
abbrev dktX11_spelt_0 : List UInt8 := dkwX11_spelt_0 ++ dktX11_spelt_1
theorem dksX11_spelt_0 : cX11_spelt.data.toList.drop 0 = dktX11_spelt_0 := by decide +kernel
theorem dksX11_spelt_1 : cX11_spelt.data.toList.drop 23 = dktX11_spelt_1 := dk_seg dksX11_spelt_0 23 rfl rfl
theorem dksX11_spelt_2 : cX11_spelt.data.toList.drop 47 = dktX11_spelt_2 := dk_seg dksX11_spelt_1 24 rfl rfl
theorem dX11_spelt_0 : decode cX11_spelt 0 = .ok (.ldc2_w 152, 3) := dk_20 0 152 (dk_at dksX11_spelt_0 0 rfl rfl)
theorem dX11_spelt_3 : decode cX11_spelt 3 = .ok (.iload_n 0, 1) := dk_26 (dk_at dksX11_spelt_0 3 rfl rfl)
theorem dX11_spelt_4 : decode cX11_spelt 4 = .ok (.i2l, 1) := dk_133 (dk_at dksX11_spelt_0 4 rfl rfl)
theorem dX11_spelt_5 : decode cX11_spelt 5 = .ok (.ldc2_w 154, 3) := dk_20 0 154 (dk_at dksX11_spelt_0 5 rfl rfl)
theorem dX11_spelt_8 : decode cX11_spelt 8 = .ok (.lsub, 1) := dk_101 (dk_at dksX11_spelt_0 8 rfl rfl)
theorem dX11_spelt_9 : decode cX11_spelt 9 = .ok (.lmul, 1) := dk_105 (dk_at dksX11_spelt_0 9 rfl rfl)
theorem dX11_spelt_10 : decode cX11_spelt 10 = .ok (.iload_n 1, 1) := dk_27 (dk_at dksX11_spelt_0 10 rfl rfl)
theorem dX11_spelt_11 : decode cX11_spelt 11 = .ok (.i2l, 1) := dk_133 (dk_at dksX11_spelt_0 11 rfl rfl)
theorem dX11_spelt_12 : decode cX11_spelt 12 = .ok (.ladd, 1) := dk_97 (dk_at dksX11_spelt_0 12 rfl rfl)
theorem dX11_spelt_13 : decode cX11_spelt 13 = .ok (.ldc2_w 154, 3) := dk_20 0 154 (dk_at dksX11_spelt_0 13 rfl rfl)
theorem dX11_spelt_16 : decode cX11_spelt 16 = .ok (.lsub, 1) := dk_101 (dk_at dksX11_spelt_0 16 rfl rfl)
theorem dX11_spelt_17 : decode cX11_spelt 17 = .ok (.lstore 4, 2) := dk_55 4 (dk_at dksX11_spelt_0 17 rfl rfl)
theorem dX11_spelt_19 : decode cX11_spelt 19 = .ok (.iload_n 2, 1) := dk_28 (dk_at dksX11_spelt_0 19 rfl rfl)
theorem dX11_spelt_20 : decode cX11_spelt 20 = .ok (.ifCond .le 18, 3) := dk_158 0 18 (dk_at dksX11_spelt_0 20 rfl rfl)
theorem dX11_spelt_23 : decode cX11_spelt 23 = .ok (.ldc2_w 152, 3) := dk_20 0 152 (dk_at dksX11_spelt_1 0 rfl rfl)
theorem dX11_spelt_26 : decode cX11_spelt 26 = .ok (.lload 4, 2) := dk_22 4 (dk_at dksX11_spelt_1 3 rfl rfl)
theorem dX11_spelt_28 : decode cX11_spelt 28 = .ok (.lmul, 1) := dk_105 (dk_at dksX11_spelt_1 5 rfl rfl)
theorem dX11_spelt_29 : decode cX11_spelt 29 = .ok (.iload_n 2, 1) := dk_28 (dk_at dksX11_spelt_1 6 rfl rfl)
theorem dX11_spelt_30 : decode cX11_spelt 30 = .ok (.i2l, 1) := dk_133 (dk_at dksX11_spelt_1 7 rfl rfl)
theorem dX11_spelt_31 : decode cX11_spelt 31 = .ok (.ladd, 1) := dk_97 (dk_at dksX11_spelt_1 8 rfl rfl)
theorem dX11_spelt_32 : decode cX11_spelt 32 = .ok (.ldc2_w 154, 3) := dk_20 0 154 (dk_at dksX11_spelt_1 9 rfl rfl)
theorem dX11_spelt_35 : decode cX11_spelt 35 = .ok (.lsub, 1) := dk_101 (dk_at dksX11_spelt_1 12 rfl rfl)
theorem dX11_spelt_36 : decode cX11_spelt 36 = .ok (.lstore 4, 2) := dk_55 4 (dk_at dksX11_spelt_1 13 rfl rfl)
theorem dX11_spelt_38 : decode cX11_spelt 38 = .ok (.iload_n 3, 1) := dk_29 (dk_at dksX11_spelt_1 15 rfl rfl)
theorem dX11_spelt_39 : decode cX11_spelt 39 = .ok (.ifCond .le 19, 3) := dk_158 0 19 (dk_at dksX11_spelt_1 16 rfl rfl)
theorem dX11_spelt_42 : decode cX11_spelt 42 = .ok (.ldc2_w 152, 3) := dk_20 0 152 (dk_at dksX11_spelt_1 19 rfl rfl)
theorem dX11_spelt_45 : decode cX11_spelt 45 = .ok (.lload 4, 2) := dk_22 4 (dk_at dksX11_spelt_1 22 rfl rfl)
theorem dX11_spelt_47 : decode cX11_spelt 47 = .ok (.lmul, 1) := dk_105 (dk_at dksX11_spelt_2 0 rfl rfl)
theorem dX11_spelt_48 : decode cX11_spelt 48 = .ok (.iload_n 3, 1) := dk_29 (dk_at dksX11_spelt_2 1 rfl rfl)
theorem dX11_spelt_49 : decode cX11_spelt 49 = .ok (.i2l, 1) := dk_133 (dk_at dksX11_spelt_2 2 rfl rfl)
theorem dX11_spelt_50 : decode cX11_spelt 50 = .ok (.ladd, 1) := dk_97 (dk_at dksX11_spelt_2 3 rfl rfl)
theorem dX11_spelt_51 : decode cX11_spelt 51 = .ok (.ldc2_w 154, 3) := dk_20 0 154 (dk_at dksX11_spelt_2 4 rfl rfl)
theorem dX11_spelt_54 : decode cX11_spelt 54 = .ok (.lsub, 1) := dk_101 (dk_at dksX11_spelt_2 7 rfl rfl)
theorem dX11_spelt_55 : decode cX11_spelt 55 = .ok (.goto 5, 3) := dk_167 0 5 (dk_at dksX11_spelt_2 8 rfl rfl)
theorem dX11_spelt_58 : decode cX11_spelt 58 = .ok (.lload 4, 2) := dk_22 4 (dk_at dksX11_spelt_2 11 rfl rfl)
theorem dX11_spelt_60 : decode cX11_spelt 60 = .ok (.lreturn, 1) := dk_173 (dk_at dksX11_spelt_2 13 rfl rfl)
abbrev cX11_on : ByteArray := prog_21_method_15_code
def yX11_on : MethodName := ⟨RX11, "on", "(JIII)J"⟩
def dkwX11_on_2 : List UInt8 := [20, 0, 154, 101, 167, 0, 5, 22, 5, 173]
abbrev dktX11_on_2 : List UInt8 := dkwX11_on_2 ++ []
def dkwX11_on_1 : List UInt8 := [29, 133, 97, 20, 0, 154, 101, 55, 5, 21, 4, 158, 0, 20, 20, 0, 152, 22, 5, 105, 21, 4, 133, 97]
abbrev dktX11_on_1 : List UInt8 := dkwX11_on_1 ++ dktX11_on_2
def dkwX11_on_0 : List UInt8 := [20, 0, 152, 30, 105, 28, 133, 97, 20, 0, 154, 101, 55, 5, 29, 158, 0, 18, 20, 0, 152, 22, 5, 105]
abbrev dktX11_on_0 : List UInt8 := dkwX11_on_0 ++ dktX11_on_1
theorem dksX11_on_0 : cX11_on.data.toList.drop 0 = dktX11_on_0 := by decide +kernel
theorem dksX11_on_1 : cX11_on.data.toList.drop 24 = dktX11_on_1 := dk_seg dksX11_on_0 24 rfl rfl
theorem dksX11_on_2 : cX11_on.data.toList.drop 48 = dktX11_on_2 := dk_seg dksX11_on_1 24 rfl rfl
theorem dX11_on_0 : decode cX11_on 0 = .ok (.ldc2_w 152, 3) := dk_20 0 152 (dk_at dksX11_on_0 0 rfl rfl)
theorem dX11_on_3 : decode cX11_on 3 = .ok (.lload_n 0, 1) := dk_30 (dk_at dksX11_on_0 3 rfl rfl)
theorem dX11_on_4 : decode cX11_on 4 = .ok (.lmul, 1) := dk_105 (dk_at dksX11_on_0 4 rfl rfl)
theorem dX11_on_5 : decode cX11_on 5 = .ok (.iload_n 2, 1) := dk_28 (dk_at dksX11_on_0 5 rfl rfl)
theorem dX11_on_6 : decode cX11_on 6 = .ok (.i2l, 1) := dk_133 (dk_at dksX11_on_0 6 rfl rfl)
theorem dX11_on_7 : decode cX11_on 7 = .ok (.ladd, 1) := dk_97 (dk_at dksX11_on_0 7 rfl rfl)
theorem dX11_on_8 : decode cX11_on 8 = .ok (.ldc2_w 154, 3) := dk_20 0 154 (dk_at dksX11_on_0 8 rfl rfl)
theorem dX11_on_11 : decode cX11_on 11 = .ok (.lsub, 1) := dk_101 (dk_at dksX11_on_0 11 rfl rfl)
theorem dX11_on_12 : decode cX11_on 12 = .ok (.lstore 5, 2) := dk_55 5 (dk_at dksX11_on_0 12 rfl rfl)
theorem dX11_on_14 : decode cX11_on 14 = .ok (.iload_n 3, 1) := dk_29 (dk_at dksX11_on_0 14 rfl rfl)
theorem dX11_on_15 : decode cX11_on 15 = .ok (.ifCond .le 18, 3) := dk_158 0 18 (dk_at dksX11_on_0 15 rfl rfl)
theorem dX11_on_18 : decode cX11_on 18 = .ok (.ldc2_w 152, 3) := dk_20 0 152 (dk_at dksX11_on_0 18 rfl rfl)
theorem dX11_on_21 : decode cX11_on 21 = .ok (.lload 5, 2) := dk_22 5 (dk_at dksX11_on_0 21 rfl rfl)
theorem dX11_on_23 : decode cX11_on 23 = .ok (.lmul, 1) := dk_105 (dk_at dksX11_on_0 23 rfl rfl)
theorem dX11_on_24 : decode cX11_on 24 = .ok (.iload_n 3, 1) := dk_29 (dk_at dksX11_on_1 0 rfl rfl)
theorem dX11_on_25 : decode cX11_on 25 = .ok (.i2l, 1) := dk_133 (dk_at dksX11_on_1 1 rfl rfl)
theorem dX11_on_26 : decode cX11_on 26 = .ok (.ladd, 1) := dk_97 (dk_at dksX11_on_1 2 rfl rfl)
theorem dX11_on_27 : decode cX11_on 27 = .ok (.ldc2_w 154, 3) := dk_20 0 154 (dk_at dksX11_on_1 3 rfl rfl)
theorem dX11_on_30 : decode cX11_on 30 = .ok (.lsub, 1) := dk_101 (dk_at dksX11_on_1 6 rfl rfl)
theorem dX11_on_31 : decode cX11_on 31 = .ok (.lstore 5, 2) := dk_55 5 (dk_at dksX11_on_1 7 rfl rfl)
theorem dX11_on_33 : decode cX11_on 33 = .ok (.iload 4, 2) := dk_21 4 (dk_at dksX11_on_1 9 rfl rfl)
theorem dX11_on_35 : decode cX11_on 35 = .ok (.ifCond .le 20, 3) := dk_158 0 20 (dk_at dksX11_on_1 11 rfl rfl)
theorem dX11_on_38 : decode cX11_on 38 = .ok (.ldc2_w 152, 3) := dk_20 0 152 (dk_at dksX11_on_1 14 rfl rfl)
theorem dX11_on_41 : decode cX11_on 41 = .ok (.lload 5, 2) := dk_22 5 (dk_at dksX11_on_1 17 rfl rfl)
theorem dX11_on_43 : decode cX11_on 43 = .ok (.lmul, 1) := dk_105 (dk_at dksX11_on_1 19 rfl rfl)
theorem dX11_on_44 : decode cX11_on 44 = .ok (.iload 4, 2) := dk_21 4 (dk_at dksX11_on_1 20 rfl rfl)
theorem dX11_on_46 : decode cX11_on 46 = .ok (.i2l, 1) := dk_133 (dk_at dksX11_on_1 22 rfl rfl)
theorem dX11_on_47 : decode cX11_on 47 = .ok (.ladd, 1) := dk_97 (dk_at dksX11_on_1 23 rfl rfl)
theorem dX11_on_48 : decode cX11_on 48 = .ok (.ldc2_w 154, 3) := dk_20 0 154 (dk_at dksX11_on_2 0 rfl rfl)
theorem dX11_on_51 : decode cX11_on 51 = .ok (.lsub, 1) := dk_101 (dk_at dksX11_on_2 3 rfl rfl)
theorem dX11_on_52 : decode cX11_on 52 = .ok (.goto 5, 3) := dk_167 0 5 (dk_at dksX11_on_2 4 rfl rfl)
theorem dX11_on_55 : decode cX11_on 55 = .ok (.lload 5, 2) := dk_22 5 (dk_at dksX11_on_2 7 rfl rfl)
theorem dX11_on_57 : decode cX11_on 57 = .ok (.lreturn, 1) := dk_173 (dk_at dksX11_on_2 9 rfl rfl)
abbrev cX11_readWho : ByteArray := prog_21_method_26_code
def yX11_readWho : MethodName := ⟨RX11, "readWho", "()Z"⟩
def dkwX11_readWho_2 : List UInt8 := [16, 12, 27, 96, 42, 180, 0, 181, 79, 42, 180, 0, 16, 3, 92, 46, 4, 96, 79, 4, 172]
abbrev dktX11_readWho_2 : List UInt8 := dkwX11_readWho_2 ++ []
def dkwX11_readWho_1 : List UInt8 := [27, 182, 0, 202, 153, 0, 13, 42, 4, 16, 6, 182, 0, 205, 154, 0, 5, 3, 172, 42, 180, 0, 16]
abbrev dktX11_readWho_1 : List UInt8 := dkwX11_readWho_1 ++ dktX11_readWho_2
def dkwX11_readWho_0 : List UInt8 := [42, 180, 0, 16, 3, 46, 60, 27, 16, 8, 160, 0, 9, 42, 7, 182, 0, 174, 172, 42, 182, 0, 184, 42]
abbrev dktX11_readWho_0 : List UInt8 := dkwX11_readWho_0 ++ dktX11_readWho_1
theorem dksX11_readWho_0 : cX11_readWho.data.toList.drop 0 = dktX11_readWho_0 := by decide +kernel
theorem dksX11_readWho_1 : cX11_readWho.data.toList.drop 24 = dktX11_readWho_1 := dk_seg dksX11_readWho_0 24 rfl rfl
theorem dksX11_readWho_2 : cX11_readWho.data.toList.drop 47 = dktX11_readWho_2 := dk_seg dksX11_readWho_1 23 rfl rfl
theorem dX11_readWho_0 : decode cX11_readWho 0 = .ok (.aload_n 0, 1) := dk_42 (dk_at dksX11_readWho_0 0 rfl rfl)
theorem dX11_readWho_1 : decode cX11_readWho 1 = .ok (.getfield 16, 3) := dk_180 0 16 (dk_at dksX11_readWho_0 1 rfl rfl)
theorem dX11_readWho_4 : decode cX11_readWho 4 = .ok (.iconst 0, 1) := dk_3 (dk_at dksX11_readWho_0 4 rfl rfl)
theorem dX11_readWho_5 : decode cX11_readWho 5 = .ok (.iaload, 1) := dk_46 (dk_at dksX11_readWho_0 5 rfl rfl)
theorem dX11_readWho_6 : decode cX11_readWho 6 = .ok (.istore_n 1, 1) := dk_60 (dk_at dksX11_readWho_0 6 rfl rfl)
theorem dX11_readWho_7 : decode cX11_readWho 7 = .ok (.iload_n 1, 1) := dk_27 (dk_at dksX11_readWho_0 7 rfl rfl)
theorem dX11_readWho_8 : decode cX11_readWho 8 = .ok (.bipush 8, 2) := dk_16 8 (dk_at dksX11_readWho_0 8 rfl rfl)
theorem dX11_readWho_10 : decode cX11_readWho 10 = .ok (.if_icmp .ne 9, 3) := dk_160 0 9 (dk_at dksX11_readWho_0 10 rfl rfl)
theorem dX11_readWho_13 : decode cX11_readWho 13 = .ok (.aload_n 0, 1) := dk_42 (dk_at dksX11_readWho_0 13 rfl rfl)
theorem dX11_readWho_14 : decode cX11_readWho 14 = .ok (.iconst 4, 1) := dk_7 (dk_at dksX11_readWho_0 14 rfl rfl)
theorem dX11_readWho_15 : decode cX11_readWho 15 = .ok (.invokevirtual 174, 3) := dk_182 0 174 (dk_at dksX11_readWho_0 15 rfl rfl)
theorem dX11_readWho_18 : decode cX11_readWho 18 = .ok (.ireturn, 1) := dk_172 (dk_at dksX11_readWho_0 18 rfl rfl)
theorem dX11_readWho_19 : decode cX11_readWho 19 = .ok (.aload_n 0, 1) := dk_42 (dk_at dksX11_readWho_0 19 rfl rfl)
theorem dX11_readWho_20 : decode cX11_readWho 20 = .ok (.invokevirtual 184, 3) := dk_182 0 184 (dk_at dksX11_readWho_0 20 rfl rfl)
theorem dX11_readWho_23 : decode cX11_readWho 23 = .ok (.aload_n 0, 1) := dk_42 (dk_at dksX11_readWho_0 23 rfl rfl)
theorem dX11_readWho_24 : decode cX11_readWho 24 = .ok (.iload_n 1, 1) := dk_27 (dk_at dksX11_readWho_1 0 rfl rfl)
theorem dX11_readWho_25 : decode cX11_readWho 25 = .ok (.invokevirtual 202, 3) := dk_182 0 202 (dk_at dksX11_readWho_1 1 rfl rfl)
theorem dX11_readWho_28 : decode cX11_readWho 28 = .ok (.ifCond .eq 13, 3) := dk_153 0 13 (dk_at dksX11_readWho_1 4 rfl rfl)
theorem dX11_readWho_31 : decode cX11_readWho 31 = .ok (.aload_n 0, 1) := dk_42 (dk_at dksX11_readWho_1 7 rfl rfl)
theorem dX11_readWho_32 : decode cX11_readWho 32 = .ok (.iconst 1, 1) := dk_4 (dk_at dksX11_readWho_1 8 rfl rfl)
theorem dX11_readWho_33 : decode cX11_readWho 33 = .ok (.bipush 6, 2) := dk_16 6 (dk_at dksX11_readWho_1 9 rfl rfl)
theorem dX11_readWho_35 : decode cX11_readWho 35 = .ok (.invokevirtual 205, 3) := dk_182 0 205 (dk_at dksX11_readWho_1 11 rfl rfl)
theorem dX11_readWho_38 : decode cX11_readWho 38 = .ok (.ifCond .ne 5, 3) := dk_154 0 5 (dk_at dksX11_readWho_1 14 rfl rfl)
theorem dX11_readWho_41 : decode cX11_readWho 41 = .ok (.iconst 0, 1) := dk_3 (dk_at dksX11_readWho_1 17 rfl rfl)
theorem dX11_readWho_42 : decode cX11_readWho 42 = .ok (.ireturn, 1) := dk_172 (dk_at dksX11_readWho_1 18 rfl rfl)
theorem dX11_readWho_43 : decode cX11_readWho 43 = .ok (.aload_n 0, 1) := dk_42 (dk_at dksX11_readWho_1 19 rfl rfl)
theorem dX11_readWho_44 : decode cX11_readWho 44 = .ok (.getfield 16, 3) := dk_180 0 16 (dk_at dksX11_readWho_1 20 rfl rfl)
theorem dX11_readWho_47 : decode cX11_readWho 47 = .ok (.bipush 12, 2) := dk_16 12 (dk_at dksX11_readWho_2 0 rfl rfl)
theorem dX11_readWho_49 : decode cX11_readWho 49 = .ok (.iload_n 1, 1) := dk_27 (dk_at dksX11_readWho_2 2 rfl rfl)
theorem dX11_readWho_50 : decode cX11_readWho 50 = .ok (.iadd, 1) := dk_96 (dk_at dksX11_readWho_2 3 rfl rfl)
theorem dX11_readWho_51 : decode cX11_readWho 51 = .ok (.aload_n 0, 1) := dk_42 (dk_at dksX11_readWho_2 4 rfl rfl)
theorem dX11_readWho_52 : decode cX11_readWho 52 = .ok (.getfield 181, 3) := dk_180 0 181 (dk_at dksX11_readWho_2 5 rfl rfl)
theorem dX11_readWho_55 : decode cX11_readWho 55 = .ok (.iastore, 1) := dk_79 (dk_at dksX11_readWho_2 8 rfl rfl)
theorem dX11_readWho_56 : decode cX11_readWho 56 = .ok (.aload_n 0, 1) := dk_42 (dk_at dksX11_readWho_2 9 rfl rfl)
theorem dX11_readWho_57 : decode cX11_readWho 57 = .ok (.getfield 16, 3) := dk_180 0 16 (dk_at dksX11_readWho_2 10 rfl rfl)
theorem dX11_readWho_60 : decode cX11_readWho 60 = .ok (.iconst 0, 1) := dk_3 (dk_at dksX11_readWho_2 13 rfl rfl)
theorem dX11_readWho_61 : decode cX11_readWho 61 = .ok (.dup2, 1) := dk_92 (dk_at dksX11_readWho_2 14 rfl rfl)
theorem dX11_readWho_62 : decode cX11_readWho 62 = .ok (.iaload, 1) := dk_46 (dk_at dksX11_readWho_2 15 rfl rfl)
theorem dX11_readWho_63 : decode cX11_readWho 63 = .ok (.iconst 1, 1) := dk_4 (dk_at dksX11_readWho_2 16 rfl rfl)
theorem dX11_readWho_64 : decode cX11_readWho 64 = .ok (.iadd, 1) := dk_96 (dk_at dksX11_readWho_2 17 rfl rfl)
theorem dX11_readWho_65 : decode cX11_readWho 65 = .ok (.iastore, 1) := dk_79 (dk_at dksX11_readWho_2 18 rfl rfl)
theorem dX11_readWho_66 : decode cX11_readWho 66 = .ok (.iconst 1, 1) := dk_4 (dk_at dksX11_readWho_2 19 rfl rfl)
theorem dX11_readWho_67 : decode cX11_readWho 67 = .ok (.ireturn, 1) := dk_172 (dk_at dksX11_readWho_2 20 rfl rfl)
abbrev cX11_bad : ByteArray := prog_21_method_20_code
def yX11_bad : MethodName := ⟨RX11, "bad", "(I)Z"⟩
def dkwX11_bad_1 : List UInt8 := [181, 0, 171, 3, 172]
abbrev dktX11_bad_1 : List UInt8 := dkwX11_bad_1 ++ []
def dkwX11_bad_0 : List UInt8 := [42, 42, 180, 0, 128, 4, 160, 0, 7, 4, 167, 0, 4, 27, 181, 0, 168, 42, 42, 180, 0, 122]
abbrev dktX11_bad_0 : List UInt8 := dkwX11_bad_0 ++ dktX11_bad_1
theorem dksX11_bad_0 : cX11_bad.data.toList.drop 0 = dktX11_bad_0 := by decide +kernel
theorem dksX11_bad_1 : cX11_bad.data.toList.drop 22 = dktX11_bad_1 := dk_seg dksX11_bad_0 22 rfl rfl
theorem dX11_bad_0 : decode cX11_bad 0 = .ok (.aload_n 0, 1) := dk_42 (dk_at dksX11_bad_0 0 rfl rfl)
theorem dX11_bad_1 : decode cX11_bad 1 = .ok (.aload_n 0, 1) := dk_42 (dk_at dksX11_bad_0 1 rfl rfl)
theorem dX11_bad_2 : decode cX11_bad 2 = .ok (.getfield 128, 3) := dk_180 0 128 (dk_at dksX11_bad_0 2 rfl rfl)
theorem dX11_bad_5 : decode cX11_bad 5 = .ok (.iconst 1, 1) := dk_4 (dk_at dksX11_bad_0 5 rfl rfl)
theorem dX11_bad_6 : decode cX11_bad 6 = .ok (.if_icmp .ne 7, 3) := dk_160 0 7 (dk_at dksX11_bad_0 6 rfl rfl)
theorem dX11_bad_9 : decode cX11_bad 9 = .ok (.iconst 1, 1) := dk_4 (dk_at dksX11_bad_0 9 rfl rfl)
theorem dX11_bad_10 : decode cX11_bad 10 = .ok (.goto 4, 3) := dk_167 0 4 (dk_at dksX11_bad_0 10 rfl rfl)
theorem dX11_bad_13 : decode cX11_bad 13 = .ok (.iload_n 1, 1) := dk_27 (dk_at dksX11_bad_0 13 rfl rfl)
theorem dX11_bad_14 : decode cX11_bad 14 = .ok (.putfield 168, 3) := dk_181 0 168 (dk_at dksX11_bad_0 14 rfl rfl)
theorem dX11_bad_17 : decode cX11_bad 17 = .ok (.aload_n 0, 1) := dk_42 (dk_at dksX11_bad_0 17 rfl rfl)
theorem dX11_bad_18 : decode cX11_bad 18 = .ok (.aload_n 0, 1) := dk_42 (dk_at dksX11_bad_0 18 rfl rfl)
theorem dX11_bad_19 : decode cX11_bad 19 = .ok (.getfield 122, 3) := dk_180 0 122 (dk_at dksX11_bad_0 19 rfl rfl)
theorem dX11_bad_22 : decode cX11_bad 22 = .ok (.putfield 171, 3) := dk_181 0 171 (dk_at dksX11_bad_1 0 rfl rfl)
theorem dX11_bad_25 : decode cX11_bad 25 = .ok (.iconst 0, 1) := dk_3 (dk_at dksX11_bad_1 3 rfl rfl)
theorem dX11_bad_26 : decode cX11_bad 26 = .ok (.ireturn, 1) := dk_172 (dk_at dksX11_bad_1 4 rfl rfl)
abbrev cX11_readNew : ByteArray := prog_21_method_25_code
def yX11_readNew : MethodName := ⟨RX11, "readNew", "(I)Z"⟩
def dkwX11_readNew_3 : List UInt8 := [4, 172]
abbrev dktX11_readNew_3 : List UInt8 := dkwX11_readNew_3 ++ []
def dkwX11_readNew_2 : List UInt8 := [2, 159, 0, 9, 42, 6, 182, 0, 174, 172, 42, 180, 0, 29, 27, 42, 180, 0, 141, 80, 42, 182, 0, 184]
abbrev dktX11_readNew_2 : List UInt8 := dkwX11_readNew_2 ++ dktX11_readNew_3
def dkwX11_readNew_1 : List UInt8 := [46, 182, 0, 198, 2, 160, 0, 23, 42, 42, 180, 0, 29, 16, 8, 42, 180, 0, 16, 4, 46, 182, 0, 198]
abbrev dktX11_readNew_1 : List UInt8 := dkwX11_readNew_1 ++ dktX11_readNew_2
def dkwX11_readNew_0 : List UInt8 := [42, 182, 0, 194, 154, 0, 9, 42, 4, 182, 0, 174, 172, 42, 42, 180, 0, 29, 3, 42, 180, 0, 16, 3]
abbrev dktX11_readNew_0 : List UInt8 := dkwX11_readNew_0 ++ dktX11_readNew_1
theorem dksX11_readNew_0 : cX11_readNew.data.toList.drop 0 = dktX11_readNew_0 := by decide +kernel
theorem dksX11_readNew_1 : cX11_readNew.data.toList.drop 24 = dktX11_readNew_1 := dk_seg dksX11_readNew_0 24 rfl rfl
theorem dksX11_readNew_2 : cX11_readNew.data.toList.drop 48 = dktX11_readNew_2 := dk_seg dksX11_readNew_1 24 rfl rfl
theorem dksX11_readNew_3 : cX11_readNew.data.toList.drop 72 = dktX11_readNew_3 := dk_seg dksX11_readNew_2 24 rfl rfl
theorem dX11_readNew_0 : decode cX11_readNew 0 = .ok (.aload_n 0, 1) := dk_42 (dk_at dksX11_readNew_0 0 rfl rfl)
theorem dX11_readNew_1 : decode cX11_readNew 1 = .ok (.invokevirtual 194, 3) := dk_182 0 194 (dk_at dksX11_readNew_0 1 rfl rfl)
theorem dX11_readNew_4 : decode cX11_readNew 4 = .ok (.ifCond .ne 9, 3) := dk_154 0 9 (dk_at dksX11_readNew_0 4 rfl rfl)
theorem dX11_readNew_7 : decode cX11_readNew 7 = .ok (.aload_n 0, 1) := dk_42 (dk_at dksX11_readNew_0 7 rfl rfl)
theorem dX11_readNew_8 : decode cX11_readNew 8 = .ok (.iconst 1, 1) := dk_4 (dk_at dksX11_readNew_0 8 rfl rfl)
theorem dX11_readNew_9 : decode cX11_readNew 9 = .ok (.invokevirtual 174, 3) := dk_182 0 174 (dk_at dksX11_readNew_0 9 rfl rfl)
theorem dX11_readNew_12 : decode cX11_readNew 12 = .ok (.ireturn, 1) := dk_172 (dk_at dksX11_readNew_0 12 rfl rfl)
theorem dX11_readNew_13 : decode cX11_readNew 13 = .ok (.aload_n 0, 1) := dk_42 (dk_at dksX11_readNew_0 13 rfl rfl)
theorem dX11_readNew_14 : decode cX11_readNew 14 = .ok (.aload_n 0, 1) := dk_42 (dk_at dksX11_readNew_0 14 rfl rfl)
theorem dX11_readNew_15 : decode cX11_readNew 15 = .ok (.getfield 29, 3) := dk_180 0 29 (dk_at dksX11_readNew_0 15 rfl rfl)
theorem dX11_readNew_18 : decode cX11_readNew 18 = .ok (.iconst 0, 1) := dk_3 (dk_at dksX11_readNew_0 18 rfl rfl)
theorem dX11_readNew_19 : decode cX11_readNew 19 = .ok (.aload_n 0, 1) := dk_42 (dk_at dksX11_readNew_0 19 rfl rfl)
theorem dX11_readNew_20 : decode cX11_readNew 20 = .ok (.getfield 16, 3) := dk_180 0 16 (dk_at dksX11_readNew_0 20 rfl rfl)
theorem dX11_readNew_23 : decode cX11_readNew 23 = .ok (.iconst 0, 1) := dk_3 (dk_at dksX11_readNew_0 23 rfl rfl)
theorem dX11_readNew_24 : decode cX11_readNew 24 = .ok (.iaload, 1) := dk_46 (dk_at dksX11_readNew_1 0 rfl rfl)
theorem dX11_readNew_25 : decode cX11_readNew 25 = .ok (.invokevirtual 198, 3) := dk_182 0 198 (dk_at dksX11_readNew_1 1 rfl rfl)
theorem dX11_readNew_28 : decode cX11_readNew 28 = .ok (.iconst (-1), 1) := dk_2 (dk_at dksX11_readNew_1 4 rfl rfl)
theorem dX11_readNew_29 : decode cX11_readNew 29 = .ok (.if_icmp .ne 23, 3) := dk_160 0 23 (dk_at dksX11_readNew_1 5 rfl rfl)
theorem dX11_readNew_32 : decode cX11_readNew 32 = .ok (.aload_n 0, 1) := dk_42 (dk_at dksX11_readNew_1 8 rfl rfl)
theorem dX11_readNew_33 : decode cX11_readNew 33 = .ok (.aload_n 0, 1) := dk_42 (dk_at dksX11_readNew_1 9 rfl rfl)
theorem dX11_readNew_34 : decode cX11_readNew 34 = .ok (.getfield 29, 3) := dk_180 0 29 (dk_at dksX11_readNew_1 10 rfl rfl)
theorem dX11_readNew_37 : decode cX11_readNew 37 = .ok (.bipush 8, 2) := dk_16 8 (dk_at dksX11_readNew_1 13 rfl rfl)
theorem dX11_readNew_39 : decode cX11_readNew 39 = .ok (.aload_n 0, 1) := dk_42 (dk_at dksX11_readNew_1 15 rfl rfl)
theorem dX11_readNew_40 : decode cX11_readNew 40 = .ok (.getfield 16, 3) := dk_180 0 16 (dk_at dksX11_readNew_1 16 rfl rfl)
theorem dX11_readNew_43 : decode cX11_readNew 43 = .ok (.iconst 1, 1) := dk_4 (dk_at dksX11_readNew_1 19 rfl rfl)
theorem dX11_readNew_44 : decode cX11_readNew 44 = .ok (.iaload, 1) := dk_46 (dk_at dksX11_readNew_1 20 rfl rfl)
theorem dX11_readNew_45 : decode cX11_readNew 45 = .ok (.invokevirtual 198, 3) := dk_182 0 198 (dk_at dksX11_readNew_1 21 rfl rfl)
theorem dX11_readNew_48 : decode cX11_readNew 48 = .ok (.iconst (-1), 1) := dk_2 (dk_at dksX11_readNew_2 0 rfl rfl)
theorem dX11_readNew_49 : decode cX11_readNew 49 = .ok (.if_icmp .eq 9, 3) := dk_159 0 9 (dk_at dksX11_readNew_2 1 rfl rfl)
theorem dX11_readNew_52 : decode cX11_readNew 52 = .ok (.aload_n 0, 1) := dk_42 (dk_at dksX11_readNew_2 4 rfl rfl)
theorem dX11_readNew_53 : decode cX11_readNew 53 = .ok (.iconst 3, 1) := dk_6 (dk_at dksX11_readNew_2 5 rfl rfl)
theorem dX11_readNew_54 : decode cX11_readNew 54 = .ok (.invokevirtual 174, 3) := dk_182 0 174 (dk_at dksX11_readNew_2 6 rfl rfl)
theorem dX11_readNew_57 : decode cX11_readNew 57 = .ok (.ireturn, 1) := dk_172 (dk_at dksX11_readNew_2 9 rfl rfl)
theorem dX11_readNew_58 : decode cX11_readNew 58 = .ok (.aload_n 0, 1) := dk_42 (dk_at dksX11_readNew_2 10 rfl rfl)
theorem dX11_readNew_59 : decode cX11_readNew 59 = .ok (.getfield 29, 3) := dk_180 0 29 (dk_at dksX11_readNew_2 11 rfl rfl)
theorem dX11_readNew_62 : decode cX11_readNew 62 = .ok (.iload_n 1, 1) := dk_27 (dk_at dksX11_readNew_2 14 rfl rfl)
theorem dX11_readNew_63 : decode cX11_readNew 63 = .ok (.aload_n 0, 1) := dk_42 (dk_at dksX11_readNew_2 15 rfl rfl)
theorem dX11_readNew_64 : decode cX11_readNew 64 = .ok (.getfield 141, 3) := dk_180 0 141 (dk_at dksX11_readNew_2 16 rfl rfl)
theorem dX11_readNew_67 : decode cX11_readNew 67 = .ok (.lastore, 1) := dk_80 (dk_at dksX11_readNew_2 19 rfl rfl)
theorem dX11_readNew_68 : decode cX11_readNew 68 = .ok (.aload_n 0, 1) := dk_42 (dk_at dksX11_readNew_2 20 rfl rfl)
theorem dX11_readNew_69 : decode cX11_readNew 69 = .ok (.invokevirtual 184, 3) := dk_182 0 184 (dk_at dksX11_readNew_2 21 rfl rfl)
theorem dX11_readNew_72 : decode cX11_readNew 72 = .ok (.iconst 1, 1) := dk_4 (dk_at dksX11_readNew_3 0 rfl rfl)
theorem dX11_readNew_73 : decode cX11_readNew 73 = .ok (.ireturn, 1) := dk_172 (dk_at dksX11_readNew_3 1 rfl rfl)
abbrev cX11_isName : ByteArray := prog_21_method_19_code
def yX11_isName : MethodName := ⟨RX11, "isName", "()Z"⟩
def dkwX11_isName_1 : List UInt8 := [184, 0, 164, 148, 154, 0, 5, 3, 172, 132, 1, 1, 167, 255, 233, 4, 172]
abbrev dktX11_isName_1 : List UInt8 := dkwX11_isName_1 ++ []
def dkwX11_isName_0 : List UInt8 := [42, 180, 0, 128, 5, 159, 0, 5, 3, 172, 3, 60, 27, 16, 24, 163, 0, 23, 42, 180, 0, 141, 27]
abbrev dktX11_isName_0 : List UInt8 := dkwX11_isName_0 ++ dktX11_isName_1
theorem dksX11_isName_0 : cX11_isName.data.toList.drop 0 = dktX11_isName_0 := by decide +kernel
theorem dksX11_isName_1 : cX11_isName.data.toList.drop 23 = dktX11_isName_1 := dk_seg dksX11_isName_0 23 rfl rfl
theorem dX11_isName_0 : decode cX11_isName 0 = .ok (.aload_n 0, 1) := dk_42 (dk_at dksX11_isName_0 0 rfl rfl)
theorem dX11_isName_1 : decode cX11_isName 1 = .ok (.getfield 128, 3) := dk_180 0 128 (dk_at dksX11_isName_0 1 rfl rfl)
theorem dX11_isName_4 : decode cX11_isName 4 = .ok (.iconst 2, 1) := dk_5 (dk_at dksX11_isName_0 4 rfl rfl)
theorem dX11_isName_5 : decode cX11_isName 5 = .ok (.if_icmp .eq 5, 3) := dk_159 0 5 (dk_at dksX11_isName_0 5 rfl rfl)
theorem dX11_isName_8 : decode cX11_isName 8 = .ok (.iconst 0, 1) := dk_3 (dk_at dksX11_isName_0 8 rfl rfl)
theorem dX11_isName_9 : decode cX11_isName 9 = .ok (.ireturn, 1) := dk_172 (dk_at dksX11_isName_0 9 rfl rfl)
theorem dX11_isName_10 : decode cX11_isName 10 = .ok (.iconst 0, 1) := dk_3 (dk_at dksX11_isName_0 10 rfl rfl)
theorem dX11_isName_11 : decode cX11_isName 11 = .ok (.istore_n 1, 1) := dk_60 (dk_at dksX11_isName_0 11 rfl rfl)
theorem dX11_isName_12 : decode cX11_isName 12 = .ok (.iload_n 1, 1) := dk_27 (dk_at dksX11_isName_0 12 rfl rfl)
theorem dX11_isName_13 : decode cX11_isName 13 = .ok (.bipush 24, 2) := dk_16 24 (dk_at dksX11_isName_0 13 rfl rfl)
theorem dX11_isName_15 : decode cX11_isName 15 = .ok (.if_icmp .gt 23, 3) := dk_163 0 23 (dk_at dksX11_isName_0 15 rfl rfl)
theorem dX11_isName_18 : decode cX11_isName 18 = .ok (.aload_n 0, 1) := dk_42 (dk_at dksX11_isName_0 18 rfl rfl)
theorem dX11_isName_19 : decode cX11_isName 19 = .ok (.getfield 141, 3) := dk_180 0 141 (dk_at dksX11_isName_0 19 rfl rfl)
theorem dX11_isName_22 : decode cX11_isName 22 = .ok (.iload_n 1, 1) := dk_27 (dk_at dksX11_isName_0 22 rfl rfl)
theorem dX11_isName_23 : decode cX11_isName 23 = .ok (.invokestatic 164, 3) := dk_184 0 164 (dk_at dksX11_isName_1 0 rfl rfl)
theorem dX11_isName_26 : decode cX11_isName 26 = .ok (.lcmp, 1) := dk_148 (dk_at dksX11_isName_1 3 rfl rfl)
theorem dX11_isName_27 : decode cX11_isName 27 = .ok (.ifCond .ne 5, 3) := dk_154 0 5 (dk_at dksX11_isName_1 4 rfl rfl)
theorem dX11_isName_30 : decode cX11_isName 30 = .ok (.iconst 0, 1) := dk_3 (dk_at dksX11_isName_1 7 rfl rfl)
theorem dX11_isName_31 : decode cX11_isName 31 = .ok (.ireturn, 1) := dk_172 (dk_at dksX11_isName_1 8 rfl rfl)
theorem dX11_isName_32 : decode cX11_isName 32 = .ok (.iinc 1 1, 3) := dk_132 1 1 (dk_at dksX11_isName_1 9 rfl rfl)
theorem dX11_isName_35 : decode cX11_isName 35 = .ok (.goto (-23), 3) := dk_167 255 233 (dk_at dksX11_isName_1 12 rfl rfl)
theorem dX11_isName_38 : decode cX11_isName 38 = .ok (.iconst 1, 1) := dk_4 (dk_at dksX11_isName_1 15 rfl rfl)
theorem dX11_isName_39 : decode cX11_isName 39 = .ok (.ireturn, 1) := dk_172 (dk_at dksX11_isName_1 16 rfl rfl)
abbrev cX11_findIn : ByteArray := prog_21_method_24_code
def yX11_findIn : MethodName := ⟨RX11, "findIn", "([JII)I"⟩
def dkwX11_findIn_1 : List UInt8 := [21, 4, 172, 132, 4, 1, 167, 255, 230, 2, 172]
abbrev dktX11_findIn_1 : List UInt8 := dkwX11_findIn_1 ++ []
def dkwX11_findIn_0 : List UInt8 := [3, 54, 4, 21, 4, 29, 162, 0, 26, 43, 28, 21, 4, 96, 47, 42, 180, 0, 141, 148, 154, 0, 6]
abbrev dktX11_findIn_0 : List UInt8 := dkwX11_findIn_0 ++ dktX11_findIn_1
theorem dksX11_findIn_0 : cX11_findIn.data.toList.drop 0 = dktX11_findIn_0 := by decide +kernel
theorem dksX11_findIn_1 : cX11_findIn.data.toList.drop 23 = dktX11_findIn_1 := dk_seg dksX11_findIn_0 23 rfl rfl
theorem dX11_findIn_0 : decode cX11_findIn 0 = .ok (.iconst 0, 1) := dk_3 (dk_at dksX11_findIn_0 0 rfl rfl)
theorem dX11_findIn_1 : decode cX11_findIn 1 = .ok (.istore 4, 2) := dk_54 4 (dk_at dksX11_findIn_0 1 rfl rfl)
theorem dX11_findIn_3 : decode cX11_findIn 3 = .ok (.iload 4, 2) := dk_21 4 (dk_at dksX11_findIn_0 3 rfl rfl)
theorem dX11_findIn_5 : decode cX11_findIn 5 = .ok (.iload_n 3, 1) := dk_29 (dk_at dksX11_findIn_0 5 rfl rfl)
theorem dX11_findIn_6 : decode cX11_findIn 6 = .ok (.if_icmp .ge 26, 3) := dk_162 0 26 (dk_at dksX11_findIn_0 6 rfl rfl)
theorem dX11_findIn_9 : decode cX11_findIn 9 = .ok (.aload_n 1, 1) := dk_43 (dk_at dksX11_findIn_0 9 rfl rfl)
theorem dX11_findIn_10 : decode cX11_findIn 10 = .ok (.iload_n 2, 1) := dk_28 (dk_at dksX11_findIn_0 10 rfl rfl)
theorem dX11_findIn_11 : decode cX11_findIn 11 = .ok (.iload 4, 2) := dk_21 4 (dk_at dksX11_findIn_0 11 rfl rfl)
theorem dX11_findIn_13 : decode cX11_findIn 13 = .ok (.iadd, 1) := dk_96 (dk_at dksX11_findIn_0 13 rfl rfl)
theorem dX11_findIn_14 : decode cX11_findIn 14 = .ok (.laload, 1) := dk_47 (dk_at dksX11_findIn_0 14 rfl rfl)
theorem dX11_findIn_15 : decode cX11_findIn 15 = .ok (.aload_n 0, 1) := dk_42 (dk_at dksX11_findIn_0 15 rfl rfl)
theorem dX11_findIn_16 : decode cX11_findIn 16 = .ok (.getfield 141, 3) := dk_180 0 141 (dk_at dksX11_findIn_0 16 rfl rfl)
theorem dX11_findIn_19 : decode cX11_findIn 19 = .ok (.lcmp, 1) := dk_148 (dk_at dksX11_findIn_0 19 rfl rfl)
theorem dX11_findIn_20 : decode cX11_findIn 20 = .ok (.ifCond .ne 6, 3) := dk_154 0 6 (dk_at dksX11_findIn_0 20 rfl rfl)
theorem dX11_findIn_23 : decode cX11_findIn 23 = .ok (.iload 4, 2) := dk_21 4 (dk_at dksX11_findIn_1 0 rfl rfl)
theorem dX11_findIn_25 : decode cX11_findIn 25 = .ok (.ireturn, 1) := dk_172 (dk_at dksX11_findIn_1 2 rfl rfl)
theorem dX11_findIn_26 : decode cX11_findIn 26 = .ok (.iinc 4 1, 3) := dk_132 4 1 (dk_at dksX11_findIn_1 3 rfl rfl)
theorem dX11_findIn_29 : decode cX11_findIn 29 = .ok (.goto (-26), 3) := dk_167 255 230 (dk_at dksX11_findIn_1 6 rfl rfl)
theorem dX11_findIn_32 : decode cX11_findIn 32 = .ok (.iconst (-1), 1) := dk_2 (dk_at dksX11_findIn_1 9 rfl rfl)
theorem dX11_findIn_33 : decode cX11_findIn 33 = .ok (.ireturn, 1) := dk_172 (dk_at dksX11_findIn_1 10 rfl rfl)
abbrev cX11_readNumber : ByteArray := prog_21_method_21_code
def yX11_readNumber : MethodName := ⟨RX11, "readNumber", "(II)Z"⟩
def dkwX11_readNumber_1 : List UInt8 := [154, 0, 9, 42, 5, 182, 0, 174, 172, 42, 42, 180, 0, 145, 181, 0, 181, 42, 182, 0, 184, 4, 172]
abbrev dktX11_readNumber_1 : List UInt8 := dkwX11_readNumber_1 ++ []
def dkwX11_readNumber_0 : List UInt8 := [42, 180, 0, 128, 6, 159, 0, 9, 42, 4, 182, 0, 174, 172, 42, 180, 0, 145, 27, 28, 184, 0, 177]
abbrev dktX11_readNumber_0 : List UInt8 := dkwX11_readNumber_0 ++ dktX11_readNumber_1
theorem dksX11_readNumber_0 : cX11_readNumber.data.toList.drop 0 = dktX11_readNumber_0 := by decide +kernel
theorem dksX11_readNumber_1 : cX11_readNumber.data.toList.drop 23 = dktX11_readNumber_1 := dk_seg dksX11_readNumber_0 23 rfl rfl
theorem dX11_readNumber_0 : decode cX11_readNumber 0 = .ok (.aload_n 0, 1) := dk_42 (dk_at dksX11_readNumber_0 0 rfl rfl)
theorem dX11_readNumber_1 : decode cX11_readNumber 1 = .ok (.getfield 128, 3) := dk_180 0 128 (dk_at dksX11_readNumber_0 1 rfl rfl)
theorem dX11_readNumber_4 : decode cX11_readNumber 4 = .ok (.iconst 3, 1) := dk_6 (dk_at dksX11_readNumber_0 4 rfl rfl)
theorem dX11_readNumber_5 : decode cX11_readNumber 5 = .ok (.if_icmp .eq 9, 3) := dk_159 0 9 (dk_at dksX11_readNumber_0 5 rfl rfl)
theorem dX11_readNumber_8 : decode cX11_readNumber 8 = .ok (.aload_n 0, 1) := dk_42 (dk_at dksX11_readNumber_0 8 rfl rfl)
theorem dX11_readNumber_9 : decode cX11_readNumber 9 = .ok (.iconst 1, 1) := dk_4 (dk_at dksX11_readNumber_0 9 rfl rfl)
theorem dX11_readNumber_10 : decode cX11_readNumber 10 = .ok (.invokevirtual 174, 3) := dk_182 0 174 (dk_at dksX11_readNumber_0 10 rfl rfl)
theorem dX11_readNumber_13 : decode cX11_readNumber 13 = .ok (.ireturn, 1) := dk_172 (dk_at dksX11_readNumber_0 13 rfl rfl)
theorem dX11_readNumber_14 : decode cX11_readNumber 14 = .ok (.aload_n 0, 1) := dk_42 (dk_at dksX11_readNumber_0 14 rfl rfl)
theorem dX11_readNumber_15 : decode cX11_readNumber 15 = .ok (.getfield 145, 3) := dk_180 0 145 (dk_at dksX11_readNumber_0 15 rfl rfl)
theorem dX11_readNumber_18 : decode cX11_readNumber 18 = .ok (.iload_n 1, 1) := dk_27 (dk_at dksX11_readNumber_0 18 rfl rfl)
theorem dX11_readNumber_19 : decode cX11_readNumber 19 = .ok (.iload_n 2, 1) := dk_28 (dk_at dksX11_readNumber_0 19 rfl rfl)
theorem dX11_readNumber_20 : decode cX11_readNumber 20 = .ok (.invokestatic 177, 3) := dk_184 0 177 (dk_at dksX11_readNumber_0 20 rfl rfl)
theorem dX11_readNumber_23 : decode cX11_readNumber 23 = .ok (.ifCond .ne 9, 3) := dk_154 0 9 (dk_at dksX11_readNumber_1 0 rfl rfl)
theorem dX11_readNumber_26 : decode cX11_readNumber 26 = .ok (.aload_n 0, 1) := dk_42 (dk_at dksX11_readNumber_1 3 rfl rfl)
theorem dX11_readNumber_27 : decode cX11_readNumber 27 = .ok (.iconst 2, 1) := dk_5 (dk_at dksX11_readNumber_1 4 rfl rfl)
theorem dX11_readNumber_28 : decode cX11_readNumber 28 = .ok (.invokevirtual 174, 3) := dk_182 0 174 (dk_at dksX11_readNumber_1 5 rfl rfl)
theorem dX11_readNumber_31 : decode cX11_readNumber 31 = .ok (.ireturn, 1) := dk_172 (dk_at dksX11_readNumber_1 8 rfl rfl)
theorem dX11_readNumber_32 : decode cX11_readNumber 32 = .ok (.aload_n 0, 1) := dk_42 (dk_at dksX11_readNumber_1 9 rfl rfl)
theorem dX11_readNumber_33 : decode cX11_readNumber 33 = .ok (.aload_n 0, 1) := dk_42 (dk_at dksX11_readNumber_1 10 rfl rfl)
theorem dX11_readNumber_34 : decode cX11_readNumber 34 = .ok (.getfield 145, 3) := dk_180 0 145 (dk_at dksX11_readNumber_1 11 rfl rfl)
theorem dX11_readNumber_37 : decode cX11_readNumber 37 = .ok (.putfield 181, 3) := dk_181 0 181 (dk_at dksX11_readNumber_1 14 rfl rfl)
theorem dX11_readNumber_40 : decode cX11_readNumber 40 = .ok (.aload_n 0, 1) := dk_42 (dk_at dksX11_readNumber_1 17 rfl rfl)
theorem dX11_readNumber_41 : decode cX11_readNumber 41 = .ok (.invokevirtual 184, 3) := dk_182 0 184 (dk_at dksX11_readNumber_1 18 rfl rfl)
theorem dX11_readNumber_44 : decode cX11_readNumber 44 = .ok (.iconst 1, 1) := dk_4 (dk_at dksX11_readNumber_1 21 rfl rfl)
theorem dX11_readNumber_45 : decode cX11_readNumber 45 = .ok (.ireturn, 1) := dk_172 (dk_at dksX11_readNumber_1 22 rfl rfl)
abbrev cX11_isIn : ByteArray := prog_21_method_8_code
def yX11_isIn : MethodName := ⟨RX11, "isIn", "(III)Z"⟩
def dkwX11_isIn_0 : List UInt8 := [26, 27, 161, 0, 12, 26, 28, 163, 0, 7, 4, 167, 0, 4, 3, 172]
abbrev dktX11_isIn_0 : List UInt8 := dkwX11_isIn_0 ++ []
theorem dksX11_isIn_0 : cX11_isIn.data.toList.drop 0 = dktX11_isIn_0 := by decide +kernel
theorem dX11_isIn_0 : decode cX11_isIn 0 = .ok (.iload_n 0, 1) := dk_26 (dk_at dksX11_isIn_0 0 rfl rfl)
theorem dX11_isIn_1 : decode cX11_isIn 1 = .ok (.iload_n 1, 1) := dk_27 (dk_at dksX11_isIn_0 1 rfl rfl)
theorem dX11_isIn_2 : decode cX11_isIn 2 = .ok (.if_icmp .lt 12, 3) := dk_161 0 12 (dk_at dksX11_isIn_0 2 rfl rfl)
theorem dX11_isIn_5 : decode cX11_isIn 5 = .ok (.iload_n 0, 1) := dk_26 (dk_at dksX11_isIn_0 5 rfl rfl)
theorem dX11_isIn_6 : decode cX11_isIn 6 = .ok (.iload_n 2, 1) := dk_28 (dk_at dksX11_isIn_0 6 rfl rfl)
theorem dX11_isIn_7 : decode cX11_isIn 7 = .ok (.if_icmp .gt 7, 3) := dk_163 0 7 (dk_at dksX11_isIn_0 7 rfl rfl)
theorem dX11_isIn_10 : decode cX11_isIn 10 = .ok (.iconst 1, 1) := dk_4 (dk_at dksX11_isIn_0 10 rfl rfl)
theorem dX11_isIn_11 : decode cX11_isIn 11 = .ok (.goto 4, 3) := dk_167 0 4 (dk_at dksX11_isIn_0 11 rfl rfl)
theorem dX11_isIn_14 : decode cX11_isIn 14 = .ok (.iconst 0, 1) := dk_3 (dk_at dksX11_isIn_0 14 rfl rfl)
theorem dX11_isIn_15 : decode cX11_isIn 15 = .ok (.ireturn, 1) := dk_172 (dk_at dksX11_isIn_0 15 rfl rfl)
abbrev cX11_readKind : ByteArray := prog_21_method_27_code
def yX11_readKind : MethodName := ⟨RX11, "readKind", "()Z"⟩
def dkwX11_readKind_8 : List UInt8 := [4, 92, 46, 4, 96, 79, 4, 172]
abbrev dktX11_readKind_8 : List UInt8 := dkwX11_readKind_8 ++ []
def dkwX11_readKind_7 : List UInt8 := [182, 0, 205, 154, 0, 5, 3, 172, 42, 180, 0, 16, 28, 5, 96, 42, 180, 0, 181, 79, 42, 180, 0, 16]
abbrev dktX11_readKind_7 : List UInt8 := dkwX11_readKind_7 ++ dktX11_readKind_8
def dkwX11_readKind_6 : List UInt8 := [162, 0, 7, 42, 182, 0, 184, 42, 180, 0, 16, 28, 4, 96, 46, 5, 160, 0, 27, 42, 4, 16, 99]
abbrev dktX11_readKind_6 : List UInt8 := dkwX11_readKind_6 ++ dktX11_readKind_7
def dkwX11_readKind_5 : List UInt8 := [28, 4, 96, 29, 16, 14, 160, 0, 7, 3, 167, 0, 9, 29, 16, 8, 100, 4, 96, 79, 29, 16, 14]
abbrev dktX11_readKind_5 : List UInt8 := dkwX11_readKind_5 ++ dktX11_readKind_6
def dkwX11_readKind_4 : List UInt8 := [29, 16, 14, 162, 0, 17, 42, 29, 182, 0, 209, 154, 0, 9, 132, 3, 1, 167, 255, 239, 42, 180, 0, 16]
abbrev dktX11_readKind_4 : List UInt8 := dkwX11_readKind_4 ++ dktX11_readKind_5
def dkwX11_readKind_3 : List UInt8 := [5, 167, 0, 4, 3, 79, 42, 180, 0, 16, 28, 3, 96, 46, 158, 0, 7, 42, 182, 0, 184, 16, 8, 62]
abbrev dktX11_readKind_3 : List UInt8 := dkwX11_readKind_3 ++ dktX11_readKind_4
def dkwX11_readKind_2 : List UInt8 := [3, 96, 42, 16, 6, 182, 0, 209, 153, 0, 7, 4, 167, 0, 17, 42, 16, 7, 182, 0, 209, 153, 0, 7]
abbrev dktX11_readKind_2 : List UInt8 := dkwX11_readKind_2 ++ dktX11_readKind_3
def dkwX11_readKind_1 : List UInt8 := [96, 61, 42, 182, 0, 184, 42, 16, 8, 27, 96, 182, 0, 202, 154, 0, 5, 3, 172, 42, 180, 0, 16, 28]
abbrev dktX11_readKind_1 : List UInt8 := dkwX11_readKind_1 ++ dktX11_readKind_2
def dkwX11_readKind_0 : List UInt8 := [42, 180, 0, 16, 4, 46, 60, 27, 16, 10, 160, 0, 9, 42, 7, 182, 0, 174, 172, 16, 20, 7, 27, 104]
abbrev dktX11_readKind_0 : List UInt8 := dkwX11_readKind_0 ++ dktX11_readKind_1
theorem dksX11_readKind_0 : cX11_readKind.data.toList.drop 0 = dktX11_readKind_0 := by decide +kernel
theorem dksX11_readKind_1 : cX11_readKind.data.toList.drop 24 = dktX11_readKind_1 := dk_seg dksX11_readKind_0 24 rfl rfl
theorem dksX11_readKind_2 : cX11_readKind.data.toList.drop 48 = dktX11_readKind_2 := dk_seg dksX11_readKind_1 24 rfl rfl
theorem dksX11_readKind_3 : cX11_readKind.data.toList.drop 72 = dktX11_readKind_3 := dk_seg dksX11_readKind_2 24 rfl rfl
theorem dksX11_readKind_4 : cX11_readKind.data.toList.drop 96 = dktX11_readKind_4 := dk_seg dksX11_readKind_3 24 rfl rfl
theorem dksX11_readKind_5 : cX11_readKind.data.toList.drop 120 = dktX11_readKind_5 := dk_seg dksX11_readKind_4 24 rfl rfl
theorem dksX11_readKind_6 : cX11_readKind.data.toList.drop 143 = dktX11_readKind_6 := dk_seg dksX11_readKind_5 23 rfl rfl
theorem dksX11_readKind_7 : cX11_readKind.data.toList.drop 166 = dktX11_readKind_7 := dk_seg dksX11_readKind_6 23 rfl rfl
theorem dksX11_readKind_8 : cX11_readKind.data.toList.drop 190 = dktX11_readKind_8 := dk_seg dksX11_readKind_7 24 rfl rfl
theorem dX11_readKind_0 : decode cX11_readKind 0 = .ok (.aload_n 0, 1) := dk_42 (dk_at dksX11_readKind_0 0 rfl rfl)
theorem dX11_readKind_1 : decode cX11_readKind 1 = .ok (.getfield 16, 3) := dk_180 0 16 (dk_at dksX11_readKind_0 1 rfl rfl)
theorem dX11_readKind_4 : decode cX11_readKind 4 = .ok (.iconst 1, 1) := dk_4 (dk_at dksX11_readKind_0 4 rfl rfl)
theorem dX11_readKind_5 : decode cX11_readKind 5 = .ok (.iaload, 1) := dk_46 (dk_at dksX11_readKind_0 5 rfl rfl)
theorem dX11_readKind_6 : decode cX11_readKind 6 = .ok (.istore_n 1, 1) := dk_60 (dk_at dksX11_readKind_0 6 rfl rfl)
theorem dX11_readKind_7 : decode cX11_readKind 7 = .ok (.iload_n 1, 1) := dk_27 (dk_at dksX11_readKind_0 7 rfl rfl)
theorem dX11_readKind_8 : decode cX11_readKind 8 = .ok (.bipush 10, 2) := dk_16 10 (dk_at dksX11_readKind_0 8 rfl rfl)
theorem dX11_readKind_10 : decode cX11_readKind 10 = .ok (.if_icmp .ne 9, 3) := dk_160 0 9 (dk_at dksX11_readKind_0 10 rfl rfl)
theorem dX11_readKind_13 : decode cX11_readKind 13 = .ok (.aload_n 0, 1) := dk_42 (dk_at dksX11_readKind_0 13 rfl rfl)
theorem dX11_readKind_14 : decode cX11_readKind 14 = .ok (.iconst 4, 1) := dk_7 (dk_at dksX11_readKind_0 14 rfl rfl)
theorem dX11_readKind_15 : decode cX11_readKind 15 = .ok (.invokevirtual 174, 3) := dk_182 0 174 (dk_at dksX11_readKind_0 15 rfl rfl)
theorem dX11_readKind_18 : decode cX11_readKind 18 = .ok (.ireturn, 1) := dk_172 (dk_at dksX11_readKind_0 18 rfl rfl)
theorem dX11_readKind_19 : decode cX11_readKind 19 = .ok (.bipush 20, 2) := dk_16 20 (dk_at dksX11_readKind_0 19 rfl rfl)
theorem dX11_readKind_21 : decode cX11_readKind 21 = .ok (.iconst 4, 1) := dk_7 (dk_at dksX11_readKind_0 21 rfl rfl)
theorem dX11_readKind_22 : decode cX11_readKind 22 = .ok (.iload_n 1, 1) := dk_27 (dk_at dksX11_readKind_0 22 rfl rfl)
theorem dX11_readKind_23 : decode cX11_readKind 23 = .ok (.imul, 1) := dk_104 (dk_at dksX11_readKind_0 23 rfl rfl)
theorem dX11_readKind_24 : decode cX11_readKind 24 = .ok (.iadd, 1) := dk_96 (dk_at dksX11_readKind_1 0 rfl rfl)
theorem dX11_readKind_25 : decode cX11_readKind 25 = .ok (.istore_n 2, 1) := dk_61 (dk_at dksX11_readKind_1 1 rfl rfl)
theorem dX11_readKind_26 : decode cX11_readKind 26 = .ok (.aload_n 0, 1) := dk_42 (dk_at dksX11_readKind_1 2 rfl rfl)
theorem dX11_readKind_27 : decode cX11_readKind 27 = .ok (.invokevirtual 184, 3) := dk_182 0 184 (dk_at dksX11_readKind_1 3 rfl rfl)
theorem dX11_readKind_30 : decode cX11_readKind 30 = .ok (.aload_n 0, 1) := dk_42 (dk_at dksX11_readKind_1 6 rfl rfl)
theorem dX11_readKind_31 : decode cX11_readKind 31 = .ok (.bipush 8, 2) := dk_16 8 (dk_at dksX11_readKind_1 7 rfl rfl)
theorem dX11_readKind_33 : decode cX11_readKind 33 = .ok (.iload_n 1, 1) := dk_27 (dk_at dksX11_readKind_1 9 rfl rfl)
theorem dX11_readKind_34 : decode cX11_readKind 34 = .ok (.iadd, 1) := dk_96 (dk_at dksX11_readKind_1 10 rfl rfl)
theorem dX11_readKind_35 : decode cX11_readKind 35 = .ok (.invokevirtual 202, 3) := dk_182 0 202 (dk_at dksX11_readKind_1 11 rfl rfl)
theorem dX11_readKind_38 : decode cX11_readKind 38 = .ok (.ifCond .ne 5, 3) := dk_154 0 5 (dk_at dksX11_readKind_1 14 rfl rfl)
theorem dX11_readKind_41 : decode cX11_readKind 41 = .ok (.iconst 0, 1) := dk_3 (dk_at dksX11_readKind_1 17 rfl rfl)
theorem dX11_readKind_42 : decode cX11_readKind 42 = .ok (.ireturn, 1) := dk_172 (dk_at dksX11_readKind_1 18 rfl rfl)
theorem dX11_readKind_43 : decode cX11_readKind 43 = .ok (.aload_n 0, 1) := dk_42 (dk_at dksX11_readKind_1 19 rfl rfl)
theorem dX11_readKind_44 : decode cX11_readKind 44 = .ok (.getfield 16, 3) := dk_180 0 16 (dk_at dksX11_readKind_1 20 rfl rfl)
theorem dX11_readKind_47 : decode cX11_readKind 47 = .ok (.iload_n 2, 1) := dk_28 (dk_at dksX11_readKind_1 23 rfl rfl)
theorem dX11_readKind_48 : decode cX11_readKind 48 = .ok (.iconst 0, 1) := dk_3 (dk_at dksX11_readKind_2 0 rfl rfl)
theorem dX11_readKind_49 : decode cX11_readKind 49 = .ok (.iadd, 1) := dk_96 (dk_at dksX11_readKind_2 1 rfl rfl)
theorem dX11_readKind_50 : decode cX11_readKind 50 = .ok (.aload_n 0, 1) := dk_42 (dk_at dksX11_readKind_2 2 rfl rfl)
theorem dX11_readKind_51 : decode cX11_readKind 51 = .ok (.bipush 6, 2) := dk_16 6 (dk_at dksX11_readKind_2 3 rfl rfl)
theorem dX11_readKind_53 : decode cX11_readKind 53 = .ok (.invokevirtual 209, 3) := dk_182 0 209 (dk_at dksX11_readKind_2 5 rfl rfl)
theorem dX11_readKind_56 : decode cX11_readKind 56 = .ok (.ifCond .eq 7, 3) := dk_153 0 7 (dk_at dksX11_readKind_2 8 rfl rfl)
theorem dX11_readKind_59 : decode cX11_readKind 59 = .ok (.iconst 1, 1) := dk_4 (dk_at dksX11_readKind_2 11 rfl rfl)
theorem dX11_readKind_60 : decode cX11_readKind 60 = .ok (.goto 17, 3) := dk_167 0 17 (dk_at dksX11_readKind_2 12 rfl rfl)
theorem dX11_readKind_63 : decode cX11_readKind 63 = .ok (.aload_n 0, 1) := dk_42 (dk_at dksX11_readKind_2 15 rfl rfl)
theorem dX11_readKind_64 : decode cX11_readKind 64 = .ok (.bipush 7, 2) := dk_16 7 (dk_at dksX11_readKind_2 16 rfl rfl)
theorem dX11_readKind_66 : decode cX11_readKind 66 = .ok (.invokevirtual 209, 3) := dk_182 0 209 (dk_at dksX11_readKind_2 18 rfl rfl)
theorem dX11_readKind_69 : decode cX11_readKind 69 = .ok (.ifCond .eq 7, 3) := dk_153 0 7 (dk_at dksX11_readKind_2 21 rfl rfl)
theorem dX11_readKind_72 : decode cX11_readKind 72 = .ok (.iconst 2, 1) := dk_5 (dk_at dksX11_readKind_3 0 rfl rfl)
theorem dX11_readKind_73 : decode cX11_readKind 73 = .ok (.goto 4, 3) := dk_167 0 4 (dk_at dksX11_readKind_3 1 rfl rfl)
theorem dX11_readKind_76 : decode cX11_readKind 76 = .ok (.iconst 0, 1) := dk_3 (dk_at dksX11_readKind_3 4 rfl rfl)
theorem dX11_readKind_77 : decode cX11_readKind 77 = .ok (.iastore, 1) := dk_79 (dk_at dksX11_readKind_3 5 rfl rfl)
theorem dX11_readKind_78 : decode cX11_readKind 78 = .ok (.aload_n 0, 1) := dk_42 (dk_at dksX11_readKind_3 6 rfl rfl)
theorem dX11_readKind_79 : decode cX11_readKind 79 = .ok (.getfield 16, 3) := dk_180 0 16 (dk_at dksX11_readKind_3 7 rfl rfl)
theorem dX11_readKind_82 : decode cX11_readKind 82 = .ok (.iload_n 2, 1) := dk_28 (dk_at dksX11_readKind_3 10 rfl rfl)
theorem dX11_readKind_83 : decode cX11_readKind 83 = .ok (.iconst 0, 1) := dk_3 (dk_at dksX11_readKind_3 11 rfl rfl)
theorem dX11_readKind_84 : decode cX11_readKind 84 = .ok (.iadd, 1) := dk_96 (dk_at dksX11_readKind_3 12 rfl rfl)
theorem dX11_readKind_85 : decode cX11_readKind 85 = .ok (.iaload, 1) := dk_46 (dk_at dksX11_readKind_3 13 rfl rfl)
theorem dX11_readKind_86 : decode cX11_readKind 86 = .ok (.ifCond .le 7, 3) := dk_158 0 7 (dk_at dksX11_readKind_3 14 rfl rfl)
theorem dX11_readKind_89 : decode cX11_readKind 89 = .ok (.aload_n 0, 1) := dk_42 (dk_at dksX11_readKind_3 17 rfl rfl)
theorem dX11_readKind_90 : decode cX11_readKind 90 = .ok (.invokevirtual 184, 3) := dk_182 0 184 (dk_at dksX11_readKind_3 18 rfl rfl)
theorem dX11_readKind_93 : decode cX11_readKind 93 = .ok (.bipush 8, 2) := dk_16 8 (dk_at dksX11_readKind_3 21 rfl rfl)
theorem dX11_readKind_95 : decode cX11_readKind 95 = .ok (.istore_n 3, 1) := dk_62 (dk_at dksX11_readKind_3 23 rfl rfl)
theorem dX11_readKind_96 : decode cX11_readKind 96 = .ok (.iload_n 3, 1) := dk_29 (dk_at dksX11_readKind_4 0 rfl rfl)
theorem dX11_readKind_97 : decode cX11_readKind 97 = .ok (.bipush 14, 2) := dk_16 14 (dk_at dksX11_readKind_4 1 rfl rfl)
theorem dX11_readKind_99 : decode cX11_readKind 99 = .ok (.if_icmp .ge 17, 3) := dk_162 0 17 (dk_at dksX11_readKind_4 3 rfl rfl)
theorem dX11_readKind_102 : decode cX11_readKind 102 = .ok (.aload_n 0, 1) := dk_42 (dk_at dksX11_readKind_4 6 rfl rfl)
theorem dX11_readKind_103 : decode cX11_readKind 103 = .ok (.iload_n 3, 1) := dk_29 (dk_at dksX11_readKind_4 7 rfl rfl)
theorem dX11_readKind_104 : decode cX11_readKind 104 = .ok (.invokevirtual 209, 3) := dk_182 0 209 (dk_at dksX11_readKind_4 8 rfl rfl)
theorem dX11_readKind_107 : decode cX11_readKind 107 = .ok (.ifCond .ne 9, 3) := dk_154 0 9 (dk_at dksX11_readKind_4 11 rfl rfl)
theorem dX11_readKind_110 : decode cX11_readKind 110 = .ok (.iinc 3 1, 3) := dk_132 3 1 (dk_at dksX11_readKind_4 14 rfl rfl)
theorem dX11_readKind_113 : decode cX11_readKind 113 = .ok (.goto (-17), 3) := dk_167 255 239 (dk_at dksX11_readKind_4 17 rfl rfl)
theorem dX11_readKind_116 : decode cX11_readKind 116 = .ok (.aload_n 0, 1) := dk_42 (dk_at dksX11_readKind_4 20 rfl rfl)
theorem dX11_readKind_117 : decode cX11_readKind 117 = .ok (.getfield 16, 3) := dk_180 0 16 (dk_at dksX11_readKind_4 21 rfl rfl)
theorem dX11_readKind_120 : decode cX11_readKind 120 = .ok (.iload_n 2, 1) := dk_28 (dk_at dksX11_readKind_5 0 rfl rfl)
theorem dX11_readKind_121 : decode cX11_readKind 121 = .ok (.iconst 1, 1) := dk_4 (dk_at dksX11_readKind_5 1 rfl rfl)
theorem dX11_readKind_122 : decode cX11_readKind 122 = .ok (.iadd, 1) := dk_96 (dk_at dksX11_readKind_5 2 rfl rfl)
theorem dX11_readKind_123 : decode cX11_readKind 123 = .ok (.iload_n 3, 1) := dk_29 (dk_at dksX11_readKind_5 3 rfl rfl)
theorem dX11_readKind_124 : decode cX11_readKind 124 = .ok (.bipush 14, 2) := dk_16 14 (dk_at dksX11_readKind_5 4 rfl rfl)
theorem dX11_readKind_126 : decode cX11_readKind 126 = .ok (.if_icmp .ne 7, 3) := dk_160 0 7 (dk_at dksX11_readKind_5 6 rfl rfl)
theorem dX11_readKind_129 : decode cX11_readKind 129 = .ok (.iconst 0, 1) := dk_3 (dk_at dksX11_readKind_5 9 rfl rfl)
theorem dX11_readKind_130 : decode cX11_readKind 130 = .ok (.goto 9, 3) := dk_167 0 9 (dk_at dksX11_readKind_5 10 rfl rfl)
theorem dX11_readKind_133 : decode cX11_readKind 133 = .ok (.iload_n 3, 1) := dk_29 (dk_at dksX11_readKind_5 13 rfl rfl)
theorem dX11_readKind_134 : decode cX11_readKind 134 = .ok (.bipush 8, 2) := dk_16 8 (dk_at dksX11_readKind_5 14 rfl rfl)
theorem dX11_readKind_136 : decode cX11_readKind 136 = .ok (.isub, 1) := dk_100 (dk_at dksX11_readKind_5 16 rfl rfl)
theorem dX11_readKind_137 : decode cX11_readKind 137 = .ok (.iconst 1, 1) := dk_4 (dk_at dksX11_readKind_5 17 rfl rfl)
theorem dX11_readKind_138 : decode cX11_readKind 138 = .ok (.iadd, 1) := dk_96 (dk_at dksX11_readKind_5 18 rfl rfl)
theorem dX11_readKind_139 : decode cX11_readKind 139 = .ok (.iastore, 1) := dk_79 (dk_at dksX11_readKind_5 19 rfl rfl)
theorem dX11_readKind_140 : decode cX11_readKind 140 = .ok (.iload_n 3, 1) := dk_29 (dk_at dksX11_readKind_5 20 rfl rfl)
theorem dX11_readKind_141 : decode cX11_readKind 141 = .ok (.bipush 14, 2) := dk_16 14 (dk_at dksX11_readKind_5 21 rfl rfl)
theorem dX11_readKind_143 : decode cX11_readKind 143 = .ok (.if_icmp .ge 7, 3) := dk_162 0 7 (dk_at dksX11_readKind_6 0 rfl rfl)
theorem dX11_readKind_146 : decode cX11_readKind 146 = .ok (.aload_n 0, 1) := dk_42 (dk_at dksX11_readKind_6 3 rfl rfl)
theorem dX11_readKind_147 : decode cX11_readKind 147 = .ok (.invokevirtual 184, 3) := dk_182 0 184 (dk_at dksX11_readKind_6 4 rfl rfl)
theorem dX11_readKind_150 : decode cX11_readKind 150 = .ok (.aload_n 0, 1) := dk_42 (dk_at dksX11_readKind_6 7 rfl rfl)
theorem dX11_readKind_151 : decode cX11_readKind 151 = .ok (.getfield 16, 3) := dk_180 0 16 (dk_at dksX11_readKind_6 8 rfl rfl)
theorem dX11_readKind_154 : decode cX11_readKind 154 = .ok (.iload_n 2, 1) := dk_28 (dk_at dksX11_readKind_6 11 rfl rfl)
theorem dX11_readKind_155 : decode cX11_readKind 155 = .ok (.iconst 1, 1) := dk_4 (dk_at dksX11_readKind_6 12 rfl rfl)
theorem dX11_readKind_156 : decode cX11_readKind 156 = .ok (.iadd, 1) := dk_96 (dk_at dksX11_readKind_6 13 rfl rfl)
theorem dX11_readKind_157 : decode cX11_readKind 157 = .ok (.iaload, 1) := dk_46 (dk_at dksX11_readKind_6 14 rfl rfl)
theorem dX11_readKind_158 : decode cX11_readKind 158 = .ok (.iconst 2, 1) := dk_5 (dk_at dksX11_readKind_6 15 rfl rfl)
theorem dX11_readKind_159 : decode cX11_readKind 159 = .ok (.if_icmp .ne 27, 3) := dk_160 0 27 (dk_at dksX11_readKind_6 16 rfl rfl)
theorem dX11_readKind_162 : decode cX11_readKind 162 = .ok (.aload_n 0, 1) := dk_42 (dk_at dksX11_readKind_6 19 rfl rfl)
theorem dX11_readKind_163 : decode cX11_readKind 163 = .ok (.iconst 1, 1) := dk_4 (dk_at dksX11_readKind_6 20 rfl rfl)
theorem dX11_readKind_164 : decode cX11_readKind 164 = .ok (.bipush 99, 2) := dk_16 99 (dk_at dksX11_readKind_6 21 rfl rfl)
theorem dX11_readKind_166 : decode cX11_readKind 166 = .ok (.invokevirtual 205, 3) := dk_182 0 205 (dk_at dksX11_readKind_7 0 rfl rfl)
theorem dX11_readKind_169 : decode cX11_readKind 169 = .ok (.ifCond .ne 5, 3) := dk_154 0 5 (dk_at dksX11_readKind_7 3 rfl rfl)
theorem dX11_readKind_172 : decode cX11_readKind 172 = .ok (.iconst 0, 1) := dk_3 (dk_at dksX11_readKind_7 6 rfl rfl)
theorem dX11_readKind_173 : decode cX11_readKind 173 = .ok (.ireturn, 1) := dk_172 (dk_at dksX11_readKind_7 7 rfl rfl)
theorem dX11_readKind_174 : decode cX11_readKind 174 = .ok (.aload_n 0, 1) := dk_42 (dk_at dksX11_readKind_7 8 rfl rfl)
theorem dX11_readKind_175 : decode cX11_readKind 175 = .ok (.getfield 16, 3) := dk_180 0 16 (dk_at dksX11_readKind_7 9 rfl rfl)
theorem dX11_readKind_178 : decode cX11_readKind 178 = .ok (.iload_n 2, 1) := dk_28 (dk_at dksX11_readKind_7 12 rfl rfl)
theorem dX11_readKind_179 : decode cX11_readKind 179 = .ok (.iconst 2, 1) := dk_5 (dk_at dksX11_readKind_7 13 rfl rfl)
theorem dX11_readKind_180 : decode cX11_readKind 180 = .ok (.iadd, 1) := dk_96 (dk_at dksX11_readKind_7 14 rfl rfl)
theorem dX11_readKind_181 : decode cX11_readKind 181 = .ok (.aload_n 0, 1) := dk_42 (dk_at dksX11_readKind_7 15 rfl rfl)
theorem dX11_readKind_182 : decode cX11_readKind 182 = .ok (.getfield 181, 3) := dk_180 0 181 (dk_at dksX11_readKind_7 16 rfl rfl)
theorem dX11_readKind_185 : decode cX11_readKind 185 = .ok (.iastore, 1) := dk_79 (dk_at dksX11_readKind_7 19 rfl rfl)
theorem dX11_readKind_186 : decode cX11_readKind 186 = .ok (.aload_n 0, 1) := dk_42 (dk_at dksX11_readKind_7 20 rfl rfl)
theorem dX11_readKind_187 : decode cX11_readKind 187 = .ok (.getfield 16, 3) := dk_180 0 16 (dk_at dksX11_readKind_7 21 rfl rfl)
theorem dX11_readKind_190 : decode cX11_readKind 190 = .ok (.iconst 1, 1) := dk_4 (dk_at dksX11_readKind_8 0 rfl rfl)
theorem dX11_readKind_191 : decode cX11_readKind 191 = .ok (.dup2, 1) := dk_92 (dk_at dksX11_readKind_8 1 rfl rfl)
theorem dX11_readKind_192 : decode cX11_readKind 192 = .ok (.iaload, 1) := dk_46 (dk_at dksX11_readKind_8 2 rfl rfl)
theorem dX11_readKind_193 : decode cX11_readKind 193 = .ok (.iconst 1, 1) := dk_4 (dk_at dksX11_readKind_8 3 rfl rfl)
theorem dX11_readKind_194 : decode cX11_readKind 194 = .ok (.iadd, 1) := dk_96 (dk_at dksX11_readKind_8 4 rfl rfl)
theorem dX11_readKind_195 : decode cX11_readKind 195 = .ok (.iastore, 1) := dk_79 (dk_at dksX11_readKind_8 5 rfl rfl)
theorem dX11_readKind_196 : decode cX11_readKind 196 = .ok (.iconst 1, 1) := dk_4 (dk_at dksX11_readKind_8 6 rfl rfl)
theorem dX11_readKind_197 : decode cX11_readKind 197 = .ok (.ireturn, 1) := dk_172 (dk_at dksX11_readKind_8 7 rfl rfl)
abbrev cX11_readMay : ByteArray := prog_21_method_29_code
def yX11_readMay : MethodName := ⟨RX11, "readMay", "()Z"⟩
def dkwX11_readMay_4 : List UInt8 := [42, 180, 0, 16, 5, 92, 46, 4, 96, 79, 42, 182, 0, 184, 4, 172]
abbrev dktX11_readMay_4 : List UInt8 := dkwX11_readMay_4 ++ []
def dkwX11_readMay_3 : List UInt8 := [153, 0, 9, 42, 6, 182, 0, 174, 172, 42, 180, 0, 16, 28, 92, 46, 4, 42, 180, 0, 181, 120, 128, 79]
abbrev dktX11_readMay_3 : List UInt8 := dkwX11_readMay_3 ++ dktX11_readMay_4
def dkwX11_readMay_2 : List UInt8 := [3, 172, 16, 20, 7, 27, 104, 96, 6, 96, 61, 42, 180, 0, 16, 28, 46, 42, 180, 0, 181, 184, 0, 215]
abbrev dktX11_readMay_2 : List UInt8 := dkwX11_readMay_2 ++ dktX11_readMay_3
def dkwX11_readMay_1 : List UInt8 := [182, 0, 212, 154, 0, 5, 3, 172, 42, 180, 0, 181, 60, 42, 182, 0, 184, 42, 182, 0, 212, 154, 0, 5]
abbrev dktX11_readMay_1 : List UInt8 := dkwX11_readMay_1 ++ dktX11_readMay_2
def dkwX11_readMay_0 : List UInt8 := [42, 180, 0, 16, 5, 46, 16, 40, 160, 0, 9, 42, 7, 182, 0, 174, 172, 42, 182, 0, 184, 42]
abbrev dktX11_readMay_0 : List UInt8 := dkwX11_readMay_0 ++ dktX11_readMay_1
theorem dksX11_readMay_0 : cX11_readMay.data.toList.drop 0 = dktX11_readMay_0 := by decide +kernel
theorem dksX11_readMay_1 : cX11_readMay.data.toList.drop 22 = dktX11_readMay_1 := dk_seg dksX11_readMay_0 22 rfl rfl
theorem dksX11_readMay_2 : cX11_readMay.data.toList.drop 46 = dktX11_readMay_2 := dk_seg dksX11_readMay_1 24 rfl rfl
theorem dksX11_readMay_3 : cX11_readMay.data.toList.drop 70 = dktX11_readMay_3 := dk_seg dksX11_readMay_2 24 rfl rfl
theorem dksX11_readMay_4 : cX11_readMay.data.toList.drop 94 = dktX11_readMay_4 := dk_seg dksX11_readMay_3 24 rfl rfl
theorem dX11_readMay_0 : decode cX11_readMay 0 = .ok (.aload_n 0, 1) := dk_42 (dk_at dksX11_readMay_0 0 rfl rfl)
theorem dX11_readMay_1 : decode cX11_readMay 1 = .ok (.getfield 16, 3) := dk_180 0 16 (dk_at dksX11_readMay_0 1 rfl rfl)
theorem dX11_readMay_4 : decode cX11_readMay 4 = .ok (.iconst 2, 1) := dk_5 (dk_at dksX11_readMay_0 4 rfl rfl)
theorem dX11_readMay_5 : decode cX11_readMay 5 = .ok (.iaload, 1) := dk_46 (dk_at dksX11_readMay_0 5 rfl rfl)
theorem dX11_readMay_6 : decode cX11_readMay 6 = .ok (.bipush 40, 2) := dk_16 40 (dk_at dksX11_readMay_0 6 rfl rfl)
theorem dX11_readMay_8 : decode cX11_readMay 8 = .ok (.if_icmp .ne 9, 3) := dk_160 0 9 (dk_at dksX11_readMay_0 8 rfl rfl)
theorem dX11_readMay_11 : decode cX11_readMay 11 = .ok (.aload_n 0, 1) := dk_42 (dk_at dksX11_readMay_0 11 rfl rfl)
theorem dX11_readMay_12 : decode cX11_readMay 12 = .ok (.iconst 4, 1) := dk_7 (dk_at dksX11_readMay_0 12 rfl rfl)
theorem dX11_readMay_13 : decode cX11_readMay 13 = .ok (.invokevirtual 174, 3) := dk_182 0 174 (dk_at dksX11_readMay_0 13 rfl rfl)
theorem dX11_readMay_16 : decode cX11_readMay 16 = .ok (.ireturn, 1) := dk_172 (dk_at dksX11_readMay_0 16 rfl rfl)
theorem dX11_readMay_17 : decode cX11_readMay 17 = .ok (.aload_n 0, 1) := dk_42 (dk_at dksX11_readMay_0 17 rfl rfl)
theorem dX11_readMay_18 : decode cX11_readMay 18 = .ok (.invokevirtual 184, 3) := dk_182 0 184 (dk_at dksX11_readMay_0 18 rfl rfl)
theorem dX11_readMay_21 : decode cX11_readMay 21 = .ok (.aload_n 0, 1) := dk_42 (dk_at dksX11_readMay_0 21 rfl rfl)
theorem dX11_readMay_22 : decode cX11_readMay 22 = .ok (.invokevirtual 212, 3) := dk_182 0 212 (dk_at dksX11_readMay_1 0 rfl rfl)
theorem dX11_readMay_25 : decode cX11_readMay 25 = .ok (.ifCond .ne 5, 3) := dk_154 0 5 (dk_at dksX11_readMay_1 3 rfl rfl)
theorem dX11_readMay_28 : decode cX11_readMay 28 = .ok (.iconst 0, 1) := dk_3 (dk_at dksX11_readMay_1 6 rfl rfl)
theorem dX11_readMay_29 : decode cX11_readMay 29 = .ok (.ireturn, 1) := dk_172 (dk_at dksX11_readMay_1 7 rfl rfl)
theorem dX11_readMay_30 : decode cX11_readMay 30 = .ok (.aload_n 0, 1) := dk_42 (dk_at dksX11_readMay_1 8 rfl rfl)
theorem dX11_readMay_31 : decode cX11_readMay 31 = .ok (.getfield 181, 3) := dk_180 0 181 (dk_at dksX11_readMay_1 9 rfl rfl)
theorem dX11_readMay_34 : decode cX11_readMay 34 = .ok (.istore_n 1, 1) := dk_60 (dk_at dksX11_readMay_1 12 rfl rfl)
theorem dX11_readMay_35 : decode cX11_readMay 35 = .ok (.aload_n 0, 1) := dk_42 (dk_at dksX11_readMay_1 13 rfl rfl)
theorem dX11_readMay_36 : decode cX11_readMay 36 = .ok (.invokevirtual 184, 3) := dk_182 0 184 (dk_at dksX11_readMay_1 14 rfl rfl)
theorem dX11_readMay_39 : decode cX11_readMay 39 = .ok (.aload_n 0, 1) := dk_42 (dk_at dksX11_readMay_1 17 rfl rfl)
theorem dX11_readMay_40 : decode cX11_readMay 40 = .ok (.invokevirtual 212, 3) := dk_182 0 212 (dk_at dksX11_readMay_1 18 rfl rfl)
theorem dX11_readMay_43 : decode cX11_readMay 43 = .ok (.ifCond .ne 5, 3) := dk_154 0 5 (dk_at dksX11_readMay_1 21 rfl rfl)
theorem dX11_readMay_46 : decode cX11_readMay 46 = .ok (.iconst 0, 1) := dk_3 (dk_at dksX11_readMay_2 0 rfl rfl)
theorem dX11_readMay_47 : decode cX11_readMay 47 = .ok (.ireturn, 1) := dk_172 (dk_at dksX11_readMay_2 1 rfl rfl)
theorem dX11_readMay_48 : decode cX11_readMay 48 = .ok (.bipush 20, 2) := dk_16 20 (dk_at dksX11_readMay_2 2 rfl rfl)
theorem dX11_readMay_50 : decode cX11_readMay 50 = .ok (.iconst 4, 1) := dk_7 (dk_at dksX11_readMay_2 4 rfl rfl)
theorem dX11_readMay_51 : decode cX11_readMay 51 = .ok (.iload_n 1, 1) := dk_27 (dk_at dksX11_readMay_2 5 rfl rfl)
theorem dX11_readMay_52 : decode cX11_readMay 52 = .ok (.imul, 1) := dk_104 (dk_at dksX11_readMay_2 6 rfl rfl)
theorem dX11_readMay_53 : decode cX11_readMay 53 = .ok (.iadd, 1) := dk_96 (dk_at dksX11_readMay_2 7 rfl rfl)
theorem dX11_readMay_54 : decode cX11_readMay 54 = .ok (.iconst 3, 1) := dk_6 (dk_at dksX11_readMay_2 8 rfl rfl)
theorem dX11_readMay_55 : decode cX11_readMay 55 = .ok (.iadd, 1) := dk_96 (dk_at dksX11_readMay_2 9 rfl rfl)
theorem dX11_readMay_56 : decode cX11_readMay 56 = .ok (.istore_n 2, 1) := dk_61 (dk_at dksX11_readMay_2 10 rfl rfl)
theorem dX11_readMay_57 : decode cX11_readMay 57 = .ok (.aload_n 0, 1) := dk_42 (dk_at dksX11_readMay_2 11 rfl rfl)
theorem dX11_readMay_58 : decode cX11_readMay 58 = .ok (.getfield 16, 3) := dk_180 0 16 (dk_at dksX11_readMay_2 12 rfl rfl)
theorem dX11_readMay_61 : decode cX11_readMay 61 = .ok (.iload_n 2, 1) := dk_28 (dk_at dksX11_readMay_2 15 rfl rfl)
theorem dX11_readMay_62 : decode cX11_readMay 62 = .ok (.iaload, 1) := dk_46 (dk_at dksX11_readMay_2 16 rfl rfl)
theorem dX11_readMay_63 : decode cX11_readMay 63 = .ok (.aload_n 0, 1) := dk_42 (dk_at dksX11_readMay_2 17 rfl rfl)
theorem dX11_readMay_64 : decode cX11_readMay 64 = .ok (.getfield 181, 3) := dk_180 0 181 (dk_at dksX11_readMay_2 18 rfl rfl)
theorem dX11_readMay_67 : decode cX11_readMay 67 = .ok (.invokestatic 215, 3) := dk_184 0 215 (dk_at dksX11_readMay_2 21 rfl rfl)
theorem dX11_readMay_70 : decode cX11_readMay 70 = .ok (.ifCond .eq 9, 3) := dk_153 0 9 (dk_at dksX11_readMay_3 0 rfl rfl)
theorem dX11_readMay_73 : decode cX11_readMay 73 = .ok (.aload_n 0, 1) := dk_42 (dk_at dksX11_readMay_3 3 rfl rfl)
theorem dX11_readMay_74 : decode cX11_readMay 74 = .ok (.iconst 3, 1) := dk_6 (dk_at dksX11_readMay_3 4 rfl rfl)
theorem dX11_readMay_75 : decode cX11_readMay 75 = .ok (.invokevirtual 174, 3) := dk_182 0 174 (dk_at dksX11_readMay_3 5 rfl rfl)
theorem dX11_readMay_78 : decode cX11_readMay 78 = .ok (.ireturn, 1) := dk_172 (dk_at dksX11_readMay_3 8 rfl rfl)
theorem dX11_readMay_79 : decode cX11_readMay 79 = .ok (.aload_n 0, 1) := dk_42 (dk_at dksX11_readMay_3 9 rfl rfl)
theorem dX11_readMay_80 : decode cX11_readMay 80 = .ok (.getfield 16, 3) := dk_180 0 16 (dk_at dksX11_readMay_3 10 rfl rfl)
theorem dX11_readMay_83 : decode cX11_readMay 83 = .ok (.iload_n 2, 1) := dk_28 (dk_at dksX11_readMay_3 13 rfl rfl)
theorem dX11_readMay_84 : decode cX11_readMay 84 = .ok (.dup2, 1) := dk_92 (dk_at dksX11_readMay_3 14 rfl rfl)
theorem dX11_readMay_85 : decode cX11_readMay 85 = .ok (.iaload, 1) := dk_46 (dk_at dksX11_readMay_3 15 rfl rfl)
theorem dX11_readMay_86 : decode cX11_readMay 86 = .ok (.iconst 1, 1) := dk_4 (dk_at dksX11_readMay_3 16 rfl rfl)
theorem dX11_readMay_87 : decode cX11_readMay 87 = .ok (.aload_n 0, 1) := dk_42 (dk_at dksX11_readMay_3 17 rfl rfl)
theorem dX11_readMay_88 : decode cX11_readMay 88 = .ok (.getfield 181, 3) := dk_180 0 181 (dk_at dksX11_readMay_3 18 rfl rfl)
theorem dX11_readMay_91 : decode cX11_readMay 91 = .ok (.ishl, 1) := dk_120 (dk_at dksX11_readMay_3 21 rfl rfl)
theorem dX11_readMay_92 : decode cX11_readMay 92 = .ok (.ior, 1) := dk_128 (dk_at dksX11_readMay_3 22 rfl rfl)
theorem dX11_readMay_93 : decode cX11_readMay 93 = .ok (.iastore, 1) := dk_79 (dk_at dksX11_readMay_3 23 rfl rfl)
theorem dX11_readMay_94 : decode cX11_readMay 94 = .ok (.aload_n 0, 1) := dk_42 (dk_at dksX11_readMay_4 0 rfl rfl)
theorem dX11_readMay_95 : decode cX11_readMay 95 = .ok (.getfield 16, 3) := dk_180 0 16 (dk_at dksX11_readMay_4 1 rfl rfl)
theorem dX11_readMay_98 : decode cX11_readMay 98 = .ok (.iconst 2, 1) := dk_5 (dk_at dksX11_readMay_4 4 rfl rfl)
theorem dX11_readMay_99 : decode cX11_readMay 99 = .ok (.dup2, 1) := dk_92 (dk_at dksX11_readMay_4 5 rfl rfl)
theorem dX11_readMay_100 : decode cX11_readMay 100 = .ok (.iaload, 1) := dk_46 (dk_at dksX11_readMay_4 6 rfl rfl)
theorem dX11_readMay_101 : decode cX11_readMay 101 = .ok (.iconst 1, 1) := dk_4 (dk_at dksX11_readMay_4 7 rfl rfl)
theorem dX11_readMay_102 : decode cX11_readMay 102 = .ok (.iadd, 1) := dk_96 (dk_at dksX11_readMay_4 8 rfl rfl)
theorem dX11_readMay_103 : decode cX11_readMay 103 = .ok (.iastore, 1) := dk_79 (dk_at dksX11_readMay_4 9 rfl rfl)
theorem dX11_readMay_104 : decode cX11_readMay 104 = .ok (.aload_n 0, 1) := dk_42 (dk_at dksX11_readMay_4 10 rfl rfl)
theorem dX11_readMay_105 : decode cX11_readMay 105 = .ok (.invokevirtual 184, 3) := dk_182 0 184 (dk_at dksX11_readMay_4 11 rfl rfl)
theorem dX11_readMay_108 : decode cX11_readMay 108 = .ok (.iconst 1, 1) := dk_4 (dk_at dksX11_readMay_4 14 rfl rfl)
theorem dX11_readMay_109 : decode cX11_readMay 109 = .ok (.ireturn, 1) := dk_172 (dk_at dksX11_readMay_4 15 rfl rfl)
abbrev cX11_readKindTold : ByteArray := prog_21_method_28_code
def yX11_readKindTold : MethodName := ⟨RX11, "readKindTold", "()Z"⟩
def dkwX11_readKindTold_2 : List UInt8 := [153, 0, 7, 4, 167, 0, 4, 3, 172]
abbrev dktX11_readKindTold_2 : List UInt8 := dkwX11_readKindTold_2 ++ []
def dkwX11_readKindTold_1 : List UInt8 := [180, 0, 16, 4, 46, 182, 0, 198, 181, 0, 181, 42, 180, 0, 181, 2, 160, 0, 11, 42, 6, 182, 0, 174]
abbrev dktX11_readKindTold_1 : List UInt8 := dkwX11_readKindTold_1 ++ dktX11_readKindTold_2
def dkwX11_readKindTold_0 : List UInt8 := [42, 182, 0, 194, 154, 0, 9, 42, 4, 182, 0, 174, 172, 42, 42, 42, 180, 0, 29, 16, 8, 42]
abbrev dktX11_readKindTold_0 : List UInt8 := dkwX11_readKindTold_0 ++ dktX11_readKindTold_1
theorem dksX11_readKindTold_0 : cX11_readKindTold.data.toList.drop 0 = dktX11_readKindTold_0 := by decide +kernel
theorem dksX11_readKindTold_1 : cX11_readKindTold.data.toList.drop 22 = dktX11_readKindTold_1 := dk_seg dksX11_readKindTold_0 22 rfl rfl
theorem dksX11_readKindTold_2 : cX11_readKindTold.data.toList.drop 46 = dktX11_readKindTold_2 := dk_seg dksX11_readKindTold_1 24 rfl rfl
theorem dX11_readKindTold_0 : decode cX11_readKindTold 0 = .ok (.aload_n 0, 1) := dk_42 (dk_at dksX11_readKindTold_0 0 rfl rfl)
theorem dX11_readKindTold_1 : decode cX11_readKindTold 1 = .ok (.invokevirtual 194, 3) := dk_182 0 194 (dk_at dksX11_readKindTold_0 1 rfl rfl)
theorem dX11_readKindTold_4 : decode cX11_readKindTold 4 = .ok (.ifCond .ne 9, 3) := dk_154 0 9 (dk_at dksX11_readKindTold_0 4 rfl rfl)
theorem dX11_readKindTold_7 : decode cX11_readKindTold 7 = .ok (.aload_n 0, 1) := dk_42 (dk_at dksX11_readKindTold_0 7 rfl rfl)
theorem dX11_readKindTold_8 : decode cX11_readKindTold 8 = .ok (.iconst 1, 1) := dk_4 (dk_at dksX11_readKindTold_0 8 rfl rfl)
theorem dX11_readKindTold_9 : decode cX11_readKindTold 9 = .ok (.invokevirtual 174, 3) := dk_182 0 174 (dk_at dksX11_readKindTold_0 9 rfl rfl)
theorem dX11_readKindTold_12 : decode cX11_readKindTold 12 = .ok (.ireturn, 1) := dk_172 (dk_at dksX11_readKindTold_0 12 rfl rfl)
theorem dX11_readKindTold_13 : decode cX11_readKindTold 13 = .ok (.aload_n 0, 1) := dk_42 (dk_at dksX11_readKindTold_0 13 rfl rfl)
theorem dX11_readKindTold_14 : decode cX11_readKindTold 14 = .ok (.aload_n 0, 1) := dk_42 (dk_at dksX11_readKindTold_0 14 rfl rfl)
theorem dX11_readKindTold_15 : decode cX11_readKindTold 15 = .ok (.aload_n 0, 1) := dk_42 (dk_at dksX11_readKindTold_0 15 rfl rfl)
theorem dX11_readKindTold_16 : decode cX11_readKindTold 16 = .ok (.getfield 29, 3) := dk_180 0 29 (dk_at dksX11_readKindTold_0 16 rfl rfl)
theorem dX11_readKindTold_19 : decode cX11_readKindTold 19 = .ok (.bipush 8, 2) := dk_16 8 (dk_at dksX11_readKindTold_0 19 rfl rfl)
theorem dX11_readKindTold_21 : decode cX11_readKindTold 21 = .ok (.aload_n 0, 1) := dk_42 (dk_at dksX11_readKindTold_0 21 rfl rfl)
theorem dX11_readKindTold_22 : decode cX11_readKindTold 22 = .ok (.getfield 16, 3) := dk_180 0 16 (dk_at dksX11_readKindTold_1 0 rfl rfl)
theorem dX11_readKindTold_25 : decode cX11_readKindTold 25 = .ok (.iconst 1, 1) := dk_4 (dk_at dksX11_readKindTold_1 3 rfl rfl)
theorem dX11_readKindTold_26 : decode cX11_readKindTold 26 = .ok (.iaload, 1) := dk_46 (dk_at dksX11_readKindTold_1 4 rfl rfl)
theorem dX11_readKindTold_27 : decode cX11_readKindTold 27 = .ok (.invokevirtual 198, 3) := dk_182 0 198 (dk_at dksX11_readKindTold_1 5 rfl rfl)
theorem dX11_readKindTold_30 : decode cX11_readKindTold 30 = .ok (.putfield 181, 3) := dk_181 0 181 (dk_at dksX11_readKindTold_1 8 rfl rfl)
theorem dX11_readKindTold_33 : decode cX11_readKindTold 33 = .ok (.aload_n 0, 1) := dk_42 (dk_at dksX11_readKindTold_1 11 rfl rfl)
theorem dX11_readKindTold_34 : decode cX11_readKindTold 34 = .ok (.getfield 181, 3) := dk_180 0 181 (dk_at dksX11_readKindTold_1 12 rfl rfl)
theorem dX11_readKindTold_37 : decode cX11_readKindTold 37 = .ok (.iconst (-1), 1) := dk_2 (dk_at dksX11_readKindTold_1 15 rfl rfl)
theorem dX11_readKindTold_38 : decode cX11_readKindTold 38 = .ok (.if_icmp .ne 11, 3) := dk_160 0 11 (dk_at dksX11_readKindTold_1 16 rfl rfl)
theorem dX11_readKindTold_41 : decode cX11_readKindTold 41 = .ok (.aload_n 0, 1) := dk_42 (dk_at dksX11_readKindTold_1 19 rfl rfl)
theorem dX11_readKindTold_42 : decode cX11_readKindTold 42 = .ok (.iconst 3, 1) := dk_6 (dk_at dksX11_readKindTold_1 20 rfl rfl)
theorem dX11_readKindTold_43 : decode cX11_readKindTold 43 = .ok (.invokevirtual 174, 3) := dk_182 0 174 (dk_at dksX11_readKindTold_1 21 rfl rfl)
theorem dX11_readKindTold_46 : decode cX11_readKindTold 46 = .ok (.ifCond .eq 7, 3) := dk_153 0 7 (dk_at dksX11_readKindTold_2 0 rfl rfl)
theorem dX11_readKindTold_49 : decode cX11_readKindTold 49 = .ok (.iconst 1, 1) := dk_4 (dk_at dksX11_readKindTold_2 3 rfl rfl)
theorem dX11_readKindTold_50 : decode cX11_readKindTold 50 = .ok (.goto 4, 3) := dk_167 0 4 (dk_at dksX11_readKindTold_2 4 rfl rfl)
theorem dX11_readKindTold_53 : decode cX11_readKindTold 53 = .ok (.iconst 0, 1) := dk_3 (dk_at dksX11_readKindTold_2 7 rfl rfl)
theorem dX11_readKindTold_54 : decode cX11_readKindTold 54 = .ok (.ireturn, 1) := dk_172 (dk_at dksX11_readKindTold_2 8 rfl rfl)
abbrev cX11_has : ByteArray := prog_21_method_9_code
def yX11_has : MethodName := ⟨RX11, "has", "(II)Z"⟩
def dkwX11_has_0 : List UInt8 := [26, 27, 122, 4, 126, 4, 160, 0, 7, 4, 167, 0, 4, 3, 172]
abbrev dktX11_has_0 : List UInt8 := dkwX11_has_0 ++ []
theorem dksX11_has_0 : cX11_has.data.toList.drop 0 = dktX11_has_0 := by decide +kernel
theorem dX11_has_0 : decode cX11_has 0 = .ok (.iload_n 0, 1) := dk_26 (dk_at dksX11_has_0 0 rfl rfl)
theorem dX11_has_1 : decode cX11_has 1 = .ok (.iload_n 1, 1) := dk_27 (dk_at dksX11_has_0 1 rfl rfl)
theorem dX11_has_2 : decode cX11_has 2 = .ok (.ishr, 1) := dk_122 (dk_at dksX11_has_0 2 rfl rfl)
theorem dX11_has_3 : decode cX11_has 3 = .ok (.iconst 1, 1) := dk_4 (dk_at dksX11_has_0 3 rfl rfl)
theorem dX11_has_4 : decode cX11_has 4 = .ok (.iand, 1) := dk_126 (dk_at dksX11_has_0 4 rfl rfl)
theorem dX11_has_5 : decode cX11_has 5 = .ok (.iconst 1, 1) := dk_4 (dk_at dksX11_has_0 5 rfl rfl)
theorem dX11_has_6 : decode cX11_has 6 = .ok (.if_icmp .ne 7, 3) := dk_160 0 7 (dk_at dksX11_has_0 6 rfl rfl)
theorem dX11_has_9 : decode cX11_has 9 = .ok (.iconst 1, 1) := dk_4 (dk_at dksX11_has_0 9 rfl rfl)
theorem dX11_has_10 : decode cX11_has 10 = .ok (.goto 4, 3) := dk_167 0 4 (dk_at dksX11_has_0 10 rfl rfl)
theorem dX11_has_13 : decode cX11_has 13 = .ok (.iconst 0, 1) := dk_3 (dk_at dksX11_has_0 13 rfl rfl)
theorem dX11_has_14 : decode cX11_has 14 = .ok (.ireturn, 1) := dk_172 (dk_at dksX11_has_0 14 rfl rfl)
abbrev cX11_readComb : ByteArray := prog_21_method_30_code
def yX11_readComb : MethodName := ⟨RX11, "readComb", "()Z"⟩
def dkwX11_readComb_4 : List UInt8 := [79, 167, 255, 180, 4, 172]
abbrev dktX11_readComb_4 : List UInt8 := dkwX11_readComb_4 ++ []
def dkwX11_readComb_3 : List UInt8 := [154, 0, 5, 3, 172, 42, 180, 0, 16, 27, 42, 180, 0, 181, 79, 42, 180, 0, 16, 6, 92, 46, 4, 96]
abbrev dktX11_readComb_3 : List UInt8 := dkwX11_readComb_3 ++ dktX11_readComb_4
def dkwX11_readComb_2 : List UInt8 := [7, 182, 0, 174, 172, 16, 6, 42, 180, 0, 16, 6, 46, 96, 60, 42, 4, 16, 6, 182, 0, 205]
abbrev dktX11_readComb_2 : List UInt8 := dkwX11_readComb_2 ++ dktX11_readComb_3
def dkwX11_readComb_1 : List UInt8 := [46, 153, 0, 11, 42, 180, 0, 128, 6, 160, 0, 65, 42, 180, 0, 16, 6, 46, 16, 6, 160, 0, 9, 42]
abbrev dktX11_readComb_1 : List UInt8 := dkwX11_readComb_1 ++ dktX11_readComb_2
def dkwX11_readComb_0 : List UInt8 := [42, 180, 0, 16, 6, 46, 158, 0, 9, 42, 6, 182, 0, 174, 172, 42, 182, 0, 184, 42, 180, 0, 16, 6]
abbrev dktX11_readComb_0 : List UInt8 := dkwX11_readComb_0 ++ dktX11_readComb_1
theorem dksX11_readComb_0 : cX11_readComb.data.toList.drop 0 = dktX11_readComb_0 := by decide +kernel
theorem dksX11_readComb_1 : cX11_readComb.data.toList.drop 24 = dktX11_readComb_1 := dk_seg dksX11_readComb_0 24 rfl rfl
theorem dksX11_readComb_2 : cX11_readComb.data.toList.drop 48 = dktX11_readComb_2 := dk_seg dksX11_readComb_1 24 rfl rfl
theorem dksX11_readComb_3 : cX11_readComb.data.toList.drop 70 = dktX11_readComb_3 := dk_seg dksX11_readComb_2 22 rfl rfl
theorem dksX11_readComb_4 : cX11_readComb.data.toList.drop 94 = dktX11_readComb_4 := dk_seg dksX11_readComb_3 24 rfl rfl
theorem dX11_readComb_0 : decode cX11_readComb 0 = .ok (.aload_n 0, 1) := dk_42 (dk_at dksX11_readComb_0 0 rfl rfl)
theorem dX11_readComb_1 : decode cX11_readComb 1 = .ok (.getfield 16, 3) := dk_180 0 16 (dk_at dksX11_readComb_0 1 rfl rfl)
theorem dX11_readComb_4 : decode cX11_readComb 4 = .ok (.iconst 3, 1) := dk_6 (dk_at dksX11_readComb_0 4 rfl rfl)
theorem dX11_readComb_5 : decode cX11_readComb 5 = .ok (.iaload, 1) := dk_46 (dk_at dksX11_readComb_0 5 rfl rfl)
theorem dX11_readComb_6 : decode cX11_readComb 6 = .ok (.ifCond .le 9, 3) := dk_158 0 9 (dk_at dksX11_readComb_0 6 rfl rfl)
theorem dX11_readComb_9 : decode cX11_readComb 9 = .ok (.aload_n 0, 1) := dk_42 (dk_at dksX11_readComb_0 9 rfl rfl)
theorem dX11_readComb_10 : decode cX11_readComb 10 = .ok (.iconst 3, 1) := dk_6 (dk_at dksX11_readComb_0 10 rfl rfl)
theorem dX11_readComb_11 : decode cX11_readComb 11 = .ok (.invokevirtual 174, 3) := dk_182 0 174 (dk_at dksX11_readComb_0 11 rfl rfl)
theorem dX11_readComb_14 : decode cX11_readComb 14 = .ok (.ireturn, 1) := dk_172 (dk_at dksX11_readComb_0 14 rfl rfl)
theorem dX11_readComb_15 : decode cX11_readComb 15 = .ok (.aload_n 0, 1) := dk_42 (dk_at dksX11_readComb_0 15 rfl rfl)
theorem dX11_readComb_16 : decode cX11_readComb 16 = .ok (.invokevirtual 184, 3) := dk_182 0 184 (dk_at dksX11_readComb_0 16 rfl rfl)
theorem dX11_readComb_19 : decode cX11_readComb 19 = .ok (.aload_n 0, 1) := dk_42 (dk_at dksX11_readComb_0 19 rfl rfl)
theorem dX11_readComb_20 : decode cX11_readComb 20 = .ok (.getfield 16, 3) := dk_180 0 16 (dk_at dksX11_readComb_0 20 rfl rfl)
theorem dX11_readComb_23 : decode cX11_readComb 23 = .ok (.iconst 3, 1) := dk_6 (dk_at dksX11_readComb_0 23 rfl rfl)
theorem dX11_readComb_24 : decode cX11_readComb 24 = .ok (.iaload, 1) := dk_46 (dk_at dksX11_readComb_1 0 rfl rfl)
theorem dX11_readComb_25 : decode cX11_readComb 25 = .ok (.ifCond .eq 11, 3) := dk_153 0 11 (dk_at dksX11_readComb_1 1 rfl rfl)
theorem dX11_readComb_28 : decode cX11_readComb 28 = .ok (.aload_n 0, 1) := dk_42 (dk_at dksX11_readComb_1 4 rfl rfl)
theorem dX11_readComb_29 : decode cX11_readComb 29 = .ok (.getfield 128, 3) := dk_180 0 128 (dk_at dksX11_readComb_1 5 rfl rfl)
theorem dX11_readComb_32 : decode cX11_readComb 32 = .ok (.iconst 3, 1) := dk_6 (dk_at dksX11_readComb_1 8 rfl rfl)
theorem dX11_readComb_33 : decode cX11_readComb 33 = .ok (.if_icmp .ne 65, 3) := dk_160 0 65 (dk_at dksX11_readComb_1 9 rfl rfl)
theorem dX11_readComb_36 : decode cX11_readComb 36 = .ok (.aload_n 0, 1) := dk_42 (dk_at dksX11_readComb_1 12 rfl rfl)
theorem dX11_readComb_37 : decode cX11_readComb 37 = .ok (.getfield 16, 3) := dk_180 0 16 (dk_at dksX11_readComb_1 13 rfl rfl)
theorem dX11_readComb_40 : decode cX11_readComb 40 = .ok (.iconst 3, 1) := dk_6 (dk_at dksX11_readComb_1 16 rfl rfl)
theorem dX11_readComb_41 : decode cX11_readComb 41 = .ok (.iaload, 1) := dk_46 (dk_at dksX11_readComb_1 17 rfl rfl)
theorem dX11_readComb_42 : decode cX11_readComb 42 = .ok (.bipush 6, 2) := dk_16 6 (dk_at dksX11_readComb_1 18 rfl rfl)
theorem dX11_readComb_44 : decode cX11_readComb 44 = .ok (.if_icmp .ne 9, 3) := dk_160 0 9 (dk_at dksX11_readComb_1 20 rfl rfl)
theorem dX11_readComb_47 : decode cX11_readComb 47 = .ok (.aload_n 0, 1) := dk_42 (dk_at dksX11_readComb_1 23 rfl rfl)
theorem dX11_readComb_48 : decode cX11_readComb 48 = .ok (.iconst 4, 1) := dk_7 (dk_at dksX11_readComb_2 0 rfl rfl)
theorem dX11_readComb_49 : decode cX11_readComb 49 = .ok (.invokevirtual 174, 3) := dk_182 0 174 (dk_at dksX11_readComb_2 1 rfl rfl)
theorem dX11_readComb_52 : decode cX11_readComb 52 = .ok (.ireturn, 1) := dk_172 (dk_at dksX11_readComb_2 4 rfl rfl)
theorem dX11_readComb_53 : decode cX11_readComb 53 = .ok (.bipush 6, 2) := dk_16 6 (dk_at dksX11_readComb_2 5 rfl rfl)
theorem dX11_readComb_55 : decode cX11_readComb 55 = .ok (.aload_n 0, 1) := dk_42 (dk_at dksX11_readComb_2 7 rfl rfl)
theorem dX11_readComb_56 : decode cX11_readComb 56 = .ok (.getfield 16, 3) := dk_180 0 16 (dk_at dksX11_readComb_2 8 rfl rfl)
theorem dX11_readComb_59 : decode cX11_readComb 59 = .ok (.iconst 3, 1) := dk_6 (dk_at dksX11_readComb_2 11 rfl rfl)
theorem dX11_readComb_60 : decode cX11_readComb 60 = .ok (.iaload, 1) := dk_46 (dk_at dksX11_readComb_2 12 rfl rfl)
theorem dX11_readComb_61 : decode cX11_readComb 61 = .ok (.iadd, 1) := dk_96 (dk_at dksX11_readComb_2 13 rfl rfl)
theorem dX11_readComb_62 : decode cX11_readComb 62 = .ok (.istore_n 1, 1) := dk_60 (dk_at dksX11_readComb_2 14 rfl rfl)
theorem dX11_readComb_63 : decode cX11_readComb 63 = .ok (.aload_n 0, 1) := dk_42 (dk_at dksX11_readComb_2 15 rfl rfl)
theorem dX11_readComb_64 : decode cX11_readComb 64 = .ok (.iconst 1, 1) := dk_4 (dk_at dksX11_readComb_2 16 rfl rfl)
theorem dX11_readComb_65 : decode cX11_readComb 65 = .ok (.bipush 6, 2) := dk_16 6 (dk_at dksX11_readComb_2 17 rfl rfl)
theorem dX11_readComb_67 : decode cX11_readComb 67 = .ok (.invokevirtual 205, 3) := dk_182 0 205 (dk_at dksX11_readComb_2 19 rfl rfl)
theorem dX11_readComb_70 : decode cX11_readComb 70 = .ok (.ifCond .ne 5, 3) := dk_154 0 5 (dk_at dksX11_readComb_3 0 rfl rfl)
theorem dX11_readComb_73 : decode cX11_readComb 73 = .ok (.iconst 0, 1) := dk_3 (dk_at dksX11_readComb_3 3 rfl rfl)
theorem dX11_readComb_74 : decode cX11_readComb 74 = .ok (.ireturn, 1) := dk_172 (dk_at dksX11_readComb_3 4 rfl rfl)
theorem dX11_readComb_75 : decode cX11_readComb 75 = .ok (.aload_n 0, 1) := dk_42 (dk_at dksX11_readComb_3 5 rfl rfl)
theorem dX11_readComb_76 : decode cX11_readComb 76 = .ok (.getfield 16, 3) := dk_180 0 16 (dk_at dksX11_readComb_3 6 rfl rfl)
theorem dX11_readComb_79 : decode cX11_readComb 79 = .ok (.iload_n 1, 1) := dk_27 (dk_at dksX11_readComb_3 9 rfl rfl)
theorem dX11_readComb_80 : decode cX11_readComb 80 = .ok (.aload_n 0, 1) := dk_42 (dk_at dksX11_readComb_3 10 rfl rfl)
theorem dX11_readComb_81 : decode cX11_readComb 81 = .ok (.getfield 181, 3) := dk_180 0 181 (dk_at dksX11_readComb_3 11 rfl rfl)
theorem dX11_readComb_84 : decode cX11_readComb 84 = .ok (.iastore, 1) := dk_79 (dk_at dksX11_readComb_3 14 rfl rfl)
theorem dX11_readComb_85 : decode cX11_readComb 85 = .ok (.aload_n 0, 1) := dk_42 (dk_at dksX11_readComb_3 15 rfl rfl)
theorem dX11_readComb_86 : decode cX11_readComb 86 = .ok (.getfield 16, 3) := dk_180 0 16 (dk_at dksX11_readComb_3 16 rfl rfl)
theorem dX11_readComb_89 : decode cX11_readComb 89 = .ok (.iconst 3, 1) := dk_6 (dk_at dksX11_readComb_3 19 rfl rfl)
theorem dX11_readComb_90 : decode cX11_readComb 90 = .ok (.dup2, 1) := dk_92 (dk_at dksX11_readComb_3 20 rfl rfl)
theorem dX11_readComb_91 : decode cX11_readComb 91 = .ok (.iaload, 1) := dk_46 (dk_at dksX11_readComb_3 21 rfl rfl)
theorem dX11_readComb_92 : decode cX11_readComb 92 = .ok (.iconst 1, 1) := dk_4 (dk_at dksX11_readComb_3 22 rfl rfl)
theorem dX11_readComb_93 : decode cX11_readComb 93 = .ok (.iadd, 1) := dk_96 (dk_at dksX11_readComb_3 23 rfl rfl)
theorem dX11_readComb_94 : decode cX11_readComb 94 = .ok (.iastore, 1) := dk_79 (dk_at dksX11_readComb_4 0 rfl rfl)
theorem dX11_readComb_95 : decode cX11_readComb 95 = .ok (.goto (-76), 3) := dk_167 255 180 (dk_at dksX11_readComb_4 1 rfl rfl)
theorem dX11_readComb_98 : decode cX11_readComb 98 = .ok (.iconst 1, 1) := dk_4 (dk_at dksX11_readComb_4 4 rfl rfl)
theorem dX11_readComb_99 : decode cX11_readComb 99 = .ok (.ireturn, 1) := dk_172 (dk_at dksX11_readComb_4 5 rfl rfl)
abbrev cX11_readOnce : ByteArray := prog_21_method_31_code
def yX11_readOnce : MethodName := ⟨RX11, "readOnce", "(I)Z"⟩
def dkwX11_readOnce_1 : List UInt8 := [182, 0, 184, 4, 172]
abbrev dktX11_readOnce_1 : List UInt8 := dkwX11_readOnce_1 ++ []
def dkwX11_readOnce_0 : List UInt8 := [42, 180, 0, 16, 27, 46, 158, 0, 9, 42, 6, 182, 0, 174, 172, 42, 180, 0, 16, 27, 4, 79, 42]
abbrev dktX11_readOnce_0 : List UInt8 := dkwX11_readOnce_0 ++ dktX11_readOnce_1
theorem dksX11_readOnce_0 : cX11_readOnce.data.toList.drop 0 = dktX11_readOnce_0 := by decide +kernel
theorem dksX11_readOnce_1 : cX11_readOnce.data.toList.drop 23 = dktX11_readOnce_1 := dk_seg dksX11_readOnce_0 23 rfl rfl
theorem dX11_readOnce_0 : decode cX11_readOnce 0 = .ok (.aload_n 0, 1) := dk_42 (dk_at dksX11_readOnce_0 0 rfl rfl)
theorem dX11_readOnce_1 : decode cX11_readOnce 1 = .ok (.getfield 16, 3) := dk_180 0 16 (dk_at dksX11_readOnce_0 1 rfl rfl)
theorem dX11_readOnce_4 : decode cX11_readOnce 4 = .ok (.iload_n 1, 1) := dk_27 (dk_at dksX11_readOnce_0 4 rfl rfl)
theorem dX11_readOnce_5 : decode cX11_readOnce 5 = .ok (.iaload, 1) := dk_46 (dk_at dksX11_readOnce_0 5 rfl rfl)
theorem dX11_readOnce_6 : decode cX11_readOnce 6 = .ok (.ifCond .le 9, 3) := dk_158 0 9 (dk_at dksX11_readOnce_0 6 rfl rfl)
theorem dX11_readOnce_9 : decode cX11_readOnce 9 = .ok (.aload_n 0, 1) := dk_42 (dk_at dksX11_readOnce_0 9 rfl rfl)
theorem dX11_readOnce_10 : decode cX11_readOnce 10 = .ok (.iconst 3, 1) := dk_6 (dk_at dksX11_readOnce_0 10 rfl rfl)
theorem dX11_readOnce_11 : decode cX11_readOnce 11 = .ok (.invokevirtual 174, 3) := dk_182 0 174 (dk_at dksX11_readOnce_0 11 rfl rfl)
theorem dX11_readOnce_14 : decode cX11_readOnce 14 = .ok (.ireturn, 1) := dk_172 (dk_at dksX11_readOnce_0 14 rfl rfl)
theorem dX11_readOnce_15 : decode cX11_readOnce 15 = .ok (.aload_n 0, 1) := dk_42 (dk_at dksX11_readOnce_0 15 rfl rfl)
theorem dX11_readOnce_16 : decode cX11_readOnce 16 = .ok (.getfield 16, 3) := dk_180 0 16 (dk_at dksX11_readOnce_0 16 rfl rfl)
theorem dX11_readOnce_19 : decode cX11_readOnce 19 = .ok (.iload_n 1, 1) := dk_27 (dk_at dksX11_readOnce_0 19 rfl rfl)
theorem dX11_readOnce_20 : decode cX11_readOnce 20 = .ok (.iconst 1, 1) := dk_4 (dk_at dksX11_readOnce_0 20 rfl rfl)
theorem dX11_readOnce_21 : decode cX11_readOnce 21 = .ok (.iastore, 1) := dk_79 (dk_at dksX11_readOnce_0 21 rfl rfl)
theorem dX11_readOnce_22 : decode cX11_readOnce 22 = .ok (.aload_n 0, 1) := dk_42 (dk_at dksX11_readOnce_0 22 rfl rfl)
theorem dX11_readOnce_23 : decode cX11_readOnce 23 = .ok (.invokevirtual 184, 3) := dk_182 0 184 (dk_at dksX11_readOnce_1 0 rfl rfl)
theorem dX11_readOnce_26 : decode cX11_readOnce 26 = .ok (.iconst 1, 1) := dk_4 (dk_at dksX11_readOnce_1 3 rfl rfl)
theorem dX11_readOnce_27 : decode cX11_readOnce 27 = .ok (.ireturn, 1) := dk_172 (dk_at dksX11_readOnce_1 4 rfl rfl)
abbrev cX11_readEnd : ByteArray := prog_21_method_22_code
def yX11_readEnd : MethodName := ⟨RX11, "readEnd", "()Z"⟩
def dkwX11_readEnd_0 : List UInt8 := [42, 16, 59, 182, 0, 187, 154, 0, 9, 42, 4, 182, 0, 174, 172, 42, 182, 0, 184, 4, 172]
abbrev dktX11_readEnd_0 : List UInt8 := dkwX11_readEnd_0 ++ []
theorem dksX11_readEnd_0 : cX11_readEnd.data.toList.drop 0 = dktX11_readEnd_0 := by decide +kernel
theorem dX11_readEnd_0 : decode cX11_readEnd 0 = .ok (.aload_n 0, 1) := dk_42 (dk_at dksX11_readEnd_0 0 rfl rfl)
theorem dX11_readEnd_1 : decode cX11_readEnd 1 = .ok (.bipush 59, 2) := dk_16 59 (dk_at dksX11_readEnd_0 1 rfl rfl)
theorem dX11_readEnd_3 : decode cX11_readEnd 3 = .ok (.invokevirtual 187, 3) := dk_182 0 187 (dk_at dksX11_readEnd_0 3 rfl rfl)
theorem dX11_readEnd_6 : decode cX11_readEnd 6 = .ok (.ifCond .ne 9, 3) := dk_154 0 9 (dk_at dksX11_readEnd_0 6 rfl rfl)
theorem dX11_readEnd_9 : decode cX11_readEnd 9 = .ok (.aload_n 0, 1) := dk_42 (dk_at dksX11_readEnd_0 9 rfl rfl)
theorem dX11_readEnd_10 : decode cX11_readEnd 10 = .ok (.iconst 1, 1) := dk_4 (dk_at dksX11_readEnd_0 10 rfl rfl)
theorem dX11_readEnd_11 : decode cX11_readEnd 11 = .ok (.invokevirtual 174, 3) := dk_182 0 174 (dk_at dksX11_readEnd_0 11 rfl rfl)
theorem dX11_readEnd_14 : decode cX11_readEnd 14 = .ok (.ireturn, 1) := dk_172 (dk_at dksX11_readEnd_0 14 rfl rfl)
theorem dX11_readEnd_15 : decode cX11_readEnd 15 = .ok (.aload_n 0, 1) := dk_42 (dk_at dksX11_readEnd_0 15 rfl rfl)
theorem dX11_readEnd_16 : decode cX11_readEnd 16 = .ok (.invokevirtual 184, 3) := dk_182 0 184 (dk_at dksX11_readEnd_0 16 rfl rfl)
theorem dX11_readEnd_19 : decode cX11_readEnd 19 = .ok (.iconst 1, 1) := dk_4 (dk_at dksX11_readEnd_0 19 rfl rfl)
theorem dX11_readEnd_20 : decode cX11_readEnd 20 = .ok (.ireturn, 1) := dk_172 (dk_at dksX11_readEnd_0 20 rfl rfl)
abbrev cX11_isSign : ByteArray := prog_21_method_18_code
def yX11_isSign : MethodName := ⟨RX11, "isSign", "(I)Z"⟩
def dkwX11_isSign_0 : List UInt8 := [42, 180, 0, 128, 7, 160, 0, 15, 42, 180, 0, 138, 27, 160, 0, 7, 4, 167, 0, 4, 3, 172]
abbrev dktX11_isSign_0 : List UInt8 := dkwX11_isSign_0 ++ []
theorem dksX11_isSign_0 : cX11_isSign.data.toList.drop 0 = dktX11_isSign_0 := by decide +kernel
theorem dX11_isSign_0 : decode cX11_isSign 0 = .ok (.aload_n 0, 1) := dk_42 (dk_at dksX11_isSign_0 0 rfl rfl)
theorem dX11_isSign_1 : decode cX11_isSign 1 = .ok (.getfield 128, 3) := dk_180 0 128 (dk_at dksX11_isSign_0 1 rfl rfl)
theorem dX11_isSign_4 : decode cX11_isSign 4 = .ok (.iconst 4, 1) := dk_7 (dk_at dksX11_isSign_0 4 rfl rfl)
theorem dX11_isSign_5 : decode cX11_isSign 5 = .ok (.if_icmp .ne 15, 3) := dk_160 0 15 (dk_at dksX11_isSign_0 5 rfl rfl)
theorem dX11_isSign_8 : decode cX11_isSign 8 = .ok (.aload_n 0, 1) := dk_42 (dk_at dksX11_isSign_0 8 rfl rfl)
theorem dX11_isSign_9 : decode cX11_isSign 9 = .ok (.getfield 138, 3) := dk_180 0 138 (dk_at dksX11_isSign_0 9 rfl rfl)
theorem dX11_isSign_12 : decode cX11_isSign 12 = .ok (.iload_n 1, 1) := dk_27 (dk_at dksX11_isSign_0 12 rfl rfl)
theorem dX11_isSign_13 : decode cX11_isSign 13 = .ok (.if_icmp .ne 7, 3) := dk_160 0 7 (dk_at dksX11_isSign_0 13 rfl rfl)
theorem dX11_isSign_16 : decode cX11_isSign 16 = .ok (.iconst 1, 1) := dk_4 (dk_at dksX11_isSign_0 16 rfl rfl)
theorem dX11_isSign_17 : decode cX11_isSign 17 = .ok (.goto 4, 3) := dk_167 0 4 (dk_at dksX11_isSign_0 17 rfl rfl)
theorem dX11_isSign_20 : decode cX11_isSign 20 = .ok (.iconst 0, 1) := dk_3 (dk_at dksX11_isSign_0 20 rfl rfl)
theorem dX11_isSign_21 : decode cX11_isSign 21 = .ok (.ireturn, 1) := dk_172 (dk_at dksX11_isSign_0 21 rfl rfl)
abbrev cX11_fault : ByteArray := prog_21_method_34_code
def yX11_fault : MethodName := ⟨RX11, "fault", "()I"⟩
def dkwX11_fault_0 : List UInt8 := [42, 3, 181, 0, 106, 42, 180, 0, 168, 172]
abbrev dktX11_fault_0 : List UInt8 := dkwX11_fault_0 ++ []
theorem dksX11_fault_0 : cX11_fault.data.toList.drop 0 = dktX11_fault_0 := by decide +kernel
theorem dX11_fault_0 : decode cX11_fault 0 = .ok (.aload_n 0, 1) := dk_42 (dk_at dksX11_fault_0 0 rfl rfl)
theorem dX11_fault_1 : decode cX11_fault 1 = .ok (.iconst 0, 1) := dk_3 (dk_at dksX11_fault_0 1 rfl rfl)
theorem dX11_fault_2 : decode cX11_fault 2 = .ok (.putfield 106, 3) := dk_181 0 106 (dk_at dksX11_fault_0 2 rfl rfl)
theorem dX11_fault_5 : decode cX11_fault 5 = .ok (.aload_n 0, 1) := dk_42 (dk_at dksX11_fault_0 5 rfl rfl)
theorem dX11_fault_6 : decode cX11_fault 6 = .ok (.getfield 168, 3) := dk_180 0 168 (dk_at dksX11_fault_0 6 rfl rfl)
theorem dX11_fault_9 : decode cX11_fault 9 = .ok (.ireturn, 1) := dk_172 (dk_at dksX11_fault_0 9 rfl rfl)
abbrev cX11_rank : ByteArray := prog_21_method_37_code
def yX11_rank : MethodName := ⟨RX11, "rank", "(I)I"⟩
def dkwX11_rank_1 : List UInt8 := [167, 0, 4, 2, 172]
abbrev dktX11_rank_1 : List UInt8 := dkwX11_rank_1 ++ []
def dkwX11_rank_0 : List UInt8 := [42, 3, 181, 0, 106, 42, 27, 182, 0, 242, 153, 0, 15, 42, 180, 0, 13, 16, 12, 27, 96, 46]
abbrev dktX11_rank_0 : List UInt8 := dkwX11_rank_0 ++ dktX11_rank_1
theorem dksX11_rank_0 : cX11_rank.data.toList.drop 0 = dktX11_rank_0 := by decide +kernel
theorem dksX11_rank_1 : cX11_rank.data.toList.drop 22 = dktX11_rank_1 := dk_seg dksX11_rank_0 22 rfl rfl
theorem dX11_rank_0 : decode cX11_rank 0 = .ok (.aload_n 0, 1) := dk_42 (dk_at dksX11_rank_0 0 rfl rfl)
theorem dX11_rank_1 : decode cX11_rank 1 = .ok (.iconst 0, 1) := dk_3 (dk_at dksX11_rank_0 1 rfl rfl)
theorem dX11_rank_2 : decode cX11_rank 2 = .ok (.putfield 106, 3) := dk_181 0 106 (dk_at dksX11_rank_0 2 rfl rfl)
theorem dX11_rank_5 : decode cX11_rank 5 = .ok (.aload_n 0, 1) := dk_42 (dk_at dksX11_rank_0 5 rfl rfl)
theorem dX11_rank_6 : decode cX11_rank 6 = .ok (.iload_n 1, 1) := dk_27 (dk_at dksX11_rank_0 6 rfl rfl)
theorem dX11_rank_7 : decode cX11_rank 7 = .ok (.invokevirtual 242, 3) := dk_182 0 242 (dk_at dksX11_rank_0 7 rfl rfl)
theorem dX11_rank_10 : decode cX11_rank 10 = .ok (.ifCond .eq 15, 3) := dk_153 0 15 (dk_at dksX11_rank_0 10 rfl rfl)
theorem dX11_rank_13 : decode cX11_rank 13 = .ok (.aload_n 0, 1) := dk_42 (dk_at dksX11_rank_0 13 rfl rfl)
theorem dX11_rank_14 : decode cX11_rank 14 = .ok (.getfield 13, 3) := dk_180 0 13 (dk_at dksX11_rank_0 14 rfl rfl)
theorem dX11_rank_17 : decode cX11_rank 17 = .ok (.bipush 12, 2) := dk_16 12 (dk_at dksX11_rank_0 17 rfl rfl)
theorem dX11_rank_19 : decode cX11_rank 19 = .ok (.iload_n 1, 1) := dk_27 (dk_at dksX11_rank_0 19 rfl rfl)
theorem dX11_rank_20 : decode cX11_rank 20 = .ok (.iadd, 1) := dk_96 (dk_at dksX11_rank_0 20 rfl rfl)
theorem dX11_rank_21 : decode cX11_rank 21 = .ok (.iaload, 1) := dk_46 (dk_at dksX11_rank_0 21 rfl rfl)
theorem dX11_rank_22 : decode cX11_rank 22 = .ok (.goto 4, 3) := dk_167 0 4 (dk_at dksX11_rank_1 0 rfl rfl)
theorem dX11_rank_25 : decode cX11_rank 25 = .ok (.iconst (-1), 1) := dk_2 (dk_at dksX11_rank_1 3 rfl rfl)
theorem dX11_rank_26 : decode cX11_rank 26 = .ok (.ireturn, 1) := dk_172 (dk_at dksX11_rank_1 4 rfl rfl)
abbrev cX11_isWho : ByteArray := prog_21_method_35_code
def yX11_isWho : MethodName := ⟨RX11, "isWho", "(I)Z"⟩
def dkwX11_isWho_0 : List UInt8 := [27, 155, 0, 17, 27, 42, 180, 0, 13, 3, 46, 162, 0, 7, 4, 167, 0, 4, 3, 172]
abbrev dktX11_isWho_0 : List UInt8 := dkwX11_isWho_0 ++ []
theorem dksX11_isWho_0 : cX11_isWho.data.toList.drop 0 = dktX11_isWho_0 := by decide +kernel
theorem dX11_isWho_0 : decode cX11_isWho 0 = .ok (.iload_n 1, 1) := dk_27 (dk_at dksX11_isWho_0 0 rfl rfl)
theorem dX11_isWho_1 : decode cX11_isWho 1 = .ok (.ifCond .lt 17, 3) := dk_155 0 17 (dk_at dksX11_isWho_0 1 rfl rfl)
theorem dX11_isWho_4 : decode cX11_isWho 4 = .ok (.iload_n 1, 1) := dk_27 (dk_at dksX11_isWho_0 4 rfl rfl)
theorem dX11_isWho_5 : decode cX11_isWho 5 = .ok (.aload_n 0, 1) := dk_42 (dk_at dksX11_isWho_0 5 rfl rfl)
theorem dX11_isWho_6 : decode cX11_isWho 6 = .ok (.getfield 13, 3) := dk_180 0 13 (dk_at dksX11_isWho_0 6 rfl rfl)
theorem dX11_isWho_9 : decode cX11_isWho 9 = .ok (.iconst 0, 1) := dk_3 (dk_at dksX11_isWho_0 9 rfl rfl)
theorem dX11_isWho_10 : decode cX11_isWho 10 = .ok (.iaload, 1) := dk_46 (dk_at dksX11_isWho_0 10 rfl rfl)
theorem dX11_isWho_11 : decode cX11_isWho 11 = .ok (.if_icmp .ge 7, 3) := dk_162 0 7 (dk_at dksX11_isWho_0 11 rfl rfl)
theorem dX11_isWho_14 : decode cX11_isWho 14 = .ok (.iconst 1, 1) := dk_4 (dk_at dksX11_isWho_0 14 rfl rfl)
theorem dX11_isWho_15 : decode cX11_isWho 15 = .ok (.goto 4, 3) := dk_167 0 4 (dk_at dksX11_isWho_0 15 rfl rfl)
theorem dX11_isWho_18 : decode cX11_isWho 18 = .ok (.iconst 0, 1) := dk_3 (dk_at dksX11_isWho_0 18 rfl rfl)
theorem dX11_isWho_19 : decode cX11_isWho 19 = .ok (.ireturn, 1) := dk_172 (dk_at dksX11_isWho_0 19 rfl rfl)
abbrev cX11_kind : ByteArray := prog_21_method_38_code
def yX11_kind : MethodName := ⟨RX11, "kind", "(II)I"⟩
def dkwX11_kind_1 : List UInt8 := [181, 0, 106, 42, 180, 0, 13, 16, 20, 7, 27, 104, 96, 28, 96, 46, 172]
abbrev dktX11_kind_1 : List UInt8 := dkwX11_kind_1 ++ []
def dkwX11_kind_0 : List UInt8 := [42, 27, 182, 0, 245, 153, 0, 12, 28, 3, 6, 184, 0, 177, 154, 0, 8, 42, 182, 0, 248, 172, 42, 3]
abbrev dktX11_kind_0 : List UInt8 := dkwX11_kind_0 ++ dktX11_kind_1
theorem dksX11_kind_0 : cX11_kind.data.toList.drop 0 = dktX11_kind_0 := by decide +kernel
theorem dksX11_kind_1 : cX11_kind.data.toList.drop 24 = dktX11_kind_1 := dk_seg dksX11_kind_0 24 rfl rfl
theorem dX11_kind_0 : decode cX11_kind 0 = .ok (.aload_n 0, 1) := dk_42 (dk_at dksX11_kind_0 0 rfl rfl)
theorem dX11_kind_1 : decode cX11_kind 1 = .ok (.iload_n 1, 1) := dk_27 (dk_at dksX11_kind_0 1 rfl rfl)
theorem dX11_kind_2 : decode cX11_kind 2 = .ok (.invokevirtual 245, 3) := dk_182 0 245 (dk_at dksX11_kind_0 2 rfl rfl)
theorem dX11_kind_5 : decode cX11_kind 5 = .ok (.ifCond .eq 12, 3) := dk_153 0 12 (dk_at dksX11_kind_0 5 rfl rfl)
theorem dX11_kind_8 : decode cX11_kind 8 = .ok (.iload_n 2, 1) := dk_28 (dk_at dksX11_kind_0 8 rfl rfl)
theorem dX11_kind_9 : decode cX11_kind 9 = .ok (.iconst 0, 1) := dk_3 (dk_at dksX11_kind_0 9 rfl rfl)
theorem dX11_kind_10 : decode cX11_kind 10 = .ok (.iconst 3, 1) := dk_6 (dk_at dksX11_kind_0 10 rfl rfl)
theorem dX11_kind_11 : decode cX11_kind 11 = .ok (.invokestatic 177, 3) := dk_184 0 177 (dk_at dksX11_kind_0 11 rfl rfl)
theorem dX11_kind_14 : decode cX11_kind 14 = .ok (.ifCond .ne 8, 3) := dk_154 0 8 (dk_at dksX11_kind_0 14 rfl rfl)
theorem dX11_kind_17 : decode cX11_kind 17 = .ok (.aload_n 0, 1) := dk_42 (dk_at dksX11_kind_0 17 rfl rfl)
theorem dX11_kind_18 : decode cX11_kind 18 = .ok (.invokevirtual 248, 3) := dk_182 0 248 (dk_at dksX11_kind_0 18 rfl rfl)
theorem dX11_kind_21 : decode cX11_kind 21 = .ok (.ireturn, 1) := dk_172 (dk_at dksX11_kind_0 21 rfl rfl)
theorem dX11_kind_22 : decode cX11_kind 22 = .ok (.aload_n 0, 1) := dk_42 (dk_at dksX11_kind_0 22 rfl rfl)
theorem dX11_kind_23 : decode cX11_kind 23 = .ok (.iconst 0, 1) := dk_3 (dk_at dksX11_kind_0 23 rfl rfl)
theorem dX11_kind_24 : decode cX11_kind 24 = .ok (.putfield 106, 3) := dk_181 0 106 (dk_at dksX11_kind_1 0 rfl rfl)
theorem dX11_kind_27 : decode cX11_kind 27 = .ok (.aload_n 0, 1) := dk_42 (dk_at dksX11_kind_1 3 rfl rfl)
theorem dX11_kind_28 : decode cX11_kind 28 = .ok (.getfield 13, 3) := dk_180 0 13 (dk_at dksX11_kind_1 4 rfl rfl)
theorem dX11_kind_31 : decode cX11_kind 31 = .ok (.bipush 20, 2) := dk_16 20 (dk_at dksX11_kind_1 7 rfl rfl)
theorem dX11_kind_33 : decode cX11_kind 33 = .ok (.iconst 4, 1) := dk_7 (dk_at dksX11_kind_1 9 rfl rfl)
theorem dX11_kind_34 : decode cX11_kind 34 = .ok (.iload_n 1, 1) := dk_27 (dk_at dksX11_kind_1 10 rfl rfl)
theorem dX11_kind_35 : decode cX11_kind 35 = .ok (.imul, 1) := dk_104 (dk_at dksX11_kind_1 11 rfl rfl)
theorem dX11_kind_36 : decode cX11_kind 36 = .ok (.iadd, 1) := dk_96 (dk_at dksX11_kind_1 12 rfl rfl)
theorem dX11_kind_37 : decode cX11_kind 37 = .ok (.iload_n 2, 1) := dk_28 (dk_at dksX11_kind_1 13 rfl rfl)
theorem dX11_kind_38 : decode cX11_kind 38 = .ok (.iadd, 1) := dk_96 (dk_at dksX11_kind_1 14 rfl rfl)
theorem dX11_kind_39 : decode cX11_kind 39 = .ok (.iaload, 1) := dk_46 (dk_at dksX11_kind_1 15 rfl rfl)
theorem dX11_kind_40 : decode cX11_kind 40 = .ok (.ireturn, 1) := dk_172 (dk_at dksX11_kind_1 16 rfl rfl)
abbrev cX11_isKind : ByteArray := prog_21_method_36_code
def yX11_isKind : MethodName := ⟨RX11, "isKind", "(I)Z"⟩
def dkwX11_isKind_0 : List UInt8 := [27, 155, 0, 17, 27, 42, 180, 0, 13, 4, 46, 162, 0, 7, 4, 167, 0, 4, 3, 172]
abbrev dktX11_isKind_0 : List UInt8 := dkwX11_isKind_0 ++ []
theorem dksX11_isKind_0 : cX11_isKind.data.toList.drop 0 = dktX11_isKind_0 := by decide +kernel
theorem dX11_isKind_0 : decode cX11_isKind 0 = .ok (.iload_n 1, 1) := dk_27 (dk_at dksX11_isKind_0 0 rfl rfl)
theorem dX11_isKind_1 : decode cX11_isKind 1 = .ok (.ifCond .lt 17, 3) := dk_155 0 17 (dk_at dksX11_isKind_0 1 rfl rfl)
theorem dX11_isKind_4 : decode cX11_isKind 4 = .ok (.iload_n 1, 1) := dk_27 (dk_at dksX11_isKind_0 4 rfl rfl)
theorem dX11_isKind_5 : decode cX11_isKind 5 = .ok (.aload_n 0, 1) := dk_42 (dk_at dksX11_isKind_0 5 rfl rfl)
theorem dX11_isKind_6 : decode cX11_isKind 6 = .ok (.getfield 13, 3) := dk_180 0 13 (dk_at dksX11_isKind_0 6 rfl rfl)
theorem dX11_isKind_9 : decode cX11_isKind 9 = .ok (.iconst 1, 1) := dk_4 (dk_at dksX11_isKind_0 9 rfl rfl)
theorem dX11_isKind_10 : decode cX11_isKind 10 = .ok (.iaload, 1) := dk_46 (dk_at dksX11_isKind_0 10 rfl rfl)
theorem dX11_isKind_11 : decode cX11_isKind 11 = .ok (.if_icmp .ge 7, 3) := dk_162 0 7 (dk_at dksX11_isKind_0 11 rfl rfl)
theorem dX11_isKind_14 : decode cX11_isKind 14 = .ok (.iconst 1, 1) := dk_4 (dk_at dksX11_isKind_0 14 rfl rfl)
theorem dX11_isKind_15 : decode cX11_isKind 15 = .ok (.goto 4, 3) := dk_167 0 4 (dk_at dksX11_isKind_0 15 rfl rfl)
theorem dX11_isKind_18 : decode cX11_isKind 18 = .ok (.iconst 0, 1) := dk_3 (dk_at dksX11_isKind_0 18 rfl rfl)
theorem dX11_isKind_19 : decode cX11_isKind 19 = .ok (.ireturn, 1) := dk_172 (dk_at dksX11_isKind_0 19 rfl rfl)
abbrev cX11_refuse : ByteArray := prog_21_method_3_code
def yX11_refuse : MethodName := ⟨RX11, "refuse", "()I"⟩
def dkwX11_refuse_0 : List UInt8 := [42, 4, 181, 0, 106, 3, 172]
abbrev dktX11_refuse_0 : List UInt8 := dkwX11_refuse_0 ++ []
theorem dksX11_refuse_0 : cX11_refuse.data.toList.drop 0 = dktX11_refuse_0 := by decide +kernel
theorem dX11_refuse_0 : decode cX11_refuse 0 = .ok (.aload_n 0, 1) := dk_42 (dk_at dksX11_refuse_0 0 rfl rfl)
theorem dX11_refuse_1 : decode cX11_refuse 1 = .ok (.iconst 1, 1) := dk_4 (dk_at dksX11_refuse_0 1 rfl rfl)
theorem dX11_refuse_2 : decode cX11_refuse 2 = .ok (.putfield 106, 3) := dk_181 0 106 (dk_at dksX11_refuse_0 2 rfl rfl)
theorem dX11_refuse_5 : decode cX11_refuse 5 = .ok (.iconst 0, 1) := dk_3 (dk_at dksX11_refuse_0 5 rfl rfl)
theorem dX11_refuse_6 : decode cX11_refuse 6 = .ok (.ireturn, 1) := dk_172 (dk_at dksX11_refuse_0 6 rfl rfl)
abbrev cX11_say : ByteArray := prog_21_method_49_code
def yX11_say : MethodName := ⟨RX11, "say", "(II)I"⟩
def dkwX11_say_0 : List UInt8 := [42, 27, 28, 182, 1, 20, 62, 29, 153, 0, 5, 29, 172, 42, 27, 28, 182, 1, 23, 3, 172]
abbrev dktX11_say_0 : List UInt8 := dkwX11_say_0 ++ []
theorem dksX11_say_0 : cX11_say.data.toList.drop 0 = dktX11_say_0 := by decide +kernel
theorem dX11_say_0 : decode cX11_say 0 = .ok (.aload_n 0, 1) := dk_42 (dk_at dksX11_say_0 0 rfl rfl)
theorem dX11_say_1 : decode cX11_say 1 = .ok (.iload_n 1, 1) := dk_27 (dk_at dksX11_say_0 1 rfl rfl)
theorem dX11_say_2 : decode cX11_say 2 = .ok (.iload_n 2, 1) := dk_28 (dk_at dksX11_say_0 2 rfl rfl)
theorem dX11_say_3 : decode cX11_say 3 = .ok (.invokevirtual 276, 3) := dk_182 1 20 (dk_at dksX11_say_0 3 rfl rfl)
theorem dX11_say_6 : decode cX11_say 6 = .ok (.istore_n 3, 1) := dk_62 (dk_at dksX11_say_0 6 rfl rfl)
theorem dX11_say_7 : decode cX11_say 7 = .ok (.iload_n 3, 1) := dk_29 (dk_at dksX11_say_0 7 rfl rfl)
theorem dX11_say_8 : decode cX11_say 8 = .ok (.ifCond .eq 5, 3) := dk_153 0 5 (dk_at dksX11_say_0 8 rfl rfl)
theorem dX11_say_11 : decode cX11_say 11 = .ok (.iload_n 3, 1) := dk_29 (dk_at dksX11_say_0 11 rfl rfl)
theorem dX11_say_12 : decode cX11_say 12 = .ok (.ireturn, 1) := dk_172 (dk_at dksX11_say_0 12 rfl rfl)
theorem dX11_say_13 : decode cX11_say 13 = .ok (.aload_n 0, 1) := dk_42 (dk_at dksX11_say_0 13 rfl rfl)
theorem dX11_say_14 : decode cX11_say 14 = .ok (.iload_n 1, 1) := dk_27 (dk_at dksX11_say_0 14 rfl rfl)
theorem dX11_say_15 : decode cX11_say 15 = .ok (.iload_n 2, 1) := dk_28 (dk_at dksX11_say_0 15 rfl rfl)
theorem dX11_say_16 : decode cX11_say 16 = .ok (.invokevirtual 279, 3) := dk_182 1 23 (dk_at dksX11_say_0 16 rfl rfl)
theorem dX11_say_19 : decode cX11_say 19 = .ok (.iconst 0, 1) := dk_3 (dk_at dksX11_say_0 19 rfl rfl)
theorem dX11_say_20 : decode cX11_say 20 = .ok (.ireturn, 1) := dk_172 (dk_at dksX11_say_0 20 rfl rfl)
abbrev cX11_tries : ByteArray := prog_21_method_48_code
def yX11_tries : MethodName := ⟨RX11, "tries", "(II)I"⟩
def dkwX11_tries_2 : List UInt8 := [182, 1, 17, 172]
abbrev dktX11_tries_2 : List UInt8 := dkwX11_tries_2 ++ []
def dkwX11_tries_1 : List UInt8 := [180, 0, 13, 16, 60, 46, 17, 1, 144, 160, 0, 5, 2, 172, 42, 182, 1, 14, 42, 3, 27, 28]
abbrev dktX11_tries_1 : List UInt8 := dkwX11_tries_1 ++ dktX11_tries_2
def dkwX11_tries_0 : List UInt8 := [42, 3, 181, 0, 106, 42, 27, 182, 0, 242, 153, 0, 24, 42, 28, 182, 0, 245, 153, 0, 16, 42]
abbrev dktX11_tries_0 : List UInt8 := dkwX11_tries_0 ++ dktX11_tries_1
theorem dksX11_tries_0 : cX11_tries.data.toList.drop 0 = dktX11_tries_0 := by decide +kernel
theorem dksX11_tries_1 : cX11_tries.data.toList.drop 22 = dktX11_tries_1 := dk_seg dksX11_tries_0 22 rfl rfl
theorem dksX11_tries_2 : cX11_tries.data.toList.drop 44 = dktX11_tries_2 := dk_seg dksX11_tries_1 22 rfl rfl
theorem dX11_tries_0 : decode cX11_tries 0 = .ok (.aload_n 0, 1) := dk_42 (dk_at dksX11_tries_0 0 rfl rfl)
theorem dX11_tries_1 : decode cX11_tries 1 = .ok (.iconst 0, 1) := dk_3 (dk_at dksX11_tries_0 1 rfl rfl)
theorem dX11_tries_2 : decode cX11_tries 2 = .ok (.putfield 106, 3) := dk_181 0 106 (dk_at dksX11_tries_0 2 rfl rfl)
theorem dX11_tries_5 : decode cX11_tries 5 = .ok (.aload_n 0, 1) := dk_42 (dk_at dksX11_tries_0 5 rfl rfl)
theorem dX11_tries_6 : decode cX11_tries 6 = .ok (.iload_n 1, 1) := dk_27 (dk_at dksX11_tries_0 6 rfl rfl)
theorem dX11_tries_7 : decode cX11_tries 7 = .ok (.invokevirtual 242, 3) := dk_182 0 242 (dk_at dksX11_tries_0 7 rfl rfl)
theorem dX11_tries_10 : decode cX11_tries 10 = .ok (.ifCond .eq 24, 3) := dk_153 0 24 (dk_at dksX11_tries_0 10 rfl rfl)
theorem dX11_tries_13 : decode cX11_tries 13 = .ok (.aload_n 0, 1) := dk_42 (dk_at dksX11_tries_0 13 rfl rfl)
theorem dX11_tries_14 : decode cX11_tries 14 = .ok (.iload_n 2, 1) := dk_28 (dk_at dksX11_tries_0 14 rfl rfl)
theorem dX11_tries_15 : decode cX11_tries 15 = .ok (.invokevirtual 245, 3) := dk_182 0 245 (dk_at dksX11_tries_0 15 rfl rfl)
theorem dX11_tries_18 : decode cX11_tries 18 = .ok (.ifCond .eq 16, 3) := dk_153 0 16 (dk_at dksX11_tries_0 18 rfl rfl)
theorem dX11_tries_21 : decode cX11_tries 21 = .ok (.aload_n 0, 1) := dk_42 (dk_at dksX11_tries_0 21 rfl rfl)
theorem dX11_tries_22 : decode cX11_tries 22 = .ok (.getfield 13, 3) := dk_180 0 13 (dk_at dksX11_tries_1 0 rfl rfl)
theorem dX11_tries_25 : decode cX11_tries 25 = .ok (.bipush 60, 2) := dk_16 60 (dk_at dksX11_tries_1 3 rfl rfl)
theorem dX11_tries_27 : decode cX11_tries 27 = .ok (.iaload, 1) := dk_46 (dk_at dksX11_tries_1 5 rfl rfl)
theorem dX11_tries_28 : decode cX11_tries 28 = .ok (.sipush 400, 3) := dk_17 1 144 (dk_at dksX11_tries_1 6 rfl rfl)
theorem dX11_tries_31 : decode cX11_tries 31 = .ok (.if_icmp .ne 5, 3) := dk_160 0 5 (dk_at dksX11_tries_1 9 rfl rfl)
theorem dX11_tries_34 : decode cX11_tries 34 = .ok (.iconst (-1), 1) := dk_2 (dk_at dksX11_tries_1 12 rfl rfl)
theorem dX11_tries_35 : decode cX11_tries 35 = .ok (.ireturn, 1) := dk_172 (dk_at dksX11_tries_1 13 rfl rfl)
theorem dX11_tries_36 : decode cX11_tries 36 = .ok (.aload_n 0, 1) := dk_42 (dk_at dksX11_tries_1 14 rfl rfl)
theorem dX11_tries_37 : decode cX11_tries 37 = .ok (.invokevirtual 270, 3) := dk_182 1 14 (dk_at dksX11_tries_1 15 rfl rfl)
theorem dX11_tries_40 : decode cX11_tries 40 = .ok (.aload_n 0, 1) := dk_42 (dk_at dksX11_tries_1 18 rfl rfl)
theorem dX11_tries_41 : decode cX11_tries 41 = .ok (.iconst 0, 1) := dk_3 (dk_at dksX11_tries_1 19 rfl rfl)
theorem dX11_tries_42 : decode cX11_tries 42 = .ok (.iload_n 1, 1) := dk_27 (dk_at dksX11_tries_1 20 rfl rfl)
theorem dX11_tries_43 : decode cX11_tries 43 = .ok (.iload_n 2, 1) := dk_28 (dk_at dksX11_tries_1 21 rfl rfl)
theorem dX11_tries_44 : decode cX11_tries 44 = .ok (.invokevirtual 273, 3) := dk_182 1 17 (dk_at dksX11_tries_2 0 rfl rfl)
theorem dX11_tries_47 : decode cX11_tries 47 = .ok (.ireturn, 1) := dk_172 (dk_at dksX11_tries_2 3 rfl rfl)
abbrev cX11_lay : ByteArray := prog_21_method_47_code
def yX11_lay : MethodName := ⟨RX11, "lay", "()V"⟩
def dkwX11_lay_2 : List UInt8 := [46, 182, 1, 10, 132, 1, 1, 167, 255, 213, 177]
abbrev dktX11_lay_2 : List UInt8 := dkwX11_lay_2 ++ []
def dkwX11_lay_1 : List UInt8 := [3, 42, 180, 0, 13, 16, 61, 5, 27, 104, 96, 46, 42, 180, 0, 13, 16, 61, 5, 27, 104, 96, 4, 96]
abbrev dktX11_lay_1 : List UInt8 := dkwX11_lay_1 ++ dktX11_lay_2
def dkwX11_lay_0 : List UInt8 := [42, 3, 42, 180, 0, 13, 3, 182, 1, 6, 3, 60, 27, 42, 180, 0, 13, 16, 60, 46, 162, 0, 38, 42]
abbrev dktX11_lay_0 : List UInt8 := dkwX11_lay_0 ++ dktX11_lay_1
theorem dksX11_lay_0 : cX11_lay.data.toList.drop 0 = dktX11_lay_0 := by decide +kernel
theorem dksX11_lay_1 : cX11_lay.data.toList.drop 24 = dktX11_lay_1 := dk_seg dksX11_lay_0 24 rfl rfl
theorem dksX11_lay_2 : cX11_lay.data.toList.drop 48 = dktX11_lay_2 := dk_seg dksX11_lay_1 24 rfl rfl
theorem dX11_lay_0 : decode cX11_lay 0 = .ok (.aload_n 0, 1) := dk_42 (dk_at dksX11_lay_0 0 rfl rfl)
theorem dX11_lay_1 : decode cX11_lay 1 = .ok (.iconst 0, 1) := dk_3 (dk_at dksX11_lay_0 1 rfl rfl)
theorem dX11_lay_2 : decode cX11_lay 2 = .ok (.aload_n 0, 1) := dk_42 (dk_at dksX11_lay_0 2 rfl rfl)
theorem dX11_lay_3 : decode cX11_lay 3 = .ok (.getfield 13, 3) := dk_180 0 13 (dk_at dksX11_lay_0 3 rfl rfl)
theorem dX11_lay_6 : decode cX11_lay 6 = .ok (.iconst 0, 1) := dk_3 (dk_at dksX11_lay_0 6 rfl rfl)
theorem dX11_lay_7 : decode cX11_lay 7 = .ok (.invokevirtual 262, 3) := dk_182 1 6 (dk_at dksX11_lay_0 7 rfl rfl)
theorem dX11_lay_10 : decode cX11_lay 10 = .ok (.iconst 0, 1) := dk_3 (dk_at dksX11_lay_0 10 rfl rfl)
theorem dX11_lay_11 : decode cX11_lay 11 = .ok (.istore_n 1, 1) := dk_60 (dk_at dksX11_lay_0 11 rfl rfl)
theorem dX11_lay_12 : decode cX11_lay 12 = .ok (.iload_n 1, 1) := dk_27 (dk_at dksX11_lay_0 12 rfl rfl)
theorem dX11_lay_13 : decode cX11_lay 13 = .ok (.aload_n 0, 1) := dk_42 (dk_at dksX11_lay_0 13 rfl rfl)
theorem dX11_lay_14 : decode cX11_lay 14 = .ok (.getfield 13, 3) := dk_180 0 13 (dk_at dksX11_lay_0 14 rfl rfl)
theorem dX11_lay_17 : decode cX11_lay 17 = .ok (.bipush 60, 2) := dk_16 60 (dk_at dksX11_lay_0 17 rfl rfl)
theorem dX11_lay_19 : decode cX11_lay 19 = .ok (.iaload, 1) := dk_46 (dk_at dksX11_lay_0 19 rfl rfl)
theorem dX11_lay_20 : decode cX11_lay 20 = .ok (.if_icmp .ge 38, 3) := dk_162 0 38 (dk_at dksX11_lay_0 20 rfl rfl)
theorem dX11_lay_23 : decode cX11_lay 23 = .ok (.aload_n 0, 1) := dk_42 (dk_at dksX11_lay_0 23 rfl rfl)
theorem dX11_lay_24 : decode cX11_lay 24 = .ok (.iconst 0, 1) := dk_3 (dk_at dksX11_lay_1 0 rfl rfl)
theorem dX11_lay_25 : decode cX11_lay 25 = .ok (.aload_n 0, 1) := dk_42 (dk_at dksX11_lay_1 1 rfl rfl)
theorem dX11_lay_26 : decode cX11_lay 26 = .ok (.getfield 13, 3) := dk_180 0 13 (dk_at dksX11_lay_1 2 rfl rfl)
theorem dX11_lay_29 : decode cX11_lay 29 = .ok (.bipush 61, 2) := dk_16 61 (dk_at dksX11_lay_1 5 rfl rfl)
theorem dX11_lay_31 : decode cX11_lay 31 = .ok (.iconst 2, 1) := dk_5 (dk_at dksX11_lay_1 7 rfl rfl)
theorem dX11_lay_32 : decode cX11_lay 32 = .ok (.iload_n 1, 1) := dk_27 (dk_at dksX11_lay_1 8 rfl rfl)
theorem dX11_lay_33 : decode cX11_lay 33 = .ok (.imul, 1) := dk_104 (dk_at dksX11_lay_1 9 rfl rfl)
theorem dX11_lay_34 : decode cX11_lay 34 = .ok (.iadd, 1) := dk_96 (dk_at dksX11_lay_1 10 rfl rfl)
theorem dX11_lay_35 : decode cX11_lay 35 = .ok (.iaload, 1) := dk_46 (dk_at dksX11_lay_1 11 rfl rfl)
theorem dX11_lay_36 : decode cX11_lay 36 = .ok (.aload_n 0, 1) := dk_42 (dk_at dksX11_lay_1 12 rfl rfl)
theorem dX11_lay_37 : decode cX11_lay 37 = .ok (.getfield 13, 3) := dk_180 0 13 (dk_at dksX11_lay_1 13 rfl rfl)
theorem dX11_lay_40 : decode cX11_lay 40 = .ok (.bipush 61, 2) := dk_16 61 (dk_at dksX11_lay_1 16 rfl rfl)
theorem dX11_lay_42 : decode cX11_lay 42 = .ok (.iconst 2, 1) := dk_5 (dk_at dksX11_lay_1 18 rfl rfl)
theorem dX11_lay_43 : decode cX11_lay 43 = .ok (.iload_n 1, 1) := dk_27 (dk_at dksX11_lay_1 19 rfl rfl)
theorem dX11_lay_44 : decode cX11_lay 44 = .ok (.imul, 1) := dk_104 (dk_at dksX11_lay_1 20 rfl rfl)
theorem dX11_lay_45 : decode cX11_lay 45 = .ok (.iadd, 1) := dk_96 (dk_at dksX11_lay_1 21 rfl rfl)
theorem dX11_lay_46 : decode cX11_lay 46 = .ok (.iconst 1, 1) := dk_4 (dk_at dksX11_lay_1 22 rfl rfl)
theorem dX11_lay_47 : decode cX11_lay 47 = .ok (.iadd, 1) := dk_96 (dk_at dksX11_lay_1 23 rfl rfl)
theorem dX11_lay_48 : decode cX11_lay 48 = .ok (.iaload, 1) := dk_46 (dk_at dksX11_lay_2 0 rfl rfl)
theorem dX11_lay_49 : decode cX11_lay 49 = .ok (.invokevirtual 266, 3) := dk_182 1 10 (dk_at dksX11_lay_2 1 rfl rfl)
theorem dX11_lay_52 : decode cX11_lay 52 = .ok (.iinc 1 1, 3) := dk_132 1 1 (dk_at dksX11_lay_2 4 rfl rfl)
theorem dX11_lay_55 : decode cX11_lay 55 = .ok (.goto (-43), 3) := dk_167 255 213 (dk_at dksX11_lay_2 7 rfl rfl)
theorem dX11_lay_58 : decode cX11_lay 58 = .ok (.return_, 1) := dk_177 (dk_at dksX11_lay_2 10 rfl rfl)
abbrev cX11_layRules : ByteArray := prog_21_method_39_code
def yX11_layRules : MethodName := ⟨RX11, "layRules", "(I[II)V"⟩
def dkwX11_layRules_2 : List UInt8 := [79, 177]
abbrev dktX11_layRules_2 : List UInt8 := dkwX11_layRules_2 ++ []
def dkwX11_layRules_1 : List UInt8 := [21, 4, 96, 46, 79, 132, 4, 1, 167, 255, 228, 42, 180, 0, 60, 27, 3, 79, 42, 180, 0, 63, 27, 3]
abbrev dktX11_layRules_1 : List UInt8 := dkwX11_layRules_1 ++ dktX11_layRules_2
def dkwX11_layRules_0 : List UInt8 := [3, 54, 4, 21, 4, 16, 60, 162, 0, 27, 42, 180, 0, 39, 16, 60, 27, 104, 21, 4, 96, 44, 29]
abbrev dktX11_layRules_0 : List UInt8 := dkwX11_layRules_0 ++ dktX11_layRules_1
theorem dksX11_layRules_0 : cX11_layRules.data.toList.drop 0 = dktX11_layRules_0 := by decide +kernel
theorem dksX11_layRules_1 : cX11_layRules.data.toList.drop 23 = dktX11_layRules_1 := dk_seg dksX11_layRules_0 23 rfl rfl
theorem dksX11_layRules_2 : cX11_layRules.data.toList.drop 47 = dktX11_layRules_2 := dk_seg dksX11_layRules_1 24 rfl rfl
theorem dX11_layRules_0 : decode cX11_layRules 0 = .ok (.iconst 0, 1) := dk_3 (dk_at dksX11_layRules_0 0 rfl rfl)
theorem dX11_layRules_1 : decode cX11_layRules 1 = .ok (.istore 4, 2) := dk_54 4 (dk_at dksX11_layRules_0 1 rfl rfl)
theorem dX11_layRules_3 : decode cX11_layRules 3 = .ok (.iload 4, 2) := dk_21 4 (dk_at dksX11_layRules_0 3 rfl rfl)
theorem dX11_layRules_5 : decode cX11_layRules 5 = .ok (.bipush 60, 2) := dk_16 60 (dk_at dksX11_layRules_0 5 rfl rfl)
theorem dX11_layRules_7 : decode cX11_layRules 7 = .ok (.if_icmp .ge 27, 3) := dk_162 0 27 (dk_at dksX11_layRules_0 7 rfl rfl)
theorem dX11_layRules_10 : decode cX11_layRules 10 = .ok (.aload_n 0, 1) := dk_42 (dk_at dksX11_layRules_0 10 rfl rfl)
theorem dX11_layRules_11 : decode cX11_layRules 11 = .ok (.getfield 39, 3) := dk_180 0 39 (dk_at dksX11_layRules_0 11 rfl rfl)
theorem dX11_layRules_14 : decode cX11_layRules 14 = .ok (.bipush 60, 2) := dk_16 60 (dk_at dksX11_layRules_0 14 rfl rfl)
theorem dX11_layRules_16 : decode cX11_layRules 16 = .ok (.iload_n 1, 1) := dk_27 (dk_at dksX11_layRules_0 16 rfl rfl)
theorem dX11_layRules_17 : decode cX11_layRules 17 = .ok (.imul, 1) := dk_104 (dk_at dksX11_layRules_0 17 rfl rfl)
theorem dX11_layRules_18 : decode cX11_layRules 18 = .ok (.iload 4, 2) := dk_21 4 (dk_at dksX11_layRules_0 18 rfl rfl)
theorem dX11_layRules_20 : decode cX11_layRules 20 = .ok (.iadd, 1) := dk_96 (dk_at dksX11_layRules_0 20 rfl rfl)
theorem dX11_layRules_21 : decode cX11_layRules 21 = .ok (.aload_n 2, 1) := dk_44 (dk_at dksX11_layRules_0 21 rfl rfl)
theorem dX11_layRules_22 : decode cX11_layRules 22 = .ok (.iload_n 3, 1) := dk_29 (dk_at dksX11_layRules_0 22 rfl rfl)
theorem dX11_layRules_23 : decode cX11_layRules 23 = .ok (.iload 4, 2) := dk_21 4 (dk_at dksX11_layRules_1 0 rfl rfl)
theorem dX11_layRules_25 : decode cX11_layRules 25 = .ok (.iadd, 1) := dk_96 (dk_at dksX11_layRules_1 2 rfl rfl)
theorem dX11_layRules_26 : decode cX11_layRules 26 = .ok (.iaload, 1) := dk_46 (dk_at dksX11_layRules_1 3 rfl rfl)
theorem dX11_layRules_27 : decode cX11_layRules 27 = .ok (.iastore, 1) := dk_79 (dk_at dksX11_layRules_1 4 rfl rfl)
theorem dX11_layRules_28 : decode cX11_layRules 28 = .ok (.iinc 4 1, 3) := dk_132 4 1 (dk_at dksX11_layRules_1 5 rfl rfl)
theorem dX11_layRules_31 : decode cX11_layRules 31 = .ok (.goto (-28), 3) := dk_167 255 228 (dk_at dksX11_layRules_1 8 rfl rfl)
theorem dX11_layRules_34 : decode cX11_layRules 34 = .ok (.aload_n 0, 1) := dk_42 (dk_at dksX11_layRules_1 11 rfl rfl)
theorem dX11_layRules_35 : decode cX11_layRules 35 = .ok (.getfield 60, 3) := dk_180 0 60 (dk_at dksX11_layRules_1 12 rfl rfl)
theorem dX11_layRules_38 : decode cX11_layRules 38 = .ok (.iload_n 1, 1) := dk_27 (dk_at dksX11_layRules_1 15 rfl rfl)
theorem dX11_layRules_39 : decode cX11_layRules 39 = .ok (.iconst 0, 1) := dk_3 (dk_at dksX11_layRules_1 16 rfl rfl)
theorem dX11_layRules_40 : decode cX11_layRules 40 = .ok (.iastore, 1) := dk_79 (dk_at dksX11_layRules_1 17 rfl rfl)
theorem dX11_layRules_41 : decode cX11_layRules 41 = .ok (.aload_n 0, 1) := dk_42 (dk_at dksX11_layRules_1 18 rfl rfl)
theorem dX11_layRules_42 : decode cX11_layRules 42 = .ok (.getfield 63, 3) := dk_180 0 63 (dk_at dksX11_layRules_1 19 rfl rfl)
theorem dX11_layRules_45 : decode cX11_layRules 45 = .ok (.iload_n 1, 1) := dk_27 (dk_at dksX11_layRules_1 22 rfl rfl)
theorem dX11_layRules_46 : decode cX11_layRules 46 = .ok (.iconst 0, 1) := dk_3 (dk_at dksX11_layRules_1 23 rfl rfl)
theorem dX11_layRules_47 : decode cX11_layRules 47 = .ok (.iastore, 1) := dk_79 (dk_at dksX11_layRules_2 0 rfl rfl)
theorem dX11_layRules_48 : decode cX11_layRules 48 = .ok (.return_, 1) := dk_177 (dk_at dksX11_layRules_2 1 rfl rfl)
abbrev cX11_push : ByteArray := prog_21_method_44_code
def yX11_push : MethodName := ⟨RX11, "push", "(III)V"⟩
def dkwX11_push_9 : List UInt8 := [177]
abbrev dktX11_push_9 : List UInt8 := dkwX11_push_9 ++ []
def dkwX11_push_8 : List UInt8 := [7, 162, 0, 8, 21, 6, 167, 0, 7, 21, 6, 4, 96, 79, 42, 180, 0, 60, 27, 92, 46, 4, 96, 79]
abbrev dktX11_push_8 : List UInt8 := dkwX11_push_8 ++ dktX11_push_9
def dkwX11_push_7 : List UInt8 := [46, 4, 96, 79, 21, 6, 4, 164, 0, 31, 42, 180, 0, 57, 17, 1, 144, 27, 104, 21, 5, 96, 21, 6]
abbrev dktX11_push_7 : List UInt8 := dkwX11_push_7 ++ dktX11_push_8
def dkwX11_push_6 : List UInt8 := [104, 21, 5, 96, 46, 79, 42, 180, 0, 54, 21, 4, 42, 180, 0, 54, 17, 1, 144, 27, 104, 21, 5, 96]
abbrev dktX11_push_6 : List UInt8 := dkwX11_push_6 ++ dktX11_push_7
def dkwX11_push_5 : List UInt8 := [180, 0, 54, 21, 4, 3, 79, 167, 0, 79, 42, 180, 0, 51, 21, 4, 42, 180, 0, 51, 17, 1, 144, 27]
abbrev dktX11_push_5 : List UInt8 := dkwX11_push_5 ++ dktX11_push_6
def dkwX11_push_4 : List UInt8 := [180, 0, 51, 21, 4, 42, 180, 0, 63, 27, 46, 79, 42, 180, 0, 63, 27, 92, 46, 4, 96, 79, 42]
abbrev dktX11_push_4 : List UInt8 := dkwX11_push_4 ++ dktX11_push_5
def dkwX11_push_3 : List UInt8 := [167, 0, 14, 21, 6, 5, 160, 0, 7, 7, 167, 0, 4, 3, 79, 21, 5, 2, 160, 0, 37, 42]
abbrev dktX11_push_3 : List UInt8 := dkwX11_push_3 ++ dktX11_push_4
def dkwX11_push_2 : List UInt8 := [42, 180, 0, 48, 21, 4, 21, 5, 79, 42, 180, 0, 57, 21, 4, 21, 6, 4, 160, 0, 7, 4]
abbrev dktX11_push_2 : List UInt8 := dkwX11_push_2 ++ dktX11_push_3
def dkwX11_push_1 : List UInt8 := [27, 29, 4, 182, 0, 251, 54, 6, 42, 180, 0, 42, 21, 4, 28, 79, 42, 180, 0, 45, 21, 4, 29, 79]
abbrev dktX11_push_1 : List UInt8 := dkwX11_push_1 ++ dktX11_push_2
def dkwX11_push_0 : List UInt8 := [17, 1, 144, 27, 104, 42, 180, 0, 60, 27, 46, 96, 54, 4, 42, 27, 28, 29, 182, 1, 3, 54, 5, 42]
abbrev dktX11_push_0 : List UInt8 := dkwX11_push_0 ++ dktX11_push_1
theorem dksX11_push_0 : cX11_push.data.toList.drop 0 = dktX11_push_0 := by decide +kernel
theorem dksX11_push_1 : cX11_push.data.toList.drop 24 = dktX11_push_1 := dk_seg dksX11_push_0 24 rfl rfl
theorem dksX11_push_2 : cX11_push.data.toList.drop 48 = dktX11_push_2 := dk_seg dksX11_push_1 24 rfl rfl
theorem dksX11_push_3 : cX11_push.data.toList.drop 70 = dktX11_push_3 := dk_seg dksX11_push_2 22 rfl rfl
theorem dksX11_push_4 : cX11_push.data.toList.drop 92 = dktX11_push_4 := dk_seg dksX11_push_3 22 rfl rfl
theorem dksX11_push_5 : cX11_push.data.toList.drop 115 = dktX11_push_5 := dk_seg dksX11_push_4 23 rfl rfl
theorem dksX11_push_6 : cX11_push.data.toList.drop 139 = dktX11_push_6 := dk_seg dksX11_push_5 24 rfl rfl
theorem dksX11_push_7 : cX11_push.data.toList.drop 163 = dktX11_push_7 := dk_seg dksX11_push_6 24 rfl rfl
theorem dksX11_push_8 : cX11_push.data.toList.drop 187 = dktX11_push_8 := dk_seg dksX11_push_7 24 rfl rfl
theorem dksX11_push_9 : cX11_push.data.toList.drop 211 = dktX11_push_9 := dk_seg dksX11_push_8 24 rfl rfl
theorem dX11_push_0 : decode cX11_push 0 = .ok (.sipush 400, 3) := dk_17 1 144 (dk_at dksX11_push_0 0 rfl rfl)
theorem dX11_push_3 : decode cX11_push 3 = .ok (.iload_n 1, 1) := dk_27 (dk_at dksX11_push_0 3 rfl rfl)
theorem dX11_push_4 : decode cX11_push 4 = .ok (.imul, 1) := dk_104 (dk_at dksX11_push_0 4 rfl rfl)
theorem dX11_push_5 : decode cX11_push 5 = .ok (.aload_n 0, 1) := dk_42 (dk_at dksX11_push_0 5 rfl rfl)
theorem dX11_push_6 : decode cX11_push 6 = .ok (.getfield 60, 3) := dk_180 0 60 (dk_at dksX11_push_0 6 rfl rfl)
theorem dX11_push_9 : decode cX11_push 9 = .ok (.iload_n 1, 1) := dk_27 (dk_at dksX11_push_0 9 rfl rfl)
theorem dX11_push_10 : decode cX11_push 10 = .ok (.iaload, 1) := dk_46 (dk_at dksX11_push_0 10 rfl rfl)
theorem dX11_push_11 : decode cX11_push 11 = .ok (.iadd, 1) := dk_96 (dk_at dksX11_push_0 11 rfl rfl)
theorem dX11_push_12 : decode cX11_push 12 = .ok (.istore 4, 2) := dk_54 4 (dk_at dksX11_push_0 12 rfl rfl)
theorem dX11_push_14 : decode cX11_push 14 = .ok (.aload_n 0, 1) := dk_42 (dk_at dksX11_push_0 14 rfl rfl)
theorem dX11_push_15 : decode cX11_push 15 = .ok (.iload_n 1, 1) := dk_27 (dk_at dksX11_push_0 15 rfl rfl)
theorem dX11_push_16 : decode cX11_push 16 = .ok (.iload_n 2, 1) := dk_28 (dk_at dksX11_push_0 16 rfl rfl)
theorem dX11_push_17 : decode cX11_push 17 = .ok (.iload_n 3, 1) := dk_29 (dk_at dksX11_push_0 17 rfl rfl)
theorem dX11_push_18 : decode cX11_push 18 = .ok (.invokevirtual 259, 3) := dk_182 1 3 (dk_at dksX11_push_0 18 rfl rfl)
theorem dX11_push_21 : decode cX11_push 21 = .ok (.istore 5, 2) := dk_54 5 (dk_at dksX11_push_0 21 rfl rfl)
theorem dX11_push_23 : decode cX11_push 23 = .ok (.aload_n 0, 1) := dk_42 (dk_at dksX11_push_0 23 rfl rfl)
theorem dX11_push_24 : decode cX11_push 24 = .ok (.iload_n 1, 1) := dk_27 (dk_at dksX11_push_1 0 rfl rfl)
theorem dX11_push_25 : decode cX11_push 25 = .ok (.iload_n 3, 1) := dk_29 (dk_at dksX11_push_1 1 rfl rfl)
theorem dX11_push_26 : decode cX11_push 26 = .ok (.iconst 1, 1) := dk_4 (dk_at dksX11_push_1 2 rfl rfl)
theorem dX11_push_27 : decode cX11_push 27 = .ok (.invokevirtual 251, 3) := dk_182 0 251 (dk_at dksX11_push_1 3 rfl rfl)
theorem dX11_push_30 : decode cX11_push 30 = .ok (.istore 6, 2) := dk_54 6 (dk_at dksX11_push_1 6 rfl rfl)
theorem dX11_push_32 : decode cX11_push 32 = .ok (.aload_n 0, 1) := dk_42 (dk_at dksX11_push_1 8 rfl rfl)
theorem dX11_push_33 : decode cX11_push 33 = .ok (.getfield 42, 3) := dk_180 0 42 (dk_at dksX11_push_1 9 rfl rfl)
theorem dX11_push_36 : decode cX11_push 36 = .ok (.iload 4, 2) := dk_21 4 (dk_at dksX11_push_1 12 rfl rfl)
theorem dX11_push_38 : decode cX11_push 38 = .ok (.iload_n 2, 1) := dk_28 (dk_at dksX11_push_1 14 rfl rfl)
theorem dX11_push_39 : decode cX11_push 39 = .ok (.iastore, 1) := dk_79 (dk_at dksX11_push_1 15 rfl rfl)
theorem dX11_push_40 : decode cX11_push 40 = .ok (.aload_n 0, 1) := dk_42 (dk_at dksX11_push_1 16 rfl rfl)
theorem dX11_push_41 : decode cX11_push 41 = .ok (.getfield 45, 3) := dk_180 0 45 (dk_at dksX11_push_1 17 rfl rfl)
theorem dX11_push_44 : decode cX11_push 44 = .ok (.iload 4, 2) := dk_21 4 (dk_at dksX11_push_1 20 rfl rfl)
theorem dX11_push_46 : decode cX11_push 46 = .ok (.iload_n 3, 1) := dk_29 (dk_at dksX11_push_1 22 rfl rfl)
theorem dX11_push_47 : decode cX11_push 47 = .ok (.iastore, 1) := dk_79 (dk_at dksX11_push_1 23 rfl rfl)
theorem dX11_push_48 : decode cX11_push 48 = .ok (.aload_n 0, 1) := dk_42 (dk_at dksX11_push_2 0 rfl rfl)
theorem dX11_push_49 : decode cX11_push 49 = .ok (.getfield 48, 3) := dk_180 0 48 (dk_at dksX11_push_2 1 rfl rfl)
theorem dX11_push_52 : decode cX11_push 52 = .ok (.iload 4, 2) := dk_21 4 (dk_at dksX11_push_2 4 rfl rfl)
theorem dX11_push_54 : decode cX11_push 54 = .ok (.iload 5, 2) := dk_21 5 (dk_at dksX11_push_2 6 rfl rfl)
theorem dX11_push_56 : decode cX11_push 56 = .ok (.iastore, 1) := dk_79 (dk_at dksX11_push_2 8 rfl rfl)
theorem dX11_push_57 : decode cX11_push 57 = .ok (.aload_n 0, 1) := dk_42 (dk_at dksX11_push_2 9 rfl rfl)
theorem dX11_push_58 : decode cX11_push 58 = .ok (.getfield 57, 3) := dk_180 0 57 (dk_at dksX11_push_2 10 rfl rfl)
theorem dX11_push_61 : decode cX11_push 61 = .ok (.iload 4, 2) := dk_21 4 (dk_at dksX11_push_2 13 rfl rfl)
theorem dX11_push_63 : decode cX11_push 63 = .ok (.iload 6, 2) := dk_21 6 (dk_at dksX11_push_2 15 rfl rfl)
theorem dX11_push_65 : decode cX11_push 65 = .ok (.iconst 1, 1) := dk_4 (dk_at dksX11_push_2 17 rfl rfl)
theorem dX11_push_66 : decode cX11_push 66 = .ok (.if_icmp .ne 7, 3) := dk_160 0 7 (dk_at dksX11_push_2 18 rfl rfl)
theorem dX11_push_69 : decode cX11_push 69 = .ok (.iconst 1, 1) := dk_4 (dk_at dksX11_push_2 21 rfl rfl)
theorem dX11_push_70 : decode cX11_push 70 = .ok (.goto 14, 3) := dk_167 0 14 (dk_at dksX11_push_3 0 rfl rfl)
theorem dX11_push_73 : decode cX11_push 73 = .ok (.iload 6, 2) := dk_21 6 (dk_at dksX11_push_3 3 rfl rfl)
theorem dX11_push_75 : decode cX11_push 75 = .ok (.iconst 2, 1) := dk_5 (dk_at dksX11_push_3 5 rfl rfl)
theorem dX11_push_76 : decode cX11_push 76 = .ok (.if_icmp .ne 7, 3) := dk_160 0 7 (dk_at dksX11_push_3 6 rfl rfl)
theorem dX11_push_79 : decode cX11_push 79 = .ok (.iconst 4, 1) := dk_7 (dk_at dksX11_push_3 9 rfl rfl)
theorem dX11_push_80 : decode cX11_push 80 = .ok (.goto 4, 3) := dk_167 0 4 (dk_at dksX11_push_3 10 rfl rfl)
theorem dX11_push_83 : decode cX11_push 83 = .ok (.iconst 0, 1) := dk_3 (dk_at dksX11_push_3 13 rfl rfl)
theorem dX11_push_84 : decode cX11_push 84 = .ok (.iastore, 1) := dk_79 (dk_at dksX11_push_3 14 rfl rfl)
theorem dX11_push_85 : decode cX11_push 85 = .ok (.iload 5, 2) := dk_21 5 (dk_at dksX11_push_3 15 rfl rfl)
theorem dX11_push_87 : decode cX11_push 87 = .ok (.iconst (-1), 1) := dk_2 (dk_at dksX11_push_3 17 rfl rfl)
theorem dX11_push_88 : decode cX11_push 88 = .ok (.if_icmp .ne 37, 3) := dk_160 0 37 (dk_at dksX11_push_3 18 rfl rfl)
theorem dX11_push_91 : decode cX11_push 91 = .ok (.aload_n 0, 1) := dk_42 (dk_at dksX11_push_3 21 rfl rfl)
theorem dX11_push_92 : decode cX11_push 92 = .ok (.getfield 51, 3) := dk_180 0 51 (dk_at dksX11_push_4 0 rfl rfl)
theorem dX11_push_95 : decode cX11_push 95 = .ok (.iload 4, 2) := dk_21 4 (dk_at dksX11_push_4 3 rfl rfl)
theorem dX11_push_97 : decode cX11_push 97 = .ok (.aload_n 0, 1) := dk_42 (dk_at dksX11_push_4 5 rfl rfl)
theorem dX11_push_98 : decode cX11_push 98 = .ok (.getfield 63, 3) := dk_180 0 63 (dk_at dksX11_push_4 6 rfl rfl)
theorem dX11_push_101 : decode cX11_push 101 = .ok (.iload_n 1, 1) := dk_27 (dk_at dksX11_push_4 9 rfl rfl)
theorem dX11_push_102 : decode cX11_push 102 = .ok (.iaload, 1) := dk_46 (dk_at dksX11_push_4 10 rfl rfl)
theorem dX11_push_103 : decode cX11_push 103 = .ok (.iastore, 1) := dk_79 (dk_at dksX11_push_4 11 rfl rfl)
theorem dX11_push_104 : decode cX11_push 104 = .ok (.aload_n 0, 1) := dk_42 (dk_at dksX11_push_4 12 rfl rfl)
theorem dX11_push_105 : decode cX11_push 105 = .ok (.getfield 63, 3) := dk_180 0 63 (dk_at dksX11_push_4 13 rfl rfl)
theorem dX11_push_108 : decode cX11_push 108 = .ok (.iload_n 1, 1) := dk_27 (dk_at dksX11_push_4 16 rfl rfl)
theorem dX11_push_109 : decode cX11_push 109 = .ok (.dup2, 1) := dk_92 (dk_at dksX11_push_4 17 rfl rfl)
theorem dX11_push_110 : decode cX11_push 110 = .ok (.iaload, 1) := dk_46 (dk_at dksX11_push_4 18 rfl rfl)
theorem dX11_push_111 : decode cX11_push 111 = .ok (.iconst 1, 1) := dk_4 (dk_at dksX11_push_4 19 rfl rfl)
theorem dX11_push_112 : decode cX11_push 112 = .ok (.iadd, 1) := dk_96 (dk_at dksX11_push_4 20 rfl rfl)
theorem dX11_push_113 : decode cX11_push 113 = .ok (.iastore, 1) := dk_79 (dk_at dksX11_push_4 21 rfl rfl)
theorem dX11_push_114 : decode cX11_push 114 = .ok (.aload_n 0, 1) := dk_42 (dk_at dksX11_push_4 22 rfl rfl)
theorem dX11_push_115 : decode cX11_push 115 = .ok (.getfield 54, 3) := dk_180 0 54 (dk_at dksX11_push_5 0 rfl rfl)
theorem dX11_push_118 : decode cX11_push 118 = .ok (.iload 4, 2) := dk_21 4 (dk_at dksX11_push_5 3 rfl rfl)
theorem dX11_push_120 : decode cX11_push 120 = .ok (.iconst 0, 1) := dk_3 (dk_at dksX11_push_5 5 rfl rfl)
theorem dX11_push_121 : decode cX11_push 121 = .ok (.iastore, 1) := dk_79 (dk_at dksX11_push_5 6 rfl rfl)
theorem dX11_push_122 : decode cX11_push 122 = .ok (.goto 79, 3) := dk_167 0 79 (dk_at dksX11_push_5 7 rfl rfl)
theorem dX11_push_125 : decode cX11_push 125 = .ok (.aload_n 0, 1) := dk_42 (dk_at dksX11_push_5 10 rfl rfl)
theorem dX11_push_126 : decode cX11_push 126 = .ok (.getfield 51, 3) := dk_180 0 51 (dk_at dksX11_push_5 11 rfl rfl)
theorem dX11_push_129 : decode cX11_push 129 = .ok (.iload 4, 2) := dk_21 4 (dk_at dksX11_push_5 14 rfl rfl)
theorem dX11_push_131 : decode cX11_push 131 = .ok (.aload_n 0, 1) := dk_42 (dk_at dksX11_push_5 16 rfl rfl)
theorem dX11_push_132 : decode cX11_push 132 = .ok (.getfield 51, 3) := dk_180 0 51 (dk_at dksX11_push_5 17 rfl rfl)
theorem dX11_push_135 : decode cX11_push 135 = .ok (.sipush 400, 3) := dk_17 1 144 (dk_at dksX11_push_5 20 rfl rfl)
theorem dX11_push_138 : decode cX11_push 138 = .ok (.iload_n 1, 1) := dk_27 (dk_at dksX11_push_5 23 rfl rfl)
theorem dX11_push_139 : decode cX11_push 139 = .ok (.imul, 1) := dk_104 (dk_at dksX11_push_6 0 rfl rfl)
theorem dX11_push_140 : decode cX11_push 140 = .ok (.iload 5, 2) := dk_21 5 (dk_at dksX11_push_6 1 rfl rfl)
theorem dX11_push_142 : decode cX11_push 142 = .ok (.iadd, 1) := dk_96 (dk_at dksX11_push_6 3 rfl rfl)
theorem dX11_push_143 : decode cX11_push 143 = .ok (.iaload, 1) := dk_46 (dk_at dksX11_push_6 4 rfl rfl)
theorem dX11_push_144 : decode cX11_push 144 = .ok (.iastore, 1) := dk_79 (dk_at dksX11_push_6 5 rfl rfl)
theorem dX11_push_145 : decode cX11_push 145 = .ok (.aload_n 0, 1) := dk_42 (dk_at dksX11_push_6 6 rfl rfl)
theorem dX11_push_146 : decode cX11_push 146 = .ok (.getfield 54, 3) := dk_180 0 54 (dk_at dksX11_push_6 7 rfl rfl)
theorem dX11_push_149 : decode cX11_push 149 = .ok (.iload 4, 2) := dk_21 4 (dk_at dksX11_push_6 10 rfl rfl)
theorem dX11_push_151 : decode cX11_push 151 = .ok (.aload_n 0, 1) := dk_42 (dk_at dksX11_push_6 12 rfl rfl)
theorem dX11_push_152 : decode cX11_push 152 = .ok (.getfield 54, 3) := dk_180 0 54 (dk_at dksX11_push_6 13 rfl rfl)
theorem dX11_push_155 : decode cX11_push 155 = .ok (.sipush 400, 3) := dk_17 1 144 (dk_at dksX11_push_6 16 rfl rfl)
theorem dX11_push_158 : decode cX11_push 158 = .ok (.iload_n 1, 1) := dk_27 (dk_at dksX11_push_6 19 rfl rfl)
theorem dX11_push_159 : decode cX11_push 159 = .ok (.imul, 1) := dk_104 (dk_at dksX11_push_6 20 rfl rfl)
theorem dX11_push_160 : decode cX11_push 160 = .ok (.iload 5, 2) := dk_21 5 (dk_at dksX11_push_6 21 rfl rfl)
theorem dX11_push_162 : decode cX11_push 162 = .ok (.iadd, 1) := dk_96 (dk_at dksX11_push_6 23 rfl rfl)
theorem dX11_push_163 : decode cX11_push 163 = .ok (.iaload, 1) := dk_46 (dk_at dksX11_push_7 0 rfl rfl)
theorem dX11_push_164 : decode cX11_push 164 = .ok (.iconst 1, 1) := dk_4 (dk_at dksX11_push_7 1 rfl rfl)
theorem dX11_push_165 : decode cX11_push 165 = .ok (.iadd, 1) := dk_96 (dk_at dksX11_push_7 2 rfl rfl)
theorem dX11_push_166 : decode cX11_push 166 = .ok (.iastore, 1) := dk_79 (dk_at dksX11_push_7 3 rfl rfl)
theorem dX11_push_167 : decode cX11_push 167 = .ok (.iload 6, 2) := dk_21 6 (dk_at dksX11_push_7 4 rfl rfl)
theorem dX11_push_169 : decode cX11_push 169 = .ok (.iconst 1, 1) := dk_4 (dk_at dksX11_push_7 6 rfl rfl)
theorem dX11_push_170 : decode cX11_push 170 = .ok (.if_icmp .le 31, 3) := dk_164 0 31 (dk_at dksX11_push_7 7 rfl rfl)
theorem dX11_push_173 : decode cX11_push 173 = .ok (.aload_n 0, 1) := dk_42 (dk_at dksX11_push_7 10 rfl rfl)
theorem dX11_push_174 : decode cX11_push 174 = .ok (.getfield 57, 3) := dk_180 0 57 (dk_at dksX11_push_7 11 rfl rfl)
theorem dX11_push_177 : decode cX11_push 177 = .ok (.sipush 400, 3) := dk_17 1 144 (dk_at dksX11_push_7 14 rfl rfl)
theorem dX11_push_180 : decode cX11_push 180 = .ok (.iload_n 1, 1) := dk_27 (dk_at dksX11_push_7 17 rfl rfl)
theorem dX11_push_181 : decode cX11_push 181 = .ok (.imul, 1) := dk_104 (dk_at dksX11_push_7 18 rfl rfl)
theorem dX11_push_182 : decode cX11_push 182 = .ok (.iload 5, 2) := dk_21 5 (dk_at dksX11_push_7 19 rfl rfl)
theorem dX11_push_184 : decode cX11_push 184 = .ok (.iadd, 1) := dk_96 (dk_at dksX11_push_7 21 rfl rfl)
theorem dX11_push_185 : decode cX11_push 185 = .ok (.iload 6, 2) := dk_21 6 (dk_at dksX11_push_7 22 rfl rfl)
theorem dX11_push_187 : decode cX11_push 187 = .ok (.iconst 4, 1) := dk_7 (dk_at dksX11_push_8 0 rfl rfl)
theorem dX11_push_188 : decode cX11_push 188 = .ok (.if_icmp .ge 8, 3) := dk_162 0 8 (dk_at dksX11_push_8 1 rfl rfl)
theorem dX11_push_191 : decode cX11_push 191 = .ok (.iload 6, 2) := dk_21 6 (dk_at dksX11_push_8 4 rfl rfl)
theorem dX11_push_193 : decode cX11_push 193 = .ok (.goto 7, 3) := dk_167 0 7 (dk_at dksX11_push_8 6 rfl rfl)
theorem dX11_push_196 : decode cX11_push 196 = .ok (.iload 6, 2) := dk_21 6 (dk_at dksX11_push_8 9 rfl rfl)
theorem dX11_push_198 : decode cX11_push 198 = .ok (.iconst 1, 1) := dk_4 (dk_at dksX11_push_8 11 rfl rfl)
theorem dX11_push_199 : decode cX11_push 199 = .ok (.iadd, 1) := dk_96 (dk_at dksX11_push_8 12 rfl rfl)
theorem dX11_push_200 : decode cX11_push 200 = .ok (.iastore, 1) := dk_79 (dk_at dksX11_push_8 13 rfl rfl)
theorem dX11_push_201 : decode cX11_push 201 = .ok (.aload_n 0, 1) := dk_42 (dk_at dksX11_push_8 14 rfl rfl)
theorem dX11_push_202 : decode cX11_push 202 = .ok (.getfield 60, 3) := dk_180 0 60 (dk_at dksX11_push_8 15 rfl rfl)
theorem dX11_push_205 : decode cX11_push 205 = .ok (.iload_n 1, 1) := dk_27 (dk_at dksX11_push_8 18 rfl rfl)
theorem dX11_push_206 : decode cX11_push 206 = .ok (.dup2, 1) := dk_92 (dk_at dksX11_push_8 19 rfl rfl)
theorem dX11_push_207 : decode cX11_push 207 = .ok (.iaload, 1) := dk_46 (dk_at dksX11_push_8 20 rfl rfl)
theorem dX11_push_208 : decode cX11_push 208 = .ok (.iconst 1, 1) := dk_4 (dk_at dksX11_push_8 21 rfl rfl)
theorem dX11_push_209 : decode cX11_push 209 = .ok (.iadd, 1) := dk_96 (dk_at dksX11_push_8 22 rfl rfl)
theorem dX11_push_210 : decode cX11_push 210 = .ok (.iastore, 1) := dk_79 (dk_at dksX11_push_8 23 rfl rfl)
theorem dX11_push_211 : decode cX11_push 211 = .ok (.return_, 1) := dk_177 (dk_at dksX11_push_9 0 rfl rfl)
abbrev cX11_answers : ByteArray := prog_21_method_42_code
def yX11_answers : MethodName := ⟨RX11, "answers", "(III)I"⟩
def dkwX11_answers_3 : List UInt8 := [54, 5, 21, 4, 21, 5, 162, 0, 7, 2, 167, 0, 8, 21, 4, 21, 5, 100, 172]
abbrev dktX11_answers_3 : List UInt8 := dkwX11_answers_3 ++ []
def dkwX11_answers_2 : List UInt8 := [154, 0, 7, 5, 167, 0, 20, 42, 27, 16, 6, 21, 4, 42, 27, 6, 182, 0, 255, 112, 96, 182, 0, 255]
abbrev dktX11_answers_2 : List UInt8 := dkwX11_answers_2 ++ dktX11_answers_3
def dkwX11_answers_1 : List UInt8 := [182, 0, 255, 158, 0, 15, 42, 27, 16, 12, 28, 96, 182, 0, 255, 167, 0, 33, 42, 27, 6, 182, 0, 255]
abbrev dktX11_answers_1 : List UInt8 := dkwX11_answers_1 ++ dktX11_answers_2
def dkwX11_answers_0 : List UInt8 := [42, 27, 29, 3, 182, 0, 251, 5, 160, 0, 5, 2, 172, 42, 180, 0, 60, 27, 46, 54, 4, 42, 27, 7]
abbrev dktX11_answers_0 : List UInt8 := dkwX11_answers_0 ++ dktX11_answers_1
theorem dksX11_answers_0 : cX11_answers.data.toList.drop 0 = dktX11_answers_0 := by decide +kernel
theorem dksX11_answers_1 : cX11_answers.data.toList.drop 24 = dktX11_answers_1 := dk_seg dksX11_answers_0 24 rfl rfl
theorem dksX11_answers_2 : cX11_answers.data.toList.drop 48 = dktX11_answers_2 := dk_seg dksX11_answers_1 24 rfl rfl
theorem dksX11_answers_3 : cX11_answers.data.toList.drop 72 = dktX11_answers_3 := dk_seg dksX11_answers_2 24 rfl rfl
theorem dX11_answers_0 : decode cX11_answers 0 = .ok (.aload_n 0, 1) := dk_42 (dk_at dksX11_answers_0 0 rfl rfl)
theorem dX11_answers_1 : decode cX11_answers 1 = .ok (.iload_n 1, 1) := dk_27 (dk_at dksX11_answers_0 1 rfl rfl)
theorem dX11_answers_2 : decode cX11_answers 2 = .ok (.iload_n 3, 1) := dk_29 (dk_at dksX11_answers_0 2 rfl rfl)
theorem dX11_answers_3 : decode cX11_answers 3 = .ok (.iconst 0, 1) := dk_3 (dk_at dksX11_answers_0 3 rfl rfl)
theorem dX11_answers_4 : decode cX11_answers 4 = .ok (.invokevirtual 251, 3) := dk_182 0 251 (dk_at dksX11_answers_0 4 rfl rfl)
theorem dX11_answers_7 : decode cX11_answers 7 = .ok (.iconst 2, 1) := dk_5 (dk_at dksX11_answers_0 7 rfl rfl)
theorem dX11_answers_8 : decode cX11_answers 8 = .ok (.if_icmp .ne 5, 3) := dk_160 0 5 (dk_at dksX11_answers_0 8 rfl rfl)
theorem dX11_answers_11 : decode cX11_answers 11 = .ok (.iconst (-1), 1) := dk_2 (dk_at dksX11_answers_0 11 rfl rfl)
theorem dX11_answers_12 : decode cX11_answers 12 = .ok (.ireturn, 1) := dk_172 (dk_at dksX11_answers_0 12 rfl rfl)
theorem dX11_answers_13 : decode cX11_answers 13 = .ok (.aload_n 0, 1) := dk_42 (dk_at dksX11_answers_0 13 rfl rfl)
theorem dX11_answers_14 : decode cX11_answers 14 = .ok (.getfield 60, 3) := dk_180 0 60 (dk_at dksX11_answers_0 14 rfl rfl)
theorem dX11_answers_17 : decode cX11_answers 17 = .ok (.iload_n 1, 1) := dk_27 (dk_at dksX11_answers_0 17 rfl rfl)
theorem dX11_answers_18 : decode cX11_answers 18 = .ok (.iaload, 1) := dk_46 (dk_at dksX11_answers_0 18 rfl rfl)
theorem dX11_answers_19 : decode cX11_answers 19 = .ok (.istore 4, 2) := dk_54 4 (dk_at dksX11_answers_0 19 rfl rfl)
theorem dX11_answers_21 : decode cX11_answers 21 = .ok (.aload_n 0, 1) := dk_42 (dk_at dksX11_answers_0 21 rfl rfl)
theorem dX11_answers_22 : decode cX11_answers 22 = .ok (.iload_n 1, 1) := dk_27 (dk_at dksX11_answers_0 22 rfl rfl)
theorem dX11_answers_23 : decode cX11_answers 23 = .ok (.iconst 4, 1) := dk_7 (dk_at dksX11_answers_0 23 rfl rfl)
theorem dX11_answers_24 : decode cX11_answers 24 = .ok (.invokevirtual 255, 3) := dk_182 0 255 (dk_at dksX11_answers_1 0 rfl rfl)
theorem dX11_answers_27 : decode cX11_answers 27 = .ok (.ifCond .le 15, 3) := dk_158 0 15 (dk_at dksX11_answers_1 3 rfl rfl)
theorem dX11_answers_30 : decode cX11_answers 30 = .ok (.aload_n 0, 1) := dk_42 (dk_at dksX11_answers_1 6 rfl rfl)
theorem dX11_answers_31 : decode cX11_answers 31 = .ok (.iload_n 1, 1) := dk_27 (dk_at dksX11_answers_1 7 rfl rfl)
theorem dX11_answers_32 : decode cX11_answers 32 = .ok (.bipush 12, 2) := dk_16 12 (dk_at dksX11_answers_1 8 rfl rfl)
theorem dX11_answers_34 : decode cX11_answers 34 = .ok (.iload_n 2, 1) := dk_28 (dk_at dksX11_answers_1 10 rfl rfl)
theorem dX11_answers_35 : decode cX11_answers 35 = .ok (.iadd, 1) := dk_96 (dk_at dksX11_answers_1 11 rfl rfl)
theorem dX11_answers_36 : decode cX11_answers 36 = .ok (.invokevirtual 255, 3) := dk_182 0 255 (dk_at dksX11_answers_1 12 rfl rfl)
theorem dX11_answers_39 : decode cX11_answers 39 = .ok (.goto 33, 3) := dk_167 0 33 (dk_at dksX11_answers_1 15 rfl rfl)
theorem dX11_answers_42 : decode cX11_answers 42 = .ok (.aload_n 0, 1) := dk_42 (dk_at dksX11_answers_1 18 rfl rfl)
theorem dX11_answers_43 : decode cX11_answers 43 = .ok (.iload_n 1, 1) := dk_27 (dk_at dksX11_answers_1 19 rfl rfl)
theorem dX11_answers_44 : decode cX11_answers 44 = .ok (.iconst 3, 1) := dk_6 (dk_at dksX11_answers_1 20 rfl rfl)
theorem dX11_answers_45 : decode cX11_answers 45 = .ok (.invokevirtual 255, 3) := dk_182 0 255 (dk_at dksX11_answers_1 21 rfl rfl)
theorem dX11_answers_48 : decode cX11_answers 48 = .ok (.ifCond .ne 7, 3) := dk_154 0 7 (dk_at dksX11_answers_2 0 rfl rfl)
theorem dX11_answers_51 : decode cX11_answers 51 = .ok (.iconst 2, 1) := dk_5 (dk_at dksX11_answers_2 3 rfl rfl)
theorem dX11_answers_52 : decode cX11_answers 52 = .ok (.goto 20, 3) := dk_167 0 20 (dk_at dksX11_answers_2 4 rfl rfl)
theorem dX11_answers_55 : decode cX11_answers 55 = .ok (.aload_n 0, 1) := dk_42 (dk_at dksX11_answers_2 7 rfl rfl)
theorem dX11_answers_56 : decode cX11_answers 56 = .ok (.iload_n 1, 1) := dk_27 (dk_at dksX11_answers_2 8 rfl rfl)
theorem dX11_answers_57 : decode cX11_answers 57 = .ok (.bipush 6, 2) := dk_16 6 (dk_at dksX11_answers_2 9 rfl rfl)
theorem dX11_answers_59 : decode cX11_answers 59 = .ok (.iload 4, 2) := dk_21 4 (dk_at dksX11_answers_2 11 rfl rfl)
theorem dX11_answers_61 : decode cX11_answers 61 = .ok (.aload_n 0, 1) := dk_42 (dk_at dksX11_answers_2 13 rfl rfl)
theorem dX11_answers_62 : decode cX11_answers 62 = .ok (.iload_n 1, 1) := dk_27 (dk_at dksX11_answers_2 14 rfl rfl)
theorem dX11_answers_63 : decode cX11_answers 63 = .ok (.iconst 3, 1) := dk_6 (dk_at dksX11_answers_2 15 rfl rfl)
theorem dX11_answers_64 : decode cX11_answers 64 = .ok (.invokevirtual 255, 3) := dk_182 0 255 (dk_at dksX11_answers_2 16 rfl rfl)
theorem dX11_answers_67 : decode cX11_answers 67 = .ok (.irem, 1) := dk_112 (dk_at dksX11_answers_2 19 rfl rfl)
theorem dX11_answers_68 : decode cX11_answers 68 = .ok (.iadd, 1) := dk_96 (dk_at dksX11_answers_2 20 rfl rfl)
theorem dX11_answers_69 : decode cX11_answers 69 = .ok (.invokevirtual 255, 3) := dk_182 0 255 (dk_at dksX11_answers_2 21 rfl rfl)
theorem dX11_answers_72 : decode cX11_answers 72 = .ok (.istore 5, 2) := dk_54 5 (dk_at dksX11_answers_3 0 rfl rfl)
theorem dX11_answers_74 : decode cX11_answers 74 = .ok (.iload 4, 2) := dk_21 4 (dk_at dksX11_answers_3 2 rfl rfl)
theorem dX11_answers_76 : decode cX11_answers 76 = .ok (.iload 5, 2) := dk_21 5 (dk_at dksX11_answers_3 4 rfl rfl)
theorem dX11_answers_78 : decode cX11_answers 78 = .ok (.if_icmp .ge 7, 3) := dk_162 0 7 (dk_at dksX11_answers_3 6 rfl rfl)
theorem dX11_answers_81 : decode cX11_answers 81 = .ok (.iconst (-1), 1) := dk_2 (dk_at dksX11_answers_3 9 rfl rfl)
theorem dX11_answers_82 : decode cX11_answers 82 = .ok (.goto 8, 3) := dk_167 0 8 (dk_at dksX11_answers_3 10 rfl rfl)
theorem dX11_answers_85 : decode cX11_answers 85 = .ok (.iload 4, 2) := dk_21 4 (dk_at dksX11_answers_3 13 rfl rfl)
theorem dX11_answers_87 : decode cX11_answers 87 = .ok (.iload 5, 2) := dk_21 5 (dk_at dksX11_answers_3 15 rfl rfl)
theorem dX11_answers_89 : decode cX11_answers 89 = .ok (.isub, 1) := dk_100 (dk_at dksX11_answers_3 17 rfl rfl)
theorem dX11_answers_90 : decode cX11_answers 90 = .ok (.ireturn, 1) := dk_172 (dk_at dksX11_answers_3 18 rfl rfl)
abbrev cX11_ofKind : ByteArray := prog_21_method_41_code
def yX11_ofKind : MethodName := ⟨RX11, "ofKind", "(III)I"⟩
def dkwX11_ofKind_0 : List UInt8 := [42, 180, 0, 39, 16, 60, 27, 104, 16, 20, 96, 7, 28, 104, 96, 29, 96, 46, 172]
abbrev dktX11_ofKind_0 : List UInt8 := dkwX11_ofKind_0 ++ []
theorem dksX11_ofKind_0 : cX11_ofKind.data.toList.drop 0 = dktX11_ofKind_0 := by decide +kernel
theorem dX11_ofKind_0 : decode cX11_ofKind 0 = .ok (.aload_n 0, 1) := dk_42 (dk_at dksX11_ofKind_0 0 rfl rfl)
theorem dX11_ofKind_1 : decode cX11_ofKind 1 = .ok (.getfield 39, 3) := dk_180 0 39 (dk_at dksX11_ofKind_0 1 rfl rfl)
theorem dX11_ofKind_4 : decode cX11_ofKind 4 = .ok (.bipush 60, 2) := dk_16 60 (dk_at dksX11_ofKind_0 4 rfl rfl)
theorem dX11_ofKind_6 : decode cX11_ofKind 6 = .ok (.iload_n 1, 1) := dk_27 (dk_at dksX11_ofKind_0 6 rfl rfl)
theorem dX11_ofKind_7 : decode cX11_ofKind 7 = .ok (.imul, 1) := dk_104 (dk_at dksX11_ofKind_0 7 rfl rfl)
theorem dX11_ofKind_8 : decode cX11_ofKind 8 = .ok (.bipush 20, 2) := dk_16 20 (dk_at dksX11_ofKind_0 8 rfl rfl)
theorem dX11_ofKind_10 : decode cX11_ofKind 10 = .ok (.iadd, 1) := dk_96 (dk_at dksX11_ofKind_0 10 rfl rfl)
theorem dX11_ofKind_11 : decode cX11_ofKind 11 = .ok (.iconst 4, 1) := dk_7 (dk_at dksX11_ofKind_0 11 rfl rfl)
theorem dX11_ofKind_12 : decode cX11_ofKind 12 = .ok (.iload_n 2, 1) := dk_28 (dk_at dksX11_ofKind_0 12 rfl rfl)
theorem dX11_ofKind_13 : decode cX11_ofKind 13 = .ok (.imul, 1) := dk_104 (dk_at dksX11_ofKind_0 13 rfl rfl)
theorem dX11_ofKind_14 : decode cX11_ofKind 14 = .ok (.iadd, 1) := dk_96 (dk_at dksX11_ofKind_0 14 rfl rfl)
theorem dX11_ofKind_15 : decode cX11_ofKind 15 = .ok (.iload_n 3, 1) := dk_29 (dk_at dksX11_ofKind_0 15 rfl rfl)
theorem dX11_ofKind_16 : decode cX11_ofKind 16 = .ok (.iadd, 1) := dk_96 (dk_at dksX11_ofKind_0 16 rfl rfl)
theorem dX11_ofKind_17 : decode cX11_ofKind 17 = .ok (.iaload, 1) := dk_46 (dk_at dksX11_ofKind_0 17 rfl rfl)
theorem dX11_ofKind_18 : decode cX11_ofKind 18 = .ok (.ireturn, 1) := dk_172 (dk_at dksX11_ofKind_0 18 rfl rfl)
abbrev cX11_rule : ByteArray := prog_21_method_40_code
def yX11_rule : MethodName := ⟨RX11, "rule", "(II)I"⟩
def dkwX11_rule_0 : List UInt8 := [42, 180, 0, 39, 16, 60, 27, 104, 28, 96, 46, 172]
abbrev dktX11_rule_0 : List UInt8 := dkwX11_rule_0 ++ []
theorem dksX11_rule_0 : cX11_rule.data.toList.drop 0 = dktX11_rule_0 := by decide +kernel
theorem dX11_rule_0 : decode cX11_rule 0 = .ok (.aload_n 0, 1) := dk_42 (dk_at dksX11_rule_0 0 rfl rfl)
theorem dX11_rule_1 : decode cX11_rule 1 = .ok (.getfield 39, 3) := dk_180 0 39 (dk_at dksX11_rule_0 1 rfl rfl)
theorem dX11_rule_4 : decode cX11_rule 4 = .ok (.bipush 60, 2) := dk_16 60 (dk_at dksX11_rule_0 4 rfl rfl)
theorem dX11_rule_6 : decode cX11_rule 6 = .ok (.iload_n 1, 1) := dk_27 (dk_at dksX11_rule_0 6 rfl rfl)
theorem dX11_rule_7 : decode cX11_rule 7 = .ok (.imul, 1) := dk_104 (dk_at dksX11_rule_0 7 rfl rfl)
theorem dX11_rule_8 : decode cX11_rule 8 = .ok (.iload_n 2, 1) := dk_28 (dk_at dksX11_rule_0 8 rfl rfl)
theorem dX11_rule_9 : decode cX11_rule 9 = .ok (.iadd, 1) := dk_96 (dk_at dksX11_rule_0 9 rfl rfl)
theorem dX11_rule_10 : decode cX11_rule 10 = .ok (.iaload, 1) := dk_46 (dk_at dksX11_rule_0 10 rfl rfl)
theorem dX11_rule_11 : decode cX11_rule 11 = .ok (.ireturn, 1) := dk_172 (dk_at dksX11_rule_0 11 rfl rfl)
abbrev cX11_wrongOf : ByteArray := prog_21_method_43_code
def yX11_wrongOf : MethodName := ⟨RX11, "wrongOf", "(III)I"⟩
def dkwX11_wrongOf_11 : List UInt8 := [21, 5, 21, 6, 96, 46, 54, 8, 21, 8, 28, 160, 0, 7, 3, 167, 0, 5, 16, 6, 172]
abbrev dktX11_wrongOf_11 : List UInt8 := dkwX11_wrongOf_11 ++ []
def dkwX11_wrongOf_10 : List UInt8 := [180, 0, 42, 21, 5, 42, 180, 0, 48, 21, 5, 21, 6, 96, 46, 96, 46, 167, 0, 13, 42, 180, 0, 42]
abbrev dktX11_wrongOf_10 : List UInt8 := dkwX11_wrongOf_10 ++ dktX11_wrongOf_11
def dkwX11_wrongOf_9 : List UInt8 := [21, 5, 21, 6, 96, 46, 5, 182, 0, 251, 164, 0, 5, 8, 172, 21, 7, 16, 6, 160, 0, 24, 42]
abbrev dktX11_wrongOf_9 : List UInt8 := dkwX11_wrongOf_9 ++ dktX11_wrongOf_10
def dkwX11_wrongOf_8 : List UInt8 := [180, 0, 57, 21, 5, 21, 6, 96, 46, 7, 160, 0, 27, 21, 4, 21, 6, 100, 42, 27, 42, 180, 0, 45]
abbrev dktX11_wrongOf_8 : List UInt8 := dkwX11_wrongOf_8 ++ dktX11_wrongOf_9
def dkwX11_wrongOf_7 : List UInt8 := [162, 0, 23, 42, 180, 0, 57, 21, 5, 21, 6, 96, 46, 4, 160, 0, 7, 3, 167, 0, 4, 8, 172, 42]
abbrev dktX11_wrongOf_7 : List UInt8 := dkwX11_wrongOf_7 ++ dktX11_wrongOf_8
def dkwX11_wrongOf_6 : List UInt8 := [159, 0, 5, 7, 172, 21, 7, 5, 162, 0, 5, 3, 172, 21, 6, 2, 160, 0, 5, 8, 172, 21, 7, 7]
abbrev dktX11_wrongOf_6 : List UInt8 := dkwX11_wrongOf_6 ++ dktX11_wrongOf_7
def dkwX11_wrongOf_5 : List UInt8 := [42, 180, 0, 42, 21, 5, 21, 6, 96, 46, 28, 160, 0, 17, 21, 7, 7, 159, 0, 11, 21, 7, 8]
abbrev dktX11_wrongOf_5 : List UInt8 := dkwX11_wrongOf_5 ++ dktX11_wrongOf_6
def dkwX11_wrongOf_4 : List UInt8 := [42, 180, 0, 45, 21, 5, 21, 6, 96, 46, 184, 0, 215, 154, 0, 5, 6, 172, 21, 6, 2, 159, 0, 31]
abbrev dktX11_wrongOf_4 : List UInt8 := dkwX11_wrongOf_4 ++ dktX11_wrongOf_5
def dkwX11_wrongOf_3 : List UInt8 := [27, 29, 3, 182, 0, 251, 154, 0, 5, 5, 172, 21, 6, 2, 159, 0, 28, 42, 27, 29, 6, 182, 0, 251]
abbrev dktX11_wrongOf_3 : List UInt8 := dkwX11_wrongOf_3 ++ dktX11_wrongOf_4
def dkwX11_wrongOf_2 : List UInt8 := [180, 0, 42, 21, 5, 21, 4, 96, 4, 100, 46, 28, 160, 0, 5, 4, 172, 21, 6, 2, 160, 0, 15, 42]
abbrev dktX11_wrongOf_2 : List UInt8 := dkwX11_wrongOf_2 ++ dktX11_wrongOf_3
def dkwX11_wrongOf_1 : List UInt8 := [42, 27, 29, 4, 182, 0, 251, 54, 7, 42, 27, 8, 182, 0, 255, 154, 0, 26, 21, 4, 158, 0, 21, 42]
abbrev dktX11_wrongOf_1 : List UInt8 := dkwX11_wrongOf_1 ++ dktX11_wrongOf_2
def dkwX11_wrongOf_0 : List UInt8 := [42, 180, 0, 60, 27, 46, 54, 4, 17, 1, 144, 27, 104, 54, 5, 42, 27, 28, 29, 182, 1, 3, 54, 6]
abbrev dktX11_wrongOf_0 : List UInt8 := dkwX11_wrongOf_0 ++ dktX11_wrongOf_1
theorem dksX11_wrongOf_0 : cX11_wrongOf.data.toList.drop 0 = dktX11_wrongOf_0 := by decide +kernel
theorem dksX11_wrongOf_1 : cX11_wrongOf.data.toList.drop 24 = dktX11_wrongOf_1 := dk_seg dksX11_wrongOf_0 24 rfl rfl
theorem dksX11_wrongOf_2 : cX11_wrongOf.data.toList.drop 48 = dktX11_wrongOf_2 := dk_seg dksX11_wrongOf_1 24 rfl rfl
theorem dksX11_wrongOf_3 : cX11_wrongOf.data.toList.drop 72 = dktX11_wrongOf_3 := dk_seg dksX11_wrongOf_2 24 rfl rfl
theorem dksX11_wrongOf_4 : cX11_wrongOf.data.toList.drop 96 = dktX11_wrongOf_4 := dk_seg dksX11_wrongOf_3 24 rfl rfl
theorem dksX11_wrongOf_5 : cX11_wrongOf.data.toList.drop 120 = dktX11_wrongOf_5 := dk_seg dksX11_wrongOf_4 24 rfl rfl
theorem dksX11_wrongOf_6 : cX11_wrongOf.data.toList.drop 143 = dktX11_wrongOf_6 := dk_seg dksX11_wrongOf_5 23 rfl rfl
theorem dksX11_wrongOf_7 : cX11_wrongOf.data.toList.drop 167 = dktX11_wrongOf_7 := dk_seg dksX11_wrongOf_6 24 rfl rfl
theorem dksX11_wrongOf_8 : cX11_wrongOf.data.toList.drop 191 = dktX11_wrongOf_8 := dk_seg dksX11_wrongOf_7 24 rfl rfl
theorem dksX11_wrongOf_9 : cX11_wrongOf.data.toList.drop 215 = dktX11_wrongOf_9 := dk_seg dksX11_wrongOf_8 24 rfl rfl
theorem dksX11_wrongOf_10 : cX11_wrongOf.data.toList.drop 238 = dktX11_wrongOf_10 := dk_seg dksX11_wrongOf_9 23 rfl rfl
theorem dksX11_wrongOf_11 : cX11_wrongOf.data.toList.drop 262 = dktX11_wrongOf_11 := dk_seg dksX11_wrongOf_10 24 rfl rfl
theorem dX11_wrongOf_0 : decode cX11_wrongOf 0 = .ok (.aload_n 0, 1) := dk_42 (dk_at dksX11_wrongOf_0 0 rfl rfl)
theorem dX11_wrongOf_1 : decode cX11_wrongOf 1 = .ok (.getfield 60, 3) := dk_180 0 60 (dk_at dksX11_wrongOf_0 1 rfl rfl)
theorem dX11_wrongOf_4 : decode cX11_wrongOf 4 = .ok (.iload_n 1, 1) := dk_27 (dk_at dksX11_wrongOf_0 4 rfl rfl)
theorem dX11_wrongOf_5 : decode cX11_wrongOf 5 = .ok (.iaload, 1) := dk_46 (dk_at dksX11_wrongOf_0 5 rfl rfl)
theorem dX11_wrongOf_6 : decode cX11_wrongOf 6 = .ok (.istore 4, 2) := dk_54 4 (dk_at dksX11_wrongOf_0 6 rfl rfl)
theorem dX11_wrongOf_8 : decode cX11_wrongOf 8 = .ok (.sipush 400, 3) := dk_17 1 144 (dk_at dksX11_wrongOf_0 8 rfl rfl)
theorem dX11_wrongOf_11 : decode cX11_wrongOf 11 = .ok (.iload_n 1, 1) := dk_27 (dk_at dksX11_wrongOf_0 11 rfl rfl)
theorem dX11_wrongOf_12 : decode cX11_wrongOf 12 = .ok (.imul, 1) := dk_104 (dk_at dksX11_wrongOf_0 12 rfl rfl)
theorem dX11_wrongOf_13 : decode cX11_wrongOf 13 = .ok (.istore 5, 2) := dk_54 5 (dk_at dksX11_wrongOf_0 13 rfl rfl)
theorem dX11_wrongOf_15 : decode cX11_wrongOf 15 = .ok (.aload_n 0, 1) := dk_42 (dk_at dksX11_wrongOf_0 15 rfl rfl)
theorem dX11_wrongOf_16 : decode cX11_wrongOf 16 = .ok (.iload_n 1, 1) := dk_27 (dk_at dksX11_wrongOf_0 16 rfl rfl)
theorem dX11_wrongOf_17 : decode cX11_wrongOf 17 = .ok (.iload_n 2, 1) := dk_28 (dk_at dksX11_wrongOf_0 17 rfl rfl)
theorem dX11_wrongOf_18 : decode cX11_wrongOf 18 = .ok (.iload_n 3, 1) := dk_29 (dk_at dksX11_wrongOf_0 18 rfl rfl)
theorem dX11_wrongOf_19 : decode cX11_wrongOf 19 = .ok (.invokevirtual 259, 3) := dk_182 1 3 (dk_at dksX11_wrongOf_0 19 rfl rfl)
theorem dX11_wrongOf_22 : decode cX11_wrongOf 22 = .ok (.istore 6, 2) := dk_54 6 (dk_at dksX11_wrongOf_0 22 rfl rfl)
theorem dX11_wrongOf_24 : decode cX11_wrongOf 24 = .ok (.aload_n 0, 1) := dk_42 (dk_at dksX11_wrongOf_1 0 rfl rfl)
theorem dX11_wrongOf_25 : decode cX11_wrongOf 25 = .ok (.iload_n 1, 1) := dk_27 (dk_at dksX11_wrongOf_1 1 rfl rfl)
theorem dX11_wrongOf_26 : decode cX11_wrongOf 26 = .ok (.iload_n 3, 1) := dk_29 (dk_at dksX11_wrongOf_1 2 rfl rfl)
theorem dX11_wrongOf_27 : decode cX11_wrongOf 27 = .ok (.iconst 1, 1) := dk_4 (dk_at dksX11_wrongOf_1 3 rfl rfl)
theorem dX11_wrongOf_28 : decode cX11_wrongOf 28 = .ok (.invokevirtual 251, 3) := dk_182 0 251 (dk_at dksX11_wrongOf_1 4 rfl rfl)
theorem dX11_wrongOf_31 : decode cX11_wrongOf 31 = .ok (.istore 7, 2) := dk_54 7 (dk_at dksX11_wrongOf_1 7 rfl rfl)
theorem dX11_wrongOf_33 : decode cX11_wrongOf 33 = .ok (.aload_n 0, 1) := dk_42 (dk_at dksX11_wrongOf_1 9 rfl rfl)
theorem dX11_wrongOf_34 : decode cX11_wrongOf 34 = .ok (.iload_n 1, 1) := dk_27 (dk_at dksX11_wrongOf_1 10 rfl rfl)
theorem dX11_wrongOf_35 : decode cX11_wrongOf 35 = .ok (.iconst 5, 1) := dk_8 (dk_at dksX11_wrongOf_1 11 rfl rfl)
theorem dX11_wrongOf_36 : decode cX11_wrongOf 36 = .ok (.invokevirtual 255, 3) := dk_182 0 255 (dk_at dksX11_wrongOf_1 12 rfl rfl)
theorem dX11_wrongOf_39 : decode cX11_wrongOf 39 = .ok (.ifCond .ne 26, 3) := dk_154 0 26 (dk_at dksX11_wrongOf_1 15 rfl rfl)
theorem dX11_wrongOf_42 : decode cX11_wrongOf 42 = .ok (.iload 4, 2) := dk_21 4 (dk_at dksX11_wrongOf_1 18 rfl rfl)
theorem dX11_wrongOf_44 : decode cX11_wrongOf 44 = .ok (.ifCond .le 21, 3) := dk_158 0 21 (dk_at dksX11_wrongOf_1 20 rfl rfl)
theorem dX11_wrongOf_47 : decode cX11_wrongOf 47 = .ok (.aload_n 0, 1) := dk_42 (dk_at dksX11_wrongOf_1 23 rfl rfl)
theorem dX11_wrongOf_48 : decode cX11_wrongOf 48 = .ok (.getfield 42, 3) := dk_180 0 42 (dk_at dksX11_wrongOf_2 0 rfl rfl)
theorem dX11_wrongOf_51 : decode cX11_wrongOf 51 = .ok (.iload 5, 2) := dk_21 5 (dk_at dksX11_wrongOf_2 3 rfl rfl)
theorem dX11_wrongOf_53 : decode cX11_wrongOf 53 = .ok (.iload 4, 2) := dk_21 4 (dk_at dksX11_wrongOf_2 5 rfl rfl)
theorem dX11_wrongOf_55 : decode cX11_wrongOf 55 = .ok (.iadd, 1) := dk_96 (dk_at dksX11_wrongOf_2 7 rfl rfl)
theorem dX11_wrongOf_56 : decode cX11_wrongOf 56 = .ok (.iconst 1, 1) := dk_4 (dk_at dksX11_wrongOf_2 8 rfl rfl)
theorem dX11_wrongOf_57 : decode cX11_wrongOf 57 = .ok (.isub, 1) := dk_100 (dk_at dksX11_wrongOf_2 9 rfl rfl)
theorem dX11_wrongOf_58 : decode cX11_wrongOf 58 = .ok (.iaload, 1) := dk_46 (dk_at dksX11_wrongOf_2 10 rfl rfl)
theorem dX11_wrongOf_59 : decode cX11_wrongOf 59 = .ok (.iload_n 2, 1) := dk_28 (dk_at dksX11_wrongOf_2 11 rfl rfl)
theorem dX11_wrongOf_60 : decode cX11_wrongOf 60 = .ok (.if_icmp .ne 5, 3) := dk_160 0 5 (dk_at dksX11_wrongOf_2 12 rfl rfl)
theorem dX11_wrongOf_63 : decode cX11_wrongOf 63 = .ok (.iconst 1, 1) := dk_4 (dk_at dksX11_wrongOf_2 15 rfl rfl)
theorem dX11_wrongOf_64 : decode cX11_wrongOf 64 = .ok (.ireturn, 1) := dk_172 (dk_at dksX11_wrongOf_2 16 rfl rfl)
theorem dX11_wrongOf_65 : decode cX11_wrongOf 65 = .ok (.iload 6, 2) := dk_21 6 (dk_at dksX11_wrongOf_2 17 rfl rfl)
theorem dX11_wrongOf_67 : decode cX11_wrongOf 67 = .ok (.iconst (-1), 1) := dk_2 (dk_at dksX11_wrongOf_2 19 rfl rfl)
theorem dX11_wrongOf_68 : decode cX11_wrongOf 68 = .ok (.if_icmp .ne 15, 3) := dk_160 0 15 (dk_at dksX11_wrongOf_2 20 rfl rfl)
theorem dX11_wrongOf_71 : decode cX11_wrongOf 71 = .ok (.aload_n 0, 1) := dk_42 (dk_at dksX11_wrongOf_2 23 rfl rfl)
theorem dX11_wrongOf_72 : decode cX11_wrongOf 72 = .ok (.iload_n 1, 1) := dk_27 (dk_at dksX11_wrongOf_3 0 rfl rfl)
theorem dX11_wrongOf_73 : decode cX11_wrongOf 73 = .ok (.iload_n 3, 1) := dk_29 (dk_at dksX11_wrongOf_3 1 rfl rfl)
theorem dX11_wrongOf_74 : decode cX11_wrongOf 74 = .ok (.iconst 0, 1) := dk_3 (dk_at dksX11_wrongOf_3 2 rfl rfl)
theorem dX11_wrongOf_75 : decode cX11_wrongOf 75 = .ok (.invokevirtual 251, 3) := dk_182 0 251 (dk_at dksX11_wrongOf_3 3 rfl rfl)
theorem dX11_wrongOf_78 : decode cX11_wrongOf 78 = .ok (.ifCond .ne 5, 3) := dk_154 0 5 (dk_at dksX11_wrongOf_3 6 rfl rfl)
theorem dX11_wrongOf_81 : decode cX11_wrongOf 81 = .ok (.iconst 2, 1) := dk_5 (dk_at dksX11_wrongOf_3 9 rfl rfl)
theorem dX11_wrongOf_82 : decode cX11_wrongOf 82 = .ok (.ireturn, 1) := dk_172 (dk_at dksX11_wrongOf_3 10 rfl rfl)
theorem dX11_wrongOf_83 : decode cX11_wrongOf 83 = .ok (.iload 6, 2) := dk_21 6 (dk_at dksX11_wrongOf_3 11 rfl rfl)
theorem dX11_wrongOf_85 : decode cX11_wrongOf 85 = .ok (.iconst (-1), 1) := dk_2 (dk_at dksX11_wrongOf_3 13 rfl rfl)
theorem dX11_wrongOf_86 : decode cX11_wrongOf 86 = .ok (.if_icmp .eq 28, 3) := dk_159 0 28 (dk_at dksX11_wrongOf_3 14 rfl rfl)
theorem dX11_wrongOf_89 : decode cX11_wrongOf 89 = .ok (.aload_n 0, 1) := dk_42 (dk_at dksX11_wrongOf_3 17 rfl rfl)
theorem dX11_wrongOf_90 : decode cX11_wrongOf 90 = .ok (.iload_n 1, 1) := dk_27 (dk_at dksX11_wrongOf_3 18 rfl rfl)
theorem dX11_wrongOf_91 : decode cX11_wrongOf 91 = .ok (.iload_n 3, 1) := dk_29 (dk_at dksX11_wrongOf_3 19 rfl rfl)
theorem dX11_wrongOf_92 : decode cX11_wrongOf 92 = .ok (.iconst 3, 1) := dk_6 (dk_at dksX11_wrongOf_3 20 rfl rfl)
theorem dX11_wrongOf_93 : decode cX11_wrongOf 93 = .ok (.invokevirtual 251, 3) := dk_182 0 251 (dk_at dksX11_wrongOf_3 21 rfl rfl)
theorem dX11_wrongOf_96 : decode cX11_wrongOf 96 = .ok (.aload_n 0, 1) := dk_42 (dk_at dksX11_wrongOf_4 0 rfl rfl)
theorem dX11_wrongOf_97 : decode cX11_wrongOf 97 = .ok (.getfield 45, 3) := dk_180 0 45 (dk_at dksX11_wrongOf_4 1 rfl rfl)
theorem dX11_wrongOf_100 : decode cX11_wrongOf 100 = .ok (.iload 5, 2) := dk_21 5 (dk_at dksX11_wrongOf_4 4 rfl rfl)
theorem dX11_wrongOf_102 : decode cX11_wrongOf 102 = .ok (.iload 6, 2) := dk_21 6 (dk_at dksX11_wrongOf_4 6 rfl rfl)
theorem dX11_wrongOf_104 : decode cX11_wrongOf 104 = .ok (.iadd, 1) := dk_96 (dk_at dksX11_wrongOf_4 8 rfl rfl)
theorem dX11_wrongOf_105 : decode cX11_wrongOf 105 = .ok (.iaload, 1) := dk_46 (dk_at dksX11_wrongOf_4 9 rfl rfl)
theorem dX11_wrongOf_106 : decode cX11_wrongOf 106 = .ok (.invokestatic 215, 3) := dk_184 0 215 (dk_at dksX11_wrongOf_4 10 rfl rfl)
theorem dX11_wrongOf_109 : decode cX11_wrongOf 109 = .ok (.ifCond .ne 5, 3) := dk_154 0 5 (dk_at dksX11_wrongOf_4 13 rfl rfl)
theorem dX11_wrongOf_112 : decode cX11_wrongOf 112 = .ok (.iconst 3, 1) := dk_6 (dk_at dksX11_wrongOf_4 16 rfl rfl)
theorem dX11_wrongOf_113 : decode cX11_wrongOf 113 = .ok (.ireturn, 1) := dk_172 (dk_at dksX11_wrongOf_4 17 rfl rfl)
theorem dX11_wrongOf_114 : decode cX11_wrongOf 114 = .ok (.iload 6, 2) := dk_21 6 (dk_at dksX11_wrongOf_4 18 rfl rfl)
theorem dX11_wrongOf_116 : decode cX11_wrongOf 116 = .ok (.iconst (-1), 1) := dk_2 (dk_at dksX11_wrongOf_4 20 rfl rfl)
theorem dX11_wrongOf_117 : decode cX11_wrongOf 117 = .ok (.if_icmp .eq 31, 3) := dk_159 0 31 (dk_at dksX11_wrongOf_4 21 rfl rfl)
theorem dX11_wrongOf_120 : decode cX11_wrongOf 120 = .ok (.aload_n 0, 1) := dk_42 (dk_at dksX11_wrongOf_5 0 rfl rfl)
theorem dX11_wrongOf_121 : decode cX11_wrongOf 121 = .ok (.getfield 42, 3) := dk_180 0 42 (dk_at dksX11_wrongOf_5 1 rfl rfl)
theorem dX11_wrongOf_124 : decode cX11_wrongOf 124 = .ok (.iload 5, 2) := dk_21 5 (dk_at dksX11_wrongOf_5 4 rfl rfl)
theorem dX11_wrongOf_126 : decode cX11_wrongOf 126 = .ok (.iload 6, 2) := dk_21 6 (dk_at dksX11_wrongOf_5 6 rfl rfl)
theorem dX11_wrongOf_128 : decode cX11_wrongOf 128 = .ok (.iadd, 1) := dk_96 (dk_at dksX11_wrongOf_5 8 rfl rfl)
theorem dX11_wrongOf_129 : decode cX11_wrongOf 129 = .ok (.iaload, 1) := dk_46 (dk_at dksX11_wrongOf_5 9 rfl rfl)
theorem dX11_wrongOf_130 : decode cX11_wrongOf 130 = .ok (.iload_n 2, 1) := dk_28 (dk_at dksX11_wrongOf_5 10 rfl rfl)
theorem dX11_wrongOf_131 : decode cX11_wrongOf 131 = .ok (.if_icmp .ne 17, 3) := dk_160 0 17 (dk_at dksX11_wrongOf_5 11 rfl rfl)
theorem dX11_wrongOf_134 : decode cX11_wrongOf 134 = .ok (.iload 7, 2) := dk_21 7 (dk_at dksX11_wrongOf_5 14 rfl rfl)
theorem dX11_wrongOf_136 : decode cX11_wrongOf 136 = .ok (.iconst 4, 1) := dk_7 (dk_at dksX11_wrongOf_5 16 rfl rfl)
theorem dX11_wrongOf_137 : decode cX11_wrongOf 137 = .ok (.if_icmp .eq 11, 3) := dk_159 0 11 (dk_at dksX11_wrongOf_5 17 rfl rfl)
theorem dX11_wrongOf_140 : decode cX11_wrongOf 140 = .ok (.iload 7, 2) := dk_21 7 (dk_at dksX11_wrongOf_5 20 rfl rfl)
theorem dX11_wrongOf_142 : decode cX11_wrongOf 142 = .ok (.iconst 5, 1) := dk_8 (dk_at dksX11_wrongOf_5 22 rfl rfl)
theorem dX11_wrongOf_143 : decode cX11_wrongOf 143 = .ok (.if_icmp .eq 5, 3) := dk_159 0 5 (dk_at dksX11_wrongOf_6 0 rfl rfl)
theorem dX11_wrongOf_146 : decode cX11_wrongOf 146 = .ok (.iconst 4, 1) := dk_7 (dk_at dksX11_wrongOf_6 3 rfl rfl)
theorem dX11_wrongOf_147 : decode cX11_wrongOf 147 = .ok (.ireturn, 1) := dk_172 (dk_at dksX11_wrongOf_6 4 rfl rfl)
theorem dX11_wrongOf_148 : decode cX11_wrongOf 148 = .ok (.iload 7, 2) := dk_21 7 (dk_at dksX11_wrongOf_6 5 rfl rfl)
theorem dX11_wrongOf_150 : decode cX11_wrongOf 150 = .ok (.iconst 2, 1) := dk_5 (dk_at dksX11_wrongOf_6 7 rfl rfl)
theorem dX11_wrongOf_151 : decode cX11_wrongOf 151 = .ok (.if_icmp .ge 5, 3) := dk_162 0 5 (dk_at dksX11_wrongOf_6 8 rfl rfl)
theorem dX11_wrongOf_154 : decode cX11_wrongOf 154 = .ok (.iconst 0, 1) := dk_3 (dk_at dksX11_wrongOf_6 11 rfl rfl)
theorem dX11_wrongOf_155 : decode cX11_wrongOf 155 = .ok (.ireturn, 1) := dk_172 (dk_at dksX11_wrongOf_6 12 rfl rfl)
theorem dX11_wrongOf_156 : decode cX11_wrongOf 156 = .ok (.iload 6, 2) := dk_21 6 (dk_at dksX11_wrongOf_6 13 rfl rfl)
theorem dX11_wrongOf_158 : decode cX11_wrongOf 158 = .ok (.iconst (-1), 1) := dk_2 (dk_at dksX11_wrongOf_6 15 rfl rfl)
theorem dX11_wrongOf_159 : decode cX11_wrongOf 159 = .ok (.if_icmp .ne 5, 3) := dk_160 0 5 (dk_at dksX11_wrongOf_6 16 rfl rfl)
theorem dX11_wrongOf_162 : decode cX11_wrongOf 162 = .ok (.iconst 5, 1) := dk_8 (dk_at dksX11_wrongOf_6 19 rfl rfl)
theorem dX11_wrongOf_163 : decode cX11_wrongOf 163 = .ok (.ireturn, 1) := dk_172 (dk_at dksX11_wrongOf_6 20 rfl rfl)
theorem dX11_wrongOf_164 : decode cX11_wrongOf 164 = .ok (.iload 7, 2) := dk_21 7 (dk_at dksX11_wrongOf_6 21 rfl rfl)
theorem dX11_wrongOf_166 : decode cX11_wrongOf 166 = .ok (.iconst 4, 1) := dk_7 (dk_at dksX11_wrongOf_6 23 rfl rfl)
theorem dX11_wrongOf_167 : decode cX11_wrongOf 167 = .ok (.if_icmp .ge 23, 3) := dk_162 0 23 (dk_at dksX11_wrongOf_7 0 rfl rfl)
theorem dX11_wrongOf_170 : decode cX11_wrongOf 170 = .ok (.aload_n 0, 1) := dk_42 (dk_at dksX11_wrongOf_7 3 rfl rfl)
theorem dX11_wrongOf_171 : decode cX11_wrongOf 171 = .ok (.getfield 57, 3) := dk_180 0 57 (dk_at dksX11_wrongOf_7 4 rfl rfl)
theorem dX11_wrongOf_174 : decode cX11_wrongOf 174 = .ok (.iload 5, 2) := dk_21 5 (dk_at dksX11_wrongOf_7 7 rfl rfl)
theorem dX11_wrongOf_176 : decode cX11_wrongOf 176 = .ok (.iload 6, 2) := dk_21 6 (dk_at dksX11_wrongOf_7 9 rfl rfl)
theorem dX11_wrongOf_178 : decode cX11_wrongOf 178 = .ok (.iadd, 1) := dk_96 (dk_at dksX11_wrongOf_7 11 rfl rfl)
theorem dX11_wrongOf_179 : decode cX11_wrongOf 179 = .ok (.iaload, 1) := dk_46 (dk_at dksX11_wrongOf_7 12 rfl rfl)
theorem dX11_wrongOf_180 : decode cX11_wrongOf 180 = .ok (.iconst 1, 1) := dk_4 (dk_at dksX11_wrongOf_7 13 rfl rfl)
theorem dX11_wrongOf_181 : decode cX11_wrongOf 181 = .ok (.if_icmp .ne 7, 3) := dk_160 0 7 (dk_at dksX11_wrongOf_7 14 rfl rfl)
theorem dX11_wrongOf_184 : decode cX11_wrongOf 184 = .ok (.iconst 0, 1) := dk_3 (dk_at dksX11_wrongOf_7 17 rfl rfl)
theorem dX11_wrongOf_185 : decode cX11_wrongOf 185 = .ok (.goto 4, 3) := dk_167 0 4 (dk_at dksX11_wrongOf_7 18 rfl rfl)
theorem dX11_wrongOf_188 : decode cX11_wrongOf 188 = .ok (.iconst 5, 1) := dk_8 (dk_at dksX11_wrongOf_7 21 rfl rfl)
theorem dX11_wrongOf_189 : decode cX11_wrongOf 189 = .ok (.ireturn, 1) := dk_172 (dk_at dksX11_wrongOf_7 22 rfl rfl)
theorem dX11_wrongOf_190 : decode cX11_wrongOf 190 = .ok (.aload_n 0, 1) := dk_42 (dk_at dksX11_wrongOf_7 23 rfl rfl)
theorem dX11_wrongOf_191 : decode cX11_wrongOf 191 = .ok (.getfield 57, 3) := dk_180 0 57 (dk_at dksX11_wrongOf_8 0 rfl rfl)
theorem dX11_wrongOf_194 : decode cX11_wrongOf 194 = .ok (.iload 5, 2) := dk_21 5 (dk_at dksX11_wrongOf_8 3 rfl rfl)
theorem dX11_wrongOf_196 : decode cX11_wrongOf 196 = .ok (.iload 6, 2) := dk_21 6 (dk_at dksX11_wrongOf_8 5 rfl rfl)
theorem dX11_wrongOf_198 : decode cX11_wrongOf 198 = .ok (.iadd, 1) := dk_96 (dk_at dksX11_wrongOf_8 7 rfl rfl)
theorem dX11_wrongOf_199 : decode cX11_wrongOf 199 = .ok (.iaload, 1) := dk_46 (dk_at dksX11_wrongOf_8 8 rfl rfl)
theorem dX11_wrongOf_200 : decode cX11_wrongOf 200 = .ok (.iconst 4, 1) := dk_7 (dk_at dksX11_wrongOf_8 9 rfl rfl)
theorem dX11_wrongOf_201 : decode cX11_wrongOf 201 = .ok (.if_icmp .ne 27, 3) := dk_160 0 27 (dk_at dksX11_wrongOf_8 10 rfl rfl)
theorem dX11_wrongOf_204 : decode cX11_wrongOf 204 = .ok (.iload 4, 2) := dk_21 4 (dk_at dksX11_wrongOf_8 13 rfl rfl)
theorem dX11_wrongOf_206 : decode cX11_wrongOf 206 = .ok (.iload 6, 2) := dk_21 6 (dk_at dksX11_wrongOf_8 15 rfl rfl)
theorem dX11_wrongOf_208 : decode cX11_wrongOf 208 = .ok (.isub, 1) := dk_100 (dk_at dksX11_wrongOf_8 17 rfl rfl)
theorem dX11_wrongOf_209 : decode cX11_wrongOf 209 = .ok (.aload_n 0, 1) := dk_42 (dk_at dksX11_wrongOf_8 18 rfl rfl)
theorem dX11_wrongOf_210 : decode cX11_wrongOf 210 = .ok (.iload_n 1, 1) := dk_27 (dk_at dksX11_wrongOf_8 19 rfl rfl)
theorem dX11_wrongOf_211 : decode cX11_wrongOf 211 = .ok (.aload_n 0, 1) := dk_42 (dk_at dksX11_wrongOf_8 20 rfl rfl)
theorem dX11_wrongOf_212 : decode cX11_wrongOf 212 = .ok (.getfield 45, 3) := dk_180 0 45 (dk_at dksX11_wrongOf_8 21 rfl rfl)
theorem dX11_wrongOf_215 : decode cX11_wrongOf 215 = .ok (.iload 5, 2) := dk_21 5 (dk_at dksX11_wrongOf_9 0 rfl rfl)
theorem dX11_wrongOf_217 : decode cX11_wrongOf 217 = .ok (.iload 6, 2) := dk_21 6 (dk_at dksX11_wrongOf_9 2 rfl rfl)
theorem dX11_wrongOf_219 : decode cX11_wrongOf 219 = .ok (.iadd, 1) := dk_96 (dk_at dksX11_wrongOf_9 4 rfl rfl)
theorem dX11_wrongOf_220 : decode cX11_wrongOf 220 = .ok (.iaload, 1) := dk_46 (dk_at dksX11_wrongOf_9 5 rfl rfl)
theorem dX11_wrongOf_221 : decode cX11_wrongOf 221 = .ok (.iconst 2, 1) := dk_5 (dk_at dksX11_wrongOf_9 6 rfl rfl)
theorem dX11_wrongOf_222 : decode cX11_wrongOf 222 = .ok (.invokevirtual 251, 3) := dk_182 0 251 (dk_at dksX11_wrongOf_9 7 rfl rfl)
theorem dX11_wrongOf_225 : decode cX11_wrongOf 225 = .ok (.if_icmp .le 5, 3) := dk_164 0 5 (dk_at dksX11_wrongOf_9 10 rfl rfl)
theorem dX11_wrongOf_228 : decode cX11_wrongOf 228 = .ok (.iconst 5, 1) := dk_8 (dk_at dksX11_wrongOf_9 13 rfl rfl)
theorem dX11_wrongOf_229 : decode cX11_wrongOf 229 = .ok (.ireturn, 1) := dk_172 (dk_at dksX11_wrongOf_9 14 rfl rfl)
theorem dX11_wrongOf_230 : decode cX11_wrongOf 230 = .ok (.iload 7, 2) := dk_21 7 (dk_at dksX11_wrongOf_9 15 rfl rfl)
theorem dX11_wrongOf_232 : decode cX11_wrongOf 232 = .ok (.bipush 6, 2) := dk_16 6 (dk_at dksX11_wrongOf_9 17 rfl rfl)
theorem dX11_wrongOf_234 : decode cX11_wrongOf 234 = .ok (.if_icmp .ne 24, 3) := dk_160 0 24 (dk_at dksX11_wrongOf_9 19 rfl rfl)
theorem dX11_wrongOf_237 : decode cX11_wrongOf 237 = .ok (.aload_n 0, 1) := dk_42 (dk_at dksX11_wrongOf_9 22 rfl rfl)
theorem dX11_wrongOf_238 : decode cX11_wrongOf 238 = .ok (.getfield 42, 3) := dk_180 0 42 (dk_at dksX11_wrongOf_10 0 rfl rfl)
theorem dX11_wrongOf_241 : decode cX11_wrongOf 241 = .ok (.iload 5, 2) := dk_21 5 (dk_at dksX11_wrongOf_10 3 rfl rfl)
theorem dX11_wrongOf_243 : decode cX11_wrongOf 243 = .ok (.aload_n 0, 1) := dk_42 (dk_at dksX11_wrongOf_10 5 rfl rfl)
theorem dX11_wrongOf_244 : decode cX11_wrongOf 244 = .ok (.getfield 48, 3) := dk_180 0 48 (dk_at dksX11_wrongOf_10 6 rfl rfl)
theorem dX11_wrongOf_247 : decode cX11_wrongOf 247 = .ok (.iload 5, 2) := dk_21 5 (dk_at dksX11_wrongOf_10 9 rfl rfl)
theorem dX11_wrongOf_249 : decode cX11_wrongOf 249 = .ok (.iload 6, 2) := dk_21 6 (dk_at dksX11_wrongOf_10 11 rfl rfl)
theorem dX11_wrongOf_251 : decode cX11_wrongOf 251 = .ok (.iadd, 1) := dk_96 (dk_at dksX11_wrongOf_10 13 rfl rfl)
theorem dX11_wrongOf_252 : decode cX11_wrongOf 252 = .ok (.iaload, 1) := dk_46 (dk_at dksX11_wrongOf_10 14 rfl rfl)
theorem dX11_wrongOf_253 : decode cX11_wrongOf 253 = .ok (.iadd, 1) := dk_96 (dk_at dksX11_wrongOf_10 15 rfl rfl)
theorem dX11_wrongOf_254 : decode cX11_wrongOf 254 = .ok (.iaload, 1) := dk_46 (dk_at dksX11_wrongOf_10 16 rfl rfl)
theorem dX11_wrongOf_255 : decode cX11_wrongOf 255 = .ok (.goto 13, 3) := dk_167 0 13 (dk_at dksX11_wrongOf_10 17 rfl rfl)
theorem dX11_wrongOf_258 : decode cX11_wrongOf 258 = .ok (.aload_n 0, 1) := dk_42 (dk_at dksX11_wrongOf_10 20 rfl rfl)
theorem dX11_wrongOf_259 : decode cX11_wrongOf 259 = .ok (.getfield 42, 3) := dk_180 0 42 (dk_at dksX11_wrongOf_10 21 rfl rfl)
theorem dX11_wrongOf_262 : decode cX11_wrongOf 262 = .ok (.iload 5, 2) := dk_21 5 (dk_at dksX11_wrongOf_11 0 rfl rfl)
theorem dX11_wrongOf_264 : decode cX11_wrongOf 264 = .ok (.iload 6, 2) := dk_21 6 (dk_at dksX11_wrongOf_11 2 rfl rfl)
theorem dX11_wrongOf_266 : decode cX11_wrongOf 266 = .ok (.iadd, 1) := dk_96 (dk_at dksX11_wrongOf_11 4 rfl rfl)
theorem dX11_wrongOf_267 : decode cX11_wrongOf 267 = .ok (.iaload, 1) := dk_46 (dk_at dksX11_wrongOf_11 5 rfl rfl)
theorem dX11_wrongOf_268 : decode cX11_wrongOf 268 = .ok (.istore 8, 2) := dk_54 8 (dk_at dksX11_wrongOf_11 6 rfl rfl)
theorem dX11_wrongOf_270 : decode cX11_wrongOf 270 = .ok (.iload 8, 2) := dk_21 8 (dk_at dksX11_wrongOf_11 8 rfl rfl)
theorem dX11_wrongOf_272 : decode cX11_wrongOf 272 = .ok (.iload_n 2, 1) := dk_28 (dk_at dksX11_wrongOf_11 10 rfl rfl)
theorem dX11_wrongOf_273 : decode cX11_wrongOf 273 = .ok (.if_icmp .ne 7, 3) := dk_160 0 7 (dk_at dksX11_wrongOf_11 11 rfl rfl)
theorem dX11_wrongOf_276 : decode cX11_wrongOf 276 = .ok (.iconst 0, 1) := dk_3 (dk_at dksX11_wrongOf_11 14 rfl rfl)
theorem dX11_wrongOf_277 : decode cX11_wrongOf 277 = .ok (.goto 5, 3) := dk_167 0 5 (dk_at dksX11_wrongOf_11 15 rfl rfl)
theorem dX11_wrongOf_280 : decode cX11_wrongOf 280 = .ok (.bipush 6, 2) := dk_16 6 (dk_at dksX11_wrongOf_11 18 rfl rfl)
theorem dX11_wrongOf_282 : decode cX11_wrongOf 282 = .ok (.ireturn, 1) := dk_172 (dk_at dksX11_wrongOf_11 20 rfl rfl)
abbrev cX11_keepWord : ByteArray := prog_21_method_50_code
def yX11_keepWord : MethodName := ⟨RX11, "keepWord", "(II)V"⟩
def dkwX11_keepWord_2 : List UInt8 := [79, 177]
abbrev dktX11_keepWord_2 : List UInt8 := dkwX11_keepWord_2 ++ []
def dkwX11_keepWord_1 : List UInt8 := [5, 42, 180, 0, 13, 16, 60, 46, 104, 96, 4, 96, 28, 79, 42, 180, 0, 13, 16, 60, 92, 46, 4, 96]
abbrev dktX11_keepWord_1 : List UInt8 := dkwX11_keepWord_1 ++ dktX11_keepWord_2
def dkwX11_keepWord_0 : List UInt8 := [42, 180, 0, 13, 16, 61, 5, 42, 180, 0, 13, 16, 60, 46, 104, 96, 27, 79, 42, 180, 0, 13, 16, 61]
abbrev dktX11_keepWord_0 : List UInt8 := dkwX11_keepWord_0 ++ dktX11_keepWord_1
theorem dksX11_keepWord_0 : cX11_keepWord.data.toList.drop 0 = dktX11_keepWord_0 := by decide +kernel
theorem dksX11_keepWord_1 : cX11_keepWord.data.toList.drop 24 = dktX11_keepWord_1 := dk_seg dksX11_keepWord_0 24 rfl rfl
theorem dksX11_keepWord_2 : cX11_keepWord.data.toList.drop 48 = dktX11_keepWord_2 := dk_seg dksX11_keepWord_1 24 rfl rfl
theorem dX11_keepWord_0 : decode cX11_keepWord 0 = .ok (.aload_n 0, 1) := dk_42 (dk_at dksX11_keepWord_0 0 rfl rfl)
theorem dX11_keepWord_1 : decode cX11_keepWord 1 = .ok (.getfield 13, 3) := dk_180 0 13 (dk_at dksX11_keepWord_0 1 rfl rfl)
theorem dX11_keepWord_4 : decode cX11_keepWord 4 = .ok (.bipush 61, 2) := dk_16 61 (dk_at dksX11_keepWord_0 4 rfl rfl)
theorem dX11_keepWord_6 : decode cX11_keepWord 6 = .ok (.iconst 2, 1) := dk_5 (dk_at dksX11_keepWord_0 6 rfl rfl)
theorem dX11_keepWord_7 : decode cX11_keepWord 7 = .ok (.aload_n 0, 1) := dk_42 (dk_at dksX11_keepWord_0 7 rfl rfl)
theorem dX11_keepWord_8 : decode cX11_keepWord 8 = .ok (.getfield 13, 3) := dk_180 0 13 (dk_at dksX11_keepWord_0 8 rfl rfl)
theorem dX11_keepWord_11 : decode cX11_keepWord 11 = .ok (.bipush 60, 2) := dk_16 60 (dk_at dksX11_keepWord_0 11 rfl rfl)
theorem dX11_keepWord_13 : decode cX11_keepWord 13 = .ok (.iaload, 1) := dk_46 (dk_at dksX11_keepWord_0 13 rfl rfl)
theorem dX11_keepWord_14 : decode cX11_keepWord 14 = .ok (.imul, 1) := dk_104 (dk_at dksX11_keepWord_0 14 rfl rfl)
theorem dX11_keepWord_15 : decode cX11_keepWord 15 = .ok (.iadd, 1) := dk_96 (dk_at dksX11_keepWord_0 15 rfl rfl)
theorem dX11_keepWord_16 : decode cX11_keepWord 16 = .ok (.iload_n 1, 1) := dk_27 (dk_at dksX11_keepWord_0 16 rfl rfl)
theorem dX11_keepWord_17 : decode cX11_keepWord 17 = .ok (.iastore, 1) := dk_79 (dk_at dksX11_keepWord_0 17 rfl rfl)
theorem dX11_keepWord_18 : decode cX11_keepWord 18 = .ok (.aload_n 0, 1) := dk_42 (dk_at dksX11_keepWord_0 18 rfl rfl)
theorem dX11_keepWord_19 : decode cX11_keepWord 19 = .ok (.getfield 13, 3) := dk_180 0 13 (dk_at dksX11_keepWord_0 19 rfl rfl)
theorem dX11_keepWord_22 : decode cX11_keepWord 22 = .ok (.bipush 61, 2) := dk_16 61 (dk_at dksX11_keepWord_0 22 rfl rfl)
theorem dX11_keepWord_24 : decode cX11_keepWord 24 = .ok (.iconst 2, 1) := dk_5 (dk_at dksX11_keepWord_1 0 rfl rfl)
theorem dX11_keepWord_25 : decode cX11_keepWord 25 = .ok (.aload_n 0, 1) := dk_42 (dk_at dksX11_keepWord_1 1 rfl rfl)
theorem dX11_keepWord_26 : decode cX11_keepWord 26 = .ok (.getfield 13, 3) := dk_180 0 13 (dk_at dksX11_keepWord_1 2 rfl rfl)
theorem dX11_keepWord_29 : decode cX11_keepWord 29 = .ok (.bipush 60, 2) := dk_16 60 (dk_at dksX11_keepWord_1 5 rfl rfl)
theorem dX11_keepWord_31 : decode cX11_keepWord 31 = .ok (.iaload, 1) := dk_46 (dk_at dksX11_keepWord_1 7 rfl rfl)
theorem dX11_keepWord_32 : decode cX11_keepWord 32 = .ok (.imul, 1) := dk_104 (dk_at dksX11_keepWord_1 8 rfl rfl)
theorem dX11_keepWord_33 : decode cX11_keepWord 33 = .ok (.iadd, 1) := dk_96 (dk_at dksX11_keepWord_1 9 rfl rfl)
theorem dX11_keepWord_34 : decode cX11_keepWord 34 = .ok (.iconst 1, 1) := dk_4 (dk_at dksX11_keepWord_1 10 rfl rfl)
theorem dX11_keepWord_35 : decode cX11_keepWord 35 = .ok (.iadd, 1) := dk_96 (dk_at dksX11_keepWord_1 11 rfl rfl)
theorem dX11_keepWord_36 : decode cX11_keepWord 36 = .ok (.iload_n 2, 1) := dk_28 (dk_at dksX11_keepWord_1 12 rfl rfl)
theorem dX11_keepWord_37 : decode cX11_keepWord 37 = .ok (.iastore, 1) := dk_79 (dk_at dksX11_keepWord_1 13 rfl rfl)
theorem dX11_keepWord_38 : decode cX11_keepWord 38 = .ok (.aload_n 0, 1) := dk_42 (dk_at dksX11_keepWord_1 14 rfl rfl)
theorem dX11_keepWord_39 : decode cX11_keepWord 39 = .ok (.getfield 13, 3) := dk_180 0 13 (dk_at dksX11_keepWord_1 15 rfl rfl)
theorem dX11_keepWord_42 : decode cX11_keepWord 42 = .ok (.bipush 60, 2) := dk_16 60 (dk_at dksX11_keepWord_1 18 rfl rfl)
theorem dX11_keepWord_44 : decode cX11_keepWord 44 = .ok (.dup2, 1) := dk_92 (dk_at dksX11_keepWord_1 20 rfl rfl)
theorem dX11_keepWord_45 : decode cX11_keepWord 45 = .ok (.iaload, 1) := dk_46 (dk_at dksX11_keepWord_1 21 rfl rfl)
theorem dX11_keepWord_46 : decode cX11_keepWord 46 = .ok (.iconst 1, 1) := dk_4 (dk_at dksX11_keepWord_1 22 rfl rfl)
theorem dX11_keepWord_47 : decode cX11_keepWord 47 = .ok (.iadd, 1) := dk_96 (dk_at dksX11_keepWord_1 23 rfl rfl)
theorem dX11_keepWord_48 : decode cX11_keepWord 48 = .ok (.iastore, 1) := dk_79 (dk_at dksX11_keepWord_2 0 rfl rfl)
theorem dX11_keepWord_49 : decode cX11_keepWord 49 = .ok (.return_, 1) := dk_177 (dk_at dksX11_keepWord_2 1 rfl rfl)
abbrev cX11_wrong : ByteArray := prog_21_method_51_code
def yX11_wrong : MethodName := ⟨RX11, "wrong", "(II)I"⟩
def dkwX11_wrong_0 : List UInt8 := [42, 27, 28, 182, 1, 20, 172]
abbrev dktX11_wrong_0 : List UInt8 := dkwX11_wrong_0 ++ []
theorem dksX11_wrong_0 : cX11_wrong.data.toList.drop 0 = dktX11_wrong_0 := by decide +kernel
theorem dX11_wrong_0 : decode cX11_wrong 0 = .ok (.aload_n 0, 1) := dk_42 (dk_at dksX11_wrong_0 0 rfl rfl)
theorem dX11_wrong_1 : decode cX11_wrong 1 = .ok (.iload_n 1, 1) := dk_27 (dk_at dksX11_wrong_0 1 rfl rfl)
theorem dX11_wrong_2 : decode cX11_wrong 2 = .ok (.iload_n 2, 1) := dk_28 (dk_at dksX11_wrong_0 2 rfl rfl)
theorem dX11_wrong_3 : decode cX11_wrong 3 = .ok (.invokevirtual 276, 3) := dk_182 1 20 (dk_at dksX11_wrong_0 3 rfl rfl)
theorem dX11_wrong_6 : decode cX11_wrong 6 = .ok (.ireturn, 1) := dk_172 (dk_at dksX11_wrong_0 6 rfl rfl)
abbrev cX11_may : ByteArray := prog_21_method_52_code
def yX11_may : MethodName := ⟨RX11, "may", "(I)I"⟩
def dkwX11_may_2 : List UInt8 := [27, 29, 182, 1, 17, 154, 0, 9, 28, 4, 29, 120, 128, 61, 132, 3, 1, 167, 255, 214, 28, 172]
abbrev dktX11_may_2 : List UInt8 := dkwX11_may_2 ++ []
def dkwX11_may_1 : List UInt8 := [42, 180, 0, 13, 4, 46, 162, 0, 38, 42, 180, 0, 13, 16, 60, 46, 17, 1, 144, 162, 0, 25, 42, 3]
abbrev dktX11_may_1 : List UInt8 := dkwX11_may_1 ++ dktX11_may_2
def dkwX11_may_0 : List UInt8 := [42, 3, 181, 0, 106, 42, 27, 182, 0, 242, 154, 0, 5, 2, 172, 42, 182, 1, 14, 3, 61, 3, 62, 29]
abbrev dktX11_may_0 : List UInt8 := dkwX11_may_0 ++ dktX11_may_1
theorem dksX11_may_0 : cX11_may.data.toList.drop 0 = dktX11_may_0 := by decide +kernel
theorem dksX11_may_1 : cX11_may.data.toList.drop 24 = dktX11_may_1 := dk_seg dksX11_may_0 24 rfl rfl
theorem dksX11_may_2 : cX11_may.data.toList.drop 48 = dktX11_may_2 := dk_seg dksX11_may_1 24 rfl rfl
theorem dX11_may_0 : decode cX11_may 0 = .ok (.aload_n 0, 1) := dk_42 (dk_at dksX11_may_0 0 rfl rfl)
theorem dX11_may_1 : decode cX11_may 1 = .ok (.iconst 0, 1) := dk_3 (dk_at dksX11_may_0 1 rfl rfl)
theorem dX11_may_2 : decode cX11_may 2 = .ok (.putfield 106, 3) := dk_181 0 106 (dk_at dksX11_may_0 2 rfl rfl)
theorem dX11_may_5 : decode cX11_may 5 = .ok (.aload_n 0, 1) := dk_42 (dk_at dksX11_may_0 5 rfl rfl)
theorem dX11_may_6 : decode cX11_may 6 = .ok (.iload_n 1, 1) := dk_27 (dk_at dksX11_may_0 6 rfl rfl)
theorem dX11_may_7 : decode cX11_may 7 = .ok (.invokevirtual 242, 3) := dk_182 0 242 (dk_at dksX11_may_0 7 rfl rfl)
theorem dX11_may_10 : decode cX11_may 10 = .ok (.ifCond .ne 5, 3) := dk_154 0 5 (dk_at dksX11_may_0 10 rfl rfl)
theorem dX11_may_13 : decode cX11_may 13 = .ok (.iconst (-1), 1) := dk_2 (dk_at dksX11_may_0 13 rfl rfl)
theorem dX11_may_14 : decode cX11_may 14 = .ok (.ireturn, 1) := dk_172 (dk_at dksX11_may_0 14 rfl rfl)
theorem dX11_may_15 : decode cX11_may 15 = .ok (.aload_n 0, 1) := dk_42 (dk_at dksX11_may_0 15 rfl rfl)
theorem dX11_may_16 : decode cX11_may 16 = .ok (.invokevirtual 270, 3) := dk_182 1 14 (dk_at dksX11_may_0 16 rfl rfl)
theorem dX11_may_19 : decode cX11_may 19 = .ok (.iconst 0, 1) := dk_3 (dk_at dksX11_may_0 19 rfl rfl)
theorem dX11_may_20 : decode cX11_may 20 = .ok (.istore_n 2, 1) := dk_61 (dk_at dksX11_may_0 20 rfl rfl)
theorem dX11_may_21 : decode cX11_may 21 = .ok (.iconst 0, 1) := dk_3 (dk_at dksX11_may_0 21 rfl rfl)
theorem dX11_may_22 : decode cX11_may 22 = .ok (.istore_n 3, 1) := dk_62 (dk_at dksX11_may_0 22 rfl rfl)
theorem dX11_may_23 : decode cX11_may 23 = .ok (.iload_n 3, 1) := dk_29 (dk_at dksX11_may_0 23 rfl rfl)
theorem dX11_may_24 : decode cX11_may 24 = .ok (.aload_n 0, 1) := dk_42 (dk_at dksX11_may_1 0 rfl rfl)
theorem dX11_may_25 : decode cX11_may 25 = .ok (.getfield 13, 3) := dk_180 0 13 (dk_at dksX11_may_1 1 rfl rfl)
theorem dX11_may_28 : decode cX11_may 28 = .ok (.iconst 1, 1) := dk_4 (dk_at dksX11_may_1 4 rfl rfl)
theorem dX11_may_29 : decode cX11_may 29 = .ok (.iaload, 1) := dk_46 (dk_at dksX11_may_1 5 rfl rfl)
theorem dX11_may_30 : decode cX11_may 30 = .ok (.if_icmp .ge 38, 3) := dk_162 0 38 (dk_at dksX11_may_1 6 rfl rfl)
theorem dX11_may_33 : decode cX11_may 33 = .ok (.aload_n 0, 1) := dk_42 (dk_at dksX11_may_1 9 rfl rfl)
theorem dX11_may_34 : decode cX11_may 34 = .ok (.getfield 13, 3) := dk_180 0 13 (dk_at dksX11_may_1 10 rfl rfl)
theorem dX11_may_37 : decode cX11_may 37 = .ok (.bipush 60, 2) := dk_16 60 (dk_at dksX11_may_1 13 rfl rfl)
theorem dX11_may_39 : decode cX11_may 39 = .ok (.iaload, 1) := dk_46 (dk_at dksX11_may_1 15 rfl rfl)
theorem dX11_may_40 : decode cX11_may 40 = .ok (.sipush 400, 3) := dk_17 1 144 (dk_at dksX11_may_1 16 rfl rfl)
theorem dX11_may_43 : decode cX11_may 43 = .ok (.if_icmp .ge 25, 3) := dk_162 0 25 (dk_at dksX11_may_1 19 rfl rfl)
theorem dX11_may_46 : decode cX11_may 46 = .ok (.aload_n 0, 1) := dk_42 (dk_at dksX11_may_1 22 rfl rfl)
theorem dX11_may_47 : decode cX11_may 47 = .ok (.iconst 0, 1) := dk_3 (dk_at dksX11_may_1 23 rfl rfl)
theorem dX11_may_48 : decode cX11_may 48 = .ok (.iload_n 1, 1) := dk_27 (dk_at dksX11_may_2 0 rfl rfl)
theorem dX11_may_49 : decode cX11_may 49 = .ok (.iload_n 3, 1) := dk_29 (dk_at dksX11_may_2 1 rfl rfl)
theorem dX11_may_50 : decode cX11_may 50 = .ok (.invokevirtual 273, 3) := dk_182 1 17 (dk_at dksX11_may_2 2 rfl rfl)
theorem dX11_may_53 : decode cX11_may 53 = .ok (.ifCond .ne 9, 3) := dk_154 0 9 (dk_at dksX11_may_2 5 rfl rfl)
theorem dX11_may_56 : decode cX11_may 56 = .ok (.iload_n 2, 1) := dk_28 (dk_at dksX11_may_2 8 rfl rfl)
theorem dX11_may_57 : decode cX11_may 57 = .ok (.iconst 1, 1) := dk_4 (dk_at dksX11_may_2 9 rfl rfl)
theorem dX11_may_58 : decode cX11_may 58 = .ok (.iload_n 3, 1) := dk_29 (dk_at dksX11_may_2 10 rfl rfl)
theorem dX11_may_59 : decode cX11_may 59 = .ok (.ishl, 1) := dk_120 (dk_at dksX11_may_2 11 rfl rfl)
theorem dX11_may_60 : decode cX11_may 60 = .ok (.ior, 1) := dk_128 (dk_at dksX11_may_2 12 rfl rfl)
theorem dX11_may_61 : decode cX11_may 61 = .ok (.istore_n 2, 1) := dk_61 (dk_at dksX11_may_2 13 rfl rfl)
theorem dX11_may_62 : decode cX11_may 62 = .ok (.iinc 3 1, 3) := dk_132 3 1 (dk_at dksX11_may_2 14 rfl rfl)
theorem dX11_may_65 : decode cX11_may 65 = .ok (.goto (-42), 3) := dk_167 255 214 (dk_at dksX11_may_2 17 rfl rfl)
theorem dX11_may_68 : decode cX11_may 68 = .ok (.iload_n 2, 1) := dk_28 (dk_at dksX11_may_2 20 rfl rfl)
theorem dX11_may_69 : decode cX11_may 69 = .ok (.ireturn, 1) := dk_172 (dk_at dksX11_may_2 21 rfl rfl)
abbrev cX11_undo : ByteArray := prog_21_method_53_code
def yX11_undo : MethodName := ⟨RX11, "undo", "()I"⟩
def dkwX11_undo_1 : List UInt8 := [46, 4, 100, 79, 42, 180, 0, 13, 16, 60, 46, 172]
abbrev dktX11_undo_1 : List UInt8 := dkwX11_undo_1 ++ []
def dkwX11_undo_0 : List UInt8 := [42, 3, 181, 0, 106, 42, 180, 0, 13, 16, 60, 46, 154, 0, 5, 2, 172, 42, 180, 0, 13, 16, 60, 92]
abbrev dktX11_undo_0 : List UInt8 := dkwX11_undo_0 ++ dktX11_undo_1
theorem dksX11_undo_0 : cX11_undo.data.toList.drop 0 = dktX11_undo_0 := by decide +kernel
theorem dksX11_undo_1 : cX11_undo.data.toList.drop 24 = dktX11_undo_1 := dk_seg dksX11_undo_0 24 rfl rfl
theorem dX11_undo_0 : decode cX11_undo 0 = .ok (.aload_n 0, 1) := dk_42 (dk_at dksX11_undo_0 0 rfl rfl)
theorem dX11_undo_1 : decode cX11_undo 1 = .ok (.iconst 0, 1) := dk_3 (dk_at dksX11_undo_0 1 rfl rfl)
theorem dX11_undo_2 : decode cX11_undo 2 = .ok (.putfield 106, 3) := dk_181 0 106 (dk_at dksX11_undo_0 2 rfl rfl)
theorem dX11_undo_5 : decode cX11_undo 5 = .ok (.aload_n 0, 1) := dk_42 (dk_at dksX11_undo_0 5 rfl rfl)
theorem dX11_undo_6 : decode cX11_undo 6 = .ok (.getfield 13, 3) := dk_180 0 13 (dk_at dksX11_undo_0 6 rfl rfl)
theorem dX11_undo_9 : decode cX11_undo 9 = .ok (.bipush 60, 2) := dk_16 60 (dk_at dksX11_undo_0 9 rfl rfl)
theorem dX11_undo_11 : decode cX11_undo 11 = .ok (.iaload, 1) := dk_46 (dk_at dksX11_undo_0 11 rfl rfl)
theorem dX11_undo_12 : decode cX11_undo 12 = .ok (.ifCond .ne 5, 3) := dk_154 0 5 (dk_at dksX11_undo_0 12 rfl rfl)
theorem dX11_undo_15 : decode cX11_undo 15 = .ok (.iconst (-1), 1) := dk_2 (dk_at dksX11_undo_0 15 rfl rfl)
theorem dX11_undo_16 : decode cX11_undo 16 = .ok (.ireturn, 1) := dk_172 (dk_at dksX11_undo_0 16 rfl rfl)
theorem dX11_undo_17 : decode cX11_undo 17 = .ok (.aload_n 0, 1) := dk_42 (dk_at dksX11_undo_0 17 rfl rfl)
theorem dX11_undo_18 : decode cX11_undo 18 = .ok (.getfield 13, 3) := dk_180 0 13 (dk_at dksX11_undo_0 18 rfl rfl)
theorem dX11_undo_21 : decode cX11_undo 21 = .ok (.bipush 60, 2) := dk_16 60 (dk_at dksX11_undo_0 21 rfl rfl)
theorem dX11_undo_23 : decode cX11_undo 23 = .ok (.dup2, 1) := dk_92 (dk_at dksX11_undo_0 23 rfl rfl)
theorem dX11_undo_24 : decode cX11_undo 24 = .ok (.iaload, 1) := dk_46 (dk_at dksX11_undo_1 0 rfl rfl)
theorem dX11_undo_25 : decode cX11_undo 25 = .ok (.iconst 1, 1) := dk_4 (dk_at dksX11_undo_1 1 rfl rfl)
theorem dX11_undo_26 : decode cX11_undo 26 = .ok (.isub, 1) := dk_100 (dk_at dksX11_undo_1 2 rfl rfl)
theorem dX11_undo_27 : decode cX11_undo 27 = .ok (.iastore, 1) := dk_79 (dk_at dksX11_undo_1 3 rfl rfl)
theorem dX11_undo_28 : decode cX11_undo 28 = .ok (.aload_n 0, 1) := dk_42 (dk_at dksX11_undo_1 4 rfl rfl)
theorem dX11_undo_29 : decode cX11_undo 29 = .ok (.getfield 13, 3) := dk_180 0 13 (dk_at dksX11_undo_1 5 rfl rfl)
theorem dX11_undo_32 : decode cX11_undo 32 = .ok (.bipush 60, 2) := dk_16 60 (dk_at dksX11_undo_1 8 rfl rfl)
theorem dX11_undo_34 : decode cX11_undo 34 = .ok (.iaload, 1) := dk_46 (dk_at dksX11_undo_1 10 rfl rfl)
theorem dX11_undo_35 : decode cX11_undo 35 = .ok (.ireturn, 1) := dk_172 (dk_at dksX11_undo_1 11 rfl rfl)
abbrev cX11_talk : ByteArray := prog_21_method_55_code
def yX11_talk : MethodName := ⟨RX11, "talk", "()I"⟩
def dkwX11_talk_4 : List UInt8 := [167, 255, 207, 42, 180, 0, 13, 16, 60, 42, 180, 0, 60, 3, 46, 79, 42, 180, 0, 60, 3, 46, 172]
abbrev dktX11_talk_4 : List UInt8 := dkwX11_talk_4 ++ []
def dkwX11_talk_3 : List UInt8 := [79, 42, 180, 0, 13, 16, 61, 5, 27, 104, 96, 4, 96, 42, 180, 0, 45, 27, 46, 79, 132, 1, 1]
abbrev dktX11_talk_3 : List UInt8 := dkwX11_talk_3 ++ dktX11_talk_4
def dkwX11_talk_2 : List UInt8 := [180, 0, 60, 3, 46, 162, 0, 45, 42, 180, 0, 13, 16, 61, 5, 27, 104, 96, 42, 180, 0, 42, 27, 46]
abbrev dktX11_talk_2 : List UInt8 := dkwX11_talk_2 ++ dktX11_talk_3
def dkwX11_talk_1 : List UInt8 := [180, 0, 128, 153, 0, 17, 42, 182, 1, 30, 154, 255, 245, 2, 42, 180, 0, 171, 100, 172, 3, 60, 27, 42]
abbrev dktX11_talk_1 : List UInt8 := dkwX11_talk_1 ++ dktX11_talk_2
def dkwX11_talk_0 : List UInt8 := [42, 17, 3, 132, 182, 0, 236, 42, 3, 181, 1, 27, 42, 3, 42, 180, 0, 13, 3, 182, 1, 6, 42]
abbrev dktX11_talk_0 : List UInt8 := dkwX11_talk_0 ++ dktX11_talk_1
theorem dksX11_talk_0 : cX11_talk.data.toList.drop 0 = dktX11_talk_0 := by decide +kernel
theorem dksX11_talk_1 : cX11_talk.data.toList.drop 23 = dktX11_talk_1 := dk_seg dksX11_talk_0 23 rfl rfl
theorem dksX11_talk_2 : cX11_talk.data.toList.drop 47 = dktX11_talk_2 := dk_seg dksX11_talk_1 24 rfl rfl
theorem dksX11_talk_3 : cX11_talk.data.toList.drop 71 = dktX11_talk_3 := dk_seg dksX11_talk_2 24 rfl rfl
theorem dksX11_talk_4 : cX11_talk.data.toList.drop 94 = dktX11_talk_4 := dk_seg dksX11_talk_3 23 rfl rfl
theorem dX11_talk_0 : decode cX11_talk 0 = .ok (.aload_n 0, 1) := dk_42 (dk_at dksX11_talk_0 0 rfl rfl)
theorem dX11_talk_1 : decode cX11_talk 1 = .ok (.sipush 900, 3) := dk_17 3 132 (dk_at dksX11_talk_0 1 rfl rfl)
theorem dX11_talk_4 : decode cX11_talk 4 = .ok (.invokevirtual 236, 3) := dk_182 0 236 (dk_at dksX11_talk_0 4 rfl rfl)
theorem dX11_talk_7 : decode cX11_talk 7 = .ok (.aload_n 0, 1) := dk_42 (dk_at dksX11_talk_0 7 rfl rfl)
theorem dX11_talk_8 : decode cX11_talk 8 = .ok (.iconst 0, 1) := dk_3 (dk_at dksX11_talk_0 8 rfl rfl)
theorem dX11_talk_9 : decode cX11_talk 9 = .ok (.putfield 283, 3) := dk_181 1 27 (dk_at dksX11_talk_0 9 rfl rfl)
theorem dX11_talk_12 : decode cX11_talk 12 = .ok (.aload_n 0, 1) := dk_42 (dk_at dksX11_talk_0 12 rfl rfl)
theorem dX11_talk_13 : decode cX11_talk 13 = .ok (.iconst 0, 1) := dk_3 (dk_at dksX11_talk_0 13 rfl rfl)
theorem dX11_talk_14 : decode cX11_talk 14 = .ok (.aload_n 0, 1) := dk_42 (dk_at dksX11_talk_0 14 rfl rfl)
theorem dX11_talk_15 : decode cX11_talk 15 = .ok (.getfield 13, 3) := dk_180 0 13 (dk_at dksX11_talk_0 15 rfl rfl)
theorem dX11_talk_18 : decode cX11_talk 18 = .ok (.iconst 0, 1) := dk_3 (dk_at dksX11_talk_0 18 rfl rfl)
theorem dX11_talk_19 : decode cX11_talk 19 = .ok (.invokevirtual 262, 3) := dk_182 1 6 (dk_at dksX11_talk_0 19 rfl rfl)
theorem dX11_talk_22 : decode cX11_talk 22 = .ok (.aload_n 0, 1) := dk_42 (dk_at dksX11_talk_0 22 rfl rfl)
theorem dX11_talk_23 : decode cX11_talk 23 = .ok (.getfield 128, 3) := dk_180 0 128 (dk_at dksX11_talk_1 0 rfl rfl)
theorem dX11_talk_26 : decode cX11_talk 26 = .ok (.ifCond .eq 17, 3) := dk_153 0 17 (dk_at dksX11_talk_1 3 rfl rfl)
theorem dX11_talk_29 : decode cX11_talk 29 = .ok (.aload_n 0, 1) := dk_42 (dk_at dksX11_talk_1 6 rfl rfl)
theorem dX11_talk_30 : decode cX11_talk 30 = .ok (.invokevirtual 286, 3) := dk_182 1 30 (dk_at dksX11_talk_1 7 rfl rfl)
theorem dX11_talk_33 : decode cX11_talk 33 = .ok (.ifCond .ne (-11), 3) := dk_154 255 245 (dk_at dksX11_talk_1 10 rfl rfl)
theorem dX11_talk_36 : decode cX11_talk 36 = .ok (.iconst (-1), 1) := dk_2 (dk_at dksX11_talk_1 13 rfl rfl)
theorem dX11_talk_37 : decode cX11_talk 37 = .ok (.aload_n 0, 1) := dk_42 (dk_at dksX11_talk_1 14 rfl rfl)
theorem dX11_talk_38 : decode cX11_talk 38 = .ok (.getfield 171, 3) := dk_180 0 171 (dk_at dksX11_talk_1 15 rfl rfl)
theorem dX11_talk_41 : decode cX11_talk 41 = .ok (.isub, 1) := dk_100 (dk_at dksX11_talk_1 18 rfl rfl)
theorem dX11_talk_42 : decode cX11_talk 42 = .ok (.ireturn, 1) := dk_172 (dk_at dksX11_talk_1 19 rfl rfl)
theorem dX11_talk_43 : decode cX11_talk 43 = .ok (.iconst 0, 1) := dk_3 (dk_at dksX11_talk_1 20 rfl rfl)
theorem dX11_talk_44 : decode cX11_talk 44 = .ok (.istore_n 1, 1) := dk_60 (dk_at dksX11_talk_1 21 rfl rfl)
theorem dX11_talk_45 : decode cX11_talk 45 = .ok (.iload_n 1, 1) := dk_27 (dk_at dksX11_talk_1 22 rfl rfl)
theorem dX11_talk_46 : decode cX11_talk 46 = .ok (.aload_n 0, 1) := dk_42 (dk_at dksX11_talk_1 23 rfl rfl)
theorem dX11_talk_47 : decode cX11_talk 47 = .ok (.getfield 60, 3) := dk_180 0 60 (dk_at dksX11_talk_2 0 rfl rfl)
theorem dX11_talk_50 : decode cX11_talk 50 = .ok (.iconst 0, 1) := dk_3 (dk_at dksX11_talk_2 3 rfl rfl)
theorem dX11_talk_51 : decode cX11_talk 51 = .ok (.iaload, 1) := dk_46 (dk_at dksX11_talk_2 4 rfl rfl)
theorem dX11_talk_52 : decode cX11_talk 52 = .ok (.if_icmp .ge 45, 3) := dk_162 0 45 (dk_at dksX11_talk_2 5 rfl rfl)
theorem dX11_talk_55 : decode cX11_talk 55 = .ok (.aload_n 0, 1) := dk_42 (dk_at dksX11_talk_2 8 rfl rfl)
theorem dX11_talk_56 : decode cX11_talk 56 = .ok (.getfield 13, 3) := dk_180 0 13 (dk_at dksX11_talk_2 9 rfl rfl)
theorem dX11_talk_59 : decode cX11_talk 59 = .ok (.bipush 61, 2) := dk_16 61 (dk_at dksX11_talk_2 12 rfl rfl)
theorem dX11_talk_61 : decode cX11_talk 61 = .ok (.iconst 2, 1) := dk_5 (dk_at dksX11_talk_2 14 rfl rfl)
theorem dX11_talk_62 : decode cX11_talk 62 = .ok (.iload_n 1, 1) := dk_27 (dk_at dksX11_talk_2 15 rfl rfl)
theorem dX11_talk_63 : decode cX11_talk 63 = .ok (.imul, 1) := dk_104 (dk_at dksX11_talk_2 16 rfl rfl)
theorem dX11_talk_64 : decode cX11_talk 64 = .ok (.iadd, 1) := dk_96 (dk_at dksX11_talk_2 17 rfl rfl)
theorem dX11_talk_65 : decode cX11_talk 65 = .ok (.aload_n 0, 1) := dk_42 (dk_at dksX11_talk_2 18 rfl rfl)
theorem dX11_talk_66 : decode cX11_talk 66 = .ok (.getfield 42, 3) := dk_180 0 42 (dk_at dksX11_talk_2 19 rfl rfl)
theorem dX11_talk_69 : decode cX11_talk 69 = .ok (.iload_n 1, 1) := dk_27 (dk_at dksX11_talk_2 22 rfl rfl)
theorem dX11_talk_70 : decode cX11_talk 70 = .ok (.iaload, 1) := dk_46 (dk_at dksX11_talk_2 23 rfl rfl)
theorem dX11_talk_71 : decode cX11_talk 71 = .ok (.iastore, 1) := dk_79 (dk_at dksX11_talk_3 0 rfl rfl)
theorem dX11_talk_72 : decode cX11_talk 72 = .ok (.aload_n 0, 1) := dk_42 (dk_at dksX11_talk_3 1 rfl rfl)
theorem dX11_talk_73 : decode cX11_talk 73 = .ok (.getfield 13, 3) := dk_180 0 13 (dk_at dksX11_talk_3 2 rfl rfl)
theorem dX11_talk_76 : decode cX11_talk 76 = .ok (.bipush 61, 2) := dk_16 61 (dk_at dksX11_talk_3 5 rfl rfl)
theorem dX11_talk_78 : decode cX11_talk 78 = .ok (.iconst 2, 1) := dk_5 (dk_at dksX11_talk_3 7 rfl rfl)
theorem dX11_talk_79 : decode cX11_talk 79 = .ok (.iload_n 1, 1) := dk_27 (dk_at dksX11_talk_3 8 rfl rfl)
theorem dX11_talk_80 : decode cX11_talk 80 = .ok (.imul, 1) := dk_104 (dk_at dksX11_talk_3 9 rfl rfl)
theorem dX11_talk_81 : decode cX11_talk 81 = .ok (.iadd, 1) := dk_96 (dk_at dksX11_talk_3 10 rfl rfl)
theorem dX11_talk_82 : decode cX11_talk 82 = .ok (.iconst 1, 1) := dk_4 (dk_at dksX11_talk_3 11 rfl rfl)
theorem dX11_talk_83 : decode cX11_talk 83 = .ok (.iadd, 1) := dk_96 (dk_at dksX11_talk_3 12 rfl rfl)
theorem dX11_talk_84 : decode cX11_talk 84 = .ok (.aload_n 0, 1) := dk_42 (dk_at dksX11_talk_3 13 rfl rfl)
theorem dX11_talk_85 : decode cX11_talk 85 = .ok (.getfield 45, 3) := dk_180 0 45 (dk_at dksX11_talk_3 14 rfl rfl)
theorem dX11_talk_88 : decode cX11_talk 88 = .ok (.iload_n 1, 1) := dk_27 (dk_at dksX11_talk_3 17 rfl rfl)
theorem dX11_talk_89 : decode cX11_talk 89 = .ok (.iaload, 1) := dk_46 (dk_at dksX11_talk_3 18 rfl rfl)
theorem dX11_talk_90 : decode cX11_talk 90 = .ok (.iastore, 1) := dk_79 (dk_at dksX11_talk_3 19 rfl rfl)
theorem dX11_talk_91 : decode cX11_talk 91 = .ok (.iinc 1 1, 3) := dk_132 1 1 (dk_at dksX11_talk_3 20 rfl rfl)
theorem dX11_talk_94 : decode cX11_talk 94 = .ok (.goto (-49), 3) := dk_167 255 207 (dk_at dksX11_talk_4 0 rfl rfl)
theorem dX11_talk_97 : decode cX11_talk 97 = .ok (.aload_n 0, 1) := dk_42 (dk_at dksX11_talk_4 3 rfl rfl)
theorem dX11_talk_98 : decode cX11_talk 98 = .ok (.getfield 13, 3) := dk_180 0 13 (dk_at dksX11_talk_4 4 rfl rfl)
theorem dX11_talk_101 : decode cX11_talk 101 = .ok (.bipush 60, 2) := dk_16 60 (dk_at dksX11_talk_4 7 rfl rfl)
theorem dX11_talk_103 : decode cX11_talk 103 = .ok (.aload_n 0, 1) := dk_42 (dk_at dksX11_talk_4 9 rfl rfl)
theorem dX11_talk_104 : decode cX11_talk 104 = .ok (.getfield 60, 3) := dk_180 0 60 (dk_at dksX11_talk_4 10 rfl rfl)
theorem dX11_talk_107 : decode cX11_talk 107 = .ok (.iconst 0, 1) := dk_3 (dk_at dksX11_talk_4 13 rfl rfl)
theorem dX11_talk_108 : decode cX11_talk 108 = .ok (.iaload, 1) := dk_46 (dk_at dksX11_talk_4 14 rfl rfl)
theorem dX11_talk_109 : decode cX11_talk 109 = .ok (.iastore, 1) := dk_79 (dk_at dksX11_talk_4 15 rfl rfl)
theorem dX11_talk_110 : decode cX11_talk 110 = .ok (.aload_n 0, 1) := dk_42 (dk_at dksX11_talk_4 16 rfl rfl)
theorem dX11_talk_111 : decode cX11_talk 111 = .ok (.getfield 60, 3) := dk_180 0 60 (dk_at dksX11_talk_4 17 rfl rfl)
theorem dX11_talk_114 : decode cX11_talk 114 = .ok (.iconst 0, 1) := dk_3 (dk_at dksX11_talk_4 20 rfl rfl)
theorem dX11_talk_115 : decode cX11_talk 115 = .ok (.iaload, 1) := dk_46 (dk_at dksX11_talk_4 21 rfl rfl)
theorem dX11_talk_116 : decode cX11_talk 116 = .ok (.ireturn, 1) := dk_172 (dk_at dksX11_talk_4 22 rfl rfl)
abbrev cX11_readWordSaid : ByteArray := prog_21_method_54_code
def yX11_readWordSaid : MethodName := ⟨RX11, "readWordSaid", "()Z"⟩
def dkwX11_readWordSaid_6 : List UInt8 := [172, 42, 3, 27, 29, 182, 1, 10, 42, 182, 0, 184, 42, 182, 0, 233, 172]
abbrev dktX11_readWordSaid_6 : List UInt8 := dkwX11_readWordSaid_6 ++ []
def dkwX11_readWordSaid_5 : List UInt8 := [54, 4, 21, 4, 153, 0, 21, 42, 21, 4, 181, 1, 27, 42, 8, 181, 0, 168, 42, 28, 181, 0, 171, 3]
abbrev dktX11_readWordSaid_5 : List UInt8 := dkwX11_readWordSaid_5 ++ dktX11_readWordSaid_6
def dkwX11_readWordSaid_4 : List UInt8 := [46, 182, 0, 198, 62, 29, 2, 160, 0, 9, 42, 6, 182, 0, 174, 172, 42, 3, 27, 29, 182, 1, 17]
abbrev dktX11_readWordSaid_4 : List UInt8 := dkwX11_readWordSaid_4 ++ dktX11_readWordSaid_5
def dkwX11_readWordSaid_3 : List UInt8 := [182, 0, 194, 154, 0, 9, 42, 4, 182, 0, 174, 172, 42, 42, 180, 0, 25, 16, 8, 42, 180, 0, 13, 4]
abbrev dktX11_readWordSaid_3 : List UInt8 := dkwX11_readWordSaid_3 ++ dktX11_readWordSaid_4
def dkwX11_readWordSaid_2 : List UInt8 := [17, 1, 144, 160, 0, 9, 42, 7, 182, 0, 174, 172, 42, 180, 0, 122, 61, 42, 182, 0, 184, 42]
abbrev dktX11_readWordSaid_2 : List UInt8 := dkwX11_readWordSaid_2 ++ dktX11_readWordSaid_3
def dkwX11_readWordSaid_1 : List UInt8 := [46, 182, 0, 198, 60, 27, 2, 160, 0, 9, 42, 6, 182, 0, 174, 172, 42, 180, 0, 60, 3, 46]
abbrev dktX11_readWordSaid_1 : List UInt8 := dkwX11_readWordSaid_1 ++ dktX11_readWordSaid_2
def dkwX11_readWordSaid_0 : List UInt8 := [42, 182, 0, 194, 154, 0, 9, 42, 4, 182, 0, 174, 172, 42, 42, 180, 0, 25, 3, 42, 180, 0, 13, 3]
abbrev dktX11_readWordSaid_0 : List UInt8 := dkwX11_readWordSaid_0 ++ dktX11_readWordSaid_1
theorem dksX11_readWordSaid_0 : cX11_readWordSaid.data.toList.drop 0 = dktX11_readWordSaid_0 := by decide +kernel
theorem dksX11_readWordSaid_1 : cX11_readWordSaid.data.toList.drop 24 = dktX11_readWordSaid_1 := dk_seg dksX11_readWordSaid_0 24 rfl rfl
theorem dksX11_readWordSaid_2 : cX11_readWordSaid.data.toList.drop 46 = dktX11_readWordSaid_2 := dk_seg dksX11_readWordSaid_1 22 rfl rfl
theorem dksX11_readWordSaid_3 : cX11_readWordSaid.data.toList.drop 68 = dktX11_readWordSaid_3 := dk_seg dksX11_readWordSaid_2 22 rfl rfl
theorem dksX11_readWordSaid_4 : cX11_readWordSaid.data.toList.drop 92 = dktX11_readWordSaid_4 := dk_seg dksX11_readWordSaid_3 24 rfl rfl
theorem dksX11_readWordSaid_5 : cX11_readWordSaid.data.toList.drop 115 = dktX11_readWordSaid_5 := dk_seg dksX11_readWordSaid_4 23 rfl rfl
theorem dksX11_readWordSaid_6 : cX11_readWordSaid.data.toList.drop 139 = dktX11_readWordSaid_6 := dk_seg dksX11_readWordSaid_5 24 rfl rfl
theorem dX11_readWordSaid_0 : decode cX11_readWordSaid 0 = .ok (.aload_n 0, 1) := dk_42 (dk_at dksX11_readWordSaid_0 0 rfl rfl)
theorem dX11_readWordSaid_1 : decode cX11_readWordSaid 1 = .ok (.invokevirtual 194, 3) := dk_182 0 194 (dk_at dksX11_readWordSaid_0 1 rfl rfl)
theorem dX11_readWordSaid_4 : decode cX11_readWordSaid 4 = .ok (.ifCond .ne 9, 3) := dk_154 0 9 (dk_at dksX11_readWordSaid_0 4 rfl rfl)
theorem dX11_readWordSaid_7 : decode cX11_readWordSaid 7 = .ok (.aload_n 0, 1) := dk_42 (dk_at dksX11_readWordSaid_0 7 rfl rfl)
theorem dX11_readWordSaid_8 : decode cX11_readWordSaid 8 = .ok (.iconst 1, 1) := dk_4 (dk_at dksX11_readWordSaid_0 8 rfl rfl)
theorem dX11_readWordSaid_9 : decode cX11_readWordSaid 9 = .ok (.invokevirtual 174, 3) := dk_182 0 174 (dk_at dksX11_readWordSaid_0 9 rfl rfl)
theorem dX11_readWordSaid_12 : decode cX11_readWordSaid 12 = .ok (.ireturn, 1) := dk_172 (dk_at dksX11_readWordSaid_0 12 rfl rfl)
theorem dX11_readWordSaid_13 : decode cX11_readWordSaid 13 = .ok (.aload_n 0, 1) := dk_42 (dk_at dksX11_readWordSaid_0 13 rfl rfl)
theorem dX11_readWordSaid_14 : decode cX11_readWordSaid 14 = .ok (.aload_n 0, 1) := dk_42 (dk_at dksX11_readWordSaid_0 14 rfl rfl)
theorem dX11_readWordSaid_15 : decode cX11_readWordSaid 15 = .ok (.getfield 25, 3) := dk_180 0 25 (dk_at dksX11_readWordSaid_0 15 rfl rfl)
theorem dX11_readWordSaid_18 : decode cX11_readWordSaid 18 = .ok (.iconst 0, 1) := dk_3 (dk_at dksX11_readWordSaid_0 18 rfl rfl)
theorem dX11_readWordSaid_19 : decode cX11_readWordSaid 19 = .ok (.aload_n 0, 1) := dk_42 (dk_at dksX11_readWordSaid_0 19 rfl rfl)
theorem dX11_readWordSaid_20 : decode cX11_readWordSaid 20 = .ok (.getfield 13, 3) := dk_180 0 13 (dk_at dksX11_readWordSaid_0 20 rfl rfl)
theorem dX11_readWordSaid_23 : decode cX11_readWordSaid 23 = .ok (.iconst 0, 1) := dk_3 (dk_at dksX11_readWordSaid_0 23 rfl rfl)
theorem dX11_readWordSaid_24 : decode cX11_readWordSaid 24 = .ok (.iaload, 1) := dk_46 (dk_at dksX11_readWordSaid_1 0 rfl rfl)
theorem dX11_readWordSaid_25 : decode cX11_readWordSaid 25 = .ok (.invokevirtual 198, 3) := dk_182 0 198 (dk_at dksX11_readWordSaid_1 1 rfl rfl)
theorem dX11_readWordSaid_28 : decode cX11_readWordSaid 28 = .ok (.istore_n 1, 1) := dk_60 (dk_at dksX11_readWordSaid_1 4 rfl rfl)
theorem dX11_readWordSaid_29 : decode cX11_readWordSaid 29 = .ok (.iload_n 1, 1) := dk_27 (dk_at dksX11_readWordSaid_1 5 rfl rfl)
theorem dX11_readWordSaid_30 : decode cX11_readWordSaid 30 = .ok (.iconst (-1), 1) := dk_2 (dk_at dksX11_readWordSaid_1 6 rfl rfl)
theorem dX11_readWordSaid_31 : decode cX11_readWordSaid 31 = .ok (.if_icmp .ne 9, 3) := dk_160 0 9 (dk_at dksX11_readWordSaid_1 7 rfl rfl)
theorem dX11_readWordSaid_34 : decode cX11_readWordSaid 34 = .ok (.aload_n 0, 1) := dk_42 (dk_at dksX11_readWordSaid_1 10 rfl rfl)
theorem dX11_readWordSaid_35 : decode cX11_readWordSaid 35 = .ok (.iconst 3, 1) := dk_6 (dk_at dksX11_readWordSaid_1 11 rfl rfl)
theorem dX11_readWordSaid_36 : decode cX11_readWordSaid 36 = .ok (.invokevirtual 174, 3) := dk_182 0 174 (dk_at dksX11_readWordSaid_1 12 rfl rfl)
theorem dX11_readWordSaid_39 : decode cX11_readWordSaid 39 = .ok (.ireturn, 1) := dk_172 (dk_at dksX11_readWordSaid_1 15 rfl rfl)
theorem dX11_readWordSaid_40 : decode cX11_readWordSaid 40 = .ok (.aload_n 0, 1) := dk_42 (dk_at dksX11_readWordSaid_1 16 rfl rfl)
theorem dX11_readWordSaid_41 : decode cX11_readWordSaid 41 = .ok (.getfield 60, 3) := dk_180 0 60 (dk_at dksX11_readWordSaid_1 17 rfl rfl)
theorem dX11_readWordSaid_44 : decode cX11_readWordSaid 44 = .ok (.iconst 0, 1) := dk_3 (dk_at dksX11_readWordSaid_1 20 rfl rfl)
theorem dX11_readWordSaid_45 : decode cX11_readWordSaid 45 = .ok (.iaload, 1) := dk_46 (dk_at dksX11_readWordSaid_1 21 rfl rfl)
theorem dX11_readWordSaid_46 : decode cX11_readWordSaid 46 = .ok (.sipush 400, 3) := dk_17 1 144 (dk_at dksX11_readWordSaid_2 0 rfl rfl)
theorem dX11_readWordSaid_49 : decode cX11_readWordSaid 49 = .ok (.if_icmp .ne 9, 3) := dk_160 0 9 (dk_at dksX11_readWordSaid_2 3 rfl rfl)
theorem dX11_readWordSaid_52 : decode cX11_readWordSaid 52 = .ok (.aload_n 0, 1) := dk_42 (dk_at dksX11_readWordSaid_2 6 rfl rfl)
theorem dX11_readWordSaid_53 : decode cX11_readWordSaid 53 = .ok (.iconst 4, 1) := dk_7 (dk_at dksX11_readWordSaid_2 7 rfl rfl)
theorem dX11_readWordSaid_54 : decode cX11_readWordSaid 54 = .ok (.invokevirtual 174, 3) := dk_182 0 174 (dk_at dksX11_readWordSaid_2 8 rfl rfl)
theorem dX11_readWordSaid_57 : decode cX11_readWordSaid 57 = .ok (.ireturn, 1) := dk_172 (dk_at dksX11_readWordSaid_2 11 rfl rfl)
theorem dX11_readWordSaid_58 : decode cX11_readWordSaid 58 = .ok (.aload_n 0, 1) := dk_42 (dk_at dksX11_readWordSaid_2 12 rfl rfl)
theorem dX11_readWordSaid_59 : decode cX11_readWordSaid 59 = .ok (.getfield 122, 3) := dk_180 0 122 (dk_at dksX11_readWordSaid_2 13 rfl rfl)
theorem dX11_readWordSaid_62 : decode cX11_readWordSaid 62 = .ok (.istore_n 2, 1) := dk_61 (dk_at dksX11_readWordSaid_2 16 rfl rfl)
theorem dX11_readWordSaid_63 : decode cX11_readWordSaid 63 = .ok (.aload_n 0, 1) := dk_42 (dk_at dksX11_readWordSaid_2 17 rfl rfl)
theorem dX11_readWordSaid_64 : decode cX11_readWordSaid 64 = .ok (.invokevirtual 184, 3) := dk_182 0 184 (dk_at dksX11_readWordSaid_2 18 rfl rfl)
theorem dX11_readWordSaid_67 : decode cX11_readWordSaid 67 = .ok (.aload_n 0, 1) := dk_42 (dk_at dksX11_readWordSaid_2 21 rfl rfl)
theorem dX11_readWordSaid_68 : decode cX11_readWordSaid 68 = .ok (.invokevirtual 194, 3) := dk_182 0 194 (dk_at dksX11_readWordSaid_3 0 rfl rfl)
theorem dX11_readWordSaid_71 : decode cX11_readWordSaid 71 = .ok (.ifCond .ne 9, 3) := dk_154 0 9 (dk_at dksX11_readWordSaid_3 3 rfl rfl)
theorem dX11_readWordSaid_74 : decode cX11_readWordSaid 74 = .ok (.aload_n 0, 1) := dk_42 (dk_at dksX11_readWordSaid_3 6 rfl rfl)
theorem dX11_readWordSaid_75 : decode cX11_readWordSaid 75 = .ok (.iconst 1, 1) := dk_4 (dk_at dksX11_readWordSaid_3 7 rfl rfl)
theorem dX11_readWordSaid_76 : decode cX11_readWordSaid 76 = .ok (.invokevirtual 174, 3) := dk_182 0 174 (dk_at dksX11_readWordSaid_3 8 rfl rfl)
theorem dX11_readWordSaid_79 : decode cX11_readWordSaid 79 = .ok (.ireturn, 1) := dk_172 (dk_at dksX11_readWordSaid_3 11 rfl rfl)
theorem dX11_readWordSaid_80 : decode cX11_readWordSaid 80 = .ok (.aload_n 0, 1) := dk_42 (dk_at dksX11_readWordSaid_3 12 rfl rfl)
theorem dX11_readWordSaid_81 : decode cX11_readWordSaid 81 = .ok (.aload_n 0, 1) := dk_42 (dk_at dksX11_readWordSaid_3 13 rfl rfl)
theorem dX11_readWordSaid_82 : decode cX11_readWordSaid 82 = .ok (.getfield 25, 3) := dk_180 0 25 (dk_at dksX11_readWordSaid_3 14 rfl rfl)
theorem dX11_readWordSaid_85 : decode cX11_readWordSaid 85 = .ok (.bipush 8, 2) := dk_16 8 (dk_at dksX11_readWordSaid_3 17 rfl rfl)
theorem dX11_readWordSaid_87 : decode cX11_readWordSaid 87 = .ok (.aload_n 0, 1) := dk_42 (dk_at dksX11_readWordSaid_3 19 rfl rfl)
theorem dX11_readWordSaid_88 : decode cX11_readWordSaid 88 = .ok (.getfield 13, 3) := dk_180 0 13 (dk_at dksX11_readWordSaid_3 20 rfl rfl)
theorem dX11_readWordSaid_91 : decode cX11_readWordSaid 91 = .ok (.iconst 1, 1) := dk_4 (dk_at dksX11_readWordSaid_3 23 rfl rfl)
theorem dX11_readWordSaid_92 : decode cX11_readWordSaid 92 = .ok (.iaload, 1) := dk_46 (dk_at dksX11_readWordSaid_4 0 rfl rfl)
theorem dX11_readWordSaid_93 : decode cX11_readWordSaid 93 = .ok (.invokevirtual 198, 3) := dk_182 0 198 (dk_at dksX11_readWordSaid_4 1 rfl rfl)
theorem dX11_readWordSaid_96 : decode cX11_readWordSaid 96 = .ok (.istore_n 3, 1) := dk_62 (dk_at dksX11_readWordSaid_4 4 rfl rfl)
theorem dX11_readWordSaid_97 : decode cX11_readWordSaid 97 = .ok (.iload_n 3, 1) := dk_29 (dk_at dksX11_readWordSaid_4 5 rfl rfl)
theorem dX11_readWordSaid_98 : decode cX11_readWordSaid 98 = .ok (.iconst (-1), 1) := dk_2 (dk_at dksX11_readWordSaid_4 6 rfl rfl)
theorem dX11_readWordSaid_99 : decode cX11_readWordSaid 99 = .ok (.if_icmp .ne 9, 3) := dk_160 0 9 (dk_at dksX11_readWordSaid_4 7 rfl rfl)
theorem dX11_readWordSaid_102 : decode cX11_readWordSaid 102 = .ok (.aload_n 0, 1) := dk_42 (dk_at dksX11_readWordSaid_4 10 rfl rfl)
theorem dX11_readWordSaid_103 : decode cX11_readWordSaid 103 = .ok (.iconst 3, 1) := dk_6 (dk_at dksX11_readWordSaid_4 11 rfl rfl)
theorem dX11_readWordSaid_104 : decode cX11_readWordSaid 104 = .ok (.invokevirtual 174, 3) := dk_182 0 174 (dk_at dksX11_readWordSaid_4 12 rfl rfl)
theorem dX11_readWordSaid_107 : decode cX11_readWordSaid 107 = .ok (.ireturn, 1) := dk_172 (dk_at dksX11_readWordSaid_4 15 rfl rfl)
theorem dX11_readWordSaid_108 : decode cX11_readWordSaid 108 = .ok (.aload_n 0, 1) := dk_42 (dk_at dksX11_readWordSaid_4 16 rfl rfl)
theorem dX11_readWordSaid_109 : decode cX11_readWordSaid 109 = .ok (.iconst 0, 1) := dk_3 (dk_at dksX11_readWordSaid_4 17 rfl rfl)
theorem dX11_readWordSaid_110 : decode cX11_readWordSaid 110 = .ok (.iload_n 1, 1) := dk_27 (dk_at dksX11_readWordSaid_4 18 rfl rfl)
theorem dX11_readWordSaid_111 : decode cX11_readWordSaid 111 = .ok (.iload_n 3, 1) := dk_29 (dk_at dksX11_readWordSaid_4 19 rfl rfl)
theorem dX11_readWordSaid_112 : decode cX11_readWordSaid 112 = .ok (.invokevirtual 273, 3) := dk_182 1 17 (dk_at dksX11_readWordSaid_4 20 rfl rfl)
theorem dX11_readWordSaid_115 : decode cX11_readWordSaid 115 = .ok (.istore 4, 2) := dk_54 4 (dk_at dksX11_readWordSaid_5 0 rfl rfl)
theorem dX11_readWordSaid_117 : decode cX11_readWordSaid 117 = .ok (.iload 4, 2) := dk_21 4 (dk_at dksX11_readWordSaid_5 2 rfl rfl)
theorem dX11_readWordSaid_119 : decode cX11_readWordSaid 119 = .ok (.ifCond .eq 21, 3) := dk_153 0 21 (dk_at dksX11_readWordSaid_5 4 rfl rfl)
theorem dX11_readWordSaid_122 : decode cX11_readWordSaid 122 = .ok (.aload_n 0, 1) := dk_42 (dk_at dksX11_readWordSaid_5 7 rfl rfl)
theorem dX11_readWordSaid_123 : decode cX11_readWordSaid 123 = .ok (.iload 4, 2) := dk_21 4 (dk_at dksX11_readWordSaid_5 8 rfl rfl)
theorem dX11_readWordSaid_125 : decode cX11_readWordSaid 125 = .ok (.putfield 283, 3) := dk_181 1 27 (dk_at dksX11_readWordSaid_5 10 rfl rfl)
theorem dX11_readWordSaid_128 : decode cX11_readWordSaid 128 = .ok (.aload_n 0, 1) := dk_42 (dk_at dksX11_readWordSaid_5 13 rfl rfl)
theorem dX11_readWordSaid_129 : decode cX11_readWordSaid 129 = .ok (.iconst 5, 1) := dk_8 (dk_at dksX11_readWordSaid_5 14 rfl rfl)
theorem dX11_readWordSaid_130 : decode cX11_readWordSaid 130 = .ok (.putfield 168, 3) := dk_181 0 168 (dk_at dksX11_readWordSaid_5 15 rfl rfl)
theorem dX11_readWordSaid_133 : decode cX11_readWordSaid 133 = .ok (.aload_n 0, 1) := dk_42 (dk_at dksX11_readWordSaid_5 18 rfl rfl)
theorem dX11_readWordSaid_134 : decode cX11_readWordSaid 134 = .ok (.iload_n 2, 1) := dk_28 (dk_at dksX11_readWordSaid_5 19 rfl rfl)
theorem dX11_readWordSaid_135 : decode cX11_readWordSaid 135 = .ok (.putfield 171, 3) := dk_181 0 171 (dk_at dksX11_readWordSaid_5 20 rfl rfl)
theorem dX11_readWordSaid_138 : decode cX11_readWordSaid 138 = .ok (.iconst 0, 1) := dk_3 (dk_at dksX11_readWordSaid_5 23 rfl rfl)
theorem dX11_readWordSaid_139 : decode cX11_readWordSaid 139 = .ok (.ireturn, 1) := dk_172 (dk_at dksX11_readWordSaid_6 0 rfl rfl)
theorem dX11_readWordSaid_140 : decode cX11_readWordSaid 140 = .ok (.aload_n 0, 1) := dk_42 (dk_at dksX11_readWordSaid_6 1 rfl rfl)
theorem dX11_readWordSaid_141 : decode cX11_readWordSaid 141 = .ok (.iconst 0, 1) := dk_3 (dk_at dksX11_readWordSaid_6 2 rfl rfl)
theorem dX11_readWordSaid_142 : decode cX11_readWordSaid 142 = .ok (.iload_n 1, 1) := dk_27 (dk_at dksX11_readWordSaid_6 3 rfl rfl)
theorem dX11_readWordSaid_143 : decode cX11_readWordSaid 143 = .ok (.iload_n 3, 1) := dk_29 (dk_at dksX11_readWordSaid_6 4 rfl rfl)
theorem dX11_readWordSaid_144 : decode cX11_readWordSaid 144 = .ok (.invokevirtual 266, 3) := dk_182 1 10 (dk_at dksX11_readWordSaid_6 5 rfl rfl)
theorem dX11_readWordSaid_147 : decode cX11_readWordSaid 147 = .ok (.aload_n 0, 1) := dk_42 (dk_at dksX11_readWordSaid_6 8 rfl rfl)
theorem dX11_readWordSaid_148 : decode cX11_readWordSaid 148 = .ok (.invokevirtual 184, 3) := dk_182 0 184 (dk_at dksX11_readWordSaid_6 9 rfl rfl)
theorem dX11_readWordSaid_151 : decode cX11_readWordSaid 151 = .ok (.aload_n 0, 1) := dk_42 (dk_at dksX11_readWordSaid_6 12 rfl rfl)
theorem dX11_readWordSaid_152 : decode cX11_readWordSaid 152 = .ok (.invokevirtual 233, 3) := dk_182 0 233 (dk_at dksX11_readWordSaid_6 13 rfl rfl)
theorem dX11_readWordSaid_155 : decode cX11_readWordSaid 155 = .ok (.ireturn, 1) := dk_172 (dk_at dksX11_readWordSaid_6 16 rfl rfl)
abbrev cX11_why : ByteArray := prog_21_method_56_code
def yX11_why : MethodName := ⟨RX11, "why", "()I"⟩
def dkwX11_why_0 : List UInt8 := [42, 3, 181, 0, 106, 42, 180, 1, 27, 172]
abbrev dktX11_why_0 : List UInt8 := dkwX11_why_0 ++ []
theorem dksX11_why_0 : cX11_why.data.toList.drop 0 = dktX11_why_0 := by decide +kernel
theorem dX11_why_0 : decode cX11_why 0 = .ok (.aload_n 0, 1) := dk_42 (dk_at dksX11_why_0 0 rfl rfl)
theorem dX11_why_1 : decode cX11_why 1 = .ok (.iconst 0, 1) := dk_3 (dk_at dksX11_why_0 1 rfl rfl)
theorem dX11_why_2 : decode cX11_why 2 = .ok (.putfield 106, 3) := dk_181 0 106 (dk_at dksX11_why_0 2 rfl rfl)
theorem dX11_why_5 : decode cX11_why 5 = .ok (.aload_n 0, 1) := dk_42 (dk_at dksX11_why_0 5 rfl rfl)
theorem dX11_why_6 : decode cX11_why 6 = .ok (.getfield 283, 3) := dk_180 1 27 (dk_at dksX11_why_0 6 rfl rfl)
theorem dX11_why_9 : decode cX11_why 9 = .ok (.ireturn, 1) := dk_172 (dk_at dksX11_why_0 9 rfl rfl)
abbrev cX11_word : ByteArray := prog_21_method_58_code
def yX11_word : MethodName := ⟨RX11, "word", "(II)I"⟩
def dkwX11_word_7 : List UInt8 := [172]
abbrev dktX11_word_7 : List UInt8 := dkwX11_word_7 ++ []
def dkwX11_word_6 : List UInt8 := [182, 1, 36, 153, 0, 20, 27, 42, 3, 42, 180, 0, 45, 27, 46, 5, 182, 0, 251, 96, 167, 0, 4, 2]
abbrev dktX11_word_6 : List UInt8 := dkwX11_word_6 ++ dktX11_word_7
def dkwX11_word_5 : List UInt8 := [182, 1, 36, 153, 0, 17, 42, 180, 0, 42, 42, 180, 0, 48, 27, 46, 46, 167, 0, 4, 2, 172, 42, 27]
abbrev dktX11_word_5 : List UInt8 := dkwX11_word_5 ++ dktX11_word_6
def dkwX11_word_4 : List UInt8 := [180, 0, 51, 27, 46, 172, 42, 180, 0, 54, 27, 46, 172, 42, 3, 27, 182, 1, 33, 172, 42, 27]
abbrev dktX11_word_4 : List UInt8 := dkwX11_word_4 ++ dktX11_word_5
def dkwX11_word_3 : List UInt8 := [42, 180, 0, 42, 27, 46, 172, 42, 180, 0, 45, 27, 46, 172, 42, 180, 0, 48, 27, 46, 172, 42]
abbrev dktX11_word_3 : List UInt8 := dkwX11_word_3 ++ dktX11_word_4
def dkwX11_word_2 : List UInt8 := [170, 0, 0, 0, 0, 0, 0, 110, 0, 0, 0, 0, 0, 0, 0, 6, 0, 0, 0, 44, 0, 0, 0, 51, 0, 0, 0, 58, 0, 0, 0, 65, 0, 0, 0, 72, 0, 0, 0, 79, 0, 0, 0, 86]
abbrev dktX11_word_2 : List UInt8 := dkwX11_word_2 ++ dktX11_word_3
def dkwX11_word_1 : List UInt8 := [154, 0, 8, 42, 182, 0, 248, 172, 42, 3, 181, 0, 106, 42, 182, 1, 14, 28]
abbrev dktX11_word_1 : List UInt8 := dkwX11_word_1 ++ dktX11_word_2
def dkwX11_word_0 : List UInt8 := [27, 155, 0, 24, 27, 42, 180, 0, 13, 16, 60, 46, 162, 0, 13, 28, 3, 16, 7, 184, 0, 177]
abbrev dktX11_word_0 : List UInt8 := dkwX11_word_0 ++ dktX11_word_1
theorem dksX11_word_0 : cX11_word.data.toList.drop 0 = dktX11_word_0 := by decide +kernel
theorem dksX11_word_1 : cX11_word.data.toList.drop 22 = dktX11_word_1 := dk_seg dksX11_word_0 22 rfl rfl
theorem dksX11_word_2 : cX11_word.data.toList.drop 40 = dktX11_word_2 := dk_seg dksX11_word_1 18 rfl rfl
theorem dksX11_word_3 : cX11_word.data.toList.drop 84 = dktX11_word_3 := dk_seg dksX11_word_2 44 rfl rfl
theorem dksX11_word_4 : cX11_word.data.toList.drop 106 = dktX11_word_4 := dk_seg dksX11_word_3 22 rfl rfl
theorem dksX11_word_5 : cX11_word.data.toList.drop 128 = dktX11_word_5 := dk_seg dksX11_word_4 22 rfl rfl
theorem dksX11_word_6 : cX11_word.data.toList.drop 152 = dktX11_word_6 := dk_seg dksX11_word_5 24 rfl rfl
theorem dksX11_word_7 : cX11_word.data.toList.drop 176 = dktX11_word_7 := dk_seg dksX11_word_6 24 rfl rfl
theorem dX11_word_0 : decode cX11_word 0 = .ok (.iload_n 1, 1) := dk_27 (dk_at dksX11_word_0 0 rfl rfl)
theorem dX11_word_1 : decode cX11_word 1 = .ok (.ifCond .lt 24, 3) := dk_155 0 24 (dk_at dksX11_word_0 1 rfl rfl)
theorem dX11_word_4 : decode cX11_word 4 = .ok (.iload_n 1, 1) := dk_27 (dk_at dksX11_word_0 4 rfl rfl)
theorem dX11_word_5 : decode cX11_word 5 = .ok (.aload_n 0, 1) := dk_42 (dk_at dksX11_word_0 5 rfl rfl)
theorem dX11_word_6 : decode cX11_word 6 = .ok (.getfield 13, 3) := dk_180 0 13 (dk_at dksX11_word_0 6 rfl rfl)
theorem dX11_word_9 : decode cX11_word 9 = .ok (.bipush 60, 2) := dk_16 60 (dk_at dksX11_word_0 9 rfl rfl)
theorem dX11_word_11 : decode cX11_word 11 = .ok (.iaload, 1) := dk_46 (dk_at dksX11_word_0 11 rfl rfl)
theorem dX11_word_12 : decode cX11_word 12 = .ok (.if_icmp .ge 13, 3) := dk_162 0 13 (dk_at dksX11_word_0 12 rfl rfl)
theorem dX11_word_15 : decode cX11_word 15 = .ok (.iload_n 2, 1) := dk_28 (dk_at dksX11_word_0 15 rfl rfl)
theorem dX11_word_16 : decode cX11_word 16 = .ok (.iconst 0, 1) := dk_3 (dk_at dksX11_word_0 16 rfl rfl)
theorem dX11_word_17 : decode cX11_word 17 = .ok (.bipush 7, 2) := dk_16 7 (dk_at dksX11_word_0 17 rfl rfl)
theorem dX11_word_19 : decode cX11_word 19 = .ok (.invokestatic 177, 3) := dk_184 0 177 (dk_at dksX11_word_0 19 rfl rfl)
theorem dX11_word_22 : decode cX11_word 22 = .ok (.ifCond .ne 8, 3) := dk_154 0 8 (dk_at dksX11_word_1 0 rfl rfl)
theorem dX11_word_25 : decode cX11_word 25 = .ok (.aload_n 0, 1) := dk_42 (dk_at dksX11_word_1 3 rfl rfl)
theorem dX11_word_26 : decode cX11_word 26 = .ok (.invokevirtual 248, 3) := dk_182 0 248 (dk_at dksX11_word_1 4 rfl rfl)
theorem dX11_word_29 : decode cX11_word 29 = .ok (.ireturn, 1) := dk_172 (dk_at dksX11_word_1 7 rfl rfl)
theorem dX11_word_30 : decode cX11_word 30 = .ok (.aload_n 0, 1) := dk_42 (dk_at dksX11_word_1 8 rfl rfl)
theorem dX11_word_31 : decode cX11_word 31 = .ok (.iconst 0, 1) := dk_3 (dk_at dksX11_word_1 9 rfl rfl)
theorem dX11_word_32 : decode cX11_word 32 = .ok (.putfield 106, 3) := dk_181 0 106 (dk_at dksX11_word_1 10 rfl rfl)
theorem dX11_word_35 : decode cX11_word 35 = .ok (.aload_n 0, 1) := dk_42 (dk_at dksX11_word_1 13 rfl rfl)
theorem dX11_word_36 : decode cX11_word 36 = .ok (.invokevirtual 270, 3) := dk_182 1 14 (dk_at dksX11_word_1 14 rfl rfl)
theorem dX11_word_39 : decode cX11_word 39 = .ok (.iload_n 2, 1) := dk_28 (dk_at dksX11_word_1 17 rfl rfl)
theorem dX11_word_40 : decode cX11_word 40 = .ok (.tableswitch 110 0 6 #[44, 51, 58, 65, 72, 79, 86], 44) := by decide +kernel
theorem dX11_word_84 : decode cX11_word 84 = .ok (.aload_n 0, 1) := dk_42 (dk_at dksX11_word_3 0 rfl rfl)
theorem dX11_word_85 : decode cX11_word 85 = .ok (.getfield 42, 3) := dk_180 0 42 (dk_at dksX11_word_3 1 rfl rfl)
theorem dX11_word_88 : decode cX11_word 88 = .ok (.iload_n 1, 1) := dk_27 (dk_at dksX11_word_3 4 rfl rfl)
theorem dX11_word_89 : decode cX11_word 89 = .ok (.iaload, 1) := dk_46 (dk_at dksX11_word_3 5 rfl rfl)
theorem dX11_word_90 : decode cX11_word 90 = .ok (.ireturn, 1) := dk_172 (dk_at dksX11_word_3 6 rfl rfl)
theorem dX11_word_91 : decode cX11_word 91 = .ok (.aload_n 0, 1) := dk_42 (dk_at dksX11_word_3 7 rfl rfl)
theorem dX11_word_92 : decode cX11_word 92 = .ok (.getfield 45, 3) := dk_180 0 45 (dk_at dksX11_word_3 8 rfl rfl)
theorem dX11_word_95 : decode cX11_word 95 = .ok (.iload_n 1, 1) := dk_27 (dk_at dksX11_word_3 11 rfl rfl)
theorem dX11_word_96 : decode cX11_word 96 = .ok (.iaload, 1) := dk_46 (dk_at dksX11_word_3 12 rfl rfl)
theorem dX11_word_97 : decode cX11_word 97 = .ok (.ireturn, 1) := dk_172 (dk_at dksX11_word_3 13 rfl rfl)
theorem dX11_word_98 : decode cX11_word 98 = .ok (.aload_n 0, 1) := dk_42 (dk_at dksX11_word_3 14 rfl rfl)
theorem dX11_word_99 : decode cX11_word 99 = .ok (.getfield 48, 3) := dk_180 0 48 (dk_at dksX11_word_3 15 rfl rfl)
theorem dX11_word_102 : decode cX11_word 102 = .ok (.iload_n 1, 1) := dk_27 (dk_at dksX11_word_3 18 rfl rfl)
theorem dX11_word_103 : decode cX11_word 103 = .ok (.iaload, 1) := dk_46 (dk_at dksX11_word_3 19 rfl rfl)
theorem dX11_word_104 : decode cX11_word 104 = .ok (.ireturn, 1) := dk_172 (dk_at dksX11_word_3 20 rfl rfl)
theorem dX11_word_105 : decode cX11_word 105 = .ok (.aload_n 0, 1) := dk_42 (dk_at dksX11_word_3 21 rfl rfl)
theorem dX11_word_106 : decode cX11_word 106 = .ok (.getfield 51, 3) := dk_180 0 51 (dk_at dksX11_word_4 0 rfl rfl)
theorem dX11_word_109 : decode cX11_word 109 = .ok (.iload_n 1, 1) := dk_27 (dk_at dksX11_word_4 3 rfl rfl)
theorem dX11_word_110 : decode cX11_word 110 = .ok (.iaload, 1) := dk_46 (dk_at dksX11_word_4 4 rfl rfl)
theorem dX11_word_111 : decode cX11_word 111 = .ok (.ireturn, 1) := dk_172 (dk_at dksX11_word_4 5 rfl rfl)
theorem dX11_word_112 : decode cX11_word 112 = .ok (.aload_n 0, 1) := dk_42 (dk_at dksX11_word_4 6 rfl rfl)
theorem dX11_word_113 : decode cX11_word 113 = .ok (.getfield 54, 3) := dk_180 0 54 (dk_at dksX11_word_4 7 rfl rfl)
theorem dX11_word_116 : decode cX11_word 116 = .ok (.iload_n 1, 1) := dk_27 (dk_at dksX11_word_4 10 rfl rfl)
theorem dX11_word_117 : decode cX11_word 117 = .ok (.iaload, 1) := dk_46 (dk_at dksX11_word_4 11 rfl rfl)
theorem dX11_word_118 : decode cX11_word 118 = .ok (.ireturn, 1) := dk_172 (dk_at dksX11_word_4 12 rfl rfl)
theorem dX11_word_119 : decode cX11_word 119 = .ok (.aload_n 0, 1) := dk_42 (dk_at dksX11_word_4 13 rfl rfl)
theorem dX11_word_120 : decode cX11_word 120 = .ok (.iconst 0, 1) := dk_3 (dk_at dksX11_word_4 14 rfl rfl)
theorem dX11_word_121 : decode cX11_word 121 = .ok (.iload_n 1, 1) := dk_27 (dk_at dksX11_word_4 15 rfl rfl)
theorem dX11_word_122 : decode cX11_word 122 = .ok (.invokevirtual 289, 3) := dk_182 1 33 (dk_at dksX11_word_4 16 rfl rfl)
theorem dX11_word_125 : decode cX11_word 125 = .ok (.ireturn, 1) := dk_172 (dk_at dksX11_word_4 19 rfl rfl)
theorem dX11_word_126 : decode cX11_word 126 = .ok (.aload_n 0, 1) := dk_42 (dk_at dksX11_word_4 20 rfl rfl)
theorem dX11_word_127 : decode cX11_word 127 = .ok (.iload_n 1, 1) := dk_27 (dk_at dksX11_word_4 21 rfl rfl)
theorem dX11_word_128 : decode cX11_word 128 = .ok (.invokevirtual 292, 3) := dk_182 1 36 (dk_at dksX11_word_5 0 rfl rfl)
theorem dX11_word_131 : decode cX11_word 131 = .ok (.ifCond .eq 17, 3) := dk_153 0 17 (dk_at dksX11_word_5 3 rfl rfl)
theorem dX11_word_134 : decode cX11_word 134 = .ok (.aload_n 0, 1) := dk_42 (dk_at dksX11_word_5 6 rfl rfl)
theorem dX11_word_135 : decode cX11_word 135 = .ok (.getfield 42, 3) := dk_180 0 42 (dk_at dksX11_word_5 7 rfl rfl)
theorem dX11_word_138 : decode cX11_word 138 = .ok (.aload_n 0, 1) := dk_42 (dk_at dksX11_word_5 10 rfl rfl)
theorem dX11_word_139 : decode cX11_word 139 = .ok (.getfield 48, 3) := dk_180 0 48 (dk_at dksX11_word_5 11 rfl rfl)
theorem dX11_word_142 : decode cX11_word 142 = .ok (.iload_n 1, 1) := dk_27 (dk_at dksX11_word_5 14 rfl rfl)
theorem dX11_word_143 : decode cX11_word 143 = .ok (.iaload, 1) := dk_46 (dk_at dksX11_word_5 15 rfl rfl)
theorem dX11_word_144 : decode cX11_word 144 = .ok (.iaload, 1) := dk_46 (dk_at dksX11_word_5 16 rfl rfl)
theorem dX11_word_145 : decode cX11_word 145 = .ok (.goto 4, 3) := dk_167 0 4 (dk_at dksX11_word_5 17 rfl rfl)
theorem dX11_word_148 : decode cX11_word 148 = .ok (.iconst (-1), 1) := dk_2 (dk_at dksX11_word_5 20 rfl rfl)
theorem dX11_word_149 : decode cX11_word 149 = .ok (.ireturn, 1) := dk_172 (dk_at dksX11_word_5 21 rfl rfl)
theorem dX11_word_150 : decode cX11_word 150 = .ok (.aload_n 0, 1) := dk_42 (dk_at dksX11_word_5 22 rfl rfl)
theorem dX11_word_151 : decode cX11_word 151 = .ok (.iload_n 1, 1) := dk_27 (dk_at dksX11_word_5 23 rfl rfl)
theorem dX11_word_152 : decode cX11_word 152 = .ok (.invokevirtual 292, 3) := dk_182 1 36 (dk_at dksX11_word_6 0 rfl rfl)
theorem dX11_word_155 : decode cX11_word 155 = .ok (.ifCond .eq 20, 3) := dk_153 0 20 (dk_at dksX11_word_6 3 rfl rfl)
theorem dX11_word_158 : decode cX11_word 158 = .ok (.iload_n 1, 1) := dk_27 (dk_at dksX11_word_6 6 rfl rfl)
theorem dX11_word_159 : decode cX11_word 159 = .ok (.aload_n 0, 1) := dk_42 (dk_at dksX11_word_6 7 rfl rfl)
theorem dX11_word_160 : decode cX11_word 160 = .ok (.iconst 0, 1) := dk_3 (dk_at dksX11_word_6 8 rfl rfl)
theorem dX11_word_161 : decode cX11_word 161 = .ok (.aload_n 0, 1) := dk_42 (dk_at dksX11_word_6 9 rfl rfl)
theorem dX11_word_162 : decode cX11_word 162 = .ok (.getfield 45, 3) := dk_180 0 45 (dk_at dksX11_word_6 10 rfl rfl)
theorem dX11_word_165 : decode cX11_word 165 = .ok (.iload_n 1, 1) := dk_27 (dk_at dksX11_word_6 13 rfl rfl)
theorem dX11_word_166 : decode cX11_word 166 = .ok (.iaload, 1) := dk_46 (dk_at dksX11_word_6 14 rfl rfl)
theorem dX11_word_167 : decode cX11_word 167 = .ok (.iconst 2, 1) := dk_5 (dk_at dksX11_word_6 15 rfl rfl)
theorem dX11_word_168 : decode cX11_word 168 = .ok (.invokevirtual 251, 3) := dk_182 0 251 (dk_at dksX11_word_6 16 rfl rfl)
theorem dX11_word_171 : decode cX11_word 171 = .ok (.iadd, 1) := dk_96 (dk_at dksX11_word_6 19 rfl rfl)
theorem dX11_word_172 : decode cX11_word 172 = .ok (.goto 4, 3) := dk_167 0 4 (dk_at dksX11_word_6 20 rfl rfl)
theorem dX11_word_175 : decode cX11_word 175 = .ok (.iconst (-1), 1) := dk_2 (dk_at dksX11_word_6 23 rfl rfl)
theorem dX11_word_176 : decode cX11_word 176 = .ok (.ireturn, 1) := dk_172 (dk_at dksX11_word_7 0 rfl rfl)
abbrev cX11_stateOf : ByteArray := prog_21_method_46_code
def yX11_stateOf : MethodName := ⟨RX11, "stateOf", "(II)I"⟩
def dkwX11_stateOf_2 : List UInt8 := [164, 0, 8, 16, 8, 167, 0, 4, 29, 172]
abbrev dktX11_stateOf_2 : List UInt8 := dkwX11_stateOf_2 ++ []
def dkwX11_stateOf_1 : List UInt8 := [4, 100, 28, 42, 27, 42, 180, 0, 45, 17, 1, 144, 27, 104, 28, 96, 46, 5, 182, 0, 251, 96]
abbrev dktX11_stateOf_1 : List UInt8 := dkwX11_stateOf_1 ++ dktX11_stateOf_2
def dkwX11_stateOf_0 : List UInt8 := [42, 180, 0, 57, 17, 1, 144, 27, 104, 28, 96, 46, 62, 29, 7, 160, 0, 39, 42, 180, 0, 60, 27, 46]
abbrev dktX11_stateOf_0 : List UInt8 := dkwX11_stateOf_0 ++ dktX11_stateOf_1
theorem dksX11_stateOf_0 : cX11_stateOf.data.toList.drop 0 = dktX11_stateOf_0 := by decide +kernel
theorem dksX11_stateOf_1 : cX11_stateOf.data.toList.drop 24 = dktX11_stateOf_1 := dk_seg dksX11_stateOf_0 24 rfl rfl
theorem dksX11_stateOf_2 : cX11_stateOf.data.toList.drop 46 = dktX11_stateOf_2 := dk_seg dksX11_stateOf_1 22 rfl rfl
theorem dX11_stateOf_0 : decode cX11_stateOf 0 = .ok (.aload_n 0, 1) := dk_42 (dk_at dksX11_stateOf_0 0 rfl rfl)
theorem dX11_stateOf_1 : decode cX11_stateOf 1 = .ok (.getfield 57, 3) := dk_180 0 57 (dk_at dksX11_stateOf_0 1 rfl rfl)
theorem dX11_stateOf_4 : decode cX11_stateOf 4 = .ok (.sipush 400, 3) := dk_17 1 144 (dk_at dksX11_stateOf_0 4 rfl rfl)
theorem dX11_stateOf_7 : decode cX11_stateOf 7 = .ok (.iload_n 1, 1) := dk_27 (dk_at dksX11_stateOf_0 7 rfl rfl)
theorem dX11_stateOf_8 : decode cX11_stateOf 8 = .ok (.imul, 1) := dk_104 (dk_at dksX11_stateOf_0 8 rfl rfl)
theorem dX11_stateOf_9 : decode cX11_stateOf 9 = .ok (.iload_n 2, 1) := dk_28 (dk_at dksX11_stateOf_0 9 rfl rfl)
theorem dX11_stateOf_10 : decode cX11_stateOf 10 = .ok (.iadd, 1) := dk_96 (dk_at dksX11_stateOf_0 10 rfl rfl)
theorem dX11_stateOf_11 : decode cX11_stateOf 11 = .ok (.iaload, 1) := dk_46 (dk_at dksX11_stateOf_0 11 rfl rfl)
theorem dX11_stateOf_12 : decode cX11_stateOf 12 = .ok (.istore_n 3, 1) := dk_62 (dk_at dksX11_stateOf_0 12 rfl rfl)
theorem dX11_stateOf_13 : decode cX11_stateOf 13 = .ok (.iload_n 3, 1) := dk_29 (dk_at dksX11_stateOf_0 13 rfl rfl)
theorem dX11_stateOf_14 : decode cX11_stateOf 14 = .ok (.iconst 4, 1) := dk_7 (dk_at dksX11_stateOf_0 14 rfl rfl)
theorem dX11_stateOf_15 : decode cX11_stateOf 15 = .ok (.if_icmp .ne 39, 3) := dk_160 0 39 (dk_at dksX11_stateOf_0 15 rfl rfl)
theorem dX11_stateOf_18 : decode cX11_stateOf 18 = .ok (.aload_n 0, 1) := dk_42 (dk_at dksX11_stateOf_0 18 rfl rfl)
theorem dX11_stateOf_19 : decode cX11_stateOf 19 = .ok (.getfield 60, 3) := dk_180 0 60 (dk_at dksX11_stateOf_0 19 rfl rfl)
theorem dX11_stateOf_22 : decode cX11_stateOf 22 = .ok (.iload_n 1, 1) := dk_27 (dk_at dksX11_stateOf_0 22 rfl rfl)
theorem dX11_stateOf_23 : decode cX11_stateOf 23 = .ok (.iaload, 1) := dk_46 (dk_at dksX11_stateOf_0 23 rfl rfl)
theorem dX11_stateOf_24 : decode cX11_stateOf 24 = .ok (.iconst 1, 1) := dk_4 (dk_at dksX11_stateOf_1 0 rfl rfl)
theorem dX11_stateOf_25 : decode cX11_stateOf 25 = .ok (.isub, 1) := dk_100 (dk_at dksX11_stateOf_1 1 rfl rfl)
theorem dX11_stateOf_26 : decode cX11_stateOf 26 = .ok (.iload_n 2, 1) := dk_28 (dk_at dksX11_stateOf_1 2 rfl rfl)
theorem dX11_stateOf_27 : decode cX11_stateOf 27 = .ok (.aload_n 0, 1) := dk_42 (dk_at dksX11_stateOf_1 3 rfl rfl)
theorem dX11_stateOf_28 : decode cX11_stateOf 28 = .ok (.iload_n 1, 1) := dk_27 (dk_at dksX11_stateOf_1 4 rfl rfl)
theorem dX11_stateOf_29 : decode cX11_stateOf 29 = .ok (.aload_n 0, 1) := dk_42 (dk_at dksX11_stateOf_1 5 rfl rfl)
theorem dX11_stateOf_30 : decode cX11_stateOf 30 = .ok (.getfield 45, 3) := dk_180 0 45 (dk_at dksX11_stateOf_1 6 rfl rfl)
theorem dX11_stateOf_33 : decode cX11_stateOf 33 = .ok (.sipush 400, 3) := dk_17 1 144 (dk_at dksX11_stateOf_1 9 rfl rfl)
theorem dX11_stateOf_36 : decode cX11_stateOf 36 = .ok (.iload_n 1, 1) := dk_27 (dk_at dksX11_stateOf_1 12 rfl rfl)
theorem dX11_stateOf_37 : decode cX11_stateOf 37 = .ok (.imul, 1) := dk_104 (dk_at dksX11_stateOf_1 13 rfl rfl)
theorem dX11_stateOf_38 : decode cX11_stateOf 38 = .ok (.iload_n 2, 1) := dk_28 (dk_at dksX11_stateOf_1 14 rfl rfl)
theorem dX11_stateOf_39 : decode cX11_stateOf 39 = .ok (.iadd, 1) := dk_96 (dk_at dksX11_stateOf_1 15 rfl rfl)
theorem dX11_stateOf_40 : decode cX11_stateOf 40 = .ok (.iaload, 1) := dk_46 (dk_at dksX11_stateOf_1 16 rfl rfl)
theorem dX11_stateOf_41 : decode cX11_stateOf 41 = .ok (.iconst 2, 1) := dk_5 (dk_at dksX11_stateOf_1 17 rfl rfl)
theorem dX11_stateOf_42 : decode cX11_stateOf 42 = .ok (.invokevirtual 251, 3) := dk_182 0 251 (dk_at dksX11_stateOf_1 18 rfl rfl)
theorem dX11_stateOf_45 : decode cX11_stateOf 45 = .ok (.iadd, 1) := dk_96 (dk_at dksX11_stateOf_1 21 rfl rfl)
theorem dX11_stateOf_46 : decode cX11_stateOf 46 = .ok (.if_icmp .le 8, 3) := dk_164 0 8 (dk_at dksX11_stateOf_2 0 rfl rfl)
theorem dX11_stateOf_49 : decode cX11_stateOf 49 = .ok (.bipush 8, 2) := dk_16 8 (dk_at dksX11_stateOf_2 3 rfl rfl)
theorem dX11_stateOf_51 : decode cX11_stateOf 51 = .ok (.goto 4, 3) := dk_167 0 4 (dk_at dksX11_stateOf_2 5 rfl rfl)
theorem dX11_stateOf_54 : decode cX11_stateOf 54 = .ok (.iload_n 3, 1) := dk_29 (dk_at dksX11_stateOf_2 8 rfl rfl)
theorem dX11_stateOf_55 : decode cX11_stateOf 55 = .ok (.ireturn, 1) := dk_172 (dk_at dksX11_stateOf_2 9 rfl rfl)
abbrev cX11_isPromise : ByteArray := prog_21_method_57_code
def yX11_isPromise : MethodName := ⟨RX11, "isPromise", "(I)Z"⟩
def dkwX11_isPromise_0 : List UInt8 := [42, 3, 42, 180, 0, 45, 27, 46, 4, 182, 0, 251, 5, 160, 0, 7, 4, 167, 0, 4, 3, 172]
abbrev dktX11_isPromise_0 : List UInt8 := dkwX11_isPromise_0 ++ []
theorem dksX11_isPromise_0 : cX11_isPromise.data.toList.drop 0 = dktX11_isPromise_0 := by decide +kernel
theorem dX11_isPromise_0 : decode cX11_isPromise 0 = .ok (.aload_n 0, 1) := dk_42 (dk_at dksX11_isPromise_0 0 rfl rfl)
theorem dX11_isPromise_1 : decode cX11_isPromise 1 = .ok (.iconst 0, 1) := dk_3 (dk_at dksX11_isPromise_0 1 rfl rfl)
theorem dX11_isPromise_2 : decode cX11_isPromise 2 = .ok (.aload_n 0, 1) := dk_42 (dk_at dksX11_isPromise_0 2 rfl rfl)
theorem dX11_isPromise_3 : decode cX11_isPromise 3 = .ok (.getfield 45, 3) := dk_180 0 45 (dk_at dksX11_isPromise_0 3 rfl rfl)
theorem dX11_isPromise_6 : decode cX11_isPromise 6 = .ok (.iload_n 1, 1) := dk_27 (dk_at dksX11_isPromise_0 6 rfl rfl)
theorem dX11_isPromise_7 : decode cX11_isPromise 7 = .ok (.iaload, 1) := dk_46 (dk_at dksX11_isPromise_0 7 rfl rfl)
theorem dX11_isPromise_8 : decode cX11_isPromise 8 = .ok (.iconst 1, 1) := dk_4 (dk_at dksX11_isPromise_0 8 rfl rfl)
theorem dX11_isPromise_9 : decode cX11_isPromise 9 = .ok (.invokevirtual 251, 3) := dk_182 0 251 (dk_at dksX11_isPromise_0 9 rfl rfl)
theorem dX11_isPromise_12 : decode cX11_isPromise 12 = .ok (.iconst 2, 1) := dk_5 (dk_at dksX11_isPromise_0 12 rfl rfl)
theorem dX11_isPromise_13 : decode cX11_isPromise 13 = .ok (.if_icmp .ne 7, 3) := dk_160 0 7 (dk_at dksX11_isPromise_0 13 rfl rfl)
theorem dX11_isPromise_16 : decode cX11_isPromise 16 = .ok (.iconst 1, 1) := dk_4 (dk_at dksX11_isPromise_0 16 rfl rfl)
theorem dX11_isPromise_17 : decode cX11_isPromise 17 = .ok (.goto 4, 3) := dk_167 0 4 (dk_at dksX11_isPromise_0 17 rfl rfl)
theorem dX11_isPromise_20 : decode cX11_isPromise 20 = .ok (.iconst 0, 1) := dk_3 (dk_at dksX11_isPromise_0 20 rfl rfl)
theorem dX11_isPromise_21 : decode cX11_isPromise 21 = .ok (.ireturn, 1) := dk_172 (dk_at dksX11_isPromise_0 21 rfl rfl)
abbrev cX11_threads : ByteArray := prog_21_method_59_code
def yX11_threads : MethodName := ⟨RX11, "threads", "()I"⟩
def dkwX11_threads_0 : List UInt8 := [42, 3, 181, 0, 106, 42, 182, 1, 14, 42, 180, 0, 63, 3, 46, 172]
abbrev dktX11_threads_0 : List UInt8 := dkwX11_threads_0 ++ []
theorem dksX11_threads_0 : cX11_threads.data.toList.drop 0 = dktX11_threads_0 := by decide +kernel
theorem dX11_threads_0 : decode cX11_threads 0 = .ok (.aload_n 0, 1) := dk_42 (dk_at dksX11_threads_0 0 rfl rfl)
theorem dX11_threads_1 : decode cX11_threads 1 = .ok (.iconst 0, 1) := dk_3 (dk_at dksX11_threads_0 1 rfl rfl)
theorem dX11_threads_2 : decode cX11_threads 2 = .ok (.putfield 106, 3) := dk_181 0 106 (dk_at dksX11_threads_0 2 rfl rfl)
theorem dX11_threads_5 : decode cX11_threads 5 = .ok (.aload_n 0, 1) := dk_42 (dk_at dksX11_threads_0 5 rfl rfl)
theorem dX11_threads_6 : decode cX11_threads 6 = .ok (.invokevirtual 270, 3) := dk_182 1 14 (dk_at dksX11_threads_0 6 rfl rfl)
theorem dX11_threads_9 : decode cX11_threads 9 = .ok (.aload_n 0, 1) := dk_42 (dk_at dksX11_threads_0 9 rfl rfl)
theorem dX11_threads_10 : decode cX11_threads 10 = .ok (.getfield 63, 3) := dk_180 0 63 (dk_at dksX11_threads_0 10 rfl rfl)
theorem dX11_threads_13 : decode cX11_threads 13 = .ok (.iconst 0, 1) := dk_3 (dk_at dksX11_threads_0 13 rfl rfl)
theorem dX11_threads_14 : decode cX11_threads 14 = .ok (.iaload, 1) := dk_46 (dk_at dksX11_threads_0 14 rfl rfl)
theorem dX11_threads_15 : decode cX11_threads 15 = .ok (.ireturn, 1) := dk_172 (dk_at dksX11_threads_0 15 rfl rfl)
abbrev cX11_thread : ByteArray := prog_21_method_60_code
def yX11_thread : MethodName := ⟨RX11, "thread", "(II)I"⟩
def dkwX11_thread_3 : List UInt8 := [28, 2, 160, 0, 7, 29, 167, 0, 4, 2, 172]
abbrev dktX11_thread_3 : List UInt8 := dkwX11_thread_3 ++ []
def dkwX11_thread_2 : List UInt8 := [27, 159, 0, 6, 167, 0, 14, 29, 28, 160, 0, 6, 21, 4, 172, 132, 3, 1, 132, 4, 1, 167, 255, 217]
abbrev dktX11_thread_2 : List UInt8 := dkwX11_thread_2 ++ dktX11_thread_3
def dkwX11_thread_1 : List UInt8 := [172, 3, 62, 3, 54, 4, 21, 4, 42, 180, 0, 60, 3, 46, 162, 0, 34, 42, 180, 0, 51, 21, 4, 46]
abbrev dktX11_thread_1 : List UInt8 := dkwX11_thread_1 ++ dktX11_thread_2
def dkwX11_thread_0 : List UInt8 := [42, 3, 181, 0, 106, 42, 182, 1, 14, 27, 155, 0, 13, 27, 42, 180, 0, 63, 3, 46, 161, 0, 5, 2]
abbrev dktX11_thread_0 : List UInt8 := dkwX11_thread_0 ++ dktX11_thread_1
theorem dksX11_thread_0 : cX11_thread.data.toList.drop 0 = dktX11_thread_0 := by decide +kernel
theorem dksX11_thread_1 : cX11_thread.data.toList.drop 24 = dktX11_thread_1 := dk_seg dksX11_thread_0 24 rfl rfl
theorem dksX11_thread_2 : cX11_thread.data.toList.drop 48 = dktX11_thread_2 := dk_seg dksX11_thread_1 24 rfl rfl
theorem dksX11_thread_3 : cX11_thread.data.toList.drop 72 = dktX11_thread_3 := dk_seg dksX11_thread_2 24 rfl rfl
theorem dX11_thread_0 : decode cX11_thread 0 = .ok (.aload_n 0, 1) := dk_42 (dk_at dksX11_thread_0 0 rfl rfl)
theorem dX11_thread_1 : decode cX11_thread 1 = .ok (.iconst 0, 1) := dk_3 (dk_at dksX11_thread_0 1 rfl rfl)
theorem dX11_thread_2 : decode cX11_thread 2 = .ok (.putfield 106, 3) := dk_181 0 106 (dk_at dksX11_thread_0 2 rfl rfl)
theorem dX11_thread_5 : decode cX11_thread 5 = .ok (.aload_n 0, 1) := dk_42 (dk_at dksX11_thread_0 5 rfl rfl)
theorem dX11_thread_6 : decode cX11_thread 6 = .ok (.invokevirtual 270, 3) := dk_182 1 14 (dk_at dksX11_thread_0 6 rfl rfl)
theorem dX11_thread_9 : decode cX11_thread 9 = .ok (.iload_n 1, 1) := dk_27 (dk_at dksX11_thread_0 9 rfl rfl)
theorem dX11_thread_10 : decode cX11_thread 10 = .ok (.ifCond .lt 13, 3) := dk_155 0 13 (dk_at dksX11_thread_0 10 rfl rfl)
theorem dX11_thread_13 : decode cX11_thread 13 = .ok (.iload_n 1, 1) := dk_27 (dk_at dksX11_thread_0 13 rfl rfl)
theorem dX11_thread_14 : decode cX11_thread 14 = .ok (.aload_n 0, 1) := dk_42 (dk_at dksX11_thread_0 14 rfl rfl)
theorem dX11_thread_15 : decode cX11_thread 15 = .ok (.getfield 63, 3) := dk_180 0 63 (dk_at dksX11_thread_0 15 rfl rfl)
theorem dX11_thread_18 : decode cX11_thread 18 = .ok (.iconst 0, 1) := dk_3 (dk_at dksX11_thread_0 18 rfl rfl)
theorem dX11_thread_19 : decode cX11_thread 19 = .ok (.iaload, 1) := dk_46 (dk_at dksX11_thread_0 19 rfl rfl)
theorem dX11_thread_20 : decode cX11_thread 20 = .ok (.if_icmp .lt 5, 3) := dk_161 0 5 (dk_at dksX11_thread_0 20 rfl rfl)
theorem dX11_thread_23 : decode cX11_thread 23 = .ok (.iconst (-1), 1) := dk_2 (dk_at dksX11_thread_0 23 rfl rfl)
theorem dX11_thread_24 : decode cX11_thread 24 = .ok (.ireturn, 1) := dk_172 (dk_at dksX11_thread_1 0 rfl rfl)
theorem dX11_thread_25 : decode cX11_thread 25 = .ok (.iconst 0, 1) := dk_3 (dk_at dksX11_thread_1 1 rfl rfl)
theorem dX11_thread_26 : decode cX11_thread 26 = .ok (.istore_n 3, 1) := dk_62 (dk_at dksX11_thread_1 2 rfl rfl)
theorem dX11_thread_27 : decode cX11_thread 27 = .ok (.iconst 0, 1) := dk_3 (dk_at dksX11_thread_1 3 rfl rfl)
theorem dX11_thread_28 : decode cX11_thread 28 = .ok (.istore 4, 2) := dk_54 4 (dk_at dksX11_thread_1 4 rfl rfl)
theorem dX11_thread_30 : decode cX11_thread 30 = .ok (.iload 4, 2) := dk_21 4 (dk_at dksX11_thread_1 6 rfl rfl)
theorem dX11_thread_32 : decode cX11_thread 32 = .ok (.aload_n 0, 1) := dk_42 (dk_at dksX11_thread_1 8 rfl rfl)
theorem dX11_thread_33 : decode cX11_thread 33 = .ok (.getfield 60, 3) := dk_180 0 60 (dk_at dksX11_thread_1 9 rfl rfl)
theorem dX11_thread_36 : decode cX11_thread 36 = .ok (.iconst 0, 1) := dk_3 (dk_at dksX11_thread_1 12 rfl rfl)
theorem dX11_thread_37 : decode cX11_thread 37 = .ok (.iaload, 1) := dk_46 (dk_at dksX11_thread_1 13 rfl rfl)
theorem dX11_thread_38 : decode cX11_thread 38 = .ok (.if_icmp .ge 34, 3) := dk_162 0 34 (dk_at dksX11_thread_1 14 rfl rfl)
theorem dX11_thread_41 : decode cX11_thread 41 = .ok (.aload_n 0, 1) := dk_42 (dk_at dksX11_thread_1 17 rfl rfl)
theorem dX11_thread_42 : decode cX11_thread 42 = .ok (.getfield 51, 3) := dk_180 0 51 (dk_at dksX11_thread_1 18 rfl rfl)
theorem dX11_thread_45 : decode cX11_thread 45 = .ok (.iload 4, 2) := dk_21 4 (dk_at dksX11_thread_1 21 rfl rfl)
theorem dX11_thread_47 : decode cX11_thread 47 = .ok (.iaload, 1) := dk_46 (dk_at dksX11_thread_1 23 rfl rfl)
theorem dX11_thread_48 : decode cX11_thread 48 = .ok (.iload_n 1, 1) := dk_27 (dk_at dksX11_thread_2 0 rfl rfl)
theorem dX11_thread_49 : decode cX11_thread 49 = .ok (.if_icmp .eq 6, 3) := dk_159 0 6 (dk_at dksX11_thread_2 1 rfl rfl)
theorem dX11_thread_52 : decode cX11_thread 52 = .ok (.goto 14, 3) := dk_167 0 14 (dk_at dksX11_thread_2 4 rfl rfl)
theorem dX11_thread_55 : decode cX11_thread 55 = .ok (.iload_n 3, 1) := dk_29 (dk_at dksX11_thread_2 7 rfl rfl)
theorem dX11_thread_56 : decode cX11_thread 56 = .ok (.iload_n 2, 1) := dk_28 (dk_at dksX11_thread_2 8 rfl rfl)
theorem dX11_thread_57 : decode cX11_thread 57 = .ok (.if_icmp .ne 6, 3) := dk_160 0 6 (dk_at dksX11_thread_2 9 rfl rfl)
theorem dX11_thread_60 : decode cX11_thread 60 = .ok (.iload 4, 2) := dk_21 4 (dk_at dksX11_thread_2 12 rfl rfl)
theorem dX11_thread_62 : decode cX11_thread 62 = .ok (.ireturn, 1) := dk_172 (dk_at dksX11_thread_2 14 rfl rfl)
theorem dX11_thread_63 : decode cX11_thread 63 = .ok (.iinc 3 1, 3) := dk_132 3 1 (dk_at dksX11_thread_2 15 rfl rfl)
theorem dX11_thread_66 : decode cX11_thread 66 = .ok (.iinc 4 1, 3) := dk_132 4 1 (dk_at dksX11_thread_2 18 rfl rfl)
theorem dX11_thread_69 : decode cX11_thread 69 = .ok (.goto (-39), 3) := dk_167 255 217 (dk_at dksX11_thread_2 21 rfl rfl)
theorem dX11_thread_72 : decode cX11_thread 72 = .ok (.iload_n 2, 1) := dk_28 (dk_at dksX11_thread_3 0 rfl rfl)
theorem dX11_thread_73 : decode cX11_thread 73 = .ok (.iconst (-1), 1) := dk_2 (dk_at dksX11_thread_3 1 rfl rfl)
theorem dX11_thread_74 : decode cX11_thread 74 = .ok (.if_icmp .ne 7, 3) := dk_160 0 7 (dk_at dksX11_thread_3 2 rfl rfl)
theorem dX11_thread_77 : decode cX11_thread 77 = .ok (.iload_n 3, 1) := dk_29 (dk_at dksX11_thread_3 5 rfl rfl)
theorem dX11_thread_78 : decode cX11_thread 78 = .ok (.goto 4, 3) := dk_167 0 4 (dk_at dksX11_thread_3 6 rfl rfl)
theorem dX11_thread_81 : decode cX11_thread 81 = .ok (.iconst (-1), 1) := dk_2 (dk_at dksX11_thread_3 9 rfl rfl)
theorem dX11_thread_82 : decode cX11_thread 82 = .ok (.ireturn, 1) := dk_172 (dk_at dksX11_thread_3 10 rfl rfl)
abbrev cX11_with : ByteArray := prog_21_method_61_code
def yX11_with : MethodName := ⟨RX11, "with", "(II)I"⟩
def dkwX11_with_3 : List UInt8 := [160, 0, 7, 29, 167, 0, 4, 2, 172]
abbrev dktX11_with_3 : List UInt8 := dkwX11_with_3 ++ []
def dkwX11_with_2 : List UInt8 := [167, 0, 14, 29, 28, 160, 0, 6, 21, 4, 172, 132, 3, 1, 132, 4, 1, 167, 255, 217, 28, 2]
abbrev dktX11_with_2 : List UInt8 := dkwX11_with_2 ++ dktX11_with_3
def dkwX11_with_1 : List UInt8 := [54, 4, 21, 4, 42, 180, 0, 60, 3, 46, 162, 0, 34, 42, 3, 21, 4, 182, 1, 33, 27, 159, 0, 6]
abbrev dktX11_with_1 : List UInt8 := dkwX11_with_1 ++ dktX11_with_2
def dkwX11_with_0 : List UInt8 := [42, 3, 181, 0, 106, 27, 4, 16, 8, 184, 0, 177, 154, 0, 5, 2, 172, 42, 182, 1, 14, 3, 62, 3]
abbrev dktX11_with_0 : List UInt8 := dkwX11_with_0 ++ dktX11_with_1
theorem dksX11_with_0 : cX11_with.data.toList.drop 0 = dktX11_with_0 := by decide +kernel
theorem dksX11_with_1 : cX11_with.data.toList.drop 24 = dktX11_with_1 := dk_seg dksX11_with_0 24 rfl rfl
theorem dksX11_with_2 : cX11_with.data.toList.drop 48 = dktX11_with_2 := dk_seg dksX11_with_1 24 rfl rfl
theorem dksX11_with_3 : cX11_with.data.toList.drop 70 = dktX11_with_3 := dk_seg dksX11_with_2 22 rfl rfl
theorem dX11_with_0 : decode cX11_with 0 = .ok (.aload_n 0, 1) := dk_42 (dk_at dksX11_with_0 0 rfl rfl)
theorem dX11_with_1 : decode cX11_with 1 = .ok (.iconst 0, 1) := dk_3 (dk_at dksX11_with_0 1 rfl rfl)
theorem dX11_with_2 : decode cX11_with 2 = .ok (.putfield 106, 3) := dk_181 0 106 (dk_at dksX11_with_0 2 rfl rfl)
theorem dX11_with_5 : decode cX11_with 5 = .ok (.iload_n 1, 1) := dk_27 (dk_at dksX11_with_0 5 rfl rfl)
theorem dX11_with_6 : decode cX11_with 6 = .ok (.iconst 1, 1) := dk_4 (dk_at dksX11_with_0 6 rfl rfl)
theorem dX11_with_7 : decode cX11_with 7 = .ok (.bipush 8, 2) := dk_16 8 (dk_at dksX11_with_0 7 rfl rfl)
theorem dX11_with_9 : decode cX11_with 9 = .ok (.invokestatic 177, 3) := dk_184 0 177 (dk_at dksX11_with_0 9 rfl rfl)
theorem dX11_with_12 : decode cX11_with 12 = .ok (.ifCond .ne 5, 3) := dk_154 0 5 (dk_at dksX11_with_0 12 rfl rfl)
theorem dX11_with_15 : decode cX11_with 15 = .ok (.iconst (-1), 1) := dk_2 (dk_at dksX11_with_0 15 rfl rfl)
theorem dX11_with_16 : decode cX11_with 16 = .ok (.ireturn, 1) := dk_172 (dk_at dksX11_with_0 16 rfl rfl)
theorem dX11_with_17 : decode cX11_with 17 = .ok (.aload_n 0, 1) := dk_42 (dk_at dksX11_with_0 17 rfl rfl)
theorem dX11_with_18 : decode cX11_with 18 = .ok (.invokevirtual 270, 3) := dk_182 1 14 (dk_at dksX11_with_0 18 rfl rfl)
theorem dX11_with_21 : decode cX11_with 21 = .ok (.iconst 0, 1) := dk_3 (dk_at dksX11_with_0 21 rfl rfl)
theorem dX11_with_22 : decode cX11_with 22 = .ok (.istore_n 3, 1) := dk_62 (dk_at dksX11_with_0 22 rfl rfl)
theorem dX11_with_23 : decode cX11_with 23 = .ok (.iconst 0, 1) := dk_3 (dk_at dksX11_with_0 23 rfl rfl)
theorem dX11_with_24 : decode cX11_with 24 = .ok (.istore 4, 2) := dk_54 4 (dk_at dksX11_with_1 0 rfl rfl)
theorem dX11_with_26 : decode cX11_with 26 = .ok (.iload 4, 2) := dk_21 4 (dk_at dksX11_with_1 2 rfl rfl)
theorem dX11_with_28 : decode cX11_with 28 = .ok (.aload_n 0, 1) := dk_42 (dk_at dksX11_with_1 4 rfl rfl)
theorem dX11_with_29 : decode cX11_with 29 = .ok (.getfield 60, 3) := dk_180 0 60 (dk_at dksX11_with_1 5 rfl rfl)
theorem dX11_with_32 : decode cX11_with 32 = .ok (.iconst 0, 1) := dk_3 (dk_at dksX11_with_1 8 rfl rfl)
theorem dX11_with_33 : decode cX11_with 33 = .ok (.iaload, 1) := dk_46 (dk_at dksX11_with_1 9 rfl rfl)
theorem dX11_with_34 : decode cX11_with 34 = .ok (.if_icmp .ge 34, 3) := dk_162 0 34 (dk_at dksX11_with_1 10 rfl rfl)
theorem dX11_with_37 : decode cX11_with 37 = .ok (.aload_n 0, 1) := dk_42 (dk_at dksX11_with_1 13 rfl rfl)
theorem dX11_with_38 : decode cX11_with 38 = .ok (.iconst 0, 1) := dk_3 (dk_at dksX11_with_1 14 rfl rfl)
theorem dX11_with_39 : decode cX11_with 39 = .ok (.iload 4, 2) := dk_21 4 (dk_at dksX11_with_1 15 rfl rfl)
theorem dX11_with_41 : decode cX11_with 41 = .ok (.invokevirtual 289, 3) := dk_182 1 33 (dk_at dksX11_with_1 17 rfl rfl)
theorem dX11_with_44 : decode cX11_with 44 = .ok (.iload_n 1, 1) := dk_27 (dk_at dksX11_with_1 20 rfl rfl)
theorem dX11_with_45 : decode cX11_with 45 = .ok (.if_icmp .eq 6, 3) := dk_159 0 6 (dk_at dksX11_with_1 21 rfl rfl)
theorem dX11_with_48 : decode cX11_with 48 = .ok (.goto 14, 3) := dk_167 0 14 (dk_at dksX11_with_2 0 rfl rfl)
theorem dX11_with_51 : decode cX11_with 51 = .ok (.iload_n 3, 1) := dk_29 (dk_at dksX11_with_2 3 rfl rfl)
theorem dX11_with_52 : decode cX11_with 52 = .ok (.iload_n 2, 1) := dk_28 (dk_at dksX11_with_2 4 rfl rfl)
theorem dX11_with_53 : decode cX11_with 53 = .ok (.if_icmp .ne 6, 3) := dk_160 0 6 (dk_at dksX11_with_2 5 rfl rfl)
theorem dX11_with_56 : decode cX11_with 56 = .ok (.iload 4, 2) := dk_21 4 (dk_at dksX11_with_2 8 rfl rfl)
theorem dX11_with_58 : decode cX11_with 58 = .ok (.ireturn, 1) := dk_172 (dk_at dksX11_with_2 10 rfl rfl)
theorem dX11_with_59 : decode cX11_with 59 = .ok (.iinc 3 1, 3) := dk_132 3 1 (dk_at dksX11_with_2 11 rfl rfl)
theorem dX11_with_62 : decode cX11_with 62 = .ok (.iinc 4 1, 3) := dk_132 4 1 (dk_at dksX11_with_2 14 rfl rfl)
theorem dX11_with_65 : decode cX11_with 65 = .ok (.goto (-39), 3) := dk_167 255 217 (dk_at dksX11_with_2 17 rfl rfl)
theorem dX11_with_68 : decode cX11_with 68 = .ok (.iload_n 2, 1) := dk_28 (dk_at dksX11_with_2 20 rfl rfl)
theorem dX11_with_69 : decode cX11_with 69 = .ok (.iconst (-1), 1) := dk_2 (dk_at dksX11_with_2 21 rfl rfl)
theorem dX11_with_70 : decode cX11_with 70 = .ok (.if_icmp .ne 7, 3) := dk_160 0 7 (dk_at dksX11_with_3 0 rfl rfl)
theorem dX11_with_73 : decode cX11_with 73 = .ok (.iload_n 3, 1) := dk_29 (dk_at dksX11_with_3 3 rfl rfl)
theorem dX11_with_74 : decode cX11_with 74 = .ok (.goto 4, 3) := dk_167 0 4 (dk_at dksX11_with_3 4 rfl rfl)
theorem dX11_with_77 : decode cX11_with 77 = .ok (.iconst (-1), 1) := dk_2 (dk_at dksX11_with_3 7 rfl rfl)
theorem dX11_with_78 : decode cX11_with 78 = .ok (.ireturn, 1) := dk_172 (dk_at dksX11_with_3 8 rfl rfl)
abbrev cX11_promised : ByteArray := prog_21_method_62_code
def yX11_promised : MethodName := ⟨RX11, "promised", "(III)I"⟩
def dkwX11_promised_5 : List UInt8 := [167, 255, 188, 21, 4, 172]
abbrev dktX11_promised_5 : List UInt8 := dkwX11_promised_5 ++ []
def dkwX11_promised_4 : List UInt8 := [160, 0, 21, 29, 153, 0, 14, 42, 3, 21, 5, 182, 1, 33, 29, 160, 0, 6, 132, 4, 1, 132, 5, 1]
abbrev dktX11_promised_4 : List UInt8 := dkwX11_promised_4 ++ dktX11_promised_5
def dkwX11_promised_3 : List UInt8 := [180, 0, 42, 21, 5, 46, 27, 160, 0, 37, 42, 180, 0, 42, 42, 180, 0, 48, 21, 5, 46, 46, 28]
abbrev dktX11_promised_3 : List UInt8 := dkwX11_promised_3 ++ dktX11_promised_4
def dkwX11_promised_2 : List UInt8 := [54, 5, 21, 5, 42, 180, 0, 60, 3, 46, 162, 0, 63, 42, 21, 5, 182, 1, 36, 153, 0, 48, 42]
abbrev dktX11_promised_2 : List UInt8 := dkwX11_promised_2 ++ dktX11_promised_3
def dkwX11_promised_1 : List UInt8 := [153, 0, 15, 29, 7, 16, 8, 184, 0, 177, 154, 0, 5, 2, 172, 42, 182, 1, 14, 3, 54, 4, 3]
abbrev dktX11_promised_1 : List UInt8 := dkwX11_promised_1 ++ dktX11_promised_2
def dkwX11_promised_0 : List UInt8 := [42, 3, 181, 0, 106, 42, 27, 182, 0, 242, 153, 0, 25, 42, 28, 182, 0, 242, 153, 0, 17, 29]
abbrev dktX11_promised_0 : List UInt8 := dkwX11_promised_0 ++ dktX11_promised_1
theorem dksX11_promised_0 : cX11_promised.data.toList.drop 0 = dktX11_promised_0 := by decide +kernel
theorem dksX11_promised_1 : cX11_promised.data.toList.drop 22 = dktX11_promised_1 := dk_seg dksX11_promised_0 22 rfl rfl
theorem dksX11_promised_2 : cX11_promised.data.toList.drop 45 = dktX11_promised_2 := dk_seg dksX11_promised_1 23 rfl rfl
theorem dksX11_promised_3 : cX11_promised.data.toList.drop 68 = dktX11_promised_3 := dk_seg dksX11_promised_2 23 rfl rfl
theorem dksX11_promised_4 : cX11_promised.data.toList.drop 91 = dktX11_promised_4 := dk_seg dksX11_promised_3 23 rfl rfl
theorem dksX11_promised_5 : cX11_promised.data.toList.drop 115 = dktX11_promised_5 := dk_seg dksX11_promised_4 24 rfl rfl
theorem dX11_promised_0 : decode cX11_promised 0 = .ok (.aload_n 0, 1) := dk_42 (dk_at dksX11_promised_0 0 rfl rfl)
theorem dX11_promised_1 : decode cX11_promised 1 = .ok (.iconst 0, 1) := dk_3 (dk_at dksX11_promised_0 1 rfl rfl)
theorem dX11_promised_2 : decode cX11_promised 2 = .ok (.putfield 106, 3) := dk_181 0 106 (dk_at dksX11_promised_0 2 rfl rfl)
theorem dX11_promised_5 : decode cX11_promised 5 = .ok (.aload_n 0, 1) := dk_42 (dk_at dksX11_promised_0 5 rfl rfl)
theorem dX11_promised_6 : decode cX11_promised 6 = .ok (.iload_n 1, 1) := dk_27 (dk_at dksX11_promised_0 6 rfl rfl)
theorem dX11_promised_7 : decode cX11_promised 7 = .ok (.invokevirtual 242, 3) := dk_182 0 242 (dk_at dksX11_promised_0 7 rfl rfl)
theorem dX11_promised_10 : decode cX11_promised 10 = .ok (.ifCond .eq 25, 3) := dk_153 0 25 (dk_at dksX11_promised_0 10 rfl rfl)
theorem dX11_promised_13 : decode cX11_promised 13 = .ok (.aload_n 0, 1) := dk_42 (dk_at dksX11_promised_0 13 rfl rfl)
theorem dX11_promised_14 : decode cX11_promised 14 = .ok (.iload_n 2, 1) := dk_28 (dk_at dksX11_promised_0 14 rfl rfl)
theorem dX11_promised_15 : decode cX11_promised 15 = .ok (.invokevirtual 242, 3) := dk_182 0 242 (dk_at dksX11_promised_0 15 rfl rfl)
theorem dX11_promised_18 : decode cX11_promised 18 = .ok (.ifCond .eq 17, 3) := dk_153 0 17 (dk_at dksX11_promised_0 18 rfl rfl)
theorem dX11_promised_21 : decode cX11_promised 21 = .ok (.iload_n 3, 1) := dk_29 (dk_at dksX11_promised_0 21 rfl rfl)
theorem dX11_promised_22 : decode cX11_promised 22 = .ok (.ifCond .eq 15, 3) := dk_153 0 15 (dk_at dksX11_promised_1 0 rfl rfl)
theorem dX11_promised_25 : decode cX11_promised 25 = .ok (.iload_n 3, 1) := dk_29 (dk_at dksX11_promised_1 3 rfl rfl)
theorem dX11_promised_26 : decode cX11_promised 26 = .ok (.iconst 4, 1) := dk_7 (dk_at dksX11_promised_1 4 rfl rfl)
theorem dX11_promised_27 : decode cX11_promised 27 = .ok (.bipush 8, 2) := dk_16 8 (dk_at dksX11_promised_1 5 rfl rfl)
theorem dX11_promised_29 : decode cX11_promised 29 = .ok (.invokestatic 177, 3) := dk_184 0 177 (dk_at dksX11_promised_1 7 rfl rfl)
theorem dX11_promised_32 : decode cX11_promised 32 = .ok (.ifCond .ne 5, 3) := dk_154 0 5 (dk_at dksX11_promised_1 10 rfl rfl)
theorem dX11_promised_35 : decode cX11_promised 35 = .ok (.iconst (-1), 1) := dk_2 (dk_at dksX11_promised_1 13 rfl rfl)
theorem dX11_promised_36 : decode cX11_promised 36 = .ok (.ireturn, 1) := dk_172 (dk_at dksX11_promised_1 14 rfl rfl)
theorem dX11_promised_37 : decode cX11_promised 37 = .ok (.aload_n 0, 1) := dk_42 (dk_at dksX11_promised_1 15 rfl rfl)
theorem dX11_promised_38 : decode cX11_promised 38 = .ok (.invokevirtual 270, 3) := dk_182 1 14 (dk_at dksX11_promised_1 16 rfl rfl)
theorem dX11_promised_41 : decode cX11_promised 41 = .ok (.iconst 0, 1) := dk_3 (dk_at dksX11_promised_1 19 rfl rfl)
theorem dX11_promised_42 : decode cX11_promised 42 = .ok (.istore 4, 2) := dk_54 4 (dk_at dksX11_promised_1 20 rfl rfl)
theorem dX11_promised_44 : decode cX11_promised 44 = .ok (.iconst 0, 1) := dk_3 (dk_at dksX11_promised_1 22 rfl rfl)
theorem dX11_promised_45 : decode cX11_promised 45 = .ok (.istore 5, 2) := dk_54 5 (dk_at dksX11_promised_2 0 rfl rfl)
theorem dX11_promised_47 : decode cX11_promised 47 = .ok (.iload 5, 2) := dk_21 5 (dk_at dksX11_promised_2 2 rfl rfl)
theorem dX11_promised_49 : decode cX11_promised 49 = .ok (.aload_n 0, 1) := dk_42 (dk_at dksX11_promised_2 4 rfl rfl)
theorem dX11_promised_50 : decode cX11_promised 50 = .ok (.getfield 60, 3) := dk_180 0 60 (dk_at dksX11_promised_2 5 rfl rfl)
theorem dX11_promised_53 : decode cX11_promised 53 = .ok (.iconst 0, 1) := dk_3 (dk_at dksX11_promised_2 8 rfl rfl)
theorem dX11_promised_54 : decode cX11_promised 54 = .ok (.iaload, 1) := dk_46 (dk_at dksX11_promised_2 9 rfl rfl)
theorem dX11_promised_55 : decode cX11_promised 55 = .ok (.if_icmp .ge 63, 3) := dk_162 0 63 (dk_at dksX11_promised_2 10 rfl rfl)
theorem dX11_promised_58 : decode cX11_promised 58 = .ok (.aload_n 0, 1) := dk_42 (dk_at dksX11_promised_2 13 rfl rfl)
theorem dX11_promised_59 : decode cX11_promised 59 = .ok (.iload 5, 2) := dk_21 5 (dk_at dksX11_promised_2 14 rfl rfl)
theorem dX11_promised_61 : decode cX11_promised 61 = .ok (.invokevirtual 292, 3) := dk_182 1 36 (dk_at dksX11_promised_2 16 rfl rfl)
theorem dX11_promised_64 : decode cX11_promised 64 = .ok (.ifCond .eq 48, 3) := dk_153 0 48 (dk_at dksX11_promised_2 19 rfl rfl)
theorem dX11_promised_67 : decode cX11_promised 67 = .ok (.aload_n 0, 1) := dk_42 (dk_at dksX11_promised_2 22 rfl rfl)
theorem dX11_promised_68 : decode cX11_promised 68 = .ok (.getfield 42, 3) := dk_180 0 42 (dk_at dksX11_promised_3 0 rfl rfl)
theorem dX11_promised_71 : decode cX11_promised 71 = .ok (.iload 5, 2) := dk_21 5 (dk_at dksX11_promised_3 3 rfl rfl)
theorem dX11_promised_73 : decode cX11_promised 73 = .ok (.iaload, 1) := dk_46 (dk_at dksX11_promised_3 5 rfl rfl)
theorem dX11_promised_74 : decode cX11_promised 74 = .ok (.iload_n 1, 1) := dk_27 (dk_at dksX11_promised_3 6 rfl rfl)
theorem dX11_promised_75 : decode cX11_promised 75 = .ok (.if_icmp .ne 37, 3) := dk_160 0 37 (dk_at dksX11_promised_3 7 rfl rfl)
theorem dX11_promised_78 : decode cX11_promised 78 = .ok (.aload_n 0, 1) := dk_42 (dk_at dksX11_promised_3 10 rfl rfl)
theorem dX11_promised_79 : decode cX11_promised 79 = .ok (.getfield 42, 3) := dk_180 0 42 (dk_at dksX11_promised_3 11 rfl rfl)
theorem dX11_promised_82 : decode cX11_promised 82 = .ok (.aload_n 0, 1) := dk_42 (dk_at dksX11_promised_3 14 rfl rfl)
theorem dX11_promised_83 : decode cX11_promised 83 = .ok (.getfield 48, 3) := dk_180 0 48 (dk_at dksX11_promised_3 15 rfl rfl)
theorem dX11_promised_86 : decode cX11_promised 86 = .ok (.iload 5, 2) := dk_21 5 (dk_at dksX11_promised_3 18 rfl rfl)
theorem dX11_promised_88 : decode cX11_promised 88 = .ok (.iaload, 1) := dk_46 (dk_at dksX11_promised_3 20 rfl rfl)
theorem dX11_promised_89 : decode cX11_promised 89 = .ok (.iaload, 1) := dk_46 (dk_at dksX11_promised_3 21 rfl rfl)
theorem dX11_promised_90 : decode cX11_promised 90 = .ok (.iload_n 2, 1) := dk_28 (dk_at dksX11_promised_3 22 rfl rfl)
theorem dX11_promised_91 : decode cX11_promised 91 = .ok (.if_icmp .ne 21, 3) := dk_160 0 21 (dk_at dksX11_promised_4 0 rfl rfl)
theorem dX11_promised_94 : decode cX11_promised 94 = .ok (.iload_n 3, 1) := dk_29 (dk_at dksX11_promised_4 3 rfl rfl)
theorem dX11_promised_95 : decode cX11_promised 95 = .ok (.ifCond .eq 14, 3) := dk_153 0 14 (dk_at dksX11_promised_4 4 rfl rfl)
theorem dX11_promised_98 : decode cX11_promised 98 = .ok (.aload_n 0, 1) := dk_42 (dk_at dksX11_promised_4 7 rfl rfl)
theorem dX11_promised_99 : decode cX11_promised 99 = .ok (.iconst 0, 1) := dk_3 (dk_at dksX11_promised_4 8 rfl rfl)
theorem dX11_promised_100 : decode cX11_promised 100 = .ok (.iload 5, 2) := dk_21 5 (dk_at dksX11_promised_4 9 rfl rfl)
theorem dX11_promised_102 : decode cX11_promised 102 = .ok (.invokevirtual 289, 3) := dk_182 1 33 (dk_at dksX11_promised_4 11 rfl rfl)
theorem dX11_promised_105 : decode cX11_promised 105 = .ok (.iload_n 3, 1) := dk_29 (dk_at dksX11_promised_4 14 rfl rfl)
theorem dX11_promised_106 : decode cX11_promised 106 = .ok (.if_icmp .ne 6, 3) := dk_160 0 6 (dk_at dksX11_promised_4 15 rfl rfl)
theorem dX11_promised_109 : decode cX11_promised 109 = .ok (.iinc 4 1, 3) := dk_132 4 1 (dk_at dksX11_promised_4 18 rfl rfl)
theorem dX11_promised_112 : decode cX11_promised 112 = .ok (.iinc 5 1, 3) := dk_132 5 1 (dk_at dksX11_promised_4 21 rfl rfl)
theorem dX11_promised_115 : decode cX11_promised 115 = .ok (.goto (-68), 3) := dk_167 255 188 (dk_at dksX11_promised_5 0 rfl rfl)
theorem dX11_promised_118 : decode cX11_promised 118 = .ok (.iload 4, 2) := dk_21 4 (dk_at dksX11_promised_5 3 rfl rfl)
theorem dX11_promised_120 : decode cX11_promised 120 = .ok (.ireturn, 1) := dk_172 (dk_at dksX11_promised_5 5 rfl rfl)
abbrev cX11_spoke : ByteArray := prog_21_method_63_code
def yX11_spoke : MethodName := ⟨RX11, "spoke", "(II)I"⟩
def dkwX11_spoke_4 : List UInt8 := [132, 3, 1, 132, 4, 1, 167, 255, 194, 29, 172]
abbrev dktX11_spoke_4 : List UInt8 := dkwX11_spoke_4 ++ []
def dkwX11_spoke_3 : List UInt8 := [28, 2, 159, 0, 21, 42, 180, 0, 13, 16, 61, 5, 21, 4, 104, 96, 4, 96, 46, 28, 160, 0, 6]
abbrev dktX11_spoke_3 : List UInt8 := dkwX11_spoke_3 ++ dktX11_spoke_4
def dkwX11_spoke_2 : List UInt8 := [162, 0, 56, 27, 2, 159, 0, 19, 42, 180, 0, 13, 16, 61, 5, 21, 4, 104, 96, 46, 27, 160, 0, 29]
abbrev dktX11_spoke_2 : List UInt8 := dkwX11_spoke_2 ++ dktX11_spoke_3
def dkwX11_spoke_1 : List UInt8 := [28, 182, 0, 245, 154, 0, 5, 2, 172, 3, 62, 3, 54, 4, 21, 4, 42, 180, 0, 13, 16, 60, 46]
abbrev dktX11_spoke_1 : List UInt8 := dkwX11_spoke_1 ++ dktX11_spoke_2
def dkwX11_spoke_0 : List UInt8 := [42, 3, 181, 0, 106, 27, 2, 159, 0, 11, 42, 27, 182, 0, 242, 153, 0, 16, 28, 2, 159, 0, 13, 42]
abbrev dktX11_spoke_0 : List UInt8 := dkwX11_spoke_0 ++ dktX11_spoke_1
theorem dksX11_spoke_0 : cX11_spoke.data.toList.drop 0 = dktX11_spoke_0 := by decide +kernel
theorem dksX11_spoke_1 : cX11_spoke.data.toList.drop 24 = dktX11_spoke_1 := dk_seg dksX11_spoke_0 24 rfl rfl
theorem dksX11_spoke_2 : cX11_spoke.data.toList.drop 47 = dktX11_spoke_2 := dk_seg dksX11_spoke_1 23 rfl rfl
theorem dksX11_spoke_3 : cX11_spoke.data.toList.drop 71 = dktX11_spoke_3 := dk_seg dksX11_spoke_2 24 rfl rfl
theorem dksX11_spoke_4 : cX11_spoke.data.toList.drop 94 = dktX11_spoke_4 := dk_seg dksX11_spoke_3 23 rfl rfl
theorem dX11_spoke_0 : decode cX11_spoke 0 = .ok (.aload_n 0, 1) := dk_42 (dk_at dksX11_spoke_0 0 rfl rfl)
theorem dX11_spoke_1 : decode cX11_spoke 1 = .ok (.iconst 0, 1) := dk_3 (dk_at dksX11_spoke_0 1 rfl rfl)
theorem dX11_spoke_2 : decode cX11_spoke 2 = .ok (.putfield 106, 3) := dk_181 0 106 (dk_at dksX11_spoke_0 2 rfl rfl)
theorem dX11_spoke_5 : decode cX11_spoke 5 = .ok (.iload_n 1, 1) := dk_27 (dk_at dksX11_spoke_0 5 rfl rfl)
theorem dX11_spoke_6 : decode cX11_spoke 6 = .ok (.iconst (-1), 1) := dk_2 (dk_at dksX11_spoke_0 6 rfl rfl)
theorem dX11_spoke_7 : decode cX11_spoke 7 = .ok (.if_icmp .eq 11, 3) := dk_159 0 11 (dk_at dksX11_spoke_0 7 rfl rfl)
theorem dX11_spoke_10 : decode cX11_spoke 10 = .ok (.aload_n 0, 1) := dk_42 (dk_at dksX11_spoke_0 10 rfl rfl)
theorem dX11_spoke_11 : decode cX11_spoke 11 = .ok (.iload_n 1, 1) := dk_27 (dk_at dksX11_spoke_0 11 rfl rfl)
theorem dX11_spoke_12 : decode cX11_spoke 12 = .ok (.invokevirtual 242, 3) := dk_182 0 242 (dk_at dksX11_spoke_0 12 rfl rfl)
theorem dX11_spoke_15 : decode cX11_spoke 15 = .ok (.ifCond .eq 16, 3) := dk_153 0 16 (dk_at dksX11_spoke_0 15 rfl rfl)
theorem dX11_spoke_18 : decode cX11_spoke 18 = .ok (.iload_n 2, 1) := dk_28 (dk_at dksX11_spoke_0 18 rfl rfl)
theorem dX11_spoke_19 : decode cX11_spoke 19 = .ok (.iconst (-1), 1) := dk_2 (dk_at dksX11_spoke_0 19 rfl rfl)
theorem dX11_spoke_20 : decode cX11_spoke 20 = .ok (.if_icmp .eq 13, 3) := dk_159 0 13 (dk_at dksX11_spoke_0 20 rfl rfl)
theorem dX11_spoke_23 : decode cX11_spoke 23 = .ok (.aload_n 0, 1) := dk_42 (dk_at dksX11_spoke_0 23 rfl rfl)
theorem dX11_spoke_24 : decode cX11_spoke 24 = .ok (.iload_n 2, 1) := dk_28 (dk_at dksX11_spoke_1 0 rfl rfl)
theorem dX11_spoke_25 : decode cX11_spoke 25 = .ok (.invokevirtual 245, 3) := dk_182 0 245 (dk_at dksX11_spoke_1 1 rfl rfl)
theorem dX11_spoke_28 : decode cX11_spoke 28 = .ok (.ifCond .ne 5, 3) := dk_154 0 5 (dk_at dksX11_spoke_1 4 rfl rfl)
theorem dX11_spoke_31 : decode cX11_spoke 31 = .ok (.iconst (-1), 1) := dk_2 (dk_at dksX11_spoke_1 7 rfl rfl)
theorem dX11_spoke_32 : decode cX11_spoke 32 = .ok (.ireturn, 1) := dk_172 (dk_at dksX11_spoke_1 8 rfl rfl)
theorem dX11_spoke_33 : decode cX11_spoke 33 = .ok (.iconst 0, 1) := dk_3 (dk_at dksX11_spoke_1 9 rfl rfl)
theorem dX11_spoke_34 : decode cX11_spoke 34 = .ok (.istore_n 3, 1) := dk_62 (dk_at dksX11_spoke_1 10 rfl rfl)
theorem dX11_spoke_35 : decode cX11_spoke 35 = .ok (.iconst 0, 1) := dk_3 (dk_at dksX11_spoke_1 11 rfl rfl)
theorem dX11_spoke_36 : decode cX11_spoke 36 = .ok (.istore 4, 2) := dk_54 4 (dk_at dksX11_spoke_1 12 rfl rfl)
theorem dX11_spoke_38 : decode cX11_spoke 38 = .ok (.iload 4, 2) := dk_21 4 (dk_at dksX11_spoke_1 14 rfl rfl)
theorem dX11_spoke_40 : decode cX11_spoke 40 = .ok (.aload_n 0, 1) := dk_42 (dk_at dksX11_spoke_1 16 rfl rfl)
theorem dX11_spoke_41 : decode cX11_spoke 41 = .ok (.getfield 13, 3) := dk_180 0 13 (dk_at dksX11_spoke_1 17 rfl rfl)
theorem dX11_spoke_44 : decode cX11_spoke 44 = .ok (.bipush 60, 2) := dk_16 60 (dk_at dksX11_spoke_1 20 rfl rfl)
theorem dX11_spoke_46 : decode cX11_spoke 46 = .ok (.iaload, 1) := dk_46 (dk_at dksX11_spoke_1 22 rfl rfl)
theorem dX11_spoke_47 : decode cX11_spoke 47 = .ok (.if_icmp .ge 56, 3) := dk_162 0 56 (dk_at dksX11_spoke_2 0 rfl rfl)
theorem dX11_spoke_50 : decode cX11_spoke 50 = .ok (.iload_n 1, 1) := dk_27 (dk_at dksX11_spoke_2 3 rfl rfl)
theorem dX11_spoke_51 : decode cX11_spoke 51 = .ok (.iconst (-1), 1) := dk_2 (dk_at dksX11_spoke_2 4 rfl rfl)
theorem dX11_spoke_52 : decode cX11_spoke 52 = .ok (.if_icmp .eq 19, 3) := dk_159 0 19 (dk_at dksX11_spoke_2 5 rfl rfl)
theorem dX11_spoke_55 : decode cX11_spoke 55 = .ok (.aload_n 0, 1) := dk_42 (dk_at dksX11_spoke_2 8 rfl rfl)
theorem dX11_spoke_56 : decode cX11_spoke 56 = .ok (.getfield 13, 3) := dk_180 0 13 (dk_at dksX11_spoke_2 9 rfl rfl)
theorem dX11_spoke_59 : decode cX11_spoke 59 = .ok (.bipush 61, 2) := dk_16 61 (dk_at dksX11_spoke_2 12 rfl rfl)
theorem dX11_spoke_61 : decode cX11_spoke 61 = .ok (.iconst 2, 1) := dk_5 (dk_at dksX11_spoke_2 14 rfl rfl)
theorem dX11_spoke_62 : decode cX11_spoke 62 = .ok (.iload 4, 2) := dk_21 4 (dk_at dksX11_spoke_2 15 rfl rfl)
theorem dX11_spoke_64 : decode cX11_spoke 64 = .ok (.imul, 1) := dk_104 (dk_at dksX11_spoke_2 17 rfl rfl)
theorem dX11_spoke_65 : decode cX11_spoke 65 = .ok (.iadd, 1) := dk_96 (dk_at dksX11_spoke_2 18 rfl rfl)
theorem dX11_spoke_66 : decode cX11_spoke 66 = .ok (.iaload, 1) := dk_46 (dk_at dksX11_spoke_2 19 rfl rfl)
theorem dX11_spoke_67 : decode cX11_spoke 67 = .ok (.iload_n 1, 1) := dk_27 (dk_at dksX11_spoke_2 20 rfl rfl)
theorem dX11_spoke_68 : decode cX11_spoke 68 = .ok (.if_icmp .ne 29, 3) := dk_160 0 29 (dk_at dksX11_spoke_2 21 rfl rfl)
theorem dX11_spoke_71 : decode cX11_spoke 71 = .ok (.iload_n 2, 1) := dk_28 (dk_at dksX11_spoke_3 0 rfl rfl)
theorem dX11_spoke_72 : decode cX11_spoke 72 = .ok (.iconst (-1), 1) := dk_2 (dk_at dksX11_spoke_3 1 rfl rfl)
theorem dX11_spoke_73 : decode cX11_spoke 73 = .ok (.if_icmp .eq 21, 3) := dk_159 0 21 (dk_at dksX11_spoke_3 2 rfl rfl)
theorem dX11_spoke_76 : decode cX11_spoke 76 = .ok (.aload_n 0, 1) := dk_42 (dk_at dksX11_spoke_3 5 rfl rfl)
theorem dX11_spoke_77 : decode cX11_spoke 77 = .ok (.getfield 13, 3) := dk_180 0 13 (dk_at dksX11_spoke_3 6 rfl rfl)
theorem dX11_spoke_80 : decode cX11_spoke 80 = .ok (.bipush 61, 2) := dk_16 61 (dk_at dksX11_spoke_3 9 rfl rfl)
theorem dX11_spoke_82 : decode cX11_spoke 82 = .ok (.iconst 2, 1) := dk_5 (dk_at dksX11_spoke_3 11 rfl rfl)
theorem dX11_spoke_83 : decode cX11_spoke 83 = .ok (.iload 4, 2) := dk_21 4 (dk_at dksX11_spoke_3 12 rfl rfl)
theorem dX11_spoke_85 : decode cX11_spoke 85 = .ok (.imul, 1) := dk_104 (dk_at dksX11_spoke_3 14 rfl rfl)
theorem dX11_spoke_86 : decode cX11_spoke 86 = .ok (.iadd, 1) := dk_96 (dk_at dksX11_spoke_3 15 rfl rfl)
theorem dX11_spoke_87 : decode cX11_spoke 87 = .ok (.iconst 1, 1) := dk_4 (dk_at dksX11_spoke_3 16 rfl rfl)
theorem dX11_spoke_88 : decode cX11_spoke 88 = .ok (.iadd, 1) := dk_96 (dk_at dksX11_spoke_3 17 rfl rfl)
theorem dX11_spoke_89 : decode cX11_spoke 89 = .ok (.iaload, 1) := dk_46 (dk_at dksX11_spoke_3 18 rfl rfl)
theorem dX11_spoke_90 : decode cX11_spoke 90 = .ok (.iload_n 2, 1) := dk_28 (dk_at dksX11_spoke_3 19 rfl rfl)
theorem dX11_spoke_91 : decode cX11_spoke 91 = .ok (.if_icmp .ne 6, 3) := dk_160 0 6 (dk_at dksX11_spoke_3 20 rfl rfl)
theorem dX11_spoke_94 : decode cX11_spoke 94 = .ok (.iinc 3 1, 3) := dk_132 3 1 (dk_at dksX11_spoke_4 0 rfl rfl)
theorem dX11_spoke_97 : decode cX11_spoke 97 = .ok (.iinc 4 1, 3) := dk_132 4 1 (dk_at dksX11_spoke_4 3 rfl rfl)
theorem dX11_spoke_100 : decode cX11_spoke 100 = .ok (.goto (-62), 3) := dk_167 255 194 (dk_at dksX11_spoke_4 6 rfl rfl)
theorem dX11_spoke_103 : decode cX11_spoke 103 = .ok (.iload_n 3, 1) := dk_29 (dk_at dksX11_spoke_4 9 rfl rfl)
theorem dX11_spoke_104 : decode cX11_spoke 104 = .ok (.ireturn, 1) := dk_172 (dk_at dksX11_spoke_4 10 rfl rfl)
abbrev cX11_drawn : ByteArray := prog_21_method_66_code
def yX11_drawn : MethodName := ⟨RX11, "drawn", "(II)I"⟩
def dkwX11_drawn_4 : List UInt8 := [21, 5, 16, 16, 112, 182, 1, 23, 132, 3, 1, 167, 255, 180, 29, 172]
abbrev dktX11_drawn_4 : List UInt8 := dkwX11_drawn_4 ++ []
def dkwX11_drawn_3 : List UInt8 := [54, 5, 42, 3, 21, 5, 16, 16, 108, 21, 5, 16, 16, 112, 182, 1, 10, 42, 21, 5, 16, 16, 108]
abbrev dktX11_drawn_3 : List UInt8 := dkwX11_drawn_3 ++ dktX11_drawn_4
def dkwX11_drawn_2 : List UInt8 := [182, 1, 43, 54, 4, 21, 4, 154, 0, 6, 167, 0, 50, 42, 42, 21, 4, 182, 1, 46, 182, 1, 43]
abbrev dktX11_drawn_2 : List UInt8 := dkwX11_drawn_2 ++ dktX11_drawn_3
def dkwX11_drawn_1 : List UInt8 := [181, 1, 39, 3, 62, 29, 27, 162, 0, 77, 42, 180, 0, 60, 3, 46, 17, 1, 144, 162, 0, 65, 42, 2]
abbrev dktX11_drawn_1 : List UInt8 := dkwX11_drawn_1 ++ dktX11_drawn_2
def dkwX11_drawn_0 : List UInt8 := [42, 3, 181, 0, 106, 27, 4, 17, 1, 144, 184, 0, 177, 154, 0, 5, 2, 172, 42, 182, 1, 14, 42, 28]
abbrev dktX11_drawn_0 : List UInt8 := dkwX11_drawn_0 ++ dktX11_drawn_1
theorem dksX11_drawn_0 : cX11_drawn.data.toList.drop 0 = dktX11_drawn_0 := by decide +kernel
theorem dksX11_drawn_1 : cX11_drawn.data.toList.drop 24 = dktX11_drawn_1 := dk_seg dksX11_drawn_0 24 rfl rfl
theorem dksX11_drawn_2 : cX11_drawn.data.toList.drop 48 = dktX11_drawn_2 := dk_seg dksX11_drawn_1 24 rfl rfl
theorem dksX11_drawn_3 : cX11_drawn.data.toList.drop 71 = dktX11_drawn_3 := dk_seg dksX11_drawn_2 23 rfl rfl
theorem dksX11_drawn_4 : cX11_drawn.data.toList.drop 94 = dktX11_drawn_4 := dk_seg dksX11_drawn_3 23 rfl rfl
theorem dX11_drawn_0 : decode cX11_drawn 0 = .ok (.aload_n 0, 1) := dk_42 (dk_at dksX11_drawn_0 0 rfl rfl)
theorem dX11_drawn_1 : decode cX11_drawn 1 = .ok (.iconst 0, 1) := dk_3 (dk_at dksX11_drawn_0 1 rfl rfl)
theorem dX11_drawn_2 : decode cX11_drawn 2 = .ok (.putfield 106, 3) := dk_181 0 106 (dk_at dksX11_drawn_0 2 rfl rfl)
theorem dX11_drawn_5 : decode cX11_drawn 5 = .ok (.iload_n 1, 1) := dk_27 (dk_at dksX11_drawn_0 5 rfl rfl)
theorem dX11_drawn_6 : decode cX11_drawn 6 = .ok (.iconst 1, 1) := dk_4 (dk_at dksX11_drawn_0 6 rfl rfl)
theorem dX11_drawn_7 : decode cX11_drawn 7 = .ok (.sipush 400, 3) := dk_17 1 144 (dk_at dksX11_drawn_0 7 rfl rfl)
theorem dX11_drawn_10 : decode cX11_drawn 10 = .ok (.invokestatic 177, 3) := dk_184 0 177 (dk_at dksX11_drawn_0 10 rfl rfl)
theorem dX11_drawn_13 : decode cX11_drawn 13 = .ok (.ifCond .ne 5, 3) := dk_154 0 5 (dk_at dksX11_drawn_0 13 rfl rfl)
theorem dX11_drawn_16 : decode cX11_drawn 16 = .ok (.iconst (-1), 1) := dk_2 (dk_at dksX11_drawn_0 16 rfl rfl)
theorem dX11_drawn_17 : decode cX11_drawn 17 = .ok (.ireturn, 1) := dk_172 (dk_at dksX11_drawn_0 17 rfl rfl)
theorem dX11_drawn_18 : decode cX11_drawn 18 = .ok (.aload_n 0, 1) := dk_42 (dk_at dksX11_drawn_0 18 rfl rfl)
theorem dX11_drawn_19 : decode cX11_drawn 19 = .ok (.invokevirtual 270, 3) := dk_182 1 14 (dk_at dksX11_drawn_0 19 rfl rfl)
theorem dX11_drawn_22 : decode cX11_drawn 22 = .ok (.aload_n 0, 1) := dk_42 (dk_at dksX11_drawn_0 22 rfl rfl)
theorem dX11_drawn_23 : decode cX11_drawn 23 = .ok (.iload_n 2, 1) := dk_28 (dk_at dksX11_drawn_0 23 rfl rfl)
theorem dX11_drawn_24 : decode cX11_drawn 24 = .ok (.putfield 295, 3) := dk_181 1 39 (dk_at dksX11_drawn_1 0 rfl rfl)
theorem dX11_drawn_27 : decode cX11_drawn 27 = .ok (.iconst 0, 1) := dk_3 (dk_at dksX11_drawn_1 3 rfl rfl)
theorem dX11_drawn_28 : decode cX11_drawn 28 = .ok (.istore_n 3, 1) := dk_62 (dk_at dksX11_drawn_1 4 rfl rfl)
theorem dX11_drawn_29 : decode cX11_drawn 29 = .ok (.iload_n 3, 1) := dk_29 (dk_at dksX11_drawn_1 5 rfl rfl)
theorem dX11_drawn_30 : decode cX11_drawn 30 = .ok (.iload_n 1, 1) := dk_27 (dk_at dksX11_drawn_1 6 rfl rfl)
theorem dX11_drawn_31 : decode cX11_drawn 31 = .ok (.if_icmp .ge 77, 3) := dk_162 0 77 (dk_at dksX11_drawn_1 7 rfl rfl)
theorem dX11_drawn_34 : decode cX11_drawn 34 = .ok (.aload_n 0, 1) := dk_42 (dk_at dksX11_drawn_1 10 rfl rfl)
theorem dX11_drawn_35 : decode cX11_drawn 35 = .ok (.getfield 60, 3) := dk_180 0 60 (dk_at dksX11_drawn_1 11 rfl rfl)
theorem dX11_drawn_38 : decode cX11_drawn 38 = .ok (.iconst 0, 1) := dk_3 (dk_at dksX11_drawn_1 14 rfl rfl)
theorem dX11_drawn_39 : decode cX11_drawn 39 = .ok (.iaload, 1) := dk_46 (dk_at dksX11_drawn_1 15 rfl rfl)
theorem dX11_drawn_40 : decode cX11_drawn 40 = .ok (.sipush 400, 3) := dk_17 1 144 (dk_at dksX11_drawn_1 16 rfl rfl)
theorem dX11_drawn_43 : decode cX11_drawn 43 = .ok (.if_icmp .ge 65, 3) := dk_162 0 65 (dk_at dksX11_drawn_1 19 rfl rfl)
theorem dX11_drawn_46 : decode cX11_drawn 46 = .ok (.aload_n 0, 1) := dk_42 (dk_at dksX11_drawn_1 22 rfl rfl)
theorem dX11_drawn_47 : decode cX11_drawn 47 = .ok (.iconst (-1), 1) := dk_2 (dk_at dksX11_drawn_1 23 rfl rfl)
theorem dX11_drawn_48 : decode cX11_drawn 48 = .ok (.invokevirtual 299, 3) := dk_182 1 43 (dk_at dksX11_drawn_2 0 rfl rfl)
theorem dX11_drawn_51 : decode cX11_drawn 51 = .ok (.istore 4, 2) := dk_54 4 (dk_at dksX11_drawn_2 3 rfl rfl)
theorem dX11_drawn_53 : decode cX11_drawn 53 = .ok (.iload 4, 2) := dk_21 4 (dk_at dksX11_drawn_2 5 rfl rfl)
theorem dX11_drawn_55 : decode cX11_drawn 55 = .ok (.ifCond .ne 6, 3) := dk_154 0 6 (dk_at dksX11_drawn_2 7 rfl rfl)
theorem dX11_drawn_58 : decode cX11_drawn 58 = .ok (.goto 50, 3) := dk_167 0 50 (dk_at dksX11_drawn_2 10 rfl rfl)
theorem dX11_drawn_61 : decode cX11_drawn 61 = .ok (.aload_n 0, 1) := dk_42 (dk_at dksX11_drawn_2 13 rfl rfl)
theorem dX11_drawn_62 : decode cX11_drawn 62 = .ok (.aload_n 0, 1) := dk_42 (dk_at dksX11_drawn_2 14 rfl rfl)
theorem dX11_drawn_63 : decode cX11_drawn 63 = .ok (.iload 4, 2) := dk_21 4 (dk_at dksX11_drawn_2 15 rfl rfl)
theorem dX11_drawn_65 : decode cX11_drawn 65 = .ok (.invokevirtual 302, 3) := dk_182 1 46 (dk_at dksX11_drawn_2 17 rfl rfl)
theorem dX11_drawn_68 : decode cX11_drawn 68 = .ok (.invokevirtual 299, 3) := dk_182 1 43 (dk_at dksX11_drawn_2 20 rfl rfl)
theorem dX11_drawn_71 : decode cX11_drawn 71 = .ok (.istore 5, 2) := dk_54 5 (dk_at dksX11_drawn_3 0 rfl rfl)
theorem dX11_drawn_73 : decode cX11_drawn 73 = .ok (.aload_n 0, 1) := dk_42 (dk_at dksX11_drawn_3 2 rfl rfl)
theorem dX11_drawn_74 : decode cX11_drawn 74 = .ok (.iconst 0, 1) := dk_3 (dk_at dksX11_drawn_3 3 rfl rfl)
theorem dX11_drawn_75 : decode cX11_drawn 75 = .ok (.iload 5, 2) := dk_21 5 (dk_at dksX11_drawn_3 4 rfl rfl)
theorem dX11_drawn_77 : decode cX11_drawn 77 = .ok (.bipush 16, 2) := dk_16 16 (dk_at dksX11_drawn_3 6 rfl rfl)
theorem dX11_drawn_79 : decode cX11_drawn 79 = .ok (.idiv, 1) := dk_108 (dk_at dksX11_drawn_3 8 rfl rfl)
theorem dX11_drawn_80 : decode cX11_drawn 80 = .ok (.iload 5, 2) := dk_21 5 (dk_at dksX11_drawn_3 9 rfl rfl)
theorem dX11_drawn_82 : decode cX11_drawn 82 = .ok (.bipush 16, 2) := dk_16 16 (dk_at dksX11_drawn_3 11 rfl rfl)
theorem dX11_drawn_84 : decode cX11_drawn 84 = .ok (.irem, 1) := dk_112 (dk_at dksX11_drawn_3 13 rfl rfl)
theorem dX11_drawn_85 : decode cX11_drawn 85 = .ok (.invokevirtual 266, 3) := dk_182 1 10 (dk_at dksX11_drawn_3 14 rfl rfl)
theorem dX11_drawn_88 : decode cX11_drawn 88 = .ok (.aload_n 0, 1) := dk_42 (dk_at dksX11_drawn_3 17 rfl rfl)
theorem dX11_drawn_89 : decode cX11_drawn 89 = .ok (.iload 5, 2) := dk_21 5 (dk_at dksX11_drawn_3 18 rfl rfl)
theorem dX11_drawn_91 : decode cX11_drawn 91 = .ok (.bipush 16, 2) := dk_16 16 (dk_at dksX11_drawn_3 20 rfl rfl)
theorem dX11_drawn_93 : decode cX11_drawn 93 = .ok (.idiv, 1) := dk_108 (dk_at dksX11_drawn_3 22 rfl rfl)
theorem dX11_drawn_94 : decode cX11_drawn 94 = .ok (.iload 5, 2) := dk_21 5 (dk_at dksX11_drawn_4 0 rfl rfl)
theorem dX11_drawn_96 : decode cX11_drawn 96 = .ok (.bipush 16, 2) := dk_16 16 (dk_at dksX11_drawn_4 2 rfl rfl)
theorem dX11_drawn_98 : decode cX11_drawn 98 = .ok (.irem, 1) := dk_112 (dk_at dksX11_drawn_4 4 rfl rfl)
theorem dX11_drawn_99 : decode cX11_drawn 99 = .ok (.invokevirtual 279, 3) := dk_182 1 23 (dk_at dksX11_drawn_4 5 rfl rfl)
theorem dX11_drawn_102 : decode cX11_drawn 102 = .ok (.iinc 3 1, 3) := dk_132 3 1 (dk_at dksX11_drawn_4 8 rfl rfl)
theorem dX11_drawn_105 : decode cX11_drawn 105 = .ok (.goto (-76), 3) := dk_167 255 180 (dk_at dksX11_drawn_4 11 rfl rfl)
theorem dX11_drawn_108 : decode cX11_drawn 108 = .ok (.iload_n 3, 1) := dk_29 (dk_at dksX11_drawn_4 14 rfl rfl)
theorem dX11_drawn_109 : decode cX11_drawn 109 = .ok (.ireturn, 1) := dk_172 (dk_at dksX11_drawn_4 15 rfl rfl)
abbrev cX11_nextWord : ByteArray := prog_21_method_65_code
def yX11_nextWord : MethodName := ⟨RX11, "nextWord", "(I)I"⟩
def dkwX11_nextWord_3 : List UInt8 := [172]
abbrev dktX11_nextWord_3 : List UInt8 := dkwX11_nextWord_3 ++ []
def dkwX11_nextWord_2 : List UInt8 := [16, 16, 29, 104, 21, 4, 96, 172, 132, 2, 1, 132, 4, 1, 167, 255, 212, 132, 3, 1, 167, 255, 193, 28]
abbrev dktX11_nextWord_2 : List UInt8 := dkwX11_nextWord_2 ++ dktX11_nextWord_3
def dkwX11_nextWord_1 : List UInt8 := [46, 162, 0, 39, 42, 3, 29, 21, 4, 182, 1, 17, 153, 0, 6, 167, 0, 19, 28, 27, 160, 0, 11]
abbrev dktX11_nextWord_1 : List UInt8 := dkwX11_nextWord_1 ++ dktX11_nextWord_2
def dkwX11_nextWord_0 : List UInt8 := [3, 61, 3, 62, 29, 42, 180, 0, 13, 3, 46, 162, 0, 59, 3, 54, 4, 21, 4, 42, 180, 0, 13, 4]
abbrev dktX11_nextWord_0 : List UInt8 := dkwX11_nextWord_0 ++ dktX11_nextWord_1
theorem dksX11_nextWord_0 : cX11_nextWord.data.toList.drop 0 = dktX11_nextWord_0 := by decide +kernel
theorem dksX11_nextWord_1 : cX11_nextWord.data.toList.drop 24 = dktX11_nextWord_1 := dk_seg dksX11_nextWord_0 24 rfl rfl
theorem dksX11_nextWord_2 : cX11_nextWord.data.toList.drop 47 = dktX11_nextWord_2 := dk_seg dksX11_nextWord_1 23 rfl rfl
theorem dksX11_nextWord_3 : cX11_nextWord.data.toList.drop 71 = dktX11_nextWord_3 := dk_seg dksX11_nextWord_2 24 rfl rfl
theorem dX11_nextWord_0 : decode cX11_nextWord 0 = .ok (.iconst 0, 1) := dk_3 (dk_at dksX11_nextWord_0 0 rfl rfl)
theorem dX11_nextWord_1 : decode cX11_nextWord 1 = .ok (.istore_n 2, 1) := dk_61 (dk_at dksX11_nextWord_0 1 rfl rfl)
theorem dX11_nextWord_2 : decode cX11_nextWord 2 = .ok (.iconst 0, 1) := dk_3 (dk_at dksX11_nextWord_0 2 rfl rfl)
theorem dX11_nextWord_3 : decode cX11_nextWord 3 = .ok (.istore_n 3, 1) := dk_62 (dk_at dksX11_nextWord_0 3 rfl rfl)
theorem dX11_nextWord_4 : decode cX11_nextWord 4 = .ok (.iload_n 3, 1) := dk_29 (dk_at dksX11_nextWord_0 4 rfl rfl)
theorem dX11_nextWord_5 : decode cX11_nextWord 5 = .ok (.aload_n 0, 1) := dk_42 (dk_at dksX11_nextWord_0 5 rfl rfl)
theorem dX11_nextWord_6 : decode cX11_nextWord 6 = .ok (.getfield 13, 3) := dk_180 0 13 (dk_at dksX11_nextWord_0 6 rfl rfl)
theorem dX11_nextWord_9 : decode cX11_nextWord 9 = .ok (.iconst 0, 1) := dk_3 (dk_at dksX11_nextWord_0 9 rfl rfl)
theorem dX11_nextWord_10 : decode cX11_nextWord 10 = .ok (.iaload, 1) := dk_46 (dk_at dksX11_nextWord_0 10 rfl rfl)
theorem dX11_nextWord_11 : decode cX11_nextWord 11 = .ok (.if_icmp .ge 59, 3) := dk_162 0 59 (dk_at dksX11_nextWord_0 11 rfl rfl)
theorem dX11_nextWord_14 : decode cX11_nextWord 14 = .ok (.iconst 0, 1) := dk_3 (dk_at dksX11_nextWord_0 14 rfl rfl)
theorem dX11_nextWord_15 : decode cX11_nextWord 15 = .ok (.istore 4, 2) := dk_54 4 (dk_at dksX11_nextWord_0 15 rfl rfl)
theorem dX11_nextWord_17 : decode cX11_nextWord 17 = .ok (.iload 4, 2) := dk_21 4 (dk_at dksX11_nextWord_0 17 rfl rfl)
theorem dX11_nextWord_19 : decode cX11_nextWord 19 = .ok (.aload_n 0, 1) := dk_42 (dk_at dksX11_nextWord_0 19 rfl rfl)
theorem dX11_nextWord_20 : decode cX11_nextWord 20 = .ok (.getfield 13, 3) := dk_180 0 13 (dk_at dksX11_nextWord_0 20 rfl rfl)
theorem dX11_nextWord_23 : decode cX11_nextWord 23 = .ok (.iconst 1, 1) := dk_4 (dk_at dksX11_nextWord_0 23 rfl rfl)
theorem dX11_nextWord_24 : decode cX11_nextWord 24 = .ok (.iaload, 1) := dk_46 (dk_at dksX11_nextWord_1 0 rfl rfl)
theorem dX11_nextWord_25 : decode cX11_nextWord 25 = .ok (.if_icmp .ge 39, 3) := dk_162 0 39 (dk_at dksX11_nextWord_1 1 rfl rfl)
theorem dX11_nextWord_28 : decode cX11_nextWord 28 = .ok (.aload_n 0, 1) := dk_42 (dk_at dksX11_nextWord_1 4 rfl rfl)
theorem dX11_nextWord_29 : decode cX11_nextWord 29 = .ok (.iconst 0, 1) := dk_3 (dk_at dksX11_nextWord_1 5 rfl rfl)
theorem dX11_nextWord_30 : decode cX11_nextWord 30 = .ok (.iload_n 3, 1) := dk_29 (dk_at dksX11_nextWord_1 6 rfl rfl)
theorem dX11_nextWord_31 : decode cX11_nextWord 31 = .ok (.iload 4, 2) := dk_21 4 (dk_at dksX11_nextWord_1 7 rfl rfl)
theorem dX11_nextWord_33 : decode cX11_nextWord 33 = .ok (.invokevirtual 273, 3) := dk_182 1 17 (dk_at dksX11_nextWord_1 9 rfl rfl)
theorem dX11_nextWord_36 : decode cX11_nextWord 36 = .ok (.ifCond .eq 6, 3) := dk_153 0 6 (dk_at dksX11_nextWord_1 12 rfl rfl)
theorem dX11_nextWord_39 : decode cX11_nextWord 39 = .ok (.goto 19, 3) := dk_167 0 19 (dk_at dksX11_nextWord_1 15 rfl rfl)
theorem dX11_nextWord_42 : decode cX11_nextWord 42 = .ok (.iload_n 2, 1) := dk_28 (dk_at dksX11_nextWord_1 18 rfl rfl)
theorem dX11_nextWord_43 : decode cX11_nextWord 43 = .ok (.iload_n 1, 1) := dk_27 (dk_at dksX11_nextWord_1 19 rfl rfl)
theorem dX11_nextWord_44 : decode cX11_nextWord 44 = .ok (.if_icmp .ne 11, 3) := dk_160 0 11 (dk_at dksX11_nextWord_1 20 rfl rfl)
theorem dX11_nextWord_47 : decode cX11_nextWord 47 = .ok (.bipush 16, 2) := dk_16 16 (dk_at dksX11_nextWord_2 0 rfl rfl)
theorem dX11_nextWord_49 : decode cX11_nextWord 49 = .ok (.iload_n 3, 1) := dk_29 (dk_at dksX11_nextWord_2 2 rfl rfl)
theorem dX11_nextWord_50 : decode cX11_nextWord 50 = .ok (.imul, 1) := dk_104 (dk_at dksX11_nextWord_2 3 rfl rfl)
theorem dX11_nextWord_51 : decode cX11_nextWord 51 = .ok (.iload 4, 2) := dk_21 4 (dk_at dksX11_nextWord_2 4 rfl rfl)
theorem dX11_nextWord_53 : decode cX11_nextWord 53 = .ok (.iadd, 1) := dk_96 (dk_at dksX11_nextWord_2 6 rfl rfl)
theorem dX11_nextWord_54 : decode cX11_nextWord 54 = .ok (.ireturn, 1) := dk_172 (dk_at dksX11_nextWord_2 7 rfl rfl)
theorem dX11_nextWord_55 : decode cX11_nextWord 55 = .ok (.iinc 2 1, 3) := dk_132 2 1 (dk_at dksX11_nextWord_2 8 rfl rfl)
theorem dX11_nextWord_58 : decode cX11_nextWord 58 = .ok (.iinc 4 1, 3) := dk_132 4 1 (dk_at dksX11_nextWord_2 11 rfl rfl)
theorem dX11_nextWord_61 : decode cX11_nextWord 61 = .ok (.goto (-44), 3) := dk_167 255 212 (dk_at dksX11_nextWord_2 14 rfl rfl)
theorem dX11_nextWord_64 : decode cX11_nextWord 64 = .ok (.iinc 3 1, 3) := dk_132 3 1 (dk_at dksX11_nextWord_2 17 rfl rfl)
theorem dX11_nextWord_67 : decode cX11_nextWord 67 = .ok (.goto (-63), 3) := dk_167 255 193 (dk_at dksX11_nextWord_2 20 rfl rfl)
theorem dX11_nextWord_70 : decode cX11_nextWord 70 = .ok (.iload_n 2, 1) := dk_28 (dk_at dksX11_nextWord_2 23 rfl rfl)
theorem dX11_nextWord_71 : decode cX11_nextWord 71 = .ok (.ireturn, 1) := dk_172 (dk_at dksX11_nextWord_3 0 rfl rfl)
abbrev cX11_draw : ByteArray := prog_21_method_64_code
def yX11_draw : MethodName := ⟨RX11, "draw", "(I)I"⟩
def dkwX11_draw_1 : List UInt8 := [112, 172]
abbrev dktX11_draw_1 : List UInt8 := dkwX11_draw_1 ++ []
def dkwX11_draw_0 : List UInt8 := [42, 42, 180, 1, 39, 19, 1, 42, 104, 17, 48, 57, 96, 181, 1, 39, 42, 180, 1, 39, 16, 8, 124, 27]
abbrev dktX11_draw_0 : List UInt8 := dkwX11_draw_0 ++ dktX11_draw_1
theorem dksX11_draw_0 : cX11_draw.data.toList.drop 0 = dktX11_draw_0 := by decide +kernel
theorem dksX11_draw_1 : cX11_draw.data.toList.drop 24 = dktX11_draw_1 := dk_seg dksX11_draw_0 24 rfl rfl
theorem dX11_draw_0 : decode cX11_draw 0 = .ok (.aload_n 0, 1) := dk_42 (dk_at dksX11_draw_0 0 rfl rfl)
theorem dX11_draw_1 : decode cX11_draw 1 = .ok (.aload_n 0, 1) := dk_42 (dk_at dksX11_draw_0 1 rfl rfl)
theorem dX11_draw_2 : decode cX11_draw 2 = .ok (.getfield 295, 3) := dk_180 1 39 (dk_at dksX11_draw_0 2 rfl rfl)
theorem dX11_draw_5 : decode cX11_draw 5 = .ok (.ldc_w 298, 3) := dk_19 1 42 (dk_at dksX11_draw_0 5 rfl rfl)
theorem dX11_draw_8 : decode cX11_draw 8 = .ok (.imul, 1) := dk_104 (dk_at dksX11_draw_0 8 rfl rfl)
theorem dX11_draw_9 : decode cX11_draw 9 = .ok (.sipush 12345, 3) := dk_17 48 57 (dk_at dksX11_draw_0 9 rfl rfl)
theorem dX11_draw_12 : decode cX11_draw 12 = .ok (.iadd, 1) := dk_96 (dk_at dksX11_draw_0 12 rfl rfl)
theorem dX11_draw_13 : decode cX11_draw 13 = .ok (.putfield 295, 3) := dk_181 1 39 (dk_at dksX11_draw_0 13 rfl rfl)
theorem dX11_draw_16 : decode cX11_draw 16 = .ok (.aload_n 0, 1) := dk_42 (dk_at dksX11_draw_0 16 rfl rfl)
theorem dX11_draw_17 : decode cX11_draw 17 = .ok (.getfield 295, 3) := dk_180 1 39 (dk_at dksX11_draw_0 17 rfl rfl)
theorem dX11_draw_20 : decode cX11_draw 20 = .ok (.bipush 8, 2) := dk_16 8 (dk_at dksX11_draw_0 20 rfl rfl)
theorem dX11_draw_22 : decode cX11_draw 22 = .ok (.iushr, 1) := dk_124 (dk_at dksX11_draw_0 22 rfl rfl)
theorem dX11_draw_23 : decode cX11_draw 23 = .ok (.iload_n 1, 1) := dk_27 (dk_at dksX11_draw_0 23 rfl rfl)
theorem dX11_draw_24 : decode cX11_draw 24 = .ok (.irem, 1) := dk_112 (dk_at dksX11_draw_1 0 rfl rfl)
theorem dX11_draw_25 : decode cX11_draw 25 = .ok (.ireturn, 1) := dk_172 (dk_at dksX11_draw_1 1 rfl rfl)
abbrev cX11_minutes : ByteArray := prog_21_method_69_code
def yX11_minutes : MethodName := ⟨RX11, "minutes", "()I"⟩
def dkwX11_minutes_3 : List UInt8 := [167, 255, 227, 42, 180, 0, 13, 17, 3, 93, 42, 180, 1, 52, 79, 42, 180, 1, 52, 172]
abbrev dktX11_minutes_3 : List UInt8 := dkwX11_minutes_3 ++ []
def dkwX11_minutes_2 : List UInt8 := [162, 0, 25, 42, 180, 0, 13, 17, 3, 94, 27, 96, 42, 180, 0, 22, 27, 46, 79, 132, 1, 1]
abbrev dktX11_minutes_2 : List UInt8 := dkwX11_minutes_2 ++ dktX11_minutes_3
def dkwX11_minutes_1 : List UInt8 := [42, 182, 1, 58, 154, 255, 245, 2, 42, 180, 0, 171, 100, 172, 3, 60, 27, 5, 42, 180, 1, 52, 104]
abbrev dktX11_minutes_1 : List UInt8 := dkwX11_minutes_1 ++ dktX11_minutes_2
def dkwX11_minutes_0 : List UInt8 := [42, 17, 1, 44, 182, 0, 236, 42, 3, 181, 1, 52, 42, 3, 181, 1, 49, 42, 180, 0, 128, 153, 0, 17]
abbrev dktX11_minutes_0 : List UInt8 := dkwX11_minutes_0 ++ dktX11_minutes_1
theorem dksX11_minutes_0 : cX11_minutes.data.toList.drop 0 = dktX11_minutes_0 := by decide +kernel
theorem dksX11_minutes_1 : cX11_minutes.data.toList.drop 24 = dktX11_minutes_1 := dk_seg dksX11_minutes_0 24 rfl rfl
theorem dksX11_minutes_2 : cX11_minutes.data.toList.drop 47 = dktX11_minutes_2 := dk_seg dksX11_minutes_1 23 rfl rfl
theorem dksX11_minutes_3 : cX11_minutes.data.toList.drop 69 = dktX11_minutes_3 := dk_seg dksX11_minutes_2 22 rfl rfl
theorem dX11_minutes_0 : decode cX11_minutes 0 = .ok (.aload_n 0, 1) := dk_42 (dk_at dksX11_minutes_0 0 rfl rfl)
theorem dX11_minutes_1 : decode cX11_minutes 1 = .ok (.sipush 300, 3) := dk_17 1 44 (dk_at dksX11_minutes_0 1 rfl rfl)
theorem dX11_minutes_4 : decode cX11_minutes 4 = .ok (.invokevirtual 236, 3) := dk_182 0 236 (dk_at dksX11_minutes_0 4 rfl rfl)
theorem dX11_minutes_7 : decode cX11_minutes 7 = .ok (.aload_n 0, 1) := dk_42 (dk_at dksX11_minutes_0 7 rfl rfl)
theorem dX11_minutes_8 : decode cX11_minutes 8 = .ok (.iconst 0, 1) := dk_3 (dk_at dksX11_minutes_0 8 rfl rfl)
theorem dX11_minutes_9 : decode cX11_minutes 9 = .ok (.putfield 308, 3) := dk_181 1 52 (dk_at dksX11_minutes_0 9 rfl rfl)
theorem dX11_minutes_12 : decode cX11_minutes 12 = .ok (.aload_n 0, 1) := dk_42 (dk_at dksX11_minutes_0 12 rfl rfl)
theorem dX11_minutes_13 : decode cX11_minutes 13 = .ok (.iconst 0, 1) := dk_3 (dk_at dksX11_minutes_0 13 rfl rfl)
theorem dX11_minutes_14 : decode cX11_minutes 14 = .ok (.putfield 305, 3) := dk_181 1 49 (dk_at dksX11_minutes_0 14 rfl rfl)
theorem dX11_minutes_17 : decode cX11_minutes 17 = .ok (.aload_n 0, 1) := dk_42 (dk_at dksX11_minutes_0 17 rfl rfl)
theorem dX11_minutes_18 : decode cX11_minutes 18 = .ok (.getfield 128, 3) := dk_180 0 128 (dk_at dksX11_minutes_0 18 rfl rfl)
theorem dX11_minutes_21 : decode cX11_minutes 21 = .ok (.ifCond .eq 17, 3) := dk_153 0 17 (dk_at dksX11_minutes_0 21 rfl rfl)
theorem dX11_minutes_24 : decode cX11_minutes 24 = .ok (.aload_n 0, 1) := dk_42 (dk_at dksX11_minutes_1 0 rfl rfl)
theorem dX11_minutes_25 : decode cX11_minutes 25 = .ok (.invokevirtual 314, 3) := dk_182 1 58 (dk_at dksX11_minutes_1 1 rfl rfl)
theorem dX11_minutes_28 : decode cX11_minutes 28 = .ok (.ifCond .ne (-11), 3) := dk_154 255 245 (dk_at dksX11_minutes_1 4 rfl rfl)
theorem dX11_minutes_31 : decode cX11_minutes 31 = .ok (.iconst (-1), 1) := dk_2 (dk_at dksX11_minutes_1 7 rfl rfl)
theorem dX11_minutes_32 : decode cX11_minutes 32 = .ok (.aload_n 0, 1) := dk_42 (dk_at dksX11_minutes_1 8 rfl rfl)
theorem dX11_minutes_33 : decode cX11_minutes 33 = .ok (.getfield 171, 3) := dk_180 0 171 (dk_at dksX11_minutes_1 9 rfl rfl)
theorem dX11_minutes_36 : decode cX11_minutes 36 = .ok (.isub, 1) := dk_100 (dk_at dksX11_minutes_1 12 rfl rfl)
theorem dX11_minutes_37 : decode cX11_minutes 37 = .ok (.ireturn, 1) := dk_172 (dk_at dksX11_minutes_1 13 rfl rfl)
theorem dX11_minutes_38 : decode cX11_minutes 38 = .ok (.iconst 0, 1) := dk_3 (dk_at dksX11_minutes_1 14 rfl rfl)
theorem dX11_minutes_39 : decode cX11_minutes 39 = .ok (.istore_n 1, 1) := dk_60 (dk_at dksX11_minutes_1 15 rfl rfl)
theorem dX11_minutes_40 : decode cX11_minutes 40 = .ok (.iload_n 1, 1) := dk_27 (dk_at dksX11_minutes_1 16 rfl rfl)
theorem dX11_minutes_41 : decode cX11_minutes 41 = .ok (.iconst 2, 1) := dk_5 (dk_at dksX11_minutes_1 17 rfl rfl)
theorem dX11_minutes_42 : decode cX11_minutes 42 = .ok (.aload_n 0, 1) := dk_42 (dk_at dksX11_minutes_1 18 rfl rfl)
theorem dX11_minutes_43 : decode cX11_minutes 43 = .ok (.getfield 308, 3) := dk_180 1 52 (dk_at dksX11_minutes_1 19 rfl rfl)
theorem dX11_minutes_46 : decode cX11_minutes 46 = .ok (.imul, 1) := dk_104 (dk_at dksX11_minutes_1 22 rfl rfl)
theorem dX11_minutes_47 : decode cX11_minutes 47 = .ok (.if_icmp .ge 25, 3) := dk_162 0 25 (dk_at dksX11_minutes_2 0 rfl rfl)
theorem dX11_minutes_50 : decode cX11_minutes 50 = .ok (.aload_n 0, 1) := dk_42 (dk_at dksX11_minutes_2 3 rfl rfl)
theorem dX11_minutes_51 : decode cX11_minutes 51 = .ok (.getfield 13, 3) := dk_180 0 13 (dk_at dksX11_minutes_2 4 rfl rfl)
theorem dX11_minutes_54 : decode cX11_minutes 54 = .ok (.sipush 862, 3) := dk_17 3 94 (dk_at dksX11_minutes_2 7 rfl rfl)
theorem dX11_minutes_57 : decode cX11_minutes 57 = .ok (.iload_n 1, 1) := dk_27 (dk_at dksX11_minutes_2 10 rfl rfl)
theorem dX11_minutes_58 : decode cX11_minutes 58 = .ok (.iadd, 1) := dk_96 (dk_at dksX11_minutes_2 11 rfl rfl)
theorem dX11_minutes_59 : decode cX11_minutes 59 = .ok (.aload_n 0, 1) := dk_42 (dk_at dksX11_minutes_2 12 rfl rfl)
theorem dX11_minutes_60 : decode cX11_minutes 60 = .ok (.getfield 22, 3) := dk_180 0 22 (dk_at dksX11_minutes_2 13 rfl rfl)
theorem dX11_minutes_63 : decode cX11_minutes 63 = .ok (.iload_n 1, 1) := dk_27 (dk_at dksX11_minutes_2 16 rfl rfl)
theorem dX11_minutes_64 : decode cX11_minutes 64 = .ok (.iaload, 1) := dk_46 (dk_at dksX11_minutes_2 17 rfl rfl)
theorem dX11_minutes_65 : decode cX11_minutes 65 = .ok (.iastore, 1) := dk_79 (dk_at dksX11_minutes_2 18 rfl rfl)
theorem dX11_minutes_66 : decode cX11_minutes 66 = .ok (.iinc 1 1, 3) := dk_132 1 1 (dk_at dksX11_minutes_2 19 rfl rfl)
theorem dX11_minutes_69 : decode cX11_minutes 69 = .ok (.goto (-29), 3) := dk_167 255 227 (dk_at dksX11_minutes_3 0 rfl rfl)
theorem dX11_minutes_72 : decode cX11_minutes 72 = .ok (.aload_n 0, 1) := dk_42 (dk_at dksX11_minutes_3 3 rfl rfl)
theorem dX11_minutes_73 : decode cX11_minutes 73 = .ok (.getfield 13, 3) := dk_180 0 13 (dk_at dksX11_minutes_3 4 rfl rfl)
theorem dX11_minutes_76 : decode cX11_minutes 76 = .ok (.sipush 861, 3) := dk_17 3 93 (dk_at dksX11_minutes_3 7 rfl rfl)
theorem dX11_minutes_79 : decode cX11_minutes 79 = .ok (.aload_n 0, 1) := dk_42 (dk_at dksX11_minutes_3 10 rfl rfl)
theorem dX11_minutes_80 : decode cX11_minutes 80 = .ok (.getfield 308, 3) := dk_180 1 52 (dk_at dksX11_minutes_3 11 rfl rfl)
theorem dX11_minutes_83 : decode cX11_minutes 83 = .ok (.iastore, 1) := dk_79 (dk_at dksX11_minutes_3 14 rfl rfl)
theorem dX11_minutes_84 : decode cX11_minutes 84 = .ok (.aload_n 0, 1) := dk_42 (dk_at dksX11_minutes_3 15 rfl rfl)
theorem dX11_minutes_85 : decode cX11_minutes 85 = .ok (.getfield 308, 3) := dk_180 1 52 (dk_at dksX11_minutes_3 16 rfl rfl)
theorem dX11_minutes_88 : decode cX11_minutes 88 = .ok (.ireturn, 1) := dk_172 (dk_at dksX11_minutes_3 19 rfl rfl)
abbrev cX11_readMinute : ByteArray := prog_21_method_68_code
def yX11_readMinute : MethodName := ⟨RX11, "readMinute", "()Z"⟩
def dkwX11_readMinute_6 : List UInt8 := [182, 0, 233, 172]
abbrev dktX11_readMinute_6 : List UInt8 := dkwX11_readMinute_6 ++ []
def dkwX11_readMinute_5 : List UInt8 := [180, 0, 13, 4, 46, 182, 1, 55, 154, 0, 5, 3, 172, 42, 89, 180, 1, 52, 4, 96, 181, 1, 52, 42]
abbrev dktX11_readMinute_5 : List UInt8 := dkwX11_readMinute_5 ++ dktX11_readMinute_6
def dkwX11_readMinute_4 : List UInt8 := [180, 0, 13, 3, 46, 182, 1, 55, 153, 0, 26, 42, 5, 42, 180, 1, 52, 104, 4, 96, 16, 8, 42]
abbrev dktX11_readMinute_4 : List UInt8 := dkwX11_readMinute_4 ++ dktX11_readMinute_5
def dkwX11_readMinute_3 : List UInt8 := [60, 42, 27, 153, 0, 7, 7, 167, 0, 4, 6, 182, 0, 174, 172, 42, 5, 42, 180, 1, 52, 104, 3, 42]
abbrev dktX11_readMinute_3 : List UInt8 := dkwX11_readMinute_3 ++ dktX11_readMinute_4
def dkwX11_readMinute_2 : List UInt8 := [42, 42, 180, 0, 25, 3, 42, 180, 0, 13, 3, 46, 182, 0, 198, 2, 159, 0, 7, 4, 167, 0, 4, 3]
abbrev dktX11_readMinute_2 : List UInt8 := dkwX11_readMinute_2 ++ dktX11_readMinute_3
def dkwX11_readMinute_1 : List UInt8 := [42, 4, 182, 0, 174, 172, 42, 180, 1, 52, 16, 24, 160, 0, 51, 42, 16, 14, 182, 0, 209, 154, 0, 22]
abbrev dktX11_readMinute_1 : List UInt8 := dkwX11_readMinute_1 ++ dktX11_readMinute_2
def dkwX11_readMinute_0 : List UInt8 := [42, 180, 0, 128, 5, 160, 0, 19, 42, 16, 14, 182, 0, 209, 154, 0, 16, 42, 182, 0, 194, 154, 0, 9]
abbrev dktX11_readMinute_0 : List UInt8 := dkwX11_readMinute_0 ++ dktX11_readMinute_1
theorem dksX11_readMinute_0 : cX11_readMinute.data.toList.drop 0 = dktX11_readMinute_0 := by decide +kernel
theorem dksX11_readMinute_1 : cX11_readMinute.data.toList.drop 24 = dktX11_readMinute_1 := dk_seg dksX11_readMinute_0 24 rfl rfl
theorem dksX11_readMinute_2 : cX11_readMinute.data.toList.drop 48 = dktX11_readMinute_2 := dk_seg dksX11_readMinute_1 24 rfl rfl
theorem dksX11_readMinute_3 : cX11_readMinute.data.toList.drop 72 = dktX11_readMinute_3 := dk_seg dksX11_readMinute_2 24 rfl rfl
theorem dksX11_readMinute_4 : cX11_readMinute.data.toList.drop 96 = dktX11_readMinute_4 := dk_seg dksX11_readMinute_3 24 rfl rfl
theorem dksX11_readMinute_5 : cX11_readMinute.data.toList.drop 119 = dktX11_readMinute_5 := dk_seg dksX11_readMinute_4 23 rfl rfl
theorem dksX11_readMinute_6 : cX11_readMinute.data.toList.drop 143 = dktX11_readMinute_6 := dk_seg dksX11_readMinute_5 24 rfl rfl
theorem dX11_readMinute_0 : decode cX11_readMinute 0 = .ok (.aload_n 0, 1) := dk_42 (dk_at dksX11_readMinute_0 0 rfl rfl)
theorem dX11_readMinute_1 : decode cX11_readMinute 1 = .ok (.getfield 128, 3) := dk_180 0 128 (dk_at dksX11_readMinute_0 1 rfl rfl)
theorem dX11_readMinute_4 : decode cX11_readMinute 4 = .ok (.iconst 2, 1) := dk_5 (dk_at dksX11_readMinute_0 4 rfl rfl)
theorem dX11_readMinute_5 : decode cX11_readMinute 5 = .ok (.if_icmp .ne 19, 3) := dk_160 0 19 (dk_at dksX11_readMinute_0 5 rfl rfl)
theorem dX11_readMinute_8 : decode cX11_readMinute 8 = .ok (.aload_n 0, 1) := dk_42 (dk_at dksX11_readMinute_0 8 rfl rfl)
theorem dX11_readMinute_9 : decode cX11_readMinute 9 = .ok (.bipush 14, 2) := dk_16 14 (dk_at dksX11_readMinute_0 9 rfl rfl)
theorem dX11_readMinute_11 : decode cX11_readMinute 11 = .ok (.invokevirtual 209, 3) := dk_182 0 209 (dk_at dksX11_readMinute_0 11 rfl rfl)
theorem dX11_readMinute_14 : decode cX11_readMinute 14 = .ok (.ifCond .ne 16, 3) := dk_154 0 16 (dk_at dksX11_readMinute_0 14 rfl rfl)
theorem dX11_readMinute_17 : decode cX11_readMinute 17 = .ok (.aload_n 0, 1) := dk_42 (dk_at dksX11_readMinute_0 17 rfl rfl)
theorem dX11_readMinute_18 : decode cX11_readMinute 18 = .ok (.invokevirtual 194, 3) := dk_182 0 194 (dk_at dksX11_readMinute_0 18 rfl rfl)
theorem dX11_readMinute_21 : decode cX11_readMinute 21 = .ok (.ifCond .ne 9, 3) := dk_154 0 9 (dk_at dksX11_readMinute_0 21 rfl rfl)
theorem dX11_readMinute_24 : decode cX11_readMinute 24 = .ok (.aload_n 0, 1) := dk_42 (dk_at dksX11_readMinute_1 0 rfl rfl)
theorem dX11_readMinute_25 : decode cX11_readMinute 25 = .ok (.iconst 1, 1) := dk_4 (dk_at dksX11_readMinute_1 1 rfl rfl)
theorem dX11_readMinute_26 : decode cX11_readMinute 26 = .ok (.invokevirtual 174, 3) := dk_182 0 174 (dk_at dksX11_readMinute_1 2 rfl rfl)
theorem dX11_readMinute_29 : decode cX11_readMinute 29 = .ok (.ireturn, 1) := dk_172 (dk_at dksX11_readMinute_1 5 rfl rfl)
theorem dX11_readMinute_30 : decode cX11_readMinute 30 = .ok (.aload_n 0, 1) := dk_42 (dk_at dksX11_readMinute_1 6 rfl rfl)
theorem dX11_readMinute_31 : decode cX11_readMinute 31 = .ok (.getfield 308, 3) := dk_180 1 52 (dk_at dksX11_readMinute_1 7 rfl rfl)
theorem dX11_readMinute_34 : decode cX11_readMinute 34 = .ok (.bipush 24, 2) := dk_16 24 (dk_at dksX11_readMinute_1 10 rfl rfl)
theorem dX11_readMinute_36 : decode cX11_readMinute 36 = .ok (.if_icmp .ne 51, 3) := dk_160 0 51 (dk_at dksX11_readMinute_1 12 rfl rfl)
theorem dX11_readMinute_39 : decode cX11_readMinute 39 = .ok (.aload_n 0, 1) := dk_42 (dk_at dksX11_readMinute_1 15 rfl rfl)
theorem dX11_readMinute_40 : decode cX11_readMinute 40 = .ok (.bipush 14, 2) := dk_16 14 (dk_at dksX11_readMinute_1 16 rfl rfl)
theorem dX11_readMinute_42 : decode cX11_readMinute 42 = .ok (.invokevirtual 209, 3) := dk_182 0 209 (dk_at dksX11_readMinute_1 18 rfl rfl)
theorem dX11_readMinute_45 : decode cX11_readMinute 45 = .ok (.ifCond .ne 22, 3) := dk_154 0 22 (dk_at dksX11_readMinute_1 21 rfl rfl)
theorem dX11_readMinute_48 : decode cX11_readMinute 48 = .ok (.aload_n 0, 1) := dk_42 (dk_at dksX11_readMinute_2 0 rfl rfl)
theorem dX11_readMinute_49 : decode cX11_readMinute 49 = .ok (.aload_n 0, 1) := dk_42 (dk_at dksX11_readMinute_2 1 rfl rfl)
theorem dX11_readMinute_50 : decode cX11_readMinute 50 = .ok (.getfield 25, 3) := dk_180 0 25 (dk_at dksX11_readMinute_2 2 rfl rfl)
theorem dX11_readMinute_53 : decode cX11_readMinute 53 = .ok (.iconst 0, 1) := dk_3 (dk_at dksX11_readMinute_2 5 rfl rfl)
theorem dX11_readMinute_54 : decode cX11_readMinute 54 = .ok (.aload_n 0, 1) := dk_42 (dk_at dksX11_readMinute_2 6 rfl rfl)
theorem dX11_readMinute_55 : decode cX11_readMinute 55 = .ok (.getfield 13, 3) := dk_180 0 13 (dk_at dksX11_readMinute_2 7 rfl rfl)
theorem dX11_readMinute_58 : decode cX11_readMinute 58 = .ok (.iconst 0, 1) := dk_3 (dk_at dksX11_readMinute_2 10 rfl rfl)
theorem dX11_readMinute_59 : decode cX11_readMinute 59 = .ok (.iaload, 1) := dk_46 (dk_at dksX11_readMinute_2 11 rfl rfl)
theorem dX11_readMinute_60 : decode cX11_readMinute 60 = .ok (.invokevirtual 198, 3) := dk_182 0 198 (dk_at dksX11_readMinute_2 12 rfl rfl)
theorem dX11_readMinute_63 : decode cX11_readMinute 63 = .ok (.iconst (-1), 1) := dk_2 (dk_at dksX11_readMinute_2 15 rfl rfl)
theorem dX11_readMinute_64 : decode cX11_readMinute 64 = .ok (.if_icmp .eq 7, 3) := dk_159 0 7 (dk_at dksX11_readMinute_2 16 rfl rfl)
theorem dX11_readMinute_67 : decode cX11_readMinute 67 = .ok (.iconst 1, 1) := dk_4 (dk_at dksX11_readMinute_2 19 rfl rfl)
theorem dX11_readMinute_68 : decode cX11_readMinute 68 = .ok (.goto 4, 3) := dk_167 0 4 (dk_at dksX11_readMinute_2 20 rfl rfl)
theorem dX11_readMinute_71 : decode cX11_readMinute 71 = .ok (.iconst 0, 1) := dk_3 (dk_at dksX11_readMinute_2 23 rfl rfl)
theorem dX11_readMinute_72 : decode cX11_readMinute 72 = .ok (.istore_n 1, 1) := dk_60 (dk_at dksX11_readMinute_3 0 rfl rfl)
theorem dX11_readMinute_73 : decode cX11_readMinute 73 = .ok (.aload_n 0, 1) := dk_42 (dk_at dksX11_readMinute_3 1 rfl rfl)
theorem dX11_readMinute_74 : decode cX11_readMinute 74 = .ok (.iload_n 1, 1) := dk_27 (dk_at dksX11_readMinute_3 2 rfl rfl)
theorem dX11_readMinute_75 : decode cX11_readMinute 75 = .ok (.ifCond .eq 7, 3) := dk_153 0 7 (dk_at dksX11_readMinute_3 3 rfl rfl)
theorem dX11_readMinute_78 : decode cX11_readMinute 78 = .ok (.iconst 4, 1) := dk_7 (dk_at dksX11_readMinute_3 6 rfl rfl)
theorem dX11_readMinute_79 : decode cX11_readMinute 79 = .ok (.goto 4, 3) := dk_167 0 4 (dk_at dksX11_readMinute_3 7 rfl rfl)
theorem dX11_readMinute_82 : decode cX11_readMinute 82 = .ok (.iconst 3, 1) := dk_6 (dk_at dksX11_readMinute_3 10 rfl rfl)
theorem dX11_readMinute_83 : decode cX11_readMinute 83 = .ok (.invokevirtual 174, 3) := dk_182 0 174 (dk_at dksX11_readMinute_3 11 rfl rfl)
theorem dX11_readMinute_86 : decode cX11_readMinute 86 = .ok (.ireturn, 1) := dk_172 (dk_at dksX11_readMinute_3 14 rfl rfl)
theorem dX11_readMinute_87 : decode cX11_readMinute 87 = .ok (.aload_n 0, 1) := dk_42 (dk_at dksX11_readMinute_3 15 rfl rfl)
theorem dX11_readMinute_88 : decode cX11_readMinute 88 = .ok (.iconst 2, 1) := dk_5 (dk_at dksX11_readMinute_3 16 rfl rfl)
theorem dX11_readMinute_89 : decode cX11_readMinute 89 = .ok (.aload_n 0, 1) := dk_42 (dk_at dksX11_readMinute_3 17 rfl rfl)
theorem dX11_readMinute_90 : decode cX11_readMinute 90 = .ok (.getfield 308, 3) := dk_180 1 52 (dk_at dksX11_readMinute_3 18 rfl rfl)
theorem dX11_readMinute_93 : decode cX11_readMinute 93 = .ok (.imul, 1) := dk_104 (dk_at dksX11_readMinute_3 21 rfl rfl)
theorem dX11_readMinute_94 : decode cX11_readMinute 94 = .ok (.iconst 0, 1) := dk_3 (dk_at dksX11_readMinute_3 22 rfl rfl)
theorem dX11_readMinute_95 : decode cX11_readMinute 95 = .ok (.aload_n 0, 1) := dk_42 (dk_at dksX11_readMinute_3 23 rfl rfl)
theorem dX11_readMinute_96 : decode cX11_readMinute 96 = .ok (.getfield 13, 3) := dk_180 0 13 (dk_at dksX11_readMinute_4 0 rfl rfl)
theorem dX11_readMinute_99 : decode cX11_readMinute 99 = .ok (.iconst 0, 1) := dk_3 (dk_at dksX11_readMinute_4 3 rfl rfl)
theorem dX11_readMinute_100 : decode cX11_readMinute 100 = .ok (.iaload, 1) := dk_46 (dk_at dksX11_readMinute_4 4 rfl rfl)
theorem dX11_readMinute_101 : decode cX11_readMinute 101 = .ok (.invokevirtual 311, 3) := dk_182 1 55 (dk_at dksX11_readMinute_4 5 rfl rfl)
theorem dX11_readMinute_104 : decode cX11_readMinute 104 = .ok (.ifCond .eq 26, 3) := dk_153 0 26 (dk_at dksX11_readMinute_4 8 rfl rfl)
theorem dX11_readMinute_107 : decode cX11_readMinute 107 = .ok (.aload_n 0, 1) := dk_42 (dk_at dksX11_readMinute_4 11 rfl rfl)
theorem dX11_readMinute_108 : decode cX11_readMinute 108 = .ok (.iconst 2, 1) := dk_5 (dk_at dksX11_readMinute_4 12 rfl rfl)
theorem dX11_readMinute_109 : decode cX11_readMinute 109 = .ok (.aload_n 0, 1) := dk_42 (dk_at dksX11_readMinute_4 13 rfl rfl)
theorem dX11_readMinute_110 : decode cX11_readMinute 110 = .ok (.getfield 308, 3) := dk_180 1 52 (dk_at dksX11_readMinute_4 14 rfl rfl)
theorem dX11_readMinute_113 : decode cX11_readMinute 113 = .ok (.imul, 1) := dk_104 (dk_at dksX11_readMinute_4 17 rfl rfl)
theorem dX11_readMinute_114 : decode cX11_readMinute 114 = .ok (.iconst 1, 1) := dk_4 (dk_at dksX11_readMinute_4 18 rfl rfl)
theorem dX11_readMinute_115 : decode cX11_readMinute 115 = .ok (.iadd, 1) := dk_96 (dk_at dksX11_readMinute_4 19 rfl rfl)
theorem dX11_readMinute_116 : decode cX11_readMinute 116 = .ok (.bipush 8, 2) := dk_16 8 (dk_at dksX11_readMinute_4 20 rfl rfl)
theorem dX11_readMinute_118 : decode cX11_readMinute 118 = .ok (.aload_n 0, 1) := dk_42 (dk_at dksX11_readMinute_4 22 rfl rfl)
theorem dX11_readMinute_119 : decode cX11_readMinute 119 = .ok (.getfield 13, 3) := dk_180 0 13 (dk_at dksX11_readMinute_5 0 rfl rfl)
theorem dX11_readMinute_122 : decode cX11_readMinute 122 = .ok (.iconst 1, 1) := dk_4 (dk_at dksX11_readMinute_5 3 rfl rfl)
theorem dX11_readMinute_123 : decode cX11_readMinute 123 = .ok (.iaload, 1) := dk_46 (dk_at dksX11_readMinute_5 4 rfl rfl)
theorem dX11_readMinute_124 : decode cX11_readMinute 124 = .ok (.invokevirtual 311, 3) := dk_182 1 55 (dk_at dksX11_readMinute_5 5 rfl rfl)
theorem dX11_readMinute_127 : decode cX11_readMinute 127 = .ok (.ifCond .ne 5, 3) := dk_154 0 5 (dk_at dksX11_readMinute_5 8 rfl rfl)
theorem dX11_readMinute_130 : decode cX11_readMinute 130 = .ok (.iconst 0, 1) := dk_3 (dk_at dksX11_readMinute_5 11 rfl rfl)
theorem dX11_readMinute_131 : decode cX11_readMinute 131 = .ok (.ireturn, 1) := dk_172 (dk_at dksX11_readMinute_5 12 rfl rfl)
theorem dX11_readMinute_132 : decode cX11_readMinute 132 = .ok (.aload_n 0, 1) := dk_42 (dk_at dksX11_readMinute_5 13 rfl rfl)
theorem dX11_readMinute_133 : decode cX11_readMinute 133 = .ok (.dup, 1) := dk_89 (dk_at dksX11_readMinute_5 14 rfl rfl)
theorem dX11_readMinute_134 : decode cX11_readMinute 134 = .ok (.getfield 308, 3) := dk_180 1 52 (dk_at dksX11_readMinute_5 15 rfl rfl)
theorem dX11_readMinute_137 : decode cX11_readMinute 137 = .ok (.iconst 1, 1) := dk_4 (dk_at dksX11_readMinute_5 18 rfl rfl)
theorem dX11_readMinute_138 : decode cX11_readMinute 138 = .ok (.iadd, 1) := dk_96 (dk_at dksX11_readMinute_5 19 rfl rfl)
theorem dX11_readMinute_139 : decode cX11_readMinute 139 = .ok (.putfield 308, 3) := dk_181 1 52 (dk_at dksX11_readMinute_5 20 rfl rfl)
theorem dX11_readMinute_142 : decode cX11_readMinute 142 = .ok (.aload_n 0, 1) := dk_42 (dk_at dksX11_readMinute_5 23 rfl rfl)
theorem dX11_readMinute_143 : decode cX11_readMinute 143 = .ok (.invokevirtual 233, 3) := dk_182 0 233 (dk_at dksX11_readMinute_6 0 rfl rfl)
theorem dX11_readMinute_146 : decode cX11_readMinute 146 = .ok (.ireturn, 1) := dk_172 (dk_at dksX11_readMinute_6 3 rfl rfl)
abbrev cX11_readTorn : ByteArray := prog_21_method_67_code
def yX11_readTorn : MethodName := ⟨RX11, "readTorn", "(III)Z"⟩
def dkwX11_readTorn_4 : List UInt8 := [4, 172]
abbrev dktX11_readTorn_4 : List UInt8 := dkwX11_readTorn_4 ++ []
def dkwX11_readTorn_3 : List UInt8 := [182, 0, 198, 79, 42, 180, 0, 22, 27, 46, 2, 160, 0, 9, 42, 6, 182, 0, 174, 172, 42, 182, 0, 184]
abbrev dktX11_readTorn_3 : List UInt8 := dkwX11_readTorn_3 ++ dktX11_readTorn_4
def dkwX11_readTorn_2 : List UInt8 := [182, 0, 194, 154, 0, 9, 42, 4, 182, 0, 174, 172, 42, 180, 0, 22, 27, 42, 42, 180, 0, 25, 28, 29]
abbrev dktX11_readTorn_2 : List UInt8 := dkwX11_readTorn_2 ++ dktX11_readTorn_3
def dkwX11_readTorn_1 : List UInt8 := [42, 89, 180, 1, 49, 4, 96, 181, 1, 49, 42, 180, 0, 22, 27, 2, 79, 42, 182, 0, 184, 4, 172, 42]
abbrev dktX11_readTorn_1 : List UInt8 := dkwX11_readTorn_1 ++ dktX11_readTorn_2
def dkwX11_readTorn_0 : List UInt8 := [42, 16, 14, 182, 0, 209, 153, 0, 41, 42, 180, 1, 49, 16, 8, 160, 0, 9, 42, 7, 182, 0, 174, 172]
abbrev dktX11_readTorn_0 : List UInt8 := dkwX11_readTorn_0 ++ dktX11_readTorn_1
theorem dksX11_readTorn_0 : cX11_readTorn.data.toList.drop 0 = dktX11_readTorn_0 := by decide +kernel
theorem dksX11_readTorn_1 : cX11_readTorn.data.toList.drop 24 = dktX11_readTorn_1 := dk_seg dksX11_readTorn_0 24 rfl rfl
theorem dksX11_readTorn_2 : cX11_readTorn.data.toList.drop 48 = dktX11_readTorn_2 := dk_seg dksX11_readTorn_1 24 rfl rfl
theorem dksX11_readTorn_3 : cX11_readTorn.data.toList.drop 72 = dktX11_readTorn_3 := dk_seg dksX11_readTorn_2 24 rfl rfl
theorem dksX11_readTorn_4 : cX11_readTorn.data.toList.drop 96 = dktX11_readTorn_4 := dk_seg dksX11_readTorn_3 24 rfl rfl
theorem dX11_readTorn_0 : decode cX11_readTorn 0 = .ok (.aload_n 0, 1) := dk_42 (dk_at dksX11_readTorn_0 0 rfl rfl)
theorem dX11_readTorn_1 : decode cX11_readTorn 1 = .ok (.bipush 14, 2) := dk_16 14 (dk_at dksX11_readTorn_0 1 rfl rfl)
theorem dX11_readTorn_3 : decode cX11_readTorn 3 = .ok (.invokevirtual 209, 3) := dk_182 0 209 (dk_at dksX11_readTorn_0 3 rfl rfl)
theorem dX11_readTorn_6 : decode cX11_readTorn 6 = .ok (.ifCond .eq 41, 3) := dk_153 0 41 (dk_at dksX11_readTorn_0 6 rfl rfl)
theorem dX11_readTorn_9 : decode cX11_readTorn 9 = .ok (.aload_n 0, 1) := dk_42 (dk_at dksX11_readTorn_0 9 rfl rfl)
theorem dX11_readTorn_10 : decode cX11_readTorn 10 = .ok (.getfield 305, 3) := dk_180 1 49 (dk_at dksX11_readTorn_0 10 rfl rfl)
theorem dX11_readTorn_13 : decode cX11_readTorn 13 = .ok (.bipush 8, 2) := dk_16 8 (dk_at dksX11_readTorn_0 13 rfl rfl)
theorem dX11_readTorn_15 : decode cX11_readTorn 15 = .ok (.if_icmp .ne 9, 3) := dk_160 0 9 (dk_at dksX11_readTorn_0 15 rfl rfl)
theorem dX11_readTorn_18 : decode cX11_readTorn 18 = .ok (.aload_n 0, 1) := dk_42 (dk_at dksX11_readTorn_0 18 rfl rfl)
theorem dX11_readTorn_19 : decode cX11_readTorn 19 = .ok (.iconst 4, 1) := dk_7 (dk_at dksX11_readTorn_0 19 rfl rfl)
theorem dX11_readTorn_20 : decode cX11_readTorn 20 = .ok (.invokevirtual 174, 3) := dk_182 0 174 (dk_at dksX11_readTorn_0 20 rfl rfl)
theorem dX11_readTorn_23 : decode cX11_readTorn 23 = .ok (.ireturn, 1) := dk_172 (dk_at dksX11_readTorn_0 23 rfl rfl)
theorem dX11_readTorn_24 : decode cX11_readTorn 24 = .ok (.aload_n 0, 1) := dk_42 (dk_at dksX11_readTorn_1 0 rfl rfl)
theorem dX11_readTorn_25 : decode cX11_readTorn 25 = .ok (.dup, 1) := dk_89 (dk_at dksX11_readTorn_1 1 rfl rfl)
theorem dX11_readTorn_26 : decode cX11_readTorn 26 = .ok (.getfield 305, 3) := dk_180 1 49 (dk_at dksX11_readTorn_1 2 rfl rfl)
theorem dX11_readTorn_29 : decode cX11_readTorn 29 = .ok (.iconst 1, 1) := dk_4 (dk_at dksX11_readTorn_1 5 rfl rfl)
theorem dX11_readTorn_30 : decode cX11_readTorn 30 = .ok (.iadd, 1) := dk_96 (dk_at dksX11_readTorn_1 6 rfl rfl)
theorem dX11_readTorn_31 : decode cX11_readTorn 31 = .ok (.putfield 305, 3) := dk_181 1 49 (dk_at dksX11_readTorn_1 7 rfl rfl)
theorem dX11_readTorn_34 : decode cX11_readTorn 34 = .ok (.aload_n 0, 1) := dk_42 (dk_at dksX11_readTorn_1 10 rfl rfl)
theorem dX11_readTorn_35 : decode cX11_readTorn 35 = .ok (.getfield 22, 3) := dk_180 0 22 (dk_at dksX11_readTorn_1 11 rfl rfl)
theorem dX11_readTorn_38 : decode cX11_readTorn 38 = .ok (.iload_n 1, 1) := dk_27 (dk_at dksX11_readTorn_1 14 rfl rfl)
theorem dX11_readTorn_39 : decode cX11_readTorn 39 = .ok (.iconst (-1), 1) := dk_2 (dk_at dksX11_readTorn_1 15 rfl rfl)
theorem dX11_readTorn_40 : decode cX11_readTorn 40 = .ok (.iastore, 1) := dk_79 (dk_at dksX11_readTorn_1 16 rfl rfl)
theorem dX11_readTorn_41 : decode cX11_readTorn 41 = .ok (.aload_n 0, 1) := dk_42 (dk_at dksX11_readTorn_1 17 rfl rfl)
theorem dX11_readTorn_42 : decode cX11_readTorn 42 = .ok (.invokevirtual 184, 3) := dk_182 0 184 (dk_at dksX11_readTorn_1 18 rfl rfl)
theorem dX11_readTorn_45 : decode cX11_readTorn 45 = .ok (.iconst 1, 1) := dk_4 (dk_at dksX11_readTorn_1 21 rfl rfl)
theorem dX11_readTorn_46 : decode cX11_readTorn 46 = .ok (.ireturn, 1) := dk_172 (dk_at dksX11_readTorn_1 22 rfl rfl)
theorem dX11_readTorn_47 : decode cX11_readTorn 47 = .ok (.aload_n 0, 1) := dk_42 (dk_at dksX11_readTorn_1 23 rfl rfl)
theorem dX11_readTorn_48 : decode cX11_readTorn 48 = .ok (.invokevirtual 194, 3) := dk_182 0 194 (dk_at dksX11_readTorn_2 0 rfl rfl)
theorem dX11_readTorn_51 : decode cX11_readTorn 51 = .ok (.ifCond .ne 9, 3) := dk_154 0 9 (dk_at dksX11_readTorn_2 3 rfl rfl)
theorem dX11_readTorn_54 : decode cX11_readTorn 54 = .ok (.aload_n 0, 1) := dk_42 (dk_at dksX11_readTorn_2 6 rfl rfl)
theorem dX11_readTorn_55 : decode cX11_readTorn 55 = .ok (.iconst 1, 1) := dk_4 (dk_at dksX11_readTorn_2 7 rfl rfl)
theorem dX11_readTorn_56 : decode cX11_readTorn 56 = .ok (.invokevirtual 174, 3) := dk_182 0 174 (dk_at dksX11_readTorn_2 8 rfl rfl)
theorem dX11_readTorn_59 : decode cX11_readTorn 59 = .ok (.ireturn, 1) := dk_172 (dk_at dksX11_readTorn_2 11 rfl rfl)
theorem dX11_readTorn_60 : decode cX11_readTorn 60 = .ok (.aload_n 0, 1) := dk_42 (dk_at dksX11_readTorn_2 12 rfl rfl)
theorem dX11_readTorn_61 : decode cX11_readTorn 61 = .ok (.getfield 22, 3) := dk_180 0 22 (dk_at dksX11_readTorn_2 13 rfl rfl)
theorem dX11_readTorn_64 : decode cX11_readTorn 64 = .ok (.iload_n 1, 1) := dk_27 (dk_at dksX11_readTorn_2 16 rfl rfl)
theorem dX11_readTorn_65 : decode cX11_readTorn 65 = .ok (.aload_n 0, 1) := dk_42 (dk_at dksX11_readTorn_2 17 rfl rfl)
theorem dX11_readTorn_66 : decode cX11_readTorn 66 = .ok (.aload_n 0, 1) := dk_42 (dk_at dksX11_readTorn_2 18 rfl rfl)
theorem dX11_readTorn_67 : decode cX11_readTorn 67 = .ok (.getfield 25, 3) := dk_180 0 25 (dk_at dksX11_readTorn_2 19 rfl rfl)
theorem dX11_readTorn_70 : decode cX11_readTorn 70 = .ok (.iload_n 2, 1) := dk_28 (dk_at dksX11_readTorn_2 22 rfl rfl)
theorem dX11_readTorn_71 : decode cX11_readTorn 71 = .ok (.iload_n 3, 1) := dk_29 (dk_at dksX11_readTorn_2 23 rfl rfl)
theorem dX11_readTorn_72 : decode cX11_readTorn 72 = .ok (.invokevirtual 198, 3) := dk_182 0 198 (dk_at dksX11_readTorn_3 0 rfl rfl)
theorem dX11_readTorn_75 : decode cX11_readTorn 75 = .ok (.iastore, 1) := dk_79 (dk_at dksX11_readTorn_3 3 rfl rfl)
theorem dX11_readTorn_76 : decode cX11_readTorn 76 = .ok (.aload_n 0, 1) := dk_42 (dk_at dksX11_readTorn_3 4 rfl rfl)
theorem dX11_readTorn_77 : decode cX11_readTorn 77 = .ok (.getfield 22, 3) := dk_180 0 22 (dk_at dksX11_readTorn_3 5 rfl rfl)
theorem dX11_readTorn_80 : decode cX11_readTorn 80 = .ok (.iload_n 1, 1) := dk_27 (dk_at dksX11_readTorn_3 8 rfl rfl)
theorem dX11_readTorn_81 : decode cX11_readTorn 81 = .ok (.iaload, 1) := dk_46 (dk_at dksX11_readTorn_3 9 rfl rfl)
theorem dX11_readTorn_82 : decode cX11_readTorn 82 = .ok (.iconst (-1), 1) := dk_2 (dk_at dksX11_readTorn_3 10 rfl rfl)
theorem dX11_readTorn_83 : decode cX11_readTorn 83 = .ok (.if_icmp .ne 9, 3) := dk_160 0 9 (dk_at dksX11_readTorn_3 11 rfl rfl)
theorem dX11_readTorn_86 : decode cX11_readTorn 86 = .ok (.aload_n 0, 1) := dk_42 (dk_at dksX11_readTorn_3 14 rfl rfl)
theorem dX11_readTorn_87 : decode cX11_readTorn 87 = .ok (.iconst 3, 1) := dk_6 (dk_at dksX11_readTorn_3 15 rfl rfl)
theorem dX11_readTorn_88 : decode cX11_readTorn 88 = .ok (.invokevirtual 174, 3) := dk_182 0 174 (dk_at dksX11_readTorn_3 16 rfl rfl)
theorem dX11_readTorn_91 : decode cX11_readTorn 91 = .ok (.ireturn, 1) := dk_172 (dk_at dksX11_readTorn_3 19 rfl rfl)
theorem dX11_readTorn_92 : decode cX11_readTorn 92 = .ok (.aload_n 0, 1) := dk_42 (dk_at dksX11_readTorn_3 20 rfl rfl)
theorem dX11_readTorn_93 : decode cX11_readTorn 93 = .ok (.invokevirtual 184, 3) := dk_182 0 184 (dk_at dksX11_readTorn_3 21 rfl rfl)
theorem dX11_readTorn_96 : decode cX11_readTorn 96 = .ok (.iconst 1, 1) := dk_4 (dk_at dksX11_readTorn_4 0 rfl rfl)
theorem dX11_readTorn_97 : decode cX11_readTorn 97 = .ok (.ireturn, 1) := dk_172 (dk_at dksX11_readTorn_4 1 rfl rfl)
abbrev cX11_wholes : ByteArray := prog_21_method_74_code
def yX11_wholes : MethodName := ⟨RX11, "wholes", "(I)I"⟩
def dkwX11_wholes_8 : List UInt8 := [42, 180, 0, 75, 29, 46, 79, 132, 3, 1, 167, 255, 209, 42, 180, 1, 64, 172]
abbrev dktX11_wholes_8 : List UInt8 := dkwX11_wholes_8 ++ []
def dkwX11_wholes_7 : List UInt8 := [42, 180, 0, 69, 29, 46, 79, 42, 180, 0, 81, 29, 42, 180, 0, 72, 29, 46, 79, 42, 180, 0, 84, 29]
abbrev dktX11_wholes_7 : List UInt8 := dkwX11_wholes_7 ++ dktX11_wholes_8
def dkwX11_wholes_6 : List UInt8 := [4, 100, 167, 0, 4, 28, 181, 1, 82, 3, 62, 29, 42, 180, 1, 82, 162, 0, 45, 42, 180, 0, 78, 29]
abbrev dktX11_wholes_6 : List UInt8 := dkwX11_wholes_6 ++ dktX11_wholes_7
def dkwX11_wholes_5 : List UInt8 := [132, 3, 1, 167, 255, 200, 42, 42, 180, 1, 64, 154, 0, 7, 3, 167, 0, 15, 27, 4, 160, 0, 9, 28]
abbrev dktX11_wholes_5 : List UInt8 := dkwX11_wholes_5 ++ dktX11_wholes_6
def dkwX11_wholes_4 : List UInt8 := [29, 167, 0, 4, 2, 27, 5, 160, 0, 7, 29, 167, 0, 4, 2, 182, 1, 79, 42, 3, 182, 1, 67]
abbrev dktX11_wholes_4 : List UInt8 := dkwX11_wholes_4 ++ dktX11_wholes_5
def dkwX11_wholes_3 : List UInt8 := [158, 0, 53, 27, 5, 160, 0, 13, 29, 28, 4, 100, 160, 0, 6, 167, 0, 38, 42, 27, 4, 160, 0, 7]
abbrev dktX11_wholes_3 : List UInt8 := dkwX11_wholes_3 ++ dktX11_wholes_4
def dkwX11_wholes_2 : List UInt8 := [154, 0, 14, 42, 2, 2, 182, 1, 79, 42, 3, 182, 1, 67, 3, 62, 29, 28, 162, 0, 57, 27]
abbrev dktX11_wholes_2 : List UInt8 := dkwX11_wholes_2 ++ dktX11_wholes_3
def dkwX11_wholes_1 : List UInt8 := [17, 78, 32, 164, 0, 6, 16, 254, 172, 42, 182, 1, 76, 42, 180, 0, 13, 17, 3, 93, 46, 61, 27]
abbrev dktX11_wholes_1 : List UInt8 := dkwX11_wholes_1 ++ dktX11_wholes_2
def dkwX11_wholes_0 : List UInt8 := [42, 3, 181, 0, 106, 27, 3, 5, 184, 0, 177, 154, 0, 5, 2, 172, 42, 4, 17, 78, 32, 182, 1, 73]
abbrev dktX11_wholes_0 : List UInt8 := dkwX11_wholes_0 ++ dktX11_wholes_1
theorem dksX11_wholes_0 : cX11_wholes.data.toList.drop 0 = dktX11_wholes_0 := by decide +kernel
theorem dksX11_wholes_1 : cX11_wholes.data.toList.drop 24 = dktX11_wholes_1 := dk_seg dksX11_wholes_0 24 rfl rfl
theorem dksX11_wholes_2 : cX11_wholes.data.toList.drop 47 = dktX11_wholes_2 := dk_seg dksX11_wholes_1 23 rfl rfl
theorem dksX11_wholes_3 : cX11_wholes.data.toList.drop 69 = dktX11_wholes_3 := dk_seg dksX11_wholes_2 22 rfl rfl
theorem dksX11_wholes_4 : cX11_wholes.data.toList.drop 93 = dktX11_wholes_4 := dk_seg dksX11_wholes_3 24 rfl rfl
theorem dksX11_wholes_5 : cX11_wholes.data.toList.drop 116 = dktX11_wholes_5 := dk_seg dksX11_wholes_4 23 rfl rfl
theorem dksX11_wholes_6 : cX11_wholes.data.toList.drop 140 = dktX11_wholes_6 := dk_seg dksX11_wholes_5 24 rfl rfl
theorem dksX11_wholes_7 : cX11_wholes.data.toList.drop 164 = dktX11_wholes_7 := dk_seg dksX11_wholes_6 24 rfl rfl
theorem dksX11_wholes_8 : cX11_wholes.data.toList.drop 188 = dktX11_wholes_8 := dk_seg dksX11_wholes_7 24 rfl rfl
theorem dX11_wholes_0 : decode cX11_wholes 0 = .ok (.aload_n 0, 1) := dk_42 (dk_at dksX11_wholes_0 0 rfl rfl)
theorem dX11_wholes_1 : decode cX11_wholes 1 = .ok (.iconst 0, 1) := dk_3 (dk_at dksX11_wholes_0 1 rfl rfl)
theorem dX11_wholes_2 : decode cX11_wholes 2 = .ok (.putfield 106, 3) := dk_181 0 106 (dk_at dksX11_wholes_0 2 rfl rfl)
theorem dX11_wholes_5 : decode cX11_wholes 5 = .ok (.iload_n 1, 1) := dk_27 (dk_at dksX11_wholes_0 5 rfl rfl)
theorem dX11_wholes_6 : decode cX11_wholes 6 = .ok (.iconst 0, 1) := dk_3 (dk_at dksX11_wholes_0 6 rfl rfl)
theorem dX11_wholes_7 : decode cX11_wholes 7 = .ok (.iconst 2, 1) := dk_5 (dk_at dksX11_wholes_0 7 rfl rfl)
theorem dX11_wholes_8 : decode cX11_wholes 8 = .ok (.invokestatic 177, 3) := dk_184 0 177 (dk_at dksX11_wholes_0 8 rfl rfl)
theorem dX11_wholes_11 : decode cX11_wholes 11 = .ok (.ifCond .ne 5, 3) := dk_154 0 5 (dk_at dksX11_wholes_0 11 rfl rfl)
theorem dX11_wholes_14 : decode cX11_wholes 14 = .ok (.iconst (-1), 1) := dk_2 (dk_at dksX11_wholes_0 14 rfl rfl)
theorem dX11_wholes_15 : decode cX11_wholes 15 = .ok (.ireturn, 1) := dk_172 (dk_at dksX11_wholes_0 15 rfl rfl)
theorem dX11_wholes_16 : decode cX11_wholes 16 = .ok (.aload_n 0, 1) := dk_42 (dk_at dksX11_wholes_0 16 rfl rfl)
theorem dX11_wholes_17 : decode cX11_wholes 17 = .ok (.iconst 1, 1) := dk_4 (dk_at dksX11_wholes_0 17 rfl rfl)
theorem dX11_wholes_18 : decode cX11_wholes 18 = .ok (.sipush 20000, 3) := dk_17 78 32 (dk_at dksX11_wholes_0 18 rfl rfl)
theorem dX11_wholes_21 : decode cX11_wholes 21 = .ok (.invokevirtual 329, 3) := dk_182 1 73 (dk_at dksX11_wholes_0 21 rfl rfl)
theorem dX11_wholes_24 : decode cX11_wholes 24 = .ok (.sipush 20000, 3) := dk_17 78 32 (dk_at dksX11_wholes_1 0 rfl rfl)
theorem dX11_wholes_27 : decode cX11_wholes 27 = .ok (.if_icmp .le 6, 3) := dk_164 0 6 (dk_at dksX11_wholes_1 3 rfl rfl)
theorem dX11_wholes_30 : decode cX11_wholes 30 = .ok (.bipush (-2), 2) := dk_16 254 (dk_at dksX11_wholes_1 6 rfl rfl)
theorem dX11_wholes_32 : decode cX11_wholes 32 = .ok (.ireturn, 1) := dk_172 (dk_at dksX11_wholes_1 8 rfl rfl)
theorem dX11_wholes_33 : decode cX11_wholes 33 = .ok (.aload_n 0, 1) := dk_42 (dk_at dksX11_wholes_1 9 rfl rfl)
theorem dX11_wholes_34 : decode cX11_wholes 34 = .ok (.invokevirtual 332, 3) := dk_182 1 76 (dk_at dksX11_wholes_1 10 rfl rfl)
theorem dX11_wholes_37 : decode cX11_wholes 37 = .ok (.aload_n 0, 1) := dk_42 (dk_at dksX11_wholes_1 13 rfl rfl)
theorem dX11_wholes_38 : decode cX11_wholes 38 = .ok (.getfield 13, 3) := dk_180 0 13 (dk_at dksX11_wholes_1 14 rfl rfl)
theorem dX11_wholes_41 : decode cX11_wholes 41 = .ok (.sipush 861, 3) := dk_17 3 93 (dk_at dksX11_wholes_1 17 rfl rfl)
theorem dX11_wholes_44 : decode cX11_wholes 44 = .ok (.iaload, 1) := dk_46 (dk_at dksX11_wholes_1 20 rfl rfl)
theorem dX11_wholes_45 : decode cX11_wholes 45 = .ok (.istore_n 2, 1) := dk_61 (dk_at dksX11_wholes_1 21 rfl rfl)
theorem dX11_wholes_46 : decode cX11_wholes 46 = .ok (.iload_n 1, 1) := dk_27 (dk_at dksX11_wholes_1 22 rfl rfl)
theorem dX11_wholes_47 : decode cX11_wholes 47 = .ok (.ifCond .ne 14, 3) := dk_154 0 14 (dk_at dksX11_wholes_2 0 rfl rfl)
theorem dX11_wholes_50 : decode cX11_wholes 50 = .ok (.aload_n 0, 1) := dk_42 (dk_at dksX11_wholes_2 3 rfl rfl)
theorem dX11_wholes_51 : decode cX11_wholes 51 = .ok (.iconst (-1), 1) := dk_2 (dk_at dksX11_wholes_2 4 rfl rfl)
theorem dX11_wholes_52 : decode cX11_wholes 52 = .ok (.iconst (-1), 1) := dk_2 (dk_at dksX11_wholes_2 5 rfl rfl)
theorem dX11_wholes_53 : decode cX11_wholes 53 = .ok (.invokevirtual 335, 3) := dk_182 1 79 (dk_at dksX11_wholes_2 6 rfl rfl)
theorem dX11_wholes_56 : decode cX11_wholes 56 = .ok (.aload_n 0, 1) := dk_42 (dk_at dksX11_wholes_2 9 rfl rfl)
theorem dX11_wholes_57 : decode cX11_wholes 57 = .ok (.iconst 0, 1) := dk_3 (dk_at dksX11_wholes_2 10 rfl rfl)
theorem dX11_wholes_58 : decode cX11_wholes 58 = .ok (.invokevirtual 323, 3) := dk_182 1 67 (dk_at dksX11_wholes_2 11 rfl rfl)
theorem dX11_wholes_61 : decode cX11_wholes 61 = .ok (.iconst 0, 1) := dk_3 (dk_at dksX11_wholes_2 14 rfl rfl)
theorem dX11_wholes_62 : decode cX11_wholes 62 = .ok (.istore_n 3, 1) := dk_62 (dk_at dksX11_wholes_2 15 rfl rfl)
theorem dX11_wholes_63 : decode cX11_wholes 63 = .ok (.iload_n 3, 1) := dk_29 (dk_at dksX11_wholes_2 16 rfl rfl)
theorem dX11_wholes_64 : decode cX11_wholes 64 = .ok (.iload_n 2, 1) := dk_28 (dk_at dksX11_wholes_2 17 rfl rfl)
theorem dX11_wholes_65 : decode cX11_wholes 65 = .ok (.if_icmp .ge 57, 3) := dk_162 0 57 (dk_at dksX11_wholes_2 18 rfl rfl)
theorem dX11_wholes_68 : decode cX11_wholes 68 = .ok (.iload_n 1, 1) := dk_27 (dk_at dksX11_wholes_2 21 rfl rfl)
theorem dX11_wholes_69 : decode cX11_wholes 69 = .ok (.ifCond .le 53, 3) := dk_158 0 53 (dk_at dksX11_wholes_3 0 rfl rfl)
theorem dX11_wholes_72 : decode cX11_wholes 72 = .ok (.iload_n 1, 1) := dk_27 (dk_at dksX11_wholes_3 3 rfl rfl)
theorem dX11_wholes_73 : decode cX11_wholes 73 = .ok (.iconst 2, 1) := dk_5 (dk_at dksX11_wholes_3 4 rfl rfl)
theorem dX11_wholes_74 : decode cX11_wholes 74 = .ok (.if_icmp .ne 13, 3) := dk_160 0 13 (dk_at dksX11_wholes_3 5 rfl rfl)
theorem dX11_wholes_77 : decode cX11_wholes 77 = .ok (.iload_n 3, 1) := dk_29 (dk_at dksX11_wholes_3 8 rfl rfl)
theorem dX11_wholes_78 : decode cX11_wholes 78 = .ok (.iload_n 2, 1) := dk_28 (dk_at dksX11_wholes_3 9 rfl rfl)
theorem dX11_wholes_79 : decode cX11_wholes 79 = .ok (.iconst 1, 1) := dk_4 (dk_at dksX11_wholes_3 10 rfl rfl)
theorem dX11_wholes_80 : decode cX11_wholes 80 = .ok (.isub, 1) := dk_100 (dk_at dksX11_wholes_3 11 rfl rfl)
theorem dX11_wholes_81 : decode cX11_wholes 81 = .ok (.if_icmp .ne 6, 3) := dk_160 0 6 (dk_at dksX11_wholes_3 12 rfl rfl)
theorem dX11_wholes_84 : decode cX11_wholes 84 = .ok (.goto 38, 3) := dk_167 0 38 (dk_at dksX11_wholes_3 15 rfl rfl)
theorem dX11_wholes_87 : decode cX11_wholes 87 = .ok (.aload_n 0, 1) := dk_42 (dk_at dksX11_wholes_3 18 rfl rfl)
theorem dX11_wholes_88 : decode cX11_wholes 88 = .ok (.iload_n 1, 1) := dk_27 (dk_at dksX11_wholes_3 19 rfl rfl)
theorem dX11_wholes_89 : decode cX11_wholes 89 = .ok (.iconst 1, 1) := dk_4 (dk_at dksX11_wholes_3 20 rfl rfl)
theorem dX11_wholes_90 : decode cX11_wholes 90 = .ok (.if_icmp .ne 7, 3) := dk_160 0 7 (dk_at dksX11_wholes_3 21 rfl rfl)
theorem dX11_wholes_93 : decode cX11_wholes 93 = .ok (.iload_n 3, 1) := dk_29 (dk_at dksX11_wholes_4 0 rfl rfl)
theorem dX11_wholes_94 : decode cX11_wholes 94 = .ok (.goto 4, 3) := dk_167 0 4 (dk_at dksX11_wholes_4 1 rfl rfl)
theorem dX11_wholes_97 : decode cX11_wholes 97 = .ok (.iconst (-1), 1) := dk_2 (dk_at dksX11_wholes_4 4 rfl rfl)
theorem dX11_wholes_98 : decode cX11_wholes 98 = .ok (.iload_n 1, 1) := dk_27 (dk_at dksX11_wholes_4 5 rfl rfl)
theorem dX11_wholes_99 : decode cX11_wholes 99 = .ok (.iconst 2, 1) := dk_5 (dk_at dksX11_wholes_4 6 rfl rfl)
theorem dX11_wholes_100 : decode cX11_wholes 100 = .ok (.if_icmp .ne 7, 3) := dk_160 0 7 (dk_at dksX11_wholes_4 7 rfl rfl)
theorem dX11_wholes_103 : decode cX11_wholes 103 = .ok (.iload_n 3, 1) := dk_29 (dk_at dksX11_wholes_4 10 rfl rfl)
theorem dX11_wholes_104 : decode cX11_wholes 104 = .ok (.goto 4, 3) := dk_167 0 4 (dk_at dksX11_wholes_4 11 rfl rfl)
theorem dX11_wholes_107 : decode cX11_wholes 107 = .ok (.iconst (-1), 1) := dk_2 (dk_at dksX11_wholes_4 14 rfl rfl)
theorem dX11_wholes_108 : decode cX11_wholes 108 = .ok (.invokevirtual 335, 3) := dk_182 1 79 (dk_at dksX11_wholes_4 15 rfl rfl)
theorem dX11_wholes_111 : decode cX11_wholes 111 = .ok (.aload_n 0, 1) := dk_42 (dk_at dksX11_wholes_4 18 rfl rfl)
theorem dX11_wholes_112 : decode cX11_wholes 112 = .ok (.iconst 0, 1) := dk_3 (dk_at dksX11_wholes_4 19 rfl rfl)
theorem dX11_wholes_113 : decode cX11_wholes 113 = .ok (.invokevirtual 323, 3) := dk_182 1 67 (dk_at dksX11_wholes_4 20 rfl rfl)
theorem dX11_wholes_116 : decode cX11_wholes 116 = .ok (.iinc 3 1, 3) := dk_132 3 1 (dk_at dksX11_wholes_5 0 rfl rfl)
theorem dX11_wholes_119 : decode cX11_wholes 119 = .ok (.goto (-56), 3) := dk_167 255 200 (dk_at dksX11_wholes_5 3 rfl rfl)
theorem dX11_wholes_122 : decode cX11_wholes 122 = .ok (.aload_n 0, 1) := dk_42 (dk_at dksX11_wholes_5 6 rfl rfl)
theorem dX11_wholes_123 : decode cX11_wholes 123 = .ok (.aload_n 0, 1) := dk_42 (dk_at dksX11_wholes_5 7 rfl rfl)
theorem dX11_wholes_124 : decode cX11_wholes 124 = .ok (.getfield 320, 3) := dk_180 1 64 (dk_at dksX11_wholes_5 8 rfl rfl)
theorem dX11_wholes_127 : decode cX11_wholes 127 = .ok (.ifCond .ne 7, 3) := dk_154 0 7 (dk_at dksX11_wholes_5 11 rfl rfl)
theorem dX11_wholes_130 : decode cX11_wholes 130 = .ok (.iconst 0, 1) := dk_3 (dk_at dksX11_wholes_5 14 rfl rfl)
theorem dX11_wholes_131 : decode cX11_wholes 131 = .ok (.goto 15, 3) := dk_167 0 15 (dk_at dksX11_wholes_5 15 rfl rfl)
theorem dX11_wholes_134 : decode cX11_wholes 134 = .ok (.iload_n 1, 1) := dk_27 (dk_at dksX11_wholes_5 18 rfl rfl)
theorem dX11_wholes_135 : decode cX11_wholes 135 = .ok (.iconst 1, 1) := dk_4 (dk_at dksX11_wholes_5 19 rfl rfl)
theorem dX11_wholes_136 : decode cX11_wholes 136 = .ok (.if_icmp .ne 9, 3) := dk_160 0 9 (dk_at dksX11_wholes_5 20 rfl rfl)
theorem dX11_wholes_139 : decode cX11_wholes 139 = .ok (.iload_n 2, 1) := dk_28 (dk_at dksX11_wholes_5 23 rfl rfl)
theorem dX11_wholes_140 : decode cX11_wholes 140 = .ok (.iconst 1, 1) := dk_4 (dk_at dksX11_wholes_6 0 rfl rfl)
theorem dX11_wholes_141 : decode cX11_wholes 141 = .ok (.isub, 1) := dk_100 (dk_at dksX11_wholes_6 1 rfl rfl)
theorem dX11_wholes_142 : decode cX11_wholes 142 = .ok (.goto 4, 3) := dk_167 0 4 (dk_at dksX11_wholes_6 2 rfl rfl)
theorem dX11_wholes_145 : decode cX11_wholes 145 = .ok (.iload_n 2, 1) := dk_28 (dk_at dksX11_wholes_6 5 rfl rfl)
theorem dX11_wholes_146 : decode cX11_wholes 146 = .ok (.putfield 338, 3) := dk_181 1 82 (dk_at dksX11_wholes_6 6 rfl rfl)
theorem dX11_wholes_149 : decode cX11_wholes 149 = .ok (.iconst 0, 1) := dk_3 (dk_at dksX11_wholes_6 9 rfl rfl)
theorem dX11_wholes_150 : decode cX11_wholes 150 = .ok (.istore_n 3, 1) := dk_62 (dk_at dksX11_wholes_6 10 rfl rfl)
theorem dX11_wholes_151 : decode cX11_wholes 151 = .ok (.iload_n 3, 1) := dk_29 (dk_at dksX11_wholes_6 11 rfl rfl)
theorem dX11_wholes_152 : decode cX11_wholes 152 = .ok (.aload_n 0, 1) := dk_42 (dk_at dksX11_wholes_6 12 rfl rfl)
theorem dX11_wholes_153 : decode cX11_wholes 153 = .ok (.getfield 338, 3) := dk_180 1 82 (dk_at dksX11_wholes_6 13 rfl rfl)
theorem dX11_wholes_156 : decode cX11_wholes 156 = .ok (.if_icmp .ge 45, 3) := dk_162 0 45 (dk_at dksX11_wholes_6 16 rfl rfl)
theorem dX11_wholes_159 : decode cX11_wholes 159 = .ok (.aload_n 0, 1) := dk_42 (dk_at dksX11_wholes_6 19 rfl rfl)
theorem dX11_wholes_160 : decode cX11_wholes 160 = .ok (.getfield 78, 3) := dk_180 0 78 (dk_at dksX11_wholes_6 20 rfl rfl)
theorem dX11_wholes_163 : decode cX11_wholes 163 = .ok (.iload_n 3, 1) := dk_29 (dk_at dksX11_wholes_6 23 rfl rfl)
theorem dX11_wholes_164 : decode cX11_wholes 164 = .ok (.aload_n 0, 1) := dk_42 (dk_at dksX11_wholes_7 0 rfl rfl)
theorem dX11_wholes_165 : decode cX11_wholes 165 = .ok (.getfield 69, 3) := dk_180 0 69 (dk_at dksX11_wholes_7 1 rfl rfl)
theorem dX11_wholes_168 : decode cX11_wholes 168 = .ok (.iload_n 3, 1) := dk_29 (dk_at dksX11_wholes_7 4 rfl rfl)
theorem dX11_wholes_169 : decode cX11_wholes 169 = .ok (.iaload, 1) := dk_46 (dk_at dksX11_wholes_7 5 rfl rfl)
theorem dX11_wholes_170 : decode cX11_wholes 170 = .ok (.iastore, 1) := dk_79 (dk_at dksX11_wholes_7 6 rfl rfl)
theorem dX11_wholes_171 : decode cX11_wholes 171 = .ok (.aload_n 0, 1) := dk_42 (dk_at dksX11_wholes_7 7 rfl rfl)
theorem dX11_wholes_172 : decode cX11_wholes 172 = .ok (.getfield 81, 3) := dk_180 0 81 (dk_at dksX11_wholes_7 8 rfl rfl)
theorem dX11_wholes_175 : decode cX11_wholes 175 = .ok (.iload_n 3, 1) := dk_29 (dk_at dksX11_wholes_7 11 rfl rfl)
theorem dX11_wholes_176 : decode cX11_wholes 176 = .ok (.aload_n 0, 1) := dk_42 (dk_at dksX11_wholes_7 12 rfl rfl)
theorem dX11_wholes_177 : decode cX11_wholes 177 = .ok (.getfield 72, 3) := dk_180 0 72 (dk_at dksX11_wholes_7 13 rfl rfl)
theorem dX11_wholes_180 : decode cX11_wholes 180 = .ok (.iload_n 3, 1) := dk_29 (dk_at dksX11_wholes_7 16 rfl rfl)
theorem dX11_wholes_181 : decode cX11_wholes 181 = .ok (.iaload, 1) := dk_46 (dk_at dksX11_wholes_7 17 rfl rfl)
theorem dX11_wholes_182 : decode cX11_wholes 182 = .ok (.iastore, 1) := dk_79 (dk_at dksX11_wholes_7 18 rfl rfl)
theorem dX11_wholes_183 : decode cX11_wholes 183 = .ok (.aload_n 0, 1) := dk_42 (dk_at dksX11_wholes_7 19 rfl rfl)
theorem dX11_wholes_184 : decode cX11_wholes 184 = .ok (.getfield 84, 3) := dk_180 0 84 (dk_at dksX11_wholes_7 20 rfl rfl)
theorem dX11_wholes_187 : decode cX11_wholes 187 = .ok (.iload_n 3, 1) := dk_29 (dk_at dksX11_wholes_7 23 rfl rfl)
theorem dX11_wholes_188 : decode cX11_wholes 188 = .ok (.aload_n 0, 1) := dk_42 (dk_at dksX11_wholes_8 0 rfl rfl)
theorem dX11_wholes_189 : decode cX11_wholes 189 = .ok (.getfield 75, 3) := dk_180 0 75 (dk_at dksX11_wholes_8 1 rfl rfl)
theorem dX11_wholes_192 : decode cX11_wholes 192 = .ok (.iload_n 3, 1) := dk_29 (dk_at dksX11_wholes_8 4 rfl rfl)
theorem dX11_wholes_193 : decode cX11_wholes 193 = .ok (.iaload, 1) := dk_46 (dk_at dksX11_wholes_8 5 rfl rfl)
theorem dX11_wholes_194 : decode cX11_wholes 194 = .ok (.iastore, 1) := dk_79 (dk_at dksX11_wholes_8 6 rfl rfl)
theorem dX11_wholes_195 : decode cX11_wholes 195 = .ok (.iinc 3 1, 3) := dk_132 3 1 (dk_at dksX11_wholes_8 7 rfl rfl)
theorem dX11_wholes_198 : decode cX11_wholes 198 = .ok (.goto (-47), 3) := dk_167 255 209 (dk_at dksX11_wholes_8 10 rfl rfl)
theorem dX11_wholes_201 : decode cX11_wholes 201 = .ok (.aload_n 0, 1) := dk_42 (dk_at dksX11_wholes_8 13 rfl rfl)
theorem dX11_wholes_202 : decode cX11_wholes 202 = .ok (.getfield 320, 3) := dk_180 1 64 (dk_at dksX11_wholes_8 14 rfl rfl)
theorem dX11_wholes_205 : decode cX11_wholes 205 = .ok (.ireturn, 1) := dk_172 (dk_at dksX11_wholes_8 17 rfl rfl)
abbrev cX11_fillings : ByteArray := prog_21_method_71_code
def yX11_fillings : MethodName := ⟨RX11, "fillings", "(II)I"⟩
def dkwX11_fillings_3 : List UInt8 := [172, 132, 4, 1, 167, 255, 186, 29, 28, 164, 0, 9, 28, 4, 96, 167, 0, 4, 29, 172]
abbrev dktX11_fillings_3 : List UInt8 := dkwX11_fillings_3 ++ []
def dkwX11_fillings_2 : List UInt8 := [180, 0, 13, 3, 46, 167, 0, 9, 42, 180, 0, 13, 4, 46, 104, 62, 29, 28, 164, 0, 7, 28, 4, 96]
abbrev dktX11_fillings_2 : List UInt8 := dkwX11_fillings_2 ++ dktX11_fillings_3
def dkwX11_fillings_1 : List UInt8 := [17, 3, 94, 21, 4, 96, 46, 2, 159, 0, 6, 167, 0, 37, 29, 21, 4, 5, 112, 154, 0, 12, 42]
abbrev dktX11_fillings_1 : List UInt8 := dkwX11_fillings_1 ++ dktX11_fillings_2
def dkwX11_fillings_0 : List UInt8 := [27, 62, 3, 54, 4, 21, 4, 5, 42, 180, 0, 13, 17, 3, 93, 46, 104, 162, 0, 61, 42, 180, 0, 13]
abbrev dktX11_fillings_0 : List UInt8 := dkwX11_fillings_0 ++ dktX11_fillings_1
theorem dksX11_fillings_0 : cX11_fillings.data.toList.drop 0 = dktX11_fillings_0 := by decide +kernel
theorem dksX11_fillings_1 : cX11_fillings.data.toList.drop 24 = dktX11_fillings_1 := dk_seg dksX11_fillings_0 24 rfl rfl
theorem dksX11_fillings_2 : cX11_fillings.data.toList.drop 47 = dktX11_fillings_2 := dk_seg dksX11_fillings_1 23 rfl rfl
theorem dksX11_fillings_3 : cX11_fillings.data.toList.drop 71 = dktX11_fillings_3 := dk_seg dksX11_fillings_2 24 rfl rfl
theorem dX11_fillings_0 : decode cX11_fillings 0 = .ok (.iload_n 1, 1) := dk_27 (dk_at dksX11_fillings_0 0 rfl rfl)
theorem dX11_fillings_1 : decode cX11_fillings 1 = .ok (.istore_n 3, 1) := dk_62 (dk_at dksX11_fillings_0 1 rfl rfl)
theorem dX11_fillings_2 : decode cX11_fillings 2 = .ok (.iconst 0, 1) := dk_3 (dk_at dksX11_fillings_0 2 rfl rfl)
theorem dX11_fillings_3 : decode cX11_fillings 3 = .ok (.istore 4, 2) := dk_54 4 (dk_at dksX11_fillings_0 3 rfl rfl)
theorem dX11_fillings_5 : decode cX11_fillings 5 = .ok (.iload 4, 2) := dk_21 4 (dk_at dksX11_fillings_0 5 rfl rfl)
theorem dX11_fillings_7 : decode cX11_fillings 7 = .ok (.iconst 2, 1) := dk_5 (dk_at dksX11_fillings_0 7 rfl rfl)
theorem dX11_fillings_8 : decode cX11_fillings 8 = .ok (.aload_n 0, 1) := dk_42 (dk_at dksX11_fillings_0 8 rfl rfl)
theorem dX11_fillings_9 : decode cX11_fillings 9 = .ok (.getfield 13, 3) := dk_180 0 13 (dk_at dksX11_fillings_0 9 rfl rfl)
theorem dX11_fillings_12 : decode cX11_fillings 12 = .ok (.sipush 861, 3) := dk_17 3 93 (dk_at dksX11_fillings_0 12 rfl rfl)
theorem dX11_fillings_15 : decode cX11_fillings 15 = .ok (.iaload, 1) := dk_46 (dk_at dksX11_fillings_0 15 rfl rfl)
theorem dX11_fillings_16 : decode cX11_fillings 16 = .ok (.imul, 1) := dk_104 (dk_at dksX11_fillings_0 16 rfl rfl)
theorem dX11_fillings_17 : decode cX11_fillings 17 = .ok (.if_icmp .ge 61, 3) := dk_162 0 61 (dk_at dksX11_fillings_0 17 rfl rfl)
theorem dX11_fillings_20 : decode cX11_fillings 20 = .ok (.aload_n 0, 1) := dk_42 (dk_at dksX11_fillings_0 20 rfl rfl)
theorem dX11_fillings_21 : decode cX11_fillings 21 = .ok (.getfield 13, 3) := dk_180 0 13 (dk_at dksX11_fillings_0 21 rfl rfl)
theorem dX11_fillings_24 : decode cX11_fillings 24 = .ok (.sipush 862, 3) := dk_17 3 94 (dk_at dksX11_fillings_1 0 rfl rfl)
theorem dX11_fillings_27 : decode cX11_fillings 27 = .ok (.iload 4, 2) := dk_21 4 (dk_at dksX11_fillings_1 3 rfl rfl)
theorem dX11_fillings_29 : decode cX11_fillings 29 = .ok (.iadd, 1) := dk_96 (dk_at dksX11_fillings_1 5 rfl rfl)
theorem dX11_fillings_30 : decode cX11_fillings 30 = .ok (.iaload, 1) := dk_46 (dk_at dksX11_fillings_1 6 rfl rfl)
theorem dX11_fillings_31 : decode cX11_fillings 31 = .ok (.iconst (-1), 1) := dk_2 (dk_at dksX11_fillings_1 7 rfl rfl)
theorem dX11_fillings_32 : decode cX11_fillings 32 = .ok (.if_icmp .eq 6, 3) := dk_159 0 6 (dk_at dksX11_fillings_1 8 rfl rfl)
theorem dX11_fillings_35 : decode cX11_fillings 35 = .ok (.goto 37, 3) := dk_167 0 37 (dk_at dksX11_fillings_1 11 rfl rfl)
theorem dX11_fillings_38 : decode cX11_fillings 38 = .ok (.iload_n 3, 1) := dk_29 (dk_at dksX11_fillings_1 14 rfl rfl)
theorem dX11_fillings_39 : decode cX11_fillings 39 = .ok (.iload 4, 2) := dk_21 4 (dk_at dksX11_fillings_1 15 rfl rfl)
theorem dX11_fillings_41 : decode cX11_fillings 41 = .ok (.iconst 2, 1) := dk_5 (dk_at dksX11_fillings_1 17 rfl rfl)
theorem dX11_fillings_42 : decode cX11_fillings 42 = .ok (.irem, 1) := dk_112 (dk_at dksX11_fillings_1 18 rfl rfl)
theorem dX11_fillings_43 : decode cX11_fillings 43 = .ok (.ifCond .ne 12, 3) := dk_154 0 12 (dk_at dksX11_fillings_1 19 rfl rfl)
theorem dX11_fillings_46 : decode cX11_fillings 46 = .ok (.aload_n 0, 1) := dk_42 (dk_at dksX11_fillings_1 22 rfl rfl)
theorem dX11_fillings_47 : decode cX11_fillings 47 = .ok (.getfield 13, 3) := dk_180 0 13 (dk_at dksX11_fillings_2 0 rfl rfl)
theorem dX11_fillings_50 : decode cX11_fillings 50 = .ok (.iconst 0, 1) := dk_3 (dk_at dksX11_fillings_2 3 rfl rfl)
theorem dX11_fillings_51 : decode cX11_fillings 51 = .ok (.iaload, 1) := dk_46 (dk_at dksX11_fillings_2 4 rfl rfl)
theorem dX11_fillings_52 : decode cX11_fillings 52 = .ok (.goto 9, 3) := dk_167 0 9 (dk_at dksX11_fillings_2 5 rfl rfl)
theorem dX11_fillings_55 : decode cX11_fillings 55 = .ok (.aload_n 0, 1) := dk_42 (dk_at dksX11_fillings_2 8 rfl rfl)
theorem dX11_fillings_56 : decode cX11_fillings 56 = .ok (.getfield 13, 3) := dk_180 0 13 (dk_at dksX11_fillings_2 9 rfl rfl)
theorem dX11_fillings_59 : decode cX11_fillings 59 = .ok (.iconst 1, 1) := dk_4 (dk_at dksX11_fillings_2 12 rfl rfl)
theorem dX11_fillings_60 : decode cX11_fillings 60 = .ok (.iaload, 1) := dk_46 (dk_at dksX11_fillings_2 13 rfl rfl)
theorem dX11_fillings_61 : decode cX11_fillings 61 = .ok (.imul, 1) := dk_104 (dk_at dksX11_fillings_2 14 rfl rfl)
theorem dX11_fillings_62 : decode cX11_fillings 62 = .ok (.istore_n 3, 1) := dk_62 (dk_at dksX11_fillings_2 15 rfl rfl)
theorem dX11_fillings_63 : decode cX11_fillings 63 = .ok (.iload_n 3, 1) := dk_29 (dk_at dksX11_fillings_2 16 rfl rfl)
theorem dX11_fillings_64 : decode cX11_fillings 64 = .ok (.iload_n 2, 1) := dk_28 (dk_at dksX11_fillings_2 17 rfl rfl)
theorem dX11_fillings_65 : decode cX11_fillings 65 = .ok (.if_icmp .le 7, 3) := dk_164 0 7 (dk_at dksX11_fillings_2 18 rfl rfl)
theorem dX11_fillings_68 : decode cX11_fillings 68 = .ok (.iload_n 2, 1) := dk_28 (dk_at dksX11_fillings_2 21 rfl rfl)
theorem dX11_fillings_69 : decode cX11_fillings 69 = .ok (.iconst 1, 1) := dk_4 (dk_at dksX11_fillings_2 22 rfl rfl)
theorem dX11_fillings_70 : decode cX11_fillings 70 = .ok (.iadd, 1) := dk_96 (dk_at dksX11_fillings_2 23 rfl rfl)
theorem dX11_fillings_71 : decode cX11_fillings 71 = .ok (.ireturn, 1) := dk_172 (dk_at dksX11_fillings_3 0 rfl rfl)
theorem dX11_fillings_72 : decode cX11_fillings 72 = .ok (.iinc 4 1, 3) := dk_132 4 1 (dk_at dksX11_fillings_3 1 rfl rfl)
theorem dX11_fillings_75 : decode cX11_fillings 75 = .ok (.goto (-70), 3) := dk_167 255 186 (dk_at dksX11_fillings_3 4 rfl rfl)
theorem dX11_fillings_78 : decode cX11_fillings 78 = .ok (.iload_n 3, 1) := dk_29 (dk_at dksX11_fillings_3 7 rfl rfl)
theorem dX11_fillings_79 : decode cX11_fillings 79 = .ok (.iload_n 2, 1) := dk_28 (dk_at dksX11_fillings_3 8 rfl rfl)
theorem dX11_fillings_80 : decode cX11_fillings 80 = .ok (.if_icmp .le 9, 3) := dk_164 0 9 (dk_at dksX11_fillings_3 9 rfl rfl)
theorem dX11_fillings_83 : decode cX11_fillings 83 = .ok (.iload_n 2, 1) := dk_28 (dk_at dksX11_fillings_3 12 rfl rfl)
theorem dX11_fillings_84 : decode cX11_fillings 84 = .ok (.iconst 1, 1) := dk_4 (dk_at dksX11_fillings_3 13 rfl rfl)
theorem dX11_fillings_85 : decode cX11_fillings 85 = .ok (.iadd, 1) := dk_96 (dk_at dksX11_fillings_3 14 rfl rfl)
theorem dX11_fillings_86 : decode cX11_fillings 86 = .ok (.goto 4, 3) := dk_167 0 4 (dk_at dksX11_fillings_3 15 rfl rfl)
theorem dX11_fillings_89 : decode cX11_fillings 89 = .ok (.iload_n 3, 1) := dk_29 (dk_at dksX11_fillings_3 18 rfl rfl)
theorem dX11_fillings_90 : decode cX11_fillings 90 = .ok (.ireturn, 1) := dk_172 (dk_at dksX11_fillings_3 19 rfl rfl)
abbrev cX11_beginFill : ByteArray := prog_21_method_73_code
def yX11_beginFill : MethodName := ⟨RX11, "beginFill", "()V"⟩
def dkwX11_beginFill_2 : List UInt8 := [167, 255, 226, 177]
abbrev dktX11_beginFill_2 : List UInt8 := dkwX11_beginFill_2 ++ []
def dkwX11_beginFill_1 : List UInt8 := [180, 0, 69, 27, 3, 79, 42, 180, 0, 72, 27, 3, 79, 42, 180, 0, 75, 27, 3, 79, 132, 1, 1]
abbrev dktX11_beginFill_1 : List UInt8 := dkwX11_beginFill_1 ++ dktX11_beginFill_2
def dkwX11_beginFill_0 : List UInt8 := [42, 3, 42, 180, 0, 13, 3, 182, 1, 6, 42, 3, 181, 1, 64, 3, 60, 27, 16, 24, 162, 0, 30, 42]
abbrev dktX11_beginFill_0 : List UInt8 := dkwX11_beginFill_0 ++ dktX11_beginFill_1
theorem dksX11_beginFill_0 : cX11_beginFill.data.toList.drop 0 = dktX11_beginFill_0 := by decide +kernel
theorem dksX11_beginFill_1 : cX11_beginFill.data.toList.drop 24 = dktX11_beginFill_1 := dk_seg dksX11_beginFill_0 24 rfl rfl
theorem dksX11_beginFill_2 : cX11_beginFill.data.toList.drop 47 = dktX11_beginFill_2 := dk_seg dksX11_beginFill_1 23 rfl rfl
theorem dX11_beginFill_0 : decode cX11_beginFill 0 = .ok (.aload_n 0, 1) := dk_42 (dk_at dksX11_beginFill_0 0 rfl rfl)
theorem dX11_beginFill_1 : decode cX11_beginFill 1 = .ok (.iconst 0, 1) := dk_3 (dk_at dksX11_beginFill_0 1 rfl rfl)
theorem dX11_beginFill_2 : decode cX11_beginFill 2 = .ok (.aload_n 0, 1) := dk_42 (dk_at dksX11_beginFill_0 2 rfl rfl)
theorem dX11_beginFill_3 : decode cX11_beginFill 3 = .ok (.getfield 13, 3) := dk_180 0 13 (dk_at dksX11_beginFill_0 3 rfl rfl)
theorem dX11_beginFill_6 : decode cX11_beginFill 6 = .ok (.iconst 0, 1) := dk_3 (dk_at dksX11_beginFill_0 6 rfl rfl)
theorem dX11_beginFill_7 : decode cX11_beginFill 7 = .ok (.invokevirtual 262, 3) := dk_182 1 6 (dk_at dksX11_beginFill_0 7 rfl rfl)
theorem dX11_beginFill_10 : decode cX11_beginFill 10 = .ok (.aload_n 0, 1) := dk_42 (dk_at dksX11_beginFill_0 10 rfl rfl)
theorem dX11_beginFill_11 : decode cX11_beginFill 11 = .ok (.iconst 0, 1) := dk_3 (dk_at dksX11_beginFill_0 11 rfl rfl)
theorem dX11_beginFill_12 : decode cX11_beginFill 12 = .ok (.putfield 320, 3) := dk_181 1 64 (dk_at dksX11_beginFill_0 12 rfl rfl)
theorem dX11_beginFill_15 : decode cX11_beginFill 15 = .ok (.iconst 0, 1) := dk_3 (dk_at dksX11_beginFill_0 15 rfl rfl)
theorem dX11_beginFill_16 : decode cX11_beginFill 16 = .ok (.istore_n 1, 1) := dk_60 (dk_at dksX11_beginFill_0 16 rfl rfl)
theorem dX11_beginFill_17 : decode cX11_beginFill 17 = .ok (.iload_n 1, 1) := dk_27 (dk_at dksX11_beginFill_0 17 rfl rfl)
theorem dX11_beginFill_18 : decode cX11_beginFill 18 = .ok (.bipush 24, 2) := dk_16 24 (dk_at dksX11_beginFill_0 18 rfl rfl)
theorem dX11_beginFill_20 : decode cX11_beginFill 20 = .ok (.if_icmp .ge 30, 3) := dk_162 0 30 (dk_at dksX11_beginFill_0 20 rfl rfl)
theorem dX11_beginFill_23 : decode cX11_beginFill 23 = .ok (.aload_n 0, 1) := dk_42 (dk_at dksX11_beginFill_0 23 rfl rfl)
theorem dX11_beginFill_24 : decode cX11_beginFill 24 = .ok (.getfield 69, 3) := dk_180 0 69 (dk_at dksX11_beginFill_1 0 rfl rfl)
theorem dX11_beginFill_27 : decode cX11_beginFill 27 = .ok (.iload_n 1, 1) := dk_27 (dk_at dksX11_beginFill_1 3 rfl rfl)
theorem dX11_beginFill_28 : decode cX11_beginFill 28 = .ok (.iconst 0, 1) := dk_3 (dk_at dksX11_beginFill_1 4 rfl rfl)
theorem dX11_beginFill_29 : decode cX11_beginFill 29 = .ok (.iastore, 1) := dk_79 (dk_at dksX11_beginFill_1 5 rfl rfl)
theorem dX11_beginFill_30 : decode cX11_beginFill 30 = .ok (.aload_n 0, 1) := dk_42 (dk_at dksX11_beginFill_1 6 rfl rfl)
theorem dX11_beginFill_31 : decode cX11_beginFill 31 = .ok (.getfield 72, 3) := dk_180 0 72 (dk_at dksX11_beginFill_1 7 rfl rfl)
theorem dX11_beginFill_34 : decode cX11_beginFill 34 = .ok (.iload_n 1, 1) := dk_27 (dk_at dksX11_beginFill_1 10 rfl rfl)
theorem dX11_beginFill_35 : decode cX11_beginFill 35 = .ok (.iconst 0, 1) := dk_3 (dk_at dksX11_beginFill_1 11 rfl rfl)
theorem dX11_beginFill_36 : decode cX11_beginFill 36 = .ok (.iastore, 1) := dk_79 (dk_at dksX11_beginFill_1 12 rfl rfl)
theorem dX11_beginFill_37 : decode cX11_beginFill 37 = .ok (.aload_n 0, 1) := dk_42 (dk_at dksX11_beginFill_1 13 rfl rfl)
theorem dX11_beginFill_38 : decode cX11_beginFill 38 = .ok (.getfield 75, 3) := dk_180 0 75 (dk_at dksX11_beginFill_1 14 rfl rfl)
theorem dX11_beginFill_41 : decode cX11_beginFill 41 = .ok (.iload_n 1, 1) := dk_27 (dk_at dksX11_beginFill_1 17 rfl rfl)
theorem dX11_beginFill_42 : decode cX11_beginFill 42 = .ok (.iconst 0, 1) := dk_3 (dk_at dksX11_beginFill_1 18 rfl rfl)
theorem dX11_beginFill_43 : decode cX11_beginFill 43 = .ok (.iastore, 1) := dk_79 (dk_at dksX11_beginFill_1 19 rfl rfl)
theorem dX11_beginFill_44 : decode cX11_beginFill 44 = .ok (.iinc 1 1, 3) := dk_132 1 1 (dk_at dksX11_beginFill_1 20 rfl rfl)
theorem dX11_beginFill_47 : decode cX11_beginFill 47 = .ok (.goto (-30), 3) := dk_167 255 226 (dk_at dksX11_beginFill_2 0 rfl rfl)
theorem dX11_beginFill_50 : decode cX11_beginFill 50 = .ok (.return_, 1) := dk_177 (dk_at dksX11_beginFill_2 3 rfl rfl)
abbrev cX11_layTorn : ByteArray := prog_21_method_72_code
def yX11_layTorn : MethodName := ⟨RX11, "layTorn", "(II)V"⟩
def dkwX11_layTorn_5 : List UInt8 := [181, 1, 61, 132, 3, 1, 167, 255, 139, 177]
abbrev dktX11_layTorn_5 : List UInt8 := dkwX11_layTorn_5 ++ []
def dkwX11_layTorn_4 : List UInt8 := [96, 42, 180, 0, 13, 17, 3, 94, 5, 21, 4, 104, 96, 4, 96, 46, 79, 42, 89, 180, 1, 61, 4, 96]
abbrev dktX11_layTorn_4 : List UInt8 := dkwX11_layTorn_4 ++ dktX11_layTorn_5
def dkwX11_layTorn_3 : List UInt8 := [180, 0, 13, 17, 3, 94, 5, 21, 4, 104, 96, 46, 79, 42, 180, 0, 66, 5, 42, 180, 1, 61, 104, 4]
abbrev dktX11_layTorn_3 : List UInt8 := dkwX11_layTorn_3 ++ dktX11_layTorn_4
def dkwX11_layTorn_2 : List UInt8 := [159, 0, 9, 29, 4, 100, 167, 0, 4, 29, 54, 4, 42, 180, 0, 66, 5, 42, 180, 1, 61, 104, 42]
abbrev dktX11_layTorn_2 : List UInt8 := dkwX11_layTorn_2 ++ dktX11_layTorn_3
def dkwX11_layTorn_1 : List UInt8 := [167, 0, 97, 29, 28, 160, 0, 9, 29, 4, 96, 167, 0, 22, 29, 28, 4, 96, 160, 0, 14, 28, 2]
abbrev dktX11_layTorn_1 : List UInt8 := dkwX11_layTorn_1 ++ dktX11_layTorn_2
def dkwX11_layTorn_0 : List UInt8 := [42, 3, 181, 1, 61, 3, 62, 29, 42, 180, 0, 13, 17, 3, 93, 46, 162, 0, 111, 29, 27, 160, 0, 6]
abbrev dktX11_layTorn_0 : List UInt8 := dkwX11_layTorn_0 ++ dktX11_layTorn_1
theorem dksX11_layTorn_0 : cX11_layTorn.data.toList.drop 0 = dktX11_layTorn_0 := by decide +kernel
theorem dksX11_layTorn_1 : cX11_layTorn.data.toList.drop 24 = dktX11_layTorn_1 := dk_seg dksX11_layTorn_0 24 rfl rfl
theorem dksX11_layTorn_2 : cX11_layTorn.data.toList.drop 47 = dktX11_layTorn_2 := dk_seg dksX11_layTorn_1 23 rfl rfl
theorem dksX11_layTorn_3 : cX11_layTorn.data.toList.drop 70 = dktX11_layTorn_3 := dk_seg dksX11_layTorn_2 23 rfl rfl
theorem dksX11_layTorn_4 : cX11_layTorn.data.toList.drop 94 = dktX11_layTorn_4 := dk_seg dksX11_layTorn_3 24 rfl rfl
theorem dksX11_layTorn_5 : cX11_layTorn.data.toList.drop 118 = dktX11_layTorn_5 := dk_seg dksX11_layTorn_4 24 rfl rfl
theorem dX11_layTorn_0 : decode cX11_layTorn 0 = .ok (.aload_n 0, 1) := dk_42 (dk_at dksX11_layTorn_0 0 rfl rfl)
theorem dX11_layTorn_1 : decode cX11_layTorn 1 = .ok (.iconst 0, 1) := dk_3 (dk_at dksX11_layTorn_0 1 rfl rfl)
theorem dX11_layTorn_2 : decode cX11_layTorn 2 = .ok (.putfield 317, 3) := dk_181 1 61 (dk_at dksX11_layTorn_0 2 rfl rfl)
theorem dX11_layTorn_5 : decode cX11_layTorn 5 = .ok (.iconst 0, 1) := dk_3 (dk_at dksX11_layTorn_0 5 rfl rfl)
theorem dX11_layTorn_6 : decode cX11_layTorn 6 = .ok (.istore_n 3, 1) := dk_62 (dk_at dksX11_layTorn_0 6 rfl rfl)
theorem dX11_layTorn_7 : decode cX11_layTorn 7 = .ok (.iload_n 3, 1) := dk_29 (dk_at dksX11_layTorn_0 7 rfl rfl)
theorem dX11_layTorn_8 : decode cX11_layTorn 8 = .ok (.aload_n 0, 1) := dk_42 (dk_at dksX11_layTorn_0 8 rfl rfl)
theorem dX11_layTorn_9 : decode cX11_layTorn 9 = .ok (.getfield 13, 3) := dk_180 0 13 (dk_at dksX11_layTorn_0 9 rfl rfl)
theorem dX11_layTorn_12 : decode cX11_layTorn 12 = .ok (.sipush 861, 3) := dk_17 3 93 (dk_at dksX11_layTorn_0 12 rfl rfl)
theorem dX11_layTorn_15 : decode cX11_layTorn 15 = .ok (.iaload, 1) := dk_46 (dk_at dksX11_layTorn_0 15 rfl rfl)
theorem dX11_layTorn_16 : decode cX11_layTorn 16 = .ok (.if_icmp .ge 111, 3) := dk_162 0 111 (dk_at dksX11_layTorn_0 16 rfl rfl)
theorem dX11_layTorn_19 : decode cX11_layTorn 19 = .ok (.iload_n 3, 1) := dk_29 (dk_at dksX11_layTorn_0 19 rfl rfl)
theorem dX11_layTorn_20 : decode cX11_layTorn 20 = .ok (.iload_n 1, 1) := dk_27 (dk_at dksX11_layTorn_0 20 rfl rfl)
theorem dX11_layTorn_21 : decode cX11_layTorn 21 = .ok (.if_icmp .ne 6, 3) := dk_160 0 6 (dk_at dksX11_layTorn_0 21 rfl rfl)
theorem dX11_layTorn_24 : decode cX11_layTorn 24 = .ok (.goto 97, 3) := dk_167 0 97 (dk_at dksX11_layTorn_1 0 rfl rfl)
theorem dX11_layTorn_27 : decode cX11_layTorn 27 = .ok (.iload_n 3, 1) := dk_29 (dk_at dksX11_layTorn_1 3 rfl rfl)
theorem dX11_layTorn_28 : decode cX11_layTorn 28 = .ok (.iload_n 2, 1) := dk_28 (dk_at dksX11_layTorn_1 4 rfl rfl)
theorem dX11_layTorn_29 : decode cX11_layTorn 29 = .ok (.if_icmp .ne 9, 3) := dk_160 0 9 (dk_at dksX11_layTorn_1 5 rfl rfl)
theorem dX11_layTorn_32 : decode cX11_layTorn 32 = .ok (.iload_n 3, 1) := dk_29 (dk_at dksX11_layTorn_1 8 rfl rfl)
theorem dX11_layTorn_33 : decode cX11_layTorn 33 = .ok (.iconst 1, 1) := dk_4 (dk_at dksX11_layTorn_1 9 rfl rfl)
theorem dX11_layTorn_34 : decode cX11_layTorn 34 = .ok (.iadd, 1) := dk_96 (dk_at dksX11_layTorn_1 10 rfl rfl)
theorem dX11_layTorn_35 : decode cX11_layTorn 35 = .ok (.goto 22, 3) := dk_167 0 22 (dk_at dksX11_layTorn_1 11 rfl rfl)
theorem dX11_layTorn_38 : decode cX11_layTorn 38 = .ok (.iload_n 3, 1) := dk_29 (dk_at dksX11_layTorn_1 14 rfl rfl)
theorem dX11_layTorn_39 : decode cX11_layTorn 39 = .ok (.iload_n 2, 1) := dk_28 (dk_at dksX11_layTorn_1 15 rfl rfl)
theorem dX11_layTorn_40 : decode cX11_layTorn 40 = .ok (.iconst 1, 1) := dk_4 (dk_at dksX11_layTorn_1 16 rfl rfl)
theorem dX11_layTorn_41 : decode cX11_layTorn 41 = .ok (.iadd, 1) := dk_96 (dk_at dksX11_layTorn_1 17 rfl rfl)
theorem dX11_layTorn_42 : decode cX11_layTorn 42 = .ok (.if_icmp .ne 14, 3) := dk_160 0 14 (dk_at dksX11_layTorn_1 18 rfl rfl)
theorem dX11_layTorn_45 : decode cX11_layTorn 45 = .ok (.iload_n 2, 1) := dk_28 (dk_at dksX11_layTorn_1 21 rfl rfl)
theorem dX11_layTorn_46 : decode cX11_layTorn 46 = .ok (.iconst (-1), 1) := dk_2 (dk_at dksX11_layTorn_1 22 rfl rfl)
theorem dX11_layTorn_47 : decode cX11_layTorn 47 = .ok (.if_icmp .eq 9, 3) := dk_159 0 9 (dk_at dksX11_layTorn_2 0 rfl rfl)
theorem dX11_layTorn_50 : decode cX11_layTorn 50 = .ok (.iload_n 3, 1) := dk_29 (dk_at dksX11_layTorn_2 3 rfl rfl)
theorem dX11_layTorn_51 : decode cX11_layTorn 51 = .ok (.iconst 1, 1) := dk_4 (dk_at dksX11_layTorn_2 4 rfl rfl)
theorem dX11_layTorn_52 : decode cX11_layTorn 52 = .ok (.isub, 1) := dk_100 (dk_at dksX11_layTorn_2 5 rfl rfl)
theorem dX11_layTorn_53 : decode cX11_layTorn 53 = .ok (.goto 4, 3) := dk_167 0 4 (dk_at dksX11_layTorn_2 6 rfl rfl)
theorem dX11_layTorn_56 : decode cX11_layTorn 56 = .ok (.iload_n 3, 1) := dk_29 (dk_at dksX11_layTorn_2 9 rfl rfl)
theorem dX11_layTorn_57 : decode cX11_layTorn 57 = .ok (.istore 4, 2) := dk_54 4 (dk_at dksX11_layTorn_2 10 rfl rfl)
theorem dX11_layTorn_59 : decode cX11_layTorn 59 = .ok (.aload_n 0, 1) := dk_42 (dk_at dksX11_layTorn_2 12 rfl rfl)
theorem dX11_layTorn_60 : decode cX11_layTorn 60 = .ok (.getfield 66, 3) := dk_180 0 66 (dk_at dksX11_layTorn_2 13 rfl rfl)
theorem dX11_layTorn_63 : decode cX11_layTorn 63 = .ok (.iconst 2, 1) := dk_5 (dk_at dksX11_layTorn_2 16 rfl rfl)
theorem dX11_layTorn_64 : decode cX11_layTorn 64 = .ok (.aload_n 0, 1) := dk_42 (dk_at dksX11_layTorn_2 17 rfl rfl)
theorem dX11_layTorn_65 : decode cX11_layTorn 65 = .ok (.getfield 317, 3) := dk_180 1 61 (dk_at dksX11_layTorn_2 18 rfl rfl)
theorem dX11_layTorn_68 : decode cX11_layTorn 68 = .ok (.imul, 1) := dk_104 (dk_at dksX11_layTorn_2 21 rfl rfl)
theorem dX11_layTorn_69 : decode cX11_layTorn 69 = .ok (.aload_n 0, 1) := dk_42 (dk_at dksX11_layTorn_2 22 rfl rfl)
theorem dX11_layTorn_70 : decode cX11_layTorn 70 = .ok (.getfield 13, 3) := dk_180 0 13 (dk_at dksX11_layTorn_3 0 rfl rfl)
theorem dX11_layTorn_73 : decode cX11_layTorn 73 = .ok (.sipush 862, 3) := dk_17 3 94 (dk_at dksX11_layTorn_3 3 rfl rfl)
theorem dX11_layTorn_76 : decode cX11_layTorn 76 = .ok (.iconst 2, 1) := dk_5 (dk_at dksX11_layTorn_3 6 rfl rfl)
theorem dX11_layTorn_77 : decode cX11_layTorn 77 = .ok (.iload 4, 2) := dk_21 4 (dk_at dksX11_layTorn_3 7 rfl rfl)
theorem dX11_layTorn_79 : decode cX11_layTorn 79 = .ok (.imul, 1) := dk_104 (dk_at dksX11_layTorn_3 9 rfl rfl)
theorem dX11_layTorn_80 : decode cX11_layTorn 80 = .ok (.iadd, 1) := dk_96 (dk_at dksX11_layTorn_3 10 rfl rfl)
theorem dX11_layTorn_81 : decode cX11_layTorn 81 = .ok (.iaload, 1) := dk_46 (dk_at dksX11_layTorn_3 11 rfl rfl)
theorem dX11_layTorn_82 : decode cX11_layTorn 82 = .ok (.iastore, 1) := dk_79 (dk_at dksX11_layTorn_3 12 rfl rfl)
theorem dX11_layTorn_83 : decode cX11_layTorn 83 = .ok (.aload_n 0, 1) := dk_42 (dk_at dksX11_layTorn_3 13 rfl rfl)
theorem dX11_layTorn_84 : decode cX11_layTorn 84 = .ok (.getfield 66, 3) := dk_180 0 66 (dk_at dksX11_layTorn_3 14 rfl rfl)
theorem dX11_layTorn_87 : decode cX11_layTorn 87 = .ok (.iconst 2, 1) := dk_5 (dk_at dksX11_layTorn_3 17 rfl rfl)
theorem dX11_layTorn_88 : decode cX11_layTorn 88 = .ok (.aload_n 0, 1) := dk_42 (dk_at dksX11_layTorn_3 18 rfl rfl)
theorem dX11_layTorn_89 : decode cX11_layTorn 89 = .ok (.getfield 317, 3) := dk_180 1 61 (dk_at dksX11_layTorn_3 19 rfl rfl)
theorem dX11_layTorn_92 : decode cX11_layTorn 92 = .ok (.imul, 1) := dk_104 (dk_at dksX11_layTorn_3 22 rfl rfl)
theorem dX11_layTorn_93 : decode cX11_layTorn 93 = .ok (.iconst 1, 1) := dk_4 (dk_at dksX11_layTorn_3 23 rfl rfl)
theorem dX11_layTorn_94 : decode cX11_layTorn 94 = .ok (.iadd, 1) := dk_96 (dk_at dksX11_layTorn_4 0 rfl rfl)
theorem dX11_layTorn_95 : decode cX11_layTorn 95 = .ok (.aload_n 0, 1) := dk_42 (dk_at dksX11_layTorn_4 1 rfl rfl)
theorem dX11_layTorn_96 : decode cX11_layTorn 96 = .ok (.getfield 13, 3) := dk_180 0 13 (dk_at dksX11_layTorn_4 2 rfl rfl)
theorem dX11_layTorn_99 : decode cX11_layTorn 99 = .ok (.sipush 862, 3) := dk_17 3 94 (dk_at dksX11_layTorn_4 5 rfl rfl)
theorem dX11_layTorn_102 : decode cX11_layTorn 102 = .ok (.iconst 2, 1) := dk_5 (dk_at dksX11_layTorn_4 8 rfl rfl)
theorem dX11_layTorn_103 : decode cX11_layTorn 103 = .ok (.iload 4, 2) := dk_21 4 (dk_at dksX11_layTorn_4 9 rfl rfl)
theorem dX11_layTorn_105 : decode cX11_layTorn 105 = .ok (.imul, 1) := dk_104 (dk_at dksX11_layTorn_4 11 rfl rfl)
theorem dX11_layTorn_106 : decode cX11_layTorn 106 = .ok (.iadd, 1) := dk_96 (dk_at dksX11_layTorn_4 12 rfl rfl)
theorem dX11_layTorn_107 : decode cX11_layTorn 107 = .ok (.iconst 1, 1) := dk_4 (dk_at dksX11_layTorn_4 13 rfl rfl)
theorem dX11_layTorn_108 : decode cX11_layTorn 108 = .ok (.iadd, 1) := dk_96 (dk_at dksX11_layTorn_4 14 rfl rfl)
theorem dX11_layTorn_109 : decode cX11_layTorn 109 = .ok (.iaload, 1) := dk_46 (dk_at dksX11_layTorn_4 15 rfl rfl)
theorem dX11_layTorn_110 : decode cX11_layTorn 110 = .ok (.iastore, 1) := dk_79 (dk_at dksX11_layTorn_4 16 rfl rfl)
theorem dX11_layTorn_111 : decode cX11_layTorn 111 = .ok (.aload_n 0, 1) := dk_42 (dk_at dksX11_layTorn_4 17 rfl rfl)
theorem dX11_layTorn_112 : decode cX11_layTorn 112 = .ok (.dup, 1) := dk_89 (dk_at dksX11_layTorn_4 18 rfl rfl)
theorem dX11_layTorn_113 : decode cX11_layTorn 113 = .ok (.getfield 317, 3) := dk_180 1 61 (dk_at dksX11_layTorn_4 19 rfl rfl)
theorem dX11_layTorn_116 : decode cX11_layTorn 116 = .ok (.iconst 1, 1) := dk_4 (dk_at dksX11_layTorn_4 22 rfl rfl)
theorem dX11_layTorn_117 : decode cX11_layTorn 117 = .ok (.iadd, 1) := dk_96 (dk_at dksX11_layTorn_4 23 rfl rfl)
theorem dX11_layTorn_118 : decode cX11_layTorn 118 = .ok (.putfield 317, 3) := dk_181 1 61 (dk_at dksX11_layTorn_5 0 rfl rfl)
theorem dX11_layTorn_121 : decode cX11_layTorn 121 = .ok (.iinc 3 1, 3) := dk_132 3 1 (dk_at dksX11_layTorn_5 3 rfl rfl)
theorem dX11_layTorn_124 : decode cX11_layTorn 124 = .ok (.goto (-117), 3) := dk_167 255 139 (dk_at dksX11_layTorn_5 6 rfl rfl)
theorem dX11_layTorn_127 : decode cX11_layTorn 127 = .ok (.return_, 1) := dk_177 (dk_at dksX11_layTorn_5 9 rfl rfl)
abbrev cX11_fill : ByteArray := prog_21_method_70_code
def yX11_fill : MethodName := ⟨RX11, "fill", "(I)V"⟩
def dkwX11_fill_8 : List UInt8 := [182, 1, 67, 42, 3, 182, 1, 70, 132, 3, 1, 167, 255, 183, 132, 2, 1, 167, 255, 138, 177]
abbrev dktX11_fill_8 : List UInt8 := dkwX11_fill_8 ++ []
def dkwX11_fill_7 : List UInt8 := [28, 29, 182, 1, 17, 153, 0, 6, 167, 0, 22, 42, 3, 28, 29, 182, 1, 10, 42, 27, 4, 96]
abbrev dktX11_fill_7 : List UInt8 := dkwX11_fill_7 ++ dktX11_fill_8
def dkwX11_fill_6 : List UInt8 := [104, 4, 96, 46, 2, 159, 0, 17, 42, 180, 0, 66, 5, 27, 104, 4, 96, 46, 29, 160, 0, 35, 42, 3]
abbrev dktX11_fill_6 : List UInt8 := dkwX11_fill_6 ++ dktX11_fill_7
def dkwX11_fill_5 : List UInt8 := [159, 0, 6, 167, 0, 81, 3, 62, 29, 42, 180, 0, 13, 4, 46, 162, 0, 69, 42, 180, 0, 66, 5, 27]
abbrev dktX11_fill_5 : List UInt8 := dkwX11_fill_5 ++ dktX11_fill_6
def dkwX11_fill_4 : List UInt8 := [162, 0, 114, 42, 180, 0, 66, 5, 27, 104, 46, 2, 159, 0, 18, 42, 180, 0, 66, 5, 27, 104, 46, 28]
abbrev dktX11_fill_4 : List UInt8 := dkwX11_fill_4 ++ dktX11_fill_5
def dkwX11_fill_3 : List UInt8 := [182, 1, 33, 120, 128, 79, 132, 2, 1, 167, 255, 197, 177, 3, 61, 28, 42, 180, 0, 13, 3, 46]
abbrev dktX11_fill_3 : List UInt8 := dkwX11_fill_3 ++ dktX11_fill_4
def dkwX11_fill_2 : List UInt8 := [28, 92, 46, 4, 42, 180, 0, 45, 28, 46, 120, 128, 79, 42, 180, 0, 75, 28, 92, 46, 4, 42, 3, 28]
abbrev dktX11_fill_2 : List UInt8 := dkwX11_fill_2 ++ dktX11_fill_3
def dkwX11_fill_1 : List UInt8 := [162, 0, 60, 42, 180, 0, 69, 28, 92, 46, 4, 42, 180, 0, 42, 28, 46, 120, 128, 79, 42, 180, 0, 72]
abbrev dktX11_fill_1 : List UInt8 := dkwX11_fill_1 ++ dktX11_fill_2
def dkwX11_fill_0 : List UInt8 := [27, 42, 180, 1, 61, 160, 0, 78, 42, 89, 180, 1, 64, 4, 96, 181, 1, 64, 3, 61, 28, 27]
abbrev dktX11_fill_0 : List UInt8 := dkwX11_fill_0 ++ dktX11_fill_1
theorem dksX11_fill_0 : cX11_fill.data.toList.drop 0 = dktX11_fill_0 := by decide +kernel
theorem dksX11_fill_1 : cX11_fill.data.toList.drop 22 = dktX11_fill_1 := dk_seg dksX11_fill_0 22 rfl rfl
theorem dksX11_fill_2 : cX11_fill.data.toList.drop 46 = dktX11_fill_2 := dk_seg dksX11_fill_1 24 rfl rfl
theorem dksX11_fill_3 : cX11_fill.data.toList.drop 70 = dktX11_fill_3 := dk_seg dksX11_fill_2 24 rfl rfl
theorem dksX11_fill_4 : cX11_fill.data.toList.drop 92 = dktX11_fill_4 := dk_seg dksX11_fill_3 22 rfl rfl
theorem dksX11_fill_5 : cX11_fill.data.toList.drop 116 = dktX11_fill_5 := dk_seg dksX11_fill_4 24 rfl rfl
theorem dksX11_fill_6 : cX11_fill.data.toList.drop 140 = dktX11_fill_6 := dk_seg dksX11_fill_5 24 rfl rfl
theorem dksX11_fill_7 : cX11_fill.data.toList.drop 164 = dktX11_fill_7 := dk_seg dksX11_fill_6 24 rfl rfl
theorem dksX11_fill_8 : cX11_fill.data.toList.drop 186 = dktX11_fill_8 := dk_seg dksX11_fill_7 22 rfl rfl
theorem dX11_fill_0 : decode cX11_fill 0 = .ok (.iload_n 1, 1) := dk_27 (dk_at dksX11_fill_0 0 rfl rfl)
theorem dX11_fill_1 : decode cX11_fill 1 = .ok (.aload_n 0, 1) := dk_42 (dk_at dksX11_fill_0 1 rfl rfl)
theorem dX11_fill_2 : decode cX11_fill 2 = .ok (.getfield 317, 3) := dk_180 1 61 (dk_at dksX11_fill_0 2 rfl rfl)
theorem dX11_fill_5 : decode cX11_fill 5 = .ok (.if_icmp .ne 78, 3) := dk_160 0 78 (dk_at dksX11_fill_0 5 rfl rfl)
theorem dX11_fill_8 : decode cX11_fill 8 = .ok (.aload_n 0, 1) := dk_42 (dk_at dksX11_fill_0 8 rfl rfl)
theorem dX11_fill_9 : decode cX11_fill 9 = .ok (.dup, 1) := dk_89 (dk_at dksX11_fill_0 9 rfl rfl)
theorem dX11_fill_10 : decode cX11_fill 10 = .ok (.getfield 320, 3) := dk_180 1 64 (dk_at dksX11_fill_0 10 rfl rfl)
theorem dX11_fill_13 : decode cX11_fill 13 = .ok (.iconst 1, 1) := dk_4 (dk_at dksX11_fill_0 13 rfl rfl)
theorem dX11_fill_14 : decode cX11_fill 14 = .ok (.iadd, 1) := dk_96 (dk_at dksX11_fill_0 14 rfl rfl)
theorem dX11_fill_15 : decode cX11_fill 15 = .ok (.putfield 320, 3) := dk_181 1 64 (dk_at dksX11_fill_0 15 rfl rfl)
theorem dX11_fill_18 : decode cX11_fill 18 = .ok (.iconst 0, 1) := dk_3 (dk_at dksX11_fill_0 18 rfl rfl)
theorem dX11_fill_19 : decode cX11_fill 19 = .ok (.istore_n 2, 1) := dk_61 (dk_at dksX11_fill_0 19 rfl rfl)
theorem dX11_fill_20 : decode cX11_fill 20 = .ok (.iload_n 2, 1) := dk_28 (dk_at dksX11_fill_0 20 rfl rfl)
theorem dX11_fill_21 : decode cX11_fill 21 = .ok (.iload_n 1, 1) := dk_27 (dk_at dksX11_fill_0 21 rfl rfl)
theorem dX11_fill_22 : decode cX11_fill 22 = .ok (.if_icmp .ge 60, 3) := dk_162 0 60 (dk_at dksX11_fill_1 0 rfl rfl)
theorem dX11_fill_25 : decode cX11_fill 25 = .ok (.aload_n 0, 1) := dk_42 (dk_at dksX11_fill_1 3 rfl rfl)
theorem dX11_fill_26 : decode cX11_fill 26 = .ok (.getfield 69, 3) := dk_180 0 69 (dk_at dksX11_fill_1 4 rfl rfl)
theorem dX11_fill_29 : decode cX11_fill 29 = .ok (.iload_n 2, 1) := dk_28 (dk_at dksX11_fill_1 7 rfl rfl)
theorem dX11_fill_30 : decode cX11_fill 30 = .ok (.dup2, 1) := dk_92 (dk_at dksX11_fill_1 8 rfl rfl)
theorem dX11_fill_31 : decode cX11_fill 31 = .ok (.iaload, 1) := dk_46 (dk_at dksX11_fill_1 9 rfl rfl)
theorem dX11_fill_32 : decode cX11_fill 32 = .ok (.iconst 1, 1) := dk_4 (dk_at dksX11_fill_1 10 rfl rfl)
theorem dX11_fill_33 : decode cX11_fill 33 = .ok (.aload_n 0, 1) := dk_42 (dk_at dksX11_fill_1 11 rfl rfl)
theorem dX11_fill_34 : decode cX11_fill 34 = .ok (.getfield 42, 3) := dk_180 0 42 (dk_at dksX11_fill_1 12 rfl rfl)
theorem dX11_fill_37 : decode cX11_fill 37 = .ok (.iload_n 2, 1) := dk_28 (dk_at dksX11_fill_1 15 rfl rfl)
theorem dX11_fill_38 : decode cX11_fill 38 = .ok (.iaload, 1) := dk_46 (dk_at dksX11_fill_1 16 rfl rfl)
theorem dX11_fill_39 : decode cX11_fill 39 = .ok (.ishl, 1) := dk_120 (dk_at dksX11_fill_1 17 rfl rfl)
theorem dX11_fill_40 : decode cX11_fill 40 = .ok (.ior, 1) := dk_128 (dk_at dksX11_fill_1 18 rfl rfl)
theorem dX11_fill_41 : decode cX11_fill 41 = .ok (.iastore, 1) := dk_79 (dk_at dksX11_fill_1 19 rfl rfl)
theorem dX11_fill_42 : decode cX11_fill 42 = .ok (.aload_n 0, 1) := dk_42 (dk_at dksX11_fill_1 20 rfl rfl)
theorem dX11_fill_43 : decode cX11_fill 43 = .ok (.getfield 72, 3) := dk_180 0 72 (dk_at dksX11_fill_1 21 rfl rfl)
theorem dX11_fill_46 : decode cX11_fill 46 = .ok (.iload_n 2, 1) := dk_28 (dk_at dksX11_fill_2 0 rfl rfl)
theorem dX11_fill_47 : decode cX11_fill 47 = .ok (.dup2, 1) := dk_92 (dk_at dksX11_fill_2 1 rfl rfl)
theorem dX11_fill_48 : decode cX11_fill 48 = .ok (.iaload, 1) := dk_46 (dk_at dksX11_fill_2 2 rfl rfl)
theorem dX11_fill_49 : decode cX11_fill 49 = .ok (.iconst 1, 1) := dk_4 (dk_at dksX11_fill_2 3 rfl rfl)
theorem dX11_fill_50 : decode cX11_fill 50 = .ok (.aload_n 0, 1) := dk_42 (dk_at dksX11_fill_2 4 rfl rfl)
theorem dX11_fill_51 : decode cX11_fill 51 = .ok (.getfield 45, 3) := dk_180 0 45 (dk_at dksX11_fill_2 5 rfl rfl)
theorem dX11_fill_54 : decode cX11_fill 54 = .ok (.iload_n 2, 1) := dk_28 (dk_at dksX11_fill_2 8 rfl rfl)
theorem dX11_fill_55 : decode cX11_fill 55 = .ok (.iaload, 1) := dk_46 (dk_at dksX11_fill_2 9 rfl rfl)
theorem dX11_fill_56 : decode cX11_fill 56 = .ok (.ishl, 1) := dk_120 (dk_at dksX11_fill_2 10 rfl rfl)
theorem dX11_fill_57 : decode cX11_fill 57 = .ok (.ior, 1) := dk_128 (dk_at dksX11_fill_2 11 rfl rfl)
theorem dX11_fill_58 : decode cX11_fill 58 = .ok (.iastore, 1) := dk_79 (dk_at dksX11_fill_2 12 rfl rfl)
theorem dX11_fill_59 : decode cX11_fill 59 = .ok (.aload_n 0, 1) := dk_42 (dk_at dksX11_fill_2 13 rfl rfl)
theorem dX11_fill_60 : decode cX11_fill 60 = .ok (.getfield 75, 3) := dk_180 0 75 (dk_at dksX11_fill_2 14 rfl rfl)
theorem dX11_fill_63 : decode cX11_fill 63 = .ok (.iload_n 2, 1) := dk_28 (dk_at dksX11_fill_2 17 rfl rfl)
theorem dX11_fill_64 : decode cX11_fill 64 = .ok (.dup2, 1) := dk_92 (dk_at dksX11_fill_2 18 rfl rfl)
theorem dX11_fill_65 : decode cX11_fill 65 = .ok (.iaload, 1) := dk_46 (dk_at dksX11_fill_2 19 rfl rfl)
theorem dX11_fill_66 : decode cX11_fill 66 = .ok (.iconst 1, 1) := dk_4 (dk_at dksX11_fill_2 20 rfl rfl)
theorem dX11_fill_67 : decode cX11_fill 67 = .ok (.aload_n 0, 1) := dk_42 (dk_at dksX11_fill_2 21 rfl rfl)
theorem dX11_fill_68 : decode cX11_fill 68 = .ok (.iconst 0, 1) := dk_3 (dk_at dksX11_fill_2 22 rfl rfl)
theorem dX11_fill_69 : decode cX11_fill 69 = .ok (.iload_n 2, 1) := dk_28 (dk_at dksX11_fill_2 23 rfl rfl)
theorem dX11_fill_70 : decode cX11_fill 70 = .ok (.invokevirtual 289, 3) := dk_182 1 33 (dk_at dksX11_fill_3 0 rfl rfl)
theorem dX11_fill_73 : decode cX11_fill 73 = .ok (.ishl, 1) := dk_120 (dk_at dksX11_fill_3 3 rfl rfl)
theorem dX11_fill_74 : decode cX11_fill 74 = .ok (.ior, 1) := dk_128 (dk_at dksX11_fill_3 4 rfl rfl)
theorem dX11_fill_75 : decode cX11_fill 75 = .ok (.iastore, 1) := dk_79 (dk_at dksX11_fill_3 5 rfl rfl)
theorem dX11_fill_76 : decode cX11_fill 76 = .ok (.iinc 2 1, 3) := dk_132 2 1 (dk_at dksX11_fill_3 6 rfl rfl)
theorem dX11_fill_79 : decode cX11_fill 79 = .ok (.goto (-59), 3) := dk_167 255 197 (dk_at dksX11_fill_3 9 rfl rfl)
theorem dX11_fill_82 : decode cX11_fill 82 = .ok (.return_, 1) := dk_177 (dk_at dksX11_fill_3 12 rfl rfl)
theorem dX11_fill_83 : decode cX11_fill 83 = .ok (.iconst 0, 1) := dk_3 (dk_at dksX11_fill_3 13 rfl rfl)
theorem dX11_fill_84 : decode cX11_fill 84 = .ok (.istore_n 2, 1) := dk_61 (dk_at dksX11_fill_3 14 rfl rfl)
theorem dX11_fill_85 : decode cX11_fill 85 = .ok (.iload_n 2, 1) := dk_28 (dk_at dksX11_fill_3 15 rfl rfl)
theorem dX11_fill_86 : decode cX11_fill 86 = .ok (.aload_n 0, 1) := dk_42 (dk_at dksX11_fill_3 16 rfl rfl)
theorem dX11_fill_87 : decode cX11_fill 87 = .ok (.getfield 13, 3) := dk_180 0 13 (dk_at dksX11_fill_3 17 rfl rfl)
theorem dX11_fill_90 : decode cX11_fill 90 = .ok (.iconst 0, 1) := dk_3 (dk_at dksX11_fill_3 20 rfl rfl)
theorem dX11_fill_91 : decode cX11_fill 91 = .ok (.iaload, 1) := dk_46 (dk_at dksX11_fill_3 21 rfl rfl)
theorem dX11_fill_92 : decode cX11_fill 92 = .ok (.if_icmp .ge 114, 3) := dk_162 0 114 (dk_at dksX11_fill_4 0 rfl rfl)
theorem dX11_fill_95 : decode cX11_fill 95 = .ok (.aload_n 0, 1) := dk_42 (dk_at dksX11_fill_4 3 rfl rfl)
theorem dX11_fill_96 : decode cX11_fill 96 = .ok (.getfield 66, 3) := dk_180 0 66 (dk_at dksX11_fill_4 4 rfl rfl)
theorem dX11_fill_99 : decode cX11_fill 99 = .ok (.iconst 2, 1) := dk_5 (dk_at dksX11_fill_4 7 rfl rfl)
theorem dX11_fill_100 : decode cX11_fill 100 = .ok (.iload_n 1, 1) := dk_27 (dk_at dksX11_fill_4 8 rfl rfl)
theorem dX11_fill_101 : decode cX11_fill 101 = .ok (.imul, 1) := dk_104 (dk_at dksX11_fill_4 9 rfl rfl)
theorem dX11_fill_102 : decode cX11_fill 102 = .ok (.iaload, 1) := dk_46 (dk_at dksX11_fill_4 10 rfl rfl)
theorem dX11_fill_103 : decode cX11_fill 103 = .ok (.iconst (-1), 1) := dk_2 (dk_at dksX11_fill_4 11 rfl rfl)
theorem dX11_fill_104 : decode cX11_fill 104 = .ok (.if_icmp .eq 18, 3) := dk_159 0 18 (dk_at dksX11_fill_4 12 rfl rfl)
theorem dX11_fill_107 : decode cX11_fill 107 = .ok (.aload_n 0, 1) := dk_42 (dk_at dksX11_fill_4 15 rfl rfl)
theorem dX11_fill_108 : decode cX11_fill 108 = .ok (.getfield 66, 3) := dk_180 0 66 (dk_at dksX11_fill_4 16 rfl rfl)
theorem dX11_fill_111 : decode cX11_fill 111 = .ok (.iconst 2, 1) := dk_5 (dk_at dksX11_fill_4 19 rfl rfl)
theorem dX11_fill_112 : decode cX11_fill 112 = .ok (.iload_n 1, 1) := dk_27 (dk_at dksX11_fill_4 20 rfl rfl)
theorem dX11_fill_113 : decode cX11_fill 113 = .ok (.imul, 1) := dk_104 (dk_at dksX11_fill_4 21 rfl rfl)
theorem dX11_fill_114 : decode cX11_fill 114 = .ok (.iaload, 1) := dk_46 (dk_at dksX11_fill_4 22 rfl rfl)
theorem dX11_fill_115 : decode cX11_fill 115 = .ok (.iload_n 2, 1) := dk_28 (dk_at dksX11_fill_4 23 rfl rfl)
theorem dX11_fill_116 : decode cX11_fill 116 = .ok (.if_icmp .eq 6, 3) := dk_159 0 6 (dk_at dksX11_fill_5 0 rfl rfl)
theorem dX11_fill_119 : decode cX11_fill 119 = .ok (.goto 81, 3) := dk_167 0 81 (dk_at dksX11_fill_5 3 rfl rfl)
theorem dX11_fill_122 : decode cX11_fill 122 = .ok (.iconst 0, 1) := dk_3 (dk_at dksX11_fill_5 6 rfl rfl)
theorem dX11_fill_123 : decode cX11_fill 123 = .ok (.istore_n 3, 1) := dk_62 (dk_at dksX11_fill_5 7 rfl rfl)
theorem dX11_fill_124 : decode cX11_fill 124 = .ok (.iload_n 3, 1) := dk_29 (dk_at dksX11_fill_5 8 rfl rfl)
theorem dX11_fill_125 : decode cX11_fill 125 = .ok (.aload_n 0, 1) := dk_42 (dk_at dksX11_fill_5 9 rfl rfl)
theorem dX11_fill_126 : decode cX11_fill 126 = .ok (.getfield 13, 3) := dk_180 0 13 (dk_at dksX11_fill_5 10 rfl rfl)
theorem dX11_fill_129 : decode cX11_fill 129 = .ok (.iconst 1, 1) := dk_4 (dk_at dksX11_fill_5 13 rfl rfl)
theorem dX11_fill_130 : decode cX11_fill 130 = .ok (.iaload, 1) := dk_46 (dk_at dksX11_fill_5 14 rfl rfl)
theorem dX11_fill_131 : decode cX11_fill 131 = .ok (.if_icmp .ge 69, 3) := dk_162 0 69 (dk_at dksX11_fill_5 15 rfl rfl)
theorem dX11_fill_134 : decode cX11_fill 134 = .ok (.aload_n 0, 1) := dk_42 (dk_at dksX11_fill_5 18 rfl rfl)
theorem dX11_fill_135 : decode cX11_fill 135 = .ok (.getfield 66, 3) := dk_180 0 66 (dk_at dksX11_fill_5 19 rfl rfl)
theorem dX11_fill_138 : decode cX11_fill 138 = .ok (.iconst 2, 1) := dk_5 (dk_at dksX11_fill_5 22 rfl rfl)
theorem dX11_fill_139 : decode cX11_fill 139 = .ok (.iload_n 1, 1) := dk_27 (dk_at dksX11_fill_5 23 rfl rfl)
theorem dX11_fill_140 : decode cX11_fill 140 = .ok (.imul, 1) := dk_104 (dk_at dksX11_fill_6 0 rfl rfl)
theorem dX11_fill_141 : decode cX11_fill 141 = .ok (.iconst 1, 1) := dk_4 (dk_at dksX11_fill_6 1 rfl rfl)
theorem dX11_fill_142 : decode cX11_fill 142 = .ok (.iadd, 1) := dk_96 (dk_at dksX11_fill_6 2 rfl rfl)
theorem dX11_fill_143 : decode cX11_fill 143 = .ok (.iaload, 1) := dk_46 (dk_at dksX11_fill_6 3 rfl rfl)
theorem dX11_fill_144 : decode cX11_fill 144 = .ok (.iconst (-1), 1) := dk_2 (dk_at dksX11_fill_6 4 rfl rfl)
theorem dX11_fill_145 : decode cX11_fill 145 = .ok (.if_icmp .eq 17, 3) := dk_159 0 17 (dk_at dksX11_fill_6 5 rfl rfl)
theorem dX11_fill_148 : decode cX11_fill 148 = .ok (.aload_n 0, 1) := dk_42 (dk_at dksX11_fill_6 8 rfl rfl)
theorem dX11_fill_149 : decode cX11_fill 149 = .ok (.getfield 66, 3) := dk_180 0 66 (dk_at dksX11_fill_6 9 rfl rfl)
theorem dX11_fill_152 : decode cX11_fill 152 = .ok (.iconst 2, 1) := dk_5 (dk_at dksX11_fill_6 12 rfl rfl)
theorem dX11_fill_153 : decode cX11_fill 153 = .ok (.iload_n 1, 1) := dk_27 (dk_at dksX11_fill_6 13 rfl rfl)
theorem dX11_fill_154 : decode cX11_fill 154 = .ok (.imul, 1) := dk_104 (dk_at dksX11_fill_6 14 rfl rfl)
theorem dX11_fill_155 : decode cX11_fill 155 = .ok (.iconst 1, 1) := dk_4 (dk_at dksX11_fill_6 15 rfl rfl)
theorem dX11_fill_156 : decode cX11_fill 156 = .ok (.iadd, 1) := dk_96 (dk_at dksX11_fill_6 16 rfl rfl)
theorem dX11_fill_157 : decode cX11_fill 157 = .ok (.iaload, 1) := dk_46 (dk_at dksX11_fill_6 17 rfl rfl)
theorem dX11_fill_158 : decode cX11_fill 158 = .ok (.iload_n 3, 1) := dk_29 (dk_at dksX11_fill_6 18 rfl rfl)
theorem dX11_fill_159 : decode cX11_fill 159 = .ok (.if_icmp .ne 35, 3) := dk_160 0 35 (dk_at dksX11_fill_6 19 rfl rfl)
theorem dX11_fill_162 : decode cX11_fill 162 = .ok (.aload_n 0, 1) := dk_42 (dk_at dksX11_fill_6 22 rfl rfl)
theorem dX11_fill_163 : decode cX11_fill 163 = .ok (.iconst 0, 1) := dk_3 (dk_at dksX11_fill_6 23 rfl rfl)
theorem dX11_fill_164 : decode cX11_fill 164 = .ok (.iload_n 2, 1) := dk_28 (dk_at dksX11_fill_7 0 rfl rfl)
theorem dX11_fill_165 : decode cX11_fill 165 = .ok (.iload_n 3, 1) := dk_29 (dk_at dksX11_fill_7 1 rfl rfl)
theorem dX11_fill_166 : decode cX11_fill 166 = .ok (.invokevirtual 273, 3) := dk_182 1 17 (dk_at dksX11_fill_7 2 rfl rfl)
theorem dX11_fill_169 : decode cX11_fill 169 = .ok (.ifCond .eq 6, 3) := dk_153 0 6 (dk_at dksX11_fill_7 5 rfl rfl)
theorem dX11_fill_172 : decode cX11_fill 172 = .ok (.goto 22, 3) := dk_167 0 22 (dk_at dksX11_fill_7 8 rfl rfl)
theorem dX11_fill_175 : decode cX11_fill 175 = .ok (.aload_n 0, 1) := dk_42 (dk_at dksX11_fill_7 11 rfl rfl)
theorem dX11_fill_176 : decode cX11_fill 176 = .ok (.iconst 0, 1) := dk_3 (dk_at dksX11_fill_7 12 rfl rfl)
theorem dX11_fill_177 : decode cX11_fill 177 = .ok (.iload_n 2, 1) := dk_28 (dk_at dksX11_fill_7 13 rfl rfl)
theorem dX11_fill_178 : decode cX11_fill 178 = .ok (.iload_n 3, 1) := dk_29 (dk_at dksX11_fill_7 14 rfl rfl)
theorem dX11_fill_179 : decode cX11_fill 179 = .ok (.invokevirtual 266, 3) := dk_182 1 10 (dk_at dksX11_fill_7 15 rfl rfl)
theorem dX11_fill_182 : decode cX11_fill 182 = .ok (.aload_n 0, 1) := dk_42 (dk_at dksX11_fill_7 18 rfl rfl)
theorem dX11_fill_183 : decode cX11_fill 183 = .ok (.iload_n 1, 1) := dk_27 (dk_at dksX11_fill_7 19 rfl rfl)
theorem dX11_fill_184 : decode cX11_fill 184 = .ok (.iconst 1, 1) := dk_4 (dk_at dksX11_fill_7 20 rfl rfl)
theorem dX11_fill_185 : decode cX11_fill 185 = .ok (.iadd, 1) := dk_96 (dk_at dksX11_fill_7 21 rfl rfl)
theorem dX11_fill_186 : decode cX11_fill 186 = .ok (.invokevirtual 323, 3) := dk_182 1 67 (dk_at dksX11_fill_8 0 rfl rfl)
theorem dX11_fill_189 : decode cX11_fill 189 = .ok (.aload_n 0, 1) := dk_42 (dk_at dksX11_fill_8 3 rfl rfl)
theorem dX11_fill_190 : decode cX11_fill 190 = .ok (.iconst 0, 1) := dk_3 (dk_at dksX11_fill_8 4 rfl rfl)
theorem dX11_fill_191 : decode cX11_fill 191 = .ok (.invokevirtual 326, 3) := dk_182 1 70 (dk_at dksX11_fill_8 5 rfl rfl)
theorem dX11_fill_194 : decode cX11_fill 194 = .ok (.iinc 3 1, 3) := dk_132 3 1 (dk_at dksX11_fill_8 8 rfl rfl)
theorem dX11_fill_197 : decode cX11_fill 197 = .ok (.goto (-73), 3) := dk_167 255 183 (dk_at dksX11_fill_8 11 rfl rfl)
theorem dX11_fill_200 : decode cX11_fill 200 = .ok (.iinc 2 1, 3) := dk_132 2 1 (dk_at dksX11_fill_8 14 rfl rfl)
theorem dX11_fill_203 : decode cX11_fill 203 = .ok (.goto (-118), 3) := dk_167 255 138 (dk_at dksX11_fill_8 17 rfl rfl)
theorem dX11_fill_206 : decode cX11_fill 206 = .ok (.return_, 1) := dk_177 (dk_at dksX11_fill_8 20 rfl rfl)
abbrev cX11_pop : ByteArray := prog_21_method_45_code
def yX11_pop : MethodName := ⟨RX11, "pop", "(I)V"⟩
def dkwX11_pop_3 : List UInt8 := [42, 180, 0, 48, 28, 46, 96, 29, 7, 162, 0, 7, 4, 167, 0, 4, 7, 79, 177]
abbrev dktX11_pop_3 : List UInt8 := dkwX11_pop_3 ++ []
def dkwX11_pop_2 : List UInt8 := [180, 0, 45, 28, 46, 4, 182, 0, 251, 62, 29, 4, 164, 0, 30, 42, 180, 0, 57, 17, 1, 144, 27, 104]
abbrev dktX11_pop_2 : List UInt8 := dkwX11_pop_2 ++ dktX11_pop_3
def dkwX11_pop_1 : List UInt8 := [180, 0, 48, 28, 46, 2, 160, 0, 14, 42, 180, 0, 63, 27, 92, 46, 4, 100, 79, 177, 42, 27, 42]
abbrev dktX11_pop_1 : List UInt8 := dkwX11_pop_1 ++ dktX11_pop_2
def dkwX11_pop_0 : List UInt8 := [42, 180, 0, 60, 27, 92, 46, 4, 100, 79, 17, 1, 144, 27, 104, 42, 180, 0, 60, 27, 46, 96, 61, 42]
abbrev dktX11_pop_0 : List UInt8 := dkwX11_pop_0 ++ dktX11_pop_1
theorem dksX11_pop_0 : cX11_pop.data.toList.drop 0 = dktX11_pop_0 := by decide +kernel
theorem dksX11_pop_1 : cX11_pop.data.toList.drop 24 = dktX11_pop_1 := dk_seg dksX11_pop_0 24 rfl rfl
theorem dksX11_pop_2 : cX11_pop.data.toList.drop 47 = dktX11_pop_2 := dk_seg dksX11_pop_1 23 rfl rfl
theorem dksX11_pop_3 : cX11_pop.data.toList.drop 71 = dktX11_pop_3 := dk_seg dksX11_pop_2 24 rfl rfl
theorem dX11_pop_0 : decode cX11_pop 0 = .ok (.aload_n 0, 1) := dk_42 (dk_at dksX11_pop_0 0 rfl rfl)
theorem dX11_pop_1 : decode cX11_pop 1 = .ok (.getfield 60, 3) := dk_180 0 60 (dk_at dksX11_pop_0 1 rfl rfl)
theorem dX11_pop_4 : decode cX11_pop 4 = .ok (.iload_n 1, 1) := dk_27 (dk_at dksX11_pop_0 4 rfl rfl)
theorem dX11_pop_5 : decode cX11_pop 5 = .ok (.dup2, 1) := dk_92 (dk_at dksX11_pop_0 5 rfl rfl)
theorem dX11_pop_6 : decode cX11_pop 6 = .ok (.iaload, 1) := dk_46 (dk_at dksX11_pop_0 6 rfl rfl)
theorem dX11_pop_7 : decode cX11_pop 7 = .ok (.iconst 1, 1) := dk_4 (dk_at dksX11_pop_0 7 rfl rfl)
theorem dX11_pop_8 : decode cX11_pop 8 = .ok (.isub, 1) := dk_100 (dk_at dksX11_pop_0 8 rfl rfl)
theorem dX11_pop_9 : decode cX11_pop 9 = .ok (.iastore, 1) := dk_79 (dk_at dksX11_pop_0 9 rfl rfl)
theorem dX11_pop_10 : decode cX11_pop 10 = .ok (.sipush 400, 3) := dk_17 1 144 (dk_at dksX11_pop_0 10 rfl rfl)
theorem dX11_pop_13 : decode cX11_pop 13 = .ok (.iload_n 1, 1) := dk_27 (dk_at dksX11_pop_0 13 rfl rfl)
theorem dX11_pop_14 : decode cX11_pop 14 = .ok (.imul, 1) := dk_104 (dk_at dksX11_pop_0 14 rfl rfl)
theorem dX11_pop_15 : decode cX11_pop 15 = .ok (.aload_n 0, 1) := dk_42 (dk_at dksX11_pop_0 15 rfl rfl)
theorem dX11_pop_16 : decode cX11_pop 16 = .ok (.getfield 60, 3) := dk_180 0 60 (dk_at dksX11_pop_0 16 rfl rfl)
theorem dX11_pop_19 : decode cX11_pop 19 = .ok (.iload_n 1, 1) := dk_27 (dk_at dksX11_pop_0 19 rfl rfl)
theorem dX11_pop_20 : decode cX11_pop 20 = .ok (.iaload, 1) := dk_46 (dk_at dksX11_pop_0 20 rfl rfl)
theorem dX11_pop_21 : decode cX11_pop 21 = .ok (.iadd, 1) := dk_96 (dk_at dksX11_pop_0 21 rfl rfl)
theorem dX11_pop_22 : decode cX11_pop 22 = .ok (.istore_n 2, 1) := dk_61 (dk_at dksX11_pop_0 22 rfl rfl)
theorem dX11_pop_23 : decode cX11_pop 23 = .ok (.aload_n 0, 1) := dk_42 (dk_at dksX11_pop_0 23 rfl rfl)
theorem dX11_pop_24 : decode cX11_pop 24 = .ok (.getfield 48, 3) := dk_180 0 48 (dk_at dksX11_pop_1 0 rfl rfl)
theorem dX11_pop_27 : decode cX11_pop 27 = .ok (.iload_n 2, 1) := dk_28 (dk_at dksX11_pop_1 3 rfl rfl)
theorem dX11_pop_28 : decode cX11_pop 28 = .ok (.iaload, 1) := dk_46 (dk_at dksX11_pop_1 4 rfl rfl)
theorem dX11_pop_29 : decode cX11_pop 29 = .ok (.iconst (-1), 1) := dk_2 (dk_at dksX11_pop_1 5 rfl rfl)
theorem dX11_pop_30 : decode cX11_pop 30 = .ok (.if_icmp .ne 14, 3) := dk_160 0 14 (dk_at dksX11_pop_1 6 rfl rfl)
theorem dX11_pop_33 : decode cX11_pop 33 = .ok (.aload_n 0, 1) := dk_42 (dk_at dksX11_pop_1 9 rfl rfl)
theorem dX11_pop_34 : decode cX11_pop 34 = .ok (.getfield 63, 3) := dk_180 0 63 (dk_at dksX11_pop_1 10 rfl rfl)
theorem dX11_pop_37 : decode cX11_pop 37 = .ok (.iload_n 1, 1) := dk_27 (dk_at dksX11_pop_1 13 rfl rfl)
theorem dX11_pop_38 : decode cX11_pop 38 = .ok (.dup2, 1) := dk_92 (dk_at dksX11_pop_1 14 rfl rfl)
theorem dX11_pop_39 : decode cX11_pop 39 = .ok (.iaload, 1) := dk_46 (dk_at dksX11_pop_1 15 rfl rfl)
theorem dX11_pop_40 : decode cX11_pop 40 = .ok (.iconst 1, 1) := dk_4 (dk_at dksX11_pop_1 16 rfl rfl)
theorem dX11_pop_41 : decode cX11_pop 41 = .ok (.isub, 1) := dk_100 (dk_at dksX11_pop_1 17 rfl rfl)
theorem dX11_pop_42 : decode cX11_pop 42 = .ok (.iastore, 1) := dk_79 (dk_at dksX11_pop_1 18 rfl rfl)
theorem dX11_pop_43 : decode cX11_pop 43 = .ok (.return_, 1) := dk_177 (dk_at dksX11_pop_1 19 rfl rfl)
theorem dX11_pop_44 : decode cX11_pop 44 = .ok (.aload_n 0, 1) := dk_42 (dk_at dksX11_pop_1 20 rfl rfl)
theorem dX11_pop_45 : decode cX11_pop 45 = .ok (.iload_n 1, 1) := dk_27 (dk_at dksX11_pop_1 21 rfl rfl)
theorem dX11_pop_46 : decode cX11_pop 46 = .ok (.aload_n 0, 1) := dk_42 (dk_at dksX11_pop_1 22 rfl rfl)
theorem dX11_pop_47 : decode cX11_pop 47 = .ok (.getfield 45, 3) := dk_180 0 45 (dk_at dksX11_pop_2 0 rfl rfl)
theorem dX11_pop_50 : decode cX11_pop 50 = .ok (.iload_n 2, 1) := dk_28 (dk_at dksX11_pop_2 3 rfl rfl)
theorem dX11_pop_51 : decode cX11_pop 51 = .ok (.iaload, 1) := dk_46 (dk_at dksX11_pop_2 4 rfl rfl)
theorem dX11_pop_52 : decode cX11_pop 52 = .ok (.iconst 1, 1) := dk_4 (dk_at dksX11_pop_2 5 rfl rfl)
theorem dX11_pop_53 : decode cX11_pop 53 = .ok (.invokevirtual 251, 3) := dk_182 0 251 (dk_at dksX11_pop_2 6 rfl rfl)
theorem dX11_pop_56 : decode cX11_pop 56 = .ok (.istore_n 3, 1) := dk_62 (dk_at dksX11_pop_2 9 rfl rfl)
theorem dX11_pop_57 : decode cX11_pop 57 = .ok (.iload_n 3, 1) := dk_29 (dk_at dksX11_pop_2 10 rfl rfl)
theorem dX11_pop_58 : decode cX11_pop 58 = .ok (.iconst 1, 1) := dk_4 (dk_at dksX11_pop_2 11 rfl rfl)
theorem dX11_pop_59 : decode cX11_pop 59 = .ok (.if_icmp .le 30, 3) := dk_164 0 30 (dk_at dksX11_pop_2 12 rfl rfl)
theorem dX11_pop_62 : decode cX11_pop 62 = .ok (.aload_n 0, 1) := dk_42 (dk_at dksX11_pop_2 15 rfl rfl)
theorem dX11_pop_63 : decode cX11_pop 63 = .ok (.getfield 57, 3) := dk_180 0 57 (dk_at dksX11_pop_2 16 rfl rfl)
theorem dX11_pop_66 : decode cX11_pop 66 = .ok (.sipush 400, 3) := dk_17 1 144 (dk_at dksX11_pop_2 19 rfl rfl)
theorem dX11_pop_69 : decode cX11_pop 69 = .ok (.iload_n 1, 1) := dk_27 (dk_at dksX11_pop_2 22 rfl rfl)
theorem dX11_pop_70 : decode cX11_pop 70 = .ok (.imul, 1) := dk_104 (dk_at dksX11_pop_2 23 rfl rfl)
theorem dX11_pop_71 : decode cX11_pop 71 = .ok (.aload_n 0, 1) := dk_42 (dk_at dksX11_pop_3 0 rfl rfl)
theorem dX11_pop_72 : decode cX11_pop 72 = .ok (.getfield 48, 3) := dk_180 0 48 (dk_at dksX11_pop_3 1 rfl rfl)
theorem dX11_pop_75 : decode cX11_pop 75 = .ok (.iload_n 2, 1) := dk_28 (dk_at dksX11_pop_3 4 rfl rfl)
theorem dX11_pop_76 : decode cX11_pop 76 = .ok (.iaload, 1) := dk_46 (dk_at dksX11_pop_3 5 rfl rfl)
theorem dX11_pop_77 : decode cX11_pop 77 = .ok (.iadd, 1) := dk_96 (dk_at dksX11_pop_3 6 rfl rfl)
theorem dX11_pop_78 : decode cX11_pop 78 = .ok (.iload_n 3, 1) := dk_29 (dk_at dksX11_pop_3 7 rfl rfl)
theorem dX11_pop_79 : decode cX11_pop 79 = .ok (.iconst 4, 1) := dk_7 (dk_at dksX11_pop_3 8 rfl rfl)
theorem dX11_pop_80 : decode cX11_pop 80 = .ok (.if_icmp .ge 7, 3) := dk_162 0 7 (dk_at dksX11_pop_3 9 rfl rfl)
theorem dX11_pop_83 : decode cX11_pop 83 = .ok (.iconst 1, 1) := dk_4 (dk_at dksX11_pop_3 12 rfl rfl)
theorem dX11_pop_84 : decode cX11_pop 84 = .ok (.goto 4, 3) := dk_167 0 4 (dk_at dksX11_pop_3 13 rfl rfl)
theorem dX11_pop_87 : decode cX11_pop 87 = .ok (.iconst 4, 1) := dk_7 (dk_at dksX11_pop_3 16 rfl rfl)
theorem dX11_pop_88 : decode cX11_pop 88 = .ok (.iastore, 1) := dk_79 (dk_at dksX11_pop_3 17 rfl rfl)
theorem dX11_pop_89 : decode cX11_pop 89 = .ok (.return_, 1) := dk_177 (dk_at dksX11_pop_3 18 rfl rfl)
abbrev cX11_sure : ByteArray := prog_21_method_75_code
def yX11_sure : MethodName := ⟨RX11, "sure", "(II)I"⟩
def dkwX11_sure_2 : List UInt8 := [180, 0, 81, 27, 46, 167, 0, 9, 42, 180, 0, 84, 27, 46, 172]
abbrev dktX11_sure_2 : List UInt8 := dkwX11_sure_2 ++ []
def dkwX11_sure_1 : List UInt8 := [154, 0, 5, 2, 172, 28, 154, 0, 12, 42, 180, 0, 78, 27, 46, 167, 0, 23, 28, 4, 160, 0, 12, 42]
abbrev dktX11_sure_1 : List UInt8 := dkwX11_sure_1 ++ dktX11_sure_2
def dkwX11_sure_0 : List UInt8 := [42, 3, 181, 0, 106, 27, 155, 0, 20, 27, 42, 180, 1, 82, 162, 0, 12, 28, 3, 5, 184, 0, 177]
abbrev dktX11_sure_0 : List UInt8 := dkwX11_sure_0 ++ dktX11_sure_1
theorem dksX11_sure_0 : cX11_sure.data.toList.drop 0 = dktX11_sure_0 := by decide +kernel
theorem dksX11_sure_1 : cX11_sure.data.toList.drop 23 = dktX11_sure_1 := dk_seg dksX11_sure_0 23 rfl rfl
theorem dksX11_sure_2 : cX11_sure.data.toList.drop 47 = dktX11_sure_2 := dk_seg dksX11_sure_1 24 rfl rfl
theorem dX11_sure_0 : decode cX11_sure 0 = .ok (.aload_n 0, 1) := dk_42 (dk_at dksX11_sure_0 0 rfl rfl)
theorem dX11_sure_1 : decode cX11_sure 1 = .ok (.iconst 0, 1) := dk_3 (dk_at dksX11_sure_0 1 rfl rfl)
theorem dX11_sure_2 : decode cX11_sure 2 = .ok (.putfield 106, 3) := dk_181 0 106 (dk_at dksX11_sure_0 2 rfl rfl)
theorem dX11_sure_5 : decode cX11_sure 5 = .ok (.iload_n 1, 1) := dk_27 (dk_at dksX11_sure_0 5 rfl rfl)
theorem dX11_sure_6 : decode cX11_sure 6 = .ok (.ifCond .lt 20, 3) := dk_155 0 20 (dk_at dksX11_sure_0 6 rfl rfl)
theorem dX11_sure_9 : decode cX11_sure 9 = .ok (.iload_n 1, 1) := dk_27 (dk_at dksX11_sure_0 9 rfl rfl)
theorem dX11_sure_10 : decode cX11_sure 10 = .ok (.aload_n 0, 1) := dk_42 (dk_at dksX11_sure_0 10 rfl rfl)
theorem dX11_sure_11 : decode cX11_sure 11 = .ok (.getfield 338, 3) := dk_180 1 82 (dk_at dksX11_sure_0 11 rfl rfl)
theorem dX11_sure_14 : decode cX11_sure 14 = .ok (.if_icmp .ge 12, 3) := dk_162 0 12 (dk_at dksX11_sure_0 14 rfl rfl)
theorem dX11_sure_17 : decode cX11_sure 17 = .ok (.iload_n 2, 1) := dk_28 (dk_at dksX11_sure_0 17 rfl rfl)
theorem dX11_sure_18 : decode cX11_sure 18 = .ok (.iconst 0, 1) := dk_3 (dk_at dksX11_sure_0 18 rfl rfl)
theorem dX11_sure_19 : decode cX11_sure 19 = .ok (.iconst 2, 1) := dk_5 (dk_at dksX11_sure_0 19 rfl rfl)
theorem dX11_sure_20 : decode cX11_sure 20 = .ok (.invokestatic 177, 3) := dk_184 0 177 (dk_at dksX11_sure_0 20 rfl rfl)
theorem dX11_sure_23 : decode cX11_sure 23 = .ok (.ifCond .ne 5, 3) := dk_154 0 5 (dk_at dksX11_sure_1 0 rfl rfl)
theorem dX11_sure_26 : decode cX11_sure 26 = .ok (.iconst (-1), 1) := dk_2 (dk_at dksX11_sure_1 3 rfl rfl)
theorem dX11_sure_27 : decode cX11_sure 27 = .ok (.ireturn, 1) := dk_172 (dk_at dksX11_sure_1 4 rfl rfl)
theorem dX11_sure_28 : decode cX11_sure 28 = .ok (.iload_n 2, 1) := dk_28 (dk_at dksX11_sure_1 5 rfl rfl)
theorem dX11_sure_29 : decode cX11_sure 29 = .ok (.ifCond .ne 12, 3) := dk_154 0 12 (dk_at dksX11_sure_1 6 rfl rfl)
theorem dX11_sure_32 : decode cX11_sure 32 = .ok (.aload_n 0, 1) := dk_42 (dk_at dksX11_sure_1 9 rfl rfl)
theorem dX11_sure_33 : decode cX11_sure 33 = .ok (.getfield 78, 3) := dk_180 0 78 (dk_at dksX11_sure_1 10 rfl rfl)
theorem dX11_sure_36 : decode cX11_sure 36 = .ok (.iload_n 1, 1) := dk_27 (dk_at dksX11_sure_1 13 rfl rfl)
theorem dX11_sure_37 : decode cX11_sure 37 = .ok (.iaload, 1) := dk_46 (dk_at dksX11_sure_1 14 rfl rfl)
theorem dX11_sure_38 : decode cX11_sure 38 = .ok (.goto 23, 3) := dk_167 0 23 (dk_at dksX11_sure_1 15 rfl rfl)
theorem dX11_sure_41 : decode cX11_sure 41 = .ok (.iload_n 2, 1) := dk_28 (dk_at dksX11_sure_1 18 rfl rfl)
theorem dX11_sure_42 : decode cX11_sure 42 = .ok (.iconst 1, 1) := dk_4 (dk_at dksX11_sure_1 19 rfl rfl)
theorem dX11_sure_43 : decode cX11_sure 43 = .ok (.if_icmp .ne 12, 3) := dk_160 0 12 (dk_at dksX11_sure_1 20 rfl rfl)
theorem dX11_sure_46 : decode cX11_sure 46 = .ok (.aload_n 0, 1) := dk_42 (dk_at dksX11_sure_1 23 rfl rfl)
theorem dX11_sure_47 : decode cX11_sure 47 = .ok (.getfield 81, 3) := dk_180 0 81 (dk_at dksX11_sure_2 0 rfl rfl)
theorem dX11_sure_50 : decode cX11_sure 50 = .ok (.iload_n 1, 1) := dk_27 (dk_at dksX11_sure_2 3 rfl rfl)
theorem dX11_sure_51 : decode cX11_sure 51 = .ok (.iaload, 1) := dk_46 (dk_at dksX11_sure_2 4 rfl rfl)
theorem dX11_sure_52 : decode cX11_sure 52 = .ok (.goto 9, 3) := dk_167 0 9 (dk_at dksX11_sure_2 5 rfl rfl)
theorem dX11_sure_55 : decode cX11_sure 55 = .ok (.aload_n 0, 1) := dk_42 (dk_at dksX11_sure_2 8 rfl rfl)
theorem dX11_sure_56 : decode cX11_sure 56 = .ok (.getfield 84, 3) := dk_180 0 84 (dk_at dksX11_sure_2 9 rfl rfl)
theorem dX11_sure_59 : decode cX11_sure 59 = .ok (.iload_n 1, 1) := dk_27 (dk_at dksX11_sure_2 12 rfl rfl)
theorem dX11_sure_60 : decode cX11_sure 60 = .ok (.iaload, 1) := dk_46 (dk_at dksX11_sure_2 13 rfl rfl)
theorem dX11_sure_61 : decode cX11_sure 61 = .ok (.ireturn, 1) := dk_172 (dk_at dksX11_sure_2 14 rfl rfl)
abbrev cX11_hangs : ByteArray := prog_21_method_76_code
def yX11_hangs : MethodName := ⟨RX11, "hangs", "()I"⟩
def dkwX11_hangs_7 : List UInt8 := [167, 255, 155, 28, 172]
abbrev dktX11_hangs_7 : List UInt8 := dkwX11_hangs_7 ++ []
def dkwX11_hangs_6 : List UInt8 := [2, 79, 42, 3, 182, 1, 67, 42, 180, 1, 64, 27, 164, 0, 9, 28, 4, 29, 120, 128, 61, 132, 3, 1]
abbrev dktX11_hangs_6 : List UInt8 := dkwX11_hangs_6 ++ dktX11_hangs_7
def dkwX11_hangs_5 : List UInt8 := [42, 2, 2, 182, 1, 79, 42, 180, 0, 66, 5, 29, 104, 2, 79, 42, 180, 0, 66, 5, 29, 104, 4, 96]
abbrev dktX11_hangs_5 : List UInt8 := dkwX11_hangs_5 ++ dktX11_hangs_6
def dkwX11_hangs_4 : List UInt8 := [180, 0, 13, 17, 3, 94, 5, 29, 104, 96, 4, 96, 46, 2, 160, 0, 6, 167, 0, 52, 42, 182, 1, 76]
abbrev dktX11_hangs_4 : List UInt8 := dkwX11_hangs_4 ++ dktX11_hangs_5
def dkwX11_hangs_3 : List UInt8 := [17, 3, 93, 46, 162, 0, 95, 42, 180, 0, 13, 17, 3, 94, 5, 29, 104, 96, 46, 2, 159, 0, 73, 42]
abbrev dktX11_hangs_3 : List UInt8 := dkwX11_hangs_3 ++ dktX11_hangs_4
def dkwX11_hangs_2 : List UInt8 := [182, 1, 67, 42, 180, 1, 64, 60, 27, 154, 0, 5, 2, 172, 3, 61, 3, 62, 29, 42, 180, 0, 13]
abbrev dktX11_hangs_2 : List UInt8 := dkwX11_hangs_2 ++ dktX11_hangs_3
def dkwX11_hangs_1 : List UInt8 := [182, 1, 73, 19, 1, 85, 164, 0, 6, 16, 254, 172, 42, 182, 1, 76, 42, 2, 2, 182, 1, 79, 42, 3]
abbrev dktX11_hangs_1 : List UInt8 := dkwX11_hangs_1 ++ dktX11_hangs_2
def dkwX11_hangs_0 : List UInt8 := [42, 3, 181, 0, 106, 42, 42, 180, 0, 13, 3, 46, 42, 180, 0, 13, 4, 46, 104, 19, 1, 85]
abbrev dktX11_hangs_0 : List UInt8 := dkwX11_hangs_0 ++ dktX11_hangs_1
theorem dksX11_hangs_0 : cX11_hangs.data.toList.drop 0 = dktX11_hangs_0 := by decide +kernel
theorem dksX11_hangs_1 : cX11_hangs.data.toList.drop 22 = dktX11_hangs_1 := dk_seg dksX11_hangs_0 22 rfl rfl
theorem dksX11_hangs_2 : cX11_hangs.data.toList.drop 46 = dktX11_hangs_2 := dk_seg dksX11_hangs_1 24 rfl rfl
theorem dksX11_hangs_3 : cX11_hangs.data.toList.drop 69 = dktX11_hangs_3 := dk_seg dksX11_hangs_2 23 rfl rfl
theorem dksX11_hangs_4 : cX11_hangs.data.toList.drop 93 = dktX11_hangs_4 := dk_seg dksX11_hangs_3 24 rfl rfl
theorem dksX11_hangs_5 : cX11_hangs.data.toList.drop 117 = dktX11_hangs_5 := dk_seg dksX11_hangs_4 24 rfl rfl
theorem dksX11_hangs_6 : cX11_hangs.data.toList.drop 141 = dktX11_hangs_6 := dk_seg dksX11_hangs_5 24 rfl rfl
theorem dksX11_hangs_7 : cX11_hangs.data.toList.drop 165 = dktX11_hangs_7 := dk_seg dksX11_hangs_6 24 rfl rfl
theorem dX11_hangs_0 : decode cX11_hangs 0 = .ok (.aload_n 0, 1) := dk_42 (dk_at dksX11_hangs_0 0 rfl rfl)
theorem dX11_hangs_1 : decode cX11_hangs 1 = .ok (.iconst 0, 1) := dk_3 (dk_at dksX11_hangs_0 1 rfl rfl)
theorem dX11_hangs_2 : decode cX11_hangs 2 = .ok (.putfield 106, 3) := dk_181 0 106 (dk_at dksX11_hangs_0 2 rfl rfl)
theorem dX11_hangs_5 : decode cX11_hangs 5 = .ok (.aload_n 0, 1) := dk_42 (dk_at dksX11_hangs_0 5 rfl rfl)
theorem dX11_hangs_6 : decode cX11_hangs 6 = .ok (.aload_n 0, 1) := dk_42 (dk_at dksX11_hangs_0 6 rfl rfl)
theorem dX11_hangs_7 : decode cX11_hangs 7 = .ok (.getfield 13, 3) := dk_180 0 13 (dk_at dksX11_hangs_0 7 rfl rfl)
theorem dX11_hangs_10 : decode cX11_hangs 10 = .ok (.iconst 0, 1) := dk_3 (dk_at dksX11_hangs_0 10 rfl rfl)
theorem dX11_hangs_11 : decode cX11_hangs 11 = .ok (.iaload, 1) := dk_46 (dk_at dksX11_hangs_0 11 rfl rfl)
theorem dX11_hangs_12 : decode cX11_hangs 12 = .ok (.aload_n 0, 1) := dk_42 (dk_at dksX11_hangs_0 12 rfl rfl)
theorem dX11_hangs_13 : decode cX11_hangs 13 = .ok (.getfield 13, 3) := dk_180 0 13 (dk_at dksX11_hangs_0 13 rfl rfl)
theorem dX11_hangs_16 : decode cX11_hangs 16 = .ok (.iconst 1, 1) := dk_4 (dk_at dksX11_hangs_0 16 rfl rfl)
theorem dX11_hangs_17 : decode cX11_hangs 17 = .ok (.iaload, 1) := dk_46 (dk_at dksX11_hangs_0 17 rfl rfl)
theorem dX11_hangs_18 : decode cX11_hangs 18 = .ok (.imul, 1) := dk_104 (dk_at dksX11_hangs_0 18 rfl rfl)
theorem dX11_hangs_19 : decode cX11_hangs 19 = .ok (.ldc_w 341, 3) := dk_19 1 85 (dk_at dksX11_hangs_0 19 rfl rfl)
theorem dX11_hangs_22 : decode cX11_hangs 22 = .ok (.invokevirtual 329, 3) := dk_182 1 73 (dk_at dksX11_hangs_1 0 rfl rfl)
theorem dX11_hangs_25 : decode cX11_hangs 25 = .ok (.ldc_w 341, 3) := dk_19 1 85 (dk_at dksX11_hangs_1 3 rfl rfl)
theorem dX11_hangs_28 : decode cX11_hangs 28 = .ok (.if_icmp .le 6, 3) := dk_164 0 6 (dk_at dksX11_hangs_1 6 rfl rfl)
theorem dX11_hangs_31 : decode cX11_hangs 31 = .ok (.bipush (-2), 2) := dk_16 254 (dk_at dksX11_hangs_1 9 rfl rfl)
theorem dX11_hangs_33 : decode cX11_hangs 33 = .ok (.ireturn, 1) := dk_172 (dk_at dksX11_hangs_1 11 rfl rfl)
theorem dX11_hangs_34 : decode cX11_hangs 34 = .ok (.aload_n 0, 1) := dk_42 (dk_at dksX11_hangs_1 12 rfl rfl)
theorem dX11_hangs_35 : decode cX11_hangs 35 = .ok (.invokevirtual 332, 3) := dk_182 1 76 (dk_at dksX11_hangs_1 13 rfl rfl)
theorem dX11_hangs_38 : decode cX11_hangs 38 = .ok (.aload_n 0, 1) := dk_42 (dk_at dksX11_hangs_1 16 rfl rfl)
theorem dX11_hangs_39 : decode cX11_hangs 39 = .ok (.iconst (-1), 1) := dk_2 (dk_at dksX11_hangs_1 17 rfl rfl)
theorem dX11_hangs_40 : decode cX11_hangs 40 = .ok (.iconst (-1), 1) := dk_2 (dk_at dksX11_hangs_1 18 rfl rfl)
theorem dX11_hangs_41 : decode cX11_hangs 41 = .ok (.invokevirtual 335, 3) := dk_182 1 79 (dk_at dksX11_hangs_1 19 rfl rfl)
theorem dX11_hangs_44 : decode cX11_hangs 44 = .ok (.aload_n 0, 1) := dk_42 (dk_at dksX11_hangs_1 22 rfl rfl)
theorem dX11_hangs_45 : decode cX11_hangs 45 = .ok (.iconst 0, 1) := dk_3 (dk_at dksX11_hangs_1 23 rfl rfl)
theorem dX11_hangs_46 : decode cX11_hangs 46 = .ok (.invokevirtual 323, 3) := dk_182 1 67 (dk_at dksX11_hangs_2 0 rfl rfl)
theorem dX11_hangs_49 : decode cX11_hangs 49 = .ok (.aload_n 0, 1) := dk_42 (dk_at dksX11_hangs_2 3 rfl rfl)
theorem dX11_hangs_50 : decode cX11_hangs 50 = .ok (.getfield 320, 3) := dk_180 1 64 (dk_at dksX11_hangs_2 4 rfl rfl)
theorem dX11_hangs_53 : decode cX11_hangs 53 = .ok (.istore_n 1, 1) := dk_60 (dk_at dksX11_hangs_2 7 rfl rfl)
theorem dX11_hangs_54 : decode cX11_hangs 54 = .ok (.iload_n 1, 1) := dk_27 (dk_at dksX11_hangs_2 8 rfl rfl)
theorem dX11_hangs_55 : decode cX11_hangs 55 = .ok (.ifCond .ne 5, 3) := dk_154 0 5 (dk_at dksX11_hangs_2 9 rfl rfl)
theorem dX11_hangs_58 : decode cX11_hangs 58 = .ok (.iconst (-1), 1) := dk_2 (dk_at dksX11_hangs_2 12 rfl rfl)
theorem dX11_hangs_59 : decode cX11_hangs 59 = .ok (.ireturn, 1) := dk_172 (dk_at dksX11_hangs_2 13 rfl rfl)
theorem dX11_hangs_60 : decode cX11_hangs 60 = .ok (.iconst 0, 1) := dk_3 (dk_at dksX11_hangs_2 14 rfl rfl)
theorem dX11_hangs_61 : decode cX11_hangs 61 = .ok (.istore_n 2, 1) := dk_61 (dk_at dksX11_hangs_2 15 rfl rfl)
theorem dX11_hangs_62 : decode cX11_hangs 62 = .ok (.iconst 0, 1) := dk_3 (dk_at dksX11_hangs_2 16 rfl rfl)
theorem dX11_hangs_63 : decode cX11_hangs 63 = .ok (.istore_n 3, 1) := dk_62 (dk_at dksX11_hangs_2 17 rfl rfl)
theorem dX11_hangs_64 : decode cX11_hangs 64 = .ok (.iload_n 3, 1) := dk_29 (dk_at dksX11_hangs_2 18 rfl rfl)
theorem dX11_hangs_65 : decode cX11_hangs 65 = .ok (.aload_n 0, 1) := dk_42 (dk_at dksX11_hangs_2 19 rfl rfl)
theorem dX11_hangs_66 : decode cX11_hangs 66 = .ok (.getfield 13, 3) := dk_180 0 13 (dk_at dksX11_hangs_2 20 rfl rfl)
theorem dX11_hangs_69 : decode cX11_hangs 69 = .ok (.sipush 861, 3) := dk_17 3 93 (dk_at dksX11_hangs_3 0 rfl rfl)
theorem dX11_hangs_72 : decode cX11_hangs 72 = .ok (.iaload, 1) := dk_46 (dk_at dksX11_hangs_3 3 rfl rfl)
theorem dX11_hangs_73 : decode cX11_hangs 73 = .ok (.if_icmp .ge 95, 3) := dk_162 0 95 (dk_at dksX11_hangs_3 4 rfl rfl)
theorem dX11_hangs_76 : decode cX11_hangs 76 = .ok (.aload_n 0, 1) := dk_42 (dk_at dksX11_hangs_3 7 rfl rfl)
theorem dX11_hangs_77 : decode cX11_hangs 77 = .ok (.getfield 13, 3) := dk_180 0 13 (dk_at dksX11_hangs_3 8 rfl rfl)
theorem dX11_hangs_80 : decode cX11_hangs 80 = .ok (.sipush 862, 3) := dk_17 3 94 (dk_at dksX11_hangs_3 11 rfl rfl)
theorem dX11_hangs_83 : decode cX11_hangs 83 = .ok (.iconst 2, 1) := dk_5 (dk_at dksX11_hangs_3 14 rfl rfl)
theorem dX11_hangs_84 : decode cX11_hangs 84 = .ok (.iload_n 3, 1) := dk_29 (dk_at dksX11_hangs_3 15 rfl rfl)
theorem dX11_hangs_85 : decode cX11_hangs 85 = .ok (.imul, 1) := dk_104 (dk_at dksX11_hangs_3 16 rfl rfl)
theorem dX11_hangs_86 : decode cX11_hangs 86 = .ok (.iadd, 1) := dk_96 (dk_at dksX11_hangs_3 17 rfl rfl)
theorem dX11_hangs_87 : decode cX11_hangs 87 = .ok (.iaload, 1) := dk_46 (dk_at dksX11_hangs_3 18 rfl rfl)
theorem dX11_hangs_88 : decode cX11_hangs 88 = .ok (.iconst (-1), 1) := dk_2 (dk_at dksX11_hangs_3 19 rfl rfl)
theorem dX11_hangs_89 : decode cX11_hangs 89 = .ok (.if_icmp .eq 73, 3) := dk_159 0 73 (dk_at dksX11_hangs_3 20 rfl rfl)
theorem dX11_hangs_92 : decode cX11_hangs 92 = .ok (.aload_n 0, 1) := dk_42 (dk_at dksX11_hangs_3 23 rfl rfl)
theorem dX11_hangs_93 : decode cX11_hangs 93 = .ok (.getfield 13, 3) := dk_180 0 13 (dk_at dksX11_hangs_4 0 rfl rfl)
theorem dX11_hangs_96 : decode cX11_hangs 96 = .ok (.sipush 862, 3) := dk_17 3 94 (dk_at dksX11_hangs_4 3 rfl rfl)
theorem dX11_hangs_99 : decode cX11_hangs 99 = .ok (.iconst 2, 1) := dk_5 (dk_at dksX11_hangs_4 6 rfl rfl)
theorem dX11_hangs_100 : decode cX11_hangs 100 = .ok (.iload_n 3, 1) := dk_29 (dk_at dksX11_hangs_4 7 rfl rfl)
theorem dX11_hangs_101 : decode cX11_hangs 101 = .ok (.imul, 1) := dk_104 (dk_at dksX11_hangs_4 8 rfl rfl)
theorem dX11_hangs_102 : decode cX11_hangs 102 = .ok (.iadd, 1) := dk_96 (dk_at dksX11_hangs_4 9 rfl rfl)
theorem dX11_hangs_103 : decode cX11_hangs 103 = .ok (.iconst 1, 1) := dk_4 (dk_at dksX11_hangs_4 10 rfl rfl)
theorem dX11_hangs_104 : decode cX11_hangs 104 = .ok (.iadd, 1) := dk_96 (dk_at dksX11_hangs_4 11 rfl rfl)
theorem dX11_hangs_105 : decode cX11_hangs 105 = .ok (.iaload, 1) := dk_46 (dk_at dksX11_hangs_4 12 rfl rfl)
theorem dX11_hangs_106 : decode cX11_hangs 106 = .ok (.iconst (-1), 1) := dk_2 (dk_at dksX11_hangs_4 13 rfl rfl)
theorem dX11_hangs_107 : decode cX11_hangs 107 = .ok (.if_icmp .ne 6, 3) := dk_160 0 6 (dk_at dksX11_hangs_4 14 rfl rfl)
theorem dX11_hangs_110 : decode cX11_hangs 110 = .ok (.goto 52, 3) := dk_167 0 52 (dk_at dksX11_hangs_4 17 rfl rfl)
theorem dX11_hangs_113 : decode cX11_hangs 113 = .ok (.aload_n 0, 1) := dk_42 (dk_at dksX11_hangs_4 20 rfl rfl)
theorem dX11_hangs_114 : decode cX11_hangs 114 = .ok (.invokevirtual 332, 3) := dk_182 1 76 (dk_at dksX11_hangs_4 21 rfl rfl)
theorem dX11_hangs_117 : decode cX11_hangs 117 = .ok (.aload_n 0, 1) := dk_42 (dk_at dksX11_hangs_5 0 rfl rfl)
theorem dX11_hangs_118 : decode cX11_hangs 118 = .ok (.iconst (-1), 1) := dk_2 (dk_at dksX11_hangs_5 1 rfl rfl)
theorem dX11_hangs_119 : decode cX11_hangs 119 = .ok (.iconst (-1), 1) := dk_2 (dk_at dksX11_hangs_5 2 rfl rfl)
theorem dX11_hangs_120 : decode cX11_hangs 120 = .ok (.invokevirtual 335, 3) := dk_182 1 79 (dk_at dksX11_hangs_5 3 rfl rfl)
theorem dX11_hangs_123 : decode cX11_hangs 123 = .ok (.aload_n 0, 1) := dk_42 (dk_at dksX11_hangs_5 6 rfl rfl)
theorem dX11_hangs_124 : decode cX11_hangs 124 = .ok (.getfield 66, 3) := dk_180 0 66 (dk_at dksX11_hangs_5 7 rfl rfl)
theorem dX11_hangs_127 : decode cX11_hangs 127 = .ok (.iconst 2, 1) := dk_5 (dk_at dksX11_hangs_5 10 rfl rfl)
theorem dX11_hangs_128 : decode cX11_hangs 128 = .ok (.iload_n 3, 1) := dk_29 (dk_at dksX11_hangs_5 11 rfl rfl)
theorem dX11_hangs_129 : decode cX11_hangs 129 = .ok (.imul, 1) := dk_104 (dk_at dksX11_hangs_5 12 rfl rfl)
theorem dX11_hangs_130 : decode cX11_hangs 130 = .ok (.iconst (-1), 1) := dk_2 (dk_at dksX11_hangs_5 13 rfl rfl)
theorem dX11_hangs_131 : decode cX11_hangs 131 = .ok (.iastore, 1) := dk_79 (dk_at dksX11_hangs_5 14 rfl rfl)
theorem dX11_hangs_132 : decode cX11_hangs 132 = .ok (.aload_n 0, 1) := dk_42 (dk_at dksX11_hangs_5 15 rfl rfl)
theorem dX11_hangs_133 : decode cX11_hangs 133 = .ok (.getfield 66, 3) := dk_180 0 66 (dk_at dksX11_hangs_5 16 rfl rfl)
theorem dX11_hangs_136 : decode cX11_hangs 136 = .ok (.iconst 2, 1) := dk_5 (dk_at dksX11_hangs_5 19 rfl rfl)
theorem dX11_hangs_137 : decode cX11_hangs 137 = .ok (.iload_n 3, 1) := dk_29 (dk_at dksX11_hangs_5 20 rfl rfl)
theorem dX11_hangs_138 : decode cX11_hangs 138 = .ok (.imul, 1) := dk_104 (dk_at dksX11_hangs_5 21 rfl rfl)
theorem dX11_hangs_139 : decode cX11_hangs 139 = .ok (.iconst 1, 1) := dk_4 (dk_at dksX11_hangs_5 22 rfl rfl)
theorem dX11_hangs_140 : decode cX11_hangs 140 = .ok (.iadd, 1) := dk_96 (dk_at dksX11_hangs_5 23 rfl rfl)
theorem dX11_hangs_141 : decode cX11_hangs 141 = .ok (.iconst (-1), 1) := dk_2 (dk_at dksX11_hangs_6 0 rfl rfl)
theorem dX11_hangs_142 : decode cX11_hangs 142 = .ok (.iastore, 1) := dk_79 (dk_at dksX11_hangs_6 1 rfl rfl)
theorem dX11_hangs_143 : decode cX11_hangs 143 = .ok (.aload_n 0, 1) := dk_42 (dk_at dksX11_hangs_6 2 rfl rfl)
theorem dX11_hangs_144 : decode cX11_hangs 144 = .ok (.iconst 0, 1) := dk_3 (dk_at dksX11_hangs_6 3 rfl rfl)
theorem dX11_hangs_145 : decode cX11_hangs 145 = .ok (.invokevirtual 323, 3) := dk_182 1 67 (dk_at dksX11_hangs_6 4 rfl rfl)
theorem dX11_hangs_148 : decode cX11_hangs 148 = .ok (.aload_n 0, 1) := dk_42 (dk_at dksX11_hangs_6 7 rfl rfl)
theorem dX11_hangs_149 : decode cX11_hangs 149 = .ok (.getfield 320, 3) := dk_180 1 64 (dk_at dksX11_hangs_6 8 rfl rfl)
theorem dX11_hangs_152 : decode cX11_hangs 152 = .ok (.iload_n 1, 1) := dk_27 (dk_at dksX11_hangs_6 11 rfl rfl)
theorem dX11_hangs_153 : decode cX11_hangs 153 = .ok (.if_icmp .le 9, 3) := dk_164 0 9 (dk_at dksX11_hangs_6 12 rfl rfl)
theorem dX11_hangs_156 : decode cX11_hangs 156 = .ok (.iload_n 2, 1) := dk_28 (dk_at dksX11_hangs_6 15 rfl rfl)
theorem dX11_hangs_157 : decode cX11_hangs 157 = .ok (.iconst 1, 1) := dk_4 (dk_at dksX11_hangs_6 16 rfl rfl)
theorem dX11_hangs_158 : decode cX11_hangs 158 = .ok (.iload_n 3, 1) := dk_29 (dk_at dksX11_hangs_6 17 rfl rfl)
theorem dX11_hangs_159 : decode cX11_hangs 159 = .ok (.ishl, 1) := dk_120 (dk_at dksX11_hangs_6 18 rfl rfl)
theorem dX11_hangs_160 : decode cX11_hangs 160 = .ok (.ior, 1) := dk_128 (dk_at dksX11_hangs_6 19 rfl rfl)
theorem dX11_hangs_161 : decode cX11_hangs 161 = .ok (.istore_n 2, 1) := dk_61 (dk_at dksX11_hangs_6 20 rfl rfl)
theorem dX11_hangs_162 : decode cX11_hangs 162 = .ok (.iinc 3 1, 3) := dk_132 3 1 (dk_at dksX11_hangs_6 21 rfl rfl)
theorem dX11_hangs_165 : decode cX11_hangs 165 = .ok (.goto (-101), 3) := dk_167 255 155 (dk_at dksX11_hangs_7 0 rfl rfl)
theorem dX11_hangs_168 : decode cX11_hangs 168 = .ok (.iload_n 2, 1) := dk_28 (dk_at dksX11_hangs_7 3 rfl rfl)
theorem dX11_hangs_169 : decode cX11_hangs 169 = .ok (.ireturn, 1) := dk_172 (dk_at dksX11_hangs_7 4 rfl rfl)
abbrev cX11_mend : ByteArray := prog_21_method_80_code
def yX11_mend : MethodName := ⟨RX11, "mend", "()I"⟩
def dkwX11_mend_3 : List UInt8 := [28, 181, 0, 87, 28, 184, 1, 89, 172]
abbrev dktX11_mend_3 : List UInt8 := dkwX11_mend_3 ++ []
def dkwX11_mend_2 : List UInt8 := [28, 184, 1, 89, 162, 0, 13, 42, 29, 182, 1, 92, 153, 0, 5, 29, 61, 132, 3, 1, 167, 255, 225, 42]
abbrev dktX11_mend_2 : List UInt8 := dkwX11_mend_2 ++ dktX11_mend_3
def dkwX11_mend_1 : List UInt8 := [164, 0, 5, 2, 172, 4, 27, 120, 4, 100, 61, 3, 62, 29, 4, 27, 120, 162, 0, 30, 29, 184, 1, 89]
abbrev dktX11_mend_1 : List UInt8 := dkwX11_mend_1 ++ dktX11_mend_2
def dkwX11_mend_0 : List UInt8 := [42, 3, 181, 0, 106, 42, 180, 0, 13, 17, 3, 93, 46, 60, 42, 182, 1, 86, 153, 0, 9, 27, 16, 14]
abbrev dktX11_mend_0 : List UInt8 := dkwX11_mend_0 ++ dktX11_mend_1
theorem dksX11_mend_0 : cX11_mend.data.toList.drop 0 = dktX11_mend_0 := by decide +kernel
theorem dksX11_mend_1 : cX11_mend.data.toList.drop 24 = dktX11_mend_1 := dk_seg dksX11_mend_0 24 rfl rfl
theorem dksX11_mend_2 : cX11_mend.data.toList.drop 48 = dktX11_mend_2 := dk_seg dksX11_mend_1 24 rfl rfl
theorem dksX11_mend_3 : cX11_mend.data.toList.drop 72 = dktX11_mend_3 := dk_seg dksX11_mend_2 24 rfl rfl
theorem dX11_mend_0 : decode cX11_mend 0 = .ok (.aload_n 0, 1) := dk_42 (dk_at dksX11_mend_0 0 rfl rfl)
theorem dX11_mend_1 : decode cX11_mend 1 = .ok (.iconst 0, 1) := dk_3 (dk_at dksX11_mend_0 1 rfl rfl)
theorem dX11_mend_2 : decode cX11_mend 2 = .ok (.putfield 106, 3) := dk_181 0 106 (dk_at dksX11_mend_0 2 rfl rfl)
theorem dX11_mend_5 : decode cX11_mend 5 = .ok (.aload_n 0, 1) := dk_42 (dk_at dksX11_mend_0 5 rfl rfl)
theorem dX11_mend_6 : decode cX11_mend 6 = .ok (.getfield 13, 3) := dk_180 0 13 (dk_at dksX11_mend_0 6 rfl rfl)
theorem dX11_mend_9 : decode cX11_mend 9 = .ok (.sipush 861, 3) := dk_17 3 93 (dk_at dksX11_mend_0 9 rfl rfl)
theorem dX11_mend_12 : decode cX11_mend 12 = .ok (.iaload, 1) := dk_46 (dk_at dksX11_mend_0 12 rfl rfl)
theorem dX11_mend_13 : decode cX11_mend 13 = .ok (.istore_n 1, 1) := dk_60 (dk_at dksX11_mend_0 13 rfl rfl)
theorem dX11_mend_14 : decode cX11_mend 14 = .ok (.aload_n 0, 1) := dk_42 (dk_at dksX11_mend_0 14 rfl rfl)
theorem dX11_mend_15 : decode cX11_mend 15 = .ok (.invokevirtual 342, 3) := dk_182 1 86 (dk_at dksX11_mend_0 15 rfl rfl)
theorem dX11_mend_18 : decode cX11_mend 18 = .ok (.ifCond .eq 9, 3) := dk_153 0 9 (dk_at dksX11_mend_0 18 rfl rfl)
theorem dX11_mend_21 : decode cX11_mend 21 = .ok (.iload_n 1, 1) := dk_27 (dk_at dksX11_mend_0 21 rfl rfl)
theorem dX11_mend_22 : decode cX11_mend 22 = .ok (.bipush 14, 2) := dk_16 14 (dk_at dksX11_mend_0 22 rfl rfl)
theorem dX11_mend_24 : decode cX11_mend 24 = .ok (.if_icmp .le 5, 3) := dk_164 0 5 (dk_at dksX11_mend_1 0 rfl rfl)
theorem dX11_mend_27 : decode cX11_mend 27 = .ok (.iconst (-1), 1) := dk_2 (dk_at dksX11_mend_1 3 rfl rfl)
theorem dX11_mend_28 : decode cX11_mend 28 = .ok (.ireturn, 1) := dk_172 (dk_at dksX11_mend_1 4 rfl rfl)
theorem dX11_mend_29 : decode cX11_mend 29 = .ok (.iconst 1, 1) := dk_4 (dk_at dksX11_mend_1 5 rfl rfl)
theorem dX11_mend_30 : decode cX11_mend 30 = .ok (.iload_n 1, 1) := dk_27 (dk_at dksX11_mend_1 6 rfl rfl)
theorem dX11_mend_31 : decode cX11_mend 31 = .ok (.ishl, 1) := dk_120 (dk_at dksX11_mend_1 7 rfl rfl)
theorem dX11_mend_32 : decode cX11_mend 32 = .ok (.iconst 1, 1) := dk_4 (dk_at dksX11_mend_1 8 rfl rfl)
theorem dX11_mend_33 : decode cX11_mend 33 = .ok (.isub, 1) := dk_100 (dk_at dksX11_mend_1 9 rfl rfl)
theorem dX11_mend_34 : decode cX11_mend 34 = .ok (.istore_n 2, 1) := dk_61 (dk_at dksX11_mend_1 10 rfl rfl)
theorem dX11_mend_35 : decode cX11_mend 35 = .ok (.iconst 0, 1) := dk_3 (dk_at dksX11_mend_1 11 rfl rfl)
theorem dX11_mend_36 : decode cX11_mend 36 = .ok (.istore_n 3, 1) := dk_62 (dk_at dksX11_mend_1 12 rfl rfl)
theorem dX11_mend_37 : decode cX11_mend 37 = .ok (.iload_n 3, 1) := dk_29 (dk_at dksX11_mend_1 13 rfl rfl)
theorem dX11_mend_38 : decode cX11_mend 38 = .ok (.iconst 1, 1) := dk_4 (dk_at dksX11_mend_1 14 rfl rfl)
theorem dX11_mend_39 : decode cX11_mend 39 = .ok (.iload_n 1, 1) := dk_27 (dk_at dksX11_mend_1 15 rfl rfl)
theorem dX11_mend_40 : decode cX11_mend 40 = .ok (.ishl, 1) := dk_120 (dk_at dksX11_mend_1 16 rfl rfl)
theorem dX11_mend_41 : decode cX11_mend 41 = .ok (.if_icmp .ge 30, 3) := dk_162 0 30 (dk_at dksX11_mend_1 17 rfl rfl)
theorem dX11_mend_44 : decode cX11_mend 44 = .ok (.iload_n 3, 1) := dk_29 (dk_at dksX11_mend_1 20 rfl rfl)
theorem dX11_mend_45 : decode cX11_mend 45 = .ok (.invokestatic 345, 3) := dk_184 1 89 (dk_at dksX11_mend_1 21 rfl rfl)
theorem dX11_mend_48 : decode cX11_mend 48 = .ok (.iload_n 2, 1) := dk_28 (dk_at dksX11_mend_2 0 rfl rfl)
theorem dX11_mend_49 : decode cX11_mend 49 = .ok (.invokestatic 345, 3) := dk_184 1 89 (dk_at dksX11_mend_2 1 rfl rfl)
theorem dX11_mend_52 : decode cX11_mend 52 = .ok (.if_icmp .ge 13, 3) := dk_162 0 13 (dk_at dksX11_mend_2 4 rfl rfl)
theorem dX11_mend_55 : decode cX11_mend 55 = .ok (.aload_n 0, 1) := dk_42 (dk_at dksX11_mend_2 7 rfl rfl)
theorem dX11_mend_56 : decode cX11_mend 56 = .ok (.iload_n 3, 1) := dk_29 (dk_at dksX11_mend_2 8 rfl rfl)
theorem dX11_mend_57 : decode cX11_mend 57 = .ok (.invokevirtual 348, 3) := dk_182 1 92 (dk_at dksX11_mend_2 9 rfl rfl)
theorem dX11_mend_60 : decode cX11_mend 60 = .ok (.ifCond .eq 5, 3) := dk_153 0 5 (dk_at dksX11_mend_2 12 rfl rfl)
theorem dX11_mend_63 : decode cX11_mend 63 = .ok (.iload_n 3, 1) := dk_29 (dk_at dksX11_mend_2 15 rfl rfl)
theorem dX11_mend_64 : decode cX11_mend 64 = .ok (.istore_n 2, 1) := dk_61 (dk_at dksX11_mend_2 16 rfl rfl)
theorem dX11_mend_65 : decode cX11_mend 65 = .ok (.iinc 3 1, 3) := dk_132 3 1 (dk_at dksX11_mend_2 17 rfl rfl)
theorem dX11_mend_68 : decode cX11_mend 68 = .ok (.goto (-31), 3) := dk_167 255 225 (dk_at dksX11_mend_2 20 rfl rfl)
theorem dX11_mend_71 : decode cX11_mend 71 = .ok (.aload_n 0, 1) := dk_42 (dk_at dksX11_mend_2 23 rfl rfl)
theorem dX11_mend_72 : decode cX11_mend 72 = .ok (.iload_n 2, 1) := dk_28 (dk_at dksX11_mend_3 0 rfl rfl)
theorem dX11_mend_73 : decode cX11_mend 73 = .ok (.putfield 87, 3) := dk_181 0 87 (dk_at dksX11_mend_3 1 rfl rfl)
theorem dX11_mend_76 : decode cX11_mend 76 = .ok (.iload_n 2, 1) := dk_28 (dk_at dksX11_mend_3 4 rfl rfl)
theorem dX11_mend_77 : decode cX11_mend 77 = .ok (.invokestatic 345, 3) := dk_184 1 89 (dk_at dksX11_mend_3 5 rfl rfl)
theorem dX11_mend_80 : decode cX11_mend 80 = .ok (.ireturn, 1) := dk_172 (dk_at dksX11_mend_3 8 rfl rfl)
abbrev cX11_isWhole : ByteArray := prog_21_method_77_code
def yX11_isWhole : MethodName := ⟨RX11, "isWhole", "()Z"⟩
def dkwX11_isWhole_1 : List UInt8 := [96, 46, 2, 160, 0, 5, 3, 172, 132, 1, 1, 167, 255, 223, 4, 172]
abbrev dktX11_isWhole_1 : List UInt8 := dkwX11_isWhole_1 ++ []
def dkwX11_isWhole_0 : List UInt8 := [3, 60, 27, 5, 42, 180, 0, 13, 17, 3, 93, 46, 104, 162, 0, 25, 42, 180, 0, 13, 17, 3, 94, 27]
abbrev dktX11_isWhole_0 : List UInt8 := dkwX11_isWhole_0 ++ dktX11_isWhole_1
theorem dksX11_isWhole_0 : cX11_isWhole.data.toList.drop 0 = dktX11_isWhole_0 := by decide +kernel
theorem dksX11_isWhole_1 : cX11_isWhole.data.toList.drop 24 = dktX11_isWhole_1 := dk_seg dksX11_isWhole_0 24 rfl rfl
theorem dX11_isWhole_0 : decode cX11_isWhole 0 = .ok (.iconst 0, 1) := dk_3 (dk_at dksX11_isWhole_0 0 rfl rfl)
theorem dX11_isWhole_1 : decode cX11_isWhole 1 = .ok (.istore_n 1, 1) := dk_60 (dk_at dksX11_isWhole_0 1 rfl rfl)
theorem dX11_isWhole_2 : decode cX11_isWhole 2 = .ok (.iload_n 1, 1) := dk_27 (dk_at dksX11_isWhole_0 2 rfl rfl)
theorem dX11_isWhole_3 : decode cX11_isWhole 3 = .ok (.iconst 2, 1) := dk_5 (dk_at dksX11_isWhole_0 3 rfl rfl)
theorem dX11_isWhole_4 : decode cX11_isWhole 4 = .ok (.aload_n 0, 1) := dk_42 (dk_at dksX11_isWhole_0 4 rfl rfl)
theorem dX11_isWhole_5 : decode cX11_isWhole 5 = .ok (.getfield 13, 3) := dk_180 0 13 (dk_at dksX11_isWhole_0 5 rfl rfl)
theorem dX11_isWhole_8 : decode cX11_isWhole 8 = .ok (.sipush 861, 3) := dk_17 3 93 (dk_at dksX11_isWhole_0 8 rfl rfl)
theorem dX11_isWhole_11 : decode cX11_isWhole 11 = .ok (.iaload, 1) := dk_46 (dk_at dksX11_isWhole_0 11 rfl rfl)
theorem dX11_isWhole_12 : decode cX11_isWhole 12 = .ok (.imul, 1) := dk_104 (dk_at dksX11_isWhole_0 12 rfl rfl)
theorem dX11_isWhole_13 : decode cX11_isWhole 13 = .ok (.if_icmp .ge 25, 3) := dk_162 0 25 (dk_at dksX11_isWhole_0 13 rfl rfl)
theorem dX11_isWhole_16 : decode cX11_isWhole 16 = .ok (.aload_n 0, 1) := dk_42 (dk_at dksX11_isWhole_0 16 rfl rfl)
theorem dX11_isWhole_17 : decode cX11_isWhole 17 = .ok (.getfield 13, 3) := dk_180 0 13 (dk_at dksX11_isWhole_0 17 rfl rfl)
theorem dX11_isWhole_20 : decode cX11_isWhole 20 = .ok (.sipush 862, 3) := dk_17 3 94 (dk_at dksX11_isWhole_0 20 rfl rfl)
theorem dX11_isWhole_23 : decode cX11_isWhole 23 = .ok (.iload_n 1, 1) := dk_27 (dk_at dksX11_isWhole_0 23 rfl rfl)
theorem dX11_isWhole_24 : decode cX11_isWhole 24 = .ok (.iadd, 1) := dk_96 (dk_at dksX11_isWhole_1 0 rfl rfl)
theorem dX11_isWhole_25 : decode cX11_isWhole 25 = .ok (.iaload, 1) := dk_46 (dk_at dksX11_isWhole_1 1 rfl rfl)
theorem dX11_isWhole_26 : decode cX11_isWhole 26 = .ok (.iconst (-1), 1) := dk_2 (dk_at dksX11_isWhole_1 2 rfl rfl)
theorem dX11_isWhole_27 : decode cX11_isWhole 27 = .ok (.if_icmp .ne 5, 3) := dk_160 0 5 (dk_at dksX11_isWhole_1 3 rfl rfl)
theorem dX11_isWhole_30 : decode cX11_isWhole 30 = .ok (.iconst 0, 1) := dk_3 (dk_at dksX11_isWhole_1 6 rfl rfl)
theorem dX11_isWhole_31 : decode cX11_isWhole 31 = .ok (.ireturn, 1) := dk_172 (dk_at dksX11_isWhole_1 7 rfl rfl)
theorem dX11_isWhole_32 : decode cX11_isWhole 32 = .ok (.iinc 1 1, 3) := dk_132 1 1 (dk_at dksX11_isWhole_1 8 rfl rfl)
theorem dX11_isWhole_35 : decode cX11_isWhole 35 = .ok (.goto (-33), 3) := dk_167 255 223 (dk_at dksX11_isWhole_1 11 rfl rfl)
theorem dX11_isWhole_38 : decode cX11_isWhole 38 = .ok (.iconst 1, 1) := dk_4 (dk_at dksX11_isWhole_1 14 rfl rfl)
theorem dX11_isWhole_39 : decode cX11_isWhole 39 = .ok (.ireturn, 1) := dk_172 (dk_at dksX11_isWhole_1 15 rfl rfl)
abbrev cX11_bits : ByteArray := prog_21_method_78_code
def yX11_bits : MethodName := ⟨RX11, "bits", "(I)I"⟩
def dkwX11_bits_0 : List UInt8 := [3, 60, 26, 61, 28, 153, 0, 15, 132, 1, 1, 28, 28, 4, 100, 126, 61, 167, 255, 243, 27, 172]
abbrev dktX11_bits_0 : List UInt8 := dkwX11_bits_0 ++ []
theorem dksX11_bits_0 : cX11_bits.data.toList.drop 0 = dktX11_bits_0 := by decide +kernel
theorem dX11_bits_0 : decode cX11_bits 0 = .ok (.iconst 0, 1) := dk_3 (dk_at dksX11_bits_0 0 rfl rfl)
theorem dX11_bits_1 : decode cX11_bits 1 = .ok (.istore_n 1, 1) := dk_60 (dk_at dksX11_bits_0 1 rfl rfl)
theorem dX11_bits_2 : decode cX11_bits 2 = .ok (.iload_n 0, 1) := dk_26 (dk_at dksX11_bits_0 2 rfl rfl)
theorem dX11_bits_3 : decode cX11_bits 3 = .ok (.istore_n 2, 1) := dk_61 (dk_at dksX11_bits_0 3 rfl rfl)
theorem dX11_bits_4 : decode cX11_bits 4 = .ok (.iload_n 2, 1) := dk_28 (dk_at dksX11_bits_0 4 rfl rfl)
theorem dX11_bits_5 : decode cX11_bits 5 = .ok (.ifCond .eq 15, 3) := dk_153 0 15 (dk_at dksX11_bits_0 5 rfl rfl)
theorem dX11_bits_8 : decode cX11_bits 8 = .ok (.iinc 1 1, 3) := dk_132 1 1 (dk_at dksX11_bits_0 8 rfl rfl)
theorem dX11_bits_11 : decode cX11_bits 11 = .ok (.iload_n 2, 1) := dk_28 (dk_at dksX11_bits_0 11 rfl rfl)
theorem dX11_bits_12 : decode cX11_bits 12 = .ok (.iload_n 2, 1) := dk_28 (dk_at dksX11_bits_0 12 rfl rfl)
theorem dX11_bits_13 : decode cX11_bits 13 = .ok (.iconst 1, 1) := dk_4 (dk_at dksX11_bits_0 13 rfl rfl)
theorem dX11_bits_14 : decode cX11_bits 14 = .ok (.isub, 1) := dk_100 (dk_at dksX11_bits_0 14 rfl rfl)
theorem dX11_bits_15 : decode cX11_bits 15 = .ok (.iand, 1) := dk_126 (dk_at dksX11_bits_0 15 rfl rfl)
theorem dX11_bits_16 : decode cX11_bits 16 = .ok (.istore_n 2, 1) := dk_61 (dk_at dksX11_bits_0 16 rfl rfl)
theorem dX11_bits_17 : decode cX11_bits 17 = .ok (.goto (-13), 3) := dk_167 255 243 (dk_at dksX11_bits_0 17 rfl rfl)
theorem dX11_bits_20 : decode cX11_bits 20 = .ok (.iload_n 1, 1) := dk_27 (dk_at dksX11_bits_0 20 rfl rfl)
theorem dX11_bits_21 : decode cX11_bits 21 = .ok (.ireturn, 1) := dk_172 (dk_at dksX11_bits_0 21 rfl rfl)
abbrev cX11_isTalk : ByteArray := prog_21_method_79_code
def yX11_isTalk : MethodName := ⟨RX11, "isTalk", "(I)Z"⟩
def dkwX11_isTalk_4 : List UInt8 := [4, 96, 46, 182, 1, 10, 132, 2, 1, 167, 255, 163, 4, 172]
abbrev dktX11_isTalk_4 : List UInt8 := dkwX11_isTalk_4 ++ []
def dkwX11_isTalk_3 : List UInt8 := [3, 42, 180, 0, 13, 17, 3, 94, 5, 28, 104, 96, 46, 42, 180, 0, 13, 17, 3, 94, 5, 28, 104, 96]
abbrev dktX11_isTalk_3 : List UInt8 := dkwX11_isTalk_3 ++ dktX11_isTalk_4
def dkwX11_isTalk_2 : List UInt8 := [46, 42, 180, 0, 13, 17, 3, 94, 5, 28, 104, 96, 4, 96, 46, 182, 1, 17, 153, 0, 5, 3, 172, 42]
abbrev dktX11_isTalk_2 : List UInt8 := dkwX11_isTalk_2 ++ dktX11_isTalk_3
def dkwX11_isTalk_1 : List UInt8 := [27, 28, 184, 0, 215, 153, 0, 6, 167, 0, 70, 42, 3, 42, 180, 0, 13, 17, 3, 94, 5, 28, 104, 96]
abbrev dktX11_isTalk_1 : List UInt8 := dkwX11_isTalk_1 ++ dktX11_isTalk_2
def dkwX11_isTalk_0 : List UInt8 := [42, 3, 42, 180, 0, 13, 3, 182, 1, 6, 3, 61, 28, 42, 180, 0, 13, 17, 3, 93, 46, 162, 0, 87]
abbrev dktX11_isTalk_0 : List UInt8 := dkwX11_isTalk_0 ++ dktX11_isTalk_1
theorem dksX11_isTalk_0 : cX11_isTalk.data.toList.drop 0 = dktX11_isTalk_0 := by decide +kernel
theorem dksX11_isTalk_1 : cX11_isTalk.data.toList.drop 24 = dktX11_isTalk_1 := dk_seg dksX11_isTalk_0 24 rfl rfl
theorem dksX11_isTalk_2 : cX11_isTalk.data.toList.drop 48 = dktX11_isTalk_2 := dk_seg dksX11_isTalk_1 24 rfl rfl
theorem dksX11_isTalk_3 : cX11_isTalk.data.toList.drop 72 = dktX11_isTalk_3 := dk_seg dksX11_isTalk_2 24 rfl rfl
theorem dksX11_isTalk_4 : cX11_isTalk.data.toList.drop 96 = dktX11_isTalk_4 := dk_seg dksX11_isTalk_3 24 rfl rfl
theorem dX11_isTalk_0 : decode cX11_isTalk 0 = .ok (.aload_n 0, 1) := dk_42 (dk_at dksX11_isTalk_0 0 rfl rfl)
theorem dX11_isTalk_1 : decode cX11_isTalk 1 = .ok (.iconst 0, 1) := dk_3 (dk_at dksX11_isTalk_0 1 rfl rfl)
theorem dX11_isTalk_2 : decode cX11_isTalk 2 = .ok (.aload_n 0, 1) := dk_42 (dk_at dksX11_isTalk_0 2 rfl rfl)
theorem dX11_isTalk_3 : decode cX11_isTalk 3 = .ok (.getfield 13, 3) := dk_180 0 13 (dk_at dksX11_isTalk_0 3 rfl rfl)
theorem dX11_isTalk_6 : decode cX11_isTalk 6 = .ok (.iconst 0, 1) := dk_3 (dk_at dksX11_isTalk_0 6 rfl rfl)
theorem dX11_isTalk_7 : decode cX11_isTalk 7 = .ok (.invokevirtual 262, 3) := dk_182 1 6 (dk_at dksX11_isTalk_0 7 rfl rfl)
theorem dX11_isTalk_10 : decode cX11_isTalk 10 = .ok (.iconst 0, 1) := dk_3 (dk_at dksX11_isTalk_0 10 rfl rfl)
theorem dX11_isTalk_11 : decode cX11_isTalk 11 = .ok (.istore_n 2, 1) := dk_61 (dk_at dksX11_isTalk_0 11 rfl rfl)
theorem dX11_isTalk_12 : decode cX11_isTalk 12 = .ok (.iload_n 2, 1) := dk_28 (dk_at dksX11_isTalk_0 12 rfl rfl)
theorem dX11_isTalk_13 : decode cX11_isTalk 13 = .ok (.aload_n 0, 1) := dk_42 (dk_at dksX11_isTalk_0 13 rfl rfl)
theorem dX11_isTalk_14 : decode cX11_isTalk 14 = .ok (.getfield 13, 3) := dk_180 0 13 (dk_at dksX11_isTalk_0 14 rfl rfl)
theorem dX11_isTalk_17 : decode cX11_isTalk 17 = .ok (.sipush 861, 3) := dk_17 3 93 (dk_at dksX11_isTalk_0 17 rfl rfl)
theorem dX11_isTalk_20 : decode cX11_isTalk 20 = .ok (.iaload, 1) := dk_46 (dk_at dksX11_isTalk_0 20 rfl rfl)
theorem dX11_isTalk_21 : decode cX11_isTalk 21 = .ok (.if_icmp .ge 87, 3) := dk_162 0 87 (dk_at dksX11_isTalk_0 21 rfl rfl)
theorem dX11_isTalk_24 : decode cX11_isTalk 24 = .ok (.iload_n 1, 1) := dk_27 (dk_at dksX11_isTalk_1 0 rfl rfl)
theorem dX11_isTalk_25 : decode cX11_isTalk 25 = .ok (.iload_n 2, 1) := dk_28 (dk_at dksX11_isTalk_1 1 rfl rfl)
theorem dX11_isTalk_26 : decode cX11_isTalk 26 = .ok (.invokestatic 215, 3) := dk_184 0 215 (dk_at dksX11_isTalk_1 2 rfl rfl)
theorem dX11_isTalk_29 : decode cX11_isTalk 29 = .ok (.ifCond .eq 6, 3) := dk_153 0 6 (dk_at dksX11_isTalk_1 5 rfl rfl)
theorem dX11_isTalk_32 : decode cX11_isTalk 32 = .ok (.goto 70, 3) := dk_167 0 70 (dk_at dksX11_isTalk_1 8 rfl rfl)
theorem dX11_isTalk_35 : decode cX11_isTalk 35 = .ok (.aload_n 0, 1) := dk_42 (dk_at dksX11_isTalk_1 11 rfl rfl)
theorem dX11_isTalk_36 : decode cX11_isTalk 36 = .ok (.iconst 0, 1) := dk_3 (dk_at dksX11_isTalk_1 12 rfl rfl)
theorem dX11_isTalk_37 : decode cX11_isTalk 37 = .ok (.aload_n 0, 1) := dk_42 (dk_at dksX11_isTalk_1 13 rfl rfl)
theorem dX11_isTalk_38 : decode cX11_isTalk 38 = .ok (.getfield 13, 3) := dk_180 0 13 (dk_at dksX11_isTalk_1 14 rfl rfl)
theorem dX11_isTalk_41 : decode cX11_isTalk 41 = .ok (.sipush 862, 3) := dk_17 3 94 (dk_at dksX11_isTalk_1 17 rfl rfl)
theorem dX11_isTalk_44 : decode cX11_isTalk 44 = .ok (.iconst 2, 1) := dk_5 (dk_at dksX11_isTalk_1 20 rfl rfl)
theorem dX11_isTalk_45 : decode cX11_isTalk 45 = .ok (.iload_n 2, 1) := dk_28 (dk_at dksX11_isTalk_1 21 rfl rfl)
theorem dX11_isTalk_46 : decode cX11_isTalk 46 = .ok (.imul, 1) := dk_104 (dk_at dksX11_isTalk_1 22 rfl rfl)
theorem dX11_isTalk_47 : decode cX11_isTalk 47 = .ok (.iadd, 1) := dk_96 (dk_at dksX11_isTalk_1 23 rfl rfl)
theorem dX11_isTalk_48 : decode cX11_isTalk 48 = .ok (.iaload, 1) := dk_46 (dk_at dksX11_isTalk_2 0 rfl rfl)
theorem dX11_isTalk_49 : decode cX11_isTalk 49 = .ok (.aload_n 0, 1) := dk_42 (dk_at dksX11_isTalk_2 1 rfl rfl)
theorem dX11_isTalk_50 : decode cX11_isTalk 50 = .ok (.getfield 13, 3) := dk_180 0 13 (dk_at dksX11_isTalk_2 2 rfl rfl)
theorem dX11_isTalk_53 : decode cX11_isTalk 53 = .ok (.sipush 862, 3) := dk_17 3 94 (dk_at dksX11_isTalk_2 5 rfl rfl)
theorem dX11_isTalk_56 : decode cX11_isTalk 56 = .ok (.iconst 2, 1) := dk_5 (dk_at dksX11_isTalk_2 8 rfl rfl)
theorem dX11_isTalk_57 : decode cX11_isTalk 57 = .ok (.iload_n 2, 1) := dk_28 (dk_at dksX11_isTalk_2 9 rfl rfl)
theorem dX11_isTalk_58 : decode cX11_isTalk 58 = .ok (.imul, 1) := dk_104 (dk_at dksX11_isTalk_2 10 rfl rfl)
theorem dX11_isTalk_59 : decode cX11_isTalk 59 = .ok (.iadd, 1) := dk_96 (dk_at dksX11_isTalk_2 11 rfl rfl)
theorem dX11_isTalk_60 : decode cX11_isTalk 60 = .ok (.iconst 1, 1) := dk_4 (dk_at dksX11_isTalk_2 12 rfl rfl)
theorem dX11_isTalk_61 : decode cX11_isTalk 61 = .ok (.iadd, 1) := dk_96 (dk_at dksX11_isTalk_2 13 rfl rfl)
theorem dX11_isTalk_62 : decode cX11_isTalk 62 = .ok (.iaload, 1) := dk_46 (dk_at dksX11_isTalk_2 14 rfl rfl)
theorem dX11_isTalk_63 : decode cX11_isTalk 63 = .ok (.invokevirtual 273, 3) := dk_182 1 17 (dk_at dksX11_isTalk_2 15 rfl rfl)
theorem dX11_isTalk_66 : decode cX11_isTalk 66 = .ok (.ifCond .eq 5, 3) := dk_153 0 5 (dk_at dksX11_isTalk_2 18 rfl rfl)
theorem dX11_isTalk_69 : decode cX11_isTalk 69 = .ok (.iconst 0, 1) := dk_3 (dk_at dksX11_isTalk_2 21 rfl rfl)
theorem dX11_isTalk_70 : decode cX11_isTalk 70 = .ok (.ireturn, 1) := dk_172 (dk_at dksX11_isTalk_2 22 rfl rfl)
theorem dX11_isTalk_71 : decode cX11_isTalk 71 = .ok (.aload_n 0, 1) := dk_42 (dk_at dksX11_isTalk_2 23 rfl rfl)
theorem dX11_isTalk_72 : decode cX11_isTalk 72 = .ok (.iconst 0, 1) := dk_3 (dk_at dksX11_isTalk_3 0 rfl rfl)
theorem dX11_isTalk_73 : decode cX11_isTalk 73 = .ok (.aload_n 0, 1) := dk_42 (dk_at dksX11_isTalk_3 1 rfl rfl)
theorem dX11_isTalk_74 : decode cX11_isTalk 74 = .ok (.getfield 13, 3) := dk_180 0 13 (dk_at dksX11_isTalk_3 2 rfl rfl)
theorem dX11_isTalk_77 : decode cX11_isTalk 77 = .ok (.sipush 862, 3) := dk_17 3 94 (dk_at dksX11_isTalk_3 5 rfl rfl)
theorem dX11_isTalk_80 : decode cX11_isTalk 80 = .ok (.iconst 2, 1) := dk_5 (dk_at dksX11_isTalk_3 8 rfl rfl)
theorem dX11_isTalk_81 : decode cX11_isTalk 81 = .ok (.iload_n 2, 1) := dk_28 (dk_at dksX11_isTalk_3 9 rfl rfl)
theorem dX11_isTalk_82 : decode cX11_isTalk 82 = .ok (.imul, 1) := dk_104 (dk_at dksX11_isTalk_3 10 rfl rfl)
theorem dX11_isTalk_83 : decode cX11_isTalk 83 = .ok (.iadd, 1) := dk_96 (dk_at dksX11_isTalk_3 11 rfl rfl)
theorem dX11_isTalk_84 : decode cX11_isTalk 84 = .ok (.iaload, 1) := dk_46 (dk_at dksX11_isTalk_3 12 rfl rfl)
theorem dX11_isTalk_85 : decode cX11_isTalk 85 = .ok (.aload_n 0, 1) := dk_42 (dk_at dksX11_isTalk_3 13 rfl rfl)
theorem dX11_isTalk_86 : decode cX11_isTalk 86 = .ok (.getfield 13, 3) := dk_180 0 13 (dk_at dksX11_isTalk_3 14 rfl rfl)
theorem dX11_isTalk_89 : decode cX11_isTalk 89 = .ok (.sipush 862, 3) := dk_17 3 94 (dk_at dksX11_isTalk_3 17 rfl rfl)
theorem dX11_isTalk_92 : decode cX11_isTalk 92 = .ok (.iconst 2, 1) := dk_5 (dk_at dksX11_isTalk_3 20 rfl rfl)
theorem dX11_isTalk_93 : decode cX11_isTalk 93 = .ok (.iload_n 2, 1) := dk_28 (dk_at dksX11_isTalk_3 21 rfl rfl)
theorem dX11_isTalk_94 : decode cX11_isTalk 94 = .ok (.imul, 1) := dk_104 (dk_at dksX11_isTalk_3 22 rfl rfl)
theorem dX11_isTalk_95 : decode cX11_isTalk 95 = .ok (.iadd, 1) := dk_96 (dk_at dksX11_isTalk_3 23 rfl rfl)
theorem dX11_isTalk_96 : decode cX11_isTalk 96 = .ok (.iconst 1, 1) := dk_4 (dk_at dksX11_isTalk_4 0 rfl rfl)
theorem dX11_isTalk_97 : decode cX11_isTalk 97 = .ok (.iadd, 1) := dk_96 (dk_at dksX11_isTalk_4 1 rfl rfl)
theorem dX11_isTalk_98 : decode cX11_isTalk 98 = .ok (.iaload, 1) := dk_46 (dk_at dksX11_isTalk_4 2 rfl rfl)
theorem dX11_isTalk_99 : decode cX11_isTalk 99 = .ok (.invokevirtual 266, 3) := dk_182 1 10 (dk_at dksX11_isTalk_4 3 rfl rfl)
theorem dX11_isTalk_102 : decode cX11_isTalk 102 = .ok (.iinc 2 1, 3) := dk_132 2 1 (dk_at dksX11_isTalk_4 6 rfl rfl)
theorem dX11_isTalk_105 : decode cX11_isTalk 105 = .ok (.goto (-93), 3) := dk_167 255 163 (dk_at dksX11_isTalk_4 9 rfl rfl)
theorem dX11_isTalk_108 : decode cX11_isTalk 108 = .ok (.iconst 1, 1) := dk_4 (dk_at dksX11_isTalk_4 12 rfl rfl)
theorem dX11_isTalk_109 : decode cX11_isTalk 109 = .ok (.ireturn, 1) := dk_172 (dk_at dksX11_isTalk_4 13 rfl rfl)
abbrev cX11_mended : ByteArray := prog_21_method_81_code
def yX11_mended : MethodName := ⟨RX11, "mended", "()I"⟩
def dkwX11_mended_0 : List UInt8 := [42, 3, 181, 0, 106, 42, 180, 0, 87, 172]
abbrev dktX11_mended_0 : List UInt8 := dkwX11_mended_0 ++ []
theorem dksX11_mended_0 : cX11_mended.data.toList.drop 0 = dktX11_mended_0 := by decide +kernel
theorem dX11_mended_0 : decode cX11_mended 0 = .ok (.aload_n 0, 1) := dk_42 (dk_at dksX11_mended_0 0 rfl rfl)
theorem dX11_mended_1 : decode cX11_mended 1 = .ok (.iconst 0, 1) := dk_3 (dk_at dksX11_mended_0 1 rfl rfl)
theorem dX11_mended_2 : decode cX11_mended 2 = .ok (.putfield 106, 3) := dk_181 0 106 (dk_at dksX11_mended_0 2 rfl rfl)
theorem dX11_mended_5 : decode cX11_mended 5 = .ok (.aload_n 0, 1) := dk_42 (dk_at dksX11_mended_0 5 rfl rfl)
theorem dX11_mended_6 : decode cX11_mended 6 = .ok (.getfield 87, 3) := dk_180 0 87 (dk_at dksX11_mended_0 6 rfl rfl)
theorem dX11_mended_9 : decode cX11_mended 9 = .ok (.ireturn, 1) := dk_172 (dk_at dksX11_mended_0 9 rfl rfl)
abbrev cX11_orders : ByteArray := prog_21_method_83_code
def yX11_orders : MethodName := ⟨RX11, "orders", "()I"⟩
def dkwX11_orders_2 : List UInt8 := [182, 1, 101, 42, 180, 1, 95, 172]
abbrev dktX11_orders_2 : List UInt8 := dkwX11_orders_2 ++ []
def dkwX11_orders_1 : List UInt8 := [164, 0, 5, 2, 172, 42, 3, 42, 180, 0, 13, 3, 182, 1, 6, 42, 3, 181, 1, 95, 42, 3]
abbrev dktX11_orders_1 : List UInt8 := dkwX11_orders_1 ++ dktX11_orders_2
def dkwX11_orders_0 : List UInt8 := [42, 3, 181, 0, 106, 42, 182, 1, 86, 153, 0, 16, 42, 180, 0, 13, 17, 3, 93, 46, 16, 7]
abbrev dktX11_orders_0 : List UInt8 := dkwX11_orders_0 ++ dktX11_orders_1
theorem dksX11_orders_0 : cX11_orders.data.toList.drop 0 = dktX11_orders_0 := by decide +kernel
theorem dksX11_orders_1 : cX11_orders.data.toList.drop 22 = dktX11_orders_1 := dk_seg dksX11_orders_0 22 rfl rfl
theorem dksX11_orders_2 : cX11_orders.data.toList.drop 44 = dktX11_orders_2 := dk_seg dksX11_orders_1 22 rfl rfl
theorem dX11_orders_0 : decode cX11_orders 0 = .ok (.aload_n 0, 1) := dk_42 (dk_at dksX11_orders_0 0 rfl rfl)
theorem dX11_orders_1 : decode cX11_orders 1 = .ok (.iconst 0, 1) := dk_3 (dk_at dksX11_orders_0 1 rfl rfl)
theorem dX11_orders_2 : decode cX11_orders 2 = .ok (.putfield 106, 3) := dk_181 0 106 (dk_at dksX11_orders_0 2 rfl rfl)
theorem dX11_orders_5 : decode cX11_orders 5 = .ok (.aload_n 0, 1) := dk_42 (dk_at dksX11_orders_0 5 rfl rfl)
theorem dX11_orders_6 : decode cX11_orders 6 = .ok (.invokevirtual 342, 3) := dk_182 1 86 (dk_at dksX11_orders_0 6 rfl rfl)
theorem dX11_orders_9 : decode cX11_orders 9 = .ok (.ifCond .eq 16, 3) := dk_153 0 16 (dk_at dksX11_orders_0 9 rfl rfl)
theorem dX11_orders_12 : decode cX11_orders 12 = .ok (.aload_n 0, 1) := dk_42 (dk_at dksX11_orders_0 12 rfl rfl)
theorem dX11_orders_13 : decode cX11_orders 13 = .ok (.getfield 13, 3) := dk_180 0 13 (dk_at dksX11_orders_0 13 rfl rfl)
theorem dX11_orders_16 : decode cX11_orders 16 = .ok (.sipush 861, 3) := dk_17 3 93 (dk_at dksX11_orders_0 16 rfl rfl)
theorem dX11_orders_19 : decode cX11_orders 19 = .ok (.iaload, 1) := dk_46 (dk_at dksX11_orders_0 19 rfl rfl)
theorem dX11_orders_20 : decode cX11_orders 20 = .ok (.bipush 7, 2) := dk_16 7 (dk_at dksX11_orders_0 20 rfl rfl)
theorem dX11_orders_22 : decode cX11_orders 22 = .ok (.if_icmp .le 5, 3) := dk_164 0 5 (dk_at dksX11_orders_1 0 rfl rfl)
theorem dX11_orders_25 : decode cX11_orders 25 = .ok (.iconst (-1), 1) := dk_2 (dk_at dksX11_orders_1 3 rfl rfl)
theorem dX11_orders_26 : decode cX11_orders 26 = .ok (.ireturn, 1) := dk_172 (dk_at dksX11_orders_1 4 rfl rfl)
theorem dX11_orders_27 : decode cX11_orders 27 = .ok (.aload_n 0, 1) := dk_42 (dk_at dksX11_orders_1 5 rfl rfl)
theorem dX11_orders_28 : decode cX11_orders 28 = .ok (.iconst 0, 1) := dk_3 (dk_at dksX11_orders_1 6 rfl rfl)
theorem dX11_orders_29 : decode cX11_orders 29 = .ok (.aload_n 0, 1) := dk_42 (dk_at dksX11_orders_1 7 rfl rfl)
theorem dX11_orders_30 : decode cX11_orders 30 = .ok (.getfield 13, 3) := dk_180 0 13 (dk_at dksX11_orders_1 8 rfl rfl)
theorem dX11_orders_33 : decode cX11_orders 33 = .ok (.iconst 0, 1) := dk_3 (dk_at dksX11_orders_1 11 rfl rfl)
theorem dX11_orders_34 : decode cX11_orders 34 = .ok (.invokevirtual 262, 3) := dk_182 1 6 (dk_at dksX11_orders_1 12 rfl rfl)
theorem dX11_orders_37 : decode cX11_orders 37 = .ok (.aload_n 0, 1) := dk_42 (dk_at dksX11_orders_1 15 rfl rfl)
theorem dX11_orders_38 : decode cX11_orders 38 = .ok (.iconst 0, 1) := dk_3 (dk_at dksX11_orders_1 16 rfl rfl)
theorem dX11_orders_39 : decode cX11_orders 39 = .ok (.putfield 351, 3) := dk_181 1 95 (dk_at dksX11_orders_1 17 rfl rfl)
theorem dX11_orders_42 : decode cX11_orders 42 = .ok (.aload_n 0, 1) := dk_42 (dk_at dksX11_orders_1 20 rfl rfl)
theorem dX11_orders_43 : decode cX11_orders 43 = .ok (.iconst 0, 1) := dk_3 (dk_at dksX11_orders_1 21 rfl rfl)
theorem dX11_orders_44 : decode cX11_orders 44 = .ok (.invokevirtual 357, 3) := dk_182 1 101 (dk_at dksX11_orders_2 0 rfl rfl)
theorem dX11_orders_47 : decode cX11_orders 47 = .ok (.aload_n 0, 1) := dk_42 (dk_at dksX11_orders_2 3 rfl rfl)
theorem dX11_orders_48 : decode cX11_orders 48 = .ok (.getfield 351, 3) := dk_180 1 95 (dk_at dksX11_orders_2 4 rfl rfl)
theorem dX11_orders_51 : decode cX11_orders 51 = .ok (.ireturn, 1) := dk_172 (dk_at dksX11_orders_2 7 rfl rfl)
abbrev cX11_tryOrders : ByteArray := prog_21_method_82_code
def yX11_tryOrders : MethodName := ⟨RX11, "tryOrders", "(I)V"⟩
def dkwX11_tryOrders_8 : List UInt8 := [182, 1, 70, 132, 4, 1, 167, 255, 143, 177]
abbrev dktX11_tryOrders_8 : List UInt8 := dkwX11_tryOrders_8 ++ []
def dkwX11_tryOrders_7 : List UInt8 := [21, 4, 104, 96, 4, 96, 46, 182, 1, 10, 42, 27, 4, 21, 4, 120, 128, 182, 1, 101, 42, 3]
abbrev dktX11_tryOrders_7 : List UInt8 := dkwX11_tryOrders_7 ++ dktX11_tryOrders_8
def dkwX11_tryOrders_6 : List UInt8 := [42, 3, 42, 180, 0, 13, 17, 3, 94, 5, 21, 4, 104, 96, 46, 42, 180, 0, 13, 17, 3, 94, 5]
abbrev dktX11_tryOrders_6 : List UInt8 := dkwX11_tryOrders_6 ++ dktX11_tryOrders_7
def dkwX11_tryOrders_5 : List UInt8 := [21, 4, 104, 96, 4, 96, 46, 182, 1, 17, 153, 0, 6, 167, 0, 59, 42, 180, 0, 91, 29, 21, 4, 79]
abbrev dktX11_tryOrders_5 : List UInt8 := dkwX11_tryOrders_5 ++ dktX11_tryOrders_6
def dkwX11_tryOrders_4 : List UInt8 := [42, 3, 42, 180, 0, 13, 17, 3, 94, 5, 21, 4, 104, 96, 46, 42, 180, 0, 13, 17, 3, 94, 5]
abbrev dktX11_tryOrders_4 : List UInt8 := dkwX11_tryOrders_4 ++ dktX11_tryOrders_5
def dkwX11_tryOrders_3 : List UInt8 := [180, 0, 60, 3, 46, 62, 3, 54, 4, 21, 4, 28, 162, 0, 113, 27, 21, 4, 184, 0, 215, 154, 0, 98]
abbrev dktX11_tryOrders_3 : List UInt8 := dkwX11_tryOrders_3 ++ dktX11_tryOrders_4
def dkwX11_tryOrders_2 : List UInt8 := [132, 3, 1, 167, 255, 236, 42, 28, 181, 1, 98, 42, 89, 180, 1, 95, 4, 96, 181, 1, 95, 177, 42]
abbrev dktX11_tryOrders_2 : List UInt8 := dkwX11_tryOrders_2 ++ dktX11_tryOrders_3
def dkwX11_tryOrders_1 : List UInt8 := [154, 0, 33, 3, 62, 29, 28, 162, 0, 21, 42, 180, 0, 94, 29, 42, 180, 0, 91, 29, 46, 79]
abbrev dktX11_tryOrders_1 : List UInt8 := dkwX11_tryOrders_1 ++ dktX11_tryOrders_2
def dkwX11_tryOrders_0 : List UInt8 := [42, 180, 0, 13, 17, 3, 93, 46, 61, 42, 180, 0, 60, 3, 46, 28, 160, 0, 51, 42, 180, 1, 95]
abbrev dktX11_tryOrders_0 : List UInt8 := dkwX11_tryOrders_0 ++ dktX11_tryOrders_1
theorem dksX11_tryOrders_0 : cX11_tryOrders.data.toList.drop 0 = dktX11_tryOrders_0 := by decide +kernel
theorem dksX11_tryOrders_1 : cX11_tryOrders.data.toList.drop 23 = dktX11_tryOrders_1 := dk_seg dksX11_tryOrders_0 23 rfl rfl
theorem dksX11_tryOrders_2 : cX11_tryOrders.data.toList.drop 45 = dktX11_tryOrders_2 := dk_seg dksX11_tryOrders_1 22 rfl rfl
theorem dksX11_tryOrders_3 : cX11_tryOrders.data.toList.drop 68 = dktX11_tryOrders_3 := dk_seg dksX11_tryOrders_2 23 rfl rfl
theorem dksX11_tryOrders_4 : cX11_tryOrders.data.toList.drop 92 = dktX11_tryOrders_4 := dk_seg dksX11_tryOrders_3 24 rfl rfl
theorem dksX11_tryOrders_5 : cX11_tryOrders.data.toList.drop 115 = dktX11_tryOrders_5 := dk_seg dksX11_tryOrders_4 23 rfl rfl
theorem dksX11_tryOrders_6 : cX11_tryOrders.data.toList.drop 139 = dktX11_tryOrders_6 := dk_seg dksX11_tryOrders_5 24 rfl rfl
theorem dksX11_tryOrders_7 : cX11_tryOrders.data.toList.drop 162 = dktX11_tryOrders_7 := dk_seg dksX11_tryOrders_6 23 rfl rfl
theorem dksX11_tryOrders_8 : cX11_tryOrders.data.toList.drop 184 = dktX11_tryOrders_8 := dk_seg dksX11_tryOrders_7 22 rfl rfl
theorem dX11_tryOrders_0 : decode cX11_tryOrders 0 = .ok (.aload_n 0, 1) := dk_42 (dk_at dksX11_tryOrders_0 0 rfl rfl)
theorem dX11_tryOrders_1 : decode cX11_tryOrders 1 = .ok (.getfield 13, 3) := dk_180 0 13 (dk_at dksX11_tryOrders_0 1 rfl rfl)
theorem dX11_tryOrders_4 : decode cX11_tryOrders 4 = .ok (.sipush 861, 3) := dk_17 3 93 (dk_at dksX11_tryOrders_0 4 rfl rfl)
theorem dX11_tryOrders_7 : decode cX11_tryOrders 7 = .ok (.iaload, 1) := dk_46 (dk_at dksX11_tryOrders_0 7 rfl rfl)
theorem dX11_tryOrders_8 : decode cX11_tryOrders 8 = .ok (.istore_n 2, 1) := dk_61 (dk_at dksX11_tryOrders_0 8 rfl rfl)
theorem dX11_tryOrders_9 : decode cX11_tryOrders 9 = .ok (.aload_n 0, 1) := dk_42 (dk_at dksX11_tryOrders_0 9 rfl rfl)
theorem dX11_tryOrders_10 : decode cX11_tryOrders 10 = .ok (.getfield 60, 3) := dk_180 0 60 (dk_at dksX11_tryOrders_0 10 rfl rfl)
theorem dX11_tryOrders_13 : decode cX11_tryOrders 13 = .ok (.iconst 0, 1) := dk_3 (dk_at dksX11_tryOrders_0 13 rfl rfl)
theorem dX11_tryOrders_14 : decode cX11_tryOrders 14 = .ok (.iaload, 1) := dk_46 (dk_at dksX11_tryOrders_0 14 rfl rfl)
theorem dX11_tryOrders_15 : decode cX11_tryOrders 15 = .ok (.iload_n 2, 1) := dk_28 (dk_at dksX11_tryOrders_0 15 rfl rfl)
theorem dX11_tryOrders_16 : decode cX11_tryOrders 16 = .ok (.if_icmp .ne 51, 3) := dk_160 0 51 (dk_at dksX11_tryOrders_0 16 rfl rfl)
theorem dX11_tryOrders_19 : decode cX11_tryOrders 19 = .ok (.aload_n 0, 1) := dk_42 (dk_at dksX11_tryOrders_0 19 rfl rfl)
theorem dX11_tryOrders_20 : decode cX11_tryOrders 20 = .ok (.getfield 351, 3) := dk_180 1 95 (dk_at dksX11_tryOrders_0 20 rfl rfl)
theorem dX11_tryOrders_23 : decode cX11_tryOrders 23 = .ok (.ifCond .ne 33, 3) := dk_154 0 33 (dk_at dksX11_tryOrders_1 0 rfl rfl)
theorem dX11_tryOrders_26 : decode cX11_tryOrders 26 = .ok (.iconst 0, 1) := dk_3 (dk_at dksX11_tryOrders_1 3 rfl rfl)
theorem dX11_tryOrders_27 : decode cX11_tryOrders 27 = .ok (.istore_n 3, 1) := dk_62 (dk_at dksX11_tryOrders_1 4 rfl rfl)
theorem dX11_tryOrders_28 : decode cX11_tryOrders 28 = .ok (.iload_n 3, 1) := dk_29 (dk_at dksX11_tryOrders_1 5 rfl rfl)
theorem dX11_tryOrders_29 : decode cX11_tryOrders 29 = .ok (.iload_n 2, 1) := dk_28 (dk_at dksX11_tryOrders_1 6 rfl rfl)
theorem dX11_tryOrders_30 : decode cX11_tryOrders 30 = .ok (.if_icmp .ge 21, 3) := dk_162 0 21 (dk_at dksX11_tryOrders_1 7 rfl rfl)
theorem dX11_tryOrders_33 : decode cX11_tryOrders 33 = .ok (.aload_n 0, 1) := dk_42 (dk_at dksX11_tryOrders_1 10 rfl rfl)
theorem dX11_tryOrders_34 : decode cX11_tryOrders 34 = .ok (.getfield 94, 3) := dk_180 0 94 (dk_at dksX11_tryOrders_1 11 rfl rfl)
theorem dX11_tryOrders_37 : decode cX11_tryOrders 37 = .ok (.iload_n 3, 1) := dk_29 (dk_at dksX11_tryOrders_1 14 rfl rfl)
theorem dX11_tryOrders_38 : decode cX11_tryOrders 38 = .ok (.aload_n 0, 1) := dk_42 (dk_at dksX11_tryOrders_1 15 rfl rfl)
theorem dX11_tryOrders_39 : decode cX11_tryOrders 39 = .ok (.getfield 91, 3) := dk_180 0 91 (dk_at dksX11_tryOrders_1 16 rfl rfl)
theorem dX11_tryOrders_42 : decode cX11_tryOrders 42 = .ok (.iload_n 3, 1) := dk_29 (dk_at dksX11_tryOrders_1 19 rfl rfl)
theorem dX11_tryOrders_43 : decode cX11_tryOrders 43 = .ok (.iaload, 1) := dk_46 (dk_at dksX11_tryOrders_1 20 rfl rfl)
theorem dX11_tryOrders_44 : decode cX11_tryOrders 44 = .ok (.iastore, 1) := dk_79 (dk_at dksX11_tryOrders_1 21 rfl rfl)
theorem dX11_tryOrders_45 : decode cX11_tryOrders 45 = .ok (.iinc 3 1, 3) := dk_132 3 1 (dk_at dksX11_tryOrders_2 0 rfl rfl)
theorem dX11_tryOrders_48 : decode cX11_tryOrders 48 = .ok (.goto (-20), 3) := dk_167 255 236 (dk_at dksX11_tryOrders_2 3 rfl rfl)
theorem dX11_tryOrders_51 : decode cX11_tryOrders 51 = .ok (.aload_n 0, 1) := dk_42 (dk_at dksX11_tryOrders_2 6 rfl rfl)
theorem dX11_tryOrders_52 : decode cX11_tryOrders 52 = .ok (.iload_n 2, 1) := dk_28 (dk_at dksX11_tryOrders_2 7 rfl rfl)
theorem dX11_tryOrders_53 : decode cX11_tryOrders 53 = .ok (.putfield 354, 3) := dk_181 1 98 (dk_at dksX11_tryOrders_2 8 rfl rfl)
theorem dX11_tryOrders_56 : decode cX11_tryOrders 56 = .ok (.aload_n 0, 1) := dk_42 (dk_at dksX11_tryOrders_2 11 rfl rfl)
theorem dX11_tryOrders_57 : decode cX11_tryOrders 57 = .ok (.dup, 1) := dk_89 (dk_at dksX11_tryOrders_2 12 rfl rfl)
theorem dX11_tryOrders_58 : decode cX11_tryOrders 58 = .ok (.getfield 351, 3) := dk_180 1 95 (dk_at dksX11_tryOrders_2 13 rfl rfl)
theorem dX11_tryOrders_61 : decode cX11_tryOrders 61 = .ok (.iconst 1, 1) := dk_4 (dk_at dksX11_tryOrders_2 16 rfl rfl)
theorem dX11_tryOrders_62 : decode cX11_tryOrders 62 = .ok (.iadd, 1) := dk_96 (dk_at dksX11_tryOrders_2 17 rfl rfl)
theorem dX11_tryOrders_63 : decode cX11_tryOrders 63 = .ok (.putfield 351, 3) := dk_181 1 95 (dk_at dksX11_tryOrders_2 18 rfl rfl)
theorem dX11_tryOrders_66 : decode cX11_tryOrders 66 = .ok (.return_, 1) := dk_177 (dk_at dksX11_tryOrders_2 21 rfl rfl)
theorem dX11_tryOrders_67 : decode cX11_tryOrders 67 = .ok (.aload_n 0, 1) := dk_42 (dk_at dksX11_tryOrders_2 22 rfl rfl)
theorem dX11_tryOrders_68 : decode cX11_tryOrders 68 = .ok (.getfield 60, 3) := dk_180 0 60 (dk_at dksX11_tryOrders_3 0 rfl rfl)
theorem dX11_tryOrders_71 : decode cX11_tryOrders 71 = .ok (.iconst 0, 1) := dk_3 (dk_at dksX11_tryOrders_3 3 rfl rfl)
theorem dX11_tryOrders_72 : decode cX11_tryOrders 72 = .ok (.iaload, 1) := dk_46 (dk_at dksX11_tryOrders_3 4 rfl rfl)
theorem dX11_tryOrders_73 : decode cX11_tryOrders 73 = .ok (.istore_n 3, 1) := dk_62 (dk_at dksX11_tryOrders_3 5 rfl rfl)
theorem dX11_tryOrders_74 : decode cX11_tryOrders 74 = .ok (.iconst 0, 1) := dk_3 (dk_at dksX11_tryOrders_3 6 rfl rfl)
theorem dX11_tryOrders_75 : decode cX11_tryOrders 75 = .ok (.istore 4, 2) := dk_54 4 (dk_at dksX11_tryOrders_3 7 rfl rfl)
theorem dX11_tryOrders_77 : decode cX11_tryOrders 77 = .ok (.iload 4, 2) := dk_21 4 (dk_at dksX11_tryOrders_3 9 rfl rfl)
theorem dX11_tryOrders_79 : decode cX11_tryOrders 79 = .ok (.iload_n 2, 1) := dk_28 (dk_at dksX11_tryOrders_3 11 rfl rfl)
theorem dX11_tryOrders_80 : decode cX11_tryOrders 80 = .ok (.if_icmp .ge 113, 3) := dk_162 0 113 (dk_at dksX11_tryOrders_3 12 rfl rfl)
theorem dX11_tryOrders_83 : decode cX11_tryOrders 83 = .ok (.iload_n 1, 1) := dk_27 (dk_at dksX11_tryOrders_3 15 rfl rfl)
theorem dX11_tryOrders_84 : decode cX11_tryOrders 84 = .ok (.iload 4, 2) := dk_21 4 (dk_at dksX11_tryOrders_3 16 rfl rfl)
theorem dX11_tryOrders_86 : decode cX11_tryOrders 86 = .ok (.invokestatic 215, 3) := dk_184 0 215 (dk_at dksX11_tryOrders_3 18 rfl rfl)
theorem dX11_tryOrders_89 : decode cX11_tryOrders 89 = .ok (.ifCond .ne 98, 3) := dk_154 0 98 (dk_at dksX11_tryOrders_3 21 rfl rfl)
theorem dX11_tryOrders_92 : decode cX11_tryOrders 92 = .ok (.aload_n 0, 1) := dk_42 (dk_at dksX11_tryOrders_4 0 rfl rfl)
theorem dX11_tryOrders_93 : decode cX11_tryOrders 93 = .ok (.iconst 0, 1) := dk_3 (dk_at dksX11_tryOrders_4 1 rfl rfl)
theorem dX11_tryOrders_94 : decode cX11_tryOrders 94 = .ok (.aload_n 0, 1) := dk_42 (dk_at dksX11_tryOrders_4 2 rfl rfl)
theorem dX11_tryOrders_95 : decode cX11_tryOrders 95 = .ok (.getfield 13, 3) := dk_180 0 13 (dk_at dksX11_tryOrders_4 3 rfl rfl)
theorem dX11_tryOrders_98 : decode cX11_tryOrders 98 = .ok (.sipush 862, 3) := dk_17 3 94 (dk_at dksX11_tryOrders_4 6 rfl rfl)
theorem dX11_tryOrders_101 : decode cX11_tryOrders 101 = .ok (.iconst 2, 1) := dk_5 (dk_at dksX11_tryOrders_4 9 rfl rfl)
theorem dX11_tryOrders_102 : decode cX11_tryOrders 102 = .ok (.iload 4, 2) := dk_21 4 (dk_at dksX11_tryOrders_4 10 rfl rfl)
theorem dX11_tryOrders_104 : decode cX11_tryOrders 104 = .ok (.imul, 1) := dk_104 (dk_at dksX11_tryOrders_4 12 rfl rfl)
theorem dX11_tryOrders_105 : decode cX11_tryOrders 105 = .ok (.iadd, 1) := dk_96 (dk_at dksX11_tryOrders_4 13 rfl rfl)
theorem dX11_tryOrders_106 : decode cX11_tryOrders 106 = .ok (.iaload, 1) := dk_46 (dk_at dksX11_tryOrders_4 14 rfl rfl)
theorem dX11_tryOrders_107 : decode cX11_tryOrders 107 = .ok (.aload_n 0, 1) := dk_42 (dk_at dksX11_tryOrders_4 15 rfl rfl)
theorem dX11_tryOrders_108 : decode cX11_tryOrders 108 = .ok (.getfield 13, 3) := dk_180 0 13 (dk_at dksX11_tryOrders_4 16 rfl rfl)
theorem dX11_tryOrders_111 : decode cX11_tryOrders 111 = .ok (.sipush 862, 3) := dk_17 3 94 (dk_at dksX11_tryOrders_4 19 rfl rfl)
theorem dX11_tryOrders_114 : decode cX11_tryOrders 114 = .ok (.iconst 2, 1) := dk_5 (dk_at dksX11_tryOrders_4 22 rfl rfl)
theorem dX11_tryOrders_115 : decode cX11_tryOrders 115 = .ok (.iload 4, 2) := dk_21 4 (dk_at dksX11_tryOrders_5 0 rfl rfl)
theorem dX11_tryOrders_117 : decode cX11_tryOrders 117 = .ok (.imul, 1) := dk_104 (dk_at dksX11_tryOrders_5 2 rfl rfl)
theorem dX11_tryOrders_118 : decode cX11_tryOrders 118 = .ok (.iadd, 1) := dk_96 (dk_at dksX11_tryOrders_5 3 rfl rfl)
theorem dX11_tryOrders_119 : decode cX11_tryOrders 119 = .ok (.iconst 1, 1) := dk_4 (dk_at dksX11_tryOrders_5 4 rfl rfl)
theorem dX11_tryOrders_120 : decode cX11_tryOrders 120 = .ok (.iadd, 1) := dk_96 (dk_at dksX11_tryOrders_5 5 rfl rfl)
theorem dX11_tryOrders_121 : decode cX11_tryOrders 121 = .ok (.iaload, 1) := dk_46 (dk_at dksX11_tryOrders_5 6 rfl rfl)
theorem dX11_tryOrders_122 : decode cX11_tryOrders 122 = .ok (.invokevirtual 273, 3) := dk_182 1 17 (dk_at dksX11_tryOrders_5 7 rfl rfl)
theorem dX11_tryOrders_125 : decode cX11_tryOrders 125 = .ok (.ifCond .eq 6, 3) := dk_153 0 6 (dk_at dksX11_tryOrders_5 10 rfl rfl)
theorem dX11_tryOrders_128 : decode cX11_tryOrders 128 = .ok (.goto 59, 3) := dk_167 0 59 (dk_at dksX11_tryOrders_5 13 rfl rfl)
theorem dX11_tryOrders_131 : decode cX11_tryOrders 131 = .ok (.aload_n 0, 1) := dk_42 (dk_at dksX11_tryOrders_5 16 rfl rfl)
theorem dX11_tryOrders_132 : decode cX11_tryOrders 132 = .ok (.getfield 91, 3) := dk_180 0 91 (dk_at dksX11_tryOrders_5 17 rfl rfl)
theorem dX11_tryOrders_135 : decode cX11_tryOrders 135 = .ok (.iload_n 3, 1) := dk_29 (dk_at dksX11_tryOrders_5 20 rfl rfl)
theorem dX11_tryOrders_136 : decode cX11_tryOrders 136 = .ok (.iload 4, 2) := dk_21 4 (dk_at dksX11_tryOrders_5 21 rfl rfl)
theorem dX11_tryOrders_138 : decode cX11_tryOrders 138 = .ok (.iastore, 1) := dk_79 (dk_at dksX11_tryOrders_5 23 rfl rfl)
theorem dX11_tryOrders_139 : decode cX11_tryOrders 139 = .ok (.aload_n 0, 1) := dk_42 (dk_at dksX11_tryOrders_6 0 rfl rfl)
theorem dX11_tryOrders_140 : decode cX11_tryOrders 140 = .ok (.iconst 0, 1) := dk_3 (dk_at dksX11_tryOrders_6 1 rfl rfl)
theorem dX11_tryOrders_141 : decode cX11_tryOrders 141 = .ok (.aload_n 0, 1) := dk_42 (dk_at dksX11_tryOrders_6 2 rfl rfl)
theorem dX11_tryOrders_142 : decode cX11_tryOrders 142 = .ok (.getfield 13, 3) := dk_180 0 13 (dk_at dksX11_tryOrders_6 3 rfl rfl)
theorem dX11_tryOrders_145 : decode cX11_tryOrders 145 = .ok (.sipush 862, 3) := dk_17 3 94 (dk_at dksX11_tryOrders_6 6 rfl rfl)
theorem dX11_tryOrders_148 : decode cX11_tryOrders 148 = .ok (.iconst 2, 1) := dk_5 (dk_at dksX11_tryOrders_6 9 rfl rfl)
theorem dX11_tryOrders_149 : decode cX11_tryOrders 149 = .ok (.iload 4, 2) := dk_21 4 (dk_at dksX11_tryOrders_6 10 rfl rfl)
theorem dX11_tryOrders_151 : decode cX11_tryOrders 151 = .ok (.imul, 1) := dk_104 (dk_at dksX11_tryOrders_6 12 rfl rfl)
theorem dX11_tryOrders_152 : decode cX11_tryOrders 152 = .ok (.iadd, 1) := dk_96 (dk_at dksX11_tryOrders_6 13 rfl rfl)
theorem dX11_tryOrders_153 : decode cX11_tryOrders 153 = .ok (.iaload, 1) := dk_46 (dk_at dksX11_tryOrders_6 14 rfl rfl)
theorem dX11_tryOrders_154 : decode cX11_tryOrders 154 = .ok (.aload_n 0, 1) := dk_42 (dk_at dksX11_tryOrders_6 15 rfl rfl)
theorem dX11_tryOrders_155 : decode cX11_tryOrders 155 = .ok (.getfield 13, 3) := dk_180 0 13 (dk_at dksX11_tryOrders_6 16 rfl rfl)
theorem dX11_tryOrders_158 : decode cX11_tryOrders 158 = .ok (.sipush 862, 3) := dk_17 3 94 (dk_at dksX11_tryOrders_6 19 rfl rfl)
theorem dX11_tryOrders_161 : decode cX11_tryOrders 161 = .ok (.iconst 2, 1) := dk_5 (dk_at dksX11_tryOrders_6 22 rfl rfl)
theorem dX11_tryOrders_162 : decode cX11_tryOrders 162 = .ok (.iload 4, 2) := dk_21 4 (dk_at dksX11_tryOrders_7 0 rfl rfl)
theorem dX11_tryOrders_164 : decode cX11_tryOrders 164 = .ok (.imul, 1) := dk_104 (dk_at dksX11_tryOrders_7 2 rfl rfl)
theorem dX11_tryOrders_165 : decode cX11_tryOrders 165 = .ok (.iadd, 1) := dk_96 (dk_at dksX11_tryOrders_7 3 rfl rfl)
theorem dX11_tryOrders_166 : decode cX11_tryOrders 166 = .ok (.iconst 1, 1) := dk_4 (dk_at dksX11_tryOrders_7 4 rfl rfl)
theorem dX11_tryOrders_167 : decode cX11_tryOrders 167 = .ok (.iadd, 1) := dk_96 (dk_at dksX11_tryOrders_7 5 rfl rfl)
theorem dX11_tryOrders_168 : decode cX11_tryOrders 168 = .ok (.iaload, 1) := dk_46 (dk_at dksX11_tryOrders_7 6 rfl rfl)
theorem dX11_tryOrders_169 : decode cX11_tryOrders 169 = .ok (.invokevirtual 266, 3) := dk_182 1 10 (dk_at dksX11_tryOrders_7 7 rfl rfl)
theorem dX11_tryOrders_172 : decode cX11_tryOrders 172 = .ok (.aload_n 0, 1) := dk_42 (dk_at dksX11_tryOrders_7 10 rfl rfl)
theorem dX11_tryOrders_173 : decode cX11_tryOrders 173 = .ok (.iload_n 1, 1) := dk_27 (dk_at dksX11_tryOrders_7 11 rfl rfl)
theorem dX11_tryOrders_174 : decode cX11_tryOrders 174 = .ok (.iconst 1, 1) := dk_4 (dk_at dksX11_tryOrders_7 12 rfl rfl)
theorem dX11_tryOrders_175 : decode cX11_tryOrders 175 = .ok (.iload 4, 2) := dk_21 4 (dk_at dksX11_tryOrders_7 13 rfl rfl)
theorem dX11_tryOrders_177 : decode cX11_tryOrders 177 = .ok (.ishl, 1) := dk_120 (dk_at dksX11_tryOrders_7 15 rfl rfl)
theorem dX11_tryOrders_178 : decode cX11_tryOrders 178 = .ok (.ior, 1) := dk_128 (dk_at dksX11_tryOrders_7 16 rfl rfl)
theorem dX11_tryOrders_179 : decode cX11_tryOrders 179 = .ok (.invokevirtual 357, 3) := dk_182 1 101 (dk_at dksX11_tryOrders_7 17 rfl rfl)
theorem dX11_tryOrders_182 : decode cX11_tryOrders 182 = .ok (.aload_n 0, 1) := dk_42 (dk_at dksX11_tryOrders_7 20 rfl rfl)
theorem dX11_tryOrders_183 : decode cX11_tryOrders 183 = .ok (.iconst 0, 1) := dk_3 (dk_at dksX11_tryOrders_7 21 rfl rfl)
theorem dX11_tryOrders_184 : decode cX11_tryOrders 184 = .ok (.invokevirtual 326, 3) := dk_182 1 70 (dk_at dksX11_tryOrders_8 0 rfl rfl)
theorem dX11_tryOrders_187 : decode cX11_tryOrders 187 = .ok (.iinc 4 1, 3) := dk_132 4 1 (dk_at dksX11_tryOrders_8 3 rfl rfl)
theorem dX11_tryOrders_190 : decode cX11_tryOrders 190 = .ok (.goto (-113), 3) := dk_167 255 143 (dk_at dksX11_tryOrders_8 6 rfl rfl)
theorem dX11_tryOrders_193 : decode cX11_tryOrders 193 = .ok (.return_, 1) := dk_177 (dk_at dksX11_tryOrders_8 9 rfl rfl)
abbrev cX11_orderAt : ByteArray := prog_21_method_84_code
def yX11_orderAt : MethodName := ⟨RX11, "orderAt", "(I)I"⟩
def dkwX11_orderAt_1 : List UInt8 := [167, 0, 4, 2, 172]
abbrev dktX11_orderAt_1 : List UInt8 := dkwX11_orderAt_1 ++ []
def dkwX11_orderAt_0 : List UInt8 := [42, 3, 181, 0, 106, 27, 155, 0, 20, 27, 42, 180, 1, 98, 162, 0, 12, 42, 180, 0, 94, 27, 46]
abbrev dktX11_orderAt_0 : List UInt8 := dkwX11_orderAt_0 ++ dktX11_orderAt_1
theorem dksX11_orderAt_0 : cX11_orderAt.data.toList.drop 0 = dktX11_orderAt_0 := by decide +kernel
theorem dksX11_orderAt_1 : cX11_orderAt.data.toList.drop 23 = dktX11_orderAt_1 := dk_seg dksX11_orderAt_0 23 rfl rfl
theorem dX11_orderAt_0 : decode cX11_orderAt 0 = .ok (.aload_n 0, 1) := dk_42 (dk_at dksX11_orderAt_0 0 rfl rfl)
theorem dX11_orderAt_1 : decode cX11_orderAt 1 = .ok (.iconst 0, 1) := dk_3 (dk_at dksX11_orderAt_0 1 rfl rfl)
theorem dX11_orderAt_2 : decode cX11_orderAt 2 = .ok (.putfield 106, 3) := dk_181 0 106 (dk_at dksX11_orderAt_0 2 rfl rfl)
theorem dX11_orderAt_5 : decode cX11_orderAt 5 = .ok (.iload_n 1, 1) := dk_27 (dk_at dksX11_orderAt_0 5 rfl rfl)
theorem dX11_orderAt_6 : decode cX11_orderAt 6 = .ok (.ifCond .lt 20, 3) := dk_155 0 20 (dk_at dksX11_orderAt_0 6 rfl rfl)
theorem dX11_orderAt_9 : decode cX11_orderAt 9 = .ok (.iload_n 1, 1) := dk_27 (dk_at dksX11_orderAt_0 9 rfl rfl)
theorem dX11_orderAt_10 : decode cX11_orderAt 10 = .ok (.aload_n 0, 1) := dk_42 (dk_at dksX11_orderAt_0 10 rfl rfl)
theorem dX11_orderAt_11 : decode cX11_orderAt 11 = .ok (.getfield 354, 3) := dk_180 1 98 (dk_at dksX11_orderAt_0 11 rfl rfl)
theorem dX11_orderAt_14 : decode cX11_orderAt 14 = .ok (.if_icmp .ge 12, 3) := dk_162 0 12 (dk_at dksX11_orderAt_0 14 rfl rfl)
theorem dX11_orderAt_17 : decode cX11_orderAt 17 = .ok (.aload_n 0, 1) := dk_42 (dk_at dksX11_orderAt_0 17 rfl rfl)
theorem dX11_orderAt_18 : decode cX11_orderAt 18 = .ok (.getfield 94, 3) := dk_180 0 94 (dk_at dksX11_orderAt_0 18 rfl rfl)
theorem dX11_orderAt_21 : decode cX11_orderAt 21 = .ok (.iload_n 1, 1) := dk_27 (dk_at dksX11_orderAt_0 21 rfl rfl)
theorem dX11_orderAt_22 : decode cX11_orderAt 22 = .ok (.iaload, 1) := dk_46 (dk_at dksX11_orderAt_0 22 rfl rfl)
theorem dX11_orderAt_23 : decode cX11_orderAt 23 = .ok (.goto 4, 3) := dk_167 0 4 (dk_at dksX11_orderAt_1 0 rfl rfl)
theorem dX11_orderAt_26 : decode cX11_orderAt 26 = .ok (.iconst (-1), 1) := dk_2 (dk_at dksX11_orderAt_1 3 rfl rfl)
theorem dX11_orderAt_27 : decode cX11_orderAt 27 = .ok (.ireturn, 1) := dk_172 (dk_at dksX11_orderAt_1 4 rfl rfl)
abbrev cX11_road : ByteArray := prog_21_method_89_code
def yX11_road : MethodName := ⟨RX11, "road", "(III)I"⟩
def dkwX11_road_2 : List UInt8 := [180, 0, 97, 21, 5, 46, 79, 132, 5, 1, 167, 255, 232, 21, 4, 172]
abbrev dktX11_road_2 : List UInt8 := dkwX11_road_2 ++ []
def dkwX11_road_1 : List UInt8 := [21, 4, 181, 1, 120, 3, 54, 5, 21, 5, 21, 4, 162, 0, 23, 42, 180, 0, 100, 21, 5, 42]
abbrev dktX11_road_1 : List UInt8 := dkwX11_road_1 ++ dktX11_road_2
def dkwX11_road_0 : List UInt8 := [42, 3, 181, 0, 106, 42, 27, 28, 29, 2, 182, 1, 116, 54, 4, 21, 4, 156, 0, 6, 21, 4, 172, 42]
abbrev dktX11_road_0 : List UInt8 := dkwX11_road_0 ++ dktX11_road_1
theorem dksX11_road_0 : cX11_road.data.toList.drop 0 = dktX11_road_0 := by decide +kernel
theorem dksX11_road_1 : cX11_road.data.toList.drop 24 = dktX11_road_1 := dk_seg dksX11_road_0 24 rfl rfl
theorem dksX11_road_2 : cX11_road.data.toList.drop 46 = dktX11_road_2 := dk_seg dksX11_road_1 22 rfl rfl
theorem dX11_road_0 : decode cX11_road 0 = .ok (.aload_n 0, 1) := dk_42 (dk_at dksX11_road_0 0 rfl rfl)
theorem dX11_road_1 : decode cX11_road 1 = .ok (.iconst 0, 1) := dk_3 (dk_at dksX11_road_0 1 rfl rfl)
theorem dX11_road_2 : decode cX11_road 2 = .ok (.putfield 106, 3) := dk_181 0 106 (dk_at dksX11_road_0 2 rfl rfl)
theorem dX11_road_5 : decode cX11_road 5 = .ok (.aload_n 0, 1) := dk_42 (dk_at dksX11_road_0 5 rfl rfl)
theorem dX11_road_6 : decode cX11_road 6 = .ok (.iload_n 1, 1) := dk_27 (dk_at dksX11_road_0 6 rfl rfl)
theorem dX11_road_7 : decode cX11_road 7 = .ok (.iload_n 2, 1) := dk_28 (dk_at dksX11_road_0 7 rfl rfl)
theorem dX11_road_8 : decode cX11_road 8 = .ok (.iload_n 3, 1) := dk_29 (dk_at dksX11_road_0 8 rfl rfl)
theorem dX11_road_9 : decode cX11_road 9 = .ok (.iconst (-1), 1) := dk_2 (dk_at dksX11_road_0 9 rfl rfl)
theorem dX11_road_10 : decode cX11_road 10 = .ok (.invokevirtual 372, 3) := dk_182 1 116 (dk_at dksX11_road_0 10 rfl rfl)
theorem dX11_road_13 : decode cX11_road 13 = .ok (.istore 4, 2) := dk_54 4 (dk_at dksX11_road_0 13 rfl rfl)
theorem dX11_road_15 : decode cX11_road 15 = .ok (.iload 4, 2) := dk_21 4 (dk_at dksX11_road_0 15 rfl rfl)
theorem dX11_road_17 : decode cX11_road 17 = .ok (.ifCond .ge 6, 3) := dk_156 0 6 (dk_at dksX11_road_0 17 rfl rfl)
theorem dX11_road_20 : decode cX11_road 20 = .ok (.iload 4, 2) := dk_21 4 (dk_at dksX11_road_0 20 rfl rfl)
theorem dX11_road_22 : decode cX11_road 22 = .ok (.ireturn, 1) := dk_172 (dk_at dksX11_road_0 22 rfl rfl)
theorem dX11_road_23 : decode cX11_road 23 = .ok (.aload_n 0, 1) := dk_42 (dk_at dksX11_road_0 23 rfl rfl)
theorem dX11_road_24 : decode cX11_road 24 = .ok (.iload 4, 2) := dk_21 4 (dk_at dksX11_road_1 0 rfl rfl)
theorem dX11_road_26 : decode cX11_road 26 = .ok (.putfield 376, 3) := dk_181 1 120 (dk_at dksX11_road_1 2 rfl rfl)
theorem dX11_road_29 : decode cX11_road 29 = .ok (.iconst 0, 1) := dk_3 (dk_at dksX11_road_1 5 rfl rfl)
theorem dX11_road_30 : decode cX11_road 30 = .ok (.istore 5, 2) := dk_54 5 (dk_at dksX11_road_1 6 rfl rfl)
theorem dX11_road_32 : decode cX11_road 32 = .ok (.iload 5, 2) := dk_21 5 (dk_at dksX11_road_1 8 rfl rfl)
theorem dX11_road_34 : decode cX11_road 34 = .ok (.iload 4, 2) := dk_21 4 (dk_at dksX11_road_1 10 rfl rfl)
theorem dX11_road_36 : decode cX11_road 36 = .ok (.if_icmp .ge 23, 3) := dk_162 0 23 (dk_at dksX11_road_1 12 rfl rfl)
theorem dX11_road_39 : decode cX11_road 39 = .ok (.aload_n 0, 1) := dk_42 (dk_at dksX11_road_1 15 rfl rfl)
theorem dX11_road_40 : decode cX11_road 40 = .ok (.getfield 100, 3) := dk_180 0 100 (dk_at dksX11_road_1 16 rfl rfl)
theorem dX11_road_43 : decode cX11_road 43 = .ok (.iload 5, 2) := dk_21 5 (dk_at dksX11_road_1 19 rfl rfl)
theorem dX11_road_45 : decode cX11_road 45 = .ok (.aload_n 0, 1) := dk_42 (dk_at dksX11_road_1 21 rfl rfl)
theorem dX11_road_46 : decode cX11_road 46 = .ok (.getfield 97, 3) := dk_180 0 97 (dk_at dksX11_road_2 0 rfl rfl)
theorem dX11_road_49 : decode cX11_road 49 = .ok (.iload 5, 2) := dk_21 5 (dk_at dksX11_road_2 3 rfl rfl)
theorem dX11_road_51 : decode cX11_road 51 = .ok (.iaload, 1) := dk_46 (dk_at dksX11_road_2 5 rfl rfl)
theorem dX11_road_52 : decode cX11_road 52 = .ok (.iastore, 1) := dk_79 (dk_at dksX11_road_2 6 rfl rfl)
theorem dX11_road_53 : decode cX11_road 53 = .ok (.iinc 5 1, 3) := dk_132 5 1 (dk_at dksX11_road_2 7 rfl rfl)
theorem dX11_road_56 : decode cX11_road 56 = .ok (.goto (-24), 3) := dk_167 255 232 (dk_at dksX11_road_2 10 rfl rfl)
theorem dX11_road_59 : decode cX11_road 59 = .ok (.iload 4, 2) := dk_21 4 (dk_at dksX11_road_2 13 rfl rfl)
theorem dX11_road_61 : decode cX11_road 61 = .ok (.ireturn, 1) := dk_172 (dk_at dksX11_road_2 15 rfl rfl)
abbrev cX11_roadOf : ByteArray := prog_21_method_88_code
def yX11_roadOf : MethodName := ⟨RX11, "roadOf", "(IIII)I"⟩
def dkwX11_roadOf_3 : List UInt8 := [27, 28, 21, 5, 3, 21, 4, 182, 1, 107, 153, 0, 6, 21, 5, 172, 132, 5, 1, 167, 255, 230, 2, 172]
abbrev dktX11_roadOf_3 : List UInt8 := dkwX11_roadOf_3 ++ []
def dkwX11_roadOf_2 : List UInt8 := [29, 184, 1, 113, 153, 0, 6, 16, 254, 172, 42, 182, 1, 14, 3, 54, 5, 21, 5, 29, 163, 0, 26, 42]
abbrev dktX11_roadOf_2 : List UInt8 := dkwX11_roadOf_2 ++ dktX11_roadOf_3
def dkwX11_roadOf_1 : List UInt8 := [17, 1, 143, 184, 0, 177, 154, 0, 6, 16, 253, 172, 42, 180, 0, 13, 3, 46, 42, 180, 0, 13, 4, 46]
abbrev dktX11_roadOf_1 : List UInt8 := dkwX11_roadOf_1 ++ dktX11_roadOf_2
def dkwX11_roadOf_0 : List UInt8 := [28, 3, 16, 8, 184, 0, 177, 153, 0, 24, 29, 4, 16, 8, 184, 0, 177, 153, 0, 14, 27, 3]
abbrev dktX11_roadOf_0 : List UInt8 := dkwX11_roadOf_0 ++ dktX11_roadOf_1
theorem dksX11_roadOf_0 : cX11_roadOf.data.toList.drop 0 = dktX11_roadOf_0 := by decide +kernel
theorem dksX11_roadOf_1 : cX11_roadOf.data.toList.drop 22 = dktX11_roadOf_1 := dk_seg dksX11_roadOf_0 22 rfl rfl
theorem dksX11_roadOf_2 : cX11_roadOf.data.toList.drop 46 = dktX11_roadOf_2 := dk_seg dksX11_roadOf_1 24 rfl rfl
theorem dksX11_roadOf_3 : cX11_roadOf.data.toList.drop 70 = dktX11_roadOf_3 := dk_seg dksX11_roadOf_2 24 rfl rfl
theorem dX11_roadOf_0 : decode cX11_roadOf 0 = .ok (.iload_n 2, 1) := dk_28 (dk_at dksX11_roadOf_0 0 rfl rfl)
theorem dX11_roadOf_1 : decode cX11_roadOf 1 = .ok (.iconst 0, 1) := dk_3 (dk_at dksX11_roadOf_0 1 rfl rfl)
theorem dX11_roadOf_2 : decode cX11_roadOf 2 = .ok (.bipush 8, 2) := dk_16 8 (dk_at dksX11_roadOf_0 2 rfl rfl)
theorem dX11_roadOf_4 : decode cX11_roadOf 4 = .ok (.invokestatic 177, 3) := dk_184 0 177 (dk_at dksX11_roadOf_0 4 rfl rfl)
theorem dX11_roadOf_7 : decode cX11_roadOf 7 = .ok (.ifCond .eq 24, 3) := dk_153 0 24 (dk_at dksX11_roadOf_0 7 rfl rfl)
theorem dX11_roadOf_10 : decode cX11_roadOf 10 = .ok (.iload_n 3, 1) := dk_29 (dk_at dksX11_roadOf_0 10 rfl rfl)
theorem dX11_roadOf_11 : decode cX11_roadOf 11 = .ok (.iconst 1, 1) := dk_4 (dk_at dksX11_roadOf_0 11 rfl rfl)
theorem dX11_roadOf_12 : decode cX11_roadOf 12 = .ok (.bipush 8, 2) := dk_16 8 (dk_at dksX11_roadOf_0 12 rfl rfl)
theorem dX11_roadOf_14 : decode cX11_roadOf 14 = .ok (.invokestatic 177, 3) := dk_184 0 177 (dk_at dksX11_roadOf_0 14 rfl rfl)
theorem dX11_roadOf_17 : decode cX11_roadOf 17 = .ok (.ifCond .eq 14, 3) := dk_153 0 14 (dk_at dksX11_roadOf_0 17 rfl rfl)
theorem dX11_roadOf_20 : decode cX11_roadOf 20 = .ok (.iload_n 1, 1) := dk_27 (dk_at dksX11_roadOf_0 20 rfl rfl)
theorem dX11_roadOf_21 : decode cX11_roadOf 21 = .ok (.iconst 0, 1) := dk_3 (dk_at dksX11_roadOf_0 21 rfl rfl)
theorem dX11_roadOf_22 : decode cX11_roadOf 22 = .ok (.sipush 399, 3) := dk_17 1 143 (dk_at dksX11_roadOf_1 0 rfl rfl)
theorem dX11_roadOf_25 : decode cX11_roadOf 25 = .ok (.invokestatic 177, 3) := dk_184 0 177 (dk_at dksX11_roadOf_1 3 rfl rfl)
theorem dX11_roadOf_28 : decode cX11_roadOf 28 = .ok (.ifCond .ne 6, 3) := dk_154 0 6 (dk_at dksX11_roadOf_1 6 rfl rfl)
theorem dX11_roadOf_31 : decode cX11_roadOf 31 = .ok (.bipush (-3), 2) := dk_16 253 (dk_at dksX11_roadOf_1 9 rfl rfl)
theorem dX11_roadOf_33 : decode cX11_roadOf 33 = .ok (.ireturn, 1) := dk_172 (dk_at dksX11_roadOf_1 11 rfl rfl)
theorem dX11_roadOf_34 : decode cX11_roadOf 34 = .ok (.aload_n 0, 1) := dk_42 (dk_at dksX11_roadOf_1 12 rfl rfl)
theorem dX11_roadOf_35 : decode cX11_roadOf 35 = .ok (.getfield 13, 3) := dk_180 0 13 (dk_at dksX11_roadOf_1 13 rfl rfl)
theorem dX11_roadOf_38 : decode cX11_roadOf 38 = .ok (.iconst 0, 1) := dk_3 (dk_at dksX11_roadOf_1 16 rfl rfl)
theorem dX11_roadOf_39 : decode cX11_roadOf 39 = .ok (.iaload, 1) := dk_46 (dk_at dksX11_roadOf_1 17 rfl rfl)
theorem dX11_roadOf_40 : decode cX11_roadOf 40 = .ok (.aload_n 0, 1) := dk_42 (dk_at dksX11_roadOf_1 18 rfl rfl)
theorem dX11_roadOf_41 : decode cX11_roadOf 41 = .ok (.getfield 13, 3) := dk_180 0 13 (dk_at dksX11_roadOf_1 19 rfl rfl)
theorem dX11_roadOf_44 : decode cX11_roadOf 44 = .ok (.iconst 1, 1) := dk_4 (dk_at dksX11_roadOf_1 22 rfl rfl)
theorem dX11_roadOf_45 : decode cX11_roadOf 45 = .ok (.iaload, 1) := dk_46 (dk_at dksX11_roadOf_1 23 rfl rfl)
theorem dX11_roadOf_46 : decode cX11_roadOf 46 = .ok (.iload_n 3, 1) := dk_29 (dk_at dksX11_roadOf_2 0 rfl rfl)
theorem dX11_roadOf_47 : decode cX11_roadOf 47 = .ok (.invokestatic 369, 3) := dk_184 1 113 (dk_at dksX11_roadOf_2 1 rfl rfl)
theorem dX11_roadOf_50 : decode cX11_roadOf 50 = .ok (.ifCond .eq 6, 3) := dk_153 0 6 (dk_at dksX11_roadOf_2 4 rfl rfl)
theorem dX11_roadOf_53 : decode cX11_roadOf 53 = .ok (.bipush (-2), 2) := dk_16 254 (dk_at dksX11_roadOf_2 7 rfl rfl)
theorem dX11_roadOf_55 : decode cX11_roadOf 55 = .ok (.ireturn, 1) := dk_172 (dk_at dksX11_roadOf_2 9 rfl rfl)
theorem dX11_roadOf_56 : decode cX11_roadOf 56 = .ok (.aload_n 0, 1) := dk_42 (dk_at dksX11_roadOf_2 10 rfl rfl)
theorem dX11_roadOf_57 : decode cX11_roadOf 57 = .ok (.invokevirtual 270, 3) := dk_182 1 14 (dk_at dksX11_roadOf_2 11 rfl rfl)
theorem dX11_roadOf_60 : decode cX11_roadOf 60 = .ok (.iconst 0, 1) := dk_3 (dk_at dksX11_roadOf_2 14 rfl rfl)
theorem dX11_roadOf_61 : decode cX11_roadOf 61 = .ok (.istore 5, 2) := dk_54 5 (dk_at dksX11_roadOf_2 15 rfl rfl)
theorem dX11_roadOf_63 : decode cX11_roadOf 63 = .ok (.iload 5, 2) := dk_21 5 (dk_at dksX11_roadOf_2 17 rfl rfl)
theorem dX11_roadOf_65 : decode cX11_roadOf 65 = .ok (.iload_n 3, 1) := dk_29 (dk_at dksX11_roadOf_2 19 rfl rfl)
theorem dX11_roadOf_66 : decode cX11_roadOf 66 = .ok (.if_icmp .gt 26, 3) := dk_163 0 26 (dk_at dksX11_roadOf_2 20 rfl rfl)
theorem dX11_roadOf_69 : decode cX11_roadOf 69 = .ok (.aload_n 0, 1) := dk_42 (dk_at dksX11_roadOf_2 23 rfl rfl)
theorem dX11_roadOf_70 : decode cX11_roadOf 70 = .ok (.iload_n 1, 1) := dk_27 (dk_at dksX11_roadOf_3 0 rfl rfl)
theorem dX11_roadOf_71 : decode cX11_roadOf 71 = .ok (.iload_n 2, 1) := dk_28 (dk_at dksX11_roadOf_3 1 rfl rfl)
theorem dX11_roadOf_72 : decode cX11_roadOf 72 = .ok (.iload 5, 2) := dk_21 5 (dk_at dksX11_roadOf_3 2 rfl rfl)
theorem dX11_roadOf_74 : decode cX11_roadOf 74 = .ok (.iconst 0, 1) := dk_3 (dk_at dksX11_roadOf_3 4 rfl rfl)
theorem dX11_roadOf_75 : decode cX11_roadOf 75 = .ok (.iload 4, 2) := dk_21 4 (dk_at dksX11_roadOf_3 5 rfl rfl)
theorem dX11_roadOf_77 : decode cX11_roadOf 77 = .ok (.invokevirtual 363, 3) := dk_182 1 107 (dk_at dksX11_roadOf_3 7 rfl rfl)
theorem dX11_roadOf_80 : decode cX11_roadOf 80 = .ok (.ifCond .eq 6, 3) := dk_153 0 6 (dk_at dksX11_roadOf_3 10 rfl rfl)
theorem dX11_roadOf_83 : decode cX11_roadOf 83 = .ok (.iload 5, 2) := dk_21 5 (dk_at dksX11_roadOf_3 13 rfl rfl)
theorem dX11_roadOf_85 : decode cX11_roadOf 85 = .ok (.ireturn, 1) := dk_172 (dk_at dksX11_roadOf_3 15 rfl rfl)
theorem dX11_roadOf_86 : decode cX11_roadOf 86 = .ok (.iinc 5 1, 3) := dk_132 5 1 (dk_at dksX11_roadOf_3 16 rfl rfl)
theorem dX11_roadOf_89 : decode cX11_roadOf 89 = .ok (.goto (-26), 3) := dk_167 255 230 (dk_at dksX11_roadOf_3 19 rfl rfl)
theorem dX11_roadOf_92 : decode cX11_roadOf 92 = .ok (.iconst (-1), 1) := dk_2 (dk_at dksX11_roadOf_3 22 rfl rfl)
theorem dX11_roadOf_93 : decode cX11_roadOf 93 = .ok (.ireturn, 1) := dk_172 (dk_at dksX11_roadOf_3 23 rfl rfl)
abbrev cX11_isTooMany : ByteArray := prog_21_method_87_code
def yX11_isTooMany : MethodName := ⟨RX11, "isTooMany", "(III)Z"⟩
def dkwX11_isTooMany_1 : List UInt8 := [158, 0, 5, 4, 172, 132, 5, 1, 167, 255, 229, 3, 172]
abbrev dktX11_isTooMany_1 : List UInt8 := dkwX11_isTooMany_1 ++ []
def dkwX11_isTooMany_0 : List UInt8 := [10, 66, 3, 54, 5, 21, 5, 28, 162, 0, 27, 33, 26, 133, 27, 133, 105, 105, 66, 33, 20, 1, 111, 148]
abbrev dktX11_isTooMany_0 : List UInt8 := dkwX11_isTooMany_0 ++ dktX11_isTooMany_1
theorem dksX11_isTooMany_0 : cX11_isTooMany.data.toList.drop 0 = dktX11_isTooMany_0 := by decide +kernel
theorem dksX11_isTooMany_1 : cX11_isTooMany.data.toList.drop 24 = dktX11_isTooMany_1 := dk_seg dksX11_isTooMany_0 24 rfl rfl
theorem dX11_isTooMany_0 : decode cX11_isTooMany 0 = .ok (.lconst 1, 1) := dk_10 (dk_at dksX11_isTooMany_0 0 rfl rfl)
theorem dX11_isTooMany_1 : decode cX11_isTooMany 1 = .ok (.lstore_n 3, 1) := dk_66 (dk_at dksX11_isTooMany_0 1 rfl rfl)
theorem dX11_isTooMany_2 : decode cX11_isTooMany 2 = .ok (.iconst 0, 1) := dk_3 (dk_at dksX11_isTooMany_0 2 rfl rfl)
theorem dX11_isTooMany_3 : decode cX11_isTooMany 3 = .ok (.istore 5, 2) := dk_54 5 (dk_at dksX11_isTooMany_0 3 rfl rfl)
theorem dX11_isTooMany_5 : decode cX11_isTooMany 5 = .ok (.iload 5, 2) := dk_21 5 (dk_at dksX11_isTooMany_0 5 rfl rfl)
theorem dX11_isTooMany_7 : decode cX11_isTooMany 7 = .ok (.iload_n 2, 1) := dk_28 (dk_at dksX11_isTooMany_0 7 rfl rfl)
theorem dX11_isTooMany_8 : decode cX11_isTooMany 8 = .ok (.if_icmp .ge 27, 3) := dk_162 0 27 (dk_at dksX11_isTooMany_0 8 rfl rfl)
theorem dX11_isTooMany_11 : decode cX11_isTooMany 11 = .ok (.lload_n 3, 1) := dk_33 (dk_at dksX11_isTooMany_0 11 rfl rfl)
theorem dX11_isTooMany_12 : decode cX11_isTooMany 12 = .ok (.iload_n 0, 1) := dk_26 (dk_at dksX11_isTooMany_0 12 rfl rfl)
theorem dX11_isTooMany_13 : decode cX11_isTooMany 13 = .ok (.i2l, 1) := dk_133 (dk_at dksX11_isTooMany_0 13 rfl rfl)
theorem dX11_isTooMany_14 : decode cX11_isTooMany 14 = .ok (.iload_n 1, 1) := dk_27 (dk_at dksX11_isTooMany_0 14 rfl rfl)
theorem dX11_isTooMany_15 : decode cX11_isTooMany 15 = .ok (.i2l, 1) := dk_133 (dk_at dksX11_isTooMany_0 15 rfl rfl)
theorem dX11_isTooMany_16 : decode cX11_isTooMany 16 = .ok (.lmul, 1) := dk_105 (dk_at dksX11_isTooMany_0 16 rfl rfl)
theorem dX11_isTooMany_17 : decode cX11_isTooMany 17 = .ok (.lmul, 1) := dk_105 (dk_at dksX11_isTooMany_0 17 rfl rfl)
theorem dX11_isTooMany_18 : decode cX11_isTooMany 18 = .ok (.lstore_n 3, 1) := dk_66 (dk_at dksX11_isTooMany_0 18 rfl rfl)
theorem dX11_isTooMany_19 : decode cX11_isTooMany 19 = .ok (.lload_n 3, 1) := dk_33 (dk_at dksX11_isTooMany_0 19 rfl rfl)
theorem dX11_isTooMany_20 : decode cX11_isTooMany 20 = .ok (.ldc2_w 367, 3) := dk_20 1 111 (dk_at dksX11_isTooMany_0 20 rfl rfl)
theorem dX11_isTooMany_23 : decode cX11_isTooMany 23 = .ok (.lcmp, 1) := dk_148 (dk_at dksX11_isTooMany_0 23 rfl rfl)
theorem dX11_isTooMany_24 : decode cX11_isTooMany 24 = .ok (.ifCond .le 5, 3) := dk_158 0 5 (dk_at dksX11_isTooMany_1 0 rfl rfl)
theorem dX11_isTooMany_27 : decode cX11_isTooMany 27 = .ok (.iconst 1, 1) := dk_4 (dk_at dksX11_isTooMany_1 3 rfl rfl)
theorem dX11_isTooMany_28 : decode cX11_isTooMany 28 = .ok (.ireturn, 1) := dk_172 (dk_at dksX11_isTooMany_1 4 rfl rfl)
theorem dX11_isTooMany_29 : decode cX11_isTooMany 29 = .ok (.iinc 5 1, 3) := dk_132 5 1 (dk_at dksX11_isTooMany_1 5 rfl rfl)
theorem dX11_isTooMany_32 : decode cX11_isTooMany 32 = .ok (.goto (-27), 3) := dk_167 255 229 (dk_at dksX11_isTooMany_1 8 rfl rfl)
theorem dX11_isTooMany_35 : decode cX11_isTooMany 35 = .ok (.iconst 0, 1) := dk_3 (dk_at dksX11_isTooMany_1 11 rfl rfl)
theorem dX11_isTooMany_36 : decode cX11_isTooMany 36 = .ok (.ireturn, 1) := dk_172 (dk_at dksX11_isTooMany_1 12 rfl rfl)
abbrev cX11_leads : ByteArray := prog_21_method_86_code
def yX11_leads : MethodName := ⟨RX11, "leads", "(IIIII)Z"⟩
def dkwX11_leads_6 : List UInt8 := [3, 172]
abbrev dktX11_leads_6 : List UInt8 := dkwX11_leads_6 ++ []
def dkwX11_leads_5 : List UInt8 := [42, 3, 182, 1, 70, 21, 8, 153, 0, 5, 4, 172, 132, 7, 1, 167, 255, 169, 132, 6, 1, 167, 255, 149]
abbrev dktX11_leads_5 : List UInt8 := dkwX11_leads_5 ++ dktX11_leads_6
def dkwX11_leads_4 : List UInt8 := [42, 3, 21, 6, 21, 7, 182, 1, 10, 42, 27, 28, 29, 21, 4, 4, 96, 21, 5, 182, 1, 107, 54, 8]
abbrev dktX11_leads_4 : List UInt8 := dkwX11_leads_4 ++ dktX11_leads_5
def dkwX11_leads_3 : List UInt8 := [182, 1, 17, 153, 0, 6, 167, 0, 54, 42, 180, 0, 97, 21, 4, 16, 16, 21, 6, 104, 21, 7, 96, 79]
abbrev dktX11_leads_3 : List UInt8 := dkwX11_leads_3 ++ dktX11_leads_4
def dkwX11_leads_2 : List UInt8 := [42, 180, 0, 13, 4, 46, 162, 0, 82, 21, 6, 21, 5, 159, 0, 75, 42, 3, 21, 6, 21, 7]
abbrev dktX11_leads_2 : List UInt8 := dkwX11_leads_2 ++ dktX11_leads_3
def dkwX11_leads_1 : List UInt8 := [160, 0, 5, 3, 172, 3, 54, 6, 21, 6, 42, 180, 0, 13, 3, 46, 162, 0, 102, 3, 54, 7, 21, 7]
abbrev dktX11_leads_1 : List UInt8 := dkwX11_leads_1 ++ dktX11_leads_2
def dkwX11_leads_0 : List UInt8 := [21, 4, 29, 160, 0, 10, 42, 27, 28, 182, 1, 104, 172, 42, 180, 0, 60, 3, 46, 17, 1, 144]
abbrev dktX11_leads_0 : List UInt8 := dkwX11_leads_0 ++ dktX11_leads_1
theorem dksX11_leads_0 : cX11_leads.data.toList.drop 0 = dktX11_leads_0 := by decide +kernel
theorem dksX11_leads_1 : cX11_leads.data.toList.drop 22 = dktX11_leads_1 := dk_seg dksX11_leads_0 22 rfl rfl
theorem dksX11_leads_2 : cX11_leads.data.toList.drop 46 = dktX11_leads_2 := dk_seg dksX11_leads_1 24 rfl rfl
theorem dksX11_leads_3 : cX11_leads.data.toList.drop 68 = dktX11_leads_3 := dk_seg dksX11_leads_2 22 rfl rfl
theorem dksX11_leads_4 : cX11_leads.data.toList.drop 92 = dktX11_leads_4 := dk_seg dksX11_leads_3 24 rfl rfl
theorem dksX11_leads_5 : cX11_leads.data.toList.drop 116 = dktX11_leads_5 := dk_seg dksX11_leads_4 24 rfl rfl
theorem dksX11_leads_6 : cX11_leads.data.toList.drop 140 = dktX11_leads_6 := dk_seg dksX11_leads_5 24 rfl rfl
theorem dX11_leads_0 : decode cX11_leads 0 = .ok (.iload 4, 2) := dk_21 4 (dk_at dksX11_leads_0 0 rfl rfl)
theorem dX11_leads_2 : decode cX11_leads 2 = .ok (.iload_n 3, 1) := dk_29 (dk_at dksX11_leads_0 2 rfl rfl)
theorem dX11_leads_3 : decode cX11_leads 3 = .ok (.if_icmp .ne 10, 3) := dk_160 0 10 (dk_at dksX11_leads_0 3 rfl rfl)
theorem dX11_leads_6 : decode cX11_leads 6 = .ok (.aload_n 0, 1) := dk_42 (dk_at dksX11_leads_0 6 rfl rfl)
theorem dX11_leads_7 : decode cX11_leads 7 = .ok (.iload_n 1, 1) := dk_27 (dk_at dksX11_leads_0 7 rfl rfl)
theorem dX11_leads_8 : decode cX11_leads 8 = .ok (.iload_n 2, 1) := dk_28 (dk_at dksX11_leads_0 8 rfl rfl)
theorem dX11_leads_9 : decode cX11_leads 9 = .ok (.invokevirtual 360, 3) := dk_182 1 104 (dk_at dksX11_leads_0 9 rfl rfl)
theorem dX11_leads_12 : decode cX11_leads 12 = .ok (.ireturn, 1) := dk_172 (dk_at dksX11_leads_0 12 rfl rfl)
theorem dX11_leads_13 : decode cX11_leads 13 = .ok (.aload_n 0, 1) := dk_42 (dk_at dksX11_leads_0 13 rfl rfl)
theorem dX11_leads_14 : decode cX11_leads 14 = .ok (.getfield 60, 3) := dk_180 0 60 (dk_at dksX11_leads_0 14 rfl rfl)
theorem dX11_leads_17 : decode cX11_leads 17 = .ok (.iconst 0, 1) := dk_3 (dk_at dksX11_leads_0 17 rfl rfl)
theorem dX11_leads_18 : decode cX11_leads 18 = .ok (.iaload, 1) := dk_46 (dk_at dksX11_leads_0 18 rfl rfl)
theorem dX11_leads_19 : decode cX11_leads 19 = .ok (.sipush 400, 3) := dk_17 1 144 (dk_at dksX11_leads_0 19 rfl rfl)
theorem dX11_leads_22 : decode cX11_leads 22 = .ok (.if_icmp .ne 5, 3) := dk_160 0 5 (dk_at dksX11_leads_1 0 rfl rfl)
theorem dX11_leads_25 : decode cX11_leads 25 = .ok (.iconst 0, 1) := dk_3 (dk_at dksX11_leads_1 3 rfl rfl)
theorem dX11_leads_26 : decode cX11_leads 26 = .ok (.ireturn, 1) := dk_172 (dk_at dksX11_leads_1 4 rfl rfl)
theorem dX11_leads_27 : decode cX11_leads 27 = .ok (.iconst 0, 1) := dk_3 (dk_at dksX11_leads_1 5 rfl rfl)
theorem dX11_leads_28 : decode cX11_leads 28 = .ok (.istore 6, 2) := dk_54 6 (dk_at dksX11_leads_1 6 rfl rfl)
theorem dX11_leads_30 : decode cX11_leads 30 = .ok (.iload 6, 2) := dk_21 6 (dk_at dksX11_leads_1 8 rfl rfl)
theorem dX11_leads_32 : decode cX11_leads 32 = .ok (.aload_n 0, 1) := dk_42 (dk_at dksX11_leads_1 10 rfl rfl)
theorem dX11_leads_33 : decode cX11_leads 33 = .ok (.getfield 13, 3) := dk_180 0 13 (dk_at dksX11_leads_1 11 rfl rfl)
theorem dX11_leads_36 : decode cX11_leads 36 = .ok (.iconst 0, 1) := dk_3 (dk_at dksX11_leads_1 14 rfl rfl)
theorem dX11_leads_37 : decode cX11_leads 37 = .ok (.iaload, 1) := dk_46 (dk_at dksX11_leads_1 15 rfl rfl)
theorem dX11_leads_38 : decode cX11_leads 38 = .ok (.if_icmp .ge 102, 3) := dk_162 0 102 (dk_at dksX11_leads_1 16 rfl rfl)
theorem dX11_leads_41 : decode cX11_leads 41 = .ok (.iconst 0, 1) := dk_3 (dk_at dksX11_leads_1 19 rfl rfl)
theorem dX11_leads_42 : decode cX11_leads 42 = .ok (.istore 7, 2) := dk_54 7 (dk_at dksX11_leads_1 20 rfl rfl)
theorem dX11_leads_44 : decode cX11_leads 44 = .ok (.iload 7, 2) := dk_21 7 (dk_at dksX11_leads_1 22 rfl rfl)
theorem dX11_leads_46 : decode cX11_leads 46 = .ok (.aload_n 0, 1) := dk_42 (dk_at dksX11_leads_2 0 rfl rfl)
theorem dX11_leads_47 : decode cX11_leads 47 = .ok (.getfield 13, 3) := dk_180 0 13 (dk_at dksX11_leads_2 1 rfl rfl)
theorem dX11_leads_50 : decode cX11_leads 50 = .ok (.iconst 1, 1) := dk_4 (dk_at dksX11_leads_2 4 rfl rfl)
theorem dX11_leads_51 : decode cX11_leads 51 = .ok (.iaload, 1) := dk_46 (dk_at dksX11_leads_2 5 rfl rfl)
theorem dX11_leads_52 : decode cX11_leads 52 = .ok (.if_icmp .ge 82, 3) := dk_162 0 82 (dk_at dksX11_leads_2 6 rfl rfl)
theorem dX11_leads_55 : decode cX11_leads 55 = .ok (.iload 6, 2) := dk_21 6 (dk_at dksX11_leads_2 9 rfl rfl)
theorem dX11_leads_57 : decode cX11_leads 57 = .ok (.iload 5, 2) := dk_21 5 (dk_at dksX11_leads_2 11 rfl rfl)
theorem dX11_leads_59 : decode cX11_leads 59 = .ok (.if_icmp .eq 75, 3) := dk_159 0 75 (dk_at dksX11_leads_2 13 rfl rfl)
theorem dX11_leads_62 : decode cX11_leads 62 = .ok (.aload_n 0, 1) := dk_42 (dk_at dksX11_leads_2 16 rfl rfl)
theorem dX11_leads_63 : decode cX11_leads 63 = .ok (.iconst 0, 1) := dk_3 (dk_at dksX11_leads_2 17 rfl rfl)
theorem dX11_leads_64 : decode cX11_leads 64 = .ok (.iload 6, 2) := dk_21 6 (dk_at dksX11_leads_2 18 rfl rfl)
theorem dX11_leads_66 : decode cX11_leads 66 = .ok (.iload 7, 2) := dk_21 7 (dk_at dksX11_leads_2 20 rfl rfl)
theorem dX11_leads_68 : decode cX11_leads 68 = .ok (.invokevirtual 273, 3) := dk_182 1 17 (dk_at dksX11_leads_3 0 rfl rfl)
theorem dX11_leads_71 : decode cX11_leads 71 = .ok (.ifCond .eq 6, 3) := dk_153 0 6 (dk_at dksX11_leads_3 3 rfl rfl)
theorem dX11_leads_74 : decode cX11_leads 74 = .ok (.goto 54, 3) := dk_167 0 54 (dk_at dksX11_leads_3 6 rfl rfl)
theorem dX11_leads_77 : decode cX11_leads 77 = .ok (.aload_n 0, 1) := dk_42 (dk_at dksX11_leads_3 9 rfl rfl)
theorem dX11_leads_78 : decode cX11_leads 78 = .ok (.getfield 97, 3) := dk_180 0 97 (dk_at dksX11_leads_3 10 rfl rfl)
theorem dX11_leads_81 : decode cX11_leads 81 = .ok (.iload 4, 2) := dk_21 4 (dk_at dksX11_leads_3 13 rfl rfl)
theorem dX11_leads_83 : decode cX11_leads 83 = .ok (.bipush 16, 2) := dk_16 16 (dk_at dksX11_leads_3 15 rfl rfl)
theorem dX11_leads_85 : decode cX11_leads 85 = .ok (.iload 6, 2) := dk_21 6 (dk_at dksX11_leads_3 17 rfl rfl)
theorem dX11_leads_87 : decode cX11_leads 87 = .ok (.imul, 1) := dk_104 (dk_at dksX11_leads_3 19 rfl rfl)
theorem dX11_leads_88 : decode cX11_leads 88 = .ok (.iload 7, 2) := dk_21 7 (dk_at dksX11_leads_3 20 rfl rfl)
theorem dX11_leads_90 : decode cX11_leads 90 = .ok (.iadd, 1) := dk_96 (dk_at dksX11_leads_3 22 rfl rfl)
theorem dX11_leads_91 : decode cX11_leads 91 = .ok (.iastore, 1) := dk_79 (dk_at dksX11_leads_3 23 rfl rfl)
theorem dX11_leads_92 : decode cX11_leads 92 = .ok (.aload_n 0, 1) := dk_42 (dk_at dksX11_leads_4 0 rfl rfl)
theorem dX11_leads_93 : decode cX11_leads 93 = .ok (.iconst 0, 1) := dk_3 (dk_at dksX11_leads_4 1 rfl rfl)
theorem dX11_leads_94 : decode cX11_leads 94 = .ok (.iload 6, 2) := dk_21 6 (dk_at dksX11_leads_4 2 rfl rfl)
theorem dX11_leads_96 : decode cX11_leads 96 = .ok (.iload 7, 2) := dk_21 7 (dk_at dksX11_leads_4 4 rfl rfl)
theorem dX11_leads_98 : decode cX11_leads 98 = .ok (.invokevirtual 266, 3) := dk_182 1 10 (dk_at dksX11_leads_4 6 rfl rfl)
theorem dX11_leads_101 : decode cX11_leads 101 = .ok (.aload_n 0, 1) := dk_42 (dk_at dksX11_leads_4 9 rfl rfl)
theorem dX11_leads_102 : decode cX11_leads 102 = .ok (.iload_n 1, 1) := dk_27 (dk_at dksX11_leads_4 10 rfl rfl)
theorem dX11_leads_103 : decode cX11_leads 103 = .ok (.iload_n 2, 1) := dk_28 (dk_at dksX11_leads_4 11 rfl rfl)
theorem dX11_leads_104 : decode cX11_leads 104 = .ok (.iload_n 3, 1) := dk_29 (dk_at dksX11_leads_4 12 rfl rfl)
theorem dX11_leads_105 : decode cX11_leads 105 = .ok (.iload 4, 2) := dk_21 4 (dk_at dksX11_leads_4 13 rfl rfl)
theorem dX11_leads_107 : decode cX11_leads 107 = .ok (.iconst 1, 1) := dk_4 (dk_at dksX11_leads_4 15 rfl rfl)
theorem dX11_leads_108 : decode cX11_leads 108 = .ok (.iadd, 1) := dk_96 (dk_at dksX11_leads_4 16 rfl rfl)
theorem dX11_leads_109 : decode cX11_leads 109 = .ok (.iload 5, 2) := dk_21 5 (dk_at dksX11_leads_4 17 rfl rfl)
theorem dX11_leads_111 : decode cX11_leads 111 = .ok (.invokevirtual 363, 3) := dk_182 1 107 (dk_at dksX11_leads_4 19 rfl rfl)
theorem dX11_leads_114 : decode cX11_leads 114 = .ok (.istore 8, 2) := dk_54 8 (dk_at dksX11_leads_4 22 rfl rfl)
theorem dX11_leads_116 : decode cX11_leads 116 = .ok (.aload_n 0, 1) := dk_42 (dk_at dksX11_leads_5 0 rfl rfl)
theorem dX11_leads_117 : decode cX11_leads 117 = .ok (.iconst 0, 1) := dk_3 (dk_at dksX11_leads_5 1 rfl rfl)
theorem dX11_leads_118 : decode cX11_leads 118 = .ok (.invokevirtual 326, 3) := dk_182 1 70 (dk_at dksX11_leads_5 2 rfl rfl)
theorem dX11_leads_121 : decode cX11_leads 121 = .ok (.iload 8, 2) := dk_21 8 (dk_at dksX11_leads_5 5 rfl rfl)
theorem dX11_leads_123 : decode cX11_leads 123 = .ok (.ifCond .eq 5, 3) := dk_153 0 5 (dk_at dksX11_leads_5 7 rfl rfl)
theorem dX11_leads_126 : decode cX11_leads 126 = .ok (.iconst 1, 1) := dk_4 (dk_at dksX11_leads_5 10 rfl rfl)
theorem dX11_leads_127 : decode cX11_leads 127 = .ok (.ireturn, 1) := dk_172 (dk_at dksX11_leads_5 11 rfl rfl)
theorem dX11_leads_128 : decode cX11_leads 128 = .ok (.iinc 7 1, 3) := dk_132 7 1 (dk_at dksX11_leads_5 12 rfl rfl)
theorem dX11_leads_131 : decode cX11_leads 131 = .ok (.goto (-87), 3) := dk_167 255 169 (dk_at dksX11_leads_5 15 rfl rfl)
theorem dX11_leads_134 : decode cX11_leads 134 = .ok (.iinc 6 1, 3) := dk_132 6 1 (dk_at dksX11_leads_5 18 rfl rfl)
theorem dX11_leads_137 : decode cX11_leads 137 = .ok (.goto (-107), 3) := dk_167 255 149 (dk_at dksX11_leads_5 21 rfl rfl)
theorem dX11_leads_140 : decode cX11_leads 140 = .ok (.iconst 0, 1) := dk_3 (dk_at dksX11_leads_6 0 rfl rfl)
theorem dX11_leads_141 : decode cX11_leads 141 = .ok (.ireturn, 1) := dk_172 (dk_at dksX11_leads_6 1 rfl rfl)
abbrev cX11_isSo : ByteArray := prog_21_method_85_code
def yX11_isSo : MethodName := ⟨RX11, "isSo", "(II)Z"⟩
def dkwX11_isSo_1 : List UInt8 := [3, 172]
abbrev dktX11_isSo_1 : List UInt8 := dkwX11_isSo_1 ++ []
def dkwX11_isSo_0 : List UInt8 := [27, 42, 180, 0, 60, 3, 46, 162, 0, 17, 42, 3, 27, 182, 1, 33, 28, 160, 0, 7, 4, 167, 0, 4]
abbrev dktX11_isSo_0 : List UInt8 := dkwX11_isSo_0 ++ dktX11_isSo_1
theorem dksX11_isSo_0 : cX11_isSo.data.toList.drop 0 = dktX11_isSo_0 := by decide +kernel
theorem dksX11_isSo_1 : cX11_isSo.data.toList.drop 24 = dktX11_isSo_1 := dk_seg dksX11_isSo_0 24 rfl rfl
theorem dX11_isSo_0 : decode cX11_isSo 0 = .ok (.iload_n 1, 1) := dk_27 (dk_at dksX11_isSo_0 0 rfl rfl)
theorem dX11_isSo_1 : decode cX11_isSo 1 = .ok (.aload_n 0, 1) := dk_42 (dk_at dksX11_isSo_0 1 rfl rfl)
theorem dX11_isSo_2 : decode cX11_isSo 2 = .ok (.getfield 60, 3) := dk_180 0 60 (dk_at dksX11_isSo_0 2 rfl rfl)
theorem dX11_isSo_5 : decode cX11_isSo 5 = .ok (.iconst 0, 1) := dk_3 (dk_at dksX11_isSo_0 5 rfl rfl)
theorem dX11_isSo_6 : decode cX11_isSo 6 = .ok (.iaload, 1) := dk_46 (dk_at dksX11_isSo_0 6 rfl rfl)
theorem dX11_isSo_7 : decode cX11_isSo 7 = .ok (.if_icmp .ge 17, 3) := dk_162 0 17 (dk_at dksX11_isSo_0 7 rfl rfl)
theorem dX11_isSo_10 : decode cX11_isSo 10 = .ok (.aload_n 0, 1) := dk_42 (dk_at dksX11_isSo_0 10 rfl rfl)
theorem dX11_isSo_11 : decode cX11_isSo 11 = .ok (.iconst 0, 1) := dk_3 (dk_at dksX11_isSo_0 11 rfl rfl)
theorem dX11_isSo_12 : decode cX11_isSo 12 = .ok (.iload_n 1, 1) := dk_27 (dk_at dksX11_isSo_0 12 rfl rfl)
theorem dX11_isSo_13 : decode cX11_isSo 13 = .ok (.invokevirtual 289, 3) := dk_182 1 33 (dk_at dksX11_isSo_0 13 rfl rfl)
theorem dX11_isSo_16 : decode cX11_isSo 16 = .ok (.iload_n 2, 1) := dk_28 (dk_at dksX11_isSo_0 16 rfl rfl)
theorem dX11_isSo_17 : decode cX11_isSo 17 = .ok (.if_icmp .ne 7, 3) := dk_160 0 7 (dk_at dksX11_isSo_0 17 rfl rfl)
theorem dX11_isSo_20 : decode cX11_isSo 20 = .ok (.iconst 1, 1) := dk_4 (dk_at dksX11_isSo_0 20 rfl rfl)
theorem dX11_isSo_21 : decode cX11_isSo 21 = .ok (.goto 4, 3) := dk_167 0 4 (dk_at dksX11_isSo_0 21 rfl rfl)
theorem dX11_isSo_24 : decode cX11_isSo 24 = .ok (.iconst 0, 1) := dk_3 (dk_at dksX11_isSo_1 0 rfl rfl)
theorem dX11_isSo_25 : decode cX11_isSo 25 = .ok (.ireturn, 1) := dk_172 (dk_at dksX11_isSo_1 1 rfl rfl)
abbrev cX11_without : ByteArray := prog_21_method_90_code
def yX11_without : MethodName := ⟨RX11, "without", "(IIII)I"⟩
def dkwX11_without_1 : List UInt8 := [167, 0, 5, 16, 253, 172]
abbrev dktX11_without_1 : List UInt8 := dkwX11_without_1 ++ []
def dkwX11_without_0 : List UInt8 := [42, 3, 181, 0, 106, 42, 27, 182, 0, 242, 153, 0, 15, 42, 28, 29, 21, 4, 27, 182, 1, 116]
abbrev dktX11_without_0 : List UInt8 := dkwX11_without_0 ++ dktX11_without_1
theorem dksX11_without_0 : cX11_without.data.toList.drop 0 = dktX11_without_0 := by decide +kernel
theorem dksX11_without_1 : cX11_without.data.toList.drop 22 = dktX11_without_1 := dk_seg dksX11_without_0 22 rfl rfl
theorem dX11_without_0 : decode cX11_without 0 = .ok (.aload_n 0, 1) := dk_42 (dk_at dksX11_without_0 0 rfl rfl)
theorem dX11_without_1 : decode cX11_without 1 = .ok (.iconst 0, 1) := dk_3 (dk_at dksX11_without_0 1 rfl rfl)
theorem dX11_without_2 : decode cX11_without 2 = .ok (.putfield 106, 3) := dk_181 0 106 (dk_at dksX11_without_0 2 rfl rfl)
theorem dX11_without_5 : decode cX11_without 5 = .ok (.aload_n 0, 1) := dk_42 (dk_at dksX11_without_0 5 rfl rfl)
theorem dX11_without_6 : decode cX11_without 6 = .ok (.iload_n 1, 1) := dk_27 (dk_at dksX11_without_0 6 rfl rfl)
theorem dX11_without_7 : decode cX11_without 7 = .ok (.invokevirtual 242, 3) := dk_182 0 242 (dk_at dksX11_without_0 7 rfl rfl)
theorem dX11_without_10 : decode cX11_without 10 = .ok (.ifCond .eq 15, 3) := dk_153 0 15 (dk_at dksX11_without_0 10 rfl rfl)
theorem dX11_without_13 : decode cX11_without 13 = .ok (.aload_n 0, 1) := dk_42 (dk_at dksX11_without_0 13 rfl rfl)
theorem dX11_without_14 : decode cX11_without 14 = .ok (.iload_n 2, 1) := dk_28 (dk_at dksX11_without_0 14 rfl rfl)
theorem dX11_without_15 : decode cX11_without 15 = .ok (.iload_n 3, 1) := dk_29 (dk_at dksX11_without_0 15 rfl rfl)
theorem dX11_without_16 : decode cX11_without 16 = .ok (.iload 4, 2) := dk_21 4 (dk_at dksX11_without_0 16 rfl rfl)
theorem dX11_without_18 : decode cX11_without 18 = .ok (.iload_n 1, 1) := dk_27 (dk_at dksX11_without_0 18 rfl rfl)
theorem dX11_without_19 : decode cX11_without 19 = .ok (.invokevirtual 372, 3) := dk_182 1 116 (dk_at dksX11_without_0 19 rfl rfl)
theorem dX11_without_22 : decode cX11_without 22 = .ok (.goto 5, 3) := dk_167 0 5 (dk_at dksX11_without_1 0 rfl rfl)
theorem dX11_without_25 : decode cX11_without 25 = .ok (.bipush (-3), 2) := dk_16 253 (dk_at dksX11_without_1 3 rfl rfl)
theorem dX11_without_27 : decode cX11_without 27 = .ok (.ireturn, 1) := dk_172 (dk_at dksX11_without_1 5 rfl rfl)
abbrev cX11_game : ByteArray := prog_21_method_92_code
def yX11_game : MethodName := ⟨RX11, "game", "(IIII)I"⟩
def dkwX11_game_4 : List UInt8 := [4, 28, 29, 21, 4, 182, 1, 123, 54, 6, 21, 6, 16, 99, 160, 0, 7, 2, 167, 0, 5, 21, 6, 172]
abbrev dktX11_game_4 : List UInt8 := dkwX11_game_4 ++ []
def dkwX11_game_3 : List UInt8 := [46, 42, 180, 0, 13, 4, 46, 21, 4, 184, 1, 113, 153, 0, 6, 16, 254, 172, 42, 182, 1, 14, 42, 27]
abbrev dktX11_game_3 : List UInt8 := dkwX11_game_3 ++ dktX11_game_4
def dkwX11_game_2 : List UInt8 := [16, 60, 46, 162, 0, 13, 27, 158, 0, 9, 27, 21, 5, 161, 0, 6, 16, 253, 172, 42, 180, 0, 13, 3]
abbrev dktX11_game_2 : List UInt8 := dkwX11_game_2 ++ dktX11_game_3
def dkwX11_game_1 : List UInt8 := [153, 0, 39, 21, 4, 4, 16, 8, 184, 0, 177, 153, 0, 28, 28, 155, 0, 24, 28, 42, 180, 0, 13]
abbrev dktX11_game_1 : List UInt8 := dkwX11_game_1 ++ dktX11_game_2
def dkwX11_game_0 : List UInt8 := [42, 3, 181, 0, 106, 4, 42, 180, 0, 13, 3, 46, 120, 4, 100, 54, 5, 29, 3, 16, 8, 184, 0, 177]
abbrev dktX11_game_0 : List UInt8 := dkwX11_game_0 ++ dktX11_game_1
theorem dksX11_game_0 : cX11_game.data.toList.drop 0 = dktX11_game_0 := by decide +kernel
theorem dksX11_game_1 : cX11_game.data.toList.drop 24 = dktX11_game_1 := dk_seg dksX11_game_0 24 rfl rfl
theorem dksX11_game_2 : cX11_game.data.toList.drop 47 = dktX11_game_2 := dk_seg dksX11_game_1 23 rfl rfl
theorem dksX11_game_3 : cX11_game.data.toList.drop 71 = dktX11_game_3 := dk_seg dksX11_game_2 24 rfl rfl
theorem dksX11_game_4 : cX11_game.data.toList.drop 95 = dktX11_game_4 := dk_seg dksX11_game_3 24 rfl rfl
theorem dX11_game_0 : decode cX11_game 0 = .ok (.aload_n 0, 1) := dk_42 (dk_at dksX11_game_0 0 rfl rfl)
theorem dX11_game_1 : decode cX11_game 1 = .ok (.iconst 0, 1) := dk_3 (dk_at dksX11_game_0 1 rfl rfl)
theorem dX11_game_2 : decode cX11_game 2 = .ok (.putfield 106, 3) := dk_181 0 106 (dk_at dksX11_game_0 2 rfl rfl)
theorem dX11_game_5 : decode cX11_game 5 = .ok (.iconst 1, 1) := dk_4 (dk_at dksX11_game_0 5 rfl rfl)
theorem dX11_game_6 : decode cX11_game 6 = .ok (.aload_n 0, 1) := dk_42 (dk_at dksX11_game_0 6 rfl rfl)
theorem dX11_game_7 : decode cX11_game 7 = .ok (.getfield 13, 3) := dk_180 0 13 (dk_at dksX11_game_0 7 rfl rfl)
theorem dX11_game_10 : decode cX11_game 10 = .ok (.iconst 0, 1) := dk_3 (dk_at dksX11_game_0 10 rfl rfl)
theorem dX11_game_11 : decode cX11_game 11 = .ok (.iaload, 1) := dk_46 (dk_at dksX11_game_0 11 rfl rfl)
theorem dX11_game_12 : decode cX11_game 12 = .ok (.ishl, 1) := dk_120 (dk_at dksX11_game_0 12 rfl rfl)
theorem dX11_game_13 : decode cX11_game 13 = .ok (.iconst 1, 1) := dk_4 (dk_at dksX11_game_0 13 rfl rfl)
theorem dX11_game_14 : decode cX11_game 14 = .ok (.isub, 1) := dk_100 (dk_at dksX11_game_0 14 rfl rfl)
theorem dX11_game_15 : decode cX11_game 15 = .ok (.istore 5, 2) := dk_54 5 (dk_at dksX11_game_0 15 rfl rfl)
theorem dX11_game_17 : decode cX11_game 17 = .ok (.iload_n 3, 1) := dk_29 (dk_at dksX11_game_0 17 rfl rfl)
theorem dX11_game_18 : decode cX11_game 18 = .ok (.iconst 0, 1) := dk_3 (dk_at dksX11_game_0 18 rfl rfl)
theorem dX11_game_19 : decode cX11_game 19 = .ok (.bipush 8, 2) := dk_16 8 (dk_at dksX11_game_0 19 rfl rfl)
theorem dX11_game_21 : decode cX11_game 21 = .ok (.invokestatic 177, 3) := dk_184 0 177 (dk_at dksX11_game_0 21 rfl rfl)
theorem dX11_game_24 : decode cX11_game 24 = .ok (.ifCond .eq 39, 3) := dk_153 0 39 (dk_at dksX11_game_1 0 rfl rfl)
theorem dX11_game_27 : decode cX11_game 27 = .ok (.iload 4, 2) := dk_21 4 (dk_at dksX11_game_1 3 rfl rfl)
theorem dX11_game_29 : decode cX11_game 29 = .ok (.iconst 1, 1) := dk_4 (dk_at dksX11_game_1 5 rfl rfl)
theorem dX11_game_30 : decode cX11_game 30 = .ok (.bipush 8, 2) := dk_16 8 (dk_at dksX11_game_1 6 rfl rfl)
theorem dX11_game_32 : decode cX11_game 32 = .ok (.invokestatic 177, 3) := dk_184 0 177 (dk_at dksX11_game_1 8 rfl rfl)
theorem dX11_game_35 : decode cX11_game 35 = .ok (.ifCond .eq 28, 3) := dk_153 0 28 (dk_at dksX11_game_1 11 rfl rfl)
theorem dX11_game_38 : decode cX11_game 38 = .ok (.iload_n 2, 1) := dk_28 (dk_at dksX11_game_1 14 rfl rfl)
theorem dX11_game_39 : decode cX11_game 39 = .ok (.ifCond .lt 24, 3) := dk_155 0 24 (dk_at dksX11_game_1 15 rfl rfl)
theorem dX11_game_42 : decode cX11_game 42 = .ok (.iload_n 2, 1) := dk_28 (dk_at dksX11_game_1 18 rfl rfl)
theorem dX11_game_43 : decode cX11_game 43 = .ok (.aload_n 0, 1) := dk_42 (dk_at dksX11_game_1 19 rfl rfl)
theorem dX11_game_44 : decode cX11_game 44 = .ok (.getfield 13, 3) := dk_180 0 13 (dk_at dksX11_game_1 20 rfl rfl)
theorem dX11_game_47 : decode cX11_game 47 = .ok (.bipush 60, 2) := dk_16 60 (dk_at dksX11_game_2 0 rfl rfl)
theorem dX11_game_49 : decode cX11_game 49 = .ok (.iaload, 1) := dk_46 (dk_at dksX11_game_2 2 rfl rfl)
theorem dX11_game_50 : decode cX11_game 50 = .ok (.if_icmp .ge 13, 3) := dk_162 0 13 (dk_at dksX11_game_2 3 rfl rfl)
theorem dX11_game_53 : decode cX11_game 53 = .ok (.iload_n 1, 1) := dk_27 (dk_at dksX11_game_2 6 rfl rfl)
theorem dX11_game_54 : decode cX11_game 54 = .ok (.ifCond .le 9, 3) := dk_158 0 9 (dk_at dksX11_game_2 7 rfl rfl)
theorem dX11_game_57 : decode cX11_game 57 = .ok (.iload_n 1, 1) := dk_27 (dk_at dksX11_game_2 10 rfl rfl)
theorem dX11_game_58 : decode cX11_game 58 = .ok (.iload 5, 2) := dk_21 5 (dk_at dksX11_game_2 11 rfl rfl)
theorem dX11_game_60 : decode cX11_game 60 = .ok (.if_icmp .lt 6, 3) := dk_161 0 6 (dk_at dksX11_game_2 13 rfl rfl)
theorem dX11_game_63 : decode cX11_game 63 = .ok (.bipush (-3), 2) := dk_16 253 (dk_at dksX11_game_2 16 rfl rfl)
theorem dX11_game_65 : decode cX11_game 65 = .ok (.ireturn, 1) := dk_172 (dk_at dksX11_game_2 18 rfl rfl)
theorem dX11_game_66 : decode cX11_game 66 = .ok (.aload_n 0, 1) := dk_42 (dk_at dksX11_game_2 19 rfl rfl)
theorem dX11_game_67 : decode cX11_game 67 = .ok (.getfield 13, 3) := dk_180 0 13 (dk_at dksX11_game_2 20 rfl rfl)
theorem dX11_game_70 : decode cX11_game 70 = .ok (.iconst 0, 1) := dk_3 (dk_at dksX11_game_2 23 rfl rfl)
theorem dX11_game_71 : decode cX11_game 71 = .ok (.iaload, 1) := dk_46 (dk_at dksX11_game_3 0 rfl rfl)
theorem dX11_game_72 : decode cX11_game 72 = .ok (.aload_n 0, 1) := dk_42 (dk_at dksX11_game_3 1 rfl rfl)
theorem dX11_game_73 : decode cX11_game 73 = .ok (.getfield 13, 3) := dk_180 0 13 (dk_at dksX11_game_3 2 rfl rfl)
theorem dX11_game_76 : decode cX11_game 76 = .ok (.iconst 1, 1) := dk_4 (dk_at dksX11_game_3 5 rfl rfl)
theorem dX11_game_77 : decode cX11_game 77 = .ok (.iaload, 1) := dk_46 (dk_at dksX11_game_3 6 rfl rfl)
theorem dX11_game_78 : decode cX11_game 78 = .ok (.iload 4, 2) := dk_21 4 (dk_at dksX11_game_3 7 rfl rfl)
theorem dX11_game_80 : decode cX11_game 80 = .ok (.invokestatic 369, 3) := dk_184 1 113 (dk_at dksX11_game_3 9 rfl rfl)
theorem dX11_game_83 : decode cX11_game 83 = .ok (.ifCond .eq 6, 3) := dk_153 0 6 (dk_at dksX11_game_3 12 rfl rfl)
theorem dX11_game_86 : decode cX11_game 86 = .ok (.bipush (-2), 2) := dk_16 254 (dk_at dksX11_game_3 15 rfl rfl)
theorem dX11_game_88 : decode cX11_game 88 = .ok (.ireturn, 1) := dk_172 (dk_at dksX11_game_3 17 rfl rfl)
theorem dX11_game_89 : decode cX11_game 89 = .ok (.aload_n 0, 1) := dk_42 (dk_at dksX11_game_3 18 rfl rfl)
theorem dX11_game_90 : decode cX11_game 90 = .ok (.invokevirtual 270, 3) := dk_182 1 14 (dk_at dksX11_game_3 19 rfl rfl)
theorem dX11_game_93 : decode cX11_game 93 = .ok (.aload_n 0, 1) := dk_42 (dk_at dksX11_game_3 22 rfl rfl)
theorem dX11_game_94 : decode cX11_game 94 = .ok (.iload_n 1, 1) := dk_27 (dk_at dksX11_game_3 23 rfl rfl)
theorem dX11_game_95 : decode cX11_game 95 = .ok (.iconst 1, 1) := dk_4 (dk_at dksX11_game_4 0 rfl rfl)
theorem dX11_game_96 : decode cX11_game 96 = .ok (.iload_n 2, 1) := dk_28 (dk_at dksX11_game_4 1 rfl rfl)
theorem dX11_game_97 : decode cX11_game 97 = .ok (.iload_n 3, 1) := dk_29 (dk_at dksX11_game_4 2 rfl rfl)
theorem dX11_game_98 : decode cX11_game 98 = .ok (.iload 4, 2) := dk_21 4 (dk_at dksX11_game_4 3 rfl rfl)
theorem dX11_game_100 : decode cX11_game 100 = .ok (.invokevirtual 379, 3) := dk_182 1 123 (dk_at dksX11_game_4 5 rfl rfl)
theorem dX11_game_103 : decode cX11_game 103 = .ok (.istore 6, 2) := dk_54 6 (dk_at dksX11_game_4 8 rfl rfl)
theorem dX11_game_105 : decode cX11_game 105 = .ok (.iload 6, 2) := dk_21 6 (dk_at dksX11_game_4 10 rfl rfl)
theorem dX11_game_107 : decode cX11_game 107 = .ok (.bipush 99, 2) := dk_16 99 (dk_at dksX11_game_4 12 rfl rfl)
theorem dX11_game_109 : decode cX11_game 109 = .ok (.if_icmp .ne 7, 3) := dk_160 0 7 (dk_at dksX11_game_4 14 rfl rfl)
theorem dX11_game_112 : decode cX11_game 112 = .ok (.iconst (-1), 1) := dk_2 (dk_at dksX11_game_4 17 rfl rfl)
theorem dX11_game_113 : decode cX11_game 113 = .ok (.goto 5, 3) := dk_167 0 5 (dk_at dksX11_game_4 18 rfl rfl)
theorem dX11_game_116 : decode cX11_game 116 = .ok (.iload 6, 2) := dk_21 6 (dk_at dksX11_game_4 21 rfl rfl)
theorem dX11_game_118 : decode cX11_game 118 = .ok (.ireturn, 1) := dk_172 (dk_at dksX11_game_4 23 rfl rfl)
abbrev cX11_play : ByteArray := prog_21_method_91_code
def yX11_play : MethodName := ⟨RX11, "play", "(IZIII)I"⟩
def dkwX11_play_8 : List UInt8 := [160, 0, 8, 16, 99, 167, 0, 5, 21, 6, 172]
abbrev dktX11_play_8 : List UInt8 := dkwX11_play_8 ++ []
def dkwX11_play_7 : List UInt8 := [164, 0, 7, 21, 9, 54, 6, 132, 8, 1, 167, 255, 149, 132, 7, 1, 167, 255, 116, 21, 6, 2]
abbrev dktX11_play_7 : List UInt8 := dkwX11_play_7 ++ dktX11_play_8
def dkwX11_play_6 : List UInt8 := [2, 159, 0, 24, 28, 153, 0, 13, 21, 9, 21, 6, 162, 0, 17, 167, 0, 10, 21, 9, 21, 6]
abbrev dktX11_play_6 : List UInt8 := dkwX11_play_6 ++ dktX11_play_7
def dkwX11_play_5 : List UInt8 := [4, 100, 182, 1, 123, 54, 9, 42, 3, 182, 1, 70, 21, 9, 16, 99, 162, 0, 6, 132, 9, 1, 21, 6]
abbrev dktX11_play_5 : List UInt8 := dkwX11_play_5 ++ dktX11_play_6
def dkwX11_play_4 : List UInt8 := [3, 21, 7, 21, 8, 182, 1, 10, 42, 27, 28, 154, 0, 7, 4, 167, 0, 4, 3, 29, 21, 4, 21, 5]
abbrev dktX11_play_4 : List UInt8 := dkwX11_play_4 ++ dktX11_play_5
def dkwX11_play_3 : List UInt8 := [180, 0, 13, 4, 46, 162, 0, 102, 42, 3, 21, 7, 21, 8, 182, 1, 17, 153, 0, 6, 167, 0, 81, 42]
abbrev dktX11_play_3 : List UInt8 := dkwX11_play_3 ++ dktX11_play_4
def dkwX11_play_2 : List UInt8 := [162, 0, 135, 27, 21, 7, 184, 0, 215, 28, 159, 0, 6, 167, 0, 116, 3, 54, 8, 21, 8, 42]
abbrev dktX11_play_2 : List UInt8 := dkwX11_play_2 ++ dktX11_play_3
def dkwX11_play_1 : List UInt8 := [17, 1, 144, 160, 0, 6, 16, 99, 172, 2, 54, 6, 3, 54, 7, 21, 7, 42, 180, 0, 13, 3, 46]
abbrev dktX11_play_1 : List UInt8 := dkwX11_play_1 ++ dktX11_play_2
def dkwX11_play_0 : List UInt8 := [42, 29, 21, 4, 182, 1, 104, 153, 0, 5, 3, 172, 21, 5, 153, 0, 15, 42, 180, 0, 60, 3, 46]
abbrev dktX11_play_0 : List UInt8 := dkwX11_play_0 ++ dktX11_play_1
theorem dksX11_play_0 : cX11_play.data.toList.drop 0 = dktX11_play_0 := by decide +kernel
theorem dksX11_play_1 : cX11_play.data.toList.drop 23 = dktX11_play_1 := dk_seg dksX11_play_0 23 rfl rfl
theorem dksX11_play_2 : cX11_play.data.toList.drop 46 = dktX11_play_2 := dk_seg dksX11_play_1 23 rfl rfl
theorem dksX11_play_3 : cX11_play.data.toList.drop 68 = dktX11_play_3 := dk_seg dksX11_play_2 22 rfl rfl
theorem dksX11_play_4 : cX11_play.data.toList.drop 92 = dktX11_play_4 := dk_seg dksX11_play_3 24 rfl rfl
theorem dksX11_play_5 : cX11_play.data.toList.drop 116 = dktX11_play_5 := dk_seg dksX11_play_4 24 rfl rfl
theorem dksX11_play_6 : cX11_play.data.toList.drop 140 = dktX11_play_6 := dk_seg dksX11_play_5 24 rfl rfl
theorem dksX11_play_7 : cX11_play.data.toList.drop 162 = dktX11_play_7 := dk_seg dksX11_play_6 22 rfl rfl
theorem dksX11_play_8 : cX11_play.data.toList.drop 184 = dktX11_play_8 := dk_seg dksX11_play_7 22 rfl rfl
theorem dX11_play_0 : decode cX11_play 0 = .ok (.aload_n 0, 1) := dk_42 (dk_at dksX11_play_0 0 rfl rfl)
theorem dX11_play_1 : decode cX11_play 1 = .ok (.iload_n 3, 1) := dk_29 (dk_at dksX11_play_0 1 rfl rfl)
theorem dX11_play_2 : decode cX11_play 2 = .ok (.iload 4, 2) := dk_21 4 (dk_at dksX11_play_0 2 rfl rfl)
theorem dX11_play_4 : decode cX11_play 4 = .ok (.invokevirtual 360, 3) := dk_182 1 104 (dk_at dksX11_play_0 4 rfl rfl)
theorem dX11_play_7 : decode cX11_play 7 = .ok (.ifCond .eq 5, 3) := dk_153 0 5 (dk_at dksX11_play_0 7 rfl rfl)
theorem dX11_play_10 : decode cX11_play 10 = .ok (.iconst 0, 1) := dk_3 (dk_at dksX11_play_0 10 rfl rfl)
theorem dX11_play_11 : decode cX11_play 11 = .ok (.ireturn, 1) := dk_172 (dk_at dksX11_play_0 11 rfl rfl)
theorem dX11_play_12 : decode cX11_play 12 = .ok (.iload 5, 2) := dk_21 5 (dk_at dksX11_play_0 12 rfl rfl)
theorem dX11_play_14 : decode cX11_play 14 = .ok (.ifCond .eq 15, 3) := dk_153 0 15 (dk_at dksX11_play_0 14 rfl rfl)
theorem dX11_play_17 : decode cX11_play 17 = .ok (.aload_n 0, 1) := dk_42 (dk_at dksX11_play_0 17 rfl rfl)
theorem dX11_play_18 : decode cX11_play 18 = .ok (.getfield 60, 3) := dk_180 0 60 (dk_at dksX11_play_0 18 rfl rfl)
theorem dX11_play_21 : decode cX11_play 21 = .ok (.iconst 0, 1) := dk_3 (dk_at dksX11_play_0 21 rfl rfl)
theorem dX11_play_22 : decode cX11_play 22 = .ok (.iaload, 1) := dk_46 (dk_at dksX11_play_0 22 rfl rfl)
theorem dX11_play_23 : decode cX11_play 23 = .ok (.sipush 400, 3) := dk_17 1 144 (dk_at dksX11_play_1 0 rfl rfl)
theorem dX11_play_26 : decode cX11_play 26 = .ok (.if_icmp .ne 6, 3) := dk_160 0 6 (dk_at dksX11_play_1 3 rfl rfl)
theorem dX11_play_29 : decode cX11_play 29 = .ok (.bipush 99, 2) := dk_16 99 (dk_at dksX11_play_1 6 rfl rfl)
theorem dX11_play_31 : decode cX11_play 31 = .ok (.ireturn, 1) := dk_172 (dk_at dksX11_play_1 8 rfl rfl)
theorem dX11_play_32 : decode cX11_play 32 = .ok (.iconst (-1), 1) := dk_2 (dk_at dksX11_play_1 9 rfl rfl)
theorem dX11_play_33 : decode cX11_play 33 = .ok (.istore 6, 2) := dk_54 6 (dk_at dksX11_play_1 10 rfl rfl)
theorem dX11_play_35 : decode cX11_play 35 = .ok (.iconst 0, 1) := dk_3 (dk_at dksX11_play_1 12 rfl rfl)
theorem dX11_play_36 : decode cX11_play 36 = .ok (.istore 7, 2) := dk_54 7 (dk_at dksX11_play_1 13 rfl rfl)
theorem dX11_play_38 : decode cX11_play 38 = .ok (.iload 7, 2) := dk_21 7 (dk_at dksX11_play_1 15 rfl rfl)
theorem dX11_play_40 : decode cX11_play 40 = .ok (.aload_n 0, 1) := dk_42 (dk_at dksX11_play_1 17 rfl rfl)
theorem dX11_play_41 : decode cX11_play 41 = .ok (.getfield 13, 3) := dk_180 0 13 (dk_at dksX11_play_1 18 rfl rfl)
theorem dX11_play_44 : decode cX11_play 44 = .ok (.iconst 0, 1) := dk_3 (dk_at dksX11_play_1 21 rfl rfl)
theorem dX11_play_45 : decode cX11_play 45 = .ok (.iaload, 1) := dk_46 (dk_at dksX11_play_1 22 rfl rfl)
theorem dX11_play_46 : decode cX11_play 46 = .ok (.if_icmp .ge 135, 3) := dk_162 0 135 (dk_at dksX11_play_2 0 rfl rfl)
theorem dX11_play_49 : decode cX11_play 49 = .ok (.iload_n 1, 1) := dk_27 (dk_at dksX11_play_2 3 rfl rfl)
theorem dX11_play_50 : decode cX11_play 50 = .ok (.iload 7, 2) := dk_21 7 (dk_at dksX11_play_2 4 rfl rfl)
theorem dX11_play_52 : decode cX11_play 52 = .ok (.invokestatic 215, 3) := dk_184 0 215 (dk_at dksX11_play_2 6 rfl rfl)
theorem dX11_play_55 : decode cX11_play 55 = .ok (.iload_n 2, 1) := dk_28 (dk_at dksX11_play_2 9 rfl rfl)
theorem dX11_play_56 : decode cX11_play 56 = .ok (.if_icmp .eq 6, 3) := dk_159 0 6 (dk_at dksX11_play_2 10 rfl rfl)
theorem dX11_play_59 : decode cX11_play 59 = .ok (.goto 116, 3) := dk_167 0 116 (dk_at dksX11_play_2 13 rfl rfl)
theorem dX11_play_62 : decode cX11_play 62 = .ok (.iconst 0, 1) := dk_3 (dk_at dksX11_play_2 16 rfl rfl)
theorem dX11_play_63 : decode cX11_play 63 = .ok (.istore 8, 2) := dk_54 8 (dk_at dksX11_play_2 17 rfl rfl)
theorem dX11_play_65 : decode cX11_play 65 = .ok (.iload 8, 2) := dk_21 8 (dk_at dksX11_play_2 19 rfl rfl)
theorem dX11_play_67 : decode cX11_play 67 = .ok (.aload_n 0, 1) := dk_42 (dk_at dksX11_play_2 21 rfl rfl)
theorem dX11_play_68 : decode cX11_play 68 = .ok (.getfield 13, 3) := dk_180 0 13 (dk_at dksX11_play_3 0 rfl rfl)
theorem dX11_play_71 : decode cX11_play 71 = .ok (.iconst 1, 1) := dk_4 (dk_at dksX11_play_3 3 rfl rfl)
theorem dX11_play_72 : decode cX11_play 72 = .ok (.iaload, 1) := dk_46 (dk_at dksX11_play_3 4 rfl rfl)
theorem dX11_play_73 : decode cX11_play 73 = .ok (.if_icmp .ge 102, 3) := dk_162 0 102 (dk_at dksX11_play_3 5 rfl rfl)
theorem dX11_play_76 : decode cX11_play 76 = .ok (.aload_n 0, 1) := dk_42 (dk_at dksX11_play_3 8 rfl rfl)
theorem dX11_play_77 : decode cX11_play 77 = .ok (.iconst 0, 1) := dk_3 (dk_at dksX11_play_3 9 rfl rfl)
theorem dX11_play_78 : decode cX11_play 78 = .ok (.iload 7, 2) := dk_21 7 (dk_at dksX11_play_3 10 rfl rfl)
theorem dX11_play_80 : decode cX11_play 80 = .ok (.iload 8, 2) := dk_21 8 (dk_at dksX11_play_3 12 rfl rfl)
theorem dX11_play_82 : decode cX11_play 82 = .ok (.invokevirtual 273, 3) := dk_182 1 17 (dk_at dksX11_play_3 14 rfl rfl)
theorem dX11_play_85 : decode cX11_play 85 = .ok (.ifCond .eq 6, 3) := dk_153 0 6 (dk_at dksX11_play_3 17 rfl rfl)
theorem dX11_play_88 : decode cX11_play 88 = .ok (.goto 81, 3) := dk_167 0 81 (dk_at dksX11_play_3 20 rfl rfl)
theorem dX11_play_91 : decode cX11_play 91 = .ok (.aload_n 0, 1) := dk_42 (dk_at dksX11_play_3 23 rfl rfl)
theorem dX11_play_92 : decode cX11_play 92 = .ok (.iconst 0, 1) := dk_3 (dk_at dksX11_play_4 0 rfl rfl)
theorem dX11_play_93 : decode cX11_play 93 = .ok (.iload 7, 2) := dk_21 7 (dk_at dksX11_play_4 1 rfl rfl)
theorem dX11_play_95 : decode cX11_play 95 = .ok (.iload 8, 2) := dk_21 8 (dk_at dksX11_play_4 3 rfl rfl)
theorem dX11_play_97 : decode cX11_play 97 = .ok (.invokevirtual 266, 3) := dk_182 1 10 (dk_at dksX11_play_4 5 rfl rfl)
theorem dX11_play_100 : decode cX11_play 100 = .ok (.aload_n 0, 1) := dk_42 (dk_at dksX11_play_4 8 rfl rfl)
theorem dX11_play_101 : decode cX11_play 101 = .ok (.iload_n 1, 1) := dk_27 (dk_at dksX11_play_4 9 rfl rfl)
theorem dX11_play_102 : decode cX11_play 102 = .ok (.iload_n 2, 1) := dk_28 (dk_at dksX11_play_4 10 rfl rfl)
theorem dX11_play_103 : decode cX11_play 103 = .ok (.ifCond .ne 7, 3) := dk_154 0 7 (dk_at dksX11_play_4 11 rfl rfl)
theorem dX11_play_106 : decode cX11_play 106 = .ok (.iconst 1, 1) := dk_4 (dk_at dksX11_play_4 14 rfl rfl)
theorem dX11_play_107 : decode cX11_play 107 = .ok (.goto 4, 3) := dk_167 0 4 (dk_at dksX11_play_4 15 rfl rfl)
theorem dX11_play_110 : decode cX11_play 110 = .ok (.iconst 0, 1) := dk_3 (dk_at dksX11_play_4 18 rfl rfl)
theorem dX11_play_111 : decode cX11_play 111 = .ok (.iload_n 3, 1) := dk_29 (dk_at dksX11_play_4 19 rfl rfl)
theorem dX11_play_112 : decode cX11_play 112 = .ok (.iload 4, 2) := dk_21 4 (dk_at dksX11_play_4 20 rfl rfl)
theorem dX11_play_114 : decode cX11_play 114 = .ok (.iload 5, 2) := dk_21 5 (dk_at dksX11_play_4 22 rfl rfl)
theorem dX11_play_116 : decode cX11_play 116 = .ok (.iconst 1, 1) := dk_4 (dk_at dksX11_play_5 0 rfl rfl)
theorem dX11_play_117 : decode cX11_play 117 = .ok (.isub, 1) := dk_100 (dk_at dksX11_play_5 1 rfl rfl)
theorem dX11_play_118 : decode cX11_play 118 = .ok (.invokevirtual 379, 3) := dk_182 1 123 (dk_at dksX11_play_5 2 rfl rfl)
theorem dX11_play_121 : decode cX11_play 121 = .ok (.istore 9, 2) := dk_54 9 (dk_at dksX11_play_5 5 rfl rfl)
theorem dX11_play_123 : decode cX11_play 123 = .ok (.aload_n 0, 1) := dk_42 (dk_at dksX11_play_5 7 rfl rfl)
theorem dX11_play_124 : decode cX11_play 124 = .ok (.iconst 0, 1) := dk_3 (dk_at dksX11_play_5 8 rfl rfl)
theorem dX11_play_125 : decode cX11_play 125 = .ok (.invokevirtual 326, 3) := dk_182 1 70 (dk_at dksX11_play_5 9 rfl rfl)
theorem dX11_play_128 : decode cX11_play 128 = .ok (.iload 9, 2) := dk_21 9 (dk_at dksX11_play_5 12 rfl rfl)
theorem dX11_play_130 : decode cX11_play 130 = .ok (.bipush 99, 2) := dk_16 99 (dk_at dksX11_play_5 14 rfl rfl)
theorem dX11_play_132 : decode cX11_play 132 = .ok (.if_icmp .ge 6, 3) := dk_162 0 6 (dk_at dksX11_play_5 16 rfl rfl)
theorem dX11_play_135 : decode cX11_play 135 = .ok (.iinc 9 1, 3) := dk_132 9 1 (dk_at dksX11_play_5 19 rfl rfl)
theorem dX11_play_138 : decode cX11_play 138 = .ok (.iload 6, 2) := dk_21 6 (dk_at dksX11_play_5 22 rfl rfl)
theorem dX11_play_140 : decode cX11_play 140 = .ok (.iconst (-1), 1) := dk_2 (dk_at dksX11_play_6 0 rfl rfl)
theorem dX11_play_141 : decode cX11_play 141 = .ok (.if_icmp .eq 24, 3) := dk_159 0 24 (dk_at dksX11_play_6 1 rfl rfl)
theorem dX11_play_144 : decode cX11_play 144 = .ok (.iload_n 2, 1) := dk_28 (dk_at dksX11_play_6 4 rfl rfl)
theorem dX11_play_145 : decode cX11_play 145 = .ok (.ifCond .eq 13, 3) := dk_153 0 13 (dk_at dksX11_play_6 5 rfl rfl)
theorem dX11_play_148 : decode cX11_play 148 = .ok (.iload 9, 2) := dk_21 9 (dk_at dksX11_play_6 8 rfl rfl)
theorem dX11_play_150 : decode cX11_play 150 = .ok (.iload 6, 2) := dk_21 6 (dk_at dksX11_play_6 10 rfl rfl)
theorem dX11_play_152 : decode cX11_play 152 = .ok (.if_icmp .ge 17, 3) := dk_162 0 17 (dk_at dksX11_play_6 12 rfl rfl)
theorem dX11_play_155 : decode cX11_play 155 = .ok (.goto 10, 3) := dk_167 0 10 (dk_at dksX11_play_6 15 rfl rfl)
theorem dX11_play_158 : decode cX11_play 158 = .ok (.iload 9, 2) := dk_21 9 (dk_at dksX11_play_6 18 rfl rfl)
theorem dX11_play_160 : decode cX11_play 160 = .ok (.iload 6, 2) := dk_21 6 (dk_at dksX11_play_6 20 rfl rfl)
theorem dX11_play_162 : decode cX11_play 162 = .ok (.if_icmp .le 7, 3) := dk_164 0 7 (dk_at dksX11_play_7 0 rfl rfl)
theorem dX11_play_165 : decode cX11_play 165 = .ok (.iload 9, 2) := dk_21 9 (dk_at dksX11_play_7 3 rfl rfl)
theorem dX11_play_167 : decode cX11_play 167 = .ok (.istore 6, 2) := dk_54 6 (dk_at dksX11_play_7 5 rfl rfl)
theorem dX11_play_169 : decode cX11_play 169 = .ok (.iinc 8 1, 3) := dk_132 8 1 (dk_at dksX11_play_7 7 rfl rfl)
theorem dX11_play_172 : decode cX11_play 172 = .ok (.goto (-107), 3) := dk_167 255 149 (dk_at dksX11_play_7 10 rfl rfl)
theorem dX11_play_175 : decode cX11_play 175 = .ok (.iinc 7 1, 3) := dk_132 7 1 (dk_at dksX11_play_7 13 rfl rfl)
theorem dX11_play_178 : decode cX11_play 178 = .ok (.goto (-140), 3) := dk_167 255 116 (dk_at dksX11_play_7 16 rfl rfl)
theorem dX11_play_181 : decode cX11_play 181 = .ok (.iload 6, 2) := dk_21 6 (dk_at dksX11_play_7 19 rfl rfl)
theorem dX11_play_183 : decode cX11_play 183 = .ok (.iconst (-1), 1) := dk_2 (dk_at dksX11_play_7 21 rfl rfl)
theorem dX11_play_184 : decode cX11_play 184 = .ok (.if_icmp .ne 8, 3) := dk_160 0 8 (dk_at dksX11_play_8 0 rfl rfl)
theorem dX11_play_187 : decode cX11_play 187 = .ok (.bipush 99, 2) := dk_16 99 (dk_at dksX11_play_8 3 rfl rfl)
theorem dX11_play_189 : decode cX11_play 189 = .ok (.goto 5, 3) := dk_167 0 5 (dk_at dksX11_play_8 5 rfl rfl)
theorem dX11_play_192 : decode cX11_play 192 = .ok (.iload 6, 2) := dk_21 6 (dk_at dksX11_play_8 8 rfl rfl)
theorem dX11_play_194 : decode cX11_play 194 = .ok (.ireturn, 1) := dk_172 (dk_at dksX11_play_8 10 rfl rfl)
abbrev cX11_found : ByteArray := prog_21_method_93_code
def yX11_found : MethodName := ⟨RX11, "found", "(I)I"⟩
def dkwX11_found_1 : List UInt8 := [167, 0, 4, 2, 172]
abbrev dktX11_found_1 : List UInt8 := dkwX11_found_1 ++ []
def dkwX11_found_0 : List UInt8 := [42, 3, 181, 0, 106, 27, 155, 0, 20, 27, 42, 180, 1, 120, 162, 0, 12, 42, 180, 0, 100, 27, 46]
abbrev dktX11_found_0 : List UInt8 := dkwX11_found_0 ++ dktX11_found_1
theorem dksX11_found_0 : cX11_found.data.toList.drop 0 = dktX11_found_0 := by decide +kernel
theorem dksX11_found_1 : cX11_found.data.toList.drop 23 = dktX11_found_1 := dk_seg dksX11_found_0 23 rfl rfl
theorem dX11_found_0 : decode cX11_found 0 = .ok (.aload_n 0, 1) := dk_42 (dk_at dksX11_found_0 0 rfl rfl)
theorem dX11_found_1 : decode cX11_found 1 = .ok (.iconst 0, 1) := dk_3 (dk_at dksX11_found_0 1 rfl rfl)
theorem dX11_found_2 : decode cX11_found 2 = .ok (.putfield 106, 3) := dk_181 0 106 (dk_at dksX11_found_0 2 rfl rfl)
theorem dX11_found_5 : decode cX11_found 5 = .ok (.iload_n 1, 1) := dk_27 (dk_at dksX11_found_0 5 rfl rfl)
theorem dX11_found_6 : decode cX11_found 6 = .ok (.ifCond .lt 20, 3) := dk_155 0 20 (dk_at dksX11_found_0 6 rfl rfl)
theorem dX11_found_9 : decode cX11_found 9 = .ok (.iload_n 1, 1) := dk_27 (dk_at dksX11_found_0 9 rfl rfl)
theorem dX11_found_10 : decode cX11_found 10 = .ok (.aload_n 0, 1) := dk_42 (dk_at dksX11_found_0 10 rfl rfl)
theorem dX11_found_11 : decode cX11_found 11 = .ok (.getfield 376, 3) := dk_180 1 120 (dk_at dksX11_found_0 11 rfl rfl)
theorem dX11_found_14 : decode cX11_found 14 = .ok (.if_icmp .ge 12, 3) := dk_162 0 12 (dk_at dksX11_found_0 14 rfl rfl)
theorem dX11_found_17 : decode cX11_found 17 = .ok (.aload_n 0, 1) := dk_42 (dk_at dksX11_found_0 17 rfl rfl)
theorem dX11_found_18 : decode cX11_found 18 = .ok (.getfield 100, 3) := dk_180 0 100 (dk_at dksX11_found_0 18 rfl rfl)
theorem dX11_found_21 : decode cX11_found 21 = .ok (.iload_n 1, 1) := dk_27 (dk_at dksX11_found_0 21 rfl rfl)
theorem dX11_found_22 : decode cX11_found 22 = .ok (.iaload, 1) := dk_46 (dk_at dksX11_found_0 22 rfl rfl)
theorem dX11_found_23 : decode cX11_found 23 = .ok (.goto 4, 3) := dk_167 0 4 (dk_at dksX11_found_1 0 rfl rfl)
theorem dX11_found_26 : decode cX11_found 26 = .ok (.iconst (-1), 1) := dk_2 (dk_at dksX11_found_1 3 rfl rfl)
theorem dX11_found_27 : decode cX11_found 27 = .ok (.ireturn, 1) := dk_172 (dk_at dksX11_found_1 4 rfl rfl)
abbrev cX11_unlike : ByteArray := prog_21_method_96_code
def yX11_unlike : MethodName := ⟨RX11, "unlike", "(II)I"⟩
def dkwX11_unlike_8 : List UInt8 := [21, 6, 46, 79, 132, 6, 1, 167, 255, 232, 21, 5, 172, 132, 5, 1, 167, 255, 192, 3, 172]
abbrev dktX11_unlike_8 : List UInt8 := dkwX11_unlike_8 ++ []
def dkwX11_unlike_7 : List UInt8 := [181, 1, 120, 3, 54, 6, 21, 6, 21, 5, 162, 0, 23, 42, 180, 0, 100, 21, 6, 42, 180, 0, 97]
abbrev dktX11_unlike_7 : List UInt8 := dkwX11_unlike_7 ++ dktX11_unlike_8
def dkwX11_unlike_6 : List UInt8 := [163, 0, 64, 42, 29, 21, 4, 21, 5, 3, 182, 1, 130, 154, 0, 6, 167, 0, 42, 42, 21, 5]
abbrev dktX11_unlike_6 : List UInt8 := dkwX11_unlike_6 ++ dktX11_unlike_7
def dkwX11_unlike_5 : List UInt8 := [182, 0, 255, 54, 4, 29, 21, 4, 28, 184, 1, 113, 153, 0, 6, 16, 254, 172, 4, 54, 5, 21, 5, 28]
abbrev dktX11_unlike_5 : List UInt8 := dkwX11_unlike_5 ++ dktX11_unlike_6
def dkwX11_unlike_4 : List UInt8 := [182, 0, 255, 42, 4, 4, 182, 0, 255, 164, 0, 12, 42, 3, 4, 182, 0, 255, 167, 0, 9, 42, 4, 4]
abbrev dktX11_unlike_4 : List UInt8 := dkwX11_unlike_4 ++ dktX11_unlike_5
def dkwX11_unlike_3 : List UInt8 := [164, 0, 12, 42, 3, 3, 182, 0, 255, 167, 0, 9, 42, 4, 3, 182, 0, 255, 62, 42, 3, 4]
abbrev dktX11_unlike_3 : List UInt8 := dkwX11_unlike_3 ++ dktX11_unlike_4
def dkwX11_unlike_2 : List UInt8 := [42, 180, 0, 19, 17, 4, 128, 27, 104, 182, 1, 6, 42, 3, 3, 182, 0, 255, 42, 4, 3, 182, 0, 255]
abbrev dktX11_unlike_2 : List UInt8 := dkwX11_unlike_2 ++ dktX11_unlike_3
def dkwX11_unlike_1 : List UInt8 := [4, 16, 6, 184, 0, 177, 154, 0, 6, 16, 253, 172, 42, 3, 42, 180, 0, 13, 3, 182, 1, 6, 42, 4]
abbrev dktX11_unlike_1 : List UInt8 := dkwX11_unlike_1 ++ dktX11_unlike_2
def dkwX11_unlike_0 : List UInt8 := [42, 3, 181, 0, 106, 27, 3, 4, 184, 0, 177, 153, 0, 22, 42, 180, 0, 35, 27, 51, 153, 0, 13, 28]
abbrev dktX11_unlike_0 : List UInt8 := dkwX11_unlike_0 ++ dktX11_unlike_1
theorem dksX11_unlike_0 : cX11_unlike.data.toList.drop 0 = dktX11_unlike_0 := by decide +kernel
theorem dksX11_unlike_1 : cX11_unlike.data.toList.drop 24 = dktX11_unlike_1 := dk_seg dksX11_unlike_0 24 rfl rfl
theorem dksX11_unlike_2 : cX11_unlike.data.toList.drop 48 = dktX11_unlike_2 := dk_seg dksX11_unlike_1 24 rfl rfl
theorem dksX11_unlike_3 : cX11_unlike.data.toList.drop 72 = dktX11_unlike_3 := dk_seg dksX11_unlike_2 24 rfl rfl
theorem dksX11_unlike_4 : cX11_unlike.data.toList.drop 94 = dktX11_unlike_4 := dk_seg dksX11_unlike_3 22 rfl rfl
theorem dksX11_unlike_5 : cX11_unlike.data.toList.drop 118 = dktX11_unlike_5 := dk_seg dksX11_unlike_4 24 rfl rfl
theorem dksX11_unlike_6 : cX11_unlike.data.toList.drop 142 = dktX11_unlike_6 := dk_seg dksX11_unlike_5 24 rfl rfl
theorem dksX11_unlike_7 : cX11_unlike.data.toList.drop 164 = dktX11_unlike_7 := dk_seg dksX11_unlike_6 22 rfl rfl
theorem dksX11_unlike_8 : cX11_unlike.data.toList.drop 187 = dktX11_unlike_8 := dk_seg dksX11_unlike_7 23 rfl rfl
theorem dX11_unlike_0 : decode cX11_unlike 0 = .ok (.aload_n 0, 1) := dk_42 (dk_at dksX11_unlike_0 0 rfl rfl)
theorem dX11_unlike_1 : decode cX11_unlike 1 = .ok (.iconst 0, 1) := dk_3 (dk_at dksX11_unlike_0 1 rfl rfl)
theorem dX11_unlike_2 : decode cX11_unlike 2 = .ok (.putfield 106, 3) := dk_181 0 106 (dk_at dksX11_unlike_0 2 rfl rfl)
theorem dX11_unlike_5 : decode cX11_unlike 5 = .ok (.iload_n 1, 1) := dk_27 (dk_at dksX11_unlike_0 5 rfl rfl)
theorem dX11_unlike_6 : decode cX11_unlike 6 = .ok (.iconst 0, 1) := dk_3 (dk_at dksX11_unlike_0 6 rfl rfl)
theorem dX11_unlike_7 : decode cX11_unlike 7 = .ok (.iconst 1, 1) := dk_4 (dk_at dksX11_unlike_0 7 rfl rfl)
theorem dX11_unlike_8 : decode cX11_unlike 8 = .ok (.invokestatic 177, 3) := dk_184 0 177 (dk_at dksX11_unlike_0 8 rfl rfl)
theorem dX11_unlike_11 : decode cX11_unlike 11 = .ok (.ifCond .eq 22, 3) := dk_153 0 22 (dk_at dksX11_unlike_0 11 rfl rfl)
theorem dX11_unlike_14 : decode cX11_unlike 14 = .ok (.aload_n 0, 1) := dk_42 (dk_at dksX11_unlike_0 14 rfl rfl)
theorem dX11_unlike_15 : decode cX11_unlike 15 = .ok (.getfield 35, 3) := dk_180 0 35 (dk_at dksX11_unlike_0 15 rfl rfl)
theorem dX11_unlike_18 : decode cX11_unlike 18 = .ok (.iload_n 1, 1) := dk_27 (dk_at dksX11_unlike_0 18 rfl rfl)
theorem dX11_unlike_19 : decode cX11_unlike 19 = .ok (.baload, 1) := dk_51 (dk_at dksX11_unlike_0 19 rfl rfl)
theorem dX11_unlike_20 : decode cX11_unlike 20 = .ok (.ifCond .eq 13, 3) := dk_153 0 13 (dk_at dksX11_unlike_0 20 rfl rfl)
theorem dX11_unlike_23 : decode cX11_unlike 23 = .ok (.iload_n 2, 1) := dk_28 (dk_at dksX11_unlike_0 23 rfl rfl)
theorem dX11_unlike_24 : decode cX11_unlike 24 = .ok (.iconst 1, 1) := dk_4 (dk_at dksX11_unlike_1 0 rfl rfl)
theorem dX11_unlike_25 : decode cX11_unlike 25 = .ok (.bipush 6, 2) := dk_16 6 (dk_at dksX11_unlike_1 1 rfl rfl)
theorem dX11_unlike_27 : decode cX11_unlike 27 = .ok (.invokestatic 177, 3) := dk_184 0 177 (dk_at dksX11_unlike_1 3 rfl rfl)
theorem dX11_unlike_30 : decode cX11_unlike 30 = .ok (.ifCond .ne 6, 3) := dk_154 0 6 (dk_at dksX11_unlike_1 6 rfl rfl)
theorem dX11_unlike_33 : decode cX11_unlike 33 = .ok (.bipush (-3), 2) := dk_16 253 (dk_at dksX11_unlike_1 9 rfl rfl)
theorem dX11_unlike_35 : decode cX11_unlike 35 = .ok (.ireturn, 1) := dk_172 (dk_at dksX11_unlike_1 11 rfl rfl)
theorem dX11_unlike_36 : decode cX11_unlike 36 = .ok (.aload_n 0, 1) := dk_42 (dk_at dksX11_unlike_1 12 rfl rfl)
theorem dX11_unlike_37 : decode cX11_unlike 37 = .ok (.iconst 0, 1) := dk_3 (dk_at dksX11_unlike_1 13 rfl rfl)
theorem dX11_unlike_38 : decode cX11_unlike 38 = .ok (.aload_n 0, 1) := dk_42 (dk_at dksX11_unlike_1 14 rfl rfl)
theorem dX11_unlike_39 : decode cX11_unlike 39 = .ok (.getfield 13, 3) := dk_180 0 13 (dk_at dksX11_unlike_1 15 rfl rfl)
theorem dX11_unlike_42 : decode cX11_unlike 42 = .ok (.iconst 0, 1) := dk_3 (dk_at dksX11_unlike_1 18 rfl rfl)
theorem dX11_unlike_43 : decode cX11_unlike 43 = .ok (.invokevirtual 262, 3) := dk_182 1 6 (dk_at dksX11_unlike_1 19 rfl rfl)
theorem dX11_unlike_46 : decode cX11_unlike 46 = .ok (.aload_n 0, 1) := dk_42 (dk_at dksX11_unlike_1 22 rfl rfl)
theorem dX11_unlike_47 : decode cX11_unlike 47 = .ok (.iconst 1, 1) := dk_4 (dk_at dksX11_unlike_1 23 rfl rfl)
theorem dX11_unlike_48 : decode cX11_unlike 48 = .ok (.aload_n 0, 1) := dk_42 (dk_at dksX11_unlike_2 0 rfl rfl)
theorem dX11_unlike_49 : decode cX11_unlike 49 = .ok (.getfield 19, 3) := dk_180 0 19 (dk_at dksX11_unlike_2 1 rfl rfl)
theorem dX11_unlike_52 : decode cX11_unlike 52 = .ok (.sipush 1152, 3) := dk_17 4 128 (dk_at dksX11_unlike_2 4 rfl rfl)
theorem dX11_unlike_55 : decode cX11_unlike 55 = .ok (.iload_n 1, 1) := dk_27 (dk_at dksX11_unlike_2 7 rfl rfl)
theorem dX11_unlike_56 : decode cX11_unlike 56 = .ok (.imul, 1) := dk_104 (dk_at dksX11_unlike_2 8 rfl rfl)
theorem dX11_unlike_57 : decode cX11_unlike 57 = .ok (.invokevirtual 262, 3) := dk_182 1 6 (dk_at dksX11_unlike_2 9 rfl rfl)
theorem dX11_unlike_60 : decode cX11_unlike 60 = .ok (.aload_n 0, 1) := dk_42 (dk_at dksX11_unlike_2 12 rfl rfl)
theorem dX11_unlike_61 : decode cX11_unlike 61 = .ok (.iconst 0, 1) := dk_3 (dk_at dksX11_unlike_2 13 rfl rfl)
theorem dX11_unlike_62 : decode cX11_unlike 62 = .ok (.iconst 0, 1) := dk_3 (dk_at dksX11_unlike_2 14 rfl rfl)
theorem dX11_unlike_63 : decode cX11_unlike 63 = .ok (.invokevirtual 255, 3) := dk_182 0 255 (dk_at dksX11_unlike_2 15 rfl rfl)
theorem dX11_unlike_66 : decode cX11_unlike 66 = .ok (.aload_n 0, 1) := dk_42 (dk_at dksX11_unlike_2 18 rfl rfl)
theorem dX11_unlike_67 : decode cX11_unlike 67 = .ok (.iconst 1, 1) := dk_4 (dk_at dksX11_unlike_2 19 rfl rfl)
theorem dX11_unlike_68 : decode cX11_unlike 68 = .ok (.iconst 0, 1) := dk_3 (dk_at dksX11_unlike_2 20 rfl rfl)
theorem dX11_unlike_69 : decode cX11_unlike 69 = .ok (.invokevirtual 255, 3) := dk_182 0 255 (dk_at dksX11_unlike_2 21 rfl rfl)
theorem dX11_unlike_72 : decode cX11_unlike 72 = .ok (.if_icmp .le 12, 3) := dk_164 0 12 (dk_at dksX11_unlike_3 0 rfl rfl)
theorem dX11_unlike_75 : decode cX11_unlike 75 = .ok (.aload_n 0, 1) := dk_42 (dk_at dksX11_unlike_3 3 rfl rfl)
theorem dX11_unlike_76 : decode cX11_unlike 76 = .ok (.iconst 0, 1) := dk_3 (dk_at dksX11_unlike_3 4 rfl rfl)
theorem dX11_unlike_77 : decode cX11_unlike 77 = .ok (.iconst 0, 1) := dk_3 (dk_at dksX11_unlike_3 5 rfl rfl)
theorem dX11_unlike_78 : decode cX11_unlike 78 = .ok (.invokevirtual 255, 3) := dk_182 0 255 (dk_at dksX11_unlike_3 6 rfl rfl)
theorem dX11_unlike_81 : decode cX11_unlike 81 = .ok (.goto 9, 3) := dk_167 0 9 (dk_at dksX11_unlike_3 9 rfl rfl)
theorem dX11_unlike_84 : decode cX11_unlike 84 = .ok (.aload_n 0, 1) := dk_42 (dk_at dksX11_unlike_3 12 rfl rfl)
theorem dX11_unlike_85 : decode cX11_unlike 85 = .ok (.iconst 1, 1) := dk_4 (dk_at dksX11_unlike_3 13 rfl rfl)
theorem dX11_unlike_86 : decode cX11_unlike 86 = .ok (.iconst 0, 1) := dk_3 (dk_at dksX11_unlike_3 14 rfl rfl)
theorem dX11_unlike_87 : decode cX11_unlike 87 = .ok (.invokevirtual 255, 3) := dk_182 0 255 (dk_at dksX11_unlike_3 15 rfl rfl)
theorem dX11_unlike_90 : decode cX11_unlike 90 = .ok (.istore_n 3, 1) := dk_62 (dk_at dksX11_unlike_3 18 rfl rfl)
theorem dX11_unlike_91 : decode cX11_unlike 91 = .ok (.aload_n 0, 1) := dk_42 (dk_at dksX11_unlike_3 19 rfl rfl)
theorem dX11_unlike_92 : decode cX11_unlike 92 = .ok (.iconst 0, 1) := dk_3 (dk_at dksX11_unlike_3 20 rfl rfl)
theorem dX11_unlike_93 : decode cX11_unlike 93 = .ok (.iconst 1, 1) := dk_4 (dk_at dksX11_unlike_3 21 rfl rfl)
theorem dX11_unlike_94 : decode cX11_unlike 94 = .ok (.invokevirtual 255, 3) := dk_182 0 255 (dk_at dksX11_unlike_4 0 rfl rfl)
theorem dX11_unlike_97 : decode cX11_unlike 97 = .ok (.aload_n 0, 1) := dk_42 (dk_at dksX11_unlike_4 3 rfl rfl)
theorem dX11_unlike_98 : decode cX11_unlike 98 = .ok (.iconst 1, 1) := dk_4 (dk_at dksX11_unlike_4 4 rfl rfl)
theorem dX11_unlike_99 : decode cX11_unlike 99 = .ok (.iconst 1, 1) := dk_4 (dk_at dksX11_unlike_4 5 rfl rfl)
theorem dX11_unlike_100 : decode cX11_unlike 100 = .ok (.invokevirtual 255, 3) := dk_182 0 255 (dk_at dksX11_unlike_4 6 rfl rfl)
theorem dX11_unlike_103 : decode cX11_unlike 103 = .ok (.if_icmp .le 12, 3) := dk_164 0 12 (dk_at dksX11_unlike_4 9 rfl rfl)
theorem dX11_unlike_106 : decode cX11_unlike 106 = .ok (.aload_n 0, 1) := dk_42 (dk_at dksX11_unlike_4 12 rfl rfl)
theorem dX11_unlike_107 : decode cX11_unlike 107 = .ok (.iconst 0, 1) := dk_3 (dk_at dksX11_unlike_4 13 rfl rfl)
theorem dX11_unlike_108 : decode cX11_unlike 108 = .ok (.iconst 1, 1) := dk_4 (dk_at dksX11_unlike_4 14 rfl rfl)
theorem dX11_unlike_109 : decode cX11_unlike 109 = .ok (.invokevirtual 255, 3) := dk_182 0 255 (dk_at dksX11_unlike_4 15 rfl rfl)
theorem dX11_unlike_112 : decode cX11_unlike 112 = .ok (.goto 9, 3) := dk_167 0 9 (dk_at dksX11_unlike_4 18 rfl rfl)
theorem dX11_unlike_115 : decode cX11_unlike 115 = .ok (.aload_n 0, 1) := dk_42 (dk_at dksX11_unlike_4 21 rfl rfl)
theorem dX11_unlike_116 : decode cX11_unlike 116 = .ok (.iconst 1, 1) := dk_4 (dk_at dksX11_unlike_4 22 rfl rfl)
theorem dX11_unlike_117 : decode cX11_unlike 117 = .ok (.iconst 1, 1) := dk_4 (dk_at dksX11_unlike_4 23 rfl rfl)
theorem dX11_unlike_118 : decode cX11_unlike 118 = .ok (.invokevirtual 255, 3) := dk_182 0 255 (dk_at dksX11_unlike_5 0 rfl rfl)
theorem dX11_unlike_121 : decode cX11_unlike 121 = .ok (.istore 4, 2) := dk_54 4 (dk_at dksX11_unlike_5 3 rfl rfl)
theorem dX11_unlike_123 : decode cX11_unlike 123 = .ok (.iload_n 3, 1) := dk_29 (dk_at dksX11_unlike_5 5 rfl rfl)
theorem dX11_unlike_124 : decode cX11_unlike 124 = .ok (.iload 4, 2) := dk_21 4 (dk_at dksX11_unlike_5 6 rfl rfl)
theorem dX11_unlike_126 : decode cX11_unlike 126 = .ok (.iload_n 2, 1) := dk_28 (dk_at dksX11_unlike_5 8 rfl rfl)
theorem dX11_unlike_127 : decode cX11_unlike 127 = .ok (.invokestatic 369, 3) := dk_184 1 113 (dk_at dksX11_unlike_5 9 rfl rfl)
theorem dX11_unlike_130 : decode cX11_unlike 130 = .ok (.ifCond .eq 6, 3) := dk_153 0 6 (dk_at dksX11_unlike_5 12 rfl rfl)
theorem dX11_unlike_133 : decode cX11_unlike 133 = .ok (.bipush (-2), 2) := dk_16 254 (dk_at dksX11_unlike_5 15 rfl rfl)
theorem dX11_unlike_135 : decode cX11_unlike 135 = .ok (.ireturn, 1) := dk_172 (dk_at dksX11_unlike_5 17 rfl rfl)
theorem dX11_unlike_136 : decode cX11_unlike 136 = .ok (.iconst 1, 1) := dk_4 (dk_at dksX11_unlike_5 18 rfl rfl)
theorem dX11_unlike_137 : decode cX11_unlike 137 = .ok (.istore 5, 2) := dk_54 5 (dk_at dksX11_unlike_5 19 rfl rfl)
theorem dX11_unlike_139 : decode cX11_unlike 139 = .ok (.iload 5, 2) := dk_21 5 (dk_at dksX11_unlike_5 21 rfl rfl)
theorem dX11_unlike_141 : decode cX11_unlike 141 = .ok (.iload_n 2, 1) := dk_28 (dk_at dksX11_unlike_5 23 rfl rfl)
theorem dX11_unlike_142 : decode cX11_unlike 142 = .ok (.if_icmp .gt 64, 3) := dk_163 0 64 (dk_at dksX11_unlike_6 0 rfl rfl)
theorem dX11_unlike_145 : decode cX11_unlike 145 = .ok (.aload_n 0, 1) := dk_42 (dk_at dksX11_unlike_6 3 rfl rfl)
theorem dX11_unlike_146 : decode cX11_unlike 146 = .ok (.iload_n 3, 1) := dk_29 (dk_at dksX11_unlike_6 4 rfl rfl)
theorem dX11_unlike_147 : decode cX11_unlike 147 = .ok (.iload 4, 2) := dk_21 4 (dk_at dksX11_unlike_6 5 rfl rfl)
theorem dX11_unlike_149 : decode cX11_unlike 149 = .ok (.iload 5, 2) := dk_21 5 (dk_at dksX11_unlike_6 7 rfl rfl)
theorem dX11_unlike_151 : decode cX11_unlike 151 = .ok (.iconst 0, 1) := dk_3 (dk_at dksX11_unlike_6 9 rfl rfl)
theorem dX11_unlike_152 : decode cX11_unlike 152 = .ok (.invokevirtual 386, 3) := dk_182 1 130 (dk_at dksX11_unlike_6 10 rfl rfl)
theorem dX11_unlike_155 : decode cX11_unlike 155 = .ok (.ifCond .ne 6, 3) := dk_154 0 6 (dk_at dksX11_unlike_6 13 rfl rfl)
theorem dX11_unlike_158 : decode cX11_unlike 158 = .ok (.goto 42, 3) := dk_167 0 42 (dk_at dksX11_unlike_6 16 rfl rfl)
theorem dX11_unlike_161 : decode cX11_unlike 161 = .ok (.aload_n 0, 1) := dk_42 (dk_at dksX11_unlike_6 19 rfl rfl)
theorem dX11_unlike_162 : decode cX11_unlike 162 = .ok (.iload 5, 2) := dk_21 5 (dk_at dksX11_unlike_6 20 rfl rfl)
theorem dX11_unlike_164 : decode cX11_unlike 164 = .ok (.putfield 376, 3) := dk_181 1 120 (dk_at dksX11_unlike_7 0 rfl rfl)
theorem dX11_unlike_167 : decode cX11_unlike 167 = .ok (.iconst 0, 1) := dk_3 (dk_at dksX11_unlike_7 3 rfl rfl)
theorem dX11_unlike_168 : decode cX11_unlike 168 = .ok (.istore 6, 2) := dk_54 6 (dk_at dksX11_unlike_7 4 rfl rfl)
theorem dX11_unlike_170 : decode cX11_unlike 170 = .ok (.iload 6, 2) := dk_21 6 (dk_at dksX11_unlike_7 6 rfl rfl)
theorem dX11_unlike_172 : decode cX11_unlike 172 = .ok (.iload 5, 2) := dk_21 5 (dk_at dksX11_unlike_7 8 rfl rfl)
theorem dX11_unlike_174 : decode cX11_unlike 174 = .ok (.if_icmp .ge 23, 3) := dk_162 0 23 (dk_at dksX11_unlike_7 10 rfl rfl)
theorem dX11_unlike_177 : decode cX11_unlike 177 = .ok (.aload_n 0, 1) := dk_42 (dk_at dksX11_unlike_7 13 rfl rfl)
theorem dX11_unlike_178 : decode cX11_unlike 178 = .ok (.getfield 100, 3) := dk_180 0 100 (dk_at dksX11_unlike_7 14 rfl rfl)
theorem dX11_unlike_181 : decode cX11_unlike 181 = .ok (.iload 6, 2) := dk_21 6 (dk_at dksX11_unlike_7 17 rfl rfl)
theorem dX11_unlike_183 : decode cX11_unlike 183 = .ok (.aload_n 0, 1) := dk_42 (dk_at dksX11_unlike_7 19 rfl rfl)
theorem dX11_unlike_184 : decode cX11_unlike 184 = .ok (.getfield 97, 3) := dk_180 0 97 (dk_at dksX11_unlike_7 20 rfl rfl)
theorem dX11_unlike_187 : decode cX11_unlike 187 = .ok (.iload 6, 2) := dk_21 6 (dk_at dksX11_unlike_8 0 rfl rfl)
theorem dX11_unlike_189 : decode cX11_unlike 189 = .ok (.iaload, 1) := dk_46 (dk_at dksX11_unlike_8 2 rfl rfl)
theorem dX11_unlike_190 : decode cX11_unlike 190 = .ok (.iastore, 1) := dk_79 (dk_at dksX11_unlike_8 3 rfl rfl)
theorem dX11_unlike_191 : decode cX11_unlike 191 = .ok (.iinc 6 1, 3) := dk_132 6 1 (dk_at dksX11_unlike_8 4 rfl rfl)
theorem dX11_unlike_194 : decode cX11_unlike 194 = .ok (.goto (-24), 3) := dk_167 255 232 (dk_at dksX11_unlike_8 7 rfl rfl)
theorem dX11_unlike_197 : decode cX11_unlike 197 = .ok (.iload 5, 2) := dk_21 5 (dk_at dksX11_unlike_8 10 rfl rfl)
theorem dX11_unlike_199 : decode cX11_unlike 199 = .ok (.ireturn, 1) := dk_172 (dk_at dksX11_unlike_8 12 rfl rfl)
theorem dX11_unlike_200 : decode cX11_unlike 200 = .ok (.iinc 5 1, 3) := dk_132 5 1 (dk_at dksX11_unlike_8 13 rfl rfl)
theorem dX11_unlike_203 : decode cX11_unlike 203 = .ok (.goto (-64), 3) := dk_167 255 192 (dk_at dksX11_unlike_8 16 rfl rfl)
theorem dX11_unlike_206 : decode cX11_unlike 206 = .ok (.iconst 0, 1) := dk_3 (dk_at dksX11_unlike_8 19 rfl rfl)
theorem dX11_unlike_207 : decode cX11_unlike 207 = .ok (.ireturn, 1) := dk_172 (dk_at dksX11_unlike_8 20 rfl rfl)
abbrev cX11_parts : ByteArray := prog_21_method_95_code
def yX11_parts : MethodName := ⟨RX11, "parts", "(IIII)Z"⟩
def dkwX11_parts_6 : List UInt8 := [167, 255, 117, 3, 172]
abbrev dktX11_parts_6 : List UInt8 := dkwX11_parts_6 ++ []
def dkwX11_parts_5 : List UInt8 := [182, 1, 70, 42, 4, 182, 1, 70, 21, 9, 153, 0, 5, 4, 172, 132, 6, 1, 167, 255, 132, 132, 5, 1]
abbrev dktX11_parts_5 : List UInt8 := dkwX11_parts_5 ++ dktX11_parts_6
def dkwX11_parts_4 : List UInt8 := [21, 5, 21, 6, 182, 1, 10, 42, 27, 28, 29, 21, 4, 4, 96, 182, 1, 130, 54, 9, 42, 3]
abbrev dktX11_parts_4 : List UInt8 := dkwX11_parts_4 ++ dktX11_parts_5
def dkwX11_parts_3 : List UInt8 := [21, 7, 153, 0, 59, 21, 8, 154, 0, 6, 167, 0, 51, 42, 3, 21, 5, 21, 6, 182, 1, 10, 42, 4]
abbrev dktX11_parts_3 : List UInt8 := dkwX11_parts_3 ++ dktX11_parts_4
def dkwX11_parts_2 : List UInt8 := [21, 5, 104, 21, 6, 96, 79, 21, 4, 29, 4, 100, 160, 0, 12, 21, 7, 21, 8, 159, 0, 66, 4, 172]
abbrev dktX11_parts_2 : List UInt8 := dkwX11_parts_2 ++ dktX11_parts_3
def dkwX11_parts_1 : List UInt8 := [182, 1, 127, 54, 7, 42, 4, 21, 5, 21, 6, 182, 1, 127, 54, 8, 42, 180, 0, 97, 21, 4, 16, 16]
abbrev dktX11_parts_1 : List UInt8 := dkwX11_parts_1 ++ dktX11_parts_2
def dkwX11_parts_0 : List UInt8 := [3, 54, 5, 21, 5, 27, 162, 0, 139, 3, 54, 6, 21, 6, 28, 162, 0, 124, 42, 3, 21, 5, 21, 6]
abbrev dktX11_parts_0 : List UInt8 := dkwX11_parts_0 ++ dktX11_parts_1
theorem dksX11_parts_0 : cX11_parts.data.toList.drop 0 = dktX11_parts_0 := by decide +kernel
theorem dksX11_parts_1 : cX11_parts.data.toList.drop 24 = dktX11_parts_1 := dk_seg dksX11_parts_0 24 rfl rfl
theorem dksX11_parts_2 : cX11_parts.data.toList.drop 48 = dktX11_parts_2 := dk_seg dksX11_parts_1 24 rfl rfl
theorem dksX11_parts_3 : cX11_parts.data.toList.drop 72 = dktX11_parts_3 := dk_seg dksX11_parts_2 24 rfl rfl
theorem dksX11_parts_4 : cX11_parts.data.toList.drop 96 = dktX11_parts_4 := dk_seg dksX11_parts_3 24 rfl rfl
theorem dksX11_parts_5 : cX11_parts.data.toList.drop 118 = dktX11_parts_5 := dk_seg dksX11_parts_4 22 rfl rfl
theorem dksX11_parts_6 : cX11_parts.data.toList.drop 142 = dktX11_parts_6 := dk_seg dksX11_parts_5 24 rfl rfl
theorem dX11_parts_0 : decode cX11_parts 0 = .ok (.iconst 0, 1) := dk_3 (dk_at dksX11_parts_0 0 rfl rfl)
theorem dX11_parts_1 : decode cX11_parts 1 = .ok (.istore 5, 2) := dk_54 5 (dk_at dksX11_parts_0 1 rfl rfl)
theorem dX11_parts_3 : decode cX11_parts 3 = .ok (.iload 5, 2) := dk_21 5 (dk_at dksX11_parts_0 3 rfl rfl)
theorem dX11_parts_5 : decode cX11_parts 5 = .ok (.iload_n 1, 1) := dk_27 (dk_at dksX11_parts_0 5 rfl rfl)
theorem dX11_parts_6 : decode cX11_parts 6 = .ok (.if_icmp .ge 139, 3) := dk_162 0 139 (dk_at dksX11_parts_0 6 rfl rfl)
theorem dX11_parts_9 : decode cX11_parts 9 = .ok (.iconst 0, 1) := dk_3 (dk_at dksX11_parts_0 9 rfl rfl)
theorem dX11_parts_10 : decode cX11_parts 10 = .ok (.istore 6, 2) := dk_54 6 (dk_at dksX11_parts_0 10 rfl rfl)
theorem dX11_parts_12 : decode cX11_parts 12 = .ok (.iload 6, 2) := dk_21 6 (dk_at dksX11_parts_0 12 rfl rfl)
theorem dX11_parts_14 : decode cX11_parts 14 = .ok (.iload_n 2, 1) := dk_28 (dk_at dksX11_parts_0 14 rfl rfl)
theorem dX11_parts_15 : decode cX11_parts 15 = .ok (.if_icmp .ge 124, 3) := dk_162 0 124 (dk_at dksX11_parts_0 15 rfl rfl)
theorem dX11_parts_18 : decode cX11_parts 18 = .ok (.aload_n 0, 1) := dk_42 (dk_at dksX11_parts_0 18 rfl rfl)
theorem dX11_parts_19 : decode cX11_parts 19 = .ok (.iconst 0, 1) := dk_3 (dk_at dksX11_parts_0 19 rfl rfl)
theorem dX11_parts_20 : decode cX11_parts 20 = .ok (.iload 5, 2) := dk_21 5 (dk_at dksX11_parts_0 20 rfl rfl)
theorem dX11_parts_22 : decode cX11_parts 22 = .ok (.iload 6, 2) := dk_21 6 (dk_at dksX11_parts_0 22 rfl rfl)
theorem dX11_parts_24 : decode cX11_parts 24 = .ok (.invokevirtual 383, 3) := dk_182 1 127 (dk_at dksX11_parts_1 0 rfl rfl)
theorem dX11_parts_27 : decode cX11_parts 27 = .ok (.istore 7, 2) := dk_54 7 (dk_at dksX11_parts_1 3 rfl rfl)
theorem dX11_parts_29 : decode cX11_parts 29 = .ok (.aload_n 0, 1) := dk_42 (dk_at dksX11_parts_1 5 rfl rfl)
theorem dX11_parts_30 : decode cX11_parts 30 = .ok (.iconst 1, 1) := dk_4 (dk_at dksX11_parts_1 6 rfl rfl)
theorem dX11_parts_31 : decode cX11_parts 31 = .ok (.iload 5, 2) := dk_21 5 (dk_at dksX11_parts_1 7 rfl rfl)
theorem dX11_parts_33 : decode cX11_parts 33 = .ok (.iload 6, 2) := dk_21 6 (dk_at dksX11_parts_1 9 rfl rfl)
theorem dX11_parts_35 : decode cX11_parts 35 = .ok (.invokevirtual 383, 3) := dk_182 1 127 (dk_at dksX11_parts_1 11 rfl rfl)
theorem dX11_parts_38 : decode cX11_parts 38 = .ok (.istore 8, 2) := dk_54 8 (dk_at dksX11_parts_1 14 rfl rfl)
theorem dX11_parts_40 : decode cX11_parts 40 = .ok (.aload_n 0, 1) := dk_42 (dk_at dksX11_parts_1 16 rfl rfl)
theorem dX11_parts_41 : decode cX11_parts 41 = .ok (.getfield 97, 3) := dk_180 0 97 (dk_at dksX11_parts_1 17 rfl rfl)
theorem dX11_parts_44 : decode cX11_parts 44 = .ok (.iload 4, 2) := dk_21 4 (dk_at dksX11_parts_1 20 rfl rfl)
theorem dX11_parts_46 : decode cX11_parts 46 = .ok (.bipush 16, 2) := dk_16 16 (dk_at dksX11_parts_1 22 rfl rfl)
theorem dX11_parts_48 : decode cX11_parts 48 = .ok (.iload 5, 2) := dk_21 5 (dk_at dksX11_parts_2 0 rfl rfl)
theorem dX11_parts_50 : decode cX11_parts 50 = .ok (.imul, 1) := dk_104 (dk_at dksX11_parts_2 2 rfl rfl)
theorem dX11_parts_51 : decode cX11_parts 51 = .ok (.iload 6, 2) := dk_21 6 (dk_at dksX11_parts_2 3 rfl rfl)
theorem dX11_parts_53 : decode cX11_parts 53 = .ok (.iadd, 1) := dk_96 (dk_at dksX11_parts_2 5 rfl rfl)
theorem dX11_parts_54 : decode cX11_parts 54 = .ok (.iastore, 1) := dk_79 (dk_at dksX11_parts_2 6 rfl rfl)
theorem dX11_parts_55 : decode cX11_parts 55 = .ok (.iload 4, 2) := dk_21 4 (dk_at dksX11_parts_2 7 rfl rfl)
theorem dX11_parts_57 : decode cX11_parts 57 = .ok (.iload_n 3, 1) := dk_29 (dk_at dksX11_parts_2 9 rfl rfl)
theorem dX11_parts_58 : decode cX11_parts 58 = .ok (.iconst 1, 1) := dk_4 (dk_at dksX11_parts_2 10 rfl rfl)
theorem dX11_parts_59 : decode cX11_parts 59 = .ok (.isub, 1) := dk_100 (dk_at dksX11_parts_2 11 rfl rfl)
theorem dX11_parts_60 : decode cX11_parts 60 = .ok (.if_icmp .ne 12, 3) := dk_160 0 12 (dk_at dksX11_parts_2 12 rfl rfl)
theorem dX11_parts_63 : decode cX11_parts 63 = .ok (.iload 7, 2) := dk_21 7 (dk_at dksX11_parts_2 15 rfl rfl)
theorem dX11_parts_65 : decode cX11_parts 65 = .ok (.iload 8, 2) := dk_21 8 (dk_at dksX11_parts_2 17 rfl rfl)
theorem dX11_parts_67 : decode cX11_parts 67 = .ok (.if_icmp .eq 66, 3) := dk_159 0 66 (dk_at dksX11_parts_2 19 rfl rfl)
theorem dX11_parts_70 : decode cX11_parts 70 = .ok (.iconst 1, 1) := dk_4 (dk_at dksX11_parts_2 22 rfl rfl)
theorem dX11_parts_71 : decode cX11_parts 71 = .ok (.ireturn, 1) := dk_172 (dk_at dksX11_parts_2 23 rfl rfl)
theorem dX11_parts_72 : decode cX11_parts 72 = .ok (.iload 7, 2) := dk_21 7 (dk_at dksX11_parts_3 0 rfl rfl)
theorem dX11_parts_74 : decode cX11_parts 74 = .ok (.ifCond .eq 59, 3) := dk_153 0 59 (dk_at dksX11_parts_3 2 rfl rfl)
theorem dX11_parts_77 : decode cX11_parts 77 = .ok (.iload 8, 2) := dk_21 8 (dk_at dksX11_parts_3 5 rfl rfl)
theorem dX11_parts_79 : decode cX11_parts 79 = .ok (.ifCond .ne 6, 3) := dk_154 0 6 (dk_at dksX11_parts_3 7 rfl rfl)
theorem dX11_parts_82 : decode cX11_parts 82 = .ok (.goto 51, 3) := dk_167 0 51 (dk_at dksX11_parts_3 10 rfl rfl)
theorem dX11_parts_85 : decode cX11_parts 85 = .ok (.aload_n 0, 1) := dk_42 (dk_at dksX11_parts_3 13 rfl rfl)
theorem dX11_parts_86 : decode cX11_parts 86 = .ok (.iconst 0, 1) := dk_3 (dk_at dksX11_parts_3 14 rfl rfl)
theorem dX11_parts_87 : decode cX11_parts 87 = .ok (.iload 5, 2) := dk_21 5 (dk_at dksX11_parts_3 15 rfl rfl)
theorem dX11_parts_89 : decode cX11_parts 89 = .ok (.iload 6, 2) := dk_21 6 (dk_at dksX11_parts_3 17 rfl rfl)
theorem dX11_parts_91 : decode cX11_parts 91 = .ok (.invokevirtual 266, 3) := dk_182 1 10 (dk_at dksX11_parts_3 19 rfl rfl)
theorem dX11_parts_94 : decode cX11_parts 94 = .ok (.aload_n 0, 1) := dk_42 (dk_at dksX11_parts_3 22 rfl rfl)
theorem dX11_parts_95 : decode cX11_parts 95 = .ok (.iconst 1, 1) := dk_4 (dk_at dksX11_parts_3 23 rfl rfl)
theorem dX11_parts_96 : decode cX11_parts 96 = .ok (.iload 5, 2) := dk_21 5 (dk_at dksX11_parts_4 0 rfl rfl)
theorem dX11_parts_98 : decode cX11_parts 98 = .ok (.iload 6, 2) := dk_21 6 (dk_at dksX11_parts_4 2 rfl rfl)
theorem dX11_parts_100 : decode cX11_parts 100 = .ok (.invokevirtual 266, 3) := dk_182 1 10 (dk_at dksX11_parts_4 4 rfl rfl)
theorem dX11_parts_103 : decode cX11_parts 103 = .ok (.aload_n 0, 1) := dk_42 (dk_at dksX11_parts_4 7 rfl rfl)
theorem dX11_parts_104 : decode cX11_parts 104 = .ok (.iload_n 1, 1) := dk_27 (dk_at dksX11_parts_4 8 rfl rfl)
theorem dX11_parts_105 : decode cX11_parts 105 = .ok (.iload_n 2, 1) := dk_28 (dk_at dksX11_parts_4 9 rfl rfl)
theorem dX11_parts_106 : decode cX11_parts 106 = .ok (.iload_n 3, 1) := dk_29 (dk_at dksX11_parts_4 10 rfl rfl)
theorem dX11_parts_107 : decode cX11_parts 107 = .ok (.iload 4, 2) := dk_21 4 (dk_at dksX11_parts_4 11 rfl rfl)
theorem dX11_parts_109 : decode cX11_parts 109 = .ok (.iconst 1, 1) := dk_4 (dk_at dksX11_parts_4 13 rfl rfl)
theorem dX11_parts_110 : decode cX11_parts 110 = .ok (.iadd, 1) := dk_96 (dk_at dksX11_parts_4 14 rfl rfl)
theorem dX11_parts_111 : decode cX11_parts 111 = .ok (.invokevirtual 386, 3) := dk_182 1 130 (dk_at dksX11_parts_4 15 rfl rfl)
theorem dX11_parts_114 : decode cX11_parts 114 = .ok (.istore 9, 2) := dk_54 9 (dk_at dksX11_parts_4 18 rfl rfl)
theorem dX11_parts_116 : decode cX11_parts 116 = .ok (.aload_n 0, 1) := dk_42 (dk_at dksX11_parts_4 20 rfl rfl)
theorem dX11_parts_117 : decode cX11_parts 117 = .ok (.iconst 0, 1) := dk_3 (dk_at dksX11_parts_4 21 rfl rfl)
theorem dX11_parts_118 : decode cX11_parts 118 = .ok (.invokevirtual 326, 3) := dk_182 1 70 (dk_at dksX11_parts_5 0 rfl rfl)
theorem dX11_parts_121 : decode cX11_parts 121 = .ok (.aload_n 0, 1) := dk_42 (dk_at dksX11_parts_5 3 rfl rfl)
theorem dX11_parts_122 : decode cX11_parts 122 = .ok (.iconst 1, 1) := dk_4 (dk_at dksX11_parts_5 4 rfl rfl)
theorem dX11_parts_123 : decode cX11_parts 123 = .ok (.invokevirtual 326, 3) := dk_182 1 70 (dk_at dksX11_parts_5 5 rfl rfl)
theorem dX11_parts_126 : decode cX11_parts 126 = .ok (.iload 9, 2) := dk_21 9 (dk_at dksX11_parts_5 8 rfl rfl)
theorem dX11_parts_128 : decode cX11_parts 128 = .ok (.ifCond .eq 5, 3) := dk_153 0 5 (dk_at dksX11_parts_5 10 rfl rfl)
theorem dX11_parts_131 : decode cX11_parts 131 = .ok (.iconst 1, 1) := dk_4 (dk_at dksX11_parts_5 13 rfl rfl)
theorem dX11_parts_132 : decode cX11_parts 132 = .ok (.ireturn, 1) := dk_172 (dk_at dksX11_parts_5 14 rfl rfl)
theorem dX11_parts_133 : decode cX11_parts 133 = .ok (.iinc 6 1, 3) := dk_132 6 1 (dk_at dksX11_parts_5 15 rfl rfl)
theorem dX11_parts_136 : decode cX11_parts 136 = .ok (.goto (-124), 3) := dk_167 255 132 (dk_at dksX11_parts_5 18 rfl rfl)
theorem dX11_parts_139 : decode cX11_parts 139 = .ok (.iinc 5 1, 3) := dk_132 5 1 (dk_at dksX11_parts_5 21 rfl rfl)
theorem dX11_parts_142 : decode cX11_parts 142 = .ok (.goto (-139), 3) := dk_167 255 117 (dk_at dksX11_parts_6 0 rfl rfl)
theorem dX11_parts_145 : decode cX11_parts 145 = .ok (.iconst 0, 1) := dk_3 (dk_at dksX11_parts_6 3 rfl rfl)
theorem dX11_parts_146 : decode cX11_parts 146 = .ok (.ireturn, 1) := dk_172 (dk_at dksX11_parts_6 4 rfl rfl)
abbrev cX11_mayBeSaid : ByteArray := prog_21_method_94_code
def yX11_mayBeSaid : MethodName := ⟨RX11, "mayBeSaid", "(III)Z"⟩
def dkwX11_mayBeSaid_1 : List UInt8 := [182, 1, 17, 154, 0, 7, 4, 167, 0, 4, 3, 172]
abbrev dktX11_mayBeSaid_1 : List UInt8 := dkwX11_mayBeSaid_1 ++ []
def dkwX11_mayBeSaid_0 : List UInt8 := [28, 42, 27, 3, 182, 0, 255, 162, 0, 27, 29, 42, 27, 4, 182, 0, 255, 162, 0, 17, 42, 27, 28, 29]
abbrev dktX11_mayBeSaid_0 : List UInt8 := dkwX11_mayBeSaid_0 ++ dktX11_mayBeSaid_1
theorem dksX11_mayBeSaid_0 : cX11_mayBeSaid.data.toList.drop 0 = dktX11_mayBeSaid_0 := by decide +kernel
theorem dksX11_mayBeSaid_1 : cX11_mayBeSaid.data.toList.drop 24 = dktX11_mayBeSaid_1 := dk_seg dksX11_mayBeSaid_0 24 rfl rfl
theorem dX11_mayBeSaid_0 : decode cX11_mayBeSaid 0 = .ok (.iload_n 2, 1) := dk_28 (dk_at dksX11_mayBeSaid_0 0 rfl rfl)
theorem dX11_mayBeSaid_1 : decode cX11_mayBeSaid 1 = .ok (.aload_n 0, 1) := dk_42 (dk_at dksX11_mayBeSaid_0 1 rfl rfl)
theorem dX11_mayBeSaid_2 : decode cX11_mayBeSaid 2 = .ok (.iload_n 1, 1) := dk_27 (dk_at dksX11_mayBeSaid_0 2 rfl rfl)
theorem dX11_mayBeSaid_3 : decode cX11_mayBeSaid 3 = .ok (.iconst 0, 1) := dk_3 (dk_at dksX11_mayBeSaid_0 3 rfl rfl)
theorem dX11_mayBeSaid_4 : decode cX11_mayBeSaid 4 = .ok (.invokevirtual 255, 3) := dk_182 0 255 (dk_at dksX11_mayBeSaid_0 4 rfl rfl)
theorem dX11_mayBeSaid_7 : decode cX11_mayBeSaid 7 = .ok (.if_icmp .ge 27, 3) := dk_162 0 27 (dk_at dksX11_mayBeSaid_0 7 rfl rfl)
theorem dX11_mayBeSaid_10 : decode cX11_mayBeSaid 10 = .ok (.iload_n 3, 1) := dk_29 (dk_at dksX11_mayBeSaid_0 10 rfl rfl)
theorem dX11_mayBeSaid_11 : decode cX11_mayBeSaid 11 = .ok (.aload_n 0, 1) := dk_42 (dk_at dksX11_mayBeSaid_0 11 rfl rfl)
theorem dX11_mayBeSaid_12 : decode cX11_mayBeSaid 12 = .ok (.iload_n 1, 1) := dk_27 (dk_at dksX11_mayBeSaid_0 12 rfl rfl)
theorem dX11_mayBeSaid_13 : decode cX11_mayBeSaid 13 = .ok (.iconst 1, 1) := dk_4 (dk_at dksX11_mayBeSaid_0 13 rfl rfl)
theorem dX11_mayBeSaid_14 : decode cX11_mayBeSaid 14 = .ok (.invokevirtual 255, 3) := dk_182 0 255 (dk_at dksX11_mayBeSaid_0 14 rfl rfl)
theorem dX11_mayBeSaid_17 : decode cX11_mayBeSaid 17 = .ok (.if_icmp .ge 17, 3) := dk_162 0 17 (dk_at dksX11_mayBeSaid_0 17 rfl rfl)
theorem dX11_mayBeSaid_20 : decode cX11_mayBeSaid 20 = .ok (.aload_n 0, 1) := dk_42 (dk_at dksX11_mayBeSaid_0 20 rfl rfl)
theorem dX11_mayBeSaid_21 : decode cX11_mayBeSaid 21 = .ok (.iload_n 1, 1) := dk_27 (dk_at dksX11_mayBeSaid_0 21 rfl rfl)
theorem dX11_mayBeSaid_22 : decode cX11_mayBeSaid 22 = .ok (.iload_n 2, 1) := dk_28 (dk_at dksX11_mayBeSaid_0 22 rfl rfl)
theorem dX11_mayBeSaid_23 : decode cX11_mayBeSaid 23 = .ok (.iload_n 3, 1) := dk_29 (dk_at dksX11_mayBeSaid_0 23 rfl rfl)
theorem dX11_mayBeSaid_24 : decode cX11_mayBeSaid 24 = .ok (.invokevirtual 273, 3) := dk_182 1 17 (dk_at dksX11_mayBeSaid_1 0 rfl rfl)
theorem dX11_mayBeSaid_27 : decode cX11_mayBeSaid 27 = .ok (.ifCond .ne 7, 3) := dk_154 0 7 (dk_at dksX11_mayBeSaid_1 3 rfl rfl)
theorem dX11_mayBeSaid_30 : decode cX11_mayBeSaid 30 = .ok (.iconst 1, 1) := dk_4 (dk_at dksX11_mayBeSaid_1 6 rfl rfl)
theorem dX11_mayBeSaid_31 : decode cX11_mayBeSaid 31 = .ok (.goto 4, 3) := dk_167 0 4 (dk_at dksX11_mayBeSaid_1 7 rfl rfl)
theorem dX11_mayBeSaid_34 : decode cX11_mayBeSaid 34 = .ok (.iconst 0, 1) := dk_3 (dk_at dksX11_mayBeSaid_1 10 rfl rfl)
theorem dX11_mayBeSaid_35 : decode cX11_mayBeSaid 35 = .ok (.ireturn, 1) := dk_172 (dk_at dksX11_mayBeSaid_1 11 rfl rfl)
abbrev cX11_sentence : ByteArray := prog_21_method_105_code
def yX11_sentence : MethodName := ⟨RX11, "sentence", "()I"⟩
def dkwX11_sentence_4 : List UInt8 := [27, 96, 42, 180, 0, 103, 27, 46, 79, 132, 1, 1, 167, 255, 230, 42, 180, 1, 149, 172]
abbrev dktX11_sentence_4 : List UInt8 := dkwX11_sentence_4 ++ []
def dkwX11_sentence_3 : List UInt8 := [17, 3, 143, 42, 180, 1, 140, 79, 3, 60, 27, 17, 0, 240, 162, 0, 25, 42, 180, 0, 13, 17, 3, 144]
abbrev dktX11_sentence_3 : List UInt8 := dkwX11_sentence_3 ++ dktX11_sentence_4
def dkwX11_sentence_2 : List UInt8 := [182, 0, 174, 87, 2, 42, 180, 0, 171, 100, 172, 42, 180, 0, 13, 17, 3, 142, 4, 79, 42, 180, 0, 13]
abbrev dktX11_sentence_2 : List UInt8 := dkwX11_sentence_2 ++ dktX11_sentence_3
def dkwX11_sentence_1 : List UInt8 := [182, 1, 167, 154, 0, 10, 2, 42, 180, 0, 171, 100, 172, 42, 180, 0, 128, 153, 0, 16, 42, 4]
abbrev dktX11_sentence_1 : List UInt8 := dkwX11_sentence_1 ++ dktX11_sentence_2
def dkwX11_sentence_0 : List UInt8 := [42, 17, 0, 200, 182, 0, 236, 42, 3, 181, 1, 134, 42, 3, 181, 1, 149, 42, 3, 181, 1, 152, 42]
abbrev dktX11_sentence_0 : List UInt8 := dkwX11_sentence_0 ++ dktX11_sentence_1
theorem dksX11_sentence_0 : cX11_sentence.data.toList.drop 0 = dktX11_sentence_0 := by decide +kernel
theorem dksX11_sentence_1 : cX11_sentence.data.toList.drop 23 = dktX11_sentence_1 := dk_seg dksX11_sentence_0 23 rfl rfl
theorem dksX11_sentence_2 : cX11_sentence.data.toList.drop 45 = dktX11_sentence_2 := dk_seg dksX11_sentence_1 22 rfl rfl
theorem dksX11_sentence_3 : cX11_sentence.data.toList.drop 69 = dktX11_sentence_3 := dk_seg dksX11_sentence_2 24 rfl rfl
theorem dksX11_sentence_4 : cX11_sentence.data.toList.drop 93 = dktX11_sentence_4 := dk_seg dksX11_sentence_3 24 rfl rfl
theorem dX11_sentence_0 : decode cX11_sentence 0 = .ok (.aload_n 0, 1) := dk_42 (dk_at dksX11_sentence_0 0 rfl rfl)
theorem dX11_sentence_1 : decode cX11_sentence 1 = .ok (.sipush 200, 3) := dk_17 0 200 (dk_at dksX11_sentence_0 1 rfl rfl)
theorem dX11_sentence_4 : decode cX11_sentence 4 = .ok (.invokevirtual 236, 3) := dk_182 0 236 (dk_at dksX11_sentence_0 4 rfl rfl)
theorem dX11_sentence_7 : decode cX11_sentence 7 = .ok (.aload_n 0, 1) := dk_42 (dk_at dksX11_sentence_0 7 rfl rfl)
theorem dX11_sentence_8 : decode cX11_sentence 8 = .ok (.iconst 0, 1) := dk_3 (dk_at dksX11_sentence_0 8 rfl rfl)
theorem dX11_sentence_9 : decode cX11_sentence 9 = .ok (.putfield 390, 3) := dk_181 1 134 (dk_at dksX11_sentence_0 9 rfl rfl)
theorem dX11_sentence_12 : decode cX11_sentence 12 = .ok (.aload_n 0, 1) := dk_42 (dk_at dksX11_sentence_0 12 rfl rfl)
theorem dX11_sentence_13 : decode cX11_sentence 13 = .ok (.iconst 0, 1) := dk_3 (dk_at dksX11_sentence_0 13 rfl rfl)
theorem dX11_sentence_14 : decode cX11_sentence 14 = .ok (.putfield 405, 3) := dk_181 1 149 (dk_at dksX11_sentence_0 14 rfl rfl)
theorem dX11_sentence_17 : decode cX11_sentence 17 = .ok (.aload_n 0, 1) := dk_42 (dk_at dksX11_sentence_0 17 rfl rfl)
theorem dX11_sentence_18 : decode cX11_sentence 18 = .ok (.iconst 0, 1) := dk_3 (dk_at dksX11_sentence_0 18 rfl rfl)
theorem dX11_sentence_19 : decode cX11_sentence 19 = .ok (.putfield 408, 3) := dk_181 1 152 (dk_at dksX11_sentence_0 19 rfl rfl)
theorem dX11_sentence_22 : decode cX11_sentence 22 = .ok (.aload_n 0, 1) := dk_42 (dk_at dksX11_sentence_0 22 rfl rfl)
theorem dX11_sentence_23 : decode cX11_sentence 23 = .ok (.invokevirtual 423, 3) := dk_182 1 167 (dk_at dksX11_sentence_1 0 rfl rfl)
theorem dX11_sentence_26 : decode cX11_sentence 26 = .ok (.ifCond .ne 10, 3) := dk_154 0 10 (dk_at dksX11_sentence_1 3 rfl rfl)
theorem dX11_sentence_29 : decode cX11_sentence 29 = .ok (.iconst (-1), 1) := dk_2 (dk_at dksX11_sentence_1 6 rfl rfl)
theorem dX11_sentence_30 : decode cX11_sentence 30 = .ok (.aload_n 0, 1) := dk_42 (dk_at dksX11_sentence_1 7 rfl rfl)
theorem dX11_sentence_31 : decode cX11_sentence 31 = .ok (.getfield 171, 3) := dk_180 0 171 (dk_at dksX11_sentence_1 8 rfl rfl)
theorem dX11_sentence_34 : decode cX11_sentence 34 = .ok (.isub, 1) := dk_100 (dk_at dksX11_sentence_1 11 rfl rfl)
theorem dX11_sentence_35 : decode cX11_sentence 35 = .ok (.ireturn, 1) := dk_172 (dk_at dksX11_sentence_1 12 rfl rfl)
theorem dX11_sentence_36 : decode cX11_sentence 36 = .ok (.aload_n 0, 1) := dk_42 (dk_at dksX11_sentence_1 13 rfl rfl)
theorem dX11_sentence_37 : decode cX11_sentence 37 = .ok (.getfield 128, 3) := dk_180 0 128 (dk_at dksX11_sentence_1 14 rfl rfl)
theorem dX11_sentence_40 : decode cX11_sentence 40 = .ok (.ifCond .eq 16, 3) := dk_153 0 16 (dk_at dksX11_sentence_1 17 rfl rfl)
theorem dX11_sentence_43 : decode cX11_sentence 43 = .ok (.aload_n 0, 1) := dk_42 (dk_at dksX11_sentence_1 20 rfl rfl)
theorem dX11_sentence_44 : decode cX11_sentence 44 = .ok (.iconst 1, 1) := dk_4 (dk_at dksX11_sentence_1 21 rfl rfl)
theorem dX11_sentence_45 : decode cX11_sentence 45 = .ok (.invokevirtual 174, 3) := dk_182 0 174 (dk_at dksX11_sentence_2 0 rfl rfl)
theorem dX11_sentence_48 : decode cX11_sentence 48 = .ok (.pop, 1) := dk_87 (dk_at dksX11_sentence_2 3 rfl rfl)
theorem dX11_sentence_49 : decode cX11_sentence 49 = .ok (.iconst (-1), 1) := dk_2 (dk_at dksX11_sentence_2 4 rfl rfl)
theorem dX11_sentence_50 : decode cX11_sentence 50 = .ok (.aload_n 0, 1) := dk_42 (dk_at dksX11_sentence_2 5 rfl rfl)
theorem dX11_sentence_51 : decode cX11_sentence 51 = .ok (.getfield 171, 3) := dk_180 0 171 (dk_at dksX11_sentence_2 6 rfl rfl)
theorem dX11_sentence_54 : decode cX11_sentence 54 = .ok (.isub, 1) := dk_100 (dk_at dksX11_sentence_2 9 rfl rfl)
theorem dX11_sentence_55 : decode cX11_sentence 55 = .ok (.ireturn, 1) := dk_172 (dk_at dksX11_sentence_2 10 rfl rfl)
theorem dX11_sentence_56 : decode cX11_sentence 56 = .ok (.aload_n 0, 1) := dk_42 (dk_at dksX11_sentence_2 11 rfl rfl)
theorem dX11_sentence_57 : decode cX11_sentence 57 = .ok (.getfield 13, 3) := dk_180 0 13 (dk_at dksX11_sentence_2 12 rfl rfl)
theorem dX11_sentence_60 : decode cX11_sentence 60 = .ok (.sipush 910, 3) := dk_17 3 142 (dk_at dksX11_sentence_2 15 rfl rfl)
theorem dX11_sentence_63 : decode cX11_sentence 63 = .ok (.iconst 1, 1) := dk_4 (dk_at dksX11_sentence_2 18 rfl rfl)
theorem dX11_sentence_64 : decode cX11_sentence 64 = .ok (.iastore, 1) := dk_79 (dk_at dksX11_sentence_2 19 rfl rfl)
theorem dX11_sentence_65 : decode cX11_sentence 65 = .ok (.aload_n 0, 1) := dk_42 (dk_at dksX11_sentence_2 20 rfl rfl)
theorem dX11_sentence_66 : decode cX11_sentence 66 = .ok (.getfield 13, 3) := dk_180 0 13 (dk_at dksX11_sentence_2 21 rfl rfl)
theorem dX11_sentence_69 : decode cX11_sentence 69 = .ok (.sipush 911, 3) := dk_17 3 143 (dk_at dksX11_sentence_3 0 rfl rfl)
theorem dX11_sentence_72 : decode cX11_sentence 72 = .ok (.aload_n 0, 1) := dk_42 (dk_at dksX11_sentence_3 3 rfl rfl)
theorem dX11_sentence_73 : decode cX11_sentence 73 = .ok (.getfield 396, 3) := dk_180 1 140 (dk_at dksX11_sentence_3 4 rfl rfl)
theorem dX11_sentence_76 : decode cX11_sentence 76 = .ok (.iastore, 1) := dk_79 (dk_at dksX11_sentence_3 7 rfl rfl)
theorem dX11_sentence_77 : decode cX11_sentence 77 = .ok (.iconst 0, 1) := dk_3 (dk_at dksX11_sentence_3 8 rfl rfl)
theorem dX11_sentence_78 : decode cX11_sentence 78 = .ok (.istore_n 1, 1) := dk_60 (dk_at dksX11_sentence_3 9 rfl rfl)
theorem dX11_sentence_79 : decode cX11_sentence 79 = .ok (.iload_n 1, 1) := dk_27 (dk_at dksX11_sentence_3 10 rfl rfl)
theorem dX11_sentence_80 : decode cX11_sentence 80 = .ok (.sipush 240, 3) := dk_17 0 240 (dk_at dksX11_sentence_3 11 rfl rfl)
theorem dX11_sentence_83 : decode cX11_sentence 83 = .ok (.if_icmp .ge 25, 3) := dk_162 0 25 (dk_at dksX11_sentence_3 14 rfl rfl)
theorem dX11_sentence_86 : decode cX11_sentence 86 = .ok (.aload_n 0, 1) := dk_42 (dk_at dksX11_sentence_3 17 rfl rfl)
theorem dX11_sentence_87 : decode cX11_sentence 87 = .ok (.getfield 13, 3) := dk_180 0 13 (dk_at dksX11_sentence_3 18 rfl rfl)
theorem dX11_sentence_90 : decode cX11_sentence 90 = .ok (.sipush 912, 3) := dk_17 3 144 (dk_at dksX11_sentence_3 21 rfl rfl)
theorem dX11_sentence_93 : decode cX11_sentence 93 = .ok (.iload_n 1, 1) := dk_27 (dk_at dksX11_sentence_4 0 rfl rfl)
theorem dX11_sentence_94 : decode cX11_sentence 94 = .ok (.iadd, 1) := dk_96 (dk_at dksX11_sentence_4 1 rfl rfl)
theorem dX11_sentence_95 : decode cX11_sentence 95 = .ok (.aload_n 0, 1) := dk_42 (dk_at dksX11_sentence_4 2 rfl rfl)
theorem dX11_sentence_96 : decode cX11_sentence 96 = .ok (.getfield 103, 3) := dk_180 0 103 (dk_at dksX11_sentence_4 3 rfl rfl)
theorem dX11_sentence_99 : decode cX11_sentence 99 = .ok (.iload_n 1, 1) := dk_27 (dk_at dksX11_sentence_4 6 rfl rfl)
theorem dX11_sentence_100 : decode cX11_sentence 100 = .ok (.iaload, 1) := dk_46 (dk_at dksX11_sentence_4 7 rfl rfl)
theorem dX11_sentence_101 : decode cX11_sentence 101 = .ok (.iastore, 1) := dk_79 (dk_at dksX11_sentence_4 8 rfl rfl)
theorem dX11_sentence_102 : decode cX11_sentence 102 = .ok (.iinc 1 1, 3) := dk_132 1 1 (dk_at dksX11_sentence_4 9 rfl rfl)
theorem dX11_sentence_105 : decode cX11_sentence 105 = .ok (.goto (-26), 3) := dk_167 255 230 (dk_at dksX11_sentence_4 12 rfl rfl)
theorem dX11_sentence_108 : decode cX11_sentence 108 = .ok (.aload_n 0, 1) := dk_42 (dk_at dksX11_sentence_4 15 rfl rfl)
theorem dX11_sentence_109 : decode cX11_sentence 109 = .ok (.getfield 405, 3) := dk_180 1 149 (dk_at dksX11_sentence_4 16 rfl rfl)
theorem dX11_sentence_112 : decode cX11_sentence 112 = .ok (.ireturn, 1) := dk_172 (dk_at dksX11_sentence_4 19 rfl rfl)
abbrev cX11_readOr : ByteArray := prog_21_method_98_code
def yX11_readOr : MethodName := ⟨RX11, "readOr", "()Z"⟩
def dkwX11_readOr_2 : List UInt8 := [167, 255, 222, 42, 27, 181, 1, 140, 4, 172]
abbrev dktX11_readOr_2 : List UInt8 := dkwX11_readOr_2 ++ []
def dkwX11_readOr_1 : List UInt8 := [182, 0, 184, 42, 182, 1, 137, 154, 0, 5, 3, 172, 42, 6, 27, 42, 180, 1, 140, 3, 182, 1, 143, 60]
abbrev dktX11_readOr_1 : List UInt8 := dkwX11_readOr_1 ++ dktX11_readOr_2
def dkwX11_readOr_0 : List UInt8 := [42, 182, 1, 137, 154, 0, 5, 3, 172, 42, 180, 1, 140, 60, 42, 16, 15, 182, 0, 209, 153, 0, 31, 42]
abbrev dktX11_readOr_0 : List UInt8 := dkwX11_readOr_0 ++ dktX11_readOr_1
theorem dksX11_readOr_0 : cX11_readOr.data.toList.drop 0 = dktX11_readOr_0 := by decide +kernel
theorem dksX11_readOr_1 : cX11_readOr.data.toList.drop 24 = dktX11_readOr_1 := dk_seg dksX11_readOr_0 24 rfl rfl
theorem dksX11_readOr_2 : cX11_readOr.data.toList.drop 48 = dktX11_readOr_2 := dk_seg dksX11_readOr_1 24 rfl rfl
theorem dX11_readOr_0 : decode cX11_readOr 0 = .ok (.aload_n 0, 1) := dk_42 (dk_at dksX11_readOr_0 0 rfl rfl)
theorem dX11_readOr_1 : decode cX11_readOr 1 = .ok (.invokevirtual 393, 3) := dk_182 1 137 (dk_at dksX11_readOr_0 1 rfl rfl)
theorem dX11_readOr_4 : decode cX11_readOr 4 = .ok (.ifCond .ne 5, 3) := dk_154 0 5 (dk_at dksX11_readOr_0 4 rfl rfl)
theorem dX11_readOr_7 : decode cX11_readOr 7 = .ok (.iconst 0, 1) := dk_3 (dk_at dksX11_readOr_0 7 rfl rfl)
theorem dX11_readOr_8 : decode cX11_readOr 8 = .ok (.ireturn, 1) := dk_172 (dk_at dksX11_readOr_0 8 rfl rfl)
theorem dX11_readOr_9 : decode cX11_readOr 9 = .ok (.aload_n 0, 1) := dk_42 (dk_at dksX11_readOr_0 9 rfl rfl)
theorem dX11_readOr_10 : decode cX11_readOr 10 = .ok (.getfield 396, 3) := dk_180 1 140 (dk_at dksX11_readOr_0 10 rfl rfl)
theorem dX11_readOr_13 : decode cX11_readOr 13 = .ok (.istore_n 1, 1) := dk_60 (dk_at dksX11_readOr_0 13 rfl rfl)
theorem dX11_readOr_14 : decode cX11_readOr 14 = .ok (.aload_n 0, 1) := dk_42 (dk_at dksX11_readOr_0 14 rfl rfl)
theorem dX11_readOr_15 : decode cX11_readOr 15 = .ok (.bipush 15, 2) := dk_16 15 (dk_at dksX11_readOr_0 15 rfl rfl)
theorem dX11_readOr_17 : decode cX11_readOr 17 = .ok (.invokevirtual 209, 3) := dk_182 0 209 (dk_at dksX11_readOr_0 17 rfl rfl)
theorem dX11_readOr_20 : decode cX11_readOr 20 = .ok (.ifCond .eq 31, 3) := dk_153 0 31 (dk_at dksX11_readOr_0 20 rfl rfl)
theorem dX11_readOr_23 : decode cX11_readOr 23 = .ok (.aload_n 0, 1) := dk_42 (dk_at dksX11_readOr_0 23 rfl rfl)
theorem dX11_readOr_24 : decode cX11_readOr 24 = .ok (.invokevirtual 184, 3) := dk_182 0 184 (dk_at dksX11_readOr_1 0 rfl rfl)
theorem dX11_readOr_27 : decode cX11_readOr 27 = .ok (.aload_n 0, 1) := dk_42 (dk_at dksX11_readOr_1 3 rfl rfl)
theorem dX11_readOr_28 : decode cX11_readOr 28 = .ok (.invokevirtual 393, 3) := dk_182 1 137 (dk_at dksX11_readOr_1 4 rfl rfl)
theorem dX11_readOr_31 : decode cX11_readOr 31 = .ok (.ifCond .ne 5, 3) := dk_154 0 5 (dk_at dksX11_readOr_1 7 rfl rfl)
theorem dX11_readOr_34 : decode cX11_readOr 34 = .ok (.iconst 0, 1) := dk_3 (dk_at dksX11_readOr_1 10 rfl rfl)
theorem dX11_readOr_35 : decode cX11_readOr 35 = .ok (.ireturn, 1) := dk_172 (dk_at dksX11_readOr_1 11 rfl rfl)
theorem dX11_readOr_36 : decode cX11_readOr 36 = .ok (.aload_n 0, 1) := dk_42 (dk_at dksX11_readOr_1 12 rfl rfl)
theorem dX11_readOr_37 : decode cX11_readOr 37 = .ok (.iconst 3, 1) := dk_6 (dk_at dksX11_readOr_1 13 rfl rfl)
theorem dX11_readOr_38 : decode cX11_readOr 38 = .ok (.iload_n 1, 1) := dk_27 (dk_at dksX11_readOr_1 14 rfl rfl)
theorem dX11_readOr_39 : decode cX11_readOr 39 = .ok (.aload_n 0, 1) := dk_42 (dk_at dksX11_readOr_1 15 rfl rfl)
theorem dX11_readOr_40 : decode cX11_readOr 40 = .ok (.getfield 396, 3) := dk_180 1 140 (dk_at dksX11_readOr_1 16 rfl rfl)
theorem dX11_readOr_43 : decode cX11_readOr 43 = .ok (.iconst 0, 1) := dk_3 (dk_at dksX11_readOr_1 19 rfl rfl)
theorem dX11_readOr_44 : decode cX11_readOr 44 = .ok (.invokevirtual 399, 3) := dk_182 1 143 (dk_at dksX11_readOr_1 20 rfl rfl)
theorem dX11_readOr_47 : decode cX11_readOr 47 = .ok (.istore_n 1, 1) := dk_60 (dk_at dksX11_readOr_1 23 rfl rfl)
theorem dX11_readOr_48 : decode cX11_readOr 48 = .ok (.goto (-34), 3) := dk_167 255 222 (dk_at dksX11_readOr_2 0 rfl rfl)
theorem dX11_readOr_51 : decode cX11_readOr 51 = .ok (.aload_n 0, 1) := dk_42 (dk_at dksX11_readOr_2 3 rfl rfl)
theorem dX11_readOr_52 : decode cX11_readOr 52 = .ok (.iload_n 1, 1) := dk_27 (dk_at dksX11_readOr_2 4 rfl rfl)
theorem dX11_readOr_53 : decode cX11_readOr 53 = .ok (.putfield 396, 3) := dk_181 1 140 (dk_at dksX11_readOr_2 5 rfl rfl)
theorem dX11_readOr_56 : decode cX11_readOr 56 = .ok (.iconst 1, 1) := dk_4 (dk_at dksX11_readOr_2 8 rfl rfl)
theorem dX11_readOr_57 : decode cX11_readOr 57 = .ok (.ireturn, 1) := dk_172 (dk_at dksX11_readOr_2 9 rfl rfl)
abbrev cX11_readAnd : ByteArray := prog_21_method_99_code
def yX11_readAnd : MethodName := ⟨RX11, "readAnd", "()Z"⟩
def dkwX11_readAnd_2 : List UInt8 := [167, 255, 222, 42, 27, 181, 1, 140, 4, 172]
abbrev dktX11_readAnd_2 : List UInt8 := dkwX11_readAnd_2 ++ []
def dkwX11_readAnd_1 : List UInt8 := [182, 0, 184, 42, 182, 1, 146, 154, 0, 5, 3, 172, 42, 5, 27, 42, 180, 1, 140, 3, 182, 1, 143, 60]
abbrev dktX11_readAnd_1 : List UInt8 := dkwX11_readAnd_1 ++ dktX11_readAnd_2
def dkwX11_readAnd_0 : List UInt8 := [42, 182, 1, 146, 154, 0, 5, 3, 172, 42, 180, 1, 140, 60, 42, 16, 16, 182, 0, 209, 153, 0, 31, 42]
abbrev dktX11_readAnd_0 : List UInt8 := dkwX11_readAnd_0 ++ dktX11_readAnd_1
theorem dksX11_readAnd_0 : cX11_readAnd.data.toList.drop 0 = dktX11_readAnd_0 := by decide +kernel
theorem dksX11_readAnd_1 : cX11_readAnd.data.toList.drop 24 = dktX11_readAnd_1 := dk_seg dksX11_readAnd_0 24 rfl rfl
theorem dksX11_readAnd_2 : cX11_readAnd.data.toList.drop 48 = dktX11_readAnd_2 := dk_seg dksX11_readAnd_1 24 rfl rfl
theorem dX11_readAnd_0 : decode cX11_readAnd 0 = .ok (.aload_n 0, 1) := dk_42 (dk_at dksX11_readAnd_0 0 rfl rfl)
theorem dX11_readAnd_1 : decode cX11_readAnd 1 = .ok (.invokevirtual 402, 3) := dk_182 1 146 (dk_at dksX11_readAnd_0 1 rfl rfl)
theorem dX11_readAnd_4 : decode cX11_readAnd 4 = .ok (.ifCond .ne 5, 3) := dk_154 0 5 (dk_at dksX11_readAnd_0 4 rfl rfl)
theorem dX11_readAnd_7 : decode cX11_readAnd 7 = .ok (.iconst 0, 1) := dk_3 (dk_at dksX11_readAnd_0 7 rfl rfl)
theorem dX11_readAnd_8 : decode cX11_readAnd 8 = .ok (.ireturn, 1) := dk_172 (dk_at dksX11_readAnd_0 8 rfl rfl)
theorem dX11_readAnd_9 : decode cX11_readAnd 9 = .ok (.aload_n 0, 1) := dk_42 (dk_at dksX11_readAnd_0 9 rfl rfl)
theorem dX11_readAnd_10 : decode cX11_readAnd 10 = .ok (.getfield 396, 3) := dk_180 1 140 (dk_at dksX11_readAnd_0 10 rfl rfl)
theorem dX11_readAnd_13 : decode cX11_readAnd 13 = .ok (.istore_n 1, 1) := dk_60 (dk_at dksX11_readAnd_0 13 rfl rfl)
theorem dX11_readAnd_14 : decode cX11_readAnd 14 = .ok (.aload_n 0, 1) := dk_42 (dk_at dksX11_readAnd_0 14 rfl rfl)
theorem dX11_readAnd_15 : decode cX11_readAnd 15 = .ok (.bipush 16, 2) := dk_16 16 (dk_at dksX11_readAnd_0 15 rfl rfl)
theorem dX11_readAnd_17 : decode cX11_readAnd 17 = .ok (.invokevirtual 209, 3) := dk_182 0 209 (dk_at dksX11_readAnd_0 17 rfl rfl)
theorem dX11_readAnd_20 : decode cX11_readAnd 20 = .ok (.ifCond .eq 31, 3) := dk_153 0 31 (dk_at dksX11_readAnd_0 20 rfl rfl)
theorem dX11_readAnd_23 : decode cX11_readAnd 23 = .ok (.aload_n 0, 1) := dk_42 (dk_at dksX11_readAnd_0 23 rfl rfl)
theorem dX11_readAnd_24 : decode cX11_readAnd 24 = .ok (.invokevirtual 184, 3) := dk_182 0 184 (dk_at dksX11_readAnd_1 0 rfl rfl)
theorem dX11_readAnd_27 : decode cX11_readAnd 27 = .ok (.aload_n 0, 1) := dk_42 (dk_at dksX11_readAnd_1 3 rfl rfl)
theorem dX11_readAnd_28 : decode cX11_readAnd 28 = .ok (.invokevirtual 402, 3) := dk_182 1 146 (dk_at dksX11_readAnd_1 4 rfl rfl)
theorem dX11_readAnd_31 : decode cX11_readAnd 31 = .ok (.ifCond .ne 5, 3) := dk_154 0 5 (dk_at dksX11_readAnd_1 7 rfl rfl)
theorem dX11_readAnd_34 : decode cX11_readAnd 34 = .ok (.iconst 0, 1) := dk_3 (dk_at dksX11_readAnd_1 10 rfl rfl)
theorem dX11_readAnd_35 : decode cX11_readAnd 35 = .ok (.ireturn, 1) := dk_172 (dk_at dksX11_readAnd_1 11 rfl rfl)
theorem dX11_readAnd_36 : decode cX11_readAnd 36 = .ok (.aload_n 0, 1) := dk_42 (dk_at dksX11_readAnd_1 12 rfl rfl)
theorem dX11_readAnd_37 : decode cX11_readAnd 37 = .ok (.iconst 2, 1) := dk_5 (dk_at dksX11_readAnd_1 13 rfl rfl)
theorem dX11_readAnd_38 : decode cX11_readAnd 38 = .ok (.iload_n 1, 1) := dk_27 (dk_at dksX11_readAnd_1 14 rfl rfl)
theorem dX11_readAnd_39 : decode cX11_readAnd 39 = .ok (.aload_n 0, 1) := dk_42 (dk_at dksX11_readAnd_1 15 rfl rfl)
theorem dX11_readAnd_40 : decode cX11_readAnd 40 = .ok (.getfield 396, 3) := dk_180 1 140 (dk_at dksX11_readAnd_1 16 rfl rfl)
theorem dX11_readAnd_43 : decode cX11_readAnd 43 = .ok (.iconst 0, 1) := dk_3 (dk_at dksX11_readAnd_1 19 rfl rfl)
theorem dX11_readAnd_44 : decode cX11_readAnd 44 = .ok (.invokevirtual 399, 3) := dk_182 1 143 (dk_at dksX11_readAnd_1 20 rfl rfl)
theorem dX11_readAnd_47 : decode cX11_readAnd 47 = .ok (.istore_n 1, 1) := dk_60 (dk_at dksX11_readAnd_1 23 rfl rfl)
theorem dX11_readAnd_48 : decode cX11_readAnd 48 = .ok (.goto (-34), 3) := dk_167 255 222 (dk_at dksX11_readAnd_2 0 rfl rfl)
theorem dX11_readAnd_51 : decode cX11_readAnd 51 = .ok (.aload_n 0, 1) := dk_42 (dk_at dksX11_readAnd_2 3 rfl rfl)
theorem dX11_readAnd_52 : decode cX11_readAnd 52 = .ok (.iload_n 1, 1) := dk_27 (dk_at dksX11_readAnd_2 4 rfl rfl)
theorem dX11_readAnd_53 : decode cX11_readAnd 53 = .ok (.putfield 396, 3) := dk_181 1 140 (dk_at dksX11_readAnd_2 5 rfl rfl)
theorem dX11_readAnd_56 : decode cX11_readAnd 56 = .ok (.iconst 1, 1) := dk_4 (dk_at dksX11_readAnd_2 8 rfl rfl)
theorem dX11_readAnd_57 : decode cX11_readAnd 57 = .ok (.ireturn, 1) := dk_172 (dk_at dksX11_readAnd_2 9 rfl rfl)
abbrev cX11_readOne : ByteArray := prog_21_method_100_code
def yX11_readOne : MethodName := ⟨RX11, "readOne", "()Z"⟩
def dkwX11_readOne_6 : List UInt8 := [4, 100, 181, 1, 152, 29, 172]
abbrev dktX11_readOne_6 : List UInt8 := dkwX11_readOne_6 ++ []
def dkwX11_readOne_5 : List UInt8 := [16, 21, 162, 0, 11, 42, 28, 182, 1, 161, 167, 0, 8, 42, 28, 182, 1, 164, 62, 42, 89, 180, 1, 152]
abbrev dktX11_readOne_5 : List UInt8 := dkwX11_readOne_5 ++ dktX11_readOne_6
def dkwX11_readOne_4 : List UInt8 := [153, 0, 10, 42, 182, 1, 155, 167, 0, 35, 28, 16, 17, 160, 0, 10, 42, 182, 1, 158, 167, 0, 22, 28]
abbrev dktX11_readOne_4 : List UInt8 := dkwX11_readOne_4 ++ dktX11_readOne_5
def dkwX11_readOne_3 : List UInt8 := [89, 180, 1, 149, 4, 96, 181, 1, 149, 42, 89, 180, 1, 152, 4, 96, 181, 1, 152, 42, 182, 0, 184, 27]
abbrev dktX11_readOne_3 : List UInt8 := dkwX11_readOne_3 ++ dktX11_readOne_4
def dkwX11_readOne_2 : List UInt8 := [180, 1, 149, 16, 20, 159, 0, 12, 42, 180, 1, 152, 16, 8, 160, 0, 9, 42, 7, 182, 0, 174, 172, 42]
abbrev dktX11_readOne_2 : List UInt8 := dkwX11_readOne_2 ++ dktX11_readOne_3
def dkwX11_readOne_1 : List UInt8 := [132, 2, 1, 167, 255, 239, 27, 154, 0, 15, 28, 16, 24, 164, 0, 9, 42, 4, 182, 0, 174, 172, 42]
abbrev dktX11_readOne_1 : List UInt8 := dkwX11_readOne_1 ++ dktX11_readOne_2
def dkwX11_readOne_0 : List UInt8 := [42, 16, 40, 182, 0, 187, 60, 16, 17, 61, 28, 16, 24, 163, 0, 17, 42, 28, 182, 0, 209, 154, 0, 9]
abbrev dktX11_readOne_0 : List UInt8 := dkwX11_readOne_0 ++ dktX11_readOne_1
theorem dksX11_readOne_0 : cX11_readOne.data.toList.drop 0 = dktX11_readOne_0 := by decide +kernel
theorem dksX11_readOne_1 : cX11_readOne.data.toList.drop 24 = dktX11_readOne_1 := dk_seg dksX11_readOne_0 24 rfl rfl
theorem dksX11_readOne_2 : cX11_readOne.data.toList.drop 47 = dktX11_readOne_2 := dk_seg dksX11_readOne_1 23 rfl rfl
theorem dksX11_readOne_3 : cX11_readOne.data.toList.drop 71 = dktX11_readOne_3 := dk_seg dksX11_readOne_2 24 rfl rfl
theorem dksX11_readOne_4 : cX11_readOne.data.toList.drop 95 = dktX11_readOne_4 := dk_seg dksX11_readOne_3 24 rfl rfl
theorem dksX11_readOne_5 : cX11_readOne.data.toList.drop 119 = dktX11_readOne_5 := dk_seg dksX11_readOne_4 24 rfl rfl
theorem dksX11_readOne_6 : cX11_readOne.data.toList.drop 143 = dktX11_readOne_6 := dk_seg dksX11_readOne_5 24 rfl rfl
theorem dX11_readOne_0 : decode cX11_readOne 0 = .ok (.aload_n 0, 1) := dk_42 (dk_at dksX11_readOne_0 0 rfl rfl)
theorem dX11_readOne_1 : decode cX11_readOne 1 = .ok (.bipush 40, 2) := dk_16 40 (dk_at dksX11_readOne_0 1 rfl rfl)
theorem dX11_readOne_3 : decode cX11_readOne 3 = .ok (.invokevirtual 187, 3) := dk_182 0 187 (dk_at dksX11_readOne_0 3 rfl rfl)
theorem dX11_readOne_6 : decode cX11_readOne 6 = .ok (.istore_n 1, 1) := dk_60 (dk_at dksX11_readOne_0 6 rfl rfl)
theorem dX11_readOne_7 : decode cX11_readOne 7 = .ok (.bipush 17, 2) := dk_16 17 (dk_at dksX11_readOne_0 7 rfl rfl)
theorem dX11_readOne_9 : decode cX11_readOne 9 = .ok (.istore_n 2, 1) := dk_61 (dk_at dksX11_readOne_0 9 rfl rfl)
theorem dX11_readOne_10 : decode cX11_readOne 10 = .ok (.iload_n 2, 1) := dk_28 (dk_at dksX11_readOne_0 10 rfl rfl)
theorem dX11_readOne_11 : decode cX11_readOne 11 = .ok (.bipush 24, 2) := dk_16 24 (dk_at dksX11_readOne_0 11 rfl rfl)
theorem dX11_readOne_13 : decode cX11_readOne 13 = .ok (.if_icmp .gt 17, 3) := dk_163 0 17 (dk_at dksX11_readOne_0 13 rfl rfl)
theorem dX11_readOne_16 : decode cX11_readOne 16 = .ok (.aload_n 0, 1) := dk_42 (dk_at dksX11_readOne_0 16 rfl rfl)
theorem dX11_readOne_17 : decode cX11_readOne 17 = .ok (.iload_n 2, 1) := dk_28 (dk_at dksX11_readOne_0 17 rfl rfl)
theorem dX11_readOne_18 : decode cX11_readOne 18 = .ok (.invokevirtual 209, 3) := dk_182 0 209 (dk_at dksX11_readOne_0 18 rfl rfl)
theorem dX11_readOne_21 : decode cX11_readOne 21 = .ok (.ifCond .ne 9, 3) := dk_154 0 9 (dk_at dksX11_readOne_0 21 rfl rfl)
theorem dX11_readOne_24 : decode cX11_readOne 24 = .ok (.iinc 2 1, 3) := dk_132 2 1 (dk_at dksX11_readOne_1 0 rfl rfl)
theorem dX11_readOne_27 : decode cX11_readOne 27 = .ok (.goto (-17), 3) := dk_167 255 239 (dk_at dksX11_readOne_1 3 rfl rfl)
theorem dX11_readOne_30 : decode cX11_readOne 30 = .ok (.iload_n 1, 1) := dk_27 (dk_at dksX11_readOne_1 6 rfl rfl)
theorem dX11_readOne_31 : decode cX11_readOne 31 = .ok (.ifCond .ne 15, 3) := dk_154 0 15 (dk_at dksX11_readOne_1 7 rfl rfl)
theorem dX11_readOne_34 : decode cX11_readOne 34 = .ok (.iload_n 2, 1) := dk_28 (dk_at dksX11_readOne_1 10 rfl rfl)
theorem dX11_readOne_35 : decode cX11_readOne 35 = .ok (.bipush 24, 2) := dk_16 24 (dk_at dksX11_readOne_1 11 rfl rfl)
theorem dX11_readOne_37 : decode cX11_readOne 37 = .ok (.if_icmp .le 9, 3) := dk_164 0 9 (dk_at dksX11_readOne_1 13 rfl rfl)
theorem dX11_readOne_40 : decode cX11_readOne 40 = .ok (.aload_n 0, 1) := dk_42 (dk_at dksX11_readOne_1 16 rfl rfl)
theorem dX11_readOne_41 : decode cX11_readOne 41 = .ok (.iconst 1, 1) := dk_4 (dk_at dksX11_readOne_1 17 rfl rfl)
theorem dX11_readOne_42 : decode cX11_readOne 42 = .ok (.invokevirtual 174, 3) := dk_182 0 174 (dk_at dksX11_readOne_1 18 rfl rfl)
theorem dX11_readOne_45 : decode cX11_readOne 45 = .ok (.ireturn, 1) := dk_172 (dk_at dksX11_readOne_1 21 rfl rfl)
theorem dX11_readOne_46 : decode cX11_readOne 46 = .ok (.aload_n 0, 1) := dk_42 (dk_at dksX11_readOne_1 22 rfl rfl)
theorem dX11_readOne_47 : decode cX11_readOne 47 = .ok (.getfield 405, 3) := dk_180 1 149 (dk_at dksX11_readOne_2 0 rfl rfl)
theorem dX11_readOne_50 : decode cX11_readOne 50 = .ok (.bipush 20, 2) := dk_16 20 (dk_at dksX11_readOne_2 3 rfl rfl)
theorem dX11_readOne_52 : decode cX11_readOne 52 = .ok (.if_icmp .eq 12, 3) := dk_159 0 12 (dk_at dksX11_readOne_2 5 rfl rfl)
theorem dX11_readOne_55 : decode cX11_readOne 55 = .ok (.aload_n 0, 1) := dk_42 (dk_at dksX11_readOne_2 8 rfl rfl)
theorem dX11_readOne_56 : decode cX11_readOne 56 = .ok (.getfield 408, 3) := dk_180 1 152 (dk_at dksX11_readOne_2 9 rfl rfl)
theorem dX11_readOne_59 : decode cX11_readOne 59 = .ok (.bipush 8, 2) := dk_16 8 (dk_at dksX11_readOne_2 12 rfl rfl)
theorem dX11_readOne_61 : decode cX11_readOne 61 = .ok (.if_icmp .ne 9, 3) := dk_160 0 9 (dk_at dksX11_readOne_2 14 rfl rfl)
theorem dX11_readOne_64 : decode cX11_readOne 64 = .ok (.aload_n 0, 1) := dk_42 (dk_at dksX11_readOne_2 17 rfl rfl)
theorem dX11_readOne_65 : decode cX11_readOne 65 = .ok (.iconst 4, 1) := dk_7 (dk_at dksX11_readOne_2 18 rfl rfl)
theorem dX11_readOne_66 : decode cX11_readOne 66 = .ok (.invokevirtual 174, 3) := dk_182 0 174 (dk_at dksX11_readOne_2 19 rfl rfl)
theorem dX11_readOne_69 : decode cX11_readOne 69 = .ok (.ireturn, 1) := dk_172 (dk_at dksX11_readOne_2 22 rfl rfl)
theorem dX11_readOne_70 : decode cX11_readOne 70 = .ok (.aload_n 0, 1) := dk_42 (dk_at dksX11_readOne_2 23 rfl rfl)
theorem dX11_readOne_71 : decode cX11_readOne 71 = .ok (.dup, 1) := dk_89 (dk_at dksX11_readOne_3 0 rfl rfl)
theorem dX11_readOne_72 : decode cX11_readOne 72 = .ok (.getfield 405, 3) := dk_180 1 149 (dk_at dksX11_readOne_3 1 rfl rfl)
theorem dX11_readOne_75 : decode cX11_readOne 75 = .ok (.iconst 1, 1) := dk_4 (dk_at dksX11_readOne_3 4 rfl rfl)
theorem dX11_readOne_76 : decode cX11_readOne 76 = .ok (.iadd, 1) := dk_96 (dk_at dksX11_readOne_3 5 rfl rfl)
theorem dX11_readOne_77 : decode cX11_readOne 77 = .ok (.putfield 405, 3) := dk_181 1 149 (dk_at dksX11_readOne_3 6 rfl rfl)
theorem dX11_readOne_80 : decode cX11_readOne 80 = .ok (.aload_n 0, 1) := dk_42 (dk_at dksX11_readOne_3 9 rfl rfl)
theorem dX11_readOne_81 : decode cX11_readOne 81 = .ok (.dup, 1) := dk_89 (dk_at dksX11_readOne_3 10 rfl rfl)
theorem dX11_readOne_82 : decode cX11_readOne 82 = .ok (.getfield 408, 3) := dk_180 1 152 (dk_at dksX11_readOne_3 11 rfl rfl)
theorem dX11_readOne_85 : decode cX11_readOne 85 = .ok (.iconst 1, 1) := dk_4 (dk_at dksX11_readOne_3 14 rfl rfl)
theorem dX11_readOne_86 : decode cX11_readOne 86 = .ok (.iadd, 1) := dk_96 (dk_at dksX11_readOne_3 15 rfl rfl)
theorem dX11_readOne_87 : decode cX11_readOne 87 = .ok (.putfield 408, 3) := dk_181 1 152 (dk_at dksX11_readOne_3 16 rfl rfl)
theorem dX11_readOne_90 : decode cX11_readOne 90 = .ok (.aload_n 0, 1) := dk_42 (dk_at dksX11_readOne_3 19 rfl rfl)
theorem dX11_readOne_91 : decode cX11_readOne 91 = .ok (.invokevirtual 184, 3) := dk_182 0 184 (dk_at dksX11_readOne_3 20 rfl rfl)
theorem dX11_readOne_94 : decode cX11_readOne 94 = .ok (.iload_n 1, 1) := dk_27 (dk_at dksX11_readOne_3 23 rfl rfl)
theorem dX11_readOne_95 : decode cX11_readOne 95 = .ok (.ifCond .eq 10, 3) := dk_153 0 10 (dk_at dksX11_readOne_4 0 rfl rfl)
theorem dX11_readOne_98 : decode cX11_readOne 98 = .ok (.aload_n 0, 1) := dk_42 (dk_at dksX11_readOne_4 3 rfl rfl)
theorem dX11_readOne_99 : decode cX11_readOne 99 = .ok (.invokevirtual 411, 3) := dk_182 1 155 (dk_at dksX11_readOne_4 4 rfl rfl)
theorem dX11_readOne_102 : decode cX11_readOne 102 = .ok (.goto 35, 3) := dk_167 0 35 (dk_at dksX11_readOne_4 7 rfl rfl)
theorem dX11_readOne_105 : decode cX11_readOne 105 = .ok (.iload_n 2, 1) := dk_28 (dk_at dksX11_readOne_4 10 rfl rfl)
theorem dX11_readOne_106 : decode cX11_readOne 106 = .ok (.bipush 17, 2) := dk_16 17 (dk_at dksX11_readOne_4 11 rfl rfl)
theorem dX11_readOne_108 : decode cX11_readOne 108 = .ok (.if_icmp .ne 10, 3) := dk_160 0 10 (dk_at dksX11_readOne_4 13 rfl rfl)
theorem dX11_readOne_111 : decode cX11_readOne 111 = .ok (.aload_n 0, 1) := dk_42 (dk_at dksX11_readOne_4 16 rfl rfl)
theorem dX11_readOne_112 : decode cX11_readOne 112 = .ok (.invokevirtual 414, 3) := dk_182 1 158 (dk_at dksX11_readOne_4 17 rfl rfl)
theorem dX11_readOne_115 : decode cX11_readOne 115 = .ok (.goto 22, 3) := dk_167 0 22 (dk_at dksX11_readOne_4 20 rfl rfl)
theorem dX11_readOne_118 : decode cX11_readOne 118 = .ok (.iload_n 2, 1) := dk_28 (dk_at dksX11_readOne_4 23 rfl rfl)
theorem dX11_readOne_119 : decode cX11_readOne 119 = .ok (.bipush 21, 2) := dk_16 21 (dk_at dksX11_readOne_5 0 rfl rfl)
theorem dX11_readOne_121 : decode cX11_readOne 121 = .ok (.if_icmp .ge 11, 3) := dk_162 0 11 (dk_at dksX11_readOne_5 2 rfl rfl)
theorem dX11_readOne_124 : decode cX11_readOne 124 = .ok (.aload_n 0, 1) := dk_42 (dk_at dksX11_readOne_5 5 rfl rfl)
theorem dX11_readOne_125 : decode cX11_readOne 125 = .ok (.iload_n 2, 1) := dk_28 (dk_at dksX11_readOne_5 6 rfl rfl)
theorem dX11_readOne_126 : decode cX11_readOne 126 = .ok (.invokevirtual 417, 3) := dk_182 1 161 (dk_at dksX11_readOne_5 7 rfl rfl)
theorem dX11_readOne_129 : decode cX11_readOne 129 = .ok (.goto 8, 3) := dk_167 0 8 (dk_at dksX11_readOne_5 10 rfl rfl)
theorem dX11_readOne_132 : decode cX11_readOne 132 = .ok (.aload_n 0, 1) := dk_42 (dk_at dksX11_readOne_5 13 rfl rfl)
theorem dX11_readOne_133 : decode cX11_readOne 133 = .ok (.iload_n 2, 1) := dk_28 (dk_at dksX11_readOne_5 14 rfl rfl)
theorem dX11_readOne_134 : decode cX11_readOne 134 = .ok (.invokevirtual 420, 3) := dk_182 1 164 (dk_at dksX11_readOne_5 15 rfl rfl)
theorem dX11_readOne_137 : decode cX11_readOne 137 = .ok (.istore_n 3, 1) := dk_62 (dk_at dksX11_readOne_5 18 rfl rfl)
theorem dX11_readOne_138 : decode cX11_readOne 138 = .ok (.aload_n 0, 1) := dk_42 (dk_at dksX11_readOne_5 19 rfl rfl)
theorem dX11_readOne_139 : decode cX11_readOne 139 = .ok (.dup, 1) := dk_89 (dk_at dksX11_readOne_5 20 rfl rfl)
theorem dX11_readOne_140 : decode cX11_readOne 140 = .ok (.getfield 408, 3) := dk_180 1 152 (dk_at dksX11_readOne_5 21 rfl rfl)
theorem dX11_readOne_143 : decode cX11_readOne 143 = .ok (.iconst 1, 1) := dk_4 (dk_at dksX11_readOne_6 0 rfl rfl)
theorem dX11_readOne_144 : decode cX11_readOne 144 = .ok (.isub, 1) := dk_100 (dk_at dksX11_readOne_6 1 rfl rfl)
theorem dX11_readOne_145 : decode cX11_readOne 145 = .ok (.putfield 408, 3) := dk_181 1 152 (dk_at dksX11_readOne_6 2 rfl rfl)
theorem dX11_readOne_148 : decode cX11_readOne 148 = .ok (.iload_n 3, 1) := dk_29 (dk_at dksX11_readOne_6 5 rfl rfl)
theorem dX11_readOne_149 : decode cX11_readOne 149 = .ok (.ireturn, 1) := dk_172 (dk_at dksX11_readOne_6 6 rfl rfl)
abbrev cX11_readBracket : ByteArray := prog_21_method_102_code
def yX11_readBracket : MethodName := ⟨RX11, "readBracket", "()Z"⟩
def dkwX11_readBracket_1 : List UInt8 := [42, 182, 0, 184, 4, 172]
abbrev dktX11_readBracket_1 : List UInt8 := dkwX11_readBracket_1 ++ []
def dkwX11_readBracket_0 : List UInt8 := [42, 182, 1, 167, 154, 0, 5, 3, 172, 42, 16, 41, 182, 0, 187, 154, 0, 9, 42, 4, 182, 0, 174, 172]
abbrev dktX11_readBracket_0 : List UInt8 := dkwX11_readBracket_0 ++ dktX11_readBracket_1
theorem dksX11_readBracket_0 : cX11_readBracket.data.toList.drop 0 = dktX11_readBracket_0 := by decide +kernel
theorem dksX11_readBracket_1 : cX11_readBracket.data.toList.drop 24 = dktX11_readBracket_1 := dk_seg dksX11_readBracket_0 24 rfl rfl
theorem dX11_readBracket_0 : decode cX11_readBracket 0 = .ok (.aload_n 0, 1) := dk_42 (dk_at dksX11_readBracket_0 0 rfl rfl)
theorem dX11_readBracket_1 : decode cX11_readBracket 1 = .ok (.invokevirtual 423, 3) := dk_182 1 167 (dk_at dksX11_readBracket_0 1 rfl rfl)
theorem dX11_readBracket_4 : decode cX11_readBracket 4 = .ok (.ifCond .ne 5, 3) := dk_154 0 5 (dk_at dksX11_readBracket_0 4 rfl rfl)
theorem dX11_readBracket_7 : decode cX11_readBracket 7 = .ok (.iconst 0, 1) := dk_3 (dk_at dksX11_readBracket_0 7 rfl rfl)
theorem dX11_readBracket_8 : decode cX11_readBracket 8 = .ok (.ireturn, 1) := dk_172 (dk_at dksX11_readBracket_0 8 rfl rfl)
theorem dX11_readBracket_9 : decode cX11_readBracket 9 = .ok (.aload_n 0, 1) := dk_42 (dk_at dksX11_readBracket_0 9 rfl rfl)
theorem dX11_readBracket_10 : decode cX11_readBracket 10 = .ok (.bipush 41, 2) := dk_16 41 (dk_at dksX11_readBracket_0 10 rfl rfl)
theorem dX11_readBracket_12 : decode cX11_readBracket 12 = .ok (.invokevirtual 187, 3) := dk_182 0 187 (dk_at dksX11_readBracket_0 12 rfl rfl)
theorem dX11_readBracket_15 : decode cX11_readBracket 15 = .ok (.ifCond .ne 9, 3) := dk_154 0 9 (dk_at dksX11_readBracket_0 15 rfl rfl)
theorem dX11_readBracket_18 : decode cX11_readBracket 18 = .ok (.aload_n 0, 1) := dk_42 (dk_at dksX11_readBracket_0 18 rfl rfl)
theorem dX11_readBracket_19 : decode cX11_readBracket 19 = .ok (.iconst 1, 1) := dk_4 (dk_at dksX11_readBracket_0 19 rfl rfl)
theorem dX11_readBracket_20 : decode cX11_readBracket 20 = .ok (.invokevirtual 174, 3) := dk_182 0 174 (dk_at dksX11_readBracket_0 20 rfl rfl)
theorem dX11_readBracket_23 : decode cX11_readBracket 23 = .ok (.ireturn, 1) := dk_172 (dk_at dksX11_readBracket_0 23 rfl rfl)
theorem dX11_readBracket_24 : decode cX11_readBracket 24 = .ok (.aload_n 0, 1) := dk_42 (dk_at dksX11_readBracket_1 0 rfl rfl)
theorem dX11_readBracket_25 : decode cX11_readBracket 25 = .ok (.invokevirtual 184, 3) := dk_182 0 184 (dk_at dksX11_readBracket_1 1 rfl rfl)
theorem dX11_readBracket_28 : decode cX11_readBracket 28 = .ok (.iconst 1, 1) := dk_4 (dk_at dksX11_readBracket_1 4 rfl rfl)
theorem dX11_readBracket_29 : decode cX11_readBracket 29 = .ok (.ireturn, 1) := dk_172 (dk_at dksX11_readBracket_1 5 rfl rfl)
abbrev cX11_readNot : ByteArray := prog_21_method_101_code
def yX11_readNot : MethodName := ⟨RX11, "readNot", "()Z"⟩
def dkwX11_readNot_1 : List UInt8 := [4, 172]
abbrev dktX11_readNot_1 : List UInt8 := dkwX11_readNot_1 ++ []
def dkwX11_readNot_0 : List UInt8 := [42, 182, 1, 146, 154, 0, 5, 3, 172, 42, 42, 4, 42, 180, 1, 140, 3, 3, 182, 1, 143, 181, 1, 140]
abbrev dktX11_readNot_0 : List UInt8 := dkwX11_readNot_0 ++ dktX11_readNot_1
theorem dksX11_readNot_0 : cX11_readNot.data.toList.drop 0 = dktX11_readNot_0 := by decide +kernel
theorem dksX11_readNot_1 : cX11_readNot.data.toList.drop 24 = dktX11_readNot_1 := dk_seg dksX11_readNot_0 24 rfl rfl
theorem dX11_readNot_0 : decode cX11_readNot 0 = .ok (.aload_n 0, 1) := dk_42 (dk_at dksX11_readNot_0 0 rfl rfl)
theorem dX11_readNot_1 : decode cX11_readNot 1 = .ok (.invokevirtual 402, 3) := dk_182 1 146 (dk_at dksX11_readNot_0 1 rfl rfl)
theorem dX11_readNot_4 : decode cX11_readNot 4 = .ok (.ifCond .ne 5, 3) := dk_154 0 5 (dk_at dksX11_readNot_0 4 rfl rfl)
theorem dX11_readNot_7 : decode cX11_readNot 7 = .ok (.iconst 0, 1) := dk_3 (dk_at dksX11_readNot_0 7 rfl rfl)
theorem dX11_readNot_8 : decode cX11_readNot 8 = .ok (.ireturn, 1) := dk_172 (dk_at dksX11_readNot_0 8 rfl rfl)
theorem dX11_readNot_9 : decode cX11_readNot 9 = .ok (.aload_n 0, 1) := dk_42 (dk_at dksX11_readNot_0 9 rfl rfl)
theorem dX11_readNot_10 : decode cX11_readNot 10 = .ok (.aload_n 0, 1) := dk_42 (dk_at dksX11_readNot_0 10 rfl rfl)
theorem dX11_readNot_11 : decode cX11_readNot 11 = .ok (.iconst 1, 1) := dk_4 (dk_at dksX11_readNot_0 11 rfl rfl)
theorem dX11_readNot_12 : decode cX11_readNot 12 = .ok (.aload_n 0, 1) := dk_42 (dk_at dksX11_readNot_0 12 rfl rfl)
theorem dX11_readNot_13 : decode cX11_readNot 13 = .ok (.getfield 396, 3) := dk_180 1 140 (dk_at dksX11_readNot_0 13 rfl rfl)
theorem dX11_readNot_16 : decode cX11_readNot 16 = .ok (.iconst 0, 1) := dk_3 (dk_at dksX11_readNot_0 16 rfl rfl)
theorem dX11_readNot_17 : decode cX11_readNot 17 = .ok (.iconst 0, 1) := dk_3 (dk_at dksX11_readNot_0 17 rfl rfl)
theorem dX11_readNot_18 : decode cX11_readNot 18 = .ok (.invokevirtual 399, 3) := dk_182 1 143 (dk_at dksX11_readNot_0 18 rfl rfl)
theorem dX11_readNot_21 : decode cX11_readNot 21 = .ok (.putfield 396, 3) := dk_181 1 140 (dk_at dksX11_readNot_0 21 rfl rfl)
theorem dX11_readNot_24 : decode cX11_readNot 24 = .ok (.iconst 1, 1) := dk_4 (dk_at dksX11_readNot_1 0 rfl rfl)
theorem dX11_readNot_25 : decode cX11_readNot 25 = .ok (.ireturn, 1) := dk_172 (dk_at dksX11_readNot_1 1 rfl rfl)
abbrev cX11_lays : ByteArray := prog_21_method_97_code
def yX11_lays : MethodName := ⟨RX11, "lays", "(IIII)I"⟩
def dkwX11_lays_2 : List UInt8 := [89, 180, 1, 134, 4, 96, 181, 1, 134, 42, 180, 1, 134, 4, 100, 172]
abbrev dktX11_lays_2 : List UInt8 := dkwX11_lays_2 ++ []
def dkwX11_lays_1 : List UInt8 := [28, 79, 42, 180, 0, 103, 21, 5, 5, 96, 29, 79, 42, 180, 0, 103, 21, 5, 6, 96, 21, 4, 79, 42]
abbrev dktX11_lays_1 : List UInt8 := dkwX11_lays_1 ++ dktX11_lays_2
def dkwX11_lays_0 : List UInt8 := [7, 42, 180, 1, 134, 104, 54, 5, 42, 180, 0, 103, 21, 5, 27, 79, 42, 180, 0, 103, 21, 5, 4, 96]
abbrev dktX11_lays_0 : List UInt8 := dkwX11_lays_0 ++ dktX11_lays_1
theorem dksX11_lays_0 : cX11_lays.data.toList.drop 0 = dktX11_lays_0 := by decide +kernel
theorem dksX11_lays_1 : cX11_lays.data.toList.drop 24 = dktX11_lays_1 := dk_seg dksX11_lays_0 24 rfl rfl
theorem dksX11_lays_2 : cX11_lays.data.toList.drop 48 = dktX11_lays_2 := dk_seg dksX11_lays_1 24 rfl rfl
theorem dX11_lays_0 : decode cX11_lays 0 = .ok (.iconst 4, 1) := dk_7 (dk_at dksX11_lays_0 0 rfl rfl)
theorem dX11_lays_1 : decode cX11_lays 1 = .ok (.aload_n 0, 1) := dk_42 (dk_at dksX11_lays_0 1 rfl rfl)
theorem dX11_lays_2 : decode cX11_lays 2 = .ok (.getfield 390, 3) := dk_180 1 134 (dk_at dksX11_lays_0 2 rfl rfl)
theorem dX11_lays_5 : decode cX11_lays 5 = .ok (.imul, 1) := dk_104 (dk_at dksX11_lays_0 5 rfl rfl)
theorem dX11_lays_6 : decode cX11_lays 6 = .ok (.istore 5, 2) := dk_54 5 (dk_at dksX11_lays_0 6 rfl rfl)
theorem dX11_lays_8 : decode cX11_lays 8 = .ok (.aload_n 0, 1) := dk_42 (dk_at dksX11_lays_0 8 rfl rfl)
theorem dX11_lays_9 : decode cX11_lays 9 = .ok (.getfield 103, 3) := dk_180 0 103 (dk_at dksX11_lays_0 9 rfl rfl)
theorem dX11_lays_12 : decode cX11_lays 12 = .ok (.iload 5, 2) := dk_21 5 (dk_at dksX11_lays_0 12 rfl rfl)
theorem dX11_lays_14 : decode cX11_lays 14 = .ok (.iload_n 1, 1) := dk_27 (dk_at dksX11_lays_0 14 rfl rfl)
theorem dX11_lays_15 : decode cX11_lays 15 = .ok (.iastore, 1) := dk_79 (dk_at dksX11_lays_0 15 rfl rfl)
theorem dX11_lays_16 : decode cX11_lays 16 = .ok (.aload_n 0, 1) := dk_42 (dk_at dksX11_lays_0 16 rfl rfl)
theorem dX11_lays_17 : decode cX11_lays 17 = .ok (.getfield 103, 3) := dk_180 0 103 (dk_at dksX11_lays_0 17 rfl rfl)
theorem dX11_lays_20 : decode cX11_lays 20 = .ok (.iload 5, 2) := dk_21 5 (dk_at dksX11_lays_0 20 rfl rfl)
theorem dX11_lays_22 : decode cX11_lays 22 = .ok (.iconst 1, 1) := dk_4 (dk_at dksX11_lays_0 22 rfl rfl)
theorem dX11_lays_23 : decode cX11_lays 23 = .ok (.iadd, 1) := dk_96 (dk_at dksX11_lays_0 23 rfl rfl)
theorem dX11_lays_24 : decode cX11_lays 24 = .ok (.iload_n 2, 1) := dk_28 (dk_at dksX11_lays_1 0 rfl rfl)
theorem dX11_lays_25 : decode cX11_lays 25 = .ok (.iastore, 1) := dk_79 (dk_at dksX11_lays_1 1 rfl rfl)
theorem dX11_lays_26 : decode cX11_lays 26 = .ok (.aload_n 0, 1) := dk_42 (dk_at dksX11_lays_1 2 rfl rfl)
theorem dX11_lays_27 : decode cX11_lays 27 = .ok (.getfield 103, 3) := dk_180 0 103 (dk_at dksX11_lays_1 3 rfl rfl)
theorem dX11_lays_30 : decode cX11_lays 30 = .ok (.iload 5, 2) := dk_21 5 (dk_at dksX11_lays_1 6 rfl rfl)
theorem dX11_lays_32 : decode cX11_lays 32 = .ok (.iconst 2, 1) := dk_5 (dk_at dksX11_lays_1 8 rfl rfl)
theorem dX11_lays_33 : decode cX11_lays 33 = .ok (.iadd, 1) := dk_96 (dk_at dksX11_lays_1 9 rfl rfl)
theorem dX11_lays_34 : decode cX11_lays 34 = .ok (.iload_n 3, 1) := dk_29 (dk_at dksX11_lays_1 10 rfl rfl)
theorem dX11_lays_35 : decode cX11_lays 35 = .ok (.iastore, 1) := dk_79 (dk_at dksX11_lays_1 11 rfl rfl)
theorem dX11_lays_36 : decode cX11_lays 36 = .ok (.aload_n 0, 1) := dk_42 (dk_at dksX11_lays_1 12 rfl rfl)
theorem dX11_lays_37 : decode cX11_lays 37 = .ok (.getfield 103, 3) := dk_180 0 103 (dk_at dksX11_lays_1 13 rfl rfl)
theorem dX11_lays_40 : decode cX11_lays 40 = .ok (.iload 5, 2) := dk_21 5 (dk_at dksX11_lays_1 16 rfl rfl)
theorem dX11_lays_42 : decode cX11_lays 42 = .ok (.iconst 3, 1) := dk_6 (dk_at dksX11_lays_1 18 rfl rfl)
theorem dX11_lays_43 : decode cX11_lays 43 = .ok (.iadd, 1) := dk_96 (dk_at dksX11_lays_1 19 rfl rfl)
theorem dX11_lays_44 : decode cX11_lays 44 = .ok (.iload 4, 2) := dk_21 4 (dk_at dksX11_lays_1 20 rfl rfl)
theorem dX11_lays_46 : decode cX11_lays 46 = .ok (.iastore, 1) := dk_79 (dk_at dksX11_lays_1 22 rfl rfl)
theorem dX11_lays_47 : decode cX11_lays 47 = .ok (.aload_n 0, 1) := dk_42 (dk_at dksX11_lays_1 23 rfl rfl)
theorem dX11_lays_48 : decode cX11_lays 48 = .ok (.dup, 1) := dk_89 (dk_at dksX11_lays_2 0 rfl rfl)
theorem dX11_lays_49 : decode cX11_lays 49 = .ok (.getfield 390, 3) := dk_180 1 134 (dk_at dksX11_lays_2 1 rfl rfl)
theorem dX11_lays_52 : decode cX11_lays 52 = .ok (.iconst 1, 1) := dk_4 (dk_at dksX11_lays_2 4 rfl rfl)
theorem dX11_lays_53 : decode cX11_lays 53 = .ok (.iadd, 1) := dk_96 (dk_at dksX11_lays_2 5 rfl rfl)
theorem dX11_lays_54 : decode cX11_lays 54 = .ok (.putfield 390, 3) := dk_181 1 134 (dk_at dksX11_lays_2 6 rfl rfl)
theorem dX11_lays_57 : decode cX11_lays 57 = .ok (.aload_n 0, 1) := dk_42 (dk_at dksX11_lays_2 9 rfl rfl)
theorem dX11_lays_58 : decode cX11_lays 58 = .ok (.getfield 390, 3) := dk_180 1 134 (dk_at dksX11_lays_2 10 rfl rfl)
theorem dX11_lays_61 : decode cX11_lays 61 = .ok (.iconst 1, 1) := dk_4 (dk_at dksX11_lays_2 13 rfl rfl)
theorem dX11_lays_62 : decode cX11_lays 62 = .ok (.isub, 1) := dk_100 (dk_at dksX11_lays_2 14 rfl rfl)
theorem dX11_lays_63 : decode cX11_lays 63 = .ok (.ireturn, 1) := dk_172 (dk_at dksX11_lays_2 15 rfl rfl)
abbrev cX11_readNamed : ByteArray := prog_21_method_103_code
def yX11_readNamed : MethodName := ⟨RX11, "readNamed", "(I)Z"⟩
def dkwX11_readNamed_4 : List UInt8 := [182, 1, 143, 181, 1, 140, 42, 182, 0, 184, 4, 172]
abbrev dktX11_readNamed_4 : List UInt8 := dkwX11_readNamed_4 ++ []
def dkwX11_readNamed_3 : List UInt8 := [160, 0, 7, 7, 167, 0, 15, 27, 16, 19, 160, 0, 7, 8, 167, 0, 5, 16, 6, 28, 3, 3]
abbrev dktX11_readNamed_3 : List UInt8 := dkwX11_readNamed_3 ++ dktX11_readNamed_4
def dkwX11_readNamed_2 : List UInt8 := [3, 46, 182, 0, 198, 61, 28, 2, 160, 0, 9, 42, 6, 182, 0, 174, 172, 42, 42, 27, 16, 18]
abbrev dktX11_readNamed_2 : List UInt8 := dkwX11_readNamed_2 ++ dktX11_readNamed_3
def dkwX11_readNamed_1 : List UInt8 := [16, 8, 42, 180, 0, 13, 4, 46, 182, 0, 198, 167, 0, 18, 42, 42, 180, 0, 25, 3, 42, 180, 0, 13]
abbrev dktX11_readNamed_1 : List UInt8 := dkwX11_readNamed_1 ++ dktX11_readNamed_2
def dkwX11_readNamed_0 : List UInt8 := [42, 182, 0, 194, 154, 0, 9, 42, 4, 182, 0, 174, 172, 27, 16, 20, 160, 0, 22, 42, 42, 180, 0, 25]
abbrev dktX11_readNamed_0 : List UInt8 := dkwX11_readNamed_0 ++ dktX11_readNamed_1
theorem dksX11_readNamed_0 : cX11_readNamed.data.toList.drop 0 = dktX11_readNamed_0 := by decide +kernel
theorem dksX11_readNamed_1 : cX11_readNamed.data.toList.drop 24 = dktX11_readNamed_1 := dk_seg dksX11_readNamed_0 24 rfl rfl
theorem dksX11_readNamed_2 : cX11_readNamed.data.toList.drop 48 = dktX11_readNamed_2 := dk_seg dksX11_readNamed_1 24 rfl rfl
theorem dksX11_readNamed_3 : cX11_readNamed.data.toList.drop 70 = dktX11_readNamed_3 := dk_seg dksX11_readNamed_2 22 rfl rfl
theorem dksX11_readNamed_4 : cX11_readNamed.data.toList.drop 92 = dktX11_readNamed_4 := dk_seg dksX11_readNamed_3 22 rfl rfl
theorem dX11_readNamed_0 : decode cX11_readNamed 0 = .ok (.aload_n 0, 1) := dk_42 (dk_at dksX11_readNamed_0 0 rfl rfl)
theorem dX11_readNamed_1 : decode cX11_readNamed 1 = .ok (.invokevirtual 194, 3) := dk_182 0 194 (dk_at dksX11_readNamed_0 1 rfl rfl)
theorem dX11_readNamed_4 : decode cX11_readNamed 4 = .ok (.ifCond .ne 9, 3) := dk_154 0 9 (dk_at dksX11_readNamed_0 4 rfl rfl)
theorem dX11_readNamed_7 : decode cX11_readNamed 7 = .ok (.aload_n 0, 1) := dk_42 (dk_at dksX11_readNamed_0 7 rfl rfl)
theorem dX11_readNamed_8 : decode cX11_readNamed 8 = .ok (.iconst 1, 1) := dk_4 (dk_at dksX11_readNamed_0 8 rfl rfl)
theorem dX11_readNamed_9 : decode cX11_readNamed 9 = .ok (.invokevirtual 174, 3) := dk_182 0 174 (dk_at dksX11_readNamed_0 9 rfl rfl)
theorem dX11_readNamed_12 : decode cX11_readNamed 12 = .ok (.ireturn, 1) := dk_172 (dk_at dksX11_readNamed_0 12 rfl rfl)
theorem dX11_readNamed_13 : decode cX11_readNamed 13 = .ok (.iload_n 1, 1) := dk_27 (dk_at dksX11_readNamed_0 13 rfl rfl)
theorem dX11_readNamed_14 : decode cX11_readNamed 14 = .ok (.bipush 20, 2) := dk_16 20 (dk_at dksX11_readNamed_0 14 rfl rfl)
theorem dX11_readNamed_16 : decode cX11_readNamed 16 = .ok (.if_icmp .ne 22, 3) := dk_160 0 22 (dk_at dksX11_readNamed_0 16 rfl rfl)
theorem dX11_readNamed_19 : decode cX11_readNamed 19 = .ok (.aload_n 0, 1) := dk_42 (dk_at dksX11_readNamed_0 19 rfl rfl)
theorem dX11_readNamed_20 : decode cX11_readNamed 20 = .ok (.aload_n 0, 1) := dk_42 (dk_at dksX11_readNamed_0 20 rfl rfl)
theorem dX11_readNamed_21 : decode cX11_readNamed 21 = .ok (.getfield 25, 3) := dk_180 0 25 (dk_at dksX11_readNamed_0 21 rfl rfl)
theorem dX11_readNamed_24 : decode cX11_readNamed 24 = .ok (.bipush 8, 2) := dk_16 8 (dk_at dksX11_readNamed_1 0 rfl rfl)
theorem dX11_readNamed_26 : decode cX11_readNamed 26 = .ok (.aload_n 0, 1) := dk_42 (dk_at dksX11_readNamed_1 2 rfl rfl)
theorem dX11_readNamed_27 : decode cX11_readNamed 27 = .ok (.getfield 13, 3) := dk_180 0 13 (dk_at dksX11_readNamed_1 3 rfl rfl)
theorem dX11_readNamed_30 : decode cX11_readNamed 30 = .ok (.iconst 1, 1) := dk_4 (dk_at dksX11_readNamed_1 6 rfl rfl)
theorem dX11_readNamed_31 : decode cX11_readNamed 31 = .ok (.iaload, 1) := dk_46 (dk_at dksX11_readNamed_1 7 rfl rfl)
theorem dX11_readNamed_32 : decode cX11_readNamed 32 = .ok (.invokevirtual 198, 3) := dk_182 0 198 (dk_at dksX11_readNamed_1 8 rfl rfl)
theorem dX11_readNamed_35 : decode cX11_readNamed 35 = .ok (.goto 18, 3) := dk_167 0 18 (dk_at dksX11_readNamed_1 11 rfl rfl)
theorem dX11_readNamed_38 : decode cX11_readNamed 38 = .ok (.aload_n 0, 1) := dk_42 (dk_at dksX11_readNamed_1 14 rfl rfl)
theorem dX11_readNamed_39 : decode cX11_readNamed 39 = .ok (.aload_n 0, 1) := dk_42 (dk_at dksX11_readNamed_1 15 rfl rfl)
theorem dX11_readNamed_40 : decode cX11_readNamed 40 = .ok (.getfield 25, 3) := dk_180 0 25 (dk_at dksX11_readNamed_1 16 rfl rfl)
theorem dX11_readNamed_43 : decode cX11_readNamed 43 = .ok (.iconst 0, 1) := dk_3 (dk_at dksX11_readNamed_1 19 rfl rfl)
theorem dX11_readNamed_44 : decode cX11_readNamed 44 = .ok (.aload_n 0, 1) := dk_42 (dk_at dksX11_readNamed_1 20 rfl rfl)
theorem dX11_readNamed_45 : decode cX11_readNamed 45 = .ok (.getfield 13, 3) := dk_180 0 13 (dk_at dksX11_readNamed_1 21 rfl rfl)
theorem dX11_readNamed_48 : decode cX11_readNamed 48 = .ok (.iconst 0, 1) := dk_3 (dk_at dksX11_readNamed_2 0 rfl rfl)
theorem dX11_readNamed_49 : decode cX11_readNamed 49 = .ok (.iaload, 1) := dk_46 (dk_at dksX11_readNamed_2 1 rfl rfl)
theorem dX11_readNamed_50 : decode cX11_readNamed 50 = .ok (.invokevirtual 198, 3) := dk_182 0 198 (dk_at dksX11_readNamed_2 2 rfl rfl)
theorem dX11_readNamed_53 : decode cX11_readNamed 53 = .ok (.istore_n 2, 1) := dk_61 (dk_at dksX11_readNamed_2 5 rfl rfl)
theorem dX11_readNamed_54 : decode cX11_readNamed 54 = .ok (.iload_n 2, 1) := dk_28 (dk_at dksX11_readNamed_2 6 rfl rfl)
theorem dX11_readNamed_55 : decode cX11_readNamed 55 = .ok (.iconst (-1), 1) := dk_2 (dk_at dksX11_readNamed_2 7 rfl rfl)
theorem dX11_readNamed_56 : decode cX11_readNamed 56 = .ok (.if_icmp .ne 9, 3) := dk_160 0 9 (dk_at dksX11_readNamed_2 8 rfl rfl)
theorem dX11_readNamed_59 : decode cX11_readNamed 59 = .ok (.aload_n 0, 1) := dk_42 (dk_at dksX11_readNamed_2 11 rfl rfl)
theorem dX11_readNamed_60 : decode cX11_readNamed 60 = .ok (.iconst 3, 1) := dk_6 (dk_at dksX11_readNamed_2 12 rfl rfl)
theorem dX11_readNamed_61 : decode cX11_readNamed 61 = .ok (.invokevirtual 174, 3) := dk_182 0 174 (dk_at dksX11_readNamed_2 13 rfl rfl)
theorem dX11_readNamed_64 : decode cX11_readNamed 64 = .ok (.ireturn, 1) := dk_172 (dk_at dksX11_readNamed_2 16 rfl rfl)
theorem dX11_readNamed_65 : decode cX11_readNamed 65 = .ok (.aload_n 0, 1) := dk_42 (dk_at dksX11_readNamed_2 17 rfl rfl)
theorem dX11_readNamed_66 : decode cX11_readNamed 66 = .ok (.aload_n 0, 1) := dk_42 (dk_at dksX11_readNamed_2 18 rfl rfl)
theorem dX11_readNamed_67 : decode cX11_readNamed 67 = .ok (.iload_n 1, 1) := dk_27 (dk_at dksX11_readNamed_2 19 rfl rfl)
theorem dX11_readNamed_68 : decode cX11_readNamed 68 = .ok (.bipush 18, 2) := dk_16 18 (dk_at dksX11_readNamed_2 20 rfl rfl)
theorem dX11_readNamed_70 : decode cX11_readNamed 70 = .ok (.if_icmp .ne 7, 3) := dk_160 0 7 (dk_at dksX11_readNamed_3 0 rfl rfl)
theorem dX11_readNamed_73 : decode cX11_readNamed 73 = .ok (.iconst 4, 1) := dk_7 (dk_at dksX11_readNamed_3 3 rfl rfl)
theorem dX11_readNamed_74 : decode cX11_readNamed 74 = .ok (.goto 15, 3) := dk_167 0 15 (dk_at dksX11_readNamed_3 4 rfl rfl)
theorem dX11_readNamed_77 : decode cX11_readNamed 77 = .ok (.iload_n 1, 1) := dk_27 (dk_at dksX11_readNamed_3 7 rfl rfl)
theorem dX11_readNamed_78 : decode cX11_readNamed 78 = .ok (.bipush 19, 2) := dk_16 19 (dk_at dksX11_readNamed_3 8 rfl rfl)
theorem dX11_readNamed_80 : decode cX11_readNamed 80 = .ok (.if_icmp .ne 7, 3) := dk_160 0 7 (dk_at dksX11_readNamed_3 10 rfl rfl)
theorem dX11_readNamed_83 : decode cX11_readNamed 83 = .ok (.iconst 5, 1) := dk_8 (dk_at dksX11_readNamed_3 13 rfl rfl)
theorem dX11_readNamed_84 : decode cX11_readNamed 84 = .ok (.goto 5, 3) := dk_167 0 5 (dk_at dksX11_readNamed_3 14 rfl rfl)
theorem dX11_readNamed_87 : decode cX11_readNamed 87 = .ok (.bipush 6, 2) := dk_16 6 (dk_at dksX11_readNamed_3 17 rfl rfl)
theorem dX11_readNamed_89 : decode cX11_readNamed 89 = .ok (.iload_n 2, 1) := dk_28 (dk_at dksX11_readNamed_3 19 rfl rfl)
theorem dX11_readNamed_90 : decode cX11_readNamed 90 = .ok (.iconst 0, 1) := dk_3 (dk_at dksX11_readNamed_3 20 rfl rfl)
theorem dX11_readNamed_91 : decode cX11_readNamed 91 = .ok (.iconst 0, 1) := dk_3 (dk_at dksX11_readNamed_3 21 rfl rfl)
theorem dX11_readNamed_92 : decode cX11_readNamed 92 = .ok (.invokevirtual 399, 3) := dk_182 1 143 (dk_at dksX11_readNamed_4 0 rfl rfl)
theorem dX11_readNamed_95 : decode cX11_readNamed 95 = .ok (.putfield 396, 3) := dk_181 1 140 (dk_at dksX11_readNamed_4 3 rfl rfl)
theorem dX11_readNamed_98 : decode cX11_readNamed 98 = .ok (.aload_n 0, 1) := dk_42 (dk_at dksX11_readNamed_4 6 rfl rfl)
theorem dX11_readNamed_99 : decode cX11_readNamed 99 = .ok (.invokevirtual 184, 3) := dk_182 0 184 (dk_at dksX11_readNamed_4 7 rfl rfl)
theorem dX11_readNamed_102 : decode cX11_readNamed 102 = .ok (.iconst 1, 1) := dk_4 (dk_at dksX11_readNamed_4 10 rfl rfl)
theorem dX11_readNamed_103 : decode cX11_readNamed 103 = .ok (.ireturn, 1) := dk_172 (dk_at dksX11_readNamed_4 11 rfl rfl)
abbrev cX11_readCompare : ByteArray := prog_21_method_104_code
def yX11_readCompare : MethodName := ⟨RX11, "readCompare", "(I)Z"⟩
def dkwX11_readCompare_3 : List UInt8 := [181, 1, 140, 4, 172]
abbrev dktX11_readCompare_3 : List UInt8 := dkwX11_readCompare_3 ++ []
def dkwX11_readCompare_2 : List UInt8 := [182, 0, 205, 154, 0, 5, 3, 172, 42, 42, 16, 50, 27, 96, 3, 42, 180, 0, 181, 28, 182, 1, 143]
abbrev dktX11_readCompare_2 : List UInt8 := dkwX11_readCompare_2 ++ dktX11_readCompare_3
def dkwX11_readCompare_1 : List UInt8 := [154, 0, 9, 42, 4, 182, 0, 174, 172, 42, 180, 0, 138, 61, 42, 182, 0, 184, 42, 3, 17, 3, 231]
abbrev dktX11_readCompare_1 : List UInt8 := dkwX11_readCompare_1 ++ dktX11_readCompare_2
def dkwX11_readCompare_0 : List UInt8 := [42, 16, 60, 182, 0, 187, 154, 0, 27, 42, 16, 61, 182, 0, 187, 154, 0, 18, 42, 16, 62, 182, 0, 187]
abbrev dktX11_readCompare_0 : List UInt8 := dkwX11_readCompare_0 ++ dktX11_readCompare_1
theorem dksX11_readCompare_0 : cX11_readCompare.data.toList.drop 0 = dktX11_readCompare_0 := by decide +kernel
theorem dksX11_readCompare_1 : cX11_readCompare.data.toList.drop 24 = dktX11_readCompare_1 := dk_seg dksX11_readCompare_0 24 rfl rfl
theorem dksX11_readCompare_2 : cX11_readCompare.data.toList.drop 47 = dktX11_readCompare_2 := dk_seg dksX11_readCompare_1 23 rfl rfl
theorem dksX11_readCompare_3 : cX11_readCompare.data.toList.drop 70 = dktX11_readCompare_3 := dk_seg dksX11_readCompare_2 23 rfl rfl
theorem dX11_readCompare_0 : decode cX11_readCompare 0 = .ok (.aload_n 0, 1) := dk_42 (dk_at dksX11_readCompare_0 0 rfl rfl)
theorem dX11_readCompare_1 : decode cX11_readCompare 1 = .ok (.bipush 60, 2) := dk_16 60 (dk_at dksX11_readCompare_0 1 rfl rfl)
theorem dX11_readCompare_3 : decode cX11_readCompare 3 = .ok (.invokevirtual 187, 3) := dk_182 0 187 (dk_at dksX11_readCompare_0 3 rfl rfl)
theorem dX11_readCompare_6 : decode cX11_readCompare 6 = .ok (.ifCond .ne 27, 3) := dk_154 0 27 (dk_at dksX11_readCompare_0 6 rfl rfl)
theorem dX11_readCompare_9 : decode cX11_readCompare 9 = .ok (.aload_n 0, 1) := dk_42 (dk_at dksX11_readCompare_0 9 rfl rfl)
theorem dX11_readCompare_10 : decode cX11_readCompare 10 = .ok (.bipush 61, 2) := dk_16 61 (dk_at dksX11_readCompare_0 10 rfl rfl)
theorem dX11_readCompare_12 : decode cX11_readCompare 12 = .ok (.invokevirtual 187, 3) := dk_182 0 187 (dk_at dksX11_readCompare_0 12 rfl rfl)
theorem dX11_readCompare_15 : decode cX11_readCompare 15 = .ok (.ifCond .ne 18, 3) := dk_154 0 18 (dk_at dksX11_readCompare_0 15 rfl rfl)
theorem dX11_readCompare_18 : decode cX11_readCompare 18 = .ok (.aload_n 0, 1) := dk_42 (dk_at dksX11_readCompare_0 18 rfl rfl)
theorem dX11_readCompare_19 : decode cX11_readCompare 19 = .ok (.bipush 62, 2) := dk_16 62 (dk_at dksX11_readCompare_0 19 rfl rfl)
theorem dX11_readCompare_21 : decode cX11_readCompare 21 = .ok (.invokevirtual 187, 3) := dk_182 0 187 (dk_at dksX11_readCompare_0 21 rfl rfl)
theorem dX11_readCompare_24 : decode cX11_readCompare 24 = .ok (.ifCond .ne 9, 3) := dk_154 0 9 (dk_at dksX11_readCompare_1 0 rfl rfl)
theorem dX11_readCompare_27 : decode cX11_readCompare 27 = .ok (.aload_n 0, 1) := dk_42 (dk_at dksX11_readCompare_1 3 rfl rfl)
theorem dX11_readCompare_28 : decode cX11_readCompare 28 = .ok (.iconst 1, 1) := dk_4 (dk_at dksX11_readCompare_1 4 rfl rfl)
theorem dX11_readCompare_29 : decode cX11_readCompare 29 = .ok (.invokevirtual 174, 3) := dk_182 0 174 (dk_at dksX11_readCompare_1 5 rfl rfl)
theorem dX11_readCompare_32 : decode cX11_readCompare 32 = .ok (.ireturn, 1) := dk_172 (dk_at dksX11_readCompare_1 8 rfl rfl)
theorem dX11_readCompare_33 : decode cX11_readCompare 33 = .ok (.aload_n 0, 1) := dk_42 (dk_at dksX11_readCompare_1 9 rfl rfl)
theorem dX11_readCompare_34 : decode cX11_readCompare 34 = .ok (.getfield 138, 3) := dk_180 0 138 (dk_at dksX11_readCompare_1 10 rfl rfl)
theorem dX11_readCompare_37 : decode cX11_readCompare 37 = .ok (.istore_n 2, 1) := dk_61 (dk_at dksX11_readCompare_1 13 rfl rfl)
theorem dX11_readCompare_38 : decode cX11_readCompare 38 = .ok (.aload_n 0, 1) := dk_42 (dk_at dksX11_readCompare_1 14 rfl rfl)
theorem dX11_readCompare_39 : decode cX11_readCompare 39 = .ok (.invokevirtual 184, 3) := dk_182 0 184 (dk_at dksX11_readCompare_1 15 rfl rfl)
theorem dX11_readCompare_42 : decode cX11_readCompare 42 = .ok (.aload_n 0, 1) := dk_42 (dk_at dksX11_readCompare_1 18 rfl rfl)
theorem dX11_readCompare_43 : decode cX11_readCompare 43 = .ok (.iconst 0, 1) := dk_3 (dk_at dksX11_readCompare_1 19 rfl rfl)
theorem dX11_readCompare_44 : decode cX11_readCompare 44 = .ok (.sipush 999, 3) := dk_17 3 231 (dk_at dksX11_readCompare_1 20 rfl rfl)
theorem dX11_readCompare_47 : decode cX11_readCompare 47 = .ok (.invokevirtual 205, 3) := dk_182 0 205 (dk_at dksX11_readCompare_2 0 rfl rfl)
theorem dX11_readCompare_50 : decode cX11_readCompare 50 = .ok (.ifCond .ne 5, 3) := dk_154 0 5 (dk_at dksX11_readCompare_2 3 rfl rfl)
theorem dX11_readCompare_53 : decode cX11_readCompare 53 = .ok (.iconst 0, 1) := dk_3 (dk_at dksX11_readCompare_2 6 rfl rfl)
theorem dX11_readCompare_54 : decode cX11_readCompare 54 = .ok (.ireturn, 1) := dk_172 (dk_at dksX11_readCompare_2 7 rfl rfl)
theorem dX11_readCompare_55 : decode cX11_readCompare 55 = .ok (.aload_n 0, 1) := dk_42 (dk_at dksX11_readCompare_2 8 rfl rfl)
theorem dX11_readCompare_56 : decode cX11_readCompare 56 = .ok (.aload_n 0, 1) := dk_42 (dk_at dksX11_readCompare_2 9 rfl rfl)
theorem dX11_readCompare_57 : decode cX11_readCompare 57 = .ok (.bipush 50, 2) := dk_16 50 (dk_at dksX11_readCompare_2 10 rfl rfl)
theorem dX11_readCompare_59 : decode cX11_readCompare 59 = .ok (.iload_n 1, 1) := dk_27 (dk_at dksX11_readCompare_2 12 rfl rfl)
theorem dX11_readCompare_60 : decode cX11_readCompare 60 = .ok (.iadd, 1) := dk_96 (dk_at dksX11_readCompare_2 13 rfl rfl)
theorem dX11_readCompare_61 : decode cX11_readCompare 61 = .ok (.iconst 0, 1) := dk_3 (dk_at dksX11_readCompare_2 14 rfl rfl)
theorem dX11_readCompare_62 : decode cX11_readCompare 62 = .ok (.aload_n 0, 1) := dk_42 (dk_at dksX11_readCompare_2 15 rfl rfl)
theorem dX11_readCompare_63 : decode cX11_readCompare 63 = .ok (.getfield 181, 3) := dk_180 0 181 (dk_at dksX11_readCompare_2 16 rfl rfl)
theorem dX11_readCompare_66 : decode cX11_readCompare 66 = .ok (.iload_n 2, 1) := dk_28 (dk_at dksX11_readCompare_2 19 rfl rfl)
theorem dX11_readCompare_67 : decode cX11_readCompare 67 = .ok (.invokevirtual 399, 3) := dk_182 1 143 (dk_at dksX11_readCompare_2 20 rfl rfl)
theorem dX11_readCompare_70 : decode cX11_readCompare 70 = .ok (.putfield 396, 3) := dk_181 1 140 (dk_at dksX11_readCompare_3 0 rfl rfl)
theorem dX11_readCompare_73 : decode cX11_readCompare 73 = .ok (.iconst 1, 1) := dk_4 (dk_at dksX11_readCompare_3 3 rfl rfl)
theorem dX11_readCompare_74 : decode cX11_readCompare 74 = .ok (.ireturn, 1) := dk_172 (dk_at dksX11_readCompare_3 4 rfl rfl)
abbrev cX11_said : ByteArray := prog_21_method_108_code
def yX11_said : MethodName := ⟨RX11, "said", "(I)I"⟩
def dkwX11_said_3 : List UInt8 := [167, 255, 214, 27, 2, 160, 0, 7, 28, 167, 0, 4, 2, 172]
abbrev dktX11_said_3 : List UInt8 := dkwX11_said_3 ++ []
def dkwX11_said_2 : List UInt8 := [182, 1, 170, 154, 0, 6, 167, 0, 13, 28, 27, 160, 0, 5, 29, 172, 132, 2, 1, 132, 3, 1]
abbrev dktX11_said_2 : List UInt8 := dkwX11_said_2 ++ dktX11_said_3
def dkwX11_said_1 : List UInt8 := [3, 62, 29, 42, 180, 0, 60, 3, 46, 162, 0, 38, 42, 42, 180, 0, 13, 17, 3, 143, 46, 29]
abbrev dktX11_said_1 : List UInt8 := dkwX11_said_1 ++ dktX11_said_2
def dkwX11_said_0 : List UInt8 := [42, 3, 181, 0, 106, 42, 180, 0, 13, 17, 3, 142, 46, 154, 0, 5, 2, 172, 42, 182, 1, 14, 3, 61]
abbrev dktX11_said_0 : List UInt8 := dkwX11_said_0 ++ dktX11_said_1
theorem dksX11_said_0 : cX11_said.data.toList.drop 0 = dktX11_said_0 := by decide +kernel
theorem dksX11_said_1 : cX11_said.data.toList.drop 24 = dktX11_said_1 := dk_seg dksX11_said_0 24 rfl rfl
theorem dksX11_said_2 : cX11_said.data.toList.drop 46 = dktX11_said_2 := dk_seg dksX11_said_1 22 rfl rfl
theorem dksX11_said_3 : cX11_said.data.toList.drop 68 = dktX11_said_3 := dk_seg dksX11_said_2 22 rfl rfl
theorem dX11_said_0 : decode cX11_said 0 = .ok (.aload_n 0, 1) := dk_42 (dk_at dksX11_said_0 0 rfl rfl)
theorem dX11_said_1 : decode cX11_said 1 = .ok (.iconst 0, 1) := dk_3 (dk_at dksX11_said_0 1 rfl rfl)
theorem dX11_said_2 : decode cX11_said 2 = .ok (.putfield 106, 3) := dk_181 0 106 (dk_at dksX11_said_0 2 rfl rfl)
theorem dX11_said_5 : decode cX11_said 5 = .ok (.aload_n 0, 1) := dk_42 (dk_at dksX11_said_0 5 rfl rfl)
theorem dX11_said_6 : decode cX11_said 6 = .ok (.getfield 13, 3) := dk_180 0 13 (dk_at dksX11_said_0 6 rfl rfl)
theorem dX11_said_9 : decode cX11_said 9 = .ok (.sipush 910, 3) := dk_17 3 142 (dk_at dksX11_said_0 9 rfl rfl)
theorem dX11_said_12 : decode cX11_said 12 = .ok (.iaload, 1) := dk_46 (dk_at dksX11_said_0 12 rfl rfl)
theorem dX11_said_13 : decode cX11_said 13 = .ok (.ifCond .ne 5, 3) := dk_154 0 5 (dk_at dksX11_said_0 13 rfl rfl)
theorem dX11_said_16 : decode cX11_said 16 = .ok (.iconst (-1), 1) := dk_2 (dk_at dksX11_said_0 16 rfl rfl)
theorem dX11_said_17 : decode cX11_said 17 = .ok (.ireturn, 1) := dk_172 (dk_at dksX11_said_0 17 rfl rfl)
theorem dX11_said_18 : decode cX11_said 18 = .ok (.aload_n 0, 1) := dk_42 (dk_at dksX11_said_0 18 rfl rfl)
theorem dX11_said_19 : decode cX11_said 19 = .ok (.invokevirtual 270, 3) := dk_182 1 14 (dk_at dksX11_said_0 19 rfl rfl)
theorem dX11_said_22 : decode cX11_said 22 = .ok (.iconst 0, 1) := dk_3 (dk_at dksX11_said_0 22 rfl rfl)
theorem dX11_said_23 : decode cX11_said 23 = .ok (.istore_n 2, 1) := dk_61 (dk_at dksX11_said_0 23 rfl rfl)
theorem dX11_said_24 : decode cX11_said 24 = .ok (.iconst 0, 1) := dk_3 (dk_at dksX11_said_1 0 rfl rfl)
theorem dX11_said_25 : decode cX11_said 25 = .ok (.istore_n 3, 1) := dk_62 (dk_at dksX11_said_1 1 rfl rfl)
theorem dX11_said_26 : decode cX11_said 26 = .ok (.iload_n 3, 1) := dk_29 (dk_at dksX11_said_1 2 rfl rfl)
theorem dX11_said_27 : decode cX11_said 27 = .ok (.aload_n 0, 1) := dk_42 (dk_at dksX11_said_1 3 rfl rfl)
theorem dX11_said_28 : decode cX11_said 28 = .ok (.getfield 60, 3) := dk_180 0 60 (dk_at dksX11_said_1 4 rfl rfl)
theorem dX11_said_31 : decode cX11_said 31 = .ok (.iconst 0, 1) := dk_3 (dk_at dksX11_said_1 7 rfl rfl)
theorem dX11_said_32 : decode cX11_said 32 = .ok (.iaload, 1) := dk_46 (dk_at dksX11_said_1 8 rfl rfl)
theorem dX11_said_33 : decode cX11_said 33 = .ok (.if_icmp .ge 38, 3) := dk_162 0 38 (dk_at dksX11_said_1 9 rfl rfl)
theorem dX11_said_36 : decode cX11_said 36 = .ok (.aload_n 0, 1) := dk_42 (dk_at dksX11_said_1 12 rfl rfl)
theorem dX11_said_37 : decode cX11_said 37 = .ok (.aload_n 0, 1) := dk_42 (dk_at dksX11_said_1 13 rfl rfl)
theorem dX11_said_38 : decode cX11_said 38 = .ok (.getfield 13, 3) := dk_180 0 13 (dk_at dksX11_said_1 14 rfl rfl)
theorem dX11_said_41 : decode cX11_said 41 = .ok (.sipush 911, 3) := dk_17 3 143 (dk_at dksX11_said_1 17 rfl rfl)
theorem dX11_said_44 : decode cX11_said 44 = .ok (.iaload, 1) := dk_46 (dk_at dksX11_said_1 20 rfl rfl)
theorem dX11_said_45 : decode cX11_said 45 = .ok (.iload_n 3, 1) := dk_29 (dk_at dksX11_said_1 21 rfl rfl)
theorem dX11_said_46 : decode cX11_said 46 = .ok (.invokevirtual 426, 3) := dk_182 1 170 (dk_at dksX11_said_2 0 rfl rfl)
theorem dX11_said_49 : decode cX11_said 49 = .ok (.ifCond .ne 6, 3) := dk_154 0 6 (dk_at dksX11_said_2 3 rfl rfl)
theorem dX11_said_52 : decode cX11_said 52 = .ok (.goto 13, 3) := dk_167 0 13 (dk_at dksX11_said_2 6 rfl rfl)
theorem dX11_said_55 : decode cX11_said 55 = .ok (.iload_n 2, 1) := dk_28 (dk_at dksX11_said_2 9 rfl rfl)
theorem dX11_said_56 : decode cX11_said 56 = .ok (.iload_n 1, 1) := dk_27 (dk_at dksX11_said_2 10 rfl rfl)
theorem dX11_said_57 : decode cX11_said 57 = .ok (.if_icmp .ne 5, 3) := dk_160 0 5 (dk_at dksX11_said_2 11 rfl rfl)
theorem dX11_said_60 : decode cX11_said 60 = .ok (.iload_n 3, 1) := dk_29 (dk_at dksX11_said_2 14 rfl rfl)
theorem dX11_said_61 : decode cX11_said 61 = .ok (.ireturn, 1) := dk_172 (dk_at dksX11_said_2 15 rfl rfl)
theorem dX11_said_62 : decode cX11_said 62 = .ok (.iinc 2 1, 3) := dk_132 2 1 (dk_at dksX11_said_2 16 rfl rfl)
theorem dX11_said_65 : decode cX11_said 65 = .ok (.iinc 3 1, 3) := dk_132 3 1 (dk_at dksX11_said_2 19 rfl rfl)
theorem dX11_said_68 : decode cX11_said 68 = .ok (.goto (-42), 3) := dk_167 255 214 (dk_at dksX11_said_3 0 rfl rfl)
theorem dX11_said_71 : decode cX11_said 71 = .ok (.iload_n 1, 1) := dk_27 (dk_at dksX11_said_3 3 rfl rfl)
theorem dX11_said_72 : decode cX11_said 72 = .ok (.iconst (-1), 1) := dk_2 (dk_at dksX11_said_3 4 rfl rfl)
theorem dX11_said_73 : decode cX11_said 73 = .ok (.if_icmp .ne 7, 3) := dk_160 0 7 (dk_at dksX11_said_3 5 rfl rfl)
theorem dX11_said_76 : decode cX11_said 76 = .ok (.iload_n 2, 1) := dk_28 (dk_at dksX11_said_3 8 rfl rfl)
theorem dX11_said_77 : decode cX11_said 77 = .ok (.goto 4, 3) := dk_167 0 4 (dk_at dksX11_said_3 9 rfl rfl)
theorem dX11_said_80 : decode cX11_said 80 = .ok (.iconst (-1), 1) := dk_2 (dk_at dksX11_said_3 12 rfl rfl)
theorem dX11_said_81 : decode cX11_said 81 = .ok (.ireturn, 1) := dk_172 (dk_at dksX11_said_3 13 rfl rfl)
abbrev cX11_holds : ByteArray := prog_21_method_107_code
def yX11_holds : MethodName := ⟨RX11, "holds", "(II)Z"⟩
def dkwX11_holds_12 : List UInt8 := [167, 0, 4, 3, 172]
abbrev dktX11_holds_12 : List UInt8 := dkwX11_holds_12 ++ []
def dkwX11_holds_11 : List UInt8 := [21, 6, 21, 5, 160, 0, 7, 4, 167, 0, 19, 3, 167, 0, 15, 21, 6, 21, 5, 164, 0, 7, 4]
abbrev dktX11_holds_11 : List UInt8 := dkwX11_holds_11 ++ dktX11_holds_12
def dkwX11_holds_10 : List UInt8 := [162, 0, 7, 4, 167, 0, 47, 3, 167, 0, 43, 42, 180, 0, 13, 29, 6, 96, 46, 16, 61, 160, 0, 18]
abbrev dktX11_holds_10 : List UInt8 := dkwX11_holds_10 ++ dktX11_holds_11
def dkwX11_holds_9 : List UInt8 := [46, 28, 182, 1, 173, 54, 6, 42, 180, 0, 13, 29, 6, 96, 46, 16, 60, 160, 0, 18, 21, 6, 21, 5]
abbrev dktX11_holds_9 : List UInt8 := dkwX11_holds_9 ++ dktX11_holds_10
def dkwX11_holds_8 : List UInt8 := [172, 42, 180, 0, 45, 28, 46, 21, 4, 160, 0, 7, 4, 167, 0, 4, 3, 172, 42, 42, 180, 0, 13, 29]
abbrev dktX11_holds_8 : List UInt8 := dkwX11_holds_8 ++ dktX11_holds_9
def dkwX11_holds_7 : List UInt8 := [159, 0, 23, 42, 180, 0, 42, 42, 180, 0, 48, 28, 46, 46, 21, 4, 160, 0, 7, 4, 167, 0, 4, 3]
abbrev dktX11_holds_7 : List UInt8 := dkwX11_holds_7 ++ dktX11_holds_8
def dkwX11_holds_6 : List UInt8 := [180, 0, 42, 28, 46, 21, 4, 160, 0, 7, 4, 167, 0, 4, 3, 172, 42, 180, 0, 48, 28, 46, 2]
abbrev dktX11_holds_6 : List UInt8 := dkwX11_holds_6 ++ dktX11_holds_7
def dkwX11_holds_5 : List UInt8 := [182, 1, 170, 154, 0, 13, 42, 21, 5, 28, 182, 1, 170, 153, 0, 7, 4, 167, 0, 4, 3, 172, 42]
abbrev dktX11_holds_5 : List UInt8 := dkwX11_holds_5 ++ dktX11_holds_6
def dkwX11_holds_4 : List UInt8 := [153, 0, 17, 42, 21, 5, 28, 182, 1, 170, 153, 0, 7, 4, 167, 0, 4, 3, 172, 42, 21, 4, 28]
abbrev dktX11_holds_4 : List UInt8 := dkwX11_holds_4 ++ dktX11_holds_5
def dkwX11_holds_3 : List UInt8 := [42, 21, 4, 28, 182, 1, 170, 154, 0, 7, 4, 167, 0, 4, 3, 172, 42, 21, 4, 28, 182, 1, 170]
abbrev dktX11_holds_3 : List UInt8 := dkwX11_holds_3 ++ dktX11_holds_4
def dkwX11_holds_2 : List UInt8 := [170, 0, 0, 0, 0, 172, 0, 0, 0, 1, 0, 0, 0, 6, 0, 0, 0, 38, 0, 0, 0, 54, 0, 0, 0, 80, 0, 0, 0, 106, 0, 0, 0, 123, 0, 0, 0, 155]
abbrev dktX11_holds_2 : List UInt8 := dkwX11_holds_2 ++ dktX11_holds_3
def dkwX11_holds_1 : List UInt8 := [96, 46, 54, 5, 42, 180, 0, 13, 29, 46]
abbrev dktX11_holds_1 : List UInt8 := dkwX11_holds_1 ++ dktX11_holds_2
def dkwX11_holds_0 : List UInt8 := [17, 3, 144, 7, 27, 104, 96, 62, 42, 180, 0, 13, 29, 4, 96, 46, 54, 4, 42, 180, 0, 13, 29, 5]
abbrev dktX11_holds_0 : List UInt8 := dkwX11_holds_0 ++ dktX11_holds_1
theorem dksX11_holds_0 : cX11_holds.data.toList.drop 0 = dktX11_holds_0 := by decide +kernel
theorem dksX11_holds_1 : cX11_holds.data.toList.drop 24 = dktX11_holds_1 := dk_seg dksX11_holds_0 24 rfl rfl
theorem dksX11_holds_2 : cX11_holds.data.toList.drop 34 = dktX11_holds_2 := dk_seg dksX11_holds_1 10 rfl rfl
theorem dksX11_holds_3 : cX11_holds.data.toList.drop 72 = dktX11_holds_3 := dk_seg dksX11_holds_2 38 rfl rfl
theorem dksX11_holds_4 : cX11_holds.data.toList.drop 95 = dktX11_holds_4 := dk_seg dksX11_holds_3 23 rfl rfl
theorem dksX11_holds_5 : cX11_holds.data.toList.drop 118 = dktX11_holds_5 := dk_seg dksX11_holds_4 23 rfl rfl
theorem dksX11_holds_6 : cX11_holds.data.toList.drop 141 = dktX11_holds_6 := dk_seg dksX11_holds_5 23 rfl rfl
theorem dksX11_holds_7 : cX11_holds.data.toList.drop 164 = dktX11_holds_7 := dk_seg dksX11_holds_6 23 rfl rfl
theorem dksX11_holds_8 : cX11_holds.data.toList.drop 188 = dktX11_holds_8 := dk_seg dksX11_holds_7 24 rfl rfl
theorem dksX11_holds_9 : cX11_holds.data.toList.drop 212 = dktX11_holds_9 := dk_seg dksX11_holds_8 24 rfl rfl
theorem dksX11_holds_10 : cX11_holds.data.toList.drop 236 = dktX11_holds_10 := dk_seg dksX11_holds_9 24 rfl rfl
theorem dksX11_holds_11 : cX11_holds.data.toList.drop 260 = dktX11_holds_11 := dk_seg dksX11_holds_10 24 rfl rfl
theorem dksX11_holds_12 : cX11_holds.data.toList.drop 283 = dktX11_holds_12 := dk_seg dksX11_holds_11 23 rfl rfl
theorem dX11_holds_0 : decode cX11_holds 0 = .ok (.sipush 912, 3) := dk_17 3 144 (dk_at dksX11_holds_0 0 rfl rfl)
theorem dX11_holds_3 : decode cX11_holds 3 = .ok (.iconst 4, 1) := dk_7 (dk_at dksX11_holds_0 3 rfl rfl)
theorem dX11_holds_4 : decode cX11_holds 4 = .ok (.iload_n 1, 1) := dk_27 (dk_at dksX11_holds_0 4 rfl rfl)
theorem dX11_holds_5 : decode cX11_holds 5 = .ok (.imul, 1) := dk_104 (dk_at dksX11_holds_0 5 rfl rfl)
theorem dX11_holds_6 : decode cX11_holds 6 = .ok (.iadd, 1) := dk_96 (dk_at dksX11_holds_0 6 rfl rfl)
theorem dX11_holds_7 : decode cX11_holds 7 = .ok (.istore_n 3, 1) := dk_62 (dk_at dksX11_holds_0 7 rfl rfl)
theorem dX11_holds_8 : decode cX11_holds 8 = .ok (.aload_n 0, 1) := dk_42 (dk_at dksX11_holds_0 8 rfl rfl)
theorem dX11_holds_9 : decode cX11_holds 9 = .ok (.getfield 13, 3) := dk_180 0 13 (dk_at dksX11_holds_0 9 rfl rfl)
theorem dX11_holds_12 : decode cX11_holds 12 = .ok (.iload_n 3, 1) := dk_29 (dk_at dksX11_holds_0 12 rfl rfl)
theorem dX11_holds_13 : decode cX11_holds 13 = .ok (.iconst 1, 1) := dk_4 (dk_at dksX11_holds_0 13 rfl rfl)
theorem dX11_holds_14 : decode cX11_holds 14 = .ok (.iadd, 1) := dk_96 (dk_at dksX11_holds_0 14 rfl rfl)
theorem dX11_holds_15 : decode cX11_holds 15 = .ok (.iaload, 1) := dk_46 (dk_at dksX11_holds_0 15 rfl rfl)
theorem dX11_holds_16 : decode cX11_holds 16 = .ok (.istore 4, 2) := dk_54 4 (dk_at dksX11_holds_0 16 rfl rfl)
theorem dX11_holds_18 : decode cX11_holds 18 = .ok (.aload_n 0, 1) := dk_42 (dk_at dksX11_holds_0 18 rfl rfl)
theorem dX11_holds_19 : decode cX11_holds 19 = .ok (.getfield 13, 3) := dk_180 0 13 (dk_at dksX11_holds_0 19 rfl rfl)
theorem dX11_holds_22 : decode cX11_holds 22 = .ok (.iload_n 3, 1) := dk_29 (dk_at dksX11_holds_0 22 rfl rfl)
theorem dX11_holds_23 : decode cX11_holds 23 = .ok (.iconst 2, 1) := dk_5 (dk_at dksX11_holds_0 23 rfl rfl)
theorem dX11_holds_24 : decode cX11_holds 24 = .ok (.iadd, 1) := dk_96 (dk_at dksX11_holds_1 0 rfl rfl)
theorem dX11_holds_25 : decode cX11_holds 25 = .ok (.iaload, 1) := dk_46 (dk_at dksX11_holds_1 1 rfl rfl)
theorem dX11_holds_26 : decode cX11_holds 26 = .ok (.istore 5, 2) := dk_54 5 (dk_at dksX11_holds_1 2 rfl rfl)
theorem dX11_holds_28 : decode cX11_holds 28 = .ok (.aload_n 0, 1) := dk_42 (dk_at dksX11_holds_1 4 rfl rfl)
theorem dX11_holds_29 : decode cX11_holds 29 = .ok (.getfield 13, 3) := dk_180 0 13 (dk_at dksX11_holds_1 5 rfl rfl)
theorem dX11_holds_32 : decode cX11_holds 32 = .ok (.iload_n 3, 1) := dk_29 (dk_at dksX11_holds_1 8 rfl rfl)
theorem dX11_holds_33 : decode cX11_holds 33 = .ok (.iaload, 1) := dk_46 (dk_at dksX11_holds_1 9 rfl rfl)
theorem dX11_holds_34 : decode cX11_holds 34 = .ok (.tableswitch 172 1 6 #[38, 54, 80, 106, 123, 155], 38) := by decide +kernel
theorem dX11_holds_72 : decode cX11_holds 72 = .ok (.aload_n 0, 1) := dk_42 (dk_at dksX11_holds_3 0 rfl rfl)
theorem dX11_holds_73 : decode cX11_holds 73 = .ok (.iload 4, 2) := dk_21 4 (dk_at dksX11_holds_3 1 rfl rfl)
theorem dX11_holds_75 : decode cX11_holds 75 = .ok (.iload_n 2, 1) := dk_28 (dk_at dksX11_holds_3 3 rfl rfl)
theorem dX11_holds_76 : decode cX11_holds 76 = .ok (.invokevirtual 426, 3) := dk_182 1 170 (dk_at dksX11_holds_3 4 rfl rfl)
theorem dX11_holds_79 : decode cX11_holds 79 = .ok (.ifCond .ne 7, 3) := dk_154 0 7 (dk_at dksX11_holds_3 7 rfl rfl)
theorem dX11_holds_82 : decode cX11_holds 82 = .ok (.iconst 1, 1) := dk_4 (dk_at dksX11_holds_3 10 rfl rfl)
theorem dX11_holds_83 : decode cX11_holds 83 = .ok (.goto 4, 3) := dk_167 0 4 (dk_at dksX11_holds_3 11 rfl rfl)
theorem dX11_holds_86 : decode cX11_holds 86 = .ok (.iconst 0, 1) := dk_3 (dk_at dksX11_holds_3 14 rfl rfl)
theorem dX11_holds_87 : decode cX11_holds 87 = .ok (.ireturn, 1) := dk_172 (dk_at dksX11_holds_3 15 rfl rfl)
theorem dX11_holds_88 : decode cX11_holds 88 = .ok (.aload_n 0, 1) := dk_42 (dk_at dksX11_holds_3 16 rfl rfl)
theorem dX11_holds_89 : decode cX11_holds 89 = .ok (.iload 4, 2) := dk_21 4 (dk_at dksX11_holds_3 17 rfl rfl)
theorem dX11_holds_91 : decode cX11_holds 91 = .ok (.iload_n 2, 1) := dk_28 (dk_at dksX11_holds_3 19 rfl rfl)
theorem dX11_holds_92 : decode cX11_holds 92 = .ok (.invokevirtual 426, 3) := dk_182 1 170 (dk_at dksX11_holds_3 20 rfl rfl)
theorem dX11_holds_95 : decode cX11_holds 95 = .ok (.ifCond .eq 17, 3) := dk_153 0 17 (dk_at dksX11_holds_4 0 rfl rfl)
theorem dX11_holds_98 : decode cX11_holds 98 = .ok (.aload_n 0, 1) := dk_42 (dk_at dksX11_holds_4 3 rfl rfl)
theorem dX11_holds_99 : decode cX11_holds 99 = .ok (.iload 5, 2) := dk_21 5 (dk_at dksX11_holds_4 4 rfl rfl)
theorem dX11_holds_101 : decode cX11_holds 101 = .ok (.iload_n 2, 1) := dk_28 (dk_at dksX11_holds_4 6 rfl rfl)
theorem dX11_holds_102 : decode cX11_holds 102 = .ok (.invokevirtual 426, 3) := dk_182 1 170 (dk_at dksX11_holds_4 7 rfl rfl)
theorem dX11_holds_105 : decode cX11_holds 105 = .ok (.ifCond .eq 7, 3) := dk_153 0 7 (dk_at dksX11_holds_4 10 rfl rfl)
theorem dX11_holds_108 : decode cX11_holds 108 = .ok (.iconst 1, 1) := dk_4 (dk_at dksX11_holds_4 13 rfl rfl)
theorem dX11_holds_109 : decode cX11_holds 109 = .ok (.goto 4, 3) := dk_167 0 4 (dk_at dksX11_holds_4 14 rfl rfl)
theorem dX11_holds_112 : decode cX11_holds 112 = .ok (.iconst 0, 1) := dk_3 (dk_at dksX11_holds_4 17 rfl rfl)
theorem dX11_holds_113 : decode cX11_holds 113 = .ok (.ireturn, 1) := dk_172 (dk_at dksX11_holds_4 18 rfl rfl)
theorem dX11_holds_114 : decode cX11_holds 114 = .ok (.aload_n 0, 1) := dk_42 (dk_at dksX11_holds_4 19 rfl rfl)
theorem dX11_holds_115 : decode cX11_holds 115 = .ok (.iload 4, 2) := dk_21 4 (dk_at dksX11_holds_4 20 rfl rfl)
theorem dX11_holds_117 : decode cX11_holds 117 = .ok (.iload_n 2, 1) := dk_28 (dk_at dksX11_holds_4 22 rfl rfl)
theorem dX11_holds_118 : decode cX11_holds 118 = .ok (.invokevirtual 426, 3) := dk_182 1 170 (dk_at dksX11_holds_5 0 rfl rfl)
theorem dX11_holds_121 : decode cX11_holds 121 = .ok (.ifCond .ne 13, 3) := dk_154 0 13 (dk_at dksX11_holds_5 3 rfl rfl)
theorem dX11_holds_124 : decode cX11_holds 124 = .ok (.aload_n 0, 1) := dk_42 (dk_at dksX11_holds_5 6 rfl rfl)
theorem dX11_holds_125 : decode cX11_holds 125 = .ok (.iload 5, 2) := dk_21 5 (dk_at dksX11_holds_5 7 rfl rfl)
theorem dX11_holds_127 : decode cX11_holds 127 = .ok (.iload_n 2, 1) := dk_28 (dk_at dksX11_holds_5 9 rfl rfl)
theorem dX11_holds_128 : decode cX11_holds 128 = .ok (.invokevirtual 426, 3) := dk_182 1 170 (dk_at dksX11_holds_5 10 rfl rfl)
theorem dX11_holds_131 : decode cX11_holds 131 = .ok (.ifCond .eq 7, 3) := dk_153 0 7 (dk_at dksX11_holds_5 13 rfl rfl)
theorem dX11_holds_134 : decode cX11_holds 134 = .ok (.iconst 1, 1) := dk_4 (dk_at dksX11_holds_5 16 rfl rfl)
theorem dX11_holds_135 : decode cX11_holds 135 = .ok (.goto 4, 3) := dk_167 0 4 (dk_at dksX11_holds_5 17 rfl rfl)
theorem dX11_holds_138 : decode cX11_holds 138 = .ok (.iconst 0, 1) := dk_3 (dk_at dksX11_holds_5 20 rfl rfl)
theorem dX11_holds_139 : decode cX11_holds 139 = .ok (.ireturn, 1) := dk_172 (dk_at dksX11_holds_5 21 rfl rfl)
theorem dX11_holds_140 : decode cX11_holds 140 = .ok (.aload_n 0, 1) := dk_42 (dk_at dksX11_holds_5 22 rfl rfl)
theorem dX11_holds_141 : decode cX11_holds 141 = .ok (.getfield 42, 3) := dk_180 0 42 (dk_at dksX11_holds_6 0 rfl rfl)
theorem dX11_holds_144 : decode cX11_holds 144 = .ok (.iload_n 2, 1) := dk_28 (dk_at dksX11_holds_6 3 rfl rfl)
theorem dX11_holds_145 : decode cX11_holds 145 = .ok (.iaload, 1) := dk_46 (dk_at dksX11_holds_6 4 rfl rfl)
theorem dX11_holds_146 : decode cX11_holds 146 = .ok (.iload 4, 2) := dk_21 4 (dk_at dksX11_holds_6 5 rfl rfl)
theorem dX11_holds_148 : decode cX11_holds 148 = .ok (.if_icmp .ne 7, 3) := dk_160 0 7 (dk_at dksX11_holds_6 7 rfl rfl)
theorem dX11_holds_151 : decode cX11_holds 151 = .ok (.iconst 1, 1) := dk_4 (dk_at dksX11_holds_6 10 rfl rfl)
theorem dX11_holds_152 : decode cX11_holds 152 = .ok (.goto 4, 3) := dk_167 0 4 (dk_at dksX11_holds_6 11 rfl rfl)
theorem dX11_holds_155 : decode cX11_holds 155 = .ok (.iconst 0, 1) := dk_3 (dk_at dksX11_holds_6 14 rfl rfl)
theorem dX11_holds_156 : decode cX11_holds 156 = .ok (.ireturn, 1) := dk_172 (dk_at dksX11_holds_6 15 rfl rfl)
theorem dX11_holds_157 : decode cX11_holds 157 = .ok (.aload_n 0, 1) := dk_42 (dk_at dksX11_holds_6 16 rfl rfl)
theorem dX11_holds_158 : decode cX11_holds 158 = .ok (.getfield 48, 3) := dk_180 0 48 (dk_at dksX11_holds_6 17 rfl rfl)
theorem dX11_holds_161 : decode cX11_holds 161 = .ok (.iload_n 2, 1) := dk_28 (dk_at dksX11_holds_6 20 rfl rfl)
theorem dX11_holds_162 : decode cX11_holds 162 = .ok (.iaload, 1) := dk_46 (dk_at dksX11_holds_6 21 rfl rfl)
theorem dX11_holds_163 : decode cX11_holds 163 = .ok (.iconst (-1), 1) := dk_2 (dk_at dksX11_holds_6 22 rfl rfl)
theorem dX11_holds_164 : decode cX11_holds 164 = .ok (.if_icmp .eq 23, 3) := dk_159 0 23 (dk_at dksX11_holds_7 0 rfl rfl)
theorem dX11_holds_167 : decode cX11_holds 167 = .ok (.aload_n 0, 1) := dk_42 (dk_at dksX11_holds_7 3 rfl rfl)
theorem dX11_holds_168 : decode cX11_holds 168 = .ok (.getfield 42, 3) := dk_180 0 42 (dk_at dksX11_holds_7 4 rfl rfl)
theorem dX11_holds_171 : decode cX11_holds 171 = .ok (.aload_n 0, 1) := dk_42 (dk_at dksX11_holds_7 7 rfl rfl)
theorem dX11_holds_172 : decode cX11_holds 172 = .ok (.getfield 48, 3) := dk_180 0 48 (dk_at dksX11_holds_7 8 rfl rfl)
theorem dX11_holds_175 : decode cX11_holds 175 = .ok (.iload_n 2, 1) := dk_28 (dk_at dksX11_holds_7 11 rfl rfl)
theorem dX11_holds_176 : decode cX11_holds 176 = .ok (.iaload, 1) := dk_46 (dk_at dksX11_holds_7 12 rfl rfl)
theorem dX11_holds_177 : decode cX11_holds 177 = .ok (.iaload, 1) := dk_46 (dk_at dksX11_holds_7 13 rfl rfl)
theorem dX11_holds_178 : decode cX11_holds 178 = .ok (.iload 4, 2) := dk_21 4 (dk_at dksX11_holds_7 14 rfl rfl)
theorem dX11_holds_180 : decode cX11_holds 180 = .ok (.if_icmp .ne 7, 3) := dk_160 0 7 (dk_at dksX11_holds_7 16 rfl rfl)
theorem dX11_holds_183 : decode cX11_holds 183 = .ok (.iconst 1, 1) := dk_4 (dk_at dksX11_holds_7 19 rfl rfl)
theorem dX11_holds_184 : decode cX11_holds 184 = .ok (.goto 4, 3) := dk_167 0 4 (dk_at dksX11_holds_7 20 rfl rfl)
theorem dX11_holds_187 : decode cX11_holds 187 = .ok (.iconst 0, 1) := dk_3 (dk_at dksX11_holds_7 23 rfl rfl)
theorem dX11_holds_188 : decode cX11_holds 188 = .ok (.ireturn, 1) := dk_172 (dk_at dksX11_holds_8 0 rfl rfl)
theorem dX11_holds_189 : decode cX11_holds 189 = .ok (.aload_n 0, 1) := dk_42 (dk_at dksX11_holds_8 1 rfl rfl)
theorem dX11_holds_190 : decode cX11_holds 190 = .ok (.getfield 45, 3) := dk_180 0 45 (dk_at dksX11_holds_8 2 rfl rfl)
theorem dX11_holds_193 : decode cX11_holds 193 = .ok (.iload_n 2, 1) := dk_28 (dk_at dksX11_holds_8 5 rfl rfl)
theorem dX11_holds_194 : decode cX11_holds 194 = .ok (.iaload, 1) := dk_46 (dk_at dksX11_holds_8 6 rfl rfl)
theorem dX11_holds_195 : decode cX11_holds 195 = .ok (.iload 4, 2) := dk_21 4 (dk_at dksX11_holds_8 7 rfl rfl)
theorem dX11_holds_197 : decode cX11_holds 197 = .ok (.if_icmp .ne 7, 3) := dk_160 0 7 (dk_at dksX11_holds_8 9 rfl rfl)
theorem dX11_holds_200 : decode cX11_holds 200 = .ok (.iconst 1, 1) := dk_4 (dk_at dksX11_holds_8 12 rfl rfl)
theorem dX11_holds_201 : decode cX11_holds 201 = .ok (.goto 4, 3) := dk_167 0 4 (dk_at dksX11_holds_8 13 rfl rfl)
theorem dX11_holds_204 : decode cX11_holds 204 = .ok (.iconst 0, 1) := dk_3 (dk_at dksX11_holds_8 16 rfl rfl)
theorem dX11_holds_205 : decode cX11_holds 205 = .ok (.ireturn, 1) := dk_172 (dk_at dksX11_holds_8 17 rfl rfl)
theorem dX11_holds_206 : decode cX11_holds 206 = .ok (.aload_n 0, 1) := dk_42 (dk_at dksX11_holds_8 18 rfl rfl)
theorem dX11_holds_207 : decode cX11_holds 207 = .ok (.aload_n 0, 1) := dk_42 (dk_at dksX11_holds_8 19 rfl rfl)
theorem dX11_holds_208 : decode cX11_holds 208 = .ok (.getfield 13, 3) := dk_180 0 13 (dk_at dksX11_holds_8 20 rfl rfl)
theorem dX11_holds_211 : decode cX11_holds 211 = .ok (.iload_n 3, 1) := dk_29 (dk_at dksX11_holds_8 23 rfl rfl)
theorem dX11_holds_212 : decode cX11_holds 212 = .ok (.iaload, 1) := dk_46 (dk_at dksX11_holds_9 0 rfl rfl)
theorem dX11_holds_213 : decode cX11_holds 213 = .ok (.iload_n 2, 1) := dk_28 (dk_at dksX11_holds_9 1 rfl rfl)
theorem dX11_holds_214 : decode cX11_holds 214 = .ok (.invokevirtual 429, 3) := dk_182 1 173 (dk_at dksX11_holds_9 2 rfl rfl)
theorem dX11_holds_217 : decode cX11_holds 217 = .ok (.istore 6, 2) := dk_54 6 (dk_at dksX11_holds_9 5 rfl rfl)
theorem dX11_holds_219 : decode cX11_holds 219 = .ok (.aload_n 0, 1) := dk_42 (dk_at dksX11_holds_9 7 rfl rfl)
theorem dX11_holds_220 : decode cX11_holds 220 = .ok (.getfield 13, 3) := dk_180 0 13 (dk_at dksX11_holds_9 8 rfl rfl)
theorem dX11_holds_223 : decode cX11_holds 223 = .ok (.iload_n 3, 1) := dk_29 (dk_at dksX11_holds_9 11 rfl rfl)
theorem dX11_holds_224 : decode cX11_holds 224 = .ok (.iconst 3, 1) := dk_6 (dk_at dksX11_holds_9 12 rfl rfl)
theorem dX11_holds_225 : decode cX11_holds 225 = .ok (.iadd, 1) := dk_96 (dk_at dksX11_holds_9 13 rfl rfl)
theorem dX11_holds_226 : decode cX11_holds 226 = .ok (.iaload, 1) := dk_46 (dk_at dksX11_holds_9 14 rfl rfl)
theorem dX11_holds_227 : decode cX11_holds 227 = .ok (.bipush 60, 2) := dk_16 60 (dk_at dksX11_holds_9 15 rfl rfl)
theorem dX11_holds_229 : decode cX11_holds 229 = .ok (.if_icmp .ne 18, 3) := dk_160 0 18 (dk_at dksX11_holds_9 17 rfl rfl)
theorem dX11_holds_232 : decode cX11_holds 232 = .ok (.iload 6, 2) := dk_21 6 (dk_at dksX11_holds_9 20 rfl rfl)
theorem dX11_holds_234 : decode cX11_holds 234 = .ok (.iload 5, 2) := dk_21 5 (dk_at dksX11_holds_9 22 rfl rfl)
theorem dX11_holds_236 : decode cX11_holds 236 = .ok (.if_icmp .ge 7, 3) := dk_162 0 7 (dk_at dksX11_holds_10 0 rfl rfl)
theorem dX11_holds_239 : decode cX11_holds 239 = .ok (.iconst 1, 1) := dk_4 (dk_at dksX11_holds_10 3 rfl rfl)
theorem dX11_holds_240 : decode cX11_holds 240 = .ok (.goto 47, 3) := dk_167 0 47 (dk_at dksX11_holds_10 4 rfl rfl)
theorem dX11_holds_243 : decode cX11_holds 243 = .ok (.iconst 0, 1) := dk_3 (dk_at dksX11_holds_10 7 rfl rfl)
theorem dX11_holds_244 : decode cX11_holds 244 = .ok (.goto 43, 3) := dk_167 0 43 (dk_at dksX11_holds_10 8 rfl rfl)
theorem dX11_holds_247 : decode cX11_holds 247 = .ok (.aload_n 0, 1) := dk_42 (dk_at dksX11_holds_10 11 rfl rfl)
theorem dX11_holds_248 : decode cX11_holds 248 = .ok (.getfield 13, 3) := dk_180 0 13 (dk_at dksX11_holds_10 12 rfl rfl)
theorem dX11_holds_251 : decode cX11_holds 251 = .ok (.iload_n 3, 1) := dk_29 (dk_at dksX11_holds_10 15 rfl rfl)
theorem dX11_holds_252 : decode cX11_holds 252 = .ok (.iconst 3, 1) := dk_6 (dk_at dksX11_holds_10 16 rfl rfl)
theorem dX11_holds_253 : decode cX11_holds 253 = .ok (.iadd, 1) := dk_96 (dk_at dksX11_holds_10 17 rfl rfl)
theorem dX11_holds_254 : decode cX11_holds 254 = .ok (.iaload, 1) := dk_46 (dk_at dksX11_holds_10 18 rfl rfl)
theorem dX11_holds_255 : decode cX11_holds 255 = .ok (.bipush 61, 2) := dk_16 61 (dk_at dksX11_holds_10 19 rfl rfl)
theorem dX11_holds_257 : decode cX11_holds 257 = .ok (.if_icmp .ne 18, 3) := dk_160 0 18 (dk_at dksX11_holds_10 21 rfl rfl)
theorem dX11_holds_260 : decode cX11_holds 260 = .ok (.iload 6, 2) := dk_21 6 (dk_at dksX11_holds_11 0 rfl rfl)
theorem dX11_holds_262 : decode cX11_holds 262 = .ok (.iload 5, 2) := dk_21 5 (dk_at dksX11_holds_11 2 rfl rfl)
theorem dX11_holds_264 : decode cX11_holds 264 = .ok (.if_icmp .ne 7, 3) := dk_160 0 7 (dk_at dksX11_holds_11 4 rfl rfl)
theorem dX11_holds_267 : decode cX11_holds 267 = .ok (.iconst 1, 1) := dk_4 (dk_at dksX11_holds_11 7 rfl rfl)
theorem dX11_holds_268 : decode cX11_holds 268 = .ok (.goto 19, 3) := dk_167 0 19 (dk_at dksX11_holds_11 8 rfl rfl)
theorem dX11_holds_271 : decode cX11_holds 271 = .ok (.iconst 0, 1) := dk_3 (dk_at dksX11_holds_11 11 rfl rfl)
theorem dX11_holds_272 : decode cX11_holds 272 = .ok (.goto 15, 3) := dk_167 0 15 (dk_at dksX11_holds_11 12 rfl rfl)
theorem dX11_holds_275 : decode cX11_holds 275 = .ok (.iload 6, 2) := dk_21 6 (dk_at dksX11_holds_11 15 rfl rfl)
theorem dX11_holds_277 : decode cX11_holds 277 = .ok (.iload 5, 2) := dk_21 5 (dk_at dksX11_holds_11 17 rfl rfl)
theorem dX11_holds_279 : decode cX11_holds 279 = .ok (.if_icmp .le 7, 3) := dk_164 0 7 (dk_at dksX11_holds_11 19 rfl rfl)
theorem dX11_holds_282 : decode cX11_holds 282 = .ok (.iconst 1, 1) := dk_4 (dk_at dksX11_holds_11 22 rfl rfl)
theorem dX11_holds_283 : decode cX11_holds 283 = .ok (.goto 4, 3) := dk_167 0 4 (dk_at dksX11_holds_12 0 rfl rfl)
theorem dX11_holds_286 : decode cX11_holds 286 = .ok (.iconst 0, 1) := dk_3 (dk_at dksX11_holds_12 3 rfl rfl)
theorem dX11_holds_287 : decode cX11_holds 287 = .ok (.ireturn, 1) := dk_172 (dk_at dksX11_holds_12 4 rfl rfl)
abbrev cX11_valueOf : ByteArray := prog_21_method_106_code
def yX11_valueOf : MethodName := ⟨RX11, "valueOf", "(II)I"⟩
def dkwX11_valueOf_2 : List UInt8 := [3, 28, 182, 1, 33, 172]
abbrev dktX11_valueOf_2 : List UInt8 := dkwX11_valueOf_2 ++ []
def dkwX11_valueOf_1 : List UInt8 := [180, 0, 51, 28, 46, 167, 0, 24, 29, 16, 23, 160, 0, 12, 42, 180, 0, 54, 28, 46, 167, 0, 9, 42]
abbrev dktX11_valueOf_1 : List UInt8 := dkwX11_valueOf_1 ++ dktX11_valueOf_2
def dkwX11_valueOf_0 : List UInt8 := [27, 16, 50, 100, 62, 29, 16, 21, 160, 0, 7, 28, 167, 0, 39, 29, 16, 22, 160, 0, 12, 42]
abbrev dktX11_valueOf_0 : List UInt8 := dkwX11_valueOf_0 ++ dktX11_valueOf_1
theorem dksX11_valueOf_0 : cX11_valueOf.data.toList.drop 0 = dktX11_valueOf_0 := by decide +kernel
theorem dksX11_valueOf_1 : cX11_valueOf.data.toList.drop 22 = dktX11_valueOf_1 := dk_seg dksX11_valueOf_0 22 rfl rfl
theorem dksX11_valueOf_2 : cX11_valueOf.data.toList.drop 46 = dktX11_valueOf_2 := dk_seg dksX11_valueOf_1 24 rfl rfl
theorem dX11_valueOf_0 : decode cX11_valueOf 0 = .ok (.iload_n 1, 1) := dk_27 (dk_at dksX11_valueOf_0 0 rfl rfl)
theorem dX11_valueOf_1 : decode cX11_valueOf 1 = .ok (.bipush 50, 2) := dk_16 50 (dk_at dksX11_valueOf_0 1 rfl rfl)
theorem dX11_valueOf_3 : decode cX11_valueOf 3 = .ok (.isub, 1) := dk_100 (dk_at dksX11_valueOf_0 3 rfl rfl)
theorem dX11_valueOf_4 : decode cX11_valueOf 4 = .ok (.istore_n 3, 1) := dk_62 (dk_at dksX11_valueOf_0 4 rfl rfl)
theorem dX11_valueOf_5 : decode cX11_valueOf 5 = .ok (.iload_n 3, 1) := dk_29 (dk_at dksX11_valueOf_0 5 rfl rfl)
theorem dX11_valueOf_6 : decode cX11_valueOf 6 = .ok (.bipush 21, 2) := dk_16 21 (dk_at dksX11_valueOf_0 6 rfl rfl)
theorem dX11_valueOf_8 : decode cX11_valueOf 8 = .ok (.if_icmp .ne 7, 3) := dk_160 0 7 (dk_at dksX11_valueOf_0 8 rfl rfl)
theorem dX11_valueOf_11 : decode cX11_valueOf 11 = .ok (.iload_n 2, 1) := dk_28 (dk_at dksX11_valueOf_0 11 rfl rfl)
theorem dX11_valueOf_12 : decode cX11_valueOf 12 = .ok (.goto 39, 3) := dk_167 0 39 (dk_at dksX11_valueOf_0 12 rfl rfl)
theorem dX11_valueOf_15 : decode cX11_valueOf 15 = .ok (.iload_n 3, 1) := dk_29 (dk_at dksX11_valueOf_0 15 rfl rfl)
theorem dX11_valueOf_16 : decode cX11_valueOf 16 = .ok (.bipush 22, 2) := dk_16 22 (dk_at dksX11_valueOf_0 16 rfl rfl)
theorem dX11_valueOf_18 : decode cX11_valueOf 18 = .ok (.if_icmp .ne 12, 3) := dk_160 0 12 (dk_at dksX11_valueOf_0 18 rfl rfl)
theorem dX11_valueOf_21 : decode cX11_valueOf 21 = .ok (.aload_n 0, 1) := dk_42 (dk_at dksX11_valueOf_0 21 rfl rfl)
theorem dX11_valueOf_22 : decode cX11_valueOf 22 = .ok (.getfield 51, 3) := dk_180 0 51 (dk_at dksX11_valueOf_1 0 rfl rfl)
theorem dX11_valueOf_25 : decode cX11_valueOf 25 = .ok (.iload_n 2, 1) := dk_28 (dk_at dksX11_valueOf_1 3 rfl rfl)
theorem dX11_valueOf_26 : decode cX11_valueOf 26 = .ok (.iaload, 1) := dk_46 (dk_at dksX11_valueOf_1 4 rfl rfl)
theorem dX11_valueOf_27 : decode cX11_valueOf 27 = .ok (.goto 24, 3) := dk_167 0 24 (dk_at dksX11_valueOf_1 5 rfl rfl)
theorem dX11_valueOf_30 : decode cX11_valueOf 30 = .ok (.iload_n 3, 1) := dk_29 (dk_at dksX11_valueOf_1 8 rfl rfl)
theorem dX11_valueOf_31 : decode cX11_valueOf 31 = .ok (.bipush 23, 2) := dk_16 23 (dk_at dksX11_valueOf_1 9 rfl rfl)
theorem dX11_valueOf_33 : decode cX11_valueOf 33 = .ok (.if_icmp .ne 12, 3) := dk_160 0 12 (dk_at dksX11_valueOf_1 11 rfl rfl)
theorem dX11_valueOf_36 : decode cX11_valueOf 36 = .ok (.aload_n 0, 1) := dk_42 (dk_at dksX11_valueOf_1 14 rfl rfl)
theorem dX11_valueOf_37 : decode cX11_valueOf 37 = .ok (.getfield 54, 3) := dk_180 0 54 (dk_at dksX11_valueOf_1 15 rfl rfl)
theorem dX11_valueOf_40 : decode cX11_valueOf 40 = .ok (.iload_n 2, 1) := dk_28 (dk_at dksX11_valueOf_1 18 rfl rfl)
theorem dX11_valueOf_41 : decode cX11_valueOf 41 = .ok (.iaload, 1) := dk_46 (dk_at dksX11_valueOf_1 19 rfl rfl)
theorem dX11_valueOf_42 : decode cX11_valueOf 42 = .ok (.goto 9, 3) := dk_167 0 9 (dk_at dksX11_valueOf_1 20 rfl rfl)
theorem dX11_valueOf_45 : decode cX11_valueOf 45 = .ok (.aload_n 0, 1) := dk_42 (dk_at dksX11_valueOf_1 23 rfl rfl)
theorem dX11_valueOf_46 : decode cX11_valueOf 46 = .ok (.iconst 0, 1) := dk_3 (dk_at dksX11_valueOf_2 0 rfl rfl)
theorem dX11_valueOf_47 : decode cX11_valueOf 47 = .ok (.iload_n 2, 1) := dk_28 (dk_at dksX11_valueOf_2 1 rfl rfl)
theorem dX11_valueOf_48 : decode cX11_valueOf 48 = .ok (.invokevirtual 289, 3) := dk_182 1 33 (dk_at dksX11_valueOf_2 2 rfl rfl)
theorem dX11_valueOf_51 : decode cX11_valueOf 51 = .ok (.ireturn, 1) := dk_172 (dk_at dksX11_valueOf_2 5 rfl rfl)
abbrev cX11_image : ByteArray := prog_21_method_109_code
def yX11_image : MethodName := ⟨RX11, "image", "(I)Z"⟩
def dkwX11_image_3 : List UInt8 := [180, 0, 25, 28, 47, 80, 132, 2, 1, 167, 255, 230, 42, 180, 0, 35, 27, 4, 84, 4, 172]
abbrev dktX11_image_3 : List UInt8 := dkwX11_image_3 ++ []
def dkwX11_image_2 : List UInt8 := [167, 255, 228, 3, 61, 28, 16, 18, 162, 0, 26, 42, 180, 0, 32, 16, 18, 27, 104, 28, 96, 42]
abbrev dktX11_image_2 : List UInt8 := dkwX11_image_2 ++ dktX11_image_3
def dkwX11_image_1 : List UInt8 := [162, 0, 27, 42, 180, 0, 19, 17, 4, 128, 27, 104, 28, 96, 42, 180, 0, 13, 28, 46, 79, 132, 2, 1]
abbrev dktX11_image_1 : List UInt8 := dkwX11_image_1 ++ dktX11_image_2
def dkwX11_image_0 : List UInt8 := [42, 3, 181, 0, 106, 27, 3, 4, 184, 0, 177, 154, 0, 5, 3, 172, 3, 61, 28, 17, 4, 128]
abbrev dktX11_image_0 : List UInt8 := dkwX11_image_0 ++ dktX11_image_1
theorem dksX11_image_0 : cX11_image.data.toList.drop 0 = dktX11_image_0 := by decide +kernel
theorem dksX11_image_1 : cX11_image.data.toList.drop 22 = dktX11_image_1 := dk_seg dksX11_image_0 22 rfl rfl
theorem dksX11_image_2 : cX11_image.data.toList.drop 46 = dktX11_image_2 := dk_seg dksX11_image_1 24 rfl rfl
theorem dksX11_image_3 : cX11_image.data.toList.drop 68 = dktX11_image_3 := dk_seg dksX11_image_2 22 rfl rfl
theorem dX11_image_0 : decode cX11_image 0 = .ok (.aload_n 0, 1) := dk_42 (dk_at dksX11_image_0 0 rfl rfl)
theorem dX11_image_1 : decode cX11_image 1 = .ok (.iconst 0, 1) := dk_3 (dk_at dksX11_image_0 1 rfl rfl)
theorem dX11_image_2 : decode cX11_image 2 = .ok (.putfield 106, 3) := dk_181 0 106 (dk_at dksX11_image_0 2 rfl rfl)
theorem dX11_image_5 : decode cX11_image 5 = .ok (.iload_n 1, 1) := dk_27 (dk_at dksX11_image_0 5 rfl rfl)
theorem dX11_image_6 : decode cX11_image 6 = .ok (.iconst 0, 1) := dk_3 (dk_at dksX11_image_0 6 rfl rfl)
theorem dX11_image_7 : decode cX11_image 7 = .ok (.iconst 1, 1) := dk_4 (dk_at dksX11_image_0 7 rfl rfl)
theorem dX11_image_8 : decode cX11_image 8 = .ok (.invokestatic 177, 3) := dk_184 0 177 (dk_at dksX11_image_0 8 rfl rfl)
theorem dX11_image_11 : decode cX11_image 11 = .ok (.ifCond .ne 5, 3) := dk_154 0 5 (dk_at dksX11_image_0 11 rfl rfl)
theorem dX11_image_14 : decode cX11_image 14 = .ok (.iconst 0, 1) := dk_3 (dk_at dksX11_image_0 14 rfl rfl)
theorem dX11_image_15 : decode cX11_image 15 = .ok (.ireturn, 1) := dk_172 (dk_at dksX11_image_0 15 rfl rfl)
theorem dX11_image_16 : decode cX11_image 16 = .ok (.iconst 0, 1) := dk_3 (dk_at dksX11_image_0 16 rfl rfl)
theorem dX11_image_17 : decode cX11_image 17 = .ok (.istore_n 2, 1) := dk_61 (dk_at dksX11_image_0 17 rfl rfl)
theorem dX11_image_18 : decode cX11_image 18 = .ok (.iload_n 2, 1) := dk_28 (dk_at dksX11_image_0 18 rfl rfl)
theorem dX11_image_19 : decode cX11_image 19 = .ok (.sipush 1152, 3) := dk_17 4 128 (dk_at dksX11_image_0 19 rfl rfl)
theorem dX11_image_22 : decode cX11_image 22 = .ok (.if_icmp .ge 27, 3) := dk_162 0 27 (dk_at dksX11_image_1 0 rfl rfl)
theorem dX11_image_25 : decode cX11_image 25 = .ok (.aload_n 0, 1) := dk_42 (dk_at dksX11_image_1 3 rfl rfl)
theorem dX11_image_26 : decode cX11_image 26 = .ok (.getfield 19, 3) := dk_180 0 19 (dk_at dksX11_image_1 4 rfl rfl)
theorem dX11_image_29 : decode cX11_image 29 = .ok (.sipush 1152, 3) := dk_17 4 128 (dk_at dksX11_image_1 7 rfl rfl)
theorem dX11_image_32 : decode cX11_image 32 = .ok (.iload_n 1, 1) := dk_27 (dk_at dksX11_image_1 10 rfl rfl)
theorem dX11_image_33 : decode cX11_image 33 = .ok (.imul, 1) := dk_104 (dk_at dksX11_image_1 11 rfl rfl)
theorem dX11_image_34 : decode cX11_image 34 = .ok (.iload_n 2, 1) := dk_28 (dk_at dksX11_image_1 12 rfl rfl)
theorem dX11_image_35 : decode cX11_image 35 = .ok (.iadd, 1) := dk_96 (dk_at dksX11_image_1 13 rfl rfl)
theorem dX11_image_36 : decode cX11_image 36 = .ok (.aload_n 0, 1) := dk_42 (dk_at dksX11_image_1 14 rfl rfl)
theorem dX11_image_37 : decode cX11_image 37 = .ok (.getfield 13, 3) := dk_180 0 13 (dk_at dksX11_image_1 15 rfl rfl)
theorem dX11_image_40 : decode cX11_image 40 = .ok (.iload_n 2, 1) := dk_28 (dk_at dksX11_image_1 18 rfl rfl)
theorem dX11_image_41 : decode cX11_image 41 = .ok (.iaload, 1) := dk_46 (dk_at dksX11_image_1 19 rfl rfl)
theorem dX11_image_42 : decode cX11_image 42 = .ok (.iastore, 1) := dk_79 (dk_at dksX11_image_1 20 rfl rfl)
theorem dX11_image_43 : decode cX11_image 43 = .ok (.iinc 2 1, 3) := dk_132 2 1 (dk_at dksX11_image_1 21 rfl rfl)
theorem dX11_image_46 : decode cX11_image 46 = .ok (.goto (-28), 3) := dk_167 255 228 (dk_at dksX11_image_2 0 rfl rfl)
theorem dX11_image_49 : decode cX11_image 49 = .ok (.iconst 0, 1) := dk_3 (dk_at dksX11_image_2 3 rfl rfl)
theorem dX11_image_50 : decode cX11_image 50 = .ok (.istore_n 2, 1) := dk_61 (dk_at dksX11_image_2 4 rfl rfl)
theorem dX11_image_51 : decode cX11_image 51 = .ok (.iload_n 2, 1) := dk_28 (dk_at dksX11_image_2 5 rfl rfl)
theorem dX11_image_52 : decode cX11_image 52 = .ok (.bipush 18, 2) := dk_16 18 (dk_at dksX11_image_2 6 rfl rfl)
theorem dX11_image_54 : decode cX11_image 54 = .ok (.if_icmp .ge 26, 3) := dk_162 0 26 (dk_at dksX11_image_2 8 rfl rfl)
theorem dX11_image_57 : decode cX11_image 57 = .ok (.aload_n 0, 1) := dk_42 (dk_at dksX11_image_2 11 rfl rfl)
theorem dX11_image_58 : decode cX11_image 58 = .ok (.getfield 32, 3) := dk_180 0 32 (dk_at dksX11_image_2 12 rfl rfl)
theorem dX11_image_61 : decode cX11_image 61 = .ok (.bipush 18, 2) := dk_16 18 (dk_at dksX11_image_2 15 rfl rfl)
theorem dX11_image_63 : decode cX11_image 63 = .ok (.iload_n 1, 1) := dk_27 (dk_at dksX11_image_2 17 rfl rfl)
theorem dX11_image_64 : decode cX11_image 64 = .ok (.imul, 1) := dk_104 (dk_at dksX11_image_2 18 rfl rfl)
theorem dX11_image_65 : decode cX11_image 65 = .ok (.iload_n 2, 1) := dk_28 (dk_at dksX11_image_2 19 rfl rfl)
theorem dX11_image_66 : decode cX11_image 66 = .ok (.iadd, 1) := dk_96 (dk_at dksX11_image_2 20 rfl rfl)
theorem dX11_image_67 : decode cX11_image 67 = .ok (.aload_n 0, 1) := dk_42 (dk_at dksX11_image_2 21 rfl rfl)
theorem dX11_image_68 : decode cX11_image 68 = .ok (.getfield 25, 3) := dk_180 0 25 (dk_at dksX11_image_3 0 rfl rfl)
theorem dX11_image_71 : decode cX11_image 71 = .ok (.iload_n 2, 1) := dk_28 (dk_at dksX11_image_3 3 rfl rfl)
theorem dX11_image_72 : decode cX11_image 72 = .ok (.laload, 1) := dk_47 (dk_at dksX11_image_3 4 rfl rfl)
theorem dX11_image_73 : decode cX11_image 73 = .ok (.lastore, 1) := dk_80 (dk_at dksX11_image_3 5 rfl rfl)
theorem dX11_image_74 : decode cX11_image 74 = .ok (.iinc 2 1, 3) := dk_132 2 1 (dk_at dksX11_image_3 6 rfl rfl)
theorem dX11_image_77 : decode cX11_image 77 = .ok (.goto (-26), 3) := dk_167 255 230 (dk_at dksX11_image_3 9 rfl rfl)
theorem dX11_image_80 : decode cX11_image 80 = .ok (.aload_n 0, 1) := dk_42 (dk_at dksX11_image_3 12 rfl rfl)
theorem dX11_image_81 : decode cX11_image 81 = .ok (.getfield 35, 3) := dk_180 0 35 (dk_at dksX11_image_3 13 rfl rfl)
theorem dX11_image_84 : decode cX11_image 84 = .ok (.iload_n 1, 1) := dk_27 (dk_at dksX11_image_3 16 rfl rfl)
theorem dX11_image_85 : decode cX11_image 85 = .ok (.iconst 1, 1) := dk_4 (dk_at dksX11_image_3 17 rfl rfl)
theorem dX11_image_86 : decode cX11_image 86 = .ok (.bastore, 1) := dk_84 (dk_at dksX11_image_3 18 rfl rfl)
theorem dX11_image_87 : decode cX11_image 87 = .ok (.iconst 1, 1) := dk_4 (dk_at dksX11_image_3 19 rfl rfl)
theorem dX11_image_88 : decode cX11_image 88 = .ok (.ireturn, 1) := dk_172 (dk_at dksX11_image_3 20 rfl rfl)
abbrev cX11_restore : ByteArray := prog_21_method_110_code
def yX11_restore : MethodName := ⟨RX11, "restore", "(I)Z"⟩
def dkwX11_restore_3 : List UInt8 := [180, 0, 32, 16, 18, 27, 104, 28, 96, 47, 80, 132, 2, 1, 167, 255, 230, 4, 172]
abbrev dktX11_restore_3 : List UInt8 := dkwX11_restore_3 ++ []
def dkwX11_restore_2 : List UInt8 := [28, 96, 46, 79, 132, 2, 1, 167, 255, 228, 3, 61, 28, 16, 18, 162, 0, 26, 42, 180, 0, 25, 28, 42]
abbrev dktX11_restore_2 : List UInt8 := dkwX11_restore_2 ++ dktX11_restore_3
def dkwX11_restore_1 : List UInt8 := [172, 3, 61, 28, 17, 4, 128, 162, 0, 27, 42, 180, 0, 13, 28, 42, 180, 0, 19, 17, 4, 128, 27, 104]
abbrev dktX11_restore_1 : List UInt8 := dkwX11_restore_1 ++ dktX11_restore_2
def dkwX11_restore_0 : List UInt8 := [42, 3, 181, 0, 106, 27, 3, 4, 184, 0, 177, 153, 0, 12, 42, 180, 0, 35, 27, 51, 154, 0, 5, 3]
abbrev dktX11_restore_0 : List UInt8 := dkwX11_restore_0 ++ dktX11_restore_1
theorem dksX11_restore_0 : cX11_restore.data.toList.drop 0 = dktX11_restore_0 := by decide +kernel
theorem dksX11_restore_1 : cX11_restore.data.toList.drop 24 = dktX11_restore_1 := dk_seg dksX11_restore_0 24 rfl rfl
theorem dksX11_restore_2 : cX11_restore.data.toList.drop 48 = dktX11_restore_2 := dk_seg dksX11_restore_1 24 rfl rfl
theorem dksX11_restore_3 : cX11_restore.data.toList.drop 72 = dktX11_restore_3 := dk_seg dksX11_restore_2 24 rfl rfl
theorem dX11_restore_0 : decode cX11_restore 0 = .ok (.aload_n 0, 1) := dk_42 (dk_at dksX11_restore_0 0 rfl rfl)
theorem dX11_restore_1 : decode cX11_restore 1 = .ok (.iconst 0, 1) := dk_3 (dk_at dksX11_restore_0 1 rfl rfl)
theorem dX11_restore_2 : decode cX11_restore 2 = .ok (.putfield 106, 3) := dk_181 0 106 (dk_at dksX11_restore_0 2 rfl rfl)
theorem dX11_restore_5 : decode cX11_restore 5 = .ok (.iload_n 1, 1) := dk_27 (dk_at dksX11_restore_0 5 rfl rfl)
theorem dX11_restore_6 : decode cX11_restore 6 = .ok (.iconst 0, 1) := dk_3 (dk_at dksX11_restore_0 6 rfl rfl)
theorem dX11_restore_7 : decode cX11_restore 7 = .ok (.iconst 1, 1) := dk_4 (dk_at dksX11_restore_0 7 rfl rfl)
theorem dX11_restore_8 : decode cX11_restore 8 = .ok (.invokestatic 177, 3) := dk_184 0 177 (dk_at dksX11_restore_0 8 rfl rfl)
theorem dX11_restore_11 : decode cX11_restore 11 = .ok (.ifCond .eq 12, 3) := dk_153 0 12 (dk_at dksX11_restore_0 11 rfl rfl)
theorem dX11_restore_14 : decode cX11_restore 14 = .ok (.aload_n 0, 1) := dk_42 (dk_at dksX11_restore_0 14 rfl rfl)
theorem dX11_restore_15 : decode cX11_restore 15 = .ok (.getfield 35, 3) := dk_180 0 35 (dk_at dksX11_restore_0 15 rfl rfl)
theorem dX11_restore_18 : decode cX11_restore 18 = .ok (.iload_n 1, 1) := dk_27 (dk_at dksX11_restore_0 18 rfl rfl)
theorem dX11_restore_19 : decode cX11_restore 19 = .ok (.baload, 1) := dk_51 (dk_at dksX11_restore_0 19 rfl rfl)
theorem dX11_restore_20 : decode cX11_restore 20 = .ok (.ifCond .ne 5, 3) := dk_154 0 5 (dk_at dksX11_restore_0 20 rfl rfl)
theorem dX11_restore_23 : decode cX11_restore 23 = .ok (.iconst 0, 1) := dk_3 (dk_at dksX11_restore_0 23 rfl rfl)
theorem dX11_restore_24 : decode cX11_restore 24 = .ok (.ireturn, 1) := dk_172 (dk_at dksX11_restore_1 0 rfl rfl)
theorem dX11_restore_25 : decode cX11_restore 25 = .ok (.iconst 0, 1) := dk_3 (dk_at dksX11_restore_1 1 rfl rfl)
theorem dX11_restore_26 : decode cX11_restore 26 = .ok (.istore_n 2, 1) := dk_61 (dk_at dksX11_restore_1 2 rfl rfl)
theorem dX11_restore_27 : decode cX11_restore 27 = .ok (.iload_n 2, 1) := dk_28 (dk_at dksX11_restore_1 3 rfl rfl)
theorem dX11_restore_28 : decode cX11_restore 28 = .ok (.sipush 1152, 3) := dk_17 4 128 (dk_at dksX11_restore_1 4 rfl rfl)
theorem dX11_restore_31 : decode cX11_restore 31 = .ok (.if_icmp .ge 27, 3) := dk_162 0 27 (dk_at dksX11_restore_1 7 rfl rfl)
theorem dX11_restore_34 : decode cX11_restore 34 = .ok (.aload_n 0, 1) := dk_42 (dk_at dksX11_restore_1 10 rfl rfl)
theorem dX11_restore_35 : decode cX11_restore 35 = .ok (.getfield 13, 3) := dk_180 0 13 (dk_at dksX11_restore_1 11 rfl rfl)
theorem dX11_restore_38 : decode cX11_restore 38 = .ok (.iload_n 2, 1) := dk_28 (dk_at dksX11_restore_1 14 rfl rfl)
theorem dX11_restore_39 : decode cX11_restore 39 = .ok (.aload_n 0, 1) := dk_42 (dk_at dksX11_restore_1 15 rfl rfl)
theorem dX11_restore_40 : decode cX11_restore 40 = .ok (.getfield 19, 3) := dk_180 0 19 (dk_at dksX11_restore_1 16 rfl rfl)
theorem dX11_restore_43 : decode cX11_restore 43 = .ok (.sipush 1152, 3) := dk_17 4 128 (dk_at dksX11_restore_1 19 rfl rfl)
theorem dX11_restore_46 : decode cX11_restore 46 = .ok (.iload_n 1, 1) := dk_27 (dk_at dksX11_restore_1 22 rfl rfl)
theorem dX11_restore_47 : decode cX11_restore 47 = .ok (.imul, 1) := dk_104 (dk_at dksX11_restore_1 23 rfl rfl)
theorem dX11_restore_48 : decode cX11_restore 48 = .ok (.iload_n 2, 1) := dk_28 (dk_at dksX11_restore_2 0 rfl rfl)
theorem dX11_restore_49 : decode cX11_restore 49 = .ok (.iadd, 1) := dk_96 (dk_at dksX11_restore_2 1 rfl rfl)
theorem dX11_restore_50 : decode cX11_restore 50 = .ok (.iaload, 1) := dk_46 (dk_at dksX11_restore_2 2 rfl rfl)
theorem dX11_restore_51 : decode cX11_restore 51 = .ok (.iastore, 1) := dk_79 (dk_at dksX11_restore_2 3 rfl rfl)
theorem dX11_restore_52 : decode cX11_restore 52 = .ok (.iinc 2 1, 3) := dk_132 2 1 (dk_at dksX11_restore_2 4 rfl rfl)
theorem dX11_restore_55 : decode cX11_restore 55 = .ok (.goto (-28), 3) := dk_167 255 228 (dk_at dksX11_restore_2 7 rfl rfl)
theorem dX11_restore_58 : decode cX11_restore 58 = .ok (.iconst 0, 1) := dk_3 (dk_at dksX11_restore_2 10 rfl rfl)
theorem dX11_restore_59 : decode cX11_restore 59 = .ok (.istore_n 2, 1) := dk_61 (dk_at dksX11_restore_2 11 rfl rfl)
theorem dX11_restore_60 : decode cX11_restore 60 = .ok (.iload_n 2, 1) := dk_28 (dk_at dksX11_restore_2 12 rfl rfl)
theorem dX11_restore_61 : decode cX11_restore 61 = .ok (.bipush 18, 2) := dk_16 18 (dk_at dksX11_restore_2 13 rfl rfl)
theorem dX11_restore_63 : decode cX11_restore 63 = .ok (.if_icmp .ge 26, 3) := dk_162 0 26 (dk_at dksX11_restore_2 15 rfl rfl)
theorem dX11_restore_66 : decode cX11_restore 66 = .ok (.aload_n 0, 1) := dk_42 (dk_at dksX11_restore_2 18 rfl rfl)
theorem dX11_restore_67 : decode cX11_restore 67 = .ok (.getfield 25, 3) := dk_180 0 25 (dk_at dksX11_restore_2 19 rfl rfl)
theorem dX11_restore_70 : decode cX11_restore 70 = .ok (.iload_n 2, 1) := dk_28 (dk_at dksX11_restore_2 22 rfl rfl)
theorem dX11_restore_71 : decode cX11_restore 71 = .ok (.aload_n 0, 1) := dk_42 (dk_at dksX11_restore_2 23 rfl rfl)
theorem dX11_restore_72 : decode cX11_restore 72 = .ok (.getfield 32, 3) := dk_180 0 32 (dk_at dksX11_restore_3 0 rfl rfl)
theorem dX11_restore_75 : decode cX11_restore 75 = .ok (.bipush 18, 2) := dk_16 18 (dk_at dksX11_restore_3 3 rfl rfl)
theorem dX11_restore_77 : decode cX11_restore 77 = .ok (.iload_n 1, 1) := dk_27 (dk_at dksX11_restore_3 5 rfl rfl)
theorem dX11_restore_78 : decode cX11_restore 78 = .ok (.imul, 1) := dk_104 (dk_at dksX11_restore_3 6 rfl rfl)
theorem dX11_restore_79 : decode cX11_restore 79 = .ok (.iload_n 2, 1) := dk_28 (dk_at dksX11_restore_3 7 rfl rfl)
theorem dX11_restore_80 : decode cX11_restore 80 = .ok (.iadd, 1) := dk_96 (dk_at dksX11_restore_3 8 rfl rfl)
theorem dX11_restore_81 : decode cX11_restore 81 = .ok (.laload, 1) := dk_47 (dk_at dksX11_restore_3 9 rfl rfl)
theorem dX11_restore_82 : decode cX11_restore 82 = .ok (.lastore, 1) := dk_80 (dk_at dksX11_restore_3 10 rfl rfl)
theorem dX11_restore_83 : decode cX11_restore 83 = .ok (.iinc 2 1, 3) := dk_132 2 1 (dk_at dksX11_restore_3 11 rfl rfl)
theorem dX11_restore_86 : decode cX11_restore 86 = .ok (.goto (-26), 3) := dk_167 255 230 (dk_at dksX11_restore_3 14 rfl rfl)
theorem dX11_restore_89 : decode cX11_restore 89 = .ok (.iconst 1, 1) := dk_4 (dk_at dksX11_restore_3 17 rfl rfl)
theorem dX11_restore_90 : decode cX11_restore 90 = .ok (.ireturn, 1) := dk_172 (dk_at dksX11_restore_3 18 rfl rfl)
abbrev cX11_count : ByteArray := prog_21_method_111_code
def yX11_count : MethodName := ⟨RX11, "count", "(I)I"⟩
def dkwX11_count_5 : List UInt8 := [46, 172, 42, 180, 0, 109, 172, 2, 172]
abbrev dktX11_count_5 : List UInt8 := dkwX11_count_5 ++ []
def dkwX11_count_4 : List UInt8 := [46, 172, 42, 180, 0, 13, 8, 46, 172, 42, 180, 0, 13, 16, 60, 46, 172, 42, 180, 0, 13, 17, 3, 93]
abbrev dktX11_count_4 : List UInt8 := dkwX11_count_4 ++ dktX11_count_5
def dkwX11_count_3 : List UInt8 := [180, 0, 13, 6, 46, 154, 0, 7, 4, 167, 0, 9, 42, 180, 0, 13, 6, 46, 172, 42, 180, 0, 13, 7]
abbrev dktX11_count_3 : List UInt8 := dkwX11_count_3 ++ dktX11_count_4
def dkwX11_count_2 : List UInt8 := [42, 180, 0, 13, 3, 46, 172, 42, 180, 0, 13, 4, 46, 172, 42, 180, 0, 13, 5, 46, 172, 42]
abbrev dktX11_count_2 : List UInt8 := dkwX11_count_2 ++ dktX11_count_3
def dkwX11_count_1 : List UInt8 := [170, 0, 0, 0, 0, 127, 0, 0, 0, 0, 0, 0, 0, 8, 0, 0, 0, 50, 0, 0, 0, 57, 0, 0, 0, 64, 0, 0, 0, 71, 0, 0, 0, 91, 0, 0, 0, 98, 0, 0, 0, 105, 0, 0, 0, 113, 0, 0, 0, 122]
abbrev dktX11_count_1 : List UInt8 := dkwX11_count_1 ++ dktX11_count_2
def dkwX11_count_0 : List UInt8 := [42, 3, 181, 0, 106, 27]
abbrev dktX11_count_0 : List UInt8 := dkwX11_count_0 ++ dktX11_count_1
theorem dksX11_count_0 : cX11_count.data.toList.drop 0 = dktX11_count_0 := by decide +kernel
theorem dksX11_count_1 : cX11_count.data.toList.drop 6 = dktX11_count_1 := dk_seg dksX11_count_0 6 rfl rfl
theorem dksX11_count_2 : cX11_count.data.toList.drop 56 = dktX11_count_2 := dk_seg dksX11_count_1 50 rfl rfl
theorem dksX11_count_3 : cX11_count.data.toList.drop 78 = dktX11_count_3 := dk_seg dksX11_count_2 22 rfl rfl
theorem dksX11_count_4 : cX11_count.data.toList.drop 102 = dktX11_count_4 := dk_seg dksX11_count_3 24 rfl rfl
theorem dksX11_count_5 : cX11_count.data.toList.drop 126 = dktX11_count_5 := dk_seg dksX11_count_4 24 rfl rfl
theorem dX11_count_0 : decode cX11_count 0 = .ok (.aload_n 0, 1) := dk_42 (dk_at dksX11_count_0 0 rfl rfl)
theorem dX11_count_1 : decode cX11_count 1 = .ok (.iconst 0, 1) := dk_3 (dk_at dksX11_count_0 1 rfl rfl)
theorem dX11_count_2 : decode cX11_count 2 = .ok (.putfield 106, 3) := dk_181 0 106 (dk_at dksX11_count_0 2 rfl rfl)
theorem dX11_count_5 : decode cX11_count 5 = .ok (.iload_n 1, 1) := dk_27 (dk_at dksX11_count_0 5 rfl rfl)
theorem dX11_count_6 : decode cX11_count 6 = .ok (.tableswitch 127 0 8 #[50, 57, 64, 71, 91, 98, 105, 113, 122], 50) := by decide +kernel
theorem dX11_count_56 : decode cX11_count 56 = .ok (.aload_n 0, 1) := dk_42 (dk_at dksX11_count_2 0 rfl rfl)
theorem dX11_count_57 : decode cX11_count 57 = .ok (.getfield 13, 3) := dk_180 0 13 (dk_at dksX11_count_2 1 rfl rfl)
theorem dX11_count_60 : decode cX11_count 60 = .ok (.iconst 0, 1) := dk_3 (dk_at dksX11_count_2 4 rfl rfl)
theorem dX11_count_61 : decode cX11_count 61 = .ok (.iaload, 1) := dk_46 (dk_at dksX11_count_2 5 rfl rfl)
theorem dX11_count_62 : decode cX11_count 62 = .ok (.ireturn, 1) := dk_172 (dk_at dksX11_count_2 6 rfl rfl)
theorem dX11_count_63 : decode cX11_count 63 = .ok (.aload_n 0, 1) := dk_42 (dk_at dksX11_count_2 7 rfl rfl)
theorem dX11_count_64 : decode cX11_count 64 = .ok (.getfield 13, 3) := dk_180 0 13 (dk_at dksX11_count_2 8 rfl rfl)
theorem dX11_count_67 : decode cX11_count 67 = .ok (.iconst 1, 1) := dk_4 (dk_at dksX11_count_2 11 rfl rfl)
theorem dX11_count_68 : decode cX11_count 68 = .ok (.iaload, 1) := dk_46 (dk_at dksX11_count_2 12 rfl rfl)
theorem dX11_count_69 : decode cX11_count 69 = .ok (.ireturn, 1) := dk_172 (dk_at dksX11_count_2 13 rfl rfl)
theorem dX11_count_70 : decode cX11_count 70 = .ok (.aload_n 0, 1) := dk_42 (dk_at dksX11_count_2 14 rfl rfl)
theorem dX11_count_71 : decode cX11_count 71 = .ok (.getfield 13, 3) := dk_180 0 13 (dk_at dksX11_count_2 15 rfl rfl)
theorem dX11_count_74 : decode cX11_count 74 = .ok (.iconst 2, 1) := dk_5 (dk_at dksX11_count_2 18 rfl rfl)
theorem dX11_count_75 : decode cX11_count 75 = .ok (.iaload, 1) := dk_46 (dk_at dksX11_count_2 19 rfl rfl)
theorem dX11_count_76 : decode cX11_count 76 = .ok (.ireturn, 1) := dk_172 (dk_at dksX11_count_2 20 rfl rfl)
theorem dX11_count_77 : decode cX11_count 77 = .ok (.aload_n 0, 1) := dk_42 (dk_at dksX11_count_2 21 rfl rfl)
theorem dX11_count_78 : decode cX11_count 78 = .ok (.getfield 13, 3) := dk_180 0 13 (dk_at dksX11_count_3 0 rfl rfl)
theorem dX11_count_81 : decode cX11_count 81 = .ok (.iconst 3, 1) := dk_6 (dk_at dksX11_count_3 3 rfl rfl)
theorem dX11_count_82 : decode cX11_count 82 = .ok (.iaload, 1) := dk_46 (dk_at dksX11_count_3 4 rfl rfl)
theorem dX11_count_83 : decode cX11_count 83 = .ok (.ifCond .ne 7, 3) := dk_154 0 7 (dk_at dksX11_count_3 5 rfl rfl)
theorem dX11_count_86 : decode cX11_count 86 = .ok (.iconst 1, 1) := dk_4 (dk_at dksX11_count_3 8 rfl rfl)
theorem dX11_count_87 : decode cX11_count 87 = .ok (.goto 9, 3) := dk_167 0 9 (dk_at dksX11_count_3 9 rfl rfl)
theorem dX11_count_90 : decode cX11_count 90 = .ok (.aload_n 0, 1) := dk_42 (dk_at dksX11_count_3 12 rfl rfl)
theorem dX11_count_91 : decode cX11_count 91 = .ok (.getfield 13, 3) := dk_180 0 13 (dk_at dksX11_count_3 13 rfl rfl)
theorem dX11_count_94 : decode cX11_count 94 = .ok (.iconst 3, 1) := dk_6 (dk_at dksX11_count_3 16 rfl rfl)
theorem dX11_count_95 : decode cX11_count 95 = .ok (.iaload, 1) := dk_46 (dk_at dksX11_count_3 17 rfl rfl)
theorem dX11_count_96 : decode cX11_count 96 = .ok (.ireturn, 1) := dk_172 (dk_at dksX11_count_3 18 rfl rfl)
theorem dX11_count_97 : decode cX11_count 97 = .ok (.aload_n 0, 1) := dk_42 (dk_at dksX11_count_3 19 rfl rfl)
theorem dX11_count_98 : decode cX11_count 98 = .ok (.getfield 13, 3) := dk_180 0 13 (dk_at dksX11_count_3 20 rfl rfl)
theorem dX11_count_101 : decode cX11_count 101 = .ok (.iconst 4, 1) := dk_7 (dk_at dksX11_count_3 23 rfl rfl)
theorem dX11_count_102 : decode cX11_count 102 = .ok (.iaload, 1) := dk_46 (dk_at dksX11_count_4 0 rfl rfl)
theorem dX11_count_103 : decode cX11_count 103 = .ok (.ireturn, 1) := dk_172 (dk_at dksX11_count_4 1 rfl rfl)
theorem dX11_count_104 : decode cX11_count 104 = .ok (.aload_n 0, 1) := dk_42 (dk_at dksX11_count_4 2 rfl rfl)
theorem dX11_count_105 : decode cX11_count 105 = .ok (.getfield 13, 3) := dk_180 0 13 (dk_at dksX11_count_4 3 rfl rfl)
theorem dX11_count_108 : decode cX11_count 108 = .ok (.iconst 5, 1) := dk_8 (dk_at dksX11_count_4 6 rfl rfl)
theorem dX11_count_109 : decode cX11_count 109 = .ok (.iaload, 1) := dk_46 (dk_at dksX11_count_4 7 rfl rfl)
theorem dX11_count_110 : decode cX11_count 110 = .ok (.ireturn, 1) := dk_172 (dk_at dksX11_count_4 8 rfl rfl)
theorem dX11_count_111 : decode cX11_count 111 = .ok (.aload_n 0, 1) := dk_42 (dk_at dksX11_count_4 9 rfl rfl)
theorem dX11_count_112 : decode cX11_count 112 = .ok (.getfield 13, 3) := dk_180 0 13 (dk_at dksX11_count_4 10 rfl rfl)
theorem dX11_count_115 : decode cX11_count 115 = .ok (.bipush 60, 2) := dk_16 60 (dk_at dksX11_count_4 13 rfl rfl)
theorem dX11_count_117 : decode cX11_count 117 = .ok (.iaload, 1) := dk_46 (dk_at dksX11_count_4 15 rfl rfl)
theorem dX11_count_118 : decode cX11_count 118 = .ok (.ireturn, 1) := dk_172 (dk_at dksX11_count_4 16 rfl rfl)
theorem dX11_count_119 : decode cX11_count 119 = .ok (.aload_n 0, 1) := dk_42 (dk_at dksX11_count_4 17 rfl rfl)
theorem dX11_count_120 : decode cX11_count 120 = .ok (.getfield 13, 3) := dk_180 0 13 (dk_at dksX11_count_4 18 rfl rfl)
theorem dX11_count_123 : decode cX11_count 123 = .ok (.sipush 861, 3) := dk_17 3 93 (dk_at dksX11_count_4 21 rfl rfl)
theorem dX11_count_126 : decode cX11_count 126 = .ok (.iaload, 1) := dk_46 (dk_at dksX11_count_5 0 rfl rfl)
theorem dX11_count_127 : decode cX11_count 127 = .ok (.ireturn, 1) := dk_172 (dk_at dksX11_count_5 1 rfl rfl)
theorem dX11_count_128 : decode cX11_count 128 = .ok (.aload_n 0, 1) := dk_42 (dk_at dksX11_count_5 2 rfl rfl)
theorem dX11_count_129 : decode cX11_count 129 = .ok (.getfield 109, 3) := dk_180 0 109 (dk_at dksX11_count_5 3 rfl rfl)
theorem dX11_count_132 : decode cX11_count 132 = .ok (.ireturn, 1) := dk_172 (dk_at dksX11_count_5 6 rfl rfl)
theorem dX11_count_133 : decode cX11_count 133 = .ok (.iconst (-1), 1) := dk_2 (dk_at dksX11_count_5 7 rfl rfl)
theorem dX11_count_134 : decode cX11_count 134 = .ok (.ireturn, 1) := dk_172 (dk_at dksX11_count_5 8 rfl rfl)
theorem q102 : (Jvm.Cond.initialized "CombTableModel") ∈ lw_all := lw_g (lw_at lw_m1 13 rfl) rfl
theorem q1406 : (Jvm.Cond.instantiable "CombTableModel" (58 : Nat)) ∈ lw_all := lw_g (lw_at lw_m6 117 rfl) rfl
theorem q1408 : (Jvm.Cond.instanceMethod ({ cls := "CombTableModel", name := "<init>", desc := "()V" } : Jvm.MethodName)) ∈ lw_all := lw_g (lw_at lw_m6 119 rfl) rfl
theorem q1409 : (Jvm.Cond.code ({ cls := "CombTableModel", name := "<init>", desc := "()V" } : Jvm.MethodName) prog_21_method_1_code (1 : Nat) (Option.none : Option Jvm.ClassFile.FieldType)) ∈ lw_all := lw_g (lw_at lw_m6 120 rfl) rfl
theorem q1410 : (Jvm.Cond.methodLink "CombTableModel" (1 : Nat) ({ cls := "java/lang/Object", name := "<init>", desc := "()V" } : Jvm.MethodName)) ∈ lw_all := lw_g (lw_at lw_m6 121 rfl) rfl
theorem q1411 : (Jvm.Cond.fieldLink "CombTableModel" (106 : Nat) "CombTableModel" "thrown" "I") ∈ lw_all := lw_g (lw_at lw_m6 122 rfl) rfl
theorem q1412 : (Jvm.Cond.fieldLink "CombTableModel" (7 : Nat) "CombTableModel" "tape" "[I") ∈ lw_all := lw_g (lw_at lw_m6 123 rfl) rfl
theorem q1413 : (Jvm.Cond.fieldLink "CombTableModel" (109 : Nat) "CombTableModel" "taped" "I") ∈ lw_all := lw_g (lw_at lw_m6 124 rfl) rfl
theorem q1414 : (Jvm.Cond.fieldLink "CombTableModel" (116 : Nat) "CombTableModel" "size" "I") ∈ lw_all := lw_g (lw_at lw_m6 125 rfl) rfl
theorem q1415 : (Jvm.Cond.fieldLink "CombTableModel" (125 : Nat) "CombTableModel" "limit" "I") ∈ lw_all := lw_g (lw_at lw_m6 126 rfl) rfl
theorem q1416 : (Jvm.Cond.fieldLink "CombTableModel" (119 : Nat) "CombTableModel" "to" "I") ∈ lw_all := lw_g (lw_at lw_m6 127 rfl) rfl
theorem q1417 : (Jvm.Cond.fieldLink "CombTableModel" (122 : Nat) "CombTableModel" "from" "I") ∈ lw_all := lw_g (lw_at lw_m6 128 rfl) rfl
theorem q1418 : (Jvm.Cond.fieldLink "CombTableModel" (128 : Nat) "CombTableModel" "kind" "I") ∈ lw_all := lw_g (lw_at lw_m6 129 rfl) rfl
theorem q1419 : (Jvm.Cond.fieldLink "CombTableModel" (145 : Nat) "CombTableModel" "number" "I") ∈ lw_all := lw_g (lw_at lw_m6 130 rfl) rfl
theorem q1420 : (Jvm.Cond.fieldLink "CombTableModel" (138 : Nat) "CombTableModel" "sign" "I") ∈ lw_all := lw_g (lw_at lw_m6 131 rfl) rfl
theorem q1421 : (Jvm.Cond.fieldLink "CombTableModel" (168 : Nat) "CombTableModel" "fault" "I") ∈ lw_all := lw_g (lw_at lw_m6 132 rfl) rfl
theorem q1422 : (Jvm.Cond.fieldLink "CombTableModel" (171 : Nat) "CombTableModel" "place" "I") ∈ lw_all := lw_g (lw_at lw_m6 133 rfl) rfl
theorem q1423 : (Jvm.Cond.fieldLink "CombTableModel" (141 : Nat) "CombTableModel" "word" "J") ∈ lw_all := lw_g (lw_at lw_m6 134 rfl) rfl
theorem q1424 : (Jvm.Cond.fieldLink "CombTableModel" (181 : Nat) "CombTableModel" "told" "I") ∈ lw_all := lw_g (lw_at lw_m6 135 rfl) rfl
theorem q1425 : (Jvm.Cond.fieldLink "CombTableModel" (13 : Nat) "CombTableModel" "now" "[I") ∈ lw_all := lw_g (lw_at lw_m6 136 rfl) rfl
theorem q1426 : (Jvm.Cond.fieldLink "CombTableModel" (16 : Nat) "CombTableModel" "read" "[I") ∈ lw_all := lw_g (lw_at lw_m6 137 rfl) rfl
theorem q1427 : (Jvm.Cond.fieldLink "CombTableModel" (19 : Nat) "CombTableModel" "kept" "[I") ∈ lw_all := lw_g (lw_at lw_m6 138 rfl) rfl
theorem q1428 : (Jvm.Cond.fieldLink "CombTableModel" (22 : Nat) "CombTableModel" "line" "[I") ∈ lw_all := lw_g (lw_at lw_m6 139 rfl) rfl
theorem q1429 : (Jvm.Cond.fieldLink "CombTableModel" (25 : Nat) "CombTableModel" "name" "[J") ∈ lw_all := lw_g (lw_at lw_m6 140 rfl) rfl
theorem q1430 : (Jvm.Cond.fieldLink "CombTableModel" (29 : Nat) "CombTableModel" "readName" "[J") ∈ lw_all := lw_g (lw_at lw_m6 141 rfl) rfl
theorem q1431 : (Jvm.Cond.fieldLink "CombTableModel" (32 : Nat) "CombTableModel" "keptName" "[J") ∈ lw_all := lw_g (lw_at lw_m6 142 rfl) rfl
theorem q1432 : (Jvm.Cond.fieldLink "CombTableModel" (35 : Nat) "CombTableModel" "isKept" "[Z") ∈ lw_all := lw_g (lw_at lw_m6 143 rfl) rfl
theorem q1433 : (Jvm.Cond.fieldLink "CombTableModel" (39 : Nat) "CombTableModel" "rules" "[I") ∈ lw_all := lw_g (lw_at lw_m6 144 rfl) rfl
theorem q1434 : (Jvm.Cond.fieldLink "CombTableModel" (42 : Nat) "CombTableModel" "saidBy" "[I") ∈ lw_all := lw_g (lw_at lw_m6 145 rfl) rfl
theorem q1435 : (Jvm.Cond.fieldLink "CombTableModel" (45 : Nat) "CombTableModel" "saidKind" "[I") ∈ lw_all := lw_g (lw_at lw_m6 146 rfl) rfl
theorem q1436 : (Jvm.Cond.fieldLink "CombTableModel" (48 : Nat) "CombTableModel" "answer" "[I") ∈ lw_all := lw_g (lw_at lw_m6 147 rfl) rfl
theorem q1437 : (Jvm.Cond.fieldLink "CombTableModel" (51 : Nat) "CombTableModel" "thread" "[I") ∈ lw_all := lw_g (lw_at lw_m6 148 rfl) rfl
theorem q1438 : (Jvm.Cond.fieldLink "CombTableModel" (54 : Nat) "CombTableModel" "depth" "[I") ∈ lw_all := lw_g (lw_at lw_m6 149 rfl) rfl
theorem q1439 : (Jvm.Cond.fieldLink "CombTableModel" (57 : Nat) "CombTableModel" "state" "[I") ∈ lw_all := lw_g (lw_at lw_m6 150 rfl) rfl
theorem q1440 : (Jvm.Cond.fieldLink "CombTableModel" (60 : Nat) "CombTableModel" "many" "[I") ∈ lw_all := lw_g (lw_at lw_m6 151 rfl) rfl
theorem q1441 : (Jvm.Cond.fieldLink "CombTableModel" (63 : Nat) "CombTableModel" "threadMany" "[I") ∈ lw_all := lw_g (lw_at lw_m6 152 rfl) rfl
theorem q1442 : (Jvm.Cond.fieldLink "CombTableModel" (283 : Nat) "CombTableModel" "why" "I") ∈ lw_all := lw_g (lw_at lw_m6 153 rfl) rfl
theorem q1443 : (Jvm.Cond.fieldLink "CombTableModel" (295 : Nat) "CombTableModel" "seed" "I") ∈ lw_all := lw_g (lw_at lw_m6 154 rfl) rfl
theorem q1444 : (Jvm.Cond.fieldLink "CombTableModel" (308 : Nat) "CombTableModel" "lineMany" "I") ∈ lw_all := lw_g (lw_at lw_m6 155 rfl) rfl
theorem q1445 : (Jvm.Cond.fieldLink "CombTableModel" (305 : Nat) "CombTableModel" "anyMany" "I") ∈ lw_all := lw_g (lw_at lw_m6 156 rfl) rfl
theorem q1446 : (Jvm.Cond.fieldLink "CombTableModel" (66 : Nat) "CombTableModel" "torn" "[I") ∈ lw_all := lw_g (lw_at lw_m6 157 rfl) rfl
theorem q1447 : (Jvm.Cond.fieldLink "CombTableModel" (69 : Nat) "CombTableModel" "wholeWho" "[I") ∈ lw_all := lw_g (lw_at lw_m6 158 rfl) rfl
theorem q1448 : (Jvm.Cond.fieldLink "CombTableModel" (72 : Nat) "CombTableModel" "wholeKind" "[I") ∈ lw_all := lw_g (lw_at lw_m6 159 rfl) rfl
theorem q1449 : (Jvm.Cond.fieldLink "CombTableModel" (75 : Nat) "CombTableModel" "wholeState" "[I") ∈ lw_all := lw_g (lw_at lw_m6 160 rfl) rfl
theorem q1450 : (Jvm.Cond.fieldLink "CombTableModel" (78 : Nat) "CombTableModel" "sureWho" "[I") ∈ lw_all := lw_g (lw_at lw_m6 161 rfl) rfl
theorem q1451 : (Jvm.Cond.fieldLink "CombTableModel" (81 : Nat) "CombTableModel" "sureKind" "[I") ∈ lw_all := lw_g (lw_at lw_m6 162 rfl) rfl
theorem q1452 : (Jvm.Cond.fieldLink "CombTableModel" (84 : Nat) "CombTableModel" "sureState" "[I") ∈ lw_all := lw_g (lw_at lw_m6 163 rfl) rfl
theorem q1453 : (Jvm.Cond.fieldLink "CombTableModel" (317 : Nat) "CombTableModel" "tornMany" "I") ∈ lw_all := lw_g (lw_at lw_m6 164 rfl) rfl
theorem q1454 : (Jvm.Cond.fieldLink "CombTableModel" (320 : Nat) "CombTableModel" "found" "I") ∈ lw_all := lw_g (lw_at lw_m6 165 rfl) rfl
theorem q1455 : (Jvm.Cond.fieldLink "CombTableModel" (338 : Nat) "CombTableModel" "sureMany" "I") ∈ lw_all := lw_g (lw_at lw_m6 166 rfl) rfl
theorem q1456 : (Jvm.Cond.fieldLink "CombTableModel" (87 : Nat) "CombTableModel" "mended" "I") ∈ lw_all := lw_g (lw_at lw_m6 167 rfl) rfl
theorem q1457 : (Jvm.Cond.fieldLink "CombTableModel" (91 : Nat) "CombTableModel" "order" "[I") ∈ lw_all := lw_g (lw_at lw_m6 168 rfl) rfl
theorem q1458 : (Jvm.Cond.fieldLink "CombTableModel" (94 : Nat) "CombTableModel" "firstOrder" "[I") ∈ lw_all := lw_g (lw_at lw_m6 169 rfl) rfl
theorem q1459 : (Jvm.Cond.fieldLink "CombTableModel" (351 : Nat) "CombTableModel" "orders" "I") ∈ lw_all := lw_g (lw_at lw_m6 170 rfl) rfl
theorem q1460 : (Jvm.Cond.fieldLink "CombTableModel" (354 : Nat) "CombTableModel" "orderMany" "I") ∈ lw_all := lw_g (lw_at lw_m6 171 rfl) rfl
theorem q1461 : (Jvm.Cond.fieldLink "CombTableModel" (97 : Nat) "CombTableModel" "path" "[I") ∈ lw_all := lw_g (lw_at lw_m6 172 rfl) rfl
theorem q1462 : (Jvm.Cond.fieldLink "CombTableModel" (100 : Nat) "CombTableModel" "road" "[I") ∈ lw_all := lw_g (lw_at lw_m6 173 rfl) rfl
theorem q1463 : (Jvm.Cond.fieldLink "CombTableModel" (376 : Nat) "CombTableModel" "roadMany" "I") ∈ lw_all := lw_g (lw_at lw_m6 174 rfl) rfl
theorem q1464 : (Jvm.Cond.fieldLink "CombTableModel" (103 : Nat) "CombTableModel" "node" "[I") ∈ lw_all := lw_g (lw_at lw_m6 175 rfl) rfl
theorem q1465 : (Jvm.Cond.fieldLink "CombTableModel" (390 : Nat) "CombTableModel" "nodes" "I") ∈ lw_all := lw_g (lw_at lw_m6 176 rfl) rfl
theorem q1466 : (Jvm.Cond.fieldLink "CombTableModel" (405 : Nat) "CombTableModel" "onesMany" "I") ∈ lw_all := lw_g (lw_at lw_m6 177 rfl) rfl
theorem q1467 : (Jvm.Cond.fieldLink "CombTableModel" (408 : Nat) "CombTableModel" "within" "I") ∈ lw_all := lw_g (lw_at lw_m6 178 rfl) rfl
theorem q1468 : (Jvm.Cond.fieldLink "CombTableModel" (396 : Nat) "CombTableModel" "top" "I") ∈ lw_all := lw_g (lw_at lw_m6 179 rfl) rfl
theorem q1469 : (Jvm.Cond.lays "CombTableModel" "CombTableModel" "thrown" "I") ∈ lw_all := lw_g (lw_at lw_m6 180 rfl) rfl
theorem q1470 : (Jvm.Cond.soleField "CombTableModel" "thrown") ∈ lw_all := lw_g (lw_at lw_m6 181 rfl) rfl
theorem q1471 : (Jvm.Cond.laysFinal "CombTableModel" "CombTableModel" "tape" "[I") ∈ lw_all := lw_g (lw_at lw_m6 182 rfl) rfl
theorem q1472 : (Jvm.Cond.soleField "CombTableModel" "tape") ∈ lw_all := lw_g (lw_at lw_m6 183 rfl) rfl
theorem q1473 : (Jvm.Cond.lays "CombTableModel" "CombTableModel" "taped" "I") ∈ lw_all := lw_g (lw_at lw_m6 184 rfl) rfl
theorem q1474 : (Jvm.Cond.soleField "CombTableModel" "taped") ∈ lw_all := lw_g (lw_at lw_m6 185 rfl) rfl
theorem q1475 : (Jvm.Cond.lays "CombTableModel" "CombTableModel" "size" "I") ∈ lw_all := lw_g (lw_at lw_m6 186 rfl) rfl
theorem q1476 : (Jvm.Cond.soleField "CombTableModel" "size") ∈ lw_all := lw_g (lw_at lw_m6 187 rfl) rfl
theorem q1477 : (Jvm.Cond.lays "CombTableModel" "CombTableModel" "limit" "I") ∈ lw_all := lw_g (lw_at lw_m6 188 rfl) rfl
theorem q1478 : (Jvm.Cond.soleField "CombTableModel" "limit") ∈ lw_all := lw_g (lw_at lw_m6 189 rfl) rfl
theorem q1479 : (Jvm.Cond.lays "CombTableModel" "CombTableModel" "to" "I") ∈ lw_all := lw_g (lw_at lw_m6 190 rfl) rfl
theorem q1480 : (Jvm.Cond.soleField "CombTableModel" "to") ∈ lw_all := lw_g (lw_at lw_m6 191 rfl) rfl
theorem q1481 : (Jvm.Cond.lays "CombTableModel" "CombTableModel" "from" "I") ∈ lw_all := lw_g (lw_at lw_m6 192 rfl) rfl
theorem q1482 : (Jvm.Cond.soleField "CombTableModel" "from") ∈ lw_all := lw_g (lw_at lw_m6 193 rfl) rfl
theorem q1483 : (Jvm.Cond.lays "CombTableModel" "CombTableModel" "kind" "I") ∈ lw_all := lw_g (lw_at lw_m6 194 rfl) rfl
theorem q1484 : (Jvm.Cond.soleField "CombTableModel" "kind") ∈ lw_all := lw_g (lw_at lw_m6 195 rfl) rfl
theorem q1485 : (Jvm.Cond.lays "CombTableModel" "CombTableModel" "number" "I") ∈ lw_all := lw_g (lw_at lw_m6 196 rfl) rfl
theorem q1486 : (Jvm.Cond.soleField "CombTableModel" "number") ∈ lw_all := lw_g (lw_at lw_m6 197 rfl) rfl
theorem q1487 : (Jvm.Cond.lays "CombTableModel" "CombTableModel" "sign" "I") ∈ lw_all := lw_g (lw_at lw_m6 198 rfl) rfl
theorem q1488 : (Jvm.Cond.soleField "CombTableModel" "sign") ∈ lw_all := lw_g (lw_at lw_m6 199 rfl) rfl
theorem q1489 : (Jvm.Cond.lays "CombTableModel" "CombTableModel" "fault" "I") ∈ lw_all := lw_g (lw_at lw_m6 200 rfl) rfl
theorem q1490 : (Jvm.Cond.soleField "CombTableModel" "fault") ∈ lw_all := lw_g (lw_at lw_m6 201 rfl) rfl
theorem q1491 : (Jvm.Cond.lays "CombTableModel" "CombTableModel" "place" "I") ∈ lw_all := lw_g (lw_at lw_m6 202 rfl) rfl
theorem q1492 : (Jvm.Cond.soleField "CombTableModel" "place") ∈ lw_all := lw_g (lw_at lw_m6 203 rfl) rfl
theorem q1493 : (Jvm.Cond.lays "CombTableModel" "CombTableModel" "word" "J") ∈ lw_all := lw_g (lw_at lw_m6 204 rfl) rfl
theorem q1494 : (Jvm.Cond.soleField "CombTableModel" "word") ∈ lw_all := lw_g (lw_at lw_m6 205 rfl) rfl
theorem q1495 : (Jvm.Cond.lays "CombTableModel" "CombTableModel" "told" "I") ∈ lw_all := lw_g (lw_at lw_m6 206 rfl) rfl
theorem q1496 : (Jvm.Cond.soleField "CombTableModel" "told") ∈ lw_all := lw_g (lw_at lw_m6 207 rfl) rfl
theorem q1497 : (Jvm.Cond.laysFinal "CombTableModel" "CombTableModel" "now" "[I") ∈ lw_all := lw_g (lw_at lw_m6 208 rfl) rfl
theorem q1498 : (Jvm.Cond.soleField "CombTableModel" "now") ∈ lw_all := lw_g (lw_at lw_m6 209 rfl) rfl
theorem q1499 : (Jvm.Cond.laysFinal "CombTableModel" "CombTableModel" "read" "[I") ∈ lw_all := lw_g (lw_at lw_m6 210 rfl) rfl
theorem q1500 : (Jvm.Cond.soleField "CombTableModel" "read") ∈ lw_all := lw_g (lw_at lw_m6 211 rfl) rfl
theorem q1501 : (Jvm.Cond.laysFinal "CombTableModel" "CombTableModel" "kept" "[I") ∈ lw_all := lw_g (lw_at lw_m6 212 rfl) rfl
theorem q1502 : (Jvm.Cond.soleField "CombTableModel" "kept") ∈ lw_all := lw_g (lw_at lw_m6 213 rfl) rfl
theorem q1503 : (Jvm.Cond.laysFinal "CombTableModel" "CombTableModel" "line" "[I") ∈ lw_all := lw_g (lw_at lw_m6 214 rfl) rfl
theorem q1504 : (Jvm.Cond.soleField "CombTableModel" "line") ∈ lw_all := lw_g (lw_at lw_m6 215 rfl) rfl
theorem q1505 : (Jvm.Cond.laysFinal "CombTableModel" "CombTableModel" "name" "[J") ∈ lw_all := lw_g (lw_at lw_m6 216 rfl) rfl
theorem q1506 : (Jvm.Cond.soleField "CombTableModel" "name") ∈ lw_all := lw_g (lw_at lw_m6 217 rfl) rfl
theorem q1507 : (Jvm.Cond.laysFinal "CombTableModel" "CombTableModel" "readName" "[J") ∈ lw_all := lw_g (lw_at lw_m6 218 rfl) rfl
theorem q1508 : (Jvm.Cond.soleField "CombTableModel" "readName") ∈ lw_all := lw_g (lw_at lw_m6 219 rfl) rfl
theorem q1509 : (Jvm.Cond.laysFinal "CombTableModel" "CombTableModel" "keptName" "[J") ∈ lw_all := lw_g (lw_at lw_m6 220 rfl) rfl
theorem q1510 : (Jvm.Cond.soleField "CombTableModel" "keptName") ∈ lw_all := lw_g (lw_at lw_m6 221 rfl) rfl
theorem q1511 : (Jvm.Cond.laysFinal "CombTableModel" "CombTableModel" "isKept" "[Z") ∈ lw_all := lw_g (lw_at lw_m6 222 rfl) rfl
theorem q1512 : (Jvm.Cond.soleField "CombTableModel" "isKept") ∈ lw_all := lw_g (lw_at lw_m6 223 rfl) rfl
theorem q1513 : (Jvm.Cond.laysFinal "CombTableModel" "CombTableModel" "rules" "[I") ∈ lw_all := lw_g (lw_at lw_m6 224 rfl) rfl
theorem q1514 : (Jvm.Cond.soleField "CombTableModel" "rules") ∈ lw_all := lw_g (lw_at lw_m6 225 rfl) rfl
theorem q1515 : (Jvm.Cond.laysFinal "CombTableModel" "CombTableModel" "saidBy" "[I") ∈ lw_all := lw_g (lw_at lw_m6 226 rfl) rfl
theorem q1516 : (Jvm.Cond.soleField "CombTableModel" "saidBy") ∈ lw_all := lw_g (lw_at lw_m6 227 rfl) rfl
theorem q1517 : (Jvm.Cond.laysFinal "CombTableModel" "CombTableModel" "saidKind" "[I") ∈ lw_all := lw_g (lw_at lw_m6 228 rfl) rfl
theorem q1518 : (Jvm.Cond.soleField "CombTableModel" "saidKind") ∈ lw_all := lw_g (lw_at lw_m6 229 rfl) rfl
theorem q1519 : (Jvm.Cond.laysFinal "CombTableModel" "CombTableModel" "answer" "[I") ∈ lw_all := lw_g (lw_at lw_m6 230 rfl) rfl
theorem q1520 : (Jvm.Cond.soleField "CombTableModel" "answer") ∈ lw_all := lw_g (lw_at lw_m6 231 rfl) rfl
theorem q1521 : (Jvm.Cond.laysFinal "CombTableModel" "CombTableModel" "thread" "[I") ∈ lw_all := lw_g (lw_at lw_m6 232 rfl) rfl
theorem q1522 : (Jvm.Cond.soleField "CombTableModel" "thread") ∈ lw_all := lw_g (lw_at lw_m6 233 rfl) rfl
theorem q1523 : (Jvm.Cond.laysFinal "CombTableModel" "CombTableModel" "depth" "[I") ∈ lw_all := lw_g (lw_at lw_m6 234 rfl) rfl
theorem q1524 : (Jvm.Cond.soleField "CombTableModel" "depth") ∈ lw_all := lw_g (lw_at lw_m6 235 rfl) rfl
theorem q1525 : (Jvm.Cond.laysFinal "CombTableModel" "CombTableModel" "state" "[I") ∈ lw_all := lw_g (lw_at lw_m6 236 rfl) rfl
theorem q1526 : (Jvm.Cond.soleField "CombTableModel" "state") ∈ lw_all := lw_g (lw_at lw_m6 237 rfl) rfl
theorem q1527 : (Jvm.Cond.laysFinal "CombTableModel" "CombTableModel" "many" "[I") ∈ lw_all := lw_g (lw_at lw_m6 238 rfl) rfl
theorem q1528 : (Jvm.Cond.soleField "CombTableModel" "many") ∈ lw_all := lw_g (lw_at lw_m6 239 rfl) rfl
theorem q1529 : (Jvm.Cond.laysFinal "CombTableModel" "CombTableModel" "threadMany" "[I") ∈ lw_all := lw_g (lw_at lw_m7 0 rfl) rfl
theorem q1530 : (Jvm.Cond.soleField "CombTableModel" "threadMany") ∈ lw_all := lw_g (lw_at lw_m7 1 rfl) rfl
theorem q1531 : (Jvm.Cond.lays "CombTableModel" "CombTableModel" "why" "I") ∈ lw_all := lw_g (lw_at lw_m7 2 rfl) rfl
theorem q1532 : (Jvm.Cond.soleField "CombTableModel" "why") ∈ lw_all := lw_g (lw_at lw_m7 3 rfl) rfl
theorem q1533 : (Jvm.Cond.lays "CombTableModel" "CombTableModel" "seed" "I") ∈ lw_all := lw_g (lw_at lw_m7 4 rfl) rfl
theorem q1534 : (Jvm.Cond.soleField "CombTableModel" "seed") ∈ lw_all := lw_g (lw_at lw_m7 5 rfl) rfl
theorem q1535 : (Jvm.Cond.lays "CombTableModel" "CombTableModel" "lineMany" "I") ∈ lw_all := lw_g (lw_at lw_m7 6 rfl) rfl
theorem q1536 : (Jvm.Cond.soleField "CombTableModel" "lineMany") ∈ lw_all := lw_g (lw_at lw_m7 7 rfl) rfl
theorem q1537 : (Jvm.Cond.lays "CombTableModel" "CombTableModel" "anyMany" "I") ∈ lw_all := lw_g (lw_at lw_m7 8 rfl) rfl
theorem q1538 : (Jvm.Cond.soleField "CombTableModel" "anyMany") ∈ lw_all := lw_g (lw_at lw_m7 9 rfl) rfl
theorem q1539 : (Jvm.Cond.laysFinal "CombTableModel" "CombTableModel" "torn" "[I") ∈ lw_all := lw_g (lw_at lw_m7 10 rfl) rfl
theorem q1540 : (Jvm.Cond.soleField "CombTableModel" "torn") ∈ lw_all := lw_g (lw_at lw_m7 11 rfl) rfl
theorem q1541 : (Jvm.Cond.laysFinal "CombTableModel" "CombTableModel" "wholeWho" "[I") ∈ lw_all := lw_g (lw_at lw_m7 12 rfl) rfl
theorem q1542 : (Jvm.Cond.soleField "CombTableModel" "wholeWho") ∈ lw_all := lw_g (lw_at lw_m7 13 rfl) rfl
theorem q1543 : (Jvm.Cond.laysFinal "CombTableModel" "CombTableModel" "wholeKind" "[I") ∈ lw_all := lw_g (lw_at lw_m7 14 rfl) rfl
theorem q1544 : (Jvm.Cond.soleField "CombTableModel" "wholeKind") ∈ lw_all := lw_g (lw_at lw_m7 15 rfl) rfl
theorem q1545 : (Jvm.Cond.laysFinal "CombTableModel" "CombTableModel" "wholeState" "[I") ∈ lw_all := lw_g (lw_at lw_m7 16 rfl) rfl
theorem q1546 : (Jvm.Cond.soleField "CombTableModel" "wholeState") ∈ lw_all := lw_g (lw_at lw_m7 17 rfl) rfl
theorem q1547 : (Jvm.Cond.laysFinal "CombTableModel" "CombTableModel" "sureWho" "[I") ∈ lw_all := lw_g (lw_at lw_m7 18 rfl) rfl
theorem q1548 : (Jvm.Cond.soleField "CombTableModel" "sureWho") ∈ lw_all := lw_g (lw_at lw_m7 19 rfl) rfl
theorem q1549 : (Jvm.Cond.laysFinal "CombTableModel" "CombTableModel" "sureKind" "[I") ∈ lw_all := lw_g (lw_at lw_m7 20 rfl) rfl
theorem q1550 : (Jvm.Cond.soleField "CombTableModel" "sureKind") ∈ lw_all := lw_g (lw_at lw_m7 21 rfl) rfl
theorem q1551 : (Jvm.Cond.laysFinal "CombTableModel" "CombTableModel" "sureState" "[I") ∈ lw_all := lw_g (lw_at lw_m7 22 rfl) rfl
theorem q1552 : (Jvm.Cond.soleField "CombTableModel" "sureState") ∈ lw_all := lw_g (lw_at lw_m7 23 rfl) rfl
theorem q1553 : (Jvm.Cond.lays "CombTableModel" "CombTableModel" "tornMany" "I") ∈ lw_all := lw_g (lw_at lw_m7 24 rfl) rfl
theorem q1554 : (Jvm.Cond.soleField "CombTableModel" "tornMany") ∈ lw_all := lw_g (lw_at lw_m7 25 rfl) rfl
theorem q1555 : (Jvm.Cond.lays "CombTableModel" "CombTableModel" "found" "I") ∈ lw_all := lw_g (lw_at lw_m7 26 rfl) rfl
theorem q1556 : (Jvm.Cond.soleField "CombTableModel" "found") ∈ lw_all := lw_g (lw_at lw_m7 27 rfl) rfl
theorem q1557 : (Jvm.Cond.lays "CombTableModel" "CombTableModel" "sureMany" "I") ∈ lw_all := lw_g (lw_at lw_m7 28 rfl) rfl
theorem q1558 : (Jvm.Cond.soleField "CombTableModel" "sureMany") ∈ lw_all := lw_g (lw_at lw_m7 29 rfl) rfl
theorem q1559 : (Jvm.Cond.lays "CombTableModel" "CombTableModel" "mended" "I") ∈ lw_all := lw_g (lw_at lw_m7 30 rfl) rfl
theorem q1560 : (Jvm.Cond.soleField "CombTableModel" "mended") ∈ lw_all := lw_g (lw_at lw_m7 31 rfl) rfl
theorem q1561 : (Jvm.Cond.laysFinal "CombTableModel" "CombTableModel" "order" "[I") ∈ lw_all := lw_g (lw_at lw_m7 32 rfl) rfl
theorem q1562 : (Jvm.Cond.soleField "CombTableModel" "order") ∈ lw_all := lw_g (lw_at lw_m7 33 rfl) rfl
theorem q1563 : (Jvm.Cond.laysFinal "CombTableModel" "CombTableModel" "firstOrder" "[I") ∈ lw_all := lw_g (lw_at lw_m7 34 rfl) rfl
theorem q1564 : (Jvm.Cond.soleField "CombTableModel" "firstOrder") ∈ lw_all := lw_g (lw_at lw_m7 35 rfl) rfl
theorem q1565 : (Jvm.Cond.lays "CombTableModel" "CombTableModel" "orders" "I") ∈ lw_all := lw_g (lw_at lw_m7 36 rfl) rfl
theorem q1566 : (Jvm.Cond.soleField "CombTableModel" "orders") ∈ lw_all := lw_g (lw_at lw_m7 37 rfl) rfl
theorem q1567 : (Jvm.Cond.lays "CombTableModel" "CombTableModel" "orderMany" "I") ∈ lw_all := lw_g (lw_at lw_m7 38 rfl) rfl
theorem q1568 : (Jvm.Cond.soleField "CombTableModel" "orderMany") ∈ lw_all := lw_g (lw_at lw_m7 39 rfl) rfl
theorem q1569 : (Jvm.Cond.laysFinal "CombTableModel" "CombTableModel" "path" "[I") ∈ lw_all := lw_g (lw_at lw_m7 40 rfl) rfl
theorem q1570 : (Jvm.Cond.soleField "CombTableModel" "path") ∈ lw_all := lw_g (lw_at lw_m7 41 rfl) rfl
theorem q1571 : (Jvm.Cond.laysFinal "CombTableModel" "CombTableModel" "road" "[I") ∈ lw_all := lw_g (lw_at lw_m7 42 rfl) rfl
theorem q1572 : (Jvm.Cond.soleField "CombTableModel" "road") ∈ lw_all := lw_g (lw_at lw_m7 43 rfl) rfl
theorem q1573 : (Jvm.Cond.lays "CombTableModel" "CombTableModel" "roadMany" "I") ∈ lw_all := lw_g (lw_at lw_m7 44 rfl) rfl
theorem q1574 : (Jvm.Cond.soleField "CombTableModel" "roadMany") ∈ lw_all := lw_g (lw_at lw_m7 45 rfl) rfl
theorem q1575 : (Jvm.Cond.laysFinal "CombTableModel" "CombTableModel" "node" "[I") ∈ lw_all := lw_g (lw_at lw_m7 46 rfl) rfl
theorem q1576 : (Jvm.Cond.soleField "CombTableModel" "node") ∈ lw_all := lw_g (lw_at lw_m7 47 rfl) rfl
theorem q1577 : (Jvm.Cond.lays "CombTableModel" "CombTableModel" "nodes" "I") ∈ lw_all := lw_g (lw_at lw_m7 48 rfl) rfl
theorem q1578 : (Jvm.Cond.soleField "CombTableModel" "nodes") ∈ lw_all := lw_g (lw_at lw_m7 49 rfl) rfl
theorem q1579 : (Jvm.Cond.lays "CombTableModel" "CombTableModel" "onesMany" "I") ∈ lw_all := lw_g (lw_at lw_m7 50 rfl) rfl
theorem q1580 : (Jvm.Cond.soleField "CombTableModel" "onesMany") ∈ lw_all := lw_g (lw_at lw_m7 51 rfl) rfl
theorem q1581 : (Jvm.Cond.lays "CombTableModel" "CombTableModel" "within" "I") ∈ lw_all := lw_g (lw_at lw_m7 52 rfl) rfl
theorem q1582 : (Jvm.Cond.soleField "CombTableModel" "within") ∈ lw_all := lw_g (lw_at lw_m7 53 rfl) rfl
theorem q1583 : (Jvm.Cond.lays "CombTableModel" "CombTableModel" "top" "I") ∈ lw_all := lw_g (lw_at lw_m7 54 rfl) rfl
theorem q1584 : (Jvm.Cond.soleField "CombTableModel" "top") ∈ lw_all := lw_g (lw_at lw_m7 55 rfl) rfl
theorem q1585 : (Jvm.Cond.superclass "CombTableModel" "java/lang/Object") ∈ lw_all := lw_g (lw_at lw_m7 56 rfl) rfl
theorem q1589 : (Jvm.Cond.instanceMethod ({ cls := "CombTableModel", name := "thrown", desc := "()I" } : Jvm.MethodName)) ∈ lw_all := lw_g (lw_at lw_m7 60 rfl) rfl
theorem q1590 : (Jvm.Cond.selects "CombTableModel" ({ cls := "CombTableModel", name := "thrown", desc := "()I" } : Jvm.MethodName) ({ cls := "CombTableModel", name := "thrown", desc := "()I" } : Jvm.MethodName)) ∈ lw_all := lw_g (lw_at lw_m7 61 rfl) rfl
theorem q1591 : (Jvm.Cond.code ({ cls := "CombTableModel", name := "thrown", desc := "()I" } : Jvm.MethodName) prog_21_method_2_code (1 : Nat) (Option.some Jvm.ClassFile.FieldType.int)) ∈ lw_all := lw_g (lw_at lw_m7 62 rfl) rfl
theorem q1593 : (Jvm.Cond.instanceMethod ({ cls := "CombTableModel", name := "feed", desc := "(IIIII)I" } : Jvm.MethodName)) ∈ lw_all := lw_g (lw_at lw_m7 64 rfl) rfl
theorem q1594 : (Jvm.Cond.selects "CombTableModel" ({ cls := "CombTableModel", name := "feed", desc := "(IIIII)I" } : Jvm.MethodName) ({ cls := "CombTableModel", name := "feed", desc := "(IIIII)I" } : Jvm.MethodName)) ∈ lw_all := lw_g (lw_at lw_m7 65 rfl) rfl
theorem q1595 : (Jvm.Cond.code ({ cls := "CombTableModel", name := "feed", desc := "(IIIII)I" } : Jvm.MethodName) prog_21_method_5_code (6 : Nat) (Option.some Jvm.ClassFile.FieldType.int)) ∈ lw_all := lw_g (lw_at lw_m7 66 rfl) rfl
theorem q1596 : (Jvm.Cond.methodLink "CombTableModel" (112 : Nat) ({ cls := "CombTableModel", name := "come", desc := "(I)V" } : Jvm.MethodName)) ∈ lw_all := lw_g (lw_at lw_m7 67 rfl) rfl
theorem q1597 : (Jvm.Cond.privateMethod ({ cls := "CombTableModel", name := "come", desc := "(I)V" } : Jvm.MethodName)) ∈ lw_tbl := lw_at lw_m7 68 rfl
theorem q1598 : (Jvm.Cond.instanceMethod ({ cls := "CombTableModel", name := "come", desc := "(I)V" } : Jvm.MethodName)) ∈ lw_all := lw_g (lw_at lw_m7 69 rfl) rfl
theorem q1599 : (Jvm.Cond.code ({ cls := "CombTableModel", name := "come", desc := "(I)V" } : Jvm.MethodName) prog_21_method_4_code (3 : Nat) (Option.none : Option Jvm.ClassFile.FieldType)) ∈ lw_all := lw_g (lw_at lw_m7 70 rfl) rfl
theorem q1601 : (Jvm.Cond.instanceMethod ({ cls := "CombTableModel", name := "end", desc := "(I)Z" } : Jvm.MethodName)) ∈ lw_all := lw_g (lw_at lw_m7 72 rfl) rfl
theorem q1602 : (Jvm.Cond.selects "CombTableModel" ({ cls := "CombTableModel", name := "end", desc := "(I)Z" } : Jvm.MethodName) ({ cls := "CombTableModel", name := "end", desc := "(I)Z" } : Jvm.MethodName)) ∈ lw_all := lw_g (lw_at lw_m7 73 rfl) rfl
theorem q1603 : (Jvm.Cond.code ({ cls := "CombTableModel", name := "end", desc := "(I)Z" } : Jvm.MethodName) prog_21_method_6_code (2 : Nat) (Option.some Jvm.ClassFile.FieldType.boolean)) ∈ lw_all := lw_g (lw_at lw_m7 74 rfl) rfl
theorem q1605 : (Jvm.Cond.instanceMethod ({ cls := "CombTableModel", name := "table", desc := "()I" } : Jvm.MethodName)) ∈ lw_all := lw_g (lw_at lw_m7 76 rfl) rfl
theorem q1606 : (Jvm.Cond.selects "CombTableModel" ({ cls := "CombTableModel", name := "table", desc := "()I" } : Jvm.MethodName) ({ cls := "CombTableModel", name := "table", desc := "()I" } : Jvm.MethodName)) ∈ lw_all := lw_g (lw_at lw_m7 77 rfl) rfl
theorem q1607 : (Jvm.Cond.code ({ cls := "CombTableModel", name := "table", desc := "()I" } : Jvm.MethodName) prog_21_method_33_code (3 : Nat) (Option.some Jvm.ClassFile.FieldType.int)) ∈ lw_all := lw_g (lw_at lw_m7 78 rfl) rfl
theorem q1608 : (Jvm.Cond.methodLink "CombTableModel" (236 : Nat) ({ cls := "CombTableModel", name := "begin", desc := "(I)V" } : Jvm.MethodName)) ∈ lw_all := lw_g (lw_at lw_m7 79 rfl) rfl
theorem q1609 : (Jvm.Cond.privateMethod ({ cls := "CombTableModel", name := "begin", desc := "(I)V" } : Jvm.MethodName)) ∈ lw_tbl := lw_at lw_m7 80 rfl
theorem q1610 : (Jvm.Cond.instanceMethod ({ cls := "CombTableModel", name := "begin", desc := "(I)V" } : Jvm.MethodName)) ∈ lw_all := lw_g (lw_at lw_m7 81 rfl) rfl
theorem q1611 : (Jvm.Cond.code ({ cls := "CombTableModel", name := "begin", desc := "(I)V" } : Jvm.MethodName) prog_21_method_23_code (2 : Nat) (Option.none : Option Jvm.ClassFile.FieldType)) ∈ lw_all := lw_g (lw_at lw_m7 82 rfl) rfl
theorem q1612 : (Jvm.Cond.methodLink "CombTableModel" (190 : Nat) ({ cls := "CombTableModel", name := "take", desc := "()I" } : Jvm.MethodName)) ∈ lw_all := lw_g (lw_at lw_m7 83 rfl) rfl
theorem q1613 : (Jvm.Cond.privateMethod ({ cls := "CombTableModel", name := "take", desc := "()I" } : Jvm.MethodName)) ∈ lw_tbl := lw_at lw_m7 84 rfl
theorem q1614 : (Jvm.Cond.instanceMethod ({ cls := "CombTableModel", name := "take", desc := "()I" } : Jvm.MethodName)) ∈ lw_all := lw_g (lw_at lw_m7 85 rfl) rfl
theorem q1615 : (Jvm.Cond.code ({ cls := "CombTableModel", name := "take", desc := "()I" } : Jvm.MethodName) prog_21_method_7_code (2 : Nat) (Option.some Jvm.ClassFile.FieldType.int)) ∈ lw_all := lw_g (lw_at lw_m7 86 rfl) rfl
theorem q1616 : (Jvm.Cond.methodLink "CombTableModel" (184 : Nat) ({ cls := "CombTableModel", name := "go", desc := "()V" } : Jvm.MethodName)) ∈ lw_all := lw_g (lw_at lw_m7 87 rfl) rfl
theorem q1617 : (Jvm.Cond.privateMethod ({ cls := "CombTableModel", name := "go", desc := "()V" } : Jvm.MethodName)) ∈ lw_tbl := lw_at lw_m7 88 rfl
theorem q1618 : (Jvm.Cond.instanceMethod ({ cls := "CombTableModel", name := "go", desc := "()V" } : Jvm.MethodName)) ∈ lw_all := lw_g (lw_at lw_m7 89 rfl) rfl
theorem q1619 : (Jvm.Cond.code ({ cls := "CombTableModel", name := "go", desc := "()V" } : Jvm.MethodName) prog_21_method_13_code (5 : Nat) (Option.none : Option Jvm.ClassFile.FieldType)) ∈ lw_all := lw_g (lw_at lw_m7 90 rfl) rfl
theorem q1620 : (Jvm.Cond.methodLink "CombTableModel" (131 : Nat) ({ cls := "CombTableModel", name := "isLetter", desc := "(I)Z" } : Jvm.MethodName)) ∈ lw_all := lw_g (lw_at lw_m7 91 rfl) rfl
theorem q1621 : (Jvm.Cond.static ({ cls := "CombTableModel", name := "isLetter", desc := "(I)Z" } : Jvm.MethodName)) ∈ lw_all := lw_g (lw_at lw_m7 92 rfl) rfl
theorem q1622 : (Jvm.Cond.code ({ cls := "CombTableModel", name := "isLetter", desc := "(I)Z" } : Jvm.MethodName) prog_21_method_12_code (1 : Nat) (Option.some Jvm.ClassFile.FieldType.boolean)) ∈ lw_all := lw_g (lw_at lw_m7 93 rfl) rfl
theorem q1623 : (Jvm.Cond.methodLink "CombTableModel" (135 : Nat) ({ cls := "CombTableModel", name := "isDigit", desc := "(I)Z" } : Jvm.MethodName)) ∈ lw_all := lw_g (lw_at lw_m7 94 rfl) rfl
theorem q1624 : (Jvm.Cond.static ({ cls := "CombTableModel", name := "isDigit", desc := "(I)Z" } : Jvm.MethodName)) ∈ lw_all := lw_g (lw_at lw_m7 95 rfl) rfl
theorem q1625 : (Jvm.Cond.code ({ cls := "CombTableModel", name := "isDigit", desc := "(I)Z" } : Jvm.MethodName) prog_21_method_11_code (1 : Nat) (Option.some Jvm.ClassFile.FieldType.boolean)) ∈ lw_all := lw_g (lw_at lw_m7 96 rfl) rfl
theorem q1626 : (Jvm.Cond.methodLink "CombTableModel" (148 : Nat) ({ cls := "CombTableModel", name := "byteAt", desc := "(I)I" } : Jvm.MethodName)) ∈ lw_all := lw_g (lw_at lw_m7 97 rfl) rfl
theorem q1627 : (Jvm.Cond.privateMethod ({ cls := "CombTableModel", name := "byteAt", desc := "(I)I" } : Jvm.MethodName)) ∈ lw_tbl := lw_at lw_m7 98 rfl
theorem q1628 : (Jvm.Cond.instanceMethod ({ cls := "CombTableModel", name := "byteAt", desc := "(I)I" } : Jvm.MethodName)) ∈ lw_all := lw_g (lw_at lw_m7 99 rfl) rfl
theorem q1629 : (Jvm.Cond.code ({ cls := "CombTableModel", name := "byteAt", desc := "(I)I" } : Jvm.MethodName) prog_21_method_10_code (2 : Nat) (Option.some Jvm.ClassFile.FieldType.int)) ∈ lw_all := lw_g (lw_at lw_m7 100 rfl) rfl
theorem q1630 : (Jvm.Cond.constantLong "CombTableModel" (152 : Nat) (27 : Int64)) ∈ lw_all := lw_g (lw_at lw_m7 101 rfl) rfl
theorem q1631 : (Jvm.Cond.constantLong "CombTableModel" (154 : Nat) (96 : Int64)) ∈ lw_all := lw_g (lw_at lw_m7 102 rfl) rfl
theorem q1632 : (Jvm.Cond.methodLink "CombTableModel" (239 : Nat) ({ cls := "CombTableModel", name := "readLine", desc := "()Z" } : Jvm.MethodName)) ∈ lw_all := lw_g (lw_at lw_m7 103 rfl) rfl
theorem q1633 : (Jvm.Cond.privateMethod ({ cls := "CombTableModel", name := "readLine", desc := "()Z" } : Jvm.MethodName)) ∈ lw_tbl := lw_at lw_m7 104 rfl
theorem q1634 : (Jvm.Cond.instanceMethod ({ cls := "CombTableModel", name := "readLine", desc := "()Z" } : Jvm.MethodName)) ∈ lw_all := lw_g (lw_at lw_m7 105 rfl) rfl
theorem q1635 : (Jvm.Cond.code ({ cls := "CombTableModel", name := "readLine", desc := "()Z" } : Jvm.MethodName) prog_21_method_32_code (2 : Nat) (Option.some Jvm.ClassFile.FieldType.boolean)) ∈ lw_all := lw_g (lw_at lw_m7 106 rfl) rfl
theorem q1636 : (Jvm.Cond.methodLink "CombTableModel" (209 : Nat) ({ cls := "CombTableModel", name := "isWord", desc := "(I)Z" } : Jvm.MethodName)) ∈ lw_all := lw_g (lw_at lw_m7 107 rfl) rfl
theorem q1637 : (Jvm.Cond.privateMethod ({ cls := "CombTableModel", name := "isWord", desc := "(I)Z" } : Jvm.MethodName)) ∈ lw_tbl := lw_at lw_m7 108 rfl
theorem q1638 : (Jvm.Cond.instanceMethod ({ cls := "CombTableModel", name := "isWord", desc := "(I)Z" } : Jvm.MethodName)) ∈ lw_all := lw_g (lw_at lw_m7 109 rfl) rfl
theorem q1639 : (Jvm.Cond.code ({ cls := "CombTableModel", name := "isWord", desc := "(I)Z" } : Jvm.MethodName) prog_21_method_17_code (2 : Nat) (Option.some Jvm.ClassFile.FieldType.boolean)) ∈ lw_all := lw_g (lw_at lw_m7 110 rfl) rfl
theorem q1640 : (Jvm.Cond.methodLink "CombTableModel" (164 : Nat) ({ cls := "CombTableModel", name := "wordOf", desc := "(I)J" } : Jvm.MethodName)) ∈ lw_all := lw_g (lw_at lw_m7 111 rfl) rfl
theorem q1641 : (Jvm.Cond.static ({ cls := "CombTableModel", name := "wordOf", desc := "(I)J" } : Jvm.MethodName)) ∈ lw_all := lw_g (lw_at lw_m7 112 rfl) rfl
theorem q1642 : (Jvm.Cond.code ({ cls := "CombTableModel", name := "wordOf", desc := "(I)J" } : Jvm.MethodName) prog_21_method_16_code (1 : Nat) (Option.some Jvm.ClassFile.FieldType.long)) ∈ lw_all := lw_g (lw_at lw_m7 113 rfl) rfl
theorem q1643 : (Jvm.Cond.methodLink "CombTableModel" (156 : Nat) ({ cls := "CombTableModel", name := "spelt", desc := "(IIII)J" } : Jvm.MethodName)) ∈ lw_all := lw_g (lw_at lw_m7 114 rfl) rfl
theorem q1644 : (Jvm.Cond.static ({ cls := "CombTableModel", name := "spelt", desc := "(IIII)J" } : Jvm.MethodName)) ∈ lw_all := lw_g (lw_at lw_m7 115 rfl) rfl
theorem q1645 : (Jvm.Cond.code ({ cls := "CombTableModel", name := "spelt", desc := "(IIII)J" } : Jvm.MethodName) prog_21_method_14_code (6 : Nat) (Option.some Jvm.ClassFile.FieldType.long)) ∈ lw_all := lw_g (lw_at lw_m7 116 rfl) rfl
theorem q1646 : (Jvm.Cond.methodLink "CombTableModel" (160 : Nat) ({ cls := "CombTableModel", name := "on", desc := "(JIII)J" } : Jvm.MethodName)) ∈ lw_all := lw_g (lw_at lw_m7 117 rfl) rfl
theorem q1647 : (Jvm.Cond.static ({ cls := "CombTableModel", name := "on", desc := "(JIII)J" } : Jvm.MethodName)) ∈ lw_all := lw_g (lw_at lw_m7 118 rfl) rfl
theorem q1648 : (Jvm.Cond.code ({ cls := "CombTableModel", name := "on", desc := "(JIII)J" } : Jvm.MethodName) prog_21_method_15_code (7 : Nat) (Option.some Jvm.ClassFile.FieldType.long)) ∈ lw_all := lw_g (lw_at lw_m7 119 rfl) rfl
theorem q1649 : (Jvm.Cond.methodLink "CombTableModel" (218 : Nat) ({ cls := "CombTableModel", name := "readWho", desc := "()Z" } : Jvm.MethodName)) ∈ lw_all := lw_g (lw_at lw_m7 120 rfl) rfl
theorem q1650 : (Jvm.Cond.privateMethod ({ cls := "CombTableModel", name := "readWho", desc := "()Z" } : Jvm.MethodName)) ∈ lw_tbl := lw_at lw_m7 121 rfl
theorem q1651 : (Jvm.Cond.instanceMethod ({ cls := "CombTableModel", name := "readWho", desc := "()Z" } : Jvm.MethodName)) ∈ lw_all := lw_g (lw_at lw_m7 122 rfl) rfl
theorem q1652 : (Jvm.Cond.code ({ cls := "CombTableModel", name := "readWho", desc := "()Z" } : Jvm.MethodName) prog_21_method_26_code (2 : Nat) (Option.some Jvm.ClassFile.FieldType.boolean)) ∈ lw_all := lw_g (lw_at lw_m7 123 rfl) rfl
theorem q1653 : (Jvm.Cond.methodLink "CombTableModel" (174 : Nat) ({ cls := "CombTableModel", name := "bad", desc := "(I)Z" } : Jvm.MethodName)) ∈ lw_all := lw_g (lw_at lw_m7 124 rfl) rfl
theorem q1654 : (Jvm.Cond.privateMethod ({ cls := "CombTableModel", name := "bad", desc := "(I)Z" } : Jvm.MethodName)) ∈ lw_tbl := lw_at lw_m7 125 rfl
theorem q1655 : (Jvm.Cond.instanceMethod ({ cls := "CombTableModel", name := "bad", desc := "(I)Z" } : Jvm.MethodName)) ∈ lw_all := lw_g (lw_at lw_m7 126 rfl) rfl
theorem q1656 : (Jvm.Cond.code ({ cls := "CombTableModel", name := "bad", desc := "(I)Z" } : Jvm.MethodName) prog_21_method_20_code (2 : Nat) (Option.some Jvm.ClassFile.FieldType.boolean)) ∈ lw_all := lw_g (lw_at lw_m7 127 rfl) rfl
theorem q1657 : (Jvm.Cond.methodLink "CombTableModel" (202 : Nat) ({ cls := "CombTableModel", name := "readNew", desc := "(I)Z" } : Jvm.MethodName)) ∈ lw_all := lw_g (lw_at lw_m7 128 rfl) rfl
theorem q1658 : (Jvm.Cond.privateMethod ({ cls := "CombTableModel", name := "readNew", desc := "(I)Z" } : Jvm.MethodName)) ∈ lw_tbl := lw_at lw_m7 129 rfl
theorem q1659 : (Jvm.Cond.instanceMethod ({ cls := "CombTableModel", name := "readNew", desc := "(I)Z" } : Jvm.MethodName)) ∈ lw_all := lw_g (lw_at lw_m7 130 rfl) rfl
theorem q1660 : (Jvm.Cond.code ({ cls := "CombTableModel", name := "readNew", desc := "(I)Z" } : Jvm.MethodName) prog_21_method_25_code (2 : Nat) (Option.some Jvm.ClassFile.FieldType.boolean)) ∈ lw_all := lw_g (lw_at lw_m7 131 rfl) rfl
theorem q1661 : (Jvm.Cond.methodLink "CombTableModel" (194 : Nat) ({ cls := "CombTableModel", name := "isName", desc := "()Z" } : Jvm.MethodName)) ∈ lw_all := lw_g (lw_at lw_m7 132 rfl) rfl
theorem q1662 : (Jvm.Cond.privateMethod ({ cls := "CombTableModel", name := "isName", desc := "()Z" } : Jvm.MethodName)) ∈ lw_tbl := lw_at lw_m7 133 rfl
theorem q1663 : (Jvm.Cond.instanceMethod ({ cls := "CombTableModel", name := "isName", desc := "()Z" } : Jvm.MethodName)) ∈ lw_all := lw_g (lw_at lw_m7 134 rfl) rfl
theorem q1664 : (Jvm.Cond.code ({ cls := "CombTableModel", name := "isName", desc := "()Z" } : Jvm.MethodName) prog_21_method_19_code (2 : Nat) (Option.some Jvm.ClassFile.FieldType.boolean)) ∈ lw_all := lw_g (lw_at lw_m7 135 rfl) rfl
theorem q1665 : (Jvm.Cond.methodLink "CombTableModel" (198 : Nat) ({ cls := "CombTableModel", name := "findIn", desc := "([JII)I" } : Jvm.MethodName)) ∈ lw_all := lw_g (lw_at lw_m7 136 rfl) rfl
theorem q1666 : (Jvm.Cond.privateMethod ({ cls := "CombTableModel", name := "findIn", desc := "([JII)I" } : Jvm.MethodName)) ∈ lw_tbl := lw_at lw_m7 137 rfl
theorem q1667 : (Jvm.Cond.instanceMethod ({ cls := "CombTableModel", name := "findIn", desc := "([JII)I" } : Jvm.MethodName)) ∈ lw_all := lw_g (lw_at lw_m7 138 rfl) rfl
theorem q1668 : (Jvm.Cond.code ({ cls := "CombTableModel", name := "findIn", desc := "([JII)I" } : Jvm.MethodName) prog_21_method_24_code (5 : Nat) (Option.some Jvm.ClassFile.FieldType.int)) ∈ lw_all := lw_g (lw_at lw_m7 139 rfl) rfl
theorem q1669 : (Jvm.Cond.methodLink "CombTableModel" (205 : Nat) ({ cls := "CombTableModel", name := "readNumber", desc := "(II)Z" } : Jvm.MethodName)) ∈ lw_all := lw_g (lw_at lw_m7 140 rfl) rfl
theorem q1670 : (Jvm.Cond.privateMethod ({ cls := "CombTableModel", name := "readNumber", desc := "(II)Z" } : Jvm.MethodName)) ∈ lw_tbl := lw_at lw_m7 141 rfl
theorem q1671 : (Jvm.Cond.instanceMethod ({ cls := "CombTableModel", name := "readNumber", desc := "(II)Z" } : Jvm.MethodName)) ∈ lw_all := lw_g (lw_at lw_m7 142 rfl) rfl
theorem q1672 : (Jvm.Cond.code ({ cls := "CombTableModel", name := "readNumber", desc := "(II)Z" } : Jvm.MethodName) prog_21_method_21_code (3 : Nat) (Option.some Jvm.ClassFile.FieldType.boolean)) ∈ lw_all := lw_g (lw_at lw_m7 143 rfl) rfl
theorem q1673 : (Jvm.Cond.methodLink "CombTableModel" (177 : Nat) ({ cls := "CombTableModel", name := "isIn", desc := "(III)Z" } : Jvm.MethodName)) ∈ lw_all := lw_g (lw_at lw_m7 144 rfl) rfl
theorem q1674 : (Jvm.Cond.static ({ cls := "CombTableModel", name := "isIn", desc := "(III)Z" } : Jvm.MethodName)) ∈ lw_all := lw_g (lw_at lw_m7 145 rfl) rfl
theorem q1675 : (Jvm.Cond.code ({ cls := "CombTableModel", name := "isIn", desc := "(III)Z" } : Jvm.MethodName) prog_21_method_8_code (3 : Nat) (Option.some Jvm.ClassFile.FieldType.boolean)) ∈ lw_all := lw_g (lw_at lw_m7 146 rfl) rfl
theorem q1676 : (Jvm.Cond.methodLink "CombTableModel" (221 : Nat) ({ cls := "CombTableModel", name := "readKind", desc := "()Z" } : Jvm.MethodName)) ∈ lw_all := lw_g (lw_at lw_m7 147 rfl) rfl
theorem q1677 : (Jvm.Cond.privateMethod ({ cls := "CombTableModel", name := "readKind", desc := "()Z" } : Jvm.MethodName)) ∈ lw_tbl := lw_at lw_m7 148 rfl
theorem q1678 : (Jvm.Cond.instanceMethod ({ cls := "CombTableModel", name := "readKind", desc := "()Z" } : Jvm.MethodName)) ∈ lw_all := lw_g (lw_at lw_m7 149 rfl) rfl
theorem q1679 : (Jvm.Cond.code ({ cls := "CombTableModel", name := "readKind", desc := "()Z" } : Jvm.MethodName) prog_21_method_27_code (4 : Nat) (Option.some Jvm.ClassFile.FieldType.boolean)) ∈ lw_all := lw_g (lw_at lw_m7 150 rfl) rfl
theorem q1680 : (Jvm.Cond.methodLink "CombTableModel" (224 : Nat) ({ cls := "CombTableModel", name := "readMay", desc := "()Z" } : Jvm.MethodName)) ∈ lw_all := lw_g (lw_at lw_m7 151 rfl) rfl
theorem q1681 : (Jvm.Cond.privateMethod ({ cls := "CombTableModel", name := "readMay", desc := "()Z" } : Jvm.MethodName)) ∈ lw_tbl := lw_at lw_m7 152 rfl
theorem q1682 : (Jvm.Cond.instanceMethod ({ cls := "CombTableModel", name := "readMay", desc := "()Z" } : Jvm.MethodName)) ∈ lw_all := lw_g (lw_at lw_m7 153 rfl) rfl
theorem q1683 : (Jvm.Cond.code ({ cls := "CombTableModel", name := "readMay", desc := "()Z" } : Jvm.MethodName) prog_21_method_29_code (3 : Nat) (Option.some Jvm.ClassFile.FieldType.boolean)) ∈ lw_all := lw_g (lw_at lw_m7 154 rfl) rfl
theorem q1684 : (Jvm.Cond.methodLink "CombTableModel" (212 : Nat) ({ cls := "CombTableModel", name := "readKindTold", desc := "()Z" } : Jvm.MethodName)) ∈ lw_all := lw_g (lw_at lw_m7 155 rfl) rfl
theorem q1685 : (Jvm.Cond.privateMethod ({ cls := "CombTableModel", name := "readKindTold", desc := "()Z" } : Jvm.MethodName)) ∈ lw_tbl := lw_at lw_m7 156 rfl
theorem q1686 : (Jvm.Cond.instanceMethod ({ cls := "CombTableModel", name := "readKindTold", desc := "()Z" } : Jvm.MethodName)) ∈ lw_all := lw_g (lw_at lw_m7 157 rfl) rfl
theorem q1687 : (Jvm.Cond.code ({ cls := "CombTableModel", name := "readKindTold", desc := "()Z" } : Jvm.MethodName) prog_21_method_28_code (1 : Nat) (Option.some Jvm.ClassFile.FieldType.boolean)) ∈ lw_all := lw_g (lw_at lw_m7 158 rfl) rfl
theorem q1688 : (Jvm.Cond.methodLink "CombTableModel" (215 : Nat) ({ cls := "CombTableModel", name := "has", desc := "(II)Z" } : Jvm.MethodName)) ∈ lw_all := lw_g (lw_at lw_m7 159 rfl) rfl
theorem q1689 : (Jvm.Cond.static ({ cls := "CombTableModel", name := "has", desc := "(II)Z" } : Jvm.MethodName)) ∈ lw_all := lw_g (lw_at lw_m7 160 rfl) rfl
theorem q1690 : (Jvm.Cond.code ({ cls := "CombTableModel", name := "has", desc := "(II)Z" } : Jvm.MethodName) prog_21_method_9_code (2 : Nat) (Option.some Jvm.ClassFile.FieldType.boolean)) ∈ lw_all := lw_g (lw_at lw_m7 161 rfl) rfl
theorem q1691 : (Jvm.Cond.methodLink "CombTableModel" (227 : Nat) ({ cls := "CombTableModel", name := "readComb", desc := "()Z" } : Jvm.MethodName)) ∈ lw_all := lw_g (lw_at lw_m7 162 rfl) rfl
theorem q1692 : (Jvm.Cond.privateMethod ({ cls := "CombTableModel", name := "readComb", desc := "()Z" } : Jvm.MethodName)) ∈ lw_tbl := lw_at lw_m7 163 rfl
theorem q1693 : (Jvm.Cond.instanceMethod ({ cls := "CombTableModel", name := "readComb", desc := "()Z" } : Jvm.MethodName)) ∈ lw_all := lw_g (lw_at lw_m7 164 rfl) rfl
theorem q1694 : (Jvm.Cond.code ({ cls := "CombTableModel", name := "readComb", desc := "()Z" } : Jvm.MethodName) prog_21_method_30_code (2 : Nat) (Option.some Jvm.ClassFile.FieldType.boolean)) ∈ lw_all := lw_g (lw_at lw_m7 165 rfl) rfl
theorem q1695 : (Jvm.Cond.methodLink "CombTableModel" (230 : Nat) ({ cls := "CombTableModel", name := "readOnce", desc := "(I)Z" } : Jvm.MethodName)) ∈ lw_all := lw_g (lw_at lw_m7 166 rfl) rfl
theorem q1696 : (Jvm.Cond.privateMethod ({ cls := "CombTableModel", name := "readOnce", desc := "(I)Z" } : Jvm.MethodName)) ∈ lw_tbl := lw_at lw_m7 167 rfl
theorem q1697 : (Jvm.Cond.instanceMethod ({ cls := "CombTableModel", name := "readOnce", desc := "(I)Z" } : Jvm.MethodName)) ∈ lw_all := lw_g (lw_at lw_m7 168 rfl) rfl
theorem q1698 : (Jvm.Cond.code ({ cls := "CombTableModel", name := "readOnce", desc := "(I)Z" } : Jvm.MethodName) prog_21_method_31_code (2 : Nat) (Option.some Jvm.ClassFile.FieldType.boolean)) ∈ lw_all := lw_g (lw_at lw_m7 169 rfl) rfl
theorem q1699 : (Jvm.Cond.methodLink "CombTableModel" (233 : Nat) ({ cls := "CombTableModel", name := "readEnd", desc := "()Z" } : Jvm.MethodName)) ∈ lw_all := lw_g (lw_at lw_m7 170 rfl) rfl
theorem q1700 : (Jvm.Cond.privateMethod ({ cls := "CombTableModel", name := "readEnd", desc := "()Z" } : Jvm.MethodName)) ∈ lw_tbl := lw_at lw_m7 171 rfl
theorem q1701 : (Jvm.Cond.instanceMethod ({ cls := "CombTableModel", name := "readEnd", desc := "()Z" } : Jvm.MethodName)) ∈ lw_all := lw_g (lw_at lw_m7 172 rfl) rfl
theorem q1702 : (Jvm.Cond.code ({ cls := "CombTableModel", name := "readEnd", desc := "()Z" } : Jvm.MethodName) prog_21_method_22_code (1 : Nat) (Option.some Jvm.ClassFile.FieldType.boolean)) ∈ lw_all := lw_g (lw_at lw_m7 173 rfl) rfl
theorem q1703 : (Jvm.Cond.methodLink "CombTableModel" (187 : Nat) ({ cls := "CombTableModel", name := "isSign", desc := "(I)Z" } : Jvm.MethodName)) ∈ lw_all := lw_g (lw_at lw_m7 174 rfl) rfl
theorem q1704 : (Jvm.Cond.privateMethod ({ cls := "CombTableModel", name := "isSign", desc := "(I)Z" } : Jvm.MethodName)) ∈ lw_tbl := lw_at lw_m7 175 rfl
theorem q1705 : (Jvm.Cond.instanceMethod ({ cls := "CombTableModel", name := "isSign", desc := "(I)Z" } : Jvm.MethodName)) ∈ lw_all := lw_g (lw_at lw_m7 176 rfl) rfl
theorem q1706 : (Jvm.Cond.code ({ cls := "CombTableModel", name := "isSign", desc := "(I)Z" } : Jvm.MethodName) prog_21_method_18_code (2 : Nat) (Option.some Jvm.ClassFile.FieldType.boolean)) ∈ lw_all := lw_g (lw_at lw_m7 177 rfl) rfl
theorem q1708 : (Jvm.Cond.instanceMethod ({ cls := "CombTableModel", name := "fault", desc := "()I" } : Jvm.MethodName)) ∈ lw_all := lw_g (lw_at lw_m7 179 rfl) rfl
theorem q1709 : (Jvm.Cond.selects "CombTableModel" ({ cls := "CombTableModel", name := "fault", desc := "()I" } : Jvm.MethodName) ({ cls := "CombTableModel", name := "fault", desc := "()I" } : Jvm.MethodName)) ∈ lw_all := lw_g (lw_at lw_m7 180 rfl) rfl
theorem q1710 : (Jvm.Cond.code ({ cls := "CombTableModel", name := "fault", desc := "()I" } : Jvm.MethodName) prog_21_method_34_code (1 : Nat) (Option.some Jvm.ClassFile.FieldType.int)) ∈ lw_all := lw_g (lw_at lw_m7 181 rfl) rfl
theorem q1712 : (Jvm.Cond.instanceMethod ({ cls := "CombTableModel", name := "rank", desc := "(I)I" } : Jvm.MethodName)) ∈ lw_all := lw_g (lw_at lw_m7 183 rfl) rfl
theorem q1713 : (Jvm.Cond.selects "CombTableModel" ({ cls := "CombTableModel", name := "rank", desc := "(I)I" } : Jvm.MethodName) ({ cls := "CombTableModel", name := "rank", desc := "(I)I" } : Jvm.MethodName)) ∈ lw_all := lw_g (lw_at lw_m7 184 rfl) rfl
theorem q1714 : (Jvm.Cond.code ({ cls := "CombTableModel", name := "rank", desc := "(I)I" } : Jvm.MethodName) prog_21_method_37_code (2 : Nat) (Option.some Jvm.ClassFile.FieldType.int)) ∈ lw_all := lw_g (lw_at lw_m7 185 rfl) rfl
theorem q1715 : (Jvm.Cond.methodLink "CombTableModel" (242 : Nat) ({ cls := "CombTableModel", name := "isWho", desc := "(I)Z" } : Jvm.MethodName)) ∈ lw_all := lw_g (lw_at lw_m7 186 rfl) rfl
theorem q1716 : (Jvm.Cond.privateMethod ({ cls := "CombTableModel", name := "isWho", desc := "(I)Z" } : Jvm.MethodName)) ∈ lw_tbl := lw_at lw_m7 187 rfl
theorem q1717 : (Jvm.Cond.instanceMethod ({ cls := "CombTableModel", name := "isWho", desc := "(I)Z" } : Jvm.MethodName)) ∈ lw_all := lw_g (lw_at lw_m7 188 rfl) rfl
theorem q1718 : (Jvm.Cond.code ({ cls := "CombTableModel", name := "isWho", desc := "(I)Z" } : Jvm.MethodName) prog_21_method_35_code (2 : Nat) (Option.some Jvm.ClassFile.FieldType.boolean)) ∈ lw_all := lw_g (lw_at lw_m7 189 rfl) rfl
theorem q1720 : (Jvm.Cond.instanceMethod ({ cls := "CombTableModel", name := "kind", desc := "(II)I" } : Jvm.MethodName)) ∈ lw_all := lw_g (lw_at lw_m7 191 rfl) rfl
theorem q1721 : (Jvm.Cond.selects "CombTableModel" ({ cls := "CombTableModel", name := "kind", desc := "(II)I" } : Jvm.MethodName) ({ cls := "CombTableModel", name := "kind", desc := "(II)I" } : Jvm.MethodName)) ∈ lw_all := lw_g (lw_at lw_m7 192 rfl) rfl
theorem q1722 : (Jvm.Cond.code ({ cls := "CombTableModel", name := "kind", desc := "(II)I" } : Jvm.MethodName) prog_21_method_38_code (3 : Nat) (Option.some Jvm.ClassFile.FieldType.int)) ∈ lw_all := lw_g (lw_at lw_m7 193 rfl) rfl
theorem q1723 : (Jvm.Cond.methodLink "CombTableModel" (245 : Nat) ({ cls := "CombTableModel", name := "isKind", desc := "(I)Z" } : Jvm.MethodName)) ∈ lw_all := lw_g (lw_at lw_m7 194 rfl) rfl
theorem q1724 : (Jvm.Cond.privateMethod ({ cls := "CombTableModel", name := "isKind", desc := "(I)Z" } : Jvm.MethodName)) ∈ lw_tbl := lw_at lw_m7 195 rfl
theorem q1725 : (Jvm.Cond.instanceMethod ({ cls := "CombTableModel", name := "isKind", desc := "(I)Z" } : Jvm.MethodName)) ∈ lw_all := lw_g (lw_at lw_m7 196 rfl) rfl
theorem q1726 : (Jvm.Cond.code ({ cls := "CombTableModel", name := "isKind", desc := "(I)Z" } : Jvm.MethodName) prog_21_method_36_code (2 : Nat) (Option.some Jvm.ClassFile.FieldType.boolean)) ∈ lw_all := lw_g (lw_at lw_m7 197 rfl) rfl
theorem q1727 : (Jvm.Cond.methodLink "CombTableModel" (248 : Nat) ({ cls := "CombTableModel", name := "refuse", desc := "()I" } : Jvm.MethodName)) ∈ lw_all := lw_g (lw_at lw_m7 198 rfl) rfl
theorem q1728 : (Jvm.Cond.privateMethod ({ cls := "CombTableModel", name := "refuse", desc := "()I" } : Jvm.MethodName)) ∈ lw_tbl := lw_at lw_m7 199 rfl
theorem q1729 : (Jvm.Cond.instanceMethod ({ cls := "CombTableModel", name := "refuse", desc := "()I" } : Jvm.MethodName)) ∈ lw_all := lw_g (lw_at lw_m7 200 rfl) rfl
theorem q1730 : (Jvm.Cond.code ({ cls := "CombTableModel", name := "refuse", desc := "()I" } : Jvm.MethodName) prog_21_method_3_code (1 : Nat) (Option.some Jvm.ClassFile.FieldType.int)) ∈ lw_all := lw_g (lw_at lw_m7 201 rfl) rfl
theorem q1732 : (Jvm.Cond.instanceMethod ({ cls := "CombTableModel", name := "say", desc := "(II)I" } : Jvm.MethodName)) ∈ lw_all := lw_g (lw_at lw_m7 203 rfl) rfl
theorem q1733 : (Jvm.Cond.selects "CombTableModel" ({ cls := "CombTableModel", name := "say", desc := "(II)I" } : Jvm.MethodName) ({ cls := "CombTableModel", name := "say", desc := "(II)I" } : Jvm.MethodName)) ∈ lw_all := lw_g (lw_at lw_m7 204 rfl) rfl
theorem q1734 : (Jvm.Cond.code ({ cls := "CombTableModel", name := "say", desc := "(II)I" } : Jvm.MethodName) prog_21_method_49_code (4 : Nat) (Option.some Jvm.ClassFile.FieldType.int)) ∈ lw_all := lw_g (lw_at lw_m7 205 rfl) rfl
theorem q1735 : (Jvm.Cond.methodLink "CombTableModel" (276 : Nat) ({ cls := "CombTableModel", name := "tries", desc := "(II)I" } : Jvm.MethodName)) ∈ lw_all := lw_g (lw_at lw_m7 206 rfl) rfl
theorem q1736 : (Jvm.Cond.privateMethod ({ cls := "CombTableModel", name := "tries", desc := "(II)I" } : Jvm.MethodName)) ∈ lw_tbl := lw_at lw_m7 207 rfl
theorem q1737 : (Jvm.Cond.instanceMethod ({ cls := "CombTableModel", name := "tries", desc := "(II)I" } : Jvm.MethodName)) ∈ lw_all := lw_g (lw_at lw_m7 208 rfl) rfl
theorem q1738 : (Jvm.Cond.code ({ cls := "CombTableModel", name := "tries", desc := "(II)I" } : Jvm.MethodName) prog_21_method_48_code (3 : Nat) (Option.some Jvm.ClassFile.FieldType.int)) ∈ lw_all := lw_g (lw_at lw_m7 209 rfl) rfl
theorem q1739 : (Jvm.Cond.methodLink "CombTableModel" (270 : Nat) ({ cls := "CombTableModel", name := "lay", desc := "()V" } : Jvm.MethodName)) ∈ lw_all := lw_g (lw_at lw_m7 210 rfl) rfl
theorem q1740 : (Jvm.Cond.privateMethod ({ cls := "CombTableModel", name := "lay", desc := "()V" } : Jvm.MethodName)) ∈ lw_tbl := lw_at lw_m7 211 rfl
theorem q1741 : (Jvm.Cond.instanceMethod ({ cls := "CombTableModel", name := "lay", desc := "()V" } : Jvm.MethodName)) ∈ lw_all := lw_g (lw_at lw_m7 212 rfl) rfl
theorem q1742 : (Jvm.Cond.code ({ cls := "CombTableModel", name := "lay", desc := "()V" } : Jvm.MethodName) prog_21_method_47_code (2 : Nat) (Option.none : Option Jvm.ClassFile.FieldType)) ∈ lw_all := lw_g (lw_at lw_m7 213 rfl) rfl
theorem q1743 : (Jvm.Cond.methodLink "CombTableModel" (262 : Nat) ({ cls := "CombTableModel", name := "layRules", desc := "(I[II)V" } : Jvm.MethodName)) ∈ lw_all := lw_g (lw_at lw_m7 214 rfl) rfl
theorem q1744 : (Jvm.Cond.privateMethod ({ cls := "CombTableModel", name := "layRules", desc := "(I[II)V" } : Jvm.MethodName)) ∈ lw_tbl := lw_at lw_m7 215 rfl
theorem q1745 : (Jvm.Cond.instanceMethod ({ cls := "CombTableModel", name := "layRules", desc := "(I[II)V" } : Jvm.MethodName)) ∈ lw_all := lw_g (lw_at lw_m7 216 rfl) rfl
theorem q1746 : (Jvm.Cond.code ({ cls := "CombTableModel", name := "layRules", desc := "(I[II)V" } : Jvm.MethodName) prog_21_method_39_code (5 : Nat) (Option.none : Option Jvm.ClassFile.FieldType)) ∈ lw_all := lw_g (lw_at lw_m7 217 rfl) rfl
theorem q1747 : (Jvm.Cond.methodLink "CombTableModel" (266 : Nat) ({ cls := "CombTableModel", name := "push", desc := "(III)V" } : Jvm.MethodName)) ∈ lw_all := lw_g (lw_at lw_m7 218 rfl) rfl
theorem q1748 : (Jvm.Cond.privateMethod ({ cls := "CombTableModel", name := "push", desc := "(III)V" } : Jvm.MethodName)) ∈ lw_tbl := lw_at lw_m7 219 rfl
theorem q1749 : (Jvm.Cond.instanceMethod ({ cls := "CombTableModel", name := "push", desc := "(III)V" } : Jvm.MethodName)) ∈ lw_all := lw_g (lw_at lw_m7 220 rfl) rfl
theorem q1750 : (Jvm.Cond.code ({ cls := "CombTableModel", name := "push", desc := "(III)V" } : Jvm.MethodName) prog_21_method_44_code (7 : Nat) (Option.none : Option Jvm.ClassFile.FieldType)) ∈ lw_all := lw_g (lw_at lw_m7 221 rfl) rfl
theorem q1751 : (Jvm.Cond.methodLink "CombTableModel" (259 : Nat) ({ cls := "CombTableModel", name := "answers", desc := "(III)I" } : Jvm.MethodName)) ∈ lw_all := lw_g (lw_at lw_m7 222 rfl) rfl
theorem q1752 : (Jvm.Cond.privateMethod ({ cls := "CombTableModel", name := "answers", desc := "(III)I" } : Jvm.MethodName)) ∈ lw_tbl := lw_at lw_m7 223 rfl
theorem q1753 : (Jvm.Cond.instanceMethod ({ cls := "CombTableModel", name := "answers", desc := "(III)I" } : Jvm.MethodName)) ∈ lw_all := lw_g (lw_at lw_m7 224 rfl) rfl
theorem q1754 : (Jvm.Cond.code ({ cls := "CombTableModel", name := "answers", desc := "(III)I" } : Jvm.MethodName) prog_21_method_42_code (6 : Nat) (Option.some Jvm.ClassFile.FieldType.int)) ∈ lw_all := lw_g (lw_at lw_m7 225 rfl) rfl
theorem q1755 : (Jvm.Cond.methodLink "CombTableModel" (251 : Nat) ({ cls := "CombTableModel", name := "ofKind", desc := "(III)I" } : Jvm.MethodName)) ∈ lw_all := lw_g (lw_at lw_m7 226 rfl) rfl
theorem q1756 : (Jvm.Cond.privateMethod ({ cls := "CombTableModel", name := "ofKind", desc := "(III)I" } : Jvm.MethodName)) ∈ lw_tbl := lw_at lw_m7 227 rfl
theorem q1757 : (Jvm.Cond.instanceMethod ({ cls := "CombTableModel", name := "ofKind", desc := "(III)I" } : Jvm.MethodName)) ∈ lw_all := lw_g (lw_at lw_m7 228 rfl) rfl
theorem q1758 : (Jvm.Cond.code ({ cls := "CombTableModel", name := "ofKind", desc := "(III)I" } : Jvm.MethodName) prog_21_method_41_code (4 : Nat) (Option.some Jvm.ClassFile.FieldType.int)) ∈ lw_all := lw_g (lw_at lw_m7 229 rfl) rfl
theorem q1759 : (Jvm.Cond.methodLink "CombTableModel" (255 : Nat) ({ cls := "CombTableModel", name := "rule", desc := "(II)I" } : Jvm.MethodName)) ∈ lw_all := lw_g (lw_at lw_m7 230 rfl) rfl
theorem q1760 : (Jvm.Cond.privateMethod ({ cls := "CombTableModel", name := "rule", desc := "(II)I" } : Jvm.MethodName)) ∈ lw_tbl := lw_at lw_m7 231 rfl
theorem q1761 : (Jvm.Cond.instanceMethod ({ cls := "CombTableModel", name := "rule", desc := "(II)I" } : Jvm.MethodName)) ∈ lw_all := lw_g (lw_at lw_m7 232 rfl) rfl
theorem q1762 : (Jvm.Cond.code ({ cls := "CombTableModel", name := "rule", desc := "(II)I" } : Jvm.MethodName) prog_21_method_40_code (3 : Nat) (Option.some Jvm.ClassFile.FieldType.int)) ∈ lw_all := lw_g (lw_at lw_m7 233 rfl) rfl
theorem q1763 : (Jvm.Cond.methodLink "CombTableModel" (273 : Nat) ({ cls := "CombTableModel", name := "wrongOf", desc := "(III)I" } : Jvm.MethodName)) ∈ lw_all := lw_g (lw_at lw_m7 234 rfl) rfl
theorem q1764 : (Jvm.Cond.privateMethod ({ cls := "CombTableModel", name := "wrongOf", desc := "(III)I" } : Jvm.MethodName)) ∈ lw_tbl := lw_at lw_m7 235 rfl
theorem q1765 : (Jvm.Cond.instanceMethod ({ cls := "CombTableModel", name := "wrongOf", desc := "(III)I" } : Jvm.MethodName)) ∈ lw_all := lw_g (lw_at lw_m7 236 rfl) rfl
theorem q1766 : (Jvm.Cond.code ({ cls := "CombTableModel", name := "wrongOf", desc := "(III)I" } : Jvm.MethodName) prog_21_method_43_code (9 : Nat) (Option.some Jvm.ClassFile.FieldType.int)) ∈ lw_all := lw_g (lw_at lw_m7 237 rfl) rfl
theorem q1767 : (Jvm.Cond.methodLink "CombTableModel" (279 : Nat) ({ cls := "CombTableModel", name := "keepWord", desc := "(II)V" } : Jvm.MethodName)) ∈ lw_all := lw_g (lw_at lw_m7 238 rfl) rfl
theorem q1768 : (Jvm.Cond.privateMethod ({ cls := "CombTableModel", name := "keepWord", desc := "(II)V" } : Jvm.MethodName)) ∈ lw_tbl := lw_at lw_m7 239 rfl
theorem q1769 : (Jvm.Cond.instanceMethod ({ cls := "CombTableModel", name := "keepWord", desc := "(II)V" } : Jvm.MethodName)) ∈ lw_all := lw_g (lw_at lw_m8 0 rfl) rfl
theorem q1770 : (Jvm.Cond.code ({ cls := "CombTableModel", name := "keepWord", desc := "(II)V" } : Jvm.MethodName) prog_21_method_50_code (3 : Nat) (Option.none : Option Jvm.ClassFile.FieldType)) ∈ lw_all := lw_g (lw_at lw_m8 1 rfl) rfl
theorem q1772 : (Jvm.Cond.instanceMethod ({ cls := "CombTableModel", name := "wrong", desc := "(II)I" } : Jvm.MethodName)) ∈ lw_all := lw_g (lw_at lw_m8 3 rfl) rfl
theorem q1773 : (Jvm.Cond.selects "CombTableModel" ({ cls := "CombTableModel", name := "wrong", desc := "(II)I" } : Jvm.MethodName) ({ cls := "CombTableModel", name := "wrong", desc := "(II)I" } : Jvm.MethodName)) ∈ lw_all := lw_g (lw_at lw_m8 4 rfl) rfl
theorem q1774 : (Jvm.Cond.code ({ cls := "CombTableModel", name := "wrong", desc := "(II)I" } : Jvm.MethodName) prog_21_method_51_code (3 : Nat) (Option.some Jvm.ClassFile.FieldType.int)) ∈ lw_all := lw_g (lw_at lw_m8 5 rfl) rfl
theorem q1776 : (Jvm.Cond.instanceMethod ({ cls := "CombTableModel", name := "may", desc := "(I)I" } : Jvm.MethodName)) ∈ lw_all := lw_g (lw_at lw_m8 7 rfl) rfl
theorem q1777 : (Jvm.Cond.selects "CombTableModel" ({ cls := "CombTableModel", name := "may", desc := "(I)I" } : Jvm.MethodName) ({ cls := "CombTableModel", name := "may", desc := "(I)I" } : Jvm.MethodName)) ∈ lw_all := lw_g (lw_at lw_m8 8 rfl) rfl
theorem q1778 : (Jvm.Cond.code ({ cls := "CombTableModel", name := "may", desc := "(I)I" } : Jvm.MethodName) prog_21_method_52_code (4 : Nat) (Option.some Jvm.ClassFile.FieldType.int)) ∈ lw_all := lw_g (lw_at lw_m8 9 rfl) rfl
theorem q1780 : (Jvm.Cond.instanceMethod ({ cls := "CombTableModel", name := "undo", desc := "()I" } : Jvm.MethodName)) ∈ lw_all := lw_g (lw_at lw_m8 11 rfl) rfl
theorem q1781 : (Jvm.Cond.selects "CombTableModel" ({ cls := "CombTableModel", name := "undo", desc := "()I" } : Jvm.MethodName) ({ cls := "CombTableModel", name := "undo", desc := "()I" } : Jvm.MethodName)) ∈ lw_all := lw_g (lw_at lw_m8 12 rfl) rfl
theorem q1782 : (Jvm.Cond.code ({ cls := "CombTableModel", name := "undo", desc := "()I" } : Jvm.MethodName) prog_21_method_53_code (1 : Nat) (Option.some Jvm.ClassFile.FieldType.int)) ∈ lw_all := lw_g (lw_at lw_m8 13 rfl) rfl
theorem q1784 : (Jvm.Cond.instanceMethod ({ cls := "CombTableModel", name := "talk", desc := "()I" } : Jvm.MethodName)) ∈ lw_all := lw_g (lw_at lw_m8 15 rfl) rfl
theorem q1785 : (Jvm.Cond.selects "CombTableModel" ({ cls := "CombTableModel", name := "talk", desc := "()I" } : Jvm.MethodName) ({ cls := "CombTableModel", name := "talk", desc := "()I" } : Jvm.MethodName)) ∈ lw_all := lw_g (lw_at lw_m8 16 rfl) rfl
theorem q1786 : (Jvm.Cond.code ({ cls := "CombTableModel", name := "talk", desc := "()I" } : Jvm.MethodName) prog_21_method_55_code (2 : Nat) (Option.some Jvm.ClassFile.FieldType.int)) ∈ lw_all := lw_g (lw_at lw_m8 17 rfl) rfl
theorem q1787 : (Jvm.Cond.methodLink "CombTableModel" (286 : Nat) ({ cls := "CombTableModel", name := "readWordSaid", desc := "()Z" } : Jvm.MethodName)) ∈ lw_all := lw_g (lw_at lw_m8 18 rfl) rfl
theorem q1788 : (Jvm.Cond.privateMethod ({ cls := "CombTableModel", name := "readWordSaid", desc := "()Z" } : Jvm.MethodName)) ∈ lw_tbl := lw_at lw_m8 19 rfl
theorem q1789 : (Jvm.Cond.instanceMethod ({ cls := "CombTableModel", name := "readWordSaid", desc := "()Z" } : Jvm.MethodName)) ∈ lw_all := lw_g (lw_at lw_m8 20 rfl) rfl
theorem q1790 : (Jvm.Cond.code ({ cls := "CombTableModel", name := "readWordSaid", desc := "()Z" } : Jvm.MethodName) prog_21_method_54_code (5 : Nat) (Option.some Jvm.ClassFile.FieldType.boolean)) ∈ lw_all := lw_g (lw_at lw_m8 21 rfl) rfl
theorem q1792 : (Jvm.Cond.instanceMethod ({ cls := "CombTableModel", name := "why", desc := "()I" } : Jvm.MethodName)) ∈ lw_all := lw_g (lw_at lw_m8 23 rfl) rfl
theorem q1793 : (Jvm.Cond.selects "CombTableModel" ({ cls := "CombTableModel", name := "why", desc := "()I" } : Jvm.MethodName) ({ cls := "CombTableModel", name := "why", desc := "()I" } : Jvm.MethodName)) ∈ lw_all := lw_g (lw_at lw_m8 24 rfl) rfl
theorem q1794 : (Jvm.Cond.code ({ cls := "CombTableModel", name := "why", desc := "()I" } : Jvm.MethodName) prog_21_method_56_code (1 : Nat) (Option.some Jvm.ClassFile.FieldType.int)) ∈ lw_all := lw_g (lw_at lw_m8 25 rfl) rfl
theorem q1796 : (Jvm.Cond.instanceMethod ({ cls := "CombTableModel", name := "word", desc := "(II)I" } : Jvm.MethodName)) ∈ lw_all := lw_g (lw_at lw_m8 27 rfl) rfl
theorem q1797 : (Jvm.Cond.selects "CombTableModel" ({ cls := "CombTableModel", name := "word", desc := "(II)I" } : Jvm.MethodName) ({ cls := "CombTableModel", name := "word", desc := "(II)I" } : Jvm.MethodName)) ∈ lw_all := lw_g (lw_at lw_m8 28 rfl) rfl
theorem q1798 : (Jvm.Cond.code ({ cls := "CombTableModel", name := "word", desc := "(II)I" } : Jvm.MethodName) prog_21_method_58_code (3 : Nat) (Option.some Jvm.ClassFile.FieldType.int)) ∈ lw_all := lw_g (lw_at lw_m8 29 rfl) rfl
theorem q1799 : (Jvm.Cond.methodLink "CombTableModel" (289 : Nat) ({ cls := "CombTableModel", name := "stateOf", desc := "(II)I" } : Jvm.MethodName)) ∈ lw_all := lw_g (lw_at lw_m8 30 rfl) rfl
theorem q1800 : (Jvm.Cond.privateMethod ({ cls := "CombTableModel", name := "stateOf", desc := "(II)I" } : Jvm.MethodName)) ∈ lw_tbl := lw_at lw_m8 31 rfl
theorem q1801 : (Jvm.Cond.instanceMethod ({ cls := "CombTableModel", name := "stateOf", desc := "(II)I" } : Jvm.MethodName)) ∈ lw_all := lw_g (lw_at lw_m8 32 rfl) rfl
theorem q1802 : (Jvm.Cond.code ({ cls := "CombTableModel", name := "stateOf", desc := "(II)I" } : Jvm.MethodName) prog_21_method_46_code (4 : Nat) (Option.some Jvm.ClassFile.FieldType.int)) ∈ lw_all := lw_g (lw_at lw_m8 33 rfl) rfl
theorem q1803 : (Jvm.Cond.methodLink "CombTableModel" (292 : Nat) ({ cls := "CombTableModel", name := "isPromise", desc := "(I)Z" } : Jvm.MethodName)) ∈ lw_all := lw_g (lw_at lw_m8 34 rfl) rfl
theorem q1804 : (Jvm.Cond.privateMethod ({ cls := "CombTableModel", name := "isPromise", desc := "(I)Z" } : Jvm.MethodName)) ∈ lw_tbl := lw_at lw_m8 35 rfl
theorem q1805 : (Jvm.Cond.instanceMethod ({ cls := "CombTableModel", name := "isPromise", desc := "(I)Z" } : Jvm.MethodName)) ∈ lw_all := lw_g (lw_at lw_m8 36 rfl) rfl
theorem q1806 : (Jvm.Cond.code ({ cls := "CombTableModel", name := "isPromise", desc := "(I)Z" } : Jvm.MethodName) prog_21_method_57_code (2 : Nat) (Option.some Jvm.ClassFile.FieldType.boolean)) ∈ lw_all := lw_g (lw_at lw_m8 37 rfl) rfl
theorem q1808 : (Jvm.Cond.instanceMethod ({ cls := "CombTableModel", name := "threads", desc := "()I" } : Jvm.MethodName)) ∈ lw_all := lw_g (lw_at lw_m8 39 rfl) rfl
theorem q1809 : (Jvm.Cond.selects "CombTableModel" ({ cls := "CombTableModel", name := "threads", desc := "()I" } : Jvm.MethodName) ({ cls := "CombTableModel", name := "threads", desc := "()I" } : Jvm.MethodName)) ∈ lw_all := lw_g (lw_at lw_m8 40 rfl) rfl
theorem q1810 : (Jvm.Cond.code ({ cls := "CombTableModel", name := "threads", desc := "()I" } : Jvm.MethodName) prog_21_method_59_code (1 : Nat) (Option.some Jvm.ClassFile.FieldType.int)) ∈ lw_all := lw_g (lw_at lw_m8 41 rfl) rfl
theorem q1812 : (Jvm.Cond.instanceMethod ({ cls := "CombTableModel", name := "thread", desc := "(II)I" } : Jvm.MethodName)) ∈ lw_all := lw_g (lw_at lw_m8 43 rfl) rfl
theorem q1813 : (Jvm.Cond.selects "CombTableModel" ({ cls := "CombTableModel", name := "thread", desc := "(II)I" } : Jvm.MethodName) ({ cls := "CombTableModel", name := "thread", desc := "(II)I" } : Jvm.MethodName)) ∈ lw_all := lw_g (lw_at lw_m8 44 rfl) rfl
theorem q1814 : (Jvm.Cond.code ({ cls := "CombTableModel", name := "thread", desc := "(II)I" } : Jvm.MethodName) prog_21_method_60_code (5 : Nat) (Option.some Jvm.ClassFile.FieldType.int)) ∈ lw_all := lw_g (lw_at lw_m8 45 rfl) rfl
theorem q1816 : (Jvm.Cond.instanceMethod ({ cls := "CombTableModel", name := "with", desc := "(II)I" } : Jvm.MethodName)) ∈ lw_all := lw_g (lw_at lw_m8 47 rfl) rfl
theorem q1817 : (Jvm.Cond.selects "CombTableModel" ({ cls := "CombTableModel", name := "with", desc := "(II)I" } : Jvm.MethodName) ({ cls := "CombTableModel", name := "with", desc := "(II)I" } : Jvm.MethodName)) ∈ lw_all := lw_g (lw_at lw_m8 48 rfl) rfl
theorem q1818 : (Jvm.Cond.code ({ cls := "CombTableModel", name := "with", desc := "(II)I" } : Jvm.MethodName) prog_21_method_61_code (5 : Nat) (Option.some Jvm.ClassFile.FieldType.int)) ∈ lw_all := lw_g (lw_at lw_m8 49 rfl) rfl
theorem q1820 : (Jvm.Cond.instanceMethod ({ cls := "CombTableModel", name := "promised", desc := "(III)I" } : Jvm.MethodName)) ∈ lw_all := lw_g (lw_at lw_m8 51 rfl) rfl
theorem q1821 : (Jvm.Cond.selects "CombTableModel" ({ cls := "CombTableModel", name := "promised", desc := "(III)I" } : Jvm.MethodName) ({ cls := "CombTableModel", name := "promised", desc := "(III)I" } : Jvm.MethodName)) ∈ lw_all := lw_g (lw_at lw_m8 52 rfl) rfl
theorem q1822 : (Jvm.Cond.code ({ cls := "CombTableModel", name := "promised", desc := "(III)I" } : Jvm.MethodName) prog_21_method_62_code (6 : Nat) (Option.some Jvm.ClassFile.FieldType.int)) ∈ lw_all := lw_g (lw_at lw_m8 53 rfl) rfl
theorem q1824 : (Jvm.Cond.instanceMethod ({ cls := "CombTableModel", name := "spoke", desc := "(II)I" } : Jvm.MethodName)) ∈ lw_all := lw_g (lw_at lw_m8 55 rfl) rfl
theorem q1825 : (Jvm.Cond.selects "CombTableModel" ({ cls := "CombTableModel", name := "spoke", desc := "(II)I" } : Jvm.MethodName) ({ cls := "CombTableModel", name := "spoke", desc := "(II)I" } : Jvm.MethodName)) ∈ lw_all := lw_g (lw_at lw_m8 56 rfl) rfl
theorem q1826 : (Jvm.Cond.code ({ cls := "CombTableModel", name := "spoke", desc := "(II)I" } : Jvm.MethodName) prog_21_method_63_code (5 : Nat) (Option.some Jvm.ClassFile.FieldType.int)) ∈ lw_all := lw_g (lw_at lw_m8 57 rfl) rfl
theorem q1828 : (Jvm.Cond.instanceMethod ({ cls := "CombTableModel", name := "drawn", desc := "(II)I" } : Jvm.MethodName)) ∈ lw_all := lw_g (lw_at lw_m8 59 rfl) rfl
theorem q1829 : (Jvm.Cond.selects "CombTableModel" ({ cls := "CombTableModel", name := "drawn", desc := "(II)I" } : Jvm.MethodName) ({ cls := "CombTableModel", name := "drawn", desc := "(II)I" } : Jvm.MethodName)) ∈ lw_all := lw_g (lw_at lw_m8 60 rfl) rfl
theorem q1830 : (Jvm.Cond.code ({ cls := "CombTableModel", name := "drawn", desc := "(II)I" } : Jvm.MethodName) prog_21_method_66_code (6 : Nat) (Option.some Jvm.ClassFile.FieldType.int)) ∈ lw_all := lw_g (lw_at lw_m8 61 rfl) rfl
theorem q1831 : (Jvm.Cond.methodLink "CombTableModel" (299 : Nat) ({ cls := "CombTableModel", name := "nextWord", desc := "(I)I" } : Jvm.MethodName)) ∈ lw_all := lw_g (lw_at lw_m8 62 rfl) rfl
theorem q1832 : (Jvm.Cond.privateMethod ({ cls := "CombTableModel", name := "nextWord", desc := "(I)I" } : Jvm.MethodName)) ∈ lw_tbl := lw_at lw_m8 63 rfl
theorem q1833 : (Jvm.Cond.instanceMethod ({ cls := "CombTableModel", name := "nextWord", desc := "(I)I" } : Jvm.MethodName)) ∈ lw_all := lw_g (lw_at lw_m8 64 rfl) rfl
theorem q1834 : (Jvm.Cond.code ({ cls := "CombTableModel", name := "nextWord", desc := "(I)I" } : Jvm.MethodName) prog_21_method_65_code (5 : Nat) (Option.some Jvm.ClassFile.FieldType.int)) ∈ lw_all := lw_g (lw_at lw_m8 65 rfl) rfl
theorem q1835 : (Jvm.Cond.methodLink "CombTableModel" (302 : Nat) ({ cls := "CombTableModel", name := "draw", desc := "(I)I" } : Jvm.MethodName)) ∈ lw_all := lw_g (lw_at lw_m8 66 rfl) rfl
theorem q1836 : (Jvm.Cond.privateMethod ({ cls := "CombTableModel", name := "draw", desc := "(I)I" } : Jvm.MethodName)) ∈ lw_tbl := lw_at lw_m8 67 rfl
theorem q1837 : (Jvm.Cond.instanceMethod ({ cls := "CombTableModel", name := "draw", desc := "(I)I" } : Jvm.MethodName)) ∈ lw_all := lw_g (lw_at lw_m8 68 rfl) rfl
theorem q1838 : (Jvm.Cond.code ({ cls := "CombTableModel", name := "draw", desc := "(I)I" } : Jvm.MethodName) prog_21_method_64_code (2 : Nat) (Option.some Jvm.ClassFile.FieldType.int)) ∈ lw_all := lw_g (lw_at lw_m8 69 rfl) rfl
theorem q1839 : (Jvm.Cond.constant "CombTableModel" (298 : Nat) (1103515245 : Int32)) ∈ lw_all := lw_g (lw_at lw_m8 70 rfl) rfl
theorem q1841 : (Jvm.Cond.instanceMethod ({ cls := "CombTableModel", name := "minutes", desc := "()I" } : Jvm.MethodName)) ∈ lw_all := lw_g (lw_at lw_m8 72 rfl) rfl
theorem q1842 : (Jvm.Cond.selects "CombTableModel" ({ cls := "CombTableModel", name := "minutes", desc := "()I" } : Jvm.MethodName) ({ cls := "CombTableModel", name := "minutes", desc := "()I" } : Jvm.MethodName)) ∈ lw_all := lw_g (lw_at lw_m8 73 rfl) rfl
theorem q1843 : (Jvm.Cond.code ({ cls := "CombTableModel", name := "minutes", desc := "()I" } : Jvm.MethodName) prog_21_method_69_code (2 : Nat) (Option.some Jvm.ClassFile.FieldType.int)) ∈ lw_all := lw_g (lw_at lw_m8 74 rfl) rfl
theorem q1844 : (Jvm.Cond.methodLink "CombTableModel" (314 : Nat) ({ cls := "CombTableModel", name := "readMinute", desc := "()Z" } : Jvm.MethodName)) ∈ lw_all := lw_g (lw_at lw_m8 75 rfl) rfl
theorem q1845 : (Jvm.Cond.privateMethod ({ cls := "CombTableModel", name := "readMinute", desc := "()Z" } : Jvm.MethodName)) ∈ lw_tbl := lw_at lw_m8 76 rfl
theorem q1846 : (Jvm.Cond.instanceMethod ({ cls := "CombTableModel", name := "readMinute", desc := "()Z" } : Jvm.MethodName)) ∈ lw_all := lw_g (lw_at lw_m8 77 rfl) rfl
theorem q1847 : (Jvm.Cond.code ({ cls := "CombTableModel", name := "readMinute", desc := "()Z" } : Jvm.MethodName) prog_21_method_68_code (2 : Nat) (Option.some Jvm.ClassFile.FieldType.boolean)) ∈ lw_all := lw_g (lw_at lw_m8 78 rfl) rfl
theorem q1848 : (Jvm.Cond.methodLink "CombTableModel" (311 : Nat) ({ cls := "CombTableModel", name := "readTorn", desc := "(III)Z" } : Jvm.MethodName)) ∈ lw_all := lw_g (lw_at lw_m8 79 rfl) rfl
theorem q1849 : (Jvm.Cond.privateMethod ({ cls := "CombTableModel", name := "readTorn", desc := "(III)Z" } : Jvm.MethodName)) ∈ lw_tbl := lw_at lw_m8 80 rfl
theorem q1850 : (Jvm.Cond.instanceMethod ({ cls := "CombTableModel", name := "readTorn", desc := "(III)Z" } : Jvm.MethodName)) ∈ lw_all := lw_g (lw_at lw_m8 81 rfl) rfl
theorem q1851 : (Jvm.Cond.code ({ cls := "CombTableModel", name := "readTorn", desc := "(III)Z" } : Jvm.MethodName) prog_21_method_67_code (4 : Nat) (Option.some Jvm.ClassFile.FieldType.boolean)) ∈ lw_all := lw_g (lw_at lw_m8 82 rfl) rfl
theorem q1853 : (Jvm.Cond.instanceMethod ({ cls := "CombTableModel", name := "wholes", desc := "(I)I" } : Jvm.MethodName)) ∈ lw_all := lw_g (lw_at lw_m8 84 rfl) rfl
theorem q1854 : (Jvm.Cond.selects "CombTableModel" ({ cls := "CombTableModel", name := "wholes", desc := "(I)I" } : Jvm.MethodName) ({ cls := "CombTableModel", name := "wholes", desc := "(I)I" } : Jvm.MethodName)) ∈ lw_all := lw_g (lw_at lw_m8 85 rfl) rfl
theorem q1855 : (Jvm.Cond.code ({ cls := "CombTableModel", name := "wholes", desc := "(I)I" } : Jvm.MethodName) prog_21_method_74_code (4 : Nat) (Option.some Jvm.ClassFile.FieldType.int)) ∈ lw_all := lw_g (lw_at lw_m8 86 rfl) rfl
theorem q1856 : (Jvm.Cond.methodLink "CombTableModel" (329 : Nat) ({ cls := "CombTableModel", name := "fillings", desc := "(II)I" } : Jvm.MethodName)) ∈ lw_all := lw_g (lw_at lw_m8 87 rfl) rfl
theorem q1857 : (Jvm.Cond.privateMethod ({ cls := "CombTableModel", name := "fillings", desc := "(II)I" } : Jvm.MethodName)) ∈ lw_tbl := lw_at lw_m8 88 rfl
theorem q1858 : (Jvm.Cond.instanceMethod ({ cls := "CombTableModel", name := "fillings", desc := "(II)I" } : Jvm.MethodName)) ∈ lw_all := lw_g (lw_at lw_m8 89 rfl) rfl
theorem q1859 : (Jvm.Cond.code ({ cls := "CombTableModel", name := "fillings", desc := "(II)I" } : Jvm.MethodName) prog_21_method_71_code (5 : Nat) (Option.some Jvm.ClassFile.FieldType.int)) ∈ lw_all := lw_g (lw_at lw_m8 90 rfl) rfl
theorem q1860 : (Jvm.Cond.methodLink "CombTableModel" (332 : Nat) ({ cls := "CombTableModel", name := "beginFill", desc := "()V" } : Jvm.MethodName)) ∈ lw_all := lw_g (lw_at lw_m8 91 rfl) rfl
theorem q1861 : (Jvm.Cond.privateMethod ({ cls := "CombTableModel", name := "beginFill", desc := "()V" } : Jvm.MethodName)) ∈ lw_tbl := lw_at lw_m8 92 rfl
theorem q1862 : (Jvm.Cond.instanceMethod ({ cls := "CombTableModel", name := "beginFill", desc := "()V" } : Jvm.MethodName)) ∈ lw_all := lw_g (lw_at lw_m8 93 rfl) rfl
theorem q1863 : (Jvm.Cond.code ({ cls := "CombTableModel", name := "beginFill", desc := "()V" } : Jvm.MethodName) prog_21_method_73_code (2 : Nat) (Option.none : Option Jvm.ClassFile.FieldType)) ∈ lw_all := lw_g (lw_at lw_m8 94 rfl) rfl
theorem q1864 : (Jvm.Cond.methodLink "CombTableModel" (335 : Nat) ({ cls := "CombTableModel", name := "layTorn", desc := "(II)V" } : Jvm.MethodName)) ∈ lw_all := lw_g (lw_at lw_m8 95 rfl) rfl
theorem q1865 : (Jvm.Cond.privateMethod ({ cls := "CombTableModel", name := "layTorn", desc := "(II)V" } : Jvm.MethodName)) ∈ lw_tbl := lw_at lw_m8 96 rfl
theorem q1866 : (Jvm.Cond.instanceMethod ({ cls := "CombTableModel", name := "layTorn", desc := "(II)V" } : Jvm.MethodName)) ∈ lw_all := lw_g (lw_at lw_m8 97 rfl) rfl
theorem q1867 : (Jvm.Cond.code ({ cls := "CombTableModel", name := "layTorn", desc := "(II)V" } : Jvm.MethodName) prog_21_method_72_code (5 : Nat) (Option.none : Option Jvm.ClassFile.FieldType)) ∈ lw_all := lw_g (lw_at lw_m8 98 rfl) rfl
theorem q1868 : (Jvm.Cond.methodLink "CombTableModel" (323 : Nat) ({ cls := "CombTableModel", name := "fill", desc := "(I)V" } : Jvm.MethodName)) ∈ lw_all := lw_g (lw_at lw_m8 99 rfl) rfl
theorem q1869 : (Jvm.Cond.privateMethod ({ cls := "CombTableModel", name := "fill", desc := "(I)V" } : Jvm.MethodName)) ∈ lw_tbl := lw_at lw_m8 100 rfl
theorem q1870 : (Jvm.Cond.instanceMethod ({ cls := "CombTableModel", name := "fill", desc := "(I)V" } : Jvm.MethodName)) ∈ lw_all := lw_g (lw_at lw_m8 101 rfl) rfl
theorem q1871 : (Jvm.Cond.code ({ cls := "CombTableModel", name := "fill", desc := "(I)V" } : Jvm.MethodName) prog_21_method_70_code (4 : Nat) (Option.none : Option Jvm.ClassFile.FieldType)) ∈ lw_all := lw_g (lw_at lw_m8 102 rfl) rfl
theorem q1872 : (Jvm.Cond.methodLink "CombTableModel" (326 : Nat) ({ cls := "CombTableModel", name := "pop", desc := "(I)V" } : Jvm.MethodName)) ∈ lw_all := lw_g (lw_at lw_m8 103 rfl) rfl
theorem q1873 : (Jvm.Cond.privateMethod ({ cls := "CombTableModel", name := "pop", desc := "(I)V" } : Jvm.MethodName)) ∈ lw_tbl := lw_at lw_m8 104 rfl
theorem q1874 : (Jvm.Cond.instanceMethod ({ cls := "CombTableModel", name := "pop", desc := "(I)V" } : Jvm.MethodName)) ∈ lw_all := lw_g (lw_at lw_m8 105 rfl) rfl
theorem q1875 : (Jvm.Cond.code ({ cls := "CombTableModel", name := "pop", desc := "(I)V" } : Jvm.MethodName) prog_21_method_45_code (4 : Nat) (Option.none : Option Jvm.ClassFile.FieldType)) ∈ lw_all := lw_g (lw_at lw_m8 106 rfl) rfl
theorem q1877 : (Jvm.Cond.instanceMethod ({ cls := "CombTableModel", name := "sure", desc := "(II)I" } : Jvm.MethodName)) ∈ lw_all := lw_g (lw_at lw_m8 108 rfl) rfl
theorem q1878 : (Jvm.Cond.selects "CombTableModel" ({ cls := "CombTableModel", name := "sure", desc := "(II)I" } : Jvm.MethodName) ({ cls := "CombTableModel", name := "sure", desc := "(II)I" } : Jvm.MethodName)) ∈ lw_all := lw_g (lw_at lw_m8 109 rfl) rfl
theorem q1879 : (Jvm.Cond.code ({ cls := "CombTableModel", name := "sure", desc := "(II)I" } : Jvm.MethodName) prog_21_method_75_code (3 : Nat) (Option.some Jvm.ClassFile.FieldType.int)) ∈ lw_all := lw_g (lw_at lw_m8 110 rfl) rfl
theorem q1881 : (Jvm.Cond.instanceMethod ({ cls := "CombTableModel", name := "hangs", desc := "()I" } : Jvm.MethodName)) ∈ lw_all := lw_g (lw_at lw_m8 112 rfl) rfl
theorem q1882 : (Jvm.Cond.selects "CombTableModel" ({ cls := "CombTableModel", name := "hangs", desc := "()I" } : Jvm.MethodName) ({ cls := "CombTableModel", name := "hangs", desc := "()I" } : Jvm.MethodName)) ∈ lw_all := lw_g (lw_at lw_m8 113 rfl) rfl
theorem q1883 : (Jvm.Cond.code ({ cls := "CombTableModel", name := "hangs", desc := "()I" } : Jvm.MethodName) prog_21_method_76_code (4 : Nat) (Option.some Jvm.ClassFile.FieldType.int)) ∈ lw_all := lw_g (lw_at lw_m8 114 rfl) rfl
theorem q1884 : (Jvm.Cond.constant "CombTableModel" (341 : Nat) (100000 : Int32)) ∈ lw_all := lw_g (lw_at lw_m8 115 rfl) rfl
theorem q1886 : (Jvm.Cond.instanceMethod ({ cls := "CombTableModel", name := "mend", desc := "()I" } : Jvm.MethodName)) ∈ lw_all := lw_g (lw_at lw_m8 117 rfl) rfl
theorem q1887 : (Jvm.Cond.selects "CombTableModel" ({ cls := "CombTableModel", name := "mend", desc := "()I" } : Jvm.MethodName) ({ cls := "CombTableModel", name := "mend", desc := "()I" } : Jvm.MethodName)) ∈ lw_all := lw_g (lw_at lw_m8 118 rfl) rfl
theorem q1888 : (Jvm.Cond.code ({ cls := "CombTableModel", name := "mend", desc := "()I" } : Jvm.MethodName) prog_21_method_80_code (4 : Nat) (Option.some Jvm.ClassFile.FieldType.int)) ∈ lw_all := lw_g (lw_at lw_m8 119 rfl) rfl
theorem q1889 : (Jvm.Cond.methodLink "CombTableModel" (342 : Nat) ({ cls := "CombTableModel", name := "isWhole", desc := "()Z" } : Jvm.MethodName)) ∈ lw_all := lw_g (lw_at lw_m8 120 rfl) rfl
theorem q1890 : (Jvm.Cond.privateMethod ({ cls := "CombTableModel", name := "isWhole", desc := "()Z" } : Jvm.MethodName)) ∈ lw_tbl := lw_at lw_m8 121 rfl
theorem q1891 : (Jvm.Cond.instanceMethod ({ cls := "CombTableModel", name := "isWhole", desc := "()Z" } : Jvm.MethodName)) ∈ lw_all := lw_g (lw_at lw_m8 122 rfl) rfl
theorem q1892 : (Jvm.Cond.code ({ cls := "CombTableModel", name := "isWhole", desc := "()Z" } : Jvm.MethodName) prog_21_method_77_code (2 : Nat) (Option.some Jvm.ClassFile.FieldType.boolean)) ∈ lw_all := lw_g (lw_at lw_m8 123 rfl) rfl
theorem q1893 : (Jvm.Cond.methodLink "CombTableModel" (345 : Nat) ({ cls := "CombTableModel", name := "bits", desc := "(I)I" } : Jvm.MethodName)) ∈ lw_all := lw_g (lw_at lw_m8 124 rfl) rfl
theorem q1894 : (Jvm.Cond.static ({ cls := "CombTableModel", name := "bits", desc := "(I)I" } : Jvm.MethodName)) ∈ lw_all := lw_g (lw_at lw_m8 125 rfl) rfl
theorem q1895 : (Jvm.Cond.code ({ cls := "CombTableModel", name := "bits", desc := "(I)I" } : Jvm.MethodName) prog_21_method_78_code (3 : Nat) (Option.some Jvm.ClassFile.FieldType.int)) ∈ lw_all := lw_g (lw_at lw_m8 126 rfl) rfl
theorem q1896 : (Jvm.Cond.methodLink "CombTableModel" (348 : Nat) ({ cls := "CombTableModel", name := "isTalk", desc := "(I)Z" } : Jvm.MethodName)) ∈ lw_all := lw_g (lw_at lw_m8 127 rfl) rfl
theorem q1897 : (Jvm.Cond.privateMethod ({ cls := "CombTableModel", name := "isTalk", desc := "(I)Z" } : Jvm.MethodName)) ∈ lw_tbl := lw_at lw_m8 128 rfl
theorem q1898 : (Jvm.Cond.instanceMethod ({ cls := "CombTableModel", name := "isTalk", desc := "(I)Z" } : Jvm.MethodName)) ∈ lw_all := lw_g (lw_at lw_m8 129 rfl) rfl
theorem q1899 : (Jvm.Cond.code ({ cls := "CombTableModel", name := "isTalk", desc := "(I)Z" } : Jvm.MethodName) prog_21_method_79_code (3 : Nat) (Option.some Jvm.ClassFile.FieldType.boolean)) ∈ lw_all := lw_g (lw_at lw_m8 130 rfl) rfl
theorem q1901 : (Jvm.Cond.instanceMethod ({ cls := "CombTableModel", name := "mended", desc := "()I" } : Jvm.MethodName)) ∈ lw_all := lw_g (lw_at lw_m8 132 rfl) rfl
theorem q1902 : (Jvm.Cond.selects "CombTableModel" ({ cls := "CombTableModel", name := "mended", desc := "()I" } : Jvm.MethodName) ({ cls := "CombTableModel", name := "mended", desc := "()I" } : Jvm.MethodName)) ∈ lw_all := lw_g (lw_at lw_m8 133 rfl) rfl
theorem q1903 : (Jvm.Cond.code ({ cls := "CombTableModel", name := "mended", desc := "()I" } : Jvm.MethodName) prog_21_method_81_code (1 : Nat) (Option.some Jvm.ClassFile.FieldType.int)) ∈ lw_all := lw_g (lw_at lw_m8 134 rfl) rfl
theorem q1905 : (Jvm.Cond.instanceMethod ({ cls := "CombTableModel", name := "orders", desc := "()I" } : Jvm.MethodName)) ∈ lw_all := lw_g (lw_at lw_m8 136 rfl) rfl
theorem q1906 : (Jvm.Cond.selects "CombTableModel" ({ cls := "CombTableModel", name := "orders", desc := "()I" } : Jvm.MethodName) ({ cls := "CombTableModel", name := "orders", desc := "()I" } : Jvm.MethodName)) ∈ lw_all := lw_g (lw_at lw_m8 137 rfl) rfl
theorem q1907 : (Jvm.Cond.code ({ cls := "CombTableModel", name := "orders", desc := "()I" } : Jvm.MethodName) prog_21_method_83_code (1 : Nat) (Option.some Jvm.ClassFile.FieldType.int)) ∈ lw_all := lw_g (lw_at lw_m8 138 rfl) rfl
theorem q1908 : (Jvm.Cond.methodLink "CombTableModel" (357 : Nat) ({ cls := "CombTableModel", name := "tryOrders", desc := "(I)V" } : Jvm.MethodName)) ∈ lw_all := lw_g (lw_at lw_m8 139 rfl) rfl
theorem q1909 : (Jvm.Cond.privateMethod ({ cls := "CombTableModel", name := "tryOrders", desc := "(I)V" } : Jvm.MethodName)) ∈ lw_tbl := lw_at lw_m8 140 rfl
theorem q1910 : (Jvm.Cond.instanceMethod ({ cls := "CombTableModel", name := "tryOrders", desc := "(I)V" } : Jvm.MethodName)) ∈ lw_all := lw_g (lw_at lw_m8 141 rfl) rfl
theorem q1911 : (Jvm.Cond.code ({ cls := "CombTableModel", name := "tryOrders", desc := "(I)V" } : Jvm.MethodName) prog_21_method_82_code (5 : Nat) (Option.none : Option Jvm.ClassFile.FieldType)) ∈ lw_all := lw_g (lw_at lw_m8 142 rfl) rfl
theorem q1913 : (Jvm.Cond.instanceMethod ({ cls := "CombTableModel", name := "orderAt", desc := "(I)I" } : Jvm.MethodName)) ∈ lw_all := lw_g (lw_at lw_m8 144 rfl) rfl
theorem q1914 : (Jvm.Cond.selects "CombTableModel" ({ cls := "CombTableModel", name := "orderAt", desc := "(I)I" } : Jvm.MethodName) ({ cls := "CombTableModel", name := "orderAt", desc := "(I)I" } : Jvm.MethodName)) ∈ lw_all := lw_g (lw_at lw_m8 145 rfl) rfl
theorem q1915 : (Jvm.Cond.code ({ cls := "CombTableModel", name := "orderAt", desc := "(I)I" } : Jvm.MethodName) prog_21_method_84_code (2 : Nat) (Option.some Jvm.ClassFile.FieldType.int)) ∈ lw_all := lw_g (lw_at lw_m8 146 rfl) rfl
theorem q1917 : (Jvm.Cond.instanceMethod ({ cls := "CombTableModel", name := "road", desc := "(III)I" } : Jvm.MethodName)) ∈ lw_all := lw_g (lw_at lw_m8 148 rfl) rfl
theorem q1918 : (Jvm.Cond.selects "CombTableModel" ({ cls := "CombTableModel", name := "road", desc := "(III)I" } : Jvm.MethodName) ({ cls := "CombTableModel", name := "road", desc := "(III)I" } : Jvm.MethodName)) ∈ lw_all := lw_g (lw_at lw_m8 149 rfl) rfl
theorem q1919 : (Jvm.Cond.code ({ cls := "CombTableModel", name := "road", desc := "(III)I" } : Jvm.MethodName) prog_21_method_89_code (6 : Nat) (Option.some Jvm.ClassFile.FieldType.int)) ∈ lw_all := lw_g (lw_at lw_m8 150 rfl) rfl
theorem q1920 : (Jvm.Cond.methodLink "CombTableModel" (372 : Nat) ({ cls := "CombTableModel", name := "roadOf", desc := "(IIII)I" } : Jvm.MethodName)) ∈ lw_all := lw_g (lw_at lw_m8 151 rfl) rfl
theorem q1921 : (Jvm.Cond.privateMethod ({ cls := "CombTableModel", name := "roadOf", desc := "(IIII)I" } : Jvm.MethodName)) ∈ lw_tbl := lw_at lw_m8 152 rfl
theorem q1922 : (Jvm.Cond.instanceMethod ({ cls := "CombTableModel", name := "roadOf", desc := "(IIII)I" } : Jvm.MethodName)) ∈ lw_all := lw_g (lw_at lw_m8 153 rfl) rfl
theorem q1923 : (Jvm.Cond.code ({ cls := "CombTableModel", name := "roadOf", desc := "(IIII)I" } : Jvm.MethodName) prog_21_method_88_code (6 : Nat) (Option.some Jvm.ClassFile.FieldType.int)) ∈ lw_all := lw_g (lw_at lw_m8 154 rfl) rfl
theorem q1924 : (Jvm.Cond.methodLink "CombTableModel" (369 : Nat) ({ cls := "CombTableModel", name := "isTooMany", desc := "(III)Z" } : Jvm.MethodName)) ∈ lw_all := lw_g (lw_at lw_m8 155 rfl) rfl
theorem q1925 : (Jvm.Cond.static ({ cls := "CombTableModel", name := "isTooMany", desc := "(III)Z" } : Jvm.MethodName)) ∈ lw_all := lw_g (lw_at lw_m8 156 rfl) rfl
theorem q1926 : (Jvm.Cond.code ({ cls := "CombTableModel", name := "isTooMany", desc := "(III)Z" } : Jvm.MethodName) prog_21_method_87_code (6 : Nat) (Option.some Jvm.ClassFile.FieldType.boolean)) ∈ lw_all := lw_g (lw_at lw_m8 157 rfl) rfl
theorem q1927 : (Jvm.Cond.constantLong "CombTableModel" (367 : Nat) (300000 : Int64)) ∈ lw_all := lw_g (lw_at lw_m8 158 rfl) rfl
theorem q1928 : (Jvm.Cond.methodLink "CombTableModel" (363 : Nat) ({ cls := "CombTableModel", name := "leads", desc := "(IIIII)Z" } : Jvm.MethodName)) ∈ lw_all := lw_g (lw_at lw_m8 159 rfl) rfl
theorem q1929 : (Jvm.Cond.privateMethod ({ cls := "CombTableModel", name := "leads", desc := "(IIIII)Z" } : Jvm.MethodName)) ∈ lw_tbl := lw_at lw_m8 160 rfl
theorem q1930 : (Jvm.Cond.instanceMethod ({ cls := "CombTableModel", name := "leads", desc := "(IIIII)Z" } : Jvm.MethodName)) ∈ lw_all := lw_g (lw_at lw_m8 161 rfl) rfl
theorem q1931 : (Jvm.Cond.code ({ cls := "CombTableModel", name := "leads", desc := "(IIIII)Z" } : Jvm.MethodName) prog_21_method_86_code (9 : Nat) (Option.some Jvm.ClassFile.FieldType.boolean)) ∈ lw_all := lw_g (lw_at lw_m8 162 rfl) rfl
theorem q1932 : (Jvm.Cond.methodLink "CombTableModel" (360 : Nat) ({ cls := "CombTableModel", name := "isSo", desc := "(II)Z" } : Jvm.MethodName)) ∈ lw_all := lw_g (lw_at lw_m8 163 rfl) rfl
theorem q1933 : (Jvm.Cond.privateMethod ({ cls := "CombTableModel", name := "isSo", desc := "(II)Z" } : Jvm.MethodName)) ∈ lw_tbl := lw_at lw_m8 164 rfl
theorem q1934 : (Jvm.Cond.instanceMethod ({ cls := "CombTableModel", name := "isSo", desc := "(II)Z" } : Jvm.MethodName)) ∈ lw_all := lw_g (lw_at lw_m8 165 rfl) rfl
theorem q1935 : (Jvm.Cond.code ({ cls := "CombTableModel", name := "isSo", desc := "(II)Z" } : Jvm.MethodName) prog_21_method_85_code (3 : Nat) (Option.some Jvm.ClassFile.FieldType.boolean)) ∈ lw_all := lw_g (lw_at lw_m8 166 rfl) rfl
theorem q1937 : (Jvm.Cond.instanceMethod ({ cls := "CombTableModel", name := "without", desc := "(IIII)I" } : Jvm.MethodName)) ∈ lw_all := lw_g (lw_at lw_m8 168 rfl) rfl
theorem q1938 : (Jvm.Cond.selects "CombTableModel" ({ cls := "CombTableModel", name := "without", desc := "(IIII)I" } : Jvm.MethodName) ({ cls := "CombTableModel", name := "without", desc := "(IIII)I" } : Jvm.MethodName)) ∈ lw_all := lw_g (lw_at lw_m8 169 rfl) rfl
theorem q1939 : (Jvm.Cond.code ({ cls := "CombTableModel", name := "without", desc := "(IIII)I" } : Jvm.MethodName) prog_21_method_90_code (5 : Nat) (Option.some Jvm.ClassFile.FieldType.int)) ∈ lw_all := lw_g (lw_at lw_m8 170 rfl) rfl
theorem q1941 : (Jvm.Cond.instanceMethod ({ cls := "CombTableModel", name := "game", desc := "(IIII)I" } : Jvm.MethodName)) ∈ lw_all := lw_g (lw_at lw_m8 172 rfl) rfl
theorem q1942 : (Jvm.Cond.selects "CombTableModel" ({ cls := "CombTableModel", name := "game", desc := "(IIII)I" } : Jvm.MethodName) ({ cls := "CombTableModel", name := "game", desc := "(IIII)I" } : Jvm.MethodName)) ∈ lw_all := lw_g (lw_at lw_m8 173 rfl) rfl
theorem q1943 : (Jvm.Cond.code ({ cls := "CombTableModel", name := "game", desc := "(IIII)I" } : Jvm.MethodName) prog_21_method_92_code (7 : Nat) (Option.some Jvm.ClassFile.FieldType.int)) ∈ lw_all := lw_g (lw_at lw_m8 174 rfl) rfl
theorem q1944 : (Jvm.Cond.methodLink "CombTableModel" (379 : Nat) ({ cls := "CombTableModel", name := "play", desc := "(IZIII)I" } : Jvm.MethodName)) ∈ lw_all := lw_g (lw_at lw_m8 175 rfl) rfl
theorem q1945 : (Jvm.Cond.privateMethod ({ cls := "CombTableModel", name := "play", desc := "(IZIII)I" } : Jvm.MethodName)) ∈ lw_tbl := lw_at lw_m8 176 rfl
theorem q1946 : (Jvm.Cond.instanceMethod ({ cls := "CombTableModel", name := "play", desc := "(IZIII)I" } : Jvm.MethodName)) ∈ lw_all := lw_g (lw_at lw_m8 177 rfl) rfl
theorem q1947 : (Jvm.Cond.code ({ cls := "CombTableModel", name := "play", desc := "(IZIII)I" } : Jvm.MethodName) prog_21_method_91_code (10 : Nat) (Option.some Jvm.ClassFile.FieldType.int)) ∈ lw_all := lw_g (lw_at lw_m8 178 rfl) rfl
theorem q1949 : (Jvm.Cond.instanceMethod ({ cls := "CombTableModel", name := "found", desc := "(I)I" } : Jvm.MethodName)) ∈ lw_all := lw_g (lw_at lw_m8 180 rfl) rfl
theorem q1950 : (Jvm.Cond.selects "CombTableModel" ({ cls := "CombTableModel", name := "found", desc := "(I)I" } : Jvm.MethodName) ({ cls := "CombTableModel", name := "found", desc := "(I)I" } : Jvm.MethodName)) ∈ lw_all := lw_g (lw_at lw_m8 181 rfl) rfl
theorem q1951 : (Jvm.Cond.code ({ cls := "CombTableModel", name := "found", desc := "(I)I" } : Jvm.MethodName) prog_21_method_93_code (2 : Nat) (Option.some Jvm.ClassFile.FieldType.int)) ∈ lw_all := lw_g (lw_at lw_m8 182 rfl) rfl
theorem q1953 : (Jvm.Cond.instanceMethod ({ cls := "CombTableModel", name := "unlike", desc := "(II)I" } : Jvm.MethodName)) ∈ lw_all := lw_g (lw_at lw_m8 184 rfl) rfl
theorem q1954 : (Jvm.Cond.selects "CombTableModel" ({ cls := "CombTableModel", name := "unlike", desc := "(II)I" } : Jvm.MethodName) ({ cls := "CombTableModel", name := "unlike", desc := "(II)I" } : Jvm.MethodName)) ∈ lw_all := lw_g (lw_at lw_m8 185 rfl) rfl
theorem q1955 : (Jvm.Cond.code ({ cls := "CombTableModel", name := "unlike", desc := "(II)I" } : Jvm.MethodName) prog_21_method_96_code (7 : Nat) (Option.some Jvm.ClassFile.FieldType.int)) ∈ lw_all := lw_g (lw_at lw_m8 186 rfl) rfl
theorem q1956 : (Jvm.Cond.methodLink "CombTableModel" (386 : Nat) ({ cls := "CombTableModel", name := "parts", desc := "(IIII)Z" } : Jvm.MethodName)) ∈ lw_all := lw_g (lw_at lw_m8 187 rfl) rfl
theorem q1957 : (Jvm.Cond.privateMethod ({ cls := "CombTableModel", name := "parts", desc := "(IIII)Z" } : Jvm.MethodName)) ∈ lw_tbl := lw_at lw_m8 188 rfl
theorem q1958 : (Jvm.Cond.instanceMethod ({ cls := "CombTableModel", name := "parts", desc := "(IIII)Z" } : Jvm.MethodName)) ∈ lw_all := lw_g (lw_at lw_m8 189 rfl) rfl
theorem q1959 : (Jvm.Cond.code ({ cls := "CombTableModel", name := "parts", desc := "(IIII)Z" } : Jvm.MethodName) prog_21_method_95_code (10 : Nat) (Option.some Jvm.ClassFile.FieldType.boolean)) ∈ lw_all := lw_g (lw_at lw_m8 190 rfl) rfl
theorem q1960 : (Jvm.Cond.methodLink "CombTableModel" (383 : Nat) ({ cls := "CombTableModel", name := "mayBeSaid", desc := "(III)Z" } : Jvm.MethodName)) ∈ lw_all := lw_g (lw_at lw_m8 191 rfl) rfl
theorem q1961 : (Jvm.Cond.privateMethod ({ cls := "CombTableModel", name := "mayBeSaid", desc := "(III)Z" } : Jvm.MethodName)) ∈ lw_tbl := lw_at lw_m8 192 rfl
theorem q1962 : (Jvm.Cond.instanceMethod ({ cls := "CombTableModel", name := "mayBeSaid", desc := "(III)Z" } : Jvm.MethodName)) ∈ lw_all := lw_g (lw_at lw_m8 193 rfl) rfl
theorem q1963 : (Jvm.Cond.code ({ cls := "CombTableModel", name := "mayBeSaid", desc := "(III)Z" } : Jvm.MethodName) prog_21_method_94_code (4 : Nat) (Option.some Jvm.ClassFile.FieldType.boolean)) ∈ lw_all := lw_g (lw_at lw_m8 194 rfl) rfl
theorem q1965 : (Jvm.Cond.instanceMethod ({ cls := "CombTableModel", name := "sentence", desc := "()I" } : Jvm.MethodName)) ∈ lw_all := lw_g (lw_at lw_m8 196 rfl) rfl
theorem q1966 : (Jvm.Cond.selects "CombTableModel" ({ cls := "CombTableModel", name := "sentence", desc := "()I" } : Jvm.MethodName) ({ cls := "CombTableModel", name := "sentence", desc := "()I" } : Jvm.MethodName)) ∈ lw_all := lw_g (lw_at lw_m8 197 rfl) rfl
theorem q1967 : (Jvm.Cond.code ({ cls := "CombTableModel", name := "sentence", desc := "()I" } : Jvm.MethodName) prog_21_method_105_code (2 : Nat) (Option.some Jvm.ClassFile.FieldType.int)) ∈ lw_all := lw_g (lw_at lw_m8 198 rfl) rfl
theorem q1968 : (Jvm.Cond.methodLink "CombTableModel" (423 : Nat) ({ cls := "CombTableModel", name := "readOr", desc := "()Z" } : Jvm.MethodName)) ∈ lw_all := lw_g (lw_at lw_m8 199 rfl) rfl
theorem q1969 : (Jvm.Cond.privateMethod ({ cls := "CombTableModel", name := "readOr", desc := "()Z" } : Jvm.MethodName)) ∈ lw_tbl := lw_at lw_m8 200 rfl
theorem q1970 : (Jvm.Cond.instanceMethod ({ cls := "CombTableModel", name := "readOr", desc := "()Z" } : Jvm.MethodName)) ∈ lw_all := lw_g (lw_at lw_m8 201 rfl) rfl
theorem q1971 : (Jvm.Cond.code ({ cls := "CombTableModel", name := "readOr", desc := "()Z" } : Jvm.MethodName) prog_21_method_98_code (2 : Nat) (Option.some Jvm.ClassFile.FieldType.boolean)) ∈ lw_all := lw_g (lw_at lw_m8 202 rfl) rfl
theorem q1972 : (Jvm.Cond.methodLink "CombTableModel" (393 : Nat) ({ cls := "CombTableModel", name := "readAnd", desc := "()Z" } : Jvm.MethodName)) ∈ lw_all := lw_g (lw_at lw_m8 203 rfl) rfl
theorem q1973 : (Jvm.Cond.privateMethod ({ cls := "CombTableModel", name := "readAnd", desc := "()Z" } : Jvm.MethodName)) ∈ lw_tbl := lw_at lw_m8 204 rfl
theorem q1974 : (Jvm.Cond.instanceMethod ({ cls := "CombTableModel", name := "readAnd", desc := "()Z" } : Jvm.MethodName)) ∈ lw_all := lw_g (lw_at lw_m8 205 rfl) rfl
theorem q1975 : (Jvm.Cond.code ({ cls := "CombTableModel", name := "readAnd", desc := "()Z" } : Jvm.MethodName) prog_21_method_99_code (2 : Nat) (Option.some Jvm.ClassFile.FieldType.boolean)) ∈ lw_all := lw_g (lw_at lw_m8 206 rfl) rfl
theorem q1976 : (Jvm.Cond.methodLink "CombTableModel" (402 : Nat) ({ cls := "CombTableModel", name := "readOne", desc := "()Z" } : Jvm.MethodName)) ∈ lw_all := lw_g (lw_at lw_m8 207 rfl) rfl
theorem q1977 : (Jvm.Cond.privateMethod ({ cls := "CombTableModel", name := "readOne", desc := "()Z" } : Jvm.MethodName)) ∈ lw_tbl := lw_at lw_m8 208 rfl
theorem q1978 : (Jvm.Cond.instanceMethod ({ cls := "CombTableModel", name := "readOne", desc := "()Z" } : Jvm.MethodName)) ∈ lw_all := lw_g (lw_at lw_m8 209 rfl) rfl
theorem q1979 : (Jvm.Cond.code ({ cls := "CombTableModel", name := "readOne", desc := "()Z" } : Jvm.MethodName) prog_21_method_100_code (4 : Nat) (Option.some Jvm.ClassFile.FieldType.boolean)) ∈ lw_all := lw_g (lw_at lw_m8 210 rfl) rfl
theorem q1980 : (Jvm.Cond.methodLink "CombTableModel" (411 : Nat) ({ cls := "CombTableModel", name := "readBracket", desc := "()Z" } : Jvm.MethodName)) ∈ lw_all := lw_g (lw_at lw_m8 211 rfl) rfl
theorem q1981 : (Jvm.Cond.privateMethod ({ cls := "CombTableModel", name := "readBracket", desc := "()Z" } : Jvm.MethodName)) ∈ lw_tbl := lw_at lw_m8 212 rfl
theorem q1982 : (Jvm.Cond.instanceMethod ({ cls := "CombTableModel", name := "readBracket", desc := "()Z" } : Jvm.MethodName)) ∈ lw_all := lw_g (lw_at lw_m8 213 rfl) rfl
theorem q1983 : (Jvm.Cond.code ({ cls := "CombTableModel", name := "readBracket", desc := "()Z" } : Jvm.MethodName) prog_21_method_102_code (1 : Nat) (Option.some Jvm.ClassFile.FieldType.boolean)) ∈ lw_all := lw_g (lw_at lw_m8 214 rfl) rfl
theorem q1984 : (Jvm.Cond.methodLink "CombTableModel" (414 : Nat) ({ cls := "CombTableModel", name := "readNot", desc := "()Z" } : Jvm.MethodName)) ∈ lw_all := lw_g (lw_at lw_m8 215 rfl) rfl
theorem q1985 : (Jvm.Cond.privateMethod ({ cls := "CombTableModel", name := "readNot", desc := "()Z" } : Jvm.MethodName)) ∈ lw_tbl := lw_at lw_m8 216 rfl
theorem q1986 : (Jvm.Cond.instanceMethod ({ cls := "CombTableModel", name := "readNot", desc := "()Z" } : Jvm.MethodName)) ∈ lw_all := lw_g (lw_at lw_m8 217 rfl) rfl
theorem q1987 : (Jvm.Cond.code ({ cls := "CombTableModel", name := "readNot", desc := "()Z" } : Jvm.MethodName) prog_21_method_101_code (1 : Nat) (Option.some Jvm.ClassFile.FieldType.boolean)) ∈ lw_all := lw_g (lw_at lw_m8 218 rfl) rfl
theorem q1988 : (Jvm.Cond.methodLink "CombTableModel" (399 : Nat) ({ cls := "CombTableModel", name := "lays", desc := "(IIII)I" } : Jvm.MethodName)) ∈ lw_all := lw_g (lw_at lw_m8 219 rfl) rfl
theorem q1989 : (Jvm.Cond.privateMethod ({ cls := "CombTableModel", name := "lays", desc := "(IIII)I" } : Jvm.MethodName)) ∈ lw_tbl := lw_at lw_m8 220 rfl
theorem q1990 : (Jvm.Cond.instanceMethod ({ cls := "CombTableModel", name := "lays", desc := "(IIII)I" } : Jvm.MethodName)) ∈ lw_all := lw_g (lw_at lw_m8 221 rfl) rfl
theorem q1991 : (Jvm.Cond.code ({ cls := "CombTableModel", name := "lays", desc := "(IIII)I" } : Jvm.MethodName) prog_21_method_97_code (6 : Nat) (Option.some Jvm.ClassFile.FieldType.int)) ∈ lw_all := lw_g (lw_at lw_m8 222 rfl) rfl
theorem q1992 : (Jvm.Cond.methodLink "CombTableModel" (417 : Nat) ({ cls := "CombTableModel", name := "readNamed", desc := "(I)Z" } : Jvm.MethodName)) ∈ lw_all := lw_g (lw_at lw_m8 223 rfl) rfl
theorem q1993 : (Jvm.Cond.privateMethod ({ cls := "CombTableModel", name := "readNamed", desc := "(I)Z" } : Jvm.MethodName)) ∈ lw_tbl := lw_at lw_m8 224 rfl
theorem q1994 : (Jvm.Cond.instanceMethod ({ cls := "CombTableModel", name := "readNamed", desc := "(I)Z" } : Jvm.MethodName)) ∈ lw_all := lw_g (lw_at lw_m8 225 rfl) rfl
theorem q1995 : (Jvm.Cond.code ({ cls := "CombTableModel", name := "readNamed", desc := "(I)Z" } : Jvm.MethodName) prog_21_method_103_code (3 : Nat) (Option.some Jvm.ClassFile.FieldType.boolean)) ∈ lw_all := lw_g (lw_at lw_m8 226 rfl) rfl
theorem q1996 : (Jvm.Cond.methodLink "CombTableModel" (420 : Nat) ({ cls := "CombTableModel", name := "readCompare", desc := "(I)Z" } : Jvm.MethodName)) ∈ lw_all := lw_g (lw_at lw_m8 227 rfl) rfl
theorem q1997 : (Jvm.Cond.privateMethod ({ cls := "CombTableModel", name := "readCompare", desc := "(I)Z" } : Jvm.MethodName)) ∈ lw_tbl := lw_at lw_m8 228 rfl
theorem q1998 : (Jvm.Cond.instanceMethod ({ cls := "CombTableModel", name := "readCompare", desc := "(I)Z" } : Jvm.MethodName)) ∈ lw_all := lw_g (lw_at lw_m8 229 rfl) rfl
theorem q1999 : (Jvm.Cond.code ({ cls := "CombTableModel", name := "readCompare", desc := "(I)Z" } : Jvm.MethodName) prog_21_method_104_code (3 : Nat) (Option.some Jvm.ClassFile.FieldType.boolean)) ∈ lw_all := lw_g (lw_at lw_m8 230 rfl) rfl
theorem q2001 : (Jvm.Cond.instanceMethod ({ cls := "CombTableModel", name := "said", desc := "(I)I" } : Jvm.MethodName)) ∈ lw_all := lw_g (lw_at lw_m8 232 rfl) rfl
theorem q2002 : (Jvm.Cond.selects "CombTableModel" ({ cls := "CombTableModel", name := "said", desc := "(I)I" } : Jvm.MethodName) ({ cls := "CombTableModel", name := "said", desc := "(I)I" } : Jvm.MethodName)) ∈ lw_all := lw_g (lw_at lw_m8 233 rfl) rfl
theorem q2003 : (Jvm.Cond.code ({ cls := "CombTableModel", name := "said", desc := "(I)I" } : Jvm.MethodName) prog_21_method_108_code (4 : Nat) (Option.some Jvm.ClassFile.FieldType.int)) ∈ lw_all := lw_g (lw_at lw_m8 234 rfl) rfl
theorem q2004 : (Jvm.Cond.methodLink "CombTableModel" (426 : Nat) ({ cls := "CombTableModel", name := "holds", desc := "(II)Z" } : Jvm.MethodName)) ∈ lw_all := lw_g (lw_at lw_m8 235 rfl) rfl
theorem q2005 : (Jvm.Cond.privateMethod ({ cls := "CombTableModel", name := "holds", desc := "(II)Z" } : Jvm.MethodName)) ∈ lw_tbl := lw_at lw_m8 236 rfl
theorem q2006 : (Jvm.Cond.instanceMethod ({ cls := "CombTableModel", name := "holds", desc := "(II)Z" } : Jvm.MethodName)) ∈ lw_all := lw_g (lw_at lw_m8 237 rfl) rfl
theorem q2007 : (Jvm.Cond.code ({ cls := "CombTableModel", name := "holds", desc := "(II)Z" } : Jvm.MethodName) prog_21_method_107_code (7 : Nat) (Option.some Jvm.ClassFile.FieldType.boolean)) ∈ lw_all := lw_g (lw_at lw_m8 238 rfl) rfl
theorem q2008 : (Jvm.Cond.methodLink "CombTableModel" (429 : Nat) ({ cls := "CombTableModel", name := "valueOf", desc := "(II)I" } : Jvm.MethodName)) ∈ lw_all := lw_g (lw_at lw_m8 239 rfl) rfl
theorem q2009 : (Jvm.Cond.privateMethod ({ cls := "CombTableModel", name := "valueOf", desc := "(II)I" } : Jvm.MethodName)) ∈ lw_tbl := lw_at lw_m9 0 rfl
theorem q2010 : (Jvm.Cond.instanceMethod ({ cls := "CombTableModel", name := "valueOf", desc := "(II)I" } : Jvm.MethodName)) ∈ lw_all := lw_g (lw_at lw_m9 1 rfl) rfl
theorem q2011 : (Jvm.Cond.code ({ cls := "CombTableModel", name := "valueOf", desc := "(II)I" } : Jvm.MethodName) prog_21_method_106_code (4 : Nat) (Option.some Jvm.ClassFile.FieldType.int)) ∈ lw_all := lw_g (lw_at lw_m9 2 rfl) rfl
theorem q2013 : (Jvm.Cond.instanceMethod ({ cls := "CombTableModel", name := "image", desc := "(I)Z" } : Jvm.MethodName)) ∈ lw_all := lw_g (lw_at lw_m9 4 rfl) rfl
theorem q2014 : (Jvm.Cond.selects "CombTableModel" ({ cls := "CombTableModel", name := "image", desc := "(I)Z" } : Jvm.MethodName) ({ cls := "CombTableModel", name := "image", desc := "(I)Z" } : Jvm.MethodName)) ∈ lw_all := lw_g (lw_at lw_m9 5 rfl) rfl
theorem q2015 : (Jvm.Cond.code ({ cls := "CombTableModel", name := "image", desc := "(I)Z" } : Jvm.MethodName) prog_21_method_109_code (3 : Nat) (Option.some Jvm.ClassFile.FieldType.boolean)) ∈ lw_all := lw_g (lw_at lw_m9 6 rfl) rfl
theorem q2017 : (Jvm.Cond.instanceMethod ({ cls := "CombTableModel", name := "restore", desc := "(I)Z" } : Jvm.MethodName)) ∈ lw_all := lw_g (lw_at lw_m9 8 rfl) rfl
theorem q2018 : (Jvm.Cond.selects "CombTableModel" ({ cls := "CombTableModel", name := "restore", desc := "(I)Z" } : Jvm.MethodName) ({ cls := "CombTableModel", name := "restore", desc := "(I)Z" } : Jvm.MethodName)) ∈ lw_all := lw_g (lw_at lw_m9 9 rfl) rfl
theorem q2019 : (Jvm.Cond.code ({ cls := "CombTableModel", name := "restore", desc := "(I)Z" } : Jvm.MethodName) prog_21_method_110_code (3 : Nat) (Option.some Jvm.ClassFile.FieldType.boolean)) ∈ lw_all := lw_g (lw_at lw_m9 10 rfl) rfl
theorem q2021 : (Jvm.Cond.instanceMethod ({ cls := "CombTableModel", name := "count", desc := "(I)I" } : Jvm.MethodName)) ∈ lw_all := lw_g (lw_at lw_m9 12 rfl) rfl
theorem q2022 : (Jvm.Cond.selects "CombTableModel" ({ cls := "CombTableModel", name := "count", desc := "(I)I" } : Jvm.MethodName) ({ cls := "CombTableModel", name := "count", desc := "(I)I" } : Jvm.MethodName)) ∈ lw_all := lw_g (lw_at lw_m9 13 rfl) rfl
theorem q2023 : (Jvm.Cond.code ({ cls := "CombTableModel", name := "count", desc := "(I)I" } : Jvm.MethodName) prog_21_method_111_code (2 : Nat) (Option.some Jvm.ClassFile.FieldType.int)) ∈ lw_all := lw_g (lw_at lw_m9 14 rfl) rfl
theorem q2058 : (Jvm.Cond.castable "CombTableModel" "java/lang/Object") ∈ lw_tbl := lw_at lw_m9 49 rfl
theorem in_X11 : ∀ w ∈ wsX110, w ∈ lw_all := lw_in wsX110 [1469, 1471, 1473, 1475, 1477, 1479, 1481, 1483, 1485, 1487, 1489, 1491, 1493, 1495, 1497, 1499, 1501, 1503, 1505, 1507, 1509, 1511, 1513, 1515, 1517, 1519, 1521, 1523, 1525, 1527, 1529, 1531, 1533, 1535, 1537, 1539, 1541, 1543, 1545, 1547, 1549, 1551, 1553, 1555, 1557, 1559, 1561, 1563, 1565, 1567, 1569, 1571, 1573, 1575, 1577, 1579, 1581, 1583] (by decide +kernel) (by decide +kernel)

