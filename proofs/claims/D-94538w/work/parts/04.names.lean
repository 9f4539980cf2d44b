/-! CombTableLaw -/
set_option maxRecDepth 100000
def RX0 : String := "CombTableLaw"
abbrev cX0_kind : ByteArray := method_3_code
def yX0_kind : MethodName := ⟨RX0, "kind", "(LCombTable;II[J)I"⟩
def dkwX0_kind_0 : List UInt8 := [45, 3, 42, 27, 28, 182, 0, 7, 133, 80, 167, 0, 7, 58, 4, 4, 172, 3, 172]
abbrev dktX0_kind_0 : List UInt8 := dkwX0_kind_0 ++ []
theorem dksX0_kind_0 : cX0_kind.data.toList.drop 0 = dktX0_kind_0 := by decide +kernel
theorem dX0_kind_0 : decode cX0_kind 0 = .ok (.aload_n 3, 1) := dk_45 (dk_at dksX0_kind_0 0 rfl rfl)
theorem dX0_kind_1 : decode cX0_kind 1 = .ok (.iconst 0, 1) := dk_3 (dk_at dksX0_kind_0 1 rfl rfl)
theorem dX0_kind_2 : decode cX0_kind 2 = .ok (.aload_n 0, 1) := dk_42 (dk_at dksX0_kind_0 2 rfl rfl)
theorem dX0_kind_3 : decode cX0_kind 3 = .ok (.iload_n 1, 1) := dk_27 (dk_at dksX0_kind_0 3 rfl rfl)
theorem dX0_kind_4 : decode cX0_kind 4 = .ok (.iload_n 2, 1) := dk_28 (dk_at dksX0_kind_0 4 rfl rfl)
theorem dX0_kind_5 : decode cX0_kind 5 = .ok (.invokevirtual 7, 3) := dk_182 0 7 (dk_at dksX0_kind_0 5 rfl rfl)
theorem dX0_kind_8 : decode cX0_kind 8 = .ok (.i2l, 1) := dk_133 (dk_at dksX0_kind_0 8 rfl rfl)
theorem dX0_kind_9 : decode cX0_kind 9 = .ok (.lastore, 1) := dk_80 (dk_at dksX0_kind_0 9 rfl rfl)
theorem dX0_kind_10 : decode cX0_kind 10 = .ok (.goto 7, 3) := dk_167 0 7 (dk_at dksX0_kind_0 10 rfl rfl)
theorem dX0_kind_13 : decode cX0_kind 13 = .ok (.astore 4, 2) := dk_58 4 (dk_at dksX0_kind_0 13 rfl rfl)
theorem dX0_kind_15 : decode cX0_kind 15 = .ok (.iconst 1, 1) := dk_4 (dk_at dksX0_kind_0 15 rfl rfl)
theorem dX0_kind_16 : decode cX0_kind 16 = .ok (.ireturn, 1) := dk_172 (dk_at dksX0_kind_0 16 rfl rfl)
theorem dX0_kind_17 : decode cX0_kind 17 = .ok (.iconst 0, 1) := dk_3 (dk_at dksX0_kind_0 17 rfl rfl)
theorem dX0_kind_18 : decode cX0_kind 18 = .ok (.ireturn, 1) := dk_172 (dk_at dksX0_kind_0 18 rfl rfl)
abbrev cX0_word : ByteArray := method_4_code
def yX0_word : MethodName := ⟨RX0, "word", "(LCombTable;II[J)I"⟩
def dkwX0_word_0 : List UInt8 := [45, 3, 42, 27, 28, 182, 0, 15, 133, 80, 167, 0, 7, 58, 4, 4, 172, 3, 172]
abbrev dktX0_word_0 : List UInt8 := dkwX0_word_0 ++ []
theorem dksX0_word_0 : cX0_word.data.toList.drop 0 = dktX0_word_0 := by decide +kernel
theorem dX0_word_0 : decode cX0_word 0 = .ok (.aload_n 3, 1) := dk_45 (dk_at dksX0_word_0 0 rfl rfl)
theorem dX0_word_1 : decode cX0_word 1 = .ok (.iconst 0, 1) := dk_3 (dk_at dksX0_word_0 1 rfl rfl)
theorem dX0_word_2 : decode cX0_word 2 = .ok (.aload_n 0, 1) := dk_42 (dk_at dksX0_word_0 2 rfl rfl)
theorem dX0_word_3 : decode cX0_word 3 = .ok (.iload_n 1, 1) := dk_27 (dk_at dksX0_word_0 3 rfl rfl)
theorem dX0_word_4 : decode cX0_word 4 = .ok (.iload_n 2, 1) := dk_28 (dk_at dksX0_word_0 4 rfl rfl)
theorem dX0_word_5 : decode cX0_word 5 = .ok (.invokevirtual 15, 3) := dk_182 0 15 (dk_at dksX0_word_0 5 rfl rfl)
theorem dX0_word_8 : decode cX0_word 8 = .ok (.i2l, 1) := dk_133 (dk_at dksX0_word_0 8 rfl rfl)
theorem dX0_word_9 : decode cX0_word 9 = .ok (.lastore, 1) := dk_80 (dk_at dksX0_word_0 9 rfl rfl)
theorem dX0_word_10 : decode cX0_word 10 = .ok (.goto 7, 3) := dk_167 0 7 (dk_at dksX0_word_0 10 rfl rfl)
theorem dX0_word_13 : decode cX0_word 13 = .ok (.astore 4, 2) := dk_58 4 (dk_at dksX0_word_0 13 rfl rfl)
theorem dX0_word_15 : decode cX0_word 15 = .ok (.iconst 1, 1) := dk_4 (dk_at dksX0_word_0 15 rfl rfl)
theorem dX0_word_16 : decode cX0_word 16 = .ok (.ireturn, 1) := dk_172 (dk_at dksX0_word_0 16 rfl rfl)
theorem dX0_word_17 : decode cX0_word 17 = .ok (.iconst 0, 1) := dk_3 (dk_at dksX0_word_0 17 rfl rfl)
theorem dX0_word_18 : decode cX0_word 18 = .ok (.ireturn, 1) := dk_172 (dk_at dksX0_word_0 18 rfl rfl)
theorem q89 : (Jvm.Cond.initialized "CombTableLaw") ∈ lw_all := lw_g (lw_at lw_m1 0 rfl) rfl
theorem q121 : (Jvm.Cond.classLink "CombTableLaw" (8 : Nat) "CombTable") ∈ lw_all := lw_g (lw_at lw_m1 32 rfl) rfl
theorem q123 : (Jvm.Cond.methodLink "CombTableLaw" (18 : Nat) ({ cls := "CombTable", name := "<init>", desc := "()V" } : Jvm.MethodName)) ∈ lw_all := lw_g (lw_at lw_m1 34 rfl) rfl
theorem q633 : (Jvm.Cond.methodLink "CombTableLaw" (22 : Nat) ({ cls := "CombTable", name := "feed", desc := "(IIIII)I" } : Jvm.MethodName)) ∈ lw_all := lw_g (lw_at lw_m3 64 rfl) rfl
theorem q641 : (Jvm.Cond.methodLink "CombTableLaw" (27 : Nat) ({ cls := "CombTable", name := "end", desc := "(I)Z" } : Jvm.MethodName)) ∈ lw_all := lw_g (lw_at lw_m3 72 rfl) rfl
theorem q645 : (Jvm.Cond.methodLink "CombTableLaw" (32 : Nat) ({ cls := "CombTable", name := "table", desc := "()I" } : Jvm.MethodName)) ∈ lw_all := lw_g (lw_at lw_m3 76 rfl) rfl
theorem q890 : (Jvm.Cond.methodLink "CombTableLaw" (37 : Nat) ({ cls := "CombTable", name := "fault", desc := "()I" } : Jvm.MethodName)) ∈ lw_all := lw_g (lw_at lw_m4 81 rfl) rfl
theorem q894 : (Jvm.Cond.methodLink "CombTableLaw" (41 : Nat) ({ cls := "CombTable", name := "rank", desc := "(I)I" } : Jvm.MethodName)) ∈ lw_all := lw_g (lw_at lw_m4 85 rfl) rfl
theorem q903 : (Jvm.Cond.methodLink "CombTableLaw" (55 : Nat) ({ cls := "CombTable", name := "say", desc := "(II)I" } : Jvm.MethodName)) ∈ lw_all := lw_g (lw_at lw_m4 94 rfl) rfl
theorem q940 : (Jvm.Cond.methodLink "CombTableLaw" (59 : Nat) ({ cls := "CombTable", name := "wrong", desc := "(II)I" } : Jvm.MethodName)) ∈ lw_all := lw_g (lw_at lw_m4 131 rfl) rfl
theorem q945 : (Jvm.Cond.methodLink "CombTableLaw" (63 : Nat) ({ cls := "CombTable", name := "may", desc := "(I)I" } : Jvm.MethodName)) ∈ lw_all := lw_g (lw_at lw_m4 136 rfl) rfl
theorem q949 : (Jvm.Cond.methodLink "CombTableLaw" (67 : Nat) ({ cls := "CombTable", name := "undo", desc := "()I" } : Jvm.MethodName)) ∈ lw_all := lw_g (lw_at lw_m4 140 rfl) rfl
theorem q957 : (Jvm.Cond.methodLink "CombTableLaw" (71 : Nat) ({ cls := "CombTable", name := "talk", desc := "()I" } : Jvm.MethodName)) ∈ lw_all := lw_g (lw_at lw_m4 148 rfl) rfl
theorem q998 : (Jvm.Cond.methodLink "CombTableLaw" (75 : Nat) ({ cls := "CombTable", name := "why", desc := "()I" } : Jvm.MethodName)) ∈ lw_all := lw_g (lw_at lw_m4 189 rfl) rfl
theorem q1002 : (Jvm.Cond.methodLink "CombTableLaw" (82 : Nat) ({ cls := "CombTable", name := "threads", desc := "()I" } : Jvm.MethodName)) ∈ lw_all := lw_g (lw_at lw_m4 193 rfl) rfl
theorem q1006 : (Jvm.Cond.methodLink "CombTableLaw" (86 : Nat) ({ cls := "CombTable", name := "thread", desc := "(II)I" } : Jvm.MethodName)) ∈ lw_all := lw_g (lw_at lw_m4 197 rfl) rfl
theorem q1011 : (Jvm.Cond.methodLink "CombTableLaw" (90 : Nat) ({ cls := "CombTable", name := "with", desc := "(II)I" } : Jvm.MethodName)) ∈ lw_all := lw_g (lw_at lw_m4 202 rfl) rfl
theorem q1019 : (Jvm.Cond.methodLink "CombTableLaw" (94 : Nat) ({ cls := "CombTable", name := "promised", desc := "(III)I" } : Jvm.MethodName)) ∈ lw_all := lw_g (lw_at lw_m4 210 rfl) rfl
theorem q1025 : (Jvm.Cond.methodLink "CombTableLaw" (99 : Nat) ({ cls := "CombTable", name := "minutes", desc := "()I" } : Jvm.MethodName)) ∈ lw_all := lw_g (lw_at lw_m4 216 rfl) rfl
theorem q1067 : (Jvm.Cond.methodLink "CombTableLaw" (103 : Nat) ({ cls := "CombTable", name := "wholes", desc := "(I)I" } : Jvm.MethodName)) ∈ lw_all := lw_g (lw_at lw_m5 18 rfl) rfl
theorem q1097 : (Jvm.Cond.methodLink "CombTableLaw" (107 : Nat) ({ cls := "CombTable", name := "sure", desc := "(II)I" } : Jvm.MethodName)) ∈ lw_all := lw_g (lw_at lw_m5 48 rfl) rfl
theorem q1101 : (Jvm.Cond.methodLink "CombTableLaw" (111 : Nat) ({ cls := "CombTable", name := "hangs", desc := "()I" } : Jvm.MethodName)) ∈ lw_all := lw_g (lw_at lw_m5 52 rfl) rfl
theorem q1107 : (Jvm.Cond.methodLink "CombTableLaw" (115 : Nat) ({ cls := "CombTable", name := "mend", desc := "()I" } : Jvm.MethodName)) ∈ lw_all := lw_g (lw_at lw_m5 58 rfl) rfl
theorem q1126 : (Jvm.Cond.methodLink "CombTableLaw" (119 : Nat) ({ cls := "CombTable", name := "mended", desc := "()I" } : Jvm.MethodName)) ∈ lw_all := lw_g (lw_at lw_m5 77 rfl) rfl
theorem q1130 : (Jvm.Cond.methodLink "CombTableLaw" (123 : Nat) ({ cls := "CombTable", name := "orders", desc := "()I" } : Jvm.MethodName)) ∈ lw_all := lw_g (lw_at lw_m5 81 rfl) rfl
theorem q1139 : (Jvm.Cond.methodLink "CombTableLaw" (127 : Nat) ({ cls := "CombTable", name := "orderAt", desc := "(I)I" } : Jvm.MethodName)) ∈ lw_all := lw_g (lw_at lw_m5 90 rfl) rfl
theorem q1143 : (Jvm.Cond.methodLink "CombTableLaw" (131 : Nat) ({ cls := "CombTable", name := "drawn", desc := "(II)I" } : Jvm.MethodName)) ∈ lw_all := lw_g (lw_at lw_m5 94 rfl) rfl
theorem q1157 : (Jvm.Cond.methodLink "CombTableLaw" (135 : Nat) ({ cls := "CombTable", name := "spoke", desc := "(II)I" } : Jvm.MethodName)) ∈ lw_all := lw_g (lw_at lw_m5 108 rfl) rfl
theorem q1161 : (Jvm.Cond.methodLink "CombTableLaw" (139 : Nat) ({ cls := "CombTable", name := "road", desc := "(III)I" } : Jvm.MethodName)) ∈ lw_all := lw_g (lw_at lw_m5 112 rfl) rfl
theorem q1181 : (Jvm.Cond.methodLink "CombTableLaw" (143 : Nat) ({ cls := "CombTable", name := "without", desc := "(IIII)I" } : Jvm.MethodName)) ∈ lw_all := lw_g (lw_at lw_m5 132 rfl) rfl
theorem q1185 : (Jvm.Cond.methodLink "CombTableLaw" (148 : Nat) ({ cls := "CombTable", name := "game", desc := "(IIII)I" } : Jvm.MethodName)) ∈ lw_all := lw_g (lw_at lw_m5 136 rfl) rfl
theorem q1197 : (Jvm.Cond.methodLink "CombTableLaw" (156 : Nat) ({ cls := "CombTable", name := "unlike", desc := "(II)I" } : Jvm.MethodName)) ∈ lw_all := lw_g (lw_at lw_m5 148 rfl) rfl
theorem q1205 : (Jvm.Cond.methodLink "CombTableLaw" (152 : Nat) ({ cls := "CombTable", name := "found", desc := "(I)I" } : Jvm.MethodName)) ∈ lw_all := lw_g (lw_at lw_m5 156 rfl) rfl
theorem q1209 : (Jvm.Cond.methodLink "CombTableLaw" (160 : Nat) ({ cls := "CombTable", name := "sentence", desc := "()I" } : Jvm.MethodName)) ∈ lw_all := lw_g (lw_at lw_m5 160 rfl) rfl
theorem q1325 : (Jvm.Cond.methodLink "CombTableLaw" (164 : Nat) ({ cls := "CombTable", name := "said", desc := "(I)I" } : Jvm.MethodName)) ∈ lw_all := lw_g (lw_at lw_m6 36 rfl) rfl
theorem q1352 : (Jvm.Cond.methodLink "CombTableLaw" (168 : Nat) ({ cls := "CombTable", name := "image", desc := "(I)Z" } : Jvm.MethodName)) ∈ lw_all := lw_g (lw_at lw_m6 63 rfl) rfl
theorem q1356 : (Jvm.Cond.methodLink "CombTableLaw" (172 : Nat) ({ cls := "CombTable", name := "restore", desc := "(I)Z" } : Jvm.MethodName)) ∈ lw_all := lw_g (lw_at lw_m6 67 rfl) rfl
theorem q1360 : (Jvm.Cond.methodLink "CombTableLaw" (176 : Nat) ({ cls := "CombTable", name := "count", desc := "(I)I" } : Jvm.MethodName)) ∈ lw_all := lw_g (lw_at lw_m6 71 rfl) rfl
theorem q1364 : (Jvm.Cond.methodLink "CombTableLaw" (46 : Nat) ({ cls := "CombTableLaw", name := "kind", desc := "(LCombTable;II[J)I" } : Jvm.MethodName)) ∈ lw_all := lw_g (lw_at lw_m6 75 rfl) rfl
theorem q1365 : (Jvm.Cond.static ({ cls := "CombTableLaw", name := "kind", desc := "(LCombTable;II[J)I" } : Jvm.MethodName)) ∈ lw_all := lw_g (lw_at lw_m6 76 rfl) rfl
theorem q1366 : (Jvm.Cond.codeWith ({ cls := "CombTableLaw", name := "kind", desc := "(LCombTable;II[J)I" } : Jvm.MethodName) method_3_code (5 : Nat) (Option.some Jvm.ClassFile.FieldType.int) [((0 : Nat), (10 : Nat), (13 : Nat), (13 : Nat))]) ∈ lw_all := lw_g (lw_at lw_m6 77 rfl) rfl
theorem q1367 : (Jvm.Cond.classLink "CombTableLaw" (13 : Nat) "java/util/NoSuchElementException") ∈ lw_all := lw_g (lw_at lw_m6 78 rfl) rfl
theorem q1368 : (Jvm.Cond.methodLink "CombTableLaw" (7 : Nat) ({ cls := "CombTable", name := "kind", desc := "(II)I" } : Jvm.MethodName)) ∈ lw_all := lw_g (lw_at lw_m6 79 rfl) rfl
theorem q1398 : (Jvm.Cond.methodLink "CombTableLaw" (79 : Nat) ({ cls := "CombTableLaw", name := "word", desc := "(LCombTable;II[J)I" } : Jvm.MethodName)) ∈ lw_all := lw_g (lw_at lw_m6 109 rfl) rfl
theorem q1399 : (Jvm.Cond.static ({ cls := "CombTableLaw", name := "word", desc := "(LCombTable;II[J)I" } : Jvm.MethodName)) ∈ lw_all := lw_g (lw_at lw_m6 110 rfl) rfl
theorem q1400 : (Jvm.Cond.codeWith ({ cls := "CombTableLaw", name := "word", desc := "(LCombTable;II[J)I" } : Jvm.MethodName) method_4_code (5 : Nat) (Option.some Jvm.ClassFile.FieldType.int) [((0 : Nat), (10 : Nat), (13 : Nat), (13 : Nat))]) ∈ lw_all := lw_g (lw_at lw_m6 111 rfl) rfl
theorem q1401 : (Jvm.Cond.methodLink "CombTableLaw" (15 : Nat) ({ cls := "CombTable", name := "word", desc := "(II)I" } : Jvm.MethodName)) ∈ lw_all := lw_g (lw_at lw_m6 112 rfl) rfl
theorem q1405 : (Jvm.Cond.classLink "CombTableLaw" (19 : Nat) "CombTableModel") ∈ lw_all := lw_g (lw_at lw_m6 116 rfl) rfl
theorem q1407 : (Jvm.Cond.methodLink "CombTableLaw" (21 : Nat) ({ cls := "CombTableModel", name := "<init>", desc := "()V" } : Jvm.MethodName)) ∈ lw_all := lw_g (lw_at lw_m6 118 rfl) rfl
theorem q1588 : (Jvm.Cond.methodLink "CombTableLaw" (52 : Nat) ({ cls := "CombTableModel", name := "thrown", desc := "()I" } : Jvm.MethodName)) ∈ lw_all := lw_g (lw_at lw_m7 59 rfl) rfl
theorem q1592 : (Jvm.Cond.methodLink "CombTableLaw" (26 : Nat) ({ cls := "CombTableModel", name := "feed", desc := "(IIIII)I" } : Jvm.MethodName)) ∈ lw_all := lw_g (lw_at lw_m7 63 rfl) rfl
theorem q1600 : (Jvm.Cond.methodLink "CombTableLaw" (31 : Nat) ({ cls := "CombTableModel", name := "end", desc := "(I)Z" } : Jvm.MethodName)) ∈ lw_all := lw_g (lw_at lw_m7 71 rfl) rfl
theorem q1604 : (Jvm.Cond.methodLink "CombTableLaw" (36 : Nat) ({ cls := "CombTableModel", name := "table", desc := "()I" } : Jvm.MethodName)) ∈ lw_all := lw_g (lw_at lw_m7 75 rfl) rfl
theorem q1707 : (Jvm.Cond.methodLink "CombTableLaw" (40 : Nat) ({ cls := "CombTableModel", name := "fault", desc := "()I" } : Jvm.MethodName)) ∈ lw_all := lw_g (lw_at lw_m7 178 rfl) rfl
theorem q1711 : (Jvm.Cond.methodLink "CombTableLaw" (45 : Nat) ({ cls := "CombTableModel", name := "rank", desc := "(I)I" } : Jvm.MethodName)) ∈ lw_all := lw_g (lw_at lw_m7 182 rfl) rfl
theorem q1719 : (Jvm.Cond.methodLink "CombTableLaw" (51 : Nat) ({ cls := "CombTableModel", name := "kind", desc := "(II)I" } : Jvm.MethodName)) ∈ lw_all := lw_g (lw_at lw_m7 190 rfl) rfl
theorem q1731 : (Jvm.Cond.methodLink "CombTableLaw" (58 : Nat) ({ cls := "CombTableModel", name := "say", desc := "(II)I" } : Jvm.MethodName)) ∈ lw_all := lw_g (lw_at lw_m7 202 rfl) rfl
theorem q1771 : (Jvm.Cond.methodLink "CombTableLaw" (62 : Nat) ({ cls := "CombTableModel", name := "wrong", desc := "(II)I" } : Jvm.MethodName)) ∈ lw_all := lw_g (lw_at lw_m8 2 rfl) rfl
theorem q1775 : (Jvm.Cond.methodLink "CombTableLaw" (66 : Nat) ({ cls := "CombTableModel", name := "may", desc := "(I)I" } : Jvm.MethodName)) ∈ lw_all := lw_g (lw_at lw_m8 6 rfl) rfl
theorem q1779 : (Jvm.Cond.methodLink "CombTableLaw" (70 : Nat) ({ cls := "CombTableModel", name := "undo", desc := "()I" } : Jvm.MethodName)) ∈ lw_all := lw_g (lw_at lw_m8 10 rfl) rfl
theorem q1783 : (Jvm.Cond.methodLink "CombTableLaw" (74 : Nat) ({ cls := "CombTableModel", name := "talk", desc := "()I" } : Jvm.MethodName)) ∈ lw_all := lw_g (lw_at lw_m8 14 rfl) rfl
theorem q1791 : (Jvm.Cond.methodLink "CombTableLaw" (78 : Nat) ({ cls := "CombTableModel", name := "why", desc := "()I" } : Jvm.MethodName)) ∈ lw_all := lw_g (lw_at lw_m8 22 rfl) rfl
theorem q1795 : (Jvm.Cond.methodLink "CombTableLaw" (81 : Nat) ({ cls := "CombTableModel", name := "word", desc := "(II)I" } : Jvm.MethodName)) ∈ lw_all := lw_g (lw_at lw_m8 26 rfl) rfl
theorem q1807 : (Jvm.Cond.methodLink "CombTableLaw" (85 : Nat) ({ cls := "CombTableModel", name := "threads", desc := "()I" } : Jvm.MethodName)) ∈ lw_all := lw_g (lw_at lw_m8 38 rfl) rfl
theorem q1811 : (Jvm.Cond.methodLink "CombTableLaw" (89 : Nat) ({ cls := "CombTableModel", name := "thread", desc := "(II)I" } : Jvm.MethodName)) ∈ lw_all := lw_g (lw_at lw_m8 42 rfl) rfl
theorem q1815 : (Jvm.Cond.methodLink "CombTableLaw" (93 : Nat) ({ cls := "CombTableModel", name := "with", desc := "(II)I" } : Jvm.MethodName)) ∈ lw_all := lw_g (lw_at lw_m8 46 rfl) rfl
theorem q1819 : (Jvm.Cond.methodLink "CombTableLaw" (98 : Nat) ({ cls := "CombTableModel", name := "promised", desc := "(III)I" } : Jvm.MethodName)) ∈ lw_all := lw_g (lw_at lw_m8 50 rfl) rfl
theorem q1823 : (Jvm.Cond.methodLink "CombTableLaw" (138 : Nat) ({ cls := "CombTableModel", name := "spoke", desc := "(II)I" } : Jvm.MethodName)) ∈ lw_all := lw_g (lw_at lw_m8 54 rfl) rfl
theorem q1827 : (Jvm.Cond.methodLink "CombTableLaw" (134 : Nat) ({ cls := "CombTableModel", name := "drawn", desc := "(II)I" } : Jvm.MethodName)) ∈ lw_all := lw_g (lw_at lw_m8 58 rfl) rfl
theorem q1840 : (Jvm.Cond.methodLink "CombTableLaw" (102 : Nat) ({ cls := "CombTableModel", name := "minutes", desc := "()I" } : Jvm.MethodName)) ∈ lw_all := lw_g (lw_at lw_m8 71 rfl) rfl
theorem q1852 : (Jvm.Cond.methodLink "CombTableLaw" (106 : Nat) ({ cls := "CombTableModel", name := "wholes", desc := "(I)I" } : Jvm.MethodName)) ∈ lw_all := lw_g (lw_at lw_m8 83 rfl) rfl
theorem q1876 : (Jvm.Cond.methodLink "CombTableLaw" (110 : Nat) ({ cls := "CombTableModel", name := "sure", desc := "(II)I" } : Jvm.MethodName)) ∈ lw_all := lw_g (lw_at lw_m8 107 rfl) rfl
theorem q1880 : (Jvm.Cond.methodLink "CombTableLaw" (114 : Nat) ({ cls := "CombTableModel", name := "hangs", desc := "()I" } : Jvm.MethodName)) ∈ lw_all := lw_g (lw_at lw_m8 111 rfl) rfl
theorem q1885 : (Jvm.Cond.methodLink "CombTableLaw" (118 : Nat) ({ cls := "CombTableModel", name := "mend", desc := "()I" } : Jvm.MethodName)) ∈ lw_all := lw_g (lw_at lw_m8 116 rfl) rfl
theorem q1900 : (Jvm.Cond.methodLink "CombTableLaw" (122 : Nat) ({ cls := "CombTableModel", name := "mended", desc := "()I" } : Jvm.MethodName)) ∈ lw_all := lw_g (lw_at lw_m8 131 rfl) rfl
theorem q1904 : (Jvm.Cond.methodLink "CombTableLaw" (126 : Nat) ({ cls := "CombTableModel", name := "orders", desc := "()I" } : Jvm.MethodName)) ∈ lw_all := lw_g (lw_at lw_m8 135 rfl) rfl
theorem q1912 : (Jvm.Cond.methodLink "CombTableLaw" (130 : Nat) ({ cls := "CombTableModel", name := "orderAt", desc := "(I)I" } : Jvm.MethodName)) ∈ lw_all := lw_g (lw_at lw_m8 143 rfl) rfl
theorem q1916 : (Jvm.Cond.methodLink "CombTableLaw" (142 : Nat) ({ cls := "CombTableModel", name := "road", desc := "(III)I" } : Jvm.MethodName)) ∈ lw_all := lw_g (lw_at lw_m8 147 rfl) rfl
theorem q1936 : (Jvm.Cond.methodLink "CombTableLaw" (147 : Nat) ({ cls := "CombTableModel", name := "without", desc := "(IIII)I" } : Jvm.MethodName)) ∈ lw_all := lw_g (lw_at lw_m8 167 rfl) rfl
theorem q1940 : (Jvm.Cond.methodLink "CombTableLaw" (151 : Nat) ({ cls := "CombTableModel", name := "game", desc := "(IIII)I" } : Jvm.MethodName)) ∈ lw_all := lw_g (lw_at lw_m8 171 rfl) rfl
theorem q1948 : (Jvm.Cond.methodLink "CombTableLaw" (155 : Nat) ({ cls := "CombTableModel", name := "found", desc := "(I)I" } : Jvm.MethodName)) ∈ lw_all := lw_g (lw_at lw_m8 179 rfl) rfl
theorem q1952 : (Jvm.Cond.methodLink "CombTableLaw" (159 : Nat) ({ cls := "CombTableModel", name := "unlike", desc := "(II)I" } : Jvm.MethodName)) ∈ lw_all := lw_g (lw_at lw_m8 183 rfl) rfl
theorem q1964 : (Jvm.Cond.methodLink "CombTableLaw" (163 : Nat) ({ cls := "CombTableModel", name := "sentence", desc := "()I" } : Jvm.MethodName)) ∈ lw_all := lw_g (lw_at lw_m8 195 rfl) rfl
theorem q2000 : (Jvm.Cond.methodLink "CombTableLaw" (167 : Nat) ({ cls := "CombTableModel", name := "said", desc := "(I)I" } : Jvm.MethodName)) ∈ lw_all := lw_g (lw_at lw_m8 231 rfl) rfl
theorem q2012 : (Jvm.Cond.methodLink "CombTableLaw" (171 : Nat) ({ cls := "CombTableModel", name := "image", desc := "(I)Z" } : Jvm.MethodName)) ∈ lw_all := lw_g (lw_at lw_m9 3 rfl) rfl
theorem q2016 : (Jvm.Cond.methodLink "CombTableLaw" (175 : Nat) ({ cls := "CombTableModel", name := "restore", desc := "(I)Z" } : Jvm.MethodName)) ∈ lw_all := lw_g (lw_at lw_m9 7 rfl) rfl
theorem q2020 : (Jvm.Cond.methodLink "CombTableLaw" (179 : Nat) ({ cls := "CombTableModel", name := "count", desc := "(I)I" } : Jvm.MethodName)) ∈ lw_all := lw_g (lw_at lw_m9 11 rfl) rfl

/-! CombTable$SentenceReader -/
set_option maxRecDepth 100000
def RX10 : String := "CombTable$SentenceReader"
def TX10 : u_T := fun k => match k with
  | 0 => ("CombTable$Reader", "most", "I", true)
  | 1 => ("CombTable$Reader", "p", "I", false)
  | 2 => ("CombTable$Reader", "at", "I", false)
  | 3 => ("CombTable$Reader", "token", "I", false)
  | 4 => ("CombTable$Reader", "value", "I", false)
  | 5 => ("CombTable$Reader", "many", "I", false)
  | 6 => ("CombTable$Reader", "name", "J", false)
  | 7 => ("CombTable$Reader", "this$0", "LCombTable;", true)
  | 8 => ("CombTable$SentenceReader", "haves", "[Ljava/lang/String;", true)
  | 9 => ("CombTable$SentenceReader", "counts", "[Ljava/lang/String;", true)
  | 10 => ("CombTable$SentenceReader", "ones", "I", false)
  | _ => ("CombTable$SentenceReader", "this$0", "LCombTable;", true)
def tyX10 : Nat → FieldType := fun k => match k with
  | 0 => .int
  | 1 => .int
  | 2 => .int
  | 3 => .int
  | 4 => .int
  | 5 => .int
  | 6 => .long
  | 7 => .object "CombTable"
  | 8 => .array (.object "java/lang/String")
  | 9 => .array (.object "java/lang/String")
  | 10 => .int
  | _ => .object "CombTable"
abbrev wsX100 : List Cond := u_ws RX10 TX10 12
-- two fields of one name: no nmX10
theorem tyX10_ok : ∀ k, k < 12 → parseFieldDescriptor (TX10 k).2.2.1 = some (tyX10 k) := by decide +kernel
abbrev cX10_init : ByteArray := prog_14_method_1_code
def yX10_init : MethodName := ⟨RX10, "<init>", "(LCombTable;)V"⟩
def dkwX10_init_2 : List UInt8 := [18, 29, 83, 89, 5, 18, 31, 83, 89, 6, 18, 33, 83, 181, 0, 35, 177]
abbrev dktX10_init_2 : List UInt8 := dkwX10_init_2 ++ []
def dkwX10_init_1 : List UInt8 := [4, 18, 19, 83, 89, 5, 18, 21, 83, 181, 0, 23, 42, 7, 189, 0, 15, 89, 3, 18, 27, 83, 89, 4]
abbrev dktX10_init_1 : List UInt8 := dkwX10_init_1 ++ dktX10_init_2
def dkwX10_init_0 : List UInt8 := [42, 43, 181, 0, 3, 42, 43, 17, 0, 200, 183, 0, 9, 42, 6, 189, 0, 15, 89, 3, 18, 17, 83, 89]
abbrev dktX10_init_0 : List UInt8 := dkwX10_init_0 ++ dktX10_init_1
theorem dksX10_init_0 : cX10_init.data.toList.drop 0 = dktX10_init_0 := by decide +kernel
theorem dksX10_init_1 : cX10_init.data.toList.drop 24 = dktX10_init_1 := dk_seg dksX10_init_0 24 rfl rfl
theorem dksX10_init_2 : cX10_init.data.toList.drop 48 = dktX10_init_2 := dk_seg dksX10_init_1 24 rfl rfl
theorem dX10_init_0 : decode cX10_init 0 = .ok (.aload_n 0, 1) := dk_42 (dk_at dksX10_init_0 0 rfl rfl)
theorem dX10_init_1 : decode cX10_init 1 = .ok (.aload_n 1, 1) := dk_43 (dk_at dksX10_init_0 1 rfl rfl)
theorem dX10_init_2 : decode cX10_init 2 = .ok (.putfield 3, 3) := dk_181 0 3 (dk_at dksX10_init_0 2 rfl rfl)
theorem dX10_init_5 : decode cX10_init 5 = .ok (.aload_n 0, 1) := dk_42 (dk_at dksX10_init_0 5 rfl rfl)
theorem dX10_init_6 : decode cX10_init 6 = .ok (.aload_n 1, 1) := dk_43 (dk_at dksX10_init_0 6 rfl rfl)
theorem dX10_init_7 : decode cX10_init 7 = .ok (.sipush 200, 3) := dk_17 0 200 (dk_at dksX10_init_0 7 rfl rfl)
theorem dX10_init_10 : decode cX10_init 10 = .ok (.invokespecial 9, 3) := dk_183 0 9 (dk_at dksX10_init_0 10 rfl rfl)
theorem dX10_init_13 : decode cX10_init 13 = .ok (.aload_n 0, 1) := dk_42 (dk_at dksX10_init_0 13 rfl rfl)
theorem dX10_init_14 : decode cX10_init 14 = .ok (.iconst 3, 1) := dk_6 (dk_at dksX10_init_0 14 rfl rfl)
theorem dX10_init_15 : decode cX10_init 15 = .ok (.anewarray 15, 3) := dk_189 0 15 (dk_at dksX10_init_0 15 rfl rfl)
theorem dX10_init_18 : decode cX10_init 18 = .ok (.dup, 1) := dk_89 (dk_at dksX10_init_0 18 rfl rfl)
theorem dX10_init_19 : decode cX10_init 19 = .ok (.iconst 0, 1) := dk_3 (dk_at dksX10_init_0 19 rfl rfl)
theorem dX10_init_20 : decode cX10_init 20 = .ok (.ldc 17, 2) := dk_18 17 (dk_at dksX10_init_0 20 rfl rfl)
theorem dX10_init_22 : decode cX10_init 22 = .ok (.aastore, 1) := dk_83 (dk_at dksX10_init_0 22 rfl rfl)
theorem dX10_init_23 : decode cX10_init 23 = .ok (.dup, 1) := dk_89 (dk_at dksX10_init_0 23 rfl rfl)
theorem dX10_init_24 : decode cX10_init 24 = .ok (.iconst 1, 1) := dk_4 (dk_at dksX10_init_1 0 rfl rfl)
theorem dX10_init_25 : decode cX10_init 25 = .ok (.ldc 19, 2) := dk_18 19 (dk_at dksX10_init_1 1 rfl rfl)
theorem dX10_init_27 : decode cX10_init 27 = .ok (.aastore, 1) := dk_83 (dk_at dksX10_init_1 3 rfl rfl)
theorem dX10_init_28 : decode cX10_init 28 = .ok (.dup, 1) := dk_89 (dk_at dksX10_init_1 4 rfl rfl)
theorem dX10_init_29 : decode cX10_init 29 = .ok (.iconst 2, 1) := dk_5 (dk_at dksX10_init_1 5 rfl rfl)
theorem dX10_init_30 : decode cX10_init 30 = .ok (.ldc 21, 2) := dk_18 21 (dk_at dksX10_init_1 6 rfl rfl)
theorem dX10_init_32 : decode cX10_init 32 = .ok (.aastore, 1) := dk_83 (dk_at dksX10_init_1 8 rfl rfl)
theorem dX10_init_33 : decode cX10_init 33 = .ok (.putfield 23, 3) := dk_181 0 23 (dk_at dksX10_init_1 9 rfl rfl)
theorem dX10_init_36 : decode cX10_init 36 = .ok (.aload_n 0, 1) := dk_42 (dk_at dksX10_init_1 12 rfl rfl)
theorem dX10_init_37 : decode cX10_init 37 = .ok (.iconst 4, 1) := dk_7 (dk_at dksX10_init_1 13 rfl rfl)
theorem dX10_init_38 : decode cX10_init 38 = .ok (.anewarray 15, 3) := dk_189 0 15 (dk_at dksX10_init_1 14 rfl rfl)
theorem dX10_init_41 : decode cX10_init 41 = .ok (.dup, 1) := dk_89 (dk_at dksX10_init_1 17 rfl rfl)
theorem dX10_init_42 : decode cX10_init 42 = .ok (.iconst 0, 1) := dk_3 (dk_at dksX10_init_1 18 rfl rfl)
theorem dX10_init_43 : decode cX10_init 43 = .ok (.ldc 27, 2) := dk_18 27 (dk_at dksX10_init_1 19 rfl rfl)
theorem dX10_init_45 : decode cX10_init 45 = .ok (.aastore, 1) := dk_83 (dk_at dksX10_init_1 21 rfl rfl)
theorem dX10_init_46 : decode cX10_init 46 = .ok (.dup, 1) := dk_89 (dk_at dksX10_init_1 22 rfl rfl)
theorem dX10_init_47 : decode cX10_init 47 = .ok (.iconst 1, 1) := dk_4 (dk_at dksX10_init_1 23 rfl rfl)
theorem dX10_init_48 : decode cX10_init 48 = .ok (.ldc 29, 2) := dk_18 29 (dk_at dksX10_init_2 0 rfl rfl)
theorem dX10_init_50 : decode cX10_init 50 = .ok (.aastore, 1) := dk_83 (dk_at dksX10_init_2 2 rfl rfl)
theorem dX10_init_51 : decode cX10_init 51 = .ok (.dup, 1) := dk_89 (dk_at dksX10_init_2 3 rfl rfl)
theorem dX10_init_52 : decode cX10_init 52 = .ok (.iconst 2, 1) := dk_5 (dk_at dksX10_init_2 4 rfl rfl)
theorem dX10_init_53 : decode cX10_init 53 = .ok (.ldc 31, 2) := dk_18 31 (dk_at dksX10_init_2 5 rfl rfl)
theorem dX10_init_55 : decode cX10_init 55 = .ok (.aastore, 1) := dk_83 (dk_at dksX10_init_2 7 rfl rfl)
theorem dX10_init_56 : decode cX10_init 56 = .ok (.dup, 1) := dk_89 (dk_at dksX10_init_2 8 rfl rfl)
theorem dX10_init_57 : decode cX10_init 57 = .ok (.iconst 3, 1) := dk_6 (dk_at dksX10_init_2 9 rfl rfl)
theorem dX10_init_58 : decode cX10_init 58 = .ok (.ldc 33, 2) := dk_18 33 (dk_at dksX10_init_2 10 rfl rfl)
theorem dX10_init_60 : decode cX10_init 60 = .ok (.aastore, 1) := dk_83 (dk_at dksX10_init_2 12 rfl rfl)
theorem dX10_init_61 : decode cX10_init 61 = .ok (.putfield 35, 3) := dk_181 0 35 (dk_at dksX10_init_2 13 rfl rfl)
theorem dX10_init_64 : decode cX10_init 64 = .ok (.return_, 1) := dk_177 (dk_at dksX10_init_2 16 rfl rfl)
abbrev cX10_read : ByteArray := prog_14_method_2_code
def yX10_read : MethodName := ⟨RX10, "read", "()LCombTable$Cond;"⟩
def dkwX10_read_1 : List UInt8 := [167, 0, 4, 3, 4, 182, 0, 53, 43, 176]
abbrev dktX10_read_1 : List UInt8 := dkwX10_read_1 ++ []
def dkwX10_read_0 : List UInt8 := [42, 3, 181, 0, 38, 42, 182, 0, 42, 42, 4, 182, 0, 46, 76, 42, 42, 180, 0, 50, 154, 0, 7, 4]
abbrev dktX10_read_0 : List UInt8 := dkwX10_read_0 ++ dktX10_read_1
theorem dksX10_read_0 : cX10_read.data.toList.drop 0 = dktX10_read_0 := by decide +kernel
theorem dksX10_read_1 : cX10_read.data.toList.drop 24 = dktX10_read_1 := dk_seg dksX10_read_0 24 rfl rfl
theorem dX10_read_0 : decode cX10_read 0 = .ok (.aload_n 0, 1) := dk_42 (dk_at dksX10_read_0 0 rfl rfl)
theorem dX10_read_1 : decode cX10_read 1 = .ok (.iconst 0, 1) := dk_3 (dk_at dksX10_read_0 1 rfl rfl)
theorem dX10_read_2 : decode cX10_read 2 = .ok (.putfield 38, 3) := dk_181 0 38 (dk_at dksX10_read_0 2 rfl rfl)
theorem dX10_read_5 : decode cX10_read 5 = .ok (.aload_n 0, 1) := dk_42 (dk_at dksX10_read_0 5 rfl rfl)
theorem dX10_read_6 : decode cX10_read 6 = .ok (.invokevirtual 42, 3) := dk_182 0 42 (dk_at dksX10_read_0 6 rfl rfl)
theorem dX10_read_9 : decode cX10_read 9 = .ok (.aload_n 0, 1) := dk_42 (dk_at dksX10_read_0 9 rfl rfl)
theorem dX10_read_10 : decode cX10_read 10 = .ok (.iconst 1, 1) := dk_4 (dk_at dksX10_read_0 10 rfl rfl)
theorem dX10_read_11 : decode cX10_read 11 = .ok (.invokevirtual 46, 3) := dk_182 0 46 (dk_at dksX10_read_0 11 rfl rfl)
theorem dX10_read_14 : decode cX10_read 14 = .ok (.astore_n 1, 1) := dk_76 (dk_at dksX10_read_0 14 rfl rfl)
theorem dX10_read_15 : decode cX10_read 15 = .ok (.aload_n 0, 1) := dk_42 (dk_at dksX10_read_0 15 rfl rfl)
theorem dX10_read_16 : decode cX10_read 16 = .ok (.aload_n 0, 1) := dk_42 (dk_at dksX10_read_0 16 rfl rfl)
theorem dX10_read_17 : decode cX10_read 17 = .ok (.getfield 50, 3) := dk_180 0 50 (dk_at dksX10_read_0 17 rfl rfl)
theorem dX10_read_20 : decode cX10_read 20 = .ok (.ifCond .ne 7, 3) := dk_154 0 7 (dk_at dksX10_read_0 20 rfl rfl)
theorem dX10_read_23 : decode cX10_read 23 = .ok (.iconst 1, 1) := dk_4 (dk_at dksX10_read_0 23 rfl rfl)
theorem dX10_read_24 : decode cX10_read 24 = .ok (.goto 4, 3) := dk_167 0 4 (dk_at dksX10_read_1 0 rfl rfl)
theorem dX10_read_27 : decode cX10_read 27 = .ok (.iconst 0, 1) := dk_3 (dk_at dksX10_read_1 3 rfl rfl)
theorem dX10_read_28 : decode cX10_read 28 = .ok (.iconst 1, 1) := dk_4 (dk_at dksX10_read_1 4 rfl rfl)
theorem dX10_read_29 : decode cX10_read 29 = .ok (.invokevirtual 53, 3) := dk_182 0 53 (dk_at dksX10_read_1 5 rfl rfl)
theorem dX10_read_32 : decode cX10_read 32 = .ok (.aload_n 1, 1) := dk_43 (dk_at dksX10_read_1 8 rfl rfl)
theorem dX10_read_33 : decode cX10_read 33 = .ok (.areturn, 1) := dk_176 (dk_at dksX10_read_1 9 rfl rfl)
abbrev cX10_any : ByteArray := prog_14_method_3_code
def yX10_any : MethodName := ⟨RX10, "any", "(I)LCombTable$Cond;"⟩
def dkwX10_any_1 : List UInt8 := [42, 27, 182, 0, 57, 183, 0, 70, 77, 167, 255, 229, 44, 176]
abbrev dktX10_any_1 : List UInt8 := dkwX10_any_1 ++ []
def dkwX10_any_0 : List UInt8 := [42, 27, 182, 0, 57, 77, 42, 18, 60, 182, 0, 62, 153, 0, 24, 42, 182, 0, 65, 187, 0, 68, 89, 44]
abbrev dktX10_any_0 : List UInt8 := dkwX10_any_0 ++ dktX10_any_1
theorem dksX10_any_0 : cX10_any.data.toList.drop 0 = dktX10_any_0 := by decide +kernel
theorem dksX10_any_1 : cX10_any.data.toList.drop 24 = dktX10_any_1 := dk_seg dksX10_any_0 24 rfl rfl
theorem dX10_any_0 : decode cX10_any 0 = .ok (.aload_n 0, 1) := dk_42 (dk_at dksX10_any_0 0 rfl rfl)
theorem dX10_any_1 : decode cX10_any 1 = .ok (.iload_n 1, 1) := dk_27 (dk_at dksX10_any_0 1 rfl rfl)
theorem dX10_any_2 : decode cX10_any 2 = .ok (.invokevirtual 57, 3) := dk_182 0 57 (dk_at dksX10_any_0 2 rfl rfl)
theorem dX10_any_5 : decode cX10_any 5 = .ok (.astore_n 2, 1) := dk_77 (dk_at dksX10_any_0 5 rfl rfl)
theorem dX10_any_6 : decode cX10_any 6 = .ok (.aload_n 0, 1) := dk_42 (dk_at dksX10_any_0 6 rfl rfl)
theorem dX10_any_7 : decode cX10_any 7 = .ok (.ldc 60, 2) := dk_18 60 (dk_at dksX10_any_0 7 rfl rfl)
theorem dX10_any_9 : decode cX10_any 9 = .ok (.invokevirtual 62, 3) := dk_182 0 62 (dk_at dksX10_any_0 9 rfl rfl)
theorem dX10_any_12 : decode cX10_any 12 = .ok (.ifCond .eq 24, 3) := dk_153 0 24 (dk_at dksX10_any_0 12 rfl rfl)
theorem dX10_any_15 : decode cX10_any 15 = .ok (.aload_n 0, 1) := dk_42 (dk_at dksX10_any_0 15 rfl rfl)
theorem dX10_any_16 : decode cX10_any 16 = .ok (.invokevirtual 65, 3) := dk_182 0 65 (dk_at dksX10_any_0 16 rfl rfl)
theorem dX10_any_19 : decode cX10_any 19 = .ok (.new 68, 3) := dk_187 0 68 (dk_at dksX10_any_0 19 rfl rfl)
theorem dX10_any_22 : decode cX10_any 22 = .ok (.dup, 1) := dk_89 (dk_at dksX10_any_0 22 rfl rfl)
theorem dX10_any_23 : decode cX10_any 23 = .ok (.aload_n 2, 1) := dk_44 (dk_at dksX10_any_0 23 rfl rfl)
theorem dX10_any_24 : decode cX10_any 24 = .ok (.aload_n 0, 1) := dk_42 (dk_at dksX10_any_1 0 rfl rfl)
theorem dX10_any_25 : decode cX10_any 25 = .ok (.iload_n 1, 1) := dk_27 (dk_at dksX10_any_1 1 rfl rfl)
theorem dX10_any_26 : decode cX10_any 26 = .ok (.invokevirtual 57, 3) := dk_182 0 57 (dk_at dksX10_any_1 2 rfl rfl)
theorem dX10_any_29 : decode cX10_any 29 = .ok (.invokespecial 70, 3) := dk_183 0 70 (dk_at dksX10_any_1 5 rfl rfl)
theorem dX10_any_32 : decode cX10_any 32 = .ok (.astore_n 2, 1) := dk_77 (dk_at dksX10_any_1 8 rfl rfl)
theorem dX10_any_33 : decode cX10_any 33 = .ok (.goto (-27), 3) := dk_167 255 229 (dk_at dksX10_any_1 9 rfl rfl)
theorem dX10_any_36 : decode cX10_any 36 = .ok (.aload_n 2, 1) := dk_44 (dk_at dksX10_any_1 12 rfl rfl)
theorem dX10_any_37 : decode cX10_any 37 = .ok (.areturn, 1) := dk_176 (dk_at dksX10_any_1 13 rfl rfl)
abbrev cX10_both : ByteArray := prog_14_method_4_code
def yX10_both : MethodName := ⟨RX10, "both", "(I)LCombTable$Cond;"⟩
def dkwX10_both_1 : List UInt8 := [42, 27, 182, 0, 73, 183, 0, 80, 77, 167, 255, 229, 44, 176]
abbrev dktX10_both_1 : List UInt8 := dkwX10_both_1 ++ []
def dkwX10_both_0 : List UInt8 := [42, 27, 182, 0, 73, 77, 42, 18, 76, 182, 0, 62, 153, 0, 24, 42, 182, 0, 65, 187, 0, 78, 89, 44]
abbrev dktX10_both_0 : List UInt8 := dkwX10_both_0 ++ dktX10_both_1
theorem dksX10_both_0 : cX10_both.data.toList.drop 0 = dktX10_both_0 := by decide +kernel
theorem dksX10_both_1 : cX10_both.data.toList.drop 24 = dktX10_both_1 := dk_seg dksX10_both_0 24 rfl rfl
theorem dX10_both_0 : decode cX10_both 0 = .ok (.aload_n 0, 1) := dk_42 (dk_at dksX10_both_0 0 rfl rfl)
theorem dX10_both_1 : decode cX10_both 1 = .ok (.iload_n 1, 1) := dk_27 (dk_at dksX10_both_0 1 rfl rfl)
theorem dX10_both_2 : decode cX10_both 2 = .ok (.invokevirtual 73, 3) := dk_182 0 73 (dk_at dksX10_both_0 2 rfl rfl)
theorem dX10_both_5 : decode cX10_both 5 = .ok (.astore_n 2, 1) := dk_77 (dk_at dksX10_both_0 5 rfl rfl)
theorem dX10_both_6 : decode cX10_both 6 = .ok (.aload_n 0, 1) := dk_42 (dk_at dksX10_both_0 6 rfl rfl)
theorem dX10_both_7 : decode cX10_both 7 = .ok (.ldc 76, 2) := dk_18 76 (dk_at dksX10_both_0 7 rfl rfl)
theorem dX10_both_9 : decode cX10_both 9 = .ok (.invokevirtual 62, 3) := dk_182 0 62 (dk_at dksX10_both_0 9 rfl rfl)
theorem dX10_both_12 : decode cX10_both 12 = .ok (.ifCond .eq 24, 3) := dk_153 0 24 (dk_at dksX10_both_0 12 rfl rfl)
theorem dX10_both_15 : decode cX10_both 15 = .ok (.aload_n 0, 1) := dk_42 (dk_at dksX10_both_0 15 rfl rfl)
theorem dX10_both_16 : decode cX10_both 16 = .ok (.invokevirtual 65, 3) := dk_182 0 65 (dk_at dksX10_both_0 16 rfl rfl)
theorem dX10_both_19 : decode cX10_both 19 = .ok (.new 78, 3) := dk_187 0 78 (dk_at dksX10_both_0 19 rfl rfl)
theorem dX10_both_22 : decode cX10_both 22 = .ok (.dup, 1) := dk_89 (dk_at dksX10_both_0 22 rfl rfl)
theorem dX10_both_23 : decode cX10_both 23 = .ok (.aload_n 2, 1) := dk_44 (dk_at dksX10_both_0 23 rfl rfl)
theorem dX10_both_24 : decode cX10_both 24 = .ok (.aload_n 0, 1) := dk_42 (dk_at dksX10_both_1 0 rfl rfl)
theorem dX10_both_25 : decode cX10_both 25 = .ok (.iload_n 1, 1) := dk_27 (dk_at dksX10_both_1 1 rfl rfl)
theorem dX10_both_26 : decode cX10_both 26 = .ok (.invokevirtual 73, 3) := dk_182 0 73 (dk_at dksX10_both_1 2 rfl rfl)
theorem dX10_both_29 : decode cX10_both 29 = .ok (.invokespecial 80, 3) := dk_183 0 80 (dk_at dksX10_both_1 5 rfl rfl)
theorem dX10_both_32 : decode cX10_both 32 = .ok (.astore_n 2, 1) := dk_77 (dk_at dksX10_both_1 8 rfl rfl)
theorem dX10_both_33 : decode cX10_both 33 = .ok (.goto (-27), 3) := dk_167 255 229 (dk_at dksX10_both_1 9 rfl rfl)
theorem dX10_both_36 : decode cX10_both 36 = .ok (.aload_n 2, 1) := dk_44 (dk_at dksX10_both_1 12 rfl rfl)
theorem dX10_both_37 : decode cX10_both 37 = .ok (.areturn, 1) := dk_176 (dk_at dksX10_both_1 13 rfl rfl)
abbrev cX10_single : ByteArray := prog_14_method_5_code
def yX10_single : MethodName := ⟨RX10, "single", "(I)LCombTable$Cond;"⟩
def dkwX10_single_13 : List UInt8 := [187, 0, 137, 89, 21, 5, 21, 6, 21, 7, 183, 0, 139, 176]
abbrev dktX10_single_13 : List UInt8 := dkwX10_single_13 ++ []
def dkwX10_single_12 : List UInt8 := [5, 160, 0, 7, 4, 167, 0, 4, 3, 4, 182, 0, 53, 42, 180, 0, 134, 54, 7, 42, 182, 0, 65]
abbrev dktX10_single_12 : List UInt8 := dkwX10_single_12 ++ dktX10_single_13
def dkwX10_single_11 : List UInt8 := [4, 167, 0, 4, 3, 4, 182, 0, 53, 42, 180, 0, 134, 54, 6, 42, 182, 0, 65, 42, 42, 180, 0, 50]
abbrev dktX10_single_11 : List UInt8 := dkwX10_single_11 ++ dktX10_single_12
def dkwX10_single_10 : List UInt8 := [182, 0, 83, 154, 0, 21, 42, 16, 61, 182, 0, 83, 154, 0, 12, 42, 16, 62, 182, 0, 83, 153, 0, 7]
abbrev dktX10_single_10 : List UInt8 := dkwX10_single_10 ++ dktX10_single_11
def dkwX10_single_9 : List UInt8 := [180, 0, 3, 180, 0, 101, 180, 0, 105, 180, 0, 128, 182, 0, 120, 183, 0, 131, 176, 42, 42, 16, 60]
abbrev dktX10_single_9 : List UInt8 := dkwX10_single_9 ++ dktX10_single_10
def dkwX10_single_8 : List UInt8 := [180, 0, 117, 182, 0, 120, 167, 0, 33, 42, 42, 180, 0, 3, 180, 0, 101, 180, 0, 105, 180, 0, 124, 42]
abbrev dktX10_single_8 : List UInt8 := dkwX10_single_8 ++ dktX10_single_9
def dkwX10_single_7 : List UInt8 := [42, 42, 180, 0, 3, 180, 0, 101, 180, 0, 105, 180, 0, 111, 42, 180, 0, 3, 180, 0, 101, 180, 0, 105]
abbrev dktX10_single_7 : List UInt8 := dkwX10_single_7 ++ dktX10_single_8
def dkwX10_single_6 : List UInt8 := [182, 0, 95, 25, 6, 176, 21, 4, 2, 159, 0, 82, 187, 0, 99, 89, 21, 4, 21, 4, 5, 160, 0, 36]
abbrev dktX10_single_6 : List UInt8 := dkwX10_single_6 ++ dktX10_single_7
def dkwX10_single_5 : List UInt8 := [182, 0, 73, 183, 0, 92, 176, 29, 153, 0, 21, 42, 27, 4, 96, 182, 0, 46, 58, 6, 42, 16, 41]
abbrev dktX10_single_5 : List UInt8 := dkwX10_single_5 ++ dktX10_single_6
def dkwX10_single_4 : List UInt8 := [180, 0, 38, 4, 96, 181, 0, 38, 42, 182, 0, 65, 28, 153, 0, 18, 187, 0, 90, 89, 42, 27, 4, 96]
abbrev dktX10_single_4 : List UInt8 := dkwX10_single_4 ++ dktX10_single_5
def dkwX10_single_3 : List UInt8 := [16, 20, 162, 0, 13, 27, 16, 8, 163, 0, 7, 4, 167, 0, 4, 3, 7, 182, 0, 53, 42, 89]
abbrev dktX10_single_3 : List UInt8 := dkwX10_single_3 ++ dktX10_single_4
def dkwX10_single_2 : List UInt8 := [160, 0, 9, 21, 5, 2, 159, 0, 7, 4, 167, 0, 4, 3, 4, 182, 0, 53, 42, 42, 180, 0, 38]
abbrev dktX10_single_2 : List UInt8 := dkwX10_single_2 ++ dktX10_single_3
def dkwX10_single_1 : List UInt8 := [42, 42, 180, 0, 35, 182, 0, 86, 54, 5, 42, 28, 154, 0, 19, 29, 154, 0, 15, 21, 4, 2]
abbrev dktX10_single_1 : List UInt8 := dkwX10_single_1 ++ dktX10_single_2
def dkwX10_single_0 : List UInt8 := [42, 18, 81, 182, 0, 62, 61, 42, 16, 40, 182, 0, 83, 62, 42, 42, 180, 0, 23, 182, 0, 86, 54, 4]
abbrev dktX10_single_0 : List UInt8 := dkwX10_single_0 ++ dktX10_single_1
theorem dksX10_single_0 : cX10_single.data.toList.drop 0 = dktX10_single_0 := by decide +kernel
theorem dksX10_single_1 : cX10_single.data.toList.drop 24 = dktX10_single_1 := dk_seg dksX10_single_0 24 rfl rfl
theorem dksX10_single_2 : cX10_single.data.toList.drop 46 = dktX10_single_2 := dk_seg dksX10_single_1 22 rfl rfl
theorem dksX10_single_3 : cX10_single.data.toList.drop 69 = dktX10_single_3 := dk_seg dksX10_single_2 23 rfl rfl
theorem dksX10_single_4 : cX10_single.data.toList.drop 91 = dktX10_single_4 := dk_seg dksX10_single_3 22 rfl rfl
theorem dksX10_single_5 : cX10_single.data.toList.drop 115 = dktX10_single_5 := dk_seg dksX10_single_4 24 rfl rfl
theorem dksX10_single_6 : cX10_single.data.toList.drop 138 = dktX10_single_6 := dk_seg dksX10_single_5 23 rfl rfl
theorem dksX10_single_7 : cX10_single.data.toList.drop 162 = dktX10_single_7 := dk_seg dksX10_single_6 24 rfl rfl
theorem dksX10_single_8 : cX10_single.data.toList.drop 186 = dktX10_single_8 := dk_seg dksX10_single_7 24 rfl rfl
theorem dksX10_single_9 : cX10_single.data.toList.drop 210 = dktX10_single_9 := dk_seg dksX10_single_8 24 rfl rfl
theorem dksX10_single_10 : cX10_single.data.toList.drop 233 = dktX10_single_10 := dk_seg dksX10_single_9 23 rfl rfl
theorem dksX10_single_11 : cX10_single.data.toList.drop 257 = dktX10_single_11 := dk_seg dksX10_single_10 24 rfl rfl
theorem dksX10_single_12 : cX10_single.data.toList.drop 281 = dktX10_single_12 := dk_seg dksX10_single_11 24 rfl rfl
theorem dksX10_single_13 : cX10_single.data.toList.drop 304 = dktX10_single_13 := dk_seg dksX10_single_12 23 rfl rfl
theorem dX10_single_0 : decode cX10_single 0 = .ok (.aload_n 0, 1) := dk_42 (dk_at dksX10_single_0 0 rfl rfl)
theorem dX10_single_1 : decode cX10_single 1 = .ok (.ldc 81, 2) := dk_18 81 (dk_at dksX10_single_0 1 rfl rfl)
theorem dX10_single_3 : decode cX10_single 3 = .ok (.invokevirtual 62, 3) := dk_182 0 62 (dk_at dksX10_single_0 3 rfl rfl)
theorem dX10_single_6 : decode cX10_single 6 = .ok (.istore_n 2, 1) := dk_61 (dk_at dksX10_single_0 6 rfl rfl)
theorem dX10_single_7 : decode cX10_single 7 = .ok (.aload_n 0, 1) := dk_42 (dk_at dksX10_single_0 7 rfl rfl)
theorem dX10_single_8 : decode cX10_single 8 = .ok (.bipush 40, 2) := dk_16 40 (dk_at dksX10_single_0 8 rfl rfl)
theorem dX10_single_10 : decode cX10_single 10 = .ok (.invokevirtual 83, 3) := dk_182 0 83 (dk_at dksX10_single_0 10 rfl rfl)
theorem dX10_single_13 : decode cX10_single 13 = .ok (.istore_n 3, 1) := dk_62 (dk_at dksX10_single_0 13 rfl rfl)
theorem dX10_single_14 : decode cX10_single 14 = .ok (.aload_n 0, 1) := dk_42 (dk_at dksX10_single_0 14 rfl rfl)
theorem dX10_single_15 : decode cX10_single 15 = .ok (.aload_n 0, 1) := dk_42 (dk_at dksX10_single_0 15 rfl rfl)
theorem dX10_single_16 : decode cX10_single 16 = .ok (.getfield 23, 3) := dk_180 0 23 (dk_at dksX10_single_0 16 rfl rfl)
theorem dX10_single_19 : decode cX10_single 19 = .ok (.invokevirtual 86, 3) := dk_182 0 86 (dk_at dksX10_single_0 19 rfl rfl)
theorem dX10_single_22 : decode cX10_single 22 = .ok (.istore 4, 2) := dk_54 4 (dk_at dksX10_single_0 22 rfl rfl)
theorem dX10_single_24 : decode cX10_single 24 = .ok (.aload_n 0, 1) := dk_42 (dk_at dksX10_single_1 0 rfl rfl)
theorem dX10_single_25 : decode cX10_single 25 = .ok (.aload_n 0, 1) := dk_42 (dk_at dksX10_single_1 1 rfl rfl)
theorem dX10_single_26 : decode cX10_single 26 = .ok (.getfield 35, 3) := dk_180 0 35 (dk_at dksX10_single_1 2 rfl rfl)
theorem dX10_single_29 : decode cX10_single 29 = .ok (.invokevirtual 86, 3) := dk_182 0 86 (dk_at dksX10_single_1 5 rfl rfl)
theorem dX10_single_32 : decode cX10_single 32 = .ok (.istore 5, 2) := dk_54 5 (dk_at dksX10_single_1 8 rfl rfl)
theorem dX10_single_34 : decode cX10_single 34 = .ok (.aload_n 0, 1) := dk_42 (dk_at dksX10_single_1 10 rfl rfl)
theorem dX10_single_35 : decode cX10_single 35 = .ok (.iload_n 2, 1) := dk_28 (dk_at dksX10_single_1 11 rfl rfl)
theorem dX10_single_36 : decode cX10_single 36 = .ok (.ifCond .ne 19, 3) := dk_154 0 19 (dk_at dksX10_single_1 12 rfl rfl)
theorem dX10_single_39 : decode cX10_single 39 = .ok (.iload_n 3, 1) := dk_29 (dk_at dksX10_single_1 15 rfl rfl)
theorem dX10_single_40 : decode cX10_single 40 = .ok (.ifCond .ne 15, 3) := dk_154 0 15 (dk_at dksX10_single_1 16 rfl rfl)
theorem dX10_single_43 : decode cX10_single 43 = .ok (.iload 4, 2) := dk_21 4 (dk_at dksX10_single_1 19 rfl rfl)
theorem dX10_single_45 : decode cX10_single 45 = .ok (.iconst (-1), 1) := dk_2 (dk_at dksX10_single_1 21 rfl rfl)
theorem dX10_single_46 : decode cX10_single 46 = .ok (.if_icmp .ne 9, 3) := dk_160 0 9 (dk_at dksX10_single_2 0 rfl rfl)
theorem dX10_single_49 : decode cX10_single 49 = .ok (.iload 5, 2) := dk_21 5 (dk_at dksX10_single_2 3 rfl rfl)
theorem dX10_single_51 : decode cX10_single 51 = .ok (.iconst (-1), 1) := dk_2 (dk_at dksX10_single_2 5 rfl rfl)
theorem dX10_single_52 : decode cX10_single 52 = .ok (.if_icmp .eq 7, 3) := dk_159 0 7 (dk_at dksX10_single_2 6 rfl rfl)
theorem dX10_single_55 : decode cX10_single 55 = .ok (.iconst 1, 1) := dk_4 (dk_at dksX10_single_2 9 rfl rfl)
theorem dX10_single_56 : decode cX10_single 56 = .ok (.goto 4, 3) := dk_167 0 4 (dk_at dksX10_single_2 10 rfl rfl)
theorem dX10_single_59 : decode cX10_single 59 = .ok (.iconst 0, 1) := dk_3 (dk_at dksX10_single_2 13 rfl rfl)
theorem dX10_single_60 : decode cX10_single 60 = .ok (.iconst 1, 1) := dk_4 (dk_at dksX10_single_2 14 rfl rfl)
theorem dX10_single_61 : decode cX10_single 61 = .ok (.invokevirtual 53, 3) := dk_182 0 53 (dk_at dksX10_single_2 15 rfl rfl)
theorem dX10_single_64 : decode cX10_single 64 = .ok (.aload_n 0, 1) := dk_42 (dk_at dksX10_single_2 18 rfl rfl)
theorem dX10_single_65 : decode cX10_single 65 = .ok (.aload_n 0, 1) := dk_42 (dk_at dksX10_single_2 19 rfl rfl)
theorem dX10_single_66 : decode cX10_single 66 = .ok (.getfield 38, 3) := dk_180 0 38 (dk_at dksX10_single_2 20 rfl rfl)
theorem dX10_single_69 : decode cX10_single 69 = .ok (.bipush 20, 2) := dk_16 20 (dk_at dksX10_single_3 0 rfl rfl)
theorem dX10_single_71 : decode cX10_single 71 = .ok (.if_icmp .ge 13, 3) := dk_162 0 13 (dk_at dksX10_single_3 2 rfl rfl)
theorem dX10_single_74 : decode cX10_single 74 = .ok (.iload_n 1, 1) := dk_27 (dk_at dksX10_single_3 5 rfl rfl)
theorem dX10_single_75 : decode cX10_single 75 = .ok (.bipush 8, 2) := dk_16 8 (dk_at dksX10_single_3 6 rfl rfl)
theorem dX10_single_77 : decode cX10_single 77 = .ok (.if_icmp .gt 7, 3) := dk_163 0 7 (dk_at dksX10_single_3 8 rfl rfl)
theorem dX10_single_80 : decode cX10_single 80 = .ok (.iconst 1, 1) := dk_4 (dk_at dksX10_single_3 11 rfl rfl)
theorem dX10_single_81 : decode cX10_single 81 = .ok (.goto 4, 3) := dk_167 0 4 (dk_at dksX10_single_3 12 rfl rfl)
theorem dX10_single_84 : decode cX10_single 84 = .ok (.iconst 0, 1) := dk_3 (dk_at dksX10_single_3 15 rfl rfl)
theorem dX10_single_85 : decode cX10_single 85 = .ok (.iconst 4, 1) := dk_7 (dk_at dksX10_single_3 16 rfl rfl)
theorem dX10_single_86 : decode cX10_single 86 = .ok (.invokevirtual 53, 3) := dk_182 0 53 (dk_at dksX10_single_3 17 rfl rfl)
theorem dX10_single_89 : decode cX10_single 89 = .ok (.aload_n 0, 1) := dk_42 (dk_at dksX10_single_3 20 rfl rfl)
theorem dX10_single_90 : decode cX10_single 90 = .ok (.dup, 1) := dk_89 (dk_at dksX10_single_3 21 rfl rfl)
theorem dX10_single_91 : decode cX10_single 91 = .ok (.getfield 38, 3) := dk_180 0 38 (dk_at dksX10_single_4 0 rfl rfl)
theorem dX10_single_94 : decode cX10_single 94 = .ok (.iconst 1, 1) := dk_4 (dk_at dksX10_single_4 3 rfl rfl)
theorem dX10_single_95 : decode cX10_single 95 = .ok (.iadd, 1) := dk_96 (dk_at dksX10_single_4 4 rfl rfl)
theorem dX10_single_96 : decode cX10_single 96 = .ok (.putfield 38, 3) := dk_181 0 38 (dk_at dksX10_single_4 5 rfl rfl)
theorem dX10_single_99 : decode cX10_single 99 = .ok (.aload_n 0, 1) := dk_42 (dk_at dksX10_single_4 8 rfl rfl)
theorem dX10_single_100 : decode cX10_single 100 = .ok (.invokevirtual 65, 3) := dk_182 0 65 (dk_at dksX10_single_4 9 rfl rfl)
theorem dX10_single_103 : decode cX10_single 103 = .ok (.iload_n 2, 1) := dk_28 (dk_at dksX10_single_4 12 rfl rfl)
theorem dX10_single_104 : decode cX10_single 104 = .ok (.ifCond .eq 18, 3) := dk_153 0 18 (dk_at dksX10_single_4 13 rfl rfl)
theorem dX10_single_107 : decode cX10_single 107 = .ok (.new 90, 3) := dk_187 0 90 (dk_at dksX10_single_4 16 rfl rfl)
theorem dX10_single_110 : decode cX10_single 110 = .ok (.dup, 1) := dk_89 (dk_at dksX10_single_4 19 rfl rfl)
theorem dX10_single_111 : decode cX10_single 111 = .ok (.aload_n 0, 1) := dk_42 (dk_at dksX10_single_4 20 rfl rfl)
theorem dX10_single_112 : decode cX10_single 112 = .ok (.iload_n 1, 1) := dk_27 (dk_at dksX10_single_4 21 rfl rfl)
theorem dX10_single_113 : decode cX10_single 113 = .ok (.iconst 1, 1) := dk_4 (dk_at dksX10_single_4 22 rfl rfl)
theorem dX10_single_114 : decode cX10_single 114 = .ok (.iadd, 1) := dk_96 (dk_at dksX10_single_4 23 rfl rfl)
theorem dX10_single_115 : decode cX10_single 115 = .ok (.invokevirtual 73, 3) := dk_182 0 73 (dk_at dksX10_single_5 0 rfl rfl)
theorem dX10_single_118 : decode cX10_single 118 = .ok (.invokespecial 92, 3) := dk_183 0 92 (dk_at dksX10_single_5 3 rfl rfl)
theorem dX10_single_121 : decode cX10_single 121 = .ok (.areturn, 1) := dk_176 (dk_at dksX10_single_5 6 rfl rfl)
theorem dX10_single_122 : decode cX10_single 122 = .ok (.iload_n 3, 1) := dk_29 (dk_at dksX10_single_5 7 rfl rfl)
theorem dX10_single_123 : decode cX10_single 123 = .ok (.ifCond .eq 21, 3) := dk_153 0 21 (dk_at dksX10_single_5 8 rfl rfl)
theorem dX10_single_126 : decode cX10_single 126 = .ok (.aload_n 0, 1) := dk_42 (dk_at dksX10_single_5 11 rfl rfl)
theorem dX10_single_127 : decode cX10_single 127 = .ok (.iload_n 1, 1) := dk_27 (dk_at dksX10_single_5 12 rfl rfl)
theorem dX10_single_128 : decode cX10_single 128 = .ok (.iconst 1, 1) := dk_4 (dk_at dksX10_single_5 13 rfl rfl)
theorem dX10_single_129 : decode cX10_single 129 = .ok (.iadd, 1) := dk_96 (dk_at dksX10_single_5 14 rfl rfl)
theorem dX10_single_130 : decode cX10_single 130 = .ok (.invokevirtual 46, 3) := dk_182 0 46 (dk_at dksX10_single_5 15 rfl rfl)
theorem dX10_single_133 : decode cX10_single 133 = .ok (.astore 6, 2) := dk_58 6 (dk_at dksX10_single_5 18 rfl rfl)
theorem dX10_single_135 : decode cX10_single 135 = .ok (.aload_n 0, 1) := dk_42 (dk_at dksX10_single_5 20 rfl rfl)
theorem dX10_single_136 : decode cX10_single 136 = .ok (.bipush 41, 2) := dk_16 41 (dk_at dksX10_single_5 21 rfl rfl)
theorem dX10_single_138 : decode cX10_single 138 = .ok (.invokevirtual 95, 3) := dk_182 0 95 (dk_at dksX10_single_6 0 rfl rfl)
theorem dX10_single_141 : decode cX10_single 141 = .ok (.aload 6, 2) := dk_25 6 (dk_at dksX10_single_6 3 rfl rfl)
theorem dX10_single_143 : decode cX10_single 143 = .ok (.areturn, 1) := dk_176 (dk_at dksX10_single_6 5 rfl rfl)
theorem dX10_single_144 : decode cX10_single 144 = .ok (.iload 4, 2) := dk_21 4 (dk_at dksX10_single_6 6 rfl rfl)
theorem dX10_single_146 : decode cX10_single 146 = .ok (.iconst (-1), 1) := dk_2 (dk_at dksX10_single_6 8 rfl rfl)
theorem dX10_single_147 : decode cX10_single 147 = .ok (.if_icmp .eq 82, 3) := dk_159 0 82 (dk_at dksX10_single_6 9 rfl rfl)
theorem dX10_single_150 : decode cX10_single 150 = .ok (.new 99, 3) := dk_187 0 99 (dk_at dksX10_single_6 12 rfl rfl)
theorem dX10_single_153 : decode cX10_single 153 = .ok (.dup, 1) := dk_89 (dk_at dksX10_single_6 15 rfl rfl)
theorem dX10_single_154 : decode cX10_single 154 = .ok (.iload 4, 2) := dk_21 4 (dk_at dksX10_single_6 16 rfl rfl)
theorem dX10_single_156 : decode cX10_single 156 = .ok (.iload 4, 2) := dk_21 4 (dk_at dksX10_single_6 18 rfl rfl)
theorem dX10_single_158 : decode cX10_single 158 = .ok (.iconst 2, 1) := dk_5 (dk_at dksX10_single_6 20 rfl rfl)
theorem dX10_single_159 : decode cX10_single 159 = .ok (.if_icmp .ne 36, 3) := dk_160 0 36 (dk_at dksX10_single_6 21 rfl rfl)
theorem dX10_single_162 : decode cX10_single 162 = .ok (.aload_n 0, 1) := dk_42 (dk_at dksX10_single_7 0 rfl rfl)
theorem dX10_single_163 : decode cX10_single 163 = .ok (.aload_n 0, 1) := dk_42 (dk_at dksX10_single_7 1 rfl rfl)
theorem dX10_single_164 : decode cX10_single 164 = .ok (.getfield 3, 3) := dk_180 0 3 (dk_at dksX10_single_7 2 rfl rfl)
theorem dX10_single_167 : decode cX10_single 167 = .ok (.getfield 101, 3) := dk_180 0 101 (dk_at dksX10_single_7 5 rfl rfl)
theorem dX10_single_170 : decode cX10_single 170 = .ok (.getfield 105, 3) := dk_180 0 105 (dk_at dksX10_single_7 8 rfl rfl)
theorem dX10_single_173 : decode cX10_single 173 = .ok (.getfield 111, 3) := dk_180 0 111 (dk_at dksX10_single_7 11 rfl rfl)
theorem dX10_single_176 : decode cX10_single 176 = .ok (.aload_n 0, 1) := dk_42 (dk_at dksX10_single_7 14 rfl rfl)
theorem dX10_single_177 : decode cX10_single 177 = .ok (.getfield 3, 3) := dk_180 0 3 (dk_at dksX10_single_7 15 rfl rfl)
theorem dX10_single_180 : decode cX10_single 180 = .ok (.getfield 101, 3) := dk_180 0 101 (dk_at dksX10_single_7 18 rfl rfl)
theorem dX10_single_183 : decode cX10_single 183 = .ok (.getfield 105, 3) := dk_180 0 105 (dk_at dksX10_single_7 21 rfl rfl)
theorem dX10_single_186 : decode cX10_single 186 = .ok (.getfield 117, 3) := dk_180 0 117 (dk_at dksX10_single_8 0 rfl rfl)
theorem dX10_single_189 : decode cX10_single 189 = .ok (.invokevirtual 120, 3) := dk_182 0 120 (dk_at dksX10_single_8 3 rfl rfl)
theorem dX10_single_192 : decode cX10_single 192 = .ok (.goto 33, 3) := dk_167 0 33 (dk_at dksX10_single_8 6 rfl rfl)
theorem dX10_single_195 : decode cX10_single 195 = .ok (.aload_n 0, 1) := dk_42 (dk_at dksX10_single_8 9 rfl rfl)
theorem dX10_single_196 : decode cX10_single 196 = .ok (.aload_n 0, 1) := dk_42 (dk_at dksX10_single_8 10 rfl rfl)
theorem dX10_single_197 : decode cX10_single 197 = .ok (.getfield 3, 3) := dk_180 0 3 (dk_at dksX10_single_8 11 rfl rfl)
theorem dX10_single_200 : decode cX10_single 200 = .ok (.getfield 101, 3) := dk_180 0 101 (dk_at dksX10_single_8 14 rfl rfl)
theorem dX10_single_203 : decode cX10_single 203 = .ok (.getfield 105, 3) := dk_180 0 105 (dk_at dksX10_single_8 17 rfl rfl)
theorem dX10_single_206 : decode cX10_single 206 = .ok (.getfield 124, 3) := dk_180 0 124 (dk_at dksX10_single_8 20 rfl rfl)
theorem dX10_single_209 : decode cX10_single 209 = .ok (.aload_n 0, 1) := dk_42 (dk_at dksX10_single_8 23 rfl rfl)
theorem dX10_single_210 : decode cX10_single 210 = .ok (.getfield 3, 3) := dk_180 0 3 (dk_at dksX10_single_9 0 rfl rfl)
theorem dX10_single_213 : decode cX10_single 213 = .ok (.getfield 101, 3) := dk_180 0 101 (dk_at dksX10_single_9 3 rfl rfl)
theorem dX10_single_216 : decode cX10_single 216 = .ok (.getfield 105, 3) := dk_180 0 105 (dk_at dksX10_single_9 6 rfl rfl)
theorem dX10_single_219 : decode cX10_single 219 = .ok (.getfield 128, 3) := dk_180 0 128 (dk_at dksX10_single_9 9 rfl rfl)
theorem dX10_single_222 : decode cX10_single 222 = .ok (.invokevirtual 120, 3) := dk_182 0 120 (dk_at dksX10_single_9 12 rfl rfl)
theorem dX10_single_225 : decode cX10_single 225 = .ok (.invokespecial 131, 3) := dk_183 0 131 (dk_at dksX10_single_9 15 rfl rfl)
theorem dX10_single_228 : decode cX10_single 228 = .ok (.areturn, 1) := dk_176 (dk_at dksX10_single_9 18 rfl rfl)
theorem dX10_single_229 : decode cX10_single 229 = .ok (.aload_n 0, 1) := dk_42 (dk_at dksX10_single_9 19 rfl rfl)
theorem dX10_single_230 : decode cX10_single 230 = .ok (.aload_n 0, 1) := dk_42 (dk_at dksX10_single_9 20 rfl rfl)
theorem dX10_single_231 : decode cX10_single 231 = .ok (.bipush 60, 2) := dk_16 60 (dk_at dksX10_single_9 21 rfl rfl)
theorem dX10_single_233 : decode cX10_single 233 = .ok (.invokevirtual 83, 3) := dk_182 0 83 (dk_at dksX10_single_10 0 rfl rfl)
theorem dX10_single_236 : decode cX10_single 236 = .ok (.ifCond .ne 21, 3) := dk_154 0 21 (dk_at dksX10_single_10 3 rfl rfl)
theorem dX10_single_239 : decode cX10_single 239 = .ok (.aload_n 0, 1) := dk_42 (dk_at dksX10_single_10 6 rfl rfl)
theorem dX10_single_240 : decode cX10_single 240 = .ok (.bipush 61, 2) := dk_16 61 (dk_at dksX10_single_10 7 rfl rfl)
theorem dX10_single_242 : decode cX10_single 242 = .ok (.invokevirtual 83, 3) := dk_182 0 83 (dk_at dksX10_single_10 9 rfl rfl)
theorem dX10_single_245 : decode cX10_single 245 = .ok (.ifCond .ne 12, 3) := dk_154 0 12 (dk_at dksX10_single_10 12 rfl rfl)
theorem dX10_single_248 : decode cX10_single 248 = .ok (.aload_n 0, 1) := dk_42 (dk_at dksX10_single_10 15 rfl rfl)
theorem dX10_single_249 : decode cX10_single 249 = .ok (.bipush 62, 2) := dk_16 62 (dk_at dksX10_single_10 16 rfl rfl)
theorem dX10_single_251 : decode cX10_single 251 = .ok (.invokevirtual 83, 3) := dk_182 0 83 (dk_at dksX10_single_10 18 rfl rfl)
theorem dX10_single_254 : decode cX10_single 254 = .ok (.ifCond .eq 7, 3) := dk_153 0 7 (dk_at dksX10_single_10 21 rfl rfl)
theorem dX10_single_257 : decode cX10_single 257 = .ok (.iconst 1, 1) := dk_4 (dk_at dksX10_single_11 0 rfl rfl)
theorem dX10_single_258 : decode cX10_single 258 = .ok (.goto 4, 3) := dk_167 0 4 (dk_at dksX10_single_11 1 rfl rfl)
theorem dX10_single_261 : decode cX10_single 261 = .ok (.iconst 0, 1) := dk_3 (dk_at dksX10_single_11 4 rfl rfl)
theorem dX10_single_262 : decode cX10_single 262 = .ok (.iconst 1, 1) := dk_4 (dk_at dksX10_single_11 5 rfl rfl)
theorem dX10_single_263 : decode cX10_single 263 = .ok (.invokevirtual 53, 3) := dk_182 0 53 (dk_at dksX10_single_11 6 rfl rfl)
theorem dX10_single_266 : decode cX10_single 266 = .ok (.aload_n 0, 1) := dk_42 (dk_at dksX10_single_11 9 rfl rfl)
theorem dX10_single_267 : decode cX10_single 267 = .ok (.getfield 134, 3) := dk_180 0 134 (dk_at dksX10_single_11 10 rfl rfl)
theorem dX10_single_270 : decode cX10_single 270 = .ok (.istore 6, 2) := dk_54 6 (dk_at dksX10_single_11 13 rfl rfl)
theorem dX10_single_272 : decode cX10_single 272 = .ok (.aload_n 0, 1) := dk_42 (dk_at dksX10_single_11 15 rfl rfl)
theorem dX10_single_273 : decode cX10_single 273 = .ok (.invokevirtual 65, 3) := dk_182 0 65 (dk_at dksX10_single_11 16 rfl rfl)
theorem dX10_single_276 : decode cX10_single 276 = .ok (.aload_n 0, 1) := dk_42 (dk_at dksX10_single_11 19 rfl rfl)
theorem dX10_single_277 : decode cX10_single 277 = .ok (.aload_n 0, 1) := dk_42 (dk_at dksX10_single_11 20 rfl rfl)
theorem dX10_single_278 : decode cX10_single 278 = .ok (.getfield 50, 3) := dk_180 0 50 (dk_at dksX10_single_11 21 rfl rfl)
theorem dX10_single_281 : decode cX10_single 281 = .ok (.iconst 2, 1) := dk_5 (dk_at dksX10_single_12 0 rfl rfl)
theorem dX10_single_282 : decode cX10_single 282 = .ok (.if_icmp .ne 7, 3) := dk_160 0 7 (dk_at dksX10_single_12 1 rfl rfl)
theorem dX10_single_285 : decode cX10_single 285 = .ok (.iconst 1, 1) := dk_4 (dk_at dksX10_single_12 4 rfl rfl)
theorem dX10_single_286 : decode cX10_single 286 = .ok (.goto 4, 3) := dk_167 0 4 (dk_at dksX10_single_12 5 rfl rfl)
theorem dX10_single_289 : decode cX10_single 289 = .ok (.iconst 0, 1) := dk_3 (dk_at dksX10_single_12 8 rfl rfl)
theorem dX10_single_290 : decode cX10_single 290 = .ok (.iconst 1, 1) := dk_4 (dk_at dksX10_single_12 9 rfl rfl)
theorem dX10_single_291 : decode cX10_single 291 = .ok (.invokevirtual 53, 3) := dk_182 0 53 (dk_at dksX10_single_12 10 rfl rfl)
theorem dX10_single_294 : decode cX10_single 294 = .ok (.aload_n 0, 1) := dk_42 (dk_at dksX10_single_12 13 rfl rfl)
theorem dX10_single_295 : decode cX10_single 295 = .ok (.getfield 134, 3) := dk_180 0 134 (dk_at dksX10_single_12 14 rfl rfl)
theorem dX10_single_298 : decode cX10_single 298 = .ok (.istore 7, 2) := dk_54 7 (dk_at dksX10_single_12 17 rfl rfl)
theorem dX10_single_300 : decode cX10_single 300 = .ok (.aload_n 0, 1) := dk_42 (dk_at dksX10_single_12 19 rfl rfl)
theorem dX10_single_301 : decode cX10_single 301 = .ok (.invokevirtual 65, 3) := dk_182 0 65 (dk_at dksX10_single_12 20 rfl rfl)
theorem dX10_single_304 : decode cX10_single 304 = .ok (.new 137, 3) := dk_187 0 137 (dk_at dksX10_single_13 0 rfl rfl)
theorem dX10_single_307 : decode cX10_single 307 = .ok (.dup, 1) := dk_89 (dk_at dksX10_single_13 3 rfl rfl)
theorem dX10_single_308 : decode cX10_single 308 = .ok (.iload 5, 2) := dk_21 5 (dk_at dksX10_single_13 4 rfl rfl)
theorem dX10_single_310 : decode cX10_single 310 = .ok (.iload 6, 2) := dk_21 6 (dk_at dksX10_single_13 6 rfl rfl)
theorem dX10_single_312 : decode cX10_single 312 = .ok (.iload 7, 2) := dk_21 7 (dk_at dksX10_single_13 8 rfl rfl)
theorem dX10_single_314 : decode cX10_single 314 = .ok (.invokespecial 139, 3) := dk_183 0 139 (dk_at dksX10_single_13 10 rfl rfl)
theorem dX10_single_317 : decode cX10_single 317 = .ok (.areturn, 1) := dk_176 (dk_at dksX10_single_13 13 rfl rfl)
theorem q101 : (Jvm.Cond.initialized "CombTable$SentenceReader") ∈ lw_all := lw_g (lw_at lw_m1 12 rfl) rfl
theorem q245 : (Jvm.Cond.fieldLinkNest "CombTable$SentenceReader" (124 : Nat) "CombTable$Table" "people" "[LCombTable$Who;" "CombTable") ∈ lw_tbl := lw_at lw_m1 156 rfl
theorem q251 : (Jvm.Cond.fieldLinkNest "CombTable$SentenceReader" (111 : Nat) "CombTable$Table" "kinds" "[LCombTable$Kind;" "CombTable") ∈ lw_tbl := lw_at lw_m1 162 rfl
theorem q260 : (Jvm.Cond.fieldLinkNest "CombTable$SentenceReader" (128 : Nat) "CombTable$Table" "whoMany" "I" "CombTable") ∈ lw_tbl := lw_at lw_m1 171 rfl
theorem q266 : (Jvm.Cond.fieldLinkNest "CombTable$SentenceReader" (117 : Nat) "CombTable$Table" "kindMany" "I" "CombTable") ∈ lw_tbl := lw_at lw_m1 177 rfl
theorem q302 : (Jvm.Cond.fieldLinkNest "CombTable$SentenceReader" (105 : Nat) "CombTable$Talk" "table" "LCombTable$Table;" "CombTable") ∈ lw_tbl := lw_at lw_m1 213 rfl
theorem q392 : (Jvm.Cond.fieldLink "CombTable$SentenceReader" (50 : Nat) "CombTable$SentenceReader" "token" "I") ∈ lw_all := lw_g (lw_at lw_m2 63 rfl) rfl
theorem q393 : (Jvm.Cond.sameField "CombTable$SentenceReader" "CombTable$Reader" "token" "I") ∈ lw_all := lw_g (lw_at lw_m2 64 rfl) rfl
theorem q395 : (Jvm.Cond.fieldLink "CombTable$SentenceReader" (134 : Nat) "CombTable$SentenceReader" "value" "I") ∈ lw_all := lw_g (lw_at lw_m2 66 rfl) rfl
theorem q396 : (Jvm.Cond.sameField "CombTable$SentenceReader" "CombTable$Reader" "value" "I") ∈ lw_all := lw_g (lw_at lw_m2 67 rfl) rfl
theorem q470 : (Jvm.Cond.instantiable "CombTable$SentenceReader" (12 : Nat)) ∈ lw_all := lw_g (lw_at lw_m2 141 rfl) rfl
theorem q472 : (Jvm.Cond.instanceMethod ({ cls := "CombTable$SentenceReader", name := "<init>", desc := "(LCombTable;)V" } : Jvm.MethodName)) ∈ lw_all := lw_g (lw_at lw_m2 143 rfl) rfl
theorem q473 : (Jvm.Cond.code ({ cls := "CombTable$SentenceReader", name := "<init>", desc := "(LCombTable;)V" } : Jvm.MethodName) prog_14_method_1_code (2 : Nat) (Option.none : Option Jvm.ClassFile.FieldType)) ∈ lw_all := lw_g (lw_at lw_m2 144 rfl) rfl
theorem q474 : (Jvm.Cond.methodLink "CombTable$SentenceReader" (9 : Nat) ({ cls := "CombTable$Reader", name := "<init>", desc := "(LCombTable;I)V" } : Jvm.MethodName)) ∈ lw_all := lw_g (lw_at lw_m2 145 rfl) rfl
theorem q475 : (Jvm.Cond.classLink "CombTable$SentenceReader" (15 : Nat) "java/lang/String") ∈ lw_all := lw_g (lw_at lw_m2 146 rfl) rfl
theorem q476 : (Jvm.Cond.stringRef "CombTable$SentenceReader" (17 : Nat) "by") ∈ lw_tbl := lw_at lw_m2 147 rfl
theorem q477 : (Jvm.Cond.stringRef "CombTable$SentenceReader" (19 : Nat) "to") ∈ lw_tbl := lw_at lw_m2 148 rfl
theorem q478 : (Jvm.Cond.stringRef "CombTable$SentenceReader" (21 : Nat) "is") ∈ lw_tbl := lw_at lw_m2 149 rfl
theorem q479 : (Jvm.Cond.stringRef "CombTable$SentenceReader" (27 : Nat) "place") ∈ lw_tbl := lw_at lw_m2 150 rfl
theorem q480 : (Jvm.Cond.stringRef "CombTable$SentenceReader" (29 : Nat) "thread") ∈ lw_tbl := lw_at lw_m2 151 rfl
theorem q481 : (Jvm.Cond.stringRef "CombTable$SentenceReader" (31 : Nat) "depth") ∈ lw_tbl := lw_at lw_m2 152 rfl
theorem q482 : (Jvm.Cond.stringRef "CombTable$SentenceReader" (33 : Nat) "state") ∈ lw_tbl := lw_at lw_m2 153 rfl
theorem q483 : (Jvm.Cond.fieldLink "CombTable$SentenceReader" (23 : Nat) "CombTable$SentenceReader" "haves" "[Ljava/lang/String;") ∈ lw_all := lw_g (lw_at lw_m2 154 rfl) rfl
theorem q484 : (Jvm.Cond.fieldLink "CombTable$SentenceReader" (35 : Nat) "CombTable$SentenceReader" "counts" "[Ljava/lang/String;") ∈ lw_all := lw_g (lw_at lw_m2 155 rfl) rfl
theorem q485 : (Jvm.Cond.fieldLink "CombTable$SentenceReader" (38 : Nat) "CombTable$SentenceReader" "ones" "I") ∈ lw_all := lw_g (lw_at lw_m2 156 rfl) rfl
theorem q487 : (Jvm.Cond.fieldLink "CombTable$SentenceReader" (3 : Nat) "CombTable$SentenceReader" "this$0" "LCombTable;") ∈ lw_all := lw_g (lw_at lw_m2 158 rfl) rfl
theorem q488 : (Jvm.Cond.laysFinal "CombTable$SentenceReader" "CombTable$SentenceReader" "haves" "[Ljava/lang/String;") ∈ lw_all := lw_g (lw_at lw_m2 159 rfl) rfl
theorem q489 : (Jvm.Cond.soleField "CombTable$SentenceReader" "haves") ∈ lw_all := lw_g (lw_at lw_m2 160 rfl) rfl
theorem q490 : (Jvm.Cond.laysFinal "CombTable$SentenceReader" "CombTable$SentenceReader" "counts" "[Ljava/lang/String;") ∈ lw_all := lw_g (lw_at lw_m2 161 rfl) rfl
theorem q491 : (Jvm.Cond.soleField "CombTable$SentenceReader" "counts") ∈ lw_all := lw_g (lw_at lw_m2 162 rfl) rfl
theorem q492 : (Jvm.Cond.lays "CombTable$SentenceReader" "CombTable$SentenceReader" "ones" "I") ∈ lw_all := lw_g (lw_at lw_m2 163 rfl) rfl
theorem q493 : (Jvm.Cond.soleField "CombTable$SentenceReader" "ones") ∈ lw_all := lw_g (lw_at lw_m2 164 rfl) rfl
theorem q494 : (Jvm.Cond.laysFinal "CombTable$SentenceReader" "CombTable$SentenceReader" "this$0" "LCombTable;") ∈ lw_all := lw_g (lw_at lw_m2 165 rfl) rfl
theorem q495 : (Jvm.Cond.soleField "CombTable$SentenceReader" "this$0") ∈ lw_all := lw_g (lw_at lw_m2 166 rfl) rfl
theorem q496 : (Jvm.Cond.laysFinal "CombTable$SentenceReader" "CombTable$Reader" "most" "I") ∈ lw_all := lw_g (lw_at lw_m2 167 rfl) rfl
theorem q497 : (Jvm.Cond.lays "CombTable$SentenceReader" "CombTable$Reader" "p" "I") ∈ lw_all := lw_g (lw_at lw_m2 168 rfl) rfl
theorem q498 : (Jvm.Cond.lays "CombTable$SentenceReader" "CombTable$Reader" "at" "I") ∈ lw_all := lw_g (lw_at lw_m2 169 rfl) rfl
theorem q499 : (Jvm.Cond.lays "CombTable$SentenceReader" "CombTable$Reader" "token" "I") ∈ lw_all := lw_g (lw_at lw_m2 170 rfl) rfl
theorem q500 : (Jvm.Cond.lays "CombTable$SentenceReader" "CombTable$Reader" "value" "I") ∈ lw_all := lw_g (lw_at lw_m2 171 rfl) rfl
theorem q501 : (Jvm.Cond.lays "CombTable$SentenceReader" "CombTable$Reader" "many" "I") ∈ lw_all := lw_g (lw_at lw_m2 172 rfl) rfl
theorem q502 : (Jvm.Cond.lays "CombTable$SentenceReader" "CombTable$Reader" "name" "J") ∈ lw_all := lw_g (lw_at lw_m2 173 rfl) rfl
theorem q503 : (Jvm.Cond.laysFinal "CombTable$SentenceReader" "CombTable$Reader" "this$0" "LCombTable;") ∈ lw_all := lw_g (lw_at lw_m2 174 rfl) rfl
theorem q504 : (Jvm.Cond.superclass "CombTable$SentenceReader" "CombTable$Reader") ∈ lw_all := lw_g (lw_at lw_m2 175 rfl) rfl
theorem q526 : (Jvm.Cond.fieldLinkNest "CombTable$SentenceReader" (101 : Nat) "CombTable" "now" "LCombTable$Talk;" "CombTable") ∈ lw_tbl := lw_at lw_m2 197 rfl
theorem q669 : (Jvm.Cond.selects "CombTable$SentenceReader" ({ cls := "CombTable$Reader", name := "next", desc := "()V" } : Jvm.MethodName) ({ cls := "CombTable$Reader", name := "next", desc := "()V" } : Jvm.MethodName)) ∈ lw_all := lw_g (lw_at lw_m3 100 rfl) rfl
theorem q702 : (Jvm.Cond.selects "CombTable$SentenceReader" ({ cls := "CombTable$Reader", name := "is", desc := "(Ljava/lang/String;)Z" } : Jvm.MethodName) ({ cls := "CombTable$Reader", name := "is", desc := "(Ljava/lang/String;)Z" } : Jvm.MethodName)) ∈ lw_all := lw_g (lw_at lw_m3 133 rfl) rfl
theorem q764 : (Jvm.Cond.selects "CombTable$SentenceReader" ({ cls := "CombTable$Reader", name := "wrong", desc := "(II)LCombTable$Fault;" } : Jvm.MethodName) ({ cls := "CombTable$Reader", name := "wrong", desc := "(II)LCombTable$Fault;" } : Jvm.MethodName)) ∈ lw_all := lw_g (lw_at lw_m3 195 rfl) rfl
theorem q882 : (Jvm.Cond.selects "CombTable$SentenceReader" ({ cls := "CombTable$Reader", name := "is", desc := "(I)Z" } : Jvm.MethodName) ({ cls := "CombTable$Reader", name := "is", desc := "(I)Z" } : Jvm.MethodName)) ∈ lw_all := lw_g (lw_at lw_m4 73 rfl) rfl
theorem q1214 : (Jvm.Cond.instanceMethod ({ cls := "CombTable$SentenceReader", name := "read", desc := "()LCombTable$Cond;" } : Jvm.MethodName)) ∈ lw_all := lw_g (lw_at lw_m5 165 rfl) rfl
theorem q1215 : (Jvm.Cond.selects "CombTable$SentenceReader" ({ cls := "CombTable$SentenceReader", name := "read", desc := "()LCombTable$Cond;" } : Jvm.MethodName) ({ cls := "CombTable$SentenceReader", name := "read", desc := "()LCombTable$Cond;" } : Jvm.MethodName)) ∈ lw_all := lw_g (lw_at lw_m5 166 rfl) rfl
theorem q1216 : (Jvm.Cond.code ({ cls := "CombTable$SentenceReader", name := "read", desc := "()LCombTable$Cond;" } : Jvm.MethodName) prog_14_method_2_code (2 : Nat) (Option.some (Jvm.ClassFile.FieldType.object "CombTable$Cond"))) ∈ lw_all := lw_g (lw_at lw_m5 167 rfl) rfl
theorem q1217 : (Jvm.Cond.methodLink "CombTable$SentenceReader" (42 : Nat) ({ cls := "CombTable$SentenceReader", name := "begin", desc := "()V" } : Jvm.MethodName)) ∈ lw_all := lw_g (lw_at lw_m5 168 rfl) rfl
theorem q1218 : (Jvm.Cond.sameMethod "CombTable$SentenceReader" "CombTable$Reader" "begin" "()V") ∈ lw_all := lw_g (lw_at lw_m5 169 rfl) rfl
theorem q1219 : (Jvm.Cond.selects "CombTable$SentenceReader" ({ cls := "CombTable$SentenceReader", name := "begin", desc := "()V" } : Jvm.MethodName) ({ cls := "CombTable$Reader", name := "begin", desc := "()V" } : Jvm.MethodName)) ∈ lw_all := lw_g (lw_at lw_m5 170 rfl) rfl
theorem q1220 : (Jvm.Cond.methodLink "CombTable$SentenceReader" (46 : Nat) ({ cls := "CombTable$SentenceReader", name := "any", desc := "(I)LCombTable$Cond;" } : Jvm.MethodName)) ∈ lw_all := lw_g (lw_at lw_m5 171 rfl) rfl
theorem q1221 : (Jvm.Cond.privateMethod ({ cls := "CombTable$SentenceReader", name := "any", desc := "(I)LCombTable$Cond;" } : Jvm.MethodName)) ∈ lw_tbl := lw_at lw_m5 172 rfl
theorem q1222 : (Jvm.Cond.instanceMethod ({ cls := "CombTable$SentenceReader", name := "any", desc := "(I)LCombTable$Cond;" } : Jvm.MethodName)) ∈ lw_all := lw_g (lw_at lw_m5 173 rfl) rfl
theorem q1223 : (Jvm.Cond.code ({ cls := "CombTable$SentenceReader", name := "any", desc := "(I)LCombTable$Cond;" } : Jvm.MethodName) prog_14_method_3_code (3 : Nat) (Option.some (Jvm.ClassFile.FieldType.object "CombTable$Cond"))) ∈ lw_all := lw_g (lw_at lw_m5 174 rfl) rfl
theorem q1224 : (Jvm.Cond.methodLink "CombTable$SentenceReader" (57 : Nat) ({ cls := "CombTable$SentenceReader", name := "both", desc := "(I)LCombTable$Cond;" } : Jvm.MethodName)) ∈ lw_all := lw_g (lw_at lw_m5 175 rfl) rfl
theorem q1225 : (Jvm.Cond.privateMethod ({ cls := "CombTable$SentenceReader", name := "both", desc := "(I)LCombTable$Cond;" } : Jvm.MethodName)) ∈ lw_tbl := lw_at lw_m5 176 rfl
theorem q1226 : (Jvm.Cond.instanceMethod ({ cls := "CombTable$SentenceReader", name := "both", desc := "(I)LCombTable$Cond;" } : Jvm.MethodName)) ∈ lw_all := lw_g (lw_at lw_m5 177 rfl) rfl
theorem q1227 : (Jvm.Cond.code ({ cls := "CombTable$SentenceReader", name := "both", desc := "(I)LCombTable$Cond;" } : Jvm.MethodName) prog_14_method_4_code (3 : Nat) (Option.some (Jvm.ClassFile.FieldType.object "CombTable$Cond"))) ∈ lw_all := lw_g (lw_at lw_m5 178 rfl) rfl
theorem q1228 : (Jvm.Cond.methodLink "CombTable$SentenceReader" (73 : Nat) ({ cls := "CombTable$SentenceReader", name := "single", desc := "(I)LCombTable$Cond;" } : Jvm.MethodName)) ∈ lw_all := lw_g (lw_at lw_m5 179 rfl) rfl
theorem q1229 : (Jvm.Cond.privateMethod ({ cls := "CombTable$SentenceReader", name := "single", desc := "(I)LCombTable$Cond;" } : Jvm.MethodName)) ∈ lw_tbl := lw_at lw_m5 180 rfl
theorem q1230 : (Jvm.Cond.instanceMethod ({ cls := "CombTable$SentenceReader", name := "single", desc := "(I)LCombTable$Cond;" } : Jvm.MethodName)) ∈ lw_all := lw_g (lw_at lw_m5 181 rfl) rfl
theorem q1231 : (Jvm.Cond.code ({ cls := "CombTable$SentenceReader", name := "single", desc := "(I)LCombTable$Cond;" } : Jvm.MethodName) prog_14_method_5_code (8 : Nat) (Option.some (Jvm.ClassFile.FieldType.object "CombTable$Cond"))) ∈ lw_all := lw_g (lw_at lw_m5 182 rfl) rfl
theorem q1232 : (Jvm.Cond.stringRef "CombTable$SentenceReader" (81 : Nat) "not") ∈ lw_tbl := lw_at lw_m5 183 rfl
theorem q1233 : (Jvm.Cond.methodLink "CombTable$SentenceReader" (62 : Nat) ({ cls := "CombTable$SentenceReader", name := "is", desc := "(Ljava/lang/String;)Z" } : Jvm.MethodName)) ∈ lw_all := lw_g (lw_at lw_m5 184 rfl) rfl
theorem q1234 : (Jvm.Cond.sameMethod "CombTable$SentenceReader" "CombTable$Reader" "is" "(Ljava/lang/String;)Z") ∈ lw_all := lw_g (lw_at lw_m5 185 rfl) rfl
theorem q1235 : (Jvm.Cond.selects "CombTable$SentenceReader" ({ cls := "CombTable$SentenceReader", name := "is", desc := "(Ljava/lang/String;)Z" } : Jvm.MethodName) ({ cls := "CombTable$Reader", name := "is", desc := "(Ljava/lang/String;)Z" } : Jvm.MethodName)) ∈ lw_all := lw_g (lw_at lw_m5 186 rfl) rfl
theorem q1236 : (Jvm.Cond.methodLink "CombTable$SentenceReader" (83 : Nat) ({ cls := "CombTable$SentenceReader", name := "is", desc := "(I)Z" } : Jvm.MethodName)) ∈ lw_all := lw_g (lw_at lw_m5 187 rfl) rfl
theorem q1237 : (Jvm.Cond.sameMethod "CombTable$SentenceReader" "CombTable$Reader" "is" "(I)Z") ∈ lw_all := lw_g (lw_at lw_m5 188 rfl) rfl
theorem q1239 : (Jvm.Cond.selects "CombTable$SentenceReader" ({ cls := "CombTable$SentenceReader", name := "is", desc := "(I)Z" } : Jvm.MethodName) ({ cls := "CombTable$Reader", name := "is", desc := "(I)Z" } : Jvm.MethodName)) ∈ lw_all := lw_g (lw_at lw_m5 190 rfl) rfl
theorem q1240 : (Jvm.Cond.methodLink "CombTable$SentenceReader" (86 : Nat) ({ cls := "CombTable$SentenceReader", name := "find", desc := "([Ljava/lang/String;)I" } : Jvm.MethodName)) ∈ lw_all := lw_g (lw_at lw_m5 191 rfl) rfl
theorem q1241 : (Jvm.Cond.sameMethod "CombTable$SentenceReader" "CombTable$Reader" "find" "([Ljava/lang/String;)I") ∈ lw_all := lw_g (lw_at lw_m5 192 rfl) rfl
theorem q1242 : (Jvm.Cond.selects "CombTable$SentenceReader" ({ cls := "CombTable$SentenceReader", name := "find", desc := "([Ljava/lang/String;)I" } : Jvm.MethodName) ({ cls := "CombTable$Reader", name := "find", desc := "([Ljava/lang/String;)I" } : Jvm.MethodName)) ∈ lw_all := lw_g (lw_at lw_m5 193 rfl) rfl
theorem q1243 : (Jvm.Cond.methodLink "CombTable$SentenceReader" (53 : Nat) ({ cls := "CombTable$SentenceReader", name := "must", desc := "(ZI)V" } : Jvm.MethodName)) ∈ lw_all := lw_g (lw_at lw_m5 194 rfl) rfl
theorem q1244 : (Jvm.Cond.sameMethod "CombTable$SentenceReader" "CombTable$Reader" "must" "(ZI)V") ∈ lw_all := lw_g (lw_at lw_m5 195 rfl) rfl
theorem q1245 : (Jvm.Cond.selects "CombTable$SentenceReader" ({ cls := "CombTable$SentenceReader", name := "must", desc := "(ZI)V" } : Jvm.MethodName) ({ cls := "CombTable$Reader", name := "must", desc := "(ZI)V" } : Jvm.MethodName)) ∈ lw_all := lw_g (lw_at lw_m5 196 rfl) rfl
theorem q1246 : (Jvm.Cond.methodLink "CombTable$SentenceReader" (65 : Nat) ({ cls := "CombTable$SentenceReader", name := "next", desc := "()V" } : Jvm.MethodName)) ∈ lw_all := lw_g (lw_at lw_m5 197 rfl) rfl
theorem q1247 : (Jvm.Cond.sameMethod "CombTable$SentenceReader" "CombTable$Reader" "next" "()V") ∈ lw_all := lw_g (lw_at lw_m5 198 rfl) rfl
theorem q1248 : (Jvm.Cond.selects "CombTable$SentenceReader" ({ cls := "CombTable$SentenceReader", name := "next", desc := "()V" } : Jvm.MethodName) ({ cls := "CombTable$Reader", name := "next", desc := "()V" } : Jvm.MethodName)) ∈ lw_all := lw_g (lw_at lw_m5 199 rfl) rfl
theorem q1249 : (Jvm.Cond.classLink "CombTable$SentenceReader" (90 : Nat) "CombTable$Not") ∈ lw_all := lw_g (lw_at lw_m5 200 rfl) rfl
theorem q1251 : (Jvm.Cond.methodLink "CombTable$SentenceReader" (92 : Nat) ({ cls := "CombTable$Not", name := "<init>", desc := "(LCombTable$Cond;)V" } : Jvm.MethodName)) ∈ lw_all := lw_g (lw_at lw_m5 202 rfl) rfl
theorem q1262 : (Jvm.Cond.methodLink "CombTable$SentenceReader" (95 : Nat) ({ cls := "CombTable$SentenceReader", name := "sign", desc := "(I)V" } : Jvm.MethodName)) ∈ lw_all := lw_g (lw_at lw_m5 213 rfl) rfl
theorem q1263 : (Jvm.Cond.sameMethod "CombTable$SentenceReader" "CombTable$Reader" "sign" "(I)V") ∈ lw_all := lw_g (lw_at lw_m5 214 rfl) rfl
theorem q1264 : (Jvm.Cond.selects "CombTable$SentenceReader" ({ cls := "CombTable$SentenceReader", name := "sign", desc := "(I)V" } : Jvm.MethodName) ({ cls := "CombTable$Reader", name := "sign", desc := "(I)V" } : Jvm.MethodName)) ∈ lw_all := lw_g (lw_at lw_m5 215 rfl) rfl
theorem q1265 : (Jvm.Cond.classLink "CombTable$SentenceReader" (99 : Nat) "CombTable$Has") ∈ lw_all := lw_g (lw_at lw_m5 216 rfl) rfl
theorem q1267 : (Jvm.Cond.methodLink "CombTable$SentenceReader" (120 : Nat) ({ cls := "CombTable$SentenceReader", name := "known", desc := "([LCombTable$Named;I)I" } : Jvm.MethodName)) ∈ lw_all := lw_g (lw_at lw_m5 218 rfl) rfl
theorem q1268 : (Jvm.Cond.sameMethod "CombTable$SentenceReader" "CombTable$Reader" "known" "([LCombTable$Named;I)I") ∈ lw_all := lw_g (lw_at lw_m5 219 rfl) rfl
theorem q1269 : (Jvm.Cond.selects "CombTable$SentenceReader" ({ cls := "CombTable$SentenceReader", name := "known", desc := "([LCombTable$Named;I)I" } : Jvm.MethodName) ({ cls := "CombTable$Reader", name := "known", desc := "([LCombTable$Named;I)I" } : Jvm.MethodName)) ∈ lw_all := lw_g (lw_at lw_m5 220 rfl) rfl
theorem q1270 : (Jvm.Cond.methodLink "CombTable$SentenceReader" (131 : Nat) ({ cls := "CombTable$Has", name := "<init>", desc := "(II)V" } : Jvm.MethodName)) ∈ lw_all := lw_g (lw_at lw_m5 221 rfl) rfl
theorem q1281 : (Jvm.Cond.classLink "CombTable$SentenceReader" (137 : Nat) "CombTable$Counts") ∈ lw_all := lw_g (lw_at lw_m5 232 rfl) rfl
theorem q1283 : (Jvm.Cond.methodLink "CombTable$SentenceReader" (139 : Nat) ({ cls := "CombTable$Counts", name := "<init>", desc := "(III)V" } : Jvm.MethodName)) ∈ lw_all := lw_g (lw_at lw_m5 234 rfl) rfl
theorem q1297 : (Jvm.Cond.stringRef "CombTable$SentenceReader" (76 : Nat) "and") ∈ lw_tbl := lw_at lw_m6 8 rfl
theorem q1298 : (Jvm.Cond.classLink "CombTable$SentenceReader" (78 : Nat) "CombTable$Both") ∈ lw_all := lw_g (lw_at lw_m6 9 rfl) rfl
theorem q1300 : (Jvm.Cond.methodLink "CombTable$SentenceReader" (80 : Nat) ({ cls := "CombTable$Both", name := "<init>", desc := "(LCombTable$Cond;LCombTable$Cond;)V" } : Jvm.MethodName)) ∈ lw_all := lw_g (lw_at lw_m6 11 rfl) rfl
theorem q1311 : (Jvm.Cond.stringRef "CombTable$SentenceReader" (60 : Nat) "or") ∈ lw_tbl := lw_at lw_m6 22 rfl
theorem q1312 : (Jvm.Cond.classLink "CombTable$SentenceReader" (68 : Nat) "CombTable$Any") ∈ lw_all := lw_g (lw_at lw_m6 23 rfl) rfl
theorem q1314 : (Jvm.Cond.methodLink "CombTable$SentenceReader" (70 : Nat) ({ cls := "CombTable$Any", name := "<init>", desc := "(LCombTable$Cond;LCombTable$Cond;)V" } : Jvm.MethodName)) ∈ lw_all := lw_g (lw_at lw_m6 25 rfl) rfl
theorem q2031 : (Jvm.Cond.selects "CombTable$SentenceReader" ({ cls := "CombTable$Reader", name := "find", desc := "([Ljava/lang/String;)I" } : Jvm.MethodName) ({ cls := "CombTable$Reader", name := "find", desc := "([Ljava/lang/String;)I" } : Jvm.MethodName)) ∈ lw_all := lw_g (lw_at lw_m9 22 rfl) rfl
theorem q2036 : (Jvm.Cond.selects "CombTable$SentenceReader" ({ cls := "CombTable$Reader", name := "must", desc := "(ZI)V" } : Jvm.MethodName) ({ cls := "CombTable$Reader", name := "must", desc := "(ZI)V" } : Jvm.MethodName)) ∈ lw_all := lw_g (lw_at lw_m9 27 rfl) rfl
theorem q2041 : (Jvm.Cond.selects "CombTable$SentenceReader" ({ cls := "CombTable$Reader", name := "isName", desc := "()Z" } : Jvm.MethodName) ({ cls := "CombTable$Reader", name := "isName", desc := "()Z" } : Jvm.MethodName)) ∈ lw_all := lw_g (lw_at lw_m9 32 rfl) rfl
theorem q2046 : (Jvm.Cond.selects "CombTable$SentenceReader" ({ cls := "CombTable$Reader", name := "of", desc := "([LCombTable$Named;I)I" } : Jvm.MethodName) ({ cls := "CombTable$Reader", name := "of", desc := "([LCombTable$Named;I)I" } : Jvm.MethodName)) ∈ lw_all := lw_g (lw_at lw_m9 37 rfl) rfl
theorem q2057 : (Jvm.Cond.castable "CombTable$SentenceReader" "java/lang/Object") ∈ lw_tbl := lw_at lw_m9 48 rfl
theorem in_X10 : ∀ w ∈ wsX100, w ∈ lw_all := lw_in wsX100 [496, 497, 498, 499, 500, 501, 502, 503, 488, 490, 492, 494] (by decide +kernel) (by decide +kernel)

/-! CombTable$Named -/
set_option maxRecDepth 100000
def RX12 : String := "CombTable$Named"
abbrev cX12_init : ByteArray := prog_11_method_1_code
def yX12_init : MethodName := ⟨RX12, "<init>", "(J)V"⟩
def dkwX12_init_0 : List UInt8 := [42, 183, 0, 1, 42, 31, 181, 0, 7, 177]
abbrev dktX12_init_0 : List UInt8 := dkwX12_init_0 ++ []
theorem dksX12_init_0 : cX12_init.data.toList.drop 0 = dktX12_init_0 := by decide +kernel
theorem dX12_init_0 : decode cX12_init 0 = .ok (.aload_n 0, 1) := dk_42 (dk_at dksX12_init_0 0 rfl rfl)
theorem dX12_init_1 : decode cX12_init 1 = .ok (.invokespecial 1, 3) := dk_183 0 1 (dk_at dksX12_init_0 1 rfl rfl)
theorem dX12_init_4 : decode cX12_init 4 = .ok (.aload_n 0, 1) := dk_42 (dk_at dksX12_init_0 4 rfl rfl)
theorem dX12_init_5 : decode cX12_init 5 = .ok (.lload_n 1, 1) := dk_31 (dk_at dksX12_init_0 5 rfl rfl)
theorem dX12_init_6 : decode cX12_init 6 = .ok (.putfield 7, 3) := dk_181 0 7 (dk_at dksX12_init_0 6 rfl rfl)
theorem dX12_init_9 : decode cX12_init 9 = .ok (.return_, 1) := dk_177 (dk_at dksX12_init_0 9 rfl rfl)
theorem q107 : (Jvm.Cond.initialized "CombTable$Named") ∈ lw_all := lw_g (lw_at lw_m1 18 rfl) rfl
theorem q806 : (Jvm.Cond.instanceMethod ({ cls := "CombTable$Named", name := "<init>", desc := "(J)V" } : Jvm.MethodName)) ∈ lw_all := lw_g (lw_at lw_m3 237 rfl) rfl
theorem q807 : (Jvm.Cond.code ({ cls := "CombTable$Named", name := "<init>", desc := "(J)V" } : Jvm.MethodName) prog_11_method_1_code (3 : Nat) (Option.none : Option Jvm.ClassFile.FieldType)) ∈ lw_all := lw_g (lw_at lw_m3 238 rfl) rfl
theorem q808 : (Jvm.Cond.methodLink "CombTable$Named" (1 : Nat) ({ cls := "java/lang/Object", name := "<init>", desc := "()V" } : Jvm.MethodName)) ∈ lw_all := lw_g (lw_at lw_m3 239 rfl) rfl
theorem q812 : (Jvm.Cond.fieldLink "CombTable$Named" (7 : Nat) "CombTable$Named" "name" "J") ∈ lw_all := lw_g (lw_at lw_m4 3 rfl) rfl
theorem q817 : (Jvm.Cond.soleField "CombTable$Named" "name") ∈ lw_all := lw_g (lw_at lw_m4 8 rfl) rfl

/-! CombTable$Who -/
set_option maxRecDepth 100000
def RX13 : String := "CombTable$Who"
def TX13 : u_T := fun k => match k with
  | 0 => ("CombTable$Named", "name", "J", true)
  | _ => ("CombTable$Who", "rank", "I", true)
def tyX13 : Nat → FieldType := fun k => match k with
  | 0 => .long
  | _ => .int
abbrev wsX130 : List Cond := u_ws RX13 TX13 2
theorem nmX13 : ∀ a, a < 2 → ∀ b, b < 2 → a ≠ b → (TX13 a).2.1 ≠ (TX13 b).2.1 := by decide +kernel
theorem tyX13_ok : ∀ k, k < 2 → parseFieldDescriptor (TX13 k).2.2.1 = some (tyX13 k) := by decide +kernel
abbrev cX13_init : ByteArray := prog_19_method_1_code
def yX13_init : MethodName := ⟨RX13, "<init>", "(JI)V"⟩
def dkwX13_init_0 : List UInt8 := [42, 31, 183, 0, 1, 42, 29, 181, 0, 7, 177]
abbrev dktX13_init_0 : List UInt8 := dkwX13_init_0 ++ []
theorem dksX13_init_0 : cX13_init.data.toList.drop 0 = dktX13_init_0 := by decide +kernel
theorem dX13_init_0 : decode cX13_init 0 = .ok (.aload_n 0, 1) := dk_42 (dk_at dksX13_init_0 0 rfl rfl)
theorem dX13_init_1 : decode cX13_init 1 = .ok (.lload_n 1, 1) := dk_31 (dk_at dksX13_init_0 1 rfl rfl)
theorem dX13_init_2 : decode cX13_init 2 = .ok (.invokespecial 1, 3) := dk_183 0 1 (dk_at dksX13_init_0 2 rfl rfl)
theorem dX13_init_5 : decode cX13_init 5 = .ok (.aload_n 0, 1) := dk_42 (dk_at dksX13_init_0 5 rfl rfl)
theorem dX13_init_6 : decode cX13_init 6 = .ok (.iload_n 3, 1) := dk_29 (dk_at dksX13_init_0 6 rfl rfl)
theorem dX13_init_7 : decode cX13_init 7 = .ok (.putfield 7, 3) := dk_181 0 7 (dk_at dksX13_init_0 7 rfl rfl)
theorem dX13_init_10 : decode cX13_init 10 = .ok (.return_, 1) := dk_177 (dk_at dksX13_init_0 10 rfl rfl)
theorem q108 : (Jvm.Cond.initialized "CombTable$Who") ∈ lw_all := lw_g (lw_at lw_m1 19 rfl) rfl
theorem q794 : (Jvm.Cond.instantiable "CombTable$Who" (2 : Nat)) ∈ lw_all := lw_g (lw_at lw_m3 225 rfl) rfl
theorem q803 : (Jvm.Cond.instanceMethod ({ cls := "CombTable$Who", name := "<init>", desc := "(JI)V" } : Jvm.MethodName)) ∈ lw_all := lw_g (lw_at lw_m3 234 rfl) rfl
theorem q804 : (Jvm.Cond.code ({ cls := "CombTable$Who", name := "<init>", desc := "(JI)V" } : Jvm.MethodName) prog_19_method_1_code (4 : Nat) (Option.none : Option Jvm.ClassFile.FieldType)) ∈ lw_all := lw_g (lw_at lw_m3 235 rfl) rfl
theorem q805 : (Jvm.Cond.methodLink "CombTable$Who" (1 : Nat) ({ cls := "CombTable$Named", name := "<init>", desc := "(J)V" } : Jvm.MethodName)) ∈ lw_all := lw_g (lw_at lw_m3 236 rfl) rfl
theorem q809 : (Jvm.Cond.fieldLink "CombTable$Who" (7 : Nat) "CombTable$Who" "rank" "I") ∈ lw_all := lw_g (lw_at lw_m4 0 rfl) rfl
theorem q814 : (Jvm.Cond.laysFinal "CombTable$Who" "CombTable$Who" "rank" "I") ∈ lw_all := lw_g (lw_at lw_m4 5 rfl) rfl
theorem q815 : (Jvm.Cond.soleField "CombTable$Who" "rank") ∈ lw_all := lw_g (lw_at lw_m4 6 rfl) rfl
theorem q816 : (Jvm.Cond.laysFinal "CombTable$Who" "CombTable$Named" "name" "J") ∈ lw_all := lw_g (lw_at lw_m4 7 rfl) rfl
theorem q818 : (Jvm.Cond.superclass "CombTable$Who" "CombTable$Named") ∈ lw_all := lw_g (lw_at lw_m4 9 rfl) rfl
theorem q2059 : (Jvm.Cond.castable "CombTable$Who" "java/lang/Object") ∈ lw_tbl := lw_at lw_m9 50 rfl
theorem in_X13 : ∀ w ∈ wsX130, w ∈ lw_all := lw_in wsX130 [816, 814] (by decide +kernel) (by decide +kernel)

/-! CombTable$Kind -/
set_option maxRecDepth 100000
def RX14 : String := "CombTable$Kind"
def TX14 : u_T := fun k => match k with
  | 0 => ("CombTable$Named", "name", "J", true)
  | 1 => ("CombTable$Kind", "begins", "I", false)
  | 2 => ("CombTable$Kind", "does", "I", false)
  | 3 => ("CombTable$Kind", "due", "I", false)
  | _ => ("CombTable$Kind", "may", "I", false)
def tyX14 : Nat → FieldType := fun k => match k with
  | 0 => .long
  | 1 => .int
  | 2 => .int
  | 3 => .int
  | _ => .int
abbrev wsX140 : List Cond := u_ws RX14 TX14 5
theorem nmX14 : ∀ a, a < 5 → ∀ b, b < 5 → a ≠ b → (TX14 a).2.1 ≠ (TX14 b).2.1 := by decide +kernel
theorem tyX14_ok : ∀ k, k < 5 → parseFieldDescriptor (TX14 k).2.2.1 = some (tyX14 k) := by decide +kernel
abbrev cX14_init : ByteArray := prog_8_method_1_code
def yX14_init : MethodName := ⟨RX14, "<init>", "(J)V"⟩
def dkwX14_init_0 : List UInt8 := [42, 31, 183, 0, 1, 177]
abbrev dktX14_init_0 : List UInt8 := dkwX14_init_0 ++ []
theorem dksX14_init_0 : cX14_init.data.toList.drop 0 = dktX14_init_0 := by decide +kernel
theorem dX14_init_0 : decode cX14_init 0 = .ok (.aload_n 0, 1) := dk_42 (dk_at dksX14_init_0 0 rfl rfl)
theorem dX14_init_1 : decode cX14_init 1 = .ok (.lload_n 1, 1) := dk_31 (dk_at dksX14_init_0 1 rfl rfl)
theorem dX14_init_2 : decode cX14_init 2 = .ok (.invokespecial 1, 3) := dk_183 0 1 (dk_at dksX14_init_0 2 rfl rfl)
theorem dX14_init_5 : decode cX14_init 5 = .ok (.return_, 1) := dk_177 (dk_at dksX14_init_0 5 rfl rfl)
theorem q109 : (Jvm.Cond.initialized "CombTable$Kind") ∈ lw_all := lw_g (lw_at lw_m1 20 rfl) rfl
theorem q824 : (Jvm.Cond.instantiable "CombTable$Kind" (5 : Nat)) ∈ lw_all := lw_g (lw_at lw_m4 15 rfl) rfl
theorem q826 : (Jvm.Cond.instanceMethod ({ cls := "CombTable$Kind", name := "<init>", desc := "(J)V" } : Jvm.MethodName)) ∈ lw_all := lw_g (lw_at lw_m4 17 rfl) rfl
theorem q827 : (Jvm.Cond.code ({ cls := "CombTable$Kind", name := "<init>", desc := "(J)V" } : Jvm.MethodName) prog_8_method_1_code (3 : Nat) (Option.none : Option Jvm.ClassFile.FieldType)) ∈ lw_all := lw_g (lw_at lw_m4 18 rfl) rfl
theorem q828 : (Jvm.Cond.methodLink "CombTable$Kind" (1 : Nat) ({ cls := "CombTable$Named", name := "<init>", desc := "(J)V" } : Jvm.MethodName)) ∈ lw_all := lw_g (lw_at lw_m4 19 rfl) rfl
theorem q841 : (Jvm.Cond.lays "CombTable$Kind" "CombTable$Kind" "begins" "I") ∈ lw_all := lw_g (lw_at lw_m4 32 rfl) rfl
theorem q842 : (Jvm.Cond.soleField "CombTable$Kind" "begins") ∈ lw_all := lw_g (lw_at lw_m4 33 rfl) rfl
theorem q843 : (Jvm.Cond.lays "CombTable$Kind" "CombTable$Kind" "does" "I") ∈ lw_all := lw_g (lw_at lw_m4 34 rfl) rfl
theorem q844 : (Jvm.Cond.soleField "CombTable$Kind" "does") ∈ lw_all := lw_g (lw_at lw_m4 35 rfl) rfl
theorem q845 : (Jvm.Cond.lays "CombTable$Kind" "CombTable$Kind" "due" "I") ∈ lw_all := lw_g (lw_at lw_m4 36 rfl) rfl
theorem q846 : (Jvm.Cond.soleField "CombTable$Kind" "due") ∈ lw_all := lw_g (lw_at lw_m4 37 rfl) rfl
theorem q847 : (Jvm.Cond.lays "CombTable$Kind" "CombTable$Kind" "may" "I") ∈ lw_all := lw_g (lw_at lw_m4 38 rfl) rfl
theorem q848 : (Jvm.Cond.soleField "CombTable$Kind" "may") ∈ lw_all := lw_g (lw_at lw_m4 39 rfl) rfl
theorem q849 : (Jvm.Cond.laysFinal "CombTable$Kind" "CombTable$Named" "name" "J") ∈ lw_all := lw_g (lw_at lw_m4 40 rfl) rfl
theorem q850 : (Jvm.Cond.superclass "CombTable$Kind" "CombTable$Named") ∈ lw_all := lw_g (lw_at lw_m4 41 rfl) rfl
theorem q2060 : (Jvm.Cond.castable "CombTable$Kind" "java/lang/Object") ∈ lw_tbl := lw_at lw_m9 51 rfl
theorem in_X14 : ∀ w ∈ wsX140, w ∈ lw_all := lw_in wsX140 [849, 841, 843, 845, 847] (by decide +kernel) (by decide +kernel)

/-! CombTable$Cond -/
set_option maxRecDepth 100000
def RX15 : String := "CombTable$Cond"
abbrev cX15_init : ByteArray := prog_4_method_1_code
def yX15_init : MethodName := ⟨RX15, "<init>", "()V"⟩
theorem dX15_init_0 : decode cX15_init 0 = .ok (.aload_n 0, 1) := by decide +kernel
theorem dX15_init_1 : decode cX15_init 1 = .ok (.invokespecial 1, 3) := by decide +kernel
theorem dX15_init_4 : decode cX15_init 4 = .ok (.return_, 1) := by decide +kernel
theorem q115 : (Jvm.Cond.initialized "CombTable$Cond") ∈ lw_all := lw_g (lw_at lw_m1 26 rfl) rfl
theorem q1255 : (Jvm.Cond.instanceMethod ({ cls := "CombTable$Cond", name := "<init>", desc := "()V" } : Jvm.MethodName)) ∈ lw_all := lw_g (lw_at lw_m5 206 rfl) rfl
theorem q1256 : (Jvm.Cond.code ({ cls := "CombTable$Cond", name := "<init>", desc := "()V" } : Jvm.MethodName) prog_4_method_1_code (1 : Nat) (Option.none : Option Jvm.ClassFile.FieldType)) ∈ lw_all := lw_g (lw_at lw_m5 207 rfl) rfl
theorem q1257 : (Jvm.Cond.methodLink "CombTable$Cond" (1 : Nat) ({ cls := "java/lang/Object", name := "<init>", desc := "()V" } : Jvm.MethodName)) ∈ lw_all := lw_g (lw_at lw_m5 208 rfl) rfl
theorem q1330 : (Jvm.Cond.declares ({ cls := "CombTable$Cond", name := "is", desc := "(LCombTable$Talk;I)Z" } : Jvm.MethodName)) ∈ lw_tbl := lw_at lw_m6 41 rfl
theorem q1331 : (Jvm.Cond.sameMethod "CombTable$Cond" "CombTable$Cond" "is" "(LCombTable$Talk;I)Z") ∈ lw_all := lw_g (lw_at lw_m6 42 rfl) rfl

/-! CombTable$Not -/
set_option maxRecDepth 100000
def RX16 : String := "CombTable$Not"
def TX16 : u_T := fun k => match k with
  | _ => ("CombTable$Not", "a", "LCombTable$Cond;", true)
def tyX16 : Nat → FieldType := fun k => match k with
  | _ => .object "CombTable$Cond"
abbrev wsX160 : List Cond := u_ws RX16 TX16 1
theorem nmX16 : ∀ a, a < 1 → ∀ b, b < 1 → a ≠ b → (TX16 a).2.1 ≠ (TX16 b).2.1 := by decide +kernel
theorem tyX16_ok : ∀ k, k < 1 → parseFieldDescriptor (TX16 k).2.2.1 = some (tyX16 k) := by decide +kernel
abbrev cX16_init : ByteArray := prog_12_method_1_code
def yX16_init : MethodName := ⟨RX16, "<init>", "(LCombTable$Cond;)V"⟩
def dkwX16_init_0 : List UInt8 := [42, 183, 0, 1, 42, 43, 181, 0, 7, 177]
abbrev dktX16_init_0 : List UInt8 := dkwX16_init_0 ++ []
theorem dksX16_init_0 : cX16_init.data.toList.drop 0 = dktX16_init_0 := by decide +kernel
theorem dX16_init_0 : decode cX16_init 0 = .ok (.aload_n 0, 1) := dk_42 (dk_at dksX16_init_0 0 rfl rfl)
theorem dX16_init_1 : decode cX16_init 1 = .ok (.invokespecial 1, 3) := dk_183 0 1 (dk_at dksX16_init_0 1 rfl rfl)
theorem dX16_init_4 : decode cX16_init 4 = .ok (.aload_n 0, 1) := dk_42 (dk_at dksX16_init_0 4 rfl rfl)
theorem dX16_init_5 : decode cX16_init 5 = .ok (.aload_n 1, 1) := dk_43 (dk_at dksX16_init_0 5 rfl rfl)
theorem dX16_init_6 : decode cX16_init 6 = .ok (.putfield 7, 3) := dk_181 0 7 (dk_at dksX16_init_0 6 rfl rfl)
theorem dX16_init_9 : decode cX16_init 9 = .ok (.return_, 1) := dk_177 (dk_at dksX16_init_0 9 rfl rfl)
abbrev cX16_is : ByteArray := prog_12_method_2_code
def yX16_is : MethodName := ⟨RX16, "is", "(LCombTable$Talk;I)Z"⟩
def dkwX16_is_0 : List UInt8 := [42, 180, 0, 7, 43, 28, 182, 0, 13, 154, 0, 7, 4, 167, 0, 4, 3, 172]
abbrev dktX16_is_0 : List UInt8 := dkwX16_is_0 ++ []
theorem dksX16_is_0 : cX16_is.data.toList.drop 0 = dktX16_is_0 := by decide +kernel
theorem dX16_is_0 : decode cX16_is 0 = .ok (.aload_n 0, 1) := dk_42 (dk_at dksX16_is_0 0 rfl rfl)
theorem dX16_is_1 : decode cX16_is 1 = .ok (.getfield 7, 3) := dk_180 0 7 (dk_at dksX16_is_0 1 rfl rfl)
theorem dX16_is_4 : decode cX16_is 4 = .ok (.aload_n 1, 1) := dk_43 (dk_at dksX16_is_0 4 rfl rfl)
theorem dX16_is_5 : decode cX16_is 5 = .ok (.iload_n 2, 1) := dk_28 (dk_at dksX16_is_0 5 rfl rfl)
theorem dX16_is_6 : decode cX16_is 6 = .ok (.invokevirtual 13, 3) := dk_182 0 13 (dk_at dksX16_is_0 6 rfl rfl)
theorem dX16_is_9 : decode cX16_is 9 = .ok (.ifCond .ne 7, 3) := dk_154 0 7 (dk_at dksX16_is_0 9 rfl rfl)
theorem dX16_is_12 : decode cX16_is 12 = .ok (.iconst 1, 1) := dk_4 (dk_at dksX16_is_0 12 rfl rfl)
theorem dX16_is_13 : decode cX16_is 13 = .ok (.goto 4, 3) := dk_167 0 4 (dk_at dksX16_is_0 13 rfl rfl)
theorem dX16_is_16 : decode cX16_is 16 = .ok (.iconst 0, 1) := dk_3 (dk_at dksX16_is_0 16 rfl rfl)
theorem dX16_is_17 : decode cX16_is 17 = .ok (.ireturn, 1) := dk_172 (dk_at dksX16_is_0 17 rfl rfl)
theorem q116 : (Jvm.Cond.initialized "CombTable$Not") ∈ lw_all := lw_g (lw_at lw_m1 27 rfl) rfl
theorem q1250 : (Jvm.Cond.instantiable "CombTable$Not" (1 : Nat)) ∈ lw_all := lw_g (lw_at lw_m5 201 rfl) rfl
theorem q1252 : (Jvm.Cond.instanceMethod ({ cls := "CombTable$Not", name := "<init>", desc := "(LCombTable$Cond;)V" } : Jvm.MethodName)) ∈ lw_all := lw_g (lw_at lw_m5 203 rfl) rfl
theorem q1253 : (Jvm.Cond.code ({ cls := "CombTable$Not", name := "<init>", desc := "(LCombTable$Cond;)V" } : Jvm.MethodName) prog_12_method_1_code (2 : Nat) (Option.none : Option Jvm.ClassFile.FieldType)) ∈ lw_all := lw_g (lw_at lw_m5 204 rfl) rfl
theorem q1254 : (Jvm.Cond.methodLinkNest "CombTable$Not" (1 : Nat) ({ cls := "CombTable$Cond", name := "<init>", desc := "()V" } : Jvm.MethodName) "CombTable") ∈ lw_tbl := lw_at lw_m5 205 rfl
theorem q1258 : (Jvm.Cond.fieldLink "CombTable$Not" (7 : Nat) "CombTable$Not" "a" "LCombTable$Cond;") ∈ lw_all := lw_g (lw_at lw_m5 209 rfl) rfl
theorem q1259 : (Jvm.Cond.laysFinal "CombTable$Not" "CombTable$Not" "a" "LCombTable$Cond;") ∈ lw_all := lw_g (lw_at lw_m5 210 rfl) rfl
theorem q1260 : (Jvm.Cond.soleField "CombTable$Not" "a") ∈ lw_all := lw_g (lw_at lw_m5 211 rfl) rfl
theorem q1261 : (Jvm.Cond.superclass "CombTable$Not" "CombTable$Cond") ∈ lw_all := lw_g (lw_at lw_m5 212 rfl) rfl
theorem q1345 : (Jvm.Cond.instanceMethod ({ cls := "CombTable$Not", name := "is", desc := "(LCombTable$Talk;I)Z" } : Jvm.MethodName)) ∈ lw_all := lw_g (lw_at lw_m6 56 rfl) rfl
theorem q1346 : (Jvm.Cond.code ({ cls := "CombTable$Not", name := "is", desc := "(LCombTable$Talk;I)Z" } : Jvm.MethodName) prog_12_method_2_code (3 : Nat) (Option.some Jvm.ClassFile.FieldType.boolean)) ∈ lw_all := lw_g (lw_at lw_m6 57 rfl) rfl
theorem q1347 : (Jvm.Cond.methodLink "CombTable$Not" (13 : Nat) ({ cls := "CombTable$Cond", name := "is", desc := "(LCombTable$Talk;I)Z" } : Jvm.MethodName)) ∈ lw_all := lw_g (lw_at lw_m6 58 rfl) rfl
theorem q1351 : (Jvm.Cond.selects "CombTable$Not" ({ cls := "CombTable$Cond", name := "is", desc := "(LCombTable$Talk;I)Z" } : Jvm.MethodName) ({ cls := "CombTable$Not", name := "is", desc := "(LCombTable$Talk;I)Z" } : Jvm.MethodName)) ∈ lw_all := lw_g (lw_at lw_m6 62 rfl) rfl
theorem q2062 : (Jvm.Cond.castable "CombTable$Not" "java/lang/Object") ∈ lw_tbl := lw_at lw_m9 53 rfl
theorem q2069 : (Jvm.Cond.castable "CombTable$Not" "CombTable$Cond") ∈ lw_tbl := lw_at lw_m9 60 rfl
theorem in_X16 : ∀ w ∈ wsX160, w ∈ lw_all := lw_in wsX160 [1259] (by decide +kernel) (by decide +kernel)

/-! CombTable$Has -/
set_option maxRecDepth 100000
def RX17 : String := "CombTable$Has"
def TX17 : u_T := fun k => match k with
  | 0 => ("CombTable$Has", "what", "I", true)
  | _ => ("CombTable$Has", "which", "I", true)
def tyX17 : Nat → FieldType := fun k => match k with
  | 0 => .int
  | _ => .int
abbrev wsX170 : List Cond := u_ws RX17 TX17 2
theorem nmX17 : ∀ a, a < 2 → ∀ b, b < 2 → a ≠ b → (TX17 a).2.1 ≠ (TX17 b).2.1 := by decide +kernel
theorem tyX17_ok : ∀ k, k < 2 → parseFieldDescriptor (TX17 k).2.2.1 = some (tyX17 k) := by decide +kernel
abbrev cX17_init : ByteArray := prog_7_method_1_code
def yX17_init : MethodName := ⟨RX17, "<init>", "(II)V"⟩
def dkwX17_init_0 : List UInt8 := [42, 183, 0, 3, 42, 27, 181, 0, 9, 42, 28, 181, 0, 15, 177]
abbrev dktX17_init_0 : List UInt8 := dkwX17_init_0 ++ []
theorem dksX17_init_0 : cX17_init.data.toList.drop 0 = dktX17_init_0 := by decide +kernel
theorem dX17_init_0 : decode cX17_init 0 = .ok (.aload_n 0, 1) := dk_42 (dk_at dksX17_init_0 0 rfl rfl)
theorem dX17_init_1 : decode cX17_init 1 = .ok (.invokespecial 3, 3) := dk_183 0 3 (dk_at dksX17_init_0 1 rfl rfl)
theorem dX17_init_4 : decode cX17_init 4 = .ok (.aload_n 0, 1) := dk_42 (dk_at dksX17_init_0 4 rfl rfl)
theorem dX17_init_5 : decode cX17_init 5 = .ok (.iload_n 1, 1) := dk_27 (dk_at dksX17_init_0 5 rfl rfl)
theorem dX17_init_6 : decode cX17_init 6 = .ok (.putfield 9, 3) := dk_181 0 9 (dk_at dksX17_init_0 6 rfl rfl)
theorem dX17_init_9 : decode cX17_init 9 = .ok (.aload_n 0, 1) := dk_42 (dk_at dksX17_init_0 9 rfl rfl)
theorem dX17_init_10 : decode cX17_init 10 = .ok (.iload_n 2, 1) := dk_28 (dk_at dksX17_init_0 10 rfl rfl)
theorem dX17_init_11 : decode cX17_init 11 = .ok (.putfield 15, 3) := dk_181 0 15 (dk_at dksX17_init_0 11 rfl rfl)
theorem dX17_init_14 : decode cX17_init 14 = .ok (.return_, 1) := dk_177 (dk_at dksX17_init_0 14 rfl rfl)
abbrev cX17_is : ByteArray := prog_7_method_2_code
def yX17_is : MethodName := ⟨RX17, "is", "(LCombTable$Talk;I)Z"⟩
def dkwX17_is_3 : List UInt8 := [42, 180, 0, 15, 160, 0, 7, 4, 167, 0, 4, 3, 172]
abbrev dktX17_is_3 : List UInt8 := dkwX17_is_3 ++ []
def dkwX17_is_2 : List UInt8 := [182, 0, 27, 42, 180, 0, 15, 160, 0, 7, 4, 167, 0, 25, 3, 167, 0, 21, 43, 180, 0, 31, 28, 46]
abbrev dktX17_is_2 : List UInt8 := dkwX17_is_2 ++ dktX17_is_3
def dkwX17_is_1 : List UInt8 := [3, 167, 0, 59, 42, 180, 0, 9, 4, 160, 0, 33, 43, 180, 0, 24, 28, 46, 2, 159, 0, 19, 43, 28]
abbrev dktX17_is_1 : List UInt8 := dkwX17_is_1 ++ dktX17_is_2
def dkwX17_is_0 : List UInt8 := [42, 180, 0, 9, 154, 0, 24, 43, 180, 0, 18, 28, 46, 42, 180, 0, 15, 160, 0, 7, 4, 167, 0, 63]
abbrev dktX17_is_0 : List UInt8 := dkwX17_is_0 ++ dktX17_is_1
theorem dksX17_is_0 : cX17_is.data.toList.drop 0 = dktX17_is_0 := by decide +kernel
theorem dksX17_is_1 : cX17_is.data.toList.drop 24 = dktX17_is_1 := dk_seg dksX17_is_0 24 rfl rfl
theorem dksX17_is_2 : cX17_is.data.toList.drop 48 = dktX17_is_2 := dk_seg dksX17_is_1 24 rfl rfl
theorem dksX17_is_3 : cX17_is.data.toList.drop 72 = dktX17_is_3 := dk_seg dksX17_is_2 24 rfl rfl
theorem dX17_is_0 : decode cX17_is 0 = .ok (.aload_n 0, 1) := dk_42 (dk_at dksX17_is_0 0 rfl rfl)
theorem dX17_is_1 : decode cX17_is 1 = .ok (.getfield 9, 3) := dk_180 0 9 (dk_at dksX17_is_0 1 rfl rfl)
theorem dX17_is_4 : decode cX17_is 4 = .ok (.ifCond .ne 24, 3) := dk_154 0 24 (dk_at dksX17_is_0 4 rfl rfl)
theorem dX17_is_7 : decode cX17_is 7 = .ok (.aload_n 1, 1) := dk_43 (dk_at dksX17_is_0 7 rfl rfl)
theorem dX17_is_8 : decode cX17_is 8 = .ok (.getfield 18, 3) := dk_180 0 18 (dk_at dksX17_is_0 8 rfl rfl)
theorem dX17_is_11 : decode cX17_is 11 = .ok (.iload_n 2, 1) := dk_28 (dk_at dksX17_is_0 11 rfl rfl)
theorem dX17_is_12 : decode cX17_is 12 = .ok (.iaload, 1) := dk_46 (dk_at dksX17_is_0 12 rfl rfl)
theorem dX17_is_13 : decode cX17_is 13 = .ok (.aload_n 0, 1) := dk_42 (dk_at dksX17_is_0 13 rfl rfl)
theorem dX17_is_14 : decode cX17_is 14 = .ok (.getfield 15, 3) := dk_180 0 15 (dk_at dksX17_is_0 14 rfl rfl)
theorem dX17_is_17 : decode cX17_is 17 = .ok (.if_icmp .ne 7, 3) := dk_160 0 7 (dk_at dksX17_is_0 17 rfl rfl)
theorem dX17_is_20 : decode cX17_is 20 = .ok (.iconst 1, 1) := dk_4 (dk_at dksX17_is_0 20 rfl rfl)
theorem dX17_is_21 : decode cX17_is 21 = .ok (.goto 63, 3) := dk_167 0 63 (dk_at dksX17_is_0 21 rfl rfl)
theorem dX17_is_24 : decode cX17_is 24 = .ok (.iconst 0, 1) := dk_3 (dk_at dksX17_is_1 0 rfl rfl)
theorem dX17_is_25 : decode cX17_is 25 = .ok (.goto 59, 3) := dk_167 0 59 (dk_at dksX17_is_1 1 rfl rfl)
theorem dX17_is_28 : decode cX17_is 28 = .ok (.aload_n 0, 1) := dk_42 (dk_at dksX17_is_1 4 rfl rfl)
theorem dX17_is_29 : decode cX17_is 29 = .ok (.getfield 9, 3) := dk_180 0 9 (dk_at dksX17_is_1 5 rfl rfl)
theorem dX17_is_32 : decode cX17_is 32 = .ok (.iconst 1, 1) := dk_4 (dk_at dksX17_is_1 8 rfl rfl)
theorem dX17_is_33 : decode cX17_is 33 = .ok (.if_icmp .ne 33, 3) := dk_160 0 33 (dk_at dksX17_is_1 9 rfl rfl)
theorem dX17_is_36 : decode cX17_is 36 = .ok (.aload_n 1, 1) := dk_43 (dk_at dksX17_is_1 12 rfl rfl)
theorem dX17_is_37 : decode cX17_is 37 = .ok (.getfield 24, 3) := dk_180 0 24 (dk_at dksX17_is_1 13 rfl rfl)
theorem dX17_is_40 : decode cX17_is 40 = .ok (.iload_n 2, 1) := dk_28 (dk_at dksX17_is_1 16 rfl rfl)
theorem dX17_is_41 : decode cX17_is 41 = .ok (.iaload, 1) := dk_46 (dk_at dksX17_is_1 17 rfl rfl)
theorem dX17_is_42 : decode cX17_is 42 = .ok (.iconst (-1), 1) := dk_2 (dk_at dksX17_is_1 18 rfl rfl)
theorem dX17_is_43 : decode cX17_is 43 = .ok (.if_icmp .eq 19, 3) := dk_159 0 19 (dk_at dksX17_is_1 19 rfl rfl)
theorem dX17_is_46 : decode cX17_is 46 = .ok (.aload_n 1, 1) := dk_43 (dk_at dksX17_is_1 22 rfl rfl)
theorem dX17_is_47 : decode cX17_is 47 = .ok (.iload_n 2, 1) := dk_28 (dk_at dksX17_is_1 23 rfl rfl)
theorem dX17_is_48 : decode cX17_is 48 = .ok (.invokevirtual 27, 3) := dk_182 0 27 (dk_at dksX17_is_2 0 rfl rfl)
theorem dX17_is_51 : decode cX17_is 51 = .ok (.aload_n 0, 1) := dk_42 (dk_at dksX17_is_2 3 rfl rfl)
theorem dX17_is_52 : decode cX17_is 52 = .ok (.getfield 15, 3) := dk_180 0 15 (dk_at dksX17_is_2 4 rfl rfl)
theorem dX17_is_55 : decode cX17_is 55 = .ok (.if_icmp .ne 7, 3) := dk_160 0 7 (dk_at dksX17_is_2 7 rfl rfl)
theorem dX17_is_58 : decode cX17_is 58 = .ok (.iconst 1, 1) := dk_4 (dk_at dksX17_is_2 10 rfl rfl)
theorem dX17_is_59 : decode cX17_is 59 = .ok (.goto 25, 3) := dk_167 0 25 (dk_at dksX17_is_2 11 rfl rfl)
theorem dX17_is_62 : decode cX17_is 62 = .ok (.iconst 0, 1) := dk_3 (dk_at dksX17_is_2 14 rfl rfl)
theorem dX17_is_63 : decode cX17_is 63 = .ok (.goto 21, 3) := dk_167 0 21 (dk_at dksX17_is_2 15 rfl rfl)
theorem dX17_is_66 : decode cX17_is 66 = .ok (.aload_n 1, 1) := dk_43 (dk_at dksX17_is_2 18 rfl rfl)
theorem dX17_is_67 : decode cX17_is 67 = .ok (.getfield 31, 3) := dk_180 0 31 (dk_at dksX17_is_2 19 rfl rfl)
theorem dX17_is_70 : decode cX17_is 70 = .ok (.iload_n 2, 1) := dk_28 (dk_at dksX17_is_2 22 rfl rfl)
theorem dX17_is_71 : decode cX17_is 71 = .ok (.iaload, 1) := dk_46 (dk_at dksX17_is_2 23 rfl rfl)
theorem dX17_is_72 : decode cX17_is 72 = .ok (.aload_n 0, 1) := dk_42 (dk_at dksX17_is_3 0 rfl rfl)
theorem dX17_is_73 : decode cX17_is 73 = .ok (.getfield 15, 3) := dk_180 0 15 (dk_at dksX17_is_3 1 rfl rfl)
theorem dX17_is_76 : decode cX17_is 76 = .ok (.if_icmp .ne 7, 3) := dk_160 0 7 (dk_at dksX17_is_3 4 rfl rfl)
theorem dX17_is_79 : decode cX17_is 79 = .ok (.iconst 1, 1) := dk_4 (dk_at dksX17_is_3 7 rfl rfl)
theorem dX17_is_80 : decode cX17_is 80 = .ok (.goto 4, 3) := dk_167 0 4 (dk_at dksX17_is_3 8 rfl rfl)
theorem dX17_is_83 : decode cX17_is 83 = .ok (.iconst 0, 1) := dk_3 (dk_at dksX17_is_3 11 rfl rfl)
theorem dX17_is_84 : decode cX17_is 84 = .ok (.ireturn, 1) := dk_172 (dk_at dksX17_is_3 12 rfl rfl)
theorem q117 : (Jvm.Cond.initialized "CombTable$Has") ∈ lw_all := lw_g (lw_at lw_m1 28 rfl) rfl
theorem q305 : (Jvm.Cond.fieldLinkNest "CombTable$Has" (18 : Nat) "CombTable$Talk" "who" "[I" "CombTable") ∈ lw_tbl := lw_at lw_m1 216 rfl
theorem q308 : (Jvm.Cond.fieldLinkNest "CombTable$Has" (31 : Nat) "CombTable$Talk" "kind" "[I" "CombTable") ∈ lw_tbl := lw_at lw_m1 219 rfl
theorem q311 : (Jvm.Cond.fieldLinkNest "CombTable$Has" (24 : Nat) "CombTable$Talk" "answers" "[I" "CombTable") ∈ lw_tbl := lw_at lw_m1 222 rfl
theorem q1266 : (Jvm.Cond.instantiable "CombTable$Has" (2 : Nat)) ∈ lw_all := lw_g (lw_at lw_m5 217 rfl) rfl
theorem q1271 : (Jvm.Cond.instanceMethod ({ cls := "CombTable$Has", name := "<init>", desc := "(II)V" } : Jvm.MethodName)) ∈ lw_all := lw_g (lw_at lw_m5 222 rfl) rfl
theorem q1272 : (Jvm.Cond.code ({ cls := "CombTable$Has", name := "<init>", desc := "(II)V" } : Jvm.MethodName) prog_7_method_1_code (3 : Nat) (Option.none : Option Jvm.ClassFile.FieldType)) ∈ lw_all := lw_g (lw_at lw_m5 223 rfl) rfl
theorem q1273 : (Jvm.Cond.methodLinkNest "CombTable$Has" (3 : Nat) ({ cls := "CombTable$Cond", name := "<init>", desc := "()V" } : Jvm.MethodName) "CombTable") ∈ lw_tbl := lw_at lw_m5 224 rfl
theorem q1274 : (Jvm.Cond.fieldLink "CombTable$Has" (9 : Nat) "CombTable$Has" "what" "I") ∈ lw_all := lw_g (lw_at lw_m5 225 rfl) rfl
theorem q1275 : (Jvm.Cond.fieldLink "CombTable$Has" (15 : Nat) "CombTable$Has" "which" "I") ∈ lw_all := lw_g (lw_at lw_m5 226 rfl) rfl
theorem q1276 : (Jvm.Cond.laysFinal "CombTable$Has" "CombTable$Has" "what" "I") ∈ lw_all := lw_g (lw_at lw_m5 227 rfl) rfl
theorem q1277 : (Jvm.Cond.soleField "CombTable$Has" "what") ∈ lw_all := lw_g (lw_at lw_m5 228 rfl) rfl
theorem q1278 : (Jvm.Cond.laysFinal "CombTable$Has" "CombTable$Has" "which" "I") ∈ lw_all := lw_g (lw_at lw_m5 229 rfl) rfl
theorem q1279 : (Jvm.Cond.soleField "CombTable$Has" "which") ∈ lw_all := lw_g (lw_at lw_m5 230 rfl) rfl
theorem q1280 : (Jvm.Cond.superclass "CombTable$Has" "CombTable$Cond") ∈ lw_all := lw_g (lw_at lw_m5 231 rfl) rfl
theorem q1342 : (Jvm.Cond.instanceMethod ({ cls := "CombTable$Has", name := "is", desc := "(LCombTable$Talk;I)Z" } : Jvm.MethodName)) ∈ lw_all := lw_g (lw_at lw_m6 53 rfl) rfl
theorem q1343 : (Jvm.Cond.code ({ cls := "CombTable$Has", name := "is", desc := "(LCombTable$Talk;I)Z" } : Jvm.MethodName) prog_7_method_2_code (3 : Nat) (Option.some Jvm.ClassFile.FieldType.boolean)) ∈ lw_all := lw_g (lw_at lw_m6 54 rfl) rfl
theorem q1344 : (Jvm.Cond.methodLink "CombTable$Has" (27 : Nat) ({ cls := "CombTable$Talk", name := "to", desc := "(I)I" } : Jvm.MethodName)) ∈ lw_all := lw_g (lw_at lw_m6 55 rfl) rfl
theorem q1350 : (Jvm.Cond.selects "CombTable$Has" ({ cls := "CombTable$Cond", name := "is", desc := "(LCombTable$Talk;I)Z" } : Jvm.MethodName) ({ cls := "CombTable$Has", name := "is", desc := "(LCombTable$Talk;I)Z" } : Jvm.MethodName)) ∈ lw_all := lw_g (lw_at lw_m6 61 rfl) rfl
theorem q2063 : (Jvm.Cond.castable "CombTable$Has" "java/lang/Object") ∈ lw_tbl := lw_at lw_m9 54 rfl
theorem q2070 : (Jvm.Cond.castable "CombTable$Has" "CombTable$Cond") ∈ lw_tbl := lw_at lw_m9 61 rfl
theorem in_X17 : ∀ w ∈ wsX170, w ∈ lw_all := lw_in wsX170 [1276, 1278] (by decide +kernel) (by decide +kernel)

/-! CombTable$Counts -/
set_option maxRecDepth 100000
def RX18 : String := "CombTable$Counts"
def TX18 : u_T := fun k => match k with
  | 0 => ("CombTable$Counts", "what", "I", true)
  | 1 => ("CombTable$Counts", "sign", "I", true)
  | _ => ("CombTable$Counts", "number", "I", true)
def tyX18 : Nat → FieldType := fun k => match k with
  | 0 => .int
  | 1 => .int
  | _ => .int
abbrev wsX180 : List Cond := u_ws RX18 TX18 3
theorem nmX18 : ∀ a, a < 3 → ∀ b, b < 3 → a ≠ b → (TX18 a).2.1 ≠ (TX18 b).2.1 := by decide +kernel
theorem tyX18_ok : ∀ k, k < 3 → parseFieldDescriptor (TX18 k).2.2.1 = some (tyX18 k) := by decide +kernel
abbrev cX18_init : ByteArray := prog_5_method_1_code
def yX18_init : MethodName := ⟨RX18, "<init>", "(III)V"⟩
def dkwX18_init_0 : List UInt8 := [42, 183, 0, 1, 42, 27, 181, 0, 7, 42, 28, 181, 0, 13, 42, 29, 181, 0, 16, 177]
abbrev dktX18_init_0 : List UInt8 := dkwX18_init_0 ++ []
theorem dksX18_init_0 : cX18_init.data.toList.drop 0 = dktX18_init_0 := by decide +kernel
theorem dX18_init_0 : decode cX18_init 0 = .ok (.aload_n 0, 1) := dk_42 (dk_at dksX18_init_0 0 rfl rfl)
theorem dX18_init_1 : decode cX18_init 1 = .ok (.invokespecial 1, 3) := dk_183 0 1 (dk_at dksX18_init_0 1 rfl rfl)
theorem dX18_init_4 : decode cX18_init 4 = .ok (.aload_n 0, 1) := dk_42 (dk_at dksX18_init_0 4 rfl rfl)
theorem dX18_init_5 : decode cX18_init 5 = .ok (.iload_n 1, 1) := dk_27 (dk_at dksX18_init_0 5 rfl rfl)
theorem dX18_init_6 : decode cX18_init 6 = .ok (.putfield 7, 3) := dk_181 0 7 (dk_at dksX18_init_0 6 rfl rfl)
theorem dX18_init_9 : decode cX18_init 9 = .ok (.aload_n 0, 1) := dk_42 (dk_at dksX18_init_0 9 rfl rfl)
theorem dX18_init_10 : decode cX18_init 10 = .ok (.iload_n 2, 1) := dk_28 (dk_at dksX18_init_0 10 rfl rfl)
theorem dX18_init_11 : decode cX18_init 11 = .ok (.putfield 13, 3) := dk_181 0 13 (dk_at dksX18_init_0 11 rfl rfl)
theorem dX18_init_14 : decode cX18_init 14 = .ok (.aload_n 0, 1) := dk_42 (dk_at dksX18_init_0 14 rfl rfl)
theorem dX18_init_15 : decode cX18_init 15 = .ok (.iload_n 3, 1) := dk_29 (dk_at dksX18_init_0 15 rfl rfl)
theorem dX18_init_16 : decode cX18_init 16 = .ok (.putfield 16, 3) := dk_181 0 16 (dk_at dksX18_init_0 16 rfl rfl)
theorem dX18_init_19 : decode cX18_init 19 = .ok (.return_, 1) := dk_177 (dk_at dksX18_init_0 19 rfl rfl)
abbrev cX18_is : ByteArray := prog_5_method_2_code
def yX18_is : MethodName := ⟨RX18, "is", "(LCombTable$Talk;I)Z"⟩
def dkwX18_is_4 : List UInt8 := [4, 167, 0, 20, 3, 167, 0, 16, 29, 42, 180, 0, 16, 164, 0, 7, 4, 167, 0, 4, 3, 172]
abbrev dktX18_is_4 : List UInt8 := dkwX18_is_4 ++ []
def dkwX18_is_3 : List UInt8 := [167, 0, 45, 3, 167, 0, 41, 42, 180, 0, 13, 16, 61, 160, 0, 19, 29, 42, 180, 0, 16, 160, 0, 7]
abbrev dktX18_is_3 : List UInt8 := dkwX18_is_3 ++ dktX18_is_4
def dkwX18_is_2 : List UInt8 := [182, 0, 28, 62, 42, 180, 0, 13, 16, 60, 160, 0, 19, 29, 42, 180, 0, 16, 162, 0, 7, 4]
abbrev dktX18_is_2 : List UInt8 := dkwX18_is_2 ++ dktX18_is_3
def dkwX18_is_1 : List UInt8 := [46, 167, 0, 25, 42, 180, 0, 7, 5, 160, 0, 12, 43, 180, 0, 25, 28, 46, 167, 0, 8, 43, 28]
abbrev dktX18_is_1 : List UInt8 := dkwX18_is_1 ++ dktX18_is_2
def dkwX18_is_0 : List UInt8 := [42, 180, 0, 7, 154, 0, 7, 28, 167, 0, 42, 42, 180, 0, 7, 4, 160, 0, 12, 43, 180, 0, 19, 28]
abbrev dktX18_is_0 : List UInt8 := dkwX18_is_0 ++ dktX18_is_1
theorem dksX18_is_0 : cX18_is.data.toList.drop 0 = dktX18_is_0 := by decide +kernel
theorem dksX18_is_1 : cX18_is.data.toList.drop 24 = dktX18_is_1 := dk_seg dksX18_is_0 24 rfl rfl
theorem dksX18_is_2 : cX18_is.data.toList.drop 47 = dktX18_is_2 := dk_seg dksX18_is_1 23 rfl rfl
theorem dksX18_is_3 : cX18_is.data.toList.drop 69 = dktX18_is_3 := dk_seg dksX18_is_2 22 rfl rfl
theorem dksX18_is_4 : cX18_is.data.toList.drop 93 = dktX18_is_4 := dk_seg dksX18_is_3 24 rfl rfl
theorem dX18_is_0 : decode cX18_is 0 = .ok (.aload_n 0, 1) := dk_42 (dk_at dksX18_is_0 0 rfl rfl)
theorem dX18_is_1 : decode cX18_is 1 = .ok (.getfield 7, 3) := dk_180 0 7 (dk_at dksX18_is_0 1 rfl rfl)
theorem dX18_is_4 : decode cX18_is 4 = .ok (.ifCond .ne 7, 3) := dk_154 0 7 (dk_at dksX18_is_0 4 rfl rfl)
theorem dX18_is_7 : decode cX18_is 7 = .ok (.iload_n 2, 1) := dk_28 (dk_at dksX18_is_0 7 rfl rfl)
theorem dX18_is_8 : decode cX18_is 8 = .ok (.goto 42, 3) := dk_167 0 42 (dk_at dksX18_is_0 8 rfl rfl)
theorem dX18_is_11 : decode cX18_is 11 = .ok (.aload_n 0, 1) := dk_42 (dk_at dksX18_is_0 11 rfl rfl)
theorem dX18_is_12 : decode cX18_is 12 = .ok (.getfield 7, 3) := dk_180 0 7 (dk_at dksX18_is_0 12 rfl rfl)
theorem dX18_is_15 : decode cX18_is 15 = .ok (.iconst 1, 1) := dk_4 (dk_at dksX18_is_0 15 rfl rfl)
theorem dX18_is_16 : decode cX18_is 16 = .ok (.if_icmp .ne 12, 3) := dk_160 0 12 (dk_at dksX18_is_0 16 rfl rfl)
theorem dX18_is_19 : decode cX18_is 19 = .ok (.aload_n 1, 1) := dk_43 (dk_at dksX18_is_0 19 rfl rfl)
theorem dX18_is_20 : decode cX18_is 20 = .ok (.getfield 19, 3) := dk_180 0 19 (dk_at dksX18_is_0 20 rfl rfl)
theorem dX18_is_23 : decode cX18_is 23 = .ok (.iload_n 2, 1) := dk_28 (dk_at dksX18_is_0 23 rfl rfl)
theorem dX18_is_24 : decode cX18_is 24 = .ok (.iaload, 1) := dk_46 (dk_at dksX18_is_1 0 rfl rfl)
theorem dX18_is_25 : decode cX18_is 25 = .ok (.goto 25, 3) := dk_167 0 25 (dk_at dksX18_is_1 1 rfl rfl)
theorem dX18_is_28 : decode cX18_is 28 = .ok (.aload_n 0, 1) := dk_42 (dk_at dksX18_is_1 4 rfl rfl)
theorem dX18_is_29 : decode cX18_is 29 = .ok (.getfield 7, 3) := dk_180 0 7 (dk_at dksX18_is_1 5 rfl rfl)
theorem dX18_is_32 : decode cX18_is 32 = .ok (.iconst 2, 1) := dk_5 (dk_at dksX18_is_1 8 rfl rfl)
theorem dX18_is_33 : decode cX18_is 33 = .ok (.if_icmp .ne 12, 3) := dk_160 0 12 (dk_at dksX18_is_1 9 rfl rfl)
theorem dX18_is_36 : decode cX18_is 36 = .ok (.aload_n 1, 1) := dk_43 (dk_at dksX18_is_1 12 rfl rfl)
theorem dX18_is_37 : decode cX18_is 37 = .ok (.getfield 25, 3) := dk_180 0 25 (dk_at dksX18_is_1 13 rfl rfl)
theorem dX18_is_40 : decode cX18_is 40 = .ok (.iload_n 2, 1) := dk_28 (dk_at dksX18_is_1 16 rfl rfl)
theorem dX18_is_41 : decode cX18_is 41 = .ok (.iaload, 1) := dk_46 (dk_at dksX18_is_1 17 rfl rfl)
theorem dX18_is_42 : decode cX18_is 42 = .ok (.goto 8, 3) := dk_167 0 8 (dk_at dksX18_is_1 18 rfl rfl)
theorem dX18_is_45 : decode cX18_is 45 = .ok (.aload_n 1, 1) := dk_43 (dk_at dksX18_is_1 21 rfl rfl)
theorem dX18_is_46 : decode cX18_is 46 = .ok (.iload_n 2, 1) := dk_28 (dk_at dksX18_is_1 22 rfl rfl)
theorem dX18_is_47 : decode cX18_is 47 = .ok (.invokevirtual 28, 3) := dk_182 0 28 (dk_at dksX18_is_2 0 rfl rfl)
theorem dX18_is_50 : decode cX18_is 50 = .ok (.istore_n 3, 1) := dk_62 (dk_at dksX18_is_2 3 rfl rfl)
theorem dX18_is_51 : decode cX18_is 51 = .ok (.aload_n 0, 1) := dk_42 (dk_at dksX18_is_2 4 rfl rfl)
theorem dX18_is_52 : decode cX18_is 52 = .ok (.getfield 13, 3) := dk_180 0 13 (dk_at dksX18_is_2 5 rfl rfl)
theorem dX18_is_55 : decode cX18_is 55 = .ok (.bipush 60, 2) := dk_16 60 (dk_at dksX18_is_2 8 rfl rfl)
theorem dX18_is_57 : decode cX18_is 57 = .ok (.if_icmp .ne 19, 3) := dk_160 0 19 (dk_at dksX18_is_2 10 rfl rfl)
theorem dX18_is_60 : decode cX18_is 60 = .ok (.iload_n 3, 1) := dk_29 (dk_at dksX18_is_2 13 rfl rfl)
theorem dX18_is_61 : decode cX18_is 61 = .ok (.aload_n 0, 1) := dk_42 (dk_at dksX18_is_2 14 rfl rfl)
theorem dX18_is_62 : decode cX18_is 62 = .ok (.getfield 16, 3) := dk_180 0 16 (dk_at dksX18_is_2 15 rfl rfl)
theorem dX18_is_65 : decode cX18_is 65 = .ok (.if_icmp .ge 7, 3) := dk_162 0 7 (dk_at dksX18_is_2 18 rfl rfl)
theorem dX18_is_68 : decode cX18_is 68 = .ok (.iconst 1, 1) := dk_4 (dk_at dksX18_is_2 21 rfl rfl)
theorem dX18_is_69 : decode cX18_is 69 = .ok (.goto 45, 3) := dk_167 0 45 (dk_at dksX18_is_3 0 rfl rfl)
theorem dX18_is_72 : decode cX18_is 72 = .ok (.iconst 0, 1) := dk_3 (dk_at dksX18_is_3 3 rfl rfl)
theorem dX18_is_73 : decode cX18_is 73 = .ok (.goto 41, 3) := dk_167 0 41 (dk_at dksX18_is_3 4 rfl rfl)
theorem dX18_is_76 : decode cX18_is 76 = .ok (.aload_n 0, 1) := dk_42 (dk_at dksX18_is_3 7 rfl rfl)
theorem dX18_is_77 : decode cX18_is 77 = .ok (.getfield 13, 3) := dk_180 0 13 (dk_at dksX18_is_3 8 rfl rfl)
theorem dX18_is_80 : decode cX18_is 80 = .ok (.bipush 61, 2) := dk_16 61 (dk_at dksX18_is_3 11 rfl rfl)
theorem dX18_is_82 : decode cX18_is 82 = .ok (.if_icmp .ne 19, 3) := dk_160 0 19 (dk_at dksX18_is_3 13 rfl rfl)
theorem dX18_is_85 : decode cX18_is 85 = .ok (.iload_n 3, 1) := dk_29 (dk_at dksX18_is_3 16 rfl rfl)
theorem dX18_is_86 : decode cX18_is 86 = .ok (.aload_n 0, 1) := dk_42 (dk_at dksX18_is_3 17 rfl rfl)
theorem dX18_is_87 : decode cX18_is 87 = .ok (.getfield 16, 3) := dk_180 0 16 (dk_at dksX18_is_3 18 rfl rfl)
theorem dX18_is_90 : decode cX18_is 90 = .ok (.if_icmp .ne 7, 3) := dk_160 0 7 (dk_at dksX18_is_3 21 rfl rfl)
theorem dX18_is_93 : decode cX18_is 93 = .ok (.iconst 1, 1) := dk_4 (dk_at dksX18_is_4 0 rfl rfl)
theorem dX18_is_94 : decode cX18_is 94 = .ok (.goto 20, 3) := dk_167 0 20 (dk_at dksX18_is_4 1 rfl rfl)
theorem dX18_is_97 : decode cX18_is 97 = .ok (.iconst 0, 1) := dk_3 (dk_at dksX18_is_4 4 rfl rfl)
theorem dX18_is_98 : decode cX18_is 98 = .ok (.goto 16, 3) := dk_167 0 16 (dk_at dksX18_is_4 5 rfl rfl)
theorem dX18_is_101 : decode cX18_is 101 = .ok (.iload_n 3, 1) := dk_29 (dk_at dksX18_is_4 8 rfl rfl)
theorem dX18_is_102 : decode cX18_is 102 = .ok (.aload_n 0, 1) := dk_42 (dk_at dksX18_is_4 9 rfl rfl)
theorem dX18_is_103 : decode cX18_is 103 = .ok (.getfield 16, 3) := dk_180 0 16 (dk_at dksX18_is_4 10 rfl rfl)
theorem dX18_is_106 : decode cX18_is 106 = .ok (.if_icmp .le 7, 3) := dk_164 0 7 (dk_at dksX18_is_4 13 rfl rfl)
theorem dX18_is_109 : decode cX18_is 109 = .ok (.iconst 1, 1) := dk_4 (dk_at dksX18_is_4 16 rfl rfl)
theorem dX18_is_110 : decode cX18_is 110 = .ok (.goto 4, 3) := dk_167 0 4 (dk_at dksX18_is_4 17 rfl rfl)
theorem dX18_is_113 : decode cX18_is 113 = .ok (.iconst 0, 1) := dk_3 (dk_at dksX18_is_4 20 rfl rfl)
theorem dX18_is_114 : decode cX18_is 114 = .ok (.ireturn, 1) := dk_172 (dk_at dksX18_is_4 21 rfl rfl)
theorem q118 : (Jvm.Cond.initialized "CombTable$Counts") ∈ lw_all := lw_g (lw_at lw_m1 29 rfl) rfl
theorem q314 : (Jvm.Cond.fieldLinkNest "CombTable$Counts" (19 : Nat) "CombTable$Talk" "thread" "[I" "CombTable") ∈ lw_tbl := lw_at lw_m1 225 rfl
theorem q317 : (Jvm.Cond.fieldLinkNest "CombTable$Counts" (25 : Nat) "CombTable$Talk" "depth" "[I" "CombTable") ∈ lw_tbl := lw_at lw_m1 228 rfl
theorem q1282 : (Jvm.Cond.instantiable "CombTable$Counts" (3 : Nat)) ∈ lw_all := lw_g (lw_at lw_m5 233 rfl) rfl
theorem q1284 : (Jvm.Cond.instanceMethod ({ cls := "CombTable$Counts", name := "<init>", desc := "(III)V" } : Jvm.MethodName)) ∈ lw_all := lw_g (lw_at lw_m5 235 rfl) rfl
theorem q1285 : (Jvm.Cond.code ({ cls := "CombTable$Counts", name := "<init>", desc := "(III)V" } : Jvm.MethodName) prog_5_method_1_code (4 : Nat) (Option.none : Option Jvm.ClassFile.FieldType)) ∈ lw_all := lw_g (lw_at lw_m5 236 rfl) rfl
theorem q1286 : (Jvm.Cond.methodLinkNest "CombTable$Counts" (1 : Nat) ({ cls := "CombTable$Cond", name := "<init>", desc := "()V" } : Jvm.MethodName) "CombTable") ∈ lw_tbl := lw_at lw_m5 237 rfl
theorem q1287 : (Jvm.Cond.fieldLink "CombTable$Counts" (7 : Nat) "CombTable$Counts" "what" "I") ∈ lw_all := lw_g (lw_at lw_m5 238 rfl) rfl
theorem q1288 : (Jvm.Cond.fieldLink "CombTable$Counts" (13 : Nat) "CombTable$Counts" "sign" "I") ∈ lw_all := lw_g (lw_at lw_m5 239 rfl) rfl
theorem q1289 : (Jvm.Cond.fieldLink "CombTable$Counts" (16 : Nat) "CombTable$Counts" "number" "I") ∈ lw_all := lw_g (lw_at lw_m6 0 rfl) rfl
theorem q1290 : (Jvm.Cond.laysFinal "CombTable$Counts" "CombTable$Counts" "what" "I") ∈ lw_all := lw_g (lw_at lw_m6 1 rfl) rfl
theorem q1291 : (Jvm.Cond.soleField "CombTable$Counts" "what") ∈ lw_all := lw_g (lw_at lw_m6 2 rfl) rfl
theorem q1292 : (Jvm.Cond.laysFinal "CombTable$Counts" "CombTable$Counts" "sign" "I") ∈ lw_all := lw_g (lw_at lw_m6 3 rfl) rfl
theorem q1293 : (Jvm.Cond.soleField "CombTable$Counts" "sign") ∈ lw_all := lw_g (lw_at lw_m6 4 rfl) rfl
theorem q1294 : (Jvm.Cond.laysFinal "CombTable$Counts" "CombTable$Counts" "number" "I") ∈ lw_all := lw_g (lw_at lw_m6 5 rfl) rfl
theorem q1295 : (Jvm.Cond.soleField "CombTable$Counts" "number") ∈ lw_all := lw_g (lw_at lw_m6 6 rfl) rfl
theorem q1296 : (Jvm.Cond.superclass "CombTable$Counts" "CombTable$Cond") ∈ lw_all := lw_g (lw_at lw_m6 7 rfl) rfl
theorem q1339 : (Jvm.Cond.instanceMethod ({ cls := "CombTable$Counts", name := "is", desc := "(LCombTable$Talk;I)Z" } : Jvm.MethodName)) ∈ lw_all := lw_g (lw_at lw_m6 50 rfl) rfl
theorem q1340 : (Jvm.Cond.code ({ cls := "CombTable$Counts", name := "is", desc := "(LCombTable$Talk;I)Z" } : Jvm.MethodName) prog_5_method_2_code (4 : Nat) (Option.some Jvm.ClassFile.FieldType.boolean)) ∈ lw_all := lw_g (lw_at lw_m6 51 rfl) rfl
theorem q1341 : (Jvm.Cond.methodLink "CombTable$Counts" (28 : Nat) ({ cls := "CombTable$Talk", name := "stateOf", desc := "(I)I" } : Jvm.MethodName)) ∈ lw_all := lw_g (lw_at lw_m6 52 rfl) rfl
theorem q1349 : (Jvm.Cond.selects "CombTable$Counts" ({ cls := "CombTable$Cond", name := "is", desc := "(LCombTable$Talk;I)Z" } : Jvm.MethodName) ({ cls := "CombTable$Counts", name := "is", desc := "(LCombTable$Talk;I)Z" } : Jvm.MethodName)) ∈ lw_all := lw_g (lw_at lw_m6 60 rfl) rfl
theorem q2064 : (Jvm.Cond.castable "CombTable$Counts" "java/lang/Object") ∈ lw_tbl := lw_at lw_m9 55 rfl
theorem q2071 : (Jvm.Cond.castable "CombTable$Counts" "CombTable$Cond") ∈ lw_tbl := lw_at lw_m9 62 rfl
theorem in_X18 : ∀ w ∈ wsX180, w ∈ lw_all := lw_in wsX180 [1290, 1292, 1294] (by decide +kernel) (by decide +kernel)

/-! CombTable$Both -/
set_option maxRecDepth 100000
def RX19 : String := "CombTable$Both"
def TX19 : u_T := fun k => match k with
  | 0 => ("CombTable$Both", "a", "LCombTable$Cond;", true)
  | _ => ("CombTable$Both", "b", "LCombTable$Cond;", true)
def tyX19 : Nat → FieldType := fun k => match k with
  | 0 => .object "CombTable$Cond"
  | _ => .object "CombTable$Cond"
abbrev wsX190 : List Cond := u_ws RX19 TX19 2
theorem nmX19 : ∀ a, a < 2 → ∀ b, b < 2 → a ≠ b → (TX19 a).2.1 ≠ (TX19 b).2.1 := by decide +kernel
theorem tyX19_ok : ∀ k, k < 2 → parseFieldDescriptor (TX19 k).2.2.1 = some (tyX19 k) := by decide +kernel
abbrev cX19_init : ByteArray := prog_3_method_1_code
def yX19_init : MethodName := ⟨RX19, "<init>", "(LCombTable$Cond;LCombTable$Cond;)V"⟩
def dkwX19_init_0 : List UInt8 := [42, 183, 0, 1, 42, 43, 181, 0, 7, 42, 44, 181, 0, 13, 177]
abbrev dktX19_init_0 : List UInt8 := dkwX19_init_0 ++ []
theorem dksX19_init_0 : cX19_init.data.toList.drop 0 = dktX19_init_0 := by decide +kernel
theorem dX19_init_0 : decode cX19_init 0 = .ok (.aload_n 0, 1) := dk_42 (dk_at dksX19_init_0 0 rfl rfl)
theorem dX19_init_1 : decode cX19_init 1 = .ok (.invokespecial 1, 3) := dk_183 0 1 (dk_at dksX19_init_0 1 rfl rfl)
theorem dX19_init_4 : decode cX19_init 4 = .ok (.aload_n 0, 1) := dk_42 (dk_at dksX19_init_0 4 rfl rfl)
theorem dX19_init_5 : decode cX19_init 5 = .ok (.aload_n 1, 1) := dk_43 (dk_at dksX19_init_0 5 rfl rfl)
theorem dX19_init_6 : decode cX19_init 6 = .ok (.putfield 7, 3) := dk_181 0 7 (dk_at dksX19_init_0 6 rfl rfl)
theorem dX19_init_9 : decode cX19_init 9 = .ok (.aload_n 0, 1) := dk_42 (dk_at dksX19_init_0 9 rfl rfl)
theorem dX19_init_10 : decode cX19_init 10 = .ok (.aload_n 2, 1) := dk_44 (dk_at dksX19_init_0 10 rfl rfl)
theorem dX19_init_11 : decode cX19_init 11 = .ok (.putfield 13, 3) := dk_181 0 13 (dk_at dksX19_init_0 11 rfl rfl)
theorem dX19_init_14 : decode cX19_init 14 = .ok (.return_, 1) := dk_177 (dk_at dksX19_init_0 14 rfl rfl)
abbrev cX19_is : ByteArray := prog_3_method_2_code
def yX19_is : MethodName := ⟨RX19, "is", "(LCombTable$Talk;I)Z"⟩
def dkwX19_is_1 : List UInt8 := [4, 167, 0, 4, 3, 172]
abbrev dktX19_is_1 : List UInt8 := dkwX19_is_1 ++ []
def dkwX19_is_0 : List UInt8 := [42, 180, 0, 7, 43, 28, 182, 0, 16, 153, 0, 19, 42, 180, 0, 13, 43, 28, 182, 0, 16, 153, 0, 7]
abbrev dktX19_is_0 : List UInt8 := dkwX19_is_0 ++ dktX19_is_1
theorem dksX19_is_0 : cX19_is.data.toList.drop 0 = dktX19_is_0 := by decide +kernel
theorem dksX19_is_1 : cX19_is.data.toList.drop 24 = dktX19_is_1 := dk_seg dksX19_is_0 24 rfl rfl
theorem dX19_is_0 : decode cX19_is 0 = .ok (.aload_n 0, 1) := dk_42 (dk_at dksX19_is_0 0 rfl rfl)
theorem dX19_is_1 : decode cX19_is 1 = .ok (.getfield 7, 3) := dk_180 0 7 (dk_at dksX19_is_0 1 rfl rfl)
theorem dX19_is_4 : decode cX19_is 4 = .ok (.aload_n 1, 1) := dk_43 (dk_at dksX19_is_0 4 rfl rfl)
theorem dX19_is_5 : decode cX19_is 5 = .ok (.iload_n 2, 1) := dk_28 (dk_at dksX19_is_0 5 rfl rfl)
theorem dX19_is_6 : decode cX19_is 6 = .ok (.invokevirtual 16, 3) := dk_182 0 16 (dk_at dksX19_is_0 6 rfl rfl)
theorem dX19_is_9 : decode cX19_is 9 = .ok (.ifCond .eq 19, 3) := dk_153 0 19 (dk_at dksX19_is_0 9 rfl rfl)
theorem dX19_is_12 : decode cX19_is 12 = .ok (.aload_n 0, 1) := dk_42 (dk_at dksX19_is_0 12 rfl rfl)
theorem dX19_is_13 : decode cX19_is 13 = .ok (.getfield 13, 3) := dk_180 0 13 (dk_at dksX19_is_0 13 rfl rfl)
theorem dX19_is_16 : decode cX19_is 16 = .ok (.aload_n 1, 1) := dk_43 (dk_at dksX19_is_0 16 rfl rfl)
theorem dX19_is_17 : decode cX19_is 17 = .ok (.iload_n 2, 1) := dk_28 (dk_at dksX19_is_0 17 rfl rfl)
theorem dX19_is_18 : decode cX19_is 18 = .ok (.invokevirtual 16, 3) := dk_182 0 16 (dk_at dksX19_is_0 18 rfl rfl)
theorem dX19_is_21 : decode cX19_is 21 = .ok (.ifCond .eq 7, 3) := dk_153 0 7 (dk_at dksX19_is_0 21 rfl rfl)
theorem dX19_is_24 : decode cX19_is 24 = .ok (.iconst 1, 1) := dk_4 (dk_at dksX19_is_1 0 rfl rfl)
theorem dX19_is_25 : decode cX19_is 25 = .ok (.goto 4, 3) := dk_167 0 4 (dk_at dksX19_is_1 1 rfl rfl)
theorem dX19_is_28 : decode cX19_is 28 = .ok (.iconst 0, 1) := dk_3 (dk_at dksX19_is_1 4 rfl rfl)
theorem dX19_is_29 : decode cX19_is 29 = .ok (.ireturn, 1) := dk_172 (dk_at dksX19_is_1 5 rfl rfl)
theorem q119 : (Jvm.Cond.initialized "CombTable$Both") ∈ lw_all := lw_g (lw_at lw_m1 30 rfl) rfl
theorem q1299 : (Jvm.Cond.instantiable "CombTable$Both" (2 : Nat)) ∈ lw_all := lw_g (lw_at lw_m6 10 rfl) rfl
theorem q1301 : (Jvm.Cond.instanceMethod ({ cls := "CombTable$Both", name := "<init>", desc := "(LCombTable$Cond;LCombTable$Cond;)V" } : Jvm.MethodName)) ∈ lw_all := lw_g (lw_at lw_m6 12 rfl) rfl
theorem q1302 : (Jvm.Cond.code ({ cls := "CombTable$Both", name := "<init>", desc := "(LCombTable$Cond;LCombTable$Cond;)V" } : Jvm.MethodName) prog_3_method_1_code (3 : Nat) (Option.none : Option Jvm.ClassFile.FieldType)) ∈ lw_all := lw_g (lw_at lw_m6 13 rfl) rfl
theorem q1303 : (Jvm.Cond.methodLinkNest "CombTable$Both" (1 : Nat) ({ cls := "CombTable$Cond", name := "<init>", desc := "()V" } : Jvm.MethodName) "CombTable") ∈ lw_tbl := lw_at lw_m6 14 rfl
theorem q1304 : (Jvm.Cond.fieldLink "CombTable$Both" (7 : Nat) "CombTable$Both" "a" "LCombTable$Cond;") ∈ lw_all := lw_g (lw_at lw_m6 15 rfl) rfl
theorem q1305 : (Jvm.Cond.fieldLink "CombTable$Both" (13 : Nat) "CombTable$Both" "b" "LCombTable$Cond;") ∈ lw_all := lw_g (lw_at lw_m6 16 rfl) rfl
theorem q1306 : (Jvm.Cond.laysFinal "CombTable$Both" "CombTable$Both" "a" "LCombTable$Cond;") ∈ lw_all := lw_g (lw_at lw_m6 17 rfl) rfl
theorem q1307 : (Jvm.Cond.soleField "CombTable$Both" "a") ∈ lw_all := lw_g (lw_at lw_m6 18 rfl) rfl
theorem q1308 : (Jvm.Cond.laysFinal "CombTable$Both" "CombTable$Both" "b" "LCombTable$Cond;") ∈ lw_all := lw_g (lw_at lw_m6 19 rfl) rfl
theorem q1309 : (Jvm.Cond.soleField "CombTable$Both" "b") ∈ lw_all := lw_g (lw_at lw_m6 20 rfl) rfl
theorem q1310 : (Jvm.Cond.superclass "CombTable$Both" "CombTable$Cond") ∈ lw_all := lw_g (lw_at lw_m6 21 rfl) rfl
theorem q1336 : (Jvm.Cond.instanceMethod ({ cls := "CombTable$Both", name := "is", desc := "(LCombTable$Talk;I)Z" } : Jvm.MethodName)) ∈ lw_all := lw_g (lw_at lw_m6 47 rfl) rfl
theorem q1337 : (Jvm.Cond.code ({ cls := "CombTable$Both", name := "is", desc := "(LCombTable$Talk;I)Z" } : Jvm.MethodName) prog_3_method_2_code (3 : Nat) (Option.some Jvm.ClassFile.FieldType.boolean)) ∈ lw_all := lw_g (lw_at lw_m6 48 rfl) rfl
theorem q1338 : (Jvm.Cond.methodLink "CombTable$Both" (16 : Nat) ({ cls := "CombTable$Cond", name := "is", desc := "(LCombTable$Talk;I)Z" } : Jvm.MethodName)) ∈ lw_all := lw_g (lw_at lw_m6 49 rfl) rfl
theorem q1348 : (Jvm.Cond.selects "CombTable$Both" ({ cls := "CombTable$Cond", name := "is", desc := "(LCombTable$Talk;I)Z" } : Jvm.MethodName) ({ cls := "CombTable$Both", name := "is", desc := "(LCombTable$Talk;I)Z" } : Jvm.MethodName)) ∈ lw_all := lw_g (lw_at lw_m6 59 rfl) rfl
theorem q2065 : (Jvm.Cond.castable "CombTable$Both" "java/lang/Object") ∈ lw_tbl := lw_at lw_m9 56 rfl
theorem q2072 : (Jvm.Cond.castable "CombTable$Both" "CombTable$Cond") ∈ lw_tbl := lw_at lw_m9 63 rfl
theorem in_X19 : ∀ w ∈ wsX190, w ∈ lw_all := lw_in wsX190 [1306, 1308] (by decide +kernel) (by decide +kernel)

/-! CombTable$Fault -/
set_option maxRecDepth 100000
def RX2 : String := "CombTable$Fault"
def TX2 : u_T := fun k => match k with
  | 0 => ("java/lang/Throwable", "cause", "Ljava/lang/Throwable;", false)
  | 1 => ("java/lang/Throwable", "stackTrace", "[Ljava/lang/StackTraceElement;", false)
  | 2 => ("java/lang/Throwable", "suppressedExceptions", "Ljava/util/List;", false)
  | 3 => ("java/lang/Throwable", "detailMessage", "Ljava/lang/String;", false)
  | 4 => ("java/lang/Throwable", "backtrace", "Ljava/lang/Object;", false)
  | 5 => ("java/lang/Throwable", "depth", "I", false)
  | 6 => ("CombTable$Fault", "kind", "I", false)
  | _ => ("CombTable$Fault", "place", "I", false)
def tyX2 : Nat → FieldType := fun k => match k with
  | 0 => .object "java/lang/Throwable"
  | 1 => .array (.object "java/lang/StackTraceElement")
  | 2 => .object "java/util/List"
  | 3 => .object "java/lang/String"
  | 4 => .object "java/lang/Object"
  | 5 => .int
  | 6 => .int
  | _ => .int
abbrev wsX20 : List Cond := u_ws RX2 TX2 8
theorem nmX2 : ∀ a, a < 8 → ∀ b, b < 8 → a ≠ b → (TX2 a).2.1 ≠ (TX2 b).2.1 := by decide +kernel
theorem tyX2_ok : ∀ k, k < 8 → parseFieldDescriptor (TX2 k).2.2.1 = some (tyX2 k) := by decide +kernel
abbrev cX2_init : ByteArray := prog_6_method_1_code
def yX2_init : MethodName := ⟨RX2, "<init>", "()V"⟩
def dkwX2_init_0 : List UInt8 := [42, 1, 1, 3, 3, 183, 0, 1, 177]
abbrev dktX2_init_0 : List UInt8 := dkwX2_init_0 ++ []
theorem dksX2_init_0 : cX2_init.data.toList.drop 0 = dktX2_init_0 := by decide +kernel
theorem dX2_init_0 : decode cX2_init 0 = .ok (.aload_n 0, 1) := dk_42 (dk_at dksX2_init_0 0 rfl rfl)
theorem dX2_init_1 : decode cX2_init 1 = .ok (.aconst_null, 1) := dk_1 (dk_at dksX2_init_0 1 rfl rfl)
theorem dX2_init_2 : decode cX2_init 2 = .ok (.aconst_null, 1) := dk_1 (dk_at dksX2_init_0 2 rfl rfl)
theorem dX2_init_3 : decode cX2_init 3 = .ok (.iconst 0, 1) := dk_3 (dk_at dksX2_init_0 3 rfl rfl)
theorem dX2_init_4 : decode cX2_init 4 = .ok (.iconst 0, 1) := dk_3 (dk_at dksX2_init_0 4 rfl rfl)
theorem dX2_init_5 : decode cX2_init 5 = .ok (.invokespecial 1, 3) := dk_183 0 1 (dk_at dksX2_init_0 5 rfl rfl)
theorem dX2_init_8 : decode cX2_init 8 = .ok (.return_, 1) := dk_177 (dk_at dksX2_init_0 8 rfl rfl)
theorem q93 : (Jvm.Cond.initialized "CombTable$Fault") ∈ lw_all := lw_g (lw_at lw_m1 4 rfl) rfl
theorem q130 : (Jvm.Cond.instantiable "CombTable$Fault" (8 : Nat)) ∈ lw_all := lw_g (lw_at lw_m1 41 rfl) rfl
theorem q131 : (Jvm.Cond.castable "CombTable$Fault" "CombTable$Fault") ∈ lw_tbl := lw_at lw_m1 42 rfl
theorem q136 : (Jvm.Cond.selects "CombTable$Fault" ({ cls := "java/lang/Throwable", name := "fillInStackTrace", desc := "(I)Ljava/lang/Throwable;" } : Jvm.MethodName) ({ cls := "java/lang/Throwable", name := "fillInStackTrace", desc := "(I)Ljava/lang/Throwable;" } : Jvm.MethodName)) ∈ lw_all := lw_g (lw_at lw_m1 47 rfl) rfl
theorem q137 : (Jvm.Cond.selects "CombTable$Fault" ({ cls := "java/lang/Throwable", name := "fillInStackTrace", desc := "()Ljava/lang/Throwable;" } : Jvm.MethodName) ({ cls := "java/lang/Throwable", name := "fillInStackTrace", desc := "()Ljava/lang/Throwable;" } : Jvm.MethodName)) ∈ lw_all := lw_g (lw_at lw_m1 48 rfl) rfl
theorem q138 : (Jvm.Cond.lays "CombTable$Fault" "java/lang/Throwable" "cause" "Ljava/lang/Throwable;") ∈ lw_all := lw_g (lw_at lw_m1 49 rfl) rfl
theorem q140 : (Jvm.Cond.lays "CombTable$Fault" "java/lang/Throwable" "stackTrace" "[Ljava/lang/StackTraceElement;") ∈ lw_all := lw_g (lw_at lw_m1 51 rfl) rfl
theorem q142 : (Jvm.Cond.lays "CombTable$Fault" "java/lang/Throwable" "suppressedExceptions" "Ljava/util/List;") ∈ lw_all := lw_g (lw_at lw_m1 53 rfl) rfl
theorem q144 : (Jvm.Cond.lays "CombTable$Fault" "java/lang/Throwable" "detailMessage" "Ljava/lang/String;") ∈ lw_all := lw_g (lw_at lw_m1 55 rfl) rfl
theorem q146 : (Jvm.Cond.lays "CombTable$Fault" "java/lang/Throwable" "backtrace" "Ljava/lang/Object;") ∈ lw_all := lw_g (lw_at lw_m1 57 rfl) rfl
theorem q168 : (Jvm.Cond.instanceMethod ({ cls := "CombTable$Fault", name := "<init>", desc := "()V" } : Jvm.MethodName)) ∈ lw_all := lw_g (lw_at lw_m1 79 rfl) rfl
theorem q169 : (Jvm.Cond.code ({ cls := "CombTable$Fault", name := "<init>", desc := "()V" } : Jvm.MethodName) prog_6_method_1_code (1 : Nat) (Option.none : Option Jvm.ClassFile.FieldType)) ∈ lw_all := lw_g (lw_at lw_m1 80 rfl) rfl
theorem q170 : (Jvm.Cond.methodLink "CombTable$Fault" (1 : Nat) ({ cls := "java/lang/Exception", name := "<init>", desc := "(Ljava/lang/String;Ljava/lang/Throwable;ZZ)V" } : Jvm.MethodName)) ∈ lw_all := lw_g (lw_at lw_m1 81 rfl) rfl
theorem q185 : (Jvm.Cond.lays "CombTable$Fault" "CombTable$Fault" "kind" "I") ∈ lw_all := lw_g (lw_at lw_m1 96 rfl) rfl
theorem q186 : (Jvm.Cond.soleField "CombTable$Fault" "kind") ∈ lw_all := lw_g (lw_at lw_m1 97 rfl) rfl
theorem q187 : (Jvm.Cond.lays "CombTable$Fault" "CombTable$Fault" "place" "I") ∈ lw_all := lw_g (lw_at lw_m1 98 rfl) rfl
theorem q188 : (Jvm.Cond.soleField "CombTable$Fault" "place") ∈ lw_all := lw_g (lw_at lw_m1 99 rfl) rfl
theorem q193 : (Jvm.Cond.lays "CombTable$Fault" "java/lang/Throwable" "depth" "I") ∈ lw_all := lw_g (lw_at lw_m1 104 rfl) rfl
theorem q196 : (Jvm.Cond.superclass "CombTable$Fault" "java/lang/Exception") ∈ lw_all := lw_g (lw_at lw_m1 107 rfl) rfl
theorem q2050 : (Jvm.Cond.castable "CombTable$Fault" "java/lang/Object") ∈ lw_tbl := lw_at lw_m9 41 rfl
theorem in_X2 : ∀ w ∈ wsX20, w ∈ lw_all := lw_in wsX20 [138, 140, 142, 144, 146, 193, 185, 187] (by decide +kernel) (by decide +kernel)

/-! CombTable$Any -/
set_option maxRecDepth 100000
def RX20 : String := "CombTable$Any"
def TX20 : u_T := fun k => match k with
  | 0 => ("CombTable$Any", "a", "LCombTable$Cond;", true)
  | _ => ("CombTable$Any", "b", "LCombTable$Cond;", true)
def tyX20 : Nat → FieldType := fun k => match k with
  | 0 => .object "CombTable$Cond"
  | _ => .object "CombTable$Cond"
abbrev wsX200 : List Cond := u_ws RX20 TX20 2
theorem nmX20 : ∀ a, a < 2 → ∀ b, b < 2 → a ≠ b → (TX20 a).2.1 ≠ (TX20 b).2.1 := by decide +kernel
theorem tyX20_ok : ∀ k, k < 2 → parseFieldDescriptor (TX20 k).2.2.1 = some (tyX20 k) := by decide +kernel
abbrev cX20_init : ByteArray := prog_2_method_1_code
def yX20_init : MethodName := ⟨RX20, "<init>", "(LCombTable$Cond;LCombTable$Cond;)V"⟩
def dkwX20_init_0 : List UInt8 := [42, 183, 0, 1, 42, 43, 181, 0, 7, 42, 44, 181, 0, 13, 177]
abbrev dktX20_init_0 : List UInt8 := dkwX20_init_0 ++ []
theorem dksX20_init_0 : cX20_init.data.toList.drop 0 = dktX20_init_0 := by decide +kernel
theorem dX20_init_0 : decode cX20_init 0 = .ok (.aload_n 0, 1) := dk_42 (dk_at dksX20_init_0 0 rfl rfl)
theorem dX20_init_1 : decode cX20_init 1 = .ok (.invokespecial 1, 3) := dk_183 0 1 (dk_at dksX20_init_0 1 rfl rfl)
theorem dX20_init_4 : decode cX20_init 4 = .ok (.aload_n 0, 1) := dk_42 (dk_at dksX20_init_0 4 rfl rfl)
theorem dX20_init_5 : decode cX20_init 5 = .ok (.aload_n 1, 1) := dk_43 (dk_at dksX20_init_0 5 rfl rfl)
theorem dX20_init_6 : decode cX20_init 6 = .ok (.putfield 7, 3) := dk_181 0 7 (dk_at dksX20_init_0 6 rfl rfl)
theorem dX20_init_9 : decode cX20_init 9 = .ok (.aload_n 0, 1) := dk_42 (dk_at dksX20_init_0 9 rfl rfl)
theorem dX20_init_10 : decode cX20_init 10 = .ok (.aload_n 2, 1) := dk_44 (dk_at dksX20_init_0 10 rfl rfl)
theorem dX20_init_11 : decode cX20_init 11 = .ok (.putfield 13, 3) := dk_181 0 13 (dk_at dksX20_init_0 11 rfl rfl)
theorem dX20_init_14 : decode cX20_init 14 = .ok (.return_, 1) := dk_177 (dk_at dksX20_init_0 14 rfl rfl)
abbrev cX20_is : ByteArray := prog_2_method_2_code
def yX20_is : MethodName := ⟨RX20, "is", "(LCombTable$Talk;I)Z"⟩
def dkwX20_is_1 : List UInt8 := [4, 167, 0, 4, 3, 172]
abbrev dktX20_is_1 : List UInt8 := dkwX20_is_1 ++ []
def dkwX20_is_0 : List UInt8 := [42, 180, 0, 7, 43, 28, 182, 0, 16, 154, 0, 15, 42, 180, 0, 13, 43, 28, 182, 0, 16, 153, 0, 7]
abbrev dktX20_is_0 : List UInt8 := dkwX20_is_0 ++ dktX20_is_1
theorem dksX20_is_0 : cX20_is.data.toList.drop 0 = dktX20_is_0 := by decide +kernel
theorem dksX20_is_1 : cX20_is.data.toList.drop 24 = dktX20_is_1 := dk_seg dksX20_is_0 24 rfl rfl
theorem dX20_is_0 : decode cX20_is 0 = .ok (.aload_n 0, 1) := dk_42 (dk_at dksX20_is_0 0 rfl rfl)
theorem dX20_is_1 : decode cX20_is 1 = .ok (.getfield 7, 3) := dk_180 0 7 (dk_at dksX20_is_0 1 rfl rfl)
theorem dX20_is_4 : decode cX20_is 4 = .ok (.aload_n 1, 1) := dk_43 (dk_at dksX20_is_0 4 rfl rfl)
theorem dX20_is_5 : decode cX20_is 5 = .ok (.iload_n 2, 1) := dk_28 (dk_at dksX20_is_0 5 rfl rfl)
theorem dX20_is_6 : decode cX20_is 6 = .ok (.invokevirtual 16, 3) := dk_182 0 16 (dk_at dksX20_is_0 6 rfl rfl)
theorem dX20_is_9 : decode cX20_is 9 = .ok (.ifCond .ne 15, 3) := dk_154 0 15 (dk_at dksX20_is_0 9 rfl rfl)
theorem dX20_is_12 : decode cX20_is 12 = .ok (.aload_n 0, 1) := dk_42 (dk_at dksX20_is_0 12 rfl rfl)
theorem dX20_is_13 : decode cX20_is 13 = .ok (.getfield 13, 3) := dk_180 0 13 (dk_at dksX20_is_0 13 rfl rfl)
theorem dX20_is_16 : decode cX20_is 16 = .ok (.aload_n 1, 1) := dk_43 (dk_at dksX20_is_0 16 rfl rfl)
theorem dX20_is_17 : decode cX20_is 17 = .ok (.iload_n 2, 1) := dk_28 (dk_at dksX20_is_0 17 rfl rfl)
theorem dX20_is_18 : decode cX20_is 18 = .ok (.invokevirtual 16, 3) := dk_182 0 16 (dk_at dksX20_is_0 18 rfl rfl)
theorem dX20_is_21 : decode cX20_is 21 = .ok (.ifCond .eq 7, 3) := dk_153 0 7 (dk_at dksX20_is_0 21 rfl rfl)
theorem dX20_is_24 : decode cX20_is 24 = .ok (.iconst 1, 1) := dk_4 (dk_at dksX20_is_1 0 rfl rfl)
theorem dX20_is_25 : decode cX20_is 25 = .ok (.goto 4, 3) := dk_167 0 4 (dk_at dksX20_is_1 1 rfl rfl)
theorem dX20_is_28 : decode cX20_is 28 = .ok (.iconst 0, 1) := dk_3 (dk_at dksX20_is_1 4 rfl rfl)
theorem dX20_is_29 : decode cX20_is 29 = .ok (.ireturn, 1) := dk_172 (dk_at dksX20_is_1 5 rfl rfl)
theorem q120 : (Jvm.Cond.initialized "CombTable$Any") ∈ lw_all := lw_g (lw_at lw_m1 31 rfl) rfl
theorem q1313 : (Jvm.Cond.instantiable "CombTable$Any" (2 : Nat)) ∈ lw_all := lw_g (lw_at lw_m6 24 rfl) rfl
theorem q1315 : (Jvm.Cond.instanceMethod ({ cls := "CombTable$Any", name := "<init>", desc := "(LCombTable$Cond;LCombTable$Cond;)V" } : Jvm.MethodName)) ∈ lw_all := lw_g (lw_at lw_m6 26 rfl) rfl
theorem q1316 : (Jvm.Cond.code ({ cls := "CombTable$Any", name := "<init>", desc := "(LCombTable$Cond;LCombTable$Cond;)V" } : Jvm.MethodName) prog_2_method_1_code (3 : Nat) (Option.none : Option Jvm.ClassFile.FieldType)) ∈ lw_all := lw_g (lw_at lw_m6 27 rfl) rfl
theorem q1317 : (Jvm.Cond.methodLinkNest "CombTable$Any" (1 : Nat) ({ cls := "CombTable$Cond", name := "<init>", desc := "()V" } : Jvm.MethodName) "CombTable") ∈ lw_tbl := lw_at lw_m6 28 rfl
theorem q1318 : (Jvm.Cond.fieldLink "CombTable$Any" (7 : Nat) "CombTable$Any" "a" "LCombTable$Cond;") ∈ lw_all := lw_g (lw_at lw_m6 29 rfl) rfl
theorem q1319 : (Jvm.Cond.fieldLink "CombTable$Any" (13 : Nat) "CombTable$Any" "b" "LCombTable$Cond;") ∈ lw_all := lw_g (lw_at lw_m6 30 rfl) rfl
theorem q1320 : (Jvm.Cond.laysFinal "CombTable$Any" "CombTable$Any" "a" "LCombTable$Cond;") ∈ lw_all := lw_g (lw_at lw_m6 31 rfl) rfl
theorem q1321 : (Jvm.Cond.soleField "CombTable$Any" "a") ∈ lw_all := lw_g (lw_at lw_m6 32 rfl) rfl
theorem q1322 : (Jvm.Cond.laysFinal "CombTable$Any" "CombTable$Any" "b" "LCombTable$Cond;") ∈ lw_all := lw_g (lw_at lw_m6 33 rfl) rfl
theorem q1323 : (Jvm.Cond.soleField "CombTable$Any" "b") ∈ lw_all := lw_g (lw_at lw_m6 34 rfl) rfl
theorem q1324 : (Jvm.Cond.superclass "CombTable$Any" "CombTable$Cond") ∈ lw_all := lw_g (lw_at lw_m6 35 rfl) rfl
theorem q1332 : (Jvm.Cond.selects "CombTable$Any" ({ cls := "CombTable$Cond", name := "is", desc := "(LCombTable$Talk;I)Z" } : Jvm.MethodName) ({ cls := "CombTable$Any", name := "is", desc := "(LCombTable$Talk;I)Z" } : Jvm.MethodName)) ∈ lw_all := lw_g (lw_at lw_m6 43 rfl) rfl
theorem q1333 : (Jvm.Cond.instanceMethod ({ cls := "CombTable$Any", name := "is", desc := "(LCombTable$Talk;I)Z" } : Jvm.MethodName)) ∈ lw_all := lw_g (lw_at lw_m6 44 rfl) rfl
theorem q1334 : (Jvm.Cond.code ({ cls := "CombTable$Any", name := "is", desc := "(LCombTable$Talk;I)Z" } : Jvm.MethodName) prog_2_method_2_code (3 : Nat) (Option.some Jvm.ClassFile.FieldType.boolean)) ∈ lw_all := lw_g (lw_at lw_m6 45 rfl) rfl
theorem q1335 : (Jvm.Cond.methodLink "CombTable$Any" (16 : Nat) ({ cls := "CombTable$Cond", name := "is", desc := "(LCombTable$Talk;I)Z" } : Jvm.MethodName)) ∈ lw_all := lw_g (lw_at lw_m6 46 rfl) rfl
theorem q2066 : (Jvm.Cond.castable "CombTable$Any" "java/lang/Object") ∈ lw_tbl := lw_at lw_m9 57 rfl
theorem q2073 : (Jvm.Cond.castable "CombTable$Any" "CombTable$Cond") ∈ lw_tbl := lw_at lw_m9 64 rfl
theorem in_X20 : ∀ w ∈ wsX200, w ∈ lw_all := lw_in wsX200 [1320, 1322] (by decide +kernel) (by decide +kernel)

/-! CombTable$Talk -/
set_option maxRecDepth 100000
def RX3 : String := "CombTable$Talk"
def TX3 : u_T := fun k => match k with
  | 0 => ("CombTable$Talk", "table", "LCombTable$Table;", false)
  | 1 => ("CombTable$Talk", "who", "[I", true)
  | 2 => ("CombTable$Talk", "kind", "[I", true)
  | 3 => ("CombTable$Talk", "answers", "[I", true)
  | 4 => ("CombTable$Talk", "thread", "[I", true)
  | 5 => ("CombTable$Talk", "depth", "[I", true)
  | 6 => ("CombTable$Talk", "state", "[I", true)
  | 7 => ("CombTable$Talk", "was", "[I", true)
  | 8 => ("CombTable$Talk", "many", "I", false)
  | _ => ("CombTable$Talk", "threads", "I", false)
def tyX3 : Nat → FieldType := fun k => match k with
  | 0 => .object "CombTable$Table"
  | 1 => .array .int
  | 2 => .array .int
  | 3 => .array .int
  | 4 => .array .int
  | 5 => .array .int
  | 6 => .array .int
  | 7 => .array .int
  | 8 => .int
  | _ => .int
abbrev wsX30 : List Cond := u_ws RX3 TX3 10
theorem nmX3 : ∀ a, a < 10 → ∀ b, b < 10 → a ≠ b → (TX3 a).2.1 ≠ (TX3 b).2.1 := by decide +kernel
theorem tyX3_ok : ∀ k, k < 10 → parseFieldDescriptor (TX3 k).2.2.1 = some (tyX3 k) := by decide +kernel
abbrev cX3_init : ByteArray := prog_17_method_1_code
def yX3_init : MethodName := ⟨RX3, "<init>", "()V"⟩
def dkwX3_init_3 : List UInt8 := [17, 1, 144, 188, 10, 181, 0, 37, 177]
abbrev dktX3_init_3 : List UInt8 := dkwX3_init_3 ++ []
def dkwX3_init_2 : List UInt8 := [181, 0, 28, 42, 17, 1, 144, 188, 10, 181, 0, 31, 42, 17, 1, 144, 188, 10, 181, 0, 34, 42]
abbrev dktX3_init_2 : List UInt8 := dkwX3_init_2 ++ dktX3_init_3
def dkwX3_init_1 : List UInt8 := [42, 17, 1, 144, 188, 10, 181, 0, 22, 42, 17, 1, 144, 188, 10, 181, 0, 25, 42, 17, 1, 144, 188, 10]
abbrev dktX3_init_1 : List UInt8 := dkwX3_init_1 ++ dktX3_init_2
def dkwX3_init_0 : List UInt8 := [42, 183, 0, 3, 42, 187, 0, 9, 89, 183, 0, 11, 181, 0, 12, 42, 17, 1, 144, 188, 10, 181, 0, 18]
abbrev dktX3_init_0 : List UInt8 := dkwX3_init_0 ++ dktX3_init_1
theorem dksX3_init_0 : cX3_init.data.toList.drop 0 = dktX3_init_0 := by decide +kernel
theorem dksX3_init_1 : cX3_init.data.toList.drop 24 = dktX3_init_1 := dk_seg dksX3_init_0 24 rfl rfl
theorem dksX3_init_2 : cX3_init.data.toList.drop 48 = dktX3_init_2 := dk_seg dksX3_init_1 24 rfl rfl
theorem dksX3_init_3 : cX3_init.data.toList.drop 70 = dktX3_init_3 := dk_seg dksX3_init_2 22 rfl rfl
theorem dX3_init_0 : decode cX3_init 0 = .ok (.aload_n 0, 1) := dk_42 (dk_at dksX3_init_0 0 rfl rfl)
theorem dX3_init_1 : decode cX3_init 1 = .ok (.invokespecial 3, 3) := dk_183 0 3 (dk_at dksX3_init_0 1 rfl rfl)
theorem dX3_init_4 : decode cX3_init 4 = .ok (.aload_n 0, 1) := dk_42 (dk_at dksX3_init_0 4 rfl rfl)
theorem dX3_init_5 : decode cX3_init 5 = .ok (.new 9, 3) := dk_187 0 9 (dk_at dksX3_init_0 5 rfl rfl)
theorem dX3_init_8 : decode cX3_init 8 = .ok (.dup, 1) := dk_89 (dk_at dksX3_init_0 8 rfl rfl)
theorem dX3_init_9 : decode cX3_init 9 = .ok (.invokespecial 11, 3) := dk_183 0 11 (dk_at dksX3_init_0 9 rfl rfl)
theorem dX3_init_12 : decode cX3_init 12 = .ok (.putfield 12, 3) := dk_181 0 12 (dk_at dksX3_init_0 12 rfl rfl)
theorem dX3_init_15 : decode cX3_init 15 = .ok (.aload_n 0, 1) := dk_42 (dk_at dksX3_init_0 15 rfl rfl)
theorem dX3_init_16 : decode cX3_init 16 = .ok (.sipush 400, 3) := dk_17 1 144 (dk_at dksX3_init_0 16 rfl rfl)
theorem dX3_init_19 : decode cX3_init 19 = .ok (.newarray .int, 2) := dk_188_10 (dk_at dksX3_init_0 19 rfl rfl)
theorem dX3_init_21 : decode cX3_init 21 = .ok (.putfield 18, 3) := dk_181 0 18 (dk_at dksX3_init_0 21 rfl rfl)
theorem dX3_init_24 : decode cX3_init 24 = .ok (.aload_n 0, 1) := dk_42 (dk_at dksX3_init_1 0 rfl rfl)
theorem dX3_init_25 : decode cX3_init 25 = .ok (.sipush 400, 3) := dk_17 1 144 (dk_at dksX3_init_1 1 rfl rfl)
theorem dX3_init_28 : decode cX3_init 28 = .ok (.newarray .int, 2) := dk_188_10 (dk_at dksX3_init_1 4 rfl rfl)
theorem dX3_init_30 : decode cX3_init 30 = .ok (.putfield 22, 3) := dk_181 0 22 (dk_at dksX3_init_1 6 rfl rfl)
theorem dX3_init_33 : decode cX3_init 33 = .ok (.aload_n 0, 1) := dk_42 (dk_at dksX3_init_1 9 rfl rfl)
theorem dX3_init_34 : decode cX3_init 34 = .ok (.sipush 400, 3) := dk_17 1 144 (dk_at dksX3_init_1 10 rfl rfl)
theorem dX3_init_37 : decode cX3_init 37 = .ok (.newarray .int, 2) := dk_188_10 (dk_at dksX3_init_1 13 rfl rfl)
theorem dX3_init_39 : decode cX3_init 39 = .ok (.putfield 25, 3) := dk_181 0 25 (dk_at dksX3_init_1 15 rfl rfl)
theorem dX3_init_42 : decode cX3_init 42 = .ok (.aload_n 0, 1) := dk_42 (dk_at dksX3_init_1 18 rfl rfl)
theorem dX3_init_43 : decode cX3_init 43 = .ok (.sipush 400, 3) := dk_17 1 144 (dk_at dksX3_init_1 19 rfl rfl)
theorem dX3_init_46 : decode cX3_init 46 = .ok (.newarray .int, 2) := dk_188_10 (dk_at dksX3_init_1 22 rfl rfl)
theorem dX3_init_48 : decode cX3_init 48 = .ok (.putfield 28, 3) := dk_181 0 28 (dk_at dksX3_init_2 0 rfl rfl)
theorem dX3_init_51 : decode cX3_init 51 = .ok (.aload_n 0, 1) := dk_42 (dk_at dksX3_init_2 3 rfl rfl)
theorem dX3_init_52 : decode cX3_init 52 = .ok (.sipush 400, 3) := dk_17 1 144 (dk_at dksX3_init_2 4 rfl rfl)
theorem dX3_init_55 : decode cX3_init 55 = .ok (.newarray .int, 2) := dk_188_10 (dk_at dksX3_init_2 7 rfl rfl)
theorem dX3_init_57 : decode cX3_init 57 = .ok (.putfield 31, 3) := dk_181 0 31 (dk_at dksX3_init_2 9 rfl rfl)
theorem dX3_init_60 : decode cX3_init 60 = .ok (.aload_n 0, 1) := dk_42 (dk_at dksX3_init_2 12 rfl rfl)
theorem dX3_init_61 : decode cX3_init 61 = .ok (.sipush 400, 3) := dk_17 1 144 (dk_at dksX3_init_2 13 rfl rfl)
theorem dX3_init_64 : decode cX3_init 64 = .ok (.newarray .int, 2) := dk_188_10 (dk_at dksX3_init_2 16 rfl rfl)
theorem dX3_init_66 : decode cX3_init 66 = .ok (.putfield 34, 3) := dk_181 0 34 (dk_at dksX3_init_2 18 rfl rfl)
theorem dX3_init_69 : decode cX3_init 69 = .ok (.aload_n 0, 1) := dk_42 (dk_at dksX3_init_2 21 rfl rfl)
theorem dX3_init_70 : decode cX3_init 70 = .ok (.sipush 400, 3) := dk_17 1 144 (dk_at dksX3_init_3 0 rfl rfl)
theorem dX3_init_73 : decode cX3_init 73 = .ok (.newarray .int, 2) := dk_188_10 (dk_at dksX3_init_3 3 rfl rfl)
theorem dX3_init_75 : decode cX3_init 75 = .ok (.putfield 37, 3) := dk_181 0 37 (dk_at dksX3_init_3 5 rfl rfl)
theorem dX3_init_78 : decode cX3_init 78 = .ok (.return_, 1) := dk_177 (dk_at dksX3_init_3 8 rfl rfl)
abbrev cX3_begin : ByteArray := prog_17_method_2_code
def yX3_begin : MethodName := ⟨RX3, "begin", "(LCombTable$Table;)V"⟩
def dkwX3_begin_0 : List UInt8 := [42, 43, 181, 0, 12, 42, 3, 181, 0, 40, 42, 3, 181, 0, 44, 177]
abbrev dktX3_begin_0 : List UInt8 := dkwX3_begin_0 ++ []
theorem dksX3_begin_0 : cX3_begin.data.toList.drop 0 = dktX3_begin_0 := by decide +kernel
theorem dX3_begin_0 : decode cX3_begin 0 = .ok (.aload_n 0, 1) := dk_42 (dk_at dksX3_begin_0 0 rfl rfl)
theorem dX3_begin_1 : decode cX3_begin 1 = .ok (.aload_n 1, 1) := dk_43 (dk_at dksX3_begin_0 1 rfl rfl)
theorem dX3_begin_2 : decode cX3_begin 2 = .ok (.putfield 12, 3) := dk_181 0 12 (dk_at dksX3_begin_0 2 rfl rfl)
theorem dX3_begin_5 : decode cX3_begin 5 = .ok (.aload_n 0, 1) := dk_42 (dk_at dksX3_begin_0 5 rfl rfl)
theorem dX3_begin_6 : decode cX3_begin 6 = .ok (.iconst 0, 1) := dk_3 (dk_at dksX3_begin_0 6 rfl rfl)
theorem dX3_begin_7 : decode cX3_begin 7 = .ok (.putfield 40, 3) := dk_181 0 40 (dk_at dksX3_begin_0 7 rfl rfl)
theorem dX3_begin_10 : decode cX3_begin 10 = .ok (.aload_n 0, 1) := dk_42 (dk_at dksX3_begin_0 10 rfl rfl)
theorem dX3_begin_11 : decode cX3_begin 11 = .ok (.iconst 0, 1) := dk_3 (dk_at dksX3_begin_0 11 rfl rfl)
theorem dX3_begin_12 : decode cX3_begin 12 = .ok (.putfield 44, 3) := dk_181 0 44 (dk_at dksX3_begin_0 12 rfl rfl)
theorem dX3_begin_15 : decode cX3_begin 15 = .ok (.return_, 1) := dk_177 (dk_at dksX3_begin_0 15 rfl rfl)
abbrev cX3_isWho : ByteArray := prog_17_method_4_code
def yX3_isWho : MethodName := ⟨RX3, "isWho", "(I)Z"⟩
def dkwX3_isWho_0 : List UInt8 := [27, 3, 42, 180, 0, 12, 180, 0, 53, 4, 100, 184, 0, 56, 172]
abbrev dktX3_isWho_0 : List UInt8 := dkwX3_isWho_0 ++ []
theorem dksX3_isWho_0 : cX3_isWho.data.toList.drop 0 = dktX3_isWho_0 := by decide +kernel
theorem dX3_isWho_0 : decode cX3_isWho 0 = .ok (.iload_n 1, 1) := dk_27 (dk_at dksX3_isWho_0 0 rfl rfl)
theorem dX3_isWho_1 : decode cX3_isWho 1 = .ok (.iconst 0, 1) := dk_3 (dk_at dksX3_isWho_0 1 rfl rfl)
theorem dX3_isWho_2 : decode cX3_isWho 2 = .ok (.aload_n 0, 1) := dk_42 (dk_at dksX3_isWho_0 2 rfl rfl)
theorem dX3_isWho_3 : decode cX3_isWho 3 = .ok (.getfield 12, 3) := dk_180 0 12 (dk_at dksX3_isWho_0 3 rfl rfl)
theorem dX3_isWho_6 : decode cX3_isWho 6 = .ok (.getfield 53, 3) := dk_180 0 53 (dk_at dksX3_isWho_0 6 rfl rfl)
theorem dX3_isWho_9 : decode cX3_isWho 9 = .ok (.iconst 1, 1) := dk_4 (dk_at dksX3_isWho_0 9 rfl rfl)
theorem dX3_isWho_10 : decode cX3_isWho 10 = .ok (.isub, 1) := dk_100 (dk_at dksX3_isWho_0 10 rfl rfl)
theorem dX3_isWho_11 : decode cX3_isWho 11 = .ok (.invokestatic 56, 3) := dk_184 0 56 (dk_at dksX3_isWho_0 11 rfl rfl)
theorem dX3_isWho_14 : decode cX3_isWho 14 = .ok (.ireturn, 1) := dk_172 (dk_at dksX3_isWho_0 14 rfl rfl)
abbrev cX3_isKind : ByteArray := prog_17_method_5_code
def yX3_isKind : MethodName := ⟨RX3, "isKind", "(I)Z"⟩
def dkwX3_isKind_0 : List UInt8 := [27, 3, 42, 180, 0, 12, 180, 0, 60, 4, 100, 184, 0, 56, 172]
abbrev dktX3_isKind_0 : List UInt8 := dkwX3_isKind_0 ++ []
theorem dksX3_isKind_0 : cX3_isKind.data.toList.drop 0 = dktX3_isKind_0 := by decide +kernel
theorem dX3_isKind_0 : decode cX3_isKind 0 = .ok (.iload_n 1, 1) := dk_27 (dk_at dksX3_isKind_0 0 rfl rfl)
theorem dX3_isKind_1 : decode cX3_isKind 1 = .ok (.iconst 0, 1) := dk_3 (dk_at dksX3_isKind_0 1 rfl rfl)
theorem dX3_isKind_2 : decode cX3_isKind 2 = .ok (.aload_n 0, 1) := dk_42 (dk_at dksX3_isKind_0 2 rfl rfl)
theorem dX3_isKind_3 : decode cX3_isKind 3 = .ok (.getfield 12, 3) := dk_180 0 12 (dk_at dksX3_isKind_0 3 rfl rfl)
theorem dX3_isKind_6 : decode cX3_isKind 6 = .ok (.getfield 60, 3) := dk_180 0 60 (dk_at dksX3_isKind_0 6 rfl rfl)
theorem dX3_isKind_9 : decode cX3_isKind 9 = .ok (.iconst 1, 1) := dk_4 (dk_at dksX3_isKind_0 9 rfl rfl)
theorem dX3_isKind_10 : decode cX3_isKind 10 = .ok (.isub, 1) := dk_100 (dk_at dksX3_isKind_0 10 rfl rfl)
theorem dX3_isKind_11 : decode cX3_isKind 11 = .ok (.invokestatic 56, 3) := dk_184 0 56 (dk_at dksX3_isKind_0 11 rfl rfl)
theorem dX3_isKind_14 : decode cX3_isKind 14 = .ok (.ireturn, 1) := dk_172 (dk_at dksX3_isKind_0 14 rfl rfl)
abbrev cX3_tries : ByteArray := prog_17_method_13_code
def yX3_tries : MethodName := ⟨RX3, "tries", "(II)I"⟩
def dkwX3_tries_0 : List UInt8 := [42, 27, 28, 182, 0, 104, 62, 29, 154, 0, 9, 42, 27, 28, 182, 0, 107, 29, 172]
abbrev dktX3_tries_0 : List UInt8 := dkwX3_tries_0 ++ []
theorem dksX3_tries_0 : cX3_tries.data.toList.drop 0 = dktX3_tries_0 := by decide +kernel
theorem dX3_tries_0 : decode cX3_tries 0 = .ok (.aload_n 0, 1) := dk_42 (dk_at dksX3_tries_0 0 rfl rfl)
theorem dX3_tries_1 : decode cX3_tries 1 = .ok (.iload_n 1, 1) := dk_27 (dk_at dksX3_tries_0 1 rfl rfl)
theorem dX3_tries_2 : decode cX3_tries 2 = .ok (.iload_n 2, 1) := dk_28 (dk_at dksX3_tries_0 2 rfl rfl)
theorem dX3_tries_3 : decode cX3_tries 3 = .ok (.invokevirtual 104, 3) := dk_182 0 104 (dk_at dksX3_tries_0 3 rfl rfl)
theorem dX3_tries_6 : decode cX3_tries 6 = .ok (.istore_n 3, 1) := dk_62 (dk_at dksX3_tries_0 6 rfl rfl)
theorem dX3_tries_7 : decode cX3_tries 7 = .ok (.iload_n 3, 1) := dk_29 (dk_at dksX3_tries_0 7 rfl rfl)
theorem dX3_tries_8 : decode cX3_tries 8 = .ok (.ifCond .ne 9, 3) := dk_154 0 9 (dk_at dksX3_tries_0 8 rfl rfl)
theorem dX3_tries_11 : decode cX3_tries 11 = .ok (.aload_n 0, 1) := dk_42 (dk_at dksX3_tries_0 11 rfl rfl)
theorem dX3_tries_12 : decode cX3_tries 12 = .ok (.iload_n 1, 1) := dk_27 (dk_at dksX3_tries_0 12 rfl rfl)
theorem dX3_tries_13 : decode cX3_tries 13 = .ok (.iload_n 2, 1) := dk_28 (dk_at dksX3_tries_0 13 rfl rfl)
theorem dX3_tries_14 : decode cX3_tries 14 = .ok (.invokevirtual 107, 3) := dk_182 0 107 (dk_at dksX3_tries_0 14 rfl rfl)
theorem dX3_tries_17 : decode cX3_tries 17 = .ok (.iload_n 3, 1) := dk_29 (dk_at dksX3_tries_0 17 rfl rfl)
theorem dX3_tries_18 : decode cX3_tries 18 = .ok (.ireturn, 1) := dk_172 (dk_at dksX3_tries_0 18 rfl rfl)
abbrev cX3_why : ByteArray := prog_17_method_10_code
def yX3_why : MethodName := ⟨RX3, "why", "(II)I"⟩
def dkwX3_why_10 : List UInt8 := [160, 0, 7, 3, 167, 0, 5, 16, 6, 172]
abbrev dktX3_why_10 : List UInt8 := dkwX3_why_10 ++ []
def dkwX3_why_9 : List UInt8 := [180, 0, 90, 16, 6, 160, 0, 12, 42, 21, 4, 182, 0, 100, 167, 0, 10, 42, 180, 0, 18, 21, 4, 46]
abbrev dktX3_why_9 : List UInt8 := dkwX3_why_9 ++ dktX3_why_10
def dkwX3_why_8 : List UInt8 := [180, 0, 40, 21, 4, 100, 42, 21, 4, 182, 0, 76, 180, 0, 80, 164, 0, 5, 8, 172, 27, 45]
abbrev dktX3_why_8 : List UInt8 := dkwX3_why_8 ++ dktX3_why_9
def dkwX3_why_7 : List UInt8 := [45, 180, 0, 90, 7, 162, 0, 5, 3, 172, 42, 180, 0, 34, 21, 4, 46, 7, 160, 0, 22, 42]
abbrev dktX3_why_7 : List UInt8 := dkwX3_why_7 ++ dktX3_why_8
def dkwX3_why_6 : List UInt8 := [180, 0, 90, 6, 160, 0, 20, 42, 180, 0, 34, 21, 4, 46, 4, 160, 0, 7, 3, 167, 0, 4, 8, 172]
abbrev dktX3_why_6 : List UInt8 := dkwX3_why_6 ++ dktX3_why_7
def dkwX3_why_5 : List UInt8 := [159, 0, 13, 45, 180, 0, 90, 8, 159, 0, 5, 7, 172, 45, 180, 0, 90, 5, 159, 0, 11, 45]
abbrev dktX3_why_5 : List UInt8 := dkwX3_why_5 ++ dktX3_why_6
def dkwX3_why_4 : List UInt8 := [184, 0, 96, 154, 0, 5, 6, 172, 42, 180, 0, 18, 21, 4, 46, 27, 160, 0, 21, 45, 180, 0, 90, 7]
abbrev dktX3_why_4 : List UInt8 := dkwX3_why_4 ++ dktX3_why_5
def dkwX3_why_3 : List UInt8 := [180, 0, 90, 4, 164, 0, 7, 8, 167, 0, 4, 3, 172, 45, 180, 0, 93, 42, 180, 0, 22, 21, 4, 46]
abbrev dktX3_why_3 : List UInt8 := dkwX3_why_3 ++ dktX3_why_4
def dkwX3_why_2 : List UInt8 := [182, 0, 87, 54, 4, 21, 4, 2, 160, 0, 28, 45, 180, 0, 67, 154, 0, 7, 5, 167, 0, 16, 45]
abbrev dktX3_why_2 : List UInt8 := dkwX3_why_2 ++ dktX3_why_3
def dkwX3_why_1 : List UInt8 := [180, 0, 12, 180, 0, 83, 154, 0, 5, 4, 172, 42, 180, 0, 12, 180, 0, 63, 28, 50, 78, 42, 27, 28]
abbrev dktX3_why_1 : List UInt8 := dkwX3_why_1 ++ dktX3_why_2
def dkwX3_why_0 : List UInt8 := [42, 180, 0, 40, 158, 0, 30, 42, 180, 0, 18, 42, 180, 0, 40, 4, 100, 46, 27, 160, 0, 15, 42]
abbrev dktX3_why_0 : List UInt8 := dkwX3_why_0 ++ dktX3_why_1
theorem dksX3_why_0 : cX3_why.data.toList.drop 0 = dktX3_why_0 := by decide +kernel
theorem dksX3_why_1 : cX3_why.data.toList.drop 23 = dktX3_why_1 := dk_seg dksX3_why_0 23 rfl rfl
theorem dksX3_why_2 : cX3_why.data.toList.drop 47 = dktX3_why_2 := dk_seg dksX3_why_1 24 rfl rfl
theorem dksX3_why_3 : cX3_why.data.toList.drop 70 = dktX3_why_3 := dk_seg dksX3_why_2 23 rfl rfl
theorem dksX3_why_4 : cX3_why.data.toList.drop 94 = dktX3_why_4 := dk_seg dksX3_why_3 24 rfl rfl
theorem dksX3_why_5 : cX3_why.data.toList.drop 118 = dktX3_why_5 := dk_seg dksX3_why_4 24 rfl rfl
theorem dksX3_why_6 : cX3_why.data.toList.drop 140 = dktX3_why_6 := dk_seg dksX3_why_5 22 rfl rfl
theorem dksX3_why_7 : cX3_why.data.toList.drop 164 = dktX3_why_7 := dk_seg dksX3_why_6 24 rfl rfl
theorem dksX3_why_8 : cX3_why.data.toList.drop 186 = dktX3_why_8 := dk_seg dksX3_why_7 22 rfl rfl
theorem dksX3_why_9 : cX3_why.data.toList.drop 208 = dktX3_why_9 := dk_seg dksX3_why_8 22 rfl rfl
theorem dksX3_why_10 : cX3_why.data.toList.drop 232 = dktX3_why_10 := dk_seg dksX3_why_9 24 rfl rfl
theorem dX3_why_0 : decode cX3_why 0 = .ok (.aload_n 0, 1) := dk_42 (dk_at dksX3_why_0 0 rfl rfl)
theorem dX3_why_1 : decode cX3_why 1 = .ok (.getfield 40, 3) := dk_180 0 40 (dk_at dksX3_why_0 1 rfl rfl)
theorem dX3_why_4 : decode cX3_why 4 = .ok (.ifCond .le 30, 3) := dk_158 0 30 (dk_at dksX3_why_0 4 rfl rfl)
theorem dX3_why_7 : decode cX3_why 7 = .ok (.aload_n 0, 1) := dk_42 (dk_at dksX3_why_0 7 rfl rfl)
theorem dX3_why_8 : decode cX3_why 8 = .ok (.getfield 18, 3) := dk_180 0 18 (dk_at dksX3_why_0 8 rfl rfl)
theorem dX3_why_11 : decode cX3_why 11 = .ok (.aload_n 0, 1) := dk_42 (dk_at dksX3_why_0 11 rfl rfl)
theorem dX3_why_12 : decode cX3_why 12 = .ok (.getfield 40, 3) := dk_180 0 40 (dk_at dksX3_why_0 12 rfl rfl)
theorem dX3_why_15 : decode cX3_why 15 = .ok (.iconst 1, 1) := dk_4 (dk_at dksX3_why_0 15 rfl rfl)
theorem dX3_why_16 : decode cX3_why 16 = .ok (.isub, 1) := dk_100 (dk_at dksX3_why_0 16 rfl rfl)
theorem dX3_why_17 : decode cX3_why 17 = .ok (.iaload, 1) := dk_46 (dk_at dksX3_why_0 17 rfl rfl)
theorem dX3_why_18 : decode cX3_why 18 = .ok (.iload_n 1, 1) := dk_27 (dk_at dksX3_why_0 18 rfl rfl)
theorem dX3_why_19 : decode cX3_why 19 = .ok (.if_icmp .ne 15, 3) := dk_160 0 15 (dk_at dksX3_why_0 19 rfl rfl)
theorem dX3_why_22 : decode cX3_why 22 = .ok (.aload_n 0, 1) := dk_42 (dk_at dksX3_why_0 22 rfl rfl)
theorem dX3_why_23 : decode cX3_why 23 = .ok (.getfield 12, 3) := dk_180 0 12 (dk_at dksX3_why_1 0 rfl rfl)
theorem dX3_why_26 : decode cX3_why 26 = .ok (.getfield 83, 3) := dk_180 0 83 (dk_at dksX3_why_1 3 rfl rfl)
theorem dX3_why_29 : decode cX3_why 29 = .ok (.ifCond .ne 5, 3) := dk_154 0 5 (dk_at dksX3_why_1 6 rfl rfl)
theorem dX3_why_32 : decode cX3_why 32 = .ok (.iconst 1, 1) := dk_4 (dk_at dksX3_why_1 9 rfl rfl)
theorem dX3_why_33 : decode cX3_why 33 = .ok (.ireturn, 1) := dk_172 (dk_at dksX3_why_1 10 rfl rfl)
theorem dX3_why_34 : decode cX3_why 34 = .ok (.aload_n 0, 1) := dk_42 (dk_at dksX3_why_1 11 rfl rfl)
theorem dX3_why_35 : decode cX3_why 35 = .ok (.getfield 12, 3) := dk_180 0 12 (dk_at dksX3_why_1 12 rfl rfl)
theorem dX3_why_38 : decode cX3_why 38 = .ok (.getfield 63, 3) := dk_180 0 63 (dk_at dksX3_why_1 15 rfl rfl)
theorem dX3_why_41 : decode cX3_why 41 = .ok (.iload_n 2, 1) := dk_28 (dk_at dksX3_why_1 18 rfl rfl)
theorem dX3_why_42 : decode cX3_why 42 = .ok (.aaload, 1) := dk_50 (dk_at dksX3_why_1 19 rfl rfl)
theorem dX3_why_43 : decode cX3_why 43 = .ok (.astore_n 3, 1) := dk_78 (dk_at dksX3_why_1 20 rfl rfl)
theorem dX3_why_44 : decode cX3_why 44 = .ok (.aload_n 0, 1) := dk_42 (dk_at dksX3_why_1 21 rfl rfl)
theorem dX3_why_45 : decode cX3_why 45 = .ok (.iload_n 1, 1) := dk_27 (dk_at dksX3_why_1 22 rfl rfl)
theorem dX3_why_46 : decode cX3_why 46 = .ok (.iload_n 2, 1) := dk_28 (dk_at dksX3_why_1 23 rfl rfl)
theorem dX3_why_47 : decode cX3_why 47 = .ok (.invokevirtual 87, 3) := dk_182 0 87 (dk_at dksX3_why_2 0 rfl rfl)
theorem dX3_why_50 : decode cX3_why 50 = .ok (.istore 4, 2) := dk_54 4 (dk_at dksX3_why_2 3 rfl rfl)
theorem dX3_why_52 : decode cX3_why 52 = .ok (.iload 4, 2) := dk_21 4 (dk_at dksX3_why_2 5 rfl rfl)
theorem dX3_why_54 : decode cX3_why 54 = .ok (.iconst (-1), 1) := dk_2 (dk_at dksX3_why_2 7 rfl rfl)
theorem dX3_why_55 : decode cX3_why 55 = .ok (.if_icmp .ne 28, 3) := dk_160 0 28 (dk_at dksX3_why_2 8 rfl rfl)
theorem dX3_why_58 : decode cX3_why 58 = .ok (.aload_n 3, 1) := dk_45 (dk_at dksX3_why_2 11 rfl rfl)
theorem dX3_why_59 : decode cX3_why 59 = .ok (.getfield 67, 3) := dk_180 0 67 (dk_at dksX3_why_2 12 rfl rfl)
theorem dX3_why_62 : decode cX3_why 62 = .ok (.ifCond .ne 7, 3) := dk_154 0 7 (dk_at dksX3_why_2 15 rfl rfl)
theorem dX3_why_65 : decode cX3_why 65 = .ok (.iconst 2, 1) := dk_5 (dk_at dksX3_why_2 18 rfl rfl)
theorem dX3_why_66 : decode cX3_why 66 = .ok (.goto 16, 3) := dk_167 0 16 (dk_at dksX3_why_2 19 rfl rfl)
theorem dX3_why_69 : decode cX3_why 69 = .ok (.aload_n 3, 1) := dk_45 (dk_at dksX3_why_2 22 rfl rfl)
theorem dX3_why_70 : decode cX3_why 70 = .ok (.getfield 90, 3) := dk_180 0 90 (dk_at dksX3_why_3 0 rfl rfl)
theorem dX3_why_73 : decode cX3_why 73 = .ok (.iconst 1, 1) := dk_4 (dk_at dksX3_why_3 3 rfl rfl)
theorem dX3_why_74 : decode cX3_why 74 = .ok (.if_icmp .le 7, 3) := dk_164 0 7 (dk_at dksX3_why_3 4 rfl rfl)
theorem dX3_why_77 : decode cX3_why 77 = .ok (.iconst 5, 1) := dk_8 (dk_at dksX3_why_3 7 rfl rfl)
theorem dX3_why_78 : decode cX3_why 78 = .ok (.goto 4, 3) := dk_167 0 4 (dk_at dksX3_why_3 8 rfl rfl)
theorem dX3_why_81 : decode cX3_why 81 = .ok (.iconst 0, 1) := dk_3 (dk_at dksX3_why_3 11 rfl rfl)
theorem dX3_why_82 : decode cX3_why 82 = .ok (.ireturn, 1) := dk_172 (dk_at dksX3_why_3 12 rfl rfl)
theorem dX3_why_83 : decode cX3_why 83 = .ok (.aload_n 3, 1) := dk_45 (dk_at dksX3_why_3 13 rfl rfl)
theorem dX3_why_84 : decode cX3_why 84 = .ok (.getfield 93, 3) := dk_180 0 93 (dk_at dksX3_why_3 14 rfl rfl)
theorem dX3_why_87 : decode cX3_why 87 = .ok (.aload_n 0, 1) := dk_42 (dk_at dksX3_why_3 17 rfl rfl)
theorem dX3_why_88 : decode cX3_why 88 = .ok (.getfield 22, 3) := dk_180 0 22 (dk_at dksX3_why_3 18 rfl rfl)
theorem dX3_why_91 : decode cX3_why 91 = .ok (.iload 4, 2) := dk_21 4 (dk_at dksX3_why_3 21 rfl rfl)
theorem dX3_why_93 : decode cX3_why 93 = .ok (.iaload, 1) := dk_46 (dk_at dksX3_why_3 23 rfl rfl)
theorem dX3_why_94 : decode cX3_why 94 = .ok (.invokestatic 96, 3) := dk_184 0 96 (dk_at dksX3_why_4 0 rfl rfl)
theorem dX3_why_97 : decode cX3_why 97 = .ok (.ifCond .ne 5, 3) := dk_154 0 5 (dk_at dksX3_why_4 3 rfl rfl)
theorem dX3_why_100 : decode cX3_why 100 = .ok (.iconst 3, 1) := dk_6 (dk_at dksX3_why_4 6 rfl rfl)
theorem dX3_why_101 : decode cX3_why 101 = .ok (.ireturn, 1) := dk_172 (dk_at dksX3_why_4 7 rfl rfl)
theorem dX3_why_102 : decode cX3_why 102 = .ok (.aload_n 0, 1) := dk_42 (dk_at dksX3_why_4 8 rfl rfl)
theorem dX3_why_103 : decode cX3_why 103 = .ok (.getfield 18, 3) := dk_180 0 18 (dk_at dksX3_why_4 9 rfl rfl)
theorem dX3_why_106 : decode cX3_why 106 = .ok (.iload 4, 2) := dk_21 4 (dk_at dksX3_why_4 12 rfl rfl)
theorem dX3_why_108 : decode cX3_why 108 = .ok (.iaload, 1) := dk_46 (dk_at dksX3_why_4 14 rfl rfl)
theorem dX3_why_109 : decode cX3_why 109 = .ok (.iload_n 1, 1) := dk_27 (dk_at dksX3_why_4 15 rfl rfl)
theorem dX3_why_110 : decode cX3_why 110 = .ok (.if_icmp .ne 21, 3) := dk_160 0 21 (dk_at dksX3_why_4 16 rfl rfl)
theorem dX3_why_113 : decode cX3_why 113 = .ok (.aload_n 3, 1) := dk_45 (dk_at dksX3_why_4 19 rfl rfl)
theorem dX3_why_114 : decode cX3_why 114 = .ok (.getfield 90, 3) := dk_180 0 90 (dk_at dksX3_why_4 20 rfl rfl)
theorem dX3_why_117 : decode cX3_why 117 = .ok (.iconst 4, 1) := dk_7 (dk_at dksX3_why_4 23 rfl rfl)
theorem dX3_why_118 : decode cX3_why 118 = .ok (.if_icmp .eq 13, 3) := dk_159 0 13 (dk_at dksX3_why_5 0 rfl rfl)
theorem dX3_why_121 : decode cX3_why 121 = .ok (.aload_n 3, 1) := dk_45 (dk_at dksX3_why_5 3 rfl rfl)
theorem dX3_why_122 : decode cX3_why 122 = .ok (.getfield 90, 3) := dk_180 0 90 (dk_at dksX3_why_5 4 rfl rfl)
theorem dX3_why_125 : decode cX3_why 125 = .ok (.iconst 5, 1) := dk_8 (dk_at dksX3_why_5 7 rfl rfl)
theorem dX3_why_126 : decode cX3_why 126 = .ok (.if_icmp .eq 5, 3) := dk_159 0 5 (dk_at dksX3_why_5 8 rfl rfl)
theorem dX3_why_129 : decode cX3_why 129 = .ok (.iconst 4, 1) := dk_7 (dk_at dksX3_why_5 11 rfl rfl)
theorem dX3_why_130 : decode cX3_why 130 = .ok (.ireturn, 1) := dk_172 (dk_at dksX3_why_5 12 rfl rfl)
theorem dX3_why_131 : decode cX3_why 131 = .ok (.aload_n 3, 1) := dk_45 (dk_at dksX3_why_5 13 rfl rfl)
theorem dX3_why_132 : decode cX3_why 132 = .ok (.getfield 90, 3) := dk_180 0 90 (dk_at dksX3_why_5 14 rfl rfl)
theorem dX3_why_135 : decode cX3_why 135 = .ok (.iconst 2, 1) := dk_5 (dk_at dksX3_why_5 17 rfl rfl)
theorem dX3_why_136 : decode cX3_why 136 = .ok (.if_icmp .eq 11, 3) := dk_159 0 11 (dk_at dksX3_why_5 18 rfl rfl)
theorem dX3_why_139 : decode cX3_why 139 = .ok (.aload_n 3, 1) := dk_45 (dk_at dksX3_why_5 21 rfl rfl)
theorem dX3_why_140 : decode cX3_why 140 = .ok (.getfield 90, 3) := dk_180 0 90 (dk_at dksX3_why_6 0 rfl rfl)
theorem dX3_why_143 : decode cX3_why 143 = .ok (.iconst 3, 1) := dk_6 (dk_at dksX3_why_6 3 rfl rfl)
theorem dX3_why_144 : decode cX3_why 144 = .ok (.if_icmp .ne 20, 3) := dk_160 0 20 (dk_at dksX3_why_6 4 rfl rfl)
theorem dX3_why_147 : decode cX3_why 147 = .ok (.aload_n 0, 1) := dk_42 (dk_at dksX3_why_6 7 rfl rfl)
theorem dX3_why_148 : decode cX3_why 148 = .ok (.getfield 34, 3) := dk_180 0 34 (dk_at dksX3_why_6 8 rfl rfl)
theorem dX3_why_151 : decode cX3_why 151 = .ok (.iload 4, 2) := dk_21 4 (dk_at dksX3_why_6 11 rfl rfl)
theorem dX3_why_153 : decode cX3_why 153 = .ok (.iaload, 1) := dk_46 (dk_at dksX3_why_6 13 rfl rfl)
theorem dX3_why_154 : decode cX3_why 154 = .ok (.iconst 1, 1) := dk_4 (dk_at dksX3_why_6 14 rfl rfl)
theorem dX3_why_155 : decode cX3_why 155 = .ok (.if_icmp .ne 7, 3) := dk_160 0 7 (dk_at dksX3_why_6 15 rfl rfl)
theorem dX3_why_158 : decode cX3_why 158 = .ok (.iconst 0, 1) := dk_3 (dk_at dksX3_why_6 18 rfl rfl)
theorem dX3_why_159 : decode cX3_why 159 = .ok (.goto 4, 3) := dk_167 0 4 (dk_at dksX3_why_6 19 rfl rfl)
theorem dX3_why_162 : decode cX3_why 162 = .ok (.iconst 5, 1) := dk_8 (dk_at dksX3_why_6 22 rfl rfl)
theorem dX3_why_163 : decode cX3_why 163 = .ok (.ireturn, 1) := dk_172 (dk_at dksX3_why_6 23 rfl rfl)
theorem dX3_why_164 : decode cX3_why 164 = .ok (.aload_n 3, 1) := dk_45 (dk_at dksX3_why_7 0 rfl rfl)
theorem dX3_why_165 : decode cX3_why 165 = .ok (.getfield 90, 3) := dk_180 0 90 (dk_at dksX3_why_7 1 rfl rfl)
theorem dX3_why_168 : decode cX3_why 168 = .ok (.iconst 4, 1) := dk_7 (dk_at dksX3_why_7 4 rfl rfl)
theorem dX3_why_169 : decode cX3_why 169 = .ok (.if_icmp .ge 5, 3) := dk_162 0 5 (dk_at dksX3_why_7 5 rfl rfl)
theorem dX3_why_172 : decode cX3_why 172 = .ok (.iconst 0, 1) := dk_3 (dk_at dksX3_why_7 8 rfl rfl)
theorem dX3_why_173 : decode cX3_why 173 = .ok (.ireturn, 1) := dk_172 (dk_at dksX3_why_7 9 rfl rfl)
theorem dX3_why_174 : decode cX3_why 174 = .ok (.aload_n 0, 1) := dk_42 (dk_at dksX3_why_7 10 rfl rfl)
theorem dX3_why_175 : decode cX3_why 175 = .ok (.getfield 34, 3) := dk_180 0 34 (dk_at dksX3_why_7 11 rfl rfl)
theorem dX3_why_178 : decode cX3_why 178 = .ok (.iload 4, 2) := dk_21 4 (dk_at dksX3_why_7 14 rfl rfl)
theorem dX3_why_180 : decode cX3_why 180 = .ok (.iaload, 1) := dk_46 (dk_at dksX3_why_7 16 rfl rfl)
theorem dX3_why_181 : decode cX3_why 181 = .ok (.iconst 4, 1) := dk_7 (dk_at dksX3_why_7 17 rfl rfl)
theorem dX3_why_182 : decode cX3_why 182 = .ok (.if_icmp .ne 22, 3) := dk_160 0 22 (dk_at dksX3_why_7 18 rfl rfl)
theorem dX3_why_185 : decode cX3_why 185 = .ok (.aload_n 0, 1) := dk_42 (dk_at dksX3_why_7 21 rfl rfl)
theorem dX3_why_186 : decode cX3_why 186 = .ok (.getfield 40, 3) := dk_180 0 40 (dk_at dksX3_why_8 0 rfl rfl)
theorem dX3_why_189 : decode cX3_why 189 = .ok (.iload 4, 2) := dk_21 4 (dk_at dksX3_why_8 3 rfl rfl)
theorem dX3_why_191 : decode cX3_why 191 = .ok (.isub, 1) := dk_100 (dk_at dksX3_why_8 5 rfl rfl)
theorem dX3_why_192 : decode cX3_why 192 = .ok (.aload_n 0, 1) := dk_42 (dk_at dksX3_why_8 6 rfl rfl)
theorem dX3_why_193 : decode cX3_why 193 = .ok (.iload 4, 2) := dk_21 4 (dk_at dksX3_why_8 7 rfl rfl)
theorem dX3_why_195 : decode cX3_why 195 = .ok (.invokevirtual 76, 3) := dk_182 0 76 (dk_at dksX3_why_8 9 rfl rfl)
theorem dX3_why_198 : decode cX3_why 198 = .ok (.getfield 80, 3) := dk_180 0 80 (dk_at dksX3_why_8 12 rfl rfl)
theorem dX3_why_201 : decode cX3_why 201 = .ok (.if_icmp .le 5, 3) := dk_164 0 5 (dk_at dksX3_why_8 15 rfl rfl)
theorem dX3_why_204 : decode cX3_why 204 = .ok (.iconst 5, 1) := dk_8 (dk_at dksX3_why_8 18 rfl rfl)
theorem dX3_why_205 : decode cX3_why 205 = .ok (.ireturn, 1) := dk_172 (dk_at dksX3_why_8 19 rfl rfl)
theorem dX3_why_206 : decode cX3_why 206 = .ok (.iload_n 1, 1) := dk_27 (dk_at dksX3_why_8 20 rfl rfl)
theorem dX3_why_207 : decode cX3_why 207 = .ok (.aload_n 3, 1) := dk_45 (dk_at dksX3_why_8 21 rfl rfl)
theorem dX3_why_208 : decode cX3_why 208 = .ok (.getfield 90, 3) := dk_180 0 90 (dk_at dksX3_why_9 0 rfl rfl)
theorem dX3_why_211 : decode cX3_why 211 = .ok (.bipush 6, 2) := dk_16 6 (dk_at dksX3_why_9 3 rfl rfl)
theorem dX3_why_213 : decode cX3_why 213 = .ok (.if_icmp .ne 12, 3) := dk_160 0 12 (dk_at dksX3_why_9 5 rfl rfl)
theorem dX3_why_216 : decode cX3_why 216 = .ok (.aload_n 0, 1) := dk_42 (dk_at dksX3_why_9 8 rfl rfl)
theorem dX3_why_217 : decode cX3_why 217 = .ok (.iload 4, 2) := dk_21 4 (dk_at dksX3_why_9 9 rfl rfl)
theorem dX3_why_219 : decode cX3_why 219 = .ok (.invokevirtual 100, 3) := dk_182 0 100 (dk_at dksX3_why_9 11 rfl rfl)
theorem dX3_why_222 : decode cX3_why 222 = .ok (.goto 10, 3) := dk_167 0 10 (dk_at dksX3_why_9 14 rfl rfl)
theorem dX3_why_225 : decode cX3_why 225 = .ok (.aload_n 0, 1) := dk_42 (dk_at dksX3_why_9 17 rfl rfl)
theorem dX3_why_226 : decode cX3_why 226 = .ok (.getfield 18, 3) := dk_180 0 18 (dk_at dksX3_why_9 18 rfl rfl)
theorem dX3_why_229 : decode cX3_why 229 = .ok (.iload 4, 2) := dk_21 4 (dk_at dksX3_why_9 21 rfl rfl)
theorem dX3_why_231 : decode cX3_why 231 = .ok (.iaload, 1) := dk_46 (dk_at dksX3_why_9 23 rfl rfl)
theorem dX3_why_232 : decode cX3_why 232 = .ok (.if_icmp .ne 7, 3) := dk_160 0 7 (dk_at dksX3_why_10 0 rfl rfl)
theorem dX3_why_235 : decode cX3_why 235 = .ok (.iconst 0, 1) := dk_3 (dk_at dksX3_why_10 3 rfl rfl)
theorem dX3_why_236 : decode cX3_why 236 = .ok (.goto 5, 3) := dk_167 0 5 (dk_at dksX3_why_10 4 rfl rfl)
theorem dX3_why_239 : decode cX3_why 239 = .ok (.bipush 6, 2) := dk_16 6 (dk_at dksX3_why_10 7 rfl rfl)
theorem dX3_why_241 : decode cX3_why 241 = .ok (.ireturn, 1) := dk_172 (dk_at dksX3_why_10 9 rfl rfl)
abbrev cX3_answered : ByteArray := prog_17_method_7_code
def yX3_answered : MethodName := ⟨RX3, "answered", "(II)I"⟩
def dkwX3_answered_1 : List UInt8 := [180, 0, 12, 42, 180, 0, 40, 27, 182, 0, 72, 100, 62, 29, 156, 0, 7, 2, 167, 0, 4, 29, 172]
abbrev dktX3_answered_1 : List UInt8 := dkwX3_answered_1 ++ []
def dkwX3_answered_0 : List UInt8 := [42, 180, 0, 12, 180, 0, 63, 28, 50, 180, 0, 67, 5, 160, 0, 5, 2, 172, 42, 180, 0, 40, 42]
abbrev dktX3_answered_0 : List UInt8 := dkwX3_answered_0 ++ dktX3_answered_1
theorem dksX3_answered_0 : cX3_answered.data.toList.drop 0 = dktX3_answered_0 := by decide +kernel
theorem dksX3_answered_1 : cX3_answered.data.toList.drop 23 = dktX3_answered_1 := dk_seg dksX3_answered_0 23 rfl rfl
theorem dX3_answered_0 : decode cX3_answered 0 = .ok (.aload_n 0, 1) := dk_42 (dk_at dksX3_answered_0 0 rfl rfl)
theorem dX3_answered_1 : decode cX3_answered 1 = .ok (.getfield 12, 3) := dk_180 0 12 (dk_at dksX3_answered_0 1 rfl rfl)
theorem dX3_answered_4 : decode cX3_answered 4 = .ok (.getfield 63, 3) := dk_180 0 63 (dk_at dksX3_answered_0 4 rfl rfl)
theorem dX3_answered_7 : decode cX3_answered 7 = .ok (.iload_n 2, 1) := dk_28 (dk_at dksX3_answered_0 7 rfl rfl)
theorem dX3_answered_8 : decode cX3_answered 8 = .ok (.aaload, 1) := dk_50 (dk_at dksX3_answered_0 8 rfl rfl)
theorem dX3_answered_9 : decode cX3_answered 9 = .ok (.getfield 67, 3) := dk_180 0 67 (dk_at dksX3_answered_0 9 rfl rfl)
theorem dX3_answered_12 : decode cX3_answered 12 = .ok (.iconst 2, 1) := dk_5 (dk_at dksX3_answered_0 12 rfl rfl)
theorem dX3_answered_13 : decode cX3_answered 13 = .ok (.if_icmp .ne 5, 3) := dk_160 0 5 (dk_at dksX3_answered_0 13 rfl rfl)
theorem dX3_answered_16 : decode cX3_answered 16 = .ok (.iconst (-1), 1) := dk_2 (dk_at dksX3_answered_0 16 rfl rfl)
theorem dX3_answered_17 : decode cX3_answered 17 = .ok (.ireturn, 1) := dk_172 (dk_at dksX3_answered_0 17 rfl rfl)
theorem dX3_answered_18 : decode cX3_answered 18 = .ok (.aload_n 0, 1) := dk_42 (dk_at dksX3_answered_0 18 rfl rfl)
theorem dX3_answered_19 : decode cX3_answered 19 = .ok (.getfield 40, 3) := dk_180 0 40 (dk_at dksX3_answered_0 19 rfl rfl)
theorem dX3_answered_22 : decode cX3_answered 22 = .ok (.aload_n 0, 1) := dk_42 (dk_at dksX3_answered_0 22 rfl rfl)
theorem dX3_answered_23 : decode cX3_answered 23 = .ok (.getfield 12, 3) := dk_180 0 12 (dk_at dksX3_answered_1 0 rfl rfl)
theorem dX3_answered_26 : decode cX3_answered 26 = .ok (.aload_n 0, 1) := dk_42 (dk_at dksX3_answered_1 3 rfl rfl)
theorem dX3_answered_27 : decode cX3_answered 27 = .ok (.getfield 40, 3) := dk_180 0 40 (dk_at dksX3_answered_1 4 rfl rfl)
theorem dX3_answered_30 : decode cX3_answered 30 = .ok (.iload_n 1, 1) := dk_27 (dk_at dksX3_answered_1 7 rfl rfl)
theorem dX3_answered_31 : decode cX3_answered 31 = .ok (.invokevirtual 72, 3) := dk_182 0 72 (dk_at dksX3_answered_1 8 rfl rfl)
theorem dX3_answered_34 : decode cX3_answered 34 = .ok (.isub, 1) := dk_100 (dk_at dksX3_answered_1 11 rfl rfl)
theorem dX3_answered_35 : decode cX3_answered 35 = .ok (.istore_n 3, 1) := dk_62 (dk_at dksX3_answered_1 12 rfl rfl)
theorem dX3_answered_36 : decode cX3_answered 36 = .ok (.iload_n 3, 1) := dk_29 (dk_at dksX3_answered_1 13 rfl rfl)
theorem dX3_answered_37 : decode cX3_answered 37 = .ok (.ifCond .ge 7, 3) := dk_156 0 7 (dk_at dksX3_answered_1 14 rfl rfl)
theorem dX3_answered_40 : decode cX3_answered 40 = .ok (.iconst (-1), 1) := dk_2 (dk_at dksX3_answered_1 17 rfl rfl)
theorem dX3_answered_41 : decode cX3_answered 41 = .ok (.goto 4, 3) := dk_167 0 4 (dk_at dksX3_answered_1 18 rfl rfl)
theorem dX3_answered_44 : decode cX3_answered 44 = .ok (.iload_n 3, 1) := dk_29 (dk_at dksX3_answered_1 21 rfl rfl)
theorem dX3_answered_45 : decode cX3_answered 45 = .ok (.ireturn, 1) := dk_172 (dk_at dksX3_answered_1 22 rfl rfl)
abbrev cX3_kindOf : ByteArray := prog_17_method_6_code
def yX3_kindOf : MethodName := ⟨RX3, "kindOf", "(I)LCombTable$Kind;"⟩
def dkwX3_kindOf_0 : List UInt8 := [42, 180, 0, 12, 180, 0, 63, 42, 180, 0, 22, 27, 46, 50, 176]
abbrev dktX3_kindOf_0 : List UInt8 := dkwX3_kindOf_0 ++ []
theorem dksX3_kindOf_0 : cX3_kindOf.data.toList.drop 0 = dktX3_kindOf_0 := by decide +kernel
theorem dX3_kindOf_0 : decode cX3_kindOf 0 = .ok (.aload_n 0, 1) := dk_42 (dk_at dksX3_kindOf_0 0 rfl rfl)
theorem dX3_kindOf_1 : decode cX3_kindOf 1 = .ok (.getfield 12, 3) := dk_180 0 12 (dk_at dksX3_kindOf_0 1 rfl rfl)
theorem dX3_kindOf_4 : decode cX3_kindOf 4 = .ok (.getfield 63, 3) := dk_180 0 63 (dk_at dksX3_kindOf_0 4 rfl rfl)
theorem dX3_kindOf_7 : decode cX3_kindOf 7 = .ok (.aload_n 0, 1) := dk_42 (dk_at dksX3_kindOf_0 7 rfl rfl)
theorem dX3_kindOf_8 : decode cX3_kindOf 8 = .ok (.getfield 22, 3) := dk_180 0 22 (dk_at dksX3_kindOf_0 8 rfl rfl)
theorem dX3_kindOf_11 : decode cX3_kindOf 11 = .ok (.iload_n 1, 1) := dk_27 (dk_at dksX3_kindOf_0 11 rfl rfl)
theorem dX3_kindOf_12 : decode cX3_kindOf 12 = .ok (.iaload, 1) := dk_46 (dk_at dksX3_kindOf_0 12 rfl rfl)
theorem dX3_kindOf_13 : decode cX3_kindOf 13 = .ok (.aaload, 1) := dk_50 (dk_at dksX3_kindOf_0 13 rfl rfl)
theorem dX3_kindOf_14 : decode cX3_kindOf 14 = .ok (.areturn, 1) := dk_176 (dk_at dksX3_kindOf_0 14 rfl rfl)
abbrev cX3_to : ByteArray := prog_17_method_8_code
def yX3_to : MethodName := ⟨RX3, "to", "(I)I"⟩
def dkwX3_to_0 : List UInt8 := [42, 180, 0, 18, 42, 180, 0, 25, 27, 46, 46, 172]
abbrev dktX3_to_0 : List UInt8 := dkwX3_to_0 ++ []
theorem dksX3_to_0 : cX3_to.data.toList.drop 0 = dktX3_to_0 := by decide +kernel
theorem dX3_to_0 : decode cX3_to 0 = .ok (.aload_n 0, 1) := dk_42 (dk_at dksX3_to_0 0 rfl rfl)
theorem dX3_to_1 : decode cX3_to 1 = .ok (.getfield 18, 3) := dk_180 0 18 (dk_at dksX3_to_0 1 rfl rfl)
theorem dX3_to_4 : decode cX3_to 4 = .ok (.aload_n 0, 1) := dk_42 (dk_at dksX3_to_0 4 rfl rfl)
theorem dX3_to_5 : decode cX3_to 5 = .ok (.getfield 25, 3) := dk_180 0 25 (dk_at dksX3_to_0 5 rfl rfl)
theorem dX3_to_8 : decode cX3_to 8 = .ok (.iload_n 1, 1) := dk_27 (dk_at dksX3_to_0 8 rfl rfl)
theorem dX3_to_9 : decode cX3_to 9 = .ok (.iaload, 1) := dk_46 (dk_at dksX3_to_0 9 rfl rfl)
theorem dX3_to_10 : decode cX3_to 10 = .ok (.iaload, 1) := dk_46 (dk_at dksX3_to_0 10 rfl rfl)
theorem dX3_to_11 : decode cX3_to 11 = .ok (.ireturn, 1) := dk_172 (dk_at dksX3_to_0 11 rfl rfl)
abbrev cX3_say : ByteArray := prog_17_method_11_code
def yX3_say : MethodName := ⟨RX3, "say", "(II)V"⟩
def dkwX3_say_9 : List UInt8 := [16, 6, 167, 0, 5, 16, 7, 79, 42, 89, 180, 0, 40, 4, 96, 181, 0, 40, 177]
abbrev dktX3_say_9 : List UInt8 := dkwX3_say_9 ++ []
def dkwX3_say_8 : List UInt8 := [160, 0, 7, 6, 167, 0, 26, 21, 5, 7, 160, 0, 7, 8, 167, 0, 16, 21, 5, 8, 160, 0, 8]
abbrev dktX3_say_8 : List UInt8 := dkwX3_say_8 ++ dktX3_say_9
def dkwX3_say_7 : List UInt8 := [21, 5, 4, 164, 0, 52, 42, 180, 0, 34, 29, 21, 5, 5, 160, 0, 7, 5, 167, 0, 36, 21, 5, 6]
abbrev dktX3_say_7 : List UInt8 := dkwX3_say_7 ++ dktX3_say_8
def dkwX3_say_6 : List UInt8 := [167, 0, 4, 3, 79, 29, 2, 159, 0, 71, 42, 180, 0, 37, 21, 4, 42, 180, 0, 34, 29, 46, 79]
abbrev dktX3_say_6 : List UInt8 := dkwX3_say_6 ++ dktX3_say_7
def dkwX3_say_5 : List UInt8 := [180, 0, 34, 21, 4, 21, 5, 4, 160, 0, 7, 4, 167, 0, 14, 21, 5, 5, 160, 0, 7, 7]
abbrev dktX3_say_5 : List UInt8 := dkwX3_say_5 ++ dktX3_say_6
def dkwX3_say_4 : List UInt8 := [180, 0, 44, 4, 96, 181, 0, 44, 42, 180, 0, 12, 180, 0, 63, 28, 50, 180, 0, 90, 54, 5, 42]
abbrev dktX3_say_4 : List UInt8 := dkwX3_say_4 ++ dktX3_say_5
def dkwX3_say_3 : List UInt8 := [2, 160, 0, 7, 3, 167, 0, 11, 42, 180, 0, 31, 29, 46, 4, 96, 79, 29, 2, 160, 0, 13, 42, 89]
abbrev dktX3_say_3 : List UInt8 := dkwX3_say_3 ++ dktX3_say_4
def dkwX3_say_2 : List UInt8 := [160, 0, 10, 42, 180, 0, 44, 167, 0, 9, 42, 180, 0, 28, 29, 46, 79, 42, 180, 0, 31, 21, 4, 29]
abbrev dktX3_say_2 : List UInt8 := dkwX3_say_2 ++ dktX3_say_3
def dkwX3_say_1 : List UInt8 := [180, 0, 22, 21, 4, 28, 79, 42, 180, 0, 25, 21, 4, 29, 79, 42, 180, 0, 28, 21, 4, 29, 2]
abbrev dktX3_say_1 : List UInt8 := dkwX3_say_1 ++ dktX3_say_2
def dkwX3_say_0 : List UInt8 := [42, 27, 28, 182, 0, 87, 62, 42, 180, 0, 40, 54, 4, 42, 180, 0, 18, 21, 4, 27, 79, 42]
abbrev dktX3_say_0 : List UInt8 := dkwX3_say_0 ++ dktX3_say_1
theorem dksX3_say_0 : cX3_say.data.toList.drop 0 = dktX3_say_0 := by decide +kernel
theorem dksX3_say_1 : cX3_say.data.toList.drop 22 = dktX3_say_1 := dk_seg dksX3_say_0 22 rfl rfl
theorem dksX3_say_2 : cX3_say.data.toList.drop 45 = dktX3_say_2 := dk_seg dksX3_say_1 23 rfl rfl
theorem dksX3_say_3 : cX3_say.data.toList.drop 69 = dktX3_say_3 := dk_seg dksX3_say_2 24 rfl rfl
theorem dksX3_say_4 : cX3_say.data.toList.drop 93 = dktX3_say_4 := dk_seg dksX3_say_3 24 rfl rfl
theorem dksX3_say_5 : cX3_say.data.toList.drop 116 = dktX3_say_5 := dk_seg dksX3_say_4 23 rfl rfl
theorem dksX3_say_6 : cX3_say.data.toList.drop 138 = dktX3_say_6 := dk_seg dksX3_say_5 22 rfl rfl
theorem dksX3_say_7 : cX3_say.data.toList.drop 161 = dktX3_say_7 := dk_seg dksX3_say_6 23 rfl rfl
theorem dksX3_say_8 : cX3_say.data.toList.drop 185 = dktX3_say_8 := dk_seg dksX3_say_7 24 rfl rfl
theorem dksX3_say_9 : cX3_say.data.toList.drop 208 = dktX3_say_9 := dk_seg dksX3_say_8 23 rfl rfl
theorem dX3_say_0 : decode cX3_say 0 = .ok (.aload_n 0, 1) := dk_42 (dk_at dksX3_say_0 0 rfl rfl)
theorem dX3_say_1 : decode cX3_say 1 = .ok (.iload_n 1, 1) := dk_27 (dk_at dksX3_say_0 1 rfl rfl)
theorem dX3_say_2 : decode cX3_say 2 = .ok (.iload_n 2, 1) := dk_28 (dk_at dksX3_say_0 2 rfl rfl)
theorem dX3_say_3 : decode cX3_say 3 = .ok (.invokevirtual 87, 3) := dk_182 0 87 (dk_at dksX3_say_0 3 rfl rfl)
theorem dX3_say_6 : decode cX3_say 6 = .ok (.istore_n 3, 1) := dk_62 (dk_at dksX3_say_0 6 rfl rfl)
theorem dX3_say_7 : decode cX3_say 7 = .ok (.aload_n 0, 1) := dk_42 (dk_at dksX3_say_0 7 rfl rfl)
theorem dX3_say_8 : decode cX3_say 8 = .ok (.getfield 40, 3) := dk_180 0 40 (dk_at dksX3_say_0 8 rfl rfl)
theorem dX3_say_11 : decode cX3_say 11 = .ok (.istore 4, 2) := dk_54 4 (dk_at dksX3_say_0 11 rfl rfl)
theorem dX3_say_13 : decode cX3_say 13 = .ok (.aload_n 0, 1) := dk_42 (dk_at dksX3_say_0 13 rfl rfl)
theorem dX3_say_14 : decode cX3_say 14 = .ok (.getfield 18, 3) := dk_180 0 18 (dk_at dksX3_say_0 14 rfl rfl)
theorem dX3_say_17 : decode cX3_say 17 = .ok (.iload 4, 2) := dk_21 4 (dk_at dksX3_say_0 17 rfl rfl)
theorem dX3_say_19 : decode cX3_say 19 = .ok (.iload_n 1, 1) := dk_27 (dk_at dksX3_say_0 19 rfl rfl)
theorem dX3_say_20 : decode cX3_say 20 = .ok (.iastore, 1) := dk_79 (dk_at dksX3_say_0 20 rfl rfl)
theorem dX3_say_21 : decode cX3_say 21 = .ok (.aload_n 0, 1) := dk_42 (dk_at dksX3_say_0 21 rfl rfl)
theorem dX3_say_22 : decode cX3_say 22 = .ok (.getfield 22, 3) := dk_180 0 22 (dk_at dksX3_say_1 0 rfl rfl)
theorem dX3_say_25 : decode cX3_say 25 = .ok (.iload 4, 2) := dk_21 4 (dk_at dksX3_say_1 3 rfl rfl)
theorem dX3_say_27 : decode cX3_say 27 = .ok (.iload_n 2, 1) := dk_28 (dk_at dksX3_say_1 5 rfl rfl)
theorem dX3_say_28 : decode cX3_say 28 = .ok (.iastore, 1) := dk_79 (dk_at dksX3_say_1 6 rfl rfl)
theorem dX3_say_29 : decode cX3_say 29 = .ok (.aload_n 0, 1) := dk_42 (dk_at dksX3_say_1 7 rfl rfl)
theorem dX3_say_30 : decode cX3_say 30 = .ok (.getfield 25, 3) := dk_180 0 25 (dk_at dksX3_say_1 8 rfl rfl)
theorem dX3_say_33 : decode cX3_say 33 = .ok (.iload 4, 2) := dk_21 4 (dk_at dksX3_say_1 11 rfl rfl)
theorem dX3_say_35 : decode cX3_say 35 = .ok (.iload_n 3, 1) := dk_29 (dk_at dksX3_say_1 13 rfl rfl)
theorem dX3_say_36 : decode cX3_say 36 = .ok (.iastore, 1) := dk_79 (dk_at dksX3_say_1 14 rfl rfl)
theorem dX3_say_37 : decode cX3_say 37 = .ok (.aload_n 0, 1) := dk_42 (dk_at dksX3_say_1 15 rfl rfl)
theorem dX3_say_38 : decode cX3_say 38 = .ok (.getfield 28, 3) := dk_180 0 28 (dk_at dksX3_say_1 16 rfl rfl)
theorem dX3_say_41 : decode cX3_say 41 = .ok (.iload 4, 2) := dk_21 4 (dk_at dksX3_say_1 19 rfl rfl)
theorem dX3_say_43 : decode cX3_say 43 = .ok (.iload_n 3, 1) := dk_29 (dk_at dksX3_say_1 21 rfl rfl)
theorem dX3_say_44 : decode cX3_say 44 = .ok (.iconst (-1), 1) := dk_2 (dk_at dksX3_say_1 22 rfl rfl)
theorem dX3_say_45 : decode cX3_say 45 = .ok (.if_icmp .ne 10, 3) := dk_160 0 10 (dk_at dksX3_say_2 0 rfl rfl)
theorem dX3_say_48 : decode cX3_say 48 = .ok (.aload_n 0, 1) := dk_42 (dk_at dksX3_say_2 3 rfl rfl)
theorem dX3_say_49 : decode cX3_say 49 = .ok (.getfield 44, 3) := dk_180 0 44 (dk_at dksX3_say_2 4 rfl rfl)
theorem dX3_say_52 : decode cX3_say 52 = .ok (.goto 9, 3) := dk_167 0 9 (dk_at dksX3_say_2 7 rfl rfl)
theorem dX3_say_55 : decode cX3_say 55 = .ok (.aload_n 0, 1) := dk_42 (dk_at dksX3_say_2 10 rfl rfl)
theorem dX3_say_56 : decode cX3_say 56 = .ok (.getfield 28, 3) := dk_180 0 28 (dk_at dksX3_say_2 11 rfl rfl)
theorem dX3_say_59 : decode cX3_say 59 = .ok (.iload_n 3, 1) := dk_29 (dk_at dksX3_say_2 14 rfl rfl)
theorem dX3_say_60 : decode cX3_say 60 = .ok (.iaload, 1) := dk_46 (dk_at dksX3_say_2 15 rfl rfl)
theorem dX3_say_61 : decode cX3_say 61 = .ok (.iastore, 1) := dk_79 (dk_at dksX3_say_2 16 rfl rfl)
theorem dX3_say_62 : decode cX3_say 62 = .ok (.aload_n 0, 1) := dk_42 (dk_at dksX3_say_2 17 rfl rfl)
theorem dX3_say_63 : decode cX3_say 63 = .ok (.getfield 31, 3) := dk_180 0 31 (dk_at dksX3_say_2 18 rfl rfl)
theorem dX3_say_66 : decode cX3_say 66 = .ok (.iload 4, 2) := dk_21 4 (dk_at dksX3_say_2 21 rfl rfl)
theorem dX3_say_68 : decode cX3_say 68 = .ok (.iload_n 3, 1) := dk_29 (dk_at dksX3_say_2 23 rfl rfl)
theorem dX3_say_69 : decode cX3_say 69 = .ok (.iconst (-1), 1) := dk_2 (dk_at dksX3_say_3 0 rfl rfl)
theorem dX3_say_70 : decode cX3_say 70 = .ok (.if_icmp .ne 7, 3) := dk_160 0 7 (dk_at dksX3_say_3 1 rfl rfl)
theorem dX3_say_73 : decode cX3_say 73 = .ok (.iconst 0, 1) := dk_3 (dk_at dksX3_say_3 4 rfl rfl)
theorem dX3_say_74 : decode cX3_say 74 = .ok (.goto 11, 3) := dk_167 0 11 (dk_at dksX3_say_3 5 rfl rfl)
theorem dX3_say_77 : decode cX3_say 77 = .ok (.aload_n 0, 1) := dk_42 (dk_at dksX3_say_3 8 rfl rfl)
theorem dX3_say_78 : decode cX3_say 78 = .ok (.getfield 31, 3) := dk_180 0 31 (dk_at dksX3_say_3 9 rfl rfl)
theorem dX3_say_81 : decode cX3_say 81 = .ok (.iload_n 3, 1) := dk_29 (dk_at dksX3_say_3 12 rfl rfl)
theorem dX3_say_82 : decode cX3_say 82 = .ok (.iaload, 1) := dk_46 (dk_at dksX3_say_3 13 rfl rfl)
theorem dX3_say_83 : decode cX3_say 83 = .ok (.iconst 1, 1) := dk_4 (dk_at dksX3_say_3 14 rfl rfl)
theorem dX3_say_84 : decode cX3_say 84 = .ok (.iadd, 1) := dk_96 (dk_at dksX3_say_3 15 rfl rfl)
theorem dX3_say_85 : decode cX3_say 85 = .ok (.iastore, 1) := dk_79 (dk_at dksX3_say_3 16 rfl rfl)
theorem dX3_say_86 : decode cX3_say 86 = .ok (.iload_n 3, 1) := dk_29 (dk_at dksX3_say_3 17 rfl rfl)
theorem dX3_say_87 : decode cX3_say 87 = .ok (.iconst (-1), 1) := dk_2 (dk_at dksX3_say_3 18 rfl rfl)
theorem dX3_say_88 : decode cX3_say 88 = .ok (.if_icmp .ne 13, 3) := dk_160 0 13 (dk_at dksX3_say_3 19 rfl rfl)
theorem dX3_say_91 : decode cX3_say 91 = .ok (.aload_n 0, 1) := dk_42 (dk_at dksX3_say_3 22 rfl rfl)
theorem dX3_say_92 : decode cX3_say 92 = .ok (.dup, 1) := dk_89 (dk_at dksX3_say_3 23 rfl rfl)
theorem dX3_say_93 : decode cX3_say 93 = .ok (.getfield 44, 3) := dk_180 0 44 (dk_at dksX3_say_4 0 rfl rfl)
theorem dX3_say_96 : decode cX3_say 96 = .ok (.iconst 1, 1) := dk_4 (dk_at dksX3_say_4 3 rfl rfl)
theorem dX3_say_97 : decode cX3_say 97 = .ok (.iadd, 1) := dk_96 (dk_at dksX3_say_4 4 rfl rfl)
theorem dX3_say_98 : decode cX3_say 98 = .ok (.putfield 44, 3) := dk_181 0 44 (dk_at dksX3_say_4 5 rfl rfl)
theorem dX3_say_101 : decode cX3_say 101 = .ok (.aload_n 0, 1) := dk_42 (dk_at dksX3_say_4 8 rfl rfl)
theorem dX3_say_102 : decode cX3_say 102 = .ok (.getfield 12, 3) := dk_180 0 12 (dk_at dksX3_say_4 9 rfl rfl)
theorem dX3_say_105 : decode cX3_say 105 = .ok (.getfield 63, 3) := dk_180 0 63 (dk_at dksX3_say_4 12 rfl rfl)
theorem dX3_say_108 : decode cX3_say 108 = .ok (.iload_n 2, 1) := dk_28 (dk_at dksX3_say_4 15 rfl rfl)
theorem dX3_say_109 : decode cX3_say 109 = .ok (.aaload, 1) := dk_50 (dk_at dksX3_say_4 16 rfl rfl)
theorem dX3_say_110 : decode cX3_say 110 = .ok (.getfield 90, 3) := dk_180 0 90 (dk_at dksX3_say_4 17 rfl rfl)
theorem dX3_say_113 : decode cX3_say 113 = .ok (.istore 5, 2) := dk_54 5 (dk_at dksX3_say_4 20 rfl rfl)
theorem dX3_say_115 : decode cX3_say 115 = .ok (.aload_n 0, 1) := dk_42 (dk_at dksX3_say_4 22 rfl rfl)
theorem dX3_say_116 : decode cX3_say 116 = .ok (.getfield 34, 3) := dk_180 0 34 (dk_at dksX3_say_5 0 rfl rfl)
theorem dX3_say_119 : decode cX3_say 119 = .ok (.iload 4, 2) := dk_21 4 (dk_at dksX3_say_5 3 rfl rfl)
theorem dX3_say_121 : decode cX3_say 121 = .ok (.iload 5, 2) := dk_21 5 (dk_at dksX3_say_5 5 rfl rfl)
theorem dX3_say_123 : decode cX3_say 123 = .ok (.iconst 1, 1) := dk_4 (dk_at dksX3_say_5 7 rfl rfl)
theorem dX3_say_124 : decode cX3_say 124 = .ok (.if_icmp .ne 7, 3) := dk_160 0 7 (dk_at dksX3_say_5 8 rfl rfl)
theorem dX3_say_127 : decode cX3_say 127 = .ok (.iconst 1, 1) := dk_4 (dk_at dksX3_say_5 11 rfl rfl)
theorem dX3_say_128 : decode cX3_say 128 = .ok (.goto 14, 3) := dk_167 0 14 (dk_at dksX3_say_5 12 rfl rfl)
theorem dX3_say_131 : decode cX3_say 131 = .ok (.iload 5, 2) := dk_21 5 (dk_at dksX3_say_5 15 rfl rfl)
theorem dX3_say_133 : decode cX3_say 133 = .ok (.iconst 2, 1) := dk_5 (dk_at dksX3_say_5 17 rfl rfl)
theorem dX3_say_134 : decode cX3_say 134 = .ok (.if_icmp .ne 7, 3) := dk_160 0 7 (dk_at dksX3_say_5 18 rfl rfl)
theorem dX3_say_137 : decode cX3_say 137 = .ok (.iconst 4, 1) := dk_7 (dk_at dksX3_say_5 21 rfl rfl)
theorem dX3_say_138 : decode cX3_say 138 = .ok (.goto 4, 3) := dk_167 0 4 (dk_at dksX3_say_6 0 rfl rfl)
theorem dX3_say_141 : decode cX3_say 141 = .ok (.iconst 0, 1) := dk_3 (dk_at dksX3_say_6 3 rfl rfl)
theorem dX3_say_142 : decode cX3_say 142 = .ok (.iastore, 1) := dk_79 (dk_at dksX3_say_6 4 rfl rfl)
theorem dX3_say_143 : decode cX3_say 143 = .ok (.iload_n 3, 1) := dk_29 (dk_at dksX3_say_6 5 rfl rfl)
theorem dX3_say_144 : decode cX3_say 144 = .ok (.iconst (-1), 1) := dk_2 (dk_at dksX3_say_6 6 rfl rfl)
theorem dX3_say_145 : decode cX3_say 145 = .ok (.if_icmp .eq 71, 3) := dk_159 0 71 (dk_at dksX3_say_6 7 rfl rfl)
theorem dX3_say_148 : decode cX3_say 148 = .ok (.aload_n 0, 1) := dk_42 (dk_at dksX3_say_6 10 rfl rfl)
theorem dX3_say_149 : decode cX3_say 149 = .ok (.getfield 37, 3) := dk_180 0 37 (dk_at dksX3_say_6 11 rfl rfl)
theorem dX3_say_152 : decode cX3_say 152 = .ok (.iload 4, 2) := dk_21 4 (dk_at dksX3_say_6 14 rfl rfl)
theorem dX3_say_154 : decode cX3_say 154 = .ok (.aload_n 0, 1) := dk_42 (dk_at dksX3_say_6 16 rfl rfl)
theorem dX3_say_155 : decode cX3_say 155 = .ok (.getfield 34, 3) := dk_180 0 34 (dk_at dksX3_say_6 17 rfl rfl)
theorem dX3_say_158 : decode cX3_say 158 = .ok (.iload_n 3, 1) := dk_29 (dk_at dksX3_say_6 20 rfl rfl)
theorem dX3_say_159 : decode cX3_say 159 = .ok (.iaload, 1) := dk_46 (dk_at dksX3_say_6 21 rfl rfl)
theorem dX3_say_160 : decode cX3_say 160 = .ok (.iastore, 1) := dk_79 (dk_at dksX3_say_6 22 rfl rfl)
theorem dX3_say_161 : decode cX3_say 161 = .ok (.iload 5, 2) := dk_21 5 (dk_at dksX3_say_7 0 rfl rfl)
theorem dX3_say_163 : decode cX3_say 163 = .ok (.iconst 1, 1) := dk_4 (dk_at dksX3_say_7 2 rfl rfl)
theorem dX3_say_164 : decode cX3_say 164 = .ok (.if_icmp .le 52, 3) := dk_164 0 52 (dk_at dksX3_say_7 3 rfl rfl)
theorem dX3_say_167 : decode cX3_say 167 = .ok (.aload_n 0, 1) := dk_42 (dk_at dksX3_say_7 6 rfl rfl)
theorem dX3_say_168 : decode cX3_say 168 = .ok (.getfield 34, 3) := dk_180 0 34 (dk_at dksX3_say_7 7 rfl rfl)
theorem dX3_say_171 : decode cX3_say 171 = .ok (.iload_n 3, 1) := dk_29 (dk_at dksX3_say_7 10 rfl rfl)
theorem dX3_say_172 : decode cX3_say 172 = .ok (.iload 5, 2) := dk_21 5 (dk_at dksX3_say_7 11 rfl rfl)
theorem dX3_say_174 : decode cX3_say 174 = .ok (.iconst 2, 1) := dk_5 (dk_at dksX3_say_7 13 rfl rfl)
theorem dX3_say_175 : decode cX3_say 175 = .ok (.if_icmp .ne 7, 3) := dk_160 0 7 (dk_at dksX3_say_7 14 rfl rfl)
theorem dX3_say_178 : decode cX3_say 178 = .ok (.iconst 2, 1) := dk_5 (dk_at dksX3_say_7 17 rfl rfl)
theorem dX3_say_179 : decode cX3_say 179 = .ok (.goto 36, 3) := dk_167 0 36 (dk_at dksX3_say_7 18 rfl rfl)
theorem dX3_say_182 : decode cX3_say 182 = .ok (.iload 5, 2) := dk_21 5 (dk_at dksX3_say_7 21 rfl rfl)
theorem dX3_say_184 : decode cX3_say 184 = .ok (.iconst 3, 1) := dk_6 (dk_at dksX3_say_7 23 rfl rfl)
theorem dX3_say_185 : decode cX3_say 185 = .ok (.if_icmp .ne 7, 3) := dk_160 0 7 (dk_at dksX3_say_8 0 rfl rfl)
theorem dX3_say_188 : decode cX3_say 188 = .ok (.iconst 3, 1) := dk_6 (dk_at dksX3_say_8 3 rfl rfl)
theorem dX3_say_189 : decode cX3_say 189 = .ok (.goto 26, 3) := dk_167 0 26 (dk_at dksX3_say_8 4 rfl rfl)
theorem dX3_say_192 : decode cX3_say 192 = .ok (.iload 5, 2) := dk_21 5 (dk_at dksX3_say_8 7 rfl rfl)
theorem dX3_say_194 : decode cX3_say 194 = .ok (.iconst 4, 1) := dk_7 (dk_at dksX3_say_8 9 rfl rfl)
theorem dX3_say_195 : decode cX3_say 195 = .ok (.if_icmp .ne 7, 3) := dk_160 0 7 (dk_at dksX3_say_8 10 rfl rfl)
theorem dX3_say_198 : decode cX3_say 198 = .ok (.iconst 5, 1) := dk_8 (dk_at dksX3_say_8 13 rfl rfl)
theorem dX3_say_199 : decode cX3_say 199 = .ok (.goto 16, 3) := dk_167 0 16 (dk_at dksX3_say_8 14 rfl rfl)
theorem dX3_say_202 : decode cX3_say 202 = .ok (.iload 5, 2) := dk_21 5 (dk_at dksX3_say_8 17 rfl rfl)
theorem dX3_say_204 : decode cX3_say 204 = .ok (.iconst 5, 1) := dk_8 (dk_at dksX3_say_8 19 rfl rfl)
theorem dX3_say_205 : decode cX3_say 205 = .ok (.if_icmp .ne 8, 3) := dk_160 0 8 (dk_at dksX3_say_8 20 rfl rfl)
theorem dX3_say_208 : decode cX3_say 208 = .ok (.bipush 6, 2) := dk_16 6 (dk_at dksX3_say_9 0 rfl rfl)
theorem dX3_say_210 : decode cX3_say 210 = .ok (.goto 5, 3) := dk_167 0 5 (dk_at dksX3_say_9 2 rfl rfl)
theorem dX3_say_213 : decode cX3_say 213 = .ok (.bipush 7, 2) := dk_16 7 (dk_at dksX3_say_9 5 rfl rfl)
theorem dX3_say_215 : decode cX3_say 215 = .ok (.iastore, 1) := dk_79 (dk_at dksX3_say_9 7 rfl rfl)
theorem dX3_say_216 : decode cX3_say 216 = .ok (.aload_n 0, 1) := dk_42 (dk_at dksX3_say_9 8 rfl rfl)
theorem dX3_say_217 : decode cX3_say 217 = .ok (.dup, 1) := dk_89 (dk_at dksX3_say_9 9 rfl rfl)
theorem dX3_say_218 : decode cX3_say 218 = .ok (.getfield 40, 3) := dk_180 0 40 (dk_at dksX3_say_9 10 rfl rfl)
theorem dX3_say_221 : decode cX3_say 221 = .ok (.iconst 1, 1) := dk_4 (dk_at dksX3_say_9 13 rfl rfl)
theorem dX3_say_222 : decode cX3_say 222 = .ok (.iadd, 1) := dk_96 (dk_at dksX3_say_9 14 rfl rfl)
theorem dX3_say_223 : decode cX3_say 223 = .ok (.putfield 40, 3) := dk_181 0 40 (dk_at dksX3_say_9 15 rfl rfl)
theorem dX3_say_226 : decode cX3_say 226 = .ok (.return_, 1) := dk_177 (dk_at dksX3_say_9 18 rfl rfl)
abbrev cX3_undo : ByteArray := prog_17_method_12_code
def yX3_undo : MethodName := ⟨RX3, "undo", "()V"⟩
def dkwX3_undo_2 : List UInt8 := [180, 0, 37, 42, 180, 0, 40, 46, 79, 177]
abbrev dktX3_undo_2 : List UInt8 := dkwX3_undo_2 ++ []
def dkwX3_undo_1 : List UInt8 := [160, 0, 16, 42, 89, 180, 0, 44, 4, 100, 181, 0, 44, 167, 0, 18, 42, 180, 0, 34, 27, 42]
abbrev dktX3_undo_1 : List UInt8 := dkwX3_undo_1 ++ dktX3_undo_2
def dkwX3_undo_0 : List UInt8 := [42, 89, 180, 0, 40, 4, 100, 181, 0, 40, 42, 180, 0, 25, 42, 180, 0, 40, 46, 60, 27, 2]
abbrev dktX3_undo_0 : List UInt8 := dkwX3_undo_0 ++ dktX3_undo_1
theorem dksX3_undo_0 : cX3_undo.data.toList.drop 0 = dktX3_undo_0 := by decide +kernel
theorem dksX3_undo_1 : cX3_undo.data.toList.drop 22 = dktX3_undo_1 := dk_seg dksX3_undo_0 22 rfl rfl
theorem dksX3_undo_2 : cX3_undo.data.toList.drop 44 = dktX3_undo_2 := dk_seg dksX3_undo_1 22 rfl rfl
theorem dX3_undo_0 : decode cX3_undo 0 = .ok (.aload_n 0, 1) := dk_42 (dk_at dksX3_undo_0 0 rfl rfl)
theorem dX3_undo_1 : decode cX3_undo 1 = .ok (.dup, 1) := dk_89 (dk_at dksX3_undo_0 1 rfl rfl)
theorem dX3_undo_2 : decode cX3_undo 2 = .ok (.getfield 40, 3) := dk_180 0 40 (dk_at dksX3_undo_0 2 rfl rfl)
theorem dX3_undo_5 : decode cX3_undo 5 = .ok (.iconst 1, 1) := dk_4 (dk_at dksX3_undo_0 5 rfl rfl)
theorem dX3_undo_6 : decode cX3_undo 6 = .ok (.isub, 1) := dk_100 (dk_at dksX3_undo_0 6 rfl rfl)
theorem dX3_undo_7 : decode cX3_undo 7 = .ok (.putfield 40, 3) := dk_181 0 40 (dk_at dksX3_undo_0 7 rfl rfl)
theorem dX3_undo_10 : decode cX3_undo 10 = .ok (.aload_n 0, 1) := dk_42 (dk_at dksX3_undo_0 10 rfl rfl)
theorem dX3_undo_11 : decode cX3_undo 11 = .ok (.getfield 25, 3) := dk_180 0 25 (dk_at dksX3_undo_0 11 rfl rfl)
theorem dX3_undo_14 : decode cX3_undo 14 = .ok (.aload_n 0, 1) := dk_42 (dk_at dksX3_undo_0 14 rfl rfl)
theorem dX3_undo_15 : decode cX3_undo 15 = .ok (.getfield 40, 3) := dk_180 0 40 (dk_at dksX3_undo_0 15 rfl rfl)
theorem dX3_undo_18 : decode cX3_undo 18 = .ok (.iaload, 1) := dk_46 (dk_at dksX3_undo_0 18 rfl rfl)
theorem dX3_undo_19 : decode cX3_undo 19 = .ok (.istore_n 1, 1) := dk_60 (dk_at dksX3_undo_0 19 rfl rfl)
theorem dX3_undo_20 : decode cX3_undo 20 = .ok (.iload_n 1, 1) := dk_27 (dk_at dksX3_undo_0 20 rfl rfl)
theorem dX3_undo_21 : decode cX3_undo 21 = .ok (.iconst (-1), 1) := dk_2 (dk_at dksX3_undo_0 21 rfl rfl)
theorem dX3_undo_22 : decode cX3_undo 22 = .ok (.if_icmp .ne 16, 3) := dk_160 0 16 (dk_at dksX3_undo_1 0 rfl rfl)
theorem dX3_undo_25 : decode cX3_undo 25 = .ok (.aload_n 0, 1) := dk_42 (dk_at dksX3_undo_1 3 rfl rfl)
theorem dX3_undo_26 : decode cX3_undo 26 = .ok (.dup, 1) := dk_89 (dk_at dksX3_undo_1 4 rfl rfl)
theorem dX3_undo_27 : decode cX3_undo 27 = .ok (.getfield 44, 3) := dk_180 0 44 (dk_at dksX3_undo_1 5 rfl rfl)
theorem dX3_undo_30 : decode cX3_undo 30 = .ok (.iconst 1, 1) := dk_4 (dk_at dksX3_undo_1 8 rfl rfl)
theorem dX3_undo_31 : decode cX3_undo 31 = .ok (.isub, 1) := dk_100 (dk_at dksX3_undo_1 9 rfl rfl)
theorem dX3_undo_32 : decode cX3_undo 32 = .ok (.putfield 44, 3) := dk_181 0 44 (dk_at dksX3_undo_1 10 rfl rfl)
theorem dX3_undo_35 : decode cX3_undo 35 = .ok (.goto 18, 3) := dk_167 0 18 (dk_at dksX3_undo_1 13 rfl rfl)
theorem dX3_undo_38 : decode cX3_undo 38 = .ok (.aload_n 0, 1) := dk_42 (dk_at dksX3_undo_1 16 rfl rfl)
theorem dX3_undo_39 : decode cX3_undo 39 = .ok (.getfield 34, 3) := dk_180 0 34 (dk_at dksX3_undo_1 17 rfl rfl)
theorem dX3_undo_42 : decode cX3_undo 42 = .ok (.iload_n 1, 1) := dk_27 (dk_at dksX3_undo_1 20 rfl rfl)
theorem dX3_undo_43 : decode cX3_undo 43 = .ok (.aload_n 0, 1) := dk_42 (dk_at dksX3_undo_1 21 rfl rfl)
theorem dX3_undo_44 : decode cX3_undo 44 = .ok (.getfield 37, 3) := dk_180 0 37 (dk_at dksX3_undo_2 0 rfl rfl)
theorem dX3_undo_47 : decode cX3_undo 47 = .ok (.aload_n 0, 1) := dk_42 (dk_at dksX3_undo_2 3 rfl rfl)
theorem dX3_undo_48 : decode cX3_undo 48 = .ok (.getfield 40, 3) := dk_180 0 40 (dk_at dksX3_undo_2 4 rfl rfl)
theorem dX3_undo_51 : decode cX3_undo 51 = .ok (.iaload, 1) := dk_46 (dk_at dksX3_undo_2 7 rfl rfl)
theorem dX3_undo_52 : decode cX3_undo 52 = .ok (.iastore, 1) := dk_79 (dk_at dksX3_undo_2 8 rfl rfl)
theorem dX3_undo_53 : decode cX3_undo 53 = .ok (.return_, 1) := dk_177 (dk_at dksX3_undo_2 9 rfl rfl)
abbrev cX3_be : ByteArray := prog_17_method_3_code
def yX3_be : MethodName := ⟨RX3, "be", "(LCombTable$Talk;)V"⟩
def dkwX3_be_6 : List UInt8 := [180, 0, 40, 184, 0, 47, 177]
abbrev dktX3_be_6 : List UInt8 := dkwX3_be_6 ++ []
def dkwX3_be_5 : List UInt8 := [180, 0, 34, 3, 42, 180, 0, 40, 184, 0, 47, 43, 180, 0, 37, 3, 42, 180, 0, 37, 3, 42]
abbrev dktX3_be_5 : List UInt8 := dkwX3_be_5 ++ dktX3_be_6
def dkwX3_be_4 : List UInt8 := [180, 0, 31, 3, 42, 180, 0, 31, 3, 42, 180, 0, 40, 184, 0, 47, 43, 180, 0, 34, 3, 42]
abbrev dktX3_be_4 : List UInt8 := dkwX3_be_4 ++ dktX3_be_5
def dkwX3_be_3 : List UInt8 := [180, 0, 40, 184, 0, 47, 43, 180, 0, 28, 3, 42, 180, 0, 28, 3, 42, 180, 0, 40, 184, 0, 47, 43]
abbrev dktX3_be_3 : List UInt8 := dkwX3_be_3 ++ dktX3_be_4
def dkwX3_be_2 : List UInt8 := [180, 0, 22, 3, 42, 180, 0, 40, 184, 0, 47, 43, 180, 0, 25, 3, 42, 180, 0, 25, 3, 42]
abbrev dktX3_be_2 : List UInt8 := dkwX3_be_2 ++ dktX3_be_3
def dkwX3_be_1 : List UInt8 := [43, 180, 0, 18, 3, 42, 180, 0, 18, 3, 42, 180, 0, 40, 184, 0, 47, 43, 180, 0, 22, 3, 42]
abbrev dktX3_be_1 : List UInt8 := dkwX3_be_1 ++ dktX3_be_2
def dkwX3_be_0 : List UInt8 := [42, 43, 180, 0, 12, 181, 0, 12, 42, 43, 180, 0, 40, 181, 0, 40, 42, 43, 180, 0, 44, 181, 0, 44]
abbrev dktX3_be_0 : List UInt8 := dkwX3_be_0 ++ dktX3_be_1
theorem dksX3_be_0 : cX3_be.data.toList.drop 0 = dktX3_be_0 := by decide +kernel
theorem dksX3_be_1 : cX3_be.data.toList.drop 24 = dktX3_be_1 := dk_seg dksX3_be_0 24 rfl rfl
theorem dksX3_be_2 : cX3_be.data.toList.drop 47 = dktX3_be_2 := dk_seg dksX3_be_1 23 rfl rfl
theorem dksX3_be_3 : cX3_be.data.toList.drop 69 = dktX3_be_3 := dk_seg dksX3_be_2 22 rfl rfl
theorem dksX3_be_4 : cX3_be.data.toList.drop 93 = dktX3_be_4 := dk_seg dksX3_be_3 24 rfl rfl
theorem dksX3_be_5 : cX3_be.data.toList.drop 115 = dktX3_be_5 := dk_seg dksX3_be_4 22 rfl rfl
theorem dksX3_be_6 : cX3_be.data.toList.drop 137 = dktX3_be_6 := dk_seg dksX3_be_5 22 rfl rfl
theorem dX3_be_0 : decode cX3_be 0 = .ok (.aload_n 0, 1) := dk_42 (dk_at dksX3_be_0 0 rfl rfl)
theorem dX3_be_1 : decode cX3_be 1 = .ok (.aload_n 1, 1) := dk_43 (dk_at dksX3_be_0 1 rfl rfl)
theorem dX3_be_2 : decode cX3_be 2 = .ok (.getfield 12, 3) := dk_180 0 12 (dk_at dksX3_be_0 2 rfl rfl)
theorem dX3_be_5 : decode cX3_be 5 = .ok (.putfield 12, 3) := dk_181 0 12 (dk_at dksX3_be_0 5 rfl rfl)
theorem dX3_be_8 : decode cX3_be 8 = .ok (.aload_n 0, 1) := dk_42 (dk_at dksX3_be_0 8 rfl rfl)
theorem dX3_be_9 : decode cX3_be 9 = .ok (.aload_n 1, 1) := dk_43 (dk_at dksX3_be_0 9 rfl rfl)
theorem dX3_be_10 : decode cX3_be 10 = .ok (.getfield 40, 3) := dk_180 0 40 (dk_at dksX3_be_0 10 rfl rfl)
theorem dX3_be_13 : decode cX3_be 13 = .ok (.putfield 40, 3) := dk_181 0 40 (dk_at dksX3_be_0 13 rfl rfl)
theorem dX3_be_16 : decode cX3_be 16 = .ok (.aload_n 0, 1) := dk_42 (dk_at dksX3_be_0 16 rfl rfl)
theorem dX3_be_17 : decode cX3_be 17 = .ok (.aload_n 1, 1) := dk_43 (dk_at dksX3_be_0 17 rfl rfl)
theorem dX3_be_18 : decode cX3_be 18 = .ok (.getfield 44, 3) := dk_180 0 44 (dk_at dksX3_be_0 18 rfl rfl)
theorem dX3_be_21 : decode cX3_be 21 = .ok (.putfield 44, 3) := dk_181 0 44 (dk_at dksX3_be_0 21 rfl rfl)
theorem dX3_be_24 : decode cX3_be 24 = .ok (.aload_n 1, 1) := dk_43 (dk_at dksX3_be_1 0 rfl rfl)
theorem dX3_be_25 : decode cX3_be 25 = .ok (.getfield 18, 3) := dk_180 0 18 (dk_at dksX3_be_1 1 rfl rfl)
theorem dX3_be_28 : decode cX3_be 28 = .ok (.iconst 0, 1) := dk_3 (dk_at dksX3_be_1 4 rfl rfl)
theorem dX3_be_29 : decode cX3_be 29 = .ok (.aload_n 0, 1) := dk_42 (dk_at dksX3_be_1 5 rfl rfl)
theorem dX3_be_30 : decode cX3_be 30 = .ok (.getfield 18, 3) := dk_180 0 18 (dk_at dksX3_be_1 6 rfl rfl)
theorem dX3_be_33 : decode cX3_be 33 = .ok (.iconst 0, 1) := dk_3 (dk_at dksX3_be_1 9 rfl rfl)
theorem dX3_be_34 : decode cX3_be 34 = .ok (.aload_n 0, 1) := dk_42 (dk_at dksX3_be_1 10 rfl rfl)
theorem dX3_be_35 : decode cX3_be 35 = .ok (.getfield 40, 3) := dk_180 0 40 (dk_at dksX3_be_1 11 rfl rfl)
theorem dX3_be_38 : decode cX3_be 38 = .ok (.invokestatic 47, 3) := dk_184 0 47 (dk_at dksX3_be_1 14 rfl rfl)
theorem dX3_be_41 : decode cX3_be 41 = .ok (.aload_n 1, 1) := dk_43 (dk_at dksX3_be_1 17 rfl rfl)
theorem dX3_be_42 : decode cX3_be 42 = .ok (.getfield 22, 3) := dk_180 0 22 (dk_at dksX3_be_1 18 rfl rfl)
theorem dX3_be_45 : decode cX3_be 45 = .ok (.iconst 0, 1) := dk_3 (dk_at dksX3_be_1 21 rfl rfl)
theorem dX3_be_46 : decode cX3_be 46 = .ok (.aload_n 0, 1) := dk_42 (dk_at dksX3_be_1 22 rfl rfl)
theorem dX3_be_47 : decode cX3_be 47 = .ok (.getfield 22, 3) := dk_180 0 22 (dk_at dksX3_be_2 0 rfl rfl)
theorem dX3_be_50 : decode cX3_be 50 = .ok (.iconst 0, 1) := dk_3 (dk_at dksX3_be_2 3 rfl rfl)
theorem dX3_be_51 : decode cX3_be 51 = .ok (.aload_n 0, 1) := dk_42 (dk_at dksX3_be_2 4 rfl rfl)
theorem dX3_be_52 : decode cX3_be 52 = .ok (.getfield 40, 3) := dk_180 0 40 (dk_at dksX3_be_2 5 rfl rfl)
theorem dX3_be_55 : decode cX3_be 55 = .ok (.invokestatic 47, 3) := dk_184 0 47 (dk_at dksX3_be_2 8 rfl rfl)
theorem dX3_be_58 : decode cX3_be 58 = .ok (.aload_n 1, 1) := dk_43 (dk_at dksX3_be_2 11 rfl rfl)
theorem dX3_be_59 : decode cX3_be 59 = .ok (.getfield 25, 3) := dk_180 0 25 (dk_at dksX3_be_2 12 rfl rfl)
theorem dX3_be_62 : decode cX3_be 62 = .ok (.iconst 0, 1) := dk_3 (dk_at dksX3_be_2 15 rfl rfl)
theorem dX3_be_63 : decode cX3_be 63 = .ok (.aload_n 0, 1) := dk_42 (dk_at dksX3_be_2 16 rfl rfl)
theorem dX3_be_64 : decode cX3_be 64 = .ok (.getfield 25, 3) := dk_180 0 25 (dk_at dksX3_be_2 17 rfl rfl)
theorem dX3_be_67 : decode cX3_be 67 = .ok (.iconst 0, 1) := dk_3 (dk_at dksX3_be_2 20 rfl rfl)
theorem dX3_be_68 : decode cX3_be 68 = .ok (.aload_n 0, 1) := dk_42 (dk_at dksX3_be_2 21 rfl rfl)
theorem dX3_be_69 : decode cX3_be 69 = .ok (.getfield 40, 3) := dk_180 0 40 (dk_at dksX3_be_3 0 rfl rfl)
theorem dX3_be_72 : decode cX3_be 72 = .ok (.invokestatic 47, 3) := dk_184 0 47 (dk_at dksX3_be_3 3 rfl rfl)
theorem dX3_be_75 : decode cX3_be 75 = .ok (.aload_n 1, 1) := dk_43 (dk_at dksX3_be_3 6 rfl rfl)
theorem dX3_be_76 : decode cX3_be 76 = .ok (.getfield 28, 3) := dk_180 0 28 (dk_at dksX3_be_3 7 rfl rfl)
theorem dX3_be_79 : decode cX3_be 79 = .ok (.iconst 0, 1) := dk_3 (dk_at dksX3_be_3 10 rfl rfl)
theorem dX3_be_80 : decode cX3_be 80 = .ok (.aload_n 0, 1) := dk_42 (dk_at dksX3_be_3 11 rfl rfl)
theorem dX3_be_81 : decode cX3_be 81 = .ok (.getfield 28, 3) := dk_180 0 28 (dk_at dksX3_be_3 12 rfl rfl)
theorem dX3_be_84 : decode cX3_be 84 = .ok (.iconst 0, 1) := dk_3 (dk_at dksX3_be_3 15 rfl rfl)
theorem dX3_be_85 : decode cX3_be 85 = .ok (.aload_n 0, 1) := dk_42 (dk_at dksX3_be_3 16 rfl rfl)
theorem dX3_be_86 : decode cX3_be 86 = .ok (.getfield 40, 3) := dk_180 0 40 (dk_at dksX3_be_3 17 rfl rfl)
theorem dX3_be_89 : decode cX3_be 89 = .ok (.invokestatic 47, 3) := dk_184 0 47 (dk_at dksX3_be_3 20 rfl rfl)
theorem dX3_be_92 : decode cX3_be 92 = .ok (.aload_n 1, 1) := dk_43 (dk_at dksX3_be_3 23 rfl rfl)
theorem dX3_be_93 : decode cX3_be 93 = .ok (.getfield 31, 3) := dk_180 0 31 (dk_at dksX3_be_4 0 rfl rfl)
theorem dX3_be_96 : decode cX3_be 96 = .ok (.iconst 0, 1) := dk_3 (dk_at dksX3_be_4 3 rfl rfl)
theorem dX3_be_97 : decode cX3_be 97 = .ok (.aload_n 0, 1) := dk_42 (dk_at dksX3_be_4 4 rfl rfl)
theorem dX3_be_98 : decode cX3_be 98 = .ok (.getfield 31, 3) := dk_180 0 31 (dk_at dksX3_be_4 5 rfl rfl)
theorem dX3_be_101 : decode cX3_be 101 = .ok (.iconst 0, 1) := dk_3 (dk_at dksX3_be_4 8 rfl rfl)
theorem dX3_be_102 : decode cX3_be 102 = .ok (.aload_n 0, 1) := dk_42 (dk_at dksX3_be_4 9 rfl rfl)
theorem dX3_be_103 : decode cX3_be 103 = .ok (.getfield 40, 3) := dk_180 0 40 (dk_at dksX3_be_4 10 rfl rfl)
theorem dX3_be_106 : decode cX3_be 106 = .ok (.invokestatic 47, 3) := dk_184 0 47 (dk_at dksX3_be_4 13 rfl rfl)
theorem dX3_be_109 : decode cX3_be 109 = .ok (.aload_n 1, 1) := dk_43 (dk_at dksX3_be_4 16 rfl rfl)
theorem dX3_be_110 : decode cX3_be 110 = .ok (.getfield 34, 3) := dk_180 0 34 (dk_at dksX3_be_4 17 rfl rfl)
theorem dX3_be_113 : decode cX3_be 113 = .ok (.iconst 0, 1) := dk_3 (dk_at dksX3_be_4 20 rfl rfl)
theorem dX3_be_114 : decode cX3_be 114 = .ok (.aload_n 0, 1) := dk_42 (dk_at dksX3_be_4 21 rfl rfl)
theorem dX3_be_115 : decode cX3_be 115 = .ok (.getfield 34, 3) := dk_180 0 34 (dk_at dksX3_be_5 0 rfl rfl)
theorem dX3_be_118 : decode cX3_be 118 = .ok (.iconst 0, 1) := dk_3 (dk_at dksX3_be_5 3 rfl rfl)
theorem dX3_be_119 : decode cX3_be 119 = .ok (.aload_n 0, 1) := dk_42 (dk_at dksX3_be_5 4 rfl rfl)
theorem dX3_be_120 : decode cX3_be 120 = .ok (.getfield 40, 3) := dk_180 0 40 (dk_at dksX3_be_5 5 rfl rfl)
theorem dX3_be_123 : decode cX3_be 123 = .ok (.invokestatic 47, 3) := dk_184 0 47 (dk_at dksX3_be_5 8 rfl rfl)
theorem dX3_be_126 : decode cX3_be 126 = .ok (.aload_n 1, 1) := dk_43 (dk_at dksX3_be_5 11 rfl rfl)
theorem dX3_be_127 : decode cX3_be 127 = .ok (.getfield 37, 3) := dk_180 0 37 (dk_at dksX3_be_5 12 rfl rfl)
theorem dX3_be_130 : decode cX3_be 130 = .ok (.iconst 0, 1) := dk_3 (dk_at dksX3_be_5 15 rfl rfl)
theorem dX3_be_131 : decode cX3_be 131 = .ok (.aload_n 0, 1) := dk_42 (dk_at dksX3_be_5 16 rfl rfl)
theorem dX3_be_132 : decode cX3_be 132 = .ok (.getfield 37, 3) := dk_180 0 37 (dk_at dksX3_be_5 17 rfl rfl)
theorem dX3_be_135 : decode cX3_be 135 = .ok (.iconst 0, 1) := dk_3 (dk_at dksX3_be_5 20 rfl rfl)
theorem dX3_be_136 : decode cX3_be 136 = .ok (.aload_n 0, 1) := dk_42 (dk_at dksX3_be_5 21 rfl rfl)
theorem dX3_be_137 : decode cX3_be 137 = .ok (.getfield 40, 3) := dk_180 0 40 (dk_at dksX3_be_6 0 rfl rfl)
theorem dX3_be_140 : decode cX3_be 140 = .ok (.invokestatic 47, 3) := dk_184 0 47 (dk_at dksX3_be_6 3 rfl rfl)
theorem dX3_be_143 : decode cX3_be 143 = .ok (.return_, 1) := dk_177 (dk_at dksX3_be_6 6 rfl rfl)
abbrev cX3_stateOf : ByteArray := prog_17_method_9_code
def yX3_stateOf : MethodName := ⟨RX3, "stateOf", "(I)I"⟩
def dkwX3_stateOf_1 : List UInt8 := [180, 0, 80, 164, 0, 8, 16, 8, 167, 0, 9, 42, 180, 0, 34, 27, 46, 172]
abbrev dktX3_stateOf_1 : List UInt8 := dkwX3_stateOf_1 ++ []
def dkwX3_stateOf_0 : List UInt8 := [42, 180, 0, 34, 27, 46, 7, 160, 0, 27, 42, 180, 0, 40, 4, 100, 27, 100, 42, 27, 182, 0, 76]
abbrev dktX3_stateOf_0 : List UInt8 := dkwX3_stateOf_0 ++ dktX3_stateOf_1
theorem dksX3_stateOf_0 : cX3_stateOf.data.toList.drop 0 = dktX3_stateOf_0 := by decide +kernel
theorem dksX3_stateOf_1 : cX3_stateOf.data.toList.drop 23 = dktX3_stateOf_1 := dk_seg dksX3_stateOf_0 23 rfl rfl
theorem dX3_stateOf_0 : decode cX3_stateOf 0 = .ok (.aload_n 0, 1) := dk_42 (dk_at dksX3_stateOf_0 0 rfl rfl)
theorem dX3_stateOf_1 : decode cX3_stateOf 1 = .ok (.getfield 34, 3) := dk_180 0 34 (dk_at dksX3_stateOf_0 1 rfl rfl)
theorem dX3_stateOf_4 : decode cX3_stateOf 4 = .ok (.iload_n 1, 1) := dk_27 (dk_at dksX3_stateOf_0 4 rfl rfl)
theorem dX3_stateOf_5 : decode cX3_stateOf 5 = .ok (.iaload, 1) := dk_46 (dk_at dksX3_stateOf_0 5 rfl rfl)
theorem dX3_stateOf_6 : decode cX3_stateOf 6 = .ok (.iconst 4, 1) := dk_7 (dk_at dksX3_stateOf_0 6 rfl rfl)
theorem dX3_stateOf_7 : decode cX3_stateOf 7 = .ok (.if_icmp .ne 27, 3) := dk_160 0 27 (dk_at dksX3_stateOf_0 7 rfl rfl)
theorem dX3_stateOf_10 : decode cX3_stateOf 10 = .ok (.aload_n 0, 1) := dk_42 (dk_at dksX3_stateOf_0 10 rfl rfl)
theorem dX3_stateOf_11 : decode cX3_stateOf 11 = .ok (.getfield 40, 3) := dk_180 0 40 (dk_at dksX3_stateOf_0 11 rfl rfl)
theorem dX3_stateOf_14 : decode cX3_stateOf 14 = .ok (.iconst 1, 1) := dk_4 (dk_at dksX3_stateOf_0 14 rfl rfl)
theorem dX3_stateOf_15 : decode cX3_stateOf 15 = .ok (.isub, 1) := dk_100 (dk_at dksX3_stateOf_0 15 rfl rfl)
theorem dX3_stateOf_16 : decode cX3_stateOf 16 = .ok (.iload_n 1, 1) := dk_27 (dk_at dksX3_stateOf_0 16 rfl rfl)
theorem dX3_stateOf_17 : decode cX3_stateOf 17 = .ok (.isub, 1) := dk_100 (dk_at dksX3_stateOf_0 17 rfl rfl)
theorem dX3_stateOf_18 : decode cX3_stateOf 18 = .ok (.aload_n 0, 1) := dk_42 (dk_at dksX3_stateOf_0 18 rfl rfl)
theorem dX3_stateOf_19 : decode cX3_stateOf 19 = .ok (.iload_n 1, 1) := dk_27 (dk_at dksX3_stateOf_0 19 rfl rfl)
theorem dX3_stateOf_20 : decode cX3_stateOf 20 = .ok (.invokevirtual 76, 3) := dk_182 0 76 (dk_at dksX3_stateOf_0 20 rfl rfl)
theorem dX3_stateOf_23 : decode cX3_stateOf 23 = .ok (.getfield 80, 3) := dk_180 0 80 (dk_at dksX3_stateOf_1 0 rfl rfl)
theorem dX3_stateOf_26 : decode cX3_stateOf 26 = .ok (.if_icmp .le 8, 3) := dk_164 0 8 (dk_at dksX3_stateOf_1 3 rfl rfl)
theorem dX3_stateOf_29 : decode cX3_stateOf 29 = .ok (.bipush 8, 2) := dk_16 8 (dk_at dksX3_stateOf_1 6 rfl rfl)
theorem dX3_stateOf_31 : decode cX3_stateOf 31 = .ok (.goto 9, 3) := dk_167 0 9 (dk_at dksX3_stateOf_1 8 rfl rfl)
theorem dX3_stateOf_34 : decode cX3_stateOf 34 = .ok (.aload_n 0, 1) := dk_42 (dk_at dksX3_stateOf_1 11 rfl rfl)
theorem dX3_stateOf_35 : decode cX3_stateOf 35 = .ok (.getfield 34, 3) := dk_180 0 34 (dk_at dksX3_stateOf_1 12 rfl rfl)
theorem dX3_stateOf_38 : decode cX3_stateOf 38 = .ok (.iload_n 1, 1) := dk_27 (dk_at dksX3_stateOf_1 15 rfl rfl)
theorem dX3_stateOf_39 : decode cX3_stateOf 39 = .ok (.iaload, 1) := dk_46 (dk_at dksX3_stateOf_1 16 rfl rfl)
theorem dX3_stateOf_40 : decode cX3_stateOf 40 = .ok (.ireturn, 1) := dk_172 (dk_at dksX3_stateOf_1 17 rfl rfl)
theorem q94 : (Jvm.Cond.initialized "CombTable$Talk") ∈ lw_all := lw_g (lw_at lw_m1 5 rfl) rfl
theorem q226 : (Jvm.Cond.instantiable "CombTable$Talk" (10 : Nat)) ∈ lw_all := lw_g (lw_at lw_m1 137 rfl) rfl
theorem q228 : (Jvm.Cond.instanceMethod ({ cls := "CombTable$Talk", name := "<init>", desc := "()V" } : Jvm.MethodName)) ∈ lw_all := lw_g (lw_at lw_m1 139 rfl) rfl
theorem q229 : (Jvm.Cond.code ({ cls := "CombTable$Talk", name := "<init>", desc := "()V" } : Jvm.MethodName) prog_17_method_1_code (1 : Nat) (Option.none : Option Jvm.ClassFile.FieldType)) ∈ lw_all := lw_g (lw_at lw_m1 140 rfl) rfl
theorem q230 : (Jvm.Cond.methodLink "CombTable$Talk" (3 : Nat) ({ cls := "java/lang/Object", name := "<init>", desc := "()V" } : Jvm.MethodName)) ∈ lw_all := lw_g (lw_at lw_m1 141 rfl) rfl
theorem q231 : (Jvm.Cond.classLink "CombTable$Talk" (9 : Nat) "CombTable$Table") ∈ lw_all := lw_g (lw_at lw_m1 142 rfl) rfl
theorem q233 : (Jvm.Cond.methodLinkNest "CombTable$Talk" (11 : Nat) ({ cls := "CombTable$Table", name := "<init>", desc := "()V" } : Jvm.MethodName) "CombTable") ∈ lw_tbl := lw_at lw_m1 144 rfl
theorem q252 : (Jvm.Cond.fieldLinkNest "CombTable$Talk" (63 : Nat) "CombTable$Table" "kinds" "[LCombTable$Kind;" "CombTable") ∈ lw_tbl := lw_at lw_m1 163 rfl
theorem q259 : (Jvm.Cond.fieldLinkNest "CombTable$Talk" (53 : Nat) "CombTable$Table" "whoMany" "I" "CombTable") ∈ lw_tbl := lw_at lw_m1 170 rfl
theorem q265 : (Jvm.Cond.fieldLinkNest "CombTable$Talk" (60 : Nat) "CombTable$Table" "kindMany" "I" "CombTable") ∈ lw_tbl := lw_at lw_m1 176 rfl
theorem q277 : (Jvm.Cond.fieldLinkNest "CombTable$Talk" (83 : Nat) "CombTable$Table" "twice" "Z" "CombTable") ∈ lw_tbl := lw_at lw_m1 188 rfl
theorem q299 : (Jvm.Cond.fieldLink "CombTable$Talk" (12 : Nat) "CombTable$Talk" "table" "LCombTable$Table;") ∈ lw_all := lw_g (lw_at lw_m1 210 rfl) rfl
theorem q304 : (Jvm.Cond.fieldLink "CombTable$Talk" (18 : Nat) "CombTable$Talk" "who" "[I") ∈ lw_all := lw_g (lw_at lw_m1 215 rfl) rfl
theorem q307 : (Jvm.Cond.fieldLink "CombTable$Talk" (22 : Nat) "CombTable$Talk" "kind" "[I") ∈ lw_all := lw_g (lw_at lw_m1 218 rfl) rfl
theorem q310 : (Jvm.Cond.fieldLink "CombTable$Talk" (25 : Nat) "CombTable$Talk" "answers" "[I") ∈ lw_all := lw_g (lw_at lw_m1 221 rfl) rfl
theorem q313 : (Jvm.Cond.fieldLink "CombTable$Talk" (28 : Nat) "CombTable$Talk" "thread" "[I") ∈ lw_all := lw_g (lw_at lw_m1 224 rfl) rfl
theorem q316 : (Jvm.Cond.fieldLink "CombTable$Talk" (31 : Nat) "CombTable$Talk" "depth" "[I") ∈ lw_all := lw_g (lw_at lw_m1 227 rfl) rfl
theorem q319 : (Jvm.Cond.fieldLink "CombTable$Talk" (34 : Nat) "CombTable$Talk" "state" "[I") ∈ lw_all := lw_g (lw_at lw_m1 230 rfl) rfl
theorem q320 : (Jvm.Cond.fieldLink "CombTable$Talk" (37 : Nat) "CombTable$Talk" "was" "[I") ∈ lw_all := lw_g (lw_at lw_m1 231 rfl) rfl
theorem q321 : (Jvm.Cond.fieldLink "CombTable$Talk" (40 : Nat) "CombTable$Talk" "many" "I") ∈ lw_all := lw_g (lw_at lw_m1 232 rfl) rfl
theorem q324 : (Jvm.Cond.fieldLink "CombTable$Talk" (44 : Nat) "CombTable$Talk" "threads" "I") ∈ lw_all := lw_g (lw_at lw_m1 235 rfl) rfl
theorem q326 : (Jvm.Cond.lays "CombTable$Talk" "CombTable$Talk" "table" "LCombTable$Table;") ∈ lw_all := lw_g (lw_at lw_m1 237 rfl) rfl
theorem q327 : (Jvm.Cond.soleField "CombTable$Talk" "table") ∈ lw_all := lw_g (lw_at lw_m1 238 rfl) rfl
theorem q328 : (Jvm.Cond.laysFinal "CombTable$Talk" "CombTable$Talk" "who" "[I") ∈ lw_all := lw_g (lw_at lw_m1 239 rfl) rfl
theorem q329 : (Jvm.Cond.soleField "CombTable$Talk" "who") ∈ lw_all := lw_g (lw_at lw_m2 0 rfl) rfl
theorem q330 : (Jvm.Cond.laysFinal "CombTable$Talk" "CombTable$Talk" "kind" "[I") ∈ lw_all := lw_g (lw_at lw_m2 1 rfl) rfl
theorem q331 : (Jvm.Cond.soleField "CombTable$Talk" "kind") ∈ lw_all := lw_g (lw_at lw_m2 2 rfl) rfl
theorem q332 : (Jvm.Cond.laysFinal "CombTable$Talk" "CombTable$Talk" "answers" "[I") ∈ lw_all := lw_g (lw_at lw_m2 3 rfl) rfl
theorem q333 : (Jvm.Cond.soleField "CombTable$Talk" "answers") ∈ lw_all := lw_g (lw_at lw_m2 4 rfl) rfl
theorem q334 : (Jvm.Cond.laysFinal "CombTable$Talk" "CombTable$Talk" "thread" "[I") ∈ lw_all := lw_g (lw_at lw_m2 5 rfl) rfl
theorem q335 : (Jvm.Cond.soleField "CombTable$Talk" "thread") ∈ lw_all := lw_g (lw_at lw_m2 6 rfl) rfl
theorem q336 : (Jvm.Cond.laysFinal "CombTable$Talk" "CombTable$Talk" "depth" "[I") ∈ lw_all := lw_g (lw_at lw_m2 7 rfl) rfl
theorem q337 : (Jvm.Cond.soleField "CombTable$Talk" "depth") ∈ lw_all := lw_g (lw_at lw_m2 8 rfl) rfl
theorem q338 : (Jvm.Cond.laysFinal "CombTable$Talk" "CombTable$Talk" "state" "[I") ∈ lw_all := lw_g (lw_at lw_m2 9 rfl) rfl
theorem q339 : (Jvm.Cond.soleField "CombTable$Talk" "state") ∈ lw_all := lw_g (lw_at lw_m2 10 rfl) rfl
theorem q340 : (Jvm.Cond.laysFinal "CombTable$Talk" "CombTable$Talk" "was" "[I") ∈ lw_all := lw_g (lw_at lw_m2 11 rfl) rfl
theorem q341 : (Jvm.Cond.soleField "CombTable$Talk" "was") ∈ lw_all := lw_g (lw_at lw_m2 12 rfl) rfl
theorem q342 : (Jvm.Cond.lays "CombTable$Talk" "CombTable$Talk" "many" "I") ∈ lw_all := lw_g (lw_at lw_m2 13 rfl) rfl
theorem q343 : (Jvm.Cond.soleField "CombTable$Talk" "many") ∈ lw_all := lw_g (lw_at lw_m2 14 rfl) rfl
theorem q344 : (Jvm.Cond.lays "CombTable$Talk" "CombTable$Talk" "threads" "I") ∈ lw_all := lw_g (lw_at lw_m2 15 rfl) rfl
theorem q345 : (Jvm.Cond.soleField "CombTable$Talk" "threads") ∈ lw_all := lw_g (lw_at lw_m2 16 rfl) rfl
theorem q346 : (Jvm.Cond.superclass "CombTable$Talk" "java/lang/Object") ∈ lw_all := lw_g (lw_at lw_m2 17 rfl) rfl
theorem q830 : (Jvm.Cond.fieldLinkNest "CombTable$Talk" (67 : Nat) "CombTable$Kind" "begins" "I" "CombTable") ∈ lw_tbl := lw_at lw_m4 21 rfl
theorem q833 : (Jvm.Cond.fieldLinkNest "CombTable$Talk" (90 : Nat) "CombTable$Kind" "does" "I" "CombTable") ∈ lw_tbl := lw_at lw_m4 24 rfl
theorem q836 : (Jvm.Cond.fieldLinkNest "CombTable$Talk" (80 : Nat) "CombTable$Kind" "due" "I" "CombTable") ∈ lw_tbl := lw_at lw_m4 27 rfl
theorem q839 : (Jvm.Cond.fieldLinkNest "CombTable$Talk" (93 : Nat) "CombTable$Kind" "may" "I" "CombTable") ∈ lw_tbl := lw_at lw_m4 30 rfl
theorem q887 : (Jvm.Cond.instanceMethod ({ cls := "CombTable$Talk", name := "begin", desc := "(LCombTable$Table;)V" } : Jvm.MethodName)) ∈ lw_all := lw_g (lw_at lw_m4 78 rfl) rfl
theorem q888 : (Jvm.Cond.selects "CombTable$Talk" ({ cls := "CombTable$Talk", name := "begin", desc := "(LCombTable$Table;)V" } : Jvm.MethodName) ({ cls := "CombTable$Talk", name := "begin", desc := "(LCombTable$Table;)V" } : Jvm.MethodName)) ∈ lw_all := lw_g (lw_at lw_m4 79 rfl) rfl
theorem q889 : (Jvm.Cond.code ({ cls := "CombTable$Talk", name := "begin", desc := "(LCombTable$Table;)V" } : Jvm.MethodName) prog_17_method_2_code (2 : Nat) (Option.none : Option Jvm.ClassFile.FieldType)) ∈ lw_all := lw_g (lw_at lw_m4 80 rfl) rfl
theorem q899 : (Jvm.Cond.instanceMethod ({ cls := "CombTable$Talk", name := "isWho", desc := "(I)Z" } : Jvm.MethodName)) ∈ lw_all := lw_g (lw_at lw_m4 90 rfl) rfl
theorem q900 : (Jvm.Cond.selects "CombTable$Talk" ({ cls := "CombTable$Talk", name := "isWho", desc := "(I)Z" } : Jvm.MethodName) ({ cls := "CombTable$Talk", name := "isWho", desc := "(I)Z" } : Jvm.MethodName)) ∈ lw_all := lw_g (lw_at lw_m4 91 rfl) rfl
theorem q901 : (Jvm.Cond.code ({ cls := "CombTable$Talk", name := "isWho", desc := "(I)Z" } : Jvm.MethodName) prog_17_method_4_code (2 : Nat) (Option.some Jvm.ClassFile.FieldType.boolean)) ∈ lw_all := lw_g (lw_at lw_m4 92 rfl) rfl
theorem q902 : (Jvm.Cond.methodLinkNest "CombTable$Talk" (56 : Nat) ({ cls := "CombTable", name := "isIn", desc := "(III)Z" } : Jvm.MethodName) "CombTable") ∈ lw_tbl := lw_at lw_m4 93 rfl
theorem q908 : (Jvm.Cond.instanceMethod ({ cls := "CombTable$Talk", name := "isKind", desc := "(I)Z" } : Jvm.MethodName)) ∈ lw_all := lw_g (lw_at lw_m4 99 rfl) rfl
theorem q909 : (Jvm.Cond.selects "CombTable$Talk" ({ cls := "CombTable$Talk", name := "isKind", desc := "(I)Z" } : Jvm.MethodName) ({ cls := "CombTable$Talk", name := "isKind", desc := "(I)Z" } : Jvm.MethodName)) ∈ lw_all := lw_g (lw_at lw_m4 100 rfl) rfl
theorem q910 : (Jvm.Cond.code ({ cls := "CombTable$Talk", name := "isKind", desc := "(I)Z" } : Jvm.MethodName) prog_17_method_5_code (2 : Nat) (Option.some Jvm.ClassFile.FieldType.boolean)) ∈ lw_all := lw_g (lw_at lw_m4 101 rfl) rfl
theorem q912 : (Jvm.Cond.instanceMethod ({ cls := "CombTable$Talk", name := "tries", desc := "(II)I" } : Jvm.MethodName)) ∈ lw_all := lw_g (lw_at lw_m4 103 rfl) rfl
theorem q913 : (Jvm.Cond.selects "CombTable$Talk" ({ cls := "CombTable$Talk", name := "tries", desc := "(II)I" } : Jvm.MethodName) ({ cls := "CombTable$Talk", name := "tries", desc := "(II)I" } : Jvm.MethodName)) ∈ lw_all := lw_g (lw_at lw_m4 104 rfl) rfl
theorem q914 : (Jvm.Cond.code ({ cls := "CombTable$Talk", name := "tries", desc := "(II)I" } : Jvm.MethodName) prog_17_method_13_code (4 : Nat) (Option.some Jvm.ClassFile.FieldType.int)) ∈ lw_all := lw_g (lw_at lw_m4 105 rfl) rfl
theorem q915 : (Jvm.Cond.methodLink "CombTable$Talk" (104 : Nat) ({ cls := "CombTable$Talk", name := "why", desc := "(II)I" } : Jvm.MethodName)) ∈ lw_all := lw_g (lw_at lw_m4 106 rfl) rfl
theorem q916 : (Jvm.Cond.instanceMethod ({ cls := "CombTable$Talk", name := "why", desc := "(II)I" } : Jvm.MethodName)) ∈ lw_all := lw_g (lw_at lw_m4 107 rfl) rfl
theorem q917 : (Jvm.Cond.selects "CombTable$Talk" ({ cls := "CombTable$Talk", name := "why", desc := "(II)I" } : Jvm.MethodName) ({ cls := "CombTable$Talk", name := "why", desc := "(II)I" } : Jvm.MethodName)) ∈ lw_all := lw_g (lw_at lw_m4 108 rfl) rfl
theorem q918 : (Jvm.Cond.code ({ cls := "CombTable$Talk", name := "why", desc := "(II)I" } : Jvm.MethodName) prog_17_method_10_code (5 : Nat) (Option.some Jvm.ClassFile.FieldType.int)) ∈ lw_all := lw_g (lw_at lw_m4 109 rfl) rfl
theorem q919 : (Jvm.Cond.methodLink "CombTable$Talk" (87 : Nat) ({ cls := "CombTable$Talk", name := "answered", desc := "(II)I" } : Jvm.MethodName)) ∈ lw_all := lw_g (lw_at lw_m4 110 rfl) rfl
theorem q920 : (Jvm.Cond.privateMethod ({ cls := "CombTable$Talk", name := "answered", desc := "(II)I" } : Jvm.MethodName)) ∈ lw_tbl := lw_at lw_m4 111 rfl
theorem q921 : (Jvm.Cond.instanceMethod ({ cls := "CombTable$Talk", name := "answered", desc := "(II)I" } : Jvm.MethodName)) ∈ lw_all := lw_g (lw_at lw_m4 112 rfl) rfl
theorem q922 : (Jvm.Cond.code ({ cls := "CombTable$Talk", name := "answered", desc := "(II)I" } : Jvm.MethodName) prog_17_method_7_code (4 : Nat) (Option.some Jvm.ClassFile.FieldType.int)) ∈ lw_all := lw_g (lw_at lw_m4 113 rfl) rfl
theorem q923 : (Jvm.Cond.methodLink "CombTable$Talk" (72 : Nat) ({ cls := "CombTable$Table", name := "back", desc := "(II)I" } : Jvm.MethodName)) ∈ lw_all := lw_g (lw_at lw_m4 114 rfl) rfl
theorem q927 : (Jvm.Cond.methodLinkNest "CombTable$Talk" (96 : Nat) ({ cls := "CombTable", name := "has", desc := "(II)Z" } : Jvm.MethodName) "CombTable") ∈ lw_tbl := lw_at lw_m4 118 rfl
theorem q928 : (Jvm.Cond.methodLink "CombTable$Talk" (76 : Nat) ({ cls := "CombTable$Talk", name := "kindOf", desc := "(I)LCombTable$Kind;" } : Jvm.MethodName)) ∈ lw_all := lw_g (lw_at lw_m4 119 rfl) rfl
theorem q929 : (Jvm.Cond.instanceMethod ({ cls := "CombTable$Talk", name := "kindOf", desc := "(I)LCombTable$Kind;" } : Jvm.MethodName)) ∈ lw_all := lw_g (lw_at lw_m4 120 rfl) rfl
theorem q930 : (Jvm.Cond.selects "CombTable$Talk" ({ cls := "CombTable$Talk", name := "kindOf", desc := "(I)LCombTable$Kind;" } : Jvm.MethodName) ({ cls := "CombTable$Talk", name := "kindOf", desc := "(I)LCombTable$Kind;" } : Jvm.MethodName)) ∈ lw_all := lw_g (lw_at lw_m4 121 rfl) rfl
theorem q931 : (Jvm.Cond.code ({ cls := "CombTable$Talk", name := "kindOf", desc := "(I)LCombTable$Kind;" } : Jvm.MethodName) prog_17_method_6_code (2 : Nat) (Option.some (Jvm.ClassFile.FieldType.object "CombTable$Kind"))) ∈ lw_all := lw_g (lw_at lw_m4 122 rfl) rfl
theorem q932 : (Jvm.Cond.methodLink "CombTable$Talk" (100 : Nat) ({ cls := "CombTable$Talk", name := "to", desc := "(I)I" } : Jvm.MethodName)) ∈ lw_all := lw_g (lw_at lw_m4 123 rfl) rfl
theorem q933 : (Jvm.Cond.instanceMethod ({ cls := "CombTable$Talk", name := "to", desc := "(I)I" } : Jvm.MethodName)) ∈ lw_all := lw_g (lw_at lw_m4 124 rfl) rfl
theorem q934 : (Jvm.Cond.selects "CombTable$Talk" ({ cls := "CombTable$Talk", name := "to", desc := "(I)I" } : Jvm.MethodName) ({ cls := "CombTable$Talk", name := "to", desc := "(I)I" } : Jvm.MethodName)) ∈ lw_all := lw_g (lw_at lw_m4 125 rfl) rfl
theorem q935 : (Jvm.Cond.code ({ cls := "CombTable$Talk", name := "to", desc := "(I)I" } : Jvm.MethodName) prog_17_method_8_code (2 : Nat) (Option.some Jvm.ClassFile.FieldType.int)) ∈ lw_all := lw_g (lw_at lw_m4 126 rfl) rfl
theorem q936 : (Jvm.Cond.methodLink "CombTable$Talk" (107 : Nat) ({ cls := "CombTable$Talk", name := "say", desc := "(II)V" } : Jvm.MethodName)) ∈ lw_all := lw_g (lw_at lw_m4 127 rfl) rfl
theorem q937 : (Jvm.Cond.instanceMethod ({ cls := "CombTable$Talk", name := "say", desc := "(II)V" } : Jvm.MethodName)) ∈ lw_all := lw_g (lw_at lw_m4 128 rfl) rfl
theorem q938 : (Jvm.Cond.selects "CombTable$Talk" ({ cls := "CombTable$Talk", name := "say", desc := "(II)V" } : Jvm.MethodName) ({ cls := "CombTable$Talk", name := "say", desc := "(II)V" } : Jvm.MethodName)) ∈ lw_all := lw_g (lw_at lw_m4 129 rfl) rfl
theorem q939 : (Jvm.Cond.code ({ cls := "CombTable$Talk", name := "say", desc := "(II)V" } : Jvm.MethodName) prog_17_method_11_code (6 : Nat) (Option.none : Option Jvm.ClassFile.FieldType)) ∈ lw_all := lw_g (lw_at lw_m4 130 rfl) rfl
theorem q954 : (Jvm.Cond.instanceMethod ({ cls := "CombTable$Talk", name := "undo", desc := "()V" } : Jvm.MethodName)) ∈ lw_all := lw_g (lw_at lw_m4 145 rfl) rfl
theorem q955 : (Jvm.Cond.selects "CombTable$Talk" ({ cls := "CombTable$Talk", name := "undo", desc := "()V" } : Jvm.MethodName) ({ cls := "CombTable$Talk", name := "undo", desc := "()V" } : Jvm.MethodName)) ∈ lw_all := lw_g (lw_at lw_m4 146 rfl) rfl
theorem q956 : (Jvm.Cond.code ({ cls := "CombTable$Talk", name := "undo", desc := "()V" } : Jvm.MethodName) prog_17_method_12_code (2 : Nat) (Option.none : Option Jvm.ClassFile.FieldType)) ∈ lw_all := lw_g (lw_at lw_m4 147 rfl) rfl
theorem q992 : (Jvm.Cond.instanceMethod ({ cls := "CombTable$Talk", name := "be", desc := "(LCombTable$Talk;)V" } : Jvm.MethodName)) ∈ lw_all := lw_g (lw_at lw_m4 183 rfl) rfl
theorem q993 : (Jvm.Cond.selects "CombTable$Talk" ({ cls := "CombTable$Talk", name := "be", desc := "(LCombTable$Talk;)V" } : Jvm.MethodName) ({ cls := "CombTable$Talk", name := "be", desc := "(LCombTable$Talk;)V" } : Jvm.MethodName)) ∈ lw_all := lw_g (lw_at lw_m4 184 rfl) rfl
theorem q994 : (Jvm.Cond.code ({ cls := "CombTable$Talk", name := "be", desc := "(LCombTable$Talk;)V" } : Jvm.MethodName) prog_17_method_3_code (2 : Nat) (Option.none : Option Jvm.ClassFile.FieldType)) ∈ lw_all := lw_g (lw_at lw_m4 185 rfl) rfl
theorem q995 : (Jvm.Cond.methodLink "CombTable$Talk" (47 : Nat) ({ cls := "java/lang/System", name := "arraycopy", desc := "(Ljava/lang/Object;ILjava/lang/Object;II)V" } : Jvm.MethodName)) ∈ lw_all := lw_g (lw_at lw_m4 186 rfl) rfl
theorem q1016 : (Jvm.Cond.instanceMethod ({ cls := "CombTable$Talk", name := "stateOf", desc := "(I)I" } : Jvm.MethodName)) ∈ lw_all := lw_g (lw_at lw_m4 207 rfl) rfl
theorem q1017 : (Jvm.Cond.selects "CombTable$Talk" ({ cls := "CombTable$Talk", name := "stateOf", desc := "(I)I" } : Jvm.MethodName) ({ cls := "CombTable$Talk", name := "stateOf", desc := "(I)I" } : Jvm.MethodName)) ∈ lw_all := lw_g (lw_at lw_m4 208 rfl) rfl
theorem q1018 : (Jvm.Cond.code ({ cls := "CombTable$Talk", name := "stateOf", desc := "(I)I" } : Jvm.MethodName) prog_17_method_9_code (2 : Nat) (Option.some Jvm.ClassFile.FieldType.int)) ∈ lw_all := lw_g (lw_at lw_m4 209 rfl) rfl
theorem q2051 : (Jvm.Cond.castable "CombTable$Talk" "java/lang/Object") ∈ lw_tbl := lw_at lw_m9 42 rfl
theorem in_X3 : ∀ w ∈ wsX30, w ∈ lw_all := lw_in wsX30 [326, 328, 330, 332, 334, 336, 338, 340, 342, 344] (by decide +kernel) (by decide +kernel)

/-! CombTable$Table -/
set_option maxRecDepth 100000
def RX4 : String := "CombTable$Table"
def TX4 : u_T := fun k => match k with
  | 0 => ("CombTable$Table", "people", "[LCombTable$Who;", true)
  | 1 => ("CombTable$Table", "kinds", "[LCombTable$Kind;", true)
  | 2 => ("CombTable$Table", "comb", "[I", true)
  | 3 => ("CombTable$Table", "whoMany", "I", false)
  | 4 => ("CombTable$Table", "kindMany", "I", false)
  | 5 => ("CombTable$Table", "mayMany", "I", false)
  | 6 => ("CombTable$Table", "combMany", "I", false)
  | 7 => ("CombTable$Table", "ranks", "Z", false)
  | _ => ("CombTable$Table", "twice", "Z", false)
def tyX4 : Nat → FieldType := fun k => match k with
  | 0 => .array (.object "CombTable$Who")
  | 1 => .array (.object "CombTable$Kind")
  | 2 => .array .int
  | 3 => .int
  | 4 => .int
  | 5 => .int
  | 6 => .int
  | 7 => .boolean
  | _ => .boolean
abbrev wsX40 : List Cond := u_ws RX4 TX4 9
theorem nmX4 : ∀ a, a < 9 → ∀ b, b < 9 → a ≠ b → (TX4 a).2.1 ≠ (TX4 b).2.1 := by decide +kernel
theorem tyX4_ok : ∀ k, k < 9 → parseFieldDescriptor (TX4 k).2.2.1 = some (tyX4 k) := by decide +kernel
abbrev cX4_init : ByteArray := prog_15_method_1_code
def yX4_init : MethodName := ⟨RX4, "<init>", "()V"⟩
def dkwX4_init_2 : List UInt8 := [89, 8, 3, 79, 181, 0, 23, 42, 4, 181, 0, 27, 177]
abbrev dktX4_init_2 : List UInt8 := dkwX4_init_2 ++ []
def dkwX4_init_1 : List UInt8 := [16, 6, 188, 10, 89, 3, 5, 79, 89, 4, 3, 79, 89, 5, 3, 79, 89, 6, 3, 79, 89, 7, 3, 79]
abbrev dktX4_init_1 : List UInt8 := dkwX4_init_1 ++ dktX4_init_2
def dkwX4_init_0 : List UInt8 := [42, 183, 0, 3, 42, 16, 8, 189, 0, 9, 181, 0, 11, 42, 16, 10, 189, 0, 17, 181, 0, 19, 42]
abbrev dktX4_init_0 : List UInt8 := dkwX4_init_0 ++ dktX4_init_1
theorem dksX4_init_0 : cX4_init.data.toList.drop 0 = dktX4_init_0 := by decide +kernel
theorem dksX4_init_1 : cX4_init.data.toList.drop 23 = dktX4_init_1 := dk_seg dksX4_init_0 23 rfl rfl
theorem dksX4_init_2 : cX4_init.data.toList.drop 47 = dktX4_init_2 := dk_seg dksX4_init_1 24 rfl rfl
theorem dX4_init_0 : decode cX4_init 0 = .ok (.aload_n 0, 1) := dk_42 (dk_at dksX4_init_0 0 rfl rfl)
theorem dX4_init_1 : decode cX4_init 1 = .ok (.invokespecial 3, 3) := dk_183 0 3 (dk_at dksX4_init_0 1 rfl rfl)
theorem dX4_init_4 : decode cX4_init 4 = .ok (.aload_n 0, 1) := dk_42 (dk_at dksX4_init_0 4 rfl rfl)
theorem dX4_init_5 : decode cX4_init 5 = .ok (.bipush 8, 2) := dk_16 8 (dk_at dksX4_init_0 5 rfl rfl)
theorem dX4_init_7 : decode cX4_init 7 = .ok (.anewarray 9, 3) := dk_189 0 9 (dk_at dksX4_init_0 7 rfl rfl)
theorem dX4_init_10 : decode cX4_init 10 = .ok (.putfield 11, 3) := dk_181 0 11 (dk_at dksX4_init_0 10 rfl rfl)
theorem dX4_init_13 : decode cX4_init 13 = .ok (.aload_n 0, 1) := dk_42 (dk_at dksX4_init_0 13 rfl rfl)
theorem dX4_init_14 : decode cX4_init 14 = .ok (.bipush 10, 2) := dk_16 10 (dk_at dksX4_init_0 14 rfl rfl)
theorem dX4_init_16 : decode cX4_init 16 = .ok (.anewarray 17, 3) := dk_189 0 17 (dk_at dksX4_init_0 16 rfl rfl)
theorem dX4_init_19 : decode cX4_init 19 = .ok (.putfield 19, 3) := dk_181 0 19 (dk_at dksX4_init_0 19 rfl rfl)
theorem dX4_init_22 : decode cX4_init 22 = .ok (.aload_n 0, 1) := dk_42 (dk_at dksX4_init_0 22 rfl rfl)
theorem dX4_init_23 : decode cX4_init 23 = .ok (.bipush 6, 2) := dk_16 6 (dk_at dksX4_init_1 0 rfl rfl)
theorem dX4_init_25 : decode cX4_init 25 = .ok (.newarray .int, 2) := dk_188_10 (dk_at dksX4_init_1 2 rfl rfl)
theorem dX4_init_27 : decode cX4_init 27 = .ok (.dup, 1) := dk_89 (dk_at dksX4_init_1 4 rfl rfl)
theorem dX4_init_28 : decode cX4_init 28 = .ok (.iconst 0, 1) := dk_3 (dk_at dksX4_init_1 5 rfl rfl)
theorem dX4_init_29 : decode cX4_init 29 = .ok (.iconst 2, 1) := dk_5 (dk_at dksX4_init_1 6 rfl rfl)
theorem dX4_init_30 : decode cX4_init 30 = .ok (.iastore, 1) := dk_79 (dk_at dksX4_init_1 7 rfl rfl)
theorem dX4_init_31 : decode cX4_init 31 = .ok (.dup, 1) := dk_89 (dk_at dksX4_init_1 8 rfl rfl)
theorem dX4_init_32 : decode cX4_init 32 = .ok (.iconst 1, 1) := dk_4 (dk_at dksX4_init_1 9 rfl rfl)
theorem dX4_init_33 : decode cX4_init 33 = .ok (.iconst 0, 1) := dk_3 (dk_at dksX4_init_1 10 rfl rfl)
theorem dX4_init_34 : decode cX4_init 34 = .ok (.iastore, 1) := dk_79 (dk_at dksX4_init_1 11 rfl rfl)
theorem dX4_init_35 : decode cX4_init 35 = .ok (.dup, 1) := dk_89 (dk_at dksX4_init_1 12 rfl rfl)
theorem dX4_init_36 : decode cX4_init 36 = .ok (.iconst 2, 1) := dk_5 (dk_at dksX4_init_1 13 rfl rfl)
theorem dX4_init_37 : decode cX4_init 37 = .ok (.iconst 0, 1) := dk_3 (dk_at dksX4_init_1 14 rfl rfl)
theorem dX4_init_38 : decode cX4_init 38 = .ok (.iastore, 1) := dk_79 (dk_at dksX4_init_1 15 rfl rfl)
theorem dX4_init_39 : decode cX4_init 39 = .ok (.dup, 1) := dk_89 (dk_at dksX4_init_1 16 rfl rfl)
theorem dX4_init_40 : decode cX4_init 40 = .ok (.iconst 3, 1) := dk_6 (dk_at dksX4_init_1 17 rfl rfl)
theorem dX4_init_41 : decode cX4_init 41 = .ok (.iconst 0, 1) := dk_3 (dk_at dksX4_init_1 18 rfl rfl)
theorem dX4_init_42 : decode cX4_init 42 = .ok (.iastore, 1) := dk_79 (dk_at dksX4_init_1 19 rfl rfl)
theorem dX4_init_43 : decode cX4_init 43 = .ok (.dup, 1) := dk_89 (dk_at dksX4_init_1 20 rfl rfl)
theorem dX4_init_44 : decode cX4_init 44 = .ok (.iconst 4, 1) := dk_7 (dk_at dksX4_init_1 21 rfl rfl)
theorem dX4_init_45 : decode cX4_init 45 = .ok (.iconst 0, 1) := dk_3 (dk_at dksX4_init_1 22 rfl rfl)
theorem dX4_init_46 : decode cX4_init 46 = .ok (.iastore, 1) := dk_79 (dk_at dksX4_init_1 23 rfl rfl)
theorem dX4_init_47 : decode cX4_init 47 = .ok (.dup, 1) := dk_89 (dk_at dksX4_init_2 0 rfl rfl)
theorem dX4_init_48 : decode cX4_init 48 = .ok (.iconst 5, 1) := dk_8 (dk_at dksX4_init_2 1 rfl rfl)
theorem dX4_init_49 : decode cX4_init 49 = .ok (.iconst 0, 1) := dk_3 (dk_at dksX4_init_2 2 rfl rfl)
theorem dX4_init_50 : decode cX4_init 50 = .ok (.iastore, 1) := dk_79 (dk_at dksX4_init_2 3 rfl rfl)
theorem dX4_init_51 : decode cX4_init 51 = .ok (.putfield 23, 3) := dk_181 0 23 (dk_at dksX4_init_2 4 rfl rfl)
theorem dX4_init_54 : decode cX4_init 54 = .ok (.aload_n 0, 1) := dk_42 (dk_at dksX4_init_2 7 rfl rfl)
theorem dX4_init_55 : decode cX4_init 55 = .ok (.iconst 1, 1) := dk_4 (dk_at dksX4_init_2 8 rfl rfl)
theorem dX4_init_56 : decode cX4_init 56 = .ok (.putfield 27, 3) := dk_181 0 27 (dk_at dksX4_init_2 9 rfl rfl)
theorem dX4_init_59 : decode cX4_init 59 = .ok (.return_, 1) := dk_177 (dk_at dksX4_init_2 12 rfl rfl)
abbrev cX4_back : ByteArray := prog_15_method_2_code
def yX4_back : MethodName := ⟨RX4, "back", "(II)I"⟩
def dkwX4_back_1 : List UInt8 := [42, 180, 0, 27, 112, 46, 172]
abbrev dktX4_back_1 : List UInt8 := dkwX4_back_1 ++ []
def dkwX4_back_0 : List UInt8 := [42, 180, 0, 31, 153, 0, 15, 42, 180, 0, 11, 28, 50, 180, 0, 35, 167, 0, 14, 42, 180, 0, 23, 27]
abbrev dktX4_back_0 : List UInt8 := dkwX4_back_0 ++ dktX4_back_1
theorem dksX4_back_0 : cX4_back.data.toList.drop 0 = dktX4_back_0 := by decide +kernel
theorem dksX4_back_1 : cX4_back.data.toList.drop 24 = dktX4_back_1 := dk_seg dksX4_back_0 24 rfl rfl
theorem dX4_back_0 : decode cX4_back 0 = .ok (.aload_n 0, 1) := dk_42 (dk_at dksX4_back_0 0 rfl rfl)
theorem dX4_back_1 : decode cX4_back 1 = .ok (.getfield 31, 3) := dk_180 0 31 (dk_at dksX4_back_0 1 rfl rfl)
theorem dX4_back_4 : decode cX4_back 4 = .ok (.ifCond .eq 15, 3) := dk_153 0 15 (dk_at dksX4_back_0 4 rfl rfl)
theorem dX4_back_7 : decode cX4_back 7 = .ok (.aload_n 0, 1) := dk_42 (dk_at dksX4_back_0 7 rfl rfl)
theorem dX4_back_8 : decode cX4_back 8 = .ok (.getfield 11, 3) := dk_180 0 11 (dk_at dksX4_back_0 8 rfl rfl)
theorem dX4_back_11 : decode cX4_back 11 = .ok (.iload_n 2, 1) := dk_28 (dk_at dksX4_back_0 11 rfl rfl)
theorem dX4_back_12 : decode cX4_back 12 = .ok (.aaload, 1) := dk_50 (dk_at dksX4_back_0 12 rfl rfl)
theorem dX4_back_13 : decode cX4_back 13 = .ok (.getfield 35, 3) := dk_180 0 35 (dk_at dksX4_back_0 13 rfl rfl)
theorem dX4_back_16 : decode cX4_back 16 = .ok (.goto 14, 3) := dk_167 0 14 (dk_at dksX4_back_0 16 rfl rfl)
theorem dX4_back_19 : decode cX4_back 19 = .ok (.aload_n 0, 1) := dk_42 (dk_at dksX4_back_0 19 rfl rfl)
theorem dX4_back_20 : decode cX4_back 20 = .ok (.getfield 23, 3) := dk_180 0 23 (dk_at dksX4_back_0 20 rfl rfl)
theorem dX4_back_23 : decode cX4_back 23 = .ok (.iload_n 1, 1) := dk_27 (dk_at dksX4_back_0 23 rfl rfl)
theorem dX4_back_24 : decode cX4_back 24 = .ok (.aload_n 0, 1) := dk_42 (dk_at dksX4_back_1 0 rfl rfl)
theorem dX4_back_25 : decode cX4_back 25 = .ok (.getfield 27, 3) := dk_180 0 27 (dk_at dksX4_back_1 1 rfl rfl)
theorem dX4_back_28 : decode cX4_back 28 = .ok (.irem, 1) := dk_112 (dk_at dksX4_back_1 4 rfl rfl)
theorem dX4_back_29 : decode cX4_back 29 = .ok (.iaload, 1) := dk_46 (dk_at dksX4_back_1 5 rfl rfl)
theorem dX4_back_30 : decode cX4_back 30 = .ok (.ireturn, 1) := dk_172 (dk_at dksX4_back_1 6 rfl rfl)
theorem q95 : (Jvm.Cond.initialized "CombTable$Table") ∈ lw_all := lw_g (lw_at lw_m1 6 rfl) rfl
theorem q232 : (Jvm.Cond.instantiable "CombTable$Table" (9 : Nat)) ∈ lw_all := lw_g (lw_at lw_m1 143 rfl) rfl
theorem q234 : (Jvm.Cond.instanceMethod ({ cls := "CombTable$Table", name := "<init>", desc := "()V" } : Jvm.MethodName)) ∈ lw_all := lw_g (lw_at lw_m1 145 rfl) rfl
theorem q235 : (Jvm.Cond.code ({ cls := "CombTable$Table", name := "<init>", desc := "()V" } : Jvm.MethodName) prog_15_method_1_code (1 : Nat) (Option.none : Option Jvm.ClassFile.FieldType)) ∈ lw_all := lw_g (lw_at lw_m1 146 rfl) rfl
theorem q236 : (Jvm.Cond.methodLink "CombTable$Table" (3 : Nat) ({ cls := "java/lang/Object", name := "<init>", desc := "()V" } : Jvm.MethodName)) ∈ lw_all := lw_g (lw_at lw_m1 147 rfl) rfl
theorem q237 : (Jvm.Cond.classLink "CombTable$Table" (9 : Nat) "CombTable$Who") ∈ lw_all := lw_g (lw_at lw_m1 148 rfl) rfl
theorem q239 : (Jvm.Cond.classLink "CombTable$Table" (17 : Nat) "CombTable$Kind") ∈ lw_all := lw_g (lw_at lw_m1 150 rfl) rfl
theorem q241 : (Jvm.Cond.fieldLink "CombTable$Table" (11 : Nat) "CombTable$Table" "people" "[LCombTable$Who;") ∈ lw_all := lw_g (lw_at lw_m1 152 rfl) rfl
theorem q247 : (Jvm.Cond.fieldLink "CombTable$Table" (19 : Nat) "CombTable$Table" "kinds" "[LCombTable$Kind;") ∈ lw_all := lw_g (lw_at lw_m1 158 rfl) rfl
theorem q254 : (Jvm.Cond.fieldLink "CombTable$Table" (23 : Nat) "CombTable$Table" "comb" "[I") ∈ lw_all := lw_g (lw_at lw_m1 165 rfl) rfl
theorem q270 : (Jvm.Cond.fieldLink "CombTable$Table" (27 : Nat) "CombTable$Table" "combMany" "I") ∈ lw_all := lw_g (lw_at lw_m1 181 rfl) rfl
theorem q273 : (Jvm.Cond.fieldLink "CombTable$Table" (31 : Nat) "CombTable$Table" "ranks" "Z") ∈ lw_all := lw_g (lw_at lw_m1 184 rfl) rfl
theorem q279 : (Jvm.Cond.laysFinal "CombTable$Table" "CombTable$Table" "people" "[LCombTable$Who;") ∈ lw_all := lw_g (lw_at lw_m1 190 rfl) rfl
theorem q280 : (Jvm.Cond.soleField "CombTable$Table" "people") ∈ lw_all := lw_g (lw_at lw_m1 191 rfl) rfl
theorem q281 : (Jvm.Cond.laysFinal "CombTable$Table" "CombTable$Table" "kinds" "[LCombTable$Kind;") ∈ lw_all := lw_g (lw_at lw_m1 192 rfl) rfl
theorem q282 : (Jvm.Cond.soleField "CombTable$Table" "kinds") ∈ lw_all := lw_g (lw_at lw_m1 193 rfl) rfl
theorem q283 : (Jvm.Cond.laysFinal "CombTable$Table" "CombTable$Table" "comb" "[I") ∈ lw_all := lw_g (lw_at lw_m1 194 rfl) rfl
theorem q284 : (Jvm.Cond.soleField "CombTable$Table" "comb") ∈ lw_all := lw_g (lw_at lw_m1 195 rfl) rfl
theorem q285 : (Jvm.Cond.lays "CombTable$Table" "CombTable$Table" "whoMany" "I") ∈ lw_all := lw_g (lw_at lw_m1 196 rfl) rfl
theorem q286 : (Jvm.Cond.soleField "CombTable$Table" "whoMany") ∈ lw_all := lw_g (lw_at lw_m1 197 rfl) rfl
theorem q287 : (Jvm.Cond.lays "CombTable$Table" "CombTable$Table" "kindMany" "I") ∈ lw_all := lw_g (lw_at lw_m1 198 rfl) rfl
theorem q288 : (Jvm.Cond.soleField "CombTable$Table" "kindMany") ∈ lw_all := lw_g (lw_at lw_m1 199 rfl) rfl
theorem q289 : (Jvm.Cond.lays "CombTable$Table" "CombTable$Table" "mayMany" "I") ∈ lw_all := lw_g (lw_at lw_m1 200 rfl) rfl
theorem q290 : (Jvm.Cond.soleField "CombTable$Table" "mayMany") ∈ lw_all := lw_g (lw_at lw_m1 201 rfl) rfl
theorem q291 : (Jvm.Cond.lays "CombTable$Table" "CombTable$Table" "combMany" "I") ∈ lw_all := lw_g (lw_at lw_m1 202 rfl) rfl
theorem q292 : (Jvm.Cond.soleField "CombTable$Table" "combMany") ∈ lw_all := lw_g (lw_at lw_m1 203 rfl) rfl
theorem q293 : (Jvm.Cond.lays "CombTable$Table" "CombTable$Table" "ranks" "Z") ∈ lw_all := lw_g (lw_at lw_m1 204 rfl) rfl
theorem q294 : (Jvm.Cond.soleField "CombTable$Table" "ranks") ∈ lw_all := lw_g (lw_at lw_m1 205 rfl) rfl
theorem q295 : (Jvm.Cond.lays "CombTable$Table" "CombTable$Table" "twice" "Z") ∈ lw_all := lw_g (lw_at lw_m1 206 rfl) rfl
theorem q296 : (Jvm.Cond.soleField "CombTable$Table" "twice") ∈ lw_all := lw_g (lw_at lw_m1 207 rfl) rfl
theorem q297 : (Jvm.Cond.superclass "CombTable$Table" "java/lang/Object") ∈ lw_all := lw_g (lw_at lw_m1 208 rfl) rfl
theorem q810 : (Jvm.Cond.fieldLinkNest "CombTable$Table" (35 : Nat) "CombTable$Who" "rank" "I" "CombTable") ∈ lw_tbl := lw_at lw_m4 1 rfl
theorem q924 : (Jvm.Cond.instanceMethod ({ cls := "CombTable$Table", name := "back", desc := "(II)I" } : Jvm.MethodName)) ∈ lw_all := lw_g (lw_at lw_m4 115 rfl) rfl
theorem q925 : (Jvm.Cond.selects "CombTable$Table" ({ cls := "CombTable$Table", name := "back", desc := "(II)I" } : Jvm.MethodName) ({ cls := "CombTable$Table", name := "back", desc := "(II)I" } : Jvm.MethodName)) ∈ lw_all := lw_g (lw_at lw_m4 116 rfl) rfl
theorem q926 : (Jvm.Cond.code ({ cls := "CombTable$Table", name := "back", desc := "(II)I" } : Jvm.MethodName) prog_15_method_2_code (3 : Nat) (Option.some Jvm.ClassFile.FieldType.int)) ∈ lw_all := lw_g (lw_at lw_m4 117 rfl) rfl
theorem q2052 : (Jvm.Cond.castable "CombTable$Table" "java/lang/Object") ∈ lw_tbl := lw_at lw_m9 43 rfl
theorem in_X4 : ∀ w ∈ wsX40, w ∈ lw_all := lw_in wsX40 [279, 281, 283, 285, 287, 289, 291, 293, 295] (by decide +kernel) (by decide +kernel)

/-! CombTable$Minutes -/
set_option maxRecDepth 100000
def RX5 : String := "CombTable$Minutes"
def TX5 : u_T := fun k => match k with
  | 0 => ("CombTable$Minutes", "who", "[I", true)
  | 1 => ("CombTable$Minutes", "kind", "[I", true)
  | _ => ("CombTable$Minutes", "many", "I", false)
def tyX5 : Nat → FieldType := fun k => match k with
  | 0 => .array .int
  | 1 => .array .int
  | _ => .int
abbrev wsX50 : List Cond := u_ws RX5 TX5 3
theorem nmX5 : ∀ a, a < 3 → ∀ b, b < 3 → a ≠ b → (TX5 a).2.1 ≠ (TX5 b).2.1 := by decide +kernel
theorem tyX5_ok : ∀ k, k < 3 → parseFieldDescriptor (TX5 k).2.2.1 = some (tyX5 k) := by decide +kernel
abbrev cX5_init : ByteArray := prog_9_method_1_code
def yX5_init : MethodName := ⟨RX5, "<init>", "()V"⟩
def dkwX5_init_0 : List UInt8 := [42, 183, 0, 3, 42, 16, 24, 188, 10, 181, 0, 9, 42, 16, 24, 188, 10, 181, 0, 15, 177]
abbrev dktX5_init_0 : List UInt8 := dkwX5_init_0 ++ []
theorem dksX5_init_0 : cX5_init.data.toList.drop 0 = dktX5_init_0 := by decide +kernel
theorem dX5_init_0 : decode cX5_init 0 = .ok (.aload_n 0, 1) := dk_42 (dk_at dksX5_init_0 0 rfl rfl)
theorem dX5_init_1 : decode cX5_init 1 = .ok (.invokespecial 3, 3) := dk_183 0 3 (dk_at dksX5_init_0 1 rfl rfl)
theorem dX5_init_4 : decode cX5_init 4 = .ok (.aload_n 0, 1) := dk_42 (dk_at dksX5_init_0 4 rfl rfl)
theorem dX5_init_5 : decode cX5_init 5 = .ok (.bipush 24, 2) := dk_16 24 (dk_at dksX5_init_0 5 rfl rfl)
theorem dX5_init_7 : decode cX5_init 7 = .ok (.newarray .int, 2) := dk_188_10 (dk_at dksX5_init_0 7 rfl rfl)
theorem dX5_init_9 : decode cX5_init 9 = .ok (.putfield 9, 3) := dk_181 0 9 (dk_at dksX5_init_0 9 rfl rfl)
theorem dX5_init_12 : decode cX5_init 12 = .ok (.aload_n 0, 1) := dk_42 (dk_at dksX5_init_0 12 rfl rfl)
theorem dX5_init_13 : decode cX5_init 13 = .ok (.bipush 24, 2) := dk_16 24 (dk_at dksX5_init_0 13 rfl rfl)
theorem dX5_init_15 : decode cX5_init 15 = .ok (.newarray .int, 2) := dk_188_10 (dk_at dksX5_init_0 15 rfl rfl)
theorem dX5_init_17 : decode cX5_init 17 = .ok (.putfield 15, 3) := dk_181 0 15 (dk_at dksX5_init_0 17 rfl rfl)
theorem dX5_init_20 : decode cX5_init 20 = .ok (.return_, 1) := dk_177 (dk_at dksX5_init_0 20 rfl rfl)
abbrev cX5_be : ByteArray := prog_9_method_2_code
def yX5_be : MethodName := ⟨RX5, "be", "(LCombTable$Minutes;)V"⟩
def dkwX5_be_1 : List UInt8 := [3, 16, 24, 184, 0, 18, 42, 43, 180, 0, 24, 181, 0, 24, 177]
abbrev dktX5_be_1 : List UInt8 := dkwX5_be_1 ++ []
def dkwX5_be_0 : List UInt8 := [43, 180, 0, 9, 3, 42, 180, 0, 9, 3, 16, 24, 184, 0, 18, 43, 180, 0, 15, 3, 42, 180, 0, 15]
abbrev dktX5_be_0 : List UInt8 := dkwX5_be_0 ++ dktX5_be_1
theorem dksX5_be_0 : cX5_be.data.toList.drop 0 = dktX5_be_0 := by decide +kernel
theorem dksX5_be_1 : cX5_be.data.toList.drop 24 = dktX5_be_1 := dk_seg dksX5_be_0 24 rfl rfl
theorem dX5_be_0 : decode cX5_be 0 = .ok (.aload_n 1, 1) := dk_43 (dk_at dksX5_be_0 0 rfl rfl)
theorem dX5_be_1 : decode cX5_be 1 = .ok (.getfield 9, 3) := dk_180 0 9 (dk_at dksX5_be_0 1 rfl rfl)
theorem dX5_be_4 : decode cX5_be 4 = .ok (.iconst 0, 1) := dk_3 (dk_at dksX5_be_0 4 rfl rfl)
theorem dX5_be_5 : decode cX5_be 5 = .ok (.aload_n 0, 1) := dk_42 (dk_at dksX5_be_0 5 rfl rfl)
theorem dX5_be_6 : decode cX5_be 6 = .ok (.getfield 9, 3) := dk_180 0 9 (dk_at dksX5_be_0 6 rfl rfl)
theorem dX5_be_9 : decode cX5_be 9 = .ok (.iconst 0, 1) := dk_3 (dk_at dksX5_be_0 9 rfl rfl)
theorem dX5_be_10 : decode cX5_be 10 = .ok (.bipush 24, 2) := dk_16 24 (dk_at dksX5_be_0 10 rfl rfl)
theorem dX5_be_12 : decode cX5_be 12 = .ok (.invokestatic 18, 3) := dk_184 0 18 (dk_at dksX5_be_0 12 rfl rfl)
theorem dX5_be_15 : decode cX5_be 15 = .ok (.aload_n 1, 1) := dk_43 (dk_at dksX5_be_0 15 rfl rfl)
theorem dX5_be_16 : decode cX5_be 16 = .ok (.getfield 15, 3) := dk_180 0 15 (dk_at dksX5_be_0 16 rfl rfl)
theorem dX5_be_19 : decode cX5_be 19 = .ok (.iconst 0, 1) := dk_3 (dk_at dksX5_be_0 19 rfl rfl)
theorem dX5_be_20 : decode cX5_be 20 = .ok (.aload_n 0, 1) := dk_42 (dk_at dksX5_be_0 20 rfl rfl)
theorem dX5_be_21 : decode cX5_be 21 = .ok (.getfield 15, 3) := dk_180 0 15 (dk_at dksX5_be_0 21 rfl rfl)
theorem dX5_be_24 : decode cX5_be 24 = .ok (.iconst 0, 1) := dk_3 (dk_at dksX5_be_1 0 rfl rfl)
theorem dX5_be_25 : decode cX5_be 25 = .ok (.bipush 24, 2) := dk_16 24 (dk_at dksX5_be_1 1 rfl rfl)
theorem dX5_be_27 : decode cX5_be 27 = .ok (.invokestatic 18, 3) := dk_184 0 18 (dk_at dksX5_be_1 3 rfl rfl)
theorem dX5_be_30 : decode cX5_be 30 = .ok (.aload_n 0, 1) := dk_42 (dk_at dksX5_be_1 6 rfl rfl)
theorem dX5_be_31 : decode cX5_be 31 = .ok (.aload_n 1, 1) := dk_43 (dk_at dksX5_be_1 7 rfl rfl)
theorem dX5_be_32 : decode cX5_be 32 = .ok (.getfield 24, 3) := dk_180 0 24 (dk_at dksX5_be_1 8 rfl rfl)
theorem dX5_be_35 : decode cX5_be 35 = .ok (.putfield 24, 3) := dk_181 0 24 (dk_at dksX5_be_1 11 rfl rfl)
theorem dX5_be_38 : decode cX5_be 38 = .ok (.return_, 1) := dk_177 (dk_at dksX5_be_1 14 rfl rfl)
abbrev cX5_leave : ByteArray := prog_9_method_3_code
def yX5_leave : MethodName := ⟨RX5, "leave", "(I)V"⟩
def dkwX5_leave_2 : List UInt8 := [132, 2, 1, 167, 255, 217, 177]
abbrev dktX5_leave_2 : List UInt8 := dkwX5_leave_2 ++ []
def dkwX5_leave_1 : List UInt8 := [28, 42, 180, 0, 9, 28, 4, 96, 46, 79, 42, 180, 0, 15, 28, 42, 180, 0, 15, 28, 4, 96, 46, 79]
abbrev dktX5_leave_1 : List UInt8 := dkwX5_leave_1 ++ dktX5_leave_2
def dkwX5_leave_0 : List UInt8 := [42, 89, 180, 0, 24, 4, 100, 181, 0, 24, 27, 61, 28, 42, 180, 0, 24, 162, 0, 37, 42, 180, 0, 9]
abbrev dktX5_leave_0 : List UInt8 := dkwX5_leave_0 ++ dktX5_leave_1
theorem dksX5_leave_0 : cX5_leave.data.toList.drop 0 = dktX5_leave_0 := by decide +kernel
theorem dksX5_leave_1 : cX5_leave.data.toList.drop 24 = dktX5_leave_1 := dk_seg dksX5_leave_0 24 rfl rfl
theorem dksX5_leave_2 : cX5_leave.data.toList.drop 48 = dktX5_leave_2 := dk_seg dksX5_leave_1 24 rfl rfl
theorem dX5_leave_0 : decode cX5_leave 0 = .ok (.aload_n 0, 1) := dk_42 (dk_at dksX5_leave_0 0 rfl rfl)
theorem dX5_leave_1 : decode cX5_leave 1 = .ok (.dup, 1) := dk_89 (dk_at dksX5_leave_0 1 rfl rfl)
theorem dX5_leave_2 : decode cX5_leave 2 = .ok (.getfield 24, 3) := dk_180 0 24 (dk_at dksX5_leave_0 2 rfl rfl)
theorem dX5_leave_5 : decode cX5_leave 5 = .ok (.iconst 1, 1) := dk_4 (dk_at dksX5_leave_0 5 rfl rfl)
theorem dX5_leave_6 : decode cX5_leave 6 = .ok (.isub, 1) := dk_100 (dk_at dksX5_leave_0 6 rfl rfl)
theorem dX5_leave_7 : decode cX5_leave 7 = .ok (.putfield 24, 3) := dk_181 0 24 (dk_at dksX5_leave_0 7 rfl rfl)
theorem dX5_leave_10 : decode cX5_leave 10 = .ok (.iload_n 1, 1) := dk_27 (dk_at dksX5_leave_0 10 rfl rfl)
theorem dX5_leave_11 : decode cX5_leave 11 = .ok (.istore_n 2, 1) := dk_61 (dk_at dksX5_leave_0 11 rfl rfl)
theorem dX5_leave_12 : decode cX5_leave 12 = .ok (.iload_n 2, 1) := dk_28 (dk_at dksX5_leave_0 12 rfl rfl)
theorem dX5_leave_13 : decode cX5_leave 13 = .ok (.aload_n 0, 1) := dk_42 (dk_at dksX5_leave_0 13 rfl rfl)
theorem dX5_leave_14 : decode cX5_leave 14 = .ok (.getfield 24, 3) := dk_180 0 24 (dk_at dksX5_leave_0 14 rfl rfl)
theorem dX5_leave_17 : decode cX5_leave 17 = .ok (.if_icmp .ge 37, 3) := dk_162 0 37 (dk_at dksX5_leave_0 17 rfl rfl)
theorem dX5_leave_20 : decode cX5_leave 20 = .ok (.aload_n 0, 1) := dk_42 (dk_at dksX5_leave_0 20 rfl rfl)
theorem dX5_leave_21 : decode cX5_leave 21 = .ok (.getfield 9, 3) := dk_180 0 9 (dk_at dksX5_leave_0 21 rfl rfl)
theorem dX5_leave_24 : decode cX5_leave 24 = .ok (.iload_n 2, 1) := dk_28 (dk_at dksX5_leave_1 0 rfl rfl)
theorem dX5_leave_25 : decode cX5_leave 25 = .ok (.aload_n 0, 1) := dk_42 (dk_at dksX5_leave_1 1 rfl rfl)
theorem dX5_leave_26 : decode cX5_leave 26 = .ok (.getfield 9, 3) := dk_180 0 9 (dk_at dksX5_leave_1 2 rfl rfl)
theorem dX5_leave_29 : decode cX5_leave 29 = .ok (.iload_n 2, 1) := dk_28 (dk_at dksX5_leave_1 5 rfl rfl)
theorem dX5_leave_30 : decode cX5_leave 30 = .ok (.iconst 1, 1) := dk_4 (dk_at dksX5_leave_1 6 rfl rfl)
theorem dX5_leave_31 : decode cX5_leave 31 = .ok (.iadd, 1) := dk_96 (dk_at dksX5_leave_1 7 rfl rfl)
theorem dX5_leave_32 : decode cX5_leave 32 = .ok (.iaload, 1) := dk_46 (dk_at dksX5_leave_1 8 rfl rfl)
theorem dX5_leave_33 : decode cX5_leave 33 = .ok (.iastore, 1) := dk_79 (dk_at dksX5_leave_1 9 rfl rfl)
theorem dX5_leave_34 : decode cX5_leave 34 = .ok (.aload_n 0, 1) := dk_42 (dk_at dksX5_leave_1 10 rfl rfl)
theorem dX5_leave_35 : decode cX5_leave 35 = .ok (.getfield 15, 3) := dk_180 0 15 (dk_at dksX5_leave_1 11 rfl rfl)
theorem dX5_leave_38 : decode cX5_leave 38 = .ok (.iload_n 2, 1) := dk_28 (dk_at dksX5_leave_1 14 rfl rfl)
theorem dX5_leave_39 : decode cX5_leave 39 = .ok (.aload_n 0, 1) := dk_42 (dk_at dksX5_leave_1 15 rfl rfl)
theorem dX5_leave_40 : decode cX5_leave 40 = .ok (.getfield 15, 3) := dk_180 0 15 (dk_at dksX5_leave_1 16 rfl rfl)
theorem dX5_leave_43 : decode cX5_leave 43 = .ok (.iload_n 2, 1) := dk_28 (dk_at dksX5_leave_1 19 rfl rfl)
theorem dX5_leave_44 : decode cX5_leave 44 = .ok (.iconst 1, 1) := dk_4 (dk_at dksX5_leave_1 20 rfl rfl)
theorem dX5_leave_45 : decode cX5_leave 45 = .ok (.iadd, 1) := dk_96 (dk_at dksX5_leave_1 21 rfl rfl)
theorem dX5_leave_46 : decode cX5_leave 46 = .ok (.iaload, 1) := dk_46 (dk_at dksX5_leave_1 22 rfl rfl)
theorem dX5_leave_47 : decode cX5_leave 47 = .ok (.iastore, 1) := dk_79 (dk_at dksX5_leave_1 23 rfl rfl)
theorem dX5_leave_48 : decode cX5_leave 48 = .ok (.iinc 2 1, 3) := dk_132 2 1 (dk_at dksX5_leave_2 0 rfl rfl)
theorem dX5_leave_51 : decode cX5_leave 51 = .ok (.goto (-39), 3) := dk_167 255 217 (dk_at dksX5_leave_2 3 rfl rfl)
theorem dX5_leave_54 : decode cX5_leave 54 = .ok (.return_, 1) := dk_177 (dk_at dksX5_leave_2 6 rfl rfl)
abbrev cX5_change : ByteArray := prog_9_method_4_code
def yX5_change : MethodName := ⟨RX5, "change", "(I)V"⟩
def dkwX5_change_2 : List UInt8 := [27, 4, 96, 46, 79, 42, 180, 0, 15, 27, 4, 96, 29, 79, 177]
abbrev dktX5_change_2 : List UInt8 := dkwX5_change_2 ++ []
def dkwX5_change_1 : List UInt8 := [180, 0, 9, 27, 4, 96, 28, 79, 42, 180, 0, 15, 27, 46, 62, 42, 180, 0, 15, 27, 42, 180, 0, 15]
abbrev dktX5_change_1 : List UInt8 := dkwX5_change_1 ++ dktX5_change_2
def dkwX5_change_0 : List UInt8 := [42, 180, 0, 9, 27, 46, 61, 42, 180, 0, 9, 27, 42, 180, 0, 9, 27, 4, 96, 46, 79, 42]
abbrev dktX5_change_0 : List UInt8 := dkwX5_change_0 ++ dktX5_change_1
theorem dksX5_change_0 : cX5_change.data.toList.drop 0 = dktX5_change_0 := by decide +kernel
theorem dksX5_change_1 : cX5_change.data.toList.drop 22 = dktX5_change_1 := dk_seg dksX5_change_0 22 rfl rfl
theorem dksX5_change_2 : cX5_change.data.toList.drop 46 = dktX5_change_2 := dk_seg dksX5_change_1 24 rfl rfl
theorem dX5_change_0 : decode cX5_change 0 = .ok (.aload_n 0, 1) := dk_42 (dk_at dksX5_change_0 0 rfl rfl)
theorem dX5_change_1 : decode cX5_change 1 = .ok (.getfield 9, 3) := dk_180 0 9 (dk_at dksX5_change_0 1 rfl rfl)
theorem dX5_change_4 : decode cX5_change 4 = .ok (.iload_n 1, 1) := dk_27 (dk_at dksX5_change_0 4 rfl rfl)
theorem dX5_change_5 : decode cX5_change 5 = .ok (.iaload, 1) := dk_46 (dk_at dksX5_change_0 5 rfl rfl)
theorem dX5_change_6 : decode cX5_change 6 = .ok (.istore_n 2, 1) := dk_61 (dk_at dksX5_change_0 6 rfl rfl)
theorem dX5_change_7 : decode cX5_change 7 = .ok (.aload_n 0, 1) := dk_42 (dk_at dksX5_change_0 7 rfl rfl)
theorem dX5_change_8 : decode cX5_change 8 = .ok (.getfield 9, 3) := dk_180 0 9 (dk_at dksX5_change_0 8 rfl rfl)
theorem dX5_change_11 : decode cX5_change 11 = .ok (.iload_n 1, 1) := dk_27 (dk_at dksX5_change_0 11 rfl rfl)
theorem dX5_change_12 : decode cX5_change 12 = .ok (.aload_n 0, 1) := dk_42 (dk_at dksX5_change_0 12 rfl rfl)
theorem dX5_change_13 : decode cX5_change 13 = .ok (.getfield 9, 3) := dk_180 0 9 (dk_at dksX5_change_0 13 rfl rfl)
theorem dX5_change_16 : decode cX5_change 16 = .ok (.iload_n 1, 1) := dk_27 (dk_at dksX5_change_0 16 rfl rfl)
theorem dX5_change_17 : decode cX5_change 17 = .ok (.iconst 1, 1) := dk_4 (dk_at dksX5_change_0 17 rfl rfl)
theorem dX5_change_18 : decode cX5_change 18 = .ok (.iadd, 1) := dk_96 (dk_at dksX5_change_0 18 rfl rfl)
theorem dX5_change_19 : decode cX5_change 19 = .ok (.iaload, 1) := dk_46 (dk_at dksX5_change_0 19 rfl rfl)
theorem dX5_change_20 : decode cX5_change 20 = .ok (.iastore, 1) := dk_79 (dk_at dksX5_change_0 20 rfl rfl)
theorem dX5_change_21 : decode cX5_change 21 = .ok (.aload_n 0, 1) := dk_42 (dk_at dksX5_change_0 21 rfl rfl)
theorem dX5_change_22 : decode cX5_change 22 = .ok (.getfield 9, 3) := dk_180 0 9 (dk_at dksX5_change_1 0 rfl rfl)
theorem dX5_change_25 : decode cX5_change 25 = .ok (.iload_n 1, 1) := dk_27 (dk_at dksX5_change_1 3 rfl rfl)
theorem dX5_change_26 : decode cX5_change 26 = .ok (.iconst 1, 1) := dk_4 (dk_at dksX5_change_1 4 rfl rfl)
theorem dX5_change_27 : decode cX5_change 27 = .ok (.iadd, 1) := dk_96 (dk_at dksX5_change_1 5 rfl rfl)
theorem dX5_change_28 : decode cX5_change 28 = .ok (.iload_n 2, 1) := dk_28 (dk_at dksX5_change_1 6 rfl rfl)
theorem dX5_change_29 : decode cX5_change 29 = .ok (.iastore, 1) := dk_79 (dk_at dksX5_change_1 7 rfl rfl)
theorem dX5_change_30 : decode cX5_change 30 = .ok (.aload_n 0, 1) := dk_42 (dk_at dksX5_change_1 8 rfl rfl)
theorem dX5_change_31 : decode cX5_change 31 = .ok (.getfield 15, 3) := dk_180 0 15 (dk_at dksX5_change_1 9 rfl rfl)
theorem dX5_change_34 : decode cX5_change 34 = .ok (.iload_n 1, 1) := dk_27 (dk_at dksX5_change_1 12 rfl rfl)
theorem dX5_change_35 : decode cX5_change 35 = .ok (.iaload, 1) := dk_46 (dk_at dksX5_change_1 13 rfl rfl)
theorem dX5_change_36 : decode cX5_change 36 = .ok (.istore_n 3, 1) := dk_62 (dk_at dksX5_change_1 14 rfl rfl)
theorem dX5_change_37 : decode cX5_change 37 = .ok (.aload_n 0, 1) := dk_42 (dk_at dksX5_change_1 15 rfl rfl)
theorem dX5_change_38 : decode cX5_change 38 = .ok (.getfield 15, 3) := dk_180 0 15 (dk_at dksX5_change_1 16 rfl rfl)
theorem dX5_change_41 : decode cX5_change 41 = .ok (.iload_n 1, 1) := dk_27 (dk_at dksX5_change_1 19 rfl rfl)
theorem dX5_change_42 : decode cX5_change 42 = .ok (.aload_n 0, 1) := dk_42 (dk_at dksX5_change_1 20 rfl rfl)
theorem dX5_change_43 : decode cX5_change 43 = .ok (.getfield 15, 3) := dk_180 0 15 (dk_at dksX5_change_1 21 rfl rfl)
theorem dX5_change_46 : decode cX5_change 46 = .ok (.iload_n 1, 1) := dk_27 (dk_at dksX5_change_2 0 rfl rfl)
theorem dX5_change_47 : decode cX5_change 47 = .ok (.iconst 1, 1) := dk_4 (dk_at dksX5_change_2 1 rfl rfl)
theorem dX5_change_48 : decode cX5_change 48 = .ok (.iadd, 1) := dk_96 (dk_at dksX5_change_2 2 rfl rfl)
theorem dX5_change_49 : decode cX5_change 49 = .ok (.iaload, 1) := dk_46 (dk_at dksX5_change_2 3 rfl rfl)
theorem dX5_change_50 : decode cX5_change 50 = .ok (.iastore, 1) := dk_79 (dk_at dksX5_change_2 4 rfl rfl)
theorem dX5_change_51 : decode cX5_change 51 = .ok (.aload_n 0, 1) := dk_42 (dk_at dksX5_change_2 5 rfl rfl)
theorem dX5_change_52 : decode cX5_change 52 = .ok (.getfield 15, 3) := dk_180 0 15 (dk_at dksX5_change_2 6 rfl rfl)
theorem dX5_change_55 : decode cX5_change 55 = .ok (.iload_n 1, 1) := dk_27 (dk_at dksX5_change_2 9 rfl rfl)
theorem dX5_change_56 : decode cX5_change 56 = .ok (.iconst 1, 1) := dk_4 (dk_at dksX5_change_2 10 rfl rfl)
theorem dX5_change_57 : decode cX5_change 57 = .ok (.iadd, 1) := dk_96 (dk_at dksX5_change_2 11 rfl rfl)
theorem dX5_change_58 : decode cX5_change 58 = .ok (.iload_n 3, 1) := dk_29 (dk_at dksX5_change_2 12 rfl rfl)
theorem dX5_change_59 : decode cX5_change 59 = .ok (.iastore, 1) := dk_79 (dk_at dksX5_change_2 13 rfl rfl)
theorem dX5_change_60 : decode cX5_change 60 = .ok (.return_, 1) := dk_177 (dk_at dksX5_change_2 14 rfl rfl)
theorem q96 : (Jvm.Cond.initialized "CombTable$Minutes") ∈ lw_all := lw_g (lw_at lw_m1 7 rfl) rfl
theorem q348 : (Jvm.Cond.instantiable "CombTable$Minutes" (3 : Nat)) ∈ lw_all := lw_g (lw_at lw_m2 19 rfl) rfl
theorem q350 : (Jvm.Cond.instanceMethod ({ cls := "CombTable$Minutes", name := "<init>", desc := "()V" } : Jvm.MethodName)) ∈ lw_all := lw_g (lw_at lw_m2 21 rfl) rfl
theorem q351 : (Jvm.Cond.code ({ cls := "CombTable$Minutes", name := "<init>", desc := "()V" } : Jvm.MethodName) prog_9_method_1_code (1 : Nat) (Option.none : Option Jvm.ClassFile.FieldType)) ∈ lw_all := lw_g (lw_at lw_m2 22 rfl) rfl
theorem q352 : (Jvm.Cond.methodLink "CombTable$Minutes" (3 : Nat) ({ cls := "java/lang/Object", name := "<init>", desc := "()V" } : Jvm.MethodName)) ∈ lw_all := lw_g (lw_at lw_m2 23 rfl) rfl
theorem q353 : (Jvm.Cond.fieldLink "CombTable$Minutes" (9 : Nat) "CombTable$Minutes" "who" "[I") ∈ lw_all := lw_g (lw_at lw_m2 24 rfl) rfl
theorem q356 : (Jvm.Cond.fieldLink "CombTable$Minutes" (15 : Nat) "CombTable$Minutes" "kind" "[I") ∈ lw_all := lw_g (lw_at lw_m2 27 rfl) rfl
theorem q360 : (Jvm.Cond.fieldLink "CombTable$Minutes" (24 : Nat) "CombTable$Minutes" "many" "I") ∈ lw_all := lw_g (lw_at lw_m2 31 rfl) rfl
theorem q362 : (Jvm.Cond.laysFinal "CombTable$Minutes" "CombTable$Minutes" "who" "[I") ∈ lw_all := lw_g (lw_at lw_m2 33 rfl) rfl
theorem q363 : (Jvm.Cond.soleField "CombTable$Minutes" "who") ∈ lw_all := lw_g (lw_at lw_m2 34 rfl) rfl
theorem q364 : (Jvm.Cond.laysFinal "CombTable$Minutes" "CombTable$Minutes" "kind" "[I") ∈ lw_all := lw_g (lw_at lw_m2 35 rfl) rfl
theorem q365 : (Jvm.Cond.soleField "CombTable$Minutes" "kind") ∈ lw_all := lw_g (lw_at lw_m2 36 rfl) rfl
theorem q366 : (Jvm.Cond.lays "CombTable$Minutes" "CombTable$Minutes" "many" "I") ∈ lw_all := lw_g (lw_at lw_m2 37 rfl) rfl
theorem q367 : (Jvm.Cond.soleField "CombTable$Minutes" "many") ∈ lw_all := lw_g (lw_at lw_m2 38 rfl) rfl
theorem q368 : (Jvm.Cond.superclass "CombTable$Minutes" "java/lang/Object") ∈ lw_all := lw_g (lw_at lw_m2 39 rfl) rfl
theorem q1063 : (Jvm.Cond.instanceMethod ({ cls := "CombTable$Minutes", name := "be", desc := "(LCombTable$Minutes;)V" } : Jvm.MethodName)) ∈ lw_all := lw_g (lw_at lw_m5 14 rfl) rfl
theorem q1064 : (Jvm.Cond.selects "CombTable$Minutes" ({ cls := "CombTable$Minutes", name := "be", desc := "(LCombTable$Minutes;)V" } : Jvm.MethodName) ({ cls := "CombTable$Minutes", name := "be", desc := "(LCombTable$Minutes;)V" } : Jvm.MethodName)) ∈ lw_all := lw_g (lw_at lw_m5 15 rfl) rfl
theorem q1065 : (Jvm.Cond.code ({ cls := "CombTable$Minutes", name := "be", desc := "(LCombTable$Minutes;)V" } : Jvm.MethodName) prog_9_method_2_code (2 : Nat) (Option.none : Option Jvm.ClassFile.FieldType)) ∈ lw_all := lw_g (lw_at lw_m5 16 rfl) rfl
theorem q1066 : (Jvm.Cond.methodLink "CombTable$Minutes" (18 : Nat) ({ cls := "java/lang/System", name := "arraycopy", desc := "(Ljava/lang/Object;ILjava/lang/Object;II)V" } : Jvm.MethodName)) ∈ lw_all := lw_g (lw_at lw_m5 17 rfl) rfl
theorem q1082 : (Jvm.Cond.instanceMethod ({ cls := "CombTable$Minutes", name := "leave", desc := "(I)V" } : Jvm.MethodName)) ∈ lw_all := lw_g (lw_at lw_m5 33 rfl) rfl
theorem q1083 : (Jvm.Cond.selects "CombTable$Minutes" ({ cls := "CombTable$Minutes", name := "leave", desc := "(I)V" } : Jvm.MethodName) ({ cls := "CombTable$Minutes", name := "leave", desc := "(I)V" } : Jvm.MethodName)) ∈ lw_all := lw_g (lw_at lw_m5 34 rfl) rfl
theorem q1084 : (Jvm.Cond.code ({ cls := "CombTable$Minutes", name := "leave", desc := "(I)V" } : Jvm.MethodName) prog_9_method_3_code (3 : Nat) (Option.none : Option Jvm.ClassFile.FieldType)) ∈ lw_all := lw_g (lw_at lw_m5 35 rfl) rfl
theorem q1086 : (Jvm.Cond.instanceMethod ({ cls := "CombTable$Minutes", name := "change", desc := "(I)V" } : Jvm.MethodName)) ∈ lw_all := lw_g (lw_at lw_m5 37 rfl) rfl
theorem q1087 : (Jvm.Cond.selects "CombTable$Minutes" ({ cls := "CombTable$Minutes", name := "change", desc := "(I)V" } : Jvm.MethodName) ({ cls := "CombTable$Minutes", name := "change", desc := "(I)V" } : Jvm.MethodName)) ∈ lw_all := lw_g (lw_at lw_m5 38 rfl) rfl
theorem q1088 : (Jvm.Cond.code ({ cls := "CombTable$Minutes", name := "change", desc := "(I)V" } : Jvm.MethodName) prog_9_method_4_code (4 : Nat) (Option.none : Option Jvm.ClassFile.FieldType)) ∈ lw_all := lw_g (lw_at lw_m5 39 rfl) rfl
theorem q2053 : (Jvm.Cond.castable "CombTable$Minutes" "java/lang/Object") ∈ lw_tbl := lw_at lw_m9 44 rfl
theorem in_X5 : ∀ w ∈ wsX50, w ∈ lw_all := lw_in wsX50 [362, 364, 366] (by decide +kernel) (by decide +kernel)

/-! CombTable$Reader -/
set_option maxRecDepth 100000
def RX6 : String := "CombTable$Reader"
abbrev cX6_init : ByteArray := prog_13_method_1_code
def yX6_init : MethodName := ⟨RX6, "<init>", "(LCombTable;I)V"⟩
def dkwX6_init_0 : List UInt8 := [42, 43, 181, 0, 3, 42, 183, 0, 9, 42, 28, 181, 0, 15, 177]
abbrev dktX6_init_0 : List UInt8 := dkwX6_init_0 ++ []
theorem dksX6_init_0 : cX6_init.data.toList.drop 0 = dktX6_init_0 := by decide +kernel
theorem dX6_init_0 : decode cX6_init 0 = .ok (.aload_n 0, 1) := dk_42 (dk_at dksX6_init_0 0 rfl rfl)
theorem dX6_init_1 : decode cX6_init 1 = .ok (.aload_n 1, 1) := dk_43 (dk_at dksX6_init_0 1 rfl rfl)
theorem dX6_init_2 : decode cX6_init 2 = .ok (.putfield 3, 3) := dk_181 0 3 (dk_at dksX6_init_0 2 rfl rfl)
theorem dX6_init_5 : decode cX6_init 5 = .ok (.aload_n 0, 1) := dk_42 (dk_at dksX6_init_0 5 rfl rfl)
theorem dX6_init_6 : decode cX6_init 6 = .ok (.invokespecial 9, 3) := dk_183 0 9 (dk_at dksX6_init_0 6 rfl rfl)
theorem dX6_init_9 : decode cX6_init 9 = .ok (.aload_n 0, 1) := dk_42 (dk_at dksX6_init_0 9 rfl rfl)
theorem dX6_init_10 : decode cX6_init 10 = .ok (.iload_n 2, 1) := dk_28 (dk_at dksX6_init_0 10 rfl rfl)
theorem dX6_init_11 : decode cX6_init 11 = .ok (.putfield 15, 3) := dk_181 0 15 (dk_at dksX6_init_0 11 rfl rfl)
theorem dX6_init_14 : decode cX6_init 14 = .ok (.return_, 1) := dk_177 (dk_at dksX6_init_0 14 rfl rfl)
abbrev cX6_begin : ByteArray := prog_13_method_2_code
def yX6_begin : MethodName := ⟨RX6, "begin", "()V"⟩
def dkwX6_begin_0 : List UInt8 := [42, 3, 181, 0, 19, 42, 182, 0, 22, 177]
abbrev dktX6_begin_0 : List UInt8 := dkwX6_begin_0 ++ []
theorem dksX6_begin_0 : cX6_begin.data.toList.drop 0 = dktX6_begin_0 := by decide +kernel
theorem dX6_begin_0 : decode cX6_begin 0 = .ok (.aload_n 0, 1) := dk_42 (dk_at dksX6_begin_0 0 rfl rfl)
theorem dX6_begin_1 : decode cX6_begin 1 = .ok (.iconst 0, 1) := dk_3 (dk_at dksX6_begin_0 1 rfl rfl)
theorem dX6_begin_2 : decode cX6_begin 2 = .ok (.putfield 19, 3) := dk_181 0 19 (dk_at dksX6_begin_0 2 rfl rfl)
theorem dX6_begin_5 : decode cX6_begin 5 = .ok (.aload_n 0, 1) := dk_42 (dk_at dksX6_begin_0 5 rfl rfl)
theorem dX6_begin_6 : decode cX6_begin 6 = .ok (.invokevirtual 22, 3) := dk_182 0 22 (dk_at dksX6_begin_0 6 rfl rfl)
theorem dX6_begin_9 : decode cX6_begin 9 = .ok (.return_, 1) := dk_177 (dk_at dksX6_begin_0 9 rfl rfl)
abbrev cX6_next : ByteArray := prog_13_method_6_code
def yX6_next : MethodName := ⟨RX6, "next", "()V"⟩
def dkwX6_next_7 : List UInt8 := [42, 27, 181, 0, 57, 42, 89, 180, 0, 19, 4, 96, 181, 0, 19, 177]
abbrev dktX6_next_7 : List UInt8 := dkwX6_next_7 ++ []
def dkwX6_next_6 : List UInt8 := [16, 41, 159, 0, 14, 27, 16, 60, 16, 62, 184, 0, 32, 153, 0, 7, 6, 167, 0, 4, 7, 181, 0, 43]
abbrev dktX6_next_6 : List UInt8 := dkwX6_next_6 ++ dktX6_next_7
def dkwX6_next_5 : List UInt8 := [182, 0, 46, 182, 0, 53, 167, 0, 56, 42, 27, 16, 59, 159, 0, 26, 27, 16, 40, 159, 0, 20, 27]
abbrev dktX6_next_5 : List UInt8 := dkwX6_next_5 ++ dktX6_next_6
def dkwX6_next_4 : List UInt8 := [167, 0, 84, 42, 27, 182, 0, 46, 154, 0, 11, 42, 27, 182, 0, 50, 153, 0, 15, 42, 42, 27]
abbrev dktX6_next_4 : List UInt8 := dkwX6_next_4 ++ dktX6_next_5
def dkwX6_next_3 : List UInt8 := [181, 0, 40, 42, 7, 181, 0, 43, 177, 42, 182, 0, 36, 60, 27, 156, 0, 11, 42, 3, 181, 0, 43]
abbrev dktX6_next_3 : List UInt8 := dkwX6_next_3 ++ dktX6_next_4
def dkwX6_next_2 : List UInt8 := [180, 0, 15, 164, 0, 28, 42, 180, 0, 19, 42, 180, 0, 15, 161, 0, 17, 42, 42, 180, 0, 15]
abbrev dktX6_next_2 : List UInt8 := dkwX6_next_2 ++ dktX6_next_3
def dkwX6_next_1 : List UInt8 := [96, 181, 0, 19, 167, 255, 228, 42, 42, 180, 0, 19, 181, 0, 40, 42, 180, 0, 3, 180, 0, 25, 42]
abbrev dktX6_next_1 : List UInt8 := dkwX6_next_1 ++ dktX6_next_2
def dkwX6_next_0 : List UInt8 := [42, 182, 0, 36, 16, 32, 159, 0, 12, 42, 182, 0, 36, 16, 10, 160, 0, 16, 42, 89, 180, 0, 19, 4]
abbrev dktX6_next_0 : List UInt8 := dkwX6_next_0 ++ dktX6_next_1
theorem dksX6_next_0 : cX6_next.data.toList.drop 0 = dktX6_next_0 := by decide +kernel
theorem dksX6_next_1 : cX6_next.data.toList.drop 24 = dktX6_next_1 := dk_seg dksX6_next_0 24 rfl rfl
theorem dksX6_next_2 : cX6_next.data.toList.drop 47 = dktX6_next_2 := dk_seg dksX6_next_1 23 rfl rfl
theorem dksX6_next_3 : cX6_next.data.toList.drop 69 = dktX6_next_3 := dk_seg dksX6_next_2 22 rfl rfl
theorem dksX6_next_4 : cX6_next.data.toList.drop 92 = dktX6_next_4 := dk_seg dksX6_next_3 23 rfl rfl
theorem dksX6_next_5 : cX6_next.data.toList.drop 114 = dktX6_next_5 := dk_seg dksX6_next_4 22 rfl rfl
theorem dksX6_next_6 : cX6_next.data.toList.drop 137 = dktX6_next_6 := dk_seg dksX6_next_5 23 rfl rfl
theorem dksX6_next_7 : cX6_next.data.toList.drop 161 = dktX6_next_7 := dk_seg dksX6_next_6 24 rfl rfl
theorem dX6_next_0 : decode cX6_next 0 = .ok (.aload_n 0, 1) := dk_42 (dk_at dksX6_next_0 0 rfl rfl)
theorem dX6_next_1 : decode cX6_next 1 = .ok (.invokevirtual 36, 3) := dk_182 0 36 (dk_at dksX6_next_0 1 rfl rfl)
theorem dX6_next_4 : decode cX6_next 4 = .ok (.bipush 32, 2) := dk_16 32 (dk_at dksX6_next_0 4 rfl rfl)
theorem dX6_next_6 : decode cX6_next 6 = .ok (.if_icmp .eq 12, 3) := dk_159 0 12 (dk_at dksX6_next_0 6 rfl rfl)
theorem dX6_next_9 : decode cX6_next 9 = .ok (.aload_n 0, 1) := dk_42 (dk_at dksX6_next_0 9 rfl rfl)
theorem dX6_next_10 : decode cX6_next 10 = .ok (.invokevirtual 36, 3) := dk_182 0 36 (dk_at dksX6_next_0 10 rfl rfl)
theorem dX6_next_13 : decode cX6_next 13 = .ok (.bipush 10, 2) := dk_16 10 (dk_at dksX6_next_0 13 rfl rfl)
theorem dX6_next_15 : decode cX6_next 15 = .ok (.if_icmp .ne 16, 3) := dk_160 0 16 (dk_at dksX6_next_0 15 rfl rfl)
theorem dX6_next_18 : decode cX6_next 18 = .ok (.aload_n 0, 1) := dk_42 (dk_at dksX6_next_0 18 rfl rfl)
theorem dX6_next_19 : decode cX6_next 19 = .ok (.dup, 1) := dk_89 (dk_at dksX6_next_0 19 rfl rfl)
theorem dX6_next_20 : decode cX6_next 20 = .ok (.getfield 19, 3) := dk_180 0 19 (dk_at dksX6_next_0 20 rfl rfl)
theorem dX6_next_23 : decode cX6_next 23 = .ok (.iconst 1, 1) := dk_4 (dk_at dksX6_next_0 23 rfl rfl)
theorem dX6_next_24 : decode cX6_next 24 = .ok (.iadd, 1) := dk_96 (dk_at dksX6_next_1 0 rfl rfl)
theorem dX6_next_25 : decode cX6_next 25 = .ok (.putfield 19, 3) := dk_181 0 19 (dk_at dksX6_next_1 1 rfl rfl)
theorem dX6_next_28 : decode cX6_next 28 = .ok (.goto (-28), 3) := dk_167 255 228 (dk_at dksX6_next_1 4 rfl rfl)
theorem dX6_next_31 : decode cX6_next 31 = .ok (.aload_n 0, 1) := dk_42 (dk_at dksX6_next_1 7 rfl rfl)
theorem dX6_next_32 : decode cX6_next 32 = .ok (.aload_n 0, 1) := dk_42 (dk_at dksX6_next_1 8 rfl rfl)
theorem dX6_next_33 : decode cX6_next 33 = .ok (.getfield 19, 3) := dk_180 0 19 (dk_at dksX6_next_1 9 rfl rfl)
theorem dX6_next_36 : decode cX6_next 36 = .ok (.putfield 40, 3) := dk_181 0 40 (dk_at dksX6_next_1 12 rfl rfl)
theorem dX6_next_39 : decode cX6_next 39 = .ok (.aload_n 0, 1) := dk_42 (dk_at dksX6_next_1 15 rfl rfl)
theorem dX6_next_40 : decode cX6_next 40 = .ok (.getfield 3, 3) := dk_180 0 3 (dk_at dksX6_next_1 16 rfl rfl)
theorem dX6_next_43 : decode cX6_next 43 = .ok (.getfield 25, 3) := dk_180 0 25 (dk_at dksX6_next_1 19 rfl rfl)
theorem dX6_next_46 : decode cX6_next 46 = .ok (.aload_n 0, 1) := dk_42 (dk_at dksX6_next_1 22 rfl rfl)
theorem dX6_next_47 : decode cX6_next 47 = .ok (.getfield 15, 3) := dk_180 0 15 (dk_at dksX6_next_2 0 rfl rfl)
theorem dX6_next_50 : decode cX6_next 50 = .ok (.if_icmp .le 28, 3) := dk_164 0 28 (dk_at dksX6_next_2 3 rfl rfl)
theorem dX6_next_53 : decode cX6_next 53 = .ok (.aload_n 0, 1) := dk_42 (dk_at dksX6_next_2 6 rfl rfl)
theorem dX6_next_54 : decode cX6_next 54 = .ok (.getfield 19, 3) := dk_180 0 19 (dk_at dksX6_next_2 7 rfl rfl)
theorem dX6_next_57 : decode cX6_next 57 = .ok (.aload_n 0, 1) := dk_42 (dk_at dksX6_next_2 10 rfl rfl)
theorem dX6_next_58 : decode cX6_next 58 = .ok (.getfield 15, 3) := dk_180 0 15 (dk_at dksX6_next_2 11 rfl rfl)
theorem dX6_next_61 : decode cX6_next 61 = .ok (.if_icmp .lt 17, 3) := dk_161 0 17 (dk_at dksX6_next_2 14 rfl rfl)
theorem dX6_next_64 : decode cX6_next 64 = .ok (.aload_n 0, 1) := dk_42 (dk_at dksX6_next_2 17 rfl rfl)
theorem dX6_next_65 : decode cX6_next 65 = .ok (.aload_n 0, 1) := dk_42 (dk_at dksX6_next_2 18 rfl rfl)
theorem dX6_next_66 : decode cX6_next 66 = .ok (.getfield 15, 3) := dk_180 0 15 (dk_at dksX6_next_2 19 rfl rfl)
theorem dX6_next_69 : decode cX6_next 69 = .ok (.putfield 40, 3) := dk_181 0 40 (dk_at dksX6_next_3 0 rfl rfl)
theorem dX6_next_72 : decode cX6_next 72 = .ok (.aload_n 0, 1) := dk_42 (dk_at dksX6_next_3 3 rfl rfl)
theorem dX6_next_73 : decode cX6_next 73 = .ok (.iconst 4, 1) := dk_7 (dk_at dksX6_next_3 4 rfl rfl)
theorem dX6_next_74 : decode cX6_next 74 = .ok (.putfield 43, 3) := dk_181 0 43 (dk_at dksX6_next_3 5 rfl rfl)
theorem dX6_next_77 : decode cX6_next 77 = .ok (.return_, 1) := dk_177 (dk_at dksX6_next_3 8 rfl rfl)
theorem dX6_next_78 : decode cX6_next 78 = .ok (.aload_n 0, 1) := dk_42 (dk_at dksX6_next_3 9 rfl rfl)
theorem dX6_next_79 : decode cX6_next 79 = .ok (.invokevirtual 36, 3) := dk_182 0 36 (dk_at dksX6_next_3 10 rfl rfl)
theorem dX6_next_82 : decode cX6_next 82 = .ok (.istore_n 1, 1) := dk_60 (dk_at dksX6_next_3 13 rfl rfl)
theorem dX6_next_83 : decode cX6_next 83 = .ok (.iload_n 1, 1) := dk_27 (dk_at dksX6_next_3 14 rfl rfl)
theorem dX6_next_84 : decode cX6_next 84 = .ok (.ifCond .ge 11, 3) := dk_156 0 11 (dk_at dksX6_next_3 15 rfl rfl)
theorem dX6_next_87 : decode cX6_next 87 = .ok (.aload_n 0, 1) := dk_42 (dk_at dksX6_next_3 18 rfl rfl)
theorem dX6_next_88 : decode cX6_next 88 = .ok (.iconst 0, 1) := dk_3 (dk_at dksX6_next_3 19 rfl rfl)
theorem dX6_next_89 : decode cX6_next 89 = .ok (.putfield 43, 3) := dk_181 0 43 (dk_at dksX6_next_3 20 rfl rfl)
theorem dX6_next_92 : decode cX6_next 92 = .ok (.goto 84, 3) := dk_167 0 84 (dk_at dksX6_next_4 0 rfl rfl)
theorem dX6_next_95 : decode cX6_next 95 = .ok (.aload_n 0, 1) := dk_42 (dk_at dksX6_next_4 3 rfl rfl)
theorem dX6_next_96 : decode cX6_next 96 = .ok (.iload_n 1, 1) := dk_27 (dk_at dksX6_next_4 4 rfl rfl)
theorem dX6_next_97 : decode cX6_next 97 = .ok (.invokevirtual 46, 3) := dk_182 0 46 (dk_at dksX6_next_4 5 rfl rfl)
theorem dX6_next_100 : decode cX6_next 100 = .ok (.ifCond .ne 11, 3) := dk_154 0 11 (dk_at dksX6_next_4 8 rfl rfl)
theorem dX6_next_103 : decode cX6_next 103 = .ok (.aload_n 0, 1) := dk_42 (dk_at dksX6_next_4 11 rfl rfl)
theorem dX6_next_104 : decode cX6_next 104 = .ok (.iload_n 1, 1) := dk_27 (dk_at dksX6_next_4 12 rfl rfl)
theorem dX6_next_105 : decode cX6_next 105 = .ok (.invokevirtual 50, 3) := dk_182 0 50 (dk_at dksX6_next_4 13 rfl rfl)
theorem dX6_next_108 : decode cX6_next 108 = .ok (.ifCond .eq 15, 3) := dk_153 0 15 (dk_at dksX6_next_4 16 rfl rfl)
theorem dX6_next_111 : decode cX6_next 111 = .ok (.aload_n 0, 1) := dk_42 (dk_at dksX6_next_4 19 rfl rfl)
theorem dX6_next_112 : decode cX6_next 112 = .ok (.aload_n 0, 1) := dk_42 (dk_at dksX6_next_4 20 rfl rfl)
theorem dX6_next_113 : decode cX6_next 113 = .ok (.iload_n 1, 1) := dk_27 (dk_at dksX6_next_4 21 rfl rfl)
theorem dX6_next_114 : decode cX6_next 114 = .ok (.invokevirtual 46, 3) := dk_182 0 46 (dk_at dksX6_next_5 0 rfl rfl)
theorem dX6_next_117 : decode cX6_next 117 = .ok (.invokevirtual 53, 3) := dk_182 0 53 (dk_at dksX6_next_5 3 rfl rfl)
theorem dX6_next_120 : decode cX6_next 120 = .ok (.goto 56, 3) := dk_167 0 56 (dk_at dksX6_next_5 6 rfl rfl)
theorem dX6_next_123 : decode cX6_next 123 = .ok (.aload_n 0, 1) := dk_42 (dk_at dksX6_next_5 9 rfl rfl)
theorem dX6_next_124 : decode cX6_next 124 = .ok (.iload_n 1, 1) := dk_27 (dk_at dksX6_next_5 10 rfl rfl)
theorem dX6_next_125 : decode cX6_next 125 = .ok (.bipush 59, 2) := dk_16 59 (dk_at dksX6_next_5 11 rfl rfl)
theorem dX6_next_127 : decode cX6_next 127 = .ok (.if_icmp .eq 26, 3) := dk_159 0 26 (dk_at dksX6_next_5 13 rfl rfl)
theorem dX6_next_130 : decode cX6_next 130 = .ok (.iload_n 1, 1) := dk_27 (dk_at dksX6_next_5 16 rfl rfl)
theorem dX6_next_131 : decode cX6_next 131 = .ok (.bipush 40, 2) := dk_16 40 (dk_at dksX6_next_5 17 rfl rfl)
theorem dX6_next_133 : decode cX6_next 133 = .ok (.if_icmp .eq 20, 3) := dk_159 0 20 (dk_at dksX6_next_5 19 rfl rfl)
theorem dX6_next_136 : decode cX6_next 136 = .ok (.iload_n 1, 1) := dk_27 (dk_at dksX6_next_5 22 rfl rfl)
theorem dX6_next_137 : decode cX6_next 137 = .ok (.bipush 41, 2) := dk_16 41 (dk_at dksX6_next_6 0 rfl rfl)
theorem dX6_next_139 : decode cX6_next 139 = .ok (.if_icmp .eq 14, 3) := dk_159 0 14 (dk_at dksX6_next_6 2 rfl rfl)
theorem dX6_next_142 : decode cX6_next 142 = .ok (.iload_n 1, 1) := dk_27 (dk_at dksX6_next_6 5 rfl rfl)
theorem dX6_next_143 : decode cX6_next 143 = .ok (.bipush 60, 2) := dk_16 60 (dk_at dksX6_next_6 6 rfl rfl)
theorem dX6_next_145 : decode cX6_next 145 = .ok (.bipush 62, 2) := dk_16 62 (dk_at dksX6_next_6 8 rfl rfl)
theorem dX6_next_147 : decode cX6_next 147 = .ok (.invokestatic 32, 3) := dk_184 0 32 (dk_at dksX6_next_6 10 rfl rfl)
theorem dX6_next_150 : decode cX6_next 150 = .ok (.ifCond .eq 7, 3) := dk_153 0 7 (dk_at dksX6_next_6 13 rfl rfl)
theorem dX6_next_153 : decode cX6_next 153 = .ok (.iconst 3, 1) := dk_6 (dk_at dksX6_next_6 16 rfl rfl)
theorem dX6_next_154 : decode cX6_next 154 = .ok (.goto 4, 3) := dk_167 0 4 (dk_at dksX6_next_6 17 rfl rfl)
theorem dX6_next_157 : decode cX6_next 157 = .ok (.iconst 4, 1) := dk_7 (dk_at dksX6_next_6 20 rfl rfl)
theorem dX6_next_158 : decode cX6_next 158 = .ok (.putfield 43, 3) := dk_181 0 43 (dk_at dksX6_next_6 21 rfl rfl)
theorem dX6_next_161 : decode cX6_next 161 = .ok (.aload_n 0, 1) := dk_42 (dk_at dksX6_next_7 0 rfl rfl)
theorem dX6_next_162 : decode cX6_next 162 = .ok (.iload_n 1, 1) := dk_27 (dk_at dksX6_next_7 1 rfl rfl)
theorem dX6_next_163 : decode cX6_next 163 = .ok (.putfield 57, 3) := dk_181 0 57 (dk_at dksX6_next_7 2 rfl rfl)
theorem dX6_next_166 : decode cX6_next 166 = .ok (.aload_n 0, 1) := dk_42 (dk_at dksX6_next_7 5 rfl rfl)
theorem dX6_next_167 : decode cX6_next 167 = .ok (.dup, 1) := dk_89 (dk_at dksX6_next_7 6 rfl rfl)
theorem dX6_next_168 : decode cX6_next 168 = .ok (.getfield 19, 3) := dk_180 0 19 (dk_at dksX6_next_7 7 rfl rfl)
theorem dX6_next_171 : decode cX6_next 171 = .ok (.iconst 1, 1) := dk_4 (dk_at dksX6_next_7 10 rfl rfl)
theorem dX6_next_172 : decode cX6_next 172 = .ok (.iadd, 1) := dk_96 (dk_at dksX6_next_7 11 rfl rfl)
theorem dX6_next_173 : decode cX6_next 173 = .ok (.putfield 19, 3) := dk_181 0 19 (dk_at dksX6_next_7 12 rfl rfl)
theorem dX6_next_176 : decode cX6_next 176 = .ok (.return_, 1) := dk_177 (dk_at dksX6_next_7 15 rfl rfl)
abbrev cX6_peek : ByteArray := prog_13_method_3_code
def yX6_peek : MethodName := ⟨RX6, "peek", "()I"⟩
def dkwX6_peek_1 : List UInt8 := [180, 0, 19, 51, 17, 0, 255, 126, 167, 0, 4, 2, 172]
abbrev dktX6_peek_1 : List UInt8 := dkwX6_peek_1 ++ []
def dkwX6_peek_0 : List UInt8 := [42, 180, 0, 19, 42, 180, 0, 3, 180, 0, 25, 162, 0, 22, 42, 180, 0, 3, 180, 0, 28, 42]
abbrev dktX6_peek_0 : List UInt8 := dkwX6_peek_0 ++ dktX6_peek_1
theorem dksX6_peek_0 : cX6_peek.data.toList.drop 0 = dktX6_peek_0 := by decide +kernel
theorem dksX6_peek_1 : cX6_peek.data.toList.drop 22 = dktX6_peek_1 := dk_seg dksX6_peek_0 22 rfl rfl
theorem dX6_peek_0 : decode cX6_peek 0 = .ok (.aload_n 0, 1) := dk_42 (dk_at dksX6_peek_0 0 rfl rfl)
theorem dX6_peek_1 : decode cX6_peek 1 = .ok (.getfield 19, 3) := dk_180 0 19 (dk_at dksX6_peek_0 1 rfl rfl)
theorem dX6_peek_4 : decode cX6_peek 4 = .ok (.aload_n 0, 1) := dk_42 (dk_at dksX6_peek_0 4 rfl rfl)
theorem dX6_peek_5 : decode cX6_peek 5 = .ok (.getfield 3, 3) := dk_180 0 3 (dk_at dksX6_peek_0 5 rfl rfl)
theorem dX6_peek_8 : decode cX6_peek 8 = .ok (.getfield 25, 3) := dk_180 0 25 (dk_at dksX6_peek_0 8 rfl rfl)
theorem dX6_peek_11 : decode cX6_peek 11 = .ok (.if_icmp .ge 22, 3) := dk_162 0 22 (dk_at dksX6_peek_0 11 rfl rfl)
theorem dX6_peek_14 : decode cX6_peek 14 = .ok (.aload_n 0, 1) := dk_42 (dk_at dksX6_peek_0 14 rfl rfl)
theorem dX6_peek_15 : decode cX6_peek 15 = .ok (.getfield 3, 3) := dk_180 0 3 (dk_at dksX6_peek_0 15 rfl rfl)
theorem dX6_peek_18 : decode cX6_peek 18 = .ok (.getfield 28, 3) := dk_180 0 28 (dk_at dksX6_peek_0 18 rfl rfl)
theorem dX6_peek_21 : decode cX6_peek 21 = .ok (.aload_n 0, 1) := dk_42 (dk_at dksX6_peek_0 21 rfl rfl)
theorem dX6_peek_22 : decode cX6_peek 22 = .ok (.getfield 19, 3) := dk_180 0 19 (dk_at dksX6_peek_1 0 rfl rfl)
theorem dX6_peek_25 : decode cX6_peek 25 = .ok (.baload, 1) := dk_51 (dk_at dksX6_peek_1 3 rfl rfl)
theorem dX6_peek_26 : decode cX6_peek 26 = .ok (.sipush 255, 3) := dk_17 0 255 (dk_at dksX6_peek_1 4 rfl rfl)
theorem dX6_peek_29 : decode cX6_peek 29 = .ok (.iand, 1) := dk_126 (dk_at dksX6_peek_1 7 rfl rfl)
theorem dX6_peek_30 : decode cX6_peek 30 = .ok (.goto 4, 3) := dk_167 0 4 (dk_at dksX6_peek_1 8 rfl rfl)
theorem dX6_peek_33 : decode cX6_peek 33 = .ok (.iconst (-1), 1) := dk_2 (dk_at dksX6_peek_1 11 rfl rfl)
theorem dX6_peek_34 : decode cX6_peek 34 = .ok (.ireturn, 1) := dk_172 (dk_at dksX6_peek_1 12 rfl rfl)
abbrev cX6_isLetter : ByteArray := prog_13_method_4_code
def yX6_isLetter : MethodName := ⟨RX6, "isLetter", "(I)Z"⟩
def dkwX6_isLetter_0 : List UInt8 := [27, 16, 97, 16, 122, 184, 0, 32, 172]
abbrev dktX6_isLetter_0 : List UInt8 := dkwX6_isLetter_0 ++ []
theorem dksX6_isLetter_0 : cX6_isLetter.data.toList.drop 0 = dktX6_isLetter_0 := by decide +kernel
theorem dX6_isLetter_0 : decode cX6_isLetter 0 = .ok (.iload_n 1, 1) := dk_27 (dk_at dksX6_isLetter_0 0 rfl rfl)
theorem dX6_isLetter_1 : decode cX6_isLetter 1 = .ok (.bipush 97, 2) := dk_16 97 (dk_at dksX6_isLetter_0 1 rfl rfl)
theorem dX6_isLetter_3 : decode cX6_isLetter 3 = .ok (.bipush 122, 2) := dk_16 122 (dk_at dksX6_isLetter_0 3 rfl rfl)
theorem dX6_isLetter_5 : decode cX6_isLetter 5 = .ok (.invokestatic 32, 3) := dk_184 0 32 (dk_at dksX6_isLetter_0 5 rfl rfl)
theorem dX6_isLetter_8 : decode cX6_isLetter 8 = .ok (.ireturn, 1) := dk_172 (dk_at dksX6_isLetter_0 8 rfl rfl)
abbrev cX6_isDigit : ByteArray := prog_13_method_5_code
def yX6_isDigit : MethodName := ⟨RX6, "isDigit", "(I)Z"⟩
def dkwX6_isDigit_0 : List UInt8 := [27, 16, 48, 16, 57, 184, 0, 32, 172]
abbrev dktX6_isDigit_0 : List UInt8 := dkwX6_isDigit_0 ++ []
theorem dksX6_isDigit_0 : cX6_isDigit.data.toList.drop 0 = dktX6_isDigit_0 := by decide +kernel
theorem dX6_isDigit_0 : decode cX6_isDigit 0 = .ok (.iload_n 1, 1) := dk_27 (dk_at dksX6_isDigit_0 0 rfl rfl)
theorem dX6_isDigit_1 : decode cX6_isDigit 1 = .ok (.bipush 48, 2) := dk_16 48 (dk_at dksX6_isDigit_0 1 rfl rfl)
theorem dX6_isDigit_3 : decode cX6_isDigit 3 = .ok (.bipush 57, 2) := dk_16 57 (dk_at dksX6_isDigit_0 3 rfl rfl)
theorem dX6_isDigit_5 : decode cX6_isDigit 5 = .ok (.invokestatic 32, 3) := dk_184 0 32 (dk_at dksX6_isDigit_0 5 rfl rfl)
theorem dX6_isDigit_8 : decode cX6_isDigit 8 = .ok (.ireturn, 1) := dk_172 (dk_at dksX6_isDigit_0 8 rfl rfl)
abbrev cX6_run : ByteArray := prog_13_method_7_code
def yX6_run : MethodName := ⟨RX6, "run", "(Z)V"⟩
def dkwX6_run_7 : List UInt8 := [164, 0, 7, 7, 167, 0, 12, 27, 153, 0, 7, 4, 167, 0, 4, 5, 181, 0, 43, 177]
abbrev dktX6_run_7 : List UInt8 := dkwX6_run_7 ++ []
def dkwX6_run_6 : List UInt8 := [181, 0, 64, 42, 28, 153, 0, 20, 42, 180, 0, 64, 27, 153, 0, 8, 16, 7, 167, 0, 4, 6]
abbrev dktX6_run_6 : List UInt8 := dkwX6_run_6 ++ dktX6_run_7
def dkwX6_run_5 : List UInt8 := [42, 89, 180, 0, 19, 4, 96, 181, 0, 19, 167, 255, 139, 42, 42, 180, 0, 19, 42, 180, 0, 40, 100]
abbrev dktX6_run_5 : List UInt8 := dkwX6_run_5 ++ dktX6_run_6
def dkwX6_run_4 : List UInt8 := [100, 6, 162, 0, 22, 42, 16, 10, 42, 180, 0, 57, 104, 42, 182, 0, 36, 96, 16, 48, 100, 181, 0, 57]
abbrev dktX6_run_4 : List UInt8 := dkwX6_run_4 ++ dktX6_run_5
def dkwX6_run_3 : List UInt8 := [42, 180, 0, 60, 16, 8, 121, 42, 182, 0, 36, 133, 129, 181, 0, 60, 42, 180, 0, 19, 42, 180, 0, 40]
abbrev dktX6_run_3 : List UInt8 := dkwX6_run_3 ++ dktX6_run_4
def dkwX6_run_2 : List UInt8 := [160, 0, 7, 4, 167, 0, 4, 3, 61, 42, 180, 0, 19, 42, 180, 0, 40, 100, 16, 7, 162, 0, 20, 42]
abbrev dktX6_run_2 : List UInt8 := dkwX6_run_2 ++ dktX6_run_3
def dkwX6_run_1 : List UInt8 := [42, 182, 0, 36, 182, 0, 50, 153, 0, 101, 28, 153, 0, 19, 42, 42, 182, 0, 36, 182, 0, 46, 27]
abbrev dktX6_run_1 : List UInt8 := dkwX6_run_1 ++ dktX6_run_2
def dkwX6_run_0 : List UInt8 := [4, 61, 42, 3, 181, 0, 57, 42, 9, 181, 0, 60, 42, 42, 182, 0, 36, 182, 0, 46, 154, 0, 14, 42]
abbrev dktX6_run_0 : List UInt8 := dkwX6_run_0 ++ dktX6_run_1
theorem dksX6_run_0 : cX6_run.data.toList.drop 0 = dktX6_run_0 := by decide +kernel
theorem dksX6_run_1 : cX6_run.data.toList.drop 24 = dktX6_run_1 := dk_seg dksX6_run_0 24 rfl rfl
theorem dksX6_run_2 : cX6_run.data.toList.drop 47 = dktX6_run_2 := dk_seg dksX6_run_1 23 rfl rfl
theorem dksX6_run_3 : cX6_run.data.toList.drop 71 = dktX6_run_3 := dk_seg dksX6_run_2 24 rfl rfl
theorem dksX6_run_4 : cX6_run.data.toList.drop 95 = dktX6_run_4 := dk_seg dksX6_run_3 24 rfl rfl
theorem dksX6_run_5 : cX6_run.data.toList.drop 119 = dktX6_run_5 := dk_seg dksX6_run_4 24 rfl rfl
theorem dksX6_run_6 : cX6_run.data.toList.drop 142 = dktX6_run_6 := dk_seg dksX6_run_5 23 rfl rfl
theorem dksX6_run_7 : cX6_run.data.toList.drop 164 = dktX6_run_7 := dk_seg dksX6_run_6 22 rfl rfl
theorem dX6_run_0 : decode cX6_run 0 = .ok (.iconst 1, 1) := dk_4 (dk_at dksX6_run_0 0 rfl rfl)
theorem dX6_run_1 : decode cX6_run 1 = .ok (.istore_n 2, 1) := dk_61 (dk_at dksX6_run_0 1 rfl rfl)
theorem dX6_run_2 : decode cX6_run 2 = .ok (.aload_n 0, 1) := dk_42 (dk_at dksX6_run_0 2 rfl rfl)
theorem dX6_run_3 : decode cX6_run 3 = .ok (.iconst 0, 1) := dk_3 (dk_at dksX6_run_0 3 rfl rfl)
theorem dX6_run_4 : decode cX6_run 4 = .ok (.putfield 57, 3) := dk_181 0 57 (dk_at dksX6_run_0 4 rfl rfl)
theorem dX6_run_7 : decode cX6_run 7 = .ok (.aload_n 0, 1) := dk_42 (dk_at dksX6_run_0 7 rfl rfl)
theorem dX6_run_8 : decode cX6_run 8 = .ok (.lconst 0, 1) := dk_9 (dk_at dksX6_run_0 8 rfl rfl)
theorem dX6_run_9 : decode cX6_run 9 = .ok (.putfield 60, 3) := dk_181 0 60 (dk_at dksX6_run_0 9 rfl rfl)
theorem dX6_run_12 : decode cX6_run 12 = .ok (.aload_n 0, 1) := dk_42 (dk_at dksX6_run_0 12 rfl rfl)
theorem dX6_run_13 : decode cX6_run 13 = .ok (.aload_n 0, 1) := dk_42 (dk_at dksX6_run_0 13 rfl rfl)
theorem dX6_run_14 : decode cX6_run 14 = .ok (.invokevirtual 36, 3) := dk_182 0 36 (dk_at dksX6_run_0 14 rfl rfl)
theorem dX6_run_17 : decode cX6_run 17 = .ok (.invokevirtual 46, 3) := dk_182 0 46 (dk_at dksX6_run_0 17 rfl rfl)
theorem dX6_run_20 : decode cX6_run 20 = .ok (.ifCond .ne 14, 3) := dk_154 0 14 (dk_at dksX6_run_0 20 rfl rfl)
theorem dX6_run_23 : decode cX6_run 23 = .ok (.aload_n 0, 1) := dk_42 (dk_at dksX6_run_0 23 rfl rfl)
theorem dX6_run_24 : decode cX6_run 24 = .ok (.aload_n 0, 1) := dk_42 (dk_at dksX6_run_1 0 rfl rfl)
theorem dX6_run_25 : decode cX6_run 25 = .ok (.invokevirtual 36, 3) := dk_182 0 36 (dk_at dksX6_run_1 1 rfl rfl)
theorem dX6_run_28 : decode cX6_run 28 = .ok (.invokevirtual 50, 3) := dk_182 0 50 (dk_at dksX6_run_1 4 rfl rfl)
theorem dX6_run_31 : decode cX6_run 31 = .ok (.ifCond .eq 101, 3) := dk_153 0 101 (dk_at dksX6_run_1 7 rfl rfl)
theorem dX6_run_34 : decode cX6_run 34 = .ok (.iload_n 2, 1) := dk_28 (dk_at dksX6_run_1 10 rfl rfl)
theorem dX6_run_35 : decode cX6_run 35 = .ok (.ifCond .eq 19, 3) := dk_153 0 19 (dk_at dksX6_run_1 11 rfl rfl)
theorem dX6_run_38 : decode cX6_run 38 = .ok (.aload_n 0, 1) := dk_42 (dk_at dksX6_run_1 14 rfl rfl)
theorem dX6_run_39 : decode cX6_run 39 = .ok (.aload_n 0, 1) := dk_42 (dk_at dksX6_run_1 15 rfl rfl)
theorem dX6_run_40 : decode cX6_run 40 = .ok (.invokevirtual 36, 3) := dk_182 0 36 (dk_at dksX6_run_1 16 rfl rfl)
theorem dX6_run_43 : decode cX6_run 43 = .ok (.invokevirtual 46, 3) := dk_182 0 46 (dk_at dksX6_run_1 19 rfl rfl)
theorem dX6_run_46 : decode cX6_run 46 = .ok (.iload_n 1, 1) := dk_27 (dk_at dksX6_run_1 22 rfl rfl)
theorem dX6_run_47 : decode cX6_run 47 = .ok (.if_icmp .ne 7, 3) := dk_160 0 7 (dk_at dksX6_run_2 0 rfl rfl)
theorem dX6_run_50 : decode cX6_run 50 = .ok (.iconst 1, 1) := dk_4 (dk_at dksX6_run_2 3 rfl rfl)
theorem dX6_run_51 : decode cX6_run 51 = .ok (.goto 4, 3) := dk_167 0 4 (dk_at dksX6_run_2 4 rfl rfl)
theorem dX6_run_54 : decode cX6_run 54 = .ok (.iconst 0, 1) := dk_3 (dk_at dksX6_run_2 7 rfl rfl)
theorem dX6_run_55 : decode cX6_run 55 = .ok (.istore_n 2, 1) := dk_61 (dk_at dksX6_run_2 8 rfl rfl)
theorem dX6_run_56 : decode cX6_run 56 = .ok (.aload_n 0, 1) := dk_42 (dk_at dksX6_run_2 9 rfl rfl)
theorem dX6_run_57 : decode cX6_run 57 = .ok (.getfield 19, 3) := dk_180 0 19 (dk_at dksX6_run_2 10 rfl rfl)
theorem dX6_run_60 : decode cX6_run 60 = .ok (.aload_n 0, 1) := dk_42 (dk_at dksX6_run_2 13 rfl rfl)
theorem dX6_run_61 : decode cX6_run 61 = .ok (.getfield 40, 3) := dk_180 0 40 (dk_at dksX6_run_2 14 rfl rfl)
theorem dX6_run_64 : decode cX6_run 64 = .ok (.isub, 1) := dk_100 (dk_at dksX6_run_2 17 rfl rfl)
theorem dX6_run_65 : decode cX6_run 65 = .ok (.bipush 7, 2) := dk_16 7 (dk_at dksX6_run_2 18 rfl rfl)
theorem dX6_run_67 : decode cX6_run 67 = .ok (.if_icmp .ge 20, 3) := dk_162 0 20 (dk_at dksX6_run_2 20 rfl rfl)
theorem dX6_run_70 : decode cX6_run 70 = .ok (.aload_n 0, 1) := dk_42 (dk_at dksX6_run_2 23 rfl rfl)
theorem dX6_run_71 : decode cX6_run 71 = .ok (.aload_n 0, 1) := dk_42 (dk_at dksX6_run_3 0 rfl rfl)
theorem dX6_run_72 : decode cX6_run 72 = .ok (.getfield 60, 3) := dk_180 0 60 (dk_at dksX6_run_3 1 rfl rfl)
theorem dX6_run_75 : decode cX6_run 75 = .ok (.bipush 8, 2) := dk_16 8 (dk_at dksX6_run_3 4 rfl rfl)
theorem dX6_run_77 : decode cX6_run 77 = .ok (.lshl, 1) := dk_121 (dk_at dksX6_run_3 6 rfl rfl)
theorem dX6_run_78 : decode cX6_run 78 = .ok (.aload_n 0, 1) := dk_42 (dk_at dksX6_run_3 7 rfl rfl)
theorem dX6_run_79 : decode cX6_run 79 = .ok (.invokevirtual 36, 3) := dk_182 0 36 (dk_at dksX6_run_3 8 rfl rfl)
theorem dX6_run_82 : decode cX6_run 82 = .ok (.i2l, 1) := dk_133 (dk_at dksX6_run_3 11 rfl rfl)
theorem dX6_run_83 : decode cX6_run 83 = .ok (.lor, 1) := dk_129 (dk_at dksX6_run_3 12 rfl rfl)
theorem dX6_run_84 : decode cX6_run 84 = .ok (.putfield 60, 3) := dk_181 0 60 (dk_at dksX6_run_3 13 rfl rfl)
theorem dX6_run_87 : decode cX6_run 87 = .ok (.aload_n 0, 1) := dk_42 (dk_at dksX6_run_3 16 rfl rfl)
theorem dX6_run_88 : decode cX6_run 88 = .ok (.getfield 19, 3) := dk_180 0 19 (dk_at dksX6_run_3 17 rfl rfl)
theorem dX6_run_91 : decode cX6_run 91 = .ok (.aload_n 0, 1) := dk_42 (dk_at dksX6_run_3 20 rfl rfl)
theorem dX6_run_92 : decode cX6_run 92 = .ok (.getfield 40, 3) := dk_180 0 40 (dk_at dksX6_run_3 21 rfl rfl)
theorem dX6_run_95 : decode cX6_run 95 = .ok (.isub, 1) := dk_100 (dk_at dksX6_run_4 0 rfl rfl)
theorem dX6_run_96 : decode cX6_run 96 = .ok (.iconst 3, 1) := dk_6 (dk_at dksX6_run_4 1 rfl rfl)
theorem dX6_run_97 : decode cX6_run 97 = .ok (.if_icmp .ge 22, 3) := dk_162 0 22 (dk_at dksX6_run_4 2 rfl rfl)
theorem dX6_run_100 : decode cX6_run 100 = .ok (.aload_n 0, 1) := dk_42 (dk_at dksX6_run_4 5 rfl rfl)
theorem dX6_run_101 : decode cX6_run 101 = .ok (.bipush 10, 2) := dk_16 10 (dk_at dksX6_run_4 6 rfl rfl)
theorem dX6_run_103 : decode cX6_run 103 = .ok (.aload_n 0, 1) := dk_42 (dk_at dksX6_run_4 8 rfl rfl)
theorem dX6_run_104 : decode cX6_run 104 = .ok (.getfield 57, 3) := dk_180 0 57 (dk_at dksX6_run_4 9 rfl rfl)
theorem dX6_run_107 : decode cX6_run 107 = .ok (.imul, 1) := dk_104 (dk_at dksX6_run_4 12 rfl rfl)
theorem dX6_run_108 : decode cX6_run 108 = .ok (.aload_n 0, 1) := dk_42 (dk_at dksX6_run_4 13 rfl rfl)
theorem dX6_run_109 : decode cX6_run 109 = .ok (.invokevirtual 36, 3) := dk_182 0 36 (dk_at dksX6_run_4 14 rfl rfl)
theorem dX6_run_112 : decode cX6_run 112 = .ok (.iadd, 1) := dk_96 (dk_at dksX6_run_4 17 rfl rfl)
theorem dX6_run_113 : decode cX6_run 113 = .ok (.bipush 48, 2) := dk_16 48 (dk_at dksX6_run_4 18 rfl rfl)
theorem dX6_run_115 : decode cX6_run 115 = .ok (.isub, 1) := dk_100 (dk_at dksX6_run_4 20 rfl rfl)
theorem dX6_run_116 : decode cX6_run 116 = .ok (.putfield 57, 3) := dk_181 0 57 (dk_at dksX6_run_4 21 rfl rfl)
theorem dX6_run_119 : decode cX6_run 119 = .ok (.aload_n 0, 1) := dk_42 (dk_at dksX6_run_5 0 rfl rfl)
theorem dX6_run_120 : decode cX6_run 120 = .ok (.dup, 1) := dk_89 (dk_at dksX6_run_5 1 rfl rfl)
theorem dX6_run_121 : decode cX6_run 121 = .ok (.getfield 19, 3) := dk_180 0 19 (dk_at dksX6_run_5 2 rfl rfl)
theorem dX6_run_124 : decode cX6_run 124 = .ok (.iconst 1, 1) := dk_4 (dk_at dksX6_run_5 5 rfl rfl)
theorem dX6_run_125 : decode cX6_run 125 = .ok (.iadd, 1) := dk_96 (dk_at dksX6_run_5 6 rfl rfl)
theorem dX6_run_126 : decode cX6_run 126 = .ok (.putfield 19, 3) := dk_181 0 19 (dk_at dksX6_run_5 7 rfl rfl)
theorem dX6_run_129 : decode cX6_run 129 = .ok (.goto (-117), 3) := dk_167 255 139 (dk_at dksX6_run_5 10 rfl rfl)
theorem dX6_run_132 : decode cX6_run 132 = .ok (.aload_n 0, 1) := dk_42 (dk_at dksX6_run_5 13 rfl rfl)
theorem dX6_run_133 : decode cX6_run 133 = .ok (.aload_n 0, 1) := dk_42 (dk_at dksX6_run_5 14 rfl rfl)
theorem dX6_run_134 : decode cX6_run 134 = .ok (.getfield 19, 3) := dk_180 0 19 (dk_at dksX6_run_5 15 rfl rfl)
theorem dX6_run_137 : decode cX6_run 137 = .ok (.aload_n 0, 1) := dk_42 (dk_at dksX6_run_5 18 rfl rfl)
theorem dX6_run_138 : decode cX6_run 138 = .ok (.getfield 40, 3) := dk_180 0 40 (dk_at dksX6_run_5 19 rfl rfl)
theorem dX6_run_141 : decode cX6_run 141 = .ok (.isub, 1) := dk_100 (dk_at dksX6_run_5 22 rfl rfl)
theorem dX6_run_142 : decode cX6_run 142 = .ok (.putfield 64, 3) := dk_181 0 64 (dk_at dksX6_run_6 0 rfl rfl)
theorem dX6_run_145 : decode cX6_run 145 = .ok (.aload_n 0, 1) := dk_42 (dk_at dksX6_run_6 3 rfl rfl)
theorem dX6_run_146 : decode cX6_run 146 = .ok (.iload_n 2, 1) := dk_28 (dk_at dksX6_run_6 4 rfl rfl)
theorem dX6_run_147 : decode cX6_run 147 = .ok (.ifCond .eq 20, 3) := dk_153 0 20 (dk_at dksX6_run_6 5 rfl rfl)
theorem dX6_run_150 : decode cX6_run 150 = .ok (.aload_n 0, 1) := dk_42 (dk_at dksX6_run_6 8 rfl rfl)
theorem dX6_run_151 : decode cX6_run 151 = .ok (.getfield 64, 3) := dk_180 0 64 (dk_at dksX6_run_6 9 rfl rfl)
theorem dX6_run_154 : decode cX6_run 154 = .ok (.iload_n 1, 1) := dk_27 (dk_at dksX6_run_6 12 rfl rfl)
theorem dX6_run_155 : decode cX6_run 155 = .ok (.ifCond .eq 8, 3) := dk_153 0 8 (dk_at dksX6_run_6 13 rfl rfl)
theorem dX6_run_158 : decode cX6_run 158 = .ok (.bipush 7, 2) := dk_16 7 (dk_at dksX6_run_6 16 rfl rfl)
theorem dX6_run_160 : decode cX6_run 160 = .ok (.goto 4, 3) := dk_167 0 4 (dk_at dksX6_run_6 18 rfl rfl)
theorem dX6_run_163 : decode cX6_run 163 = .ok (.iconst 3, 1) := dk_6 (dk_at dksX6_run_6 21 rfl rfl)
theorem dX6_run_164 : decode cX6_run 164 = .ok (.if_icmp .le 7, 3) := dk_164 0 7 (dk_at dksX6_run_7 0 rfl rfl)
theorem dX6_run_167 : decode cX6_run 167 = .ok (.iconst 4, 1) := dk_7 (dk_at dksX6_run_7 3 rfl rfl)
theorem dX6_run_168 : decode cX6_run 168 = .ok (.goto 12, 3) := dk_167 0 12 (dk_at dksX6_run_7 4 rfl rfl)
theorem dX6_run_171 : decode cX6_run 171 = .ok (.iload_n 1, 1) := dk_27 (dk_at dksX6_run_7 7 rfl rfl)
theorem dX6_run_172 : decode cX6_run 172 = .ok (.ifCond .eq 7, 3) := dk_153 0 7 (dk_at dksX6_run_7 8 rfl rfl)
theorem dX6_run_175 : decode cX6_run 175 = .ok (.iconst 1, 1) := dk_4 (dk_at dksX6_run_7 11 rfl rfl)
theorem dX6_run_176 : decode cX6_run 176 = .ok (.goto 4, 3) := dk_167 0 4 (dk_at dksX6_run_7 12 rfl rfl)
theorem dX6_run_179 : decode cX6_run 179 = .ok (.iconst 2, 1) := dk_5 (dk_at dksX6_run_7 15 rfl rfl)
theorem dX6_run_180 : decode cX6_run 180 = .ok (.putfield 43, 3) := dk_181 0 43 (dk_at dksX6_run_7 16 rfl rfl)
theorem dX6_run_183 : decode cX6_run 183 = .ok (.return_, 1) := dk_177 (dk_at dksX6_run_7 19 rfl rfl)
abbrev cX6_find : ByteArray := prog_13_method_10_code
def yX6_find : MethodName := ⟨RX6, "find", "([Ljava/lang/String;)I"⟩
def dkwX6_find_1 : List UInt8 := [167, 255, 235, 2, 172]
abbrev dktX6_find_1 : List UInt8 := dkwX6_find_1 ++ []
def dkwX6_find_0 : List UInt8 := [3, 61, 28, 43, 190, 162, 0, 21, 42, 43, 28, 50, 182, 0, 76, 153, 0, 5, 28, 172, 132, 2, 1]
abbrev dktX6_find_0 : List UInt8 := dkwX6_find_0 ++ dktX6_find_1
theorem dksX6_find_0 : cX6_find.data.toList.drop 0 = dktX6_find_0 := by decide +kernel
theorem dksX6_find_1 : cX6_find.data.toList.drop 23 = dktX6_find_1 := dk_seg dksX6_find_0 23 rfl rfl
theorem dX6_find_0 : decode cX6_find 0 = .ok (.iconst 0, 1) := dk_3 (dk_at dksX6_find_0 0 rfl rfl)
theorem dX6_find_1 : decode cX6_find 1 = .ok (.istore_n 2, 1) := dk_61 (dk_at dksX6_find_0 1 rfl rfl)
theorem dX6_find_2 : decode cX6_find 2 = .ok (.iload_n 2, 1) := dk_28 (dk_at dksX6_find_0 2 rfl rfl)
theorem dX6_find_3 : decode cX6_find 3 = .ok (.aload_n 1, 1) := dk_43 (dk_at dksX6_find_0 3 rfl rfl)
theorem dX6_find_4 : decode cX6_find 4 = .ok (.arraylength, 1) := dk_190 (dk_at dksX6_find_0 4 rfl rfl)
theorem dX6_find_5 : decode cX6_find 5 = .ok (.if_icmp .ge 21, 3) := dk_162 0 21 (dk_at dksX6_find_0 5 rfl rfl)
theorem dX6_find_8 : decode cX6_find 8 = .ok (.aload_n 0, 1) := dk_42 (dk_at dksX6_find_0 8 rfl rfl)
theorem dX6_find_9 : decode cX6_find 9 = .ok (.aload_n 1, 1) := dk_43 (dk_at dksX6_find_0 9 rfl rfl)
theorem dX6_find_10 : decode cX6_find 10 = .ok (.iload_n 2, 1) := dk_28 (dk_at dksX6_find_0 10 rfl rfl)
theorem dX6_find_11 : decode cX6_find 11 = .ok (.aaload, 1) := dk_50 (dk_at dksX6_find_0 11 rfl rfl)
theorem dX6_find_12 : decode cX6_find 12 = .ok (.invokevirtual 76, 3) := dk_182 0 76 (dk_at dksX6_find_0 12 rfl rfl)
theorem dX6_find_15 : decode cX6_find 15 = .ok (.ifCond .eq 5, 3) := dk_153 0 5 (dk_at dksX6_find_0 15 rfl rfl)
theorem dX6_find_18 : decode cX6_find 18 = .ok (.iload_n 2, 1) := dk_28 (dk_at dksX6_find_0 18 rfl rfl)
theorem dX6_find_19 : decode cX6_find 19 = .ok (.ireturn, 1) := dk_172 (dk_at dksX6_find_0 19 rfl rfl)
theorem dX6_find_20 : decode cX6_find 20 = .ok (.iinc 2 1, 3) := dk_132 2 1 (dk_at dksX6_find_0 20 rfl rfl)
theorem dX6_find_23 : decode cX6_find 23 = .ok (.goto (-21), 3) := dk_167 255 235 (dk_at dksX6_find_1 0 rfl rfl)
theorem dX6_find_26 : decode cX6_find 26 = .ok (.iconst (-1), 1) := dk_2 (dk_at dksX6_find_1 3 rfl rfl)
theorem dX6_find_27 : decode cX6_find 27 = .ok (.ireturn, 1) := dk_172 (dk_at dksX6_find_1 4 rfl rfl)
abbrev cX6_is : ByteArray := prog_13_method_8_code
def yX6_is : MethodName := ⟨RX6, "is", "(Ljava/lang/String;)Z"⟩
def dkwX6_is_2 : List UInt8 := [182, 0, 72, 159, 0, 5, 3, 172, 132, 2, 1, 167, 255, 221, 4, 172]
abbrev dktX6_is_2 : List UInt8 := dkwX6_is_2 ++ []
def dkwX6_is_1 : List UInt8 := [42, 180, 0, 64, 162, 0, 33, 42, 180, 0, 3, 180, 0, 28, 42, 180, 0, 40, 28, 96, 51, 43, 28]
abbrev dktX6_is_1 : List UInt8 := dkwX6_is_1 ++ dktX6_is_2
def dkwX6_is_0 : List UInt8 := [42, 180, 0, 43, 4, 160, 0, 14, 42, 180, 0, 64, 43, 182, 0, 67, 159, 0, 5, 3, 172, 3, 61, 28]
abbrev dktX6_is_0 : List UInt8 := dkwX6_is_0 ++ dktX6_is_1
theorem dksX6_is_0 : cX6_is.data.toList.drop 0 = dktX6_is_0 := by decide +kernel
theorem dksX6_is_1 : cX6_is.data.toList.drop 24 = dktX6_is_1 := dk_seg dksX6_is_0 24 rfl rfl
theorem dksX6_is_2 : cX6_is.data.toList.drop 47 = dktX6_is_2 := dk_seg dksX6_is_1 23 rfl rfl
theorem dX6_is_0 : decode cX6_is 0 = .ok (.aload_n 0, 1) := dk_42 (dk_at dksX6_is_0 0 rfl rfl)
theorem dX6_is_1 : decode cX6_is 1 = .ok (.getfield 43, 3) := dk_180 0 43 (dk_at dksX6_is_0 1 rfl rfl)
theorem dX6_is_4 : decode cX6_is 4 = .ok (.iconst 1, 1) := dk_4 (dk_at dksX6_is_0 4 rfl rfl)
theorem dX6_is_5 : decode cX6_is 5 = .ok (.if_icmp .ne 14, 3) := dk_160 0 14 (dk_at dksX6_is_0 5 rfl rfl)
theorem dX6_is_8 : decode cX6_is 8 = .ok (.aload_n 0, 1) := dk_42 (dk_at dksX6_is_0 8 rfl rfl)
theorem dX6_is_9 : decode cX6_is 9 = .ok (.getfield 64, 3) := dk_180 0 64 (dk_at dksX6_is_0 9 rfl rfl)
theorem dX6_is_12 : decode cX6_is 12 = .ok (.aload_n 1, 1) := dk_43 (dk_at dksX6_is_0 12 rfl rfl)
theorem dX6_is_13 : decode cX6_is 13 = .ok (.invokevirtual 67, 3) := dk_182 0 67 (dk_at dksX6_is_0 13 rfl rfl)
theorem dX6_is_16 : decode cX6_is 16 = .ok (.if_icmp .eq 5, 3) := dk_159 0 5 (dk_at dksX6_is_0 16 rfl rfl)
theorem dX6_is_19 : decode cX6_is 19 = .ok (.iconst 0, 1) := dk_3 (dk_at dksX6_is_0 19 rfl rfl)
theorem dX6_is_20 : decode cX6_is 20 = .ok (.ireturn, 1) := dk_172 (dk_at dksX6_is_0 20 rfl rfl)
theorem dX6_is_21 : decode cX6_is 21 = .ok (.iconst 0, 1) := dk_3 (dk_at dksX6_is_0 21 rfl rfl)
theorem dX6_is_22 : decode cX6_is 22 = .ok (.istore_n 2, 1) := dk_61 (dk_at dksX6_is_0 22 rfl rfl)
theorem dX6_is_23 : decode cX6_is 23 = .ok (.iload_n 2, 1) := dk_28 (dk_at dksX6_is_0 23 rfl rfl)
theorem dX6_is_24 : decode cX6_is 24 = .ok (.aload_n 0, 1) := dk_42 (dk_at dksX6_is_1 0 rfl rfl)
theorem dX6_is_25 : decode cX6_is 25 = .ok (.getfield 64, 3) := dk_180 0 64 (dk_at dksX6_is_1 1 rfl rfl)
theorem dX6_is_28 : decode cX6_is 28 = .ok (.if_icmp .ge 33, 3) := dk_162 0 33 (dk_at dksX6_is_1 4 rfl rfl)
theorem dX6_is_31 : decode cX6_is 31 = .ok (.aload_n 0, 1) := dk_42 (dk_at dksX6_is_1 7 rfl rfl)
theorem dX6_is_32 : decode cX6_is 32 = .ok (.getfield 3, 3) := dk_180 0 3 (dk_at dksX6_is_1 8 rfl rfl)
theorem dX6_is_35 : decode cX6_is 35 = .ok (.getfield 28, 3) := dk_180 0 28 (dk_at dksX6_is_1 11 rfl rfl)
theorem dX6_is_38 : decode cX6_is 38 = .ok (.aload_n 0, 1) := dk_42 (dk_at dksX6_is_1 14 rfl rfl)
theorem dX6_is_39 : decode cX6_is 39 = .ok (.getfield 40, 3) := dk_180 0 40 (dk_at dksX6_is_1 15 rfl rfl)
theorem dX6_is_42 : decode cX6_is 42 = .ok (.iload_n 2, 1) := dk_28 (dk_at dksX6_is_1 18 rfl rfl)
theorem dX6_is_43 : decode cX6_is 43 = .ok (.iadd, 1) := dk_96 (dk_at dksX6_is_1 19 rfl rfl)
theorem dX6_is_44 : decode cX6_is 44 = .ok (.baload, 1) := dk_51 (dk_at dksX6_is_1 20 rfl rfl)
theorem dX6_is_45 : decode cX6_is 45 = .ok (.aload_n 1, 1) := dk_43 (dk_at dksX6_is_1 21 rfl rfl)
theorem dX6_is_46 : decode cX6_is 46 = .ok (.iload_n 2, 1) := dk_28 (dk_at dksX6_is_1 22 rfl rfl)
theorem dX6_is_47 : decode cX6_is 47 = .ok (.invokevirtual 72, 3) := dk_182 0 72 (dk_at dksX6_is_2 0 rfl rfl)
theorem dX6_is_50 : decode cX6_is 50 = .ok (.if_icmp .eq 5, 3) := dk_159 0 5 (dk_at dksX6_is_2 3 rfl rfl)
theorem dX6_is_53 : decode cX6_is 53 = .ok (.iconst 0, 1) := dk_3 (dk_at dksX6_is_2 6 rfl rfl)
theorem dX6_is_54 : decode cX6_is 54 = .ok (.ireturn, 1) := dk_172 (dk_at dksX6_is_2 7 rfl rfl)
theorem dX6_is_55 : decode cX6_is 55 = .ok (.iinc 2 1, 3) := dk_132 2 1 (dk_at dksX6_is_2 8 rfl rfl)
theorem dX6_is_58 : decode cX6_is 58 = .ok (.goto (-35), 3) := dk_167 255 221 (dk_at dksX6_is_2 11 rfl rfl)
theorem dX6_is_61 : decode cX6_is 61 = .ok (.iconst 1, 1) := dk_4 (dk_at dksX6_is_2 14 rfl rfl)
theorem dX6_is_62 : decode cX6_is 62 = .ok (.ireturn, 1) := dk_172 (dk_at dksX6_is_2 15 rfl rfl)
abbrev cX6_must : ByteArray := prog_13_method_13_code
def yX6_must : MethodName := ⟨RX6, "must", "(ZI)V"⟩
def dkwX6_must_0 : List UInt8 := [27, 154, 0, 13, 42, 28, 42, 180, 0, 40, 182, 0, 106, 191, 177]
abbrev dktX6_must_0 : List UInt8 := dkwX6_must_0 ++ []
theorem dksX6_must_0 : cX6_must.data.toList.drop 0 = dktX6_must_0 := by decide +kernel
theorem dX6_must_0 : decode cX6_must 0 = .ok (.iload_n 1, 1) := dk_27 (dk_at dksX6_must_0 0 rfl rfl)
theorem dX6_must_1 : decode cX6_must 1 = .ok (.ifCond .ne 13, 3) := dk_154 0 13 (dk_at dksX6_must_0 1 rfl rfl)
theorem dX6_must_4 : decode cX6_must 4 = .ok (.aload_n 0, 1) := dk_42 (dk_at dksX6_must_0 4 rfl rfl)
theorem dX6_must_5 : decode cX6_must 5 = .ok (.iload_n 2, 1) := dk_28 (dk_at dksX6_must_0 5 rfl rfl)
theorem dX6_must_6 : decode cX6_must 6 = .ok (.aload_n 0, 1) := dk_42 (dk_at dksX6_must_0 6 rfl rfl)
theorem dX6_must_7 : decode cX6_must 7 = .ok (.getfield 40, 3) := dk_180 0 40 (dk_at dksX6_must_0 7 rfl rfl)
theorem dX6_must_10 : decode cX6_must 10 = .ok (.invokevirtual 106, 3) := dk_182 0 106 (dk_at dksX6_must_0 10 rfl rfl)
theorem dX6_must_13 : decode cX6_must 13 = .ok (.athrow, 1) := dk_191 (dk_at dksX6_must_0 13 rfl rfl)
theorem dX6_must_14 : decode cX6_must 14 = .ok (.return_, 1) := dk_177 (dk_at dksX6_must_0 14 rfl rfl)
abbrev cX6_wrong : ByteArray := prog_13_method_12_code
def yX6_wrong : MethodName := ⟨RX6, "wrong", "(II)LCombTable$Fault;"⟩
def dkwX6_wrong_1 : List UInt8 := [180, 0, 3, 180, 0, 94, 176]
abbrev dktX6_wrong_1 : List UInt8 := dkwX6_wrong_1 ++ []
def dkwX6_wrong_0 : List UInt8 := [42, 180, 0, 3, 180, 0, 94, 27, 181, 0, 98, 42, 180, 0, 3, 180, 0, 94, 28, 181, 0, 103, 42]
abbrev dktX6_wrong_0 : List UInt8 := dkwX6_wrong_0 ++ dktX6_wrong_1
theorem dksX6_wrong_0 : cX6_wrong.data.toList.drop 0 = dktX6_wrong_0 := by decide +kernel
theorem dksX6_wrong_1 : cX6_wrong.data.toList.drop 23 = dktX6_wrong_1 := dk_seg dksX6_wrong_0 23 rfl rfl
theorem dX6_wrong_0 : decode cX6_wrong 0 = .ok (.aload_n 0, 1) := dk_42 (dk_at dksX6_wrong_0 0 rfl rfl)
theorem dX6_wrong_1 : decode cX6_wrong 1 = .ok (.getfield 3, 3) := dk_180 0 3 (dk_at dksX6_wrong_0 1 rfl rfl)
theorem dX6_wrong_4 : decode cX6_wrong 4 = .ok (.getfield 94, 3) := dk_180 0 94 (dk_at dksX6_wrong_0 4 rfl rfl)
theorem dX6_wrong_7 : decode cX6_wrong 7 = .ok (.iload_n 1, 1) := dk_27 (dk_at dksX6_wrong_0 7 rfl rfl)
theorem dX6_wrong_8 : decode cX6_wrong 8 = .ok (.putfield 98, 3) := dk_181 0 98 (dk_at dksX6_wrong_0 8 rfl rfl)
theorem dX6_wrong_11 : decode cX6_wrong 11 = .ok (.aload_n 0, 1) := dk_42 (dk_at dksX6_wrong_0 11 rfl rfl)
theorem dX6_wrong_12 : decode cX6_wrong 12 = .ok (.getfield 3, 3) := dk_180 0 3 (dk_at dksX6_wrong_0 12 rfl rfl)
theorem dX6_wrong_15 : decode cX6_wrong 15 = .ok (.getfield 94, 3) := dk_180 0 94 (dk_at dksX6_wrong_0 15 rfl rfl)
theorem dX6_wrong_18 : decode cX6_wrong 18 = .ok (.iload_n 2, 1) := dk_28 (dk_at dksX6_wrong_0 18 rfl rfl)
theorem dX6_wrong_19 : decode cX6_wrong 19 = .ok (.putfield 103, 3) := dk_181 0 103 (dk_at dksX6_wrong_0 19 rfl rfl)
theorem dX6_wrong_22 : decode cX6_wrong 22 = .ok (.aload_n 0, 1) := dk_42 (dk_at dksX6_wrong_0 22 rfl rfl)
theorem dX6_wrong_23 : decode cX6_wrong 23 = .ok (.getfield 3, 3) := dk_180 0 3 (dk_at dksX6_wrong_1 0 rfl rfl)
theorem dX6_wrong_26 : decode cX6_wrong 26 = .ok (.getfield 94, 3) := dk_180 0 94 (dk_at dksX6_wrong_1 3 rfl rfl)
theorem dX6_wrong_29 : decode cX6_wrong 29 = .ok (.areturn, 1) := dk_176 (dk_at dksX6_wrong_1 6 rfl rfl)
abbrev cX6_isName : ByteArray := prog_13_method_11_code
def yX6_isName : MethodName := ⟨RX6, "isName", "()Z"⟩
def dkwX6_isName_2 : List UInt8 := [182, 0, 84, 2, 160, 0, 7, 4, 167, 0, 4, 3, 172]
abbrev dktX6_isName_2 : List UInt8 := dkwX6_isName_2 ++ []
def dkwX6_isName_1 : List UInt8 := [42, 180, 0, 3, 180, 0, 88, 182, 0, 84, 2, 160, 0, 22, 42, 42, 180, 0, 3, 180, 0, 91]
abbrev dktX6_isName_1 : List UInt8 := dkwX6_isName_1 ++ dktX6_isName_2
def dkwX6_isName_0 : List UInt8 := [42, 180, 0, 43, 4, 160, 0, 52, 42, 42, 180, 0, 3, 180, 0, 80, 182, 0, 84, 2, 160, 0, 37, 42]
abbrev dktX6_isName_0 : List UInt8 := dkwX6_isName_0 ++ dktX6_isName_1
theorem dksX6_isName_0 : cX6_isName.data.toList.drop 0 = dktX6_isName_0 := by decide +kernel
theorem dksX6_isName_1 : cX6_isName.data.toList.drop 24 = dktX6_isName_1 := dk_seg dksX6_isName_0 24 rfl rfl
theorem dksX6_isName_2 : cX6_isName.data.toList.drop 46 = dktX6_isName_2 := dk_seg dksX6_isName_1 22 rfl rfl
theorem dX6_isName_0 : decode cX6_isName 0 = .ok (.aload_n 0, 1) := dk_42 (dk_at dksX6_isName_0 0 rfl rfl)
theorem dX6_isName_1 : decode cX6_isName 1 = .ok (.getfield 43, 3) := dk_180 0 43 (dk_at dksX6_isName_0 1 rfl rfl)
theorem dX6_isName_4 : decode cX6_isName 4 = .ok (.iconst 1, 1) := dk_4 (dk_at dksX6_isName_0 4 rfl rfl)
theorem dX6_isName_5 : decode cX6_isName 5 = .ok (.if_icmp .ne 52, 3) := dk_160 0 52 (dk_at dksX6_isName_0 5 rfl rfl)
theorem dX6_isName_8 : decode cX6_isName 8 = .ok (.aload_n 0, 1) := dk_42 (dk_at dksX6_isName_0 8 rfl rfl)
theorem dX6_isName_9 : decode cX6_isName 9 = .ok (.aload_n 0, 1) := dk_42 (dk_at dksX6_isName_0 9 rfl rfl)
theorem dX6_isName_10 : decode cX6_isName 10 = .ok (.getfield 3, 3) := dk_180 0 3 (dk_at dksX6_isName_0 10 rfl rfl)
theorem dX6_isName_13 : decode cX6_isName 13 = .ok (.getfield 80, 3) := dk_180 0 80 (dk_at dksX6_isName_0 13 rfl rfl)
theorem dX6_isName_16 : decode cX6_isName 16 = .ok (.invokevirtual 84, 3) := dk_182 0 84 (dk_at dksX6_isName_0 16 rfl rfl)
theorem dX6_isName_19 : decode cX6_isName 19 = .ok (.iconst (-1), 1) := dk_2 (dk_at dksX6_isName_0 19 rfl rfl)
theorem dX6_isName_20 : decode cX6_isName 20 = .ok (.if_icmp .ne 37, 3) := dk_160 0 37 (dk_at dksX6_isName_0 20 rfl rfl)
theorem dX6_isName_23 : decode cX6_isName 23 = .ok (.aload_n 0, 1) := dk_42 (dk_at dksX6_isName_0 23 rfl rfl)
theorem dX6_isName_24 : decode cX6_isName 24 = .ok (.aload_n 0, 1) := dk_42 (dk_at dksX6_isName_1 0 rfl rfl)
theorem dX6_isName_25 : decode cX6_isName 25 = .ok (.getfield 3, 3) := dk_180 0 3 (dk_at dksX6_isName_1 1 rfl rfl)
theorem dX6_isName_28 : decode cX6_isName 28 = .ok (.getfield 88, 3) := dk_180 0 88 (dk_at dksX6_isName_1 4 rfl rfl)
theorem dX6_isName_31 : decode cX6_isName 31 = .ok (.invokevirtual 84, 3) := dk_182 0 84 (dk_at dksX6_isName_1 7 rfl rfl)
theorem dX6_isName_34 : decode cX6_isName 34 = .ok (.iconst (-1), 1) := dk_2 (dk_at dksX6_isName_1 10 rfl rfl)
theorem dX6_isName_35 : decode cX6_isName 35 = .ok (.if_icmp .ne 22, 3) := dk_160 0 22 (dk_at dksX6_isName_1 11 rfl rfl)
theorem dX6_isName_38 : decode cX6_isName 38 = .ok (.aload_n 0, 1) := dk_42 (dk_at dksX6_isName_1 14 rfl rfl)
theorem dX6_isName_39 : decode cX6_isName 39 = .ok (.aload_n 0, 1) := dk_42 (dk_at dksX6_isName_1 15 rfl rfl)
theorem dX6_isName_40 : decode cX6_isName 40 = .ok (.getfield 3, 3) := dk_180 0 3 (dk_at dksX6_isName_1 16 rfl rfl)
theorem dX6_isName_43 : decode cX6_isName 43 = .ok (.getfield 91, 3) := dk_180 0 91 (dk_at dksX6_isName_1 19 rfl rfl)
theorem dX6_isName_46 : decode cX6_isName 46 = .ok (.invokevirtual 84, 3) := dk_182 0 84 (dk_at dksX6_isName_2 0 rfl rfl)
theorem dX6_isName_49 : decode cX6_isName 49 = .ok (.iconst (-1), 1) := dk_2 (dk_at dksX6_isName_2 3 rfl rfl)
theorem dX6_isName_50 : decode cX6_isName 50 = .ok (.if_icmp .ne 7, 3) := dk_160 0 7 (dk_at dksX6_isName_2 4 rfl rfl)
theorem dX6_isName_53 : decode cX6_isName 53 = .ok (.iconst 1, 1) := dk_4 (dk_at dksX6_isName_2 7 rfl rfl)
theorem dX6_isName_54 : decode cX6_isName 54 = .ok (.goto 4, 3) := dk_167 0 4 (dk_at dksX6_isName_2 8 rfl rfl)
theorem dX6_isName_57 : decode cX6_isName 57 = .ok (.iconst 0, 1) := dk_3 (dk_at dksX6_isName_2 11 rfl rfl)
theorem dX6_isName_58 : decode cX6_isName 58 = .ok (.ireturn, 1) := dk_172 (dk_at dksX6_isName_2 12 rfl rfl)
abbrev cX6_of : ByteArray := prog_13_method_16_code
def yX6_of : MethodName := ⟨RX6, "of", "([LCombTable$Named;I)I"⟩
def dkwX6_of_1 : List UInt8 := [132, 3, 1, 167, 255, 232, 2, 172]
abbrev dktX6_of_1 : List UInt8 := dkwX6_of_1 ++ []
def dkwX6_of_0 : List UInt8 := [3, 62, 29, 28, 162, 0, 25, 43, 29, 50, 180, 0, 116, 42, 180, 0, 60, 148, 154, 0, 5, 29, 172]
abbrev dktX6_of_0 : List UInt8 := dkwX6_of_0 ++ dktX6_of_1
theorem dksX6_of_0 : cX6_of.data.toList.drop 0 = dktX6_of_0 := by decide +kernel
theorem dksX6_of_1 : cX6_of.data.toList.drop 23 = dktX6_of_1 := dk_seg dksX6_of_0 23 rfl rfl
theorem dX6_of_0 : decode cX6_of 0 = .ok (.iconst 0, 1) := dk_3 (dk_at dksX6_of_0 0 rfl rfl)
theorem dX6_of_1 : decode cX6_of 1 = .ok (.istore_n 3, 1) := dk_62 (dk_at dksX6_of_0 1 rfl rfl)
theorem dX6_of_2 : decode cX6_of 2 = .ok (.iload_n 3, 1) := dk_29 (dk_at dksX6_of_0 2 rfl rfl)
theorem dX6_of_3 : decode cX6_of 3 = .ok (.iload_n 2, 1) := dk_28 (dk_at dksX6_of_0 3 rfl rfl)
theorem dX6_of_4 : decode cX6_of 4 = .ok (.if_icmp .ge 25, 3) := dk_162 0 25 (dk_at dksX6_of_0 4 rfl rfl)
theorem dX6_of_7 : decode cX6_of 7 = .ok (.aload_n 1, 1) := dk_43 (dk_at dksX6_of_0 7 rfl rfl)
theorem dX6_of_8 : decode cX6_of 8 = .ok (.iload_n 3, 1) := dk_29 (dk_at dksX6_of_0 8 rfl rfl)
theorem dX6_of_9 : decode cX6_of 9 = .ok (.aaload, 1) := dk_50 (dk_at dksX6_of_0 9 rfl rfl)
theorem dX6_of_10 : decode cX6_of 10 = .ok (.getfield 116, 3) := dk_180 0 116 (dk_at dksX6_of_0 10 rfl rfl)
theorem dX6_of_13 : decode cX6_of 13 = .ok (.aload_n 0, 1) := dk_42 (dk_at dksX6_of_0 13 rfl rfl)
theorem dX6_of_14 : decode cX6_of 14 = .ok (.getfield 60, 3) := dk_180 0 60 (dk_at dksX6_of_0 14 rfl rfl)
theorem dX6_of_17 : decode cX6_of 17 = .ok (.lcmp, 1) := dk_148 (dk_at dksX6_of_0 17 rfl rfl)
theorem dX6_of_18 : decode cX6_of 18 = .ok (.ifCond .ne 5, 3) := dk_154 0 5 (dk_at dksX6_of_0 18 rfl rfl)
theorem dX6_of_21 : decode cX6_of 21 = .ok (.iload_n 3, 1) := dk_29 (dk_at dksX6_of_0 21 rfl rfl)
theorem dX6_of_22 : decode cX6_of 22 = .ok (.ireturn, 1) := dk_172 (dk_at dksX6_of_0 22 rfl rfl)
theorem dX6_of_23 : decode cX6_of 23 = .ok (.iinc 3 1, 3) := dk_132 3 1 (dk_at dksX6_of_1 0 rfl rfl)
theorem dX6_of_26 : decode cX6_of 26 = .ok (.goto (-24), 3) := dk_167 255 232 (dk_at dksX6_of_1 3 rfl rfl)
theorem dX6_of_29 : decode cX6_of 29 = .ok (.iconst (-1), 1) := dk_2 (dk_at dksX6_of_1 6 rfl rfl)
theorem dX6_of_30 : decode cX6_of 30 = .ok (.ireturn, 1) := dk_172 (dk_at dksX6_of_1 7 rfl rfl)
abbrev cX6_number : ByteArray := prog_13_method_15_code
def yX6_number : MethodName := ⟨RX6, "number", "(II)I"⟩
def dkwX6_number_1 : List UInt8 := [28, 184, 0, 32, 5, 182, 0, 112, 42, 180, 0, 57, 62, 42, 182, 0, 22, 29, 172]
abbrev dktX6_number_1 : List UInt8 := dkwX6_number_1 ++ []
def dkwX6_number_0 : List UInt8 := [42, 42, 180, 0, 43, 5, 160, 0, 7, 4, 167, 0, 4, 3, 4, 182, 0, 112, 42, 42, 180, 0, 57, 27]
abbrev dktX6_number_0 : List UInt8 := dkwX6_number_0 ++ dktX6_number_1
theorem dksX6_number_0 : cX6_number.data.toList.drop 0 = dktX6_number_0 := by decide +kernel
theorem dksX6_number_1 : cX6_number.data.toList.drop 24 = dktX6_number_1 := dk_seg dksX6_number_0 24 rfl rfl
theorem dX6_number_0 : decode cX6_number 0 = .ok (.aload_n 0, 1) := dk_42 (dk_at dksX6_number_0 0 rfl rfl)
theorem dX6_number_1 : decode cX6_number 1 = .ok (.aload_n 0, 1) := dk_42 (dk_at dksX6_number_0 1 rfl rfl)
theorem dX6_number_2 : decode cX6_number 2 = .ok (.getfield 43, 3) := dk_180 0 43 (dk_at dksX6_number_0 2 rfl rfl)
theorem dX6_number_5 : decode cX6_number 5 = .ok (.iconst 2, 1) := dk_5 (dk_at dksX6_number_0 5 rfl rfl)
theorem dX6_number_6 : decode cX6_number 6 = .ok (.if_icmp .ne 7, 3) := dk_160 0 7 (dk_at dksX6_number_0 6 rfl rfl)
theorem dX6_number_9 : decode cX6_number 9 = .ok (.iconst 1, 1) := dk_4 (dk_at dksX6_number_0 9 rfl rfl)
theorem dX6_number_10 : decode cX6_number 10 = .ok (.goto 4, 3) := dk_167 0 4 (dk_at dksX6_number_0 10 rfl rfl)
theorem dX6_number_13 : decode cX6_number 13 = .ok (.iconst 0, 1) := dk_3 (dk_at dksX6_number_0 13 rfl rfl)
theorem dX6_number_14 : decode cX6_number 14 = .ok (.iconst 1, 1) := dk_4 (dk_at dksX6_number_0 14 rfl rfl)
theorem dX6_number_15 : decode cX6_number 15 = .ok (.invokevirtual 112, 3) := dk_182 0 112 (dk_at dksX6_number_0 15 rfl rfl)
theorem dX6_number_18 : decode cX6_number 18 = .ok (.aload_n 0, 1) := dk_42 (dk_at dksX6_number_0 18 rfl rfl)
theorem dX6_number_19 : decode cX6_number 19 = .ok (.aload_n 0, 1) := dk_42 (dk_at dksX6_number_0 19 rfl rfl)
theorem dX6_number_20 : decode cX6_number 20 = .ok (.getfield 57, 3) := dk_180 0 57 (dk_at dksX6_number_0 20 rfl rfl)
theorem dX6_number_23 : decode cX6_number 23 = .ok (.iload_n 1, 1) := dk_27 (dk_at dksX6_number_0 23 rfl rfl)
theorem dX6_number_24 : decode cX6_number 24 = .ok (.iload_n 2, 1) := dk_28 (dk_at dksX6_number_1 0 rfl rfl)
theorem dX6_number_25 : decode cX6_number 25 = .ok (.invokestatic 32, 3) := dk_184 0 32 (dk_at dksX6_number_1 1 rfl rfl)
theorem dX6_number_28 : decode cX6_number 28 = .ok (.iconst 2, 1) := dk_5 (dk_at dksX6_number_1 4 rfl rfl)
theorem dX6_number_29 : decode cX6_number 29 = .ok (.invokevirtual 112, 3) := dk_182 0 112 (dk_at dksX6_number_1 5 rfl rfl)
theorem dX6_number_32 : decode cX6_number 32 = .ok (.aload_n 0, 1) := dk_42 (dk_at dksX6_number_1 8 rfl rfl)
theorem dX6_number_33 : decode cX6_number 33 = .ok (.getfield 57, 3) := dk_180 0 57 (dk_at dksX6_number_1 9 rfl rfl)
theorem dX6_number_36 : decode cX6_number 36 = .ok (.istore_n 3, 1) := dk_62 (dk_at dksX6_number_1 12 rfl rfl)
theorem dX6_number_37 : decode cX6_number 37 = .ok (.aload_n 0, 1) := dk_42 (dk_at dksX6_number_1 13 rfl rfl)
theorem dX6_number_38 : decode cX6_number 38 = .ok (.invokevirtual 22, 3) := dk_182 0 22 (dk_at dksX6_number_1 14 rfl rfl)
theorem dX6_number_41 : decode cX6_number 41 = .ok (.iload_n 3, 1) := dk_29 (dk_at dksX6_number_1 17 rfl rfl)
theorem dX6_number_42 : decode cX6_number 42 = .ok (.ireturn, 1) := dk_172 (dk_at dksX6_number_1 18 rfl rfl)
abbrev cX6_known : ByteArray := prog_13_method_17_code
def yX6_known : MethodName := ⟨RX6, "known", "([LCombTable$Named;I)I"⟩
def dkwX6_known_1 : List UInt8 := [167, 0, 4, 3, 6, 182, 0, 112, 42, 182, 0, 22, 29, 172]
abbrev dktX6_known_1 : List UInt8 := dkwX6_known_1 ++ []
def dkwX6_known_0 : List UInt8 := [42, 42, 182, 0, 119, 4, 182, 0, 112, 42, 43, 28, 182, 0, 123, 62, 42, 29, 2, 159, 0, 7, 4]
abbrev dktX6_known_0 : List UInt8 := dkwX6_known_0 ++ dktX6_known_1
theorem dksX6_known_0 : cX6_known.data.toList.drop 0 = dktX6_known_0 := by decide +kernel
theorem dksX6_known_1 : cX6_known.data.toList.drop 23 = dktX6_known_1 := dk_seg dksX6_known_0 23 rfl rfl
theorem dX6_known_0 : decode cX6_known 0 = .ok (.aload_n 0, 1) := dk_42 (dk_at dksX6_known_0 0 rfl rfl)
theorem dX6_known_1 : decode cX6_known 1 = .ok (.aload_n 0, 1) := dk_42 (dk_at dksX6_known_0 1 rfl rfl)
theorem dX6_known_2 : decode cX6_known 2 = .ok (.invokevirtual 119, 3) := dk_182 0 119 (dk_at dksX6_known_0 2 rfl rfl)
theorem dX6_known_5 : decode cX6_known 5 = .ok (.iconst 1, 1) := dk_4 (dk_at dksX6_known_0 5 rfl rfl)
theorem dX6_known_6 : decode cX6_known 6 = .ok (.invokevirtual 112, 3) := dk_182 0 112 (dk_at dksX6_known_0 6 rfl rfl)
theorem dX6_known_9 : decode cX6_known 9 = .ok (.aload_n 0, 1) := dk_42 (dk_at dksX6_known_0 9 rfl rfl)
theorem dX6_known_10 : decode cX6_known 10 = .ok (.aload_n 1, 1) := dk_43 (dk_at dksX6_known_0 10 rfl rfl)
theorem dX6_known_11 : decode cX6_known 11 = .ok (.iload_n 2, 1) := dk_28 (dk_at dksX6_known_0 11 rfl rfl)
theorem dX6_known_12 : decode cX6_known 12 = .ok (.invokevirtual 123, 3) := dk_182 0 123 (dk_at dksX6_known_0 12 rfl rfl)
theorem dX6_known_15 : decode cX6_known 15 = .ok (.istore_n 3, 1) := dk_62 (dk_at dksX6_known_0 15 rfl rfl)
theorem dX6_known_16 : decode cX6_known 16 = .ok (.aload_n 0, 1) := dk_42 (dk_at dksX6_known_0 16 rfl rfl)
theorem dX6_known_17 : decode cX6_known 17 = .ok (.iload_n 3, 1) := dk_29 (dk_at dksX6_known_0 17 rfl rfl)
theorem dX6_known_18 : decode cX6_known 18 = .ok (.iconst (-1), 1) := dk_2 (dk_at dksX6_known_0 18 rfl rfl)
theorem dX6_known_19 : decode cX6_known 19 = .ok (.if_icmp .eq 7, 3) := dk_159 0 7 (dk_at dksX6_known_0 19 rfl rfl)
theorem dX6_known_22 : decode cX6_known 22 = .ok (.iconst 1, 1) := dk_4 (dk_at dksX6_known_0 22 rfl rfl)
theorem dX6_known_23 : decode cX6_known 23 = .ok (.goto 4, 3) := dk_167 0 4 (dk_at dksX6_known_1 0 rfl rfl)
theorem dX6_known_26 : decode cX6_known 26 = .ok (.iconst 0, 1) := dk_3 (dk_at dksX6_known_1 3 rfl rfl)
theorem dX6_known_27 : decode cX6_known 27 = .ok (.iconst 3, 1) := dk_6 (dk_at dksX6_known_1 4 rfl rfl)
theorem dX6_known_28 : decode cX6_known 28 = .ok (.invokevirtual 112, 3) := dk_182 0 112 (dk_at dksX6_known_1 5 rfl rfl)
theorem dX6_known_31 : decode cX6_known 31 = .ok (.aload_n 0, 1) := dk_42 (dk_at dksX6_known_1 8 rfl rfl)
theorem dX6_known_32 : decode cX6_known 32 = .ok (.invokevirtual 22, 3) := dk_182 0 22 (dk_at dksX6_known_1 9 rfl rfl)
theorem dX6_known_35 : decode cX6_known 35 = .ok (.iload_n 3, 1) := dk_29 (dk_at dksX6_known_1 12 rfl rfl)
theorem dX6_known_36 : decode cX6_known 36 = .ok (.ireturn, 1) := dk_172 (dk_at dksX6_known_1 13 rfl rfl)
abbrev cX6_sign : ByteArray := prog_13_method_14_code
def yX6_sign : MethodName := ⟨RX6, "sign", "(I)V"⟩
def dkwX6_sign_0 : List UInt8 := [42, 42, 27, 182, 0, 110, 4, 182, 0, 112, 42, 182, 0, 22, 177]
abbrev dktX6_sign_0 : List UInt8 := dkwX6_sign_0 ++ []
theorem dksX6_sign_0 : cX6_sign.data.toList.drop 0 = dktX6_sign_0 := by decide +kernel
theorem dX6_sign_0 : decode cX6_sign 0 = .ok (.aload_n 0, 1) := dk_42 (dk_at dksX6_sign_0 0 rfl rfl)
theorem dX6_sign_1 : decode cX6_sign 1 = .ok (.aload_n 0, 1) := dk_42 (dk_at dksX6_sign_0 1 rfl rfl)
theorem dX6_sign_2 : decode cX6_sign 2 = .ok (.iload_n 1, 1) := dk_27 (dk_at dksX6_sign_0 2 rfl rfl)
theorem dX6_sign_3 : decode cX6_sign 3 = .ok (.invokevirtual 110, 3) := dk_182 0 110 (dk_at dksX6_sign_0 3 rfl rfl)
theorem dX6_sign_6 : decode cX6_sign 6 = .ok (.iconst 1, 1) := dk_4 (dk_at dksX6_sign_0 6 rfl rfl)
theorem dX6_sign_7 : decode cX6_sign 7 = .ok (.invokevirtual 112, 3) := dk_182 0 112 (dk_at dksX6_sign_0 7 rfl rfl)
theorem dX6_sign_10 : decode cX6_sign 10 = .ok (.aload_n 0, 1) := dk_42 (dk_at dksX6_sign_0 10 rfl rfl)
theorem dX6_sign_11 : decode cX6_sign 11 = .ok (.invokevirtual 22, 3) := dk_182 0 22 (dk_at dksX6_sign_0 11 rfl rfl)
theorem dX6_sign_14 : decode cX6_sign 14 = .ok (.return_, 1) := dk_177 (dk_at dksX6_sign_0 14 rfl rfl)
abbrev cX6_is_2 : ByteArray := prog_13_method_9_code
def yX6_is_2 : MethodName := ⟨RX6, "is", "(I)Z"⟩
def dkwX6_is_2_0 : List UInt8 := [42, 180, 0, 43, 6, 160, 0, 15, 42, 180, 0, 57, 27, 160, 0, 7, 4, 167, 0, 4, 3, 172]
abbrev dktX6_is_2_0 : List UInt8 := dkwX6_is_2_0 ++ []
theorem dksX6_is_2_0 : cX6_is_2.data.toList.drop 0 = dktX6_is_2_0 := by decide +kernel
theorem dX6_is_2_0 : decode cX6_is_2 0 = .ok (.aload_n 0, 1) := dk_42 (dk_at dksX6_is_2_0 0 rfl rfl)
theorem dX6_is_2_1 : decode cX6_is_2 1 = .ok (.getfield 43, 3) := dk_180 0 43 (dk_at dksX6_is_2_0 1 rfl rfl)
theorem dX6_is_2_4 : decode cX6_is_2 4 = .ok (.iconst 3, 1) := dk_6 (dk_at dksX6_is_2_0 4 rfl rfl)
theorem dX6_is_2_5 : decode cX6_is_2 5 = .ok (.if_icmp .ne 15, 3) := dk_160 0 15 (dk_at dksX6_is_2_0 5 rfl rfl)
theorem dX6_is_2_8 : decode cX6_is_2 8 = .ok (.aload_n 0, 1) := dk_42 (dk_at dksX6_is_2_0 8 rfl rfl)
theorem dX6_is_2_9 : decode cX6_is_2 9 = .ok (.getfield 57, 3) := dk_180 0 57 (dk_at dksX6_is_2_0 9 rfl rfl)
theorem dX6_is_2_12 : decode cX6_is_2 12 = .ok (.iload_n 1, 1) := dk_27 (dk_at dksX6_is_2_0 12 rfl rfl)
theorem dX6_is_2_13 : decode cX6_is_2 13 = .ok (.if_icmp .ne 7, 3) := dk_160 0 7 (dk_at dksX6_is_2_0 13 rfl rfl)
theorem dX6_is_2_16 : decode cX6_is_2 16 = .ok (.iconst 1, 1) := dk_4 (dk_at dksX6_is_2_0 16 rfl rfl)
theorem dX6_is_2_17 : decode cX6_is_2 17 = .ok (.goto 4, 3) := dk_167 0 4 (dk_at dksX6_is_2_0 17 rfl rfl)
theorem dX6_is_2_20 : decode cX6_is_2 20 = .ok (.iconst 0, 1) := dk_3 (dk_at dksX6_is_2_0 20 rfl rfl)
theorem dX6_is_2_21 : decode cX6_is_2 21 = .ok (.ireturn, 1) := dk_172 (dk_at dksX6_is_2_0 21 rfl rfl)
theorem q97 : (Jvm.Cond.initialized "CombTable$Reader") ∈ lw_all := lw_g (lw_at lw_m1 8 rfl) rfl
theorem q177 : (Jvm.Cond.fieldLink "CombTable$Reader" (98 : Nat) "CombTable$Fault" "kind" "I") ∈ lw_all := lw_g (lw_at lw_m1 88 rfl) rfl
theorem q179 : (Jvm.Cond.fieldLink "CombTable$Reader" (103 : Nat) "CombTable$Fault" "place" "I") ∈ lw_all := lw_g (lw_at lw_m1 90 rfl) rfl
theorem q375 : (Jvm.Cond.instanceMethod ({ cls := "CombTable$Reader", name := "<init>", desc := "(LCombTable;I)V" } : Jvm.MethodName)) ∈ lw_all := lw_g (lw_at lw_m2 46 rfl) rfl
theorem q376 : (Jvm.Cond.code ({ cls := "CombTable$Reader", name := "<init>", desc := "(LCombTable;I)V" } : Jvm.MethodName) prog_13_method_1_code (3 : Nat) (Option.none : Option Jvm.ClassFile.FieldType)) ∈ lw_all := lw_g (lw_at lw_m2 47 rfl) rfl
theorem q377 : (Jvm.Cond.methodLink "CombTable$Reader" (9 : Nat) ({ cls := "java/lang/Object", name := "<init>", desc := "()V" } : Jvm.MethodName)) ∈ lw_all := lw_g (lw_at lw_m2 48 rfl) rfl
theorem q381 : (Jvm.Cond.fieldLink "CombTable$Reader" (15 : Nat) "CombTable$Reader" "most" "I") ∈ lw_all := lw_g (lw_at lw_m2 52 rfl) rfl
theorem q382 : (Jvm.Cond.fieldLink "CombTable$Reader" (19 : Nat) "CombTable$Reader" "p" "I") ∈ lw_all := lw_g (lw_at lw_m2 53 rfl) rfl
theorem q385 : (Jvm.Cond.fieldLink "CombTable$Reader" (40 : Nat) "CombTable$Reader" "at" "I") ∈ lw_all := lw_g (lw_at lw_m2 56 rfl) rfl
theorem q394 : (Jvm.Cond.fieldLink "CombTable$Reader" (43 : Nat) "CombTable$Reader" "token" "I") ∈ lw_all := lw_g (lw_at lw_m2 65 rfl) rfl
theorem q397 : (Jvm.Cond.fieldLink "CombTable$Reader" (57 : Nat) "CombTable$Reader" "value" "I") ∈ lw_all := lw_g (lw_at lw_m2 68 rfl) rfl
theorem q398 : (Jvm.Cond.fieldLink "CombTable$Reader" (64 : Nat) "CombTable$Reader" "many" "I") ∈ lw_all := lw_g (lw_at lw_m2 69 rfl) rfl
theorem q401 : (Jvm.Cond.fieldLink "CombTable$Reader" (60 : Nat) "CombTable$Reader" "name" "J") ∈ lw_all := lw_g (lw_at lw_m2 72 rfl) rfl
theorem q402 : (Jvm.Cond.fieldLink "CombTable$Reader" (3 : Nat) "CombTable$Reader" "this$0" "LCombTable;") ∈ lw_all := lw_g (lw_at lw_m2 73 rfl) rfl
theorem q410 : (Jvm.Cond.soleField "CombTable$Reader" "most") ∈ lw_all := lw_g (lw_at lw_m2 81 rfl) rfl
theorem q412 : (Jvm.Cond.soleField "CombTable$Reader" "p") ∈ lw_all := lw_g (lw_at lw_m2 83 rfl) rfl
theorem q414 : (Jvm.Cond.soleField "CombTable$Reader" "at") ∈ lw_all := lw_g (lw_at lw_m2 85 rfl) rfl
theorem q416 : (Jvm.Cond.soleField "CombTable$Reader" "token") ∈ lw_all := lw_g (lw_at lw_m2 87 rfl) rfl
theorem q418 : (Jvm.Cond.soleField "CombTable$Reader" "value") ∈ lw_all := lw_g (lw_at lw_m2 89 rfl) rfl
theorem q420 : (Jvm.Cond.soleField "CombTable$Reader" "many") ∈ lw_all := lw_g (lw_at lw_m2 91 rfl) rfl
theorem q422 : (Jvm.Cond.soleField "CombTable$Reader" "name") ∈ lw_all := lw_g (lw_at lw_m2 93 rfl) rfl
theorem q424 : (Jvm.Cond.soleField "CombTable$Reader" "this$0") ∈ lw_all := lw_g (lw_at lw_m2 95 rfl) rfl
theorem q510 : (Jvm.Cond.fieldLinkNest "CombTable$Reader" (28 : Nat) "CombTable" "tape" "[B" "CombTable") ∈ lw_tbl := lw_at lw_m2 181 rfl
theorem q512 : (Jvm.Cond.fieldLinkNest "CombTable$Reader" (25 : Nat) "CombTable" "size" "I" "CombTable") ∈ lw_tbl := lw_at lw_m2 183 rfl
theorem q515 : (Jvm.Cond.fieldLinkNest "CombTable$Reader" (94 : Nat) "CombTable" "broken" "LCombTable$Fault;" "CombTable") ∈ lw_tbl := lw_at lw_m2 186 rfl
theorem q518 : (Jvm.Cond.fieldLinkNest "CombTable$Reader" (80 : Nat) "CombTable" "lines" "[Ljava/lang/String;" "CombTable") ∈ lw_tbl := lw_at lw_m2 189 rfl
theorem q520 : (Jvm.Cond.fieldLinkNest "CombTable$Reader" (88 : Nat) "CombTable" "words" "[Ljava/lang/String;" "CombTable") ∈ lw_tbl := lw_at lw_m2 191 rfl
theorem q523 : (Jvm.Cond.fieldLinkNest "CombTable$Reader" (91 : Nat) "CombTable" "does" "[Ljava/lang/String;" "CombTable") ∈ lw_tbl := lw_at lw_m2 194 rfl
theorem q661 : (Jvm.Cond.declares ({ cls := "CombTable$Reader", name := "begin", desc := "()V" } : Jvm.MethodName)) ∈ lw_tbl := lw_at lw_m3 92 rfl
theorem q663 : (Jvm.Cond.instanceMethod ({ cls := "CombTable$Reader", name := "begin", desc := "()V" } : Jvm.MethodName)) ∈ lw_all := lw_g (lw_at lw_m3 94 rfl) rfl
theorem q664 : (Jvm.Cond.code ({ cls := "CombTable$Reader", name := "begin", desc := "()V" } : Jvm.MethodName) prog_13_method_2_code (1 : Nat) (Option.none : Option Jvm.ClassFile.FieldType)) ∈ lw_all := lw_g (lw_at lw_m3 95 rfl) rfl
theorem q665 : (Jvm.Cond.methodLink "CombTable$Reader" (22 : Nat) ({ cls := "CombTable$Reader", name := "next", desc := "()V" } : Jvm.MethodName)) ∈ lw_all := lw_g (lw_at lw_m3 96 rfl) rfl
theorem q666 : (Jvm.Cond.instanceMethod ({ cls := "CombTable$Reader", name := "next", desc := "()V" } : Jvm.MethodName)) ∈ lw_all := lw_g (lw_at lw_m3 97 rfl) rfl
theorem q667 : (Jvm.Cond.sameMethod "CombTable$Reader" "CombTable$Reader" "next" "()V") ∈ lw_all := lw_g (lw_at lw_m3 98 rfl) rfl
theorem q672 : (Jvm.Cond.code ({ cls := "CombTable$Reader", name := "next", desc := "()V" } : Jvm.MethodName) prog_13_method_6_code (2 : Nat) (Option.none : Option Jvm.ClassFile.FieldType)) ∈ lw_all := lw_g (lw_at lw_m3 103 rfl) rfl
theorem q673 : (Jvm.Cond.methodLink "CombTable$Reader" (36 : Nat) ({ cls := "CombTable$Reader", name := "peek", desc := "()I" } : Jvm.MethodName)) ∈ lw_all := lw_g (lw_at lw_m3 104 rfl) rfl
theorem q674 : (Jvm.Cond.privateMethod ({ cls := "CombTable$Reader", name := "peek", desc := "()I" } : Jvm.MethodName)) ∈ lw_tbl := lw_at lw_m3 105 rfl
theorem q675 : (Jvm.Cond.instanceMethod ({ cls := "CombTable$Reader", name := "peek", desc := "()I" } : Jvm.MethodName)) ∈ lw_all := lw_g (lw_at lw_m3 106 rfl) rfl
theorem q676 : (Jvm.Cond.code ({ cls := "CombTable$Reader", name := "peek", desc := "()I" } : Jvm.MethodName) prog_13_method_3_code (1 : Nat) (Option.some Jvm.ClassFile.FieldType.int)) ∈ lw_all := lw_g (lw_at lw_m3 107 rfl) rfl
theorem q677 : (Jvm.Cond.methodLink "CombTable$Reader" (46 : Nat) ({ cls := "CombTable$Reader", name := "isLetter", desc := "(I)Z" } : Jvm.MethodName)) ∈ lw_all := lw_g (lw_at lw_m3 108 rfl) rfl
theorem q678 : (Jvm.Cond.privateMethod ({ cls := "CombTable$Reader", name := "isLetter", desc := "(I)Z" } : Jvm.MethodName)) ∈ lw_tbl := lw_at lw_m3 109 rfl
theorem q679 : (Jvm.Cond.instanceMethod ({ cls := "CombTable$Reader", name := "isLetter", desc := "(I)Z" } : Jvm.MethodName)) ∈ lw_all := lw_g (lw_at lw_m3 110 rfl) rfl
theorem q680 : (Jvm.Cond.code ({ cls := "CombTable$Reader", name := "isLetter", desc := "(I)Z" } : Jvm.MethodName) prog_13_method_4_code (2 : Nat) (Option.some Jvm.ClassFile.FieldType.boolean)) ∈ lw_all := lw_g (lw_at lw_m3 111 rfl) rfl
theorem q681 : (Jvm.Cond.methodLinkNest "CombTable$Reader" (32 : Nat) ({ cls := "CombTable", name := "isIn", desc := "(III)Z" } : Jvm.MethodName) "CombTable") ∈ lw_tbl := lw_at lw_m3 112 rfl
theorem q684 : (Jvm.Cond.methodLink "CombTable$Reader" (50 : Nat) ({ cls := "CombTable$Reader", name := "isDigit", desc := "(I)Z" } : Jvm.MethodName)) ∈ lw_all := lw_g (lw_at lw_m3 115 rfl) rfl
theorem q685 : (Jvm.Cond.privateMethod ({ cls := "CombTable$Reader", name := "isDigit", desc := "(I)Z" } : Jvm.MethodName)) ∈ lw_tbl := lw_at lw_m3 116 rfl
theorem q686 : (Jvm.Cond.instanceMethod ({ cls := "CombTable$Reader", name := "isDigit", desc := "(I)Z" } : Jvm.MethodName)) ∈ lw_all := lw_g (lw_at lw_m3 117 rfl) rfl
theorem q687 : (Jvm.Cond.code ({ cls := "CombTable$Reader", name := "isDigit", desc := "(I)Z" } : Jvm.MethodName) prog_13_method_5_code (2 : Nat) (Option.some Jvm.ClassFile.FieldType.boolean)) ∈ lw_all := lw_g (lw_at lw_m3 118 rfl) rfl
theorem q688 : (Jvm.Cond.methodLink "CombTable$Reader" (53 : Nat) ({ cls := "CombTable$Reader", name := "run", desc := "(Z)V" } : Jvm.MethodName)) ∈ lw_all := lw_g (lw_at lw_m3 119 rfl) rfl
theorem q689 : (Jvm.Cond.privateMethod ({ cls := "CombTable$Reader", name := "run", desc := "(Z)V" } : Jvm.MethodName)) ∈ lw_tbl := lw_at lw_m3 120 rfl
theorem q690 : (Jvm.Cond.instanceMethod ({ cls := "CombTable$Reader", name := "run", desc := "(Z)V" } : Jvm.MethodName)) ∈ lw_all := lw_g (lw_at lw_m3 121 rfl) rfl
theorem q691 : (Jvm.Cond.code ({ cls := "CombTable$Reader", name := "run", desc := "(Z)V" } : Jvm.MethodName) prog_13_method_7_code (3 : Nat) (Option.none : Option Jvm.ClassFile.FieldType)) ∈ lw_all := lw_g (lw_at lw_m3 122 rfl) rfl
theorem q694 : (Jvm.Cond.declares ({ cls := "CombTable$Reader", name := "find", desc := "([Ljava/lang/String;)I" } : Jvm.MethodName)) ∈ lw_tbl := lw_at lw_m3 125 rfl
theorem q696 : (Jvm.Cond.instanceMethod ({ cls := "CombTable$Reader", name := "find", desc := "([Ljava/lang/String;)I" } : Jvm.MethodName)) ∈ lw_all := lw_g (lw_at lw_m3 127 rfl) rfl
theorem q697 : (Jvm.Cond.code ({ cls := "CombTable$Reader", name := "find", desc := "([Ljava/lang/String;)I" } : Jvm.MethodName) prog_13_method_10_code (3 : Nat) (Option.some Jvm.ClassFile.FieldType.int)) ∈ lw_all := lw_g (lw_at lw_m3 128 rfl) rfl
theorem q698 : (Jvm.Cond.methodLink "CombTable$Reader" (76 : Nat) ({ cls := "CombTable$Reader", name := "is", desc := "(Ljava/lang/String;)Z" } : Jvm.MethodName)) ∈ lw_all := lw_g (lw_at lw_m3 129 rfl) rfl
theorem q699 : (Jvm.Cond.instanceMethod ({ cls := "CombTable$Reader", name := "is", desc := "(Ljava/lang/String;)Z" } : Jvm.MethodName)) ∈ lw_all := lw_g (lw_at lw_m3 130 rfl) rfl
theorem q700 : (Jvm.Cond.sameMethod "CombTable$Reader" "CombTable$Reader" "is" "(Ljava/lang/String;)Z") ∈ lw_all := lw_g (lw_at lw_m3 131 rfl) rfl
theorem q705 : (Jvm.Cond.code ({ cls := "CombTable$Reader", name := "is", desc := "(Ljava/lang/String;)Z" } : Jvm.MethodName) prog_13_method_8_code (3 : Nat) (Option.some Jvm.ClassFile.FieldType.boolean)) ∈ lw_all := lw_g (lw_at lw_m3 136 rfl) rfl
theorem q706 : (Jvm.Cond.methodLink "CombTable$Reader" (67 : Nat) ({ cls := "java/lang/String", name := "length", desc := "()I" } : Jvm.MethodName)) ∈ lw_all := lw_g (lw_at lw_m3 137 rfl) rfl
theorem q716 : (Jvm.Cond.methodLink "CombTable$Reader" (72 : Nat) ({ cls := "java/lang/String", name := "charAt", desc := "(I)C" } : Jvm.MethodName)) ∈ lw_all := lw_g (lw_at lw_m3 147 rfl) rfl
theorem q756 : (Jvm.Cond.declares ({ cls := "CombTable$Reader", name := "must", desc := "(ZI)V" } : Jvm.MethodName)) ∈ lw_tbl := lw_at lw_m3 187 rfl
theorem q758 : (Jvm.Cond.instanceMethod ({ cls := "CombTable$Reader", name := "must", desc := "(ZI)V" } : Jvm.MethodName)) ∈ lw_all := lw_g (lw_at lw_m3 189 rfl) rfl
theorem q759 : (Jvm.Cond.code ({ cls := "CombTable$Reader", name := "must", desc := "(ZI)V" } : Jvm.MethodName) prog_13_method_13_code (3 : Nat) (Option.none : Option Jvm.ClassFile.FieldType)) ∈ lw_all := lw_g (lw_at lw_m3 190 rfl) rfl
theorem q760 : (Jvm.Cond.methodLink "CombTable$Reader" (106 : Nat) ({ cls := "CombTable$Reader", name := "wrong", desc := "(II)LCombTable$Fault;" } : Jvm.MethodName)) ∈ lw_all := lw_g (lw_at lw_m3 191 rfl) rfl
theorem q761 : (Jvm.Cond.instanceMethod ({ cls := "CombTable$Reader", name := "wrong", desc := "(II)LCombTable$Fault;" } : Jvm.MethodName)) ∈ lw_all := lw_g (lw_at lw_m3 192 rfl) rfl
theorem q762 : (Jvm.Cond.sameMethod "CombTable$Reader" "CombTable$Reader" "wrong" "(II)LCombTable$Fault;") ∈ lw_all := lw_g (lw_at lw_m3 193 rfl) rfl
theorem q767 : (Jvm.Cond.code ({ cls := "CombTable$Reader", name := "wrong", desc := "(II)LCombTable$Fault;" } : Jvm.MethodName) prog_13_method_12_code (3 : Nat) (Option.some (Jvm.ClassFile.FieldType.object "CombTable$Fault"))) ∈ lw_all := lw_g (lw_at lw_m3 198 rfl) rfl
theorem q770 : (Jvm.Cond.declares ({ cls := "CombTable$Reader", name := "next", desc := "()V" } : Jvm.MethodName)) ∈ lw_tbl := lw_at lw_m3 201 rfl
theorem q782 : (Jvm.Cond.declares ({ cls := "CombTable$Reader", name := "isName", desc := "()Z" } : Jvm.MethodName)) ∈ lw_tbl := lw_at lw_m3 213 rfl
theorem q784 : (Jvm.Cond.instanceMethod ({ cls := "CombTable$Reader", name := "isName", desc := "()Z" } : Jvm.MethodName)) ∈ lw_all := lw_g (lw_at lw_m3 215 rfl) rfl
theorem q785 : (Jvm.Cond.code ({ cls := "CombTable$Reader", name := "isName", desc := "()Z" } : Jvm.MethodName) prog_13_method_11_code (1 : Nat) (Option.some Jvm.ClassFile.FieldType.boolean)) ∈ lw_all := lw_g (lw_at lw_m3 216 rfl) rfl
theorem q786 : (Jvm.Cond.methodLink "CombTable$Reader" (84 : Nat) ({ cls := "CombTable$Reader", name := "find", desc := "([Ljava/lang/String;)I" } : Jvm.MethodName)) ∈ lw_all := lw_g (lw_at lw_m3 217 rfl) rfl
theorem q789 : (Jvm.Cond.declares ({ cls := "CombTable$Reader", name := "of", desc := "([LCombTable$Named;I)I" } : Jvm.MethodName)) ∈ lw_tbl := lw_at lw_m3 220 rfl
theorem q791 : (Jvm.Cond.instanceMethod ({ cls := "CombTable$Reader", name := "of", desc := "([LCombTable$Named;I)I" } : Jvm.MethodName)) ∈ lw_all := lw_g (lw_at lw_m3 222 rfl) rfl
theorem q792 : (Jvm.Cond.code ({ cls := "CombTable$Reader", name := "of", desc := "([LCombTable$Named;I)I" } : Jvm.MethodName) prog_13_method_16_code (4 : Nat) (Option.some Jvm.ClassFile.FieldType.int)) ∈ lw_all := lw_g (lw_at lw_m3 223 rfl) rfl
theorem q797 : (Jvm.Cond.declares ({ cls := "CombTable$Reader", name := "number", desc := "(II)I" } : Jvm.MethodName)) ∈ lw_tbl := lw_at lw_m3 228 rfl
theorem q799 : (Jvm.Cond.instanceMethod ({ cls := "CombTable$Reader", name := "number", desc := "(II)I" } : Jvm.MethodName)) ∈ lw_all := lw_g (lw_at lw_m3 230 rfl) rfl
theorem q800 : (Jvm.Cond.code ({ cls := "CombTable$Reader", name := "number", desc := "(II)I" } : Jvm.MethodName) prog_13_method_15_code (4 : Nat) (Option.some Jvm.ClassFile.FieldType.int)) ∈ lw_all := lw_g (lw_at lw_m3 231 rfl) rfl
theorem q801 : (Jvm.Cond.methodLink "CombTable$Reader" (112 : Nat) ({ cls := "CombTable$Reader", name := "must", desc := "(ZI)V" } : Jvm.MethodName)) ∈ lw_all := lw_g (lw_at lw_m3 232 rfl) rfl
theorem q813 : (Jvm.Cond.fieldLink "CombTable$Reader" (116 : Nat) "CombTable$Named" "name" "J") ∈ lw_all := lw_g (lw_at lw_m4 4 rfl) rfl
theorem q854 : (Jvm.Cond.declares ({ cls := "CombTable$Reader", name := "is", desc := "(Ljava/lang/String;)Z" } : Jvm.MethodName)) ∈ lw_tbl := lw_at lw_m4 45 rfl
theorem q859 : (Jvm.Cond.declares ({ cls := "CombTable$Reader", name := "known", desc := "([LCombTable$Named;I)I" } : Jvm.MethodName)) ∈ lw_tbl := lw_at lw_m4 50 rfl
theorem q861 : (Jvm.Cond.instanceMethod ({ cls := "CombTable$Reader", name := "known", desc := "([LCombTable$Named;I)I" } : Jvm.MethodName)) ∈ lw_all := lw_g (lw_at lw_m4 52 rfl) rfl
theorem q862 : (Jvm.Cond.code ({ cls := "CombTable$Reader", name := "known", desc := "([LCombTable$Named;I)I" } : Jvm.MethodName) prog_13_method_17_code (4 : Nat) (Option.some Jvm.ClassFile.FieldType.int)) ∈ lw_all := lw_g (lw_at lw_m4 53 rfl) rfl
theorem q863 : (Jvm.Cond.methodLink "CombTable$Reader" (119 : Nat) ({ cls := "CombTable$Reader", name := "isName", desc := "()Z" } : Jvm.MethodName)) ∈ lw_all := lw_g (lw_at lw_m4 54 rfl) rfl
theorem q864 : (Jvm.Cond.methodLink "CombTable$Reader" (123 : Nat) ({ cls := "CombTable$Reader", name := "of", desc := "([LCombTable$Named;I)I" } : Jvm.MethodName)) ∈ lw_all := lw_g (lw_at lw_m4 55 rfl) rfl
theorem q874 : (Jvm.Cond.declares ({ cls := "CombTable$Reader", name := "sign", desc := "(I)V" } : Jvm.MethodName)) ∈ lw_tbl := lw_at lw_m4 65 rfl
theorem q876 : (Jvm.Cond.instanceMethod ({ cls := "CombTable$Reader", name := "sign", desc := "(I)V" } : Jvm.MethodName)) ∈ lw_all := lw_g (lw_at lw_m4 67 rfl) rfl
theorem q877 : (Jvm.Cond.code ({ cls := "CombTable$Reader", name := "sign", desc := "(I)V" } : Jvm.MethodName) prog_13_method_14_code (2 : Nat) (Option.none : Option Jvm.ClassFile.FieldType)) ∈ lw_all := lw_g (lw_at lw_m4 68 rfl) rfl
theorem q878 : (Jvm.Cond.methodLink "CombTable$Reader" (110 : Nat) ({ cls := "CombTable$Reader", name := "is", desc := "(I)Z" } : Jvm.MethodName)) ∈ lw_all := lw_g (lw_at lw_m4 69 rfl) rfl
theorem q879 : (Jvm.Cond.instanceMethod ({ cls := "CombTable$Reader", name := "is", desc := "(I)Z" } : Jvm.MethodName)) ∈ lw_all := lw_g (lw_at lw_m4 70 rfl) rfl
theorem q880 : (Jvm.Cond.sameMethod "CombTable$Reader" "CombTable$Reader" "is" "(I)Z") ∈ lw_all := lw_g (lw_at lw_m4 71 rfl) rfl
theorem q885 : (Jvm.Cond.code ({ cls := "CombTable$Reader", name := "is", desc := "(I)Z" } : Jvm.MethodName) prog_13_method_9_code (2 : Nat) (Option.some Jvm.ClassFile.FieldType.boolean)) ∈ lw_all := lw_g (lw_at lw_m4 76 rfl) rfl
theorem q986 : (Jvm.Cond.declares ({ cls := "CombTable$Reader", name := "wrong", desc := "(II)LCombTable$Fault;" } : Jvm.MethodName)) ∈ lw_tbl := lw_at lw_m4 177 rfl
theorem q1238 : (Jvm.Cond.declares ({ cls := "CombTable$Reader", name := "is", desc := "(I)Z" } : Jvm.MethodName)) ∈ lw_tbl := lw_at lw_m5 189 rfl
theorem q2025 : (Jvm.Cond.sameMethod "CombTable$Reader" "CombTable$Reader" "peek" "()I") ∈ lw_all := lw_g (lw_at lw_m9 16 rfl) rfl
theorem q2026 : (Jvm.Cond.sameMethod "CombTable$Reader" "CombTable$Reader" "isLetter" "(I)Z") ∈ lw_all := lw_g (lw_at lw_m9 17 rfl) rfl
theorem q2027 : (Jvm.Cond.sameMethod "CombTable$Reader" "CombTable$Reader" "isDigit" "(I)Z") ∈ lw_all := lw_g (lw_at lw_m9 18 rfl) rfl
theorem q2028 : (Jvm.Cond.sameMethod "CombTable$Reader" "CombTable$Reader" "run" "(Z)V") ∈ lw_all := lw_g (lw_at lw_m9 19 rfl) rfl
theorem q2029 : (Jvm.Cond.sameMethod "CombTable$Reader" "CombTable$Reader" "find" "([Ljava/lang/String;)I") ∈ lw_all := lw_g (lw_at lw_m9 20 rfl) rfl
theorem q2034 : (Jvm.Cond.sameMethod "CombTable$Reader" "CombTable$Reader" "must" "(ZI)V") ∈ lw_all := lw_g (lw_at lw_m9 25 rfl) rfl
theorem q2039 : (Jvm.Cond.sameMethod "CombTable$Reader" "CombTable$Reader" "isName" "()Z") ∈ lw_all := lw_g (lw_at lw_m9 30 rfl) rfl
theorem q2044 : (Jvm.Cond.sameMethod "CombTable$Reader" "CombTable$Reader" "of" "([LCombTable$Named;I)I") ∈ lw_all := lw_g (lw_at lw_m9 35 rfl) rfl

/-! CombTable$TableReader -/
set_option maxRecDepth 100000
def RX7 : String := "CombTable$TableReader"
def TX7 : u_T := fun k => match k with
  | 0 => ("CombTable$Reader", "most", "I", true)
  | 1 => ("CombTable$Reader", "p", "I", false)
  | 2 => ("CombTable$Reader", "at", "I", false)
  | 3 => ("CombTable$Reader", "token", "I", false)
  | 4 => ("CombTable$Reader", "value", "I", false)
  | 5 => ("CombTable$Reader", "many", "I", false)
  | 6 => ("CombTable$Reader", "name", "J", false)
  | 7 => ("CombTable$Reader", "this$0", "LCombTable;", true)
  | 8 => ("CombTable$TableReader", "x", "LCombTable$Table;", false)
  | 9 => ("CombTable$TableReader", "hasComb", "Z", false)
  | _ => ("CombTable$TableReader", "this$0", "LCombTable;", true)
def tyX7 : Nat → FieldType := fun k => match k with
  | 0 => .int
  | 1 => .int
  | 2 => .int
  | 3 => .int
  | 4 => .int
  | 5 => .int
  | 6 => .long
  | 7 => .object "CombTable"
  | 8 => .object "CombTable$Table"
  | 9 => .boolean
  | _ => .object "CombTable"
abbrev wsX70 : List Cond := u_ws RX7 TX7 11
-- two fields of one name: no nmX7
theorem tyX7_ok : ∀ k, k < 11 → parseFieldDescriptor (TX7 k).2.2.1 = some (tyX7 k) := by decide +kernel
abbrev cX7_init : ByteArray := prog_16_method_1_code
def yX7_init : MethodName := ⟨RX7, "<init>", "(LCombTable;)V"⟩
def dkwX7_init_0 : List UInt8 := [42, 43, 181, 0, 3, 42, 43, 17, 3, 132, 183, 0, 9, 177]
abbrev dktX7_init_0 : List UInt8 := dkwX7_init_0 ++ []
theorem dksX7_init_0 : cX7_init.data.toList.drop 0 = dktX7_init_0 := by decide +kernel
theorem dX7_init_0 : decode cX7_init 0 = .ok (.aload_n 0, 1) := dk_42 (dk_at dksX7_init_0 0 rfl rfl)
theorem dX7_init_1 : decode cX7_init 1 = .ok (.aload_n 1, 1) := dk_43 (dk_at dksX7_init_0 1 rfl rfl)
theorem dX7_init_2 : decode cX7_init 2 = .ok (.putfield 3, 3) := dk_181 0 3 (dk_at dksX7_init_0 2 rfl rfl)
theorem dX7_init_5 : decode cX7_init 5 = .ok (.aload_n 0, 1) := dk_42 (dk_at dksX7_init_0 5 rfl rfl)
theorem dX7_init_6 : decode cX7_init 6 = .ok (.aload_n 1, 1) := dk_43 (dk_at dksX7_init_0 6 rfl rfl)
theorem dX7_init_7 : decode cX7_init 7 = .ok (.sipush 900, 3) := dk_17 3 132 (dk_at dksX7_init_0 7 rfl rfl)
theorem dX7_init_10 : decode cX7_init 10 = .ok (.invokespecial 9, 3) := dk_183 0 9 (dk_at dksX7_init_0 10 rfl rfl)
theorem dX7_init_13 : decode cX7_init 13 = .ok (.return_, 1) := dk_177 (dk_at dksX7_init_0 13 rfl rfl)
abbrev cX7_read : ByteArray := prog_16_method_2_code
def yX7_read : MethodName := ⟨RX7, "read", "(LCombTable$Table;)I"⟩
def dkwX7_read_9 : List UInt8 := [167, 255, 60, 28, 172]
abbrev dktX7_read_9 : List UInt8 := dkwX7_read_9 ++ []
def dkwX7_read_8 : List UInt8 := [3, 7, 182, 0, 39, 42, 182, 0, 60, 42, 29, 182, 0, 63, 42, 16, 59, 182, 0, 67, 132, 2, 1]
abbrev dktX7_read_8 : List UInt8 := dkwX7_read_8 ++ dktX7_read_9
def dkwX7_read_7 : List UInt8 := [167, 0, 25, 29, 5, 160, 0, 15, 42, 180, 0, 15, 180, 0, 57, 16, 40, 162, 0, 7, 4, 167, 0, 4]
abbrev dktX7_read_7 : List UInt8 := dkwX7_read_7 ++ dktX7_read_8
def dkwX7_read_6 : List UInt8 := [29, 4, 160, 0, 23, 42, 180, 0, 15, 180, 0, 54, 16, 10, 162, 0, 7, 4, 167, 0, 29, 3]
abbrev dktX7_read_6 : List UInt8 := dkwX7_read_6 ++ dktX7_read_7
def dkwX7_read_5 : List UInt8 := [29, 154, 0, 23, 42, 180, 0, 15, 180, 0, 51, 16, 8, 162, 0, 7, 4, 167, 0, 54, 3, 167, 0, 50]
abbrev dktX7_read_5 : List UInt8 := dkwX7_read_5 ++ dktX7_read_6
def dkwX7_read_4 : List UInt8 := [8, 160, 0, 13, 42, 180, 0, 15, 180, 0, 48, 154, 0, 7, 4, 167, 0, 4, 3, 6, 182, 0, 39, 42]
abbrev dktX7_read_4 : List UInt8 := dkwX7_read_4 ++ dktX7_read_5
def dkwX7_read_3 : List UInt8 := [29, 7, 160, 0, 21, 42, 180, 0, 15, 180, 0, 43, 154, 0, 7, 4, 167, 0, 27, 3, 167, 0, 23, 29]
abbrev dktX7_read_3 : List UInt8 := dkwX7_read_3 ++ dktX7_read_4
def dkwX7_read_2 : List UInt8 := [182, 0, 39, 42, 29, 6, 160, 0, 18, 42, 180, 0, 19, 154, 0, 7, 4, 167, 0, 50, 3, 167, 0, 46]
abbrev dktX7_read_2 : List UInt8 := dkwX7_read_2 ++ dktX7_read_3
def dkwX7_read_1 : List UInt8 := [42, 180, 0, 3, 180, 0, 31, 182, 0, 35, 62, 42, 29, 2, 159, 0, 7, 4, 167, 0, 4, 3, 4]
abbrev dktX7_read_1 : List UInt8 := dkwX7_read_1 ++ dktX7_read_2
def dkwX7_read_0 : List UInt8 := [42, 43, 181, 0, 15, 42, 3, 181, 0, 19, 3, 61, 42, 182, 0, 23, 42, 180, 0, 27, 153, 0, 195, 42]
abbrev dktX7_read_0 : List UInt8 := dkwX7_read_0 ++ dktX7_read_1
theorem dksX7_read_0 : cX7_read.data.toList.drop 0 = dktX7_read_0 := by decide +kernel
theorem dksX7_read_1 : cX7_read.data.toList.drop 24 = dktX7_read_1 := dk_seg dksX7_read_0 24 rfl rfl
theorem dksX7_read_2 : cX7_read.data.toList.drop 47 = dktX7_read_2 := dk_seg dksX7_read_1 23 rfl rfl
theorem dksX7_read_3 : cX7_read.data.toList.drop 71 = dktX7_read_3 := dk_seg dksX7_read_2 24 rfl rfl
theorem dksX7_read_4 : cX7_read.data.toList.drop 95 = dktX7_read_4 := dk_seg dksX7_read_3 24 rfl rfl
theorem dksX7_read_5 : cX7_read.data.toList.drop 119 = dktX7_read_5 := dk_seg dksX7_read_4 24 rfl rfl
theorem dksX7_read_6 : cX7_read.data.toList.drop 143 = dktX7_read_6 := dk_seg dksX7_read_5 24 rfl rfl
theorem dksX7_read_7 : cX7_read.data.toList.drop 165 = dktX7_read_7 := dk_seg dksX7_read_6 22 rfl rfl
theorem dksX7_read_8 : cX7_read.data.toList.drop 189 = dktX7_read_8 := dk_seg dksX7_read_7 24 rfl rfl
theorem dksX7_read_9 : cX7_read.data.toList.drop 212 = dktX7_read_9 := dk_seg dksX7_read_8 23 rfl rfl
theorem dX7_read_0 : decode cX7_read 0 = .ok (.aload_n 0, 1) := dk_42 (dk_at dksX7_read_0 0 rfl rfl)
theorem dX7_read_1 : decode cX7_read 1 = .ok (.aload_n 1, 1) := dk_43 (dk_at dksX7_read_0 1 rfl rfl)
theorem dX7_read_2 : decode cX7_read 2 = .ok (.putfield 15, 3) := dk_181 0 15 (dk_at dksX7_read_0 2 rfl rfl)
theorem dX7_read_5 : decode cX7_read 5 = .ok (.aload_n 0, 1) := dk_42 (dk_at dksX7_read_0 5 rfl rfl)
theorem dX7_read_6 : decode cX7_read 6 = .ok (.iconst 0, 1) := dk_3 (dk_at dksX7_read_0 6 rfl rfl)
theorem dX7_read_7 : decode cX7_read 7 = .ok (.putfield 19, 3) := dk_181 0 19 (dk_at dksX7_read_0 7 rfl rfl)
theorem dX7_read_10 : decode cX7_read 10 = .ok (.iconst 0, 1) := dk_3 (dk_at dksX7_read_0 10 rfl rfl)
theorem dX7_read_11 : decode cX7_read 11 = .ok (.istore_n 2, 1) := dk_61 (dk_at dksX7_read_0 11 rfl rfl)
theorem dX7_read_12 : decode cX7_read 12 = .ok (.aload_n 0, 1) := dk_42 (dk_at dksX7_read_0 12 rfl rfl)
theorem dX7_read_13 : decode cX7_read 13 = .ok (.invokevirtual 23, 3) := dk_182 0 23 (dk_at dksX7_read_0 13 rfl rfl)
theorem dX7_read_16 : decode cX7_read 16 = .ok (.aload_n 0, 1) := dk_42 (dk_at dksX7_read_0 16 rfl rfl)
theorem dX7_read_17 : decode cX7_read 17 = .ok (.getfield 27, 3) := dk_180 0 27 (dk_at dksX7_read_0 17 rfl rfl)
theorem dX7_read_20 : decode cX7_read 20 = .ok (.ifCond .eq 195, 3) := dk_153 0 195 (dk_at dksX7_read_0 20 rfl rfl)
theorem dX7_read_23 : decode cX7_read 23 = .ok (.aload_n 0, 1) := dk_42 (dk_at dksX7_read_0 23 rfl rfl)
theorem dX7_read_24 : decode cX7_read 24 = .ok (.aload_n 0, 1) := dk_42 (dk_at dksX7_read_1 0 rfl rfl)
theorem dX7_read_25 : decode cX7_read 25 = .ok (.getfield 3, 3) := dk_180 0 3 (dk_at dksX7_read_1 1 rfl rfl)
theorem dX7_read_28 : decode cX7_read 28 = .ok (.getfield 31, 3) := dk_180 0 31 (dk_at dksX7_read_1 4 rfl rfl)
theorem dX7_read_31 : decode cX7_read 31 = .ok (.invokevirtual 35, 3) := dk_182 0 35 (dk_at dksX7_read_1 7 rfl rfl)
theorem dX7_read_34 : decode cX7_read 34 = .ok (.istore_n 3, 1) := dk_62 (dk_at dksX7_read_1 10 rfl rfl)
theorem dX7_read_35 : decode cX7_read 35 = .ok (.aload_n 0, 1) := dk_42 (dk_at dksX7_read_1 11 rfl rfl)
theorem dX7_read_36 : decode cX7_read 36 = .ok (.iload_n 3, 1) := dk_29 (dk_at dksX7_read_1 12 rfl rfl)
theorem dX7_read_37 : decode cX7_read 37 = .ok (.iconst (-1), 1) := dk_2 (dk_at dksX7_read_1 13 rfl rfl)
theorem dX7_read_38 : decode cX7_read 38 = .ok (.if_icmp .eq 7, 3) := dk_159 0 7 (dk_at dksX7_read_1 14 rfl rfl)
theorem dX7_read_41 : decode cX7_read 41 = .ok (.iconst 1, 1) := dk_4 (dk_at dksX7_read_1 17 rfl rfl)
theorem dX7_read_42 : decode cX7_read 42 = .ok (.goto 4, 3) := dk_167 0 4 (dk_at dksX7_read_1 18 rfl rfl)
theorem dX7_read_45 : decode cX7_read 45 = .ok (.iconst 0, 1) := dk_3 (dk_at dksX7_read_1 21 rfl rfl)
theorem dX7_read_46 : decode cX7_read 46 = .ok (.iconst 1, 1) := dk_4 (dk_at dksX7_read_1 22 rfl rfl)
theorem dX7_read_47 : decode cX7_read 47 = .ok (.invokevirtual 39, 3) := dk_182 0 39 (dk_at dksX7_read_2 0 rfl rfl)
theorem dX7_read_50 : decode cX7_read 50 = .ok (.aload_n 0, 1) := dk_42 (dk_at dksX7_read_2 3 rfl rfl)
theorem dX7_read_51 : decode cX7_read 51 = .ok (.iload_n 3, 1) := dk_29 (dk_at dksX7_read_2 4 rfl rfl)
theorem dX7_read_52 : decode cX7_read 52 = .ok (.iconst 3, 1) := dk_6 (dk_at dksX7_read_2 5 rfl rfl)
theorem dX7_read_53 : decode cX7_read 53 = .ok (.if_icmp .ne 18, 3) := dk_160 0 18 (dk_at dksX7_read_2 6 rfl rfl)
theorem dX7_read_56 : decode cX7_read 56 = .ok (.aload_n 0, 1) := dk_42 (dk_at dksX7_read_2 9 rfl rfl)
theorem dX7_read_57 : decode cX7_read 57 = .ok (.getfield 19, 3) := dk_180 0 19 (dk_at dksX7_read_2 10 rfl rfl)
theorem dX7_read_60 : decode cX7_read 60 = .ok (.ifCond .ne 7, 3) := dk_154 0 7 (dk_at dksX7_read_2 13 rfl rfl)
theorem dX7_read_63 : decode cX7_read 63 = .ok (.iconst 1, 1) := dk_4 (dk_at dksX7_read_2 16 rfl rfl)
theorem dX7_read_64 : decode cX7_read 64 = .ok (.goto 50, 3) := dk_167 0 50 (dk_at dksX7_read_2 17 rfl rfl)
theorem dX7_read_67 : decode cX7_read 67 = .ok (.iconst 0, 1) := dk_3 (dk_at dksX7_read_2 20 rfl rfl)
theorem dX7_read_68 : decode cX7_read 68 = .ok (.goto 46, 3) := dk_167 0 46 (dk_at dksX7_read_2 21 rfl rfl)
theorem dX7_read_71 : decode cX7_read 71 = .ok (.iload_n 3, 1) := dk_29 (dk_at dksX7_read_3 0 rfl rfl)
theorem dX7_read_72 : decode cX7_read 72 = .ok (.iconst 4, 1) := dk_7 (dk_at dksX7_read_3 1 rfl rfl)
theorem dX7_read_73 : decode cX7_read 73 = .ok (.if_icmp .ne 21, 3) := dk_160 0 21 (dk_at dksX7_read_3 2 rfl rfl)
theorem dX7_read_76 : decode cX7_read 76 = .ok (.aload_n 0, 1) := dk_42 (dk_at dksX7_read_3 5 rfl rfl)
theorem dX7_read_77 : decode cX7_read 77 = .ok (.getfield 15, 3) := dk_180 0 15 (dk_at dksX7_read_3 6 rfl rfl)
theorem dX7_read_80 : decode cX7_read 80 = .ok (.getfield 43, 3) := dk_180 0 43 (dk_at dksX7_read_3 9 rfl rfl)
theorem dX7_read_83 : decode cX7_read 83 = .ok (.ifCond .ne 7, 3) := dk_154 0 7 (dk_at dksX7_read_3 12 rfl rfl)
theorem dX7_read_86 : decode cX7_read 86 = .ok (.iconst 1, 1) := dk_4 (dk_at dksX7_read_3 15 rfl rfl)
theorem dX7_read_87 : decode cX7_read 87 = .ok (.goto 27, 3) := dk_167 0 27 (dk_at dksX7_read_3 16 rfl rfl)
theorem dX7_read_90 : decode cX7_read 90 = .ok (.iconst 0, 1) := dk_3 (dk_at dksX7_read_3 19 rfl rfl)
theorem dX7_read_91 : decode cX7_read 91 = .ok (.goto 23, 3) := dk_167 0 23 (dk_at dksX7_read_3 20 rfl rfl)
theorem dX7_read_94 : decode cX7_read 94 = .ok (.iload_n 3, 1) := dk_29 (dk_at dksX7_read_3 23 rfl rfl)
theorem dX7_read_95 : decode cX7_read 95 = .ok (.iconst 5, 1) := dk_8 (dk_at dksX7_read_4 0 rfl rfl)
theorem dX7_read_96 : decode cX7_read 96 = .ok (.if_icmp .ne 13, 3) := dk_160 0 13 (dk_at dksX7_read_4 1 rfl rfl)
theorem dX7_read_99 : decode cX7_read 99 = .ok (.aload_n 0, 1) := dk_42 (dk_at dksX7_read_4 4 rfl rfl)
theorem dX7_read_100 : decode cX7_read 100 = .ok (.getfield 15, 3) := dk_180 0 15 (dk_at dksX7_read_4 5 rfl rfl)
theorem dX7_read_103 : decode cX7_read 103 = .ok (.getfield 48, 3) := dk_180 0 48 (dk_at dksX7_read_4 8 rfl rfl)
theorem dX7_read_106 : decode cX7_read 106 = .ok (.ifCond .ne 7, 3) := dk_154 0 7 (dk_at dksX7_read_4 11 rfl rfl)
theorem dX7_read_109 : decode cX7_read 109 = .ok (.iconst 1, 1) := dk_4 (dk_at dksX7_read_4 14 rfl rfl)
theorem dX7_read_110 : decode cX7_read 110 = .ok (.goto 4, 3) := dk_167 0 4 (dk_at dksX7_read_4 15 rfl rfl)
theorem dX7_read_113 : decode cX7_read 113 = .ok (.iconst 0, 1) := dk_3 (dk_at dksX7_read_4 18 rfl rfl)
theorem dX7_read_114 : decode cX7_read 114 = .ok (.iconst 3, 1) := dk_6 (dk_at dksX7_read_4 19 rfl rfl)
theorem dX7_read_115 : decode cX7_read 115 = .ok (.invokevirtual 39, 3) := dk_182 0 39 (dk_at dksX7_read_4 20 rfl rfl)
theorem dX7_read_118 : decode cX7_read 118 = .ok (.aload_n 0, 1) := dk_42 (dk_at dksX7_read_4 23 rfl rfl)
theorem dX7_read_119 : decode cX7_read 119 = .ok (.iload_n 3, 1) := dk_29 (dk_at dksX7_read_5 0 rfl rfl)
theorem dX7_read_120 : decode cX7_read 120 = .ok (.ifCond .ne 23, 3) := dk_154 0 23 (dk_at dksX7_read_5 1 rfl rfl)
theorem dX7_read_123 : decode cX7_read 123 = .ok (.aload_n 0, 1) := dk_42 (dk_at dksX7_read_5 4 rfl rfl)
theorem dX7_read_124 : decode cX7_read 124 = .ok (.getfield 15, 3) := dk_180 0 15 (dk_at dksX7_read_5 5 rfl rfl)
theorem dX7_read_127 : decode cX7_read 127 = .ok (.getfield 51, 3) := dk_180 0 51 (dk_at dksX7_read_5 8 rfl rfl)
theorem dX7_read_130 : decode cX7_read 130 = .ok (.bipush 8, 2) := dk_16 8 (dk_at dksX7_read_5 11 rfl rfl)
theorem dX7_read_132 : decode cX7_read 132 = .ok (.if_icmp .ge 7, 3) := dk_162 0 7 (dk_at dksX7_read_5 13 rfl rfl)
theorem dX7_read_135 : decode cX7_read 135 = .ok (.iconst 1, 1) := dk_4 (dk_at dksX7_read_5 16 rfl rfl)
theorem dX7_read_136 : decode cX7_read 136 = .ok (.goto 54, 3) := dk_167 0 54 (dk_at dksX7_read_5 17 rfl rfl)
theorem dX7_read_139 : decode cX7_read 139 = .ok (.iconst 0, 1) := dk_3 (dk_at dksX7_read_5 20 rfl rfl)
theorem dX7_read_140 : decode cX7_read 140 = .ok (.goto 50, 3) := dk_167 0 50 (dk_at dksX7_read_5 21 rfl rfl)
theorem dX7_read_143 : decode cX7_read 143 = .ok (.iload_n 3, 1) := dk_29 (dk_at dksX7_read_6 0 rfl rfl)
theorem dX7_read_144 : decode cX7_read 144 = .ok (.iconst 1, 1) := dk_4 (dk_at dksX7_read_6 1 rfl rfl)
theorem dX7_read_145 : decode cX7_read 145 = .ok (.if_icmp .ne 23, 3) := dk_160 0 23 (dk_at dksX7_read_6 2 rfl rfl)
theorem dX7_read_148 : decode cX7_read 148 = .ok (.aload_n 0, 1) := dk_42 (dk_at dksX7_read_6 5 rfl rfl)
theorem dX7_read_149 : decode cX7_read 149 = .ok (.getfield 15, 3) := dk_180 0 15 (dk_at dksX7_read_6 6 rfl rfl)
theorem dX7_read_152 : decode cX7_read 152 = .ok (.getfield 54, 3) := dk_180 0 54 (dk_at dksX7_read_6 9 rfl rfl)
theorem dX7_read_155 : decode cX7_read 155 = .ok (.bipush 10, 2) := dk_16 10 (dk_at dksX7_read_6 12 rfl rfl)
theorem dX7_read_157 : decode cX7_read 157 = .ok (.if_icmp .ge 7, 3) := dk_162 0 7 (dk_at dksX7_read_6 14 rfl rfl)
theorem dX7_read_160 : decode cX7_read 160 = .ok (.iconst 1, 1) := dk_4 (dk_at dksX7_read_6 17 rfl rfl)
theorem dX7_read_161 : decode cX7_read 161 = .ok (.goto 29, 3) := dk_167 0 29 (dk_at dksX7_read_6 18 rfl rfl)
theorem dX7_read_164 : decode cX7_read 164 = .ok (.iconst 0, 1) := dk_3 (dk_at dksX7_read_6 21 rfl rfl)
theorem dX7_read_165 : decode cX7_read 165 = .ok (.goto 25, 3) := dk_167 0 25 (dk_at dksX7_read_7 0 rfl rfl)
theorem dX7_read_168 : decode cX7_read 168 = .ok (.iload_n 3, 1) := dk_29 (dk_at dksX7_read_7 3 rfl rfl)
theorem dX7_read_169 : decode cX7_read 169 = .ok (.iconst 2, 1) := dk_5 (dk_at dksX7_read_7 4 rfl rfl)
theorem dX7_read_170 : decode cX7_read 170 = .ok (.if_icmp .ne 15, 3) := dk_160 0 15 (dk_at dksX7_read_7 5 rfl rfl)
theorem dX7_read_173 : decode cX7_read 173 = .ok (.aload_n 0, 1) := dk_42 (dk_at dksX7_read_7 8 rfl rfl)
theorem dX7_read_174 : decode cX7_read 174 = .ok (.getfield 15, 3) := dk_180 0 15 (dk_at dksX7_read_7 9 rfl rfl)
theorem dX7_read_177 : decode cX7_read 177 = .ok (.getfield 57, 3) := dk_180 0 57 (dk_at dksX7_read_7 12 rfl rfl)
theorem dX7_read_180 : decode cX7_read 180 = .ok (.bipush 40, 2) := dk_16 40 (dk_at dksX7_read_7 15 rfl rfl)
theorem dX7_read_182 : decode cX7_read 182 = .ok (.if_icmp .ge 7, 3) := dk_162 0 7 (dk_at dksX7_read_7 17 rfl rfl)
theorem dX7_read_185 : decode cX7_read 185 = .ok (.iconst 1, 1) := dk_4 (dk_at dksX7_read_7 20 rfl rfl)
theorem dX7_read_186 : decode cX7_read 186 = .ok (.goto 4, 3) := dk_167 0 4 (dk_at dksX7_read_7 21 rfl rfl)
theorem dX7_read_189 : decode cX7_read 189 = .ok (.iconst 0, 1) := dk_3 (dk_at dksX7_read_8 0 rfl rfl)
theorem dX7_read_190 : decode cX7_read 190 = .ok (.iconst 4, 1) := dk_7 (dk_at dksX7_read_8 1 rfl rfl)
theorem dX7_read_191 : decode cX7_read 191 = .ok (.invokevirtual 39, 3) := dk_182 0 39 (dk_at dksX7_read_8 2 rfl rfl)
theorem dX7_read_194 : decode cX7_read 194 = .ok (.aload_n 0, 1) := dk_42 (dk_at dksX7_read_8 5 rfl rfl)
theorem dX7_read_195 : decode cX7_read 195 = .ok (.invokevirtual 60, 3) := dk_182 0 60 (dk_at dksX7_read_8 6 rfl rfl)
theorem dX7_read_198 : decode cX7_read 198 = .ok (.aload_n 0, 1) := dk_42 (dk_at dksX7_read_8 9 rfl rfl)
theorem dX7_read_199 : decode cX7_read 199 = .ok (.iload_n 3, 1) := dk_29 (dk_at dksX7_read_8 10 rfl rfl)
theorem dX7_read_200 : decode cX7_read 200 = .ok (.invokevirtual 63, 3) := dk_182 0 63 (dk_at dksX7_read_8 11 rfl rfl)
theorem dX7_read_203 : decode cX7_read 203 = .ok (.aload_n 0, 1) := dk_42 (dk_at dksX7_read_8 14 rfl rfl)
theorem dX7_read_204 : decode cX7_read 204 = .ok (.bipush 59, 2) := dk_16 59 (dk_at dksX7_read_8 15 rfl rfl)
theorem dX7_read_206 : decode cX7_read 206 = .ok (.invokevirtual 67, 3) := dk_182 0 67 (dk_at dksX7_read_8 17 rfl rfl)
theorem dX7_read_209 : decode cX7_read 209 = .ok (.iinc 2 1, 3) := dk_132 2 1 (dk_at dksX7_read_8 20 rfl rfl)
theorem dX7_read_212 : decode cX7_read 212 = .ok (.goto (-196), 3) := dk_167 255 60 (dk_at dksX7_read_9 0 rfl rfl)
theorem dX7_read_215 : decode cX7_read 215 = .ok (.iload_n 2, 1) := dk_28 (dk_at dksX7_read_9 3 rfl rfl)
theorem dX7_read_216 : decode cX7_read 216 = .ok (.ireturn, 1) := dk_172 (dk_at dksX7_read_9 4 rfl rfl)
abbrev cX7_line : ByteArray := prog_16_method_3_code
def yX7_line : MethodName := ⟨RX7, "line", "(I)V"⟩
def dkwX7_line_10 : List UInt8 := [180, 0, 15, 4, 181, 0, 43, 167, 0, 11, 42, 180, 0, 15, 4, 181, 0, 48, 177]
abbrev dktX7_line_10 : List UInt8 := dkwX7_line_10 ++ []
def dkwX7_line_9 : List UInt8 := [180, 0, 57, 4, 96, 181, 0, 57, 42, 182, 0, 60, 167, 0, 29, 42, 182, 0, 114, 167, 0, 22, 42]
abbrev dktX7_line_9 : List UInt8 := dkwX7_line_9 ++ dktX7_line_10
def dkwX7_line_8 : List UInt8 := [180, 0, 15, 180, 0, 90, 28, 50, 89, 180, 0, 105, 4, 29, 120, 128, 181, 0, 105, 42, 180, 0, 15, 89]
abbrev dktX7_line_8 : List UInt8 := dkwX7_line_8 ++ dktX7_line_9
def dkwX7_line_7 : List UInt8 := [28, 50, 180, 0, 105, 29, 184, 0, 110, 154, 0, 7, 4, 167, 0, 4, 3, 6, 182, 0, 39, 42]
abbrev dktX7_line_7 : List UInt8 := dkwX7_line_7 ++ dktX7_line_8
def dkwX7_line_6 : List UInt8 := [42, 180, 0, 15, 180, 0, 54, 182, 0, 102, 62, 42, 29, 2, 159, 0, 26, 42, 180, 0, 15, 180, 0, 90]
abbrev dktX7_line_6 : List UInt8 := dkwX7_line_6 ++ dktX7_line_7
def dkwX7_line_5 : List UInt8 := [180, 0, 54, 182, 0, 94, 61, 42, 42, 182, 0, 98, 4, 182, 0, 39, 42, 42, 180, 0, 15, 180, 0, 90]
abbrev dktX7_line_5 : List UInt8 := dkwX7_line_5 ++ dktX7_line_6
def dkwX7_line_4 : List UInt8 := [167, 0, 157, 42, 182, 0, 87, 167, 0, 150, 42, 42, 180, 0, 15, 180, 0, 90, 42, 180, 0, 15]
abbrev dktX7_line_4 : List UInt8 := dkwX7_line_4 ++ dktX7_line_5
def dkwX7_line_3 : List UInt8 := [42, 4, 16, 6, 182, 0, 80, 183, 0, 84, 83, 42, 180, 0, 15, 89, 180, 0, 51, 4, 96, 181, 0, 51]
abbrev dktX7_line_3 : List UInt8 := dkwX7_line_3 ++ dktX7_line_4
def dkwX7_line_2 : List UInt8 := [42, 182, 0, 70, 65, 42, 180, 0, 15, 180, 0, 74, 42, 180, 0, 15, 180, 0, 51, 187, 0, 78, 89, 32]
abbrev dktX7_line_2 : List UInt8 := dkwX7_line_2 ++ dktX7_line_3
def dkwX7_line_1 : List UInt8 := [170, 0, 0, 0, 0, 0, 232, 0, 0, 0, 0, 0, 0, 0, 4, 0, 0, 0, 35, 0, 0, 0, 86, 0, 0, 0, 93, 0, 0, 0, 214, 0, 0, 0, 221]
abbrev dktX7_line_1 : List UInt8 := dkwX7_line_1 ++ dktX7_line_2
def dkwX7_line_0 : List UInt8 := [27]
abbrev dktX7_line_0 : List UInt8 := dkwX7_line_0 ++ dktX7_line_1
theorem dksX7_line_0 : cX7_line.data.toList.drop 0 = dktX7_line_0 := by decide +kernel
theorem dksX7_line_1 : cX7_line.data.toList.drop 1 = dktX7_line_1 := dk_seg dksX7_line_0 1 rfl rfl
theorem dksX7_line_2 : cX7_line.data.toList.drop 36 = dktX7_line_2 := dk_seg dksX7_line_1 35 rfl rfl
theorem dksX7_line_3 : cX7_line.data.toList.drop 60 = dktX7_line_3 := dk_seg dksX7_line_2 24 rfl rfl
theorem dksX7_line_4 : cX7_line.data.toList.drop 84 = dktX7_line_4 := dk_seg dksX7_line_3 24 rfl rfl
theorem dksX7_line_5 : cX7_line.data.toList.drop 106 = dktX7_line_5 := dk_seg dksX7_line_4 22 rfl rfl
theorem dksX7_line_6 : cX7_line.data.toList.drop 130 = dktX7_line_6 := dk_seg dksX7_line_5 24 rfl rfl
theorem dksX7_line_7 : cX7_line.data.toList.drop 154 = dktX7_line_7 := dk_seg dksX7_line_6 24 rfl rfl
theorem dksX7_line_8 : cX7_line.data.toList.drop 176 = dktX7_line_8 := dk_seg dksX7_line_7 22 rfl rfl
theorem dksX7_line_9 : cX7_line.data.toList.drop 200 = dktX7_line_9 := dk_seg dksX7_line_8 24 rfl rfl
theorem dksX7_line_10 : cX7_line.data.toList.drop 223 = dktX7_line_10 := dk_seg dksX7_line_9 23 rfl rfl
theorem dX7_line_0 : decode cX7_line 0 = .ok (.iload_n 1, 1) := dk_27 (dk_at dksX7_line_0 0 rfl rfl)
theorem dX7_line_1 : decode cX7_line 1 = .ok (.tableswitch 232 0 4 #[35, 86, 93, 214, 221], 35) := by decide +kernel
theorem dX7_line_36 : decode cX7_line 36 = .ok (.aload_n 0, 1) := dk_42 (dk_at dksX7_line_2 0 rfl rfl)
theorem dX7_line_37 : decode cX7_line 37 = .ok (.invokevirtual 70, 3) := dk_182 0 70 (dk_at dksX7_line_2 1 rfl rfl)
theorem dX7_line_40 : decode cX7_line 40 = .ok (.lstore_n 2, 1) := dk_65 (dk_at dksX7_line_2 4 rfl rfl)
theorem dX7_line_41 : decode cX7_line 41 = .ok (.aload_n 0, 1) := dk_42 (dk_at dksX7_line_2 5 rfl rfl)
theorem dX7_line_42 : decode cX7_line 42 = .ok (.getfield 15, 3) := dk_180 0 15 (dk_at dksX7_line_2 6 rfl rfl)
theorem dX7_line_45 : decode cX7_line 45 = .ok (.getfield 74, 3) := dk_180 0 74 (dk_at dksX7_line_2 9 rfl rfl)
theorem dX7_line_48 : decode cX7_line 48 = .ok (.aload_n 0, 1) := dk_42 (dk_at dksX7_line_2 12 rfl rfl)
theorem dX7_line_49 : decode cX7_line 49 = .ok (.getfield 15, 3) := dk_180 0 15 (dk_at dksX7_line_2 13 rfl rfl)
theorem dX7_line_52 : decode cX7_line 52 = .ok (.getfield 51, 3) := dk_180 0 51 (dk_at dksX7_line_2 16 rfl rfl)
theorem dX7_line_55 : decode cX7_line 55 = .ok (.new 78, 3) := dk_187 0 78 (dk_at dksX7_line_2 19 rfl rfl)
theorem dX7_line_58 : decode cX7_line 58 = .ok (.dup, 1) := dk_89 (dk_at dksX7_line_2 22 rfl rfl)
theorem dX7_line_59 : decode cX7_line 59 = .ok (.lload_n 2, 1) := dk_32 (dk_at dksX7_line_2 23 rfl rfl)
theorem dX7_line_60 : decode cX7_line 60 = .ok (.aload_n 0, 1) := dk_42 (dk_at dksX7_line_3 0 rfl rfl)
theorem dX7_line_61 : decode cX7_line 61 = .ok (.iconst 1, 1) := dk_4 (dk_at dksX7_line_3 1 rfl rfl)
theorem dX7_line_62 : decode cX7_line 62 = .ok (.bipush 6, 2) := dk_16 6 (dk_at dksX7_line_3 2 rfl rfl)
theorem dX7_line_64 : decode cX7_line 64 = .ok (.invokevirtual 80, 3) := dk_182 0 80 (dk_at dksX7_line_3 4 rfl rfl)
theorem dX7_line_67 : decode cX7_line 67 = .ok (.invokespecial 84, 3) := dk_183 0 84 (dk_at dksX7_line_3 7 rfl rfl)
theorem dX7_line_70 : decode cX7_line 70 = .ok (.aastore, 1) := dk_83 (dk_at dksX7_line_3 10 rfl rfl)
theorem dX7_line_71 : decode cX7_line 71 = .ok (.aload_n 0, 1) := dk_42 (dk_at dksX7_line_3 11 rfl rfl)
theorem dX7_line_72 : decode cX7_line 72 = .ok (.getfield 15, 3) := dk_180 0 15 (dk_at dksX7_line_3 12 rfl rfl)
theorem dX7_line_75 : decode cX7_line 75 = .ok (.dup, 1) := dk_89 (dk_at dksX7_line_3 15 rfl rfl)
theorem dX7_line_76 : decode cX7_line 76 = .ok (.getfield 51, 3) := dk_180 0 51 (dk_at dksX7_line_3 16 rfl rfl)
theorem dX7_line_79 : decode cX7_line 79 = .ok (.iconst 1, 1) := dk_4 (dk_at dksX7_line_3 19 rfl rfl)
theorem dX7_line_80 : decode cX7_line 80 = .ok (.iadd, 1) := dk_96 (dk_at dksX7_line_3 20 rfl rfl)
theorem dX7_line_81 : decode cX7_line 81 = .ok (.putfield 51, 3) := dk_181 0 51 (dk_at dksX7_line_3 21 rfl rfl)
theorem dX7_line_84 : decode cX7_line 84 = .ok (.goto 157, 3) := dk_167 0 157 (dk_at dksX7_line_4 0 rfl rfl)
theorem dX7_line_87 : decode cX7_line 87 = .ok (.aload_n 0, 1) := dk_42 (dk_at dksX7_line_4 3 rfl rfl)
theorem dX7_line_88 : decode cX7_line 88 = .ok (.invokevirtual 87, 3) := dk_182 0 87 (dk_at dksX7_line_4 4 rfl rfl)
theorem dX7_line_91 : decode cX7_line 91 = .ok (.goto 150, 3) := dk_167 0 150 (dk_at dksX7_line_4 7 rfl rfl)
theorem dX7_line_94 : decode cX7_line 94 = .ok (.aload_n 0, 1) := dk_42 (dk_at dksX7_line_4 10 rfl rfl)
theorem dX7_line_95 : decode cX7_line 95 = .ok (.aload_n 0, 1) := dk_42 (dk_at dksX7_line_4 11 rfl rfl)
theorem dX7_line_96 : decode cX7_line 96 = .ok (.getfield 15, 3) := dk_180 0 15 (dk_at dksX7_line_4 12 rfl rfl)
theorem dX7_line_99 : decode cX7_line 99 = .ok (.getfield 90, 3) := dk_180 0 90 (dk_at dksX7_line_4 15 rfl rfl)
theorem dX7_line_102 : decode cX7_line 102 = .ok (.aload_n 0, 1) := dk_42 (dk_at dksX7_line_4 18 rfl rfl)
theorem dX7_line_103 : decode cX7_line 103 = .ok (.getfield 15, 3) := dk_180 0 15 (dk_at dksX7_line_4 19 rfl rfl)
theorem dX7_line_106 : decode cX7_line 106 = .ok (.getfield 54, 3) := dk_180 0 54 (dk_at dksX7_line_5 0 rfl rfl)
theorem dX7_line_109 : decode cX7_line 109 = .ok (.invokevirtual 94, 3) := dk_182 0 94 (dk_at dksX7_line_5 3 rfl rfl)
theorem dX7_line_112 : decode cX7_line 112 = .ok (.istore_n 2, 1) := dk_61 (dk_at dksX7_line_5 6 rfl rfl)
theorem dX7_line_113 : decode cX7_line 113 = .ok (.aload_n 0, 1) := dk_42 (dk_at dksX7_line_5 7 rfl rfl)
theorem dX7_line_114 : decode cX7_line 114 = .ok (.aload_n 0, 1) := dk_42 (dk_at dksX7_line_5 8 rfl rfl)
theorem dX7_line_115 : decode cX7_line 115 = .ok (.invokevirtual 98, 3) := dk_182 0 98 (dk_at dksX7_line_5 9 rfl rfl)
theorem dX7_line_118 : decode cX7_line 118 = .ok (.iconst 1, 1) := dk_4 (dk_at dksX7_line_5 12 rfl rfl)
theorem dX7_line_119 : decode cX7_line 119 = .ok (.invokevirtual 39, 3) := dk_182 0 39 (dk_at dksX7_line_5 13 rfl rfl)
theorem dX7_line_122 : decode cX7_line 122 = .ok (.aload_n 0, 1) := dk_42 (dk_at dksX7_line_5 16 rfl rfl)
theorem dX7_line_123 : decode cX7_line 123 = .ok (.aload_n 0, 1) := dk_42 (dk_at dksX7_line_5 17 rfl rfl)
theorem dX7_line_124 : decode cX7_line 124 = .ok (.getfield 15, 3) := dk_180 0 15 (dk_at dksX7_line_5 18 rfl rfl)
theorem dX7_line_127 : decode cX7_line 127 = .ok (.getfield 90, 3) := dk_180 0 90 (dk_at dksX7_line_5 21 rfl rfl)
theorem dX7_line_130 : decode cX7_line 130 = .ok (.aload_n 0, 1) := dk_42 (dk_at dksX7_line_6 0 rfl rfl)
theorem dX7_line_131 : decode cX7_line 131 = .ok (.getfield 15, 3) := dk_180 0 15 (dk_at dksX7_line_6 1 rfl rfl)
theorem dX7_line_134 : decode cX7_line 134 = .ok (.getfield 54, 3) := dk_180 0 54 (dk_at dksX7_line_6 4 rfl rfl)
theorem dX7_line_137 : decode cX7_line 137 = .ok (.invokevirtual 102, 3) := dk_182 0 102 (dk_at dksX7_line_6 7 rfl rfl)
theorem dX7_line_140 : decode cX7_line 140 = .ok (.istore_n 3, 1) := dk_62 (dk_at dksX7_line_6 10 rfl rfl)
theorem dX7_line_141 : decode cX7_line 141 = .ok (.aload_n 0, 1) := dk_42 (dk_at dksX7_line_6 11 rfl rfl)
theorem dX7_line_142 : decode cX7_line 142 = .ok (.iload_n 3, 1) := dk_29 (dk_at dksX7_line_6 12 rfl rfl)
theorem dX7_line_143 : decode cX7_line 143 = .ok (.iconst (-1), 1) := dk_2 (dk_at dksX7_line_6 13 rfl rfl)
theorem dX7_line_144 : decode cX7_line 144 = .ok (.if_icmp .eq 26, 3) := dk_159 0 26 (dk_at dksX7_line_6 14 rfl rfl)
theorem dX7_line_147 : decode cX7_line 147 = .ok (.aload_n 0, 1) := dk_42 (dk_at dksX7_line_6 17 rfl rfl)
theorem dX7_line_148 : decode cX7_line 148 = .ok (.getfield 15, 3) := dk_180 0 15 (dk_at dksX7_line_6 18 rfl rfl)
theorem dX7_line_151 : decode cX7_line 151 = .ok (.getfield 90, 3) := dk_180 0 90 (dk_at dksX7_line_6 21 rfl rfl)
theorem dX7_line_154 : decode cX7_line 154 = .ok (.iload_n 2, 1) := dk_28 (dk_at dksX7_line_7 0 rfl rfl)
theorem dX7_line_155 : decode cX7_line 155 = .ok (.aaload, 1) := dk_50 (dk_at dksX7_line_7 1 rfl rfl)
theorem dX7_line_156 : decode cX7_line 156 = .ok (.getfield 105, 3) := dk_180 0 105 (dk_at dksX7_line_7 2 rfl rfl)
theorem dX7_line_159 : decode cX7_line 159 = .ok (.iload_n 3, 1) := dk_29 (dk_at dksX7_line_7 5 rfl rfl)
theorem dX7_line_160 : decode cX7_line 160 = .ok (.invokestatic 110, 3) := dk_184 0 110 (dk_at dksX7_line_7 6 rfl rfl)
theorem dX7_line_163 : decode cX7_line 163 = .ok (.ifCond .ne 7, 3) := dk_154 0 7 (dk_at dksX7_line_7 9 rfl rfl)
theorem dX7_line_166 : decode cX7_line 166 = .ok (.iconst 1, 1) := dk_4 (dk_at dksX7_line_7 12 rfl rfl)
theorem dX7_line_167 : decode cX7_line 167 = .ok (.goto 4, 3) := dk_167 0 4 (dk_at dksX7_line_7 13 rfl rfl)
theorem dX7_line_170 : decode cX7_line 170 = .ok (.iconst 0, 1) := dk_3 (dk_at dksX7_line_7 16 rfl rfl)
theorem dX7_line_171 : decode cX7_line 171 = .ok (.iconst 3, 1) := dk_6 (dk_at dksX7_line_7 17 rfl rfl)
theorem dX7_line_172 : decode cX7_line 172 = .ok (.invokevirtual 39, 3) := dk_182 0 39 (dk_at dksX7_line_7 18 rfl rfl)
theorem dX7_line_175 : decode cX7_line 175 = .ok (.aload_n 0, 1) := dk_42 (dk_at dksX7_line_7 21 rfl rfl)
theorem dX7_line_176 : decode cX7_line 176 = .ok (.getfield 15, 3) := dk_180 0 15 (dk_at dksX7_line_8 0 rfl rfl)
theorem dX7_line_179 : decode cX7_line 179 = .ok (.getfield 90, 3) := dk_180 0 90 (dk_at dksX7_line_8 3 rfl rfl)
theorem dX7_line_182 : decode cX7_line 182 = .ok (.iload_n 2, 1) := dk_28 (dk_at dksX7_line_8 6 rfl rfl)
theorem dX7_line_183 : decode cX7_line 183 = .ok (.aaload, 1) := dk_50 (dk_at dksX7_line_8 7 rfl rfl)
theorem dX7_line_184 : decode cX7_line 184 = .ok (.dup, 1) := dk_89 (dk_at dksX7_line_8 8 rfl rfl)
theorem dX7_line_185 : decode cX7_line 185 = .ok (.getfield 105, 3) := dk_180 0 105 (dk_at dksX7_line_8 9 rfl rfl)
theorem dX7_line_188 : decode cX7_line 188 = .ok (.iconst 1, 1) := dk_4 (dk_at dksX7_line_8 12 rfl rfl)
theorem dX7_line_189 : decode cX7_line 189 = .ok (.iload_n 3, 1) := dk_29 (dk_at dksX7_line_8 13 rfl rfl)
theorem dX7_line_190 : decode cX7_line 190 = .ok (.ishl, 1) := dk_120 (dk_at dksX7_line_8 14 rfl rfl)
theorem dX7_line_191 : decode cX7_line 191 = .ok (.ior, 1) := dk_128 (dk_at dksX7_line_8 15 rfl rfl)
theorem dX7_line_192 : decode cX7_line 192 = .ok (.putfield 105, 3) := dk_181 0 105 (dk_at dksX7_line_8 16 rfl rfl)
theorem dX7_line_195 : decode cX7_line 195 = .ok (.aload_n 0, 1) := dk_42 (dk_at dksX7_line_8 19 rfl rfl)
theorem dX7_line_196 : decode cX7_line 196 = .ok (.getfield 15, 3) := dk_180 0 15 (dk_at dksX7_line_8 20 rfl rfl)
theorem dX7_line_199 : decode cX7_line 199 = .ok (.dup, 1) := dk_89 (dk_at dksX7_line_8 23 rfl rfl)
theorem dX7_line_200 : decode cX7_line 200 = .ok (.getfield 57, 3) := dk_180 0 57 (dk_at dksX7_line_9 0 rfl rfl)
theorem dX7_line_203 : decode cX7_line 203 = .ok (.iconst 1, 1) := dk_4 (dk_at dksX7_line_9 3 rfl rfl)
theorem dX7_line_204 : decode cX7_line 204 = .ok (.iadd, 1) := dk_96 (dk_at dksX7_line_9 4 rfl rfl)
theorem dX7_line_205 : decode cX7_line 205 = .ok (.putfield 57, 3) := dk_181 0 57 (dk_at dksX7_line_9 5 rfl rfl)
theorem dX7_line_208 : decode cX7_line 208 = .ok (.aload_n 0, 1) := dk_42 (dk_at dksX7_line_9 8 rfl rfl)
theorem dX7_line_209 : decode cX7_line 209 = .ok (.invokevirtual 60, 3) := dk_182 0 60 (dk_at dksX7_line_9 9 rfl rfl)
theorem dX7_line_212 : decode cX7_line 212 = .ok (.goto 29, 3) := dk_167 0 29 (dk_at dksX7_line_9 12 rfl rfl)
theorem dX7_line_215 : decode cX7_line 215 = .ok (.aload_n 0, 1) := dk_42 (dk_at dksX7_line_9 15 rfl rfl)
theorem dX7_line_216 : decode cX7_line 216 = .ok (.invokevirtual 114, 3) := dk_182 0 114 (dk_at dksX7_line_9 16 rfl rfl)
theorem dX7_line_219 : decode cX7_line 219 = .ok (.goto 22, 3) := dk_167 0 22 (dk_at dksX7_line_9 19 rfl rfl)
theorem dX7_line_222 : decode cX7_line 222 = .ok (.aload_n 0, 1) := dk_42 (dk_at dksX7_line_9 22 rfl rfl)
theorem dX7_line_223 : decode cX7_line 223 = .ok (.getfield 15, 3) := dk_180 0 15 (dk_at dksX7_line_10 0 rfl rfl)
theorem dX7_line_226 : decode cX7_line 226 = .ok (.iconst 1, 1) := dk_4 (dk_at dksX7_line_10 3 rfl rfl)
theorem dX7_line_227 : decode cX7_line 227 = .ok (.putfield 43, 3) := dk_181 0 43 (dk_at dksX7_line_10 4 rfl rfl)
theorem dX7_line_230 : decode cX7_line 230 = .ok (.goto 11, 3) := dk_167 0 11 (dk_at dksX7_line_10 7 rfl rfl)
theorem dX7_line_233 : decode cX7_line 233 = .ok (.aload_n 0, 1) := dk_42 (dk_at dksX7_line_10 10 rfl rfl)
theorem dX7_line_234 : decode cX7_line 234 = .ok (.getfield 15, 3) := dk_180 0 15 (dk_at dksX7_line_10 11 rfl rfl)
theorem dX7_line_237 : decode cX7_line 237 = .ok (.iconst 1, 1) := dk_4 (dk_at dksX7_line_10 14 rfl rfl)
theorem dX7_line_238 : decode cX7_line 238 = .ok (.putfield 48, 3) := dk_181 0 48 (dk_at dksX7_line_10 15 rfl rfl)
theorem dX7_line_241 : decode cX7_line 241 = .ok (.return_, 1) := dk_177 (dk_at dksX7_line_10 18 rfl rfl)
abbrev cX7_fresh : ByteArray := prog_16_method_4_code
def yX7_fresh : MethodName := ⟨RX7, "fresh", "()J"⟩
def dkwX7_fresh_3 : List UInt8 := [42, 182, 0, 60, 31, 173]
abbrev dktX7_fresh_3 : List UInt8 := dkwX7_fresh_3 ++ []
def dkwX7_fresh_2 : List UInt8 := [180, 0, 54, 182, 0, 102, 2, 160, 0, 7, 4, 167, 0, 4, 3, 6, 182, 0, 39, 42, 180, 0, 117, 64]
abbrev dktX7_fresh_2 : List UInt8 := dkwX7_fresh_2 ++ dktX7_fresh_3
def dkwX7_fresh_1 : List UInt8 := [180, 0, 51, 182, 0, 102, 2, 160, 0, 29, 42, 42, 180, 0, 15, 180, 0, 90, 42, 180, 0, 15]
abbrev dktX7_fresh_1 : List UInt8 := dkwX7_fresh_1 ++ dktX7_fresh_2
def dkwX7_fresh_0 : List UInt8 := [42, 42, 182, 0, 98, 4, 182, 0, 39, 42, 42, 42, 180, 0, 15, 180, 0, 74, 42, 180, 0, 15]
abbrev dktX7_fresh_0 : List UInt8 := dkwX7_fresh_0 ++ dktX7_fresh_1
theorem dksX7_fresh_0 : cX7_fresh.data.toList.drop 0 = dktX7_fresh_0 := by decide +kernel
theorem dksX7_fresh_1 : cX7_fresh.data.toList.drop 22 = dktX7_fresh_1 := dk_seg dksX7_fresh_0 22 rfl rfl
theorem dksX7_fresh_2 : cX7_fresh.data.toList.drop 44 = dktX7_fresh_2 := dk_seg dksX7_fresh_1 22 rfl rfl
theorem dksX7_fresh_3 : cX7_fresh.data.toList.drop 68 = dktX7_fresh_3 := dk_seg dksX7_fresh_2 24 rfl rfl
theorem dX7_fresh_0 : decode cX7_fresh 0 = .ok (.aload_n 0, 1) := dk_42 (dk_at dksX7_fresh_0 0 rfl rfl)
theorem dX7_fresh_1 : decode cX7_fresh 1 = .ok (.aload_n 0, 1) := dk_42 (dk_at dksX7_fresh_0 1 rfl rfl)
theorem dX7_fresh_2 : decode cX7_fresh 2 = .ok (.invokevirtual 98, 3) := dk_182 0 98 (dk_at dksX7_fresh_0 2 rfl rfl)
theorem dX7_fresh_5 : decode cX7_fresh 5 = .ok (.iconst 1, 1) := dk_4 (dk_at dksX7_fresh_0 5 rfl rfl)
theorem dX7_fresh_6 : decode cX7_fresh 6 = .ok (.invokevirtual 39, 3) := dk_182 0 39 (dk_at dksX7_fresh_0 6 rfl rfl)
theorem dX7_fresh_9 : decode cX7_fresh 9 = .ok (.aload_n 0, 1) := dk_42 (dk_at dksX7_fresh_0 9 rfl rfl)
theorem dX7_fresh_10 : decode cX7_fresh 10 = .ok (.aload_n 0, 1) := dk_42 (dk_at dksX7_fresh_0 10 rfl rfl)
theorem dX7_fresh_11 : decode cX7_fresh 11 = .ok (.aload_n 0, 1) := dk_42 (dk_at dksX7_fresh_0 11 rfl rfl)
theorem dX7_fresh_12 : decode cX7_fresh 12 = .ok (.getfield 15, 3) := dk_180 0 15 (dk_at dksX7_fresh_0 12 rfl rfl)
theorem dX7_fresh_15 : decode cX7_fresh 15 = .ok (.getfield 74, 3) := dk_180 0 74 (dk_at dksX7_fresh_0 15 rfl rfl)
theorem dX7_fresh_18 : decode cX7_fresh 18 = .ok (.aload_n 0, 1) := dk_42 (dk_at dksX7_fresh_0 18 rfl rfl)
theorem dX7_fresh_19 : decode cX7_fresh 19 = .ok (.getfield 15, 3) := dk_180 0 15 (dk_at dksX7_fresh_0 19 rfl rfl)
theorem dX7_fresh_22 : decode cX7_fresh 22 = .ok (.getfield 51, 3) := dk_180 0 51 (dk_at dksX7_fresh_1 0 rfl rfl)
theorem dX7_fresh_25 : decode cX7_fresh 25 = .ok (.invokevirtual 102, 3) := dk_182 0 102 (dk_at dksX7_fresh_1 3 rfl rfl)
theorem dX7_fresh_28 : decode cX7_fresh 28 = .ok (.iconst (-1), 1) := dk_2 (dk_at dksX7_fresh_1 6 rfl rfl)
theorem dX7_fresh_29 : decode cX7_fresh 29 = .ok (.if_icmp .ne 29, 3) := dk_160 0 29 (dk_at dksX7_fresh_1 7 rfl rfl)
theorem dX7_fresh_32 : decode cX7_fresh 32 = .ok (.aload_n 0, 1) := dk_42 (dk_at dksX7_fresh_1 10 rfl rfl)
theorem dX7_fresh_33 : decode cX7_fresh 33 = .ok (.aload_n 0, 1) := dk_42 (dk_at dksX7_fresh_1 11 rfl rfl)
theorem dX7_fresh_34 : decode cX7_fresh 34 = .ok (.getfield 15, 3) := dk_180 0 15 (dk_at dksX7_fresh_1 12 rfl rfl)
theorem dX7_fresh_37 : decode cX7_fresh 37 = .ok (.getfield 90, 3) := dk_180 0 90 (dk_at dksX7_fresh_1 15 rfl rfl)
theorem dX7_fresh_40 : decode cX7_fresh 40 = .ok (.aload_n 0, 1) := dk_42 (dk_at dksX7_fresh_1 18 rfl rfl)
theorem dX7_fresh_41 : decode cX7_fresh 41 = .ok (.getfield 15, 3) := dk_180 0 15 (dk_at dksX7_fresh_1 19 rfl rfl)
theorem dX7_fresh_44 : decode cX7_fresh 44 = .ok (.getfield 54, 3) := dk_180 0 54 (dk_at dksX7_fresh_2 0 rfl rfl)
theorem dX7_fresh_47 : decode cX7_fresh 47 = .ok (.invokevirtual 102, 3) := dk_182 0 102 (dk_at dksX7_fresh_2 3 rfl rfl)
theorem dX7_fresh_50 : decode cX7_fresh 50 = .ok (.iconst (-1), 1) := dk_2 (dk_at dksX7_fresh_2 6 rfl rfl)
theorem dX7_fresh_51 : decode cX7_fresh 51 = .ok (.if_icmp .ne 7, 3) := dk_160 0 7 (dk_at dksX7_fresh_2 7 rfl rfl)
theorem dX7_fresh_54 : decode cX7_fresh 54 = .ok (.iconst 1, 1) := dk_4 (dk_at dksX7_fresh_2 10 rfl rfl)
theorem dX7_fresh_55 : decode cX7_fresh 55 = .ok (.goto 4, 3) := dk_167 0 4 (dk_at dksX7_fresh_2 11 rfl rfl)
theorem dX7_fresh_58 : decode cX7_fresh 58 = .ok (.iconst 0, 1) := dk_3 (dk_at dksX7_fresh_2 14 rfl rfl)
theorem dX7_fresh_59 : decode cX7_fresh 59 = .ok (.iconst 3, 1) := dk_6 (dk_at dksX7_fresh_2 15 rfl rfl)
theorem dX7_fresh_60 : decode cX7_fresh 60 = .ok (.invokevirtual 39, 3) := dk_182 0 39 (dk_at dksX7_fresh_2 16 rfl rfl)
theorem dX7_fresh_63 : decode cX7_fresh 63 = .ok (.aload_n 0, 1) := dk_42 (dk_at dksX7_fresh_2 19 rfl rfl)
theorem dX7_fresh_64 : decode cX7_fresh 64 = .ok (.getfield 117, 3) := dk_180 0 117 (dk_at dksX7_fresh_2 20 rfl rfl)
theorem dX7_fresh_67 : decode cX7_fresh 67 = .ok (.lstore_n 1, 1) := dk_64 (dk_at dksX7_fresh_2 23 rfl rfl)
theorem dX7_fresh_68 : decode cX7_fresh 68 = .ok (.aload_n 0, 1) := dk_42 (dk_at dksX7_fresh_3 0 rfl rfl)
theorem dX7_fresh_69 : decode cX7_fresh 69 = .ok (.invokevirtual 60, 3) := dk_182 0 60 (dk_at dksX7_fresh_3 1 rfl rfl)
theorem dX7_fresh_72 : decode cX7_fresh 72 = .ok (.lload_n 1, 1) := dk_31 (dk_at dksX7_fresh_3 4 rfl rfl)
theorem dX7_fresh_73 : decode cX7_fresh 73 = .ok (.lreturn, 1) := dk_173 (dk_at dksX7_fresh_3 5 rfl rfl)
abbrev cX7_kind : ByteArray := prog_16_method_5_code
def yX7_kind : MethodName := ⟨RX7, "kind", "()V"⟩
def dkwX7_kind_5 : List UInt8 := [180, 0, 54, 4, 96, 181, 0, 54, 177]
abbrev dktX7_kind_5 : List UInt8 := dkwX7_kind_5 ++ []
def dkwX7_kind_4 : List UInt8 := [181, 0, 139, 42, 180, 0, 15, 180, 0, 90, 42, 180, 0, 15, 180, 0, 54, 43, 83, 42, 180, 0, 15, 89]
abbrev dktX7_kind_4 : List UInt8 := dkwX7_kind_4 ++ dktX7_kind_5
def dkwX7_kind_3 : List UInt8 := [96, 181, 0, 137, 42, 182, 0, 60, 43, 180, 0, 137, 5, 160, 0, 14, 43, 42, 4, 16, 99, 182, 0, 80]
abbrev dktX7_kind_3 : List UInt8 := dkwX7_kind_3 ++ dktX7_kind_4
def dkwX7_kind_2 : List UInt8 := [42, 182, 0, 60, 42, 42, 180, 0, 3, 180, 0, 134, 182, 0, 35, 61, 28, 2, 159, 0, 33, 43, 28, 4]
abbrev dktX7_kind_2 : List UInt8 := dkwX7_kind_2 ++ dktX7_kind_3
def dkwX7_kind_1 : List UInt8 := [182, 0, 126, 153, 0, 25, 43, 42, 18, 124, 182, 0, 126, 153, 0, 7, 4, 167, 0, 4, 5, 181, 0, 132]
abbrev dktX7_kind_1 : List UInt8 := dkwX7_kind_1 ++ dktX7_kind_2
def dkwX7_kind_0 : List UInt8 := [187, 0, 106, 89, 42, 182, 0, 70, 183, 0, 121, 76, 42, 18, 124, 182, 0, 126, 154, 0, 12, 42, 18, 130]
abbrev dktX7_kind_0 : List UInt8 := dkwX7_kind_0 ++ dktX7_kind_1
theorem dksX7_kind_0 : cX7_kind.data.toList.drop 0 = dktX7_kind_0 := by decide +kernel
theorem dksX7_kind_1 : cX7_kind.data.toList.drop 24 = dktX7_kind_1 := dk_seg dksX7_kind_0 24 rfl rfl
theorem dksX7_kind_2 : cX7_kind.data.toList.drop 48 = dktX7_kind_2 := dk_seg dksX7_kind_1 24 rfl rfl
theorem dksX7_kind_3 : cX7_kind.data.toList.drop 72 = dktX7_kind_3 := dk_seg dksX7_kind_2 24 rfl rfl
theorem dksX7_kind_4 : cX7_kind.data.toList.drop 96 = dktX7_kind_4 := dk_seg dksX7_kind_3 24 rfl rfl
theorem dksX7_kind_5 : cX7_kind.data.toList.drop 120 = dktX7_kind_5 := dk_seg dksX7_kind_4 24 rfl rfl
theorem dX7_kind_0 : decode cX7_kind 0 = .ok (.new 106, 3) := dk_187 0 106 (dk_at dksX7_kind_0 0 rfl rfl)
theorem dX7_kind_3 : decode cX7_kind 3 = .ok (.dup, 1) := dk_89 (dk_at dksX7_kind_0 3 rfl rfl)
theorem dX7_kind_4 : decode cX7_kind 4 = .ok (.aload_n 0, 1) := dk_42 (dk_at dksX7_kind_0 4 rfl rfl)
theorem dX7_kind_5 : decode cX7_kind 5 = .ok (.invokevirtual 70, 3) := dk_182 0 70 (dk_at dksX7_kind_0 5 rfl rfl)
theorem dX7_kind_8 : decode cX7_kind 8 = .ok (.invokespecial 121, 3) := dk_183 0 121 (dk_at dksX7_kind_0 8 rfl rfl)
theorem dX7_kind_11 : decode cX7_kind 11 = .ok (.astore_n 1, 1) := dk_76 (dk_at dksX7_kind_0 11 rfl rfl)
theorem dX7_kind_12 : decode cX7_kind 12 = .ok (.aload_n 0, 1) := dk_42 (dk_at dksX7_kind_0 12 rfl rfl)
theorem dX7_kind_13 : decode cX7_kind 13 = .ok (.ldc 124, 2) := dk_18 124 (dk_at dksX7_kind_0 13 rfl rfl)
theorem dX7_kind_15 : decode cX7_kind 15 = .ok (.invokevirtual 126, 3) := dk_182 0 126 (dk_at dksX7_kind_0 15 rfl rfl)
theorem dX7_kind_18 : decode cX7_kind 18 = .ok (.ifCond .ne 12, 3) := dk_154 0 12 (dk_at dksX7_kind_0 18 rfl rfl)
theorem dX7_kind_21 : decode cX7_kind 21 = .ok (.aload_n 0, 1) := dk_42 (dk_at dksX7_kind_0 21 rfl rfl)
theorem dX7_kind_22 : decode cX7_kind 22 = .ok (.ldc 130, 2) := dk_18 130 (dk_at dksX7_kind_0 22 rfl rfl)
theorem dX7_kind_24 : decode cX7_kind 24 = .ok (.invokevirtual 126, 3) := dk_182 0 126 (dk_at dksX7_kind_1 0 rfl rfl)
theorem dX7_kind_27 : decode cX7_kind 27 = .ok (.ifCond .eq 25, 3) := dk_153 0 25 (dk_at dksX7_kind_1 3 rfl rfl)
theorem dX7_kind_30 : decode cX7_kind 30 = .ok (.aload_n 1, 1) := dk_43 (dk_at dksX7_kind_1 6 rfl rfl)
theorem dX7_kind_31 : decode cX7_kind 31 = .ok (.aload_n 0, 1) := dk_42 (dk_at dksX7_kind_1 7 rfl rfl)
theorem dX7_kind_32 : decode cX7_kind 32 = .ok (.ldc 124, 2) := dk_18 124 (dk_at dksX7_kind_1 8 rfl rfl)
theorem dX7_kind_34 : decode cX7_kind 34 = .ok (.invokevirtual 126, 3) := dk_182 0 126 (dk_at dksX7_kind_1 10 rfl rfl)
theorem dX7_kind_37 : decode cX7_kind 37 = .ok (.ifCond .eq 7, 3) := dk_153 0 7 (dk_at dksX7_kind_1 13 rfl rfl)
theorem dX7_kind_40 : decode cX7_kind 40 = .ok (.iconst 1, 1) := dk_4 (dk_at dksX7_kind_1 16 rfl rfl)
theorem dX7_kind_41 : decode cX7_kind 41 = .ok (.goto 4, 3) := dk_167 0 4 (dk_at dksX7_kind_1 17 rfl rfl)
theorem dX7_kind_44 : decode cX7_kind 44 = .ok (.iconst 2, 1) := dk_5 (dk_at dksX7_kind_1 20 rfl rfl)
theorem dX7_kind_45 : decode cX7_kind 45 = .ok (.putfield 132, 3) := dk_181 0 132 (dk_at dksX7_kind_1 21 rfl rfl)
theorem dX7_kind_48 : decode cX7_kind 48 = .ok (.aload_n 0, 1) := dk_42 (dk_at dksX7_kind_2 0 rfl rfl)
theorem dX7_kind_49 : decode cX7_kind 49 = .ok (.invokevirtual 60, 3) := dk_182 0 60 (dk_at dksX7_kind_2 1 rfl rfl)
theorem dX7_kind_52 : decode cX7_kind 52 = .ok (.aload_n 0, 1) := dk_42 (dk_at dksX7_kind_2 4 rfl rfl)
theorem dX7_kind_53 : decode cX7_kind 53 = .ok (.aload_n 0, 1) := dk_42 (dk_at dksX7_kind_2 5 rfl rfl)
theorem dX7_kind_54 : decode cX7_kind 54 = .ok (.getfield 3, 3) := dk_180 0 3 (dk_at dksX7_kind_2 6 rfl rfl)
theorem dX7_kind_57 : decode cX7_kind 57 = .ok (.getfield 134, 3) := dk_180 0 134 (dk_at dksX7_kind_2 9 rfl rfl)
theorem dX7_kind_60 : decode cX7_kind 60 = .ok (.invokevirtual 35, 3) := dk_182 0 35 (dk_at dksX7_kind_2 12 rfl rfl)
theorem dX7_kind_63 : decode cX7_kind 63 = .ok (.istore_n 2, 1) := dk_61 (dk_at dksX7_kind_2 15 rfl rfl)
theorem dX7_kind_64 : decode cX7_kind 64 = .ok (.iload_n 2, 1) := dk_28 (dk_at dksX7_kind_2 16 rfl rfl)
theorem dX7_kind_65 : decode cX7_kind 65 = .ok (.iconst (-1), 1) := dk_2 (dk_at dksX7_kind_2 17 rfl rfl)
theorem dX7_kind_66 : decode cX7_kind 66 = .ok (.if_icmp .eq 33, 3) := dk_159 0 33 (dk_at dksX7_kind_2 18 rfl rfl)
theorem dX7_kind_69 : decode cX7_kind 69 = .ok (.aload_n 1, 1) := dk_43 (dk_at dksX7_kind_2 21 rfl rfl)
theorem dX7_kind_70 : decode cX7_kind 70 = .ok (.iload_n 2, 1) := dk_28 (dk_at dksX7_kind_2 22 rfl rfl)
theorem dX7_kind_71 : decode cX7_kind 71 = .ok (.iconst 1, 1) := dk_4 (dk_at dksX7_kind_2 23 rfl rfl)
theorem dX7_kind_72 : decode cX7_kind 72 = .ok (.iadd, 1) := dk_96 (dk_at dksX7_kind_3 0 rfl rfl)
theorem dX7_kind_73 : decode cX7_kind 73 = .ok (.putfield 137, 3) := dk_181 0 137 (dk_at dksX7_kind_3 1 rfl rfl)
theorem dX7_kind_76 : decode cX7_kind 76 = .ok (.aload_n 0, 1) := dk_42 (dk_at dksX7_kind_3 4 rfl rfl)
theorem dX7_kind_77 : decode cX7_kind 77 = .ok (.invokevirtual 60, 3) := dk_182 0 60 (dk_at dksX7_kind_3 5 rfl rfl)
theorem dX7_kind_80 : decode cX7_kind 80 = .ok (.aload_n 1, 1) := dk_43 (dk_at dksX7_kind_3 8 rfl rfl)
theorem dX7_kind_81 : decode cX7_kind 81 = .ok (.getfield 137, 3) := dk_180 0 137 (dk_at dksX7_kind_3 9 rfl rfl)
theorem dX7_kind_84 : decode cX7_kind 84 = .ok (.iconst 2, 1) := dk_5 (dk_at dksX7_kind_3 12 rfl rfl)
theorem dX7_kind_85 : decode cX7_kind 85 = .ok (.if_icmp .ne 14, 3) := dk_160 0 14 (dk_at dksX7_kind_3 13 rfl rfl)
theorem dX7_kind_88 : decode cX7_kind 88 = .ok (.aload_n 1, 1) := dk_43 (dk_at dksX7_kind_3 16 rfl rfl)
theorem dX7_kind_89 : decode cX7_kind 89 = .ok (.aload_n 0, 1) := dk_42 (dk_at dksX7_kind_3 17 rfl rfl)
theorem dX7_kind_90 : decode cX7_kind 90 = .ok (.iconst 1, 1) := dk_4 (dk_at dksX7_kind_3 18 rfl rfl)
theorem dX7_kind_91 : decode cX7_kind 91 = .ok (.bipush 99, 2) := dk_16 99 (dk_at dksX7_kind_3 19 rfl rfl)
theorem dX7_kind_93 : decode cX7_kind 93 = .ok (.invokevirtual 80, 3) := dk_182 0 80 (dk_at dksX7_kind_3 21 rfl rfl)
theorem dX7_kind_96 : decode cX7_kind 96 = .ok (.putfield 139, 3) := dk_181 0 139 (dk_at dksX7_kind_4 0 rfl rfl)
theorem dX7_kind_99 : decode cX7_kind 99 = .ok (.aload_n 0, 1) := dk_42 (dk_at dksX7_kind_4 3 rfl rfl)
theorem dX7_kind_100 : decode cX7_kind 100 = .ok (.getfield 15, 3) := dk_180 0 15 (dk_at dksX7_kind_4 4 rfl rfl)
theorem dX7_kind_103 : decode cX7_kind 103 = .ok (.getfield 90, 3) := dk_180 0 90 (dk_at dksX7_kind_4 7 rfl rfl)
theorem dX7_kind_106 : decode cX7_kind 106 = .ok (.aload_n 0, 1) := dk_42 (dk_at dksX7_kind_4 10 rfl rfl)
theorem dX7_kind_107 : decode cX7_kind 107 = .ok (.getfield 15, 3) := dk_180 0 15 (dk_at dksX7_kind_4 11 rfl rfl)
theorem dX7_kind_110 : decode cX7_kind 110 = .ok (.getfield 54, 3) := dk_180 0 54 (dk_at dksX7_kind_4 14 rfl rfl)
theorem dX7_kind_113 : decode cX7_kind 113 = .ok (.aload_n 1, 1) := dk_43 (dk_at dksX7_kind_4 17 rfl rfl)
theorem dX7_kind_114 : decode cX7_kind 114 = .ok (.aastore, 1) := dk_83 (dk_at dksX7_kind_4 18 rfl rfl)
theorem dX7_kind_115 : decode cX7_kind 115 = .ok (.aload_n 0, 1) := dk_42 (dk_at dksX7_kind_4 19 rfl rfl)
theorem dX7_kind_116 : decode cX7_kind 116 = .ok (.getfield 15, 3) := dk_180 0 15 (dk_at dksX7_kind_4 20 rfl rfl)
theorem dX7_kind_119 : decode cX7_kind 119 = .ok (.dup, 1) := dk_89 (dk_at dksX7_kind_4 23 rfl rfl)
theorem dX7_kind_120 : decode cX7_kind 120 = .ok (.getfield 54, 3) := dk_180 0 54 (dk_at dksX7_kind_5 0 rfl rfl)
theorem dX7_kind_123 : decode cX7_kind 123 = .ok (.iconst 1, 1) := dk_4 (dk_at dksX7_kind_5 3 rfl rfl)
theorem dX7_kind_124 : decode cX7_kind 124 = .ok (.iadd, 1) := dk_96 (dk_at dksX7_kind_5 4 rfl rfl)
theorem dX7_kind_125 : decode cX7_kind 125 = .ok (.putfield 54, 3) := dk_181 0 54 (dk_at dksX7_kind_5 5 rfl rfl)
theorem dX7_kind_128 : decode cX7_kind 128 = .ok (.return_, 1) := dk_177 (dk_at dksX7_kind_5 8 rfl rfl)
abbrev cX7_comb : ByteArray := prog_16_method_6_code
def yX7_comb : MethodName := ⟨RX7, "comb", "()V"⟩
def dkwX7_comb_4 : List UInt8 := [181, 0, 145, 167, 255, 191, 177]
abbrev dktX7_comb_4 : List UInt8 := dkwX7_comb_4 ++ []
def dkwX7_comb_3 : List UInt8 := [180, 0, 15, 180, 0, 145, 42, 4, 16, 6, 182, 0, 80, 79, 42, 180, 0, 15, 89, 180, 0, 145, 4, 96]
abbrev dktX7_comb_3 : List UInt8 := dkwX7_comb_3 ++ dktX7_comb_4
def dkwX7_comb_2 : List UInt8 := [16, 6, 162, 0, 7, 4, 167, 0, 4, 3, 7, 182, 0, 39, 42, 180, 0, 15, 180, 0, 142, 42]
abbrev dktX7_comb_2 : List UInt8 := dkwX7_comb_2 ++ dktX7_comb_3
def dkwX7_comb_1 : List UInt8 := [180, 0, 15, 4, 181, 0, 145, 42, 180, 0, 27, 5, 160, 0, 63, 42, 42, 180, 0, 15, 180, 0, 145]
abbrev dktX7_comb_1 : List UInt8 := dkwX7_comb_1 ++ dktX7_comb_2
def dkwX7_comb_0 : List UInt8 := [42, 4, 181, 0, 19, 42, 180, 0, 15, 180, 0, 142, 3, 42, 4, 16, 6, 182, 0, 80, 79, 42]
abbrev dktX7_comb_0 : List UInt8 := dkwX7_comb_0 ++ dktX7_comb_1
theorem dksX7_comb_0 : cX7_comb.data.toList.drop 0 = dktX7_comb_0 := by decide +kernel
theorem dksX7_comb_1 : cX7_comb.data.toList.drop 22 = dktX7_comb_1 := dk_seg dksX7_comb_0 22 rfl rfl
theorem dksX7_comb_2 : cX7_comb.data.toList.drop 45 = dktX7_comb_2 := dk_seg dksX7_comb_1 23 rfl rfl
theorem dksX7_comb_3 : cX7_comb.data.toList.drop 67 = dktX7_comb_3 := dk_seg dksX7_comb_2 22 rfl rfl
theorem dksX7_comb_4 : cX7_comb.data.toList.drop 91 = dktX7_comb_4 := dk_seg dksX7_comb_3 24 rfl rfl
theorem dX7_comb_0 : decode cX7_comb 0 = .ok (.aload_n 0, 1) := dk_42 (dk_at dksX7_comb_0 0 rfl rfl)
theorem dX7_comb_1 : decode cX7_comb 1 = .ok (.iconst 1, 1) := dk_4 (dk_at dksX7_comb_0 1 rfl rfl)
theorem dX7_comb_2 : decode cX7_comb 2 = .ok (.putfield 19, 3) := dk_181 0 19 (dk_at dksX7_comb_0 2 rfl rfl)
theorem dX7_comb_5 : decode cX7_comb 5 = .ok (.aload_n 0, 1) := dk_42 (dk_at dksX7_comb_0 5 rfl rfl)
theorem dX7_comb_6 : decode cX7_comb 6 = .ok (.getfield 15, 3) := dk_180 0 15 (dk_at dksX7_comb_0 6 rfl rfl)
theorem dX7_comb_9 : decode cX7_comb 9 = .ok (.getfield 142, 3) := dk_180 0 142 (dk_at dksX7_comb_0 9 rfl rfl)
theorem dX7_comb_12 : decode cX7_comb 12 = .ok (.iconst 0, 1) := dk_3 (dk_at dksX7_comb_0 12 rfl rfl)
theorem dX7_comb_13 : decode cX7_comb 13 = .ok (.aload_n 0, 1) := dk_42 (dk_at dksX7_comb_0 13 rfl rfl)
theorem dX7_comb_14 : decode cX7_comb 14 = .ok (.iconst 1, 1) := dk_4 (dk_at dksX7_comb_0 14 rfl rfl)
theorem dX7_comb_15 : decode cX7_comb 15 = .ok (.bipush 6, 2) := dk_16 6 (dk_at dksX7_comb_0 15 rfl rfl)
theorem dX7_comb_17 : decode cX7_comb 17 = .ok (.invokevirtual 80, 3) := dk_182 0 80 (dk_at dksX7_comb_0 17 rfl rfl)
theorem dX7_comb_20 : decode cX7_comb 20 = .ok (.iastore, 1) := dk_79 (dk_at dksX7_comb_0 20 rfl rfl)
theorem dX7_comb_21 : decode cX7_comb 21 = .ok (.aload_n 0, 1) := dk_42 (dk_at dksX7_comb_0 21 rfl rfl)
theorem dX7_comb_22 : decode cX7_comb 22 = .ok (.getfield 15, 3) := dk_180 0 15 (dk_at dksX7_comb_1 0 rfl rfl)
theorem dX7_comb_25 : decode cX7_comb 25 = .ok (.iconst 1, 1) := dk_4 (dk_at dksX7_comb_1 3 rfl rfl)
theorem dX7_comb_26 : decode cX7_comb 26 = .ok (.putfield 145, 3) := dk_181 0 145 (dk_at dksX7_comb_1 4 rfl rfl)
theorem dX7_comb_29 : decode cX7_comb 29 = .ok (.aload_n 0, 1) := dk_42 (dk_at dksX7_comb_1 7 rfl rfl)
theorem dX7_comb_30 : decode cX7_comb 30 = .ok (.getfield 27, 3) := dk_180 0 27 (dk_at dksX7_comb_1 8 rfl rfl)
theorem dX7_comb_33 : decode cX7_comb 33 = .ok (.iconst 2, 1) := dk_5 (dk_at dksX7_comb_1 11 rfl rfl)
theorem dX7_comb_34 : decode cX7_comb 34 = .ok (.if_icmp .ne 63, 3) := dk_160 0 63 (dk_at dksX7_comb_1 12 rfl rfl)
theorem dX7_comb_37 : decode cX7_comb 37 = .ok (.aload_n 0, 1) := dk_42 (dk_at dksX7_comb_1 15 rfl rfl)
theorem dX7_comb_38 : decode cX7_comb 38 = .ok (.aload_n 0, 1) := dk_42 (dk_at dksX7_comb_1 16 rfl rfl)
theorem dX7_comb_39 : decode cX7_comb 39 = .ok (.getfield 15, 3) := dk_180 0 15 (dk_at dksX7_comb_1 17 rfl rfl)
theorem dX7_comb_42 : decode cX7_comb 42 = .ok (.getfield 145, 3) := dk_180 0 145 (dk_at dksX7_comb_1 20 rfl rfl)
theorem dX7_comb_45 : decode cX7_comb 45 = .ok (.bipush 6, 2) := dk_16 6 (dk_at dksX7_comb_2 0 rfl rfl)
theorem dX7_comb_47 : decode cX7_comb 47 = .ok (.if_icmp .ge 7, 3) := dk_162 0 7 (dk_at dksX7_comb_2 2 rfl rfl)
theorem dX7_comb_50 : decode cX7_comb 50 = .ok (.iconst 1, 1) := dk_4 (dk_at dksX7_comb_2 5 rfl rfl)
theorem dX7_comb_51 : decode cX7_comb 51 = .ok (.goto 4, 3) := dk_167 0 4 (dk_at dksX7_comb_2 6 rfl rfl)
theorem dX7_comb_54 : decode cX7_comb 54 = .ok (.iconst 0, 1) := dk_3 (dk_at dksX7_comb_2 9 rfl rfl)
theorem dX7_comb_55 : decode cX7_comb 55 = .ok (.iconst 4, 1) := dk_7 (dk_at dksX7_comb_2 10 rfl rfl)
theorem dX7_comb_56 : decode cX7_comb 56 = .ok (.invokevirtual 39, 3) := dk_182 0 39 (dk_at dksX7_comb_2 11 rfl rfl)
theorem dX7_comb_59 : decode cX7_comb 59 = .ok (.aload_n 0, 1) := dk_42 (dk_at dksX7_comb_2 14 rfl rfl)
theorem dX7_comb_60 : decode cX7_comb 60 = .ok (.getfield 15, 3) := dk_180 0 15 (dk_at dksX7_comb_2 15 rfl rfl)
theorem dX7_comb_63 : decode cX7_comb 63 = .ok (.getfield 142, 3) := dk_180 0 142 (dk_at dksX7_comb_2 18 rfl rfl)
theorem dX7_comb_66 : decode cX7_comb 66 = .ok (.aload_n 0, 1) := dk_42 (dk_at dksX7_comb_2 21 rfl rfl)
theorem dX7_comb_67 : decode cX7_comb 67 = .ok (.getfield 15, 3) := dk_180 0 15 (dk_at dksX7_comb_3 0 rfl rfl)
theorem dX7_comb_70 : decode cX7_comb 70 = .ok (.getfield 145, 3) := dk_180 0 145 (dk_at dksX7_comb_3 3 rfl rfl)
theorem dX7_comb_73 : decode cX7_comb 73 = .ok (.aload_n 0, 1) := dk_42 (dk_at dksX7_comb_3 6 rfl rfl)
theorem dX7_comb_74 : decode cX7_comb 74 = .ok (.iconst 1, 1) := dk_4 (dk_at dksX7_comb_3 7 rfl rfl)
theorem dX7_comb_75 : decode cX7_comb 75 = .ok (.bipush 6, 2) := dk_16 6 (dk_at dksX7_comb_3 8 rfl rfl)
theorem dX7_comb_77 : decode cX7_comb 77 = .ok (.invokevirtual 80, 3) := dk_182 0 80 (dk_at dksX7_comb_3 10 rfl rfl)
theorem dX7_comb_80 : decode cX7_comb 80 = .ok (.iastore, 1) := dk_79 (dk_at dksX7_comb_3 13 rfl rfl)
theorem dX7_comb_81 : decode cX7_comb 81 = .ok (.aload_n 0, 1) := dk_42 (dk_at dksX7_comb_3 14 rfl rfl)
theorem dX7_comb_82 : decode cX7_comb 82 = .ok (.getfield 15, 3) := dk_180 0 15 (dk_at dksX7_comb_3 15 rfl rfl)
theorem dX7_comb_85 : decode cX7_comb 85 = .ok (.dup, 1) := dk_89 (dk_at dksX7_comb_3 18 rfl rfl)
theorem dX7_comb_86 : decode cX7_comb 86 = .ok (.getfield 145, 3) := dk_180 0 145 (dk_at dksX7_comb_3 19 rfl rfl)
theorem dX7_comb_89 : decode cX7_comb 89 = .ok (.iconst 1, 1) := dk_4 (dk_at dksX7_comb_3 22 rfl rfl)
theorem dX7_comb_90 : decode cX7_comb 90 = .ok (.iadd, 1) := dk_96 (dk_at dksX7_comb_3 23 rfl rfl)
theorem dX7_comb_91 : decode cX7_comb 91 = .ok (.putfield 145, 3) := dk_181 0 145 (dk_at dksX7_comb_4 0 rfl rfl)
theorem dX7_comb_94 : decode cX7_comb 94 = .ok (.goto (-65), 3) := dk_167 255 191 (dk_at dksX7_comb_4 3 rfl rfl)
theorem dX7_comb_97 : decode cX7_comb 97 = .ok (.return_, 1) := dk_177 (dk_at dksX7_comb_4 6 rfl rfl)
theorem q98 : (Jvm.Cond.initialized "CombTable$TableReader") ∈ lw_all := lw_g (lw_at lw_m1 9 rfl) rfl
theorem q244 : (Jvm.Cond.fieldLinkNest "CombTable$TableReader" (74 : Nat) "CombTable$Table" "people" "[LCombTable$Who;" "CombTable") ∈ lw_tbl := lw_at lw_m1 155 rfl
theorem q250 : (Jvm.Cond.fieldLinkNest "CombTable$TableReader" (90 : Nat) "CombTable$Table" "kinds" "[LCombTable$Kind;" "CombTable") ∈ lw_tbl := lw_at lw_m1 161 rfl
theorem q255 : (Jvm.Cond.fieldLinkNest "CombTable$TableReader" (142 : Nat) "CombTable$Table" "comb" "[I" "CombTable") ∈ lw_tbl := lw_at lw_m1 166 rfl
theorem q258 : (Jvm.Cond.fieldLinkNest "CombTable$TableReader" (51 : Nat) "CombTable$Table" "whoMany" "I" "CombTable") ∈ lw_tbl := lw_at lw_m1 169 rfl
theorem q263 : (Jvm.Cond.fieldLinkNest "CombTable$TableReader" (54 : Nat) "CombTable$Table" "kindMany" "I" "CombTable") ∈ lw_tbl := lw_at lw_m1 174 rfl
theorem q268 : (Jvm.Cond.fieldLinkNest "CombTable$TableReader" (57 : Nat) "CombTable$Table" "mayMany" "I" "CombTable") ∈ lw_tbl := lw_at lw_m1 179 rfl
theorem q271 : (Jvm.Cond.fieldLinkNest "CombTable$TableReader" (145 : Nat) "CombTable$Table" "combMany" "I" "CombTable") ∈ lw_tbl := lw_at lw_m1 182 rfl
theorem q274 : (Jvm.Cond.fieldLinkNest "CombTable$TableReader" (43 : Nat) "CombTable$Table" "ranks" "Z" "CombTable") ∈ lw_tbl := lw_at lw_m1 185 rfl
theorem q276 : (Jvm.Cond.fieldLinkNest "CombTable$TableReader" (48 : Nat) "CombTable$Table" "twice" "Z" "CombTable") ∈ lw_tbl := lw_at lw_m1 187 rfl
theorem q370 : (Jvm.Cond.instantiable "CombTable$TableReader" (11 : Nat)) ∈ lw_all := lw_g (lw_at lw_m2 41 rfl) rfl
theorem q372 : (Jvm.Cond.instanceMethod ({ cls := "CombTable$TableReader", name := "<init>", desc := "(LCombTable;)V" } : Jvm.MethodName)) ∈ lw_all := lw_g (lw_at lw_m2 43 rfl) rfl
theorem q373 : (Jvm.Cond.code ({ cls := "CombTable$TableReader", name := "<init>", desc := "(LCombTable;)V" } : Jvm.MethodName) prog_16_method_1_code (2 : Nat) (Option.none : Option Jvm.ClassFile.FieldType)) ∈ lw_all := lw_g (lw_at lw_m2 44 rfl) rfl
theorem q374 : (Jvm.Cond.methodLink "CombTable$TableReader" (9 : Nat) ({ cls := "CombTable$Reader", name := "<init>", desc := "(LCombTable;I)V" } : Jvm.MethodName)) ∈ lw_all := lw_g (lw_at lw_m2 45 rfl) rfl
theorem q378 : (Jvm.Cond.fieldLink "CombTable$TableReader" (15 : Nat) "CombTable$TableReader" "x" "LCombTable$Table;") ∈ lw_all := lw_g (lw_at lw_m2 49 rfl) rfl
theorem q379 : (Jvm.Cond.fieldLink "CombTable$TableReader" (19 : Nat) "CombTable$TableReader" "hasComb" "Z") ∈ lw_all := lw_g (lw_at lw_m2 50 rfl) rfl
theorem q380 : (Jvm.Cond.fieldLink "CombTable$TableReader" (3 : Nat) "CombTable$TableReader" "this$0" "LCombTable;") ∈ lw_all := lw_g (lw_at lw_m2 51 rfl) rfl
theorem q390 : (Jvm.Cond.fieldLink "CombTable$TableReader" (27 : Nat) "CombTable$TableReader" "token" "I") ∈ lw_all := lw_g (lw_at lw_m2 61 rfl) rfl
theorem q391 : (Jvm.Cond.sameField "CombTable$TableReader" "CombTable$Reader" "token" "I") ∈ lw_all := lw_g (lw_at lw_m2 62 rfl) rfl
theorem q399 : (Jvm.Cond.fieldLink "CombTable$TableReader" (117 : Nat) "CombTable$TableReader" "name" "J") ∈ lw_all := lw_g (lw_at lw_m2 70 rfl) rfl
theorem q400 : (Jvm.Cond.sameField "CombTable$TableReader" "CombTable$Reader" "name" "J") ∈ lw_all := lw_g (lw_at lw_m2 71 rfl) rfl
theorem q403 : (Jvm.Cond.lays "CombTable$TableReader" "CombTable$TableReader" "x" "LCombTable$Table;") ∈ lw_all := lw_g (lw_at lw_m2 74 rfl) rfl
theorem q404 : (Jvm.Cond.soleField "CombTable$TableReader" "x") ∈ lw_all := lw_g (lw_at lw_m2 75 rfl) rfl
theorem q405 : (Jvm.Cond.lays "CombTable$TableReader" "CombTable$TableReader" "hasComb" "Z") ∈ lw_all := lw_g (lw_at lw_m2 76 rfl) rfl
theorem q406 : (Jvm.Cond.soleField "CombTable$TableReader" "hasComb") ∈ lw_all := lw_g (lw_at lw_m2 77 rfl) rfl
theorem q407 : (Jvm.Cond.laysFinal "CombTable$TableReader" "CombTable$TableReader" "this$0" "LCombTable;") ∈ lw_all := lw_g (lw_at lw_m2 78 rfl) rfl
theorem q408 : (Jvm.Cond.soleField "CombTable$TableReader" "this$0") ∈ lw_all := lw_g (lw_at lw_m2 79 rfl) rfl
theorem q409 : (Jvm.Cond.laysFinal "CombTable$TableReader" "CombTable$Reader" "most" "I") ∈ lw_all := lw_g (lw_at lw_m2 80 rfl) rfl
theorem q411 : (Jvm.Cond.lays "CombTable$TableReader" "CombTable$Reader" "p" "I") ∈ lw_all := lw_g (lw_at lw_m2 82 rfl) rfl
theorem q413 : (Jvm.Cond.lays "CombTable$TableReader" "CombTable$Reader" "at" "I") ∈ lw_all := lw_g (lw_at lw_m2 84 rfl) rfl
theorem q415 : (Jvm.Cond.lays "CombTable$TableReader" "CombTable$Reader" "token" "I") ∈ lw_all := lw_g (lw_at lw_m2 86 rfl) rfl
theorem q417 : (Jvm.Cond.lays "CombTable$TableReader" "CombTable$Reader" "value" "I") ∈ lw_all := lw_g (lw_at lw_m2 88 rfl) rfl
theorem q419 : (Jvm.Cond.lays "CombTable$TableReader" "CombTable$Reader" "many" "I") ∈ lw_all := lw_g (lw_at lw_m2 90 rfl) rfl
theorem q421 : (Jvm.Cond.lays "CombTable$TableReader" "CombTable$Reader" "name" "J") ∈ lw_all := lw_g (lw_at lw_m2 92 rfl) rfl
theorem q423 : (Jvm.Cond.laysFinal "CombTable$TableReader" "CombTable$Reader" "this$0" "LCombTable;") ∈ lw_all := lw_g (lw_at lw_m2 94 rfl) rfl
theorem q425 : (Jvm.Cond.superclass "CombTable$TableReader" "CombTable$Reader") ∈ lw_all := lw_g (lw_at lw_m2 96 rfl) rfl
theorem q517 : (Jvm.Cond.fieldLinkNest "CombTable$TableReader" (31 : Nat) "CombTable" "lines" "[Ljava/lang/String;" "CombTable") ∈ lw_tbl := lw_at lw_m2 188 rfl
theorem q522 : (Jvm.Cond.fieldLinkNest "CombTable$TableReader" (134 : Nat) "CombTable" "does" "[Ljava/lang/String;" "CombTable") ∈ lw_tbl := lw_at lw_m2 193 rfl
theorem q656 : (Jvm.Cond.instanceMethod ({ cls := "CombTable$TableReader", name := "read", desc := "(LCombTable$Table;)I" } : Jvm.MethodName)) ∈ lw_all := lw_g (lw_at lw_m3 87 rfl) rfl
theorem q657 : (Jvm.Cond.selects "CombTable$TableReader" ({ cls := "CombTable$TableReader", name := "read", desc := "(LCombTable$Table;)I" } : Jvm.MethodName) ({ cls := "CombTable$TableReader", name := "read", desc := "(LCombTable$Table;)I" } : Jvm.MethodName)) ∈ lw_all := lw_g (lw_at lw_m3 88 rfl) rfl
theorem q658 : (Jvm.Cond.code ({ cls := "CombTable$TableReader", name := "read", desc := "(LCombTable$Table;)I" } : Jvm.MethodName) prog_16_method_2_code (4 : Nat) (Option.some Jvm.ClassFile.FieldType.int)) ∈ lw_all := lw_g (lw_at lw_m3 89 rfl) rfl
theorem q659 : (Jvm.Cond.methodLink "CombTable$TableReader" (23 : Nat) ({ cls := "CombTable$TableReader", name := "begin", desc := "()V" } : Jvm.MethodName)) ∈ lw_all := lw_g (lw_at lw_m3 90 rfl) rfl
theorem q660 : (Jvm.Cond.sameMethod "CombTable$TableReader" "CombTable$Reader" "begin" "()V") ∈ lw_all := lw_g (lw_at lw_m3 91 rfl) rfl
theorem q662 : (Jvm.Cond.selects "CombTable$TableReader" ({ cls := "CombTable$TableReader", name := "begin", desc := "()V" } : Jvm.MethodName) ({ cls := "CombTable$Reader", name := "begin", desc := "()V" } : Jvm.MethodName)) ∈ lw_all := lw_g (lw_at lw_m3 93 rfl) rfl
theorem q670 : (Jvm.Cond.selects "CombTable$TableReader" ({ cls := "CombTable$Reader", name := "next", desc := "()V" } : Jvm.MethodName) ({ cls := "CombTable$Reader", name := "next", desc := "()V" } : Jvm.MethodName)) ∈ lw_all := lw_g (lw_at lw_m3 101 rfl) rfl
theorem q692 : (Jvm.Cond.methodLink "CombTable$TableReader" (35 : Nat) ({ cls := "CombTable$TableReader", name := "find", desc := "([Ljava/lang/String;)I" } : Jvm.MethodName)) ∈ lw_all := lw_g (lw_at lw_m3 123 rfl) rfl
theorem q693 : (Jvm.Cond.sameMethod "CombTable$TableReader" "CombTable$Reader" "find" "([Ljava/lang/String;)I") ∈ lw_all := lw_g (lw_at lw_m3 124 rfl) rfl
theorem q695 : (Jvm.Cond.selects "CombTable$TableReader" ({ cls := "CombTable$TableReader", name := "find", desc := "([Ljava/lang/String;)I" } : Jvm.MethodName) ({ cls := "CombTable$Reader", name := "find", desc := "([Ljava/lang/String;)I" } : Jvm.MethodName)) ∈ lw_all := lw_g (lw_at lw_m3 126 rfl) rfl
theorem q703 : (Jvm.Cond.selects "CombTable$TableReader" ({ cls := "CombTable$Reader", name := "is", desc := "(Ljava/lang/String;)Z" } : Jvm.MethodName) ({ cls := "CombTable$Reader", name := "is", desc := "(Ljava/lang/String;)Z" } : Jvm.MethodName)) ∈ lw_all := lw_g (lw_at lw_m3 134 rfl) rfl
theorem q754 : (Jvm.Cond.methodLink "CombTable$TableReader" (39 : Nat) ({ cls := "CombTable$TableReader", name := "must", desc := "(ZI)V" } : Jvm.MethodName)) ∈ lw_all := lw_g (lw_at lw_m3 185 rfl) rfl
theorem q755 : (Jvm.Cond.sameMethod "CombTable$TableReader" "CombTable$Reader" "must" "(ZI)V") ∈ lw_all := lw_g (lw_at lw_m3 186 rfl) rfl
theorem q757 : (Jvm.Cond.selects "CombTable$TableReader" ({ cls := "CombTable$TableReader", name := "must", desc := "(ZI)V" } : Jvm.MethodName) ({ cls := "CombTable$Reader", name := "must", desc := "(ZI)V" } : Jvm.MethodName)) ∈ lw_all := lw_g (lw_at lw_m3 188 rfl) rfl
theorem q765 : (Jvm.Cond.selects "CombTable$TableReader" ({ cls := "CombTable$Reader", name := "wrong", desc := "(II)LCombTable$Fault;" } : Jvm.MethodName) ({ cls := "CombTable$Reader", name := "wrong", desc := "(II)LCombTable$Fault;" } : Jvm.MethodName)) ∈ lw_all := lw_g (lw_at lw_m3 196 rfl) rfl
theorem q768 : (Jvm.Cond.methodLink "CombTable$TableReader" (60 : Nat) ({ cls := "CombTable$TableReader", name := "next", desc := "()V" } : Jvm.MethodName)) ∈ lw_all := lw_g (lw_at lw_m3 199 rfl) rfl
theorem q769 : (Jvm.Cond.sameMethod "CombTable$TableReader" "CombTable$Reader" "next" "()V") ∈ lw_all := lw_g (lw_at lw_m3 200 rfl) rfl
theorem q771 : (Jvm.Cond.selects "CombTable$TableReader" ({ cls := "CombTable$TableReader", name := "next", desc := "()V" } : Jvm.MethodName) ({ cls := "CombTable$Reader", name := "next", desc := "()V" } : Jvm.MethodName)) ∈ lw_all := lw_g (lw_at lw_m3 202 rfl) rfl
theorem q772 : (Jvm.Cond.methodLink "CombTable$TableReader" (63 : Nat) ({ cls := "CombTable$TableReader", name := "line", desc := "(I)V" } : Jvm.MethodName)) ∈ lw_all := lw_g (lw_at lw_m3 203 rfl) rfl
theorem q773 : (Jvm.Cond.privateMethod ({ cls := "CombTable$TableReader", name := "line", desc := "(I)V" } : Jvm.MethodName)) ∈ lw_tbl := lw_at lw_m3 204 rfl
theorem q774 : (Jvm.Cond.instanceMethod ({ cls := "CombTable$TableReader", name := "line", desc := "(I)V" } : Jvm.MethodName)) ∈ lw_all := lw_g (lw_at lw_m3 205 rfl) rfl
theorem q775 : (Jvm.Cond.code ({ cls := "CombTable$TableReader", name := "line", desc := "(I)V" } : Jvm.MethodName) prog_16_method_3_code (4 : Nat) (Option.none : Option Jvm.ClassFile.FieldType)) ∈ lw_all := lw_g (lw_at lw_m3 206 rfl) rfl
theorem q776 : (Jvm.Cond.methodLink "CombTable$TableReader" (70 : Nat) ({ cls := "CombTable$TableReader", name := "fresh", desc := "()J" } : Jvm.MethodName)) ∈ lw_all := lw_g (lw_at lw_m3 207 rfl) rfl
theorem q777 : (Jvm.Cond.privateMethod ({ cls := "CombTable$TableReader", name := "fresh", desc := "()J" } : Jvm.MethodName)) ∈ lw_tbl := lw_at lw_m3 208 rfl
theorem q778 : (Jvm.Cond.instanceMethod ({ cls := "CombTable$TableReader", name := "fresh", desc := "()J" } : Jvm.MethodName)) ∈ lw_all := lw_g (lw_at lw_m3 209 rfl) rfl
theorem q779 : (Jvm.Cond.code ({ cls := "CombTable$TableReader", name := "fresh", desc := "()J" } : Jvm.MethodName) prog_16_method_4_code (3 : Nat) (Option.some Jvm.ClassFile.FieldType.long)) ∈ lw_all := lw_g (lw_at lw_m3 210 rfl) rfl
theorem q780 : (Jvm.Cond.methodLink "CombTable$TableReader" (98 : Nat) ({ cls := "CombTable$TableReader", name := "isName", desc := "()Z" } : Jvm.MethodName)) ∈ lw_all := lw_g (lw_at lw_m3 211 rfl) rfl
theorem q781 : (Jvm.Cond.sameMethod "CombTable$TableReader" "CombTable$Reader" "isName" "()Z") ∈ lw_all := lw_g (lw_at lw_m3 212 rfl) rfl
theorem q783 : (Jvm.Cond.selects "CombTable$TableReader" ({ cls := "CombTable$TableReader", name := "isName", desc := "()Z" } : Jvm.MethodName) ({ cls := "CombTable$Reader", name := "isName", desc := "()Z" } : Jvm.MethodName)) ∈ lw_all := lw_g (lw_at lw_m3 214 rfl) rfl
theorem q787 : (Jvm.Cond.methodLink "CombTable$TableReader" (102 : Nat) ({ cls := "CombTable$TableReader", name := "of", desc := "([LCombTable$Named;I)I" } : Jvm.MethodName)) ∈ lw_all := lw_g (lw_at lw_m3 218 rfl) rfl
theorem q788 : (Jvm.Cond.sameMethod "CombTable$TableReader" "CombTable$Reader" "of" "([LCombTable$Named;I)I") ∈ lw_all := lw_g (lw_at lw_m3 219 rfl) rfl
theorem q790 : (Jvm.Cond.selects "CombTable$TableReader" ({ cls := "CombTable$TableReader", name := "of", desc := "([LCombTable$Named;I)I" } : Jvm.MethodName) ({ cls := "CombTable$Reader", name := "of", desc := "([LCombTable$Named;I)I" } : Jvm.MethodName)) ∈ lw_all := lw_g (lw_at lw_m3 221 rfl) rfl
theorem q793 : (Jvm.Cond.classLink "CombTable$TableReader" (78 : Nat) "CombTable$Who") ∈ lw_all := lw_g (lw_at lw_m3 224 rfl) rfl
theorem q795 : (Jvm.Cond.methodLink "CombTable$TableReader" (80 : Nat) ({ cls := "CombTable$TableReader", name := "number", desc := "(II)I" } : Jvm.MethodName)) ∈ lw_all := lw_g (lw_at lw_m3 226 rfl) rfl
theorem q796 : (Jvm.Cond.sameMethod "CombTable$TableReader" "CombTable$Reader" "number" "(II)I") ∈ lw_all := lw_g (lw_at lw_m3 227 rfl) rfl
theorem q798 : (Jvm.Cond.selects "CombTable$TableReader" ({ cls := "CombTable$TableReader", name := "number", desc := "(II)I" } : Jvm.MethodName) ({ cls := "CombTable$Reader", name := "number", desc := "(II)I" } : Jvm.MethodName)) ∈ lw_all := lw_g (lw_at lw_m3 229 rfl) rfl
theorem q802 : (Jvm.Cond.methodLink "CombTable$TableReader" (84 : Nat) ({ cls := "CombTable$Who", name := "<init>", desc := "(JI)V" } : Jvm.MethodName)) ∈ lw_all := lw_g (lw_at lw_m3 233 rfl) rfl
theorem q819 : (Jvm.Cond.methodLink "CombTable$TableReader" (87 : Nat) ({ cls := "CombTable$TableReader", name := "kind", desc := "()V" } : Jvm.MethodName)) ∈ lw_all := lw_g (lw_at lw_m4 10 rfl) rfl
theorem q820 : (Jvm.Cond.privateMethod ({ cls := "CombTable$TableReader", name := "kind", desc := "()V" } : Jvm.MethodName)) ∈ lw_tbl := lw_at lw_m4 11 rfl
theorem q821 : (Jvm.Cond.instanceMethod ({ cls := "CombTable$TableReader", name := "kind", desc := "()V" } : Jvm.MethodName)) ∈ lw_all := lw_g (lw_at lw_m4 12 rfl) rfl
theorem q822 : (Jvm.Cond.code ({ cls := "CombTable$TableReader", name := "kind", desc := "()V" } : Jvm.MethodName) prog_16_method_5_code (3 : Nat) (Option.none : Option Jvm.ClassFile.FieldType)) ∈ lw_all := lw_g (lw_at lw_m4 13 rfl) rfl
theorem q823 : (Jvm.Cond.classLink "CombTable$TableReader" (106 : Nat) "CombTable$Kind") ∈ lw_all := lw_g (lw_at lw_m4 14 rfl) rfl
theorem q825 : (Jvm.Cond.methodLink "CombTable$TableReader" (121 : Nat) ({ cls := "CombTable$Kind", name := "<init>", desc := "(J)V" } : Jvm.MethodName)) ∈ lw_all := lw_g (lw_at lw_m4 16 rfl) rfl
theorem q829 : (Jvm.Cond.fieldLinkNest "CombTable$TableReader" (132 : Nat) "CombTable$Kind" "begins" "I" "CombTable") ∈ lw_tbl := lw_at lw_m4 20 rfl
theorem q832 : (Jvm.Cond.fieldLinkNest "CombTable$TableReader" (137 : Nat) "CombTable$Kind" "does" "I" "CombTable") ∈ lw_tbl := lw_at lw_m4 23 rfl
theorem q835 : (Jvm.Cond.fieldLinkNest "CombTable$TableReader" (139 : Nat) "CombTable$Kind" "due" "I" "CombTable") ∈ lw_tbl := lw_at lw_m4 26 rfl
theorem q838 : (Jvm.Cond.fieldLinkNest "CombTable$TableReader" (105 : Nat) "CombTable$Kind" "may" "I" "CombTable") ∈ lw_tbl := lw_at lw_m4 29 rfl
theorem q851 : (Jvm.Cond.stringRef "CombTable$TableReader" (124 : Nat) "opens") ∈ lw_tbl := lw_at lw_m4 42 rfl
theorem q852 : (Jvm.Cond.methodLink "CombTable$TableReader" (126 : Nat) ({ cls := "CombTable$TableReader", name := "is", desc := "(Ljava/lang/String;)Z" } : Jvm.MethodName)) ∈ lw_all := lw_g (lw_at lw_m4 43 rfl) rfl
theorem q853 : (Jvm.Cond.sameMethod "CombTable$TableReader" "CombTable$Reader" "is" "(Ljava/lang/String;)Z") ∈ lw_all := lw_g (lw_at lw_m4 44 rfl) rfl
theorem q855 : (Jvm.Cond.selects "CombTable$TableReader" ({ cls := "CombTable$TableReader", name := "is", desc := "(Ljava/lang/String;)Z" } : Jvm.MethodName) ({ cls := "CombTable$Reader", name := "is", desc := "(Ljava/lang/String;)Z" } : Jvm.MethodName)) ∈ lw_all := lw_g (lw_at lw_m4 46 rfl) rfl
theorem q856 : (Jvm.Cond.stringRef "CombTable$TableReader" (130 : Nat) "begins") ∈ lw_tbl := lw_at lw_m4 47 rfl
theorem q857 : (Jvm.Cond.methodLink "CombTable$TableReader" (94 : Nat) ({ cls := "CombTable$TableReader", name := "known", desc := "([LCombTable$Named;I)I" } : Jvm.MethodName)) ∈ lw_all := lw_g (lw_at lw_m4 48 rfl) rfl
theorem q858 : (Jvm.Cond.sameMethod "CombTable$TableReader" "CombTable$Reader" "known" "([LCombTable$Named;I)I") ∈ lw_all := lw_g (lw_at lw_m4 49 rfl) rfl
theorem q860 : (Jvm.Cond.selects "CombTable$TableReader" ({ cls := "CombTable$TableReader", name := "known", desc := "([LCombTable$Named;I)I" } : Jvm.MethodName) ({ cls := "CombTable$Reader", name := "known", desc := "([LCombTable$Named;I)I" } : Jvm.MethodName)) ∈ lw_all := lw_g (lw_at lw_m4 51 rfl) rfl
theorem q865 : (Jvm.Cond.methodLinkNest "CombTable$TableReader" (110 : Nat) ({ cls := "CombTable", name := "has", desc := "(II)Z" } : Jvm.MethodName) "CombTable") ∈ lw_tbl := lw_at lw_m4 56 rfl
theorem q868 : (Jvm.Cond.methodLink "CombTable$TableReader" (114 : Nat) ({ cls := "CombTable$TableReader", name := "comb", desc := "()V" } : Jvm.MethodName)) ∈ lw_all := lw_g (lw_at lw_m4 59 rfl) rfl
theorem q869 : (Jvm.Cond.privateMethod ({ cls := "CombTable$TableReader", name := "comb", desc := "()V" } : Jvm.MethodName)) ∈ lw_tbl := lw_at lw_m4 60 rfl
theorem q870 : (Jvm.Cond.instanceMethod ({ cls := "CombTable$TableReader", name := "comb", desc := "()V" } : Jvm.MethodName)) ∈ lw_all := lw_g (lw_at lw_m4 61 rfl) rfl
theorem q871 : (Jvm.Cond.code ({ cls := "CombTable$TableReader", name := "comb", desc := "()V" } : Jvm.MethodName) prog_16_method_6_code (1 : Nat) (Option.none : Option Jvm.ClassFile.FieldType)) ∈ lw_all := lw_g (lw_at lw_m4 62 rfl) rfl
theorem q872 : (Jvm.Cond.methodLink "CombTable$TableReader" (67 : Nat) ({ cls := "CombTable$TableReader", name := "sign", desc := "(I)V" } : Jvm.MethodName)) ∈ lw_all := lw_g (lw_at lw_m4 63 rfl) rfl
theorem q873 : (Jvm.Cond.sameMethod "CombTable$TableReader" "CombTable$Reader" "sign" "(I)V") ∈ lw_all := lw_g (lw_at lw_m4 64 rfl) rfl
theorem q875 : (Jvm.Cond.selects "CombTable$TableReader" ({ cls := "CombTable$TableReader", name := "sign", desc := "(I)V" } : Jvm.MethodName) ({ cls := "CombTable$Reader", name := "sign", desc := "(I)V" } : Jvm.MethodName)) ∈ lw_all := lw_g (lw_at lw_m4 66 rfl) rfl
theorem q883 : (Jvm.Cond.selects "CombTable$TableReader" ({ cls := "CombTable$Reader", name := "is", desc := "(I)Z" } : Jvm.MethodName) ({ cls := "CombTable$Reader", name := "is", desc := "(I)Z" } : Jvm.MethodName)) ∈ lw_all := lw_g (lw_at lw_m4 74 rfl) rfl
theorem q2032 : (Jvm.Cond.selects "CombTable$TableReader" ({ cls := "CombTable$Reader", name := "find", desc := "([Ljava/lang/String;)I" } : Jvm.MethodName) ({ cls := "CombTable$Reader", name := "find", desc := "([Ljava/lang/String;)I" } : Jvm.MethodName)) ∈ lw_all := lw_g (lw_at lw_m9 23 rfl) rfl
theorem q2037 : (Jvm.Cond.selects "CombTable$TableReader" ({ cls := "CombTable$Reader", name := "must", desc := "(ZI)V" } : Jvm.MethodName) ({ cls := "CombTable$Reader", name := "must", desc := "(ZI)V" } : Jvm.MethodName)) ∈ lw_all := lw_g (lw_at lw_m9 28 rfl) rfl
theorem q2042 : (Jvm.Cond.selects "CombTable$TableReader" ({ cls := "CombTable$Reader", name := "isName", desc := "()Z" } : Jvm.MethodName) ({ cls := "CombTable$Reader", name := "isName", desc := "()Z" } : Jvm.MethodName)) ∈ lw_all := lw_g (lw_at lw_m9 33 rfl) rfl
theorem q2047 : (Jvm.Cond.selects "CombTable$TableReader" ({ cls := "CombTable$Reader", name := "of", desc := "([LCombTable$Named;I)I" } : Jvm.MethodName) ({ cls := "CombTable$Reader", name := "of", desc := "([LCombTable$Named;I)I" } : Jvm.MethodName)) ∈ lw_all := lw_g (lw_at lw_m9 38 rfl) rfl
theorem q2054 : (Jvm.Cond.castable "CombTable$TableReader" "java/lang/Object") ∈ lw_tbl := lw_at lw_m9 45 rfl
theorem in_X7 : ∀ w ∈ wsX70, w ∈ lw_all := lw_in wsX70 [409, 411, 413, 415, 417, 419, 421, 423, 403, 405, 407] (by decide +kernel) (by decide +kernel)

/-! CombTable$TalkReader -/
set_option maxRecDepth 100000
def RX8 : String := "CombTable$TalkReader"
def TX8 : u_T := fun k => match k with
  | 0 => ("CombTable$Reader", "most", "I", true)
  | 1 => ("CombTable$Reader", "p", "I", false)
  | 2 => ("CombTable$Reader", "at", "I", false)
  | 3 => ("CombTable$Reader", "token", "I", false)
  | 4 => ("CombTable$Reader", "value", "I", false)
  | 5 => ("CombTable$Reader", "many", "I", false)
  | 6 => ("CombTable$Reader", "name", "J", false)
  | 7 => ("CombTable$Reader", "this$0", "LCombTable;", true)
  | 8 => ("CombTable$TalkReader", "why", "I", false)
  | _ => ("CombTable$TalkReader", "this$0", "LCombTable;", true)
def tyX8 : Nat → FieldType := fun k => match k with
  | 0 => .int
  | 1 => .int
  | 2 => .int
  | 3 => .int
  | 4 => .int
  | 5 => .int
  | 6 => .long
  | 7 => .object "CombTable"
  | 8 => .int
  | _ => .object "CombTable"
abbrev wsX80 : List Cond := u_ws RX8 TX8 10
-- two fields of one name: no nmX8
theorem tyX8_ok : ∀ k, k < 10 → parseFieldDescriptor (TX8 k).2.2.1 = some (tyX8 k) := by decide +kernel
abbrev cX8_init : ByteArray := prog_18_method_1_code
def yX8_init : MethodName := ⟨RX8, "<init>", "(LCombTable;)V"⟩
def dkwX8_init_0 : List UInt8 := [42, 43, 181, 0, 3, 42, 43, 17, 3, 132, 183, 0, 9, 177]
abbrev dktX8_init_0 : List UInt8 := dkwX8_init_0 ++ []
theorem dksX8_init_0 : cX8_init.data.toList.drop 0 = dktX8_init_0 := by decide +kernel
theorem dX8_init_0 : decode cX8_init 0 = .ok (.aload_n 0, 1) := dk_42 (dk_at dksX8_init_0 0 rfl rfl)
theorem dX8_init_1 : decode cX8_init 1 = .ok (.aload_n 1, 1) := dk_43 (dk_at dksX8_init_0 1 rfl rfl)
theorem dX8_init_2 : decode cX8_init 2 = .ok (.putfield 3, 3) := dk_181 0 3 (dk_at dksX8_init_0 2 rfl rfl)
theorem dX8_init_5 : decode cX8_init 5 = .ok (.aload_n 0, 1) := dk_42 (dk_at dksX8_init_0 5 rfl rfl)
theorem dX8_init_6 : decode cX8_init 6 = .ok (.aload_n 1, 1) := dk_43 (dk_at dksX8_init_0 6 rfl rfl)
theorem dX8_init_7 : decode cX8_init 7 = .ok (.sipush 900, 3) := dk_17 3 132 (dk_at dksX8_init_0 7 rfl rfl)
theorem dX8_init_10 : decode cX8_init 10 = .ok (.invokespecial 9, 3) := dk_183 0 9 (dk_at dksX8_init_0 10 rfl rfl)
theorem dX8_init_13 : decode cX8_init 13 = .ok (.return_, 1) := dk_177 (dk_at dksX8_init_0 13 rfl rfl)
abbrev cX8_read : ByteArray := prog_18_method_2_code
def yX8_read : MethodName := ⟨RX8, "read", "(LCombTable$Talk;)V"⟩
def dkwX8_read_6 : List UInt8 := [167, 255, 126, 177]
abbrev dktX8_read_6 : List UInt8 := dkwX8_read_6 ++ []
def dkwX8_read_5 : List UInt8 := [181, 0, 15, 42, 180, 0, 15, 158, 0, 10, 42, 8, 28, 182, 0, 76, 191, 42, 16, 59, 182, 0, 80]
abbrev dktX8_read_5 : List UInt8 := dkwX8_read_5 ++ dktX8_read_6
def dkwX8_read_4 : List UInt8 := [180, 0, 62, 43, 180, 0, 37, 180, 0, 66, 182, 0, 69, 54, 4, 42, 43, 29, 21, 4, 182, 0, 72]
abbrev dktX8_read_4 : List UInt8 := dkwX8_read_4 ++ dktX8_read_5
def dkwX8_read_3 : List UInt8 := [17, 1, 144, 162, 0, 7, 4, 167, 0, 4, 3, 7, 182, 0, 33, 42, 182, 0, 59, 42, 43, 180, 0, 37]
abbrev dktX8_read_3 : List UInt8 := dkwX8_read_3 ++ dktX8_read_4
def dkwX8_read_2 : List UInt8 := [182, 0, 52, 62, 42, 29, 2, 159, 0, 7, 4, 167, 0, 4, 3, 6, 182, 0, 33, 42, 43, 180, 0, 56]
abbrev dktX8_read_2 : List UInt8 := dkwX8_read_2 ++ dktX8_read_3
def dkwX8_read_1 : List UInt8 := [182, 0, 29, 4, 182, 0, 33, 42, 43, 180, 0, 37, 180, 0, 43, 43, 180, 0, 37, 180, 0, 49]
abbrev dktX8_read_1 : List UInt8 := dkwX8_read_1 ++ dktX8_read_2
def dkwX8_read_0 : List UInt8 := [42, 3, 181, 0, 15, 42, 182, 0, 19, 42, 180, 0, 23, 153, 0, 129, 42, 180, 0, 26, 61, 42, 42]
abbrev dktX8_read_0 : List UInt8 := dkwX8_read_0 ++ dktX8_read_1
theorem dksX8_read_0 : cX8_read.data.toList.drop 0 = dktX8_read_0 := by decide +kernel
theorem dksX8_read_1 : cX8_read.data.toList.drop 23 = dktX8_read_1 := dk_seg dksX8_read_0 23 rfl rfl
theorem dksX8_read_2 : cX8_read.data.toList.drop 45 = dktX8_read_2 := dk_seg dksX8_read_1 22 rfl rfl
theorem dksX8_read_3 : cX8_read.data.toList.drop 69 = dktX8_read_3 := dk_seg dksX8_read_2 24 rfl rfl
theorem dksX8_read_4 : cX8_read.data.toList.drop 93 = dktX8_read_4 := dk_seg dksX8_read_3 24 rfl rfl
theorem dksX8_read_5 : cX8_read.data.toList.drop 116 = dktX8_read_5 := dk_seg dksX8_read_4 23 rfl rfl
theorem dksX8_read_6 : cX8_read.data.toList.drop 139 = dktX8_read_6 := dk_seg dksX8_read_5 23 rfl rfl
theorem dX8_read_0 : decode cX8_read 0 = .ok (.aload_n 0, 1) := dk_42 (dk_at dksX8_read_0 0 rfl rfl)
theorem dX8_read_1 : decode cX8_read 1 = .ok (.iconst 0, 1) := dk_3 (dk_at dksX8_read_0 1 rfl rfl)
theorem dX8_read_2 : decode cX8_read 2 = .ok (.putfield 15, 3) := dk_181 0 15 (dk_at dksX8_read_0 2 rfl rfl)
theorem dX8_read_5 : decode cX8_read 5 = .ok (.aload_n 0, 1) := dk_42 (dk_at dksX8_read_0 5 rfl rfl)
theorem dX8_read_6 : decode cX8_read 6 = .ok (.invokevirtual 19, 3) := dk_182 0 19 (dk_at dksX8_read_0 6 rfl rfl)
theorem dX8_read_9 : decode cX8_read 9 = .ok (.aload_n 0, 1) := dk_42 (dk_at dksX8_read_0 9 rfl rfl)
theorem dX8_read_10 : decode cX8_read 10 = .ok (.getfield 23, 3) := dk_180 0 23 (dk_at dksX8_read_0 10 rfl rfl)
theorem dX8_read_13 : decode cX8_read 13 = .ok (.ifCond .eq 129, 3) := dk_153 0 129 (dk_at dksX8_read_0 13 rfl rfl)
theorem dX8_read_16 : decode cX8_read 16 = .ok (.aload_n 0, 1) := dk_42 (dk_at dksX8_read_0 16 rfl rfl)
theorem dX8_read_17 : decode cX8_read 17 = .ok (.getfield 26, 3) := dk_180 0 26 (dk_at dksX8_read_0 17 rfl rfl)
theorem dX8_read_20 : decode cX8_read 20 = .ok (.istore_n 2, 1) := dk_61 (dk_at dksX8_read_0 20 rfl rfl)
theorem dX8_read_21 : decode cX8_read 21 = .ok (.aload_n 0, 1) := dk_42 (dk_at dksX8_read_0 21 rfl rfl)
theorem dX8_read_22 : decode cX8_read 22 = .ok (.aload_n 0, 1) := dk_42 (dk_at dksX8_read_0 22 rfl rfl)
theorem dX8_read_23 : decode cX8_read 23 = .ok (.invokevirtual 29, 3) := dk_182 0 29 (dk_at dksX8_read_1 0 rfl rfl)
theorem dX8_read_26 : decode cX8_read 26 = .ok (.iconst 1, 1) := dk_4 (dk_at dksX8_read_1 3 rfl rfl)
theorem dX8_read_27 : decode cX8_read 27 = .ok (.invokevirtual 33, 3) := dk_182 0 33 (dk_at dksX8_read_1 4 rfl rfl)
theorem dX8_read_30 : decode cX8_read 30 = .ok (.aload_n 0, 1) := dk_42 (dk_at dksX8_read_1 7 rfl rfl)
theorem dX8_read_31 : decode cX8_read 31 = .ok (.aload_n 1, 1) := dk_43 (dk_at dksX8_read_1 8 rfl rfl)
theorem dX8_read_32 : decode cX8_read 32 = .ok (.getfield 37, 3) := dk_180 0 37 (dk_at dksX8_read_1 9 rfl rfl)
theorem dX8_read_35 : decode cX8_read 35 = .ok (.getfield 43, 3) := dk_180 0 43 (dk_at dksX8_read_1 12 rfl rfl)
theorem dX8_read_38 : decode cX8_read 38 = .ok (.aload_n 1, 1) := dk_43 (dk_at dksX8_read_1 15 rfl rfl)
theorem dX8_read_39 : decode cX8_read 39 = .ok (.getfield 37, 3) := dk_180 0 37 (dk_at dksX8_read_1 16 rfl rfl)
theorem dX8_read_42 : decode cX8_read 42 = .ok (.getfield 49, 3) := dk_180 0 49 (dk_at dksX8_read_1 19 rfl rfl)
theorem dX8_read_45 : decode cX8_read 45 = .ok (.invokevirtual 52, 3) := dk_182 0 52 (dk_at dksX8_read_2 0 rfl rfl)
theorem dX8_read_48 : decode cX8_read 48 = .ok (.istore_n 3, 1) := dk_62 (dk_at dksX8_read_2 3 rfl rfl)
theorem dX8_read_49 : decode cX8_read 49 = .ok (.aload_n 0, 1) := dk_42 (dk_at dksX8_read_2 4 rfl rfl)
theorem dX8_read_50 : decode cX8_read 50 = .ok (.iload_n 3, 1) := dk_29 (dk_at dksX8_read_2 5 rfl rfl)
theorem dX8_read_51 : decode cX8_read 51 = .ok (.iconst (-1), 1) := dk_2 (dk_at dksX8_read_2 6 rfl rfl)
theorem dX8_read_52 : decode cX8_read 52 = .ok (.if_icmp .eq 7, 3) := dk_159 0 7 (dk_at dksX8_read_2 7 rfl rfl)
theorem dX8_read_55 : decode cX8_read 55 = .ok (.iconst 1, 1) := dk_4 (dk_at dksX8_read_2 10 rfl rfl)
theorem dX8_read_56 : decode cX8_read 56 = .ok (.goto 4, 3) := dk_167 0 4 (dk_at dksX8_read_2 11 rfl rfl)
theorem dX8_read_59 : decode cX8_read 59 = .ok (.iconst 0, 1) := dk_3 (dk_at dksX8_read_2 14 rfl rfl)
theorem dX8_read_60 : decode cX8_read 60 = .ok (.iconst 3, 1) := dk_6 (dk_at dksX8_read_2 15 rfl rfl)
theorem dX8_read_61 : decode cX8_read 61 = .ok (.invokevirtual 33, 3) := dk_182 0 33 (dk_at dksX8_read_2 16 rfl rfl)
theorem dX8_read_64 : decode cX8_read 64 = .ok (.aload_n 0, 1) := dk_42 (dk_at dksX8_read_2 19 rfl rfl)
theorem dX8_read_65 : decode cX8_read 65 = .ok (.aload_n 1, 1) := dk_43 (dk_at dksX8_read_2 20 rfl rfl)
theorem dX8_read_66 : decode cX8_read 66 = .ok (.getfield 56, 3) := dk_180 0 56 (dk_at dksX8_read_2 21 rfl rfl)
theorem dX8_read_69 : decode cX8_read 69 = .ok (.sipush 400, 3) := dk_17 1 144 (dk_at dksX8_read_3 0 rfl rfl)
theorem dX8_read_72 : decode cX8_read 72 = .ok (.if_icmp .ge 7, 3) := dk_162 0 7 (dk_at dksX8_read_3 3 rfl rfl)
theorem dX8_read_75 : decode cX8_read 75 = .ok (.iconst 1, 1) := dk_4 (dk_at dksX8_read_3 6 rfl rfl)
theorem dX8_read_76 : decode cX8_read 76 = .ok (.goto 4, 3) := dk_167 0 4 (dk_at dksX8_read_3 7 rfl rfl)
theorem dX8_read_79 : decode cX8_read 79 = .ok (.iconst 0, 1) := dk_3 (dk_at dksX8_read_3 10 rfl rfl)
theorem dX8_read_80 : decode cX8_read 80 = .ok (.iconst 4, 1) := dk_7 (dk_at dksX8_read_3 11 rfl rfl)
theorem dX8_read_81 : decode cX8_read 81 = .ok (.invokevirtual 33, 3) := dk_182 0 33 (dk_at dksX8_read_3 12 rfl rfl)
theorem dX8_read_84 : decode cX8_read 84 = .ok (.aload_n 0, 1) := dk_42 (dk_at dksX8_read_3 15 rfl rfl)
theorem dX8_read_85 : decode cX8_read 85 = .ok (.invokevirtual 59, 3) := dk_182 0 59 (dk_at dksX8_read_3 16 rfl rfl)
theorem dX8_read_88 : decode cX8_read 88 = .ok (.aload_n 0, 1) := dk_42 (dk_at dksX8_read_3 19 rfl rfl)
theorem dX8_read_89 : decode cX8_read 89 = .ok (.aload_n 1, 1) := dk_43 (dk_at dksX8_read_3 20 rfl rfl)
theorem dX8_read_90 : decode cX8_read 90 = .ok (.getfield 37, 3) := dk_180 0 37 (dk_at dksX8_read_3 21 rfl rfl)
theorem dX8_read_93 : decode cX8_read 93 = .ok (.getfield 62, 3) := dk_180 0 62 (dk_at dksX8_read_4 0 rfl rfl)
theorem dX8_read_96 : decode cX8_read 96 = .ok (.aload_n 1, 1) := dk_43 (dk_at dksX8_read_4 3 rfl rfl)
theorem dX8_read_97 : decode cX8_read 97 = .ok (.getfield 37, 3) := dk_180 0 37 (dk_at dksX8_read_4 4 rfl rfl)
theorem dX8_read_100 : decode cX8_read 100 = .ok (.getfield 66, 3) := dk_180 0 66 (dk_at dksX8_read_4 7 rfl rfl)
theorem dX8_read_103 : decode cX8_read 103 = .ok (.invokevirtual 69, 3) := dk_182 0 69 (dk_at dksX8_read_4 10 rfl rfl)
theorem dX8_read_106 : decode cX8_read 106 = .ok (.istore 4, 2) := dk_54 4 (dk_at dksX8_read_4 13 rfl rfl)
theorem dX8_read_108 : decode cX8_read 108 = .ok (.aload_n 0, 1) := dk_42 (dk_at dksX8_read_4 15 rfl rfl)
theorem dX8_read_109 : decode cX8_read 109 = .ok (.aload_n 1, 1) := dk_43 (dk_at dksX8_read_4 16 rfl rfl)
theorem dX8_read_110 : decode cX8_read 110 = .ok (.iload_n 3, 1) := dk_29 (dk_at dksX8_read_4 17 rfl rfl)
theorem dX8_read_111 : decode cX8_read 111 = .ok (.iload 4, 2) := dk_21 4 (dk_at dksX8_read_4 18 rfl rfl)
theorem dX8_read_113 : decode cX8_read 113 = .ok (.invokevirtual 72, 3) := dk_182 0 72 (dk_at dksX8_read_4 20 rfl rfl)
theorem dX8_read_116 : decode cX8_read 116 = .ok (.putfield 15, 3) := dk_181 0 15 (dk_at dksX8_read_5 0 rfl rfl)
theorem dX8_read_119 : decode cX8_read 119 = .ok (.aload_n 0, 1) := dk_42 (dk_at dksX8_read_5 3 rfl rfl)
theorem dX8_read_120 : decode cX8_read 120 = .ok (.getfield 15, 3) := dk_180 0 15 (dk_at dksX8_read_5 4 rfl rfl)
theorem dX8_read_123 : decode cX8_read 123 = .ok (.ifCond .le 10, 3) := dk_158 0 10 (dk_at dksX8_read_5 7 rfl rfl)
theorem dX8_read_126 : decode cX8_read 126 = .ok (.aload_n 0, 1) := dk_42 (dk_at dksX8_read_5 10 rfl rfl)
theorem dX8_read_127 : decode cX8_read 127 = .ok (.iconst 5, 1) := dk_8 (dk_at dksX8_read_5 11 rfl rfl)
theorem dX8_read_128 : decode cX8_read 128 = .ok (.iload_n 2, 1) := dk_28 (dk_at dksX8_read_5 12 rfl rfl)
theorem dX8_read_129 : decode cX8_read 129 = .ok (.invokevirtual 76, 3) := dk_182 0 76 (dk_at dksX8_read_5 13 rfl rfl)
theorem dX8_read_132 : decode cX8_read 132 = .ok (.athrow, 1) := dk_191 (dk_at dksX8_read_5 16 rfl rfl)
theorem dX8_read_133 : decode cX8_read 133 = .ok (.aload_n 0, 1) := dk_42 (dk_at dksX8_read_5 17 rfl rfl)
theorem dX8_read_134 : decode cX8_read 134 = .ok (.bipush 59, 2) := dk_16 59 (dk_at dksX8_read_5 18 rfl rfl)
theorem dX8_read_136 : decode cX8_read 136 = .ok (.invokevirtual 80, 3) := dk_182 0 80 (dk_at dksX8_read_5 20 rfl rfl)
theorem dX8_read_139 : decode cX8_read 139 = .ok (.goto (-130), 3) := dk_167 255 126 (dk_at dksX8_read_6 0 rfl rfl)
theorem dX8_read_142 : decode cX8_read 142 = .ok (.return_, 1) := dk_177 (dk_at dksX8_read_6 3 rfl rfl)
theorem q99 : (Jvm.Cond.initialized "CombTable$TalkReader") ∈ lw_all := lw_g (lw_at lw_m1 10 rfl) rfl
theorem q242 : (Jvm.Cond.fieldLinkNest "CombTable$TalkReader" (43 : Nat) "CombTable$Table" "people" "[LCombTable$Who;" "CombTable") ∈ lw_tbl := lw_at lw_m1 153 rfl
theorem q248 : (Jvm.Cond.fieldLinkNest "CombTable$TalkReader" (62 : Nat) "CombTable$Table" "kinds" "[LCombTable$Kind;" "CombTable") ∈ lw_tbl := lw_at lw_m1 159 rfl
theorem q256 : (Jvm.Cond.fieldLinkNest "CombTable$TalkReader" (49 : Nat) "CombTable$Table" "whoMany" "I" "CombTable") ∈ lw_tbl := lw_at lw_m1 167 rfl
theorem q262 : (Jvm.Cond.fieldLinkNest "CombTable$TalkReader" (66 : Nat) "CombTable$Table" "kindMany" "I" "CombTable") ∈ lw_tbl := lw_at lw_m1 173 rfl
theorem q300 : (Jvm.Cond.fieldLinkNest "CombTable$TalkReader" (37 : Nat) "CombTable$Talk" "table" "LCombTable$Table;" "CombTable") ∈ lw_tbl := lw_at lw_m1 211 rfl
theorem q322 : (Jvm.Cond.fieldLinkNest "CombTable$TalkReader" (56 : Nat) "CombTable$Talk" "many" "I" "CombTable") ∈ lw_tbl := lw_at lw_m1 233 rfl
theorem q383 : (Jvm.Cond.fieldLink "CombTable$TalkReader" (26 : Nat) "CombTable$TalkReader" "at" "I") ∈ lw_all := lw_g (lw_at lw_m2 54 rfl) rfl
theorem q384 : (Jvm.Cond.sameField "CombTable$TalkReader" "CombTable$Reader" "at" "I") ∈ lw_all := lw_g (lw_at lw_m2 55 rfl) rfl
theorem q386 : (Jvm.Cond.fieldLink "CombTable$TalkReader" (23 : Nat) "CombTable$TalkReader" "token" "I") ∈ lw_all := lw_g (lw_at lw_m2 57 rfl) rfl
theorem q387 : (Jvm.Cond.sameField "CombTable$TalkReader" "CombTable$Reader" "token" "I") ∈ lw_all := lw_g (lw_at lw_m2 58 rfl) rfl
theorem q427 : (Jvm.Cond.instantiable "CombTable$TalkReader" (10 : Nat)) ∈ lw_all := lw_g (lw_at lw_m2 98 rfl) rfl
theorem q429 : (Jvm.Cond.instanceMethod ({ cls := "CombTable$TalkReader", name := "<init>", desc := "(LCombTable;)V" } : Jvm.MethodName)) ∈ lw_all := lw_g (lw_at lw_m2 100 rfl) rfl
theorem q430 : (Jvm.Cond.code ({ cls := "CombTable$TalkReader", name := "<init>", desc := "(LCombTable;)V" } : Jvm.MethodName) prog_18_method_1_code (2 : Nat) (Option.none : Option Jvm.ClassFile.FieldType)) ∈ lw_all := lw_g (lw_at lw_m2 101 rfl) rfl
theorem q431 : (Jvm.Cond.methodLink "CombTable$TalkReader" (9 : Nat) ({ cls := "CombTable$Reader", name := "<init>", desc := "(LCombTable;I)V" } : Jvm.MethodName)) ∈ lw_all := lw_g (lw_at lw_m2 102 rfl) rfl
theorem q432 : (Jvm.Cond.fieldLink "CombTable$TalkReader" (15 : Nat) "CombTable$TalkReader" "why" "I") ∈ lw_all := lw_g (lw_at lw_m2 103 rfl) rfl
theorem q434 : (Jvm.Cond.fieldLink "CombTable$TalkReader" (3 : Nat) "CombTable$TalkReader" "this$0" "LCombTable;") ∈ lw_all := lw_g (lw_at lw_m2 105 rfl) rfl
theorem q435 : (Jvm.Cond.lays "CombTable$TalkReader" "CombTable$TalkReader" "why" "I") ∈ lw_all := lw_g (lw_at lw_m2 106 rfl) rfl
theorem q436 : (Jvm.Cond.soleField "CombTable$TalkReader" "why") ∈ lw_all := lw_g (lw_at lw_m2 107 rfl) rfl
theorem q437 : (Jvm.Cond.laysFinal "CombTable$TalkReader" "CombTable$TalkReader" "this$0" "LCombTable;") ∈ lw_all := lw_g (lw_at lw_m2 108 rfl) rfl
theorem q438 : (Jvm.Cond.soleField "CombTable$TalkReader" "this$0") ∈ lw_all := lw_g (lw_at lw_m2 109 rfl) rfl
theorem q439 : (Jvm.Cond.laysFinal "CombTable$TalkReader" "CombTable$Reader" "most" "I") ∈ lw_all := lw_g (lw_at lw_m2 110 rfl) rfl
theorem q440 : (Jvm.Cond.lays "CombTable$TalkReader" "CombTable$Reader" "p" "I") ∈ lw_all := lw_g (lw_at lw_m2 111 rfl) rfl
theorem q441 : (Jvm.Cond.lays "CombTable$TalkReader" "CombTable$Reader" "at" "I") ∈ lw_all := lw_g (lw_at lw_m2 112 rfl) rfl
theorem q442 : (Jvm.Cond.lays "CombTable$TalkReader" "CombTable$Reader" "token" "I") ∈ lw_all := lw_g (lw_at lw_m2 113 rfl) rfl
theorem q443 : (Jvm.Cond.lays "CombTable$TalkReader" "CombTable$Reader" "value" "I") ∈ lw_all := lw_g (lw_at lw_m2 114 rfl) rfl
theorem q444 : (Jvm.Cond.lays "CombTable$TalkReader" "CombTable$Reader" "many" "I") ∈ lw_all := lw_g (lw_at lw_m2 115 rfl) rfl
theorem q445 : (Jvm.Cond.lays "CombTable$TalkReader" "CombTable$Reader" "name" "J") ∈ lw_all := lw_g (lw_at lw_m2 116 rfl) rfl
theorem q446 : (Jvm.Cond.laysFinal "CombTable$TalkReader" "CombTable$Reader" "this$0" "LCombTable;") ∈ lw_all := lw_g (lw_at lw_m2 117 rfl) rfl
theorem q447 : (Jvm.Cond.superclass "CombTable$TalkReader" "CombTable$Reader") ∈ lw_all := lw_g (lw_at lw_m2 118 rfl) rfl
theorem q671 : (Jvm.Cond.selects "CombTable$TalkReader" ({ cls := "CombTable$Reader", name := "next", desc := "()V" } : Jvm.MethodName) ({ cls := "CombTable$Reader", name := "next", desc := "()V" } : Jvm.MethodName)) ∈ lw_all := lw_g (lw_at lw_m3 102 rfl) rfl
theorem q704 : (Jvm.Cond.selects "CombTable$TalkReader" ({ cls := "CombTable$Reader", name := "is", desc := "(Ljava/lang/String;)Z" } : Jvm.MethodName) ({ cls := "CombTable$Reader", name := "is", desc := "(Ljava/lang/String;)Z" } : Jvm.MethodName)) ∈ lw_all := lw_g (lw_at lw_m3 135 rfl) rfl
theorem q766 : (Jvm.Cond.selects "CombTable$TalkReader" ({ cls := "CombTable$Reader", name := "wrong", desc := "(II)LCombTable$Fault;" } : Jvm.MethodName) ({ cls := "CombTable$Reader", name := "wrong", desc := "(II)LCombTable$Fault;" } : Jvm.MethodName)) ∈ lw_all := lw_g (lw_at lw_m3 197 rfl) rfl
theorem q884 : (Jvm.Cond.selects "CombTable$TalkReader" ({ cls := "CombTable$Reader", name := "is", desc := "(I)Z" } : Jvm.MethodName) ({ cls := "CombTable$Reader", name := "is", desc := "(I)Z" } : Jvm.MethodName)) ∈ lw_all := lw_g (lw_at lw_m4 75 rfl) rfl
theorem q962 : (Jvm.Cond.instanceMethod ({ cls := "CombTable$TalkReader", name := "read", desc := "(LCombTable$Talk;)V" } : Jvm.MethodName)) ∈ lw_all := lw_g (lw_at lw_m4 153 rfl) rfl
theorem q963 : (Jvm.Cond.selects "CombTable$TalkReader" ({ cls := "CombTable$TalkReader", name := "read", desc := "(LCombTable$Talk;)V" } : Jvm.MethodName) ({ cls := "CombTable$TalkReader", name := "read", desc := "(LCombTable$Talk;)V" } : Jvm.MethodName)) ∈ lw_all := lw_g (lw_at lw_m4 154 rfl) rfl
theorem q964 : (Jvm.Cond.code ({ cls := "CombTable$TalkReader", name := "read", desc := "(LCombTable$Talk;)V" } : Jvm.MethodName) prog_18_method_2_code (5 : Nat) (Option.none : Option Jvm.ClassFile.FieldType)) ∈ lw_all := lw_g (lw_at lw_m4 155 rfl) rfl
theorem q965 : (Jvm.Cond.methodLink "CombTable$TalkReader" (19 : Nat) ({ cls := "CombTable$TalkReader", name := "begin", desc := "()V" } : Jvm.MethodName)) ∈ lw_all := lw_g (lw_at lw_m4 156 rfl) rfl
theorem q966 : (Jvm.Cond.sameMethod "CombTable$TalkReader" "CombTable$Reader" "begin" "()V") ∈ lw_all := lw_g (lw_at lw_m4 157 rfl) rfl
theorem q967 : (Jvm.Cond.selects "CombTable$TalkReader" ({ cls := "CombTable$TalkReader", name := "begin", desc := "()V" } : Jvm.MethodName) ({ cls := "CombTable$Reader", name := "begin", desc := "()V" } : Jvm.MethodName)) ∈ lw_all := lw_g (lw_at lw_m4 158 rfl) rfl
theorem q968 : (Jvm.Cond.methodLink "CombTable$TalkReader" (29 : Nat) ({ cls := "CombTable$TalkReader", name := "isName", desc := "()Z" } : Jvm.MethodName)) ∈ lw_all := lw_g (lw_at lw_m4 159 rfl) rfl
theorem q969 : (Jvm.Cond.sameMethod "CombTable$TalkReader" "CombTable$Reader" "isName" "()Z") ∈ lw_all := lw_g (lw_at lw_m4 160 rfl) rfl
theorem q970 : (Jvm.Cond.selects "CombTable$TalkReader" ({ cls := "CombTable$TalkReader", name := "isName", desc := "()Z" } : Jvm.MethodName) ({ cls := "CombTable$Reader", name := "isName", desc := "()Z" } : Jvm.MethodName)) ∈ lw_all := lw_g (lw_at lw_m4 161 rfl) rfl
theorem q971 : (Jvm.Cond.methodLink "CombTable$TalkReader" (33 : Nat) ({ cls := "CombTable$TalkReader", name := "must", desc := "(ZI)V" } : Jvm.MethodName)) ∈ lw_all := lw_g (lw_at lw_m4 162 rfl) rfl
theorem q972 : (Jvm.Cond.sameMethod "CombTable$TalkReader" "CombTable$Reader" "must" "(ZI)V") ∈ lw_all := lw_g (lw_at lw_m4 163 rfl) rfl
theorem q973 : (Jvm.Cond.selects "CombTable$TalkReader" ({ cls := "CombTable$TalkReader", name := "must", desc := "(ZI)V" } : Jvm.MethodName) ({ cls := "CombTable$Reader", name := "must", desc := "(ZI)V" } : Jvm.MethodName)) ∈ lw_all := lw_g (lw_at lw_m4 164 rfl) rfl
theorem q974 : (Jvm.Cond.methodLink "CombTable$TalkReader" (52 : Nat) ({ cls := "CombTable$TalkReader", name := "of", desc := "([LCombTable$Named;I)I" } : Jvm.MethodName)) ∈ lw_all := lw_g (lw_at lw_m4 165 rfl) rfl
theorem q975 : (Jvm.Cond.sameMethod "CombTable$TalkReader" "CombTable$Reader" "of" "([LCombTable$Named;I)I") ∈ lw_all := lw_g (lw_at lw_m4 166 rfl) rfl
theorem q976 : (Jvm.Cond.selects "CombTable$TalkReader" ({ cls := "CombTable$TalkReader", name := "of", desc := "([LCombTable$Named;I)I" } : Jvm.MethodName) ({ cls := "CombTable$Reader", name := "of", desc := "([LCombTable$Named;I)I" } : Jvm.MethodName)) ∈ lw_all := lw_g (lw_at lw_m4 167 rfl) rfl
theorem q977 : (Jvm.Cond.methodLink "CombTable$TalkReader" (59 : Nat) ({ cls := "CombTable$TalkReader", name := "next", desc := "()V" } : Jvm.MethodName)) ∈ lw_all := lw_g (lw_at lw_m4 168 rfl) rfl
theorem q978 : (Jvm.Cond.sameMethod "CombTable$TalkReader" "CombTable$Reader" "next" "()V") ∈ lw_all := lw_g (lw_at lw_m4 169 rfl) rfl
theorem q979 : (Jvm.Cond.selects "CombTable$TalkReader" ({ cls := "CombTable$TalkReader", name := "next", desc := "()V" } : Jvm.MethodName) ({ cls := "CombTable$Reader", name := "next", desc := "()V" } : Jvm.MethodName)) ∈ lw_all := lw_g (lw_at lw_m4 170 rfl) rfl
theorem q980 : (Jvm.Cond.methodLink "CombTable$TalkReader" (69 : Nat) ({ cls := "CombTable$TalkReader", name := "known", desc := "([LCombTable$Named;I)I" } : Jvm.MethodName)) ∈ lw_all := lw_g (lw_at lw_m4 171 rfl) rfl
theorem q981 : (Jvm.Cond.sameMethod "CombTable$TalkReader" "CombTable$Reader" "known" "([LCombTable$Named;I)I") ∈ lw_all := lw_g (lw_at lw_m4 172 rfl) rfl
theorem q982 : (Jvm.Cond.selects "CombTable$TalkReader" ({ cls := "CombTable$TalkReader", name := "known", desc := "([LCombTable$Named;I)I" } : Jvm.MethodName) ({ cls := "CombTable$Reader", name := "known", desc := "([LCombTable$Named;I)I" } : Jvm.MethodName)) ∈ lw_all := lw_g (lw_at lw_m4 173 rfl) rfl
theorem q983 : (Jvm.Cond.methodLink "CombTable$TalkReader" (72 : Nat) ({ cls := "CombTable$Talk", name := "tries", desc := "(II)I" } : Jvm.MethodName)) ∈ lw_all := lw_g (lw_at lw_m4 174 rfl) rfl
theorem q984 : (Jvm.Cond.methodLink "CombTable$TalkReader" (76 : Nat) ({ cls := "CombTable$TalkReader", name := "wrong", desc := "(II)LCombTable$Fault;" } : Jvm.MethodName)) ∈ lw_all := lw_g (lw_at lw_m4 175 rfl) rfl
theorem q985 : (Jvm.Cond.sameMethod "CombTable$TalkReader" "CombTable$Reader" "wrong" "(II)LCombTable$Fault;") ∈ lw_all := lw_g (lw_at lw_m4 176 rfl) rfl
theorem q987 : (Jvm.Cond.selects "CombTable$TalkReader" ({ cls := "CombTable$TalkReader", name := "wrong", desc := "(II)LCombTable$Fault;" } : Jvm.MethodName) ({ cls := "CombTable$Reader", name := "wrong", desc := "(II)LCombTable$Fault;" } : Jvm.MethodName)) ∈ lw_all := lw_g (lw_at lw_m4 178 rfl) rfl
theorem q988 : (Jvm.Cond.methodLink "CombTable$TalkReader" (80 : Nat) ({ cls := "CombTable$TalkReader", name := "sign", desc := "(I)V" } : Jvm.MethodName)) ∈ lw_all := lw_g (lw_at lw_m4 179 rfl) rfl
theorem q989 : (Jvm.Cond.sameMethod "CombTable$TalkReader" "CombTable$Reader" "sign" "(I)V") ∈ lw_all := lw_g (lw_at lw_m4 180 rfl) rfl
theorem q990 : (Jvm.Cond.selects "CombTable$TalkReader" ({ cls := "CombTable$TalkReader", name := "sign", desc := "(I)V" } : Jvm.MethodName) ({ cls := "CombTable$Reader", name := "sign", desc := "(I)V" } : Jvm.MethodName)) ∈ lw_all := lw_g (lw_at lw_m4 181 rfl) rfl
theorem q2033 : (Jvm.Cond.selects "CombTable$TalkReader" ({ cls := "CombTable$Reader", name := "find", desc := "([Ljava/lang/String;)I" } : Jvm.MethodName) ({ cls := "CombTable$Reader", name := "find", desc := "([Ljava/lang/String;)I" } : Jvm.MethodName)) ∈ lw_all := lw_g (lw_at lw_m9 24 rfl) rfl
theorem q2038 : (Jvm.Cond.selects "CombTable$TalkReader" ({ cls := "CombTable$Reader", name := "must", desc := "(ZI)V" } : Jvm.MethodName) ({ cls := "CombTable$Reader", name := "must", desc := "(ZI)V" } : Jvm.MethodName)) ∈ lw_all := lw_g (lw_at lw_m9 29 rfl) rfl
theorem q2043 : (Jvm.Cond.selects "CombTable$TalkReader" ({ cls := "CombTable$Reader", name := "isName", desc := "()Z" } : Jvm.MethodName) ({ cls := "CombTable$Reader", name := "isName", desc := "()Z" } : Jvm.MethodName)) ∈ lw_all := lw_g (lw_at lw_m9 34 rfl) rfl
theorem q2048 : (Jvm.Cond.selects "CombTable$TalkReader" ({ cls := "CombTable$Reader", name := "of", desc := "([LCombTable$Named;I)I" } : Jvm.MethodName) ({ cls := "CombTable$Reader", name := "of", desc := "([LCombTable$Named;I)I" } : Jvm.MethodName)) ∈ lw_all := lw_g (lw_at lw_m9 39 rfl) rfl
theorem q2055 : (Jvm.Cond.castable "CombTable$TalkReader" "java/lang/Object") ∈ lw_tbl := lw_at lw_m9 46 rfl
theorem in_X8 : ∀ w ∈ wsX80, w ∈ lw_all := lw_in wsX80 [439, 440, 441, 442, 443, 444, 445, 446, 435, 437] (by decide +kernel) (by decide +kernel)

/-! CombTable$MinutesReader -/
set_option maxRecDepth 100000
def RX9 : String := "CombTable$MinutesReader"
def TX9 : u_T := fun k => match k with
  | 0 => ("CombTable$Reader", "most", "I", true)
  | 1 => ("CombTable$Reader", "p", "I", false)
  | 2 => ("CombTable$Reader", "at", "I", false)
  | 3 => ("CombTable$Reader", "token", "I", false)
  | 4 => ("CombTable$Reader", "value", "I", false)
  | 5 => ("CombTable$Reader", "many", "I", false)
  | 6 => ("CombTable$Reader", "name", "J", false)
  | 7 => ("CombTable$Reader", "this$0", "LCombTable;", true)
  | 8 => ("CombTable$MinutesReader", "lacks", "I", false)
  | _ => ("CombTable$MinutesReader", "this$0", "LCombTable;", true)
def tyX9 : Nat → FieldType := fun k => match k with
  | 0 => .int
  | 1 => .int
  | 2 => .int
  | 3 => .int
  | 4 => .int
  | 5 => .int
  | 6 => .long
  | 7 => .object "CombTable"
  | 8 => .int
  | _ => .object "CombTable"
abbrev wsX90 : List Cond := u_ws RX9 TX9 10
-- two fields of one name: no nmX9
theorem tyX9_ok : ∀ k, k < 10 → parseFieldDescriptor (TX9 k).2.2.1 = some (tyX9 k) := by decide +kernel
abbrev cX9_init : ByteArray := prog_10_method_1_code
def yX9_init : MethodName := ⟨RX9, "<init>", "(LCombTable;)V"⟩
def dkwX9_init_0 : List UInt8 := [42, 43, 181, 0, 3, 42, 43, 17, 1, 44, 183, 0, 9, 177]
abbrev dktX9_init_0 : List UInt8 := dkwX9_init_0 ++ []
theorem dksX9_init_0 : cX9_init.data.toList.drop 0 = dktX9_init_0 := by decide +kernel
theorem dX9_init_0 : decode cX9_init 0 = .ok (.aload_n 0, 1) := dk_42 (dk_at dksX9_init_0 0 rfl rfl)
theorem dX9_init_1 : decode cX9_init 1 = .ok (.aload_n 1, 1) := dk_43 (dk_at dksX9_init_0 1 rfl rfl)
theorem dX9_init_2 : decode cX9_init 2 = .ok (.putfield 3, 3) := dk_181 0 3 (dk_at dksX9_init_0 2 rfl rfl)
theorem dX9_init_5 : decode cX9_init 5 = .ok (.aload_n 0, 1) := dk_42 (dk_at dksX9_init_0 5 rfl rfl)
theorem dX9_init_6 : decode cX9_init 6 = .ok (.aload_n 1, 1) := dk_43 (dk_at dksX9_init_0 6 rfl rfl)
theorem dX9_init_7 : decode cX9_init 7 = .ok (.sipush 300, 3) := dk_17 1 44 (dk_at dksX9_init_0 7 rfl rfl)
theorem dX9_init_10 : decode cX9_init 10 = .ok (.invokespecial 9, 3) := dk_183 0 9 (dk_at dksX9_init_0 10 rfl rfl)
theorem dX9_init_13 : decode cX9_init 13 = .ok (.return_, 1) := dk_177 (dk_at dksX9_init_0 13 rfl rfl)
abbrev cX9_read : ByteArray := prog_10_method_2_code
def yX9_read : MethodName := ⟨RX9, "read", "(LCombTable$Minutes;)V"⟩
def dkwX9_read_9 : List UInt8 := [167, 255, 57, 177]
abbrev dktX9_read_9 : List UInt8 := dkwX9_read_9 ++ []
def dkwX9_read_8 : List UInt8 := [180, 0, 82, 182, 0, 72, 79, 43, 89, 180, 0, 15, 4, 96, 181, 0, 15, 42, 16, 59, 182, 0, 85]
abbrev dktX9_read_8 : List UInt8 := dkwX9_read_8 ++ dktX9_read_9
def dkwX9_read_7 : List UInt8 := [42, 42, 180, 0, 3, 180, 0, 45, 180, 0, 49, 180, 0, 78, 42, 180, 0, 3, 180, 0, 45, 180, 0, 49]
abbrev dktX9_read_7 : List UInt8 := dkwX9_read_7 ++ dktX9_read_8
def dkwX9_read_6 : List UInt8 := [180, 0, 3, 180, 0, 45, 180, 0, 49, 180, 0, 61, 182, 0, 72, 79, 43, 180, 0, 75, 43, 180, 0, 15]
abbrev dktX9_read_6 : List UInt8 := dkwX9_read_6 ++ dktX9_read_7
def dkwX9_read_5 : List UInt8 := [43, 180, 0, 68, 43, 180, 0, 15, 42, 42, 180, 0, 3, 180, 0, 45, 180, 0, 49, 180, 0, 55, 42]
abbrev dktX9_read_5 : List UInt8 := dkwX9_read_5 ++ dktX9_read_6
def dkwX9_read_4 : List UInt8 := [3, 6, 182, 0, 41, 42, 43, 180, 0, 15, 16, 24, 162, 0, 7, 4, 167, 0, 4, 3, 7, 182, 0, 41]
abbrev dktX9_read_4 : List UInt8 := dkwX9_read_4 ++ dktX9_read_5
def dkwX9_read_3 : List UInt8 := [42, 180, 0, 3, 180, 0, 45, 180, 0, 49, 180, 0, 61, 182, 0, 64, 2, 159, 0, 7, 4, 167, 0, 4]
abbrev dktX9_read_3 : List UInt8 := dkwX9_read_3 ++ dktX9_read_4
def dkwX9_read_2 : List UInt8 := [42, 42, 18, 31, 182, 0, 33, 154, 0, 37, 42, 42, 180, 0, 3, 180, 0, 45, 180, 0, 49, 180, 0, 55]
abbrev dktX9_read_2 : List UInt8 := dkwX9_read_2 ++ dktX9_read_3
def dkwX9_read_1 : List UInt8 := [18, 31, 182, 0, 33, 154, 0, 10, 42, 182, 0, 37, 153, 0, 7, 4, 167, 0, 4, 3, 4, 182, 0, 41]
abbrev dktX9_read_1 : List UInt8 := dkwX9_read_1 ++ dktX9_read_2
def dkwX9_read_0 : List UInt8 := [43, 3, 181, 0, 15, 42, 3, 181, 0, 21, 42, 182, 0, 24, 42, 180, 0, 28, 153, 0, 198, 42, 42]
abbrev dktX9_read_0 : List UInt8 := dkwX9_read_0 ++ dktX9_read_1
theorem dksX9_read_0 : cX9_read.data.toList.drop 0 = dktX9_read_0 := by decide +kernel
theorem dksX9_read_1 : cX9_read.data.toList.drop 23 = dktX9_read_1 := dk_seg dksX9_read_0 23 rfl rfl
theorem dksX9_read_2 : cX9_read.data.toList.drop 47 = dktX9_read_2 := dk_seg dksX9_read_1 24 rfl rfl
theorem dksX9_read_3 : cX9_read.data.toList.drop 71 = dktX9_read_3 := dk_seg dksX9_read_2 24 rfl rfl
theorem dksX9_read_4 : cX9_read.data.toList.drop 95 = dktX9_read_4 := dk_seg dksX9_read_3 24 rfl rfl
theorem dksX9_read_5 : cX9_read.data.toList.drop 119 = dktX9_read_5 := dk_seg dksX9_read_4 24 rfl rfl
theorem dksX9_read_6 : cX9_read.data.toList.drop 142 = dktX9_read_6 := dk_seg dksX9_read_5 23 rfl rfl
theorem dksX9_read_7 : cX9_read.data.toList.drop 166 = dktX9_read_7 := dk_seg dksX9_read_6 24 rfl rfl
theorem dksX9_read_8 : cX9_read.data.toList.drop 190 = dktX9_read_8 := dk_seg dksX9_read_7 24 rfl rfl
theorem dksX9_read_9 : cX9_read.data.toList.drop 213 = dktX9_read_9 := dk_seg dksX9_read_8 23 rfl rfl
theorem dX9_read_0 : decode cX9_read 0 = .ok (.aload_n 1, 1) := dk_43 (dk_at dksX9_read_0 0 rfl rfl)
theorem dX9_read_1 : decode cX9_read 1 = .ok (.iconst 0, 1) := dk_3 (dk_at dksX9_read_0 1 rfl rfl)
theorem dX9_read_2 : decode cX9_read 2 = .ok (.putfield 15, 3) := dk_181 0 15 (dk_at dksX9_read_0 2 rfl rfl)
theorem dX9_read_5 : decode cX9_read 5 = .ok (.aload_n 0, 1) := dk_42 (dk_at dksX9_read_0 5 rfl rfl)
theorem dX9_read_6 : decode cX9_read 6 = .ok (.iconst 0, 1) := dk_3 (dk_at dksX9_read_0 6 rfl rfl)
theorem dX9_read_7 : decode cX9_read 7 = .ok (.putfield 21, 3) := dk_181 0 21 (dk_at dksX9_read_0 7 rfl rfl)
theorem dX9_read_10 : decode cX9_read 10 = .ok (.aload_n 0, 1) := dk_42 (dk_at dksX9_read_0 10 rfl rfl)
theorem dX9_read_11 : decode cX9_read 11 = .ok (.invokevirtual 24, 3) := dk_182 0 24 (dk_at dksX9_read_0 11 rfl rfl)
theorem dX9_read_14 : decode cX9_read 14 = .ok (.aload_n 0, 1) := dk_42 (dk_at dksX9_read_0 14 rfl rfl)
theorem dX9_read_15 : decode cX9_read 15 = .ok (.getfield 28, 3) := dk_180 0 28 (dk_at dksX9_read_0 15 rfl rfl)
theorem dX9_read_18 : decode cX9_read 18 = .ok (.ifCond .eq 198, 3) := dk_153 0 198 (dk_at dksX9_read_0 18 rfl rfl)
theorem dX9_read_21 : decode cX9_read 21 = .ok (.aload_n 0, 1) := dk_42 (dk_at dksX9_read_0 21 rfl rfl)
theorem dX9_read_22 : decode cX9_read 22 = .ok (.aload_n 0, 1) := dk_42 (dk_at dksX9_read_0 22 rfl rfl)
theorem dX9_read_23 : decode cX9_read 23 = .ok (.ldc 31, 2) := dk_18 31 (dk_at dksX9_read_1 0 rfl rfl)
theorem dX9_read_25 : decode cX9_read 25 = .ok (.invokevirtual 33, 3) := dk_182 0 33 (dk_at dksX9_read_1 2 rfl rfl)
theorem dX9_read_28 : decode cX9_read 28 = .ok (.ifCond .ne 10, 3) := dk_154 0 10 (dk_at dksX9_read_1 5 rfl rfl)
theorem dX9_read_31 : decode cX9_read 31 = .ok (.aload_n 0, 1) := dk_42 (dk_at dksX9_read_1 8 rfl rfl)
theorem dX9_read_32 : decode cX9_read 32 = .ok (.invokevirtual 37, 3) := dk_182 0 37 (dk_at dksX9_read_1 9 rfl rfl)
theorem dX9_read_35 : decode cX9_read 35 = .ok (.ifCond .eq 7, 3) := dk_153 0 7 (dk_at dksX9_read_1 12 rfl rfl)
theorem dX9_read_38 : decode cX9_read 38 = .ok (.iconst 1, 1) := dk_4 (dk_at dksX9_read_1 15 rfl rfl)
theorem dX9_read_39 : decode cX9_read 39 = .ok (.goto 4, 3) := dk_167 0 4 (dk_at dksX9_read_1 16 rfl rfl)
theorem dX9_read_42 : decode cX9_read 42 = .ok (.iconst 0, 1) := dk_3 (dk_at dksX9_read_1 19 rfl rfl)
theorem dX9_read_43 : decode cX9_read 43 = .ok (.iconst 1, 1) := dk_4 (dk_at dksX9_read_1 20 rfl rfl)
theorem dX9_read_44 : decode cX9_read 44 = .ok (.invokevirtual 41, 3) := dk_182 0 41 (dk_at dksX9_read_1 21 rfl rfl)
theorem dX9_read_47 : decode cX9_read 47 = .ok (.aload_n 0, 1) := dk_42 (dk_at dksX9_read_2 0 rfl rfl)
theorem dX9_read_48 : decode cX9_read 48 = .ok (.aload_n 0, 1) := dk_42 (dk_at dksX9_read_2 1 rfl rfl)
theorem dX9_read_49 : decode cX9_read 49 = .ok (.ldc 31, 2) := dk_18 31 (dk_at dksX9_read_2 2 rfl rfl)
theorem dX9_read_51 : decode cX9_read 51 = .ok (.invokevirtual 33, 3) := dk_182 0 33 (dk_at dksX9_read_2 4 rfl rfl)
theorem dX9_read_54 : decode cX9_read 54 = .ok (.ifCond .ne 37, 3) := dk_154 0 37 (dk_at dksX9_read_2 7 rfl rfl)
theorem dX9_read_57 : decode cX9_read 57 = .ok (.aload_n 0, 1) := dk_42 (dk_at dksX9_read_2 10 rfl rfl)
theorem dX9_read_58 : decode cX9_read 58 = .ok (.aload_n 0, 1) := dk_42 (dk_at dksX9_read_2 11 rfl rfl)
theorem dX9_read_59 : decode cX9_read 59 = .ok (.getfield 3, 3) := dk_180 0 3 (dk_at dksX9_read_2 12 rfl rfl)
theorem dX9_read_62 : decode cX9_read 62 = .ok (.getfield 45, 3) := dk_180 0 45 (dk_at dksX9_read_2 15 rfl rfl)
theorem dX9_read_65 : decode cX9_read 65 = .ok (.getfield 49, 3) := dk_180 0 49 (dk_at dksX9_read_2 18 rfl rfl)
theorem dX9_read_68 : decode cX9_read 68 = .ok (.getfield 55, 3) := dk_180 0 55 (dk_at dksX9_read_2 21 rfl rfl)
theorem dX9_read_71 : decode cX9_read 71 = .ok (.aload_n 0, 1) := dk_42 (dk_at dksX9_read_3 0 rfl rfl)
theorem dX9_read_72 : decode cX9_read 72 = .ok (.getfield 3, 3) := dk_180 0 3 (dk_at dksX9_read_3 1 rfl rfl)
theorem dX9_read_75 : decode cX9_read 75 = .ok (.getfield 45, 3) := dk_180 0 45 (dk_at dksX9_read_3 4 rfl rfl)
theorem dX9_read_78 : decode cX9_read 78 = .ok (.getfield 49, 3) := dk_180 0 49 (dk_at dksX9_read_3 7 rfl rfl)
theorem dX9_read_81 : decode cX9_read 81 = .ok (.getfield 61, 3) := dk_180 0 61 (dk_at dksX9_read_3 10 rfl rfl)
theorem dX9_read_84 : decode cX9_read 84 = .ok (.invokevirtual 64, 3) := dk_182 0 64 (dk_at dksX9_read_3 13 rfl rfl)
theorem dX9_read_87 : decode cX9_read 87 = .ok (.iconst (-1), 1) := dk_2 (dk_at dksX9_read_3 16 rfl rfl)
theorem dX9_read_88 : decode cX9_read 88 = .ok (.if_icmp .eq 7, 3) := dk_159 0 7 (dk_at dksX9_read_3 17 rfl rfl)
theorem dX9_read_91 : decode cX9_read 91 = .ok (.iconst 1, 1) := dk_4 (dk_at dksX9_read_3 20 rfl rfl)
theorem dX9_read_92 : decode cX9_read 92 = .ok (.goto 4, 3) := dk_167 0 4 (dk_at dksX9_read_3 21 rfl rfl)
theorem dX9_read_95 : decode cX9_read 95 = .ok (.iconst 0, 1) := dk_3 (dk_at dksX9_read_4 0 rfl rfl)
theorem dX9_read_96 : decode cX9_read 96 = .ok (.iconst 3, 1) := dk_6 (dk_at dksX9_read_4 1 rfl rfl)
theorem dX9_read_97 : decode cX9_read 97 = .ok (.invokevirtual 41, 3) := dk_182 0 41 (dk_at dksX9_read_4 2 rfl rfl)
theorem dX9_read_100 : decode cX9_read 100 = .ok (.aload_n 0, 1) := dk_42 (dk_at dksX9_read_4 5 rfl rfl)
theorem dX9_read_101 : decode cX9_read 101 = .ok (.aload_n 1, 1) := dk_43 (dk_at dksX9_read_4 6 rfl rfl)
theorem dX9_read_102 : decode cX9_read 102 = .ok (.getfield 15, 3) := dk_180 0 15 (dk_at dksX9_read_4 7 rfl rfl)
theorem dX9_read_105 : decode cX9_read 105 = .ok (.bipush 24, 2) := dk_16 24 (dk_at dksX9_read_4 10 rfl rfl)
theorem dX9_read_107 : decode cX9_read 107 = .ok (.if_icmp .ge 7, 3) := dk_162 0 7 (dk_at dksX9_read_4 12 rfl rfl)
theorem dX9_read_110 : decode cX9_read 110 = .ok (.iconst 1, 1) := dk_4 (dk_at dksX9_read_4 15 rfl rfl)
theorem dX9_read_111 : decode cX9_read 111 = .ok (.goto 4, 3) := dk_167 0 4 (dk_at dksX9_read_4 16 rfl rfl)
theorem dX9_read_114 : decode cX9_read 114 = .ok (.iconst 0, 1) := dk_3 (dk_at dksX9_read_4 19 rfl rfl)
theorem dX9_read_115 : decode cX9_read 115 = .ok (.iconst 4, 1) := dk_7 (dk_at dksX9_read_4 20 rfl rfl)
theorem dX9_read_116 : decode cX9_read 116 = .ok (.invokevirtual 41, 3) := dk_182 0 41 (dk_at dksX9_read_4 21 rfl rfl)
theorem dX9_read_119 : decode cX9_read 119 = .ok (.aload_n 1, 1) := dk_43 (dk_at dksX9_read_5 0 rfl rfl)
theorem dX9_read_120 : decode cX9_read 120 = .ok (.getfield 68, 3) := dk_180 0 68 (dk_at dksX9_read_5 1 rfl rfl)
theorem dX9_read_123 : decode cX9_read 123 = .ok (.aload_n 1, 1) := dk_43 (dk_at dksX9_read_5 4 rfl rfl)
theorem dX9_read_124 : decode cX9_read 124 = .ok (.getfield 15, 3) := dk_180 0 15 (dk_at dksX9_read_5 5 rfl rfl)
theorem dX9_read_127 : decode cX9_read 127 = .ok (.aload_n 0, 1) := dk_42 (dk_at dksX9_read_5 8 rfl rfl)
theorem dX9_read_128 : decode cX9_read 128 = .ok (.aload_n 0, 1) := dk_42 (dk_at dksX9_read_5 9 rfl rfl)
theorem dX9_read_129 : decode cX9_read 129 = .ok (.getfield 3, 3) := dk_180 0 3 (dk_at dksX9_read_5 10 rfl rfl)
theorem dX9_read_132 : decode cX9_read 132 = .ok (.getfield 45, 3) := dk_180 0 45 (dk_at dksX9_read_5 13 rfl rfl)
theorem dX9_read_135 : decode cX9_read 135 = .ok (.getfield 49, 3) := dk_180 0 49 (dk_at dksX9_read_5 16 rfl rfl)
theorem dX9_read_138 : decode cX9_read 138 = .ok (.getfield 55, 3) := dk_180 0 55 (dk_at dksX9_read_5 19 rfl rfl)
theorem dX9_read_141 : decode cX9_read 141 = .ok (.aload_n 0, 1) := dk_42 (dk_at dksX9_read_5 22 rfl rfl)
theorem dX9_read_142 : decode cX9_read 142 = .ok (.getfield 3, 3) := dk_180 0 3 (dk_at dksX9_read_6 0 rfl rfl)
theorem dX9_read_145 : decode cX9_read 145 = .ok (.getfield 45, 3) := dk_180 0 45 (dk_at dksX9_read_6 3 rfl rfl)
theorem dX9_read_148 : decode cX9_read 148 = .ok (.getfield 49, 3) := dk_180 0 49 (dk_at dksX9_read_6 6 rfl rfl)
theorem dX9_read_151 : decode cX9_read 151 = .ok (.getfield 61, 3) := dk_180 0 61 (dk_at dksX9_read_6 9 rfl rfl)
theorem dX9_read_154 : decode cX9_read 154 = .ok (.invokevirtual 72, 3) := dk_182 0 72 (dk_at dksX9_read_6 12 rfl rfl)
theorem dX9_read_157 : decode cX9_read 157 = .ok (.iastore, 1) := dk_79 (dk_at dksX9_read_6 15 rfl rfl)
theorem dX9_read_158 : decode cX9_read 158 = .ok (.aload_n 1, 1) := dk_43 (dk_at dksX9_read_6 16 rfl rfl)
theorem dX9_read_159 : decode cX9_read 159 = .ok (.getfield 75, 3) := dk_180 0 75 (dk_at dksX9_read_6 17 rfl rfl)
theorem dX9_read_162 : decode cX9_read 162 = .ok (.aload_n 1, 1) := dk_43 (dk_at dksX9_read_6 20 rfl rfl)
theorem dX9_read_163 : decode cX9_read 163 = .ok (.getfield 15, 3) := dk_180 0 15 (dk_at dksX9_read_6 21 rfl rfl)
theorem dX9_read_166 : decode cX9_read 166 = .ok (.aload_n 0, 1) := dk_42 (dk_at dksX9_read_7 0 rfl rfl)
theorem dX9_read_167 : decode cX9_read 167 = .ok (.aload_n 0, 1) := dk_42 (dk_at dksX9_read_7 1 rfl rfl)
theorem dX9_read_168 : decode cX9_read 168 = .ok (.getfield 3, 3) := dk_180 0 3 (dk_at dksX9_read_7 2 rfl rfl)
theorem dX9_read_171 : decode cX9_read 171 = .ok (.getfield 45, 3) := dk_180 0 45 (dk_at dksX9_read_7 5 rfl rfl)
theorem dX9_read_174 : decode cX9_read 174 = .ok (.getfield 49, 3) := dk_180 0 49 (dk_at dksX9_read_7 8 rfl rfl)
theorem dX9_read_177 : decode cX9_read 177 = .ok (.getfield 78, 3) := dk_180 0 78 (dk_at dksX9_read_7 11 rfl rfl)
theorem dX9_read_180 : decode cX9_read 180 = .ok (.aload_n 0, 1) := dk_42 (dk_at dksX9_read_7 14 rfl rfl)
theorem dX9_read_181 : decode cX9_read 181 = .ok (.getfield 3, 3) := dk_180 0 3 (dk_at dksX9_read_7 15 rfl rfl)
theorem dX9_read_184 : decode cX9_read 184 = .ok (.getfield 45, 3) := dk_180 0 45 (dk_at dksX9_read_7 18 rfl rfl)
theorem dX9_read_187 : decode cX9_read 187 = .ok (.getfield 49, 3) := dk_180 0 49 (dk_at dksX9_read_7 21 rfl rfl)
theorem dX9_read_190 : decode cX9_read 190 = .ok (.getfield 82, 3) := dk_180 0 82 (dk_at dksX9_read_8 0 rfl rfl)
theorem dX9_read_193 : decode cX9_read 193 = .ok (.invokevirtual 72, 3) := dk_182 0 72 (dk_at dksX9_read_8 3 rfl rfl)
theorem dX9_read_196 : decode cX9_read 196 = .ok (.iastore, 1) := dk_79 (dk_at dksX9_read_8 6 rfl rfl)
theorem dX9_read_197 : decode cX9_read 197 = .ok (.aload_n 1, 1) := dk_43 (dk_at dksX9_read_8 7 rfl rfl)
theorem dX9_read_198 : decode cX9_read 198 = .ok (.dup, 1) := dk_89 (dk_at dksX9_read_8 8 rfl rfl)
theorem dX9_read_199 : decode cX9_read 199 = .ok (.getfield 15, 3) := dk_180 0 15 (dk_at dksX9_read_8 9 rfl rfl)
theorem dX9_read_202 : decode cX9_read 202 = .ok (.iconst 1, 1) := dk_4 (dk_at dksX9_read_8 12 rfl rfl)
theorem dX9_read_203 : decode cX9_read 203 = .ok (.iadd, 1) := dk_96 (dk_at dksX9_read_8 13 rfl rfl)
theorem dX9_read_204 : decode cX9_read 204 = .ok (.putfield 15, 3) := dk_181 0 15 (dk_at dksX9_read_8 14 rfl rfl)
theorem dX9_read_207 : decode cX9_read 207 = .ok (.aload_n 0, 1) := dk_42 (dk_at dksX9_read_8 17 rfl rfl)
theorem dX9_read_208 : decode cX9_read 208 = .ok (.bipush 59, 2) := dk_16 59 (dk_at dksX9_read_8 18 rfl rfl)
theorem dX9_read_210 : decode cX9_read 210 = .ok (.invokevirtual 85, 3) := dk_182 0 85 (dk_at dksX9_read_8 20 rfl rfl)
theorem dX9_read_213 : decode cX9_read 213 = .ok (.goto (-199), 3) := dk_167 255 57 (dk_at dksX9_read_9 0 rfl rfl)
theorem dX9_read_216 : decode cX9_read 216 = .ok (.return_, 1) := dk_177 (dk_at dksX9_read_9 3 rfl rfl)
abbrev cX9_one : ByteArray := prog_10_method_3_code
def yX9_one : MethodName := ⟨RX9, "one", "([LCombTable$Named;I)I"⟩
def dkwX9_one_2 : List UInt8 := [182, 0, 92, 2, 172]
abbrev dktX9_one_2 : List UInt8 := dkwX9_one_2 ++ []
def dkwX9_one_1 : List UInt8 := [162, 0, 7, 4, 167, 0, 4, 3, 7, 182, 0, 41, 42, 89, 180, 0, 21, 4, 96, 181, 0, 21, 42]
abbrev dktX9_one_1 : List UInt8 := dkwX9_one_1 ++ dktX9_one_2
def dkwX9_one_0 : List UInt8 := [42, 18, 31, 182, 0, 33, 154, 0, 10, 42, 43, 28, 182, 0, 89, 172, 42, 42, 180, 0, 21, 16, 8]
abbrev dktX9_one_0 : List UInt8 := dkwX9_one_0 ++ dktX9_one_1
theorem dksX9_one_0 : cX9_one.data.toList.drop 0 = dktX9_one_0 := by decide +kernel
theorem dksX9_one_1 : cX9_one.data.toList.drop 23 = dktX9_one_1 := dk_seg dksX9_one_0 23 rfl rfl
theorem dksX9_one_2 : cX9_one.data.toList.drop 46 = dktX9_one_2 := dk_seg dksX9_one_1 23 rfl rfl
theorem dX9_one_0 : decode cX9_one 0 = .ok (.aload_n 0, 1) := dk_42 (dk_at dksX9_one_0 0 rfl rfl)
theorem dX9_one_1 : decode cX9_one 1 = .ok (.ldc 31, 2) := dk_18 31 (dk_at dksX9_one_0 1 rfl rfl)
theorem dX9_one_3 : decode cX9_one 3 = .ok (.invokevirtual 33, 3) := dk_182 0 33 (dk_at dksX9_one_0 3 rfl rfl)
theorem dX9_one_6 : decode cX9_one 6 = .ok (.ifCond .ne 10, 3) := dk_154 0 10 (dk_at dksX9_one_0 6 rfl rfl)
theorem dX9_one_9 : decode cX9_one 9 = .ok (.aload_n 0, 1) := dk_42 (dk_at dksX9_one_0 9 rfl rfl)
theorem dX9_one_10 : decode cX9_one 10 = .ok (.aload_n 1, 1) := dk_43 (dk_at dksX9_one_0 10 rfl rfl)
theorem dX9_one_11 : decode cX9_one 11 = .ok (.iload_n 2, 1) := dk_28 (dk_at dksX9_one_0 11 rfl rfl)
theorem dX9_one_12 : decode cX9_one 12 = .ok (.invokevirtual 89, 3) := dk_182 0 89 (dk_at dksX9_one_0 12 rfl rfl)
theorem dX9_one_15 : decode cX9_one 15 = .ok (.ireturn, 1) := dk_172 (dk_at dksX9_one_0 15 rfl rfl)
theorem dX9_one_16 : decode cX9_one 16 = .ok (.aload_n 0, 1) := dk_42 (dk_at dksX9_one_0 16 rfl rfl)
theorem dX9_one_17 : decode cX9_one 17 = .ok (.aload_n 0, 1) := dk_42 (dk_at dksX9_one_0 17 rfl rfl)
theorem dX9_one_18 : decode cX9_one 18 = .ok (.getfield 21, 3) := dk_180 0 21 (dk_at dksX9_one_0 18 rfl rfl)
theorem dX9_one_21 : decode cX9_one 21 = .ok (.bipush 8, 2) := dk_16 8 (dk_at dksX9_one_0 21 rfl rfl)
theorem dX9_one_23 : decode cX9_one 23 = .ok (.if_icmp .ge 7, 3) := dk_162 0 7 (dk_at dksX9_one_1 0 rfl rfl)
theorem dX9_one_26 : decode cX9_one 26 = .ok (.iconst 1, 1) := dk_4 (dk_at dksX9_one_1 3 rfl rfl)
theorem dX9_one_27 : decode cX9_one 27 = .ok (.goto 4, 3) := dk_167 0 4 (dk_at dksX9_one_1 4 rfl rfl)
theorem dX9_one_30 : decode cX9_one 30 = .ok (.iconst 0, 1) := dk_3 (dk_at dksX9_one_1 7 rfl rfl)
theorem dX9_one_31 : decode cX9_one 31 = .ok (.iconst 4, 1) := dk_7 (dk_at dksX9_one_1 8 rfl rfl)
theorem dX9_one_32 : decode cX9_one 32 = .ok (.invokevirtual 41, 3) := dk_182 0 41 (dk_at dksX9_one_1 9 rfl rfl)
theorem dX9_one_35 : decode cX9_one 35 = .ok (.aload_n 0, 1) := dk_42 (dk_at dksX9_one_1 12 rfl rfl)
theorem dX9_one_36 : decode cX9_one 36 = .ok (.dup, 1) := dk_89 (dk_at dksX9_one_1 13 rfl rfl)
theorem dX9_one_37 : decode cX9_one 37 = .ok (.getfield 21, 3) := dk_180 0 21 (dk_at dksX9_one_1 14 rfl rfl)
theorem dX9_one_40 : decode cX9_one 40 = .ok (.iconst 1, 1) := dk_4 (dk_at dksX9_one_1 17 rfl rfl)
theorem dX9_one_41 : decode cX9_one 41 = .ok (.iadd, 1) := dk_96 (dk_at dksX9_one_1 18 rfl rfl)
theorem dX9_one_42 : decode cX9_one 42 = .ok (.putfield 21, 3) := dk_181 0 21 (dk_at dksX9_one_1 19 rfl rfl)
theorem dX9_one_45 : decode cX9_one 45 = .ok (.aload_n 0, 1) := dk_42 (dk_at dksX9_one_1 22 rfl rfl)
theorem dX9_one_46 : decode cX9_one 46 = .ok (.invokevirtual 92, 3) := dk_182 0 92 (dk_at dksX9_one_2 0 rfl rfl)
theorem dX9_one_49 : decode cX9_one 49 = .ok (.iconst (-1), 1) := dk_2 (dk_at dksX9_one_2 3 rfl rfl)
theorem dX9_one_50 : decode cX9_one 50 = .ok (.ireturn, 1) := dk_172 (dk_at dksX9_one_2 4 rfl rfl)
theorem q100 : (Jvm.Cond.initialized "CombTable$MinutesReader") ∈ lw_all := lw_g (lw_at lw_m1 11 rfl) rfl
theorem q243 : (Jvm.Cond.fieldLinkNest "CombTable$MinutesReader" (55 : Nat) "CombTable$Table" "people" "[LCombTable$Who;" "CombTable") ∈ lw_tbl := lw_at lw_m1 154 rfl
theorem q249 : (Jvm.Cond.fieldLinkNest "CombTable$MinutesReader" (78 : Nat) "CombTable$Table" "kinds" "[LCombTable$Kind;" "CombTable") ∈ lw_tbl := lw_at lw_m1 160 rfl
theorem q257 : (Jvm.Cond.fieldLinkNest "CombTable$MinutesReader" (61 : Nat) "CombTable$Table" "whoMany" "I" "CombTable") ∈ lw_tbl := lw_at lw_m1 168 rfl
theorem q264 : (Jvm.Cond.fieldLinkNest "CombTable$MinutesReader" (82 : Nat) "CombTable$Table" "kindMany" "I" "CombTable") ∈ lw_tbl := lw_at lw_m1 175 rfl
theorem q301 : (Jvm.Cond.fieldLinkNest "CombTable$MinutesReader" (49 : Nat) "CombTable$Talk" "table" "LCombTable$Table;" "CombTable") ∈ lw_tbl := lw_at lw_m1 212 rfl
theorem q354 : (Jvm.Cond.fieldLinkNest "CombTable$MinutesReader" (68 : Nat) "CombTable$Minutes" "who" "[I" "CombTable") ∈ lw_tbl := lw_at lw_m2 25 rfl
theorem q357 : (Jvm.Cond.fieldLinkNest "CombTable$MinutesReader" (75 : Nat) "CombTable$Minutes" "kind" "[I" "CombTable") ∈ lw_tbl := lw_at lw_m2 28 rfl
theorem q359 : (Jvm.Cond.fieldLinkNest "CombTable$MinutesReader" (15 : Nat) "CombTable$Minutes" "many" "I" "CombTable") ∈ lw_tbl := lw_at lw_m2 30 rfl
theorem q388 : (Jvm.Cond.fieldLink "CombTable$MinutesReader" (28 : Nat) "CombTable$MinutesReader" "token" "I") ∈ lw_all := lw_g (lw_at lw_m2 59 rfl) rfl
theorem q389 : (Jvm.Cond.sameField "CombTable$MinutesReader" "CombTable$Reader" "token" "I") ∈ lw_all := lw_g (lw_at lw_m2 60 rfl) rfl
theorem q449 : (Jvm.Cond.instantiable "CombTable$MinutesReader" (10 : Nat)) ∈ lw_all := lw_g (lw_at lw_m2 120 rfl) rfl
theorem q451 : (Jvm.Cond.instanceMethod ({ cls := "CombTable$MinutesReader", name := "<init>", desc := "(LCombTable;)V" } : Jvm.MethodName)) ∈ lw_all := lw_g (lw_at lw_m2 122 rfl) rfl
theorem q452 : (Jvm.Cond.code ({ cls := "CombTable$MinutesReader", name := "<init>", desc := "(LCombTable;)V" } : Jvm.MethodName) prog_10_method_1_code (2 : Nat) (Option.none : Option Jvm.ClassFile.FieldType)) ∈ lw_all := lw_g (lw_at lw_m2 123 rfl) rfl
theorem q453 : (Jvm.Cond.methodLink "CombTable$MinutesReader" (9 : Nat) ({ cls := "CombTable$Reader", name := "<init>", desc := "(LCombTable;I)V" } : Jvm.MethodName)) ∈ lw_all := lw_g (lw_at lw_m2 124 rfl) rfl
theorem q454 : (Jvm.Cond.fieldLink "CombTable$MinutesReader" (21 : Nat) "CombTable$MinutesReader" "lacks" "I") ∈ lw_all := lw_g (lw_at lw_m2 125 rfl) rfl
theorem q455 : (Jvm.Cond.fieldLink "CombTable$MinutesReader" (3 : Nat) "CombTable$MinutesReader" "this$0" "LCombTable;") ∈ lw_all := lw_g (lw_at lw_m2 126 rfl) rfl
theorem q456 : (Jvm.Cond.lays "CombTable$MinutesReader" "CombTable$MinutesReader" "lacks" "I") ∈ lw_all := lw_g (lw_at lw_m2 127 rfl) rfl
theorem q457 : (Jvm.Cond.soleField "CombTable$MinutesReader" "lacks") ∈ lw_all := lw_g (lw_at lw_m2 128 rfl) rfl
theorem q458 : (Jvm.Cond.laysFinal "CombTable$MinutesReader" "CombTable$MinutesReader" "this$0" "LCombTable;") ∈ lw_all := lw_g (lw_at lw_m2 129 rfl) rfl
theorem q459 : (Jvm.Cond.soleField "CombTable$MinutesReader" "this$0") ∈ lw_all := lw_g (lw_at lw_m2 130 rfl) rfl
theorem q460 : (Jvm.Cond.laysFinal "CombTable$MinutesReader" "CombTable$Reader" "most" "I") ∈ lw_all := lw_g (lw_at lw_m2 131 rfl) rfl
theorem q461 : (Jvm.Cond.lays "CombTable$MinutesReader" "CombTable$Reader" "p" "I") ∈ lw_all := lw_g (lw_at lw_m2 132 rfl) rfl
theorem q462 : (Jvm.Cond.lays "CombTable$MinutesReader" "CombTable$Reader" "at" "I") ∈ lw_all := lw_g (lw_at lw_m2 133 rfl) rfl
theorem q463 : (Jvm.Cond.lays "CombTable$MinutesReader" "CombTable$Reader" "token" "I") ∈ lw_all := lw_g (lw_at lw_m2 134 rfl) rfl
theorem q464 : (Jvm.Cond.lays "CombTable$MinutesReader" "CombTable$Reader" "value" "I") ∈ lw_all := lw_g (lw_at lw_m2 135 rfl) rfl
theorem q465 : (Jvm.Cond.lays "CombTable$MinutesReader" "CombTable$Reader" "many" "I") ∈ lw_all := lw_g (lw_at lw_m2 136 rfl) rfl
theorem q466 : (Jvm.Cond.lays "CombTable$MinutesReader" "CombTable$Reader" "name" "J") ∈ lw_all := lw_g (lw_at lw_m2 137 rfl) rfl
theorem q467 : (Jvm.Cond.laysFinal "CombTable$MinutesReader" "CombTable$Reader" "this$0" "LCombTable;") ∈ lw_all := lw_g (lw_at lw_m2 138 rfl) rfl
theorem q468 : (Jvm.Cond.superclass "CombTable$MinutesReader" "CombTable$Reader") ∈ lw_all := lw_g (lw_at lw_m2 139 rfl) rfl
theorem q525 : (Jvm.Cond.fieldLinkNest "CombTable$MinutesReader" (45 : Nat) "CombTable" "now" "LCombTable$Talk;" "CombTable") ∈ lw_tbl := lw_at lw_m2 196 rfl
theorem q668 : (Jvm.Cond.selects "CombTable$MinutesReader" ({ cls := "CombTable$Reader", name := "next", desc := "()V" } : Jvm.MethodName) ({ cls := "CombTable$Reader", name := "next", desc := "()V" } : Jvm.MethodName)) ∈ lw_all := lw_g (lw_at lw_m3 99 rfl) rfl
theorem q701 : (Jvm.Cond.selects "CombTable$MinutesReader" ({ cls := "CombTable$Reader", name := "is", desc := "(Ljava/lang/String;)Z" } : Jvm.MethodName) ({ cls := "CombTable$Reader", name := "is", desc := "(Ljava/lang/String;)Z" } : Jvm.MethodName)) ∈ lw_all := lw_g (lw_at lw_m3 132 rfl) rfl
theorem q763 : (Jvm.Cond.selects "CombTable$MinutesReader" ({ cls := "CombTable$Reader", name := "wrong", desc := "(II)LCombTable$Fault;" } : Jvm.MethodName) ({ cls := "CombTable$Reader", name := "wrong", desc := "(II)LCombTable$Fault;" } : Jvm.MethodName)) ∈ lw_all := lw_g (lw_at lw_m3 194 rfl) rfl
theorem q881 : (Jvm.Cond.selects "CombTable$MinutesReader" ({ cls := "CombTable$Reader", name := "is", desc := "(I)Z" } : Jvm.MethodName) ({ cls := "CombTable$Reader", name := "is", desc := "(I)Z" } : Jvm.MethodName)) ∈ lw_all := lw_g (lw_at lw_m4 72 rfl) rfl
theorem q1030 : (Jvm.Cond.instanceMethod ({ cls := "CombTable$MinutesReader", name := "read", desc := "(LCombTable$Minutes;)V" } : Jvm.MethodName)) ∈ lw_all := lw_g (lw_at lw_m4 221 rfl) rfl
theorem q1031 : (Jvm.Cond.selects "CombTable$MinutesReader" ({ cls := "CombTable$MinutesReader", name := "read", desc := "(LCombTable$Minutes;)V" } : Jvm.MethodName) ({ cls := "CombTable$MinutesReader", name := "read", desc := "(LCombTable$Minutes;)V" } : Jvm.MethodName)) ∈ lw_all := lw_g (lw_at lw_m4 222 rfl) rfl
theorem q1032 : (Jvm.Cond.code ({ cls := "CombTable$MinutesReader", name := "read", desc := "(LCombTable$Minutes;)V" } : Jvm.MethodName) prog_10_method_2_code (2 : Nat) (Option.none : Option Jvm.ClassFile.FieldType)) ∈ lw_all := lw_g (lw_at lw_m4 223 rfl) rfl
theorem q1033 : (Jvm.Cond.methodLink "CombTable$MinutesReader" (24 : Nat) ({ cls := "CombTable$MinutesReader", name := "begin", desc := "()V" } : Jvm.MethodName)) ∈ lw_all := lw_g (lw_at lw_m4 224 rfl) rfl
theorem q1034 : (Jvm.Cond.sameMethod "CombTable$MinutesReader" "CombTable$Reader" "begin" "()V") ∈ lw_all := lw_g (lw_at lw_m4 225 rfl) rfl
theorem q1035 : (Jvm.Cond.selects "CombTable$MinutesReader" ({ cls := "CombTable$MinutesReader", name := "begin", desc := "()V" } : Jvm.MethodName) ({ cls := "CombTable$Reader", name := "begin", desc := "()V" } : Jvm.MethodName)) ∈ lw_all := lw_g (lw_at lw_m4 226 rfl) rfl
theorem q1036 : (Jvm.Cond.stringRef "CombTable$MinutesReader" (31 : Nat) "any") ∈ lw_tbl := lw_at lw_m4 227 rfl
theorem q1037 : (Jvm.Cond.methodLink "CombTable$MinutesReader" (33 : Nat) ({ cls := "CombTable$MinutesReader", name := "is", desc := "(Ljava/lang/String;)Z" } : Jvm.MethodName)) ∈ lw_all := lw_g (lw_at lw_m4 228 rfl) rfl
theorem q1038 : (Jvm.Cond.sameMethod "CombTable$MinutesReader" "CombTable$Reader" "is" "(Ljava/lang/String;)Z") ∈ lw_all := lw_g (lw_at lw_m4 229 rfl) rfl
theorem q1039 : (Jvm.Cond.selects "CombTable$MinutesReader" ({ cls := "CombTable$MinutesReader", name := "is", desc := "(Ljava/lang/String;)Z" } : Jvm.MethodName) ({ cls := "CombTable$Reader", name := "is", desc := "(Ljava/lang/String;)Z" } : Jvm.MethodName)) ∈ lw_all := lw_g (lw_at lw_m4 230 rfl) rfl
theorem q1040 : (Jvm.Cond.methodLink "CombTable$MinutesReader" (37 : Nat) ({ cls := "CombTable$MinutesReader", name := "isName", desc := "()Z" } : Jvm.MethodName)) ∈ lw_all := lw_g (lw_at lw_m4 231 rfl) rfl
theorem q1041 : (Jvm.Cond.sameMethod "CombTable$MinutesReader" "CombTable$Reader" "isName" "()Z") ∈ lw_all := lw_g (lw_at lw_m4 232 rfl) rfl
theorem q1042 : (Jvm.Cond.selects "CombTable$MinutesReader" ({ cls := "CombTable$MinutesReader", name := "isName", desc := "()Z" } : Jvm.MethodName) ({ cls := "CombTable$Reader", name := "isName", desc := "()Z" } : Jvm.MethodName)) ∈ lw_all := lw_g (lw_at lw_m4 233 rfl) rfl
theorem q1043 : (Jvm.Cond.methodLink "CombTable$MinutesReader" (41 : Nat) ({ cls := "CombTable$MinutesReader", name := "must", desc := "(ZI)V" } : Jvm.MethodName)) ∈ lw_all := lw_g (lw_at lw_m4 234 rfl) rfl
theorem q1044 : (Jvm.Cond.sameMethod "CombTable$MinutesReader" "CombTable$Reader" "must" "(ZI)V") ∈ lw_all := lw_g (lw_at lw_m4 235 rfl) rfl
theorem q1045 : (Jvm.Cond.selects "CombTable$MinutesReader" ({ cls := "CombTable$MinutesReader", name := "must", desc := "(ZI)V" } : Jvm.MethodName) ({ cls := "CombTable$Reader", name := "must", desc := "(ZI)V" } : Jvm.MethodName)) ∈ lw_all := lw_g (lw_at lw_m4 236 rfl) rfl
theorem q1046 : (Jvm.Cond.methodLink "CombTable$MinutesReader" (64 : Nat) ({ cls := "CombTable$MinutesReader", name := "of", desc := "([LCombTable$Named;I)I" } : Jvm.MethodName)) ∈ lw_all := lw_g (lw_at lw_m4 237 rfl) rfl
theorem q1047 : (Jvm.Cond.sameMethod "CombTable$MinutesReader" "CombTable$Reader" "of" "([LCombTable$Named;I)I") ∈ lw_all := lw_g (lw_at lw_m4 238 rfl) rfl
theorem q1048 : (Jvm.Cond.selects "CombTable$MinutesReader" ({ cls := "CombTable$MinutesReader", name := "of", desc := "([LCombTable$Named;I)I" } : Jvm.MethodName) ({ cls := "CombTable$Reader", name := "of", desc := "([LCombTable$Named;I)I" } : Jvm.MethodName)) ∈ lw_all := lw_g (lw_at lw_m4 239 rfl) rfl
theorem q1049 : (Jvm.Cond.methodLink "CombTable$MinutesReader" (72 : Nat) ({ cls := "CombTable$MinutesReader", name := "one", desc := "([LCombTable$Named;I)I" } : Jvm.MethodName)) ∈ lw_all := lw_g (lw_at lw_m5 0 rfl) rfl
theorem q1050 : (Jvm.Cond.privateMethod ({ cls := "CombTable$MinutesReader", name := "one", desc := "([LCombTable$Named;I)I" } : Jvm.MethodName)) ∈ lw_tbl := lw_at lw_m5 1 rfl
theorem q1051 : (Jvm.Cond.instanceMethod ({ cls := "CombTable$MinutesReader", name := "one", desc := "([LCombTable$Named;I)I" } : Jvm.MethodName)) ∈ lw_all := lw_g (lw_at lw_m5 2 rfl) rfl
theorem q1052 : (Jvm.Cond.code ({ cls := "CombTable$MinutesReader", name := "one", desc := "([LCombTable$Named;I)I" } : Jvm.MethodName) prog_10_method_3_code (3 : Nat) (Option.some Jvm.ClassFile.FieldType.int)) ∈ lw_all := lw_g (lw_at lw_m5 3 rfl) rfl
theorem q1053 : (Jvm.Cond.methodLink "CombTable$MinutesReader" (89 : Nat) ({ cls := "CombTable$MinutesReader", name := "known", desc := "([LCombTable$Named;I)I" } : Jvm.MethodName)) ∈ lw_all := lw_g (lw_at lw_m5 4 rfl) rfl
theorem q1054 : (Jvm.Cond.sameMethod "CombTable$MinutesReader" "CombTable$Reader" "known" "([LCombTable$Named;I)I") ∈ lw_all := lw_g (lw_at lw_m5 5 rfl) rfl
theorem q1055 : (Jvm.Cond.selects "CombTable$MinutesReader" ({ cls := "CombTable$MinutesReader", name := "known", desc := "([LCombTable$Named;I)I" } : Jvm.MethodName) ({ cls := "CombTable$Reader", name := "known", desc := "([LCombTable$Named;I)I" } : Jvm.MethodName)) ∈ lw_all := lw_g (lw_at lw_m5 6 rfl) rfl
theorem q1056 : (Jvm.Cond.methodLink "CombTable$MinutesReader" (92 : Nat) ({ cls := "CombTable$MinutesReader", name := "next", desc := "()V" } : Jvm.MethodName)) ∈ lw_all := lw_g (lw_at lw_m5 7 rfl) rfl
theorem q1057 : (Jvm.Cond.sameMethod "CombTable$MinutesReader" "CombTable$Reader" "next" "()V") ∈ lw_all := lw_g (lw_at lw_m5 8 rfl) rfl
theorem q1058 : (Jvm.Cond.selects "CombTable$MinutesReader" ({ cls := "CombTable$MinutesReader", name := "next", desc := "()V" } : Jvm.MethodName) ({ cls := "CombTable$Reader", name := "next", desc := "()V" } : Jvm.MethodName)) ∈ lw_all := lw_g (lw_at lw_m5 9 rfl) rfl
theorem q1059 : (Jvm.Cond.methodLink "CombTable$MinutesReader" (85 : Nat) ({ cls := "CombTable$MinutesReader", name := "sign", desc := "(I)V" } : Jvm.MethodName)) ∈ lw_all := lw_g (lw_at lw_m5 10 rfl) rfl
theorem q1060 : (Jvm.Cond.sameMethod "CombTable$MinutesReader" "CombTable$Reader" "sign" "(I)V") ∈ lw_all := lw_g (lw_at lw_m5 11 rfl) rfl
theorem q1061 : (Jvm.Cond.selects "CombTable$MinutesReader" ({ cls := "CombTable$MinutesReader", name := "sign", desc := "(I)V" } : Jvm.MethodName) ({ cls := "CombTable$Reader", name := "sign", desc := "(I)V" } : Jvm.MethodName)) ∈ lw_all := lw_g (lw_at lw_m5 12 rfl) rfl
theorem q2030 : (Jvm.Cond.selects "CombTable$MinutesReader" ({ cls := "CombTable$Reader", name := "find", desc := "([Ljava/lang/String;)I" } : Jvm.MethodName) ({ cls := "CombTable$Reader", name := "find", desc := "([Ljava/lang/String;)I" } : Jvm.MethodName)) ∈ lw_all := lw_g (lw_at lw_m9 21 rfl) rfl
theorem q2035 : (Jvm.Cond.selects "CombTable$MinutesReader" ({ cls := "CombTable$Reader", name := "must", desc := "(ZI)V" } : Jvm.MethodName) ({ cls := "CombTable$Reader", name := "must", desc := "(ZI)V" } : Jvm.MethodName)) ∈ lw_all := lw_g (lw_at lw_m9 26 rfl) rfl
theorem q2040 : (Jvm.Cond.selects "CombTable$MinutesReader" ({ cls := "CombTable$Reader", name := "isName", desc := "()Z" } : Jvm.MethodName) ({ cls := "CombTable$Reader", name := "isName", desc := "()Z" } : Jvm.MethodName)) ∈ lw_all := lw_g (lw_at lw_m9 31 rfl) rfl
theorem q2045 : (Jvm.Cond.selects "CombTable$MinutesReader" ({ cls := "CombTable$Reader", name := "of", desc := "([LCombTable$Named;I)I" } : Jvm.MethodName) ({ cls := "CombTable$Reader", name := "of", desc := "([LCombTable$Named;I)I" } : Jvm.MethodName)) ∈ lw_all := lw_g (lw_at lw_m9 36 rfl) rfl
theorem q2056 : (Jvm.Cond.castable "CombTable$MinutesReader" "java/lang/Object") ∈ lw_tbl := lw_at lw_m9 47 rfl
theorem in_X9 : ∀ w ∈ wsX90, w ∈ lw_all := lw_in wsX90 [460, 461, 462, 463, 464, 465, 466, 467, 456, 458] (by decide +kernel) (by decide +kernel)

