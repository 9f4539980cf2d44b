-- ===== PART A: goes FIRST, ahead of the names: the tables' words, and 'selects' of the private methods out of them =====
/-- a private method of a class that the tables say can be made, by its rows of tables_1 -/
def lw_okq (q : MethodName × Nat) : Prop := (q.1.cls ≠ "java/lang/invoke/MethodHandle" ∧ q.1.cls ≠ "java/lang/invoke/VarHandle") ∧ Cond.instantiable q.1.cls q.2 ∈ tables_1 ∧ Cond.privateMethod q.1 ∈ tables_1 ∧ Cond.instanceMethod q.1 ∈ tables_1
set_option maxRecDepth 100000
theorem lw_t1 {w : Cond} (h : w ∈ tables_1_1) : w ∈ tables_1 := List.mem_append_left _ h
theorem lw_t2 {w : Cond} (h : w ∈ tables_1_2) : w ∈ tables_1 := List.mem_append_right _ (List.mem_append_left _ h)
theorem lw_t3 {w : Cond} (h : w ∈ tables_1_3) : w ∈ tables_1 := List.mem_append_right _ (List.mem_append_right _ (List.mem_append_left _ h))
theorem lw_t4 {w : Cond} (h : w ∈ tables_1_4) : w ∈ tables_1 := List.mem_append_right _ (List.mem_append_right _ (List.mem_append_right _ (List.mem_append_left _ h)))
theorem lw_t5 {w : Cond} (h : w ∈ tables_1_5) : w ∈ tables_1 := List.mem_append_right _ (List.mem_append_right _ (List.mem_append_right _ (List.mem_append_right _ (List.mem_append_left _ h))))
theorem lw_t6 {w : Cond} (h : w ∈ tables_1_6) : w ∈ tables_1 := List.mem_append_right _ (List.mem_append_right _ (List.mem_append_right _ (List.mem_append_right _ (List.mem_append_right _ (List.mem_append_left _ h)))))
theorem lw_t7 {w : Cond} (h : w ∈ tables_1_7) : w ∈ tables_1 := List.mem_append_right _ (List.mem_append_right _ (List.mem_append_right _ (List.mem_append_right _ (List.mem_append_right _ (List.mem_append_right _ (List.mem_append_left _ h))))))
theorem lw_t8 {w : Cond} (h : w ∈ tables_1_8) : w ∈ tables_1 := List.mem_append_right _ (List.mem_append_right _ (List.mem_append_right _ (List.mem_append_right _ (List.mem_append_right _ (List.mem_append_right _ (List.mem_append_right _ (List.mem_append_left _ h)))))))
theorem lw_t9 {w : Cond} (h : w ∈ tables_1_9) : w ∈ tables_1 := List.mem_append_right _ (List.mem_append_right _ (List.mem_append_right _ (List.mem_append_right _ (List.mem_append_right _ (List.mem_append_right _ (List.mem_append_right _ (List.mem_append_right _ h)))))))
theorem lw_p0 : lw_okq (⟨"java/lang/Throwable", "fillInStackTrace", "(I)Ljava/lang/Throwable;"⟩, 6) := ⟨⟨by decide +kernel, by decide +kernel⟩, lw_t1 (List.mem_of_getElem? (i := 76) rfl), lw_t1 (List.mem_of_getElem? (i := 74) rfl), lw_t1 (List.mem_of_getElem? (i := 75) rfl)⟩
theorem lw_p1 : lw_okq (⟨"CombTable", "four", "(I)V"⟩, 38) := ⟨⟨by decide +kernel, by decide +kernel⟩, lw_t1 (List.mem_of_getElem? (i := 33) rfl), lw_t3 (List.mem_of_getElem? (i := 69) rfl), lw_t3 (List.mem_of_getElem? (i := 70) rfl)⟩
theorem lw_p2 : lw_okq (⟨"CombTable", "taken", "()V"⟩, 38) := ⟨⟨by decide +kernel, by decide +kernel⟩, lw_t1 (List.mem_of_getElem? (i := 33) rfl), lw_t3 (List.mem_of_getElem? (i := 81) rfl), lw_t3 (List.mem_of_getElem? (i := 82) rfl)⟩
theorem lw_p3 : lw_okq (⟨"CombTable$TableReader", "line", "(I)V"⟩, 11) := ⟨⟨by decide +kernel, by decide +kernel⟩, lw_t2 (List.mem_of_getElem? (i := 41) rfl), lw_t3 (List.mem_of_getElem? (i := 204) rfl), lw_t3 (List.mem_of_getElem? (i := 205) rfl)⟩
theorem lw_p4 : lw_okq (⟨"CombTable$TableReader", "fresh", "()J"⟩, 11) := ⟨⟨by decide +kernel, by decide +kernel⟩, lw_t2 (List.mem_of_getElem? (i := 41) rfl), lw_t3 (List.mem_of_getElem? (i := 208) rfl), lw_t3 (List.mem_of_getElem? (i := 209) rfl)⟩
theorem lw_p5 : lw_okq (⟨"CombTable$TableReader", "kind", "()V"⟩, 11) := ⟨⟨by decide +kernel, by decide +kernel⟩, lw_t2 (List.mem_of_getElem? (i := 41) rfl), lw_t4 (List.mem_of_getElem? (i := 11) rfl), lw_t4 (List.mem_of_getElem? (i := 12) rfl)⟩
theorem lw_p6 : lw_okq (⟨"CombTable$TableReader", "comb", "()V"⟩, 11) := ⟨⟨by decide +kernel, by decide +kernel⟩, lw_t2 (List.mem_of_getElem? (i := 41) rfl), lw_t4 (List.mem_of_getElem? (i := 60) rfl), lw_t4 (List.mem_of_getElem? (i := 61) rfl)⟩
theorem lw_p7 : lw_okq (⟨"CombTable$Talk", "answered", "(II)I"⟩, 10) := ⟨⟨by decide +kernel, by decide +kernel⟩, lw_t1 (List.mem_of_getElem? (i := 137) rfl), lw_t4 (List.mem_of_getElem? (i := 111) rfl), lw_t4 (List.mem_of_getElem? (i := 112) rfl)⟩
theorem lw_p8 : lw_okq (⟨"CombTable$MinutesReader", "one", "([LCombTable$Named;I)I"⟩, 10) := ⟨⟨by decide +kernel, by decide +kernel⟩, lw_t2 (List.mem_of_getElem? (i := 120) rfl), lw_t5 (List.mem_of_getElem? (i := 1) rfl), lw_t5 (List.mem_of_getElem? (i := 2) rfl)⟩
theorem lw_p9 : lw_okq (⟨"CombTable", "ways", "(LCombTable$Minutes;I)I"⟩, 38) := ⟨⟨by decide +kernel, by decide +kernel⟩, lw_t1 (List.mem_of_getElem? (i := 33) rfl), lw_t5 (List.mem_of_getElem? (i := 23) rfl), lw_t5 (List.mem_of_getElem? (i := 24) rfl)⟩
theorem lw_p10 : lw_okq (⟨"CombTable", "wholesNow", "()I"⟩, 38) := ⟨⟨by decide +kernel, by decide +kernel⟩, lw_t1 (List.mem_of_getElem? (i := 33) rfl), lw_t5 (List.mem_of_getElem? (i := 41) rfl), lw_t5 (List.mem_of_getElem? (i := 42) rfl)⟩
theorem lw_p11 : lw_okq (⟨"CombTable", "wholesFrom", "(I)I"⟩, 38) := ⟨⟨by decide +kernel, by decide +kernel⟩, lw_t1 (List.mem_of_getElem? (i := 33) rfl), lw_t5 (List.mem_of_getElem? (i := 45) rfl), lw_t5 (List.mem_of_getElem? (i := 46) rfl)⟩
theorem lw_p12 : lw_okq (⟨"CombTable", "isTold", "(I)Z"⟩, 38) := ⟨⟨by decide +kernel, by decide +kernel⟩, lw_t1 (List.mem_of_getElem? (i := 33) rfl), lw_t5 (List.mem_of_getElem? (i := 63) rfl), lw_t5 (List.mem_of_getElem? (i := 64) rfl)⟩
theorem lw_p13 : lw_okq (⟨"CombTable", "isTalk", "(I)Z"⟩, 38) := ⟨⟨by decide +kernel, by decide +kernel⟩, lw_t1 (List.mem_of_getElem? (i := 33) rfl), lw_t5 (List.mem_of_getElem? (i := 73) rfl), lw_t5 (List.mem_of_getElem? (i := 74) rfl)⟩
theorem lw_p14 : lw_okq (⟨"CombTable", "ordersFrom", "(IIZ)I"⟩, 38) := ⟨⟨by decide +kernel, by decide +kernel⟩, lw_t1 (List.mem_of_getElem? (i := 33) rfl), lw_t5 (List.mem_of_getElem? (i := 86) rfl), lw_t5 (List.mem_of_getElem? (i := 87) rfl)⟩
theorem lw_p15 : lw_okq (⟨"CombTable", "choices", "(I)I"⟩, 38) := ⟨⟨by decide +kernel, by decide +kernel⟩, lw_t1 (List.mem_of_getElem? (i := 33) rfl), lw_t5 (List.mem_of_getElem? (i := 99) rfl), lw_t5 (List.mem_of_getElem? (i := 100) rfl)⟩
def lw_privs_1 : List (MethodName × Nat) := [(⟨"java/lang/Throwable", "fillInStackTrace", "(I)Ljava/lang/Throwable;"⟩, 6), (⟨"CombTable", "four", "(I)V"⟩, 38), (⟨"CombTable", "taken", "()V"⟩, 38), (⟨"CombTable$TableReader", "line", "(I)V"⟩, 11), (⟨"CombTable$TableReader", "fresh", "()J"⟩, 11), (⟨"CombTable$TableReader", "kind", "()V"⟩, 11), (⟨"CombTable$TableReader", "comb", "()V"⟩, 11), (⟨"CombTable$Talk", "answered", "(II)I"⟩, 10), (⟨"CombTable$MinutesReader", "one", "([LCombTable$Named;I)I"⟩, 10), (⟨"CombTable", "ways", "(LCombTable$Minutes;I)I"⟩, 38), (⟨"CombTable", "wholesNow", "()I"⟩, 38), (⟨"CombTable", "wholesFrom", "(I)I"⟩, 38), (⟨"CombTable", "isTold", "(I)Z"⟩, 38), (⟨"CombTable", "isTalk", "(I)Z"⟩, 38), (⟨"CombTable", "ordersFrom", "(IIZ)I"⟩, 38), (⟨"CombTable", "choices", "(I)I"⟩, 38)]
theorem lw_r1 : ∀ q ∈ lw_privs_1, lw_okq q := List.forall_mem_cons.mpr ⟨lw_p0, List.forall_mem_cons.mpr ⟨lw_p1, List.forall_mem_cons.mpr ⟨lw_p2, List.forall_mem_cons.mpr ⟨lw_p3, List.forall_mem_cons.mpr ⟨lw_p4, List.forall_mem_cons.mpr ⟨lw_p5, List.forall_mem_cons.mpr ⟨lw_p6, List.forall_mem_cons.mpr ⟨lw_p7, List.forall_mem_cons.mpr ⟨lw_p8, List.forall_mem_cons.mpr ⟨lw_p9, List.forall_mem_cons.mpr ⟨lw_p10, List.forall_mem_cons.mpr ⟨lw_p11, List.forall_mem_cons.mpr ⟨lw_p12, List.forall_mem_cons.mpr ⟨lw_p13, List.forall_mem_cons.mpr ⟨lw_p14, List.forall_mem_cons.mpr ⟨lw_p15, fun _ h => absurd h List.not_mem_nil⟩⟩⟩⟩⟩⟩⟩⟩⟩⟩⟩⟩⟩⟩⟩⟩
theorem lw_p16 : lw_okq (⟨"CombTable", "draw", "(I)I"⟩, 38) := ⟨⟨by decide +kernel, by decide +kernel⟩, lw_t1 (List.mem_of_getElem? (i := 33) rfl), lw_t5 (List.mem_of_getElem? (i := 104) rfl), lw_t5 (List.mem_of_getElem? (i := 105) rfl)⟩
theorem lw_p17 : lw_okq (⟨"CombTable", "leadsBy", "(IIII)I"⟩, 38) := ⟨⟨by decide +kernel, by decide +kernel⟩, lw_t1 (List.mem_of_getElem? (i := 33) rfl), lw_t5 (List.mem_of_getElem? (i := 117) rfl), lw_t5 (List.mem_of_getElem? (i := 118) rfl)⟩
theorem lw_p18 : lw_okq (⟨"CombTable", "leads", "(IIII)Z"⟩, 38) := ⟨⟨by decide +kernel, by decide +kernel⟩, lw_t1 (List.mem_of_getElem? (i := 33) rfl), lw_t5 (List.mem_of_getElem? (i := 125) rfl), lw_t5 (List.mem_of_getElem? (i := 126) rfl)⟩
theorem lw_p19 : lw_okq (⟨"CombTable", "keepFound", "(II)V"⟩, 38) := ⟨⟨by decide +kernel, by decide +kernel⟩, lw_t1 (List.mem_of_getElem? (i := 33) rfl), lw_t5 (List.mem_of_getElem? (i := 129) rfl), lw_t5 (List.mem_of_getElem? (i := 130) rfl)⟩
theorem lw_p20 : lw_okq (⟨"CombTable", "isWord", "(I)Z"⟩, 38) := ⟨⟨by decide +kernel, by decide +kernel⟩, lw_t1 (List.mem_of_getElem? (i := 33) rfl), lw_t5 (List.mem_of_getElem? (i := 141) rfl), lw_t5 (List.mem_of_getElem? (i := 142) rfl)⟩
theorem lw_p21 : lw_okq (⟨"CombTable", "isHad", "(IZIII)Z"⟩, 38) := ⟨⟨by decide +kernel, by decide +kernel⟩, lw_t1 (List.mem_of_getElem? (i := 33) rfl), lw_t5 (List.mem_of_getElem? (i := 145) rfl), lw_t5 (List.mem_of_getElem? (i := 146) rfl)⟩
theorem lw_p22 : lw_okq (⟨"CombTable", "isUnlike", "(III)Z"⟩, 38) := ⟨⟨by decide +kernel, by decide +kernel⟩, lw_t1 (List.mem_of_getElem? (i := 33) rfl), lw_t5 (List.mem_of_getElem? (i := 153) rfl), lw_t5 (List.mem_of_getElem? (i := 154) rfl)⟩
theorem lw_p23 : lw_okq (⟨"CombTable$SentenceReader", "any", "(I)LCombTable$Cond;"⟩, 12) := ⟨⟨by decide +kernel, by decide +kernel⟩, lw_t2 (List.mem_of_getElem? (i := 141) rfl), lw_t5 (List.mem_of_getElem? (i := 172) rfl), lw_t5 (List.mem_of_getElem? (i := 173) rfl)⟩
theorem lw_p24 : lw_okq (⟨"CombTable$SentenceReader", "both", "(I)LCombTable$Cond;"⟩, 12) := ⟨⟨by decide +kernel, by decide +kernel⟩, lw_t2 (List.mem_of_getElem? (i := 141) rfl), lw_t5 (List.mem_of_getElem? (i := 176) rfl), lw_t5 (List.mem_of_getElem? (i := 177) rfl)⟩
theorem lw_p25 : lw_okq (⟨"CombTable$SentenceReader", "single", "(I)LCombTable$Cond;"⟩, 12) := ⟨⟨by decide +kernel, by decide +kernel⟩, lw_t2 (List.mem_of_getElem? (i := 141) rfl), lw_t5 (List.mem_of_getElem? (i := 180) rfl), lw_t5 (List.mem_of_getElem? (i := 181) rfl)⟩
theorem lw_p26 : lw_okq (⟨"CombTableModel", "come", "(I)V"⟩, 58) := ⟨⟨by decide +kernel, by decide +kernel⟩, lw_t6 (List.mem_of_getElem? (i := 117) rfl), lw_t7 (List.mem_of_getElem? (i := 68) rfl), lw_t7 (List.mem_of_getElem? (i := 69) rfl)⟩
theorem lw_p27 : lw_okq (⟨"CombTableModel", "begin", "(I)V"⟩, 58) := ⟨⟨by decide +kernel, by decide +kernel⟩, lw_t6 (List.mem_of_getElem? (i := 117) rfl), lw_t7 (List.mem_of_getElem? (i := 80) rfl), lw_t7 (List.mem_of_getElem? (i := 81) rfl)⟩
theorem lw_p28 : lw_okq (⟨"CombTableModel", "take", "()I"⟩, 58) := ⟨⟨by decide +kernel, by decide +kernel⟩, lw_t6 (List.mem_of_getElem? (i := 117) rfl), lw_t7 (List.mem_of_getElem? (i := 84) rfl), lw_t7 (List.mem_of_getElem? (i := 85) rfl)⟩
theorem lw_p29 : lw_okq (⟨"CombTableModel", "go", "()V"⟩, 58) := ⟨⟨by decide +kernel, by decide +kernel⟩, lw_t6 (List.mem_of_getElem? (i := 117) rfl), lw_t7 (List.mem_of_getElem? (i := 88) rfl), lw_t7 (List.mem_of_getElem? (i := 89) rfl)⟩
theorem lw_p30 : lw_okq (⟨"CombTableModel", "byteAt", "(I)I"⟩, 58) := ⟨⟨by decide +kernel, by decide +kernel⟩, lw_t6 (List.mem_of_getElem? (i := 117) rfl), lw_t7 (List.mem_of_getElem? (i := 98) rfl), lw_t7 (List.mem_of_getElem? (i := 99) rfl)⟩
theorem lw_p31 : lw_okq (⟨"CombTableModel", "readLine", "()Z"⟩, 58) := ⟨⟨by decide +kernel, by decide +kernel⟩, lw_t6 (List.mem_of_getElem? (i := 117) rfl), lw_t7 (List.mem_of_getElem? (i := 104) rfl), lw_t7 (List.mem_of_getElem? (i := 105) rfl)⟩
def lw_privs_2 : List (MethodName × Nat) := [(⟨"CombTable", "draw", "(I)I"⟩, 38), (⟨"CombTable", "leadsBy", "(IIII)I"⟩, 38), (⟨"CombTable", "leads", "(IIII)Z"⟩, 38), (⟨"CombTable", "keepFound", "(II)V"⟩, 38), (⟨"CombTable", "isWord", "(I)Z"⟩, 38), (⟨"CombTable", "isHad", "(IZIII)Z"⟩, 38), (⟨"CombTable", "isUnlike", "(III)Z"⟩, 38), (⟨"CombTable$SentenceReader", "any", "(I)LCombTable$Cond;"⟩, 12), (⟨"CombTable$SentenceReader", "both", "(I)LCombTable$Cond;"⟩, 12), (⟨"CombTable$SentenceReader", "single", "(I)LCombTable$Cond;"⟩, 12), (⟨"CombTableModel", "come", "(I)V"⟩, 58), (⟨"CombTableModel", "begin", "(I)V"⟩, 58), (⟨"CombTableModel", "take", "()I"⟩, 58), (⟨"CombTableModel", "go", "()V"⟩, 58), (⟨"CombTableModel", "byteAt", "(I)I"⟩, 58), (⟨"CombTableModel", "readLine", "()Z"⟩, 58)]
theorem lw_r2 : ∀ q ∈ lw_privs_2, lw_okq q := List.forall_mem_cons.mpr ⟨lw_p16, List.forall_mem_cons.mpr ⟨lw_p17, List.forall_mem_cons.mpr ⟨lw_p18, List.forall_mem_cons.mpr ⟨lw_p19, List.forall_mem_cons.mpr ⟨lw_p20, List.forall_mem_cons.mpr ⟨lw_p21, List.forall_mem_cons.mpr ⟨lw_p22, List.forall_mem_cons.mpr ⟨lw_p23, List.forall_mem_cons.mpr ⟨lw_p24, List.forall_mem_cons.mpr ⟨lw_p25, List.forall_mem_cons.mpr ⟨lw_p26, List.forall_mem_cons.mpr ⟨lw_p27, List.forall_mem_cons.mpr ⟨lw_p28, List.forall_mem_cons.mpr ⟨lw_p29, List.forall_mem_cons.mpr ⟨lw_p30, List.forall_mem_cons.mpr ⟨lw_p31, fun _ h => absurd h List.not_mem_nil⟩⟩⟩⟩⟩⟩⟩⟩⟩⟩⟩⟩⟩⟩⟩⟩
theorem lw_p32 : lw_okq (⟨"CombTableModel", "isWord", "(I)Z"⟩, 58) := ⟨⟨by decide +kernel, by decide +kernel⟩, lw_t6 (List.mem_of_getElem? (i := 117) rfl), lw_t7 (List.mem_of_getElem? (i := 108) rfl), lw_t7 (List.mem_of_getElem? (i := 109) rfl)⟩
theorem lw_p33 : lw_okq (⟨"CombTableModel", "readWho", "()Z"⟩, 58) := ⟨⟨by decide +kernel, by decide +kernel⟩, lw_t6 (List.mem_of_getElem? (i := 117) rfl), lw_t7 (List.mem_of_getElem? (i := 121) rfl), lw_t7 (List.mem_of_getElem? (i := 122) rfl)⟩
theorem lw_p34 : lw_okq (⟨"CombTableModel", "bad", "(I)Z"⟩, 58) := ⟨⟨by decide +kernel, by decide +kernel⟩, lw_t6 (List.mem_of_getElem? (i := 117) rfl), lw_t7 (List.mem_of_getElem? (i := 125) rfl), lw_t7 (List.mem_of_getElem? (i := 126) rfl)⟩
theorem lw_p35 : lw_okq (⟨"CombTableModel", "readNew", "(I)Z"⟩, 58) := ⟨⟨by decide +kernel, by decide +kernel⟩, lw_t6 (List.mem_of_getElem? (i := 117) rfl), lw_t7 (List.mem_of_getElem? (i := 129) rfl), lw_t7 (List.mem_of_getElem? (i := 130) rfl)⟩
theorem lw_p36 : lw_okq (⟨"CombTableModel", "isName", "()Z"⟩, 58) := ⟨⟨by decide +kernel, by decide +kernel⟩, lw_t6 (List.mem_of_getElem? (i := 117) rfl), lw_t7 (List.mem_of_getElem? (i := 133) rfl), lw_t7 (List.mem_of_getElem? (i := 134) rfl)⟩
theorem lw_p37 : lw_okq (⟨"CombTableModel", "findIn", "([JII)I"⟩, 58) := ⟨⟨by decide +kernel, by decide +kernel⟩, lw_t6 (List.mem_of_getElem? (i := 117) rfl), lw_t7 (List.mem_of_getElem? (i := 137) rfl), lw_t7 (List.mem_of_getElem? (i := 138) rfl)⟩
theorem lw_p38 : lw_okq (⟨"CombTableModel", "readNumber", "(II)Z"⟩, 58) := ⟨⟨by decide +kernel, by decide +kernel⟩, lw_t6 (List.mem_of_getElem? (i := 117) rfl), lw_t7 (List.mem_of_getElem? (i := 141) rfl), lw_t7 (List.mem_of_getElem? (i := 142) rfl)⟩
theorem lw_p39 : lw_okq (⟨"CombTableModel", "readKind", "()Z"⟩, 58) := ⟨⟨by decide +kernel, by decide +kernel⟩, lw_t6 (List.mem_of_getElem? (i := 117) rfl), lw_t7 (List.mem_of_getElem? (i := 148) rfl), lw_t7 (List.mem_of_getElem? (i := 149) rfl)⟩
theorem lw_p40 : lw_okq (⟨"CombTableModel", "readMay", "()Z"⟩, 58) := ⟨⟨by decide +kernel, by decide +kernel⟩, lw_t6 (List.mem_of_getElem? (i := 117) rfl), lw_t7 (List.mem_of_getElem? (i := 152) rfl), lw_t7 (List.mem_of_getElem? (i := 153) rfl)⟩
theorem lw_p41 : lw_okq (⟨"CombTableModel", "readKindTold", "()Z"⟩, 58) := ⟨⟨by decide +kernel, by decide +kernel⟩, lw_t6 (List.mem_of_getElem? (i := 117) rfl), lw_t7 (List.mem_of_getElem? (i := 156) rfl), lw_t7 (List.mem_of_getElem? (i := 157) rfl)⟩
theorem lw_p42 : lw_okq (⟨"CombTableModel", "readComb", "()Z"⟩, 58) := ⟨⟨by decide +kernel, by decide +kernel⟩, lw_t6 (List.mem_of_getElem? (i := 117) rfl), lw_t7 (List.mem_of_getElem? (i := 163) rfl), lw_t7 (List.mem_of_getElem? (i := 164) rfl)⟩
theorem lw_p43 : lw_okq (⟨"CombTableModel", "readOnce", "(I)Z"⟩, 58) := ⟨⟨by decide +kernel, by decide +kernel⟩, lw_t6 (List.mem_of_getElem? (i := 117) rfl), lw_t7 (List.mem_of_getElem? (i := 167) rfl), lw_t7 (List.mem_of_getElem? (i := 168) rfl)⟩
theorem lw_p44 : lw_okq (⟨"CombTableModel", "readEnd", "()Z"⟩, 58) := ⟨⟨by decide +kernel, by decide +kernel⟩, lw_t6 (List.mem_of_getElem? (i := 117) rfl), lw_t7 (List.mem_of_getElem? (i := 171) rfl), lw_t7 (List.mem_of_getElem? (i := 172) rfl)⟩
theorem lw_p45 : lw_okq (⟨"CombTableModel", "isSign", "(I)Z"⟩, 58) := ⟨⟨by decide +kernel, by decide +kernel⟩, lw_t6 (List.mem_of_getElem? (i := 117) rfl), lw_t7 (List.mem_of_getElem? (i := 175) rfl), lw_t7 (List.mem_of_getElem? (i := 176) rfl)⟩
theorem lw_p46 : lw_okq (⟨"CombTableModel", "isWho", "(I)Z"⟩, 58) := ⟨⟨by decide +kernel, by decide +kernel⟩, lw_t6 (List.mem_of_getElem? (i := 117) rfl), lw_t7 (List.mem_of_getElem? (i := 187) rfl), lw_t7 (List.mem_of_getElem? (i := 188) rfl)⟩
theorem lw_p47 : lw_okq (⟨"CombTableModel", "isKind", "(I)Z"⟩, 58) := ⟨⟨by decide +kernel, by decide +kernel⟩, lw_t6 (List.mem_of_getElem? (i := 117) rfl), lw_t7 (List.mem_of_getElem? (i := 195) rfl), lw_t7 (List.mem_of_getElem? (i := 196) rfl)⟩
def lw_privs_3 : List (MethodName × Nat) := [(⟨"CombTableModel", "isWord", "(I)Z"⟩, 58), (⟨"CombTableModel", "readWho", "()Z"⟩, 58), (⟨"CombTableModel", "bad", "(I)Z"⟩, 58), (⟨"CombTableModel", "readNew", "(I)Z"⟩, 58), (⟨"CombTableModel", "isName", "()Z"⟩, 58), (⟨"CombTableModel", "findIn", "([JII)I"⟩, 58), (⟨"CombTableModel", "readNumber", "(II)Z"⟩, 58), (⟨"CombTableModel", "readKind", "()Z"⟩, 58), (⟨"CombTableModel", "readMay", "()Z"⟩, 58), (⟨"CombTableModel", "readKindTold", "()Z"⟩, 58), (⟨"CombTableModel", "readComb", "()Z"⟩, 58), (⟨"CombTableModel", "readOnce", "(I)Z"⟩, 58), (⟨"CombTableModel", "readEnd", "()Z"⟩, 58), (⟨"CombTableModel", "isSign", "(I)Z"⟩, 58), (⟨"CombTableModel", "isWho", "(I)Z"⟩, 58), (⟨"CombTableModel", "isKind", "(I)Z"⟩, 58)]
theorem lw_r3 : ∀ q ∈ lw_privs_3, lw_okq q := List.forall_mem_cons.mpr ⟨lw_p32, List.forall_mem_cons.mpr ⟨lw_p33, List.forall_mem_cons.mpr ⟨lw_p34, List.forall_mem_cons.mpr ⟨lw_p35, List.forall_mem_cons.mpr ⟨lw_p36, List.forall_mem_cons.mpr ⟨lw_p37, List.forall_mem_cons.mpr ⟨lw_p38, List.forall_mem_cons.mpr ⟨lw_p39, List.forall_mem_cons.mpr ⟨lw_p40, List.forall_mem_cons.mpr ⟨lw_p41, List.forall_mem_cons.mpr ⟨lw_p42, List.forall_mem_cons.mpr ⟨lw_p43, List.forall_mem_cons.mpr ⟨lw_p44, List.forall_mem_cons.mpr ⟨lw_p45, List.forall_mem_cons.mpr ⟨lw_p46, List.forall_mem_cons.mpr ⟨lw_p47, fun _ h => absurd h List.not_mem_nil⟩⟩⟩⟩⟩⟩⟩⟩⟩⟩⟩⟩⟩⟩⟩⟩
theorem lw_p48 : lw_okq (⟨"CombTableModel", "refuse", "()I"⟩, 58) := ⟨⟨by decide +kernel, by decide +kernel⟩, lw_t6 (List.mem_of_getElem? (i := 117) rfl), lw_t7 (List.mem_of_getElem? (i := 199) rfl), lw_t7 (List.mem_of_getElem? (i := 200) rfl)⟩
theorem lw_p49 : lw_okq (⟨"CombTableModel", "tries", "(II)I"⟩, 58) := ⟨⟨by decide +kernel, by decide +kernel⟩, lw_t6 (List.mem_of_getElem? (i := 117) rfl), lw_t7 (List.mem_of_getElem? (i := 207) rfl), lw_t7 (List.mem_of_getElem? (i := 208) rfl)⟩
theorem lw_p50 : lw_okq (⟨"CombTableModel", "lay", "()V"⟩, 58) := ⟨⟨by decide +kernel, by decide +kernel⟩, lw_t6 (List.mem_of_getElem? (i := 117) rfl), lw_t7 (List.mem_of_getElem? (i := 211) rfl), lw_t7 (List.mem_of_getElem? (i := 212) rfl)⟩
theorem lw_p51 : lw_okq (⟨"CombTableModel", "layRules", "(I[II)V"⟩, 58) := ⟨⟨by decide +kernel, by decide +kernel⟩, lw_t6 (List.mem_of_getElem? (i := 117) rfl), lw_t7 (List.mem_of_getElem? (i := 215) rfl), lw_t7 (List.mem_of_getElem? (i := 216) rfl)⟩
theorem lw_p52 : lw_okq (⟨"CombTableModel", "push", "(III)V"⟩, 58) := ⟨⟨by decide +kernel, by decide +kernel⟩, lw_t6 (List.mem_of_getElem? (i := 117) rfl), lw_t7 (List.mem_of_getElem? (i := 219) rfl), lw_t7 (List.mem_of_getElem? (i := 220) rfl)⟩
theorem lw_p53 : lw_okq (⟨"CombTableModel", "answers", "(III)I"⟩, 58) := ⟨⟨by decide +kernel, by decide +kernel⟩, lw_t6 (List.mem_of_getElem? (i := 117) rfl), lw_t7 (List.mem_of_getElem? (i := 223) rfl), lw_t7 (List.mem_of_getElem? (i := 224) rfl)⟩
theorem lw_p54 : lw_okq (⟨"CombTableModel", "ofKind", "(III)I"⟩, 58) := ⟨⟨by decide +kernel, by decide +kernel⟩, lw_t6 (List.mem_of_getElem? (i := 117) rfl), lw_t7 (List.mem_of_getElem? (i := 227) rfl), lw_t7 (List.mem_of_getElem? (i := 228) rfl)⟩
theorem lw_p55 : lw_okq (⟨"CombTableModel", "rule", "(II)I"⟩, 58) := ⟨⟨by decide +kernel, by decide +kernel⟩, lw_t6 (List.mem_of_getElem? (i := 117) rfl), lw_t7 (List.mem_of_getElem? (i := 231) rfl), lw_t7 (List.mem_of_getElem? (i := 232) rfl)⟩
theorem lw_p56 : lw_okq (⟨"CombTableModel", "wrongOf", "(III)I"⟩, 58) := ⟨⟨by decide +kernel, by decide +kernel⟩, lw_t6 (List.mem_of_getElem? (i := 117) rfl), lw_t7 (List.mem_of_getElem? (i := 235) rfl), lw_t7 (List.mem_of_getElem? (i := 236) rfl)⟩
theorem lw_p57 : lw_okq (⟨"CombTableModel", "keepWord", "(II)V"⟩, 58) := ⟨⟨by decide +kernel, by decide +kernel⟩, lw_t6 (List.mem_of_getElem? (i := 117) rfl), lw_t7 (List.mem_of_getElem? (i := 239) rfl), lw_t8 (List.mem_of_getElem? (i := 0) rfl)⟩
theorem lw_p58 : lw_okq (⟨"CombTableModel", "readWordSaid", "()Z"⟩, 58) := ⟨⟨by decide +kernel, by decide +kernel⟩, lw_t6 (List.mem_of_getElem? (i := 117) rfl), lw_t8 (List.mem_of_getElem? (i := 19) rfl), lw_t8 (List.mem_of_getElem? (i := 20) rfl)⟩
theorem lw_p59 : lw_okq (⟨"CombTableModel", "stateOf", "(II)I"⟩, 58) := ⟨⟨by decide +kernel, by decide +kernel⟩, lw_t6 (List.mem_of_getElem? (i := 117) rfl), lw_t8 (List.mem_of_getElem? (i := 31) rfl), lw_t8 (List.mem_of_getElem? (i := 32) rfl)⟩
theorem lw_p60 : lw_okq (⟨"CombTableModel", "isPromise", "(I)Z"⟩, 58) := ⟨⟨by decide +kernel, by decide +kernel⟩, lw_t6 (List.mem_of_getElem? (i := 117) rfl), lw_t8 (List.mem_of_getElem? (i := 35) rfl), lw_t8 (List.mem_of_getElem? (i := 36) rfl)⟩
theorem lw_p61 : lw_okq (⟨"CombTableModel", "nextWord", "(I)I"⟩, 58) := ⟨⟨by decide +kernel, by decide +kernel⟩, lw_t6 (List.mem_of_getElem? (i := 117) rfl), lw_t8 (List.mem_of_getElem? (i := 63) rfl), lw_t8 (List.mem_of_getElem? (i := 64) rfl)⟩
theorem lw_p62 : lw_okq (⟨"CombTableModel", "draw", "(I)I"⟩, 58) := ⟨⟨by decide +kernel, by decide +kernel⟩, lw_t6 (List.mem_of_getElem? (i := 117) rfl), lw_t8 (List.mem_of_getElem? (i := 67) rfl), lw_t8 (List.mem_of_getElem? (i := 68) rfl)⟩
theorem lw_p63 : lw_okq (⟨"CombTableModel", "readMinute", "()Z"⟩, 58) := ⟨⟨by decide +kernel, by decide +kernel⟩, lw_t6 (List.mem_of_getElem? (i := 117) rfl), lw_t8 (List.mem_of_getElem? (i := 76) rfl), lw_t8 (List.mem_of_getElem? (i := 77) rfl)⟩
def lw_privs_4 : List (MethodName × Nat) := [(⟨"CombTableModel", "refuse", "()I"⟩, 58), (⟨"CombTableModel", "tries", "(II)I"⟩, 58), (⟨"CombTableModel", "lay", "()V"⟩, 58), (⟨"CombTableModel", "layRules", "(I[II)V"⟩, 58), (⟨"CombTableModel", "push", "(III)V"⟩, 58), (⟨"CombTableModel", "answers", "(III)I"⟩, 58), (⟨"CombTableModel", "ofKind", "(III)I"⟩, 58), (⟨"CombTableModel", "rule", "(II)I"⟩, 58), (⟨"CombTableModel", "wrongOf", "(III)I"⟩, 58), (⟨"CombTableModel", "keepWord", "(II)V"⟩, 58), (⟨"CombTableModel", "readWordSaid", "()Z"⟩, 58), (⟨"CombTableModel", "stateOf", "(II)I"⟩, 58), (⟨"CombTableModel", "isPromise", "(I)Z"⟩, 58), (⟨"CombTableModel", "nextWord", "(I)I"⟩, 58), (⟨"CombTableModel", "draw", "(I)I"⟩, 58), (⟨"CombTableModel", "readMinute", "()Z"⟩, 58)]
theorem lw_r4 : ∀ q ∈ lw_privs_4, lw_okq q := List.forall_mem_cons.mpr ⟨lw_p48, List.forall_mem_cons.mpr ⟨lw_p49, List.forall_mem_cons.mpr ⟨lw_p50, List.forall_mem_cons.mpr ⟨lw_p51, List.forall_mem_cons.mpr ⟨lw_p52, List.forall_mem_cons.mpr ⟨lw_p53, List.forall_mem_cons.mpr ⟨lw_p54, List.forall_mem_cons.mpr ⟨lw_p55, List.forall_mem_cons.mpr ⟨lw_p56, List.forall_mem_cons.mpr ⟨lw_p57, List.forall_mem_cons.mpr ⟨lw_p58, List.forall_mem_cons.mpr ⟨lw_p59, List.forall_mem_cons.mpr ⟨lw_p60, List.forall_mem_cons.mpr ⟨lw_p61, List.forall_mem_cons.mpr ⟨lw_p62, List.forall_mem_cons.mpr ⟨lw_p63, fun _ h => absurd h List.not_mem_nil⟩⟩⟩⟩⟩⟩⟩⟩⟩⟩⟩⟩⟩⟩⟩⟩
theorem lw_p64 : lw_okq (⟨"CombTableModel", "readTorn", "(III)Z"⟩, 58) := ⟨⟨by decide +kernel, by decide +kernel⟩, lw_t6 (List.mem_of_getElem? (i := 117) rfl), lw_t8 (List.mem_of_getElem? (i := 80) rfl), lw_t8 (List.mem_of_getElem? (i := 81) rfl)⟩
theorem lw_p65 : lw_okq (⟨"CombTableModel", "fillings", "(II)I"⟩, 58) := ⟨⟨by decide +kernel, by decide +kernel⟩, lw_t6 (List.mem_of_getElem? (i := 117) rfl), lw_t8 (List.mem_of_getElem? (i := 88) rfl), lw_t8 (List.mem_of_getElem? (i := 89) rfl)⟩
theorem lw_p66 : lw_okq (⟨"CombTableModel", "beginFill", "()V"⟩, 58) := ⟨⟨by decide +kernel, by decide +kernel⟩, lw_t6 (List.mem_of_getElem? (i := 117) rfl), lw_t8 (List.mem_of_getElem? (i := 92) rfl), lw_t8 (List.mem_of_getElem? (i := 93) rfl)⟩
theorem lw_p67 : lw_okq (⟨"CombTableModel", "layTorn", "(II)V"⟩, 58) := ⟨⟨by decide +kernel, by decide +kernel⟩, lw_t6 (List.mem_of_getElem? (i := 117) rfl), lw_t8 (List.mem_of_getElem? (i := 96) rfl), lw_t8 (List.mem_of_getElem? (i := 97) rfl)⟩
theorem lw_p68 : lw_okq (⟨"CombTableModel", "fill", "(I)V"⟩, 58) := ⟨⟨by decide +kernel, by decide +kernel⟩, lw_t6 (List.mem_of_getElem? (i := 117) rfl), lw_t8 (List.mem_of_getElem? (i := 100) rfl), lw_t8 (List.mem_of_getElem? (i := 101) rfl)⟩
theorem lw_p69 : lw_okq (⟨"CombTableModel", "pop", "(I)V"⟩, 58) := ⟨⟨by decide +kernel, by decide +kernel⟩, lw_t6 (List.mem_of_getElem? (i := 117) rfl), lw_t8 (List.mem_of_getElem? (i := 104) rfl), lw_t8 (List.mem_of_getElem? (i := 105) rfl)⟩
theorem lw_p70 : lw_okq (⟨"CombTableModel", "isWhole", "()Z"⟩, 58) := ⟨⟨by decide +kernel, by decide +kernel⟩, lw_t6 (List.mem_of_getElem? (i := 117) rfl), lw_t8 (List.mem_of_getElem? (i := 121) rfl), lw_t8 (List.mem_of_getElem? (i := 122) rfl)⟩
theorem lw_p71 : lw_okq (⟨"CombTableModel", "isTalk", "(I)Z"⟩, 58) := ⟨⟨by decide +kernel, by decide +kernel⟩, lw_t6 (List.mem_of_getElem? (i := 117) rfl), lw_t8 (List.mem_of_getElem? (i := 128) rfl), lw_t8 (List.mem_of_getElem? (i := 129) rfl)⟩
theorem lw_p72 : lw_okq (⟨"CombTableModel", "tryOrders", "(I)V"⟩, 58) := ⟨⟨by decide +kernel, by decide +kernel⟩, lw_t6 (List.mem_of_getElem? (i := 117) rfl), lw_t8 (List.mem_of_getElem? (i := 140) rfl), lw_t8 (List.mem_of_getElem? (i := 141) rfl)⟩
theorem lw_p73 : lw_okq (⟨"CombTableModel", "roadOf", "(IIII)I"⟩, 58) := ⟨⟨by decide +kernel, by decide +kernel⟩, lw_t6 (List.mem_of_getElem? (i := 117) rfl), lw_t8 (List.mem_of_getElem? (i := 152) rfl), lw_t8 (List.mem_of_getElem? (i := 153) rfl)⟩
theorem lw_p74 : lw_okq (⟨"CombTableModel", "leads", "(IIIII)Z"⟩, 58) := ⟨⟨by decide +kernel, by decide +kernel⟩, lw_t6 (List.mem_of_getElem? (i := 117) rfl), lw_t8 (List.mem_of_getElem? (i := 160) rfl), lw_t8 (List.mem_of_getElem? (i := 161) rfl)⟩
theorem lw_p75 : lw_okq (⟨"CombTableModel", "isSo", "(II)Z"⟩, 58) := ⟨⟨by decide +kernel, by decide +kernel⟩, lw_t6 (List.mem_of_getElem? (i := 117) rfl), lw_t8 (List.mem_of_getElem? (i := 164) rfl), lw_t8 (List.mem_of_getElem? (i := 165) rfl)⟩
theorem lw_p76 : lw_okq (⟨"CombTableModel", "play", "(IZIII)I"⟩, 58) := ⟨⟨by decide +kernel, by decide +kernel⟩, lw_t6 (List.mem_of_getElem? (i := 117) rfl), lw_t8 (List.mem_of_getElem? (i := 176) rfl), lw_t8 (List.mem_of_getElem? (i := 177) rfl)⟩
theorem lw_p77 : lw_okq (⟨"CombTableModel", "parts", "(IIII)Z"⟩, 58) := ⟨⟨by decide +kernel, by decide +kernel⟩, lw_t6 (List.mem_of_getElem? (i := 117) rfl), lw_t8 (List.mem_of_getElem? (i := 188) rfl), lw_t8 (List.mem_of_getElem? (i := 189) rfl)⟩
theorem lw_p78 : lw_okq (⟨"CombTableModel", "mayBeSaid", "(III)Z"⟩, 58) := ⟨⟨by decide +kernel, by decide +kernel⟩, lw_t6 (List.mem_of_getElem? (i := 117) rfl), lw_t8 (List.mem_of_getElem? (i := 192) rfl), lw_t8 (List.mem_of_getElem? (i := 193) rfl)⟩
theorem lw_p79 : lw_okq (⟨"CombTableModel", "readOr", "()Z"⟩, 58) := ⟨⟨by decide +kernel, by decide +kernel⟩, lw_t6 (List.mem_of_getElem? (i := 117) rfl), lw_t8 (List.mem_of_getElem? (i := 200) rfl), lw_t8 (List.mem_of_getElem? (i := 201) rfl)⟩
def lw_privs_5 : List (MethodName × Nat) := [(⟨"CombTableModel", "readTorn", "(III)Z"⟩, 58), (⟨"CombTableModel", "fillings", "(II)I"⟩, 58), (⟨"CombTableModel", "beginFill", "()V"⟩, 58), (⟨"CombTableModel", "layTorn", "(II)V"⟩, 58), (⟨"CombTableModel", "fill", "(I)V"⟩, 58), (⟨"CombTableModel", "pop", "(I)V"⟩, 58), (⟨"CombTableModel", "isWhole", "()Z"⟩, 58), (⟨"CombTableModel", "isTalk", "(I)Z"⟩, 58), (⟨"CombTableModel", "tryOrders", "(I)V"⟩, 58), (⟨"CombTableModel", "roadOf", "(IIII)I"⟩, 58), (⟨"CombTableModel", "leads", "(IIIII)Z"⟩, 58), (⟨"CombTableModel", "isSo", "(II)Z"⟩, 58), (⟨"CombTableModel", "play", "(IZIII)I"⟩, 58), (⟨"CombTableModel", "parts", "(IIII)Z"⟩, 58), (⟨"CombTableModel", "mayBeSaid", "(III)Z"⟩, 58), (⟨"CombTableModel", "readOr", "()Z"⟩, 58)]
theorem lw_r5 : ∀ q ∈ lw_privs_5, lw_okq q := List.forall_mem_cons.mpr ⟨lw_p64, List.forall_mem_cons.mpr ⟨lw_p65, List.forall_mem_cons.mpr ⟨lw_p66, List.forall_mem_cons.mpr ⟨lw_p67, List.forall_mem_cons.mpr ⟨lw_p68, List.forall_mem_cons.mpr ⟨lw_p69, List.forall_mem_cons.mpr ⟨lw_p70, List.forall_mem_cons.mpr ⟨lw_p71, List.forall_mem_cons.mpr ⟨lw_p72, List.forall_mem_cons.mpr ⟨lw_p73, List.forall_mem_cons.mpr ⟨lw_p74, List.forall_mem_cons.mpr ⟨lw_p75, List.forall_mem_cons.mpr ⟨lw_p76, List.forall_mem_cons.mpr ⟨lw_p77, List.forall_mem_cons.mpr ⟨lw_p78, List.forall_mem_cons.mpr ⟨lw_p79, fun _ h => absurd h List.not_mem_nil⟩⟩⟩⟩⟩⟩⟩⟩⟩⟩⟩⟩⟩⟩⟩⟩
theorem lw_p80 : lw_okq (⟨"CombTableModel", "readAnd", "()Z"⟩, 58) := ⟨⟨by decide +kernel, by decide +kernel⟩, lw_t6 (List.mem_of_getElem? (i := 117) rfl), lw_t8 (List.mem_of_getElem? (i := 204) rfl), lw_t8 (List.mem_of_getElem? (i := 205) rfl)⟩
theorem lw_p81 : lw_okq (⟨"CombTableModel", "readOne", "()Z"⟩, 58) := ⟨⟨by decide +kernel, by decide +kernel⟩, lw_t6 (List.mem_of_getElem? (i := 117) rfl), lw_t8 (List.mem_of_getElem? (i := 208) rfl), lw_t8 (List.mem_of_getElem? (i := 209) rfl)⟩
theorem lw_p82 : lw_okq (⟨"CombTableModel", "readBracket", "()Z"⟩, 58) := ⟨⟨by decide +kernel, by decide +kernel⟩, lw_t6 (List.mem_of_getElem? (i := 117) rfl), lw_t8 (List.mem_of_getElem? (i := 212) rfl), lw_t8 (List.mem_of_getElem? (i := 213) rfl)⟩
theorem lw_p83 : lw_okq (⟨"CombTableModel", "readNot", "()Z"⟩, 58) := ⟨⟨by decide +kernel, by decide +kernel⟩, lw_t6 (List.mem_of_getElem? (i := 117) rfl), lw_t8 (List.mem_of_getElem? (i := 216) rfl), lw_t8 (List.mem_of_getElem? (i := 217) rfl)⟩
theorem lw_p84 : lw_okq (⟨"CombTableModel", "lays", "(IIII)I"⟩, 58) := ⟨⟨by decide +kernel, by decide +kernel⟩, lw_t6 (List.mem_of_getElem? (i := 117) rfl), lw_t8 (List.mem_of_getElem? (i := 220) rfl), lw_t8 (List.mem_of_getElem? (i := 221) rfl)⟩
theorem lw_p85 : lw_okq (⟨"CombTableModel", "readNamed", "(I)Z"⟩, 58) := ⟨⟨by decide +kernel, by decide +kernel⟩, lw_t6 (List.mem_of_getElem? (i := 117) rfl), lw_t8 (List.mem_of_getElem? (i := 224) rfl), lw_t8 (List.mem_of_getElem? (i := 225) rfl)⟩
theorem lw_p86 : lw_okq (⟨"CombTableModel", "readCompare", "(I)Z"⟩, 58) := ⟨⟨by decide +kernel, by decide +kernel⟩, lw_t6 (List.mem_of_getElem? (i := 117) rfl), lw_t8 (List.mem_of_getElem? (i := 228) rfl), lw_t8 (List.mem_of_getElem? (i := 229) rfl)⟩
theorem lw_p87 : lw_okq (⟨"CombTableModel", "holds", "(II)Z"⟩, 58) := ⟨⟨by decide +kernel, by decide +kernel⟩, lw_t6 (List.mem_of_getElem? (i := 117) rfl), lw_t8 (List.mem_of_getElem? (i := 236) rfl), lw_t8 (List.mem_of_getElem? (i := 237) rfl)⟩
theorem lw_p88 : lw_okq (⟨"CombTableModel", "valueOf", "(II)I"⟩, 58) := ⟨⟨by decide +kernel, by decide +kernel⟩, lw_t6 (List.mem_of_getElem? (i := 117) rfl), lw_t9 (List.mem_of_getElem? (i := 0) rfl), lw_t9 (List.mem_of_getElem? (i := 1) rfl)⟩
def lw_privs_6 : List (MethodName × Nat) := [(⟨"CombTableModel", "readAnd", "()Z"⟩, 58), (⟨"CombTableModel", "readOne", "()Z"⟩, 58), (⟨"CombTableModel", "readBracket", "()Z"⟩, 58), (⟨"CombTableModel", "readNot", "()Z"⟩, 58), (⟨"CombTableModel", "lays", "(IIII)I"⟩, 58), (⟨"CombTableModel", "readNamed", "(I)Z"⟩, 58), (⟨"CombTableModel", "readCompare", "(I)Z"⟩, 58), (⟨"CombTableModel", "holds", "(II)Z"⟩, 58), (⟨"CombTableModel", "valueOf", "(II)I"⟩, 58)]
theorem lw_r6 : ∀ q ∈ lw_privs_6, lw_okq q := List.forall_mem_cons.mpr ⟨lw_p80, List.forall_mem_cons.mpr ⟨lw_p81, List.forall_mem_cons.mpr ⟨lw_p82, List.forall_mem_cons.mpr ⟨lw_p83, List.forall_mem_cons.mpr ⟨lw_p84, List.forall_mem_cons.mpr ⟨lw_p85, List.forall_mem_cons.mpr ⟨lw_p86, List.forall_mem_cons.mpr ⟨lw_p87, List.forall_mem_cons.mpr ⟨lw_p88, fun _ h => absurd h List.not_mem_nil⟩⟩⟩⟩⟩⟩⟩⟩⟩
def lw_privs : List (MethodName × Nat) := lw_privs_1 ++ (lw_privs_2 ++ (lw_privs_3 ++ (lw_privs_4 ++ (lw_privs_5 ++ (lw_privs_6)))))
def lw_tbl : List Cond := k2_sels lw_privs ++ tables_1
theorem lw_privs_ok : ∀ q ∈ lw_privs, lw_okq q := by
  show ∀ q ∈ lw_privs_1 ++ (lw_privs_2 ++ (lw_privs_3 ++ (lw_privs_4 ++ (lw_privs_5 ++ (lw_privs_6))))), lw_okq q
  exact List.forall_mem_append.mpr ⟨lw_r1, List.forall_mem_append.mpr ⟨lw_r2, List.forall_mem_append.mpr ⟨lw_r3, List.forall_mem_append.mpr ⟨lw_r4, List.forall_mem_append.mpr ⟨lw_r5, lw_r6⟩⟩⟩⟩⟩
-- ===== ONE list of words for every method: the tables' words that hold all through a run =====
def lw_all : List Cond := lw_tbl.filter goodWord
/-- a word of the tables by its place: claim/WORDS.tsv -/
theorem lw_w {w : Cond} (i : Nat) (h : lw_tbl[i]? = some w) (g : goodWord w = true) : w ∈ lw_all := List.mem_filter.mpr ⟨List.mem_of_getElem? h, g⟩
theorem lw_all_tbl {w : Cond} (h : w ∈ lw_all) : w ∈ lw_tbl := (List.mem_filter.mp h).1
theorem lw_self : GoodIn lw_all lw_all := fun w h => ⟨h, good_of_word (List.mem_filter.mp h).2⟩
/-- a class's field words, by their places -/
theorem lw_in (ws : List Cond) (ps : List Nat) (hp : ws = ps.filterMap (fun i => lw_tbl[i]?)) (hg : ws.all goodWord = true) : ∀ w ∈ ws, w ∈ lw_all := by
  intro w h
  have h1 := List.all_eq_true.mp hg w h
  rw [hp] at h
  obtain ⟨i, -, hi⟩ := List.mem_filterMap.mp h
  exact lw_w i hi h1
/-- the words of a contract for the method y with code b, L locals, answer r -/
abbrev ws_ (y : MethodName) (b : ByteArray) (L : Nat) (r : Option FieldType) : List Cond := Cond.code y b L r :: lw_all
theorem lw_meth {y : MethodName} {b : ByteArray} {L : Nat} {r : Option FieldType} (h : Cond.code y b L r ∈ lw_all) : GoodIn lw_all (ws_ y b L r) := by
  intro w hw
  rcases List.mem_cons.mp hw with e | e
  · rw [e]
    exact lw_self _ h
  · exact lw_self _ e
theorem lw_app {a c : List Cond} (ha : ∀ w ∈ a, w ∈ lw_all) (hc : GoodIn lw_all c) : GoodIn lw_all (a ++ c) := by
  intro w hw
  rcases List.mem_append.mp hw with e | e
  · exact lw_self w (ha w e)
  · exact hc w e
/-- what a call through an object asks: cwV n hts (lw_V ..) -/
theorem lw_V {own : String} {idx : Nat} {C : String} {y : MethodName} {b : ByteArray} {L : Nat} {r : Option FieldType} (h1 : Cond.methodLink own idx y ∈ lw_all) (h2 : Cond.instanceMethod y ∈ lw_all) (h3 : Cond.selects C y y ∈ lw_all) (h4 : Cond.initialized C ∈ lw_all) (h5 : Cond.code y b L r ∈ lw_all) : GoodIn lw_all (wsV own idx C y (ws_ y b L r)) := by
  refine lw_app ?_ (lw_meth h5)
  intro w hw
  simp only [List.mem_cons, List.not_mem_nil, or_false] at hw
  rcases hw with e | e | e | e
  · rw [e]; exact h1
  · rw [e]; exact h2
  · rw [e]; exact h3
  · rw [e]; exact h4
/-- what a static call asks: va_cwS n hts (lw_S ..) -/
theorem lw_S {own : String} {idx : Nat} {y : MethodName} {b : ByteArray} {L : Nat} {r : Option FieldType} (h1 : Cond.methodLink own idx y ∈ lw_all) (h2 : Cond.static y ∈ lw_all) (h3 : Cond.initialized y.cls ∈ lw_all) (h4 : Cond.code y b L r ∈ lw_all) : GoodIn lw_all (va_wsS own idx y (ws_ y b L r)) := by
  refine lw_app ?_ (lw_meth h4)
  intro w hw
  simp only [List.mem_cons, List.not_mem_nil, or_false] at hw
  rcases hw with e | e | e
  · rw [e]; exact h1
  · rw [e]; exact h2
  · rw [e]; exact h3
/-- the words of a contract for a method WITH HANDLERS (hh: its table) -/
abbrev wsW_ (y : MethodName) (b : ByteArray) (L : Nat) (r : Option FieldType) (hh : List (Nat × Nat × Nat × Nat)) : List Cond := Cond.codeWith y b L r hh :: lw_all
theorem lw_methW {y : MethodName} {b : ByteArray} {L : Nat} {r : Option FieldType} {hh : List (Nat × Nat × Nat × Nat)} (h : Cond.codeWith y b L r hh ∈ lw_all) : GoodIn lw_all (wsW_ y b L r hh) := by
  intro w hw
  rcases List.mem_cons.mp hw with e | e
  · rw [e]
    exact lw_self _ h
  · exact lw_self _ e
/-- any list of words by their places (lw_in), good -/
theorem lw_good {ws : List Cond} (h : ∀ w ∈ ws, w ∈ lw_all) : GoodIn lw_all ws := fun w hw => lw_self w (h w hw)
/-- what a call of a method with handlers asks: vx_cwVW n hts (lw_VW ..), vx_cwSW n hts (lw_SW ..) -/
theorem lw_VW {own : String} {idx : Nat} {C : String} {y : MethodName} {b : ByteArray} {L : Nat} {r : Option FieldType} {hh : List (Nat × Nat × Nat × Nat)} (h1 : Cond.methodLink own idx y ∈ lw_all) (h2 : Cond.instanceMethod y ∈ lw_all) (h3 : Cond.selects C y y ∈ lw_all) (h4 : Cond.initialized C ∈ lw_all) (h5 : Cond.codeWith y b L r hh ∈ lw_all) : GoodIn lw_all (wsV own idx C y (wsW_ y b L r hh)) := by
  refine lw_app ?_ (lw_methW h5)
  intro w hw
  simp only [List.mem_cons, List.not_mem_nil, or_false] at hw
  rcases hw with e | e | e | e
  · rw [e]; exact h1
  · rw [e]; exact h2
  · rw [e]; exact h3
  · rw [e]; exact h4
theorem lw_SW {own : String} {idx : Nat} {y : MethodName} {b : ByteArray} {L : Nat} {r : Option FieldType} {hh : List (Nat × Nat × Nat × Nat)} (h1 : Cond.methodLink own idx y ∈ lw_all) (h2 : Cond.static y ∈ lw_all) (h3 : Cond.initialized y.cls ∈ lw_all) (h4 : Cond.codeWith y b L r hh ∈ lw_all) : GoodIn lw_all (va_wsS own idx y (wsW_ y b L r hh)) := by
  refine lw_app ?_ (lw_methW h4)
  intro w hw
  simp only [List.mem_cons, List.not_mem_nil, or_false] at hw
  rcases hw with e | e | e
  · rw [e]; exact h1
  · rw [e]; exact h2
  · rw [e]; exact h3
/-- a word by its place in its run of the tables -/
theorem lw_at {r : List Cond} (hr : ∀ w ∈ r, w ∈ lw_tbl) {w : Cond} (i : Nat) (h : r[i]? = some w) : w ∈ lw_tbl := hr w (List.mem_of_getElem? h)
theorem lw_g {w : Cond} (h : w ∈ lw_tbl) (g : goodWord w = true) : w ∈ lw_all := List.mem_filter.mpr ⟨h, g⟩
theorem lw_ms : ∀ w ∈ k2_sels lw_privs, w ∈ lw_tbl := fun w h => show w ∈ k2_sels lw_privs ++ tables_1 from List.mem_append_left _ h
theorem lw_m1 : ∀ w ∈ tables_1_1, w ∈ lw_tbl := fun w h => show w ∈ k2_sels lw_privs ++ tables_1 from List.mem_append_right (k2_sels lw_privs) (show w ∈ tables_1 from List.mem_append_left _ h)
theorem lw_m2 : ∀ w ∈ tables_1_2, w ∈ lw_tbl := fun w h => show w ∈ k2_sels lw_privs ++ tables_1 from List.mem_append_right (k2_sels lw_privs) (show w ∈ tables_1 from List.mem_append_right _ (List.mem_append_left _ h))
theorem lw_m3 : ∀ w ∈ tables_1_3, w ∈ lw_tbl := fun w h => show w ∈ k2_sels lw_privs ++ tables_1 from List.mem_append_right (k2_sels lw_privs) (show w ∈ tables_1 from List.mem_append_right _ (List.mem_append_right _ (List.mem_append_left _ h)))
theorem lw_m4 : ∀ w ∈ tables_1_4, w ∈ lw_tbl := fun w h => show w ∈ k2_sels lw_privs ++ tables_1 from List.mem_append_right (k2_sels lw_privs) (show w ∈ tables_1 from List.mem_append_right _ (List.mem_append_right _ (List.mem_append_right _ (List.mem_append_left _ h))))
theorem lw_m5 : ∀ w ∈ tables_1_5, w ∈ lw_tbl := fun w h => show w ∈ k2_sels lw_privs ++ tables_1 from List.mem_append_right (k2_sels lw_privs) (show w ∈ tables_1 from List.mem_append_right _ (List.mem_append_right _ (List.mem_append_right _ (List.mem_append_right _ (List.mem_append_left _ h)))))
theorem lw_m6 : ∀ w ∈ tables_1_6, w ∈ lw_tbl := fun w h => show w ∈ k2_sels lw_privs ++ tables_1 from List.mem_append_right (k2_sels lw_privs) (show w ∈ tables_1 from List.mem_append_right _ (List.mem_append_right _ (List.mem_append_right _ (List.mem_append_right _ (List.mem_append_right _ (List.mem_append_left _ h))))))
theorem lw_m7 : ∀ w ∈ tables_1_7, w ∈ lw_tbl := fun w h => show w ∈ k2_sels lw_privs ++ tables_1 from List.mem_append_right (k2_sels lw_privs) (show w ∈ tables_1 from List.mem_append_right _ (List.mem_append_right _ (List.mem_append_right _ (List.mem_append_right _ (List.mem_append_right _ (List.mem_append_right _ (List.mem_append_left _ h)))))))
theorem lw_m8 : ∀ w ∈ tables_1_8, w ∈ lw_tbl := fun w h => show w ∈ k2_sels lw_privs ++ tables_1 from List.mem_append_right (k2_sels lw_privs) (show w ∈ tables_1 from List.mem_append_right _ (List.mem_append_right _ (List.mem_append_right _ (List.mem_append_right _ (List.mem_append_right _ (List.mem_append_right _ (List.mem_append_right _ (List.mem_append_left _ h))))))))
theorem lw_m9 : ∀ w ∈ tables_1_9, w ∈ lw_tbl := fun w h => show w ∈ k2_sels lw_privs ++ tables_1 from List.mem_append_right (k2_sels lw_privs) (show w ∈ tables_1 from List.mem_append_right _ (List.mem_append_right _ (List.mem_append_right _ (List.mem_append_right _ (List.mem_append_right _ (List.mem_append_right _ (List.mem_append_right _ (List.mem_append_right _ h))))))))
theorem qs0 : (Cond.selects "java/lang/Throwable" ⟨"java/lang/Throwable", "fillInStackTrace", "(I)Ljava/lang/Throwable;"⟩ ⟨"java/lang/Throwable", "fillInStackTrace", "(I)Ljava/lang/Throwable;"⟩) ∈ lw_all := lw_g (lw_at lw_ms 0 rfl) rfl
theorem qs1 : (Cond.selects "CombTable" ⟨"CombTable", "four", "(I)V"⟩ ⟨"CombTable", "four", "(I)V"⟩) ∈ lw_all := lw_g (lw_at lw_ms 1 rfl) rfl
theorem qs2 : (Cond.selects "CombTable" ⟨"CombTable", "taken", "()V"⟩ ⟨"CombTable", "taken", "()V"⟩) ∈ lw_all := lw_g (lw_at lw_ms 2 rfl) rfl
theorem qs3 : (Cond.selects "CombTable$TableReader" ⟨"CombTable$TableReader", "line", "(I)V"⟩ ⟨"CombTable$TableReader", "line", "(I)V"⟩) ∈ lw_all := lw_g (lw_at lw_ms 3 rfl) rfl
theorem qs4 : (Cond.selects "CombTable$TableReader" ⟨"CombTable$TableReader", "fresh", "()J"⟩ ⟨"CombTable$TableReader", "fresh", "()J"⟩) ∈ lw_all := lw_g (lw_at lw_ms 4 rfl) rfl
theorem qs5 : (Cond.selects "CombTable$TableReader" ⟨"CombTable$TableReader", "kind", "()V"⟩ ⟨"CombTable$TableReader", "kind", "()V"⟩) ∈ lw_all := lw_g (lw_at lw_ms 5 rfl) rfl
theorem qs6 : (Cond.selects "CombTable$TableReader" ⟨"CombTable$TableReader", "comb", "()V"⟩ ⟨"CombTable$TableReader", "comb", "()V"⟩) ∈ lw_all := lw_g (lw_at lw_ms 6 rfl) rfl
theorem qs7 : (Cond.selects "CombTable$Talk" ⟨"CombTable$Talk", "answered", "(II)I"⟩ ⟨"CombTable$Talk", "answered", "(II)I"⟩) ∈ lw_all := lw_g (lw_at lw_ms 7 rfl) rfl
theorem qs8 : (Cond.selects "CombTable$MinutesReader" ⟨"CombTable$MinutesReader", "one", "([LCombTable$Named;I)I"⟩ ⟨"CombTable$MinutesReader", "one", "([LCombTable$Named;I)I"⟩) ∈ lw_all := lw_g (lw_at lw_ms 8 rfl) rfl
theorem qs9 : (Cond.selects "CombTable" ⟨"CombTable", "ways", "(LCombTable$Minutes;I)I"⟩ ⟨"CombTable", "ways", "(LCombTable$Minutes;I)I"⟩) ∈ lw_all := lw_g (lw_at lw_ms 9 rfl) rfl
theorem qs10 : (Cond.selects "CombTable" ⟨"CombTable", "wholesNow", "()I"⟩ ⟨"CombTable", "wholesNow", "()I"⟩) ∈ lw_all := lw_g (lw_at lw_ms 10 rfl) rfl
theorem qs11 : (Cond.selects "CombTable" ⟨"CombTable", "wholesFrom", "(I)I"⟩ ⟨"CombTable", "wholesFrom", "(I)I"⟩) ∈ lw_all := lw_g (lw_at lw_ms 11 rfl) rfl
theorem qs12 : (Cond.selects "CombTable" ⟨"CombTable", "isTold", "(I)Z"⟩ ⟨"CombTable", "isTold", "(I)Z"⟩) ∈ lw_all := lw_g (lw_at lw_ms 12 rfl) rfl
theorem qs13 : (Cond.selects "CombTable" ⟨"CombTable", "isTalk", "(I)Z"⟩ ⟨"CombTable", "isTalk", "(I)Z"⟩) ∈ lw_all := lw_g (lw_at lw_ms 13 rfl) rfl
theorem qs14 : (Cond.selects "CombTable" ⟨"CombTable", "ordersFrom", "(IIZ)I"⟩ ⟨"CombTable", "ordersFrom", "(IIZ)I"⟩) ∈ lw_all := lw_g (lw_at lw_ms 14 rfl) rfl
theorem qs15 : (Cond.selects "CombTable" ⟨"CombTable", "choices", "(I)I"⟩ ⟨"CombTable", "choices", "(I)I"⟩) ∈ lw_all := lw_g (lw_at lw_ms 15 rfl) rfl
theorem qs16 : (Cond.selects "CombTable" ⟨"CombTable", "draw", "(I)I"⟩ ⟨"CombTable", "draw", "(I)I"⟩) ∈ lw_all := lw_g (lw_at lw_ms 16 rfl) rfl
theorem qs17 : (Cond.selects "CombTable" ⟨"CombTable", "leadsBy", "(IIII)I"⟩ ⟨"CombTable", "leadsBy", "(IIII)I"⟩) ∈ lw_all := lw_g (lw_at lw_ms 17 rfl) rfl
theorem qs18 : (Cond.selects "CombTable" ⟨"CombTable", "leads", "(IIII)Z"⟩ ⟨"CombTable", "leads", "(IIII)Z"⟩) ∈ lw_all := lw_g (lw_at lw_ms 18 rfl) rfl
theorem qs19 : (Cond.selects "CombTable" ⟨"CombTable", "keepFound", "(II)V"⟩ ⟨"CombTable", "keepFound", "(II)V"⟩) ∈ lw_all := lw_g (lw_at lw_ms 19 rfl) rfl
theorem qs20 : (Cond.selects "CombTable" ⟨"CombTable", "isWord", "(I)Z"⟩ ⟨"CombTable", "isWord", "(I)Z"⟩) ∈ lw_all := lw_g (lw_at lw_ms 20 rfl) rfl
theorem qs21 : (Cond.selects "CombTable" ⟨"CombTable", "isHad", "(IZIII)Z"⟩ ⟨"CombTable", "isHad", "(IZIII)Z"⟩) ∈ lw_all := lw_g (lw_at lw_ms 21 rfl) rfl
theorem qs22 : (Cond.selects "CombTable" ⟨"CombTable", "isUnlike", "(III)Z"⟩ ⟨"CombTable", "isUnlike", "(III)Z"⟩) ∈ lw_all := lw_g (lw_at lw_ms 22 rfl) rfl
theorem qs23 : (Cond.selects "CombTable$SentenceReader" ⟨"CombTable$SentenceReader", "any", "(I)LCombTable$Cond;"⟩ ⟨"CombTable$SentenceReader", "any", "(I)LCombTable$Cond;"⟩) ∈ lw_all := lw_g (lw_at lw_ms 23 rfl) rfl
theorem qs24 : (Cond.selects "CombTable$SentenceReader" ⟨"CombTable$SentenceReader", "both", "(I)LCombTable$Cond;"⟩ ⟨"CombTable$SentenceReader", "both", "(I)LCombTable$Cond;"⟩) ∈ lw_all := lw_g (lw_at lw_ms 24 rfl) rfl
theorem qs25 : (Cond.selects "CombTable$SentenceReader" ⟨"CombTable$SentenceReader", "single", "(I)LCombTable$Cond;"⟩ ⟨"CombTable$SentenceReader", "single", "(I)LCombTable$Cond;"⟩) ∈ lw_all := lw_g (lw_at lw_ms 25 rfl) rfl
theorem qs26 : (Cond.selects "CombTableModel" ⟨"CombTableModel", "come", "(I)V"⟩ ⟨"CombTableModel", "come", "(I)V"⟩) ∈ lw_all := lw_g (lw_at lw_ms 26 rfl) rfl
theorem qs27 : (Cond.selects "CombTableModel" ⟨"CombTableModel", "begin", "(I)V"⟩ ⟨"CombTableModel", "begin", "(I)V"⟩) ∈ lw_all := lw_g (lw_at lw_ms 27 rfl) rfl
theorem qs28 : (Cond.selects "CombTableModel" ⟨"CombTableModel", "take", "()I"⟩ ⟨"CombTableModel", "take", "()I"⟩) ∈ lw_all := lw_g (lw_at lw_ms 28 rfl) rfl
theorem qs29 : (Cond.selects "CombTableModel" ⟨"CombTableModel", "go", "()V"⟩ ⟨"CombTableModel", "go", "()V"⟩) ∈ lw_all := lw_g (lw_at lw_ms 29 rfl) rfl
theorem qs30 : (Cond.selects "CombTableModel" ⟨"CombTableModel", "byteAt", "(I)I"⟩ ⟨"CombTableModel", "byteAt", "(I)I"⟩) ∈ lw_all := lw_g (lw_at lw_ms 30 rfl) rfl
theorem qs31 : (Cond.selects "CombTableModel" ⟨"CombTableModel", "readLine", "()Z"⟩ ⟨"CombTableModel", "readLine", "()Z"⟩) ∈ lw_all := lw_g (lw_at lw_ms 31 rfl) rfl
theorem qs32 : (Cond.selects "CombTableModel" ⟨"CombTableModel", "isWord", "(I)Z"⟩ ⟨"CombTableModel", "isWord", "(I)Z"⟩) ∈ lw_all := lw_g (lw_at lw_ms 32 rfl) rfl
theorem qs33 : (Cond.selects "CombTableModel" ⟨"CombTableModel", "readWho", "()Z"⟩ ⟨"CombTableModel", "readWho", "()Z"⟩) ∈ lw_all := lw_g (lw_at lw_ms 33 rfl) rfl
theorem qs34 : (Cond.selects "CombTableModel" ⟨"CombTableModel", "bad", "(I)Z"⟩ ⟨"CombTableModel", "bad", "(I)Z"⟩) ∈ lw_all := lw_g (lw_at lw_ms 34 rfl) rfl
theorem qs35 : (Cond.selects "CombTableModel" ⟨"CombTableModel", "readNew", "(I)Z"⟩ ⟨"CombTableModel", "readNew", "(I)Z"⟩) ∈ lw_all := lw_g (lw_at lw_ms 35 rfl) rfl
theorem qs36 : (Cond.selects "CombTableModel" ⟨"CombTableModel", "isName", "()Z"⟩ ⟨"CombTableModel", "isName", "()Z"⟩) ∈ lw_all := lw_g (lw_at lw_ms 36 rfl) rfl
theorem qs37 : (Cond.selects "CombTableModel" ⟨"CombTableModel", "findIn", "([JII)I"⟩ ⟨"CombTableModel", "findIn", "([JII)I"⟩) ∈ lw_all := lw_g (lw_at lw_ms 37 rfl) rfl
theorem qs38 : (Cond.selects "CombTableModel" ⟨"CombTableModel", "readNumber", "(II)Z"⟩ ⟨"CombTableModel", "readNumber", "(II)Z"⟩) ∈ lw_all := lw_g (lw_at lw_ms 38 rfl) rfl
theorem qs39 : (Cond.selects "CombTableModel" ⟨"CombTableModel", "readKind", "()Z"⟩ ⟨"CombTableModel", "readKind", "()Z"⟩) ∈ lw_all := lw_g (lw_at lw_ms 39 rfl) rfl
theorem qs40 : (Cond.selects "CombTableModel" ⟨"CombTableModel", "readMay", "()Z"⟩ ⟨"CombTableModel", "readMay", "()Z"⟩) ∈ lw_all := lw_g (lw_at lw_ms 40 rfl) rfl
theorem qs41 : (Cond.selects "CombTableModel" ⟨"CombTableModel", "readKindTold", "()Z"⟩ ⟨"CombTableModel", "readKindTold", "()Z"⟩) ∈ lw_all := lw_g (lw_at lw_ms 41 rfl) rfl
theorem qs42 : (Cond.selects "CombTableModel" ⟨"CombTableModel", "readComb", "()Z"⟩ ⟨"CombTableModel", "readComb", "()Z"⟩) ∈ lw_all := lw_g (lw_at lw_ms 42 rfl) rfl
theorem qs43 : (Cond.selects "CombTableModel" ⟨"CombTableModel", "readOnce", "(I)Z"⟩ ⟨"CombTableModel", "readOnce", "(I)Z"⟩) ∈ lw_all := lw_g (lw_at lw_ms 43 rfl) rfl
theorem qs44 : (Cond.selects "CombTableModel" ⟨"CombTableModel", "readEnd", "()Z"⟩ ⟨"CombTableModel", "readEnd", "()Z"⟩) ∈ lw_all := lw_g (lw_at lw_ms 44 rfl) rfl
theorem qs45 : (Cond.selects "CombTableModel" ⟨"CombTableModel", "isSign", "(I)Z"⟩ ⟨"CombTableModel", "isSign", "(I)Z"⟩) ∈ lw_all := lw_g (lw_at lw_ms 45 rfl) rfl
theorem qs46 : (Cond.selects "CombTableModel" ⟨"CombTableModel", "isWho", "(I)Z"⟩ ⟨"CombTableModel", "isWho", "(I)Z"⟩) ∈ lw_all := lw_g (lw_at lw_ms 46 rfl) rfl
theorem qs47 : (Cond.selects "CombTableModel" ⟨"CombTableModel", "isKind", "(I)Z"⟩ ⟨"CombTableModel", "isKind", "(I)Z"⟩) ∈ lw_all := lw_g (lw_at lw_ms 47 rfl) rfl
theorem qs48 : (Cond.selects "CombTableModel" ⟨"CombTableModel", "refuse", "()I"⟩ ⟨"CombTableModel", "refuse", "()I"⟩) ∈ lw_all := lw_g (lw_at lw_ms 48 rfl) rfl
theorem qs49 : (Cond.selects "CombTableModel" ⟨"CombTableModel", "tries", "(II)I"⟩ ⟨"CombTableModel", "tries", "(II)I"⟩) ∈ lw_all := lw_g (lw_at lw_ms 49 rfl) rfl
theorem qs50 : (Cond.selects "CombTableModel" ⟨"CombTableModel", "lay", "()V"⟩ ⟨"CombTableModel", "lay", "()V"⟩) ∈ lw_all := lw_g (lw_at lw_ms 50 rfl) rfl
theorem qs51 : (Cond.selects "CombTableModel" ⟨"CombTableModel", "layRules", "(I[II)V"⟩ ⟨"CombTableModel", "layRules", "(I[II)V"⟩) ∈ lw_all := lw_g (lw_at lw_ms 51 rfl) rfl
theorem qs52 : (Cond.selects "CombTableModel" ⟨"CombTableModel", "push", "(III)V"⟩ ⟨"CombTableModel", "push", "(III)V"⟩) ∈ lw_all := lw_g (lw_at lw_ms 52 rfl) rfl
theorem qs53 : (Cond.selects "CombTableModel" ⟨"CombTableModel", "answers", "(III)I"⟩ ⟨"CombTableModel", "answers", "(III)I"⟩) ∈ lw_all := lw_g (lw_at lw_ms 53 rfl) rfl
theorem qs54 : (Cond.selects "CombTableModel" ⟨"CombTableModel", "ofKind", "(III)I"⟩ ⟨"CombTableModel", "ofKind", "(III)I"⟩) ∈ lw_all := lw_g (lw_at lw_ms 54 rfl) rfl
theorem qs55 : (Cond.selects "CombTableModel" ⟨"CombTableModel", "rule", "(II)I"⟩ ⟨"CombTableModel", "rule", "(II)I"⟩) ∈ lw_all := lw_g (lw_at lw_ms 55 rfl) rfl
theorem qs56 : (Cond.selects "CombTableModel" ⟨"CombTableModel", "wrongOf", "(III)I"⟩ ⟨"CombTableModel", "wrongOf", "(III)I"⟩) ∈ lw_all := lw_g (lw_at lw_ms 56 rfl) rfl
theorem qs57 : (Cond.selects "CombTableModel" ⟨"CombTableModel", "keepWord", "(II)V"⟩ ⟨"CombTableModel", "keepWord", "(II)V"⟩) ∈ lw_all := lw_g (lw_at lw_ms 57 rfl) rfl
theorem qs58 : (Cond.selects "CombTableModel" ⟨"CombTableModel", "readWordSaid", "()Z"⟩ ⟨"CombTableModel", "readWordSaid", "()Z"⟩) ∈ lw_all := lw_g (lw_at lw_ms 58 rfl) rfl
theorem qs59 : (Cond.selects "CombTableModel" ⟨"CombTableModel", "stateOf", "(II)I"⟩ ⟨"CombTableModel", "stateOf", "(II)I"⟩) ∈ lw_all := lw_g (lw_at lw_ms 59 rfl) rfl
theorem qs60 : (Cond.selects "CombTableModel" ⟨"CombTableModel", "isPromise", "(I)Z"⟩ ⟨"CombTableModel", "isPromise", "(I)Z"⟩) ∈ lw_all := lw_g (lw_at lw_ms 60 rfl) rfl
theorem qs61 : (Cond.selects "CombTableModel" ⟨"CombTableModel", "nextWord", "(I)I"⟩ ⟨"CombTableModel", "nextWord", "(I)I"⟩) ∈ lw_all := lw_g (lw_at lw_ms 61 rfl) rfl
theorem qs62 : (Cond.selects "CombTableModel" ⟨"CombTableModel", "draw", "(I)I"⟩ ⟨"CombTableModel", "draw", "(I)I"⟩) ∈ lw_all := lw_g (lw_at lw_ms 62 rfl) rfl
theorem qs63 : (Cond.selects "CombTableModel" ⟨"CombTableModel", "readMinute", "()Z"⟩ ⟨"CombTableModel", "readMinute", "()Z"⟩) ∈ lw_all := lw_g (lw_at lw_ms 63 rfl) rfl
theorem qs64 : (Cond.selects "CombTableModel" ⟨"CombTableModel", "readTorn", "(III)Z"⟩ ⟨"CombTableModel", "readTorn", "(III)Z"⟩) ∈ lw_all := lw_g (lw_at lw_ms 64 rfl) rfl
theorem qs65 : (Cond.selects "CombTableModel" ⟨"CombTableModel", "fillings", "(II)I"⟩ ⟨"CombTableModel", "fillings", "(II)I"⟩) ∈ lw_all := lw_g (lw_at lw_ms 65 rfl) rfl
theorem qs66 : (Cond.selects "CombTableModel" ⟨"CombTableModel", "beginFill", "()V"⟩ ⟨"CombTableModel", "beginFill", "()V"⟩) ∈ lw_all := lw_g (lw_at lw_ms 66 rfl) rfl
theorem qs67 : (Cond.selects "CombTableModel" ⟨"CombTableModel", "layTorn", "(II)V"⟩ ⟨"CombTableModel", "layTorn", "(II)V"⟩) ∈ lw_all := lw_g (lw_at lw_ms 67 rfl) rfl
theorem qs68 : (Cond.selects "CombTableModel" ⟨"CombTableModel", "fill", "(I)V"⟩ ⟨"CombTableModel", "fill", "(I)V"⟩) ∈ lw_all := lw_g (lw_at lw_ms 68 rfl) rfl
theorem qs69 : (Cond.selects "CombTableModel" ⟨"CombTableModel", "pop", "(I)V"⟩ ⟨"CombTableModel", "pop", "(I)V"⟩) ∈ lw_all := lw_g (lw_at lw_ms 69 rfl) rfl
theorem qs70 : (Cond.selects "CombTableModel" ⟨"CombTableModel", "isWhole", "()Z"⟩ ⟨"CombTableModel", "isWhole", "()Z"⟩) ∈ lw_all := lw_g (lw_at lw_ms 70 rfl) rfl
theorem qs71 : (Cond.selects "CombTableModel" ⟨"CombTableModel", "isTalk", "(I)Z"⟩ ⟨"CombTableModel", "isTalk", "(I)Z"⟩) ∈ lw_all := lw_g (lw_at lw_ms 71 rfl) rfl
theorem qs72 : (Cond.selects "CombTableModel" ⟨"CombTableModel", "tryOrders", "(I)V"⟩ ⟨"CombTableModel", "tryOrders", "(I)V"⟩) ∈ lw_all := lw_g (lw_at lw_ms 72 rfl) rfl
theorem qs73 : (Cond.selects "CombTableModel" ⟨"CombTableModel", "roadOf", "(IIII)I"⟩ ⟨"CombTableModel", "roadOf", "(IIII)I"⟩) ∈ lw_all := lw_g (lw_at lw_ms 73 rfl) rfl
theorem qs74 : (Cond.selects "CombTableModel" ⟨"CombTableModel", "leads", "(IIIII)Z"⟩ ⟨"CombTableModel", "leads", "(IIIII)Z"⟩) ∈ lw_all := lw_g (lw_at lw_ms 74 rfl) rfl
theorem qs75 : (Cond.selects "CombTableModel" ⟨"CombTableModel", "isSo", "(II)Z"⟩ ⟨"CombTableModel", "isSo", "(II)Z"⟩) ∈ lw_all := lw_g (lw_at lw_ms 75 rfl) rfl
theorem qs76 : (Cond.selects "CombTableModel" ⟨"CombTableModel", "play", "(IZIII)I"⟩ ⟨"CombTableModel", "play", "(IZIII)I"⟩) ∈ lw_all := lw_g (lw_at lw_ms 76 rfl) rfl
theorem qs77 : (Cond.selects "CombTableModel" ⟨"CombTableModel", "parts", "(IIII)Z"⟩ ⟨"CombTableModel", "parts", "(IIII)Z"⟩) ∈ lw_all := lw_g (lw_at lw_ms 77 rfl) rfl
theorem qs78 : (Cond.selects "CombTableModel" ⟨"CombTableModel", "mayBeSaid", "(III)Z"⟩ ⟨"CombTableModel", "mayBeSaid", "(III)Z"⟩) ∈ lw_all := lw_g (lw_at lw_ms 78 rfl) rfl
theorem qs79 : (Cond.selects "CombTableModel" ⟨"CombTableModel", "readOr", "()Z"⟩ ⟨"CombTableModel", "readOr", "()Z"⟩) ∈ lw_all := lw_g (lw_at lw_ms 79 rfl) rfl
theorem qs80 : (Cond.selects "CombTableModel" ⟨"CombTableModel", "readAnd", "()Z"⟩ ⟨"CombTableModel", "readAnd", "()Z"⟩) ∈ lw_all := lw_g (lw_at lw_ms 80 rfl) rfl
theorem qs81 : (Cond.selects "CombTableModel" ⟨"CombTableModel", "readOne", "()Z"⟩ ⟨"CombTableModel", "readOne", "()Z"⟩) ∈ lw_all := lw_g (lw_at lw_ms 81 rfl) rfl
theorem qs82 : (Cond.selects "CombTableModel" ⟨"CombTableModel", "readBracket", "()Z"⟩ ⟨"CombTableModel", "readBracket", "()Z"⟩) ∈ lw_all := lw_g (lw_at lw_ms 82 rfl) rfl
theorem qs83 : (Cond.selects "CombTableModel" ⟨"CombTableModel", "readNot", "()Z"⟩ ⟨"CombTableModel", "readNot", "()Z"⟩) ∈ lw_all := lw_g (lw_at lw_ms 83 rfl) rfl
theorem qs84 : (Cond.selects "CombTableModel" ⟨"CombTableModel", "lays", "(IIII)I"⟩ ⟨"CombTableModel", "lays", "(IIII)I"⟩) ∈ lw_all := lw_g (lw_at lw_ms 84 rfl) rfl
theorem qs85 : (Cond.selects "CombTableModel" ⟨"CombTableModel", "readNamed", "(I)Z"⟩ ⟨"CombTableModel", "readNamed", "(I)Z"⟩) ∈ lw_all := lw_g (lw_at lw_ms 85 rfl) rfl
theorem qs86 : (Cond.selects "CombTableModel" ⟨"CombTableModel", "readCompare", "(I)Z"⟩ ⟨"CombTableModel", "readCompare", "(I)Z"⟩) ∈ lw_all := lw_g (lw_at lw_ms 86 rfl) rfl
theorem qs87 : (Cond.selects "CombTableModel" ⟨"CombTableModel", "holds", "(II)Z"⟩ ⟨"CombTableModel", "holds", "(II)Z"⟩) ∈ lw_all := lw_g (lw_at lw_ms 87 rfl) rfl
theorem qs88 : (Cond.selects "CombTableModel" ⟨"CombTableModel", "valueOf", "(II)I"⟩ ⟨"CombTableModel", "valueOf", "(II)I"⟩) ∈ lw_all := lw_g (lw_at lw_ms 88 rfl) rfl
