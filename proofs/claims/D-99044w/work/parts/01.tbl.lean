-- ===== PART A: goes FIRST, ahead of the names: the tables' words, and 'selects' of the private methods out of them =====
/-- a private method of a class that the tables say can be made, by its rows of tables_1 -/
def lw_okq (q : MethodName × Nat) : Prop := (q.1.cls ≠ "java/lang/invoke/MethodHandle" ∧ q.1.cls ≠ "java/lang/invoke/VarHandle") ∧ Cond.instantiable q.1.cls q.2 ∈ tables_1 ∧ Cond.privateMethod q.1 ∈ tables_1 ∧ Cond.instanceMethod q.1 ∈ tables_1
set_option maxRecDepth 100000
theorem lw_t1 {w : Cond} (h : w ∈ tables_1_1) : w ∈ tables_1 := List.mem_append_left _ h
theorem lw_t2 {w : Cond} (h : w ∈ tables_1_2) : w ∈ tables_1 := List.mem_append_right _ (List.mem_append_left _ h)
theorem lw_t3 {w : Cond} (h : w ∈ tables_1_3) : w ∈ tables_1 := List.mem_append_right _ (List.mem_append_right _ (List.mem_append_left _ h))
theorem lw_t4 {w : Cond} (h : w ∈ tables_1_4) : w ∈ tables_1 := List.mem_append_right _ (List.mem_append_right _ (List.mem_append_right _ (List.mem_append_left _ h)))
theorem lw_t5 {w : Cond} (h : w ∈ tables_1_5) : w ∈ tables_1 := List.mem_append_right _ (List.mem_append_right _ (List.mem_append_right _ (List.mem_append_right _ (List.mem_append_left _ h))))
theorem lw_t6 {w : Cond} (h : w ∈ tables_1_6) : w ∈ tables_1 := List.mem_append_right _ (List.mem_append_right _ (List.mem_append_right _ (List.mem_append_right _ (List.mem_append_right _ (List.mem_append_left _ h)))))
theorem lw_t7 {w : Cond} (h : w ∈ tables_1_7) : w ∈ tables_1 := List.mem_append_right _ (List.mem_append_right _ (List.mem_append_right _ (List.mem_append_right _ (List.mem_append_right _ (List.mem_append_right _ (List.mem_append_left _ h))))))
theorem lw_t8 {w : Cond} (h : w ∈ tables_1_8) : w ∈ tables_1 := List.mem_append_right _ (List.mem_append_right _ (List.mem_append_right _ (List.mem_append_right _ (List.mem_append_right _ (List.mem_append_right _ (List.mem_append_right _ h))))))
theorem lw_p0 : lw_okq (⟨"BehindAnotherHearse", "words", "(I)LBehindAnotherHearse$Words;"⟩, 30) := ⟨⟨by decide +kernel, by decide +kernel⟩, lw_t1 (List.mem_of_getElem? (i := 30) rfl), lw_t2 (List.mem_of_getElem? (i := 16) rfl), lw_t2 (List.mem_of_getElem? (i := 17) rfl)⟩
theorem lw_p1 : lw_okq (⟨"java/lang/Throwable", "fillInStackTrace", "(I)Ljava/lang/Throwable;"⟩, 6) := ⟨⟨by decide +kernel, by decide +kernel⟩, lw_t2 (List.mem_of_getElem? (i := 108) rfl), lw_t2 (List.mem_of_getElem? (i := 106) rfl), lw_t2 (List.mem_of_getElem? (i := 107) rfl)⟩
theorem lw_p2 : lw_okq (⟨"BehindAnotherHearse", "cell", "(LBehindAnotherHearse$Words;)I"⟩, 30) := ⟨⟨by decide +kernel, by decide +kernel⟩, lw_t1 (List.mem_of_getElem? (i := 30) rfl), lw_t2 (List.mem_of_getElem? (i := 153) rfl), lw_t2 (List.mem_of_getElem? (i := 154) rfl)⟩
theorem lw_p3 : lw_okq (⟨"BehindAnotherHearse", "comes", "()V"⟩, 30) := ⟨⟨by decide +kernel, by decide +kernel⟩, lw_t1 (List.mem_of_getElem? (i := 30) rfl), lw_t2 (List.mem_of_getElem? (i := 179) rfl), lw_t2 (List.mem_of_getElem? (i := 180) rfl)⟩
theorem lw_p4 : lw_okq (⟨"BehindAnotherHearse$Rule", "held", "(I)I"⟩, 7) := ⟨⟨by decide +kernel, by decide +kernel⟩, lw_t2 (List.mem_of_getElem? (i := 207) rfl), lw_t2 (List.mem_of_getElem? (i := 231) rfl), lw_t2 (List.mem_of_getElem? (i := 232) rfl)⟩
theorem lw_p5 : lw_okq (⟨"BehindAnotherHearse$Rule", "sum", "(I)I"⟩, 7) := ⟨⟨by decide +kernel, by decide +kernel⟩, lw_t2 (List.mem_of_getElem? (i := 207) rfl), lw_t2 (List.mem_of_getElem? (i := 235) rfl), lw_t2 (List.mem_of_getElem? (i := 236) rfl)⟩
theorem lw_p6 : lw_okq (⟨"BehindAnotherHearse$Rule", "product", "(I)I"⟩, 7) := ⟨⟨by decide +kernel, by decide +kernel⟩, lw_t2 (List.mem_of_getElem? (i := 207) rfl), lw_t2 (List.mem_of_getElem? (i := 239) rfl), lw_t3 (List.mem_of_getElem? (i := 0) rfl)⟩
theorem lw_p7 : lw_okq (⟨"BehindAnotherHearse$Rule", "thing", "(I)I"⟩, 7) := ⟨⟨by decide +kernel, by decide +kernel⟩, lw_t2 (List.mem_of_getElem? (i := 207) rfl), lw_t3 (List.mem_of_getElem? (i := 3) rfl), lw_t3 (List.mem_of_getElem? (i := 4) rfl)⟩
theorem lw_p8 : lw_okq (⟨"BehindAnotherHearse$Rule", "value", "(I)I"⟩, 7) := ⟨⟨by decide +kernel, by decide +kernel⟩, lw_t2 (List.mem_of_getElem? (i := 207) rfl), lw_t3 (List.mem_of_getElem? (i := 109) rfl), lw_t3 (List.mem_of_getElem? (i := 110) rfl)⟩
theorem lw_p9 : lw_okq (⟨"BehindAnotherHearse", "weatherOf", "(I)I"⟩, 30) := ⟨⟨by decide +kernel, by decide +kernel⟩, lw_t1 (List.mem_of_getElem? (i := 30) rfl), lw_t3 (List.mem_of_getElem? (i := 118) rfl), lw_t3 (List.mem_of_getElem? (i := 119) rfl)⟩
theorem lw_p10 : lw_okq (⟨"BehindAnotherHearse", "remember", "(LBehindAnotherHearse$Street;)V"⟩, 30) := ⟨⟨by decide +kernel, by decide +kernel⟩, lw_t1 (List.mem_of_getElem? (i := 30) rfl), lw_t3 (List.mem_of_getElem? (i := 184) rfl), lw_t3 (List.mem_of_getElem? (i := 185) rfl)⟩
theorem lw_p11 : lw_okq (⟨"BehindAnotherHearse", "tell", "(J)V"⟩, 30) := ⟨⟨by decide +kernel, by decide +kernel⟩, lw_t1 (List.mem_of_getElem? (i := 30) rfl), lw_t4 (List.mem_of_getElem? (i := 10) rfl), lw_t4 (List.mem_of_getElem? (i := 11) rfl)⟩
theorem lw_p12 : lw_okq (⟨"BehindAnotherHearse", "isMan", "(I)Z"⟩, 30) := ⟨⟨by decide +kernel, by decide +kernel⟩, lw_t1 (List.mem_of_getElem? (i := 30) rfl), lw_t4 (List.mem_of_getElem? (i := 18) rfl), lw_t4 (List.mem_of_getElem? (i := 19) rfl)⟩
theorem lw_p13 : lw_okq (⟨"BehindAnotherHearse", "refusesPush", "(LBehindAnotherHearse$Street;II)I"⟩, 30) := ⟨⟨by decide +kernel, by decide +kernel⟩, lw_t1 (List.mem_of_getElem? (i := 30) rfl), lw_t4 (List.mem_of_getElem? (i := 30) rfl), lw_t4 (List.mem_of_getElem? (i := 31) rfl)⟩
theorem lw_p14 : lw_okq (⟨"BehindAnotherHearse", "refusesSwap", "(II)I"⟩, 30) := ⟨⟨by decide +kernel, by decide +kernel⟩, lw_t1 (List.mem_of_getElem? (i := 30) rfl), lw_t4 (List.mem_of_getElem? (i := 44) rfl), lw_t4 (List.mem_of_getElem? (i := 45) rfl)⟩
theorem lw_p15 : lw_okq (⟨"BehindAnotherHearse", "areHearses", "(II)Z"⟩, 30) := ⟨⟨by decide +kernel, by decide +kernel⟩, lw_t1 (List.mem_of_getElem? (i := 30) rfl), lw_t4 (List.mem_of_getElem? (i := 48) rfl), lw_t4 (List.mem_of_getElem? (i := 49) rfl)⟩
def lw_privs_1 : List (MethodName × Nat) := [(⟨"BehindAnotherHearse", "words", "(I)LBehindAnotherHearse$Words;"⟩, 30), (⟨"java/lang/Throwable", "fillInStackTrace", "(I)Ljava/lang/Throwable;"⟩, 6), (⟨"BehindAnotherHearse", "cell", "(LBehindAnotherHearse$Words;)I"⟩, 30), (⟨"BehindAnotherHearse", "comes", "()V"⟩, 30), (⟨"BehindAnotherHearse$Rule", "held", "(I)I"⟩, 7), (⟨"BehindAnotherHearse$Rule", "sum", "(I)I"⟩, 7), (⟨"BehindAnotherHearse$Rule", "product", "(I)I"⟩, 7), (⟨"BehindAnotherHearse$Rule", "thing", "(I)I"⟩, 7), (⟨"BehindAnotherHearse$Rule", "value", "(I)I"⟩, 7), (⟨"BehindAnotherHearse", "weatherOf", "(I)I"⟩, 30), (⟨"BehindAnotherHearse", "remember", "(LBehindAnotherHearse$Street;)V"⟩, 30), (⟨"BehindAnotherHearse", "tell", "(J)V"⟩, 30), (⟨"BehindAnotherHearse", "isMan", "(I)Z"⟩, 30), (⟨"BehindAnotherHearse", "refusesPush", "(LBehindAnotherHearse$Street;II)I"⟩, 30), (⟨"BehindAnotherHearse", "refusesSwap", "(II)I"⟩, 30), (⟨"BehindAnotherHearse", "areHearses", "(II)Z"⟩, 30)]
theorem lw_r1 : ∀ q ∈ lw_privs_1, lw_okq q := List.forall_mem_cons.mpr ⟨lw_p0, List.forall_mem_cons.mpr ⟨lw_p1, List.forall_mem_cons.mpr ⟨lw_p2, List.forall_mem_cons.mpr ⟨lw_p3, List.forall_mem_cons.mpr ⟨lw_p4, List.forall_mem_cons.mpr ⟨lw_p5, List.forall_mem_cons.mpr ⟨lw_p6, List.forall_mem_cons.mpr ⟨lw_p7, List.forall_mem_cons.mpr ⟨lw_p8, List.forall_mem_cons.mpr ⟨lw_p9, List.forall_mem_cons.mpr ⟨lw_p10, List.forall_mem_cons.mpr ⟨lw_p11, List.forall_mem_cons.mpr ⟨lw_p12, List.forall_mem_cons.mpr ⟨lw_p13, List.forall_mem_cons.mpr ⟨lw_p14, List.forall_mem_cons.mpr ⟨lw_p15, fun _ h => absurd h List.not_mem_nil⟩⟩⟩⟩⟩⟩⟩⟩⟩⟩⟩⟩⟩⟩⟩⟩
theorem lw_p16 : lw_okq (⟨"BehindAnotherHearse", "isHearse", "(I)Z"⟩, 30) := ⟨⟨by decide +kernel, by decide +kernel⟩, lw_t1 (List.mem_of_getElem? (i := 30) rfl), lw_t4 (List.mem_of_getElem? (i := 52) rfl), lw_t4 (List.mem_of_getElem? (i := 53) rfl)⟩
theorem lw_p17 : lw_okq (⟨"BehindAnotherHearse", "goSwap", "(II)V"⟩, 30) := ⟨⟨by decide +kernel, by decide +kernel⟩, lw_t1 (List.mem_of_getElem? (i := 30) rfl), lw_t4 (List.mem_of_getElem? (i := 57) rfl), lw_t4 (List.mem_of_getElem? (i := 58) rfl)⟩
theorem lw_p18 : lw_okq (⟨"BehindAnotherHearse$Order", "act", "()V"⟩, 8) := ⟨⟨by decide +kernel, by decide +kernel⟩, lw_t4 (List.mem_of_getElem? (i := 66) rfl), lw_t4 (List.mem_of_getElem? (i := 98) rfl), lw_t4 (List.mem_of_getElem? (i := 99) rfl)⟩
theorem lw_p19 : lw_okq (⟨"BehindAnotherHearse", "act", "(CII)Z"⟩, 30) := ⟨⟨by decide +kernel, by decide +kernel⟩, lw_t1 (List.mem_of_getElem? (i := 30) rfl), lw_t4 (List.mem_of_getElem? (i := 117) rfl), lw_t4 (List.mem_of_getElem? (i := 118) rfl)⟩
theorem lw_p20 : lw_okq (⟨"BehindAnotherHearse", "goToEnd", "(LBehindAnotherHearse$Street;)V"⟩, 30) := ⟨⟨by decide +kernel, by decide +kernel⟩, lw_t1 (List.mem_of_getElem? (i := 30) rfl), lw_t4 (List.mem_of_getElem? (i := 190) rfl), lw_t4 (List.mem_of_getElem? (i := 191) rfl)⟩
theorem lw_p21 : lw_okq (⟨"BehindAnotherHearse", "isOver", "(LBehindAnotherHearse$Street;)Z"⟩, 30) := ⟨⟨by decide +kernel, by decide +kernel⟩, lw_t1 (List.mem_of_getElem? (i := 30) rfl), lw_t4 (List.mem_of_getElem? (i := 194) rfl), lw_t4 (List.mem_of_getElem? (i := 195) rfl)⟩
theorem lw_p22 : lw_okq (⟨"BehindAnotherHearse", "goOrder", "(II)V"⟩, 30) := ⟨⟨by decide +kernel, by decide +kernel⟩, lw_t1 (List.mem_of_getElem? (i := 30) rfl), lw_t4 (List.mem_of_getElem? (i := 211) rfl), lw_t4 (List.mem_of_getElem? (i := 212) rfl)⟩
theorem lw_p23 : lw_okq (⟨"BehindAnotherHearse", "ownOf", "(I)I"⟩, 30) := ⟨⟨by decide +kernel, by decide +kernel⟩, lw_t1 (List.mem_of_getElem? (i := 30) rfl), lw_t4 (List.mem_of_getElem? (i := 230) rfl), lw_t4 (List.mem_of_getElem? (i := 231) rfl)⟩
theorem lw_p24 : lw_okq (⟨"BehindAnotherHearse", "canShare", "(IIII)Z"⟩, 30) := ⟨⟨by decide +kernel, by decide +kernel⟩, lw_t1 (List.mem_of_getElem? (i := 30) rfl), lw_t5 (List.mem_of_getElem? (i := 86) rfl), lw_t5 (List.mem_of_getElem? (i := 87) rfl)⟩
theorem lw_p25 : lw_okq (⟨"BehindAnotherHearse", "fitsTo", "(LBehindAnotherHearse$Street;III)Z"⟩, 30) := ⟨⟨by decide +kernel, by decide +kernel⟩, lw_t1 (List.mem_of_getElem? (i := 30) rfl), lw_t5 (List.mem_of_getElem? (i := 113) rfl), lw_t5 (List.mem_of_getElem? (i := 114) rfl)⟩
theorem lw_p26 : lw_okq (⟨"BehindAnotherHearse", "draw", "(I)I"⟩, 30) := ⟨⟨by decide +kernel, by decide +kernel⟩, lw_t1 (List.mem_of_getElem? (i := 30) rfl), lw_t5 (List.mem_of_getElem? (i := 148) rfl), lw_t5 (List.mem_of_getElem? (i := 149) rfl)⟩
theorem lw_p27 : lw_okq (⟨"BehindAnotherHearse", "corners", "()I"⟩, 30) := ⟨⟨by decide +kernel, by decide +kernel⟩, lw_t1 (List.mem_of_getElem? (i := 30) rfl), lw_t5 (List.mem_of_getElem? (i := 186) rfl), lw_t5 (List.mem_of_getElem? (i := 187) rfl)⟩
theorem lw_p28 : lw_okq (⟨"BehindAnotherHearseModel", "begins", "(I)I"⟩, 53) := ⟨⟨by decide +kernel, by decide +kernel⟩, lw_t5 (List.mem_of_getElem? (i := 233) rfl), lw_t6 (List.mem_of_getElem? (i := 178) rfl), lw_t6 (List.mem_of_getElem? (i := 179) rfl)⟩
theorem lw_p29 : lw_okq (⟨"BehindAnotherHearseModel", "takesOf", "(Ljava/lang/String;)I"⟩, 53) := ⟨⟨by decide +kernel, by decide +kernel⟩, lw_t5 (List.mem_of_getElem? (i := 233) rfl), lw_t6 (List.mem_of_getElem? (i := 184) rfl), lw_t6 (List.mem_of_getElem? (i := 185) rfl)⟩
theorem lw_p30 : lw_okq (⟨"BehindAnotherHearseModel", "readsHearse", "()Z"⟩, 53) := ⟨⟨by decide +kernel, by decide +kernel⟩, lw_t5 (List.mem_of_getElem? (i := 233) rfl), lw_t6 (List.mem_of_getElem? (i := 216) rfl), lw_t6 (List.mem_of_getElem? (i := 217) rfl)⟩
theorem lw_p31 : lw_okq (⟨"BehindAnotherHearseModel", "readsCell", "(Z)I"⟩, 53) := ⟨⟨by decide +kernel, by decide +kernel⟩, lw_t5 (List.mem_of_getElem? (i := 233) rfl), lw_t6 (List.mem_of_getElem? (i := 220) rfl), lw_t6 (List.mem_of_getElem? (i := 221) rfl)⟩
def lw_privs_2 : List (MethodName × Nat) := [(⟨"BehindAnotherHearse", "isHearse", "(I)Z"⟩, 30), (⟨"BehindAnotherHearse", "goSwap", "(II)V"⟩, 30), (⟨"BehindAnotherHearse$Order", "act", "()V"⟩, 8), (⟨"BehindAnotherHearse", "act", "(CII)Z"⟩, 30), (⟨"BehindAnotherHearse", "goToEnd", "(LBehindAnotherHearse$Street;)V"⟩, 30), (⟨"BehindAnotherHearse", "isOver", "(LBehindAnotherHearse$Street;)Z"⟩, 30), (⟨"BehindAnotherHearse", "goOrder", "(II)V"⟩, 30), (⟨"BehindAnotherHearse", "ownOf", "(I)I"⟩, 30), (⟨"BehindAnotherHearse", "canShare", "(IIII)Z"⟩, 30), (⟨"BehindAnotherHearse", "fitsTo", "(LBehindAnotherHearse$Street;III)Z"⟩, 30), (⟨"BehindAnotherHearse", "draw", "(I)I"⟩, 30), (⟨"BehindAnotherHearse", "corners", "()I"⟩, 30), (⟨"BehindAnotherHearseModel", "begins", "(I)I"⟩, 53), (⟨"BehindAnotherHearseModel", "takesOf", "(Ljava/lang/String;)I"⟩, 53), (⟨"BehindAnotherHearseModel", "readsHearse", "()Z"⟩, 53), (⟨"BehindAnotherHearseModel", "readsCell", "(Z)I"⟩, 53)]
theorem lw_r2 : ∀ q ∈ lw_privs_2, lw_okq q := List.forall_mem_cons.mpr ⟨lw_p16, List.forall_mem_cons.mpr ⟨lw_p17, List.forall_mem_cons.mpr ⟨lw_p18, List.forall_mem_cons.mpr ⟨lw_p19, List.forall_mem_cons.mpr ⟨lw_p20, List.forall_mem_cons.mpr ⟨lw_p21, List.forall_mem_cons.mpr ⟨lw_p22, List.forall_mem_cons.mpr ⟨lw_p23, List.forall_mem_cons.mpr ⟨lw_p24, List.forall_mem_cons.mpr ⟨lw_p25, List.forall_mem_cons.mpr ⟨lw_p26, List.forall_mem_cons.mpr ⟨lw_p27, List.forall_mem_cons.mpr ⟨lw_p28, List.forall_mem_cons.mpr ⟨lw_p29, List.forall_mem_cons.mpr ⟨lw_p30, List.forall_mem_cons.mpr ⟨lw_p31, fun _ h => absurd h List.not_mem_nil⟩⟩⟩⟩⟩⟩⟩⟩⟩⟩⟩⟩⟩⟩⟩⟩
theorem lw_p32 : lw_okq (⟨"BehindAnotherHearseModel", "number", "(I)I"⟩, 53) := ⟨⟨by decide +kernel, by decide +kernel⟩, lw_t5 (List.mem_of_getElem? (i := 233) rfl), lw_t6 (List.mem_of_getElem? (i := 224) rfl), lw_t6 (List.mem_of_getElem? (i := 225) rfl)⟩
theorem lw_p33 : lw_okq (⟨"BehindAnotherHearseModel", "isDigit", "()Z"⟩, 53) := ⟨⟨by decide +kernel, by decide +kernel⟩, lw_t5 (List.mem_of_getElem? (i := 233) rfl), lw_t6 (List.mem_of_getElem? (i := 228) rfl), lw_t6 (List.mem_of_getElem? (i := 229) rfl)⟩
theorem lw_p34 : lw_okq (⟨"BehindAnotherHearseModel", "gate", "()I"⟩, 53) := ⟨⟨by decide +kernel, by decide +kernel⟩, lw_t5 (List.mem_of_getElem? (i := 233) rfl), lw_t6 (List.mem_of_getElem? (i := 234) rfl), lw_t6 (List.mem_of_getElem? (i := 235) rfl)⟩
theorem lw_p35 : lw_okq (⟨"BehindAnotherHearseModel", "onCell", "([II)I"⟩, 53) := ⟨⟨by decide +kernel, by decide +kernel⟩, lw_t5 (List.mem_of_getElem? (i := 233) rfl), lw_t6 (List.mem_of_getElem? (i := 238) rfl), lw_t6 (List.mem_of_getElem? (i := 239) rfl)⟩
theorem lw_p36 : lw_okq (⟨"BehindAnotherHearseModel", "takes", "(I)Z"⟩, 53) := ⟨⟨by decide +kernel, by decide +kernel⟩, lw_t5 (List.mem_of_getElem? (i := 233) rfl), lw_t7 (List.mem_of_getElem? (i := 2) rfl), lw_t7 (List.mem_of_getElem? (i := 3) rfl)⟩
theorem lw_p37 : lw_okq (⟨"BehindAnotherHearseModel", "faultOf", "(IIZ)I"⟩, 53) := ⟨⟨by decide +kernel, by decide +kernel⟩, lw_t5 (List.mem_of_getElem? (i := 233) rfl), lw_t7 (List.mem_of_getElem? (i := 6) rfl), lw_t7 (List.mem_of_getElem? (i := 7) rfl)⟩
theorem lw_p38 : lw_okq (⟨"BehindAnotherHearseModel", "isNew", "()I"⟩, 53) := ⟨⟨by decide +kernel, by decide +kernel⟩, lw_t5 (List.mem_of_getElem? (i := 233) rfl), lw_t7 (List.mem_of_getElem? (i := 10) rfl), lw_t7 (List.mem_of_getElem? (i := 11) rfl)⟩
theorem lw_p39 : lw_okq (⟨"BehindAnotherHearseModel", "readsMourner", "()Z"⟩, 53) := ⟨⟨by decide +kernel, by decide +kernel⟩, lw_t5 (List.mem_of_getElem? (i := 233) rfl), lw_t7 (List.mem_of_getElem? (i := 18) rfl), lw_t7 (List.mem_of_getElem? (i := 19) rfl)⟩
theorem lw_p40 : lw_okq (⟨"BehindAnotherHearseModel", "readsRule", "()I"⟩, 53) := ⟨⟨by decide +kernel, by decide +kernel⟩, lw_t5 (List.mem_of_getElem? (i := 233) rfl), lw_t7 (List.mem_of_getElem? (i := 100) rfl), lw_t7 (List.mem_of_getElem? (i := 101) rfl)⟩
theorem lw_p41 : lw_okq (⟨"BehindAnotherHearseModel", "readsRank", "(I)Z"⟩, 53) := ⟨⟨by decide +kernel, by decide +kernel⟩, lw_t5 (List.mem_of_getElem? (i := 233) rfl), lw_t7 (List.mem_of_getElem? (i := 104) rfl), lw_t7 (List.mem_of_getElem? (i := 105) rfl)⟩
theorem lw_p42 : lw_okq (⟨"BehindAnotherHearseModel", "readsThing", "()Z"⟩, 53) := ⟨⟨by decide +kernel, by decide +kernel⟩, lw_t5 (List.mem_of_getElem? (i := 233) rfl), lw_t7 (List.mem_of_getElem? (i := 108) rfl), lw_t7 (List.mem_of_getElem? (i := 109) rfl)⟩
theorem lw_p43 : lw_okq (⟨"BehindAnotherHearseModel", "codes", "(I)V"⟩, 53) := ⟨⟨by decide +kernel, by decide +kernel⟩, lw_t5 (List.mem_of_getElem? (i := 233) rfl), lw_t7 (List.mem_of_getElem? (i := 112) rfl), lw_t7 (List.mem_of_getElem? (i := 113) rfl)⟩
theorem lw_p44 : lw_okq (⟨"BehindAnotherHearseModel", "laysCode", "([II)V"⟩, 53) := ⟨⟨by decide +kernel, by decide +kernel⟩, lw_t5 (List.mem_of_getElem? (i := 233) rfl), lw_t7 (List.mem_of_getElem? (i := 120) rfl), lw_t7 (List.mem_of_getElem? (i := 121) rfl)⟩
theorem lw_p45 : lw_okq (⟨"BehindAnotherHearseModel", "isHearse", "(I)Z"⟩, 53) := ⟨⟨by decide +kernel, by decide +kernel⟩, lw_t5 (List.mem_of_getElem? (i := 233) rfl), lw_t7 (List.mem_of_getElem? (i := 128) rfl), lw_t7 (List.mem_of_getElem? (i := 129) rfl)⟩
theorem lw_p46 : lw_okq (⟨"BehindAnotherHearseModel", "refuse", "()I"⟩, 53) := ⟨⟨by decide +kernel, by decide +kernel⟩, lw_t5 (List.mem_of_getElem? (i := 233) rfl), lw_t7 (List.mem_of_getElem? (i := 133) rfl), lw_t7 (List.mem_of_getElem? (i := 134) rfl)⟩
theorem lw_p47 : lw_okq (⟨"BehindAnotherHearseModel", "paceOf", "([II)I"⟩, 53) := ⟨⟨by decide +kernel, by decide +kernel⟩, lw_t5 (List.mem_of_getElem? (i := 233) rfl), lw_t7 (List.mem_of_getElem? (i := 137) rfl), lw_t7 (List.mem_of_getElem? (i := 138) rfl)⟩
def lw_privs_3 : List (MethodName × Nat) := [(⟨"BehindAnotherHearseModel", "number", "(I)I"⟩, 53), (⟨"BehindAnotherHearseModel", "isDigit", "()Z"⟩, 53), (⟨"BehindAnotherHearseModel", "gate", "()I"⟩, 53), (⟨"BehindAnotherHearseModel", "onCell", "([II)I"⟩, 53), (⟨"BehindAnotherHearseModel", "takes", "(I)Z"⟩, 53), (⟨"BehindAnotherHearseModel", "faultOf", "(IIZ)I"⟩, 53), (⟨"BehindAnotherHearseModel", "isNew", "()I"⟩, 53), (⟨"BehindAnotherHearseModel", "readsMourner", "()Z"⟩, 53), (⟨"BehindAnotherHearseModel", "readsRule", "()I"⟩, 53), (⟨"BehindAnotherHearseModel", "readsRank", "(I)Z"⟩, 53), (⟨"BehindAnotherHearseModel", "readsThing", "()Z"⟩, 53), (⟨"BehindAnotherHearseModel", "codes", "(I)V"⟩, 53), (⟨"BehindAnotherHearseModel", "laysCode", "([II)V"⟩, 53), (⟨"BehindAnotherHearseModel", "isHearse", "(I)Z"⟩, 53), (⟨"BehindAnotherHearseModel", "refuse", "()I"⟩, 53), (⟨"BehindAnotherHearseModel", "paceOf", "([II)I"⟩, 53)]
theorem lw_r3 : ∀ q ∈ lw_privs_3, lw_okq q := List.forall_mem_cons.mpr ⟨lw_p32, List.forall_mem_cons.mpr ⟨lw_p33, List.forall_mem_cons.mpr ⟨lw_p34, List.forall_mem_cons.mpr ⟨lw_p35, List.forall_mem_cons.mpr ⟨lw_p36, List.forall_mem_cons.mpr ⟨lw_p37, List.forall_mem_cons.mpr ⟨lw_p38, List.forall_mem_cons.mpr ⟨lw_p39, List.forall_mem_cons.mpr ⟨lw_p40, List.forall_mem_cons.mpr ⟨lw_p41, List.forall_mem_cons.mpr ⟨lw_p42, List.forall_mem_cons.mpr ⟨lw_p43, List.forall_mem_cons.mpr ⟨lw_p44, List.forall_mem_cons.mpr ⟨lw_p45, List.forall_mem_cons.mpr ⟨lw_p46, List.forall_mem_cons.mpr ⟨lw_p47, fun _ h => absurd h List.not_mem_nil⟩⟩⟩⟩⟩⟩⟩⟩⟩⟩⟩⟩⟩⟩⟩⟩
theorem lw_p48 : lw_okq (⟨"BehindAnotherHearseModel", "freeAhead", "([II)I"⟩, 53) := ⟨⟨by decide +kernel, by decide +kernel⟩, lw_t5 (List.mem_of_getElem? (i := 233) rfl), lw_t7 (List.mem_of_getElem? (i := 144) rfl), lw_t7 (List.mem_of_getElem? (i := 145) rfl)⟩
theorem lw_p49 : lw_okq (⟨"BehindAnotherHearseModel", "weatherOn", "(I)I"⟩, 53) := ⟨⟨by decide +kernel, by decide +kernel⟩, lw_t5 (List.mem_of_getElem? (i := 233) rfl), lw_t7 (List.mem_of_getElem? (i := 148) rfl), lw_t7 (List.mem_of_getElem? (i := 149) rfl)⟩
theorem lw_p50 : lw_okq (⟨"BehindAnotherHearseModel", "bitsBy", "([III)I"⟩, 53) := ⟨⟨by decide +kernel, by decide +kernel⟩, lw_t5 (List.mem_of_getElem? (i := 233) rfl), lw_t7 (List.mem_of_getElem? (i := 152) rfl), lw_t7 (List.mem_of_getElem? (i := 153) rfl)⟩
theorem lw_p51 : lw_okq (⟨"BehindAnotherHearseModel", "ruled", "()I"⟩, 53) := ⟨⟨by decide +kernel, by decide +kernel⟩, lw_t5 (List.mem_of_getElem? (i := 233) rfl), lw_t7 (List.mem_of_getElem? (i := 157) rfl), lw_t7 (List.mem_of_getElem? (i := 158) rfl)⟩
theorem lw_p52 : lw_okq (⟨"BehindAnotherHearseModel", "owners", "(I)I"⟩, 53) := ⟨⟨by decide +kernel, by decide +kernel⟩, lw_t5 (List.mem_of_getElem? (i := 233) rfl), lw_t7 (List.mem_of_getElem? (i := 165) rfl), lw_t7 (List.mem_of_getElem? (i := 166) rfl)⟩
theorem lw_p53 : lw_okq (⟨"BehindAnotherHearseModel", "isMourner", "(I)Z"⟩, 53) := ⟨⟨by decide +kernel, by decide +kernel⟩, lw_t5 (List.mem_of_getElem? (i := 233) rfl), lw_t7 (List.mem_of_getElem? (i := 173) rfl), lw_t7 (List.mem_of_getElem? (i := 174) rfl)⟩
theorem lw_p54 : lw_okq (⟨"BehindAnotherHearseModel", "nearest", "([II)I"⟩, 53) := ⟨⟨by decide +kernel, by decide +kernel⟩, lw_t5 (List.mem_of_getElem? (i := 233) rfl), lw_t7 (List.mem_of_getElem? (i := 178) rfl), lw_t7 (List.mem_of_getElem? (i := 179) rfl)⟩
theorem lw_p55 : lw_okq (⟨"BehindAnotherHearseModel", "putsBy", "()V"⟩, 53) := ⟨⟨by decide +kernel, by decide +kernel⟩, lw_t5 (List.mem_of_getElem? (i := 233) rfl), lw_t7 (List.mem_of_getElem? (i := 201) rfl), lw_t7 (List.mem_of_getElem? (i := 202) rfl)⟩
theorem lw_p56 : lw_okq (⟨"BehindAnotherHearseModel", "goesOn", "([II)V"⟩, 53) := ⟨⟨by decide +kernel, by decide +kernel⟩, lw_t5 (List.mem_of_getElem? (i := 233) rfl), lw_t7 (List.mem_of_getElem? (i := 205) rfl), lw_t7 (List.mem_of_getElem? (i := 206) rfl)⟩
theorem lw_p57 : lw_okq (⟨"BehindAnotherHearseModel", "stepGoes", "([I)V"⟩, 53) := ⟨⟨by decide +kernel, by decide +kernel⟩, lw_t5 (List.mem_of_getElem? (i := 233) rfl), lw_t7 (List.mem_of_getElem? (i := 209) rfl), lw_t7 (List.mem_of_getElem? (i := 210) rfl)⟩
theorem lw_p58 : lw_okq (⟨"BehindAnotherHearseModel", "laysLine", "([I)V"⟩, 53) := ⟨⟨by decide +kernel, by decide +kernel⟩, lw_t5 (List.mem_of_getElem? (i := 233) rfl), lw_t7 (List.mem_of_getElem? (i := 213) rfl), lw_t7 (List.mem_of_getElem? (i := 214) rfl)⟩
theorem lw_p59 : lw_okq (⟨"BehindAnotherHearseModel", "hearseGoes", "([II)V"⟩, 53) := ⟨⟨by decide +kernel, by decide +kernel⟩, lw_t5 (List.mem_of_getElem? (i := 233) rfl), lw_t7 (List.mem_of_getElem? (i := 217) rfl), lw_t7 (List.mem_of_getElem? (i := 218) rfl)⟩
theorem lw_p60 : lw_okq (⟨"BehindAnotherHearseModel", "goal", "([III)I"⟩, 53) := ⟨⟨by decide +kernel, by decide +kernel⟩, lw_t5 (List.mem_of_getElem? (i := 233) rfl), lw_t7 (List.mem_of_getElem? (i := 221) rfl), lw_t7 (List.mem_of_getElem? (i := 222) rfl)⟩
theorem lw_p61 : lw_okq (⟨"BehindAnotherHearseModel", "mournerGoes", "([II)V"⟩, 53) := ⟨⟨by decide +kernel, by decide +kernel⟩, lw_t5 (List.mem_of_getElem? (i := 233) rfl), lw_t7 (List.mem_of_getElem? (i := 225) rfl), lw_t7 (List.mem_of_getElem? (i := 226) rfl)⟩
theorem lw_p62 : lw_okq (⟨"BehindAnotherHearseModel", "enters", "(J)V"⟩, 53) := ⟨⟨by decide +kernel, by decide +kernel⟩, lw_t5 (List.mem_of_getElem? (i := 233) rfl), lw_t7 (List.mem_of_getElem? (i := 229) rfl), lw_t7 (List.mem_of_getElem? (i := 230) rfl)⟩
theorem lw_p63 : lw_okq (⟨"BehindAnotherHearseModel", "adds", "(I)I"⟩, 53) := ⟨⟨by decide +kernel, by decide +kernel⟩, lw_t5 (List.mem_of_getElem? (i := 233) rfl), lw_t7 (List.mem_of_getElem? (i := 233) rfl), lw_t7 (List.mem_of_getElem? (i := 234) rfl)⟩
def lw_privs_4 : List (MethodName × Nat) := [(⟨"BehindAnotherHearseModel", "freeAhead", "([II)I"⟩, 53), (⟨"BehindAnotherHearseModel", "weatherOn", "(I)I"⟩, 53), (⟨"BehindAnotherHearseModel", "bitsBy", "([III)I"⟩, 53), (⟨"BehindAnotherHearseModel", "ruled", "()I"⟩, 53), (⟨"BehindAnotherHearseModel", "owners", "(I)I"⟩, 53), (⟨"BehindAnotherHearseModel", "isMourner", "(I)Z"⟩, 53), (⟨"BehindAnotherHearseModel", "nearest", "([II)I"⟩, 53), (⟨"BehindAnotherHearseModel", "putsBy", "()V"⟩, 53), (⟨"BehindAnotherHearseModel", "goesOn", "([II)V"⟩, 53), (⟨"BehindAnotherHearseModel", "stepGoes", "([I)V"⟩, 53), (⟨"BehindAnotherHearseModel", "laysLine", "([I)V"⟩, 53), (⟨"BehindAnotherHearseModel", "hearseGoes", "([II)V"⟩, 53), (⟨"BehindAnotherHearseModel", "goal", "([III)I"⟩, 53), (⟨"BehindAnotherHearseModel", "mournerGoes", "([II)V"⟩, 53), (⟨"BehindAnotherHearseModel", "enters", "(J)V"⟩, 53), (⟨"BehindAnotherHearseModel", "adds", "(I)I"⟩, 53)]
theorem lw_r4 : ∀ q ∈ lw_privs_4, lw_okq q := List.forall_mem_cons.mpr ⟨lw_p48, List.forall_mem_cons.mpr ⟨lw_p49, List.forall_mem_cons.mpr ⟨lw_p50, List.forall_mem_cons.mpr ⟨lw_p51, List.forall_mem_cons.mpr ⟨lw_p52, List.forall_mem_cons.mpr ⟨lw_p53, List.forall_mem_cons.mpr ⟨lw_p54, List.forall_mem_cons.mpr ⟨lw_p55, List.forall_mem_cons.mpr ⟨lw_p56, List.forall_mem_cons.mpr ⟨lw_p57, List.forall_mem_cons.mpr ⟨lw_p58, List.forall_mem_cons.mpr ⟨lw_p59, List.forall_mem_cons.mpr ⟨lw_p60, List.forall_mem_cons.mpr ⟨lw_p61, List.forall_mem_cons.mpr ⟨lw_p62, List.forall_mem_cons.mpr ⟨lw_p63, fun _ h => absurd h List.not_mem_nil⟩⟩⟩⟩⟩⟩⟩⟩⟩⟩⟩⟩⟩⟩⟩⟩
theorem lw_p64 : lw_okq (⟨"BehindAnotherHearseModel", "turnsOne", "([II)I"⟩, 53) := ⟨⟨by decide +kernel, by decide +kernel⟩, lw_t5 (List.mem_of_getElem? (i := 233) rfl), lw_t8 (List.mem_of_getElem? (i := 1) rfl), lw_t8 (List.mem_of_getElem? (i := 2) rfl)⟩
theorem lw_p65 : lw_okq (⟨"BehindAnotherHearseModel", "counted", "(I)I"⟩, 53) := ⟨⟨by decide +kernel, by decide +kernel⟩, lw_t5 (List.mem_of_getElem? (i := 233) rfl), lw_t8 (List.mem_of_getElem? (i := 5) rfl), lw_t8 (List.mem_of_getElem? (i := 6) rfl)⟩
theorem lw_p66 : lw_okq (⟨"BehindAnotherHearseModel", "pushesOne", "([III)I"⟩, 53) := ⟨⟨by decide +kernel, by decide +kernel⟩, lw_t5 (List.mem_of_getElem? (i := 233) rfl), lw_t8 (List.mem_of_getElem? (i := 13) rfl), lw_t8 (List.mem_of_getElem? (i := 14) rfl)⟩
theorem lw_p67 : lw_okq (⟨"BehindAnotherHearseModel", "swapsTwo", "(II)I"⟩, 53) := ⟨⟨by decide +kernel, by decide +kernel⟩, lw_t5 (List.mem_of_getElem? (i := 233) rfl), lw_t8 (List.mem_of_getElem? (i := 23) rfl), lw_t8 (List.mem_of_getElem? (i := 24) rfl)⟩
theorem lw_p68 : lw_okq (⟨"BehindAnotherHearseModel", "readsAct", "()Z"⟩, 53) := ⟨⟨by decide +kernel, by decide +kernel⟩, lw_t5 (List.mem_of_getElem? (i := 233) rfl), lw_t8 (List.mem_of_getElem? (i := 31) rfl), lw_t8 (List.mem_of_getElem? (i := 32) rfl)⟩
theorem lw_p69 : lw_okq (⟨"BehindAnotherHearseModel", "digitIn", "(II)I"⟩, 53) := ⟨⟨by decide +kernel, by decide +kernel⟩, lw_t5 (List.mem_of_getElem? (i := 233) rfl), lw_t8 (List.mem_of_getElem? (i := 36) rfl), lw_t8 (List.mem_of_getElem? (i := 37) rfl)⟩
theorem lw_p70 : lw_okq (⟨"BehindAnotherHearseModel", "does", "(I)Z"⟩, 53) := ⟨⟨by decide +kernel, by decide +kernel⟩, lw_t5 (List.mem_of_getElem? (i := 233) rfl), lw_t8 (List.mem_of_getElem? (i := 40) rfl), lw_t8 (List.mem_of_getElem? (i := 41) rfl)⟩
theorem lw_p71 : lw_okq (⟨"BehindAnotherHearseModel", "copies", "()V"⟩, 53) := ⟨⟨by decide +kernel, by decide +kernel⟩, lw_t5 (List.mem_of_getElem? (i := 233) rfl), lw_t8 (List.mem_of_getElem? (i := 53) rfl), lw_t8 (List.mem_of_getElem? (i := 54) rfl)⟩
theorem lw_p72 : lw_okq (⟨"BehindAnotherHearseModel", "rightThen", "()I"⟩, 53) := ⟨⟨by decide +kernel, by decide +kernel⟩, lw_t5 (List.mem_of_getElem? (i := 233) rfl), lw_t8 (List.mem_of_getElem? (i := 80) rfl), lw_t8 (List.mem_of_getElem? (i := 81) rfl)⟩
theorem lw_p73 : lw_okq (⟨"BehindAnotherHearseModel", "endedBy", "([IZ)I"⟩, 53) := ⟨⟨by decide +kernel, by decide +kernel⟩, lw_t5 (List.mem_of_getElem? (i := 233) rfl), lw_t8 (List.mem_of_getElem? (i := 84) rfl), lw_t8 (List.mem_of_getElem? (i := 85) rfl)⟩
theorem lw_p74 : lw_okq (⟨"BehindAnotherHearseModel", "places", "(II)V"⟩, 53) := ⟨⟨by decide +kernel, by decide +kernel⟩, lw_t5 (List.mem_of_getElem? (i := 233) rfl), lw_t8 (List.mem_of_getElem? (i := 92) rfl), lw_t8 (List.mem_of_getElem? (i := 93) rfl)⟩
theorem lw_p75 : lw_okq (⟨"BehindAnotherHearseModel", "sharesFrom", "(IIII)V"⟩, 53) := ⟨⟨by decide +kernel, by decide +kernel⟩, lw_t5 (List.mem_of_getElem? (i := 233) rfl), lw_t8 (List.mem_of_getElem? (i := 125) rfl), lw_t8 (List.mem_of_getElem? (i := 126) rfl)⟩
theorem lw_p76 : lw_okq (⟨"BehindAnotherHearseModel", "isSo", "(III)Z"⟩, 53) := ⟨⟨by decide +kernel, by decide +kernel⟩, lw_t5 (List.mem_of_getElem? (i := 233) rfl), lw_t8 (List.mem_of_getElem? (i := 149) rfl), lw_t8 (List.mem_of_getElem? (i := 150) rfl)⟩
theorem lw_p77 : lw_okq (⟨"BehindAnotherHearseModel", "draws", "(I)I"⟩, 53) := ⟨⟨by decide +kernel, by decide +kernel⟩, lw_t5 (List.mem_of_getElem? (i := 233) rfl), lw_t8 (List.mem_of_getElem? (i := 181) rfl), lw_t8 (List.mem_of_getElem? (i := 182) rfl)⟩
def lw_privs_5 : List (MethodName × Nat) := [(⟨"BehindAnotherHearseModel", "turnsOne", "([II)I"⟩, 53), (⟨"BehindAnotherHearseModel", "counted", "(I)I"⟩, 53), (⟨"BehindAnotherHearseModel", "pushesOne", "([III)I"⟩, 53), (⟨"BehindAnotherHearseModel", "swapsTwo", "(II)I"⟩, 53), (⟨"BehindAnotherHearseModel", "readsAct", "()Z"⟩, 53), (⟨"BehindAnotherHearseModel", "digitIn", "(II)I"⟩, 53), (⟨"BehindAnotherHearseModel", "does", "(I)Z"⟩, 53), (⟨"BehindAnotherHearseModel", "copies", "()V"⟩, 53), (⟨"BehindAnotherHearseModel", "rightThen", "()I"⟩, 53), (⟨"BehindAnotherHearseModel", "endedBy", "([IZ)I"⟩, 53), (⟨"BehindAnotherHearseModel", "places", "(II)V"⟩, 53), (⟨"BehindAnotherHearseModel", "sharesFrom", "(IIII)V"⟩, 53), (⟨"BehindAnotherHearseModel", "isSo", "(III)Z"⟩, 53), (⟨"BehindAnotherHearseModel", "draws", "(I)I"⟩, 53)]
theorem lw_r5 : ∀ q ∈ lw_privs_5, lw_okq q := List.forall_mem_cons.mpr ⟨lw_p64, List.forall_mem_cons.mpr ⟨lw_p65, List.forall_mem_cons.mpr ⟨lw_p66, List.forall_mem_cons.mpr ⟨lw_p67, List.forall_mem_cons.mpr ⟨lw_p68, List.forall_mem_cons.mpr ⟨lw_p69, List.forall_mem_cons.mpr ⟨lw_p70, List.forall_mem_cons.mpr ⟨lw_p71, List.forall_mem_cons.mpr ⟨lw_p72, List.forall_mem_cons.mpr ⟨lw_p73, List.forall_mem_cons.mpr ⟨lw_p74, List.forall_mem_cons.mpr ⟨lw_p75, List.forall_mem_cons.mpr ⟨lw_p76, List.forall_mem_cons.mpr ⟨lw_p77, fun _ h => absurd h List.not_mem_nil⟩⟩⟩⟩⟩⟩⟩⟩⟩⟩⟩⟩⟩⟩
def lw_privs : List (MethodName × Nat) := lw_privs_1 ++ (lw_privs_2 ++ (lw_privs_3 ++ (lw_privs_4 ++ (lw_privs_5))))
def lw_tbl : List Cond := k2_sels lw_privs ++ tables_1
theorem lw_privs_ok : ∀ q ∈ lw_privs, lw_okq q := by
  show ∀ q ∈ lw_privs_1 ++ (lw_privs_2 ++ (lw_privs_3 ++ (lw_privs_4 ++ (lw_privs_5)))), lw_okq q
  exact List.forall_mem_append.mpr ⟨lw_r1, List.forall_mem_append.mpr ⟨lw_r2, List.forall_mem_append.mpr ⟨lw_r3, List.forall_mem_append.mpr ⟨lw_r4, lw_r5⟩⟩⟩⟩
-- ===== ONE list of words for every method: the tables' words that hold all through a run =====
def lw_all : List Cond := lw_tbl.filter goodWord
/-- a word of the tables by its place: claim/WORDS.tsv -/
theorem lw_w {w : Cond} (i : Nat) (h : lw_tbl[i]? = some w) (g : goodWord w = true) : w ∈ lw_all := List.mem_filter.mpr ⟨List.mem_of_getElem? h, g⟩
theorem lw_all_tbl {w : Cond} (h : w ∈ lw_all) : w ∈ lw_tbl := (List.mem_filter.mp h).1
theorem lw_self : GoodIn lw_all lw_all := fun w h => ⟨h, good_of_word (List.mem_filter.mp h).2⟩
/-- a class's field words, by their places -/
theorem lw_in (ws : List Cond) (ps : List Nat) (hp : ws = ps.filterMap (fun i => lw_tbl[i]?)) (hg : ws.all goodWord = true) : ∀ w ∈ ws, w ∈ lw_all := by
  intro w h
  have h1 := List.all_eq_true.mp hg w h
  rw [hp] at h
  obtain ⟨i, -, hi⟩ := List.mem_filterMap.mp h
  exact lw_w i hi h1
/-- the words of a contract for the method y with code b, L locals, answer r -/
abbrev ws_ (y : MethodName) (b : ByteArray) (L : Nat) (r : Option FieldType) : List Cond := Cond.code y b L r :: lw_all
theorem lw_meth {y : MethodName} {b : ByteArray} {L : Nat} {r : Option FieldType} (h : Cond.code y b L r ∈ lw_all) : GoodIn lw_all (ws_ y b L r) := by
  intro w hw
  rcases List.mem_cons.mp hw with e | e
  · rw [e]
    exact lw_self _ h
  · exact lw_self _ e
theorem lw_app {a c : List Cond} (ha : ∀ w ∈ a, w ∈ lw_all) (hc : GoodIn lw_all c) : GoodIn lw_all (a ++ c) := by
  intro w hw
  rcases List.mem_append.mp hw with e | e
  · exact lw_self w (ha w e)
  · exact hc w e
/-- what a call through an object asks: cwV n hts (lw_V ..) -/
theorem lw_V {own : String} {idx : Nat} {C : String} {y : MethodName} {b : ByteArray} {L : Nat} {r : Option FieldType} (h1 : Cond.methodLink own idx y ∈ lw_all) (h2 : Cond.instanceMethod y ∈ lw_all) (h3 : Cond.selects C y y ∈ lw_all) (h4 : Cond.initialized C ∈ lw_all) (h5 : Cond.code y b L r ∈ lw_all) : GoodIn lw_all (wsV own idx C y (ws_ y b L r)) := by
  refine lw_app ?_ (lw_meth h5)
  intro w hw
  simp only [List.mem_cons, List.not_mem_nil, or_false] at hw
  rcases hw with e | e | e | e
  · rw [e]; exact h1
  · rw [e]; exact h2
  · rw [e]; exact h3
  · rw [e]; exact h4
/-- what a static call asks: va_cwS n hts (lw_S ..) -/
theorem lw_S {own : String} {idx : Nat} {y : MethodName} {b : ByteArray} {L : Nat} {r : Option FieldType} (h1 : Cond.methodLink own idx y ∈ lw_all) (h2 : Cond.static y ∈ lw_all) (h3 : Cond.initialized y.cls ∈ lw_all) (h4 : Cond.code y b L r ∈ lw_all) : GoodIn lw_all (va_wsS own idx y (ws_ y b L r)) := by
  refine lw_app ?_ (lw_meth h4)
  intro w hw
  simp only [List.mem_cons, List.not_mem_nil, or_false] at hw
  rcases hw with e | e | e
  · rw [e]; exact h1
  · rw [e]; exact h2
  · rw [e]; exact h3
/-- the words of a contract for a method WITH HANDLERS (hh: its table) -/
abbrev wsW_ (y : MethodName) (b : ByteArray) (L : Nat) (r : Option FieldType) (hh : List (Nat × Nat × Nat × Nat)) : List Cond := Cond.codeWith y b L r hh :: lw_all
theorem lw_methW {y : MethodName} {b : ByteArray} {L : Nat} {r : Option FieldType} {hh : List (Nat × Nat × Nat × Nat)} (h : Cond.codeWith y b L r hh ∈ lw_all) : GoodIn lw_all (wsW_ y b L r hh) := by
  intro w hw
  rcases List.mem_cons.mp hw with e | e
  · rw [e]
    exact lw_self _ h
  · exact lw_self _ e
/-- any list of words by their places (lw_in), good -/
theorem lw_good {ws : List Cond} (h : ∀ w ∈ ws, w ∈ lw_all) : GoodIn lw_all ws := fun w hw => lw_self w (h w hw)
/-- what a call of a method with handlers asks: vx_cwVW n hts (lw_VW ..), vx_cwSW n hts (lw_SW ..) -/
theorem lw_VW {own : String} {idx : Nat} {C : String} {y : MethodName} {b : ByteArray} {L : Nat} {r : Option FieldType} {hh : List (Nat × Nat × Nat × Nat)} (h1 : Cond.methodLink own idx y ∈ lw_all) (h2 : Cond.instanceMethod y ∈ lw_all) (h3 : Cond.selects C y y ∈ lw_all) (h4 : Cond.initialized C ∈ lw_all) (h5 : Cond.codeWith y b L r hh ∈ lw_all) : GoodIn lw_all (wsV own idx C y (wsW_ y b L r hh)) := by
  refine lw_app ?_ (lw_methW h5)
  intro w hw
  simp only [List.mem_cons, List.not_mem_nil, or_false] at hw
  rcases hw with e | e | e | e
  · rw [e]; exact h1
  · rw [e]; exact h2
  · rw [e]; exact h3
  · rw [e]; exact h4
theorem lw_SW {own : String} {idx : Nat} {y : MethodName} {b : ByteArray} {L : Nat} {r : Option FieldType} {hh : List (Nat × Nat × Nat × Nat)} (h1 : Cond.methodLink own idx y ∈ lw_all) (h2 : Cond.static y ∈ lw_all) (h3 : Cond.initialized y.cls ∈ lw_all) (h4 : Cond.codeWith y b L r hh ∈ lw_all) : GoodIn lw_all (va_wsS own idx y (wsW_ y b L r hh)) := by
  refine lw_app ?_ (lw_methW h4)
  intro w hw
  simp only [List.mem_cons, List.not_mem_nil, or_false] at hw
  rcases hw with e | e | e
  · rw [e]; exact h1
  · rw [e]; exact h2
  · rw [e]; exact h3
/-- a word by its place in its run of the tables -/
theorem lw_at {r : List Cond} (hr : ∀ w ∈ r, w ∈ lw_tbl) {w : Cond} (i : Nat) (h : r[i]? = some w) : w ∈ lw_tbl := hr w (List.mem_of_getElem? h)
theorem lw_g {w : Cond} (h : w ∈ lw_tbl) (g : goodWord w = true) : w ∈ lw_all := List.mem_filter.mpr ⟨h, g⟩
theorem lw_ms : ∀ w ∈ k2_sels lw_privs, w ∈ lw_tbl := fun w h => show w ∈ k2_sels lw_privs ++ tables_1 from List.mem_append_left _ h
theorem lw_m1 : ∀ w ∈ tables_1_1, w ∈ lw_tbl := fun w h => show w ∈ k2_sels lw_privs ++ tables_1 from List.mem_append_right (k2_sels lw_privs) (show w ∈ tables_1 from List.mem_append_left _ h)
theorem lw_m2 : ∀ w ∈ tables_1_2, w ∈ lw_tbl := fun w h => show w ∈ k2_sels lw_privs ++ tables_1 from List.mem_append_right (k2_sels lw_privs) (show w ∈ tables_1 from List.mem_append_right _ (List.mem_append_left _ h))
theorem lw_m3 : ∀ w ∈ tables_1_3, w ∈ lw_tbl := fun w h => show w ∈ k2_sels lw_privs ++ tables_1 from List.mem_append_right (k2_sels lw_privs) (show w ∈ tables_1 from List.mem_append_right _ (List.mem_append_right _ (List.mem_append_left _ h)))
theorem lw_m4 : ∀ w ∈ tables_1_4, w ∈ lw_tbl := fun w h => show w ∈ k2_sels lw_privs ++ tables_1 from List.mem_append_right (k2_sels lw_privs) (show w ∈ tables_1 from List.mem_append_right _ (List.mem_append_right _ (List.mem_append_right _ (List.mem_append_left _ h))))
theorem lw_m5 : ∀ w ∈ tables_1_5, w ∈ lw_tbl := fun w h => show w ∈ k2_sels lw_privs ++ tables_1 from List.mem_append_right (k2_sels lw_privs) (show w ∈ tables_1 from List.mem_append_right _ (List.mem_append_right _ (List.mem_append_right _ (List.mem_append_right _ (List.mem_append_left _ h)))))
theorem lw_m6 : ∀ w ∈ tables_1_6, w ∈ lw_tbl := fun w h => show w ∈ k2_sels lw_privs ++ tables_1 from List.mem_append_right (k2_sels lw_privs) (show w ∈ tables_1 from List.mem_append_right _ (List.mem_append_right _ (List.mem_append_right _ (List.mem_append_right _ (List.mem_append_right _ (List.mem_append_left _ h))))))
theorem lw_m7 : ∀ w ∈ tables_1_7, w ∈ lw_tbl := fun w h => show w ∈ k2_sels lw_privs ++ tables_1 from List.mem_append_right (k2_sels lw_privs) (show w ∈ tables_1 from List.mem_append_right _ (List.mem_append_right _ (List.mem_append_right _ (List.mem_append_right _ (List.mem_append_right _ (List.mem_append_right _ (List.mem_append_left _ h)))))))
theorem lw_m8 : ∀ w ∈ tables_1_8, w ∈ lw_tbl := fun w h => show w ∈ k2_sels lw_privs ++ tables_1 from List.mem_append_right (k2_sels lw_privs) (show w ∈ tables_1 from List.mem_append_right _ (List.mem_append_right _ (List.mem_append_right _ (List.mem_append_right _ (List.mem_append_right _ (List.mem_append_right _ (List.mem_append_right _ h)))))))
theorem qs0 : (Cond.selects "BehindAnotherHearse" ⟨"BehindAnotherHearse", "words", "(I)LBehindAnotherHearse$Words;"⟩ ⟨"BehindAnotherHearse", "words", "(I)LBehindAnotherHearse$Words;"⟩) ∈ lw_all := lw_g (lw_at lw_ms 0 rfl) rfl
theorem qs1 : (Cond.selects "java/lang/Throwable" ⟨"java/lang/Throwable", "fillInStackTrace", "(I)Ljava/lang/Throwable;"⟩ ⟨"java/lang/Throwable", "fillInStackTrace", "(I)Ljava/lang/Throwable;"⟩) ∈ lw_all := lw_g (lw_at lw_ms 1 rfl) rfl
theorem qs2 : (Cond.selects "BehindAnotherHearse" ⟨"BehindAnotherHearse", "cell", "(LBehindAnotherHearse$Words;)I"⟩ ⟨"BehindAnotherHearse", "cell", "(LBehindAnotherHearse$Words;)I"⟩) ∈ lw_all := lw_g (lw_at lw_ms 2 rfl) rfl
theorem qs3 : (Cond.selects "BehindAnotherHearse" ⟨"BehindAnotherHearse", "comes", "()V"⟩ ⟨"BehindAnotherHearse", "comes", "()V"⟩) ∈ lw_all := lw_g (lw_at lw_ms 3 rfl) rfl
theorem qs4 : (Cond.selects "BehindAnotherHearse$Rule" ⟨"BehindAnotherHearse$Rule", "held", "(I)I"⟩ ⟨"BehindAnotherHearse$Rule", "held", "(I)I"⟩) ∈ lw_all := lw_g (lw_at lw_ms 4 rfl) rfl
theorem qs5 : (Cond.selects "BehindAnotherHearse$Rule" ⟨"BehindAnotherHearse$Rule", "sum", "(I)I"⟩ ⟨"BehindAnotherHearse$Rule", "sum", "(I)I"⟩) ∈ lw_all := lw_g (lw_at lw_ms 5 rfl) rfl
theorem qs6 : (Cond.selects "BehindAnotherHearse$Rule" ⟨"BehindAnotherHearse$Rule", "product", "(I)I"⟩ ⟨"BehindAnotherHearse$Rule", "product", "(I)I"⟩) ∈ lw_all := lw_g (lw_at lw_ms 6 rfl) rfl
theorem qs7 : (Cond.selects "BehindAnotherHearse$Rule" ⟨"BehindAnotherHearse$Rule", "thing", "(I)I"⟩ ⟨"BehindAnotherHearse$Rule", "thing", "(I)I"⟩) ∈ lw_all := lw_g (lw_at lw_ms 7 rfl) rfl
theorem qs8 : (Cond.selects "BehindAnotherHearse$Rule" ⟨"BehindAnotherHearse$Rule", "value", "(I)I"⟩ ⟨"BehindAnotherHearse$Rule", "value", "(I)I"⟩) ∈ lw_all := lw_g (lw_at lw_ms 8 rfl) rfl
theorem qs9 : (Cond.selects "BehindAnotherHearse" ⟨"BehindAnotherHearse", "weatherOf", "(I)I"⟩ ⟨"BehindAnotherHearse", "weatherOf", "(I)I"⟩) ∈ lw_all := lw_g (lw_at lw_ms 9 rfl) rfl
theorem qs10 : (Cond.selects "BehindAnotherHearse" ⟨"BehindAnotherHearse", "remember", "(LBehindAnotherHearse$Street;)V"⟩ ⟨"BehindAnotherHearse", "remember", "(LBehindAnotherHearse$Street;)V"⟩) ∈ lw_all := lw_g (lw_at lw_ms 10 rfl) rfl
theorem qs11 : (Cond.selects "BehindAnotherHearse" ⟨"BehindAnotherHearse", "tell", "(J)V"⟩ ⟨"BehindAnotherHearse", "tell", "(J)V"⟩) ∈ lw_all := lw_g (lw_at lw_ms 11 rfl) rfl
theorem qs12 : (Cond.selects "BehindAnotherHearse" ⟨"BehindAnotherHearse", "isMan", "(I)Z"⟩ ⟨"BehindAnotherHearse", "isMan", "(I)Z"⟩) ∈ lw_all := lw_g (lw_at lw_ms 12 rfl) rfl
theorem qs13 : (Cond.selects "BehindAnotherHearse" ⟨"BehindAnotherHearse", "refusesPush", "(LBehindAnotherHearse$Street;II)I"⟩ ⟨"BehindAnotherHearse", "refusesPush", "(LBehindAnotherHearse$Street;II)I"⟩) ∈ lw_all := lw_g (lw_at lw_ms 13 rfl) rfl
theorem qs14 : (Cond.selects "BehindAnotherHearse" ⟨"BehindAnotherHearse", "refusesSwap", "(II)I"⟩ ⟨"BehindAnotherHearse", "refusesSwap", "(II)I"⟩) ∈ lw_all := lw_g (lw_at lw_ms 14 rfl) rfl
theorem qs15 : (Cond.selects "BehindAnotherHearse" ⟨"BehindAnotherHearse", "areHearses", "(II)Z"⟩ ⟨"BehindAnotherHearse", "areHearses", "(II)Z"⟩) ∈ lw_all := lw_g (lw_at lw_ms 15 rfl) rfl
theorem qs16 : (Cond.selects "BehindAnotherHearse" ⟨"BehindAnotherHearse", "isHearse", "(I)Z"⟩ ⟨"BehindAnotherHearse", "isHearse", "(I)Z"⟩) ∈ lw_all := lw_g (lw_at lw_ms 16 rfl) rfl
theorem qs17 : (Cond.selects "BehindAnotherHearse" ⟨"BehindAnotherHearse", "goSwap", "(II)V"⟩ ⟨"BehindAnotherHearse", "goSwap", "(II)V"⟩) ∈ lw_all := lw_g (lw_at lw_ms 17 rfl) rfl
theorem qs18 : (Cond.selects "BehindAnotherHearse$Order" ⟨"BehindAnotherHearse$Order", "act", "()V"⟩ ⟨"BehindAnotherHearse$Order", "act", "()V"⟩) ∈ lw_all := lw_g (lw_at lw_ms 18 rfl) rfl
theorem qs19 : (Cond.selects "BehindAnotherHearse" ⟨"BehindAnotherHearse", "act", "(CII)Z"⟩ ⟨"BehindAnotherHearse", "act", "(CII)Z"⟩) ∈ lw_all := lw_g (lw_at lw_ms 19 rfl) rfl
theorem qs20 : (Cond.selects "BehindAnotherHearse" ⟨"BehindAnotherHearse", "goToEnd", "(LBehindAnotherHearse$Street;)V"⟩ ⟨"BehindAnotherHearse", "goToEnd", "(LBehindAnotherHearse$Street;)V"⟩) ∈ lw_all := lw_g (lw_at lw_ms 20 rfl) rfl
theorem qs21 : (Cond.selects "BehindAnotherHearse" ⟨"BehindAnotherHearse", "isOver", "(LBehindAnotherHearse$Street;)Z"⟩ ⟨"BehindAnotherHearse", "isOver", "(LBehindAnotherHearse$Street;)Z"⟩) ∈ lw_all := lw_g (lw_at lw_ms 21 rfl) rfl
theorem qs22 : (Cond.selects "BehindAnotherHearse" ⟨"BehindAnotherHearse", "goOrder", "(II)V"⟩ ⟨"BehindAnotherHearse", "goOrder", "(II)V"⟩) ∈ lw_all := lw_g (lw_at lw_ms 22 rfl) rfl
theorem qs23 : (Cond.selects "BehindAnotherHearse" ⟨"BehindAnotherHearse", "ownOf", "(I)I"⟩ ⟨"BehindAnotherHearse", "ownOf", "(I)I"⟩) ∈ lw_all := lw_g (lw_at lw_ms 23 rfl) rfl
theorem qs24 : (Cond.selects "BehindAnotherHearse" ⟨"BehindAnotherHearse", "canShare", "(IIII)Z"⟩ ⟨"BehindAnotherHearse", "canShare", "(IIII)Z"⟩) ∈ lw_all := lw_g (lw_at lw_ms 24 rfl) rfl
theorem qs25 : (Cond.selects "BehindAnotherHearse" ⟨"BehindAnotherHearse", "fitsTo", "(LBehindAnotherHearse$Street;III)Z"⟩ ⟨"BehindAnotherHearse", "fitsTo", "(LBehindAnotherHearse$Street;III)Z"⟩) ∈ lw_all := lw_g (lw_at lw_ms 25 rfl) rfl
theorem qs26 : (Cond.selects "BehindAnotherHearse" ⟨"BehindAnotherHearse", "draw", "(I)I"⟩ ⟨"BehindAnotherHearse", "draw", "(I)I"⟩) ∈ lw_all := lw_g (lw_at lw_ms 26 rfl) rfl
theorem qs27 : (Cond.selects "BehindAnotherHearse" ⟨"BehindAnotherHearse", "corners", "()I"⟩ ⟨"BehindAnotherHearse", "corners", "()I"⟩) ∈ lw_all := lw_g (lw_at lw_ms 27 rfl) rfl
theorem qs28 : (Cond.selects "BehindAnotherHearseModel" ⟨"BehindAnotherHearseModel", "begins", "(I)I"⟩ ⟨"BehindAnotherHearseModel", "begins", "(I)I"⟩) ∈ lw_all := lw_g (lw_at lw_ms 28 rfl) rfl
theorem qs29 : (Cond.selects "BehindAnotherHearseModel" ⟨"BehindAnotherHearseModel", "takesOf", "(Ljava/lang/String;)I"⟩ ⟨"BehindAnotherHearseModel", "takesOf", "(Ljava/lang/String;)I"⟩) ∈ lw_all := lw_g (lw_at lw_ms 29 rfl) rfl
theorem qs30 : (Cond.selects "BehindAnotherHearseModel" ⟨"BehindAnotherHearseModel", "readsHearse", "()Z"⟩ ⟨"BehindAnotherHearseModel", "readsHearse", "()Z"⟩) ∈ lw_all := lw_g (lw_at lw_ms 30 rfl) rfl
theorem qs31 : (Cond.selects "BehindAnotherHearseModel" ⟨"BehindAnotherHearseModel", "readsCell", "(Z)I"⟩ ⟨"BehindAnotherHearseModel", "readsCell", "(Z)I"⟩) ∈ lw_all := lw_g (lw_at lw_ms 31 rfl) rfl
theorem qs32 : (Cond.selects "BehindAnotherHearseModel" ⟨"BehindAnotherHearseModel", "number", "(I)I"⟩ ⟨"BehindAnotherHearseModel", "number", "(I)I"⟩) ∈ lw_all := lw_g (lw_at lw_ms 32 rfl) rfl
theorem qs33 : (Cond.selects "BehindAnotherHearseModel" ⟨"BehindAnotherHearseModel", "isDigit", "()Z"⟩ ⟨"BehindAnotherHearseModel", "isDigit", "()Z"⟩) ∈ lw_all := lw_g (lw_at lw_ms 33 rfl) rfl
theorem qs34 : (Cond.selects "BehindAnotherHearseModel" ⟨"BehindAnotherHearseModel", "gate", "()I"⟩ ⟨"BehindAnotherHearseModel", "gate", "()I"⟩) ∈ lw_all := lw_g (lw_at lw_ms 34 rfl) rfl
theorem qs35 : (Cond.selects "BehindAnotherHearseModel" ⟨"BehindAnotherHearseModel", "onCell", "([II)I"⟩ ⟨"BehindAnotherHearseModel", "onCell", "([II)I"⟩) ∈ lw_all := lw_g (lw_at lw_ms 35 rfl) rfl
theorem qs36 : (Cond.selects "BehindAnotherHearseModel" ⟨"BehindAnotherHearseModel", "takes", "(I)Z"⟩ ⟨"BehindAnotherHearseModel", "takes", "(I)Z"⟩) ∈ lw_all := lw_g (lw_at lw_ms 36 rfl) rfl
theorem qs37 : (Cond.selects "BehindAnotherHearseModel" ⟨"BehindAnotherHearseModel", "faultOf", "(IIZ)I"⟩ ⟨"BehindAnotherHearseModel", "faultOf", "(IIZ)I"⟩) ∈ lw_all := lw_g (lw_at lw_ms 37 rfl) rfl
theorem qs38 : (Cond.selects "BehindAnotherHearseModel" ⟨"BehindAnotherHearseModel", "isNew", "()I"⟩ ⟨"BehindAnotherHearseModel", "isNew", "()I"⟩) ∈ lw_all := lw_g (lw_at lw_ms 38 rfl) rfl
theorem qs39 : (Cond.selects "BehindAnotherHearseModel" ⟨"BehindAnotherHearseModel", "readsMourner", "()Z"⟩ ⟨"BehindAnotherHearseModel", "readsMourner", "()Z"⟩) ∈ lw_all := lw_g (lw_at lw_ms 39 rfl) rfl
theorem qs40 : (Cond.selects "BehindAnotherHearseModel" ⟨"BehindAnotherHearseModel", "readsRule", "()I"⟩ ⟨"BehindAnotherHearseModel", "readsRule", "()I"⟩) ∈ lw_all := lw_g (lw_at lw_ms 40 rfl) rfl
theorem qs41 : (Cond.selects "BehindAnotherHearseModel" ⟨"BehindAnotherHearseModel", "readsRank", "(I)Z"⟩ ⟨"BehindAnotherHearseModel", "readsRank", "(I)Z"⟩) ∈ lw_all := lw_g (lw_at lw_ms 41 rfl) rfl
theorem qs42 : (Cond.selects "BehindAnotherHearseModel" ⟨"BehindAnotherHearseModel", "readsThing", "()Z"⟩ ⟨"BehindAnotherHearseModel", "readsThing", "()Z"⟩) ∈ lw_all := lw_g (lw_at lw_ms 42 rfl) rfl
theorem qs43 : (Cond.selects "BehindAnotherHearseModel" ⟨"BehindAnotherHearseModel", "codes", "(I)V"⟩ ⟨"BehindAnotherHearseModel", "codes", "(I)V"⟩) ∈ lw_all := lw_g (lw_at lw_ms 43 rfl) rfl
theorem qs44 : (Cond.selects "BehindAnotherHearseModel" ⟨"BehindAnotherHearseModel", "laysCode", "([II)V"⟩ ⟨"BehindAnotherHearseModel", "laysCode", "([II)V"⟩) ∈ lw_all := lw_g (lw_at lw_ms 44 rfl) rfl
theorem qs45 : (Cond.selects "BehindAnotherHearseModel" ⟨"BehindAnotherHearseModel", "isHearse", "(I)Z"⟩ ⟨"BehindAnotherHearseModel", "isHearse", "(I)Z"⟩) ∈ lw_all := lw_g (lw_at lw_ms 45 rfl) rfl
theorem qs46 : (Cond.selects "BehindAnotherHearseModel" ⟨"BehindAnotherHearseModel", "refuse", "()I"⟩ ⟨"BehindAnotherHearseModel", "refuse", "()I"⟩) ∈ lw_all := lw_g (lw_at lw_ms 46 rfl) rfl
theorem qs47 : (Cond.selects "BehindAnotherHearseModel" ⟨"BehindAnotherHearseModel", "paceOf", "([II)I"⟩ ⟨"BehindAnotherHearseModel", "paceOf", "([II)I"⟩) ∈ lw_all := lw_g (lw_at lw_ms 47 rfl) rfl
theorem qs48 : (Cond.selects "BehindAnotherHearseModel" ⟨"BehindAnotherHearseModel", "freeAhead", "([II)I"⟩ ⟨"BehindAnotherHearseModel", "freeAhead", "([II)I"⟩) ∈ lw_all := lw_g (lw_at lw_ms 48 rfl) rfl
theorem qs49 : (Cond.selects "BehindAnotherHearseModel" ⟨"BehindAnotherHearseModel", "weatherOn", "(I)I"⟩ ⟨"BehindAnotherHearseModel", "weatherOn", "(I)I"⟩) ∈ lw_all := lw_g (lw_at lw_ms 49 rfl) rfl
theorem qs50 : (Cond.selects "BehindAnotherHearseModel" ⟨"BehindAnotherHearseModel", "bitsBy", "([III)I"⟩ ⟨"BehindAnotherHearseModel", "bitsBy", "([III)I"⟩) ∈ lw_all := lw_g (lw_at lw_ms 50 rfl) rfl
theorem qs51 : (Cond.selects "BehindAnotherHearseModel" ⟨"BehindAnotherHearseModel", "ruled", "()I"⟩ ⟨"BehindAnotherHearseModel", "ruled", "()I"⟩) ∈ lw_all := lw_g (lw_at lw_ms 51 rfl) rfl
theorem qs52 : (Cond.selects "BehindAnotherHearseModel" ⟨"BehindAnotherHearseModel", "owners", "(I)I"⟩ ⟨"BehindAnotherHearseModel", "owners", "(I)I"⟩) ∈ lw_all := lw_g (lw_at lw_ms 52 rfl) rfl
theorem qs53 : (Cond.selects "BehindAnotherHearseModel" ⟨"BehindAnotherHearseModel", "isMourner", "(I)Z"⟩ ⟨"BehindAnotherHearseModel", "isMourner", "(I)Z"⟩) ∈ lw_all := lw_g (lw_at lw_ms 53 rfl) rfl
theorem qs54 : (Cond.selects "BehindAnotherHearseModel" ⟨"BehindAnotherHearseModel", "nearest", "([II)I"⟩ ⟨"BehindAnotherHearseModel", "nearest", "([II)I"⟩) ∈ lw_all := lw_g (lw_at lw_ms 54 rfl) rfl
theorem qs55 : (Cond.selects "BehindAnotherHearseModel" ⟨"BehindAnotherHearseModel", "putsBy", "()V"⟩ ⟨"BehindAnotherHearseModel", "putsBy", "()V"⟩) ∈ lw_all := lw_g (lw_at lw_ms 55 rfl) rfl
theorem qs56 : (Cond.selects "BehindAnotherHearseModel" ⟨"BehindAnotherHearseModel", "goesOn", "([II)V"⟩ ⟨"BehindAnotherHearseModel", "goesOn", "([II)V"⟩) ∈ lw_all := lw_g (lw_at lw_ms 56 rfl) rfl
theorem qs57 : (Cond.selects "BehindAnotherHearseModel" ⟨"BehindAnotherHearseModel", "stepGoes", "([I)V"⟩ ⟨"BehindAnotherHearseModel", "stepGoes", "([I)V"⟩) ∈ lw_all := lw_g (lw_at lw_ms 57 rfl) rfl
theorem qs58 : (Cond.selects "BehindAnotherHearseModel" ⟨"BehindAnotherHearseModel", "laysLine", "([I)V"⟩ ⟨"BehindAnotherHearseModel", "laysLine", "([I)V"⟩) ∈ lw_all := lw_g (lw_at lw_ms 58 rfl) rfl
theorem qs59 : (Cond.selects "BehindAnotherHearseModel" ⟨"BehindAnotherHearseModel", "hearseGoes", "([II)V"⟩ ⟨"BehindAnotherHearseModel", "hearseGoes", "([II)V"⟩) ∈ lw_all := lw_g (lw_at lw_ms 59 rfl) rfl
theorem qs60 : (Cond.selects "BehindAnotherHearseModel" ⟨"BehindAnotherHearseModel", "goal", "([III)I"⟩ ⟨"BehindAnotherHearseModel", "goal", "([III)I"⟩) ∈ lw_all := lw_g (lw_at lw_ms 60 rfl) rfl
theorem qs61 : (Cond.selects "BehindAnotherHearseModel" ⟨"BehindAnotherHearseModel", "mournerGoes", "([II)V"⟩ ⟨"BehindAnotherHearseModel", "mournerGoes", "([II)V"⟩) ∈ lw_all := lw_g (lw_at lw_ms 61 rfl) rfl
theorem qs62 : (Cond.selects "BehindAnotherHearseModel" ⟨"BehindAnotherHearseModel", "enters", "(J)V"⟩ ⟨"BehindAnotherHearseModel", "enters", "(J)V"⟩) ∈ lw_all := lw_g (lw_at lw_ms 62 rfl) rfl
theorem qs63 : (Cond.selects "BehindAnotherHearseModel" ⟨"BehindAnotherHearseModel", "adds", "(I)I"⟩ ⟨"BehindAnotherHearseModel", "adds", "(I)I"⟩) ∈ lw_all := lw_g (lw_at lw_ms 63 rfl) rfl
theorem qs64 : (Cond.selects "BehindAnotherHearseModel" ⟨"BehindAnotherHearseModel", "turnsOne", "([II)I"⟩ ⟨"BehindAnotherHearseModel", "turnsOne", "([II)I"⟩) ∈ lw_all := lw_g (lw_at lw_ms 64 rfl) rfl
theorem qs65 : (Cond.selects "BehindAnotherHearseModel" ⟨"BehindAnotherHearseModel", "counted", "(I)I"⟩ ⟨"BehindAnotherHearseModel", "counted", "(I)I"⟩) ∈ lw_all := lw_g (lw_at lw_ms 65 rfl) rfl
theorem qs66 : (Cond.selects "BehindAnotherHearseModel" ⟨"BehindAnotherHearseModel", "pushesOne", "([III)I"⟩ ⟨"BehindAnotherHearseModel", "pushesOne", "([III)I"⟩) ∈ lw_all := lw_g (lw_at lw_ms 66 rfl) rfl
theorem qs67 : (Cond.selects "BehindAnotherHearseModel" ⟨"BehindAnotherHearseModel", "swapsTwo", "(II)I"⟩ ⟨"BehindAnotherHearseModel", "swapsTwo", "(II)I"⟩) ∈ lw_all := lw_g (lw_at lw_ms 67 rfl) rfl
theorem qs68 : (Cond.selects "BehindAnotherHearseModel" ⟨"BehindAnotherHearseModel", "readsAct", "()Z"⟩ ⟨"BehindAnotherHearseModel", "readsAct", "()Z"⟩) ∈ lw_all := lw_g (lw_at lw_ms 68 rfl) rfl
theorem qs69 : (Cond.selects "BehindAnotherHearseModel" ⟨"BehindAnotherHearseModel", "digitIn", "(II)I"⟩ ⟨"BehindAnotherHearseModel", "digitIn", "(II)I"⟩) ∈ lw_all := lw_g (lw_at lw_ms 69 rfl) rfl
theorem qs70 : (Cond.selects "BehindAnotherHearseModel" ⟨"BehindAnotherHearseModel", "does", "(I)Z"⟩ ⟨"BehindAnotherHearseModel", "does", "(I)Z"⟩) ∈ lw_all := lw_g (lw_at lw_ms 70 rfl) rfl
theorem qs71 : (Cond.selects "BehindAnotherHearseModel" ⟨"BehindAnotherHearseModel", "copies", "()V"⟩ ⟨"BehindAnotherHearseModel", "copies", "()V"⟩) ∈ lw_all := lw_g (lw_at lw_ms 71 rfl) rfl
theorem qs72 : (Cond.selects "BehindAnotherHearseModel" ⟨"BehindAnotherHearseModel", "rightThen", "()I"⟩ ⟨"BehindAnotherHearseModel", "rightThen", "()I"⟩) ∈ lw_all := lw_g (lw_at lw_ms 72 rfl) rfl
theorem qs73 : (Cond.selects "BehindAnotherHearseModel" ⟨"BehindAnotherHearseModel", "endedBy", "([IZ)I"⟩ ⟨"BehindAnotherHearseModel", "endedBy", "([IZ)I"⟩) ∈ lw_all := lw_g (lw_at lw_ms 73 rfl) rfl
theorem qs74 : (Cond.selects "BehindAnotherHearseModel" ⟨"BehindAnotherHearseModel", "places", "(II)V"⟩ ⟨"BehindAnotherHearseModel", "places", "(II)V"⟩) ∈ lw_all := lw_g (lw_at lw_ms 74 rfl) rfl
theorem qs75 : (Cond.selects "BehindAnotherHearseModel" ⟨"BehindAnotherHearseModel", "sharesFrom", "(IIII)V"⟩ ⟨"BehindAnotherHearseModel", "sharesFrom", "(IIII)V"⟩) ∈ lw_all := lw_g (lw_at lw_ms 75 rfl) rfl
theorem qs76 : (Cond.selects "BehindAnotherHearseModel" ⟨"BehindAnotherHearseModel", "isSo", "(III)Z"⟩ ⟨"BehindAnotherHearseModel", "isSo", "(III)Z"⟩) ∈ lw_all := lw_g (lw_at lw_ms 76 rfl) rfl
theorem qs77 : (Cond.selects "BehindAnotherHearseModel" ⟨"BehindAnotherHearseModel", "draws", "(I)I"⟩ ⟨"BehindAnotherHearseModel", "draws", "(I)I"⟩) ∈ lw_all := lw_g (lw_at lw_ms 77 rfl) rfl
