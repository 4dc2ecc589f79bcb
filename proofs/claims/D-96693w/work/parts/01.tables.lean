-- ===== PART A: goes FIRST, ahead of the names: the tables' words, and 'selects' of the private methods out of them =====
/-- a private method of a class that the tables say can be made, by its rows of tables_1 -/
def lw_okq (q : MethodName × Nat) : Prop := (q.1.cls ≠ "java/lang/invoke/MethodHandle" ∧ q.1.cls ≠ "java/lang/invoke/VarHandle") ∧ Cond.instantiable q.1.cls q.2 ∈ tables_1 ∧ Cond.privateMethod q.1 ∈ tables_1 ∧ Cond.instanceMethod q.1 ∈ tables_1
set_option maxRecDepth 100000
theorem lw_t1 {w : Cond} (h : w ∈ tables_1_1) : w ∈ tables_1 := List.mem_append_left _ h
theorem lw_t2 {w : Cond} (h : w ∈ tables_1_2) : w ∈ tables_1 := List.mem_append_right _ (List.mem_append_left _ h)
theorem lw_t3 {w : Cond} (h : w ∈ tables_1_3) : w ∈ tables_1 := List.mem_append_right _ (List.mem_append_right _ (List.mem_append_left _ h))
theorem lw_t4 {w : Cond} (h : w ∈ tables_1_4) : w ∈ tables_1 := List.mem_append_right _ (List.mem_append_right _ (List.mem_append_right _ (List.mem_append_left _ h)))
theorem lw_t5 {w : Cond} (h : w ∈ tables_1_5) : w ∈ tables_1 := List.mem_append_right _ (List.mem_append_right _ (List.mem_append_right _ (List.mem_append_right _ (List.mem_append_left _ h))))
theorem lw_t6 {w : Cond} (h : w ∈ tables_1_6) : w ∈ tables_1 := List.mem_append_right _ (List.mem_append_right _ (List.mem_append_right _ (List.mem_append_right _ (List.mem_append_right _ (List.mem_append_left _ h)))))
theorem lw_t7 {w : Cond} (h : w ∈ tables_1_7) : w ∈ tables_1 := List.mem_append_right _ (List.mem_append_right _ (List.mem_append_right _ (List.mem_append_right _ (List.mem_append_right _ (List.mem_append_right _ (List.mem_append_left _ h))))))
theorem lw_t8 {w : Cond} (h : w ∈ tables_1_8) : w ∈ tables_1 := List.mem_append_right _ (List.mem_append_right _ (List.mem_append_right _ (List.mem_append_right _ (List.mem_append_right _ (List.mem_append_right _ (List.mem_append_right _ h))))))
theorem lw_p0 : lw_okq (⟨"WhichOneAllKnow", "shelf", "(I)LWhichOneAllKnow$Shelf;"⟩, 14) := ⟨⟨by decide +kernel, by decide +kernel⟩, lw_t1 (List.mem_of_getElem? (i := 37) rfl), lw_t2 (List.mem_of_getElem? (i := 81) rfl), lw_t2 (List.mem_of_getElem? (i := 82) rfl)⟩
theorem lw_p1 : lw_okq (⟨"java/lang/Throwable", "fillInStackTrace", "(I)Ljava/lang/Throwable;"⟩, 6) := ⟨⟨by decide +kernel, by decide +kernel⟩, lw_t2 (List.mem_of_getElem? (i := 117) rfl), lw_t2 (List.mem_of_getElem? (i := 115) rfl), lw_t2 (List.mem_of_getElem? (i := 116) rfl)⟩
theorem lw_p2 : lw_okq (⟨"WhichOneAllKnow", "refused", "(LWhichOneAllKnow$Refused;)I"⟩, 14) := ⟨⟨by decide +kernel, by decide +kernel⟩, lw_t1 (List.mem_of_getElem? (i := 37) rfl), lw_t3 (List.mem_of_getElem? (i := 15) rfl), lw_t3 (List.mem_of_getElem? (i := 16) rfl)⟩
theorem lw_p3 : lw_okq (⟨"WhichOneAllKnow", "mustVoice", "(I)V"⟩, 14) := ⟨⟨by decide +kernel, by decide +kernel⟩, lw_t1 (List.mem_of_getElem? (i := 37) rfl), lw_t3 (List.mem_of_getElem? (i := 126) rfl), lw_t3 (List.mem_of_getElem? (i := 127) rfl)⟩
theorem lw_p4 : lw_okq (⟨"WhichOneAllKnow", "mustTune", "(I)V"⟩, 14) := ⟨⟨by decide +kernel, by decide +kernel⟩, lw_t1 (List.mem_of_getElem? (i := 37) rfl), lw_t3 (List.mem_of_getElem? (i := 191) rfl), lw_t3 (List.mem_of_getElem? (i := 192) rfl)⟩
theorem lw_p5 : lw_okq (⟨"WhichOneAllKnow", "beyond", "()I"⟩, 14) := ⟨⟨by decide +kernel, by decide +kernel⟩, lw_t1 (List.mem_of_getElem? (i := 37) rfl), lw_t3 (List.mem_of_getElem? (i := 211) rfl), lw_t3 (List.mem_of_getElem? (i := 212) rfl)⟩
theorem lw_p6 : lw_okq (⟨"WhichOneAllKnow$Reader", "item", "()V"⟩, 4) := ⟨⟨by decide +kernel, by decide +kernel⟩, lw_t4 (List.mem_of_getElem? (i := 12) rfl), lw_t4 (List.mem_of_getElem? (i := 35) rfl), lw_t4 (List.mem_of_getElem? (i := 36) rfl)⟩
theorem lw_p7 : lw_okq (⟨"WhichOneAllKnow$Reader", "sees", "(I)Z"⟩, 4) := ⟨⟨by decide +kernel, by decide +kernel⟩, lw_t4 (List.mem_of_getElem? (i := 12) rfl), lw_t4 (List.mem_of_getElem? (i := 39) rfl), lw_t4 (List.mem_of_getElem? (i := 40) rfl)⟩
theorem lw_p8 : lw_okq (⟨"WhichOneAllKnow$Reader", "ends", "()Z"⟩, 4) := ⟨⟨by decide +kernel, by decide +kernel⟩, lw_t4 (List.mem_of_getElem? (i := 12) rfl), lw_t4 (List.mem_of_getElem? (i := 43) rfl), lw_t4 (List.mem_of_getElem? (i := 44) rfl)⟩
theorem lw_p9 : lw_okq (⟨"WhichOneAllKnow$Reader", "word", "(Ljava/lang/String;)V"⟩, 4) := ⟨⟨by decide +kernel, by decide +kernel⟩, lw_t4 (List.mem_of_getElem? (i := 12) rfl), lw_t4 (List.mem_of_getElem? (i := 72) rfl), lw_t4 (List.mem_of_getElem? (i := 73) rfl)⟩
theorem lw_p10 : lw_okq (⟨"WhichOneAllKnow$Reader", "must", "(I)V"⟩, 4) := ⟨⟨by decide +kernel, by decide +kernel⟩, lw_t4 (List.mem_of_getElem? (i := 12) rfl), lw_t4 (List.mem_of_getElem? (i := 124) rfl), lw_t4 (List.mem_of_getElem? (i := 125) rfl)⟩
theorem lw_p11 : lw_okq (⟨"WhichOneAllKnow$Reader", "hasRoom", "(ZI)V"⟩, 4) := ⟨⟨by decide +kernel, by decide +kernel⟩, lw_t4 (List.mem_of_getElem? (i := 12) rfl), lw_t4 (List.mem_of_getElem? (i := 147) rfl), lw_t4 (List.mem_of_getElem? (i := 148) rfl)⟩
theorem lw_p12 : lw_okq (⟨"WhichOneAllKnow$Reader", "number", "(II)I"⟩, 4) := ⟨⟨by decide +kernel, by decide +kernel⟩, lw_t4 (List.mem_of_getElem? (i := 12) rfl), lw_t4 (List.mem_of_getElem? (i := 151) rfl), lw_t4 (List.mem_of_getElem? (i := 152) rfl)⟩
theorem lw_p13 : lw_okq (⟨"WhichOneAllKnow$Reader", "digit", "()Z"⟩, 4) := ⟨⟨by decide +kernel, by decide +kernel⟩, lw_t4 (List.mem_of_getElem? (i := 12) rfl), lw_t4 (List.mem_of_getElem? (i := 155) rfl), lw_t4 (List.mem_of_getElem? (i := 156) rfl)⟩
theorem lw_p14 : lw_okq (⟨"WhichOneAllKnow$Reader", "voice", "(I)V"⟩, 4) := ⟨⟨by decide +kernel, by decide +kernel⟩, lw_t4 (List.mem_of_getElem? (i := 12) rfl), lw_t4 (List.mem_of_getElem? (i := 161) rfl), lw_t4 (List.mem_of_getElem? (i := 162) rfl)⟩
theorem lw_p15 : lw_okq (⟨"WhichOneAllKnow$Reader", "free", "()I"⟩, 4) := ⟨⟨by decide +kernel, by decide +kernel⟩, lw_t4 (List.mem_of_getElem? (i := 12) rfl), lw_t4 (List.mem_of_getElem? (i := 166) rfl), lw_t4 (List.mem_of_getElem? (i := 167) rfl)⟩
def lw_privs_1 : List (MethodName × Nat) := [(⟨"WhichOneAllKnow", "shelf", "(I)LWhichOneAllKnow$Shelf;"⟩, 14), (⟨"java/lang/Throwable", "fillInStackTrace", "(I)Ljava/lang/Throwable;"⟩, 6), (⟨"WhichOneAllKnow", "refused", "(LWhichOneAllKnow$Refused;)I"⟩, 14), (⟨"WhichOneAllKnow", "mustVoice", "(I)V"⟩, 14), (⟨"WhichOneAllKnow", "mustTune", "(I)V"⟩, 14), (⟨"WhichOneAllKnow", "beyond", "()I"⟩, 14), (⟨"WhichOneAllKnow$Reader", "item", "()V"⟩, 4), (⟨"WhichOneAllKnow$Reader", "sees", "(I)Z"⟩, 4), (⟨"WhichOneAllKnow$Reader", "ends", "()Z"⟩, 4), (⟨"WhichOneAllKnow$Reader", "word", "(Ljava/lang/String;)V"⟩, 4), (⟨"WhichOneAllKnow$Reader", "must", "(I)V"⟩, 4), (⟨"WhichOneAllKnow$Reader", "hasRoom", "(ZI)V"⟩, 4), (⟨"WhichOneAllKnow$Reader", "number", "(II)I"⟩, 4), (⟨"WhichOneAllKnow$Reader", "digit", "()Z"⟩, 4), (⟨"WhichOneAllKnow$Reader", "voice", "(I)V"⟩, 4), (⟨"WhichOneAllKnow$Reader", "free", "()I"⟩, 4)]
theorem lw_r1 : ∀ q ∈ lw_privs_1, lw_okq q := List.forall_mem_cons.mpr ⟨lw_p0, List.forall_mem_cons.mpr ⟨lw_p1, List.forall_mem_cons.mpr ⟨lw_p2, List.forall_mem_cons.mpr ⟨lw_p3, List.forall_mem_cons.mpr ⟨lw_p4, List.forall_mem_cons.mpr ⟨lw_p5, List.forall_mem_cons.mpr ⟨lw_p6, List.forall_mem_cons.mpr ⟨lw_p7, List.forall_mem_cons.mpr ⟨lw_p8, List.forall_mem_cons.mpr ⟨lw_p9, List.forall_mem_cons.mpr ⟨lw_p10, List.forall_mem_cons.mpr ⟨lw_p11, List.forall_mem_cons.mpr ⟨lw_p12, List.forall_mem_cons.mpr ⟨lw_p13, List.forall_mem_cons.mpr ⟨lw_p14, List.forall_mem_cons.mpr ⟨lw_p15, fun _ h => absurd h List.not_mem_nil⟩⟩⟩⟩⟩⟩⟩⟩⟩⟩⟩⟩⟩⟩⟩⟩
theorem lw_p16 : lw_okq (⟨"WhichOneAllKnow$Hymn", "goes", "(II)V"⟩, 8) := ⟨⟨by decide +kernel, by decide +kernel⟩, lw_t1 (List.mem_of_getElem? (i := 117) rfl), lw_t4 (List.mem_of_getElem? (i := 206) rfl), lw_t4 (List.mem_of_getElem? (i := 207) rfl)⟩
theorem lw_p17 : lw_okq (⟨"WhichOneAllKnow$Hymn", "joins", "(II)Z"⟩, 8) := ⟨⟨by decide +kernel, by decide +kernel⟩, lw_t1 (List.mem_of_getElem? (i := 117) rfl), lw_t4 (List.mem_of_getElem? (i := 210) rfl), lw_t4 (List.mem_of_getElem? (i := 211) rfl)⟩
theorem lw_p18 : lw_okq (⟨"WhichOneAllKnow$Hymn", "around", "(II)I"⟩, 8) := ⟨⟨by decide +kernel, by decide +kernel⟩, lw_t1 (List.mem_of_getElem? (i := 117) rfl), lw_t4 (List.mem_of_getElem? (i := 239) rfl), lw_t5 (List.mem_of_getElem? (i := 0) rfl)⟩
theorem lw_p19 : lw_okq (⟨"WhichOneAllKnow$Hymn", "isSame", "(II)Z"⟩, 8) := ⟨⟨by decide +kernel, by decide +kernel⟩, lw_t1 (List.mem_of_getElem? (i := 117) rfl), lw_t5 (List.mem_of_getElem? (i := 61) rfl), lw_t5 (List.mem_of_getElem? (i := 62) rfl)⟩
theorem lw_p20 : lw_okq (⟨"WhichOneAllKnow", "bestLeaders", "(IIII)I"⟩, 14) := ⟨⟨by decide +kernel, by decide +kernel⟩, lw_t1 (List.mem_of_getElem? (i := 37) rfl), lw_t5 (List.mem_of_getElem? (i := 86) rfl), lw_t5 (List.mem_of_getElem? (i := 87) rfl)⟩
theorem lw_p21 : lw_okq (⟨"WhichOneAllKnow", "leads", "(II)V"⟩, 14) := ⟨⟨by decide +kernel, by decide +kernel⟩, lw_t1 (List.mem_of_getElem? (i := 37) rfl), lw_t5 (List.mem_of_getElem? (i := 90) rfl), lw_t5 (List.mem_of_getElem? (i := 91) rfl)⟩
theorem lw_p22 : lw_okq (⟨"WhichOneAllKnow", "othersRight", "(III)I"⟩, 14) := ⟨⟨by decide +kernel, by decide +kernel⟩, lw_t1 (List.mem_of_getElem? (i := 37) rfl), lw_t5 (List.mem_of_getElem? (i := 94) rfl), lw_t5 (List.mem_of_getElem? (i := 95) rfl)⟩
theorem lw_p23 : lw_okq (⟨"WhichOneAllKnow", "fewestTaught", "(II)I"⟩, 14) := ⟨⟨by decide +kernel, by decide +kernel⟩, lw_t1 (List.mem_of_getElem? (i := 37) rfl), lw_t5 (List.mem_of_getElem? (i := 102) rfl), lw_t5 (List.mem_of_getElem? (i := 103) rfl)⟩
theorem lw_p24 : lw_okq (⟨"WhichOneAllKnow", "catchesWith", "(III)Z"⟩, 14) := ⟨⟨by decide +kernel, by decide +kernel⟩, lw_t1 (List.mem_of_getElem? (i := 37) rfl), lw_t5 (List.mem_of_getElem? (i := 106) rfl), lw_t5 (List.mem_of_getElem? (i := 107) rfl)⟩
theorem lw_p25 : lw_okq (⟨"WhichOneAllKnow", "lateBy", "(II)I"⟩, 14) := ⟨⟨by decide +kernel, by decide +kernel⟩, lw_t1 (List.mem_of_getElem? (i := 37) rfl), lw_t5 (List.mem_of_getElem? (i := 120) rfl), lw_t5 (List.mem_of_getElem? (i := 121) rfl)⟩
theorem lw_p26 : lw_okq (⟨"WhichOneAllKnow", "toldAt", "(II)LWhichOneAllKnow$Row;"⟩, 14) := ⟨⟨by decide +kernel, by decide +kernel⟩, lw_t1 (List.mem_of_getElem? (i := 37) rfl), lw_t5 (List.mem_of_getElem? (i := 132) rfl), lw_t5 (List.mem_of_getElem? (i := 133) rfl)⟩
theorem lw_p27 : lw_okq (⟨"WhichOneAllKnow", "isHeard", "(LWhichOneAllKnow$Church;LWhichOneAllKnow$Row;III)Z"⟩, 14) := ⟨⟨by decide +kernel, by decide +kernel⟩, lw_t1 (List.mem_of_getElem? (i := 37) rfl), lw_t5 (List.mem_of_getElem? (i := 137) rfl), lw_t5 (List.mem_of_getElem? (i := 138) rfl)⟩
theorem lw_p28 : lw_okq (⟨"WhichOneAllKnow", "firstChanged", "(LWhichOneAllKnow$Row;III)I"⟩, 14) := ⟨⟨by decide +kernel, by decide +kernel⟩, lw_t1 (List.mem_of_getElem? (i := 37) rfl), lw_t5 (List.mem_of_getElem? (i := 150) rfl), lw_t5 (List.mem_of_getElem? (i := 151) rfl)⟩
theorem lw_p29 : lw_okq (⟨"WhichOneAllKnow", "knownByAll", "()I"⟩, 14) := ⟨⟨by decide +kernel, by decide +kernel⟩, lw_t1 (List.mem_of_getElem? (i := 37) rfl), lw_t5 (List.mem_of_getElem? (i := 164) rfl), lw_t5 (List.mem_of_getElem? (i := 165) rfl)⟩
theorem lw_p30 : lw_okq (⟨"WhichOneAllKnow", "whomToAsk", "()I"⟩, 14) := ⟨⟨by decide +kernel, by decide +kernel⟩, lw_t1 (List.mem_of_getElem? (i := 37) rfl), lw_t5 (List.mem_of_getElem? (i := 168) rfl), lw_t5 (List.mem_of_getElem? (i := 169) rfl)⟩
theorem lw_p31 : lw_okq (⟨"WhichOneAllKnow", "alike", "(I)I"⟩, 14) := ⟨⟨by decide +kernel, by decide +kernel⟩, lw_t1 (List.mem_of_getElem? (i := 37) rfl), lw_t5 (List.mem_of_getElem? (i := 172) rfl), lw_t5 (List.mem_of_getElem? (i := 173) rfl)⟩
def lw_privs_2 : List (MethodName × Nat) := [(⟨"WhichOneAllKnow$Hymn", "goes", "(II)V"⟩, 8), (⟨"WhichOneAllKnow$Hymn", "joins", "(II)Z"⟩, 8), (⟨"WhichOneAllKnow$Hymn", "around", "(II)I"⟩, 8), (⟨"WhichOneAllKnow$Hymn", "isSame", "(II)Z"⟩, 8), (⟨"WhichOneAllKnow", "bestLeaders", "(IIII)I"⟩, 14), (⟨"WhichOneAllKnow", "leads", "(II)V"⟩, 14), (⟨"WhichOneAllKnow", "othersRight", "(III)I"⟩, 14), (⟨"WhichOneAllKnow", "fewestTaught", "(II)I"⟩, 14), (⟨"WhichOneAllKnow", "catchesWith", "(III)Z"⟩, 14), (⟨"WhichOneAllKnow", "lateBy", "(II)I"⟩, 14), (⟨"WhichOneAllKnow", "toldAt", "(II)LWhichOneAllKnow$Row;"⟩, 14), (⟨"WhichOneAllKnow", "isHeard", "(LWhichOneAllKnow$Church;LWhichOneAllKnow$Row;III)Z"⟩, 14), (⟨"WhichOneAllKnow", "firstChanged", "(LWhichOneAllKnow$Row;III)I"⟩, 14), (⟨"WhichOneAllKnow", "knownByAll", "()I"⟩, 14), (⟨"WhichOneAllKnow", "whomToAsk", "()I"⟩, 14), (⟨"WhichOneAllKnow", "alike", "(I)I"⟩, 14)]
theorem lw_r2 : ∀ q ∈ lw_privs_2, lw_okq q := List.forall_mem_cons.mpr ⟨lw_p16, List.forall_mem_cons.mpr ⟨lw_p17, List.forall_mem_cons.mpr ⟨lw_p18, List.forall_mem_cons.mpr ⟨lw_p19, List.forall_mem_cons.mpr ⟨lw_p20, List.forall_mem_cons.mpr ⟨lw_p21, List.forall_mem_cons.mpr ⟨lw_p22, List.forall_mem_cons.mpr ⟨lw_p23, List.forall_mem_cons.mpr ⟨lw_p24, List.forall_mem_cons.mpr ⟨lw_p25, List.forall_mem_cons.mpr ⟨lw_p26, List.forall_mem_cons.mpr ⟨lw_p27, List.forall_mem_cons.mpr ⟨lw_p28, List.forall_mem_cons.mpr ⟨lw_p29, List.forall_mem_cons.mpr ⟨lw_p30, List.forall_mem_cons.mpr ⟨lw_p31, fun _ h => absurd h List.not_mem_nil⟩⟩⟩⟩⟩⟩⟩⟩⟩⟩⟩⟩⟩⟩⟩⟩
theorem lw_p32 : lw_okq (⟨"WhichOneAllKnow", "wrongIn", "(LWhichOneAllKnow$Row;I)I"⟩, 14) := ⟨⟨by decide +kernel, by decide +kernel⟩, lw_t1 (List.mem_of_getElem? (i := 37) rfl), lw_t5 (List.mem_of_getElem? (i := 180) rfl), lw_t5 (List.mem_of_getElem? (i := 181) rfl)⟩
theorem lw_p33 : lw_okq (⟨"WhichOneAllKnow", "goesHymn", "(LWhichOneAllKnow$Church;III)I"⟩, 14) := ⟨⟨by decide +kernel, by decide +kernel⟩, lw_t1 (List.mem_of_getElem? (i := 37) rfl), lw_t5 (List.mem_of_getElem? (i := 184) rfl), lw_t5 (List.mem_of_getElem? (i := 185) rfl)⟩
theorem lw_p34 : lw_okq (⟨"WhichOneAllKnow", "shelvesFollow", "()V"⟩, 14) := ⟨⟨by decide +kernel, by decide +kernel⟩, lw_t1 (List.mem_of_getElem? (i := 37) rfl), lw_t6 (List.mem_of_getElem? (i := 67) rfl), lw_t6 (List.mem_of_getElem? (i := 68) rfl)⟩
theorem lw_p35 : lw_okq (⟨"WhichOneAllKnowModel", "no", "(I)I"⟩, 29) := ⟨⟨by decide +kernel, by decide +kernel⟩, lw_t6 (List.mem_of_getElem? (i := 76) rfl), lw_t6 (List.mem_of_getElem? (i := 177) rfl), lw_t6 (List.mem_of_getElem? (i := 178) rfl)⟩
theorem lw_p36 : lw_okq (⟨"WhichOneAllKnowModel", "noRow", "(I)I"⟩, 29) := ⟨⟨by decide +kernel, by decide +kernel⟩, lw_t6 (List.mem_of_getElem? (i := 76) rfl), lw_t6 (List.mem_of_getElem? (i := 185) rfl), lw_t6 (List.mem_of_getElem? (i := 186) rfl)⟩
theorem lw_p37 : lw_okq (⟨"WhichOneAllKnowModel", "isRow", "(I)Z"⟩, 29) := ⟨⟨by decide +kernel, by decide +kernel⟩, lw_t6 (List.mem_of_getElem? (i := 76) rfl), lw_t6 (List.mem_of_getElem? (i := 189) rfl), lw_t6 (List.mem_of_getElem? (i := 190) rfl)⟩
theorem lw_p38 : lw_okq (⟨"WhichOneAllKnowModel", "isVoice", "(I)Z"⟩, 29) := ⟨⟨by decide +kernel, by decide +kernel⟩, lw_t6 (List.mem_of_getElem? (i := 76) rfl), lw_t6 (List.mem_of_getElem? (i := 205) rfl), lw_t6 (List.mem_of_getElem? (i := 206) rfl)⟩
theorem lw_p39 : lw_okq (⟨"WhichOneAllKnowModel", "newTune", "(I)I"⟩, 29) := ⟨⟨by decide +kernel, by decide +kernel⟩, lw_t6 (List.mem_of_getElem? (i := 76) rfl), lw_t6 (List.mem_of_getElem? (i := 228) rfl), lw_t6 (List.mem_of_getElem? (i := 229) rfl)⟩
theorem lw_p40 : lw_okq (⟨"WhichOneAllKnowModel", "isFree", "(I)Z"⟩, 29) := ⟨⟨by decide +kernel, by decide +kernel⟩, lw_t6 (List.mem_of_getElem? (i := 76) rfl), lw_t6 (List.mem_of_getElem? (i := 236) rfl), lw_t6 (List.mem_of_getElem? (i := 237) rfl)⟩
theorem lw_p41 : lw_okq (⟨"WhichOneAllKnowModel", "isTaken", "(I)Z"⟩, 29) := ⟨⟨by decide +kernel, by decide +kernel⟩, lw_t6 (List.mem_of_getElem? (i := 76) rfl), lw_t7 (List.mem_of_getElem? (i := 0) rfl), lw_t7 (List.mem_of_getElem? (i := 1) rfl)⟩
theorem lw_p42 : lw_okq (⟨"WhichOneAllKnowModel", "newVoice", "(IIIII)I"⟩, 29) := ⟨⟨by decide +kernel, by decide +kernel⟩, lw_t6 (List.mem_of_getElem? (i := 76) rfl), lw_t7 (List.mem_of_getElem? (i := 4) rfl), lw_t7 (List.mem_of_getElem? (i := 5) rfl)⟩
theorem lw_p43 : lw_okq (⟨"WhichOneAllKnowModel", "isTune", "(I)Z"⟩, 29) := ⟨⟨by decide +kernel, by decide +kernel⟩, lw_t6 (List.mem_of_getElem? (i := 76) rfl), lw_t7 (List.mem_of_getElem? (i := 12) rfl), lw_t7 (List.mem_of_getElem? (i := 13) rfl)⟩
theorem lw_p44 : lw_okq (⟨"WhichOneAllKnowModel", "keep", "([I)V"⟩, 29) := ⟨⟨by decide +kernel, by decide +kernel⟩, lw_t6 (List.mem_of_getElem? (i := 76) rfl), lw_t7 (List.mem_of_getElem? (i := 36) rfl), lw_t7 (List.mem_of_getElem? (i := 37) rfl)⟩
theorem lw_p45 : lw_okq (⟨"WhichOneAllKnowModel", "item", "()Z"⟩, 29) := ⟨⟨by decide +kernel, by decide +kernel⟩, lw_t6 (List.mem_of_getElem? (i := 76) rfl), lw_t7 (List.mem_of_getElem? (i := 40) rfl), lw_t7 (List.mem_of_getElem? (i := 41) rfl)⟩
theorem lw_p46 : lw_okq (⟨"WhichOneAllKnowModel", "sign", "()I"⟩, 29) := ⟨⟨by decide +kernel, by decide +kernel⟩, lw_t6 (List.mem_of_getElem? (i := 76) rfl), lw_t7 (List.mem_of_getElem? (i := 44) rfl), lw_t7 (List.mem_of_getElem? (i := 45) rfl)⟩
theorem lw_p47 : lw_okq (⟨"WhichOneAllKnowModel", "word", "(Ljava/lang/String;Z)Z"⟩, 29) := ⟨⟨by decide +kernel, by decide +kernel⟩, lw_t6 (List.mem_of_getElem? (i := 76) rfl), lw_t7 (List.mem_of_getElem? (i := 49) rfl), lw_t7 (List.mem_of_getElem? (i := 50) rfl)⟩
def lw_privs_3 : List (MethodName × Nat) := [(⟨"WhichOneAllKnow", "wrongIn", "(LWhichOneAllKnow$Row;I)I"⟩, 14), (⟨"WhichOneAllKnow", "goesHymn", "(LWhichOneAllKnow$Church;III)I"⟩, 14), (⟨"WhichOneAllKnow", "shelvesFollow", "()V"⟩, 14), (⟨"WhichOneAllKnowModel", "no", "(I)I"⟩, 29), (⟨"WhichOneAllKnowModel", "noRow", "(I)I"⟩, 29), (⟨"WhichOneAllKnowModel", "isRow", "(I)Z"⟩, 29), (⟨"WhichOneAllKnowModel", "isVoice", "(I)Z"⟩, 29), (⟨"WhichOneAllKnowModel", "newTune", "(I)I"⟩, 29), (⟨"WhichOneAllKnowModel", "isFree", "(I)Z"⟩, 29), (⟨"WhichOneAllKnowModel", "isTaken", "(I)Z"⟩, 29), (⟨"WhichOneAllKnowModel", "newVoice", "(IIIII)I"⟩, 29), (⟨"WhichOneAllKnowModel", "isTune", "(I)Z"⟩, 29), (⟨"WhichOneAllKnowModel", "keep", "([I)V"⟩, 29), (⟨"WhichOneAllKnowModel", "item", "()Z"⟩, 29), (⟨"WhichOneAllKnowModel", "sign", "()I"⟩, 29), (⟨"WhichOneAllKnowModel", "word", "(Ljava/lang/String;Z)Z"⟩, 29)]
theorem lw_r3 : ∀ q ∈ lw_privs_3, lw_okq q := List.forall_mem_cons.mpr ⟨lw_p32, List.forall_mem_cons.mpr ⟨lw_p33, List.forall_mem_cons.mpr ⟨lw_p34, List.forall_mem_cons.mpr ⟨lw_p35, List.forall_mem_cons.mpr ⟨lw_p36, List.forall_mem_cons.mpr ⟨lw_p37, List.forall_mem_cons.mpr ⟨lw_p38, List.forall_mem_cons.mpr ⟨lw_p39, List.forall_mem_cons.mpr ⟨lw_p40, List.forall_mem_cons.mpr ⟨lw_p41, List.forall_mem_cons.mpr ⟨lw_p42, List.forall_mem_cons.mpr ⟨lw_p43, List.forall_mem_cons.mpr ⟨lw_p44, List.forall_mem_cons.mpr ⟨lw_p45, List.forall_mem_cons.mpr ⟨lw_p46, List.forall_mem_cons.mpr ⟨lw_p47, fun _ h => absurd h List.not_mem_nil⟩⟩⟩⟩⟩⟩⟩⟩⟩⟩⟩⟩⟩⟩⟩⟩
theorem lw_p48 : lw_okq (⟨"WhichOneAllKnowModel", "word", "(Ljava/lang/String;)Z"⟩, 29) := ⟨⟨by decide +kernel, by decide +kernel⟩, lw_t6 (List.mem_of_getElem? (i := 76) rfl), lw_t7 (List.mem_of_getElem? (i := 53) rfl), lw_t7 (List.mem_of_getElem? (i := 54) rfl)⟩
theorem lw_p49 : lw_okq (⟨"WhichOneAllKnowModel", "is", "(C)Z"⟩, 29) := ⟨⟨by decide +kernel, by decide +kernel⟩, lw_t6 (List.mem_of_getElem? (i := 76) rfl), lw_t7 (List.mem_of_getElem? (i := 59) rfl), lw_t7 (List.mem_of_getElem? (i := 60) rfl)⟩
theorem lw_p50 : lw_okq (⟨"WhichOneAllKnowModel", "number", "(III)Z"⟩, 29) := ⟨⟨by decide +kernel, by decide +kernel⟩, lw_t6 (List.mem_of_getElem? (i := 76) rfl), lw_t7 (List.mem_of_getElem? (i := 63) rfl), lw_t7 (List.mem_of_getElem? (i := 64) rfl)⟩
theorem lw_p51 : lw_okq (⟨"WhichOneAllKnowModel", "stands", "(IZ)Z"⟩, 29) := ⟨⟨by decide +kernel, by decide +kernel⟩, lw_t6 (List.mem_of_getElem? (i := 76) rfl), lw_t7 (List.mem_of_getElem? (i := 68) rfl), lw_t7 (List.mem_of_getElem? (i := 69) rfl)⟩
theorem lw_p52 : lw_okq (⟨"WhichOneAllKnowModel", "again", "([I)V"⟩, 29) := ⟨⟨by decide +kernel, by decide +kernel⟩, lw_t6 (List.mem_of_getElem? (i := 76) rfl), lw_t7 (List.mem_of_getElem? (i := 75) rfl), lw_t7 (List.mem_of_getElem? (i := 76) rfl)⟩
theorem lw_p53 : lw_okq (⟨"WhichOneAllKnowModel", "hears", "(III)V"⟩, 29) := ⟨⟨by decide +kernel, by decide +kernel⟩, lw_t6 (List.mem_of_getElem? (i := 76) rfl), lw_t7 (List.mem_of_getElem? (i := 93) rfl), lw_t7 (List.mem_of_getElem? (i := 94) rfl)⟩
theorem lw_p54 : lw_okq (⟨"WhichOneAllKnowModel", "sings", "(III)V"⟩, 29) := ⟨⟨by decide +kernel, by decide +kernel⟩, lw_t6 (List.mem_of_getElem? (i := 76) rfl), lw_t7 (List.mem_of_getElem? (i := 97) rfl), lw_t7 (List.mem_of_getElem? (i := 98) rfl)⟩
theorem lw_p55 : lw_okq (⟨"WhichOneAllKnowModel", "isEnough", "(III)Z"⟩, 29) := ⟨⟨by decide +kernel, by decide +kernel⟩, lw_t6 (List.mem_of_getElem? (i := 76) rfl), lw_t7 (List.mem_of_getElem? (i := 101) rfl), lw_t7 (List.mem_of_getElem? (i := 102) rfl)⟩
theorem lw_p56 : lw_okq (⟨"WhichOneAllKnowModel", "near", "(II)I"⟩, 29) := ⟨⟨by decide +kernel, by decide +kernel⟩, lw_t6 (List.mem_of_getElem? (i := 76) rfl), lw_t7 (List.mem_of_getElem? (i := 105) rfl), lw_t7 (List.mem_of_getElem? (i := 106) rfl)⟩
theorem lw_p57 : lw_okq (⟨"WhichOneAllKnowModel", "areNear", "(II)Z"⟩, 29) := ⟨⟨by decide +kernel, by decide +kernel⟩, lw_t6 (List.mem_of_getElem? (i := 76) rfl), lw_t7 (List.mem_of_getElem? (i := 112) rfl), lw_t7 (List.mem_of_getElem? (i := 113) rfl)⟩
theorem lw_p58 : lw_okq (⟨"WhichOneAllKnowModel", "need", "(II)I"⟩, 29) := ⟨⟨by decide +kernel, by decide +kernel⟩, lw_t6 (List.mem_of_getElem? (i := 76) rfl), lw_t7 (List.mem_of_getElem? (i := 117) rfl), lw_t7 (List.mem_of_getElem? (i := 118) rfl)⟩
theorem lw_p59 : lw_okq (⟨"WhichOneAllKnowModel", "no10", "(I)I"⟩, 29) := ⟨⟨by decide +kernel, by decide +kernel⟩, lw_t6 (List.mem_of_getElem? (i := 76) rfl), lw_t7 (List.mem_of_getElem? (i := 130) rfl), lw_t7 (List.mem_of_getElem? (i := 131) rfl)⟩
theorem lw_p60 : lw_okq (⟨"WhichOneAllKnowModel", "catches", "(II)I"⟩, 29) := ⟨⟨by decide +kernel, by decide +kernel⟩, lw_t6 (List.mem_of_getElem? (i := 76) rfl), lw_t7 (List.mem_of_getElem? (i := 134) rfl), lw_t7 (List.mem_of_getElem? (i := 135) rfl)⟩
theorem lw_p61 : lw_okq (⟨"WhichOneAllKnowModel", "settles", "(II)I"⟩, 29) := ⟨⟨by decide +kernel, by decide +kernel⟩, lw_t6 (List.mem_of_getElem? (i := 76) rfl), lw_t7 (List.mem_of_getElem? (i := 138) rfl), lw_t7 (List.mem_of_getElem? (i := 139) rfl)⟩
theorem lw_p62 : lw_okq (⟨"WhichOneAllKnowModel", "isSame", "(II)Z"⟩, 29) := ⟨⟨by decide +kernel, by decide +kernel⟩, lw_t6 (List.mem_of_getElem? (i := 76) rfl), lw_t7 (List.mem_of_getElem? (i := 142) rfl), lw_t7 (List.mem_of_getElem? (i := 143) rfl)⟩
theorem lw_p63 : lw_okq (⟨"WhichOneAllKnowModel", "manyAt", "(III)I"⟩, 29) := ⟨⟨by decide +kernel, by decide +kernel⟩, lw_t6 (List.mem_of_getElem? (i := 76) rfl), lw_t7 (List.mem_of_getElem? (i := 150) rfl), lw_t7 (List.mem_of_getElem? (i := 151) rfl)⟩
def lw_privs_4 : List (MethodName × Nat) := [(⟨"WhichOneAllKnowModel", "word", "(Ljava/lang/String;)Z"⟩, 29), (⟨"WhichOneAllKnowModel", "is", "(C)Z"⟩, 29), (⟨"WhichOneAllKnowModel", "number", "(III)Z"⟩, 29), (⟨"WhichOneAllKnowModel", "stands", "(IZ)Z"⟩, 29), (⟨"WhichOneAllKnowModel", "again", "([I)V"⟩, 29), (⟨"WhichOneAllKnowModel", "hears", "(III)V"⟩, 29), (⟨"WhichOneAllKnowModel", "sings", "(III)V"⟩, 29), (⟨"WhichOneAllKnowModel", "isEnough", "(III)Z"⟩, 29), (⟨"WhichOneAllKnowModel", "near", "(II)I"⟩, 29), (⟨"WhichOneAllKnowModel", "areNear", "(II)Z"⟩, 29), (⟨"WhichOneAllKnowModel", "need", "(II)I"⟩, 29), (⟨"WhichOneAllKnowModel", "no10", "(I)I"⟩, 29), (⟨"WhichOneAllKnowModel", "catches", "(II)I"⟩, 29), (⟨"WhichOneAllKnowModel", "settles", "(II)I"⟩, 29), (⟨"WhichOneAllKnowModel", "isSame", "(II)Z"⟩, 29), (⟨"WhichOneAllKnowModel", "manyAt", "(III)I"⟩, 29)]
theorem lw_r4 : ∀ q ∈ lw_privs_4, lw_okq q := List.forall_mem_cons.mpr ⟨lw_p48, List.forall_mem_cons.mpr ⟨lw_p49, List.forall_mem_cons.mpr ⟨lw_p50, List.forall_mem_cons.mpr ⟨lw_p51, List.forall_mem_cons.mpr ⟨lw_p52, List.forall_mem_cons.mpr ⟨lw_p53, List.forall_mem_cons.mpr ⟨lw_p54, List.forall_mem_cons.mpr ⟨lw_p55, List.forall_mem_cons.mpr ⟨lw_p56, List.forall_mem_cons.mpr ⟨lw_p57, List.forall_mem_cons.mpr ⟨lw_p58, List.forall_mem_cons.mpr ⟨lw_p59, List.forall_mem_cons.mpr ⟨lw_p60, List.forall_mem_cons.mpr ⟨lw_p61, List.forall_mem_cons.mpr ⟨lw_p62, List.forall_mem_cons.mpr ⟨lw_p63, fun _ h => absurd h List.not_mem_nil⟩⟩⟩⟩⟩⟩⟩⟩⟩⟩⟩⟩⟩⟩⟩⟩
theorem lw_p64 : lw_okq (⟨"WhichOneAllKnowModel", "rightAt", "(III)I"⟩, 29) := ⟨⟨by decide +kernel, by decide +kernel⟩, lw_t6 (List.mem_of_getElem? (i := 76) rfl), lw_t7 (List.mem_of_getElem? (i := 154) rfl), lw_t7 (List.mem_of_getElem? (i := 155) rfl)⟩
theorem lw_p65 : lw_okq (⟨"WhichOneAllKnowModel", "bestLeaders", "(IIII)I"⟩, 29) := ⟨⟨by decide +kernel, by decide +kernel⟩, lw_t6 (List.mem_of_getElem? (i := 76) rfl), lw_t7 (List.mem_of_getElem? (i := 170) rfl), lw_t7 (List.mem_of_getElem? (i := 171) rfl)⟩
theorem lw_p66 : lw_okq (⟨"WhichOneAllKnowModel", "leads", "(I)V"⟩, 29) := ⟨⟨by decide +kernel, by decide +kernel⟩, lw_t6 (List.mem_of_getElem? (i := 76) rfl), lw_t7 (List.mem_of_getElem? (i := 174) rfl), lw_t7 (List.mem_of_getElem? (i := 175) rfl)⟩
theorem lw_p67 : lw_okq (⟨"WhichOneAllKnowModel", "ledAt", "(IIII)I"⟩, 29) := ⟨⟨by decide +kernel, by decide +kernel⟩, lw_t6 (List.mem_of_getElem? (i := 76) rfl), lw_t7 (List.mem_of_getElem? (i := 178) rfl), lw_t7 (List.mem_of_getElem? (i := 179) rfl)⟩
theorem lw_p68 : lw_okq (⟨"WhichOneAllKnowModel", "lateBy", "(II)I"⟩, 29) := ⟨⟨by decide +kernel, by decide +kernel⟩, lw_t6 (List.mem_of_getElem? (i := 76) rfl), lw_t7 (List.mem_of_getElem? (i := 194) rfl), lw_t7 (List.mem_of_getElem? (i := 195) rfl)⟩
theorem lw_p69 : lw_okq (⟨"WhichOneAllKnowModel", "noTold", "(IIII)I"⟩, 29) := ⟨⟨by decide +kernel, by decide +kernel⟩, lw_t6 (List.mem_of_getElem? (i := 76) rfl), lw_t7 (List.mem_of_getElem? (i := 206) rfl), lw_t7 (List.mem_of_getElem? (i := 207) rfl)⟩
theorem lw_p70 : lw_okq (⟨"WhichOneAllKnowModel", "isFit", "(IIII)Z"⟩, 29) := ⟨⟨by decide +kernel, by decide +kernel⟩, lw_t6 (List.mem_of_getElem? (i := 76) rfl), lw_t7 (List.mem_of_getElem? (i := 210) rfl), lw_t7 (List.mem_of_getElem? (i := 211) rfl)⟩
theorem lw_p71 : lw_okq (⟨"WhichOneAllKnowModel", "toldAt", "(II)I"⟩, 29) := ⟨⟨by decide +kernel, by decide +kernel⟩, lw_t6 (List.mem_of_getElem? (i := 76) rfl), lw_t7 (List.mem_of_getElem? (i := 214) rfl), lw_t7 (List.mem_of_getElem? (i := 215) rfl)⟩
theorem lw_p72 : lw_okq (⟨"WhichOneAllKnowModel", "change", "(II)V"⟩, 29) := ⟨⟨by decide +kernel, by decide +kernel⟩, lw_t6 (List.mem_of_getElem? (i := 76) rfl), lw_t7 (List.mem_of_getElem? (i := 222) rfl), lw_t7 (List.mem_of_getElem? (i := 223) rfl)⟩
theorem lw_p73 : lw_okq (⟨"WhichOneAllKnowModel", "knownAll", "()I"⟩, 29) := ⟨⟨by decide +kernel, by decide +kernel⟩, lw_t6 (List.mem_of_getElem? (i := 76) rfl), lw_t7 (List.mem_of_getElem? (i := 230) rfl), lw_t7 (List.mem_of_getElem? (i := 231) rfl)⟩
theorem lw_p74 : lw_okq (⟨"WhichOneAllKnowModel", "whomToAsk", "()I"⟩, 29) := ⟨⟨by decide +kernel, by decide +kernel⟩, lw_t6 (List.mem_of_getElem? (i := 76) rfl), lw_t7 (List.mem_of_getElem? (i := 234) rfl), lw_t7 (List.mem_of_getElem? (i := 235) rfl)⟩
theorem lw_p75 : lw_okq (⟨"WhichOneAllKnowModel", "wrongAt", "(II)I"⟩, 29) := ⟨⟨by decide +kernel, by decide +kernel⟩, lw_t6 (List.mem_of_getElem? (i := 76) rfl), lw_t8 (List.mem_of_getElem? (i := 2) rfl), lw_t8 (List.mem_of_getElem? (i := 3) rfl)⟩
theorem lw_p76 : lw_okq (⟨"WhichOneAllKnowModel", "isSung", "(III)I"⟩, 29) := ⟨⟨by decide +kernel, by decide +kernel⟩, lw_t6 (List.mem_of_getElem? (i := 76) rfl), lw_t8 (List.mem_of_getElem? (i := 10) rfl), lw_t8 (List.mem_of_getElem? (i := 11) rfl)⟩
theorem lw_p77 : lw_okq (⟨"WhichOneAllKnowModel", "draw", "(I)I"⟩, 29) := ⟨⟨by decide +kernel, by decide +kernel⟩, lw_t6 (List.mem_of_getElem? (i := 76) rfl), lw_t8 (List.mem_of_getElem? (i := 26) rfl), lw_t8 (List.mem_of_getElem? (i := 27) rfl)⟩
theorem lw_p78 : lw_okq (⟨"WhichOneAllKnowModel", "breathesBy", "(II)I"⟩, 29) := ⟨⟨by decide +kernel, by decide +kernel⟩, lw_t6 (List.mem_of_getElem? (i := 76) rfl), lw_t8 (List.mem_of_getElem? (i := 39) rfl), lw_t8 (List.mem_of_getElem? (i := 40) rfl)⟩
theorem lw_p79 : lw_okq (⟨"WhichOneAllKnowModel", "ran", "(I)V"⟩, 29) := ⟨⟨by decide +kernel, by decide +kernel⟩, lw_t6 (List.mem_of_getElem? (i := 76) rfl), lw_t8 (List.mem_of_getElem? (i := 43) rfl), lw_t8 (List.mem_of_getElem? (i := 44) rfl)⟩
def lw_privs_5 : List (MethodName × Nat) := [(⟨"WhichOneAllKnowModel", "rightAt", "(III)I"⟩, 29), (⟨"WhichOneAllKnowModel", "bestLeaders", "(IIII)I"⟩, 29), (⟨"WhichOneAllKnowModel", "leads", "(I)V"⟩, 29), (⟨"WhichOneAllKnowModel", "ledAt", "(IIII)I"⟩, 29), (⟨"WhichOneAllKnowModel", "lateBy", "(II)I"⟩, 29), (⟨"WhichOneAllKnowModel", "noTold", "(IIII)I"⟩, 29), (⟨"WhichOneAllKnowModel", "isFit", "(IIII)Z"⟩, 29), (⟨"WhichOneAllKnowModel", "toldAt", "(II)I"⟩, 29), (⟨"WhichOneAllKnowModel", "change", "(II)V"⟩, 29), (⟨"WhichOneAllKnowModel", "knownAll", "()I"⟩, 29), (⟨"WhichOneAllKnowModel", "whomToAsk", "()I"⟩, 29), (⟨"WhichOneAllKnowModel", "wrongAt", "(II)I"⟩, 29), (⟨"WhichOneAllKnowModel", "isSung", "(III)I"⟩, 29), (⟨"WhichOneAllKnowModel", "draw", "(I)I"⟩, 29), (⟨"WhichOneAllKnowModel", "breathesBy", "(II)I"⟩, 29), (⟨"WhichOneAllKnowModel", "ran", "(I)V"⟩, 29)]
theorem lw_r5 : ∀ q ∈ lw_privs_5, lw_okq q := List.forall_mem_cons.mpr ⟨lw_p64, List.forall_mem_cons.mpr ⟨lw_p65, List.forall_mem_cons.mpr ⟨lw_p66, List.forall_mem_cons.mpr ⟨lw_p67, List.forall_mem_cons.mpr ⟨lw_p68, List.forall_mem_cons.mpr ⟨lw_p69, List.forall_mem_cons.mpr ⟨lw_p70, List.forall_mem_cons.mpr ⟨lw_p71, List.forall_mem_cons.mpr ⟨lw_p72, List.forall_mem_cons.mpr ⟨lw_p73, List.forall_mem_cons.mpr ⟨lw_p74, List.forall_mem_cons.mpr ⟨lw_p75, List.forall_mem_cons.mpr ⟨lw_p76, List.forall_mem_cons.mpr ⟨lw_p77, List.forall_mem_cons.mpr ⟨lw_p78, List.forall_mem_cons.mpr ⟨lw_p79, fun _ h => absurd h List.not_mem_nil⟩⟩⟩⟩⟩⟩⟩⟩⟩⟩⟩⟩⟩⟩⟩⟩
theorem lw_p80 : lw_okq (⟨"WhichOneAllKnowModel", "singsBy", "(II)I"⟩, 29) := ⟨⟨by decide +kernel, by decide +kernel⟩, lw_t6 (List.mem_of_getElem? (i := 76) rfl), lw_t8 (List.mem_of_getElem? (i := 47) rfl), lw_t8 (List.mem_of_getElem? (i := 48) rfl)⟩
theorem lw_p81 : lw_okq (⟨"WhichOneAllKnowModel", "sitsBy", "(II)I"⟩, 29) := ⟨⟨by decide +kernel, by decide +kernel⟩, lw_t6 (List.mem_of_getElem? (i := 76) rfl), lw_t8 (List.mem_of_getElem? (i := 51) rfl), lw_t8 (List.mem_of_getElem? (i := 52) rfl)⟩
def lw_privs_6 : List (MethodName × Nat) := [(⟨"WhichOneAllKnowModel", "singsBy", "(II)I"⟩, 29), (⟨"WhichOneAllKnowModel", "sitsBy", "(II)I"⟩, 29)]
theorem lw_r6 : ∀ q ∈ lw_privs_6, lw_okq q := List.forall_mem_cons.mpr ⟨lw_p80, List.forall_mem_cons.mpr ⟨lw_p81, fun _ h => absurd h List.not_mem_nil⟩⟩
def lw_privs : List (MethodName × Nat) := lw_privs_1 ++ (lw_privs_2 ++ (lw_privs_3 ++ (lw_privs_4 ++ (lw_privs_5 ++ (lw_privs_6)))))
def lw_tbl : List Cond := k2_sels lw_privs ++ tables_1
theorem lw_privs_ok : ∀ q ∈ lw_privs, lw_okq q := by
  show ∀ q ∈ lw_privs_1 ++ (lw_privs_2 ++ (lw_privs_3 ++ (lw_privs_4 ++ (lw_privs_5 ++ (lw_privs_6))))), lw_okq q
  exact List.forall_mem_append.mpr ⟨lw_r1, List.forall_mem_append.mpr ⟨lw_r2, List.forall_mem_append.mpr ⟨lw_r3, List.forall_mem_append.mpr ⟨lw_r4, List.forall_mem_append.mpr ⟨lw_r5, lw_r6⟩⟩⟩⟩⟩
-- ===== ONE list of words for every method: the tables' words that hold all through a run =====
def lw_all : List Cond := lw_tbl.filter goodWord
/-- a word of the tables by its place: claim/WORDS.tsv -/
theorem lw_w {w : Cond} (i : Nat) (h : lw_tbl[i]? = some w) (g : goodWord w = true) : w ∈ lw_all := List.mem_filter.mpr ⟨List.mem_of_getElem? h, g⟩
theorem lw_all_tbl {w : Cond} (h : w ∈ lw_all) : w ∈ lw_tbl := (List.mem_filter.mp h).1
theorem lw_self : GoodIn lw_all lw_all := fun w h => ⟨h, good_of_word (List.mem_filter.mp h).2⟩
/-- a class's field words, by their places -/
theorem lw_in (ws : List Cond) (ps : List Nat) (hp : ws = ps.filterMap (fun i => lw_tbl[i]?)) (hg : ws.all goodWord = true) : ∀ w ∈ ws, w ∈ lw_all := by
  intro w h
  have h1 := List.all_eq_true.mp hg w h
  rw [hp] at h
  obtain ⟨i, -, hi⟩ := List.mem_filterMap.mp h
  exact lw_w i hi h1
/-- the words of a contract for the method y with code b, L locals, answer r -/
abbrev ws_ (y : MethodName) (b : ByteArray) (L : Nat) (r : Option FieldType) : List Cond := Cond.code y b L r :: lw_all
theorem lw_meth {y : MethodName} {b : ByteArray} {L : Nat} {r : Option FieldType} (h : Cond.code y b L r ∈ lw_all) : GoodIn lw_all (ws_ y b L r) := by
  intro w hw
  rcases List.mem_cons.mp hw with e | e
  · rw [e]
    exact lw_self _ h
  · exact lw_self _ e
theorem lw_app {a c : List Cond} (ha : ∀ w ∈ a, w ∈ lw_all) (hc : GoodIn lw_all c) : GoodIn lw_all (a ++ c) := by
  intro w hw
  rcases List.mem_append.mp hw with e | e
  · exact lw_self w (ha w e)
  · exact hc w e
/-- what a call through an object asks: cwV n hts (lw_V ..) -/
theorem lw_V {own : String} {idx : Nat} {C : String} {y : MethodName} {b : ByteArray} {L : Nat} {r : Option FieldType} (h1 : Cond.methodLink own idx y ∈ lw_all) (h2 : Cond.instanceMethod y ∈ lw_all) (h3 : Cond.selects C y y ∈ lw_all) (h4 : Cond.initialized C ∈ lw_all) (h5 : Cond.code y b L r ∈ lw_all) : GoodIn lw_all (wsV own idx C y (ws_ y b L r)) := by
  refine lw_app ?_ (lw_meth h5)
  intro w hw
  simp only [List.mem_cons, List.not_mem_nil, or_false] at hw
  rcases hw with e | e | e | e
  · rw [e]; exact h1
  · rw [e]; exact h2
  · rw [e]; exact h3
  · rw [e]; exact h4
/-- what a static call asks: va_cwS n hts (lw_S ..) -/
theorem lw_S {own : String} {idx : Nat} {y : MethodName} {b : ByteArray} {L : Nat} {r : Option FieldType} (h1 : Cond.methodLink own idx y ∈ lw_all) (h2 : Cond.static y ∈ lw_all) (h3 : Cond.initialized y.cls ∈ lw_all) (h4 : Cond.code y b L r ∈ lw_all) : GoodIn lw_all (va_wsS own idx y (ws_ y b L r)) := by
  refine lw_app ?_ (lw_meth h4)
  intro w hw
  simp only [List.mem_cons, List.not_mem_nil, or_false] at hw
  rcases hw with e | e | e
  · rw [e]; exact h1
  · rw [e]; exact h2
  · rw [e]; exact h3
/-- the words of a contract for a method WITH HANDLERS (hh: its table) -/
abbrev wsW_ (y : MethodName) (b : ByteArray) (L : Nat) (r : Option FieldType) (hh : List (Nat × Nat × Nat × Nat)) : List Cond := Cond.codeWith y b L r hh :: lw_all
theorem lw_methW {y : MethodName} {b : ByteArray} {L : Nat} {r : Option FieldType} {hh : List (Nat × Nat × Nat × Nat)} (h : Cond.codeWith y b L r hh ∈ lw_all) : GoodIn lw_all (wsW_ y b L r hh) := by
  intro w hw
  rcases List.mem_cons.mp hw with e | e
  · rw [e]
    exact lw_self _ h
  · exact lw_self _ e
/-- any list of words by their places (lw_in), good -/
theorem lw_good {ws : List Cond} (h : ∀ w ∈ ws, w ∈ lw_all) : GoodIn lw_all ws := fun w hw => lw_self w (h w hw)
/-- what a call of a method with handlers asks: vx_cwVW n hts (lw_VW ..), vx_cwSW n hts (lw_SW ..) -/
theorem lw_VW {own : String} {idx : Nat} {C : String} {y : MethodName} {b : ByteArray} {L : Nat} {r : Option FieldType} {hh : List (Nat × Nat × Nat × Nat)} (h1 : Cond.methodLink own idx y ∈ lw_all) (h2 : Cond.instanceMethod y ∈ lw_all) (h3 : Cond.selects C y y ∈ lw_all) (h4 : Cond.initialized C ∈ lw_all) (h5 : Cond.codeWith y b L r hh ∈ lw_all) : GoodIn lw_all (wsV own idx C y (wsW_ y b L r hh)) := by
  refine lw_app ?_ (lw_methW h5)
  intro w hw
  simp only [List.mem_cons, List.not_mem_nil, or_false] at hw
  rcases hw with e | e | e | e
  · rw [e]; exact h1
  · rw [e]; exact h2
  · rw [e]; exact h3
  · rw [e]; exact h4
theorem lw_SW {own : String} {idx : Nat} {y : MethodName} {b : ByteArray} {L : Nat} {r : Option FieldType} {hh : List (Nat × Nat × Nat × Nat)} (h1 : Cond.methodLink own idx y ∈ lw_all) (h2 : Cond.static y ∈ lw_all) (h3 : Cond.initialized y.cls ∈ lw_all) (h4 : Cond.codeWith y b L r hh ∈ lw_all) : GoodIn lw_all (va_wsS own idx y (wsW_ y b L r hh)) := by
  refine lw_app ?_ (lw_methW h4)
  intro w hw
  simp only [List.mem_cons, List.not_mem_nil, or_false] at hw
  rcases hw with e | e | e
  · rw [e]; exact h1
  · rw [e]; exact h2
  · rw [e]; exact h3
/-- a word by its place in its run of the tables -/
theorem lw_at {r : List Cond} (hr : ∀ w ∈ r, w ∈ lw_tbl) {w : Cond} (i : Nat) (h : r[i]? = some w) : w ∈ lw_tbl := hr w (List.mem_of_getElem? h)
theorem lw_g {w : Cond} (h : w ∈ lw_tbl) (g : goodWord w = true) : w ∈ lw_all := List.mem_filter.mpr ⟨h, g⟩
theorem lw_ms : ∀ w ∈ k2_sels lw_privs, w ∈ lw_tbl := fun w h => show w ∈ k2_sels lw_privs ++ tables_1 from List.mem_append_left _ h
theorem lw_m1 : ∀ w ∈ tables_1_1, w ∈ lw_tbl := fun w h => show w ∈ k2_sels lw_privs ++ tables_1 from List.mem_append_right (k2_sels lw_privs) (show w ∈ tables_1 from List.mem_append_left _ h)
theorem lw_m2 : ∀ w ∈ tables_1_2, w ∈ lw_tbl := fun w h => show w ∈ k2_sels lw_privs ++ tables_1 from List.mem_append_right (k2_sels lw_privs) (show w ∈ tables_1 from List.mem_append_right _ (List.mem_append_left _ h))
theorem lw_m3 : ∀ w ∈ tables_1_3, w ∈ lw_tbl := fun w h => show w ∈ k2_sels lw_privs ++ tables_1 from List.mem_append_right (k2_sels lw_privs) (show w ∈ tables_1 from List.mem_append_right _ (List.mem_append_right _ (List.mem_append_left _ h)))
theorem lw_m4 : ∀ w ∈ tables_1_4, w ∈ lw_tbl := fun w h => show w ∈ k2_sels lw_privs ++ tables_1 from List.mem_append_right (k2_sels lw_privs) (show w ∈ tables_1 from List.mem_append_right _ (List.mem_append_right _ (List.mem_append_right _ (List.mem_append_left _ h))))
theorem lw_m5 : ∀ w ∈ tables_1_5, w ∈ lw_tbl := fun w h => show w ∈ k2_sels lw_privs ++ tables_1 from List.mem_append_right (k2_sels lw_privs) (show w ∈ tables_1 from List.mem_append_right _ (List.mem_append_right _ (List.mem_append_right _ (List.mem_append_right _ (List.mem_append_left _ h)))))
theorem lw_m6 : ∀ w ∈ tables_1_6, w ∈ lw_tbl := fun w h => show w ∈ k2_sels lw_privs ++ tables_1 from List.mem_append_right (k2_sels lw_privs) (show w ∈ tables_1 from List.mem_append_right _ (List.mem_append_right _ (List.mem_append_right _ (List.mem_append_right _ (List.mem_append_right _ (List.mem_append_left _ h))))))
theorem lw_m7 : ∀ w ∈ tables_1_7, w ∈ lw_tbl := fun w h => show w ∈ k2_sels lw_privs ++ tables_1 from List.mem_append_right (k2_sels lw_privs) (show w ∈ tables_1 from List.mem_append_right _ (List.mem_append_right _ (List.mem_append_right _ (List.mem_append_right _ (List.mem_append_right _ (List.mem_append_right _ (List.mem_append_left _ h)))))))
theorem lw_m8 : ∀ w ∈ tables_1_8, w ∈ lw_tbl := fun w h => show w ∈ k2_sels lw_privs ++ tables_1 from List.mem_append_right (k2_sels lw_privs) (show w ∈ tables_1 from List.mem_append_right _ (List.mem_append_right _ (List.mem_append_right _ (List.mem_append_right _ (List.mem_append_right _ (List.mem_append_right _ (List.mem_append_right _ h)))))))
theorem qs0 : (Cond.selects "WhichOneAllKnow" ⟨"WhichOneAllKnow", "shelf", "(I)LWhichOneAllKnow$Shelf;"⟩ ⟨"WhichOneAllKnow", "shelf", "(I)LWhichOneAllKnow$Shelf;"⟩) ∈ lw_all := lw_g (lw_at lw_ms 0 rfl) rfl
theorem qs1 : (Cond.selects "java/lang/Throwable" ⟨"java/lang/Throwable", "fillInStackTrace", "(I)Ljava/lang/Throwable;"⟩ ⟨"java/lang/Throwable", "fillInStackTrace", "(I)Ljava/lang/Throwable;"⟩) ∈ lw_all := lw_g (lw_at lw_ms 1 rfl) rfl
theorem qs2 : (Cond.selects "WhichOneAllKnow" ⟨"WhichOneAllKnow", "refused", "(LWhichOneAllKnow$Refused;)I"⟩ ⟨"WhichOneAllKnow", "refused", "(LWhichOneAllKnow$Refused;)I"⟩) ∈ lw_all := lw_g (lw_at lw_ms 2 rfl) rfl
theorem qs3 : (Cond.selects "WhichOneAllKnow" ⟨"WhichOneAllKnow", "mustVoice", "(I)V"⟩ ⟨"WhichOneAllKnow", "mustVoice", "(I)V"⟩) ∈ lw_all := lw_g (lw_at lw_ms 3 rfl) rfl
theorem qs4 : (Cond.selects "WhichOneAllKnow" ⟨"WhichOneAllKnow", "mustTune", "(I)V"⟩ ⟨"WhichOneAllKnow", "mustTune", "(I)V"⟩) ∈ lw_all := lw_g (lw_at lw_ms 4 rfl) rfl
theorem qs5 : (Cond.selects "WhichOneAllKnow" ⟨"WhichOneAllKnow", "beyond", "()I"⟩ ⟨"WhichOneAllKnow", "beyond", "()I"⟩) ∈ lw_all := lw_g (lw_at lw_ms 5 rfl) rfl
theorem qs6 : (Cond.selects "WhichOneAllKnow$Reader" ⟨"WhichOneAllKnow$Reader", "item", "()V"⟩ ⟨"WhichOneAllKnow$Reader", "item", "()V"⟩) ∈ lw_all := lw_g (lw_at lw_ms 6 rfl) rfl
theorem qs7 : (Cond.selects "WhichOneAllKnow$Reader" ⟨"WhichOneAllKnow$Reader", "sees", "(I)Z"⟩ ⟨"WhichOneAllKnow$Reader", "sees", "(I)Z"⟩) ∈ lw_all := lw_g (lw_at lw_ms 7 rfl) rfl
theorem qs8 : (Cond.selects "WhichOneAllKnow$Reader" ⟨"WhichOneAllKnow$Reader", "ends", "()Z"⟩ ⟨"WhichOneAllKnow$Reader", "ends", "()Z"⟩) ∈ lw_all := lw_g (lw_at lw_ms 8 rfl) rfl
theorem qs9 : (Cond.selects "WhichOneAllKnow$Reader" ⟨"WhichOneAllKnow$Reader", "word", "(Ljava/lang/String;)V"⟩ ⟨"WhichOneAllKnow$Reader", "word", "(Ljava/lang/String;)V"⟩) ∈ lw_all := lw_g (lw_at lw_ms 9 rfl) rfl
theorem qs10 : (Cond.selects "WhichOneAllKnow$Reader" ⟨"WhichOneAllKnow$Reader", "must", "(I)V"⟩ ⟨"WhichOneAllKnow$Reader", "must", "(I)V"⟩) ∈ lw_all := lw_g (lw_at lw_ms 10 rfl) rfl
theorem qs11 : (Cond.selects "WhichOneAllKnow$Reader" ⟨"WhichOneAllKnow$Reader", "hasRoom", "(ZI)V"⟩ ⟨"WhichOneAllKnow$Reader", "hasRoom", "(ZI)V"⟩) ∈ lw_all := lw_g (lw_at lw_ms 11 rfl) rfl
theorem qs12 : (Cond.selects "WhichOneAllKnow$Reader" ⟨"WhichOneAllKnow$Reader", "number", "(II)I"⟩ ⟨"WhichOneAllKnow$Reader", "number", "(II)I"⟩) ∈ lw_all := lw_g (lw_at lw_ms 12 rfl) rfl
theorem qs13 : (Cond.selects "WhichOneAllKnow$Reader" ⟨"WhichOneAllKnow$Reader", "digit", "()Z"⟩ ⟨"WhichOneAllKnow$Reader", "digit", "()Z"⟩) ∈ lw_all := lw_g (lw_at lw_ms 13 rfl) rfl
theorem qs14 : (Cond.selects "WhichOneAllKnow$Reader" ⟨"WhichOneAllKnow$Reader", "voice", "(I)V"⟩ ⟨"WhichOneAllKnow$Reader", "voice", "(I)V"⟩) ∈ lw_all := lw_g (lw_at lw_ms 14 rfl) rfl
theorem qs15 : (Cond.selects "WhichOneAllKnow$Reader" ⟨"WhichOneAllKnow$Reader", "free", "()I"⟩ ⟨"WhichOneAllKnow$Reader", "free", "()I"⟩) ∈ lw_all := lw_g (lw_at lw_ms 15 rfl) rfl
theorem qs16 : (Cond.selects "WhichOneAllKnow$Hymn" ⟨"WhichOneAllKnow$Hymn", "goes", "(II)V"⟩ ⟨"WhichOneAllKnow$Hymn", "goes", "(II)V"⟩) ∈ lw_all := lw_g (lw_at lw_ms 16 rfl) rfl
theorem qs17 : (Cond.selects "WhichOneAllKnow$Hymn" ⟨"WhichOneAllKnow$Hymn", "joins", "(II)Z"⟩ ⟨"WhichOneAllKnow$Hymn", "joins", "(II)Z"⟩) ∈ lw_all := lw_g (lw_at lw_ms 17 rfl) rfl
theorem qs18 : (Cond.selects "WhichOneAllKnow$Hymn" ⟨"WhichOneAllKnow$Hymn", "around", "(II)I"⟩ ⟨"WhichOneAllKnow$Hymn", "around", "(II)I"⟩) ∈ lw_all := lw_g (lw_at lw_ms 18 rfl) rfl
theorem qs19 : (Cond.selects "WhichOneAllKnow$Hymn" ⟨"WhichOneAllKnow$Hymn", "isSame", "(II)Z"⟩ ⟨"WhichOneAllKnow$Hymn", "isSame", "(II)Z"⟩) ∈ lw_all := lw_g (lw_at lw_ms 19 rfl) rfl
theorem qs20 : (Cond.selects "WhichOneAllKnow" ⟨"WhichOneAllKnow", "bestLeaders", "(IIII)I"⟩ ⟨"WhichOneAllKnow", "bestLeaders", "(IIII)I"⟩) ∈ lw_all := lw_g (lw_at lw_ms 20 rfl) rfl
theorem qs21 : (Cond.selects "WhichOneAllKnow" ⟨"WhichOneAllKnow", "leads", "(II)V"⟩ ⟨"WhichOneAllKnow", "leads", "(II)V"⟩) ∈ lw_all := lw_g (lw_at lw_ms 21 rfl) rfl
theorem qs22 : (Cond.selects "WhichOneAllKnow" ⟨"WhichOneAllKnow", "othersRight", "(III)I"⟩ ⟨"WhichOneAllKnow", "othersRight", "(III)I"⟩) ∈ lw_all := lw_g (lw_at lw_ms 22 rfl) rfl
theorem qs23 : (Cond.selects "WhichOneAllKnow" ⟨"WhichOneAllKnow", "fewestTaught", "(II)I"⟩ ⟨"WhichOneAllKnow", "fewestTaught", "(II)I"⟩) ∈ lw_all := lw_g (lw_at lw_ms 23 rfl) rfl
theorem qs24 : (Cond.selects "WhichOneAllKnow" ⟨"WhichOneAllKnow", "catchesWith", "(III)Z"⟩ ⟨"WhichOneAllKnow", "catchesWith", "(III)Z"⟩) ∈ lw_all := lw_g (lw_at lw_ms 24 rfl) rfl
theorem qs25 : (Cond.selects "WhichOneAllKnow" ⟨"WhichOneAllKnow", "lateBy", "(II)I"⟩ ⟨"WhichOneAllKnow", "lateBy", "(II)I"⟩) ∈ lw_all := lw_g (lw_at lw_ms 25 rfl) rfl
theorem qs26 : (Cond.selects "WhichOneAllKnow" ⟨"WhichOneAllKnow", "toldAt", "(II)LWhichOneAllKnow$Row;"⟩ ⟨"WhichOneAllKnow", "toldAt", "(II)LWhichOneAllKnow$Row;"⟩) ∈ lw_all := lw_g (lw_at lw_ms 26 rfl) rfl
theorem qs27 : (Cond.selects "WhichOneAllKnow" ⟨"WhichOneAllKnow", "isHeard", "(LWhichOneAllKnow$Church;LWhichOneAllKnow$Row;III)Z"⟩ ⟨"WhichOneAllKnow", "isHeard", "(LWhichOneAllKnow$Church;LWhichOneAllKnow$Row;III)Z"⟩) ∈ lw_all := lw_g (lw_at lw_ms 27 rfl) rfl
theorem qs28 : (Cond.selects "WhichOneAllKnow" ⟨"WhichOneAllKnow", "firstChanged", "(LWhichOneAllKnow$Row;III)I"⟩ ⟨"WhichOneAllKnow", "firstChanged", "(LWhichOneAllKnow$Row;III)I"⟩) ∈ lw_all := lw_g (lw_at lw_ms 28 rfl) rfl
theorem qs29 : (Cond.selects "WhichOneAllKnow" ⟨"WhichOneAllKnow", "knownByAll", "()I"⟩ ⟨"WhichOneAllKnow", "knownByAll", "()I"⟩) ∈ lw_all := lw_g (lw_at lw_ms 29 rfl) rfl
theorem qs30 : (Cond.selects "WhichOneAllKnow" ⟨"WhichOneAllKnow", "whomToAsk", "()I"⟩ ⟨"WhichOneAllKnow", "whomToAsk", "()I"⟩) ∈ lw_all := lw_g (lw_at lw_ms 30 rfl) rfl
theorem qs31 : (Cond.selects "WhichOneAllKnow" ⟨"WhichOneAllKnow", "alike", "(I)I"⟩ ⟨"WhichOneAllKnow", "alike", "(I)I"⟩) ∈ lw_all := lw_g (lw_at lw_ms 31 rfl) rfl
theorem qs32 : (Cond.selects "WhichOneAllKnow" ⟨"WhichOneAllKnow", "wrongIn", "(LWhichOneAllKnow$Row;I)I"⟩ ⟨"WhichOneAllKnow", "wrongIn", "(LWhichOneAllKnow$Row;I)I"⟩) ∈ lw_all := lw_g (lw_at lw_ms 32 rfl) rfl
theorem qs33 : (Cond.selects "WhichOneAllKnow" ⟨"WhichOneAllKnow", "goesHymn", "(LWhichOneAllKnow$Church;III)I"⟩ ⟨"WhichOneAllKnow", "goesHymn", "(LWhichOneAllKnow$Church;III)I"⟩) ∈ lw_all := lw_g (lw_at lw_ms 33 rfl) rfl
theorem qs34 : (Cond.selects "WhichOneAllKnow" ⟨"WhichOneAllKnow", "shelvesFollow", "()V"⟩ ⟨"WhichOneAllKnow", "shelvesFollow", "()V"⟩) ∈ lw_all := lw_g (lw_at lw_ms 34 rfl) rfl
theorem qs35 : (Cond.selects "WhichOneAllKnowModel" ⟨"WhichOneAllKnowModel", "no", "(I)I"⟩ ⟨"WhichOneAllKnowModel", "no", "(I)I"⟩) ∈ lw_all := lw_g (lw_at lw_ms 35 rfl) rfl
theorem qs36 : (Cond.selects "WhichOneAllKnowModel" ⟨"WhichOneAllKnowModel", "noRow", "(I)I"⟩ ⟨"WhichOneAllKnowModel", "noRow", "(I)I"⟩) ∈ lw_all := lw_g (lw_at lw_ms 36 rfl) rfl
theorem qs37 : (Cond.selects "WhichOneAllKnowModel" ⟨"WhichOneAllKnowModel", "isRow", "(I)Z"⟩ ⟨"WhichOneAllKnowModel", "isRow", "(I)Z"⟩) ∈ lw_all := lw_g (lw_at lw_ms 37 rfl) rfl
theorem qs38 : (Cond.selects "WhichOneAllKnowModel" ⟨"WhichOneAllKnowModel", "isVoice", "(I)Z"⟩ ⟨"WhichOneAllKnowModel", "isVoice", "(I)Z"⟩) ∈ lw_all := lw_g (lw_at lw_ms 38 rfl) rfl
theorem qs39 : (Cond.selects "WhichOneAllKnowModel" ⟨"WhichOneAllKnowModel", "newTune", "(I)I"⟩ ⟨"WhichOneAllKnowModel", "newTune", "(I)I"⟩) ∈ lw_all := lw_g (lw_at lw_ms 39 rfl) rfl
theorem qs40 : (Cond.selects "WhichOneAllKnowModel" ⟨"WhichOneAllKnowModel", "isFree", "(I)Z"⟩ ⟨"WhichOneAllKnowModel", "isFree", "(I)Z"⟩) ∈ lw_all := lw_g (lw_at lw_ms 40 rfl) rfl
theorem qs41 : (Cond.selects "WhichOneAllKnowModel" ⟨"WhichOneAllKnowModel", "isTaken", "(I)Z"⟩ ⟨"WhichOneAllKnowModel", "isTaken", "(I)Z"⟩) ∈ lw_all := lw_g (lw_at lw_ms 41 rfl) rfl
theorem qs42 : (Cond.selects "WhichOneAllKnowModel" ⟨"WhichOneAllKnowModel", "newVoice", "(IIIII)I"⟩ ⟨"WhichOneAllKnowModel", "newVoice", "(IIIII)I"⟩) ∈ lw_all := lw_g (lw_at lw_ms 42 rfl) rfl
theorem qs43 : (Cond.selects "WhichOneAllKnowModel" ⟨"WhichOneAllKnowModel", "isTune", "(I)Z"⟩ ⟨"WhichOneAllKnowModel", "isTune", "(I)Z"⟩) ∈ lw_all := lw_g (lw_at lw_ms 43 rfl) rfl
theorem qs44 : (Cond.selects "WhichOneAllKnowModel" ⟨"WhichOneAllKnowModel", "keep", "([I)V"⟩ ⟨"WhichOneAllKnowModel", "keep", "([I)V"⟩) ∈ lw_all := lw_g (lw_at lw_ms 44 rfl) rfl
theorem qs45 : (Cond.selects "WhichOneAllKnowModel" ⟨"WhichOneAllKnowModel", "item", "()Z"⟩ ⟨"WhichOneAllKnowModel", "item", "()Z"⟩) ∈ lw_all := lw_g (lw_at lw_ms 45 rfl) rfl
theorem qs46 : (Cond.selects "WhichOneAllKnowModel" ⟨"WhichOneAllKnowModel", "sign", "()I"⟩ ⟨"WhichOneAllKnowModel", "sign", "()I"⟩) ∈ lw_all := lw_g (lw_at lw_ms 46 rfl) rfl
theorem qs47 : (Cond.selects "WhichOneAllKnowModel" ⟨"WhichOneAllKnowModel", "word", "(Ljava/lang/String;Z)Z"⟩ ⟨"WhichOneAllKnowModel", "word", "(Ljava/lang/String;Z)Z"⟩) ∈ lw_all := lw_g (lw_at lw_ms 47 rfl) rfl
theorem qs48 : (Cond.selects "WhichOneAllKnowModel" ⟨"WhichOneAllKnowModel", "word", "(Ljava/lang/String;)Z"⟩ ⟨"WhichOneAllKnowModel", "word", "(Ljava/lang/String;)Z"⟩) ∈ lw_all := lw_g (lw_at lw_ms 48 rfl) rfl
theorem qs49 : (Cond.selects "WhichOneAllKnowModel" ⟨"WhichOneAllKnowModel", "is", "(C)Z"⟩ ⟨"WhichOneAllKnowModel", "is", "(C)Z"⟩) ∈ lw_all := lw_g (lw_at lw_ms 49 rfl) rfl
theorem qs50 : (Cond.selects "WhichOneAllKnowModel" ⟨"WhichOneAllKnowModel", "number", "(III)Z"⟩ ⟨"WhichOneAllKnowModel", "number", "(III)Z"⟩) ∈ lw_all := lw_g (lw_at lw_ms 50 rfl) rfl
theorem qs51 : (Cond.selects "WhichOneAllKnowModel" ⟨"WhichOneAllKnowModel", "stands", "(IZ)Z"⟩ ⟨"WhichOneAllKnowModel", "stands", "(IZ)Z"⟩) ∈ lw_all := lw_g (lw_at lw_ms 51 rfl) rfl
theorem qs52 : (Cond.selects "WhichOneAllKnowModel" ⟨"WhichOneAllKnowModel", "again", "([I)V"⟩ ⟨"WhichOneAllKnowModel", "again", "([I)V"⟩) ∈ lw_all := lw_g (lw_at lw_ms 52 rfl) rfl
theorem qs53 : (Cond.selects "WhichOneAllKnowModel" ⟨"WhichOneAllKnowModel", "hears", "(III)V"⟩ ⟨"WhichOneAllKnowModel", "hears", "(III)V"⟩) ∈ lw_all := lw_g (lw_at lw_ms 53 rfl) rfl
theorem qs54 : (Cond.selects "WhichOneAllKnowModel" ⟨"WhichOneAllKnowModel", "sings", "(III)V"⟩ ⟨"WhichOneAllKnowModel", "sings", "(III)V"⟩) ∈ lw_all := lw_g (lw_at lw_ms 54 rfl) rfl
theorem qs55 : (Cond.selects "WhichOneAllKnowModel" ⟨"WhichOneAllKnowModel", "isEnough", "(III)Z"⟩ ⟨"WhichOneAllKnowModel", "isEnough", "(III)Z"⟩) ∈ lw_all := lw_g (lw_at lw_ms 55 rfl) rfl
theorem qs56 : (Cond.selects "WhichOneAllKnowModel" ⟨"WhichOneAllKnowModel", "near", "(II)I"⟩ ⟨"WhichOneAllKnowModel", "near", "(II)I"⟩) ∈ lw_all := lw_g (lw_at lw_ms 56 rfl) rfl
theorem qs57 : (Cond.selects "WhichOneAllKnowModel" ⟨"WhichOneAllKnowModel", "areNear", "(II)Z"⟩ ⟨"WhichOneAllKnowModel", "areNear", "(II)Z"⟩) ∈ lw_all := lw_g (lw_at lw_ms 57 rfl) rfl
theorem qs58 : (Cond.selects "WhichOneAllKnowModel" ⟨"WhichOneAllKnowModel", "need", "(II)I"⟩ ⟨"WhichOneAllKnowModel", "need", "(II)I"⟩) ∈ lw_all := lw_g (lw_at lw_ms 58 rfl) rfl
theorem qs59 : (Cond.selects "WhichOneAllKnowModel" ⟨"WhichOneAllKnowModel", "no10", "(I)I"⟩ ⟨"WhichOneAllKnowModel", "no10", "(I)I"⟩) ∈ lw_all := lw_g (lw_at lw_ms 59 rfl) rfl
theorem qs60 : (Cond.selects "WhichOneAllKnowModel" ⟨"WhichOneAllKnowModel", "catches", "(II)I"⟩ ⟨"WhichOneAllKnowModel", "catches", "(II)I"⟩) ∈ lw_all := lw_g (lw_at lw_ms 60 rfl) rfl
theorem qs61 : (Cond.selects "WhichOneAllKnowModel" ⟨"WhichOneAllKnowModel", "settles", "(II)I"⟩ ⟨"WhichOneAllKnowModel", "settles", "(II)I"⟩) ∈ lw_all := lw_g (lw_at lw_ms 61 rfl) rfl
theorem qs62 : (Cond.selects "WhichOneAllKnowModel" ⟨"WhichOneAllKnowModel", "isSame", "(II)Z"⟩ ⟨"WhichOneAllKnowModel", "isSame", "(II)Z"⟩) ∈ lw_all := lw_g (lw_at lw_ms 62 rfl) rfl
theorem qs63 : (Cond.selects "WhichOneAllKnowModel" ⟨"WhichOneAllKnowModel", "manyAt", "(III)I"⟩ ⟨"WhichOneAllKnowModel", "manyAt", "(III)I"⟩) ∈ lw_all := lw_g (lw_at lw_ms 63 rfl) rfl
theorem qs64 : (Cond.selects "WhichOneAllKnowModel" ⟨"WhichOneAllKnowModel", "rightAt", "(III)I"⟩ ⟨"WhichOneAllKnowModel", "rightAt", "(III)I"⟩) ∈ lw_all := lw_g (lw_at lw_ms 64 rfl) rfl
theorem qs65 : (Cond.selects "WhichOneAllKnowModel" ⟨"WhichOneAllKnowModel", "bestLeaders", "(IIII)I"⟩ ⟨"WhichOneAllKnowModel", "bestLeaders", "(IIII)I"⟩) ∈ lw_all := lw_g (lw_at lw_ms 65 rfl) rfl
theorem qs66 : (Cond.selects "WhichOneAllKnowModel" ⟨"WhichOneAllKnowModel", "leads", "(I)V"⟩ ⟨"WhichOneAllKnowModel", "leads", "(I)V"⟩) ∈ lw_all := lw_g (lw_at lw_ms 66 rfl) rfl
theorem qs67 : (Cond.selects "WhichOneAllKnowModel" ⟨"WhichOneAllKnowModel", "ledAt", "(IIII)I"⟩ ⟨"WhichOneAllKnowModel", "ledAt", "(IIII)I"⟩) ∈ lw_all := lw_g (lw_at lw_ms 67 rfl) rfl
theorem qs68 : (Cond.selects "WhichOneAllKnowModel" ⟨"WhichOneAllKnowModel", "lateBy", "(II)I"⟩ ⟨"WhichOneAllKnowModel", "lateBy", "(II)I"⟩) ∈ lw_all := lw_g (lw_at lw_ms 68 rfl) rfl
theorem qs69 : (Cond.selects "WhichOneAllKnowModel" ⟨"WhichOneAllKnowModel", "noTold", "(IIII)I"⟩ ⟨"WhichOneAllKnowModel", "noTold", "(IIII)I"⟩) ∈ lw_all := lw_g (lw_at lw_ms 69 rfl) rfl
theorem qs70 : (Cond.selects "WhichOneAllKnowModel" ⟨"WhichOneAllKnowModel", "isFit", "(IIII)Z"⟩ ⟨"WhichOneAllKnowModel", "isFit", "(IIII)Z"⟩) ∈ lw_all := lw_g (lw_at lw_ms 70 rfl) rfl
theorem qs71 : (Cond.selects "WhichOneAllKnowModel" ⟨"WhichOneAllKnowModel", "toldAt", "(II)I"⟩ ⟨"WhichOneAllKnowModel", "toldAt", "(II)I"⟩) ∈ lw_all := lw_g (lw_at lw_ms 71 rfl) rfl
theorem qs72 : (Cond.selects "WhichOneAllKnowModel" ⟨"WhichOneAllKnowModel", "change", "(II)V"⟩ ⟨"WhichOneAllKnowModel", "change", "(II)V"⟩) ∈ lw_all := lw_g (lw_at lw_ms 72 rfl) rfl
theorem qs73 : (Cond.selects "WhichOneAllKnowModel" ⟨"WhichOneAllKnowModel", "knownAll", "()I"⟩ ⟨"WhichOneAllKnowModel", "knownAll", "()I"⟩) ∈ lw_all := lw_g (lw_at lw_ms 73 rfl) rfl
theorem qs74 : (Cond.selects "WhichOneAllKnowModel" ⟨"WhichOneAllKnowModel", "whomToAsk", "()I"⟩ ⟨"WhichOneAllKnowModel", "whomToAsk", "()I"⟩) ∈ lw_all := lw_g (lw_at lw_ms 74 rfl) rfl
theorem qs75 : (Cond.selects "WhichOneAllKnowModel" ⟨"WhichOneAllKnowModel", "wrongAt", "(II)I"⟩ ⟨"WhichOneAllKnowModel", "wrongAt", "(II)I"⟩) ∈ lw_all := lw_g (lw_at lw_ms 75 rfl) rfl
theorem qs76 : (Cond.selects "WhichOneAllKnowModel" ⟨"WhichOneAllKnowModel", "isSung", "(III)I"⟩ ⟨"WhichOneAllKnowModel", "isSung", "(III)I"⟩) ∈ lw_all := lw_g (lw_at lw_ms 76 rfl) rfl
theorem qs77 : (Cond.selects "WhichOneAllKnowModel" ⟨"WhichOneAllKnowModel", "draw", "(I)I"⟩ ⟨"WhichOneAllKnowModel", "draw", "(I)I"⟩) ∈ lw_all := lw_g (lw_at lw_ms 77 rfl) rfl
theorem qs78 : (Cond.selects "WhichOneAllKnowModel" ⟨"WhichOneAllKnowModel", "breathesBy", "(II)I"⟩ ⟨"WhichOneAllKnowModel", "breathesBy", "(II)I"⟩) ∈ lw_all := lw_g (lw_at lw_ms 78 rfl) rfl
theorem qs79 : (Cond.selects "WhichOneAllKnowModel" ⟨"WhichOneAllKnowModel", "ran", "(I)V"⟩ ⟨"WhichOneAllKnowModel", "ran", "(I)V"⟩) ∈ lw_all := lw_g (lw_at lw_ms 79 rfl) rfl
theorem qs80 : (Cond.selects "WhichOneAllKnowModel" ⟨"WhichOneAllKnowModel", "singsBy", "(II)I"⟩ ⟨"WhichOneAllKnowModel", "singsBy", "(II)I"⟩) ∈ lw_all := lw_g (lw_at lw_ms 80 rfl) rfl
theorem qs81 : (Cond.selects "WhichOneAllKnowModel" ⟨"WhichOneAllKnowModel", "sitsBy", "(II)I"⟩ ⟨"WhichOneAllKnowModel", "sitsBy", "(II)I"⟩) ∈ lw_all := lw_g (lw_at lw_ms 81 rfl) rfl
