-- ===== PART A: goes FIRST, ahead of the names: the tables' words, and 'selects' of the private methods out of them =====
/-- a private method of a class that the tables say can be made, by its rows of tables_1 -/
def lw_okq (q : MethodName × Nat) : Prop := (q.1.cls ≠ "java/lang/invoke/MethodHandle" ∧ q.1.cls ≠ "java/lang/invoke/VarHandle") ∧ Cond.instantiable q.1.cls q.2 ∈ tables_1 ∧ Cond.privateMethod q.1 ∈ tables_1 ∧ Cond.instanceMethod q.1 ∈ tables_1
set_option maxRecDepth 100000
theorem lw_t1 {w : Cond} (h : w ∈ tables_1_1) : w ∈ tables_1 := List.mem_append_left _ h
theorem lw_t2 {w : Cond} (h : w ∈ tables_1_2) : w ∈ tables_1 := List.mem_append_right _ (List.mem_append_left _ h)
theorem lw_t3 {w : Cond} (h : w ∈ tables_1_3) : w ∈ tables_1 := List.mem_append_right _ (List.mem_append_right _ (List.mem_append_left _ h))
theorem lw_t4 {w : Cond} (h : w ∈ tables_1_4) : w ∈ tables_1 := List.mem_append_right _ (List.mem_append_right _ (List.mem_append_right _ (List.mem_append_left _ h)))
theorem lw_t5 {w : Cond} (h : w ∈ tables_1_5) : w ∈ tables_1 := List.mem_append_right _ (List.mem_append_right _ (List.mem_append_right _ (List.mem_append_right _ (List.mem_append_left _ h))))
theorem lw_t6 {w : Cond} (h : w ∈ tables_1_6) : w ∈ tables_1 := List.mem_append_right _ (List.mem_append_right _ (List.mem_append_right _ (List.mem_append_right _ (List.mem_append_right _ h))))
theorem lw_p0 : lw_okq (⟨"LockTurns$Reader", "next", "()V"⟩, 10) := ⟨⟨by decide +kernel, by decide +kernel⟩, lw_t1 (List.mem_of_getElem? (i := 45) rfl), lw_t1 (List.mem_of_getElem? (i := 87) rfl), lw_t1 (List.mem_of_getElem? (i := 88) rfl)⟩
theorem lw_p1 : lw_okq (⟨"LockTurns$Reader", "at", "(I)I"⟩, 10) := ⟨⟨by decide +kernel, by decide +kernel⟩, lw_t1 (List.mem_of_getElem? (i := 45) rfl), lw_t1 (List.mem_of_getElem? (i := 91) rfl), lw_t1 (List.mem_of_getElem? (i := 92) rfl)⟩
theorem lw_p2 : lw_okq (⟨"LockTurns$Reader", "must", "(ZI)V"⟩, 10) := ⟨⟨by decide +kernel, by decide +kernel⟩, lw_t1 (List.mem_of_getElem? (i := 45) rfl), lw_t1 (List.mem_of_getElem? (i := 100) rfl), lw_t1 (List.mem_of_getElem? (i := 101) rfl)⟩
theorem lw_p3 : lw_okq (⟨"java/lang/NullPointerException", "getExtendedNPEMessage", "()Ljava/lang/String;"⟩, 8) := ⟨⟨by decide +kernel, by decide +kernel⟩, lw_t1 (List.mem_of_getElem? (i := 145) rfl), lw_t1 (List.mem_of_getElem? (i := 143) rfl), lw_t1 (List.mem_of_getElem? (i := 144) rfl)⟩
theorem lw_p4 : lw_okq (⟨"java/lang/Throwable", "fillInStackTrace", "(I)Ljava/lang/Throwable;"⟩, 6) := ⟨⟨by decide +kernel, by decide +kernel⟩, lw_t1 (List.mem_of_getElem? (i := 157) rfl), lw_t1 (List.mem_of_getElem? (i := 155) rfl), lw_t1 (List.mem_of_getElem? (i := 156) rfl)⟩
theorem lw_p5 : lw_okq (⟨"LockTurns$Reader", "line", "()V"⟩, 10) := ⟨⟨by decide +kernel, by decide +kernel⟩, lw_t1 (List.mem_of_getElem? (i := 45) rfl), lw_t1 (List.mem_of_getElem? (i := 231) rfl), lw_t1 (List.mem_of_getElem? (i := 232) rfl)⟩
theorem lw_p6 : lw_okq (⟨"LockTurns$Reader", "isWord", "(Ljava/lang/String;)Z"⟩, 10) := ⟨⟨by decide +kernel, by decide +kernel⟩, lw_t1 (List.mem_of_getElem? (i := 45) rfl), lw_t1 (List.mem_of_getElem? (i := 237) rfl), lw_t1 (List.mem_of_getElem? (i := 238) rfl)⟩
theorem lw_p7 : lw_okq (⟨"LockTurns$Reader", "boatOf", "(I)V"⟩, 10) := ⟨⟨by decide +kernel, by decide +kernel⟩, lw_t1 (List.mem_of_getElem? (i := 45) rfl), lw_t2 (List.mem_of_getElem? (i := 49) rfl), lw_t2 (List.mem_of_getElem? (i := 50) rfl)⟩
theorem lw_p8 : lw_okq (⟨"LockTurns$Reader", "named", "([Ljava/lang/String;)I"⟩, 10) := ⟨⟨by decide +kernel, by decide +kernel⟩, lw_t1 (List.mem_of_getElem? (i := 45) rfl), lw_t2 (List.mem_of_getElem? (i := 55) rfl), lw_t2 (List.mem_of_getElem? (i := 56) rfl)⟩
theorem lw_p9 : lw_okq (⟨"LockTurns$Reader", "number", "(II)I"⟩, 10) := ⟨⟨by decide +kernel, by decide +kernel⟩, lw_t1 (List.mem_of_getElem? (i := 45) rfl), lw_t2 (List.mem_of_getElem? (i := 59) rfl), lw_t2 (List.mem_of_getElem? (i := 60) rfl)⟩
theorem lw_p10 : lw_okq (⟨"LockTurns$Reader", "other", "(III)I"⟩, 10) := ⟨⟨by decide +kernel, by decide +kernel⟩, lw_t1 (List.mem_of_getElem? (i := 45) rfl), lw_t2 (List.mem_of_getElem? (i := 63) rfl), lw_t2 (List.mem_of_getElem? (i := 64) rfl)⟩
theorem lw_p11 : lw_okq (⟨"LockTurns$Reader", "more", "(I)V"⟩, 10) := ⟨⟨by decide +kernel, by decide +kernel⟩, lw_t1 (List.mem_of_getElem? (i := 45) rfl), lw_t2 (List.mem_of_getElem? (i := 70) rfl), lw_t2 (List.mem_of_getElem? (i := 71) rfl)⟩
theorem lw_p12 : lw_okq (⟨"LockTurns", "isBoat", "(I)Z"⟩, 24) := ⟨⟨by decide +kernel, by decide +kernel⟩, lw_t2 (List.mem_of_getElem? (i := 99) rfl), lw_t2 (List.mem_of_getElem? (i := 97) rfl), lw_t2 (List.mem_of_getElem? (i := 98) rfl)⟩
theorem lw_p13 : lw_okq (⟨"LockTurns", "alters", "(III)I"⟩, 24) := ⟨⟨by decide +kernel, by decide +kernel⟩, lw_t2 (List.mem_of_getElem? (i := 99) rfl), lw_t2 (List.mem_of_getElem? (i := 119) rfl), lw_t2 (List.mem_of_getElem? (i := 120) rfl)⟩
theorem lw_p14 : lw_okq (⟨"LockTurns", "today", "()V"⟩, 24) := ⟨⟨by decide +kernel, by decide +kernel⟩, lw_t2 (List.mem_of_getElem? (i := 99) rfl), lw_t2 (List.mem_of_getElem? (i := 139) rfl), lw_t2 (List.mem_of_getElem? (i := 140) rfl)⟩
theorem lw_p15 : lw_okq (⟨"LockTurns", "runs", "(II)V"⟩, 24) := ⟨⟨by decide +kernel, by decide +kernel⟩, lw_t2 (List.mem_of_getElem? (i := 99) rfl), lw_t2 (List.mem_of_getElem? (i := 143) rfl), lw_t2 (List.mem_of_getElem? (i := 144) rfl)⟩
def lw_privs_1 : List (MethodName × Nat) := [(⟨"LockTurns$Reader", "next", "()V"⟩, 10), (⟨"LockTurns$Reader", "at", "(I)I"⟩, 10), (⟨"LockTurns$Reader", "must", "(ZI)V"⟩, 10), (⟨"java/lang/NullPointerException", "getExtendedNPEMessage", "()Ljava/lang/String;"⟩, 8), (⟨"java/lang/Throwable", "fillInStackTrace", "(I)Ljava/lang/Throwable;"⟩, 6), (⟨"LockTurns$Reader", "line", "()V"⟩, 10), (⟨"LockTurns$Reader", "isWord", "(Ljava/lang/String;)Z"⟩, 10), (⟨"LockTurns$Reader", "boatOf", "(I)V"⟩, 10), (⟨"LockTurns$Reader", "named", "([Ljava/lang/String;)I"⟩, 10), (⟨"LockTurns$Reader", "number", "(II)I"⟩, 10), (⟨"LockTurns$Reader", "other", "(III)I"⟩, 10), (⟨"LockTurns$Reader", "more", "(I)V"⟩, 10), (⟨"LockTurns", "isBoat", "(I)Z"⟩, 24), (⟨"LockTurns", "alters", "(III)I"⟩, 24), (⟨"LockTurns", "today", "()V"⟩, 24), (⟨"LockTurns", "runs", "(II)V"⟩, 24)]
theorem lw_r1 : ∀ q ∈ lw_privs_1, lw_okq q := List.forall_mem_cons.mpr ⟨lw_p0, List.forall_mem_cons.mpr ⟨lw_p1, List.forall_mem_cons.mpr ⟨lw_p2, List.forall_mem_cons.mpr ⟨lw_p3, List.forall_mem_cons.mpr ⟨lw_p4, List.forall_mem_cons.mpr ⟨lw_p5, List.forall_mem_cons.mpr ⟨lw_p6, List.forall_mem_cons.mpr ⟨lw_p7, List.forall_mem_cons.mpr ⟨lw_p8, List.forall_mem_cons.mpr ⟨lw_p9, List.forall_mem_cons.mpr ⟨lw_p10, List.forall_mem_cons.mpr ⟨lw_p11, List.forall_mem_cons.mpr ⟨lw_p12, List.forall_mem_cons.mpr ⟨lw_p13, List.forall_mem_cons.mpr ⟨lw_p14, List.forall_mem_cons.mpr ⟨lw_p15, fun _ h => absurd h List.not_mem_nil⟩⟩⟩⟩⟩⟩⟩⟩⟩⟩⟩⟩⟩⟩⟩⟩
theorem lw_p16 : lw_okq (⟨"LockTurns", "opens", "()V"⟩, 24) := ⟨⟨by decide +kernel, by decide +kernel⟩, lw_t2 (List.mem_of_getElem? (i := 99) rfl), lw_t2 (List.mem_of_getElem? (i := 147) rfl), lw_t2 (List.mem_of_getElem? (i := 148) rfl)⟩
theorem lw_p17 : lw_okq (⟨"LockTurns", "nextFree", "(I)I"⟩, 24) := ⟨⟨by decide +kernel, by decide +kernel⟩, lw_t2 (List.mem_of_getElem? (i := 99) rfl), lw_t2 (List.mem_of_getElem? (i := 151) rfl), lw_t2 (List.mem_of_getElem? (i := 152) rfl)⟩
theorem lw_p18 : lw_okq (⟨"LockTurns", "taken", "(ILLockTurns$AtGate;)I"⟩, 24) := ⟨⟨by decide +kernel, by decide +kernel⟩, lw_t2 (List.mem_of_getElem? (i := 99) rfl), lw_t2 (List.mem_of_getElem? (i := 163) rfl), lw_t2 (List.mem_of_getElem? (i := 164) rfl)⟩
theorem lw_p19 : lw_okq (⟨"LockTurns", "goesThrough", "(I)V"⟩, 24) := ⟨⟨by decide +kernel, by decide +kernel⟩, lw_t2 (List.mem_of_getElem? (i := 99) rfl), lw_t2 (List.mem_of_getElem? (i := 200) rfl), lw_t2 (List.mem_of_getElem? (i := 201) rfl)⟩
theorem lw_p20 : lw_okq (⟨"LockTurns", "dayTold", "(I)I"⟩, 24) := ⟨⟨by decide +kernel, by decide +kernel⟩, lw_t2 (List.mem_of_getElem? (i := 99) rfl), lw_t2 (List.mem_of_getElem? (i := 216) rfl), lw_t2 (List.mem_of_getElem? (i := 217) rfl)⟩
theorem lw_p21 : lw_okq (⟨"LockTurns", "cost", "()I"⟩, 24) := ⟨⟨by decide +kernel, by decide +kernel⟩, lw_t2 (List.mem_of_getElem? (i := 99) rfl), lw_t2 (List.mem_of_getElem? (i := 220) rfl), lw_t2 (List.mem_of_getElem? (i := 221) rfl)⟩
theorem lw_p22 : lw_okq (⟨"LockTurns", "orders", "(II)V"⟩, 24) := ⟨⟨by decide +kernel, by decide +kernel⟩, lw_t2 (List.mem_of_getElem? (i := 99) rfl), lw_t2 (List.mem_of_getElem? (i := 237) rfl), lw_t2 (List.mem_of_getElem? (i := 238) rfl)⟩
theorem lw_p23 : lw_okq (⟨"LockTurns", "costOfRow", "()I"⟩, 24) := ⟨⟨by decide +kernel, by decide +kernel⟩, lw_t2 (List.mem_of_getElem? (i := 99) rfl), lw_t3 (List.mem_of_getElem? (i := 1) rfl), lw_t3 (List.mem_of_getElem? (i := 2) rfl)⟩
theorem lw_p24 : lw_okq (⟨"LockTurns", "gains", "(II)I"⟩, 24) := ⟨⟨by decide +kernel, by decide +kernel⟩, lw_t2 (List.mem_of_getElem? (i := 99) rfl), lw_t3 (List.mem_of_getElem? (i := 13) rfl), lw_t3 (List.mem_of_getElem? (i := 14) rfl)⟩
theorem lw_p25 : lw_okq (⟨"LockTurns", "isCalm", "(I)Z"⟩, 24) := ⟨⟨by decide +kernel, by decide +kernel⟩, lw_t2 (List.mem_of_getElem? (i := 99) rfl), lw_t3 (List.mem_of_getElem? (i := 21) rfl), lw_t3 (List.mem_of_getElem? (i := 22) rfl)⟩
theorem lw_p26 : lw_okq (⟨"LockTurns", "areTwo", "(II)Z"⟩, 24) := ⟨⟨by decide +kernel, by decide +kernel⟩, lw_t2 (List.mem_of_getElem? (i := 99) rfl), lw_t3 (List.mem_of_getElem? (i := 33) rfl), lw_t3 (List.mem_of_getElem? (i := 34) rfl)⟩
theorem lw_p27 : lw_okq (⟨"LockTurns", "byOdds", "(III)J"⟩, 24) := ⟨⟨by decide +kernel, by decide +kernel⟩, lw_t2 (List.mem_of_getElem? (i := 99) rfl), lw_t3 (List.mem_of_getElem? (i := 55) rfl), lw_t3 (List.mem_of_getElem? (i := 56) rfl)⟩
theorem lw_p28 : lw_okq (⟨"LockTurns", "allOdds", "()J"⟩, 24) := ⟨⟨by decide +kernel, by decide +kernel⟩, lw_t2 (List.mem_of_getElem? (i := 99) rfl), lw_t3 (List.mem_of_getElem? (i := 59) rfl), lw_t3 (List.mem_of_getElem? (i := 60) rfl)⟩
theorem lw_p29 : lw_okq (⟨"LockTurns", "isAsSeen", "(I)Z"⟩, 24) := ⟨⟨by decide +kernel, by decide +kernel⟩, lw_t2 (List.mem_of_getElem? (i := 99) rfl), lw_t3 (List.mem_of_getElem? (i := 91) rfl), lw_t3 (List.mem_of_getElem? (i := 92) rfl)⟩
theorem lw_p30 : lw_okq (⟨"LockTurns", "takesIn", "(Ljava/lang/Object;III)I"⟩, 24) := ⟨⟨by decide +kernel, by decide +kernel⟩, lw_t2 (List.mem_of_getElem? (i := 99) rfl), lw_t4 (List.mem_of_getElem? (i := 128) rfl), lw_t4 (List.mem_of_getElem? (i := 129) rfl)⟩
theorem lw_p31 : lw_okq (⟨"LockTurnsModel", "firstDraft", "()V"⟩, 32) := ⟨⟨by decide +kernel, by decide +kernel⟩, lw_t4 (List.mem_of_getElem? (i := 157) rfl), lw_t4 (List.mem_of_getElem? (i := 163) rfl), lw_t4 (List.mem_of_getElem? (i := 164) rfl)⟩
def lw_privs_2 : List (MethodName × Nat) := [(⟨"LockTurns", "opens", "()V"⟩, 24), (⟨"LockTurns", "nextFree", "(I)I"⟩, 24), (⟨"LockTurns", "taken", "(ILLockTurns$AtGate;)I"⟩, 24), (⟨"LockTurns", "goesThrough", "(I)V"⟩, 24), (⟨"LockTurns", "dayTold", "(I)I"⟩, 24), (⟨"LockTurns", "cost", "()I"⟩, 24), (⟨"LockTurns", "orders", "(II)V"⟩, 24), (⟨"LockTurns", "costOfRow", "()I"⟩, 24), (⟨"LockTurns", "gains", "(II)I"⟩, 24), (⟨"LockTurns", "isCalm", "(I)Z"⟩, 24), (⟨"LockTurns", "areTwo", "(II)Z"⟩, 24), (⟨"LockTurns", "byOdds", "(III)J"⟩, 24), (⟨"LockTurns", "allOdds", "()J"⟩, 24), (⟨"LockTurns", "isAsSeen", "(I)Z"⟩, 24), (⟨"LockTurns", "takesIn", "(Ljava/lang/Object;III)I"⟩, 24), (⟨"LockTurnsModel", "firstDraft", "()V"⟩, 32)]
theorem lw_r2 : ∀ q ∈ lw_privs_2, lw_okq q := List.forall_mem_cons.mpr ⟨lw_p16, List.forall_mem_cons.mpr ⟨lw_p17, List.forall_mem_cons.mpr ⟨lw_p18, List.forall_mem_cons.mpr ⟨lw_p19, List.forall_mem_cons.mpr ⟨lw_p20, List.forall_mem_cons.mpr ⟨lw_p21, List.forall_mem_cons.mpr ⟨lw_p22, List.forall_mem_cons.mpr ⟨lw_p23, List.forall_mem_cons.mpr ⟨lw_p24, List.forall_mem_cons.mpr ⟨lw_p25, List.forall_mem_cons.mpr ⟨lw_p26, List.forall_mem_cons.mpr ⟨lw_p27, List.forall_mem_cons.mpr ⟨lw_p28, List.forall_mem_cons.mpr ⟨lw_p29, List.forall_mem_cons.mpr ⟨lw_p30, List.forall_mem_cons.mpr ⟨lw_p31, fun _ h => absurd h List.not_mem_nil⟩⟩⟩⟩⟩⟩⟩⟩⟩⟩⟩⟩⟩⟩⟩⟩
theorem lw_p32 : lw_okq (⟨"LockTurnsModel", "keepDraft", "()V"⟩, 32) := ⟨⟨by decide +kernel, by decide +kernel⟩, lw_t4 (List.mem_of_getElem? (i := 157) rfl), lw_t4 (List.mem_of_getElem? (i := 167) rfl), lw_t4 (List.mem_of_getElem? (i := 168) rfl)⟩
theorem lw_p33 : lw_okq (⟨"LockTurnsModel", "next", "()V"⟩, 32) := ⟨⟨by decide +kernel, by decide +kernel⟩, lw_t4 (List.mem_of_getElem? (i := 157) rfl), lw_t5 (List.mem_of_getElem? (i := 45) rfl), lw_t5 (List.mem_of_getElem? (i := 46) rfl)⟩
theorem lw_p34 : lw_okq (⟨"LockTurnsModel", "byteAt", "(I)I"⟩, 32) := ⟨⟨by decide +kernel, by decide +kernel⟩, lw_t4 (List.mem_of_getElem? (i := 157) rfl), lw_t5 (List.mem_of_getElem? (i := 49) rfl), lw_t5 (List.mem_of_getElem? (i := 50) rfl)⟩
theorem lw_p35 : lw_okq (⟨"LockTurnsModel", "needs", "(ZI)V"⟩, 32) := ⟨⟨by decide +kernel, by decide +kernel⟩, lw_t4 (List.mem_of_getElem? (i := 157) rfl), lw_t5 (List.mem_of_getElem? (i := 57) rfl), lw_t5 (List.mem_of_getElem? (i := 58) rfl)⟩
theorem lw_p36 : lw_okq (⟨"LockTurnsModel", "readLine", "()V"⟩, 32) := ⟨⟨by decide +kernel, by decide +kernel⟩, lw_t4 (List.mem_of_getElem? (i := 157) rfl), lw_t5 (List.mem_of_getElem? (i := 61) rfl), lw_t5 (List.mem_of_getElem? (i := 62) rfl)⟩
theorem lw_p37 : lw_okq (⟨"LockTurnsModel", "lineNow", "()I"⟩, 32) := ⟨⟨by decide +kernel, by decide +kernel⟩, lw_t4 (List.mem_of_getElem? (i := 157) rfl), lw_t5 (List.mem_of_getElem? (i := 65) rfl), lw_t5 (List.mem_of_getElem? (i := 66) rfl)⟩
theorem lw_p38 : lw_okq (⟨"LockTurnsModel", "is", "(IIIII)Z"⟩, 32) := ⟨⟨by decide +kernel, by decide +kernel⟩, lw_t4 (List.mem_of_getElem? (i := 157) rfl), lw_t5 (List.mem_of_getElem? (i := 69) rfl), lw_t5 (List.mem_of_getElem? (i := 70) rfl)⟩
theorem lw_p39 : lw_okq (⟨"LockTurnsModel", "endsWith", "(I)Z"⟩, 32) := ⟨⟨by decide +kernel, by decide +kernel⟩, lw_t4 (List.mem_of_getElem? (i := 157) rfl), lw_t5 (List.mem_of_getElem? (i := 73) rfl), lw_t5 (List.mem_of_getElem? (i := 74) rfl)⟩
theorem lw_p40 : lw_okq (⟨"LockTurnsModel", "readLineOf", "(I)V"⟩, 32) := ⟨⟨by decide +kernel, by decide +kernel⟩, lw_t4 (List.mem_of_getElem? (i := 157) rfl), lw_t5 (List.mem_of_getElem? (i := 79) rfl), lw_t5 (List.mem_of_getElem? (i := 80) rfl)⟩
theorem lw_p41 : lw_okq (⟨"LockTurnsModel", "readNumber", "(II)I"⟩, 32) := ⟨⟨by decide +kernel, by decide +kernel⟩, lw_t4 (List.mem_of_getElem? (i := 157) rfl), lw_t5 (List.mem_of_getElem? (i := 83) rfl), lw_t5 (List.mem_of_getElem? (i := 84) rfl)⟩
theorem lw_p42 : lw_okq (⟨"LockTurnsModel", "looked", "(II)I"⟩, 32) := ⟨⟨by decide +kernel, by decide +kernel⟩, lw_t4 (List.mem_of_getElem? (i := 157) rfl), lw_t5 (List.mem_of_getElem? (i := 87) rfl), lw_t5 (List.mem_of_getElem? (i := 88) rfl)⟩
theorem lw_p43 : lw_okq (⟨"LockTurnsModel", "lawNow", "()I"⟩, 32) := ⟨⟨by decide +kernel, by decide +kernel⟩, lw_t4 (List.mem_of_getElem? (i := 157) rfl), lw_t5 (List.mem_of_getElem? (i := 91) rfl), lw_t5 (List.mem_of_getElem? (i := 92) rfl)⟩
theorem lw_p44 : lw_okq (⟨"LockTurnsModel", "readName", "(I)I"⟩, 32) := ⟨⟨by decide +kernel, by decide +kernel⟩, lw_t4 (List.mem_of_getElem? (i := 157) rfl), lw_t5 (List.mem_of_getElem? (i := 95) rfl), lw_t5 (List.mem_of_getElem? (i := 96) rfl)⟩
theorem lw_p45 : lw_okq (⟨"LockTurnsModel", "readLiar", "()V"⟩, 32) := ⟨⟨by decide +kernel, by decide +kernel⟩, lw_t4 (List.mem_of_getElem? (i := 157) rfl), lw_t5 (List.mem_of_getElem? (i := 99) rfl), lw_t5 (List.mem_of_getElem? (i := 100) rfl)⟩
theorem lw_p46 : lw_okq (⟨"LockTurnsModel", "readBoat", "(I)V"⟩, 32) := ⟨⟨by decide +kernel, by decide +kernel⟩, lw_t4 (List.mem_of_getElem? (i := 157) rfl), lw_t5 (List.mem_of_getElem? (i := 103) rfl), lw_t5 (List.mem_of_getElem? (i := 104) rfl)⟩
theorem lw_p47 : lw_okq (⟨"LockTurnsModel", "cargoNow", "()I"⟩, 32) := ⟨⟨by decide +kernel, by decide +kernel⟩, lw_t4 (List.mem_of_getElem? (i := 157) rfl), lw_t5 (List.mem_of_getElem? (i := 107) rfl), lw_t5 (List.mem_of_getElem? (i := 108) rfl)⟩
def lw_privs_3 : List (MethodName × Nat) := [(⟨"LockTurnsModel", "keepDraft", "()V"⟩, 32), (⟨"LockTurnsModel", "next", "()V"⟩, 32), (⟨"LockTurnsModel", "byteAt", "(I)I"⟩, 32), (⟨"LockTurnsModel", "needs", "(ZI)V"⟩, 32), (⟨"LockTurnsModel", "readLine", "()V"⟩, 32), (⟨"LockTurnsModel", "lineNow", "()I"⟩, 32), (⟨"LockTurnsModel", "is", "(IIIII)Z"⟩, 32), (⟨"LockTurnsModel", "endsWith", "(I)Z"⟩, 32), (⟨"LockTurnsModel", "readLineOf", "(I)V"⟩, 32), (⟨"LockTurnsModel", "readNumber", "(II)I"⟩, 32), (⟨"LockTurnsModel", "looked", "(II)I"⟩, 32), (⟨"LockTurnsModel", "lawNow", "()I"⟩, 32), (⟨"LockTurnsModel", "readName", "(I)I"⟩, 32), (⟨"LockTurnsModel", "readLiar", "()V"⟩, 32), (⟨"LockTurnsModel", "readBoat", "(I)V"⟩, 32), (⟨"LockTurnsModel", "cargoNow", "()I"⟩, 32)]
theorem lw_r3 : ∀ q ∈ lw_privs_3, lw_okq q := List.forall_mem_cons.mpr ⟨lw_p32, List.forall_mem_cons.mpr ⟨lw_p33, List.forall_mem_cons.mpr ⟨lw_p34, List.forall_mem_cons.mpr ⟨lw_p35, List.forall_mem_cons.mpr ⟨lw_p36, List.forall_mem_cons.mpr ⟨lw_p37, List.forall_mem_cons.mpr ⟨lw_p38, List.forall_mem_cons.mpr ⟨lw_p39, List.forall_mem_cons.mpr ⟨lw_p40, List.forall_mem_cons.mpr ⟨lw_p41, List.forall_mem_cons.mpr ⟨lw_p42, List.forall_mem_cons.mpr ⟨lw_p43, List.forall_mem_cons.mpr ⟨lw_p44, List.forall_mem_cons.mpr ⟨lw_p45, List.forall_mem_cons.mpr ⟨lw_p46, List.forall_mem_cons.mpr ⟨lw_p47, fun _ h => absurd h List.not_mem_nil⟩⟩⟩⟩⟩⟩⟩⟩⟩⟩⟩⟩⟩⟩⟩⟩
theorem lw_p48 : lw_okq (⟨"LockTurnsModel", "liars", "()I"⟩, 32) := ⟨⟨by decide +kernel, by decide +kernel⟩, lw_t4 (List.mem_of_getElem? (i := 157) rfl), lw_t5 (List.mem_of_getElem? (i := 119) rfl), lw_t5 (List.mem_of_getElem? (i := 120) rfl)⟩
theorem lw_p49 : lw_okq (⟨"LockTurnsModel", "isBoat", "(I)Z"⟩, 32) := ⟨⟨by decide +kernel, by decide +kernel⟩, lw_t4 (List.mem_of_getElem? (i := 157) rfl), lw_t5 (List.mem_of_getElem? (i := 127) rfl), lw_t5 (List.mem_of_getElem? (i := 128) rfl)⟩
theorem lw_p50 : lw_okq (⟨"LockTurnsModel", "starts", "()V"⟩, 32) := ⟨⟨by decide +kernel, by decide +kernel⟩, lw_t4 (List.mem_of_getElem? (i := 157) rfl), lw_t5 (List.mem_of_getElem? (i := 132) rfl), lw_t5 (List.mem_of_getElem? (i := 133) rfl)⟩
theorem lw_p51 : lw_okq (⟨"LockTurnsModel", "of", "(II)I"⟩, 32) := ⟨⟨by decide +kernel, by decide +kernel⟩, lw_t4 (List.mem_of_getElem? (i := 157) rfl), lw_t5 (List.mem_of_getElem? (i := 136) rfl), lw_t5 (List.mem_of_getElem? (i := 137) rfl)⟩
theorem lw_p52 : lw_okq (⟨"LockTurnsModel", "countsFrom", "(I)I"⟩, 32) := ⟨⟨by decide +kernel, by decide +kernel⟩, lw_t4 (List.mem_of_getElem? (i := 157) rfl), lw_t5 (List.mem_of_getElem? (i := 140) rfl), lw_t5 (List.mem_of_getElem? (i := 141) rfl)⟩
theorem lw_p53 : lw_okq (⟨"LockTurnsModel", "becomes", "(II)I"⟩, 32) := ⟨⟨by decide +kernel, by decide +kernel⟩, lw_t4 (List.mem_of_getElem? (i := 157) rfl), lw_t5 (List.mem_of_getElem? (i := 151) rfl), lw_t5 (List.mem_of_getElem? (i := 152) rfl)⟩
theorem lw_p54 : lw_okq (⟨"LockTurnsModel", "dayNow", "()V"⟩, 32) := ⟨⟨by decide +kernel, by decide +kernel⟩, lw_t4 (List.mem_of_getElem? (i := 157) rfl), lw_t5 (List.mem_of_getElem? (i := 178) rfl), lw_t5 (List.mem_of_getElem? (i := 179) rfl)⟩
theorem lw_p55 : lw_okq (⟨"LockTurnsModel", "dayGoes", "()V"⟩, 32) := ⟨⟨by decide +kernel, by decide +kernel⟩, lw_t4 (List.mem_of_getElem? (i := 157) rfl), lw_t5 (List.mem_of_getElem? (i := 182) rfl), lw_t5 (List.mem_of_getElem? (i := 183) rfl)⟩
theorem lw_p56 : lw_okq (⟨"LockTurnsModel", "opens", "()V"⟩, 32) := ⟨⟨by decide +kernel, by decide +kernel⟩, lw_t4 (List.mem_of_getElem? (i := 157) rfl), lw_t5 (List.mem_of_getElem? (i := 186) rfl), lw_t5 (List.mem_of_getElem? (i := 187) rfl)⟩
theorem lw_p57 : lw_okq (⟨"LockTurnsModel", "counting", "(I)I"⟩, 32) := ⟨⟨by decide +kernel, by decide +kernel⟩, lw_t4 (List.mem_of_getElem? (i := 157) rfl), lw_t5 (List.mem_of_getElem? (i := 190) rfl), lw_t5 (List.mem_of_getElem? (i := 191) rfl)⟩
theorem lw_p58 : lw_okq (⟨"LockTurnsModel", "earliest", "(I)I"⟩, 32) := ⟨⟨by decide +kernel, by decide +kernel⟩, lw_t4 (List.mem_of_getElem? (i := 157) rfl), lw_t5 (List.mem_of_getElem? (i := 194) rfl), lw_t5 (List.mem_of_getElem? (i := 195) rfl)⟩
theorem lw_p59 : lw_okq (⟨"LockTurnsModel", "taken", "(I)I"⟩, 32) := ⟨⟨by decide +kernel, by decide +kernel⟩, lw_t4 (List.mem_of_getElem? (i := 157) rfl), lw_t5 (List.mem_of_getElem? (i := 198) rfl), lw_t5 (List.mem_of_getElem? (i := 199) rfl)⟩
theorem lw_p60 : lw_okq (⟨"LockTurnsModel", "comeFrom", "(II)I"⟩, 32) := ⟨⟨by decide +kernel, by decide +kernel⟩, lw_t4 (List.mem_of_getElem? (i := 157) rfl), lw_t5 (List.mem_of_getElem? (i := 202) rfl), lw_t5 (List.mem_of_getElem? (i := 203) rfl)⟩
theorem lw_p61 : lw_okq (⟨"LockTurnsModel", "preferred", "(II)I"⟩, 32) := ⟨⟨by decide +kernel, by decide +kernel⟩, lw_t4 (List.mem_of_getElem? (i := 157) rfl), lw_t5 (List.mem_of_getElem? (i := 209) rfl), lw_t5 (List.mem_of_getElem? (i := 210) rfl)⟩
theorem lw_p62 : lw_okq (⟨"LockTurnsModel", "sideOf", "(I)I"⟩, 32) := ⟨⟨by decide +kernel, by decide +kernel⟩, lw_t4 (List.mem_of_getElem? (i := 157) rfl), lw_t5 (List.mem_of_getElem? (i := 213) rfl), lw_t5 (List.mem_of_getElem? (i := 214) rfl)⟩
theorem lw_p63 : lw_okq (⟨"LockTurnsModel", "leastCargo", "(I)I"⟩, 32) := ⟨⟨by decide +kernel, by decide +kernel⟩, lw_t4 (List.mem_of_getElem? (i := 157) rfl), lw_t5 (List.mem_of_getElem? (i := 217) rfl), lw_t5 (List.mem_of_getElem? (i := 218) rfl)⟩
def lw_privs_4 : List (MethodName × Nat) := [(⟨"LockTurnsModel", "liars", "()I"⟩, 32), (⟨"LockTurnsModel", "isBoat", "(I)Z"⟩, 32), (⟨"LockTurnsModel", "starts", "()V"⟩, 32), (⟨"LockTurnsModel", "of", "(II)I"⟩, 32), (⟨"LockTurnsModel", "countsFrom", "(I)I"⟩, 32), (⟨"LockTurnsModel", "becomes", "(II)I"⟩, 32), (⟨"LockTurnsModel", "dayNow", "()V"⟩, 32), (⟨"LockTurnsModel", "dayGoes", "()V"⟩, 32), (⟨"LockTurnsModel", "opens", "()V"⟩, 32), (⟨"LockTurnsModel", "counting", "(I)I"⟩, 32), (⟨"LockTurnsModel", "earliest", "(I)I"⟩, 32), (⟨"LockTurnsModel", "taken", "(I)I"⟩, 32), (⟨"LockTurnsModel", "comeFrom", "(II)I"⟩, 32), (⟨"LockTurnsModel", "preferred", "(II)I"⟩, 32), (⟨"LockTurnsModel", "sideOf", "(I)I"⟩, 32), (⟨"LockTurnsModel", "leastCargo", "(I)I"⟩, 32)]
theorem lw_r4 : ∀ q ∈ lw_privs_4, lw_okq q := List.forall_mem_cons.mpr ⟨lw_p48, List.forall_mem_cons.mpr ⟨lw_p49, List.forall_mem_cons.mpr ⟨lw_p50, List.forall_mem_cons.mpr ⟨lw_p51, List.forall_mem_cons.mpr ⟨lw_p52, List.forall_mem_cons.mpr ⟨lw_p53, List.forall_mem_cons.mpr ⟨lw_p54, List.forall_mem_cons.mpr ⟨lw_p55, List.forall_mem_cons.mpr ⟨lw_p56, List.forall_mem_cons.mpr ⟨lw_p57, List.forall_mem_cons.mpr ⟨lw_p58, List.forall_mem_cons.mpr ⟨lw_p59, List.forall_mem_cons.mpr ⟨lw_p60, List.forall_mem_cons.mpr ⟨lw_p61, List.forall_mem_cons.mpr ⟨lw_p62, List.forall_mem_cons.mpr ⟨lw_p63, fun _ h => absurd h List.not_mem_nil⟩⟩⟩⟩⟩⟩⟩⟩⟩⟩⟩⟩⟩⟩⟩⟩
theorem lw_p64 : lw_okq (⟨"LockTurnsModel", "cargoTold", "(I)I"⟩, 32) := ⟨⟨by decide +kernel, by decide +kernel⟩, lw_t4 (List.mem_of_getElem? (i := 157) rfl), lw_t5 (List.mem_of_getElem? (i := 222) rfl), lw_t5 (List.mem_of_getElem? (i := 223) rfl)⟩
theorem lw_p65 : lw_okq (⟨"LockTurnsModel", "lets", "(I)V"⟩, 32) := ⟨⟨by decide +kernel, by decide +kernel⟩, lw_t4 (List.mem_of_getElem? (i := 157) rfl), lw_t5 (List.mem_of_getElem? (i := 226) rfl), lw_t5 (List.mem_of_getElem? (i := 227) rfl)⟩
theorem lw_p66 : lw_okq (⟨"LockTurnsModel", "tells", "(I)I"⟩, 32) := ⟨⟨by decide +kernel, by decide +kernel⟩, lw_t4 (List.mem_of_getElem? (i := 157) rfl), lw_t6 (List.mem_of_getElem? (i := 2) rfl), lw_t6 (List.mem_of_getElem? (i := 3) rfl)⟩
theorem lw_p67 : lw_okq (⟨"LockTurnsModel", "costNow", "()I"⟩, 32) := ⟨⟨by decide +kernel, by decide +kernel⟩, lw_t4 (List.mem_of_getElem? (i := 157) rfl), lw_t6 (List.mem_of_getElem? (i := 6) rfl), lw_t6 (List.mem_of_getElem? (i := 7) rfl)⟩
theorem lw_p68 : lw_okq (⟨"LockTurnsModel", "dayBy", "(I)V"⟩, 32) := ⟨⟨by decide +kernel, by decide +kernel⟩, lw_t4 (List.mem_of_getElem? (i := 157) rfl), lw_t6 (List.mem_of_getElem? (i := 14) rfl), lw_t6 (List.mem_of_getElem? (i := 15) rfl)⟩
theorem lw_p69 : lw_okq (⟨"LockTurnsModel", "rows", "()I"⟩, 32) := ⟨⟨by decide +kernel, by decide +kernel⟩, lw_t4 (List.mem_of_getElem? (i := 157) rfl), lw_t6 (List.mem_of_getElem? (i := 26) rfl), lw_t6 (List.mem_of_getElem? (i := 27) rfl)⟩
theorem lw_p70 : lw_okq (⟨"LockTurnsModel", "isOrder", "(I)Z"⟩, 32) := ⟨⟨by decide +kernel, by decide +kernel⟩, lw_t4 (List.mem_of_getElem? (i := 157) rfl), lw_t6 (List.mem_of_getElem? (i := 30) rfl), lw_t6 (List.mem_of_getElem? (i := 31) rfl)⟩
theorem lw_p71 : lw_okq (⟨"LockTurnsModel", "goesInOrder", "()V"⟩, 32) := ⟨⟨by decide +kernel, by decide +kernel⟩, lw_t4 (List.mem_of_getElem? (i := 157) rfl), lw_t6 (List.mem_of_getElem? (i := 34) rfl), lw_t6 (List.mem_of_getElem? (i := 35) rfl)⟩
theorem lw_p72 : lw_okq (⟨"LockTurnsModel", "gainOf", "(I)I"⟩, 32) := ⟨⟨by decide +kernel, by decide +kernel⟩, lw_t4 (List.mem_of_getElem? (i := 157) rfl), lw_t6 (List.mem_of_getElem? (i := 46) rfl), lw_t6 (List.mem_of_getElem? (i := 47) rfl)⟩
theorem lw_p73 : lw_okq (⟨"LockTurnsModel", "becomesOf", "(III)V"⟩, 32) := ⟨⟨by decide +kernel, by decide +kernel⟩, lw_t4 (List.mem_of_getElem? (i := 157) rfl), lw_t6 (List.mem_of_getElem? (i := 50) rfl), lw_t6 (List.mem_of_getElem? (i := 51) rfl)⟩
theorem lw_p74 : lw_okq (⟨"LockTurnsModel", "isCalm", "()Z"⟩, 32) := ⟨⟨by decide +kernel, by decide +kernel⟩, lw_t4 (List.mem_of_getElem? (i := 157) rfl), lw_t6 (List.mem_of_getElem? (i := 58) rfl), lw_t6 (List.mem_of_getElem? (i := 59) rfl)⟩
theorem lw_p75 : lw_okq (⟨"LockTurnsModel", "liesBy", "(I)V"⟩, 32) := ⟨⟨by decide +kernel, by decide +kernel⟩, lw_t4 (List.mem_of_getElem? (i := 157) rfl), lw_t6 (List.mem_of_getElem? (i := 69) rfl), lw_t6 (List.mem_of_getElem? (i := 70) rfl)⟩
theorem lw_p76 : lw_okq (⟨"LockTurnsModel", "placeOf", "(I)I"⟩, 32) := ⟨⟨by decide +kernel, by decide +kernel⟩, lw_t4 (List.mem_of_getElem? (i := 157) rfl), lw_t6 (List.mem_of_getElem? (i := 77) rfl), lw_t6 (List.mem_of_getElem? (i := 78) rfl)⟩
theorem lw_p77 : lw_okq (⟨"LockTurnsModel", "dayCaught", "(I)V"⟩, 32) := ⟨⟨by decide +kernel, by decide +kernel⟩, lw_t4 (List.mem_of_getElem? (i := 157) rfl), lw_t6 (List.mem_of_getElem? (i := 99) rfl), lw_t6 (List.mem_of_getElem? (i := 100) rfl)⟩
theorem lw_p78 : lw_okq (⟨"LockTurnsModel", "waysOf", "(II)J"⟩, 32) := ⟨⟨by decide +kernel, by decide +kernel⟩, lw_t4 (List.mem_of_getElem? (i := 157) rfl), lw_t6 (List.mem_of_getElem? (i := 103) rfl), lw_t6 (List.mem_of_getElem? (i := 104) rfl)⟩
theorem lw_p79 : lw_okq (⟨"LockTurnsModel", "allWays", "()J"⟩, 32) := ⟨⟨by decide +kernel, by decide +kernel⟩, lw_t4 (List.mem_of_getElem? (i := 157) rfl), lw_t6 (List.mem_of_getElem? (i := 107) rfl), lw_t6 (List.mem_of_getElem? (i := 108) rfl)⟩
def lw_privs_5 : List (MethodName × Nat) := [(⟨"LockTurnsModel", "cargoTold", "(I)I"⟩, 32), (⟨"LockTurnsModel", "lets", "(I)V"⟩, 32), (⟨"LockTurnsModel", "tells", "(I)I"⟩, 32), (⟨"LockTurnsModel", "costNow", "()I"⟩, 32), (⟨"LockTurnsModel", "dayBy", "(I)V"⟩, 32), (⟨"LockTurnsModel", "rows", "()I"⟩, 32), (⟨"LockTurnsModel", "isOrder", "(I)Z"⟩, 32), (⟨"LockTurnsModel", "goesInOrder", "()V"⟩, 32), (⟨"LockTurnsModel", "gainOf", "(I)I"⟩, 32), (⟨"LockTurnsModel", "becomesOf", "(III)V"⟩, 32), (⟨"LockTurnsModel", "isCalm", "()Z"⟩, 32), (⟨"LockTurnsModel", "liesBy", "(I)V"⟩, 32), (⟨"LockTurnsModel", "placeOf", "(I)I"⟩, 32), (⟨"LockTurnsModel", "dayCaught", "(I)V"⟩, 32), (⟨"LockTurnsModel", "waysOf", "(II)J"⟩, 32), (⟨"LockTurnsModel", "allWays", "()J"⟩, 32)]
theorem lw_r5 : ∀ q ∈ lw_privs_5, lw_okq q := List.forall_mem_cons.mpr ⟨lw_p64, List.forall_mem_cons.mpr ⟨lw_p65, List.forall_mem_cons.mpr ⟨lw_p66, List.forall_mem_cons.mpr ⟨lw_p67, List.forall_mem_cons.mpr ⟨lw_p68, List.forall_mem_cons.mpr ⟨lw_p69, List.forall_mem_cons.mpr ⟨lw_p70, List.forall_mem_cons.mpr ⟨lw_p71, List.forall_mem_cons.mpr ⟨lw_p72, List.forall_mem_cons.mpr ⟨lw_p73, List.forall_mem_cons.mpr ⟨lw_p74, List.forall_mem_cons.mpr ⟨lw_p75, List.forall_mem_cons.mpr ⟨lw_p76, List.forall_mem_cons.mpr ⟨lw_p77, List.forall_mem_cons.mpr ⟨lw_p78, List.forall_mem_cons.mpr ⟨lw_p79, fun _ h => absurd h List.not_mem_nil⟩⟩⟩⟩⟩⟩⟩⟩⟩⟩⟩⟩⟩⟩⟩⟩
theorem lw_p80 : lw_okq (⟨"LockTurnsModel", "isSo", "(II)Z"⟩, 32) := ⟨⟨by decide +kernel, by decide +kernel⟩, lw_t4 (List.mem_of_getElem? (i := 157) rfl), lw_t6 (List.mem_of_getElem? (i := 133) rfl), lw_t6 (List.mem_of_getElem? (i := 134) rfl)⟩
theorem lw_p81 : lw_okq (⟨"LockTurnsModel", "copies", "(II)V"⟩, 32) := ⟨⟨by decide +kernel, by decide +kernel⟩, lw_t4 (List.mem_of_getElem? (i := 157) rfl), lw_t6 (List.mem_of_getElem? (i := 147) rfl), lw_t6 (List.mem_of_getElem? (i := 148) rfl)⟩
def lw_privs_6 : List (MethodName × Nat) := [(⟨"LockTurnsModel", "isSo", "(II)Z"⟩, 32), (⟨"LockTurnsModel", "copies", "(II)V"⟩, 32)]
theorem lw_r6 : ∀ q ∈ lw_privs_6, lw_okq q := List.forall_mem_cons.mpr ⟨lw_p80, List.forall_mem_cons.mpr ⟨lw_p81, fun _ h => absurd h List.not_mem_nil⟩⟩
def lw_privs : List (MethodName × Nat) := lw_privs_1 ++ (lw_privs_2 ++ (lw_privs_3 ++ (lw_privs_4 ++ (lw_privs_5 ++ (lw_privs_6)))))
def lw_tbl : List Cond := k2_sels lw_privs ++ tables_1
theorem lw_privs_ok : ∀ q ∈ lw_privs, lw_okq q := by
  show ∀ q ∈ lw_privs_1 ++ (lw_privs_2 ++ (lw_privs_3 ++ (lw_privs_4 ++ (lw_privs_5 ++ (lw_privs_6))))), lw_okq q
  exact List.forall_mem_append.mpr ⟨lw_r1, List.forall_mem_append.mpr ⟨lw_r2, List.forall_mem_append.mpr ⟨lw_r3, List.forall_mem_append.mpr ⟨lw_r4, List.forall_mem_append.mpr ⟨lw_r5, lw_r6⟩⟩⟩⟩⟩
-- ===== ONE list of words for every method: the tables' words that hold all through a run =====
def lw_all : List Cond := lw_tbl.filter goodWord
/-- a word of the tables by its place: claim/WORDS.tsv -/
theorem lw_w {w : Cond} (i : Nat) (h : lw_tbl[i]? = some w) (g : goodWord w = true) : w ∈ lw_all := List.mem_filter.mpr ⟨List.mem_of_getElem? h, g⟩
theorem lw_all_tbl {w : Cond} (h : w ∈ lw_all) : w ∈ lw_tbl := (List.mem_filter.mp h).1
theorem lw_self : GoodIn lw_all lw_all := fun w h => ⟨h, good_of_word (List.mem_filter.mp h).2⟩
/-- a class's field words, by their places -/
theorem lw_in (ws : List Cond) (ps : List Nat) (hp : ws = ps.filterMap (fun i => lw_tbl[i]?)) (hg : ws.all goodWord = true) : ∀ w ∈ ws, w ∈ lw_all := by
  intro w h
  have h1 := List.all_eq_true.mp hg w h
  rw [hp] at h
  obtain ⟨i, -, hi⟩ := List.mem_filterMap.mp h
  exact lw_w i hi h1
/-- the words of a contract for the method y with code b, L locals, answer r -/
abbrev ws_ (y : MethodName) (b : ByteArray) (L : Nat) (r : Option FieldType) : List Cond := Cond.code y b L r :: lw_all
theorem lw_meth {y : MethodName} {b : ByteArray} {L : Nat} {r : Option FieldType} (h : Cond.code y b L r ∈ lw_all) : GoodIn lw_all (ws_ y b L r) := by
  intro w hw
  rcases List.mem_cons.mp hw with e | e
  · rw [e]
    exact lw_self _ h
  · exact lw_self _ e
theorem lw_app {a c : List Cond} (ha : ∀ w ∈ a, w ∈ lw_all) (hc : GoodIn lw_all c) : GoodIn lw_all (a ++ c) := by
  intro w hw
  rcases List.mem_append.mp hw with e | e
  · exact lw_self w (ha w e)
  · exact hc w e
/-- what a call through an object asks: cwV n hts (lw_V ..) -/
theorem lw_V {own : String} {idx : Nat} {C : String} {y : MethodName} {b : ByteArray} {L : Nat} {r : Option FieldType} (h1 : Cond.methodLink own idx y ∈ lw_all) (h2 : Cond.instanceMethod y ∈ lw_all) (h3 : Cond.selects C y y ∈ lw_all) (h4 : Cond.initialized C ∈ lw_all) (h5 : Cond.code y b L r ∈ lw_all) : GoodIn lw_all (wsV own idx C y (ws_ y b L r)) := by
  refine lw_app ?_ (lw_meth h5)
  intro w hw
  simp only [List.mem_cons, List.not_mem_nil, or_false] at hw
  rcases hw with e | e | e | e
  · rw [e]; exact h1
  · rw [e]; exact h2
  · rw [e]; exact h3
  · rw [e]; exact h4
/-- what a static call asks: va_cwS n hts (lw_S ..) -/
theorem lw_S {own : String} {idx : Nat} {y : MethodName} {b : ByteArray} {L : Nat} {r : Option FieldType} (h1 : Cond.methodLink own idx y ∈ lw_all) (h2 : Cond.static y ∈ lw_all) (h3 : Cond.initialized y.cls ∈ lw_all) (h4 : Cond.code y b L r ∈ lw_all) : GoodIn lw_all (va_wsS own idx y (ws_ y b L r)) := by
  refine lw_app ?_ (lw_meth h4)
  intro w hw
  simp only [List.mem_cons, List.not_mem_nil, or_false] at hw
  rcases hw with e | e | e
  · rw [e]; exact h1
  · rw [e]; exact h2
  · rw [e]; exact h3
/-- the words of a contract for a method WITH HANDLERS (hh: its table) -/
abbrev wsW_ (y : MethodName) (b : ByteArray) (L : Nat) (r : Option FieldType) (hh : List (Nat × Nat × Nat × Nat)) : List Cond := Cond.codeWith y b L r hh :: lw_all
theorem lw_methW {y : MethodName} {b : ByteArray} {L : Nat} {r : Option FieldType} {hh : List (Nat × Nat × Nat × Nat)} (h : Cond.codeWith y b L r hh ∈ lw_all) : GoodIn lw_all (wsW_ y b L r hh) := by
  intro w hw
  rcases List.mem_cons.mp hw with e | e
  · rw [e]
    exact lw_self _ h
  · exact lw_self _ e
/-- any list of words by their places (lw_in), good -/
theorem lw_good {ws : List Cond} (h : ∀ w ∈ ws, w ∈ lw_all) : GoodIn lw_all ws := fun w hw => lw_self w (h w hw)
/-- what a call of a method with handlers asks: vx_cwVW n hts (lw_VW ..), vx_cwSW n hts (lw_SW ..) -/
theorem lw_VW {own : String} {idx : Nat} {C : String} {y : MethodName} {b : ByteArray} {L : Nat} {r : Option FieldType} {hh : List (Nat × Nat × Nat × Nat)} (h1 : Cond.methodLink own idx y ∈ lw_all) (h2 : Cond.instanceMethod y ∈ lw_all) (h3 : Cond.selects C y y ∈ lw_all) (h4 : Cond.initialized C ∈ lw_all) (h5 : Cond.codeWith y b L r hh ∈ lw_all) : GoodIn lw_all (wsV own idx C y (wsW_ y b L r hh)) := by
  refine lw_app ?_ (lw_methW h5)
  intro w hw
  simp only [List.mem_cons, List.not_mem_nil, or_false] at hw
  rcases hw with e | e | e | e
  · rw [e]; exact h1
  · rw [e]; exact h2
  · rw [e]; exact h3
  · rw [e]; exact h4
theorem lw_SW {own : String} {idx : Nat} {y : MethodName} {b : ByteArray} {L : Nat} {r : Option FieldType} {hh : List (Nat × Nat × Nat × Nat)} (h1 : Cond.methodLink own idx y ∈ lw_all) (h2 : Cond.static y ∈ lw_all) (h3 : Cond.initialized y.cls ∈ lw_all) (h4 : Cond.codeWith y b L r hh ∈ lw_all) : GoodIn lw_all (va_wsS own idx y (wsW_ y b L r hh)) := by
  refine lw_app ?_ (lw_methW h4)
  intro w hw
  simp only [List.mem_cons, List.not_mem_nil, or_false] at hw
  rcases hw with e | e | e
  · rw [e]; exact h1
  · rw [e]; exact h2
  · rw [e]; exact h3
/-- a word by its place in its run of the tables -/
theorem lw_at {r : List Cond} (hr : ∀ w ∈ r, w ∈ lw_tbl) {w : Cond} (i : Nat) (h : r[i]? = some w) : w ∈ lw_tbl := hr w (List.mem_of_getElem? h)
theorem lw_g {w : Cond} (h : w ∈ lw_tbl) (g : goodWord w = true) : w ∈ lw_all := List.mem_filter.mpr ⟨h, g⟩
theorem lw_ms : ∀ w ∈ k2_sels lw_privs, w ∈ lw_tbl := fun w h => show w ∈ k2_sels lw_privs ++ tables_1 from List.mem_append_left _ h
theorem lw_m1 : ∀ w ∈ tables_1_1, w ∈ lw_tbl := fun w h => show w ∈ k2_sels lw_privs ++ tables_1 from List.mem_append_right (k2_sels lw_privs) (show w ∈ tables_1 from List.mem_append_left _ h)
theorem lw_m2 : ∀ w ∈ tables_1_2, w ∈ lw_tbl := fun w h => show w ∈ k2_sels lw_privs ++ tables_1 from List.mem_append_right (k2_sels lw_privs) (show w ∈ tables_1 from List.mem_append_right _ (List.mem_append_left _ h))
theorem lw_m3 : ∀ w ∈ tables_1_3, w ∈ lw_tbl := fun w h => show w ∈ k2_sels lw_privs ++ tables_1 from List.mem_append_right (k2_sels lw_privs) (show w ∈ tables_1 from List.mem_append_right _ (List.mem_append_right _ (List.mem_append_left _ h)))
theorem lw_m4 : ∀ w ∈ tables_1_4, w ∈ lw_tbl := fun w h => show w ∈ k2_sels lw_privs ++ tables_1 from List.mem_append_right (k2_sels lw_privs) (show w ∈ tables_1 from List.mem_append_right _ (List.mem_append_right _ (List.mem_append_right _ (List.mem_append_left _ h))))
theorem lw_m5 : ∀ w ∈ tables_1_5, w ∈ lw_tbl := fun w h => show w ∈ k2_sels lw_privs ++ tables_1 from List.mem_append_right (k2_sels lw_privs) (show w ∈ tables_1 from List.mem_append_right _ (List.mem_append_right _ (List.mem_append_right _ (List.mem_append_right _ (List.mem_append_left _ h)))))
theorem lw_m6 : ∀ w ∈ tables_1_6, w ∈ lw_tbl := fun w h => show w ∈ k2_sels lw_privs ++ tables_1 from List.mem_append_right (k2_sels lw_privs) (show w ∈ tables_1 from List.mem_append_right _ (List.mem_append_right _ (List.mem_append_right _ (List.mem_append_right _ (List.mem_append_right _ h)))))
theorem qs0 : (Cond.selects "LockTurns$Reader" ⟨"LockTurns$Reader", "next", "()V"⟩ ⟨"LockTurns$Reader", "next", "()V"⟩) ∈ lw_all := lw_g (lw_at lw_ms 0 rfl) rfl
theorem qs1 : (Cond.selects "LockTurns$Reader" ⟨"LockTurns$Reader", "at", "(I)I"⟩ ⟨"LockTurns$Reader", "at", "(I)I"⟩) ∈ lw_all := lw_g (lw_at lw_ms 1 rfl) rfl
theorem qs2 : (Cond.selects "LockTurns$Reader" ⟨"LockTurns$Reader", "must", "(ZI)V"⟩ ⟨"LockTurns$Reader", "must", "(ZI)V"⟩) ∈ lw_all := lw_g (lw_at lw_ms 2 rfl) rfl
theorem qs3 : (Cond.selects "java/lang/NullPointerException" ⟨"java/lang/NullPointerException", "getExtendedNPEMessage", "()Ljava/lang/String;"⟩ ⟨"java/lang/NullPointerException", "getExtendedNPEMessage", "()Ljava/lang/String;"⟩) ∈ lw_all := lw_g (lw_at lw_ms 3 rfl) rfl
theorem qs4 : (Cond.selects "java/lang/Throwable" ⟨"java/lang/Throwable", "fillInStackTrace", "(I)Ljava/lang/Throwable;"⟩ ⟨"java/lang/Throwable", "fillInStackTrace", "(I)Ljava/lang/Throwable;"⟩) ∈ lw_all := lw_g (lw_at lw_ms 4 rfl) rfl
theorem qs5 : (Cond.selects "LockTurns$Reader" ⟨"LockTurns$Reader", "line", "()V"⟩ ⟨"LockTurns$Reader", "line", "()V"⟩) ∈ lw_all := lw_g (lw_at lw_ms 5 rfl) rfl
theorem qs6 : (Cond.selects "LockTurns$Reader" ⟨"LockTurns$Reader", "isWord", "(Ljava/lang/String;)Z"⟩ ⟨"LockTurns$Reader", "isWord", "(Ljava/lang/String;)Z"⟩) ∈ lw_all := lw_g (lw_at lw_ms 6 rfl) rfl
theorem qs7 : (Cond.selects "LockTurns$Reader" ⟨"LockTurns$Reader", "boatOf", "(I)V"⟩ ⟨"LockTurns$Reader", "boatOf", "(I)V"⟩) ∈ lw_all := lw_g (lw_at lw_ms 7 rfl) rfl
theorem qs8 : (Cond.selects "LockTurns$Reader" ⟨"LockTurns$Reader", "named", "([Ljava/lang/String;)I"⟩ ⟨"LockTurns$Reader", "named", "([Ljava/lang/String;)I"⟩) ∈ lw_all := lw_g (lw_at lw_ms 8 rfl) rfl
theorem qs9 : (Cond.selects "LockTurns$Reader" ⟨"LockTurns$Reader", "number", "(II)I"⟩ ⟨"LockTurns$Reader", "number", "(II)I"⟩) ∈ lw_all := lw_g (lw_at lw_ms 9 rfl) rfl
theorem qs10 : (Cond.selects "LockTurns$Reader" ⟨"LockTurns$Reader", "other", "(III)I"⟩ ⟨"LockTurns$Reader", "other", "(III)I"⟩) ∈ lw_all := lw_g (lw_at lw_ms 10 rfl) rfl
theorem qs11 : (Cond.selects "LockTurns$Reader" ⟨"LockTurns$Reader", "more", "(I)V"⟩ ⟨"LockTurns$Reader", "more", "(I)V"⟩) ∈ lw_all := lw_g (lw_at lw_ms 11 rfl) rfl
theorem qs12 : (Cond.selects "LockTurns" ⟨"LockTurns", "isBoat", "(I)Z"⟩ ⟨"LockTurns", "isBoat", "(I)Z"⟩) ∈ lw_all := lw_g (lw_at lw_ms 12 rfl) rfl
theorem qs13 : (Cond.selects "LockTurns" ⟨"LockTurns", "alters", "(III)I"⟩ ⟨"LockTurns", "alters", "(III)I"⟩) ∈ lw_all := lw_g (lw_at lw_ms 13 rfl) rfl
theorem qs14 : (Cond.selects "LockTurns" ⟨"LockTurns", "today", "()V"⟩ ⟨"LockTurns", "today", "()V"⟩) ∈ lw_all := lw_g (lw_at lw_ms 14 rfl) rfl
theorem qs15 : (Cond.selects "LockTurns" ⟨"LockTurns", "runs", "(II)V"⟩ ⟨"LockTurns", "runs", "(II)V"⟩) ∈ lw_all := lw_g (lw_at lw_ms 15 rfl) rfl
theorem qs16 : (Cond.selects "LockTurns" ⟨"LockTurns", "opens", "()V"⟩ ⟨"LockTurns", "opens", "()V"⟩) ∈ lw_all := lw_g (lw_at lw_ms 16 rfl) rfl
theorem qs17 : (Cond.selects "LockTurns" ⟨"LockTurns", "nextFree", "(I)I"⟩ ⟨"LockTurns", "nextFree", "(I)I"⟩) ∈ lw_all := lw_g (lw_at lw_ms 17 rfl) rfl
theorem qs18 : (Cond.selects "LockTurns" ⟨"LockTurns", "taken", "(ILLockTurns$AtGate;)I"⟩ ⟨"LockTurns", "taken", "(ILLockTurns$AtGate;)I"⟩) ∈ lw_all := lw_g (lw_at lw_ms 18 rfl) rfl
theorem qs19 : (Cond.selects "LockTurns" ⟨"LockTurns", "goesThrough", "(I)V"⟩ ⟨"LockTurns", "goesThrough", "(I)V"⟩) ∈ lw_all := lw_g (lw_at lw_ms 19 rfl) rfl
theorem qs20 : (Cond.selects "LockTurns" ⟨"LockTurns", "dayTold", "(I)I"⟩ ⟨"LockTurns", "dayTold", "(I)I"⟩) ∈ lw_all := lw_g (lw_at lw_ms 20 rfl) rfl
theorem qs21 : (Cond.selects "LockTurns" ⟨"LockTurns", "cost", "()I"⟩ ⟨"LockTurns", "cost", "()I"⟩) ∈ lw_all := lw_g (lw_at lw_ms 21 rfl) rfl
theorem qs22 : (Cond.selects "LockTurns" ⟨"LockTurns", "orders", "(II)V"⟩ ⟨"LockTurns", "orders", "(II)V"⟩) ∈ lw_all := lw_g (lw_at lw_ms 22 rfl) rfl
theorem qs23 : (Cond.selects "LockTurns" ⟨"LockTurns", "costOfRow", "()I"⟩ ⟨"LockTurns", "costOfRow", "()I"⟩) ∈ lw_all := lw_g (lw_at lw_ms 23 rfl) rfl
theorem qs24 : (Cond.selects "LockTurns" ⟨"LockTurns", "gains", "(II)I"⟩ ⟨"LockTurns", "gains", "(II)I"⟩) ∈ lw_all := lw_g (lw_at lw_ms 24 rfl) rfl
theorem qs25 : (Cond.selects "LockTurns" ⟨"LockTurns", "isCalm", "(I)Z"⟩ ⟨"LockTurns", "isCalm", "(I)Z"⟩) ∈ lw_all := lw_g (lw_at lw_ms 25 rfl) rfl
theorem qs26 : (Cond.selects "LockTurns" ⟨"LockTurns", "areTwo", "(II)Z"⟩ ⟨"LockTurns", "areTwo", "(II)Z"⟩) ∈ lw_all := lw_g (lw_at lw_ms 26 rfl) rfl
theorem qs27 : (Cond.selects "LockTurns" ⟨"LockTurns", "byOdds", "(III)J"⟩ ⟨"LockTurns", "byOdds", "(III)J"⟩) ∈ lw_all := lw_g (lw_at lw_ms 27 rfl) rfl
theorem qs28 : (Cond.selects "LockTurns" ⟨"LockTurns", "allOdds", "()J"⟩ ⟨"LockTurns", "allOdds", "()J"⟩) ∈ lw_all := lw_g (lw_at lw_ms 28 rfl) rfl
theorem qs29 : (Cond.selects "LockTurns" ⟨"LockTurns", "isAsSeen", "(I)Z"⟩ ⟨"LockTurns", "isAsSeen", "(I)Z"⟩) ∈ lw_all := lw_g (lw_at lw_ms 29 rfl) rfl
theorem qs30 : (Cond.selects "LockTurns" ⟨"LockTurns", "takesIn", "(Ljava/lang/Object;III)I"⟩ ⟨"LockTurns", "takesIn", "(Ljava/lang/Object;III)I"⟩) ∈ lw_all := lw_g (lw_at lw_ms 30 rfl) rfl
theorem qs31 : (Cond.selects "LockTurnsModel" ⟨"LockTurnsModel", "firstDraft", "()V"⟩ ⟨"LockTurnsModel", "firstDraft", "()V"⟩) ∈ lw_all := lw_g (lw_at lw_ms 31 rfl) rfl
theorem qs32 : (Cond.selects "LockTurnsModel" ⟨"LockTurnsModel", "keepDraft", "()V"⟩ ⟨"LockTurnsModel", "keepDraft", "()V"⟩) ∈ lw_all := lw_g (lw_at lw_ms 32 rfl) rfl
theorem qs33 : (Cond.selects "LockTurnsModel" ⟨"LockTurnsModel", "next", "()V"⟩ ⟨"LockTurnsModel", "next", "()V"⟩) ∈ lw_all := lw_g (lw_at lw_ms 33 rfl) rfl
theorem qs34 : (Cond.selects "LockTurnsModel" ⟨"LockTurnsModel", "byteAt", "(I)I"⟩ ⟨"LockTurnsModel", "byteAt", "(I)I"⟩) ∈ lw_all := lw_g (lw_at lw_ms 34 rfl) rfl
theorem qs35 : (Cond.selects "LockTurnsModel" ⟨"LockTurnsModel", "needs", "(ZI)V"⟩ ⟨"LockTurnsModel", "needs", "(ZI)V"⟩) ∈ lw_all := lw_g (lw_at lw_ms 35 rfl) rfl
theorem qs36 : (Cond.selects "LockTurnsModel" ⟨"LockTurnsModel", "readLine", "()V"⟩ ⟨"LockTurnsModel", "readLine", "()V"⟩) ∈ lw_all := lw_g (lw_at lw_ms 36 rfl) rfl
theorem qs37 : (Cond.selects "LockTurnsModel" ⟨"LockTurnsModel", "lineNow", "()I"⟩ ⟨"LockTurnsModel", "lineNow", "()I"⟩) ∈ lw_all := lw_g (lw_at lw_ms 37 rfl) rfl
theorem qs38 : (Cond.selects "LockTurnsModel" ⟨"LockTurnsModel", "is", "(IIIII)Z"⟩ ⟨"LockTurnsModel", "is", "(IIIII)Z"⟩) ∈ lw_all := lw_g (lw_at lw_ms 38 rfl) rfl
theorem qs39 : (Cond.selects "LockTurnsModel" ⟨"LockTurnsModel", "endsWith", "(I)Z"⟩ ⟨"LockTurnsModel", "endsWith", "(I)Z"⟩) ∈ lw_all := lw_g (lw_at lw_ms 39 rfl) rfl
theorem qs40 : (Cond.selects "LockTurnsModel" ⟨"LockTurnsModel", "readLineOf", "(I)V"⟩ ⟨"LockTurnsModel", "readLineOf", "(I)V"⟩) ∈ lw_all := lw_g (lw_at lw_ms 40 rfl) rfl
theorem qs41 : (Cond.selects "LockTurnsModel" ⟨"LockTurnsModel", "readNumber", "(II)I"⟩ ⟨"LockTurnsModel", "readNumber", "(II)I"⟩) ∈ lw_all := lw_g (lw_at lw_ms 41 rfl) rfl
theorem qs42 : (Cond.selects "LockTurnsModel" ⟨"LockTurnsModel", "looked", "(II)I"⟩ ⟨"LockTurnsModel", "looked", "(II)I"⟩) ∈ lw_all := lw_g (lw_at lw_ms 42 rfl) rfl
theorem qs43 : (Cond.selects "LockTurnsModel" ⟨"LockTurnsModel", "lawNow", "()I"⟩ ⟨"LockTurnsModel", "lawNow", "()I"⟩) ∈ lw_all := lw_g (lw_at lw_ms 43 rfl) rfl
theorem qs44 : (Cond.selects "LockTurnsModel" ⟨"LockTurnsModel", "readName", "(I)I"⟩ ⟨"LockTurnsModel", "readName", "(I)I"⟩) ∈ lw_all := lw_g (lw_at lw_ms 44 rfl) rfl
theorem qs45 : (Cond.selects "LockTurnsModel" ⟨"LockTurnsModel", "readLiar", "()V"⟩ ⟨"LockTurnsModel", "readLiar", "()V"⟩) ∈ lw_all := lw_g (lw_at lw_ms 45 rfl) rfl
theorem qs46 : (Cond.selects "LockTurnsModel" ⟨"LockTurnsModel", "readBoat", "(I)V"⟩ ⟨"LockTurnsModel", "readBoat", "(I)V"⟩) ∈ lw_all := lw_g (lw_at lw_ms 46 rfl) rfl
theorem qs47 : (Cond.selects "LockTurnsModel" ⟨"LockTurnsModel", "cargoNow", "()I"⟩ ⟨"LockTurnsModel", "cargoNow", "()I"⟩) ∈ lw_all := lw_g (lw_at lw_ms 47 rfl) rfl
theorem qs48 : (Cond.selects "LockTurnsModel" ⟨"LockTurnsModel", "liars", "()I"⟩ ⟨"LockTurnsModel", "liars", "()I"⟩) ∈ lw_all := lw_g (lw_at lw_ms 48 rfl) rfl
theorem qs49 : (Cond.selects "LockTurnsModel" ⟨"LockTurnsModel", "isBoat", "(I)Z"⟩ ⟨"LockTurnsModel", "isBoat", "(I)Z"⟩) ∈ lw_all := lw_g (lw_at lw_ms 49 rfl) rfl
theorem qs50 : (Cond.selects "LockTurnsModel" ⟨"LockTurnsModel", "starts", "()V"⟩ ⟨"LockTurnsModel", "starts", "()V"⟩) ∈ lw_all := lw_g (lw_at lw_ms 50 rfl) rfl
theorem qs51 : (Cond.selects "LockTurnsModel" ⟨"LockTurnsModel", "of", "(II)I"⟩ ⟨"LockTurnsModel", "of", "(II)I"⟩) ∈ lw_all := lw_g (lw_at lw_ms 51 rfl) rfl
theorem qs52 : (Cond.selects "LockTurnsModel" ⟨"LockTurnsModel", "countsFrom", "(I)I"⟩ ⟨"LockTurnsModel", "countsFrom", "(I)I"⟩) ∈ lw_all := lw_g (lw_at lw_ms 52 rfl) rfl
theorem qs53 : (Cond.selects "LockTurnsModel" ⟨"LockTurnsModel", "becomes", "(II)I"⟩ ⟨"LockTurnsModel", "becomes", "(II)I"⟩) ∈ lw_all := lw_g (lw_at lw_ms 53 rfl) rfl
theorem qs54 : (Cond.selects "LockTurnsModel" ⟨"LockTurnsModel", "dayNow", "()V"⟩ ⟨"LockTurnsModel", "dayNow", "()V"⟩) ∈ lw_all := lw_g (lw_at lw_ms 54 rfl) rfl
theorem qs55 : (Cond.selects "LockTurnsModel" ⟨"LockTurnsModel", "dayGoes", "()V"⟩ ⟨"LockTurnsModel", "dayGoes", "()V"⟩) ∈ lw_all := lw_g (lw_at lw_ms 55 rfl) rfl
theorem qs56 : (Cond.selects "LockTurnsModel" ⟨"LockTurnsModel", "opens", "()V"⟩ ⟨"LockTurnsModel", "opens", "()V"⟩) ∈ lw_all := lw_g (lw_at lw_ms 56 rfl) rfl
theorem qs57 : (Cond.selects "LockTurnsModel" ⟨"LockTurnsModel", "counting", "(I)I"⟩ ⟨"LockTurnsModel", "counting", "(I)I"⟩) ∈ lw_all := lw_g (lw_at lw_ms 57 rfl) rfl
theorem qs58 : (Cond.selects "LockTurnsModel" ⟨"LockTurnsModel", "earliest", "(I)I"⟩ ⟨"LockTurnsModel", "earliest", "(I)I"⟩) ∈ lw_all := lw_g (lw_at lw_ms 58 rfl) rfl
theorem qs59 : (Cond.selects "LockTurnsModel" ⟨"LockTurnsModel", "taken", "(I)I"⟩ ⟨"LockTurnsModel", "taken", "(I)I"⟩) ∈ lw_all := lw_g (lw_at lw_ms 59 rfl) rfl
theorem qs60 : (Cond.selects "LockTurnsModel" ⟨"LockTurnsModel", "comeFrom", "(II)I"⟩ ⟨"LockTurnsModel", "comeFrom", "(II)I"⟩) ∈ lw_all := lw_g (lw_at lw_ms 60 rfl) rfl
theorem qs61 : (Cond.selects "LockTurnsModel" ⟨"LockTurnsModel", "preferred", "(II)I"⟩ ⟨"LockTurnsModel", "preferred", "(II)I"⟩) ∈ lw_all := lw_g (lw_at lw_ms 61 rfl) rfl
theorem qs62 : (Cond.selects "LockTurnsModel" ⟨"LockTurnsModel", "sideOf", "(I)I"⟩ ⟨"LockTurnsModel", "sideOf", "(I)I"⟩) ∈ lw_all := lw_g (lw_at lw_ms 62 rfl) rfl
theorem qs63 : (Cond.selects "LockTurnsModel" ⟨"LockTurnsModel", "leastCargo", "(I)I"⟩ ⟨"LockTurnsModel", "leastCargo", "(I)I"⟩) ∈ lw_all := lw_g (lw_at lw_ms 63 rfl) rfl
theorem qs64 : (Cond.selects "LockTurnsModel" ⟨"LockTurnsModel", "cargoTold", "(I)I"⟩ ⟨"LockTurnsModel", "cargoTold", "(I)I"⟩) ∈ lw_all := lw_g (lw_at lw_ms 64 rfl) rfl
theorem qs65 : (Cond.selects "LockTurnsModel" ⟨"LockTurnsModel", "lets", "(I)V"⟩ ⟨"LockTurnsModel", "lets", "(I)V"⟩) ∈ lw_all := lw_g (lw_at lw_ms 65 rfl) rfl
theorem qs66 : (Cond.selects "LockTurnsModel" ⟨"LockTurnsModel", "tells", "(I)I"⟩ ⟨"LockTurnsModel", "tells", "(I)I"⟩) ∈ lw_all := lw_g (lw_at lw_ms 66 rfl) rfl
theorem qs67 : (Cond.selects "LockTurnsModel" ⟨"LockTurnsModel", "costNow", "()I"⟩ ⟨"LockTurnsModel", "costNow", "()I"⟩) ∈ lw_all := lw_g (lw_at lw_ms 67 rfl) rfl
theorem qs68 : (Cond.selects "LockTurnsModel" ⟨"LockTurnsModel", "dayBy", "(I)V"⟩ ⟨"LockTurnsModel", "dayBy", "(I)V"⟩) ∈ lw_all := lw_g (lw_at lw_ms 68 rfl) rfl
theorem qs69 : (Cond.selects "LockTurnsModel" ⟨"LockTurnsModel", "rows", "()I"⟩ ⟨"LockTurnsModel", "rows", "()I"⟩) ∈ lw_all := lw_g (lw_at lw_ms 69 rfl) rfl
theorem qs70 : (Cond.selects "LockTurnsModel" ⟨"LockTurnsModel", "isOrder", "(I)Z"⟩ ⟨"LockTurnsModel", "isOrder", "(I)Z"⟩) ∈ lw_all := lw_g (lw_at lw_ms 70 rfl) rfl
theorem qs71 : (Cond.selects "LockTurnsModel" ⟨"LockTurnsModel", "goesInOrder", "()V"⟩ ⟨"LockTurnsModel", "goesInOrder", "()V"⟩) ∈ lw_all := lw_g (lw_at lw_ms 71 rfl) rfl
theorem qs72 : (Cond.selects "LockTurnsModel" ⟨"LockTurnsModel", "gainOf", "(I)I"⟩ ⟨"LockTurnsModel", "gainOf", "(I)I"⟩) ∈ lw_all := lw_g (lw_at lw_ms 72 rfl) rfl
theorem qs73 : (Cond.selects "LockTurnsModel" ⟨"LockTurnsModel", "becomesOf", "(III)V"⟩ ⟨"LockTurnsModel", "becomesOf", "(III)V"⟩) ∈ lw_all := lw_g (lw_at lw_ms 73 rfl) rfl
theorem qs74 : (Cond.selects "LockTurnsModel" ⟨"LockTurnsModel", "isCalm", "()Z"⟩ ⟨"LockTurnsModel", "isCalm", "()Z"⟩) ∈ lw_all := lw_g (lw_at lw_ms 74 rfl) rfl
theorem qs75 : (Cond.selects "LockTurnsModel" ⟨"LockTurnsModel", "liesBy", "(I)V"⟩ ⟨"LockTurnsModel", "liesBy", "(I)V"⟩) ∈ lw_all := lw_g (lw_at lw_ms 75 rfl) rfl
theorem qs76 : (Cond.selects "LockTurnsModel" ⟨"LockTurnsModel", "placeOf", "(I)I"⟩ ⟨"LockTurnsModel", "placeOf", "(I)I"⟩) ∈ lw_all := lw_g (lw_at lw_ms 76 rfl) rfl
theorem qs77 : (Cond.selects "LockTurnsModel" ⟨"LockTurnsModel", "dayCaught", "(I)V"⟩ ⟨"LockTurnsModel", "dayCaught", "(I)V"⟩) ∈ lw_all := lw_g (lw_at lw_ms 77 rfl) rfl
theorem qs78 : (Cond.selects "LockTurnsModel" ⟨"LockTurnsModel", "waysOf", "(II)J"⟩ ⟨"LockTurnsModel", "waysOf", "(II)J"⟩) ∈ lw_all := lw_g (lw_at lw_ms 78 rfl) rfl
theorem qs79 : (Cond.selects "LockTurnsModel" ⟨"LockTurnsModel", "allWays", "()J"⟩ ⟨"LockTurnsModel", "allWays", "()J"⟩) ∈ lw_all := lw_g (lw_at lw_ms 79 rfl) rfl
theorem qs80 : (Cond.selects "LockTurnsModel" ⟨"LockTurnsModel", "isSo", "(II)Z"⟩ ⟨"LockTurnsModel", "isSo", "(II)Z"⟩) ∈ lw_all := lw_g (lw_at lw_ms 80 rfl) rfl
theorem qs81 : (Cond.selects "LockTurnsModel" ⟨"LockTurnsModel", "copies", "(II)V"⟩ ⟨"LockTurnsModel", "copies", "(II)V"⟩) ∈ lw_all := lw_g (lw_at lw_ms 81 rfl) rfl
-- ===== end of PART A; then your names; then what follows =====
