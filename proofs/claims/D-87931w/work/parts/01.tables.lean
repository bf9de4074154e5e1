-- ===== PART A: goes FIRST, ahead of the names: the tables' words, and 'selects' of the private methods out of them =====
/-- a private method of a class that the tables say can be made, by its rows of tables_1 -/
def lw_okq (q : MethodName × Nat) : Prop := (q.1.cls ≠ "java/lang/invoke/MethodHandle" ∧ q.1.cls ≠ "java/lang/invoke/VarHandle") ∧ Cond.instantiable q.1.cls q.2 ∈ tables_1 ∧ Cond.privateMethod q.1 ∈ tables_1 ∧ Cond.instanceMethod q.1 ∈ tables_1
set_option maxRecDepth 100000
theorem lw_t1 {w : Cond} (h : w ∈ tables_1_1) : w ∈ tables_1 := List.mem_append_left _ h
theorem lw_t2 {w : Cond} (h : w ∈ tables_1_2) : w ∈ tables_1 := List.mem_append_right _ (List.mem_append_left _ h)
theorem lw_t3 {w : Cond} (h : w ∈ tables_1_3) : w ∈ tables_1 := List.mem_append_right _ (List.mem_append_right _ (List.mem_append_left _ h))
theorem lw_t4 {w : Cond} (h : w ∈ tables_1_4) : w ∈ tables_1 := List.mem_append_right _ (List.mem_append_right _ (List.mem_append_right _ (List.mem_append_left _ h)))
theorem lw_t5 {w : Cond} (h : w ∈ tables_1_5) : w ∈ tables_1 := List.mem_append_right _ (List.mem_append_right _ (List.mem_append_right _ (List.mem_append_right _ (List.mem_append_left _ h))))
theorem lw_t6 {w : Cond} (h : w ∈ tables_1_6) : w ∈ tables_1 := List.mem_append_right _ (List.mem_append_right _ (List.mem_append_right _ (List.mem_append_right _ (List.mem_append_right _ (List.mem_append_left _ h)))))
theorem lw_t7 {w : Cond} (h : w ∈ tables_1_7) : w ∈ tables_1 := List.mem_append_right _ (List.mem_append_right _ (List.mem_append_right _ (List.mem_append_right _ (List.mem_append_right _ (List.mem_append_right _ (List.mem_append_left _ h))))))
theorem lw_t8 {w : Cond} (h : w ∈ tables_1_8) : w ∈ tables_1 := List.mem_append_right _ (List.mem_append_right _ (List.mem_append_right _ (List.mem_append_right _ (List.mem_append_right _ (List.mem_append_right _ (List.mem_append_right _ h))))))
theorem lw_p0 : lw_okq (⟨"java/lang/NullPointerException", "getExtendedNPEMessage", "()Ljava/lang/String;"⟩, 8) := ⟨⟨by decide +kernel, by decide +kernel⟩, lw_t1 (List.mem_of_getElem? (i := 74) rfl), lw_t1 (List.mem_of_getElem? (i := 72) rfl), lw_t1 (List.mem_of_getElem? (i := 73) rfl)⟩
theorem lw_p1 : lw_okq (⟨"java/lang/Throwable", "fillInStackTrace", "(I)Ljava/lang/Throwable;"⟩, 6) := ⟨⟨by decide +kernel, by decide +kernel⟩, lw_t1 (List.mem_of_getElem? (i := 86) rfl), lw_t1 (List.mem_of_getElem? (i := 84) rfl), lw_t1 (List.mem_of_getElem? (i := 85) rfl)⟩
theorem lw_p2 : lw_okq (⟨"CodeExchange", "answer", "(I)I"⟩, 33) := ⟨⟨by decide +kernel, by decide +kernel⟩, lw_t1 (List.mem_of_getElem? (i := 26) rfl), lw_t3 (List.mem_of_getElem? (i := 18) rfl), lw_t3 (List.mem_of_getElem? (i := 19) rfl)⟩
theorem lw_p3 : lw_okq (⟨"CodeExchange", "comes", "(LCodeExchange$Page;)I"⟩, 33) := ⟨⟨by decide +kernel, by decide +kernel⟩, lw_t1 (List.mem_of_getElem? (i := 26) rfl), lw_t3 (List.mem_of_getElem? (i := 55) rfl), lw_t3 (List.mem_of_getElem? (i := 56) rfl)⟩
theorem lw_p4 : lw_okq (⟨"CodeExchange", "tableAt", "(II)LCodeExchange$Table;"⟩, 33) := ⟨⟨by decide +kernel, by decide +kernel⟩, lw_t1 (List.mem_of_getElem? (i := 26) rfl), lw_t3 (List.mem_of_getElem? (i := 63) rfl), lw_t3 (List.mem_of_getElem? (i := 64) rfl)⟩
theorem lw_p5 : lw_okq (⟨"CodeExchange", "thingAt", "(I)Ljava/lang/Object;"⟩, 33) := ⟨⟨by decide +kernel, by decide +kernel⟩, lw_t1 (List.mem_of_getElem? (i := 26) rfl), lw_t3 (List.mem_of_getElem? (i := 120) rfl), lw_t3 (List.mem_of_getElem? (i := 121) rfl)⟩
theorem lw_p6 : lw_okq (⟨"CodeExchange", "refused", "(I)LCodeExchange$Refusal;"⟩, 33) := ⟨⟨by decide +kernel, by decide +kernel⟩, lw_t1 (List.mem_of_getElem? (i := 26) rfl), lw_t3 (List.mem_of_getElem? (i := 143) rfl), lw_t3 (List.mem_of_getElem? (i := 144) rfl)⟩
theorem lw_p7 : lw_okq (⟨"CodeExchange", "need", "(ZI)V"⟩, 33) := ⟨⟨by decide +kernel, by decide +kernel⟩, lw_t1 (List.mem_of_getElem? (i := 26) rfl), lw_t3 (List.mem_of_getElem? (i := 147) rfl), lw_t3 (List.mem_of_getElem? (i := 148) rfl)⟩
theorem lw_p8 : lw_okq (⟨"CodeExchange$Table", "walk", "()V"⟩, 27) := ⟨⟨by decide +kernel, by decide +kernel⟩, lw_t1 (List.mem_of_getElem? (i := 119) rfl), lw_t3 (List.mem_of_getElem? (i := 210) rfl), lw_t3 (List.mem_of_getElem? (i := 211) rfl)⟩
theorem lw_p9 : lw_okq (⟨"CodeExchange$Table", "better", "([I[JIIJ)V"⟩, 27) := ⟨⟨by decide +kernel, by decide +kernel⟩, lw_t1 (List.mem_of_getElem? (i := 119) rfl), lw_t3 (List.mem_of_getElem? (i := 214) rfl), lw_t3 (List.mem_of_getElem? (i := 215) rfl)⟩
theorem lw_p10 : lw_okq (⟨"CodeExchange$Table", "walkTo", "(II)V"⟩, 27) := ⟨⟨by decide +kernel, by decide +kernel⟩, lw_t1 (List.mem_of_getElem? (i := 119) rfl), lw_t3 (List.mem_of_getElem? (i := 218) rfl), lw_t3 (List.mem_of_getElem? (i := 219) rfl)⟩
theorem lw_p11 : lw_okq (⟨"CodeExchange$Table", "isClashing", "()Z"⟩, 27) := ⟨⟨by decide +kernel, by decide +kernel⟩, lw_t1 (List.mem_of_getElem? (i := 119) rfl), lw_t3 (List.mem_of_getElem? (i := 222) rfl), lw_t3 (List.mem_of_getElem? (i := 223) rfl)⟩
theorem lw_p12 : lw_okq (⟨"CodeExchange$Table", "next", "(I)I"⟩, 27) := ⟨⟨by decide +kernel, by decide +kernel⟩, lw_t1 (List.mem_of_getElem? (i := 119) rfl), lw_t3 (List.mem_of_getElem? (i := 226) rfl), lw_t3 (List.mem_of_getElem? (i := 227) rfl)⟩
theorem lw_p13 : lw_okq (⟨"CodeExchange$Table", "clash", "(II)Z"⟩, 27) := ⟨⟨by decide +kernel, by decide +kernel⟩, lw_t1 (List.mem_of_getElem? (i := 119) rfl), lw_t3 (List.mem_of_getElem? (i := 230) rfl), lw_t3 (List.mem_of_getElem? (i := 231) rfl)⟩
theorem lw_p14 : lw_okq (⟨"CodeExchange$Table", "lengthOf", "(I)I"⟩, 27) := ⟨⟨by decide +kernel, by decide +kernel⟩, lw_t1 (List.mem_of_getElem? (i := 119) rfl), lw_t3 (List.mem_of_getElem? (i := 234) rfl), lw_t3 (List.mem_of_getElem? (i := 235) rfl)⟩
theorem lw_p15 : lw_okq (⟨"CodeExchange$Table", "stateOf", "(I)I"⟩, 27) := ⟨⟨by decide +kernel, by decide +kernel⟩, lw_t1 (List.mem_of_getElem? (i := 119) rfl), lw_t4 (List.mem_of_getElem? (i := 1) rfl), lw_t4 (List.mem_of_getElem? (i := 2) rfl)⟩
def lw_privs_1 : List (MethodName × Nat) := [(⟨"java/lang/NullPointerException", "getExtendedNPEMessage", "()Ljava/lang/String;"⟩, 8), (⟨"java/lang/Throwable", "fillInStackTrace", "(I)Ljava/lang/Throwable;"⟩, 6), (⟨"CodeExchange", "answer", "(I)I"⟩, 33), (⟨"CodeExchange", "comes", "(LCodeExchange$Page;)I"⟩, 33), (⟨"CodeExchange", "tableAt", "(II)LCodeExchange$Table;"⟩, 33), (⟨"CodeExchange", "thingAt", "(I)Ljava/lang/Object;"⟩, 33), (⟨"CodeExchange", "refused", "(I)LCodeExchange$Refusal;"⟩, 33), (⟨"CodeExchange", "need", "(ZI)V"⟩, 33), (⟨"CodeExchange$Table", "walk", "()V"⟩, 27), (⟨"CodeExchange$Table", "better", "([I[JIIJ)V"⟩, 27), (⟨"CodeExchange$Table", "walkTo", "(II)V"⟩, 27), (⟨"CodeExchange$Table", "isClashing", "()Z"⟩, 27), (⟨"CodeExchange$Table", "next", "(I)I"⟩, 27), (⟨"CodeExchange$Table", "clash", "(II)Z"⟩, 27), (⟨"CodeExchange$Table", "lengthOf", "(I)I"⟩, 27), (⟨"CodeExchange$Table", "stateOf", "(I)I"⟩, 27)]
theorem lw_r1 : ∀ q ∈ lw_privs_1, lw_okq q := List.forall_mem_cons.mpr ⟨lw_p0, List.forall_mem_cons.mpr ⟨lw_p1, List.forall_mem_cons.mpr ⟨lw_p2, List.forall_mem_cons.mpr ⟨lw_p3, List.forall_mem_cons.mpr ⟨lw_p4, List.forall_mem_cons.mpr ⟨lw_p5, List.forall_mem_cons.mpr ⟨lw_p6, List.forall_mem_cons.mpr ⟨lw_p7, List.forall_mem_cons.mpr ⟨lw_p8, List.forall_mem_cons.mpr ⟨lw_p9, List.forall_mem_cons.mpr ⟨lw_p10, List.forall_mem_cons.mpr ⟨lw_p11, List.forall_mem_cons.mpr ⟨lw_p12, List.forall_mem_cons.mpr ⟨lw_p13, List.forall_mem_cons.mpr ⟨lw_p14, List.forall_mem_cons.mpr ⟨lw_p15, fun _ h => absurd h List.not_mem_nil⟩⟩⟩⟩⟩⟩⟩⟩⟩⟩⟩⟩⟩⟩⟩⟩
theorem lw_p16 : lw_okq (⟨"CodeExchange$Table", "keyOf", "(I)I"⟩, 27) := ⟨⟨by decide +kernel, by decide +kernel⟩, lw_t1 (List.mem_of_getElem? (i := 119) rfl), lw_t4 (List.mem_of_getElem? (i := 5) rfl), lw_t4 (List.mem_of_getElem? (i := 6) rfl)⟩
theorem lw_p17 : lw_okq (⟨"CodeExchange$Table", "breaks", "(III)Z"⟩, 27) := ⟨⟨by decide +kernel, by decide +kernel⟩, lw_t1 (List.mem_of_getElem? (i := 119) rfl), lw_t4 (List.mem_of_getElem? (i := 9) rfl), lw_t4 (List.mem_of_getElem? (i := 10) rfl)⟩
theorem lw_p18 : lw_okq (⟨"CodeExchange$Table", "isDoubtful", "()Z"⟩, 27) := ⟨⟨by decide +kernel, by decide +kernel⟩, lw_t1 (List.mem_of_getElem? (i := 119) rfl), lw_t4 (List.mem_of_getElem? (i := 13) rfl), lw_t4 (List.mem_of_getElem? (i := 14) rfl)⟩
theorem lw_p19 : lw_okq (⟨"CodeExchange$Table", "isStuck", "()Z"⟩, 27) := ⟨⟨by decide +kernel, by decide +kernel⟩, lw_t1 (List.mem_of_getElem? (i := 119) rfl), lw_t4 (List.mem_of_getElem? (i := 17) rfl), lw_t4 (List.mem_of_getElem? (i := 18) rfl)⟩
theorem lw_p20 : lw_okq (⟨"CodeExchange$Table", "isFar", "()Z"⟩, 27) := ⟨⟨by decide +kernel, by decide +kernel⟩, lw_t1 (List.mem_of_getElem? (i := 119) rfl), lw_t4 (List.mem_of_getElem? (i := 25) rfl), lw_t4 (List.mem_of_getElem? (i := 26) rfl)⟩
theorem lw_p21 : lw_okq (⟨"CodeExchange", "pageAt", "(I)LCodeExchange$Page;"⟩, 33) := ⟨⟨by decide +kernel, by decide +kernel⟩, lw_t1 (List.mem_of_getElem? (i := 26) rfl), lw_t4 (List.mem_of_getElem? (i := 37) rfl), lw_t4 (List.mem_of_getElem? (i := 38) rfl)⟩
theorem lw_p22 : lw_okq (⟨"CodeExchange", "closedAt", "(I)LCodeExchange$Page;"⟩, 33) := ⟨⟨by decide +kernel, by decide +kernel⟩, lw_t1 (List.mem_of_getElem? (i := 26) rfl), lw_t4 (List.mem_of_getElem? (i := 72) rfl), lw_t4 (List.mem_of_getElem? (i := 73) rfl)⟩
theorem lw_p23 : lw_okq (⟨"CodeExchange$Table", "entryOf", "(I)I"⟩, 27) := ⟨⟨by decide +kernel, by decide +kernel⟩, lw_t1 (List.mem_of_getElem? (i := 119) rfl), lw_t4 (List.mem_of_getElem? (i := 94) rfl), lw_t4 (List.mem_of_getElem? (i := 95) rfl)⟩
theorem lw_p24 : lw_okq (⟨"CodeExchange$Table", "below", "(I)I"⟩, 27) := ⟨⟨by decide +kernel, by decide +kernel⟩, lw_t1 (List.mem_of_getElem? (i := 119) rfl), lw_t4 (List.mem_of_getElem? (i := 98) rfl), lw_t4 (List.mem_of_getElem? (i := 99) rfl)⟩
theorem lw_p25 : lw_okq (⟨"CodeExchange", "run", "(LCodeExchange$Machine;LCodeExchange$Page;I[IILCodeExchange$Row;)V"⟩, 33) := ⟨⟨by decide +kernel, by decide +kernel⟩, lw_t1 (List.mem_of_getElem? (i := 26) rfl), lw_t4 (List.mem_of_getElem? (i := 143) rfl), lw_t4 (List.mem_of_getElem? (i := 144) rfl)⟩
theorem lw_p26 : lw_okq (⟨"CodeExchange$Reader", "read", "(Z)V"⟩, 15) := ⟨⟨by decide +kernel, by decide +kernel⟩, lw_t2 (List.mem_of_getElem? (i := 2) rfl), lw_t4 (List.mem_of_getElem? (i := 165) rfl), lw_t4 (List.mem_of_getElem? (i := 166) rfl)⟩
theorem lw_p27 : lw_okq (⟨"CodeExchange$Reader", "malformed", "()V"⟩, 15) := ⟨⟨by decide +kernel, by decide +kernel⟩, lw_t2 (List.mem_of_getElem? (i := 2) rfl), lw_t5 (List.mem_of_getElem? (i := 1) rfl), lw_t5 (List.mem_of_getElem? (i := 2) rfl)⟩
theorem lw_p28 : lw_okq (⟨"CodeExchange$Reader", "skip", "(I)V"⟩, 15) := ⟨⟨by decide +kernel, by decide +kernel⟩, lw_t2 (List.mem_of_getElem? (i := 2) rfl), lw_t5 (List.mem_of_getElem? (i := 12) rfl), lw_t5 (List.mem_of_getElem? (i := 13) rfl)⟩
theorem lw_p29 : lw_okq (⟨"CodeExchange$Writer", "all", "(II)V"⟩, 16) := ⟨⟨by decide +kernel, by decide +kernel⟩, lw_t2 (List.mem_of_getElem? (i := 85) rfl), lw_t5 (List.mem_of_getElem? (i := 48) rfl), lw_t5 (List.mem_of_getElem? (i := 49) rfl)⟩
theorem lw_p30 : lw_okq (⟨"CodeExchange$Writer", "write", "(I)V"⟩, 16) := ⟨⟨by decide +kernel, by decide +kernel⟩, lw_t2 (List.mem_of_getElem? (i := 85) rfl), lw_t5 (List.mem_of_getElem? (i := 54) rfl), lw_t5 (List.mem_of_getElem? (i := 55) rfl)⟩
theorem lw_p31 : lw_okq (⟨"CodeExchange$Writer", "putBytes", "(J)V"⟩, 16) := ⟨⟨by decide +kernel, by decide +kernel⟩, lw_t2 (List.mem_of_getElem? (i := 85) rfl), lw_t5 (List.mem_of_getElem? (i := 68) rfl), lw_t5 (List.mem_of_getElem? (i := 69) rfl)⟩
def lw_privs_2 : List (MethodName × Nat) := [(⟨"CodeExchange$Table", "keyOf", "(I)I"⟩, 27), (⟨"CodeExchange$Table", "breaks", "(III)Z"⟩, 27), (⟨"CodeExchange$Table", "isDoubtful", "()Z"⟩, 27), (⟨"CodeExchange$Table", "isStuck", "()Z"⟩, 27), (⟨"CodeExchange$Table", "isFar", "()Z"⟩, 27), (⟨"CodeExchange", "pageAt", "(I)LCodeExchange$Page;"⟩, 33), (⟨"CodeExchange", "closedAt", "(I)LCodeExchange$Page;"⟩, 33), (⟨"CodeExchange$Table", "entryOf", "(I)I"⟩, 27), (⟨"CodeExchange$Table", "below", "(I)I"⟩, 27), (⟨"CodeExchange", "run", "(LCodeExchange$Machine;LCodeExchange$Page;I[IILCodeExchange$Row;)V"⟩, 33), (⟨"CodeExchange$Reader", "read", "(Z)V"⟩, 15), (⟨"CodeExchange$Reader", "malformed", "()V"⟩, 15), (⟨"CodeExchange$Reader", "skip", "(I)V"⟩, 15), (⟨"CodeExchange$Writer", "all", "(II)V"⟩, 16), (⟨"CodeExchange$Writer", "write", "(I)V"⟩, 16), (⟨"CodeExchange$Writer", "putBytes", "(J)V"⟩, 16)]
theorem lw_r2 : ∀ q ∈ lw_privs_2, lw_okq q := List.forall_mem_cons.mpr ⟨lw_p16, List.forall_mem_cons.mpr ⟨lw_p17, List.forall_mem_cons.mpr ⟨lw_p18, List.forall_mem_cons.mpr ⟨lw_p19, List.forall_mem_cons.mpr ⟨lw_p20, List.forall_mem_cons.mpr ⟨lw_p21, List.forall_mem_cons.mpr ⟨lw_p22, List.forall_mem_cons.mpr ⟨lw_p23, List.forall_mem_cons.mpr ⟨lw_p24, List.forall_mem_cons.mpr ⟨lw_p25, List.forall_mem_cons.mpr ⟨lw_p26, List.forall_mem_cons.mpr ⟨lw_p27, List.forall_mem_cons.mpr ⟨lw_p28, List.forall_mem_cons.mpr ⟨lw_p29, List.forall_mem_cons.mpr ⟨lw_p30, List.forall_mem_cons.mpr ⟨lw_p31, fun _ h => absurd h List.not_mem_nil⟩⟩⟩⟩⟩⟩⟩⟩⟩⟩⟩⟩⟩⟩⟩⟩
theorem lw_p32 : lw_okq (⟨"CodeExchange$Writer", "expand", "(I)Z"⟩, 16) := ⟨⟨by decide +kernel, by decide +kernel⟩, lw_t2 (List.mem_of_getElem? (i := 85) rfl), lw_t5 (List.mem_of_getElem? (i := 85) rfl), lw_t5 (List.mem_of_getElem? (i := 86) rfl)⟩
theorem lw_p33 : lw_okq (⟨"CodeExchange", "fallbackOf", "(I)I"⟩, 33) := ⟨⟨by decide +kernel, by decide +kernel⟩, lw_t1 (List.mem_of_getElem? (i := 26) rfl), lw_t5 (List.mem_of_getElem? (i := 89) rfl), lw_t5 (List.mem_of_getElem? (i := 90) rfl)⟩
theorem lw_p34 : lw_okq (⟨"CodeExchange", "becomes", "(I)I"⟩, 33) := ⟨⟨by decide +kernel, by decide +kernel⟩, lw_t1 (List.mem_of_getElem? (i := 26) rfl), lw_t5 (List.mem_of_getElem? (i := 125) rfl), lw_t5 (List.mem_of_getElem? (i := 126) rfl)⟩
theorem lw_p35 : lw_okq (⟨"CodeExchange", "takeText", "()I"⟩, 33) := ⟨⟨by decide +kernel, by decide +kernel⟩, lw_t1 (List.mem_of_getElem? (i := 26) rfl), lw_t5 (List.mem_of_getElem? (i := 149) rfl), lw_t5 (List.mem_of_getElem? (i := 150) rfl)⟩
theorem lw_p36 : lw_okq (⟨"CodeExchange", "setFallback", "(II)V"⟩, 33) := ⟨⟨by decide +kernel, by decide +kernel⟩, lw_t1 (List.mem_of_getElem? (i := 26) rfl), lw_t5 (List.mem_of_getElem? (i := 157) rfl), lw_t5 (List.mem_of_getElem? (i := 158) rfl)⟩
theorem lw_p37 : lw_okq (⟨"CodeExchange", "lay", "(III)V"⟩, 33) := ⟨⟨by decide +kernel, by decide +kernel⟩, lw_t1 (List.mem_of_getElem? (i := 26) rfl), lw_t5 (List.mem_of_getElem? (i := 161) rfl), lw_t5 (List.mem_of_getElem? (i := 162) rfl)⟩
theorem lw_p38 : lw_okq (⟨"CodeExchange", "areLengths", "()Z"⟩, 33) := ⟨⟨by decide +kernel, by decide +kernel⟩, lw_t1 (List.mem_of_getElem? (i := 26) rfl), lw_t5 (List.mem_of_getElem? (i := 165) rfl), lw_t5 (List.mem_of_getElem? (i := 166) rfl)⟩
theorem lw_p39 : lw_okq (⟨"CodeExchange", "areShort", "()Z"⟩, 33) := ⟨⟨by decide +kernel, by decide +kernel⟩, lw_t1 (List.mem_of_getElem? (i := 26) rfl), lw_t5 (List.mem_of_getElem? (i := 170) rfl), lw_t5 (List.mem_of_getElem? (i := 171) rfl)⟩
theorem lw_p40 : lw_okq (⟨"CodeExchange", "machineAt", "(I)LCodeExchange$Machine;"⟩, 33) := ⟨⟨by decide +kernel, by decide +kernel⟩, lw_t1 (List.mem_of_getElem? (i := 26) rfl), lw_t5 (List.mem_of_getElem? (i := 182) rfl), lw_t5 (List.mem_of_getElem? (i := 183) rfl)⟩
theorem lw_p41 : lw_okq (⟨"CodeExchange", "isWritten", "(LCodeExchange$Page;ILCodeExchange$Row;)Z"⟩, 33) := ⟨⟨by decide +kernel, by decide +kernel⟩, lw_t1 (List.mem_of_getElem? (i := 26) rfl), lw_t6 (List.mem_of_getElem? (i := 13) rfl), lw_t6 (List.mem_of_getElem? (i := 14) rfl)⟩
theorem lw_p42 : lw_okq (⟨"CodeExchange", "faultsOf", "(LCodeExchange$Page;)I"⟩, 33) := ⟨⟨by decide +kernel, by decide +kernel⟩, lw_t1 (List.mem_of_getElem? (i := 26) rfl), lw_t6 (List.mem_of_getElem? (i := 29) rfl), lw_t6 (List.mem_of_getElem? (i := 30) rfl)⟩
theorem lw_p43 : lw_okq (⟨"CodeExchange", "takeIn", "(LCodeExchange$Table;)V"⟩, 33) := ⟨⟨by decide +kernel, by decide +kernel⟩, lw_t1 (List.mem_of_getElem? (i := 26) rfl), lw_t6 (List.mem_of_getElem? (i := 74) rfl), lw_t6 (List.mem_of_getElem? (i := 75) rfl)⟩
theorem lw_p44 : lw_okq (⟨"CodeExchange", "next", "(II)I"⟩, 33) := ⟨⟨by decide +kernel, by decide +kernel⟩, lw_t1 (List.mem_of_getElem? (i := 26) rfl), lw_t6 (List.mem_of_getElem? (i := 78) rfl), lw_t6 (List.mem_of_getElem? (i := 79) rfl)⟩
theorem lw_p45 : lw_okq (⟨"CodeExchange", "number", "(I)I"⟩, 33) := ⟨⟨by decide +kernel, by decide +kernel⟩, lw_t1 (List.mem_of_getElem? (i := 26) rfl), lw_t6 (List.mem_of_getElem? (i := 82) rfl), lw_t6 (List.mem_of_getElem? (i := 83) rfl)⟩
theorem lw_p46 : lw_okq (⟨"CodeExchangeModel", "tell", "(I)I"⟩, 69) := ⟨⟨by decide +kernel, by decide +kernel⟩, lw_t6 (List.mem_of_getElem? (i := 90) rfl), lw_t7 (List.mem_of_getElem? (i := 72) rfl), lw_t7 (List.mem_of_getElem? (i := 73) rfl)⟩
theorem lw_p47 : lw_okq (⟨"CodeExchangeModel", "isPage", "(I)Z"⟩, 69) := ⟨⟨by decide +kernel, by decide +kernel⟩, lw_t6 (List.mem_of_getElem? (i := 90) rfl), lw_t7 (List.mem_of_getElem? (i := 80) rfl), lw_t7 (List.mem_of_getElem? (i := 81) rfl)⟩
def lw_privs_3 : List (MethodName × Nat) := [(⟨"CodeExchange$Writer", "expand", "(I)Z"⟩, 16), (⟨"CodeExchange", "fallbackOf", "(I)I"⟩, 33), (⟨"CodeExchange", "becomes", "(I)I"⟩, 33), (⟨"CodeExchange", "takeText", "()I"⟩, 33), (⟨"CodeExchange", "setFallback", "(II)V"⟩, 33), (⟨"CodeExchange", "lay", "(III)V"⟩, 33), (⟨"CodeExchange", "areLengths", "()Z"⟩, 33), (⟨"CodeExchange", "areShort", "()Z"⟩, 33), (⟨"CodeExchange", "machineAt", "(I)LCodeExchange$Machine;"⟩, 33), (⟨"CodeExchange", "isWritten", "(LCodeExchange$Page;ILCodeExchange$Row;)Z"⟩, 33), (⟨"CodeExchange", "faultsOf", "(LCodeExchange$Page;)I"⟩, 33), (⟨"CodeExchange", "takeIn", "(LCodeExchange$Table;)V"⟩, 33), (⟨"CodeExchange", "next", "(II)I"⟩, 33), (⟨"CodeExchange", "number", "(I)I"⟩, 33), (⟨"CodeExchangeModel", "tell", "(I)I"⟩, 69), (⟨"CodeExchangeModel", "isPage", "(I)Z"⟩, 69)]
theorem lw_r3 : ∀ q ∈ lw_privs_3, lw_okq q := List.forall_mem_cons.mpr ⟨lw_p32, List.forall_mem_cons.mpr ⟨lw_p33, List.forall_mem_cons.mpr ⟨lw_p34, List.forall_mem_cons.mpr ⟨lw_p35, List.forall_mem_cons.mpr ⟨lw_p36, List.forall_mem_cons.mpr ⟨lw_p37, List.forall_mem_cons.mpr ⟨lw_p38, List.forall_mem_cons.mpr ⟨lw_p39, List.forall_mem_cons.mpr ⟨lw_p40, List.forall_mem_cons.mpr ⟨lw_p41, List.forall_mem_cons.mpr ⟨lw_p42, List.forall_mem_cons.mpr ⟨lw_p43, List.forall_mem_cons.mpr ⟨lw_p44, List.forall_mem_cons.mpr ⟨lw_p45, List.forall_mem_cons.mpr ⟨lw_p46, List.forall_mem_cons.mpr ⟨lw_p47, fun _ h => absurd h List.not_mem_nil⟩⟩⟩⟩⟩⟩⟩⟩⟩⟩⟩⟩⟩⟩⟩⟩
theorem lw_p48 : lw_okq (⟨"CodeExchangeModel", "copyEntry", "(II)V"⟩, 69) := ⟨⟨by decide +kernel, by decide +kernel⟩, lw_t6 (List.mem_of_getElem? (i := 90) rfl), lw_t7 (List.mem_of_getElem? (i := 84) rfl), lw_t7 (List.mem_of_getElem? (i := 85) rfl)⟩
theorem lw_p49 : lw_okq (⟨"CodeExchangeModel", "copyShift", "(II)V"⟩, 69) := ⟨⟨by decide +kernel, by decide +kernel⟩, lw_t6 (List.mem_of_getElem? (i := 90) rfl), lw_t7 (List.mem_of_getElem? (i := 88) rfl), lw_t7 (List.mem_of_getElem? (i := 89) rfl)⟩
theorem lw_p50 : lw_okq (⟨"CodeExchangeModel", "fixed", "(I)I"⟩, 69) := ⟨⟨by decide +kernel, by decide +kernel⟩, lw_t6 (List.mem_of_getElem? (i := 90) rfl), lw_t7 (List.mem_of_getElem? (i := 96) rfl), lw_t7 (List.mem_of_getElem? (i := 97) rfl)⟩
theorem lw_p51 : lw_okq (⟨"CodeExchangeModel", "entryOf", "(IIII)I"⟩, 69) := ⟨⟨by decide +kernel, by decide +kernel⟩, lw_t6 (List.mem_of_getElem? (i := 90) rfl), lw_t7 (List.mem_of_getElem? (i := 109) rfl), lw_t7 (List.mem_of_getElem? (i := 110) rfl)⟩
theorem lw_p52 : lw_okq (⟨"CodeExchangeModel", "shiftOf", "(III)I"⟩, 69) := ⟨⟨by decide +kernel, by decide +kernel⟩, lw_t6 (List.mem_of_getElem? (i := 90) rfl), lw_t7 (List.mem_of_getElem? (i := 117) rfl), lw_t7 (List.mem_of_getElem? (i := 118) rfl)⟩
theorem lw_p53 : lw_okq (⟨"CodeExchangeModel", "isGood", "(I)Z"⟩, 69) := ⟨⟨by decide +kernel, by decide +kernel⟩, lw_t6 (List.mem_of_getElem? (i := 90) rfl), lw_t7 (List.mem_of_getElem? (i := 129) rfl), lw_t7 (List.mem_of_getElem? (i := 130) rfl)⟩
theorem lw_p54 : lw_okq (⟨"CodeExchangeModel", "stateOf", "(II)I"⟩, 69) := ⟨⟨by decide +kernel, by decide +kernel⟩, lw_t6 (List.mem_of_getElem? (i := 90) rfl), lw_t7 (List.mem_of_getElem? (i := 133) rfl), lw_t7 (List.mem_of_getElem? (i := 134) rfl)⟩
theorem lw_p55 : lw_okq (⟨"CodeExchangeModel", "begins", "(III)Z"⟩, 69) := ⟨⟨by decide +kernel, by decide +kernel⟩, lw_t6 (List.mem_of_getElem? (i := 90) rfl), lw_t7 (List.mem_of_getElem? (i := 137) rfl), lw_t7 (List.mem_of_getElem? (i := 138) rfl)⟩
theorem lw_p56 : lw_okq (⟨"CodeExchangeModel", "manyOf", "(II)I"⟩, 69) := ⟨⟨by decide +kernel, by decide +kernel⟩, lw_t6 (List.mem_of_getElem? (i := 90) rfl), lw_t7 (List.mem_of_getElem? (i := 141) rfl), lw_t7 (List.mem_of_getElem? (i := 142) rfl)⟩
theorem lw_p57 : lw_okq (⟨"CodeExchangeModel", "bytesOf", "(II)I"⟩, 69) := ⟨⟨by decide +kernel, by decide +kernel⟩, lw_t6 (List.mem_of_getElem? (i := 90) rfl), lw_t7 (List.mem_of_getElem? (i := 145) rfl), lw_t7 (List.mem_of_getElem? (i := 146) rfl)⟩
theorem lw_p58 : lw_okq (⟨"CodeExchangeModel", "numberOf", "(II)I"⟩, 69) := ⟨⟨by decide +kernel, by decide +kernel⟩, lw_t6 (List.mem_of_getElem? (i := 90) rfl), lw_t7 (List.mem_of_getElem? (i := 149) rfl), lw_t7 (List.mem_of_getElem? (i := 150) rfl)⟩
theorem lw_p59 : lw_okq (⟨"CodeExchangeModel", "breaks", "(III)Z"⟩, 69) := ⟨⟨by decide +kernel, by decide +kernel⟩, lw_t6 (List.mem_of_getElem? (i := 90) rfl), lw_t7 (List.mem_of_getElem? (i := 153) rfl), lw_t7 (List.mem_of_getElem? (i := 154) rfl)⟩
theorem lw_p60 : lw_okq (⟨"CodeExchangeModel", "reach", "(I)V"⟩, 69) := ⟨⟨by decide +kernel, by decide +kernel⟩, lw_t6 (List.mem_of_getElem? (i := 90) rfl), lw_t7 (List.mem_of_getElem? (i := 157) rfl), lw_t7 (List.mem_of_getElem? (i := 158) rfl)⟩
theorem lw_p61 : lw_okq (⟨"CodeExchangeModel", "comesHome", "(II)Z"⟩, 69) := ⟨⟨by decide +kernel, by decide +kernel⟩, lw_t6 (List.mem_of_getElem? (i := 90) rfl), lw_t7 (List.mem_of_getElem? (i := 161) rfl), lw_t7 (List.mem_of_getElem? (i := 162) rfl)⟩
theorem lw_p62 : lw_okq (⟨"CodeExchangeModel", "find", "(II)Z"⟩, 69) := ⟨⟨by decide +kernel, by decide +kernel⟩, lw_t6 (List.mem_of_getElem? (i := 90) rfl), lw_t7 (List.mem_of_getElem? (i := 173) rfl), lw_t7 (List.mem_of_getElem? (i := 174) rfl)⟩
theorem lw_p63 : lw_okq (⟨"CodeExchangeModel", "text", "(IJ)V"⟩, 69) := ⟨⟨by decide +kernel, by decide +kernel⟩, lw_t6 (List.mem_of_getElem? (i := 90) rfl), lw_t7 (List.mem_of_getElem? (i := 178) rfl), lw_t7 (List.mem_of_getElem? (i := 179) rfl)⟩
def lw_privs_4 : List (MethodName × Nat) := [(⟨"CodeExchangeModel", "copyEntry", "(II)V"⟩, 69), (⟨"CodeExchangeModel", "copyShift", "(II)V"⟩, 69), (⟨"CodeExchangeModel", "fixed", "(I)I"⟩, 69), (⟨"CodeExchangeModel", "entryOf", "(IIII)I"⟩, 69), (⟨"CodeExchangeModel", "shiftOf", "(III)I"⟩, 69), (⟨"CodeExchangeModel", "isGood", "(I)Z"⟩, 69), (⟨"CodeExchangeModel", "stateOf", "(II)I"⟩, 69), (⟨"CodeExchangeModel", "begins", "(III)Z"⟩, 69), (⟨"CodeExchangeModel", "manyOf", "(II)I"⟩, 69), (⟨"CodeExchangeModel", "bytesOf", "(II)I"⟩, 69), (⟨"CodeExchangeModel", "numberOf", "(II)I"⟩, 69), (⟨"CodeExchangeModel", "breaks", "(III)Z"⟩, 69), (⟨"CodeExchangeModel", "reach", "(I)V"⟩, 69), (⟨"CodeExchangeModel", "comesHome", "(II)Z"⟩, 69), (⟨"CodeExchangeModel", "find", "(II)Z"⟩, 69), (⟨"CodeExchangeModel", "text", "(IJ)V"⟩, 69)]
theorem lw_r4 : ∀ q ∈ lw_privs_4, lw_okq q := List.forall_mem_cons.mpr ⟨lw_p48, List.forall_mem_cons.mpr ⟨lw_p49, List.forall_mem_cons.mpr ⟨lw_p50, List.forall_mem_cons.mpr ⟨lw_p51, List.forall_mem_cons.mpr ⟨lw_p52, List.forall_mem_cons.mpr ⟨lw_p53, List.forall_mem_cons.mpr ⟨lw_p54, List.forall_mem_cons.mpr ⟨lw_p55, List.forall_mem_cons.mpr ⟨lw_p56, List.forall_mem_cons.mpr ⟨lw_p57, List.forall_mem_cons.mpr ⟨lw_p58, List.forall_mem_cons.mpr ⟨lw_p59, List.forall_mem_cons.mpr ⟨lw_p60, List.forall_mem_cons.mpr ⟨lw_p61, List.forall_mem_cons.mpr ⟨lw_p62, List.forall_mem_cons.mpr ⟨lw_p63, fun _ h => absurd h List.not_mem_nil⟩⟩⟩⟩⟩⟩⟩⟩⟩⟩⟩⟩⟩⟩⟩⟩
theorem lw_p64 : lw_okq (⟨"CodeExchangeModel", "few", "(I)V"⟩, 69) := ⟨⟨by decide +kernel, by decide +kernel⟩, lw_t6 (List.mem_of_getElem? (i := 90) rfl), lw_t7 (List.mem_of_getElem? (i := 193) rfl), lw_t7 (List.mem_of_getElem? (i := 194) rfl)⟩
theorem lw_p65 : lw_okq (⟨"CodeExchangeModel", "readAll", "(II[I)I"⟩, 69) := ⟨⟨by decide +kernel, by decide +kernel⟩, lw_t6 (List.mem_of_getElem? (i := 90) rfl), lw_t7 (List.mem_of_getElem? (i := 214) rfl), lw_t7 (List.mem_of_getElem? (i := 215) rfl)⟩
theorem lw_p66 : lw_okq (⟨"CodeExchangeModel", "readOne", "(II[IIIZ)I"⟩, 69) := ⟨⟨by decide +kernel, by decide +kernel⟩, lw_t6 (List.mem_of_getElem? (i := 90) rfl), lw_t7 (List.mem_of_getElem? (i := 218) rfl), lw_t7 (List.mem_of_getElem? (i := 219) rfl)⟩
theorem lw_p67 : lw_okq (⟨"CodeExchangeModel", "look", "(I[III)I"⟩, 69) := ⟨⟨by decide +kernel, by decide +kernel⟩, lw_t6 (List.mem_of_getElem? (i := 90) rfl), lw_t7 (List.mem_of_getElem? (i := 222) rfl), lw_t7 (List.mem_of_getElem? (i := 223) rfl)⟩
theorem lw_p68 : lw_okq (⟨"CodeExchangeModel", "lookFew", "([III)I"⟩, 69) := ⟨⟨by decide +kernel, by decide +kernel⟩, lw_t6 (List.mem_of_getElem? (i := 90) rfl), lw_t7 (List.mem_of_getElem? (i := 226) rfl), lw_t7 (List.mem_of_getElem? (i := 227) rfl)⟩
theorem lw_p69 : lw_okq (⟨"CodeExchangeModel", "lookUnits", "(Z[III)I"⟩, 69) := ⟨⟨by decide +kernel, by decide +kernel⟩, lw_t6 (List.mem_of_getElem? (i := 90) rfl), lw_t7 (List.mem_of_getElem? (i := 230) rfl), lw_t7 (List.mem_of_getElem? (i := 231) rfl)⟩
theorem lw_p70 : lw_okq (⟨"CodeExchangeModel", "putUnits", "(I)V"⟩, 69) := ⟨⟨by decide +kernel, by decide +kernel⟩, lw_t6 (List.mem_of_getElem? (i := 90) rfl), lw_t8 (List.mem_of_getElem? (i := 1) rfl), lw_t8 (List.mem_of_getElem? (i := 2) rfl)⟩
theorem lw_p71 : lw_okq (⟨"CodeExchangeModel", "put", "(I)V"⟩, 69) := ⟨⟨by decide +kernel, by decide +kernel⟩, lw_t6 (List.mem_of_getElem? (i := 90) rfl), lw_t8 (List.mem_of_getElem? (i := 5) rfl), lw_t8 (List.mem_of_getElem? (i := 6) rfl)⟩
theorem lw_p72 : lw_okq (⟨"CodeExchangeModel", "resultOf", "([III)I"⟩, 69) := ⟨⟨by decide +kernel, by decide +kernel⟩, lw_t6 (List.mem_of_getElem? (i := 90) rfl), lw_t8 (List.mem_of_getElem? (i := 9) rfl), lw_t8 (List.mem_of_getElem? (i := 10) rfl)⟩
theorem lw_p73 : lw_okq (⟨"CodeExchangeModel", "writeAll", "(II[IIII)I"⟩, 69) := ⟨⟨by decide +kernel, by decide +kernel⟩, lw_t6 (List.mem_of_getElem? (i := 90) rfl), lw_t8 (List.mem_of_getElem? (i := 17) rfl), lw_t8 (List.mem_of_getElem? (i := 18) rfl)⟩
theorem lw_p74 : lw_okq (⟨"CodeExchangeModel", "writePoint", "(III)I"⟩, 69) := ⟨⟨by decide +kernel, by decide +kernel⟩, lw_t6 (List.mem_of_getElem? (i := 90) rfl), lw_t8 (List.mem_of_getElem? (i := 21) rfl), lw_t8 (List.mem_of_getElem? (i := 22) rfl)⟩
theorem lw_p75 : lw_okq (⟨"CodeExchangeModel", "putPoint", "(I)I"⟩, 69) := ⟨⟨by decide +kernel, by decide +kernel⟩, lw_t6 (List.mem_of_getElem? (i := 90) rfl), lw_t8 (List.mem_of_getElem? (i := 25) rfl), lw_t8 (List.mem_of_getElem? (i := 26) rfl)⟩
theorem lw_p76 : lw_okq (⟨"CodeExchangeModel", "go", "(IIZ)I"⟩, 69) := ⟨⟨by decide +kernel, by decide +kernel⟩, lw_t6 (List.mem_of_getElem? (i := 90) rfl), lw_t8 (List.mem_of_getElem? (i := 29) rfl), lw_t8 (List.mem_of_getElem? (i := 30) rfl)⟩
theorem lw_p77 : lw_okq (⟨"CodeExchangeModel", "leads", "(IIIIZ)Z"⟩, 69) := ⟨⟨by decide +kernel, by decide +kernel⟩, lw_t6 (List.mem_of_getElem? (i := 90) rfl), lw_t8 (List.mem_of_getElem? (i := 33) rfl), lw_t8 (List.mem_of_getElem? (i := 34) rfl)⟩
theorem lw_p78 : lw_okq (⟨"CodeExchangeModel", "putByte", "(I)I"⟩, 69) := ⟨⟨by decide +kernel, by decide +kernel⟩, lw_t6 (List.mem_of_getElem? (i := 90) rfl), lw_t8 (List.mem_of_getElem? (i := 37) rfl), lw_t8 (List.mem_of_getElem? (i := 38) rfl)⟩
theorem lw_p79 : lw_okq (⟨"CodeExchangeModel", "falls", "(II)Z"⟩, 69) := ⟨⟨by decide +kernel, by decide +kernel⟩, lw_t6 (List.mem_of_getElem? (i := 90) rfl), lw_t8 (List.mem_of_getElem? (i := 41) rfl), lw_t8 (List.mem_of_getElem? (i := 42) rfl)⟩
def lw_privs_5 : List (MethodName × Nat) := [(⟨"CodeExchangeModel", "few", "(I)V"⟩, 69), (⟨"CodeExchangeModel", "readAll", "(II[I)I"⟩, 69), (⟨"CodeExchangeModel", "readOne", "(II[IIIZ)I"⟩, 69), (⟨"CodeExchangeModel", "look", "(I[III)I"⟩, 69), (⟨"CodeExchangeModel", "lookFew", "([III)I"⟩, 69), (⟨"CodeExchangeModel", "lookUnits", "(Z[III)I"⟩, 69), (⟨"CodeExchangeModel", "putUnits", "(I)V"⟩, 69), (⟨"CodeExchangeModel", "put", "(I)V"⟩, 69), (⟨"CodeExchangeModel", "resultOf", "([III)I"⟩, 69), (⟨"CodeExchangeModel", "writeAll", "(II[IIII)I"⟩, 69), (⟨"CodeExchangeModel", "writePoint", "(III)I"⟩, 69), (⟨"CodeExchangeModel", "putPoint", "(I)I"⟩, 69), (⟨"CodeExchangeModel", "go", "(IIZ)I"⟩, 69), (⟨"CodeExchangeModel", "leads", "(IIIIZ)Z"⟩, 69), (⟨"CodeExchangeModel", "putByte", "(I)I"⟩, 69), (⟨"CodeExchangeModel", "falls", "(II)Z"⟩, 69)]
theorem lw_r5 : ∀ q ∈ lw_privs_5, lw_okq q := List.forall_mem_cons.mpr ⟨lw_p64, List.forall_mem_cons.mpr ⟨lw_p65, List.forall_mem_cons.mpr ⟨lw_p66, List.forall_mem_cons.mpr ⟨lw_p67, List.forall_mem_cons.mpr ⟨lw_p68, List.forall_mem_cons.mpr ⟨lw_p69, List.forall_mem_cons.mpr ⟨lw_p70, List.forall_mem_cons.mpr ⟨lw_p71, List.forall_mem_cons.mpr ⟨lw_p72, List.forall_mem_cons.mpr ⟨lw_p73, List.forall_mem_cons.mpr ⟨lw_p74, List.forall_mem_cons.mpr ⟨lw_p75, List.forall_mem_cons.mpr ⟨lw_p76, List.forall_mem_cons.mpr ⟨lw_p77, List.forall_mem_cons.mpr ⟨lw_p78, List.forall_mem_cons.mpr ⟨lw_p79, fun _ h => absurd h List.not_mem_nil⟩⟩⟩⟩⟩⟩⟩⟩⟩⟩⟩⟩⟩⟩⟩⟩
theorem lw_p80 : lw_okq (⟨"CodeExchangeModel", "fallbackOf", "(I)I"⟩, 69) := ⟨⟨by decide +kernel, by decide +kernel⟩, lw_t6 (List.mem_of_getElem? (i := 90) rfl), lw_t8 (List.mem_of_getElem? (i := 45) rfl), lw_t8 (List.mem_of_getElem? (i := 46) rfl)⟩
theorem lw_p81 : lw_okq (⟨"CodeExchangeModel", "fall", "(II)I"⟩, 69) := ⟨⟨by decide +kernel, by decide +kernel⟩, lw_t6 (List.mem_of_getElem? (i := 90) rfl), lw_t8 (List.mem_of_getElem? (i := 49) rfl), lw_t8 (List.mem_of_getElem? (i := 50) rfl)⟩
theorem lw_p82 : lw_okq (⟨"CodeExchangeModel", "writeLone", "(III)I"⟩, 69) := ⟨⟨by decide +kernel, by decide +kernel⟩, lw_t6 (List.mem_of_getElem? (i := 90) rfl), lw_t8 (List.mem_of_getElem? (i := 53) rfl), lw_t8 (List.mem_of_getElem? (i := 54) rfl)⟩
theorem lw_p83 : lw_okq (⟨"CodeExchangeModel", "goHome", "(I)I"⟩, 69) := ⟨⟨by decide +kernel, by decide +kernel⟩, lw_t6 (List.mem_of_getElem? (i := 90) rfl), lw_t8 (List.mem_of_getElem? (i := 58) rfl), lw_t8 (List.mem_of_getElem? (i := 59) rfl)⟩
theorem lw_p84 : lw_okq (⟨"CodeExchangeModel", "comesBack", "(I)Z"⟩, 69) := ⟨⟨by decide +kernel, by decide +kernel⟩, lw_t6 (List.mem_of_getElem? (i := 90) rfl), lw_t8 (List.mem_of_getElem? (i := 78) rfl), lw_t8 (List.mem_of_getElem? (i := 79) rfl)⟩
theorem lw_p85 : lw_okq (⟨"CodeExchangeModel", "length", "(I[I)I"⟩, 69) := ⟨⟨by decide +kernel, by decide +kernel⟩, lw_t6 (List.mem_of_getElem? (i := 90) rfl), lw_t8 (List.mem_of_getElem? (i := 82) rfl), lw_t8 (List.mem_of_getElem? (i := 83) rfl)⟩
theorem lw_p86 : lw_okq (⟨"CodeExchangeModel", "writes", "(II)I"⟩, 69) := ⟨⟨by decide +kernel, by decide +kernel⟩, lw_t6 (List.mem_of_getElem? (i := 90) rfl), lw_t8 (List.mem_of_getElem? (i := 95) rfl), lw_t8 (List.mem_of_getElem? (i := 96) rfl)⟩
theorem lw_p87 : lw_okq (⟨"CodeExchangeModel", "load", "(I)V"⟩, 69) := ⟨⟨by decide +kernel, by decide +kernel⟩, lw_t6 (List.mem_of_getElem? (i := 90) rfl), lw_t8 (List.mem_of_getElem? (i := 99) rfl), lw_t8 (List.mem_of_getElem? (i := 100) rfl)⟩
theorem lw_p88 : lw_okq (⟨"CodeExchangeModel", "store", "(III)I"⟩, 69) := ⟨⟨by decide +kernel, by decide +kernel⟩, lw_t6 (List.mem_of_getElem? (i := 90) rfl), lw_t8 (List.mem_of_getElem? (i := 103) rfl), lw_t8 (List.mem_of_getElem? (i := 104) rfl)⟩
theorem lw_p89 : lw_okq (⟨"CodeExchangeModel", "reads", "(IZ)I"⟩, 69) := ⟨⟨by decide +kernel, by decide +kernel⟩, lw_t6 (List.mem_of_getElem? (i := 90) rfl), lw_t8 (List.mem_of_getElem? (i := 107) rfl), lw_t8 (List.mem_of_getElem? (i := 108) rfl)⟩
theorem lw_p90 : lw_okq (⟨"CodeExchangeModel", "aloneOf", "(II)I"⟩, 69) := ⟨⟨by decide +kernel, by decide +kernel⟩, lw_t6 (List.mem_of_getElem? (i := 90) rfl), lw_t8 (List.mem_of_getElem? (i := 131) rfl), lw_t8 (List.mem_of_getElem? (i := 132) rfl)⟩
theorem lw_p91 : lw_okq (⟨"CodeExchangeModel", "sumOf", "([II)I"⟩, 69) := ⟨⟨by decide +kernel, by decide +kernel⟩, lw_t6 (List.mem_of_getElem? (i := 90) rfl), lw_t8 (List.mem_of_getElem? (i := 156) rfl), lw_t8 (List.mem_of_getElem? (i := 157) rfl)⟩
theorem lw_p92 : lw_okq (⟨"CodeExchangeModel", "takeIn", "(I)Z"⟩, 69) := ⟨⟨by decide +kernel, by decide +kernel⟩, lw_t6 (List.mem_of_getElem? (i := 90) rfl), lw_t8 (List.mem_of_getElem? (i := 165) rfl), lw_t8 (List.mem_of_getElem? (i := 166) rfl)⟩
theorem lw_p93 : lw_okq (⟨"CodeExchangeModel", "next", "()I"⟩, 69) := ⟨⟨by decide +kernel, by decide +kernel⟩, lw_t6 (List.mem_of_getElem? (i := 90) rfl), lw_t8 (List.mem_of_getElem? (i := 169) rfl), lw_t8 (List.mem_of_getElem? (i := 170) rfl)⟩
theorem lw_p94 : lw_okq (⟨"CodeExchangeModel", "takeEntry", "(I)Z"⟩, 69) := ⟨⟨by decide +kernel, by decide +kernel⟩, lw_t6 (List.mem_of_getElem? (i := 90) rfl), lw_t8 (List.mem_of_getElem? (i := 173) rfl), lw_t8 (List.mem_of_getElem? (i := 174) rfl)⟩
theorem lw_p95 : lw_okq (⟨"CodeExchangeModel", "takeShift", "(I)Z"⟩, 69) := ⟨⟨by decide +kernel, by decide +kernel⟩, lw_t6 (List.mem_of_getElem? (i := 90) rfl), lw_t8 (List.mem_of_getElem? (i := 177) rfl), lw_t8 (List.mem_of_getElem? (i := 178) rfl)⟩
def lw_privs_6 : List (MethodName × Nat) := [(⟨"CodeExchangeModel", "fallbackOf", "(I)I"⟩, 69), (⟨"CodeExchangeModel", "fall", "(II)I"⟩, 69), (⟨"CodeExchangeModel", "writeLone", "(III)I"⟩, 69), (⟨"CodeExchangeModel", "goHome", "(I)I"⟩, 69), (⟨"CodeExchangeModel", "comesBack", "(I)Z"⟩, 69), (⟨"CodeExchangeModel", "length", "(I[I)I"⟩, 69), (⟨"CodeExchangeModel", "writes", "(II)I"⟩, 69), (⟨"CodeExchangeModel", "load", "(I)V"⟩, 69), (⟨"CodeExchangeModel", "store", "(III)I"⟩, 69), (⟨"CodeExchangeModel", "reads", "(IZ)I"⟩, 69), (⟨"CodeExchangeModel", "aloneOf", "(II)I"⟩, 69), (⟨"CodeExchangeModel", "sumOf", "([II)I"⟩, 69), (⟨"CodeExchangeModel", "takeIn", "(I)Z"⟩, 69), (⟨"CodeExchangeModel", "next", "()I"⟩, 69), (⟨"CodeExchangeModel", "takeEntry", "(I)Z"⟩, 69), (⟨"CodeExchangeModel", "takeShift", "(I)Z"⟩, 69)]
theorem lw_r6 : ∀ q ∈ lw_privs_6, lw_okq q := List.forall_mem_cons.mpr ⟨lw_p80, List.forall_mem_cons.mpr ⟨lw_p81, List.forall_mem_cons.mpr ⟨lw_p82, List.forall_mem_cons.mpr ⟨lw_p83, List.forall_mem_cons.mpr ⟨lw_p84, List.forall_mem_cons.mpr ⟨lw_p85, List.forall_mem_cons.mpr ⟨lw_p86, List.forall_mem_cons.mpr ⟨lw_p87, List.forall_mem_cons.mpr ⟨lw_p88, List.forall_mem_cons.mpr ⟨lw_p89, List.forall_mem_cons.mpr ⟨lw_p90, List.forall_mem_cons.mpr ⟨lw_p91, List.forall_mem_cons.mpr ⟨lw_p92, List.forall_mem_cons.mpr ⟨lw_p93, List.forall_mem_cons.mpr ⟨lw_p94, List.forall_mem_cons.mpr ⟨lw_p95, fun _ h => absurd h List.not_mem_nil⟩⟩⟩⟩⟩⟩⟩⟩⟩⟩⟩⟩⟩⟩⟩⟩
def lw_privs : List (MethodName × Nat) := lw_privs_1 ++ (lw_privs_2 ++ (lw_privs_3 ++ (lw_privs_4 ++ (lw_privs_5 ++ (lw_privs_6)))))
def lw_tbl : List Cond := k2_sels lw_privs ++ tables_1
theorem lw_privs_ok : ∀ q ∈ lw_privs, lw_okq q := by
  show ∀ q ∈ lw_privs_1 ++ (lw_privs_2 ++ (lw_privs_3 ++ (lw_privs_4 ++ (lw_privs_5 ++ (lw_privs_6))))), lw_okq q
  exact List.forall_mem_append.mpr ⟨lw_r1, List.forall_mem_append.mpr ⟨lw_r2, List.forall_mem_append.mpr ⟨lw_r3, List.forall_mem_append.mpr ⟨lw_r4, List.forall_mem_append.mpr ⟨lw_r5, lw_r6⟩⟩⟩⟩⟩
-- ===== ONE list of words for every method: the tables' words that hold all through a run =====
def lw_all : List Cond := lw_tbl.filter goodWord
/-- a word of the tables by its place: claim/WORDS.tsv -/
theorem lw_w {w : Cond} (i : Nat) (h : lw_tbl[i]? = some w) (g : goodWord w = true) : w ∈ lw_all := List.mem_filter.mpr ⟨List.mem_of_getElem? h, g⟩
theorem lw_all_tbl {w : Cond} (h : w ∈ lw_all) : w ∈ lw_tbl := (List.mem_filter.mp h).1
theorem lw_self : GoodIn lw_all lw_all := fun w h => ⟨h, good_of_word (List.mem_filter.mp h).2⟩
/-- a class's field words, by their places -/
theorem lw_in (ws : List Cond) (ps : List Nat) (hp : ws = ps.filterMap (fun i => lw_tbl[i]?)) (hg : ws.all goodWord = true) : ∀ w ∈ ws, w ∈ lw_all := by
  intro w h
  have h1 := List.all_eq_true.mp hg w h
  rw [hp] at h
  obtain ⟨i, -, hi⟩ := List.mem_filterMap.mp h
  exact lw_w i hi h1
/-- the words of a contract for the method y with code b, L locals, answer r -/
abbrev ws_ (y : MethodName) (b : ByteArray) (L : Nat) (r : Option FieldType) : List Cond := Cond.code y b L r :: lw_all
theorem lw_meth {y : MethodName} {b : ByteArray} {L : Nat} {r : Option FieldType} (h : Cond.code y b L r ∈ lw_all) : GoodIn lw_all (ws_ y b L r) := by
  intro w hw
  rcases List.mem_cons.mp hw with e | e
  · rw [e]
    exact lw_self _ h
  · exact lw_self _ e
theorem lw_app {a c : List Cond} (ha : ∀ w ∈ a, w ∈ lw_all) (hc : GoodIn lw_all c) : GoodIn lw_all (a ++ c) := by
  intro w hw
  rcases List.mem_append.mp hw with e | e
  · exact lw_self w (ha w e)
  · exact hc w e
/-- what a call through an object asks: cwV n hts (lw_V ..) -/
theorem lw_V {own : String} {idx : Nat} {C : String} {y : MethodName} {b : ByteArray} {L : Nat} {r : Option FieldType} (h1 : Cond.methodLink own idx y ∈ lw_all) (h2 : Cond.instanceMethod y ∈ lw_all) (h3 : Cond.selects C y y ∈ lw_all) (h4 : Cond.initialized C ∈ lw_all) (h5 : Cond.code y b L r ∈ lw_all) : GoodIn lw_all (wsV own idx C y (ws_ y b L r)) := by
  refine lw_app ?_ (lw_meth h5)
  intro w hw
  simp only [List.mem_cons, List.not_mem_nil, or_false] at hw
  rcases hw with e | e | e | e
  · rw [e]; exact h1
  · rw [e]; exact h2
  · rw [e]; exact h3
  · rw [e]; exact h4
/-- what a static call asks: va_cwS n hts (lw_S ..) -/
theorem lw_S {own : String} {idx : Nat} {y : MethodName} {b : ByteArray} {L : Nat} {r : Option FieldType} (h1 : Cond.methodLink own idx y ∈ lw_all) (h2 : Cond.static y ∈ lw_all) (h3 : Cond.initialized y.cls ∈ lw_all) (h4 : Cond.code y b L r ∈ lw_all) : GoodIn lw_all (va_wsS own idx y (ws_ y b L r)) := by
  refine lw_app ?_ (lw_meth h4)
  intro w hw
  simp only [List.mem_cons, List.not_mem_nil, or_false] at hw
  rcases hw with e | e | e
  · rw [e]; exact h1
  · rw [e]; exact h2
  · rw [e]; exact h3
/-- the words of a contract for a method WITH HANDLERS (hh: its table) -/
abbrev wsW_ (y : MethodName) (b : ByteArray) (L : Nat) (r : Option FieldType) (hh : List (Nat × Nat × Nat × Nat)) : List Cond := Cond.codeWith y b L r hh :: lw_all
theorem lw_methW {y : MethodName} {b : ByteArray} {L : Nat} {r : Option FieldType} {hh : List (Nat × Nat × Nat × Nat)} (h : Cond.codeWith y b L r hh ∈ lw_all) : GoodIn lw_all (wsW_ y b L r hh) := by
  intro w hw
  rcases List.mem_cons.mp hw with e | e
  · rw [e]
    exact lw_self _ h
  · exact lw_self _ e
/-- any list of words by their places (lw_in), good -/
theorem lw_good {ws : List Cond} (h : ∀ w ∈ ws, w ∈ lw_all) : GoodIn lw_all ws := fun w hw => lw_self w (h w hw)
/-- what a call of a method with handlers asks: vx_cwVW n hts (lw_VW ..), vx_cwSW n hts (lw_SW ..) -/
theorem lw_VW {own : String} {idx : Nat} {C : String} {y : MethodName} {b : ByteArray} {L : Nat} {r : Option FieldType} {hh : List (Nat × Nat × Nat × Nat)} (h1 : Cond.methodLink own idx y ∈ lw_all) (h2 : Cond.instanceMethod y ∈ lw_all) (h3 : Cond.selects C y y ∈ lw_all) (h4 : Cond.initialized C ∈ lw_all) (h5 : Cond.codeWith y b L r hh ∈ lw_all) : GoodIn lw_all (wsV own idx C y (wsW_ y b L r hh)) := by
  refine lw_app ?_ (lw_methW h5)
  intro w hw
  simp only [List.mem_cons, List.not_mem_nil, or_false] at hw
  rcases hw with e | e | e | e
  · rw [e]; exact h1
  · rw [e]; exact h2
  · rw [e]; exact h3
  · rw [e]; exact h4
theorem lw_SW {own : String} {idx : Nat} {y : MethodName} {b : ByteArray} {L : Nat} {r : Option FieldType} {hh : List (Nat × Nat × Nat × Nat)} (h1 : Cond.methodLink own idx y ∈ lw_all) (h2 : Cond.static y ∈ lw_all) (h3 : Cond.initialized y.cls ∈ lw_all) (h4 : Cond.codeWith y b L r hh ∈ lw_all) : GoodIn lw_all (va_wsS own idx y (wsW_ y b L r hh)) := by
  refine lw_app ?_ (lw_methW h4)
  intro w hw
  simp only [List.mem_cons, List.not_mem_nil, or_false] at hw
  rcases hw with e | e | e
  · rw [e]; exact h1
  · rw [e]; exact h2
  · rw [e]; exact h3
/-- a word by its place in its run of the tables -/
theorem lw_at {r : List Cond} (hr : ∀ w ∈ r, w ∈ lw_tbl) {w : Cond} (i : Nat) (h : r[i]? = some w) : w ∈ lw_tbl := hr w (List.mem_of_getElem? h)
theorem lw_g {w : Cond} (h : w ∈ lw_tbl) (g : goodWord w = true) : w ∈ lw_all := List.mem_filter.mpr ⟨h, g⟩
theorem lw_ms : ∀ w ∈ k2_sels lw_privs, w ∈ lw_tbl := fun w h => show w ∈ k2_sels lw_privs ++ tables_1 from List.mem_append_left _ h
theorem lw_m1 : ∀ w ∈ tables_1_1, w ∈ lw_tbl := fun w h => show w ∈ k2_sels lw_privs ++ tables_1 from List.mem_append_right (k2_sels lw_privs) (show w ∈ tables_1 from List.mem_append_left _ h)
theorem lw_m2 : ∀ w ∈ tables_1_2, w ∈ lw_tbl := fun w h => show w ∈ k2_sels lw_privs ++ tables_1 from List.mem_append_right (k2_sels lw_privs) (show w ∈ tables_1 from List.mem_append_right _ (List.mem_append_left _ h))
theorem lw_m3 : ∀ w ∈ tables_1_3, w ∈ lw_tbl := fun w h => show w ∈ k2_sels lw_privs ++ tables_1 from List.mem_append_right (k2_sels lw_privs) (show w ∈ tables_1 from List.mem_append_right _ (List.mem_append_right _ (List.mem_append_left _ h)))
theorem lw_m4 : ∀ w ∈ tables_1_4, w ∈ lw_tbl := fun w h => show w ∈ k2_sels lw_privs ++ tables_1 from List.mem_append_right (k2_sels lw_privs) (show w ∈ tables_1 from List.mem_append_right _ (List.mem_append_right _ (List.mem_append_right _ (List.mem_append_left _ h))))
theorem lw_m5 : ∀ w ∈ tables_1_5, w ∈ lw_tbl := fun w h => show w ∈ k2_sels lw_privs ++ tables_1 from List.mem_append_right (k2_sels lw_privs) (show w ∈ tables_1 from List.mem_append_right _ (List.mem_append_right _ (List.mem_append_right _ (List.mem_append_right _ (List.mem_append_left _ h)))))
theorem lw_m6 : ∀ w ∈ tables_1_6, w ∈ lw_tbl := fun w h => show w ∈ k2_sels lw_privs ++ tables_1 from List.mem_append_right (k2_sels lw_privs) (show w ∈ tables_1 from List.mem_append_right _ (List.mem_append_right _ (List.mem_append_right _ (List.mem_append_right _ (List.mem_append_right _ (List.mem_append_left _ h))))))
theorem lw_m7 : ∀ w ∈ tables_1_7, w ∈ lw_tbl := fun w h => show w ∈ k2_sels lw_privs ++ tables_1 from List.mem_append_right (k2_sels lw_privs) (show w ∈ tables_1 from List.mem_append_right _ (List.mem_append_right _ (List.mem_append_right _ (List.mem_append_right _ (List.mem_append_right _ (List.mem_append_right _ (List.mem_append_left _ h)))))))
theorem lw_m8 : ∀ w ∈ tables_1_8, w ∈ lw_tbl := fun w h => show w ∈ k2_sels lw_privs ++ tables_1 from List.mem_append_right (k2_sels lw_privs) (show w ∈ tables_1 from List.mem_append_right _ (List.mem_append_right _ (List.mem_append_right _ (List.mem_append_right _ (List.mem_append_right _ (List.mem_append_right _ (List.mem_append_right _ h)))))))
theorem qs0 : (Cond.selects "java/lang/NullPointerException" ⟨"java/lang/NullPointerException", "getExtendedNPEMessage", "()Ljava/lang/String;"⟩ ⟨"java/lang/NullPointerException", "getExtendedNPEMessage", "()Ljava/lang/String;"⟩) ∈ lw_all := lw_g (lw_at lw_ms 0 rfl) rfl
theorem qs1 : (Cond.selects "java/lang/Throwable" ⟨"java/lang/Throwable", "fillInStackTrace", "(I)Ljava/lang/Throwable;"⟩ ⟨"java/lang/Throwable", "fillInStackTrace", "(I)Ljava/lang/Throwable;"⟩) ∈ lw_all := lw_g (lw_at lw_ms 1 rfl) rfl
theorem qs2 : (Cond.selects "CodeExchange" ⟨"CodeExchange", "answer", "(I)I"⟩ ⟨"CodeExchange", "answer", "(I)I"⟩) ∈ lw_all := lw_g (lw_at lw_ms 2 rfl) rfl
theorem qs3 : (Cond.selects "CodeExchange" ⟨"CodeExchange", "comes", "(LCodeExchange$Page;)I"⟩ ⟨"CodeExchange", "comes", "(LCodeExchange$Page;)I"⟩) ∈ lw_all := lw_g (lw_at lw_ms 3 rfl) rfl
theorem qs4 : (Cond.selects "CodeExchange" ⟨"CodeExchange", "tableAt", "(II)LCodeExchange$Table;"⟩ ⟨"CodeExchange", "tableAt", "(II)LCodeExchange$Table;"⟩) ∈ lw_all := lw_g (lw_at lw_ms 4 rfl) rfl
theorem qs5 : (Cond.selects "CodeExchange" ⟨"CodeExchange", "thingAt", "(I)Ljava/lang/Object;"⟩ ⟨"CodeExchange", "thingAt", "(I)Ljava/lang/Object;"⟩) ∈ lw_all := lw_g (lw_at lw_ms 5 rfl) rfl
theorem qs6 : (Cond.selects "CodeExchange" ⟨"CodeExchange", "refused", "(I)LCodeExchange$Refusal;"⟩ ⟨"CodeExchange", "refused", "(I)LCodeExchange$Refusal;"⟩) ∈ lw_all := lw_g (lw_at lw_ms 6 rfl) rfl
theorem qs7 : (Cond.selects "CodeExchange" ⟨"CodeExchange", "need", "(ZI)V"⟩ ⟨"CodeExchange", "need", "(ZI)V"⟩) ∈ lw_all := lw_g (lw_at lw_ms 7 rfl) rfl
theorem qs8 : (Cond.selects "CodeExchange$Table" ⟨"CodeExchange$Table", "walk", "()V"⟩ ⟨"CodeExchange$Table", "walk", "()V"⟩) ∈ lw_all := lw_g (lw_at lw_ms 8 rfl) rfl
theorem qs9 : (Cond.selects "CodeExchange$Table" ⟨"CodeExchange$Table", "better", "([I[JIIJ)V"⟩ ⟨"CodeExchange$Table", "better", "([I[JIIJ)V"⟩) ∈ lw_all := lw_g (lw_at lw_ms 9 rfl) rfl
theorem qs10 : (Cond.selects "CodeExchange$Table" ⟨"CodeExchange$Table", "walkTo", "(II)V"⟩ ⟨"CodeExchange$Table", "walkTo", "(II)V"⟩) ∈ lw_all := lw_g (lw_at lw_ms 10 rfl) rfl
theorem qs11 : (Cond.selects "CodeExchange$Table" ⟨"CodeExchange$Table", "isClashing", "()Z"⟩ ⟨"CodeExchange$Table", "isClashing", "()Z"⟩) ∈ lw_all := lw_g (lw_at lw_ms 11 rfl) rfl
theorem qs12 : (Cond.selects "CodeExchange$Table" ⟨"CodeExchange$Table", "next", "(I)I"⟩ ⟨"CodeExchange$Table", "next", "(I)I"⟩) ∈ lw_all := lw_g (lw_at lw_ms 12 rfl) rfl
theorem qs13 : (Cond.selects "CodeExchange$Table" ⟨"CodeExchange$Table", "clash", "(II)Z"⟩ ⟨"CodeExchange$Table", "clash", "(II)Z"⟩) ∈ lw_all := lw_g (lw_at lw_ms 13 rfl) rfl
theorem qs14 : (Cond.selects "CodeExchange$Table" ⟨"CodeExchange$Table", "lengthOf", "(I)I"⟩ ⟨"CodeExchange$Table", "lengthOf", "(I)I"⟩) ∈ lw_all := lw_g (lw_at lw_ms 14 rfl) rfl
theorem qs15 : (Cond.selects "CodeExchange$Table" ⟨"CodeExchange$Table", "stateOf", "(I)I"⟩ ⟨"CodeExchange$Table", "stateOf", "(I)I"⟩) ∈ lw_all := lw_g (lw_at lw_ms 15 rfl) rfl
theorem qs16 : (Cond.selects "CodeExchange$Table" ⟨"CodeExchange$Table", "keyOf", "(I)I"⟩ ⟨"CodeExchange$Table", "keyOf", "(I)I"⟩) ∈ lw_all := lw_g (lw_at lw_ms 16 rfl) rfl
theorem qs17 : (Cond.selects "CodeExchange$Table" ⟨"CodeExchange$Table", "breaks", "(III)Z"⟩ ⟨"CodeExchange$Table", "breaks", "(III)Z"⟩) ∈ lw_all := lw_g (lw_at lw_ms 17 rfl) rfl
theorem qs18 : (Cond.selects "CodeExchange$Table" ⟨"CodeExchange$Table", "isDoubtful", "()Z"⟩ ⟨"CodeExchange$Table", "isDoubtful", "()Z"⟩) ∈ lw_all := lw_g (lw_at lw_ms 18 rfl) rfl
theorem qs19 : (Cond.selects "CodeExchange$Table" ⟨"CodeExchange$Table", "isStuck", "()Z"⟩ ⟨"CodeExchange$Table", "isStuck", "()Z"⟩) ∈ lw_all := lw_g (lw_at lw_ms 19 rfl) rfl
theorem qs20 : (Cond.selects "CodeExchange$Table" ⟨"CodeExchange$Table", "isFar", "()Z"⟩ ⟨"CodeExchange$Table", "isFar", "()Z"⟩) ∈ lw_all := lw_g (lw_at lw_ms 20 rfl) rfl
theorem qs21 : (Cond.selects "CodeExchange" ⟨"CodeExchange", "pageAt", "(I)LCodeExchange$Page;"⟩ ⟨"CodeExchange", "pageAt", "(I)LCodeExchange$Page;"⟩) ∈ lw_all := lw_g (lw_at lw_ms 21 rfl) rfl
theorem qs22 : (Cond.selects "CodeExchange" ⟨"CodeExchange", "closedAt", "(I)LCodeExchange$Page;"⟩ ⟨"CodeExchange", "closedAt", "(I)LCodeExchange$Page;"⟩) ∈ lw_all := lw_g (lw_at lw_ms 22 rfl) rfl
theorem qs23 : (Cond.selects "CodeExchange$Table" ⟨"CodeExchange$Table", "entryOf", "(I)I"⟩ ⟨"CodeExchange$Table", "entryOf", "(I)I"⟩) ∈ lw_all := lw_g (lw_at lw_ms 23 rfl) rfl
theorem qs24 : (Cond.selects "CodeExchange$Table" ⟨"CodeExchange$Table", "below", "(I)I"⟩ ⟨"CodeExchange$Table", "below", "(I)I"⟩) ∈ lw_all := lw_g (lw_at lw_ms 24 rfl) rfl
theorem qs25 : (Cond.selects "CodeExchange" ⟨"CodeExchange", "run", "(LCodeExchange$Machine;LCodeExchange$Page;I[IILCodeExchange$Row;)V"⟩ ⟨"CodeExchange", "run", "(LCodeExchange$Machine;LCodeExchange$Page;I[IILCodeExchange$Row;)V"⟩) ∈ lw_all := lw_g (lw_at lw_ms 25 rfl) rfl
theorem qs26 : (Cond.selects "CodeExchange$Reader" ⟨"CodeExchange$Reader", "read", "(Z)V"⟩ ⟨"CodeExchange$Reader", "read", "(Z)V"⟩) ∈ lw_all := lw_g (lw_at lw_ms 26 rfl) rfl
theorem qs27 : (Cond.selects "CodeExchange$Reader" ⟨"CodeExchange$Reader", "malformed", "()V"⟩ ⟨"CodeExchange$Reader", "malformed", "()V"⟩) ∈ lw_all := lw_g (lw_at lw_ms 27 rfl) rfl
theorem qs28 : (Cond.selects "CodeExchange$Reader" ⟨"CodeExchange$Reader", "skip", "(I)V"⟩ ⟨"CodeExchange$Reader", "skip", "(I)V"⟩) ∈ lw_all := lw_g (lw_at lw_ms 28 rfl) rfl
theorem qs29 : (Cond.selects "CodeExchange$Writer" ⟨"CodeExchange$Writer", "all", "(II)V"⟩ ⟨"CodeExchange$Writer", "all", "(II)V"⟩) ∈ lw_all := lw_g (lw_at lw_ms 29 rfl) rfl
theorem qs30 : (Cond.selects "CodeExchange$Writer" ⟨"CodeExchange$Writer", "write", "(I)V"⟩ ⟨"CodeExchange$Writer", "write", "(I)V"⟩) ∈ lw_all := lw_g (lw_at lw_ms 30 rfl) rfl
theorem qs31 : (Cond.selects "CodeExchange$Writer" ⟨"CodeExchange$Writer", "putBytes", "(J)V"⟩ ⟨"CodeExchange$Writer", "putBytes", "(J)V"⟩) ∈ lw_all := lw_g (lw_at lw_ms 31 rfl) rfl
theorem qs32 : (Cond.selects "CodeExchange$Writer" ⟨"CodeExchange$Writer", "expand", "(I)Z"⟩ ⟨"CodeExchange$Writer", "expand", "(I)Z"⟩) ∈ lw_all := lw_g (lw_at lw_ms 32 rfl) rfl
theorem qs33 : (Cond.selects "CodeExchange" ⟨"CodeExchange", "fallbackOf", "(I)I"⟩ ⟨"CodeExchange", "fallbackOf", "(I)I"⟩) ∈ lw_all := lw_g (lw_at lw_ms 33 rfl) rfl
theorem qs34 : (Cond.selects "CodeExchange" ⟨"CodeExchange", "becomes", "(I)I"⟩ ⟨"CodeExchange", "becomes", "(I)I"⟩) ∈ lw_all := lw_g (lw_at lw_ms 34 rfl) rfl
theorem qs35 : (Cond.selects "CodeExchange" ⟨"CodeExchange", "takeText", "()I"⟩ ⟨"CodeExchange", "takeText", "()I"⟩) ∈ lw_all := lw_g (lw_at lw_ms 35 rfl) rfl
theorem qs36 : (Cond.selects "CodeExchange" ⟨"CodeExchange", "setFallback", "(II)V"⟩ ⟨"CodeExchange", "setFallback", "(II)V"⟩) ∈ lw_all := lw_g (lw_at lw_ms 36 rfl) rfl
theorem qs37 : (Cond.selects "CodeExchange" ⟨"CodeExchange", "lay", "(III)V"⟩ ⟨"CodeExchange", "lay", "(III)V"⟩) ∈ lw_all := lw_g (lw_at lw_ms 37 rfl) rfl
theorem qs38 : (Cond.selects "CodeExchange" ⟨"CodeExchange", "areLengths", "()Z"⟩ ⟨"CodeExchange", "areLengths", "()Z"⟩) ∈ lw_all := lw_g (lw_at lw_ms 38 rfl) rfl
theorem qs39 : (Cond.selects "CodeExchange" ⟨"CodeExchange", "areShort", "()Z"⟩ ⟨"CodeExchange", "areShort", "()Z"⟩) ∈ lw_all := lw_g (lw_at lw_ms 39 rfl) rfl
theorem qs40 : (Cond.selects "CodeExchange" ⟨"CodeExchange", "machineAt", "(I)LCodeExchange$Machine;"⟩ ⟨"CodeExchange", "machineAt", "(I)LCodeExchange$Machine;"⟩) ∈ lw_all := lw_g (lw_at lw_ms 40 rfl) rfl
theorem qs41 : (Cond.selects "CodeExchange" ⟨"CodeExchange", "isWritten", "(LCodeExchange$Page;ILCodeExchange$Row;)Z"⟩ ⟨"CodeExchange", "isWritten", "(LCodeExchange$Page;ILCodeExchange$Row;)Z"⟩) ∈ lw_all := lw_g (lw_at lw_ms 41 rfl) rfl
theorem qs42 : (Cond.selects "CodeExchange" ⟨"CodeExchange", "faultsOf", "(LCodeExchange$Page;)I"⟩ ⟨"CodeExchange", "faultsOf", "(LCodeExchange$Page;)I"⟩) ∈ lw_all := lw_g (lw_at lw_ms 42 rfl) rfl
theorem qs43 : (Cond.selects "CodeExchange" ⟨"CodeExchange", "takeIn", "(LCodeExchange$Table;)V"⟩ ⟨"CodeExchange", "takeIn", "(LCodeExchange$Table;)V"⟩) ∈ lw_all := lw_g (lw_at lw_ms 43 rfl) rfl
theorem qs44 : (Cond.selects "CodeExchange" ⟨"CodeExchange", "next", "(II)I"⟩ ⟨"CodeExchange", "next", "(II)I"⟩) ∈ lw_all := lw_g (lw_at lw_ms 44 rfl) rfl
theorem qs45 : (Cond.selects "CodeExchange" ⟨"CodeExchange", "number", "(I)I"⟩ ⟨"CodeExchange", "number", "(I)I"⟩) ∈ lw_all := lw_g (lw_at lw_ms 45 rfl) rfl
theorem qs46 : (Cond.selects "CodeExchangeModel" ⟨"CodeExchangeModel", "tell", "(I)I"⟩ ⟨"CodeExchangeModel", "tell", "(I)I"⟩) ∈ lw_all := lw_g (lw_at lw_ms 46 rfl) rfl
theorem qs47 : (Cond.selects "CodeExchangeModel" ⟨"CodeExchangeModel", "isPage", "(I)Z"⟩ ⟨"CodeExchangeModel", "isPage", "(I)Z"⟩) ∈ lw_all := lw_g (lw_at lw_ms 47 rfl) rfl
theorem qs48 : (Cond.selects "CodeExchangeModel" ⟨"CodeExchangeModel", "copyEntry", "(II)V"⟩ ⟨"CodeExchangeModel", "copyEntry", "(II)V"⟩) ∈ lw_all := lw_g (lw_at lw_ms 48 rfl) rfl
theorem qs49 : (Cond.selects "CodeExchangeModel" ⟨"CodeExchangeModel", "copyShift", "(II)V"⟩ ⟨"CodeExchangeModel", "copyShift", "(II)V"⟩) ∈ lw_all := lw_g (lw_at lw_ms 49 rfl) rfl
theorem qs50 : (Cond.selects "CodeExchangeModel" ⟨"CodeExchangeModel", "fixed", "(I)I"⟩ ⟨"CodeExchangeModel", "fixed", "(I)I"⟩) ∈ lw_all := lw_g (lw_at lw_ms 50 rfl) rfl
theorem qs51 : (Cond.selects "CodeExchangeModel" ⟨"CodeExchangeModel", "entryOf", "(IIII)I"⟩ ⟨"CodeExchangeModel", "entryOf", "(IIII)I"⟩) ∈ lw_all := lw_g (lw_at lw_ms 51 rfl) rfl
theorem qs52 : (Cond.selects "CodeExchangeModel" ⟨"CodeExchangeModel", "shiftOf", "(III)I"⟩ ⟨"CodeExchangeModel", "shiftOf", "(III)I"⟩) ∈ lw_all := lw_g (lw_at lw_ms 52 rfl) rfl
theorem qs53 : (Cond.selects "CodeExchangeModel" ⟨"CodeExchangeModel", "isGood", "(I)Z"⟩ ⟨"CodeExchangeModel", "isGood", "(I)Z"⟩) ∈ lw_all := lw_g (lw_at lw_ms 53 rfl) rfl
theorem qs54 : (Cond.selects "CodeExchangeModel" ⟨"CodeExchangeModel", "stateOf", "(II)I"⟩ ⟨"CodeExchangeModel", "stateOf", "(II)I"⟩) ∈ lw_all := lw_g (lw_at lw_ms 54 rfl) rfl
theorem qs55 : (Cond.selects "CodeExchangeModel" ⟨"CodeExchangeModel", "begins", "(III)Z"⟩ ⟨"CodeExchangeModel", "begins", "(III)Z"⟩) ∈ lw_all := lw_g (lw_at lw_ms 55 rfl) rfl
theorem qs56 : (Cond.selects "CodeExchangeModel" ⟨"CodeExchangeModel", "manyOf", "(II)I"⟩ ⟨"CodeExchangeModel", "manyOf", "(II)I"⟩) ∈ lw_all := lw_g (lw_at lw_ms 56 rfl) rfl
theorem qs57 : (Cond.selects "CodeExchangeModel" ⟨"CodeExchangeModel", "bytesOf", "(II)I"⟩ ⟨"CodeExchangeModel", "bytesOf", "(II)I"⟩) ∈ lw_all := lw_g (lw_at lw_ms 57 rfl) rfl
theorem qs58 : (Cond.selects "CodeExchangeModel" ⟨"CodeExchangeModel", "numberOf", "(II)I"⟩ ⟨"CodeExchangeModel", "numberOf", "(II)I"⟩) ∈ lw_all := lw_g (lw_at lw_ms 58 rfl) rfl
theorem qs59 : (Cond.selects "CodeExchangeModel" ⟨"CodeExchangeModel", "breaks", "(III)Z"⟩ ⟨"CodeExchangeModel", "breaks", "(III)Z"⟩) ∈ lw_all := lw_g (lw_at lw_ms 59 rfl) rfl
theorem qs60 : (Cond.selects "CodeExchangeModel" ⟨"CodeExchangeModel", "reach", "(I)V"⟩ ⟨"CodeExchangeModel", "reach", "(I)V"⟩) ∈ lw_all := lw_g (lw_at lw_ms 60 rfl) rfl
theorem qs61 : (Cond.selects "CodeExchangeModel" ⟨"CodeExchangeModel", "comesHome", "(II)Z"⟩ ⟨"CodeExchangeModel", "comesHome", "(II)Z"⟩) ∈ lw_all := lw_g (lw_at lw_ms 61 rfl) rfl
theorem qs62 : (Cond.selects "CodeExchangeModel" ⟨"CodeExchangeModel", "find", "(II)Z"⟩ ⟨"CodeExchangeModel", "find", "(II)Z"⟩) ∈ lw_all := lw_g (lw_at lw_ms 62 rfl) rfl
theorem qs63 : (Cond.selects "CodeExchangeModel" ⟨"CodeExchangeModel", "text", "(IJ)V"⟩ ⟨"CodeExchangeModel", "text", "(IJ)V"⟩) ∈ lw_all := lw_g (lw_at lw_ms 63 rfl) rfl
theorem qs64 : (Cond.selects "CodeExchangeModel" ⟨"CodeExchangeModel", "few", "(I)V"⟩ ⟨"CodeExchangeModel", "few", "(I)V"⟩) ∈ lw_all := lw_g (lw_at lw_ms 64 rfl) rfl
theorem qs65 : (Cond.selects "CodeExchangeModel" ⟨"CodeExchangeModel", "readAll", "(II[I)I"⟩ ⟨"CodeExchangeModel", "readAll", "(II[I)I"⟩) ∈ lw_all := lw_g (lw_at lw_ms 65 rfl) rfl
theorem qs66 : (Cond.selects "CodeExchangeModel" ⟨"CodeExchangeModel", "readOne", "(II[IIIZ)I"⟩ ⟨"CodeExchangeModel", "readOne", "(II[IIIZ)I"⟩) ∈ lw_all := lw_g (lw_at lw_ms 66 rfl) rfl
theorem qs67 : (Cond.selects "CodeExchangeModel" ⟨"CodeExchangeModel", "look", "(I[III)I"⟩ ⟨"CodeExchangeModel", "look", "(I[III)I"⟩) ∈ lw_all := lw_g (lw_at lw_ms 67 rfl) rfl
theorem qs68 : (Cond.selects "CodeExchangeModel" ⟨"CodeExchangeModel", "lookFew", "([III)I"⟩ ⟨"CodeExchangeModel", "lookFew", "([III)I"⟩) ∈ lw_all := lw_g (lw_at lw_ms 68 rfl) rfl
theorem qs69 : (Cond.selects "CodeExchangeModel" ⟨"CodeExchangeModel", "lookUnits", "(Z[III)I"⟩ ⟨"CodeExchangeModel", "lookUnits", "(Z[III)I"⟩) ∈ lw_all := lw_g (lw_at lw_ms 69 rfl) rfl
theorem qs70 : (Cond.selects "CodeExchangeModel" ⟨"CodeExchangeModel", "putUnits", "(I)V"⟩ ⟨"CodeExchangeModel", "putUnits", "(I)V"⟩) ∈ lw_all := lw_g (lw_at lw_ms 70 rfl) rfl
theorem qs71 : (Cond.selects "CodeExchangeModel" ⟨"CodeExchangeModel", "put", "(I)V"⟩ ⟨"CodeExchangeModel", "put", "(I)V"⟩) ∈ lw_all := lw_g (lw_at lw_ms 71 rfl) rfl
theorem qs72 : (Cond.selects "CodeExchangeModel" ⟨"CodeExchangeModel", "resultOf", "([III)I"⟩ ⟨"CodeExchangeModel", "resultOf", "([III)I"⟩) ∈ lw_all := lw_g (lw_at lw_ms 72 rfl) rfl
theorem qs73 : (Cond.selects "CodeExchangeModel" ⟨"CodeExchangeModel", "writeAll", "(II[IIII)I"⟩ ⟨"CodeExchangeModel", "writeAll", "(II[IIII)I"⟩) ∈ lw_all := lw_g (lw_at lw_ms 73 rfl) rfl
theorem qs74 : (Cond.selects "CodeExchangeModel" ⟨"CodeExchangeModel", "writePoint", "(III)I"⟩ ⟨"CodeExchangeModel", "writePoint", "(III)I"⟩) ∈ lw_all := lw_g (lw_at lw_ms 74 rfl) rfl
theorem qs75 : (Cond.selects "CodeExchangeModel" ⟨"CodeExchangeModel", "putPoint", "(I)I"⟩ ⟨"CodeExchangeModel", "putPoint", "(I)I"⟩) ∈ lw_all := lw_g (lw_at lw_ms 75 rfl) rfl
theorem qs76 : (Cond.selects "CodeExchangeModel" ⟨"CodeExchangeModel", "go", "(IIZ)I"⟩ ⟨"CodeExchangeModel", "go", "(IIZ)I"⟩) ∈ lw_all := lw_g (lw_at lw_ms 76 rfl) rfl
theorem qs77 : (Cond.selects "CodeExchangeModel" ⟨"CodeExchangeModel", "leads", "(IIIIZ)Z"⟩ ⟨"CodeExchangeModel", "leads", "(IIIIZ)Z"⟩) ∈ lw_all := lw_g (lw_at lw_ms 77 rfl) rfl
theorem qs78 : (Cond.selects "CodeExchangeModel" ⟨"CodeExchangeModel", "putByte", "(I)I"⟩ ⟨"CodeExchangeModel", "putByte", "(I)I"⟩) ∈ lw_all := lw_g (lw_at lw_ms 78 rfl) rfl
theorem qs79 : (Cond.selects "CodeExchangeModel" ⟨"CodeExchangeModel", "falls", "(II)Z"⟩ ⟨"CodeExchangeModel", "falls", "(II)Z"⟩) ∈ lw_all := lw_g (lw_at lw_ms 79 rfl) rfl
theorem qs80 : (Cond.selects "CodeExchangeModel" ⟨"CodeExchangeModel", "fallbackOf", "(I)I"⟩ ⟨"CodeExchangeModel", "fallbackOf", "(I)I"⟩) ∈ lw_all := lw_g (lw_at lw_ms 80 rfl) rfl
theorem qs81 : (Cond.selects "CodeExchangeModel" ⟨"CodeExchangeModel", "fall", "(II)I"⟩ ⟨"CodeExchangeModel", "fall", "(II)I"⟩) ∈ lw_all := lw_g (lw_at lw_ms 81 rfl) rfl
theorem qs82 : (Cond.selects "CodeExchangeModel" ⟨"CodeExchangeModel", "writeLone", "(III)I"⟩ ⟨"CodeExchangeModel", "writeLone", "(III)I"⟩) ∈ lw_all := lw_g (lw_at lw_ms 82 rfl) rfl
theorem qs83 : (Cond.selects "CodeExchangeModel" ⟨"CodeExchangeModel", "goHome", "(I)I"⟩ ⟨"CodeExchangeModel", "goHome", "(I)I"⟩) ∈ lw_all := lw_g (lw_at lw_ms 83 rfl) rfl
theorem qs84 : (Cond.selects "CodeExchangeModel" ⟨"CodeExchangeModel", "comesBack", "(I)Z"⟩ ⟨"CodeExchangeModel", "comesBack", "(I)Z"⟩) ∈ lw_all := lw_g (lw_at lw_ms 84 rfl) rfl
theorem qs85 : (Cond.selects "CodeExchangeModel" ⟨"CodeExchangeModel", "length", "(I[I)I"⟩ ⟨"CodeExchangeModel", "length", "(I[I)I"⟩) ∈ lw_all := lw_g (lw_at lw_ms 85 rfl) rfl
theorem qs86 : (Cond.selects "CodeExchangeModel" ⟨"CodeExchangeModel", "writes", "(II)I"⟩ ⟨"CodeExchangeModel", "writes", "(II)I"⟩) ∈ lw_all := lw_g (lw_at lw_ms 86 rfl) rfl
theorem qs87 : (Cond.selects "CodeExchangeModel" ⟨"CodeExchangeModel", "load", "(I)V"⟩ ⟨"CodeExchangeModel", "load", "(I)V"⟩) ∈ lw_all := lw_g (lw_at lw_ms 87 rfl) rfl
theorem qs88 : (Cond.selects "CodeExchangeModel" ⟨"CodeExchangeModel", "store", "(III)I"⟩ ⟨"CodeExchangeModel", "store", "(III)I"⟩) ∈ lw_all := lw_g (lw_at lw_ms 88 rfl) rfl
theorem qs89 : (Cond.selects "CodeExchangeModel" ⟨"CodeExchangeModel", "reads", "(IZ)I"⟩ ⟨"CodeExchangeModel", "reads", "(IZ)I"⟩) ∈ lw_all := lw_g (lw_at lw_ms 89 rfl) rfl
theorem qs90 : (Cond.selects "CodeExchangeModel" ⟨"CodeExchangeModel", "aloneOf", "(II)I"⟩ ⟨"CodeExchangeModel", "aloneOf", "(II)I"⟩) ∈ lw_all := lw_g (lw_at lw_ms 90 rfl) rfl
theorem qs91 : (Cond.selects "CodeExchangeModel" ⟨"CodeExchangeModel", "sumOf", "([II)I"⟩ ⟨"CodeExchangeModel", "sumOf", "([II)I"⟩) ∈ lw_all := lw_g (lw_at lw_ms 91 rfl) rfl
theorem qs92 : (Cond.selects "CodeExchangeModel" ⟨"CodeExchangeModel", "takeIn", "(I)Z"⟩ ⟨"CodeExchangeModel", "takeIn", "(I)Z"⟩) ∈ lw_all := lw_g (lw_at lw_ms 92 rfl) rfl
theorem qs93 : (Cond.selects "CodeExchangeModel" ⟨"CodeExchangeModel", "next", "()I"⟩ ⟨"CodeExchangeModel", "next", "()I"⟩) ∈ lw_all := lw_g (lw_at lw_ms 93 rfl) rfl
theorem qs94 : (Cond.selects "CodeExchangeModel" ⟨"CodeExchangeModel", "takeEntry", "(I)Z"⟩ ⟨"CodeExchangeModel", "takeEntry", "(I)Z"⟩) ∈ lw_all := lw_g (lw_at lw_ms 94 rfl) rfl
theorem qs95 : (Cond.selects "CodeExchangeModel" ⟨"CodeExchangeModel", "takeShift", "(I)Z"⟩ ⟨"CodeExchangeModel", "takeShift", "(I)Z"⟩) ∈ lw_all := lw_g (lw_at lw_ms 95 rfl) rfl
-- ===== end of PART A; then your names; then what follows =====
