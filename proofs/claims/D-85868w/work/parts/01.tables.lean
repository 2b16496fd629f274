-- ===== PART A: goes FIRST, ahead of the names: the tables' words, and 'selects' of the private methods out of them =====
/-- a private method of a class that the tables say can be made, by its rows of tables_1 -/
def lw_okq (q : MethodName × Nat) : Prop := (q.1.cls ≠ "java/lang/invoke/MethodHandle" ∧ q.1.cls ≠ "java/lang/invoke/VarHandle") ∧ Cond.instantiable q.1.cls q.2 ∈ tables_1 ∧ Cond.privateMethod q.1 ∈ tables_1 ∧ Cond.instanceMethod q.1 ∈ tables_1
set_option maxRecDepth 100000
theorem lw_t1 {w : Cond} (h : w ∈ tables_1_1) : w ∈ tables_1 := List.mem_append_left _ h
theorem lw_t2 {w : Cond} (h : w ∈ tables_1_2) : w ∈ tables_1 := List.mem_append_right _ (List.mem_append_left _ h)
theorem lw_t3 {w : Cond} (h : w ∈ tables_1_3) : w ∈ tables_1 := List.mem_append_right _ (List.mem_append_right _ (List.mem_append_left _ h))
theorem lw_t4 {w : Cond} (h : w ∈ tables_1_4) : w ∈ tables_1 := List.mem_append_right _ (List.mem_append_right _ (List.mem_append_right _ (List.mem_append_left _ h)))
theorem lw_t5 {w : Cond} (h : w ∈ tables_1_5) : w ∈ tables_1 := List.mem_append_right _ (List.mem_append_right _ (List.mem_append_right _ (List.mem_append_right _ (List.mem_append_left _ h))))
theorem lw_t6 {w : Cond} (h : w ∈ tables_1_6) : w ∈ tables_1 := List.mem_append_right _ (List.mem_append_right _ (List.mem_append_right _ (List.mem_append_right _ (List.mem_append_right _ h))))
theorem lw_p0 : lw_okq (⟨"java/lang/NullPointerException", "getExtendedNPEMessage", "()Ljava/lang/String;"⟩, 8) := ⟨⟨by decide +kernel, by decide +kernel⟩, lw_t1 (List.mem_of_getElem? (i := 77) rfl), lw_t1 (List.mem_of_getElem? (i := 75) rfl), lw_t1 (List.mem_of_getElem? (i := 76) rfl)⟩
theorem lw_p1 : lw_okq (⟨"java/lang/Throwable", "fillInStackTrace", "(I)Ljava/lang/Throwable;"⟩, 6) := ⟨⟨by decide +kernel, by decide +kernel⟩, lw_t1 (List.mem_of_getElem? (i := 90) rfl), lw_t1 (List.mem_of_getElem? (i := 88) rfl), lw_t1 (List.mem_of_getElem? (i := 89) rfl)⟩
theorem lw_p2 : lw_okq (⟨"PointLedger", "gather", "()V"⟩, 21) := ⟨⟨by decide +kernel, by decide +kernel⟩, lw_t1 (List.mem_of_getElem? (i := 24) rfl), lw_t2 (List.mem_of_getElem? (i := 149) rfl), lw_t2 (List.mem_of_getElem? (i := 150) rfl)⟩
theorem lw_p3 : lw_okq (⟨"PointLedger", "isSeries", "(I)Z"⟩, 21) := ⟨⟨by decide +kernel, by decide +kernel⟩, lw_t1 (List.mem_of_getElem? (i := 24) rfl), lw_t2 (List.mem_of_getElem? (i := 235) rfl), lw_t2 (List.mem_of_getElem? (i := 236) rfl)⟩
theorem lw_p4 : lw_okq (⟨"PointLedger", "head", "(I)LPointLedger$Head;"⟩, 21) := ⟨⟨by decide +kernel, by decide +kernel⟩, lw_t1 (List.mem_of_getElem? (i := 24) rfl), lw_t2 (List.mem_of_getElem? (i := 239) rfl), lw_t3 (List.mem_of_getElem? (i := 0) rfl)⟩
theorem lw_p5 : lw_okq (⟨"PointLedger", "isRising", "(II)Z"⟩, 21) := ⟨⟨by decide +kernel, by decide +kernel⟩, lw_t1 (List.mem_of_getElem? (i := 24) rfl), lw_t3 (List.mem_of_getElem? (i := 37) rfl), lw_t3 (List.mem_of_getElem? (i := 38) rfl)⟩
theorem lw_p6 : lw_okq (⟨"PointLedger", "plans", "()V"⟩, 21) := ⟨⟨by decide +kernel, by decide +kernel⟩, lw_t1 (List.mem_of_getElem? (i := 24) rfl), lw_t3 (List.mem_of_getElem? (i := 53) rfl), lw_t3 (List.mem_of_getElem? (i := 54) rfl)⟩
theorem lw_p7 : lw_okq (⟨"PointLedger", "opens", "(I)Z"⟩, 21) := ⟨⟨by decide +kernel, by decide +kernel⟩, lw_t1 (List.mem_of_getElem? (i := 24) rfl), lw_t3 (List.mem_of_getElem? (i := 71) rfl), lw_t3 (List.mem_of_getElem? (i := 72) rfl)⟩
theorem lw_p8 : lw_okq (⟨"PointLedger", "adds", "(II)V"⟩, 21) := ⟨⟨by decide +kernel, by decide +kernel⟩, lw_t1 (List.mem_of_getElem? (i := 24) rfl), lw_t3 (List.mem_of_getElem? (i := 80) rfl), lw_t3 (List.mem_of_getElem? (i := 81) rfl)⟩
theorem lw_p9 : lw_okq (⟨"PointLedger$Packer", "put", "(JI)V"⟩, 7) := ⟨⟨by decide +kernel, by decide +kernel⟩, lw_t1 (List.mem_of_getElem? (i := 137) rfl), lw_t3 (List.mem_of_getElem? (i := 92) rfl), lw_t3 (List.mem_of_getElem? (i := 93) rfl)⟩
theorem lw_p10 : lw_okq (⟨"PointLedger$Packer", "change", "(J)V"⟩, 7) := ⟨⟨by decide +kernel, by decide +kernel⟩, lw_t1 (List.mem_of_getElem? (i := 137) rfl), lw_t3 (List.mem_of_getElem? (i := 96) rfl), lw_t3 (List.mem_of_getElem? (i := 97) rfl)⟩
theorem lw_p11 : lw_okq (⟨"PointLedger", "closes", "()V"⟩, 21) := ⟨⟨by decide +kernel, by decide +kernel⟩, lw_t1 (List.mem_of_getElem? (i := 24) rfl), lw_t3 (List.mem_of_getElem? (i := 112) rfl), lw_t3 (List.mem_of_getElem? (i := 113) rfl)⟩
theorem lw_p12 : lw_okq (⟨"PointLedger", "done", "(II)I"⟩, 21) := ⟨⟨by decide +kernel, by decide +kernel⟩, lw_t1 (List.mem_of_getElem? (i := 24) rfl), lw_t3 (List.mem_of_getElem? (i := 120) rfl), lw_t3 (List.mem_of_getElem? (i := 121) rfl)⟩
theorem lw_p13 : lw_okq (⟨"PointLedger", "places", "()Z"⟩, 21) := ⟨⟨by decide +kernel, by decide +kernel⟩, lw_t1 (List.mem_of_getElem? (i := 24) rfl), lw_t3 (List.mem_of_getElem? (i := 124) rfl), lw_t3 (List.mem_of_getElem? (i := 125) rfl)⟩
theorem lw_p14 : lw_okq (⟨"PointLedger", "takes", "(II)V"⟩, 21) := ⟨⟨by decide +kernel, by decide +kernel⟩, lw_t1 (List.mem_of_getElem? (i := 24) rfl), lw_t3 (List.mem_of_getElem? (i := 128) rfl), lw_t3 (List.mem_of_getElem? (i := 129) rfl)⟩
theorem lw_p15 : lw_okq (⟨"PointLedger", "free", "(I)I"⟩, 21) := ⟨⟨by decide +kernel, by decide +kernel⟩, lw_t1 (List.mem_of_getElem? (i := 24) rfl), lw_t3 (List.mem_of_getElem? (i := 132) rfl), lw_t3 (List.mem_of_getElem? (i := 133) rfl)⟩
def lw_privs_1 : List (MethodName × Nat) := [(⟨"java/lang/NullPointerException", "getExtendedNPEMessage", "()Ljava/lang/String;"⟩, 8), (⟨"java/lang/Throwable", "fillInStackTrace", "(I)Ljava/lang/Throwable;"⟩, 6), (⟨"PointLedger", "gather", "()V"⟩, 21), (⟨"PointLedger", "isSeries", "(I)Z"⟩, 21), (⟨"PointLedger", "head", "(I)LPointLedger$Head;"⟩, 21), (⟨"PointLedger", "isRising", "(II)Z"⟩, 21), (⟨"PointLedger", "plans", "()V"⟩, 21), (⟨"PointLedger", "opens", "(I)Z"⟩, 21), (⟨"PointLedger", "adds", "(II)V"⟩, 21), (⟨"PointLedger$Packer", "put", "(JI)V"⟩, 7), (⟨"PointLedger$Packer", "change", "(J)V"⟩, 7), (⟨"PointLedger", "closes", "()V"⟩, 21), (⟨"PointLedger", "done", "(II)I"⟩, 21), (⟨"PointLedger", "places", "()Z"⟩, 21), (⟨"PointLedger", "takes", "(II)V"⟩, 21), (⟨"PointLedger", "free", "(I)I"⟩, 21)]
theorem lw_r1 : ∀ q ∈ lw_privs_1, lw_okq q := List.forall_mem_cons.mpr ⟨lw_p0, List.forall_mem_cons.mpr ⟨lw_p1, List.forall_mem_cons.mpr ⟨lw_p2, List.forall_mem_cons.mpr ⟨lw_p3, List.forall_mem_cons.mpr ⟨lw_p4, List.forall_mem_cons.mpr ⟨lw_p5, List.forall_mem_cons.mpr ⟨lw_p6, List.forall_mem_cons.mpr ⟨lw_p7, List.forall_mem_cons.mpr ⟨lw_p8, List.forall_mem_cons.mpr ⟨lw_p9, List.forall_mem_cons.mpr ⟨lw_p10, List.forall_mem_cons.mpr ⟨lw_p11, List.forall_mem_cons.mpr ⟨lw_p12, List.forall_mem_cons.mpr ⟨lw_p13, List.forall_mem_cons.mpr ⟨lw_p14, List.forall_mem_cons.mpr ⟨lw_p15, fun _ h => absurd h List.not_mem_nil⟩⟩⟩⟩⟩⟩⟩⟩⟩⟩⟩⟩⟩⟩⟩⟩
theorem lw_p16 : lw_okq (⟨"PointLedger", "turn", "(I)V"⟩, 21) := ⟨⟨by decide +kernel, by decide +kernel⟩, lw_t1 (List.mem_of_getElem? (i := 24) rfl), lw_t3 (List.mem_of_getElem? (i := 136) rfl), lw_t3 (List.mem_of_getElem? (i := 137) rfl)⟩
theorem lw_p17 : lw_okq (⟨"PointLedger", "entry", "(II)V"⟩, 21) := ⟨⟨by decide +kernel, by decide +kernel⟩, lw_t1 (List.mem_of_getElem? (i := 24) rfl), lw_t3 (List.mem_of_getElem? (i := 140) rfl), lw_t3 (List.mem_of_getElem? (i := 141) rfl)⟩
theorem lw_p18 : lw_okq (⟨"PointLedger", "reach", "(II)I"⟩, 21) := ⟨⟨by decide +kernel, by decide +kernel⟩, lw_t1 (List.mem_of_getElem? (i := 24) rfl), lw_t3 (List.mem_of_getElem? (i := 148) rfl), lw_t3 (List.mem_of_getElem? (i := 149) rfl)⟩
theorem lw_p19 : lw_okq (⟨"PointLedger", "merges", "(II)V"⟩, 21) := ⟨⟨by decide +kernel, by decide +kernel⟩, lw_t1 (List.mem_of_getElem? (i := 24) rfl), lw_t3 (List.mem_of_getElem? (i := 152) rfl), lw_t3 (List.mem_of_getElem? (i := 153) rfl)⟩
theorem lw_p20 : lw_okq (⟨"PointLedger$Unpacker", "bits", "(I)J"⟩, 7) := ⟨⟨by decide +kernel, by decide +kernel⟩, lw_t1 (List.mem_of_getElem? (i := 167) rfl), lw_t3 (List.mem_of_getElem? (i := 164) rfl), lw_t3 (List.mem_of_getElem? (i := 165) rfl)⟩
theorem lw_p21 : lw_okq (⟨"PointLedger$Unpacker", "change", "()J"⟩, 7) := ⟨⟨by decide +kernel, by decide +kernel⟩, lw_t1 (List.mem_of_getElem? (i := 167) rfl), lw_t3 (List.mem_of_getElem? (i := 168) rfl), lw_t3 (List.mem_of_getElem? (i := 169) rfl)⟩
theorem lw_p22 : lw_okq (⟨"PointLedger$Unpacker", "bit", "()Z"⟩, 7) := ⟨⟨by decide +kernel, by decide +kernel⟩, lw_t1 (List.mem_of_getElem? (i := 167) rfl), lw_t3 (List.mem_of_getElem? (i := 172) rfl), lw_t3 (List.mem_of_getElem? (i := 173) rfl)⟩
theorem lw_p23 : lw_okq (⟨"PointLedger$Unpacker", "difference", "()I"⟩, 7) := ⟨⟨by decide +kernel, by decide +kernel⟩, lw_t1 (List.mem_of_getElem? (i := 167) rfl), lw_t3 (List.mem_of_getElem? (i := 180) rfl), lw_t3 (List.mem_of_getElem? (i := 181) rfl)⟩
theorem lw_p24 : lw_okq (⟨"PointLedger", "asks", "(III)V"⟩, 21) := ⟨⟨by decide +kernel, by decide +kernel⟩, lw_t1 (List.mem_of_getElem? (i := 24) rfl), lw_t3 (List.mem_of_getElem? (i := 192) rfl), lw_t3 (List.mem_of_getElem? (i := 193) rfl)⟩
theorem lw_p25 : lw_okq (⟨"PointLedger", "asksGroup", "(IIII)V"⟩, 21) := ⟨⟨by decide +kernel, by decide +kernel⟩, lw_t1 (List.mem_of_getElem? (i := 24) rfl), lw_t3 (List.mem_of_getElem? (i := 214) rfl), lw_t3 (List.mem_of_getElem? (i := 215) rfl)⟩
theorem lw_p26 : lw_okq (⟨"PointLedger$Walk", "goes", "()Z"⟩, 11) := ⟨⟨by decide +kernel, by decide +kernel⟩, lw_t2 (List.mem_of_getElem? (i := 50) rfl), lw_t4 (List.mem_of_getElem? (i := 23) rfl), lw_t4 (List.mem_of_getElem? (i := 24) rfl)⟩
theorem lw_p27 : lw_okq (⟨"PointLedger", "isAt", "()Z"⟩, 21) := ⟨⟨by decide +kernel, by decide +kernel⟩, lw_t1 (List.mem_of_getElem? (i := 24) rfl), lw_t4 (List.mem_of_getElem? (i := 34) rfl), lw_t4 (List.mem_of_getElem? (i := 35) rfl)⟩
theorem lw_p28 : lw_okq (⟨"PointLedger", "reads", "()V"⟩, 21) := ⟨⟨by decide +kernel, by decide +kernel⟩, lw_t1 (List.mem_of_getElem? (i := 24) rfl), lw_t4 (List.mem_of_getElem? (i := 51) rfl), lw_t4 (List.mem_of_getElem? (i := 52) rfl)⟩
theorem lw_p29 : lw_okq (⟨"PointLedger", "areaTaken", "()I"⟩, 21) := ⟨⟨by decide +kernel, by decide +kernel⟩, lw_t1 (List.mem_of_getElem? (i := 24) rfl), lw_t4 (List.mem_of_getElem? (i := 64) rfl), lw_t4 (List.mem_of_getElem? (i := 65) rfl)⟩
theorem lw_p30 : lw_okq (⟨"PointLedger", "need", "(I)V"⟩, 21) := ⟨⟨by decide +kernel, by decide +kernel⟩, lw_t1 (List.mem_of_getElem? (i := 24) rfl), lw_t4 (List.mem_of_getElem? (i := 80) rfl), lw_t4 (List.mem_of_getElem? (i := 81) rfl)⟩
theorem lw_p31 : lw_okq (⟨"PointLedger", "chunks", "(I)I"⟩, 21) := ⟨⟨by decide +kernel, by decide +kernel⟩, lw_t1 (List.mem_of_getElem? (i := 24) rfl), lw_t4 (List.mem_of_getElem? (i := 136) rfl), lw_t4 (List.mem_of_getElem? (i := 137) rfl)⟩
def lw_privs_2 : List (MethodName × Nat) := [(⟨"PointLedger", "turn", "(I)V"⟩, 21), (⟨"PointLedger", "entry", "(II)V"⟩, 21), (⟨"PointLedger", "reach", "(II)I"⟩, 21), (⟨"PointLedger", "merges", "(II)V"⟩, 21), (⟨"PointLedger$Unpacker", "bits", "(I)J"⟩, 7), (⟨"PointLedger$Unpacker", "change", "()J"⟩, 7), (⟨"PointLedger$Unpacker", "bit", "()Z"⟩, 7), (⟨"PointLedger$Unpacker", "difference", "()I"⟩, 7), (⟨"PointLedger", "asks", "(III)V"⟩, 21), (⟨"PointLedger", "asksGroup", "(IIII)V"⟩, 21), (⟨"PointLedger$Walk", "goes", "()Z"⟩, 11), (⟨"PointLedger", "isAt", "()Z"⟩, 21), (⟨"PointLedger", "reads", "()V"⟩, 21), (⟨"PointLedger", "areaTaken", "()I"⟩, 21), (⟨"PointLedger", "need", "(I)V"⟩, 21), (⟨"PointLedger", "chunks", "(I)I"⟩, 21)]
theorem lw_r2 : ∀ q ∈ lw_privs_2, lw_okq q := List.forall_mem_cons.mpr ⟨lw_p16, List.forall_mem_cons.mpr ⟨lw_p17, List.forall_mem_cons.mpr ⟨lw_p18, List.forall_mem_cons.mpr ⟨lw_p19, List.forall_mem_cons.mpr ⟨lw_p20, List.forall_mem_cons.mpr ⟨lw_p21, List.forall_mem_cons.mpr ⟨lw_p22, List.forall_mem_cons.mpr ⟨lw_p23, List.forall_mem_cons.mpr ⟨lw_p24, List.forall_mem_cons.mpr ⟨lw_p25, List.forall_mem_cons.mpr ⟨lw_p26, List.forall_mem_cons.mpr ⟨lw_p27, List.forall_mem_cons.mpr ⟨lw_p28, List.forall_mem_cons.mpr ⟨lw_p29, List.forall_mem_cons.mpr ⟨lw_p30, List.forall_mem_cons.mpr ⟨lw_p31, fun _ h => absurd h List.not_mem_nil⟩⟩⟩⟩⟩⟩⟩⟩⟩⟩⟩⟩⟩⟩⟩⟩
theorem lw_p32 : lw_okq (⟨"PointLedgerModel", "dropCursor", "()V"⟩, 40) := ⟨⟨by decide +kernel, by decide +kernel⟩, lw_t4 (List.mem_of_getElem? (i := 175) rfl), lw_t5 (List.mem_of_getElem? (i := 73) rfl), lw_t5 (List.mem_of_getElem? (i := 74) rfl)⟩
theorem lw_p33 : lw_okq (⟨"PointLedgerModel", "isSeries", "(I)Z"⟩, 40) := ⟨⟨by decide +kernel, by decide +kernel⟩, lw_t4 (List.mem_of_getElem? (i := 175) rfl), lw_t5 (List.mem_of_getElem? (i := 77) rfl), lw_t5 (List.mem_of_getElem? (i := 78) rfl)⟩
theorem lw_p34 : lw_okq (⟨"PointLedgerModel", "isRising", "(II)Z"⟩, 40) := ⟨⟨by decide +kernel, by decide +kernel⟩, lw_t4 (List.mem_of_getElem? (i := 175) rfl), lw_t5 (List.mem_of_getElem? (i := 81) rfl), lw_t5 (List.mem_of_getElem? (i := 82) rfl)⟩
theorem lw_p35 : lw_okq (⟨"PointLedgerModel", "write", "(II)Z"⟩, 40) := ⟨⟨by decide +kernel, by decide +kernel⟩, lw_t4 (List.mem_of_getElem? (i := 175) rfl), lw_t5 (List.mem_of_getElem? (i := 85) rfl), lw_t5 (List.mem_of_getElem? (i := 86) rfl)⟩
theorem lw_p36 : lw_okq (⟨"PointLedgerModel", "beginNext", "()V"⟩, 40) := ⟨⟨by decide +kernel, by decide +kernel⟩, lw_t4 (List.mem_of_getElem? (i := 175) rfl), lw_t5 (List.mem_of_getElem? (i := 93) rfl), lw_t5 (List.mem_of_getElem? (i := 94) rfl)⟩
theorem lw_p37 : lw_okq (⟨"PointLedgerModel", "comes", "(IZ)V"⟩, 40) := ⟨⟨by decide +kernel, by decide +kernel⟩, lw_t4 (List.mem_of_getElem? (i := 175) rfl), lw_t5 (List.mem_of_getElem? (i := 97) rfl), lw_t5 (List.mem_of_getElem? (i := 98) rfl)⟩
theorem lw_p38 : lw_okq (⟨"PointLedgerModel", "headsOf", "(I)V"⟩, 40) := ⟨⟨by decide +kernel, by decide +kernel⟩, lw_t4 (List.mem_of_getElem? (i := 175) rfl), lw_t5 (List.mem_of_getElem? (i := 101) rfl), lw_t5 (List.mem_of_getElem? (i := 102) rfl)⟩
theorem lw_p39 : lw_okq (⟨"PointLedgerModel", "freeSlot", "()I"⟩, 40) := ⟨⟨by decide +kernel, by decide +kernel⟩, lw_t4 (List.mem_of_getElem? (i := 175) rfl), lw_t5 (List.mem_of_getElem? (i := 105) rfl), lw_t5 (List.mem_of_getElem? (i := 106) rfl)⟩
theorem lw_p40 : lw_okq (⟨"PointLedgerModel", "isUsed", "(I)Z"⟩, 40) := ⟨⟨by decide +kernel, by decide +kernel⟩, lw_t4 (List.mem_of_getElem? (i := 175) rfl), lw_t5 (List.mem_of_getElem? (i := 109) rfl), lw_t5 (List.mem_of_getElem? (i := 110) rfl)⟩
theorem lw_p41 : lw_okq (⟨"PointLedgerModel", "add", "(III)V"⟩, 40) := ⟨⟨by decide +kernel, by decide +kernel⟩, lw_t4 (List.mem_of_getElem? (i := 175) rfl), lw_t5 (List.mem_of_getElem? (i := 113) rfl), lw_t5 (List.mem_of_getElem? (i := 114) rfl)⟩
theorem lw_p42 : lw_okq (⟨"PointLedgerModel", "turn", "(I)I"⟩, 40) := ⟨⟨by decide +kernel, by decide +kernel⟩, lw_t4 (List.mem_of_getElem? (i := 175) rfl), lw_t5 (List.mem_of_getElem? (i := 117) rfl), lw_t5 (List.mem_of_getElem? (i := 118) rfl)⟩
theorem lw_p43 : lw_okq (⟨"PointLedgerModel", "make", "(I)I"⟩, 40) := ⟨⟨by decide +kernel, by decide +kernel⟩, lw_t4 (List.mem_of_getElem? (i := 175) rfl), lw_t5 (List.mem_of_getElem? (i := 121) rfl), lw_t5 (List.mem_of_getElem? (i := 122) rfl)⟩
theorem lw_p44 : lw_okq (⟨"PointLedgerModel", "putStep", "(J)V"⟩, 40) := ⟨⟨by decide +kernel, by decide +kernel⟩, lw_t4 (List.mem_of_getElem? (i := 175) rfl), lw_t5 (List.mem_of_getElem? (i := 125) rfl), lw_t5 (List.mem_of_getElem? (i := 126) rfl)⟩
theorem lw_p45 : lw_okq (⟨"PointLedgerModel", "put", "(JI)V"⟩, 40) := ⟨⟨by decide +kernel, by decide +kernel⟩, lw_t4 (List.mem_of_getElem? (i := 175) rfl), lw_t5 (List.mem_of_getElem? (i := 129) rfl), lw_t5 (List.mem_of_getElem? (i := 130) rfl)⟩
theorem lw_p46 : lw_okq (⟨"PointLedgerModel", "putValue", "(I)V"⟩, 40) := ⟨⟨by decide +kernel, by decide +kernel⟩, lw_t4 (List.mem_of_getElem? (i := 175) rfl), lw_t5 (List.mem_of_getElem? (i := 144) rfl), lw_t5 (List.mem_of_getElem? (i := 145) rfl)⟩
theorem lw_p47 : lw_okq (⟨"PointLedgerModel", "find", "(II)I"⟩, 40) := ⟨⟨by decide +kernel, by decide +kernel⟩, lw_t4 (List.mem_of_getElem? (i := 175) rfl), lw_t5 (List.mem_of_getElem? (i := 150) rfl), lw_t5 (List.mem_of_getElem? (i := 151) rfl)⟩
def lw_privs_3 : List (MethodName × Nat) := [(⟨"PointLedgerModel", "dropCursor", "()V"⟩, 40), (⟨"PointLedgerModel", "isSeries", "(I)Z"⟩, 40), (⟨"PointLedgerModel", "isRising", "(II)Z"⟩, 40), (⟨"PointLedgerModel", "write", "(II)Z"⟩, 40), (⟨"PointLedgerModel", "beginNext", "()V"⟩, 40), (⟨"PointLedgerModel", "comes", "(IZ)V"⟩, 40), (⟨"PointLedgerModel", "headsOf", "(I)V"⟩, 40), (⟨"PointLedgerModel", "freeSlot", "()I"⟩, 40), (⟨"PointLedgerModel", "isUsed", "(I)Z"⟩, 40), (⟨"PointLedgerModel", "add", "(III)V"⟩, 40), (⟨"PointLedgerModel", "turn", "(I)I"⟩, 40), (⟨"PointLedgerModel", "make", "(I)I"⟩, 40), (⟨"PointLedgerModel", "putStep", "(J)V"⟩, 40), (⟨"PointLedgerModel", "put", "(JI)V"⟩, 40), (⟨"PointLedgerModel", "putValue", "(I)V"⟩, 40), (⟨"PointLedgerModel", "find", "(II)I"⟩, 40)]
theorem lw_r3 : ∀ q ∈ lw_privs_3, lw_okq q := List.forall_mem_cons.mpr ⟨lw_p32, List.forall_mem_cons.mpr ⟨lw_p33, List.forall_mem_cons.mpr ⟨lw_p34, List.forall_mem_cons.mpr ⟨lw_p35, List.forall_mem_cons.mpr ⟨lw_p36, List.forall_mem_cons.mpr ⟨lw_p37, List.forall_mem_cons.mpr ⟨lw_p38, List.forall_mem_cons.mpr ⟨lw_p39, List.forall_mem_cons.mpr ⟨lw_p40, List.forall_mem_cons.mpr ⟨lw_p41, List.forall_mem_cons.mpr ⟨lw_p42, List.forall_mem_cons.mpr ⟨lw_p43, List.forall_mem_cons.mpr ⟨lw_p44, List.forall_mem_cons.mpr ⟨lw_p45, List.forall_mem_cons.mpr ⟨lw_p46, List.forall_mem_cons.mpr ⟨lw_p47, fun _ h => absurd h List.not_mem_nil⟩⟩⟩⟩⟩⟩⟩⟩⟩⟩⟩⟩⟩⟩⟩⟩
theorem lw_p48 : lw_okq (⟨"PointLedgerModel", "isTaken", "(II)Z"⟩, 40) := ⟨⟨by decide +kernel, by decide +kernel⟩, lw_t4 (List.mem_of_getElem? (i := 175) rfl), lw_t5 (List.mem_of_getElem? (i := 154) rfl), lw_t5 (List.mem_of_getElem? (i := 155) rfl)⟩
theorem lw_p49 : lw_okq (⟨"PointLedgerModel", "isOf", "(II)Z"⟩, 40) := ⟨⟨by decide +kernel, by decide +kernel⟩, lw_t4 (List.mem_of_getElem? (i := 175) rfl), lw_t5 (List.mem_of_getElem? (i := 158) rfl), lw_t5 (List.mem_of_getElem? (i := 159) rfl)⟩
theorem lw_p50 : lw_okq (⟨"PointLedgerModel", "writeChunk", "(I)Z"⟩, 40) := ⟨⟨by decide +kernel, by decide +kernel⟩, lw_t4 (List.mem_of_getElem? (i := 175) rfl), lw_t5 (List.mem_of_getElem? (i := 162) rfl), lw_t5 (List.mem_of_getElem? (i := 163) rfl)⟩
theorem lw_p51 : lw_okq (⟨"PointLedgerModel", "index", "(I)I"⟩, 40) := ⟨⟨by decide +kernel, by decide +kernel⟩, lw_t4 (List.mem_of_getElem? (i := 175) rfl), lw_t5 (List.mem_of_getElem? (i := 166) rfl), lw_t5 (List.mem_of_getElem? (i := 167) rfl)⟩
theorem lw_p52 : lw_okq (⟨"PointLedgerModel", "writeIndex", "(I)Z"⟩, 40) := ⟨⟨by decide +kernel, by decide +kernel⟩, lw_t4 (List.mem_of_getElem? (i := 175) rfl), lw_t5 (List.mem_of_getElem? (i := 170) rfl), lw_t5 (List.mem_of_getElem? (i := 171) rfl)⟩
theorem lw_p53 : lw_okq (⟨"PointLedgerModel", "sumOf", "(I)J"⟩, 40) := ⟨⟨by decide +kernel, by decide +kernel⟩, lw_t4 (List.mem_of_getElem? (i := 175) rfl), lw_t5 (List.mem_of_getElem? (i := 174) rfl), lw_t5 (List.mem_of_getElem? (i := 175) rfl)⟩
theorem lw_p54 : lw_okq (⟨"PointLedgerModel", "firstTime", "(I)I"⟩, 40) := ⟨⟨by decide +kernel, by decide +kernel⟩, lw_t4 (List.mem_of_getElem? (i := 175) rfl), lw_t5 (List.mem_of_getElem? (i := 178) rfl), lw_t5 (List.mem_of_getElem? (i := 179) rfl)⟩
theorem lw_p55 : lw_okq (⟨"PointLedgerModel", "lastTime", "(I)I"⟩, 40) := ⟨⟨by decide +kernel, by decide +kernel⟩, lw_t4 (List.mem_of_getElem? (i := 175) rfl), lw_t5 (List.mem_of_getElem? (i := 182) rfl), lw_t5 (List.mem_of_getElem? (i := 183) rfl)⟩
theorem lw_p56 : lw_okq (⟨"PointLedgerModel", "leastOf", "(I)I"⟩, 40) := ⟨⟨by decide +kernel, by decide +kernel⟩, lw_t4 (List.mem_of_getElem? (i := 175) rfl), lw_t5 (List.mem_of_getElem? (i := 186) rfl), lw_t5 (List.mem_of_getElem? (i := 187) rfl)⟩
theorem lw_p57 : lw_okq (⟨"PointLedgerModel", "greatestOf", "(I)I"⟩, 40) := ⟨⟨by decide +kernel, by decide +kernel⟩, lw_t4 (List.mem_of_getElem? (i := 175) rfl), lw_t5 (List.mem_of_getElem? (i := 190) rfl), lw_t5 (List.mem_of_getElem? (i := 191) rfl)⟩
theorem lw_p58 : lw_okq (⟨"PointLedgerModel", "together", "(I)I"⟩, 40) := ⟨⟨by decide +kernel, by decide +kernel⟩, lw_t4 (List.mem_of_getElem? (i := 175) rfl), lw_t5 (List.mem_of_getElem? (i := 198) rfl), lw_t5 (List.mem_of_getElem? (i := 199) rfl)⟩
theorem lw_p59 : lw_okq (⟨"PointLedgerModel", "joined", "(II)V"⟩, 40) := ⟨⟨by decide +kernel, by decide +kernel⟩, lw_t4 (List.mem_of_getElem? (i := 175) rfl), lw_t5 (List.mem_of_getElem? (i := 202) rfl), lw_t5 (List.mem_of_getElem? (i := 203) rfl)⟩
theorem lw_p60 : lw_okq (⟨"PointLedgerModel", "ask", "(IIIZ)V"⟩, 40) := ⟨⟨by decide +kernel, by decide +kernel⟩, lw_t4 (List.mem_of_getElem? (i := 175) rfl), lw_t5 (List.mem_of_getElem? (i := 214) rfl), lw_t5 (List.mem_of_getElem? (i := 215) rfl)⟩
theorem lw_p61 : lw_okq (⟨"PointLedgerModel", "meet", "(IIIIZ)V"⟩, 40) := ⟨⟨by decide +kernel, by decide +kernel⟩, lw_t4 (List.mem_of_getElem? (i := 175) rfl), lw_t5 (List.mem_of_getElem? (i := 218) rfl), lw_t5 (List.mem_of_getElem? (i := 219) rfl)⟩
theorem lw_p62 : lw_okq (⟨"PointLedgerModel", "lookAt", "(III)V"⟩, 40) := ⟨⟨by decide +kernel, by decide +kernel⟩, lw_t4 (List.mem_of_getElem? (i := 175) rfl), lw_t5 (List.mem_of_getElem? (i := 222) rfl), lw_t5 (List.mem_of_getElem? (i := 223) rfl)⟩
theorem lw_p63 : lw_okq (⟨"PointLedgerModel", "chunksOf", "(I)I"⟩, 40) := ⟨⟨by decide +kernel, by decide +kernel⟩, lw_t4 (List.mem_of_getElem? (i := 175) rfl), lw_t5 (List.mem_of_getElem? (i := 226) rfl), lw_t5 (List.mem_of_getElem? (i := 227) rfl)⟩
def lw_privs_4 : List (MethodName × Nat) := [(⟨"PointLedgerModel", "isTaken", "(II)Z"⟩, 40), (⟨"PointLedgerModel", "isOf", "(II)Z"⟩, 40), (⟨"PointLedgerModel", "writeChunk", "(I)Z"⟩, 40), (⟨"PointLedgerModel", "index", "(I)I"⟩, 40), (⟨"PointLedgerModel", "writeIndex", "(I)Z"⟩, 40), (⟨"PointLedgerModel", "sumOf", "(I)J"⟩, 40), (⟨"PointLedgerModel", "firstTime", "(I)I"⟩, 40), (⟨"PointLedgerModel", "lastTime", "(I)I"⟩, 40), (⟨"PointLedgerModel", "leastOf", "(I)I"⟩, 40), (⟨"PointLedgerModel", "greatestOf", "(I)I"⟩, 40), (⟨"PointLedgerModel", "together", "(I)I"⟩, 40), (⟨"PointLedgerModel", "joined", "(II)V"⟩, 40), (⟨"PointLedgerModel", "ask", "(IIIZ)V"⟩, 40), (⟨"PointLedgerModel", "meet", "(IIIIZ)V"⟩, 40), (⟨"PointLedgerModel", "lookAt", "(III)V"⟩, 40), (⟨"PointLedgerModel", "chunksOf", "(I)I"⟩, 40)]
theorem lw_r4 : ∀ q ∈ lw_privs_4, lw_okq q := List.forall_mem_cons.mpr ⟨lw_p48, List.forall_mem_cons.mpr ⟨lw_p49, List.forall_mem_cons.mpr ⟨lw_p50, List.forall_mem_cons.mpr ⟨lw_p51, List.forall_mem_cons.mpr ⟨lw_p52, List.forall_mem_cons.mpr ⟨lw_p53, List.forall_mem_cons.mpr ⟨lw_p54, List.forall_mem_cons.mpr ⟨lw_p55, List.forall_mem_cons.mpr ⟨lw_p56, List.forall_mem_cons.mpr ⟨lw_p57, List.forall_mem_cons.mpr ⟨lw_p58, List.forall_mem_cons.mpr ⟨lw_p59, List.forall_mem_cons.mpr ⟨lw_p60, List.forall_mem_cons.mpr ⟨lw_p61, List.forall_mem_cons.mpr ⟨lw_p62, List.forall_mem_cons.mpr ⟨lw_p63, fun _ h => absurd h List.not_mem_nil⟩⟩⟩⟩⟩⟩⟩⟩⟩⟩⟩⟩⟩⟩⟩⟩
theorem lw_p64 : lw_okq (⟨"PointLedgerModel", "groupsOf", "(I)I"⟩, 40) := ⟨⟨by decide +kernel, by decide +kernel⟩, lw_t4 (List.mem_of_getElem? (i := 175) rfl), lw_t5 (List.mem_of_getElem? (i := 230) rfl), lw_t5 (List.mem_of_getElem? (i := 231) rfl)⟩
theorem lw_p65 : lw_okq (⟨"PointLedgerModel", "slot", "(II)I"⟩, 40) := ⟨⟨by decide +kernel, by decide +kernel⟩, lw_t4 (List.mem_of_getElem? (i := 175) rfl), lw_t5 (List.mem_of_getElem? (i := 234) rfl), lw_t5 (List.mem_of_getElem? (i := 235) rfl)⟩
theorem lw_p66 : lw_okq (⟨"PointLedgerModel", "lookInto", "(IIIII)V"⟩, 40) := ⟨⟨by decide +kernel, by decide +kernel⟩, lw_t4 (List.mem_of_getElem? (i := 175) rfl), lw_t6 (List.mem_of_getElem? (i := 1) rfl), lw_t6 (List.mem_of_getElem? (i := 2) rfl)⟩
theorem lw_p67 : lw_okq (⟨"PointLedgerModel", "isAt", "()Z"⟩, 40) := ⟨⟨by decide +kernel, by decide +kernel⟩, lw_t4 (List.mem_of_getElem? (i := 175) rfl), lw_t6 (List.mem_of_getElem? (i := 13) rfl), lw_t6 (List.mem_of_getElem? (i := 14) rfl)⟩
theorem lw_p68 : lw_okq (⟨"PointLedgerModel", "asks", "(III)Z"⟩, 40) := ⟨⟨by decide +kernel, by decide +kernel⟩, lw_t4 (List.mem_of_getElem? (i := 175) rfl), lw_t6 (List.mem_of_getElem? (i := 29) rfl), lw_t6 (List.mem_of_getElem? (i := 30) rfl)⟩
theorem lw_p69 : lw_okq (⟨"PointLedgerModel", "read", "(I)V"⟩, 40) := ⟨⟨by decide +kernel, by decide +kernel⟩, lw_t4 (List.mem_of_getElem? (i := 175) rfl), lw_t6 (List.mem_of_getElem? (i := 50) rfl), lw_t6 (List.mem_of_getElem? (i := 51) rfl)⟩
theorem lw_p70 : lw_okq (⟨"PointLedgerModel", "takeStep", "()J"⟩, 40) := ⟨⟨by decide +kernel, by decide +kernel⟩, lw_t4 (List.mem_of_getElem? (i := 175) rfl), lw_t6 (List.mem_of_getElem? (i := 54) rfl), lw_t6 (List.mem_of_getElem? (i := 55) rfl)⟩
theorem lw_p71 : lw_okq (⟨"PointLedgerModel", "take", "(I)J"⟩, 40) := ⟨⟨by decide +kernel, by decide +kernel⟩, lw_t4 (List.mem_of_getElem? (i := 175) rfl), lw_t6 (List.mem_of_getElem? (i := 58) rfl), lw_t6 (List.mem_of_getElem? (i := 59) rfl)⟩
theorem lw_p72 : lw_okq (⟨"PointLedgerModel", "takeValue", "()I"⟩, 40) := ⟨⟨by decide +kernel, by decide +kernel⟩, lw_t4 (List.mem_of_getElem? (i := 175) rfl), lw_t6 (List.mem_of_getElem? (i := 62) rfl), lw_t6 (List.mem_of_getElem? (i := 63) rfl)⟩
theorem lw_p73 : lw_okq (⟨"PointLedgerModel", "taken", "()I"⟩, 40) := ⟨⟨by decide +kernel, by decide +kernel⟩, lw_t4 (List.mem_of_getElem? (i := 175) rfl), lw_t6 (List.mem_of_getElem? (i := 86) rfl), lw_t6 (List.mem_of_getElem? (i := 87) rfl)⟩
def lw_privs_5 : List (MethodName × Nat) := [(⟨"PointLedgerModel", "groupsOf", "(I)I"⟩, 40), (⟨"PointLedgerModel", "slot", "(II)I"⟩, 40), (⟨"PointLedgerModel", "lookInto", "(IIIII)V"⟩, 40), (⟨"PointLedgerModel", "isAt", "()Z"⟩, 40), (⟨"PointLedgerModel", "asks", "(III)Z"⟩, 40), (⟨"PointLedgerModel", "read", "(I)V"⟩, 40), (⟨"PointLedgerModel", "takeStep", "()J"⟩, 40), (⟨"PointLedgerModel", "take", "(I)J"⟩, 40), (⟨"PointLedgerModel", "takeValue", "()I"⟩, 40), (⟨"PointLedgerModel", "taken", "()I"⟩, 40)]
theorem lw_r5 : ∀ q ∈ lw_privs_5, lw_okq q := List.forall_mem_cons.mpr ⟨lw_p64, List.forall_mem_cons.mpr ⟨lw_p65, List.forall_mem_cons.mpr ⟨lw_p66, List.forall_mem_cons.mpr ⟨lw_p67, List.forall_mem_cons.mpr ⟨lw_p68, List.forall_mem_cons.mpr ⟨lw_p69, List.forall_mem_cons.mpr ⟨lw_p70, List.forall_mem_cons.mpr ⟨lw_p71, List.forall_mem_cons.mpr ⟨lw_p72, List.forall_mem_cons.mpr ⟨lw_p73, fun _ h => absurd h List.not_mem_nil⟩⟩⟩⟩⟩⟩⟩⟩⟩⟩
def lw_privs : List (MethodName × Nat) := lw_privs_1 ++ (lw_privs_2 ++ (lw_privs_3 ++ (lw_privs_4 ++ (lw_privs_5))))
def lw_tbl : List Cond := k2_sels lw_privs ++ tables_1
theorem lw_privs_ok : ∀ q ∈ lw_privs, lw_okq q := by
  show ∀ q ∈ lw_privs_1 ++ (lw_privs_2 ++ (lw_privs_3 ++ (lw_privs_4 ++ (lw_privs_5)))), lw_okq q
  exact List.forall_mem_append.mpr ⟨lw_r1, List.forall_mem_append.mpr ⟨lw_r2, List.forall_mem_append.mpr ⟨lw_r3, List.forall_mem_append.mpr ⟨lw_r4, lw_r5⟩⟩⟩⟩
-- ===== ONE list of words for every method: the tables' words that hold all through a run =====
def lw_all : List Cond := lw_tbl.filter goodWord
/-- a word of the tables by its place: claim/WORDS.tsv -/
theorem lw_w {w : Cond} (i : Nat) (h : lw_tbl[i]? = some w) (g : goodWord w = true) : w ∈ lw_all := List.mem_filter.mpr ⟨List.mem_of_getElem? h, g⟩
theorem lw_all_tbl {w : Cond} (h : w ∈ lw_all) : w ∈ lw_tbl := (List.mem_filter.mp h).1
theorem lw_self : GoodIn lw_all lw_all := fun w h => ⟨h, good_of_word (List.mem_filter.mp h).2⟩
/-- a class's field words, by their places -/
theorem lw_in (ws : List Cond) (ps : List Nat) (hp : ws = ps.filterMap (fun i => lw_tbl[i]?)) (hg : ws.all goodWord = true) : ∀ w ∈ ws, w ∈ lw_all := by
  intro w h
  have h1 := List.all_eq_true.mp hg w h
  rw [hp] at h
  obtain ⟨i, -, hi⟩ := List.mem_filterMap.mp h
  exact lw_w i hi h1
/-- the words of a contract for the method y with code b, L locals, answer r -/
abbrev ws_ (y : MethodName) (b : ByteArray) (L : Nat) (r : Option FieldType) : List Cond := Cond.code y b L r :: lw_all
theorem lw_meth {y : MethodName} {b : ByteArray} {L : Nat} {r : Option FieldType} (h : Cond.code y b L r ∈ lw_all) : GoodIn lw_all (ws_ y b L r) := by
  intro w hw
  rcases List.mem_cons.mp hw with e | e
  · rw [e]
    exact lw_self _ h
  · exact lw_self _ e
theorem lw_app {a c : List Cond} (ha : ∀ w ∈ a, w ∈ lw_all) (hc : GoodIn lw_all c) : GoodIn lw_all (a ++ c) := by
  intro w hw
  rcases List.mem_append.mp hw with e | e
  · exact lw_self w (ha w e)
  · exact hc w e
/-- what a call through an object asks: cwV n hts (lw_V ..) -/
theorem lw_V {own : String} {idx : Nat} {C : String} {y : MethodName} {b : ByteArray} {L : Nat} {r : Option FieldType} (h1 : Cond.methodLink own idx y ∈ lw_all) (h2 : Cond.instanceMethod y ∈ lw_all) (h3 : Cond.selects C y y ∈ lw_all) (h4 : Cond.initialized C ∈ lw_all) (h5 : Cond.code y b L r ∈ lw_all) : GoodIn lw_all (wsV own idx C y (ws_ y b L r)) := by
  refine lw_app ?_ (lw_meth h5)
  intro w hw
  simp only [List.mem_cons, List.not_mem_nil, or_false] at hw
  rcases hw with e | e | e | e
  · rw [e]; exact h1
  · rw [e]; exact h2
  · rw [e]; exact h3
  · rw [e]; exact h4
/-- what a static call asks: va_cwS n hts (lw_S ..) -/
theorem lw_S {own : String} {idx : Nat} {y : MethodName} {b : ByteArray} {L : Nat} {r : Option FieldType} (h1 : Cond.methodLink own idx y ∈ lw_all) (h2 : Cond.static y ∈ lw_all) (h3 : Cond.initialized y.cls ∈ lw_all) (h4 : Cond.code y b L r ∈ lw_all) : GoodIn lw_all (va_wsS own idx y (ws_ y b L r)) := by
  refine lw_app ?_ (lw_meth h4)
  intro w hw
  simp only [List.mem_cons, List.not_mem_nil, or_false] at hw
  rcases hw with e | e | e
  · rw [e]; exact h1
  · rw [e]; exact h2
  · rw [e]; exact h3
/-- the words of a contract for a method WITH HANDLERS (hh: its table) -/
abbrev wsW_ (y : MethodName) (b : ByteArray) (L : Nat) (r : Option FieldType) (hh : List (Nat × Nat × Nat × Nat)) : List Cond := Cond.codeWith y b L r hh :: lw_all
theorem lw_methW {y : MethodName} {b : ByteArray} {L : Nat} {r : Option FieldType} {hh : List (Nat × Nat × Nat × Nat)} (h : Cond.codeWith y b L r hh ∈ lw_all) : GoodIn lw_all (wsW_ y b L r hh) := by
  intro w hw
  rcases List.mem_cons.mp hw with e | e
  · rw [e]
    exact lw_self _ h
  · exact lw_self _ e
/-- any list of words by their places (lw_in), good -/
theorem lw_good {ws : List Cond} (h : ∀ w ∈ ws, w ∈ lw_all) : GoodIn lw_all ws := fun w hw => lw_self w (h w hw)
/-- what a call of a method with handlers asks: vx_cwVW n hts (lw_VW ..), vx_cwSW n hts (lw_SW ..) -/
theorem lw_VW {own : String} {idx : Nat} {C : String} {y : MethodName} {b : ByteArray} {L : Nat} {r : Option FieldType} {hh : List (Nat × Nat × Nat × Nat)} (h1 : Cond.methodLink own idx y ∈ lw_all) (h2 : Cond.instanceMethod y ∈ lw_all) (h3 : Cond.selects C y y ∈ lw_all) (h4 : Cond.initialized C ∈ lw_all) (h5 : Cond.codeWith y b L r hh ∈ lw_all) : GoodIn lw_all (wsV own idx C y (wsW_ y b L r hh)) := by
  refine lw_app ?_ (lw_methW h5)
  intro w hw
  simp only [List.mem_cons, List.not_mem_nil, or_false] at hw
  rcases hw with e | e | e | e
  · rw [e]; exact h1
  · rw [e]; exact h2
  · rw [e]; exact h3
  · rw [e]; exact h4
theorem lw_SW {own : String} {idx : Nat} {y : MethodName} {b : ByteArray} {L : Nat} {r : Option FieldType} {hh : List (Nat × Nat × Nat × Nat)} (h1 : Cond.methodLink own idx y ∈ lw_all) (h2 : Cond.static y ∈ lw_all) (h3 : Cond.initialized y.cls ∈ lw_all) (h4 : Cond.codeWith y b L r hh ∈ lw_all) : GoodIn lw_all (va_wsS own idx y (wsW_ y b L r hh)) := by
  refine lw_app ?_ (lw_methW h4)
  intro w hw
  simp only [List.mem_cons, List.not_mem_nil, or_false] at hw
  rcases hw with e | e | e
  · rw [e]; exact h1
  · rw [e]; exact h2
  · rw [e]; exact h3
/-- a word by its place in its run of the tables -/
theorem lw_at {r : List Cond} (hr : ∀ w ∈ r, w ∈ lw_tbl) {w : Cond} (i : Nat) (h : r[i]? = some w) : w ∈ lw_tbl := hr w (List.mem_of_getElem? h)
theorem lw_g {w : Cond} (h : w ∈ lw_tbl) (g : goodWord w = true) : w ∈ lw_all := List.mem_filter.mpr ⟨h, g⟩
theorem lw_ms : ∀ w ∈ k2_sels lw_privs, w ∈ lw_tbl := fun w h => show w ∈ k2_sels lw_privs ++ tables_1 from List.mem_append_left _ h
theorem lw_m1 : ∀ w ∈ tables_1_1, w ∈ lw_tbl := fun w h => show w ∈ k2_sels lw_privs ++ tables_1 from List.mem_append_right (k2_sels lw_privs) (show w ∈ tables_1 from List.mem_append_left _ h)
theorem lw_m2 : ∀ w ∈ tables_1_2, w ∈ lw_tbl := fun w h => show w ∈ k2_sels lw_privs ++ tables_1 from List.mem_append_right (k2_sels lw_privs) (show w ∈ tables_1 from List.mem_append_right _ (List.mem_append_left _ h))
theorem lw_m3 : ∀ w ∈ tables_1_3, w ∈ lw_tbl := fun w h => show w ∈ k2_sels lw_privs ++ tables_1 from List.mem_append_right (k2_sels lw_privs) (show w ∈ tables_1 from List.mem_append_right _ (List.mem_append_right _ (List.mem_append_left _ h)))
theorem lw_m4 : ∀ w ∈ tables_1_4, w ∈ lw_tbl := fun w h => show w ∈ k2_sels lw_privs ++ tables_1 from List.mem_append_right (k2_sels lw_privs) (show w ∈ tables_1 from List.mem_append_right _ (List.mem_append_right _ (List.mem_append_right _ (List.mem_append_left _ h))))
theorem lw_m5 : ∀ w ∈ tables_1_5, w ∈ lw_tbl := fun w h => show w ∈ k2_sels lw_privs ++ tables_1 from List.mem_append_right (k2_sels lw_privs) (show w ∈ tables_1 from List.mem_append_right _ (List.mem_append_right _ (List.mem_append_right _ (List.mem_append_right _ (List.mem_append_left _ h)))))
theorem lw_m6 : ∀ w ∈ tables_1_6, w ∈ lw_tbl := fun w h => show w ∈ k2_sels lw_privs ++ tables_1 from List.mem_append_right (k2_sels lw_privs) (show w ∈ tables_1 from List.mem_append_right _ (List.mem_append_right _ (List.mem_append_right _ (List.mem_append_right _ (List.mem_append_right _ h)))))
theorem qs0 : (Cond.selects "java/lang/NullPointerException" ⟨"java/lang/NullPointerException", "getExtendedNPEMessage", "()Ljava/lang/String;"⟩ ⟨"java/lang/NullPointerException", "getExtendedNPEMessage", "()Ljava/lang/String;"⟩) ∈ lw_all := lw_g (lw_at lw_ms 0 rfl) rfl
theorem qs1 : (Cond.selects "java/lang/Throwable" ⟨"java/lang/Throwable", "fillInStackTrace", "(I)Ljava/lang/Throwable;"⟩ ⟨"java/lang/Throwable", "fillInStackTrace", "(I)Ljava/lang/Throwable;"⟩) ∈ lw_all := lw_g (lw_at lw_ms 1 rfl) rfl
theorem qs2 : (Cond.selects "PointLedger" ⟨"PointLedger", "gather", "()V"⟩ ⟨"PointLedger", "gather", "()V"⟩) ∈ lw_all := lw_g (lw_at lw_ms 2 rfl) rfl
theorem qs3 : (Cond.selects "PointLedger" ⟨"PointLedger", "isSeries", "(I)Z"⟩ ⟨"PointLedger", "isSeries", "(I)Z"⟩) ∈ lw_all := lw_g (lw_at lw_ms 3 rfl) rfl
theorem qs4 : (Cond.selects "PointLedger" ⟨"PointLedger", "head", "(I)LPointLedger$Head;"⟩ ⟨"PointLedger", "head", "(I)LPointLedger$Head;"⟩) ∈ lw_all := lw_g (lw_at lw_ms 4 rfl) rfl
theorem qs5 : (Cond.selects "PointLedger" ⟨"PointLedger", "isRising", "(II)Z"⟩ ⟨"PointLedger", "isRising", "(II)Z"⟩) ∈ lw_all := lw_g (lw_at lw_ms 5 rfl) rfl
theorem qs6 : (Cond.selects "PointLedger" ⟨"PointLedger", "plans", "()V"⟩ ⟨"PointLedger", "plans", "()V"⟩) ∈ lw_all := lw_g (lw_at lw_ms 6 rfl) rfl
theorem qs7 : (Cond.selects "PointLedger" ⟨"PointLedger", "opens", "(I)Z"⟩ ⟨"PointLedger", "opens", "(I)Z"⟩) ∈ lw_all := lw_g (lw_at lw_ms 7 rfl) rfl
theorem qs8 : (Cond.selects "PointLedger" ⟨"PointLedger", "adds", "(II)V"⟩ ⟨"PointLedger", "adds", "(II)V"⟩) ∈ lw_all := lw_g (lw_at lw_ms 8 rfl) rfl
theorem qs9 : (Cond.selects "PointLedger$Packer" ⟨"PointLedger$Packer", "put", "(JI)V"⟩ ⟨"PointLedger$Packer", "put", "(JI)V"⟩) ∈ lw_all := lw_g (lw_at lw_ms 9 rfl) rfl
theorem qs10 : (Cond.selects "PointLedger$Packer" ⟨"PointLedger$Packer", "change", "(J)V"⟩ ⟨"PointLedger$Packer", "change", "(J)V"⟩) ∈ lw_all := lw_g (lw_at lw_ms 10 rfl) rfl
theorem qs11 : (Cond.selects "PointLedger" ⟨"PointLedger", "closes", "()V"⟩ ⟨"PointLedger", "closes", "()V"⟩) ∈ lw_all := lw_g (lw_at lw_ms 11 rfl) rfl
theorem qs12 : (Cond.selects "PointLedger" ⟨"PointLedger", "done", "(II)I"⟩ ⟨"PointLedger", "done", "(II)I"⟩) ∈ lw_all := lw_g (lw_at lw_ms 12 rfl) rfl
theorem qs13 : (Cond.selects "PointLedger" ⟨"PointLedger", "places", "()Z"⟩ ⟨"PointLedger", "places", "()Z"⟩) ∈ lw_all := lw_g (lw_at lw_ms 13 rfl) rfl
theorem qs14 : (Cond.selects "PointLedger" ⟨"PointLedger", "takes", "(II)V"⟩ ⟨"PointLedger", "takes", "(II)V"⟩) ∈ lw_all := lw_g (lw_at lw_ms 14 rfl) rfl
theorem qs15 : (Cond.selects "PointLedger" ⟨"PointLedger", "free", "(I)I"⟩ ⟨"PointLedger", "free", "(I)I"⟩) ∈ lw_all := lw_g (lw_at lw_ms 15 rfl) rfl
theorem qs16 : (Cond.selects "PointLedger" ⟨"PointLedger", "turn", "(I)V"⟩ ⟨"PointLedger", "turn", "(I)V"⟩) ∈ lw_all := lw_g (lw_at lw_ms 16 rfl) rfl
theorem qs17 : (Cond.selects "PointLedger" ⟨"PointLedger", "entry", "(II)V"⟩ ⟨"PointLedger", "entry", "(II)V"⟩) ∈ lw_all := lw_g (lw_at lw_ms 17 rfl) rfl
theorem qs18 : (Cond.selects "PointLedger" ⟨"PointLedger", "reach", "(II)I"⟩ ⟨"PointLedger", "reach", "(II)I"⟩) ∈ lw_all := lw_g (lw_at lw_ms 18 rfl) rfl
theorem qs19 : (Cond.selects "PointLedger" ⟨"PointLedger", "merges", "(II)V"⟩ ⟨"PointLedger", "merges", "(II)V"⟩) ∈ lw_all := lw_g (lw_at lw_ms 19 rfl) rfl
theorem qs20 : (Cond.selects "PointLedger$Unpacker" ⟨"PointLedger$Unpacker", "bits", "(I)J"⟩ ⟨"PointLedger$Unpacker", "bits", "(I)J"⟩) ∈ lw_all := lw_g (lw_at lw_ms 20 rfl) rfl
theorem qs21 : (Cond.selects "PointLedger$Unpacker" ⟨"PointLedger$Unpacker", "change", "()J"⟩ ⟨"PointLedger$Unpacker", "change", "()J"⟩) ∈ lw_all := lw_g (lw_at lw_ms 21 rfl) rfl
theorem qs22 : (Cond.selects "PointLedger$Unpacker" ⟨"PointLedger$Unpacker", "bit", "()Z"⟩ ⟨"PointLedger$Unpacker", "bit", "()Z"⟩) ∈ lw_all := lw_g (lw_at lw_ms 22 rfl) rfl
theorem qs23 : (Cond.selects "PointLedger$Unpacker" ⟨"PointLedger$Unpacker", "difference", "()I"⟩ ⟨"PointLedger$Unpacker", "difference", "()I"⟩) ∈ lw_all := lw_g (lw_at lw_ms 23 rfl) rfl
theorem qs24 : (Cond.selects "PointLedger" ⟨"PointLedger", "asks", "(III)V"⟩ ⟨"PointLedger", "asks", "(III)V"⟩) ∈ lw_all := lw_g (lw_at lw_ms 24 rfl) rfl
theorem qs25 : (Cond.selects "PointLedger" ⟨"PointLedger", "asksGroup", "(IIII)V"⟩ ⟨"PointLedger", "asksGroup", "(IIII)V"⟩) ∈ lw_all := lw_g (lw_at lw_ms 25 rfl) rfl
theorem qs26 : (Cond.selects "PointLedger$Walk" ⟨"PointLedger$Walk", "goes", "()Z"⟩ ⟨"PointLedger$Walk", "goes", "()Z"⟩) ∈ lw_all := lw_g (lw_at lw_ms 26 rfl) rfl
theorem qs27 : (Cond.selects "PointLedger" ⟨"PointLedger", "isAt", "()Z"⟩ ⟨"PointLedger", "isAt", "()Z"⟩) ∈ lw_all := lw_g (lw_at lw_ms 27 rfl) rfl
theorem qs28 : (Cond.selects "PointLedger" ⟨"PointLedger", "reads", "()V"⟩ ⟨"PointLedger", "reads", "()V"⟩) ∈ lw_all := lw_g (lw_at lw_ms 28 rfl) rfl
theorem qs29 : (Cond.selects "PointLedger" ⟨"PointLedger", "areaTaken", "()I"⟩ ⟨"PointLedger", "areaTaken", "()I"⟩) ∈ lw_all := lw_g (lw_at lw_ms 29 rfl) rfl
theorem qs30 : (Cond.selects "PointLedger" ⟨"PointLedger", "need", "(I)V"⟩ ⟨"PointLedger", "need", "(I)V"⟩) ∈ lw_all := lw_g (lw_at lw_ms 30 rfl) rfl
theorem qs31 : (Cond.selects "PointLedger" ⟨"PointLedger", "chunks", "(I)I"⟩ ⟨"PointLedger", "chunks", "(I)I"⟩) ∈ lw_all := lw_g (lw_at lw_ms 31 rfl) rfl
theorem qs32 : (Cond.selects "PointLedgerModel" ⟨"PointLedgerModel", "dropCursor", "()V"⟩ ⟨"PointLedgerModel", "dropCursor", "()V"⟩) ∈ lw_all := lw_g (lw_at lw_ms 32 rfl) rfl
theorem qs33 : (Cond.selects "PointLedgerModel" ⟨"PointLedgerModel", "isSeries", "(I)Z"⟩ ⟨"PointLedgerModel", "isSeries", "(I)Z"⟩) ∈ lw_all := lw_g (lw_at lw_ms 33 rfl) rfl
theorem qs34 : (Cond.selects "PointLedgerModel" ⟨"PointLedgerModel", "isRising", "(II)Z"⟩ ⟨"PointLedgerModel", "isRising", "(II)Z"⟩) ∈ lw_all := lw_g (lw_at lw_ms 34 rfl) rfl
theorem qs35 : (Cond.selects "PointLedgerModel" ⟨"PointLedgerModel", "write", "(II)Z"⟩ ⟨"PointLedgerModel", "write", "(II)Z"⟩) ∈ lw_all := lw_g (lw_at lw_ms 35 rfl) rfl
theorem qs36 : (Cond.selects "PointLedgerModel" ⟨"PointLedgerModel", "beginNext", "()V"⟩ ⟨"PointLedgerModel", "beginNext", "()V"⟩) ∈ lw_all := lw_g (lw_at lw_ms 36 rfl) rfl
theorem qs37 : (Cond.selects "PointLedgerModel" ⟨"PointLedgerModel", "comes", "(IZ)V"⟩ ⟨"PointLedgerModel", "comes", "(IZ)V"⟩) ∈ lw_all := lw_g (lw_at lw_ms 37 rfl) rfl
theorem qs38 : (Cond.selects "PointLedgerModel" ⟨"PointLedgerModel", "headsOf", "(I)V"⟩ ⟨"PointLedgerModel", "headsOf", "(I)V"⟩) ∈ lw_all := lw_g (lw_at lw_ms 38 rfl) rfl
theorem qs39 : (Cond.selects "PointLedgerModel" ⟨"PointLedgerModel", "freeSlot", "()I"⟩ ⟨"PointLedgerModel", "freeSlot", "()I"⟩) ∈ lw_all := lw_g (lw_at lw_ms 39 rfl) rfl
theorem qs40 : (Cond.selects "PointLedgerModel" ⟨"PointLedgerModel", "isUsed", "(I)Z"⟩ ⟨"PointLedgerModel", "isUsed", "(I)Z"⟩) ∈ lw_all := lw_g (lw_at lw_ms 40 rfl) rfl
theorem qs41 : (Cond.selects "PointLedgerModel" ⟨"PointLedgerModel", "add", "(III)V"⟩ ⟨"PointLedgerModel", "add", "(III)V"⟩) ∈ lw_all := lw_g (lw_at lw_ms 41 rfl) rfl
theorem qs42 : (Cond.selects "PointLedgerModel" ⟨"PointLedgerModel", "turn", "(I)I"⟩ ⟨"PointLedgerModel", "turn", "(I)I"⟩) ∈ lw_all := lw_g (lw_at lw_ms 42 rfl) rfl
theorem qs43 : (Cond.selects "PointLedgerModel" ⟨"PointLedgerModel", "make", "(I)I"⟩ ⟨"PointLedgerModel", "make", "(I)I"⟩) ∈ lw_all := lw_g (lw_at lw_ms 43 rfl) rfl
theorem qs44 : (Cond.selects "PointLedgerModel" ⟨"PointLedgerModel", "putStep", "(J)V"⟩ ⟨"PointLedgerModel", "putStep", "(J)V"⟩) ∈ lw_all := lw_g (lw_at lw_ms 44 rfl) rfl
theorem qs45 : (Cond.selects "PointLedgerModel" ⟨"PointLedgerModel", "put", "(JI)V"⟩ ⟨"PointLedgerModel", "put", "(JI)V"⟩) ∈ lw_all := lw_g (lw_at lw_ms 45 rfl) rfl
theorem qs46 : (Cond.selects "PointLedgerModel" ⟨"PointLedgerModel", "putValue", "(I)V"⟩ ⟨"PointLedgerModel", "putValue", "(I)V"⟩) ∈ lw_all := lw_g (lw_at lw_ms 46 rfl) rfl
theorem qs47 : (Cond.selects "PointLedgerModel" ⟨"PointLedgerModel", "find", "(II)I"⟩ ⟨"PointLedgerModel", "find", "(II)I"⟩) ∈ lw_all := lw_g (lw_at lw_ms 47 rfl) rfl
theorem qs48 : (Cond.selects "PointLedgerModel" ⟨"PointLedgerModel", "isTaken", "(II)Z"⟩ ⟨"PointLedgerModel", "isTaken", "(II)Z"⟩) ∈ lw_all := lw_g (lw_at lw_ms 48 rfl) rfl
theorem qs49 : (Cond.selects "PointLedgerModel" ⟨"PointLedgerModel", "isOf", "(II)Z"⟩ ⟨"PointLedgerModel", "isOf", "(II)Z"⟩) ∈ lw_all := lw_g (lw_at lw_ms 49 rfl) rfl
theorem qs50 : (Cond.selects "PointLedgerModel" ⟨"PointLedgerModel", "writeChunk", "(I)Z"⟩ ⟨"PointLedgerModel", "writeChunk", "(I)Z"⟩) ∈ lw_all := lw_g (lw_at lw_ms 50 rfl) rfl
theorem qs51 : (Cond.selects "PointLedgerModel" ⟨"PointLedgerModel", "index", "(I)I"⟩ ⟨"PointLedgerModel", "index", "(I)I"⟩) ∈ lw_all := lw_g (lw_at lw_ms 51 rfl) rfl
theorem qs52 : (Cond.selects "PointLedgerModel" ⟨"PointLedgerModel", "writeIndex", "(I)Z"⟩ ⟨"PointLedgerModel", "writeIndex", "(I)Z"⟩) ∈ lw_all := lw_g (lw_at lw_ms 52 rfl) rfl
theorem qs53 : (Cond.selects "PointLedgerModel" ⟨"PointLedgerModel", "sumOf", "(I)J"⟩ ⟨"PointLedgerModel", "sumOf", "(I)J"⟩) ∈ lw_all := lw_g (lw_at lw_ms 53 rfl) rfl
theorem qs54 : (Cond.selects "PointLedgerModel" ⟨"PointLedgerModel", "firstTime", "(I)I"⟩ ⟨"PointLedgerModel", "firstTime", "(I)I"⟩) ∈ lw_all := lw_g (lw_at lw_ms 54 rfl) rfl
theorem qs55 : (Cond.selects "PointLedgerModel" ⟨"PointLedgerModel", "lastTime", "(I)I"⟩ ⟨"PointLedgerModel", "lastTime", "(I)I"⟩) ∈ lw_all := lw_g (lw_at lw_ms 55 rfl) rfl
theorem qs56 : (Cond.selects "PointLedgerModel" ⟨"PointLedgerModel", "leastOf", "(I)I"⟩ ⟨"PointLedgerModel", "leastOf", "(I)I"⟩) ∈ lw_all := lw_g (lw_at lw_ms 56 rfl) rfl
theorem qs57 : (Cond.selects "PointLedgerModel" ⟨"PointLedgerModel", "greatestOf", "(I)I"⟩ ⟨"PointLedgerModel", "greatestOf", "(I)I"⟩) ∈ lw_all := lw_g (lw_at lw_ms 57 rfl) rfl
theorem qs58 : (Cond.selects "PointLedgerModel" ⟨"PointLedgerModel", "together", "(I)I"⟩ ⟨"PointLedgerModel", "together", "(I)I"⟩) ∈ lw_all := lw_g (lw_at lw_ms 58 rfl) rfl
theorem qs59 : (Cond.selects "PointLedgerModel" ⟨"PointLedgerModel", "joined", "(II)V"⟩ ⟨"PointLedgerModel", "joined", "(II)V"⟩) ∈ lw_all := lw_g (lw_at lw_ms 59 rfl) rfl
theorem qs60 : (Cond.selects "PointLedgerModel" ⟨"PointLedgerModel", "ask", "(IIIZ)V"⟩ ⟨"PointLedgerModel", "ask", "(IIIZ)V"⟩) ∈ lw_all := lw_g (lw_at lw_ms 60 rfl) rfl
theorem qs61 : (Cond.selects "PointLedgerModel" ⟨"PointLedgerModel", "meet", "(IIIIZ)V"⟩ ⟨"PointLedgerModel", "meet", "(IIIIZ)V"⟩) ∈ lw_all := lw_g (lw_at lw_ms 61 rfl) rfl
theorem qs62 : (Cond.selects "PointLedgerModel" ⟨"PointLedgerModel", "lookAt", "(III)V"⟩ ⟨"PointLedgerModel", "lookAt", "(III)V"⟩) ∈ lw_all := lw_g (lw_at lw_ms 62 rfl) rfl
theorem qs63 : (Cond.selects "PointLedgerModel" ⟨"PointLedgerModel", "chunksOf", "(I)I"⟩ ⟨"PointLedgerModel", "chunksOf", "(I)I"⟩) ∈ lw_all := lw_g (lw_at lw_ms 63 rfl) rfl
theorem qs64 : (Cond.selects "PointLedgerModel" ⟨"PointLedgerModel", "groupsOf", "(I)I"⟩ ⟨"PointLedgerModel", "groupsOf", "(I)I"⟩) ∈ lw_all := lw_g (lw_at lw_ms 64 rfl) rfl
theorem qs65 : (Cond.selects "PointLedgerModel" ⟨"PointLedgerModel", "slot", "(II)I"⟩ ⟨"PointLedgerModel", "slot", "(II)I"⟩) ∈ lw_all := lw_g (lw_at lw_ms 65 rfl) rfl
theorem qs66 : (Cond.selects "PointLedgerModel" ⟨"PointLedgerModel", "lookInto", "(IIIII)V"⟩ ⟨"PointLedgerModel", "lookInto", "(IIIII)V"⟩) ∈ lw_all := lw_g (lw_at lw_ms 66 rfl) rfl
theorem qs67 : (Cond.selects "PointLedgerModel" ⟨"PointLedgerModel", "isAt", "()Z"⟩ ⟨"PointLedgerModel", "isAt", "()Z"⟩) ∈ lw_all := lw_g (lw_at lw_ms 67 rfl) rfl
theorem qs68 : (Cond.selects "PointLedgerModel" ⟨"PointLedgerModel", "asks", "(III)Z"⟩ ⟨"PointLedgerModel", "asks", "(III)Z"⟩) ∈ lw_all := lw_g (lw_at lw_ms 68 rfl) rfl
theorem qs69 : (Cond.selects "PointLedgerModel" ⟨"PointLedgerModel", "read", "(I)V"⟩ ⟨"PointLedgerModel", "read", "(I)V"⟩) ∈ lw_all := lw_g (lw_at lw_ms 69 rfl) rfl
theorem qs70 : (Cond.selects "PointLedgerModel" ⟨"PointLedgerModel", "takeStep", "()J"⟩ ⟨"PointLedgerModel", "takeStep", "()J"⟩) ∈ lw_all := lw_g (lw_at lw_ms 70 rfl) rfl
theorem qs71 : (Cond.selects "PointLedgerModel" ⟨"PointLedgerModel", "take", "(I)J"⟩ ⟨"PointLedgerModel", "take", "(I)J"⟩) ∈ lw_all := lw_g (lw_at lw_ms 71 rfl) rfl
theorem qs72 : (Cond.selects "PointLedgerModel" ⟨"PointLedgerModel", "takeValue", "()I"⟩ ⟨"PointLedgerModel", "takeValue", "()I"⟩) ∈ lw_all := lw_g (lw_at lw_ms 72 rfl) rfl
theorem qs73 : (Cond.selects "PointLedgerModel" ⟨"PointLedgerModel", "taken", "()I"⟩ ⟨"PointLedgerModel", "taken", "()I"⟩) ∈ lw_all := lw_g (lw_at lw_ms 73 rfl) rfl
