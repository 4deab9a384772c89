-- ===== PART A: goes FIRST, ahead of the names: the tables' words, and 'selects' of the private methods out of them =====
/-- a private method of a class that the tables say can be made, by its rows of tables_1 -/
def lw_okq (q : MethodName × Nat) : Prop := (q.1.cls ≠ "java/lang/invoke/MethodHandle" ∧ q.1.cls ≠ "java/lang/invoke/VarHandle") ∧ Cond.instantiable q.1.cls q.2 ∈ tables_1 ∧ Cond.privateMethod q.1 ∈ tables_1 ∧ Cond.instanceMethod q.1 ∈ tables_1
set_option maxRecDepth 100000
theorem lw_t1 {w : Cond} (h : w ∈ tables_1_1) : w ∈ tables_1 := List.mem_append_left _ h
theorem lw_t2 {w : Cond} (h : w ∈ tables_1_2) : w ∈ tables_1 := List.mem_append_right _ (List.mem_append_left _ h)
theorem lw_t3 {w : Cond} (h : w ∈ tables_1_3) : w ∈ tables_1 := List.mem_append_right _ (List.mem_append_right _ (List.mem_append_left _ h))
theorem lw_t4 {w : Cond} (h : w ∈ tables_1_4) : w ∈ tables_1 := List.mem_append_right _ (List.mem_append_right _ (List.mem_append_right _ (List.mem_append_left _ h)))
theorem lw_t5 {w : Cond} (h : w ∈ tables_1_5) : w ∈ tables_1 := List.mem_append_right _ (List.mem_append_right _ (List.mem_append_right _ (List.mem_append_right _ (List.mem_append_left _ h))))
theorem lw_t6 {w : Cond} (h : w ∈ tables_1_6) : w ∈ tables_1 := List.mem_append_right _ (List.mem_append_right _ (List.mem_append_right _ (List.mem_append_right _ (List.mem_append_right _ (List.mem_append_left _ h)))))
theorem lw_t7 {w : Cond} (h : w ∈ tables_1_7) : w ∈ tables_1 := List.mem_append_right _ (List.mem_append_right _ (List.mem_append_right _ (List.mem_append_right _ (List.mem_append_right _ (List.mem_append_right _ (List.mem_append_left _ h))))))
theorem lw_t8 {w : Cond} (h : w ∈ tables_1_8) : w ∈ tables_1 := List.mem_append_right _ (List.mem_append_right _ (List.mem_append_right _ (List.mem_append_right _ (List.mem_append_right _ (List.mem_append_right _ (List.mem_append_right _ h))))))
theorem lw_p0 : lw_okq (⟨"RiverWage", "isKitchen", "(I)Z"⟩, 28) := ⟨⟨by decide +kernel, by decide +kernel⟩, lw_t1 (List.mem_of_getElem? (i := 27) rfl), lw_t2 (List.mem_of_getElem? (i := 32) rfl), lw_t2 (List.mem_of_getElem? (i := 33) rfl)⟩
theorem lw_p1 : lw_okq (⟨"RiverWage", "handsOf", "(LRiverWage$Kitchen;I)I"⟩, 28) := ⟨⟨by decide +kernel, by decide +kernel⟩, lw_t1 (List.mem_of_getElem? (i := 27) rfl), lw_t2 (List.mem_of_getElem? (i := 62) rfl), lw_t2 (List.mem_of_getElem? (i := 63) rfl)⟩
theorem lw_p2 : lw_okq (⟨"RiverWage", "handsOf", "(II)I"⟩, 28) := ⟨⟨by decide +kernel, by decide +kernel⟩, lw_t1 (List.mem_of_getElem? (i := 27) rfl), lw_t2 (List.mem_of_getElem? (i := 66) rfl), lw_t2 (List.mem_of_getElem? (i := 67) rfl)⟩
theorem lw_p3 : lw_okq (⟨"RiverWage", "ends", "(IIZ)Z"⟩, 28) := ⟨⟨by decide +kernel, by decide +kernel⟩, lw_t1 (List.mem_of_getElem? (i := 27) rfl), lw_t2 (List.mem_of_getElem? (i := 77) rfl), lw_t2 (List.mem_of_getElem? (i := 78) rfl)⟩
theorem lw_p4 : lw_okq (⟨"RiverWage", "begins", "()V"⟩, 28) := ⟨⟨by decide +kernel, by decide +kernel⟩, lw_t1 (List.mem_of_getElem? (i := 27) rfl), lw_t2 (List.mem_of_getElem? (i := 81) rfl), lw_t2 (List.mem_of_getElem? (i := 82) rfl)⟩
theorem lw_p5 : lw_okq (⟨"RiverWage", "of", "(I)LRiverWage$Mean;"⟩, 28) := ⟨⟨by decide +kernel, by decide +kernel⟩, lw_t1 (List.mem_of_getElem? (i := 27) rfl), lw_t2 (List.mem_of_getElem? (i := 89) rfl), lw_t2 (List.mem_of_getElem? (i := 90) rfl)⟩
theorem lw_p6 : lw_okq (⟨"RiverWage", "may", "(LRiverWage$Kitchen;IZ)I"⟩, 28) := ⟨⟨by decide +kernel, by decide +kernel⟩, lw_t1 (List.mem_of_getElem? (i := 27) rfl), lw_t2 (List.mem_of_getElem? (i := 93) rfl), lw_t2 (List.mem_of_getElem? (i := 94) rfl)⟩
theorem lw_p7 : lw_okq (⟨"RiverWage", "isThere", "()Z"⟩, 28) := ⟨⟨by decide +kernel, by decide +kernel⟩, lw_t1 (List.mem_of_getElem? (i := 27) rfl), lw_t2 (List.mem_of_getElem? (i := 101) rfl), lw_t2 (List.mem_of_getElem? (i := 102) rfl)⟩
theorem lw_p8 : lw_okq (⟨"RiverWage", "above", "()J"⟩, 28) := ⟨⟨by decide +kernel, by decide +kernel⟩, lw_t1 (List.mem_of_getElem? (i := 27) rfl), lw_t2 (List.mem_of_getElem? (i := 105) rfl), lw_t2 (List.mem_of_getElem? (i := 106) rfl)⟩
theorem lw_p9 : lw_okq (⟨"RiverWage", "rivers", "(III)Z"⟩, 28) := ⟨⟨by decide +kernel, by decide +kernel⟩, lw_t1 (List.mem_of_getElem? (i := 27) rfl), lw_t2 (List.mem_of_getElem? (i := 117) rfl), lw_t2 (List.mem_of_getElem? (i := 118) rfl)⟩
theorem lw_p10 : lw_okq (⟨"RiverWage", "change", "(LRiverWage$Kitchen;II)I"⟩, 28) := ⟨⟨by decide +kernel, by decide +kernel⟩, lw_t1 (List.mem_of_getElem? (i := 27) rfl), lw_t2 (List.mem_of_getElem? (i := 126) rfl), lw_t2 (List.mem_of_getElem? (i := 127) rfl)⟩
theorem lw_p11 : lw_okq (⟨"RiverWage", "deals", "(IIJIIJ)V"⟩, 28) := ⟨⟨by decide +kernel, by decide +kernel⟩, lw_t1 (List.mem_of_getElem? (i := 27) rfl), lw_t2 (List.mem_of_getElem? (i := 134) rfl), lw_t2 (List.mem_of_getElem? (i := 135) rfl)⟩
theorem lw_p12 : lw_okq (⟨"RiverWage", "below", "()J"⟩, 28) := ⟨⟨by decide +kernel, by decide +kernel⟩, lw_t1 (List.mem_of_getElem? (i := 27) rfl), lw_t2 (List.mem_of_getElem? (i := 148) rfl), lw_t2 (List.mem_of_getElem? (i := 149) rfl)⟩
theorem lw_p13 : lw_okq (⟨"RiverWage$Reader", "next", "()V"⟩, 8) := ⟨⟨by decide +kernel, by decide +kernel⟩, lw_t1 (List.mem_of_getElem? (i := 39) rfl), lw_t2 (List.mem_of_getElem? (i := 168) rfl), lw_t2 (List.mem_of_getElem? (i := 169) rfl)⟩
theorem lw_p14 : lw_okq (⟨"RiverWage$Reader", "at", "(I)I"⟩, 8) := ⟨⟨by decide +kernel, by decide +kernel⟩, lw_t1 (List.mem_of_getElem? (i := 39) rfl), lw_t2 (List.mem_of_getElem? (i := 172) rfl), lw_t2 (List.mem_of_getElem? (i := 173) rfl)⟩
theorem lw_p15 : lw_okq (⟨"RiverWage$Reader", "which", "(Ljava/lang/String;)I"⟩, 8) := ⟨⟨by decide +kernel, by decide +kernel⟩, lw_t1 (List.mem_of_getElem? (i := 39) rfl), lw_t3 (List.mem_of_getElem? (i := 35) rfl), lw_t3 (List.mem_of_getElem? (i := 36) rfl)⟩
def lw_privs_1 : List (MethodName × Nat) := [(⟨"RiverWage", "isKitchen", "(I)Z"⟩, 28), (⟨"RiverWage", "handsOf", "(LRiverWage$Kitchen;I)I"⟩, 28), (⟨"RiverWage", "handsOf", "(II)I"⟩, 28), (⟨"RiverWage", "ends", "(IIZ)Z"⟩, 28), (⟨"RiverWage", "begins", "()V"⟩, 28), (⟨"RiverWage", "of", "(I)LRiverWage$Mean;"⟩, 28), (⟨"RiverWage", "may", "(LRiverWage$Kitchen;IZ)I"⟩, 28), (⟨"RiverWage", "isThere", "()Z"⟩, 28), (⟨"RiverWage", "above", "()J"⟩, 28), (⟨"RiverWage", "rivers", "(III)Z"⟩, 28), (⟨"RiverWage", "change", "(LRiverWage$Kitchen;II)I"⟩, 28), (⟨"RiverWage", "deals", "(IIJIIJ)V"⟩, 28), (⟨"RiverWage", "below", "()J"⟩, 28), (⟨"RiverWage$Reader", "next", "()V"⟩, 8), (⟨"RiverWage$Reader", "at", "(I)I"⟩, 8), (⟨"RiverWage$Reader", "which", "(Ljava/lang/String;)I"⟩, 8)]
theorem lw_r1 : ∀ q ∈ lw_privs_1, lw_okq q := List.forall_mem_cons.mpr ⟨lw_p0, List.forall_mem_cons.mpr ⟨lw_p1, List.forall_mem_cons.mpr ⟨lw_p2, List.forall_mem_cons.mpr ⟨lw_p3, List.forall_mem_cons.mpr ⟨lw_p4, List.forall_mem_cons.mpr ⟨lw_p5, List.forall_mem_cons.mpr ⟨lw_p6, List.forall_mem_cons.mpr ⟨lw_p7, List.forall_mem_cons.mpr ⟨lw_p8, List.forall_mem_cons.mpr ⟨lw_p9, List.forall_mem_cons.mpr ⟨lw_p10, List.forall_mem_cons.mpr ⟨lw_p11, List.forall_mem_cons.mpr ⟨lw_p12, List.forall_mem_cons.mpr ⟨lw_p13, List.forall_mem_cons.mpr ⟨lw_p14, List.forall_mem_cons.mpr ⟨lw_p15, fun _ h => absurd h List.not_mem_nil⟩⟩⟩⟩⟩⟩⟩⟩⟩⟩⟩⟩⟩⟩⟩⟩
theorem lw_p16 : lw_okq (⟨"RiverWage$Reader", "wrong", "(I)LRiverWage$Wrong;"⟩, 8) := ⟨⟨by decide +kernel, by decide +kernel⟩, lw_t1 (List.mem_of_getElem? (i := 39) rfl), lw_t3 (List.mem_of_getElem? (i := 61) rfl), lw_t3 (List.mem_of_getElem? (i := 62) rfl)⟩
theorem lw_p17 : lw_okq (⟨"java/lang/Throwable", "fillInStackTrace", "(I)Ljava/lang/Throwable;"⟩, 6) := ⟨⟨by decide +kernel, by decide +kernel⟩, lw_t3 (List.mem_of_getElem? (i := 102) rfl), lw_t3 (List.mem_of_getElem? (i := 100) rfl), lw_t3 (List.mem_of_getElem? (i := 101) rfl)⟩
theorem lw_p18 : lw_okq (⟨"RiverWage$Reader", "need", "(Ljava/lang/String;)V"⟩, 8) := ⟨⟨by decide +kernel, by decide +kernel⟩, lw_t1 (List.mem_of_getElem? (i := 39) rfl), lw_t3 (List.mem_of_getElem? (i := 135) rfl), lw_t3 (List.mem_of_getElem? (i := 136) rfl)⟩
theorem lw_p19 : lw_okq (⟨"RiverWage$Reader", "expression", "()LRiverWage$Expression;"⟩, 8) := ⟨⟨by decide +kernel, by decide +kernel⟩, lw_t1 (List.mem_of_getElem? (i := 39) rfl), lw_t3 (List.mem_of_getElem? (i := 139) rfl), lw_t3 (List.mem_of_getElem? (i := 140) rfl)⟩
theorem lw_p20 : lw_okq (⟨"RiverWage$Reader", "test", "()LRiverWage$Expression;"⟩, 8) := ⟨⟨by decide +kernel, by decide +kernel⟩, lw_t1 (List.mem_of_getElem? (i := 39) rfl), lw_t3 (List.mem_of_getElem? (i := 143) rfl), lw_t3 (List.mem_of_getElem? (i := 144) rfl)⟩
theorem lw_p21 : lw_okq (⟨"RiverWage$Reader", "sum", "()LRiverWage$Expression;"⟩, 8) := ⟨⟨by decide +kernel, by decide +kernel⟩, lw_t1 (List.mem_of_getElem? (i := 39) rfl), lw_t3 (List.mem_of_getElem? (i := 147) rfl), lw_t3 (List.mem_of_getElem? (i := 148) rfl)⟩
theorem lw_p22 : lw_okq (⟨"RiverWage$Reader", "product", "()LRiverWage$Expression;"⟩, 8) := ⟨⟨by decide +kernel, by decide +kernel⟩, lw_t1 (List.mem_of_getElem? (i := 39) rfl), lw_t3 (List.mem_of_getElem? (i := 151) rfl), lw_t3 (List.mem_of_getElem? (i := 152) rfl)⟩
theorem lw_p23 : lw_okq (⟨"RiverWage$Reader", "part", "()LRiverWage$Expression;"⟩, 8) := ⟨⟨by decide +kernel, by decide +kernel⟩, lw_t1 (List.mem_of_getElem? (i := 39) rfl), lw_t3 (List.mem_of_getElem? (i := 155) rfl), lw_t3 (List.mem_of_getElem? (i := 156) rfl)⟩
theorem lw_p24 : lw_okq (⟨"RiverWage$Reader", "isSign", "(C)Z"⟩, 8) := ⟨⟨by decide +kernel, by decide +kernel⟩, lw_t1 (List.mem_of_getElem? (i := 39) rfl), lw_t3 (List.mem_of_getElem? (i := 160) rfl), lw_t3 (List.mem_of_getElem? (i := 161) rfl)⟩
theorem lw_p25 : lw_okq (⟨"RiverWage$Reader", "number", "(II)I"⟩, 8) := ⟨⟨by decide +kernel, by decide +kernel⟩, lw_t1 (List.mem_of_getElem? (i := 39) rfl), lw_t3 (List.mem_of_getElem? (i := 166) rfl), lw_t3 (List.mem_of_getElem? (i := 167) rfl)⟩
theorem lw_p26 : lw_okq (⟨"RiverWage$Reader", "need", "(C)V"⟩, 8) := ⟨⟨by decide +kernel, by decide +kernel⟩, lw_t1 (List.mem_of_getElem? (i := 39) rfl), lw_t3 (List.mem_of_getElem? (i := 201) rfl), lw_t3 (List.mem_of_getElem? (i := 202) rfl)⟩
theorem lw_p27 : lw_okq (⟨"RiverWage", "runs", "(LRiverWage$Law;I)V"⟩, 28) := ⟨⟨by decide +kernel, by decide +kernel⟩, lw_t1 (List.mem_of_getElem? (i := 27) rfl), lw_t3 (List.mem_of_getElem? (i := 226) rfl), lw_t3 (List.mem_of_getElem? (i := 227) rfl)⟩
theorem lw_p28 : lw_okq (⟨"RiverWage", "goes", "(LRiverWage$Law;III)V"⟩, 28) := ⟨⟨by decide +kernel, by decide +kernel⟩, lw_t1 (List.mem_of_getElem? (i := 27) rfl), lw_t3 (List.mem_of_getElem? (i := 234) rfl), lw_t3 (List.mem_of_getElem? (i := 235) rfl)⟩
theorem lw_p29 : lw_okq (⟨"RiverWage", "isSo", "(LRiverWage$Expression;)Z"⟩, 28) := ⟨⟨by decide +kernel, by decide +kernel⟩, lw_t1 (List.mem_of_getElem? (i := 27) rfl), lw_t3 (List.mem_of_getElem? (i := 238) rfl), lw_t3 (List.mem_of_getElem? (i := 239) rfl)⟩
theorem lw_p30 : lw_okq (⟨"RiverWage", "hired", "(LRiverWage$Expression;I)I"⟩, 28) := ⟨⟨by decide +kernel, by decide +kernel⟩, lw_t1 (List.mem_of_getElem? (i := 27) rfl), lw_t4 (List.mem_of_getElem? (i := 19) rfl), lw_t4 (List.mem_of_getElem? (i := 20) rfl)⟩
theorem lw_p31 : lw_okq (⟨"RiverWage", "worldHands", "(II)I"⟩, 28) := ⟨⟨by decide +kernel, by decide +kernel⟩, lw_t1 (List.mem_of_getElem? (i := 27) rfl), lw_t4 (List.mem_of_getElem? (i := 24) rfl), lw_t4 (List.mem_of_getElem? (i := 25) rfl)⟩
def lw_privs_2 : List (MethodName × Nat) := [(⟨"RiverWage$Reader", "wrong", "(I)LRiverWage$Wrong;"⟩, 8), (⟨"java/lang/Throwable", "fillInStackTrace", "(I)Ljava/lang/Throwable;"⟩, 6), (⟨"RiverWage$Reader", "need", "(Ljava/lang/String;)V"⟩, 8), (⟨"RiverWage$Reader", "expression", "()LRiverWage$Expression;"⟩, 8), (⟨"RiverWage$Reader", "test", "()LRiverWage$Expression;"⟩, 8), (⟨"RiverWage$Reader", "sum", "()LRiverWage$Expression;"⟩, 8), (⟨"RiverWage$Reader", "product", "()LRiverWage$Expression;"⟩, 8), (⟨"RiverWage$Reader", "part", "()LRiverWage$Expression;"⟩, 8), (⟨"RiverWage$Reader", "isSign", "(C)Z"⟩, 8), (⟨"RiverWage$Reader", "number", "(II)I"⟩, 8), (⟨"RiverWage$Reader", "need", "(C)V"⟩, 8), (⟨"RiverWage", "runs", "(LRiverWage$Law;I)V"⟩, 28), (⟨"RiverWage", "goes", "(LRiverWage$Law;III)V"⟩, 28), (⟨"RiverWage", "isSo", "(LRiverWage$Expression;)Z"⟩, 28), (⟨"RiverWage", "hired", "(LRiverWage$Expression;I)I"⟩, 28), (⟨"RiverWage", "worldHands", "(II)I"⟩, 28)]
theorem lw_r2 : ∀ q ∈ lw_privs_2, lw_okq q := List.forall_mem_cons.mpr ⟨lw_p16, List.forall_mem_cons.mpr ⟨lw_p17, List.forall_mem_cons.mpr ⟨lw_p18, List.forall_mem_cons.mpr ⟨lw_p19, List.forall_mem_cons.mpr ⟨lw_p20, List.forall_mem_cons.mpr ⟨lw_p21, List.forall_mem_cons.mpr ⟨lw_p22, List.forall_mem_cons.mpr ⟨lw_p23, List.forall_mem_cons.mpr ⟨lw_p24, List.forall_mem_cons.mpr ⟨lw_p25, List.forall_mem_cons.mpr ⟨lw_p26, List.forall_mem_cons.mpr ⟨lw_p27, List.forall_mem_cons.mpr ⟨lw_p28, List.forall_mem_cons.mpr ⟨lw_p29, List.forall_mem_cons.mpr ⟨lw_p30, List.forall_mem_cons.mpr ⟨lw_p31, fun _ h => absurd h List.not_mem_nil⟩⟩⟩⟩⟩⟩⟩⟩⟩⟩⟩⟩⟩⟩⟩⟩
theorem lw_p32 : lw_okq (⟨"RiverWage", "fitsOf", "(II)J"⟩, 28) := ⟨⟨by decide +kernel, by decide +kernel⟩, lw_t1 (List.mem_of_getElem? (i := 27) rfl), lw_t4 (List.mem_of_getElem? (i := 32) rfl), lw_t4 (List.mem_of_getElem? (i := 33) rfl)⟩
theorem lw_p33 : lw_okq (⟨"RiverWage", "sums", "(Z)V"⟩, 28) := ⟨⟨by decide +kernel, by decide +kernel⟩, lw_t1 (List.mem_of_getElem? (i := 27) rfl), lw_t4 (List.mem_of_getElem? (i := 58) rfl), lw_t4 (List.mem_of_getElem? (i := 59) rfl)⟩
theorem lw_p34 : lw_okq (⟨"RiverWage", "isTaken", "(LRiverWage$Writer;I)Z"⟩, 28) := ⟨⟨by decide +kernel, by decide +kernel⟩, lw_t1 (List.mem_of_getElem? (i := 27) rfl), lw_t4 (List.mem_of_getElem? (i := 78) rfl), lw_t4 (List.mem_of_getElem? (i := 79) rfl)⟩
theorem lw_p35 : lw_okq (⟨"RiverWage", "lays", "(II)Z"⟩, 28) := ⟨⟨by decide +kernel, by decide +kernel⟩, lw_t1 (List.mem_of_getElem? (i := 27) rfl), lw_t4 (List.mem_of_getElem? (i := 95) rfl), lw_t4 (List.mem_of_getElem? (i := 96) rfl)⟩
theorem lw_p36 : lw_okq (⟨"RiverWage", "sorts", "(III)I"⟩, 28) := ⟨⟨by decide +kernel, by decide +kernel⟩, lw_t1 (List.mem_of_getElem? (i := 27) rfl), lw_t4 (List.mem_of_getElem? (i := 99) rfl), lw_t4 (List.mem_of_getElem? (i := 100) rfl)⟩
theorem lw_p37 : lw_okq (⟨"RiverWage", "draws", "(I)V"⟩, 28) := ⟨⟨by decide +kernel, by decide +kernel⟩, lw_t1 (List.mem_of_getElem? (i := 27) rfl), lw_t4 (List.mem_of_getElem? (i := 103) rfl), lw_t4 (List.mem_of_getElem? (i := 104) rfl)⟩
theorem lw_p38 : lw_okq (⟨"RiverWage", "weight", "(I)I"⟩, 28) := ⟨⟨by decide +kernel, by decide +kernel⟩, lw_t1 (List.mem_of_getElem? (i := 27) rfl), lw_t4 (List.mem_of_getElem? (i := 132) rfl), lw_t4 (List.mem_of_getElem? (i := 133) rfl)⟩
theorem lw_p39 : lw_okq (⟨"RiverWage", "needRiver", "(IIII)V"⟩, 28) := ⟨⟨by decide +kernel, by decide +kernel⟩, lw_t1 (List.mem_of_getElem? (i := 27) rfl), lw_t4 (List.mem_of_getElem? (i := 186) rfl), lw_t4 (List.mem_of_getElem? (i := 187) rfl)⟩
theorem lw_p40 : lw_okq (⟨"RiverWage", "writes", "(LRiverWage$Writer;I)Z"⟩, 28) := ⟨⟨by decide +kernel, by decide +kernel⟩, lw_t1 (List.mem_of_getElem? (i := 27) rfl), lw_t5 (List.mem_of_getElem? (i := 10) rfl), lw_t5 (List.mem_of_getElem? (i := 11) rfl)⟩
theorem lw_p41 : lw_okq (⟨"RiverWage", "rate", "(LRiverWage$Kitchen;I)J"⟩, 28) := ⟨⟨by decide +kernel, by decide +kernel⟩, lw_t1 (List.mem_of_getElem? (i := 27) rfl), lw_t5 (List.mem_of_getElem? (i := 28) rfl), lw_t5 (List.mem_of_getElem? (i := 29) rfl)⟩
theorem lw_p42 : lw_okq (⟨"RiverWage", "paid", "(LRiverWage$Kitchen;I)J"⟩, 28) := ⟨⟨by decide +kernel, by decide +kernel⟩, lw_t1 (List.mem_of_getElem? (i := 27) rfl), lw_t5 (List.mem_of_getElem? (i := 32) rfl), lw_t5 (List.mem_of_getElem? (i := 33) rfl)⟩
theorem lw_p43 : lw_okq (⟨"RiverWageModel", "lay", "(J)V"⟩, 58) := ⟨⟨by decide +kernel, by decide +kernel⟩, lw_t5 (List.mem_of_getElem? (i := 64) rfl), lw_t5 (List.mem_of_getElem? (i := 62) rfl), lw_t5 (List.mem_of_getElem? (i := 63) rfl)⟩
theorem lw_p44 : lw_okq (⟨"RiverWageModel", "isKitchen", "(I)Z"⟩, 58) := ⟨⟨by decide +kernel, by decide +kernel⟩, lw_t5 (List.mem_of_getElem? (i := 64) rfl), lw_t6 (List.mem_of_getElem? (i := 47) rfl), lw_t6 (List.mem_of_getElem? (i := 48) rfl)⟩
theorem lw_p45 : lw_okq (⟨"RiverWageModel", "handsOf", "(II)I"⟩, 58) := ⟨⟨by decide +kernel, by decide +kernel⟩, lw_t5 (List.mem_of_getElem? (i := 64) rfl), lw_t6 (List.mem_of_getElem? (i := 70) rfl), lw_t6 (List.mem_of_getElem? (i := 71) rfl)⟩
theorem lw_p46 : lw_okq (⟨"RiverWageModel", "handsBy", "(II)I"⟩, 58) := ⟨⟨by decide +kernel, by decide +kernel⟩, lw_t5 (List.mem_of_getElem? (i := 64) rfl), lw_t6 (List.mem_of_getElem? (i := 74) rfl), lw_t6 (List.mem_of_getElem? (i := 75) rfl)⟩
theorem lw_p47 : lw_okq (⟨"RiverWageModel", "isCounted", "(III)Z"⟩, 58) := ⟨⟨by decide +kernel, by decide +kernel⟩, lw_t5 (List.mem_of_getElem? (i := 64) rfl), lw_t6 (List.mem_of_getElem? (i := 85) rfl), lw_t6 (List.mem_of_getElem? (i := 86) rfl)⟩
def lw_privs_3 : List (MethodName × Nat) := [(⟨"RiverWage", "fitsOf", "(II)J"⟩, 28), (⟨"RiverWage", "sums", "(Z)V"⟩, 28), (⟨"RiverWage", "isTaken", "(LRiverWage$Writer;I)Z"⟩, 28), (⟨"RiverWage", "lays", "(II)Z"⟩, 28), (⟨"RiverWage", "sorts", "(III)I"⟩, 28), (⟨"RiverWage", "draws", "(I)V"⟩, 28), (⟨"RiverWage", "weight", "(I)I"⟩, 28), (⟨"RiverWage", "needRiver", "(IIII)V"⟩, 28), (⟨"RiverWage", "writes", "(LRiverWage$Writer;I)Z"⟩, 28), (⟨"RiverWage", "rate", "(LRiverWage$Kitchen;I)J"⟩, 28), (⟨"RiverWage", "paid", "(LRiverWage$Kitchen;I)J"⟩, 28), (⟨"RiverWageModel", "lay", "(J)V"⟩, 58), (⟨"RiverWageModel", "isKitchen", "(I)Z"⟩, 58), (⟨"RiverWageModel", "handsOf", "(II)I"⟩, 58), (⟨"RiverWageModel", "handsBy", "(II)I"⟩, 58), (⟨"RiverWageModel", "isCounted", "(III)Z"⟩, 58)]
theorem lw_r3 : ∀ q ∈ lw_privs_3, lw_okq q := List.forall_mem_cons.mpr ⟨lw_p32, List.forall_mem_cons.mpr ⟨lw_p33, List.forall_mem_cons.mpr ⟨lw_p34, List.forall_mem_cons.mpr ⟨lw_p35, List.forall_mem_cons.mpr ⟨lw_p36, List.forall_mem_cons.mpr ⟨lw_p37, List.forall_mem_cons.mpr ⟨lw_p38, List.forall_mem_cons.mpr ⟨lw_p39, List.forall_mem_cons.mpr ⟨lw_p40, List.forall_mem_cons.mpr ⟨lw_p41, List.forall_mem_cons.mpr ⟨lw_p42, List.forall_mem_cons.mpr ⟨lw_p43, List.forall_mem_cons.mpr ⟨lw_p44, List.forall_mem_cons.mpr ⟨lw_p45, List.forall_mem_cons.mpr ⟨lw_p46, List.forall_mem_cons.mpr ⟨lw_p47, fun _ h => absurd h List.not_mem_nil⟩⟩⟩⟩⟩⟩⟩⟩⟩⟩⟩⟩⟩⟩⟩⟩
theorem lw_p48 : lw_okq (⟨"RiverWageModel", "changeOf", "(III)I"⟩, 58) := ⟨⟨by decide +kernel, by decide +kernel⟩, lw_t5 (List.mem_of_getElem? (i := 64) rfl), lw_t6 (List.mem_of_getElem? (i := 89) rfl), lw_t6 (List.mem_of_getElem? (i := 90) rfl)⟩
theorem lw_p49 : lw_okq (⟨"RiverWageModel", "findRiver", "(III)Z"⟩, 58) := ⟨⟨by decide +kernel, by decide +kernel⟩, lw_t5 (List.mem_of_getElem? (i := 64) rfl), lw_t6 (List.mem_of_getElem? (i := 100) rfl), lw_t6 (List.mem_of_getElem? (i := 101) rfl)⟩
theorem lw_p50 : lw_okq (⟨"RiverWageModel", "beginsSums", "()V"⟩, 58) := ⟨⟨by decide +kernel, by decide +kernel⟩, lw_t5 (List.mem_of_getElem? (i := 64) rfl), lw_t6 (List.mem_of_getElem? (i := 104) rfl), lw_t6 (List.mem_of_getElem? (i := 105) rfl)⟩
theorem lw_p51 : lw_okq (⟨"RiverWageModel", "adds", "(ZJ)V"⟩, 58) := ⟨⟨by decide +kernel, by decide +kernel⟩, lw_t5 (List.mem_of_getElem? (i := 64) rfl), lw_t6 (List.mem_of_getElem? (i := 108) rfl), lw_t6 (List.mem_of_getElem? (i := 109) rfl)⟩
theorem lw_p52 : lw_okq (⟨"RiverWageModel", "differs", "()Z"⟩, 58) := ⟨⟨by decide +kernel, by decide +kernel⟩, lw_t5 (List.mem_of_getElem? (i := 64) rfl), lw_t6 (List.mem_of_getElem? (i := 112) rfl), lw_t6 (List.mem_of_getElem? (i := 113) rfl)⟩
theorem lw_p53 : lw_okq (⟨"RiverWageModel", "lowest", "(I)J"⟩, 58) := ⟨⟨by decide +kernel, by decide +kernel⟩, lw_t5 (List.mem_of_getElem? (i := 64) rfl), lw_t6 (List.mem_of_getElem? (i := 116) rfl), lw_t6 (List.mem_of_getElem? (i := 117) rfl)⟩
theorem lw_p54 : lw_okq (⟨"RiverWageModel", "findBound", "(III)Z"⟩, 58) := ⟨⟨by decide +kernel, by decide +kernel⟩, lw_t5 (List.mem_of_getElem? (i := 64) rfl), lw_t6 (List.mem_of_getElem? (i := 131) rfl), lw_t6 (List.mem_of_getElem? (i := 132) rfl)⟩
theorem lw_p55 : lw_okq (⟨"RiverWageModel", "mayChange", "(IIII)I"⟩, 58) := ⟨⟨by decide +kernel, by decide +kernel⟩, lw_t5 (List.mem_of_getElem? (i := 64) rfl), lw_t6 (List.mem_of_getElem? (i := 135) rfl), lw_t6 (List.mem_of_getElem? (i := 136) rfl)⟩
theorem lw_p56 : lw_okq (⟨"RiverWageModel", "sumOf", "(IIIII)J"⟩, 58) := ⟨⟨by decide +kernel, by decide +kernel⟩, lw_t5 (List.mem_of_getElem? (i := 64) rfl), lw_t6 (List.mem_of_getElem? (i := 155) rfl), lw_t6 (List.mem_of_getElem? (i := 156) rfl)⟩
theorem lw_p57 : lw_okq (⟨"RiverWageModel", "cutAll", "()V"⟩, 58) := ⟨⟨by decide +kernel, by decide +kernel⟩, lw_t5 (List.mem_of_getElem? (i := 64) rfl), lw_t6 (List.mem_of_getElem? (i := 181) rfl), lw_t6 (List.mem_of_getElem? (i := 182) rfl)⟩
theorem lw_p58 : lw_okq (⟨"RiverWageModel", "readLine", "()V"⟩, 58) := ⟨⟨by decide +kernel, by decide +kernel⟩, lw_t5 (List.mem_of_getElem? (i := 64) rfl), lw_t6 (List.mem_of_getElem? (i := 200) rfl), lw_t6 (List.mem_of_getElem? (i := 201) rfl)⟩
theorem lw_p59 : lw_okq (⟨"RiverWageModel", "isWord", "(I)Z"⟩, 58) := ⟨⟨by decide +kernel, by decide +kernel⟩, lw_t5 (List.mem_of_getElem? (i := 64) rfl), lw_t6 (List.mem_of_getElem? (i := 204) rfl), lw_t6 (List.mem_of_getElem? (i := 205) rfl)⟩
theorem lw_p60 : lw_okq (⟨"RiverWageModel", "wrong", "(I)V"⟩, 58) := ⟨⟨by decide +kernel, by decide +kernel⟩, lw_t5 (List.mem_of_getElem? (i := 64) rfl), lw_t6 (List.mem_of_getElem? (i := 208) rfl), lw_t6 (List.mem_of_getElem? (i := 209) rfl)⟩
theorem lw_p61 : lw_okq (⟨"RiverWageModel", "takeWord", "(I)V"⟩, 58) := ⟨⟨by decide +kernel, by decide +kernel⟩, lw_t5 (List.mem_of_getElem? (i := 64) rfl), lw_t6 (List.mem_of_getElem? (i := 212) rfl), lw_t6 (List.mem_of_getElem? (i := 213) rfl)⟩
theorem lw_p62 : lw_okq (⟨"RiverWageModel", "hasWord", "(I)Z"⟩, 58) := ⟨⟨by decide +kernel, by decide +kernel⟩, lw_t5 (List.mem_of_getElem? (i := 64) rfl), lw_t6 (List.mem_of_getElem? (i := 216) rfl), lw_t6 (List.mem_of_getElem? (i := 217) rfl)⟩
theorem lw_p63 : lw_okq (⟨"RiverWageModel", "all", "(I)V"⟩, 58) := ⟨⟨by decide +kernel, by decide +kernel⟩, lw_t5 (List.mem_of_getElem? (i := 64) rfl), lw_t6 (List.mem_of_getElem? (i := 220) rfl), lw_t6 (List.mem_of_getElem? (i := 221) rfl)⟩
def lw_privs_4 : List (MethodName × Nat) := [(⟨"RiverWageModel", "changeOf", "(III)I"⟩, 58), (⟨"RiverWageModel", "findRiver", "(III)Z"⟩, 58), (⟨"RiverWageModel", "beginsSums", "()V"⟩, 58), (⟨"RiverWageModel", "adds", "(ZJ)V"⟩, 58), (⟨"RiverWageModel", "differs", "()Z"⟩, 58), (⟨"RiverWageModel", "lowest", "(I)J"⟩, 58), (⟨"RiverWageModel", "findBound", "(III)Z"⟩, 58), (⟨"RiverWageModel", "mayChange", "(IIII)I"⟩, 58), (⟨"RiverWageModel", "sumOf", "(IIIII)J"⟩, 58), (⟨"RiverWageModel", "cutAll", "()V"⟩, 58), (⟨"RiverWageModel", "readLine", "()V"⟩, 58), (⟨"RiverWageModel", "isWord", "(I)Z"⟩, 58), (⟨"RiverWageModel", "wrong", "(I)V"⟩, 58), (⟨"RiverWageModel", "takeWord", "(I)V"⟩, 58), (⟨"RiverWageModel", "hasWord", "(I)Z"⟩, 58), (⟨"RiverWageModel", "all", "(I)V"⟩, 58)]
theorem lw_r4 : ∀ q ∈ lw_privs_4, lw_okq q := List.forall_mem_cons.mpr ⟨lw_p48, List.forall_mem_cons.mpr ⟨lw_p49, List.forall_mem_cons.mpr ⟨lw_p50, List.forall_mem_cons.mpr ⟨lw_p51, List.forall_mem_cons.mpr ⟨lw_p52, List.forall_mem_cons.mpr ⟨lw_p53, List.forall_mem_cons.mpr ⟨lw_p54, List.forall_mem_cons.mpr ⟨lw_p55, List.forall_mem_cons.mpr ⟨lw_p56, List.forall_mem_cons.mpr ⟨lw_p57, List.forall_mem_cons.mpr ⟨lw_p58, List.forall_mem_cons.mpr ⟨lw_p59, List.forall_mem_cons.mpr ⟨lw_p60, List.forall_mem_cons.mpr ⟨lw_p61, List.forall_mem_cons.mpr ⟨lw_p62, List.forall_mem_cons.mpr ⟨lw_p63, fun _ h => absurd h List.not_mem_nil⟩⟩⟩⟩⟩⟩⟩⟩⟩⟩⟩⟩⟩⟩⟩⟩
theorem lw_p64 : lw_okq (⟨"RiverWageModel", "test", "(I)V"⟩, 58) := ⟨⟨by decide +kernel, by decide +kernel⟩, lw_t5 (List.mem_of_getElem? (i := 64) rfl), lw_t6 (List.mem_of_getElem? (i := 224) rfl), lw_t6 (List.mem_of_getElem? (i := 225) rfl)⟩
theorem lw_p65 : lw_okq (⟨"RiverWageModel", "sums", "(I)V"⟩, 58) := ⟨⟨by decide +kernel, by decide +kernel⟩, lw_t5 (List.mem_of_getElem? (i := 64) rfl), lw_t6 (List.mem_of_getElem? (i := 228) rfl), lw_t6 (List.mem_of_getElem? (i := 229) rfl)⟩
theorem lw_p66 : lw_okq (⟨"RiverWageModel", "products", "(I)V"⟩, 58) := ⟨⟨by decide +kernel, by decide +kernel⟩, lw_t5 (List.mem_of_getElem? (i := 64) rfl), lw_t6 (List.mem_of_getElem? (i := 232) rfl), lw_t6 (List.mem_of_getElem? (i := 233) rfl)⟩
theorem lw_p67 : lw_okq (⟨"RiverWageModel", "takePart", "(I)V"⟩, 58) := ⟨⟨by decide +kernel, by decide +kernel⟩, lw_t5 (List.mem_of_getElem? (i := 64) rfl), lw_t6 (List.mem_of_getElem? (i := 236) rfl), lw_t6 (List.mem_of_getElem? (i := 237) rfl)⟩
theorem lw_p68 : lw_okq (⟨"RiverWageModel", "factHere", "()I"⟩, 58) := ⟨⟨by decide +kernel, by decide +kernel⟩, lw_t5 (List.mem_of_getElem? (i := 64) rfl), lw_t7 (List.mem_of_getElem? (i := 0) rfl), lw_t7 (List.mem_of_getElem? (i := 1) rfl)⟩
theorem lw_p69 : lw_okq (⟨"RiverWageModel", "isSign", "(I)Z"⟩, 58) := ⟨⟨by decide +kernel, by decide +kernel⟩, lw_t5 (List.mem_of_getElem? (i := 64) rfl), lw_t7 (List.mem_of_getElem? (i := 4) rfl), lw_t7 (List.mem_of_getElem? (i := 5) rfl)⟩
theorem lw_p70 : lw_okq (⟨"RiverWageModel", "emit", "(II)V"⟩, 58) := ⟨⟨by decide +kernel, by decide +kernel⟩, lw_t5 (List.mem_of_getElem? (i := 64) rfl), lw_t7 (List.mem_of_getElem? (i := 8) rfl), lw_t7 (List.mem_of_getElem? (i := 9) rfl)⟩
theorem lw_p71 : lw_okq (⟨"RiverWageModel", "hasSign", "(I)Z"⟩, 58) := ⟨⟨by decide +kernel, by decide +kernel⟩, lw_t5 (List.mem_of_getElem? (i := 64) rfl), lw_t7 (List.mem_of_getElem? (i := 12) rfl), lw_t7 (List.mem_of_getElem? (i := 13) rfl)⟩
theorem lw_p72 : lw_okq (⟨"RiverWageModel", "takeSign", "(I)V"⟩, 58) := ⟨⟨by decide +kernel, by decide +kernel⟩, lw_t5 (List.mem_of_getElem? (i := 64) rfl), lw_t7 (List.mem_of_getElem? (i := 16) rfl), lw_t7 (List.mem_of_getElem? (i := 17) rfl)⟩
theorem lw_p73 : lw_okq (⟨"RiverWageModel", "keepsCodes", "(I)V"⟩, 58) := ⟨⟨by decide +kernel, by decide +kernel⟩, lw_t5 (List.mem_of_getElem? (i := 64) rfl), lw_t7 (List.mem_of_getElem? (i := 20) rfl), lw_t7 (List.mem_of_getElem? (i := 21) rfl)⟩
theorem lw_p74 : lw_okq (⟨"RiverWageModel", "runs", "(II)V"⟩, 58) := ⟨⟨by decide +kernel, by decide +kernel⟩, lw_t5 (List.mem_of_getElem? (i := 64) rfl), lw_t7 (List.mem_of_getElem? (i := 28) rfl), lw_t7 (List.mem_of_getElem? (i := 29) rfl)⟩
theorem lw_p75 : lw_okq (⟨"RiverWageModel", "goesOn", "(IIII)V"⟩, 58) := ⟨⟨by decide +kernel, by decide +kernel⟩, lw_t5 (List.mem_of_getElem? (i := 64) rfl), lw_t7 (List.mem_of_getElem? (i := 36) rfl), lw_t7 (List.mem_of_getElem? (i := 37) rfl)⟩
theorem lw_p76 : lw_okq (⟨"RiverWageModel", "isSo", "(II)Z"⟩, 58) := ⟨⟨by decide +kernel, by decide +kernel⟩, lw_t5 (List.mem_of_getElem? (i := 64) rfl), lw_t7 (List.mem_of_getElem? (i := 40) rfl), lw_t7 (List.mem_of_getElem? (i := 41) rfl)⟩
theorem lw_p77 : lw_okq (⟨"RiverWageModel", "worthOf", "(II)I"⟩, 58) := ⟨⟨by decide +kernel, by decide +kernel⟩, lw_t5 (List.mem_of_getElem? (i := 64) rfl), lw_t7 (List.mem_of_getElem? (i := 44) rfl), lw_t7 (List.mem_of_getElem? (i := 45) rfl)⟩
theorem lw_p78 : lw_okq (⟨"RiverWageModel", "worthAt", "(I)I"⟩, 58) := ⟨⟨by decide +kernel, by decide +kernel⟩, lw_t5 (List.mem_of_getElem? (i := 64) rfl), lw_t7 (List.mem_of_getElem? (i := 48) rfl), lw_t7 (List.mem_of_getElem? (i := 49) rfl)⟩
theorem lw_p79 : lw_okq (⟨"RiverWageModel", "handsByLine", "(III)I"⟩, 58) := ⟨⟨by decide +kernel, by decide +kernel⟩, lw_t5 (List.mem_of_getElem? (i := 64) rfl), lw_t7 (List.mem_of_getElem? (i := 55) rfl), lw_t7 (List.mem_of_getElem? (i := 56) rfl)⟩
def lw_privs_5 : List (MethodName × Nat) := [(⟨"RiverWageModel", "test", "(I)V"⟩, 58), (⟨"RiverWageModel", "sums", "(I)V"⟩, 58), (⟨"RiverWageModel", "products", "(I)V"⟩, 58), (⟨"RiverWageModel", "takePart", "(I)V"⟩, 58), (⟨"RiverWageModel", "factHere", "()I"⟩, 58), (⟨"RiverWageModel", "isSign", "(I)Z"⟩, 58), (⟨"RiverWageModel", "emit", "(II)V"⟩, 58), (⟨"RiverWageModel", "hasSign", "(I)Z"⟩, 58), (⟨"RiverWageModel", "takeSign", "(I)V"⟩, 58), (⟨"RiverWageModel", "keepsCodes", "(I)V"⟩, 58), (⟨"RiverWageModel", "runs", "(II)V"⟩, 58), (⟨"RiverWageModel", "goesOn", "(IIII)V"⟩, 58), (⟨"RiverWageModel", "isSo", "(II)Z"⟩, 58), (⟨"RiverWageModel", "worthOf", "(II)I"⟩, 58), (⟨"RiverWageModel", "worthAt", "(I)I"⟩, 58), (⟨"RiverWageModel", "handsByLine", "(III)I"⟩, 58)]
theorem lw_r5 : ∀ q ∈ lw_privs_5, lw_okq q := List.forall_mem_cons.mpr ⟨lw_p64, List.forall_mem_cons.mpr ⟨lw_p65, List.forall_mem_cons.mpr ⟨lw_p66, List.forall_mem_cons.mpr ⟨lw_p67, List.forall_mem_cons.mpr ⟨lw_p68, List.forall_mem_cons.mpr ⟨lw_p69, List.forall_mem_cons.mpr ⟨lw_p70, List.forall_mem_cons.mpr ⟨lw_p71, List.forall_mem_cons.mpr ⟨lw_p72, List.forall_mem_cons.mpr ⟨lw_p73, List.forall_mem_cons.mpr ⟨lw_p74, List.forall_mem_cons.mpr ⟨lw_p75, List.forall_mem_cons.mpr ⟨lw_p76, List.forall_mem_cons.mpr ⟨lw_p77, List.forall_mem_cons.mpr ⟨lw_p78, List.forall_mem_cons.mpr ⟨lw_p79, fun _ h => absurd h List.not_mem_nil⟩⟩⟩⟩⟩⟩⟩⟩⟩⟩⟩⟩⟩⟩⟩⟩
theorem lw_p80 : lw_okq (⟨"RiverWageModel", "worldHands", "(II)I"⟩, 58) := ⟨⟨by decide +kernel, by decide +kernel⟩, lw_t5 (List.mem_of_getElem? (i := 64) rfl), lw_t7 (List.mem_of_getElem? (i := 59) rfl), lw_t7 (List.mem_of_getElem? (i := 60) rfl)⟩
theorem lw_p81 : lw_okq (⟨"RiverWageModel", "fitOf", "(II)J"⟩, 58) := ⟨⟨by decide +kernel, by decide +kernel⟩, lw_t5 (List.mem_of_getElem? (i := 64) rfl), lw_t7 (List.mem_of_getElem? (i := 70) rfl), lw_t7 (List.mem_of_getElem? (i := 71) rfl)⟩
theorem lw_p82 : lw_okq (⟨"RiverWageModel", "findOthers", "(Z)Z"⟩, 58) := ⟨⟨by decide +kernel, by decide +kernel⟩, lw_t5 (List.mem_of_getElem? (i := 64) rfl), lw_t7 (List.mem_of_getElem? (i := 90) rfl), lw_t7 (List.mem_of_getElem? (i := 91) rfl)⟩
theorem lw_p83 : lw_okq (⟨"RiverWageModel", "readWriterLine", "()V"⟩, 58) := ⟨⟨by decide +kernel, by decide +kernel⟩, lw_t5 (List.mem_of_getElem? (i := 64) rfl), lw_t7 (List.mem_of_getElem? (i := 105) rfl), lw_t7 (List.mem_of_getElem? (i := 106) rfl)⟩
theorem lw_p84 : lw_okq (⟨"RiverWageModel", "tenthsBy", "(I)I"⟩, 58) := ⟨⟨by decide +kernel, by decide +kernel⟩, lw_t5 (List.mem_of_getElem? (i := 64) rfl), lw_t7 (List.mem_of_getElem? (i := 114) rfl), lw_t7 (List.mem_of_getElem? (i := 115) rfl)⟩
theorem lw_p85 : lw_okq (⟨"RiverWageModel", "doesTake", "(III)Z"⟩, 58) := ⟨⟨by decide +kernel, by decide +kernel⟩, lw_t5 (List.mem_of_getElem? (i := 64) rfl), lw_t7 (List.mem_of_getElem? (i := 118) rfl), lw_t7 (List.mem_of_getElem? (i := 119) rfl)⟩
theorem lw_p86 : lw_okq (⟨"RiverWageModel", "monthsOf", "(II)I"⟩, 58) := ⟨⟨by decide +kernel, by decide +kernel⟩, lw_t5 (List.mem_of_getElem? (i := 64) rfl), lw_t7 (List.mem_of_getElem? (i := 122) rfl), lw_t7 (List.mem_of_getElem? (i := 123) rfl)⟩
theorem lw_p87 : lw_okq (⟨"RiverWageModel", "findWritten", "(II)Z"⟩, 58) := ⟨⟨by decide +kernel, by decide +kernel⟩, lw_t5 (List.mem_of_getElem? (i := 64) rfl), lw_t7 (List.mem_of_getElem? (i := 130) rfl), lw_t7 (List.mem_of_getElem? (i := 131) rfl)⟩
theorem lw_p88 : lw_okq (⟨"RiverWageModel", "rateOf", "(II)J"⟩, 58) := ⟨⟨by decide +kernel, by decide +kernel⟩, lw_t5 (List.mem_of_getElem? (i := 64) rfl), lw_t7 (List.mem_of_getElem? (i := 147) rfl), lw_t7 (List.mem_of_getElem? (i := 148) rfl)⟩
theorem lw_p89 : lw_okq (⟨"RiverWageModel", "paidOf", "(II)J"⟩, 58) := ⟨⟨by decide +kernel, by decide +kernel⟩, lw_t5 (List.mem_of_getElem? (i := 64) rfl), lw_t7 (List.mem_of_getElem? (i := 151) rfl), lw_t7 (List.mem_of_getElem? (i := 152) rfl)⟩
theorem lw_p90 : lw_okq (⟨"RiverWageModel", "restOf", "(II)J"⟩, 58) := ⟨⟨by decide +kernel, by decide +kernel⟩, lw_t5 (List.mem_of_getElem? (i := 64) rfl), lw_t7 (List.mem_of_getElem? (i := 155) rfl), lw_t7 (List.mem_of_getElem? (i := 156) rfl)⟩
theorem lw_p91 : lw_okq (⟨"RiverWageModel", "closesBy", "(IIII)J"⟩, 58) := ⟨⟨by decide +kernel, by decide +kernel⟩, lw_t5 (List.mem_of_getElem? (i := 64) rfl), lw_t7 (List.mem_of_getElem? (i := 163) rfl), lw_t7 (List.mem_of_getElem? (i := 164) rfl)⟩
theorem lw_p92 : lw_okq (⟨"RiverWageModel", "laysLots", "(II)Z"⟩, 58) := ⟨⟨by decide +kernel, by decide +kernel⟩, lw_t5 (List.mem_of_getElem? (i := 64) rfl), lw_t7 (List.mem_of_getElem? (i := 171) rfl), lw_t7 (List.mem_of_getElem? (i := 172) rfl)⟩
theorem lw_p93 : lw_okq (⟨"RiverWageModel", "findLots", "(I)V"⟩, 58) := ⟨⟨by decide +kernel, by decide +kernel⟩, lw_t5 (List.mem_of_getElem? (i := 64) rfl), lw_t7 (List.mem_of_getElem? (i := 176) rfl), lw_t7 (List.mem_of_getElem? (i := 177) rfl)⟩
theorem lw_p94 : lw_okq (⟨"RiverWageModel", "sheetHands", "(I)I"⟩, 58) := ⟨⟨by decide +kernel, by decide +kernel⟩, lw_t5 (List.mem_of_getElem? (i := 64) rfl), lw_t7 (List.mem_of_getElem? (i := 198) rfl), lw_t7 (List.mem_of_getElem? (i := 199) rfl)⟩
theorem lw_p95 : lw_okq (⟨"RiverWageModel", "weightOf", "(I)I"⟩, 58) := ⟨⟨by decide +kernel, by decide +kernel⟩, lw_t5 (List.mem_of_getElem? (i := 64) rfl), lw_t7 (List.mem_of_getElem? (i := 210) rfl), lw_t7 (List.mem_of_getElem? (i := 211) rfl)⟩
def lw_privs_6 : List (MethodName × Nat) := [(⟨"RiverWageModel", "worldHands", "(II)I"⟩, 58), (⟨"RiverWageModel", "fitOf", "(II)J"⟩, 58), (⟨"RiverWageModel", "findOthers", "(Z)Z"⟩, 58), (⟨"RiverWageModel", "readWriterLine", "()V"⟩, 58), (⟨"RiverWageModel", "tenthsBy", "(I)I"⟩, 58), (⟨"RiverWageModel", "doesTake", "(III)Z"⟩, 58), (⟨"RiverWageModel", "monthsOf", "(II)I"⟩, 58), (⟨"RiverWageModel", "findWritten", "(II)Z"⟩, 58), (⟨"RiverWageModel", "rateOf", "(II)J"⟩, 58), (⟨"RiverWageModel", "paidOf", "(II)J"⟩, 58), (⟨"RiverWageModel", "restOf", "(II)J"⟩, 58), (⟨"RiverWageModel", "closesBy", "(IIII)J"⟩, 58), (⟨"RiverWageModel", "laysLots", "(II)Z"⟩, 58), (⟨"RiverWageModel", "findLots", "(I)V"⟩, 58), (⟨"RiverWageModel", "sheetHands", "(I)I"⟩, 58), (⟨"RiverWageModel", "weightOf", "(I)I"⟩, 58)]
theorem lw_r6 : ∀ q ∈ lw_privs_6, lw_okq q := List.forall_mem_cons.mpr ⟨lw_p80, List.forall_mem_cons.mpr ⟨lw_p81, List.forall_mem_cons.mpr ⟨lw_p82, List.forall_mem_cons.mpr ⟨lw_p83, List.forall_mem_cons.mpr ⟨lw_p84, List.forall_mem_cons.mpr ⟨lw_p85, List.forall_mem_cons.mpr ⟨lw_p86, List.forall_mem_cons.mpr ⟨lw_p87, List.forall_mem_cons.mpr ⟨lw_p88, List.forall_mem_cons.mpr ⟨lw_p89, List.forall_mem_cons.mpr ⟨lw_p90, List.forall_mem_cons.mpr ⟨lw_p91, List.forall_mem_cons.mpr ⟨lw_p92, List.forall_mem_cons.mpr ⟨lw_p93, List.forall_mem_cons.mpr ⟨lw_p94, List.forall_mem_cons.mpr ⟨lw_p95, fun _ h => absurd h List.not_mem_nil⟩⟩⟩⟩⟩⟩⟩⟩⟩⟩⟩⟩⟩⟩⟩⟩
theorem lw_p96 : lw_okq (⟨"RiverWageModel", "keeps", "(I[IZ)V"⟩, 58) := ⟨⟨by decide +kernel, by decide +kernel⟩, lw_t5 (List.mem_of_getElem? (i := 64) rfl), lw_t7 (List.mem_of_getElem? (i := 218) rfl), lw_t7 (List.mem_of_getElem? (i := 219) rfl)⟩
def lw_privs_7 : List (MethodName × Nat) := [(⟨"RiverWageModel", "keeps", "(I[IZ)V"⟩, 58)]
theorem lw_r7 : ∀ q ∈ lw_privs_7, lw_okq q := List.forall_mem_cons.mpr ⟨lw_p96, fun _ h => absurd h List.not_mem_nil⟩
def lw_privs : List (MethodName × Nat) := lw_privs_1 ++ (lw_privs_2 ++ (lw_privs_3 ++ (lw_privs_4 ++ (lw_privs_5 ++ (lw_privs_6 ++ (lw_privs_7))))))
def lw_tbl : List Cond := k2_sels lw_privs ++ tables_1
theorem lw_privs_ok : ∀ q ∈ lw_privs, lw_okq q := by
  show ∀ q ∈ lw_privs_1 ++ (lw_privs_2 ++ (lw_privs_3 ++ (lw_privs_4 ++ (lw_privs_5 ++ (lw_privs_6 ++ (lw_privs_7)))))), lw_okq q
  exact List.forall_mem_append.mpr ⟨lw_r1, List.forall_mem_append.mpr ⟨lw_r2, List.forall_mem_append.mpr ⟨lw_r3, List.forall_mem_append.mpr ⟨lw_r4, List.forall_mem_append.mpr ⟨lw_r5, List.forall_mem_append.mpr ⟨lw_r6, lw_r7⟩⟩⟩⟩⟩⟩
-- ===== ONE list of words for every method: the tables' words that hold all through a run =====
def lw_all : List Cond := lw_tbl.filter goodWord
/-- a word of the tables by its place: claim/WORDS.tsv -/
theorem lw_w {w : Cond} (i : Nat) (h : lw_tbl[i]? = some w) (g : goodWord w = true) : w ∈ lw_all := List.mem_filter.mpr ⟨List.mem_of_getElem? h, g⟩
theorem lw_all_tbl {w : Cond} (h : w ∈ lw_all) : w ∈ lw_tbl := (List.mem_filter.mp h).1
theorem lw_self : GoodIn lw_all lw_all := fun w h => ⟨h, good_of_word (List.mem_filter.mp h).2⟩
/-- a class's field words, by their places -/
theorem lw_in (ws : List Cond) (ps : List Nat) (hp : ws = ps.filterMap (fun i => lw_tbl[i]?)) (hg : ws.all goodWord = true) : ∀ w ∈ ws, w ∈ lw_all := by
  intro w h
  have h1 := List.all_eq_true.mp hg w h
  rw [hp] at h
  obtain ⟨i, -, hi⟩ := List.mem_filterMap.mp h
  exact lw_w i hi h1
/-- the words of a contract for the method y with code b, L locals, answer r -/
abbrev ws_ (y : MethodName) (b : ByteArray) (L : Nat) (r : Option FieldType) : List Cond := Cond.code y b L r :: lw_all
theorem lw_meth {y : MethodName} {b : ByteArray} {L : Nat} {r : Option FieldType} (h : Cond.code y b L r ∈ lw_all) : GoodIn lw_all (ws_ y b L r) := by
  intro w hw
  rcases List.mem_cons.mp hw with e | e
  · rw [e]
    exact lw_self _ h
  · exact lw_self _ e
theorem lw_app {a c : List Cond} (ha : ∀ w ∈ a, w ∈ lw_all) (hc : GoodIn lw_all c) : GoodIn lw_all (a ++ c) := by
  intro w hw
  rcases List.mem_append.mp hw with e | e
  · exact lw_self w (ha w e)
  · exact hc w e
/-- what a call through an object asks: cwV n hts (lw_V ..) -/
theorem lw_V {own : String} {idx : Nat} {C : String} {y : MethodName} {b : ByteArray} {L : Nat} {r : Option FieldType} (h1 : Cond.methodLink own idx y ∈ lw_all) (h2 : Cond.instanceMethod y ∈ lw_all) (h3 : Cond.selects C y y ∈ lw_all) (h4 : Cond.initialized C ∈ lw_all) (h5 : Cond.code y b L r ∈ lw_all) : GoodIn lw_all (wsV own idx C y (ws_ y b L r)) := by
  refine lw_app ?_ (lw_meth h5)
  intro w hw
  simp only [List.mem_cons, List.not_mem_nil, or_false] at hw
  rcases hw with e | e | e | e
  · rw [e]; exact h1
  · rw [e]; exact h2
  · rw [e]; exact h3
  · rw [e]; exact h4
/-- what a static call asks: va_cwS n hts (lw_S ..) -/
theorem lw_S {own : String} {idx : Nat} {y : MethodName} {b : ByteArray} {L : Nat} {r : Option FieldType} (h1 : Cond.methodLink own idx y ∈ lw_all) (h2 : Cond.static y ∈ lw_all) (h3 : Cond.initialized y.cls ∈ lw_all) (h4 : Cond.code y b L r ∈ lw_all) : GoodIn lw_all (va_wsS own idx y (ws_ y b L r)) := by
  refine lw_app ?_ (lw_meth h4)
  intro w hw
  simp only [List.mem_cons, List.not_mem_nil, or_false] at hw
  rcases hw with e | e | e
  · rw [e]; exact h1
  · rw [e]; exact h2
  · rw [e]; exact h3
/-- the words of a contract for a method WITH HANDLERS (hh: its table) -/
abbrev wsW_ (y : MethodName) (b : ByteArray) (L : Nat) (r : Option FieldType) (hh : List (Nat × Nat × Nat × Nat)) : List Cond := Cond.codeWith y b L r hh :: lw_all
theorem lw_methW {y : MethodName} {b : ByteArray} {L : Nat} {r : Option FieldType} {hh : List (Nat × Nat × Nat × Nat)} (h : Cond.codeWith y b L r hh ∈ lw_all) : GoodIn lw_all (wsW_ y b L r hh) := by
  intro w hw
  rcases List.mem_cons.mp hw with e | e
  · rw [e]
    exact lw_self _ h
  · exact lw_self _ e
/-- any list of words by their places (lw_in), good -/
theorem lw_good {ws : List Cond} (h : ∀ w ∈ ws, w ∈ lw_all) : GoodIn lw_all ws := fun w hw => lw_self w (h w hw)
/-- what a call of a method with handlers asks: vx_cwVW n hts (lw_VW ..), vx_cwSW n hts (lw_SW ..) -/
theorem lw_VW {own : String} {idx : Nat} {C : String} {y : MethodName} {b : ByteArray} {L : Nat} {r : Option FieldType} {hh : List (Nat × Nat × Nat × Nat)} (h1 : Cond.methodLink own idx y ∈ lw_all) (h2 : Cond.instanceMethod y ∈ lw_all) (h3 : Cond.selects C y y ∈ lw_all) (h4 : Cond.initialized C ∈ lw_all) (h5 : Cond.codeWith y b L r hh ∈ lw_all) : GoodIn lw_all (wsV own idx C y (wsW_ y b L r hh)) := by
  refine lw_app ?_ (lw_methW h5)
  intro w hw
  simp only [List.mem_cons, List.not_mem_nil, or_false] at hw
  rcases hw with e | e | e | e
  · rw [e]; exact h1
  · rw [e]; exact h2
  · rw [e]; exact h3
  · rw [e]; exact h4
theorem lw_SW {own : String} {idx : Nat} {y : MethodName} {b : ByteArray} {L : Nat} {r : Option FieldType} {hh : List (Nat × Nat × Nat × Nat)} (h1 : Cond.methodLink own idx y ∈ lw_all) (h2 : Cond.static y ∈ lw_all) (h3 : Cond.initialized y.cls ∈ lw_all) (h4 : Cond.codeWith y b L r hh ∈ lw_all) : GoodIn lw_all (va_wsS own idx y (wsW_ y b L r hh)) := by
  refine lw_app ?_ (lw_methW h4)
  intro w hw
  simp only [List.mem_cons, List.not_mem_nil, or_false] at hw
  rcases hw with e | e | e
  · rw [e]; exact h1
  · rw [e]; exact h2
  · rw [e]; exact h3
/-- a word by its place in its run of the tables -/
theorem lw_at {r : List Cond} (hr : ∀ w ∈ r, w ∈ lw_tbl) {w : Cond} (i : Nat) (h : r[i]? = some w) : w ∈ lw_tbl := hr w (List.mem_of_getElem? h)
theorem lw_g {w : Cond} (h : w ∈ lw_tbl) (g : goodWord w = true) : w ∈ lw_all := List.mem_filter.mpr ⟨h, g⟩
theorem lw_ms : ∀ w ∈ k2_sels lw_privs, w ∈ lw_tbl := fun w h => show w ∈ k2_sels lw_privs ++ tables_1 from List.mem_append_left _ h
theorem lw_m1 : ∀ w ∈ tables_1_1, w ∈ lw_tbl := fun w h => show w ∈ k2_sels lw_privs ++ tables_1 from List.mem_append_right (k2_sels lw_privs) (show w ∈ tables_1 from List.mem_append_left _ h)
theorem lw_m2 : ∀ w ∈ tables_1_2, w ∈ lw_tbl := fun w h => show w ∈ k2_sels lw_privs ++ tables_1 from List.mem_append_right (k2_sels lw_privs) (show w ∈ tables_1 from List.mem_append_right _ (List.mem_append_left _ h))
theorem lw_m3 : ∀ w ∈ tables_1_3, w ∈ lw_tbl := fun w h => show w ∈ k2_sels lw_privs ++ tables_1 from List.mem_append_right (k2_sels lw_privs) (show w ∈ tables_1 from List.mem_append_right _ (List.mem_append_right _ (List.mem_append_left _ h)))
theorem lw_m4 : ∀ w ∈ tables_1_4, w ∈ lw_tbl := fun w h => show w ∈ k2_sels lw_privs ++ tables_1 from List.mem_append_right (k2_sels lw_privs) (show w ∈ tables_1 from List.mem_append_right _ (List.mem_append_right _ (List.mem_append_right _ (List.mem_append_left _ h))))
theorem lw_m5 : ∀ w ∈ tables_1_5, w ∈ lw_tbl := fun w h => show w ∈ k2_sels lw_privs ++ tables_1 from List.mem_append_right (k2_sels lw_privs) (show w ∈ tables_1 from List.mem_append_right _ (List.mem_append_right _ (List.mem_append_right _ (List.mem_append_right _ (List.mem_append_left _ h)))))
theorem lw_m6 : ∀ w ∈ tables_1_6, w ∈ lw_tbl := fun w h => show w ∈ k2_sels lw_privs ++ tables_1 from List.mem_append_right (k2_sels lw_privs) (show w ∈ tables_1 from List.mem_append_right _ (List.mem_append_right _ (List.mem_append_right _ (List.mem_append_right _ (List.mem_append_right _ (List.mem_append_left _ h))))))
theorem lw_m7 : ∀ w ∈ tables_1_7, w ∈ lw_tbl := fun w h => show w ∈ k2_sels lw_privs ++ tables_1 from List.mem_append_right (k2_sels lw_privs) (show w ∈ tables_1 from List.mem_append_right _ (List.mem_append_right _ (List.mem_append_right _ (List.mem_append_right _ (List.mem_append_right _ (List.mem_append_right _ (List.mem_append_left _ h)))))))
theorem lw_m8 : ∀ w ∈ tables_1_8, w ∈ lw_tbl := fun w h => show w ∈ k2_sels lw_privs ++ tables_1 from List.mem_append_right (k2_sels lw_privs) (show w ∈ tables_1 from List.mem_append_right _ (List.mem_append_right _ (List.mem_append_right _ (List.mem_append_right _ (List.mem_append_right _ (List.mem_append_right _ (List.mem_append_right _ h)))))))
theorem qs0 : (Cond.selects "RiverWage" ⟨"RiverWage", "isKitchen", "(I)Z"⟩ ⟨"RiverWage", "isKitchen", "(I)Z"⟩) ∈ lw_all := lw_g (lw_at lw_ms 0 rfl) rfl
theorem qs1 : (Cond.selects "RiverWage" ⟨"RiverWage", "handsOf", "(LRiverWage$Kitchen;I)I"⟩ ⟨"RiverWage", "handsOf", "(LRiverWage$Kitchen;I)I"⟩) ∈ lw_all := lw_g (lw_at lw_ms 1 rfl) rfl
theorem qs2 : (Cond.selects "RiverWage" ⟨"RiverWage", "handsOf", "(II)I"⟩ ⟨"RiverWage", "handsOf", "(II)I"⟩) ∈ lw_all := lw_g (lw_at lw_ms 2 rfl) rfl
theorem qs3 : (Cond.selects "RiverWage" ⟨"RiverWage", "ends", "(IIZ)Z"⟩ ⟨"RiverWage", "ends", "(IIZ)Z"⟩) ∈ lw_all := lw_g (lw_at lw_ms 3 rfl) rfl
theorem qs4 : (Cond.selects "RiverWage" ⟨"RiverWage", "begins", "()V"⟩ ⟨"RiverWage", "begins", "()V"⟩) ∈ lw_all := lw_g (lw_at lw_ms 4 rfl) rfl
theorem qs5 : (Cond.selects "RiverWage" ⟨"RiverWage", "of", "(I)LRiverWage$Mean;"⟩ ⟨"RiverWage", "of", "(I)LRiverWage$Mean;"⟩) ∈ lw_all := lw_g (lw_at lw_ms 5 rfl) rfl
theorem qs6 : (Cond.selects "RiverWage" ⟨"RiverWage", "may", "(LRiverWage$Kitchen;IZ)I"⟩ ⟨"RiverWage", "may", "(LRiverWage$Kitchen;IZ)I"⟩) ∈ lw_all := lw_g (lw_at lw_ms 6 rfl) rfl
theorem qs7 : (Cond.selects "RiverWage" ⟨"RiverWage", "isThere", "()Z"⟩ ⟨"RiverWage", "isThere", "()Z"⟩) ∈ lw_all := lw_g (lw_at lw_ms 7 rfl) rfl
theorem qs8 : (Cond.selects "RiverWage" ⟨"RiverWage", "above", "()J"⟩ ⟨"RiverWage", "above", "()J"⟩) ∈ lw_all := lw_g (lw_at lw_ms 8 rfl) rfl
theorem qs9 : (Cond.selects "RiverWage" ⟨"RiverWage", "rivers", "(III)Z"⟩ ⟨"RiverWage", "rivers", "(III)Z"⟩) ∈ lw_all := lw_g (lw_at lw_ms 9 rfl) rfl
theorem qs10 : (Cond.selects "RiverWage" ⟨"RiverWage", "change", "(LRiverWage$Kitchen;II)I"⟩ ⟨"RiverWage", "change", "(LRiverWage$Kitchen;II)I"⟩) ∈ lw_all := lw_g (lw_at lw_ms 10 rfl) rfl
theorem qs11 : (Cond.selects "RiverWage" ⟨"RiverWage", "deals", "(IIJIIJ)V"⟩ ⟨"RiverWage", "deals", "(IIJIIJ)V"⟩) ∈ lw_all := lw_g (lw_at lw_ms 11 rfl) rfl
theorem qs12 : (Cond.selects "RiverWage" ⟨"RiverWage", "below", "()J"⟩ ⟨"RiverWage", "below", "()J"⟩) ∈ lw_all := lw_g (lw_at lw_ms 12 rfl) rfl
theorem qs13 : (Cond.selects "RiverWage$Reader" ⟨"RiverWage$Reader", "next", "()V"⟩ ⟨"RiverWage$Reader", "next", "()V"⟩) ∈ lw_all := lw_g (lw_at lw_ms 13 rfl) rfl
theorem qs14 : (Cond.selects "RiverWage$Reader" ⟨"RiverWage$Reader", "at", "(I)I"⟩ ⟨"RiverWage$Reader", "at", "(I)I"⟩) ∈ lw_all := lw_g (lw_at lw_ms 14 rfl) rfl
theorem qs15 : (Cond.selects "RiverWage$Reader" ⟨"RiverWage$Reader", "which", "(Ljava/lang/String;)I"⟩ ⟨"RiverWage$Reader", "which", "(Ljava/lang/String;)I"⟩) ∈ lw_all := lw_g (lw_at lw_ms 15 rfl) rfl
theorem qs16 : (Cond.selects "RiverWage$Reader" ⟨"RiverWage$Reader", "wrong", "(I)LRiverWage$Wrong;"⟩ ⟨"RiverWage$Reader", "wrong", "(I)LRiverWage$Wrong;"⟩) ∈ lw_all := lw_g (lw_at lw_ms 16 rfl) rfl
theorem qs17 : (Cond.selects "java/lang/Throwable" ⟨"java/lang/Throwable", "fillInStackTrace", "(I)Ljava/lang/Throwable;"⟩ ⟨"java/lang/Throwable", "fillInStackTrace", "(I)Ljava/lang/Throwable;"⟩) ∈ lw_all := lw_g (lw_at lw_ms 17 rfl) rfl
theorem qs18 : (Cond.selects "RiverWage$Reader" ⟨"RiverWage$Reader", "need", "(Ljava/lang/String;)V"⟩ ⟨"RiverWage$Reader", "need", "(Ljava/lang/String;)V"⟩) ∈ lw_all := lw_g (lw_at lw_ms 18 rfl) rfl
theorem qs19 : (Cond.selects "RiverWage$Reader" ⟨"RiverWage$Reader", "expression", "()LRiverWage$Expression;"⟩ ⟨"RiverWage$Reader", "expression", "()LRiverWage$Expression;"⟩) ∈ lw_all := lw_g (lw_at lw_ms 19 rfl) rfl
theorem qs20 : (Cond.selects "RiverWage$Reader" ⟨"RiverWage$Reader", "test", "()LRiverWage$Expression;"⟩ ⟨"RiverWage$Reader", "test", "()LRiverWage$Expression;"⟩) ∈ lw_all := lw_g (lw_at lw_ms 20 rfl) rfl
theorem qs21 : (Cond.selects "RiverWage$Reader" ⟨"RiverWage$Reader", "sum", "()LRiverWage$Expression;"⟩ ⟨"RiverWage$Reader", "sum", "()LRiverWage$Expression;"⟩) ∈ lw_all := lw_g (lw_at lw_ms 21 rfl) rfl
theorem qs22 : (Cond.selects "RiverWage$Reader" ⟨"RiverWage$Reader", "product", "()LRiverWage$Expression;"⟩ ⟨"RiverWage$Reader", "product", "()LRiverWage$Expression;"⟩) ∈ lw_all := lw_g (lw_at lw_ms 22 rfl) rfl
theorem qs23 : (Cond.selects "RiverWage$Reader" ⟨"RiverWage$Reader", "part", "()LRiverWage$Expression;"⟩ ⟨"RiverWage$Reader", "part", "()LRiverWage$Expression;"⟩) ∈ lw_all := lw_g (lw_at lw_ms 23 rfl) rfl
theorem qs24 : (Cond.selects "RiverWage$Reader" ⟨"RiverWage$Reader", "isSign", "(C)Z"⟩ ⟨"RiverWage$Reader", "isSign", "(C)Z"⟩) ∈ lw_all := lw_g (lw_at lw_ms 24 rfl) rfl
theorem qs25 : (Cond.selects "RiverWage$Reader" ⟨"RiverWage$Reader", "number", "(II)I"⟩ ⟨"RiverWage$Reader", "number", "(II)I"⟩) ∈ lw_all := lw_g (lw_at lw_ms 25 rfl) rfl
theorem qs26 : (Cond.selects "RiverWage$Reader" ⟨"RiverWage$Reader", "need", "(C)V"⟩ ⟨"RiverWage$Reader", "need", "(C)V"⟩) ∈ lw_all := lw_g (lw_at lw_ms 26 rfl) rfl
theorem qs27 : (Cond.selects "RiverWage" ⟨"RiverWage", "runs", "(LRiverWage$Law;I)V"⟩ ⟨"RiverWage", "runs", "(LRiverWage$Law;I)V"⟩) ∈ lw_all := lw_g (lw_at lw_ms 27 rfl) rfl
theorem qs28 : (Cond.selects "RiverWage" ⟨"RiverWage", "goes", "(LRiverWage$Law;III)V"⟩ ⟨"RiverWage", "goes", "(LRiverWage$Law;III)V"⟩) ∈ lw_all := lw_g (lw_at lw_ms 28 rfl) rfl
theorem qs29 : (Cond.selects "RiverWage" ⟨"RiverWage", "isSo", "(LRiverWage$Expression;)Z"⟩ ⟨"RiverWage", "isSo", "(LRiverWage$Expression;)Z"⟩) ∈ lw_all := lw_g (lw_at lw_ms 29 rfl) rfl
theorem qs30 : (Cond.selects "RiverWage" ⟨"RiverWage", "hired", "(LRiverWage$Expression;I)I"⟩ ⟨"RiverWage", "hired", "(LRiverWage$Expression;I)I"⟩) ∈ lw_all := lw_g (lw_at lw_ms 30 rfl) rfl
theorem qs31 : (Cond.selects "RiverWage" ⟨"RiverWage", "worldHands", "(II)I"⟩ ⟨"RiverWage", "worldHands", "(II)I"⟩) ∈ lw_all := lw_g (lw_at lw_ms 31 rfl) rfl
theorem qs32 : (Cond.selects "RiverWage" ⟨"RiverWage", "fitsOf", "(II)J"⟩ ⟨"RiverWage", "fitsOf", "(II)J"⟩) ∈ lw_all := lw_g (lw_at lw_ms 32 rfl) rfl
theorem qs33 : (Cond.selects "RiverWage" ⟨"RiverWage", "sums", "(Z)V"⟩ ⟨"RiverWage", "sums", "(Z)V"⟩) ∈ lw_all := lw_g (lw_at lw_ms 33 rfl) rfl
theorem qs34 : (Cond.selects "RiverWage" ⟨"RiverWage", "isTaken", "(LRiverWage$Writer;I)Z"⟩ ⟨"RiverWage", "isTaken", "(LRiverWage$Writer;I)Z"⟩) ∈ lw_all := lw_g (lw_at lw_ms 34 rfl) rfl
theorem qs35 : (Cond.selects "RiverWage" ⟨"RiverWage", "lays", "(II)Z"⟩ ⟨"RiverWage", "lays", "(II)Z"⟩) ∈ lw_all := lw_g (lw_at lw_ms 35 rfl) rfl
theorem qs36 : (Cond.selects "RiverWage" ⟨"RiverWage", "sorts", "(III)I"⟩ ⟨"RiverWage", "sorts", "(III)I"⟩) ∈ lw_all := lw_g (lw_at lw_ms 36 rfl) rfl
theorem qs37 : (Cond.selects "RiverWage" ⟨"RiverWage", "draws", "(I)V"⟩ ⟨"RiverWage", "draws", "(I)V"⟩) ∈ lw_all := lw_g (lw_at lw_ms 37 rfl) rfl
theorem qs38 : (Cond.selects "RiverWage" ⟨"RiverWage", "weight", "(I)I"⟩ ⟨"RiverWage", "weight", "(I)I"⟩) ∈ lw_all := lw_g (lw_at lw_ms 38 rfl) rfl
theorem qs39 : (Cond.selects "RiverWage" ⟨"RiverWage", "needRiver", "(IIII)V"⟩ ⟨"RiverWage", "needRiver", "(IIII)V"⟩) ∈ lw_all := lw_g (lw_at lw_ms 39 rfl) rfl
theorem qs40 : (Cond.selects "RiverWage" ⟨"RiverWage", "writes", "(LRiverWage$Writer;I)Z"⟩ ⟨"RiverWage", "writes", "(LRiverWage$Writer;I)Z"⟩) ∈ lw_all := lw_g (lw_at lw_ms 40 rfl) rfl
theorem qs41 : (Cond.selects "RiverWage" ⟨"RiverWage", "rate", "(LRiverWage$Kitchen;I)J"⟩ ⟨"RiverWage", "rate", "(LRiverWage$Kitchen;I)J"⟩) ∈ lw_all := lw_g (lw_at lw_ms 41 rfl) rfl
theorem qs42 : (Cond.selects "RiverWage" ⟨"RiverWage", "paid", "(LRiverWage$Kitchen;I)J"⟩ ⟨"RiverWage", "paid", "(LRiverWage$Kitchen;I)J"⟩) ∈ lw_all := lw_g (lw_at lw_ms 42 rfl) rfl
theorem qs43 : (Cond.selects "RiverWageModel" ⟨"RiverWageModel", "lay", "(J)V"⟩ ⟨"RiverWageModel", "lay", "(J)V"⟩) ∈ lw_all := lw_g (lw_at lw_ms 43 rfl) rfl
theorem qs44 : (Cond.selects "RiverWageModel" ⟨"RiverWageModel", "isKitchen", "(I)Z"⟩ ⟨"RiverWageModel", "isKitchen", "(I)Z"⟩) ∈ lw_all := lw_g (lw_at lw_ms 44 rfl) rfl
theorem qs45 : (Cond.selects "RiverWageModel" ⟨"RiverWageModel", "handsOf", "(II)I"⟩ ⟨"RiverWageModel", "handsOf", "(II)I"⟩) ∈ lw_all := lw_g (lw_at lw_ms 45 rfl) rfl
theorem qs46 : (Cond.selects "RiverWageModel" ⟨"RiverWageModel", "handsBy", "(II)I"⟩ ⟨"RiverWageModel", "handsBy", "(II)I"⟩) ∈ lw_all := lw_g (lw_at lw_ms 46 rfl) rfl
theorem qs47 : (Cond.selects "RiverWageModel" ⟨"RiverWageModel", "isCounted", "(III)Z"⟩ ⟨"RiverWageModel", "isCounted", "(III)Z"⟩) ∈ lw_all := lw_g (lw_at lw_ms 47 rfl) rfl
theorem qs48 : (Cond.selects "RiverWageModel" ⟨"RiverWageModel", "changeOf", "(III)I"⟩ ⟨"RiverWageModel", "changeOf", "(III)I"⟩) ∈ lw_all := lw_g (lw_at lw_ms 48 rfl) rfl
theorem qs49 : (Cond.selects "RiverWageModel" ⟨"RiverWageModel", "findRiver", "(III)Z"⟩ ⟨"RiverWageModel", "findRiver", "(III)Z"⟩) ∈ lw_all := lw_g (lw_at lw_ms 49 rfl) rfl
theorem qs50 : (Cond.selects "RiverWageModel" ⟨"RiverWageModel", "beginsSums", "()V"⟩ ⟨"RiverWageModel", "beginsSums", "()V"⟩) ∈ lw_all := lw_g (lw_at lw_ms 50 rfl) rfl
theorem qs51 : (Cond.selects "RiverWageModel" ⟨"RiverWageModel", "adds", "(ZJ)V"⟩ ⟨"RiverWageModel", "adds", "(ZJ)V"⟩) ∈ lw_all := lw_g (lw_at lw_ms 51 rfl) rfl
theorem qs52 : (Cond.selects "RiverWageModel" ⟨"RiverWageModel", "differs", "()Z"⟩ ⟨"RiverWageModel", "differs", "()Z"⟩) ∈ lw_all := lw_g (lw_at lw_ms 52 rfl) rfl
theorem qs53 : (Cond.selects "RiverWageModel" ⟨"RiverWageModel", "lowest", "(I)J"⟩ ⟨"RiverWageModel", "lowest", "(I)J"⟩) ∈ lw_all := lw_g (lw_at lw_ms 53 rfl) rfl
theorem qs54 : (Cond.selects "RiverWageModel" ⟨"RiverWageModel", "findBound", "(III)Z"⟩ ⟨"RiverWageModel", "findBound", "(III)Z"⟩) ∈ lw_all := lw_g (lw_at lw_ms 54 rfl) rfl
theorem qs55 : (Cond.selects "RiverWageModel" ⟨"RiverWageModel", "mayChange", "(IIII)I"⟩ ⟨"RiverWageModel", "mayChange", "(IIII)I"⟩) ∈ lw_all := lw_g (lw_at lw_ms 55 rfl) rfl
theorem qs56 : (Cond.selects "RiverWageModel" ⟨"RiverWageModel", "sumOf", "(IIIII)J"⟩ ⟨"RiverWageModel", "sumOf", "(IIIII)J"⟩) ∈ lw_all := lw_g (lw_at lw_ms 56 rfl) rfl
theorem qs57 : (Cond.selects "RiverWageModel" ⟨"RiverWageModel", "cutAll", "()V"⟩ ⟨"RiverWageModel", "cutAll", "()V"⟩) ∈ lw_all := lw_g (lw_at lw_ms 57 rfl) rfl
theorem qs58 : (Cond.selects "RiverWageModel" ⟨"RiverWageModel", "readLine", "()V"⟩ ⟨"RiverWageModel", "readLine", "()V"⟩) ∈ lw_all := lw_g (lw_at lw_ms 58 rfl) rfl
theorem qs59 : (Cond.selects "RiverWageModel" ⟨"RiverWageModel", "isWord", "(I)Z"⟩ ⟨"RiverWageModel", "isWord", "(I)Z"⟩) ∈ lw_all := lw_g (lw_at lw_ms 59 rfl) rfl
theorem qs60 : (Cond.selects "RiverWageModel" ⟨"RiverWageModel", "wrong", "(I)V"⟩ ⟨"RiverWageModel", "wrong", "(I)V"⟩) ∈ lw_all := lw_g (lw_at lw_ms 60 rfl) rfl
theorem qs61 : (Cond.selects "RiverWageModel" ⟨"RiverWageModel", "takeWord", "(I)V"⟩ ⟨"RiverWageModel", "takeWord", "(I)V"⟩) ∈ lw_all := lw_g (lw_at lw_ms 61 rfl) rfl
theorem qs62 : (Cond.selects "RiverWageModel" ⟨"RiverWageModel", "hasWord", "(I)Z"⟩ ⟨"RiverWageModel", "hasWord", "(I)Z"⟩) ∈ lw_all := lw_g (lw_at lw_ms 62 rfl) rfl
theorem qs63 : (Cond.selects "RiverWageModel" ⟨"RiverWageModel", "all", "(I)V"⟩ ⟨"RiverWageModel", "all", "(I)V"⟩) ∈ lw_all := lw_g (lw_at lw_ms 63 rfl) rfl
theorem qs64 : (Cond.selects "RiverWageModel" ⟨"RiverWageModel", "test", "(I)V"⟩ ⟨"RiverWageModel", "test", "(I)V"⟩) ∈ lw_all := lw_g (lw_at lw_ms 64 rfl) rfl
theorem qs65 : (Cond.selects "RiverWageModel" ⟨"RiverWageModel", "sums", "(I)V"⟩ ⟨"RiverWageModel", "sums", "(I)V"⟩) ∈ lw_all := lw_g (lw_at lw_ms 65 rfl) rfl
theorem qs66 : (Cond.selects "RiverWageModel" ⟨"RiverWageModel", "products", "(I)V"⟩ ⟨"RiverWageModel", "products", "(I)V"⟩) ∈ lw_all := lw_g (lw_at lw_ms 66 rfl) rfl
theorem qs67 : (Cond.selects "RiverWageModel" ⟨"RiverWageModel", "takePart", "(I)V"⟩ ⟨"RiverWageModel", "takePart", "(I)V"⟩) ∈ lw_all := lw_g (lw_at lw_ms 67 rfl) rfl
theorem qs68 : (Cond.selects "RiverWageModel" ⟨"RiverWageModel", "factHere", "()I"⟩ ⟨"RiverWageModel", "factHere", "()I"⟩) ∈ lw_all := lw_g (lw_at lw_ms 68 rfl) rfl
theorem qs69 : (Cond.selects "RiverWageModel" ⟨"RiverWageModel", "isSign", "(I)Z"⟩ ⟨"RiverWageModel", "isSign", "(I)Z"⟩) ∈ lw_all := lw_g (lw_at lw_ms 69 rfl) rfl
theorem qs70 : (Cond.selects "RiverWageModel" ⟨"RiverWageModel", "emit", "(II)V"⟩ ⟨"RiverWageModel", "emit", "(II)V"⟩) ∈ lw_all := lw_g (lw_at lw_ms 70 rfl) rfl
theorem qs71 : (Cond.selects "RiverWageModel" ⟨"RiverWageModel", "hasSign", "(I)Z"⟩ ⟨"RiverWageModel", "hasSign", "(I)Z"⟩) ∈ lw_all := lw_g (lw_at lw_ms 71 rfl) rfl
theorem qs72 : (Cond.selects "RiverWageModel" ⟨"RiverWageModel", "takeSign", "(I)V"⟩ ⟨"RiverWageModel", "takeSign", "(I)V"⟩) ∈ lw_all := lw_g (lw_at lw_ms 72 rfl) rfl
theorem qs73 : (Cond.selects "RiverWageModel" ⟨"RiverWageModel", "keepsCodes", "(I)V"⟩ ⟨"RiverWageModel", "keepsCodes", "(I)V"⟩) ∈ lw_all := lw_g (lw_at lw_ms 73 rfl) rfl
theorem qs74 : (Cond.selects "RiverWageModel" ⟨"RiverWageModel", "runs", "(II)V"⟩ ⟨"RiverWageModel", "runs", "(II)V"⟩) ∈ lw_all := lw_g (lw_at lw_ms 74 rfl) rfl
theorem qs75 : (Cond.selects "RiverWageModel" ⟨"RiverWageModel", "goesOn", "(IIII)V"⟩ ⟨"RiverWageModel", "goesOn", "(IIII)V"⟩) ∈ lw_all := lw_g (lw_at lw_ms 75 rfl) rfl
theorem qs76 : (Cond.selects "RiverWageModel" ⟨"RiverWageModel", "isSo", "(II)Z"⟩ ⟨"RiverWageModel", "isSo", "(II)Z"⟩) ∈ lw_all := lw_g (lw_at lw_ms 76 rfl) rfl
theorem qs77 : (Cond.selects "RiverWageModel" ⟨"RiverWageModel", "worthOf", "(II)I"⟩ ⟨"RiverWageModel", "worthOf", "(II)I"⟩) ∈ lw_all := lw_g (lw_at lw_ms 77 rfl) rfl
theorem qs78 : (Cond.selects "RiverWageModel" ⟨"RiverWageModel", "worthAt", "(I)I"⟩ ⟨"RiverWageModel", "worthAt", "(I)I"⟩) ∈ lw_all := lw_g (lw_at lw_ms 78 rfl) rfl
theorem qs79 : (Cond.selects "RiverWageModel" ⟨"RiverWageModel", "handsByLine", "(III)I"⟩ ⟨"RiverWageModel", "handsByLine", "(III)I"⟩) ∈ lw_all := lw_g (lw_at lw_ms 79 rfl) rfl
theorem qs80 : (Cond.selects "RiverWageModel" ⟨"RiverWageModel", "worldHands", "(II)I"⟩ ⟨"RiverWageModel", "worldHands", "(II)I"⟩) ∈ lw_all := lw_g (lw_at lw_ms 80 rfl) rfl
theorem qs81 : (Cond.selects "RiverWageModel" ⟨"RiverWageModel", "fitOf", "(II)J"⟩ ⟨"RiverWageModel", "fitOf", "(II)J"⟩) ∈ lw_all := lw_g (lw_at lw_ms 81 rfl) rfl
theorem qs82 : (Cond.selects "RiverWageModel" ⟨"RiverWageModel", "findOthers", "(Z)Z"⟩ ⟨"RiverWageModel", "findOthers", "(Z)Z"⟩) ∈ lw_all := lw_g (lw_at lw_ms 82 rfl) rfl
theorem qs83 : (Cond.selects "RiverWageModel" ⟨"RiverWageModel", "readWriterLine", "()V"⟩ ⟨"RiverWageModel", "readWriterLine", "()V"⟩) ∈ lw_all := lw_g (lw_at lw_ms 83 rfl) rfl
theorem qs84 : (Cond.selects "RiverWageModel" ⟨"RiverWageModel", "tenthsBy", "(I)I"⟩ ⟨"RiverWageModel", "tenthsBy", "(I)I"⟩) ∈ lw_all := lw_g (lw_at lw_ms 84 rfl) rfl
theorem qs85 : (Cond.selects "RiverWageModel" ⟨"RiverWageModel", "doesTake", "(III)Z"⟩ ⟨"RiverWageModel", "doesTake", "(III)Z"⟩) ∈ lw_all := lw_g (lw_at lw_ms 85 rfl) rfl
theorem qs86 : (Cond.selects "RiverWageModel" ⟨"RiverWageModel", "monthsOf", "(II)I"⟩ ⟨"RiverWageModel", "monthsOf", "(II)I"⟩) ∈ lw_all := lw_g (lw_at lw_ms 86 rfl) rfl
theorem qs87 : (Cond.selects "RiverWageModel" ⟨"RiverWageModel", "findWritten", "(II)Z"⟩ ⟨"RiverWageModel", "findWritten", "(II)Z"⟩) ∈ lw_all := lw_g (lw_at lw_ms 87 rfl) rfl
theorem qs88 : (Cond.selects "RiverWageModel" ⟨"RiverWageModel", "rateOf", "(II)J"⟩ ⟨"RiverWageModel", "rateOf", "(II)J"⟩) ∈ lw_all := lw_g (lw_at lw_ms 88 rfl) rfl
theorem qs89 : (Cond.selects "RiverWageModel" ⟨"RiverWageModel", "paidOf", "(II)J"⟩ ⟨"RiverWageModel", "paidOf", "(II)J"⟩) ∈ lw_all := lw_g (lw_at lw_ms 89 rfl) rfl
theorem qs90 : (Cond.selects "RiverWageModel" ⟨"RiverWageModel", "restOf", "(II)J"⟩ ⟨"RiverWageModel", "restOf", "(II)J"⟩) ∈ lw_all := lw_g (lw_at lw_ms 90 rfl) rfl
theorem qs91 : (Cond.selects "RiverWageModel" ⟨"RiverWageModel", "closesBy", "(IIII)J"⟩ ⟨"RiverWageModel", "closesBy", "(IIII)J"⟩) ∈ lw_all := lw_g (lw_at lw_ms 91 rfl) rfl
theorem qs92 : (Cond.selects "RiverWageModel" ⟨"RiverWageModel", "laysLots", "(II)Z"⟩ ⟨"RiverWageModel", "laysLots", "(II)Z"⟩) ∈ lw_all := lw_g (lw_at lw_ms 92 rfl) rfl
theorem qs93 : (Cond.selects "RiverWageModel" ⟨"RiverWageModel", "findLots", "(I)V"⟩ ⟨"RiverWageModel", "findLots", "(I)V"⟩) ∈ lw_all := lw_g (lw_at lw_ms 93 rfl) rfl
theorem qs94 : (Cond.selects "RiverWageModel" ⟨"RiverWageModel", "sheetHands", "(I)I"⟩ ⟨"RiverWageModel", "sheetHands", "(I)I"⟩) ∈ lw_all := lw_g (lw_at lw_ms 94 rfl) rfl
theorem qs95 : (Cond.selects "RiverWageModel" ⟨"RiverWageModel", "weightOf", "(I)I"⟩ ⟨"RiverWageModel", "weightOf", "(I)I"⟩) ∈ lw_all := lw_g (lw_at lw_ms 95 rfl) rfl
theorem qs96 : (Cond.selects "RiverWageModel" ⟨"RiverWageModel", "keeps", "(I[IZ)V"⟩ ⟨"RiverWageModel", "keeps", "(I[IZ)V"⟩) ∈ lw_all := lw_g (lw_at lw_ms 96 rfl) rfl
