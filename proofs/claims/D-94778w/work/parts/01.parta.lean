-- ===== PART A: goes FIRST, ahead of the names: the tables' words, and 'selects' of the private methods out of them =====
/-- a private method of a class that the tables say can be made, by its rows of tables_1 -/
def lw_okq (q : MethodName × Nat) : Prop := (q.1.cls ≠ "java/lang/invoke/MethodHandle" ∧ q.1.cls ≠ "java/lang/invoke/VarHandle") ∧ Cond.instantiable q.1.cls q.2 ∈ tables_1 ∧ Cond.privateMethod q.1 ∈ tables_1 ∧ Cond.instanceMethod q.1 ∈ tables_1
set_option maxRecDepth 100000
theorem lw_t1 {w : Cond} (h : w ∈ tables_1_1) : w ∈ tables_1 := List.mem_append_left _ h
theorem lw_t2 {w : Cond} (h : w ∈ tables_1_2) : w ∈ tables_1 := List.mem_append_right _ (List.mem_append_left _ h)
theorem lw_t3 {w : Cond} (h : w ∈ tables_1_3) : w ∈ tables_1 := List.mem_append_right _ (List.mem_append_right _ (List.mem_append_left _ h))
theorem lw_t4 {w : Cond} (h : w ∈ tables_1_4) : w ∈ tables_1 := List.mem_append_right _ (List.mem_append_right _ (List.mem_append_right _ (List.mem_append_left _ h)))
theorem lw_t5 {w : Cond} (h : w ∈ tables_1_5) : w ∈ tables_1 := List.mem_append_right _ (List.mem_append_right _ (List.mem_append_right _ (List.mem_append_right _ (List.mem_append_left _ h))))
theorem lw_t6 {w : Cond} (h : w ∈ tables_1_6) : w ∈ tables_1 := List.mem_append_right _ (List.mem_append_right _ (List.mem_append_right _ (List.mem_append_right _ (List.mem_append_right _ (List.mem_append_left _ h)))))
theorem lw_t7 {w : Cond} (h : w ∈ tables_1_7) : w ∈ tables_1 := List.mem_append_right _ (List.mem_append_right _ (List.mem_append_right _ (List.mem_append_right _ (List.mem_append_right _ (List.mem_append_right _ (List.mem_append_left _ h))))))
theorem lw_t8 {w : Cond} (h : w ∈ tables_1_8) : w ∈ tables_1 := List.mem_append_right _ (List.mem_append_right _ (List.mem_append_right _ (List.mem_append_right _ (List.mem_append_right _ (List.mem_append_right _ (List.mem_append_right _ (List.mem_append_left _ h)))))))
theorem lw_t9 {w : Cond} (h : w ∈ tables_1_9) : w ∈ tables_1 := List.mem_append_right _ (List.mem_append_right _ (List.mem_append_right _ (List.mem_append_right _ (List.mem_append_right _ (List.mem_append_right _ (List.mem_append_right _ (List.mem_append_right _ h)))))))
theorem lw_p0 : lw_okq (⟨"java/lang/Throwable", "fillInStackTrace", "(I)Ljava/lang/Throwable;"⟩, 6) := ⟨⟨by decide +kernel, by decide +kernel⟩, lw_t1 (List.mem_of_getElem? (i := 87) rfl), lw_t1 (List.mem_of_getElem? (i := 85) rfl), lw_t1 (List.mem_of_getElem? (i := 86) rfl)⟩
theorem lw_p1 : lw_okq (⟨"FifthCard", "bytes", "(I)V"⟩, 16) := ⟨⟨by decide +kernel, by decide +kernel⟩, lw_t1 (List.mem_of_getElem? (i := 36) rfl), lw_t2 (List.mem_of_getElem? (i := 166) rfl), lw_t2 (List.mem_of_getElem? (i := 167) rfl)⟩
theorem lw_p2 : lw_okq (⟨"FifthCard", "anew", "()V"⟩, 16) := ⟨⟨by decide +kernel, by decide +kernel⟩, lw_t1 (List.mem_of_getElem? (i := 36) rfl), lw_t2 (List.mem_of_getElem? (i := 175) rfl), lw_t2 (List.mem_of_getElem? (i := 176) rfl)⟩
theorem lw_p3 : lw_okq (⟨"FifthCard", "no", "(I)I"⟩, 16) := ⟨⟨by decide +kernel, by decide +kernel⟩, lw_t1 (List.mem_of_getElem? (i := 36) rfl), lw_t2 (List.mem_of_getElem? (i := 182) rfl), lw_t2 (List.mem_of_getElem? (i := 183) rfl)⟩
theorem lw_p4 : lw_okq (⟨"FifthCard$Reader", "next", "()V"⟩, 11) := ⟨⟨by decide +kernel, by decide +kernel⟩, lw_t1 (List.mem_of_getElem? (i := 44) rfl), lw_t3 (List.mem_of_getElem? (i := 40) rfl), lw_t3 (List.mem_of_getElem? (i := 41) rfl)⟩
theorem lw_p5 : lw_okq (⟨"FifthCard$Reader", "see", "(I)I"⟩, 11) := ⟨⟨by decide +kernel, by decide +kernel⟩, lw_t1 (List.mem_of_getElem? (i := 44) rfl), lw_t3 (List.mem_of_getElem? (i := 44) rfl), lw_t3 (List.mem_of_getElem? (i := 45) rfl)⟩
theorem lw_p6 : lw_okq (⟨"FifthCard$Reader", "line", "()V"⟩, 11) := ⟨⟨by decide +kernel, by decide +kernel⟩, lw_t1 (List.mem_of_getElem? (i := 44) rfl), lw_t3 (List.mem_of_getElem? (i := 134) rfl), lw_t3 (List.mem_of_getElem? (i := 135) rfl)⟩
theorem lw_p7 : lw_okq (⟨"FifthCard$Reader", "fail", "(I)LFifthCard$Refused;"⟩, 11) := ⟨⟨by decide +kernel, by decide +kernel⟩, lw_t1 (List.mem_of_getElem? (i := 44) rfl), lw_t3 (List.mem_of_getElem? (i := 138) rfl), lw_t3 (List.mem_of_getElem? (i := 139) rfl)⟩
theorem lw_p8 : lw_okq (⟨"FifthCard$Reader", "trickLine", "()V"⟩, 11) := ⟨⟨by decide +kernel, by decide +kernel⟩, lw_t1 (List.mem_of_getElem? (i := 44) rfl), lw_t3 (List.mem_of_getElem? (i := 210) rfl), lw_t3 (List.mem_of_getElem? (i := 211) rfl)⟩
theorem lw_p9 : lw_okq (⟨"FifthCard$Reader", "after", "(Ljava/lang/String;II)I"⟩, 11) := ⟨⟨by decide +kernel, by decide +kernel⟩, lw_t1 (List.mem_of_getElem? (i := 44) rfl), lw_t3 (List.mem_of_getElem? (i := 215) rfl), lw_t3 (List.mem_of_getElem? (i := 216) rfl)⟩
theorem lw_p10 : lw_okq (⟨"FifthCard$Reader", "must", "(Ljava/lang/String;)V"⟩, 11) := ⟨⟨by decide +kernel, by decide +kernel⟩, lw_t1 (List.mem_of_getElem? (i := 44) rfl), lw_t3 (List.mem_of_getElem? (i := 219) rfl), lw_t3 (List.mem_of_getElem? (i := 220) rfl)⟩
theorem lw_p11 : lw_okq (⟨"FifthCard$Reader", "takes", "(Ljava/lang/String;)Z"⟩, 11) := ⟨⟨by decide +kernel, by decide +kernel⟩, lw_t1 (List.mem_of_getElem? (i := 44) rfl), lw_t3 (List.mem_of_getElem? (i := 223) rfl), lw_t3 (List.mem_of_getElem? (i := 224) rfl)⟩
theorem lw_p12 : lw_okq (⟨"FifthCard$Reader", "isWord", "(Ljava/lang/String;)Z"⟩, 11) := ⟨⟨by decide +kernel, by decide +kernel⟩, lw_t1 (List.mem_of_getElem? (i := 44) rfl), lw_t3 (List.mem_of_getElem? (i := 227) rfl), lw_t3 (List.mem_of_getElem? (i := 228) rfl)⟩
theorem lw_p13 : lw_okq (⟨"FifthCard$Reader", "numberHere", "(II)I"⟩, 11) := ⟨⟨by decide +kernel, by decide +kernel⟩, lw_t1 (List.mem_of_getElem? (i := 44) rfl), lw_t3 (List.mem_of_getElem? (i := 231) rfl), lw_t3 (List.mem_of_getElem? (i := 232) rfl)⟩
theorem lw_p14 : lw_okq (⟨"FifthCard$Reader", "rule", "()V"⟩, 11) := ⟨⟨by decide +kernel, by decide +kernel⟩, lw_t1 (List.mem_of_getElem? (i := 44) rfl), lw_t4 (List.mem_of_getElem? (i := 17) rfl), lw_t4 (List.mem_of_getElem? (i := 18) rfl)⟩
theorem lw_p15 : lw_okq (⟨"FifthCard$Reader", "begins", "(Z)V"⟩, 11) := ⟨⟨by decide +kernel, by decide +kernel⟩, lw_t1 (List.mem_of_getElem? (i := 44) rfl), lw_t4 (List.mem_of_getElem? (i := 21) rfl), lw_t4 (List.mem_of_getElem? (i := 22) rfl)⟩
def lw_privs_1 : List (MethodName × Nat) := [(⟨"java/lang/Throwable", "fillInStackTrace", "(I)Ljava/lang/Throwable;"⟩, 6), (⟨"FifthCard", "bytes", "(I)V"⟩, 16), (⟨"FifthCard", "anew", "()V"⟩, 16), (⟨"FifthCard", "no", "(I)I"⟩, 16), (⟨"FifthCard$Reader", "next", "()V"⟩, 11), (⟨"FifthCard$Reader", "see", "(I)I"⟩, 11), (⟨"FifthCard$Reader", "line", "()V"⟩, 11), (⟨"FifthCard$Reader", "fail", "(I)LFifthCard$Refused;"⟩, 11), (⟨"FifthCard$Reader", "trickLine", "()V"⟩, 11), (⟨"FifthCard$Reader", "after", "(Ljava/lang/String;II)I"⟩, 11), (⟨"FifthCard$Reader", "must", "(Ljava/lang/String;)V"⟩, 11), (⟨"FifthCard$Reader", "takes", "(Ljava/lang/String;)Z"⟩, 11), (⟨"FifthCard$Reader", "isWord", "(Ljava/lang/String;)Z"⟩, 11), (⟨"FifthCard$Reader", "numberHere", "(II)I"⟩, 11), (⟨"FifthCard$Reader", "rule", "()V"⟩, 11), (⟨"FifthCard$Reader", "begins", "(Z)V"⟩, 11)]
theorem lw_r1 : ∀ q ∈ lw_privs_1, lw_okq q := List.forall_mem_cons.mpr ⟨lw_p0, List.forall_mem_cons.mpr ⟨lw_p1, List.forall_mem_cons.mpr ⟨lw_p2, List.forall_mem_cons.mpr ⟨lw_p3, List.forall_mem_cons.mpr ⟨lw_p4, List.forall_mem_cons.mpr ⟨lw_p5, List.forall_mem_cons.mpr ⟨lw_p6, List.forall_mem_cons.mpr ⟨lw_p7, List.forall_mem_cons.mpr ⟨lw_p8, List.forall_mem_cons.mpr ⟨lw_p9, List.forall_mem_cons.mpr ⟨lw_p10, List.forall_mem_cons.mpr ⟨lw_p11, List.forall_mem_cons.mpr ⟨lw_p12, List.forall_mem_cons.mpr ⟨lw_p13, List.forall_mem_cons.mpr ⟨lw_p14, List.forall_mem_cons.mpr ⟨lw_p15, fun _ h => absurd h List.not_mem_nil⟩⟩⟩⟩⟩⟩⟩⟩⟩⟩⟩⟩⟩⟩⟩⟩
theorem lw_p16 : lw_okq (⟨"FifthCard$Reader", "newName", "()Ljava/lang/String;"⟩, 11) := ⟨⟨by decide +kernel, by decide +kernel⟩, lw_t1 (List.mem_of_getElem? (i := 44) rfl), lw_t4 (List.mem_of_getElem? (i := 25) rfl), lw_t4 (List.mem_of_getElem? (i := 26) rfl)⟩
theorem lw_p17 : lw_okq (⟨"FifthCard$Reader", "ruleOf", "(Ljava/lang/String;I)LFifthCard$Rule;"⟩, 11) := ⟨⟨by decide +kernel, by decide +kernel⟩, lw_t1 (List.mem_of_getElem? (i := 44) rfl), lw_t4 (List.mem_of_getElem? (i := 36) rfl), lw_t4 (List.mem_of_getElem? (i := 37) rfl)⟩
theorem lw_p18 : lw_okq (⟨"FifthCard$Reader", "keepHere", "()I"⟩, 11) := ⟨⟨by decide +kernel, by decide +kernel⟩, lw_t1 (List.mem_of_getElem? (i := 44) rfl), lw_t4 (List.mem_of_getElem? (i := 71) rfl), lw_t4 (List.mem_of_getElem? (i := 72) rfl)⟩
theorem lw_p19 : lw_okq (⟨"FifthCard$Reader", "tellHere", "()I"⟩, 11) := ⟨⟨by decide +kernel, by decide +kernel⟩, lw_t1 (List.mem_of_getElem? (i := 44) rfl), lw_t4 (List.mem_of_getElem? (i := 80) rfl), lw_t4 (List.mem_of_getElem? (i := 81) rfl)⟩
theorem lw_p20 : lw_okq (⟨"FifthCard$Reader", "evening", "()V"⟩, 11) := ⟨⟨by decide +kernel, by decide +kernel⟩, lw_t1 (List.mem_of_getElem? (i := 44) rfl), lw_t4 (List.mem_of_getElem? (i := 89) rfl), lw_t4 (List.mem_of_getElem? (i := 90) rfl)⟩
theorem lw_p21 : lw_okq (⟨"FifthCard$Reader", "numbers", "(III)I"⟩, 11) := ⟨⟨by decide +kernel, by decide +kernel⟩, lw_t1 (List.mem_of_getElem? (i := 44) rfl), lw_t4 (List.mem_of_getElem? (i := 93) rfl), lw_t4 (List.mem_of_getElem? (i := 94) rfl)⟩
theorem lw_p22 : lw_okq (⟨"FifthCard$Pairing", "someLeftOut", "(LFifthCard$Trick;I)V"⟩, 14) := ⟨⟨by decide +kernel, by decide +kernel⟩, lw_t1 (List.mem_of_getElem? (i := 160) rfl), lw_t4 (List.mem_of_getElem? (i := 136) rfl), lw_t4 (List.mem_of_getElem? (i := 137) rfl)⟩
theorem lw_p23 : lw_okq (⟨"FifthCard$Pairing", "allOrders", "(LFifthCard$Trick;I)V"⟩, 14) := ⟨⟨by decide +kernel, by decide +kernel⟩, lw_t1 (List.mem_of_getElem? (i := 160) rfl), lw_t4 (List.mem_of_getElem? (i := 145) rfl), lw_t4 (List.mem_of_getElem? (i := 146) rfl)⟩
theorem lw_p24 : lw_okq (⟨"FifthCard", "rowMany", "()I"⟩, 16) := ⟨⟨by decide +kernel, by decide +kernel⟩, lw_t1 (List.mem_of_getElem? (i := 36) rfl), lw_t4 (List.mem_of_getElem? (i := 169) rfl), lw_t4 (List.mem_of_getElem? (i := 170) rfl)⟩
theorem lw_p25 : lw_okq (⟨"FifthCard", "isHand", "(I)Z"⟩, 16) := ⟨⟨by decide +kernel, by decide +kernel⟩, lw_t1 (List.mem_of_getElem? (i := 36) rfl), lw_t4 (List.mem_of_getElem? (i := 179) rfl), lw_t4 (List.mem_of_getElem? (i := 180) rfl)⟩
theorem lw_p26 : lw_okq (⟨"FifthCard", "puts", "(II)Z"⟩, 16) := ⟨⟨by decide +kernel, by decide +kernel⟩, lw_t1 (List.mem_of_getElem? (i := 36) rfl), lw_t4 (List.mem_of_getElem? (i := 188) rfl), lw_t4 (List.mem_of_getElem? (i := 189) rfl)⟩
theorem lw_p27 : lw_okq (⟨"FifthCard", "isRow", "(I)Z"⟩, 16) := ⟨⟨by decide +kernel, by decide +kernel⟩, lw_t1 (List.mem_of_getElem? (i := 36) rfl), lw_t4 (List.mem_of_getElem? (i := 205) rfl), lw_t4 (List.mem_of_getElem? (i := 206) rfl)⟩
theorem lw_p28 : lw_okq (⟨"FifthCard", "isRule", "(I)Z"⟩, 16) := ⟨⟨by decide +kernel, by decide +kernel⟩, lw_t1 (List.mem_of_getElem? (i := 36) rfl), lw_t4 (List.mem_of_getElem? (i := 234) rfl), lw_t4 (List.mem_of_getElem? (i := 235) rfl)⟩
theorem lw_p29 : lw_okq (⟨"FifthCard", "rowOf", "(II)I"⟩, 16) := ⟨⟨by decide +kernel, by decide +kernel⟩, lw_t1 (List.mem_of_getElem? (i := 36) rfl), lw_t4 (List.mem_of_getElem? (i := 238) rfl), lw_t4 (List.mem_of_getElem? (i := 239) rfl)⟩
theorem lw_p30 : lw_okq (⟨"FifthCard", "lay", "(LFifthCard$Rule;)V"⟩, 16) := ⟨⟨by decide +kernel, by decide +kernel⟩, lw_t1 (List.mem_of_getElem? (i := 36) rfl), lw_t5 (List.mem_of_getElem? (i := 2) rfl), lw_t5 (List.mem_of_getElem? (i := 3) rfl)⟩
theorem lw_p31 : lw_okq (⟨"FifthCard$Pairing", "gives", "(II)Z"⟩, 14) := ⟨⟨by decide +kernel, by decide +kernel⟩, lw_t1 (List.mem_of_getElem? (i := 160) rfl), lw_t5 (List.mem_of_getElem? (i := 15) rfl), lw_t5 (List.mem_of_getElem? (i := 16) rfl)⟩
def lw_privs_2 : List (MethodName × Nat) := [(⟨"FifthCard$Reader", "newName", "()Ljava/lang/String;"⟩, 11), (⟨"FifthCard$Reader", "ruleOf", "(Ljava/lang/String;I)LFifthCard$Rule;"⟩, 11), (⟨"FifthCard$Reader", "keepHere", "()I"⟩, 11), (⟨"FifthCard$Reader", "tellHere", "()I"⟩, 11), (⟨"FifthCard$Reader", "evening", "()V"⟩, 11), (⟨"FifthCard$Reader", "numbers", "(III)I"⟩, 11), (⟨"FifthCard$Pairing", "someLeftOut", "(LFifthCard$Trick;I)V"⟩, 14), (⟨"FifthCard$Pairing", "allOrders", "(LFifthCard$Trick;I)V"⟩, 14), (⟨"FifthCard", "rowMany", "()I"⟩, 16), (⟨"FifthCard", "isHand", "(I)Z"⟩, 16), (⟨"FifthCard", "puts", "(II)Z"⟩, 16), (⟨"FifthCard", "isRow", "(I)Z"⟩, 16), (⟨"FifthCard", "isRule", "(I)Z"⟩, 16), (⟨"FifthCard", "rowOf", "(II)I"⟩, 16), (⟨"FifthCard", "lay", "(LFifthCard$Rule;)V"⟩, 16), (⟨"FifthCard$Pairing", "gives", "(II)Z"⟩, 14)]
theorem lw_r2 : ∀ q ∈ lw_privs_2, lw_okq q := List.forall_mem_cons.mpr ⟨lw_p16, List.forall_mem_cons.mpr ⟨lw_p17, List.forall_mem_cons.mpr ⟨lw_p18, List.forall_mem_cons.mpr ⟨lw_p19, List.forall_mem_cons.mpr ⟨lw_p20, List.forall_mem_cons.mpr ⟨lw_p21, List.forall_mem_cons.mpr ⟨lw_p22, List.forall_mem_cons.mpr ⟨lw_p23, List.forall_mem_cons.mpr ⟨lw_p24, List.forall_mem_cons.mpr ⟨lw_p25, List.forall_mem_cons.mpr ⟨lw_p26, List.forall_mem_cons.mpr ⟨lw_p27, List.forall_mem_cons.mpr ⟨lw_p28, List.forall_mem_cons.mpr ⟨lw_p29, List.forall_mem_cons.mpr ⟨lw_p30, List.forall_mem_cons.mpr ⟨lw_p31, fun _ h => absurd h List.not_mem_nil⟩⟩⟩⟩⟩⟩⟩⟩⟩⟩⟩⟩⟩⟩⟩⟩
theorem lw_p32 : lw_okq (⟨"FifthCard$Pairing", "turns", "(II)V"⟩, 14) := ⟨⟨by decide +kernel, by decide +kernel⟩, lw_t1 (List.mem_of_getElem? (i := 160) rfl), lw_t5 (List.mem_of_getElem? (i := 24) rfl), lw_t5 (List.mem_of_getElem? (i := 25) rfl)⟩
theorem lw_p33 : lw_okq (⟨"FifthCard$Pairing", "takes", "(II)Z"⟩, 14) := ⟨⟨by decide +kernel, by decide +kernel⟩, lw_t1 (List.mem_of_getElem? (i := 160) rfl), lw_t5 (List.mem_of_getElem? (i := 28) rfl), lw_t5 (List.mem_of_getElem? (i := 29) rfl)⟩
theorem lw_p34 : lw_okq (⟨"FifthCard$Suited", "laysBy", "([IIILFifthCard$Trick;)I"⟩, 6) := ⟨⟨by decide +kernel, by decide +kernel⟩, lw_t4 (List.mem_of_getElem? (i := 41) rfl), lw_t5 (List.mem_of_getElem? (i := 98) rfl), lw_t5 (List.mem_of_getElem? (i := 99) rfl)⟩
theorem lw_p35 : lw_okq (⟨"FifthCard", "doesWork", "(LFifthCard$Rule;)Z"⟩, 16) := ⟨⟨by decide +kernel, by decide +kernel⟩, lw_t1 (List.mem_of_getElem? (i := 36) rfl), lw_t5 (List.mem_of_getElem? (i := 123) rfl), lw_t5 (List.mem_of_getElem? (i := 124) rfl)⟩
theorem lw_p36 : lw_okq (⟨"FifthCard", "failsOf", "(LFifthCard$Rule;)I"⟩, 16) := ⟨⟨by decide +kernel, by decide +kernel⟩, lw_t1 (List.mem_of_getElem? (i := 36) rfl), lw_t5 (List.mem_of_getElem? (i := 127) rfl), lw_t5 (List.mem_of_getElem? (i := 128) rfl)⟩
theorem lw_p37 : lw_okq (⟨"FifthCard", "clashOf", "(LFifthCard$Rule;)I"⟩, 16) := ⟨⟨by decide +kernel, by decide +kernel⟩, lw_t1 (List.mem_of_getElem? (i := 36) rfl), lw_t5 (List.mem_of_getElem? (i := 131) rfl), lw_t5 (List.mem_of_getElem? (i := 132) rfl)⟩
theorem lw_p38 : lw_okq (⟨"FifthCard", "keepApart", "(LFifthCard$Rule;Z)Z"⟩, 16) := ⟨⟨by decide +kernel, by decide +kernel⟩, lw_t1 (List.mem_of_getElem? (i := 36) rfl), lw_t5 (List.mem_of_getElem? (i := 167) rfl), lw_t5 (List.mem_of_getElem? (i := 168) rfl)⟩
theorem lw_p39 : lw_okq (⟨"FifthCard", "changed", "(II)I"⟩, 16) := ⟨⟨by decide +kernel, by decide +kernel⟩, lw_t1 (List.mem_of_getElem? (i := 36) rfl), lw_t5 (List.mem_of_getElem? (i := 171) rfl), lw_t5 (List.mem_of_getElem? (i := 172) rfl)⟩
theorem lw_p40 : lw_okq (⟨"FifthCard", "isEvening", "(I)Z"⟩, 16) := ⟨⟨by decide +kernel, by decide +kernel⟩, lw_t1 (List.mem_of_getElem? (i := 36) rfl), lw_t5 (List.mem_of_getElem? (i := 218) rfl), lw_t5 (List.mem_of_getElem? (i := 219) rfl)⟩
theorem lw_p41 : lw_okq (⟨"FifthCard", "doesAgree", "(II)Z"⟩, 16) := ⟨⟨by decide +kernel, by decide +kernel⟩, lw_t1 (List.mem_of_getElem? (i := 36) rfl), lw_t5 (List.mem_of_getElem? (i := 230) rfl), lw_t5 (List.mem_of_getElem? (i := 231) rfl)⟩
theorem lw_p42 : lw_okq (⟨"FifthCard", "firstWrong", "(I)I"⟩, 16) := ⟨⟨by decide +kernel, by decide +kernel⟩, lw_t1 (List.mem_of_getElem? (i := 36) rfl), lw_t5 (List.mem_of_getElem? (i := 238) rfl), lw_t5 (List.mem_of_getElem? (i := 239) rfl)⟩
theorem lw_p43 : lw_okq (⟨"FifthCard", "arePair", "(II)Z"⟩, 16) := ⟨⟨by decide +kernel, by decide +kernel⟩, lw_t1 (List.mem_of_getElem? (i := 36) rfl), lw_t6 (List.mem_of_getElem? (i := 10) rfl), lw_t6 (List.mem_of_getElem? (i := 11) rfl)⟩
theorem lw_p44 : lw_okq (⟨"FifthCard", "apartOf", "(II)I"⟩, 16) := ⟨⟨by decide +kernel, by decide +kernel⟩, lw_t1 (List.mem_of_getElem? (i := 36) rfl), lw_t6 (List.mem_of_getElem? (i := 14) rfl), lw_t6 (List.mem_of_getElem? (i := 15) rfl)⟩
theorem lw_p45 : lw_okq (⟨"FifthCard", "nearest", "(I)I"⟩, 16) := ⟨⟨by decide +kernel, by decide +kernel⟩, lw_t1 (List.mem_of_getElem? (i := 36) rfl), lw_t6 (List.mem_of_getElem? (i := 29) rfl), lw_t6 (List.mem_of_getElem? (i := 30) rfl)⟩
theorem lw_p46 : lw_okq (⟨"FifthCard", "yes", "(I)Z"⟩, 16) := ⟨⟨by decide +kernel, by decide +kernel⟩, lw_t1 (List.mem_of_getElem? (i := 36) rfl), lw_t6 (List.mem_of_getElem? (i := 43) rfl), lw_t6 (List.mem_of_getElem? (i := 44) rfl)⟩
theorem lw_p47 : lw_okq (⟨"FifthCardModel", "refused", "(I)I"⟩, 46) := ⟨⟨by decide +kernel, by decide +kernel⟩, lw_t6 (List.mem_of_getElem? (i := 124) rfl), lw_t7 (List.mem_of_getElem? (i := 43) rfl), lw_t7 (List.mem_of_getElem? (i := 44) rfl)⟩
def lw_privs_3 : List (MethodName × Nat) := [(⟨"FifthCard$Pairing", "turns", "(II)V"⟩, 14), (⟨"FifthCard$Pairing", "takes", "(II)Z"⟩, 14), (⟨"FifthCard$Suited", "laysBy", "([IIILFifthCard$Trick;)I"⟩, 6), (⟨"FifthCard", "doesWork", "(LFifthCard$Rule;)Z"⟩, 16), (⟨"FifthCard", "failsOf", "(LFifthCard$Rule;)I"⟩, 16), (⟨"FifthCard", "clashOf", "(LFifthCard$Rule;)I"⟩, 16), (⟨"FifthCard", "keepApart", "(LFifthCard$Rule;Z)Z"⟩, 16), (⟨"FifthCard", "changed", "(II)I"⟩, 16), (⟨"FifthCard", "isEvening", "(I)Z"⟩, 16), (⟨"FifthCard", "doesAgree", "(II)Z"⟩, 16), (⟨"FifthCard", "firstWrong", "(I)I"⟩, 16), (⟨"FifthCard", "arePair", "(II)Z"⟩, 16), (⟨"FifthCard", "apartOf", "(II)I"⟩, 16), (⟨"FifthCard", "nearest", "(I)I"⟩, 16), (⟨"FifthCard", "yes", "(I)Z"⟩, 16), (⟨"FifthCardModel", "refused", "(I)I"⟩, 46)]
theorem lw_r3 : ∀ q ∈ lw_privs_3, lw_okq q := List.forall_mem_cons.mpr ⟨lw_p32, List.forall_mem_cons.mpr ⟨lw_p33, List.forall_mem_cons.mpr ⟨lw_p34, List.forall_mem_cons.mpr ⟨lw_p35, List.forall_mem_cons.mpr ⟨lw_p36, List.forall_mem_cons.mpr ⟨lw_p37, List.forall_mem_cons.mpr ⟨lw_p38, List.forall_mem_cons.mpr ⟨lw_p39, List.forall_mem_cons.mpr ⟨lw_p40, List.forall_mem_cons.mpr ⟨lw_p41, List.forall_mem_cons.mpr ⟨lw_p42, List.forall_mem_cons.mpr ⟨lw_p43, List.forall_mem_cons.mpr ⟨lw_p44, List.forall_mem_cons.mpr ⟨lw_p45, List.forall_mem_cons.mpr ⟨lw_p46, List.forall_mem_cons.mpr ⟨lw_p47, fun _ h => absurd h List.not_mem_nil⟩⟩⟩⟩⟩⟩⟩⟩⟩⟩⟩⟩⟩⟩⟩⟩
theorem lw_p48 : lw_okq (⟨"FifthCardModel", "goesOn", "()V"⟩, 46) := ⟨⟨by decide +kernel, by decide +kernel⟩, lw_t6 (List.mem_of_getElem? (i := 124) rfl), lw_t7 (List.mem_of_getElem? (i := 109) rfl), lw_t7 (List.mem_of_getElem? (i := 110) rfl)⟩
theorem lw_p49 : lw_okq (⟨"FifthCardModel", "byteAt", "(I)I"⟩, 46) := ⟨⟨by decide +kernel, by decide +kernel⟩, lw_t6 (List.mem_of_getElem? (i := 124) rfl), lw_t7 (List.mem_of_getElem? (i := 113) rfl), lw_t7 (List.mem_of_getElem? (i := 114) rfl)⟩
theorem lw_p50 : lw_okq (⟨"FifthCardModel", "readAll", "()V"⟩, 46) := ⟨⟨by decide +kernel, by decide +kernel⟩, lw_t6 (List.mem_of_getElem? (i := 124) rfl), lw_t7 (List.mem_of_getElem? (i := 124) rfl), lw_t7 (List.mem_of_getElem? (i := 125) rfl)⟩
theorem lw_p51 : lw_okq (⟨"FifthCardModel", "readLine", "()V"⟩, 46) := ⟨⟨by decide +kernel, by decide +kernel⟩, lw_t6 (List.mem_of_getElem? (i := 124) rfl), lw_t7 (List.mem_of_getElem? (i := 128) rfl), lw_t7 (List.mem_of_getElem? (i := 129) rfl)⟩
theorem lw_p52 : lw_okq (⟨"FifthCardModel", "isWord", "(Ljava/lang/String;)Z"⟩, 46) := ⟨⟨by decide +kernel, by decide +kernel⟩, lw_t6 (List.mem_of_getElem? (i := 124) rfl), lw_t7 (List.mem_of_getElem? (i := 133) rfl), lw_t7 (List.mem_of_getElem? (i := 134) rfl)⟩
theorem lw_p53 : lw_okq (⟨"FifthCardModel", "readTrick", "()V"⟩, 46) := ⟨⟨by decide +kernel, by decide +kernel⟩, lw_t6 (List.mem_of_getElem? (i := 124) rfl), lw_t7 (List.mem_of_getElem? (i := 168) rfl), lw_t7 (List.mem_of_getElem? (i := 169) rfl)⟩
theorem lw_p54 : lw_okq (⟨"FifthCardModel", "flaw", "(I)V"⟩, 46) := ⟨⟨by decide +kernel, by decide +kernel⟩, lw_t6 (List.mem_of_getElem? (i := 124) rfl), lw_t7 (List.mem_of_getElem? (i := 172) rfl), lw_t7 (List.mem_of_getElem? (i := 173) rfl)⟩
theorem lw_p55 : lw_okq (⟨"FifthCardModel", "readPart", "(Ljava/lang/String;II)I"⟩, 46) := ⟨⟨by decide +kernel, by decide +kernel⟩, lw_t6 (List.mem_of_getElem? (i := 124) rfl), lw_t7 (List.mem_of_getElem? (i := 177) rfl), lw_t7 (List.mem_of_getElem? (i := 178) rfl)⟩
theorem lw_p56 : lw_okq (⟨"FifthCardModel", "needs", "(Ljava/lang/String;)V"⟩, 46) := ⟨⟨by decide +kernel, by decide +kernel⟩, lw_t6 (List.mem_of_getElem? (i := 124) rfl), lw_t7 (List.mem_of_getElem? (i := 181) rfl), lw_t7 (List.mem_of_getElem? (i := 182) rfl)⟩
theorem lw_p57 : lw_okq (⟨"FifthCardModel", "bounded", "(II)I"⟩, 46) := ⟨⟨by decide +kernel, by decide +kernel⟩, lw_t6 (List.mem_of_getElem? (i := 124) rfl), lw_t7 (List.mem_of_getElem? (i := 185) rfl), lw_t7 (List.mem_of_getElem? (i := 186) rfl)⟩
theorem lw_p58 : lw_okq (⟨"FifthCardModel", "eatsWord", "(Ljava/lang/String;)Z"⟩, 46) := ⟨⟨by decide +kernel, by decide +kernel⟩, lw_t6 (List.mem_of_getElem? (i := 124) rfl), lw_t7 (List.mem_of_getElem? (i := 210) rfl), lw_t7 (List.mem_of_getElem? (i := 211) rfl)⟩
theorem lw_p59 : lw_okq (⟨"FifthCardModel", "readRule", "()V"⟩, 46) := ⟨⟨by decide +kernel, by decide +kernel⟩, lw_t6 (List.mem_of_getElem? (i := 124) rfl), lw_t7 (List.mem_of_getElem? (i := 216) rfl), lw_t7 (List.mem_of_getElem? (i := 217) rfl)⟩
theorem lw_p60 : lw_okq (⟨"FifthCardModel", "begins", "(II)V"⟩, 46) := ⟨⟨by decide +kernel, by decide +kernel⟩, lw_t6 (List.mem_of_getElem? (i := 124) rfl), lw_t7 (List.mem_of_getElem? (i := 220) rfl), lw_t7 (List.mem_of_getElem? (i := 221) rfl)⟩
theorem lw_p61 : lw_okq (⟨"FifthCardModel", "isName", "()Z"⟩, 46) := ⟨⟨by decide +kernel, by decide +kernel⟩, lw_t6 (List.mem_of_getElem? (i := 124) rfl), lw_t7 (List.mem_of_getElem? (i := 224) rfl), lw_t7 (List.mem_of_getElem? (i := 225) rfl)⟩
theorem lw_p62 : lw_okq (⟨"FifthCardModel", "readWords", "()I"⟩, 46) := ⟨⟨by decide +kernel, by decide +kernel⟩, lw_t6 (List.mem_of_getElem? (i := 124) rfl), lw_t7 (List.mem_of_getElem? (i := 234) rfl), lw_t7 (List.mem_of_getElem? (i := 235) rfl)⟩
theorem lw_p63 : lw_okq (⟨"FifthCardModel", "readEvening", "()V"⟩, 46) := ⟨⟨by decide +kernel, by decide +kernel⟩, lw_t6 (List.mem_of_getElem? (i := 124) rfl), lw_t8 (List.mem_of_getElem? (i := 7) rfl), lw_t8 (List.mem_of_getElem? (i := 8) rfl)⟩
def lw_privs_4 : List (MethodName × Nat) := [(⟨"FifthCardModel", "goesOn", "()V"⟩, 46), (⟨"FifthCardModel", "byteAt", "(I)I"⟩, 46), (⟨"FifthCardModel", "readAll", "()V"⟩, 46), (⟨"FifthCardModel", "readLine", "()V"⟩, 46), (⟨"FifthCardModel", "isWord", "(Ljava/lang/String;)Z"⟩, 46), (⟨"FifthCardModel", "readTrick", "()V"⟩, 46), (⟨"FifthCardModel", "flaw", "(I)V"⟩, 46), (⟨"FifthCardModel", "readPart", "(Ljava/lang/String;II)I"⟩, 46), (⟨"FifthCardModel", "needs", "(Ljava/lang/String;)V"⟩, 46), (⟨"FifthCardModel", "bounded", "(II)I"⟩, 46), (⟨"FifthCardModel", "eatsWord", "(Ljava/lang/String;)Z"⟩, 46), (⟨"FifthCardModel", "readRule", "()V"⟩, 46), (⟨"FifthCardModel", "begins", "(II)V"⟩, 46), (⟨"FifthCardModel", "isName", "()Z"⟩, 46), (⟨"FifthCardModel", "readWords", "()I"⟩, 46), (⟨"FifthCardModel", "readEvening", "()V"⟩, 46)]
theorem lw_r4 : ∀ q ∈ lw_privs_4, lw_okq q := List.forall_mem_cons.mpr ⟨lw_p48, List.forall_mem_cons.mpr ⟨lw_p49, List.forall_mem_cons.mpr ⟨lw_p50, List.forall_mem_cons.mpr ⟨lw_p51, List.forall_mem_cons.mpr ⟨lw_p52, List.forall_mem_cons.mpr ⟨lw_p53, List.forall_mem_cons.mpr ⟨lw_p54, List.forall_mem_cons.mpr ⟨lw_p55, List.forall_mem_cons.mpr ⟨lw_p56, List.forall_mem_cons.mpr ⟨lw_p57, List.forall_mem_cons.mpr ⟨lw_p58, List.forall_mem_cons.mpr ⟨lw_p59, List.forall_mem_cons.mpr ⟨lw_p60, List.forall_mem_cons.mpr ⟨lw_p61, List.forall_mem_cons.mpr ⟨lw_p62, List.forall_mem_cons.mpr ⟨lw_p63, fun _ h => absurd h List.not_mem_nil⟩⟩⟩⟩⟩⟩⟩⟩⟩⟩⟩⟩⟩⟩⟩⟩
theorem lw_p64 : lw_okq (⟨"FifthCardModel", "readUnlike", "([IIII)V"⟩, 46) := ⟨⟨by decide +kernel, by decide +kernel⟩, lw_t6 (List.mem_of_getElem? (i := 124) rfl), lw_t8 (List.mem_of_getElem? (i := 11) rfl), lw_t8 (List.mem_of_getElem? (i := 12) rfl)⟩
theorem lw_p65 : lw_okq (⟨"FifthCardModel", "needsSign", "(I)V"⟩, 46) := ⟨⟨by decide +kernel, by decide +kernel⟩, lw_t6 (List.mem_of_getElem? (i := 124) rfl), lw_t8 (List.mem_of_getElem? (i := 15) rfl), lw_t8 (List.mem_of_getElem? (i := 16) rfl)⟩
theorem lw_p66 : lw_okq (⟨"FifthCardModel", "readPlaces", "()I"⟩, 46) := ⟨⟨by decide +kernel, by decide +kernel⟩, lw_t6 (List.mem_of_getElem? (i := 124) rfl), lw_t8 (List.mem_of_getElem? (i := 19) rfl), lw_t8 (List.mem_of_getElem? (i := 20) rfl)⟩
theorem lw_p67 : lw_okq (⟨"FifthCardModel", "eatsSign", "(I)Z"⟩, 46) := ⟨⟨by decide +kernel, by decide +kernel⟩, lw_t6 (List.mem_of_getElem? (i := 124) rfl), lw_t8 (List.mem_of_getElem? (i := 23) rfl), lw_t8 (List.mem_of_getElem? (i := 24) rfl)⟩
theorem lw_p68 : lw_okq (⟨"FifthCardModel", "deals", "()V"⟩, 46) := ⟨⟨by decide +kernel, by decide +kernel⟩, lw_t6 (List.mem_of_getElem? (i := 124) rfl), lw_t8 (List.mem_of_getElem? (i := 27) rfl), lw_t8 (List.mem_of_getElem? (i := 28) rfl)⟩
theorem lw_p69 : lw_okq (⟨"FifthCardModel", "next", "(I)I"⟩, 46) := ⟨⟨by decide +kernel, by decide +kernel⟩, lw_t6 (List.mem_of_getElem? (i := 124) rfl), lw_t8 (List.mem_of_getElem? (i := 31) rfl), lw_t8 (List.mem_of_getElem? (i := 32) rfl)⟩
theorem lw_p70 : lw_okq (⟨"FifthCardModel", "isPicked", "(II)Z"⟩, 46) := ⟨⟨by decide +kernel, by decide +kernel⟩, lw_t6 (List.mem_of_getElem? (i := 124) rfl), lw_t8 (List.mem_of_getElem? (i := 35) rfl), lw_t8 (List.mem_of_getElem? (i := 36) rfl)⟩
theorem lw_p71 : lw_okq (⟨"FifthCardModel", "laysCodes", "()V"⟩, 46) := ⟨⟨by decide +kernel, by decide +kernel⟩, lw_t6 (List.mem_of_getElem? (i := 124) rfl), lw_t8 (List.mem_of_getElem? (i := 39) rfl), lw_t8 (List.mem_of_getElem? (i := 40) rfl)⟩
theorem lw_p72 : lw_okq (⟨"FifthCardModel", "isOneOrder", "()Z"⟩, 46) := ⟨⟨by decide +kernel, by decide +kernel⟩, lw_t6 (List.mem_of_getElem? (i := 124) rfl), lw_t8 (List.mem_of_getElem? (i := 43) rfl), lw_t8 (List.mem_of_getElem? (i := 44) rfl)⟩
theorem lw_p73 : lw_okq (⟨"FifthCardModel", "handNumber", "([II)I"⟩, 46) := ⟨⟨by decide +kernel, by decide +kernel⟩, lw_t6 (List.mem_of_getElem? (i := 124) rfl), lw_t8 (List.mem_of_getElem? (i := 47) rfl), lw_t8 (List.mem_of_getElem? (i := 48) rfl)⟩
theorem lw_p74 : lw_okq (⟨"FifthCardModel", "cardOf", "(II)I"⟩, 46) := ⟨⟨by decide +kernel, by decide +kernel⟩, lw_t6 (List.mem_of_getElem? (i := 124) rfl), lw_t8 (List.mem_of_getElem? (i := 51) rfl), lw_t8 (List.mem_of_getElem? (i := 52) rfl)⟩
theorem lw_p75 : lw_okq (⟨"FifthCardModel", "has", "(II)Z"⟩, 46) := ⟨⟨by decide +kernel, by decide +kernel⟩, lw_t6 (List.mem_of_getElem? (i := 124) rfl), lw_t8 (List.mem_of_getElem? (i := 55) rfl), lw_t8 (List.mem_of_getElem? (i := 56) rfl)⟩
theorem lw_p76 : lw_okq (⟨"FifthCardModel", "rowNumber", "([II)I"⟩, 46) := ⟨⟨by decide +kernel, by decide +kernel⟩, lw_t6 (List.mem_of_getElem? (i := 124) rfl), lw_t8 (List.mem_of_getElem? (i := 59) rfl), lw_t8 (List.mem_of_getElem? (i := 60) rfl)⟩
theorem lw_p77 : lw_okq (⟨"FifthCardModel", "good", "(I)I"⟩, 46) := ⟨⟨by decide +kernel, by decide +kernel⟩, lw_t6 (List.mem_of_getElem? (i := 124) rfl), lw_t8 (List.mem_of_getElem? (i := 67) rfl), lw_t8 (List.mem_of_getElem? (i := 68) rfl)⟩
theorem lw_p78 : lw_okq (⟨"FifthCardModel", "rowMany", "()I"⟩, 46) := ⟨⟨by decide +kernel, by decide +kernel⟩, lw_t6 (List.mem_of_getElem? (i := 124) rfl), lw_t8 (List.mem_of_getElem? (i := 87) rfl), lw_t8 (List.mem_of_getElem? (i := 88) rfl)⟩
theorem lw_p79 : lw_okq (⟨"FifthCardModel", "isHand", "(I)Z"⟩, 46) := ⟨⟨by decide +kernel, by decide +kernel⟩, lw_t6 (List.mem_of_getElem? (i := 124) rfl), lw_t8 (List.mem_of_getElem? (i := 95) rfl), lw_t8 (List.mem_of_getElem? (i := 96) rfl)⟩
def lw_privs_5 : List (MethodName × Nat) := [(⟨"FifthCardModel", "readUnlike", "([IIII)V"⟩, 46), (⟨"FifthCardModel", "needsSign", "(I)V"⟩, 46), (⟨"FifthCardModel", "readPlaces", "()I"⟩, 46), (⟨"FifthCardModel", "eatsSign", "(I)Z"⟩, 46), (⟨"FifthCardModel", "deals", "()V"⟩, 46), (⟨"FifthCardModel", "next", "(I)I"⟩, 46), (⟨"FifthCardModel", "isPicked", "(II)Z"⟩, 46), (⟨"FifthCardModel", "laysCodes", "()V"⟩, 46), (⟨"FifthCardModel", "isOneOrder", "()Z"⟩, 46), (⟨"FifthCardModel", "handNumber", "([II)I"⟩, 46), (⟨"FifthCardModel", "cardOf", "(II)I"⟩, 46), (⟨"FifthCardModel", "has", "(II)Z"⟩, 46), (⟨"FifthCardModel", "rowNumber", "([II)I"⟩, 46), (⟨"FifthCardModel", "good", "(I)I"⟩, 46), (⟨"FifthCardModel", "rowMany", "()I"⟩, 46), (⟨"FifthCardModel", "isHand", "(I)Z"⟩, 46)]
theorem lw_r5 : ∀ q ∈ lw_privs_5, lw_okq q := List.forall_mem_cons.mpr ⟨lw_p64, List.forall_mem_cons.mpr ⟨lw_p65, List.forall_mem_cons.mpr ⟨lw_p66, List.forall_mem_cons.mpr ⟨lw_p67, List.forall_mem_cons.mpr ⟨lw_p68, List.forall_mem_cons.mpr ⟨lw_p69, List.forall_mem_cons.mpr ⟨lw_p70, List.forall_mem_cons.mpr ⟨lw_p71, List.forall_mem_cons.mpr ⟨lw_p72, List.forall_mem_cons.mpr ⟨lw_p73, List.forall_mem_cons.mpr ⟨lw_p74, List.forall_mem_cons.mpr ⟨lw_p75, List.forall_mem_cons.mpr ⟨lw_p76, List.forall_mem_cons.mpr ⟨lw_p77, List.forall_mem_cons.mpr ⟨lw_p78, List.forall_mem_cons.mpr ⟨lw_p79, fun _ h => absurd h List.not_mem_nil⟩⟩⟩⟩⟩⟩⟩⟩⟩⟩⟩⟩⟩⟩⟩⟩
theorem lw_p80 : lw_okq (⟨"FifthCardModel", "isRow", "(I)Z"⟩, 46) := ⟨⟨by decide +kernel, by decide +kernel⟩, lw_t6 (List.mem_of_getElem? (i := 124) rfl), lw_t8 (List.mem_of_getElem? (i := 107) rfl), lw_t8 (List.mem_of_getElem? (i := 108) rfl)⟩
theorem lw_p81 : lw_okq (⟨"FifthCardModel", "rowCards", "(I[I)V"⟩, 46) := ⟨⟨by decide +kernel, by decide +kernel⟩, lw_t6 (List.mem_of_getElem? (i := 124) rfl), lw_t8 (List.mem_of_getElem? (i := 111) rfl), lw_t8 (List.mem_of_getElem? (i := 112) rfl)⟩
theorem lw_p82 : lw_okq (⟨"FifthCardModel", "rowFits", "(II)Z"⟩, 46) := ⟨⟨by decide +kernel, by decide +kernel⟩, lw_t6 (List.mem_of_getElem? (i := 124) rfl), lw_t8 (List.mem_of_getElem? (i := 123) rfl), lw_t8 (List.mem_of_getElem? (i := 124) rfl)⟩
theorem lw_p83 : lw_okq (⟨"FifthCardModel", "fittingMany", "()I"⟩, 46) := ⟨⟨by decide +kernel, by decide +kernel⟩, lw_t6 (List.mem_of_getElem? (i := 124) rfl), lw_t8 (List.mem_of_getElem? (i := 131) rfl), lw_t8 (List.mem_of_getElem? (i := 132) rfl)⟩
theorem lw_p84 : lw_okq (⟨"FifthCardModel", "isRule", "(I)Z"⟩, 46) := ⟨⟨by decide +kernel, by decide +kernel⟩, lw_t6 (List.mem_of_getElem? (i := 124) rfl), lw_t8 (List.mem_of_getElem? (i := 140) rfl), lw_t8 (List.mem_of_getElem? (i := 141) rfl)⟩
theorem lw_p85 : lw_okq (⟨"FifthCardModel", "laysNow", "(II)I"⟩, 46) := ⟨⟨by decide +kernel, by decide +kernel⟩, lw_t6 (List.mem_of_getElem? (i := 124) rfl), lw_t8 (List.mem_of_getElem? (i := 144) rfl), lw_t8 (List.mem_of_getElem? (i := 145) rfl)⟩
theorem lw_p86 : lw_okq (⟨"FifthCardModel", "laysSuit", "(I)I"⟩, 46) := ⟨⟨by decide +kernel, by decide +kernel⟩, lw_t6 (List.mem_of_getElem? (i := 124) rfl), lw_t8 (List.mem_of_getElem? (i := 148) rfl), lw_t8 (List.mem_of_getElem? (i := 149) rfl)⟩
theorem lw_p87 : lw_okq (⟨"FifthCardModel", "orders", "(II)V"⟩, 46) := ⟨⟨by decide +kernel, by decide +kernel⟩, lw_t6 (List.mem_of_getElem? (i := 124) rfl), lw_t8 (List.mem_of_getElem? (i := 152) rfl), lw_t8 (List.mem_of_getElem? (i := 153) rfl)⟩
theorem lw_p88 : lw_okq (⟨"FifthCardModel", "laysWords", "(II)I"⟩, 46) := ⟨⟨by decide +kernel, by decide +kernel⟩, lw_t6 (List.mem_of_getElem? (i := 124) rfl), lw_t8 (List.mem_of_getElem? (i := 156) rfl), lw_t8 (List.mem_of_getElem? (i := 157) rfl)⟩
theorem lw_p89 : lw_okq (⟨"FifthCardModel", "sorts", "(I)V"⟩, 46) := ⟨⟨by decide +kernel, by decide +kernel⟩, lw_t6 (List.mem_of_getElem? (i := 124) rfl), lw_t8 (List.mem_of_getElem? (i := 160) rfl), lw_t8 (List.mem_of_getElem? (i := 161) rfl)⟩
theorem lw_p90 : lw_okq (⟨"FifthCardModel", "keepsAt", "(I)I"⟩, 46) := ⟨⟨by decide +kernel, by decide +kernel⟩, lw_t6 (List.mem_of_getElem? (i := 124) rfl), lw_t8 (List.mem_of_getElem? (i := 164) rfl), lw_t8 (List.mem_of_getElem? (i := 165) rfl)⟩
theorem lw_p91 : lw_okq (⟨"FifthCardModel", "tells", "(IIII)I"⟩, 46) := ⟨⟨by decide +kernel, by decide +kernel⟩, lw_t6 (List.mem_of_getElem? (i := 124) rfl), lw_t8 (List.mem_of_getElem? (i := 168) rfl), lw_t8 (List.mem_of_getElem? (i := 169) rfl)⟩
theorem lw_p92 : lw_okq (⟨"FifthCardModel", "knowsTable", "()V"⟩, 46) := ⟨⟨by decide +kernel, by decide +kernel⟩, lw_t6 (List.mem_of_getElem? (i := 124) rfl), lw_t8 (List.mem_of_getElem? (i := 172) rfl), lw_t8 (List.mem_of_getElem? (i := 173) rfl)⟩
theorem lw_p93 : lw_okq (⟨"FifthCardModel", "pairsNow", "()I"⟩, 46) := ⟨⟨by decide +kernel, by decide +kernel⟩, lw_t6 (List.mem_of_getElem? (i := 124) rfl), lw_t8 (List.mem_of_getElem? (i := 176) rfl), lw_t8 (List.mem_of_getElem? (i := 177) rfl)⟩
theorem lw_p94 : lw_okq (⟨"FifthCardModel", "clearOwners", "()V"⟩, 46) := ⟨⟨by decide +kernel, by decide +kernel⟩, lw_t6 (List.mem_of_getElem? (i := 124) rfl), lw_t8 (List.mem_of_getElem? (i := 180) rfl), lw_t8 (List.mem_of_getElem? (i := 181) rfl)⟩
theorem lw_p95 : lw_okq (⟨"FifthCardModel", "goesOnFrom", "(III)Z"⟩, 46) := ⟨⟨by decide +kernel, by decide +kernel⟩, lw_t6 (List.mem_of_getElem? (i := 124) rfl), lw_t8 (List.mem_of_getElem? (i := 184) rfl), lw_t8 (List.mem_of_getElem? (i := 185) rfl)⟩
def lw_privs_6 : List (MethodName × Nat) := [(⟨"FifthCardModel", "isRow", "(I)Z"⟩, 46), (⟨"FifthCardModel", "rowCards", "(I[I)V"⟩, 46), (⟨"FifthCardModel", "rowFits", "(II)Z"⟩, 46), (⟨"FifthCardModel", "fittingMany", "()I"⟩, 46), (⟨"FifthCardModel", "isRule", "(I)Z"⟩, 46), (⟨"FifthCardModel", "laysNow", "(II)I"⟩, 46), (⟨"FifthCardModel", "laysSuit", "(I)I"⟩, 46), (⟨"FifthCardModel", "orders", "(II)V"⟩, 46), (⟨"FifthCardModel", "laysWords", "(II)I"⟩, 46), (⟨"FifthCardModel", "sorts", "(I)V"⟩, 46), (⟨"FifthCardModel", "keepsAt", "(I)I"⟩, 46), (⟨"FifthCardModel", "tells", "(IIII)I"⟩, 46), (⟨"FifthCardModel", "knowsTable", "()V"⟩, 46), (⟨"FifthCardModel", "pairsNow", "()I"⟩, 46), (⟨"FifthCardModel", "clearOwners", "()V"⟩, 46), (⟨"FifthCardModel", "goesOnFrom", "(III)Z"⟩, 46)]
theorem lw_r6 : ∀ q ∈ lw_privs_6, lw_okq q := List.forall_mem_cons.mpr ⟨lw_p80, List.forall_mem_cons.mpr ⟨lw_p81, List.forall_mem_cons.mpr ⟨lw_p82, List.forall_mem_cons.mpr ⟨lw_p83, List.forall_mem_cons.mpr ⟨lw_p84, List.forall_mem_cons.mpr ⟨lw_p85, List.forall_mem_cons.mpr ⟨lw_p86, List.forall_mem_cons.mpr ⟨lw_p87, List.forall_mem_cons.mpr ⟨lw_p88, List.forall_mem_cons.mpr ⟨lw_p89, List.forall_mem_cons.mpr ⟨lw_p90, List.forall_mem_cons.mpr ⟨lw_p91, List.forall_mem_cons.mpr ⟨lw_p92, List.forall_mem_cons.mpr ⟨lw_p93, List.forall_mem_cons.mpr ⟨lw_p94, List.forall_mem_cons.mpr ⟨lw_p95, fun _ h => absurd h List.not_mem_nil⟩⟩⟩⟩⟩⟩⟩⟩⟩⟩⟩⟩⟩⟩⟩⟩
theorem lw_p96 : lw_okq (⟨"FifthCardModel", "fitsOf", "(I)V"⟩, 46) := ⟨⟨by decide +kernel, by decide +kernel⟩, lw_t6 (List.mem_of_getElem? (i := 124) rfl), lw_t8 (List.mem_of_getElem? (i := 188) rfl), lw_t8 (List.mem_of_getElem? (i := 189) rfl)⟩
theorem lw_p97 : lw_okq (⟨"FifthCardModel", "puts", "(I)V"⟩, 46) := ⟨⟨by decide +kernel, by decide +kernel⟩, lw_t6 (List.mem_of_getElem? (i := 124) rfl), lw_t8 (List.mem_of_getElem? (i := 192) rfl), lw_t8 (List.mem_of_getElem? (i := 193) rfl)⟩
theorem lw_p98 : lw_okq (⟨"FifthCardModel", "ownerOf", "(I)I"⟩, 46) := ⟨⟨by decide +kernel, by decide +kernel⟩, lw_t6 (List.mem_of_getElem? (i := 124) rfl), lw_t8 (List.mem_of_getElem? (i := 196) rfl), lw_t8 (List.mem_of_getElem? (i := 197) rfl)⟩
theorem lw_p99 : lw_okq (⟨"FifthCardModel", "slot", "(I)I"⟩, 46) := ⟨⟨by decide +kernel, by decide +kernel⟩, lw_t6 (List.mem_of_getElem? (i := 124) rfl), lw_t8 (List.mem_of_getElem? (i := 200) rfl), lw_t8 (List.mem_of_getElem? (i := 201) rfl)⟩
theorem lw_p100 : lw_okq (⟨"FifthCardModel", "takes", "(II)V"⟩, 46) := ⟨⟨by decide +kernel, by decide +kernel⟩, lw_t6 (List.mem_of_getElem? (i := 124) rfl), lw_t8 (List.mem_of_getElem? (i := 205) rfl), lw_t8 (List.mem_of_getElem? (i := 206) rfl)⟩
theorem lw_p101 : lw_okq (⟨"FifthCardModel", "owns", "(II)V"⟩, 46) := ⟨⟨by decide +kernel, by decide +kernel⟩, lw_t6 (List.mem_of_getElem? (i := 124) rfl), lw_t8 (List.mem_of_getElem? (i := 209) rfl), lw_t8 (List.mem_of_getElem? (i := 210) rfl)⟩
theorem lw_p102 : lw_okq (⟨"FifthCardModel", "settles", "(II)Z"⟩, 46) := ⟨⟨by decide +kernel, by decide +kernel⟩, lw_t6 (List.mem_of_getElem? (i := 124) rfl), lw_t8 (List.mem_of_getElem? (i := 213) rfl), lw_t8 (List.mem_of_getElem? (i := 214) rfl)⟩
theorem lw_p103 : lw_okq (⟨"FifthCardModel", "laysAll", "(I)V"⟩, 46) := ⟨⟨by decide +kernel, by decide +kernel⟩, lw_t6 (List.mem_of_getElem? (i := 124) rfl), lw_t8 (List.mem_of_getElem? (i := 225) rfl), lw_t8 (List.mem_of_getElem? (i := 226) rfl)⟩
theorem lw_p104 : lw_okq (⟨"FifthCardModel", "firstWith", "(I)I"⟩, 46) := ⟨⟨by decide +kernel, by decide +kernel⟩, lw_t6 (List.mem_of_getElem? (i := 124) rfl), lw_t8 (List.mem_of_getElem? (i := 229) rfl), lw_t8 (List.mem_of_getElem? (i := 230) rfl)⟩
theorem lw_p105 : lw_okq (⟨"FifthCardModel", "isWorking", "()Z"⟩, 46) := ⟨⟨by decide +kernel, by decide +kernel⟩, lw_t6 (List.mem_of_getElem? (i := 124) rfl), lw_t8 (List.mem_of_getElem? (i := 237) rfl), lw_t8 (List.mem_of_getElem? (i := 238) rfl)⟩
theorem lw_p106 : lw_okq (⟨"FifthCardModel", "clashNow", "()I"⟩, 46) := ⟨⟨by decide +kernel, by decide +kernel⟩, lw_t6 (List.mem_of_getElem? (i := 124) rfl), lw_t9 (List.mem_of_getElem? (i := 1) rfl), lw_t9 (List.mem_of_getElem? (i := 2) rfl)⟩
theorem lw_p107 : lw_okq (⟨"FifthCardModel", "ownsLaid", "()V"⟩, 46) := ⟨⟨by decide +kernel, by decide +kernel⟩, lw_t6 (List.mem_of_getElem? (i := 124) rfl), lw_t9 (List.mem_of_getElem? (i := 21) rfl), lw_t9 (List.mem_of_getElem? (i := 22) rfl)⟩
theorem lw_p108 : lw_okq (⟨"FifthCardModel", "isSeen", "()Z"⟩, 46) := ⟨⟨by decide +kernel, by decide +kernel⟩, lw_t6 (List.mem_of_getElem? (i := 124) rfl), lw_t9 (List.mem_of_getElem? (i := 25) rfl), lw_t9 (List.mem_of_getElem? (i := 26) rfl)⟩
theorem lw_p109 : lw_okq (⟨"FifthCardModel", "becomes", "(II)I"⟩, 46) := ⟨⟨by decide +kernel, by decide +kernel⟩, lw_t6 (List.mem_of_getElem? (i := 124) rfl), lw_t9 (List.mem_of_getElem? (i := 29) rfl), lw_t9 (List.mem_of_getElem? (i := 30) rfl)⟩
theorem lw_p110 : lw_okq (⟨"FifthCardModel", "isOwned", "(I)Z"⟩, 46) := ⟨⟨by decide +kernel, by decide +kernel⟩, lw_t6 (List.mem_of_getElem? (i := 124) rfl), lw_t9 (List.mem_of_getElem? (i := 33) rfl), lw_t9 (List.mem_of_getElem? (i := 34) rfl)⟩
theorem lw_p111 : lw_okq (⟨"FifthCardModel", "isBorne", "()Z"⟩, 46) := ⟨⟨by decide +kernel, by decide +kernel⟩, lw_t6 (List.mem_of_getElem? (i := 124) rfl), lw_t9 (List.mem_of_getElem? (i := 41) rfl), lw_t9 (List.mem_of_getElem? (i := 42) rfl)⟩
def lw_privs_7 : List (MethodName × Nat) := [(⟨"FifthCardModel", "fitsOf", "(I)V"⟩, 46), (⟨"FifthCardModel", "puts", "(I)V"⟩, 46), (⟨"FifthCardModel", "ownerOf", "(I)I"⟩, 46), (⟨"FifthCardModel", "slot", "(I)I"⟩, 46), (⟨"FifthCardModel", "takes", "(II)V"⟩, 46), (⟨"FifthCardModel", "owns", "(II)V"⟩, 46), (⟨"FifthCardModel", "settles", "(II)Z"⟩, 46), (⟨"FifthCardModel", "laysAll", "(I)V"⟩, 46), (⟨"FifthCardModel", "firstWith", "(I)I"⟩, 46), (⟨"FifthCardModel", "isWorking", "()Z"⟩, 46), (⟨"FifthCardModel", "clashNow", "()I"⟩, 46), (⟨"FifthCardModel", "ownsLaid", "()V"⟩, 46), (⟨"FifthCardModel", "isSeen", "()Z"⟩, 46), (⟨"FifthCardModel", "becomes", "(II)I"⟩, 46), (⟨"FifthCardModel", "isOwned", "(I)Z"⟩, 46), (⟨"FifthCardModel", "isBorne", "()Z"⟩, 46)]
theorem lw_r7 : ∀ q ∈ lw_privs_7, lw_okq q := List.forall_mem_cons.mpr ⟨lw_p96, List.forall_mem_cons.mpr ⟨lw_p97, List.forall_mem_cons.mpr ⟨lw_p98, List.forall_mem_cons.mpr ⟨lw_p99, List.forall_mem_cons.mpr ⟨lw_p100, List.forall_mem_cons.mpr ⟨lw_p101, List.forall_mem_cons.mpr ⟨lw_p102, List.forall_mem_cons.mpr ⟨lw_p103, List.forall_mem_cons.mpr ⟨lw_p104, List.forall_mem_cons.mpr ⟨lw_p105, List.forall_mem_cons.mpr ⟨lw_p106, List.forall_mem_cons.mpr ⟨lw_p107, List.forall_mem_cons.mpr ⟨lw_p108, List.forall_mem_cons.mpr ⟨lw_p109, List.forall_mem_cons.mpr ⟨lw_p110, List.forall_mem_cons.mpr ⟨lw_p111, fun _ h => absurd h List.not_mem_nil⟩⟩⟩⟩⟩⟩⟩⟩⟩⟩⟩⟩⟩⟩⟩⟩
theorem lw_p112 : lw_okq (⟨"FifthCardModel", "laysAllWords", "(I)V"⟩, 46) := ⟨⟨by decide +kernel, by decide +kernel⟩, lw_t6 (List.mem_of_getElem? (i := 124) rfl), lw_t9 (List.mem_of_getElem? (i := 49) rfl), lw_t9 (List.mem_of_getElem? (i := 50) rfl)⟩
theorem lw_p113 : lw_okq (⟨"FifthCardModel", "countOf", "(IZ)J"⟩, 46) := ⟨⟨by decide +kernel, by decide +kernel⟩, lw_t6 (List.mem_of_getElem? (i := 124) rfl), lw_t9 (List.mem_of_getElem? (i := 69) rfl), lw_t9 (List.mem_of_getElem? (i := 70) rfl)⟩
theorem lw_p114 : lw_okq (⟨"FifthCardModel", "isEvening", "(I)Z"⟩, 46) := ⟨⟨by decide +kernel, by decide +kernel⟩, lw_t6 (List.mem_of_getElem? (i := 124) rfl), lw_t9 (List.mem_of_getElem? (i := 81) rfl), lw_t9 (List.mem_of_getElem? (i := 82) rfl)⟩
theorem lw_p115 : lw_okq (⟨"FifthCardModel", "agreesWith", "(II)Z"⟩, 46) := ⟨⟨by decide +kernel, by decide +kernel⟩, lw_t6 (List.mem_of_getElem? (i := 124) rfl), lw_t9 (List.mem_of_getElem? (i := 93) rfl), lw_t9 (List.mem_of_getElem? (i := 94) rfl)⟩
theorem lw_p116 : lw_okq (⟨"FifthCardModel", "firstWrong", "(I)I"⟩, 46) := ⟨⟨by decide +kernel, by decide +kernel⟩, lw_t6 (List.mem_of_getElem? (i := 124) rfl), lw_t9 (List.mem_of_getElem? (i := 101) rfl), lw_t9 (List.mem_of_getElem? (i := 102) rfl)⟩
theorem lw_p117 : lw_okq (⟨"FifthCardModel", "areRules", "(II)Z"⟩, 46) := ⟨⟨by decide +kernel, by decide +kernel⟩, lw_t6 (List.mem_of_getElem? (i := 124) rfl), lw_t9 (List.mem_of_getElem? (i := 113) rfl), lw_t9 (List.mem_of_getElem? (i := 114) rfl)⟩
theorem lw_p118 : lw_okq (⟨"FifthCardModel", "apartNow", "(II)I"⟩, 46) := ⟨⟨by decide +kernel, by decide +kernel⟩, lw_t6 (List.mem_of_getElem? (i := 124) rfl), lw_t9 (List.mem_of_getElem? (i := 117) rfl), lw_t9 (List.mem_of_getElem? (i := 118) rfl)⟩
theorem lw_p119 : lw_okq (⟨"FifthCardModel", "denied", "(I)Z"⟩, 46) := ⟨⟨by decide +kernel, by decide +kernel⟩, lw_t6 (List.mem_of_getElem? (i := 124) rfl), lw_t9 (List.mem_of_getElem? (i := 140) rfl), lw_t9 (List.mem_of_getElem? (i := 141) rfl)⟩
theorem lw_p120 : lw_okq (⟨"FifthCardModel", "granted", "()Z"⟩, 46) := ⟨⟨by decide +kernel, by decide +kernel⟩, lw_t6 (List.mem_of_getElem? (i := 124) rfl), lw_t9 (List.mem_of_getElem? (i := 145) rfl), lw_t9 (List.mem_of_getElem? (i := 146) rfl)⟩
def lw_privs_8 : List (MethodName × Nat) := [(⟨"FifthCardModel", "laysAllWords", "(I)V"⟩, 46), (⟨"FifthCardModel", "countOf", "(IZ)J"⟩, 46), (⟨"FifthCardModel", "isEvening", "(I)Z"⟩, 46), (⟨"FifthCardModel", "agreesWith", "(II)Z"⟩, 46), (⟨"FifthCardModel", "firstWrong", "(I)I"⟩, 46), (⟨"FifthCardModel", "areRules", "(II)Z"⟩, 46), (⟨"FifthCardModel", "apartNow", "(II)I"⟩, 46), (⟨"FifthCardModel", "denied", "(I)Z"⟩, 46), (⟨"FifthCardModel", "granted", "()Z"⟩, 46)]
theorem lw_r8 : ∀ q ∈ lw_privs_8, lw_okq q := List.forall_mem_cons.mpr ⟨lw_p112, List.forall_mem_cons.mpr ⟨lw_p113, List.forall_mem_cons.mpr ⟨lw_p114, List.forall_mem_cons.mpr ⟨lw_p115, List.forall_mem_cons.mpr ⟨lw_p116, List.forall_mem_cons.mpr ⟨lw_p117, List.forall_mem_cons.mpr ⟨lw_p118, List.forall_mem_cons.mpr ⟨lw_p119, List.forall_mem_cons.mpr ⟨lw_p120, fun _ h => absurd h List.not_mem_nil⟩⟩⟩⟩⟩⟩⟩⟩⟩
def lw_privs : List (MethodName × Nat) := lw_privs_1 ++ (lw_privs_2 ++ (lw_privs_3 ++ (lw_privs_4 ++ (lw_privs_5 ++ (lw_privs_6 ++ (lw_privs_7 ++ (lw_privs_8)))))))
def lw_tbl : List Cond := k2_sels lw_privs ++ tables_1
theorem lw_privs_ok : ∀ q ∈ lw_privs, lw_okq q := by
  show ∀ q ∈ lw_privs_1 ++ (lw_privs_2 ++ (lw_privs_3 ++ (lw_privs_4 ++ (lw_privs_5 ++ (lw_privs_6 ++ (lw_privs_7 ++ (lw_privs_8))))))), lw_okq q
  exact List.forall_mem_append.mpr ⟨lw_r1, List.forall_mem_append.mpr ⟨lw_r2, List.forall_mem_append.mpr ⟨lw_r3, List.forall_mem_append.mpr ⟨lw_r4, List.forall_mem_append.mpr ⟨lw_r5, List.forall_mem_append.mpr ⟨lw_r6, List.forall_mem_append.mpr ⟨lw_r7, lw_r8⟩⟩⟩⟩⟩⟩⟩
-- ===== ONE list of words for every method: the tables' words that hold all through a run =====
def lw_all : List Cond := lw_tbl.filter goodWord
/-- a word of the tables by its place: claim/WORDS.tsv -/
theorem lw_w {w : Cond} (i : Nat) (h : lw_tbl[i]? = some w) (g : goodWord w = true) : w ∈ lw_all := List.mem_filter.mpr ⟨List.mem_of_getElem? h, g⟩
theorem lw_all_tbl {w : Cond} (h : w ∈ lw_all) : w ∈ lw_tbl := (List.mem_filter.mp h).1
theorem lw_self : GoodIn lw_all lw_all := fun w h => ⟨h, good_of_word (List.mem_filter.mp h).2⟩
/-- a class's field words, by their places -/
theorem lw_in (ws : List Cond) (ps : List Nat) (hp : ws = ps.filterMap (fun i => lw_tbl[i]?)) (hg : ws.all goodWord = true) : ∀ w ∈ ws, w ∈ lw_all := by
  intro w h
  have h1 := List.all_eq_true.mp hg w h
  rw [hp] at h
  obtain ⟨i, -, hi⟩ := List.mem_filterMap.mp h
  exact lw_w i hi h1
/-- the words of a contract for the method y with code b, L locals, answer r -/
abbrev ws_ (y : MethodName) (b : ByteArray) (L : Nat) (r : Option FieldType) : List Cond := Cond.code y b L r :: lw_all
theorem lw_meth {y : MethodName} {b : ByteArray} {L : Nat} {r : Option FieldType} (h : Cond.code y b L r ∈ lw_all) : GoodIn lw_all (ws_ y b L r) := by
  intro w hw
  rcases List.mem_cons.mp hw with e | e
  · rw [e]
    exact lw_self _ h
  · exact lw_self _ e
theorem lw_app {a c : List Cond} (ha : ∀ w ∈ a, w ∈ lw_all) (hc : GoodIn lw_all c) : GoodIn lw_all (a ++ c) := by
  intro w hw
  rcases List.mem_append.mp hw with e | e
  · exact lw_self w (ha w e)
  · exact hc w e
/-- what a call through an object asks: cwV n hts (lw_V ..) -/
theorem lw_V {own : String} {idx : Nat} {C : String} {y : MethodName} {b : ByteArray} {L : Nat} {r : Option FieldType} (h1 : Cond.methodLink own idx y ∈ lw_all) (h2 : Cond.instanceMethod y ∈ lw_all) (h3 : Cond.selects C y y ∈ lw_all) (h4 : Cond.initialized C ∈ lw_all) (h5 : Cond.code y b L r ∈ lw_all) : GoodIn lw_all (wsV own idx C y (ws_ y b L r)) := by
  refine lw_app ?_ (lw_meth h5)
  intro w hw
  simp only [List.mem_cons, List.not_mem_nil, or_false] at hw
  rcases hw with e | e | e | e
  · rw [e]; exact h1
  · rw [e]; exact h2
  · rw [e]; exact h3
  · rw [e]; exact h4
/-- what a static call asks: va_cwS n hts (lw_S ..) -/
theorem lw_S {own : String} {idx : Nat} {y : MethodName} {b : ByteArray} {L : Nat} {r : Option FieldType} (h1 : Cond.methodLink own idx y ∈ lw_all) (h2 : Cond.static y ∈ lw_all) (h3 : Cond.initialized y.cls ∈ lw_all) (h4 : Cond.code y b L r ∈ lw_all) : GoodIn lw_all (va_wsS own idx y (ws_ y b L r)) := by
  refine lw_app ?_ (lw_meth h4)
  intro w hw
  simp only [List.mem_cons, List.not_mem_nil, or_false] at hw
  rcases hw with e | e | e
  · rw [e]; exact h1
  · rw [e]; exact h2
  · rw [e]; exact h3
/-- the words of a contract for a method WITH HANDLERS (hh: its table) -/
abbrev wsW_ (y : MethodName) (b : ByteArray) (L : Nat) (r : Option FieldType) (hh : List (Nat × Nat × Nat × Nat)) : List Cond := Cond.codeWith y b L r hh :: lw_all
theorem lw_methW {y : MethodName} {b : ByteArray} {L : Nat} {r : Option FieldType} {hh : List (Nat × Nat × Nat × Nat)} (h : Cond.codeWith y b L r hh ∈ lw_all) : GoodIn lw_all (wsW_ y b L r hh) := by
  intro w hw
  rcases List.mem_cons.mp hw with e | e
  · rw [e]
    exact lw_self _ h
  · exact lw_self _ e
/-- any list of words by their places (lw_in), good -/
theorem lw_good {ws : List Cond} (h : ∀ w ∈ ws, w ∈ lw_all) : GoodIn lw_all ws := fun w hw => lw_self w (h w hw)
/-- what a call of a method with handlers asks: vx_cwVW n hts (lw_VW ..), vx_cwSW n hts (lw_SW ..) -/
theorem lw_VW {own : String} {idx : Nat} {C : String} {y : MethodName} {b : ByteArray} {L : Nat} {r : Option FieldType} {hh : List (Nat × Nat × Nat × Nat)} (h1 : Cond.methodLink own idx y ∈ lw_all) (h2 : Cond.instanceMethod y ∈ lw_all) (h3 : Cond.selects C y y ∈ lw_all) (h4 : Cond.initialized C ∈ lw_all) (h5 : Cond.codeWith y b L r hh ∈ lw_all) : GoodIn lw_all (wsV own idx C y (wsW_ y b L r hh)) := by
  refine lw_app ?_ (lw_methW h5)
  intro w hw
  simp only [List.mem_cons, List.not_mem_nil, or_false] at hw
  rcases hw with e | e | e | e
  · rw [e]; exact h1
  · rw [e]; exact h2
  · rw [e]; exact h3
  · rw [e]; exact h4
theorem lw_SW {own : String} {idx : Nat} {y : MethodName} {b : ByteArray} {L : Nat} {r : Option FieldType} {hh : List (Nat × Nat × Nat × Nat)} (h1 : Cond.methodLink own idx y ∈ lw_all) (h2 : Cond.static y ∈ lw_all) (h3 : Cond.initialized y.cls ∈ lw_all) (h4 : Cond.codeWith y b L r hh ∈ lw_all) : GoodIn lw_all (va_wsS own idx y (wsW_ y b L r hh)) := by
  refine lw_app ?_ (lw_methW h4)
  intro w hw
  simp only [List.mem_cons, List.not_mem_nil, or_false] at hw
  rcases hw with e | e | e
  · rw [e]; exact h1
  · rw [e]; exact h2
  · rw [e]; exact h3
/-- a word by its place in its run of the tables -/
theorem lw_at {r : List Cond} (hr : ∀ w ∈ r, w ∈ lw_tbl) {w : Cond} (i : Nat) (h : r[i]? = some w) : w ∈ lw_tbl := hr w (List.mem_of_getElem? h)
theorem lw_g {w : Cond} (h : w ∈ lw_tbl) (g : goodWord w = true) : w ∈ lw_all := List.mem_filter.mpr ⟨h, g⟩
theorem lw_ms : ∀ w ∈ k2_sels lw_privs, w ∈ lw_tbl := fun w h => show w ∈ k2_sels lw_privs ++ tables_1 from List.mem_append_left _ h
theorem lw_m1 : ∀ w ∈ tables_1_1, w ∈ lw_tbl := fun w h => show w ∈ k2_sels lw_privs ++ tables_1 from List.mem_append_right (k2_sels lw_privs) (show w ∈ tables_1 from List.mem_append_left _ h)
theorem lw_m2 : ∀ w ∈ tables_1_2, w ∈ lw_tbl := fun w h => show w ∈ k2_sels lw_privs ++ tables_1 from List.mem_append_right (k2_sels lw_privs) (show w ∈ tables_1 from List.mem_append_right _ (List.mem_append_left _ h))
theorem lw_m3 : ∀ w ∈ tables_1_3, w ∈ lw_tbl := fun w h => show w ∈ k2_sels lw_privs ++ tables_1 from List.mem_append_right (k2_sels lw_privs) (show w ∈ tables_1 from List.mem_append_right _ (List.mem_append_right _ (List.mem_append_left _ h)))
theorem lw_m4 : ∀ w ∈ tables_1_4, w ∈ lw_tbl := fun w h => show w ∈ k2_sels lw_privs ++ tables_1 from List.mem_append_right (k2_sels lw_privs) (show w ∈ tables_1 from List.mem_append_right _ (List.mem_append_right _ (List.mem_append_right _ (List.mem_append_left _ h))))
theorem lw_m5 : ∀ w ∈ tables_1_5, w ∈ lw_tbl := fun w h => show w ∈ k2_sels lw_privs ++ tables_1 from List.mem_append_right (k2_sels lw_privs) (show w ∈ tables_1 from List.mem_append_right _ (List.mem_append_right _ (List.mem_append_right _ (List.mem_append_right _ (List.mem_append_left _ h)))))
theorem lw_m6 : ∀ w ∈ tables_1_6, w ∈ lw_tbl := fun w h => show w ∈ k2_sels lw_privs ++ tables_1 from List.mem_append_right (k2_sels lw_privs) (show w ∈ tables_1 from List.mem_append_right _ (List.mem_append_right _ (List.mem_append_right _ (List.mem_append_right _ (List.mem_append_right _ (List.mem_append_left _ h))))))
theorem lw_m7 : ∀ w ∈ tables_1_7, w ∈ lw_tbl := fun w h => show w ∈ k2_sels lw_privs ++ tables_1 from List.mem_append_right (k2_sels lw_privs) (show w ∈ tables_1 from List.mem_append_right _ (List.mem_append_right _ (List.mem_append_right _ (List.mem_append_right _ (List.mem_append_right _ (List.mem_append_right _ (List.mem_append_left _ h)))))))
theorem lw_m8 : ∀ w ∈ tables_1_8, w ∈ lw_tbl := fun w h => show w ∈ k2_sels lw_privs ++ tables_1 from List.mem_append_right (k2_sels lw_privs) (show w ∈ tables_1 from List.mem_append_right _ (List.mem_append_right _ (List.mem_append_right _ (List.mem_append_right _ (List.mem_append_right _ (List.mem_append_right _ (List.mem_append_right _ (List.mem_append_left _ h))))))))
theorem lw_m9 : ∀ w ∈ tables_1_9, w ∈ lw_tbl := fun w h => show w ∈ k2_sels lw_privs ++ tables_1 from List.mem_append_right (k2_sels lw_privs) (show w ∈ tables_1 from List.mem_append_right _ (List.mem_append_right _ (List.mem_append_right _ (List.mem_append_right _ (List.mem_append_right _ (List.mem_append_right _ (List.mem_append_right _ (List.mem_append_right _ h))))))))
theorem qs0 : (Cond.selects "java/lang/Throwable" ⟨"java/lang/Throwable", "fillInStackTrace", "(I)Ljava/lang/Throwable;"⟩ ⟨"java/lang/Throwable", "fillInStackTrace", "(I)Ljava/lang/Throwable;"⟩) ∈ lw_all := lw_g (lw_at lw_ms 0 rfl) rfl
theorem qs1 : (Cond.selects "FifthCard" ⟨"FifthCard", "bytes", "(I)V"⟩ ⟨"FifthCard", "bytes", "(I)V"⟩) ∈ lw_all := lw_g (lw_at lw_ms 1 rfl) rfl
theorem qs2 : (Cond.selects "FifthCard" ⟨"FifthCard", "anew", "()V"⟩ ⟨"FifthCard", "anew", "()V"⟩) ∈ lw_all := lw_g (lw_at lw_ms 2 rfl) rfl
theorem qs3 : (Cond.selects "FifthCard" ⟨"FifthCard", "no", "(I)I"⟩ ⟨"FifthCard", "no", "(I)I"⟩) ∈ lw_all := lw_g (lw_at lw_ms 3 rfl) rfl
theorem qs4 : (Cond.selects "FifthCard$Reader" ⟨"FifthCard$Reader", "next", "()V"⟩ ⟨"FifthCard$Reader", "next", "()V"⟩) ∈ lw_all := lw_g (lw_at lw_ms 4 rfl) rfl
theorem qs5 : (Cond.selects "FifthCard$Reader" ⟨"FifthCard$Reader", "see", "(I)I"⟩ ⟨"FifthCard$Reader", "see", "(I)I"⟩) ∈ lw_all := lw_g (lw_at lw_ms 5 rfl) rfl
theorem qs6 : (Cond.selects "FifthCard$Reader" ⟨"FifthCard$Reader", "line", "()V"⟩ ⟨"FifthCard$Reader", "line", "()V"⟩) ∈ lw_all := lw_g (lw_at lw_ms 6 rfl) rfl
theorem qs7 : (Cond.selects "FifthCard$Reader" ⟨"FifthCard$Reader", "fail", "(I)LFifthCard$Refused;"⟩ ⟨"FifthCard$Reader", "fail", "(I)LFifthCard$Refused;"⟩) ∈ lw_all := lw_g (lw_at lw_ms 7 rfl) rfl
theorem qs8 : (Cond.selects "FifthCard$Reader" ⟨"FifthCard$Reader", "trickLine", "()V"⟩ ⟨"FifthCard$Reader", "trickLine", "()V"⟩) ∈ lw_all := lw_g (lw_at lw_ms 8 rfl) rfl
theorem qs9 : (Cond.selects "FifthCard$Reader" ⟨"FifthCard$Reader", "after", "(Ljava/lang/String;II)I"⟩ ⟨"FifthCard$Reader", "after", "(Ljava/lang/String;II)I"⟩) ∈ lw_all := lw_g (lw_at lw_ms 9 rfl) rfl
theorem qs10 : (Cond.selects "FifthCard$Reader" ⟨"FifthCard$Reader", "must", "(Ljava/lang/String;)V"⟩ ⟨"FifthCard$Reader", "must", "(Ljava/lang/String;)V"⟩) ∈ lw_all := lw_g (lw_at lw_ms 10 rfl) rfl
theorem qs11 : (Cond.selects "FifthCard$Reader" ⟨"FifthCard$Reader", "takes", "(Ljava/lang/String;)Z"⟩ ⟨"FifthCard$Reader", "takes", "(Ljava/lang/String;)Z"⟩) ∈ lw_all := lw_g (lw_at lw_ms 11 rfl) rfl
theorem qs12 : (Cond.selects "FifthCard$Reader" ⟨"FifthCard$Reader", "isWord", "(Ljava/lang/String;)Z"⟩ ⟨"FifthCard$Reader", "isWord", "(Ljava/lang/String;)Z"⟩) ∈ lw_all := lw_g (lw_at lw_ms 12 rfl) rfl
theorem qs13 : (Cond.selects "FifthCard$Reader" ⟨"FifthCard$Reader", "numberHere", "(II)I"⟩ ⟨"FifthCard$Reader", "numberHere", "(II)I"⟩) ∈ lw_all := lw_g (lw_at lw_ms 13 rfl) rfl
theorem qs14 : (Cond.selects "FifthCard$Reader" ⟨"FifthCard$Reader", "rule", "()V"⟩ ⟨"FifthCard$Reader", "rule", "()V"⟩) ∈ lw_all := lw_g (lw_at lw_ms 14 rfl) rfl
theorem qs15 : (Cond.selects "FifthCard$Reader" ⟨"FifthCard$Reader", "begins", "(Z)V"⟩ ⟨"FifthCard$Reader", "begins", "(Z)V"⟩) ∈ lw_all := lw_g (lw_at lw_ms 15 rfl) rfl
theorem qs16 : (Cond.selects "FifthCard$Reader" ⟨"FifthCard$Reader", "newName", "()Ljava/lang/String;"⟩ ⟨"FifthCard$Reader", "newName", "()Ljava/lang/String;"⟩) ∈ lw_all := lw_g (lw_at lw_ms 16 rfl) rfl
theorem qs17 : (Cond.selects "FifthCard$Reader" ⟨"FifthCard$Reader", "ruleOf", "(Ljava/lang/String;I)LFifthCard$Rule;"⟩ ⟨"FifthCard$Reader", "ruleOf", "(Ljava/lang/String;I)LFifthCard$Rule;"⟩) ∈ lw_all := lw_g (lw_at lw_ms 17 rfl) rfl
theorem qs18 : (Cond.selects "FifthCard$Reader" ⟨"FifthCard$Reader", "keepHere", "()I"⟩ ⟨"FifthCard$Reader", "keepHere", "()I"⟩) ∈ lw_all := lw_g (lw_at lw_ms 18 rfl) rfl
theorem qs19 : (Cond.selects "FifthCard$Reader" ⟨"FifthCard$Reader", "tellHere", "()I"⟩ ⟨"FifthCard$Reader", "tellHere", "()I"⟩) ∈ lw_all := lw_g (lw_at lw_ms 19 rfl) rfl
theorem qs20 : (Cond.selects "FifthCard$Reader" ⟨"FifthCard$Reader", "evening", "()V"⟩ ⟨"FifthCard$Reader", "evening", "()V"⟩) ∈ lw_all := lw_g (lw_at lw_ms 20 rfl) rfl
theorem qs21 : (Cond.selects "FifthCard$Reader" ⟨"FifthCard$Reader", "numbers", "(III)I"⟩ ⟨"FifthCard$Reader", "numbers", "(III)I"⟩) ∈ lw_all := lw_g (lw_at lw_ms 21 rfl) rfl
theorem qs22 : (Cond.selects "FifthCard$Pairing" ⟨"FifthCard$Pairing", "someLeftOut", "(LFifthCard$Trick;I)V"⟩ ⟨"FifthCard$Pairing", "someLeftOut", "(LFifthCard$Trick;I)V"⟩) ∈ lw_all := lw_g (lw_at lw_ms 22 rfl) rfl
theorem qs23 : (Cond.selects "FifthCard$Pairing" ⟨"FifthCard$Pairing", "allOrders", "(LFifthCard$Trick;I)V"⟩ ⟨"FifthCard$Pairing", "allOrders", "(LFifthCard$Trick;I)V"⟩) ∈ lw_all := lw_g (lw_at lw_ms 23 rfl) rfl
theorem qs24 : (Cond.selects "FifthCard" ⟨"FifthCard", "rowMany", "()I"⟩ ⟨"FifthCard", "rowMany", "()I"⟩) ∈ lw_all := lw_g (lw_at lw_ms 24 rfl) rfl
theorem qs25 : (Cond.selects "FifthCard" ⟨"FifthCard", "isHand", "(I)Z"⟩ ⟨"FifthCard", "isHand", "(I)Z"⟩) ∈ lw_all := lw_g (lw_at lw_ms 25 rfl) rfl
theorem qs26 : (Cond.selects "FifthCard" ⟨"FifthCard", "puts", "(II)Z"⟩ ⟨"FifthCard", "puts", "(II)Z"⟩) ∈ lw_all := lw_g (lw_at lw_ms 26 rfl) rfl
theorem qs27 : (Cond.selects "FifthCard" ⟨"FifthCard", "isRow", "(I)Z"⟩ ⟨"FifthCard", "isRow", "(I)Z"⟩) ∈ lw_all := lw_g (lw_at lw_ms 27 rfl) rfl
theorem qs28 : (Cond.selects "FifthCard" ⟨"FifthCard", "isRule", "(I)Z"⟩ ⟨"FifthCard", "isRule", "(I)Z"⟩) ∈ lw_all := lw_g (lw_at lw_ms 28 rfl) rfl
theorem qs29 : (Cond.selects "FifthCard" ⟨"FifthCard", "rowOf", "(II)I"⟩ ⟨"FifthCard", "rowOf", "(II)I"⟩) ∈ lw_all := lw_g (lw_at lw_ms 29 rfl) rfl
theorem qs30 : (Cond.selects "FifthCard" ⟨"FifthCard", "lay", "(LFifthCard$Rule;)V"⟩ ⟨"FifthCard", "lay", "(LFifthCard$Rule;)V"⟩) ∈ lw_all := lw_g (lw_at lw_ms 30 rfl) rfl
theorem qs31 : (Cond.selects "FifthCard$Pairing" ⟨"FifthCard$Pairing", "gives", "(II)Z"⟩ ⟨"FifthCard$Pairing", "gives", "(II)Z"⟩) ∈ lw_all := lw_g (lw_at lw_ms 31 rfl) rfl
theorem qs32 : (Cond.selects "FifthCard$Pairing" ⟨"FifthCard$Pairing", "turns", "(II)V"⟩ ⟨"FifthCard$Pairing", "turns", "(II)V"⟩) ∈ lw_all := lw_g (lw_at lw_ms 32 rfl) rfl
theorem qs33 : (Cond.selects "FifthCard$Pairing" ⟨"FifthCard$Pairing", "takes", "(II)Z"⟩ ⟨"FifthCard$Pairing", "takes", "(II)Z"⟩) ∈ lw_all := lw_g (lw_at lw_ms 33 rfl) rfl
theorem qs34 : (Cond.selects "FifthCard$Suited" ⟨"FifthCard$Suited", "laysBy", "([IIILFifthCard$Trick;)I"⟩ ⟨"FifthCard$Suited", "laysBy", "([IIILFifthCard$Trick;)I"⟩) ∈ lw_all := lw_g (lw_at lw_ms 34 rfl) rfl
theorem qs35 : (Cond.selects "FifthCard" ⟨"FifthCard", "doesWork", "(LFifthCard$Rule;)Z"⟩ ⟨"FifthCard", "doesWork", "(LFifthCard$Rule;)Z"⟩) ∈ lw_all := lw_g (lw_at lw_ms 35 rfl) rfl
theorem qs36 : (Cond.selects "FifthCard" ⟨"FifthCard", "failsOf", "(LFifthCard$Rule;)I"⟩ ⟨"FifthCard", "failsOf", "(LFifthCard$Rule;)I"⟩) ∈ lw_all := lw_g (lw_at lw_ms 36 rfl) rfl
theorem qs37 : (Cond.selects "FifthCard" ⟨"FifthCard", "clashOf", "(LFifthCard$Rule;)I"⟩ ⟨"FifthCard", "clashOf", "(LFifthCard$Rule;)I"⟩) ∈ lw_all := lw_g (lw_at lw_ms 37 rfl) rfl
theorem qs38 : (Cond.selects "FifthCard" ⟨"FifthCard", "keepApart", "(LFifthCard$Rule;Z)Z"⟩ ⟨"FifthCard", "keepApart", "(LFifthCard$Rule;Z)Z"⟩) ∈ lw_all := lw_g (lw_at lw_ms 38 rfl) rfl
theorem qs39 : (Cond.selects "FifthCard" ⟨"FifthCard", "changed", "(II)I"⟩ ⟨"FifthCard", "changed", "(II)I"⟩) ∈ lw_all := lw_g (lw_at lw_ms 39 rfl) rfl
theorem qs40 : (Cond.selects "FifthCard" ⟨"FifthCard", "isEvening", "(I)Z"⟩ ⟨"FifthCard", "isEvening", "(I)Z"⟩) ∈ lw_all := lw_g (lw_at lw_ms 40 rfl) rfl
theorem qs41 : (Cond.selects "FifthCard" ⟨"FifthCard", "doesAgree", "(II)Z"⟩ ⟨"FifthCard", "doesAgree", "(II)Z"⟩) ∈ lw_all := lw_g (lw_at lw_ms 41 rfl) rfl
theorem qs42 : (Cond.selects "FifthCard" ⟨"FifthCard", "firstWrong", "(I)I"⟩ ⟨"FifthCard", "firstWrong", "(I)I"⟩) ∈ lw_all := lw_g (lw_at lw_ms 42 rfl) rfl
theorem qs43 : (Cond.selects "FifthCard" ⟨"FifthCard", "arePair", "(II)Z"⟩ ⟨"FifthCard", "arePair", "(II)Z"⟩) ∈ lw_all := lw_g (lw_at lw_ms 43 rfl) rfl
theorem qs44 : (Cond.selects "FifthCard" ⟨"FifthCard", "apartOf", "(II)I"⟩ ⟨"FifthCard", "apartOf", "(II)I"⟩) ∈ lw_all := lw_g (lw_at lw_ms 44 rfl) rfl
theorem qs45 : (Cond.selects "FifthCard" ⟨"FifthCard", "nearest", "(I)I"⟩ ⟨"FifthCard", "nearest", "(I)I"⟩) ∈ lw_all := lw_g (lw_at lw_ms 45 rfl) rfl
theorem qs46 : (Cond.selects "FifthCard" ⟨"FifthCard", "yes", "(I)Z"⟩ ⟨"FifthCard", "yes", "(I)Z"⟩) ∈ lw_all := lw_g (lw_at lw_ms 46 rfl) rfl
theorem qs47 : (Cond.selects "FifthCardModel" ⟨"FifthCardModel", "refused", "(I)I"⟩ ⟨"FifthCardModel", "refused", "(I)I"⟩) ∈ lw_all := lw_g (lw_at lw_ms 47 rfl) rfl
theorem qs48 : (Cond.selects "FifthCardModel" ⟨"FifthCardModel", "goesOn", "()V"⟩ ⟨"FifthCardModel", "goesOn", "()V"⟩) ∈ lw_all := lw_g (lw_at lw_ms 48 rfl) rfl
theorem qs49 : (Cond.selects "FifthCardModel" ⟨"FifthCardModel", "byteAt", "(I)I"⟩ ⟨"FifthCardModel", "byteAt", "(I)I"⟩) ∈ lw_all := lw_g (lw_at lw_ms 49 rfl) rfl
theorem qs50 : (Cond.selects "FifthCardModel" ⟨"FifthCardModel", "readAll", "()V"⟩ ⟨"FifthCardModel", "readAll", "()V"⟩) ∈ lw_all := lw_g (lw_at lw_ms 50 rfl) rfl
theorem qs51 : (Cond.selects "FifthCardModel" ⟨"FifthCardModel", "readLine", "()V"⟩ ⟨"FifthCardModel", "readLine", "()V"⟩) ∈ lw_all := lw_g (lw_at lw_ms 51 rfl) rfl
theorem qs52 : (Cond.selects "FifthCardModel" ⟨"FifthCardModel", "isWord", "(Ljava/lang/String;)Z"⟩ ⟨"FifthCardModel", "isWord", "(Ljava/lang/String;)Z"⟩) ∈ lw_all := lw_g (lw_at lw_ms 52 rfl) rfl
theorem qs53 : (Cond.selects "FifthCardModel" ⟨"FifthCardModel", "readTrick", "()V"⟩ ⟨"FifthCardModel", "readTrick", "()V"⟩) ∈ lw_all := lw_g (lw_at lw_ms 53 rfl) rfl
theorem qs54 : (Cond.selects "FifthCardModel" ⟨"FifthCardModel", "flaw", "(I)V"⟩ ⟨"FifthCardModel", "flaw", "(I)V"⟩) ∈ lw_all := lw_g (lw_at lw_ms 54 rfl) rfl
theorem qs55 : (Cond.selects "FifthCardModel" ⟨"FifthCardModel", "readPart", "(Ljava/lang/String;II)I"⟩ ⟨"FifthCardModel", "readPart", "(Ljava/lang/String;II)I"⟩) ∈ lw_all := lw_g (lw_at lw_ms 55 rfl) rfl
theorem qs56 : (Cond.selects "FifthCardModel" ⟨"FifthCardModel", "needs", "(Ljava/lang/String;)V"⟩ ⟨"FifthCardModel", "needs", "(Ljava/lang/String;)V"⟩) ∈ lw_all := lw_g (lw_at lw_ms 56 rfl) rfl
theorem qs57 : (Cond.selects "FifthCardModel" ⟨"FifthCardModel", "bounded", "(II)I"⟩ ⟨"FifthCardModel", "bounded", "(II)I"⟩) ∈ lw_all := lw_g (lw_at lw_ms 57 rfl) rfl
theorem qs58 : (Cond.selects "FifthCardModel" ⟨"FifthCardModel", "eatsWord", "(Ljava/lang/String;)Z"⟩ ⟨"FifthCardModel", "eatsWord", "(Ljava/lang/String;)Z"⟩) ∈ lw_all := lw_g (lw_at lw_ms 58 rfl) rfl
theorem qs59 : (Cond.selects "FifthCardModel" ⟨"FifthCardModel", "readRule", "()V"⟩ ⟨"FifthCardModel", "readRule", "()V"⟩) ∈ lw_all := lw_g (lw_at lw_ms 59 rfl) rfl
theorem qs60 : (Cond.selects "FifthCardModel" ⟨"FifthCardModel", "begins", "(II)V"⟩ ⟨"FifthCardModel", "begins", "(II)V"⟩) ∈ lw_all := lw_g (lw_at lw_ms 60 rfl) rfl
theorem qs61 : (Cond.selects "FifthCardModel" ⟨"FifthCardModel", "isName", "()Z"⟩ ⟨"FifthCardModel", "isName", "()Z"⟩) ∈ lw_all := lw_g (lw_at lw_ms 61 rfl) rfl
theorem qs62 : (Cond.selects "FifthCardModel" ⟨"FifthCardModel", "readWords", "()I"⟩ ⟨"FifthCardModel", "readWords", "()I"⟩) ∈ lw_all := lw_g (lw_at lw_ms 62 rfl) rfl
theorem qs63 : (Cond.selects "FifthCardModel" ⟨"FifthCardModel", "readEvening", "()V"⟩ ⟨"FifthCardModel", "readEvening", "()V"⟩) ∈ lw_all := lw_g (lw_at lw_ms 63 rfl) rfl
theorem qs64 : (Cond.selects "FifthCardModel" ⟨"FifthCardModel", "readUnlike", "([IIII)V"⟩ ⟨"FifthCardModel", "readUnlike", "([IIII)V"⟩) ∈ lw_all := lw_g (lw_at lw_ms 64 rfl) rfl
theorem qs65 : (Cond.selects "FifthCardModel" ⟨"FifthCardModel", "needsSign", "(I)V"⟩ ⟨"FifthCardModel", "needsSign", "(I)V"⟩) ∈ lw_all := lw_g (lw_at lw_ms 65 rfl) rfl
theorem qs66 : (Cond.selects "FifthCardModel" ⟨"FifthCardModel", "readPlaces", "()I"⟩ ⟨"FifthCardModel", "readPlaces", "()I"⟩) ∈ lw_all := lw_g (lw_at lw_ms 66 rfl) rfl
theorem qs67 : (Cond.selects "FifthCardModel" ⟨"FifthCardModel", "eatsSign", "(I)Z"⟩ ⟨"FifthCardModel", "eatsSign", "(I)Z"⟩) ∈ lw_all := lw_g (lw_at lw_ms 67 rfl) rfl
theorem qs68 : (Cond.selects "FifthCardModel" ⟨"FifthCardModel", "deals", "()V"⟩ ⟨"FifthCardModel", "deals", "()V"⟩) ∈ lw_all := lw_g (lw_at lw_ms 68 rfl) rfl
theorem qs69 : (Cond.selects "FifthCardModel" ⟨"FifthCardModel", "next", "(I)I"⟩ ⟨"FifthCardModel", "next", "(I)I"⟩) ∈ lw_all := lw_g (lw_at lw_ms 69 rfl) rfl
theorem qs70 : (Cond.selects "FifthCardModel" ⟨"FifthCardModel", "isPicked", "(II)Z"⟩ ⟨"FifthCardModel", "isPicked", "(II)Z"⟩) ∈ lw_all := lw_g (lw_at lw_ms 70 rfl) rfl
theorem qs71 : (Cond.selects "FifthCardModel" ⟨"FifthCardModel", "laysCodes", "()V"⟩ ⟨"FifthCardModel", "laysCodes", "()V"⟩) ∈ lw_all := lw_g (lw_at lw_ms 71 rfl) rfl
theorem qs72 : (Cond.selects "FifthCardModel" ⟨"FifthCardModel", "isOneOrder", "()Z"⟩ ⟨"FifthCardModel", "isOneOrder", "()Z"⟩) ∈ lw_all := lw_g (lw_at lw_ms 72 rfl) rfl
theorem qs73 : (Cond.selects "FifthCardModel" ⟨"FifthCardModel", "handNumber", "([II)I"⟩ ⟨"FifthCardModel", "handNumber", "([II)I"⟩) ∈ lw_all := lw_g (lw_at lw_ms 73 rfl) rfl
theorem qs74 : (Cond.selects "FifthCardModel" ⟨"FifthCardModel", "cardOf", "(II)I"⟩ ⟨"FifthCardModel", "cardOf", "(II)I"⟩) ∈ lw_all := lw_g (lw_at lw_ms 74 rfl) rfl
theorem qs75 : (Cond.selects "FifthCardModel" ⟨"FifthCardModel", "has", "(II)Z"⟩ ⟨"FifthCardModel", "has", "(II)Z"⟩) ∈ lw_all := lw_g (lw_at lw_ms 75 rfl) rfl
theorem qs76 : (Cond.selects "FifthCardModel" ⟨"FifthCardModel", "rowNumber", "([II)I"⟩ ⟨"FifthCardModel", "rowNumber", "([II)I"⟩) ∈ lw_all := lw_g (lw_at lw_ms 76 rfl) rfl
theorem qs77 : (Cond.selects "FifthCardModel" ⟨"FifthCardModel", "good", "(I)I"⟩ ⟨"FifthCardModel", "good", "(I)I"⟩) ∈ lw_all := lw_g (lw_at lw_ms 77 rfl) rfl
theorem qs78 : (Cond.selects "FifthCardModel" ⟨"FifthCardModel", "rowMany", "()I"⟩ ⟨"FifthCardModel", "rowMany", "()I"⟩) ∈ lw_all := lw_g (lw_at lw_ms 78 rfl) rfl
theorem qs79 : (Cond.selects "FifthCardModel" ⟨"FifthCardModel", "isHand", "(I)Z"⟩ ⟨"FifthCardModel", "isHand", "(I)Z"⟩) ∈ lw_all := lw_g (lw_at lw_ms 79 rfl) rfl
theorem qs80 : (Cond.selects "FifthCardModel" ⟨"FifthCardModel", "isRow", "(I)Z"⟩ ⟨"FifthCardModel", "isRow", "(I)Z"⟩) ∈ lw_all := lw_g (lw_at lw_ms 80 rfl) rfl
theorem qs81 : (Cond.selects "FifthCardModel" ⟨"FifthCardModel", "rowCards", "(I[I)V"⟩ ⟨"FifthCardModel", "rowCards", "(I[I)V"⟩) ∈ lw_all := lw_g (lw_at lw_ms 81 rfl) rfl
theorem qs82 : (Cond.selects "FifthCardModel" ⟨"FifthCardModel", "rowFits", "(II)Z"⟩ ⟨"FifthCardModel", "rowFits", "(II)Z"⟩) ∈ lw_all := lw_g (lw_at lw_ms 82 rfl) rfl
theorem qs83 : (Cond.selects "FifthCardModel" ⟨"FifthCardModel", "fittingMany", "()I"⟩ ⟨"FifthCardModel", "fittingMany", "()I"⟩) ∈ lw_all := lw_g (lw_at lw_ms 83 rfl) rfl
theorem qs84 : (Cond.selects "FifthCardModel" ⟨"FifthCardModel", "isRule", "(I)Z"⟩ ⟨"FifthCardModel", "isRule", "(I)Z"⟩) ∈ lw_all := lw_g (lw_at lw_ms 84 rfl) rfl
theorem qs85 : (Cond.selects "FifthCardModel" ⟨"FifthCardModel", "laysNow", "(II)I"⟩ ⟨"FifthCardModel", "laysNow", "(II)I"⟩) ∈ lw_all := lw_g (lw_at lw_ms 85 rfl) rfl
theorem qs86 : (Cond.selects "FifthCardModel" ⟨"FifthCardModel", "laysSuit", "(I)I"⟩ ⟨"FifthCardModel", "laysSuit", "(I)I"⟩) ∈ lw_all := lw_g (lw_at lw_ms 86 rfl) rfl
theorem qs87 : (Cond.selects "FifthCardModel" ⟨"FifthCardModel", "orders", "(II)V"⟩ ⟨"FifthCardModel", "orders", "(II)V"⟩) ∈ lw_all := lw_g (lw_at lw_ms 87 rfl) rfl
theorem qs88 : (Cond.selects "FifthCardModel" ⟨"FifthCardModel", "laysWords", "(II)I"⟩ ⟨"FifthCardModel", "laysWords", "(II)I"⟩) ∈ lw_all := lw_g (lw_at lw_ms 88 rfl) rfl
theorem qs89 : (Cond.selects "FifthCardModel" ⟨"FifthCardModel", "sorts", "(I)V"⟩ ⟨"FifthCardModel", "sorts", "(I)V"⟩) ∈ lw_all := lw_g (lw_at lw_ms 89 rfl) rfl
theorem qs90 : (Cond.selects "FifthCardModel" ⟨"FifthCardModel", "keepsAt", "(I)I"⟩ ⟨"FifthCardModel", "keepsAt", "(I)I"⟩) ∈ lw_all := lw_g (lw_at lw_ms 90 rfl) rfl
theorem qs91 : (Cond.selects "FifthCardModel" ⟨"FifthCardModel", "tells", "(IIII)I"⟩ ⟨"FifthCardModel", "tells", "(IIII)I"⟩) ∈ lw_all := lw_g (lw_at lw_ms 91 rfl) rfl
theorem qs92 : (Cond.selects "FifthCardModel" ⟨"FifthCardModel", "knowsTable", "()V"⟩ ⟨"FifthCardModel", "knowsTable", "()V"⟩) ∈ lw_all := lw_g (lw_at lw_ms 92 rfl) rfl
theorem qs93 : (Cond.selects "FifthCardModel" ⟨"FifthCardModel", "pairsNow", "()I"⟩ ⟨"FifthCardModel", "pairsNow", "()I"⟩) ∈ lw_all := lw_g (lw_at lw_ms 93 rfl) rfl
theorem qs94 : (Cond.selects "FifthCardModel" ⟨"FifthCardModel", "clearOwners", "()V"⟩ ⟨"FifthCardModel", "clearOwners", "()V"⟩) ∈ lw_all := lw_g (lw_at lw_ms 94 rfl) rfl
theorem qs95 : (Cond.selects "FifthCardModel" ⟨"FifthCardModel", "goesOnFrom", "(III)Z"⟩ ⟨"FifthCardModel", "goesOnFrom", "(III)Z"⟩) ∈ lw_all := lw_g (lw_at lw_ms 95 rfl) rfl
theorem qs96 : (Cond.selects "FifthCardModel" ⟨"FifthCardModel", "fitsOf", "(I)V"⟩ ⟨"FifthCardModel", "fitsOf", "(I)V"⟩) ∈ lw_all := lw_g (lw_at lw_ms 96 rfl) rfl
theorem qs97 : (Cond.selects "FifthCardModel" ⟨"FifthCardModel", "puts", "(I)V"⟩ ⟨"FifthCardModel", "puts", "(I)V"⟩) ∈ lw_all := lw_g (lw_at lw_ms 97 rfl) rfl
theorem qs98 : (Cond.selects "FifthCardModel" ⟨"FifthCardModel", "ownerOf", "(I)I"⟩ ⟨"FifthCardModel", "ownerOf", "(I)I"⟩) ∈ lw_all := lw_g (lw_at lw_ms 98 rfl) rfl
theorem qs99 : (Cond.selects "FifthCardModel" ⟨"FifthCardModel", "slot", "(I)I"⟩ ⟨"FifthCardModel", "slot", "(I)I"⟩) ∈ lw_all := lw_g (lw_at lw_ms 99 rfl) rfl
theorem qs100 : (Cond.selects "FifthCardModel" ⟨"FifthCardModel", "takes", "(II)V"⟩ ⟨"FifthCardModel", "takes", "(II)V"⟩) ∈ lw_all := lw_g (lw_at lw_ms 100 rfl) rfl
theorem qs101 : (Cond.selects "FifthCardModel" ⟨"FifthCardModel", "owns", "(II)V"⟩ ⟨"FifthCardModel", "owns", "(II)V"⟩) ∈ lw_all := lw_g (lw_at lw_ms 101 rfl) rfl
theorem qs102 : (Cond.selects "FifthCardModel" ⟨"FifthCardModel", "settles", "(II)Z"⟩ ⟨"FifthCardModel", "settles", "(II)Z"⟩) ∈ lw_all := lw_g (lw_at lw_ms 102 rfl) rfl
theorem qs103 : (Cond.selects "FifthCardModel" ⟨"FifthCardModel", "laysAll", "(I)V"⟩ ⟨"FifthCardModel", "laysAll", "(I)V"⟩) ∈ lw_all := lw_g (lw_at lw_ms 103 rfl) rfl
theorem qs104 : (Cond.selects "FifthCardModel" ⟨"FifthCardModel", "firstWith", "(I)I"⟩ ⟨"FifthCardModel", "firstWith", "(I)I"⟩) ∈ lw_all := lw_g (lw_at lw_ms 104 rfl) rfl
theorem qs105 : (Cond.selects "FifthCardModel" ⟨"FifthCardModel", "isWorking", "()Z"⟩ ⟨"FifthCardModel", "isWorking", "()Z"⟩) ∈ lw_all := lw_g (lw_at lw_ms 105 rfl) rfl
theorem qs106 : (Cond.selects "FifthCardModel" ⟨"FifthCardModel", "clashNow", "()I"⟩ ⟨"FifthCardModel", "clashNow", "()I"⟩) ∈ lw_all := lw_g (lw_at lw_ms 106 rfl) rfl
theorem qs107 : (Cond.selects "FifthCardModel" ⟨"FifthCardModel", "ownsLaid", "()V"⟩ ⟨"FifthCardModel", "ownsLaid", "()V"⟩) ∈ lw_all := lw_g (lw_at lw_ms 107 rfl) rfl
theorem qs108 : (Cond.selects "FifthCardModel" ⟨"FifthCardModel", "isSeen", "()Z"⟩ ⟨"FifthCardModel", "isSeen", "()Z"⟩) ∈ lw_all := lw_g (lw_at lw_ms 108 rfl) rfl
theorem qs109 : (Cond.selects "FifthCardModel" ⟨"FifthCardModel", "becomes", "(II)I"⟩ ⟨"FifthCardModel", "becomes", "(II)I"⟩) ∈ lw_all := lw_g (lw_at lw_ms 109 rfl) rfl
theorem qs110 : (Cond.selects "FifthCardModel" ⟨"FifthCardModel", "isOwned", "(I)Z"⟩ ⟨"FifthCardModel", "isOwned", "(I)Z"⟩) ∈ lw_all := lw_g (lw_at lw_ms 110 rfl) rfl
theorem qs111 : (Cond.selects "FifthCardModel" ⟨"FifthCardModel", "isBorne", "()Z"⟩ ⟨"FifthCardModel", "isBorne", "()Z"⟩) ∈ lw_all := lw_g (lw_at lw_ms 111 rfl) rfl
theorem qs112 : (Cond.selects "FifthCardModel" ⟨"FifthCardModel", "laysAllWords", "(I)V"⟩ ⟨"FifthCardModel", "laysAllWords", "(I)V"⟩) ∈ lw_all := lw_g (lw_at lw_ms 112 rfl) rfl
theorem qs113 : (Cond.selects "FifthCardModel" ⟨"FifthCardModel", "countOf", "(IZ)J"⟩ ⟨"FifthCardModel", "countOf", "(IZ)J"⟩) ∈ lw_all := lw_g (lw_at lw_ms 113 rfl) rfl
theorem qs114 : (Cond.selects "FifthCardModel" ⟨"FifthCardModel", "isEvening", "(I)Z"⟩ ⟨"FifthCardModel", "isEvening", "(I)Z"⟩) ∈ lw_all := lw_g (lw_at lw_ms 114 rfl) rfl
theorem qs115 : (Cond.selects "FifthCardModel" ⟨"FifthCardModel", "agreesWith", "(II)Z"⟩ ⟨"FifthCardModel", "agreesWith", "(II)Z"⟩) ∈ lw_all := lw_g (lw_at lw_ms 115 rfl) rfl
theorem qs116 : (Cond.selects "FifthCardModel" ⟨"FifthCardModel", "firstWrong", "(I)I"⟩ ⟨"FifthCardModel", "firstWrong", "(I)I"⟩) ∈ lw_all := lw_g (lw_at lw_ms 116 rfl) rfl
theorem qs117 : (Cond.selects "FifthCardModel" ⟨"FifthCardModel", "areRules", "(II)Z"⟩ ⟨"FifthCardModel", "areRules", "(II)Z"⟩) ∈ lw_all := lw_g (lw_at lw_ms 117 rfl) rfl
theorem qs118 : (Cond.selects "FifthCardModel" ⟨"FifthCardModel", "apartNow", "(II)I"⟩ ⟨"FifthCardModel", "apartNow", "(II)I"⟩) ∈ lw_all := lw_g (lw_at lw_ms 118 rfl) rfl
theorem qs119 : (Cond.selects "FifthCardModel" ⟨"FifthCardModel", "denied", "(I)Z"⟩ ⟨"FifthCardModel", "denied", "(I)Z"⟩) ∈ lw_all := lw_g (lw_at lw_ms 119 rfl) rfl
theorem qs120 : (Cond.selects "FifthCardModel" ⟨"FifthCardModel", "granted", "()Z"⟩ ⟨"FifthCardModel", "granted", "()Z"⟩) ∈ lw_all := lw_g (lw_at lw_ms 120 rfl) rfl
