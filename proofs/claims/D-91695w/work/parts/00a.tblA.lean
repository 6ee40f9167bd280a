-- ===== PART A: goes FIRST, ahead of the names: the tables' words, and 'selects' of the private methods out of them =====
/-- a private method of a class that the tables say can be made, by its rows of tables_1 -/
def lw_okq (q : MethodName × Nat) : Prop := (q.1.cls ≠ "java/lang/invoke/MethodHandle" ∧ q.1.cls ≠ "java/lang/invoke/VarHandle") ∧ Cond.instantiable q.1.cls q.2 ∈ tables_1 ∧ Cond.privateMethod q.1 ∈ tables_1 ∧ Cond.instanceMethod q.1 ∈ tables_1
set_option maxRecDepth 100000
theorem lw_t1 {w : Cond} (h : w ∈ tables_1_1) : w ∈ tables_1 := List.mem_append_left _ h
theorem lw_t2 {w : Cond} (h : w ∈ tables_1_2) : w ∈ tables_1 := List.mem_append_right _ (List.mem_append_left _ h)
theorem lw_t3 {w : Cond} (h : w ∈ tables_1_3) : w ∈ tables_1 := List.mem_append_right _ (List.mem_append_right _ (List.mem_append_left _ h))
theorem lw_t4 {w : Cond} (h : w ∈ tables_1_4) : w ∈ tables_1 := List.mem_append_right _ (List.mem_append_right _ (List.mem_append_right _ (List.mem_append_left _ h)))
theorem lw_t5 {w : Cond} (h : w ∈ tables_1_5) : w ∈ tables_1 := List.mem_append_right _ (List.mem_append_right _ (List.mem_append_right _ (List.mem_append_right _ (List.mem_append_left _ h))))
theorem lw_t6 {w : Cond} (h : w ∈ tables_1_6) : w ∈ tables_1 := List.mem_append_right _ (List.mem_append_right _ (List.mem_append_right _ (List.mem_append_right _ (List.mem_append_right _ (List.mem_append_left _ h)))))
theorem lw_t7 {w : Cond} (h : w ∈ tables_1_7) : w ∈ tables_1 := List.mem_append_right _ (List.mem_append_right _ (List.mem_append_right _ (List.mem_append_right _ (List.mem_append_right _ (List.mem_append_right _ (List.mem_append_left _ h))))))
theorem lw_t8 {w : Cond} (h : w ∈ tables_1_8) : w ∈ tables_1 := List.mem_append_right _ (List.mem_append_right _ (List.mem_append_right _ (List.mem_append_right _ (List.mem_append_right _ (List.mem_append_right _ (List.mem_append_right _ (List.mem_append_left _ h)))))))
theorem lw_t9 {w : Cond} (h : w ∈ tables_1_9) : w ∈ tables_1 := List.mem_append_right _ (List.mem_append_right _ (List.mem_append_right _ (List.mem_append_right _ (List.mem_append_right _ (List.mem_append_right _ (List.mem_append_right _ (List.mem_append_right _ h)))))))
theorem lw_p0 : lw_okq (⟨"PlugHall", "come", "(I)V"⟩, 36) := ⟨⟨by decide +kernel, by decide +kernel⟩, lw_t1 (List.mem_of_getElem? (i := 28) rfl), lw_t2 (List.mem_of_getElem? (i := 114) rfl), lw_t2 (List.mem_of_getElem? (i := 115) rfl)⟩
theorem lw_p1 : lw_okq (⟨"PlugHall", "take", "()I"⟩, 36) := ⟨⟨by decide +kernel, by decide +kernel⟩, lw_t1 (List.mem_of_getElem? (i := 28) rfl), lw_t2 (List.mem_of_getElem? (i := 126) rfl), lw_t2 (List.mem_of_getElem? (i := 127) rfl)⟩
theorem lw_p2 : lw_okq (⟨"PlugHall$Reader", "hub", "(I)I"⟩, 11) := ⟨⟨by decide +kernel, by decide +kernel⟩, lw_t2 (List.mem_of_getElem? (i := 168) rfl), lw_t3 (List.mem_of_getElem? (i := 186) rfl), lw_t3 (List.mem_of_getElem? (i := 187) rfl)⟩
theorem lw_p3 : lw_okq (⟨"PlugHall$Reader", "sort", "()LPlugHall$Sort;"⟩, 11) := ⟨⟨by decide +kernel, by decide +kernel⟩, lw_t2 (List.mem_of_getElem? (i := 168) rfl), lw_t3 (List.mem_of_getElem? (i := 190) rfl), lw_t3 (List.mem_of_getElem? (i := 191) rfl)⟩
theorem lw_p4 : lw_okq (⟨"java/lang/Throwable", "fillInStackTrace", "(I)Ljava/lang/Throwable;"⟩, 6) := ⟨⟨by decide +kernel, by decide +kernel⟩, lw_t4 (List.mem_of_getElem? (i := 5) rfl), lw_t4 (List.mem_of_getElem? (i := 3) rfl), lw_t4 (List.mem_of_getElem? (i := 4) rfl)⟩
theorem lw_p5 : lw_okq (⟨"PlugHall$Machine", "giveCard", "([B[B)V"⟩, 10) := ⟨⟨by decide +kernel, by decide +kernel⟩, lw_t1 (List.mem_of_getElem? (i := 63) rfl), lw_t4 (List.mem_of_getElem? (i := 75) rfl), lw_t4 (List.mem_of_getElem? (i := 76) rfl)⟩
theorem lw_p6 : lw_okq (⟨"PlugHall$Machine", "settle", "(Z)Z"⟩, 10) := ⟨⟨by decide +kernel, by decide +kernel⟩, lw_t1 (List.mem_of_getElem? (i := 63) rfl), lw_t4 (List.mem_of_getElem? (i := 82) rfl), lw_t4 (List.mem_of_getElem? (i := 83) rfl)⟩
theorem lw_p7 : lw_okq (⟨"PlugHall$Machine", "joinNets", "()V"⟩, 10) := ⟨⟨by decide +kernel, by decide +kernel⟩, lw_t1 (List.mem_of_getElem? (i := 63) rfl), lw_t4 (List.mem_of_getElem? (i := 86) rfl), lw_t4 (List.mem_of_getElem? (i := 87) rfl)⟩
theorem lw_p8 : lw_okq (⟨"PlugHall$Machine", "join", "(II)V"⟩, 10) := ⟨⟨by decide +kernel, by decide +kernel⟩, lw_t1 (List.mem_of_getElem? (i := 63) rfl), lw_t4 (List.mem_of_getElem? (i := 90) rfl), lw_t4 (List.mem_of_getElem? (i := 91) rfl)⟩
theorem lw_p9 : lw_okq (⟨"PlugHall$Machine", "root", "(I)I"⟩, 10) := ⟨⟨by decide +kernel, by decide +kernel⟩, lw_t1 (List.mem_of_getElem? (i := 63) rfl), lw_t4 (List.mem_of_getElem? (i := 94) rfl), lw_t4 (List.mem_of_getElem? (i := 95) rfl)⟩
theorem lw_p10 : lw_okq (⟨"PlugHall$Machine", "seek", "()Z"⟩, 10) := ⟨⟨by decide +kernel, by decide +kernel⟩, lw_t1 (List.mem_of_getElem? (i := 63) rfl), lw_t4 (List.mem_of_getElem? (i := 98) rfl), lw_t4 (List.mem_of_getElem? (i := 99) rfl)⟩
theorem lw_p11 : lw_okq (⟨"PlugHall$Machine", "takes", "(I)Z"⟩, 10) := ⟨⟨by decide +kernel, by decide +kernel⟩, lw_t1 (List.mem_of_getElem? (i := 63) rfl), lw_t4 (List.mem_of_getElem? (i := 102) rfl), lw_t4 (List.mem_of_getElem? (i := 103) rfl)⟩
theorem lw_p12 : lw_okq (⟨"PlugHall$Machine", "take", "(I)I"⟩, 10) := ⟨⟨by decide +kernel, by decide +kernel⟩, lw_t1 (List.mem_of_getElem? (i := 63) rfl), lw_t4 (List.mem_of_getElem? (i := 106) rfl), lw_t4 (List.mem_of_getElem? (i := 107) rfl)⟩
theorem lw_p13 : lw_okq (⟨"PlugHall$Machine", "breaks", "()I"⟩, 10) := ⟨⟨by decide +kernel, by decide +kernel⟩, lw_t1 (List.mem_of_getElem? (i := 63) rfl), lw_t4 (List.mem_of_getElem? (i := 110) rfl), lw_t4 (List.mem_of_getElem? (i := 111) rfl)⟩
theorem lw_p14 : lw_okq (⟨"PlugHall$Machine", "act", "()Z"⟩, 10) := ⟨⟨by decide +kernel, by decide +kernel⟩, lw_t1 (List.mem_of_getElem? (i := 63) rfl), lw_t4 (List.mem_of_getElem? (i := 114) rfl), lw_t4 (List.mem_of_getElem? (i := 115) rfl)⟩
theorem lw_p15 : lw_okq (⟨"PlugHall$Machine", "print", "()Z"⟩, 10) := ⟨⟨by decide +kernel, by decide +kernel⟩, lw_t1 (List.mem_of_getElem? (i := 63) rfl), lw_t4 (List.mem_of_getElem? (i := 118) rfl), lw_t4 (List.mem_of_getElem? (i := 119) rfl)⟩
def lw_privs_1 : List (MethodName × Nat) := [(⟨"PlugHall", "come", "(I)V"⟩, 36), (⟨"PlugHall", "take", "()I"⟩, 36), (⟨"PlugHall$Reader", "hub", "(I)I"⟩, 11), (⟨"PlugHall$Reader", "sort", "()LPlugHall$Sort;"⟩, 11), (⟨"java/lang/Throwable", "fillInStackTrace", "(I)Ljava/lang/Throwable;"⟩, 6), (⟨"PlugHall$Machine", "giveCard", "([B[B)V"⟩, 10), (⟨"PlugHall$Machine", "settle", "(Z)Z"⟩, 10), (⟨"PlugHall$Machine", "joinNets", "()V"⟩, 10), (⟨"PlugHall$Machine", "join", "(II)V"⟩, 10), (⟨"PlugHall$Machine", "root", "(I)I"⟩, 10), (⟨"PlugHall$Machine", "seek", "()Z"⟩, 10), (⟨"PlugHall$Machine", "takes", "(I)Z"⟩, 10), (⟨"PlugHall$Machine", "take", "(I)I"⟩, 10), (⟨"PlugHall$Machine", "breaks", "()I"⟩, 10), (⟨"PlugHall$Machine", "act", "()Z"⟩, 10), (⟨"PlugHall$Machine", "print", "()Z"⟩, 10)]
theorem lw_r1 : ∀ q ∈ lw_privs_1, lw_okq q := List.forall_mem_cons.mpr ⟨lw_p0, List.forall_mem_cons.mpr ⟨lw_p1, List.forall_mem_cons.mpr ⟨lw_p2, List.forall_mem_cons.mpr ⟨lw_p3, List.forall_mem_cons.mpr ⟨lw_p4, List.forall_mem_cons.mpr ⟨lw_p5, List.forall_mem_cons.mpr ⟨lw_p6, List.forall_mem_cons.mpr ⟨lw_p7, List.forall_mem_cons.mpr ⟨lw_p8, List.forall_mem_cons.mpr ⟨lw_p9, List.forall_mem_cons.mpr ⟨lw_p10, List.forall_mem_cons.mpr ⟨lw_p11, List.forall_mem_cons.mpr ⟨lw_p12, List.forall_mem_cons.mpr ⟨lw_p13, List.forall_mem_cons.mpr ⟨lw_p14, List.forall_mem_cons.mpr ⟨lw_p15, fun _ h => absurd h List.not_mem_nil⟩⟩⟩⟩⟩⟩⟩⟩⟩⟩⟩⟩⟩⟩⟩⟩
theorem lw_p16 : lw_okq (⟨"PlugHall$Machine", "count", "()Z"⟩, 10) := ⟨⟨by decide +kernel, by decide +kernel⟩, lw_t1 (List.mem_of_getElem? (i := 63) rfl), lw_t4 (List.mem_of_getElem? (i := 122) rfl), lw_t4 (List.mem_of_getElem? (i := 123) rfl)⟩
theorem lw_p17 : lw_okq (⟨"PlugHall$Machine", "punch", "()Z"⟩, 10) := ⟨⟨by decide +kernel, by decide +kernel⟩, lw_t1 (List.mem_of_getElem? (i := 63) rfl), lw_t4 (List.mem_of_getElem? (i := 132) rfl), lw_t4 (List.mem_of_getElem? (i := 133) rfl)⟩
theorem lw_p18 : lw_okq (⟨"PlugHall$Machine", "giveTotal", "(I)V"⟩, 10) := ⟨⟨by decide +kernel, by decide +kernel⟩, lw_t1 (List.mem_of_getElem? (i := 63) rfl), lw_t4 (List.mem_of_getElem? (i := 136) rfl), lw_t4 (List.mem_of_getElem? (i := 137) rfl)⟩
theorem lw_p19 : lw_okq (⟨"PlugHall", "runWithout", "(LPlugHall$Box;ILPlugHall$Outcome;)V"⟩, 36) := ⟨⟨by decide +kernel, by decide +kernel⟩, lw_t1 (List.mem_of_getElem? (i := 28) rfl), lw_t4 (List.mem_of_getElem? (i := 158) rfl), lw_t4 (List.mem_of_getElem? (i := 159) rfl)⟩
theorem lw_p20 : lw_okq (⟨"PlugHall", "find", "(I)V"⟩, 36) := ⟨⟨by decide +kernel, by decide +kernel⟩, lw_t1 (List.mem_of_getElem? (i := 28) rfl), lw_t4 (List.mem_of_getElem? (i := 173) rfl), lw_t4 (List.mem_of_getElem? (i := 174) rfl)⟩
theorem lw_p21 : lw_okq (⟨"PlugHall", "areLines", "(I)Z"⟩, 36) := ⟨⟨by decide +kernel, by decide +kernel⟩, lw_t1 (List.mem_of_getElem? (i := 28) rfl), lw_t4 (List.mem_of_getElem? (i := 181) rfl), lw_t4 (List.mem_of_getElem? (i := 182) rfl)⟩
theorem lw_p22 : lw_okq (⟨"PlugHall", "told", "(I)V"⟩, 36) := ⟨⟨by decide +kernel, by decide +kernel⟩, lw_t1 (List.mem_of_getElem? (i := 28) rfl), lw_t4 (List.mem_of_getElem? (i := 185) rfl), lw_t4 (List.mem_of_getElem? (i := 186) rfl)⟩
theorem lw_p23 : lw_okq (⟨"PlugHall$JobReader", "field", "()V"⟩, 10) := ⟨⟨by decide +kernel, by decide +kernel⟩, lw_t4 (List.mem_of_getElem? (i := 216) rfl), lw_t5 (List.mem_of_getElem? (i := 18) rfl), lw_t5 (List.mem_of_getElem? (i := 19) rfl)⟩
theorem lw_p24 : lw_okq (⟨"PlugHall$JobReader", "isName", "()Z"⟩, 10) := ⟨⟨by decide +kernel, by decide +kernel⟩, lw_t4 (List.mem_of_getElem? (i := 216) rfl), lw_t5 (List.mem_of_getElem? (i := 22) rfl), lw_t5 (List.mem_of_getElem? (i := 23) rfl)⟩
theorem lw_p25 : lw_okq (⟨"PlugHall$JobReader", "breaks", "()V"⟩, 10) := ⟨⟨by decide +kernel, by decide +kernel⟩, lw_t4 (List.mem_of_getElem? (i := 216) rfl), lw_t5 (List.mem_of_getElem? (i := 112) rfl), lw_t5 (List.mem_of_getElem? (i := 113) rfl)⟩
theorem lw_p26 : lw_okq (⟨"PlugHall$JobReader", "want", "(Z)V"⟩, 10) := ⟨⟨by decide +kernel, by decide +kernel⟩, lw_t4 (List.mem_of_getElem? (i := 216) rfl), lw_t5 (List.mem_of_getElem? (i := 117) rfl), lw_t5 (List.mem_of_getElem? (i := 118) rfl)⟩
theorem lw_p27 : lw_okq (⟨"PlugHall", "part", "()V"⟩, 36) := ⟨⟨by decide +kernel, by decide +kernel⟩, lw_t1 (List.mem_of_getElem? (i := 28) rfl), lw_t5 (List.mem_of_getElem? (i := 125) rfl), lw_t5 (List.mem_of_getElem? (i := 126) rfl)⟩
theorem lw_p28 : lw_okq (⟨"PlugHall$Maker", "wire", "(II)V"⟩, 7) := ⟨⟨by decide +kernel, by decide +kernel⟩, lw_t5 (List.mem_of_getElem? (i := 129) rfl), lw_t5 (List.mem_of_getElem? (i := 163) rfl), lw_t5 (List.mem_of_getElem? (i := 164) rfl)⟩
theorem lw_p29 : lw_okq (⟨"PlugHall$Maker", "takesIn", "(II)V"⟩, 7) := ⟨⟨by decide +kernel, by decide +kernel⟩, lw_t5 (List.mem_of_getElem? (i := 129) rfl), lw_t5 (List.mem_of_getElem? (i := 168) rfl), lw_t5 (List.mem_of_getElem? (i := 169) rfl)⟩
theorem lw_p30 : lw_okq (⟨"PlugHall$Maker", "point", "(I)I"⟩, 7) := ⟨⟨by decide +kernel, by decide +kernel⟩, lw_t5 (List.mem_of_getElem? (i := 129) rfl), lw_t5 (List.mem_of_getElem? (i := 172) rfl), lw_t5 (List.mem_of_getElem? (i := 173) rfl)⟩
theorem lw_p31 : lw_okq (⟨"PlugHall$Maker", "prints", "(II)V"⟩, 7) := ⟨⟨by decide +kernel, by decide +kernel⟩, lw_t5 (List.mem_of_getElem? (i := 129) rfl), lw_t5 (List.mem_of_getElem? (i := 176) rfl), lw_t5 (List.mem_of_getElem? (i := 177) rfl)⟩
def lw_privs_2 : List (MethodName × Nat) := [(⟨"PlugHall$Machine", "count", "()Z"⟩, 10), (⟨"PlugHall$Machine", "punch", "()Z"⟩, 10), (⟨"PlugHall$Machine", "giveTotal", "(I)V"⟩, 10), (⟨"PlugHall", "runWithout", "(LPlugHall$Box;ILPlugHall$Outcome;)V"⟩, 36), (⟨"PlugHall", "find", "(I)V"⟩, 36), (⟨"PlugHall", "areLines", "(I)Z"⟩, 36), (⟨"PlugHall", "told", "(I)V"⟩, 36), (⟨"PlugHall$JobReader", "field", "()V"⟩, 10), (⟨"PlugHall$JobReader", "isName", "()Z"⟩, 10), (⟨"PlugHall$JobReader", "breaks", "()V"⟩, 10), (⟨"PlugHall$JobReader", "want", "(Z)V"⟩, 10), (⟨"PlugHall", "part", "()V"⟩, 36), (⟨"PlugHall$Maker", "wire", "(II)V"⟩, 7), (⟨"PlugHall$Maker", "takesIn", "(II)V"⟩, 7), (⟨"PlugHall$Maker", "point", "(I)I"⟩, 7), (⟨"PlugHall$Maker", "prints", "(II)V"⟩, 7)]
theorem lw_r2 : ∀ q ∈ lw_privs_2, lw_okq q := List.forall_mem_cons.mpr ⟨lw_p16, List.forall_mem_cons.mpr ⟨lw_p17, List.forall_mem_cons.mpr ⟨lw_p18, List.forall_mem_cons.mpr ⟨lw_p19, List.forall_mem_cons.mpr ⟨lw_p20, List.forall_mem_cons.mpr ⟨lw_p21, List.forall_mem_cons.mpr ⟨lw_p22, List.forall_mem_cons.mpr ⟨lw_p23, List.forall_mem_cons.mpr ⟨lw_p24, List.forall_mem_cons.mpr ⟨lw_p25, List.forall_mem_cons.mpr ⟨lw_p26, List.forall_mem_cons.mpr ⟨lw_p27, List.forall_mem_cons.mpr ⟨lw_p28, List.forall_mem_cons.mpr ⟨lw_p29, List.forall_mem_cons.mpr ⟨lw_p30, List.forall_mem_cons.mpr ⟨lw_p31, fun _ h => absurd h List.not_mem_nil⟩⟩⟩⟩⟩⟩⟩⟩⟩⟩⟩⟩⟩⟩⟩⟩
theorem lw_p32 : lw_okq (⟨"PlugHall", "firstRun", "(I)I"⟩, 36) := ⟨⟨by decide +kernel, by decide +kernel⟩, lw_t1 (List.mem_of_getElem? (i := 28) rfl), lw_t5 (List.mem_of_getElem? (i := 180) rfl), lw_t5 (List.mem_of_getElem? (i := 181) rfl)⟩
theorem lw_p33 : lw_okq (⟨"PlugHall", "isRun", "(I)Z"⟩, 36) := ⟨⟨by decide +kernel, by decide +kernel⟩, lw_t1 (List.mem_of_getElem? (i := 28) rfl), lw_t5 (List.mem_of_getElem? (i := 192) rfl), lw_t5 (List.mem_of_getElem? (i := 193) rfl)⟩
theorem lw_p34 : lw_okq (⟨"PlugHall", "want", "(LPlugHall$Box;ILPlugHall$Outcome;)V"⟩, 36) := ⟨⟨by decide +kernel, by decide +kernel⟩, lw_t1 (List.mem_of_getElem? (i := 28) rfl), lw_t5 (List.mem_of_getElem? (i := 204) rfl), lw_t5 (List.mem_of_getElem? (i := 205) rfl)⟩
theorem lw_p35 : lw_okq (⟨"PlugHall", "total", "(II[ILPlugHall$Outcome;)V"⟩, 36) := ⟨⟨by decide +kernel, by decide +kernel⟩, lw_t1 (List.mem_of_getElem? (i := 28) rfl), lw_t5 (List.mem_of_getElem? (i := 217) rfl), lw_t5 (List.mem_of_getElem? (i := 218) rfl)⟩
theorem lw_p36 : lw_okq (⟨"PlugHall", "isOrdered", "(LPlugHall$Box;II)Z"⟩, 36) := ⟨⟨by decide +kernel, by decide +kernel⟩, lw_t1 (List.mem_of_getElem? (i := 28) rfl), lw_t5 (List.mem_of_getElem? (i := 234) rfl), lw_t5 (List.mem_of_getElem? (i := 235) rfl)⟩
theorem lw_p37 : lw_okq (⟨"PlugHall", "wiresOf", "(I)I"⟩, 36) := ⟨⟨by decide +kernel, by decide +kernel⟩, lw_t1 (List.mem_of_getElem? (i := 28) rfl), lw_t6 (List.mem_of_getElem? (i := 23) rfl), lw_t6 (List.mem_of_getElem? (i := 24) rfl)⟩
theorem lw_p38 : lw_okq (⟨"PlugHall", "isKept", "(I)Z"⟩, 36) := ⟨⟨by decide +kernel, by decide +kernel⟩, lw_t1 (List.mem_of_getElem? (i := 28) rfl), lw_t6 (List.mem_of_getElem? (i := 45) rfl), lw_t6 (List.mem_of_getElem? (i := 46) rfl)⟩
theorem lw_p39 : lw_okq (⟨"PlugHall$Board", "isLike", "(ILPlugHall$Board;I)Z"⟩, 3) := ⟨⟨by decide +kernel, by decide +kernel⟩, lw_t1 (List.mem_of_getElem? (i := 38) rfl), lw_t6 (List.mem_of_getElem? (i := 61) rfl), lw_t6 (List.mem_of_getElem? (i := 62) rfl)⟩
theorem lw_p40 : lw_okq (⟨"PlugHall", "plan", "(IIII)V"⟩, 36) := ⟨⟨by decide +kernel, by decide +kernel⟩, lw_t1 (List.mem_of_getElem? (i := 28) rfl), lw_t6 (List.mem_of_getElem? (i := 69) rfl), lw_t6 (List.mem_of_getElem? (i := 70) rfl)⟩
theorem lw_p41 : lw_okq (⟨"PlugHall", "two", "(I)I"⟩, 36) := ⟨⟨by decide +kernel, by decide +kernel⟩, lw_t1 (List.mem_of_getElem? (i := 28) rfl), lw_t6 (List.mem_of_getElem? (i := 73) rfl), lw_t6 (List.mem_of_getElem? (i := 74) rfl)⟩
theorem lw_p42 : lw_okq (⟨"PlugHallModel", "four", "(I)V"⟩, 92) := ⟨⟨by decide +kernel, by decide +kernel⟩, lw_t6 (List.mem_of_getElem? (i := 137) rfl), lw_t7 (List.mem_of_getElem? (i := 188) rfl), lw_t7 (List.mem_of_getElem? (i := 189) rfl)⟩
theorem lw_p43 : lw_okq (⟨"PlugHallModel", "taken", "()V"⟩, 92) := ⟨⟨by decide +kernel, by decide +kernel⟩, lw_t6 (List.mem_of_getElem? (i := 137) rfl), lw_t7 (List.mem_of_getElem? (i := 200) rfl), lw_t7 (List.mem_of_getElem? (i := 201) rfl)⟩
theorem lw_p44 : lw_okq (⟨"PlugHallModel", "octet", "(I)I"⟩, 92) := ⟨⟨by decide +kernel, by decide +kernel⟩, lw_t6 (List.mem_of_getElem? (i := 137) rfl), lw_t7 (List.mem_of_getElem? (i := 210) rfl), lw_t7 (List.mem_of_getElem? (i := 211) rfl)⟩
theorem lw_p45 : lw_okq (⟨"PlugHallModel", "throwsIf", "(Z)Z"⟩, 92) := ⟨⟨by decide +kernel, by decide +kernel⟩, lw_t6 (List.mem_of_getElem? (i := 137) rfl), lw_t7 (List.mem_of_getElem? (i := 222) rfl), lw_t7 (List.mem_of_getElem? (i := 223) rfl)⟩
theorem lw_p46 : lw_okq (⟨"PlugHallModel", "next", "()V"⟩, 92) := ⟨⟨by decide +kernel, by decide +kernel⟩, lw_t6 (List.mem_of_getElem? (i := 137) rfl), lw_t7 (List.mem_of_getElem? (i := 238) rfl), lw_t7 (List.mem_of_getElem? (i := 239) rfl)⟩
theorem lw_p47 : lw_okq (⟨"PlugHallModel", "peek", "()I"⟩, 92) := ⟨⟨by decide +kernel, by decide +kernel⟩, lw_t6 (List.mem_of_getElem? (i := 137) rfl), lw_t8 (List.mem_of_getElem? (i := 2) rfl), lw_t8 (List.mem_of_getElem? (i := 3) rfl)⟩
def lw_privs_3 : List (MethodName × Nat) := [(⟨"PlugHall", "firstRun", "(I)I"⟩, 36), (⟨"PlugHall", "isRun", "(I)Z"⟩, 36), (⟨"PlugHall", "want", "(LPlugHall$Box;ILPlugHall$Outcome;)V"⟩, 36), (⟨"PlugHall", "total", "(II[ILPlugHall$Outcome;)V"⟩, 36), (⟨"PlugHall", "isOrdered", "(LPlugHall$Box;II)Z"⟩, 36), (⟨"PlugHall", "wiresOf", "(I)I"⟩, 36), (⟨"PlugHall", "isKept", "(I)Z"⟩, 36), (⟨"PlugHall$Board", "isLike", "(ILPlugHall$Board;I)Z"⟩, 3), (⟨"PlugHall", "plan", "(IIII)V"⟩, 36), (⟨"PlugHall", "two", "(I)I"⟩, 36), (⟨"PlugHallModel", "four", "(I)V"⟩, 92), (⟨"PlugHallModel", "taken", "()V"⟩, 92), (⟨"PlugHallModel", "octet", "(I)I"⟩, 92), (⟨"PlugHallModel", "throwsIf", "(Z)Z"⟩, 92), (⟨"PlugHallModel", "next", "()V"⟩, 92), (⟨"PlugHallModel", "peek", "()I"⟩, 92)]
theorem lw_r3 : ∀ q ∈ lw_privs_3, lw_okq q := List.forall_mem_cons.mpr ⟨lw_p32, List.forall_mem_cons.mpr ⟨lw_p33, List.forall_mem_cons.mpr ⟨lw_p34, List.forall_mem_cons.mpr ⟨lw_p35, List.forall_mem_cons.mpr ⟨lw_p36, List.forall_mem_cons.mpr ⟨lw_p37, List.forall_mem_cons.mpr ⟨lw_p38, List.forall_mem_cons.mpr ⟨lw_p39, List.forall_mem_cons.mpr ⟨lw_p40, List.forall_mem_cons.mpr ⟨lw_p41, List.forall_mem_cons.mpr ⟨lw_p42, List.forall_mem_cons.mpr ⟨lw_p43, List.forall_mem_cons.mpr ⟨lw_p44, List.forall_mem_cons.mpr ⟨lw_p45, List.forall_mem_cons.mpr ⟨lw_p46, List.forall_mem_cons.mpr ⟨lw_p47, fun _ h => absurd h List.not_mem_nil⟩⟩⟩⟩⟩⟩⟩⟩⟩⟩⟩⟩⟩⟩⟩⟩
theorem lw_p48 : lw_okq (⟨"PlugHallModel", "read", "()Z"⟩, 92) := ⟨⟨by decide +kernel, by decide +kernel⟩, lw_t6 (List.mem_of_getElem? (i := 137) rfl), lw_t8 (List.mem_of_getElem? (i := 12) rfl), lw_t8 (List.mem_of_getElem? (i := 13) rfl)⟩
theorem lw_p49 : lw_okq (⟨"PlugHallModel", "isHub", "(J)Z"⟩, 92) := ⟨⟨by decide +kernel, by decide +kernel⟩, lw_t6 (List.mem_of_getElem? (i := 137) rfl), lw_t8 (List.mem_of_getElem? (i := 16) rfl), lw_t8 (List.mem_of_getElem? (i := 17) rfl)⟩
theorem lw_p50 : lw_okq (⟨"PlugHallModel", "bad", "(II)Z"⟩, 92) := ⟨⟨by decide +kernel, by decide +kernel⟩, lw_t6 (List.mem_of_getElem? (i := 137) rfl), lw_t8 (List.mem_of_getElem? (i := 43) rfl), lw_t8 (List.mem_of_getElem? (i := 44) rfl)⟩
theorem lw_p51 : lw_okq (⟨"PlugHallModel", "hub", "(I)I"⟩, 92) := ⟨⟨by decide +kernel, by decide +kernel⟩, lw_t6 (List.mem_of_getElem? (i := 137) rfl), lw_t8 (List.mem_of_getElem? (i := 47) rfl), lw_t8 (List.mem_of_getElem? (i := 48) rfl)⟩
theorem lw_p52 : lw_okq (⟨"PlugHallModel", "takes", "(II)Z"⟩, 92) := ⟨⟨by decide +kernel, by decide +kernel⟩, lw_t6 (List.mem_of_getElem? (i := 137) rfl), lw_t8 (List.mem_of_getElem? (i := 51) rfl), lw_t8 (List.mem_of_getElem? (i := 52) rfl)⟩
theorem lw_p53 : lw_okq (⟨"PlugHallModel", "sign", "(I)Z"⟩, 92) := ⟨⟨by decide +kernel, by decide +kernel⟩, lw_t6 (List.mem_of_getElem? (i := 137) rfl), lw_t8 (List.mem_of_getElem? (i := 55) rfl), lw_t8 (List.mem_of_getElem? (i := 56) rfl)⟩
theorem lw_p54 : lw_okq (⟨"PlugHallModel", "copyBoard", "(II)V"⟩, 92) := ⟨⟨by decide +kernel, by decide +kernel⟩, lw_t6 (List.mem_of_getElem? (i := 137) rfl), lw_t8 (List.mem_of_getElem? (i := 65) rfl), lw_t8 (List.mem_of_getElem? (i := 66) rfl)⟩
theorem lw_p55 : lw_okq (⟨"PlugHallModel", "load", "(IIII)V"⟩, 92) := ⟨⟨by decide +kernel, by decide +kernel⟩, lw_t6 (List.mem_of_getElem? (i := 137) rfl), lw_t8 (List.mem_of_getElem? (i := 73) rfl), lw_t8 (List.mem_of_getElem? (i := 74) rfl)⟩
theorem lw_p56 : lw_okq (⟨"PlugHallModel", "play", "(I)V"⟩, 92) := ⟨⟨by decide +kernel, by decide +kernel⟩, lw_t6 (List.mem_of_getElem? (i := 137) rfl), lw_t8 (List.mem_of_getElem? (i := 77) rfl), lw_t8 (List.mem_of_getElem? (i := 78) rfl)⟩
theorem lw_p57 : lw_okq (⟨"PlugHallModel", "nets", "([IZ)V"⟩, 92) := ⟨⟨by decide +kernel, by decide +kernel⟩, lw_t6 (List.mem_of_getElem? (i := 137) rfl), lw_t8 (List.mem_of_getElem? (i := 81) rfl), lw_t8 (List.mem_of_getElem? (i := 82) rfl)⟩
theorem lw_p58 : lw_okq (⟨"PlugHallModel", "digit", "(II)I"⟩, 92) := ⟨⟨by decide +kernel, by decide +kernel⟩, lw_t6 (List.mem_of_getElem? (i := 137) rfl), lw_t8 (List.mem_of_getElem? (i := 88) rfl), lw_t8 (List.mem_of_getElem? (i := 89) rfl)⟩
theorem lw_p59 : lw_okq (⟨"PlugHallModel", "cycle", "(Z)I"⟩, 92) := ⟨⟨by decide +kernel, by decide +kernel⟩, lw_t6 (List.mem_of_getElem? (i := 137) rfl), lw_t8 (List.mem_of_getElem? (i := 92) rfl), lw_t8 (List.mem_of_getElem? (i := 93) rfl)⟩
theorem lw_p60 : lw_okq (⟨"PlugHallModel", "gather", "([IZ)V"⟩, 92) := ⟨⟨by decide +kernel, by decide +kernel⟩, lw_t6 (List.mem_of_getElem? (i := 137) rfl), lw_t8 (List.mem_of_getElem? (i := 96) rfl), lw_t8 (List.mem_of_getElem? (i := 97) rfl)⟩
theorem lw_p61 : lw_okq (⟨"PlugHallModel", "have", "(I)I"⟩, 92) := ⟨⟨by decide +kernel, by decide +kernel⟩, lw_t6 (List.mem_of_getElem? (i := 137) rfl), lw_t8 (List.mem_of_getElem? (i := 100) rfl), lw_t8 (List.mem_of_getElem? (i := 101) rfl)⟩
theorem lw_p62 : lw_okq (⟨"PlugHallModel", "take", "([II)I"⟩, 92) := ⟨⟨by decide +kernel, by decide +kernel⟩, lw_t6 (List.mem_of_getElem? (i := 137) rfl), lw_t8 (List.mem_of_getElem? (i := 104) rfl), lw_t8 (List.mem_of_getElem? (i := 105) rfl)⟩
theorem lw_p63 : lw_okq (⟨"PlugHallModel", "jam", "(I)I"⟩, 92) := ⟨⟨by decide +kernel, by decide +kernel⟩, lw_t6 (List.mem_of_getElem? (i := 137) rfl), lw_t8 (List.mem_of_getElem? (i := 108) rfl), lw_t8 (List.mem_of_getElem? (i := 109) rfl)⟩
def lw_privs_4 : List (MethodName × Nat) := [(⟨"PlugHallModel", "read", "()Z"⟩, 92), (⟨"PlugHallModel", "isHub", "(J)Z"⟩, 92), (⟨"PlugHallModel", "bad", "(II)Z"⟩, 92), (⟨"PlugHallModel", "hub", "(I)I"⟩, 92), (⟨"PlugHallModel", "takes", "(II)Z"⟩, 92), (⟨"PlugHallModel", "sign", "(I)Z"⟩, 92), (⟨"PlugHallModel", "copyBoard", "(II)V"⟩, 92), (⟨"PlugHallModel", "load", "(IIII)V"⟩, 92), (⟨"PlugHallModel", "play", "(I)V"⟩, 92), (⟨"PlugHallModel", "nets", "([IZ)V"⟩, 92), (⟨"PlugHallModel", "digit", "(II)I"⟩, 92), (⟨"PlugHallModel", "cycle", "(Z)I"⟩, 92), (⟨"PlugHallModel", "gather", "([IZ)V"⟩, 92), (⟨"PlugHallModel", "have", "(I)I"⟩, 92), (⟨"PlugHallModel", "take", "([II)I"⟩, 92), (⟨"PlugHallModel", "jam", "(I)I"⟩, 92)]
theorem lw_r4 : ∀ q ∈ lw_privs_4, lw_okq q := List.forall_mem_cons.mpr ⟨lw_p48, List.forall_mem_cons.mpr ⟨lw_p49, List.forall_mem_cons.mpr ⟨lw_p50, List.forall_mem_cons.mpr ⟨lw_p51, List.forall_mem_cons.mpr ⟨lw_p52, List.forall_mem_cons.mpr ⟨lw_p53, List.forall_mem_cons.mpr ⟨lw_p54, List.forall_mem_cons.mpr ⟨lw_p55, List.forall_mem_cons.mpr ⟨lw_p56, List.forall_mem_cons.mpr ⟨lw_p57, List.forall_mem_cons.mpr ⟨lw_p58, List.forall_mem_cons.mpr ⟨lw_p59, List.forall_mem_cons.mpr ⟨lw_p60, List.forall_mem_cons.mpr ⟨lw_p61, List.forall_mem_cons.mpr ⟨lw_p62, List.forall_mem_cons.mpr ⟨lw_p63, fun _ h => absurd h List.not_mem_nil⟩⟩⟩⟩⟩⟩⟩⟩⟩⟩⟩⟩⟩⟩⟩⟩
theorem lw_p64 : lw_okq (⟨"PlugHallModel", "prints", "()Z"⟩, 92) := ⟨⟨by decide +kernel, by decide +kernel⟩, lw_t6 (List.mem_of_getElem? (i := 137) rfl), lw_t8 (List.mem_of_getElem? (i := 112) rfl), lw_t8 (List.mem_of_getElem? (i := 113) rfl)⟩
theorem lw_p65 : lw_okq (⟨"PlugHallModel", "turn", "(I)V"⟩, 92) := ⟨⟨by decide +kernel, by decide +kernel⟩, lw_t6 (List.mem_of_getElem? (i := 137) rfl), lw_t8 (List.mem_of_getElem? (i := 116) rfl), lw_t8 (List.mem_of_getElem? (i := 117) rfl)⟩
theorem lw_p66 : lw_okq (⟨"PlugHallModel", "total", "(I)V"⟩, 92) := ⟨⟨by decide +kernel, by decide +kernel⟩, lw_t6 (List.mem_of_getElem? (i := 137) rfl), lw_t8 (List.mem_of_getElem? (i := 123) rfl), lw_t8 (List.mem_of_getElem? (i := 124) rfl)⟩
theorem lw_p67 : lw_okq (⟨"PlugHallModel", "keepRun", "(I)V"⟩, 92) := ⟨⟨by decide +kernel, by decide +kernel⟩, lw_t6 (List.mem_of_getElem? (i := 137) rfl), lw_t8 (List.mem_of_getElem? (i := 127) rfl), lw_t8 (List.mem_of_getElem? (i := 128) rfl)⟩
theorem lw_p68 : lw_okq (⟨"PlugHallModel", "sort", "(II)V"⟩, 92) := ⟨⟨by decide +kernel, by decide +kernel⟩, lw_t6 (List.mem_of_getElem? (i := 137) rfl), lw_t8 (List.mem_of_getElem? (i := 147) rfl), lw_t8 (List.mem_of_getElem? (i := 148) rfl)⟩
theorem lw_p69 : lw_okq (⟨"PlugHallModel", "isOrdered", "(II)Z"⟩, 92) := ⟨⟨by decide +kernel, by decide +kernel⟩, lw_t6 (List.mem_of_getElem? (i := 137) rfl), lw_t8 (List.mem_of_getElem? (i := 158) rfl), lw_t8 (List.mem_of_getElem? (i := 159) rfl)⟩
theorem lw_p70 : lw_okq (⟨"PlugHallModel", "isLike", "(I)Z"⟩, 92) := ⟨⟨by decide +kernel, by decide +kernel⟩, lw_t6 (List.mem_of_getElem? (i := 137) rfl), lw_t8 (List.mem_of_getElem? (i := 170) rfl), lw_t8 (List.mem_of_getElem? (i := 171) rfl)⟩
theorem lw_p71 : lw_okq (⟨"PlugHallModel", "takeLines", "()Z"⟩, 92) := ⟨⟨by decide +kernel, by decide +kernel⟩, lw_t6 (List.mem_of_getElem? (i := 137) rfl), lw_t8 (List.mem_of_getElem? (i := 178) rfl), lw_t8 (List.mem_of_getElem? (i := 179) rfl)⟩
theorem lw_p72 : lw_okq (⟨"PlugHallModel", "isWanted", "()Z"⟩, 92) := ⟨⟨by decide +kernel, by decide +kernel⟩, lw_t6 (List.mem_of_getElem? (i := 137) rfl), lw_t8 (List.mem_of_getElem? (i := 182) rfl), lw_t8 (List.mem_of_getElem? (i := 183) rfl)⟩
theorem lw_p73 : lw_okq (⟨"PlugHallModel", "put", "(III)V"⟩, 92) := ⟨⟨by decide +kernel, by decide +kernel⟩, lw_t6 (List.mem_of_getElem? (i := 137) rfl), lw_t8 (List.mem_of_getElem? (i := 217) rfl), lw_t8 (List.mem_of_getElem? (i := 218) rfl)⟩
theorem lw_p74 : lw_okq (⟨"PlugHallModel", "readJob", "()Z"⟩, 92) := ⟨⟨by decide +kernel, by decide +kernel⟩, lw_t6 (List.mem_of_getElem? (i := 137) rfl), lw_t8 (List.mem_of_getElem? (i := 229) rfl), lw_t8 (List.mem_of_getElem? (i := 230) rfl)⟩
theorem lw_p75 : lw_okq (⟨"PlugHallModel", "isWord", "(J)Z"⟩, 92) := ⟨⟨by decide +kernel, by decide +kernel⟩, lw_t6 (List.mem_of_getElem? (i := 137) rfl), lw_t8 (List.mem_of_getElem? (i := 234) rfl), lw_t8 (List.mem_of_getElem? (i := 235) rfl)⟩
theorem lw_p76 : lw_okq (⟨"PlugHallModel", "want", "()Z"⟩, 92) := ⟨⟨by decide +kernel, by decide +kernel⟩, lw_t6 (List.mem_of_getElem? (i := 137) rfl), lw_t9 (List.mem_of_getElem? (i := 1) rfl), lw_t9 (List.mem_of_getElem? (i := 2) rfl)⟩
theorem lw_p77 : lw_okq (⟨"PlugHallModel", "isName", "()Z"⟩, 92) := ⟨⟨by decide +kernel, by decide +kernel⟩, lw_t6 (List.mem_of_getElem? (i := 137) rfl), lw_t9 (List.mem_of_getElem? (i := 5) rfl), lw_t9 (List.mem_of_getElem? (i := 6) rfl)⟩
theorem lw_p78 : lw_okq (⟨"PlugHallModel", "named", "(J)I"⟩, 92) := ⟨⟨by decide +kernel, by decide +kernel⟩, lw_t6 (List.mem_of_getElem? (i := 137) rfl), lw_t9 (List.mem_of_getElem? (i := 10) rfl), lw_t9 (List.mem_of_getElem? (i := 11) rfl)⟩
theorem lw_p79 : lw_okq (⟨"PlugHallModel", "field", "()Z"⟩, 92) := ⟨⟨by decide +kernel, by decide +kernel⟩, lw_t6 (List.mem_of_getElem? (i := 137) rfl), lw_t9 (List.mem_of_getElem? (i := 14) rfl), lw_t9 (List.mem_of_getElem? (i := 15) rfl)⟩
def lw_privs_5 : List (MethodName × Nat) := [(⟨"PlugHallModel", "prints", "()Z"⟩, 92), (⟨"PlugHallModel", "turn", "(I)V"⟩, 92), (⟨"PlugHallModel", "total", "(I)V"⟩, 92), (⟨"PlugHallModel", "keepRun", "(I)V"⟩, 92), (⟨"PlugHallModel", "sort", "(II)V"⟩, 92), (⟨"PlugHallModel", "isOrdered", "(II)Z"⟩, 92), (⟨"PlugHallModel", "isLike", "(I)Z"⟩, 92), (⟨"PlugHallModel", "takeLines", "()Z"⟩, 92), (⟨"PlugHallModel", "isWanted", "()Z"⟩, 92), (⟨"PlugHallModel", "put", "(III)V"⟩, 92), (⟨"PlugHallModel", "readJob", "()Z"⟩, 92), (⟨"PlugHallModel", "isWord", "(J)Z"⟩, 92), (⟨"PlugHallModel", "want", "()Z"⟩, 92), (⟨"PlugHallModel", "isName", "()Z"⟩, 92), (⟨"PlugHallModel", "named", "(J)I"⟩, 92), (⟨"PlugHallModel", "field", "()Z"⟩, 92)]
theorem lw_r5 : ∀ q ∈ lw_privs_5, lw_okq q := List.forall_mem_cons.mpr ⟨lw_p64, List.forall_mem_cons.mpr ⟨lw_p65, List.forall_mem_cons.mpr ⟨lw_p66, List.forall_mem_cons.mpr ⟨lw_p67, List.forall_mem_cons.mpr ⟨lw_p68, List.forall_mem_cons.mpr ⟨lw_p69, List.forall_mem_cons.mpr ⟨lw_p70, List.forall_mem_cons.mpr ⟨lw_p71, List.forall_mem_cons.mpr ⟨lw_p72, List.forall_mem_cons.mpr ⟨lw_p73, List.forall_mem_cons.mpr ⟨lw_p74, List.forall_mem_cons.mpr ⟨lw_p75, List.forall_mem_cons.mpr ⟨lw_p76, List.forall_mem_cons.mpr ⟨lw_p77, List.forall_mem_cons.mpr ⟨lw_p78, List.forall_mem_cons.mpr ⟨lw_p79, fun _ h => absurd h List.not_mem_nil⟩⟩⟩⟩⟩⟩⟩⟩⟩⟩⟩⟩⟩⟩⟩⟩
theorem lw_p80 : lw_okq (⟨"PlugHallModel", "breaks", "()Z"⟩, 92) := ⟨⟨by decide +kernel, by decide +kernel⟩, lw_t6 (List.mem_of_getElem? (i := 137) rfl), lw_t9 (List.mem_of_getElem? (i := 18) rfl), lw_t9 (List.mem_of_getElem? (i := 19) rfl)⟩
theorem lw_p81 : lw_okq (⟨"PlugHallModel", "plan", "()I"⟩, 92) := ⟨⟨by decide +kernel, by decide +kernel⟩, lw_t6 (List.mem_of_getElem? (i := 137) rfl), lw_t9 (List.mem_of_getElem? (i := 26) rfl), lw_t9 (List.mem_of_getElem? (i := 27) rfl)⟩
theorem lw_p82 : lw_okq (⟨"PlugHallModel", "make0", "(I)Z"⟩, 92) := ⟨⟨by decide +kernel, by decide +kernel⟩, lw_t6 (List.mem_of_getElem? (i := 137) rfl), lw_t9 (List.mem_of_getElem? (i := 30) rfl), lw_t9 (List.mem_of_getElem? (i := 31) rfl)⟩
theorem lw_p83 : lw_okq (⟨"PlugHallModel", "lay", "(II)V"⟩, 92) := ⟨⟨by decide +kernel, by decide +kernel⟩, lw_t6 (List.mem_of_getElem? (i := 137) rfl), lw_t9 (List.mem_of_getElem? (i := 34) rfl), lw_t9 (List.mem_of_getElem? (i := 35) rfl)⟩
theorem lw_p84 : lw_okq (⟨"PlugHallModel", "addends", "(II)V"⟩, 92) := ⟨⟨by decide +kernel, by decide +kernel⟩, lw_t6 (List.mem_of_getElem? (i := 137) rfl), lw_t9 (List.mem_of_getElem? (i := 38) rfl), lw_t9 (List.mem_of_getElem? (i := 39) rfl)⟩
theorem lw_p85 : lw_okq (⟨"PlugHallModel", "point", "(I)I"⟩, 92) := ⟨⟨by decide +kernel, by decide +kernel⟩, lw_t6 (List.mem_of_getElem? (i := 137) rfl), lw_t9 (List.mem_of_getElem? (i := 42) rfl), lw_t9 (List.mem_of_getElem? (i := 43) rfl)⟩
theorem lw_p86 : lw_okq (⟨"PlugHallModel", "part", "(I)I"⟩, 92) := ⟨⟨by decide +kernel, by decide +kernel⟩, lw_t6 (List.mem_of_getElem? (i := 137) rfl), lw_t9 (List.mem_of_getElem? (i := 50) rfl), lw_t9 (List.mem_of_getElem? (i := 51) rfl)⟩
theorem lw_p87 : lw_okq (⟨"PlugHallModel", "dues", "(II)I"⟩, 92) := ⟨⟨by decide +kernel, by decide +kernel⟩, lw_t6 (List.mem_of_getElem? (i := 137) rfl), lw_t9 (List.mem_of_getElem? (i := 62) rfl), lw_t9 (List.mem_of_getElem? (i := 63) rfl)⟩
theorem lw_p88 : lw_okq (⟨"PlugHallModel", "added", "(II)I"⟩, 92) := ⟨⟨by decide +kernel, by decide +kernel⟩, lw_t6 (List.mem_of_getElem? (i := 137) rfl), lw_t9 (List.mem_of_getElem? (i := 66) rfl), lw_t9 (List.mem_of_getElem? (i := 67) rfl)⟩
theorem lw_p89 : lw_okq (⟨"PlugHallModel", "dueLine", "(II)V"⟩, 92) := ⟨⟨by decide +kernel, by decide +kernel⟩, lw_t6 (List.mem_of_getElem? (i := 137) rfl), lw_t9 (List.mem_of_getElem? (i := 70) rfl), lw_t9 (List.mem_of_getElem? (i := 71) rfl)⟩
theorem lw_p90 : lw_okq (⟨"PlugHallModel", "isThere", "(I)Z"⟩, 92) := ⟨⟨by decide +kernel, by decide +kernel⟩, lw_t6 (List.mem_of_getElem? (i := 137) rfl), lw_t9 (List.mem_of_getElem? (i := 90) rfl), lw_t9 (List.mem_of_getElem? (i := 91) rfl)⟩
theorem lw_p91 : lw_okq (⟨"PlugHallModel", "differ", "(II)I"⟩, 92) := ⟨⟨by decide +kernel, by decide +kernel⟩, lw_t6 (List.mem_of_getElem? (i := 137) rfl), lw_t9 (List.mem_of_getElem? (i := 98) rfl), lw_t9 (List.mem_of_getElem? (i := 99) rfl)⟩
theorem lw_p92 : lw_okq (⟨"PlugHallModel", "isOne", "(II)Z"⟩, 92) := ⟨⟨by decide +kernel, by decide +kernel⟩, lw_t6 (List.mem_of_getElem? (i := 137) rfl), lw_t9 (List.mem_of_getElem? (i := 102) rfl), lw_t9 (List.mem_of_getElem? (i := 103) rfl)⟩
theorem lw_p93 : lw_okq (⟨"PlugHallModel", "spell", "(III)V"⟩, 92) := ⟨⟨by decide +kernel, by decide +kernel⟩, lw_t6 (List.mem_of_getElem? (i := 137) rfl), lw_t9 (List.mem_of_getElem? (i := 110) rfl), lw_t9 (List.mem_of_getElem? (i := 111) rfl)⟩
theorem lw_p94 : lw_okq (⟨"PlugHallModel", "ends", "(I)I"⟩, 92) := ⟨⟨by decide +kernel, by decide +kernel⟩, lw_t6 (List.mem_of_getElem? (i := 137) rfl), lw_t9 (List.mem_of_getElem? (i := 114) rfl), lw_t9 (List.mem_of_getElem? (i := 115) rfl)⟩
def lw_privs_6 : List (MethodName × Nat) := [(⟨"PlugHallModel", "breaks", "()Z"⟩, 92), (⟨"PlugHallModel", "plan", "()I"⟩, 92), (⟨"PlugHallModel", "make0", "(I)Z"⟩, 92), (⟨"PlugHallModel", "lay", "(II)V"⟩, 92), (⟨"PlugHallModel", "addends", "(II)V"⟩, 92), (⟨"PlugHallModel", "point", "(I)I"⟩, 92), (⟨"PlugHallModel", "part", "(I)I"⟩, 92), (⟨"PlugHallModel", "dues", "(II)I"⟩, 92), (⟨"PlugHallModel", "added", "(II)I"⟩, 92), (⟨"PlugHallModel", "dueLine", "(II)V"⟩, 92), (⟨"PlugHallModel", "isThere", "(I)Z"⟩, 92), (⟨"PlugHallModel", "differ", "(II)I"⟩, 92), (⟨"PlugHallModel", "isOne", "(II)Z"⟩, 92), (⟨"PlugHallModel", "spell", "(III)V"⟩, 92), (⟨"PlugHallModel", "ends", "(I)I"⟩, 92)]
theorem lw_r6 : ∀ q ∈ lw_privs_6, lw_okq q := List.forall_mem_cons.mpr ⟨lw_p80, List.forall_mem_cons.mpr ⟨lw_p81, List.forall_mem_cons.mpr ⟨lw_p82, List.forall_mem_cons.mpr ⟨lw_p83, List.forall_mem_cons.mpr ⟨lw_p84, List.forall_mem_cons.mpr ⟨lw_p85, List.forall_mem_cons.mpr ⟨lw_p86, List.forall_mem_cons.mpr ⟨lw_p87, List.forall_mem_cons.mpr ⟨lw_p88, List.forall_mem_cons.mpr ⟨lw_p89, List.forall_mem_cons.mpr ⟨lw_p90, List.forall_mem_cons.mpr ⟨lw_p91, List.forall_mem_cons.mpr ⟨lw_p92, List.forall_mem_cons.mpr ⟨lw_p93, List.forall_mem_cons.mpr ⟨lw_p94, fun _ h => absurd h List.not_mem_nil⟩⟩⟩⟩⟩⟩⟩⟩⟩⟩⟩⟩⟩⟩⟩
def lw_privs : List (MethodName × Nat) := lw_privs_1 ++ (lw_privs_2 ++ (lw_privs_3 ++ (lw_privs_4 ++ (lw_privs_5 ++ (lw_privs_6)))))
def lw_tbl : List Cond := k2_sels lw_privs ++ tables_1
theorem lw_privs_ok : ∀ q ∈ lw_privs, lw_okq q := by
  show ∀ q ∈ lw_privs_1 ++ (lw_privs_2 ++ (lw_privs_3 ++ (lw_privs_4 ++ (lw_privs_5 ++ (lw_privs_6))))), lw_okq q
  exact List.forall_mem_append.mpr ⟨lw_r1, List.forall_mem_append.mpr ⟨lw_r2, List.forall_mem_append.mpr ⟨lw_r3, List.forall_mem_append.mpr ⟨lw_r4, List.forall_mem_append.mpr ⟨lw_r5, lw_r6⟩⟩⟩⟩⟩
-- ===== ONE list of words for every method: the tables' words that hold all through a run =====
def lw_all : List Cond := lw_tbl.filter goodWord
/-- a word of the tables by its place: claim/WORDS.tsv -/
theorem lw_w {w : Cond} (i : Nat) (h : lw_tbl[i]? = some w) (g : goodWord w = true) : w ∈ lw_all := List.mem_filter.mpr ⟨List.mem_of_getElem? h, g⟩
theorem lw_all_tbl {w : Cond} (h : w ∈ lw_all) : w ∈ lw_tbl := (List.mem_filter.mp h).1
theorem lw_self : GoodIn lw_all lw_all := fun w h => ⟨h, good_of_word (List.mem_filter.mp h).2⟩
/-- a class's field words, by their places -/
theorem lw_in (ws : List Cond) (ps : List Nat) (hp : ws = ps.filterMap (fun i => lw_tbl[i]?)) (hg : ws.all goodWord = true) : ∀ w ∈ ws, w ∈ lw_all := by
  intro w h
  have h1 := List.all_eq_true.mp hg w h
  rw [hp] at h
  obtain ⟨i, -, hi⟩ := List.mem_filterMap.mp h
  exact lw_w i hi h1
/-- the words of a contract for the method y with code b, L locals, answer r -/
abbrev ws_ (y : MethodName) (b : ByteArray) (L : Nat) (r : Option FieldType) : List Cond := Cond.code y b L r :: lw_all
theorem lw_meth {y : MethodName} {b : ByteArray} {L : Nat} {r : Option FieldType} (h : Cond.code y b L r ∈ lw_all) : GoodIn lw_all (ws_ y b L r) := by
  intro w hw
  rcases List.mem_cons.mp hw with e | e
  · rw [e]
    exact lw_self _ h
  · exact lw_self _ e
theorem lw_app {a c : List Cond} (ha : ∀ w ∈ a, w ∈ lw_all) (hc : GoodIn lw_all c) : GoodIn lw_all (a ++ c) := by
  intro w hw
  rcases List.mem_append.mp hw with e | e
  · exact lw_self w (ha w e)
  · exact hc w e
/-- what a call through an object asks: cwV n hts (lw_V ..) -/
theorem lw_V {own : String} {idx : Nat} {C : String} {y : MethodName} {b : ByteArray} {L : Nat} {r : Option FieldType} (h1 : Cond.methodLink own idx y ∈ lw_all) (h2 : Cond.instanceMethod y ∈ lw_all) (h3 : Cond.selects C y y ∈ lw_all) (h4 : Cond.initialized C ∈ lw_all) (h5 : Cond.code y b L r ∈ lw_all) : GoodIn lw_all (wsV own idx C y (ws_ y b L r)) := by
  refine lw_app ?_ (lw_meth h5)
  intro w hw
  simp only [List.mem_cons, List.not_mem_nil, or_false] at hw
  rcases hw with e | e | e | e
  · rw [e]; exact h1
  · rw [e]; exact h2
  · rw [e]; exact h3
  · rw [e]; exact h4
/-- what a static call asks: va_cwS n hts (lw_S ..) -/
theorem lw_S {own : String} {idx : Nat} {y : MethodName} {b : ByteArray} {L : Nat} {r : Option FieldType} (h1 : Cond.methodLink own idx y ∈ lw_all) (h2 : Cond.static y ∈ lw_all) (h3 : Cond.initialized y.cls ∈ lw_all) (h4 : Cond.code y b L r ∈ lw_all) : GoodIn lw_all (va_wsS own idx y (ws_ y b L r)) := by
  refine lw_app ?_ (lw_meth h4)
  intro w hw
  simp only [List.mem_cons, List.not_mem_nil, or_false] at hw
  rcases hw with e | e | e
  · rw [e]; exact h1
  · rw [e]; exact h2
  · rw [e]; exact h3
/-- the words of a contract for a method WITH HANDLERS (hh: its table) -/
abbrev wsW_ (y : MethodName) (b : ByteArray) (L : Nat) (r : Option FieldType) (hh : List (Nat × Nat × Nat × Nat)) : List Cond := Cond.codeWith y b L r hh :: lw_all
theorem lw_methW {y : MethodName} {b : ByteArray} {L : Nat} {r : Option FieldType} {hh : List (Nat × Nat × Nat × Nat)} (h : Cond.codeWith y b L r hh ∈ lw_all) : GoodIn lw_all (wsW_ y b L r hh) := by
  intro w hw
  rcases List.mem_cons.mp hw with e | e
  · rw [e]
    exact lw_self _ h
  · exact lw_self _ e
/-- any list of words by their places (lw_in), good -/
theorem lw_good {ws : List Cond} (h : ∀ w ∈ ws, w ∈ lw_all) : GoodIn lw_all ws := fun w hw => lw_self w (h w hw)
/-- what a call of a method with handlers asks: vx_cwVW n hts (lw_VW ..), vx_cwSW n hts (lw_SW ..) -/
theorem lw_VW {own : String} {idx : Nat} {C : String} {y : MethodName} {b : ByteArray} {L : Nat} {r : Option FieldType} {hh : List (Nat × Nat × Nat × Nat)} (h1 : Cond.methodLink own idx y ∈ lw_all) (h2 : Cond.instanceMethod y ∈ lw_all) (h3 : Cond.selects C y y ∈ lw_all) (h4 : Cond.initialized C ∈ lw_all) (h5 : Cond.codeWith y b L r hh ∈ lw_all) : GoodIn lw_all (wsV own idx C y (wsW_ y b L r hh)) := by
  refine lw_app ?_ (lw_methW h5)
  intro w hw
  simp only [List.mem_cons, List.not_mem_nil, or_false] at hw
  rcases hw with e | e | e | e
  · rw [e]; exact h1
  · rw [e]; exact h2
  · rw [e]; exact h3
  · rw [e]; exact h4
theorem lw_SW {own : String} {idx : Nat} {y : MethodName} {b : ByteArray} {L : Nat} {r : Option FieldType} {hh : List (Nat × Nat × Nat × Nat)} (h1 : Cond.methodLink own idx y ∈ lw_all) (h2 : Cond.static y ∈ lw_all) (h3 : Cond.initialized y.cls ∈ lw_all) (h4 : Cond.codeWith y b L r hh ∈ lw_all) : GoodIn lw_all (va_wsS own idx y (wsW_ y b L r hh)) := by
  refine lw_app ?_ (lw_methW h4)
  intro w hw
  simp only [List.mem_cons, List.not_mem_nil, or_false] at hw
  rcases hw with e | e | e
  · rw [e]; exact h1
  · rw [e]; exact h2
  · rw [e]; exact h3
/-- a word by its place in its run of the tables -/
theorem lw_at {r : List Cond} (hr : ∀ w ∈ r, w ∈ lw_tbl) {w : Cond} (i : Nat) (h : r[i]? = some w) : w ∈ lw_tbl := hr w (List.mem_of_getElem? h)
theorem lw_g {w : Cond} (h : w ∈ lw_tbl) (g : goodWord w = true) : w ∈ lw_all := List.mem_filter.mpr ⟨h, g⟩
theorem lw_ms : ∀ w ∈ k2_sels lw_privs, w ∈ lw_tbl := fun w h => show w ∈ k2_sels lw_privs ++ tables_1 from List.mem_append_left _ h
theorem lw_m1 : ∀ w ∈ tables_1_1, w ∈ lw_tbl := fun w h => show w ∈ k2_sels lw_privs ++ tables_1 from List.mem_append_right (k2_sels lw_privs) (show w ∈ tables_1 from List.mem_append_left _ h)
theorem lw_m2 : ∀ w ∈ tables_1_2, w ∈ lw_tbl := fun w h => show w ∈ k2_sels lw_privs ++ tables_1 from List.mem_append_right (k2_sels lw_privs) (show w ∈ tables_1 from List.mem_append_right _ (List.mem_append_left _ h))
theorem lw_m3 : ∀ w ∈ tables_1_3, w ∈ lw_tbl := fun w h => show w ∈ k2_sels lw_privs ++ tables_1 from List.mem_append_right (k2_sels lw_privs) (show w ∈ tables_1 from List.mem_append_right _ (List.mem_append_right _ (List.mem_append_left _ h)))
theorem lw_m4 : ∀ w ∈ tables_1_4, w ∈ lw_tbl := fun w h => show w ∈ k2_sels lw_privs ++ tables_1 from List.mem_append_right (k2_sels lw_privs) (show w ∈ tables_1 from List.mem_append_right _ (List.mem_append_right _ (List.mem_append_right _ (List.mem_append_left _ h))))
theorem lw_m5 : ∀ w ∈ tables_1_5, w ∈ lw_tbl := fun w h => show w ∈ k2_sels lw_privs ++ tables_1 from List.mem_append_right (k2_sels lw_privs) (show w ∈ tables_1 from List.mem_append_right _ (List.mem_append_right _ (List.mem_append_right _ (List.mem_append_right _ (List.mem_append_left _ h)))))
theorem lw_m6 : ∀ w ∈ tables_1_6, w ∈ lw_tbl := fun w h => show w ∈ k2_sels lw_privs ++ tables_1 from List.mem_append_right (k2_sels lw_privs) (show w ∈ tables_1 from List.mem_append_right _ (List.mem_append_right _ (List.mem_append_right _ (List.mem_append_right _ (List.mem_append_right _ (List.mem_append_left _ h))))))
theorem lw_m7 : ∀ w ∈ tables_1_7, w ∈ lw_tbl := fun w h => show w ∈ k2_sels lw_privs ++ tables_1 from List.mem_append_right (k2_sels lw_privs) (show w ∈ tables_1 from List.mem_append_right _ (List.mem_append_right _ (List.mem_append_right _ (List.mem_append_right _ (List.mem_append_right _ (List.mem_append_right _ (List.mem_append_left _ h)))))))
theorem lw_m8 : ∀ w ∈ tables_1_8, w ∈ lw_tbl := fun w h => show w ∈ k2_sels lw_privs ++ tables_1 from List.mem_append_right (k2_sels lw_privs) (show w ∈ tables_1 from List.mem_append_right _ (List.mem_append_right _ (List.mem_append_right _ (List.mem_append_right _ (List.mem_append_right _ (List.mem_append_right _ (List.mem_append_right _ (List.mem_append_left _ h))))))))
theorem lw_m9 : ∀ w ∈ tables_1_9, w ∈ lw_tbl := fun w h => show w ∈ k2_sels lw_privs ++ tables_1 from List.mem_append_right (k2_sels lw_privs) (show w ∈ tables_1 from List.mem_append_right _ (List.mem_append_right _ (List.mem_append_right _ (List.mem_append_right _ (List.mem_append_right _ (List.mem_append_right _ (List.mem_append_right _ (List.mem_append_right _ h))))))))
theorem qs0 : (Cond.selects "PlugHall" ⟨"PlugHall", "come", "(I)V"⟩ ⟨"PlugHall", "come", "(I)V"⟩) ∈ lw_all := lw_g (lw_at lw_ms 0 rfl) rfl
theorem qs1 : (Cond.selects "PlugHall" ⟨"PlugHall", "take", "()I"⟩ ⟨"PlugHall", "take", "()I"⟩) ∈ lw_all := lw_g (lw_at lw_ms 1 rfl) rfl
theorem qs2 : (Cond.selects "PlugHall$Reader" ⟨"PlugHall$Reader", "hub", "(I)I"⟩ ⟨"PlugHall$Reader", "hub", "(I)I"⟩) ∈ lw_all := lw_g (lw_at lw_ms 2 rfl) rfl
theorem qs3 : (Cond.selects "PlugHall$Reader" ⟨"PlugHall$Reader", "sort", "()LPlugHall$Sort;"⟩ ⟨"PlugHall$Reader", "sort", "()LPlugHall$Sort;"⟩) ∈ lw_all := lw_g (lw_at lw_ms 3 rfl) rfl
theorem qs4 : (Cond.selects "java/lang/Throwable" ⟨"java/lang/Throwable", "fillInStackTrace", "(I)Ljava/lang/Throwable;"⟩ ⟨"java/lang/Throwable", "fillInStackTrace", "(I)Ljava/lang/Throwable;"⟩) ∈ lw_all := lw_g (lw_at lw_ms 4 rfl) rfl
theorem qs5 : (Cond.selects "PlugHall$Machine" ⟨"PlugHall$Machine", "giveCard", "([B[B)V"⟩ ⟨"PlugHall$Machine", "giveCard", "([B[B)V"⟩) ∈ lw_all := lw_g (lw_at lw_ms 5 rfl) rfl
theorem qs6 : (Cond.selects "PlugHall$Machine" ⟨"PlugHall$Machine", "settle", "(Z)Z"⟩ ⟨"PlugHall$Machine", "settle", "(Z)Z"⟩) ∈ lw_all := lw_g (lw_at lw_ms 6 rfl) rfl
theorem qs7 : (Cond.selects "PlugHall$Machine" ⟨"PlugHall$Machine", "joinNets", "()V"⟩ ⟨"PlugHall$Machine", "joinNets", "()V"⟩) ∈ lw_all := lw_g (lw_at lw_ms 7 rfl) rfl
theorem qs8 : (Cond.selects "PlugHall$Machine" ⟨"PlugHall$Machine", "join", "(II)V"⟩ ⟨"PlugHall$Machine", "join", "(II)V"⟩) ∈ lw_all := lw_g (lw_at lw_ms 8 rfl) rfl
theorem qs9 : (Cond.selects "PlugHall$Machine" ⟨"PlugHall$Machine", "root", "(I)I"⟩ ⟨"PlugHall$Machine", "root", "(I)I"⟩) ∈ lw_all := lw_g (lw_at lw_ms 9 rfl) rfl
theorem qs10 : (Cond.selects "PlugHall$Machine" ⟨"PlugHall$Machine", "seek", "()Z"⟩ ⟨"PlugHall$Machine", "seek", "()Z"⟩) ∈ lw_all := lw_g (lw_at lw_ms 10 rfl) rfl
theorem qs11 : (Cond.selects "PlugHall$Machine" ⟨"PlugHall$Machine", "takes", "(I)Z"⟩ ⟨"PlugHall$Machine", "takes", "(I)Z"⟩) ∈ lw_all := lw_g (lw_at lw_ms 11 rfl) rfl
theorem qs12 : (Cond.selects "PlugHall$Machine" ⟨"PlugHall$Machine", "take", "(I)I"⟩ ⟨"PlugHall$Machine", "take", "(I)I"⟩) ∈ lw_all := lw_g (lw_at lw_ms 12 rfl) rfl
theorem qs13 : (Cond.selects "PlugHall$Machine" ⟨"PlugHall$Machine", "breaks", "()I"⟩ ⟨"PlugHall$Machine", "breaks", "()I"⟩) ∈ lw_all := lw_g (lw_at lw_ms 13 rfl) rfl
theorem qs14 : (Cond.selects "PlugHall$Machine" ⟨"PlugHall$Machine", "act", "()Z"⟩ ⟨"PlugHall$Machine", "act", "()Z"⟩) ∈ lw_all := lw_g (lw_at lw_ms 14 rfl) rfl
theorem qs15 : (Cond.selects "PlugHall$Machine" ⟨"PlugHall$Machine", "print", "()Z"⟩ ⟨"PlugHall$Machine", "print", "()Z"⟩) ∈ lw_all := lw_g (lw_at lw_ms 15 rfl) rfl
theorem qs16 : (Cond.selects "PlugHall$Machine" ⟨"PlugHall$Machine", "count", "()Z"⟩ ⟨"PlugHall$Machine", "count", "()Z"⟩) ∈ lw_all := lw_g (lw_at lw_ms 16 rfl) rfl
theorem qs17 : (Cond.selects "PlugHall$Machine" ⟨"PlugHall$Machine", "punch", "()Z"⟩ ⟨"PlugHall$Machine", "punch", "()Z"⟩) ∈ lw_all := lw_g (lw_at lw_ms 17 rfl) rfl
theorem qs18 : (Cond.selects "PlugHall$Machine" ⟨"PlugHall$Machine", "giveTotal", "(I)V"⟩ ⟨"PlugHall$Machine", "giveTotal", "(I)V"⟩) ∈ lw_all := lw_g (lw_at lw_ms 18 rfl) rfl
theorem qs19 : (Cond.selects "PlugHall" ⟨"PlugHall", "runWithout", "(LPlugHall$Box;ILPlugHall$Outcome;)V"⟩ ⟨"PlugHall", "runWithout", "(LPlugHall$Box;ILPlugHall$Outcome;)V"⟩) ∈ lw_all := lw_g (lw_at lw_ms 19 rfl) rfl
theorem qs20 : (Cond.selects "PlugHall" ⟨"PlugHall", "find", "(I)V"⟩ ⟨"PlugHall", "find", "(I)V"⟩) ∈ lw_all := lw_g (lw_at lw_ms 20 rfl) rfl
theorem qs21 : (Cond.selects "PlugHall" ⟨"PlugHall", "areLines", "(I)Z"⟩ ⟨"PlugHall", "areLines", "(I)Z"⟩) ∈ lw_all := lw_g (lw_at lw_ms 21 rfl) rfl
theorem qs22 : (Cond.selects "PlugHall" ⟨"PlugHall", "told", "(I)V"⟩ ⟨"PlugHall", "told", "(I)V"⟩) ∈ lw_all := lw_g (lw_at lw_ms 22 rfl) rfl
theorem qs23 : (Cond.selects "PlugHall$JobReader" ⟨"PlugHall$JobReader", "field", "()V"⟩ ⟨"PlugHall$JobReader", "field", "()V"⟩) ∈ lw_all := lw_g (lw_at lw_ms 23 rfl) rfl
theorem qs24 : (Cond.selects "PlugHall$JobReader" ⟨"PlugHall$JobReader", "isName", "()Z"⟩ ⟨"PlugHall$JobReader", "isName", "()Z"⟩) ∈ lw_all := lw_g (lw_at lw_ms 24 rfl) rfl
theorem qs25 : (Cond.selects "PlugHall$JobReader" ⟨"PlugHall$JobReader", "breaks", "()V"⟩ ⟨"PlugHall$JobReader", "breaks", "()V"⟩) ∈ lw_all := lw_g (lw_at lw_ms 25 rfl) rfl
theorem qs26 : (Cond.selects "PlugHall$JobReader" ⟨"PlugHall$JobReader", "want", "(Z)V"⟩ ⟨"PlugHall$JobReader", "want", "(Z)V"⟩) ∈ lw_all := lw_g (lw_at lw_ms 26 rfl) rfl
theorem qs27 : (Cond.selects "PlugHall" ⟨"PlugHall", "part", "()V"⟩ ⟨"PlugHall", "part", "()V"⟩) ∈ lw_all := lw_g (lw_at lw_ms 27 rfl) rfl
theorem qs28 : (Cond.selects "PlugHall$Maker" ⟨"PlugHall$Maker", "wire", "(II)V"⟩ ⟨"PlugHall$Maker", "wire", "(II)V"⟩) ∈ lw_all := lw_g (lw_at lw_ms 28 rfl) rfl
theorem qs29 : (Cond.selects "PlugHall$Maker" ⟨"PlugHall$Maker", "takesIn", "(II)V"⟩ ⟨"PlugHall$Maker", "takesIn", "(II)V"⟩) ∈ lw_all := lw_g (lw_at lw_ms 29 rfl) rfl
theorem qs30 : (Cond.selects "PlugHall$Maker" ⟨"PlugHall$Maker", "point", "(I)I"⟩ ⟨"PlugHall$Maker", "point", "(I)I"⟩) ∈ lw_all := lw_g (lw_at lw_ms 30 rfl) rfl
theorem qs31 : (Cond.selects "PlugHall$Maker" ⟨"PlugHall$Maker", "prints", "(II)V"⟩ ⟨"PlugHall$Maker", "prints", "(II)V"⟩) ∈ lw_all := lw_g (lw_at lw_ms 31 rfl) rfl
theorem qs32 : (Cond.selects "PlugHall" ⟨"PlugHall", "firstRun", "(I)I"⟩ ⟨"PlugHall", "firstRun", "(I)I"⟩) ∈ lw_all := lw_g (lw_at lw_ms 32 rfl) rfl
theorem qs33 : (Cond.selects "PlugHall" ⟨"PlugHall", "isRun", "(I)Z"⟩ ⟨"PlugHall", "isRun", "(I)Z"⟩) ∈ lw_all := lw_g (lw_at lw_ms 33 rfl) rfl
theorem qs34 : (Cond.selects "PlugHall" ⟨"PlugHall", "want", "(LPlugHall$Box;ILPlugHall$Outcome;)V"⟩ ⟨"PlugHall", "want", "(LPlugHall$Box;ILPlugHall$Outcome;)V"⟩) ∈ lw_all := lw_g (lw_at lw_ms 34 rfl) rfl
theorem qs35 : (Cond.selects "PlugHall" ⟨"PlugHall", "total", "(II[ILPlugHall$Outcome;)V"⟩ ⟨"PlugHall", "total", "(II[ILPlugHall$Outcome;)V"⟩) ∈ lw_all := lw_g (lw_at lw_ms 35 rfl) rfl
theorem qs36 : (Cond.selects "PlugHall" ⟨"PlugHall", "isOrdered", "(LPlugHall$Box;II)Z"⟩ ⟨"PlugHall", "isOrdered", "(LPlugHall$Box;II)Z"⟩) ∈ lw_all := lw_g (lw_at lw_ms 36 rfl) rfl
theorem qs37 : (Cond.selects "PlugHall" ⟨"PlugHall", "wiresOf", "(I)I"⟩ ⟨"PlugHall", "wiresOf", "(I)I"⟩) ∈ lw_all := lw_g (lw_at lw_ms 37 rfl) rfl
theorem qs38 : (Cond.selects "PlugHall" ⟨"PlugHall", "isKept", "(I)Z"⟩ ⟨"PlugHall", "isKept", "(I)Z"⟩) ∈ lw_all := lw_g (lw_at lw_ms 38 rfl) rfl
theorem qs39 : (Cond.selects "PlugHall$Board" ⟨"PlugHall$Board", "isLike", "(ILPlugHall$Board;I)Z"⟩ ⟨"PlugHall$Board", "isLike", "(ILPlugHall$Board;I)Z"⟩) ∈ lw_all := lw_g (lw_at lw_ms 39 rfl) rfl
theorem qs40 : (Cond.selects "PlugHall" ⟨"PlugHall", "plan", "(IIII)V"⟩ ⟨"PlugHall", "plan", "(IIII)V"⟩) ∈ lw_all := lw_g (lw_at lw_ms 40 rfl) rfl
theorem qs41 : (Cond.selects "PlugHall" ⟨"PlugHall", "two", "(I)I"⟩ ⟨"PlugHall", "two", "(I)I"⟩) ∈ lw_all := lw_g (lw_at lw_ms 41 rfl) rfl
theorem qs42 : (Cond.selects "PlugHallModel" ⟨"PlugHallModel", "four", "(I)V"⟩ ⟨"PlugHallModel", "four", "(I)V"⟩) ∈ lw_all := lw_g (lw_at lw_ms 42 rfl) rfl
theorem qs43 : (Cond.selects "PlugHallModel" ⟨"PlugHallModel", "taken", "()V"⟩ ⟨"PlugHallModel", "taken", "()V"⟩) ∈ lw_all := lw_g (lw_at lw_ms 43 rfl) rfl
theorem qs44 : (Cond.selects "PlugHallModel" ⟨"PlugHallModel", "octet", "(I)I"⟩ ⟨"PlugHallModel", "octet", "(I)I"⟩) ∈ lw_all := lw_g (lw_at lw_ms 44 rfl) rfl
theorem qs45 : (Cond.selects "PlugHallModel" ⟨"PlugHallModel", "throwsIf", "(Z)Z"⟩ ⟨"PlugHallModel", "throwsIf", "(Z)Z"⟩) ∈ lw_all := lw_g (lw_at lw_ms 45 rfl) rfl
theorem qs46 : (Cond.selects "PlugHallModel" ⟨"PlugHallModel", "next", "()V"⟩ ⟨"PlugHallModel", "next", "()V"⟩) ∈ lw_all := lw_g (lw_at lw_ms 46 rfl) rfl
theorem qs47 : (Cond.selects "PlugHallModel" ⟨"PlugHallModel", "peek", "()I"⟩ ⟨"PlugHallModel", "peek", "()I"⟩) ∈ lw_all := lw_g (lw_at lw_ms 47 rfl) rfl
theorem qs48 : (Cond.selects "PlugHallModel" ⟨"PlugHallModel", "read", "()Z"⟩ ⟨"PlugHallModel", "read", "()Z"⟩) ∈ lw_all := lw_g (lw_at lw_ms 48 rfl) rfl
theorem qs49 : (Cond.selects "PlugHallModel" ⟨"PlugHallModel", "isHub", "(J)Z"⟩ ⟨"PlugHallModel", "isHub", "(J)Z"⟩) ∈ lw_all := lw_g (lw_at lw_ms 49 rfl) rfl
theorem qs50 : (Cond.selects "PlugHallModel" ⟨"PlugHallModel", "bad", "(II)Z"⟩ ⟨"PlugHallModel", "bad", "(II)Z"⟩) ∈ lw_all := lw_g (lw_at lw_ms 50 rfl) rfl
theorem qs51 : (Cond.selects "PlugHallModel" ⟨"PlugHallModel", "hub", "(I)I"⟩ ⟨"PlugHallModel", "hub", "(I)I"⟩) ∈ lw_all := lw_g (lw_at lw_ms 51 rfl) rfl
theorem qs52 : (Cond.selects "PlugHallModel" ⟨"PlugHallModel", "takes", "(II)Z"⟩ ⟨"PlugHallModel", "takes", "(II)Z"⟩) ∈ lw_all := lw_g (lw_at lw_ms 52 rfl) rfl
theorem qs53 : (Cond.selects "PlugHallModel" ⟨"PlugHallModel", "sign", "(I)Z"⟩ ⟨"PlugHallModel", "sign", "(I)Z"⟩) ∈ lw_all := lw_g (lw_at lw_ms 53 rfl) rfl
theorem qs54 : (Cond.selects "PlugHallModel" ⟨"PlugHallModel", "copyBoard", "(II)V"⟩ ⟨"PlugHallModel", "copyBoard", "(II)V"⟩) ∈ lw_all := lw_g (lw_at lw_ms 54 rfl) rfl
theorem qs55 : (Cond.selects "PlugHallModel" ⟨"PlugHallModel", "load", "(IIII)V"⟩ ⟨"PlugHallModel", "load", "(IIII)V"⟩) ∈ lw_all := lw_g (lw_at lw_ms 55 rfl) rfl
theorem qs56 : (Cond.selects "PlugHallModel" ⟨"PlugHallModel", "play", "(I)V"⟩ ⟨"PlugHallModel", "play", "(I)V"⟩) ∈ lw_all := lw_g (lw_at lw_ms 56 rfl) rfl
theorem qs57 : (Cond.selects "PlugHallModel" ⟨"PlugHallModel", "nets", "([IZ)V"⟩ ⟨"PlugHallModel", "nets", "([IZ)V"⟩) ∈ lw_all := lw_g (lw_at lw_ms 57 rfl) rfl
theorem qs58 : (Cond.selects "PlugHallModel" ⟨"PlugHallModel", "digit", "(II)I"⟩ ⟨"PlugHallModel", "digit", "(II)I"⟩) ∈ lw_all := lw_g (lw_at lw_ms 58 rfl) rfl
theorem qs59 : (Cond.selects "PlugHallModel" ⟨"PlugHallModel", "cycle", "(Z)I"⟩ ⟨"PlugHallModel", "cycle", "(Z)I"⟩) ∈ lw_all := lw_g (lw_at lw_ms 59 rfl) rfl
theorem qs60 : (Cond.selects "PlugHallModel" ⟨"PlugHallModel", "gather", "([IZ)V"⟩ ⟨"PlugHallModel", "gather", "([IZ)V"⟩) ∈ lw_all := lw_g (lw_at lw_ms 60 rfl) rfl
theorem qs61 : (Cond.selects "PlugHallModel" ⟨"PlugHallModel", "have", "(I)I"⟩ ⟨"PlugHallModel", "have", "(I)I"⟩) ∈ lw_all := lw_g (lw_at lw_ms 61 rfl) rfl
theorem qs62 : (Cond.selects "PlugHallModel" ⟨"PlugHallModel", "take", "([II)I"⟩ ⟨"PlugHallModel", "take", "([II)I"⟩) ∈ lw_all := lw_g (lw_at lw_ms 62 rfl) rfl
theorem qs63 : (Cond.selects "PlugHallModel" ⟨"PlugHallModel", "jam", "(I)I"⟩ ⟨"PlugHallModel", "jam", "(I)I"⟩) ∈ lw_all := lw_g (lw_at lw_ms 63 rfl) rfl
theorem qs64 : (Cond.selects "PlugHallModel" ⟨"PlugHallModel", "prints", "()Z"⟩ ⟨"PlugHallModel", "prints", "()Z"⟩) ∈ lw_all := lw_g (lw_at lw_ms 64 rfl) rfl
theorem qs65 : (Cond.selects "PlugHallModel" ⟨"PlugHallModel", "turn", "(I)V"⟩ ⟨"PlugHallModel", "turn", "(I)V"⟩) ∈ lw_all := lw_g (lw_at lw_ms 65 rfl) rfl
theorem qs66 : (Cond.selects "PlugHallModel" ⟨"PlugHallModel", "total", "(I)V"⟩ ⟨"PlugHallModel", "total", "(I)V"⟩) ∈ lw_all := lw_g (lw_at lw_ms 66 rfl) rfl
theorem qs67 : (Cond.selects "PlugHallModel" ⟨"PlugHallModel", "keepRun", "(I)V"⟩ ⟨"PlugHallModel", "keepRun", "(I)V"⟩) ∈ lw_all := lw_g (lw_at lw_ms 67 rfl) rfl
theorem qs68 : (Cond.selects "PlugHallModel" ⟨"PlugHallModel", "sort", "(II)V"⟩ ⟨"PlugHallModel", "sort", "(II)V"⟩) ∈ lw_all := lw_g (lw_at lw_ms 68 rfl) rfl
theorem qs69 : (Cond.selects "PlugHallModel" ⟨"PlugHallModel", "isOrdered", "(II)Z"⟩ ⟨"PlugHallModel", "isOrdered", "(II)Z"⟩) ∈ lw_all := lw_g (lw_at lw_ms 69 rfl) rfl
theorem qs70 : (Cond.selects "PlugHallModel" ⟨"PlugHallModel", "isLike", "(I)Z"⟩ ⟨"PlugHallModel", "isLike", "(I)Z"⟩) ∈ lw_all := lw_g (lw_at lw_ms 70 rfl) rfl
theorem qs71 : (Cond.selects "PlugHallModel" ⟨"PlugHallModel", "takeLines", "()Z"⟩ ⟨"PlugHallModel", "takeLines", "()Z"⟩) ∈ lw_all := lw_g (lw_at lw_ms 71 rfl) rfl
theorem qs72 : (Cond.selects "PlugHallModel" ⟨"PlugHallModel", "isWanted", "()Z"⟩ ⟨"PlugHallModel", "isWanted", "()Z"⟩) ∈ lw_all := lw_g (lw_at lw_ms 72 rfl) rfl
theorem qs73 : (Cond.selects "PlugHallModel" ⟨"PlugHallModel", "put", "(III)V"⟩ ⟨"PlugHallModel", "put", "(III)V"⟩) ∈ lw_all := lw_g (lw_at lw_ms 73 rfl) rfl
theorem qs74 : (Cond.selects "PlugHallModel" ⟨"PlugHallModel", "readJob", "()Z"⟩ ⟨"PlugHallModel", "readJob", "()Z"⟩) ∈ lw_all := lw_g (lw_at lw_ms 74 rfl) rfl
theorem qs75 : (Cond.selects "PlugHallModel" ⟨"PlugHallModel", "isWord", "(J)Z"⟩ ⟨"PlugHallModel", "isWord", "(J)Z"⟩) ∈ lw_all := lw_g (lw_at lw_ms 75 rfl) rfl
theorem qs76 : (Cond.selects "PlugHallModel" ⟨"PlugHallModel", "want", "()Z"⟩ ⟨"PlugHallModel", "want", "()Z"⟩) ∈ lw_all := lw_g (lw_at lw_ms 76 rfl) rfl
theorem qs77 : (Cond.selects "PlugHallModel" ⟨"PlugHallModel", "isName", "()Z"⟩ ⟨"PlugHallModel", "isName", "()Z"⟩) ∈ lw_all := lw_g (lw_at lw_ms 77 rfl) rfl
theorem qs78 : (Cond.selects "PlugHallModel" ⟨"PlugHallModel", "named", "(J)I"⟩ ⟨"PlugHallModel", "named", "(J)I"⟩) ∈ lw_all := lw_g (lw_at lw_ms 78 rfl) rfl
theorem qs79 : (Cond.selects "PlugHallModel" ⟨"PlugHallModel", "field", "()Z"⟩ ⟨"PlugHallModel", "field", "()Z"⟩) ∈ lw_all := lw_g (lw_at lw_ms 79 rfl) rfl
theorem qs80 : (Cond.selects "PlugHallModel" ⟨"PlugHallModel", "breaks", "()Z"⟩ ⟨"PlugHallModel", "breaks", "()Z"⟩) ∈ lw_all := lw_g (lw_at lw_ms 80 rfl) rfl
theorem qs81 : (Cond.selects "PlugHallModel" ⟨"PlugHallModel", "plan", "()I"⟩ ⟨"PlugHallModel", "plan", "()I"⟩) ∈ lw_all := lw_g (lw_at lw_ms 81 rfl) rfl
theorem qs82 : (Cond.selects "PlugHallModel" ⟨"PlugHallModel", "make0", "(I)Z"⟩ ⟨"PlugHallModel", "make0", "(I)Z"⟩) ∈ lw_all := lw_g (lw_at lw_ms 82 rfl) rfl
theorem qs83 : (Cond.selects "PlugHallModel" ⟨"PlugHallModel", "lay", "(II)V"⟩ ⟨"PlugHallModel", "lay", "(II)V"⟩) ∈ lw_all := lw_g (lw_at lw_ms 83 rfl) rfl
theorem qs84 : (Cond.selects "PlugHallModel" ⟨"PlugHallModel", "addends", "(II)V"⟩ ⟨"PlugHallModel", "addends", "(II)V"⟩) ∈ lw_all := lw_g (lw_at lw_ms 84 rfl) rfl
theorem qs85 : (Cond.selects "PlugHallModel" ⟨"PlugHallModel", "point", "(I)I"⟩ ⟨"PlugHallModel", "point", "(I)I"⟩) ∈ lw_all := lw_g (lw_at lw_ms 85 rfl) rfl
theorem qs86 : (Cond.selects "PlugHallModel" ⟨"PlugHallModel", "part", "(I)I"⟩ ⟨"PlugHallModel", "part", "(I)I"⟩) ∈ lw_all := lw_g (lw_at lw_ms 86 rfl) rfl
theorem qs87 : (Cond.selects "PlugHallModel" ⟨"PlugHallModel", "dues", "(II)I"⟩ ⟨"PlugHallModel", "dues", "(II)I"⟩) ∈ lw_all := lw_g (lw_at lw_ms 87 rfl) rfl
theorem qs88 : (Cond.selects "PlugHallModel" ⟨"PlugHallModel", "added", "(II)I"⟩ ⟨"PlugHallModel", "added", "(II)I"⟩) ∈ lw_all := lw_g (lw_at lw_ms 88 rfl) rfl
theorem qs89 : (Cond.selects "PlugHallModel" ⟨"PlugHallModel", "dueLine", "(II)V"⟩ ⟨"PlugHallModel", "dueLine", "(II)V"⟩) ∈ lw_all := lw_g (lw_at lw_ms 89 rfl) rfl
theorem qs90 : (Cond.selects "PlugHallModel" ⟨"PlugHallModel", "isThere", "(I)Z"⟩ ⟨"PlugHallModel", "isThere", "(I)Z"⟩) ∈ lw_all := lw_g (lw_at lw_ms 90 rfl) rfl
theorem qs91 : (Cond.selects "PlugHallModel" ⟨"PlugHallModel", "differ", "(II)I"⟩ ⟨"PlugHallModel", "differ", "(II)I"⟩) ∈ lw_all := lw_g (lw_at lw_ms 91 rfl) rfl
theorem qs92 : (Cond.selects "PlugHallModel" ⟨"PlugHallModel", "isOne", "(II)Z"⟩ ⟨"PlugHallModel", "isOne", "(II)Z"⟩) ∈ lw_all := lw_g (lw_at lw_ms 92 rfl) rfl
theorem qs93 : (Cond.selects "PlugHallModel" ⟨"PlugHallModel", "spell", "(III)V"⟩ ⟨"PlugHallModel", "spell", "(III)V"⟩) ∈ lw_all := lw_g (lw_at lw_ms 93 rfl) rfl
theorem qs94 : (Cond.selects "PlugHallModel" ⟨"PlugHallModel", "ends", "(I)I"⟩ ⟨"PlugHallModel", "ends", "(I)I"⟩) ∈ lw_all := lw_g (lw_at lw_ms 94 rfl) rfl
