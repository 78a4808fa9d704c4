-- ===== PART A: goes FIRST, ahead of the names: the tables' words, and 'selects' of the private methods out of them =====
/-- a private method of a class that the tables say can be made, by its rows of tables_1 -/
def lw_okq (q : MethodName × Nat) : Prop := (q.1.cls ≠ "java/lang/invoke/MethodHandle" ∧ q.1.cls ≠ "java/lang/invoke/VarHandle") ∧ Cond.instantiable q.1.cls q.2 ∈ tables_1 ∧ Cond.privateMethod q.1 ∈ tables_1 ∧ Cond.instanceMethod q.1 ∈ tables_1
set_option maxRecDepth 100000
theorem lw_t1 {w : Cond} (h : w ∈ tables_1_1) : w ∈ tables_1 := List.mem_append_left _ h
theorem lw_t2 {w : Cond} (h : w ∈ tables_1_2) : w ∈ tables_1 := List.mem_append_right _ (List.mem_append_left _ h)
theorem lw_t3 {w : Cond} (h : w ∈ tables_1_3) : w ∈ tables_1 := List.mem_append_right _ (List.mem_append_right _ (List.mem_append_left _ h))
theorem lw_t4 {w : Cond} (h : w ∈ tables_1_4) : w ∈ tables_1 := List.mem_append_right _ (List.mem_append_right _ (List.mem_append_right _ (List.mem_append_left _ h)))
theorem lw_t5 {w : Cond} (h : w ∈ tables_1_5) : w ∈ tables_1 := List.mem_append_right _ (List.mem_append_right _ (List.mem_append_right _ (List.mem_append_right _ (List.mem_append_left _ h))))
theorem lw_t6 {w : Cond} (h : w ∈ tables_1_6) : w ∈ tables_1 := List.mem_append_right _ (List.mem_append_right _ (List.mem_append_right _ (List.mem_append_right _ (List.mem_append_right _ (List.mem_append_left _ h)))))
theorem lw_t7 {w : Cond} (h : w ∈ tables_1_7) : w ∈ tables_1 := List.mem_append_right _ (List.mem_append_right _ (List.mem_append_right _ (List.mem_append_right _ (List.mem_append_right _ (List.mem_append_right _ h)))))
theorem lw_p0 : lw_okq (⟨"InsuredFlame", "push", "(I)V"⟩, 17) := ⟨⟨by decide +kernel, by decide +kernel⟩, lw_t1 (List.mem_of_getElem? (i := 28) rfl), lw_t2 (List.mem_of_getElem? (i := 11) rfl), lw_t2 (List.mem_of_getElem? (i := 12) rfl)⟩
theorem lw_p1 : lw_okq (⟨"InsuredFlame$Reader", "isGood", "()Z"⟩, 7) := ⟨⟨by decide +kernel, by decide +kernel⟩, lw_t2 (List.mem_of_getElem? (i := 22) rfl), lw_t2 (List.mem_of_getElem? (i := 57) rfl), lw_t2 (List.mem_of_getElem? (i := 58) rfl)⟩
theorem lw_p2 : lw_okq (⟨"InsuredFlame$Reader", "clause", "()V"⟩, 7) := ⟨⟨by decide +kernel, by decide +kernel⟩, lw_t2 (List.mem_of_getElem? (i := 22) rfl), lw_t2 (List.mem_of_getElem? (i := 61) rfl), lw_t2 (List.mem_of_getElem? (i := 62) rfl)⟩
theorem lw_p3 : lw_okq (⟨"InsuredFlame$Reader", "here", "()I"⟩, 7) := ⟨⟨by decide +kernel, by decide +kernel⟩, lw_t2 (List.mem_of_getElem? (i := 22) rfl), lw_t2 (List.mem_of_getElem? (i := 65) rfl), lw_t2 (List.mem_of_getElem? (i := 66) rfl)⟩
theorem lw_p4 : lw_okq (⟨"InsuredFlame$Reader", "bad", "(II)V"⟩, 7) := ⟨⟨by decide +kernel, by decide +kernel⟩, lw_t2 (List.mem_of_getElem? (i := 22) rfl), lw_t2 (List.mem_of_getElem? (i := 156) rfl), lw_t2 (List.mem_of_getElem? (i := 157) rfl)⟩
theorem lw_p5 : lw_okq (⟨"InsuredFlame$Reader", "sum", "()LInsuredFlame$Sum;"⟩, 7) := ⟨⟨by decide +kernel, by decide +kernel⟩, lw_t2 (List.mem_of_getElem? (i := 22) rfl), lw_t2 (List.mem_of_getElem? (i := 160) rfl), lw_t2 (List.mem_of_getElem? (i := 161) rfl)⟩
theorem lw_p6 : lw_okq (⟨"InsuredFlame$Reader", "product", "()LInsuredFlame$Sum;"⟩, 7) := ⟨⟨by decide +kernel, by decide +kernel⟩, lw_t2 (List.mem_of_getElem? (i := 22) rfl), lw_t2 (List.mem_of_getElem? (i := 166) rfl), lw_t2 (List.mem_of_getElem? (i := 167) rfl)⟩
theorem lw_p7 : lw_okq (⟨"InsuredFlame$Reader", "factor", "()LInsuredFlame$Sum;"⟩, 7) := ⟨⟨by decide +kernel, by decide +kernel⟩, lw_t2 (List.mem_of_getElem? (i := 22) rfl), lw_t2 (List.mem_of_getElem? (i := 170) rfl), lw_t2 (List.mem_of_getElem? (i := 171) rfl)⟩
theorem lw_p8 : lw_okq (⟨"InsuredFlame$Reader", "opens", "()V"⟩, 7) := ⟨⟨by decide +kernel, by decide +kernel⟩, lw_t2 (List.mem_of_getElem? (i := 22) rfl), lw_t2 (List.mem_of_getElem? (i := 174) rfl), lw_t2 (List.mem_of_getElem? (i := 175) rfl)⟩
theorem lw_p9 : lw_okq (⟨"InsuredFlame$Reader", "must", "(I)V"⟩, 7) := ⟨⟨by decide +kernel, by decide +kernel⟩, lw_t2 (List.mem_of_getElem? (i := 22) rfl), lw_t2 (List.mem_of_getElem? (i := 178) rfl), lw_t2 (List.mem_of_getElem? (i := 179) rfl)⟩
theorem lw_p10 : lw_okq (⟨"InsuredFlame$Reader", "seesDigit", "()Z"⟩, 7) := ⟨⟨by decide +kernel, by decide +kernel⟩, lw_t2 (List.mem_of_getElem? (i := 22) rfl), lw_t2 (List.mem_of_getElem? (i := 182) rfl), lw_t2 (List.mem_of_getElem? (i := 183) rfl)⟩
theorem lw_p11 : lw_okq (⟨"InsuredFlame$Reader", "number", "()I"⟩, 7) := ⟨⟨by decide +kernel, by decide +kernel⟩, lw_t2 (List.mem_of_getElem? (i := 22) rfl), lw_t2 (List.mem_of_getElem? (i := 188) rfl), lw_t2 (List.mem_of_getElem? (i := 189) rfl)⟩
theorem lw_p12 : lw_okq (⟨"InsuredFlame$Reader", "condition", "()LInsuredFlame$Condition;"⟩, 7) := ⟨⟨by decide +kernel, by decide +kernel⟩, lw_t2 (List.mem_of_getElem? (i := 22) rfl), lw_t2 (List.mem_of_getElem? (i := 229) rfl), lw_t2 (List.mem_of_getElem? (i := 230) rfl)⟩
theorem lw_p13 : lw_okq (⟨"InsuredFlame$Reader", "pieces", "()LInsuredFlame$Condition;"⟩, 7) := ⟨⟨by decide +kernel, by decide +kernel⟩, lw_t2 (List.mem_of_getElem? (i := 22) rfl), lw_t2 (List.mem_of_getElem? (i := 235) rfl), lw_t2 (List.mem_of_getElem? (i := 236) rfl)⟩
theorem lw_p14 : lw_okq (⟨"InsuredFlame$Reader", "piece", "()LInsuredFlame$Condition;"⟩, 7) := ⟨⟨by decide +kernel, by decide +kernel⟩, lw_t2 (List.mem_of_getElem? (i := 22) rfl), lw_t2 (List.mem_of_getElem? (i := 239) rfl), lw_t3 (List.mem_of_getElem? (i := 0) rfl)⟩
theorem lw_p15 : lw_okq (⟨"InsuredFlame$Surveyor", "row", "()V"⟩, 9) := ⟨⟨by decide +kernel, by decide +kernel⟩, lw_t3 (List.mem_of_getElem? (i := 51) rfl), lw_t3 (List.mem_of_getElem? (i := 93) rfl), lw_t3 (List.mem_of_getElem? (i := 94) rfl)⟩
def lw_privs_1 : List (MethodName × Nat) := [(⟨"InsuredFlame", "push", "(I)V"⟩, 17), (⟨"InsuredFlame$Reader", "isGood", "()Z"⟩, 7), (⟨"InsuredFlame$Reader", "clause", "()V"⟩, 7), (⟨"InsuredFlame$Reader", "here", "()I"⟩, 7), (⟨"InsuredFlame$Reader", "bad", "(II)V"⟩, 7), (⟨"InsuredFlame$Reader", "sum", "()LInsuredFlame$Sum;"⟩, 7), (⟨"InsuredFlame$Reader", "product", "()LInsuredFlame$Sum;"⟩, 7), (⟨"InsuredFlame$Reader", "factor", "()LInsuredFlame$Sum;"⟩, 7), (⟨"InsuredFlame$Reader", "opens", "()V"⟩, 7), (⟨"InsuredFlame$Reader", "must", "(I)V"⟩, 7), (⟨"InsuredFlame$Reader", "seesDigit", "()Z"⟩, 7), (⟨"InsuredFlame$Reader", "number", "()I"⟩, 7), (⟨"InsuredFlame$Reader", "condition", "()LInsuredFlame$Condition;"⟩, 7), (⟨"InsuredFlame$Reader", "pieces", "()LInsuredFlame$Condition;"⟩, 7), (⟨"InsuredFlame$Reader", "piece", "()LInsuredFlame$Condition;"⟩, 7), (⟨"InsuredFlame$Surveyor", "row", "()V"⟩, 9)]
theorem lw_r1 : ∀ q ∈ lw_privs_1, lw_okq q := List.forall_mem_cons.mpr ⟨lw_p0, List.forall_mem_cons.mpr ⟨lw_p1, List.forall_mem_cons.mpr ⟨lw_p2, List.forall_mem_cons.mpr ⟨lw_p3, List.forall_mem_cons.mpr ⟨lw_p4, List.forall_mem_cons.mpr ⟨lw_p5, List.forall_mem_cons.mpr ⟨lw_p6, List.forall_mem_cons.mpr ⟨lw_p7, List.forall_mem_cons.mpr ⟨lw_p8, List.forall_mem_cons.mpr ⟨lw_p9, List.forall_mem_cons.mpr ⟨lw_p10, List.forall_mem_cons.mpr ⟨lw_p11, List.forall_mem_cons.mpr ⟨lw_p12, List.forall_mem_cons.mpr ⟨lw_p13, List.forall_mem_cons.mpr ⟨lw_p14, List.forall_mem_cons.mpr ⟨lw_p15, fun _ h => absurd h List.not_mem_nil⟩⟩⟩⟩⟩⟩⟩⟩⟩⟩⟩⟩⟩⟩⟩⟩
theorem lw_p16 : lw_okq (⟨"InsuredFlame$Surveyor", "kind", "()I"⟩, 9) := ⟨⟨by decide +kernel, by decide +kernel⟩, lw_t3 (List.mem_of_getElem? (i := 51) rfl), lw_t3 (List.mem_of_getElem? (i := 109) rfl), lw_t3 (List.mem_of_getElem? (i := 110) rfl)⟩
theorem lw_p17 : lw_okq (⟨"InsuredFlame$Surveyor", "sign", "()V"⟩, 9) := ⟨⟨by decide +kernel, by decide +kernel⟩, lw_t3 (List.mem_of_getElem? (i := 51) rfl), lw_t3 (List.mem_of_getElem? (i := 137) rfl), lw_t3 (List.mem_of_getElem? (i := 138) rfl)⟩
theorem lw_p18 : lw_okq (⟨"InsuredFlame$Clerk", "line", "()V"⟩, 8) := ⟨⟨by decide +kernel, by decide +kernel⟩, lw_t3 (List.mem_of_getElem? (i := 176) rfl), lw_t3 (List.mem_of_getElem? (i := 202) rfl), lw_t3 (List.mem_of_getElem? (i := 203) rfl)⟩
theorem lw_p19 : lw_okq (⟨"InsuredFlame$Clerk", "thing", "()V"⟩, 8) := ⟨⟨by decide +kernel, by decide +kernel⟩, lw_t3 (List.mem_of_getElem? (i := 176) rfl), lw_t3 (List.mem_of_getElem? (i := 221) rfl), lw_t3 (List.mem_of_getElem? (i := 222) rfl)⟩
theorem lw_p20 : lw_okq (⟨"InsuredFlame$Clerk", "number", "(I)I"⟩, 8) := ⟨⟨by decide +kernel, by decide +kernel⟩, lw_t3 (List.mem_of_getElem? (i := 176) rfl), lw_t3 (List.mem_of_getElem? (i := 225) rfl), lw_t3 (List.mem_of_getElem? (i := 226) rfl)⟩
theorem lw_p21 : lw_okq (⟨"InsuredFlame$Clerk", "spot", "()I"⟩, 8) := ⟨⟨by decide +kernel, by decide +kernel⟩, lw_t3 (List.mem_of_getElem? (i := 176) rfl), lw_t3 (List.mem_of_getElem? (i := 232) rfl), lw_t3 (List.mem_of_getElem? (i := 233) rfl)⟩
theorem lw_p22 : lw_okq (⟨"InsuredFlame$Clerk", "lit", "()V"⟩, 8) := ⟨⟨by decide +kernel, by decide +kernel⟩, lw_t3 (List.mem_of_getElem? (i := 176) rfl), lw_t3 (List.mem_of_getElem? (i := 236) rfl), lw_t3 (List.mem_of_getElem? (i := 237) rfl)⟩
theorem lw_p23 : lw_okq (⟨"InsuredFlame$Clerk", "wet", "()V"⟩, 8) := ⟨⟨by decide +kernel, by decide +kernel⟩, lw_t3 (List.mem_of_getElem? (i := 176) rfl), lw_t4 (List.mem_of_getElem? (i := 4) rfl), lw_t4 (List.mem_of_getElem? (i := 5) rfl)⟩
theorem lw_p24 : lw_okq (⟨"InsuredFlame$Fire", "burns", "(I)V"⟩, 8) := ⟨⟨by decide +kernel, by decide +kernel⟩, lw_t1 (List.mem_of_getElem? (i := 79) rfl), lw_t4 (List.mem_of_getElem? (i := 30) rfl), lw_t4 (List.mem_of_getElem? (i := 31) rfl)⟩
theorem lw_p25 : lw_okq (⟨"InsuredFlame$Fire", "goesOver", "(II)V"⟩, 8) := ⟨⟨by decide +kernel, by decide +kernel⟩, lw_t1 (List.mem_of_getElem? (i := 79) rfl), lw_t4 (List.mem_of_getElem? (i := 38) rfl), lw_t4 (List.mem_of_getElem? (i := 39) rfl)⟩
theorem lw_p26 : lw_okq (⟨"InsuredFlame$Fire", "asked", "(IIII)LInsuredFlame$Moment;"⟩, 8) := ⟨⟨by decide +kernel, by decide +kernel⟩, lw_t1 (List.mem_of_getElem? (i := 79) rfl), lw_t4 (List.mem_of_getElem? (i := 55) rfl), lw_t4 (List.mem_of_getElem? (i := 56) rfl)⟩
theorem lw_p27 : lw_okq (⟨"InsuredFlame$Fire", "draw", "()I"⟩, 8) := ⟨⟨by decide +kernel, by decide +kernel⟩, lw_t1 (List.mem_of_getElem? (i := 79) rfl), lw_t4 (List.mem_of_getElem? (i := 132) rfl), lw_t4 (List.mem_of_getElem? (i := 133) rfl)⟩
theorem lw_p28 : lw_okq (⟨"InsuredFlame", "sumsLeft", "()I"⟩, 17) := ⟨⟨by decide +kernel, by decide +kernel⟩, lw_t1 (List.mem_of_getElem? (i := 28) rfl), lw_t4 (List.mem_of_getElem? (i := 159) rfl), lw_t4 (List.mem_of_getElem? (i := 160) rfl)⟩
theorem lw_p29 : lw_okq (⟨"InsuredFlame", "isThing", "(I)Z"⟩, 17) := ⟨⟨by decide +kernel, by decide +kernel⟩, lw_t1 (List.mem_of_getElem? (i := 28) rfl), lw_t4 (List.mem_of_getElem? (i := 177) rfl), lw_t4 (List.mem_of_getElem? (i := 178) rfl)⟩
theorem lw_p30 : lw_okq (⟨"InsuredFlame", "isWood", "(I)Z"⟩, 17) := ⟨⟨by decide +kernel, by decide +kernel⟩, lw_t1 (List.mem_of_getElem? (i := 28) rfl), lw_t4 (List.mem_of_getElem? (i := 198) rfl), lw_t4 (List.mem_of_getElem? (i := 199) rfl)⟩
theorem lw_p31 : lw_okq (⟨"InsuredFlame", "laysFrom", "(I)V"⟩, 17) := ⟨⟨by decide +kernel, by decide +kernel⟩, lw_t1 (List.mem_of_getElem? (i := 28) rfl), lw_t4 (List.mem_of_getElem? (i := 202) rfl), lw_t4 (List.mem_of_getElem? (i := 203) rfl)⟩
def lw_privs_2 : List (MethodName × Nat) := [(⟨"InsuredFlame$Surveyor", "kind", "()I"⟩, 9), (⟨"InsuredFlame$Surveyor", "sign", "()V"⟩, 9), (⟨"InsuredFlame$Clerk", "line", "()V"⟩, 8), (⟨"InsuredFlame$Clerk", "thing", "()V"⟩, 8), (⟨"InsuredFlame$Clerk", "number", "(I)I"⟩, 8), (⟨"InsuredFlame$Clerk", "spot", "()I"⟩, 8), (⟨"InsuredFlame$Clerk", "lit", "()V"⟩, 8), (⟨"InsuredFlame$Clerk", "wet", "()V"⟩, 8), (⟨"InsuredFlame$Fire", "burns", "(I)V"⟩, 8), (⟨"InsuredFlame$Fire", "goesOver", "(II)V"⟩, 8), (⟨"InsuredFlame$Fire", "asked", "(IIII)LInsuredFlame$Moment;"⟩, 8), (⟨"InsuredFlame$Fire", "draw", "()I"⟩, 8), (⟨"InsuredFlame", "sumsLeft", "()I"⟩, 17), (⟨"InsuredFlame", "isThing", "(I)Z"⟩, 17), (⟨"InsuredFlame", "isWood", "(I)Z"⟩, 17), (⟨"InsuredFlame", "laysFrom", "(I)V"⟩, 17)]
theorem lw_r2 : ∀ q ∈ lw_privs_2, lw_okq q := List.forall_mem_cons.mpr ⟨lw_p16, List.forall_mem_cons.mpr ⟨lw_p17, List.forall_mem_cons.mpr ⟨lw_p18, List.forall_mem_cons.mpr ⟨lw_p19, List.forall_mem_cons.mpr ⟨lw_p20, List.forall_mem_cons.mpr ⟨lw_p21, List.forall_mem_cons.mpr ⟨lw_p22, List.forall_mem_cons.mpr ⟨lw_p23, List.forall_mem_cons.mpr ⟨lw_p24, List.forall_mem_cons.mpr ⟨lw_p25, List.forall_mem_cons.mpr ⟨lw_p26, List.forall_mem_cons.mpr ⟨lw_p27, List.forall_mem_cons.mpr ⟨lw_p28, List.forall_mem_cons.mpr ⟨lw_p29, List.forall_mem_cons.mpr ⟨lw_p30, List.forall_mem_cons.mpr ⟨lw_p31, fun _ h => absurd h List.not_mem_nil⟩⟩⟩⟩⟩⟩⟩⟩⟩⟩⟩⟩⟩⟩⟩⟩
theorem lw_p32 : lw_okq (⟨"InsuredFlame", "spreads", "()V"⟩, 17) := ⟨⟨by decide +kernel, by decide +kernel⟩, lw_t1 (List.mem_of_getElem? (i := 28) rfl), lw_t4 (List.mem_of_getElem? (i := 207) rfl), lw_t4 (List.mem_of_getElem? (i := 208) rfl)⟩
theorem lw_p33 : lw_okq (⟨"InsuredFlame", "isSo", "(I)Z"⟩, 17) := ⟨⟨by decide +kernel, by decide +kernel⟩, lw_t1 (List.mem_of_getElem? (i := 28) rfl), lw_t4 (List.mem_of_getElem? (i := 216) rfl), lw_t4 (List.mem_of_getElem? (i := 217) rfl)⟩
theorem lw_p34 : lw_okq (⟨"InsuredFlame", "finds", "(II)Z"⟩, 17) := ⟨⟨by decide +kernel, by decide +kernel⟩, lw_t1 (List.mem_of_getElem? (i := 28) rfl), lw_t4 (List.mem_of_getElem? (i := 224) rfl), lw_t4 (List.mem_of_getElem? (i := 225) rfl)⟩
theorem lw_p35 : lw_okq (⟨"InsuredFlame", "reaches", "(II)V"⟩, 17) := ⟨⟨by decide +kernel, by decide +kernel⟩, lw_t1 (List.mem_of_getElem? (i := 28) rfl), lw_t4 (List.mem_of_getElem? (i := 228) rfl), lw_t4 (List.mem_of_getElem? (i := 229) rfl)⟩
theorem lw_p36 : lw_okq (⟨"InsuredFlame", "looksFrom", "(I)V"⟩, 17) := ⟨⟨by decide +kernel, by decide +kernel⟩, lw_t1 (List.mem_of_getElem? (i := 28) rfl), lw_t4 (List.mem_of_getElem? (i := 232) rfl), lw_t4 (List.mem_of_getElem? (i := 233) rfl)⟩
theorem lw_p37 : lw_okq (⟨"InsuredFlame", "turns", "(II)V"⟩, 17) := ⟨⟨by decide +kernel, by decide +kernel⟩, lw_t1 (List.mem_of_getElem? (i := 28) rfl), lw_t4 (List.mem_of_getElem? (i := 236) rfl), lw_t4 (List.mem_of_getElem? (i := 237) rfl)⟩
theorem lw_p38 : lw_okq (⟨"InsuredFlame", "wayTo", "(II)I"⟩, 17) := ⟨⟨by decide +kernel, by decide +kernel⟩, lw_t1 (List.mem_of_getElem? (i := 28) rfl), lw_t5 (List.mem_of_getElem? (i := 0) rfl), lw_t5 (List.mem_of_getElem? (i := 1) rfl)⟩
theorem lw_p39 : lw_okq (⟨"InsuredFlame", "laysFromBurning", "()V"⟩, 17) := ⟨⟨by decide +kernel, by decide +kernel⟩, lw_t1 (List.mem_of_getElem? (i := 28) rfl), lw_t5 (List.mem_of_getElem? (i := 8) rfl), lw_t5 (List.mem_of_getElem? (i := 9) rfl)⟩
theorem lw_p40 : lw_okq (⟨"InsuredFlame", "sumOf", "(IIII)I"⟩, 17) := ⟨⟨by decide +kernel, by decide +kernel⟩, lw_t1 (List.mem_of_getElem? (i := 28) rfl), lw_t5 (List.mem_of_getElem? (i := 27) rfl), lw_t5 (List.mem_of_getElem? (i := 28) rfl)⟩
theorem lw_p41 : lw_okq (⟨"InsuredFlame", "fed", "(I)I"⟩, 17) := ⟨⟨by decide +kernel, by decide +kernel⟩, lw_t1 (List.mem_of_getElem? (i := 28) rfl), lw_t5 (List.mem_of_getElem? (i := 34) rfl), lw_t5 (List.mem_of_getElem? (i := 35) rfl)⟩
theorem lw_p42 : lw_okq (⟨"InsuredFlame", "owedBy", "(III)I"⟩, 17) := ⟨⟨by decide +kernel, by decide +kernel⟩, lw_t1 (List.mem_of_getElem? (i := 28) rfl), lw_t5 (List.mem_of_getElem? (i := 51) rfl), lw_t5 (List.mem_of_getElem? (i := 52) rfl)⟩
theorem lw_p43 : lw_okq (⟨"InsuredFlame", "owedTo", "(III)I"⟩, 17) := ⟨⟨by decide +kernel, by decide +kernel⟩, lw_t1 (List.mem_of_getElem? (i := 28) rfl), lw_t5 (List.mem_of_getElem? (i := 55) rfl), lw_t5 (List.mem_of_getElem? (i := 56) rfl)⟩
theorem lw_p44 : lw_okq (⟨"InsuredFlame", "sorts", "(I)V"⟩, 17) := ⟨⟨by decide +kernel, by decide +kernel⟩, lw_t1 (List.mem_of_getElem? (i := 28) rfl), lw_t5 (List.mem_of_getElem? (i := 69) rfl), lw_t5 (List.mem_of_getElem? (i := 70) rfl)⟩
theorem lw_p45 : lw_okq (⟨"InsuredFlame", "isInTime", "(II)Z"⟩, 17) := ⟨⟨by decide +kernel, by decide +kernel⟩, lw_t1 (List.mem_of_getElem? (i := 28) rfl), lw_t5 (List.mem_of_getElem? (i := 73) rfl), lw_t5 (List.mem_of_getElem? (i := 74) rfl)⟩
theorem lw_p46 : lw_okq (⟨"InsuredFlame", "toldThings", "()I"⟩, 17) := ⟨⟨by decide +kernel, by decide +kernel⟩, lw_t1 (List.mem_of_getElem? (i := 28) rfl), lw_t5 (List.mem_of_getElem? (i := 102) rfl), lw_t5 (List.mem_of_getElem? (i := 103) rfl)⟩
theorem lw_p47 : lw_okq (⟨"InsuredFlameModel", "types", "(I)V"⟩, 46) := ⟨⟨by decide +kernel, by decide +kernel⟩, lw_t5 (List.mem_of_getElem? (i := 106) rfl), lw_t6 (List.mem_of_getElem? (i := 15) rfl), lw_t6 (List.mem_of_getElem? (i := 16) rfl)⟩
def lw_privs_3 : List (MethodName × Nat) := [(⟨"InsuredFlame", "spreads", "()V"⟩, 17), (⟨"InsuredFlame", "isSo", "(I)Z"⟩, 17), (⟨"InsuredFlame", "finds", "(II)Z"⟩, 17), (⟨"InsuredFlame", "reaches", "(II)V"⟩, 17), (⟨"InsuredFlame", "looksFrom", "(I)V"⟩, 17), (⟨"InsuredFlame", "turns", "(II)V"⟩, 17), (⟨"InsuredFlame", "wayTo", "(II)I"⟩, 17), (⟨"InsuredFlame", "laysFromBurning", "()V"⟩, 17), (⟨"InsuredFlame", "sumOf", "(IIII)I"⟩, 17), (⟨"InsuredFlame", "fed", "(I)I"⟩, 17), (⟨"InsuredFlame", "owedBy", "(III)I"⟩, 17), (⟨"InsuredFlame", "owedTo", "(III)I"⟩, 17), (⟨"InsuredFlame", "sorts", "(I)V"⟩, 17), (⟨"InsuredFlame", "isInTime", "(II)Z"⟩, 17), (⟨"InsuredFlame", "toldThings", "()I"⟩, 17), (⟨"InsuredFlameModel", "types", "(I)V"⟩, 46)]
theorem lw_r3 : ∀ q ∈ lw_privs_3, lw_okq q := List.forall_mem_cons.mpr ⟨lw_p32, List.forall_mem_cons.mpr ⟨lw_p33, List.forall_mem_cons.mpr ⟨lw_p34, List.forall_mem_cons.mpr ⟨lw_p35, List.forall_mem_cons.mpr ⟨lw_p36, List.forall_mem_cons.mpr ⟨lw_p37, List.forall_mem_cons.mpr ⟨lw_p38, List.forall_mem_cons.mpr ⟨lw_p39, List.forall_mem_cons.mpr ⟨lw_p40, List.forall_mem_cons.mpr ⟨lw_p41, List.forall_mem_cons.mpr ⟨lw_p42, List.forall_mem_cons.mpr ⟨lw_p43, List.forall_mem_cons.mpr ⟨lw_p44, List.forall_mem_cons.mpr ⟨lw_p45, List.forall_mem_cons.mpr ⟨lw_p46, List.forall_mem_cons.mpr ⟨lw_p47, fun _ h => absurd h List.not_mem_nil⟩⟩⟩⟩⟩⟩⟩⟩⟩⟩⟩⟩⟩⟩⟩⟩
theorem lw_p48 : lw_okq (⟨"InsuredFlameModel", "beginsText", "(I)V"⟩, 46) := ⟨⟨by decide +kernel, by decide +kernel⟩, lw_t5 (List.mem_of_getElem? (i := 106) rfl), lw_t6 (List.mem_of_getElem? (i := 26) rfl), lw_t6 (List.mem_of_getElem? (i := 27) rfl)⟩
theorem lw_p49 : lw_okq (⟨"InsuredFlameModel", "readsRule", "()Z"⟩, 46) := ⟨⟨by decide +kernel, by decide +kernel⟩, lw_t5 (List.mem_of_getElem? (i := 106) rfl), lw_t6 (List.mem_of_getElem? (i := 30) rfl), lw_t6 (List.mem_of_getElem? (i := 31) rfl)⟩
theorem lw_p50 : lw_okq (⟨"InsuredFlameModel", "here", "()I"⟩, 46) := ⟨⟨by decide +kernel, by decide +kernel⟩, lw_t5 (List.mem_of_getElem? (i := 106) rfl), lw_t6 (List.mem_of_getElem? (i := 34) rfl), lw_t6 (List.mem_of_getElem? (i := 35) rfl)⟩
theorem lw_p51 : lw_okq (⟨"InsuredFlameModel", "wrongAt", "(II)Z"⟩, 46) := ⟨⟨by decide +kernel, by decide +kernel⟩, lw_t5 (List.mem_of_getElem? (i := 106) rfl), lw_t6 (List.mem_of_getElem? (i := 38) rfl), lw_t6 (List.mem_of_getElem? (i := 39) rfl)⟩
theorem lw_p52 : lw_okq (⟨"InsuredFlameModel", "readsSum", "()Z"⟩, 46) := ⟨⟨by decide +kernel, by decide +kernel⟩, lw_t5 (List.mem_of_getElem? (i := 106) rfl), lw_t6 (List.mem_of_getElem? (i := 42) rfl), lw_t6 (List.mem_of_getElem? (i := 43) rfl)⟩
theorem lw_p53 : lw_okq (⟨"InsuredFlameModel", "readsFactor", "()Z"⟩, 46) := ⟨⟨by decide +kernel, by decide +kernel⟩, lw_t5 (List.mem_of_getElem? (i := 106) rfl), lw_t6 (List.mem_of_getElem? (i := 46) rfl), lw_t6 (List.mem_of_getElem? (i := 47) rfl)⟩
theorem lw_p54 : lw_okq (⟨"InsuredFlameModel", "opens", "(I)Z"⟩, 46) := ⟨⟨by decide +kernel, by decide +kernel⟩, lw_t5 (List.mem_of_getElem? (i := 106) rfl), lw_t6 (List.mem_of_getElem? (i := 50) rfl), lw_t6 (List.mem_of_getElem? (i := 51) rfl)⟩
theorem lw_p55 : lw_okq (⟨"InsuredFlameModel", "isDigit", "()Z"⟩, 46) := ⟨⟨by decide +kernel, by decide +kernel⟩, lw_t5 (List.mem_of_getElem? (i := 106) rfl), lw_t6 (List.mem_of_getElem? (i := 55) rfl), lw_t6 (List.mem_of_getElem? (i := 56) rfl)⟩
theorem lw_p56 : lw_okq (⟨"InsuredFlameModel", "readsNumber", "()Z"⟩, 46) := ⟨⟨by decide +kernel, by decide +kernel⟩, lw_t5 (List.mem_of_getElem? (i := 106) rfl), lw_t6 (List.mem_of_getElem? (i := 59) rfl), lw_t6 (List.mem_of_getElem? (i := 60) rfl)⟩
theorem lw_p57 : lw_okq (⟨"InsuredFlameModel", "notes", "(II)V"⟩, 46) := ⟨⟨by decide +kernel, by decide +kernel⟩, lw_t5 (List.mem_of_getElem? (i := 106) rfl), lw_t6 (List.mem_of_getElem? (i := 63) rfl), lw_t6 (List.mem_of_getElem? (i := 64) rfl)⟩
theorem lw_p58 : lw_okq (⟨"InsuredFlameModel", "closesSums", "(Z)V"⟩, 46) := ⟨⟨by decide +kernel, by decide +kernel⟩, lw_t5 (List.mem_of_getElem? (i := 106) rfl), lw_t6 (List.mem_of_getElem? (i := 73) rfl), lw_t6 (List.mem_of_getElem? (i := 74) rfl)⟩
theorem lw_p59 : lw_okq (⟨"InsuredFlameModel", "waitTop", "()I"⟩, 46) := ⟨⟨by decide +kernel, by decide +kernel⟩, lw_t5 (List.mem_of_getElem? (i := 106) rfl), lw_t6 (List.mem_of_getElem? (i := 77) rfl), lw_t6 (List.mem_of_getElem? (i := 78) rfl)⟩
theorem lw_p60 : lw_okq (⟨"InsuredFlameModel", "hasOpenSum", "(I)Z"⟩, 46) := ⟨⟨by decide +kernel, by decide +kernel⟩, lw_t5 (List.mem_of_getElem? (i := 106) rfl), lw_t6 (List.mem_of_getElem? (i := 81) rfl), lw_t6 (List.mem_of_getElem? (i := 82) rfl)⟩
theorem lw_p61 : lw_okq (⟨"InsuredFlameModel", "readsCondition", "()Z"⟩, 46) := ⟨⟨by decide +kernel, by decide +kernel⟩, lw_t5 (List.mem_of_getElem? (i := 106) rfl), lw_t6 (List.mem_of_getElem? (i := 85) rfl), lw_t6 (List.mem_of_getElem? (i := 86) rfl)⟩
theorem lw_p62 : lw_okq (⟨"InsuredFlameModel", "readsCompared", "()Z"⟩, 46) := ⟨⟨by decide +kernel, by decide +kernel⟩, lw_t5 (List.mem_of_getElem? (i := 106) rfl), lw_t6 (List.mem_of_getElem? (i := 89) rfl), lw_t6 (List.mem_of_getElem? (i := 90) rfl)⟩
theorem lw_p63 : lw_okq (⟨"InsuredFlameModel", "endsPiece", "()V"⟩, 46) := ⟨⟨by decide +kernel, by decide +kernel⟩, lw_t5 (List.mem_of_getElem? (i := 106) rfl), lw_t6 (List.mem_of_getElem? (i := 93) rfl), lw_t6 (List.mem_of_getElem? (i := 94) rfl)⟩
def lw_privs_4 : List (MethodName × Nat) := [(⟨"InsuredFlameModel", "beginsText", "(I)V"⟩, 46), (⟨"InsuredFlameModel", "readsRule", "()Z"⟩, 46), (⟨"InsuredFlameModel", "here", "()I"⟩, 46), (⟨"InsuredFlameModel", "wrongAt", "(II)Z"⟩, 46), (⟨"InsuredFlameModel", "readsSum", "()Z"⟩, 46), (⟨"InsuredFlameModel", "readsFactor", "()Z"⟩, 46), (⟨"InsuredFlameModel", "opens", "(I)Z"⟩, 46), (⟨"InsuredFlameModel", "isDigit", "()Z"⟩, 46), (⟨"InsuredFlameModel", "readsNumber", "()Z"⟩, 46), (⟨"InsuredFlameModel", "notes", "(II)V"⟩, 46), (⟨"InsuredFlameModel", "closesSums", "(Z)V"⟩, 46), (⟨"InsuredFlameModel", "waitTop", "()I"⟩, 46), (⟨"InsuredFlameModel", "hasOpenSum", "(I)Z"⟩, 46), (⟨"InsuredFlameModel", "readsCondition", "()Z"⟩, 46), (⟨"InsuredFlameModel", "readsCompared", "()Z"⟩, 46), (⟨"InsuredFlameModel", "endsPiece", "()V"⟩, 46)]
theorem lw_r4 : ∀ q ∈ lw_privs_4, lw_okq q := List.forall_mem_cons.mpr ⟨lw_p48, List.forall_mem_cons.mpr ⟨lw_p49, List.forall_mem_cons.mpr ⟨lw_p50, List.forall_mem_cons.mpr ⟨lw_p51, List.forall_mem_cons.mpr ⟨lw_p52, List.forall_mem_cons.mpr ⟨lw_p53, List.forall_mem_cons.mpr ⟨lw_p54, List.forall_mem_cons.mpr ⟨lw_p55, List.forall_mem_cons.mpr ⟨lw_p56, List.forall_mem_cons.mpr ⟨lw_p57, List.forall_mem_cons.mpr ⟨lw_p58, List.forall_mem_cons.mpr ⟨lw_p59, List.forall_mem_cons.mpr ⟨lw_p60, List.forall_mem_cons.mpr ⟨lw_p61, List.forall_mem_cons.mpr ⟨lw_p62, List.forall_mem_cons.mpr ⟨lw_p63, fun _ h => absurd h List.not_mem_nil⟩⟩⟩⟩⟩⟩⟩⟩⟩⟩⟩⟩⟩⟩⟩⟩
theorem lw_p64 : lw_okq (⟨"InsuredFlameModel", "lands", "(Z)V"⟩, 46) := ⟨⟨by decide +kernel, by decide +kernel⟩, lw_t5 (List.mem_of_getElem? (i := 106) rfl), lw_t6 (List.mem_of_getElem? (i := 97) rfl), lw_t6 (List.mem_of_getElem? (i := 98) rfl)⟩
theorem lw_p65 : lw_okq (⟨"InsuredFlameModel", "jumps", "(I)V"⟩, 46) := ⟨⟨by decide +kernel, by decide +kernel⟩, lw_t5 (List.mem_of_getElem? (i := 106) rfl), lw_t6 (List.mem_of_getElem? (i := 101) rfl), lw_t6 (List.mem_of_getElem? (i := 102) rfl)⟩
theorem lw_p66 : lw_okq (⟨"InsuredFlameModel", "takes", "(I)Z"⟩, 46) := ⟨⟨by decide +kernel, by decide +kernel⟩, lw_t5 (List.mem_of_getElem? (i := 106) rfl), lw_t6 (List.mem_of_getElem? (i := 105) rfl), lw_t6 (List.mem_of_getElem? (i := 106) rfl)⟩
theorem lw_p67 : lw_okq (⟨"InsuredFlameModel", "readsRow", "(I)Z"⟩, 46) := ⟨⟨by decide +kernel, by decide +kernel⟩, lw_t5 (List.mem_of_getElem? (i := 106) rfl), lw_t6 (List.mem_of_getElem? (i := 113) rfl), lw_t6 (List.mem_of_getElem? (i := 114) rfl)⟩
theorem lw_p68 : lw_okq (⟨"InsuredFlameModel", "canBeginRow", "()Z"⟩, 46) := ⟨⟨by decide +kernel, by decide +kernel⟩, lw_t5 (List.mem_of_getElem? (i := 106) rfl), lw_t6 (List.mem_of_getElem? (i := 117) rfl), lw_t6 (List.mem_of_getElem? (i := 118) rfl)⟩
theorem lw_p69 : lw_okq (⟨"InsuredFlameModel", "becomesWhole", "(I)V"⟩, 46) := ⟨⟨by decide +kernel, by decide +kernel⟩, lw_t5 (List.mem_of_getElem? (i := 106) rfl), lw_t6 (List.mem_of_getElem? (i := 124) rfl), lw_t6 (List.mem_of_getElem? (i := 125) rfl)⟩
theorem lw_p70 : lw_okq (⟨"InsuredFlameModel", "isWood", "(I)Z"⟩, 46) := ⟨⟨by decide +kernel, by decide +kernel⟩, lw_t5 (List.mem_of_getElem? (i := 106) rfl), lw_t6 (List.mem_of_getElem? (i := 128) rfl), lw_t6 (List.mem_of_getElem? (i := 129) rfl)⟩
theorem lw_p71 : lw_okq (⟨"InsuredFlameModel", "readsLine", "()Z"⟩, 46) := ⟨⟨by decide +kernel, by decide +kernel⟩, lw_t5 (List.mem_of_getElem? (i := 106) rfl), lw_t6 (List.mem_of_getElem? (i := 142) rfl), lw_t6 (List.mem_of_getElem? (i := 143) rfl)⟩
theorem lw_p72 : lw_okq (⟨"InsuredFlameModel", "readsThing", "()Z"⟩, 46) := ⟨⟨by decide +kernel, by decide +kernel⟩, lw_t5 (List.mem_of_getElem? (i := 106) rfl), lw_t6 (List.mem_of_getElem? (i := 146) rfl), lw_t6 (List.mem_of_getElem? (i := 147) rfl)⟩
theorem lw_p73 : lw_okq (⟨"InsuredFlameModel", "readsWithin", "(I)Z"⟩, 46) := ⟨⟨by decide +kernel, by decide +kernel⟩, lw_t5 (List.mem_of_getElem? (i := 106) rfl), lw_t6 (List.mem_of_getElem? (i := 150) rfl), lw_t6 (List.mem_of_getElem? (i := 151) rfl)⟩
theorem lw_p74 : lw_okq (⟨"InsuredFlameModel", "isThing", "(I)Z"⟩, 46) := ⟨⟨by decide +kernel, by decide +kernel⟩, lw_t5 (List.mem_of_getElem? (i := 106) rfl), lw_t6 (List.mem_of_getElem? (i := 154) rfl), lw_t6 (List.mem_of_getElem? (i := 155) rfl)⟩
theorem lw_p75 : lw_okq (⟨"InsuredFlameModel", "readsSpot", "()Z"⟩, 46) := ⟨⟨by decide +kernel, by decide +kernel⟩, lw_t5 (List.mem_of_getElem? (i := 106) rfl), lw_t6 (List.mem_of_getElem? (i := 158) rfl), lw_t6 (List.mem_of_getElem? (i := 159) rfl)⟩
theorem lw_p76 : lw_okq (⟨"InsuredFlameModel", "readsFire", "()Z"⟩, 46) := ⟨⟨by decide +kernel, by decide +kernel⟩, lw_t5 (List.mem_of_getElem? (i := 106) rfl), lw_t6 (List.mem_of_getElem? (i := 162) rfl), lw_t6 (List.mem_of_getElem? (i := 163) rfl)⟩
theorem lw_p77 : lw_okq (⟨"InsuredFlameModel", "readsWater", "()Z"⟩, 46) := ⟨⟨by decide +kernel, by decide +kernel⟩, lw_t5 (List.mem_of_getElem? (i := 106) rfl), lw_t6 (List.mem_of_getElem? (i := 166) rfl), lw_t6 (List.mem_of_getElem? (i := 167) rfl)⟩
theorem lw_p78 : lw_okq (⟨"InsuredFlameModel", "readsWind", "()Z"⟩, 46) := ⟨⟨by decide +kernel, by decide +kernel⟩, lw_t5 (List.mem_of_getElem? (i := 106) rfl), lw_t6 (List.mem_of_getElem? (i := 170) rfl), lw_t6 (List.mem_of_getElem? (i := 171) rfl)⟩
theorem lw_p79 : lw_okq (⟨"InsuredFlameModel", "minutesGo", "(I)V"⟩, 46) := ⟨⟨by decide +kernel, by decide +kernel⟩, lw_t5 (List.mem_of_getElem? (i := 106) rfl), lw_t6 (List.mem_of_getElem? (i := 178) rfl), lw_t6 (List.mem_of_getElem? (i := 179) rfl)⟩
def lw_privs_5 : List (MethodName × Nat) := [(⟨"InsuredFlameModel", "lands", "(Z)V"⟩, 46), (⟨"InsuredFlameModel", "jumps", "(I)V"⟩, 46), (⟨"InsuredFlameModel", "takes", "(I)Z"⟩, 46), (⟨"InsuredFlameModel", "readsRow", "(I)Z"⟩, 46), (⟨"InsuredFlameModel", "canBeginRow", "()Z"⟩, 46), (⟨"InsuredFlameModel", "becomesWhole", "(I)V"⟩, 46), (⟨"InsuredFlameModel", "isWood", "(I)Z"⟩, 46), (⟨"InsuredFlameModel", "readsLine", "()Z"⟩, 46), (⟨"InsuredFlameModel", "readsThing", "()Z"⟩, 46), (⟨"InsuredFlameModel", "readsWithin", "(I)Z"⟩, 46), (⟨"InsuredFlameModel", "isThing", "(I)Z"⟩, 46), (⟨"InsuredFlameModel", "readsSpot", "()Z"⟩, 46), (⟨"InsuredFlameModel", "readsFire", "()Z"⟩, 46), (⟨"InsuredFlameModel", "readsWater", "()Z"⟩, 46), (⟨"InsuredFlameModel", "readsWind", "()Z"⟩, 46), (⟨"InsuredFlameModel", "minutesGo", "(I)V"⟩, 46)]
theorem lw_r5 : ∀ q ∈ lw_privs_5, lw_okq q := List.forall_mem_cons.mpr ⟨lw_p64, List.forall_mem_cons.mpr ⟨lw_p65, List.forall_mem_cons.mpr ⟨lw_p66, List.forall_mem_cons.mpr ⟨lw_p67, List.forall_mem_cons.mpr ⟨lw_p68, List.forall_mem_cons.mpr ⟨lw_p69, List.forall_mem_cons.mpr ⟨lw_p70, List.forall_mem_cons.mpr ⟨lw_p71, List.forall_mem_cons.mpr ⟨lw_p72, List.forall_mem_cons.mpr ⟨lw_p73, List.forall_mem_cons.mpr ⟨lw_p74, List.forall_mem_cons.mpr ⟨lw_p75, List.forall_mem_cons.mpr ⟨lw_p76, List.forall_mem_cons.mpr ⟨lw_p77, List.forall_mem_cons.mpr ⟨lw_p78, List.forall_mem_cons.mpr ⟨lw_p79, fun _ h => absurd h List.not_mem_nil⟩⟩⟩⟩⟩⟩⟩⟩⟩⟩⟩⟩⟩⟩⟩⟩
theorem lw_p80 : lw_okq (⟨"InsuredFlameModel", "minuteGoes", "()V"⟩, 46) := ⟨⟨by decide +kernel, by decide +kernel⟩, lw_t5 (List.mem_of_getElem? (i := 106) rfl), lw_t6 (List.mem_of_getElem? (i := 182) rfl), lw_t6 (List.mem_of_getElem? (i := 183) rfl)⟩
theorem lw_p81 : lw_okq (⟨"InsuredFlameModel", "turnOf", "(I)V"⟩, 46) := ⟨⟨by decide +kernel, by decide +kernel⟩, lw_t5 (List.mem_of_getElem? (i := 106) rfl), lw_t6 (List.mem_of_getElem? (i := 186) rfl), lw_t6 (List.mem_of_getElem? (i := 187) rfl)⟩
theorem lw_p82 : lw_okq (⟨"InsuredFlameModel", "takesThings", "(I)V"⟩, 46) := ⟨⟨by decide +kernel, by decide +kernel⟩, lw_t5 (List.mem_of_getElem? (i := 106) rfl), lw_t6 (List.mem_of_getElem? (i := 190) rfl), lw_t6 (List.mem_of_getElem? (i := 191) rfl)⟩
theorem lw_p83 : lw_okq (⟨"InsuredFlameModel", "liesAt", "(II)Z"⟩, 46) := ⟨⟨by decide +kernel, by decide +kernel⟩, lw_t5 (List.mem_of_getElem? (i := 106) rfl), lw_t6 (List.mem_of_getElem? (i := 194) rfl), lw_t6 (List.mem_of_getElem? (i := 195) rfl)⟩
theorem lw_p84 : lw_okq (⟨"InsuredFlameModel", "goesOver", "(II)V"⟩, 46) := ⟨⟨by decide +kernel, by decide +kernel⟩, lw_t5 (List.mem_of_getElem? (i := 106) rfl), lw_t6 (List.mem_of_getElem? (i := 198) rfl), lw_t6 (List.mem_of_getElem? (i := 199) rfl)⟩
theorem lw_p85 : lw_okq (⟨"InsuredFlameModel", "feels", "(IIII)V"⟩, 46) := ⟨⟨by decide +kernel, by decide +kernel⟩, lw_t5 (List.mem_of_getElem? (i := 106) rfl), lw_t6 (List.mem_of_getElem? (i := 208) rfl), lw_t6 (List.mem_of_getElem? (i := 209) rfl)⟩
theorem lw_p86 : lw_okq (⟨"InsuredFlameModel", "burnNextTo", "(I)I"⟩, 46) := ⟨⟨by decide +kernel, by decide +kernel⟩, lw_t5 (List.mem_of_getElem? (i := 106) rfl), lw_t6 (List.mem_of_getElem? (i := 212) rfl), lw_t6 (List.mem_of_getElem? (i := 213) rfl)⟩
theorem lw_p87 : lw_okq (⟨"InsuredFlameModel", "valuesAt", "(I)I"⟩, 46) := ⟨⟨by decide +kernel, by decide +kernel⟩, lw_t5 (List.mem_of_getElem? (i := 106) rfl), lw_t6 (List.mem_of_getElem? (i := 216) rfl), lw_t6 (List.mem_of_getElem? (i := 217) rfl)⟩
theorem lw_p88 : lw_okq (⟨"InsuredFlameModel", "sumsAt", "(I)I"⟩, 46) := ⟨⟨by decide +kernel, by decide +kernel⟩, lw_t5 (List.mem_of_getElem? (i := 106) rfl), lw_t6 (List.mem_of_getElem? (i := 220) rfl), lw_t6 (List.mem_of_getElem? (i := 221) rfl)⟩
theorem lw_p89 : lw_okq (⟨"InsuredFlameModel", "byLaw", "(III)I"⟩, 46) := ⟨⟨by decide +kernel, by decide +kernel⟩, lw_t5 (List.mem_of_getElem? (i := 106) rfl), lw_t6 (List.mem_of_getElem? (i := 224) rfl), lw_t6 (List.mem_of_getElem? (i := 225) rfl)⟩
theorem lw_p90 : lw_okq (⟨"InsuredFlameModel", "reckonsTo", "(II)I"⟩, 46) := ⟨⟨by decide +kernel, by decide +kernel⟩, lw_t5 (List.mem_of_getElem? (i := 106) rfl), lw_t6 (List.mem_of_getElem? (i := 228) rfl), lw_t6 (List.mem_of_getElem? (i := 229) rfl)⟩
theorem lw_p91 : lw_okq (⟨"InsuredFlameModel", "draws", "()I"⟩, 46) := ⟨⟨by decide +kernel, by decide +kernel⟩, lw_t5 (List.mem_of_getElem? (i := 106) rfl), lw_t6 (List.mem_of_getElem? (i := 235) rfl), lw_t6 (List.mem_of_getElem? (i := 236) rfl)⟩
theorem lw_p92 : lw_okq (⟨"InsuredFlameModel", "holdsAny", "(I)Z"⟩, 46) := ⟨⟨by decide +kernel, by decide +kernel⟩, lw_t5 (List.mem_of_getElem? (i := 106) rfl), lw_t7 (List.mem_of_getElem? (i := 0) rfl), lw_t7 (List.mem_of_getElem? (i := 1) rfl)⟩
theorem lw_p93 : lw_okq (⟨"InsuredFlameModel", "faring", "(I)I"⟩, 46) := ⟨⟨by decide +kernel, by decide +kernel⟩, lw_t5 (List.mem_of_getElem? (i := 106) rfl), lw_t7 (List.mem_of_getElem? (i := 4) rfl), lw_t7 (List.mem_of_getElem? (i := 5) rfl)⟩
theorem lw_p94 : lw_okq (⟨"InsuredFlameModel", "goneSet", "()I"⟩, 46) := ⟨⟨by decide +kernel, by decide +kernel⟩, lw_t5 (List.mem_of_getElem? (i := 106) rfl), lw_t7 (List.mem_of_getElem? (i := 12) rfl), lw_t7 (List.mem_of_getElem? (i := 13) rfl)⟩
theorem lw_p95 : lw_okq (⟨"InsuredFlameModel", "sumsInRuins", "()I"⟩, 46) := ⟨⟨by decide +kernel, by decide +kernel⟩, lw_t5 (List.mem_of_getElem? (i := 106) rfl), lw_t7 (List.mem_of_getElem? (i := 16) rfl), lw_t7 (List.mem_of_getElem? (i := 17) rfl)⟩
def lw_privs_6 : List (MethodName × Nat) := [(⟨"InsuredFlameModel", "minuteGoes", "()V"⟩, 46), (⟨"InsuredFlameModel", "turnOf", "(I)V"⟩, 46), (⟨"InsuredFlameModel", "takesThings", "(I)V"⟩, 46), (⟨"InsuredFlameModel", "liesAt", "(II)Z"⟩, 46), (⟨"InsuredFlameModel", "goesOver", "(II)V"⟩, 46), (⟨"InsuredFlameModel", "feels", "(IIII)V"⟩, 46), (⟨"InsuredFlameModel", "burnNextTo", "(I)I"⟩, 46), (⟨"InsuredFlameModel", "valuesAt", "(I)I"⟩, 46), (⟨"InsuredFlameModel", "sumsAt", "(I)I"⟩, 46), (⟨"InsuredFlameModel", "byLaw", "(III)I"⟩, 46), (⟨"InsuredFlameModel", "reckonsTo", "(II)I"⟩, 46), (⟨"InsuredFlameModel", "draws", "()I"⟩, 46), (⟨"InsuredFlameModel", "holdsAny", "(I)Z"⟩, 46), (⟨"InsuredFlameModel", "faring", "(I)I"⟩, 46), (⟨"InsuredFlameModel", "goneSet", "()I"⟩, 46), (⟨"InsuredFlameModel", "sumsInRuins", "()I"⟩, 46)]
theorem lw_r6 : ∀ q ∈ lw_privs_6, lw_okq q := List.forall_mem_cons.mpr ⟨lw_p80, List.forall_mem_cons.mpr ⟨lw_p81, List.forall_mem_cons.mpr ⟨lw_p82, List.forall_mem_cons.mpr ⟨lw_p83, List.forall_mem_cons.mpr ⟨lw_p84, List.forall_mem_cons.mpr ⟨lw_p85, List.forall_mem_cons.mpr ⟨lw_p86, List.forall_mem_cons.mpr ⟨lw_p87, List.forall_mem_cons.mpr ⟨lw_p88, List.forall_mem_cons.mpr ⟨lw_p89, List.forall_mem_cons.mpr ⟨lw_p90, List.forall_mem_cons.mpr ⟨lw_p91, List.forall_mem_cons.mpr ⟨lw_p92, List.forall_mem_cons.mpr ⟨lw_p93, List.forall_mem_cons.mpr ⟨lw_p94, List.forall_mem_cons.mpr ⟨lw_p95, fun _ h => absurd h List.not_mem_nil⟩⟩⟩⟩⟩⟩⟩⟩⟩⟩⟩⟩⟩⟩⟩⟩
theorem lw_p96 : lw_okq (⟨"InsuredFlameModel", "thingsAt", "(I)I"⟩, 46) := ⟨⟨by decide +kernel, by decide +kernel⟩, lw_t5 (List.mem_of_getElem? (i := 106) rfl), lw_t7 (List.mem_of_getElem? (i := 24) rfl), lw_t7 (List.mem_of_getElem? (i := 25) rfl)⟩
theorem lw_p97 : lw_okq (⟨"InsuredFlameModel", "laysFireFrom", "(I)V"⟩, 46) := ⟨⟨by decide +kernel, by decide +kernel⟩, lw_t5 (List.mem_of_getElem? (i := 106) rfl), lw_t7 (List.mem_of_getElem? (i := 44) rfl), lw_t7 (List.mem_of_getElem? (i := 45) rfl)⟩
theorem lw_p98 : lw_okq (⟨"InsuredFlameModel", "clearsFire", "()V"⟩, 46) := ⟨⟨by decide +kernel, by decide +kernel⟩, lw_t5 (List.mem_of_getElem? (i := 106) rfl), lw_t7 (List.mem_of_getElem? (i := 48) rfl), lw_t7 (List.mem_of_getElem? (i := 49) rfl)⟩
theorem lw_p99 : lw_okq (⟨"InsuredFlameModel", "laysFire", "(I)V"⟩, 46) := ⟨⟨by decide +kernel, by decide +kernel⟩, lw_t5 (List.mem_of_getElem? (i := 106) rfl), lw_t7 (List.mem_of_getElem? (i := 52) rfl), lw_t7 (List.mem_of_getElem? (i := 53) rfl)⟩
theorem lw_p100 : lw_okq (⟨"InsuredFlameModel", "couldBegin", "(II)Z"⟩, 46) := ⟨⟨by decide +kernel, by decide +kernel⟩, lw_t5 (List.mem_of_getElem? (i := 106) rfl), lw_t7 (List.mem_of_getElem? (i := 60) rfl), lw_t7 (List.mem_of_getElem? (i := 61) rfl)⟩
theorem lw_p101 : lw_okq (⟨"InsuredFlameModel", "waysApart", "(II)I"⟩, 46) := ⟨⟨by decide +kernel, by decide +kernel⟩, lw_t5 (List.mem_of_getElem? (i := 106) rfl), lw_t7 (List.mem_of_getElem? (i := 68) rfl), lw_t7 (List.mem_of_getElem? (i := 69) rfl)⟩
theorem lw_p102 : lw_okq (⟨"InsuredFlameModel", "findsWay", "(II)Z"⟩, 46) := ⟨⟨by decide +kernel, by decide +kernel⟩, lw_t5 (List.mem_of_getElem? (i := 106) rfl), lw_t7 (List.mem_of_getElem? (i := 72) rfl), lw_t7 (List.mem_of_getElem? (i := 73) rfl)⟩
theorem lw_p103 : lw_okq (⟨"InsuredFlameModel", "visits", "(II)V"⟩, 46) := ⟨⟨by decide +kernel, by decide +kernel⟩, lw_t5 (List.mem_of_getElem? (i := 106) rfl), lw_t7 (List.mem_of_getElem? (i := 76) rfl), lw_t7 (List.mem_of_getElem? (i := 77) rfl)⟩
theorem lw_p104 : lw_okq (⟨"InsuredFlameModel", "goesAlong", "(II)V"⟩, 46) := ⟨⟨by decide +kernel, by decide +kernel⟩, lw_t5 (List.mem_of_getElem? (i := 106) rfl), lw_t7 (List.mem_of_getElem? (i := 80) rfl), lw_t7 (List.mem_of_getElem? (i := 81) rfl)⟩
theorem lw_p105 : lw_okq (⟨"InsuredFlameModel", "laysFireNow", "()V"⟩, 46) := ⟨⟨by decide +kernel, by decide +kernel⟩, lw_t5 (List.mem_of_getElem? (i := 106) rfl), lw_t7 (List.mem_of_getElem? (i := 88) rfl), lw_t7 (List.mem_of_getElem? (i := 89) rfl)⟩
theorem lw_p106 : lw_okq (⟨"InsuredFlameModel", "woodSeen", "()I"⟩, 46) := ⟨⟨by decide +kernel, by decide +kernel⟩, lw_t5 (List.mem_of_getElem? (i := 106) rfl), lw_t7 (List.mem_of_getElem? (i := 103) rfl), lw_t7 (List.mem_of_getElem? (i := 104) rfl)⟩
theorem lw_p107 : lw_okq (⟨"InsuredFlameModel", "octet", "(I)I"⟩, 46) := ⟨⟨by decide +kernel, by decide +kernel⟩, lw_t5 (List.mem_of_getElem? (i := 106) rfl), lw_t7 (List.mem_of_getElem? (i := 117) rfl), lw_t7 (List.mem_of_getElem? (i := 118) rfl)⟩
theorem lw_p108 : lw_okq (⟨"InsuredFlameModel", "restOf", "(III)I"⟩, 46) := ⟨⟨by decide +kernel, by decide +kernel⟩, lw_t5 (List.mem_of_getElem? (i := 106) rfl), lw_t7 (List.mem_of_getElem? (i := 134) rfl), lw_t7 (List.mem_of_getElem? (i := 135) rfl)⟩
theorem lw_p109 : lw_okq (⟨"InsuredFlameModel", "laysRow", "(I)V"⟩, 46) := ⟨⟨by decide +kernel, by decide +kernel⟩, lw_t5 (List.mem_of_getElem? (i := 106) rfl), lw_t7 (List.mem_of_getElem? (i := 145) rfl), lw_t7 (List.mem_of_getElem? (i := 146) rfl)⟩
theorem lw_p110 : lw_okq (⟨"InsuredFlameModel", "worthOf", "(II)I"⟩, 46) := ⟨⟨by decide +kernel, by decide +kernel⟩, lw_t5 (List.mem_of_getElem? (i := 106) rfl), lw_t7 (List.mem_of_getElem? (i := 149) rfl), lw_t7 (List.mem_of_getElem? (i := 150) rfl)⟩
theorem lw_p111 : lw_okq (⟨"InsuredFlameModel", "toldSet", "()I"⟩, 46) := ⟨⟨by decide +kernel, by decide +kernel⟩, lw_t5 (List.mem_of_getElem? (i := 106) rfl), lw_t7 (List.mem_of_getElem? (i := 178) rfl), lw_t7 (List.mem_of_getElem? (i := 179) rfl)⟩
def lw_privs_7 : List (MethodName × Nat) := [(⟨"InsuredFlameModel", "thingsAt", "(I)I"⟩, 46), (⟨"InsuredFlameModel", "laysFireFrom", "(I)V"⟩, 46), (⟨"InsuredFlameModel", "clearsFire", "()V"⟩, 46), (⟨"InsuredFlameModel", "laysFire", "(I)V"⟩, 46), (⟨"InsuredFlameModel", "couldBegin", "(II)Z"⟩, 46), (⟨"InsuredFlameModel", "waysApart", "(II)I"⟩, 46), (⟨"InsuredFlameModel", "findsWay", "(II)Z"⟩, 46), (⟨"InsuredFlameModel", "visits", "(II)V"⟩, 46), (⟨"InsuredFlameModel", "goesAlong", "(II)V"⟩, 46), (⟨"InsuredFlameModel", "laysFireNow", "()V"⟩, 46), (⟨"InsuredFlameModel", "woodSeen", "()I"⟩, 46), (⟨"InsuredFlameModel", "octet", "(I)I"⟩, 46), (⟨"InsuredFlameModel", "restOf", "(III)I"⟩, 46), (⟨"InsuredFlameModel", "laysRow", "(I)V"⟩, 46), (⟨"InsuredFlameModel", "worthOf", "(II)I"⟩, 46), (⟨"InsuredFlameModel", "toldSet", "()I"⟩, 46)]
theorem lw_r7 : ∀ q ∈ lw_privs_7, lw_okq q := List.forall_mem_cons.mpr ⟨lw_p96, List.forall_mem_cons.mpr ⟨lw_p97, List.forall_mem_cons.mpr ⟨lw_p98, List.forall_mem_cons.mpr ⟨lw_p99, List.forall_mem_cons.mpr ⟨lw_p100, List.forall_mem_cons.mpr ⟨lw_p101, List.forall_mem_cons.mpr ⟨lw_p102, List.forall_mem_cons.mpr ⟨lw_p103, List.forall_mem_cons.mpr ⟨lw_p104, List.forall_mem_cons.mpr ⟨lw_p105, List.forall_mem_cons.mpr ⟨lw_p106, List.forall_mem_cons.mpr ⟨lw_p107, List.forall_mem_cons.mpr ⟨lw_p108, List.forall_mem_cons.mpr ⟨lw_p109, List.forall_mem_cons.mpr ⟨lw_p110, List.forall_mem_cons.mpr ⟨lw_p111, fun _ h => absurd h List.not_mem_nil⟩⟩⟩⟩⟩⟩⟩⟩⟩⟩⟩⟩⟩⟩⟩⟩
theorem lw_p112 : lw_okq (⟨"InsuredFlameModel", "lostAll", "()I"⟩, 46) := ⟨⟨by decide +kernel, by decide +kernel⟩, lw_t5 (List.mem_of_getElem? (i := 106) rfl), lw_t7 (List.mem_of_getElem? (i := 182) rfl), lw_t7 (List.mem_of_getElem? (i := 183) rfl)⟩
def lw_privs_8 : List (MethodName × Nat) := [(⟨"InsuredFlameModel", "lostAll", "()I"⟩, 46)]
theorem lw_r8 : ∀ q ∈ lw_privs_8, lw_okq q := List.forall_mem_cons.mpr ⟨lw_p112, fun _ h => absurd h List.not_mem_nil⟩
def lw_privs : List (MethodName × Nat) := lw_privs_1 ++ (lw_privs_2 ++ (lw_privs_3 ++ (lw_privs_4 ++ (lw_privs_5 ++ (lw_privs_6 ++ (lw_privs_7 ++ (lw_privs_8)))))))
def lw_tbl : List Cond := k2_sels lw_privs ++ tables_1
theorem lw_privs_ok : ∀ q ∈ lw_privs, lw_okq q := by
  show ∀ q ∈ lw_privs_1 ++ (lw_privs_2 ++ (lw_privs_3 ++ (lw_privs_4 ++ (lw_privs_5 ++ (lw_privs_6 ++ (lw_privs_7 ++ (lw_privs_8))))))), lw_okq q
  exact List.forall_mem_append.mpr ⟨lw_r1, List.forall_mem_append.mpr ⟨lw_r2, List.forall_mem_append.mpr ⟨lw_r3, List.forall_mem_append.mpr ⟨lw_r4, List.forall_mem_append.mpr ⟨lw_r5, List.forall_mem_append.mpr ⟨lw_r6, List.forall_mem_append.mpr ⟨lw_r7, lw_r8⟩⟩⟩⟩⟩⟩⟩
-- ===== ONE list of words for every method: the tables' words that hold all through a run =====
def lw_all : List Cond := lw_tbl.filter goodWord
/-- a word of the tables by its place: claim/WORDS.tsv -/
theorem lw_w {w : Cond} (i : Nat) (h : lw_tbl[i]? = some w) (g : goodWord w = true) : w ∈ lw_all := List.mem_filter.mpr ⟨List.mem_of_getElem? h, g⟩
theorem lw_all_tbl {w : Cond} (h : w ∈ lw_all) : w ∈ lw_tbl := (List.mem_filter.mp h).1
theorem lw_self : GoodIn lw_all lw_all := fun w h => ⟨h, good_of_word (List.mem_filter.mp h).2⟩
/-- a class's field words, by their places -/
theorem lw_in (ws : List Cond) (ps : List Nat) (hp : ws = ps.filterMap (fun i => lw_tbl[i]?)) (hg : ws.all goodWord = true) : ∀ w ∈ ws, w ∈ lw_all := by
  intro w h
  have h1 := List.all_eq_true.mp hg w h
  rw [hp] at h
  obtain ⟨i, -, hi⟩ := List.mem_filterMap.mp h
  exact lw_w i hi h1
/-- the words of a contract for the method y with code b, L locals, answer r -/
abbrev ws_ (y : MethodName) (b : ByteArray) (L : Nat) (r : Option FieldType) : List Cond := Cond.code y b L r :: lw_all
theorem lw_meth {y : MethodName} {b : ByteArray} {L : Nat} {r : Option FieldType} (h : Cond.code y b L r ∈ lw_all) : GoodIn lw_all (ws_ y b L r) := by
  intro w hw
  rcases List.mem_cons.mp hw with e | e
  · rw [e]
    exact lw_self _ h
  · exact lw_self _ e
theorem lw_app {a c : List Cond} (ha : ∀ w ∈ a, w ∈ lw_all) (hc : GoodIn lw_all c) : GoodIn lw_all (a ++ c) := by
  intro w hw
  rcases List.mem_append.mp hw with e | e
  · exact lw_self w (ha w e)
  · exact hc w e
/-- what a call through an object asks: cwV n hts (lw_V ..) -/
theorem lw_V {own : String} {idx : Nat} {C : String} {y : MethodName} {b : ByteArray} {L : Nat} {r : Option FieldType} (h1 : Cond.methodLink own idx y ∈ lw_all) (h2 : Cond.instanceMethod y ∈ lw_all) (h3 : Cond.selects C y y ∈ lw_all) (h4 : Cond.initialized C ∈ lw_all) (h5 : Cond.code y b L r ∈ lw_all) : GoodIn lw_all (wsV own idx C y (ws_ y b L r)) := by
  refine lw_app ?_ (lw_meth h5)
  intro w hw
  simp only [List.mem_cons, List.not_mem_nil, or_false] at hw
  rcases hw with e | e | e | e
  · rw [e]; exact h1
  · rw [e]; exact h2
  · rw [e]; exact h3
  · rw [e]; exact h4
/-- what a static call asks: va_cwS n hts (lw_S ..) -/
theorem lw_S {own : String} {idx : Nat} {y : MethodName} {b : ByteArray} {L : Nat} {r : Option FieldType} (h1 : Cond.methodLink own idx y ∈ lw_all) (h2 : Cond.static y ∈ lw_all) (h3 : Cond.initialized y.cls ∈ lw_all) (h4 : Cond.code y b L r ∈ lw_all) : GoodIn lw_all (va_wsS own idx y (ws_ y b L r)) := by
  refine lw_app ?_ (lw_meth h4)
  intro w hw
  simp only [List.mem_cons, List.not_mem_nil, or_false] at hw
  rcases hw with e | e | e
  · rw [e]; exact h1
  · rw [e]; exact h2
  · rw [e]; exact h3
/-- the words of a contract for a method WITH HANDLERS (hh: its table) -/
abbrev wsW_ (y : MethodName) (b : ByteArray) (L : Nat) (r : Option FieldType) (hh : List (Nat × Nat × Nat × Nat)) : List Cond := Cond.codeWith y b L r hh :: lw_all
theorem lw_methW {y : MethodName} {b : ByteArray} {L : Nat} {r : Option FieldType} {hh : List (Nat × Nat × Nat × Nat)} (h : Cond.codeWith y b L r hh ∈ lw_all) : GoodIn lw_all (wsW_ y b L r hh) := by
  intro w hw
  rcases List.mem_cons.mp hw with e | e
  · rw [e]
    exact lw_self _ h
  · exact lw_self _ e
/-- any list of words by their places (lw_in), good -/
theorem lw_good {ws : List Cond} (h : ∀ w ∈ ws, w ∈ lw_all) : GoodIn lw_all ws := fun w hw => lw_self w (h w hw)
/-- what a call of a method with handlers asks: vx_cwVW n hts (lw_VW ..), vx_cwSW n hts (lw_SW ..) -/
theorem lw_VW {own : String} {idx : Nat} {C : String} {y : MethodName} {b : ByteArray} {L : Nat} {r : Option FieldType} {hh : List (Nat × Nat × Nat × Nat)} (h1 : Cond.methodLink own idx y ∈ lw_all) (h2 : Cond.instanceMethod y ∈ lw_all) (h3 : Cond.selects C y y ∈ lw_all) (h4 : Cond.initialized C ∈ lw_all) (h5 : Cond.codeWith y b L r hh ∈ lw_all) : GoodIn lw_all (wsV own idx C y (wsW_ y b L r hh)) := by
  refine lw_app ?_ (lw_methW h5)
  intro w hw
  simp only [List.mem_cons, List.not_mem_nil, or_false] at hw
  rcases hw with e | e | e | e
  · rw [e]; exact h1
  · rw [e]; exact h2
  · rw [e]; exact h3
  · rw [e]; exact h4
theorem lw_SW {own : String} {idx : Nat} {y : MethodName} {b : ByteArray} {L : Nat} {r : Option FieldType} {hh : List (Nat × Nat × Nat × Nat)} (h1 : Cond.methodLink own idx y ∈ lw_all) (h2 : Cond.static y ∈ lw_all) (h3 : Cond.initialized y.cls ∈ lw_all) (h4 : Cond.codeWith y b L r hh ∈ lw_all) : GoodIn lw_all (va_wsS own idx y (wsW_ y b L r hh)) := by
  refine lw_app ?_ (lw_methW h4)
  intro w hw
  simp only [List.mem_cons, List.not_mem_nil, or_false] at hw
  rcases hw with e | e | e
  · rw [e]; exact h1
  · rw [e]; exact h2
  · rw [e]; exact h3
/-- a word by its place in its run of the tables -/
theorem lw_at {r : List Cond} (hr : ∀ w ∈ r, w ∈ lw_tbl) {w : Cond} (i : Nat) (h : r[i]? = some w) : w ∈ lw_tbl := hr w (List.mem_of_getElem? h)
theorem lw_g {w : Cond} (h : w ∈ lw_tbl) (g : goodWord w = true) : w ∈ lw_all := List.mem_filter.mpr ⟨h, g⟩
theorem lw_ms : ∀ w ∈ k2_sels lw_privs, w ∈ lw_tbl := fun w h => show w ∈ k2_sels lw_privs ++ tables_1 from List.mem_append_left _ h
theorem lw_m1 : ∀ w ∈ tables_1_1, w ∈ lw_tbl := fun w h => show w ∈ k2_sels lw_privs ++ tables_1 from List.mem_append_right (k2_sels lw_privs) (show w ∈ tables_1 from List.mem_append_left _ h)
theorem lw_m2 : ∀ w ∈ tables_1_2, w ∈ lw_tbl := fun w h => show w ∈ k2_sels lw_privs ++ tables_1 from List.mem_append_right (k2_sels lw_privs) (show w ∈ tables_1 from List.mem_append_right _ (List.mem_append_left _ h))
theorem lw_m3 : ∀ w ∈ tables_1_3, w ∈ lw_tbl := fun w h => show w ∈ k2_sels lw_privs ++ tables_1 from List.mem_append_right (k2_sels lw_privs) (show w ∈ tables_1 from List.mem_append_right _ (List.mem_append_right _ (List.mem_append_left _ h)))
theorem lw_m4 : ∀ w ∈ tables_1_4, w ∈ lw_tbl := fun w h => show w ∈ k2_sels lw_privs ++ tables_1 from List.mem_append_right (k2_sels lw_privs) (show w ∈ tables_1 from List.mem_append_right _ (List.mem_append_right _ (List.mem_append_right _ (List.mem_append_left _ h))))
theorem lw_m5 : ∀ w ∈ tables_1_5, w ∈ lw_tbl := fun w h => show w ∈ k2_sels lw_privs ++ tables_1 from List.mem_append_right (k2_sels lw_privs) (show w ∈ tables_1 from List.mem_append_right _ (List.mem_append_right _ (List.mem_append_right _ (List.mem_append_right _ (List.mem_append_left _ h)))))
theorem lw_m6 : ∀ w ∈ tables_1_6, w ∈ lw_tbl := fun w h => show w ∈ k2_sels lw_privs ++ tables_1 from List.mem_append_right (k2_sels lw_privs) (show w ∈ tables_1 from List.mem_append_right _ (List.mem_append_right _ (List.mem_append_right _ (List.mem_append_right _ (List.mem_append_right _ (List.mem_append_left _ h))))))
theorem lw_m7 : ∀ w ∈ tables_1_7, w ∈ lw_tbl := fun w h => show w ∈ k2_sels lw_privs ++ tables_1 from List.mem_append_right (k2_sels lw_privs) (show w ∈ tables_1 from List.mem_append_right _ (List.mem_append_right _ (List.mem_append_right _ (List.mem_append_right _ (List.mem_append_right _ (List.mem_append_right _ h))))))
theorem qs0 : (Cond.selects "InsuredFlame" ⟨"InsuredFlame", "push", "(I)V"⟩ ⟨"InsuredFlame", "push", "(I)V"⟩) ∈ lw_all := lw_g (lw_at lw_ms 0 rfl) rfl
theorem qs1 : (Cond.selects "InsuredFlame$Reader" ⟨"InsuredFlame$Reader", "isGood", "()Z"⟩ ⟨"InsuredFlame$Reader", "isGood", "()Z"⟩) ∈ lw_all := lw_g (lw_at lw_ms 1 rfl) rfl
theorem qs2 : (Cond.selects "InsuredFlame$Reader" ⟨"InsuredFlame$Reader", "clause", "()V"⟩ ⟨"InsuredFlame$Reader", "clause", "()V"⟩) ∈ lw_all := lw_g (lw_at lw_ms 2 rfl) rfl
theorem qs3 : (Cond.selects "InsuredFlame$Reader" ⟨"InsuredFlame$Reader", "here", "()I"⟩ ⟨"InsuredFlame$Reader", "here", "()I"⟩) ∈ lw_all := lw_g (lw_at lw_ms 3 rfl) rfl
theorem qs4 : (Cond.selects "InsuredFlame$Reader" ⟨"InsuredFlame$Reader", "bad", "(II)V"⟩ ⟨"InsuredFlame$Reader", "bad", "(II)V"⟩) ∈ lw_all := lw_g (lw_at lw_ms 4 rfl) rfl
theorem qs5 : (Cond.selects "InsuredFlame$Reader" ⟨"InsuredFlame$Reader", "sum", "()LInsuredFlame$Sum;"⟩ ⟨"InsuredFlame$Reader", "sum", "()LInsuredFlame$Sum;"⟩) ∈ lw_all := lw_g (lw_at lw_ms 5 rfl) rfl
theorem qs6 : (Cond.selects "InsuredFlame$Reader" ⟨"InsuredFlame$Reader", "product", "()LInsuredFlame$Sum;"⟩ ⟨"InsuredFlame$Reader", "product", "()LInsuredFlame$Sum;"⟩) ∈ lw_all := lw_g (lw_at lw_ms 6 rfl) rfl
theorem qs7 : (Cond.selects "InsuredFlame$Reader" ⟨"InsuredFlame$Reader", "factor", "()LInsuredFlame$Sum;"⟩ ⟨"InsuredFlame$Reader", "factor", "()LInsuredFlame$Sum;"⟩) ∈ lw_all := lw_g (lw_at lw_ms 7 rfl) rfl
theorem qs8 : (Cond.selects "InsuredFlame$Reader" ⟨"InsuredFlame$Reader", "opens", "()V"⟩ ⟨"InsuredFlame$Reader", "opens", "()V"⟩) ∈ lw_all := lw_g (lw_at lw_ms 8 rfl) rfl
theorem qs9 : (Cond.selects "InsuredFlame$Reader" ⟨"InsuredFlame$Reader", "must", "(I)V"⟩ ⟨"InsuredFlame$Reader", "must", "(I)V"⟩) ∈ lw_all := lw_g (lw_at lw_ms 9 rfl) rfl
theorem qs10 : (Cond.selects "InsuredFlame$Reader" ⟨"InsuredFlame$Reader", "seesDigit", "()Z"⟩ ⟨"InsuredFlame$Reader", "seesDigit", "()Z"⟩) ∈ lw_all := lw_g (lw_at lw_ms 10 rfl) rfl
theorem qs11 : (Cond.selects "InsuredFlame$Reader" ⟨"InsuredFlame$Reader", "number", "()I"⟩ ⟨"InsuredFlame$Reader", "number", "()I"⟩) ∈ lw_all := lw_g (lw_at lw_ms 11 rfl) rfl
theorem qs12 : (Cond.selects "InsuredFlame$Reader" ⟨"InsuredFlame$Reader", "condition", "()LInsuredFlame$Condition;"⟩ ⟨"InsuredFlame$Reader", "condition", "()LInsuredFlame$Condition;"⟩) ∈ lw_all := lw_g (lw_at lw_ms 12 rfl) rfl
theorem qs13 : (Cond.selects "InsuredFlame$Reader" ⟨"InsuredFlame$Reader", "pieces", "()LInsuredFlame$Condition;"⟩ ⟨"InsuredFlame$Reader", "pieces", "()LInsuredFlame$Condition;"⟩) ∈ lw_all := lw_g (lw_at lw_ms 13 rfl) rfl
theorem qs14 : (Cond.selects "InsuredFlame$Reader" ⟨"InsuredFlame$Reader", "piece", "()LInsuredFlame$Condition;"⟩ ⟨"InsuredFlame$Reader", "piece", "()LInsuredFlame$Condition;"⟩) ∈ lw_all := lw_g (lw_at lw_ms 14 rfl) rfl
theorem qs15 : (Cond.selects "InsuredFlame$Surveyor" ⟨"InsuredFlame$Surveyor", "row", "()V"⟩ ⟨"InsuredFlame$Surveyor", "row", "()V"⟩) ∈ lw_all := lw_g (lw_at lw_ms 15 rfl) rfl
theorem qs16 : (Cond.selects "InsuredFlame$Surveyor" ⟨"InsuredFlame$Surveyor", "kind", "()I"⟩ ⟨"InsuredFlame$Surveyor", "kind", "()I"⟩) ∈ lw_all := lw_g (lw_at lw_ms 16 rfl) rfl
theorem qs17 : (Cond.selects "InsuredFlame$Surveyor" ⟨"InsuredFlame$Surveyor", "sign", "()V"⟩ ⟨"InsuredFlame$Surveyor", "sign", "()V"⟩) ∈ lw_all := lw_g (lw_at lw_ms 17 rfl) rfl
theorem qs18 : (Cond.selects "InsuredFlame$Clerk" ⟨"InsuredFlame$Clerk", "line", "()V"⟩ ⟨"InsuredFlame$Clerk", "line", "()V"⟩) ∈ lw_all := lw_g (lw_at lw_ms 18 rfl) rfl
theorem qs19 : (Cond.selects "InsuredFlame$Clerk" ⟨"InsuredFlame$Clerk", "thing", "()V"⟩ ⟨"InsuredFlame$Clerk", "thing", "()V"⟩) ∈ lw_all := lw_g (lw_at lw_ms 19 rfl) rfl
theorem qs20 : (Cond.selects "InsuredFlame$Clerk" ⟨"InsuredFlame$Clerk", "number", "(I)I"⟩ ⟨"InsuredFlame$Clerk", "number", "(I)I"⟩) ∈ lw_all := lw_g (lw_at lw_ms 20 rfl) rfl
theorem qs21 : (Cond.selects "InsuredFlame$Clerk" ⟨"InsuredFlame$Clerk", "spot", "()I"⟩ ⟨"InsuredFlame$Clerk", "spot", "()I"⟩) ∈ lw_all := lw_g (lw_at lw_ms 21 rfl) rfl
theorem qs22 : (Cond.selects "InsuredFlame$Clerk" ⟨"InsuredFlame$Clerk", "lit", "()V"⟩ ⟨"InsuredFlame$Clerk", "lit", "()V"⟩) ∈ lw_all := lw_g (lw_at lw_ms 22 rfl) rfl
theorem qs23 : (Cond.selects "InsuredFlame$Clerk" ⟨"InsuredFlame$Clerk", "wet", "()V"⟩ ⟨"InsuredFlame$Clerk", "wet", "()V"⟩) ∈ lw_all := lw_g (lw_at lw_ms 23 rfl) rfl
theorem qs24 : (Cond.selects "InsuredFlame$Fire" ⟨"InsuredFlame$Fire", "burns", "(I)V"⟩ ⟨"InsuredFlame$Fire", "burns", "(I)V"⟩) ∈ lw_all := lw_g (lw_at lw_ms 24 rfl) rfl
theorem qs25 : (Cond.selects "InsuredFlame$Fire" ⟨"InsuredFlame$Fire", "goesOver", "(II)V"⟩ ⟨"InsuredFlame$Fire", "goesOver", "(II)V"⟩) ∈ lw_all := lw_g (lw_at lw_ms 25 rfl) rfl
theorem qs26 : (Cond.selects "InsuredFlame$Fire" ⟨"InsuredFlame$Fire", "asked", "(IIII)LInsuredFlame$Moment;"⟩ ⟨"InsuredFlame$Fire", "asked", "(IIII)LInsuredFlame$Moment;"⟩) ∈ lw_all := lw_g (lw_at lw_ms 26 rfl) rfl
theorem qs27 : (Cond.selects "InsuredFlame$Fire" ⟨"InsuredFlame$Fire", "draw", "()I"⟩ ⟨"InsuredFlame$Fire", "draw", "()I"⟩) ∈ lw_all := lw_g (lw_at lw_ms 27 rfl) rfl
theorem qs28 : (Cond.selects "InsuredFlame" ⟨"InsuredFlame", "sumsLeft", "()I"⟩ ⟨"InsuredFlame", "sumsLeft", "()I"⟩) ∈ lw_all := lw_g (lw_at lw_ms 28 rfl) rfl
theorem qs29 : (Cond.selects "InsuredFlame" ⟨"InsuredFlame", "isThing", "(I)Z"⟩ ⟨"InsuredFlame", "isThing", "(I)Z"⟩) ∈ lw_all := lw_g (lw_at lw_ms 29 rfl) rfl
theorem qs30 : (Cond.selects "InsuredFlame" ⟨"InsuredFlame", "isWood", "(I)Z"⟩ ⟨"InsuredFlame", "isWood", "(I)Z"⟩) ∈ lw_all := lw_g (lw_at lw_ms 30 rfl) rfl
theorem qs31 : (Cond.selects "InsuredFlame" ⟨"InsuredFlame", "laysFrom", "(I)V"⟩ ⟨"InsuredFlame", "laysFrom", "(I)V"⟩) ∈ lw_all := lw_g (lw_at lw_ms 31 rfl) rfl
theorem qs32 : (Cond.selects "InsuredFlame" ⟨"InsuredFlame", "spreads", "()V"⟩ ⟨"InsuredFlame", "spreads", "()V"⟩) ∈ lw_all := lw_g (lw_at lw_ms 32 rfl) rfl
theorem qs33 : (Cond.selects "InsuredFlame" ⟨"InsuredFlame", "isSo", "(I)Z"⟩ ⟨"InsuredFlame", "isSo", "(I)Z"⟩) ∈ lw_all := lw_g (lw_at lw_ms 33 rfl) rfl
theorem qs34 : (Cond.selects "InsuredFlame" ⟨"InsuredFlame", "finds", "(II)Z"⟩ ⟨"InsuredFlame", "finds", "(II)Z"⟩) ∈ lw_all := lw_g (lw_at lw_ms 34 rfl) rfl
theorem qs35 : (Cond.selects "InsuredFlame" ⟨"InsuredFlame", "reaches", "(II)V"⟩ ⟨"InsuredFlame", "reaches", "(II)V"⟩) ∈ lw_all := lw_g (lw_at lw_ms 35 rfl) rfl
theorem qs36 : (Cond.selects "InsuredFlame" ⟨"InsuredFlame", "looksFrom", "(I)V"⟩ ⟨"InsuredFlame", "looksFrom", "(I)V"⟩) ∈ lw_all := lw_g (lw_at lw_ms 36 rfl) rfl
theorem qs37 : (Cond.selects "InsuredFlame" ⟨"InsuredFlame", "turns", "(II)V"⟩ ⟨"InsuredFlame", "turns", "(II)V"⟩) ∈ lw_all := lw_g (lw_at lw_ms 37 rfl) rfl
theorem qs38 : (Cond.selects "InsuredFlame" ⟨"InsuredFlame", "wayTo", "(II)I"⟩ ⟨"InsuredFlame", "wayTo", "(II)I"⟩) ∈ lw_all := lw_g (lw_at lw_ms 38 rfl) rfl
theorem qs39 : (Cond.selects "InsuredFlame" ⟨"InsuredFlame", "laysFromBurning", "()V"⟩ ⟨"InsuredFlame", "laysFromBurning", "()V"⟩) ∈ lw_all := lw_g (lw_at lw_ms 39 rfl) rfl
theorem qs40 : (Cond.selects "InsuredFlame" ⟨"InsuredFlame", "sumOf", "(IIII)I"⟩ ⟨"InsuredFlame", "sumOf", "(IIII)I"⟩) ∈ lw_all := lw_g (lw_at lw_ms 40 rfl) rfl
theorem qs41 : (Cond.selects "InsuredFlame" ⟨"InsuredFlame", "fed", "(I)I"⟩ ⟨"InsuredFlame", "fed", "(I)I"⟩) ∈ lw_all := lw_g (lw_at lw_ms 41 rfl) rfl
theorem qs42 : (Cond.selects "InsuredFlame" ⟨"InsuredFlame", "owedBy", "(III)I"⟩ ⟨"InsuredFlame", "owedBy", "(III)I"⟩) ∈ lw_all := lw_g (lw_at lw_ms 42 rfl) rfl
theorem qs43 : (Cond.selects "InsuredFlame" ⟨"InsuredFlame", "owedTo", "(III)I"⟩ ⟨"InsuredFlame", "owedTo", "(III)I"⟩) ∈ lw_all := lw_g (lw_at lw_ms 43 rfl) rfl
theorem qs44 : (Cond.selects "InsuredFlame" ⟨"InsuredFlame", "sorts", "(I)V"⟩ ⟨"InsuredFlame", "sorts", "(I)V"⟩) ∈ lw_all := lw_g (lw_at lw_ms 44 rfl) rfl
theorem qs45 : (Cond.selects "InsuredFlame" ⟨"InsuredFlame", "isInTime", "(II)Z"⟩ ⟨"InsuredFlame", "isInTime", "(II)Z"⟩) ∈ lw_all := lw_g (lw_at lw_ms 45 rfl) rfl
theorem qs46 : (Cond.selects "InsuredFlame" ⟨"InsuredFlame", "toldThings", "()I"⟩ ⟨"InsuredFlame", "toldThings", "()I"⟩) ∈ lw_all := lw_g (lw_at lw_ms 46 rfl) rfl
theorem qs47 : (Cond.selects "InsuredFlameModel" ⟨"InsuredFlameModel", "types", "(I)V"⟩ ⟨"InsuredFlameModel", "types", "(I)V"⟩) ∈ lw_all := lw_g (lw_at lw_ms 47 rfl) rfl
theorem qs48 : (Cond.selects "InsuredFlameModel" ⟨"InsuredFlameModel", "beginsText", "(I)V"⟩ ⟨"InsuredFlameModel", "beginsText", "(I)V"⟩) ∈ lw_all := lw_g (lw_at lw_ms 48 rfl) rfl
theorem qs49 : (Cond.selects "InsuredFlameModel" ⟨"InsuredFlameModel", "readsRule", "()Z"⟩ ⟨"InsuredFlameModel", "readsRule", "()Z"⟩) ∈ lw_all := lw_g (lw_at lw_ms 49 rfl) rfl
theorem qs50 : (Cond.selects "InsuredFlameModel" ⟨"InsuredFlameModel", "here", "()I"⟩ ⟨"InsuredFlameModel", "here", "()I"⟩) ∈ lw_all := lw_g (lw_at lw_ms 50 rfl) rfl
theorem qs51 : (Cond.selects "InsuredFlameModel" ⟨"InsuredFlameModel", "wrongAt", "(II)Z"⟩ ⟨"InsuredFlameModel", "wrongAt", "(II)Z"⟩) ∈ lw_all := lw_g (lw_at lw_ms 51 rfl) rfl
theorem qs52 : (Cond.selects "InsuredFlameModel" ⟨"InsuredFlameModel", "readsSum", "()Z"⟩ ⟨"InsuredFlameModel", "readsSum", "()Z"⟩) ∈ lw_all := lw_g (lw_at lw_ms 52 rfl) rfl
theorem qs53 : (Cond.selects "InsuredFlameModel" ⟨"InsuredFlameModel", "readsFactor", "()Z"⟩ ⟨"InsuredFlameModel", "readsFactor", "()Z"⟩) ∈ lw_all := lw_g (lw_at lw_ms 53 rfl) rfl
theorem qs54 : (Cond.selects "InsuredFlameModel" ⟨"InsuredFlameModel", "opens", "(I)Z"⟩ ⟨"InsuredFlameModel", "opens", "(I)Z"⟩) ∈ lw_all := lw_g (lw_at lw_ms 54 rfl) rfl
theorem qs55 : (Cond.selects "InsuredFlameModel" ⟨"InsuredFlameModel", "isDigit", "()Z"⟩ ⟨"InsuredFlameModel", "isDigit", "()Z"⟩) ∈ lw_all := lw_g (lw_at lw_ms 55 rfl) rfl
theorem qs56 : (Cond.selects "InsuredFlameModel" ⟨"InsuredFlameModel", "readsNumber", "()Z"⟩ ⟨"InsuredFlameModel", "readsNumber", "()Z"⟩) ∈ lw_all := lw_g (lw_at lw_ms 56 rfl) rfl
theorem qs57 : (Cond.selects "InsuredFlameModel" ⟨"InsuredFlameModel", "notes", "(II)V"⟩ ⟨"InsuredFlameModel", "notes", "(II)V"⟩) ∈ lw_all := lw_g (lw_at lw_ms 57 rfl) rfl
theorem qs58 : (Cond.selects "InsuredFlameModel" ⟨"InsuredFlameModel", "closesSums", "(Z)V"⟩ ⟨"InsuredFlameModel", "closesSums", "(Z)V"⟩) ∈ lw_all := lw_g (lw_at lw_ms 58 rfl) rfl
theorem qs59 : (Cond.selects "InsuredFlameModel" ⟨"InsuredFlameModel", "waitTop", "()I"⟩ ⟨"InsuredFlameModel", "waitTop", "()I"⟩) ∈ lw_all := lw_g (lw_at lw_ms 59 rfl) rfl
theorem qs60 : (Cond.selects "InsuredFlameModel" ⟨"InsuredFlameModel", "hasOpenSum", "(I)Z"⟩ ⟨"InsuredFlameModel", "hasOpenSum", "(I)Z"⟩) ∈ lw_all := lw_g (lw_at lw_ms 60 rfl) rfl
theorem qs61 : (Cond.selects "InsuredFlameModel" ⟨"InsuredFlameModel", "readsCondition", "()Z"⟩ ⟨"InsuredFlameModel", "readsCondition", "()Z"⟩) ∈ lw_all := lw_g (lw_at lw_ms 61 rfl) rfl
theorem qs62 : (Cond.selects "InsuredFlameModel" ⟨"InsuredFlameModel", "readsCompared", "()Z"⟩ ⟨"InsuredFlameModel", "readsCompared", "()Z"⟩) ∈ lw_all := lw_g (lw_at lw_ms 62 rfl) rfl
theorem qs63 : (Cond.selects "InsuredFlameModel" ⟨"InsuredFlameModel", "endsPiece", "()V"⟩ ⟨"InsuredFlameModel", "endsPiece", "()V"⟩) ∈ lw_all := lw_g (lw_at lw_ms 63 rfl) rfl
theorem qs64 : (Cond.selects "InsuredFlameModel" ⟨"InsuredFlameModel", "lands", "(Z)V"⟩ ⟨"InsuredFlameModel", "lands", "(Z)V"⟩) ∈ lw_all := lw_g (lw_at lw_ms 64 rfl) rfl
theorem qs65 : (Cond.selects "InsuredFlameModel" ⟨"InsuredFlameModel", "jumps", "(I)V"⟩ ⟨"InsuredFlameModel", "jumps", "(I)V"⟩) ∈ lw_all := lw_g (lw_at lw_ms 65 rfl) rfl
theorem qs66 : (Cond.selects "InsuredFlameModel" ⟨"InsuredFlameModel", "takes", "(I)Z"⟩ ⟨"InsuredFlameModel", "takes", "(I)Z"⟩) ∈ lw_all := lw_g (lw_at lw_ms 66 rfl) rfl
theorem qs67 : (Cond.selects "InsuredFlameModel" ⟨"InsuredFlameModel", "readsRow", "(I)Z"⟩ ⟨"InsuredFlameModel", "readsRow", "(I)Z"⟩) ∈ lw_all := lw_g (lw_at lw_ms 67 rfl) rfl
theorem qs68 : (Cond.selects "InsuredFlameModel" ⟨"InsuredFlameModel", "canBeginRow", "()Z"⟩ ⟨"InsuredFlameModel", "canBeginRow", "()Z"⟩) ∈ lw_all := lw_g (lw_at lw_ms 68 rfl) rfl
theorem qs69 : (Cond.selects "InsuredFlameModel" ⟨"InsuredFlameModel", "becomesWhole", "(I)V"⟩ ⟨"InsuredFlameModel", "becomesWhole", "(I)V"⟩) ∈ lw_all := lw_g (lw_at lw_ms 69 rfl) rfl
theorem qs70 : (Cond.selects "InsuredFlameModel" ⟨"InsuredFlameModel", "isWood", "(I)Z"⟩ ⟨"InsuredFlameModel", "isWood", "(I)Z"⟩) ∈ lw_all := lw_g (lw_at lw_ms 70 rfl) rfl
theorem qs71 : (Cond.selects "InsuredFlameModel" ⟨"InsuredFlameModel", "readsLine", "()Z"⟩ ⟨"InsuredFlameModel", "readsLine", "()Z"⟩) ∈ lw_all := lw_g (lw_at lw_ms 71 rfl) rfl
theorem qs72 : (Cond.selects "InsuredFlameModel" ⟨"InsuredFlameModel", "readsThing", "()Z"⟩ ⟨"InsuredFlameModel", "readsThing", "()Z"⟩) ∈ lw_all := lw_g (lw_at lw_ms 72 rfl) rfl
theorem qs73 : (Cond.selects "InsuredFlameModel" ⟨"InsuredFlameModel", "readsWithin", "(I)Z"⟩ ⟨"InsuredFlameModel", "readsWithin", "(I)Z"⟩) ∈ lw_all := lw_g (lw_at lw_ms 73 rfl) rfl
theorem qs74 : (Cond.selects "InsuredFlameModel" ⟨"InsuredFlameModel", "isThing", "(I)Z"⟩ ⟨"InsuredFlameModel", "isThing", "(I)Z"⟩) ∈ lw_all := lw_g (lw_at lw_ms 74 rfl) rfl
theorem qs75 : (Cond.selects "InsuredFlameModel" ⟨"InsuredFlameModel", "readsSpot", "()Z"⟩ ⟨"InsuredFlameModel", "readsSpot", "()Z"⟩) ∈ lw_all := lw_g (lw_at lw_ms 75 rfl) rfl
theorem qs76 : (Cond.selects "InsuredFlameModel" ⟨"InsuredFlameModel", "readsFire", "()Z"⟩ ⟨"InsuredFlameModel", "readsFire", "()Z"⟩) ∈ lw_all := lw_g (lw_at lw_ms 76 rfl) rfl
theorem qs77 : (Cond.selects "InsuredFlameModel" ⟨"InsuredFlameModel", "readsWater", "()Z"⟩ ⟨"InsuredFlameModel", "readsWater", "()Z"⟩) ∈ lw_all := lw_g (lw_at lw_ms 77 rfl) rfl
theorem qs78 : (Cond.selects "InsuredFlameModel" ⟨"InsuredFlameModel", "readsWind", "()Z"⟩ ⟨"InsuredFlameModel", "readsWind", "()Z"⟩) ∈ lw_all := lw_g (lw_at lw_ms 78 rfl) rfl
theorem qs79 : (Cond.selects "InsuredFlameModel" ⟨"InsuredFlameModel", "minutesGo", "(I)V"⟩ ⟨"InsuredFlameModel", "minutesGo", "(I)V"⟩) ∈ lw_all := lw_g (lw_at lw_ms 79 rfl) rfl
theorem qs80 : (Cond.selects "InsuredFlameModel" ⟨"InsuredFlameModel", "minuteGoes", "()V"⟩ ⟨"InsuredFlameModel", "minuteGoes", "()V"⟩) ∈ lw_all := lw_g (lw_at lw_ms 80 rfl) rfl
theorem qs81 : (Cond.selects "InsuredFlameModel" ⟨"InsuredFlameModel", "turnOf", "(I)V"⟩ ⟨"InsuredFlameModel", "turnOf", "(I)V"⟩) ∈ lw_all := lw_g (lw_at lw_ms 81 rfl) rfl
theorem qs82 : (Cond.selects "InsuredFlameModel" ⟨"InsuredFlameModel", "takesThings", "(I)V"⟩ ⟨"InsuredFlameModel", "takesThings", "(I)V"⟩) ∈ lw_all := lw_g (lw_at lw_ms 82 rfl) rfl
theorem qs83 : (Cond.selects "InsuredFlameModel" ⟨"InsuredFlameModel", "liesAt", "(II)Z"⟩ ⟨"InsuredFlameModel", "liesAt", "(II)Z"⟩) ∈ lw_all := lw_g (lw_at lw_ms 83 rfl) rfl
theorem qs84 : (Cond.selects "InsuredFlameModel" ⟨"InsuredFlameModel", "goesOver", "(II)V"⟩ ⟨"InsuredFlameModel", "goesOver", "(II)V"⟩) ∈ lw_all := lw_g (lw_at lw_ms 84 rfl) rfl
theorem qs85 : (Cond.selects "InsuredFlameModel" ⟨"InsuredFlameModel", "feels", "(IIII)V"⟩ ⟨"InsuredFlameModel", "feels", "(IIII)V"⟩) ∈ lw_all := lw_g (lw_at lw_ms 85 rfl) rfl
theorem qs86 : (Cond.selects "InsuredFlameModel" ⟨"InsuredFlameModel", "burnNextTo", "(I)I"⟩ ⟨"InsuredFlameModel", "burnNextTo", "(I)I"⟩) ∈ lw_all := lw_g (lw_at lw_ms 86 rfl) rfl
theorem qs87 : (Cond.selects "InsuredFlameModel" ⟨"InsuredFlameModel", "valuesAt", "(I)I"⟩ ⟨"InsuredFlameModel", "valuesAt", "(I)I"⟩) ∈ lw_all := lw_g (lw_at lw_ms 87 rfl) rfl
theorem qs88 : (Cond.selects "InsuredFlameModel" ⟨"InsuredFlameModel", "sumsAt", "(I)I"⟩ ⟨"InsuredFlameModel", "sumsAt", "(I)I"⟩) ∈ lw_all := lw_g (lw_at lw_ms 88 rfl) rfl
theorem qs89 : (Cond.selects "InsuredFlameModel" ⟨"InsuredFlameModel", "byLaw", "(III)I"⟩ ⟨"InsuredFlameModel", "byLaw", "(III)I"⟩) ∈ lw_all := lw_g (lw_at lw_ms 89 rfl) rfl
theorem qs90 : (Cond.selects "InsuredFlameModel" ⟨"InsuredFlameModel", "reckonsTo", "(II)I"⟩ ⟨"InsuredFlameModel", "reckonsTo", "(II)I"⟩) ∈ lw_all := lw_g (lw_at lw_ms 90 rfl) rfl
theorem qs91 : (Cond.selects "InsuredFlameModel" ⟨"InsuredFlameModel", "draws", "()I"⟩ ⟨"InsuredFlameModel", "draws", "()I"⟩) ∈ lw_all := lw_g (lw_at lw_ms 91 rfl) rfl
theorem qs92 : (Cond.selects "InsuredFlameModel" ⟨"InsuredFlameModel", "holdsAny", "(I)Z"⟩ ⟨"InsuredFlameModel", "holdsAny", "(I)Z"⟩) ∈ lw_all := lw_g (lw_at lw_ms 92 rfl) rfl
theorem qs93 : (Cond.selects "InsuredFlameModel" ⟨"InsuredFlameModel", "faring", "(I)I"⟩ ⟨"InsuredFlameModel", "faring", "(I)I"⟩) ∈ lw_all := lw_g (lw_at lw_ms 93 rfl) rfl
theorem qs94 : (Cond.selects "InsuredFlameModel" ⟨"InsuredFlameModel", "goneSet", "()I"⟩ ⟨"InsuredFlameModel", "goneSet", "()I"⟩) ∈ lw_all := lw_g (lw_at lw_ms 94 rfl) rfl
theorem qs95 : (Cond.selects "InsuredFlameModel" ⟨"InsuredFlameModel", "sumsInRuins", "()I"⟩ ⟨"InsuredFlameModel", "sumsInRuins", "()I"⟩) ∈ lw_all := lw_g (lw_at lw_ms 95 rfl) rfl
theorem qs96 : (Cond.selects "InsuredFlameModel" ⟨"InsuredFlameModel", "thingsAt", "(I)I"⟩ ⟨"InsuredFlameModel", "thingsAt", "(I)I"⟩) ∈ lw_all := lw_g (lw_at lw_ms 96 rfl) rfl
theorem qs97 : (Cond.selects "InsuredFlameModel" ⟨"InsuredFlameModel", "laysFireFrom", "(I)V"⟩ ⟨"InsuredFlameModel", "laysFireFrom", "(I)V"⟩) ∈ lw_all := lw_g (lw_at lw_ms 97 rfl) rfl
theorem qs98 : (Cond.selects "InsuredFlameModel" ⟨"InsuredFlameModel", "clearsFire", "()V"⟩ ⟨"InsuredFlameModel", "clearsFire", "()V"⟩) ∈ lw_all := lw_g (lw_at lw_ms 98 rfl) rfl
theorem qs99 : (Cond.selects "InsuredFlameModel" ⟨"InsuredFlameModel", "laysFire", "(I)V"⟩ ⟨"InsuredFlameModel", "laysFire", "(I)V"⟩) ∈ lw_all := lw_g (lw_at lw_ms 99 rfl) rfl
theorem qs100 : (Cond.selects "InsuredFlameModel" ⟨"InsuredFlameModel", "couldBegin", "(II)Z"⟩ ⟨"InsuredFlameModel", "couldBegin", "(II)Z"⟩) ∈ lw_all := lw_g (lw_at lw_ms 100 rfl) rfl
theorem qs101 : (Cond.selects "InsuredFlameModel" ⟨"InsuredFlameModel", "waysApart", "(II)I"⟩ ⟨"InsuredFlameModel", "waysApart", "(II)I"⟩) ∈ lw_all := lw_g (lw_at lw_ms 101 rfl) rfl
theorem qs102 : (Cond.selects "InsuredFlameModel" ⟨"InsuredFlameModel", "findsWay", "(II)Z"⟩ ⟨"InsuredFlameModel", "findsWay", "(II)Z"⟩) ∈ lw_all := lw_g (lw_at lw_ms 102 rfl) rfl
theorem qs103 : (Cond.selects "InsuredFlameModel" ⟨"InsuredFlameModel", "visits", "(II)V"⟩ ⟨"InsuredFlameModel", "visits", "(II)V"⟩) ∈ lw_all := lw_g (lw_at lw_ms 103 rfl) rfl
theorem qs104 : (Cond.selects "InsuredFlameModel" ⟨"InsuredFlameModel", "goesAlong", "(II)V"⟩ ⟨"InsuredFlameModel", "goesAlong", "(II)V"⟩) ∈ lw_all := lw_g (lw_at lw_ms 104 rfl) rfl
theorem qs105 : (Cond.selects "InsuredFlameModel" ⟨"InsuredFlameModel", "laysFireNow", "()V"⟩ ⟨"InsuredFlameModel", "laysFireNow", "()V"⟩) ∈ lw_all := lw_g (lw_at lw_ms 105 rfl) rfl
theorem qs106 : (Cond.selects "InsuredFlameModel" ⟨"InsuredFlameModel", "woodSeen", "()I"⟩ ⟨"InsuredFlameModel", "woodSeen", "()I"⟩) ∈ lw_all := lw_g (lw_at lw_ms 106 rfl) rfl
theorem qs107 : (Cond.selects "InsuredFlameModel" ⟨"InsuredFlameModel", "octet", "(I)I"⟩ ⟨"InsuredFlameModel", "octet", "(I)I"⟩) ∈ lw_all := lw_g (lw_at lw_ms 107 rfl) rfl
theorem qs108 : (Cond.selects "InsuredFlameModel" ⟨"InsuredFlameModel", "restOf", "(III)I"⟩ ⟨"InsuredFlameModel", "restOf", "(III)I"⟩) ∈ lw_all := lw_g (lw_at lw_ms 108 rfl) rfl
theorem qs109 : (Cond.selects "InsuredFlameModel" ⟨"InsuredFlameModel", "laysRow", "(I)V"⟩ ⟨"InsuredFlameModel", "laysRow", "(I)V"⟩) ∈ lw_all := lw_g (lw_at lw_ms 109 rfl) rfl
theorem qs110 : (Cond.selects "InsuredFlameModel" ⟨"InsuredFlameModel", "worthOf", "(II)I"⟩ ⟨"InsuredFlameModel", "worthOf", "(II)I"⟩) ∈ lw_all := lw_g (lw_at lw_ms 110 rfl) rfl
theorem qs111 : (Cond.selects "InsuredFlameModel" ⟨"InsuredFlameModel", "toldSet", "()I"⟩ ⟨"InsuredFlameModel", "toldSet", "()I"⟩) ∈ lw_all := lw_g (lw_at lw_ms 111 rfl) rfl
theorem qs112 : (Cond.selects "InsuredFlameModel" ⟨"InsuredFlameModel", "lostAll", "()I"⟩ ⟨"InsuredFlameModel", "lostAll", "()I"⟩) ∈ lw_all := lw_g (lw_at lw_ms 112 rfl) rfl
