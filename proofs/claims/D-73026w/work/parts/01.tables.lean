-- ===== PART A: goes FIRST, ahead of the names: the tables' words, and 'selects' of the private methods out of them =====
/-- a private method of a class that the tables say can be made, by its rows of tables_1 -/
def lw_okq (q : MethodName × Nat) : Prop := (q.1.cls ≠ "java/lang/invoke/MethodHandle" ∧ q.1.cls ≠ "java/lang/invoke/VarHandle") ∧ Cond.instantiable q.1.cls q.2 ∈ tables_1 ∧ Cond.privateMethod q.1 ∈ tables_1 ∧ Cond.instanceMethod q.1 ∈ tables_1
set_option maxRecDepth 100000
theorem lw_t1 {w : Cond} (h : w ∈ tables_1_1) : w ∈ tables_1 := List.mem_append_left _ h
theorem lw_t2 {w : Cond} (h : w ∈ tables_1_2) : w ∈ tables_1 := List.mem_append_right _ (List.mem_append_left _ h)
theorem lw_t3 {w : Cond} (h : w ∈ tables_1_3) : w ∈ tables_1 := List.mem_append_right _ (List.mem_append_right _ (List.mem_append_left _ h))
theorem lw_t4 {w : Cond} (h : w ∈ tables_1_4) : w ∈ tables_1 := List.mem_append_right _ (List.mem_append_right _ (List.mem_append_right _ (List.mem_append_left _ h)))
theorem lw_t5 {w : Cond} (h : w ∈ tables_1_5) : w ∈ tables_1 := List.mem_append_right _ (List.mem_append_right _ (List.mem_append_right _ (List.mem_append_right _ (List.mem_append_left _ h))))
theorem lw_t6 {w : Cond} (h : w ∈ tables_1_6) : w ∈ tables_1 := List.mem_append_right _ (List.mem_append_right _ (List.mem_append_right _ (List.mem_append_right _ (List.mem_append_right _ (List.mem_append_left _ h)))))
theorem lw_t7 {w : Cond} (h : w ∈ tables_1_7) : w ∈ tables_1 := List.mem_append_right _ (List.mem_append_right _ (List.mem_append_right _ (List.mem_append_right _ (List.mem_append_right _ (List.mem_append_right _ h)))))
theorem lw_p0 : lw_okq (⟨"AnyKeyTown", "push", "(I)V"⟩, 19) := ⟨⟨by decide +kernel, by decide +kernel⟩, lw_t1 (List.mem_of_getElem? (i := 28) rfl), lw_t2 (List.mem_of_getElem? (i := 21) rfl), lw_t2 (List.mem_of_getElem? (i := 22) rfl)⟩
theorem lw_p1 : lw_okq (⟨"AnyKeyTown$Reader", "isGood", "()Z"⟩, 7) := ⟨⟨by decide +kernel, by decide +kernel⟩, lw_t2 (List.mem_of_getElem? (i := 32) rfl), lw_t2 (List.mem_of_getElem? (i := 67) rfl), lw_t2 (List.mem_of_getElem? (i := 68) rfl)⟩
theorem lw_p2 : lw_okq (⟨"AnyKeyTown$Reader", "clause", "()V"⟩, 7) := ⟨⟨by decide +kernel, by decide +kernel⟩, lw_t2 (List.mem_of_getElem? (i := 32) rfl), lw_t2 (List.mem_of_getElem? (i := 71) rfl), lw_t2 (List.mem_of_getElem? (i := 72) rfl)⟩
theorem lw_p3 : lw_okq (⟨"AnyKeyTown$Reader", "here", "()I"⟩, 7) := ⟨⟨by decide +kernel, by decide +kernel⟩, lw_t2 (List.mem_of_getElem? (i := 32) rfl), lw_t2 (List.mem_of_getElem? (i := 75) rfl), lw_t2 (List.mem_of_getElem? (i := 76) rfl)⟩
theorem lw_p4 : lw_okq (⟨"AnyKeyTown$Reader", "bad", "(II)V"⟩, 7) := ⟨⟨by decide +kernel, by decide +kernel⟩, lw_t2 (List.mem_of_getElem? (i := 32) rfl), lw_t2 (List.mem_of_getElem? (i := 166) rfl), lw_t2 (List.mem_of_getElem? (i := 167) rfl)⟩
theorem lw_p5 : lw_okq (⟨"AnyKeyTown$Reader", "sum", "()LAnyKeyTown$Sum;"⟩, 7) := ⟨⟨by decide +kernel, by decide +kernel⟩, lw_t2 (List.mem_of_getElem? (i := 32) rfl), lw_t2 (List.mem_of_getElem? (i := 170) rfl), lw_t2 (List.mem_of_getElem? (i := 171) rfl)⟩
theorem lw_p6 : lw_okq (⟨"AnyKeyTown$Reader", "product", "()LAnyKeyTown$Sum;"⟩, 7) := ⟨⟨by decide +kernel, by decide +kernel⟩, lw_t2 (List.mem_of_getElem? (i := 32) rfl), lw_t2 (List.mem_of_getElem? (i := 176) rfl), lw_t2 (List.mem_of_getElem? (i := 177) rfl)⟩
theorem lw_p7 : lw_okq (⟨"AnyKeyTown$Reader", "factor", "()LAnyKeyTown$Sum;"⟩, 7) := ⟨⟨by decide +kernel, by decide +kernel⟩, lw_t2 (List.mem_of_getElem? (i := 32) rfl), lw_t2 (List.mem_of_getElem? (i := 180) rfl), lw_t2 (List.mem_of_getElem? (i := 181) rfl)⟩
theorem lw_p8 : lw_okq (⟨"AnyKeyTown$Reader", "opens", "()V"⟩, 7) := ⟨⟨by decide +kernel, by decide +kernel⟩, lw_t2 (List.mem_of_getElem? (i := 32) rfl), lw_t2 (List.mem_of_getElem? (i := 184) rfl), lw_t2 (List.mem_of_getElem? (i := 185) rfl)⟩
theorem lw_p9 : lw_okq (⟨"AnyKeyTown$Reader", "must", "(I)V"⟩, 7) := ⟨⟨by decide +kernel, by decide +kernel⟩, lw_t2 (List.mem_of_getElem? (i := 32) rfl), lw_t2 (List.mem_of_getElem? (i := 188) rfl), lw_t2 (List.mem_of_getElem? (i := 189) rfl)⟩
theorem lw_p10 : lw_okq (⟨"AnyKeyTown$Reader", "seesDigit", "()Z"⟩, 7) := ⟨⟨by decide +kernel, by decide +kernel⟩, lw_t2 (List.mem_of_getElem? (i := 32) rfl), lw_t2 (List.mem_of_getElem? (i := 192) rfl), lw_t2 (List.mem_of_getElem? (i := 193) rfl)⟩
theorem lw_p11 : lw_okq (⟨"AnyKeyTown$Reader", "number", "()I"⟩, 7) := ⟨⟨by decide +kernel, by decide +kernel⟩, lw_t2 (List.mem_of_getElem? (i := 32) rfl), lw_t2 (List.mem_of_getElem? (i := 198) rfl), lw_t2 (List.mem_of_getElem? (i := 199) rfl)⟩
theorem lw_p12 : lw_okq (⟨"AnyKeyTown$Reader", "condition", "()LAnyKeyTown$Condition;"⟩, 7) := ⟨⟨by decide +kernel, by decide +kernel⟩, lw_t2 (List.mem_of_getElem? (i := 32) rfl), lw_t2 (List.mem_of_getElem? (i := 239) rfl), lw_t3 (List.mem_of_getElem? (i := 0) rfl)⟩
theorem lw_p13 : lw_okq (⟨"AnyKeyTown$Reader", "pieces", "()LAnyKeyTown$Condition;"⟩, 7) := ⟨⟨by decide +kernel, by decide +kernel⟩, lw_t2 (List.mem_of_getElem? (i := 32) rfl), lw_t3 (List.mem_of_getElem? (i := 5) rfl), lw_t3 (List.mem_of_getElem? (i := 6) rfl)⟩
theorem lw_p14 : lw_okq (⟨"AnyKeyTown$Reader", "piece", "()LAnyKeyTown$Condition;"⟩, 7) := ⟨⟨by decide +kernel, by decide +kernel⟩, lw_t2 (List.mem_of_getElem? (i := 32) rfl), lw_t3 (List.mem_of_getElem? (i := 9) rfl), lw_t3 (List.mem_of_getElem? (i := 10) rfl)⟩
theorem lw_p15 : lw_okq (⟨"AnyKeyTown$Constable", "line", "()V"⟩, 7) := ⟨⟨by decide +kernel, by decide +kernel⟩, lw_t3 (List.mem_of_getElem? (i := 61) rfl), lw_t3 (List.mem_of_getElem? (i := 100) rfl), lw_t3 (List.mem_of_getElem? (i := 101) rfl)⟩
def lw_privs_1 : List (MethodName × Nat) := [(⟨"AnyKeyTown", "push", "(I)V"⟩, 19), (⟨"AnyKeyTown$Reader", "isGood", "()Z"⟩, 7), (⟨"AnyKeyTown$Reader", "clause", "()V"⟩, 7), (⟨"AnyKeyTown$Reader", "here", "()I"⟩, 7), (⟨"AnyKeyTown$Reader", "bad", "(II)V"⟩, 7), (⟨"AnyKeyTown$Reader", "sum", "()LAnyKeyTown$Sum;"⟩, 7), (⟨"AnyKeyTown$Reader", "product", "()LAnyKeyTown$Sum;"⟩, 7), (⟨"AnyKeyTown$Reader", "factor", "()LAnyKeyTown$Sum;"⟩, 7), (⟨"AnyKeyTown$Reader", "opens", "()V"⟩, 7), (⟨"AnyKeyTown$Reader", "must", "(I)V"⟩, 7), (⟨"AnyKeyTown$Reader", "seesDigit", "()Z"⟩, 7), (⟨"AnyKeyTown$Reader", "number", "()I"⟩, 7), (⟨"AnyKeyTown$Reader", "condition", "()LAnyKeyTown$Condition;"⟩, 7), (⟨"AnyKeyTown$Reader", "pieces", "()LAnyKeyTown$Condition;"⟩, 7), (⟨"AnyKeyTown$Reader", "piece", "()LAnyKeyTown$Condition;"⟩, 7), (⟨"AnyKeyTown$Constable", "line", "()V"⟩, 7)]
theorem lw_r1 : ∀ q ∈ lw_privs_1, lw_okq q := List.forall_mem_cons.mpr ⟨lw_p0, List.forall_mem_cons.mpr ⟨lw_p1, List.forall_mem_cons.mpr ⟨lw_p2, List.forall_mem_cons.mpr ⟨lw_p3, List.forall_mem_cons.mpr ⟨lw_p4, List.forall_mem_cons.mpr ⟨lw_p5, List.forall_mem_cons.mpr ⟨lw_p6, List.forall_mem_cons.mpr ⟨lw_p7, List.forall_mem_cons.mpr ⟨lw_p8, List.forall_mem_cons.mpr ⟨lw_p9, List.forall_mem_cons.mpr ⟨lw_p10, List.forall_mem_cons.mpr ⟨lw_p11, List.forall_mem_cons.mpr ⟨lw_p12, List.forall_mem_cons.mpr ⟨lw_p13, List.forall_mem_cons.mpr ⟨lw_p14, List.forall_mem_cons.mpr ⟨lw_p15, fun _ h => absurd h List.not_mem_nil⟩⟩⟩⟩⟩⟩⟩⟩⟩⟩⟩⟩⟩⟩⟩⟩
theorem lw_p16 : lw_okq (⟨"AnyKeyTown$Constable", "house", "(I)V"⟩, 7) := ⟨⟨by decide +kernel, by decide +kernel⟩, lw_t3 (List.mem_of_getElem? (i := 61) rfl), lw_t3 (List.mem_of_getElem? (i := 161) rfl), lw_t3 (List.mem_of_getElem? (i := 162) rfl)⟩
theorem lw_p17 : lw_okq (⟨"AnyKeyTown$Constable", "quarrel", "(IZ)V"⟩, 7) := ⟨⟨by decide +kernel, by decide +kernel⟩, lw_t3 (List.mem_of_getElem? (i := 61) rfl), lw_t3 (List.mem_of_getElem? (i := 171) rfl), lw_t3 (List.mem_of_getElem? (i := 172) rfl)⟩
theorem lw_p18 : lw_okq (⟨"AnyKeyTown$Dancer", "two", "()V"⟩, 10) := ⟨⟨by decide +kernel, by decide +kernel⟩, lw_t3 (List.mem_of_getElem? (i := 197) rfl), lw_t3 (List.mem_of_getElem? (i := 230) rfl), lw_t3 (List.mem_of_getElem? (i := 231) rfl)⟩
theorem lw_p19 : lw_okq (⟨"AnyKeyTown$Town", "eveningGoes", "()V"⟩, 10) := ⟨⟨by decide +kernel, by decide +kernel⟩, lw_t1 (List.mem_of_getElem? (i := 114) rfl), lw_t4 (List.mem_of_getElem? (i := 27) rfl), lw_t4 (List.mem_of_getElem? (i := 28) rfl)⟩
theorem lw_p20 : lw_okq (⟨"AnyKeyTown$Town", "draw", "()I"⟩, 10) := ⟨⟨by decide +kernel, by decide +kernel⟩, lw_t1 (List.mem_of_getElem? (i := 114) rfl), lw_t4 (List.mem_of_getElem? (i := 32) rfl), lw_t4 (List.mem_of_getElem? (i := 33) rfl)⟩
theorem lw_p21 : lw_okq (⟨"AnyKeyTown$Town", "asked", "(II)LAnyKeyTown$Moment;"⟩, 10) := ⟨⟨by decide +kernel, by decide +kernel⟩, lw_t1 (List.mem_of_getElem? (i := 114) rfl), lw_t4 (List.mem_of_getElem? (i := 37) rfl), lw_t4 (List.mem_of_getElem? (i := 38) rfl)⟩
theorem lw_p22 : lw_okq (⟨"AnyKeyTown$Town", "chosen", "()I"⟩, 10) := ⟨⟨by decide +kernel, by decide +kernel⟩, lw_t1 (List.mem_of_getElem? (i := 114) rfl), lw_t4 (List.mem_of_getElem? (i := 91) rfl), lw_t4 (List.mem_of_getElem? (i := 92) rfl)⟩
theorem lw_p23 : lw_okq (⟨"AnyKeyTown", "tells", "(I)I"⟩, 19) := ⟨⟨by decide +kernel, by decide +kernel⟩, lw_t1 (List.mem_of_getElem? (i := 28) rfl), lw_t4 (List.mem_of_getElem? (i := 105) rfl), lw_t4 (List.mem_of_getElem? (i := 106) rfl)⟩
theorem lw_p24 : lw_okq (⟨"AnyKeyTown$Town", "beds", "()I"⟩, 10) := ⟨⟨by decide +kernel, by decide +kernel⟩, lw_t1 (List.mem_of_getElem? (i := 114) rfl), lw_t4 (List.mem_of_getElem? (i := 127) rfl), lw_t4 (List.mem_of_getElem? (i := 128) rfl)⟩
theorem lw_p25 : lw_okq (⟨"AnyKeyTown", "laysOrders", "(I)V"⟩, 19) := ⟨⟨by decide +kernel, by decide +kernel⟩, lw_t1 (List.mem_of_getElem? (i := 28) rfl), lw_t4 (List.mem_of_getElem? (i := 180) rfl), lw_t4 (List.mem_of_getElem? (i := 181) rfl)⟩
theorem lw_p26 : lw_okq (⟨"AnyKeyTown", "areTold", "(I)Z"⟩, 19) := ⟨⟨by decide +kernel, by decide +kernel⟩, lw_t1 (List.mem_of_getElem? (i := 28) rfl), lw_t4 (List.mem_of_getElem? (i := 188) rfl), lw_t4 (List.mem_of_getElem? (i := 189) rfl)⟩
theorem lw_p27 : lw_okq (⟨"AnyKeyTown", "isParty", "(I)Z"⟩, 19) := ⟨⟨by decide +kernel, by decide +kernel⟩, lw_t1 (List.mem_of_getElem? (i := 28) rfl), lw_t4 (List.mem_of_getElem? (i := 206) rfl), lw_t4 (List.mem_of_getElem? (i := 207) rfl)⟩
theorem lw_p28 : lw_okq (⟨"AnyKeyTown", "canParty", "(III)Z"⟩, 19) := ⟨⟨by decide +kernel, by decide +kernel⟩, lw_t1 (List.mem_of_getElem? (i := 28) rfl), lw_t4 (List.mem_of_getElem? (i := 214) rfl), lw_t4 (List.mem_of_getElem? (i := 215) rfl)⟩
theorem lw_p29 : lw_okq (⟨"AnyKeyTown", "groups", "()I"⟩, 19) := ⟨⟨by decide +kernel, by decide +kernel⟩, lw_t1 (List.mem_of_getElem? (i := 28) rfl), lw_t4 (List.mem_of_getElem? (i := 222) rfl), lw_t4 (List.mem_of_getElem? (i := 223) rfl)⟩
theorem lw_p30 : lw_okq (⟨"AnyKeyTown", "stepsTo", "(I)I"⟩, 19) := ⟨⟨by decide +kernel, by decide +kernel⟩, lw_t1 (List.mem_of_getElem? (i := 28) rfl), lw_t4 (List.mem_of_getElem? (i := 238) rfl), lw_t4 (List.mem_of_getElem? (i := 239) rfl)⟩
theorem lw_p31 : lw_okq (⟨"AnyKeyTown", "foesOf", "(I)I"⟩, 19) := ⟨⟨by decide +kernel, by decide +kernel⟩, lw_t1 (List.mem_of_getElem? (i := 28) rfl), lw_t5 (List.mem_of_getElem? (i := 19) rfl), lw_t5 (List.mem_of_getElem? (i := 20) rfl)⟩
def lw_privs_2 : List (MethodName × Nat) := [(⟨"AnyKeyTown$Constable", "house", "(I)V"⟩, 7), (⟨"AnyKeyTown$Constable", "quarrel", "(IZ)V"⟩, 7), (⟨"AnyKeyTown$Dancer", "two", "()V"⟩, 10), (⟨"AnyKeyTown$Town", "eveningGoes", "()V"⟩, 10), (⟨"AnyKeyTown$Town", "draw", "()I"⟩, 10), (⟨"AnyKeyTown$Town", "asked", "(II)LAnyKeyTown$Moment;"⟩, 10), (⟨"AnyKeyTown$Town", "chosen", "()I"⟩, 10), (⟨"AnyKeyTown", "tells", "(I)I"⟩, 19), (⟨"AnyKeyTown$Town", "beds", "()I"⟩, 10), (⟨"AnyKeyTown", "laysOrders", "(I)V"⟩, 19), (⟨"AnyKeyTown", "areTold", "(I)Z"⟩, 19), (⟨"AnyKeyTown", "isParty", "(I)Z"⟩, 19), (⟨"AnyKeyTown", "canParty", "(III)Z"⟩, 19), (⟨"AnyKeyTown", "groups", "()I"⟩, 19), (⟨"AnyKeyTown", "stepsTo", "(I)I"⟩, 19), (⟨"AnyKeyTown", "foesOf", "(I)I"⟩, 19)]
theorem lw_r2 : ∀ q ∈ lw_privs_2, lw_okq q := List.forall_mem_cons.mpr ⟨lw_p16, List.forall_mem_cons.mpr ⟨lw_p17, List.forall_mem_cons.mpr ⟨lw_p18, List.forall_mem_cons.mpr ⟨lw_p19, List.forall_mem_cons.mpr ⟨lw_p20, List.forall_mem_cons.mpr ⟨lw_p21, List.forall_mem_cons.mpr ⟨lw_p22, List.forall_mem_cons.mpr ⟨lw_p23, List.forall_mem_cons.mpr ⟨lw_p24, List.forall_mem_cons.mpr ⟨lw_p25, List.forall_mem_cons.mpr ⟨lw_p26, List.forall_mem_cons.mpr ⟨lw_p27, List.forall_mem_cons.mpr ⟨lw_p28, List.forall_mem_cons.mpr ⟨lw_p29, List.forall_mem_cons.mpr ⟨lw_p30, List.forall_mem_cons.mpr ⟨lw_p31, fun _ h => absurd h List.not_mem_nil⟩⟩⟩⟩⟩⟩⟩⟩⟩⟩⟩⟩⟩⟩⟩⟩
theorem lw_p32 : lw_okq (⟨"AnyKeyTown", "pairings", "([II)I"⟩, 19) := ⟨⟨by decide +kernel, by decide +kernel⟩, lw_t1 (List.mem_of_getElem? (i := 28) rfl), lw_t5 (List.mem_of_getElem? (i := 27) rfl), lw_t5 (List.mem_of_getElem? (i := 28) rfl)⟩
theorem lw_p33 : lw_okq (⟨"AnyKeyTown", "fed", "(I)I"⟩, 19) := ⟨⟨by decide +kernel, by decide +kernel⟩, lw_t1 (List.mem_of_getElem? (i := 28) rfl), lw_t5 (List.mem_of_getElem? (i := 45) rfl), lw_t5 (List.mem_of_getElem? (i := 46) rfl)⟩
theorem lw_p34 : lw_okq (⟨"AnyKeyTown", "sorts", "(I)V"⟩, 19) := ⟨⟨by decide +kernel, by decide +kernel⟩, lw_t1 (List.mem_of_getElem? (i := 28) rfl), lw_t5 (List.mem_of_getElem? (i := 57) rfl), lw_t5 (List.mem_of_getElem? (i := 58) rfl)⟩
theorem lw_p35 : lw_okq (⟨"AnyKeyTown", "laysCalls", "(III)V"⟩, 19) := ⟨⟨by decide +kernel, by decide +kernel⟩, lw_t1 (List.mem_of_getElem? (i := 28) rfl), lw_t5 (List.mem_of_getElem? (i := 61) rfl), lw_t5 (List.mem_of_getElem? (i := 62) rfl)⟩
theorem lw_p36 : lw_okq (⟨"AnyKeyTown", "houseAt", "(I)I"⟩, 19) := ⟨⟨by decide +kernel, by decide +kernel⟩, lw_t1 (List.mem_of_getElem? (i := 28) rfl), lw_t5 (List.mem_of_getElem? (i := 65) rfl), lw_t5 (List.mem_of_getElem? (i := 66) rfl)⟩
theorem lw_p37 : lw_okq (⟨"AnyKeyTown", "inTime", "(II)I"⟩, 19) := ⟨⟨by decide +kernel, by decide +kernel⟩, lw_t1 (List.mem_of_getElem? (i := 28) rfl), lw_t5 (List.mem_of_getElem? (i := 69) rfl), lw_t5 (List.mem_of_getElem? (i := 70) rfl)⟩
theorem lw_p38 : lw_okq (⟨"AnyKeyTown", "twos", "()I"⟩, 19) := ⟨⟨by decide +kernel, by decide +kernel⟩, lw_t1 (List.mem_of_getElem? (i := 28) rfl), lw_t5 (List.mem_of_getElem? (i := 99) rfl), lw_t5 (List.mem_of_getElem? (i := 100) rfl)⟩
theorem lw_p39 : lw_okq (⟨"AnyKeyTown", "favoursOfAll", "()I"⟩, 19) := ⟨⟨by decide +kernel, by decide +kernel⟩, lw_t1 (List.mem_of_getElem? (i := 28) rfl), lw_t5 (List.mem_of_getElem? (i := 103) rfl), lw_t5 (List.mem_of_getElem? (i := 104) rfl)⟩
theorem lw_p40 : lw_okq (⟨"AnyKeyTownModel", "types", "(I)V"⟩, 52) := ⟨⟨by decide +kernel, by decide +kernel⟩, lw_t5 (List.mem_of_getElem? (i := 107) rfl), lw_t6 (List.mem_of_getElem? (i := 35) rfl), lw_t6 (List.mem_of_getElem? (i := 36) rfl)⟩
theorem lw_p41 : lw_okq (⟨"AnyKeyTownModel", "beginsText", "(I)V"⟩, 52) := ⟨⟨by decide +kernel, by decide +kernel⟩, lw_t5 (List.mem_of_getElem? (i := 107) rfl), lw_t6 (List.mem_of_getElem? (i := 46) rfl), lw_t6 (List.mem_of_getElem? (i := 47) rfl)⟩
theorem lw_p42 : lw_okq (⟨"AnyKeyTownModel", "readsRule", "()Z"⟩, 52) := ⟨⟨by decide +kernel, by decide +kernel⟩, lw_t5 (List.mem_of_getElem? (i := 107) rfl), lw_t6 (List.mem_of_getElem? (i := 50) rfl), lw_t6 (List.mem_of_getElem? (i := 51) rfl)⟩
theorem lw_p43 : lw_okq (⟨"AnyKeyTownModel", "here", "()I"⟩, 52) := ⟨⟨by decide +kernel, by decide +kernel⟩, lw_t5 (List.mem_of_getElem? (i := 107) rfl), lw_t6 (List.mem_of_getElem? (i := 54) rfl), lw_t6 (List.mem_of_getElem? (i := 55) rfl)⟩
theorem lw_p44 : lw_okq (⟨"AnyKeyTownModel", "wrongAt", "(II)Z"⟩, 52) := ⟨⟨by decide +kernel, by decide +kernel⟩, lw_t5 (List.mem_of_getElem? (i := 107) rfl), lw_t6 (List.mem_of_getElem? (i := 58) rfl), lw_t6 (List.mem_of_getElem? (i := 59) rfl)⟩
theorem lw_p45 : lw_okq (⟨"AnyKeyTownModel", "readsSum", "()Z"⟩, 52) := ⟨⟨by decide +kernel, by decide +kernel⟩, lw_t5 (List.mem_of_getElem? (i := 107) rfl), lw_t6 (List.mem_of_getElem? (i := 62) rfl), lw_t6 (List.mem_of_getElem? (i := 63) rfl)⟩
theorem lw_p46 : lw_okq (⟨"AnyKeyTownModel", "readsFactor", "()Z"⟩, 52) := ⟨⟨by decide +kernel, by decide +kernel⟩, lw_t5 (List.mem_of_getElem? (i := 107) rfl), lw_t6 (List.mem_of_getElem? (i := 66) rfl), lw_t6 (List.mem_of_getElem? (i := 67) rfl)⟩
theorem lw_p47 : lw_okq (⟨"AnyKeyTownModel", "opens", "(I)Z"⟩, 52) := ⟨⟨by decide +kernel, by decide +kernel⟩, lw_t5 (List.mem_of_getElem? (i := 107) rfl), lw_t6 (List.mem_of_getElem? (i := 70) rfl), lw_t6 (List.mem_of_getElem? (i := 71) rfl)⟩
def lw_privs_3 : List (MethodName × Nat) := [(⟨"AnyKeyTown", "pairings", "([II)I"⟩, 19), (⟨"AnyKeyTown", "fed", "(I)I"⟩, 19), (⟨"AnyKeyTown", "sorts", "(I)V"⟩, 19), (⟨"AnyKeyTown", "laysCalls", "(III)V"⟩, 19), (⟨"AnyKeyTown", "houseAt", "(I)I"⟩, 19), (⟨"AnyKeyTown", "inTime", "(II)I"⟩, 19), (⟨"AnyKeyTown", "twos", "()I"⟩, 19), (⟨"AnyKeyTown", "favoursOfAll", "()I"⟩, 19), (⟨"AnyKeyTownModel", "types", "(I)V"⟩, 52), (⟨"AnyKeyTownModel", "beginsText", "(I)V"⟩, 52), (⟨"AnyKeyTownModel", "readsRule", "()Z"⟩, 52), (⟨"AnyKeyTownModel", "here", "()I"⟩, 52), (⟨"AnyKeyTownModel", "wrongAt", "(II)Z"⟩, 52), (⟨"AnyKeyTownModel", "readsSum", "()Z"⟩, 52), (⟨"AnyKeyTownModel", "readsFactor", "()Z"⟩, 52), (⟨"AnyKeyTownModel", "opens", "(I)Z"⟩, 52)]
theorem lw_r3 : ∀ q ∈ lw_privs_3, lw_okq q := List.forall_mem_cons.mpr ⟨lw_p32, List.forall_mem_cons.mpr ⟨lw_p33, List.forall_mem_cons.mpr ⟨lw_p34, List.forall_mem_cons.mpr ⟨lw_p35, List.forall_mem_cons.mpr ⟨lw_p36, List.forall_mem_cons.mpr ⟨lw_p37, List.forall_mem_cons.mpr ⟨lw_p38, List.forall_mem_cons.mpr ⟨lw_p39, List.forall_mem_cons.mpr ⟨lw_p40, List.forall_mem_cons.mpr ⟨lw_p41, List.forall_mem_cons.mpr ⟨lw_p42, List.forall_mem_cons.mpr ⟨lw_p43, List.forall_mem_cons.mpr ⟨lw_p44, List.forall_mem_cons.mpr ⟨lw_p45, List.forall_mem_cons.mpr ⟨lw_p46, List.forall_mem_cons.mpr ⟨lw_p47, fun _ h => absurd h List.not_mem_nil⟩⟩⟩⟩⟩⟩⟩⟩⟩⟩⟩⟩⟩⟩⟩⟩
theorem lw_p48 : lw_okq (⟨"AnyKeyTownModel", "isDigit", "()Z"⟩, 52) := ⟨⟨by decide +kernel, by decide +kernel⟩, lw_t5 (List.mem_of_getElem? (i := 107) rfl), lw_t6 (List.mem_of_getElem? (i := 75) rfl), lw_t6 (List.mem_of_getElem? (i := 76) rfl)⟩
theorem lw_p49 : lw_okq (⟨"AnyKeyTownModel", "readsNumber", "()Z"⟩, 52) := ⟨⟨by decide +kernel, by decide +kernel⟩, lw_t5 (List.mem_of_getElem? (i := 107) rfl), lw_t6 (List.mem_of_getElem? (i := 79) rfl), lw_t6 (List.mem_of_getElem? (i := 80) rfl)⟩
theorem lw_p50 : lw_okq (⟨"AnyKeyTownModel", "notes", "(II)V"⟩, 52) := ⟨⟨by decide +kernel, by decide +kernel⟩, lw_t5 (List.mem_of_getElem? (i := 107) rfl), lw_t6 (List.mem_of_getElem? (i := 83) rfl), lw_t6 (List.mem_of_getElem? (i := 84) rfl)⟩
theorem lw_p51 : lw_okq (⟨"AnyKeyTownModel", "closesSums", "(Z)V"⟩, 52) := ⟨⟨by decide +kernel, by decide +kernel⟩, lw_t5 (List.mem_of_getElem? (i := 107) rfl), lw_t6 (List.mem_of_getElem? (i := 93) rfl), lw_t6 (List.mem_of_getElem? (i := 94) rfl)⟩
theorem lw_p52 : lw_okq (⟨"AnyKeyTownModel", "waitTop", "()I"⟩, 52) := ⟨⟨by decide +kernel, by decide +kernel⟩, lw_t5 (List.mem_of_getElem? (i := 107) rfl), lw_t6 (List.mem_of_getElem? (i := 97) rfl), lw_t6 (List.mem_of_getElem? (i := 98) rfl)⟩
theorem lw_p53 : lw_okq (⟨"AnyKeyTownModel", "hasOpenSum", "(I)Z"⟩, 52) := ⟨⟨by decide +kernel, by decide +kernel⟩, lw_t5 (List.mem_of_getElem? (i := 107) rfl), lw_t6 (List.mem_of_getElem? (i := 101) rfl), lw_t6 (List.mem_of_getElem? (i := 102) rfl)⟩
theorem lw_p54 : lw_okq (⟨"AnyKeyTownModel", "readsCondition", "()Z"⟩, 52) := ⟨⟨by decide +kernel, by decide +kernel⟩, lw_t5 (List.mem_of_getElem? (i := 107) rfl), lw_t6 (List.mem_of_getElem? (i := 105) rfl), lw_t6 (List.mem_of_getElem? (i := 106) rfl)⟩
theorem lw_p55 : lw_okq (⟨"AnyKeyTownModel", "readsCompared", "()Z"⟩, 52) := ⟨⟨by decide +kernel, by decide +kernel⟩, lw_t5 (List.mem_of_getElem? (i := 107) rfl), lw_t6 (List.mem_of_getElem? (i := 109) rfl), lw_t6 (List.mem_of_getElem? (i := 110) rfl)⟩
theorem lw_p56 : lw_okq (⟨"AnyKeyTownModel", "endsPiece", "()V"⟩, 52) := ⟨⟨by decide +kernel, by decide +kernel⟩, lw_t5 (List.mem_of_getElem? (i := 107) rfl), lw_t6 (List.mem_of_getElem? (i := 113) rfl), lw_t6 (List.mem_of_getElem? (i := 114) rfl)⟩
theorem lw_p57 : lw_okq (⟨"AnyKeyTownModel", "lands", "(Z)V"⟩, 52) := ⟨⟨by decide +kernel, by decide +kernel⟩, lw_t5 (List.mem_of_getElem? (i := 107) rfl), lw_t6 (List.mem_of_getElem? (i := 117) rfl), lw_t6 (List.mem_of_getElem? (i := 118) rfl)⟩
theorem lw_p58 : lw_okq (⟨"AnyKeyTownModel", "jumps", "(I)V"⟩, 52) := ⟨⟨by decide +kernel, by decide +kernel⟩, lw_t5 (List.mem_of_getElem? (i := 107) rfl), lw_t6 (List.mem_of_getElem? (i := 121) rfl), lw_t6 (List.mem_of_getElem? (i := 122) rfl)⟩
theorem lw_p59 : lw_okq (⟨"AnyKeyTownModel", "takes", "(I)Z"⟩, 52) := ⟨⟨by decide +kernel, by decide +kernel⟩, lw_t5 (List.mem_of_getElem? (i := 107) rfl), lw_t6 (List.mem_of_getElem? (i := 125) rfl), lw_t6 (List.mem_of_getElem? (i := 126) rfl)⟩
theorem lw_p60 : lw_okq (⟨"AnyKeyTownModel", "laysAside", "()V"⟩, 52) := ⟨⟨by decide +kernel, by decide +kernel⟩, lw_t5 (List.mem_of_getElem? (i := 107) rfl), lw_t6 (List.mem_of_getElem? (i := 133) rfl), lw_t6 (List.mem_of_getElem? (i := 134) rfl)⟩
theorem lw_p61 : lw_okq (⟨"AnyKeyTownModel", "readsOrder", "()Z"⟩, 52) := ⟨⟨by decide +kernel, by decide +kernel⟩, lw_t5 (List.mem_of_getElem? (i := 107) rfl), lw_t6 (List.mem_of_getElem? (i := 137) rfl), lw_t6 (List.mem_of_getElem? (i := 138) rfl)⟩
theorem lw_p62 : lw_okq (⟨"AnyKeyTownModel", "isLetter", "()Z"⟩, 52) := ⟨⟨by decide +kernel, by decide +kernel⟩, lw_t5 (List.mem_of_getElem? (i := 107) rfl), lw_t6 (List.mem_of_getElem? (i := 141) rfl), lw_t6 (List.mem_of_getElem? (i := 142) rfl)⟩
theorem lw_p63 : lw_okq (⟨"AnyKeyTownModel", "readsHouse", "(I)Z"⟩, 52) := ⟨⟨by decide +kernel, by decide +kernel⟩, lw_t5 (List.mem_of_getElem? (i := 107) rfl), lw_t6 (List.mem_of_getElem? (i := 145) rfl), lw_t6 (List.mem_of_getElem? (i := 146) rfl)⟩
def lw_privs_4 : List (MethodName × Nat) := [(⟨"AnyKeyTownModel", "isDigit", "()Z"⟩, 52), (⟨"AnyKeyTownModel", "readsNumber", "()Z"⟩, 52), (⟨"AnyKeyTownModel", "notes", "(II)V"⟩, 52), (⟨"AnyKeyTownModel", "closesSums", "(Z)V"⟩, 52), (⟨"AnyKeyTownModel", "waitTop", "()I"⟩, 52), (⟨"AnyKeyTownModel", "hasOpenSum", "(I)Z"⟩, 52), (⟨"AnyKeyTownModel", "readsCondition", "()Z"⟩, 52), (⟨"AnyKeyTownModel", "readsCompared", "()Z"⟩, 52), (⟨"AnyKeyTownModel", "endsPiece", "()V"⟩, 52), (⟨"AnyKeyTownModel", "lands", "(Z)V"⟩, 52), (⟨"AnyKeyTownModel", "jumps", "(I)V"⟩, 52), (⟨"AnyKeyTownModel", "takes", "(I)Z"⟩, 52), (⟨"AnyKeyTownModel", "laysAside", "()V"⟩, 52), (⟨"AnyKeyTownModel", "readsOrder", "()Z"⟩, 52), (⟨"AnyKeyTownModel", "isLetter", "()Z"⟩, 52), (⟨"AnyKeyTownModel", "readsHouse", "(I)Z"⟩, 52)]
theorem lw_r4 : ∀ q ∈ lw_privs_4, lw_okq q := List.forall_mem_cons.mpr ⟨lw_p48, List.forall_mem_cons.mpr ⟨lw_p49, List.forall_mem_cons.mpr ⟨lw_p50, List.forall_mem_cons.mpr ⟨lw_p51, List.forall_mem_cons.mpr ⟨lw_p52, List.forall_mem_cons.mpr ⟨lw_p53, List.forall_mem_cons.mpr ⟨lw_p54, List.forall_mem_cons.mpr ⟨lw_p55, List.forall_mem_cons.mpr ⟨lw_p56, List.forall_mem_cons.mpr ⟨lw_p57, List.forall_mem_cons.mpr ⟨lw_p58, List.forall_mem_cons.mpr ⟨lw_p59, List.forall_mem_cons.mpr ⟨lw_p60, List.forall_mem_cons.mpr ⟨lw_p61, List.forall_mem_cons.mpr ⟨lw_p62, List.forall_mem_cons.mpr ⟨lw_p63, fun _ h => absurd h List.not_mem_nil⟩⟩⟩⟩⟩⟩⟩⟩⟩⟩⟩⟩⟩⟩⟩⟩
theorem lw_p64 : lw_okq (⟨"AnyKeyTownModel", "isTold", "(I)Z"⟩, 52) := ⟨⟨by decide +kernel, by decide +kernel⟩, lw_t5 (List.mem_of_getElem? (i := 107) rfl), lw_t6 (List.mem_of_getElem? (i := 152) rfl), lw_t6 (List.mem_of_getElem? (i := 153) rfl)⟩
theorem lw_p65 : lw_okq (⟨"AnyKeyTownModel", "readsOther", "(IZ)Z"⟩, 52) := ⟨⟨by decide +kernel, by decide +kernel⟩, lw_t5 (List.mem_of_getElem? (i := 107) rfl), lw_t6 (List.mem_of_getElem? (i := 156) rfl), lw_t6 (List.mem_of_getElem? (i := 157) rfl)⟩
theorem lw_p66 : lw_okq (⟨"AnyKeyTownModel", "putsBack", "()V"⟩, 52) := ⟨⟨by decide +kernel, by decide +kernel⟩, lw_t5 (List.mem_of_getElem? (i := 107) rfl), lw_t6 (List.mem_of_getElem? (i := 160) rfl), lw_t6 (List.mem_of_getElem? (i := 161) rfl)⟩
theorem lw_p67 : lw_okq (⟨"AnyKeyTownModel", "readsDance", "()Z"⟩, 52) := ⟨⟨by decide +kernel, by decide +kernel⟩, lw_t5 (List.mem_of_getElem? (i := 107) rfl), lw_t6 (List.mem_of_getElem? (i := 168) rfl), lw_t6 (List.mem_of_getElem? (i := 169) rfl)⟩
theorem lw_p68 : lw_okq (⟨"AnyKeyTownModel", "eveningsGo", "(I)V"⟩, 52) := ⟨⟨by decide +kernel, by decide +kernel⟩, lw_t5 (List.mem_of_getElem? (i := 107) rfl), lw_t6 (List.mem_of_getElem? (i := 179) rfl), lw_t6 (List.mem_of_getElem? (i := 180) rfl)⟩
theorem lw_p69 : lw_okq (⟨"AnyKeyTownModel", "eveningGoes", "()V"⟩, 52) := ⟨⟨by decide +kernel, by decide +kernel⟩, lw_t5 (List.mem_of_getElem? (i := 107) rfl), lw_t6 (List.mem_of_getElem? (i := 183) rfl), lw_t6 (List.mem_of_getElem? (i := 184) rfl)⟩
theorem lw_p70 : lw_okq (⟨"AnyKeyTownModel", "feels", "(I)V"⟩, 52) := ⟨⟨by decide +kernel, by decide +kernel⟩, lw_t5 (List.mem_of_getElem? (i := 107) rfl), lw_t6 (List.mem_of_getElem? (i := 187) rfl), lw_t6 (List.mem_of_getElem? (i := 188) rfl)⟩
theorem lw_p71 : lw_okq (⟨"AnyKeyTownModel", "holdsAny", "(I)Z"⟩, 52) := ⟨⟨by decide +kernel, by decide +kernel⟩, lw_t5 (List.mem_of_getElem? (i := 107) rfl), lw_t6 (List.mem_of_getElem? (i := 194) rfl), lw_t6 (List.mem_of_getElem? (i := 195) rfl)⟩
theorem lw_p72 : lw_okq (⟨"AnyKeyTownModel", "reckonsTo", "(II)I"⟩, 52) := ⟨⟨by decide +kernel, by decide +kernel⟩, lw_t5 (List.mem_of_getElem? (i := 107) rfl), lw_t6 (List.mem_of_getElem? (i := 198) rfl), lw_t6 (List.mem_of_getElem? (i := 199) rfl)⟩
theorem lw_p73 : lw_okq (⟨"AnyKeyTownModel", "likedMost", "()I"⟩, 52) := ⟨⟨by decide +kernel, by decide +kernel⟩, lw_t5 (List.mem_of_getElem? (i := 107) rfl), lw_t6 (List.mem_of_getElem? (i := 205) rfl), lw_t6 (List.mem_of_getElem? (i := 206) rfl)⟩
theorem lw_p74 : lw_okq (⟨"AnyKeyTownModel", "friendsOf", "(I)I"⟩, 52) := ⟨⟨by decide +kernel, by decide +kernel⟩, lw_t5 (List.mem_of_getElem? (i := 107) rfl), lw_t6 (List.mem_of_getElem? (i := 209) rfl), lw_t6 (List.mem_of_getElem? (i := 210) rfl)⟩
theorem lw_p75 : lw_okq (⟨"AnyKeyTownModel", "feelsTwo", "(II)V"⟩, 52) := ⟨⟨by decide +kernel, by decide +kernel⟩, lw_t5 (List.mem_of_getElem? (i := 107) rfl), lw_t6 (List.mem_of_getElem? (i := 213) rfl), lw_t6 (List.mem_of_getElem? (i := 214) rfl)⟩
theorem lw_p76 : lw_okq (⟨"AnyKeyTownModel", "apart", "(II)I"⟩, 52) := ⟨⟨by decide +kernel, by decide +kernel⟩, lw_t5 (List.mem_of_getElem? (i := 107) rfl), lw_t6 (List.mem_of_getElem? (i := 217) rfl), lw_t6 (List.mem_of_getElem? (i := 218) rfl)⟩
theorem lw_p77 : lw_okq (⟨"AnyKeyTownModel", "favoursOf", "(II)I"⟩, 52) := ⟨⟨by decide +kernel, by decide +kernel⟩, lw_t5 (List.mem_of_getElem? (i := 107) rfl), lw_t6 (List.mem_of_getElem? (i := 221) rfl), lw_t6 (List.mem_of_getElem? (i := 222) rfl)⟩
theorem lw_p78 : lw_okq (⟨"AnyKeyTownModel", "byLaw", "(I)I"⟩, 52) := ⟨⟨by decide +kernel, by decide +kernel⟩, lw_t5 (List.mem_of_getElem? (i := 107) rfl), lw_t6 (List.mem_of_getElem? (i := 225) rfl), lw_t6 (List.mem_of_getElem? (i := 226) rfl)⟩
theorem lw_p79 : lw_okq (⟨"AnyKeyTownModel", "goesToBed", "()V"⟩, 52) := ⟨⟨by decide +kernel, by decide +kernel⟩, lw_t5 (List.mem_of_getElem? (i := 107) rfl), lw_t6 (List.mem_of_getElem? (i := 232) rfl), lw_t6 (List.mem_of_getElem? (i := 233) rfl)⟩
def lw_privs_5 : List (MethodName × Nat) := [(⟨"AnyKeyTownModel", "isTold", "(I)Z"⟩, 52), (⟨"AnyKeyTownModel", "readsOther", "(IZ)Z"⟩, 52), (⟨"AnyKeyTownModel", "putsBack", "()V"⟩, 52), (⟨"AnyKeyTownModel", "readsDance", "()Z"⟩, 52), (⟨"AnyKeyTownModel", "eveningsGo", "(I)V"⟩, 52), (⟨"AnyKeyTownModel", "eveningGoes", "()V"⟩, 52), (⟨"AnyKeyTownModel", "feels", "(I)V"⟩, 52), (⟨"AnyKeyTownModel", "holdsAny", "(I)Z"⟩, 52), (⟨"AnyKeyTownModel", "reckonsTo", "(II)I"⟩, 52), (⟨"AnyKeyTownModel", "likedMost", "()I"⟩, 52), (⟨"AnyKeyTownModel", "friendsOf", "(I)I"⟩, 52), (⟨"AnyKeyTownModel", "feelsTwo", "(II)V"⟩, 52), (⟨"AnyKeyTownModel", "apart", "(II)I"⟩, 52), (⟨"AnyKeyTownModel", "favoursOf", "(II)I"⟩, 52), (⟨"AnyKeyTownModel", "byLaw", "(I)I"⟩, 52), (⟨"AnyKeyTownModel", "goesToBed", "()V"⟩, 52)]
theorem lw_r5 : ∀ q ∈ lw_privs_5, lw_okq q := List.forall_mem_cons.mpr ⟨lw_p64, List.forall_mem_cons.mpr ⟨lw_p65, List.forall_mem_cons.mpr ⟨lw_p66, List.forall_mem_cons.mpr ⟨lw_p67, List.forall_mem_cons.mpr ⟨lw_p68, List.forall_mem_cons.mpr ⟨lw_p69, List.forall_mem_cons.mpr ⟨lw_p70, List.forall_mem_cons.mpr ⟨lw_p71, List.forall_mem_cons.mpr ⟨lw_p72, List.forall_mem_cons.mpr ⟨lw_p73, List.forall_mem_cons.mpr ⟨lw_p74, List.forall_mem_cons.mpr ⟨lw_p75, List.forall_mem_cons.mpr ⟨lw_p76, List.forall_mem_cons.mpr ⟨lw_p77, List.forall_mem_cons.mpr ⟨lw_p78, List.forall_mem_cons.mpr ⟨lw_p79, fun _ h => absurd h List.not_mem_nil⟩⟩⟩⟩⟩⟩⟩⟩⟩⟩⟩⟩⟩⟩⟩⟩
theorem lw_p80 : lw_okq (⟨"AnyKeyTownModel", "nightsOfAll", "()I"⟩, 52) := ⟨⟨by decide +kernel, by decide +kernel⟩, lw_t5 (List.mem_of_getElem? (i := 107) rfl), lw_t7 (List.mem_of_getElem? (i := 3) rfl), lw_t7 (List.mem_of_getElem? (i := 4) rfl)⟩
theorem lw_p81 : lw_okq (⟨"AnyKeyTownModel", "favoursToAll", "(I)I"⟩, 52) := ⟨⟨by decide +kernel, by decide +kernel⟩, lw_t5 (List.mem_of_getElem? (i := 107) rfl), lw_t7 (List.mem_of_getElem? (i := 7) rfl), lw_t7 (List.mem_of_getElem? (i := 8) rfl)⟩
theorem lw_p82 : lw_okq (⟨"AnyKeyTownModel", "favoursOfAllTo", "(I)I"⟩, 52) := ⟨⟨by decide +kernel, by decide +kernel⟩, lw_t5 (List.mem_of_getElem? (i := 107) rfl), lw_t7 (List.mem_of_getElem? (i := 15) rfl), lw_t7 (List.mem_of_getElem? (i := 16) rfl)⟩
theorem lw_p83 : lw_okq (⟨"AnyKeyTownModel", "mustStay", "()I"⟩, 52) := ⟨⟨by decide +kernel, by decide +kernel⟩, lw_t5 (List.mem_of_getElem? (i := 107) rfl), lw_t7 (List.mem_of_getElem? (i := 27) rfl), lw_t7 (List.mem_of_getElem? (i := 28) rfl)⟩
theorem lw_p84 : lw_okq (⟨"AnyKeyTownModel", "groupOf", "(II)I"⟩, 52) := ⟨⟨by decide +kernel, by decide +kernel⟩, lw_t5 (List.mem_of_getElem? (i := 107) rfl), lw_t7 (List.mem_of_getElem? (i := 31) rfl), lw_t7 (List.mem_of_getElem? (i := 32) rfl)⟩
theorem lw_p85 : lw_okq (⟨"AnyKeyTownModel", "canGo", "(III)Z"⟩, 52) := ⟨⟨by decide +kernel, by decide +kernel⟩, lw_t5 (List.mem_of_getElem? (i := 107) rfl), lw_t7 (List.mem_of_getElem? (i := 42) rfl), lw_t7 (List.mem_of_getElem? (i := 43) rfl)⟩
theorem lw_p86 : lw_okq (⟨"AnyKeyTownModel", "quarrels", "(IIZ)V"⟩, 52) := ⟨⟨by decide +kernel, by decide +kernel⟩, lw_t5 (List.mem_of_getElem? (i := 107) rfl), lw_t7 (List.mem_of_getElem? (i := 56) rfl), lw_t7 (List.mem_of_getElem? (i := 57) rfl)⟩
theorem lw_p87 : lw_okq (⟨"AnyKeyTownModel", "isParty", "(I)Z"⟩, 52) := ⟨⟨by decide +kernel, by decide +kernel⟩, lw_t5 (List.mem_of_getElem? (i := 107) rfl), lw_t7 (List.mem_of_getElem? (i := 68) rfl), lw_t7 (List.mem_of_getElem? (i := 69) rfl)⟩
theorem lw_p88 : lw_okq (⟨"AnyKeyTownModel", "fits", "(I)Z"⟩, 52) := ⟨⟨by decide +kernel, by decide +kernel⟩, lw_t5 (List.mem_of_getElem? (i := 107) rfl), lw_t7 (List.mem_of_getElem? (i := 80) rfl), lw_t7 (List.mem_of_getElem? (i := 81) rfl)⟩
theorem lw_p89 : lw_okq (⟨"AnyKeyTownModel", "usedAhead", "(I)I"⟩, 52) := ⟨⟨by decide +kernel, by decide +kernel⟩, lw_t5 (List.mem_of_getElem? (i := 107) rfl), lw_t7 (List.mem_of_getElem? (i := 84) rfl), lw_t7 (List.mem_of_getElem? (i := 85) rfl)⟩
theorem lw_p90 : lw_okq (⟨"AnyKeyTownModel", "canJoin", "(II)Z"⟩, 52) := ⟨⟨by decide +kernel, by decide +kernel⟩, lw_t5 (List.mem_of_getElem? (i := 107) rfl), lw_t7 (List.mem_of_getElem? (i := 88) rfl), lw_t7 (List.mem_of_getElem? (i := 89) rfl)⟩
theorem lw_p91 : lw_okq (⟨"AnyKeyTownModel", "isHouse", "(I)Z"⟩, 52) := ⟨⟨by decide +kernel, by decide +kernel⟩, lw_t5 (List.mem_of_getElem? (i := 107) rfl), lw_t7 (List.mem_of_getElem? (i := 111) rfl), lw_t7 (List.mem_of_getElem? (i := 112) rfl)⟩
theorem lw_p92 : lw_okq (⟨"AnyKeyTownModel", "stepsTo", "(I)I"⟩, 52) := ⟨⟨by decide +kernel, by decide +kernel⟩, lw_t5 (List.mem_of_getElem? (i := 107) rfl), lw_t7 (List.mem_of_getElem? (i := 123) rfl), lw_t7 (List.mem_of_getElem? (i := 124) rfl)⟩
theorem lw_p93 : lw_okq (⟨"AnyKeyTownModel", "pairs", "(III)V"⟩, 52) := ⟨⟨by decide +kernel, by decide +kernel⟩, lw_t5 (List.mem_of_getElem? (i := 107) rfl), lw_t7 (List.mem_of_getElem? (i := 131) rfl), lw_t7 (List.mem_of_getElem? (i := 132) rfl)⟩
theorem lw_p94 : lw_okq (⟨"AnyKeyTownModel", "octet", "(I)I"⟩, 52) := ⟨⟨by decide +kernel, by decide +kernel⟩, lw_t5 (List.mem_of_getElem? (i := 107) rfl), lw_t7 (List.mem_of_getElem? (i := 149) rfl), lw_t7 (List.mem_of_getElem? (i := 150) rfl)⟩
theorem lw_p95 : lw_okq (⟨"AnyKeyTownModel", "callsAt", "(IIII)I"⟩, 52) := ⟨⟨by decide +kernel, by decide +kernel⟩, lw_t5 (List.mem_of_getElem? (i := 107) rfl), lw_t7 (List.mem_of_getElem? (i := 161) rfl), lw_t7 (List.mem_of_getElem? (i := 162) rfl)⟩
def lw_privs_6 : List (MethodName × Nat) := [(⟨"AnyKeyTownModel", "nightsOfAll", "()I"⟩, 52), (⟨"AnyKeyTownModel", "favoursToAll", "(I)I"⟩, 52), (⟨"AnyKeyTownModel", "favoursOfAllTo", "(I)I"⟩, 52), (⟨"AnyKeyTownModel", "mustStay", "()I"⟩, 52), (⟨"AnyKeyTownModel", "groupOf", "(II)I"⟩, 52), (⟨"AnyKeyTownModel", "canGo", "(III)Z"⟩, 52), (⟨"AnyKeyTownModel", "quarrels", "(IIZ)V"⟩, 52), (⟨"AnyKeyTownModel", "isParty", "(I)Z"⟩, 52), (⟨"AnyKeyTownModel", "fits", "(I)Z"⟩, 52), (⟨"AnyKeyTownModel", "usedAhead", "(I)I"⟩, 52), (⟨"AnyKeyTownModel", "canJoin", "(II)Z"⟩, 52), (⟨"AnyKeyTownModel", "isHouse", "(I)Z"⟩, 52), (⟨"AnyKeyTownModel", "stepsTo", "(I)I"⟩, 52), (⟨"AnyKeyTownModel", "pairs", "(III)V"⟩, 52), (⟨"AnyKeyTownModel", "octet", "(I)I"⟩, 52), (⟨"AnyKeyTownModel", "callsAt", "(IIII)I"⟩, 52)]
theorem lw_r6 : ∀ q ∈ lw_privs_6, lw_okq q := List.forall_mem_cons.mpr ⟨lw_p80, List.forall_mem_cons.mpr ⟨lw_p81, List.forall_mem_cons.mpr ⟨lw_p82, List.forall_mem_cons.mpr ⟨lw_p83, List.forall_mem_cons.mpr ⟨lw_p84, List.forall_mem_cons.mpr ⟨lw_p85, List.forall_mem_cons.mpr ⟨lw_p86, List.forall_mem_cons.mpr ⟨lw_p87, List.forall_mem_cons.mpr ⟨lw_p88, List.forall_mem_cons.mpr ⟨lw_p89, List.forall_mem_cons.mpr ⟨lw_p90, List.forall_mem_cons.mpr ⟨lw_p91, List.forall_mem_cons.mpr ⟨lw_p92, List.forall_mem_cons.mpr ⟨lw_p93, List.forall_mem_cons.mpr ⟨lw_p94, List.forall_mem_cons.mpr ⟨lw_p95, fun _ h => absurd h List.not_mem_nil⟩⟩⟩⟩⟩⟩⟩⟩⟩⟩⟩⟩⟩⟩⟩⟩
theorem lw_p96 : lw_okq (⟨"AnyKeyTownModel", "mostHoused", "(I)I"⟩, 52) := ⟨⟨by decide +kernel, by decide +kernel⟩, lw_t5 (List.mem_of_getElem? (i := 107) rfl), lw_t7 (List.mem_of_getElem? (i := 170) rfl), lw_t7 (List.mem_of_getElem? (i := 171) rfl)⟩
theorem lw_p97 : lw_okq (⟨"AnyKeyTownModel", "allHoused", "(I)I"⟩, 52) := ⟨⟨by decide +kernel, by decide +kernel⟩, lw_t5 (List.mem_of_getElem? (i := 107) rfl), lw_t7 (List.mem_of_getElem? (i := 174) rfl), lw_t7 (List.mem_of_getElem? (i := 175) rfl)⟩
theorem lw_p98 : lw_okq (⟨"AnyKeyTownModel", "twos", "()I"⟩, 52) := ⟨⟨by decide +kernel, by decide +kernel⟩, lw_t5 (List.mem_of_getElem? (i := 107) rfl), lw_t7 (List.mem_of_getElem? (i := 202) rfl), lw_t7 (List.mem_of_getElem? (i := 203) rfl)⟩
theorem lw_p99 : lw_okq (⟨"AnyKeyTownModel", "favoursOfAll", "()I"⟩, 52) := ⟨⟨by decide +kernel, by decide +kernel⟩, lw_t5 (List.mem_of_getElem? (i := 107) rfl), lw_t7 (List.mem_of_getElem? (i := 206) rfl), lw_t7 (List.mem_of_getElem? (i := 207) rfl)⟩
def lw_privs_7 : List (MethodName × Nat) := [(⟨"AnyKeyTownModel", "mostHoused", "(I)I"⟩, 52), (⟨"AnyKeyTownModel", "allHoused", "(I)I"⟩, 52), (⟨"AnyKeyTownModel", "twos", "()I"⟩, 52), (⟨"AnyKeyTownModel", "favoursOfAll", "()I"⟩, 52)]
theorem lw_r7 : ∀ q ∈ lw_privs_7, lw_okq q := List.forall_mem_cons.mpr ⟨lw_p96, List.forall_mem_cons.mpr ⟨lw_p97, List.forall_mem_cons.mpr ⟨lw_p98, List.forall_mem_cons.mpr ⟨lw_p99, fun _ h => absurd h List.not_mem_nil⟩⟩⟩⟩
def lw_privs : List (MethodName × Nat) := lw_privs_1 ++ (lw_privs_2 ++ (lw_privs_3 ++ (lw_privs_4 ++ (lw_privs_5 ++ (lw_privs_6 ++ (lw_privs_7))))))
def lw_tbl : List Cond := k2_sels lw_privs ++ tables_1
theorem lw_privs_ok : ∀ q ∈ lw_privs, lw_okq q := by
  show ∀ q ∈ lw_privs_1 ++ (lw_privs_2 ++ (lw_privs_3 ++ (lw_privs_4 ++ (lw_privs_5 ++ (lw_privs_6 ++ (lw_privs_7)))))), lw_okq q
  exact List.forall_mem_append.mpr ⟨lw_r1, List.forall_mem_append.mpr ⟨lw_r2, List.forall_mem_append.mpr ⟨lw_r3, List.forall_mem_append.mpr ⟨lw_r4, List.forall_mem_append.mpr ⟨lw_r5, List.forall_mem_append.mpr ⟨lw_r6, lw_r7⟩⟩⟩⟩⟩⟩
-- ===== ONE list of words for every method: the tables' words that hold all through a run =====
def lw_all : List Cond := lw_tbl.filter goodWord
/-- a word of the tables by its place: claim/WORDS.tsv -/
theorem lw_w {w : Cond} (i : Nat) (h : lw_tbl[i]? = some w) (g : goodWord w = true) : w ∈ lw_all := List.mem_filter.mpr ⟨List.mem_of_getElem? h, g⟩
theorem lw_all_tbl {w : Cond} (h : w ∈ lw_all) : w ∈ lw_tbl := (List.mem_filter.mp h).1
theorem lw_self : GoodIn lw_all lw_all := fun w h => ⟨h, good_of_word (List.mem_filter.mp h).2⟩
/-- a class's field words, by their places -/
theorem lw_in (ws : List Cond) (ps : List Nat) (hp : ws = ps.filterMap (fun i => lw_tbl[i]?)) (hg : ws.all goodWord = true) : ∀ w ∈ ws, w ∈ lw_all := by
  intro w h
  have h1 := List.all_eq_true.mp hg w h
  rw [hp] at h
  obtain ⟨i, -, hi⟩ := List.mem_filterMap.mp h
  exact lw_w i hi h1
/-- the words of a contract for the method y with code b, L locals, answer r -/
abbrev ws_ (y : MethodName) (b : ByteArray) (L : Nat) (r : Option FieldType) : List Cond := Cond.code y b L r :: lw_all
theorem lw_meth {y : MethodName} {b : ByteArray} {L : Nat} {r : Option FieldType} (h : Cond.code y b L r ∈ lw_all) : GoodIn lw_all (ws_ y b L r) := by
  intro w hw
  rcases List.mem_cons.mp hw with e | e
  · rw [e]
    exact lw_self _ h
  · exact lw_self _ e
theorem lw_app {a c : List Cond} (ha : ∀ w ∈ a, w ∈ lw_all) (hc : GoodIn lw_all c) : GoodIn lw_all (a ++ c) := by
  intro w hw
  rcases List.mem_append.mp hw with e | e
  · exact lw_self w (ha w e)
  · exact hc w e
/-- what a call through an object asks: cwV n hts (lw_V ..) -/
theorem lw_V {own : String} {idx : Nat} {C : String} {y : MethodName} {b : ByteArray} {L : Nat} {r : Option FieldType} (h1 : Cond.methodLink own idx y ∈ lw_all) (h2 : Cond.instanceMethod y ∈ lw_all) (h3 : Cond.selects C y y ∈ lw_all) (h4 : Cond.initialized C ∈ lw_all) (h5 : Cond.code y b L r ∈ lw_all) : GoodIn lw_all (wsV own idx C y (ws_ y b L r)) := by
  refine lw_app ?_ (lw_meth h5)
  intro w hw
  simp only [List.mem_cons, List.not_mem_nil, or_false] at hw
  rcases hw with e | e | e | e
  · rw [e]; exact h1
  · rw [e]; exact h2
  · rw [e]; exact h3
  · rw [e]; exact h4
/-- what a static call asks: va_cwS n hts (lw_S ..) -/
theorem lw_S {own : String} {idx : Nat} {y : MethodName} {b : ByteArray} {L : Nat} {r : Option FieldType} (h1 : Cond.methodLink own idx y ∈ lw_all) (h2 : Cond.static y ∈ lw_all) (h3 : Cond.initialized y.cls ∈ lw_all) (h4 : Cond.code y b L r ∈ lw_all) : GoodIn lw_all (va_wsS own idx y (ws_ y b L r)) := by
  refine lw_app ?_ (lw_meth h4)
  intro w hw
  simp only [List.mem_cons, List.not_mem_nil, or_false] at hw
  rcases hw with e | e | e
  · rw [e]; exact h1
  · rw [e]; exact h2
  · rw [e]; exact h3
/-- the words of a contract for a method WITH HANDLERS (hh: its table) -/
abbrev wsW_ (y : MethodName) (b : ByteArray) (L : Nat) (r : Option FieldType) (hh : List (Nat × Nat × Nat × Nat)) : List Cond := Cond.codeWith y b L r hh :: lw_all
theorem lw_methW {y : MethodName} {b : ByteArray} {L : Nat} {r : Option FieldType} {hh : List (Nat × Nat × Nat × Nat)} (h : Cond.codeWith y b L r hh ∈ lw_all) : GoodIn lw_all (wsW_ y b L r hh) := by
  intro w hw
  rcases List.mem_cons.mp hw with e | e
  · rw [e]
    exact lw_self _ h
  · exact lw_self _ e
/-- any list of words by their places (lw_in), good -/
theorem lw_good {ws : List Cond} (h : ∀ w ∈ ws, w ∈ lw_all) : GoodIn lw_all ws := fun w hw => lw_self w (h w hw)
/-- what a call of a method with handlers asks: vx_cwVW n hts (lw_VW ..), vx_cwSW n hts (lw_SW ..) -/
theorem lw_VW {own : String} {idx : Nat} {C : String} {y : MethodName} {b : ByteArray} {L : Nat} {r : Option FieldType} {hh : List (Nat × Nat × Nat × Nat)} (h1 : Cond.methodLink own idx y ∈ lw_all) (h2 : Cond.instanceMethod y ∈ lw_all) (h3 : Cond.selects C y y ∈ lw_all) (h4 : Cond.initialized C ∈ lw_all) (h5 : Cond.codeWith y b L r hh ∈ lw_all) : GoodIn lw_all (wsV own idx C y (wsW_ y b L r hh)) := by
  refine lw_app ?_ (lw_methW h5)
  intro w hw
  simp only [List.mem_cons, List.not_mem_nil, or_false] at hw
  rcases hw with e | e | e | e
  · rw [e]; exact h1
  · rw [e]; exact h2
  · rw [e]; exact h3
  · rw [e]; exact h4
theorem lw_SW {own : String} {idx : Nat} {y : MethodName} {b : ByteArray} {L : Nat} {r : Option FieldType} {hh : List (Nat × Nat × Nat × Nat)} (h1 : Cond.methodLink own idx y ∈ lw_all) (h2 : Cond.static y ∈ lw_all) (h3 : Cond.initialized y.cls ∈ lw_all) (h4 : Cond.codeWith y b L r hh ∈ lw_all) : GoodIn lw_all (va_wsS own idx y (wsW_ y b L r hh)) := by
  refine lw_app ?_ (lw_methW h4)
  intro w hw
  simp only [List.mem_cons, List.not_mem_nil, or_false] at hw
  rcases hw with e | e | e
  · rw [e]; exact h1
  · rw [e]; exact h2
  · rw [e]; exact h3
/-- a word by its place in its run of the tables -/
theorem lw_at {r : List Cond} (hr : ∀ w ∈ r, w ∈ lw_tbl) {w : Cond} (i : Nat) (h : r[i]? = some w) : w ∈ lw_tbl := hr w (List.mem_of_getElem? h)
theorem lw_g {w : Cond} (h : w ∈ lw_tbl) (g : goodWord w = true) : w ∈ lw_all := List.mem_filter.mpr ⟨h, g⟩
theorem lw_ms : ∀ w ∈ k2_sels lw_privs, w ∈ lw_tbl := fun w h => show w ∈ k2_sels lw_privs ++ tables_1 from List.mem_append_left _ h
theorem lw_m1 : ∀ w ∈ tables_1_1, w ∈ lw_tbl := fun w h => show w ∈ k2_sels lw_privs ++ tables_1 from List.mem_append_right (k2_sels lw_privs) (show w ∈ tables_1 from List.mem_append_left _ h)
theorem lw_m2 : ∀ w ∈ tables_1_2, w ∈ lw_tbl := fun w h => show w ∈ k2_sels lw_privs ++ tables_1 from List.mem_append_right (k2_sels lw_privs) (show w ∈ tables_1 from List.mem_append_right _ (List.mem_append_left _ h))
theorem lw_m3 : ∀ w ∈ tables_1_3, w ∈ lw_tbl := fun w h => show w ∈ k2_sels lw_privs ++ tables_1 from List.mem_append_right (k2_sels lw_privs) (show w ∈ tables_1 from List.mem_append_right _ (List.mem_append_right _ (List.mem_append_left _ h)))
theorem lw_m4 : ∀ w ∈ tables_1_4, w ∈ lw_tbl := fun w h => show w ∈ k2_sels lw_privs ++ tables_1 from List.mem_append_right (k2_sels lw_privs) (show w ∈ tables_1 from List.mem_append_right _ (List.mem_append_right _ (List.mem_append_right _ (List.mem_append_left _ h))))
theorem lw_m5 : ∀ w ∈ tables_1_5, w ∈ lw_tbl := fun w h => show w ∈ k2_sels lw_privs ++ tables_1 from List.mem_append_right (k2_sels lw_privs) (show w ∈ tables_1 from List.mem_append_right _ (List.mem_append_right _ (List.mem_append_right _ (List.mem_append_right _ (List.mem_append_left _ h)))))
theorem lw_m6 : ∀ w ∈ tables_1_6, w ∈ lw_tbl := fun w h => show w ∈ k2_sels lw_privs ++ tables_1 from List.mem_append_right (k2_sels lw_privs) (show w ∈ tables_1 from List.mem_append_right _ (List.mem_append_right _ (List.mem_append_right _ (List.mem_append_right _ (List.mem_append_right _ (List.mem_append_left _ h))))))
theorem lw_m7 : ∀ w ∈ tables_1_7, w ∈ lw_tbl := fun w h => show w ∈ k2_sels lw_privs ++ tables_1 from List.mem_append_right (k2_sels lw_privs) (show w ∈ tables_1 from List.mem_append_right _ (List.mem_append_right _ (List.mem_append_right _ (List.mem_append_right _ (List.mem_append_right _ (List.mem_append_right _ h))))))
theorem qs0 : (Cond.selects "AnyKeyTown" ⟨"AnyKeyTown", "push", "(I)V"⟩ ⟨"AnyKeyTown", "push", "(I)V"⟩) ∈ lw_all := lw_g (lw_at lw_ms 0 rfl) rfl
theorem qs1 : (Cond.selects "AnyKeyTown$Reader" ⟨"AnyKeyTown$Reader", "isGood", "()Z"⟩ ⟨"AnyKeyTown$Reader", "isGood", "()Z"⟩) ∈ lw_all := lw_g (lw_at lw_ms 1 rfl) rfl
theorem qs2 : (Cond.selects "AnyKeyTown$Reader" ⟨"AnyKeyTown$Reader", "clause", "()V"⟩ ⟨"AnyKeyTown$Reader", "clause", "()V"⟩) ∈ lw_all := lw_g (lw_at lw_ms 2 rfl) rfl
theorem qs3 : (Cond.selects "AnyKeyTown$Reader" ⟨"AnyKeyTown$Reader", "here", "()I"⟩ ⟨"AnyKeyTown$Reader", "here", "()I"⟩) ∈ lw_all := lw_g (lw_at lw_ms 3 rfl) rfl
theorem qs4 : (Cond.selects "AnyKeyTown$Reader" ⟨"AnyKeyTown$Reader", "bad", "(II)V"⟩ ⟨"AnyKeyTown$Reader", "bad", "(II)V"⟩) ∈ lw_all := lw_g (lw_at lw_ms 4 rfl) rfl
theorem qs5 : (Cond.selects "AnyKeyTown$Reader" ⟨"AnyKeyTown$Reader", "sum", "()LAnyKeyTown$Sum;"⟩ ⟨"AnyKeyTown$Reader", "sum", "()LAnyKeyTown$Sum;"⟩) ∈ lw_all := lw_g (lw_at lw_ms 5 rfl) rfl
theorem qs6 : (Cond.selects "AnyKeyTown$Reader" ⟨"AnyKeyTown$Reader", "product", "()LAnyKeyTown$Sum;"⟩ ⟨"AnyKeyTown$Reader", "product", "()LAnyKeyTown$Sum;"⟩) ∈ lw_all := lw_g (lw_at lw_ms 6 rfl) rfl
theorem qs7 : (Cond.selects "AnyKeyTown$Reader" ⟨"AnyKeyTown$Reader", "factor", "()LAnyKeyTown$Sum;"⟩ ⟨"AnyKeyTown$Reader", "factor", "()LAnyKeyTown$Sum;"⟩) ∈ lw_all := lw_g (lw_at lw_ms 7 rfl) rfl
theorem qs8 : (Cond.selects "AnyKeyTown$Reader" ⟨"AnyKeyTown$Reader", "opens", "()V"⟩ ⟨"AnyKeyTown$Reader", "opens", "()V"⟩) ∈ lw_all := lw_g (lw_at lw_ms 8 rfl) rfl
theorem qs9 : (Cond.selects "AnyKeyTown$Reader" ⟨"AnyKeyTown$Reader", "must", "(I)V"⟩ ⟨"AnyKeyTown$Reader", "must", "(I)V"⟩) ∈ lw_all := lw_g (lw_at lw_ms 9 rfl) rfl
theorem qs10 : (Cond.selects "AnyKeyTown$Reader" ⟨"AnyKeyTown$Reader", "seesDigit", "()Z"⟩ ⟨"AnyKeyTown$Reader", "seesDigit", "()Z"⟩) ∈ lw_all := lw_g (lw_at lw_ms 10 rfl) rfl
theorem qs11 : (Cond.selects "AnyKeyTown$Reader" ⟨"AnyKeyTown$Reader", "number", "()I"⟩ ⟨"AnyKeyTown$Reader", "number", "()I"⟩) ∈ lw_all := lw_g (lw_at lw_ms 11 rfl) rfl
theorem qs12 : (Cond.selects "AnyKeyTown$Reader" ⟨"AnyKeyTown$Reader", "condition", "()LAnyKeyTown$Condition;"⟩ ⟨"AnyKeyTown$Reader", "condition", "()LAnyKeyTown$Condition;"⟩) ∈ lw_all := lw_g (lw_at lw_ms 12 rfl) rfl
theorem qs13 : (Cond.selects "AnyKeyTown$Reader" ⟨"AnyKeyTown$Reader", "pieces", "()LAnyKeyTown$Condition;"⟩ ⟨"AnyKeyTown$Reader", "pieces", "()LAnyKeyTown$Condition;"⟩) ∈ lw_all := lw_g (lw_at lw_ms 13 rfl) rfl
theorem qs14 : (Cond.selects "AnyKeyTown$Reader" ⟨"AnyKeyTown$Reader", "piece", "()LAnyKeyTown$Condition;"⟩ ⟨"AnyKeyTown$Reader", "piece", "()LAnyKeyTown$Condition;"⟩) ∈ lw_all := lw_g (lw_at lw_ms 14 rfl) rfl
theorem qs15 : (Cond.selects "AnyKeyTown$Constable" ⟨"AnyKeyTown$Constable", "line", "()V"⟩ ⟨"AnyKeyTown$Constable", "line", "()V"⟩) ∈ lw_all := lw_g (lw_at lw_ms 15 rfl) rfl
theorem qs16 : (Cond.selects "AnyKeyTown$Constable" ⟨"AnyKeyTown$Constable", "house", "(I)V"⟩ ⟨"AnyKeyTown$Constable", "house", "(I)V"⟩) ∈ lw_all := lw_g (lw_at lw_ms 16 rfl) rfl
theorem qs17 : (Cond.selects "AnyKeyTown$Constable" ⟨"AnyKeyTown$Constable", "quarrel", "(IZ)V"⟩ ⟨"AnyKeyTown$Constable", "quarrel", "(IZ)V"⟩) ∈ lw_all := lw_g (lw_at lw_ms 17 rfl) rfl
theorem qs18 : (Cond.selects "AnyKeyTown$Dancer" ⟨"AnyKeyTown$Dancer", "two", "()V"⟩ ⟨"AnyKeyTown$Dancer", "two", "()V"⟩) ∈ lw_all := lw_g (lw_at lw_ms 18 rfl) rfl
theorem qs19 : (Cond.selects "AnyKeyTown$Town" ⟨"AnyKeyTown$Town", "eveningGoes", "()V"⟩ ⟨"AnyKeyTown$Town", "eveningGoes", "()V"⟩) ∈ lw_all := lw_g (lw_at lw_ms 19 rfl) rfl
theorem qs20 : (Cond.selects "AnyKeyTown$Town" ⟨"AnyKeyTown$Town", "draw", "()I"⟩ ⟨"AnyKeyTown$Town", "draw", "()I"⟩) ∈ lw_all := lw_g (lw_at lw_ms 20 rfl) rfl
theorem qs21 : (Cond.selects "AnyKeyTown$Town" ⟨"AnyKeyTown$Town", "asked", "(II)LAnyKeyTown$Moment;"⟩ ⟨"AnyKeyTown$Town", "asked", "(II)LAnyKeyTown$Moment;"⟩) ∈ lw_all := lw_g (lw_at lw_ms 21 rfl) rfl
theorem qs22 : (Cond.selects "AnyKeyTown$Town" ⟨"AnyKeyTown$Town", "chosen", "()I"⟩ ⟨"AnyKeyTown$Town", "chosen", "()I"⟩) ∈ lw_all := lw_g (lw_at lw_ms 22 rfl) rfl
theorem qs23 : (Cond.selects "AnyKeyTown" ⟨"AnyKeyTown", "tells", "(I)I"⟩ ⟨"AnyKeyTown", "tells", "(I)I"⟩) ∈ lw_all := lw_g (lw_at lw_ms 23 rfl) rfl
theorem qs24 : (Cond.selects "AnyKeyTown$Town" ⟨"AnyKeyTown$Town", "beds", "()I"⟩ ⟨"AnyKeyTown$Town", "beds", "()I"⟩) ∈ lw_all := lw_g (lw_at lw_ms 24 rfl) rfl
theorem qs25 : (Cond.selects "AnyKeyTown" ⟨"AnyKeyTown", "laysOrders", "(I)V"⟩ ⟨"AnyKeyTown", "laysOrders", "(I)V"⟩) ∈ lw_all := lw_g (lw_at lw_ms 25 rfl) rfl
theorem qs26 : (Cond.selects "AnyKeyTown" ⟨"AnyKeyTown", "areTold", "(I)Z"⟩ ⟨"AnyKeyTown", "areTold", "(I)Z"⟩) ∈ lw_all := lw_g (lw_at lw_ms 26 rfl) rfl
theorem qs27 : (Cond.selects "AnyKeyTown" ⟨"AnyKeyTown", "isParty", "(I)Z"⟩ ⟨"AnyKeyTown", "isParty", "(I)Z"⟩) ∈ lw_all := lw_g (lw_at lw_ms 27 rfl) rfl
theorem qs28 : (Cond.selects "AnyKeyTown" ⟨"AnyKeyTown", "canParty", "(III)Z"⟩ ⟨"AnyKeyTown", "canParty", "(III)Z"⟩) ∈ lw_all := lw_g (lw_at lw_ms 28 rfl) rfl
theorem qs29 : (Cond.selects "AnyKeyTown" ⟨"AnyKeyTown", "groups", "()I"⟩ ⟨"AnyKeyTown", "groups", "()I"⟩) ∈ lw_all := lw_g (lw_at lw_ms 29 rfl) rfl
theorem qs30 : (Cond.selects "AnyKeyTown" ⟨"AnyKeyTown", "stepsTo", "(I)I"⟩ ⟨"AnyKeyTown", "stepsTo", "(I)I"⟩) ∈ lw_all := lw_g (lw_at lw_ms 30 rfl) rfl
theorem qs31 : (Cond.selects "AnyKeyTown" ⟨"AnyKeyTown", "foesOf", "(I)I"⟩ ⟨"AnyKeyTown", "foesOf", "(I)I"⟩) ∈ lw_all := lw_g (lw_at lw_ms 31 rfl) rfl
theorem qs32 : (Cond.selects "AnyKeyTown" ⟨"AnyKeyTown", "pairings", "([II)I"⟩ ⟨"AnyKeyTown", "pairings", "([II)I"⟩) ∈ lw_all := lw_g (lw_at lw_ms 32 rfl) rfl
theorem qs33 : (Cond.selects "AnyKeyTown" ⟨"AnyKeyTown", "fed", "(I)I"⟩ ⟨"AnyKeyTown", "fed", "(I)I"⟩) ∈ lw_all := lw_g (lw_at lw_ms 33 rfl) rfl
theorem qs34 : (Cond.selects "AnyKeyTown" ⟨"AnyKeyTown", "sorts", "(I)V"⟩ ⟨"AnyKeyTown", "sorts", "(I)V"⟩) ∈ lw_all := lw_g (lw_at lw_ms 34 rfl) rfl
theorem qs35 : (Cond.selects "AnyKeyTown" ⟨"AnyKeyTown", "laysCalls", "(III)V"⟩ ⟨"AnyKeyTown", "laysCalls", "(III)V"⟩) ∈ lw_all := lw_g (lw_at lw_ms 35 rfl) rfl
theorem qs36 : (Cond.selects "AnyKeyTown" ⟨"AnyKeyTown", "houseAt", "(I)I"⟩ ⟨"AnyKeyTown", "houseAt", "(I)I"⟩) ∈ lw_all := lw_g (lw_at lw_ms 36 rfl) rfl
theorem qs37 : (Cond.selects "AnyKeyTown" ⟨"AnyKeyTown", "inTime", "(II)I"⟩ ⟨"AnyKeyTown", "inTime", "(II)I"⟩) ∈ lw_all := lw_g (lw_at lw_ms 37 rfl) rfl
theorem qs38 : (Cond.selects "AnyKeyTown" ⟨"AnyKeyTown", "twos", "()I"⟩ ⟨"AnyKeyTown", "twos", "()I"⟩) ∈ lw_all := lw_g (lw_at lw_ms 38 rfl) rfl
theorem qs39 : (Cond.selects "AnyKeyTown" ⟨"AnyKeyTown", "favoursOfAll", "()I"⟩ ⟨"AnyKeyTown", "favoursOfAll", "()I"⟩) ∈ lw_all := lw_g (lw_at lw_ms 39 rfl) rfl
theorem qs40 : (Cond.selects "AnyKeyTownModel" ⟨"AnyKeyTownModel", "types", "(I)V"⟩ ⟨"AnyKeyTownModel", "types", "(I)V"⟩) ∈ lw_all := lw_g (lw_at lw_ms 40 rfl) rfl
theorem qs41 : (Cond.selects "AnyKeyTownModel" ⟨"AnyKeyTownModel", "beginsText", "(I)V"⟩ ⟨"AnyKeyTownModel", "beginsText", "(I)V"⟩) ∈ lw_all := lw_g (lw_at lw_ms 41 rfl) rfl
theorem qs42 : (Cond.selects "AnyKeyTownModel" ⟨"AnyKeyTownModel", "readsRule", "()Z"⟩ ⟨"AnyKeyTownModel", "readsRule", "()Z"⟩) ∈ lw_all := lw_g (lw_at lw_ms 42 rfl) rfl
theorem qs43 : (Cond.selects "AnyKeyTownModel" ⟨"AnyKeyTownModel", "here", "()I"⟩ ⟨"AnyKeyTownModel", "here", "()I"⟩) ∈ lw_all := lw_g (lw_at lw_ms 43 rfl) rfl
theorem qs44 : (Cond.selects "AnyKeyTownModel" ⟨"AnyKeyTownModel", "wrongAt", "(II)Z"⟩ ⟨"AnyKeyTownModel", "wrongAt", "(II)Z"⟩) ∈ lw_all := lw_g (lw_at lw_ms 44 rfl) rfl
theorem qs45 : (Cond.selects "AnyKeyTownModel" ⟨"AnyKeyTownModel", "readsSum", "()Z"⟩ ⟨"AnyKeyTownModel", "readsSum", "()Z"⟩) ∈ lw_all := lw_g (lw_at lw_ms 45 rfl) rfl
theorem qs46 : (Cond.selects "AnyKeyTownModel" ⟨"AnyKeyTownModel", "readsFactor", "()Z"⟩ ⟨"AnyKeyTownModel", "readsFactor", "()Z"⟩) ∈ lw_all := lw_g (lw_at lw_ms 46 rfl) rfl
theorem qs47 : (Cond.selects "AnyKeyTownModel" ⟨"AnyKeyTownModel", "opens", "(I)Z"⟩ ⟨"AnyKeyTownModel", "opens", "(I)Z"⟩) ∈ lw_all := lw_g (lw_at lw_ms 47 rfl) rfl
theorem qs48 : (Cond.selects "AnyKeyTownModel" ⟨"AnyKeyTownModel", "isDigit", "()Z"⟩ ⟨"AnyKeyTownModel", "isDigit", "()Z"⟩) ∈ lw_all := lw_g (lw_at lw_ms 48 rfl) rfl
theorem qs49 : (Cond.selects "AnyKeyTownModel" ⟨"AnyKeyTownModel", "readsNumber", "()Z"⟩ ⟨"AnyKeyTownModel", "readsNumber", "()Z"⟩) ∈ lw_all := lw_g (lw_at lw_ms 49 rfl) rfl
theorem qs50 : (Cond.selects "AnyKeyTownModel" ⟨"AnyKeyTownModel", "notes", "(II)V"⟩ ⟨"AnyKeyTownModel", "notes", "(II)V"⟩) ∈ lw_all := lw_g (lw_at lw_ms 50 rfl) rfl
theorem qs51 : (Cond.selects "AnyKeyTownModel" ⟨"AnyKeyTownModel", "closesSums", "(Z)V"⟩ ⟨"AnyKeyTownModel", "closesSums", "(Z)V"⟩) ∈ lw_all := lw_g (lw_at lw_ms 51 rfl) rfl
theorem qs52 : (Cond.selects "AnyKeyTownModel" ⟨"AnyKeyTownModel", "waitTop", "()I"⟩ ⟨"AnyKeyTownModel", "waitTop", "()I"⟩) ∈ lw_all := lw_g (lw_at lw_ms 52 rfl) rfl
theorem qs53 : (Cond.selects "AnyKeyTownModel" ⟨"AnyKeyTownModel", "hasOpenSum", "(I)Z"⟩ ⟨"AnyKeyTownModel", "hasOpenSum", "(I)Z"⟩) ∈ lw_all := lw_g (lw_at lw_ms 53 rfl) rfl
theorem qs54 : (Cond.selects "AnyKeyTownModel" ⟨"AnyKeyTownModel", "readsCondition", "()Z"⟩ ⟨"AnyKeyTownModel", "readsCondition", "()Z"⟩) ∈ lw_all := lw_g (lw_at lw_ms 54 rfl) rfl
theorem qs55 : (Cond.selects "AnyKeyTownModel" ⟨"AnyKeyTownModel", "readsCompared", "()Z"⟩ ⟨"AnyKeyTownModel", "readsCompared", "()Z"⟩) ∈ lw_all := lw_g (lw_at lw_ms 55 rfl) rfl
theorem qs56 : (Cond.selects "AnyKeyTownModel" ⟨"AnyKeyTownModel", "endsPiece", "()V"⟩ ⟨"AnyKeyTownModel", "endsPiece", "()V"⟩) ∈ lw_all := lw_g (lw_at lw_ms 56 rfl) rfl
theorem qs57 : (Cond.selects "AnyKeyTownModel" ⟨"AnyKeyTownModel", "lands", "(Z)V"⟩ ⟨"AnyKeyTownModel", "lands", "(Z)V"⟩) ∈ lw_all := lw_g (lw_at lw_ms 57 rfl) rfl
theorem qs58 : (Cond.selects "AnyKeyTownModel" ⟨"AnyKeyTownModel", "jumps", "(I)V"⟩ ⟨"AnyKeyTownModel", "jumps", "(I)V"⟩) ∈ lw_all := lw_g (lw_at lw_ms 58 rfl) rfl
theorem qs59 : (Cond.selects "AnyKeyTownModel" ⟨"AnyKeyTownModel", "takes", "(I)Z"⟩ ⟨"AnyKeyTownModel", "takes", "(I)Z"⟩) ∈ lw_all := lw_g (lw_at lw_ms 59 rfl) rfl
theorem qs60 : (Cond.selects "AnyKeyTownModel" ⟨"AnyKeyTownModel", "laysAside", "()V"⟩ ⟨"AnyKeyTownModel", "laysAside", "()V"⟩) ∈ lw_all := lw_g (lw_at lw_ms 60 rfl) rfl
theorem qs61 : (Cond.selects "AnyKeyTownModel" ⟨"AnyKeyTownModel", "readsOrder", "()Z"⟩ ⟨"AnyKeyTownModel", "readsOrder", "()Z"⟩) ∈ lw_all := lw_g (lw_at lw_ms 61 rfl) rfl
theorem qs62 : (Cond.selects "AnyKeyTownModel" ⟨"AnyKeyTownModel", "isLetter", "()Z"⟩ ⟨"AnyKeyTownModel", "isLetter", "()Z"⟩) ∈ lw_all := lw_g (lw_at lw_ms 62 rfl) rfl
theorem qs63 : (Cond.selects "AnyKeyTownModel" ⟨"AnyKeyTownModel", "readsHouse", "(I)Z"⟩ ⟨"AnyKeyTownModel", "readsHouse", "(I)Z"⟩) ∈ lw_all := lw_g (lw_at lw_ms 63 rfl) rfl
theorem qs64 : (Cond.selects "AnyKeyTownModel" ⟨"AnyKeyTownModel", "isTold", "(I)Z"⟩ ⟨"AnyKeyTownModel", "isTold", "(I)Z"⟩) ∈ lw_all := lw_g (lw_at lw_ms 64 rfl) rfl
theorem qs65 : (Cond.selects "AnyKeyTownModel" ⟨"AnyKeyTownModel", "readsOther", "(IZ)Z"⟩ ⟨"AnyKeyTownModel", "readsOther", "(IZ)Z"⟩) ∈ lw_all := lw_g (lw_at lw_ms 65 rfl) rfl
theorem qs66 : (Cond.selects "AnyKeyTownModel" ⟨"AnyKeyTownModel", "putsBack", "()V"⟩ ⟨"AnyKeyTownModel", "putsBack", "()V"⟩) ∈ lw_all := lw_g (lw_at lw_ms 66 rfl) rfl
theorem qs67 : (Cond.selects "AnyKeyTownModel" ⟨"AnyKeyTownModel", "readsDance", "()Z"⟩ ⟨"AnyKeyTownModel", "readsDance", "()Z"⟩) ∈ lw_all := lw_g (lw_at lw_ms 67 rfl) rfl
theorem qs68 : (Cond.selects "AnyKeyTownModel" ⟨"AnyKeyTownModel", "eveningsGo", "(I)V"⟩ ⟨"AnyKeyTownModel", "eveningsGo", "(I)V"⟩) ∈ lw_all := lw_g (lw_at lw_ms 68 rfl) rfl
theorem qs69 : (Cond.selects "AnyKeyTownModel" ⟨"AnyKeyTownModel", "eveningGoes", "()V"⟩ ⟨"AnyKeyTownModel", "eveningGoes", "()V"⟩) ∈ lw_all := lw_g (lw_at lw_ms 69 rfl) rfl
theorem qs70 : (Cond.selects "AnyKeyTownModel" ⟨"AnyKeyTownModel", "feels", "(I)V"⟩ ⟨"AnyKeyTownModel", "feels", "(I)V"⟩) ∈ lw_all := lw_g (lw_at lw_ms 70 rfl) rfl
theorem qs71 : (Cond.selects "AnyKeyTownModel" ⟨"AnyKeyTownModel", "holdsAny", "(I)Z"⟩ ⟨"AnyKeyTownModel", "holdsAny", "(I)Z"⟩) ∈ lw_all := lw_g (lw_at lw_ms 71 rfl) rfl
theorem qs72 : (Cond.selects "AnyKeyTownModel" ⟨"AnyKeyTownModel", "reckonsTo", "(II)I"⟩ ⟨"AnyKeyTownModel", "reckonsTo", "(II)I"⟩) ∈ lw_all := lw_g (lw_at lw_ms 72 rfl) rfl
theorem qs73 : (Cond.selects "AnyKeyTownModel" ⟨"AnyKeyTownModel", "likedMost", "()I"⟩ ⟨"AnyKeyTownModel", "likedMost", "()I"⟩) ∈ lw_all := lw_g (lw_at lw_ms 73 rfl) rfl
theorem qs74 : (Cond.selects "AnyKeyTownModel" ⟨"AnyKeyTownModel", "friendsOf", "(I)I"⟩ ⟨"AnyKeyTownModel", "friendsOf", "(I)I"⟩) ∈ lw_all := lw_g (lw_at lw_ms 74 rfl) rfl
theorem qs75 : (Cond.selects "AnyKeyTownModel" ⟨"AnyKeyTownModel", "feelsTwo", "(II)V"⟩ ⟨"AnyKeyTownModel", "feelsTwo", "(II)V"⟩) ∈ lw_all := lw_g (lw_at lw_ms 75 rfl) rfl
theorem qs76 : (Cond.selects "AnyKeyTownModel" ⟨"AnyKeyTownModel", "apart", "(II)I"⟩ ⟨"AnyKeyTownModel", "apart", "(II)I"⟩) ∈ lw_all := lw_g (lw_at lw_ms 76 rfl) rfl
theorem qs77 : (Cond.selects "AnyKeyTownModel" ⟨"AnyKeyTownModel", "favoursOf", "(II)I"⟩ ⟨"AnyKeyTownModel", "favoursOf", "(II)I"⟩) ∈ lw_all := lw_g (lw_at lw_ms 77 rfl) rfl
theorem qs78 : (Cond.selects "AnyKeyTownModel" ⟨"AnyKeyTownModel", "byLaw", "(I)I"⟩ ⟨"AnyKeyTownModel", "byLaw", "(I)I"⟩) ∈ lw_all := lw_g (lw_at lw_ms 78 rfl) rfl
theorem qs79 : (Cond.selects "AnyKeyTownModel" ⟨"AnyKeyTownModel", "goesToBed", "()V"⟩ ⟨"AnyKeyTownModel", "goesToBed", "()V"⟩) ∈ lw_all := lw_g (lw_at lw_ms 79 rfl) rfl
theorem qs80 : (Cond.selects "AnyKeyTownModel" ⟨"AnyKeyTownModel", "nightsOfAll", "()I"⟩ ⟨"AnyKeyTownModel", "nightsOfAll", "()I"⟩) ∈ lw_all := lw_g (lw_at lw_ms 80 rfl) rfl
theorem qs81 : (Cond.selects "AnyKeyTownModel" ⟨"AnyKeyTownModel", "favoursToAll", "(I)I"⟩ ⟨"AnyKeyTownModel", "favoursToAll", "(I)I"⟩) ∈ lw_all := lw_g (lw_at lw_ms 81 rfl) rfl
theorem qs82 : (Cond.selects "AnyKeyTownModel" ⟨"AnyKeyTownModel", "favoursOfAllTo", "(I)I"⟩ ⟨"AnyKeyTownModel", "favoursOfAllTo", "(I)I"⟩) ∈ lw_all := lw_g (lw_at lw_ms 82 rfl) rfl
theorem qs83 : (Cond.selects "AnyKeyTownModel" ⟨"AnyKeyTownModel", "mustStay", "()I"⟩ ⟨"AnyKeyTownModel", "mustStay", "()I"⟩) ∈ lw_all := lw_g (lw_at lw_ms 83 rfl) rfl
theorem qs84 : (Cond.selects "AnyKeyTownModel" ⟨"AnyKeyTownModel", "groupOf", "(II)I"⟩ ⟨"AnyKeyTownModel", "groupOf", "(II)I"⟩) ∈ lw_all := lw_g (lw_at lw_ms 84 rfl) rfl
theorem qs85 : (Cond.selects "AnyKeyTownModel" ⟨"AnyKeyTownModel", "canGo", "(III)Z"⟩ ⟨"AnyKeyTownModel", "canGo", "(III)Z"⟩) ∈ lw_all := lw_g (lw_at lw_ms 85 rfl) rfl
theorem qs86 : (Cond.selects "AnyKeyTownModel" ⟨"AnyKeyTownModel", "quarrels", "(IIZ)V"⟩ ⟨"AnyKeyTownModel", "quarrels", "(IIZ)V"⟩) ∈ lw_all := lw_g (lw_at lw_ms 86 rfl) rfl
theorem qs87 : (Cond.selects "AnyKeyTownModel" ⟨"AnyKeyTownModel", "isParty", "(I)Z"⟩ ⟨"AnyKeyTownModel", "isParty", "(I)Z"⟩) ∈ lw_all := lw_g (lw_at lw_ms 87 rfl) rfl
theorem qs88 : (Cond.selects "AnyKeyTownModel" ⟨"AnyKeyTownModel", "fits", "(I)Z"⟩ ⟨"AnyKeyTownModel", "fits", "(I)Z"⟩) ∈ lw_all := lw_g (lw_at lw_ms 88 rfl) rfl
theorem qs89 : (Cond.selects "AnyKeyTownModel" ⟨"AnyKeyTownModel", "usedAhead", "(I)I"⟩ ⟨"AnyKeyTownModel", "usedAhead", "(I)I"⟩) ∈ lw_all := lw_g (lw_at lw_ms 89 rfl) rfl
theorem qs90 : (Cond.selects "AnyKeyTownModel" ⟨"AnyKeyTownModel", "canJoin", "(II)Z"⟩ ⟨"AnyKeyTownModel", "canJoin", "(II)Z"⟩) ∈ lw_all := lw_g (lw_at lw_ms 90 rfl) rfl
theorem qs91 : (Cond.selects "AnyKeyTownModel" ⟨"AnyKeyTownModel", "isHouse", "(I)Z"⟩ ⟨"AnyKeyTownModel", "isHouse", "(I)Z"⟩) ∈ lw_all := lw_g (lw_at lw_ms 91 rfl) rfl
theorem qs92 : (Cond.selects "AnyKeyTownModel" ⟨"AnyKeyTownModel", "stepsTo", "(I)I"⟩ ⟨"AnyKeyTownModel", "stepsTo", "(I)I"⟩) ∈ lw_all := lw_g (lw_at lw_ms 92 rfl) rfl
theorem qs93 : (Cond.selects "AnyKeyTownModel" ⟨"AnyKeyTownModel", "pairs", "(III)V"⟩ ⟨"AnyKeyTownModel", "pairs", "(III)V"⟩) ∈ lw_all := lw_g (lw_at lw_ms 93 rfl) rfl
theorem qs94 : (Cond.selects "AnyKeyTownModel" ⟨"AnyKeyTownModel", "octet", "(I)I"⟩ ⟨"AnyKeyTownModel", "octet", "(I)I"⟩) ∈ lw_all := lw_g (lw_at lw_ms 94 rfl) rfl
theorem qs95 : (Cond.selects "AnyKeyTownModel" ⟨"AnyKeyTownModel", "callsAt", "(IIII)I"⟩ ⟨"AnyKeyTownModel", "callsAt", "(IIII)I"⟩) ∈ lw_all := lw_g (lw_at lw_ms 95 rfl) rfl
theorem qs96 : (Cond.selects "AnyKeyTownModel" ⟨"AnyKeyTownModel", "mostHoused", "(I)I"⟩ ⟨"AnyKeyTownModel", "mostHoused", "(I)I"⟩) ∈ lw_all := lw_g (lw_at lw_ms 96 rfl) rfl
theorem qs97 : (Cond.selects "AnyKeyTownModel" ⟨"AnyKeyTownModel", "allHoused", "(I)I"⟩ ⟨"AnyKeyTownModel", "allHoused", "(I)I"⟩) ∈ lw_all := lw_g (lw_at lw_ms 97 rfl) rfl
theorem qs98 : (Cond.selects "AnyKeyTownModel" ⟨"AnyKeyTownModel", "twos", "()I"⟩ ⟨"AnyKeyTownModel", "twos", "()I"⟩) ∈ lw_all := lw_g (lw_at lw_ms 98 rfl) rfl
theorem qs99 : (Cond.selects "AnyKeyTownModel" ⟨"AnyKeyTownModel", "favoursOfAll", "()I"⟩ ⟨"AnyKeyTownModel", "favoursOfAll", "()I"⟩) ∈ lw_all := lw_g (lw_at lw_ms 99 rfl) rfl
