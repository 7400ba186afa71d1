-- ===== PART A: goes FIRST, ahead of the names: the tables' words, and 'selects' of the private methods out of them =====
/-- a private method of a class that the tables say can be made, by its rows of tables_1 -/
def lw_okq (q : MethodName × Nat) : Prop := (q.1.cls ≠ "java/lang/invoke/MethodHandle" ∧ q.1.cls ≠ "java/lang/invoke/VarHandle") ∧ Cond.instantiable q.1.cls q.2 ∈ tables_1 ∧ Cond.privateMethod q.1 ∈ tables_1 ∧ Cond.instanceMethod q.1 ∈ tables_1
set_option maxRecDepth 100000
theorem lw_t1 {w : Cond} (h : w ∈ tables_1_1) : w ∈ tables_1 := List.mem_append_left _ h
theorem lw_t2 {w : Cond} (h : w ∈ tables_1_2) : w ∈ tables_1 := List.mem_append_right _ (List.mem_append_left _ h)
theorem lw_t3 {w : Cond} (h : w ∈ tables_1_3) : w ∈ tables_1 := List.mem_append_right _ (List.mem_append_right _ (List.mem_append_left _ h))
theorem lw_t4 {w : Cond} (h : w ∈ tables_1_4) : w ∈ tables_1 := List.mem_append_right _ (List.mem_append_right _ (List.mem_append_right _ (List.mem_append_left _ h)))
theorem lw_t5 {w : Cond} (h : w ∈ tables_1_5) : w ∈ tables_1 := List.mem_append_right _ (List.mem_append_right _ (List.mem_append_right _ (List.mem_append_right _ h)))
theorem lw_p0 : lw_okq (⟨"ApplyFree", "isTable", "(I)Z"⟩, 9) := ⟨⟨by decide +kernel, by decide +kernel⟩, lw_t1 (List.mem_of_getElem? (i := 15) rfl), lw_t2 (List.mem_of_getElem? (i := 130) rfl), lw_t2 (List.mem_of_getElem? (i := 131) rfl)⟩
theorem lw_p1 : lw_okq (⟨"ApplyFree", "are", "(IIII)Z"⟩, 9) := ⟨⟨by decide +kernel, by decide +kernel⟩, lw_t1 (List.mem_of_getElem? (i := 15) rfl), lw_t2 (List.mem_of_getElem? (i := 161) rfl), lw_t2 (List.mem_of_getElem? (i := 162) rfl)⟩
theorem lw_p2 : lw_okq (⟨"ApplyFree", "isOne", "(II)Z"⟩, 9) := ⟨⟨by decide +kernel, by decide +kernel⟩, lw_t1 (List.mem_of_getElem? (i := 15) rfl), lw_t2 (List.mem_of_getElem? (i := 176) rfl), lw_t2 (List.mem_of_getElem? (i := 177) rfl)⟩
theorem lw_p3 : lw_okq (⟨"ApplyFree", "quantified", "(IIII)I"⟩, 9) := ⟨⟨by decide +kernel, by decide +kernel⟩, lw_t1 (List.mem_of_getElem? (i := 15) rfl), lw_t2 (List.mem_of_getElem? (i := 208) rfl), lw_t2 (List.mem_of_getElem? (i := 209) rfl)⟩
theorem lw_p4 : lw_okq (⟨"ApplyFree", "isNarrow", "(II)Z"⟩, 9) := ⟨⟨by decide +kernel, by decide +kernel⟩, lw_t1 (List.mem_of_getElem? (i := 15) rfl), lw_t3 (List.mem_of_getElem? (i := 0) rfl), lw_t3 (List.mem_of_getElem? (i := 1) rfl)⟩
theorem lw_p5 : lw_okq (⟨"ApplyFree$Terms", "ownSize", "(I)J"⟩, 12) := ⟨⟨by decide +kernel, by decide +kernel⟩, lw_t1 (List.mem_of_getElem? (i := 25) rfl), lw_t3 (List.mem_of_getElem? (i := 43) rfl), lw_t3 (List.mem_of_getElem? (i := 44) rfl)⟩
theorem lw_p6 : lw_okq (⟨"ApplyFree$Terms", "ownCost", "(I)J"⟩, 12) := ⟨⟨by decide +kernel, by decide +kernel⟩, lw_t1 (List.mem_of_getElem? (i := 25) rfl), lw_t3 (List.mem_of_getElem? (i := 58) rfl), lw_t3 (List.mem_of_getElem? (i := 59) rfl)⟩
theorem lw_p7 : lw_okq (⟨"ApplyFree$Steps", "add", "(IIIIIII)I"⟩, 10) := ⟨⟨by decide +kernel, by decide +kernel⟩, lw_t1 (List.mem_of_getElem? (i := 85) rfl), lw_t3 (List.mem_of_getElem? (i := 88) rfl), lw_t3 (List.mem_of_getElem? (i := 89) rfl)⟩
theorem lw_p8 : lw_okq (⟨"ApplyFree$Rewriter", "bag", "(ILApplyFree$Scope;)I"⟩, 8) := ⟨⟨by decide +kernel, by decide +kernel⟩, lw_t1 (List.mem_of_getElem? (i := 135) rfl), lw_t3 (List.mem_of_getElem? (i := 92) rfl), lw_t3 (List.mem_of_getElem? (i := 93) rfl)⟩
theorem lw_p9 : lw_okq (⟨"ApplyFree$Rewriter", "within", "(IIILApplyFree$Scope;)I"⟩, 8) := ⟨⟨by decide +kernel, by decide +kernel⟩, lw_t1 (List.mem_of_getElem? (i := 135) rfl), lw_t3 (List.mem_of_getElem? (i := 104) rfl), lw_t3 (List.mem_of_getElem? (i := 105) rfl)⟩
theorem lw_p10 : lw_okq (⟨"ApplyFree$Rewriter", "around", "(ILApplyFree$Scope;I)LApplyFree$Scope;"⟩, 8) := ⟨⟨by decide +kernel, by decide +kernel⟩, lw_t1 (List.mem_of_getElem? (i := 135) rfl), lw_t3 (List.mem_of_getElem? (i := 108) rfl), lw_t3 (List.mem_of_getElem? (i := 109) rfl)⟩
theorem lw_p11 : lw_okq (⟨"ApplyFree$Rewriter", "attach", "(ILApplyFree$Scope;)V"⟩, 8) := ⟨⟨by decide +kernel, by decide +kernel⟩, lw_t1 (List.mem_of_getElem? (i := 135) rfl), lw_t3 (List.mem_of_getElem? (i := 112) rfl), lw_t3 (List.mem_of_getElem? (i := 113) rfl)⟩
theorem lw_p12 : lw_okq (⟨"ApplyFree$Rewriter", "folded", "(IILApplyFree$Scope;)V"⟩, 8) := ⟨⟨by decide +kernel, by decide +kernel⟩, lw_t1 (List.mem_of_getElem? (i := 135) rfl), lw_t3 (List.mem_of_getElem? (i := 116) rfl), lw_t3 (List.mem_of_getElem? (i := 117) rfl)⟩
theorem lw_p13 : lw_okq (⟨"ApplyFree$Rewriter", "choices", "(ILApplyFree$Scope;)LApplyFree$Scope;"⟩, 8) := ⟨⟨by decide +kernel, by decide +kernel⟩, lw_t1 (List.mem_of_getElem? (i := 135) rfl), lw_t3 (List.mem_of_getElem? (i := 120) rfl), lw_t3 (List.mem_of_getElem? (i := 121) rfl)⟩
theorem lw_p14 : lw_okq (⟨"ApplyFree$Rewriter", "fold", "(IIIII)I"⟩, 8) := ⟨⟨by decide +kernel, by decide +kernel⟩, lw_t1 (List.mem_of_getElem? (i := 135) rfl), lw_t3 (List.mem_of_getElem? (i := 141) rfl), lw_t3 (List.mem_of_getElem? (i := 142) rfl)⟩
theorem lw_p15 : lw_okq (⟨"ApplyFree$Rewriter", "note", "(LApplyFree$Scope;I)V"⟩, 8) := ⟨⟨by decide +kernel, by decide +kernel⟩, lw_t1 (List.mem_of_getElem? (i := 135) rfl), lw_t3 (List.mem_of_getElem? (i := 157) rfl), lw_t3 (List.mem_of_getElem? (i := 158) rfl)⟩
def lw_privs_1 : List (MethodName × Nat) := [(⟨"ApplyFree", "isTable", "(I)Z"⟩, 9), (⟨"ApplyFree", "are", "(IIII)Z"⟩, 9), (⟨"ApplyFree", "isOne", "(II)Z"⟩, 9), (⟨"ApplyFree", "quantified", "(IIII)I"⟩, 9), (⟨"ApplyFree", "isNarrow", "(II)Z"⟩, 9), (⟨"ApplyFree$Terms", "ownSize", "(I)J"⟩, 12), (⟨"ApplyFree$Terms", "ownCost", "(I)J"⟩, 12), (⟨"ApplyFree$Steps", "add", "(IIIIIII)I"⟩, 10), (⟨"ApplyFree$Rewriter", "bag", "(ILApplyFree$Scope;)I"⟩, 8), (⟨"ApplyFree$Rewriter", "within", "(IIILApplyFree$Scope;)I"⟩, 8), (⟨"ApplyFree$Rewriter", "around", "(ILApplyFree$Scope;I)LApplyFree$Scope;"⟩, 8), (⟨"ApplyFree$Rewriter", "attach", "(ILApplyFree$Scope;)V"⟩, 8), (⟨"ApplyFree$Rewriter", "folded", "(IILApplyFree$Scope;)V"⟩, 8), (⟨"ApplyFree$Rewriter", "choices", "(ILApplyFree$Scope;)LApplyFree$Scope;"⟩, 8), (⟨"ApplyFree$Rewriter", "fold", "(IIIII)I"⟩, 8), (⟨"ApplyFree$Rewriter", "note", "(LApplyFree$Scope;I)V"⟩, 8)]
theorem lw_r1 : ∀ q ∈ lw_privs_1, lw_okq q := List.forall_mem_cons.mpr ⟨lw_p0, List.forall_mem_cons.mpr ⟨lw_p1, List.forall_mem_cons.mpr ⟨lw_p2, List.forall_mem_cons.mpr ⟨lw_p3, List.forall_mem_cons.mpr ⟨lw_p4, List.forall_mem_cons.mpr ⟨lw_p5, List.forall_mem_cons.mpr ⟨lw_p6, List.forall_mem_cons.mpr ⟨lw_p7, List.forall_mem_cons.mpr ⟨lw_p8, List.forall_mem_cons.mpr ⟨lw_p9, List.forall_mem_cons.mpr ⟨lw_p10, List.forall_mem_cons.mpr ⟨lw_p11, List.forall_mem_cons.mpr ⟨lw_p12, List.forall_mem_cons.mpr ⟨lw_p13, List.forall_mem_cons.mpr ⟨lw_p14, List.forall_mem_cons.mpr ⟨lw_p15, fun _ h => absurd h List.not_mem_nil⟩⟩⟩⟩⟩⟩⟩⟩⟩⟩⟩⟩⟩⟩⟩⟩
theorem lw_p16 : lw_okq (⟨"ApplyFree$Rewriter", "has", "(ILApplyFree$Scope;)V"⟩, 8) := ⟨⟨by decide +kernel, by decide +kernel⟩, lw_t1 (List.mem_of_getElem? (i := 135) rfl), lw_t3 (List.mem_of_getElem? (i := 161) rfl), lw_t3 (List.mem_of_getElem? (i := 162) rfl)⟩
theorem lw_p17 : lw_okq (⟨"ApplyFree$Rewriter", "quantified", "(IIILApplyFree$Scope;)V"⟩, 8) := ⟨⟨by decide +kernel, by decide +kernel⟩, lw_t1 (List.mem_of_getElem? (i := 135) rfl), lw_t3 (List.mem_of_getElem? (i := 171) rfl), lw_t3 (List.mem_of_getElem? (i := 172) rfl)⟩
theorem lw_p18 : lw_okq (⟨"ApplyFree$Rewriter", "write", "(ILApplyFree$Scope;)V"⟩, 8) := ⟨⟨by decide +kernel, by decide +kernel⟩, lw_t1 (List.mem_of_getElem? (i := 135) rfl), lw_t3 (List.mem_of_getElem? (i := 175) rfl), lw_t3 (List.mem_of_getElem? (i := 176) rfl)⟩
theorem lw_p19 : lw_okq (⟨"ApplyFree$Rewriter", "marked", "(LApplyFree$Scope;IIII)V"⟩, 8) := ⟨⟨by decide +kernel, by decide +kernel⟩, lw_t1 (List.mem_of_getElem? (i := 135) rfl), lw_t3 (List.mem_of_getElem? (i := 183) rfl), lw_t3 (List.mem_of_getElem? (i := 184) rfl)⟩
theorem lw_p20 : lw_okq (⟨"ApplyFree$Rewriter", "only", "(IILApplyFree$Scope;)I"⟩, 8) := ⟨⟨by decide +kernel, by decide +kernel⟩, lw_t1 (List.mem_of_getElem? (i := 135) rfl), lw_t3 (List.mem_of_getElem? (i := 191) rfl), lw_t3 (List.mem_of_getElem? (i := 192) rfl)⟩
theorem lw_p21 : lw_okq (⟨"ApplyFree$Rewriter", "pairs", "(IILApplyFree$Scope;)I"⟩, 8) := ⟨⟨by decide +kernel, by decide +kernel⟩, lw_t1 (List.mem_of_getElem? (i := 135) rfl), lw_t3 (List.mem_of_getElem? (i := 195) rfl), lw_t3 (List.mem_of_getElem? (i := 196) rfl)⟩
theorem lw_p22 : lw_okq (⟨"ApplyFree$Rewriter", "apply", "(IIILApplyFree$Scope;)I"⟩, 8) := ⟨⟨by decide +kernel, by decide +kernel⟩, lw_t1 (List.mem_of_getElem? (i := 135) rfl), lw_t3 (List.mem_of_getElem? (i := 199) rfl), lw_t3 (List.mem_of_getElem? (i := 200) rfl)⟩
theorem lw_p23 : lw_okq (⟨"ApplyFree$Rewriter", "groups", "(IILApplyFree$Scope;)I"⟩, 8) := ⟨⟨by decide +kernel, by decide +kernel⟩, lw_t1 (List.mem_of_getElem? (i := 135) rfl), lw_t3 (List.mem_of_getElem? (i := 211) rfl), lw_t3 (List.mem_of_getElem? (i := 212) rfl)⟩
theorem lw_p24 : lw_okq (⟨"ApplyFree$Executor", "need", "(II)V"⟩, 17) := ⟨⟨by decide +kernel, by decide +kernel⟩, lw_t1 (List.mem_of_getElem? (i := 187) rfl), lw_t3 (List.mem_of_getElem? (i := 219) rfl), lw_t3 (List.mem_of_getElem? (i := 220) rfl)⟩
theorem lw_p25 : lw_okq (⟨"ApplyFree$Executor", "step", "(I)V"⟩, 17) := ⟨⟨by decide +kernel, by decide +kernel⟩, lw_t1 (List.mem_of_getElem? (i := 187) rfl), lw_t3 (List.mem_of_getElem? (i := 223) rfl), lw_t3 (List.mem_of_getElem? (i := 224) rfl)⟩
theorem lw_p26 : lw_okq (⟨"ApplyFree$Executor", "lay", "(ILApplyFree$Table;)V"⟩, 17) := ⟨⟨by decide +kernel, by decide +kernel⟩, lw_t1 (List.mem_of_getElem? (i := 187) rfl), lw_t3 (List.mem_of_getElem? (i := 227) rfl), lw_t3 (List.mem_of_getElem? (i := 228) rfl)⟩
theorem lw_p27 : lw_okq (⟨"ApplyFree$Executor", "cross", "(III)V"⟩, 17) := ⟨⟨by decide +kernel, by decide +kernel⟩, lw_t1 (List.mem_of_getElem? (i := 187) rfl), lw_t3 (List.mem_of_getElem? (i := 234) rfl), lw_t3 (List.mem_of_getElem? (i := 235) rfl)⟩
theorem lw_p28 : lw_okq (⟨"ApplyFree$Executor", "copy", "(III)V"⟩, 17) := ⟨⟨by decide +kernel, by decide +kernel⟩, lw_t1 (List.mem_of_getElem? (i := 187) rfl), lw_t3 (List.mem_of_getElem? (i := 238) rfl), lw_t3 (List.mem_of_getElem? (i := 239) rfl)⟩
theorem lw_p29 : lw_okq (⟨"ApplyFree$Executor", "at", "(II)I"⟩, 17) := ⟨⟨by decide +kernel, by decide +kernel⟩, lw_t1 (List.mem_of_getElem? (i := 187) rfl), lw_t4 (List.mem_of_getElem? (i := 2) rfl), lw_t4 (List.mem_of_getElem? (i := 3) rfl)⟩
theorem lw_p30 : lw_okq (⟨"ApplyFree$Executor", "select", "(II)V"⟩, 17) := ⟨⟨by decide +kernel, by decide +kernel⟩, lw_t1 (List.mem_of_getElem? (i := 187) rfl), lw_t4 (List.mem_of_getElem? (i := 6) rfl), lw_t4 (List.mem_of_getElem? (i := 7) rfl)⟩
theorem lw_p31 : lw_okq (⟨"ApplyFree$Executor", "reckon", "(III)I"⟩, 17) := ⟨⟨by decide +kernel, by decide +kernel⟩, lw_t1 (List.mem_of_getElem? (i := 187) rfl), lw_t4 (List.mem_of_getElem? (i := 10) rfl), lw_t4 (List.mem_of_getElem? (i := 11) rfl)⟩
def lw_privs_2 : List (MethodName × Nat) := [(⟨"ApplyFree$Rewriter", "has", "(ILApplyFree$Scope;)V"⟩, 8), (⟨"ApplyFree$Rewriter", "quantified", "(IIILApplyFree$Scope;)V"⟩, 8), (⟨"ApplyFree$Rewriter", "write", "(ILApplyFree$Scope;)V"⟩, 8), (⟨"ApplyFree$Rewriter", "marked", "(LApplyFree$Scope;IIII)V"⟩, 8), (⟨"ApplyFree$Rewriter", "only", "(IILApplyFree$Scope;)I"⟩, 8), (⟨"ApplyFree$Rewriter", "pairs", "(IILApplyFree$Scope;)I"⟩, 8), (⟨"ApplyFree$Rewriter", "apply", "(IIILApplyFree$Scope;)I"⟩, 8), (⟨"ApplyFree$Rewriter", "groups", "(IILApplyFree$Scope;)I"⟩, 8), (⟨"ApplyFree$Executor", "need", "(II)V"⟩, 17), (⟨"ApplyFree$Executor", "step", "(I)V"⟩, 17), (⟨"ApplyFree$Executor", "lay", "(ILApplyFree$Table;)V"⟩, 17), (⟨"ApplyFree$Executor", "cross", "(III)V"⟩, 17), (⟨"ApplyFree$Executor", "copy", "(III)V"⟩, 17), (⟨"ApplyFree$Executor", "at", "(II)I"⟩, 17), (⟨"ApplyFree$Executor", "select", "(II)V"⟩, 17), (⟨"ApplyFree$Executor", "reckon", "(III)I"⟩, 17)]
theorem lw_r2 : ∀ q ∈ lw_privs_2, lw_okq q := List.forall_mem_cons.mpr ⟨lw_p16, List.forall_mem_cons.mpr ⟨lw_p17, List.forall_mem_cons.mpr ⟨lw_p18, List.forall_mem_cons.mpr ⟨lw_p19, List.forall_mem_cons.mpr ⟨lw_p20, List.forall_mem_cons.mpr ⟨lw_p21, List.forall_mem_cons.mpr ⟨lw_p22, List.forall_mem_cons.mpr ⟨lw_p23, List.forall_mem_cons.mpr ⟨lw_p24, List.forall_mem_cons.mpr ⟨lw_p25, List.forall_mem_cons.mpr ⟨lw_p26, List.forall_mem_cons.mpr ⟨lw_p27, List.forall_mem_cons.mpr ⟨lw_p28, List.forall_mem_cons.mpr ⟨lw_p29, List.forall_mem_cons.mpr ⟨lw_p30, List.forall_mem_cons.mpr ⟨lw_p31, fun _ h => absurd h List.not_mem_nil⟩⟩⟩⟩⟩⟩⟩⟩⟩⟩⟩⟩⟩⟩⟩⟩
theorem lw_p32 : lw_okq (⟨"ApplyFree$Executor", "extend", "(II)V"⟩, 17) := ⟨⟨by decide +kernel, by decide +kernel⟩, lw_t1 (List.mem_of_getElem? (i := 187) rfl), lw_t4 (List.mem_of_getElem? (i := 34) rfl), lw_t4 (List.mem_of_getElem? (i := 35) rfl)⟩
theorem lw_p33 : lw_okq (⟨"ApplyFree$Executor", "put", "(I)V"⟩, 17) := ⟨⟨by decide +kernel, by decide +kernel⟩, lw_t1 (List.mem_of_getElem? (i := 187) rfl), lw_t4 (List.mem_of_getElem? (i := 38) rfl), lw_t4 (List.mem_of_getElem? (i := 39) rfl)⟩
theorem lw_p34 : lw_okq (⟨"ApplyFree$Executor", "pick", "(II)V"⟩, 17) := ⟨⟨by decide +kernel, by decide +kernel⟩, lw_t1 (List.mem_of_getElem? (i := 187) rfl), lw_t4 (List.mem_of_getElem? (i := 42) rfl), lw_t4 (List.mem_of_getElem? (i := 43) rfl)⟩
theorem lw_p35 : lw_okq (⟨"ApplyFree$Executor", "join", "(III)V"⟩, 17) := ⟨⟨by decide +kernel, by decide +kernel⟩, lw_t1 (List.mem_of_getElem? (i := 187) rfl), lw_t4 (List.mem_of_getElem? (i := 46) rfl), lw_t4 (List.mem_of_getElem? (i := 47) rfl)⟩
theorem lw_p36 : lw_okq (⟨"ApplyFree$Index", "hash", "([II[II)I"⟩, 13) := ⟨⟨by decide +kernel, by decide +kernel⟩, lw_t1 (List.mem_of_getElem? (i := 203) rfl), lw_t4 (List.mem_of_getElem? (i := 62) rfl), lw_t4 (List.mem_of_getElem? (i := 63) rfl)⟩
theorem lw_p37 : lw_okq (⟨"ApplyFree$Index", "isKey", "(I[II[II)Z"⟩, 13) := ⟨⟨by decide +kernel, by decide +kernel⟩, lw_t1 (List.mem_of_getElem? (i := 203) rfl), lw_t4 (List.mem_of_getElem? (i := 66) rfl), lw_t4 (List.mem_of_getElem? (i := 67) rfl)⟩
theorem lw_p38 : lw_okq (⟨"ApplyFree$Executor", "copyAll", "(II)V"⟩, 17) := ⟨⟨by decide +kernel, by decide +kernel⟩, lw_t1 (List.mem_of_getElem? (i := 187) rfl), lw_t4 (List.mem_of_getElem? (i := 71) rfl), lw_t4 (List.mem_of_getElem? (i := 72) rfl)⟩
theorem lw_p39 : lw_okq (⟨"ApplyFree$Executor", "apart", "(III)V"⟩, 17) := ⟨⟨by decide +kernel, by decide +kernel⟩, lw_t1 (List.mem_of_getElem? (i := 187) rfl), lw_t4 (List.mem_of_getElem? (i := 75) rfl), lw_t4 (List.mem_of_getElem? (i := 76) rfl)⟩
theorem lw_p40 : lw_okq (⟨"ApplyFree$Executor", "unique", "(II)V"⟩, 17) := ⟨⟨by decide +kernel, by decide +kernel⟩, lw_t1 (List.mem_of_getElem? (i := 187) rfl), lw_t4 (List.mem_of_getElem? (i := 79) rfl), lw_t4 (List.mem_of_getElem? (i := 80) rfl)⟩
theorem lw_p41 : lw_okq (⟨"ApplyFree$Executor", "gather", "(II)V"⟩, 17) := ⟨⟨by decide +kernel, by decide +kernel⟩, lw_t1 (List.mem_of_getElem? (i := 187) rfl), lw_t4 (List.mem_of_getElem? (i := 83) rfl), lw_t4 (List.mem_of_getElem? (i := 84) rfl)⟩
theorem lw_p42 : lw_okq (⟨"ApplyFree$Executor", "folded", "(IIII)I"⟩, 17) := ⟨⟨by decide +kernel, by decide +kernel⟩, lw_t1 (List.mem_of_getElem? (i := 187) rfl), lw_t4 (List.mem_of_getElem? (i := 88) rfl), lw_t4 (List.mem_of_getElem? (i := 89) rfl)⟩
theorem lw_p43 : lw_okq (⟨"ApplyFree$Executor", "top", "(II)V"⟩, 17) := ⟨⟨by decide +kernel, by decide +kernel⟩, lw_t1 (List.mem_of_getElem? (i := 187) rfl), lw_t4 (List.mem_of_getElem? (i := 92) rfl), lw_t4 (List.mem_of_getElem? (i := 93) rfl)⟩
theorem lw_p44 : lw_okq (⟨"ApplyFree$Executor", "merge", "(IIII)V"⟩, 17) := ⟨⟨by decide +kernel, by decide +kernel⟩, lw_t1 (List.mem_of_getElem? (i := 187) rfl), lw_t4 (List.mem_of_getElem? (i := 103) rfl), lw_t4 (List.mem_of_getElem? (i := 104) rfl)⟩
theorem lw_p45 : lw_okq (⟨"ApplyFree$Executor", "isBefore", "(III)Z"⟩, 17) := ⟨⟨by decide +kernel, by decide +kernel⟩, lw_t1 (List.mem_of_getElem? (i := 187) rfl), lw_t4 (List.mem_of_getElem? (i := 107) rfl), lw_t4 (List.mem_of_getElem? (i := 108) rfl)⟩
theorem lw_p46 : lw_okq (⟨"ApplyFree$Executor", "tidy", "(I)V"⟩, 17) := ⟨⟨by decide +kernel, by decide +kernel⟩, lw_t1 (List.mem_of_getElem? (i := 187) rfl), lw_t4 (List.mem_of_getElem? (i := 111) rfl), lw_t4 (List.mem_of_getElem? (i := 112) rfl)⟩
theorem lw_p47 : lw_okq (⟨"ApplyFreeModel", "make", "(IIIIIII)I"⟩, 22) := ⟨⟨by decide +kernel, by decide +kernel⟩, lw_t4 (List.mem_of_getElem? (i := 129) rfl), lw_t4 (List.mem_of_getElem? (i := 224) rfl), lw_t4 (List.mem_of_getElem? (i := 225) rfl)⟩
def lw_privs_3 : List (MethodName × Nat) := [(⟨"ApplyFree$Executor", "extend", "(II)V"⟩, 17), (⟨"ApplyFree$Executor", "put", "(I)V"⟩, 17), (⟨"ApplyFree$Executor", "pick", "(II)V"⟩, 17), (⟨"ApplyFree$Executor", "join", "(III)V"⟩, 17), (⟨"ApplyFree$Index", "hash", "([II[II)I"⟩, 13), (⟨"ApplyFree$Index", "isKey", "(I[II[II)Z"⟩, 13), (⟨"ApplyFree$Executor", "copyAll", "(II)V"⟩, 17), (⟨"ApplyFree$Executor", "apart", "(III)V"⟩, 17), (⟨"ApplyFree$Executor", "unique", "(II)V"⟩, 17), (⟨"ApplyFree$Executor", "gather", "(II)V"⟩, 17), (⟨"ApplyFree$Executor", "folded", "(IIII)I"⟩, 17), (⟨"ApplyFree$Executor", "top", "(II)V"⟩, 17), (⟨"ApplyFree$Executor", "merge", "(IIII)V"⟩, 17), (⟨"ApplyFree$Executor", "isBefore", "(III)Z"⟩, 17), (⟨"ApplyFree$Executor", "tidy", "(I)V"⟩, 17), (⟨"ApplyFreeModel", "make", "(IIIIIII)I"⟩, 22)]
theorem lw_r3 : ∀ q ∈ lw_privs_3, lw_okq q := List.forall_mem_cons.mpr ⟨lw_p32, List.forall_mem_cons.mpr ⟨lw_p33, List.forall_mem_cons.mpr ⟨lw_p34, List.forall_mem_cons.mpr ⟨lw_p35, List.forall_mem_cons.mpr ⟨lw_p36, List.forall_mem_cons.mpr ⟨lw_p37, List.forall_mem_cons.mpr ⟨lw_p38, List.forall_mem_cons.mpr ⟨lw_p39, List.forall_mem_cons.mpr ⟨lw_p40, List.forall_mem_cons.mpr ⟨lw_p41, List.forall_mem_cons.mpr ⟨lw_p42, List.forall_mem_cons.mpr ⟨lw_p43, List.forall_mem_cons.mpr ⟨lw_p44, List.forall_mem_cons.mpr ⟨lw_p45, List.forall_mem_cons.mpr ⟨lw_p46, List.forall_mem_cons.mpr ⟨lw_p47, fun _ h => absurd h List.not_mem_nil⟩⟩⟩⟩⟩⟩⟩⟩⟩⟩⟩⟩⟩⟩⟩⟩
theorem lw_p48 : lw_okq (⟨"ApplyFreeModel", "is", "(II)Z"⟩, 22) := ⟨⟨by decide +kernel, by decide +kernel⟩, lw_t4 (List.mem_of_getElem? (i := 129) rfl), lw_t4 (List.mem_of_getElem? (i := 236) rfl), lw_t4 (List.mem_of_getElem? (i := 237) rfl)⟩
theorem lw_p49 : lw_okq (⟨"ApplyFreeModel", "looksAs", "(II)V"⟩, 22) := ⟨⟨by decide +kernel, by decide +kernel⟩, lw_t4 (List.mem_of_getElem? (i := 129) rfl), lw_t5 (List.mem_of_getElem? (i := 0) rfl), lw_t5 (List.mem_of_getElem? (i := 1) rfl)⟩
theorem lw_p50 : lw_okq (⟨"ApplyFreeModel", "quantity", "(IIII)I"⟩, 22) := ⟨⟨by decide +kernel, by decide +kernel⟩, lw_t4 (List.mem_of_getElem? (i := 129) rfl), lw_t5 (List.mem_of_getElem? (i := 32) rfl), lw_t5 (List.mem_of_getElem? (i := 33) rfl)⟩
theorem lw_p51 : lw_okq (⟨"ApplyFreeModel", "fits", "(II)Z"⟩, 22) := ⟨⟨by decide +kernel, by decide +kernel⟩, lw_t4 (List.mem_of_getElem? (i := 129) rfl), lw_t5 (List.mem_of_getElem? (i := 48) rfl), lw_t5 (List.mem_of_getElem? (i := 49) rfl)⟩
theorem lw_p52 : lw_okq (⟨"ApplyFreeModel", "looksWithin", "(II)V"⟩, 22) := ⟨⟨by decide +kernel, by decide +kernel⟩, lw_t4 (List.mem_of_getElem? (i := 129) rfl), lw_t5 (List.mem_of_getElem? (i := 52) rfl), lw_t5 (List.mem_of_getElem? (i := 53) rfl)⟩
theorem lw_p53 : lw_okq (⟨"ApplyFreeModel", "measure", "()V"⟩, 22) := ⟨⟨by decide +kernel, by decide +kernel⟩, lw_t4 (List.mem_of_getElem? (i := 129) rfl), lw_t5 (List.mem_of_getElem? (i := 99) rfl), lw_t5 (List.mem_of_getElem? (i := 100) rfl)⟩
theorem lw_p54 : lw_okq (⟨"ApplyFreeModel", "sizeOf", "(I)J"⟩, 22) := ⟨⟨by decide +kernel, by decide +kernel⟩, lw_t4 (List.mem_of_getElem? (i := 129) rfl), lw_t5 (List.mem_of_getElem? (i := 103) rfl), lw_t5 (List.mem_of_getElem? (i := 104) rfl)⟩
theorem lw_p55 : lw_okq (⟨"ApplyFreeModel", "costOf", "(I)J"⟩, 22) := ⟨⟨by decide +kernel, by decide +kernel⟩, lw_t4 (List.mem_of_getElem? (i := 129) rfl), lw_t5 (List.mem_of_getElem? (i := 111) rfl), lw_t5 (List.mem_of_getElem? (i := 112) rfl)⟩
theorem lw_p56 : lw_okq (⟨"ApplyFreeModel", "bag", "(I)I"⟩, 22) := ⟨⟨by decide +kernel, by decide +kernel⟩, lw_t4 (List.mem_of_getElem? (i := 129) rfl), lw_t5 (List.mem_of_getElem? (i := 120) rfl), lw_t5 (List.mem_of_getElem? (i := 121) rfl)⟩
theorem lw_p57 : lw_okq (⟨"ApplyFreeModel", "scanned", "(I)I"⟩, 22) := ⟨⟨by decide +kernel, by decide +kernel⟩, lw_t4 (List.mem_of_getElem? (i := 129) rfl), lw_t5 (List.mem_of_getElem? (i := 124) rfl), lw_t5 (List.mem_of_getElem? (i := 125) rfl)⟩
theorem lw_p58 : lw_okq (⟨"ApplyFreeModel", "filtered", "(I)I"⟩, 22) := ⟨⟨by decide +kernel, by decide +kernel⟩, lw_t4 (List.mem_of_getElem? (i := 129) rfl), lw_t5 (List.mem_of_getElem? (i := 128) rfl), lw_t5 (List.mem_of_getElem? (i := 129) rfl)⟩
theorem lw_p59 : lw_okq (⟨"ApplyFreeModel", "enter", "(I)V"⟩, 22) := ⟨⟨by decide +kernel, by decide +kernel⟩, lw_t4 (List.mem_of_getElem? (i := 129) rfl), lw_t5 (List.mem_of_getElem? (i := 132) rfl), lw_t5 (List.mem_of_getElem? (i := 133) rfl)⟩
theorem lw_p60 : lw_okq (⟨"ApplyFreeModel", "truth", "(I)I"⟩, 22) := ⟨⟨by decide +kernel, by decide +kernel⟩, lw_t4 (List.mem_of_getElem? (i := 129) rfl), lw_t5 (List.mem_of_getElem? (i := 136) rfl), lw_t5 (List.mem_of_getElem? (i := 137) rfl)⟩
theorem lw_p61 : lw_okq (⟨"ApplyFreeModel", "value", "(I)I"⟩, 22) := ⟨⟨by decide +kernel, by decide +kernel⟩, lw_t4 (List.mem_of_getElem? (i := 129) rfl), lw_t5 (List.mem_of_getElem? (i := 140) rfl), lw_t5 (List.mem_of_getElem? (i := 141) rfl)⟩
theorem lw_p62 : lw_okq (⟨"ApplyFreeModel", "folded", "(IIIIIII)I"⟩, 22) := ⟨⟨by decide +kernel, by decide +kernel⟩, lw_t4 (List.mem_of_getElem? (i := 129) rfl), lw_t5 (List.mem_of_getElem? (i := 145) rfl), lw_t5 (List.mem_of_getElem? (i := 146) rfl)⟩
theorem lw_p63 : lw_okq (⟨"ApplyFreeModel", "areAlike", "(IIII)Z"⟩, 22) := ⟨⟨by decide +kernel, by decide +kernel⟩, lw_t4 (List.mem_of_getElem? (i := 129) rfl), lw_t5 (List.mem_of_getElem? (i := 149) rfl), lw_t5 (List.mem_of_getElem? (i := 150) rfl)⟩
def lw_privs_4 : List (MethodName × Nat) := [(⟨"ApplyFreeModel", "is", "(II)Z"⟩, 22), (⟨"ApplyFreeModel", "looksAs", "(II)V"⟩, 22), (⟨"ApplyFreeModel", "quantity", "(IIII)I"⟩, 22), (⟨"ApplyFreeModel", "fits", "(II)Z"⟩, 22), (⟨"ApplyFreeModel", "looksWithin", "(II)V"⟩, 22), (⟨"ApplyFreeModel", "measure", "()V"⟩, 22), (⟨"ApplyFreeModel", "sizeOf", "(I)J"⟩, 22), (⟨"ApplyFreeModel", "costOf", "(I)J"⟩, 22), (⟨"ApplyFreeModel", "bag", "(I)I"⟩, 22), (⟨"ApplyFreeModel", "scanned", "(I)I"⟩, 22), (⟨"ApplyFreeModel", "filtered", "(I)I"⟩, 22), (⟨"ApplyFreeModel", "enter", "(I)V"⟩, 22), (⟨"ApplyFreeModel", "truth", "(I)I"⟩, 22), (⟨"ApplyFreeModel", "value", "(I)I"⟩, 22), (⟨"ApplyFreeModel", "folded", "(IIIIIII)I"⟩, 22), (⟨"ApplyFreeModel", "areAlike", "(IIII)Z"⟩, 22)]
theorem lw_r4 : ∀ q ∈ lw_privs_4, lw_okq q := List.forall_mem_cons.mpr ⟨lw_p48, List.forall_mem_cons.mpr ⟨lw_p49, List.forall_mem_cons.mpr ⟨lw_p50, List.forall_mem_cons.mpr ⟨lw_p51, List.forall_mem_cons.mpr ⟨lw_p52, List.forall_mem_cons.mpr ⟨lw_p53, List.forall_mem_cons.mpr ⟨lw_p54, List.forall_mem_cons.mpr ⟨lw_p55, List.forall_mem_cons.mpr ⟨lw_p56, List.forall_mem_cons.mpr ⟨lw_p57, List.forall_mem_cons.mpr ⟨lw_p58, List.forall_mem_cons.mpr ⟨lw_p59, List.forall_mem_cons.mpr ⟨lw_p60, List.forall_mem_cons.mpr ⟨lw_p61, List.forall_mem_cons.mpr ⟨lw_p62, List.forall_mem_cons.mpr ⟨lw_p63, fun _ h => absurd h List.not_mem_nil⟩⟩⟩⟩⟩⟩⟩⟩⟩⟩⟩⟩⟩⟩⟩⟩
theorem lw_p64 : lw_okq (⟨"ApplyFreeModel", "quantified", "(I)I"⟩, 22) := ⟨⟨by decide +kernel, by decide +kernel⟩, lw_t4 (List.mem_of_getElem? (i := 129) rfl), lw_t5 (List.mem_of_getElem? (i := 159) rfl), lw_t5 (List.mem_of_getElem? (i := 160) rfl)⟩
theorem lw_p65 : lw_okq (⟨"ApplyFreeModel", "copy", "(III)V"⟩, 22) := ⟨⟨by decide +kernel, by decide +kernel⟩, lw_t4 (List.mem_of_getElem? (i := 129) rfl), lw_t5 (List.mem_of_getElem? (i := 163) rfl), lw_t5 (List.mem_of_getElem? (i := 164) rfl)⟩
theorem lw_p66 : lw_okq (⟨"ApplyFreeModel", "widened", "(I)I"⟩, 22) := ⟨⟨by decide +kernel, by decide +kernel⟩, lw_t4 (List.mem_of_getElem? (i := 129) rfl), lw_t5 (List.mem_of_getElem? (i := 168) rfl), lw_t5 (List.mem_of_getElem? (i := 169) rfl)⟩
theorem lw_p67 : lw_okq (⟨"ApplyFreeModel", "settle", "(IIII)I"⟩, 22) := ⟨⟨by decide +kernel, by decide +kernel⟩, lw_t4 (List.mem_of_getElem? (i := 129) rfl), lw_t5 (List.mem_of_getElem? (i := 172) rfl), lw_t5 (List.mem_of_getElem? (i := 173) rfl)⟩
theorem lw_p68 : lw_okq (⟨"ApplyFreeModel", "chosen", "(I)I"⟩, 22) := ⟨⟨by decide +kernel, by decide +kernel⟩, lw_t4 (List.mem_of_getElem? (i := 129) rfl), lw_t5 (List.mem_of_getElem? (i := 176) rfl), lw_t5 (List.mem_of_getElem? (i := 177) rfl)⟩
theorem lw_p69 : lw_okq (⟨"ApplyFreeModel", "paired", "(I)I"⟩, 22) := ⟨⟨by decide +kernel, by decide +kernel⟩, lw_t4 (List.mem_of_getElem? (i := 129) rfl), lw_t5 (List.mem_of_getElem? (i := 180) rfl), lw_t5 (List.mem_of_getElem? (i := 181) rfl)⟩
theorem lw_p70 : lw_okq (⟨"ApplyFreeModel", "applied", "(I)I"⟩, 22) := ⟨⟨by decide +kernel, by decide +kernel⟩, lw_t4 (List.mem_of_getElem? (i := 129) rfl), lw_t5 (List.mem_of_getElem? (i := 184) rfl), lw_t5 (List.mem_of_getElem? (i := 185) rfl)⟩
theorem lw_p71 : lw_okq (⟨"ApplyFreeModel", "bothOf", "(I)I"⟩, 22) := ⟨⟨by decide +kernel, by decide +kernel⟩, lw_t4 (List.mem_of_getElem? (i := 129) rfl), lw_t5 (List.mem_of_getElem? (i := 188) rfl), lw_t5 (List.mem_of_getElem? (i := 189) rfl)⟩
theorem lw_p72 : lw_okq (⟨"ApplyFreeModel", "exchange", "(III)V"⟩, 22) := ⟨⟨by decide +kernel, by decide +kernel⟩, lw_t4 (List.mem_of_getElem? (i := 129) rfl), lw_t5 (List.mem_of_getElem? (i := 192) rfl), lw_t5 (List.mem_of_getElem? (i := 193) rfl)⟩
theorem lw_p73 : lw_okq (⟨"ApplyFreeModel", "onceOf", "(I)I"⟩, 22) := ⟨⟨by decide +kernel, by decide +kernel⟩, lw_t4 (List.mem_of_getElem? (i := 129) rfl), lw_t5 (List.mem_of_getElem? (i := 196) rfl), lw_t5 (List.mem_of_getElem? (i := 197) rfl)⟩
theorem lw_p74 : lw_okq (⟨"ApplyFreeModel", "firstOf", "(I)I"⟩, 22) := ⟨⟨by decide +kernel, by decide +kernel⟩, lw_t4 (List.mem_of_getElem? (i := 129) rfl), lw_t5 (List.mem_of_getElem? (i := 200) rfl), lw_t5 (List.mem_of_getElem? (i := 201) rfl)⟩
theorem lw_p75 : lw_okq (⟨"ApplyFreeModel", "order", "(IIII)V"⟩, 22) := ⟨⟨by decide +kernel, by decide +kernel⟩, lw_t4 (List.mem_of_getElem? (i := 129) rfl), lw_t5 (List.mem_of_getElem? (i := 204) rfl), lw_t5 (List.mem_of_getElem? (i := 205) rfl)⟩
theorem lw_p76 : lw_okq (⟨"ApplyFreeModel", "isBefore", "(III)Z"⟩, 22) := ⟨⟨by decide +kernel, by decide +kernel⟩, lw_t4 (List.mem_of_getElem? (i := 129) rfl), lw_t5 (List.mem_of_getElem? (i := 208) rfl), lw_t5 (List.mem_of_getElem? (i := 209) rfl)⟩
theorem lw_p77 : lw_okq (⟨"ApplyFreeModel", "grouped", "(I)I"⟩, 22) := ⟨⟨by decide +kernel, by decide +kernel⟩, lw_t4 (List.mem_of_getElem? (i := 129) rfl), lw_t5 (List.mem_of_getElem? (i := 212) rfl), lw_t5 (List.mem_of_getElem? (i := 213) rfl)⟩
def lw_privs_5 : List (MethodName × Nat) := [(⟨"ApplyFreeModel", "quantified", "(I)I"⟩, 22), (⟨"ApplyFreeModel", "copy", "(III)V"⟩, 22), (⟨"ApplyFreeModel", "widened", "(I)I"⟩, 22), (⟨"ApplyFreeModel", "settle", "(IIII)I"⟩, 22), (⟨"ApplyFreeModel", "chosen", "(I)I"⟩, 22), (⟨"ApplyFreeModel", "paired", "(I)I"⟩, 22), (⟨"ApplyFreeModel", "applied", "(I)I"⟩, 22), (⟨"ApplyFreeModel", "bothOf", "(I)I"⟩, 22), (⟨"ApplyFreeModel", "exchange", "(III)V"⟩, 22), (⟨"ApplyFreeModel", "onceOf", "(I)I"⟩, 22), (⟨"ApplyFreeModel", "firstOf", "(I)I"⟩, 22), (⟨"ApplyFreeModel", "order", "(IIII)V"⟩, 22), (⟨"ApplyFreeModel", "isBefore", "(III)Z"⟩, 22), (⟨"ApplyFreeModel", "grouped", "(I)I"⟩, 22)]
theorem lw_r5 : ∀ q ∈ lw_privs_5, lw_okq q := List.forall_mem_cons.mpr ⟨lw_p64, List.forall_mem_cons.mpr ⟨lw_p65, List.forall_mem_cons.mpr ⟨lw_p66, List.forall_mem_cons.mpr ⟨lw_p67, List.forall_mem_cons.mpr ⟨lw_p68, List.forall_mem_cons.mpr ⟨lw_p69, List.forall_mem_cons.mpr ⟨lw_p70, List.forall_mem_cons.mpr ⟨lw_p71, List.forall_mem_cons.mpr ⟨lw_p72, List.forall_mem_cons.mpr ⟨lw_p73, List.forall_mem_cons.mpr ⟨lw_p74, List.forall_mem_cons.mpr ⟨lw_p75, List.forall_mem_cons.mpr ⟨lw_p76, List.forall_mem_cons.mpr ⟨lw_p77, fun _ h => absurd h List.not_mem_nil⟩⟩⟩⟩⟩⟩⟩⟩⟩⟩⟩⟩⟩⟩
def lw_privs : List (MethodName × Nat) := lw_privs_1 ++ (lw_privs_2 ++ (lw_privs_3 ++ (lw_privs_4 ++ (lw_privs_5))))
def lw_tbl : List Cond := k2_sels lw_privs ++ tables_1
theorem lw_privs_ok : ∀ q ∈ lw_privs, lw_okq q := by
  show ∀ q ∈ lw_privs_1 ++ (lw_privs_2 ++ (lw_privs_3 ++ (lw_privs_4 ++ (lw_privs_5)))), lw_okq q
  exact List.forall_mem_append.mpr ⟨lw_r1, List.forall_mem_append.mpr ⟨lw_r2, List.forall_mem_append.mpr ⟨lw_r3, List.forall_mem_append.mpr ⟨lw_r4, lw_r5⟩⟩⟩⟩
-- ===== ONE list of words for every method: the tables' words that hold all through a run =====
def lw_all : List Cond := lw_tbl.filter goodWord
/-- a word of the tables by its place: claim/WORDS.tsv -/
theorem lw_w {w : Cond} (i : Nat) (h : lw_tbl[i]? = some w) (g : goodWord w = true) : w ∈ lw_all := List.mem_filter.mpr ⟨List.mem_of_getElem? h, g⟩
theorem lw_all_tbl {w : Cond} (h : w ∈ lw_all) : w ∈ lw_tbl := (List.mem_filter.mp h).1
theorem lw_self : GoodIn lw_all lw_all := fun w h => ⟨h, good_of_word (List.mem_filter.mp h).2⟩
/-- a class's field words, by their places -/
theorem lw_in (ws : List Cond) (ps : List Nat) (hp : ws = ps.filterMap (fun i => lw_tbl[i]?)) (hg : ws.all goodWord = true) : ∀ w ∈ ws, w ∈ lw_all := by
  intro w h
  have h1 := List.all_eq_true.mp hg w h
  rw [hp] at h
  obtain ⟨i, -, hi⟩ := List.mem_filterMap.mp h
  exact lw_w i hi h1
/-- the words of a contract for the method y with code b, L locals, answer r -/
abbrev ws_ (y : MethodName) (b : ByteArray) (L : Nat) (r : Option FieldType) : List Cond := Cond.code y b L r :: lw_all
theorem lw_meth {y : MethodName} {b : ByteArray} {L : Nat} {r : Option FieldType} (h : Cond.code y b L r ∈ lw_all) : GoodIn lw_all (ws_ y b L r) := by
  intro w hw
  rcases List.mem_cons.mp hw with e | e
  · rw [e]
    exact lw_self _ h
  · exact lw_self _ e
theorem lw_app {a c : List Cond} (ha : ∀ w ∈ a, w ∈ lw_all) (hc : GoodIn lw_all c) : GoodIn lw_all (a ++ c) := by
  intro w hw
  rcases List.mem_append.mp hw with e | e
  · exact lw_self w (ha w e)
  · exact hc w e
/-- what a call through an object asks: cwV n hts (lw_V ..) -/
theorem lw_V {own : String} {idx : Nat} {C : String} {y : MethodName} {b : ByteArray} {L : Nat} {r : Option FieldType} (h1 : Cond.methodLink own idx y ∈ lw_all) (h2 : Cond.instanceMethod y ∈ lw_all) (h3 : Cond.selects C y y ∈ lw_all) (h4 : Cond.initialized C ∈ lw_all) (h5 : Cond.code y b L r ∈ lw_all) : GoodIn lw_all (wsV own idx C y (ws_ y b L r)) := by
  refine lw_app ?_ (lw_meth h5)
  intro w hw
  simp only [List.mem_cons, List.not_mem_nil, or_false] at hw
  rcases hw with e | e | e | e
  · rw [e]; exact h1
  · rw [e]; exact h2
  · rw [e]; exact h3
  · rw [e]; exact h4
/-- what a static call asks: va_cwS n hts (lw_S ..) -/
theorem lw_S {own : String} {idx : Nat} {y : MethodName} {b : ByteArray} {L : Nat} {r : Option FieldType} (h1 : Cond.methodLink own idx y ∈ lw_all) (h2 : Cond.static y ∈ lw_all) (h3 : Cond.initialized y.cls ∈ lw_all) (h4 : Cond.code y b L r ∈ lw_all) : GoodIn lw_all (va_wsS own idx y (ws_ y b L r)) := by
  refine lw_app ?_ (lw_meth h4)
  intro w hw
  simp only [List.mem_cons, List.not_mem_nil, or_false] at hw
  rcases hw with e | e | e
  · rw [e]; exact h1
  · rw [e]; exact h2
  · rw [e]; exact h3
/-- the words of a contract for a method WITH HANDLERS (hh: its table) -/
abbrev wsW_ (y : MethodName) (b : ByteArray) (L : Nat) (r : Option FieldType) (hh : List (Nat × Nat × Nat × Nat)) : List Cond := Cond.codeWith y b L r hh :: lw_all
theorem lw_methW {y : MethodName} {b : ByteArray} {L : Nat} {r : Option FieldType} {hh : List (Nat × Nat × Nat × Nat)} (h : Cond.codeWith y b L r hh ∈ lw_all) : GoodIn lw_all (wsW_ y b L r hh) := by
  intro w hw
  rcases List.mem_cons.mp hw with e | e
  · rw [e]
    exact lw_self _ h
  · exact lw_self _ e
/-- any list of words by their places (lw_in), good -/
theorem lw_good {ws : List Cond} (h : ∀ w ∈ ws, w ∈ lw_all) : GoodIn lw_all ws := fun w hw => lw_self w (h w hw)
/-- what a call of a method with handlers asks: vx_cwVW n hts (lw_VW ..), vx_cwSW n hts (lw_SW ..) -/
theorem lw_VW {own : String} {idx : Nat} {C : String} {y : MethodName} {b : ByteArray} {L : Nat} {r : Option FieldType} {hh : List (Nat × Nat × Nat × Nat)} (h1 : Cond.methodLink own idx y ∈ lw_all) (h2 : Cond.instanceMethod y ∈ lw_all) (h3 : Cond.selects C y y ∈ lw_all) (h4 : Cond.initialized C ∈ lw_all) (h5 : Cond.codeWith y b L r hh ∈ lw_all) : GoodIn lw_all (wsV own idx C y (wsW_ y b L r hh)) := by
  refine lw_app ?_ (lw_methW h5)
  intro w hw
  simp only [List.mem_cons, List.not_mem_nil, or_false] at hw
  rcases hw with e | e | e | e
  · rw [e]; exact h1
  · rw [e]; exact h2
  · rw [e]; exact h3
  · rw [e]; exact h4
theorem lw_SW {own : String} {idx : Nat} {y : MethodName} {b : ByteArray} {L : Nat} {r : Option FieldType} {hh : List (Nat × Nat × Nat × Nat)} (h1 : Cond.methodLink own idx y ∈ lw_all) (h2 : Cond.static y ∈ lw_all) (h3 : Cond.initialized y.cls ∈ lw_all) (h4 : Cond.codeWith y b L r hh ∈ lw_all) : GoodIn lw_all (va_wsS own idx y (wsW_ y b L r hh)) := by
  refine lw_app ?_ (lw_methW h4)
  intro w hw
  simp only [List.mem_cons, List.not_mem_nil, or_false] at hw
  rcases hw with e | e | e
  · rw [e]; exact h1
  · rw [e]; exact h2
  · rw [e]; exact h3
/-- a word by its place in its run of the tables -/
theorem lw_at {r : List Cond} (hr : ∀ w ∈ r, w ∈ lw_tbl) {w : Cond} (i : Nat) (h : r[i]? = some w) : w ∈ lw_tbl := hr w (List.mem_of_getElem? h)
theorem lw_g {w : Cond} (h : w ∈ lw_tbl) (g : goodWord w = true) : w ∈ lw_all := List.mem_filter.mpr ⟨h, g⟩
theorem lw_ms : ∀ w ∈ k2_sels lw_privs, w ∈ lw_tbl := fun w h => show w ∈ k2_sels lw_privs ++ tables_1 from List.mem_append_left _ h
theorem lw_m1 : ∀ w ∈ tables_1_1, w ∈ lw_tbl := fun w h => show w ∈ k2_sels lw_privs ++ tables_1 from List.mem_append_right (k2_sels lw_privs) (show w ∈ tables_1 from List.mem_append_left _ h)
theorem lw_m2 : ∀ w ∈ tables_1_2, w ∈ lw_tbl := fun w h => show w ∈ k2_sels lw_privs ++ tables_1 from List.mem_append_right (k2_sels lw_privs) (show w ∈ tables_1 from List.mem_append_right _ (List.mem_append_left _ h))
theorem lw_m3 : ∀ w ∈ tables_1_3, w ∈ lw_tbl := fun w h => show w ∈ k2_sels lw_privs ++ tables_1 from List.mem_append_right (k2_sels lw_privs) (show w ∈ tables_1 from List.mem_append_right _ (List.mem_append_right _ (List.mem_append_left _ h)))
theorem lw_m4 : ∀ w ∈ tables_1_4, w ∈ lw_tbl := fun w h => show w ∈ k2_sels lw_privs ++ tables_1 from List.mem_append_right (k2_sels lw_privs) (show w ∈ tables_1 from List.mem_append_right _ (List.mem_append_right _ (List.mem_append_right _ (List.mem_append_left _ h))))
theorem lw_m5 : ∀ w ∈ tables_1_5, w ∈ lw_tbl := fun w h => show w ∈ k2_sels lw_privs ++ tables_1 from List.mem_append_right (k2_sels lw_privs) (show w ∈ tables_1 from List.mem_append_right _ (List.mem_append_right _ (List.mem_append_right _ (List.mem_append_right _ h))))
theorem qs0 : (Cond.selects "ApplyFree" ⟨"ApplyFree", "isTable", "(I)Z"⟩ ⟨"ApplyFree", "isTable", "(I)Z"⟩) ∈ lw_all := lw_g (lw_at lw_ms 0 rfl) rfl
theorem qs1 : (Cond.selects "ApplyFree" ⟨"ApplyFree", "are", "(IIII)Z"⟩ ⟨"ApplyFree", "are", "(IIII)Z"⟩) ∈ lw_all := lw_g (lw_at lw_ms 1 rfl) rfl
theorem qs2 : (Cond.selects "ApplyFree" ⟨"ApplyFree", "isOne", "(II)Z"⟩ ⟨"ApplyFree", "isOne", "(II)Z"⟩) ∈ lw_all := lw_g (lw_at lw_ms 2 rfl) rfl
theorem qs3 : (Cond.selects "ApplyFree" ⟨"ApplyFree", "quantified", "(IIII)I"⟩ ⟨"ApplyFree", "quantified", "(IIII)I"⟩) ∈ lw_all := lw_g (lw_at lw_ms 3 rfl) rfl
theorem qs4 : (Cond.selects "ApplyFree" ⟨"ApplyFree", "isNarrow", "(II)Z"⟩ ⟨"ApplyFree", "isNarrow", "(II)Z"⟩) ∈ lw_all := lw_g (lw_at lw_ms 4 rfl) rfl
theorem qs5 : (Cond.selects "ApplyFree$Terms" ⟨"ApplyFree$Terms", "ownSize", "(I)J"⟩ ⟨"ApplyFree$Terms", "ownSize", "(I)J"⟩) ∈ lw_all := lw_g (lw_at lw_ms 5 rfl) rfl
theorem qs6 : (Cond.selects "ApplyFree$Terms" ⟨"ApplyFree$Terms", "ownCost", "(I)J"⟩ ⟨"ApplyFree$Terms", "ownCost", "(I)J"⟩) ∈ lw_all := lw_g (lw_at lw_ms 6 rfl) rfl
theorem qs7 : (Cond.selects "ApplyFree$Steps" ⟨"ApplyFree$Steps", "add", "(IIIIIII)I"⟩ ⟨"ApplyFree$Steps", "add", "(IIIIIII)I"⟩) ∈ lw_all := lw_g (lw_at lw_ms 7 rfl) rfl
theorem qs8 : (Cond.selects "ApplyFree$Rewriter" ⟨"ApplyFree$Rewriter", "bag", "(ILApplyFree$Scope;)I"⟩ ⟨"ApplyFree$Rewriter", "bag", "(ILApplyFree$Scope;)I"⟩) ∈ lw_all := lw_g (lw_at lw_ms 8 rfl) rfl
theorem qs9 : (Cond.selects "ApplyFree$Rewriter" ⟨"ApplyFree$Rewriter", "within", "(IIILApplyFree$Scope;)I"⟩ ⟨"ApplyFree$Rewriter", "within", "(IIILApplyFree$Scope;)I"⟩) ∈ lw_all := lw_g (lw_at lw_ms 9 rfl) rfl
theorem qs10 : (Cond.selects "ApplyFree$Rewriter" ⟨"ApplyFree$Rewriter", "around", "(ILApplyFree$Scope;I)LApplyFree$Scope;"⟩ ⟨"ApplyFree$Rewriter", "around", "(ILApplyFree$Scope;I)LApplyFree$Scope;"⟩) ∈ lw_all := lw_g (lw_at lw_ms 10 rfl) rfl
theorem qs11 : (Cond.selects "ApplyFree$Rewriter" ⟨"ApplyFree$Rewriter", "attach", "(ILApplyFree$Scope;)V"⟩ ⟨"ApplyFree$Rewriter", "attach", "(ILApplyFree$Scope;)V"⟩) ∈ lw_all := lw_g (lw_at lw_ms 11 rfl) rfl
theorem qs12 : (Cond.selects "ApplyFree$Rewriter" ⟨"ApplyFree$Rewriter", "folded", "(IILApplyFree$Scope;)V"⟩ ⟨"ApplyFree$Rewriter", "folded", "(IILApplyFree$Scope;)V"⟩) ∈ lw_all := lw_g (lw_at lw_ms 12 rfl) rfl
theorem qs13 : (Cond.selects "ApplyFree$Rewriter" ⟨"ApplyFree$Rewriter", "choices", "(ILApplyFree$Scope;)LApplyFree$Scope;"⟩ ⟨"ApplyFree$Rewriter", "choices", "(ILApplyFree$Scope;)LApplyFree$Scope;"⟩) ∈ lw_all := lw_g (lw_at lw_ms 13 rfl) rfl
theorem qs14 : (Cond.selects "ApplyFree$Rewriter" ⟨"ApplyFree$Rewriter", "fold", "(IIIII)I"⟩ ⟨"ApplyFree$Rewriter", "fold", "(IIIII)I"⟩) ∈ lw_all := lw_g (lw_at lw_ms 14 rfl) rfl
theorem qs15 : (Cond.selects "ApplyFree$Rewriter" ⟨"ApplyFree$Rewriter", "note", "(LApplyFree$Scope;I)V"⟩ ⟨"ApplyFree$Rewriter", "note", "(LApplyFree$Scope;I)V"⟩) ∈ lw_all := lw_g (lw_at lw_ms 15 rfl) rfl
theorem qs16 : (Cond.selects "ApplyFree$Rewriter" ⟨"ApplyFree$Rewriter", "has", "(ILApplyFree$Scope;)V"⟩ ⟨"ApplyFree$Rewriter", "has", "(ILApplyFree$Scope;)V"⟩) ∈ lw_all := lw_g (lw_at lw_ms 16 rfl) rfl
theorem qs17 : (Cond.selects "ApplyFree$Rewriter" ⟨"ApplyFree$Rewriter", "quantified", "(IIILApplyFree$Scope;)V"⟩ ⟨"ApplyFree$Rewriter", "quantified", "(IIILApplyFree$Scope;)V"⟩) ∈ lw_all := lw_g (lw_at lw_ms 17 rfl) rfl
theorem qs18 : (Cond.selects "ApplyFree$Rewriter" ⟨"ApplyFree$Rewriter", "write", "(ILApplyFree$Scope;)V"⟩ ⟨"ApplyFree$Rewriter", "write", "(ILApplyFree$Scope;)V"⟩) ∈ lw_all := lw_g (lw_at lw_ms 18 rfl) rfl
theorem qs19 : (Cond.selects "ApplyFree$Rewriter" ⟨"ApplyFree$Rewriter", "marked", "(LApplyFree$Scope;IIII)V"⟩ ⟨"ApplyFree$Rewriter", "marked", "(LApplyFree$Scope;IIII)V"⟩) ∈ lw_all := lw_g (lw_at lw_ms 19 rfl) rfl
theorem qs20 : (Cond.selects "ApplyFree$Rewriter" ⟨"ApplyFree$Rewriter", "only", "(IILApplyFree$Scope;)I"⟩ ⟨"ApplyFree$Rewriter", "only", "(IILApplyFree$Scope;)I"⟩) ∈ lw_all := lw_g (lw_at lw_ms 20 rfl) rfl
theorem qs21 : (Cond.selects "ApplyFree$Rewriter" ⟨"ApplyFree$Rewriter", "pairs", "(IILApplyFree$Scope;)I"⟩ ⟨"ApplyFree$Rewriter", "pairs", "(IILApplyFree$Scope;)I"⟩) ∈ lw_all := lw_g (lw_at lw_ms 21 rfl) rfl
theorem qs22 : (Cond.selects "ApplyFree$Rewriter" ⟨"ApplyFree$Rewriter", "apply", "(IIILApplyFree$Scope;)I"⟩ ⟨"ApplyFree$Rewriter", "apply", "(IIILApplyFree$Scope;)I"⟩) ∈ lw_all := lw_g (lw_at lw_ms 22 rfl) rfl
theorem qs23 : (Cond.selects "ApplyFree$Rewriter" ⟨"ApplyFree$Rewriter", "groups", "(IILApplyFree$Scope;)I"⟩ ⟨"ApplyFree$Rewriter", "groups", "(IILApplyFree$Scope;)I"⟩) ∈ lw_all := lw_g (lw_at lw_ms 23 rfl) rfl
theorem qs24 : (Cond.selects "ApplyFree$Executor" ⟨"ApplyFree$Executor", "need", "(II)V"⟩ ⟨"ApplyFree$Executor", "need", "(II)V"⟩) ∈ lw_all := lw_g (lw_at lw_ms 24 rfl) rfl
theorem qs25 : (Cond.selects "ApplyFree$Executor" ⟨"ApplyFree$Executor", "step", "(I)V"⟩ ⟨"ApplyFree$Executor", "step", "(I)V"⟩) ∈ lw_all := lw_g (lw_at lw_ms 25 rfl) rfl
theorem qs26 : (Cond.selects "ApplyFree$Executor" ⟨"ApplyFree$Executor", "lay", "(ILApplyFree$Table;)V"⟩ ⟨"ApplyFree$Executor", "lay", "(ILApplyFree$Table;)V"⟩) ∈ lw_all := lw_g (lw_at lw_ms 26 rfl) rfl
theorem qs27 : (Cond.selects "ApplyFree$Executor" ⟨"ApplyFree$Executor", "cross", "(III)V"⟩ ⟨"ApplyFree$Executor", "cross", "(III)V"⟩) ∈ lw_all := lw_g (lw_at lw_ms 27 rfl) rfl
theorem qs28 : (Cond.selects "ApplyFree$Executor" ⟨"ApplyFree$Executor", "copy", "(III)V"⟩ ⟨"ApplyFree$Executor", "copy", "(III)V"⟩) ∈ lw_all := lw_g (lw_at lw_ms 28 rfl) rfl
theorem qs29 : (Cond.selects "ApplyFree$Executor" ⟨"ApplyFree$Executor", "at", "(II)I"⟩ ⟨"ApplyFree$Executor", "at", "(II)I"⟩) ∈ lw_all := lw_g (lw_at lw_ms 29 rfl) rfl
theorem qs30 : (Cond.selects "ApplyFree$Executor" ⟨"ApplyFree$Executor", "select", "(II)V"⟩ ⟨"ApplyFree$Executor", "select", "(II)V"⟩) ∈ lw_all := lw_g (lw_at lw_ms 30 rfl) rfl
theorem qs31 : (Cond.selects "ApplyFree$Executor" ⟨"ApplyFree$Executor", "reckon", "(III)I"⟩ ⟨"ApplyFree$Executor", "reckon", "(III)I"⟩) ∈ lw_all := lw_g (lw_at lw_ms 31 rfl) rfl
theorem qs32 : (Cond.selects "ApplyFree$Executor" ⟨"ApplyFree$Executor", "extend", "(II)V"⟩ ⟨"ApplyFree$Executor", "extend", "(II)V"⟩) ∈ lw_all := lw_g (lw_at lw_ms 32 rfl) rfl
theorem qs33 : (Cond.selects "ApplyFree$Executor" ⟨"ApplyFree$Executor", "put", "(I)V"⟩ ⟨"ApplyFree$Executor", "put", "(I)V"⟩) ∈ lw_all := lw_g (lw_at lw_ms 33 rfl) rfl
theorem qs34 : (Cond.selects "ApplyFree$Executor" ⟨"ApplyFree$Executor", "pick", "(II)V"⟩ ⟨"ApplyFree$Executor", "pick", "(II)V"⟩) ∈ lw_all := lw_g (lw_at lw_ms 34 rfl) rfl
theorem qs35 : (Cond.selects "ApplyFree$Executor" ⟨"ApplyFree$Executor", "join", "(III)V"⟩ ⟨"ApplyFree$Executor", "join", "(III)V"⟩) ∈ lw_all := lw_g (lw_at lw_ms 35 rfl) rfl
theorem qs36 : (Cond.selects "ApplyFree$Index" ⟨"ApplyFree$Index", "hash", "([II[II)I"⟩ ⟨"ApplyFree$Index", "hash", "([II[II)I"⟩) ∈ lw_all := lw_g (lw_at lw_ms 36 rfl) rfl
theorem qs37 : (Cond.selects "ApplyFree$Index" ⟨"ApplyFree$Index", "isKey", "(I[II[II)Z"⟩ ⟨"ApplyFree$Index", "isKey", "(I[II[II)Z"⟩) ∈ lw_all := lw_g (lw_at lw_ms 37 rfl) rfl
theorem qs38 : (Cond.selects "ApplyFree$Executor" ⟨"ApplyFree$Executor", "copyAll", "(II)V"⟩ ⟨"ApplyFree$Executor", "copyAll", "(II)V"⟩) ∈ lw_all := lw_g (lw_at lw_ms 38 rfl) rfl
theorem qs39 : (Cond.selects "ApplyFree$Executor" ⟨"ApplyFree$Executor", "apart", "(III)V"⟩ ⟨"ApplyFree$Executor", "apart", "(III)V"⟩) ∈ lw_all := lw_g (lw_at lw_ms 39 rfl) rfl
theorem qs40 : (Cond.selects "ApplyFree$Executor" ⟨"ApplyFree$Executor", "unique", "(II)V"⟩ ⟨"ApplyFree$Executor", "unique", "(II)V"⟩) ∈ lw_all := lw_g (lw_at lw_ms 40 rfl) rfl
theorem qs41 : (Cond.selects "ApplyFree$Executor" ⟨"ApplyFree$Executor", "gather", "(II)V"⟩ ⟨"ApplyFree$Executor", "gather", "(II)V"⟩) ∈ lw_all := lw_g (lw_at lw_ms 41 rfl) rfl
theorem qs42 : (Cond.selects "ApplyFree$Executor" ⟨"ApplyFree$Executor", "folded", "(IIII)I"⟩ ⟨"ApplyFree$Executor", "folded", "(IIII)I"⟩) ∈ lw_all := lw_g (lw_at lw_ms 42 rfl) rfl
theorem qs43 : (Cond.selects "ApplyFree$Executor" ⟨"ApplyFree$Executor", "top", "(II)V"⟩ ⟨"ApplyFree$Executor", "top", "(II)V"⟩) ∈ lw_all := lw_g (lw_at lw_ms 43 rfl) rfl
theorem qs44 : (Cond.selects "ApplyFree$Executor" ⟨"ApplyFree$Executor", "merge", "(IIII)V"⟩ ⟨"ApplyFree$Executor", "merge", "(IIII)V"⟩) ∈ lw_all := lw_g (lw_at lw_ms 44 rfl) rfl
theorem qs45 : (Cond.selects "ApplyFree$Executor" ⟨"ApplyFree$Executor", "isBefore", "(III)Z"⟩ ⟨"ApplyFree$Executor", "isBefore", "(III)Z"⟩) ∈ lw_all := lw_g (lw_at lw_ms 45 rfl) rfl
theorem qs46 : (Cond.selects "ApplyFree$Executor" ⟨"ApplyFree$Executor", "tidy", "(I)V"⟩ ⟨"ApplyFree$Executor", "tidy", "(I)V"⟩) ∈ lw_all := lw_g (lw_at lw_ms 46 rfl) rfl
theorem qs47 : (Cond.selects "ApplyFreeModel" ⟨"ApplyFreeModel", "make", "(IIIIIII)I"⟩ ⟨"ApplyFreeModel", "make", "(IIIIIII)I"⟩) ∈ lw_all := lw_g (lw_at lw_ms 47 rfl) rfl
theorem qs48 : (Cond.selects "ApplyFreeModel" ⟨"ApplyFreeModel", "is", "(II)Z"⟩ ⟨"ApplyFreeModel", "is", "(II)Z"⟩) ∈ lw_all := lw_g (lw_at lw_ms 48 rfl) rfl
theorem qs49 : (Cond.selects "ApplyFreeModel" ⟨"ApplyFreeModel", "looksAs", "(II)V"⟩ ⟨"ApplyFreeModel", "looksAs", "(II)V"⟩) ∈ lw_all := lw_g (lw_at lw_ms 49 rfl) rfl
theorem qs50 : (Cond.selects "ApplyFreeModel" ⟨"ApplyFreeModel", "quantity", "(IIII)I"⟩ ⟨"ApplyFreeModel", "quantity", "(IIII)I"⟩) ∈ lw_all := lw_g (lw_at lw_ms 50 rfl) rfl
theorem qs51 : (Cond.selects "ApplyFreeModel" ⟨"ApplyFreeModel", "fits", "(II)Z"⟩ ⟨"ApplyFreeModel", "fits", "(II)Z"⟩) ∈ lw_all := lw_g (lw_at lw_ms 51 rfl) rfl
theorem qs52 : (Cond.selects "ApplyFreeModel" ⟨"ApplyFreeModel", "looksWithin", "(II)V"⟩ ⟨"ApplyFreeModel", "looksWithin", "(II)V"⟩) ∈ lw_all := lw_g (lw_at lw_ms 52 rfl) rfl
theorem qs53 : (Cond.selects "ApplyFreeModel" ⟨"ApplyFreeModel", "measure", "()V"⟩ ⟨"ApplyFreeModel", "measure", "()V"⟩) ∈ lw_all := lw_g (lw_at lw_ms 53 rfl) rfl
theorem qs54 : (Cond.selects "ApplyFreeModel" ⟨"ApplyFreeModel", "sizeOf", "(I)J"⟩ ⟨"ApplyFreeModel", "sizeOf", "(I)J"⟩) ∈ lw_all := lw_g (lw_at lw_ms 54 rfl) rfl
theorem qs55 : (Cond.selects "ApplyFreeModel" ⟨"ApplyFreeModel", "costOf", "(I)J"⟩ ⟨"ApplyFreeModel", "costOf", "(I)J"⟩) ∈ lw_all := lw_g (lw_at lw_ms 55 rfl) rfl
theorem qs56 : (Cond.selects "ApplyFreeModel" ⟨"ApplyFreeModel", "bag", "(I)I"⟩ ⟨"ApplyFreeModel", "bag", "(I)I"⟩) ∈ lw_all := lw_g (lw_at lw_ms 56 rfl) rfl
theorem qs57 : (Cond.selects "ApplyFreeModel" ⟨"ApplyFreeModel", "scanned", "(I)I"⟩ ⟨"ApplyFreeModel", "scanned", "(I)I"⟩) ∈ lw_all := lw_g (lw_at lw_ms 57 rfl) rfl
theorem qs58 : (Cond.selects "ApplyFreeModel" ⟨"ApplyFreeModel", "filtered", "(I)I"⟩ ⟨"ApplyFreeModel", "filtered", "(I)I"⟩) ∈ lw_all := lw_g (lw_at lw_ms 58 rfl) rfl
theorem qs59 : (Cond.selects "ApplyFreeModel" ⟨"ApplyFreeModel", "enter", "(I)V"⟩ ⟨"ApplyFreeModel", "enter", "(I)V"⟩) ∈ lw_all := lw_g (lw_at lw_ms 59 rfl) rfl
theorem qs60 : (Cond.selects "ApplyFreeModel" ⟨"ApplyFreeModel", "truth", "(I)I"⟩ ⟨"ApplyFreeModel", "truth", "(I)I"⟩) ∈ lw_all := lw_g (lw_at lw_ms 60 rfl) rfl
theorem qs61 : (Cond.selects "ApplyFreeModel" ⟨"ApplyFreeModel", "value", "(I)I"⟩ ⟨"ApplyFreeModel", "value", "(I)I"⟩) ∈ lw_all := lw_g (lw_at lw_ms 61 rfl) rfl
theorem qs62 : (Cond.selects "ApplyFreeModel" ⟨"ApplyFreeModel", "folded", "(IIIIIII)I"⟩ ⟨"ApplyFreeModel", "folded", "(IIIIIII)I"⟩) ∈ lw_all := lw_g (lw_at lw_ms 62 rfl) rfl
theorem qs63 : (Cond.selects "ApplyFreeModel" ⟨"ApplyFreeModel", "areAlike", "(IIII)Z"⟩ ⟨"ApplyFreeModel", "areAlike", "(IIII)Z"⟩) ∈ lw_all := lw_g (lw_at lw_ms 63 rfl) rfl
theorem qs64 : (Cond.selects "ApplyFreeModel" ⟨"ApplyFreeModel", "quantified", "(I)I"⟩ ⟨"ApplyFreeModel", "quantified", "(I)I"⟩) ∈ lw_all := lw_g (lw_at lw_ms 64 rfl) rfl
theorem qs65 : (Cond.selects "ApplyFreeModel" ⟨"ApplyFreeModel", "copy", "(III)V"⟩ ⟨"ApplyFreeModel", "copy", "(III)V"⟩) ∈ lw_all := lw_g (lw_at lw_ms 65 rfl) rfl
theorem qs66 : (Cond.selects "ApplyFreeModel" ⟨"ApplyFreeModel", "widened", "(I)I"⟩ ⟨"ApplyFreeModel", "widened", "(I)I"⟩) ∈ lw_all := lw_g (lw_at lw_ms 66 rfl) rfl
theorem qs67 : (Cond.selects "ApplyFreeModel" ⟨"ApplyFreeModel", "settle", "(IIII)I"⟩ ⟨"ApplyFreeModel", "settle", "(IIII)I"⟩) ∈ lw_all := lw_g (lw_at lw_ms 67 rfl) rfl
theorem qs68 : (Cond.selects "ApplyFreeModel" ⟨"ApplyFreeModel", "chosen", "(I)I"⟩ ⟨"ApplyFreeModel", "chosen", "(I)I"⟩) ∈ lw_all := lw_g (lw_at lw_ms 68 rfl) rfl
theorem qs69 : (Cond.selects "ApplyFreeModel" ⟨"ApplyFreeModel", "paired", "(I)I"⟩ ⟨"ApplyFreeModel", "paired", "(I)I"⟩) ∈ lw_all := lw_g (lw_at lw_ms 69 rfl) rfl
theorem qs70 : (Cond.selects "ApplyFreeModel" ⟨"ApplyFreeModel", "applied", "(I)I"⟩ ⟨"ApplyFreeModel", "applied", "(I)I"⟩) ∈ lw_all := lw_g (lw_at lw_ms 70 rfl) rfl
theorem qs71 : (Cond.selects "ApplyFreeModel" ⟨"ApplyFreeModel", "bothOf", "(I)I"⟩ ⟨"ApplyFreeModel", "bothOf", "(I)I"⟩) ∈ lw_all := lw_g (lw_at lw_ms 71 rfl) rfl
theorem qs72 : (Cond.selects "ApplyFreeModel" ⟨"ApplyFreeModel", "exchange", "(III)V"⟩ ⟨"ApplyFreeModel", "exchange", "(III)V"⟩) ∈ lw_all := lw_g (lw_at lw_ms 72 rfl) rfl
theorem qs73 : (Cond.selects "ApplyFreeModel" ⟨"ApplyFreeModel", "onceOf", "(I)I"⟩ ⟨"ApplyFreeModel", "onceOf", "(I)I"⟩) ∈ lw_all := lw_g (lw_at lw_ms 73 rfl) rfl
theorem qs74 : (Cond.selects "ApplyFreeModel" ⟨"ApplyFreeModel", "firstOf", "(I)I"⟩ ⟨"ApplyFreeModel", "firstOf", "(I)I"⟩) ∈ lw_all := lw_g (lw_at lw_ms 74 rfl) rfl
theorem qs75 : (Cond.selects "ApplyFreeModel" ⟨"ApplyFreeModel", "order", "(IIII)V"⟩ ⟨"ApplyFreeModel", "order", "(IIII)V"⟩) ∈ lw_all := lw_g (lw_at lw_ms 75 rfl) rfl
theorem qs76 : (Cond.selects "ApplyFreeModel" ⟨"ApplyFreeModel", "isBefore", "(III)Z"⟩ ⟨"ApplyFreeModel", "isBefore", "(III)Z"⟩) ∈ lw_all := lw_g (lw_at lw_ms 76 rfl) rfl
theorem qs77 : (Cond.selects "ApplyFreeModel" ⟨"ApplyFreeModel", "grouped", "(I)I"⟩ ⟨"ApplyFreeModel", "grouped", "(I)I"⟩) ∈ lw_all := lw_g (lw_at lw_ms 77 rfl) rfl
-- ===== end of PART A; then your names; then what follows =====
