-- ===== PART A: goes FIRST, ahead of the names: the tables' words, and 'selects' of the private methods out of them =====
/-- a private method of a class that the tables say can be made, by its rows of tables_1 -/
def lw_okq (q : MethodName × Nat) : Prop := (q.1.cls ≠ "java/lang/invoke/MethodHandle" ∧ q.1.cls ≠ "java/lang/invoke/VarHandle") ∧ Cond.instantiable q.1.cls q.2 ∈ tables_1 ∧ Cond.privateMethod q.1 ∈ tables_1 ∧ Cond.instanceMethod q.1 ∈ tables_1
set_option maxRecDepth 100000
theorem lw_t1 {w : Cond} (h : w ∈ tables_1_1) : w ∈ tables_1 := List.mem_append_left _ h
theorem lw_t2 {w : Cond} (h : w ∈ tables_1_2) : w ∈ tables_1 := List.mem_append_right _ (List.mem_append_left _ h)
theorem lw_t3 {w : Cond} (h : w ∈ tables_1_3) : w ∈ tables_1 := List.mem_append_right _ (List.mem_append_right _ (List.mem_append_left _ h))
theorem lw_t4 {w : Cond} (h : w ∈ tables_1_4) : w ∈ tables_1 := List.mem_append_right _ (List.mem_append_right _ (List.mem_append_right _ (List.mem_append_left _ h)))
theorem lw_t5 {w : Cond} (h : w ∈ tables_1_5) : w ∈ tables_1 := List.mem_append_right _ (List.mem_append_right _ (List.mem_append_right _ (List.mem_append_right _ (List.mem_append_left _ h))))
theorem lw_t6 {w : Cond} (h : w ∈ tables_1_6) : w ∈ tables_1 := List.mem_append_right _ (List.mem_append_right _ (List.mem_append_right _ (List.mem_append_right _ (List.mem_append_right _ (List.mem_append_left _ h)))))
theorem lw_t7 {w : Cond} (h : w ∈ tables_1_7) : w ∈ tables_1 := List.mem_append_right _ (List.mem_append_right _ (List.mem_append_right _ (List.mem_append_right _ (List.mem_append_right _ (List.mem_append_right _ (List.mem_append_left _ h))))))
theorem lw_t8 {w : Cond} (h : w ∈ tables_1_8) : w ∈ tables_1 := List.mem_append_right _ (List.mem_append_right _ (List.mem_append_right _ (List.mem_append_right _ (List.mem_append_right _ (List.mem_append_right _ (List.mem_append_right _ h))))))
theorem lw_p0 : lw_okq (⟨"java/lang/Throwable", "fillInStackTrace", "(I)Ljava/lang/Throwable;"⟩, 6) := ⟨⟨by decide +kernel, by decide +kernel⟩, lw_t1 (List.mem_of_getElem? (i := 168) rfl), lw_t1 (List.mem_of_getElem? (i := 166) rfl), lw_t1 (List.mem_of_getElem? (i := 167) rfl)⟩
theorem lw_p1 : lw_okq (⟨"KeptLeaves", "four", "(I)V"⟩, 31) := ⟨⟨by decide +kernel, by decide +kernel⟩, lw_t1 (List.mem_of_getElem? (i := 29) rfl), lw_t2 (List.mem_of_getElem? (i := 83) rfl), lw_t2 (List.mem_of_getElem? (i := 84) rfl)⟩
theorem lw_p2 : lw_okq (⟨"KeptLeaves", "textRead", "()LKeptLeaves$Text;"⟩, 31) := ⟨⟨by decide +kernel, by decide +kernel⟩, lw_t1 (List.mem_of_getElem? (i := 29) rfl), lw_t2 (List.mem_of_getElem? (i := 99) rfl), lw_t2 (List.mem_of_getElem? (i := 100) rfl)⟩
theorem lw_p3 : lw_okq (⟨"KeptLeaves", "goes", "()V"⟩, 31) := ⟨⟨by decide +kernel, by decide +kernel⟩, lw_t1 (List.mem_of_getElem? (i := 29) rfl), lw_t2 (List.mem_of_getElem? (i := 103) rfl), lw_t2 (List.mem_of_getElem? (i := 104) rfl)⟩
theorem lw_p4 : lw_okq (⟨"KeptLeaves", "wrong", "()V"⟩, 31) := ⟨⟨by decide +kernel, by decide +kernel⟩, lw_t1 (List.mem_of_getElem? (i := 29) rfl), lw_t2 (List.mem_of_getElem? (i := 113) rfl), lw_t2 (List.mem_of_getElem? (i := 114) rfl)⟩
theorem lw_p5 : lw_okq (⟨"KeptLeaves", "key", "()I"⟩, 31) := ⟨⟨by decide +kernel, by decide +kernel⟩, lw_t1 (List.mem_of_getElem? (i := 29) rfl), lw_t2 (List.mem_of_getElem? (i := 117) rfl), lw_t2 (List.mem_of_getElem? (i := 118) rfl)⟩
theorem lw_p6 : lw_okq (⟨"KeptLeaves", "isWord", "(Ljava/lang/String;)Z"⟩, 31) := ⟨⟨by decide +kernel, by decide +kernel⟩, lw_t1 (List.mem_of_getElem? (i := 29) rfl), lw_t2 (List.mem_of_getElem? (i := 122) rfl), lw_t2 (List.mem_of_getElem? (i := 123) rfl)⟩
theorem lw_p7 : lw_okq (⟨"KeptLeaves", "expression", "()LKeptLeaves$Words;"⟩, 31) := ⟨⟨by decide +kernel, by decide +kernel⟩, lw_t1 (List.mem_of_getElem? (i := 29) rfl), lw_t2 (List.mem_of_getElem? (i := 176) rfl), lw_t2 (List.mem_of_getElem? (i := 177) rfl)⟩
theorem lw_p8 : lw_okq (⟨"KeptLeaves", "or", "(LKeptLeaves$Words;)V"⟩, 31) := ⟨⟨by decide +kernel, by decide +kernel⟩, lw_t1 (List.mem_of_getElem? (i := 29) rfl), lw_t2 (List.mem_of_getElem? (i := 199) rfl), lw_t2 (List.mem_of_getElem? (i := 200) rfl)⟩
theorem lw_p9 : lw_okq (⟨"KeptLeaves", "and", "(LKeptLeaves$Words;)V"⟩, 31) := ⟨⟨by decide +kernel, by decide +kernel⟩, lw_t1 (List.mem_of_getElem? (i := 29) rfl), lw_t2 (List.mem_of_getElem? (i := 203) rfl), lw_t2 (List.mem_of_getElem? (i := 204) rfl)⟩
theorem lw_p10 : lw_okq (⟨"KeptLeaves", "test", "(LKeptLeaves$Words;)V"⟩, 31) := ⟨⟨by decide +kernel, by decide +kernel⟩, lw_t1 (List.mem_of_getElem? (i := 29) rfl), lw_t2 (List.mem_of_getElem? (i := 207) rfl), lw_t2 (List.mem_of_getElem? (i := 208) rfl)⟩
theorem lw_p11 : lw_okq (⟨"KeptLeaves", "sum", "(LKeptLeaves$Words;)V"⟩, 31) := ⟨⟨by decide +kernel, by decide +kernel⟩, lw_t1 (List.mem_of_getElem? (i := 29) rfl), lw_t2 (List.mem_of_getElem? (i := 211) rfl), lw_t2 (List.mem_of_getElem? (i := 212) rfl)⟩
theorem lw_p12 : lw_okq (⟨"KeptLeaves", "term", "(LKeptLeaves$Words;)V"⟩, 31) := ⟨⟨by decide +kernel, by decide +kernel⟩, lw_t1 (List.mem_of_getElem? (i := 29) rfl), lw_t2 (List.mem_of_getElem? (i := 215) rfl), lw_t2 (List.mem_of_getElem? (i := 216) rfl)⟩
theorem lw_p13 : lw_okq (⟨"KeptLeaves", "piece", "(LKeptLeaves$Words;)V"⟩, 31) := ⟨⟨by decide +kernel, by decide +kernel⟩, lw_t1 (List.mem_of_getElem? (i := 29) rfl), lw_t2 (List.mem_of_getElem? (i := 219) rfl), lw_t2 (List.mem_of_getElem? (i := 220) rfl)⟩
theorem lw_p14 : lw_okq (⟨"KeptLeaves", "isSign", "(I)Z"⟩, 31) := ⟨⟨by decide +kernel, by decide +kernel⟩, lw_t1 (List.mem_of_getElem? (i := 29) rfl), lw_t2 (List.mem_of_getElem? (i := 223) rfl), lw_t2 (List.mem_of_getElem? (i := 224) rfl)⟩
theorem lw_p15 : lw_okq (⟨"KeptLeaves", "number", "()I"⟩, 31) := ⟨⟨by decide +kernel, by decide +kernel⟩, lw_t1 (List.mem_of_getElem? (i := 29) rfl), lw_t2 (List.mem_of_getElem? (i := 231) rfl), lw_t2 (List.mem_of_getElem? (i := 232) rfl)⟩
def lw_privs_1 : List (MethodName × Nat) := [(⟨"java/lang/Throwable", "fillInStackTrace", "(I)Ljava/lang/Throwable;"⟩, 6), (⟨"KeptLeaves", "four", "(I)V"⟩, 31), (⟨"KeptLeaves", "textRead", "()LKeptLeaves$Text;"⟩, 31), (⟨"KeptLeaves", "goes", "()V"⟩, 31), (⟨"KeptLeaves", "wrong", "()V"⟩, 31), (⟨"KeptLeaves", "key", "()I"⟩, 31), (⟨"KeptLeaves", "isWord", "(Ljava/lang/String;)Z"⟩, 31), (⟨"KeptLeaves", "expression", "()LKeptLeaves$Words;"⟩, 31), (⟨"KeptLeaves", "or", "(LKeptLeaves$Words;)V"⟩, 31), (⟨"KeptLeaves", "and", "(LKeptLeaves$Words;)V"⟩, 31), (⟨"KeptLeaves", "test", "(LKeptLeaves$Words;)V"⟩, 31), (⟨"KeptLeaves", "sum", "(LKeptLeaves$Words;)V"⟩, 31), (⟨"KeptLeaves", "term", "(LKeptLeaves$Words;)V"⟩, 31), (⟨"KeptLeaves", "piece", "(LKeptLeaves$Words;)V"⟩, 31), (⟨"KeptLeaves", "isSign", "(I)Z"⟩, 31), (⟨"KeptLeaves", "number", "()I"⟩, 31)]
theorem lw_r1 : ∀ q ∈ lw_privs_1, lw_okq q := List.forall_mem_cons.mpr ⟨lw_p0, List.forall_mem_cons.mpr ⟨lw_p1, List.forall_mem_cons.mpr ⟨lw_p2, List.forall_mem_cons.mpr ⟨lw_p3, List.forall_mem_cons.mpr ⟨lw_p4, List.forall_mem_cons.mpr ⟨lw_p5, List.forall_mem_cons.mpr ⟨lw_p6, List.forall_mem_cons.mpr ⟨lw_p7, List.forall_mem_cons.mpr ⟨lw_p8, List.forall_mem_cons.mpr ⟨lw_p9, List.forall_mem_cons.mpr ⟨lw_p10, List.forall_mem_cons.mpr ⟨lw_p11, List.forall_mem_cons.mpr ⟨lw_p12, List.forall_mem_cons.mpr ⟨lw_p13, List.forall_mem_cons.mpr ⟨lw_p14, List.forall_mem_cons.mpr ⟨lw_p15, fun _ h => absurd h List.not_mem_nil⟩⟩⟩⟩⟩⟩⟩⟩⟩⟩⟩⟩⟩⟩⟩⟩
theorem lw_p16 : lw_okq (⟨"KeptLeaves", "isName", "(I)Z"⟩, 31) := ⟨⟨by decide +kernel, by decide +kernel⟩, lw_t1 (List.mem_of_getElem? (i := 29) rfl), lw_t2 (List.mem_of_getElem? (i := 235) rfl), lw_t2 (List.mem_of_getElem? (i := 236) rfl)⟩
theorem lw_p17 : lw_okq (⟨"KeptLeaves", "counts", "(I)I"⟩, 31) := ⟨⟨by decide +kernel, by decide +kernel⟩, lw_t1 (List.mem_of_getElem? (i := 29) rfl), lw_t3 (List.mem_of_getElem? (i := 26) rfl), lw_t3 (List.mem_of_getElem? (i := 27) rfl)⟩
theorem lw_p18 : lw_okq (⟨"KeptLeaves", "isLeaf", "(I)Z"⟩, 31) := ⟨⟨by decide +kernel, by decide +kernel⟩, lw_t1 (List.mem_of_getElem? (i := 29) rfl), lw_t3 (List.mem_of_getElem? (i := 41) rfl), lw_t3 (List.mem_of_getElem? (i := 42) rfl)⟩
theorem lw_p19 : lw_okq (⟨"KeptLeaves", "comes", "(IIII)I"⟩, 31) := ⟨⟨by decide +kernel, by decide +kernel⟩, lw_t1 (List.mem_of_getElem? (i := 29) rfl), lw_t3 (List.mem_of_getElem? (i := 45) rfl), lw_t3 (List.mem_of_getElem? (i := 46) rfl)⟩
theorem lw_p20 : lw_okq (⟨"KeptLeaves", "learns", "()V"⟩, 31) := ⟨⟨by decide +kernel, by decide +kernel⟩, lw_t1 (List.mem_of_getElem? (i := 29) rfl), lw_t3 (List.mem_of_getElem? (i := 138) rfl), lw_t3 (List.mem_of_getElem? (i := 139) rfl)⟩
theorem lw_p21 : lw_okq (⟨"KeptLeaves", "roomOf", "(I)I"⟩, 31) := ⟨⟨by decide +kernel, by decide +kernel⟩, lw_t1 (List.mem_of_getElem? (i := 29) rfl), lw_t3 (List.mem_of_getElem? (i := 142) rfl), lw_t3 (List.mem_of_getElem? (i := 143) rfl)⟩
theorem lw_p22 : lw_okq (⟨"KeptLeaves", "reckon", "(LKeptLeaves$Words;)I"⟩, 31) := ⟨⟨by decide +kernel, by decide +kernel⟩, lw_t1 (List.mem_of_getElem? (i := 29) rfl), lw_t3 (List.mem_of_getElem? (i := 146) rfl), lw_t3 (List.mem_of_getElem? (i := 147) rfl)⟩
theorem lw_p23 : lw_okq (⟨"KeptLeaves", "missOf", "(I)I"⟩, 31) := ⟨⟨by decide +kernel, by decide +kernel⟩, lw_t1 (List.mem_of_getElem? (i := 29) rfl), lw_t3 (List.mem_of_getElem? (i := 184) rfl), lw_t3 (List.mem_of_getElem? (i := 185) rfl)⟩
theorem lw_p24 : lw_okq (⟨"KeptLeaves", "leaningOn", "(I)I"⟩, 31) := ⟨⟨by decide +kernel, by decide +kernel⟩, lw_t1 (List.mem_of_getElem? (i := 29) rfl), lw_t3 (List.mem_of_getElem? (i := 188) rfl), lw_t3 (List.mem_of_getElem? (i := 189) rfl)⟩
theorem lw_p25 : lw_okq (⟨"KeptLeaves", "isRead", "(II)Z"⟩, 31) := ⟨⟨by decide +kernel, by decide +kernel⟩, lw_t1 (List.mem_of_getElem? (i := 29) rfl), lw_t4 (List.mem_of_getElem? (i := 0) rfl), lw_t4 (List.mem_of_getElem? (i := 1) rfl)⟩
theorem lw_p26 : lw_okq (⟨"KeptLeaves", "throwsDownTo", "(I)I"⟩, 31) := ⟨⟨by decide +kernel, by decide +kernel⟩, lw_t1 (List.mem_of_getElem? (i := 29) rfl), lw_t4 (List.mem_of_getElem? (i := 101) rfl), lw_t4 (List.mem_of_getElem? (i := 102) rfl)⟩
theorem lw_p27 : lw_okq (⟨"KeptLeaves", "fullness", "()I"⟩, 31) := ⟨⟨by decide +kernel, by decide +kernel⟩, lw_t1 (List.mem_of_getElem? (i := 29) rfl), lw_t4 (List.mem_of_getElem? (i := 105) rfl), lw_t4 (List.mem_of_getElem? (i := 106) rfl)⟩
theorem lw_p28 : lw_okq (⟨"KeptLeaves", "chosen", "()I"⟩, 31) := ⟨⟨by decide +kernel, by decide +kernel⟩, lw_t1 (List.mem_of_getElem? (i := 29) rfl), lw_t4 (List.mem_of_getElem? (i := 109) rfl), lw_t4 (List.mem_of_getElem? (i := 110) rfl)⟩
theorem lw_p29 : lw_okq (⟨"KeptLeaves", "byLot", "()I"⟩, 31) := ⟨⟨by decide +kernel, by decide +kernel⟩, lw_t1 (List.mem_of_getElem? (i := 29) rfl), lw_t4 (List.mem_of_getElem? (i := 113) rfl), lw_t4 (List.mem_of_getElem? (i := 114) rfl)⟩
theorem lw_p30 : lw_okq (⟨"KeptLeaves", "isLooked", "(I)Z"⟩, 31) := ⟨⟨by decide +kernel, by decide +kernel⟩, lw_t1 (List.mem_of_getElem? (i := 29) rfl), lw_t4 (List.mem_of_getElem? (i := 117) rfl), lw_t4 (List.mem_of_getElem? (i := 118) rfl)⟩
theorem lw_p31 : lw_okq (⟨"KeptLeaves", "isLeaned", "(I)Z"⟩, 31) := ⟨⟨by decide +kernel, by decide +kernel⟩, lw_t1 (List.mem_of_getElem? (i := 29) rfl), lw_t4 (List.mem_of_getElem? (i := 121) rfl), lw_t4 (List.mem_of_getElem? (i := 122) rfl)⟩
def lw_privs_2 : List (MethodName × Nat) := [(⟨"KeptLeaves", "isName", "(I)Z"⟩, 31), (⟨"KeptLeaves", "counts", "(I)I"⟩, 31), (⟨"KeptLeaves", "isLeaf", "(I)Z"⟩, 31), (⟨"KeptLeaves", "comes", "(IIII)I"⟩, 31), (⟨"KeptLeaves", "learns", "()V"⟩, 31), (⟨"KeptLeaves", "roomOf", "(I)I"⟩, 31), (⟨"KeptLeaves", "reckon", "(LKeptLeaves$Words;)I"⟩, 31), (⟨"KeptLeaves", "missOf", "(I)I"⟩, 31), (⟨"KeptLeaves", "leaningOn", "(I)I"⟩, 31), (⟨"KeptLeaves", "isRead", "(II)Z"⟩, 31), (⟨"KeptLeaves", "throwsDownTo", "(I)I"⟩, 31), (⟨"KeptLeaves", "fullness", "()I"⟩, 31), (⟨"KeptLeaves", "chosen", "()I"⟩, 31), (⟨"KeptLeaves", "byLot", "()I"⟩, 31), (⟨"KeptLeaves", "isLooked", "(I)Z"⟩, 31), (⟨"KeptLeaves", "isLeaned", "(I)Z"⟩, 31)]
theorem lw_r2 : ∀ q ∈ lw_privs_2, lw_okq q := List.forall_mem_cons.mpr ⟨lw_p16, List.forall_mem_cons.mpr ⟨lw_p17, List.forall_mem_cons.mpr ⟨lw_p18, List.forall_mem_cons.mpr ⟨lw_p19, List.forall_mem_cons.mpr ⟨lw_p20, List.forall_mem_cons.mpr ⟨lw_p21, List.forall_mem_cons.mpr ⟨lw_p22, List.forall_mem_cons.mpr ⟨lw_p23, List.forall_mem_cons.mpr ⟨lw_p24, List.forall_mem_cons.mpr ⟨lw_p25, List.forall_mem_cons.mpr ⟨lw_p26, List.forall_mem_cons.mpr ⟨lw_p27, List.forall_mem_cons.mpr ⟨lw_p28, List.forall_mem_cons.mpr ⟨lw_p29, List.forall_mem_cons.mpr ⟨lw_p30, List.forall_mem_cons.mpr ⟨lw_p31, fun _ h => absurd h List.not_mem_nil⟩⟩⟩⟩⟩⟩⟩⟩⟩⟩⟩⟩⟩⟩⟩⟩
theorem lw_p32 : lw_okq (⟨"KeptLeaves", "goesBy", "(II)I"⟩, 31) := ⟨⟨by decide +kernel, by decide +kernel⟩, lw_t1 (List.mem_of_getElem? (i := 29) rfl), lw_t4 (List.mem_of_getElem? (i := 125) rfl), lw_t4 (List.mem_of_getElem? (i := 126) rfl)⟩
theorem lw_p33 : lw_okq (⟨"KeptLeaves", "isFound", "(I)Z"⟩, 31) := ⟨⟨by decide +kernel, by decide +kernel⟩, lw_t1 (List.mem_of_getElem? (i := 29) rfl), lw_t4 (List.mem_of_getElem? (i := 146) rfl), lw_t4 (List.mem_of_getElem? (i := 147) rfl)⟩
theorem lw_p34 : lw_okq (⟨"KeptLeaves", "goesThrough", "([II)I"⟩, 31) := ⟨⟨by decide +kernel, by decide +kernel⟩, lw_t1 (List.mem_of_getElem? (i := 29) rfl), lw_t4 (List.mem_of_getElem? (i := 191) rfl), lw_t4 (List.mem_of_getElem? (i := 192) rfl)⟩
theorem lw_p35 : lw_okq (⟨"KeptLeaves", "thought", "([II)I"⟩, 31) := ⟨⟨by decide +kernel, by decide +kernel⟩, lw_t1 (List.mem_of_getElem? (i := 29) rfl), lw_t4 (List.mem_of_getElem? (i := 199) rfl), lw_t4 (List.mem_of_getElem? (i := 200) rfl)⟩
theorem lw_p36 : lw_okq (⟨"KeptLeaves", "findFits", "()V"⟩, 31) := ⟨⟨by decide +kernel, by decide +kernel⟩, lw_t1 (List.mem_of_getElem? (i := 29) rfl), lw_t4 (List.mem_of_getElem? (i := 217) rfl), lw_t4 (List.mem_of_getElem? (i := 218) rfl)⟩
theorem lw_p37 : lw_okq (⟨"KeptLeaves", "sets", "()I"⟩, 31) := ⟨⟨by decide +kernel, by decide +kernel⟩, lw_t1 (List.mem_of_getElem? (i := 29) rfl), lw_t4 (List.mem_of_getElem? (i := 221) rfl), lw_t4 (List.mem_of_getElem? (i := 222) rfl)⟩
theorem lw_p38 : lw_okq (⟨"KeptLeaves", "leastOf", "([II)I"⟩, 31) := ⟨⟨by decide +kernel, by decide +kernel⟩, lw_t1 (List.mem_of_getElem? (i := 29) rfl), lw_t4 (List.mem_of_getElem? (i := 225) rfl), lw_t4 (List.mem_of_getElem? (i := 226) rfl)⟩
theorem lw_p39 : lw_okq (⟨"KeptLeaves", "findInside", "()V"⟩, 31) := ⟨⟨by decide +kernel, by decide +kernel⟩, lw_t1 (List.mem_of_getElem? (i := 29) rfl), lw_t4 (List.mem_of_getElem? (i := 229) rfl), lw_t4 (List.mem_of_getElem? (i := 230) rfl)⟩
theorem lw_p40 : lw_okq (⟨"KeptLeaves", "missedOf", "(II)I"⟩, 31) := ⟨⟨by decide +kernel, by decide +kernel⟩, lw_t1 (List.mem_of_getElem? (i := 29) rfl), lw_t4 (List.mem_of_getElem? (i := 234) rfl), lw_t4 (List.mem_of_getElem? (i := 235) rfl)⟩
theorem lw_p41 : lw_okq (⟨"KeptLeaves", "keptBehind", "(I)I"⟩, 31) := ⟨⟨by decide +kernel, by decide +kernel⟩, lw_t1 (List.mem_of_getElem? (i := 29) rfl), lw_t4 (List.mem_of_getElem? (i := 238) rfl), lw_t4 (List.mem_of_getElem? (i := 239) rfl)⟩
theorem lw_p42 : lw_okq (⟨"KeptLeaves", "heldOf", "(I)I"⟩, 31) := ⟨⟨by decide +kernel, by decide +kernel⟩, lw_t1 (List.mem_of_getElem? (i := 29) rfl), lw_t5 (List.mem_of_getElem? (i := 6) rfl), lw_t5 (List.mem_of_getElem? (i := 7) rfl)⟩
theorem lw_p43 : lw_okq (⟨"KeptLeaves", "bestWithout", "(I)I"⟩, 31) := ⟨⟨by decide +kernel, by decide +kernel⟩, lw_t1 (List.mem_of_getElem? (i := 29) rfl), lw_t5 (List.mem_of_getElem? (i := 14) rfl), lw_t5 (List.mem_of_getElem? (i := 15) rfl)⟩
theorem lw_p44 : lw_okq (⟨"KeptLeaves", "meansFrom", "(IIJ)J"⟩, 31) := ⟨⟨by decide +kernel, by decide +kernel⟩, lw_t1 (List.mem_of_getElem? (i := 29) rfl), lw_t5 (List.mem_of_getElem? (i := 27) rfl), lw_t5 (List.mem_of_getElem? (i := 28) rfl)⟩
theorem lw_p45 : lw_okq (⟨"KeptLeaves", "carries", "(LKeptLeaves$Sheet;ILKeptLeaves$Sheet;II)V"⟩, 31) := ⟨⟨by decide +kernel, by decide +kernel⟩, lw_t1 (List.mem_of_getElem? (i := 29) rfl), lw_t5 (List.mem_of_getElem? (i := 113) rfl), lw_t5 (List.mem_of_getElem? (i := 114) rfl)⟩
theorem lw_p46 : lw_okq (⟨"KeptLeaves", "own", "(LKeptLeaves$Sheet;)LKeptLeaves$Sheet;"⟩, 31) := ⟨⟨by decide +kernel, by decide +kernel⟩, lw_t1 (List.mem_of_getElem? (i := 29) rfl), lw_t5 (List.mem_of_getElem? (i := 174) rfl), lw_t5 (List.mem_of_getElem? (i := 175) rfl)⟩
theorem lw_p47 : lw_okq (⟨"KeptLeaves", "rowsOfTurns", "(I)I"⟩, 31) := ⟨⟨by decide +kernel, by decide +kernel⟩, lw_t1 (List.mem_of_getElem? (i := 29) rfl), lw_t5 (List.mem_of_getElem? (i := 237) rfl), lw_t5 (List.mem_of_getElem? (i := 238) rfl)⟩
def lw_privs_3 : List (MethodName × Nat) := [(⟨"KeptLeaves", "goesBy", "(II)I"⟩, 31), (⟨"KeptLeaves", "isFound", "(I)Z"⟩, 31), (⟨"KeptLeaves", "goesThrough", "([II)I"⟩, 31), (⟨"KeptLeaves", "thought", "([II)I"⟩, 31), (⟨"KeptLeaves", "findFits", "()V"⟩, 31), (⟨"KeptLeaves", "sets", "()I"⟩, 31), (⟨"KeptLeaves", "leastOf", "([II)I"⟩, 31), (⟨"KeptLeaves", "findInside", "()V"⟩, 31), (⟨"KeptLeaves", "missedOf", "(II)I"⟩, 31), (⟨"KeptLeaves", "keptBehind", "(I)I"⟩, 31), (⟨"KeptLeaves", "heldOf", "(I)I"⟩, 31), (⟨"KeptLeaves", "bestWithout", "(I)I"⟩, 31), (⟨"KeptLeaves", "meansFrom", "(IIJ)J"⟩, 31), (⟨"KeptLeaves", "carries", "(LKeptLeaves$Sheet;ILKeptLeaves$Sheet;II)V"⟩, 31), (⟨"KeptLeaves", "own", "(LKeptLeaves$Sheet;)LKeptLeaves$Sheet;"⟩, 31), (⟨"KeptLeaves", "rowsOfTurns", "(I)I"⟩, 31)]
theorem lw_r3 : ∀ q ∈ lw_privs_3, lw_okq q := List.forall_mem_cons.mpr ⟨lw_p32, List.forall_mem_cons.mpr ⟨lw_p33, List.forall_mem_cons.mpr ⟨lw_p34, List.forall_mem_cons.mpr ⟨lw_p35, List.forall_mem_cons.mpr ⟨lw_p36, List.forall_mem_cons.mpr ⟨lw_p37, List.forall_mem_cons.mpr ⟨lw_p38, List.forall_mem_cons.mpr ⟨lw_p39, List.forall_mem_cons.mpr ⟨lw_p40, List.forall_mem_cons.mpr ⟨lw_p41, List.forall_mem_cons.mpr ⟨lw_p42, List.forall_mem_cons.mpr ⟨lw_p43, List.forall_mem_cons.mpr ⟨lw_p44, List.forall_mem_cons.mpr ⟨lw_p45, List.forall_mem_cons.mpr ⟨lw_p46, List.forall_mem_cons.mpr ⟨lw_p47, fun _ h => absurd h List.not_mem_nil⟩⟩⟩⟩⟩⟩⟩⟩⟩⟩⟩⟩⟩⟩⟩⟩
theorem lw_p48 : lw_okq (⟨"KeptLeaves$State", "takesLeaf", "(ILKeptLeaves$Leaf;)V"⟩, 10) := ⟨⟨by decide +kernel, by decide +kernel⟩, lw_t1 (List.mem_of_getElem? (i := 37) rfl), lw_t6 (List.mem_of_getElem? (i := 6) rfl), lw_t6 (List.mem_of_getElem? (i := 7) rfl)⟩
theorem lw_p49 : lw_okq (⟨"KeptLeaves", "fullnessNow", "()I"⟩, 31) := ⟨⟨by decide +kernel, by decide +kernel⟩, lw_t1 (List.mem_of_getElem? (i := 29) rfl), lw_t6 (List.mem_of_getElem? (i := 27) rfl), lw_t6 (List.mem_of_getElem? (i := 28) rfl)⟩
theorem lw_p50 : lw_okq (⟨"KeptLeavesModel", "isLeaf", "(I)Z"⟩, 38) := ⟨⟨by decide +kernel, by decide +kernel⟩, lw_t6 (List.mem_of_getElem? (i := 31) rfl), lw_t6 (List.mem_of_getElem? (i := 163) rfl), lw_t6 (List.mem_of_getElem? (i := 164) rfl)⟩
theorem lw_p51 : lw_okq (⟨"KeptLeavesModel", "comes", "(IIII)V"⟩, 38) := ⟨⟨by decide +kernel, by decide +kernel⟩, lw_t6 (List.mem_of_getElem? (i := 31) rfl), lw_t6 (List.mem_of_getElem? (i := 169) rfl), lw_t6 (List.mem_of_getElem? (i := 170) rfl)⟩
theorem lw_p52 : lw_okq (⟨"KeptLeavesModel", "leafAt", "(I)I"⟩, 38) := ⟨⟨by decide +kernel, by decide +kernel⟩, lw_t6 (List.mem_of_getElem? (i := 31) rfl), lw_t6 (List.mem_of_getElem? (i := 173) rfl), lw_t6 (List.mem_of_getElem? (i := 174) rfl)⟩
theorem lw_p53 : lw_okq (⟨"KeptLeavesModel", "room", "(I)I"⟩, 38) := ⟨⟨by decide +kernel, by decide +kernel⟩, lw_t6 (List.mem_of_getElem? (i := 31) rfl), lw_t6 (List.mem_of_getElem? (i := 184) rfl), lw_t6 (List.mem_of_getElem? (i := 185) rfl)⟩
theorem lw_p54 : lw_okq (⟨"KeptLeavesModel", "plainRoom", "(I)I"⟩, 38) := ⟨⟨by decide +kernel, by decide +kernel⟩, lw_t6 (List.mem_of_getElem? (i := 31) rfl), lw_t6 (List.mem_of_getElem? (i := 188) rfl), lw_t6 (List.mem_of_getElem? (i := 189) rfl)⟩
theorem lw_p55 : lw_okq (⟨"KeptLeavesModel", "counts", "(I)I"⟩, 38) := ⟨⟨by decide +kernel, by decide +kernel⟩, lw_t6 (List.mem_of_getElem? (i := 31) rfl), lw_t6 (List.mem_of_getElem? (i := 192) rfl), lw_t6 (List.mem_of_getElem? (i := 193) rfl)⟩
theorem lw_p56 : lw_okq (⟨"KeptLeavesModel", "textAt", "(I)I"⟩, 38) := ⟨⟨by decide +kernel, by decide +kernel⟩, lw_t6 (List.mem_of_getElem? (i := 31) rfl), lw_t6 (List.mem_of_getElem? (i := 196) rfl), lw_t6 (List.mem_of_getElem? (i := 197) rfl)⟩
theorem lw_p57 : lw_okq (⟨"KeptLeavesModel", "worked", "(I)I"⟩, 38) := ⟨⟨by decide +kernel, by decide +kernel⟩, lw_t6 (List.mem_of_getElem? (i := 31) rfl), lw_t6 (List.mem_of_getElem? (i := 200) rfl), lw_t6 (List.mem_of_getElem? (i := 201) rfl)⟩
theorem lw_p58 : lw_okq (⟨"KeptLeavesModel", "miss", "(I)I"⟩, 38) := ⟨⟨by decide +kernel, by decide +kernel⟩, lw_t6 (List.mem_of_getElem? (i := 31) rfl), lw_t6 (List.mem_of_getElem? (i := 207) rfl), lw_t6 (List.mem_of_getElem? (i := 208) rfl)⟩
theorem lw_p59 : lw_okq (⟨"KeptLeavesModel", "leaners", "(I)I"⟩, 38) := ⟨⟨by decide +kernel, by decide +kernel⟩, lw_t6 (List.mem_of_getElem? (i := 31) rfl), lw_t6 (List.mem_of_getElem? (i := 211) rfl), lw_t6 (List.mem_of_getElem? (i := 212) rfl)⟩
theorem lw_p60 : lw_okq (⟨"KeptLeavesModel", "placeOf", "(I)I"⟩, 38) := ⟨⟨by decide +kernel, by decide +kernel⟩, lw_t6 (List.mem_of_getElem? (i := 31) rfl), lw_t6 (List.mem_of_getElem? (i := 215) rfl), lw_t6 (List.mem_of_getElem? (i := 216) rfl)⟩
theorem lw_p61 : lw_okq (⟨"KeptLeavesModel", "vaultBits", "()I"⟩, 38) := ⟨⟨by decide +kernel, by decide +kernel⟩, lw_t6 (List.mem_of_getElem? (i := 31) rfl), lw_t6 (List.mem_of_getElem? (i := 219) rfl), lw_t6 (List.mem_of_getElem? (i := 220) rfl)⟩
theorem lw_p62 : lw_okq (⟨"KeptLeavesModel", "isRead", "(II)Z"⟩, 38) := ⟨⟨by decide +kernel, by decide +kernel⟩, lw_t6 (List.mem_of_getElem? (i := 31) rfl), lw_t6 (List.mem_of_getElem? (i := 223) rfl), lw_t6 (List.mem_of_getElem? (i := 224) rfl)⟩
theorem lw_p63 : lw_okq (⟨"KeptLeavesModel", "worth", "(I)I"⟩, 38) := ⟨⟨by decide +kernel, by decide +kernel⟩, lw_t6 (List.mem_of_getElem? (i := 31) rfl), lw_t6 (List.mem_of_getElem? (i := 227) rfl), lw_t6 (List.mem_of_getElem? (i := 228) rfl)⟩
def lw_privs_4 : List (MethodName × Nat) := [(⟨"KeptLeaves$State", "takesLeaf", "(ILKeptLeaves$Leaf;)V"⟩, 10), (⟨"KeptLeaves", "fullnessNow", "()I"⟩, 31), (⟨"KeptLeavesModel", "isLeaf", "(I)Z"⟩, 38), (⟨"KeptLeavesModel", "comes", "(IIII)V"⟩, 38), (⟨"KeptLeavesModel", "leafAt", "(I)I"⟩, 38), (⟨"KeptLeavesModel", "room", "(I)I"⟩, 38), (⟨"KeptLeavesModel", "plainRoom", "(I)I"⟩, 38), (⟨"KeptLeavesModel", "counts", "(I)I"⟩, 38), (⟨"KeptLeavesModel", "textAt", "(I)I"⟩, 38), (⟨"KeptLeavesModel", "worked", "(I)I"⟩, 38), (⟨"KeptLeavesModel", "miss", "(I)I"⟩, 38), (⟨"KeptLeavesModel", "leaners", "(I)I"⟩, 38), (⟨"KeptLeavesModel", "placeOf", "(I)I"⟩, 38), (⟨"KeptLeavesModel", "vaultBits", "()I"⟩, 38), (⟨"KeptLeavesModel", "isRead", "(II)Z"⟩, 38), (⟨"KeptLeavesModel", "worth", "(I)I"⟩, 38)]
theorem lw_r4 : ∀ q ∈ lw_privs_4, lw_okq q := List.forall_mem_cons.mpr ⟨lw_p48, List.forall_mem_cons.mpr ⟨lw_p49, List.forall_mem_cons.mpr ⟨lw_p50, List.forall_mem_cons.mpr ⟨lw_p51, List.forall_mem_cons.mpr ⟨lw_p52, List.forall_mem_cons.mpr ⟨lw_p53, List.forall_mem_cons.mpr ⟨lw_p54, List.forall_mem_cons.mpr ⟨lw_p55, List.forall_mem_cons.mpr ⟨lw_p56, List.forall_mem_cons.mpr ⟨lw_p57, List.forall_mem_cons.mpr ⟨lw_p58, List.forall_mem_cons.mpr ⟨lw_p59, List.forall_mem_cons.mpr ⟨lw_p60, List.forall_mem_cons.mpr ⟨lw_p61, List.forall_mem_cons.mpr ⟨lw_p62, List.forall_mem_cons.mpr ⟨lw_p63, fun _ h => absurd h List.not_mem_nil⟩⟩⟩⟩⟩⟩⟩⟩⟩⟩⟩⟩⟩⟩⟩⟩
theorem lw_p64 : lw_okq (⟨"KeptLeavesModel", "becomes", "(II)I"⟩, 38) := ⟨⟨by decide +kernel, by decide +kernel⟩, lw_t6 (List.mem_of_getElem? (i := 31) rfl), lw_t7 (List.mem_of_getElem? (i := 3) rfl), lw_t7 (List.mem_of_getElem? (i := 4) rfl)⟩
theorem lw_p65 : lw_okq (⟨"KeptLeavesModel", "drawn", "()I"⟩, 38) := ⟨⟨by decide +kernel, by decide +kernel⟩, lw_t6 (List.mem_of_getElem? (i := 31) rfl), lw_t7 (List.mem_of_getElem? (i := 21) rfl), lw_t7 (List.mem_of_getElem? (i := 22) rfl)⟩
theorem lw_p66 : lw_okq (⟨"KeptLeavesModel", "knows", "()V"⟩, 38) := ⟨⟨by decide +kernel, by decide +kernel⟩, lw_t6 (List.mem_of_getElem? (i := 31) rfl), lw_t7 (List.mem_of_getElem? (i := 31) rfl), lw_t7 (List.mem_of_getElem? (i := 32) rfl)⟩
theorem lw_p67 : lw_okq (⟨"KeptLeavesModel", "throwsFor", "(I)I"⟩, 38) := ⟨⟨by decide +kernel, by decide +kernel⟩, lw_t6 (List.mem_of_getElem? (i := 31) rfl), lw_t7 (List.mem_of_getElem? (i := 35) rfl), lw_t7 (List.mem_of_getElem? (i := 36) rfl)⟩
theorem lw_p68 : lw_okq (⟨"KeptLeavesModel", "fullness", "()I"⟩, 38) := ⟨⟨by decide +kernel, by decide +kernel⟩, lw_t6 (List.mem_of_getElem? (i := 31) rfl), lw_t7 (List.mem_of_getElem? (i := 39) rfl), lw_t7 (List.mem_of_getElem? (i := 40) rfl)⟩
theorem lw_p69 : lw_okq (⟨"KeptLeavesModel", "goesFirst", "()I"⟩, 38) := ⟨⟨by decide +kernel, by decide +kernel⟩, lw_t6 (List.mem_of_getElem? (i := 31) rfl), lw_t7 (List.mem_of_getElem? (i := 43) rfl), lw_t7 (List.mem_of_getElem? (i := 44) rfl)⟩
theorem lw_p70 : lw_okq (⟨"KeptLeavesModel", "mayGo", "(I)Z"⟩, 38) := ⟨⟨by decide +kernel, by decide +kernel⟩, lw_t6 (List.mem_of_getElem? (i := 31) rfl), lw_t7 (List.mem_of_getElem? (i := 47) rfl), lw_t7 (List.mem_of_getElem? (i := 48) rfl)⟩
theorem lw_p71 : lw_okq (⟨"KeptLeavesModel", "isLeaned", "(I)Z"⟩, 38) := ⟨⟨by decide +kernel, by decide +kernel⟩, lw_t6 (List.mem_of_getElem? (i := 31) rfl), lw_t7 (List.mem_of_getElem? (i := 51) rfl), lw_t7 (List.mem_of_getElem? (i := 52) rfl)⟩
theorem lw_p72 : lw_okq (⟨"KeptLeavesModel", "speaks", "(I)I"⟩, 38) := ⟨⟨by decide +kernel, by decide +kernel⟩, lw_t6 (List.mem_of_getElem? (i := 31) rfl), lw_t7 (List.mem_of_getElem? (i := 55) rfl), lw_t7 (List.mem_of_getElem? (i := 56) rfl)⟩
theorem lw_p73 : lw_okq (⟨"KeptLeavesModel", "leaves", "(I)V"⟩, 38) := ⟨⟨by decide +kernel, by decide +kernel⟩, lw_t6 (List.mem_of_getElem? (i := 31) rfl), lw_t7 (List.mem_of_getElem? (i := 59) rfl), lw_t7 (List.mem_of_getElem? (i := 60) rfl)⟩
theorem lw_p74 : lw_okq (⟨"KeptLeavesModel", "asks", "(I)Z"⟩, 38) := ⟨⟨by decide +kernel, by decide +kernel⟩, lw_t6 (List.mem_of_getElem? (i := 31) rfl), lw_t7 (List.mem_of_getElem? (i := 76) rfl), lw_t7 (List.mem_of_getElem? (i := 77) rfl)⟩
theorem lw_p75 : lw_okq (⟨"KeptLeavesModel", "triesRow", "()I"⟩, 38) := ⟨⟨by decide +kernel, by decide +kernel⟩, lw_t6 (List.mem_of_getElem? (i := 31) rfl), lw_t7 (List.mem_of_getElem? (i := 119) rfl), lw_t7 (List.mem_of_getElem? (i := 120) rfl)⟩
theorem lw_p76 : lw_okq (⟨"KeptLeavesModel", "wouldCost", "(I)I"⟩, 38) := ⟨⟨by decide +kernel, by decide +kernel⟩, lw_t6 (List.mem_of_getElem? (i := 31) rfl), lw_t7 (List.mem_of_getElem? (i := 123) rfl), lw_t7 (List.mem_of_getElem? (i := 124) rfl)⟩
theorem lw_p77 : lw_okq (⟨"KeptLeavesModel", "knowsRooms", "()V"⟩, 38) := ⟨⟨by decide +kernel, by decide +kernel⟩, lw_t6 (List.mem_of_getElem? (i := 31) rfl), lw_t7 (List.mem_of_getElem? (i := 131) rfl), lw_t7 (List.mem_of_getElem? (i := 132) rfl)⟩
theorem lw_p78 : lw_okq (⟨"KeptLeavesModel", "sets", "()I"⟩, 38) := ⟨⟨by decide +kernel, by decide +kernel⟩, lw_t6 (List.mem_of_getElem? (i := 31) rfl), lw_t7 (List.mem_of_getElem? (i := 135) rfl), lw_t7 (List.mem_of_getElem? (i := 136) rfl)⟩
theorem lw_p79 : lw_okq (⟨"KeptLeavesModel", "leastOf", "(I)I"⟩, 38) := ⟨⟨by decide +kernel, by decide +kernel⟩, lw_t6 (List.mem_of_getElem? (i := 31) rfl), lw_t7 (List.mem_of_getElem? (i := 139) rfl), lw_t7 (List.mem_of_getElem? (i := 140) rfl)⟩
def lw_privs_5 : List (MethodName × Nat) := [(⟨"KeptLeavesModel", "becomes", "(II)I"⟩, 38), (⟨"KeptLeavesModel", "drawn", "()I"⟩, 38), (⟨"KeptLeavesModel", "knows", "()V"⟩, 38), (⟨"KeptLeavesModel", "throwsFor", "(I)I"⟩, 38), (⟨"KeptLeavesModel", "fullness", "()I"⟩, 38), (⟨"KeptLeavesModel", "goesFirst", "()I"⟩, 38), (⟨"KeptLeavesModel", "mayGo", "(I)Z"⟩, 38), (⟨"KeptLeavesModel", "isLeaned", "(I)Z"⟩, 38), (⟨"KeptLeavesModel", "speaks", "(I)I"⟩, 38), (⟨"KeptLeavesModel", "leaves", "(I)V"⟩, 38), (⟨"KeptLeavesModel", "asks", "(I)Z"⟩, 38), (⟨"KeptLeavesModel", "triesRow", "()I"⟩, 38), (⟨"KeptLeavesModel", "wouldCost", "(I)I"⟩, 38), (⟨"KeptLeavesModel", "knowsRooms", "()V"⟩, 38), (⟨"KeptLeavesModel", "sets", "()I"⟩, 38), (⟨"KeptLeavesModel", "leastOf", "(I)I"⟩, 38)]
theorem lw_r5 : ∀ q ∈ lw_privs_5, lw_okq q := List.forall_mem_cons.mpr ⟨lw_p64, List.forall_mem_cons.mpr ⟨lw_p65, List.forall_mem_cons.mpr ⟨lw_p66, List.forall_mem_cons.mpr ⟨lw_p67, List.forall_mem_cons.mpr ⟨lw_p68, List.forall_mem_cons.mpr ⟨lw_p69, List.forall_mem_cons.mpr ⟨lw_p70, List.forall_mem_cons.mpr ⟨lw_p71, List.forall_mem_cons.mpr ⟨lw_p72, List.forall_mem_cons.mpr ⟨lw_p73, List.forall_mem_cons.mpr ⟨lw_p74, List.forall_mem_cons.mpr ⟨lw_p75, List.forall_mem_cons.mpr ⟨lw_p76, List.forall_mem_cons.mpr ⟨lw_p77, List.forall_mem_cons.mpr ⟨lw_p78, List.forall_mem_cons.mpr ⟨lw_p79, fun _ h => absurd h List.not_mem_nil⟩⟩⟩⟩⟩⟩⟩⟩⟩⟩⟩⟩⟩⟩⟩⟩
theorem lw_p80 : lw_okq (⟨"KeptLeavesModel", "lookWithin", "()V"⟩, 38) := ⟨⟨by decide +kernel, by decide +kernel⟩, lw_t6 (List.mem_of_getElem? (i := 31) rfl), lw_t7 (List.mem_of_getElem? (i := 143) rfl), lw_t7 (List.mem_of_getElem? (i := 144) rfl)⟩
theorem lw_p81 : lw_okq (⟨"KeptLeavesModel", "heldBy", "(I)I"⟩, 38) := ⟨⟨by decide +kernel, by decide +kernel⟩, lw_t6 (List.mem_of_getElem? (i := 31) rfl), lw_t7 (List.mem_of_getElem? (i := 152) rfl), lw_t7 (List.mem_of_getElem? (i := 153) rfl)⟩
theorem lw_p82 : lw_okq (⟨"KeptLeavesModel", "bestWithout", "(I)I"⟩, 38) := ⟨⟨by decide +kernel, by decide +kernel⟩, lw_t6 (List.mem_of_getElem? (i := 31) rfl), lw_t7 (List.mem_of_getElem? (i := 160) rfl), lw_t7 (List.mem_of_getElem? (i := 161) rfl)⟩
theorem lw_p83 : lw_okq (⟨"KeptLeavesModel", "rowsOf", "(I)I"⟩, 38) := ⟨⟨by decide +kernel, by decide +kernel⟩, lw_t6 (List.mem_of_getElem? (i := 31) rfl), lw_t7 (List.mem_of_getElem? (i := 174) rfl), lw_t7 (List.mem_of_getElem? (i := 175) rfl)⟩
theorem lw_p84 : lw_okq (⟨"KeptLeavesModel", "laysRow", "(II)V"⟩, 38) := ⟨⟨by decide +kernel, by decide +kernel⟩, lw_t6 (List.mem_of_getElem? (i := 31) rfl), lw_t7 (List.mem_of_getElem? (i := 178) rfl), lw_t7 (List.mem_of_getElem? (i := 179) rfl)⟩
theorem lw_p85 : lw_okq (⟨"KeptLeavesModel", "parse", "()I"⟩, 38) := ⟨⟨by decide +kernel, by decide +kernel⟩, lw_t6 (List.mem_of_getElem? (i := 31) rfl), lw_t7 (List.mem_of_getElem? (i := 198) rfl), lw_t7 (List.mem_of_getElem? (i := 199) rfl)⟩
theorem lw_p86 : lw_okq (⟨"KeptLeavesModel", "nextToken", "()V"⟩, 38) := ⟨⟨by decide +kernel, by decide +kernel⟩, lw_t6 (List.mem_of_getElem? (i := 31) rfl), lw_t7 (List.mem_of_getElem? (i := 202) rfl), lw_t7 (List.mem_of_getElem? (i := 203) rfl)⟩
theorem lw_p87 : lw_okq (⟨"KeptLeavesModel", "isLetter", "(I)Z"⟩, 38) := ⟨⟨by decide +kernel, by decide +kernel⟩, lw_t6 (List.mem_of_getElem? (i := 31) rfl), lw_t7 (List.mem_of_getElem? (i := 206) rfl), lw_t7 (List.mem_of_getElem? (i := 207) rfl)⟩
theorem lw_p88 : lw_okq (⟨"KeptLeavesModel", "isDigit", "(I)Z"⟩, 38) := ⟨⟨by decide +kernel, by decide +kernel⟩, lw_t6 (List.mem_of_getElem? (i := 31) rfl), lw_t7 (List.mem_of_getElem? (i := 212) rfl), lw_t7 (List.mem_of_getElem? (i := 213) rfl)⟩
theorem lw_p89 : lw_okq (⟨"KeptLeavesModel", "key", "()I"⟩, 38) := ⟨⟨by decide +kernel, by decide +kernel⟩, lw_t6 (List.mem_of_getElem? (i := 31) rfl), lw_t7 (List.mem_of_getElem? (i := 218) rfl), lw_t7 (List.mem_of_getElem? (i := 219) rfl)⟩
theorem lw_p90 : lw_okq (⟨"KeptLeavesModel", "isWordAt", "(IIII)Z"⟩, 38) := ⟨⟨by decide +kernel, by decide +kernel⟩, lw_t6 (List.mem_of_getElem? (i := 31) rfl), lw_t7 (List.mem_of_getElem? (i := 222) rfl), lw_t7 (List.mem_of_getElem? (i := 223) rfl)⟩
theorem lw_p91 : lw_okq (⟨"KeptLeavesModel", "isLong", "(IIIIII)Z"⟩, 38) := ⟨⟨by decide +kernel, by decide +kernel⟩, lw_t6 (List.mem_of_getElem? (i := 31) rfl), lw_t7 (List.mem_of_getElem? (i := 226) rfl), lw_t7 (List.mem_of_getElem? (i := 227) rfl)⟩
theorem lw_p92 : lw_okq (⟨"KeptLeavesModel", "either", "(I)Z"⟩, 38) := ⟨⟨by decide +kernel, by decide +kernel⟩, lw_t6 (List.mem_of_getElem? (i := 31) rfl), lw_t7 (List.mem_of_getElem? (i := 230) rfl), lw_t7 (List.mem_of_getElem? (i := 231) rfl)⟩
theorem lw_p93 : lw_okq (⟨"KeptLeavesModel", "both", "(I)Z"⟩, 38) := ⟨⟨by decide +kernel, by decide +kernel⟩, lw_t6 (List.mem_of_getElem? (i := 31) rfl), lw_t7 (List.mem_of_getElem? (i := 234) rfl), lw_t7 (List.mem_of_getElem? (i := 235) rfl)⟩
theorem lw_p94 : lw_okq (⟨"KeptLeavesModel", "test", "(I)Z"⟩, 38) := ⟨⟨by decide +kernel, by decide +kernel⟩, lw_t6 (List.mem_of_getElem? (i := 31) rfl), lw_t7 (List.mem_of_getElem? (i := 238) rfl), lw_t7 (List.mem_of_getElem? (i := 239) rfl)⟩
theorem lw_p95 : lw_okq (⟨"KeptLeavesModel", "sum", "(I)Z"⟩, 38) := ⟨⟨by decide +kernel, by decide +kernel⟩, lw_t6 (List.mem_of_getElem? (i := 31) rfl), lw_t8 (List.mem_of_getElem? (i := 2) rfl), lw_t8 (List.mem_of_getElem? (i := 3) rfl)⟩
def lw_privs_6 : List (MethodName × Nat) := [(⟨"KeptLeavesModel", "lookWithin", "()V"⟩, 38), (⟨"KeptLeavesModel", "heldBy", "(I)I"⟩, 38), (⟨"KeptLeavesModel", "bestWithout", "(I)I"⟩, 38), (⟨"KeptLeavesModel", "rowsOf", "(I)I"⟩, 38), (⟨"KeptLeavesModel", "laysRow", "(II)V"⟩, 38), (⟨"KeptLeavesModel", "parse", "()I"⟩, 38), (⟨"KeptLeavesModel", "nextToken", "()V"⟩, 38), (⟨"KeptLeavesModel", "isLetter", "(I)Z"⟩, 38), (⟨"KeptLeavesModel", "isDigit", "(I)Z"⟩, 38), (⟨"KeptLeavesModel", "key", "()I"⟩, 38), (⟨"KeptLeavesModel", "isWordAt", "(IIII)Z"⟩, 38), (⟨"KeptLeavesModel", "isLong", "(IIIIII)Z"⟩, 38), (⟨"KeptLeavesModel", "either", "(I)Z"⟩, 38), (⟨"KeptLeavesModel", "both", "(I)Z"⟩, 38), (⟨"KeptLeavesModel", "test", "(I)Z"⟩, 38), (⟨"KeptLeavesModel", "sum", "(I)Z"⟩, 38)]
theorem lw_r6 : ∀ q ∈ lw_privs_6, lw_okq q := List.forall_mem_cons.mpr ⟨lw_p80, List.forall_mem_cons.mpr ⟨lw_p81, List.forall_mem_cons.mpr ⟨lw_p82, List.forall_mem_cons.mpr ⟨lw_p83, List.forall_mem_cons.mpr ⟨lw_p84, List.forall_mem_cons.mpr ⟨lw_p85, List.forall_mem_cons.mpr ⟨lw_p86, List.forall_mem_cons.mpr ⟨lw_p87, List.forall_mem_cons.mpr ⟨lw_p88, List.forall_mem_cons.mpr ⟨lw_p89, List.forall_mem_cons.mpr ⟨lw_p90, List.forall_mem_cons.mpr ⟨lw_p91, List.forall_mem_cons.mpr ⟨lw_p92, List.forall_mem_cons.mpr ⟨lw_p93, List.forall_mem_cons.mpr ⟨lw_p94, List.forall_mem_cons.mpr ⟨lw_p95, fun _ h => absurd h List.not_mem_nil⟩⟩⟩⟩⟩⟩⟩⟩⟩⟩⟩⟩⟩⟩⟩⟩
theorem lw_p96 : lw_okq (⟨"KeptLeavesModel", "term", "(I)Z"⟩, 38) := ⟨⟨by decide +kernel, by decide +kernel⟩, lw_t6 (List.mem_of_getElem? (i := 31) rfl), lw_t8 (List.mem_of_getElem? (i := 6) rfl), lw_t8 (List.mem_of_getElem? (i := 7) rfl)⟩
theorem lw_p97 : lw_okq (⟨"KeptLeavesModel", "part0", "(I)Z"⟩, 38) := ⟨⟨by decide +kernel, by decide +kernel⟩, lw_t6 (List.mem_of_getElem? (i := 31) rfl), lw_t8 (List.mem_of_getElem? (i := 10) rfl), lw_t8 (List.mem_of_getElem? (i := 11) rfl)⟩
theorem lw_p98 : lw_okq (⟨"KeptLeavesModel", "step", "(II)V"⟩, 38) := ⟨⟨by decide +kernel, by decide +kernel⟩, lw_t6 (List.mem_of_getElem? (i := 31) rfl), lw_t8 (List.mem_of_getElem? (i := 14) rfl), lw_t8 (List.mem_of_getElem? (i := 15) rfl)⟩
theorem lw_p99 : lw_okq (⟨"KeptLeavesModel", "isSign", "(I)Z"⟩, 38) := ⟨⟨by decide +kernel, by decide +kernel⟩, lw_t6 (List.mem_of_getElem? (i := 31) rfl), lw_t8 (List.mem_of_getElem? (i := 21) rfl), lw_t8 (List.mem_of_getElem? (i := 22) rfl)⟩
theorem lw_p100 : lw_okq (⟨"KeptLeavesModel", "isText", "(I)Z"⟩, 38) := ⟨⟨by decide +kernel, by decide +kernel⟩, lw_t6 (List.mem_of_getElem? (i := 31) rfl), lw_t8 (List.mem_of_getElem? (i := 29) rfl), lw_t8 (List.mem_of_getElem? (i := 30) rfl)⟩
theorem lw_p101 : lw_okq (⟨"KeptLeavesModel", "setAside", "([I[I)V"⟩, 38) := ⟨⟨by decide +kernel, by decide +kernel⟩, lw_t6 (List.mem_of_getElem? (i := 31) rfl), lw_t8 (List.mem_of_getElem? (i := 94) rfl), lw_t8 (List.mem_of_getElem? (i := 95) rfl)⟩
def lw_privs_7 : List (MethodName × Nat) := [(⟨"KeptLeavesModel", "term", "(I)Z"⟩, 38), (⟨"KeptLeavesModel", "part0", "(I)Z"⟩, 38), (⟨"KeptLeavesModel", "step", "(II)V"⟩, 38), (⟨"KeptLeavesModel", "isSign", "(I)Z"⟩, 38), (⟨"KeptLeavesModel", "isText", "(I)Z"⟩, 38), (⟨"KeptLeavesModel", "setAside", "([I[I)V"⟩, 38)]
theorem lw_r7 : ∀ q ∈ lw_privs_7, lw_okq q := List.forall_mem_cons.mpr ⟨lw_p96, List.forall_mem_cons.mpr ⟨lw_p97, List.forall_mem_cons.mpr ⟨lw_p98, List.forall_mem_cons.mpr ⟨lw_p99, List.forall_mem_cons.mpr ⟨lw_p100, List.forall_mem_cons.mpr ⟨lw_p101, fun _ h => absurd h List.not_mem_nil⟩⟩⟩⟩⟩⟩
def lw_privs : List (MethodName × Nat) := lw_privs_1 ++ (lw_privs_2 ++ (lw_privs_3 ++ (lw_privs_4 ++ (lw_privs_5 ++ (lw_privs_6 ++ (lw_privs_7))))))
def lw_tbl : List Cond := k2_sels lw_privs ++ tables_1
theorem lw_privs_ok : ∀ q ∈ lw_privs, lw_okq q := by
  show ∀ q ∈ lw_privs_1 ++ (lw_privs_2 ++ (lw_privs_3 ++ (lw_privs_4 ++ (lw_privs_5 ++ (lw_privs_6 ++ (lw_privs_7)))))), lw_okq q
  exact List.forall_mem_append.mpr ⟨lw_r1, List.forall_mem_append.mpr ⟨lw_r2, List.forall_mem_append.mpr ⟨lw_r3, List.forall_mem_append.mpr ⟨lw_r4, List.forall_mem_append.mpr ⟨lw_r5, List.forall_mem_append.mpr ⟨lw_r6, lw_r7⟩⟩⟩⟩⟩⟩
-- ===== ONE list of words for every method: the tables' words that hold all through a run =====
def lw_all : List Cond := lw_tbl.filter goodWord
/-- a word of the tables by its place: claim/WORDS.tsv -/
theorem lw_w {w : Cond} (i : Nat) (h : lw_tbl[i]? = some w) (g : goodWord w = true) : w ∈ lw_all := List.mem_filter.mpr ⟨List.mem_of_getElem? h, g⟩
theorem lw_all_tbl {w : Cond} (h : w ∈ lw_all) : w ∈ lw_tbl := (List.mem_filter.mp h).1
theorem lw_self : GoodIn lw_all lw_all := fun w h => ⟨h, good_of_word (List.mem_filter.mp h).2⟩
/-- a class's field words, by their places -/
theorem lw_in (ws : List Cond) (ps : List Nat) (hp : ws = ps.filterMap (fun i => lw_tbl[i]?)) (hg : ws.all goodWord = true) : ∀ w ∈ ws, w ∈ lw_all := by
  intro w h
  have h1 := List.all_eq_true.mp hg w h
  rw [hp] at h
  obtain ⟨i, -, hi⟩ := List.mem_filterMap.mp h
  exact lw_w i hi h1
/-- the words of a contract for the method y with code b, L locals, answer r -/
abbrev ws_ (y : MethodName) (b : ByteArray) (L : Nat) (r : Option FieldType) : List Cond := Cond.code y b L r :: lw_all
theorem lw_meth {y : MethodName} {b : ByteArray} {L : Nat} {r : Option FieldType} (h : Cond.code y b L r ∈ lw_all) : GoodIn lw_all (ws_ y b L r) := by
  intro w hw
  rcases List.mem_cons.mp hw with e | e
  · rw [e]
    exact lw_self _ h
  · exact lw_self _ e
theorem lw_app {a c : List Cond} (ha : ∀ w ∈ a, w ∈ lw_all) (hc : GoodIn lw_all c) : GoodIn lw_all (a ++ c) := by
  intro w hw
  rcases List.mem_append.mp hw with e | e
  · exact lw_self w (ha w e)
  · exact hc w e
/-- what a call through an object asks: cwV n hts (lw_V ..) -/
theorem lw_V {own : String} {idx : Nat} {C : String} {y : MethodName} {b : ByteArray} {L : Nat} {r : Option FieldType} (h1 : Cond.methodLink own idx y ∈ lw_all) (h2 : Cond.instanceMethod y ∈ lw_all) (h3 : Cond.selects C y y ∈ lw_all) (h4 : Cond.initialized C ∈ lw_all) (h5 : Cond.code y b L r ∈ lw_all) : GoodIn lw_all (wsV own idx C y (ws_ y b L r)) := by
  refine lw_app ?_ (lw_meth h5)
  intro w hw
  simp only [List.mem_cons, List.not_mem_nil, or_false] at hw
  rcases hw with e | e | e | e
  · rw [e]; exact h1
  · rw [e]; exact h2
  · rw [e]; exact h3
  · rw [e]; exact h4
/-- what a static call asks: va_cwS n hts (lw_S ..) -/
theorem lw_S {own : String} {idx : Nat} {y : MethodName} {b : ByteArray} {L : Nat} {r : Option FieldType} (h1 : Cond.methodLink own idx y ∈ lw_all) (h2 : Cond.static y ∈ lw_all) (h3 : Cond.initialized y.cls ∈ lw_all) (h4 : Cond.code y b L r ∈ lw_all) : GoodIn lw_all (va_wsS own idx y (ws_ y b L r)) := by
  refine lw_app ?_ (lw_meth h4)
  intro w hw
  simp only [List.mem_cons, List.not_mem_nil, or_false] at hw
  rcases hw with e | e | e
  · rw [e]; exact h1
  · rw [e]; exact h2
  · rw [e]; exact h3
/-- the words of a contract for a method WITH HANDLERS (hh: its table) -/
abbrev wsW_ (y : MethodName) (b : ByteArray) (L : Nat) (r : Option FieldType) (hh : List (Nat × Nat × Nat × Nat)) : List Cond := Cond.codeWith y b L r hh :: lw_all
theorem lw_methW {y : MethodName} {b : ByteArray} {L : Nat} {r : Option FieldType} {hh : List (Nat × Nat × Nat × Nat)} (h : Cond.codeWith y b L r hh ∈ lw_all) : GoodIn lw_all (wsW_ y b L r hh) := by
  intro w hw
  rcases List.mem_cons.mp hw with e | e
  · rw [e]
    exact lw_self _ h
  · exact lw_self _ e
/-- any list of words by their places (lw_in), good -/
theorem lw_good {ws : List Cond} (h : ∀ w ∈ ws, w ∈ lw_all) : GoodIn lw_all ws := fun w hw => lw_self w (h w hw)
/-- what a call of a method with handlers asks: vx_cwVW n hts (lw_VW ..), vx_cwSW n hts (lw_SW ..) -/
theorem lw_VW {own : String} {idx : Nat} {C : String} {y : MethodName} {b : ByteArray} {L : Nat} {r : Option FieldType} {hh : List (Nat × Nat × Nat × Nat)} (h1 : Cond.methodLink own idx y ∈ lw_all) (h2 : Cond.instanceMethod y ∈ lw_all) (h3 : Cond.selects C y y ∈ lw_all) (h4 : Cond.initialized C ∈ lw_all) (h5 : Cond.codeWith y b L r hh ∈ lw_all) : GoodIn lw_all (wsV own idx C y (wsW_ y b L r hh)) := by
  refine lw_app ?_ (lw_methW h5)
  intro w hw
  simp only [List.mem_cons, List.not_mem_nil, or_false] at hw
  rcases hw with e | e | e | e
  · rw [e]; exact h1
  · rw [e]; exact h2
  · rw [e]; exact h3
  · rw [e]; exact h4
theorem lw_SW {own : String} {idx : Nat} {y : MethodName} {b : ByteArray} {L : Nat} {r : Option FieldType} {hh : List (Nat × Nat × Nat × Nat)} (h1 : Cond.methodLink own idx y ∈ lw_all) (h2 : Cond.static y ∈ lw_all) (h3 : Cond.initialized y.cls ∈ lw_all) (h4 : Cond.codeWith y b L r hh ∈ lw_all) : GoodIn lw_all (va_wsS own idx y (wsW_ y b L r hh)) := by
  refine lw_app ?_ (lw_methW h4)
  intro w hw
  simp only [List.mem_cons, List.not_mem_nil, or_false] at hw
  rcases hw with e | e | e
  · rw [e]; exact h1
  · rw [e]; exact h2
  · rw [e]; exact h3
/-- a word by its place in its run of the tables -/
theorem lw_at {r : List Cond} (hr : ∀ w ∈ r, w ∈ lw_tbl) {w : Cond} (i : Nat) (h : r[i]? = some w) : w ∈ lw_tbl := hr w (List.mem_of_getElem? h)
theorem lw_g {w : Cond} (h : w ∈ lw_tbl) (g : goodWord w = true) : w ∈ lw_all := List.mem_filter.mpr ⟨h, g⟩
theorem lw_ms : ∀ w ∈ k2_sels lw_privs, w ∈ lw_tbl := fun w h => show w ∈ k2_sels lw_privs ++ tables_1 from List.mem_append_left _ h
theorem lw_m1 : ∀ w ∈ tables_1_1, w ∈ lw_tbl := fun w h => show w ∈ k2_sels lw_privs ++ tables_1 from List.mem_append_right (k2_sels lw_privs) (show w ∈ tables_1 from List.mem_append_left _ h)
theorem lw_m2 : ∀ w ∈ tables_1_2, w ∈ lw_tbl := fun w h => show w ∈ k2_sels lw_privs ++ tables_1 from List.mem_append_right (k2_sels lw_privs) (show w ∈ tables_1 from List.mem_append_right _ (List.mem_append_left _ h))
theorem lw_m3 : ∀ w ∈ tables_1_3, w ∈ lw_tbl := fun w h => show w ∈ k2_sels lw_privs ++ tables_1 from List.mem_append_right (k2_sels lw_privs) (show w ∈ tables_1 from List.mem_append_right _ (List.mem_append_right _ (List.mem_append_left _ h)))
theorem lw_m4 : ∀ w ∈ tables_1_4, w ∈ lw_tbl := fun w h => show w ∈ k2_sels lw_privs ++ tables_1 from List.mem_append_right (k2_sels lw_privs) (show w ∈ tables_1 from List.mem_append_right _ (List.mem_append_right _ (List.mem_append_right _ (List.mem_append_left _ h))))
theorem lw_m5 : ∀ w ∈ tables_1_5, w ∈ lw_tbl := fun w h => show w ∈ k2_sels lw_privs ++ tables_1 from List.mem_append_right (k2_sels lw_privs) (show w ∈ tables_1 from List.mem_append_right _ (List.mem_append_right _ (List.mem_append_right _ (List.mem_append_right _ (List.mem_append_left _ h)))))
theorem lw_m6 : ∀ w ∈ tables_1_6, w ∈ lw_tbl := fun w h => show w ∈ k2_sels lw_privs ++ tables_1 from List.mem_append_right (k2_sels lw_privs) (show w ∈ tables_1 from List.mem_append_right _ (List.mem_append_right _ (List.mem_append_right _ (List.mem_append_right _ (List.mem_append_right _ (List.mem_append_left _ h))))))
theorem lw_m7 : ∀ w ∈ tables_1_7, w ∈ lw_tbl := fun w h => show w ∈ k2_sels lw_privs ++ tables_1 from List.mem_append_right (k2_sels lw_privs) (show w ∈ tables_1 from List.mem_append_right _ (List.mem_append_right _ (List.mem_append_right _ (List.mem_append_right _ (List.mem_append_right _ (List.mem_append_right _ (List.mem_append_left _ h)))))))
theorem lw_m8 : ∀ w ∈ tables_1_8, w ∈ lw_tbl := fun w h => show w ∈ k2_sels lw_privs ++ tables_1 from List.mem_append_right (k2_sels lw_privs) (show w ∈ tables_1 from List.mem_append_right _ (List.mem_append_right _ (List.mem_append_right _ (List.mem_append_right _ (List.mem_append_right _ (List.mem_append_right _ (List.mem_append_right _ h)))))))
theorem qs0 : (Cond.selects "java/lang/Throwable" ⟨"java/lang/Throwable", "fillInStackTrace", "(I)Ljava/lang/Throwable;"⟩ ⟨"java/lang/Throwable", "fillInStackTrace", "(I)Ljava/lang/Throwable;"⟩) ∈ lw_all := lw_g (lw_at lw_ms 0 rfl) rfl
theorem qs1 : (Cond.selects "KeptLeaves" ⟨"KeptLeaves", "four", "(I)V"⟩ ⟨"KeptLeaves", "four", "(I)V"⟩) ∈ lw_all := lw_g (lw_at lw_ms 1 rfl) rfl
theorem qs2 : (Cond.selects "KeptLeaves" ⟨"KeptLeaves", "textRead", "()LKeptLeaves$Text;"⟩ ⟨"KeptLeaves", "textRead", "()LKeptLeaves$Text;"⟩) ∈ lw_all := lw_g (lw_at lw_ms 2 rfl) rfl
theorem qs3 : (Cond.selects "KeptLeaves" ⟨"KeptLeaves", "goes", "()V"⟩ ⟨"KeptLeaves", "goes", "()V"⟩) ∈ lw_all := lw_g (lw_at lw_ms 3 rfl) rfl
theorem qs4 : (Cond.selects "KeptLeaves" ⟨"KeptLeaves", "wrong", "()V"⟩ ⟨"KeptLeaves", "wrong", "()V"⟩) ∈ lw_all := lw_g (lw_at lw_ms 4 rfl) rfl
theorem qs5 : (Cond.selects "KeptLeaves" ⟨"KeptLeaves", "key", "()I"⟩ ⟨"KeptLeaves", "key", "()I"⟩) ∈ lw_all := lw_g (lw_at lw_ms 5 rfl) rfl
theorem qs6 : (Cond.selects "KeptLeaves" ⟨"KeptLeaves", "isWord", "(Ljava/lang/String;)Z"⟩ ⟨"KeptLeaves", "isWord", "(Ljava/lang/String;)Z"⟩) ∈ lw_all := lw_g (lw_at lw_ms 6 rfl) rfl
theorem qs7 : (Cond.selects "KeptLeaves" ⟨"KeptLeaves", "expression", "()LKeptLeaves$Words;"⟩ ⟨"KeptLeaves", "expression", "()LKeptLeaves$Words;"⟩) ∈ lw_all := lw_g (lw_at lw_ms 7 rfl) rfl
theorem qs8 : (Cond.selects "KeptLeaves" ⟨"KeptLeaves", "or", "(LKeptLeaves$Words;)V"⟩ ⟨"KeptLeaves", "or", "(LKeptLeaves$Words;)V"⟩) ∈ lw_all := lw_g (lw_at lw_ms 8 rfl) rfl
theorem qs9 : (Cond.selects "KeptLeaves" ⟨"KeptLeaves", "and", "(LKeptLeaves$Words;)V"⟩ ⟨"KeptLeaves", "and", "(LKeptLeaves$Words;)V"⟩) ∈ lw_all := lw_g (lw_at lw_ms 9 rfl) rfl
theorem qs10 : (Cond.selects "KeptLeaves" ⟨"KeptLeaves", "test", "(LKeptLeaves$Words;)V"⟩ ⟨"KeptLeaves", "test", "(LKeptLeaves$Words;)V"⟩) ∈ lw_all := lw_g (lw_at lw_ms 10 rfl) rfl
theorem qs11 : (Cond.selects "KeptLeaves" ⟨"KeptLeaves", "sum", "(LKeptLeaves$Words;)V"⟩ ⟨"KeptLeaves", "sum", "(LKeptLeaves$Words;)V"⟩) ∈ lw_all := lw_g (lw_at lw_ms 11 rfl) rfl
theorem qs12 : (Cond.selects "KeptLeaves" ⟨"KeptLeaves", "term", "(LKeptLeaves$Words;)V"⟩ ⟨"KeptLeaves", "term", "(LKeptLeaves$Words;)V"⟩) ∈ lw_all := lw_g (lw_at lw_ms 12 rfl) rfl
theorem qs13 : (Cond.selects "KeptLeaves" ⟨"KeptLeaves", "piece", "(LKeptLeaves$Words;)V"⟩ ⟨"KeptLeaves", "piece", "(LKeptLeaves$Words;)V"⟩) ∈ lw_all := lw_g (lw_at lw_ms 13 rfl) rfl
theorem qs14 : (Cond.selects "KeptLeaves" ⟨"KeptLeaves", "isSign", "(I)Z"⟩ ⟨"KeptLeaves", "isSign", "(I)Z"⟩) ∈ lw_all := lw_g (lw_at lw_ms 14 rfl) rfl
theorem qs15 : (Cond.selects "KeptLeaves" ⟨"KeptLeaves", "number", "()I"⟩ ⟨"KeptLeaves", "number", "()I"⟩) ∈ lw_all := lw_g (lw_at lw_ms 15 rfl) rfl
theorem qs16 : (Cond.selects "KeptLeaves" ⟨"KeptLeaves", "isName", "(I)Z"⟩ ⟨"KeptLeaves", "isName", "(I)Z"⟩) ∈ lw_all := lw_g (lw_at lw_ms 16 rfl) rfl
theorem qs17 : (Cond.selects "KeptLeaves" ⟨"KeptLeaves", "counts", "(I)I"⟩ ⟨"KeptLeaves", "counts", "(I)I"⟩) ∈ lw_all := lw_g (lw_at lw_ms 17 rfl) rfl
theorem qs18 : (Cond.selects "KeptLeaves" ⟨"KeptLeaves", "isLeaf", "(I)Z"⟩ ⟨"KeptLeaves", "isLeaf", "(I)Z"⟩) ∈ lw_all := lw_g (lw_at lw_ms 18 rfl) rfl
theorem qs19 : (Cond.selects "KeptLeaves" ⟨"KeptLeaves", "comes", "(IIII)I"⟩ ⟨"KeptLeaves", "comes", "(IIII)I"⟩) ∈ lw_all := lw_g (lw_at lw_ms 19 rfl) rfl
theorem qs20 : (Cond.selects "KeptLeaves" ⟨"KeptLeaves", "learns", "()V"⟩ ⟨"KeptLeaves", "learns", "()V"⟩) ∈ lw_all := lw_g (lw_at lw_ms 20 rfl) rfl
theorem qs21 : (Cond.selects "KeptLeaves" ⟨"KeptLeaves", "roomOf", "(I)I"⟩ ⟨"KeptLeaves", "roomOf", "(I)I"⟩) ∈ lw_all := lw_g (lw_at lw_ms 21 rfl) rfl
theorem qs22 : (Cond.selects "KeptLeaves" ⟨"KeptLeaves", "reckon", "(LKeptLeaves$Words;)I"⟩ ⟨"KeptLeaves", "reckon", "(LKeptLeaves$Words;)I"⟩) ∈ lw_all := lw_g (lw_at lw_ms 22 rfl) rfl
theorem qs23 : (Cond.selects "KeptLeaves" ⟨"KeptLeaves", "missOf", "(I)I"⟩ ⟨"KeptLeaves", "missOf", "(I)I"⟩) ∈ lw_all := lw_g (lw_at lw_ms 23 rfl) rfl
theorem qs24 : (Cond.selects "KeptLeaves" ⟨"KeptLeaves", "leaningOn", "(I)I"⟩ ⟨"KeptLeaves", "leaningOn", "(I)I"⟩) ∈ lw_all := lw_g (lw_at lw_ms 24 rfl) rfl
theorem qs25 : (Cond.selects "KeptLeaves" ⟨"KeptLeaves", "isRead", "(II)Z"⟩ ⟨"KeptLeaves", "isRead", "(II)Z"⟩) ∈ lw_all := lw_g (lw_at lw_ms 25 rfl) rfl
theorem qs26 : (Cond.selects "KeptLeaves" ⟨"KeptLeaves", "throwsDownTo", "(I)I"⟩ ⟨"KeptLeaves", "throwsDownTo", "(I)I"⟩) ∈ lw_all := lw_g (lw_at lw_ms 26 rfl) rfl
theorem qs27 : (Cond.selects "KeptLeaves" ⟨"KeptLeaves", "fullness", "()I"⟩ ⟨"KeptLeaves", "fullness", "()I"⟩) ∈ lw_all := lw_g (lw_at lw_ms 27 rfl) rfl
theorem qs28 : (Cond.selects "KeptLeaves" ⟨"KeptLeaves", "chosen", "()I"⟩ ⟨"KeptLeaves", "chosen", "()I"⟩) ∈ lw_all := lw_g (lw_at lw_ms 28 rfl) rfl
theorem qs29 : (Cond.selects "KeptLeaves" ⟨"KeptLeaves", "byLot", "()I"⟩ ⟨"KeptLeaves", "byLot", "()I"⟩) ∈ lw_all := lw_g (lw_at lw_ms 29 rfl) rfl
theorem qs30 : (Cond.selects "KeptLeaves" ⟨"KeptLeaves", "isLooked", "(I)Z"⟩ ⟨"KeptLeaves", "isLooked", "(I)Z"⟩) ∈ lw_all := lw_g (lw_at lw_ms 30 rfl) rfl
theorem qs31 : (Cond.selects "KeptLeaves" ⟨"KeptLeaves", "isLeaned", "(I)Z"⟩ ⟨"KeptLeaves", "isLeaned", "(I)Z"⟩) ∈ lw_all := lw_g (lw_at lw_ms 31 rfl) rfl
theorem qs32 : (Cond.selects "KeptLeaves" ⟨"KeptLeaves", "goesBy", "(II)I"⟩ ⟨"KeptLeaves", "goesBy", "(II)I"⟩) ∈ lw_all := lw_g (lw_at lw_ms 32 rfl) rfl
theorem qs33 : (Cond.selects "KeptLeaves" ⟨"KeptLeaves", "isFound", "(I)Z"⟩ ⟨"KeptLeaves", "isFound", "(I)Z"⟩) ∈ lw_all := lw_g (lw_at lw_ms 33 rfl) rfl
theorem qs34 : (Cond.selects "KeptLeaves" ⟨"KeptLeaves", "goesThrough", "([II)I"⟩ ⟨"KeptLeaves", "goesThrough", "([II)I"⟩) ∈ lw_all := lw_g (lw_at lw_ms 34 rfl) rfl
theorem qs35 : (Cond.selects "KeptLeaves" ⟨"KeptLeaves", "thought", "([II)I"⟩ ⟨"KeptLeaves", "thought", "([II)I"⟩) ∈ lw_all := lw_g (lw_at lw_ms 35 rfl) rfl
theorem qs36 : (Cond.selects "KeptLeaves" ⟨"KeptLeaves", "findFits", "()V"⟩ ⟨"KeptLeaves", "findFits", "()V"⟩) ∈ lw_all := lw_g (lw_at lw_ms 36 rfl) rfl
theorem qs37 : (Cond.selects "KeptLeaves" ⟨"KeptLeaves", "sets", "()I"⟩ ⟨"KeptLeaves", "sets", "()I"⟩) ∈ lw_all := lw_g (lw_at lw_ms 37 rfl) rfl
theorem qs38 : (Cond.selects "KeptLeaves" ⟨"KeptLeaves", "leastOf", "([II)I"⟩ ⟨"KeptLeaves", "leastOf", "([II)I"⟩) ∈ lw_all := lw_g (lw_at lw_ms 38 rfl) rfl
theorem qs39 : (Cond.selects "KeptLeaves" ⟨"KeptLeaves", "findInside", "()V"⟩ ⟨"KeptLeaves", "findInside", "()V"⟩) ∈ lw_all := lw_g (lw_at lw_ms 39 rfl) rfl
theorem qs40 : (Cond.selects "KeptLeaves" ⟨"KeptLeaves", "missedOf", "(II)I"⟩ ⟨"KeptLeaves", "missedOf", "(II)I"⟩) ∈ lw_all := lw_g (lw_at lw_ms 40 rfl) rfl
theorem qs41 : (Cond.selects "KeptLeaves" ⟨"KeptLeaves", "keptBehind", "(I)I"⟩ ⟨"KeptLeaves", "keptBehind", "(I)I"⟩) ∈ lw_all := lw_g (lw_at lw_ms 41 rfl) rfl
theorem qs42 : (Cond.selects "KeptLeaves" ⟨"KeptLeaves", "heldOf", "(I)I"⟩ ⟨"KeptLeaves", "heldOf", "(I)I"⟩) ∈ lw_all := lw_g (lw_at lw_ms 42 rfl) rfl
theorem qs43 : (Cond.selects "KeptLeaves" ⟨"KeptLeaves", "bestWithout", "(I)I"⟩ ⟨"KeptLeaves", "bestWithout", "(I)I"⟩) ∈ lw_all := lw_g (lw_at lw_ms 43 rfl) rfl
theorem qs44 : (Cond.selects "KeptLeaves" ⟨"KeptLeaves", "meansFrom", "(IIJ)J"⟩ ⟨"KeptLeaves", "meansFrom", "(IIJ)J"⟩) ∈ lw_all := lw_g (lw_at lw_ms 44 rfl) rfl
theorem qs45 : (Cond.selects "KeptLeaves" ⟨"KeptLeaves", "carries", "(LKeptLeaves$Sheet;ILKeptLeaves$Sheet;II)V"⟩ ⟨"KeptLeaves", "carries", "(LKeptLeaves$Sheet;ILKeptLeaves$Sheet;II)V"⟩) ∈ lw_all := lw_g (lw_at lw_ms 45 rfl) rfl
theorem qs46 : (Cond.selects "KeptLeaves" ⟨"KeptLeaves", "own", "(LKeptLeaves$Sheet;)LKeptLeaves$Sheet;"⟩ ⟨"KeptLeaves", "own", "(LKeptLeaves$Sheet;)LKeptLeaves$Sheet;"⟩) ∈ lw_all := lw_g (lw_at lw_ms 46 rfl) rfl
theorem qs47 : (Cond.selects "KeptLeaves" ⟨"KeptLeaves", "rowsOfTurns", "(I)I"⟩ ⟨"KeptLeaves", "rowsOfTurns", "(I)I"⟩) ∈ lw_all := lw_g (lw_at lw_ms 47 rfl) rfl
theorem qs48 : (Cond.selects "KeptLeaves$State" ⟨"KeptLeaves$State", "takesLeaf", "(ILKeptLeaves$Leaf;)V"⟩ ⟨"KeptLeaves$State", "takesLeaf", "(ILKeptLeaves$Leaf;)V"⟩) ∈ lw_all := lw_g (lw_at lw_ms 48 rfl) rfl
theorem qs49 : (Cond.selects "KeptLeaves" ⟨"KeptLeaves", "fullnessNow", "()I"⟩ ⟨"KeptLeaves", "fullnessNow", "()I"⟩) ∈ lw_all := lw_g (lw_at lw_ms 49 rfl) rfl
theorem qs50 : (Cond.selects "KeptLeavesModel" ⟨"KeptLeavesModel", "isLeaf", "(I)Z"⟩ ⟨"KeptLeavesModel", "isLeaf", "(I)Z"⟩) ∈ lw_all := lw_g (lw_at lw_ms 50 rfl) rfl
theorem qs51 : (Cond.selects "KeptLeavesModel" ⟨"KeptLeavesModel", "comes", "(IIII)V"⟩ ⟨"KeptLeavesModel", "comes", "(IIII)V"⟩) ∈ lw_all := lw_g (lw_at lw_ms 51 rfl) rfl
theorem qs52 : (Cond.selects "KeptLeavesModel" ⟨"KeptLeavesModel", "leafAt", "(I)I"⟩ ⟨"KeptLeavesModel", "leafAt", "(I)I"⟩) ∈ lw_all := lw_g (lw_at lw_ms 52 rfl) rfl
theorem qs53 : (Cond.selects "KeptLeavesModel" ⟨"KeptLeavesModel", "room", "(I)I"⟩ ⟨"KeptLeavesModel", "room", "(I)I"⟩) ∈ lw_all := lw_g (lw_at lw_ms 53 rfl) rfl
theorem qs54 : (Cond.selects "KeptLeavesModel" ⟨"KeptLeavesModel", "plainRoom", "(I)I"⟩ ⟨"KeptLeavesModel", "plainRoom", "(I)I"⟩) ∈ lw_all := lw_g (lw_at lw_ms 54 rfl) rfl
theorem qs55 : (Cond.selects "KeptLeavesModel" ⟨"KeptLeavesModel", "counts", "(I)I"⟩ ⟨"KeptLeavesModel", "counts", "(I)I"⟩) ∈ lw_all := lw_g (lw_at lw_ms 55 rfl) rfl
theorem qs56 : (Cond.selects "KeptLeavesModel" ⟨"KeptLeavesModel", "textAt", "(I)I"⟩ ⟨"KeptLeavesModel", "textAt", "(I)I"⟩) ∈ lw_all := lw_g (lw_at lw_ms 56 rfl) rfl
theorem qs57 : (Cond.selects "KeptLeavesModel" ⟨"KeptLeavesModel", "worked", "(I)I"⟩ ⟨"KeptLeavesModel", "worked", "(I)I"⟩) ∈ lw_all := lw_g (lw_at lw_ms 57 rfl) rfl
theorem qs58 : (Cond.selects "KeptLeavesModel" ⟨"KeptLeavesModel", "miss", "(I)I"⟩ ⟨"KeptLeavesModel", "miss", "(I)I"⟩) ∈ lw_all := lw_g (lw_at lw_ms 58 rfl) rfl
theorem qs59 : (Cond.selects "KeptLeavesModel" ⟨"KeptLeavesModel", "leaners", "(I)I"⟩ ⟨"KeptLeavesModel", "leaners", "(I)I"⟩) ∈ lw_all := lw_g (lw_at lw_ms 59 rfl) rfl
theorem qs60 : (Cond.selects "KeptLeavesModel" ⟨"KeptLeavesModel", "placeOf", "(I)I"⟩ ⟨"KeptLeavesModel", "placeOf", "(I)I"⟩) ∈ lw_all := lw_g (lw_at lw_ms 60 rfl) rfl
theorem qs61 : (Cond.selects "KeptLeavesModel" ⟨"KeptLeavesModel", "vaultBits", "()I"⟩ ⟨"KeptLeavesModel", "vaultBits", "()I"⟩) ∈ lw_all := lw_g (lw_at lw_ms 61 rfl) rfl
theorem qs62 : (Cond.selects "KeptLeavesModel" ⟨"KeptLeavesModel", "isRead", "(II)Z"⟩ ⟨"KeptLeavesModel", "isRead", "(II)Z"⟩) ∈ lw_all := lw_g (lw_at lw_ms 62 rfl) rfl
theorem qs63 : (Cond.selects "KeptLeavesModel" ⟨"KeptLeavesModel", "worth", "(I)I"⟩ ⟨"KeptLeavesModel", "worth", "(I)I"⟩) ∈ lw_all := lw_g (lw_at lw_ms 63 rfl) rfl
theorem qs64 : (Cond.selects "KeptLeavesModel" ⟨"KeptLeavesModel", "becomes", "(II)I"⟩ ⟨"KeptLeavesModel", "becomes", "(II)I"⟩) ∈ lw_all := lw_g (lw_at lw_ms 64 rfl) rfl
theorem qs65 : (Cond.selects "KeptLeavesModel" ⟨"KeptLeavesModel", "drawn", "()I"⟩ ⟨"KeptLeavesModel", "drawn", "()I"⟩) ∈ lw_all := lw_g (lw_at lw_ms 65 rfl) rfl
theorem qs66 : (Cond.selects "KeptLeavesModel" ⟨"KeptLeavesModel", "knows", "()V"⟩ ⟨"KeptLeavesModel", "knows", "()V"⟩) ∈ lw_all := lw_g (lw_at lw_ms 66 rfl) rfl
theorem qs67 : (Cond.selects "KeptLeavesModel" ⟨"KeptLeavesModel", "throwsFor", "(I)I"⟩ ⟨"KeptLeavesModel", "throwsFor", "(I)I"⟩) ∈ lw_all := lw_g (lw_at lw_ms 67 rfl) rfl
theorem qs68 : (Cond.selects "KeptLeavesModel" ⟨"KeptLeavesModel", "fullness", "()I"⟩ ⟨"KeptLeavesModel", "fullness", "()I"⟩) ∈ lw_all := lw_g (lw_at lw_ms 68 rfl) rfl
theorem qs69 : (Cond.selects "KeptLeavesModel" ⟨"KeptLeavesModel", "goesFirst", "()I"⟩ ⟨"KeptLeavesModel", "goesFirst", "()I"⟩) ∈ lw_all := lw_g (lw_at lw_ms 69 rfl) rfl
theorem qs70 : (Cond.selects "KeptLeavesModel" ⟨"KeptLeavesModel", "mayGo", "(I)Z"⟩ ⟨"KeptLeavesModel", "mayGo", "(I)Z"⟩) ∈ lw_all := lw_g (lw_at lw_ms 70 rfl) rfl
theorem qs71 : (Cond.selects "KeptLeavesModel" ⟨"KeptLeavesModel", "isLeaned", "(I)Z"⟩ ⟨"KeptLeavesModel", "isLeaned", "(I)Z"⟩) ∈ lw_all := lw_g (lw_at lw_ms 71 rfl) rfl
theorem qs72 : (Cond.selects "KeptLeavesModel" ⟨"KeptLeavesModel", "speaks", "(I)I"⟩ ⟨"KeptLeavesModel", "speaks", "(I)I"⟩) ∈ lw_all := lw_g (lw_at lw_ms 72 rfl) rfl
theorem qs73 : (Cond.selects "KeptLeavesModel" ⟨"KeptLeavesModel", "leaves", "(I)V"⟩ ⟨"KeptLeavesModel", "leaves", "(I)V"⟩) ∈ lw_all := lw_g (lw_at lw_ms 73 rfl) rfl
theorem qs74 : (Cond.selects "KeptLeavesModel" ⟨"KeptLeavesModel", "asks", "(I)Z"⟩ ⟨"KeptLeavesModel", "asks", "(I)Z"⟩) ∈ lw_all := lw_g (lw_at lw_ms 74 rfl) rfl
theorem qs75 : (Cond.selects "KeptLeavesModel" ⟨"KeptLeavesModel", "triesRow", "()I"⟩ ⟨"KeptLeavesModel", "triesRow", "()I"⟩) ∈ lw_all := lw_g (lw_at lw_ms 75 rfl) rfl
theorem qs76 : (Cond.selects "KeptLeavesModel" ⟨"KeptLeavesModel", "wouldCost", "(I)I"⟩ ⟨"KeptLeavesModel", "wouldCost", "(I)I"⟩) ∈ lw_all := lw_g (lw_at lw_ms 76 rfl) rfl
theorem qs77 : (Cond.selects "KeptLeavesModel" ⟨"KeptLeavesModel", "knowsRooms", "()V"⟩ ⟨"KeptLeavesModel", "knowsRooms", "()V"⟩) ∈ lw_all := lw_g (lw_at lw_ms 77 rfl) rfl
theorem qs78 : (Cond.selects "KeptLeavesModel" ⟨"KeptLeavesModel", "sets", "()I"⟩ ⟨"KeptLeavesModel", "sets", "()I"⟩) ∈ lw_all := lw_g (lw_at lw_ms 78 rfl) rfl
theorem qs79 : (Cond.selects "KeptLeavesModel" ⟨"KeptLeavesModel", "leastOf", "(I)I"⟩ ⟨"KeptLeavesModel", "leastOf", "(I)I"⟩) ∈ lw_all := lw_g (lw_at lw_ms 79 rfl) rfl
theorem qs80 : (Cond.selects "KeptLeavesModel" ⟨"KeptLeavesModel", "lookWithin", "()V"⟩ ⟨"KeptLeavesModel", "lookWithin", "()V"⟩) ∈ lw_all := lw_g (lw_at lw_ms 80 rfl) rfl
theorem qs81 : (Cond.selects "KeptLeavesModel" ⟨"KeptLeavesModel", "heldBy", "(I)I"⟩ ⟨"KeptLeavesModel", "heldBy", "(I)I"⟩) ∈ lw_all := lw_g (lw_at lw_ms 81 rfl) rfl
theorem qs82 : (Cond.selects "KeptLeavesModel" ⟨"KeptLeavesModel", "bestWithout", "(I)I"⟩ ⟨"KeptLeavesModel", "bestWithout", "(I)I"⟩) ∈ lw_all := lw_g (lw_at lw_ms 82 rfl) rfl
theorem qs83 : (Cond.selects "KeptLeavesModel" ⟨"KeptLeavesModel", "rowsOf", "(I)I"⟩ ⟨"KeptLeavesModel", "rowsOf", "(I)I"⟩) ∈ lw_all := lw_g (lw_at lw_ms 83 rfl) rfl
theorem qs84 : (Cond.selects "KeptLeavesModel" ⟨"KeptLeavesModel", "laysRow", "(II)V"⟩ ⟨"KeptLeavesModel", "laysRow", "(II)V"⟩) ∈ lw_all := lw_g (lw_at lw_ms 84 rfl) rfl
theorem qs85 : (Cond.selects "KeptLeavesModel" ⟨"KeptLeavesModel", "parse", "()I"⟩ ⟨"KeptLeavesModel", "parse", "()I"⟩) ∈ lw_all := lw_g (lw_at lw_ms 85 rfl) rfl
theorem qs86 : (Cond.selects "KeptLeavesModel" ⟨"KeptLeavesModel", "nextToken", "()V"⟩ ⟨"KeptLeavesModel", "nextToken", "()V"⟩) ∈ lw_all := lw_g (lw_at lw_ms 86 rfl) rfl
theorem qs87 : (Cond.selects "KeptLeavesModel" ⟨"KeptLeavesModel", "isLetter", "(I)Z"⟩ ⟨"KeptLeavesModel", "isLetter", "(I)Z"⟩) ∈ lw_all := lw_g (lw_at lw_ms 87 rfl) rfl
theorem qs88 : (Cond.selects "KeptLeavesModel" ⟨"KeptLeavesModel", "isDigit", "(I)Z"⟩ ⟨"KeptLeavesModel", "isDigit", "(I)Z"⟩) ∈ lw_all := lw_g (lw_at lw_ms 88 rfl) rfl
theorem qs89 : (Cond.selects "KeptLeavesModel" ⟨"KeptLeavesModel", "key", "()I"⟩ ⟨"KeptLeavesModel", "key", "()I"⟩) ∈ lw_all := lw_g (lw_at lw_ms 89 rfl) rfl
theorem qs90 : (Cond.selects "KeptLeavesModel" ⟨"KeptLeavesModel", "isWordAt", "(IIII)Z"⟩ ⟨"KeptLeavesModel", "isWordAt", "(IIII)Z"⟩) ∈ lw_all := lw_g (lw_at lw_ms 90 rfl) rfl
theorem qs91 : (Cond.selects "KeptLeavesModel" ⟨"KeptLeavesModel", "isLong", "(IIIIII)Z"⟩ ⟨"KeptLeavesModel", "isLong", "(IIIIII)Z"⟩) ∈ lw_all := lw_g (lw_at lw_ms 91 rfl) rfl
theorem qs92 : (Cond.selects "KeptLeavesModel" ⟨"KeptLeavesModel", "either", "(I)Z"⟩ ⟨"KeptLeavesModel", "either", "(I)Z"⟩) ∈ lw_all := lw_g (lw_at lw_ms 92 rfl) rfl
theorem qs93 : (Cond.selects "KeptLeavesModel" ⟨"KeptLeavesModel", "both", "(I)Z"⟩ ⟨"KeptLeavesModel", "both", "(I)Z"⟩) ∈ lw_all := lw_g (lw_at lw_ms 93 rfl) rfl
theorem qs94 : (Cond.selects "KeptLeavesModel" ⟨"KeptLeavesModel", "test", "(I)Z"⟩ ⟨"KeptLeavesModel", "test", "(I)Z"⟩) ∈ lw_all := lw_g (lw_at lw_ms 94 rfl) rfl
theorem qs95 : (Cond.selects "KeptLeavesModel" ⟨"KeptLeavesModel", "sum", "(I)Z"⟩ ⟨"KeptLeavesModel", "sum", "(I)Z"⟩) ∈ lw_all := lw_g (lw_at lw_ms 95 rfl) rfl
theorem qs96 : (Cond.selects "KeptLeavesModel" ⟨"KeptLeavesModel", "term", "(I)Z"⟩ ⟨"KeptLeavesModel", "term", "(I)Z"⟩) ∈ lw_all := lw_g (lw_at lw_ms 96 rfl) rfl
theorem qs97 : (Cond.selects "KeptLeavesModel" ⟨"KeptLeavesModel", "part0", "(I)Z"⟩ ⟨"KeptLeavesModel", "part0", "(I)Z"⟩) ∈ lw_all := lw_g (lw_at lw_ms 97 rfl) rfl
theorem qs98 : (Cond.selects "KeptLeavesModel" ⟨"KeptLeavesModel", "step", "(II)V"⟩ ⟨"KeptLeavesModel", "step", "(II)V"⟩) ∈ lw_all := lw_g (lw_at lw_ms 98 rfl) rfl
theorem qs99 : (Cond.selects "KeptLeavesModel" ⟨"KeptLeavesModel", "isSign", "(I)Z"⟩ ⟨"KeptLeavesModel", "isSign", "(I)Z"⟩) ∈ lw_all := lw_g (lw_at lw_ms 99 rfl) rfl
theorem qs100 : (Cond.selects "KeptLeavesModel" ⟨"KeptLeavesModel", "isText", "(I)Z"⟩ ⟨"KeptLeavesModel", "isText", "(I)Z"⟩) ∈ lw_all := lw_g (lw_at lw_ms 100 rfl) rfl
theorem qs101 : (Cond.selects "KeptLeavesModel" ⟨"KeptLeavesModel", "setAside", "([I[I)V"⟩ ⟨"KeptLeavesModel", "setAside", "([I[I)V"⟩) ∈ lw_all := lw_g (lw_at lw_ms 101 rfl) rfl
