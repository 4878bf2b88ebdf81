-- ===== PART A: goes FIRST, ahead of the names: the tables' words, and 'selects' of the private methods out of them =====
/-- a private method of a class that the tables say can be made, by its rows of tables_1 -/
def lw_okq (q : MethodName × Nat) : Prop := (q.1.cls ≠ "java/lang/invoke/MethodHandle" ∧ q.1.cls ≠ "java/lang/invoke/VarHandle") ∧ Cond.instantiable q.1.cls q.2 ∈ tables_1 ∧ Cond.privateMethod q.1 ∈ tables_1 ∧ Cond.instanceMethod q.1 ∈ tables_1
set_option maxRecDepth 100000
theorem lw_t1 {w : Cond} (h : w ∈ tables_1_1) : w ∈ tables_1 := List.mem_append_left _ h
theorem lw_t2 {w : Cond} (h : w ∈ tables_1_2) : w ∈ tables_1 := List.mem_append_right _ (List.mem_append_left _ h)
theorem lw_t3 {w : Cond} (h : w ∈ tables_1_3) : w ∈ tables_1 := List.mem_append_right _ (List.mem_append_right _ (List.mem_append_left _ h))
theorem lw_t4 {w : Cond} (h : w ∈ tables_1_4) : w ∈ tables_1 := List.mem_append_right _ (List.mem_append_right _ (List.mem_append_right _ (List.mem_append_left _ h)))
theorem lw_t5 {w : Cond} (h : w ∈ tables_1_5) : w ∈ tables_1 := List.mem_append_right _ (List.mem_append_right _ (List.mem_append_right _ (List.mem_append_right _ (List.mem_append_left _ h))))
theorem lw_t6 {w : Cond} (h : w ∈ tables_1_6) : w ∈ tables_1 := List.mem_append_right _ (List.mem_append_right _ (List.mem_append_right _ (List.mem_append_right _ (List.mem_append_right _ (List.mem_append_left _ h)))))
theorem lw_t7 {w : Cond} (h : w ∈ tables_1_7) : w ∈ tables_1 := List.mem_append_right _ (List.mem_append_right _ (List.mem_append_right _ (List.mem_append_right _ (List.mem_append_right _ (List.mem_append_right _ (List.mem_append_left _ h))))))
theorem lw_t8 {w : Cond} (h : w ∈ tables_1_8) : w ∈ tables_1 := List.mem_append_right _ (List.mem_append_right _ (List.mem_append_right _ (List.mem_append_right _ (List.mem_append_right _ (List.mem_append_right _ (List.mem_append_right _ h))))))
theorem lw_p0 : lw_okq (⟨"java/lang/Throwable", "fillInStackTrace", "(I)Ljava/lang/Throwable;"⟩, 6) := ⟨⟨by decide +kernel, by decide +kernel⟩, lw_t1 (List.mem_of_getElem? (i := 139) rfl), lw_t1 (List.mem_of_getElem? (i := 137) rfl), lw_t1 (List.mem_of_getElem? (i := 138) rfl)⟩
theorem lw_p1 : lw_okq (⟨"XactKernel", "process", "(I)LXactKernel$Process;"⟩, 9) := ⟨⟨by decide +kernel, by decide +kernel⟩, lw_t1 (List.mem_of_getElem? (i := 40) rfl), lw_t3 (List.mem_of_getElem? (i := 22) rfl), lw_t3 (List.mem_of_getElem? (i := 23) rfl)⟩
theorem lw_p2 : lw_okq (⟨"java/util/ArrayList", "add", "(Ljava/lang/Object;[Ljava/lang/Object;I)V"⟩, 3) := ⟨⟨by decide +kernel, by decide +kernel⟩, lw_t1 (List.mem_of_getElem? (i := 52) rfl), lw_t3 (List.mem_of_getElem? (i := 152) rfl), lw_t3 (List.mem_of_getElem? (i := 153) rfl)⟩
theorem lw_p3 : lw_okq (⟨"java/util/ArrayList", "grow", "()[Ljava/lang/Object;"⟩, 3) := ⟨⟨by decide +kernel, by decide +kernel⟩, lw_t1 (List.mem_of_getElem? (i := 52) rfl), lw_t3 (List.mem_of_getElem? (i := 156) rfl), lw_t3 (List.mem_of_getElem? (i := 157) rfl)⟩
theorem lw_p4 : lw_okq (⟨"java/util/ArrayList", "grow", "(I)[Ljava/lang/Object;"⟩, 3) := ⟨⟨by decide +kernel, by decide +kernel⟩, lw_t1 (List.mem_of_getElem? (i := 52) rfl), lw_t3 (List.mem_of_getElem? (i := 160) rfl), lw_t3 (List.mem_of_getElem? (i := 161) rfl)⟩
theorem lw_p5 : lw_okq (⟨"XactKernel", "ends", "(LXactKernel$Transaction;)V"⟩, 9) := ⟨⟨by decide +kernel, by decide +kernel⟩, lw_t1 (List.mem_of_getElem? (i := 40) rfl), lw_t3 (List.mem_of_getElem? (i := 226) rfl), lw_t3 (List.mem_of_getElem? (i := 227) rfl)⟩
theorem lw_p6 : lw_okq (⟨"XactKernel", "drop", "(LXactKernel$Transaction;)V"⟩, 9) := ⟨⟨by decide +kernel, by decide +kernel⟩, lw_t1 (List.mem_of_getElem? (i := 40) rfl), lw_t3 (List.mem_of_getElem? (i := 237) rfl), lw_t3 (List.mem_of_getElem? (i := 238) rfl)⟩
theorem lw_p7 : lw_okq (⟨"java/util/ArrayList", "fastRemove", "([Ljava/lang/Object;I)V"⟩, 3) := ⟨⟨by decide +kernel, by decide +kernel⟩, lw_t1 (List.mem_of_getElem? (i := 52) rfl), lw_t4 (List.mem_of_getElem? (i := 46) rfl), lw_t4 (List.mem_of_getElem? (i := 47) rfl)⟩
theorem lw_p8 : lw_okq (⟨"XactKernel", "sweep", "()V"⟩, 9) := ⟨⟨by decide +kernel, by decide +kernel⟩, lw_t1 (List.mem_of_getElem? (i := 40) rfl), lw_t4 (List.mem_of_getElem? (i := 51) rfl), lw_t4 (List.mem_of_getElem? (i := 52) rfl)⟩
theorem lw_p9 : lw_okq (⟨"XactKernel", "stores", "(I)Z"⟩, 9) := ⟨⟨by decide +kernel, by decide +kernel⟩, lw_t1 (List.mem_of_getElem? (i := 40) rfl), lw_t4 (List.mem_of_getElem? (i := 110) rfl), lw_t4 (List.mem_of_getElem? (i := 111) rfl)⟩
theorem lw_p10 : lw_okq (⟨"XactKernel", "store", "(I)V"⟩, 9) := ⟨⟨by decide +kernel, by decide +kernel⟩, lw_t1 (List.mem_of_getElem? (i := 40) rfl), lw_t4 (List.mem_of_getElem? (i := 115) rfl), lw_t4 (List.mem_of_getElem? (i := 116) rfl)⟩
theorem lw_p11 : lw_okq (⟨"XactKernel", "disk", "(I)V"⟩, 9) := ⟨⟨by decide +kernel, by decide +kernel⟩, lw_t1 (List.mem_of_getElem? (i := 40) rfl), lw_t4 (List.mem_of_getElem? (i := 119) rfl), lw_t4 (List.mem_of_getElem? (i := 120) rfl)⟩
theorem lw_p12 : lw_okq (⟨"XactKernel", "crash", "(LXactKernel$Transaction;Z)V"⟩, 9) := ⟨⟨by decide +kernel, by decide +kernel⟩, lw_t1 (List.mem_of_getElem? (i := 40) rfl), lw_t4 (List.mem_of_getElem? (i := 137) rfl), lw_t4 (List.mem_of_getElem? (i := 138) rfl)⟩
theorem lw_p13 : lw_okq (⟨"XactKernel", "put", "(LXactKernel$Transaction;)V"⟩, 9) := ⟨⟨by decide +kernel, by decide +kernel⟩, lw_t1 (List.mem_of_getElem? (i := 40) rfl), lw_t4 (List.mem_of_getElem? (i := 141) rfl), lw_t4 (List.mem_of_getElem? (i := 142) rfl)⟩
theorem lw_p14 : lw_okq (⟨"XactKernel", "current", "(LXactKernel$Process;)LXactKernel$Transaction;"⟩, 9) := ⟨⟨by decide +kernel, by decide +kernel⟩, lw_t1 (List.mem_of_getElem? (i := 40) rfl), lw_t4 (List.mem_of_getElem? (i := 200) rfl), lw_t4 (List.mem_of_getElem? (i := 201) rfl)⟩
theorem lw_p15 : lw_okq (⟨"XactKernel", "holder", "(LXactKernel$Transaction;I)I"⟩, 9) := ⟨⟨by decide +kernel, by decide +kernel⟩, lw_t1 (List.mem_of_getElem? (i := 40) rfl), lw_t4 (List.mem_of_getElem? (i := 204) rfl), lw_t4 (List.mem_of_getElem? (i := 205) rfl)⟩
def lw_privs_1 : List (MethodName × Nat) := [(⟨"java/lang/Throwable", "fillInStackTrace", "(I)Ljava/lang/Throwable;"⟩, 6), (⟨"XactKernel", "process", "(I)LXactKernel$Process;"⟩, 9), (⟨"java/util/ArrayList", "add", "(Ljava/lang/Object;[Ljava/lang/Object;I)V"⟩, 3), (⟨"java/util/ArrayList", "grow", "()[Ljava/lang/Object;"⟩, 3), (⟨"java/util/ArrayList", "grow", "(I)[Ljava/lang/Object;"⟩, 3), (⟨"XactKernel", "ends", "(LXactKernel$Transaction;)V"⟩, 9), (⟨"XactKernel", "drop", "(LXactKernel$Transaction;)V"⟩, 9), (⟨"java/util/ArrayList", "fastRemove", "([Ljava/lang/Object;I)V"⟩, 3), (⟨"XactKernel", "sweep", "()V"⟩, 9), (⟨"XactKernel", "stores", "(I)Z"⟩, 9), (⟨"XactKernel", "store", "(I)V"⟩, 9), (⟨"XactKernel", "disk", "(I)V"⟩, 9), (⟨"XactKernel", "crash", "(LXactKernel$Transaction;Z)V"⟩, 9), (⟨"XactKernel", "put", "(LXactKernel$Transaction;)V"⟩, 9), (⟨"XactKernel", "current", "(LXactKernel$Process;)LXactKernel$Transaction;"⟩, 9), (⟨"XactKernel", "holder", "(LXactKernel$Transaction;I)I"⟩, 9)]
theorem lw_r1 : ∀ q ∈ lw_privs_1, lw_okq q := List.forall_mem_cons.mpr ⟨lw_p0, List.forall_mem_cons.mpr ⟨lw_p1, List.forall_mem_cons.mpr ⟨lw_p2, List.forall_mem_cons.mpr ⟨lw_p3, List.forall_mem_cons.mpr ⟨lw_p4, List.forall_mem_cons.mpr ⟨lw_p5, List.forall_mem_cons.mpr ⟨lw_p6, List.forall_mem_cons.mpr ⟨lw_p7, List.forall_mem_cons.mpr ⟨lw_p8, List.forall_mem_cons.mpr ⟨lw_p9, List.forall_mem_cons.mpr ⟨lw_p10, List.forall_mem_cons.mpr ⟨lw_p11, List.forall_mem_cons.mpr ⟨lw_p12, List.forall_mem_cons.mpr ⟨lw_p13, List.forall_mem_cons.mpr ⟨lw_p14, List.forall_mem_cons.mpr ⟨lw_p15, fun _ h => absurd h List.not_mem_nil⟩⟩⟩⟩⟩⟩⟩⟩⟩⟩⟩⟩⟩⟩⟩⟩
theorem lw_p16 : lw_okq (⟨"XactKernel", "walk", "(LXactKernel$Transaction;II)I"⟩, 9) := ⟨⟨by decide +kernel, by decide +kernel⟩, lw_t1 (List.mem_of_getElem? (i := 40) rfl), lw_t4 (List.mem_of_getElem? (i := 214) rfl), lw_t4 (List.mem_of_getElem? (i := 215) rfl)⟩
theorem lw_p17 : lw_okq (⟨"XactKernel", "within", "(LXactKernel$Transaction;I)LXactKernel$DirectoryItem;"⟩, 9) := ⟨⟨by decide +kernel, by decide +kernel⟩, lw_t1 (List.mem_of_getElem? (i := 40) rfl), lw_t4 (List.mem_of_getElem? (i := 218) rfl), lw_t4 (List.mem_of_getElem? (i := 219) rfl)⟩
theorem lw_p18 : lw_okq (⟨"XactKernel", "reads", "(LXactKernel$Transaction;I)LXactKernel$Item;"⟩, 9) := ⟨⟨by decide +kernel, by decide +kernel⟩, lw_t1 (List.mem_of_getElem? (i := 40) rfl), lw_t4 (List.mem_of_getElem? (i := 222) rfl), lw_t4 (List.mem_of_getElem? (i := 223) rfl)⟩
theorem lw_p19 : lw_okq (⟨"XactKernel", "meet", "(LXactKernel$Transaction;IZ)V"⟩, 9) := ⟨⟨by decide +kernel, by decide +kernel⟩, lw_t1 (List.mem_of_getElem? (i := 40) rfl), lw_t4 (List.mem_of_getElem? (i := 226) rfl), lw_t4 (List.mem_of_getElem? (i := 227) rfl)⟩
theorem lw_p20 : lw_okq (⟨"XactKernel", "under", "(LXactKernel$Transaction;II)I"⟩, 9) := ⟨⟨by decide +kernel, by decide +kernel⟩, lw_t1 (List.mem_of_getElem? (i := 40) rfl), lw_t5 (List.mem_of_getElem? (i := 36) rfl), lw_t5 (List.mem_of_getElem? (i := 37) rfl)⟩
theorem lw_p21 : lw_okq (⟨"XactKernel", "makes", "(LXactKernel$Transaction;IILXactKernel$Item;)I"⟩, 9) := ⟨⟨by decide +kernel, by decide +kernel⟩, lw_t1 (List.mem_of_getElem? (i := 40) rfl), lw_t5 (List.mem_of_getElem? (i := 66) rfl), lw_t5 (List.mem_of_getElem? (i := 67) rfl)⟩
theorem lw_p22 : lw_okq (⟨"XactKernel", "free", "(II)I"⟩, 9) := ⟨⟨by decide +kernel, by decide +kernel⟩, lw_t1 (List.mem_of_getElem? (i := 40) rfl), lw_t5 (List.mem_of_getElem? (i := 70) rfl), lw_t5 (List.mem_of_getElem? (i := 71) rfl)⟩
theorem lw_p23 : lw_okq (⟨"XactKernel", "isFree", "(I)Z"⟩, 9) := ⟨⟨by decide +kernel, by decide +kernel⟩, lw_t1 (List.mem_of_getElem? (i := 40) rfl), lw_t5 (List.mem_of_getElem? (i := 74) rfl), lw_t5 (List.mem_of_getElem? (i := 75) rfl)⟩
theorem lw_p24 : lw_okq (⟨"XactKernel", "full", "(LXactKernel$Transaction;I)V"⟩, 9) := ⟨⟨by decide +kernel, by decide +kernel⟩, lw_t1 (List.mem_of_getElem? (i := 40) rfl), lw_t5 (List.mem_of_getElem? (i := 78) rfl), lw_t5 (List.mem_of_getElem? (i := 79) rfl)⟩
theorem lw_p25 : lw_okq (⟨"XactKernel", "enter", "(LXactKernel$Transaction;III)V"⟩, 9) := ⟨⟨by decide +kernel, by decide +kernel⟩, lw_t1 (List.mem_of_getElem? (i := 40) rfl), lw_t5 (List.mem_of_getElem? (i := 98) rfl), lw_t5 (List.mem_of_getElem? (i := 99) rfl)⟩
theorem lw_p26 : lw_okq (⟨"XactKernel", "writes", "(LXactKernel$Transaction;I)LXactKernel$Item;"⟩, 9) := ⟨⟨by decide +kernel, by decide +kernel⟩, lw_t1 (List.mem_of_getElem? (i := 40) rfl), lw_t5 (List.mem_of_getElem? (i := 102) rfl), lw_t5 (List.mem_of_getElem? (i := 103) rfl)⟩
theorem lw_p27 : lw_okq (⟨"XactKernel", "leave", "(LXactKernel$Transaction;)V"⟩, 9) := ⟨⟨by decide +kernel, by decide +kernel⟩, lw_t1 (List.mem_of_getElem? (i := 40) rfl), lw_t5 (List.mem_of_getElem? (i := 163) rfl), lw_t5 (List.mem_of_getElem? (i := 164) rfl)⟩
theorem lw_p28 : lw_okq (⟨"XactKernel", "descriptor", "(LXactKernel$Process;I)LXactKernel$Descriptor;"⟩, 9) := ⟨⟨by decide +kernel, by decide +kernel⟩, lw_t1 (List.mem_of_getElem? (i := 40) rfl), lw_t5 (List.mem_of_getElem? (i := 174) rfl), lw_t5 (List.mem_of_getElem? (i := 175) rfl)⟩
theorem lw_p29 : lw_okq (⟨"XactKernelModel", "isProcess", "(I)Z"⟩, 31) := ⟨⟨by decide +kernel, by decide +kernel⟩, lw_t6 (List.mem_of_getElem? (i := 162) rfl), lw_t7 (List.mem_of_getElem? (i := 30) rfl), lw_t7 (List.mem_of_getElem? (i := 31) rfl)⟩
theorem lw_p30 : lw_okq (⟨"XactKernelModel", "refuse", "(I)I"⟩, 31) := ⟨⟨by decide +kernel, by decide +kernel⟩, lw_t6 (List.mem_of_getElem? (i := 162) rfl), lw_t7 (List.mem_of_getElem? (i := 37) rfl), lw_t7 (List.mem_of_getElem? (i := 38) rfl)⟩
theorem lw_p31 : lw_okq (⟨"XactKernelModel", "enter", "(I)Z"⟩, 31) := ⟨⟨by decide +kernel, by decide +kernel⟩, lw_t6 (List.mem_of_getElem? (i := 162) rfl), lw_t7 (List.mem_of_getElem? (i := 41) rfl), lw_t7 (List.mem_of_getElem? (i := 42) rfl)⟩
def lw_privs_2 : List (MethodName × Nat) := [(⟨"XactKernel", "walk", "(LXactKernel$Transaction;II)I"⟩, 9), (⟨"XactKernel", "within", "(LXactKernel$Transaction;I)LXactKernel$DirectoryItem;"⟩, 9), (⟨"XactKernel", "reads", "(LXactKernel$Transaction;I)LXactKernel$Item;"⟩, 9), (⟨"XactKernel", "meet", "(LXactKernel$Transaction;IZ)V"⟩, 9), (⟨"XactKernel", "under", "(LXactKernel$Transaction;II)I"⟩, 9), (⟨"XactKernel", "makes", "(LXactKernel$Transaction;IILXactKernel$Item;)I"⟩, 9), (⟨"XactKernel", "free", "(II)I"⟩, 9), (⟨"XactKernel", "isFree", "(I)Z"⟩, 9), (⟨"XactKernel", "full", "(LXactKernel$Transaction;I)V"⟩, 9), (⟨"XactKernel", "enter", "(LXactKernel$Transaction;III)V"⟩, 9), (⟨"XactKernel", "writes", "(LXactKernel$Transaction;I)LXactKernel$Item;"⟩, 9), (⟨"XactKernel", "leave", "(LXactKernel$Transaction;)V"⟩, 9), (⟨"XactKernel", "descriptor", "(LXactKernel$Process;I)LXactKernel$Descriptor;"⟩, 9), (⟨"XactKernelModel", "isProcess", "(I)Z"⟩, 31), (⟨"XactKernelModel", "refuse", "(I)I"⟩, 31), (⟨"XactKernelModel", "enter", "(I)Z"⟩, 31)]
theorem lw_r2 : ∀ q ∈ lw_privs_2, lw_okq q := List.forall_mem_cons.mpr ⟨lw_p16, List.forall_mem_cons.mpr ⟨lw_p17, List.forall_mem_cons.mpr ⟨lw_p18, List.forall_mem_cons.mpr ⟨lw_p19, List.forall_mem_cons.mpr ⟨lw_p20, List.forall_mem_cons.mpr ⟨lw_p21, List.forall_mem_cons.mpr ⟨lw_p22, List.forall_mem_cons.mpr ⟨lw_p23, List.forall_mem_cons.mpr ⟨lw_p24, List.forall_mem_cons.mpr ⟨lw_p25, List.forall_mem_cons.mpr ⟨lw_p26, List.forall_mem_cons.mpr ⟨lw_p27, List.forall_mem_cons.mpr ⟨lw_p28, List.forall_mem_cons.mpr ⟨lw_p29, List.forall_mem_cons.mpr ⟨lw_p30, List.forall_mem_cons.mpr ⟨lw_p31, fun _ h => absurd h List.not_mem_nil⟩⟩⟩⟩⟩⟩⟩⟩⟩⟩⟩⟩⟩⟩⟩⟩
theorem lw_p32 : lw_okq (⟨"XactKernelModel", "plain", "(I)Z"⟩, 31) := ⟨⟨by decide +kernel, by decide +kernel⟩, lw_t6 (List.mem_of_getElem? (i := 162) rfl), lw_t7 (List.mem_of_getElem? (i := 49) rfl), lw_t7 (List.mem_of_getElem? (i := 50) rfl)⟩
theorem lw_p33 : lw_okq (⟨"XactKernelModel", "done", "(IIII)I"⟩, 31) := ⟨⟨by decide +kernel, by decide +kernel⟩, lw_t6 (List.mem_of_getElem? (i := 162) rfl), lw_t7 (List.mem_of_getElem? (i := 53) rfl), lw_t7 (List.mem_of_getElem? (i := 54) rfl)⟩
theorem lw_p34 : lw_okq (⟨"XactKernelModel", "finish", "(I)I"⟩, 31) := ⟨⟨by decide +kernel, by decide +kernel⟩, lw_t6 (List.mem_of_getElem? (i := 162) rfl), lw_t7 (List.mem_of_getElem? (i := 57) rfl), lw_t7 (List.mem_of_getElem? (i := 58) rfl)⟩
theorem lw_p35 : lw_okq (⟨"XactKernelModel", "aborted", "(I)V"⟩, 31) := ⟨⟨by decide +kernel, by decide +kernel⟩, lw_t6 (List.mem_of_getElem? (i := 162) rfl), lw_t7 (List.mem_of_getElem? (i := 61) rfl), lw_t7 (List.mem_of_getElem? (i := 62) rfl)⟩
theorem lw_p36 : lw_okq (⟨"XactKernelModel", "drop", "(I)V"⟩, 31) := ⟨⟨by decide +kernel, by decide +kernel⟩, lw_t6 (List.mem_of_getElem? (i := 162) rfl), lw_t7 (List.mem_of_getElem? (i := 65) rfl), lw_t7 (List.mem_of_getElem? (i := 66) rfl)⟩
theorem lw_p37 : lw_okq (⟨"XactKernelModel", "copy", "(II)V"⟩, 31) := ⟨⟨by decide +kernel, by decide +kernel⟩, lw_t6 (List.mem_of_getElem? (i := 162) rfl), lw_t7 (List.mem_of_getElem? (i := 69) rfl), lw_t7 (List.mem_of_getElem? (i := 70) rfl)⟩
theorem lw_p38 : lw_okq (⟨"XactKernelModel", "send", "(II)V"⟩, 31) := ⟨⟨by decide +kernel, by decide +kernel⟩, lw_t6 (List.mem_of_getElem? (i := 162) rfl), lw_t7 (List.mem_of_getElem? (i := 73) rfl), lw_t7 (List.mem_of_getElem? (i := 74) rfl)⟩
theorem lw_p39 : lw_okq (⟨"XactKernelModel", "sweep", "()V"⟩, 31) := ⟨⟨by decide +kernel, by decide +kernel⟩, lw_t6 (List.mem_of_getElem? (i := 162) rfl), lw_t7 (List.mem_of_getElem? (i := 77) rfl), lw_t7 (List.mem_of_getElem? (i := 78) rfl)⟩
theorem lw_p40 : lw_okq (⟨"XactKernelModel", "isNamed", "(I)Z"⟩, 31) := ⟨⟨by decide +kernel, by decide +kernel⟩, lw_t6 (List.mem_of_getElem? (i := 162) rfl), lw_t7 (List.mem_of_getElem? (i := 81) rfl), lw_t7 (List.mem_of_getElem? (i := 82) rfl)⟩
theorem lw_p41 : lw_okq (⟨"XactKernelModel", "toHolder", "(IIII)I"⟩, 31) := ⟨⟨by decide +kernel, by decide +kernel⟩, lw_t6 (List.mem_of_getElem? (i := 162) rfl), lw_t7 (List.mem_of_getElem? (i := 92) rfl), lw_t7 (List.mem_of_getElem? (i := 93) rfl)⟩
theorem lw_p42 : lw_okq (⟨"XactKernelModel", "walk", "(IIIII)I"⟩, 31) := ⟨⟨by decide +kernel, by decide +kernel⟩, lw_t6 (List.mem_of_getElem? (i := 162) rfl), lw_t7 (List.mem_of_getElem? (i := 99) rfl), lw_t7 (List.mem_of_getElem? (i := 100) rfl)⟩
theorem lw_p43 : lw_okq (⟨"XactKernelModel", "reads", "(II)Z"⟩, 31) := ⟨⟨by decide +kernel, by decide +kernel⟩, lw_t6 (List.mem_of_getElem? (i := 162) rfl), lw_t7 (List.mem_of_getElem? (i := 103) rfl), lw_t7 (List.mem_of_getElem? (i := 104) rfl)⟩
theorem lw_p44 : lw_okq (⟨"XactKernelModel", "meet", "(IIZ)Z"⟩, 31) := ⟨⟨by decide +kernel, by decide +kernel⟩, lw_t6 (List.mem_of_getElem? (i := 162) rfl), lw_t7 (List.mem_of_getElem? (i := 107) rfl), lw_t7 (List.mem_of_getElem? (i := 108) rfl)⟩
theorem lw_p45 : lw_okq (⟨"XactKernelModel", "of", "(II)I"⟩, 31) := ⟨⟨by decide +kernel, by decide +kernel⟩, lw_t6 (List.mem_of_getElem? (i := 162) rfl), lw_t7 (List.mem_of_getElem? (i := 111) rfl), lw_t7 (List.mem_of_getElem? (i := 112) rfl)⟩
theorem lw_p46 : lw_okq (⟨"XactKernelModel", "under", "(III)I"⟩, 31) := ⟨⟨by decide +kernel, by decide +kernel⟩, lw_t6 (List.mem_of_getElem? (i := 162) rfl), lw_t7 (List.mem_of_getElem? (i := 115) rfl), lw_t7 (List.mem_of_getElem? (i := 116) rfl)⟩
theorem lw_p47 : lw_okq (⟨"XactKernelModel", "fail", "(II)I"⟩, 31) := ⟨⟨by decide +kernel, by decide +kernel⟩, lw_t6 (List.mem_of_getElem? (i := 162) rfl), lw_t7 (List.mem_of_getElem? (i := 119) rfl), lw_t7 (List.mem_of_getElem? (i := 120) rfl)⟩
def lw_privs_3 : List (MethodName × Nat) := [(⟨"XactKernelModel", "plain", "(I)Z"⟩, 31), (⟨"XactKernelModel", "done", "(IIII)I"⟩, 31), (⟨"XactKernelModel", "finish", "(I)I"⟩, 31), (⟨"XactKernelModel", "aborted", "(I)V"⟩, 31), (⟨"XactKernelModel", "drop", "(I)V"⟩, 31), (⟨"XactKernelModel", "copy", "(II)V"⟩, 31), (⟨"XactKernelModel", "send", "(II)V"⟩, 31), (⟨"XactKernelModel", "sweep", "()V"⟩, 31), (⟨"XactKernelModel", "isNamed", "(I)Z"⟩, 31), (⟨"XactKernelModel", "toHolder", "(IIII)I"⟩, 31), (⟨"XactKernelModel", "walk", "(IIIII)I"⟩, 31), (⟨"XactKernelModel", "reads", "(II)Z"⟩, 31), (⟨"XactKernelModel", "meet", "(IIZ)Z"⟩, 31), (⟨"XactKernelModel", "of", "(II)I"⟩, 31), (⟨"XactKernelModel", "under", "(III)I"⟩, 31), (⟨"XactKernelModel", "fail", "(II)I"⟩, 31)]
theorem lw_r3 : ∀ q ∈ lw_privs_3, lw_okq q := List.forall_mem_cons.mpr ⟨lw_p32, List.forall_mem_cons.mpr ⟨lw_p33, List.forall_mem_cons.mpr ⟨lw_p34, List.forall_mem_cons.mpr ⟨lw_p35, List.forall_mem_cons.mpr ⟨lw_p36, List.forall_mem_cons.mpr ⟨lw_p37, List.forall_mem_cons.mpr ⟨lw_p38, List.forall_mem_cons.mpr ⟨lw_p39, List.forall_mem_cons.mpr ⟨lw_p40, List.forall_mem_cons.mpr ⟨lw_p41, List.forall_mem_cons.mpr ⟨lw_p42, List.forall_mem_cons.mpr ⟨lw_p43, List.forall_mem_cons.mpr ⟨lw_p44, List.forall_mem_cons.mpr ⟨lw_p45, List.forall_mem_cons.mpr ⟨lw_p46, List.forall_mem_cons.mpr ⟨lw_p47, fun _ h => absurd h List.not_mem_nil⟩⟩⟩⟩⟩⟩⟩⟩⟩⟩⟩⟩⟩⟩⟩⟩
theorem lw_p48 : lw_okq (⟨"XactKernelModel", "freeDescriptor", "(II)I"⟩, 31) := ⟨⟨by decide +kernel, by decide +kernel⟩, lw_t6 (List.mem_of_getElem? (i := 162) rfl), lw_t7 (List.mem_of_getElem? (i := 123) rfl), lw_t7 (List.mem_of_getElem? (i := 124) rfl)⟩
theorem lw_p49 : lw_okq (⟨"XactKernelModel", "make", "(II)I"⟩, 31) := ⟨⟨by decide +kernel, by decide +kernel⟩, lw_t6 (List.mem_of_getElem? (i := 162) rfl), lw_t7 (List.mem_of_getElem? (i := 127) rfl), lw_t7 (List.mem_of_getElem? (i := 128) rfl)⟩
theorem lw_p50 : lw_okq (⟨"XactKernelModel", "spare", "(II)I"⟩, 31) := ⟨⟨by decide +kernel, by decide +kernel⟩, lw_t6 (List.mem_of_getElem? (i := 162) rfl), lw_t7 (List.mem_of_getElem? (i := 131) rfl), lw_t7 (List.mem_of_getElem? (i := 132) rfl)⟩
theorem lw_p51 : lw_okq (⟨"XactKernelModel", "writes", "(II)Z"⟩, 31) := ⟨⟨by decide +kernel, by decide +kernel⟩, lw_t6 (List.mem_of_getElem? (i := 162) rfl), lw_t7 (List.mem_of_getElem? (i := 135) rfl), lw_t7 (List.mem_of_getElem? (i := 136) rfl)⟩
theorem lw_p52 : lw_okq (⟨"XactKernelModel", "create", "(III)I"⟩, 31) := ⟨⟨by decide +kernel, by decide +kernel⟩, lw_t6 (List.mem_of_getElem? (i := 162) rfl), lw_t7 (List.mem_of_getElem? (i := 139) rfl), lw_t7 (List.mem_of_getElem? (i := 140) rfl)⟩
theorem lw_p53 : lw_okq (⟨"XactKernelModel", "append", "(IIII)V"⟩, 31) := ⟨⟨by decide +kernel, by decide +kernel⟩, lw_t6 (List.mem_of_getElem? (i := 162) rfl), lw_t7 (List.mem_of_getElem? (i := 143) rfl), lw_t7 (List.mem_of_getElem? (i := 144) rfl)⟩
theorem lw_p54 : lw_okq (⟨"XactKernelModel", "isHeld", "(II)Z"⟩, 31) := ⟨⟨by decide +kernel, by decide +kernel⟩, lw_t6 (List.mem_of_getElem? (i := 162) rfl), lw_t7 (List.mem_of_getElem? (i := 151) rfl), lw_t7 (List.mem_of_getElem? (i := 152) rfl)⟩
theorem lw_p55 : lw_okq (⟨"XactKernelModel", "remove", "(III)V"⟩, 31) := ⟨⟨by decide +kernel, by decide +kernel⟩, lw_t6 (List.mem_of_getElem? (i := 162) rfl), lw_t7 (List.mem_of_getElem? (i := 183) rfl), lw_t7 (List.mem_of_getElem? (i := 184) rfl)⟩
theorem lw_p56 : lw_okq (⟨"XactKernelModel", "processes", "()I"⟩, 31) := ⟨⟨by decide +kernel, by decide +kernel⟩, lw_t6 (List.mem_of_getElem? (i := 162) rfl), lw_t7 (List.mem_of_getElem? (i := 211) rfl), lw_t7 (List.mem_of_getElem? (i := 212) rfl)⟩
def lw_privs_4 : List (MethodName × Nat) := [(⟨"XactKernelModel", "freeDescriptor", "(II)I"⟩, 31), (⟨"XactKernelModel", "make", "(II)I"⟩, 31), (⟨"XactKernelModel", "spare", "(II)I"⟩, 31), (⟨"XactKernelModel", "writes", "(II)Z"⟩, 31), (⟨"XactKernelModel", "create", "(III)I"⟩, 31), (⟨"XactKernelModel", "append", "(IIII)V"⟩, 31), (⟨"XactKernelModel", "isHeld", "(II)Z"⟩, 31), (⟨"XactKernelModel", "remove", "(III)V"⟩, 31), (⟨"XactKernelModel", "processes", "()I"⟩, 31)]
theorem lw_r4 : ∀ q ∈ lw_privs_4, lw_okq q := List.forall_mem_cons.mpr ⟨lw_p48, List.forall_mem_cons.mpr ⟨lw_p49, List.forall_mem_cons.mpr ⟨lw_p50, List.forall_mem_cons.mpr ⟨lw_p51, List.forall_mem_cons.mpr ⟨lw_p52, List.forall_mem_cons.mpr ⟨lw_p53, List.forall_mem_cons.mpr ⟨lw_p54, List.forall_mem_cons.mpr ⟨lw_p55, List.forall_mem_cons.mpr ⟨lw_p56, fun _ h => absurd h List.not_mem_nil⟩⟩⟩⟩⟩⟩⟩⟩⟩
def lw_privs : List (MethodName × Nat) := lw_privs_1 ++ (lw_privs_2 ++ (lw_privs_3 ++ (lw_privs_4)))
def lw_tbl : List Cond := k2_sels lw_privs ++ tables_1
theorem lw_privs_ok : ∀ q ∈ lw_privs, lw_okq q := by
  show ∀ q ∈ lw_privs_1 ++ (lw_privs_2 ++ (lw_privs_3 ++ (lw_privs_4))), lw_okq q
  exact List.forall_mem_append.mpr ⟨lw_r1, List.forall_mem_append.mpr ⟨lw_r2, List.forall_mem_append.mpr ⟨lw_r3, lw_r4⟩⟩⟩
-- ===== ONE list of words for every method: the tables' words that hold all through a run =====
def lw_all : List Cond := lw_tbl.filter goodWord
/-- a word of the tables by its place: claim/WORDS.tsv -/
theorem lw_w {w : Cond} (i : Nat) (h : lw_tbl[i]? = some w) (g : goodWord w = true) : w ∈ lw_all := List.mem_filter.mpr ⟨List.mem_of_getElem? h, g⟩
theorem lw_all_tbl {w : Cond} (h : w ∈ lw_all) : w ∈ lw_tbl := (List.mem_filter.mp h).1
theorem lw_self : GoodIn lw_all lw_all := fun w h => ⟨h, good_of_word (List.mem_filter.mp h).2⟩
/-- a class's field words, by their places -/
theorem lw_in (ws : List Cond) (ps : List Nat) (hp : ws = ps.filterMap (fun i => lw_tbl[i]?)) (hg : ws.all goodWord = true) : ∀ w ∈ ws, w ∈ lw_all := by
  intro w h
  have h1 := List.all_eq_true.mp hg w h
  rw [hp] at h
  obtain ⟨i, -, hi⟩ := List.mem_filterMap.mp h
  exact lw_w i hi h1
/-- the words of a contract for the method y with code b, L locals, answer r -/
abbrev ws_ (y : MethodName) (b : ByteArray) (L : Nat) (r : Option FieldType) : List Cond := Cond.code y b L r :: lw_all
theorem lw_meth {y : MethodName} {b : ByteArray} {L : Nat} {r : Option FieldType} (h : Cond.code y b L r ∈ lw_all) : GoodIn lw_all (ws_ y b L r) := by
  intro w hw
  rcases List.mem_cons.mp hw with e | e
  · rw [e]
    exact lw_self _ h
  · exact lw_self _ e
theorem lw_app {a c : List Cond} (ha : ∀ w ∈ a, w ∈ lw_all) (hc : GoodIn lw_all c) : GoodIn lw_all (a ++ c) := by
  intro w hw
  rcases List.mem_append.mp hw with e | e
  · exact lw_self w (ha w e)
  · exact hc w e
/-- what a call through an object asks: cwV n hts (lw_V ..) -/
theorem lw_V {own : String} {idx : Nat} {C : String} {y : MethodName} {b : ByteArray} {L : Nat} {r : Option FieldType} (h1 : Cond.methodLink own idx y ∈ lw_all) (h2 : Cond.instanceMethod y ∈ lw_all) (h3 : Cond.selects C y y ∈ lw_all) (h4 : Cond.initialized C ∈ lw_all) (h5 : Cond.code y b L r ∈ lw_all) : GoodIn lw_all (wsV own idx C y (ws_ y b L r)) := by
  refine lw_app ?_ (lw_meth h5)
  intro w hw
  simp only [List.mem_cons, List.not_mem_nil, or_false] at hw
  rcases hw with e | e | e | e
  · rw [e]; exact h1
  · rw [e]; exact h2
  · rw [e]; exact h3
  · rw [e]; exact h4
/-- what a static call asks: va_cwS n hts (lw_S ..) -/
theorem lw_S {own : String} {idx : Nat} {y : MethodName} {b : ByteArray} {L : Nat} {r : Option FieldType} (h1 : Cond.methodLink own idx y ∈ lw_all) (h2 : Cond.static y ∈ lw_all) (h3 : Cond.initialized y.cls ∈ lw_all) (h4 : Cond.code y b L r ∈ lw_all) : GoodIn lw_all (va_wsS own idx y (ws_ y b L r)) := by
  refine lw_app ?_ (lw_meth h4)
  intro w hw
  simp only [List.mem_cons, List.not_mem_nil, or_false] at hw
  rcases hw with e | e | e
  · rw [e]; exact h1
  · rw [e]; exact h2
  · rw [e]; exact h3
/-- the words of a contract for a method WITH HANDLERS (hh: its table) -/
abbrev wsW_ (y : MethodName) (b : ByteArray) (L : Nat) (r : Option FieldType) (hh : List (Nat × Nat × Nat × Nat)) : List Cond := Cond.codeWith y b L r hh :: lw_all
theorem lw_methW {y : MethodName} {b : ByteArray} {L : Nat} {r : Option FieldType} {hh : List (Nat × Nat × Nat × Nat)} (h : Cond.codeWith y b L r hh ∈ lw_all) : GoodIn lw_all (wsW_ y b L r hh) := by
  intro w hw
  rcases List.mem_cons.mp hw with e | e
  · rw [e]
    exact lw_self _ h
  · exact lw_self _ e
/-- any list of words by their places (lw_in), good -/
theorem lw_good {ws : List Cond} (h : ∀ w ∈ ws, w ∈ lw_all) : GoodIn lw_all ws := fun w hw => lw_self w (h w hw)
/-- what a call of a method with handlers asks: vx_cwVW n hts (lw_VW ..), vx_cwSW n hts (lw_SW ..) -/
theorem lw_VW {own : String} {idx : Nat} {C : String} {y : MethodName} {b : ByteArray} {L : Nat} {r : Option FieldType} {hh : List (Nat × Nat × Nat × Nat)} (h1 : Cond.methodLink own idx y ∈ lw_all) (h2 : Cond.instanceMethod y ∈ lw_all) (h3 : Cond.selects C y y ∈ lw_all) (h4 : Cond.initialized C ∈ lw_all) (h5 : Cond.codeWith y b L r hh ∈ lw_all) : GoodIn lw_all (wsV own idx C y (wsW_ y b L r hh)) := by
  refine lw_app ?_ (lw_methW h5)
  intro w hw
  simp only [List.mem_cons, List.not_mem_nil, or_false] at hw
  rcases hw with e | e | e | e
  · rw [e]; exact h1
  · rw [e]; exact h2
  · rw [e]; exact h3
  · rw [e]; exact h4
theorem lw_SW {own : String} {idx : Nat} {y : MethodName} {b : ByteArray} {L : Nat} {r : Option FieldType} {hh : List (Nat × Nat × Nat × Nat)} (h1 : Cond.methodLink own idx y ∈ lw_all) (h2 : Cond.static y ∈ lw_all) (h3 : Cond.initialized y.cls ∈ lw_all) (h4 : Cond.codeWith y b L r hh ∈ lw_all) : GoodIn lw_all (va_wsS own idx y (wsW_ y b L r hh)) := by
  refine lw_app ?_ (lw_methW h4)
  intro w hw
  simp only [List.mem_cons, List.not_mem_nil, or_false] at hw
  rcases hw with e | e | e
  · rw [e]; exact h1
  · rw [e]; exact h2
  · rw [e]; exact h3
/-- a word by its place in its run of the tables -/
theorem lw_at {r : List Cond} (hr : ∀ w ∈ r, w ∈ lw_tbl) {w : Cond} (i : Nat) (h : r[i]? = some w) : w ∈ lw_tbl := hr w (List.mem_of_getElem? h)
theorem lw_g {w : Cond} (h : w ∈ lw_tbl) (g : goodWord w = true) : w ∈ lw_all := List.mem_filter.mpr ⟨h, g⟩
theorem lw_ms : ∀ w ∈ k2_sels lw_privs, w ∈ lw_tbl := fun w h => show w ∈ k2_sels lw_privs ++ tables_1 from List.mem_append_left _ h
theorem lw_m1 : ∀ w ∈ tables_1_1, w ∈ lw_tbl := fun w h => show w ∈ k2_sels lw_privs ++ tables_1 from List.mem_append_right (k2_sels lw_privs) (show w ∈ tables_1 from List.mem_append_left _ h)
theorem lw_m2 : ∀ w ∈ tables_1_2, w ∈ lw_tbl := fun w h => show w ∈ k2_sels lw_privs ++ tables_1 from List.mem_append_right (k2_sels lw_privs) (show w ∈ tables_1 from List.mem_append_right _ (List.mem_append_left _ h))
theorem lw_m3 : ∀ w ∈ tables_1_3, w ∈ lw_tbl := fun w h => show w ∈ k2_sels lw_privs ++ tables_1 from List.mem_append_right (k2_sels lw_privs) (show w ∈ tables_1 from List.mem_append_right _ (List.mem_append_right _ (List.mem_append_left _ h)))
theorem lw_m4 : ∀ w ∈ tables_1_4, w ∈ lw_tbl := fun w h => show w ∈ k2_sels lw_privs ++ tables_1 from List.mem_append_right (k2_sels lw_privs) (show w ∈ tables_1 from List.mem_append_right _ (List.mem_append_right _ (List.mem_append_right _ (List.mem_append_left _ h))))
theorem lw_m5 : ∀ w ∈ tables_1_5, w ∈ lw_tbl := fun w h => show w ∈ k2_sels lw_privs ++ tables_1 from List.mem_append_right (k2_sels lw_privs) (show w ∈ tables_1 from List.mem_append_right _ (List.mem_append_right _ (List.mem_append_right _ (List.mem_append_right _ (List.mem_append_left _ h)))))
theorem lw_m6 : ∀ w ∈ tables_1_6, w ∈ lw_tbl := fun w h => show w ∈ k2_sels lw_privs ++ tables_1 from List.mem_append_right (k2_sels lw_privs) (show w ∈ tables_1 from List.mem_append_right _ (List.mem_append_right _ (List.mem_append_right _ (List.mem_append_right _ (List.mem_append_right _ (List.mem_append_left _ h))))))
theorem lw_m7 : ∀ w ∈ tables_1_7, w ∈ lw_tbl := fun w h => show w ∈ k2_sels lw_privs ++ tables_1 from List.mem_append_right (k2_sels lw_privs) (show w ∈ tables_1 from List.mem_append_right _ (List.mem_append_right _ (List.mem_append_right _ (List.mem_append_right _ (List.mem_append_right _ (List.mem_append_right _ (List.mem_append_left _ h)))))))
theorem lw_m8 : ∀ w ∈ tables_1_8, w ∈ lw_tbl := fun w h => show w ∈ k2_sels lw_privs ++ tables_1 from List.mem_append_right (k2_sels lw_privs) (show w ∈ tables_1 from List.mem_append_right _ (List.mem_append_right _ (List.mem_append_right _ (List.mem_append_right _ (List.mem_append_right _ (List.mem_append_right _ (List.mem_append_right _ h)))))))
theorem qs0 : (Cond.selects "java/lang/Throwable" ⟨"java/lang/Throwable", "fillInStackTrace", "(I)Ljava/lang/Throwable;"⟩ ⟨"java/lang/Throwable", "fillInStackTrace", "(I)Ljava/lang/Throwable;"⟩) ∈ lw_all := lw_g (lw_at lw_ms 0 rfl) rfl
theorem qs1 : (Cond.selects "XactKernel" ⟨"XactKernel", "process", "(I)LXactKernel$Process;"⟩ ⟨"XactKernel", "process", "(I)LXactKernel$Process;"⟩) ∈ lw_all := lw_g (lw_at lw_ms 1 rfl) rfl
theorem qs2 : (Cond.selects "java/util/ArrayList" ⟨"java/util/ArrayList", "add", "(Ljava/lang/Object;[Ljava/lang/Object;I)V"⟩ ⟨"java/util/ArrayList", "add", "(Ljava/lang/Object;[Ljava/lang/Object;I)V"⟩) ∈ lw_all := lw_g (lw_at lw_ms 2 rfl) rfl
theorem qs3 : (Cond.selects "java/util/ArrayList" ⟨"java/util/ArrayList", "grow", "()[Ljava/lang/Object;"⟩ ⟨"java/util/ArrayList", "grow", "()[Ljava/lang/Object;"⟩) ∈ lw_all := lw_g (lw_at lw_ms 3 rfl) rfl
theorem qs4 : (Cond.selects "java/util/ArrayList" ⟨"java/util/ArrayList", "grow", "(I)[Ljava/lang/Object;"⟩ ⟨"java/util/ArrayList", "grow", "(I)[Ljava/lang/Object;"⟩) ∈ lw_all := lw_g (lw_at lw_ms 4 rfl) rfl
theorem qs5 : (Cond.selects "XactKernel" ⟨"XactKernel", "ends", "(LXactKernel$Transaction;)V"⟩ ⟨"XactKernel", "ends", "(LXactKernel$Transaction;)V"⟩) ∈ lw_all := lw_g (lw_at lw_ms 5 rfl) rfl
theorem qs6 : (Cond.selects "XactKernel" ⟨"XactKernel", "drop", "(LXactKernel$Transaction;)V"⟩ ⟨"XactKernel", "drop", "(LXactKernel$Transaction;)V"⟩) ∈ lw_all := lw_g (lw_at lw_ms 6 rfl) rfl
theorem qs7 : (Cond.selects "java/util/ArrayList" ⟨"java/util/ArrayList", "fastRemove", "([Ljava/lang/Object;I)V"⟩ ⟨"java/util/ArrayList", "fastRemove", "([Ljava/lang/Object;I)V"⟩) ∈ lw_all := lw_g (lw_at lw_ms 7 rfl) rfl
theorem qs8 : (Cond.selects "XactKernel" ⟨"XactKernel", "sweep", "()V"⟩ ⟨"XactKernel", "sweep", "()V"⟩) ∈ lw_all := lw_g (lw_at lw_ms 8 rfl) rfl
theorem qs9 : (Cond.selects "XactKernel" ⟨"XactKernel", "stores", "(I)Z"⟩ ⟨"XactKernel", "stores", "(I)Z"⟩) ∈ lw_all := lw_g (lw_at lw_ms 9 rfl) rfl
theorem qs10 : (Cond.selects "XactKernel" ⟨"XactKernel", "store", "(I)V"⟩ ⟨"XactKernel", "store", "(I)V"⟩) ∈ lw_all := lw_g (lw_at lw_ms 10 rfl) rfl
theorem qs11 : (Cond.selects "XactKernel" ⟨"XactKernel", "disk", "(I)V"⟩ ⟨"XactKernel", "disk", "(I)V"⟩) ∈ lw_all := lw_g (lw_at lw_ms 11 rfl) rfl
theorem qs12 : (Cond.selects "XactKernel" ⟨"XactKernel", "crash", "(LXactKernel$Transaction;Z)V"⟩ ⟨"XactKernel", "crash", "(LXactKernel$Transaction;Z)V"⟩) ∈ lw_all := lw_g (lw_at lw_ms 12 rfl) rfl
theorem qs13 : (Cond.selects "XactKernel" ⟨"XactKernel", "put", "(LXactKernel$Transaction;)V"⟩ ⟨"XactKernel", "put", "(LXactKernel$Transaction;)V"⟩) ∈ lw_all := lw_g (lw_at lw_ms 13 rfl) rfl
theorem qs14 : (Cond.selects "XactKernel" ⟨"XactKernel", "current", "(LXactKernel$Process;)LXactKernel$Transaction;"⟩ ⟨"XactKernel", "current", "(LXactKernel$Process;)LXactKernel$Transaction;"⟩) ∈ lw_all := lw_g (lw_at lw_ms 14 rfl) rfl
theorem qs15 : (Cond.selects "XactKernel" ⟨"XactKernel", "holder", "(LXactKernel$Transaction;I)I"⟩ ⟨"XactKernel", "holder", "(LXactKernel$Transaction;I)I"⟩) ∈ lw_all := lw_g (lw_at lw_ms 15 rfl) rfl
theorem qs16 : (Cond.selects "XactKernel" ⟨"XactKernel", "walk", "(LXactKernel$Transaction;II)I"⟩ ⟨"XactKernel", "walk", "(LXactKernel$Transaction;II)I"⟩) ∈ lw_all := lw_g (lw_at lw_ms 16 rfl) rfl
theorem qs17 : (Cond.selects "XactKernel" ⟨"XactKernel", "within", "(LXactKernel$Transaction;I)LXactKernel$DirectoryItem;"⟩ ⟨"XactKernel", "within", "(LXactKernel$Transaction;I)LXactKernel$DirectoryItem;"⟩) ∈ lw_all := lw_g (lw_at lw_ms 17 rfl) rfl
theorem qs18 : (Cond.selects "XactKernel" ⟨"XactKernel", "reads", "(LXactKernel$Transaction;I)LXactKernel$Item;"⟩ ⟨"XactKernel", "reads", "(LXactKernel$Transaction;I)LXactKernel$Item;"⟩) ∈ lw_all := lw_g (lw_at lw_ms 18 rfl) rfl
theorem qs19 : (Cond.selects "XactKernel" ⟨"XactKernel", "meet", "(LXactKernel$Transaction;IZ)V"⟩ ⟨"XactKernel", "meet", "(LXactKernel$Transaction;IZ)V"⟩) ∈ lw_all := lw_g (lw_at lw_ms 19 rfl) rfl
theorem qs20 : (Cond.selects "XactKernel" ⟨"XactKernel", "under", "(LXactKernel$Transaction;II)I"⟩ ⟨"XactKernel", "under", "(LXactKernel$Transaction;II)I"⟩) ∈ lw_all := lw_g (lw_at lw_ms 20 rfl) rfl
theorem qs21 : (Cond.selects "XactKernel" ⟨"XactKernel", "makes", "(LXactKernel$Transaction;IILXactKernel$Item;)I"⟩ ⟨"XactKernel", "makes", "(LXactKernel$Transaction;IILXactKernel$Item;)I"⟩) ∈ lw_all := lw_g (lw_at lw_ms 21 rfl) rfl
theorem qs22 : (Cond.selects "XactKernel" ⟨"XactKernel", "free", "(II)I"⟩ ⟨"XactKernel", "free", "(II)I"⟩) ∈ lw_all := lw_g (lw_at lw_ms 22 rfl) rfl
theorem qs23 : (Cond.selects "XactKernel" ⟨"XactKernel", "isFree", "(I)Z"⟩ ⟨"XactKernel", "isFree", "(I)Z"⟩) ∈ lw_all := lw_g (lw_at lw_ms 23 rfl) rfl
theorem qs24 : (Cond.selects "XactKernel" ⟨"XactKernel", "full", "(LXactKernel$Transaction;I)V"⟩ ⟨"XactKernel", "full", "(LXactKernel$Transaction;I)V"⟩) ∈ lw_all := lw_g (lw_at lw_ms 24 rfl) rfl
theorem qs25 : (Cond.selects "XactKernel" ⟨"XactKernel", "enter", "(LXactKernel$Transaction;III)V"⟩ ⟨"XactKernel", "enter", "(LXactKernel$Transaction;III)V"⟩) ∈ lw_all := lw_g (lw_at lw_ms 25 rfl) rfl
theorem qs26 : (Cond.selects "XactKernel" ⟨"XactKernel", "writes", "(LXactKernel$Transaction;I)LXactKernel$Item;"⟩ ⟨"XactKernel", "writes", "(LXactKernel$Transaction;I)LXactKernel$Item;"⟩) ∈ lw_all := lw_g (lw_at lw_ms 26 rfl) rfl
theorem qs27 : (Cond.selects "XactKernel" ⟨"XactKernel", "leave", "(LXactKernel$Transaction;)V"⟩ ⟨"XactKernel", "leave", "(LXactKernel$Transaction;)V"⟩) ∈ lw_all := lw_g (lw_at lw_ms 27 rfl) rfl
theorem qs28 : (Cond.selects "XactKernel" ⟨"XactKernel", "descriptor", "(LXactKernel$Process;I)LXactKernel$Descriptor;"⟩ ⟨"XactKernel", "descriptor", "(LXactKernel$Process;I)LXactKernel$Descriptor;"⟩) ∈ lw_all := lw_g (lw_at lw_ms 28 rfl) rfl
theorem qs29 : (Cond.selects "XactKernelModel" ⟨"XactKernelModel", "isProcess", "(I)Z"⟩ ⟨"XactKernelModel", "isProcess", "(I)Z"⟩) ∈ lw_all := lw_g (lw_at lw_ms 29 rfl) rfl
theorem qs30 : (Cond.selects "XactKernelModel" ⟨"XactKernelModel", "refuse", "(I)I"⟩ ⟨"XactKernelModel", "refuse", "(I)I"⟩) ∈ lw_all := lw_g (lw_at lw_ms 30 rfl) rfl
theorem qs31 : (Cond.selects "XactKernelModel" ⟨"XactKernelModel", "enter", "(I)Z"⟩ ⟨"XactKernelModel", "enter", "(I)Z"⟩) ∈ lw_all := lw_g (lw_at lw_ms 31 rfl) rfl
theorem qs32 : (Cond.selects "XactKernelModel" ⟨"XactKernelModel", "plain", "(I)Z"⟩ ⟨"XactKernelModel", "plain", "(I)Z"⟩) ∈ lw_all := lw_g (lw_at lw_ms 32 rfl) rfl
theorem qs33 : (Cond.selects "XactKernelModel" ⟨"XactKernelModel", "done", "(IIII)I"⟩ ⟨"XactKernelModel", "done", "(IIII)I"⟩) ∈ lw_all := lw_g (lw_at lw_ms 33 rfl) rfl
theorem qs34 : (Cond.selects "XactKernelModel" ⟨"XactKernelModel", "finish", "(I)I"⟩ ⟨"XactKernelModel", "finish", "(I)I"⟩) ∈ lw_all := lw_g (lw_at lw_ms 34 rfl) rfl
theorem qs35 : (Cond.selects "XactKernelModel" ⟨"XactKernelModel", "aborted", "(I)V"⟩ ⟨"XactKernelModel", "aborted", "(I)V"⟩) ∈ lw_all := lw_g (lw_at lw_ms 35 rfl) rfl
theorem qs36 : (Cond.selects "XactKernelModel" ⟨"XactKernelModel", "drop", "(I)V"⟩ ⟨"XactKernelModel", "drop", "(I)V"⟩) ∈ lw_all := lw_g (lw_at lw_ms 36 rfl) rfl
theorem qs37 : (Cond.selects "XactKernelModel" ⟨"XactKernelModel", "copy", "(II)V"⟩ ⟨"XactKernelModel", "copy", "(II)V"⟩) ∈ lw_all := lw_g (lw_at lw_ms 37 rfl) rfl
theorem qs38 : (Cond.selects "XactKernelModel" ⟨"XactKernelModel", "send", "(II)V"⟩ ⟨"XactKernelModel", "send", "(II)V"⟩) ∈ lw_all := lw_g (lw_at lw_ms 38 rfl) rfl
theorem qs39 : (Cond.selects "XactKernelModel" ⟨"XactKernelModel", "sweep", "()V"⟩ ⟨"XactKernelModel", "sweep", "()V"⟩) ∈ lw_all := lw_g (lw_at lw_ms 39 rfl) rfl
theorem qs40 : (Cond.selects "XactKernelModel" ⟨"XactKernelModel", "isNamed", "(I)Z"⟩ ⟨"XactKernelModel", "isNamed", "(I)Z"⟩) ∈ lw_all := lw_g (lw_at lw_ms 40 rfl) rfl
theorem qs41 : (Cond.selects "XactKernelModel" ⟨"XactKernelModel", "toHolder", "(IIII)I"⟩ ⟨"XactKernelModel", "toHolder", "(IIII)I"⟩) ∈ lw_all := lw_g (lw_at lw_ms 41 rfl) rfl
theorem qs42 : (Cond.selects "XactKernelModel" ⟨"XactKernelModel", "walk", "(IIIII)I"⟩ ⟨"XactKernelModel", "walk", "(IIIII)I"⟩) ∈ lw_all := lw_g (lw_at lw_ms 42 rfl) rfl
theorem qs43 : (Cond.selects "XactKernelModel" ⟨"XactKernelModel", "reads", "(II)Z"⟩ ⟨"XactKernelModel", "reads", "(II)Z"⟩) ∈ lw_all := lw_g (lw_at lw_ms 43 rfl) rfl
theorem qs44 : (Cond.selects "XactKernelModel" ⟨"XactKernelModel", "meet", "(IIZ)Z"⟩ ⟨"XactKernelModel", "meet", "(IIZ)Z"⟩) ∈ lw_all := lw_g (lw_at lw_ms 44 rfl) rfl
theorem qs45 : (Cond.selects "XactKernelModel" ⟨"XactKernelModel", "of", "(II)I"⟩ ⟨"XactKernelModel", "of", "(II)I"⟩) ∈ lw_all := lw_g (lw_at lw_ms 45 rfl) rfl
theorem qs46 : (Cond.selects "XactKernelModel" ⟨"XactKernelModel", "under", "(III)I"⟩ ⟨"XactKernelModel", "under", "(III)I"⟩) ∈ lw_all := lw_g (lw_at lw_ms 46 rfl) rfl
theorem qs47 : (Cond.selects "XactKernelModel" ⟨"XactKernelModel", "fail", "(II)I"⟩ ⟨"XactKernelModel", "fail", "(II)I"⟩) ∈ lw_all := lw_g (lw_at lw_ms 47 rfl) rfl
theorem qs48 : (Cond.selects "XactKernelModel" ⟨"XactKernelModel", "freeDescriptor", "(II)I"⟩ ⟨"XactKernelModel", "freeDescriptor", "(II)I"⟩) ∈ lw_all := lw_g (lw_at lw_ms 48 rfl) rfl
theorem qs49 : (Cond.selects "XactKernelModel" ⟨"XactKernelModel", "make", "(II)I"⟩ ⟨"XactKernelModel", "make", "(II)I"⟩) ∈ lw_all := lw_g (lw_at lw_ms 49 rfl) rfl
theorem qs50 : (Cond.selects "XactKernelModel" ⟨"XactKernelModel", "spare", "(II)I"⟩ ⟨"XactKernelModel", "spare", "(II)I"⟩) ∈ lw_all := lw_g (lw_at lw_ms 50 rfl) rfl
theorem qs51 : (Cond.selects "XactKernelModel" ⟨"XactKernelModel", "writes", "(II)Z"⟩ ⟨"XactKernelModel", "writes", "(II)Z"⟩) ∈ lw_all := lw_g (lw_at lw_ms 51 rfl) rfl
theorem qs52 : (Cond.selects "XactKernelModel" ⟨"XactKernelModel", "create", "(III)I"⟩ ⟨"XactKernelModel", "create", "(III)I"⟩) ∈ lw_all := lw_g (lw_at lw_ms 52 rfl) rfl
theorem qs53 : (Cond.selects "XactKernelModel" ⟨"XactKernelModel", "append", "(IIII)V"⟩ ⟨"XactKernelModel", "append", "(IIII)V"⟩) ∈ lw_all := lw_g (lw_at lw_ms 53 rfl) rfl
theorem qs54 : (Cond.selects "XactKernelModel" ⟨"XactKernelModel", "isHeld", "(II)Z"⟩ ⟨"XactKernelModel", "isHeld", "(II)Z"⟩) ∈ lw_all := lw_g (lw_at lw_ms 54 rfl) rfl
theorem qs55 : (Cond.selects "XactKernelModel" ⟨"XactKernelModel", "remove", "(III)V"⟩ ⟨"XactKernelModel", "remove", "(III)V"⟩) ∈ lw_all := lw_g (lw_at lw_ms 55 rfl) rfl
theorem qs56 : (Cond.selects "XactKernelModel" ⟨"XactKernelModel", "processes", "()I"⟩ ⟨"XactKernelModel", "processes", "()I"⟩) ∈ lw_all := lw_g (lw_at lw_ms 56 rfl) rfl
