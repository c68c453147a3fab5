-- ===== PART A: goes FIRST, ahead of the names: the tables' words, and 'selects' of the private methods out of them =====
/-- a private method of a class that the tables say can be made, by its rows of tables_1 -/
def lw_okq (q : MethodName × Nat) : Prop := (q.1.cls ≠ "java/lang/invoke/MethodHandle" ∧ q.1.cls ≠ "java/lang/invoke/VarHandle") ∧ Cond.instantiable q.1.cls q.2 ∈ tables_1 ∧ Cond.privateMethod q.1 ∈ tables_1 ∧ Cond.instanceMethod q.1 ∈ tables_1
set_option maxRecDepth 100000
theorem lw_t1 {w : Cond} (h : w ∈ tables_1_1) : w ∈ tables_1 := List.mem_append_left _ h
theorem lw_t2 {w : Cond} (h : w ∈ tables_1_2) : w ∈ tables_1 := List.mem_append_right _ (List.mem_append_left _ h)
theorem lw_t3 {w : Cond} (h : w ∈ tables_1_3) : w ∈ tables_1 := List.mem_append_right _ (List.mem_append_right _ (List.mem_append_left _ h))
theorem lw_t4 {w : Cond} (h : w ∈ tables_1_4) : w ∈ tables_1 := List.mem_append_right _ (List.mem_append_right _ (List.mem_append_right _ (List.mem_append_left _ h)))
theorem lw_t5 {w : Cond} (h : w ∈ tables_1_5) : w ∈ tables_1 := List.mem_append_right _ (List.mem_append_right _ (List.mem_append_right _ (List.mem_append_right _ (List.mem_append_left _ h))))
theorem lw_t6 {w : Cond} (h : w ∈ tables_1_6) : w ∈ tables_1 := List.mem_append_right _ (List.mem_append_right _ (List.mem_append_right _ (List.mem_append_right _ (List.mem_append_right _ (List.mem_append_left _ h)))))
theorem lw_t7 {w : Cond} (h : w ∈ tables_1_7) : w ∈ tables_1 := List.mem_append_right _ (List.mem_append_right _ (List.mem_append_right _ (List.mem_append_right _ (List.mem_append_right _ (List.mem_append_right _ (List.mem_append_left _ h))))))
theorem lw_t8 {w : Cond} (h : w ∈ tables_1_8) : w ∈ tables_1 := List.mem_append_right _ (List.mem_append_right _ (List.mem_append_right _ (List.mem_append_right _ (List.mem_append_right _ (List.mem_append_right _ (List.mem_append_right _ (List.mem_append_left _ h)))))))
theorem lw_t9 {w : Cond} (h : w ∈ tables_1_9) : w ∈ tables_1 := List.mem_append_right _ (List.mem_append_right _ (List.mem_append_right _ (List.mem_append_right _ (List.mem_append_right _ (List.mem_append_right _ (List.mem_append_right _ (List.mem_append_right _ (List.mem_append_left _ h))))))))
theorem lw_t10 {w : Cond} (h : w ∈ tables_1_10) : w ∈ tables_1 := List.mem_append_right _ (List.mem_append_right _ (List.mem_append_right _ (List.mem_append_right _ (List.mem_append_right _ (List.mem_append_right _ (List.mem_append_right _ (List.mem_append_right _ (List.mem_append_right _ h))))))))
theorem lw_p0 : lw_okq (⟨"BranchNames", "lambda$new$2", "(LBranchNames$Tree;)I"⟩, 34) := ⟨⟨by decide +kernel, by decide +kernel⟩, lw_t1 (List.mem_of_getElem? (i := 36) rfl), lw_t2 (List.mem_of_getElem? (i := 101) rfl), lw_t2 (List.mem_of_getElem? (i := 102) rfl)⟩
theorem lw_p1 : lw_okq (⟨"BranchNames", "twos", "(LBranchNames$Tree;I)I"⟩, 34) := ⟨⟨by decide +kernel, by decide +kernel⟩, lw_t1 (List.mem_of_getElem? (i := 36) rfl), lw_t2 (List.mem_of_getElem? (i := 105) rfl), lw_t2 (List.mem_of_getElem? (i := 106) rfl)⟩
theorem lw_p2 : lw_okq (⟨"BranchNames", "measures", "(LBranchNames$Tree;)V"⟩, 34) := ⟨⟨by decide +kernel, by decide +kernel⟩, lw_t1 (List.mem_of_getElem? (i := 36) rfl), lw_t2 (List.mem_of_getElem? (i := 109) rfl), lw_t2 (List.mem_of_getElem? (i := 110) rfl)⟩
theorem lw_p3 : lw_okq (⟨"BranchNames", "goes", "(LBranchNames$Tree;IIII)V"⟩, 34) := ⟨⟨by decide +kernel, by decide +kernel⟩, lw_t1 (List.mem_of_getElem? (i := 36) rfl), lw_t2 (List.mem_of_getElem? (i := 113) rfl), lw_t2 (List.mem_of_getElem? (i := 114) rfl)⟩
theorem lw_p4 : lw_okq (⟨"BranchNames", "lambda$new$3", "(LBranchNames$Tree;)I"⟩, 34) := ⟨⟨by decide +kernel, by decide +kernel⟩, lw_t1 (List.mem_of_getElem? (i := 36) rfl), lw_t2 (List.mem_of_getElem? (i := 118) rfl), lw_t2 (List.mem_of_getElem? (i := 119) rfl)⟩
theorem lw_p5 : lw_okq (⟨"BranchNames", "leastDeep", "(LBranchNames$Tree;)I"⟩, 34) := ⟨⟨by decide +kernel, by decide +kernel⟩, lw_t1 (List.mem_of_getElem? (i := 36) rfl), lw_t2 (List.mem_of_getElem? (i := 121) rfl), lw_t2 (List.mem_of_getElem? (i := 122) rfl)⟩
theorem lw_p6 : lw_okq (⟨"BranchNames", "centre", "(LBranchNames$Tree;I)I"⟩, 34) := ⟨⟨by decide +kernel, by decide +kernel⟩, lw_t1 (List.mem_of_getElem? (i := 36) rfl), lw_t2 (List.mem_of_getElem? (i := 125) rfl), lw_t2 (List.mem_of_getElem? (i := 126) rfl)⟩
theorem lw_p7 : lw_okq (⟨"BranchNames", "deep", "(LBranchNames$Tree;I)I"⟩, 34) := ⟨⟨by decide +kernel, by decide +kernel⟩, lw_t1 (List.mem_of_getElem? (i := 36) rfl), lw_t2 (List.mem_of_getElem? (i := 129) rfl), lw_t2 (List.mem_of_getElem? (i := 130) rfl)⟩
theorem lw_p8 : lw_okq (⟨"BranchNames", "unlikeOf", "(LBranchNames$Tree;)I"⟩, 34) := ⟨⟨by decide +kernel, by decide +kernel⟩, lw_t1 (List.mem_of_getElem? (i := 36) rfl), lw_t2 (List.mem_of_getElem? (i := 134) rfl), lw_t2 (List.mem_of_getElem? (i := 135) rfl)⟩
theorem lw_p9 : lw_okq (⟨"BranchNames", "looks", "(LBranchNames$Tree;)V"⟩, 34) := ⟨⟨by decide +kernel, by decide +kernel⟩, lw_t1 (List.mem_of_getElem? (i := 36) rfl), lw_t2 (List.mem_of_getElem? (i := 138) rfl), lw_t2 (List.mem_of_getElem? (i := 139) rfl)⟩
theorem lw_p10 : lw_okq (⟨"BranchNames", "seenAt", "(LBranchNames$Tree;I)J"⟩, 34) := ⟨⟨by decide +kernel, by decide +kernel⟩, lw_t1 (List.mem_of_getElem? (i := 36) rfl), lw_t2 (List.mem_of_getElem? (i := 142) rfl), lw_t2 (List.mem_of_getElem? (i := 143) rfl)⟩
theorem lw_p11 : lw_okq (⟨"BranchNames", "codeOf", "(LBranchNames$Tree;III)J"⟩, 34) := ⟨⟨by decide +kernel, by decide +kernel⟩, lw_t1 (List.mem_of_getElem? (i := 36) rfl), lw_t2 (List.mem_of_getElem? (i := 146) rfl), lw_t2 (List.mem_of_getElem? (i := 147) rfl)⟩
theorem lw_p12 : lw_okq (⟨"BranchNames", "leastAlike", "(I)I"⟩, 34) := ⟨⟨by decide +kernel, by decide +kernel⟩, lw_t1 (List.mem_of_getElem? (i := 36) rfl), lw_t2 (List.mem_of_getElem? (i := 157) rfl), lw_t2 (List.mem_of_getElem? (i := 158) rfl)⟩
theorem lw_p13 : lw_okq (⟨"BranchNames", "waysOf", "(LBranchNames$Tree;)I"⟩, 34) := ⟨⟨by decide +kernel, by decide +kernel⟩, lw_t1 (List.mem_of_getElem? (i := 36) rfl), lw_t2 (List.mem_of_getElem? (i := 160) rfl), lw_t2 (List.mem_of_getElem? (i := 161) rfl)⟩
theorem lw_p14 : lw_okq (⟨"BranchNames", "alike", "(LBranchNames$Tree;I)I"⟩, 34) := ⟨⟨by decide +kernel, by decide +kernel⟩, lw_t1 (List.mem_of_getElem? (i := 36) rfl), lw_t2 (List.mem_of_getElem? (i := 164) rfl), lw_t2 (List.mem_of_getElem? (i := 165) rfl)⟩
theorem lw_p15 : lw_okq (⟨"BranchNames", "ways", "(LBranchNames$Tree;III)I"⟩, 34) := ⟨⟨by decide +kernel, by decide +kernel⟩, lw_t1 (List.mem_of_getElem? (i := 36) rfl), lw_t2 (List.mem_of_getElem? (i := 168) rfl), lw_t2 (List.mem_of_getElem? (i := 169) rfl)⟩
def lw_privs_1 : List (MethodName × Nat) := [(⟨"BranchNames", "lambda$new$2", "(LBranchNames$Tree;)I"⟩, 34), (⟨"BranchNames", "twos", "(LBranchNames$Tree;I)I"⟩, 34), (⟨"BranchNames", "measures", "(LBranchNames$Tree;)V"⟩, 34), (⟨"BranchNames", "goes", "(LBranchNames$Tree;IIII)V"⟩, 34), (⟨"BranchNames", "lambda$new$3", "(LBranchNames$Tree;)I"⟩, 34), (⟨"BranchNames", "leastDeep", "(LBranchNames$Tree;)I"⟩, 34), (⟨"BranchNames", "centre", "(LBranchNames$Tree;I)I"⟩, 34), (⟨"BranchNames", "deep", "(LBranchNames$Tree;I)I"⟩, 34), (⟨"BranchNames", "unlikeOf", "(LBranchNames$Tree;)I"⟩, 34), (⟨"BranchNames", "looks", "(LBranchNames$Tree;)V"⟩, 34), (⟨"BranchNames", "seenAt", "(LBranchNames$Tree;I)J"⟩, 34), (⟨"BranchNames", "codeOf", "(LBranchNames$Tree;III)J"⟩, 34), (⟨"BranchNames", "leastAlike", "(I)I"⟩, 34), (⟨"BranchNames", "waysOf", "(LBranchNames$Tree;)I"⟩, 34), (⟨"BranchNames", "alike", "(LBranchNames$Tree;I)I"⟩, 34), (⟨"BranchNames", "ways", "(LBranchNames$Tree;III)I"⟩, 34)]
theorem lw_r1 : ∀ q ∈ lw_privs_1, lw_okq q := List.forall_mem_cons.mpr ⟨lw_p0, List.forall_mem_cons.mpr ⟨lw_p1, List.forall_mem_cons.mpr ⟨lw_p2, List.forall_mem_cons.mpr ⟨lw_p3, List.forall_mem_cons.mpr ⟨lw_p4, List.forall_mem_cons.mpr ⟨lw_p5, List.forall_mem_cons.mpr ⟨lw_p6, List.forall_mem_cons.mpr ⟨lw_p7, List.forall_mem_cons.mpr ⟨lw_p8, List.forall_mem_cons.mpr ⟨lw_p9, List.forall_mem_cons.mpr ⟨lw_p10, List.forall_mem_cons.mpr ⟨lw_p11, List.forall_mem_cons.mpr ⟨lw_p12, List.forall_mem_cons.mpr ⟨lw_p13, List.forall_mem_cons.mpr ⟨lw_p14, List.forall_mem_cons.mpr ⟨lw_p15, fun _ h => absurd h List.not_mem_nil⟩⟩⟩⟩⟩⟩⟩⟩⟩⟩⟩⟩⟩⟩⟩⟩
theorem lw_p16 : lw_okq (⟨"BranchNames", "grownOf", "(LBranchNames$Tree;)I"⟩, 34) := ⟨⟨by decide +kernel, by decide +kernel⟩, lw_t1 (List.mem_of_getElem? (i := 36) rfl), lw_t2 (List.mem_of_getElem? (i := 171) rfl), lw_t2 (List.mem_of_getElem? (i := 172) rfl)⟩
theorem lw_p17 : lw_okq (⟨"BranchNames", "keyOf", "(LBranchNames$Tree;)J"⟩, 34) := ⟨⟨by decide +kernel, by decide +kernel⟩, lw_t1 (List.mem_of_getElem? (i := 36) rfl), lw_t2 (List.mem_of_getElem? (i := 191) rfl), lw_t2 (List.mem_of_getElem? (i := 192) rfl)⟩
theorem lw_p18 : lw_okq (⟨"BranchNames", "lambda$new$4", "(LBranchNames$Tree;)I"⟩, 34) := ⟨⟨by decide +kernel, by decide +kernel⟩, lw_t1 (List.mem_of_getElem? (i := 36) rfl), lw_t2 (List.mem_of_getElem? (i := 197) rfl), lw_t2 (List.mem_of_getElem? (i := 198) rfl)⟩
theorem lw_p19 : lw_okq (⟨"BranchNames", "greatestDeep", "(LBranchNames$Tree;)I"⟩, 34) := ⟨⟨by decide +kernel, by decide +kernel⟩, lw_t1 (List.mem_of_getElem? (i := 36) rfl), lw_t2 (List.mem_of_getElem? (i := 201) rfl), lw_t2 (List.mem_of_getElem? (i := 202) rfl)⟩
theorem lw_p20 : lw_okq (⟨"BranchNames", "branchesOf", "(LBranchNames$Tree;)I"⟩, 34) := ⟨⟨by decide +kernel, by decide +kernel⟩, lw_t1 (List.mem_of_getElem? (i := 36) rfl), lw_t2 (List.mem_of_getElem? (i := 204) rfl), lw_t2 (List.mem_of_getElem? (i := 205) rfl)⟩
theorem lw_p21 : lw_okq (⟨"BranchNames", "seeksAll", "(LBranchNames$Tree;IILBranchNames$Sees;)V"⟩, 34) := ⟨⟨by decide +kernel, by decide +kernel⟩, lw_t1 (List.mem_of_getElem? (i := 36) rfl), lw_t3 (List.mem_of_getElem? (i := 18) rfl), lw_t3 (List.mem_of_getElem? (i := 19) rfl)⟩
theorem lw_p22 : lw_okq (⟨"BranchNames$Seeker", "hanging", "(I)I"⟩, 3) := ⟨⟨by decide +kernel, by decide +kernel⟩, lw_t3 (List.mem_of_getElem? (i := 22) rfl), lw_t3 (List.mem_of_getElem? (i := 44) rfl), lw_t3 (List.mem_of_getElem? (i := 45) rfl)⟩
theorem lw_p23 : lw_okq (⟨"BranchNames$1", "isBetter", "(LBranchNames$Way;)Z"⟩, 2) := ⟨⟨by decide +kernel, by decide +kernel⟩, lw_t2 (List.mem_of_getElem? (i := 217) rfl), lw_t3 (List.mem_of_getElem? (i := 66) rfl), lw_t3 (List.mem_of_getElem? (i := 67) rfl)⟩
theorem lw_p24 : lw_okq (⟨"BranchNames", "comesIn", "(I)V"⟩, 34) := ⟨⟨by decide +kernel, by decide +kernel⟩, lw_t1 (List.mem_of_getElem? (i := 36) rfl), lw_t3 (List.mem_of_getElem? (i := 89) rfl), lw_t3 (List.mem_of_getElem? (i := 90) rfl)⟩
theorem lw_p25 : lw_okq (⟨"BranchNames", "copied", "()[I"⟩, 34) := ⟨⟨by decide +kernel, by decide +kernel⟩, lw_t1 (List.mem_of_getElem? (i := 36) rfl), lw_t3 (List.mem_of_getElem? (i := 93) rfl), lw_t3 (List.mem_of_getElem? (i := 94) rfl)⟩
theorem lw_p26 : lw_okq (⟨"BranchNames", "lists", "(I)V"⟩, 34) := ⟨⟨by decide +kernel, by decide +kernel⟩, lw_t1 (List.mem_of_getElem? (i := 36) rfl), lw_t3 (List.mem_of_getElem? (i := 98) rfl), lw_t3 (List.mem_of_getElem? (i := 99) rfl)⟩
theorem lw_p27 : lw_okq (⟨"BranchNames", "isBy", "(LBranchNames$Tree;II)Z"⟩, 34) := ⟨⟨by decide +kernel, by decide +kernel⟩, lw_t1 (List.mem_of_getElem? (i := 36) rfl), lw_t3 (List.mem_of_getElem? (i := 102) rfl), lw_t3 (List.mem_of_getElem? (i := 103) rfl)⟩
theorem lw_p28 : lw_okq (⟨"BranchNames", "digitsOf", "(II)V"⟩, 34) := ⟨⟨by decide +kernel, by decide +kernel⟩, lw_t1 (List.mem_of_getElem? (i := 36) rfl), lw_t3 (List.mem_of_getElem? (i := 106) rfl), lw_t3 (List.mem_of_getElem? (i := 107) rfl)⟩
theorem lw_p29 : lw_okq (⟨"BranchNames", "isTwig", "(LBranchNames$Tree;II)Z"⟩, 34) := ⟨⟨by decide +kernel, by decide +kernel⟩, lw_t1 (List.mem_of_getElem? (i := 36) rfl), lw_t3 (List.mem_of_getElem? (i := 111) rfl), lw_t3 (List.mem_of_getElem? (i := 112) rfl)⟩
theorem lw_p30 : lw_okq (⟨"BranchNames", "counts", "()V"⟩, 34) := ⟨⟨by decide +kernel, by decide +kernel⟩, lw_t1 (List.mem_of_getElem? (i := 36) rfl), lw_t3 (List.mem_of_getElem? (i := 115) rfl), lw_t3 (List.mem_of_getElem? (i := 116) rfl)⟩
theorem lw_p31 : lw_okq (⟨"BranchNames", "setsOf", "(II)J"⟩, 34) := ⟨⟨by decide +kernel, by decide +kernel⟩, lw_t1 (List.mem_of_getElem? (i := 36) rfl), lw_t3 (List.mem_of_getElem? (i := 119) rfl), lw_t3 (List.mem_of_getElem? (i := 120) rfl)⟩
def lw_privs_2 : List (MethodName × Nat) := [(⟨"BranchNames", "grownOf", "(LBranchNames$Tree;)I"⟩, 34), (⟨"BranchNames", "keyOf", "(LBranchNames$Tree;)J"⟩, 34), (⟨"BranchNames", "lambda$new$4", "(LBranchNames$Tree;)I"⟩, 34), (⟨"BranchNames", "greatestDeep", "(LBranchNames$Tree;)I"⟩, 34), (⟨"BranchNames", "branchesOf", "(LBranchNames$Tree;)I"⟩, 34), (⟨"BranchNames", "seeksAll", "(LBranchNames$Tree;IILBranchNames$Sees;)V"⟩, 34), (⟨"BranchNames$Seeker", "hanging", "(I)I"⟩, 3), (⟨"BranchNames$1", "isBetter", "(LBranchNames$Way;)Z"⟩, 2), (⟨"BranchNames", "comesIn", "(I)V"⟩, 34), (⟨"BranchNames", "copied", "()[I"⟩, 34), (⟨"BranchNames", "lists", "(I)V"⟩, 34), (⟨"BranchNames", "isBy", "(LBranchNames$Tree;II)Z"⟩, 34), (⟨"BranchNames", "digitsOf", "(II)V"⟩, 34), (⟨"BranchNames", "isTwig", "(LBranchNames$Tree;II)Z"⟩, 34), (⟨"BranchNames", "counts", "()V"⟩, 34), (⟨"BranchNames", "setsOf", "(II)J"⟩, 34)]
theorem lw_r2 : ∀ q ∈ lw_privs_2, lw_okq q := List.forall_mem_cons.mpr ⟨lw_p16, List.forall_mem_cons.mpr ⟨lw_p17, List.forall_mem_cons.mpr ⟨lw_p18, List.forall_mem_cons.mpr ⟨lw_p19, List.forall_mem_cons.mpr ⟨lw_p20, List.forall_mem_cons.mpr ⟨lw_p21, List.forall_mem_cons.mpr ⟨lw_p22, List.forall_mem_cons.mpr ⟨lw_p23, List.forall_mem_cons.mpr ⟨lw_p24, List.forall_mem_cons.mpr ⟨lw_p25, List.forall_mem_cons.mpr ⟨lw_p26, List.forall_mem_cons.mpr ⟨lw_p27, List.forall_mem_cons.mpr ⟨lw_p28, List.forall_mem_cons.mpr ⟨lw_p29, List.forall_mem_cons.mpr ⟨lw_p30, List.forall_mem_cons.mpr ⟨lw_p31, fun _ h => absurd h List.not_mem_nil⟩⟩⟩⟩⟩⟩⟩⟩⟩⟩⟩⟩⟩⟩⟩⟩
theorem lw_p32 : lw_okq (⟨"BranchNames", "rooted", "(I)J"⟩, 34) := ⟨⟨by decide +kernel, by decide +kernel⟩, lw_t1 (List.mem_of_getElem? (i := 36) rfl), lw_t4 (List.mem_of_getElem? (i := 2) rfl), lw_t4 (List.mem_of_getElem? (i := 3) rfl)⟩
theorem lw_p33 : lw_okq (⟨"BranchNames", "bonded", "(I)J"⟩, 34) := ⟨⟨by decide +kernel, by decide +kernel⟩, lw_t1 (List.mem_of_getElem? (i := 36) rfl), lw_t4 (List.mem_of_getElem? (i := 6) rfl), lw_t4 (List.mem_of_getElem? (i := 7) rfl)⟩
theorem lw_p34 : lw_okq (⟨"BranchNames", "halved", "(I)J"⟩, 34) := ⟨⟨by decide +kernel, by decide +kernel⟩, lw_t1 (List.mem_of_getElem? (i := 36) rfl), lw_t4 (List.mem_of_getElem? (i := 10) rfl), lw_t4 (List.mem_of_getElem? (i := 11) rfl)⟩
theorem lw_p35 : lw_okq (⟨"BranchNames$Tree", "frees", "(II)V"⟩, 7) := ⟨⟨by decide +kernel, by decide +kernel⟩, lw_t1 (List.mem_of_getElem? (i := 44) rfl), lw_t4 (List.mem_of_getElem? (i := 31) rfl), lw_t4 (List.mem_of_getElem? (i := 32) rfl)⟩
theorem lw_p36 : lw_okq (⟨"BranchNames$Tree", "bondTo2", "(II)I"⟩, 7) := ⟨⟨by decide +kernel, by decide +kernel⟩, lw_t1 (List.mem_of_getElem? (i := 44) rfl), lw_t4 (List.mem_of_getElem? (i := 35) rfl), lw_t4 (List.mem_of_getElem? (i := 36) rfl)⟩
theorem lw_p37 : lw_okq (⟨"BranchNames$Tree", "bondTo", "(II)I"⟩, 7) := ⟨⟨by decide +kernel, by decide +kernel⟩, lw_t1 (List.mem_of_getElem? (i := 44) rfl), lw_t4 (List.mem_of_getElem? (i := 39) rfl), lw_t4 (List.mem_of_getElem? (i := 40) rfl)⟩
theorem lw_p38 : lw_okq (⟨"BranchNames", "isListed", "(II)Z"⟩, 34) := ⟨⟨by decide +kernel, by decide +kernel⟩, lw_t1 (List.mem_of_getElem? (i := 36) rfl), lw_t4 (List.mem_of_getElem? (i := 47) rfl), lw_t4 (List.mem_of_getElem? (i := 48) rfl)⟩
theorem lw_p39 : lw_okq (⟨"BranchNames", "isList", "(I)Z"⟩, 34) := ⟨⟨by decide +kernel, by decide +kernel⟩, lw_t1 (List.mem_of_getElem? (i := 36) rfl), lw_t4 (List.mem_of_getElem? (i := 51) rfl), lw_t4 (List.mem_of_getElem? (i := 52) rfl)⟩
theorem lw_p40 : lw_okq (⟨"BranchNames", "placeIn", "([IJ)I"⟩, 34) := ⟨⟨by decide +kernel, by decide +kernel⟩, lw_t1 (List.mem_of_getElem? (i := 36) rfl), lw_t4 (List.mem_of_getElem? (i := 65) rfl), lw_t4 (List.mem_of_getElem? (i := 66) rfl)⟩
theorem lw_p41 : lw_okq (⟨"BranchNames", "nameOf", "(LBranchNames$Tree;II)Ljava/lang/String;"⟩, 34) := ⟨⟨by decide +kernel, by decide +kernel⟩, lw_t1 (List.mem_of_getElem? (i := 36) rfl), lw_t4 (List.mem_of_getElem? (i := 95) rfl), lw_t4 (List.mem_of_getElem? (i := 96) rfl)⟩
theorem lw_p42 : lw_okq (⟨"BranchNames", "chainOf", "(LBranchNames$Tree;II)LBranchNames$Way;"⟩, 34) := ⟨⟨by decide +kernel, by decide +kernel⟩, lw_t1 (List.mem_of_getElem? (i := 36) rfl), lw_t4 (List.mem_of_getElem? (i := 107) rfl), lw_t4 (List.mem_of_getElem? (i := 108) rfl)⟩
theorem lw_p43 : lw_okq (⟨"BranchNames", "lambda$chainOf$1", "(LBranchNames$Tree;ILBranchNames$Way;LBranchNames$Way;)I"⟩, 34) := ⟨⟨by decide +kernel, by decide +kernel⟩, lw_t1 (List.mem_of_getElem? (i := 36) rfl), lw_t4 (List.mem_of_getElem? (i := 119) rfl), lw_t4 (List.mem_of_getElem? (i := 120) rfl)⟩
theorem lw_p44 : lw_okq (⟨"BranchNames", "prefersName", "(LBranchNames$Tree;ILBranchNames$Way;LBranchNames$Way;)I"⟩, 34) := ⟨⟨by decide +kernel, by decide +kernel⟩, lw_t1 (List.mem_of_getElem? (i := 36) rfl), lw_t4 (List.mem_of_getElem? (i := 123) rfl), lw_t4 (List.mem_of_getElem? (i := 124) rfl)⟩
theorem lw_p45 : lw_okq (⟨"BranchNames", "nameBy", "(LBranchNames$Tree;ILBranchNames$Way;)Ljava/lang/String;"⟩, 34) := ⟨⟨by decide +kernel, by decide +kernel⟩, lw_t1 (List.mem_of_getElem? (i := 36) rfl), lw_t4 (List.mem_of_getElem? (i := 127) rfl), lw_t4 (List.mem_of_getElem? (i := 128) rfl)⟩
theorem lw_p46 : lw_okq (⟨"java/util/ArrayList", "rangeCheckForAdd", "(I)V"⟩, 3) := ⟨⟨by decide +kernel, by decide +kernel⟩, lw_t4 (List.mem_of_getElem? (i := 131) rfl), lw_t5 (List.mem_of_getElem? (i := 15) rfl), lw_t5 (List.mem_of_getElem? (i := 16) rfl)⟩
theorem lw_p47 : lw_okq (⟨"java/util/ArrayList", "grow", "()[Ljava/lang/Object;"⟩, 3) := ⟨⟨by decide +kernel, by decide +kernel⟩, lw_t4 (List.mem_of_getElem? (i := 131) rfl), lw_t5 (List.mem_of_getElem? (i := 19) rfl), lw_t5 (List.mem_of_getElem? (i := 20) rfl)⟩
def lw_privs_3 : List (MethodName × Nat) := [(⟨"BranchNames", "rooted", "(I)J"⟩, 34), (⟨"BranchNames", "bonded", "(I)J"⟩, 34), (⟨"BranchNames", "halved", "(I)J"⟩, 34), (⟨"BranchNames$Tree", "frees", "(II)V"⟩, 7), (⟨"BranchNames$Tree", "bondTo2", "(II)I"⟩, 7), (⟨"BranchNames$Tree", "bondTo", "(II)I"⟩, 7), (⟨"BranchNames", "isListed", "(II)Z"⟩, 34), (⟨"BranchNames", "isList", "(I)Z"⟩, 34), (⟨"BranchNames", "placeIn", "([IJ)I"⟩, 34), (⟨"BranchNames", "nameOf", "(LBranchNames$Tree;II)Ljava/lang/String;"⟩, 34), (⟨"BranchNames", "chainOf", "(LBranchNames$Tree;II)LBranchNames$Way;"⟩, 34), (⟨"BranchNames", "lambda$chainOf$1", "(LBranchNames$Tree;ILBranchNames$Way;LBranchNames$Way;)I"⟩, 34), (⟨"BranchNames", "prefersName", "(LBranchNames$Tree;ILBranchNames$Way;LBranchNames$Way;)I"⟩, 34), (⟨"BranchNames", "nameBy", "(LBranchNames$Tree;ILBranchNames$Way;)Ljava/lang/String;"⟩, 34), (⟨"java/util/ArrayList", "rangeCheckForAdd", "(I)V"⟩, 3), (⟨"java/util/ArrayList", "grow", "()[Ljava/lang/Object;"⟩, 3)]
theorem lw_r3 : ∀ q ∈ lw_privs_3, lw_okq q := List.forall_mem_cons.mpr ⟨lw_p32, List.forall_mem_cons.mpr ⟨lw_p33, List.forall_mem_cons.mpr ⟨lw_p34, List.forall_mem_cons.mpr ⟨lw_p35, List.forall_mem_cons.mpr ⟨lw_p36, List.forall_mem_cons.mpr ⟨lw_p37, List.forall_mem_cons.mpr ⟨lw_p38, List.forall_mem_cons.mpr ⟨lw_p39, List.forall_mem_cons.mpr ⟨lw_p40, List.forall_mem_cons.mpr ⟨lw_p41, List.forall_mem_cons.mpr ⟨lw_p42, List.forall_mem_cons.mpr ⟨lw_p43, List.forall_mem_cons.mpr ⟨lw_p44, List.forall_mem_cons.mpr ⟨lw_p45, List.forall_mem_cons.mpr ⟨lw_p46, List.forall_mem_cons.mpr ⟨lw_p47, fun _ h => absurd h List.not_mem_nil⟩⟩⟩⟩⟩⟩⟩⟩⟩⟩⟩⟩⟩⟩⟩⟩
theorem lw_p48 : lw_okq (⟨"java/util/ArrayList", "grow", "(I)[Ljava/lang/Object;"⟩, 3) := ⟨⟨by decide +kernel, by decide +kernel⟩, lw_t4 (List.mem_of_getElem? (i := 131) rfl), lw_t5 (List.mem_of_getElem? (i := 23) rfl), lw_t5 (List.mem_of_getElem? (i := 24) rfl)⟩
theorem lw_p49 : lw_okq (⟨"BranchNames$Named", "isBracketed", "()Z"⟩, 4) := ⟨⟨by decide +kernel, by decide +kernel⟩, lw_t4 (List.mem_of_getElem? (i := 204) rfl), lw_t5 (List.mem_of_getElem? (i := 100) rfl), lw_t5 (List.mem_of_getElem? (i := 101) rfl)⟩
theorem lw_p50 : lw_okq (⟨"BranchNames", "orderOf", "(II)[I"⟩, 34) := ⟨⟨by decide +kernel, by decide +kernel⟩, lw_t1 (List.mem_of_getElem? (i := 36) rfl), lw_t5 (List.mem_of_getElem? (i := 139) rfl), lw_t5 (List.mem_of_getElem? (i := 140) rfl)⟩
theorem lw_p51 : lw_okq (⟨"BranchNames", "nameOf", "(LBranchNames$Tree;)Ljava/lang/String;"⟩, 34) := ⟨⟨by decide +kernel, by decide +kernel⟩, lw_t1 (List.mem_of_getElem? (i := 36) rfl), lw_t5 (List.mem_of_getElem? (i := 147) rfl), lw_t5 (List.mem_of_getElem? (i := 148) rfl)⟩
theorem lw_p52 : lw_okq (⟨"BranchNames", "chainOf", "(LBranchNames$Tree;)LBranchNames$Way;"⟩, 34) := ⟨⟨by decide +kernel, by decide +kernel⟩, lw_t1 (List.mem_of_getElem? (i := 36) rfl), lw_t5 (List.mem_of_getElem? (i := 151) rfl), lw_t5 (List.mem_of_getElem? (i := 152) rfl)⟩
theorem lw_p53 : lw_okq (⟨"BranchNames", "nameListed", "(II)Ljava/lang/String;"⟩, 34) := ⟨⟨by decide +kernel, by decide +kernel⟩, lw_t1 (List.mem_of_getElem? (i := 36) rfl), lw_t5 (List.mem_of_getElem? (i := 159) rfl), lw_t5 (List.mem_of_getElem? (i := 160) rfl)⟩
theorem lw_p54 : lw_okq (⟨"BranchNames", "numberAt", "(LBranchNames$Way;I)I"⟩, 34) := ⟨⟨by decide +kernel, by decide +kernel⟩, lw_t1 (List.mem_of_getElem? (i := 36) rfl), lw_t5 (List.mem_of_getElem? (i := 167) rfl), lw_t5 (List.mem_of_getElem? (i := 168) rfl)⟩
theorem lw_p55 : lw_okq (⟨"BranchNames", "reading", "()I"⟩, 34) := ⟨⟨by decide +kernel, by decide +kernel⟩, lw_t1 (List.mem_of_getElem? (i := 36) rfl), lw_t5 (List.mem_of_getElem? (i := 186) rfl), lw_t5 (List.mem_of_getElem? (i := 187) rfl)⟩
theorem lw_p56 : lw_okq (⟨"BranchNames$Reader", "here", "()I"⟩, 3) := ⟨⟨by decide +kernel, by decide +kernel⟩, lw_t5 (List.mem_of_getElem? (i := 190) rfl), lw_t5 (List.mem_of_getElem? (i := 210) rfl), lw_t5 (List.mem_of_getElem? (i := 211) rfl)⟩
theorem lw_p57 : lw_okq (⟨"BranchNames$Reader", "parts", "()LBranchNames$Branch;"⟩, 3) := ⟨⟨by decide +kernel, by decide +kernel⟩, lw_t5 (List.mem_of_getElem? (i := 190) rfl), lw_t5 (List.mem_of_getElem? (i := 217) rfl), lw_t5 (List.mem_of_getElem? (i := 218) rfl)⟩
theorem lw_p58 : lw_okq (⟨"BranchNames$Reader", "part", "()LBranchNames$Part;"⟩, 3) := ⟨⟨by decide +kernel, by decide +kernel⟩, lw_t5 (List.mem_of_getElem? (i := 190) rfl), lw_t6 (List.mem_of_getElem? (i := 3) rfl), lw_t6 (List.mem_of_getElem? (i := 4) rfl)⟩
theorem lw_p59 : lw_okq (⟨"BranchNames$Reader", "number", "()I"⟩, 3) := ⟨⟨by decide +kernel, by decide +kernel⟩, lw_t5 (List.mem_of_getElem? (i := 190) rfl), lw_t6 (List.mem_of_getElem? (i := 35) rfl), lw_t6 (List.mem_of_getElem? (i := 36) rfl)⟩
theorem lw_p60 : lw_okq (⟨"java/lang/Throwable", "fillInStackTrace", "(I)Ljava/lang/Throwable;"⟩, 6) := ⟨⟨by decide +kernel, by decide +kernel⟩, lw_t6 (List.mem_of_getElem? (i := 74) rfl), lw_t6 (List.mem_of_getElem? (i := 72) rfl), lw_t6 (List.mem_of_getElem? (i := 73) rfl)⟩
theorem lw_p61 : lw_okq (⟨"BranchNames$Reader", "isSign", "(I)Z"⟩, 3) := ⟨⟨by decide +kernel, by decide +kernel⟩, lw_t5 (List.mem_of_getElem? (i := 190) rfl), lw_t6 (List.mem_of_getElem? (i := 110) rfl), lw_t6 (List.mem_of_getElem? (i := 111) rfl)⟩
theorem lw_p62 : lw_okq (⟨"BranchNames$Reader", "must", "(I)V"⟩, 3) := ⟨⟨by decide +kernel, by decide +kernel⟩, lw_t5 (List.mem_of_getElem? (i := 190) rfl), lw_t6 (List.mem_of_getElem? (i := 114) rfl), lw_t6 (List.mem_of_getElem? (i := 115) rfl)⟩
theorem lw_p63 : lw_okq (⟨"BranchNames$Reader", "wordOf", "([Ljava/lang/String;)I"⟩, 3) := ⟨⟨by decide +kernel, by decide +kernel⟩, lw_t5 (List.mem_of_getElem? (i := 190) rfl), lw_t6 (List.mem_of_getElem? (i := 118) rfl), lw_t6 (List.mem_of_getElem? (i := 119) rfl)⟩
def lw_privs_4 : List (MethodName × Nat) := [(⟨"java/util/ArrayList", "grow", "(I)[Ljava/lang/Object;"⟩, 3), (⟨"BranchNames$Named", "isBracketed", "()Z"⟩, 4), (⟨"BranchNames", "orderOf", "(II)[I"⟩, 34), (⟨"BranchNames", "nameOf", "(LBranchNames$Tree;)Ljava/lang/String;"⟩, 34), (⟨"BranchNames", "chainOf", "(LBranchNames$Tree;)LBranchNames$Way;"⟩, 34), (⟨"BranchNames", "nameListed", "(II)Ljava/lang/String;"⟩, 34), (⟨"BranchNames", "numberAt", "(LBranchNames$Way;I)I"⟩, 34), (⟨"BranchNames", "reading", "()I"⟩, 34), (⟨"BranchNames$Reader", "here", "()I"⟩, 3), (⟨"BranchNames$Reader", "parts", "()LBranchNames$Branch;"⟩, 3), (⟨"BranchNames$Reader", "part", "()LBranchNames$Part;"⟩, 3), (⟨"BranchNames$Reader", "number", "()I"⟩, 3), (⟨"java/lang/Throwable", "fillInStackTrace", "(I)Ljava/lang/Throwable;"⟩, 6), (⟨"BranchNames$Reader", "isSign", "(I)Z"⟩, 3), (⟨"BranchNames$Reader", "must", "(I)V"⟩, 3), (⟨"BranchNames$Reader", "wordOf", "([Ljava/lang/String;)I"⟩, 3)]
theorem lw_r4 : ∀ q ∈ lw_privs_4, lw_okq q := List.forall_mem_cons.mpr ⟨lw_p48, List.forall_mem_cons.mpr ⟨lw_p49, List.forall_mem_cons.mpr ⟨lw_p50, List.forall_mem_cons.mpr ⟨lw_p51, List.forall_mem_cons.mpr ⟨lw_p52, List.forall_mem_cons.mpr ⟨lw_p53, List.forall_mem_cons.mpr ⟨lw_p54, List.forall_mem_cons.mpr ⟨lw_p55, List.forall_mem_cons.mpr ⟨lw_p56, List.forall_mem_cons.mpr ⟨lw_p57, List.forall_mem_cons.mpr ⟨lw_p58, List.forall_mem_cons.mpr ⟨lw_p59, List.forall_mem_cons.mpr ⟨lw_p60, List.forall_mem_cons.mpr ⟨lw_p61, List.forall_mem_cons.mpr ⟨lw_p62, List.forall_mem_cons.mpr ⟨lw_p63, fun _ h => absurd h List.not_mem_nil⟩⟩⟩⟩⟩⟩⟩⟩⟩⟩⟩⟩⟩⟩⟩⟩
theorem lw_p64 : lw_okq (⟨"BranchNames$Reader", "alongside", "(Ljava/lang/String;)I"⟩, 3) := ⟨⟨by decide +kernel, by decide +kernel⟩, lw_t5 (List.mem_of_getElem? (i := 190) rfl), lw_t6 (List.mem_of_getElem? (i := 122) rfl), lw_t6 (List.mem_of_getElem? (i := 123) rfl)⟩
theorem lw_p65 : lw_okq (⟨"BranchNames$Reader", "branch", "()LBranchNames$Branch;"⟩, 3) := ⟨⟨by decide +kernel, by decide +kernel⟩, lw_t5 (List.mem_of_getElem? (i := 190) rfl), lw_t6 (List.mem_of_getElem? (i := 129) rfl), lw_t6 (List.mem_of_getElem? (i := 130) rfl)⟩
theorem lw_p66 : lw_okq (⟨"BranchNames$Reader", "bracket", "()LBranchNames$Branch;"⟩, 3) := ⟨⟨by decide +kernel, by decide +kernel⟩, lw_t5 (List.mem_of_getElem? (i := 190) rfl), lw_t6 (List.mem_of_getElem? (i := 133) rfl), lw_t6 (List.mem_of_getElem? (i := 134) rfl)⟩
theorem lw_p67 : lw_okq (⟨"BranchNames$Reader", "stemBehind", "()I"⟩, 3) := ⟨⟨by decide +kernel, by decide +kernel⟩, lw_t5 (List.mem_of_getElem? (i := 190) rfl), lw_t6 (List.mem_of_getElem? (i := 137) rfl), lw_t6 (List.mem_of_getElem? (i := 138) rfl)⟩
theorem lw_p68 : lw_okq (⟨"BranchNames$Reader", "stem", "()I"⟩, 3) := ⟨⟨by decide +kernel, by decide +kernel⟩, lw_t5 (List.mem_of_getElem? (i := 190) rfl), lw_t6 (List.mem_of_getElem? (i := 141) rfl), lw_t6 (List.mem_of_getElem? (i := 142) rfl)⟩
theorem lw_p69 : lw_okq (⟨"java/util/ArrayList", "add", "(Ljava/lang/Object;[Ljava/lang/Object;I)V"⟩, 3) := ⟨⟨by decide +kernel, by decide +kernel⟩, lw_t4 (List.mem_of_getElem? (i := 131) rfl), lw_t6 (List.mem_of_getElem? (i := 149) rfl), lw_t6 (List.mem_of_getElem? (i := 150) rfl)⟩
theorem lw_p70 : lw_okq (⟨"BranchNames", "makes", "(LBranchNames$Branch;LBranchNames$Tree;I)V"⟩, 34) := ⟨⟨by decide +kernel, by decide +kernel⟩, lw_t1 (List.mem_of_getElem? (i := 36) rfl), lw_t6 (List.mem_of_getElem? (i := 153) rfl), lw_t6 (List.mem_of_getElem? (i := 154) rfl)⟩
theorem lw_p71 : lw_okq (⟨"BranchNames", "makesWithin", "(LBranchNames$Part;LBranchNames$Tree;)V"⟩, 34) := ⟨⟨by decide +kernel, by decide +kernel⟩, lw_t1 (List.mem_of_getElem? (i := 36) rfl), lw_t6 (List.mem_of_getElem? (i := 185) rfl), lw_t6 (List.mem_of_getElem? (i := 186) rfl)⟩
theorem lw_p72 : lw_okq (⟨"BranchNames", "comes", "(LBranchNames$Tree;LBranchNames$Part;IIILBranchNames$Tree;)V"⟩, 34) := ⟨⟨by decide +kernel, by decide +kernel⟩, lw_t1 (List.mem_of_getElem? (i := 36) rfl), lw_t6 (List.mem_of_getElem? (i := 189) rfl), lw_t6 (List.mem_of_getElem? (i := 190) rfl)⟩
theorem lw_p73 : lw_okq (⟨"BranchNames", "isWord", "(Ljava/lang/String;)Z"⟩, 34) := ⟨⟨by decide +kernel, by decide +kernel⟩, lw_t1 (List.mem_of_getElem? (i := 36) rfl), lw_t6 (List.mem_of_getElem? (i := 197) rfl), lw_t6 (List.mem_of_getElem? (i := 198) rfl)⟩
theorem lw_p74 : lw_okq (⟨"BranchNames", "tells", "(LBranchNames$Trouble;)V"⟩, 34) := ⟨⟨by decide +kernel, by decide +kernel⟩, lw_t1 (List.mem_of_getElem? (i := 36) rfl), lw_t6 (List.mem_of_getElem? (i := 201) rfl), lw_t6 (List.mem_of_getElem? (i := 202) rfl)⟩
theorem lw_p75 : lw_okq (⟨"BranchNamesModel", "isAtom", "(I)Z"⟩, 61) := ⟨⟨by decide +kernel, by decide +kernel⟩, lw_t7 (List.mem_of_getElem? (i := 156) rfl), lw_t8 (List.mem_of_getElem? (i := 112) rfl), lw_t8 (List.mem_of_getElem? (i := 113) rfl)⟩
theorem lw_p76 : lw_okq (⟨"BranchNamesModel", "looksAtDrawing", "()V"⟩, 61) := ⟨⟨by decide +kernel, by decide +kernel⟩, lw_t7 (List.mem_of_getElem? (i := 156) rfl), lw_t8 (List.mem_of_getElem? (i := 125) rfl), lw_t8 (List.mem_of_getElem? (i := 126) rfl)⟩
theorem lw_p77 : lw_okq (⟨"BranchNamesModel", "binds", "(II)V"⟩, 61) := ⟨⟨by decide +kernel, by decide +kernel⟩, lw_t7 (List.mem_of_getElem? (i := 156) rfl), lw_t8 (List.mem_of_getElem? (i := 129) rfl), lw_t8 (List.mem_of_getElem? (i := 130) rfl)⟩
theorem lw_p78 : lw_okq (⟨"BranchNamesModel", "draws", "()V"⟩, 61) := ⟨⟨by decide +kernel, by decide +kernel⟩, lw_t7 (List.mem_of_getElem? (i := 156) rfl), lw_t8 (List.mem_of_getElem? (i := 133) rfl), lw_t8 (List.mem_of_getElem? (i := 134) rfl)⟩
theorem lw_p79 : lw_okq (⟨"BranchNamesModel", "isListed", "(II)Z"⟩, 61) := ⟨⟨by decide +kernel, by decide +kernel⟩, lw_t7 (List.mem_of_getElem? (i := 156) rfl), lw_t8 (List.mem_of_getElem? (i := 152) rfl), lw_t8 (List.mem_of_getElem? (i := 153) rfl)⟩
def lw_privs_5 : List (MethodName × Nat) := [(⟨"BranchNames$Reader", "alongside", "(Ljava/lang/String;)I"⟩, 3), (⟨"BranchNames$Reader", "branch", "()LBranchNames$Branch;"⟩, 3), (⟨"BranchNames$Reader", "bracket", "()LBranchNames$Branch;"⟩, 3), (⟨"BranchNames$Reader", "stemBehind", "()I"⟩, 3), (⟨"BranchNames$Reader", "stem", "()I"⟩, 3), (⟨"java/util/ArrayList", "add", "(Ljava/lang/Object;[Ljava/lang/Object;I)V"⟩, 3), (⟨"BranchNames", "makes", "(LBranchNames$Branch;LBranchNames$Tree;I)V"⟩, 34), (⟨"BranchNames", "makesWithin", "(LBranchNames$Part;LBranchNames$Tree;)V"⟩, 34), (⟨"BranchNames", "comes", "(LBranchNames$Tree;LBranchNames$Part;IIILBranchNames$Tree;)V"⟩, 34), (⟨"BranchNames", "isWord", "(Ljava/lang/String;)Z"⟩, 34), (⟨"BranchNames", "tells", "(LBranchNames$Trouble;)V"⟩, 34), (⟨"BranchNamesModel", "isAtom", "(I)Z"⟩, 61), (⟨"BranchNamesModel", "looksAtDrawing", "()V"⟩, 61), (⟨"BranchNamesModel", "binds", "(II)V"⟩, 61), (⟨"BranchNamesModel", "draws", "()V"⟩, 61), (⟨"BranchNamesModel", "isListed", "(II)Z"⟩, 61)]
theorem lw_r5 : ∀ q ∈ lw_privs_5, lw_okq q := List.forall_mem_cons.mpr ⟨lw_p64, List.forall_mem_cons.mpr ⟨lw_p65, List.forall_mem_cons.mpr ⟨lw_p66, List.forall_mem_cons.mpr ⟨lw_p67, List.forall_mem_cons.mpr ⟨lw_p68, List.forall_mem_cons.mpr ⟨lw_p69, List.forall_mem_cons.mpr ⟨lw_p70, List.forall_mem_cons.mpr ⟨lw_p71, List.forall_mem_cons.mpr ⟨lw_p72, List.forall_mem_cons.mpr ⟨lw_p73, List.forall_mem_cons.mpr ⟨lw_p74, List.forall_mem_cons.mpr ⟨lw_p75, List.forall_mem_cons.mpr ⟨lw_p76, List.forall_mem_cons.mpr ⟨lw_p77, List.forall_mem_cons.mpr ⟨lw_p78, List.forall_mem_cons.mpr ⟨lw_p79, fun _ h => absurd h List.not_mem_nil⟩⟩⟩⟩⟩⟩⟩⟩⟩⟩⟩⟩⟩⟩⟩⟩
theorem lw_p80 : lw_okq (⟨"BranchNamesModel", "isListOf", "(I)Z"⟩, 61) := ⟨⟨by decide +kernel, by decide +kernel⟩, lw_t7 (List.mem_of_getElem? (i := 156) rfl), lw_t8 (List.mem_of_getElem? (i := 156) rfl), lw_t8 (List.mem_of_getElem? (i := 157) rfl)⟩
theorem lw_p81 : lw_okq (⟨"BranchNamesModel", "lists", "()V"⟩, 61) := ⟨⟨by decide +kernel, by decide +kernel⟩, lw_t7 (List.mem_of_getElem? (i := 156) rfl), lw_t8 (List.mem_of_getElem? (i := 160) rfl), lw_t8 (List.mem_of_getElem? (i := 161) rfl)⟩
theorem lw_p82 : lw_okq (⟨"BranchNamesModel", "keeps", "(II)V"⟩, 61) := ⟨⟨by decide +kernel, by decide +kernel⟩, lw_t7 (List.mem_of_getElem? (i := 156) rfl), lw_t8 (List.mem_of_getElem? (i := 164) rfl), lw_t8 (List.mem_of_getElem? (i := 165) rfl)⟩
theorem lw_p83 : lw_okq (⟨"BranchNamesModel", "comesFrom", "(II)Z"⟩, 61) := ⟨⟨by decide +kernel, by decide +kernel⟩, lw_t7 (List.mem_of_getElem? (i := 156) rfl), lw_t8 (List.mem_of_getElem? (i := 168) rfl), lw_t8 (List.mem_of_getElem? (i := 169) rfl)⟩
theorem lw_p84 : lw_okq (⟨"BranchNamesModel", "grows", "(I)Z"⟩, 61) := ⟨⟨by decide +kernel, by decide +kernel⟩, lw_t7 (List.mem_of_getElem? (i := 156) rfl), lw_t8 (List.mem_of_getElem? (i := 175) rfl), lw_t8 (List.mem_of_getElem? (i := 176) rfl)⟩
theorem lw_p85 : lw_okq (⟨"BranchNamesModel", "digitAt", "(I)I"⟩, 61) := ⟨⟨by decide +kernel, by decide +kernel⟩, lw_t7 (List.mem_of_getElem? (i := 156) rfl), lw_t8 (List.mem_of_getElem? (i := 179) rfl), lw_t8 (List.mem_of_getElem? (i := 180) rfl)⟩
theorem lw_p86 : lw_okq (⟨"BranchNamesModel", "codeOf", "(II)I"⟩, 61) := ⟨⟨by decide +kernel, by decide +kernel⟩, lw_t7 (List.mem_of_getElem? (i := 156) rfl), lw_t8 (List.mem_of_getElem? (i := 183) rfl), lw_t8 (List.mem_of_getElem? (i := 184) rfl)⟩
theorem lw_p87 : lw_okq (⟨"BranchNamesModel", "twigsOf", "(II)I"⟩, 61) := ⟨⟨by decide +kernel, by decide +kernel⟩, lw_t7 (List.mem_of_getElem? (i := 156) rfl), lw_t8 (List.mem_of_getElem? (i := 187) rfl), lw_t8 (List.mem_of_getElem? (i := 188) rfl)⟩
theorem lw_p88 : lw_okq (⟨"BranchNamesModel", "sizeOf", "(II)I"⟩, 61) := ⟨⟨by decide +kernel, by decide +kernel⟩, lw_t7 (List.mem_of_getElem? (i := 156) rfl), lw_t8 (List.mem_of_getElem? (i := 192) rfl), lw_t8 (List.mem_of_getElem? (i := 193) rfl)⟩
theorem lw_p89 : lw_okq (⟨"BranchNamesModel", "keyNow", "()I"⟩, 61) := ⟨⟨by decide +kernel, by decide +kernel⟩, lw_t7 (List.mem_of_getElem? (i := 156) rfl), lw_t8 (List.mem_of_getElem? (i := 196) rfl), lw_t8 (List.mem_of_getElem? (i := 197) rfl)⟩
theorem lw_p90 : lw_okq (⟨"BranchNamesModel", "otherCentre", "()I"⟩, 61) := ⟨⟨by decide +kernel, by decide +kernel⟩, lw_t7 (List.mem_of_getElem? (i := 156) rfl), lw_t8 (List.mem_of_getElem? (i := 200) rfl), lw_t8 (List.mem_of_getElem? (i := 201) rfl)⟩
theorem lw_p91 : lw_okq (⟨"BranchNamesModel", "centre", "()I"⟩, 61) := ⟨⟨by decide +kernel, by decide +kernel⟩, lw_t7 (List.mem_of_getElem? (i := 156) rfl), lw_t8 (List.mem_of_getElem? (i := 204) rfl), lw_t8 (List.mem_of_getElem? (i := 205) rfl)⟩
theorem lw_p92 : lw_okq (⟨"BranchNamesModel", "deepOf", "(II)I"⟩, 61) := ⟨⟨by decide +kernel, by decide +kernel⟩, lw_t7 (List.mem_of_getElem? (i := 156) rfl), lw_t8 (List.mem_of_getElem? (i := 208) rfl), lw_t8 (List.mem_of_getElem? (i := 209) rfl)⟩
theorem lw_p93 : lw_okq (⟨"BranchNamesModel", "looksAt", "(II)V"⟩, 61) := ⟨⟨by decide +kernel, by decide +kernel⟩, lw_t7 (List.mem_of_getElem? (i := 156) rfl), lw_t8 (List.mem_of_getElem? (i := 213) rfl), lw_t8 (List.mem_of_getElem? (i := 214) rfl)⟩
theorem lw_p94 : lw_okq (⟨"BranchNamesModel", "keyOf", "(II)I"⟩, 61) := ⟨⟨by decide +kernel, by decide +kernel⟩, lw_t7 (List.mem_of_getElem? (i := 156) rfl), lw_t8 (List.mem_of_getElem? (i := 217) rfl), lw_t8 (List.mem_of_getElem? (i := 218) rfl)⟩
theorem lw_p95 : lw_okq (⟨"BranchNamesModel", "numberNow", "()I"⟩, 61) := ⟨⟨by decide +kernel, by decide +kernel⟩, lw_t7 (List.mem_of_getElem? (i := 156) rfl), lw_t8 (List.mem_of_getElem? (i := 230) rfl), lw_t8 (List.mem_of_getElem? (i := 231) rfl)⟩
def lw_privs_6 : List (MethodName × Nat) := [(⟨"BranchNamesModel", "isListOf", "(I)Z"⟩, 61), (⟨"BranchNamesModel", "lists", "()V"⟩, 61), (⟨"BranchNamesModel", "keeps", "(II)V"⟩, 61), (⟨"BranchNamesModel", "comesFrom", "(II)Z"⟩, 61), (⟨"BranchNamesModel", "grows", "(I)Z"⟩, 61), (⟨"BranchNamesModel", "digitAt", "(I)I"⟩, 61), (⟨"BranchNamesModel", "codeOf", "(II)I"⟩, 61), (⟨"BranchNamesModel", "twigsOf", "(II)I"⟩, 61), (⟨"BranchNamesModel", "sizeOf", "(II)I"⟩, 61), (⟨"BranchNamesModel", "keyNow", "()I"⟩, 61), (⟨"BranchNamesModel", "otherCentre", "()I"⟩, 61), (⟨"BranchNamesModel", "centre", "()I"⟩, 61), (⟨"BranchNamesModel", "deepOf", "(II)I"⟩, 61), (⟨"BranchNamesModel", "looksAt", "(II)V"⟩, 61), (⟨"BranchNamesModel", "keyOf", "(II)I"⟩, 61), (⟨"BranchNamesModel", "numberNow", "()I"⟩, 61)]
theorem lw_r6 : ∀ q ∈ lw_privs_6, lw_okq q := List.forall_mem_cons.mpr ⟨lw_p80, List.forall_mem_cons.mpr ⟨lw_p81, List.forall_mem_cons.mpr ⟨lw_p82, List.forall_mem_cons.mpr ⟨lw_p83, List.forall_mem_cons.mpr ⟨lw_p84, List.forall_mem_cons.mpr ⟨lw_p85, List.forall_mem_cons.mpr ⟨lw_p86, List.forall_mem_cons.mpr ⟨lw_p87, List.forall_mem_cons.mpr ⟨lw_p88, List.forall_mem_cons.mpr ⟨lw_p89, List.forall_mem_cons.mpr ⟨lw_p90, List.forall_mem_cons.mpr ⟨lw_p91, List.forall_mem_cons.mpr ⟨lw_p92, List.forall_mem_cons.mpr ⟨lw_p93, List.forall_mem_cons.mpr ⟨lw_p94, List.forall_mem_cons.mpr ⟨lw_p95, fun _ h => absurd h List.not_mem_nil⟩⟩⟩⟩⟩⟩⟩⟩⟩⟩⟩⟩⟩⟩⟩⟩
theorem lw_p96 : lw_okq (⟨"BranchNamesModel", "keyOfDrawing", "()I"⟩, 61) := ⟨⟨by decide +kernel, by decide +kernel⟩, lw_t7 (List.mem_of_getElem? (i := 156) rfl), lw_t8 (List.mem_of_getElem? (i := 234) rfl), lw_t8 (List.mem_of_getElem? (i := 235) rfl)⟩
theorem lw_p97 : lw_okq (⟨"BranchNamesModel", "alikeTo", "(IZ)I"⟩, 61) := ⟨⟨by decide +kernel, by decide +kernel⟩, lw_t7 (List.mem_of_getElem? (i := 156) rfl), lw_t9 (List.mem_of_getElem? (i := 2) rfl), lw_t9 (List.mem_of_getElem? (i := 3) rfl)⟩
theorem lw_p98 : lw_okq (⟨"BranchNamesModel", "farOf", "(III)I"⟩, 61) := ⟨⟨by decide +kernel, by decide +kernel⟩, lw_t7 (List.mem_of_getElem? (i := 156) rfl), lw_t9 (List.mem_of_getElem? (i := 14) rfl), lw_t9 (List.mem_of_getElem? (i := 15) rfl)⟩
theorem lw_p99 : lw_okq (⟨"BranchNamesModel", "names", "(II)I"⟩, 61) := ⟨⟨by decide +kernel, by decide +kernel⟩, lw_t7 (List.mem_of_getElem? (i := 156) rfl), lw_t9 (List.mem_of_getElem? (i := 22) rfl), lw_t9 (List.mem_of_getElem? (i := 23) rfl)⟩
theorem lw_p100 : lw_okq (⟨"BranchNamesModel", "findsBest", "(II)V"⟩, 61) := ⟨⟨by decide +kernel, by decide +kernel⟩, lw_t7 (List.mem_of_getElem? (i := 156) rfl), lw_t9 (List.mem_of_getElem? (i := 26) rfl), lw_t9 (List.mem_of_getElem? (i := 27) rfl)⟩
theorem lw_p101 : lw_okq (⟨"BranchNamesModel", "isStart", "(III)Z"⟩, 61) := ⟨⟨by decide +kernel, by decide +kernel⟩, lw_t7 (List.mem_of_getElem? (i := 156) rfl), lw_t9 (List.mem_of_getElem? (i := 30) rfl), lw_t9 (List.mem_of_getElem? (i := 31) rfl)⟩
theorem lw_p102 : lw_okq (⟨"BranchNamesModel", "lays", "(III)Z"⟩, 61) := ⟨⟨by decide +kernel, by decide +kernel⟩, lw_t7 (List.mem_of_getElem? (i := 156) rfl), lw_t9 (List.mem_of_getElem? (i := 34) rfl), lw_t9 (List.mem_of_getElem? (i := 35) rfl)⟩
theorem lw_p103 : lw_okq (⟨"BranchNamesModel", "walks", "(IIII)Z"⟩, 61) := ⟨⟨by decide +kernel, by decide +kernel⟩, lw_t7 (List.mem_of_getElem? (i := 156) rfl), lw_t9 (List.mem_of_getElem? (i := 38) rfl), lw_t9 (List.mem_of_getElem? (i := 39) rfl)⟩
theorem lw_p104 : lw_okq (⟨"BranchNamesModel", "isBetter", "(I)I"⟩, 61) := ⟨⟨by decide +kernel, by decide +kernel⟩, lw_t7 (List.mem_of_getElem? (i := 156) rfl), lw_t9 (List.mem_of_getElem? (i := 42) rfl), lw_t9 (List.mem_of_getElem? (i := 43) rfl)⟩
theorem lw_p105 : lw_okq (⟨"BranchNamesModel", "branchesOf", "(I)I"⟩, 61) := ⟨⟨by decide +kernel, by decide +kernel⟩, lw_t7 (List.mem_of_getElem? (i := 156) rfl), lw_t9 (List.mem_of_getElem? (i := 46) rfl), lw_t9 (List.mem_of_getElem? (i := 47) rfl)⟩
theorem lw_p106 : lw_okq (⟨"BranchNamesModel", "isBranch", "(III)Z"⟩, 61) := ⟨⟨by decide +kernel, by decide +kernel⟩, lw_t7 (List.mem_of_getElem? (i := 156) rfl), lw_t9 (List.mem_of_getElem? (i := 50) rfl), lw_t9 (List.mem_of_getElem? (i := 51) rfl)⟩
theorem lw_p107 : lw_okq (⟨"BranchNamesModel", "isInChain", "(I)Z"⟩, 61) := ⟨⟨by decide +kernel, by decide +kernel⟩, lw_t7 (List.mem_of_getElem? (i := 156) rfl), lw_t9 (List.mem_of_getElem? (i := 54) rfl), lw_t9 (List.mem_of_getElem? (i := 55) rfl)⟩
theorem lw_p108 : lw_okq (⟨"BranchNamesModel", "isBest", "(I)V"⟩, 61) := ⟨⟨by decide +kernel, by decide +kernel⟩, lw_t7 (List.mem_of_getElem? (i := 156) rfl), lw_t9 (List.mem_of_getElem? (i := 58) rfl), lw_t9 (List.mem_of_getElem? (i := 59) rfl)⟩
theorem lw_p109 : lw_okq (⟨"BranchNamesModel", "namesBy", "(IZ)I"⟩, 61) := ⟨⟨by decide +kernel, by decide +kernel⟩, lw_t7 (List.mem_of_getElem? (i := 156) rfl), lw_t9 (List.mem_of_getElem? (i := 62) rfl), lw_t9 (List.mem_of_getElem? (i := 63) rfl)⟩
theorem lw_p110 : lw_okq (⟨"BranchNamesModel", "namesBranches", "(I)I"⟩, 61) := ⟨⟨by decide +kernel, by decide +kernel⟩, lw_t7 (List.mem_of_getElem? (i := 156) rfl), lw_t9 (List.mem_of_getElem? (i := 66) rfl), lw_t9 (List.mem_of_getElem? (i := 67) rfl)⟩
theorem lw_p111 : lw_okq (⟨"BranchNamesModel", "nextPart", "(III)I"⟩, 61) := ⟨⟨by decide +kernel, by decide +kernel⟩, lw_t7 (List.mem_of_getElem? (i := 156) rfl), lw_t9 (List.mem_of_getElem? (i := 71) rfl), lw_t9 (List.mem_of_getElem? (i := 72) rfl)⟩
def lw_privs_7 : List (MethodName × Nat) := [(⟨"BranchNamesModel", "keyOfDrawing", "()I"⟩, 61), (⟨"BranchNamesModel", "alikeTo", "(IZ)I"⟩, 61), (⟨"BranchNamesModel", "farOf", "(III)I"⟩, 61), (⟨"BranchNamesModel", "names", "(II)I"⟩, 61), (⟨"BranchNamesModel", "findsBest", "(II)V"⟩, 61), (⟨"BranchNamesModel", "isStart", "(III)Z"⟩, 61), (⟨"BranchNamesModel", "lays", "(III)Z"⟩, 61), (⟨"BranchNamesModel", "walks", "(IIII)Z"⟩, 61), (⟨"BranchNamesModel", "isBetter", "(I)I"⟩, 61), (⟨"BranchNamesModel", "branchesOf", "(I)I"⟩, 61), (⟨"BranchNamesModel", "isBranch", "(III)Z"⟩, 61), (⟨"BranchNamesModel", "isInChain", "(I)Z"⟩, 61), (⟨"BranchNamesModel", "isBest", "(I)V"⟩, 61), (⟨"BranchNamesModel", "namesBy", "(IZ)I"⟩, 61), (⟨"BranchNamesModel", "namesBranches", "(I)I"⟩, 61), (⟨"BranchNamesModel", "nextPart", "(III)I"⟩, 61)]
theorem lw_r7 : ∀ q ∈ lw_privs_7, lw_okq q := List.forall_mem_cons.mpr ⟨lw_p96, List.forall_mem_cons.mpr ⟨lw_p97, List.forall_mem_cons.mpr ⟨lw_p98, List.forall_mem_cons.mpr ⟨lw_p99, List.forall_mem_cons.mpr ⟨lw_p100, List.forall_mem_cons.mpr ⟨lw_p101, List.forall_mem_cons.mpr ⟨lw_p102, List.forall_mem_cons.mpr ⟨lw_p103, List.forall_mem_cons.mpr ⟨lw_p104, List.forall_mem_cons.mpr ⟨lw_p105, List.forall_mem_cons.mpr ⟨lw_p106, List.forall_mem_cons.mpr ⟨lw_p107, List.forall_mem_cons.mpr ⟨lw_p108, List.forall_mem_cons.mpr ⟨lw_p109, List.forall_mem_cons.mpr ⟨lw_p110, List.forall_mem_cons.mpr ⟨lw_p111, fun _ h => absurd h List.not_mem_nil⟩⟩⟩⟩⟩⟩⟩⟩⟩⟩⟩⟩⟩⟩⟩⟩
theorem lw_p112 : lw_okq (⟨"BranchNamesModel", "comparesNames", "(II)I"⟩, 61) := ⟨⟨by decide +kernel, by decide +kernel⟩, lw_t7 (List.mem_of_getElem? (i := 156) rfl), lw_t9 (List.mem_of_getElem? (i := 75) rfl), lw_t9 (List.mem_of_getElem? (i := 76) rfl)⟩
theorem lw_p113 : lw_okq (⟨"BranchNamesModel", "comparesLetters", "(IIII)I"⟩, 61) := ⟨⟨by decide +kernel, by decide +kernel⟩, lw_t7 (List.mem_of_getElem? (i := 156) rfl), lw_t9 (List.mem_of_getElem? (i := 79) rfl), lw_t9 (List.mem_of_getElem? (i := 80) rfl)⟩
theorem lw_p114 : lw_okq (⟨"BranchNamesModel", "compares", "(IIII)I"⟩, 61) := ⟨⟨by decide +kernel, by decide +kernel⟩, lw_t7 (List.mem_of_getElem? (i := 156) rfl), lw_t9 (List.mem_of_getElem? (i := 86) rfl), lw_t9 (List.mem_of_getElem? (i := 87) rfl)⟩
theorem lw_p115 : lw_okq (⟨"BranchNamesModel", "putsPart", "(III)V"⟩, 61) := ⟨⟨by decide +kernel, by decide +kernel⟩, lw_t7 (List.mem_of_getElem? (i := 156) rfl), lw_t9 (List.mem_of_getElem? (i := 90) rfl), lw_t9 (List.mem_of_getElem? (i := 91) rfl)⟩
theorem lw_p116 : lw_okq (⟨"BranchNamesModel", "puts", "(I)V"⟩, 61) := ⟨⟨by decide +kernel, by decide +kernel⟩, lw_t7 (List.mem_of_getElem? (i := 156) rfl), lw_t9 (List.mem_of_getElem? (i := 94) rfl), lw_t9 (List.mem_of_getElem? (i := 95) rfl)⟩
theorem lw_p117 : lw_okq (⟨"BranchNamesModel", "putsNumber", "(I)V"⟩, 61) := ⟨⟨by decide +kernel, by decide +kernel⟩, lw_t7 (List.mem_of_getElem? (i := 156) rfl), lw_t9 (List.mem_of_getElem? (i := 98) rfl), lw_t9 (List.mem_of_getElem? (i := 99) rfl)⟩
theorem lw_p118 : lw_okq (⟨"BranchNamesModel", "putsWord", "(Ljava/lang/String;I)V"⟩, 61) := ⟨⟨by decide +kernel, by decide +kernel⟩, lw_t7 (List.mem_of_getElem? (i := 156) rfl), lw_t9 (List.mem_of_getElem? (i := 102) rfl), lw_t9 (List.mem_of_getElem? (i := 103) rfl)⟩
theorem lw_p119 : lw_okq (⟨"BranchNamesModel", "hasDigit", "(II)Z"⟩, 61) := ⟨⟨by decide +kernel, by decide +kernel⟩, lw_t7 (List.mem_of_getElem? (i := 156) rfl), lw_t9 (List.mem_of_getElem? (i := 110) rfl), lw_t9 (List.mem_of_getElem? (i := 111) rfl)⟩
theorem lw_p120 : lw_okq (⟨"BranchNamesModel", "measured", "(I)I"⟩, 61) := ⟨⟨by decide +kernel, by decide +kernel⟩, lw_t7 (List.mem_of_getElem? (i := 156) rfl), lw_t9 (List.mem_of_getElem? (i := 121) rfl), lw_t9 (List.mem_of_getElem? (i := 122) rfl)⟩
theorem lw_p121 : lw_okq (⟨"BranchNamesModel", "farTogether", "(I)I"⟩, 61) := ⟨⟨by decide +kernel, by decide +kernel⟩, lw_t7 (List.mem_of_getElem? (i := 156) rfl), lw_t9 (List.mem_of_getElem? (i := 125) rfl), lw_t9 (List.mem_of_getElem? (i := 126) rfl)⟩
theorem lw_p122 : lw_okq (⟨"BranchNamesModel", "ends", "()I"⟩, 61) := ⟨⟨by decide +kernel, by decide +kernel⟩, lw_t7 (List.mem_of_getElem? (i := 156) rfl), lw_t9 (List.mem_of_getElem? (i := 129) rfl), lw_t9 (List.mem_of_getElem? (i := 130) rfl)⟩
theorem lw_p123 : lw_okq (⟨"BranchNamesModel", "unlike", "()I"⟩, 61) := ⟨⟨by decide +kernel, by decide +kernel⟩, lw_t7 (List.mem_of_getElem? (i := 156) rfl), lw_t9 (List.mem_of_getElem? (i := 133) rfl), lw_t9 (List.mem_of_getElem? (i := 134) rfl)⟩
theorem lw_p124 : lw_okq (⟨"BranchNamesModel", "waysOf", "(II)I"⟩, 61) := ⟨⟨by decide +kernel, by decide +kernel⟩, lw_t7 (List.mem_of_getElem? (i := 156) rfl), lw_t9 (List.mem_of_getElem? (i := 137) rfl), lw_t9 (List.mem_of_getElem? (i := 138) rfl)⟩
theorem lw_p125 : lw_okq (⟨"BranchNamesModel", "more", "()I"⟩, 61) := ⟨⟨by decide +kernel, by decide +kernel⟩, lw_t7 (List.mem_of_getElem? (i := 156) rfl), lw_t9 (List.mem_of_getElem? (i := 141) rfl), lw_t9 (List.mem_of_getElem? (i := 142) rfl)⟩
theorem lw_p126 : lw_okq (⟨"BranchNamesModel", "longest", "()I"⟩, 61) := ⟨⟨by decide +kernel, by decide +kernel⟩, lw_t7 (List.mem_of_getElem? (i := 156) rfl), lw_t9 (List.mem_of_getElem? (i := 145) rfl), lw_t9 (List.mem_of_getElem? (i := 146) rfl)⟩
theorem lw_p127 : lw_okq (⟨"BranchNamesModel", "mostBranches", "()I"⟩, 61) := ⟨⟨by decide +kernel, by decide +kernel⟩, lw_t7 (List.mem_of_getElem? (i := 156) rfl), lw_t9 (List.mem_of_getElem? (i := 149) rfl), lw_t9 (List.mem_of_getElem? (i := 150) rfl)⟩
def lw_privs_8 : List (MethodName × Nat) := [(⟨"BranchNamesModel", "comparesNames", "(II)I"⟩, 61), (⟨"BranchNamesModel", "comparesLetters", "(IIII)I"⟩, 61), (⟨"BranchNamesModel", "compares", "(IIII)I"⟩, 61), (⟨"BranchNamesModel", "putsPart", "(III)V"⟩, 61), (⟨"BranchNamesModel", "puts", "(I)V"⟩, 61), (⟨"BranchNamesModel", "putsNumber", "(I)V"⟩, 61), (⟨"BranchNamesModel", "putsWord", "(Ljava/lang/String;I)V"⟩, 61), (⟨"BranchNamesModel", "hasDigit", "(II)Z"⟩, 61), (⟨"BranchNamesModel", "measured", "(I)I"⟩, 61), (⟨"BranchNamesModel", "farTogether", "(I)I"⟩, 61), (⟨"BranchNamesModel", "ends", "()I"⟩, 61), (⟨"BranchNamesModel", "unlike", "()I"⟩, 61), (⟨"BranchNamesModel", "waysOf", "(II)I"⟩, 61), (⟨"BranchNamesModel", "more", "()I"⟩, 61), (⟨"BranchNamesModel", "longest", "()I"⟩, 61), (⟨"BranchNamesModel", "mostBranches", "()I"⟩, 61)]
theorem lw_r8 : ∀ q ∈ lw_privs_8, lw_okq q := List.forall_mem_cons.mpr ⟨lw_p112, List.forall_mem_cons.mpr ⟨lw_p113, List.forall_mem_cons.mpr ⟨lw_p114, List.forall_mem_cons.mpr ⟨lw_p115, List.forall_mem_cons.mpr ⟨lw_p116, List.forall_mem_cons.mpr ⟨lw_p117, List.forall_mem_cons.mpr ⟨lw_p118, List.forall_mem_cons.mpr ⟨lw_p119, List.forall_mem_cons.mpr ⟨lw_p120, List.forall_mem_cons.mpr ⟨lw_p121, List.forall_mem_cons.mpr ⟨lw_p122, List.forall_mem_cons.mpr ⟨lw_p123, List.forall_mem_cons.mpr ⟨lw_p124, List.forall_mem_cons.mpr ⟨lw_p125, List.forall_mem_cons.mpr ⟨lw_p126, List.forall_mem_cons.mpr ⟨lw_p127, fun _ h => absurd h List.not_mem_nil⟩⟩⟩⟩⟩⟩⟩⟩⟩⟩⟩⟩⟩⟩⟩⟩
theorem lw_p128 : lw_okq (⟨"BranchNamesModel", "countsTwigs", "(I)V"⟩, 61) := ⟨⟨by decide +kernel, by decide +kernel⟩, lw_t7 (List.mem_of_getElem? (i := 156) rfl), lw_t9 (List.mem_of_getElem? (i := 172) rfl), lw_t9 (List.mem_of_getElem? (i := 173) rfl)⟩
theorem lw_p129 : lw_okq (⟨"BranchNamesModel", "rowsOf", "(III)J"⟩, 61) := ⟨⟨by decide +kernel, by decide +kernel⟩, lw_t7 (List.mem_of_getElem? (i := 156) rfl), lw_t9 (List.mem_of_getElem? (i := 176) rfl), lw_t9 (List.mem_of_getElem? (i := 177) rfl)⟩
theorem lw_p130 : lw_okq (⟨"BranchNamesModel", "pairs", "(I)J"⟩, 61) := ⟨⟨by decide +kernel, by decide +kernel⟩, lw_t7 (List.mem_of_getElem? (i := 156) rfl), lw_t9 (List.mem_of_getElem? (i := 183) rfl), lw_t9 (List.mem_of_getElem? (i := 184) rfl)⟩
theorem lw_p131 : lw_okq (⟨"BranchNamesModel", "namesTree", "()I"⟩, 61) := ⟨⟨by decide +kernel, by decide +kernel⟩, lw_t7 (List.mem_of_getElem? (i := 156) rfl), lw_t9 (List.mem_of_getElem? (i := 191) rfl), lw_t9 (List.mem_of_getElem? (i := 192) rfl)⟩
theorem lw_p132 : lw_okq (⟨"BranchNamesModel", "takesName", "()Z"⟩, 61) := ⟨⟨by decide +kernel, by decide +kernel⟩, lw_t7 (List.mem_of_getElem? (i := 156) rfl), lw_t9 (List.mem_of_getElem? (i := 216) rfl), lw_t9 (List.mem_of_getElem? (i := 217) rfl)⟩
theorem lw_p133 : lw_okq (⟨"BranchNamesModel", "byteAt", "(I)I"⟩, 61) := ⟨⟨by decide +kernel, by decide +kernel⟩, lw_t7 (List.mem_of_getElem? (i := 156) rfl), lw_t9 (List.mem_of_getElem? (i := 220) rfl), lw_t9 (List.mem_of_getElem? (i := 221) rfl)⟩
theorem lw_p134 : lw_okq (⟨"BranchNamesModel", "takesParts", "(I)Z"⟩, 61) := ⟨⟨by decide +kernel, by decide +kernel⟩, lw_t7 (List.mem_of_getElem? (i := 156) rfl), lw_t9 (List.mem_of_getElem? (i := 226) rfl), lw_t9 (List.mem_of_getElem? (i := 227) rfl)⟩
theorem lw_p135 : lw_okq (⟨"BranchNamesModel", "takesPart", "(I)Z"⟩, 61) := ⟨⟨by decide +kernel, by decide +kernel⟩, lw_t7 (List.mem_of_getElem? (i := 156) rfl), lw_t9 (List.mem_of_getElem? (i := 230) rfl), lw_t9 (List.mem_of_getElem? (i := 231) rfl)⟩
theorem lw_p136 : lw_okq (⟨"BranchNamesModel", "takesNumber", "()Z"⟩, 61) := ⟨⟨by decide +kernel, by decide +kernel⟩, lw_t7 (List.mem_of_getElem? (i := 156) rfl), lw_t9 (List.mem_of_getElem? (i := 234) rfl), lw_t9 (List.mem_of_getElem? (i := 235) rfl)⟩
theorem lw_p137 : lw_okq (⟨"BranchNamesModel", "takes", "(I)Z"⟩, 61) := ⟨⟨by decide +kernel, by decide +kernel⟩, lw_t7 (List.mem_of_getElem? (i := 156) rfl), lw_t9 (List.mem_of_getElem? (i := 238) rfl), lw_t9 (List.mem_of_getElem? (i := 239) rfl)⟩
theorem lw_p138 : lw_okq (⟨"BranchNamesModel", "takesWord", "(I)Z"⟩, 61) := ⟨⟨by decide +kernel, by decide +kernel⟩, lw_t7 (List.mem_of_getElem? (i := 156) rfl), lw_t10 (List.mem_of_getElem? (i := 2) rfl), lw_t10 (List.mem_of_getElem? (i := 3) rfl)⟩
theorem lw_p139 : lw_okq (⟨"BranchNamesModel", "behind", "(Ljava/lang/String;II)I"⟩, 61) := ⟨⟨by decide +kernel, by decide +kernel⟩, lw_t7 (List.mem_of_getElem? (i := 156) rfl), lw_t10 (List.mem_of_getElem? (i := 6) rfl), lw_t10 (List.mem_of_getElem? (i := 7) rfl)⟩
theorem lw_p140 : lw_okq (⟨"BranchNamesModel", "takesBranch", "(III)Z"⟩, 61) := ⟨⟨by decide +kernel, by decide +kernel⟩, lw_t7 (List.mem_of_getElem? (i := 156) rfl), lw_t10 (List.mem_of_getElem? (i := 10) rfl), lw_t10 (List.mem_of_getElem? (i := 11) rfl)⟩
theorem lw_p141 : lw_okq (⟨"BranchNamesModel", "takesStem", "(ILjava/lang/String;)Z"⟩, 61) := ⟨⟨by decide +kernel, by decide +kernel⟩, lw_t7 (List.mem_of_getElem? (i := 156) rfl), lw_t10 (List.mem_of_getElem? (i := 16) rfl), lw_t10 (List.mem_of_getElem? (i := 17) rfl)⟩
theorem lw_p142 : lw_okq (⟨"BranchNamesModel", "fails", "()Z"⟩, 61) := ⟨⟨by decide +kernel, by decide +kernel⟩, lw_t7 (List.mem_of_getElem? (i := 156) rfl), lw_t10 (List.mem_of_getElem? (i := 20) rfl), lw_t10 (List.mem_of_getElem? (i := 21) rfl)⟩
theorem lw_p143 : lw_okq (⟨"BranchNamesModel", "makes", "(II)Z"⟩, 61) := ⟨⟨by decide +kernel, by decide +kernel⟩, lw_t7 (List.mem_of_getElem? (i := 156) rfl), lw_t10 (List.mem_of_getElem? (i := 25) rfl), lw_t10 (List.mem_of_getElem? (i := 26) rfl)⟩
def lw_privs_9 : List (MethodName × Nat) := [(⟨"BranchNamesModel", "countsTwigs", "(I)V"⟩, 61), (⟨"BranchNamesModel", "rowsOf", "(III)J"⟩, 61), (⟨"BranchNamesModel", "pairs", "(I)J"⟩, 61), (⟨"BranchNamesModel", "namesTree", "()I"⟩, 61), (⟨"BranchNamesModel", "takesName", "()Z"⟩, 61), (⟨"BranchNamesModel", "byteAt", "(I)I"⟩, 61), (⟨"BranchNamesModel", "takesParts", "(I)Z"⟩, 61), (⟨"BranchNamesModel", "takesPart", "(I)Z"⟩, 61), (⟨"BranchNamesModel", "takesNumber", "()Z"⟩, 61), (⟨"BranchNamesModel", "takes", "(I)Z"⟩, 61), (⟨"BranchNamesModel", "takesWord", "(I)Z"⟩, 61), (⟨"BranchNamesModel", "behind", "(Ljava/lang/String;II)I"⟩, 61), (⟨"BranchNamesModel", "takesBranch", "(III)Z"⟩, 61), (⟨"BranchNamesModel", "takesStem", "(ILjava/lang/String;)Z"⟩, 61), (⟨"BranchNamesModel", "fails", "()Z"⟩, 61), (⟨"BranchNamesModel", "makes", "(II)Z"⟩, 61)]
theorem lw_r9 : ∀ q ∈ lw_privs_9, lw_okq q := List.forall_mem_cons.mpr ⟨lw_p128, List.forall_mem_cons.mpr ⟨lw_p129, List.forall_mem_cons.mpr ⟨lw_p130, List.forall_mem_cons.mpr ⟨lw_p131, List.forall_mem_cons.mpr ⟨lw_p132, List.forall_mem_cons.mpr ⟨lw_p133, List.forall_mem_cons.mpr ⟨lw_p134, List.forall_mem_cons.mpr ⟨lw_p135, List.forall_mem_cons.mpr ⟨lw_p136, List.forall_mem_cons.mpr ⟨lw_p137, List.forall_mem_cons.mpr ⟨lw_p138, List.forall_mem_cons.mpr ⟨lw_p139, List.forall_mem_cons.mpr ⟨lw_p140, List.forall_mem_cons.mpr ⟨lw_p141, List.forall_mem_cons.mpr ⟨lw_p142, List.forall_mem_cons.mpr ⟨lw_p143, fun _ h => absurd h List.not_mem_nil⟩⟩⟩⟩⟩⟩⟩⟩⟩⟩⟩⟩⟩⟩⟩⟩
theorem lw_p144 : lw_okq (⟨"BranchNamesModel", "hangsChain", "(III)V"⟩, 61) := ⟨⟨by decide +kernel, by decide +kernel⟩, lw_t7 (List.mem_of_getElem? (i := 156) rfl), lw_t10 (List.mem_of_getElem? (i := 29) rfl), lw_t10 (List.mem_of_getElem? (i := 30) rfl)⟩
theorem lw_p145 : lw_okq (⟨"BranchNamesModel", "hangs", "(II)V"⟩, 61) := ⟨⟨by decide +kernel, by decide +kernel⟩, lw_t7 (List.mem_of_getElem? (i := 156) rfl), lw_t10 (List.mem_of_getElem? (i := 33) rfl), lw_t10 (List.mem_of_getElem? (i := 34) rfl)⟩
theorem lw_p146 : lw_okq (⟨"BranchNamesModel", "makesPart", "(III)Z"⟩, 61) := ⟨⟨by decide +kernel, by decide +kernel⟩, lw_t7 (List.mem_of_getElem? (i := 156) rfl), lw_t10 (List.mem_of_getElem? (i := 37) rfl), lw_t10 (List.mem_of_getElem? (i := 38) rfl)⟩
theorem lw_p147 : lw_okq (⟨"BranchNamesModel", "isTrouble", "(II)Z"⟩, 61) := ⟨⟨by decide +kernel, by decide +kernel⟩, lw_t7 (List.mem_of_getElem? (i := 156) rfl), lw_t10 (List.mem_of_getElem? (i := 41) rfl), lw_t10 (List.mem_of_getElem? (i := 42) rfl)⟩
theorem lw_p148 : lw_okq (⟨"BranchNamesModel", "hangsTree", "(II)V"⟩, 61) := ⟨⟨by decide +kernel, by decide +kernel⟩, lw_t7 (List.mem_of_getElem? (i := 156) rfl), lw_t10 (List.mem_of_getElem? (i := 45) rfl), lw_t10 (List.mem_of_getElem? (i := 46) rfl)⟩
theorem lw_p149 : lw_okq (⟨"BranchNamesModel", "drawsMade", "()V"⟩, 61) := ⟨⟨by decide +kernel, by decide +kernel⟩, lw_t7 (List.mem_of_getElem? (i := 156) rfl), lw_t10 (List.mem_of_getElem? (i := 49) rfl), lw_t10 (List.mem_of_getElem? (i := 50) rfl)⟩
theorem lw_p150 : lw_okq (⟨"BranchNamesModel", "isItsName", "(I)Z"⟩, 61) := ⟨⟨by decide +kernel, by decide +kernel⟩, lw_t7 (List.mem_of_getElem? (i := 156) rfl), lw_t10 (List.mem_of_getElem? (i := 53) rfl), lw_t10 (List.mem_of_getElem? (i := 54) rfl)⟩
def lw_privs_10 : List (MethodName × Nat) := [(⟨"BranchNamesModel", "hangsChain", "(III)V"⟩, 61), (⟨"BranchNamesModel", "hangs", "(II)V"⟩, 61), (⟨"BranchNamesModel", "makesPart", "(III)Z"⟩, 61), (⟨"BranchNamesModel", "isTrouble", "(II)Z"⟩, 61), (⟨"BranchNamesModel", "hangsTree", "(II)V"⟩, 61), (⟨"BranchNamesModel", "drawsMade", "()V"⟩, 61), (⟨"BranchNamesModel", "isItsName", "(I)Z"⟩, 61)]
theorem lw_r10 : ∀ q ∈ lw_privs_10, lw_okq q := List.forall_mem_cons.mpr ⟨lw_p144, List.forall_mem_cons.mpr ⟨lw_p145, List.forall_mem_cons.mpr ⟨lw_p146, List.forall_mem_cons.mpr ⟨lw_p147, List.forall_mem_cons.mpr ⟨lw_p148, List.forall_mem_cons.mpr ⟨lw_p149, List.forall_mem_cons.mpr ⟨lw_p150, fun _ h => absurd h List.not_mem_nil⟩⟩⟩⟩⟩⟩⟩
def lw_privs : List (MethodName × Nat) := lw_privs_1 ++ (lw_privs_2 ++ (lw_privs_3 ++ (lw_privs_4 ++ (lw_privs_5 ++ (lw_privs_6 ++ (lw_privs_7 ++ (lw_privs_8 ++ (lw_privs_9 ++ (lw_privs_10)))))))))
def lw_tbl : List Cond := k2_sels lw_privs ++ tables_1
theorem lw_privs_ok : ∀ q ∈ lw_privs, lw_okq q := by
  show ∀ q ∈ lw_privs_1 ++ (lw_privs_2 ++ (lw_privs_3 ++ (lw_privs_4 ++ (lw_privs_5 ++ (lw_privs_6 ++ (lw_privs_7 ++ (lw_privs_8 ++ (lw_privs_9 ++ (lw_privs_10))))))))), lw_okq q
  exact List.forall_mem_append.mpr ⟨lw_r1, List.forall_mem_append.mpr ⟨lw_r2, List.forall_mem_append.mpr ⟨lw_r3, List.forall_mem_append.mpr ⟨lw_r4, List.forall_mem_append.mpr ⟨lw_r5, List.forall_mem_append.mpr ⟨lw_r6, List.forall_mem_append.mpr ⟨lw_r7, List.forall_mem_append.mpr ⟨lw_r8, List.forall_mem_append.mpr ⟨lw_r9, lw_r10⟩⟩⟩⟩⟩⟩⟩⟩⟩
-- ===== ONE list of words for every method: the tables' words that hold all through a run =====
def lw_all : List Cond := lw_tbl.filter goodWord
/-- a word of the tables by its place: claim/WORDS.tsv -/
theorem lw_w {w : Cond} (i : Nat) (h : lw_tbl[i]? = some w) (g : goodWord w = true) : w ∈ lw_all := List.mem_filter.mpr ⟨List.mem_of_getElem? h, g⟩
theorem lw_all_tbl {w : Cond} (h : w ∈ lw_all) : w ∈ lw_tbl := (List.mem_filter.mp h).1
theorem lw_self : GoodIn lw_all lw_all := fun w h => ⟨h, good_of_word (List.mem_filter.mp h).2⟩
/-- a class's field words, by their places -/
theorem lw_in (ws : List Cond) (ps : List Nat) (hp : ws = ps.filterMap (fun i => lw_tbl[i]?)) (hg : ws.all goodWord = true) : ∀ w ∈ ws, w ∈ lw_all := by
  intro w h
  have h1 := List.all_eq_true.mp hg w h
  rw [hp] at h
  obtain ⟨i, -, hi⟩ := List.mem_filterMap.mp h
  exact lw_w i hi h1
/-- the words of a contract for the method y with code b, L locals, answer r -/
abbrev ws_ (y : MethodName) (b : ByteArray) (L : Nat) (r : Option FieldType) : List Cond := Cond.code y b L r :: lw_all
theorem lw_meth {y : MethodName} {b : ByteArray} {L : Nat} {r : Option FieldType} (h : Cond.code y b L r ∈ lw_all) : GoodIn lw_all (ws_ y b L r) := by
  intro w hw
  rcases List.mem_cons.mp hw with e | e
  · rw [e]
    exact lw_self _ h
  · exact lw_self _ e
theorem lw_app {a c : List Cond} (ha : ∀ w ∈ a, w ∈ lw_all) (hc : GoodIn lw_all c) : GoodIn lw_all (a ++ c) := by
  intro w hw
  rcases List.mem_append.mp hw with e | e
  · exact lw_self w (ha w e)
  · exact hc w e
/-- what a call through an object asks: cwV n hts (lw_V ..) -/
theorem lw_V {own : String} {idx : Nat} {C : String} {y : MethodName} {b : ByteArray} {L : Nat} {r : Option FieldType} (h1 : Cond.methodLink own idx y ∈ lw_all) (h2 : Cond.instanceMethod y ∈ lw_all) (h3 : Cond.selects C y y ∈ lw_all) (h4 : Cond.initialized C ∈ lw_all) (h5 : Cond.code y b L r ∈ lw_all) : GoodIn lw_all (wsV own idx C y (ws_ y b L r)) := by
  refine lw_app ?_ (lw_meth h5)
  intro w hw
  simp only [List.mem_cons, List.not_mem_nil, or_false] at hw
  rcases hw with e | e | e | e
  · rw [e]; exact h1
  · rw [e]; exact h2
  · rw [e]; exact h3
  · rw [e]; exact h4
/-- what a static call asks: va_cwS n hts (lw_S ..) -/
theorem lw_S {own : String} {idx : Nat} {y : MethodName} {b : ByteArray} {L : Nat} {r : Option FieldType} (h1 : Cond.methodLink own idx y ∈ lw_all) (h2 : Cond.static y ∈ lw_all) (h3 : Cond.initialized y.cls ∈ lw_all) (h4 : Cond.code y b L r ∈ lw_all) : GoodIn lw_all (va_wsS own idx y (ws_ y b L r)) := by
  refine lw_app ?_ (lw_meth h4)
  intro w hw
  simp only [List.mem_cons, List.not_mem_nil, or_false] at hw
  rcases hw with e | e | e
  · rw [e]; exact h1
  · rw [e]; exact h2
  · rw [e]; exact h3
/-- the words of a contract for a method WITH HANDLERS (hh: its table) -/
abbrev wsW_ (y : MethodName) (b : ByteArray) (L : Nat) (r : Option FieldType) (hh : List (Nat × Nat × Nat × Nat)) : List Cond := Cond.codeWith y b L r hh :: lw_all
theorem lw_methW {y : MethodName} {b : ByteArray} {L : Nat} {r : Option FieldType} {hh : List (Nat × Nat × Nat × Nat)} (h : Cond.codeWith y b L r hh ∈ lw_all) : GoodIn lw_all (wsW_ y b L r hh) := by
  intro w hw
  rcases List.mem_cons.mp hw with e | e
  · rw [e]
    exact lw_self _ h
  · exact lw_self _ e
/-- any list of words by their places (lw_in), good -/
theorem lw_good {ws : List Cond} (h : ∀ w ∈ ws, w ∈ lw_all) : GoodIn lw_all ws := fun w hw => lw_self w (h w hw)
/-- what a call of a method with handlers asks: vx_cwVW n hts (lw_VW ..), vx_cwSW n hts (lw_SW ..) -/
theorem lw_VW {own : String} {idx : Nat} {C : String} {y : MethodName} {b : ByteArray} {L : Nat} {r : Option FieldType} {hh : List (Nat × Nat × Nat × Nat)} (h1 : Cond.methodLink own idx y ∈ lw_all) (h2 : Cond.instanceMethod y ∈ lw_all) (h3 : Cond.selects C y y ∈ lw_all) (h4 : Cond.initialized C ∈ lw_all) (h5 : Cond.codeWith y b L r hh ∈ lw_all) : GoodIn lw_all (wsV own idx C y (wsW_ y b L r hh)) := by
  refine lw_app ?_ (lw_methW h5)
  intro w hw
  simp only [List.mem_cons, List.not_mem_nil, or_false] at hw
  rcases hw with e | e | e | e
  · rw [e]; exact h1
  · rw [e]; exact h2
  · rw [e]; exact h3
  · rw [e]; exact h4
theorem lw_SW {own : String} {idx : Nat} {y : MethodName} {b : ByteArray} {L : Nat} {r : Option FieldType} {hh : List (Nat × Nat × Nat × Nat)} (h1 : Cond.methodLink own idx y ∈ lw_all) (h2 : Cond.static y ∈ lw_all) (h3 : Cond.initialized y.cls ∈ lw_all) (h4 : Cond.codeWith y b L r hh ∈ lw_all) : GoodIn lw_all (va_wsS own idx y (wsW_ y b L r hh)) := by
  refine lw_app ?_ (lw_methW h4)
  intro w hw
  simp only [List.mem_cons, List.not_mem_nil, or_false] at hw
  rcases hw with e | e | e
  · rw [e]; exact h1
  · rw [e]; exact h2
  · rw [e]; exact h3
/-- a word by its place in its run of the tables -/
theorem lw_at {r : List Cond} (hr : ∀ w ∈ r, w ∈ lw_tbl) {w : Cond} (i : Nat) (h : r[i]? = some w) : w ∈ lw_tbl := hr w (List.mem_of_getElem? h)
theorem lw_g {w : Cond} (h : w ∈ lw_tbl) (g : goodWord w = true) : w ∈ lw_all := List.mem_filter.mpr ⟨h, g⟩
theorem lw_ms : ∀ w ∈ k2_sels lw_privs, w ∈ lw_tbl := fun w h => show w ∈ k2_sels lw_privs ++ tables_1 from List.mem_append_left _ h
theorem lw_m1 : ∀ w ∈ tables_1_1, w ∈ lw_tbl := fun w h => show w ∈ k2_sels lw_privs ++ tables_1 from List.mem_append_right (k2_sels lw_privs) (show w ∈ tables_1 from List.mem_append_left _ h)
theorem lw_m2 : ∀ w ∈ tables_1_2, w ∈ lw_tbl := fun w h => show w ∈ k2_sels lw_privs ++ tables_1 from List.mem_append_right (k2_sels lw_privs) (show w ∈ tables_1 from List.mem_append_right _ (List.mem_append_left _ h))
theorem lw_m3 : ∀ w ∈ tables_1_3, w ∈ lw_tbl := fun w h => show w ∈ k2_sels lw_privs ++ tables_1 from List.mem_append_right (k2_sels lw_privs) (show w ∈ tables_1 from List.mem_append_right _ (List.mem_append_right _ (List.mem_append_left _ h)))
theorem lw_m4 : ∀ w ∈ tables_1_4, w ∈ lw_tbl := fun w h => show w ∈ k2_sels lw_privs ++ tables_1 from List.mem_append_right (k2_sels lw_privs) (show w ∈ tables_1 from List.mem_append_right _ (List.mem_append_right _ (List.mem_append_right _ (List.mem_append_left _ h))))
theorem lw_m5 : ∀ w ∈ tables_1_5, w ∈ lw_tbl := fun w h => show w ∈ k2_sels lw_privs ++ tables_1 from List.mem_append_right (k2_sels lw_privs) (show w ∈ tables_1 from List.mem_append_right _ (List.mem_append_right _ (List.mem_append_right _ (List.mem_append_right _ (List.mem_append_left _ h)))))
theorem lw_m6 : ∀ w ∈ tables_1_6, w ∈ lw_tbl := fun w h => show w ∈ k2_sels lw_privs ++ tables_1 from List.mem_append_right (k2_sels lw_privs) (show w ∈ tables_1 from List.mem_append_right _ (List.mem_append_right _ (List.mem_append_right _ (List.mem_append_right _ (List.mem_append_right _ (List.mem_append_left _ h))))))
theorem lw_m7 : ∀ w ∈ tables_1_7, w ∈ lw_tbl := fun w h => show w ∈ k2_sels lw_privs ++ tables_1 from List.mem_append_right (k2_sels lw_privs) (show w ∈ tables_1 from List.mem_append_right _ (List.mem_append_right _ (List.mem_append_right _ (List.mem_append_right _ (List.mem_append_right _ (List.mem_append_right _ (List.mem_append_left _ h)))))))
theorem lw_m8 : ∀ w ∈ tables_1_8, w ∈ lw_tbl := fun w h => show w ∈ k2_sels lw_privs ++ tables_1 from List.mem_append_right (k2_sels lw_privs) (show w ∈ tables_1 from List.mem_append_right _ (List.mem_append_right _ (List.mem_append_right _ (List.mem_append_right _ (List.mem_append_right _ (List.mem_append_right _ (List.mem_append_right _ (List.mem_append_left _ h))))))))
theorem lw_m9 : ∀ w ∈ tables_1_9, w ∈ lw_tbl := fun w h => show w ∈ k2_sels lw_privs ++ tables_1 from List.mem_append_right (k2_sels lw_privs) (show w ∈ tables_1 from List.mem_append_right _ (List.mem_append_right _ (List.mem_append_right _ (List.mem_append_right _ (List.mem_append_right _ (List.mem_append_right _ (List.mem_append_right _ (List.mem_append_right _ (List.mem_append_left _ h)))))))))
theorem lw_m10 : ∀ w ∈ tables_1_10, w ∈ lw_tbl := fun w h => show w ∈ k2_sels lw_privs ++ tables_1 from List.mem_append_right (k2_sels lw_privs) (show w ∈ tables_1 from List.mem_append_right _ (List.mem_append_right _ (List.mem_append_right _ (List.mem_append_right _ (List.mem_append_right _ (List.mem_append_right _ (List.mem_append_right _ (List.mem_append_right _ (List.mem_append_right _ h)))))))))
theorem qs0 : (Cond.selects "BranchNames" ⟨"BranchNames", "lambda$new$2", "(LBranchNames$Tree;)I"⟩ ⟨"BranchNames", "lambda$new$2", "(LBranchNames$Tree;)I"⟩) ∈ lw_all := lw_g (lw_at lw_ms 0 rfl) rfl
theorem qs1 : (Cond.selects "BranchNames" ⟨"BranchNames", "twos", "(LBranchNames$Tree;I)I"⟩ ⟨"BranchNames", "twos", "(LBranchNames$Tree;I)I"⟩) ∈ lw_all := lw_g (lw_at lw_ms 1 rfl) rfl
theorem qs2 : (Cond.selects "BranchNames" ⟨"BranchNames", "measures", "(LBranchNames$Tree;)V"⟩ ⟨"BranchNames", "measures", "(LBranchNames$Tree;)V"⟩) ∈ lw_all := lw_g (lw_at lw_ms 2 rfl) rfl
theorem qs3 : (Cond.selects "BranchNames" ⟨"BranchNames", "goes", "(LBranchNames$Tree;IIII)V"⟩ ⟨"BranchNames", "goes", "(LBranchNames$Tree;IIII)V"⟩) ∈ lw_all := lw_g (lw_at lw_ms 3 rfl) rfl
theorem qs4 : (Cond.selects "BranchNames" ⟨"BranchNames", "lambda$new$3", "(LBranchNames$Tree;)I"⟩ ⟨"BranchNames", "lambda$new$3", "(LBranchNames$Tree;)I"⟩) ∈ lw_all := lw_g (lw_at lw_ms 4 rfl) rfl
theorem qs5 : (Cond.selects "BranchNames" ⟨"BranchNames", "leastDeep", "(LBranchNames$Tree;)I"⟩ ⟨"BranchNames", "leastDeep", "(LBranchNames$Tree;)I"⟩) ∈ lw_all := lw_g (lw_at lw_ms 5 rfl) rfl
theorem qs6 : (Cond.selects "BranchNames" ⟨"BranchNames", "centre", "(LBranchNames$Tree;I)I"⟩ ⟨"BranchNames", "centre", "(LBranchNames$Tree;I)I"⟩) ∈ lw_all := lw_g (lw_at lw_ms 6 rfl) rfl
theorem qs7 : (Cond.selects "BranchNames" ⟨"BranchNames", "deep", "(LBranchNames$Tree;I)I"⟩ ⟨"BranchNames", "deep", "(LBranchNames$Tree;I)I"⟩) ∈ lw_all := lw_g (lw_at lw_ms 7 rfl) rfl
theorem qs8 : (Cond.selects "BranchNames" ⟨"BranchNames", "unlikeOf", "(LBranchNames$Tree;)I"⟩ ⟨"BranchNames", "unlikeOf", "(LBranchNames$Tree;)I"⟩) ∈ lw_all := lw_g (lw_at lw_ms 8 rfl) rfl
theorem qs9 : (Cond.selects "BranchNames" ⟨"BranchNames", "looks", "(LBranchNames$Tree;)V"⟩ ⟨"BranchNames", "looks", "(LBranchNames$Tree;)V"⟩) ∈ lw_all := lw_g (lw_at lw_ms 9 rfl) rfl
theorem qs10 : (Cond.selects "BranchNames" ⟨"BranchNames", "seenAt", "(LBranchNames$Tree;I)J"⟩ ⟨"BranchNames", "seenAt", "(LBranchNames$Tree;I)J"⟩) ∈ lw_all := lw_g (lw_at lw_ms 10 rfl) rfl
theorem qs11 : (Cond.selects "BranchNames" ⟨"BranchNames", "codeOf", "(LBranchNames$Tree;III)J"⟩ ⟨"BranchNames", "codeOf", "(LBranchNames$Tree;III)J"⟩) ∈ lw_all := lw_g (lw_at lw_ms 11 rfl) rfl
theorem qs12 : (Cond.selects "BranchNames" ⟨"BranchNames", "leastAlike", "(I)I"⟩ ⟨"BranchNames", "leastAlike", "(I)I"⟩) ∈ lw_all := lw_g (lw_at lw_ms 12 rfl) rfl
theorem qs13 : (Cond.selects "BranchNames" ⟨"BranchNames", "waysOf", "(LBranchNames$Tree;)I"⟩ ⟨"BranchNames", "waysOf", "(LBranchNames$Tree;)I"⟩) ∈ lw_all := lw_g (lw_at lw_ms 13 rfl) rfl
theorem qs14 : (Cond.selects "BranchNames" ⟨"BranchNames", "alike", "(LBranchNames$Tree;I)I"⟩ ⟨"BranchNames", "alike", "(LBranchNames$Tree;I)I"⟩) ∈ lw_all := lw_g (lw_at lw_ms 14 rfl) rfl
theorem qs15 : (Cond.selects "BranchNames" ⟨"BranchNames", "ways", "(LBranchNames$Tree;III)I"⟩ ⟨"BranchNames", "ways", "(LBranchNames$Tree;III)I"⟩) ∈ lw_all := lw_g (lw_at lw_ms 15 rfl) rfl
theorem qs16 : (Cond.selects "BranchNames" ⟨"BranchNames", "grownOf", "(LBranchNames$Tree;)I"⟩ ⟨"BranchNames", "grownOf", "(LBranchNames$Tree;)I"⟩) ∈ lw_all := lw_g (lw_at lw_ms 16 rfl) rfl
theorem qs17 : (Cond.selects "BranchNames" ⟨"BranchNames", "keyOf", "(LBranchNames$Tree;)J"⟩ ⟨"BranchNames", "keyOf", "(LBranchNames$Tree;)J"⟩) ∈ lw_all := lw_g (lw_at lw_ms 17 rfl) rfl
theorem qs18 : (Cond.selects "BranchNames" ⟨"BranchNames", "lambda$new$4", "(LBranchNames$Tree;)I"⟩ ⟨"BranchNames", "lambda$new$4", "(LBranchNames$Tree;)I"⟩) ∈ lw_all := lw_g (lw_at lw_ms 18 rfl) rfl
theorem qs19 : (Cond.selects "BranchNames" ⟨"BranchNames", "greatestDeep", "(LBranchNames$Tree;)I"⟩ ⟨"BranchNames", "greatestDeep", "(LBranchNames$Tree;)I"⟩) ∈ lw_all := lw_g (lw_at lw_ms 19 rfl) rfl
theorem qs20 : (Cond.selects "BranchNames" ⟨"BranchNames", "branchesOf", "(LBranchNames$Tree;)I"⟩ ⟨"BranchNames", "branchesOf", "(LBranchNames$Tree;)I"⟩) ∈ lw_all := lw_g (lw_at lw_ms 20 rfl) rfl
theorem qs21 : (Cond.selects "BranchNames" ⟨"BranchNames", "seeksAll", "(LBranchNames$Tree;IILBranchNames$Sees;)V"⟩ ⟨"BranchNames", "seeksAll", "(LBranchNames$Tree;IILBranchNames$Sees;)V"⟩) ∈ lw_all := lw_g (lw_at lw_ms 21 rfl) rfl
theorem qs22 : (Cond.selects "BranchNames$Seeker" ⟨"BranchNames$Seeker", "hanging", "(I)I"⟩ ⟨"BranchNames$Seeker", "hanging", "(I)I"⟩) ∈ lw_all := lw_g (lw_at lw_ms 22 rfl) rfl
theorem qs23 : (Cond.selects "BranchNames$1" ⟨"BranchNames$1", "isBetter", "(LBranchNames$Way;)Z"⟩ ⟨"BranchNames$1", "isBetter", "(LBranchNames$Way;)Z"⟩) ∈ lw_all := lw_g (lw_at lw_ms 23 rfl) rfl
theorem qs24 : (Cond.selects "BranchNames" ⟨"BranchNames", "comesIn", "(I)V"⟩ ⟨"BranchNames", "comesIn", "(I)V"⟩) ∈ lw_all := lw_g (lw_at lw_ms 24 rfl) rfl
theorem qs25 : (Cond.selects "BranchNames" ⟨"BranchNames", "copied", "()[I"⟩ ⟨"BranchNames", "copied", "()[I"⟩) ∈ lw_all := lw_g (lw_at lw_ms 25 rfl) rfl
theorem qs26 : (Cond.selects "BranchNames" ⟨"BranchNames", "lists", "(I)V"⟩ ⟨"BranchNames", "lists", "(I)V"⟩) ∈ lw_all := lw_g (lw_at lw_ms 26 rfl) rfl
theorem qs27 : (Cond.selects "BranchNames" ⟨"BranchNames", "isBy", "(LBranchNames$Tree;II)Z"⟩ ⟨"BranchNames", "isBy", "(LBranchNames$Tree;II)Z"⟩) ∈ lw_all := lw_g (lw_at lw_ms 27 rfl) rfl
theorem qs28 : (Cond.selects "BranchNames" ⟨"BranchNames", "digitsOf", "(II)V"⟩ ⟨"BranchNames", "digitsOf", "(II)V"⟩) ∈ lw_all := lw_g (lw_at lw_ms 28 rfl) rfl
theorem qs29 : (Cond.selects "BranchNames" ⟨"BranchNames", "isTwig", "(LBranchNames$Tree;II)Z"⟩ ⟨"BranchNames", "isTwig", "(LBranchNames$Tree;II)Z"⟩) ∈ lw_all := lw_g (lw_at lw_ms 29 rfl) rfl
theorem qs30 : (Cond.selects "BranchNames" ⟨"BranchNames", "counts", "()V"⟩ ⟨"BranchNames", "counts", "()V"⟩) ∈ lw_all := lw_g (lw_at lw_ms 30 rfl) rfl
theorem qs31 : (Cond.selects "BranchNames" ⟨"BranchNames", "setsOf", "(II)J"⟩ ⟨"BranchNames", "setsOf", "(II)J"⟩) ∈ lw_all := lw_g (lw_at lw_ms 31 rfl) rfl
theorem qs32 : (Cond.selects "BranchNames" ⟨"BranchNames", "rooted", "(I)J"⟩ ⟨"BranchNames", "rooted", "(I)J"⟩) ∈ lw_all := lw_g (lw_at lw_ms 32 rfl) rfl
theorem qs33 : (Cond.selects "BranchNames" ⟨"BranchNames", "bonded", "(I)J"⟩ ⟨"BranchNames", "bonded", "(I)J"⟩) ∈ lw_all := lw_g (lw_at lw_ms 33 rfl) rfl
theorem qs34 : (Cond.selects "BranchNames" ⟨"BranchNames", "halved", "(I)J"⟩ ⟨"BranchNames", "halved", "(I)J"⟩) ∈ lw_all := lw_g (lw_at lw_ms 34 rfl) rfl
theorem qs35 : (Cond.selects "BranchNames$Tree" ⟨"BranchNames$Tree", "frees", "(II)V"⟩ ⟨"BranchNames$Tree", "frees", "(II)V"⟩) ∈ lw_all := lw_g (lw_at lw_ms 35 rfl) rfl
theorem qs36 : (Cond.selects "BranchNames$Tree" ⟨"BranchNames$Tree", "bondTo2", "(II)I"⟩ ⟨"BranchNames$Tree", "bondTo2", "(II)I"⟩) ∈ lw_all := lw_g (lw_at lw_ms 36 rfl) rfl
theorem qs37 : (Cond.selects "BranchNames$Tree" ⟨"BranchNames$Tree", "bondTo", "(II)I"⟩ ⟨"BranchNames$Tree", "bondTo", "(II)I"⟩) ∈ lw_all := lw_g (lw_at lw_ms 37 rfl) rfl
theorem qs38 : (Cond.selects "BranchNames" ⟨"BranchNames", "isListed", "(II)Z"⟩ ⟨"BranchNames", "isListed", "(II)Z"⟩) ∈ lw_all := lw_g (lw_at lw_ms 38 rfl) rfl
theorem qs39 : (Cond.selects "BranchNames" ⟨"BranchNames", "isList", "(I)Z"⟩ ⟨"BranchNames", "isList", "(I)Z"⟩) ∈ lw_all := lw_g (lw_at lw_ms 39 rfl) rfl
theorem qs40 : (Cond.selects "BranchNames" ⟨"BranchNames", "placeIn", "([IJ)I"⟩ ⟨"BranchNames", "placeIn", "([IJ)I"⟩) ∈ lw_all := lw_g (lw_at lw_ms 40 rfl) rfl
theorem qs41 : (Cond.selects "BranchNames" ⟨"BranchNames", "nameOf", "(LBranchNames$Tree;II)Ljava/lang/String;"⟩ ⟨"BranchNames", "nameOf", "(LBranchNames$Tree;II)Ljava/lang/String;"⟩) ∈ lw_all := lw_g (lw_at lw_ms 41 rfl) rfl
theorem qs42 : (Cond.selects "BranchNames" ⟨"BranchNames", "chainOf", "(LBranchNames$Tree;II)LBranchNames$Way;"⟩ ⟨"BranchNames", "chainOf", "(LBranchNames$Tree;II)LBranchNames$Way;"⟩) ∈ lw_all := lw_g (lw_at lw_ms 42 rfl) rfl
theorem qs43 : (Cond.selects "BranchNames" ⟨"BranchNames", "lambda$chainOf$1", "(LBranchNames$Tree;ILBranchNames$Way;LBranchNames$Way;)I"⟩ ⟨"BranchNames", "lambda$chainOf$1", "(LBranchNames$Tree;ILBranchNames$Way;LBranchNames$Way;)I"⟩) ∈ lw_all := lw_g (lw_at lw_ms 43 rfl) rfl
theorem qs44 : (Cond.selects "BranchNames" ⟨"BranchNames", "prefersName", "(LBranchNames$Tree;ILBranchNames$Way;LBranchNames$Way;)I"⟩ ⟨"BranchNames", "prefersName", "(LBranchNames$Tree;ILBranchNames$Way;LBranchNames$Way;)I"⟩) ∈ lw_all := lw_g (lw_at lw_ms 44 rfl) rfl
theorem qs45 : (Cond.selects "BranchNames" ⟨"BranchNames", "nameBy", "(LBranchNames$Tree;ILBranchNames$Way;)Ljava/lang/String;"⟩ ⟨"BranchNames", "nameBy", "(LBranchNames$Tree;ILBranchNames$Way;)Ljava/lang/String;"⟩) ∈ lw_all := lw_g (lw_at lw_ms 45 rfl) rfl
theorem qs46 : (Cond.selects "java/util/ArrayList" ⟨"java/util/ArrayList", "rangeCheckForAdd", "(I)V"⟩ ⟨"java/util/ArrayList", "rangeCheckForAdd", "(I)V"⟩) ∈ lw_all := lw_g (lw_at lw_ms 46 rfl) rfl
theorem qs47 : (Cond.selects "java/util/ArrayList" ⟨"java/util/ArrayList", "grow", "()[Ljava/lang/Object;"⟩ ⟨"java/util/ArrayList", "grow", "()[Ljava/lang/Object;"⟩) ∈ lw_all := lw_g (lw_at lw_ms 47 rfl) rfl
theorem qs48 : (Cond.selects "java/util/ArrayList" ⟨"java/util/ArrayList", "grow", "(I)[Ljava/lang/Object;"⟩ ⟨"java/util/ArrayList", "grow", "(I)[Ljava/lang/Object;"⟩) ∈ lw_all := lw_g (lw_at lw_ms 48 rfl) rfl
theorem qs49 : (Cond.selects "BranchNames$Named" ⟨"BranchNames$Named", "isBracketed", "()Z"⟩ ⟨"BranchNames$Named", "isBracketed", "()Z"⟩) ∈ lw_all := lw_g (lw_at lw_ms 49 rfl) rfl
theorem qs50 : (Cond.selects "BranchNames" ⟨"BranchNames", "orderOf", "(II)[I"⟩ ⟨"BranchNames", "orderOf", "(II)[I"⟩) ∈ lw_all := lw_g (lw_at lw_ms 50 rfl) rfl
theorem qs51 : (Cond.selects "BranchNames" ⟨"BranchNames", "nameOf", "(LBranchNames$Tree;)Ljava/lang/String;"⟩ ⟨"BranchNames", "nameOf", "(LBranchNames$Tree;)Ljava/lang/String;"⟩) ∈ lw_all := lw_g (lw_at lw_ms 51 rfl) rfl
theorem qs52 : (Cond.selects "BranchNames" ⟨"BranchNames", "chainOf", "(LBranchNames$Tree;)LBranchNames$Way;"⟩ ⟨"BranchNames", "chainOf", "(LBranchNames$Tree;)LBranchNames$Way;"⟩) ∈ lw_all := lw_g (lw_at lw_ms 52 rfl) rfl
theorem qs53 : (Cond.selects "BranchNames" ⟨"BranchNames", "nameListed", "(II)Ljava/lang/String;"⟩ ⟨"BranchNames", "nameListed", "(II)Ljava/lang/String;"⟩) ∈ lw_all := lw_g (lw_at lw_ms 53 rfl) rfl
theorem qs54 : (Cond.selects "BranchNames" ⟨"BranchNames", "numberAt", "(LBranchNames$Way;I)I"⟩ ⟨"BranchNames", "numberAt", "(LBranchNames$Way;I)I"⟩) ∈ lw_all := lw_g (lw_at lw_ms 54 rfl) rfl
theorem qs55 : (Cond.selects "BranchNames" ⟨"BranchNames", "reading", "()I"⟩ ⟨"BranchNames", "reading", "()I"⟩) ∈ lw_all := lw_g (lw_at lw_ms 55 rfl) rfl
theorem qs56 : (Cond.selects "BranchNames$Reader" ⟨"BranchNames$Reader", "here", "()I"⟩ ⟨"BranchNames$Reader", "here", "()I"⟩) ∈ lw_all := lw_g (lw_at lw_ms 56 rfl) rfl
theorem qs57 : (Cond.selects "BranchNames$Reader" ⟨"BranchNames$Reader", "parts", "()LBranchNames$Branch;"⟩ ⟨"BranchNames$Reader", "parts", "()LBranchNames$Branch;"⟩) ∈ lw_all := lw_g (lw_at lw_ms 57 rfl) rfl
theorem qs58 : (Cond.selects "BranchNames$Reader" ⟨"BranchNames$Reader", "part", "()LBranchNames$Part;"⟩ ⟨"BranchNames$Reader", "part", "()LBranchNames$Part;"⟩) ∈ lw_all := lw_g (lw_at lw_ms 58 rfl) rfl
theorem qs59 : (Cond.selects "BranchNames$Reader" ⟨"BranchNames$Reader", "number", "()I"⟩ ⟨"BranchNames$Reader", "number", "()I"⟩) ∈ lw_all := lw_g (lw_at lw_ms 59 rfl) rfl
theorem qs60 : (Cond.selects "java/lang/Throwable" ⟨"java/lang/Throwable", "fillInStackTrace", "(I)Ljava/lang/Throwable;"⟩ ⟨"java/lang/Throwable", "fillInStackTrace", "(I)Ljava/lang/Throwable;"⟩) ∈ lw_all := lw_g (lw_at lw_ms 60 rfl) rfl
theorem qs61 : (Cond.selects "BranchNames$Reader" ⟨"BranchNames$Reader", "isSign", "(I)Z"⟩ ⟨"BranchNames$Reader", "isSign", "(I)Z"⟩) ∈ lw_all := lw_g (lw_at lw_ms 61 rfl) rfl
theorem qs62 : (Cond.selects "BranchNames$Reader" ⟨"BranchNames$Reader", "must", "(I)V"⟩ ⟨"BranchNames$Reader", "must", "(I)V"⟩) ∈ lw_all := lw_g (lw_at lw_ms 62 rfl) rfl
theorem qs63 : (Cond.selects "BranchNames$Reader" ⟨"BranchNames$Reader", "wordOf", "([Ljava/lang/String;)I"⟩ ⟨"BranchNames$Reader", "wordOf", "([Ljava/lang/String;)I"⟩) ∈ lw_all := lw_g (lw_at lw_ms 63 rfl) rfl
theorem qs64 : (Cond.selects "BranchNames$Reader" ⟨"BranchNames$Reader", "alongside", "(Ljava/lang/String;)I"⟩ ⟨"BranchNames$Reader", "alongside", "(Ljava/lang/String;)I"⟩) ∈ lw_all := lw_g (lw_at lw_ms 64 rfl) rfl
theorem qs65 : (Cond.selects "BranchNames$Reader" ⟨"BranchNames$Reader", "branch", "()LBranchNames$Branch;"⟩ ⟨"BranchNames$Reader", "branch", "()LBranchNames$Branch;"⟩) ∈ lw_all := lw_g (lw_at lw_ms 65 rfl) rfl
theorem qs66 : (Cond.selects "BranchNames$Reader" ⟨"BranchNames$Reader", "bracket", "()LBranchNames$Branch;"⟩ ⟨"BranchNames$Reader", "bracket", "()LBranchNames$Branch;"⟩) ∈ lw_all := lw_g (lw_at lw_ms 66 rfl) rfl
theorem qs67 : (Cond.selects "BranchNames$Reader" ⟨"BranchNames$Reader", "stemBehind", "()I"⟩ ⟨"BranchNames$Reader", "stemBehind", "()I"⟩) ∈ lw_all := lw_g (lw_at lw_ms 67 rfl) rfl
theorem qs68 : (Cond.selects "BranchNames$Reader" ⟨"BranchNames$Reader", "stem", "()I"⟩ ⟨"BranchNames$Reader", "stem", "()I"⟩) ∈ lw_all := lw_g (lw_at lw_ms 68 rfl) rfl
theorem qs69 : (Cond.selects "java/util/ArrayList" ⟨"java/util/ArrayList", "add", "(Ljava/lang/Object;[Ljava/lang/Object;I)V"⟩ ⟨"java/util/ArrayList", "add", "(Ljava/lang/Object;[Ljava/lang/Object;I)V"⟩) ∈ lw_all := lw_g (lw_at lw_ms 69 rfl) rfl
theorem qs70 : (Cond.selects "BranchNames" ⟨"BranchNames", "makes", "(LBranchNames$Branch;LBranchNames$Tree;I)V"⟩ ⟨"BranchNames", "makes", "(LBranchNames$Branch;LBranchNames$Tree;I)V"⟩) ∈ lw_all := lw_g (lw_at lw_ms 70 rfl) rfl
theorem qs71 : (Cond.selects "BranchNames" ⟨"BranchNames", "makesWithin", "(LBranchNames$Part;LBranchNames$Tree;)V"⟩ ⟨"BranchNames", "makesWithin", "(LBranchNames$Part;LBranchNames$Tree;)V"⟩) ∈ lw_all := lw_g (lw_at lw_ms 71 rfl) rfl
theorem qs72 : (Cond.selects "BranchNames" ⟨"BranchNames", "comes", "(LBranchNames$Tree;LBranchNames$Part;IIILBranchNames$Tree;)V"⟩ ⟨"BranchNames", "comes", "(LBranchNames$Tree;LBranchNames$Part;IIILBranchNames$Tree;)V"⟩) ∈ lw_all := lw_g (lw_at lw_ms 72 rfl) rfl
theorem qs73 : (Cond.selects "BranchNames" ⟨"BranchNames", "isWord", "(Ljava/lang/String;)Z"⟩ ⟨"BranchNames", "isWord", "(Ljava/lang/String;)Z"⟩) ∈ lw_all := lw_g (lw_at lw_ms 73 rfl) rfl
theorem qs74 : (Cond.selects "BranchNames" ⟨"BranchNames", "tells", "(LBranchNames$Trouble;)V"⟩ ⟨"BranchNames", "tells", "(LBranchNames$Trouble;)V"⟩) ∈ lw_all := lw_g (lw_at lw_ms 74 rfl) rfl
theorem qs75 : (Cond.selects "BranchNamesModel" ⟨"BranchNamesModel", "isAtom", "(I)Z"⟩ ⟨"BranchNamesModel", "isAtom", "(I)Z"⟩) ∈ lw_all := lw_g (lw_at lw_ms 75 rfl) rfl
theorem qs76 : (Cond.selects "BranchNamesModel" ⟨"BranchNamesModel", "looksAtDrawing", "()V"⟩ ⟨"BranchNamesModel", "looksAtDrawing", "()V"⟩) ∈ lw_all := lw_g (lw_at lw_ms 76 rfl) rfl
theorem qs77 : (Cond.selects "BranchNamesModel" ⟨"BranchNamesModel", "binds", "(II)V"⟩ ⟨"BranchNamesModel", "binds", "(II)V"⟩) ∈ lw_all := lw_g (lw_at lw_ms 77 rfl) rfl
theorem qs78 : (Cond.selects "BranchNamesModel" ⟨"BranchNamesModel", "draws", "()V"⟩ ⟨"BranchNamesModel", "draws", "()V"⟩) ∈ lw_all := lw_g (lw_at lw_ms 78 rfl) rfl
theorem qs79 : (Cond.selects "BranchNamesModel" ⟨"BranchNamesModel", "isListed", "(II)Z"⟩ ⟨"BranchNamesModel", "isListed", "(II)Z"⟩) ∈ lw_all := lw_g (lw_at lw_ms 79 rfl) rfl
theorem qs80 : (Cond.selects "BranchNamesModel" ⟨"BranchNamesModel", "isListOf", "(I)Z"⟩ ⟨"BranchNamesModel", "isListOf", "(I)Z"⟩) ∈ lw_all := lw_g (lw_at lw_ms 80 rfl) rfl
theorem qs81 : (Cond.selects "BranchNamesModel" ⟨"BranchNamesModel", "lists", "()V"⟩ ⟨"BranchNamesModel", "lists", "()V"⟩) ∈ lw_all := lw_g (lw_at lw_ms 81 rfl) rfl
theorem qs82 : (Cond.selects "BranchNamesModel" ⟨"BranchNamesModel", "keeps", "(II)V"⟩ ⟨"BranchNamesModel", "keeps", "(II)V"⟩) ∈ lw_all := lw_g (lw_at lw_ms 82 rfl) rfl
theorem qs83 : (Cond.selects "BranchNamesModel" ⟨"BranchNamesModel", "comesFrom", "(II)Z"⟩ ⟨"BranchNamesModel", "comesFrom", "(II)Z"⟩) ∈ lw_all := lw_g (lw_at lw_ms 83 rfl) rfl
theorem qs84 : (Cond.selects "BranchNamesModel" ⟨"BranchNamesModel", "grows", "(I)Z"⟩ ⟨"BranchNamesModel", "grows", "(I)Z"⟩) ∈ lw_all := lw_g (lw_at lw_ms 84 rfl) rfl
theorem qs85 : (Cond.selects "BranchNamesModel" ⟨"BranchNamesModel", "digitAt", "(I)I"⟩ ⟨"BranchNamesModel", "digitAt", "(I)I"⟩) ∈ lw_all := lw_g (lw_at lw_ms 85 rfl) rfl
theorem qs86 : (Cond.selects "BranchNamesModel" ⟨"BranchNamesModel", "codeOf", "(II)I"⟩ ⟨"BranchNamesModel", "codeOf", "(II)I"⟩) ∈ lw_all := lw_g (lw_at lw_ms 86 rfl) rfl
theorem qs87 : (Cond.selects "BranchNamesModel" ⟨"BranchNamesModel", "twigsOf", "(II)I"⟩ ⟨"BranchNamesModel", "twigsOf", "(II)I"⟩) ∈ lw_all := lw_g (lw_at lw_ms 87 rfl) rfl
theorem qs88 : (Cond.selects "BranchNamesModel" ⟨"BranchNamesModel", "sizeOf", "(II)I"⟩ ⟨"BranchNamesModel", "sizeOf", "(II)I"⟩) ∈ lw_all := lw_g (lw_at lw_ms 88 rfl) rfl
theorem qs89 : (Cond.selects "BranchNamesModel" ⟨"BranchNamesModel", "keyNow", "()I"⟩ ⟨"BranchNamesModel", "keyNow", "()I"⟩) ∈ lw_all := lw_g (lw_at lw_ms 89 rfl) rfl
theorem qs90 : (Cond.selects "BranchNamesModel" ⟨"BranchNamesModel", "otherCentre", "()I"⟩ ⟨"BranchNamesModel", "otherCentre", "()I"⟩) ∈ lw_all := lw_g (lw_at lw_ms 90 rfl) rfl
theorem qs91 : (Cond.selects "BranchNamesModel" ⟨"BranchNamesModel", "centre", "()I"⟩ ⟨"BranchNamesModel", "centre", "()I"⟩) ∈ lw_all := lw_g (lw_at lw_ms 91 rfl) rfl
theorem qs92 : (Cond.selects "BranchNamesModel" ⟨"BranchNamesModel", "deepOf", "(II)I"⟩ ⟨"BranchNamesModel", "deepOf", "(II)I"⟩) ∈ lw_all := lw_g (lw_at lw_ms 92 rfl) rfl
theorem qs93 : (Cond.selects "BranchNamesModel" ⟨"BranchNamesModel", "looksAt", "(II)V"⟩ ⟨"BranchNamesModel", "looksAt", "(II)V"⟩) ∈ lw_all := lw_g (lw_at lw_ms 93 rfl) rfl
theorem qs94 : (Cond.selects "BranchNamesModel" ⟨"BranchNamesModel", "keyOf", "(II)I"⟩ ⟨"BranchNamesModel", "keyOf", "(II)I"⟩) ∈ lw_all := lw_g (lw_at lw_ms 94 rfl) rfl
theorem qs95 : (Cond.selects "BranchNamesModel" ⟨"BranchNamesModel", "numberNow", "()I"⟩ ⟨"BranchNamesModel", "numberNow", "()I"⟩) ∈ lw_all := lw_g (lw_at lw_ms 95 rfl) rfl
theorem qs96 : (Cond.selects "BranchNamesModel" ⟨"BranchNamesModel", "keyOfDrawing", "()I"⟩ ⟨"BranchNamesModel", "keyOfDrawing", "()I"⟩) ∈ lw_all := lw_g (lw_at lw_ms 96 rfl) rfl
theorem qs97 : (Cond.selects "BranchNamesModel" ⟨"BranchNamesModel", "alikeTo", "(IZ)I"⟩ ⟨"BranchNamesModel", "alikeTo", "(IZ)I"⟩) ∈ lw_all := lw_g (lw_at lw_ms 97 rfl) rfl
theorem qs98 : (Cond.selects "BranchNamesModel" ⟨"BranchNamesModel", "farOf", "(III)I"⟩ ⟨"BranchNamesModel", "farOf", "(III)I"⟩) ∈ lw_all := lw_g (lw_at lw_ms 98 rfl) rfl
theorem qs99 : (Cond.selects "BranchNamesModel" ⟨"BranchNamesModel", "names", "(II)I"⟩ ⟨"BranchNamesModel", "names", "(II)I"⟩) ∈ lw_all := lw_g (lw_at lw_ms 99 rfl) rfl
theorem qs100 : (Cond.selects "BranchNamesModel" ⟨"BranchNamesModel", "findsBest", "(II)V"⟩ ⟨"BranchNamesModel", "findsBest", "(II)V"⟩) ∈ lw_all := lw_g (lw_at lw_ms 100 rfl) rfl
theorem qs101 : (Cond.selects "BranchNamesModel" ⟨"BranchNamesModel", "isStart", "(III)Z"⟩ ⟨"BranchNamesModel", "isStart", "(III)Z"⟩) ∈ lw_all := lw_g (lw_at lw_ms 101 rfl) rfl
theorem qs102 : (Cond.selects "BranchNamesModel" ⟨"BranchNamesModel", "lays", "(III)Z"⟩ ⟨"BranchNamesModel", "lays", "(III)Z"⟩) ∈ lw_all := lw_g (lw_at lw_ms 102 rfl) rfl
theorem qs103 : (Cond.selects "BranchNamesModel" ⟨"BranchNamesModel", "walks", "(IIII)Z"⟩ ⟨"BranchNamesModel", "walks", "(IIII)Z"⟩) ∈ lw_all := lw_g (lw_at lw_ms 103 rfl) rfl
theorem qs104 : (Cond.selects "BranchNamesModel" ⟨"BranchNamesModel", "isBetter", "(I)I"⟩ ⟨"BranchNamesModel", "isBetter", "(I)I"⟩) ∈ lw_all := lw_g (lw_at lw_ms 104 rfl) rfl
theorem qs105 : (Cond.selects "BranchNamesModel" ⟨"BranchNamesModel", "branchesOf", "(I)I"⟩ ⟨"BranchNamesModel", "branchesOf", "(I)I"⟩) ∈ lw_all := lw_g (lw_at lw_ms 105 rfl) rfl
theorem qs106 : (Cond.selects "BranchNamesModel" ⟨"BranchNamesModel", "isBranch", "(III)Z"⟩ ⟨"BranchNamesModel", "isBranch", "(III)Z"⟩) ∈ lw_all := lw_g (lw_at lw_ms 106 rfl) rfl
theorem qs107 : (Cond.selects "BranchNamesModel" ⟨"BranchNamesModel", "isInChain", "(I)Z"⟩ ⟨"BranchNamesModel", "isInChain", "(I)Z"⟩) ∈ lw_all := lw_g (lw_at lw_ms 107 rfl) rfl
theorem qs108 : (Cond.selects "BranchNamesModel" ⟨"BranchNamesModel", "isBest", "(I)V"⟩ ⟨"BranchNamesModel", "isBest", "(I)V"⟩) ∈ lw_all := lw_g (lw_at lw_ms 108 rfl) rfl
theorem qs109 : (Cond.selects "BranchNamesModel" ⟨"BranchNamesModel", "namesBy", "(IZ)I"⟩ ⟨"BranchNamesModel", "namesBy", "(IZ)I"⟩) ∈ lw_all := lw_g (lw_at lw_ms 109 rfl) rfl
theorem qs110 : (Cond.selects "BranchNamesModel" ⟨"BranchNamesModel", "namesBranches", "(I)I"⟩ ⟨"BranchNamesModel", "namesBranches", "(I)I"⟩) ∈ lw_all := lw_g (lw_at lw_ms 110 rfl) rfl
theorem qs111 : (Cond.selects "BranchNamesModel" ⟨"BranchNamesModel", "nextPart", "(III)I"⟩ ⟨"BranchNamesModel", "nextPart", "(III)I"⟩) ∈ lw_all := lw_g (lw_at lw_ms 111 rfl) rfl
theorem qs112 : (Cond.selects "BranchNamesModel" ⟨"BranchNamesModel", "comparesNames", "(II)I"⟩ ⟨"BranchNamesModel", "comparesNames", "(II)I"⟩) ∈ lw_all := lw_g (lw_at lw_ms 112 rfl) rfl
theorem qs113 : (Cond.selects "BranchNamesModel" ⟨"BranchNamesModel", "comparesLetters", "(IIII)I"⟩ ⟨"BranchNamesModel", "comparesLetters", "(IIII)I"⟩) ∈ lw_all := lw_g (lw_at lw_ms 113 rfl) rfl
theorem qs114 : (Cond.selects "BranchNamesModel" ⟨"BranchNamesModel", "compares", "(IIII)I"⟩ ⟨"BranchNamesModel", "compares", "(IIII)I"⟩) ∈ lw_all := lw_g (lw_at lw_ms 114 rfl) rfl
theorem qs115 : (Cond.selects "BranchNamesModel" ⟨"BranchNamesModel", "putsPart", "(III)V"⟩ ⟨"BranchNamesModel", "putsPart", "(III)V"⟩) ∈ lw_all := lw_g (lw_at lw_ms 115 rfl) rfl
theorem qs116 : (Cond.selects "BranchNamesModel" ⟨"BranchNamesModel", "puts", "(I)V"⟩ ⟨"BranchNamesModel", "puts", "(I)V"⟩) ∈ lw_all := lw_g (lw_at lw_ms 116 rfl) rfl
theorem qs117 : (Cond.selects "BranchNamesModel" ⟨"BranchNamesModel", "putsNumber", "(I)V"⟩ ⟨"BranchNamesModel", "putsNumber", "(I)V"⟩) ∈ lw_all := lw_g (lw_at lw_ms 117 rfl) rfl
theorem qs118 : (Cond.selects "BranchNamesModel" ⟨"BranchNamesModel", "putsWord", "(Ljava/lang/String;I)V"⟩ ⟨"BranchNamesModel", "putsWord", "(Ljava/lang/String;I)V"⟩) ∈ lw_all := lw_g (lw_at lw_ms 118 rfl) rfl
theorem qs119 : (Cond.selects "BranchNamesModel" ⟨"BranchNamesModel", "hasDigit", "(II)Z"⟩ ⟨"BranchNamesModel", "hasDigit", "(II)Z"⟩) ∈ lw_all := lw_g (lw_at lw_ms 119 rfl) rfl
theorem qs120 : (Cond.selects "BranchNamesModel" ⟨"BranchNamesModel", "measured", "(I)I"⟩ ⟨"BranchNamesModel", "measured", "(I)I"⟩) ∈ lw_all := lw_g (lw_at lw_ms 120 rfl) rfl
theorem qs121 : (Cond.selects "BranchNamesModel" ⟨"BranchNamesModel", "farTogether", "(I)I"⟩ ⟨"BranchNamesModel", "farTogether", "(I)I"⟩) ∈ lw_all := lw_g (lw_at lw_ms 121 rfl) rfl
theorem qs122 : (Cond.selects "BranchNamesModel" ⟨"BranchNamesModel", "ends", "()I"⟩ ⟨"BranchNamesModel", "ends", "()I"⟩) ∈ lw_all := lw_g (lw_at lw_ms 122 rfl) rfl
theorem qs123 : (Cond.selects "BranchNamesModel" ⟨"BranchNamesModel", "unlike", "()I"⟩ ⟨"BranchNamesModel", "unlike", "()I"⟩) ∈ lw_all := lw_g (lw_at lw_ms 123 rfl) rfl
theorem qs124 : (Cond.selects "BranchNamesModel" ⟨"BranchNamesModel", "waysOf", "(II)I"⟩ ⟨"BranchNamesModel", "waysOf", "(II)I"⟩) ∈ lw_all := lw_g (lw_at lw_ms 124 rfl) rfl
theorem qs125 : (Cond.selects "BranchNamesModel" ⟨"BranchNamesModel", "more", "()I"⟩ ⟨"BranchNamesModel", "more", "()I"⟩) ∈ lw_all := lw_g (lw_at lw_ms 125 rfl) rfl
theorem qs126 : (Cond.selects "BranchNamesModel" ⟨"BranchNamesModel", "longest", "()I"⟩ ⟨"BranchNamesModel", "longest", "()I"⟩) ∈ lw_all := lw_g (lw_at lw_ms 126 rfl) rfl
theorem qs127 : (Cond.selects "BranchNamesModel" ⟨"BranchNamesModel", "mostBranches", "()I"⟩ ⟨"BranchNamesModel", "mostBranches", "()I"⟩) ∈ lw_all := lw_g (lw_at lw_ms 127 rfl) rfl
theorem qs128 : (Cond.selects "BranchNamesModel" ⟨"BranchNamesModel", "countsTwigs", "(I)V"⟩ ⟨"BranchNamesModel", "countsTwigs", "(I)V"⟩) ∈ lw_all := lw_g (lw_at lw_ms 128 rfl) rfl
theorem qs129 : (Cond.selects "BranchNamesModel" ⟨"BranchNamesModel", "rowsOf", "(III)J"⟩ ⟨"BranchNamesModel", "rowsOf", "(III)J"⟩) ∈ lw_all := lw_g (lw_at lw_ms 129 rfl) rfl
theorem qs130 : (Cond.selects "BranchNamesModel" ⟨"BranchNamesModel", "pairs", "(I)J"⟩ ⟨"BranchNamesModel", "pairs", "(I)J"⟩) ∈ lw_all := lw_g (lw_at lw_ms 130 rfl) rfl
theorem qs131 : (Cond.selects "BranchNamesModel" ⟨"BranchNamesModel", "namesTree", "()I"⟩ ⟨"BranchNamesModel", "namesTree", "()I"⟩) ∈ lw_all := lw_g (lw_at lw_ms 131 rfl) rfl
theorem qs132 : (Cond.selects "BranchNamesModel" ⟨"BranchNamesModel", "takesName", "()Z"⟩ ⟨"BranchNamesModel", "takesName", "()Z"⟩) ∈ lw_all := lw_g (lw_at lw_ms 132 rfl) rfl
theorem qs133 : (Cond.selects "BranchNamesModel" ⟨"BranchNamesModel", "byteAt", "(I)I"⟩ ⟨"BranchNamesModel", "byteAt", "(I)I"⟩) ∈ lw_all := lw_g (lw_at lw_ms 133 rfl) rfl
theorem qs134 : (Cond.selects "BranchNamesModel" ⟨"BranchNamesModel", "takesParts", "(I)Z"⟩ ⟨"BranchNamesModel", "takesParts", "(I)Z"⟩) ∈ lw_all := lw_g (lw_at lw_ms 134 rfl) rfl
theorem qs135 : (Cond.selects "BranchNamesModel" ⟨"BranchNamesModel", "takesPart", "(I)Z"⟩ ⟨"BranchNamesModel", "takesPart", "(I)Z"⟩) ∈ lw_all := lw_g (lw_at lw_ms 135 rfl) rfl
theorem qs136 : (Cond.selects "BranchNamesModel" ⟨"BranchNamesModel", "takesNumber", "()Z"⟩ ⟨"BranchNamesModel", "takesNumber", "()Z"⟩) ∈ lw_all := lw_g (lw_at lw_ms 136 rfl) rfl
theorem qs137 : (Cond.selects "BranchNamesModel" ⟨"BranchNamesModel", "takes", "(I)Z"⟩ ⟨"BranchNamesModel", "takes", "(I)Z"⟩) ∈ lw_all := lw_g (lw_at lw_ms 137 rfl) rfl
theorem qs138 : (Cond.selects "BranchNamesModel" ⟨"BranchNamesModel", "takesWord", "(I)Z"⟩ ⟨"BranchNamesModel", "takesWord", "(I)Z"⟩) ∈ lw_all := lw_g (lw_at lw_ms 138 rfl) rfl
theorem qs139 : (Cond.selects "BranchNamesModel" ⟨"BranchNamesModel", "behind", "(Ljava/lang/String;II)I"⟩ ⟨"BranchNamesModel", "behind", "(Ljava/lang/String;II)I"⟩) ∈ lw_all := lw_g (lw_at lw_ms 139 rfl) rfl
theorem qs140 : (Cond.selects "BranchNamesModel" ⟨"BranchNamesModel", "takesBranch", "(III)Z"⟩ ⟨"BranchNamesModel", "takesBranch", "(III)Z"⟩) ∈ lw_all := lw_g (lw_at lw_ms 140 rfl) rfl
theorem qs141 : (Cond.selects "BranchNamesModel" ⟨"BranchNamesModel", "takesStem", "(ILjava/lang/String;)Z"⟩ ⟨"BranchNamesModel", "takesStem", "(ILjava/lang/String;)Z"⟩) ∈ lw_all := lw_g (lw_at lw_ms 141 rfl) rfl
theorem qs142 : (Cond.selects "BranchNamesModel" ⟨"BranchNamesModel", "fails", "()Z"⟩ ⟨"BranchNamesModel", "fails", "()Z"⟩) ∈ lw_all := lw_g (lw_at lw_ms 142 rfl) rfl
theorem qs143 : (Cond.selects "BranchNamesModel" ⟨"BranchNamesModel", "makes", "(II)Z"⟩ ⟨"BranchNamesModel", "makes", "(II)Z"⟩) ∈ lw_all := lw_g (lw_at lw_ms 143 rfl) rfl
theorem qs144 : (Cond.selects "BranchNamesModel" ⟨"BranchNamesModel", "hangsChain", "(III)V"⟩ ⟨"BranchNamesModel", "hangsChain", "(III)V"⟩) ∈ lw_all := lw_g (lw_at lw_ms 144 rfl) rfl
theorem qs145 : (Cond.selects "BranchNamesModel" ⟨"BranchNamesModel", "hangs", "(II)V"⟩ ⟨"BranchNamesModel", "hangs", "(II)V"⟩) ∈ lw_all := lw_g (lw_at lw_ms 145 rfl) rfl
theorem qs146 : (Cond.selects "BranchNamesModel" ⟨"BranchNamesModel", "makesPart", "(III)Z"⟩ ⟨"BranchNamesModel", "makesPart", "(III)Z"⟩) ∈ lw_all := lw_g (lw_at lw_ms 146 rfl) rfl
theorem qs147 : (Cond.selects "BranchNamesModel" ⟨"BranchNamesModel", "isTrouble", "(II)Z"⟩ ⟨"BranchNamesModel", "isTrouble", "(II)Z"⟩) ∈ lw_all := lw_g (lw_at lw_ms 147 rfl) rfl
theorem qs148 : (Cond.selects "BranchNamesModel" ⟨"BranchNamesModel", "hangsTree", "(II)V"⟩ ⟨"BranchNamesModel", "hangsTree", "(II)V"⟩) ∈ lw_all := lw_g (lw_at lw_ms 148 rfl) rfl
theorem qs149 : (Cond.selects "BranchNamesModel" ⟨"BranchNamesModel", "drawsMade", "()V"⟩ ⟨"BranchNamesModel", "drawsMade", "()V"⟩) ∈ lw_all := lw_g (lw_at lw_ms 149 rfl) rfl
theorem qs150 : (Cond.selects "BranchNamesModel" ⟨"BranchNamesModel", "isItsName", "(I)Z"⟩ ⟨"BranchNamesModel", "isItsName", "(I)Z"⟩) ∈ lw_all := lw_g (lw_at lw_ms 150 rfl) rfl
/-! DECODE ROWS BY BYTES: one lemma an opcode; a method's code is cut into short pieces once, and a row reads its own piece alone. -/
set_option maxRecDepth 100000
/-- the code has just these bytes from pc on -/
def DkAt (code : ByteArray) (pc : Nat) (bs : List UInt8) : Prop := ∀ (j : Nat) (b : UInt8), bs[j]? = some b → code.data.toList[pc + j]? = some b
/-- the piece W has the bytes bs from its place j on -/
def dkIn (W : List UInt8) (j : Nat) (bs : List UInt8) : Bool := decide ((W.drop j).take bs.length = bs)
theorem dk_seg {l W T : List UInt8} {o o2 : Nat} (h : l.drop o = W ++ T) (n : Nat) (hn : W.length = n) (ho : o + n = o2) : l.drop o2 = T := by
  subst ho
  rw [← List.drop_drop, h, List.drop_left' hn]
theorem dk_at {code : ByteArray} {W T bs : List UInt8} {o pc : Nat} (h : code.data.toList.drop o = W ++ T) (j : Nat) (hp : o + j = pc) (hw : dkIn W j bs = true) : DkAt code pc bs := by
  subst hp
  intro i b e
  have h1 := of_decide_eq_true hw
  have h2 : i < bs.length := (List.getElem?_eq_some_iff.mp e).1
  have h3 : W[j + i]? = some b := by
    rw [← h1, List.getElem?_take, if_pos h2, List.getElem?_drop] at e
    exact e
  have h4 : j + i < W.length := (List.getElem?_eq_some_iff.mp h3).1
  have h5 : (code.data.toList.drop o)[j + i]? = some b := by
    rw [h, List.getElem?_append_left h4]
    exact h3
  rw [List.getElem?_drop, ← Nat.add_assoc] at h5
  exact h5
theorem dk_u1 {A : ByteArray} {p : Nat} {b : UInt8} (h : A.data.toList[p]? = some b) : (Reader.u1 : Reader DecodeError Nat) A p = .ok (b.toNat, p + 1) := by
  obtain ⟨h1, h2⟩ := List.getElem?_eq_some_iff.mp h
  have h3 : p < A.size := by simpa using h1
  have h4 : A[p]'h3 = b := h2
  have e : (Reader.u1 : Reader DecodeError Nat) A p = (if h : p < A.size then .ok (A[p].toNat, p + 1) else .error (HasTruncated.truncated p)) := by
    show (do if h : p < A.size then do set (p + 1); Pure.pure A[p].toNat else MonadExcept.throw (HasTruncated.truncated p) : Reader DecodeError Nat) A p = _
    by_cases hi : p < A.size
    · rw [dif_pos hi, dif_pos hi]; rfl
    · rw [dif_neg hi, dif_neg hi]; rfl
  rw [e, dif_pos h3, h4]
theorem dk_bind {α β : Type} {r : Reader DecodeError α} {f : α → Reader DecodeError β} {A : ByteArray} {p s : Nat} {a : α} (h : r A p = .ok (a, s)) : (r >>= f) A p = f a A s := by
  show (do let (a, s) ← r A p; f a A s : Except DecodeError (β × Nat)) = _
  rw [h]
  rfl
theorem dk_map {α β : Type} {r : Reader DecodeError α} {g : α → β} {A : ByteArray} {p s : Nat} {a : α} (h : r A p = .ok (a, s)) : (g <$> r) A p = .ok (g a, s) := by
  show (do let (a, s) ← r A p; .ok (g a, s) : Except DecodeError (β × Nat)) = _
  rw [h]
  rfl
theorem dk_u2 {A : ByteArray} {p : Nat} {a b : UInt8} (h : A.data.toList[p]? = some a) (h2 : A.data.toList[p + 1]? = some b) : (Reader.u2 : Reader DecodeError Nat) A p = .ok (a.toNat * 256 + b.toNat, p + 2) := by
  show (Reader.u1 >>= fun hi => Reader.u1 >>= fun lo => Pure.pure (hi * 256 + lo) : Reader DecodeError Nat) A p = _
  rw [dk_bind (dk_u1 h), dk_bind (dk_u1 h2)]
  rfl
theorem dk_of {code : ByteArray} {pc n : Nat} {i : Instr} (h : Decoder.instr pc code pc = .ok (i, pc + n)) : decode code pc = .ok (i, n) := by
  have e : decode code pc = (match Decoder.instr pc code pc with | .error x => .error x | .ok (j, s) => .ok (j, s - pc)) := by
    show (do let (j, s) ← Decoder.instr pc code pc; Pure.pure (j, s - pc) : Except DecodeError (Instr × Nat)) = _
    cases Decoder.instr pc code pc <;> rfl
  rw [e, h]
  show Except.ok (i, pc + n - pc) = _
  rw [Nat.add_sub_cancel_left]
theorem dk_1 {code : ByteArray} {pc : Nat} (h : DkAt code pc [1]) : decode code pc = .ok (.aconst_null, 1) := dk_of ((dk_bind (dk_u1 (h 0 _ rfl))).trans rfl)
theorem dk_2 {code : ByteArray} {pc : Nat} (h : DkAt code pc [2]) : decode code pc = .ok (.iconst (-1), 1) := dk_of ((dk_bind (dk_u1 (h 0 _ rfl))).trans rfl)
theorem dk_3 {code : ByteArray} {pc : Nat} (h : DkAt code pc [3]) : decode code pc = .ok (.iconst 0, 1) := dk_of ((dk_bind (dk_u1 (h 0 _ rfl))).trans rfl)
theorem dk_4 {code : ByteArray} {pc : Nat} (h : DkAt code pc [4]) : decode code pc = .ok (.iconst 1, 1) := dk_of ((dk_bind (dk_u1 (h 0 _ rfl))).trans rfl)
theorem dk_5 {code : ByteArray} {pc : Nat} (h : DkAt code pc [5]) : decode code pc = .ok (.iconst 2, 1) := dk_of ((dk_bind (dk_u1 (h 0 _ rfl))).trans rfl)
theorem dk_6 {code : ByteArray} {pc : Nat} (h : DkAt code pc [6]) : decode code pc = .ok (.iconst 3, 1) := dk_of ((dk_bind (dk_u1 (h 0 _ rfl))).trans rfl)
theorem dk_7 {code : ByteArray} {pc : Nat} (h : DkAt code pc [7]) : decode code pc = .ok (.iconst 4, 1) := dk_of ((dk_bind (dk_u1 (h 0 _ rfl))).trans rfl)
theorem dk_8 {code : ByteArray} {pc : Nat} (h : DkAt code pc [8]) : decode code pc = .ok (.iconst 5, 1) := dk_of ((dk_bind (dk_u1 (h 0 _ rfl))).trans rfl)
theorem dk_9 {code : ByteArray} {pc : Nat} (h : DkAt code pc [9]) : decode code pc = .ok (.lconst 0, 1) := dk_of ((dk_bind (dk_u1 (h 0 _ rfl))).trans rfl)
theorem dk_10 {code : ByteArray} {pc : Nat} (h : DkAt code pc [10]) : decode code pc = .ok (.lconst 1, 1) := dk_of ((dk_bind (dk_u1 (h 0 _ rfl))).trans rfl)
theorem dk_16 {code : ByteArray} {pc : Nat} (a : UInt8) (h : DkAt code pc [16, a]) : decode code pc = .ok (.bipush (Reader.signed 8 a.toNat), 2) := dk_of ((dk_bind (dk_u1 (h 0 _ rfl))).trans ((dk_bind (dk_map (dk_u1 (h 1 _ rfl)))).trans rfl))
theorem dk_17 {code : ByteArray} {pc : Nat} (a b : UInt8) (h : DkAt code pc [17, a, b]) : decode code pc = .ok (.sipush (Reader.signed 16 (a.toNat * 256 + b.toNat)), 3) := dk_of ((dk_bind (dk_u1 (h 0 _ rfl))).trans ((dk_bind (dk_map (dk_u2 (h 1 _ rfl) (h 2 _ rfl)))).trans rfl))
theorem dk_18 {code : ByteArray} {pc : Nat} (a : UInt8) (h : DkAt code pc [18, a]) : decode code pc = .ok (.ldc a.toNat, 2) := dk_of ((dk_bind (dk_u1 (h 0 _ rfl))).trans ((dk_bind (dk_u1 (h 1 _ rfl))).trans rfl))
theorem dk_19 {code : ByteArray} {pc : Nat} (a b : UInt8) (h : DkAt code pc [19, a, b]) : decode code pc = .ok (.ldc_w (a.toNat * 256 + b.toNat), 3) := dk_of ((dk_bind (dk_u1 (h 0 _ rfl))).trans ((dk_bind (dk_u2 (h 1 _ rfl) (h 2 _ rfl))).trans rfl))
theorem dk_20 {code : ByteArray} {pc : Nat} (a b : UInt8) (h : DkAt code pc [20, a, b]) : decode code pc = .ok (.ldc2_w (a.toNat * 256 + b.toNat), 3) := dk_of ((dk_bind (dk_u1 (h 0 _ rfl))).trans ((dk_bind (dk_u2 (h 1 _ rfl) (h 2 _ rfl))).trans rfl))
theorem dk_21 {code : ByteArray} {pc : Nat} (a : UInt8) (h : DkAt code pc [21, a]) : decode code pc = .ok (.iload a.toNat, 2) := dk_of ((dk_bind (dk_u1 (h 0 _ rfl))).trans ((dk_bind (dk_u1 (h 1 _ rfl))).trans rfl))
theorem dk_22 {code : ByteArray} {pc : Nat} (a : UInt8) (h : DkAt code pc [22, a]) : decode code pc = .ok (.lload a.toNat, 2) := dk_of ((dk_bind (dk_u1 (h 0 _ rfl))).trans ((dk_bind (dk_u1 (h 1 _ rfl))).trans rfl))
theorem dk_25 {code : ByteArray} {pc : Nat} (a : UInt8) (h : DkAt code pc [25, a]) : decode code pc = .ok (.aload a.toNat, 2) := dk_of ((dk_bind (dk_u1 (h 0 _ rfl))).trans ((dk_bind (dk_u1 (h 1 _ rfl))).trans rfl))
theorem dk_26 {code : ByteArray} {pc : Nat} (h : DkAt code pc [26]) : decode code pc = .ok (.iload_n 0, 1) := dk_of ((dk_bind (dk_u1 (h 0 _ rfl))).trans rfl)
theorem dk_27 {code : ByteArray} {pc : Nat} (h : DkAt code pc [27]) : decode code pc = .ok (.iload_n 1, 1) := dk_of ((dk_bind (dk_u1 (h 0 _ rfl))).trans rfl)
theorem dk_28 {code : ByteArray} {pc : Nat} (h : DkAt code pc [28]) : decode code pc = .ok (.iload_n 2, 1) := dk_of ((dk_bind (dk_u1 (h 0 _ rfl))).trans rfl)
theorem dk_29 {code : ByteArray} {pc : Nat} (h : DkAt code pc [29]) : decode code pc = .ok (.iload_n 3, 1) := dk_of ((dk_bind (dk_u1 (h 0 _ rfl))).trans rfl)
theorem dk_30 {code : ByteArray} {pc : Nat} (h : DkAt code pc [30]) : decode code pc = .ok (.lload_n 0, 1) := dk_of ((dk_bind (dk_u1 (h 0 _ rfl))).trans rfl)
theorem dk_31 {code : ByteArray} {pc : Nat} (h : DkAt code pc [31]) : decode code pc = .ok (.lload_n 1, 1) := dk_of ((dk_bind (dk_u1 (h 0 _ rfl))).trans rfl)
theorem dk_32 {code : ByteArray} {pc : Nat} (h : DkAt code pc [32]) : decode code pc = .ok (.lload_n 2, 1) := dk_of ((dk_bind (dk_u1 (h 0 _ rfl))).trans rfl)
theorem dk_33 {code : ByteArray} {pc : Nat} (h : DkAt code pc [33]) : decode code pc = .ok (.lload_n 3, 1) := dk_of ((dk_bind (dk_u1 (h 0 _ rfl))).trans rfl)
theorem dk_42 {code : ByteArray} {pc : Nat} (h : DkAt code pc [42]) : decode code pc = .ok (.aload_n 0, 1) := dk_of ((dk_bind (dk_u1 (h 0 _ rfl))).trans rfl)
theorem dk_43 {code : ByteArray} {pc : Nat} (h : DkAt code pc [43]) : decode code pc = .ok (.aload_n 1, 1) := dk_of ((dk_bind (dk_u1 (h 0 _ rfl))).trans rfl)
theorem dk_44 {code : ByteArray} {pc : Nat} (h : DkAt code pc [44]) : decode code pc = .ok (.aload_n 2, 1) := dk_of ((dk_bind (dk_u1 (h 0 _ rfl))).trans rfl)
theorem dk_45 {code : ByteArray} {pc : Nat} (h : DkAt code pc [45]) : decode code pc = .ok (.aload_n 3, 1) := dk_of ((dk_bind (dk_u1 (h 0 _ rfl))).trans rfl)
theorem dk_46 {code : ByteArray} {pc : Nat} (h : DkAt code pc [46]) : decode code pc = .ok (.iaload, 1) := dk_of ((dk_bind (dk_u1 (h 0 _ rfl))).trans rfl)
theorem dk_47 {code : ByteArray} {pc : Nat} (h : DkAt code pc [47]) : decode code pc = .ok (.laload, 1) := dk_of ((dk_bind (dk_u1 (h 0 _ rfl))).trans rfl)
theorem dk_50 {code : ByteArray} {pc : Nat} (h : DkAt code pc [50]) : decode code pc = .ok (.aaload, 1) := dk_of ((dk_bind (dk_u1 (h 0 _ rfl))).trans rfl)
theorem dk_51 {code : ByteArray} {pc : Nat} (h : DkAt code pc [51]) : decode code pc = .ok (.baload, 1) := dk_of ((dk_bind (dk_u1 (h 0 _ rfl))).trans rfl)
theorem dk_54 {code : ByteArray} {pc : Nat} (a : UInt8) (h : DkAt code pc [54, a]) : decode code pc = .ok (.istore a.toNat, 2) := dk_of ((dk_bind (dk_u1 (h 0 _ rfl))).trans ((dk_bind (dk_u1 (h 1 _ rfl))).trans rfl))
theorem dk_55 {code : ByteArray} {pc : Nat} (a : UInt8) (h : DkAt code pc [55, a]) : decode code pc = .ok (.lstore a.toNat, 2) := dk_of ((dk_bind (dk_u1 (h 0 _ rfl))).trans ((dk_bind (dk_u1 (h 1 _ rfl))).trans rfl))
theorem dk_58 {code : ByteArray} {pc : Nat} (a : UInt8) (h : DkAt code pc [58, a]) : decode code pc = .ok (.astore a.toNat, 2) := dk_of ((dk_bind (dk_u1 (h 0 _ rfl))).trans ((dk_bind (dk_u1 (h 1 _ rfl))).trans rfl))
theorem dk_59 {code : ByteArray} {pc : Nat} (h : DkAt code pc [59]) : decode code pc = .ok (.istore_n 0, 1) := dk_of ((dk_bind (dk_u1 (h 0 _ rfl))).trans rfl)
theorem dk_60 {code : ByteArray} {pc : Nat} (h : DkAt code pc [60]) : decode code pc = .ok (.istore_n 1, 1) := dk_of ((dk_bind (dk_u1 (h 0 _ rfl))).trans rfl)
theorem dk_61 {code : ByteArray} {pc : Nat} (h : DkAt code pc [61]) : decode code pc = .ok (.istore_n 2, 1) := dk_of ((dk_bind (dk_u1 (h 0 _ rfl))).trans rfl)
theorem dk_62 {code : ByteArray} {pc : Nat} (h : DkAt code pc [62]) : decode code pc = .ok (.istore_n 3, 1) := dk_of ((dk_bind (dk_u1 (h 0 _ rfl))).trans rfl)
theorem dk_65 {code : ByteArray} {pc : Nat} (h : DkAt code pc [65]) : decode code pc = .ok (.lstore_n 2, 1) := dk_of ((dk_bind (dk_u1 (h 0 _ rfl))).trans rfl)
theorem dk_66 {code : ByteArray} {pc : Nat} (h : DkAt code pc [66]) : decode code pc = .ok (.lstore_n 3, 1) := dk_of ((dk_bind (dk_u1 (h 0 _ rfl))).trans rfl)
theorem dk_76 {code : ByteArray} {pc : Nat} (h : DkAt code pc [76]) : decode code pc = .ok (.astore_n 1, 1) := dk_of ((dk_bind (dk_u1 (h 0 _ rfl))).trans rfl)
theorem dk_77 {code : ByteArray} {pc : Nat} (h : DkAt code pc [77]) : decode code pc = .ok (.astore_n 2, 1) := dk_of ((dk_bind (dk_u1 (h 0 _ rfl))).trans rfl)
theorem dk_78 {code : ByteArray} {pc : Nat} (h : DkAt code pc [78]) : decode code pc = .ok (.astore_n 3, 1) := dk_of ((dk_bind (dk_u1 (h 0 _ rfl))).trans rfl)
theorem dk_79 {code : ByteArray} {pc : Nat} (h : DkAt code pc [79]) : decode code pc = .ok (.iastore, 1) := dk_of ((dk_bind (dk_u1 (h 0 _ rfl))).trans rfl)
theorem dk_80 {code : ByteArray} {pc : Nat} (h : DkAt code pc [80]) : decode code pc = .ok (.lastore, 1) := dk_of ((dk_bind (dk_u1 (h 0 _ rfl))).trans rfl)
theorem dk_83 {code : ByteArray} {pc : Nat} (h : DkAt code pc [83]) : decode code pc = .ok (.aastore, 1) := dk_of ((dk_bind (dk_u1 (h 0 _ rfl))).trans rfl)
theorem dk_84 {code : ByteArray} {pc : Nat} (h : DkAt code pc [84]) : decode code pc = .ok (.bastore, 1) := dk_of ((dk_bind (dk_u1 (h 0 _ rfl))).trans rfl)
theorem dk_87 {code : ByteArray} {pc : Nat} (h : DkAt code pc [87]) : decode code pc = .ok (.pop, 1) := dk_of ((dk_bind (dk_u1 (h 0 _ rfl))).trans rfl)
theorem dk_89 {code : ByteArray} {pc : Nat} (h : DkAt code pc [89]) : decode code pc = .ok (.dup, 1) := dk_of ((dk_bind (dk_u1 (h 0 _ rfl))).trans rfl)
theorem dk_90 {code : ByteArray} {pc : Nat} (h : DkAt code pc [90]) : decode code pc = .ok (.dup_x1, 1) := dk_of ((dk_bind (dk_u1 (h 0 _ rfl))).trans rfl)
theorem dk_92 {code : ByteArray} {pc : Nat} (h : DkAt code pc [92]) : decode code pc = .ok (.dup2, 1) := dk_of ((dk_bind (dk_u1 (h 0 _ rfl))).trans rfl)
theorem dk_96 {code : ByteArray} {pc : Nat} (h : DkAt code pc [96]) : decode code pc = .ok (.iadd, 1) := dk_of ((dk_bind (dk_u1 (h 0 _ rfl))).trans rfl)
theorem dk_97 {code : ByteArray} {pc : Nat} (h : DkAt code pc [97]) : decode code pc = .ok (.ladd, 1) := dk_of ((dk_bind (dk_u1 (h 0 _ rfl))).trans rfl)
theorem dk_100 {code : ByteArray} {pc : Nat} (h : DkAt code pc [100]) : decode code pc = .ok (.isub, 1) := dk_of ((dk_bind (dk_u1 (h 0 _ rfl))).trans rfl)
theorem dk_101 {code : ByteArray} {pc : Nat} (h : DkAt code pc [101]) : decode code pc = .ok (.lsub, 1) := dk_of ((dk_bind (dk_u1 (h 0 _ rfl))).trans rfl)
theorem dk_104 {code : ByteArray} {pc : Nat} (h : DkAt code pc [104]) : decode code pc = .ok (.imul, 1) := dk_of ((dk_bind (dk_u1 (h 0 _ rfl))).trans rfl)
theorem dk_105 {code : ByteArray} {pc : Nat} (h : DkAt code pc [105]) : decode code pc = .ok (.lmul, 1) := dk_of ((dk_bind (dk_u1 (h 0 _ rfl))).trans rfl)
theorem dk_108 {code : ByteArray} {pc : Nat} (h : DkAt code pc [108]) : decode code pc = .ok (.idiv, 1) := dk_of ((dk_bind (dk_u1 (h 0 _ rfl))).trans rfl)
theorem dk_109 {code : ByteArray} {pc : Nat} (h : DkAt code pc [109]) : decode code pc = .ok (.ldiv, 1) := dk_of ((dk_bind (dk_u1 (h 0 _ rfl))).trans rfl)
theorem dk_112 {code : ByteArray} {pc : Nat} (h : DkAt code pc [112]) : decode code pc = .ok (.irem, 1) := dk_of ((dk_bind (dk_u1 (h 0 _ rfl))).trans rfl)
theorem dk_113 {code : ByteArray} {pc : Nat} (h : DkAt code pc [113]) : decode code pc = .ok (.lrem, 1) := dk_of ((dk_bind (dk_u1 (h 0 _ rfl))).trans rfl)
theorem dk_116 {code : ByteArray} {pc : Nat} (h : DkAt code pc [116]) : decode code pc = .ok (.ineg, 1) := dk_of ((dk_bind (dk_u1 (h 0 _ rfl))).trans rfl)
theorem dk_120 {code : ByteArray} {pc : Nat} (h : DkAt code pc [120]) : decode code pc = .ok (.ishl, 1) := dk_of ((dk_bind (dk_u1 (h 0 _ rfl))).trans rfl)
theorem dk_121 {code : ByteArray} {pc : Nat} (h : DkAt code pc [121]) : decode code pc = .ok (.lshl, 1) := dk_of ((dk_bind (dk_u1 (h 0 _ rfl))).trans rfl)
theorem dk_122 {code : ByteArray} {pc : Nat} (h : DkAt code pc [122]) : decode code pc = .ok (.ishr, 1) := dk_of ((dk_bind (dk_u1 (h 0 _ rfl))).trans rfl)
theorem dk_124 {code : ByteArray} {pc : Nat} (h : DkAt code pc [124]) : decode code pc = .ok (.iushr, 1) := dk_of ((dk_bind (dk_u1 (h 0 _ rfl))).trans rfl)
theorem dk_126 {code : ByteArray} {pc : Nat} (h : DkAt code pc [126]) : decode code pc = .ok (.iand, 1) := dk_of ((dk_bind (dk_u1 (h 0 _ rfl))).trans rfl)
theorem dk_127 {code : ByteArray} {pc : Nat} (h : DkAt code pc [127]) : decode code pc = .ok (.land, 1) := dk_of ((dk_bind (dk_u1 (h 0 _ rfl))).trans rfl)
theorem dk_128 {code : ByteArray} {pc : Nat} (h : DkAt code pc [128]) : decode code pc = .ok (.ior, 1) := dk_of ((dk_bind (dk_u1 (h 0 _ rfl))).trans rfl)
theorem dk_129 {code : ByteArray} {pc : Nat} (h : DkAt code pc [129]) : decode code pc = .ok (.lor, 1) := dk_of ((dk_bind (dk_u1 (h 0 _ rfl))).trans rfl)
theorem dk_130 {code : ByteArray} {pc : Nat} (h : DkAt code pc [130]) : decode code pc = .ok (.ixor, 1) := dk_of ((dk_bind (dk_u1 (h 0 _ rfl))).trans rfl)
theorem dk_132 {code : ByteArray} {pc : Nat} (a b : UInt8) (h : DkAt code pc [132, a, b]) : decode code pc = .ok (.iinc a.toNat (Reader.signed 8 b.toNat), 3) := dk_of ((dk_bind (dk_u1 (h 0 _ rfl))).trans ((dk_bind (dk_u1 (h 1 _ rfl))).trans ((dk_bind (dk_map (dk_u1 (h 2 _ rfl)))).trans rfl)))
theorem dk_133 {code : ByteArray} {pc : Nat} (h : DkAt code pc [133]) : decode code pc = .ok (.i2l, 1) := dk_of ((dk_bind (dk_u1 (h 0 _ rfl))).trans rfl)
theorem dk_136 {code : ByteArray} {pc : Nat} (h : DkAt code pc [136]) : decode code pc = .ok (.l2i, 1) := dk_of ((dk_bind (dk_u1 (h 0 _ rfl))).trans rfl)
theorem dk_145 {code : ByteArray} {pc : Nat} (h : DkAt code pc [145]) : decode code pc = .ok (.i2b, 1) := dk_of ((dk_bind (dk_u1 (h 0 _ rfl))).trans rfl)
theorem dk_146 {code : ByteArray} {pc : Nat} (h : DkAt code pc [146]) : decode code pc = .ok (.i2c, 1) := dk_of ((dk_bind (dk_u1 (h 0 _ rfl))).trans rfl)
theorem dk_148 {code : ByteArray} {pc : Nat} (h : DkAt code pc [148]) : decode code pc = .ok (.lcmp, 1) := dk_of ((dk_bind (dk_u1 (h 0 _ rfl))).trans rfl)
theorem dk_153 {code : ByteArray} {pc : Nat} (a b : UInt8) (h : DkAt code pc [153, a, b]) : decode code pc = .ok (.ifCond .eq (Reader.signed 16 (a.toNat * 256 + b.toNat)), 3) := dk_of ((dk_bind (dk_u1 (h 0 _ rfl))).trans ((dk_bind (dk_map (dk_u2 (h 1 _ rfl) (h 2 _ rfl)))).trans rfl))
theorem dk_154 {code : ByteArray} {pc : Nat} (a b : UInt8) (h : DkAt code pc [154, a, b]) : decode code pc = .ok (.ifCond .ne (Reader.signed 16 (a.toNat * 256 + b.toNat)), 3) := dk_of ((dk_bind (dk_u1 (h 0 _ rfl))).trans ((dk_bind (dk_map (dk_u2 (h 1 _ rfl) (h 2 _ rfl)))).trans rfl))
theorem dk_155 {code : ByteArray} {pc : Nat} (a b : UInt8) (h : DkAt code pc [155, a, b]) : decode code pc = .ok (.ifCond .lt (Reader.signed 16 (a.toNat * 256 + b.toNat)), 3) := dk_of ((dk_bind (dk_u1 (h 0 _ rfl))).trans ((dk_bind (dk_map (dk_u2 (h 1 _ rfl) (h 2 _ rfl)))).trans rfl))
theorem dk_156 {code : ByteArray} {pc : Nat} (a b : UInt8) (h : DkAt code pc [156, a, b]) : decode code pc = .ok (.ifCond .ge (Reader.signed 16 (a.toNat * 256 + b.toNat)), 3) := dk_of ((dk_bind (dk_u1 (h 0 _ rfl))).trans ((dk_bind (dk_map (dk_u2 (h 1 _ rfl) (h 2 _ rfl)))).trans rfl))
theorem dk_157 {code : ByteArray} {pc : Nat} (a b : UInt8) (h : DkAt code pc [157, a, b]) : decode code pc = .ok (.ifCond .gt (Reader.signed 16 (a.toNat * 256 + b.toNat)), 3) := dk_of ((dk_bind (dk_u1 (h 0 _ rfl))).trans ((dk_bind (dk_map (dk_u2 (h 1 _ rfl) (h 2 _ rfl)))).trans rfl))
theorem dk_158 {code : ByteArray} {pc : Nat} (a b : UInt8) (h : DkAt code pc [158, a, b]) : decode code pc = .ok (.ifCond .le (Reader.signed 16 (a.toNat * 256 + b.toNat)), 3) := dk_of ((dk_bind (dk_u1 (h 0 _ rfl))).trans ((dk_bind (dk_map (dk_u2 (h 1 _ rfl) (h 2 _ rfl)))).trans rfl))
theorem dk_159 {code : ByteArray} {pc : Nat} (a b : UInt8) (h : DkAt code pc [159, a, b]) : decode code pc = .ok (.if_icmp .eq (Reader.signed 16 (a.toNat * 256 + b.toNat)), 3) := dk_of ((dk_bind (dk_u1 (h 0 _ rfl))).trans ((dk_bind (dk_map (dk_u2 (h 1 _ rfl) (h 2 _ rfl)))).trans rfl))
theorem dk_160 {code : ByteArray} {pc : Nat} (a b : UInt8) (h : DkAt code pc [160, a, b]) : decode code pc = .ok (.if_icmp .ne (Reader.signed 16 (a.toNat * 256 + b.toNat)), 3) := dk_of ((dk_bind (dk_u1 (h 0 _ rfl))).trans ((dk_bind (dk_map (dk_u2 (h 1 _ rfl) (h 2 _ rfl)))).trans rfl))
theorem dk_161 {code : ByteArray} {pc : Nat} (a b : UInt8) (h : DkAt code pc [161, a, b]) : decode code pc = .ok (.if_icmp .lt (Reader.signed 16 (a.toNat * 256 + b.toNat)), 3) := dk_of ((dk_bind (dk_u1 (h 0 _ rfl))).trans ((dk_bind (dk_map (dk_u2 (h 1 _ rfl) (h 2 _ rfl)))).trans rfl))
theorem dk_162 {code : ByteArray} {pc : Nat} (a b : UInt8) (h : DkAt code pc [162, a, b]) : decode code pc = .ok (.if_icmp .ge (Reader.signed 16 (a.toNat * 256 + b.toNat)), 3) := dk_of ((dk_bind (dk_u1 (h 0 _ rfl))).trans ((dk_bind (dk_map (dk_u2 (h 1 _ rfl) (h 2 _ rfl)))).trans rfl))
theorem dk_163 {code : ByteArray} {pc : Nat} (a b : UInt8) (h : DkAt code pc [163, a, b]) : decode code pc = .ok (.if_icmp .gt (Reader.signed 16 (a.toNat * 256 + b.toNat)), 3) := dk_of ((dk_bind (dk_u1 (h 0 _ rfl))).trans ((dk_bind (dk_map (dk_u2 (h 1 _ rfl) (h 2 _ rfl)))).trans rfl))
theorem dk_164 {code : ByteArray} {pc : Nat} (a b : UInt8) (h : DkAt code pc [164, a, b]) : decode code pc = .ok (.if_icmp .le (Reader.signed 16 (a.toNat * 256 + b.toNat)), 3) := dk_of ((dk_bind (dk_u1 (h 0 _ rfl))).trans ((dk_bind (dk_map (dk_u2 (h 1 _ rfl) (h 2 _ rfl)))).trans rfl))
theorem dk_165 {code : ByteArray} {pc : Nat} (a b : UInt8) (h : DkAt code pc [165, a, b]) : decode code pc = .ok (.if_acmp .eq (Reader.signed 16 (a.toNat * 256 + b.toNat)), 3) := dk_of ((dk_bind (dk_u1 (h 0 _ rfl))).trans ((dk_bind (dk_map (dk_u2 (h 1 _ rfl) (h 2 _ rfl)))).trans rfl))
theorem dk_166 {code : ByteArray} {pc : Nat} (a b : UInt8) (h : DkAt code pc [166, a, b]) : decode code pc = .ok (.if_acmp .ne (Reader.signed 16 (a.toNat * 256 + b.toNat)), 3) := dk_of ((dk_bind (dk_u1 (h 0 _ rfl))).trans ((dk_bind (dk_map (dk_u2 (h 1 _ rfl) (h 2 _ rfl)))).trans rfl))
theorem dk_167 {code : ByteArray} {pc : Nat} (a b : UInt8) (h : DkAt code pc [167, a, b]) : decode code pc = .ok (.goto (Reader.signed 16 (a.toNat * 256 + b.toNat)), 3) := dk_of ((dk_bind (dk_u1 (h 0 _ rfl))).trans ((dk_bind (dk_map (dk_u2 (h 1 _ rfl) (h 2 _ rfl)))).trans rfl))
theorem dk_172 {code : ByteArray} {pc : Nat} (h : DkAt code pc [172]) : decode code pc = .ok (.ireturn, 1) := dk_of ((dk_bind (dk_u1 (h 0 _ rfl))).trans rfl)
theorem dk_173 {code : ByteArray} {pc : Nat} (h : DkAt code pc [173]) : decode code pc = .ok (.lreturn, 1) := dk_of ((dk_bind (dk_u1 (h 0 _ rfl))).trans rfl)
theorem dk_176 {code : ByteArray} {pc : Nat} (h : DkAt code pc [176]) : decode code pc = .ok (.areturn, 1) := dk_of ((dk_bind (dk_u1 (h 0 _ rfl))).trans rfl)
theorem dk_177 {code : ByteArray} {pc : Nat} (h : DkAt code pc [177]) : decode code pc = .ok (.return_, 1) := dk_of ((dk_bind (dk_u1 (h 0 _ rfl))).trans rfl)
theorem dk_178 {code : ByteArray} {pc : Nat} (a b : UInt8) (h : DkAt code pc [178, a, b]) : decode code pc = .ok (.getstatic (a.toNat * 256 + b.toNat), 3) := dk_of ((dk_bind (dk_u1 (h 0 _ rfl))).trans ((dk_bind (dk_u2 (h 1 _ rfl) (h 2 _ rfl))).trans rfl))
theorem dk_180 {code : ByteArray} {pc : Nat} (a b : UInt8) (h : DkAt code pc [180, a, b]) : decode code pc = .ok (.getfield (a.toNat * 256 + b.toNat), 3) := dk_of ((dk_bind (dk_u1 (h 0 _ rfl))).trans ((dk_bind (dk_u2 (h 1 _ rfl) (h 2 _ rfl))).trans rfl))
theorem dk_181 {code : ByteArray} {pc : Nat} (a b : UInt8) (h : DkAt code pc [181, a, b]) : decode code pc = .ok (.putfield (a.toNat * 256 + b.toNat), 3) := dk_of ((dk_bind (dk_u1 (h 0 _ rfl))).trans ((dk_bind (dk_u2 (h 1 _ rfl) (h 2 _ rfl))).trans rfl))
theorem dk_182 {code : ByteArray} {pc : Nat} (a b : UInt8) (h : DkAt code pc [182, a, b]) : decode code pc = .ok (.invokevirtual (a.toNat * 256 + b.toNat), 3) := dk_of ((dk_bind (dk_u1 (h 0 _ rfl))).trans ((dk_bind (dk_u2 (h 1 _ rfl) (h 2 _ rfl))).trans rfl))
theorem dk_183 {code : ByteArray} {pc : Nat} (a b : UInt8) (h : DkAt code pc [183, a, b]) : decode code pc = .ok (.invokespecial (a.toNat * 256 + b.toNat), 3) := dk_of ((dk_bind (dk_u1 (h 0 _ rfl))).trans ((dk_bind (dk_u2 (h 1 _ rfl) (h 2 _ rfl))).trans rfl))
theorem dk_184 {code : ByteArray} {pc : Nat} (a b : UInt8) (h : DkAt code pc [184, a, b]) : decode code pc = .ok (.invokestatic (a.toNat * 256 + b.toNat), 3) := dk_of ((dk_bind (dk_u1 (h 0 _ rfl))).trans ((dk_bind (dk_u2 (h 1 _ rfl) (h 2 _ rfl))).trans rfl))
theorem dk_187 {code : ByteArray} {pc : Nat} (a b : UInt8) (h : DkAt code pc [187, a, b]) : decode code pc = .ok (.new (a.toNat * 256 + b.toNat), 3) := dk_of ((dk_bind (dk_u1 (h 0 _ rfl))).trans ((dk_bind (dk_u2 (h 1 _ rfl) (h 2 _ rfl))).trans rfl))
theorem dk_188_8 {code : ByteArray} {pc : Nat} (h : DkAt code pc [188, 8]) : decode code pc = .ok (.newarray .byte, 2) := dk_of ((dk_bind (dk_u1 (h 0 _ rfl))).trans ((dk_bind (dk_u1 (h 1 _ rfl))).trans rfl))
theorem dk_188_10 {code : ByteArray} {pc : Nat} (h : DkAt code pc [188, 10]) : decode code pc = .ok (.newarray .int, 2) := dk_of ((dk_bind (dk_u1 (h 0 _ rfl))).trans ((dk_bind (dk_u1 (h 1 _ rfl))).trans rfl))
theorem dk_188_11 {code : ByteArray} {pc : Nat} (h : DkAt code pc [188, 11]) : decode code pc = .ok (.newarray .long, 2) := dk_of ((dk_bind (dk_u1 (h 0 _ rfl))).trans ((dk_bind (dk_u1 (h 1 _ rfl))).trans rfl))
theorem dk_189 {code : ByteArray} {pc : Nat} (a b : UInt8) (h : DkAt code pc [189, a, b]) : decode code pc = .ok (.anewarray (a.toNat * 256 + b.toNat), 3) := dk_of ((dk_bind (dk_u1 (h 0 _ rfl))).trans ((dk_bind (dk_u2 (h 1 _ rfl) (h 2 _ rfl))).trans rfl))
theorem dk_190 {code : ByteArray} {pc : Nat} (h : DkAt code pc [190]) : decode code pc = .ok (.arraylength, 1) := dk_of ((dk_bind (dk_u1 (h 0 _ rfl))).trans rfl)
theorem dk_191 {code : ByteArray} {pc : Nat} (h : DkAt code pc [191]) : decode code pc = .ok (.athrow, 1) := dk_of ((dk_bind (dk_u1 (h 0 _ rfl))).trans rfl)
theorem dk_192 {code : ByteArray} {pc : Nat} (a b : UInt8) (h : DkAt code pc [192, a, b]) : decode code pc = .ok (.checkcast (a.toNat * 256 + b.toNat), 3) := dk_of ((dk_bind (dk_u1 (h 0 _ rfl))).trans ((dk_bind (dk_u2 (h 1 _ rfl) (h 2 _ rfl))).trans rfl))
theorem dk_193 {code : ByteArray} {pc : Nat} (a b : UInt8) (h : DkAt code pc [193, a, b]) : decode code pc = .ok (.instanceof (a.toNat * 256 + b.toNat), 3) := dk_of ((dk_bind (dk_u1 (h 0 _ rfl))).trans ((dk_bind (dk_u2 (h 1 _ rfl) (h 2 _ rfl))).trans rfl))
theorem dk_198 {code : ByteArray} {pc : Nat} (a b : UInt8) (h : DkAt code pc [198, a, b]) : decode code pc = .ok (.ifnull (Reader.signed 16 (a.toNat * 256 + b.toNat)), 3) := dk_of ((dk_bind (dk_u1 (h 0 _ rfl))).trans ((dk_bind (dk_map (dk_u2 (h 1 _ rfl) (h 2 _ rfl)))).trans rfl))
theorem dk_199 {code : ByteArray} {pc : Nat} (a b : UInt8) (h : DkAt code pc [199, a, b]) : decode code pc = .ok (.ifnonnull (Reader.signed 16 (a.toNat * 256 + b.toNat)), 3) := dk_of ((dk_bind (dk_u1 (h 0 _ rfl))).trans ((dk_bind (dk_map (dk_u2 (h 1 _ rfl) (h 2 _ rfl)))).trans rfl))
