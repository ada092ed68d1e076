-- ===== PART A: goes FIRST, ahead of the names: the tables' words, and 'selects' of the private methods out of them =====
/-- a private method of a class that the tables say can be made, by its rows of tables_1 -/
def lw_okq (q : MethodName × Nat) : Prop := (q.1.cls ≠ "java/lang/invoke/MethodHandle" ∧ q.1.cls ≠ "java/lang/invoke/VarHandle") ∧ Cond.instantiable q.1.cls q.2 ∈ tables_1 ∧ Cond.privateMethod q.1 ∈ tables_1 ∧ Cond.instanceMethod q.1 ∈ tables_1
set_option maxRecDepth 100000
theorem lw_t1 {w : Cond} (h : w ∈ tables_1_1) : w ∈ tables_1 := List.mem_append_left _ h
theorem lw_t2 {w : Cond} (h : w ∈ tables_1_2) : w ∈ tables_1 := List.mem_append_right _ (List.mem_append_left _ h)
theorem lw_t3 {w : Cond} (h : w ∈ tables_1_3) : w ∈ tables_1 := List.mem_append_right _ (List.mem_append_right _ (List.mem_append_left _ h))
theorem lw_t4 {w : Cond} (h : w ∈ tables_1_4) : w ∈ tables_1 := List.mem_append_right _ (List.mem_append_right _ (List.mem_append_right _ (List.mem_append_left _ h)))
theorem lw_t5 {w : Cond} (h : w ∈ tables_1_5) : w ∈ tables_1 := List.mem_append_right _ (List.mem_append_right _ (List.mem_append_right _ (List.mem_append_right _ (List.mem_append_left _ h))))
theorem lw_t6 {w : Cond} (h : w ∈ tables_1_6) : w ∈ tables_1 := List.mem_append_right _ (List.mem_append_right _ (List.mem_append_right _ (List.mem_append_right _ (List.mem_append_right _ (List.mem_append_left _ h)))))
theorem lw_t7 {w : Cond} (h : w ∈ tables_1_7) : w ∈ tables_1 := List.mem_append_right _ (List.mem_append_right _ (List.mem_append_right _ (List.mem_append_right _ (List.mem_append_right _ (List.mem_append_right _ (List.mem_append_left _ h))))))
theorem lw_t8 {w : Cond} (h : w ∈ tables_1_8) : w ∈ tables_1 := List.mem_append_right _ (List.mem_append_right _ (List.mem_append_right _ (List.mem_append_right _ (List.mem_append_right _ (List.mem_append_right _ (List.mem_append_right _ h))))))
theorem lw_p0 : lw_okq (⟨"DictProof", "isClassSign", "(II)Z"⟩, 36) := ⟨⟨by decide +kernel, by decide +kernel⟩, lw_t1 (List.mem_of_getElem? (i := 31) rfl), lw_t2 (List.mem_of_getElem? (i := 55) rfl), lw_t2 (List.mem_of_getElem? (i := 56) rfl)⟩
theorem lw_p1 : lw_okq (⟨"DictProof", "isInstanceSign", "(II)Z"⟩, 36) := ⟨⟨by decide +kernel, by decide +kernel⟩, lw_t1 (List.mem_of_getElem? (i := 31) rfl), lw_t2 (List.mem_of_getElem? (i := 60) rfl), lw_t2 (List.mem_of_getElem? (i := 61) rfl)⟩
theorem lw_p2 : lw_okq (⟨"DictProof", "isBegun", "(II)Z"⟩, 36) := ⟨⟨by decide +kernel, by decide +kernel⟩, lw_t1 (List.mem_of_getElem? (i := 31) rfl), lw_t2 (List.mem_of_getElem? (i := 64) rfl), lw_t2 (List.mem_of_getElem? (i := 65) rfl)⟩
theorem lw_p3 : lw_okq (⟨"DictProof", "isHeadSign", "(I)Z"⟩, 36) := ⟨⟨by decide +kernel, by decide +kernel⟩, lw_t1 (List.mem_of_getElem? (i := 31) rfl), lw_t2 (List.mem_of_getElem? (i := 71) rfl), lw_t2 (List.mem_of_getElem? (i := 72) rfl)⟩
theorem lw_p4 : lw_okq (⟨"DictProof", "isConditionSign", "(I)Z"⟩, 36) := ⟨⟨by decide +kernel, by decide +kernel⟩, lw_t1 (List.mem_of_getElem? (i := 31) rfl), lw_t2 (List.mem_of_getElem? (i := 84) rfl), lw_t2 (List.mem_of_getElem? (i := 85) rfl)⟩
theorem lw_p5 : lw_okq (⟨"DictProof", "layClasses", "()V"⟩, 36) := ⟨⟨by decide +kernel, by decide +kernel⟩, lw_t1 (List.mem_of_getElem? (i := 31) rfl), lw_t2 (List.mem_of_getElem? (i := 96) rfl), lw_t2 (List.mem_of_getElem? (i := 97) rfl)⟩
theorem lw_p6 : lw_okq (⟨"DictProof", "layInstance", "(II)V"⟩, 36) := ⟨⟨by decide +kernel, by decide +kernel⟩, lw_t1 (List.mem_of_getElem? (i := 31) rfl), lw_t2 (List.mem_of_getElem? (i := 100) rfl), lw_t2 (List.mem_of_getElem? (i := 101) rfl)⟩
theorem lw_p7 : lw_okq (⟨"DictProof", "read", "()LDictProof$Term;"⟩, 36) := ⟨⟨by decide +kernel, by decide +kernel⟩, lw_t1 (List.mem_of_getElem? (i := 31) rfl), lw_t2 (List.mem_of_getElem? (i := 107) rfl), lw_t2 (List.mem_of_getElem? (i := 108) rfl)⟩
theorem lw_p8 : lw_okq (⟨"DictProof", "layPairs", "()V"⟩, 36) := ⟨⟨by decide +kernel, by decide +kernel⟩, lw_t1 (List.mem_of_getElem? (i := 31) rfl), lw_t2 (List.mem_of_getElem? (i := 129) rfl), lw_t2 (List.mem_of_getElem? (i := 130) rfl)⟩
theorem lw_p9 : lw_okq (⟨"DictProof", "typed", "()I"⟩, 36) := ⟨⟨by decide +kernel, by decide +kernel⟩, lw_t1 (List.mem_of_getElem? (i := 31) rfl), lw_t4 (List.mem_of_getElem? (i := 3) rfl), lw_t4 (List.mem_of_getElem? (i := 4) rfl)⟩
theorem lw_p10 : lw_okq (⟨"DictProof", "isClass", "(I)Z"⟩, 36) := ⟨⟨by decide +kernel, by decide +kernel⟩, lw_t1 (List.mem_of_getElem? (i := 31) rfl), lw_t4 (List.mem_of_getElem? (i := 16) rfl), lw_t4 (List.mem_of_getElem? (i := 17) rfl)⟩
theorem lw_p11 : lw_okq (⟨"DictProof", "isSlot", "(I)Z"⟩, 36) := ⟨⟨by decide +kernel, by decide +kernel⟩, lw_t1 (List.mem_of_getElem? (i := 31) rfl), lw_t4 (List.mem_of_getElem? (i := 20) rfl), lw_t4 (List.mem_of_getElem? (i := 21) rfl)⟩
theorem lw_p12 : lw_okq (⟨"DictProof", "tellGoal", "(III)I"⟩, 36) := ⟨⟨by decide +kernel, by decide +kernel⟩, lw_t1 (List.mem_of_getElem? (i := 31) rfl), lw_t4 (List.mem_of_getElem? (i := 25) rfl), lw_t4 (List.mem_of_getElem? (i := 26) rfl)⟩
theorem lw_p13 : lw_okq (⟨"DictProof", "prove", "(LDictProof$Goal;)LDictProof$Proof;"⟩, 36) := ⟨⟨by decide +kernel, by decide +kernel⟩, lw_t1 (List.mem_of_getElem? (i := 31) rfl), lw_t4 (List.mem_of_getElem? (i := 44) rfl), lw_t4 (List.mem_of_getElem? (i := 45) rfl)⟩
theorem lw_p14 : lw_okq (⟨"DictProof", "proved", "(LDictProof$Goal;)LDictProof$Proof;"⟩, 36) := ⟨⟨by decide +kernel, by decide +kernel⟩, lw_t1 (List.mem_of_getElem? (i := 31) rfl), lw_t4 (List.mem_of_getElem? (i := 49) rfl), lw_t4 (List.mem_of_getElem? (i := 50) rfl)⟩
theorem lw_p15 : lw_okq (⟨"DictProof", "isMeant", "(LDictProof$Instance;LDictProof$Goal;)Z"⟩, 36) := ⟨⟨by decide +kernel, by decide +kernel⟩, lw_t1 (List.mem_of_getElem? (i := 31) rfl), lw_t4 (List.mem_of_getElem? (i := 72) rfl), lw_t4 (List.mem_of_getElem? (i := 73) rfl)⟩
def lw_privs_1 : List (MethodName × Nat) := [(⟨"DictProof", "isClassSign", "(II)Z"⟩, 36), (⟨"DictProof", "isInstanceSign", "(II)Z"⟩, 36), (⟨"DictProof", "isBegun", "(II)Z"⟩, 36), (⟨"DictProof", "isHeadSign", "(I)Z"⟩, 36), (⟨"DictProof", "isConditionSign", "(I)Z"⟩, 36), (⟨"DictProof", "layClasses", "()V"⟩, 36), (⟨"DictProof", "layInstance", "(II)V"⟩, 36), (⟨"DictProof", "read", "()LDictProof$Term;"⟩, 36), (⟨"DictProof", "layPairs", "()V"⟩, 36), (⟨"DictProof", "typed", "()I"⟩, 36), (⟨"DictProof", "isClass", "(I)Z"⟩, 36), (⟨"DictProof", "isSlot", "(I)Z"⟩, 36), (⟨"DictProof", "tellGoal", "(III)I"⟩, 36), (⟨"DictProof", "prove", "(LDictProof$Goal;)LDictProof$Proof;"⟩, 36), (⟨"DictProof", "proved", "(LDictProof$Goal;)LDictProof$Proof;"⟩, 36), (⟨"DictProof", "isMeant", "(LDictProof$Instance;LDictProof$Goal;)Z"⟩, 36)]
theorem lw_r1 : ∀ q ∈ lw_privs_1, lw_okq q := List.forall_mem_cons.mpr ⟨lw_p0, List.forall_mem_cons.mpr ⟨lw_p1, List.forall_mem_cons.mpr ⟨lw_p2, List.forall_mem_cons.mpr ⟨lw_p3, List.forall_mem_cons.mpr ⟨lw_p4, List.forall_mem_cons.mpr ⟨lw_p5, List.forall_mem_cons.mpr ⟨lw_p6, List.forall_mem_cons.mpr ⟨lw_p7, List.forall_mem_cons.mpr ⟨lw_p8, List.forall_mem_cons.mpr ⟨lw_p9, List.forall_mem_cons.mpr ⟨lw_p10, List.forall_mem_cons.mpr ⟨lw_p11, List.forall_mem_cons.mpr ⟨lw_p12, List.forall_mem_cons.mpr ⟨lw_p13, List.forall_mem_cons.mpr ⟨lw_p14, List.forall_mem_cons.mpr ⟨lw_p15, fun _ h => absurd h List.not_mem_nil⟩⟩⟩⟩⟩⟩⟩⟩⟩⟩⟩⟩⟩⟩⟩⟩
theorem lw_p16 : lw_okq (⟨"DictProof", "isAnyAlone", "(I)Z"⟩, 36) := ⟨⟨by decide +kernel, by decide +kernel⟩, lw_t1 (List.mem_of_getElem? (i := 31) rfl), lw_t4 (List.mem_of_getElem? (i := 98) rfl), lw_t4 (List.mem_of_getElem? (i := 99) rfl)⟩
theorem lw_p17 : lw_okq (⟨"DictProof", "taken", "(I)LDictProof$Instance;"⟩, 36) := ⟨⟨by decide +kernel, by decide +kernel⟩, lw_t1 (List.mem_of_getElem? (i := 31) rfl), lw_t4 (List.mem_of_getElem? (i := 116) rfl), lw_t4 (List.mem_of_getElem? (i := 117) rfl)⟩
theorem lw_p18 : lw_okq (⟨"DictProof", "isBefore", "(LDictProof$Instance;LDictProof$Instance;)Z"⟩, 36) := ⟨⟨by decide +kernel, by decide +kernel⟩, lw_t1 (List.mem_of_getElem? (i := 31) rfl), lw_t4 (List.mem_of_getElem? (i := 120) rfl), lw_t4 (List.mem_of_getElem? (i := 121) rfl)⟩
theorem lw_p19 : lw_okq (⟨"DictProof", "isSpecial", "(LDictProof$Instance;LDictProof$Instance;)Z"⟩, 36) := ⟨⟨by decide +kernel, by decide +kernel⟩, lw_t1 (List.mem_of_getElem? (i := 31) rfl), lw_t4 (List.mem_of_getElem? (i := 139) rfl), lw_t4 (List.mem_of_getElem? (i := 140) rfl)⟩
theorem lw_p20 : lw_okq (⟨"DictProof", "tellFound", "(LDictProof$Proof;I)I"⟩, 36) := ⟨⟨by decide +kernel, by decide +kernel⟩, lw_t1 (List.mem_of_getElem? (i := 31) rfl), lw_t4 (List.mem_of_getElem? (i := 144) rfl), lw_t4 (List.mem_of_getElem? (i := 145) rfl)⟩
theorem lw_p21 : lw_okq (⟨"DictProof", "plainOf", "(I)I"⟩, 36) := ⟨⟨by decide +kernel, by decide +kernel⟩, lw_t1 (List.mem_of_getElem? (i := 31) rfl), lw_t4 (List.mem_of_getElem? (i := 223) rfl), lw_t4 (List.mem_of_getElem? (i := 224) rfl)⟩
theorem lw_p22 : lw_okq (⟨"DictProof", "tellNeed", "(LDictProof$Proof;I)I"⟩, 36) := ⟨⟨by decide +kernel, by decide +kernel⟩, lw_t1 (List.mem_of_getElem? (i := 31) rfl), lw_t5 (List.mem_of_getElem? (i := 0) rfl), lw_t5 (List.mem_of_getElem? (i := 1) rfl)⟩
theorem lw_p23 : lw_okq (⟨"DictProof", "instancesOf", "(I)I"⟩, 36) := ⟨⟨by decide +kernel, by decide +kernel⟩, lw_t1 (List.mem_of_getElem? (i := 31) rfl), lw_t5 (List.mem_of_getElem? (i := 8) rfl), lw_t5 (List.mem_of_getElem? (i := 9) rfl)⟩
theorem lw_p24 : lw_okq (⟨"DictProof", "isInstance", "(I)Z"⟩, 36) := ⟨⟨by decide +kernel, by decide +kernel⟩, lw_t1 (List.mem_of_getElem? (i := 31) rfl), lw_t5 (List.mem_of_getElem? (i := 16) rfl), lw_t5 (List.mem_of_getElem? (i := 17) rfl)⟩
theorem lw_p25 : lw_okq (⟨"DictProof", "tellInstance", "(LDictProof$Instance;I)I"⟩, 36) := ⟨⟨by decide +kernel, by decide +kernel⟩, lw_t1 (List.mem_of_getElem? (i := 31) rfl), lw_t5 (List.mem_of_getElem? (i := 20) rfl), lw_t5 (List.mem_of_getElem? (i := 21) rfl)⟩
theorem lw_p26 : lw_okq (⟨"DictProof", "sortsOf", "(I)I"⟩, 36) := ⟨⟨by decide +kernel, by decide +kernel⟩, lw_t1 (List.mem_of_getElem? (i := 31) rfl), lw_t5 (List.mem_of_getElem? (i := 42) rfl), lw_t5 (List.mem_of_getElem? (i := 43) rfl)⟩
theorem lw_p27 : lw_okq (⟨"DictProof", "sortsBy", "(I)I"⟩, 36) := ⟨⟨by decide +kernel, by decide +kernel⟩, lw_t1 (List.mem_of_getElem? (i := 31) rfl), lw_t5 (List.mem_of_getElem? (i := 46) rfl), lw_t5 (List.mem_of_getElem? (i := 47) rfl)⟩
theorem lw_p28 : lw_okq (⟨"DictProof", "isSo", "(LDictProof$Instance;I)Z"⟩, 36) := ⟨⟨by decide +kernel, by decide +kernel⟩, lw_t1 (List.mem_of_getElem? (i := 31) rfl), lw_t5 (List.mem_of_getElem? (i := 50) rfl), lw_t5 (List.mem_of_getElem? (i := 51) rfl)⟩
theorem lw_p29 : lw_okq (⟨"DictProof", "toAsk", "(I)I"⟩, 36) := ⟨⟨by decide +kernel, by decide +kernel⟩, lw_t1 (List.mem_of_getElem? (i := 31) rfl), lw_t5 (List.mem_of_getElem? (i := 117) rfl), lw_t5 (List.mem_of_getElem? (i := 118) rfl)⟩
theorem lw_p30 : lw_okq (⟨"DictProof", "lackedBy", "(LDictProof$Instance;)I"⟩, 36) := ⟨⟨by decide +kernel, by decide +kernel⟩, lw_t1 (List.mem_of_getElem? (i := 31) rfl), lw_t5 (List.mem_of_getElem? (i := 125) rfl), lw_t5 (List.mem_of_getElem? (i := 126) rfl)⟩
theorem lw_p31 : lw_okq (⟨"DictProof", "givenBy", "(LDictProof$Instance;)I"⟩, 36) := ⟨⟨by decide +kernel, by decide +kernel⟩, lw_t1 (List.mem_of_getElem? (i := 31) rfl), lw_t5 (List.mem_of_getElem? (i := 129) rfl), lw_t5 (List.mem_of_getElem? (i := 130) rfl)⟩
def lw_privs_2 : List (MethodName × Nat) := [(⟨"DictProof", "isAnyAlone", "(I)Z"⟩, 36), (⟨"DictProof", "taken", "(I)LDictProof$Instance;"⟩, 36), (⟨"DictProof", "isBefore", "(LDictProof$Instance;LDictProof$Instance;)Z"⟩, 36), (⟨"DictProof", "isSpecial", "(LDictProof$Instance;LDictProof$Instance;)Z"⟩, 36), (⟨"DictProof", "tellFound", "(LDictProof$Proof;I)I"⟩, 36), (⟨"DictProof", "plainOf", "(I)I"⟩, 36), (⟨"DictProof", "tellNeed", "(LDictProof$Proof;I)I"⟩, 36), (⟨"DictProof", "instancesOf", "(I)I"⟩, 36), (⟨"DictProof", "isInstance", "(I)Z"⟩, 36), (⟨"DictProof", "tellInstance", "(LDictProof$Instance;I)I"⟩, 36), (⟨"DictProof", "sortsOf", "(I)I"⟩, 36), (⟨"DictProof", "sortsBy", "(I)I"⟩, 36), (⟨"DictProof", "isSo", "(LDictProof$Instance;I)Z"⟩, 36), (⟨"DictProof", "toAsk", "(I)I"⟩, 36), (⟨"DictProof", "lackedBy", "(LDictProof$Instance;)I"⟩, 36), (⟨"DictProof", "givenBy", "(LDictProof$Instance;)I"⟩, 36)]
theorem lw_r2 : ∀ q ∈ lw_privs_2, lw_okq q := List.forall_mem_cons.mpr ⟨lw_p16, List.forall_mem_cons.mpr ⟨lw_p17, List.forall_mem_cons.mpr ⟨lw_p18, List.forall_mem_cons.mpr ⟨lw_p19, List.forall_mem_cons.mpr ⟨lw_p20, List.forall_mem_cons.mpr ⟨lw_p21, List.forall_mem_cons.mpr ⟨lw_p22, List.forall_mem_cons.mpr ⟨lw_p23, List.forall_mem_cons.mpr ⟨lw_p24, List.forall_mem_cons.mpr ⟨lw_p25, List.forall_mem_cons.mpr ⟨lw_p26, List.forall_mem_cons.mpr ⟨lw_p27, List.forall_mem_cons.mpr ⟨lw_p28, List.forall_mem_cons.mpr ⟨lw_p29, List.forall_mem_cons.mpr ⟨lw_p30, List.forall_mem_cons.mpr ⟨lw_p31, fun _ h => absurd h List.not_mem_nil⟩⟩⟩⟩⟩⟩⟩⟩⟩⟩⟩⟩⟩⟩⟩⟩
theorem lw_p32 : lw_okq (⟨"java/lang/Throwable", "fillInStackTrace", "(I)Ljava/lang/Throwable;"⟩, 6) := ⟨⟨by decide +kernel, by decide +kernel⟩, lw_t5 (List.mem_of_getElem? (i := 162) rfl), lw_t5 (List.mem_of_getElem? (i := 160) rfl), lw_t5 (List.mem_of_getElem? (i := 161) rfl)⟩
theorem lw_p33 : lw_okq (⟨"DictProof", "be", "(II)V"⟩, 36) := ⟨⟨by decide +kernel, by decide +kernel⟩, lw_t1 (List.mem_of_getElem? (i := 31) rfl), lw_t5 (List.mem_of_getElem? (i := 214) rfl), lw_t5 (List.mem_of_getElem? (i := 215) rfl)⟩
theorem lw_p34 : lw_okq (⟨"DictProof", "tellPair", "(LDictProof$Instance;LDictProof$Instance;I)I"⟩, 36) := ⟨⟨by decide +kernel, by decide +kernel⟩, lw_t1 (List.mem_of_getElem? (i := 31) rfl), lw_t5 (List.mem_of_getElem? (i := 235) rfl), lw_t5 (List.mem_of_getElem? (i := 236) rfl)⟩
theorem lw_p35 : lw_okq (⟨"DictProof", "isOverlap", "(LDictProof$Instance;LDictProof$Instance;)Z"⟩, 36) := ⟨⟨by decide +kernel, by decide +kernel⟩, lw_t1 (List.mem_of_getElem? (i := 31) rfl), lw_t5 (List.mem_of_getElem? (i := 239) rfl), lw_t6 (List.mem_of_getElem? (i := 0) rfl)⟩
theorem lw_p36 : lw_okq (⟨"DictProof", "isClash", "(LDictProof$Instance;LDictProof$Instance;)Z"⟩, 36) := ⟨⟨by decide +kernel, by decide +kernel⟩, lw_t1 (List.mem_of_getElem? (i := 31) rfl), lw_t6 (List.mem_of_getElem? (i := 3) rfl), lw_t6 (List.mem_of_getElem? (i := 4) rfl)⟩
theorem lw_p37 : lw_okq (⟨"DictProof", "drawnBy", "(III)I"⟩, 36) := ⟨⟨by decide +kernel, by decide +kernel⟩, lw_t1 (List.mem_of_getElem? (i := 31) rfl), lw_t6 (List.mem_of_getElem? (i := 24) rfl), lw_t6 (List.mem_of_getElem? (i := 25) rfl)⟩
theorem lw_p38 : lw_okq (⟨"DictProof", "draw", "(I)I"⟩, 36) := ⟨⟨by decide +kernel, by decide +kernel⟩, lw_t1 (List.mem_of_getElem? (i := 31) rfl), lw_t6 (List.mem_of_getElem? (i := 28) rfl), lw_t6 (List.mem_of_getElem? (i := 29) rfl)⟩
theorem lw_p39 : lw_okq (⟨"DictProof", "drawType", "(I)LDictProof$Term;"⟩, 36) := ⟨⟨by decide +kernel, by decide +kernel⟩, lw_t1 (List.mem_of_getElem? (i := 31) rfl), lw_t6 (List.mem_of_getElem? (i := 36) rfl), lw_t6 (List.mem_of_getElem? (i := 37) rfl)⟩
theorem lw_p40 : lw_okq (⟨"DictProof", "slotsUsed", "()I"⟩, 36) := ⟨⟨by decide +kernel, by decide +kernel⟩, lw_t1 (List.mem_of_getElem? (i := 31) rfl), lw_t6 (List.mem_of_getElem? (i := 45) rfl), lw_t6 (List.mem_of_getElem? (i := 46) rfl)⟩
theorem lw_p41 : lw_okq (⟨"DictProof", "unsound", "()I"⟩, 36) := ⟨⟨by decide +kernel, by decide +kernel⟩, lw_t1 (List.mem_of_getElem? (i := 31) rfl), lw_t6 (List.mem_of_getElem? (i := 57) rfl), lw_t6 (List.mem_of_getElem? (i := 58) rfl)⟩
theorem lw_p42 : lw_okq (⟨"DictProof", "pairsBy", "(I)I"⟩, 36) := ⟨⟨by decide +kernel, by decide +kernel⟩, lw_t1 (List.mem_of_getElem? (i := 31) rfl), lw_t6 (List.mem_of_getElem? (i := 61) rfl), lw_t6 (List.mem_of_getElem? (i := 62) rfl)⟩
theorem lw_p43 : lw_okq (⟨"DictProof", "lackedAll", "()I"⟩, 36) := ⟨⟨by decide +kernel, by decide +kernel⟩, lw_t1 (List.mem_of_getElem? (i := 31) rfl), lw_t6 (List.mem_of_getElem? (i := 65) rfl), lw_t6 (List.mem_of_getElem? (i := 66) rfl)⟩
theorem lw_p44 : lw_okq (⟨"DictProof", "differentTypes", "()I"⟩, 36) := ⟨⟨by decide +kernel, by decide +kernel⟩, lw_t1 (List.mem_of_getElem? (i := 31) rfl), lw_t6 (List.mem_of_getElem? (i := 69) rfl), lw_t6 (List.mem_of_getElem? (i := 70) rfl)⟩
theorem lw_p45 : lw_okq (⟨"DictProof", "note", "(J)V"⟩, 36) := ⟨⟨by decide +kernel, by decide +kernel⟩, lw_t1 (List.mem_of_getElem? (i := 31) rfl), lw_t6 (List.mem_of_getElem? (i := 80) rfl), lw_t6 (List.mem_of_getElem? (i := 81) rfl)⟩
theorem lw_p46 : lw_okq (⟨"DictProofModel", "read", "()I"⟩, 63) := ⟨⟨by decide +kernel, by decide +kernel⟩, lw_t6 (List.mem_of_getElem? (i := 86) rfl), lw_t7 (List.mem_of_getElem? (i := 57) rfl), lw_t7 (List.mem_of_getElem? (i := 58) rfl)⟩
theorem lw_p47 : lw_okq (⟨"DictProofModel", "readClasses", "()I"⟩, 63) := ⟨⟨by decide +kernel, by decide +kernel⟩, lw_t6 (List.mem_of_getElem? (i := 86) rfl), lw_t7 (List.mem_of_getElem? (i := 61) rfl), lw_t7 (List.mem_of_getElem? (i := 62) rfl)⟩
def lw_privs_3 : List (MethodName × Nat) := [(⟨"java/lang/Throwable", "fillInStackTrace", "(I)Ljava/lang/Throwable;"⟩, 6), (⟨"DictProof", "be", "(II)V"⟩, 36), (⟨"DictProof", "tellPair", "(LDictProof$Instance;LDictProof$Instance;I)I"⟩, 36), (⟨"DictProof", "isOverlap", "(LDictProof$Instance;LDictProof$Instance;)Z"⟩, 36), (⟨"DictProof", "isClash", "(LDictProof$Instance;LDictProof$Instance;)Z"⟩, 36), (⟨"DictProof", "drawnBy", "(III)I"⟩, 36), (⟨"DictProof", "draw", "(I)I"⟩, 36), (⟨"DictProof", "drawType", "(I)LDictProof$Term;"⟩, 36), (⟨"DictProof", "slotsUsed", "()I"⟩, 36), (⟨"DictProof", "unsound", "()I"⟩, 36), (⟨"DictProof", "pairsBy", "(I)I"⟩, 36), (⟨"DictProof", "lackedAll", "()I"⟩, 36), (⟨"DictProof", "differentTypes", "()I"⟩, 36), (⟨"DictProof", "note", "(J)V"⟩, 36), (⟨"DictProofModel", "read", "()I"⟩, 63), (⟨"DictProofModel", "readClasses", "()I"⟩, 63)]
theorem lw_r3 : ∀ q ∈ lw_privs_3, lw_okq q := List.forall_mem_cons.mpr ⟨lw_p32, List.forall_mem_cons.mpr ⟨lw_p33, List.forall_mem_cons.mpr ⟨lw_p34, List.forall_mem_cons.mpr ⟨lw_p35, List.forall_mem_cons.mpr ⟨lw_p36, List.forall_mem_cons.mpr ⟨lw_p37, List.forall_mem_cons.mpr ⟨lw_p38, List.forall_mem_cons.mpr ⟨lw_p39, List.forall_mem_cons.mpr ⟨lw_p40, List.forall_mem_cons.mpr ⟨lw_p41, List.forall_mem_cons.mpr ⟨lw_p42, List.forall_mem_cons.mpr ⟨lw_p43, List.forall_mem_cons.mpr ⟨lw_p44, List.forall_mem_cons.mpr ⟨lw_p45, List.forall_mem_cons.mpr ⟨lw_p46, List.forall_mem_cons.mpr ⟨lw_p47, fun _ h => absurd h List.not_mem_nil⟩⟩⟩⟩⟩⟩⟩⟩⟩⟩⟩⟩⟩⟩⟩⟩
theorem lw_p48 : lw_okq (⟨"DictProofModel", "readClass", "(I)I"⟩, 63) := ⟨⟨by decide +kernel, by decide +kernel⟩, lw_t6 (List.mem_of_getElem? (i := 86) rfl), lw_t7 (List.mem_of_getElem? (i := 65) rfl), lw_t7 (List.mem_of_getElem? (i := 66) rfl)⟩
theorem lw_p49 : lw_okq (⟨"DictProofModel", "at", "(I)I"⟩, 63) := ⟨⟨by decide +kernel, by decide +kernel⟩, lw_t6 (List.mem_of_getElem? (i := 86) rfl), lw_t7 (List.mem_of_getElem? (i := 69) rfl), lw_t7 (List.mem_of_getElem? (i := 70) rfl)⟩
theorem lw_p50 : lw_okq (⟨"DictProofModel", "figure", "(I)I"⟩, 63) := ⟨⟨by decide +kernel, by decide +kernel⟩, lw_t6 (List.mem_of_getElem? (i := 86) rfl), lw_t7 (List.mem_of_getElem? (i := 73) rfl), lw_t7 (List.mem_of_getElem? (i := 74) rfl)⟩
theorem lw_p51 : lw_okq (⟨"DictProofModel", "broken", "(I)I"⟩, 63) := ⟨⟨by decide +kernel, by decide +kernel⟩, lw_t6 (List.mem_of_getElem? (i := 86) rfl), lw_t7 (List.mem_of_getElem? (i := 77) rfl), lw_t7 (List.mem_of_getElem? (i := 78) rfl)⟩
theorem lw_p52 : lw_okq (⟨"DictProofModel", "readInstance", "(I)I"⟩, 63) := ⟨⟨by decide +kernel, by decide +kernel⟩, lw_t6 (List.mem_of_getElem? (i := 86) rfl), lw_t7 (List.mem_of_getElem? (i := 81) rfl), lw_t7 (List.mem_of_getElem? (i := 82) rfl)⟩
theorem lw_p53 : lw_okq (⟨"DictProofModel", "readHead", "(II)I"⟩, 63) := ⟨⟨by decide +kernel, by decide +kernel⟩, lw_t6 (List.mem_of_getElem? (i := 86) rfl), lw_t7 (List.mem_of_getElem? (i := 88) rfl), lw_t7 (List.mem_of_getElem? (i := 89) rfl)⟩
theorem lw_p54 : lw_okq (⟨"DictProofModel", "readConditions", "(II)I"⟩, 63) := ⟨⟨by decide +kernel, by decide +kernel⟩, lw_t6 (List.mem_of_getElem? (i := 86) rfl), lw_t7 (List.mem_of_getElem? (i := 95) rfl), lw_t7 (List.mem_of_getElem? (i := 96) rfl)⟩
theorem lw_p55 : lw_okq (⟨"DictProofModel", "isInHead", "(II)Z"⟩, 63) := ⟨⟨by decide +kernel, by decide +kernel⟩, lw_t6 (List.mem_of_getElem? (i := 86) rfl), lw_t7 (List.mem_of_getElem? (i := 99) rfl), lw_t7 (List.mem_of_getElem? (i := 100) rfl)⟩
theorem lw_p56 : lw_okq (⟨"DictProofModel", "takeInstance", "(I)V"⟩, 63) := ⟨⟨by decide +kernel, by decide +kernel⟩, lw_t6 (List.mem_of_getElem? (i := 86) rfl), lw_t7 (List.mem_of_getElem? (i := 113) rfl), lw_t7 (List.mem_of_getElem? (i := 114) rfl)⟩
theorem lw_p57 : lw_okq (⟨"DictProofModel", "laySpecial", "()V"⟩, 63) := ⟨⟨by decide +kernel, by decide +kernel⟩, lw_t6 (List.mem_of_getElem? (i := 86) rfl), lw_t7 (List.mem_of_getElem? (i := 117) rfl), lw_t7 (List.mem_of_getElem? (i := 118) rfl)⟩
theorem lw_p58 : lw_okq (⟨"DictProofModel", "layHead", "(I)V"⟩, 63) := ⟨⟨by decide +kernel, by decide +kernel⟩, lw_t6 (List.mem_of_getElem? (i := 86) rfl), lw_t7 (List.mem_of_getElem? (i := 121) rfl), lw_t7 (List.mem_of_getElem? (i := 122) rfl)⟩
theorem lw_p59 : lw_okq (⟨"DictProofModel", "laySizes", "()V"⟩, 63) := ⟨⟨by decide +kernel, by decide +kernel⟩, lw_t6 (List.mem_of_getElem? (i := 86) rfl), lw_t7 (List.mem_of_getElem? (i := 125) rfl), lw_t7 (List.mem_of_getElem? (i := 126) rfl)⟩
theorem lw_p60 : lw_okq (⟨"DictProofModel", "fitsAt", "(II)Z"⟩, 63) := ⟨⟨by decide +kernel, by decide +kernel⟩, lw_t6 (List.mem_of_getElem? (i := 86) rfl), lw_t7 (List.mem_of_getElem? (i := 129) rfl), lw_t7 (List.mem_of_getElem? (i := 130) rfl)⟩
theorem lw_p61 : lw_okq (⟨"DictProofModel", "isSameAt", "(II)Z"⟩, 63) := ⟨⟨by decide +kernel, by decide +kernel⟩, lw_t6 (List.mem_of_getElem? (i := 86) rfl), lw_t7 (List.mem_of_getElem? (i := 133) rfl), lw_t7 (List.mem_of_getElem? (i := 134) rfl)⟩
theorem lw_p62 : lw_okq (⟨"DictProofModel", "isClass", "(I)Z"⟩, 63) := ⟨⟨by decide +kernel, by decide +kernel⟩, lw_t6 (List.mem_of_getElem? (i := 86) rfl), lw_t7 (List.mem_of_getElem? (i := 145) rfl), lw_t7 (List.mem_of_getElem? (i := 146) rfl)⟩
theorem lw_p63 : lw_okq (⟨"DictProofModel", "aboutNow", "(II)I"⟩, 63) := ⟨⟨by decide +kernel, by decide +kernel⟩, lw_t6 (List.mem_of_getElem? (i := 86) rfl), lw_t7 (List.mem_of_getElem? (i := 149) rfl), lw_t7 (List.mem_of_getElem? (i := 150) rfl)⟩
def lw_privs_4 : List (MethodName × Nat) := [(⟨"DictProofModel", "readClass", "(I)I"⟩, 63), (⟨"DictProofModel", "at", "(I)I"⟩, 63), (⟨"DictProofModel", "figure", "(I)I"⟩, 63), (⟨"DictProofModel", "broken", "(I)I"⟩, 63), (⟨"DictProofModel", "readInstance", "(I)I"⟩, 63), (⟨"DictProofModel", "readHead", "(II)I"⟩, 63), (⟨"DictProofModel", "readConditions", "(II)I"⟩, 63), (⟨"DictProofModel", "isInHead", "(II)Z"⟩, 63), (⟨"DictProofModel", "takeInstance", "(I)V"⟩, 63), (⟨"DictProofModel", "laySpecial", "()V"⟩, 63), (⟨"DictProofModel", "layHead", "(I)V"⟩, 63), (⟨"DictProofModel", "laySizes", "()V"⟩, 63), (⟨"DictProofModel", "fitsAt", "(II)Z"⟩, 63), (⟨"DictProofModel", "isSameAt", "(II)Z"⟩, 63), (⟨"DictProofModel", "isClass", "(I)Z"⟩, 63), (⟨"DictProofModel", "aboutNow", "(II)I"⟩, 63)]
theorem lw_r4 : ∀ q ∈ lw_privs_4, lw_okq q := List.forall_mem_cons.mpr ⟨lw_p48, List.forall_mem_cons.mpr ⟨lw_p49, List.forall_mem_cons.mpr ⟨lw_p50, List.forall_mem_cons.mpr ⟨lw_p51, List.forall_mem_cons.mpr ⟨lw_p52, List.forall_mem_cons.mpr ⟨lw_p53, List.forall_mem_cons.mpr ⟨lw_p54, List.forall_mem_cons.mpr ⟨lw_p55, List.forall_mem_cons.mpr ⟨lw_p56, List.forall_mem_cons.mpr ⟨lw_p57, List.forall_mem_cons.mpr ⟨lw_p58, List.forall_mem_cons.mpr ⟨lw_p59, List.forall_mem_cons.mpr ⟨lw_p60, List.forall_mem_cons.mpr ⟨lw_p61, List.forall_mem_cons.mpr ⟨lw_p62, List.forall_mem_cons.mpr ⟨lw_p63, fun _ h => absurd h List.not_mem_nil⟩⟩⟩⟩⟩⟩⟩⟩⟩⟩⟩⟩⟩⟩⟩⟩
theorem lw_p64 : lw_okq (⟨"DictProofModel", "instancesOf", "(I)I"⟩, 63) := ⟨⟨by decide +kernel, by decide +kernel⟩, lw_t6 (List.mem_of_getElem? (i := 86) rfl), lw_t7 (List.mem_of_getElem? (i := 153) rfl), lw_t7 (List.mem_of_getElem? (i := 154) rfl)⟩
theorem lw_p65 : lw_okq (⟨"DictProofModel", "isInstance", "(I)Z"⟩, 63) := ⟨⟨by decide +kernel, by decide +kernel⟩, lw_t6 (List.mem_of_getElem? (i := 86) rfl), lw_t7 (List.mem_of_getElem? (i := 161) rfl), lw_t7 (List.mem_of_getElem? (i := 162) rfl)⟩
theorem lw_p66 : lw_okq (⟨"DictProofModel", "instanceNow", "(II)I"⟩, 63) := ⟨⟨by decide +kernel, by decide +kernel⟩, lw_t6 (List.mem_of_getElem? (i := 86) rfl), lw_t7 (List.mem_of_getElem? (i := 165) rfl), lw_t7 (List.mem_of_getElem? (i := 166) rfl)⟩
theorem lw_p67 : lw_okq (⟨"DictProofModel", "isSound", "(I)Z"⟩, 63) := ⟨⟨by decide +kernel, by decide +kernel⟩, lw_t6 (List.mem_of_getElem? (i := 86) rfl), lw_t7 (List.mem_of_getElem? (i := 169) rfl), lw_t7 (List.mem_of_getElem? (i := 170) rfl)⟩
theorem lw_p68 : lw_okq (⟨"DictProofModel", "sortsOf", "(I)I"⟩, 63) := ⟨⟨by decide +kernel, by decide +kernel⟩, lw_t6 (List.mem_of_getElem? (i := 86) rfl), lw_t7 (List.mem_of_getElem? (i := 173) rfl), lw_t7 (List.mem_of_getElem? (i := 174) rfl)⟩
theorem lw_p69 : lw_okq (⟨"DictProofModel", "askOf", "(I)I"⟩, 63) := ⟨⟨by decide +kernel, by decide +kernel⟩, lw_t6 (List.mem_of_getElem? (i := 86) rfl), lw_t7 (List.mem_of_getElem? (i := 180) rfl), lw_t7 (List.mem_of_getElem? (i := 181) rfl)⟩
theorem lw_p70 : lw_okq (⟨"DictProofModel", "lacksOf", "(I)I"⟩, 63) := ⟨⟨by decide +kernel, by decide +kernel⟩, lw_t6 (List.mem_of_getElem? (i := 86) rfl), lw_t7 (List.mem_of_getElem? (i := 188) rfl), lw_t7 (List.mem_of_getElem? (i := 189) rfl)⟩
theorem lw_p71 : lw_okq (⟨"DictProofModel", "layGoals", "()V"⟩, 63) := ⟨⟨by decide +kernel, by decide +kernel⟩, lw_t6 (List.mem_of_getElem? (i := 86) rfl), lw_t7 (List.mem_of_getElem? (i := 192) rfl), lw_t7 (List.mem_of_getElem? (i := 193) rfl)⟩
theorem lw_p72 : lw_okq (⟨"DictProofModel", "layNeed", "(II)V"⟩, 63) := ⟨⟨by decide +kernel, by decide +kernel⟩, lw_t6 (List.mem_of_getElem? (i := 86) rfl), lw_t7 (List.mem_of_getElem? (i := 196) rfl), lw_t7 (List.mem_of_getElem? (i := 197) rfl)⟩
theorem lw_p73 : lw_okq (⟨"DictProofModel", "layGoal", "(II)V"⟩, 63) := ⟨⟨by decide +kernel, by decide +kernel⟩, lw_t6 (List.mem_of_getElem? (i := 86) rfl), lw_t7 (List.mem_of_getElem? (i := 200) rfl), lw_t7 (List.mem_of_getElem? (i := 201) rfl)⟩
theorem lw_p74 : lw_okq (⟨"DictProofModel", "takes", "(II)I"⟩, 63) := ⟨⟨by decide +kernel, by decide +kernel⟩, lw_t6 (List.mem_of_getElem? (i := 86) rfl), lw_t7 (List.mem_of_getElem? (i := 204) rfl), lw_t7 (List.mem_of_getElem? (i := 205) rfl)⟩
theorem lw_p75 : lw_okq (⟨"DictProofModel", "meantFor", "(II)I"⟩, 63) := ⟨⟨by decide +kernel, by decide +kernel⟩, lw_t6 (List.mem_of_getElem? (i := 86) rfl), lw_t7 (List.mem_of_getElem? (i := 208) rfl), lw_t7 (List.mem_of_getElem? (i := 209) rfl)⟩
theorem lw_p76 : lw_okq (⟨"DictProofModel", "isOneSole", "(I)Z"⟩, 63) := ⟨⟨by decide +kernel, by decide +kernel⟩, lw_t6 (List.mem_of_getElem? (i := 86) rfl), lw_t7 (List.mem_of_getElem? (i := 212) rfl), lw_t7 (List.mem_of_getElem? (i := 213) rfl)⟩
theorem lw_p77 : lw_okq (⟨"DictProofModel", "ofRank", "(II)I"⟩, 63) := ⟨⟨by decide +kernel, by decide +kernel⟩, lw_t6 (List.mem_of_getElem? (i := 86) rfl), lw_t7 (List.mem_of_getElem? (i := 216) rfl), lw_t7 (List.mem_of_getElem? (i := 217) rfl)⟩
theorem lw_p78 : lw_okq (⟨"DictProofModel", "mostSpecial", "(I)I"⟩, 63) := ⟨⟨by decide +kernel, by decide +kernel⟩, lw_t6 (List.mem_of_getElem? (i := 86) rfl), lw_t7 (List.mem_of_getElem? (i := 220) rfl), lw_t7 (List.mem_of_getElem? (i := 221) rfl)⟩
theorem lw_p79 : lw_okq (⟨"DictProofModel", "addBelow", "(III)V"⟩, 63) := ⟨⟨by decide +kernel, by decide +kernel⟩, lw_t6 (List.mem_of_getElem? (i := 86) rfl), lw_t7 (List.mem_of_getElem? (i := 224) rfl), lw_t7 (List.mem_of_getElem? (i := 225) rfl)⟩
def lw_privs_5 : List (MethodName × Nat) := [(⟨"DictProofModel", "instancesOf", "(I)I"⟩, 63), (⟨"DictProofModel", "isInstance", "(I)Z"⟩, 63), (⟨"DictProofModel", "instanceNow", "(II)I"⟩, 63), (⟨"DictProofModel", "isSound", "(I)Z"⟩, 63), (⟨"DictProofModel", "sortsOf", "(I)I"⟩, 63), (⟨"DictProofModel", "askOf", "(I)I"⟩, 63), (⟨"DictProofModel", "lacksOf", "(I)I"⟩, 63), (⟨"DictProofModel", "layGoals", "()V"⟩, 63), (⟨"DictProofModel", "layNeed", "(II)V"⟩, 63), (⟨"DictProofModel", "layGoal", "(II)V"⟩, 63), (⟨"DictProofModel", "takes", "(II)I"⟩, 63), (⟨"DictProofModel", "meantFor", "(II)I"⟩, 63), (⟨"DictProofModel", "isOneSole", "(I)Z"⟩, 63), (⟨"DictProofModel", "ofRank", "(II)I"⟩, 63), (⟨"DictProofModel", "mostSpecial", "(I)I"⟩, 63), (⟨"DictProofModel", "addBelow", "(III)V"⟩, 63)]
theorem lw_r5 : ∀ q ∈ lw_privs_5, lw_okq q := List.forall_mem_cons.mpr ⟨lw_p64, List.forall_mem_cons.mpr ⟨lw_p65, List.forall_mem_cons.mpr ⟨lw_p66, List.forall_mem_cons.mpr ⟨lw_p67, List.forall_mem_cons.mpr ⟨lw_p68, List.forall_mem_cons.mpr ⟨lw_p69, List.forall_mem_cons.mpr ⟨lw_p70, List.forall_mem_cons.mpr ⟨lw_p71, List.forall_mem_cons.mpr ⟨lw_p72, List.forall_mem_cons.mpr ⟨lw_p73, List.forall_mem_cons.mpr ⟨lw_p74, List.forall_mem_cons.mpr ⟨lw_p75, List.forall_mem_cons.mpr ⟨lw_p76, List.forall_mem_cons.mpr ⟨lw_p77, List.forall_mem_cons.mpr ⟨lw_p78, List.forall_mem_cons.mpr ⟨lw_p79, fun _ h => absurd h List.not_mem_nil⟩⟩⟩⟩⟩⟩⟩⟩⟩⟩⟩⟩⟩⟩⟩⟩
theorem lw_p80 : lw_okq (⟨"DictProofModel", "isGiven", "(II)Z"⟩, 63) := ⟨⟨by decide +kernel, by decide +kernel⟩, lw_t6 (List.mem_of_getElem? (i := 86) rfl), lw_t7 (List.mem_of_getElem? (i := 228) rfl), lw_t7 (List.mem_of_getElem? (i := 229) rfl)⟩
theorem lw_p81 : lw_okq (⟨"DictProofModel", "pairNow", "(III)Z"⟩, 63) := ⟨⟨by decide +kernel, by decide +kernel⟩, lw_t6 (List.mem_of_getElem? (i := 86) rfl), lw_t8 (List.mem_of_getElem? (i := 4) rfl), lw_t8 (List.mem_of_getElem? (i := 5) rfl)⟩
theorem lw_p82 : lw_okq (⟨"DictProofModel", "overlap", "(II)Z"⟩, 63) := ⟨⟨by decide +kernel, by decide +kernel⟩, lw_t6 (List.mem_of_getElem? (i := 86) rfl), lw_t8 (List.mem_of_getElem? (i := 8) rfl), lw_t8 (List.mem_of_getElem? (i := 9) rfl)⟩
theorem lw_p83 : lw_okq (⟨"DictProofModel", "areOne", "(II)Z"⟩, 63) := ⟨⟨by decide +kernel, by decide +kernel⟩, lw_t6 (List.mem_of_getElem? (i := 86) rfl), lw_t8 (List.mem_of_getElem? (i := 12) rfl), lw_t8 (List.mem_of_getElem? (i := 13) rfl)⟩
theorem lw_p84 : lw_okq (⟨"DictProofModel", "addPair", "(II)V"⟩, 63) := ⟨⟨by decide +kernel, by decide +kernel⟩, lw_t6 (List.mem_of_getElem? (i := 86) rfl), lw_t8 (List.mem_of_getElem? (i := 16) rfl), lw_t8 (List.mem_of_getElem? (i := 17) rfl)⟩
theorem lw_p85 : lw_okq (⟨"DictProofModel", "standsFor", "(I)I"⟩, 63) := ⟨⟨by decide +kernel, by decide +kernel⟩, lw_t6 (List.mem_of_getElem? (i := 86) rfl), lw_t8 (List.mem_of_getElem? (i := 20) rfl), lw_t8 (List.mem_of_getElem? (i := 21) rfl)⟩
theorem lw_p86 : lw_okq (⟨"DictProofModel", "letterOf", "(I)I"⟩, 63) := ⟨⟨by decide +kernel, by decide +kernel⟩, lw_t6 (List.mem_of_getElem? (i := 86) rfl), lw_t8 (List.mem_of_getElem? (i := 24) rfl), lw_t8 (List.mem_of_getElem? (i := 25) rfl)⟩
theorem lw_p87 : lw_okq (⟨"DictProofModel", "variableOf", "(I)I"⟩, 63) := ⟨⟨by decide +kernel, by decide +kernel⟩, lw_t6 (List.mem_of_getElem? (i := 86) rfl), lw_t8 (List.mem_of_getElem? (i := 28) rfl), lw_t8 (List.mem_of_getElem? (i := 29) rfl)⟩
theorem lw_p88 : lw_okq (⟨"DictProofModel", "joins", "(II)Z"⟩, 63) := ⟨⟨by decide +kernel, by decide +kernel⟩, lw_t6 (List.mem_of_getElem? (i := 86) rfl), lw_t8 (List.mem_of_getElem? (i := 32) rfl), lw_t8 (List.mem_of_getElem? (i := 33) rfl)⟩
theorem lw_p89 : lw_okq (⟨"DictProofModel", "occurs", "(II)Z"⟩, 63) := ⟨⟨by decide +kernel, by decide +kernel⟩, lw_t6 (List.mem_of_getElem? (i := 86) rfl), lw_t8 (List.mem_of_getElem? (i := 36) rfl), lw_t8 (List.mem_of_getElem? (i := 37) rfl)⟩
theorem lw_p90 : lw_okq (⟨"DictProofModel", "behind", "(I)I"⟩, 63) := ⟨⟨by decide +kernel, by decide +kernel⟩, lw_t6 (List.mem_of_getElem? (i := 86) rfl), lw_t8 (List.mem_of_getElem? (i := 40) rfl), lw_t8 (List.mem_of_getElem? (i := 41) rfl)⟩
theorem lw_p91 : lw_okq (⟨"DictProofModel", "clash", "(II)Z"⟩, 63) := ⟨⟨by decide +kernel, by decide +kernel⟩, lw_t6 (List.mem_of_getElem? (i := 86) rfl), lw_t8 (List.mem_of_getElem? (i := 44) rfl), lw_t8 (List.mem_of_getElem? (i := 45) rfl)⟩
theorem lw_p92 : lw_okq (⟨"DictProofModel", "isSpecial", "(II)Z"⟩, 63) := ⟨⟨by decide +kernel, by decide +kernel⟩, lw_t6 (List.mem_of_getElem? (i := 86) rfl), lw_t8 (List.mem_of_getElem? (i := 48) rfl), lw_t8 (List.mem_of_getElem? (i := 49) rfl)⟩
theorem lw_p93 : lw_okq (⟨"DictProofModel", "isFilled", "(I)Z"⟩, 63) := ⟨⟨by decide +kernel, by decide +kernel⟩, lw_t6 (List.mem_of_getElem? (i := 86) rfl), lw_t8 (List.mem_of_getElem? (i := 56) rfl), lw_t8 (List.mem_of_getElem? (i := 57) rfl)⟩
theorem lw_p94 : lw_okq (⟨"DictProofModel", "laySlot", "(I)V"⟩, 63) := ⟨⟨by decide +kernel, by decide +kernel⟩, lw_t6 (List.mem_of_getElem? (i := 86) rfl), lw_t8 (List.mem_of_getElem? (i := 60) rfl), lw_t8 (List.mem_of_getElem? (i := 61) rfl)⟩
theorem lw_p95 : lw_okq (⟨"DictProofModel", "goalNow", "(II)I"⟩, 63) := ⟨⟨by decide +kernel, by decide +kernel⟩, lw_t6 (List.mem_of_getElem? (i := 86) rfl), lw_t8 (List.mem_of_getElem? (i := 68) rfl), lw_t8 (List.mem_of_getElem? (i := 69) rfl)⟩
def lw_privs_6 : List (MethodName × Nat) := [(⟨"DictProofModel", "isGiven", "(II)Z"⟩, 63), (⟨"DictProofModel", "pairNow", "(III)Z"⟩, 63), (⟨"DictProofModel", "overlap", "(II)Z"⟩, 63), (⟨"DictProofModel", "areOne", "(II)Z"⟩, 63), (⟨"DictProofModel", "addPair", "(II)V"⟩, 63), (⟨"DictProofModel", "standsFor", "(I)I"⟩, 63), (⟨"DictProofModel", "letterOf", "(I)I"⟩, 63), (⟨"DictProofModel", "variableOf", "(I)I"⟩, 63), (⟨"DictProofModel", "joins", "(II)Z"⟩, 63), (⟨"DictProofModel", "occurs", "(II)Z"⟩, 63), (⟨"DictProofModel", "behind", "(I)I"⟩, 63), (⟨"DictProofModel", "clash", "(II)Z"⟩, 63), (⟨"DictProofModel", "isSpecial", "(II)Z"⟩, 63), (⟨"DictProofModel", "isFilled", "(I)Z"⟩, 63), (⟨"DictProofModel", "laySlot", "(I)V"⟩, 63), (⟨"DictProofModel", "goalNow", "(II)I"⟩, 63)]
theorem lw_r6 : ∀ q ∈ lw_privs_6, lw_okq q := List.forall_mem_cons.mpr ⟨lw_p80, List.forall_mem_cons.mpr ⟨lw_p81, List.forall_mem_cons.mpr ⟨lw_p82, List.forall_mem_cons.mpr ⟨lw_p83, List.forall_mem_cons.mpr ⟨lw_p84, List.forall_mem_cons.mpr ⟨lw_p85, List.forall_mem_cons.mpr ⟨lw_p86, List.forall_mem_cons.mpr ⟨lw_p87, List.forall_mem_cons.mpr ⟨lw_p88, List.forall_mem_cons.mpr ⟨lw_p89, List.forall_mem_cons.mpr ⟨lw_p90, List.forall_mem_cons.mpr ⟨lw_p91, List.forall_mem_cons.mpr ⟨lw_p92, List.forall_mem_cons.mpr ⟨lw_p93, List.forall_mem_cons.mpr ⟨lw_p94, List.forall_mem_cons.mpr ⟨lw_p95, fun _ h => absurd h List.not_mem_nil⟩⟩⟩⟩⟩⟩⟩⟩⟩⟩⟩⟩⟩⟩⟩⟩
theorem lw_p96 : lw_okq (⟨"DictProofModel", "differentGoals", "(I)I"⟩, 63) := ⟨⟨by decide +kernel, by decide +kernel⟩, lw_t6 (List.mem_of_getElem? (i := 86) rfl), lw_t8 (List.mem_of_getElem? (i := 72) rfl), lw_t8 (List.mem_of_getElem? (i := 73) rfl)⟩
theorem lw_p97 : lw_okq (⟨"DictProofModel", "isNew", "(II)Z"⟩, 63) := ⟨⟨by decide +kernel, by decide +kernel⟩, lw_t6 (List.mem_of_getElem? (i := 86) rfl), lw_t8 (List.mem_of_getElem? (i := 76) rfl), lw_t8 (List.mem_of_getElem? (i := 77) rfl)⟩
theorem lw_p98 : lw_okq (⟨"DictProofModel", "mark", "(I)V"⟩, 63) := ⟨⟨by decide +kernel, by decide +kernel⟩, lw_t6 (List.mem_of_getElem? (i := 86) rfl), lw_t8 (List.mem_of_getElem? (i := 80) rfl), lw_t8 (List.mem_of_getElem? (i := 81) rfl)⟩
theorem lw_p99 : lw_okq (⟨"DictProofModel", "plainOf", "(I)I"⟩, 63) := ⟨⟨by decide +kernel, by decide +kernel⟩, lw_t6 (List.mem_of_getElem? (i := 86) rfl), lw_t8 (List.mem_of_getElem? (i := 84) rfl), lw_t8 (List.mem_of_getElem? (i := 85) rfl)⟩
theorem lw_p100 : lw_okq (⟨"DictProofModel", "entryAt", "(II)I"⟩, 63) := ⟨⟨by decide +kernel, by decide +kernel⟩, lw_t6 (List.mem_of_getElem? (i := 86) rfl), lw_t8 (List.mem_of_getElem? (i := 92) rfl), lw_t8 (List.mem_of_getElem? (i := 93) rfl)⟩
theorem lw_p101 : lw_okq (⟨"DictProofModel", "drawnNow", "(III)I"⟩, 63) := ⟨⟨by decide +kernel, by decide +kernel⟩, lw_t6 (List.mem_of_getElem? (i := 86) rfl), lw_t8 (List.mem_of_getElem? (i := 112) rfl), lw_t8 (List.mem_of_getElem? (i := 113) rfl)⟩
theorem lw_p102 : lw_okq (⟨"DictProofModel", "draw", "(I)I"⟩, 63) := ⟨⟨by decide +kernel, by decide +kernel⟩, lw_t6 (List.mem_of_getElem? (i := 86) rfl), lw_t8 (List.mem_of_getElem? (i := 116) rfl), lw_t8 (List.mem_of_getElem? (i := 117) rfl)⟩
theorem lw_p103 : lw_okq (⟨"DictProofModel", "drawType", "()V"⟩, 63) := ⟨⟨by decide +kernel, by decide +kernel⟩, lw_t6 (List.mem_of_getElem? (i := 86) rfl), lw_t8 (List.mem_of_getElem? (i := 124) rfl), lw_t8 (List.mem_of_getElem? (i := 125) rfl)⟩
theorem lw_p104 : lw_okq (⟨"DictProofModel", "addLetter", "(I)V"⟩, 63) := ⟨⟨by decide +kernel, by decide +kernel⟩, lw_t6 (List.mem_of_getElem? (i := 86) rfl), lw_t8 (List.mem_of_getElem? (i := 131) rfl), lw_t8 (List.mem_of_getElem? (i := 132) rfl)⟩
theorem lw_p105 : lw_okq (⟨"DictProofModel", "filled", "()I"⟩, 63) := ⟨⟨by decide +kernel, by decide +kernel⟩, lw_t6 (List.mem_of_getElem? (i := 86) rfl), lw_t8 (List.mem_of_getElem? (i := 139) rfl), lw_t8 (List.mem_of_getElem? (i := 140) rfl)⟩
theorem lw_p106 : lw_okq (⟨"DictProofModel", "howMany", "(I)I"⟩, 63) := ⟨⟨by decide +kernel, by decide +kernel⟩, lw_t6 (List.mem_of_getElem? (i := 86) rfl), lw_t8 (List.mem_of_getElem? (i := 151) rfl), lw_t8 (List.mem_of_getElem? (i := 152) rfl)⟩
theorem lw_p107 : lw_okq (⟨"DictProofModel", "unsound", "()I"⟩, 63) := ⟨⟨by decide +kernel, by decide +kernel⟩, lw_t6 (List.mem_of_getElem? (i := 86) rfl), lw_t8 (List.mem_of_getElem? (i := 155) rfl), lw_t8 (List.mem_of_getElem? (i := 156) rfl)⟩
theorem lw_p108 : lw_okq (⟨"DictProofModel", "pairsOf", "(I)I"⟩, 63) := ⟨⟨by decide +kernel, by decide +kernel⟩, lw_t6 (List.mem_of_getElem? (i := 86) rfl), lw_t8 (List.mem_of_getElem? (i := 159) rfl), lw_t8 (List.mem_of_getElem? (i := 160) rfl)⟩
theorem lw_p109 : lw_okq (⟨"DictProofModel", "lacksOfAll", "()I"⟩, 63) := ⟨⟨by decide +kernel, by decide +kernel⟩, lw_t6 (List.mem_of_getElem? (i := 86) rfl), lw_t8 (List.mem_of_getElem? (i := 163) rfl), lw_t8 (List.mem_of_getElem? (i := 164) rfl)⟩
theorem lw_p110 : lw_okq (⟨"DictProofModel", "differentTypes", "()I"⟩, 63) := ⟨⟨by decide +kernel, by decide +kernel⟩, lw_t6 (List.mem_of_getElem? (i := 86) rfl), lw_t8 (List.mem_of_getElem? (i := 167) rfl), lw_t8 (List.mem_of_getElem? (i := 168) rfl)⟩
theorem lw_p111 : lw_okq (⟨"DictProofModel", "isSlotLike", "(II)Z"⟩, 63) := ⟨⟨by decide +kernel, by decide +kernel⟩, lw_t6 (List.mem_of_getElem? (i := 86) rfl), lw_t8 (List.mem_of_getElem? (i := 171) rfl), lw_t8 (List.mem_of_getElem? (i := 172) rfl)⟩
def lw_privs_7 : List (MethodName × Nat) := [(⟨"DictProofModel", "differentGoals", "(I)I"⟩, 63), (⟨"DictProofModel", "isNew", "(II)Z"⟩, 63), (⟨"DictProofModel", "mark", "(I)V"⟩, 63), (⟨"DictProofModel", "plainOf", "(I)I"⟩, 63), (⟨"DictProofModel", "entryAt", "(II)I"⟩, 63), (⟨"DictProofModel", "drawnNow", "(III)I"⟩, 63), (⟨"DictProofModel", "draw", "(I)I"⟩, 63), (⟨"DictProofModel", "drawType", "()V"⟩, 63), (⟨"DictProofModel", "addLetter", "(I)V"⟩, 63), (⟨"DictProofModel", "filled", "()I"⟩, 63), (⟨"DictProofModel", "howMany", "(I)I"⟩, 63), (⟨"DictProofModel", "unsound", "()I"⟩, 63), (⟨"DictProofModel", "pairsOf", "(I)I"⟩, 63), (⟨"DictProofModel", "lacksOfAll", "()I"⟩, 63), (⟨"DictProofModel", "differentTypes", "()I"⟩, 63), (⟨"DictProofModel", "isSlotLike", "(II)Z"⟩, 63)]
theorem lw_r7 : ∀ q ∈ lw_privs_7, lw_okq q := List.forall_mem_cons.mpr ⟨lw_p96, List.forall_mem_cons.mpr ⟨lw_p97, List.forall_mem_cons.mpr ⟨lw_p98, List.forall_mem_cons.mpr ⟨lw_p99, List.forall_mem_cons.mpr ⟨lw_p100, List.forall_mem_cons.mpr ⟨lw_p101, List.forall_mem_cons.mpr ⟨lw_p102, List.forall_mem_cons.mpr ⟨lw_p103, List.forall_mem_cons.mpr ⟨lw_p104, List.forall_mem_cons.mpr ⟨lw_p105, List.forall_mem_cons.mpr ⟨lw_p106, List.forall_mem_cons.mpr ⟨lw_p107, List.forall_mem_cons.mpr ⟨lw_p108, List.forall_mem_cons.mpr ⟨lw_p109, List.forall_mem_cons.mpr ⟨lw_p110, List.forall_mem_cons.mpr ⟨lw_p111, fun _ h => absurd h List.not_mem_nil⟩⟩⟩⟩⟩⟩⟩⟩⟩⟩⟩⟩⟩⟩⟩⟩
theorem lw_p112 : lw_okq (⟨"DictProofModel", "mix", "(J)V"⟩, 63) := ⟨⟨by decide +kernel, by decide +kernel⟩, lw_t6 (List.mem_of_getElem? (i := 86) rfl), lw_t8 (List.mem_of_getElem? (i := 180) rfl), lw_t8 (List.mem_of_getElem? (i := 181) rfl)⟩
theorem lw_p113 : lw_okq (⟨"DictProofModel", "mixSlot", "(I)V"⟩, 63) := ⟨⟨by decide +kernel, by decide +kernel⟩, lw_t6 (List.mem_of_getElem? (i := 86) rfl), lw_t8 (List.mem_of_getElem? (i := 185) rfl), lw_t8 (List.mem_of_getElem? (i := 186) rfl)⟩
def lw_privs_8 : List (MethodName × Nat) := [(⟨"DictProofModel", "mix", "(J)V"⟩, 63), (⟨"DictProofModel", "mixSlot", "(I)V"⟩, 63)]
theorem lw_r8 : ∀ q ∈ lw_privs_8, lw_okq q := List.forall_mem_cons.mpr ⟨lw_p112, List.forall_mem_cons.mpr ⟨lw_p113, fun _ h => absurd h List.not_mem_nil⟩⟩
def lw_privs : List (MethodName × Nat) := lw_privs_1 ++ (lw_privs_2 ++ (lw_privs_3 ++ (lw_privs_4 ++ (lw_privs_5 ++ (lw_privs_6 ++ (lw_privs_7 ++ (lw_privs_8)))))))
def lw_tbl : List Cond := k2_sels lw_privs ++ tables_1
theorem lw_privs_ok : ∀ q ∈ lw_privs, lw_okq q := by
  show ∀ q ∈ lw_privs_1 ++ (lw_privs_2 ++ (lw_privs_3 ++ (lw_privs_4 ++ (lw_privs_5 ++ (lw_privs_6 ++ (lw_privs_7 ++ (lw_privs_8))))))), lw_okq q
  exact List.forall_mem_append.mpr ⟨lw_r1, List.forall_mem_append.mpr ⟨lw_r2, List.forall_mem_append.mpr ⟨lw_r3, List.forall_mem_append.mpr ⟨lw_r4, List.forall_mem_append.mpr ⟨lw_r5, List.forall_mem_append.mpr ⟨lw_r6, List.forall_mem_append.mpr ⟨lw_r7, lw_r8⟩⟩⟩⟩⟩⟩⟩
-- ===== ONE list of words for every method: the tables' words that hold all through a run =====
def lw_all : List Cond := lw_tbl.filter goodWord
/-- a word of the tables by its place: claim/WORDS.tsv -/
theorem lw_w {w : Cond} (i : Nat) (h : lw_tbl[i]? = some w) (g : goodWord w = true) : w ∈ lw_all := List.mem_filter.mpr ⟨List.mem_of_getElem? h, g⟩
theorem lw_all_tbl {w : Cond} (h : w ∈ lw_all) : w ∈ lw_tbl := (List.mem_filter.mp h).1
theorem lw_self : GoodIn lw_all lw_all := fun w h => ⟨h, good_of_word (List.mem_filter.mp h).2⟩
/-- a class's field words, by their places -/
theorem lw_in (ws : List Cond) (ps : List Nat) (hp : ws = ps.filterMap (fun i => lw_tbl[i]?)) (hg : ws.all goodWord = true) : ∀ w ∈ ws, w ∈ lw_all := by
  intro w h
  have h1 := List.all_eq_true.mp hg w h
  rw [hp] at h
  obtain ⟨i, -, hi⟩ := List.mem_filterMap.mp h
  exact lw_w i hi h1
/-- the words of a contract for the method y with code b, L locals, answer r -/
abbrev ws_ (y : MethodName) (b : ByteArray) (L : Nat) (r : Option FieldType) : List Cond := Cond.code y b L r :: lw_all
theorem lw_meth {y : MethodName} {b : ByteArray} {L : Nat} {r : Option FieldType} (h : Cond.code y b L r ∈ lw_all) : GoodIn lw_all (ws_ y b L r) := by
  intro w hw
  rcases List.mem_cons.mp hw with e | e
  · rw [e]
    exact lw_self _ h
  · exact lw_self _ e
theorem lw_app {a c : List Cond} (ha : ∀ w ∈ a, w ∈ lw_all) (hc : GoodIn lw_all c) : GoodIn lw_all (a ++ c) := by
  intro w hw
  rcases List.mem_append.mp hw with e | e
  · exact lw_self w (ha w e)
  · exact hc w e
/-- what a call through an object asks: cwV n hts (lw_V ..) -/
theorem lw_V {own : String} {idx : Nat} {C : String} {y : MethodName} {b : ByteArray} {L : Nat} {r : Option FieldType} (h1 : Cond.methodLink own idx y ∈ lw_all) (h2 : Cond.instanceMethod y ∈ lw_all) (h3 : Cond.selects C y y ∈ lw_all) (h4 : Cond.initialized C ∈ lw_all) (h5 : Cond.code y b L r ∈ lw_all) : GoodIn lw_all (wsV own idx C y (ws_ y b L r)) := by
  refine lw_app ?_ (lw_meth h5)
  intro w hw
  simp only [List.mem_cons, List.not_mem_nil, or_false] at hw
  rcases hw with e | e | e | e
  · rw [e]; exact h1
  · rw [e]; exact h2
  · rw [e]; exact h3
  · rw [e]; exact h4
/-- what a static call asks: va_cwS n hts (lw_S ..) -/
theorem lw_S {own : String} {idx : Nat} {y : MethodName} {b : ByteArray} {L : Nat} {r : Option FieldType} (h1 : Cond.methodLink own idx y ∈ lw_all) (h2 : Cond.static y ∈ lw_all) (h3 : Cond.initialized y.cls ∈ lw_all) (h4 : Cond.code y b L r ∈ lw_all) : GoodIn lw_all (va_wsS own idx y (ws_ y b L r)) := by
  refine lw_app ?_ (lw_meth h4)
  intro w hw
  simp only [List.mem_cons, List.not_mem_nil, or_false] at hw
  rcases hw with e | e | e
  · rw [e]; exact h1
  · rw [e]; exact h2
  · rw [e]; exact h3
/-- the words of a contract for a method WITH HANDLERS (hh: its table) -/
abbrev wsW_ (y : MethodName) (b : ByteArray) (L : Nat) (r : Option FieldType) (hh : List (Nat × Nat × Nat × Nat)) : List Cond := Cond.codeWith y b L r hh :: lw_all
theorem lw_methW {y : MethodName} {b : ByteArray} {L : Nat} {r : Option FieldType} {hh : List (Nat × Nat × Nat × Nat)} (h : Cond.codeWith y b L r hh ∈ lw_all) : GoodIn lw_all (wsW_ y b L r hh) := by
  intro w hw
  rcases List.mem_cons.mp hw with e | e
  · rw [e]
    exact lw_self _ h
  · exact lw_self _ e
/-- any list of words by their places (lw_in), good -/
theorem lw_good {ws : List Cond} (h : ∀ w ∈ ws, w ∈ lw_all) : GoodIn lw_all ws := fun w hw => lw_self w (h w hw)
/-- what a call of a method with handlers asks: vx_cwVW n hts (lw_VW ..), vx_cwSW n hts (lw_SW ..) -/
theorem lw_VW {own : String} {idx : Nat} {C : String} {y : MethodName} {b : ByteArray} {L : Nat} {r : Option FieldType} {hh : List (Nat × Nat × Nat × Nat)} (h1 : Cond.methodLink own idx y ∈ lw_all) (h2 : Cond.instanceMethod y ∈ lw_all) (h3 : Cond.selects C y y ∈ lw_all) (h4 : Cond.initialized C ∈ lw_all) (h5 : Cond.codeWith y b L r hh ∈ lw_all) : GoodIn lw_all (wsV own idx C y (wsW_ y b L r hh)) := by
  refine lw_app ?_ (lw_methW h5)
  intro w hw
  simp only [List.mem_cons, List.not_mem_nil, or_false] at hw
  rcases hw with e | e | e | e
  · rw [e]; exact h1
  · rw [e]; exact h2
  · rw [e]; exact h3
  · rw [e]; exact h4
theorem lw_SW {own : String} {idx : Nat} {y : MethodName} {b : ByteArray} {L : Nat} {r : Option FieldType} {hh : List (Nat × Nat × Nat × Nat)} (h1 : Cond.methodLink own idx y ∈ lw_all) (h2 : Cond.static y ∈ lw_all) (h3 : Cond.initialized y.cls ∈ lw_all) (h4 : Cond.codeWith y b L r hh ∈ lw_all) : GoodIn lw_all (va_wsS own idx y (wsW_ y b L r hh)) := by
  refine lw_app ?_ (lw_methW h4)
  intro w hw
  simp only [List.mem_cons, List.not_mem_nil, or_false] at hw
  rcases hw with e | e | e
  · rw [e]; exact h1
  · rw [e]; exact h2
  · rw [e]; exact h3
/-- a word by its place in its run of the tables -/
theorem lw_at {r : List Cond} (hr : ∀ w ∈ r, w ∈ lw_tbl) {w : Cond} (i : Nat) (h : r[i]? = some w) : w ∈ lw_tbl := hr w (List.mem_of_getElem? h)
theorem lw_g {w : Cond} (h : w ∈ lw_tbl) (g : goodWord w = true) : w ∈ lw_all := List.mem_filter.mpr ⟨h, g⟩
theorem lw_ms : ∀ w ∈ k2_sels lw_privs, w ∈ lw_tbl := fun w h => show w ∈ k2_sels lw_privs ++ tables_1 from List.mem_append_left _ h
theorem lw_m1 : ∀ w ∈ tables_1_1, w ∈ lw_tbl := fun w h => show w ∈ k2_sels lw_privs ++ tables_1 from List.mem_append_right (k2_sels lw_privs) (show w ∈ tables_1 from List.mem_append_left _ h)
theorem lw_m2 : ∀ w ∈ tables_1_2, w ∈ lw_tbl := fun w h => show w ∈ k2_sels lw_privs ++ tables_1 from List.mem_append_right (k2_sels lw_privs) (show w ∈ tables_1 from List.mem_append_right _ (List.mem_append_left _ h))
theorem lw_m3 : ∀ w ∈ tables_1_3, w ∈ lw_tbl := fun w h => show w ∈ k2_sels lw_privs ++ tables_1 from List.mem_append_right (k2_sels lw_privs) (show w ∈ tables_1 from List.mem_append_right _ (List.mem_append_right _ (List.mem_append_left _ h)))
theorem lw_m4 : ∀ w ∈ tables_1_4, w ∈ lw_tbl := fun w h => show w ∈ k2_sels lw_privs ++ tables_1 from List.mem_append_right (k2_sels lw_privs) (show w ∈ tables_1 from List.mem_append_right _ (List.mem_append_right _ (List.mem_append_right _ (List.mem_append_left _ h))))
theorem lw_m5 : ∀ w ∈ tables_1_5, w ∈ lw_tbl := fun w h => show w ∈ k2_sels lw_privs ++ tables_1 from List.mem_append_right (k2_sels lw_privs) (show w ∈ tables_1 from List.mem_append_right _ (List.mem_append_right _ (List.mem_append_right _ (List.mem_append_right _ (List.mem_append_left _ h)))))
theorem lw_m6 : ∀ w ∈ tables_1_6, w ∈ lw_tbl := fun w h => show w ∈ k2_sels lw_privs ++ tables_1 from List.mem_append_right (k2_sels lw_privs) (show w ∈ tables_1 from List.mem_append_right _ (List.mem_append_right _ (List.mem_append_right _ (List.mem_append_right _ (List.mem_append_right _ (List.mem_append_left _ h))))))
theorem lw_m7 : ∀ w ∈ tables_1_7, w ∈ lw_tbl := fun w h => show w ∈ k2_sels lw_privs ++ tables_1 from List.mem_append_right (k2_sels lw_privs) (show w ∈ tables_1 from List.mem_append_right _ (List.mem_append_right _ (List.mem_append_right _ (List.mem_append_right _ (List.mem_append_right _ (List.mem_append_right _ (List.mem_append_left _ h)))))))
theorem lw_m8 : ∀ w ∈ tables_1_8, w ∈ lw_tbl := fun w h => show w ∈ k2_sels lw_privs ++ tables_1 from List.mem_append_right (k2_sels lw_privs) (show w ∈ tables_1 from List.mem_append_right _ (List.mem_append_right _ (List.mem_append_right _ (List.mem_append_right _ (List.mem_append_right _ (List.mem_append_right _ (List.mem_append_right _ h)))))))
theorem qs0 : (Cond.selects "DictProof" ⟨"DictProof", "isClassSign", "(II)Z"⟩ ⟨"DictProof", "isClassSign", "(II)Z"⟩) ∈ lw_all := lw_g (lw_at lw_ms 0 rfl) rfl
theorem qs1 : (Cond.selects "DictProof" ⟨"DictProof", "isInstanceSign", "(II)Z"⟩ ⟨"DictProof", "isInstanceSign", "(II)Z"⟩) ∈ lw_all := lw_g (lw_at lw_ms 1 rfl) rfl
theorem qs2 : (Cond.selects "DictProof" ⟨"DictProof", "isBegun", "(II)Z"⟩ ⟨"DictProof", "isBegun", "(II)Z"⟩) ∈ lw_all := lw_g (lw_at lw_ms 2 rfl) rfl
theorem qs3 : (Cond.selects "DictProof" ⟨"DictProof", "isHeadSign", "(I)Z"⟩ ⟨"DictProof", "isHeadSign", "(I)Z"⟩) ∈ lw_all := lw_g (lw_at lw_ms 3 rfl) rfl
theorem qs4 : (Cond.selects "DictProof" ⟨"DictProof", "isConditionSign", "(I)Z"⟩ ⟨"DictProof", "isConditionSign", "(I)Z"⟩) ∈ lw_all := lw_g (lw_at lw_ms 4 rfl) rfl
theorem qs5 : (Cond.selects "DictProof" ⟨"DictProof", "layClasses", "()V"⟩ ⟨"DictProof", "layClasses", "()V"⟩) ∈ lw_all := lw_g (lw_at lw_ms 5 rfl) rfl
theorem qs6 : (Cond.selects "DictProof" ⟨"DictProof", "layInstance", "(II)V"⟩ ⟨"DictProof", "layInstance", "(II)V"⟩) ∈ lw_all := lw_g (lw_at lw_ms 6 rfl) rfl
theorem qs7 : (Cond.selects "DictProof" ⟨"DictProof", "read", "()LDictProof$Term;"⟩ ⟨"DictProof", "read", "()LDictProof$Term;"⟩) ∈ lw_all := lw_g (lw_at lw_ms 7 rfl) rfl
theorem qs8 : (Cond.selects "DictProof" ⟨"DictProof", "layPairs", "()V"⟩ ⟨"DictProof", "layPairs", "()V"⟩) ∈ lw_all := lw_g (lw_at lw_ms 8 rfl) rfl
theorem qs9 : (Cond.selects "DictProof" ⟨"DictProof", "typed", "()I"⟩ ⟨"DictProof", "typed", "()I"⟩) ∈ lw_all := lw_g (lw_at lw_ms 9 rfl) rfl
theorem qs10 : (Cond.selects "DictProof" ⟨"DictProof", "isClass", "(I)Z"⟩ ⟨"DictProof", "isClass", "(I)Z"⟩) ∈ lw_all := lw_g (lw_at lw_ms 10 rfl) rfl
theorem qs11 : (Cond.selects "DictProof" ⟨"DictProof", "isSlot", "(I)Z"⟩ ⟨"DictProof", "isSlot", "(I)Z"⟩) ∈ lw_all := lw_g (lw_at lw_ms 11 rfl) rfl
theorem qs12 : (Cond.selects "DictProof" ⟨"DictProof", "tellGoal", "(III)I"⟩ ⟨"DictProof", "tellGoal", "(III)I"⟩) ∈ lw_all := lw_g (lw_at lw_ms 12 rfl) rfl
theorem qs13 : (Cond.selects "DictProof" ⟨"DictProof", "prove", "(LDictProof$Goal;)LDictProof$Proof;"⟩ ⟨"DictProof", "prove", "(LDictProof$Goal;)LDictProof$Proof;"⟩) ∈ lw_all := lw_g (lw_at lw_ms 13 rfl) rfl
theorem qs14 : (Cond.selects "DictProof" ⟨"DictProof", "proved", "(LDictProof$Goal;)LDictProof$Proof;"⟩ ⟨"DictProof", "proved", "(LDictProof$Goal;)LDictProof$Proof;"⟩) ∈ lw_all := lw_g (lw_at lw_ms 14 rfl) rfl
theorem qs15 : (Cond.selects "DictProof" ⟨"DictProof", "isMeant", "(LDictProof$Instance;LDictProof$Goal;)Z"⟩ ⟨"DictProof", "isMeant", "(LDictProof$Instance;LDictProof$Goal;)Z"⟩) ∈ lw_all := lw_g (lw_at lw_ms 15 rfl) rfl
theorem qs16 : (Cond.selects "DictProof" ⟨"DictProof", "isAnyAlone", "(I)Z"⟩ ⟨"DictProof", "isAnyAlone", "(I)Z"⟩) ∈ lw_all := lw_g (lw_at lw_ms 16 rfl) rfl
theorem qs17 : (Cond.selects "DictProof" ⟨"DictProof", "taken", "(I)LDictProof$Instance;"⟩ ⟨"DictProof", "taken", "(I)LDictProof$Instance;"⟩) ∈ lw_all := lw_g (lw_at lw_ms 17 rfl) rfl
theorem qs18 : (Cond.selects "DictProof" ⟨"DictProof", "isBefore", "(LDictProof$Instance;LDictProof$Instance;)Z"⟩ ⟨"DictProof", "isBefore", "(LDictProof$Instance;LDictProof$Instance;)Z"⟩) ∈ lw_all := lw_g (lw_at lw_ms 18 rfl) rfl
theorem qs19 : (Cond.selects "DictProof" ⟨"DictProof", "isSpecial", "(LDictProof$Instance;LDictProof$Instance;)Z"⟩ ⟨"DictProof", "isSpecial", "(LDictProof$Instance;LDictProof$Instance;)Z"⟩) ∈ lw_all := lw_g (lw_at lw_ms 19 rfl) rfl
theorem qs20 : (Cond.selects "DictProof" ⟨"DictProof", "tellFound", "(LDictProof$Proof;I)I"⟩ ⟨"DictProof", "tellFound", "(LDictProof$Proof;I)I"⟩) ∈ lw_all := lw_g (lw_at lw_ms 20 rfl) rfl
theorem qs21 : (Cond.selects "DictProof" ⟨"DictProof", "plainOf", "(I)I"⟩ ⟨"DictProof", "plainOf", "(I)I"⟩) ∈ lw_all := lw_g (lw_at lw_ms 21 rfl) rfl
theorem qs22 : (Cond.selects "DictProof" ⟨"DictProof", "tellNeed", "(LDictProof$Proof;I)I"⟩ ⟨"DictProof", "tellNeed", "(LDictProof$Proof;I)I"⟩) ∈ lw_all := lw_g (lw_at lw_ms 22 rfl) rfl
theorem qs23 : (Cond.selects "DictProof" ⟨"DictProof", "instancesOf", "(I)I"⟩ ⟨"DictProof", "instancesOf", "(I)I"⟩) ∈ lw_all := lw_g (lw_at lw_ms 23 rfl) rfl
theorem qs24 : (Cond.selects "DictProof" ⟨"DictProof", "isInstance", "(I)Z"⟩ ⟨"DictProof", "isInstance", "(I)Z"⟩) ∈ lw_all := lw_g (lw_at lw_ms 24 rfl) rfl
theorem qs25 : (Cond.selects "DictProof" ⟨"DictProof", "tellInstance", "(LDictProof$Instance;I)I"⟩ ⟨"DictProof", "tellInstance", "(LDictProof$Instance;I)I"⟩) ∈ lw_all := lw_g (lw_at lw_ms 25 rfl) rfl
theorem qs26 : (Cond.selects "DictProof" ⟨"DictProof", "sortsOf", "(I)I"⟩ ⟨"DictProof", "sortsOf", "(I)I"⟩) ∈ lw_all := lw_g (lw_at lw_ms 26 rfl) rfl
theorem qs27 : (Cond.selects "DictProof" ⟨"DictProof", "sortsBy", "(I)I"⟩ ⟨"DictProof", "sortsBy", "(I)I"⟩) ∈ lw_all := lw_g (lw_at lw_ms 27 rfl) rfl
theorem qs28 : (Cond.selects "DictProof" ⟨"DictProof", "isSo", "(LDictProof$Instance;I)Z"⟩ ⟨"DictProof", "isSo", "(LDictProof$Instance;I)Z"⟩) ∈ lw_all := lw_g (lw_at lw_ms 28 rfl) rfl
theorem qs29 : (Cond.selects "DictProof" ⟨"DictProof", "toAsk", "(I)I"⟩ ⟨"DictProof", "toAsk", "(I)I"⟩) ∈ lw_all := lw_g (lw_at lw_ms 29 rfl) rfl
theorem qs30 : (Cond.selects "DictProof" ⟨"DictProof", "lackedBy", "(LDictProof$Instance;)I"⟩ ⟨"DictProof", "lackedBy", "(LDictProof$Instance;)I"⟩) ∈ lw_all := lw_g (lw_at lw_ms 30 rfl) rfl
theorem qs31 : (Cond.selects "DictProof" ⟨"DictProof", "givenBy", "(LDictProof$Instance;)I"⟩ ⟨"DictProof", "givenBy", "(LDictProof$Instance;)I"⟩) ∈ lw_all := lw_g (lw_at lw_ms 31 rfl) rfl
theorem qs32 : (Cond.selects "java/lang/Throwable" ⟨"java/lang/Throwable", "fillInStackTrace", "(I)Ljava/lang/Throwable;"⟩ ⟨"java/lang/Throwable", "fillInStackTrace", "(I)Ljava/lang/Throwable;"⟩) ∈ lw_all := lw_g (lw_at lw_ms 32 rfl) rfl
theorem qs33 : (Cond.selects "DictProof" ⟨"DictProof", "be", "(II)V"⟩ ⟨"DictProof", "be", "(II)V"⟩) ∈ lw_all := lw_g (lw_at lw_ms 33 rfl) rfl
theorem qs34 : (Cond.selects "DictProof" ⟨"DictProof", "tellPair", "(LDictProof$Instance;LDictProof$Instance;I)I"⟩ ⟨"DictProof", "tellPair", "(LDictProof$Instance;LDictProof$Instance;I)I"⟩) ∈ lw_all := lw_g (lw_at lw_ms 34 rfl) rfl
theorem qs35 : (Cond.selects "DictProof" ⟨"DictProof", "isOverlap", "(LDictProof$Instance;LDictProof$Instance;)Z"⟩ ⟨"DictProof", "isOverlap", "(LDictProof$Instance;LDictProof$Instance;)Z"⟩) ∈ lw_all := lw_g (lw_at lw_ms 35 rfl) rfl
theorem qs36 : (Cond.selects "DictProof" ⟨"DictProof", "isClash", "(LDictProof$Instance;LDictProof$Instance;)Z"⟩ ⟨"DictProof", "isClash", "(LDictProof$Instance;LDictProof$Instance;)Z"⟩) ∈ lw_all := lw_g (lw_at lw_ms 36 rfl) rfl
theorem qs37 : (Cond.selects "DictProof" ⟨"DictProof", "drawnBy", "(III)I"⟩ ⟨"DictProof", "drawnBy", "(III)I"⟩) ∈ lw_all := lw_g (lw_at lw_ms 37 rfl) rfl
theorem qs38 : (Cond.selects "DictProof" ⟨"DictProof", "draw", "(I)I"⟩ ⟨"DictProof", "draw", "(I)I"⟩) ∈ lw_all := lw_g (lw_at lw_ms 38 rfl) rfl
theorem qs39 : (Cond.selects "DictProof" ⟨"DictProof", "drawType", "(I)LDictProof$Term;"⟩ ⟨"DictProof", "drawType", "(I)LDictProof$Term;"⟩) ∈ lw_all := lw_g (lw_at lw_ms 39 rfl) rfl
theorem qs40 : (Cond.selects "DictProof" ⟨"DictProof", "slotsUsed", "()I"⟩ ⟨"DictProof", "slotsUsed", "()I"⟩) ∈ lw_all := lw_g (lw_at lw_ms 40 rfl) rfl
theorem qs41 : (Cond.selects "DictProof" ⟨"DictProof", "unsound", "()I"⟩ ⟨"DictProof", "unsound", "()I"⟩) ∈ lw_all := lw_g (lw_at lw_ms 41 rfl) rfl
theorem qs42 : (Cond.selects "DictProof" ⟨"DictProof", "pairsBy", "(I)I"⟩ ⟨"DictProof", "pairsBy", "(I)I"⟩) ∈ lw_all := lw_g (lw_at lw_ms 42 rfl) rfl
theorem qs43 : (Cond.selects "DictProof" ⟨"DictProof", "lackedAll", "()I"⟩ ⟨"DictProof", "lackedAll", "()I"⟩) ∈ lw_all := lw_g (lw_at lw_ms 43 rfl) rfl
theorem qs44 : (Cond.selects "DictProof" ⟨"DictProof", "differentTypes", "()I"⟩ ⟨"DictProof", "differentTypes", "()I"⟩) ∈ lw_all := lw_g (lw_at lw_ms 44 rfl) rfl
theorem qs45 : (Cond.selects "DictProof" ⟨"DictProof", "note", "(J)V"⟩ ⟨"DictProof", "note", "(J)V"⟩) ∈ lw_all := lw_g (lw_at lw_ms 45 rfl) rfl
theorem qs46 : (Cond.selects "DictProofModel" ⟨"DictProofModel", "read", "()I"⟩ ⟨"DictProofModel", "read", "()I"⟩) ∈ lw_all := lw_g (lw_at lw_ms 46 rfl) rfl
theorem qs47 : (Cond.selects "DictProofModel" ⟨"DictProofModel", "readClasses", "()I"⟩ ⟨"DictProofModel", "readClasses", "()I"⟩) ∈ lw_all := lw_g (lw_at lw_ms 47 rfl) rfl
theorem qs48 : (Cond.selects "DictProofModel" ⟨"DictProofModel", "readClass", "(I)I"⟩ ⟨"DictProofModel", "readClass", "(I)I"⟩) ∈ lw_all := lw_g (lw_at lw_ms 48 rfl) rfl
theorem qs49 : (Cond.selects "DictProofModel" ⟨"DictProofModel", "at", "(I)I"⟩ ⟨"DictProofModel", "at", "(I)I"⟩) ∈ lw_all := lw_g (lw_at lw_ms 49 rfl) rfl
theorem qs50 : (Cond.selects "DictProofModel" ⟨"DictProofModel", "figure", "(I)I"⟩ ⟨"DictProofModel", "figure", "(I)I"⟩) ∈ lw_all := lw_g (lw_at lw_ms 50 rfl) rfl
theorem qs51 : (Cond.selects "DictProofModel" ⟨"DictProofModel", "broken", "(I)I"⟩ ⟨"DictProofModel", "broken", "(I)I"⟩) ∈ lw_all := lw_g (lw_at lw_ms 51 rfl) rfl
theorem qs52 : (Cond.selects "DictProofModel" ⟨"DictProofModel", "readInstance", "(I)I"⟩ ⟨"DictProofModel", "readInstance", "(I)I"⟩) ∈ lw_all := lw_g (lw_at lw_ms 52 rfl) rfl
theorem qs53 : (Cond.selects "DictProofModel" ⟨"DictProofModel", "readHead", "(II)I"⟩ ⟨"DictProofModel", "readHead", "(II)I"⟩) ∈ lw_all := lw_g (lw_at lw_ms 53 rfl) rfl
theorem qs54 : (Cond.selects "DictProofModel" ⟨"DictProofModel", "readConditions", "(II)I"⟩ ⟨"DictProofModel", "readConditions", "(II)I"⟩) ∈ lw_all := lw_g (lw_at lw_ms 54 rfl) rfl
theorem qs55 : (Cond.selects "DictProofModel" ⟨"DictProofModel", "isInHead", "(II)Z"⟩ ⟨"DictProofModel", "isInHead", "(II)Z"⟩) ∈ lw_all := lw_g (lw_at lw_ms 55 rfl) rfl
theorem qs56 : (Cond.selects "DictProofModel" ⟨"DictProofModel", "takeInstance", "(I)V"⟩ ⟨"DictProofModel", "takeInstance", "(I)V"⟩) ∈ lw_all := lw_g (lw_at lw_ms 56 rfl) rfl
theorem qs57 : (Cond.selects "DictProofModel" ⟨"DictProofModel", "laySpecial", "()V"⟩ ⟨"DictProofModel", "laySpecial", "()V"⟩) ∈ lw_all := lw_g (lw_at lw_ms 57 rfl) rfl
theorem qs58 : (Cond.selects "DictProofModel" ⟨"DictProofModel", "layHead", "(I)V"⟩ ⟨"DictProofModel", "layHead", "(I)V"⟩) ∈ lw_all := lw_g (lw_at lw_ms 58 rfl) rfl
theorem qs59 : (Cond.selects "DictProofModel" ⟨"DictProofModel", "laySizes", "()V"⟩ ⟨"DictProofModel", "laySizes", "()V"⟩) ∈ lw_all := lw_g (lw_at lw_ms 59 rfl) rfl
theorem qs60 : (Cond.selects "DictProofModel" ⟨"DictProofModel", "fitsAt", "(II)Z"⟩ ⟨"DictProofModel", "fitsAt", "(II)Z"⟩) ∈ lw_all := lw_g (lw_at lw_ms 60 rfl) rfl
theorem qs61 : (Cond.selects "DictProofModel" ⟨"DictProofModel", "isSameAt", "(II)Z"⟩ ⟨"DictProofModel", "isSameAt", "(II)Z"⟩) ∈ lw_all := lw_g (lw_at lw_ms 61 rfl) rfl
theorem qs62 : (Cond.selects "DictProofModel" ⟨"DictProofModel", "isClass", "(I)Z"⟩ ⟨"DictProofModel", "isClass", "(I)Z"⟩) ∈ lw_all := lw_g (lw_at lw_ms 62 rfl) rfl
theorem qs63 : (Cond.selects "DictProofModel" ⟨"DictProofModel", "aboutNow", "(II)I"⟩ ⟨"DictProofModel", "aboutNow", "(II)I"⟩) ∈ lw_all := lw_g (lw_at lw_ms 63 rfl) rfl
theorem qs64 : (Cond.selects "DictProofModel" ⟨"DictProofModel", "instancesOf", "(I)I"⟩ ⟨"DictProofModel", "instancesOf", "(I)I"⟩) ∈ lw_all := lw_g (lw_at lw_ms 64 rfl) rfl
theorem qs65 : (Cond.selects "DictProofModel" ⟨"DictProofModel", "isInstance", "(I)Z"⟩ ⟨"DictProofModel", "isInstance", "(I)Z"⟩) ∈ lw_all := lw_g (lw_at lw_ms 65 rfl) rfl
theorem qs66 : (Cond.selects "DictProofModel" ⟨"DictProofModel", "instanceNow", "(II)I"⟩ ⟨"DictProofModel", "instanceNow", "(II)I"⟩) ∈ lw_all := lw_g (lw_at lw_ms 66 rfl) rfl
theorem qs67 : (Cond.selects "DictProofModel" ⟨"DictProofModel", "isSound", "(I)Z"⟩ ⟨"DictProofModel", "isSound", "(I)Z"⟩) ∈ lw_all := lw_g (lw_at lw_ms 67 rfl) rfl
theorem qs68 : (Cond.selects "DictProofModel" ⟨"DictProofModel", "sortsOf", "(I)I"⟩ ⟨"DictProofModel", "sortsOf", "(I)I"⟩) ∈ lw_all := lw_g (lw_at lw_ms 68 rfl) rfl
theorem qs69 : (Cond.selects "DictProofModel" ⟨"DictProofModel", "askOf", "(I)I"⟩ ⟨"DictProofModel", "askOf", "(I)I"⟩) ∈ lw_all := lw_g (lw_at lw_ms 69 rfl) rfl
theorem qs70 : (Cond.selects "DictProofModel" ⟨"DictProofModel", "lacksOf", "(I)I"⟩ ⟨"DictProofModel", "lacksOf", "(I)I"⟩) ∈ lw_all := lw_g (lw_at lw_ms 70 rfl) rfl
theorem qs71 : (Cond.selects "DictProofModel" ⟨"DictProofModel", "layGoals", "()V"⟩ ⟨"DictProofModel", "layGoals", "()V"⟩) ∈ lw_all := lw_g (lw_at lw_ms 71 rfl) rfl
theorem qs72 : (Cond.selects "DictProofModel" ⟨"DictProofModel", "layNeed", "(II)V"⟩ ⟨"DictProofModel", "layNeed", "(II)V"⟩) ∈ lw_all := lw_g (lw_at lw_ms 72 rfl) rfl
theorem qs73 : (Cond.selects "DictProofModel" ⟨"DictProofModel", "layGoal", "(II)V"⟩ ⟨"DictProofModel", "layGoal", "(II)V"⟩) ∈ lw_all := lw_g (lw_at lw_ms 73 rfl) rfl
theorem qs74 : (Cond.selects "DictProofModel" ⟨"DictProofModel", "takes", "(II)I"⟩ ⟨"DictProofModel", "takes", "(II)I"⟩) ∈ lw_all := lw_g (lw_at lw_ms 74 rfl) rfl
theorem qs75 : (Cond.selects "DictProofModel" ⟨"DictProofModel", "meantFor", "(II)I"⟩ ⟨"DictProofModel", "meantFor", "(II)I"⟩) ∈ lw_all := lw_g (lw_at lw_ms 75 rfl) rfl
theorem qs76 : (Cond.selects "DictProofModel" ⟨"DictProofModel", "isOneSole", "(I)Z"⟩ ⟨"DictProofModel", "isOneSole", "(I)Z"⟩) ∈ lw_all := lw_g (lw_at lw_ms 76 rfl) rfl
theorem qs77 : (Cond.selects "DictProofModel" ⟨"DictProofModel", "ofRank", "(II)I"⟩ ⟨"DictProofModel", "ofRank", "(II)I"⟩) ∈ lw_all := lw_g (lw_at lw_ms 77 rfl) rfl
theorem qs78 : (Cond.selects "DictProofModel" ⟨"DictProofModel", "mostSpecial", "(I)I"⟩ ⟨"DictProofModel", "mostSpecial", "(I)I"⟩) ∈ lw_all := lw_g (lw_at lw_ms 78 rfl) rfl
theorem qs79 : (Cond.selects "DictProofModel" ⟨"DictProofModel", "addBelow", "(III)V"⟩ ⟨"DictProofModel", "addBelow", "(III)V"⟩) ∈ lw_all := lw_g (lw_at lw_ms 79 rfl) rfl
theorem qs80 : (Cond.selects "DictProofModel" ⟨"DictProofModel", "isGiven", "(II)Z"⟩ ⟨"DictProofModel", "isGiven", "(II)Z"⟩) ∈ lw_all := lw_g (lw_at lw_ms 80 rfl) rfl
theorem qs81 : (Cond.selects "DictProofModel" ⟨"DictProofModel", "pairNow", "(III)Z"⟩ ⟨"DictProofModel", "pairNow", "(III)Z"⟩) ∈ lw_all := lw_g (lw_at lw_ms 81 rfl) rfl
theorem qs82 : (Cond.selects "DictProofModel" ⟨"DictProofModel", "overlap", "(II)Z"⟩ ⟨"DictProofModel", "overlap", "(II)Z"⟩) ∈ lw_all := lw_g (lw_at lw_ms 82 rfl) rfl
theorem qs83 : (Cond.selects "DictProofModel" ⟨"DictProofModel", "areOne", "(II)Z"⟩ ⟨"DictProofModel", "areOne", "(II)Z"⟩) ∈ lw_all := lw_g (lw_at lw_ms 83 rfl) rfl
theorem qs84 : (Cond.selects "DictProofModel" ⟨"DictProofModel", "addPair", "(II)V"⟩ ⟨"DictProofModel", "addPair", "(II)V"⟩) ∈ lw_all := lw_g (lw_at lw_ms 84 rfl) rfl
theorem qs85 : (Cond.selects "DictProofModel" ⟨"DictProofModel", "standsFor", "(I)I"⟩ ⟨"DictProofModel", "standsFor", "(I)I"⟩) ∈ lw_all := lw_g (lw_at lw_ms 85 rfl) rfl
theorem qs86 : (Cond.selects "DictProofModel" ⟨"DictProofModel", "letterOf", "(I)I"⟩ ⟨"DictProofModel", "letterOf", "(I)I"⟩) ∈ lw_all := lw_g (lw_at lw_ms 86 rfl) rfl
theorem qs87 : (Cond.selects "DictProofModel" ⟨"DictProofModel", "variableOf", "(I)I"⟩ ⟨"DictProofModel", "variableOf", "(I)I"⟩) ∈ lw_all := lw_g (lw_at lw_ms 87 rfl) rfl
theorem qs88 : (Cond.selects "DictProofModel" ⟨"DictProofModel", "joins", "(II)Z"⟩ ⟨"DictProofModel", "joins", "(II)Z"⟩) ∈ lw_all := lw_g (lw_at lw_ms 88 rfl) rfl
theorem qs89 : (Cond.selects "DictProofModel" ⟨"DictProofModel", "occurs", "(II)Z"⟩ ⟨"DictProofModel", "occurs", "(II)Z"⟩) ∈ lw_all := lw_g (lw_at lw_ms 89 rfl) rfl
theorem qs90 : (Cond.selects "DictProofModel" ⟨"DictProofModel", "behind", "(I)I"⟩ ⟨"DictProofModel", "behind", "(I)I"⟩) ∈ lw_all := lw_g (lw_at lw_ms 90 rfl) rfl
theorem qs91 : (Cond.selects "DictProofModel" ⟨"DictProofModel", "clash", "(II)Z"⟩ ⟨"DictProofModel", "clash", "(II)Z"⟩) ∈ lw_all := lw_g (lw_at lw_ms 91 rfl) rfl
theorem qs92 : (Cond.selects "DictProofModel" ⟨"DictProofModel", "isSpecial", "(II)Z"⟩ ⟨"DictProofModel", "isSpecial", "(II)Z"⟩) ∈ lw_all := lw_g (lw_at lw_ms 92 rfl) rfl
theorem qs93 : (Cond.selects "DictProofModel" ⟨"DictProofModel", "isFilled", "(I)Z"⟩ ⟨"DictProofModel", "isFilled", "(I)Z"⟩) ∈ lw_all := lw_g (lw_at lw_ms 93 rfl) rfl
theorem qs94 : (Cond.selects "DictProofModel" ⟨"DictProofModel", "laySlot", "(I)V"⟩ ⟨"DictProofModel", "laySlot", "(I)V"⟩) ∈ lw_all := lw_g (lw_at lw_ms 94 rfl) rfl
theorem qs95 : (Cond.selects "DictProofModel" ⟨"DictProofModel", "goalNow", "(II)I"⟩ ⟨"DictProofModel", "goalNow", "(II)I"⟩) ∈ lw_all := lw_g (lw_at lw_ms 95 rfl) rfl
theorem qs96 : (Cond.selects "DictProofModel" ⟨"DictProofModel", "differentGoals", "(I)I"⟩ ⟨"DictProofModel", "differentGoals", "(I)I"⟩) ∈ lw_all := lw_g (lw_at lw_ms 96 rfl) rfl
theorem qs97 : (Cond.selects "DictProofModel" ⟨"DictProofModel", "isNew", "(II)Z"⟩ ⟨"DictProofModel", "isNew", "(II)Z"⟩) ∈ lw_all := lw_g (lw_at lw_ms 97 rfl) rfl
theorem qs98 : (Cond.selects "DictProofModel" ⟨"DictProofModel", "mark", "(I)V"⟩ ⟨"DictProofModel", "mark", "(I)V"⟩) ∈ lw_all := lw_g (lw_at lw_ms 98 rfl) rfl
theorem qs99 : (Cond.selects "DictProofModel" ⟨"DictProofModel", "plainOf", "(I)I"⟩ ⟨"DictProofModel", "plainOf", "(I)I"⟩) ∈ lw_all := lw_g (lw_at lw_ms 99 rfl) rfl
theorem qs100 : (Cond.selects "DictProofModel" ⟨"DictProofModel", "entryAt", "(II)I"⟩ ⟨"DictProofModel", "entryAt", "(II)I"⟩) ∈ lw_all := lw_g (lw_at lw_ms 100 rfl) rfl
theorem qs101 : (Cond.selects "DictProofModel" ⟨"DictProofModel", "drawnNow", "(III)I"⟩ ⟨"DictProofModel", "drawnNow", "(III)I"⟩) ∈ lw_all := lw_g (lw_at lw_ms 101 rfl) rfl
theorem qs102 : (Cond.selects "DictProofModel" ⟨"DictProofModel", "draw", "(I)I"⟩ ⟨"DictProofModel", "draw", "(I)I"⟩) ∈ lw_all := lw_g (lw_at lw_ms 102 rfl) rfl
theorem qs103 : (Cond.selects "DictProofModel" ⟨"DictProofModel", "drawType", "()V"⟩ ⟨"DictProofModel", "drawType", "()V"⟩) ∈ lw_all := lw_g (lw_at lw_ms 103 rfl) rfl
theorem qs104 : (Cond.selects "DictProofModel" ⟨"DictProofModel", "addLetter", "(I)V"⟩ ⟨"DictProofModel", "addLetter", "(I)V"⟩) ∈ lw_all := lw_g (lw_at lw_ms 104 rfl) rfl
theorem qs105 : (Cond.selects "DictProofModel" ⟨"DictProofModel", "filled", "()I"⟩ ⟨"DictProofModel", "filled", "()I"⟩) ∈ lw_all := lw_g (lw_at lw_ms 105 rfl) rfl
theorem qs106 : (Cond.selects "DictProofModel" ⟨"DictProofModel", "howMany", "(I)I"⟩ ⟨"DictProofModel", "howMany", "(I)I"⟩) ∈ lw_all := lw_g (lw_at lw_ms 106 rfl) rfl
theorem qs107 : (Cond.selects "DictProofModel" ⟨"DictProofModel", "unsound", "()I"⟩ ⟨"DictProofModel", "unsound", "()I"⟩) ∈ lw_all := lw_g (lw_at lw_ms 107 rfl) rfl
theorem qs108 : (Cond.selects "DictProofModel" ⟨"DictProofModel", "pairsOf", "(I)I"⟩ ⟨"DictProofModel", "pairsOf", "(I)I"⟩) ∈ lw_all := lw_g (lw_at lw_ms 108 rfl) rfl
theorem qs109 : (Cond.selects "DictProofModel" ⟨"DictProofModel", "lacksOfAll", "()I"⟩ ⟨"DictProofModel", "lacksOfAll", "()I"⟩) ∈ lw_all := lw_g (lw_at lw_ms 109 rfl) rfl
theorem qs110 : (Cond.selects "DictProofModel" ⟨"DictProofModel", "differentTypes", "()I"⟩ ⟨"DictProofModel", "differentTypes", "()I"⟩) ∈ lw_all := lw_g (lw_at lw_ms 110 rfl) rfl
theorem qs111 : (Cond.selects "DictProofModel" ⟨"DictProofModel", "isSlotLike", "(II)Z"⟩ ⟨"DictProofModel", "isSlotLike", "(II)Z"⟩) ∈ lw_all := lw_g (lw_at lw_ms 111 rfl) rfl
theorem qs112 : (Cond.selects "DictProofModel" ⟨"DictProofModel", "mix", "(J)V"⟩ ⟨"DictProofModel", "mix", "(J)V"⟩) ∈ lw_all := lw_g (lw_at lw_ms 112 rfl) rfl
theorem qs113 : (Cond.selects "DictProofModel" ⟨"DictProofModel", "mixSlot", "(I)V"⟩ ⟨"DictProofModel", "mixSlot", "(I)V"⟩) ∈ lw_all := lw_g (lw_at lw_ms 113 rfl) rfl
