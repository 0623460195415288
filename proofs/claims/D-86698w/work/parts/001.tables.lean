-- ===== PART A: goes FIRST, ahead of the names: the tables' words, and 'selects' of the private methods out of them =====
/-- a private method of a class that the tables say can be made, by its rows of tables_1 -/
def lw_okq (q : MethodName × Nat) : Prop := (q.1.cls ≠ "java/lang/invoke/MethodHandle" ∧ q.1.cls ≠ "java/lang/invoke/VarHandle") ∧ Cond.instantiable q.1.cls q.2 ∈ tables_1 ∧ Cond.privateMethod q.1 ∈ tables_1 ∧ Cond.instanceMethod q.1 ∈ tables_1
set_option maxRecDepth 100000
theorem lw_t1 {w : Cond} (h : w ∈ tables_1_1) : w ∈ tables_1 := List.mem_append_left _ h
theorem lw_t2 {w : Cond} (h : w ∈ tables_1_2) : w ∈ tables_1 := List.mem_append_right _ (List.mem_append_left _ h)
theorem lw_t3 {w : Cond} (h : w ∈ tables_1_3) : w ∈ tables_1 := List.mem_append_right _ (List.mem_append_right _ (List.mem_append_left _ h))
theorem lw_t4 {w : Cond} (h : w ∈ tables_1_4) : w ∈ tables_1 := List.mem_append_right _ (List.mem_append_right _ (List.mem_append_right _ (List.mem_append_left _ h)))
theorem lw_t5 {w : Cond} (h : w ∈ tables_1_5) : w ∈ tables_1 := List.mem_append_right _ (List.mem_append_right _ (List.mem_append_right _ (List.mem_append_right _ (List.mem_append_left _ h))))
theorem lw_t6 {w : Cond} (h : w ∈ tables_1_6) : w ∈ tables_1 := List.mem_append_right _ (List.mem_append_right _ (List.mem_append_right _ (List.mem_append_right _ (List.mem_append_right _ (List.mem_append_left _ h)))))
theorem lw_t7 {w : Cond} (h : w ∈ tables_1_7) : w ∈ tables_1 := List.mem_append_right _ (List.mem_append_right _ (List.mem_append_right _ (List.mem_append_right _ (List.mem_append_right _ (List.mem_append_right _ (List.mem_append_left _ h))))))
theorem lw_t8 {w : Cond} (h : w ∈ tables_1_8) : w ∈ tables_1 := List.mem_append_right _ (List.mem_append_right _ (List.mem_append_right _ (List.mem_append_right _ (List.mem_append_right _ (List.mem_append_right _ (List.mem_append_right _ (List.mem_append_left _ h)))))))
theorem lw_t9 {w : Cond} (h : w ∈ tables_1_9) : w ∈ tables_1 := List.mem_append_right _ (List.mem_append_right _ (List.mem_append_right _ (List.mem_append_right _ (List.mem_append_right _ (List.mem_append_right _ (List.mem_append_right _ (List.mem_append_right _ h)))))))
theorem lw_p0 : lw_okq (⟨"java/lang/Throwable", "fillInStackTrace", "(I)Ljava/lang/Throwable;"⟩, 6) := ⟨⟨by decide +kernel, by decide +kernel⟩, lw_t1 (List.mem_of_getElem? (i := 86) rfl), lw_t1 (List.mem_of_getElem? (i := 84) rfl), lw_t1 (List.mem_of_getElem? (i := 85) rfl)⟩
theorem lw_p1 : lw_okq (⟨"java/util/ArrayList", "add", "(Ljava/lang/Object;[Ljava/lang/Object;I)V"⟩, 3) := ⟨⟨by decide +kernel, by decide +kernel⟩, lw_t1 (List.mem_of_getElem? (i := 138) rfl), lw_t2 (List.mem_of_getElem? (i := 158) rfl), lw_t2 (List.mem_of_getElem? (i := 159) rfl)⟩
theorem lw_p2 : lw_okq (⟨"java/util/ArrayList", "grow", "()[Ljava/lang/Object;"⟩, 3) := ⟨⟨by decide +kernel, by decide +kernel⟩, lw_t1 (List.mem_of_getElem? (i := 138) rfl), lw_t2 (List.mem_of_getElem? (i := 162) rfl), lw_t2 (List.mem_of_getElem? (i := 163) rfl)⟩
theorem lw_p3 : lw_okq (⟨"java/util/ArrayList", "grow", "(I)[Ljava/lang/Object;"⟩, 3) := ⟨⟨by decide +kernel, by decide +kernel⟩, lw_t1 (List.mem_of_getElem? (i := 138) rfl), lw_t2 (List.mem_of_getElem? (i := 166) rfl), lw_t2 (List.mem_of_getElem? (i := 167) rfl)⟩
theorem lw_p4 : lw_okq (⟨"RoleLoom", "isPart", "(I)Z"⟩, 36) := ⟨⟨by decide +kernel, by decide +kernel⟩, lw_t1 (List.mem_of_getElem? (i := 43) rfl), lw_t2 (List.mem_of_getElem? (i := 235) rfl), lw_t2 (List.mem_of_getElem? (i := 236) rfl)⟩
theorem lw_p5 : lw_okq (⟨"RoleLoom", "make", "(III)LRoleLoom$Act;"⟩, 36) := ⟨⟨by decide +kernel, by decide +kernel⟩, lw_t1 (List.mem_of_getElem? (i := 43) rfl), lw_t3 (List.mem_of_getElem? (i := 104) rfl), lw_t3 (List.mem_of_getElem? (i := 105) rfl)⟩
theorem lw_p6 : lw_okq (⟨"RoleLoom", "woven", "()I"⟩, 36) := ⟨⟨by decide +kernel, by decide +kernel⟩, lw_t1 (List.mem_of_getElem? (i := 43) rfl), lw_t5 (List.mem_of_getElem? (i := 61) rfl), lw_t5 (List.mem_of_getElem? (i := 62) rfl)⟩
theorem lw_p7 : lw_okq (⟨"RoleLoom", "layOrder", "()V"⟩, 36) := ⟨⟨by decide +kernel, by decide +kernel⟩, lw_t1 (List.mem_of_getElem? (i := 43) rfl), lw_t5 (List.mem_of_getElem? (i := 65) rfl), lw_t5 (List.mem_of_getElem? (i := 66) rfl)⟩
theorem lw_p8 : lw_okq (⟨"RoleLoom", "take", "(LRoleLoom$Part;)V"⟩, 36) := ⟨⟨by decide +kernel, by decide +kernel⟩, lw_t1 (List.mem_of_getElem? (i := 43) rfl), lw_t5 (List.mem_of_getElem? (i := 69) rfl), lw_t5 (List.mem_of_getElem? (i := 70) rfl)⟩
theorem lw_p9 : lw_okq (⟨"RoleLoom", "stands", "(LRoleLoom$Part;LRoleLoom$Part;)V"⟩, 36) := ⟨⟨by decide +kernel, by decide +kernel⟩, lw_t1 (List.mem_of_getElem? (i := 43) rfl), lw_t5 (List.mem_of_getElem? (i := 73) rfl), lw_t5 (List.mem_of_getElem? (i := 74) rfl)⟩
theorem lw_p10 : lw_okq (⟨"RoleLoom", "isAnyLeft", "()Z"⟩, 36) := ⟨⟨by decide +kernel, by decide +kernel⟩, lw_t1 (List.mem_of_getElem? (i := 43) rfl), lw_t5 (List.mem_of_getElem? (i := 110) rfl), lw_t5 (List.mem_of_getElem? (i := 111) rfl)⟩
theorem lw_p11 : lw_okq (⟨"RoleLoom", "nextInLine", "()I"⟩, 36) := ⟨⟨by decide +kernel, by decide +kernel⟩, lw_t1 (List.mem_of_getElem? (i := 43) rfl), lw_t5 (List.mem_of_getElem? (i := 114) rfl), lw_t5 (List.mem_of_getElem? (i := 115) rfl)⟩
theorem lw_p12 : lw_okq (⟨"RoleLoom", "aheadOf", "(I)I"⟩, 36) := ⟨⟨by decide +kernel, by decide +kernel⟩, lw_t1 (List.mem_of_getElem? (i := 43) rfl), lw_t5 (List.mem_of_getElem? (i := 118) rfl), lw_t5 (List.mem_of_getElem? (i := 119) rfl)⟩
theorem lw_p13 : lw_okq (⟨"RoleLoom", "findRing", "()V"⟩, 36) := ⟨⟨by decide +kernel, by decide +kernel⟩, lw_t1 (List.mem_of_getElem? (i := 43) rfl), lw_t5 (List.mem_of_getElem? (i := 122) rfl), lw_t5 (List.mem_of_getElem? (i := 123) rfl)⟩
theorem lw_p14 : lw_okq (⟨"RoleLoom", "placeInRing", "(I)I"⟩, 36) := ⟨⟨by decide +kernel, by decide +kernel⟩, lw_t1 (List.mem_of_getElem? (i := 43) rfl), lw_t5 (List.mem_of_getElem? (i := 126) rfl), lw_t5 (List.mem_of_getElem? (i := 127) rfl)⟩
theorem lw_p15 : lw_okq (⟨"RoleLoom", "layChains", "(LRoleLoom$Role;)V"⟩, 36) := ⟨⟨by decide +kernel, by decide +kernel⟩, lw_t1 (List.mem_of_getElem? (i := 43) rfl), lw_t5 (List.mem_of_getElem? (i := 130) rfl), lw_t5 (List.mem_of_getElem? (i := 131) rfl)⟩
def lw_privs_1 : List (MethodName × Nat) := [(⟨"java/lang/Throwable", "fillInStackTrace", "(I)Ljava/lang/Throwable;"⟩, 6), (⟨"java/util/ArrayList", "add", "(Ljava/lang/Object;[Ljava/lang/Object;I)V"⟩, 3), (⟨"java/util/ArrayList", "grow", "()[Ljava/lang/Object;"⟩, 3), (⟨"java/util/ArrayList", "grow", "(I)[Ljava/lang/Object;"⟩, 3), (⟨"RoleLoom", "isPart", "(I)Z"⟩, 36), (⟨"RoleLoom", "make", "(III)LRoleLoom$Act;"⟩, 36), (⟨"RoleLoom", "woven", "()I"⟩, 36), (⟨"RoleLoom", "layOrder", "()V"⟩, 36), (⟨"RoleLoom", "take", "(LRoleLoom$Part;)V"⟩, 36), (⟨"RoleLoom", "stands", "(LRoleLoom$Part;LRoleLoom$Part;)V"⟩, 36), (⟨"RoleLoom", "isAnyLeft", "()Z"⟩, 36), (⟨"RoleLoom", "nextInLine", "()I"⟩, 36), (⟨"RoleLoom", "aheadOf", "(I)I"⟩, 36), (⟨"RoleLoom", "findRing", "()V"⟩, 36), (⟨"RoleLoom", "placeInRing", "(I)I"⟩, 36), (⟨"RoleLoom", "layChains", "(LRoleLoom$Role;)V"⟩, 36)]
theorem lw_r1 : ∀ q ∈ lw_privs_1, lw_okq q := List.forall_mem_cons.mpr ⟨lw_p0, List.forall_mem_cons.mpr ⟨lw_p1, List.forall_mem_cons.mpr ⟨lw_p2, List.forall_mem_cons.mpr ⟨lw_p3, List.forall_mem_cons.mpr ⟨lw_p4, List.forall_mem_cons.mpr ⟨lw_p5, List.forall_mem_cons.mpr ⟨lw_p6, List.forall_mem_cons.mpr ⟨lw_p7, List.forall_mem_cons.mpr ⟨lw_p8, List.forall_mem_cons.mpr ⟨lw_p9, List.forall_mem_cons.mpr ⟨lw_p10, List.forall_mem_cons.mpr ⟨lw_p11, List.forall_mem_cons.mpr ⟨lw_p12, List.forall_mem_cons.mpr ⟨lw_p13, List.forall_mem_cons.mpr ⟨lw_p14, List.forall_mem_cons.mpr ⟨lw_p15, fun _ h => absurd h List.not_mem_nil⟩⟩⟩⟩⟩⟩⟩⟩⟩⟩⟩⟩⟩⟩⟩⟩
theorem lw_p16 : lw_okq (⟨"RoleLoom", "isExcluded", "(II)Z"⟩, 36) := ⟨⟨by decide +kernel, by decide +kernel⟩, lw_t1 (List.mem_of_getElem? (i := 43) rfl), lw_t5 (List.mem_of_getElem? (i := 134) rfl), lw_t5 (List.mem_of_getElem? (i := 135) rfl)⟩
theorem lw_p17 : lw_okq (⟨"RoleLoom", "isWhole", "(LRoleLoom$Role;)Z"⟩, 36) := ⟨⟨by decide +kernel, by decide +kernel⟩, lw_t1 (List.mem_of_getElem? (i := 43) rfl), lw_t5 (List.mem_of_getElem? (i := 138) rfl), lw_t5 (List.mem_of_getElem? (i := 139) rfl)⟩
theorem lw_p18 : lw_okq (⟨"RoleLoom", "lacks", "(II)Z"⟩, 36) := ⟨⟨by decide +kernel, by decide +kernel⟩, lw_t1 (List.mem_of_getElem? (i := 43) rfl), lw_t5 (List.mem_of_getElem? (i := 145) rfl), lw_t5 (List.mem_of_getElem? (i := 146) rfl)⟩
theorem lw_p19 : lw_okq (⟨"RoleLoom", "emptyDraft", "()V"⟩, 36) := ⟨⟨by decide +kernel, by decide +kernel⟩, lw_t1 (List.mem_of_getElem? (i := 43) rfl), lw_t5 (List.mem_of_getElem? (i := 149) rfl), lw_t5 (List.mem_of_getElem? (i := 150) rfl)⟩
theorem lw_p20 : lw_okq (⟨"RoleLoom", "isRole", "(I)Z"⟩, 36) := ⟨⟨by decide +kernel, by decide +kernel⟩, lw_t1 (List.mem_of_getElem? (i := 43) rfl), lw_t5 (List.mem_of_getElem? (i := 169) rfl), lw_t5 (List.mem_of_getElem? (i := 170) rfl)⟩
theorem lw_p21 : lw_okq (⟨"RoleLoom", "stepOf", "(LRoleLoom$Role;I)LRoleLoom$Role;"⟩, 36) := ⟨⟨by decide +kernel, by decide +kernel⟩, lw_t1 (List.mem_of_getElem? (i := 43) rfl), lw_t5 (List.mem_of_getElem? (i := 191) rfl), lw_t5 (List.mem_of_getElem? (i := 192) rfl)⟩
theorem lw_p22 : lw_okq (⟨"RoleLoom", "beginRun", "()V"⟩, 36) := ⟨⟨by decide +kernel, by decide +kernel⟩, lw_t1 (List.mem_of_getElem? (i := 43) rfl), lw_t5 (List.mem_of_getElem? (i := 203) rfl), lw_t5 (List.mem_of_getElem? (i := 204) rfl)⟩
theorem lw_p23 : lw_okq (⟨"RoleLoom", "starts", "(LRoleLoom$Part;)Z"⟩, 36) := ⟨⟨by decide +kernel, by decide +kernel⟩, lw_t1 (List.mem_of_getElem? (i := 43) rfl), lw_t5 (List.mem_of_getElem? (i := 207) rfl), lw_t5 (List.mem_of_getElem? (i := 208) rfl)⟩
theorem lw_p24 : lw_okq (⟨"RoleLoom", "goes", "(LRoleLoom$Frame;LRoleLoom$Body;JI)J"⟩, 36) := ⟨⟨by decide +kernel, by decide +kernel⟩, lw_t1 (List.mem_of_getElem? (i := 43) rfl), lw_t6 (List.mem_of_getElem? (i := 6) rfl), lw_t6 (List.mem_of_getElem? (i := 7) rfl)⟩
theorem lw_p25 : lw_okq (⟨"RoleLoom", "stops", "(I)LRoleLoom$Stop;"⟩, 36) := ⟨⟨by decide +kernel, by decide +kernel⟩, lw_t1 (List.mem_of_getElem? (i := 43) rfl), lw_t6 (List.mem_of_getElem? (i := 10) rfl), lw_t6 (List.mem_of_getElem? (i := 11) rfl)⟩
theorem lw_p26 : lw_okq (⟨"RoleLoom", "thrown", "(LRoleLoom$Frame;IJ)LRoleLoom$Thrown;"⟩, 36) := ⟨⟨by decide +kernel, by decide +kernel⟩, lw_t1 (List.mem_of_getElem? (i := 43) rfl), lw_t6 (List.mem_of_getElem? (i := 23) rfl), lw_t6 (List.mem_of_getElem? (i := 24) rfl)⟩
theorem lw_p27 : lw_okq (⟨"RoleLoom", "run", "(LRoleLoom$Thing;Ljava/util/ArrayList;IJI)J"⟩, 36) := ⟨⟨by decide +kernel, by decide +kernel⟩, lw_t1 (List.mem_of_getElem? (i := 43) rfl), lw_t6 (List.mem_of_getElem? (i := 30) rfl), lw_t6 (List.mem_of_getElem? (i := 31) rfl)⟩
theorem lw_p28 : lw_okq (⟨"RoleLoom", "noteThrown", "(LRoleLoom$Thrown;)V"⟩, 36) := ⟨⟨by decide +kernel, by decide +kernel⟩, lw_t1 (List.mem_of_getElem? (i := 43) rfl), lw_t6 (List.mem_of_getElem? (i := 123) rfl), lw_t6 (List.mem_of_getElem? (i := 124) rfl)⟩
theorem lw_p29 : lw_okq (⟨"RoleLoom", "isThing", "(I)Z"⟩, 36) := ⟨⟨by decide +kernel, by decide +kernel⟩, lw_t1 (List.mem_of_getElem? (i := 43) rfl), lw_t6 (List.mem_of_getElem? (i := 155) rfl), lw_t6 (List.mem_of_getElem? (i := 156) rfl)⟩
theorem lw_p30 : lw_okq (⟨"RoleLoom", "tells", "(J)I"⟩, 36) := ⟨⟨by decide +kernel, by decide +kernel⟩, lw_t1 (List.mem_of_getElem? (i := 43) rfl), lw_t6 (List.mem_of_getElem? (i := 185) rfl), lw_t6 (List.mem_of_getElem? (i := 186) rfl)⟩
theorem lw_p31 : lw_okq (⟨"RoleLoom", "stateOf", "(II)LRoleLoom$State;"⟩, 36) := ⟨⟨by decide +kernel, by decide +kernel⟩, lw_t1 (List.mem_of_getElem? (i := 43) rfl), lw_t6 (List.mem_of_getElem? (i := 193) rfl), lw_t6 (List.mem_of_getElem? (i := 194) rfl)⟩
def lw_privs_2 : List (MethodName × Nat) := [(⟨"RoleLoom", "isExcluded", "(II)Z"⟩, 36), (⟨"RoleLoom", "isWhole", "(LRoleLoom$Role;)Z"⟩, 36), (⟨"RoleLoom", "lacks", "(II)Z"⟩, 36), (⟨"RoleLoom", "emptyDraft", "()V"⟩, 36), (⟨"RoleLoom", "isRole", "(I)Z"⟩, 36), (⟨"RoleLoom", "stepOf", "(LRoleLoom$Role;I)LRoleLoom$Role;"⟩, 36), (⟨"RoleLoom", "beginRun", "()V"⟩, 36), (⟨"RoleLoom", "starts", "(LRoleLoom$Part;)Z"⟩, 36), (⟨"RoleLoom", "goes", "(LRoleLoom$Frame;LRoleLoom$Body;JI)J"⟩, 36), (⟨"RoleLoom", "stops", "(I)LRoleLoom$Stop;"⟩, 36), (⟨"RoleLoom", "thrown", "(LRoleLoom$Frame;IJ)LRoleLoom$Thrown;"⟩, 36), (⟨"RoleLoom", "run", "(LRoleLoom$Thing;Ljava/util/ArrayList;IJI)J"⟩, 36), (⟨"RoleLoom", "noteThrown", "(LRoleLoom$Thrown;)V"⟩, 36), (⟨"RoleLoom", "isThing", "(I)Z"⟩, 36), (⟨"RoleLoom", "tells", "(J)I"⟩, 36), (⟨"RoleLoom", "stateOf", "(II)LRoleLoom$State;"⟩, 36)]
theorem lw_r2 : ∀ q ∈ lw_privs_2, lw_okq q := List.forall_mem_cons.mpr ⟨lw_p16, List.forall_mem_cons.mpr ⟨lw_p17, List.forall_mem_cons.mpr ⟨lw_p18, List.forall_mem_cons.mpr ⟨lw_p19, List.forall_mem_cons.mpr ⟨lw_p20, List.forall_mem_cons.mpr ⟨lw_p21, List.forall_mem_cons.mpr ⟨lw_p22, List.forall_mem_cons.mpr ⟨lw_p23, List.forall_mem_cons.mpr ⟨lw_p24, List.forall_mem_cons.mpr ⟨lw_p25, List.forall_mem_cons.mpr ⟨lw_p26, List.forall_mem_cons.mpr ⟨lw_p27, List.forall_mem_cons.mpr ⟨lw_p28, List.forall_mem_cons.mpr ⟨lw_p29, List.forall_mem_cons.mpr ⟨lw_p30, List.forall_mem_cons.mpr ⟨lw_p31, fun _ h => absurd h List.not_mem_nil⟩⟩⟩⟩⟩⟩⟩⟩⟩⟩⟩⟩⟩⟩⟩⟩
theorem lw_p32 : lw_okq (⟨"RoleLoomModel", "isPart", "(I)Z"⟩, 73) := ⟨⟨by decide +kernel, by decide +kernel⟩, lw_t6 (List.mem_of_getElem? (i := 226) rfl), lw_t7 (List.mem_of_getElem? (i := 224) rfl), lw_t7 (List.mem_of_getElem? (i := 225) rfl)⟩
theorem lw_p33 : lw_okq (⟨"RoleLoomModel", "isExtended", "(II)Z"⟩, 73) := ⟨⟨by decide +kernel, by decide +kernel⟩, lw_t6 (List.mem_of_getElem? (i := 226) rfl), lw_t7 (List.mem_of_getElem? (i := 228) rfl), lw_t7 (List.mem_of_getElem? (i := 229) rfl)⟩
theorem lw_p34 : lw_okq (⟨"RoleLoomModel", "isRight", "(IIII)Z"⟩, 73) := ⟨⟨by decide +kernel, by decide +kernel⟩, lw_t6 (List.mem_of_getElem? (i := 226) rfl), lw_t8 (List.mem_of_getElem? (i := 10) rfl), lw_t8 (List.mem_of_getElem? (i := 11) rfl)⟩
theorem lw_p35 : lw_okq (⟨"RoleLoomModel", "woven", "()I"⟩, 73) := ⟨⟨by decide +kernel, by decide +kernel⟩, lw_t6 (List.mem_of_getElem? (i := 226) rfl), lw_t8 (List.mem_of_getElem? (i := 34) rfl), lw_t8 (List.mem_of_getElem? (i := 35) rfl)⟩
theorem lw_p36 : lw_okq (⟨"RoleLoomModel", "lay", "(I)Z"⟩, 73) := ⟨⟨by decide +kernel, by decide +kernel⟩, lw_t6 (List.mem_of_getElem? (i := 226) rfl), lw_t8 (List.mem_of_getElem? (i := 38) rfl), lw_t8 (List.mem_of_getElem? (i := 39) rfl)⟩
theorem lw_p37 : lw_okq (⟨"RoleLoomModel", "close", "()V"⟩, 73) := ⟨⟨by decide +kernel, by decide +kernel⟩, lw_t6 (List.mem_of_getElem? (i := 226) rfl), lw_t8 (List.mem_of_getElem? (i := 42) rfl), lw_t8 (List.mem_of_getElem? (i := 43) rfl)⟩
theorem lw_p38 : lw_okq (⟨"RoleLoomModel", "leastAhead", "(I)I"⟩, 73) := ⟨⟨by decide +kernel, by decide +kernel⟩, lw_t6 (List.mem_of_getElem? (i := 226) rfl), lw_t8 (List.mem_of_getElem? (i := 46) rfl), lw_t8 (List.mem_of_getElem? (i := 47) rfl)⟩
theorem lw_p39 : lw_okq (⟨"RoleLoomModel", "isAhead", "(II)Z"⟩, 73) := ⟨⟨by decide +kernel, by decide +kernel⟩, lw_t6 (List.mem_of_getElem? (i := 226) rfl), lw_t8 (List.mem_of_getElem? (i := 50) rfl), lw_t8 (List.mem_of_getElem? (i := 51) rfl)⟩
theorem lw_p40 : lw_okq (⟨"RoleLoomModel", "isToldBy", "(III)Z"⟩, 73) := ⟨⟨by decide +kernel, by decide +kernel⟩, lw_t6 (List.mem_of_getElem? (i := 226) rfl), lw_t8 (List.mem_of_getElem? (i := 54) rfl), lw_t8 (List.mem_of_getElem? (i := 55) rfl)⟩
theorem lw_p41 : lw_okq (⟨"RoleLoomModel", "tellRing", "(I)V"⟩, 73) := ⟨⟨by decide +kernel, by decide +kernel⟩, lw_t6 (List.mem_of_getElem? (i := 226) rfl), lw_t8 (List.mem_of_getElem? (i := 58) rfl), lw_t8 (List.mem_of_getElem? (i := 59) rfl)⟩
theorem lw_p42 : lw_okq (⟨"RoleLoomModel", "chain", "(II)V"⟩, 73) := ⟨⟨by decide +kernel, by decide +kernel⟩, lw_t6 (List.mem_of_getElem? (i := 226) rfl), lw_t8 (List.mem_of_getElem? (i := 62) rfl), lw_t8 (List.mem_of_getElem? (i := 63) rfl)⟩
theorem lw_p43 : lw_okq (⟨"RoleLoomModel", "isExcluded", "(II)Z"⟩, 73) := ⟨⟨by decide +kernel, by decide +kernel⟩, lw_t6 (List.mem_of_getElem? (i := 226) rfl), lw_t8 (List.mem_of_getElem? (i := 66) rfl), lw_t8 (List.mem_of_getElem? (i := 67) rfl)⟩
theorem lw_p44 : lw_okq (⟨"RoleLoomModel", "lacksAny", "(I)Z"⟩, 73) := ⟨⟨by decide +kernel, by decide +kernel⟩, lw_t6 (List.mem_of_getElem? (i := 226) rfl), lw_t8 (List.mem_of_getElem? (i := 70) rfl), lw_t8 (List.mem_of_getElem? (i := 71) rfl)⟩
theorem lw_p45 : lw_okq (⟨"RoleLoomModel", "hasGiven", "(II)Z"⟩, 73) := ⟨⟨by decide +kernel, by decide +kernel⟩, lw_t6 (List.mem_of_getElem? (i := 226) rfl), lw_t8 (List.mem_of_getElem? (i := 74) rfl), lw_t8 (List.mem_of_getElem? (i := 75) rfl)⟩
theorem lw_p46 : lw_okq (⟨"RoleLoomModel", "chainPlace", "(III)I"⟩, 73) := ⟨⟨by decide +kernel, by decide +kernel⟩, lw_t6 (List.mem_of_getElem? (i := 226) rfl), lw_t8 (List.mem_of_getElem? (i := 81) rfl), lw_t8 (List.mem_of_getElem? (i := 82) rfl)⟩
theorem lw_p47 : lw_okq (⟨"RoleLoomModel", "isRole", "(I)Z"⟩, 73) := ⟨⟨by decide +kernel, by decide +kernel⟩, lw_t6 (List.mem_of_getElem? (i := 226) rfl), lw_t8 (List.mem_of_getElem? (i := 97) rfl), lw_t8 (List.mem_of_getElem? (i := 98) rfl)⟩
def lw_privs_3 : List (MethodName × Nat) := [(⟨"RoleLoomModel", "isPart", "(I)Z"⟩, 73), (⟨"RoleLoomModel", "isExtended", "(II)Z"⟩, 73), (⟨"RoleLoomModel", "isRight", "(IIII)Z"⟩, 73), (⟨"RoleLoomModel", "woven", "()I"⟩, 73), (⟨"RoleLoomModel", "lay", "(I)Z"⟩, 73), (⟨"RoleLoomModel", "close", "()V"⟩, 73), (⟨"RoleLoomModel", "leastAhead", "(I)I"⟩, 73), (⟨"RoleLoomModel", "isAhead", "(II)Z"⟩, 73), (⟨"RoleLoomModel", "isToldBy", "(III)Z"⟩, 73), (⟨"RoleLoomModel", "tellRing", "(I)V"⟩, 73), (⟨"RoleLoomModel", "chain", "(II)V"⟩, 73), (⟨"RoleLoomModel", "isExcluded", "(II)Z"⟩, 73), (⟨"RoleLoomModel", "lacksAny", "(I)Z"⟩, 73), (⟨"RoleLoomModel", "hasGiven", "(II)Z"⟩, 73), (⟨"RoleLoomModel", "chainPlace", "(III)I"⟩, 73), (⟨"RoleLoomModel", "isRole", "(I)Z"⟩, 73)]
theorem lw_r3 : ∀ q ∈ lw_privs_3, lw_okq q := List.forall_mem_cons.mpr ⟨lw_p32, List.forall_mem_cons.mpr ⟨lw_p33, List.forall_mem_cons.mpr ⟨lw_p34, List.forall_mem_cons.mpr ⟨lw_p35, List.forall_mem_cons.mpr ⟨lw_p36, List.forall_mem_cons.mpr ⟨lw_p37, List.forall_mem_cons.mpr ⟨lw_p38, List.forall_mem_cons.mpr ⟨lw_p39, List.forall_mem_cons.mpr ⟨lw_p40, List.forall_mem_cons.mpr ⟨lw_p41, List.forall_mem_cons.mpr ⟨lw_p42, List.forall_mem_cons.mpr ⟨lw_p43, List.forall_mem_cons.mpr ⟨lw_p44, List.forall_mem_cons.mpr ⟨lw_p45, List.forall_mem_cons.mpr ⟨lw_p46, List.forall_mem_cons.mpr ⟨lw_p47, fun _ h => absurd h List.not_mem_nil⟩⟩⟩⟩⟩⟩⟩⟩⟩⟩⟩⟩⟩⟩⟩⟩
theorem lw_p48 : lw_okq (⟨"RoleLoomModel", "isUnder", "(II)Z"⟩, 73) := ⟨⟨by decide +kernel, by decide +kernel⟩, lw_t6 (List.mem_of_getElem? (i := 226) rfl), lw_t8 (List.mem_of_getElem? (i := 109) rfl), lw_t8 (List.mem_of_getElem? (i := 110) rfl)⟩
theorem lw_p49 : lw_okq (⟨"RoleLoomModel", "areAlike", "(III)Z"⟩, 73) := ⟨⟨by decide +kernel, by decide +kernel⟩, lw_t6 (List.mem_of_getElem? (i := 226) rfl), lw_t8 (List.mem_of_getElem? (i := 113) rfl), lw_t8 (List.mem_of_getElem? (i := 114) rfl)⟩
theorem lw_p50 : lw_okq (⟨"RoleLoomModel", "stepOf", "(II)I"⟩, 73) := ⟨⟨by decide +kernel, by decide +kernel⟩, lw_t6 (List.mem_of_getElem? (i := 226) rfl), lw_t8 (List.mem_of_getElem? (i := 121) rfl), lw_t8 (List.mem_of_getElem? (i := 122) rfl)⟩
theorem lw_p51 : lw_okq (⟨"RoleLoomModel", "startedAt", "(II)I"⟩, 73) := ⟨⟨by decide +kernel, by decide +kernel⟩, lw_t6 (List.mem_of_getElem? (i := 226) rfl), lw_t8 (List.mem_of_getElem? (i := 129) rfl), lw_t8 (List.mem_of_getElem? (i := 130) rfl)⟩
theorem lw_p52 : lw_okq (⟨"RoleLoomModel", "begins", "()V"⟩, 73) := ⟨⟨by decide +kernel, by decide +kernel⟩, lw_t6 (List.mem_of_getElem? (i := 226) rfl), lw_t8 (List.mem_of_getElem? (i := 137) rfl), lw_t8 (List.mem_of_getElem? (i := 138) rfl)⟩
theorem lw_p53 : lw_okq (⟨"RoleLoomModel", "noThrow", "()V"⟩, 73) := ⟨⟨by decide +kernel, by decide +kernel⟩, lw_t6 (List.mem_of_getElem? (i := 226) rfl), lw_t8 (List.mem_of_getElem? (i := 141) rfl), lw_t8 (List.mem_of_getElem? (i := 142) rfl)⟩
theorem lw_p54 : lw_okq (⟨"RoleLoomModel", "start", "(I)I"⟩, 73) := ⟨⟨by decide +kernel, by decide +kernel⟩, lw_t6 (List.mem_of_getElem? (i := 226) rfl), lw_t8 (List.mem_of_getElem? (i := 145) rfl), lw_t8 (List.mem_of_getElem? (i := 146) rfl)⟩
theorem lw_p55 : lw_okq (⟨"RoleLoomModel", "isStarted", "(I)Z"⟩, 73) := ⟨⟨by decide +kernel, by decide +kernel⟩, lw_t6 (List.mem_of_getElem? (i := 226) rfl), lw_t8 (List.mem_of_getElem? (i := 149) rfl), lw_t8 (List.mem_of_getElem? (i := 150) rfl)⟩
theorem lw_p56 : lw_okq (⟨"RoleLoomModel", "clear", "(II)V"⟩, 73) := ⟨⟨by decide +kernel, by decide +kernel⟩, lw_t6 (List.mem_of_getElem? (i := 226) rfl), lw_t8 (List.mem_of_getElem? (i := 153) rfl), lw_t8 (List.mem_of_getElem? (i := 154) rfl)⟩
theorem lw_p57 : lw_okq (⟨"RoleLoomModel", "enter", "(IIIIIJ)V"⟩, 73) := ⟨⟨by decide +kernel, by decide +kernel⟩, lw_t6 (List.mem_of_getElem? (i := 226) rfl), lw_t8 (List.mem_of_getElem? (i := 157) rfl), lw_t8 (List.mem_of_getElem? (i := 158) rfl)⟩
theorem lw_p58 : lw_okq (⟨"RoleLoomModel", "goes", "()V"⟩, 73) := ⟨⟨by decide +kernel, by decide +kernel⟩, lw_t6 (List.mem_of_getElem? (i := 226) rfl), lw_t8 (List.mem_of_getElem? (i := 161) rfl), lw_t8 (List.mem_of_getElem? (i := 162) rfl)⟩
theorem lw_p59 : lw_okq (⟨"RoleLoomModel", "goOn", "()V"⟩, 73) := ⟨⟨by decide +kernel, by decide +kernel⟩, lw_t6 (List.mem_of_getElem? (i := 226) rfl), lw_t8 (List.mem_of_getElem? (i := 165) rfl), lw_t8 (List.mem_of_getElem? (i := 166) rfl)⟩
theorem lw_p60 : lw_okq (⟨"RoleLoomModel", "reckon", "(III)V"⟩, 73) := ⟨⟨by decide +kernel, by decide +kernel⟩, lw_t6 (List.mem_of_getElem? (i := 226) rfl), lw_t8 (List.mem_of_getElem? (i := 169) rfl), lw_t8 (List.mem_of_getElem? (i := 170) rfl)⟩
theorem lw_p61 : lw_okq (⟨"RoleLoomModel", "cellAt", "(II)I"⟩, 73) := ⟨⟨by decide +kernel, by decide +kernel⟩, lw_t6 (List.mem_of_getElem? (i := 226) rfl), lw_t8 (List.mem_of_getElem? (i := 173) rfl), lw_t8 (List.mem_of_getElem? (i := 174) rfl)⟩
theorem lw_p62 : lw_okq (⟨"RoleLoomModel", "raise", "(IJ)V"⟩, 73) := ⟨⟨by decide +kernel, by decide +kernel⟩, lw_t6 (List.mem_of_getElem? (i := 226) rfl), lw_t8 (List.mem_of_getElem? (i := 177) rfl), lw_t8 (List.mem_of_getElem? (i := 178) rfl)⟩
theorem lw_p63 : lw_okq (⟨"RoleLoomModel", "control", "(IIII)V"⟩, 73) := ⟨⟨by decide +kernel, by decide +kernel⟩, lw_t6 (List.mem_of_getElem? (i := 226) rfl), lw_t8 (List.mem_of_getElem? (i := 181) rfl), lw_t8 (List.mem_of_getElem? (i := 182) rfl)⟩
def lw_privs_4 : List (MethodName × Nat) := [(⟨"RoleLoomModel", "isUnder", "(II)Z"⟩, 73), (⟨"RoleLoomModel", "areAlike", "(III)Z"⟩, 73), (⟨"RoleLoomModel", "stepOf", "(II)I"⟩, 73), (⟨"RoleLoomModel", "startedAt", "(II)I"⟩, 73), (⟨"RoleLoomModel", "begins", "()V"⟩, 73), (⟨"RoleLoomModel", "noThrow", "()V"⟩, 73), (⟨"RoleLoomModel", "start", "(I)I"⟩, 73), (⟨"RoleLoomModel", "isStarted", "(I)Z"⟩, 73), (⟨"RoleLoomModel", "clear", "(II)V"⟩, 73), (⟨"RoleLoomModel", "enter", "(IIIIIJ)V"⟩, 73), (⟨"RoleLoomModel", "goes", "()V"⟩, 73), (⟨"RoleLoomModel", "goOn", "()V"⟩, 73), (⟨"RoleLoomModel", "reckon", "(III)V"⟩, 73), (⟨"RoleLoomModel", "cellAt", "(II)I"⟩, 73), (⟨"RoleLoomModel", "raise", "(IJ)V"⟩, 73), (⟨"RoleLoomModel", "control", "(IIII)V"⟩, 73)]
theorem lw_r4 : ∀ q ∈ lw_privs_4, lw_okq q := List.forall_mem_cons.mpr ⟨lw_p48, List.forall_mem_cons.mpr ⟨lw_p49, List.forall_mem_cons.mpr ⟨lw_p50, List.forall_mem_cons.mpr ⟨lw_p51, List.forall_mem_cons.mpr ⟨lw_p52, List.forall_mem_cons.mpr ⟨lw_p53, List.forall_mem_cons.mpr ⟨lw_p54, List.forall_mem_cons.mpr ⟨lw_p55, List.forall_mem_cons.mpr ⟨lw_p56, List.forall_mem_cons.mpr ⟨lw_p57, List.forall_mem_cons.mpr ⟨lw_p58, List.forall_mem_cons.mpr ⟨lw_p59, List.forall_mem_cons.mpr ⟨lw_p60, List.forall_mem_cons.mpr ⟨lw_p61, List.forall_mem_cons.mpr ⟨lw_p62, List.forall_mem_cons.mpr ⟨lw_p63, fun _ h => absurd h List.not_mem_nil⟩⟩⟩⟩⟩⟩⟩⟩⟩⟩⟩⟩⟩⟩⟩⟩
theorem lw_p64 : lw_okq (⟨"RoleLoomModel", "enterChain", "(IIIJ)V"⟩, 73) := ⟨⟨by decide +kernel, by decide +kernel⟩, lw_t6 (List.mem_of_getElem? (i := 226) rfl), lw_t8 (List.mem_of_getElem? (i := 185) rfl), lw_t8 (List.mem_of_getElem? (i := 186) rfl)⟩
theorem lw_p65 : lw_okq (⟨"RoleLoomModel", "enterLast", "(IIJ)V"⟩, 73) := ⟨⟨by decide +kernel, by decide +kernel⟩, lw_t6 (List.mem_of_getElem? (i := 226) rfl), lw_t8 (List.mem_of_getElem? (i := 189) rfl), lw_t8 (List.mem_of_getElem? (i := 190) rfl)⟩
theorem lw_p66 : lw_okq (⟨"RoleLoomModel", "enterAlias", "(IIJ)V"⟩, 73) := ⟨⟨by decide +kernel, by decide +kernel⟩, lw_t6 (List.mem_of_getElem? (i := 226) rfl), lw_t8 (List.mem_of_getElem? (i := 193) rfl), lw_t8 (List.mem_of_getElem? (i := 194) rfl)⟩
theorem lw_p67 : lw_okq (⟨"RoleLoomModel", "makeRow", "(II)V"⟩, 73) := ⟨⟨by decide +kernel, by decide +kernel⟩, lw_t6 (List.mem_of_getElem? (i := 226) rfl), lw_t8 (List.mem_of_getElem? (i := 197) rfl), lw_t8 (List.mem_of_getElem? (i := 198) rfl)⟩
theorem lw_p68 : lw_okq (⟨"RoleLoomModel", "rowAt", "(II)I"⟩, 73) := ⟨⟨by decide +kernel, by decide +kernel⟩, lw_t6 (List.mem_of_getElem? (i := 226) rfl), lw_t8 (List.mem_of_getElem? (i := 202) rfl), lw_t8 (List.mem_of_getElem? (i := 203) rfl)⟩
theorem lw_p69 : lw_okq (⟨"RoleLoomModel", "placeInRow", "(IIIJ)V"⟩, 73) := ⟨⟨by decide +kernel, by decide +kernel⟩, lw_t6 (List.mem_of_getElem? (i := 226) rfl), lw_t8 (List.mem_of_getElem? (i := 206) rfl), lw_t8 (List.mem_of_getElem? (i := 207) rfl)⟩
theorem lw_p70 : lw_okq (⟨"RoleLoomModel", "toOther", "(IIII)V"⟩, 73) := ⟨⟨by decide +kernel, by decide +kernel⟩, lw_t6 (List.mem_of_getElem? (i := 226) rfl), lw_t8 (List.mem_of_getElem? (i := 210) rfl), lw_t8 (List.mem_of_getElem? (i := 211) rfl)⟩
theorem lw_p71 : lw_okq (⟨"RoleLoomModel", "isObject", "(I)Z"⟩, 73) := ⟨⟨by decide +kernel, by decide +kernel⟩, lw_t6 (List.mem_of_getElem? (i := 226) rfl), lw_t8 (List.mem_of_getElem? (i := 218) rfl), lw_t8 (List.mem_of_getElem? (i := 219) rfl)⟩
theorem lw_p72 : lw_okq (⟨"RoleLoomModel", "tells", "(J)I"⟩, 73) := ⟨⟨by decide +kernel, by decide +kernel⟩, lw_t6 (List.mem_of_getElem? (i := 226) rfl), lw_t9 (List.mem_of_getElem? (i := 6) rfl), lw_t9 (List.mem_of_getElem? (i := 7) rfl)⟩
theorem lw_p73 : lw_okq (⟨"RoleLoomModel", "placeIn", "(II)I"⟩, 73) := ⟨⟨by decide +kernel, by decide +kernel⟩, lw_t6 (List.mem_of_getElem? (i := 226) rfl), lw_t9 (List.mem_of_getElem? (i := 14) rfl), lw_t9 (List.mem_of_getElem? (i := 15) rfl)⟩
theorem lw_p74 : lw_okq (⟨"RoleLoomModel", "mixed", "(JIII)J"⟩, 73) := ⟨⟨by decide +kernel, by decide +kernel⟩, lw_t6 (List.mem_of_getElem? (i := 226) rfl), lw_t9 (List.mem_of_getElem? (i := 44) rfl), lw_t9 (List.mem_of_getElem? (i := 45) rfl)⟩
def lw_privs_5 : List (MethodName × Nat) := [(⟨"RoleLoomModel", "enterChain", "(IIIJ)V"⟩, 73), (⟨"RoleLoomModel", "enterLast", "(IIJ)V"⟩, 73), (⟨"RoleLoomModel", "enterAlias", "(IIJ)V"⟩, 73), (⟨"RoleLoomModel", "makeRow", "(II)V"⟩, 73), (⟨"RoleLoomModel", "rowAt", "(II)I"⟩, 73), (⟨"RoleLoomModel", "placeInRow", "(IIIJ)V"⟩, 73), (⟨"RoleLoomModel", "toOther", "(IIII)V"⟩, 73), (⟨"RoleLoomModel", "isObject", "(I)Z"⟩, 73), (⟨"RoleLoomModel", "tells", "(J)I"⟩, 73), (⟨"RoleLoomModel", "placeIn", "(II)I"⟩, 73), (⟨"RoleLoomModel", "mixed", "(JIII)J"⟩, 73)]
theorem lw_r5 : ∀ q ∈ lw_privs_5, lw_okq q := List.forall_mem_cons.mpr ⟨lw_p64, List.forall_mem_cons.mpr ⟨lw_p65, List.forall_mem_cons.mpr ⟨lw_p66, List.forall_mem_cons.mpr ⟨lw_p67, List.forall_mem_cons.mpr ⟨lw_p68, List.forall_mem_cons.mpr ⟨lw_p69, List.forall_mem_cons.mpr ⟨lw_p70, List.forall_mem_cons.mpr ⟨lw_p71, List.forall_mem_cons.mpr ⟨lw_p72, List.forall_mem_cons.mpr ⟨lw_p73, List.forall_mem_cons.mpr ⟨lw_p74, fun _ h => absurd h List.not_mem_nil⟩⟩⟩⟩⟩⟩⟩⟩⟩⟩⟩
def lw_privs : List (MethodName × Nat) := lw_privs_1 ++ (lw_privs_2 ++ (lw_privs_3 ++ (lw_privs_4 ++ (lw_privs_5))))
def lw_tbl : List Cond := k2_sels lw_privs ++ tables_1
theorem lw_privs_ok : ∀ q ∈ lw_privs, lw_okq q := by
  show ∀ q ∈ lw_privs_1 ++ (lw_privs_2 ++ (lw_privs_3 ++ (lw_privs_4 ++ (lw_privs_5)))), lw_okq q
  exact List.forall_mem_append.mpr ⟨lw_r1, List.forall_mem_append.mpr ⟨lw_r2, List.forall_mem_append.mpr ⟨lw_r3, List.forall_mem_append.mpr ⟨lw_r4, lw_r5⟩⟩⟩⟩
-- ===== ONE list of words for every method: the tables' words that hold all through a run =====
def lw_all : List Cond := lw_tbl.filter goodWord
/-- a word of the tables by its place: claim/WORDS.tsv -/
theorem lw_w {w : Cond} (i : Nat) (h : lw_tbl[i]? = some w) (g : goodWord w = true) : w ∈ lw_all := List.mem_filter.mpr ⟨List.mem_of_getElem? h, g⟩
theorem lw_all_tbl {w : Cond} (h : w ∈ lw_all) : w ∈ lw_tbl := (List.mem_filter.mp h).1
theorem lw_self : GoodIn lw_all lw_all := fun w h => ⟨h, good_of_word (List.mem_filter.mp h).2⟩
/-- a class's field words, by their places -/
theorem lw_in (ws : List Cond) (ps : List Nat) (hp : ws = ps.filterMap (fun i => lw_tbl[i]?)) (hg : ws.all goodWord = true) : ∀ w ∈ ws, w ∈ lw_all := by
  intro w h
  have h1 := List.all_eq_true.mp hg w h
  rw [hp] at h
  obtain ⟨i, -, hi⟩ := List.mem_filterMap.mp h
  exact lw_w i hi h1
/-- the words of a contract for the method y with code b, L locals, answer r -/
abbrev ws_ (y : MethodName) (b : ByteArray) (L : Nat) (r : Option FieldType) : List Cond := Cond.code y b L r :: lw_all
theorem lw_meth {y : MethodName} {b : ByteArray} {L : Nat} {r : Option FieldType} (h : Cond.code y b L r ∈ lw_all) : GoodIn lw_all (ws_ y b L r) := by
  intro w hw
  rcases List.mem_cons.mp hw with e | e
  · rw [e]
    exact lw_self _ h
  · exact lw_self _ e
theorem lw_app {a c : List Cond} (ha : ∀ w ∈ a, w ∈ lw_all) (hc : GoodIn lw_all c) : GoodIn lw_all (a ++ c) := by
  intro w hw
  rcases List.mem_append.mp hw with e | e
  · exact lw_self w (ha w e)
  · exact hc w e
/-- what a call through an object asks: cwV n hts (lw_V ..) -/
theorem lw_V {own : String} {idx : Nat} {C : String} {y : MethodName} {b : ByteArray} {L : Nat} {r : Option FieldType} (h1 : Cond.methodLink own idx y ∈ lw_all) (h2 : Cond.instanceMethod y ∈ lw_all) (h3 : Cond.selects C y y ∈ lw_all) (h4 : Cond.initialized C ∈ lw_all) (h5 : Cond.code y b L r ∈ lw_all) : GoodIn lw_all (wsV own idx C y (ws_ y b L r)) := by
  refine lw_app ?_ (lw_meth h5)
  intro w hw
  simp only [List.mem_cons, List.not_mem_nil, or_false] at hw
  rcases hw with e | e | e | e
  · rw [e]; exact h1
  · rw [e]; exact h2
  · rw [e]; exact h3
  · rw [e]; exact h4
/-- what a static call asks: va_cwS n hts (lw_S ..) -/
theorem lw_S {own : String} {idx : Nat} {y : MethodName} {b : ByteArray} {L : Nat} {r : Option FieldType} (h1 : Cond.methodLink own idx y ∈ lw_all) (h2 : Cond.static y ∈ lw_all) (h3 : Cond.initialized y.cls ∈ lw_all) (h4 : Cond.code y b L r ∈ lw_all) : GoodIn lw_all (va_wsS own idx y (ws_ y b L r)) := by
  refine lw_app ?_ (lw_meth h4)
  intro w hw
  simp only [List.mem_cons, List.not_mem_nil, or_false] at hw
  rcases hw with e | e | e
  · rw [e]; exact h1
  · rw [e]; exact h2
  · rw [e]; exact h3
/-- the words of a contract for a method WITH HANDLERS (hh: its table) -/
abbrev wsW_ (y : MethodName) (b : ByteArray) (L : Nat) (r : Option FieldType) (hh : List (Nat × Nat × Nat × Nat)) : List Cond := Cond.codeWith y b L r hh :: lw_all
theorem lw_methW {y : MethodName} {b : ByteArray} {L : Nat} {r : Option FieldType} {hh : List (Nat × Nat × Nat × Nat)} (h : Cond.codeWith y b L r hh ∈ lw_all) : GoodIn lw_all (wsW_ y b L r hh) := by
  intro w hw
  rcases List.mem_cons.mp hw with e | e
  · rw [e]
    exact lw_self _ h
  · exact lw_self _ e
/-- any list of words by their places (lw_in), good -/
theorem lw_good {ws : List Cond} (h : ∀ w ∈ ws, w ∈ lw_all) : GoodIn lw_all ws := fun w hw => lw_self w (h w hw)
/-- what a call of a method with handlers asks: vx_cwVW n hts (lw_VW ..), vx_cwSW n hts (lw_SW ..) -/
theorem lw_VW {own : String} {idx : Nat} {C : String} {y : MethodName} {b : ByteArray} {L : Nat} {r : Option FieldType} {hh : List (Nat × Nat × Nat × Nat)} (h1 : Cond.methodLink own idx y ∈ lw_all) (h2 : Cond.instanceMethod y ∈ lw_all) (h3 : Cond.selects C y y ∈ lw_all) (h4 : Cond.initialized C ∈ lw_all) (h5 : Cond.codeWith y b L r hh ∈ lw_all) : GoodIn lw_all (wsV own idx C y (wsW_ y b L r hh)) := by
  refine lw_app ?_ (lw_methW h5)
  intro w hw
  simp only [List.mem_cons, List.not_mem_nil, or_false] at hw
  rcases hw with e | e | e | e
  · rw [e]; exact h1
  · rw [e]; exact h2
  · rw [e]; exact h3
  · rw [e]; exact h4
theorem lw_SW {own : String} {idx : Nat} {y : MethodName} {b : ByteArray} {L : Nat} {r : Option FieldType} {hh : List (Nat × Nat × Nat × Nat)} (h1 : Cond.methodLink own idx y ∈ lw_all) (h2 : Cond.static y ∈ lw_all) (h3 : Cond.initialized y.cls ∈ lw_all) (h4 : Cond.codeWith y b L r hh ∈ lw_all) : GoodIn lw_all (va_wsS own idx y (wsW_ y b L r hh)) := by
  refine lw_app ?_ (lw_methW h4)
  intro w hw
  simp only [List.mem_cons, List.not_mem_nil, or_false] at hw
  rcases hw with e | e | e
  · rw [e]; exact h1
  · rw [e]; exact h2
  · rw [e]; exact h3
/-- a word by its place in its run of the tables -/
theorem lw_at {r : List Cond} (hr : ∀ w ∈ r, w ∈ lw_tbl) {w : Cond} (i : Nat) (h : r[i]? = some w) : w ∈ lw_tbl := hr w (List.mem_of_getElem? h)
theorem lw_g {w : Cond} (h : w ∈ lw_tbl) (g : goodWord w = true) : w ∈ lw_all := List.mem_filter.mpr ⟨h, g⟩
theorem lw_ms : ∀ w ∈ k2_sels lw_privs, w ∈ lw_tbl := fun w h => show w ∈ k2_sels lw_privs ++ tables_1 from List.mem_append_left _ h
theorem lw_m1 : ∀ w ∈ tables_1_1, w ∈ lw_tbl := fun w h => show w ∈ k2_sels lw_privs ++ tables_1 from List.mem_append_right (k2_sels lw_privs) (show w ∈ tables_1 from List.mem_append_left _ h)
theorem lw_m2 : ∀ w ∈ tables_1_2, w ∈ lw_tbl := fun w h => show w ∈ k2_sels lw_privs ++ tables_1 from List.mem_append_right (k2_sels lw_privs) (show w ∈ tables_1 from List.mem_append_right _ (List.mem_append_left _ h))
theorem lw_m3 : ∀ w ∈ tables_1_3, w ∈ lw_tbl := fun w h => show w ∈ k2_sels lw_privs ++ tables_1 from List.mem_append_right (k2_sels lw_privs) (show w ∈ tables_1 from List.mem_append_right _ (List.mem_append_right _ (List.mem_append_left _ h)))
theorem lw_m4 : ∀ w ∈ tables_1_4, w ∈ lw_tbl := fun w h => show w ∈ k2_sels lw_privs ++ tables_1 from List.mem_append_right (k2_sels lw_privs) (show w ∈ tables_1 from List.mem_append_right _ (List.mem_append_right _ (List.mem_append_right _ (List.mem_append_left _ h))))
theorem lw_m5 : ∀ w ∈ tables_1_5, w ∈ lw_tbl := fun w h => show w ∈ k2_sels lw_privs ++ tables_1 from List.mem_append_right (k2_sels lw_privs) (show w ∈ tables_1 from List.mem_append_right _ (List.mem_append_right _ (List.mem_append_right _ (List.mem_append_right _ (List.mem_append_left _ h)))))
theorem lw_m6 : ∀ w ∈ tables_1_6, w ∈ lw_tbl := fun w h => show w ∈ k2_sels lw_privs ++ tables_1 from List.mem_append_right (k2_sels lw_privs) (show w ∈ tables_1 from List.mem_append_right _ (List.mem_append_right _ (List.mem_append_right _ (List.mem_append_right _ (List.mem_append_right _ (List.mem_append_left _ h))))))
theorem lw_m7 : ∀ w ∈ tables_1_7, w ∈ lw_tbl := fun w h => show w ∈ k2_sels lw_privs ++ tables_1 from List.mem_append_right (k2_sels lw_privs) (show w ∈ tables_1 from List.mem_append_right _ (List.mem_append_right _ (List.mem_append_right _ (List.mem_append_right _ (List.mem_append_right _ (List.mem_append_right _ (List.mem_append_left _ h)))))))
theorem lw_m8 : ∀ w ∈ tables_1_8, w ∈ lw_tbl := fun w h => show w ∈ k2_sels lw_privs ++ tables_1 from List.mem_append_right (k2_sels lw_privs) (show w ∈ tables_1 from List.mem_append_right _ (List.mem_append_right _ (List.mem_append_right _ (List.mem_append_right _ (List.mem_append_right _ (List.mem_append_right _ (List.mem_append_right _ (List.mem_append_left _ h))))))))
theorem lw_m9 : ∀ w ∈ tables_1_9, w ∈ lw_tbl := fun w h => show w ∈ k2_sels lw_privs ++ tables_1 from List.mem_append_right (k2_sels lw_privs) (show w ∈ tables_1 from List.mem_append_right _ (List.mem_append_right _ (List.mem_append_right _ (List.mem_append_right _ (List.mem_append_right _ (List.mem_append_right _ (List.mem_append_right _ (List.mem_append_right _ h))))))))
theorem qs0 : (Cond.selects "java/lang/Throwable" ⟨"java/lang/Throwable", "fillInStackTrace", "(I)Ljava/lang/Throwable;"⟩ ⟨"java/lang/Throwable", "fillInStackTrace", "(I)Ljava/lang/Throwable;"⟩) ∈ lw_all := lw_g (lw_at lw_ms 0 rfl) rfl
theorem qs1 : (Cond.selects "java/util/ArrayList" ⟨"java/util/ArrayList", "add", "(Ljava/lang/Object;[Ljava/lang/Object;I)V"⟩ ⟨"java/util/ArrayList", "add", "(Ljava/lang/Object;[Ljava/lang/Object;I)V"⟩) ∈ lw_all := lw_g (lw_at lw_ms 1 rfl) rfl
theorem qs2 : (Cond.selects "java/util/ArrayList" ⟨"java/util/ArrayList", "grow", "()[Ljava/lang/Object;"⟩ ⟨"java/util/ArrayList", "grow", "()[Ljava/lang/Object;"⟩) ∈ lw_all := lw_g (lw_at lw_ms 2 rfl) rfl
theorem qs3 : (Cond.selects "java/util/ArrayList" ⟨"java/util/ArrayList", "grow", "(I)[Ljava/lang/Object;"⟩ ⟨"java/util/ArrayList", "grow", "(I)[Ljava/lang/Object;"⟩) ∈ lw_all := lw_g (lw_at lw_ms 3 rfl) rfl
theorem qs4 : (Cond.selects "RoleLoom" ⟨"RoleLoom", "isPart", "(I)Z"⟩ ⟨"RoleLoom", "isPart", "(I)Z"⟩) ∈ lw_all := lw_g (lw_at lw_ms 4 rfl) rfl
theorem qs5 : (Cond.selects "RoleLoom" ⟨"RoleLoom", "make", "(III)LRoleLoom$Act;"⟩ ⟨"RoleLoom", "make", "(III)LRoleLoom$Act;"⟩) ∈ lw_all := lw_g (lw_at lw_ms 5 rfl) rfl
theorem qs6 : (Cond.selects "RoleLoom" ⟨"RoleLoom", "woven", "()I"⟩ ⟨"RoleLoom", "woven", "()I"⟩) ∈ lw_all := lw_g (lw_at lw_ms 6 rfl) rfl
theorem qs7 : (Cond.selects "RoleLoom" ⟨"RoleLoom", "layOrder", "()V"⟩ ⟨"RoleLoom", "layOrder", "()V"⟩) ∈ lw_all := lw_g (lw_at lw_ms 7 rfl) rfl
theorem qs8 : (Cond.selects "RoleLoom" ⟨"RoleLoom", "take", "(LRoleLoom$Part;)V"⟩ ⟨"RoleLoom", "take", "(LRoleLoom$Part;)V"⟩) ∈ lw_all := lw_g (lw_at lw_ms 8 rfl) rfl
theorem qs9 : (Cond.selects "RoleLoom" ⟨"RoleLoom", "stands", "(LRoleLoom$Part;LRoleLoom$Part;)V"⟩ ⟨"RoleLoom", "stands", "(LRoleLoom$Part;LRoleLoom$Part;)V"⟩) ∈ lw_all := lw_g (lw_at lw_ms 9 rfl) rfl
theorem qs10 : (Cond.selects "RoleLoom" ⟨"RoleLoom", "isAnyLeft", "()Z"⟩ ⟨"RoleLoom", "isAnyLeft", "()Z"⟩) ∈ lw_all := lw_g (lw_at lw_ms 10 rfl) rfl
theorem qs11 : (Cond.selects "RoleLoom" ⟨"RoleLoom", "nextInLine", "()I"⟩ ⟨"RoleLoom", "nextInLine", "()I"⟩) ∈ lw_all := lw_g (lw_at lw_ms 11 rfl) rfl
theorem qs12 : (Cond.selects "RoleLoom" ⟨"RoleLoom", "aheadOf", "(I)I"⟩ ⟨"RoleLoom", "aheadOf", "(I)I"⟩) ∈ lw_all := lw_g (lw_at lw_ms 12 rfl) rfl
theorem qs13 : (Cond.selects "RoleLoom" ⟨"RoleLoom", "findRing", "()V"⟩ ⟨"RoleLoom", "findRing", "()V"⟩) ∈ lw_all := lw_g (lw_at lw_ms 13 rfl) rfl
theorem qs14 : (Cond.selects "RoleLoom" ⟨"RoleLoom", "placeInRing", "(I)I"⟩ ⟨"RoleLoom", "placeInRing", "(I)I"⟩) ∈ lw_all := lw_g (lw_at lw_ms 14 rfl) rfl
theorem qs15 : (Cond.selects "RoleLoom" ⟨"RoleLoom", "layChains", "(LRoleLoom$Role;)V"⟩ ⟨"RoleLoom", "layChains", "(LRoleLoom$Role;)V"⟩) ∈ lw_all := lw_g (lw_at lw_ms 15 rfl) rfl
theorem qs16 : (Cond.selects "RoleLoom" ⟨"RoleLoom", "isExcluded", "(II)Z"⟩ ⟨"RoleLoom", "isExcluded", "(II)Z"⟩) ∈ lw_all := lw_g (lw_at lw_ms 16 rfl) rfl
theorem qs17 : (Cond.selects "RoleLoom" ⟨"RoleLoom", "isWhole", "(LRoleLoom$Role;)Z"⟩ ⟨"RoleLoom", "isWhole", "(LRoleLoom$Role;)Z"⟩) ∈ lw_all := lw_g (lw_at lw_ms 17 rfl) rfl
theorem qs18 : (Cond.selects "RoleLoom" ⟨"RoleLoom", "lacks", "(II)Z"⟩ ⟨"RoleLoom", "lacks", "(II)Z"⟩) ∈ lw_all := lw_g (lw_at lw_ms 18 rfl) rfl
theorem qs19 : (Cond.selects "RoleLoom" ⟨"RoleLoom", "emptyDraft", "()V"⟩ ⟨"RoleLoom", "emptyDraft", "()V"⟩) ∈ lw_all := lw_g (lw_at lw_ms 19 rfl) rfl
theorem qs20 : (Cond.selects "RoleLoom" ⟨"RoleLoom", "isRole", "(I)Z"⟩ ⟨"RoleLoom", "isRole", "(I)Z"⟩) ∈ lw_all := lw_g (lw_at lw_ms 20 rfl) rfl
theorem qs21 : (Cond.selects "RoleLoom" ⟨"RoleLoom", "stepOf", "(LRoleLoom$Role;I)LRoleLoom$Role;"⟩ ⟨"RoleLoom", "stepOf", "(LRoleLoom$Role;I)LRoleLoom$Role;"⟩) ∈ lw_all := lw_g (lw_at lw_ms 21 rfl) rfl
theorem qs22 : (Cond.selects "RoleLoom" ⟨"RoleLoom", "beginRun", "()V"⟩ ⟨"RoleLoom", "beginRun", "()V"⟩) ∈ lw_all := lw_g (lw_at lw_ms 22 rfl) rfl
theorem qs23 : (Cond.selects "RoleLoom" ⟨"RoleLoom", "starts", "(LRoleLoom$Part;)Z"⟩ ⟨"RoleLoom", "starts", "(LRoleLoom$Part;)Z"⟩) ∈ lw_all := lw_g (lw_at lw_ms 23 rfl) rfl
theorem qs24 : (Cond.selects "RoleLoom" ⟨"RoleLoom", "goes", "(LRoleLoom$Frame;LRoleLoom$Body;JI)J"⟩ ⟨"RoleLoom", "goes", "(LRoleLoom$Frame;LRoleLoom$Body;JI)J"⟩) ∈ lw_all := lw_g (lw_at lw_ms 24 rfl) rfl
theorem qs25 : (Cond.selects "RoleLoom" ⟨"RoleLoom", "stops", "(I)LRoleLoom$Stop;"⟩ ⟨"RoleLoom", "stops", "(I)LRoleLoom$Stop;"⟩) ∈ lw_all := lw_g (lw_at lw_ms 25 rfl) rfl
theorem qs26 : (Cond.selects "RoleLoom" ⟨"RoleLoom", "thrown", "(LRoleLoom$Frame;IJ)LRoleLoom$Thrown;"⟩ ⟨"RoleLoom", "thrown", "(LRoleLoom$Frame;IJ)LRoleLoom$Thrown;"⟩) ∈ lw_all := lw_g (lw_at lw_ms 26 rfl) rfl
theorem qs27 : (Cond.selects "RoleLoom" ⟨"RoleLoom", "run", "(LRoleLoom$Thing;Ljava/util/ArrayList;IJI)J"⟩ ⟨"RoleLoom", "run", "(LRoleLoom$Thing;Ljava/util/ArrayList;IJI)J"⟩) ∈ lw_all := lw_g (lw_at lw_ms 27 rfl) rfl
theorem qs28 : (Cond.selects "RoleLoom" ⟨"RoleLoom", "noteThrown", "(LRoleLoom$Thrown;)V"⟩ ⟨"RoleLoom", "noteThrown", "(LRoleLoom$Thrown;)V"⟩) ∈ lw_all := lw_g (lw_at lw_ms 28 rfl) rfl
theorem qs29 : (Cond.selects "RoleLoom" ⟨"RoleLoom", "isThing", "(I)Z"⟩ ⟨"RoleLoom", "isThing", "(I)Z"⟩) ∈ lw_all := lw_g (lw_at lw_ms 29 rfl) rfl
theorem qs30 : (Cond.selects "RoleLoom" ⟨"RoleLoom", "tells", "(J)I"⟩ ⟨"RoleLoom", "tells", "(J)I"⟩) ∈ lw_all := lw_g (lw_at lw_ms 30 rfl) rfl
theorem qs31 : (Cond.selects "RoleLoom" ⟨"RoleLoom", "stateOf", "(II)LRoleLoom$State;"⟩ ⟨"RoleLoom", "stateOf", "(II)LRoleLoom$State;"⟩) ∈ lw_all := lw_g (lw_at lw_ms 31 rfl) rfl
theorem qs32 : (Cond.selects "RoleLoomModel" ⟨"RoleLoomModel", "isPart", "(I)Z"⟩ ⟨"RoleLoomModel", "isPart", "(I)Z"⟩) ∈ lw_all := lw_g (lw_at lw_ms 32 rfl) rfl
theorem qs33 : (Cond.selects "RoleLoomModel" ⟨"RoleLoomModel", "isExtended", "(II)Z"⟩ ⟨"RoleLoomModel", "isExtended", "(II)Z"⟩) ∈ lw_all := lw_g (lw_at lw_ms 33 rfl) rfl
theorem qs34 : (Cond.selects "RoleLoomModel" ⟨"RoleLoomModel", "isRight", "(IIII)Z"⟩ ⟨"RoleLoomModel", "isRight", "(IIII)Z"⟩) ∈ lw_all := lw_g (lw_at lw_ms 34 rfl) rfl
theorem qs35 : (Cond.selects "RoleLoomModel" ⟨"RoleLoomModel", "woven", "()I"⟩ ⟨"RoleLoomModel", "woven", "()I"⟩) ∈ lw_all := lw_g (lw_at lw_ms 35 rfl) rfl
theorem qs36 : (Cond.selects "RoleLoomModel" ⟨"RoleLoomModel", "lay", "(I)Z"⟩ ⟨"RoleLoomModel", "lay", "(I)Z"⟩) ∈ lw_all := lw_g (lw_at lw_ms 36 rfl) rfl
theorem qs37 : (Cond.selects "RoleLoomModel" ⟨"RoleLoomModel", "close", "()V"⟩ ⟨"RoleLoomModel", "close", "()V"⟩) ∈ lw_all := lw_g (lw_at lw_ms 37 rfl) rfl
theorem qs38 : (Cond.selects "RoleLoomModel" ⟨"RoleLoomModel", "leastAhead", "(I)I"⟩ ⟨"RoleLoomModel", "leastAhead", "(I)I"⟩) ∈ lw_all := lw_g (lw_at lw_ms 38 rfl) rfl
theorem qs39 : (Cond.selects "RoleLoomModel" ⟨"RoleLoomModel", "isAhead", "(II)Z"⟩ ⟨"RoleLoomModel", "isAhead", "(II)Z"⟩) ∈ lw_all := lw_g (lw_at lw_ms 39 rfl) rfl
theorem qs40 : (Cond.selects "RoleLoomModel" ⟨"RoleLoomModel", "isToldBy", "(III)Z"⟩ ⟨"RoleLoomModel", "isToldBy", "(III)Z"⟩) ∈ lw_all := lw_g (lw_at lw_ms 40 rfl) rfl
theorem qs41 : (Cond.selects "RoleLoomModel" ⟨"RoleLoomModel", "tellRing", "(I)V"⟩ ⟨"RoleLoomModel", "tellRing", "(I)V"⟩) ∈ lw_all := lw_g (lw_at lw_ms 41 rfl) rfl
theorem qs42 : (Cond.selects "RoleLoomModel" ⟨"RoleLoomModel", "chain", "(II)V"⟩ ⟨"RoleLoomModel", "chain", "(II)V"⟩) ∈ lw_all := lw_g (lw_at lw_ms 42 rfl) rfl
theorem qs43 : (Cond.selects "RoleLoomModel" ⟨"RoleLoomModel", "isExcluded", "(II)Z"⟩ ⟨"RoleLoomModel", "isExcluded", "(II)Z"⟩) ∈ lw_all := lw_g (lw_at lw_ms 43 rfl) rfl
theorem qs44 : (Cond.selects "RoleLoomModel" ⟨"RoleLoomModel", "lacksAny", "(I)Z"⟩ ⟨"RoleLoomModel", "lacksAny", "(I)Z"⟩) ∈ lw_all := lw_g (lw_at lw_ms 44 rfl) rfl
theorem qs45 : (Cond.selects "RoleLoomModel" ⟨"RoleLoomModel", "hasGiven", "(II)Z"⟩ ⟨"RoleLoomModel", "hasGiven", "(II)Z"⟩) ∈ lw_all := lw_g (lw_at lw_ms 45 rfl) rfl
theorem qs46 : (Cond.selects "RoleLoomModel" ⟨"RoleLoomModel", "chainPlace", "(III)I"⟩ ⟨"RoleLoomModel", "chainPlace", "(III)I"⟩) ∈ lw_all := lw_g (lw_at lw_ms 46 rfl) rfl
theorem qs47 : (Cond.selects "RoleLoomModel" ⟨"RoleLoomModel", "isRole", "(I)Z"⟩ ⟨"RoleLoomModel", "isRole", "(I)Z"⟩) ∈ lw_all := lw_g (lw_at lw_ms 47 rfl) rfl
theorem qs48 : (Cond.selects "RoleLoomModel" ⟨"RoleLoomModel", "isUnder", "(II)Z"⟩ ⟨"RoleLoomModel", "isUnder", "(II)Z"⟩) ∈ lw_all := lw_g (lw_at lw_ms 48 rfl) rfl
theorem qs49 : (Cond.selects "RoleLoomModel" ⟨"RoleLoomModel", "areAlike", "(III)Z"⟩ ⟨"RoleLoomModel", "areAlike", "(III)Z"⟩) ∈ lw_all := lw_g (lw_at lw_ms 49 rfl) rfl
theorem qs50 : (Cond.selects "RoleLoomModel" ⟨"RoleLoomModel", "stepOf", "(II)I"⟩ ⟨"RoleLoomModel", "stepOf", "(II)I"⟩) ∈ lw_all := lw_g (lw_at lw_ms 50 rfl) rfl
theorem qs51 : (Cond.selects "RoleLoomModel" ⟨"RoleLoomModel", "startedAt", "(II)I"⟩ ⟨"RoleLoomModel", "startedAt", "(II)I"⟩) ∈ lw_all := lw_g (lw_at lw_ms 51 rfl) rfl
theorem qs52 : (Cond.selects "RoleLoomModel" ⟨"RoleLoomModel", "begins", "()V"⟩ ⟨"RoleLoomModel", "begins", "()V"⟩) ∈ lw_all := lw_g (lw_at lw_ms 52 rfl) rfl
theorem qs53 : (Cond.selects "RoleLoomModel" ⟨"RoleLoomModel", "noThrow", "()V"⟩ ⟨"RoleLoomModel", "noThrow", "()V"⟩) ∈ lw_all := lw_g (lw_at lw_ms 53 rfl) rfl
theorem qs54 : (Cond.selects "RoleLoomModel" ⟨"RoleLoomModel", "start", "(I)I"⟩ ⟨"RoleLoomModel", "start", "(I)I"⟩) ∈ lw_all := lw_g (lw_at lw_ms 54 rfl) rfl
theorem qs55 : (Cond.selects "RoleLoomModel" ⟨"RoleLoomModel", "isStarted", "(I)Z"⟩ ⟨"RoleLoomModel", "isStarted", "(I)Z"⟩) ∈ lw_all := lw_g (lw_at lw_ms 55 rfl) rfl
theorem qs56 : (Cond.selects "RoleLoomModel" ⟨"RoleLoomModel", "clear", "(II)V"⟩ ⟨"RoleLoomModel", "clear", "(II)V"⟩) ∈ lw_all := lw_g (lw_at lw_ms 56 rfl) rfl
theorem qs57 : (Cond.selects "RoleLoomModel" ⟨"RoleLoomModel", "enter", "(IIIIIJ)V"⟩ ⟨"RoleLoomModel", "enter", "(IIIIIJ)V"⟩) ∈ lw_all := lw_g (lw_at lw_ms 57 rfl) rfl
theorem qs58 : (Cond.selects "RoleLoomModel" ⟨"RoleLoomModel", "goes", "()V"⟩ ⟨"RoleLoomModel", "goes", "()V"⟩) ∈ lw_all := lw_g (lw_at lw_ms 58 rfl) rfl
theorem qs59 : (Cond.selects "RoleLoomModel" ⟨"RoleLoomModel", "goOn", "()V"⟩ ⟨"RoleLoomModel", "goOn", "()V"⟩) ∈ lw_all := lw_g (lw_at lw_ms 59 rfl) rfl
theorem qs60 : (Cond.selects "RoleLoomModel" ⟨"RoleLoomModel", "reckon", "(III)V"⟩ ⟨"RoleLoomModel", "reckon", "(III)V"⟩) ∈ lw_all := lw_g (lw_at lw_ms 60 rfl) rfl
theorem qs61 : (Cond.selects "RoleLoomModel" ⟨"RoleLoomModel", "cellAt", "(II)I"⟩ ⟨"RoleLoomModel", "cellAt", "(II)I"⟩) ∈ lw_all := lw_g (lw_at lw_ms 61 rfl) rfl
theorem qs62 : (Cond.selects "RoleLoomModel" ⟨"RoleLoomModel", "raise", "(IJ)V"⟩ ⟨"RoleLoomModel", "raise", "(IJ)V"⟩) ∈ lw_all := lw_g (lw_at lw_ms 62 rfl) rfl
theorem qs63 : (Cond.selects "RoleLoomModel" ⟨"RoleLoomModel", "control", "(IIII)V"⟩ ⟨"RoleLoomModel", "control", "(IIII)V"⟩) ∈ lw_all := lw_g (lw_at lw_ms 63 rfl) rfl
theorem qs64 : (Cond.selects "RoleLoomModel" ⟨"RoleLoomModel", "enterChain", "(IIIJ)V"⟩ ⟨"RoleLoomModel", "enterChain", "(IIIJ)V"⟩) ∈ lw_all := lw_g (lw_at lw_ms 64 rfl) rfl
theorem qs65 : (Cond.selects "RoleLoomModel" ⟨"RoleLoomModel", "enterLast", "(IIJ)V"⟩ ⟨"RoleLoomModel", "enterLast", "(IIJ)V"⟩) ∈ lw_all := lw_g (lw_at lw_ms 65 rfl) rfl
theorem qs66 : (Cond.selects "RoleLoomModel" ⟨"RoleLoomModel", "enterAlias", "(IIJ)V"⟩ ⟨"RoleLoomModel", "enterAlias", "(IIJ)V"⟩) ∈ lw_all := lw_g (lw_at lw_ms 66 rfl) rfl
theorem qs67 : (Cond.selects "RoleLoomModel" ⟨"RoleLoomModel", "makeRow", "(II)V"⟩ ⟨"RoleLoomModel", "makeRow", "(II)V"⟩) ∈ lw_all := lw_g (lw_at lw_ms 67 rfl) rfl
theorem qs68 : (Cond.selects "RoleLoomModel" ⟨"RoleLoomModel", "rowAt", "(II)I"⟩ ⟨"RoleLoomModel", "rowAt", "(II)I"⟩) ∈ lw_all := lw_g (lw_at lw_ms 68 rfl) rfl
theorem qs69 : (Cond.selects "RoleLoomModel" ⟨"RoleLoomModel", "placeInRow", "(IIIJ)V"⟩ ⟨"RoleLoomModel", "placeInRow", "(IIIJ)V"⟩) ∈ lw_all := lw_g (lw_at lw_ms 69 rfl) rfl
theorem qs70 : (Cond.selects "RoleLoomModel" ⟨"RoleLoomModel", "toOther", "(IIII)V"⟩ ⟨"RoleLoomModel", "toOther", "(IIII)V"⟩) ∈ lw_all := lw_g (lw_at lw_ms 70 rfl) rfl
theorem qs71 : (Cond.selects "RoleLoomModel" ⟨"RoleLoomModel", "isObject", "(I)Z"⟩ ⟨"RoleLoomModel", "isObject", "(I)Z"⟩) ∈ lw_all := lw_g (lw_at lw_ms 71 rfl) rfl
theorem qs72 : (Cond.selects "RoleLoomModel" ⟨"RoleLoomModel", "tells", "(J)I"⟩ ⟨"RoleLoomModel", "tells", "(J)I"⟩) ∈ lw_all := lw_g (lw_at lw_ms 72 rfl) rfl
theorem qs73 : (Cond.selects "RoleLoomModel" ⟨"RoleLoomModel", "placeIn", "(II)I"⟩ ⟨"RoleLoomModel", "placeIn", "(II)I"⟩) ∈ lw_all := lw_g (lw_at lw_ms 73 rfl) rfl
theorem qs74 : (Cond.selects "RoleLoomModel" ⟨"RoleLoomModel", "mixed", "(JIII)J"⟩ ⟨"RoleLoomModel", "mixed", "(JIII)J"⟩) ∈ lw_all := lw_g (lw_at lw_ms 74 rfl) rfl
