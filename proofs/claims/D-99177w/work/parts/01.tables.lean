-- ===== PART A: goes FIRST, ahead of the names: the tables' words, and 'selects' of the private methods out of them =====
/-- a private method of a class that the tables say can be made, by its rows of tables_1 -/
def lw_okq (q : MethodName × Nat) : Prop := (q.1.cls ≠ "java/lang/invoke/MethodHandle" ∧ q.1.cls ≠ "java/lang/invoke/VarHandle") ∧ Cond.instantiable q.1.cls q.2 ∈ tables_1 ∧ Cond.privateMethod q.1 ∈ tables_1 ∧ Cond.instanceMethod q.1 ∈ tables_1
set_option maxRecDepth 100000
theorem lw_t1 {w : Cond} (h : w ∈ tables_1_1) : w ∈ tables_1 := List.mem_append_left _ h
theorem lw_t2 {w : Cond} (h : w ∈ tables_1_2) : w ∈ tables_1 := List.mem_append_right _ (List.mem_append_left _ h)
theorem lw_t3 {w : Cond} (h : w ∈ tables_1_3) : w ∈ tables_1 := List.mem_append_right _ (List.mem_append_right _ (List.mem_append_left _ h))
theorem lw_t4 {w : Cond} (h : w ∈ tables_1_4) : w ∈ tables_1 := List.mem_append_right _ (List.mem_append_right _ (List.mem_append_right _ (List.mem_append_left _ h)))
theorem lw_t5 {w : Cond} (h : w ∈ tables_1_5) : w ∈ tables_1 := List.mem_append_right _ (List.mem_append_right _ (List.mem_append_right _ (List.mem_append_right _ (List.mem_append_left _ h))))
theorem lw_t6 {w : Cond} (h : w ∈ tables_1_6) : w ∈ tables_1 := List.mem_append_right _ (List.mem_append_right _ (List.mem_append_right _ (List.mem_append_right _ (List.mem_append_right _ (List.mem_append_left _ h)))))
theorem lw_t7 {w : Cond} (h : w ∈ tables_1_7) : w ∈ tables_1 := List.mem_append_right _ (List.mem_append_right _ (List.mem_append_right _ (List.mem_append_right _ (List.mem_append_right _ (List.mem_append_right _ (List.mem_append_left _ h))))))
theorem lw_t8 {w : Cond} (h : w ∈ tables_1_8) : w ∈ tables_1 := List.mem_append_right _ (List.mem_append_right _ (List.mem_append_right _ (List.mem_append_right _ (List.mem_append_right _ (List.mem_append_right _ (List.mem_append_right _ (List.mem_append_left _ h)))))))
theorem lw_t9 {w : Cond} (h : w ∈ tables_1_9) : w ∈ tables_1 := List.mem_append_right _ (List.mem_append_right _ (List.mem_append_right _ (List.mem_append_right _ (List.mem_append_right _ (List.mem_append_right _ (List.mem_append_right _ (List.mem_append_right _ (List.mem_append_left _ h))))))))
theorem lw_t10 {w : Cond} (h : w ∈ tables_1_10) : w ∈ tables_1 := List.mem_append_right _ (List.mem_append_right _ (List.mem_append_right _ (List.mem_append_right _ (List.mem_append_right _ (List.mem_append_right _ (List.mem_append_right _ (List.mem_append_right _ (List.mem_append_right _ (List.mem_append_left _ h)))))))))
theorem lw_t11 {w : Cond} (h : w ∈ tables_1_11) : w ∈ tables_1 := List.mem_append_right _ (List.mem_append_right _ (List.mem_append_right _ (List.mem_append_right _ (List.mem_append_right _ (List.mem_append_right _ (List.mem_append_right _ (List.mem_append_right _ (List.mem_append_right _ (List.mem_append_right _ (List.mem_append_left _ h))))))))))
theorem lw_t12 {w : Cond} (h : w ∈ tables_1_12) : w ∈ tables_1 := List.mem_append_right _ (List.mem_append_right _ (List.mem_append_right _ (List.mem_append_right _ (List.mem_append_right _ (List.mem_append_right _ (List.mem_append_right _ (List.mem_append_right _ (List.mem_append_right _ (List.mem_append_right _ (List.mem_append_right _ h))))))))))
theorem lw_p0 : lw_okq (⟨"VisitingHours", "wouldMeet", "(LVisitingHours$World;II)Z"⟩, 16) := ⟨⟨by decide +kernel, by decide +kernel⟩, lw_t1 (List.mem_of_getElem? (i := 45) rfl), lw_t2 (List.mem_of_getElem? (i := 124) rfl), lw_t2 (List.mem_of_getElem? (i := 125) rfl)⟩
theorem lw_p1 : lw_okq (⟨"VisitingHours", "letsIn", "(LVisitingHours$World;III)Z"⟩, 16) := ⟨⟨by decide +kernel, by decide +kernel⟩, lw_t1 (List.mem_of_getElem? (i := 45) rfl), lw_t2 (List.mem_of_getElem? (i := 139) rfl), lw_t2 (List.mem_of_getElem? (i := 140) rfl)⟩
theorem lw_p2 : lw_okq (⟨"VisitingHours", "sceneOf", "(LVisitingHours$World;III)LVisitingHours$Scene;"⟩, 16) := ⟨⟨by decide +kernel, by decide +kernel⟩, lw_t1 (List.mem_of_getElem? (i := 45) rfl), lw_t2 (List.mem_of_getElem? (i := 147) rfl), lw_t2 (List.mem_of_getElem? (i := 148) rfl)⟩
theorem lw_p3 : lw_okq (⟨"VisitingHours", "joyBy", "(LVisitingHours$World;III)I"⟩, 16) := ⟨⟨by decide +kernel, by decide +kernel⟩, lw_t1 (List.mem_of_getElem? (i := 45) rfl), lw_t2 (List.mem_of_getElem? (i := 236) rfl), lw_t2 (List.mem_of_getElem? (i := 237) rfl)⟩
theorem lw_p4 : lw_okq (⟨"VisitingHours$Pairs", "hostAsks", "(I)V"⟩, 7) := ⟨⟨by decide +kernel, by decide +kernel⟩, lw_t2 (List.mem_of_getElem? (i := 20) rfl), lw_t3 (List.mem_of_getElem? (i := 41) rfl), lw_t3 (List.mem_of_getElem? (i := 42) rfl)⟩
theorem lw_p5 : lw_okq (⟨"VisitingHours$Pairs", "bestGuest", "(II)I"⟩, 7) := ⟨⟨by decide +kernel, by decide +kernel⟩, lw_t2 (List.mem_of_getElem? (i := 20) rfl), lw_t3 (List.mem_of_getElem? (i := 45) rfl), lw_t3 (List.mem_of_getElem? (i := 46) rfl)⟩
theorem lw_p6 : lw_okq (⟨"VisitingHours$Pairs", "hostRather", "(III)Z"⟩, 7) := ⟨⟨by decide +kernel, by decide +kernel⟩, lw_t2 (List.mem_of_getElem? (i := 20) rfl), lw_t3 (List.mem_of_getElem? (i := 50) rfl), lw_t3 (List.mem_of_getElem? (i := 51) rfl)⟩
theorem lw_p7 : lw_okq (⟨"VisitingHours$Pairs", "guestRather", "(III)Z"⟩, 7) := ⟨⟨by decide +kernel, by decide +kernel⟩, lw_t2 (List.mem_of_getElem? (i := 20) rfl), lw_t3 (List.mem_of_getElem? (i := 55) rfl), lw_t3 (List.mem_of_getElem? (i := 56) rfl)⟩
theorem lw_p8 : lw_okq (⟨"VisitingHours$Pairs", "guestAsks", "(I)V"⟩, 7) := ⟨⟨by decide +kernel, by decide +kernel⟩, lw_t2 (List.mem_of_getElem? (i := 20) rfl), lw_t3 (List.mem_of_getElem? (i := 66) rfl), lw_t3 (List.mem_of_getElem? (i := 67) rfl)⟩
theorem lw_p9 : lw_okq (⟨"VisitingHours$Pairs", "bestHost", "(II)I"⟩, 7) := ⟨⟨by decide +kernel, by decide +kernel⟩, lw_t2 (List.mem_of_getElem? (i := 20) rfl), lw_t3 (List.mem_of_getElem? (i := 70) rfl), lw_t3 (List.mem_of_getElem? (i := 71) rfl)⟩
theorem lw_p10 : lw_okq (⟨"VisitingHours$Pairs", "looksOn", "(I)V"⟩, 7) := ⟨⟨by decide +kernel, by decide +kernel⟩, lw_t2 (List.mem_of_getElem? (i := 20) rfl), lw_t3 (List.mem_of_getElem? (i := 74) rfl), lw_t3 (List.mem_of_getElem? (i := 75) rfl)⟩
theorem lw_p11 : lw_okq (⟨"VisitingHours$Pairs", "isBetween", "(II)Z"⟩, 7) := ⟨⟨by decide +kernel, by decide +kernel⟩, lw_t2 (List.mem_of_getElem? (i := 20) rfl), lw_t3 (List.mem_of_getElem? (i := 82) rfl), lw_t3 (List.mem_of_getElem? (i := 83) rfl)⟩
theorem lw_p12 : lw_okq (⟨"VisitingHours", "allMeet", "(I)Z"⟩, 16) := ⟨⟨by decide +kernel, by decide +kernel⟩, lw_t1 (List.mem_of_getElem? (i := 45) rfl), lw_t3 (List.mem_of_getElem? (i := 96) rfl), lw_t3 (List.mem_of_getElem? (i := 97) rfl)⟩
theorem lw_p13 : lw_okq (⟨"VisitingHours", "meetsIn", "(I)I"⟩, 16) := ⟨⟨by decide +kernel, by decide +kernel⟩, lw_t1 (List.mem_of_getElem? (i := 45) rfl), lw_t3 (List.mem_of_getElem? (i := 100) rfl), lw_t3 (List.mem_of_getElem? (i := 101) rfl)⟩
theorem lw_p14 : lw_okq (⟨"VisitingHours", "likedBy", "(I)I"⟩, 16) := ⟨⟨by decide +kernel, by decide +kernel⟩, lw_t1 (List.mem_of_getElem? (i := 45) rfl), lw_t3 (List.mem_of_getElem? (i := 108) rfl), lw_t3 (List.mem_of_getElem? (i := 109) rfl)⟩
theorem lw_p15 : lw_okq (⟨"VisitingHours", "isForlorn", "(I)Z"⟩, 16) := ⟨⟨by decide +kernel, by decide +kernel⟩, lw_t1 (List.mem_of_getElem? (i := 45) rfl), lw_t3 (List.mem_of_getElem? (i := 116) rfl), lw_t3 (List.mem_of_getElem? (i := 117) rfl)⟩
def lw_privs_1 : List (MethodName × Nat) := [(⟨"VisitingHours", "wouldMeet", "(LVisitingHours$World;II)Z"⟩, 16), (⟨"VisitingHours", "letsIn", "(LVisitingHours$World;III)Z"⟩, 16), (⟨"VisitingHours", "sceneOf", "(LVisitingHours$World;III)LVisitingHours$Scene;"⟩, 16), (⟨"VisitingHours", "joyBy", "(LVisitingHours$World;III)I"⟩, 16), (⟨"VisitingHours$Pairs", "hostAsks", "(I)V"⟩, 7), (⟨"VisitingHours$Pairs", "bestGuest", "(II)I"⟩, 7), (⟨"VisitingHours$Pairs", "hostRather", "(III)Z"⟩, 7), (⟨"VisitingHours$Pairs", "guestRather", "(III)Z"⟩, 7), (⟨"VisitingHours$Pairs", "guestAsks", "(I)V"⟩, 7), (⟨"VisitingHours$Pairs", "bestHost", "(II)I"⟩, 7), (⟨"VisitingHours$Pairs", "looksOn", "(I)V"⟩, 7), (⟨"VisitingHours$Pairs", "isBetween", "(II)Z"⟩, 7), (⟨"VisitingHours", "allMeet", "(I)Z"⟩, 16), (⟨"VisitingHours", "meetsIn", "(I)I"⟩, 16), (⟨"VisitingHours", "likedBy", "(I)I"⟩, 16), (⟨"VisitingHours", "isForlorn", "(I)Z"⟩, 16)]
theorem lw_r1 : ∀ q ∈ lw_privs_1, lw_okq q := List.forall_mem_cons.mpr ⟨lw_p0, List.forall_mem_cons.mpr ⟨lw_p1, List.forall_mem_cons.mpr ⟨lw_p2, List.forall_mem_cons.mpr ⟨lw_p3, List.forall_mem_cons.mpr ⟨lw_p4, List.forall_mem_cons.mpr ⟨lw_p5, List.forall_mem_cons.mpr ⟨lw_p6, List.forall_mem_cons.mpr ⟨lw_p7, List.forall_mem_cons.mpr ⟨lw_p8, List.forall_mem_cons.mpr ⟨lw_p9, List.forall_mem_cons.mpr ⟨lw_p10, List.forall_mem_cons.mpr ⟨lw_p11, List.forall_mem_cons.mpr ⟨lw_p12, List.forall_mem_cons.mpr ⟨lw_p13, List.forall_mem_cons.mpr ⟨lw_p14, List.forall_mem_cons.mpr ⟨lw_p15, fun _ h => absurd h List.not_mem_nil⟩⟩⟩⟩⟩⟩⟩⟩⟩⟩⟩⟩⟩⟩⟩⟩
theorem lw_p16 : lw_okq (⟨"VisitingHours", "likens", "(II)Z"⟩, 16) := ⟨⟨by decide +kernel, by decide +kernel⟩, lw_t1 (List.mem_of_getElem? (i := 45) rfl), lw_t3 (List.mem_of_getElem? (i := 124) rfl), lw_t3 (List.mem_of_getElem? (i := 125) rfl)⟩
theorem lw_p17 : lw_okq (⟨"java/util/ArrayList", "fastRemove", "([Ljava/lang/Object;I)V"⟩, 3) := ⟨⟨by decide +kernel, by decide +kernel⟩, lw_t1 (List.mem_of_getElem? (i := 234) rfl), lw_t3 (List.mem_of_getElem? (i := 145) rfl), lw_t3 (List.mem_of_getElem? (i := 146) rfl)⟩
theorem lw_p18 : lw_okq (⟨"VisitingHours", "groundText", "(LVisitingHours$World;)V"⟩, 16) := ⟨⟨by decide +kernel, by decide +kernel⟩, lw_t1 (List.mem_of_getElem? (i := 45) rfl), lw_t3 (List.mem_of_getElem? (i := 196) rfl), lw_t3 (List.mem_of_getElem? (i := 197) rfl)⟩
theorem lw_p19 : lw_okq (⟨"VisitingHours$Reader", "byteAt", "(I)I"⟩, 7) := ⟨⟨by decide +kernel, by decide +kernel⟩, lw_t1 (List.mem_of_getElem? (i := 155) rfl), lw_t3 (List.mem_of_getElem? (i := 208) rfl), lw_t3 (List.mem_of_getElem? (i := 209) rfl)⟩
theorem lw_p20 : lw_okq (⟨"VisitingHours", "noMore", "(II)V"⟩, 16) := ⟨⟨by decide +kernel, by decide +kernel⟩, lw_t1 (List.mem_of_getElem? (i := 45) rfl), lw_t3 (List.mem_of_getElem? (i := 212) rfl), lw_t3 (List.mem_of_getElem? (i := 213) rfl)⟩
theorem lw_p21 : lw_okq (⟨"java/lang/Throwable", "fillInStackTrace", "(I)Ljava/lang/Throwable;"⟩, 6) := ⟨⟨by decide +kernel, by decide +kernel⟩, lw_t4 (List.mem_of_getElem? (i := 181) rfl), lw_t4 (List.mem_of_getElem? (i := 179) rfl), lw_t4 (List.mem_of_getElem? (i := 180) rfl)⟩
theorem lw_p22 : lw_okq (⟨"VisitingHours", "groundLine", "(LVisitingHours$World;)V"⟩, 16) := ⟨⟨by decide +kernel, by decide +kernel⟩, lw_t1 (List.mem_of_getElem? (i := 45) rfl), lw_t5 (List.mem_of_getElem? (i := 95) rfl), lw_t5 (List.mem_of_getElem? (i := 96) rfl)⟩
theorem lw_p23 : lw_okq (⟨"VisitingHours", "aHost", "(LVisitingHours$World;)V"⟩, 16) := ⟨⟨by decide +kernel, by decide +kernel⟩, lw_t1 (List.mem_of_getElem? (i := 45) rfl), lw_t5 (List.mem_of_getElem? (i := 176) rfl), lw_t5 (List.mem_of_getElem? (i := 177) rfl)⟩
theorem lw_p24 : lw_okq (⟨"VisitingHours", "after", "(Ljava/lang/String;II)I"⟩, 16) := ⟨⟨by decide +kernel, by decide +kernel⟩, lw_t1 (List.mem_of_getElem? (i := 45) rfl), lw_t5 (List.mem_of_getElem? (i := 181) rfl), lw_t5 (List.mem_of_getElem? (i := 182) rfl)⟩
theorem lw_p25 : lw_okq (⟨"VisitingHours", "needs", "(Ljava/lang/String;)V"⟩, 16) := ⟨⟨by decide +kernel, by decide +kernel⟩, lw_t1 (List.mem_of_getElem? (i := 45) rfl), lw_t5 (List.mem_of_getElem? (i := 185) rfl), lw_t5 (List.mem_of_getElem? (i := 186) rfl)⟩
theorem lw_p26 : lw_okq (⟨"VisitingHours", "hoursTold", "()I"⟩, 16) := ⟨⟨by decide +kernel, by decide +kernel⟩, lw_t1 (List.mem_of_getElem? (i := 45) rfl), lw_t5 (List.mem_of_getElem? (i := 198) rfl), lw_t5 (List.mem_of_getElem? (i := 199) rfl)⟩
theorem lw_p27 : lw_okq (⟨"VisitingHours", "aGuest", "(LVisitingHours$World;)V"⟩, 16) := ⟨⟨by decide +kernel, by decide +kernel⟩, lw_t1 (List.mem_of_getElem? (i := 45) rfl), lw_t5 (List.mem_of_getElem? (i := 210) rfl), lw_t5 (List.mem_of_getElem? (i := 211) rfl)⟩
theorem lw_p28 : lw_okq (⟨"VisitingHours", "marksTold", "()I"⟩, 16) := ⟨⟨by decide +kernel, by decide +kernel⟩, lw_t1 (List.mem_of_getElem? (i := 45) rfl), lw_t5 (List.mem_of_getElem? (i := 222) rfl), lw_t5 (List.mem_of_getElem? (i := 223) rfl)⟩
theorem lw_p29 : lw_okq (⟨"VisitingHours", "ranks", "([II)V"⟩, 16) := ⟨⟨by decide +kernel, by decide +kernel⟩, lw_t1 (List.mem_of_getElem? (i := 45) rfl), lw_t5 (List.mem_of_getElem? (i := 239) rfl), lw_t6 (List.mem_of_getElem? (i := 0) rfl)⟩
theorem lw_p30 : lw_okq (⟨"VisitingHours", "goesOn", "()Z"⟩, 16) := ⟨⟨by decide +kernel, by decide +kernel⟩, lw_t1 (List.mem_of_getElem? (i := 45) rfl), lw_t6 (List.mem_of_getElem? (i := 5) rfl), lw_t6 (List.mem_of_getElem? (i := 6) rfl)⟩
theorem lw_p31 : lw_okq (⟨"VisitingHours", "fails", "()V"⟩, 16) := ⟨⟨by decide +kernel, by decide +kernel⟩, lw_t1 (List.mem_of_getElem? (i := 45) rfl), lw_t6 (List.mem_of_getElem? (i := 13) rfl), lw_t6 (List.mem_of_getElem? (i := 14) rfl)⟩
def lw_privs_2 : List (MethodName × Nat) := [(⟨"VisitingHours", "likens", "(II)Z"⟩, 16), (⟨"java/util/ArrayList", "fastRemove", "([Ljava/lang/Object;I)V"⟩, 3), (⟨"VisitingHours", "groundText", "(LVisitingHours$World;)V"⟩, 16), (⟨"VisitingHours$Reader", "byteAt", "(I)I"⟩, 7), (⟨"VisitingHours", "noMore", "(II)V"⟩, 16), (⟨"java/lang/Throwable", "fillInStackTrace", "(I)Ljava/lang/Throwable;"⟩, 6), (⟨"VisitingHours", "groundLine", "(LVisitingHours$World;)V"⟩, 16), (⟨"VisitingHours", "aHost", "(LVisitingHours$World;)V"⟩, 16), (⟨"VisitingHours", "after", "(Ljava/lang/String;II)I"⟩, 16), (⟨"VisitingHours", "needs", "(Ljava/lang/String;)V"⟩, 16), (⟨"VisitingHours", "hoursTold", "()I"⟩, 16), (⟨"VisitingHours", "aGuest", "(LVisitingHours$World;)V"⟩, 16), (⟨"VisitingHours", "marksTold", "()I"⟩, 16), (⟨"VisitingHours", "ranks", "([II)V"⟩, 16), (⟨"VisitingHours", "goesOn", "()Z"⟩, 16), (⟨"VisitingHours", "fails", "()V"⟩, 16)]
theorem lw_r2 : ∀ q ∈ lw_privs_2, lw_okq q := List.forall_mem_cons.mpr ⟨lw_p16, List.forall_mem_cons.mpr ⟨lw_p17, List.forall_mem_cons.mpr ⟨lw_p18, List.forall_mem_cons.mpr ⟨lw_p19, List.forall_mem_cons.mpr ⟨lw_p20, List.forall_mem_cons.mpr ⟨lw_p21, List.forall_mem_cons.mpr ⟨lw_p22, List.forall_mem_cons.mpr ⟨lw_p23, List.forall_mem_cons.mpr ⟨lw_p24, List.forall_mem_cons.mpr ⟨lw_p25, List.forall_mem_cons.mpr ⟨lw_p26, List.forall_mem_cons.mpr ⟨lw_p27, List.forall_mem_cons.mpr ⟨lw_p28, List.forall_mem_cons.mpr ⟨lw_p29, List.forall_mem_cons.mpr ⟨lw_p30, List.forall_mem_cons.mpr ⟨lw_p31, fun _ h => absurd h List.not_mem_nil⟩⟩⟩⟩⟩⟩⟩⟩⟩⟩⟩⟩⟩⟩⟩⟩
theorem lw_p32 : lw_okq (⟨"VisitingHours", "lawText", "()LVisitingHours$Law;"⟩, 16) := ⟨⟨by decide +kernel, by decide +kernel⟩, lw_t1 (List.mem_of_getElem? (i := 45) rfl), lw_t6 (List.mem_of_getElem? (i := 50) rfl), lw_t6 (List.mem_of_getElem? (i := 51) rfl)⟩
theorem lw_p33 : lw_okq (⟨"VisitingHours", "lawLine", "()LVisitingHours$Line;"⟩, 16) := ⟨⟨by decide +kernel, by decide +kernel⟩, lw_t1 (List.mem_of_getElem? (i := 45) rfl), lw_t6 (List.mem_of_getElem? (i := 67) rfl), lw_t6 (List.mem_of_getElem? (i := 68) rfl)⟩
theorem lw_p34 : lw_okq (⟨"VisitingHours", "cond", "()LVisitingHours$Cond;"⟩, 16) := ⟨⟨by decide +kernel, by decide +kernel⟩, lw_t1 (List.mem_of_getElem? (i := 45) rfl), lw_t6 (List.mem_of_getElem? (i := 90) rfl), lw_t6 (List.mem_of_getElem? (i := 91) rfl)⟩
theorem lw_p35 : lw_okq (⟨"VisitingHours", "allOf", "()LVisitingHours$Cond;"⟩, 16) := ⟨⟨by decide +kernel, by decide +kernel⟩, lw_t1 (List.mem_of_getElem? (i := 45) rfl), lw_t6 (List.mem_of_getElem? (i := 110) rfl), lw_t6 (List.mem_of_getElem? (i := 111) rfl)⟩
theorem lw_p36 : lw_okq (⟨"VisitingHours", "atom", "()LVisitingHours$Cond;"⟩, 16) := ⟨⟨by decide +kernel, by decide +kernel⟩, lw_t1 (List.mem_of_getElem? (i := 45) rfl), lw_t6 (List.mem_of_getElem? (i := 114) rfl), lw_t6 (List.mem_of_getElem? (i := 115) rfl)⟩
theorem lw_p37 : lw_okq (⟨"VisitingHours", "sum", "()LVisitingHours$Sum;"⟩, 16) := ⟨⟨by decide +kernel, by decide +kernel⟩, lw_t1 (List.mem_of_getElem? (i := 45) rfl), lw_t6 (List.mem_of_getElem? (i := 149) rfl), lw_t6 (List.mem_of_getElem? (i := 150) rfl)⟩
theorem lw_p38 : lw_okq (⟨"VisitingHours", "onePart", "()LVisitingHours$Part;"⟩, 16) := ⟨⟨by decide +kernel, by decide +kernel⟩, lw_t1 (List.mem_of_getElem? (i := 45) rfl), lw_t6 (List.mem_of_getElem? (i := 166) rfl), lw_t6 (List.mem_of_getElem? (i := 167) rfl)⟩
theorem lw_p39 : lw_okq (⟨"java/util/ArrayList", "add", "(Ljava/lang/Object;[Ljava/lang/Object;I)V"⟩, 3) := ⟨⟨by decide +kernel, by decide +kernel⟩, lw_t1 (List.mem_of_getElem? (i := 234) rfl), lw_t6 (List.mem_of_getElem? (i := 206) rfl), lw_t6 (List.mem_of_getElem? (i := 207) rfl)⟩
theorem lw_p40 : lw_okq (⟨"java/util/ArrayList", "grow", "()[Ljava/lang/Object;"⟩, 3) := ⟨⟨by decide +kernel, by decide +kernel⟩, lw_t1 (List.mem_of_getElem? (i := 234) rfl), lw_t6 (List.mem_of_getElem? (i := 210) rfl), lw_t6 (List.mem_of_getElem? (i := 211) rfl)⟩
theorem lw_p41 : lw_okq (⟨"java/util/ArrayList", "grow", "(I)[Ljava/lang/Object;"⟩, 3) := ⟨⟨by decide +kernel, by decide +kernel⟩, lw_t1 (List.mem_of_getElem? (i := 234) rfl), lw_t6 (List.mem_of_getElem? (i := 214) rfl), lw_t6 (List.mem_of_getElem? (i := 215) rfl)⟩
theorem lw_p42 : lw_okq (⟨"VisitingHours", "hostAt", "(I)V"⟩, 16) := ⟨⟨by decide +kernel, by decide +kernel⟩, lw_t1 (List.mem_of_getElem? (i := 45) rfl), lw_t7 (List.mem_of_getElem? (i := 79) rfl), lw_t7 (List.mem_of_getElem? (i := 80) rfl)⟩
theorem lw_p43 : lw_okq (⟨"VisitingHours", "shareOf", "(I)I"⟩, 16) := ⟨⟨by decide +kernel, by decide +kernel⟩, lw_t1 (List.mem_of_getElem? (i := 45) rfl), lw_t7 (List.mem_of_getElem? (i := 123) rfl), lw_t7 (List.mem_of_getElem? (i := 124) rfl)⟩
theorem lw_p44 : lw_okq (⟨"VisitingHours", "guestAt", "(I)V"⟩, 16) := ⟨⟨by decide +kernel, by decide +kernel⟩, lw_t1 (List.mem_of_getElem? (i := 45) rfl), lw_t7 (List.mem_of_getElem? (i := 134) rfl), lw_t7 (List.mem_of_getElem? (i := 135) rfl)⟩
theorem lw_p45 : lw_okq (⟨"VisitingHours", "allAt", "(III)V"⟩, 16) := ⟨⟨by decide +kernel, by decide +kernel⟩, lw_t1 (List.mem_of_getElem? (i := 45) rfl), lw_t7 (List.mem_of_getElem? (i := 166) rfl), lw_t7 (List.mem_of_getElem? (i := 167) rfl)⟩
theorem lw_p46 : lw_okq (⟨"VisitingHours", "remembers", "()V"⟩, 16) := ⟨⟨by decide +kernel, by decide +kernel⟩, lw_t1 (List.mem_of_getElem? (i := 45) rfl), lw_t7 (List.mem_of_getElem? (i := 210) rfl), lw_t7 (List.mem_of_getElem? (i := 211) rfl)⟩
theorem lw_p47 : lw_okq (⟨"VisitingHours", "twoHosts", "(II)V"⟩, 16) := ⟨⟨by decide +kernel, by decide +kernel⟩, lw_t1 (List.mem_of_getElem? (i := 45) rfl), lw_t7 (List.mem_of_getElem? (i := 228) rfl), lw_t7 (List.mem_of_getElem? (i := 229) rfl)⟩
def lw_privs_3 : List (MethodName × Nat) := [(⟨"VisitingHours", "lawText", "()LVisitingHours$Law;"⟩, 16), (⟨"VisitingHours", "lawLine", "()LVisitingHours$Line;"⟩, 16), (⟨"VisitingHours", "cond", "()LVisitingHours$Cond;"⟩, 16), (⟨"VisitingHours", "allOf", "()LVisitingHours$Cond;"⟩, 16), (⟨"VisitingHours", "atom", "()LVisitingHours$Cond;"⟩, 16), (⟨"VisitingHours", "sum", "()LVisitingHours$Sum;"⟩, 16), (⟨"VisitingHours", "onePart", "()LVisitingHours$Part;"⟩, 16), (⟨"java/util/ArrayList", "add", "(Ljava/lang/Object;[Ljava/lang/Object;I)V"⟩, 3), (⟨"java/util/ArrayList", "grow", "()[Ljava/lang/Object;"⟩, 3), (⟨"java/util/ArrayList", "grow", "(I)[Ljava/lang/Object;"⟩, 3), (⟨"VisitingHours", "hostAt", "(I)V"⟩, 16), (⟨"VisitingHours", "shareOf", "(I)I"⟩, 16), (⟨"VisitingHours", "guestAt", "(I)V"⟩, 16), (⟨"VisitingHours", "allAt", "(III)V"⟩, 16), (⟨"VisitingHours", "remembers", "()V"⟩, 16), (⟨"VisitingHours", "twoHosts", "(II)V"⟩, 16)]
theorem lw_r3 : ∀ q ∈ lw_privs_3, lw_okq q := List.forall_mem_cons.mpr ⟨lw_p32, List.forall_mem_cons.mpr ⟨lw_p33, List.forall_mem_cons.mpr ⟨lw_p34, List.forall_mem_cons.mpr ⟨lw_p35, List.forall_mem_cons.mpr ⟨lw_p36, List.forall_mem_cons.mpr ⟨lw_p37, List.forall_mem_cons.mpr ⟨lw_p38, List.forall_mem_cons.mpr ⟨lw_p39, List.forall_mem_cons.mpr ⟨lw_p40, List.forall_mem_cons.mpr ⟨lw_p41, List.forall_mem_cons.mpr ⟨lw_p42, List.forall_mem_cons.mpr ⟨lw_p43, List.forall_mem_cons.mpr ⟨lw_p44, List.forall_mem_cons.mpr ⟨lw_p45, List.forall_mem_cons.mpr ⟨lw_p46, List.forall_mem_cons.mpr ⟨lw_p47, fun _ h => absurd h List.not_mem_nil⟩⟩⟩⟩⟩⟩⟩⟩⟩⟩⟩⟩⟩⟩⟩⟩
theorem lw_p48 : lw_okq (⟨"VisitingHours", "aWeek", "(LVisitingHours$World;ZZ)I"⟩, 16) := ⟨⟨by decide +kernel, by decide +kernel⟩, lw_t1 (List.mem_of_getElem? (i := 45) rfl), lw_t8 (List.mem_of_getElem? (i := 23) rfl), lw_t8 (List.mem_of_getElem? (i := 24) rfl)⟩
theorem lw_p49 : lw_okq (⟨"VisitingHours", "meets", "(LVisitingHours$World;IZ)I"⟩, 16) := ⟨⟨by decide +kernel, by decide +kernel⟩, lw_t1 (List.mem_of_getElem? (i := 45) rfl), lw_t8 (List.mem_of_getElem? (i := 32) rfl), lw_t8 (List.mem_of_getElem? (i := 33) rfl)⟩
theorem lw_p50 : lw_okq (⟨"VisitingHours", "isTold", "(II)Z"⟩, 16) := ⟨⟨by decide +kernel, by decide +kernel⟩, lw_t1 (List.mem_of_getElem? (i := 45) rfl), lw_t8 (List.mem_of_getElem? (i := 76) rfl), lw_t8 (List.mem_of_getElem? (i := 77) rfl)⟩
theorem lw_p51 : lw_okq (⟨"VisitingHours", "overOf", "(II)I"⟩, 16) := ⟨⟨by decide +kernel, by decide +kernel⟩, lw_t1 (List.mem_of_getElem? (i := 45) rfl), lw_t8 (List.mem_of_getElem? (i := 89) rfl), lw_t8 (List.mem_of_getElem? (i := 90) rfl)⟩
theorem lw_p52 : lw_okq (⟨"VisitingHours", "overFrom", "(III)I"⟩, 16) := ⟨⟨by decide +kernel, by decide +kernel⟩, lw_t1 (List.mem_of_getElem? (i := 45) rfl), lw_t8 (List.mem_of_getElem? (i := 94) rfl), lw_t8 (List.mem_of_getElem? (i := 95) rfl)⟩
theorem lw_p53 : lw_okq (⟨"VisitingHours", "canStay", "(III)Z"⟩, 16) := ⟨⟨by decide +kernel, by decide +kernel⟩, lw_t1 (List.mem_of_getElem? (i := 45) rfl), lw_t8 (List.mem_of_getElem? (i := 98) rfl), lw_t8 (List.mem_of_getElem? (i := 99) rfl)⟩
theorem lw_p54 : lw_okq (⟨"VisitingHours", "laysAfternoon", "(I)V"⟩, 16) := ⟨⟨by decide +kernel, by decide +kernel⟩, lw_t1 (List.mem_of_getElem? (i := 45) rfl), lw_t8 (List.mem_of_getElem? (i := 109) rfl), lw_t8 (List.mem_of_getElem? (i := 110) rfl)⟩
theorem lw_p55 : lw_okq (⟨"VisitingHours", "afternoonBy", "(IIII)I"⟩, 16) := ⟨⟨by decide +kernel, by decide +kernel⟩, lw_t1 (List.mem_of_getElem? (i := 45) rfl), lw_t8 (List.mem_of_getElem? (i := 113) rfl), lw_t8 (List.mem_of_getElem? (i := 114) rfl)⟩
theorem lw_p56 : lw_okq (⟨"VisitingHours", "gateTold", "()V"⟩, 16) := ⟨⟨by decide +kernel, by decide +kernel⟩, lw_t1 (List.mem_of_getElem? (i := 45) rfl), lw_t8 (List.mem_of_getElem? (i := 128) rfl), lw_t8 (List.mem_of_getElem? (i := 129) rfl)⟩
theorem lw_p57 : lw_okq (⟨"VisitingHours", "laysRules", "()V"⟩, 16) := ⟨⟨by decide +kernel, by decide +kernel⟩, lw_t1 (List.mem_of_getElem? (i := 45) rfl), lw_t8 (List.mem_of_getElem? (i := 132) rfl), lw_t8 (List.mem_of_getElem? (i := 133) rfl)⟩
theorem lw_p58 : lw_okq (⟨"VisitingHours", "fits", "(I)Z"⟩, 16) := ⟨⟨by decide +kernel, by decide +kernel⟩, lw_t1 (List.mem_of_getElem? (i := 45) rfl), lw_t8 (List.mem_of_getElem? (i := 136) rfl), lw_t8 (List.mem_of_getElem? (i := 137) rfl)⟩
theorem lw_p59 : lw_okq (⟨"VisitingHours", "passes", "(II)Z"⟩, 16) := ⟨⟨by decide +kernel, by decide +kernel⟩, lw_t1 (List.mem_of_getElem? (i := 45) rfl), lw_t8 (List.mem_of_getElem? (i := 140) rfl), lw_t8 (List.mem_of_getElem? (i := 141) rfl)⟩
theorem lw_p60 : lw_okq (⟨"VisitingHours", "wrongOrders", "(I)I"⟩, 16) := ⟨⟨by decide +kernel, by decide +kernel⟩, lw_t1 (List.mem_of_getElem? (i := 45) rfl), lw_t8 (List.mem_of_getElem? (i := 158) rfl), lw_t8 (List.mem_of_getElem? (i := 159) rfl)⟩
theorem lw_p61 : lw_okq (⟨"VisitingHours", "savedFrom", "(IIII)I"⟩, 16) := ⟨⟨by decide +kernel, by decide +kernel⟩, lw_t1 (List.mem_of_getElem? (i := 45) rfl), lw_t8 (List.mem_of_getElem? (i := 169) rfl), lw_t8 (List.mem_of_getElem? (i := 170) rfl)⟩
theorem lw_p62 : lw_okq (⟨"VisitingHours", "laysLent", "()V"⟩, 16) := ⟨⟨by decide +kernel, by decide +kernel⟩, lw_t1 (List.mem_of_getElem? (i := 45) rfl), lw_t8 (List.mem_of_getElem? (i := 180) rfl), lw_t8 (List.mem_of_getElem? (i := 181) rfl)⟩
theorem lw_p63 : lw_okq (⟨"VisitingHours", "lentBy", "(III)I"⟩, 16) := ⟨⟨by decide +kernel, by decide +kernel⟩, lw_t1 (List.mem_of_getElem? (i := 45) rfl), lw_t8 (List.mem_of_getElem? (i := 184) rfl), lw_t8 (List.mem_of_getElem? (i := 185) rfl)⟩
def lw_privs_4 : List (MethodName × Nat) := [(⟨"VisitingHours", "aWeek", "(LVisitingHours$World;ZZ)I"⟩, 16), (⟨"VisitingHours", "meets", "(LVisitingHours$World;IZ)I"⟩, 16), (⟨"VisitingHours", "isTold", "(II)Z"⟩, 16), (⟨"VisitingHours", "overOf", "(II)I"⟩, 16), (⟨"VisitingHours", "overFrom", "(III)I"⟩, 16), (⟨"VisitingHours", "canStay", "(III)Z"⟩, 16), (⟨"VisitingHours", "laysAfternoon", "(I)V"⟩, 16), (⟨"VisitingHours", "afternoonBy", "(IIII)I"⟩, 16), (⟨"VisitingHours", "gateTold", "()V"⟩, 16), (⟨"VisitingHours", "laysRules", "()V"⟩, 16), (⟨"VisitingHours", "fits", "(I)Z"⟩, 16), (⟨"VisitingHours", "passes", "(II)Z"⟩, 16), (⟨"VisitingHours", "wrongOrders", "(I)I"⟩, 16), (⟨"VisitingHours", "savedFrom", "(IIII)I"⟩, 16), (⟨"VisitingHours", "laysLent", "()V"⟩, 16), (⟨"VisitingHours", "lentBy", "(III)I"⟩, 16)]
theorem lw_r4 : ∀ q ∈ lw_privs_4, lw_okq q := List.forall_mem_cons.mpr ⟨lw_p48, List.forall_mem_cons.mpr ⟨lw_p49, List.forall_mem_cons.mpr ⟨lw_p50, List.forall_mem_cons.mpr ⟨lw_p51, List.forall_mem_cons.mpr ⟨lw_p52, List.forall_mem_cons.mpr ⟨lw_p53, List.forall_mem_cons.mpr ⟨lw_p54, List.forall_mem_cons.mpr ⟨lw_p55, List.forall_mem_cons.mpr ⟨lw_p56, List.forall_mem_cons.mpr ⟨lw_p57, List.forall_mem_cons.mpr ⟨lw_p58, List.forall_mem_cons.mpr ⟨lw_p59, List.forall_mem_cons.mpr ⟨lw_p60, List.forall_mem_cons.mpr ⟨lw_p61, List.forall_mem_cons.mpr ⟨lw_p62, List.forall_mem_cons.mpr ⟨lw_p63, fun _ h => absurd h List.not_mem_nil⟩⟩⟩⟩⟩⟩⟩⟩⟩⟩⟩⟩⟩⟩⟩⟩
theorem lw_p64 : lw_okq (⟨"VisitingHours", "hasBy", "(II)I"⟩, 16) := ⟨⟨by decide +kernel, by decide +kernel⟩, lw_t1 (List.mem_of_getElem? (i := 45) rfl), lw_t8 (List.mem_of_getElem? (i := 218) rfl), lw_t8 (List.mem_of_getElem? (i := 219) rfl)⟩
theorem lw_p65 : lw_okq (⟨"VisitingHours", "guestHas", "(IIII)I"⟩, 16) := ⟨⟨by decide +kernel, by decide +kernel⟩, lw_t1 (List.mem_of_getElem? (i := 45) rfl), lw_t8 (List.mem_of_getElem? (i := 232) rfl), lw_t8 (List.mem_of_getElem? (i := 233) rfl)⟩
theorem lw_p66 : lw_okq (⟨"VisitingHours", "worldAt", "(I)LVisitingHours$World;"⟩, 16) := ⟨⟨by decide +kernel, by decide +kernel⟩, lw_t1 (List.mem_of_getElem? (i := 45) rfl), lw_t9 (List.mem_of_getElem? (i := 3) rfl), lw_t9 (List.mem_of_getElem? (i := 4) rfl)⟩
theorem lw_p67 : lw_okq (⟨"VisitingHours", "tries", "(I)V"⟩, 16) := ⟨⟨by decide +kernel, by decide +kernel⟩, lw_t1 (List.mem_of_getElem? (i := 45) rfl), lw_t9 (List.mem_of_getElem? (i := 31) rfl), lw_t9 (List.mem_of_getElem? (i := 32) rfl)⟩
theorem lw_p68 : lw_okq (⟨"VisitingHours", "ofLog", "(II)I"⟩, 16) := ⟨⟨by decide +kernel, by decide +kernel⟩, lw_t1 (List.mem_of_getElem? (i := 45) rfl), lw_t9 (List.mem_of_getElem? (i := 49) rfl), lw_t9 (List.mem_of_getElem? (i := 50) rfl)⟩
theorem lw_p69 : lw_okq (⟨"VisitingHoursModel", "putsAside", "()V"⟩, 28) := ⟨⟨by decide +kernel, by decide +kernel⟩, lw_t9 (List.mem_of_getElem? (i := 60) rfl), lw_t9 (List.mem_of_getElem? (i := 171) rfl), lw_t9 (List.mem_of_getElem? (i := 172) rfl)⟩
theorem lw_p70 : lw_okq (⟨"VisitingHoursModel", "begins", "()V"⟩, 28) := ⟨⟨by decide +kernel, by decide +kernel⟩, lw_t9 (List.mem_of_getElem? (i := 60) rfl), lw_t9 (List.mem_of_getElem? (i := 175) rfl), lw_t9 (List.mem_of_getElem? (i := 176) rfl)⟩
theorem lw_p71 : lw_okq (⟨"VisitingHoursModel", "read", "(Z)I"⟩, 28) := ⟨⟨by decide +kernel, by decide +kernel⟩, lw_t9 (List.mem_of_getElem? (i := 60) rfl), lw_t9 (List.mem_of_getElem? (i := 179) rfl), lw_t9 (List.mem_of_getElem? (i := 180) rfl)⟩
theorem lw_p72 : lw_okq (⟨"VisitingHoursModel", "skip", "()V"⟩, 28) := ⟨⟨by decide +kernel, by decide +kernel⟩, lw_t9 (List.mem_of_getElem? (i := 60) rfl), lw_t9 (List.mem_of_getElem? (i := 183) rfl), lw_t9 (List.mem_of_getElem? (i := 184) rfl)⟩
theorem lw_p73 : lw_okq (⟨"VisitingHoursModel", "letter", "(I)I"⟩, 28) := ⟨⟨by decide +kernel, by decide +kernel⟩, lw_t9 (List.mem_of_getElem? (i := 60) rfl), lw_t9 (List.mem_of_getElem? (i := 187) rfl), lw_t9 (List.mem_of_getElem? (i := 188) rfl)⟩
theorem lw_p74 : lw_okq (⟨"VisitingHoursModel", "wrong", "(I)V"⟩, 28) := ⟨⟨by decide +kernel, by decide +kernel⟩, lw_t9 (List.mem_of_getElem? (i := 60) rfl), lw_t9 (List.mem_of_getElem? (i := 191) rfl), lw_t9 (List.mem_of_getElem? (i := 192) rfl)⟩
theorem lw_p75 : lw_okq (⟨"VisitingHoursModel", "lawLine", "()V"⟩, 28) := ⟨⟨by decide +kernel, by decide +kernel⟩, lw_t9 (List.mem_of_getElem? (i := 60) rfl), lw_t9 (List.mem_of_getElem? (i := 195) rfl), lw_t9 (List.mem_of_getElem? (i := 196) rfl)⟩
theorem lw_p76 : lw_okq (⟨"VisitingHoursModel", "has", "(Ljava/lang/String;)Z"⟩, 28) := ⟨⟨by decide +kernel, by decide +kernel⟩, lw_t9 (List.mem_of_getElem? (i := 60) rfl), lw_t9 (List.mem_of_getElem? (i := 200) rfl), lw_t9 (List.mem_of_getElem? (i := 201) rfl)⟩
theorem lw_p77 : lw_okq (⟨"VisitingHoursModel", "figures", "(II)I"⟩, 28) := ⟨⟨by decide +kernel, by decide +kernel⟩, lw_t9 (List.mem_of_getElem? (i := 60) rfl), lw_t9 (List.mem_of_getElem? (i := 208) rfl), lw_t9 (List.mem_of_getElem? (i := 209) rfl)⟩
theorem lw_p78 : lw_okq (⟨"VisitingHoursModel", "here", "()I"⟩, 28) := ⟨⟨by decide +kernel, by decide +kernel⟩, lw_t9 (List.mem_of_getElem? (i := 60) rfl), lw_t9 (List.mem_of_getElem? (i := 212) rfl), lw_t9 (List.mem_of_getElem? (i := 213) rfl)⟩
theorem lw_p79 : lw_okq (⟨"VisitingHoursModel", "some", "()Z"⟩, 28) := ⟨⟨by decide +kernel, by decide +kernel⟩, lw_t9 (List.mem_of_getElem? (i := 60) rfl), lw_t9 (List.mem_of_getElem? (i := 217) rfl), lw_t9 (List.mem_of_getElem? (i := 218) rfl)⟩
def lw_privs_5 : List (MethodName × Nat) := [(⟨"VisitingHours", "hasBy", "(II)I"⟩, 16), (⟨"VisitingHours", "guestHas", "(IIII)I"⟩, 16), (⟨"VisitingHours", "worldAt", "(I)LVisitingHours$World;"⟩, 16), (⟨"VisitingHours", "tries", "(I)V"⟩, 16), (⟨"VisitingHours", "ofLog", "(II)I"⟩, 16), (⟨"VisitingHoursModel", "putsAside", "()V"⟩, 28), (⟨"VisitingHoursModel", "begins", "()V"⟩, 28), (⟨"VisitingHoursModel", "read", "(Z)I"⟩, 28), (⟨"VisitingHoursModel", "skip", "()V"⟩, 28), (⟨"VisitingHoursModel", "letter", "(I)I"⟩, 28), (⟨"VisitingHoursModel", "wrong", "(I)V"⟩, 28), (⟨"VisitingHoursModel", "lawLine", "()V"⟩, 28), (⟨"VisitingHoursModel", "has", "(Ljava/lang/String;)Z"⟩, 28), (⟨"VisitingHoursModel", "figures", "(II)I"⟩, 28), (⟨"VisitingHoursModel", "here", "()I"⟩, 28), (⟨"VisitingHoursModel", "some", "()Z"⟩, 28)]
theorem lw_r5 : ∀ q ∈ lw_privs_5, lw_okq q := List.forall_mem_cons.mpr ⟨lw_p64, List.forall_mem_cons.mpr ⟨lw_p65, List.forall_mem_cons.mpr ⟨lw_p66, List.forall_mem_cons.mpr ⟨lw_p67, List.forall_mem_cons.mpr ⟨lw_p68, List.forall_mem_cons.mpr ⟨lw_p69, List.forall_mem_cons.mpr ⟨lw_p70, List.forall_mem_cons.mpr ⟨lw_p71, List.forall_mem_cons.mpr ⟨lw_p72, List.forall_mem_cons.mpr ⟨lw_p73, List.forall_mem_cons.mpr ⟨lw_p74, List.forall_mem_cons.mpr ⟨lw_p75, List.forall_mem_cons.mpr ⟨lw_p76, List.forall_mem_cons.mpr ⟨lw_p77, List.forall_mem_cons.mpr ⟨lw_p78, List.forall_mem_cons.mpr ⟨lw_p79, fun _ h => absurd h List.not_mem_nil⟩⟩⟩⟩⟩⟩⟩⟩⟩⟩⟩⟩⟩⟩⟩⟩
theorem lw_p80 : lw_okq (⟨"VisitingHoursModel", "every", "()Z"⟩, 28) := ⟨⟨by decide +kernel, by decide +kernel⟩, lw_t9 (List.mem_of_getElem? (i := 60) rfl), lw_t9 (List.mem_of_getElem? (i := 221) rfl), lw_t9 (List.mem_of_getElem? (i := 222) rfl)⟩
theorem lw_p81 : lw_okq (⟨"VisitingHoursModel", "atom", "()Z"⟩, 28) := ⟨⟨by decide +kernel, by decide +kernel⟩, lw_t9 (List.mem_of_getElem? (i := 60) rfl), lw_t9 (List.mem_of_getElem? (i := 225) rfl), lw_t9 (List.mem_of_getElem? (i := 226) rfl)⟩
theorem lw_p82 : lw_okq (⟨"VisitingHoursModel", "isSign", "(I)Z"⟩, 28) := ⟨⟨by decide +kernel, by decide +kernel⟩, lw_t9 (List.mem_of_getElem? (i := 60) rfl), lw_t9 (List.mem_of_getElem? (i := 230) rfl), lw_t9 (List.mem_of_getElem? (i := 231) rfl)⟩
theorem lw_p83 : lw_okq (⟨"VisitingHoursModel", "plain", "()Z"⟩, 28) := ⟨⟨by decide +kernel, by decide +kernel⟩, lw_t9 (List.mem_of_getElem? (i := 60) rfl), lw_t9 (List.mem_of_getElem? (i := 234) rfl), lw_t9 (List.mem_of_getElem? (i := 235) rfl)⟩
theorem lw_p84 : lw_okq (⟨"VisitingHoursModel", "sum", "()I"⟩, 28) := ⟨⟨by decide +kernel, by decide +kernel⟩, lw_t9 (List.mem_of_getElem? (i := 60) rfl), lw_t10 (List.mem_of_getElem? (i := 0) rfl), lw_t10 (List.mem_of_getElem? (i := 1) rfl)⟩
theorem lw_p85 : lw_okq (⟨"VisitingHoursModel", "part", "()I"⟩, 28) := ⟨⟨by decide +kernel, by decide +kernel⟩, lw_t9 (List.mem_of_getElem? (i := 60) rfl), lw_t10 (List.mem_of_getElem? (i := 4) rfl), lw_t10 (List.mem_of_getElem? (i := 5) rfl)⟩
theorem lw_p86 : lw_okq (⟨"VisitingHoursModel", "groundLine", "()V"⟩, 28) := ⟨⟨by decide +kernel, by decide +kernel⟩, lw_t9 (List.mem_of_getElem? (i := 60) rfl), lw_t10 (List.mem_of_getElem? (i := 17) rfl), lw_t10 (List.mem_of_getElem? (i := 18) rfl)⟩
theorem lw_p87 : lw_okq (⟨"VisitingHoursModel", "hostLine", "(I)V"⟩, 28) := ⟨⟨by decide +kernel, by decide +kernel⟩, lw_t9 (List.mem_of_getElem? (i := 60) rfl), lw_t10 (List.mem_of_getElem? (i := 21) rfl), lw_t10 (List.mem_of_getElem? (i := 22) rfl)⟩
theorem lw_p88 : lw_okq (⟨"VisitingHoursModel", "after", "(Ljava/lang/String;II)I"⟩, 28) := ⟨⟨by decide +kernel, by decide +kernel⟩, lw_t9 (List.mem_of_getElem? (i := 60) rfl), lw_t10 (List.mem_of_getElem? (i := 26) rfl), lw_t10 (List.mem_of_getElem? (i := 27) rfl)⟩
theorem lw_p89 : lw_okq (⟨"VisitingHoursModel", "hours", "()I"⟩, 28) := ⟨⟨by decide +kernel, by decide +kernel⟩, lw_t9 (List.mem_of_getElem? (i := 60) rfl), lw_t10 (List.mem_of_getElem? (i := 30) rfl), lw_t10 (List.mem_of_getElem? (i := 31) rfl)⟩
theorem lw_p90 : lw_okq (⟨"VisitingHoursModel", "put", "(III)V"⟩, 28) := ⟨⟨by decide +kernel, by decide +kernel⟩, lw_t9 (List.mem_of_getElem? (i := 60) rfl), lw_t10 (List.mem_of_getElem? (i := 36) rfl), lw_t10 (List.mem_of_getElem? (i := 37) rfl)⟩
theorem lw_p91 : lw_okq (⟨"VisitingHoursModel", "guestLine", "(I)V"⟩, 28) := ⟨⟨by decide +kernel, by decide +kernel⟩, lw_t9 (List.mem_of_getElem? (i := 60) rfl), lw_t10 (List.mem_of_getElem? (i := 40) rfl), lw_t10 (List.mem_of_getElem? (i := 41) rfl)⟩
theorem lw_p92 : lw_okq (⟨"VisitingHoursModel", "letters", "()I"⟩, 28) := ⟨⟨by decide +kernel, by decide +kernel⟩, lw_t9 (List.mem_of_getElem? (i := 60) rfl), lw_t10 (List.mem_of_getElem? (i := 46) rfl), lw_t10 (List.mem_of_getElem? (i := 47) rfl)⟩
theorem lw_p93 : lw_okq (⟨"VisitingHoursModel", "ranksLine", "(III)V"⟩, 28) := ⟨⟨by decide +kernel, by decide +kernel⟩, lw_t9 (List.mem_of_getElem? (i := 60) rfl), lw_t10 (List.mem_of_getElem? (i := 57) rfl), lw_t10 (List.mem_of_getElem? (i := 58) rfl)⟩
theorem lw_p94 : lw_okq (⟨"VisitingHoursModel", "tells", "(III)V"⟩, 28) := ⟨⟨by decide +kernel, by decide +kernel⟩, lw_t9 (List.mem_of_getElem? (i := 60) rfl), lw_t10 (List.mem_of_getElem? (i := 63) rfl), lw_t10 (List.mem_of_getElem? (i := 64) rfl)⟩
theorem lw_p95 : lw_okq (⟨"VisitingHoursModel", "comesBack", "()V"⟩, 28) := ⟨⟨by decide +kernel, by decide +kernel⟩, lw_t9 (List.mem_of_getElem? (i := 60) rfl), lw_t10 (List.mem_of_getElem? (i := 69) rfl), lw_t10 (List.mem_of_getElem? (i := 70) rfl)⟩
def lw_privs_6 : List (MethodName × Nat) := [(⟨"VisitingHoursModel", "every", "()Z"⟩, 28), (⟨"VisitingHoursModel", "atom", "()Z"⟩, 28), (⟨"VisitingHoursModel", "isSign", "(I)Z"⟩, 28), (⟨"VisitingHoursModel", "plain", "()Z"⟩, 28), (⟨"VisitingHoursModel", "sum", "()I"⟩, 28), (⟨"VisitingHoursModel", "part", "()I"⟩, 28), (⟨"VisitingHoursModel", "groundLine", "()V"⟩, 28), (⟨"VisitingHoursModel", "hostLine", "(I)V"⟩, 28), (⟨"VisitingHoursModel", "after", "(Ljava/lang/String;II)I"⟩, 28), (⟨"VisitingHoursModel", "hours", "()I"⟩, 28), (⟨"VisitingHoursModel", "put", "(III)V"⟩, 28), (⟨"VisitingHoursModel", "guestLine", "(I)V"⟩, 28), (⟨"VisitingHoursModel", "letters", "()I"⟩, 28), (⟨"VisitingHoursModel", "ranksLine", "(III)V"⟩, 28), (⟨"VisitingHoursModel", "tells", "(III)V"⟩, 28), (⟨"VisitingHoursModel", "comesBack", "()V"⟩, 28)]
theorem lw_r6 : ∀ q ∈ lw_privs_6, lw_okq q := List.forall_mem_cons.mpr ⟨lw_p80, List.forall_mem_cons.mpr ⟨lw_p81, List.forall_mem_cons.mpr ⟨lw_p82, List.forall_mem_cons.mpr ⟨lw_p83, List.forall_mem_cons.mpr ⟨lw_p84, List.forall_mem_cons.mpr ⟨lw_p85, List.forall_mem_cons.mpr ⟨lw_p86, List.forall_mem_cons.mpr ⟨lw_p87, List.forall_mem_cons.mpr ⟨lw_p88, List.forall_mem_cons.mpr ⟨lw_p89, List.forall_mem_cons.mpr ⟨lw_p90, List.forall_mem_cons.mpr ⟨lw_p91, List.forall_mem_cons.mpr ⟨lw_p92, List.forall_mem_cons.mpr ⟨lw_p93, List.forall_mem_cons.mpr ⟨lw_p94, List.forall_mem_cons.mpr ⟨lw_p95, fun _ h => absurd h List.not_mem_nil⟩⟩⟩⟩⟩⟩⟩⟩⟩⟩⟩⟩⟩⟩⟩⟩
theorem lw_p96 : lw_okq (⟨"VisitingHoursModel", "isHost", "(I)Z"⟩, 28) := ⟨⟨by decide +kernel, by decide +kernel⟩, lw_t9 (List.mem_of_getElem? (i := 60) rfl), lw_t10 (List.mem_of_getElem? (i := 85) rfl), lw_t10 (List.mem_of_getElem? (i := 86) rfl)⟩
theorem lw_p97 : lw_okq (⟨"VisitingHoursModel", "of", "(II)I"⟩, 28) := ⟨⟨by decide +kernel, by decide +kernel⟩, lw_t9 (List.mem_of_getElem? (i := 60) rfl), lw_t10 (List.mem_of_getElem? (i := 89) rfl), lw_t10 (List.mem_of_getElem? (i := 90) rfl)⟩
theorem lw_p98 : lw_okq (⟨"VisitingHoursModel", "freeOf", "(I)I"⟩, 28) := ⟨⟨by decide +kernel, by decide +kernel⟩, lw_t9 (List.mem_of_getElem? (i := 60) rfl), lw_t10 (List.mem_of_getElem? (i := 93) rfl), lw_t10 (List.mem_of_getElem? (i := 94) rfl)⟩
theorem lw_p99 : lw_okq (⟨"VisitingHoursModel", "bookedIn", "(II)I"⟩, 28) := ⟨⟨by decide +kernel, by decide +kernel⟩, lw_t9 (List.mem_of_getElem? (i := 60) rfl), lw_t10 (List.mem_of_getElem? (i := 97) rfl), lw_t10 (List.mem_of_getElem? (i := 98) rfl)⟩
theorem lw_p100 : lw_okq (⟨"VisitingHoursModel", "seesOf", "(I)I"⟩, 28) := ⟨⟨by decide +kernel, by decide +kernel⟩, lw_t9 (List.mem_of_getElem? (i := 60) rfl), lw_t10 (List.mem_of_getElem? (i := 101) rfl), lw_t10 (List.mem_of_getElem? (i := 102) rfl)⟩
theorem lw_p101 : lw_okq (⟨"VisitingHoursModel", "gladness", "()I"⟩, 28) := ⟨⟨by decide +kernel, by decide +kernel⟩, lw_t9 (List.mem_of_getElem? (i := 60) rfl), lw_t10 (List.mem_of_getElem? (i := 105) rfl), lw_t10 (List.mem_of_getElem? (i := 106) rfl)⟩
theorem lw_p102 : lw_okq (⟨"VisitingHoursModel", "isGuest", "(I)Z"⟩, 28) := ⟨⟨by decide +kernel, by decide +kernel⟩, lw_t9 (List.mem_of_getElem? (i := 60) rfl), lw_t10 (List.mem_of_getElem? (i := 113) rfl), lw_t10 (List.mem_of_getElem? (i := 114) rfl)⟩
theorem lw_p103 : lw_okq (⟨"VisitingHoursModel", "ofGuest", "(II)I"⟩, 28) := ⟨⟨by decide +kernel, by decide +kernel⟩, lw_t9 (List.mem_of_getElem? (i := 60) rfl), lw_t10 (List.mem_of_getElem? (i := 117) rfl), lw_t10 (List.mem_of_getElem? (i := 118) rfl)⟩
theorem lw_p104 : lw_okq (⟨"VisitingHoursModel", "busyOf", "(I)I"⟩, 28) := ⟨⟨by decide +kernel, by decide +kernel⟩, lw_t9 (List.mem_of_getElem? (i := 60) rfl), lw_t10 (List.mem_of_getElem? (i := 121) rfl), lw_t10 (List.mem_of_getElem? (i := 122) rfl)⟩
theorem lw_p105 : lw_okq (⟨"VisitingHoursModel", "likedOf", "(I)I"⟩, 28) := ⟨⟨by decide +kernel, by decide +kernel⟩, lw_t9 (List.mem_of_getElem? (i := 60) rfl), lw_t10 (List.mem_of_getElem? (i := 125) rfl), lw_t10 (List.mem_of_getElem? (i := 126) rfl)⟩
theorem lw_p106 : lw_okq (⟨"VisitingHoursModel", "rankOf", "(II)I"⟩, 28) := ⟨⟨by decide +kernel, by decide +kernel⟩, lw_t9 (List.mem_of_getElem? (i := 60) rfl), lw_t10 (List.mem_of_getElem? (i := 129) rfl), lw_t10 (List.mem_of_getElem? (i := 130) rfl)⟩
theorem lw_p107 : lw_okq (⟨"VisitingHoursModel", "passes", "(I)Z"⟩, 28) := ⟨⟨by decide +kernel, by decide +kernel⟩, lw_t9 (List.mem_of_getElem? (i := 60) rfl), lw_t10 (List.mem_of_getElem? (i := 133) rfl), lw_t10 (List.mem_of_getElem? (i := 134) rfl)⟩
theorem lw_p108 : lw_okq (⟨"VisitingHoursModel", "lovedOf", "(II)I"⟩, 28) := ⟨⟨by decide +kernel, by decide +kernel⟩, lw_t9 (List.mem_of_getElem? (i := 60) rfl), lw_t10 (List.mem_of_getElem? (i := 141) rfl), lw_t10 (List.mem_of_getElem? (i := 142) rfl)⟩
theorem lw_p109 : lw_okq (⟨"VisitingHoursModel", "areThere", "(III)Z"⟩, 28) := ⟨⟨by decide +kernel, by decide +kernel⟩, lw_t9 (List.mem_of_getElem? (i := 60) rfl), lw_t10 (List.mem_of_getElem? (i := 156) rfl), lw_t10 (List.mem_of_getElem? (i := 157) rfl)⟩
theorem lw_p110 : lw_okq (⟨"VisitingHoursModel", "canMeet", "(III)Z"⟩, 28) := ⟨⟨by decide +kernel, by decide +kernel⟩, lw_t9 (List.mem_of_getElem? (i := 60) rfl), lw_t10 (List.mem_of_getElem? (i := 160) rfl), lw_t10 (List.mem_of_getElem? (i := 161) rfl)⟩
theorem lw_p111 : lw_okq (⟨"VisitingHoursModel", "mayMeet", "(II)Z"⟩, 28) := ⟨⟨by decide +kernel, by decide +kernel⟩, lw_t9 (List.mem_of_getElem? (i := 60) rfl), lw_t10 (List.mem_of_getElem? (i := 164) rfl), lw_t10 (List.mem_of_getElem? (i := 165) rfl)⟩
def lw_privs_7 : List (MethodName × Nat) := [(⟨"VisitingHoursModel", "isHost", "(I)Z"⟩, 28), (⟨"VisitingHoursModel", "of", "(II)I"⟩, 28), (⟨"VisitingHoursModel", "freeOf", "(I)I"⟩, 28), (⟨"VisitingHoursModel", "bookedIn", "(II)I"⟩, 28), (⟨"VisitingHoursModel", "seesOf", "(I)I"⟩, 28), (⟨"VisitingHoursModel", "gladness", "()I"⟩, 28), (⟨"VisitingHoursModel", "isGuest", "(I)Z"⟩, 28), (⟨"VisitingHoursModel", "ofGuest", "(II)I"⟩, 28), (⟨"VisitingHoursModel", "busyOf", "(I)I"⟩, 28), (⟨"VisitingHoursModel", "likedOf", "(I)I"⟩, 28), (⟨"VisitingHoursModel", "rankOf", "(II)I"⟩, 28), (⟨"VisitingHoursModel", "passes", "(I)Z"⟩, 28), (⟨"VisitingHoursModel", "lovedOf", "(II)I"⟩, 28), (⟨"VisitingHoursModel", "areThere", "(III)Z"⟩, 28), (⟨"VisitingHoursModel", "canMeet", "(III)Z"⟩, 28), (⟨"VisitingHoursModel", "mayMeet", "(II)Z"⟩, 28)]
theorem lw_r7 : ∀ q ∈ lw_privs_7, lw_okq q := List.forall_mem_cons.mpr ⟨lw_p96, List.forall_mem_cons.mpr ⟨lw_p97, List.forall_mem_cons.mpr ⟨lw_p98, List.forall_mem_cons.mpr ⟨lw_p99, List.forall_mem_cons.mpr ⟨lw_p100, List.forall_mem_cons.mpr ⟨lw_p101, List.forall_mem_cons.mpr ⟨lw_p102, List.forall_mem_cons.mpr ⟨lw_p103, List.forall_mem_cons.mpr ⟨lw_p104, List.forall_mem_cons.mpr ⟨lw_p105, List.forall_mem_cons.mpr ⟨lw_p106, List.forall_mem_cons.mpr ⟨lw_p107, List.forall_mem_cons.mpr ⟨lw_p108, List.forall_mem_cons.mpr ⟨lw_p109, List.forall_mem_cons.mpr ⟨lw_p110, List.forall_mem_cons.mpr ⟨lw_p111, fun _ h => absurd h List.not_mem_nil⟩⟩⟩⟩⟩⟩⟩⟩⟩⟩⟩⟩⟩⟩⟩⟩
theorem lw_p112 : lw_okq (⟨"VisitingHoursModel", "isLet", "(III)Z"⟩, 28) := ⟨⟨by decide +kernel, by decide +kernel⟩, lw_t9 (List.mem_of_getElem? (i := 60) rfl), lw_t10 (List.mem_of_getElem? (i := 172) rfl), lw_t10 (List.mem_of_getElem? (i := 173) rfl)⟩
theorem lw_p113 : lw_okq (⟨"VisitingHoursModel", "asks", "(III)V"⟩, 28) := ⟨⟨by decide +kernel, by decide +kernel⟩, lw_t9 (List.mem_of_getElem? (i := 60) rfl), lw_t10 (List.mem_of_getElem? (i := 176) rfl), lw_t10 (List.mem_of_getElem? (i := 177) rfl)⟩
theorem lw_p114 : lw_okq (⟨"VisitingHoursModel", "joyOf", "(III)I"⟩, 28) := ⟨⟨by decide +kernel, by decide +kernel⟩, lw_t9 (List.mem_of_getElem? (i := 60) rfl), lw_t10 (List.mem_of_getElem? (i := 184) rfl), lw_t10 (List.mem_of_getElem? (i := 185) rfl)⟩
theorem lw_p115 : lw_okq (⟨"VisitingHoursModel", "sets", "(II)I"⟩, 28) := ⟨⟨by decide +kernel, by decide +kernel⟩, lw_t9 (List.mem_of_getElem? (i := 60) rfl), lw_t10 (List.mem_of_getElem? (i := 195) rfl), lw_t10 (List.mem_of_getElem? (i := 196) rfl)⟩
theorem lw_p116 : lw_okq (⟨"VisitingHoursModel", "remembers", "()V"⟩, 28) := ⟨⟨by decide +kernel, by decide +kernel⟩, lw_t9 (List.mem_of_getElem? (i := 60) rfl), lw_t10 (List.mem_of_getElem? (i := 199) rfl), lw_t10 (List.mem_of_getElem? (i := 200) rfl)⟩
theorem lw_p117 : lw_okq (⟨"VisitingHoursModel", "goes", "(IZ)I"⟩, 28) := ⟨⟨by decide +kernel, by decide +kernel⟩, lw_t9 (List.mem_of_getElem? (i := 60) rfl), lw_t10 (List.mem_of_getElem? (i := 227) rfl), lw_t10 (List.mem_of_getElem? (i := 228) rfl)⟩
theorem lw_p118 : lw_okq (⟨"VisitingHoursModel", "draw", "(I)I"⟩, 28) := ⟨⟨by decide +kernel, by decide +kernel⟩, lw_t9 (List.mem_of_getElem? (i := 60) rfl), lw_t10 (List.mem_of_getElem? (i := 231) rfl), lw_t10 (List.mem_of_getElem? (i := 232) rfl)⟩
theorem lw_p119 : lw_okq (⟨"VisitingHoursModel", "meet", "(I)I"⟩, 28) := ⟨⟨by decide +kernel, by decide +kernel⟩, lw_t9 (List.mem_of_getElem? (i := 60) rfl), lw_t10 (List.mem_of_getElem? (i := 236) rfl), lw_t10 (List.mem_of_getElem? (i := 237) rfl)⟩
theorem lw_p120 : lw_okq (⟨"VisitingHoursModel", "wouldMeet", "(II)Z"⟩, 28) := ⟨⟨by decide +kernel, by decide +kernel⟩, lw_t9 (List.mem_of_getElem? (i := 60) rfl), lw_t11 (List.mem_of_getElem? (i := 0) rfl), lw_t11 (List.mem_of_getElem? (i := 1) rfl)⟩
theorem lw_p121 : lw_okq (⟨"VisitingHoursModel", "logs", "(IIIII)V"⟩, 28) := ⟨⟨by decide +kernel, by decide +kernel⟩, lw_t9 (List.mem_of_getElem? (i := 60) rfl), lw_t11 (List.mem_of_getElem? (i := 4) rfl), lw_t11 (List.mem_of_getElem? (i := 5) rfl)⟩
theorem lw_p122 : lw_okq (⟨"VisitingHoursModel", "closes", "(IZ)V"⟩, 28) := ⟨⟨by decide +kernel, by decide +kernel⟩, lw_t9 (List.mem_of_getElem? (i := 60) rfl), lw_t11 (List.mem_of_getElem? (i := 11) rfl), lw_t11 (List.mem_of_getElem? (i := 12) rfl)⟩
theorem lw_p123 : lw_okq (⟨"VisitingHoursModel", "pairs", "(Z)V"⟩, 28) := ⟨⟨by decide +kernel, by decide +kernel⟩, lw_t9 (List.mem_of_getElem? (i := 60) rfl), lw_t11 (List.mem_of_getElem? (i := 31) rfl), lw_t11 (List.mem_of_getElem? (i := 32) rfl)⟩
theorem lw_p124 : lw_okq (⟨"VisitingHoursModel", "wants", "(IIZ)I"⟩, 28) := ⟨⟨by decide +kernel, by decide +kernel⟩, lw_t9 (List.mem_of_getElem? (i := 60) rfl), lw_t11 (List.mem_of_getElem? (i := 35) rfl), lw_t11 (List.mem_of_getElem? (i := 36) rfl)⟩
theorem lw_p125 : lw_okq (⟨"VisitingHoursModel", "hostRather", "(III)Z"⟩, 28) := ⟨⟨by decide +kernel, by decide +kernel⟩, lw_t9 (List.mem_of_getElem? (i := 60) rfl), lw_t11 (List.mem_of_getElem? (i := 39) rfl), lw_t11 (List.mem_of_getElem? (i := 40) rfl)⟩
theorem lw_p126 : lw_okq (⟨"VisitingHoursModel", "guestRather", "(III)Z"⟩, 28) := ⟨⟨by decide +kernel, by decide +kernel⟩, lw_t9 (List.mem_of_getElem? (i := 60) rfl), lw_t11 (List.mem_of_getElem? (i := 43) rfl), lw_t11 (List.mem_of_getElem? (i := 44) rfl)⟩
theorem lw_p127 : lw_okq (⟨"VisitingHoursModel", "asked", "(IIZ)V"⟩, 28) := ⟨⟨by decide +kernel, by decide +kernel⟩, lw_t9 (List.mem_of_getElem? (i := 60) rfl), lw_t11 (List.mem_of_getElem? (i := 47) rfl), lw_t11 (List.mem_of_getElem? (i := 48) rfl)⟩
def lw_privs_8 : List (MethodName × Nat) := [(⟨"VisitingHoursModel", "isLet", "(III)Z"⟩, 28), (⟨"VisitingHoursModel", "asks", "(III)V"⟩, 28), (⟨"VisitingHoursModel", "joyOf", "(III)I"⟩, 28), (⟨"VisitingHoursModel", "sets", "(II)I"⟩, 28), (⟨"VisitingHoursModel", "remembers", "()V"⟩, 28), (⟨"VisitingHoursModel", "goes", "(IZ)I"⟩, 28), (⟨"VisitingHoursModel", "draw", "(I)I"⟩, 28), (⟨"VisitingHoursModel", "meet", "(I)I"⟩, 28), (⟨"VisitingHoursModel", "wouldMeet", "(II)Z"⟩, 28), (⟨"VisitingHoursModel", "logs", "(IIIII)V"⟩, 28), (⟨"VisitingHoursModel", "closes", "(IZ)V"⟩, 28), (⟨"VisitingHoursModel", "pairs", "(Z)V"⟩, 28), (⟨"VisitingHoursModel", "wants", "(IIZ)I"⟩, 28), (⟨"VisitingHoursModel", "hostRather", "(III)Z"⟩, 28), (⟨"VisitingHoursModel", "guestRather", "(III)Z"⟩, 28), (⟨"VisitingHoursModel", "asked", "(IIZ)V"⟩, 28)]
theorem lw_r8 : ∀ q ∈ lw_privs_8, lw_okq q := List.forall_mem_cons.mpr ⟨lw_p112, List.forall_mem_cons.mpr ⟨lw_p113, List.forall_mem_cons.mpr ⟨lw_p114, List.forall_mem_cons.mpr ⟨lw_p115, List.forall_mem_cons.mpr ⟨lw_p116, List.forall_mem_cons.mpr ⟨lw_p117, List.forall_mem_cons.mpr ⟨lw_p118, List.forall_mem_cons.mpr ⟨lw_p119, List.forall_mem_cons.mpr ⟨lw_p120, List.forall_mem_cons.mpr ⟨lw_p121, List.forall_mem_cons.mpr ⟨lw_p122, List.forall_mem_cons.mpr ⟨lw_p123, List.forall_mem_cons.mpr ⟨lw_p124, List.forall_mem_cons.mpr ⟨lw_p125, List.forall_mem_cons.mpr ⟨lw_p126, List.forall_mem_cons.mpr ⟨lw_p127, fun _ h => absurd h List.not_mem_nil⟩⟩⟩⟩⟩⟩⟩⟩⟩⟩⟩⟩⟩⟩⟩⟩
theorem lw_p128 : lw_okq (⟨"VisitingHoursModel", "isWay", "(III)Z"⟩, 28) := ⟨⟨by decide +kernel, by decide +kernel⟩, lw_t9 (List.mem_of_getElem? (i := 60) rfl), lw_t11 (List.mem_of_getElem? (i := 59) rfl), lw_t11 (List.mem_of_getElem? (i := 60) rfl)⟩
theorem lw_p129 : lw_okq (⟨"VisitingHoursModel", "rathers", "()I"⟩, 28) := ⟨⟨by decide +kernel, by decide +kernel⟩, lw_t9 (List.mem_of_getElem? (i := 60) rfl), lw_t11 (List.mem_of_getElem? (i := 66) rfl), lw_t11 (List.mem_of_getElem? (i := 67) rfl)⟩
theorem lw_p130 : lw_okq (⟨"VisitingHoursModel", "rowsOf", "(II)V"⟩, 28) := ⟨⟨by decide +kernel, by decide +kernel⟩, lw_t9 (List.mem_of_getElem? (i := 60) rfl), lw_t11 (List.mem_of_getElem? (i := 78) rfl), lw_t11 (List.mem_of_getElem? (i := 79) rfl)⟩
theorem lw_p131 : lw_okq (⟨"VisitingHoursModel", "fitsFrom", "(III)Z"⟩, 28) := ⟨⟨by decide +kernel, by decide +kernel⟩, lw_t9 (List.mem_of_getElem? (i := 60) rfl), lw_t11 (List.mem_of_getElem? (i := 82) rfl), lw_t11 (List.mem_of_getElem? (i := 83) rfl)⟩
theorem lw_p132 : lw_okq (⟨"VisitingHoursModel", "fills", "(IIII)V"⟩, 28) := ⟨⟨by decide +kernel, by decide +kernel⟩, lw_t9 (List.mem_of_getElem? (i := 60) rfl), lw_t11 (List.mem_of_getElem? (i := 90) rfl), lw_t11 (List.mem_of_getElem? (i := 91) rfl)⟩
theorem lw_p133 : lw_okq (⟨"VisitingHoursModel", "brings", "(IIII)I"⟩, 28) := ⟨⟨by decide +kernel, by decide +kernel⟩, lw_t9 (List.mem_of_getElem? (i := 60) rfl), lw_t11 (List.mem_of_getElem? (i := 94) rfl), lw_t11 (List.mem_of_getElem? (i := 95) rfl)⟩
theorem lw_p134 : lw_okq (⟨"VisitingHoursModel", "firstOf", "(IIII)I"⟩, 28) := ⟨⟨by decide +kernel, by decide +kernel⟩, lw_t9 (List.mem_of_getElem? (i := 60) rfl), lw_t11 (List.mem_of_getElem? (i := 98) rfl), lw_t11 (List.mem_of_getElem? (i := 99) rfl)⟩
theorem lw_p135 : lw_okq (⟨"VisitingHoursModel", "heard", "()I"⟩, 28) := ⟨⟨by decide +kernel, by decide +kernel⟩, lw_t9 (List.mem_of_getElem? (i := 60) rfl), lw_t11 (List.mem_of_getElem? (i := 110) rfl), lw_t11 (List.mem_of_getElem? (i := 111) rfl)⟩
theorem lw_p136 : lw_okq (⟨"VisitingHoursModel", "wrongBy", "(II)I"⟩, 28) := ⟨⟨by decide +kernel, by decide +kernel⟩, lw_t9 (List.mem_of_getElem? (i := 60) rfl), lw_t11 (List.mem_of_getElem? (i := 126) rfl), lw_t11 (List.mem_of_getElem? (i := 127) rfl)⟩
theorem lw_p137 : lw_okq (⟨"VisitingHoursModel", "meetsIn", "(I)I"⟩, 28) := ⟨⟨by decide +kernel, by decide +kernel⟩, lw_t9 (List.mem_of_getElem? (i := 60) rfl), lw_t11 (List.mem_of_getElem? (i := 134) rfl), lw_t11 (List.mem_of_getElem? (i := 135) rfl)⟩
theorem lw_p138 : lw_okq (⟨"VisitingHoursModel", "hasBy", "(II)I"⟩, 28) := ⟨⟨by decide +kernel, by decide +kernel⟩, lw_t9 (List.mem_of_getElem? (i := 60) rfl), lw_t11 (List.mem_of_getElem? (i := 158) rfl), lw_t11 (List.mem_of_getElem? (i := 159) rfl)⟩
theorem lw_p139 : lw_okq (⟨"VisitingHoursModel", "comerHas", "(IIII)I"⟩, 28) := ⟨⟨by decide +kernel, by decide +kernel⟩, lw_t9 (List.mem_of_getElem? (i := 60) rfl), lw_t11 (List.mem_of_getElem? (i := 169) rfl), lw_t11 (List.mem_of_getElem? (i := 170) rfl)⟩
theorem lw_p140 : lw_okq (⟨"VisitingHoursModel", "areAlike", "(II)Z"⟩, 28) := ⟨⟨by decide +kernel, by decide +kernel⟩, lw_t9 (List.mem_of_getElem? (i := 60) rfl), lw_t11 (List.mem_of_getElem? (i := 185) rfl), lw_t11 (List.mem_of_getElem? (i := 186) rfl)⟩
theorem lw_p141 : lw_okq (⟨"VisitingHoursModel", "logged", "(II)I"⟩, 28) := ⟨⟨by decide +kernel, by decide +kernel⟩, lw_t9 (List.mem_of_getElem? (i := 60) rfl), lw_t11 (List.mem_of_getElem? (i := 213) rfl), lw_t11 (List.mem_of_getElem? (i := 214) rfl)⟩
theorem lw_p142 : lw_okq (⟨"VisitingHoursModel", "bookings", "()I"⟩, 28) := ⟨⟨by decide +kernel, by decide +kernel⟩, lw_t9 (List.mem_of_getElem? (i := 60) rfl), lw_t12 (List.mem_of_getElem? (i := 1) rfl), lw_t12 (List.mem_of_getElem? (i := 2) rfl)⟩
def lw_privs_9 : List (MethodName × Nat) := [(⟨"VisitingHoursModel", "isWay", "(III)Z"⟩, 28), (⟨"VisitingHoursModel", "rathers", "()I"⟩, 28), (⟨"VisitingHoursModel", "rowsOf", "(II)V"⟩, 28), (⟨"VisitingHoursModel", "fitsFrom", "(III)Z"⟩, 28), (⟨"VisitingHoursModel", "fills", "(IIII)V"⟩, 28), (⟨"VisitingHoursModel", "brings", "(IIII)I"⟩, 28), (⟨"VisitingHoursModel", "firstOf", "(IIII)I"⟩, 28), (⟨"VisitingHoursModel", "heard", "()I"⟩, 28), (⟨"VisitingHoursModel", "wrongBy", "(II)I"⟩, 28), (⟨"VisitingHoursModel", "meetsIn", "(I)I"⟩, 28), (⟨"VisitingHoursModel", "hasBy", "(II)I"⟩, 28), (⟨"VisitingHoursModel", "comerHas", "(IIII)I"⟩, 28), (⟨"VisitingHoursModel", "areAlike", "(II)Z"⟩, 28), (⟨"VisitingHoursModel", "logged", "(II)I"⟩, 28), (⟨"VisitingHoursModel", "bookings", "()I"⟩, 28)]
theorem lw_r9 : ∀ q ∈ lw_privs_9, lw_okq q := List.forall_mem_cons.mpr ⟨lw_p128, List.forall_mem_cons.mpr ⟨lw_p129, List.forall_mem_cons.mpr ⟨lw_p130, List.forall_mem_cons.mpr ⟨lw_p131, List.forall_mem_cons.mpr ⟨lw_p132, List.forall_mem_cons.mpr ⟨lw_p133, List.forall_mem_cons.mpr ⟨lw_p134, List.forall_mem_cons.mpr ⟨lw_p135, List.forall_mem_cons.mpr ⟨lw_p136, List.forall_mem_cons.mpr ⟨lw_p137, List.forall_mem_cons.mpr ⟨lw_p138, List.forall_mem_cons.mpr ⟨lw_p139, List.forall_mem_cons.mpr ⟨lw_p140, List.forall_mem_cons.mpr ⟨lw_p141, List.forall_mem_cons.mpr ⟨lw_p142, fun _ h => absurd h List.not_mem_nil⟩⟩⟩⟩⟩⟩⟩⟩⟩⟩⟩⟩⟩⟩⟩
def lw_privs : List (MethodName × Nat) := lw_privs_1 ++ (lw_privs_2 ++ (lw_privs_3 ++ (lw_privs_4 ++ (lw_privs_5 ++ (lw_privs_6 ++ (lw_privs_7 ++ (lw_privs_8 ++ (lw_privs_9))))))))
def lw_tbl : List Cond := k2_sels lw_privs ++ tables_1
theorem lw_privs_ok : ∀ q ∈ lw_privs, lw_okq q := by
  show ∀ q ∈ lw_privs_1 ++ (lw_privs_2 ++ (lw_privs_3 ++ (lw_privs_4 ++ (lw_privs_5 ++ (lw_privs_6 ++ (lw_privs_7 ++ (lw_privs_8 ++ (lw_privs_9)))))))), lw_okq q
  exact List.forall_mem_append.mpr ⟨lw_r1, List.forall_mem_append.mpr ⟨lw_r2, List.forall_mem_append.mpr ⟨lw_r3, List.forall_mem_append.mpr ⟨lw_r4, List.forall_mem_append.mpr ⟨lw_r5, List.forall_mem_append.mpr ⟨lw_r6, List.forall_mem_append.mpr ⟨lw_r7, List.forall_mem_append.mpr ⟨lw_r8, lw_r9⟩⟩⟩⟩⟩⟩⟩⟩
-- ===== ONE list of words for every method: the tables' words that hold all through a run =====
def lw_all : List Cond := lw_tbl.filter goodWord
/-- a word of the tables by its place: claim/WORDS.tsv -/
theorem lw_w {w : Cond} (i : Nat) (h : lw_tbl[i]? = some w) (g : goodWord w = true) : w ∈ lw_all := List.mem_filter.mpr ⟨List.mem_of_getElem? h, g⟩
theorem lw_all_tbl {w : Cond} (h : w ∈ lw_all) : w ∈ lw_tbl := (List.mem_filter.mp h).1
theorem lw_self : GoodIn lw_all lw_all := fun w h => ⟨h, good_of_word (List.mem_filter.mp h).2⟩
/-- a class's field words, by their places -/
theorem lw_in (ws : List Cond) (ps : List Nat) (hp : ws = ps.filterMap (fun i => lw_tbl[i]?)) (hg : ws.all goodWord = true) : ∀ w ∈ ws, w ∈ lw_all := by
  intro w h
  have h1 := List.all_eq_true.mp hg w h
  rw [hp] at h
  obtain ⟨i, -, hi⟩ := List.mem_filterMap.mp h
  exact lw_w i hi h1
/-- the words of a contract for the method y with code b, L locals, answer r -/
abbrev ws_ (y : MethodName) (b : ByteArray) (L : Nat) (r : Option FieldType) : List Cond := Cond.code y b L r :: lw_all
theorem lw_meth {y : MethodName} {b : ByteArray} {L : Nat} {r : Option FieldType} (h : Cond.code y b L r ∈ lw_all) : GoodIn lw_all (ws_ y b L r) := by
  intro w hw
  rcases List.mem_cons.mp hw with e | e
  · rw [e]
    exact lw_self _ h
  · exact lw_self _ e
theorem lw_app {a c : List Cond} (ha : ∀ w ∈ a, w ∈ lw_all) (hc : GoodIn lw_all c) : GoodIn lw_all (a ++ c) := by
  intro w hw
  rcases List.mem_append.mp hw with e | e
  · exact lw_self w (ha w e)
  · exact hc w e
/-- what a call through an object asks: cwV n hts (lw_V ..) -/
theorem lw_V {own : String} {idx : Nat} {C : String} {y : MethodName} {b : ByteArray} {L : Nat} {r : Option FieldType} (h1 : Cond.methodLink own idx y ∈ lw_all) (h2 : Cond.instanceMethod y ∈ lw_all) (h3 : Cond.selects C y y ∈ lw_all) (h4 : Cond.initialized C ∈ lw_all) (h5 : Cond.code y b L r ∈ lw_all) : GoodIn lw_all (wsV own idx C y (ws_ y b L r)) := by
  refine lw_app ?_ (lw_meth h5)
  intro w hw
  simp only [List.mem_cons, List.not_mem_nil, or_false] at hw
  rcases hw with e | e | e | e
  · rw [e]; exact h1
  · rw [e]; exact h2
  · rw [e]; exact h3
  · rw [e]; exact h4
/-- what a static call asks: va_cwS n hts (lw_S ..) -/
theorem lw_S {own : String} {idx : Nat} {y : MethodName} {b : ByteArray} {L : Nat} {r : Option FieldType} (h1 : Cond.methodLink own idx y ∈ lw_all) (h2 : Cond.static y ∈ lw_all) (h3 : Cond.initialized y.cls ∈ lw_all) (h4 : Cond.code y b L r ∈ lw_all) : GoodIn lw_all (va_wsS own idx y (ws_ y b L r)) := by
  refine lw_app ?_ (lw_meth h4)
  intro w hw
  simp only [List.mem_cons, List.not_mem_nil, or_false] at hw
  rcases hw with e | e | e
  · rw [e]; exact h1
  · rw [e]; exact h2
  · rw [e]; exact h3
/-- the words of a contract for a method WITH HANDLERS (hh: its table) -/
abbrev wsW_ (y : MethodName) (b : ByteArray) (L : Nat) (r : Option FieldType) (hh : List (Nat × Nat × Nat × Nat)) : List Cond := Cond.codeWith y b L r hh :: lw_all
theorem lw_methW {y : MethodName} {b : ByteArray} {L : Nat} {r : Option FieldType} {hh : List (Nat × Nat × Nat × Nat)} (h : Cond.codeWith y b L r hh ∈ lw_all) : GoodIn lw_all (wsW_ y b L r hh) := by
  intro w hw
  rcases List.mem_cons.mp hw with e | e
  · rw [e]
    exact lw_self _ h
  · exact lw_self _ e
/-- any list of words by their places (lw_in), good -/
theorem lw_good {ws : List Cond} (h : ∀ w ∈ ws, w ∈ lw_all) : GoodIn lw_all ws := fun w hw => lw_self w (h w hw)
/-- what a call of a method with handlers asks: vx_cwVW n hts (lw_VW ..), vx_cwSW n hts (lw_SW ..) -/
theorem lw_VW {own : String} {idx : Nat} {C : String} {y : MethodName} {b : ByteArray} {L : Nat} {r : Option FieldType} {hh : List (Nat × Nat × Nat × Nat)} (h1 : Cond.methodLink own idx y ∈ lw_all) (h2 : Cond.instanceMethod y ∈ lw_all) (h3 : Cond.selects C y y ∈ lw_all) (h4 : Cond.initialized C ∈ lw_all) (h5 : Cond.codeWith y b L r hh ∈ lw_all) : GoodIn lw_all (wsV own idx C y (wsW_ y b L r hh)) := by
  refine lw_app ?_ (lw_methW h5)
  intro w hw
  simp only [List.mem_cons, List.not_mem_nil, or_false] at hw
  rcases hw with e | e | e | e
  · rw [e]; exact h1
  · rw [e]; exact h2
  · rw [e]; exact h3
  · rw [e]; exact h4
theorem lw_SW {own : String} {idx : Nat} {y : MethodName} {b : ByteArray} {L : Nat} {r : Option FieldType} {hh : List (Nat × Nat × Nat × Nat)} (h1 : Cond.methodLink own idx y ∈ lw_all) (h2 : Cond.static y ∈ lw_all) (h3 : Cond.initialized y.cls ∈ lw_all) (h4 : Cond.codeWith y b L r hh ∈ lw_all) : GoodIn lw_all (va_wsS own idx y (wsW_ y b L r hh)) := by
  refine lw_app ?_ (lw_methW h4)
  intro w hw
  simp only [List.mem_cons, List.not_mem_nil, or_false] at hw
  rcases hw with e | e | e
  · rw [e]; exact h1
  · rw [e]; exact h2
  · rw [e]; exact h3
/-- a word by its place in its run of the tables -/
theorem lw_at {r : List Cond} (hr : ∀ w ∈ r, w ∈ lw_tbl) {w : Cond} (i : Nat) (h : r[i]? = some w) : w ∈ lw_tbl := hr w (List.mem_of_getElem? h)
theorem lw_g {w : Cond} (h : w ∈ lw_tbl) (g : goodWord w = true) : w ∈ lw_all := List.mem_filter.mpr ⟨h, g⟩
theorem lw_ms : ∀ w ∈ k2_sels lw_privs, w ∈ lw_tbl := fun w h => show w ∈ k2_sels lw_privs ++ tables_1 from List.mem_append_left _ h
theorem lw_m1 : ∀ w ∈ tables_1_1, w ∈ lw_tbl := fun w h => show w ∈ k2_sels lw_privs ++ tables_1 from List.mem_append_right (k2_sels lw_privs) (show w ∈ tables_1 from List.mem_append_left _ h)
theorem lw_m2 : ∀ w ∈ tables_1_2, w ∈ lw_tbl := fun w h => show w ∈ k2_sels lw_privs ++ tables_1 from List.mem_append_right (k2_sels lw_privs) (show w ∈ tables_1 from List.mem_append_right _ (List.mem_append_left _ h))
theorem lw_m3 : ∀ w ∈ tables_1_3, w ∈ lw_tbl := fun w h => show w ∈ k2_sels lw_privs ++ tables_1 from List.mem_append_right (k2_sels lw_privs) (show w ∈ tables_1 from List.mem_append_right _ (List.mem_append_right _ (List.mem_append_left _ h)))
theorem lw_m4 : ∀ w ∈ tables_1_4, w ∈ lw_tbl := fun w h => show w ∈ k2_sels lw_privs ++ tables_1 from List.mem_append_right (k2_sels lw_privs) (show w ∈ tables_1 from List.mem_append_right _ (List.mem_append_right _ (List.mem_append_right _ (List.mem_append_left _ h))))
theorem lw_m5 : ∀ w ∈ tables_1_5, w ∈ lw_tbl := fun w h => show w ∈ k2_sels lw_privs ++ tables_1 from List.mem_append_right (k2_sels lw_privs) (show w ∈ tables_1 from List.mem_append_right _ (List.mem_append_right _ (List.mem_append_right _ (List.mem_append_right _ (List.mem_append_left _ h)))))
theorem lw_m6 : ∀ w ∈ tables_1_6, w ∈ lw_tbl := fun w h => show w ∈ k2_sels lw_privs ++ tables_1 from List.mem_append_right (k2_sels lw_privs) (show w ∈ tables_1 from List.mem_append_right _ (List.mem_append_right _ (List.mem_append_right _ (List.mem_append_right _ (List.mem_append_right _ (List.mem_append_left _ h))))))
theorem lw_m7 : ∀ w ∈ tables_1_7, w ∈ lw_tbl := fun w h => show w ∈ k2_sels lw_privs ++ tables_1 from List.mem_append_right (k2_sels lw_privs) (show w ∈ tables_1 from List.mem_append_right _ (List.mem_append_right _ (List.mem_append_right _ (List.mem_append_right _ (List.mem_append_right _ (List.mem_append_right _ (List.mem_append_left _ h)))))))
theorem lw_m8 : ∀ w ∈ tables_1_8, w ∈ lw_tbl := fun w h => show w ∈ k2_sels lw_privs ++ tables_1 from List.mem_append_right (k2_sels lw_privs) (show w ∈ tables_1 from List.mem_append_right _ (List.mem_append_right _ (List.mem_append_right _ (List.mem_append_right _ (List.mem_append_right _ (List.mem_append_right _ (List.mem_append_right _ (List.mem_append_left _ h))))))))
theorem lw_m9 : ∀ w ∈ tables_1_9, w ∈ lw_tbl := fun w h => show w ∈ k2_sels lw_privs ++ tables_1 from List.mem_append_right (k2_sels lw_privs) (show w ∈ tables_1 from List.mem_append_right _ (List.mem_append_right _ (List.mem_append_right _ (List.mem_append_right _ (List.mem_append_right _ (List.mem_append_right _ (List.mem_append_right _ (List.mem_append_right _ (List.mem_append_left _ h)))))))))
theorem lw_m10 : ∀ w ∈ tables_1_10, w ∈ lw_tbl := fun w h => show w ∈ k2_sels lw_privs ++ tables_1 from List.mem_append_right (k2_sels lw_privs) (show w ∈ tables_1 from List.mem_append_right _ (List.mem_append_right _ (List.mem_append_right _ (List.mem_append_right _ (List.mem_append_right _ (List.mem_append_right _ (List.mem_append_right _ (List.mem_append_right _ (List.mem_append_right _ (List.mem_append_left _ h))))))))))
theorem lw_m11 : ∀ w ∈ tables_1_11, w ∈ lw_tbl := fun w h => show w ∈ k2_sels lw_privs ++ tables_1 from List.mem_append_right (k2_sels lw_privs) (show w ∈ tables_1 from List.mem_append_right _ (List.mem_append_right _ (List.mem_append_right _ (List.mem_append_right _ (List.mem_append_right _ (List.mem_append_right _ (List.mem_append_right _ (List.mem_append_right _ (List.mem_append_right _ (List.mem_append_right _ (List.mem_append_left _ h)))))))))))
theorem lw_m12 : ∀ w ∈ tables_1_12, w ∈ lw_tbl := fun w h => show w ∈ k2_sels lw_privs ++ tables_1 from List.mem_append_right (k2_sels lw_privs) (show w ∈ tables_1 from List.mem_append_right _ (List.mem_append_right _ (List.mem_append_right _ (List.mem_append_right _ (List.mem_append_right _ (List.mem_append_right _ (List.mem_append_right _ (List.mem_append_right _ (List.mem_append_right _ (List.mem_append_right _ (List.mem_append_right _ h)))))))))))
theorem qs0 : (Cond.selects "VisitingHours" ⟨"VisitingHours", "wouldMeet", "(LVisitingHours$World;II)Z"⟩ ⟨"VisitingHours", "wouldMeet", "(LVisitingHours$World;II)Z"⟩) ∈ lw_all := lw_g (lw_at lw_ms 0 rfl) rfl
theorem qs1 : (Cond.selects "VisitingHours" ⟨"VisitingHours", "letsIn", "(LVisitingHours$World;III)Z"⟩ ⟨"VisitingHours", "letsIn", "(LVisitingHours$World;III)Z"⟩) ∈ lw_all := lw_g (lw_at lw_ms 1 rfl) rfl
theorem qs2 : (Cond.selects "VisitingHours" ⟨"VisitingHours", "sceneOf", "(LVisitingHours$World;III)LVisitingHours$Scene;"⟩ ⟨"VisitingHours", "sceneOf", "(LVisitingHours$World;III)LVisitingHours$Scene;"⟩) ∈ lw_all := lw_g (lw_at lw_ms 2 rfl) rfl
theorem qs3 : (Cond.selects "VisitingHours" ⟨"VisitingHours", "joyBy", "(LVisitingHours$World;III)I"⟩ ⟨"VisitingHours", "joyBy", "(LVisitingHours$World;III)I"⟩) ∈ lw_all := lw_g (lw_at lw_ms 3 rfl) rfl
theorem qs4 : (Cond.selects "VisitingHours$Pairs" ⟨"VisitingHours$Pairs", "hostAsks", "(I)V"⟩ ⟨"VisitingHours$Pairs", "hostAsks", "(I)V"⟩) ∈ lw_all := lw_g (lw_at lw_ms 4 rfl) rfl
theorem qs5 : (Cond.selects "VisitingHours$Pairs" ⟨"VisitingHours$Pairs", "bestGuest", "(II)I"⟩ ⟨"VisitingHours$Pairs", "bestGuest", "(II)I"⟩) ∈ lw_all := lw_g (lw_at lw_ms 5 rfl) rfl
theorem qs6 : (Cond.selects "VisitingHours$Pairs" ⟨"VisitingHours$Pairs", "hostRather", "(III)Z"⟩ ⟨"VisitingHours$Pairs", "hostRather", "(III)Z"⟩) ∈ lw_all := lw_g (lw_at lw_ms 6 rfl) rfl
theorem qs7 : (Cond.selects "VisitingHours$Pairs" ⟨"VisitingHours$Pairs", "guestRather", "(III)Z"⟩ ⟨"VisitingHours$Pairs", "guestRather", "(III)Z"⟩) ∈ lw_all := lw_g (lw_at lw_ms 7 rfl) rfl
theorem qs8 : (Cond.selects "VisitingHours$Pairs" ⟨"VisitingHours$Pairs", "guestAsks", "(I)V"⟩ ⟨"VisitingHours$Pairs", "guestAsks", "(I)V"⟩) ∈ lw_all := lw_g (lw_at lw_ms 8 rfl) rfl
theorem qs9 : (Cond.selects "VisitingHours$Pairs" ⟨"VisitingHours$Pairs", "bestHost", "(II)I"⟩ ⟨"VisitingHours$Pairs", "bestHost", "(II)I"⟩) ∈ lw_all := lw_g (lw_at lw_ms 9 rfl) rfl
theorem qs10 : (Cond.selects "VisitingHours$Pairs" ⟨"VisitingHours$Pairs", "looksOn", "(I)V"⟩ ⟨"VisitingHours$Pairs", "looksOn", "(I)V"⟩) ∈ lw_all := lw_g (lw_at lw_ms 10 rfl) rfl
theorem qs11 : (Cond.selects "VisitingHours$Pairs" ⟨"VisitingHours$Pairs", "isBetween", "(II)Z"⟩ ⟨"VisitingHours$Pairs", "isBetween", "(II)Z"⟩) ∈ lw_all := lw_g (lw_at lw_ms 11 rfl) rfl
theorem qs12 : (Cond.selects "VisitingHours" ⟨"VisitingHours", "allMeet", "(I)Z"⟩ ⟨"VisitingHours", "allMeet", "(I)Z"⟩) ∈ lw_all := lw_g (lw_at lw_ms 12 rfl) rfl
theorem qs13 : (Cond.selects "VisitingHours" ⟨"VisitingHours", "meetsIn", "(I)I"⟩ ⟨"VisitingHours", "meetsIn", "(I)I"⟩) ∈ lw_all := lw_g (lw_at lw_ms 13 rfl) rfl
theorem qs14 : (Cond.selects "VisitingHours" ⟨"VisitingHours", "likedBy", "(I)I"⟩ ⟨"VisitingHours", "likedBy", "(I)I"⟩) ∈ lw_all := lw_g (lw_at lw_ms 14 rfl) rfl
theorem qs15 : (Cond.selects "VisitingHours" ⟨"VisitingHours", "isForlorn", "(I)Z"⟩ ⟨"VisitingHours", "isForlorn", "(I)Z"⟩) ∈ lw_all := lw_g (lw_at lw_ms 15 rfl) rfl
theorem qs16 : (Cond.selects "VisitingHours" ⟨"VisitingHours", "likens", "(II)Z"⟩ ⟨"VisitingHours", "likens", "(II)Z"⟩) ∈ lw_all := lw_g (lw_at lw_ms 16 rfl) rfl
theorem qs17 : (Cond.selects "java/util/ArrayList" ⟨"java/util/ArrayList", "fastRemove", "([Ljava/lang/Object;I)V"⟩ ⟨"java/util/ArrayList", "fastRemove", "([Ljava/lang/Object;I)V"⟩) ∈ lw_all := lw_g (lw_at lw_ms 17 rfl) rfl
theorem qs18 : (Cond.selects "VisitingHours" ⟨"VisitingHours", "groundText", "(LVisitingHours$World;)V"⟩ ⟨"VisitingHours", "groundText", "(LVisitingHours$World;)V"⟩) ∈ lw_all := lw_g (lw_at lw_ms 18 rfl) rfl
theorem qs19 : (Cond.selects "VisitingHours$Reader" ⟨"VisitingHours$Reader", "byteAt", "(I)I"⟩ ⟨"VisitingHours$Reader", "byteAt", "(I)I"⟩) ∈ lw_all := lw_g (lw_at lw_ms 19 rfl) rfl
theorem qs20 : (Cond.selects "VisitingHours" ⟨"VisitingHours", "noMore", "(II)V"⟩ ⟨"VisitingHours", "noMore", "(II)V"⟩) ∈ lw_all := lw_g (lw_at lw_ms 20 rfl) rfl
theorem qs21 : (Cond.selects "java/lang/Throwable" ⟨"java/lang/Throwable", "fillInStackTrace", "(I)Ljava/lang/Throwable;"⟩ ⟨"java/lang/Throwable", "fillInStackTrace", "(I)Ljava/lang/Throwable;"⟩) ∈ lw_all := lw_g (lw_at lw_ms 21 rfl) rfl
theorem qs22 : (Cond.selects "VisitingHours" ⟨"VisitingHours", "groundLine", "(LVisitingHours$World;)V"⟩ ⟨"VisitingHours", "groundLine", "(LVisitingHours$World;)V"⟩) ∈ lw_all := lw_g (lw_at lw_ms 22 rfl) rfl
theorem qs23 : (Cond.selects "VisitingHours" ⟨"VisitingHours", "aHost", "(LVisitingHours$World;)V"⟩ ⟨"VisitingHours", "aHost", "(LVisitingHours$World;)V"⟩) ∈ lw_all := lw_g (lw_at lw_ms 23 rfl) rfl
theorem qs24 : (Cond.selects "VisitingHours" ⟨"VisitingHours", "after", "(Ljava/lang/String;II)I"⟩ ⟨"VisitingHours", "after", "(Ljava/lang/String;II)I"⟩) ∈ lw_all := lw_g (lw_at lw_ms 24 rfl) rfl
theorem qs25 : (Cond.selects "VisitingHours" ⟨"VisitingHours", "needs", "(Ljava/lang/String;)V"⟩ ⟨"VisitingHours", "needs", "(Ljava/lang/String;)V"⟩) ∈ lw_all := lw_g (lw_at lw_ms 25 rfl) rfl
theorem qs26 : (Cond.selects "VisitingHours" ⟨"VisitingHours", "hoursTold", "()I"⟩ ⟨"VisitingHours", "hoursTold", "()I"⟩) ∈ lw_all := lw_g (lw_at lw_ms 26 rfl) rfl
theorem qs27 : (Cond.selects "VisitingHours" ⟨"VisitingHours", "aGuest", "(LVisitingHours$World;)V"⟩ ⟨"VisitingHours", "aGuest", "(LVisitingHours$World;)V"⟩) ∈ lw_all := lw_g (lw_at lw_ms 27 rfl) rfl
theorem qs28 : (Cond.selects "VisitingHours" ⟨"VisitingHours", "marksTold", "()I"⟩ ⟨"VisitingHours", "marksTold", "()I"⟩) ∈ lw_all := lw_g (lw_at lw_ms 28 rfl) rfl
theorem qs29 : (Cond.selects "VisitingHours" ⟨"VisitingHours", "ranks", "([II)V"⟩ ⟨"VisitingHours", "ranks", "([II)V"⟩) ∈ lw_all := lw_g (lw_at lw_ms 29 rfl) rfl
theorem qs30 : (Cond.selects "VisitingHours" ⟨"VisitingHours", "goesOn", "()Z"⟩ ⟨"VisitingHours", "goesOn", "()Z"⟩) ∈ lw_all := lw_g (lw_at lw_ms 30 rfl) rfl
theorem qs31 : (Cond.selects "VisitingHours" ⟨"VisitingHours", "fails", "()V"⟩ ⟨"VisitingHours", "fails", "()V"⟩) ∈ lw_all := lw_g (lw_at lw_ms 31 rfl) rfl
theorem qs32 : (Cond.selects "VisitingHours" ⟨"VisitingHours", "lawText", "()LVisitingHours$Law;"⟩ ⟨"VisitingHours", "lawText", "()LVisitingHours$Law;"⟩) ∈ lw_all := lw_g (lw_at lw_ms 32 rfl) rfl
theorem qs33 : (Cond.selects "VisitingHours" ⟨"VisitingHours", "lawLine", "()LVisitingHours$Line;"⟩ ⟨"VisitingHours", "lawLine", "()LVisitingHours$Line;"⟩) ∈ lw_all := lw_g (lw_at lw_ms 33 rfl) rfl
theorem qs34 : (Cond.selects "VisitingHours" ⟨"VisitingHours", "cond", "()LVisitingHours$Cond;"⟩ ⟨"VisitingHours", "cond", "()LVisitingHours$Cond;"⟩) ∈ lw_all := lw_g (lw_at lw_ms 34 rfl) rfl
theorem qs35 : (Cond.selects "VisitingHours" ⟨"VisitingHours", "allOf", "()LVisitingHours$Cond;"⟩ ⟨"VisitingHours", "allOf", "()LVisitingHours$Cond;"⟩) ∈ lw_all := lw_g (lw_at lw_ms 35 rfl) rfl
theorem qs36 : (Cond.selects "VisitingHours" ⟨"VisitingHours", "atom", "()LVisitingHours$Cond;"⟩ ⟨"VisitingHours", "atom", "()LVisitingHours$Cond;"⟩) ∈ lw_all := lw_g (lw_at lw_ms 36 rfl) rfl
theorem qs37 : (Cond.selects "VisitingHours" ⟨"VisitingHours", "sum", "()LVisitingHours$Sum;"⟩ ⟨"VisitingHours", "sum", "()LVisitingHours$Sum;"⟩) ∈ lw_all := lw_g (lw_at lw_ms 37 rfl) rfl
theorem qs38 : (Cond.selects "VisitingHours" ⟨"VisitingHours", "onePart", "()LVisitingHours$Part;"⟩ ⟨"VisitingHours", "onePart", "()LVisitingHours$Part;"⟩) ∈ lw_all := lw_g (lw_at lw_ms 38 rfl) rfl
theorem qs39 : (Cond.selects "java/util/ArrayList" ⟨"java/util/ArrayList", "add", "(Ljava/lang/Object;[Ljava/lang/Object;I)V"⟩ ⟨"java/util/ArrayList", "add", "(Ljava/lang/Object;[Ljava/lang/Object;I)V"⟩) ∈ lw_all := lw_g (lw_at lw_ms 39 rfl) rfl
theorem qs40 : (Cond.selects "java/util/ArrayList" ⟨"java/util/ArrayList", "grow", "()[Ljava/lang/Object;"⟩ ⟨"java/util/ArrayList", "grow", "()[Ljava/lang/Object;"⟩) ∈ lw_all := lw_g (lw_at lw_ms 40 rfl) rfl
theorem qs41 : (Cond.selects "java/util/ArrayList" ⟨"java/util/ArrayList", "grow", "(I)[Ljava/lang/Object;"⟩ ⟨"java/util/ArrayList", "grow", "(I)[Ljava/lang/Object;"⟩) ∈ lw_all := lw_g (lw_at lw_ms 41 rfl) rfl
theorem qs42 : (Cond.selects "VisitingHours" ⟨"VisitingHours", "hostAt", "(I)V"⟩ ⟨"VisitingHours", "hostAt", "(I)V"⟩) ∈ lw_all := lw_g (lw_at lw_ms 42 rfl) rfl
theorem qs43 : (Cond.selects "VisitingHours" ⟨"VisitingHours", "shareOf", "(I)I"⟩ ⟨"VisitingHours", "shareOf", "(I)I"⟩) ∈ lw_all := lw_g (lw_at lw_ms 43 rfl) rfl
theorem qs44 : (Cond.selects "VisitingHours" ⟨"VisitingHours", "guestAt", "(I)V"⟩ ⟨"VisitingHours", "guestAt", "(I)V"⟩) ∈ lw_all := lw_g (lw_at lw_ms 44 rfl) rfl
theorem qs45 : (Cond.selects "VisitingHours" ⟨"VisitingHours", "allAt", "(III)V"⟩ ⟨"VisitingHours", "allAt", "(III)V"⟩) ∈ lw_all := lw_g (lw_at lw_ms 45 rfl) rfl
theorem qs46 : (Cond.selects "VisitingHours" ⟨"VisitingHours", "remembers", "()V"⟩ ⟨"VisitingHours", "remembers", "()V"⟩) ∈ lw_all := lw_g (lw_at lw_ms 46 rfl) rfl
theorem qs47 : (Cond.selects "VisitingHours" ⟨"VisitingHours", "twoHosts", "(II)V"⟩ ⟨"VisitingHours", "twoHosts", "(II)V"⟩) ∈ lw_all := lw_g (lw_at lw_ms 47 rfl) rfl
theorem qs48 : (Cond.selects "VisitingHours" ⟨"VisitingHours", "aWeek", "(LVisitingHours$World;ZZ)I"⟩ ⟨"VisitingHours", "aWeek", "(LVisitingHours$World;ZZ)I"⟩) ∈ lw_all := lw_g (lw_at lw_ms 48 rfl) rfl
theorem qs49 : (Cond.selects "VisitingHours" ⟨"VisitingHours", "meets", "(LVisitingHours$World;IZ)I"⟩ ⟨"VisitingHours", "meets", "(LVisitingHours$World;IZ)I"⟩) ∈ lw_all := lw_g (lw_at lw_ms 49 rfl) rfl
theorem qs50 : (Cond.selects "VisitingHours" ⟨"VisitingHours", "isTold", "(II)Z"⟩ ⟨"VisitingHours", "isTold", "(II)Z"⟩) ∈ lw_all := lw_g (lw_at lw_ms 50 rfl) rfl
theorem qs51 : (Cond.selects "VisitingHours" ⟨"VisitingHours", "overOf", "(II)I"⟩ ⟨"VisitingHours", "overOf", "(II)I"⟩) ∈ lw_all := lw_g (lw_at lw_ms 51 rfl) rfl
theorem qs52 : (Cond.selects "VisitingHours" ⟨"VisitingHours", "overFrom", "(III)I"⟩ ⟨"VisitingHours", "overFrom", "(III)I"⟩) ∈ lw_all := lw_g (lw_at lw_ms 52 rfl) rfl
theorem qs53 : (Cond.selects "VisitingHours" ⟨"VisitingHours", "canStay", "(III)Z"⟩ ⟨"VisitingHours", "canStay", "(III)Z"⟩) ∈ lw_all := lw_g (lw_at lw_ms 53 rfl) rfl
theorem qs54 : (Cond.selects "VisitingHours" ⟨"VisitingHours", "laysAfternoon", "(I)V"⟩ ⟨"VisitingHours", "laysAfternoon", "(I)V"⟩) ∈ lw_all := lw_g (lw_at lw_ms 54 rfl) rfl
theorem qs55 : (Cond.selects "VisitingHours" ⟨"VisitingHours", "afternoonBy", "(IIII)I"⟩ ⟨"VisitingHours", "afternoonBy", "(IIII)I"⟩) ∈ lw_all := lw_g (lw_at lw_ms 55 rfl) rfl
theorem qs56 : (Cond.selects "VisitingHours" ⟨"VisitingHours", "gateTold", "()V"⟩ ⟨"VisitingHours", "gateTold", "()V"⟩) ∈ lw_all := lw_g (lw_at lw_ms 56 rfl) rfl
theorem qs57 : (Cond.selects "VisitingHours" ⟨"VisitingHours", "laysRules", "()V"⟩ ⟨"VisitingHours", "laysRules", "()V"⟩) ∈ lw_all := lw_g (lw_at lw_ms 57 rfl) rfl
theorem qs58 : (Cond.selects "VisitingHours" ⟨"VisitingHours", "fits", "(I)Z"⟩ ⟨"VisitingHours", "fits", "(I)Z"⟩) ∈ lw_all := lw_g (lw_at lw_ms 58 rfl) rfl
theorem qs59 : (Cond.selects "VisitingHours" ⟨"VisitingHours", "passes", "(II)Z"⟩ ⟨"VisitingHours", "passes", "(II)Z"⟩) ∈ lw_all := lw_g (lw_at lw_ms 59 rfl) rfl
theorem qs60 : (Cond.selects "VisitingHours" ⟨"VisitingHours", "wrongOrders", "(I)I"⟩ ⟨"VisitingHours", "wrongOrders", "(I)I"⟩) ∈ lw_all := lw_g (lw_at lw_ms 60 rfl) rfl
theorem qs61 : (Cond.selects "VisitingHours" ⟨"VisitingHours", "savedFrom", "(IIII)I"⟩ ⟨"VisitingHours", "savedFrom", "(IIII)I"⟩) ∈ lw_all := lw_g (lw_at lw_ms 61 rfl) rfl
theorem qs62 : (Cond.selects "VisitingHours" ⟨"VisitingHours", "laysLent", "()V"⟩ ⟨"VisitingHours", "laysLent", "()V"⟩) ∈ lw_all := lw_g (lw_at lw_ms 62 rfl) rfl
theorem qs63 : (Cond.selects "VisitingHours" ⟨"VisitingHours", "lentBy", "(III)I"⟩ ⟨"VisitingHours", "lentBy", "(III)I"⟩) ∈ lw_all := lw_g (lw_at lw_ms 63 rfl) rfl
theorem qs64 : (Cond.selects "VisitingHours" ⟨"VisitingHours", "hasBy", "(II)I"⟩ ⟨"VisitingHours", "hasBy", "(II)I"⟩) ∈ lw_all := lw_g (lw_at lw_ms 64 rfl) rfl
theorem qs65 : (Cond.selects "VisitingHours" ⟨"VisitingHours", "guestHas", "(IIII)I"⟩ ⟨"VisitingHours", "guestHas", "(IIII)I"⟩) ∈ lw_all := lw_g (lw_at lw_ms 65 rfl) rfl
theorem qs66 : (Cond.selects "VisitingHours" ⟨"VisitingHours", "worldAt", "(I)LVisitingHours$World;"⟩ ⟨"VisitingHours", "worldAt", "(I)LVisitingHours$World;"⟩) ∈ lw_all := lw_g (lw_at lw_ms 66 rfl) rfl
theorem qs67 : (Cond.selects "VisitingHours" ⟨"VisitingHours", "tries", "(I)V"⟩ ⟨"VisitingHours", "tries", "(I)V"⟩) ∈ lw_all := lw_g (lw_at lw_ms 67 rfl) rfl
theorem qs68 : (Cond.selects "VisitingHours" ⟨"VisitingHours", "ofLog", "(II)I"⟩ ⟨"VisitingHours", "ofLog", "(II)I"⟩) ∈ lw_all := lw_g (lw_at lw_ms 68 rfl) rfl
theorem qs69 : (Cond.selects "VisitingHoursModel" ⟨"VisitingHoursModel", "putsAside", "()V"⟩ ⟨"VisitingHoursModel", "putsAside", "()V"⟩) ∈ lw_all := lw_g (lw_at lw_ms 69 rfl) rfl
theorem qs70 : (Cond.selects "VisitingHoursModel" ⟨"VisitingHoursModel", "begins", "()V"⟩ ⟨"VisitingHoursModel", "begins", "()V"⟩) ∈ lw_all := lw_g (lw_at lw_ms 70 rfl) rfl
theorem qs71 : (Cond.selects "VisitingHoursModel" ⟨"VisitingHoursModel", "read", "(Z)I"⟩ ⟨"VisitingHoursModel", "read", "(Z)I"⟩) ∈ lw_all := lw_g (lw_at lw_ms 71 rfl) rfl
theorem qs72 : (Cond.selects "VisitingHoursModel" ⟨"VisitingHoursModel", "skip", "()V"⟩ ⟨"VisitingHoursModel", "skip", "()V"⟩) ∈ lw_all := lw_g (lw_at lw_ms 72 rfl) rfl
theorem qs73 : (Cond.selects "VisitingHoursModel" ⟨"VisitingHoursModel", "letter", "(I)I"⟩ ⟨"VisitingHoursModel", "letter", "(I)I"⟩) ∈ lw_all := lw_g (lw_at lw_ms 73 rfl) rfl
theorem qs74 : (Cond.selects "VisitingHoursModel" ⟨"VisitingHoursModel", "wrong", "(I)V"⟩ ⟨"VisitingHoursModel", "wrong", "(I)V"⟩) ∈ lw_all := lw_g (lw_at lw_ms 74 rfl) rfl
theorem qs75 : (Cond.selects "VisitingHoursModel" ⟨"VisitingHoursModel", "lawLine", "()V"⟩ ⟨"VisitingHoursModel", "lawLine", "()V"⟩) ∈ lw_all := lw_g (lw_at lw_ms 75 rfl) rfl
theorem qs76 : (Cond.selects "VisitingHoursModel" ⟨"VisitingHoursModel", "has", "(Ljava/lang/String;)Z"⟩ ⟨"VisitingHoursModel", "has", "(Ljava/lang/String;)Z"⟩) ∈ lw_all := lw_g (lw_at lw_ms 76 rfl) rfl
theorem qs77 : (Cond.selects "VisitingHoursModel" ⟨"VisitingHoursModel", "figures", "(II)I"⟩ ⟨"VisitingHoursModel", "figures", "(II)I"⟩) ∈ lw_all := lw_g (lw_at lw_ms 77 rfl) rfl
theorem qs78 : (Cond.selects "VisitingHoursModel" ⟨"VisitingHoursModel", "here", "()I"⟩ ⟨"VisitingHoursModel", "here", "()I"⟩) ∈ lw_all := lw_g (lw_at lw_ms 78 rfl) rfl
theorem qs79 : (Cond.selects "VisitingHoursModel" ⟨"VisitingHoursModel", "some", "()Z"⟩ ⟨"VisitingHoursModel", "some", "()Z"⟩) ∈ lw_all := lw_g (lw_at lw_ms 79 rfl) rfl
theorem qs80 : (Cond.selects "VisitingHoursModel" ⟨"VisitingHoursModel", "every", "()Z"⟩ ⟨"VisitingHoursModel", "every", "()Z"⟩) ∈ lw_all := lw_g (lw_at lw_ms 80 rfl) rfl
theorem qs81 : (Cond.selects "VisitingHoursModel" ⟨"VisitingHoursModel", "atom", "()Z"⟩ ⟨"VisitingHoursModel", "atom", "()Z"⟩) ∈ lw_all := lw_g (lw_at lw_ms 81 rfl) rfl
theorem qs82 : (Cond.selects "VisitingHoursModel" ⟨"VisitingHoursModel", "isSign", "(I)Z"⟩ ⟨"VisitingHoursModel", "isSign", "(I)Z"⟩) ∈ lw_all := lw_g (lw_at lw_ms 82 rfl) rfl
theorem qs83 : (Cond.selects "VisitingHoursModel" ⟨"VisitingHoursModel", "plain", "()Z"⟩ ⟨"VisitingHoursModel", "plain", "()Z"⟩) ∈ lw_all := lw_g (lw_at lw_ms 83 rfl) rfl
theorem qs84 : (Cond.selects "VisitingHoursModel" ⟨"VisitingHoursModel", "sum", "()I"⟩ ⟨"VisitingHoursModel", "sum", "()I"⟩) ∈ lw_all := lw_g (lw_at lw_ms 84 rfl) rfl
theorem qs85 : (Cond.selects "VisitingHoursModel" ⟨"VisitingHoursModel", "part", "()I"⟩ ⟨"VisitingHoursModel", "part", "()I"⟩) ∈ lw_all := lw_g (lw_at lw_ms 85 rfl) rfl
theorem qs86 : (Cond.selects "VisitingHoursModel" ⟨"VisitingHoursModel", "groundLine", "()V"⟩ ⟨"VisitingHoursModel", "groundLine", "()V"⟩) ∈ lw_all := lw_g (lw_at lw_ms 86 rfl) rfl
theorem qs87 : (Cond.selects "VisitingHoursModel" ⟨"VisitingHoursModel", "hostLine", "(I)V"⟩ ⟨"VisitingHoursModel", "hostLine", "(I)V"⟩) ∈ lw_all := lw_g (lw_at lw_ms 87 rfl) rfl
theorem qs88 : (Cond.selects "VisitingHoursModel" ⟨"VisitingHoursModel", "after", "(Ljava/lang/String;II)I"⟩ ⟨"VisitingHoursModel", "after", "(Ljava/lang/String;II)I"⟩) ∈ lw_all := lw_g (lw_at lw_ms 88 rfl) rfl
theorem qs89 : (Cond.selects "VisitingHoursModel" ⟨"VisitingHoursModel", "hours", "()I"⟩ ⟨"VisitingHoursModel", "hours", "()I"⟩) ∈ lw_all := lw_g (lw_at lw_ms 89 rfl) rfl
theorem qs90 : (Cond.selects "VisitingHoursModel" ⟨"VisitingHoursModel", "put", "(III)V"⟩ ⟨"VisitingHoursModel", "put", "(III)V"⟩) ∈ lw_all := lw_g (lw_at lw_ms 90 rfl) rfl
theorem qs91 : (Cond.selects "VisitingHoursModel" ⟨"VisitingHoursModel", "guestLine", "(I)V"⟩ ⟨"VisitingHoursModel", "guestLine", "(I)V"⟩) ∈ lw_all := lw_g (lw_at lw_ms 91 rfl) rfl
theorem qs92 : (Cond.selects "VisitingHoursModel" ⟨"VisitingHoursModel", "letters", "()I"⟩ ⟨"VisitingHoursModel", "letters", "()I"⟩) ∈ lw_all := lw_g (lw_at lw_ms 92 rfl) rfl
theorem qs93 : (Cond.selects "VisitingHoursModel" ⟨"VisitingHoursModel", "ranksLine", "(III)V"⟩ ⟨"VisitingHoursModel", "ranksLine", "(III)V"⟩) ∈ lw_all := lw_g (lw_at lw_ms 93 rfl) rfl
theorem qs94 : (Cond.selects "VisitingHoursModel" ⟨"VisitingHoursModel", "tells", "(III)V"⟩ ⟨"VisitingHoursModel", "tells", "(III)V"⟩) ∈ lw_all := lw_g (lw_at lw_ms 94 rfl) rfl
theorem qs95 : (Cond.selects "VisitingHoursModel" ⟨"VisitingHoursModel", "comesBack", "()V"⟩ ⟨"VisitingHoursModel", "comesBack", "()V"⟩) ∈ lw_all := lw_g (lw_at lw_ms 95 rfl) rfl
theorem qs96 : (Cond.selects "VisitingHoursModel" ⟨"VisitingHoursModel", "isHost", "(I)Z"⟩ ⟨"VisitingHoursModel", "isHost", "(I)Z"⟩) ∈ lw_all := lw_g (lw_at lw_ms 96 rfl) rfl
theorem qs97 : (Cond.selects "VisitingHoursModel" ⟨"VisitingHoursModel", "of", "(II)I"⟩ ⟨"VisitingHoursModel", "of", "(II)I"⟩) ∈ lw_all := lw_g (lw_at lw_ms 97 rfl) rfl
theorem qs98 : (Cond.selects "VisitingHoursModel" ⟨"VisitingHoursModel", "freeOf", "(I)I"⟩ ⟨"VisitingHoursModel", "freeOf", "(I)I"⟩) ∈ lw_all := lw_g (lw_at lw_ms 98 rfl) rfl
theorem qs99 : (Cond.selects "VisitingHoursModel" ⟨"VisitingHoursModel", "bookedIn", "(II)I"⟩ ⟨"VisitingHoursModel", "bookedIn", "(II)I"⟩) ∈ lw_all := lw_g (lw_at lw_ms 99 rfl) rfl
theorem qs100 : (Cond.selects "VisitingHoursModel" ⟨"VisitingHoursModel", "seesOf", "(I)I"⟩ ⟨"VisitingHoursModel", "seesOf", "(I)I"⟩) ∈ lw_all := lw_g (lw_at lw_ms 100 rfl) rfl
theorem qs101 : (Cond.selects "VisitingHoursModel" ⟨"VisitingHoursModel", "gladness", "()I"⟩ ⟨"VisitingHoursModel", "gladness", "()I"⟩) ∈ lw_all := lw_g (lw_at lw_ms 101 rfl) rfl
theorem qs102 : (Cond.selects "VisitingHoursModel" ⟨"VisitingHoursModel", "isGuest", "(I)Z"⟩ ⟨"VisitingHoursModel", "isGuest", "(I)Z"⟩) ∈ lw_all := lw_g (lw_at lw_ms 102 rfl) rfl
theorem qs103 : (Cond.selects "VisitingHoursModel" ⟨"VisitingHoursModel", "ofGuest", "(II)I"⟩ ⟨"VisitingHoursModel", "ofGuest", "(II)I"⟩) ∈ lw_all := lw_g (lw_at lw_ms 103 rfl) rfl
theorem qs104 : (Cond.selects "VisitingHoursModel" ⟨"VisitingHoursModel", "busyOf", "(I)I"⟩ ⟨"VisitingHoursModel", "busyOf", "(I)I"⟩) ∈ lw_all := lw_g (lw_at lw_ms 104 rfl) rfl
theorem qs105 : (Cond.selects "VisitingHoursModel" ⟨"VisitingHoursModel", "likedOf", "(I)I"⟩ ⟨"VisitingHoursModel", "likedOf", "(I)I"⟩) ∈ lw_all := lw_g (lw_at lw_ms 105 rfl) rfl
theorem qs106 : (Cond.selects "VisitingHoursModel" ⟨"VisitingHoursModel", "rankOf", "(II)I"⟩ ⟨"VisitingHoursModel", "rankOf", "(II)I"⟩) ∈ lw_all := lw_g (lw_at lw_ms 106 rfl) rfl
theorem qs107 : (Cond.selects "VisitingHoursModel" ⟨"VisitingHoursModel", "passes", "(I)Z"⟩ ⟨"VisitingHoursModel", "passes", "(I)Z"⟩) ∈ lw_all := lw_g (lw_at lw_ms 107 rfl) rfl
theorem qs108 : (Cond.selects "VisitingHoursModel" ⟨"VisitingHoursModel", "lovedOf", "(II)I"⟩ ⟨"VisitingHoursModel", "lovedOf", "(II)I"⟩) ∈ lw_all := lw_g (lw_at lw_ms 108 rfl) rfl
theorem qs109 : (Cond.selects "VisitingHoursModel" ⟨"VisitingHoursModel", "areThere", "(III)Z"⟩ ⟨"VisitingHoursModel", "areThere", "(III)Z"⟩) ∈ lw_all := lw_g (lw_at lw_ms 109 rfl) rfl
theorem qs110 : (Cond.selects "VisitingHoursModel" ⟨"VisitingHoursModel", "canMeet", "(III)Z"⟩ ⟨"VisitingHoursModel", "canMeet", "(III)Z"⟩) ∈ lw_all := lw_g (lw_at lw_ms 110 rfl) rfl
theorem qs111 : (Cond.selects "VisitingHoursModel" ⟨"VisitingHoursModel", "mayMeet", "(II)Z"⟩ ⟨"VisitingHoursModel", "mayMeet", "(II)Z"⟩) ∈ lw_all := lw_g (lw_at lw_ms 111 rfl) rfl
theorem qs112 : (Cond.selects "VisitingHoursModel" ⟨"VisitingHoursModel", "isLet", "(III)Z"⟩ ⟨"VisitingHoursModel", "isLet", "(III)Z"⟩) ∈ lw_all := lw_g (lw_at lw_ms 112 rfl) rfl
theorem qs113 : (Cond.selects "VisitingHoursModel" ⟨"VisitingHoursModel", "asks", "(III)V"⟩ ⟨"VisitingHoursModel", "asks", "(III)V"⟩) ∈ lw_all := lw_g (lw_at lw_ms 113 rfl) rfl
theorem qs114 : (Cond.selects "VisitingHoursModel" ⟨"VisitingHoursModel", "joyOf", "(III)I"⟩ ⟨"VisitingHoursModel", "joyOf", "(III)I"⟩) ∈ lw_all := lw_g (lw_at lw_ms 114 rfl) rfl
theorem qs115 : (Cond.selects "VisitingHoursModel" ⟨"VisitingHoursModel", "sets", "(II)I"⟩ ⟨"VisitingHoursModel", "sets", "(II)I"⟩) ∈ lw_all := lw_g (lw_at lw_ms 115 rfl) rfl
theorem qs116 : (Cond.selects "VisitingHoursModel" ⟨"VisitingHoursModel", "remembers", "()V"⟩ ⟨"VisitingHoursModel", "remembers", "()V"⟩) ∈ lw_all := lw_g (lw_at lw_ms 116 rfl) rfl
theorem qs117 : (Cond.selects "VisitingHoursModel" ⟨"VisitingHoursModel", "goes", "(IZ)I"⟩ ⟨"VisitingHoursModel", "goes", "(IZ)I"⟩) ∈ lw_all := lw_g (lw_at lw_ms 117 rfl) rfl
theorem qs118 : (Cond.selects "VisitingHoursModel" ⟨"VisitingHoursModel", "draw", "(I)I"⟩ ⟨"VisitingHoursModel", "draw", "(I)I"⟩) ∈ lw_all := lw_g (lw_at lw_ms 118 rfl) rfl
theorem qs119 : (Cond.selects "VisitingHoursModel" ⟨"VisitingHoursModel", "meet", "(I)I"⟩ ⟨"VisitingHoursModel", "meet", "(I)I"⟩) ∈ lw_all := lw_g (lw_at lw_ms 119 rfl) rfl
theorem qs120 : (Cond.selects "VisitingHoursModel" ⟨"VisitingHoursModel", "wouldMeet", "(II)Z"⟩ ⟨"VisitingHoursModel", "wouldMeet", "(II)Z"⟩) ∈ lw_all := lw_g (lw_at lw_ms 120 rfl) rfl
theorem qs121 : (Cond.selects "VisitingHoursModel" ⟨"VisitingHoursModel", "logs", "(IIIII)V"⟩ ⟨"VisitingHoursModel", "logs", "(IIIII)V"⟩) ∈ lw_all := lw_g (lw_at lw_ms 121 rfl) rfl
theorem qs122 : (Cond.selects "VisitingHoursModel" ⟨"VisitingHoursModel", "closes", "(IZ)V"⟩ ⟨"VisitingHoursModel", "closes", "(IZ)V"⟩) ∈ lw_all := lw_g (lw_at lw_ms 122 rfl) rfl
theorem qs123 : (Cond.selects "VisitingHoursModel" ⟨"VisitingHoursModel", "pairs", "(Z)V"⟩ ⟨"VisitingHoursModel", "pairs", "(Z)V"⟩) ∈ lw_all := lw_g (lw_at lw_ms 123 rfl) rfl
theorem qs124 : (Cond.selects "VisitingHoursModel" ⟨"VisitingHoursModel", "wants", "(IIZ)I"⟩ ⟨"VisitingHoursModel", "wants", "(IIZ)I"⟩) ∈ lw_all := lw_g (lw_at lw_ms 124 rfl) rfl
theorem qs125 : (Cond.selects "VisitingHoursModel" ⟨"VisitingHoursModel", "hostRather", "(III)Z"⟩ ⟨"VisitingHoursModel", "hostRather", "(III)Z"⟩) ∈ lw_all := lw_g (lw_at lw_ms 125 rfl) rfl
theorem qs126 : (Cond.selects "VisitingHoursModel" ⟨"VisitingHoursModel", "guestRather", "(III)Z"⟩ ⟨"VisitingHoursModel", "guestRather", "(III)Z"⟩) ∈ lw_all := lw_g (lw_at lw_ms 126 rfl) rfl
theorem qs127 : (Cond.selects "VisitingHoursModel" ⟨"VisitingHoursModel", "asked", "(IIZ)V"⟩ ⟨"VisitingHoursModel", "asked", "(IIZ)V"⟩) ∈ lw_all := lw_g (lw_at lw_ms 127 rfl) rfl
theorem qs128 : (Cond.selects "VisitingHoursModel" ⟨"VisitingHoursModel", "isWay", "(III)Z"⟩ ⟨"VisitingHoursModel", "isWay", "(III)Z"⟩) ∈ lw_all := lw_g (lw_at lw_ms 128 rfl) rfl
theorem qs129 : (Cond.selects "VisitingHoursModel" ⟨"VisitingHoursModel", "rathers", "()I"⟩ ⟨"VisitingHoursModel", "rathers", "()I"⟩) ∈ lw_all := lw_g (lw_at lw_ms 129 rfl) rfl
theorem qs130 : (Cond.selects "VisitingHoursModel" ⟨"VisitingHoursModel", "rowsOf", "(II)V"⟩ ⟨"VisitingHoursModel", "rowsOf", "(II)V"⟩) ∈ lw_all := lw_g (lw_at lw_ms 130 rfl) rfl
theorem qs131 : (Cond.selects "VisitingHoursModel" ⟨"VisitingHoursModel", "fitsFrom", "(III)Z"⟩ ⟨"VisitingHoursModel", "fitsFrom", "(III)Z"⟩) ∈ lw_all := lw_g (lw_at lw_ms 131 rfl) rfl
theorem qs132 : (Cond.selects "VisitingHoursModel" ⟨"VisitingHoursModel", "fills", "(IIII)V"⟩ ⟨"VisitingHoursModel", "fills", "(IIII)V"⟩) ∈ lw_all := lw_g (lw_at lw_ms 132 rfl) rfl
theorem qs133 : (Cond.selects "VisitingHoursModel" ⟨"VisitingHoursModel", "brings", "(IIII)I"⟩ ⟨"VisitingHoursModel", "brings", "(IIII)I"⟩) ∈ lw_all := lw_g (lw_at lw_ms 133 rfl) rfl
theorem qs134 : (Cond.selects "VisitingHoursModel" ⟨"VisitingHoursModel", "firstOf", "(IIII)I"⟩ ⟨"VisitingHoursModel", "firstOf", "(IIII)I"⟩) ∈ lw_all := lw_g (lw_at lw_ms 134 rfl) rfl
theorem qs135 : (Cond.selects "VisitingHoursModel" ⟨"VisitingHoursModel", "heard", "()I"⟩ ⟨"VisitingHoursModel", "heard", "()I"⟩) ∈ lw_all := lw_g (lw_at lw_ms 135 rfl) rfl
theorem qs136 : (Cond.selects "VisitingHoursModel" ⟨"VisitingHoursModel", "wrongBy", "(II)I"⟩ ⟨"VisitingHoursModel", "wrongBy", "(II)I"⟩) ∈ lw_all := lw_g (lw_at lw_ms 136 rfl) rfl
theorem qs137 : (Cond.selects "VisitingHoursModel" ⟨"VisitingHoursModel", "meetsIn", "(I)I"⟩ ⟨"VisitingHoursModel", "meetsIn", "(I)I"⟩) ∈ lw_all := lw_g (lw_at lw_ms 137 rfl) rfl
theorem qs138 : (Cond.selects "VisitingHoursModel" ⟨"VisitingHoursModel", "hasBy", "(II)I"⟩ ⟨"VisitingHoursModel", "hasBy", "(II)I"⟩) ∈ lw_all := lw_g (lw_at lw_ms 138 rfl) rfl
theorem qs139 : (Cond.selects "VisitingHoursModel" ⟨"VisitingHoursModel", "comerHas", "(IIII)I"⟩ ⟨"VisitingHoursModel", "comerHas", "(IIII)I"⟩) ∈ lw_all := lw_g (lw_at lw_ms 139 rfl) rfl
theorem qs140 : (Cond.selects "VisitingHoursModel" ⟨"VisitingHoursModel", "areAlike", "(II)Z"⟩ ⟨"VisitingHoursModel", "areAlike", "(II)Z"⟩) ∈ lw_all := lw_g (lw_at lw_ms 140 rfl) rfl
theorem qs141 : (Cond.selects "VisitingHoursModel" ⟨"VisitingHoursModel", "logged", "(II)I"⟩ ⟨"VisitingHoursModel", "logged", "(II)I"⟩) ∈ lw_all := lw_g (lw_at lw_ms 141 rfl) rfl
theorem qs142 : (Cond.selects "VisitingHoursModel" ⟨"VisitingHoursModel", "bookings", "()I"⟩ ⟨"VisitingHoursModel", "bookings", "()I"⟩) ∈ lw_all := lw_g (lw_at lw_ms 142 rfl) rfl
-- ===== end of PART A; then your names; then what follows =====
/-! DECODE ROWS BY BYTES: one lemma an opcode; a method's code is cut into short pieces once, and a row reads its own piece alone. -/
set_option maxRecDepth 100000
/-- the code has just these bytes from pc on -/
def DkAt (code : ByteArray) (pc : Nat) (bs : List UInt8) : Prop := ∀ (j : Nat) (b : UInt8), bs[j]? = some b → code.data.toList[pc + j]? = some b
/-- the piece W has the bytes bs from its place j on -/
def dkIn (W : List UInt8) (j : Nat) (bs : List UInt8) : Bool := decide ((W.drop j).take bs.length = bs)
theorem dk_seg {l W T : List UInt8} {o o2 : Nat} (h : l.drop o = W ++ T) (n : Nat) (hn : W.length = n) (ho : o + n = o2) : l.drop o2 = T := by
  subst ho
  rw [← List.drop_drop, h, List.drop_left' hn]
theorem dk_at {code : ByteArray} {W T bs : List UInt8} {o pc : Nat} (h : code.data.toList.drop o = W ++ T) (j : Nat) (hp : o + j = pc) (hw : dkIn W j bs = true) : DkAt code pc bs := by
  subst hp
  intro i b e
  have h1 := of_decide_eq_true hw
  have h2 : i < bs.length := (List.getElem?_eq_some_iff.mp e).1
  have h3 : W[j + i]? = some b := by
    rw [← h1, List.getElem?_take, if_pos h2, List.getElem?_drop] at e
    exact e
  have h4 : j + i < W.length := (List.getElem?_eq_some_iff.mp h3).1
  have h5 : (code.data.toList.drop o)[j + i]? = some b := by
    rw [h, List.getElem?_append_left h4]
    exact h3
  rw [List.getElem?_drop, ← Nat.add_assoc] at h5
  exact h5
theorem dk_u1 {A : ByteArray} {p : Nat} {b : UInt8} (h : A.data.toList[p]? = some b) : (Reader.u1 : Reader DecodeError Nat) A p = .ok (b.toNat, p + 1) := by
  obtain ⟨h1, h2⟩ := List.getElem?_eq_some_iff.mp h
  have h3 : p < A.size := by simpa using h1
  have h4 : A[p]'h3 = b := h2
  have e : (Reader.u1 : Reader DecodeError Nat) A p = (if h : p < A.size then .ok (A[p].toNat, p + 1) else .error (HasTruncated.truncated p)) := by
    show (do if h : p < A.size then do set (p + 1); Pure.pure A[p].toNat else MonadExcept.throw (HasTruncated.truncated p) : Reader DecodeError Nat) A p = _
    by_cases hi : p < A.size
    · rw [dif_pos hi, dif_pos hi]; rfl
    · rw [dif_neg hi, dif_neg hi]; rfl
  rw [e, dif_pos h3, h4]
theorem dk_bind {α β : Type} {r : Reader DecodeError α} {f : α → Reader DecodeError β} {A : ByteArray} {p s : Nat} {a : α} (h : r A p = .ok (a, s)) : (r >>= f) A p = f a A s := by
  show (do let (a, s) ← r A p; f a A s : Except DecodeError (β × Nat)) = _
  rw [h]
  rfl
theorem dk_map {α β : Type} {r : Reader DecodeError α} {g : α → β} {A : ByteArray} {p s : Nat} {a : α} (h : r A p = .ok (a, s)) : (g <$> r) A p = .ok (g a, s) := by
  show (do let (a, s) ← r A p; .ok (g a, s) : Except DecodeError (β × Nat)) = _
  rw [h]
  rfl
theorem dk_u2 {A : ByteArray} {p : Nat} {a b : UInt8} (h : A.data.toList[p]? = some a) (h2 : A.data.toList[p + 1]? = some b) : (Reader.u2 : Reader DecodeError Nat) A p = .ok (a.toNat * 256 + b.toNat, p + 2) := by
  show (Reader.u1 >>= fun hi => Reader.u1 >>= fun lo => Pure.pure (hi * 256 + lo) : Reader DecodeError Nat) A p = _
  rw [dk_bind (dk_u1 h), dk_bind (dk_u1 h2)]
  rfl
theorem dk_of {code : ByteArray} {pc n : Nat} {i : Instr} (h : Decoder.instr pc code pc = .ok (i, pc + n)) : decode code pc = .ok (i, n) := by
  have e : decode code pc = (match Decoder.instr pc code pc with | .error x => .error x | .ok (j, s) => .ok (j, s - pc)) := by
    show (do let (j, s) ← Decoder.instr pc code pc; Pure.pure (j, s - pc) : Except DecodeError (Instr × Nat)) = _
    cases Decoder.instr pc code pc <;> rfl
  rw [e, h]
  show Except.ok (i, pc + n - pc) = _
  rw [Nat.add_sub_cancel_left]
theorem dk_1 {code : ByteArray} {pc : Nat} (h : DkAt code pc [1]) : decode code pc = .ok (.aconst_null, 1) := dk_of ((dk_bind (dk_u1 (h 0 _ rfl))).trans rfl)
theorem dk_2 {code : ByteArray} {pc : Nat} (h : DkAt code pc [2]) : decode code pc = .ok (.iconst (-1), 1) := dk_of ((dk_bind (dk_u1 (h 0 _ rfl))).trans rfl)
theorem dk_3 {code : ByteArray} {pc : Nat} (h : DkAt code pc [3]) : decode code pc = .ok (.iconst 0, 1) := dk_of ((dk_bind (dk_u1 (h 0 _ rfl))).trans rfl)
theorem dk_4 {code : ByteArray} {pc : Nat} (h : DkAt code pc [4]) : decode code pc = .ok (.iconst 1, 1) := dk_of ((dk_bind (dk_u1 (h 0 _ rfl))).trans rfl)
theorem dk_5 {code : ByteArray} {pc : Nat} (h : DkAt code pc [5]) : decode code pc = .ok (.iconst 2, 1) := dk_of ((dk_bind (dk_u1 (h 0 _ rfl))).trans rfl)
theorem dk_6 {code : ByteArray} {pc : Nat} (h : DkAt code pc [6]) : decode code pc = .ok (.iconst 3, 1) := dk_of ((dk_bind (dk_u1 (h 0 _ rfl))).trans rfl)
theorem dk_7 {code : ByteArray} {pc : Nat} (h : DkAt code pc [7]) : decode code pc = .ok (.iconst 4, 1) := dk_of ((dk_bind (dk_u1 (h 0 _ rfl))).trans rfl)
theorem dk_8 {code : ByteArray} {pc : Nat} (h : DkAt code pc [8]) : decode code pc = .ok (.iconst 5, 1) := dk_of ((dk_bind (dk_u1 (h 0 _ rfl))).trans rfl)
theorem dk_9 {code : ByteArray} {pc : Nat} (h : DkAt code pc [9]) : decode code pc = .ok (.lconst 0, 1) := dk_of ((dk_bind (dk_u1 (h 0 _ rfl))).trans rfl)
theorem dk_10 {code : ByteArray} {pc : Nat} (h : DkAt code pc [10]) : decode code pc = .ok (.lconst 1, 1) := dk_of ((dk_bind (dk_u1 (h 0 _ rfl))).trans rfl)
theorem dk_16 {code : ByteArray} {pc : Nat} (a : UInt8) (h : DkAt code pc [16, a]) : decode code pc = .ok (.bipush (Reader.signed 8 a.toNat), 2) := dk_of ((dk_bind (dk_u1 (h 0 _ rfl))).trans ((dk_bind (dk_map (dk_u1 (h 1 _ rfl)))).trans rfl))
theorem dk_17 {code : ByteArray} {pc : Nat} (a b : UInt8) (h : DkAt code pc [17, a, b]) : decode code pc = .ok (.sipush (Reader.signed 16 (a.toNat * 256 + b.toNat)), 3) := dk_of ((dk_bind (dk_u1 (h 0 _ rfl))).trans ((dk_bind (dk_map (dk_u2 (h 1 _ rfl) (h 2 _ rfl)))).trans rfl))
theorem dk_18 {code : ByteArray} {pc : Nat} (a : UInt8) (h : DkAt code pc [18, a]) : decode code pc = .ok (.ldc a.toNat, 2) := dk_of ((dk_bind (dk_u1 (h 0 _ rfl))).trans ((dk_bind (dk_u1 (h 1 _ rfl))).trans rfl))
theorem dk_19 {code : ByteArray} {pc : Nat} (a b : UInt8) (h : DkAt code pc [19, a, b]) : decode code pc = .ok (.ldc_w (a.toNat * 256 + b.toNat), 3) := dk_of ((dk_bind (dk_u1 (h 0 _ rfl))).trans ((dk_bind (dk_u2 (h 1 _ rfl) (h 2 _ rfl))).trans rfl))
theorem dk_20 {code : ByteArray} {pc : Nat} (a b : UInt8) (h : DkAt code pc [20, a, b]) : decode code pc = .ok (.ldc2_w (a.toNat * 256 + b.toNat), 3) := dk_of ((dk_bind (dk_u1 (h 0 _ rfl))).trans ((dk_bind (dk_u2 (h 1 _ rfl) (h 2 _ rfl))).trans rfl))
theorem dk_21 {code : ByteArray} {pc : Nat} (a : UInt8) (h : DkAt code pc [21, a]) : decode code pc = .ok (.iload a.toNat, 2) := dk_of ((dk_bind (dk_u1 (h 0 _ rfl))).trans ((dk_bind (dk_u1 (h 1 _ rfl))).trans rfl))
theorem dk_22 {code : ByteArray} {pc : Nat} (a : UInt8) (h : DkAt code pc [22, a]) : decode code pc = .ok (.lload a.toNat, 2) := dk_of ((dk_bind (dk_u1 (h 0 _ rfl))).trans ((dk_bind (dk_u1 (h 1 _ rfl))).trans rfl))
theorem dk_25 {code : ByteArray} {pc : Nat} (a : UInt8) (h : DkAt code pc [25, a]) : decode code pc = .ok (.aload a.toNat, 2) := dk_of ((dk_bind (dk_u1 (h 0 _ rfl))).trans ((dk_bind (dk_u1 (h 1 _ rfl))).trans rfl))
theorem dk_26 {code : ByteArray} {pc : Nat} (h : DkAt code pc [26]) : decode code pc = .ok (.iload_n 0, 1) := dk_of ((dk_bind (dk_u1 (h 0 _ rfl))).trans rfl)
theorem dk_27 {code : ByteArray} {pc : Nat} (h : DkAt code pc [27]) : decode code pc = .ok (.iload_n 1, 1) := dk_of ((dk_bind (dk_u1 (h 0 _ rfl))).trans rfl)
theorem dk_28 {code : ByteArray} {pc : Nat} (h : DkAt code pc [28]) : decode code pc = .ok (.iload_n 2, 1) := dk_of ((dk_bind (dk_u1 (h 0 _ rfl))).trans rfl)
theorem dk_29 {code : ByteArray} {pc : Nat} (h : DkAt code pc [29]) : decode code pc = .ok (.iload_n 3, 1) := dk_of ((dk_bind (dk_u1 (h 0 _ rfl))).trans rfl)
theorem dk_30 {code : ByteArray} {pc : Nat} (h : DkAt code pc [30]) : decode code pc = .ok (.lload_n 0, 1) := dk_of ((dk_bind (dk_u1 (h 0 _ rfl))).trans rfl)
theorem dk_32 {code : ByteArray} {pc : Nat} (h : DkAt code pc [32]) : decode code pc = .ok (.lload_n 2, 1) := dk_of ((dk_bind (dk_u1 (h 0 _ rfl))).trans rfl)
theorem dk_33 {code : ByteArray} {pc : Nat} (h : DkAt code pc [33]) : decode code pc = .ok (.lload_n 3, 1) := dk_of ((dk_bind (dk_u1 (h 0 _ rfl))).trans rfl)
theorem dk_42 {code : ByteArray} {pc : Nat} (h : DkAt code pc [42]) : decode code pc = .ok (.aload_n 0, 1) := dk_of ((dk_bind (dk_u1 (h 0 _ rfl))).trans rfl)
theorem dk_43 {code : ByteArray} {pc : Nat} (h : DkAt code pc [43]) : decode code pc = .ok (.aload_n 1, 1) := dk_of ((dk_bind (dk_u1 (h 0 _ rfl))).trans rfl)
theorem dk_44 {code : ByteArray} {pc : Nat} (h : DkAt code pc [44]) : decode code pc = .ok (.aload_n 2, 1) := dk_of ((dk_bind (dk_u1 (h 0 _ rfl))).trans rfl)
theorem dk_45 {code : ByteArray} {pc : Nat} (h : DkAt code pc [45]) : decode code pc = .ok (.aload_n 3, 1) := dk_of ((dk_bind (dk_u1 (h 0 _ rfl))).trans rfl)
theorem dk_46 {code : ByteArray} {pc : Nat} (h : DkAt code pc [46]) : decode code pc = .ok (.iaload, 1) := dk_of ((dk_bind (dk_u1 (h 0 _ rfl))).trans rfl)
theorem dk_47 {code : ByteArray} {pc : Nat} (h : DkAt code pc [47]) : decode code pc = .ok (.laload, 1) := dk_of ((dk_bind (dk_u1 (h 0 _ rfl))).trans rfl)
theorem dk_50 {code : ByteArray} {pc : Nat} (h : DkAt code pc [50]) : decode code pc = .ok (.aaload, 1) := dk_of ((dk_bind (dk_u1 (h 0 _ rfl))).trans rfl)
theorem dk_51 {code : ByteArray} {pc : Nat} (h : DkAt code pc [51]) : decode code pc = .ok (.baload, 1) := dk_of ((dk_bind (dk_u1 (h 0 _ rfl))).trans rfl)
theorem dk_52 {code : ByteArray} {pc : Nat} (h : DkAt code pc [52]) : decode code pc = .ok (.caload, 1) := dk_of ((dk_bind (dk_u1 (h 0 _ rfl))).trans rfl)
theorem dk_53 {code : ByteArray} {pc : Nat} (h : DkAt code pc [53]) : decode code pc = .ok (.saload, 1) := dk_of ((dk_bind (dk_u1 (h 0 _ rfl))).trans rfl)
theorem dk_54 {code : ByteArray} {pc : Nat} (a : UInt8) (h : DkAt code pc [54, a]) : decode code pc = .ok (.istore a.toNat, 2) := dk_of ((dk_bind (dk_u1 (h 0 _ rfl))).trans ((dk_bind (dk_u1 (h 1 _ rfl))).trans rfl))
theorem dk_55 {code : ByteArray} {pc : Nat} (a : UInt8) (h : DkAt code pc [55, a]) : decode code pc = .ok (.lstore a.toNat, 2) := dk_of ((dk_bind (dk_u1 (h 0 _ rfl))).trans ((dk_bind (dk_u1 (h 1 _ rfl))).trans rfl))
theorem dk_58 {code : ByteArray} {pc : Nat} (a : UInt8) (h : DkAt code pc [58, a]) : decode code pc = .ok (.astore a.toNat, 2) := dk_of ((dk_bind (dk_u1 (h 0 _ rfl))).trans ((dk_bind (dk_u1 (h 1 _ rfl))).trans rfl))
theorem dk_59 {code : ByteArray} {pc : Nat} (h : DkAt code pc [59]) : decode code pc = .ok (.istore_n 0, 1) := dk_of ((dk_bind (dk_u1 (h 0 _ rfl))).trans rfl)
theorem dk_60 {code : ByteArray} {pc : Nat} (h : DkAt code pc [60]) : decode code pc = .ok (.istore_n 1, 1) := dk_of ((dk_bind (dk_u1 (h 0 _ rfl))).trans rfl)
theorem dk_61 {code : ByteArray} {pc : Nat} (h : DkAt code pc [61]) : decode code pc = .ok (.istore_n 2, 1) := dk_of ((dk_bind (dk_u1 (h 0 _ rfl))).trans rfl)
theorem dk_62 {code : ByteArray} {pc : Nat} (h : DkAt code pc [62]) : decode code pc = .ok (.istore_n 3, 1) := dk_of ((dk_bind (dk_u1 (h 0 _ rfl))).trans rfl)
theorem dk_65 {code : ByteArray} {pc : Nat} (h : DkAt code pc [65]) : decode code pc = .ok (.lstore_n 2, 1) := dk_of ((dk_bind (dk_u1 (h 0 _ rfl))).trans rfl)
theorem dk_66 {code : ByteArray} {pc : Nat} (h : DkAt code pc [66]) : decode code pc = .ok (.lstore_n 3, 1) := dk_of ((dk_bind (dk_u1 (h 0 _ rfl))).trans rfl)
theorem dk_76 {code : ByteArray} {pc : Nat} (h : DkAt code pc [76]) : decode code pc = .ok (.astore_n 1, 1) := dk_of ((dk_bind (dk_u1 (h 0 _ rfl))).trans rfl)
theorem dk_77 {code : ByteArray} {pc : Nat} (h : DkAt code pc [77]) : decode code pc = .ok (.astore_n 2, 1) := dk_of ((dk_bind (dk_u1 (h 0 _ rfl))).trans rfl)
theorem dk_78 {code : ByteArray} {pc : Nat} (h : DkAt code pc [78]) : decode code pc = .ok (.astore_n 3, 1) := dk_of ((dk_bind (dk_u1 (h 0 _ rfl))).trans rfl)
theorem dk_79 {code : ByteArray} {pc : Nat} (h : DkAt code pc [79]) : decode code pc = .ok (.iastore, 1) := dk_of ((dk_bind (dk_u1 (h 0 _ rfl))).trans rfl)
theorem dk_80 {code : ByteArray} {pc : Nat} (h : DkAt code pc [80]) : decode code pc = .ok (.lastore, 1) := dk_of ((dk_bind (dk_u1 (h 0 _ rfl))).trans rfl)
theorem dk_83 {code : ByteArray} {pc : Nat} (h : DkAt code pc [83]) : decode code pc = .ok (.aastore, 1) := dk_of ((dk_bind (dk_u1 (h 0 _ rfl))).trans rfl)
theorem dk_84 {code : ByteArray} {pc : Nat} (h : DkAt code pc [84]) : decode code pc = .ok (.bastore, 1) := dk_of ((dk_bind (dk_u1 (h 0 _ rfl))).trans rfl)
theorem dk_87 {code : ByteArray} {pc : Nat} (h : DkAt code pc [87]) : decode code pc = .ok (.pop, 1) := dk_of ((dk_bind (dk_u1 (h 0 _ rfl))).trans rfl)
theorem dk_89 {code : ByteArray} {pc : Nat} (h : DkAt code pc [89]) : decode code pc = .ok (.dup, 1) := dk_of ((dk_bind (dk_u1 (h 0 _ rfl))).trans rfl)
theorem dk_90 {code : ByteArray} {pc : Nat} (h : DkAt code pc [90]) : decode code pc = .ok (.dup_x1, 1) := dk_of ((dk_bind (dk_u1 (h 0 _ rfl))).trans rfl)
theorem dk_92 {code : ByteArray} {pc : Nat} (h : DkAt code pc [92]) : decode code pc = .ok (.dup2, 1) := dk_of ((dk_bind (dk_u1 (h 0 _ rfl))).trans rfl)
theorem dk_96 {code : ByteArray} {pc : Nat} (h : DkAt code pc [96]) : decode code pc = .ok (.iadd, 1) := dk_of ((dk_bind (dk_u1 (h 0 _ rfl))).trans rfl)
theorem dk_97 {code : ByteArray} {pc : Nat} (h : DkAt code pc [97]) : decode code pc = .ok (.ladd, 1) := dk_of ((dk_bind (dk_u1 (h 0 _ rfl))).trans rfl)
theorem dk_100 {code : ByteArray} {pc : Nat} (h : DkAt code pc [100]) : decode code pc = .ok (.isub, 1) := dk_of ((dk_bind (dk_u1 (h 0 _ rfl))).trans rfl)
theorem dk_101 {code : ByteArray} {pc : Nat} (h : DkAt code pc [101]) : decode code pc = .ok (.lsub, 1) := dk_of ((dk_bind (dk_u1 (h 0 _ rfl))).trans rfl)
theorem dk_104 {code : ByteArray} {pc : Nat} (h : DkAt code pc [104]) : decode code pc = .ok (.imul, 1) := dk_of ((dk_bind (dk_u1 (h 0 _ rfl))).trans rfl)
theorem dk_105 {code : ByteArray} {pc : Nat} (h : DkAt code pc [105]) : decode code pc = .ok (.lmul, 1) := dk_of ((dk_bind (dk_u1 (h 0 _ rfl))).trans rfl)
theorem dk_108 {code : ByteArray} {pc : Nat} (h : DkAt code pc [108]) : decode code pc = .ok (.idiv, 1) := dk_of ((dk_bind (dk_u1 (h 0 _ rfl))).trans rfl)
theorem dk_109 {code : ByteArray} {pc : Nat} (h : DkAt code pc [109]) : decode code pc = .ok (.ldiv, 1) := dk_of ((dk_bind (dk_u1 (h 0 _ rfl))).trans rfl)
theorem dk_112 {code : ByteArray} {pc : Nat} (h : DkAt code pc [112]) : decode code pc = .ok (.irem, 1) := dk_of ((dk_bind (dk_u1 (h 0 _ rfl))).trans rfl)
theorem dk_113 {code : ByteArray} {pc : Nat} (h : DkAt code pc [113]) : decode code pc = .ok (.lrem, 1) := dk_of ((dk_bind (dk_u1 (h 0 _ rfl))).trans rfl)
theorem dk_116 {code : ByteArray} {pc : Nat} (h : DkAt code pc [116]) : decode code pc = .ok (.ineg, 1) := dk_of ((dk_bind (dk_u1 (h 0 _ rfl))).trans rfl)
theorem dk_120 {code : ByteArray} {pc : Nat} (h : DkAt code pc [120]) : decode code pc = .ok (.ishl, 1) := dk_of ((dk_bind (dk_u1 (h 0 _ rfl))).trans rfl)
theorem dk_122 {code : ByteArray} {pc : Nat} (h : DkAt code pc [122]) : decode code pc = .ok (.ishr, 1) := dk_of ((dk_bind (dk_u1 (h 0 _ rfl))).trans rfl)
theorem dk_124 {code : ByteArray} {pc : Nat} (h : DkAt code pc [124]) : decode code pc = .ok (.iushr, 1) := dk_of ((dk_bind (dk_u1 (h 0 _ rfl))).trans rfl)
theorem dk_126 {code : ByteArray} {pc : Nat} (h : DkAt code pc [126]) : decode code pc = .ok (.iand, 1) := dk_of ((dk_bind (dk_u1 (h 0 _ rfl))).trans rfl)
theorem dk_128 {code : ByteArray} {pc : Nat} (h : DkAt code pc [128]) : decode code pc = .ok (.ior, 1) := dk_of ((dk_bind (dk_u1 (h 0 _ rfl))).trans rfl)
theorem dk_130 {code : ByteArray} {pc : Nat} (h : DkAt code pc [130]) : decode code pc = .ok (.ixor, 1) := dk_of ((dk_bind (dk_u1 (h 0 _ rfl))).trans rfl)
theorem dk_132 {code : ByteArray} {pc : Nat} (a b : UInt8) (h : DkAt code pc [132, a, b]) : decode code pc = .ok (.iinc a.toNat (Reader.signed 8 b.toNat), 3) := dk_of ((dk_bind (dk_u1 (h 0 _ rfl))).trans ((dk_bind (dk_u1 (h 1 _ rfl))).trans ((dk_bind (dk_map (dk_u1 (h 2 _ rfl)))).trans rfl)))
theorem dk_133 {code : ByteArray} {pc : Nat} (h : DkAt code pc [133]) : decode code pc = .ok (.i2l, 1) := dk_of ((dk_bind (dk_u1 (h 0 _ rfl))).trans rfl)
theorem dk_136 {code : ByteArray} {pc : Nat} (h : DkAt code pc [136]) : decode code pc = .ok (.l2i, 1) := dk_of ((dk_bind (dk_u1 (h 0 _ rfl))).trans rfl)
theorem dk_145 {code : ByteArray} {pc : Nat} (h : DkAt code pc [145]) : decode code pc = .ok (.i2b, 1) := dk_of ((dk_bind (dk_u1 (h 0 _ rfl))).trans rfl)
theorem dk_146 {code : ByteArray} {pc : Nat} (h : DkAt code pc [146]) : decode code pc = .ok (.i2c, 1) := dk_of ((dk_bind (dk_u1 (h 0 _ rfl))).trans rfl)
theorem dk_148 {code : ByteArray} {pc : Nat} (h : DkAt code pc [148]) : decode code pc = .ok (.lcmp, 1) := dk_of ((dk_bind (dk_u1 (h 0 _ rfl))).trans rfl)
theorem dk_153 {code : ByteArray} {pc : Nat} (a b : UInt8) (h : DkAt code pc [153, a, b]) : decode code pc = .ok (.ifCond .eq (Reader.signed 16 (a.toNat * 256 + b.toNat)), 3) := dk_of ((dk_bind (dk_u1 (h 0 _ rfl))).trans ((dk_bind (dk_map (dk_u2 (h 1 _ rfl) (h 2 _ rfl)))).trans rfl))
theorem dk_154 {code : ByteArray} {pc : Nat} (a b : UInt8) (h : DkAt code pc [154, a, b]) : decode code pc = .ok (.ifCond .ne (Reader.signed 16 (a.toNat * 256 + b.toNat)), 3) := dk_of ((dk_bind (dk_u1 (h 0 _ rfl))).trans ((dk_bind (dk_map (dk_u2 (h 1 _ rfl) (h 2 _ rfl)))).trans rfl))
theorem dk_155 {code : ByteArray} {pc : Nat} (a b : UInt8) (h : DkAt code pc [155, a, b]) : decode code pc = .ok (.ifCond .lt (Reader.signed 16 (a.toNat * 256 + b.toNat)), 3) := dk_of ((dk_bind (dk_u1 (h 0 _ rfl))).trans ((dk_bind (dk_map (dk_u2 (h 1 _ rfl) (h 2 _ rfl)))).trans rfl))
theorem dk_156 {code : ByteArray} {pc : Nat} (a b : UInt8) (h : DkAt code pc [156, a, b]) : decode code pc = .ok (.ifCond .ge (Reader.signed 16 (a.toNat * 256 + b.toNat)), 3) := dk_of ((dk_bind (dk_u1 (h 0 _ rfl))).trans ((dk_bind (dk_map (dk_u2 (h 1 _ rfl) (h 2 _ rfl)))).trans rfl))
theorem dk_157 {code : ByteArray} {pc : Nat} (a b : UInt8) (h : DkAt code pc [157, a, b]) : decode code pc = .ok (.ifCond .gt (Reader.signed 16 (a.toNat * 256 + b.toNat)), 3) := dk_of ((dk_bind (dk_u1 (h 0 _ rfl))).trans ((dk_bind (dk_map (dk_u2 (h 1 _ rfl) (h 2 _ rfl)))).trans rfl))
theorem dk_158 {code : ByteArray} {pc : Nat} (a b : UInt8) (h : DkAt code pc [158, a, b]) : decode code pc = .ok (.ifCond .le (Reader.signed 16 (a.toNat * 256 + b.toNat)), 3) := dk_of ((dk_bind (dk_u1 (h 0 _ rfl))).trans ((dk_bind (dk_map (dk_u2 (h 1 _ rfl) (h 2 _ rfl)))).trans rfl))
theorem dk_159 {code : ByteArray} {pc : Nat} (a b : UInt8) (h : DkAt code pc [159, a, b]) : decode code pc = .ok (.if_icmp .eq (Reader.signed 16 (a.toNat * 256 + b.toNat)), 3) := dk_of ((dk_bind (dk_u1 (h 0 _ rfl))).trans ((dk_bind (dk_map (dk_u2 (h 1 _ rfl) (h 2 _ rfl)))).trans rfl))
theorem dk_160 {code : ByteArray} {pc : Nat} (a b : UInt8) (h : DkAt code pc [160, a, b]) : decode code pc = .ok (.if_icmp .ne (Reader.signed 16 (a.toNat * 256 + b.toNat)), 3) := dk_of ((dk_bind (dk_u1 (h 0 _ rfl))).trans ((dk_bind (dk_map (dk_u2 (h 1 _ rfl) (h 2 _ rfl)))).trans rfl))
theorem dk_161 {code : ByteArray} {pc : Nat} (a b : UInt8) (h : DkAt code pc [161, a, b]) : decode code pc = .ok (.if_icmp .lt (Reader.signed 16 (a.toNat * 256 + b.toNat)), 3) := dk_of ((dk_bind (dk_u1 (h 0 _ rfl))).trans ((dk_bind (dk_map (dk_u2 (h 1 _ rfl) (h 2 _ rfl)))).trans rfl))
theorem dk_162 {code : ByteArray} {pc : Nat} (a b : UInt8) (h : DkAt code pc [162, a, b]) : decode code pc = .ok (.if_icmp .ge (Reader.signed 16 (a.toNat * 256 + b.toNat)), 3) := dk_of ((dk_bind (dk_u1 (h 0 _ rfl))).trans ((dk_bind (dk_map (dk_u2 (h 1 _ rfl) (h 2 _ rfl)))).trans rfl))
theorem dk_163 {code : ByteArray} {pc : Nat} (a b : UInt8) (h : DkAt code pc [163, a, b]) : decode code pc = .ok (.if_icmp .gt (Reader.signed 16 (a.toNat * 256 + b.toNat)), 3) := dk_of ((dk_bind (dk_u1 (h 0 _ rfl))).trans ((dk_bind (dk_map (dk_u2 (h 1 _ rfl) (h 2 _ rfl)))).trans rfl))
theorem dk_164 {code : ByteArray} {pc : Nat} (a b : UInt8) (h : DkAt code pc [164, a, b]) : decode code pc = .ok (.if_icmp .le (Reader.signed 16 (a.toNat * 256 + b.toNat)), 3) := dk_of ((dk_bind (dk_u1 (h 0 _ rfl))).trans ((dk_bind (dk_map (dk_u2 (h 1 _ rfl) (h 2 _ rfl)))).trans rfl))
theorem dk_165 {code : ByteArray} {pc : Nat} (a b : UInt8) (h : DkAt code pc [165, a, b]) : decode code pc = .ok (.if_acmp .eq (Reader.signed 16 (a.toNat * 256 + b.toNat)), 3) := dk_of ((dk_bind (dk_u1 (h 0 _ rfl))).trans ((dk_bind (dk_map (dk_u2 (h 1 _ rfl) (h 2 _ rfl)))).trans rfl))
theorem dk_166 {code : ByteArray} {pc : Nat} (a b : UInt8) (h : DkAt code pc [166, a, b]) : decode code pc = .ok (.if_acmp .ne (Reader.signed 16 (a.toNat * 256 + b.toNat)), 3) := dk_of ((dk_bind (dk_u1 (h 0 _ rfl))).trans ((dk_bind (dk_map (dk_u2 (h 1 _ rfl) (h 2 _ rfl)))).trans rfl))
theorem dk_167 {code : ByteArray} {pc : Nat} (a b : UInt8) (h : DkAt code pc [167, a, b]) : decode code pc = .ok (.goto (Reader.signed 16 (a.toNat * 256 + b.toNat)), 3) := dk_of ((dk_bind (dk_u1 (h 0 _ rfl))).trans ((dk_bind (dk_map (dk_u2 (h 1 _ rfl) (h 2 _ rfl)))).trans rfl))
theorem dk_172 {code : ByteArray} {pc : Nat} (h : DkAt code pc [172]) : decode code pc = .ok (.ireturn, 1) := dk_of ((dk_bind (dk_u1 (h 0 _ rfl))).trans rfl)
theorem dk_173 {code : ByteArray} {pc : Nat} (h : DkAt code pc [173]) : decode code pc = .ok (.lreturn, 1) := dk_of ((dk_bind (dk_u1 (h 0 _ rfl))).trans rfl)
theorem dk_176 {code : ByteArray} {pc : Nat} (h : DkAt code pc [176]) : decode code pc = .ok (.areturn, 1) := dk_of ((dk_bind (dk_u1 (h 0 _ rfl))).trans rfl)
theorem dk_177 {code : ByteArray} {pc : Nat} (h : DkAt code pc [177]) : decode code pc = .ok (.return_, 1) := dk_of ((dk_bind (dk_u1 (h 0 _ rfl))).trans rfl)
theorem dk_178 {code : ByteArray} {pc : Nat} (a b : UInt8) (h : DkAt code pc [178, a, b]) : decode code pc = .ok (.getstatic (a.toNat * 256 + b.toNat), 3) := dk_of ((dk_bind (dk_u1 (h 0 _ rfl))).trans ((dk_bind (dk_u2 (h 1 _ rfl) (h 2 _ rfl))).trans rfl))
theorem dk_180 {code : ByteArray} {pc : Nat} (a b : UInt8) (h : DkAt code pc [180, a, b]) : decode code pc = .ok (.getfield (a.toNat * 256 + b.toNat), 3) := dk_of ((dk_bind (dk_u1 (h 0 _ rfl))).trans ((dk_bind (dk_u2 (h 1 _ rfl) (h 2 _ rfl))).trans rfl))
theorem dk_181 {code : ByteArray} {pc : Nat} (a b : UInt8) (h : DkAt code pc [181, a, b]) : decode code pc = .ok (.putfield (a.toNat * 256 + b.toNat), 3) := dk_of ((dk_bind (dk_u1 (h 0 _ rfl))).trans ((dk_bind (dk_u2 (h 1 _ rfl) (h 2 _ rfl))).trans rfl))
theorem dk_182 {code : ByteArray} {pc : Nat} (a b : UInt8) (h : DkAt code pc [182, a, b]) : decode code pc = .ok (.invokevirtual (a.toNat * 256 + b.toNat), 3) := dk_of ((dk_bind (dk_u1 (h 0 _ rfl))).trans ((dk_bind (dk_u2 (h 1 _ rfl) (h 2 _ rfl))).trans rfl))
theorem dk_183 {code : ByteArray} {pc : Nat} (a b : UInt8) (h : DkAt code pc [183, a, b]) : decode code pc = .ok (.invokespecial (a.toNat * 256 + b.toNat), 3) := dk_of ((dk_bind (dk_u1 (h 0 _ rfl))).trans ((dk_bind (dk_u2 (h 1 _ rfl) (h 2 _ rfl))).trans rfl))
theorem dk_184 {code : ByteArray} {pc : Nat} (a b : UInt8) (h : DkAt code pc [184, a, b]) : decode code pc = .ok (.invokestatic (a.toNat * 256 + b.toNat), 3) := dk_of ((dk_bind (dk_u1 (h 0 _ rfl))).trans ((dk_bind (dk_u2 (h 1 _ rfl) (h 2 _ rfl))).trans rfl))
theorem dk_187 {code : ByteArray} {pc : Nat} (a b : UInt8) (h : DkAt code pc [187, a, b]) : decode code pc = .ok (.new (a.toNat * 256 + b.toNat), 3) := dk_of ((dk_bind (dk_u1 (h 0 _ rfl))).trans ((dk_bind (dk_u2 (h 1 _ rfl) (h 2 _ rfl))).trans rfl))
theorem dk_188_4 {code : ByteArray} {pc : Nat} (h : DkAt code pc [188, 4]) : decode code pc = .ok (.newarray .boolean, 2) := dk_of ((dk_bind (dk_u1 (h 0 _ rfl))).trans ((dk_bind (dk_u1 (h 1 _ rfl))).trans rfl))
theorem dk_188_8 {code : ByteArray} {pc : Nat} (h : DkAt code pc [188, 8]) : decode code pc = .ok (.newarray .byte, 2) := dk_of ((dk_bind (dk_u1 (h 0 _ rfl))).trans ((dk_bind (dk_u1 (h 1 _ rfl))).trans rfl))
theorem dk_188_10 {code : ByteArray} {pc : Nat} (h : DkAt code pc [188, 10]) : decode code pc = .ok (.newarray .int, 2) := dk_of ((dk_bind (dk_u1 (h 0 _ rfl))).trans ((dk_bind (dk_u1 (h 1 _ rfl))).trans rfl))
theorem dk_188_11 {code : ByteArray} {pc : Nat} (h : DkAt code pc [188, 11]) : decode code pc = .ok (.newarray .long, 2) := dk_of ((dk_bind (dk_u1 (h 0 _ rfl))).trans ((dk_bind (dk_u1 (h 1 _ rfl))).trans rfl))
theorem dk_189 {code : ByteArray} {pc : Nat} (a b : UInt8) (h : DkAt code pc [189, a, b]) : decode code pc = .ok (.anewarray (a.toNat * 256 + b.toNat), 3) := dk_of ((dk_bind (dk_u1 (h 0 _ rfl))).trans ((dk_bind (dk_u2 (h 1 _ rfl) (h 2 _ rfl))).trans rfl))
theorem dk_190 {code : ByteArray} {pc : Nat} (h : DkAt code pc [190]) : decode code pc = .ok (.arraylength, 1) := dk_of ((dk_bind (dk_u1 (h 0 _ rfl))).trans rfl)
theorem dk_191 {code : ByteArray} {pc : Nat} (h : DkAt code pc [191]) : decode code pc = .ok (.athrow, 1) := dk_of ((dk_bind (dk_u1 (h 0 _ rfl))).trans rfl)
theorem dk_192 {code : ByteArray} {pc : Nat} (a b : UInt8) (h : DkAt code pc [192, a, b]) : decode code pc = .ok (.checkcast (a.toNat * 256 + b.toNat), 3) := dk_of ((dk_bind (dk_u1 (h 0 _ rfl))).trans ((dk_bind (dk_u2 (h 1 _ rfl) (h 2 _ rfl))).trans rfl))
theorem dk_193 {code : ByteArray} {pc : Nat} (a b : UInt8) (h : DkAt code pc [193, a, b]) : decode code pc = .ok (.instanceof (a.toNat * 256 + b.toNat), 3) := dk_of ((dk_bind (dk_u1 (h 0 _ rfl))).trans ((dk_bind (dk_u2 (h 1 _ rfl) (h 2 _ rfl))).trans rfl))
theorem dk_198 {code : ByteArray} {pc : Nat} (a b : UInt8) (h : DkAt code pc [198, a, b]) : decode code pc = .ok (.ifnull (Reader.signed 16 (a.toNat * 256 + b.toNat)), 3) := dk_of ((dk_bind (dk_u1 (h 0 _ rfl))).trans ((dk_bind (dk_map (dk_u2 (h 1 _ rfl) (h 2 _ rfl)))).trans rfl))
theorem dk_199 {code : ByteArray} {pc : Nat} (a b : UInt8) (h : DkAt code pc [199, a, b]) : decode code pc = .ok (.ifnonnull (Reader.signed 16 (a.toNat * 256 + b.toNat)), 3) := dk_of ((dk_bind (dk_u1 (h 0 _ rfl))).trans ((dk_bind (dk_map (dk_u2 (h 1 _ rfl) (h 2 _ rfl)))).trans rfl))
